def tw_decimal_l16_j27 (N : Nat) (h : Nat) (v1 : Int) (v3 : Int) (v5 : Int) (Kh : Int → Int → gMem → Option (Int × gMem)) (K : Int → gMem → Option (Int × gMem)) (s : gMem) : Option (Int × gMem) := if 0 ≤ (20 - (w32 (v5 + 1))) ∧ (20 - (w32 (v5 + 1))) < ((20 : Nat) : Int) then gLet (wI s (h + 37) (20 - (w32 (v5 + 1))).toNat (bByte (48 + (Int.tmod v3 10)))) (fun s1 => Kh (w64 (Int.tdiv v3 10)) (w32 (v5 + 1)) s1) else none
set_option maxRecDepth 100000 in
theorem okj_tw_decimal_l16_j27 {ω : gW} {l : Launch} {d : Nat} {N : Nat} {h : Nat} {σ0 : gMem} {s : gMem} {v1 : Int} {v3 : Int} {v5 : Int} {Kh : Int → Int → gMem → Option (Int × gMem)} {K : Int → gMem → Option (Int × gMem)} (hdp : 0 ≤ d) (hM : TM s h) (hv1 : g64 v1) (hv3 : g64 v3) (hv5 : g32 v5) (hKh : ∀ (v3 : Int) (v5 : Int) (s : gMem) , g64 v3 → g32 v5 → TM s h → GG (fun p : Int × gMem => (.inl (some (vI p.1)), p.2)) gTw ω l d mu_tw_decimal σ0 16 [(0, vR h), (1, vL v1), (3, vL v3), (5, vI v5)] [] s (Kh v3 v5 s)) (hK : ∀ (v5 : Int) (s : gMem) , g32 v5 → TM s h → GG (fun p : Int × gMem => (.inl (some (vI p.1)), p.2)) gTw ω l d mu_tw_decimal σ0 60 [(0, vR h), (1, vL v1), (5, vI v5)] [] s (K v5 s)) : GG (fun p : Int × gMem => (.inl (some (vI p.1)), p.2)) gTw ω l d mu_tw_decimal σ0 27 [(0, vR h), (1, vL v1), (3, vL v3), (5, vI v5)] [] s (tw_decimal_l16_j27 N h v1 v3 v5 Kh K s) := by
  unfold tw_decimal_l16_j27
  refine x_iincw (μ := mu_tw_decimal) (pc := 27) (lv' := [(5, vI (w32 (v5 + 1))), (0, vR h), (1, vL v1), (3, vL v3)]) 3 dX11_decimal_27 rfl (by decide) rfl ?_
  refine x_aload_n (μ := mu_tw_decimal) (pc := 30) 1 dX11_decimal_30 rfl ?_
  refine x_fgrE (μ := mu_tw_decimal) (pc := 31) fX11_70 (Or.inr ⟨_, rfl⟩) q2706 (hM.a70).1 dX11_decimal_31 hM.1 ?_
  refine x_bipush (μ := mu_tw_decimal) (pc := 34) dX11_decimal_34 (by decide) ?_
  refine x_iload (μ := mu_tw_decimal) (pc := 36) 0 dX11_decimal_36 rfl ?_
  refine x_isub (μ := mu_tw_decimal) (pc := 38) dX11_decimal_38 ?_
  refine x_ldc2 (μ := mu_tw_decimal) (pc := 39) (n := 48) dX11_decimal_39 q3092 ?_
  refine x_lload_n (μ := mu_tw_decimal) (pc := 42) 3 dX11_decimal_42 rfl ?_
  refine x_ldc2 (μ := mu_tw_decimal) (pc := 43) (n := 10) dX11_decimal_43 q3091 ?_
  refine x_lremc (μ := mu_tw_decimal) (pc := 46) dX11_decimal_46 hv3 (by decide) (by decide) ?_
  refine x_ladd (μ := mu_tw_decimal) (pc := 47) dX11_decimal_47 ?_
  refine x_l2i (μ := mu_tw_decimal) (pc := 48) dX11_decimal_48 ?_
  refine x_i2b (μ := mu_tw_decimal) (pc := 49) dX11_decimal_49 ?_
  refine x_bast (μ := mu_tw_decimal) (pc := 50) dX11_decimal_50 (hM.a70).2.1 (hM.a70).2.2 (bByte_b _) (fun _ _ q => gTw_wI q) ?_
  refine x_let (fun s1 e2 => ?_)
  have hM3 := TM.eI e2 hM
  refine x_lload_n (μ := mu_tw_decimal) (pc := 51) 3 dX11_decimal_51 rfl ?_
  refine x_ldc2 (μ := mu_tw_decimal) (pc := 52) (n := 10) dX11_decimal_52 q3091 ?_
  refine x_ldivc (μ := mu_tw_decimal) (pc := 55) dX11_decimal_55 hv3 (by decide) (by decide) ?_
  refine x_W1 ?_
  refine x_lstore_n (μ := mu_tw_decimal) (pc := 56) (lv' := [(3, vL (w64 (Int.tdiv v3 10))), (5, vI (w32 (v5 + 1))), (0, vR h), (1, vL v1)]) dX11_decimal_56 rfl (by decide) rfl ?_
  refine x_goto (μ := mu_tw_decimal) (pc := 57) (tgt := 16) dX11_decimal_57 rfl ?_
  refine x_loc (lv' := [(0, vR h), (1, vL v1), (3, vL (w64 (Int.tdiv v3 10))), (5, vI (w32 (v5 + 1)))]) [2, 3, 0, 1] rfl ?_
  exact hKh (w64 (Int.tdiv v3 10)) (w32 (v5 + 1)) s1 (w64_rng _) (w32_rng _) hM3
def tw_decimal_l16 (N : Nat) (h : Nat) (v1 : Int) (K : Int → gMem → Option (Int × gMem)) : Nat → Int → Int → gMem → Option (Int × gMem)
  | 0, _, _, _ => none
  | n + 1, v3, v5, s => if 0 < gcmp v3 (((0 : Fin 2) : Nat) : Int) then tw_decimal_l16_j27 N h v1 v3 v5  (tw_decimal_l16 N h v1 K n) K s else if v5 ≠ 0 then K v5 s else tw_decimal_l16_j27 N h v1 v3 v5  (tw_decimal_l16 N h v1 K n) K s
set_option maxRecDepth 100000 in
theorem okl_tw_decimal_l16 {ω : gW} {l : Launch} {d : Nat} {N : Nat} {h : Nat} {σ0 : gMem} {v1 : Int} {K : Int → gMem → Option (Int × gMem)} (hdp : 0 ≤ d) (hv1 : g64 v1) (hK : ∀ (v5 : Int) (s : gMem) , g32 v5 → TM s h → GG (fun p : Int × gMem => (.inl (some (vI p.1)), p.2)) gTw ω l d mu_tw_decimal σ0 60 [(0, vR h), (1, vL v1), (5, vI v5)] [] s (K v5 s)) : ∀ (n : Nat) (v3 : Int) (v5 : Int) (s : gMem) , g64 v3 → g32 v5 → TM s h → GG (fun p : Int × gMem => (.inl (some (vI p.1)), p.2)) gTw ω l d mu_tw_decimal σ0 16 [(0, vR h), (1, vL v1), (3, vL v3), (5, vI v5)] [] s (tw_decimal_l16 N h v1 K n v3 v5 s) := by
  intro n
  induction n with
  | zero => intros; exact x_none
  | succ n ih =>
    intro v3 v5 s hv3 hv5 hM
    unfold tw_decimal_l16
    refine x_lload_n (μ := mu_tw_decimal) (pc := 16) 2 dX11_decimal_16 rfl ?_
    refine x_lconst (μ := mu_tw_decimal) (pc := 17) dX11_decimal_17 ?_
    refine x_lcmp (μ := mu_tw_decimal) (pc := 18) dX11_decimal_18 hv3 (by decide) ?_
    refine x_if_gt (μ := mu_tw_decimal) (pc := 19) (tgt := 27) dX11_decimal_19 rfl (gcmp_rng _ _) ?_ ?_
    · exact okj_tw_decimal_l16_j27 hdp hM hv1 hv3 hv5 ih hK
    · refine x_iload (μ := mu_tw_decimal) (pc := 22) 3 dX11_decimal_22 rfl ?_
      refine x_if_ne (μ := mu_tw_decimal) (pc := 24) (tgt := 60) dX11_decimal_24 rfl hv5 ?_ ?_
      · refine x_loc (lv' := [(0, vR h), (1, vL v1), (5, vI v5)]) [0, 1, 3] rfl ?_
        exact hK v5 s hv5 hM
      · exact okj_tw_decimal_l16_j27 hdp hM hv1 hv3 hv5 ih hK
def tw_decimal_j12 (N : Nat) (h : Nat) (v1 : Int) (t0 : Int) (s : gMem) : Option (Int × gMem) := tw_decimal_l16 N h v1 (fun y4 s5 => if 0 ≤ gcmp v1 (((0 : Fin 2) : Nat) : Int) then some (y4, s5) else if 0 ≤ (20 - (w32 (y4 + 1))) ∧ (20 - (w32 (y4 + 1))) < ((20 : Nat) : Int) then gLet (wI s5 (h + 37) (20 - (w32 (y4 + 1))).toNat 45) (fun s7 => some (w32 (y4 + 1), s7)) else none) N t0 0 s
set_option maxRecDepth 100000 in
theorem okj_tw_decimal_j12 {ω : gW} {l : Launch} {d : Nat} {N : Nat} {h : Nat} {σ0 : gMem} {s : gMem} {v1 : Int} {t0 : Int} (hdp : 0 ≤ d) (hM : TM s h) (hv1 : g64 v1) (ht0 : g64 t0) : GG (fun p : Int × gMem => (.inl (some (vI p.1)), p.2)) gTw ω l d mu_tw_decimal σ0 12 [(0, vR h), (1, vL v1)] [vL t0] s (tw_decimal_j12 N h v1 t0 s) := by
  unfold tw_decimal_j12
  refine x_lstore_n (μ := mu_tw_decimal) (pc := 12) (lv' := [(3, vL t0), (0, vR h), (1, vL v1)]) dX11_decimal_12 rfl (by decide) rfl ?_
  refine x_iconst (μ := mu_tw_decimal) (pc := 13) dX11_decimal_13 ?_
  refine x_istore (μ := mu_tw_decimal) (pc := 14) (lv' := [(5, vI 0), (3, vL t0), (0, vR h), (1, vL v1)]) dX11_decimal_14 (by decide) rfl ?_
  refine x_loc (lv' := [(0, vR h), (1, vL v1), (3, vL t0), (5, vI 0)]) [2, 3, 1, 0] rfl ?_
  refine okl_tw_decimal_l16 hdp hv1 (fun y4 s5 hy4 hM6 => ?_) N t0 0 s ht0 (by decide) hM
  refine x_lload_n (μ := mu_tw_decimal) (pc := 60) 1 dX11_decimal_60 rfl ?_
  refine x_lconst (μ := mu_tw_decimal) (pc := 61) dX11_decimal_61 ?_
  refine x_lcmp (μ := mu_tw_decimal) (pc := 62) dX11_decimal_62 hv1 (by decide) ?_
  refine x_if_ge (μ := mu_tw_decimal) (pc := 63) (tgt := 81) dX11_decimal_63 rfl (gcmp_rng _ _) ?_ ?_
  · refine x_iload (μ := mu_tw_decimal) (pc := 81) 2 dX11_decimal_81 rfl ?_
    exact x_iret (μ := mu_tw_decimal) (pc := 83) dX11_decimal_83 rfl rfl (gRel_Tw.1 _) (show g32 y4 from hy4)
  · refine x_iincw (μ := mu_tw_decimal) (pc := 66) (lv' := [(5, vI (w32 (y4 + 1))), (0, vR h), (1, vL v1)]) 2 dX11_decimal_66 rfl (by decide) rfl ?_
    refine x_aload_n (μ := mu_tw_decimal) (pc := 69) 1 dX11_decimal_69 rfl ?_
    refine x_fgrE (μ := mu_tw_decimal) (pc := 70) fX11_70 (Or.inr ⟨_, rfl⟩) q2706 (hM6.a70).1 dX11_decimal_70 hM6.1 ?_
    refine x_bipush (μ := mu_tw_decimal) (pc := 73) dX11_decimal_73 (by decide) ?_
    refine x_iload (μ := mu_tw_decimal) (pc := 75) 0 dX11_decimal_75 rfl ?_
    refine x_isub (μ := mu_tw_decimal) (pc := 77) dX11_decimal_77 ?_
    refine x_bipush (μ := mu_tw_decimal) (pc := 78) dX11_decimal_78 (by decide) ?_
    refine x_bast (μ := mu_tw_decimal) (pc := 80) dX11_decimal_80 (hM6.a70).2.1 (hM6.a70).2.2 (by decide) (fun _ _ q => gTw_wI q) ?_
    refine x_let (fun s7 e8 => ?_)
    have hM9 := TM.eI e8 hM6
    refine x_iload (μ := mu_tw_decimal) (pc := 81) 0 dX11_decimal_81 rfl ?_
    exact x_iret (μ := mu_tw_decimal) (pc := 83) dX11_decimal_83 rfl rfl (gRel_Tw.1 _) (show g32 (w32 (y4 + 1)) from (w32_rng _))
def tw_decimal (N : Nat) (h : Nat) (v1 : Int) (σ : gMem) : Option (Int × gMem) := if 0 ≤ gcmp v1 (((0 : Fin 2) : Nat) : Int) then tw_decimal_j12 N h v1 v1 σ else tw_decimal_j12 N h v1 (w64 (-v1)) σ
set_option maxRecDepth 100000 in
theorem ok_tw_decimal {ω : gW} {l : Launch} {d : Nat} {N : Nat} {h : Nat} {σ : gMem} {v1 : Int} (hdp : 0 ≤ d) (hM : TM σ h) (hv1 : g64 v1) : gK (fun p : Int × gMem => (.inl (some (vI p.1)), p.2)) gTw ω l d mu_tw_decimal [vR h, vL v1] σ (tw_decimal N h v1 σ) := by
  refine gK.of hp_X11 (Nat.le_of_ble_eq_true rfl) ?_
  unfold tw_decimal
  refine x_lload_n (μ := mu_tw_decimal) (pc := 0) 1 dX11_decimal_0 rfl ?_
  refine x_lconst (μ := mu_tw_decimal) (pc := 1) dX11_decimal_1 ?_
  refine x_lcmp (μ := mu_tw_decimal) (pc := 2) dX11_decimal_2 hv1 (by decide) ?_
  refine x_if_ge (μ := mu_tw_decimal) (pc := 3) (tgt := 11) dX11_decimal_3 rfl (gcmp_rng _ _) ?_ ?_
  · refine x_lload_n (μ := mu_tw_decimal) (pc := 11) 1 dX11_decimal_11 rfl ?_
    exact okj_tw_decimal_j12 hdp hM hv1 hv1
  · refine x_lload_n (μ := mu_tw_decimal) (pc := 6) 1 dX11_decimal_6 rfl ?_
    refine x_lneg (μ := mu_tw_decimal) (pc := 7) dX11_decimal_7 ?_
    refine x_goto (μ := mu_tw_decimal) (pc := 8) (tgt := 12) dX11_decimal_8 rfl ?_
    refine x_W1 ?_
    exact okj_tw_decimal_j12 hdp hM hv1 (w64_rng _)
def tw_times_j59 (h : Nat) (v1 : Int) (v2 : Int) (v4 : Int) (s : gMem) : Option gMem := (tw_number h v1 (w64 (v2 * v4)) s).bind (fun x1 => some x1)
set_option maxRecDepth 100000 in
theorem okj_tw_times_j59 {ω : gW} {l : Launch} {d : Nat} {h : Nat} {σ0 : gMem} {s : gMem} {v1 : Int} {v2 : Int} {v4 : Int} (hdp : 1 ≤ d) (hM : TM s h) (hv1 : g32 v1) (hv2 : g64 v2) (hv4 : g64 v4) : GG (fun p : gMem => (.inl none, p)) gTw ω l d mu_tw_times σ0 59 [(0, vR h), (1, vI v1), (2, vL v2), (4, vL v4)] [] s (tw_times_j59 h v1 v2 v4 s) := by
  unfold tw_times_j59
  refine x_aload_n (μ := mu_tw_times) (pc := 59) 0 dX11_times_59 rfl ?_
  refine x_iload_n (μ := mu_tw_times) (pc := 60) 1 dX11_times_60 rfl ?_
  refine x_lload_n (μ := mu_tw_times) (pc := 61) 2 dX11_times_61 rfl ?_
  refine x_lload (μ := mu_tw_times) (pc := 62) 3 dX11_times_62 rfl ?_
  refine x_lmul (μ := mu_tw_times) (pc := 64) dX11_times_64 ?_
  refine x_W1 ?_
  refine x_callV_mv (μ := mu_tw_times) (pc := 65) (ok_tw_number (ω := ω) (l := l) (d := d - 1) (by omega) hM hv1 (w64_rng _)) gRel_Tw gRel_Tw (fun _ q => q) q3315 q3317 qs144 q232 q3318 dX11_times_65 rfl hM.1 hy_tw_number (by omega) (Nat.le_of_ble_eq_true rfl) rfl (Nat.le_of_ble_eq_true rfl) (fun x1 k2 => ?_)
  have hM3 : TM x1 h := hM.tw k2
  exact x_vret (μ := mu_tw_times) (pc := 68) (a1 := x1) dX11_times_68 rfl rfl (gRel_Tw.1 _) trivial
def tw_times_j29 (h : Nat) (v1 : Int) (v2 : Int) (v4 : Int) (v6 : Int) (t0 : Int) (s : gMem) : Option gMem := if gcmp v6 (((0 : Fin 2) : Nat) : Int) ≤ 0 then tw_times_j59 h v1 v2 v4  s else if v6 ≠ 0 then if gcmp t0 (w64 (Int.tdiv 1000000000000000 v6)) ≤ 0 then tw_times_j59 h v1 v2 v4  s else (tw_error h v1 4 s).bind (fun x4 => some x4) else none
set_option maxRecDepth 100000 in
theorem okj_tw_times_j29 {ω : gW} {l : Launch} {d : Nat} {h : Nat} {σ0 : gMem} {s : gMem} {v1 : Int} {v2 : Int} {v4 : Int} {v6 : Int} {t0 : Int} (hdp : 1 ≤ d) (hM : TM s h) (hv1 : g32 v1) (hv2 : g64 v2) (hv4 : g64 v4) (hv6 : g64 v6) (ht0 : g64 t0) : GG (fun p : gMem => (.inl none, p)) gTw ω l d mu_tw_times σ0 29 [(0, vR h), (1, vI v1), (2, vL v2), (4, vL v4), (6, vL v6)] [vL t0] s (tw_times_j29 h v1 v2 v4 v6 t0 s) := by
  unfold tw_times_j29
  refine x_lstore (μ := mu_tw_times) (pc := 29) (lv' := [(8, vL t0), (0, vR h), (1, vI v1), (2, vL v2), (4, vL v4), (6, vL v6)]) dX11_times_29 (by decide) rfl ?_
  refine x_lload (μ := mu_tw_times) (pc := 31) 5 dX11_times_31 rfl ?_
  refine x_lconst (μ := mu_tw_times) (pc := 33) dX11_times_33 ?_
  refine x_lcmp (μ := mu_tw_times) (pc := 34) dX11_times_34 hv6 (by decide) ?_
  refine x_if_le (μ := mu_tw_times) (pc := 35) (tgt := 59) dX11_times_35 rfl (gcmp_rng _ _) ?_ ?_
  · refine x_loc (lv' := [(0, vR h), (1, vI v1), (2, vL v2), (4, vL v4)]) [1, 2, 3, 4] rfl ?_
    exact okj_tw_times_j59 hdp hM hv1 hv2 hv4
  · refine x_lload (μ := mu_tw_times) (pc := 38) 0 dX11_times_38 rfl ?_
    refine x_ldc2 (μ := mu_tw_times) (pc := 40) (n := 1000000000000000) dX11_times_40 q3319 ?_
    refine x_lload (μ := mu_tw_times) (pc := 43) 5 dX11_times_43 rfl ?_
    refine x_ldiv (μ := mu_tw_times) (pc := 45) dX11_times_45 (by decide) hv6 ?_
    refine x_W1 ?_
    refine x_lcmp (μ := mu_tw_times) (pc := 46) dX11_times_46 ht0 (w64_rng _) ?_
    refine x_if_le (μ := mu_tw_times) (pc := 47) (tgt := 59) dX11_times_47 rfl (gcmp_rng _ _) ?_ ?_
    · refine x_loc (lv' := [(0, vR h), (1, vI v1), (2, vL v2), (4, vL v4)]) [1, 2, 3, 4] rfl ?_
      exact okj_tw_times_j59 hdp hM hv1 hv2 hv4
    · refine x_aload_n (μ := mu_tw_times) (pc := 50) 1 dX11_times_50 rfl ?_
      refine x_iload_n (μ := mu_tw_times) (pc := 51) 2 dX11_times_51 rfl ?_
      refine x_iconst (μ := mu_tw_times) (pc := 52) dX11_times_52 ?_
      refine x_callV_mv (μ := mu_tw_times) (pc := 53) (ok_tw_error (ω := ω) (l := l) (d := d - 1) (by omega) hM hv1 (by decide)) gRel_Tw gRel_Tw (fun _ q => q) q3294 q3296 qs139 q232 q3297 dX11_times_53 rfl hM.1 hy_tw_error (by omega) (Nat.le_of_ble_eq_true rfl) rfl (Nat.le_of_ble_eq_true rfl) (fun x4 k5 => ?_)
      have hM6 : TM x4 h := hM.tw k5
      refine x_goto (μ := mu_tw_times) (pc := 56) (tgt := 68) dX11_times_56 rfl ?_
      exact x_vret (μ := mu_tw_times) (pc := 68) (a1 := x4) dX11_times_68 rfl rfl (gRel_Tw.1 _) trivial
def tw_times_j12 (h : Nat) (v1 : Int) (v2 : Int) (v4 : Int) (t0 : Int) (s : gMem) : Option gMem := if 0 ≤ gcmp v4 (((0 : Fin 2) : Nat) : Int) then tw_times_j29 h v1 v2 v4 t0 v4 s else tw_times_j29 h v1 v2 v4 t0 (w64 (-v4)) s
set_option maxRecDepth 100000 in
theorem okj_tw_times_j12 {ω : gW} {l : Launch} {d : Nat} {h : Nat} {σ0 : gMem} {s : gMem} {v1 : Int} {v2 : Int} {v4 : Int} {t0 : Int} (hdp : 1 ≤ d) (hM : TM s h) (hv1 : g32 v1) (hv2 : g64 v2) (hv4 : g64 v4) (ht0 : g64 t0) : GG (fun p : gMem => (.inl none, p)) gTw ω l d mu_tw_times σ0 12 [(0, vR h), (1, vI v1), (2, vL v2), (4, vL v4)] [vL t0] s (tw_times_j12 h v1 v2 v4 t0 s) := by
  unfold tw_times_j12
  refine x_lstore (μ := mu_tw_times) (pc := 12) (lv' := [(6, vL t0), (0, vR h), (1, vI v1), (2, vL v2), (4, vL v4)]) dX11_times_12 (by decide) rfl ?_
  refine x_lload (μ := mu_tw_times) (pc := 14) 4 dX11_times_14 rfl ?_
  refine x_lconst (μ := mu_tw_times) (pc := 16) dX11_times_16 ?_
  refine x_lcmp (μ := mu_tw_times) (pc := 17) dX11_times_17 hv4 (by decide) ?_
  refine x_if_ge (μ := mu_tw_times) (pc := 18) (tgt := 27) dX11_times_18 rfl (gcmp_rng _ _) ?_ ?_
  · refine x_lload (μ := mu_tw_times) (pc := 27) 4 dX11_times_27 rfl ?_
    refine x_loc (lv' := [(0, vR h), (1, vI v1), (2, vL v2), (4, vL v4), (6, vL t0)]) [1, 2, 3, 4, 0] rfl ?_
    exact okj_tw_times_j29 hdp hM hv1 hv2 hv4 ht0 hv4
  · refine x_lload (μ := mu_tw_times) (pc := 21) 4 dX11_times_21 rfl ?_
    refine x_lneg (μ := mu_tw_times) (pc := 23) dX11_times_23 ?_
    refine x_goto (μ := mu_tw_times) (pc := 24) (tgt := 29) dX11_times_24 rfl ?_
    refine x_W1 ?_
    refine x_loc (lv' := [(0, vR h), (1, vI v1), (2, vL v2), (4, vL v4), (6, vL t0)]) [1, 2, 3, 4, 0] rfl ?_
    exact okj_tw_times_j29 hdp hM hv1 hv2 hv4 ht0 (w64_rng _)
def tw_times (h : Nat) (v1 : Int) (v2 : Int) (v4 : Int) (σ : gMem) : Option gMem := if 0 ≤ gcmp v2 (((0 : Fin 2) : Nat) : Int) then tw_times_j12 h v1 v2 v4 v2 σ else tw_times_j12 h v1 v2 v4 (w64 (-v2)) σ
set_option maxRecDepth 100000 in
theorem ok_tw_times {ω : gW} {l : Launch} {d : Nat} {h : Nat} {σ : gMem} {v1 : Int} {v2 : Int} {v4 : Int} (hdp : 1 ≤ d) (hM : TM σ h) (hv1 : g32 v1) (hv2 : g64 v2) (hv4 : g64 v4) : gK (fun p : gMem => (.inl none, p)) gTw ω l d mu_tw_times [vR h, vI v1, vL v2, vL v4] σ (tw_times h v1 v2 v4 σ) := by
  refine gK.of hp_X11 (Nat.le_of_ble_eq_true rfl) ?_
  unfold tw_times
  refine x_lload_n (μ := mu_tw_times) (pc := 0) 2 dX11_times_0 rfl ?_
  refine x_lconst (μ := mu_tw_times) (pc := 1) dX11_times_1 ?_
  refine x_lcmp (μ := mu_tw_times) (pc := 2) dX11_times_2 hv2 (by decide) ?_
  refine x_if_ge (μ := mu_tw_times) (pc := 3) (tgt := 11) dX11_times_3 rfl (gcmp_rng _ _) ?_ ?_
  · refine x_lload_n (μ := mu_tw_times) (pc := 11) 2 dX11_times_11 rfl ?_
    exact okj_tw_times_j12 hdp hM hv1 hv2 hv4 hv2
  · refine x_lload_n (μ := mu_tw_times) (pc := 6) 2 dX11_times_6 rfl ?_
    refine x_lneg (μ := mu_tw_times) (pc := 7) dX11_times_7 ?_
    refine x_goto (μ := mu_tw_times) (pc := 8) (tgt := 12) dX11_times_8 rfl ?_
    refine x_W1 ?_
    exact okj_tw_times_j12 hdp hM hv1 hv2 hv4 (w64_rng _)
def tw_wantsTruth_j31 (h : Nat) (v1 : Int) (s : gMem) : Option (Int × gMem) := if 0 ≤ v1 ∧ v1 < ((200 : Nat) : Int) then if mI s (h + 33) v1.toNat ≠ 3 then some (0, s) else some (1, s) else none
set_option maxRecDepth 100000 in
theorem okj_tw_wantsTruth_j31 {ω : gW} {l : Launch} {d : Nat} {h : Nat} {σ0 : gMem} {s : gMem} {v1 : Int} (hdp : 1 ≤ d) (hM : TM s h) (hv1 : g32 v1) : GG (fun p : Int × gMem => (.inl (some (vI p.1)), p.2)) gTw ω l d mu_tw_wantsTruth σ0 31 [(0, vR h), (1, vI v1)] [] s (tw_wantsTruth_j31 h v1 s) := by
  unfold tw_wantsTruth_j31
  refine x_aload_n (μ := mu_tw_wantsTruth) (pc := 31) 0 dX11_wantsTruth_31 rfl ?_
  refine x_fgrE (μ := mu_tw_wantsTruth) (pc := 32) fX11_66 (Or.inr ⟨_, rfl⟩) q2702 (hM.a66).1 dX11_wantsTruth_32 hM.1 ?_
  refine x_iload_n (μ := mu_tw_wantsTruth) (pc := 35) 1 dX11_wantsTruth_35 rfl ?_
  refine x_iald (μ := mu_tw_wantsTruth) (pc := 36) dX11_wantsTruth_36 (hM.a66).2.1 (hM.a66).2.2 (fun hr3 => ?_)
  refine x_iconst (μ := mu_tw_wantsTruth) (pc := 37) dX11_wantsTruth_37 ?_
  refine x_icmp_ne (μ := mu_tw_wantsTruth) (pc := 38) (tgt := 45) dX11_wantsTruth_38 rfl hr3 (by decide) ?_ ?_
  · refine x_iconst (μ := mu_tw_wantsTruth) (pc := 45) dX11_wantsTruth_45 ?_
    exact x_zret (μ := mu_tw_wantsTruth) (pc := 46) dX11_wantsTruth_46 rfl (by decide) rfl (gRel_Tw.1 _) (show g32 0 from (by decide))
  · refine x_iconst (μ := mu_tw_wantsTruth) (pc := 41) dX11_wantsTruth_41 ?_
    refine x_goto (μ := mu_tw_wantsTruth) (pc := 42) (tgt := 46) dX11_wantsTruth_42 rfl ?_
    exact x_zret (μ := mu_tw_wantsTruth) (pc := 46) dX11_wantsTruth_46 rfl (by decide) rfl (gRel_Tw.1 _) (show g32 1 from (by decide))
def tw_wantsTruth_j15 (h : Nat) (v1 : Int) (s : gMem) : Option (Int × gMem) := if 0 ≤ v1 ∧ v1 < ((200 : Nat) : Int) then if mI s (h + 33) v1.toNat = 3 then tw_wantsTruth_j31 h v1  s else (tw_error h v1 3 s).bind (fun x4 => tw_wantsTruth_j31 h v1  x4) else none
set_option maxRecDepth 100000 in
theorem okj_tw_wantsTruth_j15 {ω : gW} {l : Launch} {d : Nat} {h : Nat} {σ0 : gMem} {s : gMem} {v1 : Int} (hdp : 1 ≤ d) (hM : TM s h) (hv1 : g32 v1) : GG (fun p : Int × gMem => (.inl (some (vI p.1)), p.2)) gTw ω l d mu_tw_wantsTruth σ0 15 [(0, vR h), (1, vI v1)] [] s (tw_wantsTruth_j15 h v1 s) := by
  unfold tw_wantsTruth_j15
  refine x_aload_n (μ := mu_tw_wantsTruth) (pc := 15) 0 dX11_wantsTruth_15 rfl ?_
  refine x_fgrE (μ := mu_tw_wantsTruth) (pc := 16) fX11_66 (Or.inr ⟨_, rfl⟩) q2702 (hM.a66).1 dX11_wantsTruth_16 hM.1 ?_
  refine x_iload_n (μ := mu_tw_wantsTruth) (pc := 19) 1 dX11_wantsTruth_19 rfl ?_
  refine x_iald (μ := mu_tw_wantsTruth) (pc := 20) dX11_wantsTruth_20 (hM.a66).2.1 (hM.a66).2.2 (fun hr2 => ?_)
  refine x_iconst (μ := mu_tw_wantsTruth) (pc := 21) dX11_wantsTruth_21 ?_
  refine x_icmp_eq (μ := mu_tw_wantsTruth) (pc := 22) (tgt := 31) dX11_wantsTruth_22 rfl hr2 (by decide) ?_ ?_
  · exact okj_tw_wantsTruth_j31 hdp hM hv1
  · refine x_aload_n (μ := mu_tw_wantsTruth) (pc := 25) 0 dX11_wantsTruth_25 rfl ?_
    refine x_iload_n (μ := mu_tw_wantsTruth) (pc := 26) 1 dX11_wantsTruth_26 rfl ?_
    refine x_iconst (μ := mu_tw_wantsTruth) (pc := 27) dX11_wantsTruth_27 ?_
    refine x_callV_mv (μ := mu_tw_wantsTruth) (pc := 28) (ok_tw_error (ω := ω) (l := l) (d := d - 1) (by omega) hM hv1 (by decide)) gRel_Tw gRel_Tw (fun _ q => q) q3294 q3296 qs139 q232 q3297 dX11_wantsTruth_28 rfl hM.1 hy_tw_error (by omega) (Nat.le_of_ble_eq_true rfl) rfl (Nat.le_of_ble_eq_true rfl) (fun x4 k5 => ?_)
    have hM6 : TM x4 h := hM.tw k5
    exact okj_tw_wantsTruth_j31 hdp hM6 hv1
def tw_wantsTruth (h : Nat) (v1 : Int) (σ : gMem) : Option (Int × gMem) := if 0 ≤ v1 ∧ v1 < ((200 : Nat) : Int) then if mI σ (h + 33) v1.toNat ≠ 0 then tw_wantsTruth_j15 h v1  σ else (tw_truth h v1 0 σ).bind (fun x7 => tw_wantsTruth_j15 h v1  x7) else none
set_option maxRecDepth 100000 in
theorem ok_tw_wantsTruth {ω : gW} {l : Launch} {d : Nat} {h : Nat} {σ : gMem} {v1 : Int} (hdp : 1 ≤ d) (hM : TM σ h) (hv1 : g32 v1) : gK (fun p : Int × gMem => (.inl (some (vI p.1)), p.2)) gTw ω l d mu_tw_wantsTruth [vR h, vI v1] σ (tw_wantsTruth h v1 σ) := by
  refine gK.of hp_X11 (Nat.le_of_ble_eq_true rfl) ?_
  unfold tw_wantsTruth
  refine x_aload_n (μ := mu_tw_wantsTruth) (pc := 0) 0 dX11_wantsTruth_0 rfl ?_
  refine x_fgrE (μ := mu_tw_wantsTruth) (pc := 1) fX11_66 (Or.inr ⟨_, rfl⟩) q2702 (hM.a66).1 dX11_wantsTruth_1 hM.1 ?_
  refine x_iload_n (μ := mu_tw_wantsTruth) (pc := 4) 1 dX11_wantsTruth_4 rfl ?_
  refine x_iald (μ := mu_tw_wantsTruth) (pc := 5) dX11_wantsTruth_5 (hM.a66).2.1 (hM.a66).2.2 (fun hr1 => ?_)
  refine x_if_ne (μ := mu_tw_wantsTruth) (pc := 6) (tgt := 15) dX11_wantsTruth_6 rfl hr1 ?_ ?_
  · exact okj_tw_wantsTruth_j15 hdp hM hv1
  · refine x_aload_n (μ := mu_tw_wantsTruth) (pc := 9) 0 dX11_wantsTruth_9 rfl ?_
    refine x_iload_n (μ := mu_tw_wantsTruth) (pc := 10) 1 dX11_wantsTruth_10 rfl ?_
    refine x_iconst (μ := mu_tw_wantsTruth) (pc := 11) dX11_wantsTruth_11 ?_
    refine x_callV_mv (μ := mu_tw_wantsTruth) (pc := 12) (ok_tw_truth (ω := ω) (l := l) (d := d - 1) (by omega) hM hv1 (by decide)) gRel_Tw gRel_Tw (fun _ q => q) q3322 q3324 qs145 q232 q3325 dX11_wantsTruth_12 rfl hM.1 hy_tw_truth (by omega) (Nat.le_of_ble_eq_true rfl) rfl (Nat.le_of_ble_eq_true rfl) (fun x7 k8 => ?_)
    have hM9 : TM x7 h := hM.tw k8
    exact okj_tw_wantsTruth_j15 hdp hM9 hv1
def tw_count_j97 (h : Nat) (t0 : Int) (s : gMem) : Option gMem := if t0 = 0 ∨ t0 = 1 then gLet (wI s h 80 t0) (fun s17 => gLet (wI s17 h 76 (w32 ((mI s17 h 76) + 1))) (fun s21 => some s21)) else none
set_option maxRecDepth 100000 in
theorem okj_tw_count_j97 {ω : gW} {l : Launch} {d : Nat} {h : Nat} {σ0 : gMem} {s : gMem} {t0 : Int} (hdp : 0 ≤ d) (hM : TM s h) (ht0 : g32 t0) : GG (fun p : gMem => (.inl none, p)) gTw ω l d mu_tw_count σ0 97 [(0, vR h)] [vI t0, vR h] s (tw_count_j97 h t0 s) := by
  unfold tw_count_j97
  refine x_if (fun hz16 => ?_)
  refine x_fpz (μ := mu_tw_count) (pc := 97) fX11_80 q2716 hz16 dX11_count_97 hM.1 (fun _ q => gTw_wI q) ?_
  refine x_let (fun s17 e18 => ?_)
  have hM19 := TM.eI e18 hM
  refine x_aload_n (μ := mu_tw_count) (pc := 100) 0 dX11_count_100 rfl ?_
  refine x_dup (μ := mu_tw_count) (pc := 101) dX11_count_101 rfl ?_
  refine x_fgi (μ := mu_tw_count) (pc := 102) fX11_76 q2712 dX11_count_102 hM19.1 (fun hr20 => ?_)
  refine x_iconst (μ := mu_tw_count) (pc := 105) dX11_count_105 ?_
  refine x_iadd (μ := mu_tw_count) (pc := 106) dX11_count_106 ?_
  refine x_w1 ?_
  refine x_fpi (μ := mu_tw_count) (pc := 107) fX11_76 q2712 dX11_count_107 hM19.1 (fun _ q => gTw_wI q) ?_
  refine x_let (fun s21 e22 => ?_)
  have hM23 := TM.eI e22 hM19
  exact x_vret (μ := mu_tw_count) (pc := 110) (a1 := s21) dX11_count_110 rfl rfl (gRel_Tw.1 _) trivial
def tw_count_j92 (h : Nat) (s : gMem) : Option gMem := tw_count_j97 h 1 s
set_option maxRecDepth 100000 in
theorem okj_tw_count_j92 {ω : gW} {l : Launch} {d : Nat} {h : Nat} {σ0 : gMem} {s : gMem} (hdp : 0 ≤ d) (hM : TM s h) : GG (fun p : gMem => (.inl none, p)) gTw ω l d mu_tw_count σ0 92 [(0, vR h)] [vR h] s (tw_count_j92 h s) := by
  unfold tw_count_j92
  refine x_iconst (μ := mu_tw_count) (pc := 92) dX11_count_92 ?_
  refine x_goto (μ := mu_tw_count) (pc := 93) (tgt := 97) dX11_count_93 rfl ?_
  exact okj_tw_count_j97 hdp hM (by decide)
def tw_count_j75 (h : Nat) (v3 : Int) (t0 : Int) (s : gMem) : Option gMem := if t0 = 0 ∨ t0 = 1 then gLet (wI s h 79 t0) (fun s12 => if mI s12 h 80 ≠ 0 then tw_count_j92 h  s12 else if gcmp v3 (((1 : Fin 2) : Nat) : Int) ≠ 0 then tw_count_j97 h 0 s12 else tw_count_j92 h  s12) else none
set_option maxRecDepth 100000 in
theorem okj_tw_count_j75 {ω : gW} {l : Launch} {d : Nat} {h : Nat} {σ0 : gMem} {s : gMem} {v3 : Int} {t0 : Int} (hdp : 0 ≤ d) (hM : TM s h) (hv3 : g64 v3) (ht0 : g32 t0) : GG (fun p : gMem => (.inl none, p)) gTw ω l d mu_tw_count σ0 75 [(0, vR h), (3, vL v3)] [vI t0, vR h] s (tw_count_j75 h v3 t0 s) := by
  unfold tw_count_j75
  refine x_if (fun hz11 => ?_)
  refine x_fpz (μ := mu_tw_count) (pc := 75) fX11_79 q2715 hz11 dX11_count_75 hM.1 (fun _ q => gTw_wI q) ?_
  refine x_let (fun s12 e13 => ?_)
  have hM14 := TM.eI e13 hM
  refine x_aload_n (μ := mu_tw_count) (pc := 78) 0 dX11_count_78 rfl ?_
  refine x_aload_n (μ := mu_tw_count) (pc := 79) 0 dX11_count_79 rfl ?_
  refine x_fgz (μ := mu_tw_count) (pc := 80) fX11_80 q2716 dX11_count_80 hM14.1 (fun hr15 => ?_)
  refine x_if_ne (μ := mu_tw_count) (pc := 83) (tgt := 92) dX11_count_83 rfl hr15 ?_ ?_
  · refine x_loc (lv' := [(0, vR h)]) [0] rfl ?_
    exact okj_tw_count_j92 hdp hM14
  · refine x_lload_n (μ := mu_tw_count) (pc := 86) 1 dX11_count_86 rfl ?_
    refine x_lconst (μ := mu_tw_count) (pc := 87) dX11_count_87 ?_
    refine x_lcmp (μ := mu_tw_count) (pc := 88) dX11_count_88 hv3 (by decide) ?_
    refine x_if_ne (μ := mu_tw_count) (pc := 89) (tgt := 96) dX11_count_89 rfl (gcmp_rng _ _) ?_ ?_
    · refine x_iconst (μ := mu_tw_count) (pc := 96) dX11_count_96 ?_
      refine x_loc (lv' := [(0, vR h)]) [0] rfl ?_
      exact okj_tw_count_j97 hdp hM14 (by decide)
    · refine x_loc (lv' := [(0, vR h)]) [0] rfl ?_
      exact okj_tw_count_j92 hdp hM14
def tw_count_j74 (h : Nat) (v3 : Int) (s : gMem) : Option gMem := tw_count_j75 h v3 0 s
set_option maxRecDepth 100000 in
theorem okj_tw_count_j74 {ω : gW} {l : Launch} {d : Nat} {h : Nat} {σ0 : gMem} {s : gMem} {v3 : Int} (hdp : 0 ≤ d) (hM : TM s h) (hv3 : g64 v3) : GG (fun p : gMem => (.inl none, p)) gTw ω l d mu_tw_count σ0 74 [(0, vR h), (3, vL v3)] [vR h] s (tw_count_j74 h v3 s) := by
  unfold tw_count_j74
  refine x_iconst (μ := mu_tw_count) (pc := 74) dX11_count_74 ?_
  exact okj_tw_count_j75 hdp hM hv3 (by decide)
def tw_count_j56 (h : Nat) (v3 : Int) (s : gMem) : Option gMem := if mI s h 79 = 0 then tw_count_j74 h v3  s else if gcmp v3 (((1 : Fin 2) : Nat) : Int) ≠ 0 then tw_count_j74 h v3  s else tw_count_j75 h v3 1 s
set_option maxRecDepth 100000 in
theorem okj_tw_count_j56 {ω : gW} {l : Launch} {d : Nat} {h : Nat} {σ0 : gMem} {s : gMem} {v3 : Int} (hdp : 0 ≤ d) (hM : TM s h) (hv3 : g64 v3) : GG (fun p : gMem => (.inl none, p)) gTw ω l d mu_tw_count σ0 56 [(0, vR h), (3, vL v3)] [] s (tw_count_j56 h v3 s) := by
  unfold tw_count_j56
  refine x_aload_n (μ := mu_tw_count) (pc := 56) 0 dX11_count_56 rfl ?_
  refine x_aload_n (μ := mu_tw_count) (pc := 57) 0 dX11_count_57 rfl ?_
  refine x_fgz (μ := mu_tw_count) (pc := 58) fX11_79 q2715 dX11_count_58 hM.1 (fun hr10 => ?_)
  refine x_if_eq (μ := mu_tw_count) (pc := 61) (tgt := 74) dX11_count_61 rfl hr10 ?_ ?_
  · exact okj_tw_count_j74 hdp hM hv3
  · refine x_lload_n (μ := mu_tw_count) (pc := 64) 1 dX11_count_64 rfl ?_
    refine x_lconst (μ := mu_tw_count) (pc := 65) dX11_count_65 ?_
    refine x_lcmp (μ := mu_tw_count) (pc := 66) dX11_count_66 hv3 (by decide) ?_
    refine x_if_ne (μ := mu_tw_count) (pc := 67) (tgt := 74) dX11_count_67 rfl (gcmp_rng _ _) ?_ ?_
    · exact okj_tw_count_j74 hdp hM hv3
    · refine x_iconst (μ := mu_tw_count) (pc := 70) dX11_count_70 ?_
      refine x_goto (μ := mu_tw_count) (pc := 71) (tgt := 75) dX11_count_71 rfl ?_
      exact okj_tw_count_j75 hdp hM hv3 (by decide)
def tw_count_j51 (h : Nat) (v3 : Int) (s : gMem) : Option gMem := gLet (wL s h 78 v3) (fun s7 => tw_count_j56 h v3  s7)
set_option maxRecDepth 100000 in
theorem okj_tw_count_j51 {ω : gW} {l : Launch} {d : Nat} {h : Nat} {σ0 : gMem} {s : gMem} {v3 : Int} (hdp : 0 ≤ d) (hM : TM s h) (hv3 : g64 v3) : GG (fun p : gMem => (.inl none, p)) gTw ω l d mu_tw_count σ0 51 [(0, vR h), (3, vL v3)] [] s (tw_count_j51 h v3 s) := by
  unfold tw_count_j51
  refine x_aload_n (μ := mu_tw_count) (pc := 51) 0 dX11_count_51 rfl ?_
  refine x_lload_n (μ := mu_tw_count) (pc := 52) 1 dX11_count_52 rfl ?_
  refine x_fpl (μ := mu_tw_count) (pc := 53) fX11_78 q2714 dX11_count_53 hM.1 (fun _ q => gTw_wL q) ?_
  refine x_let (fun s7 e8 => ?_)
  have hM9 := TM.eL e8 hM
  exact okj_tw_count_j56 hdp hM9 hv3
def tw_count (h : Nat) (v1 : Int) (v2 : Int) (σ : gMem) : Option gMem := if 0 ≤ v2 ∧ v2 < ((200 : Nat) : Int) then gLet (wL σ h 77 (w64 ((mL σ h 77) + (mL σ (h + 34) v2.toNat)))) (fun s3 => if mI s3 h 76 = 0 then tw_count_j51 h (mL σ (h + 34) v2.toNat)  s3 else if v1 ≠ 34 then if gcmp (mL σ (h + 34) v2.toNat) (mL s3 h 78) ≤ 0 then tw_count_j56 h (mL σ (h + 34) v2.toNat)  s3 else tw_count_j51 h (mL σ (h + 34) v2.toNat)  s3 else if 0 ≤ gcmp (mL σ (h + 34) v2.toNat) (mL s3 h 78) then tw_count_j56 h (mL σ (h + 34) v2.toNat)  s3 else tw_count_j51 h (mL σ (h + 34) v2.toNat)  s3) else none
set_option maxRecDepth 100000 in
theorem ok_tw_count {ω : gW} {l : Launch} {d : Nat} {h : Nat} {σ : gMem} {v1 : Int} {v2 : Int} (hdp : 0 ≤ d) (hM : TM σ h) (hv1 : g32 v1) (hv2 : g32 v2) : gK (fun p : gMem => (.inl none, p)) gTw ω l d mu_tw_count [vR h, vI v1, vI v2] σ (tw_count h v1 v2 σ) := by
  refine gK.of hp_X11 (Nat.le_of_ble_eq_true rfl) ?_
  unfold tw_count
  refine x_aload_n (μ := mu_tw_count) (pc := 0) 0 dX11_count_0 rfl ?_
  refine x_fgrE (μ := mu_tw_count) (pc := 1) fX11_67 (Or.inr ⟨_, rfl⟩) q2703 (hM.a67).1 dX11_count_1 hM.1 ?_
  refine x_iload_n (μ := mu_tw_count) (pc := 4) 2 dX11_count_4 rfl ?_
  refine x_lald (μ := mu_tw_count) (pc := 5) dX11_count_5 (hM.a67).2.1 (hM.a67).2.2 (fun hr1 => ?_)
  refine x_lstore_n (μ := mu_tw_count) (pc := 6) (lv' := [(3, vL (mL σ (h + 34) v2.toNat)), (0, vR h), (1, vI v1), (2, vI v2)]) dX11_count_6 rfl (by decide) rfl ?_
  refine x_aload_n (μ := mu_tw_count) (pc := 7) 1 dX11_count_7 rfl ?_
  refine x_aload_n (μ := mu_tw_count) (pc := 8) 1 dX11_count_8 rfl ?_
  refine x_fgl (μ := mu_tw_count) (pc := 9) fX11_77 q2713 dX11_count_9 hM.1 (fun hr2 => ?_)
  refine x_lload_n (μ := mu_tw_count) (pc := 12) 0 dX11_count_12 rfl ?_
  refine x_ladd (μ := mu_tw_count) (pc := 13) dX11_count_13 ?_
  refine x_W1 ?_
  refine x_fpl (μ := mu_tw_count) (pc := 14) fX11_77 q2713 dX11_count_14 hM.1 (fun _ q => gTw_wL q) ?_
  refine x_let (fun s3 e4 => ?_)
  have hM5 := TM.eL e4 hM
  refine x_aload_n (μ := mu_tw_count) (pc := 17) 1 dX11_count_17 rfl ?_
  refine x_fgi (μ := mu_tw_count) (pc := 18) fX11_76 q2712 dX11_count_18 hM5.1 (fun hr6 => ?_)
  refine x_if_eq (μ := mu_tw_count) (pc := 21) (tgt := 51) dX11_count_21 rfl hr6 ?_ ?_
  · refine x_loc (lv' := [(0, vR h), (3, vL (mL σ (h + 34) v2.toNat))]) [1, 0] rfl ?_
    exact okj_tw_count_j51 hdp hM5 hr1
  · refine x_iload_n (μ := mu_tw_count) (pc := 24) 2 dX11_count_24 rfl ?_
    refine x_bipush (μ := mu_tw_count) (pc := 25) dX11_count_25 (by decide) ?_
    refine x_icmp_ne (μ := mu_tw_count) (pc := 27) (tgt := 42) dX11_count_27 rfl hv1 (by decide) ?_ ?_
    · refine x_lload_n (μ := mu_tw_count) (pc := 42) 0 dX11_count_42 rfl ?_
      refine x_aload_n (μ := mu_tw_count) (pc := 43) 1 dX11_count_43 rfl ?_
      refine x_fgl (μ := mu_tw_count) (pc := 44) fX11_78 q2714 dX11_count_44 hM5.1 (fun hr24 => ?_)
      refine x_lcmp (μ := mu_tw_count) (pc := 47) dX11_count_47 hr1 hr24 ?_
      refine x_if_le (μ := mu_tw_count) (pc := 48) (tgt := 56) dX11_count_48 rfl (gcmp_rng _ _) ?_ ?_
      · refine x_loc (lv' := [(0, vR h), (3, vL (mL σ (h + 34) v2.toNat))]) [1, 0] rfl ?_
        exact okj_tw_count_j56 hdp hM5 hr1
      · refine x_loc (lv' := [(0, vR h), (3, vL (mL σ (h + 34) v2.toNat))]) [1, 0] rfl ?_
        exact okj_tw_count_j51 hdp hM5 hr1
    · refine x_lload_n (μ := mu_tw_count) (pc := 30) 0 dX11_count_30 rfl ?_
      refine x_aload_n (μ := mu_tw_count) (pc := 31) 1 dX11_count_31 rfl ?_
      refine x_fgl (μ := mu_tw_count) (pc := 32) fX11_78 q2714 dX11_count_32 hM5.1 (fun hr25 => ?_)
      refine x_lcmp (μ := mu_tw_count) (pc := 35) dX11_count_35 hr1 hr25 ?_
      refine x_if_ge (μ := mu_tw_count) (pc := 36) (tgt := 56) dX11_count_36 rfl (gcmp_rng _ _) ?_ ?_
      · refine x_loc (lv' := [(0, vR h), (3, vL (mL σ (h + 34) v2.toNat))]) [1, 0] rfl ?_
        exact okj_tw_count_j56 hdp hM5 hr1
      · refine x_goto (μ := mu_tw_count) (pc := 39) (tgt := 51) dX11_count_39 rfl ?_
        refine x_loc (lv' := [(0, vR h), (3, vL (mL σ (h + 34) v2.toNat))]) [1, 0] rfl ?_
        exact okj_tw_count_j51 hdp hM5 hr1
def tw_wantsTruths (v0 : Int) (σ : gMem) : Option Int := if v0 = 31 then some 1 else if v0 ≠ 32 then some 0 else some 1
set_option maxRecDepth 100000 in
theorem ok_tw_wantsTruths {ω : gW} {l : Launch} {d : Nat} {σ : gMem} {v0 : Int} (hdp : 0 ≤ d) (hv0 : g32 v0) : gK (fun x : Int => (.inl (some (vI x)), σ)) gTw ω l d mu_tw_wantsTruths [vI v0] σ (tw_wantsTruths v0 σ) := by
  refine gK.of hp_X11 (Nat.le_of_ble_eq_true rfl) ?_
  unfold tw_wantsTruths
  refine x_iload_n (μ := mu_tw_wantsTruths) (pc := 0) 0 dX11_wantsTruths_0 rfl ?_
  refine x_bipush (μ := mu_tw_wantsTruths) (pc := 1) dX11_wantsTruths_1 (by decide) ?_
  refine x_icmp_eq (μ := mu_tw_wantsTruths) (pc := 3) (tgt := 12) dX11_wantsTruths_3 rfl hv0 (by decide) ?_ ?_
  · refine x_iconst (μ := mu_tw_wantsTruths) (pc := 12) dX11_wantsTruths_12 ?_
    refine x_goto (μ := mu_tw_wantsTruths) (pc := 13) (tgt := 17) dX11_wantsTruths_13 rfl ?_
    exact x_zret (μ := mu_tw_wantsTruths) (pc := 17) dX11_wantsTruths_17 rfl (by decide) rfl (gRel_Tw.1 _) (show g32 1 from (by decide))
  · refine x_iload_n (μ := mu_tw_wantsTruths) (pc := 6) 0 dX11_wantsTruths_6 rfl ?_
    refine x_bipush (μ := mu_tw_wantsTruths) (pc := 7) dX11_wantsTruths_7 (by decide) ?_
    refine x_icmp_ne (μ := mu_tw_wantsTruths) (pc := 9) (tgt := 16) dX11_wantsTruths_9 rfl hv0 (by decide) ?_ ?_
    · refine x_iconst (μ := mu_tw_wantsTruths) (pc := 16) dX11_wantsTruths_16 ?_
      exact x_zret (μ := mu_tw_wantsTruths) (pc := 17) dX11_wantsTruths_17 rfl (by decide) rfl (gRel_Tw.1 _) (show g32 0 from (by decide))
    · refine x_iconst (μ := mu_tw_wantsTruths) (pc := 12) dX11_wantsTruths_12 ?_
      refine x_goto (μ := mu_tw_wantsTruths) (pc := 13) (tgt := 17) dX11_wantsTruths_13 rfl ?_
      exact x_zret (μ := mu_tw_wantsTruths) (pc := 17) dX11_wantsTruths_17 rfl (by decide) rfl (gRel_Tw.1 _) (show g32 1 from (by decide))
def tw_countArea_l2_j65 (N : Nat) (h : Nat) (v1 : Int) (v2 : Int) (v3 : Int) (Kh : Int → gMem → Option (Int × gMem)) (K : gMem → Option (Int × gMem)) (s : gMem) : Option (Int × gMem) := Kh (w32 (v3 + 1)) s
set_option maxRecDepth 100000 in
theorem okj_tw_countArea_l2_j65 {ω : gW} {l : Launch} {d : Nat} {N : Nat} {h : Nat} {σ0 : gMem} {s : gMem} {v1 : Int} {v2 : Int} {v3 : Int} {Kh : Int → gMem → Option (Int × gMem)} {K : gMem → Option (Int × gMem)} (hdp : 2 ≤ d) (hM : TM s h) (hv1 : g32 v1) (hv2 : g32 v2) (hv3 : g32 v3) (hKh : ∀ (v3 : Int) (s : gMem) , g32 v3 → TM s h → GG (fun p : Int × gMem => (.inl (some (vI p.1)), p.2)) gTw ω l d mu_tw_countArea σ0 2 [(0, vR h), (1, vI v1), (2, vI v2), (3, vI v3)] [] s (Kh v3 s)) (hK : ∀ (s : gMem) , TM s h → GG (fun p : Int × gMem => (.inl (some (vI p.1)), p.2)) gTw ω l d mu_tw_countArea σ0 71 [] [] s (K s)) : GG (fun p : Int × gMem => (.inl (some (vI p.1)), p.2)) gTw ω l d mu_tw_countArea σ0 65 [(0, vR h), (1, vI v1), (2, vI v2), (3, vI v3)] [] s (tw_countArea_l2_j65 N h v1 v2 v3 Kh K s) := by
  unfold tw_countArea_l2_j65
  refine x_iincw (μ := mu_tw_countArea) (pc := 65) (lv' := [(3, vI (w32 (v3 + 1))), (0, vR h), (1, vI v1), (2, vI v2)]) 3 dX11_countArea_65 rfl (by decide) rfl ?_
  refine x_goto (μ := mu_tw_countArea) (pc := 68) (tgt := 2) dX11_countArea_68 rfl ?_
  refine x_loc (lv' := [(0, vR h), (1, vI v1), (2, vI v2), (3, vI (w32 (v3 + 1)))]) [1, 2, 3, 0] rfl ?_
  exact hKh (w32 (v3 + 1)) s (w32_rng _) hM
def tw_countArea_l2_j56 (N : Nat) (h : Nat) (v1 : Int) (v2 : Int) (v3 : Int) (t0 : Int) (t1 : Int) (Kh : Int → gMem → Option (Int × gMem)) (K : gMem → Option (Int × gMem)) (s : gMem) : Option (Int × gMem) := if t1 ≠ t0 then tw_countArea_l2_j65 N h v1 v2 v3  (Kh) K s else (tw_count h v1 v2 s).bind (fun x12 => tw_countArea_l2_j65 N h v1 v2 v3  (Kh) K x12)
set_option maxRecDepth 100000 in
theorem okj_tw_countArea_l2_j56 {ω : gW} {l : Launch} {d : Nat} {N : Nat} {h : Nat} {σ0 : gMem} {s : gMem} {v1 : Int} {v2 : Int} {v3 : Int} {t0 : Int} {t1 : Int} {Kh : Int → gMem → Option (Int × gMem)} {K : gMem → Option (Int × gMem)} (hdp : 2 ≤ d) (hM : TM s h) (hv1 : g32 v1) (hv2 : g32 v2) (hv3 : g32 v3) (ht0 : g32 t0) (ht1 : g32 t1) (hKh : ∀ (v3 : Int) (s : gMem) , g32 v3 → TM s h → GG (fun p : Int × gMem => (.inl (some (vI p.1)), p.2)) gTw ω l d mu_tw_countArea σ0 2 [(0, vR h), (1, vI v1), (2, vI v2), (3, vI v3)] [] s (Kh v3 s)) (hK : ∀ (s : gMem) , TM s h → GG (fun p : Int × gMem => (.inl (some (vI p.1)), p.2)) gTw ω l d mu_tw_countArea σ0 71 [] [] s (K s)) : GG (fun p : Int × gMem => (.inl (some (vI p.1)), p.2)) gTw ω l d mu_tw_countArea σ0 56 [(0, vR h), (1, vI v1), (2, vI v2), (3, vI v3)] [vI t0, vI t1] s (tw_countArea_l2_j56 N h v1 v2 v3 t0 t1 Kh K s) := by
  unfold tw_countArea_l2_j56
  refine x_icmp_ne (μ := mu_tw_countArea) (pc := 56) (tgt := 65) dX11_countArea_56 rfl ht1 ht0 ?_ ?_
  · exact okj_tw_countArea_l2_j65 hdp hM hv1 hv2 hv3 hKh hK
  · refine x_aload_n (μ := mu_tw_countArea) (pc := 59) 0 dX11_countArea_59 rfl ?_
    refine x_iload_n (μ := mu_tw_countArea) (pc := 60) 1 dX11_countArea_60 rfl ?_
    refine x_iload_n (μ := mu_tw_countArea) (pc := 61) 2 dX11_countArea_61 rfl ?_
    refine x_callV_mv (μ := mu_tw_countArea) (pc := 62) (ok_tw_count (ω := ω) (l := l) (d := d - 1) (by omega) hM hv1 hv2) gRel_Tw gRel_Tw (fun _ q => q) q3410 q3412 qs166 q232 q3413 dX11_countArea_62 rfl hM.1 hy_tw_count (by omega) (Nat.le_of_ble_eq_true rfl) rfl (Nat.le_of_ble_eq_true rfl) (fun x12 k13 => ?_)
    have hM14 : TM x12 h := hM.tw k13
    exact okj_tw_countArea_l2_j65 hdp hM14 hv1 hv2 hv3 hKh hK
def tw_countArea_l2_j38 (N : Nat) (h : Nat) (v1 : Int) (v2 : Int) (v3 : Int) (Kh : Int → gMem → Option (Int × gMem)) (K : gMem → Option (Int × gMem)) (s : gMem) : Option (Int × gMem) := if 0 ≤ v2 ∧ v2 < ((200 : Nat) : Int) then (tw_wantsTruths v1 s).bind (fun x10 => if x10 = 0 then tw_countArea_l2_j56 N h v1 v2 v3 1 (mI s (h + 33) v2.toNat) (Kh) K s else tw_countArea_l2_j56 N h v1 v2 v3 3 (mI s (h + 33) v2.toNat) (Kh) K s) else none
set_option maxRecDepth 100000 in
theorem okj_tw_countArea_l2_j38 {ω : gW} {l : Launch} {d : Nat} {N : Nat} {h : Nat} {σ0 : gMem} {s : gMem} {v1 : Int} {v2 : Int} {v3 : Int} {Kh : Int → gMem → Option (Int × gMem)} {K : gMem → Option (Int × gMem)} (hdp : 2 ≤ d) (hM : TM s h) (hv1 : g32 v1) (hv2 : g32 v2) (hv3 : g32 v3) (hKh : ∀ (v3 : Int) (s : gMem) , g32 v3 → TM s h → GG (fun p : Int × gMem => (.inl (some (vI p.1)), p.2)) gTw ω l d mu_tw_countArea σ0 2 [(0, vR h), (1, vI v1), (2, vI v2), (3, vI v3)] [] s (Kh v3 s)) (hK : ∀ (s : gMem) , TM s h → GG (fun p : Int × gMem => (.inl (some (vI p.1)), p.2)) gTw ω l d mu_tw_countArea σ0 71 [] [] s (K s)) : GG (fun p : Int × gMem => (.inl (some (vI p.1)), p.2)) gTw ω l d mu_tw_countArea σ0 38 [(0, vR h), (1, vI v1), (2, vI v2), (3, vI v3)] [] s (tw_countArea_l2_j38 N h v1 v2 v3 Kh K s) := by
  unfold tw_countArea_l2_j38
  refine x_aload_n (μ := mu_tw_countArea) (pc := 38) 0 dX11_countArea_38 rfl ?_
  refine x_fgrE (μ := mu_tw_countArea) (pc := 39) fX11_66 (Or.inr ⟨_, rfl⟩) q2702 (hM.a66).1 dX11_countArea_39 hM.1 ?_
  refine x_iload_n (μ := mu_tw_countArea) (pc := 42) 2 dX11_countArea_42 rfl ?_
  refine x_iald (μ := mu_tw_countArea) (pc := 43) dX11_countArea_43 (hM.a66).2.1 (hM.a66).2.2 (fun hr9 => ?_)
  refine x_iload_n (μ := mu_tw_countArea) (pc := 44) 1 dX11_countArea_44 rfl ?_
  refine x_callS_pi (μ := mu_tw_countArea) (pc := 45) (ok_tw_wantsTruths (ω := ω) (l := l) (d := d - 1) (by omega) hv1) gRel_Tw gRel_Tw (fun _ q => q) q3414 q3415 q232 q3416 dX11_countArea_45 hy_tw_wantsTruths (by omega) (Nat.le_of_ble_eq_true rfl) rfl (Nat.le_of_ble_eq_true rfl) (fun x10 hr11 => ?_)
  refine x_if_eq (μ := mu_tw_countArea) (pc := 48) (tgt := 55) dX11_countArea_48 rfl hr11 ?_ ?_
  · refine x_iconst (μ := mu_tw_countArea) (pc := 55) dX11_countArea_55 ?_
    exact okj_tw_countArea_l2_j56 hdp hM hv1 hv2 hv3 (by decide) hr9 hKh hK
  · refine x_iconst (μ := mu_tw_countArea) (pc := 51) dX11_countArea_51 ?_
    refine x_goto (μ := mu_tw_countArea) (pc := 52) (tgt := 56) dX11_countArea_52 rfl ?_
    exact okj_tw_countArea_l2_j56 hdp hM hv1 hv2 hv3 (by decide) hr9 hKh hK
def tw_countArea_l2 (N : Nat) (h : Nat) (v1 : Int) (v2 : Int) (K : gMem → Option (Int × gMem)) : Nat → Int → gMem → Option (Int × gMem)
  | 0, _, _ => none
  | n + 1, v3, s => (tw_areaSize h s).bind (fun x1 => if x1 ≤ v3 then K s else (tw_areaCell h v3 s).bind (fun x3 => (tw_load N h v2 x3 s).bind (fun x5 => if 0 ≤ v2 ∧ v2 < ((200 : Nat) : Int) then if mI x5 (h + 33) v2.toNat ≠ 4 then tw_countArea_l2_j38 N h v1 v2 v3  (tw_countArea_l2 N h v1 v2 K n) K x5 else if v1 = 36 then tw_countArea_l2_j38 N h v1 v2 v3  (tw_countArea_l2 N h v1 v2 K n) K x5 else some (0, x5) else none)))
set_option maxRecDepth 100000 in
theorem okl_tw_countArea_l2 {ω : gW} {l : Launch} {d : Nat} {N : Nat} {h : Nat} {σ0 : gMem} {v1 : Int} {v2 : Int} {K : gMem → Option (Int × gMem)} (hdp : 2 ≤ d) (hv1 : g32 v1) (hv2 : g32 v2) (hK : ∀ (s : gMem) , TM s h → GG (fun p : Int × gMem => (.inl (some (vI p.1)), p.2)) gTw ω l d mu_tw_countArea σ0 71 [] [] s (K s)) : ∀ (n : Nat) (v3 : Int) (s : gMem) , g32 v3 → TM s h → GG (fun p : Int × gMem => (.inl (some (vI p.1)), p.2)) gTw ω l d mu_tw_countArea σ0 2 [(0, vR h), (1, vI v1), (2, vI v2), (3, vI v3)] [] s (tw_countArea_l2 N h v1 v2 K n v3 s) := by
  intro n
  induction n with
  | zero => intros; exact x_none
  | succ n ih =>
    intro v3 s hv3 hM
    unfold tw_countArea_l2
    refine x_iload_n (μ := mu_tw_countArea) (pc := 2) 3 dX11_countArea_2 rfl ?_
    refine x_aload_n (μ := mu_tw_countArea) (pc := 3) 0 dX11_countArea_3 rfl ?_
    refine x_callV_pi (μ := mu_tw_countArea) (pc := 4) (ok_tw_areaSize (ω := ω) (l := l) (d := d - 1) (by omega) hM ) gRel_Tw gRel_Tw (fun _ q => q) q3263 q3265 qs132 q232 q3266 dX11_countArea_4 rfl hM.1 hy_tw_areaSize (by omega) (Nat.le_of_ble_eq_true rfl) rfl (Nat.le_of_ble_eq_true rfl) (fun x1 hr2 => ?_)
    refine x_icmp_ge (μ := mu_tw_countArea) (pc := 7) (tgt := 71) dX11_countArea_7 rfl hv3 hr2 ?_ ?_
    · refine x_loc (lv' := []) [] rfl ?_
      exact hK s hM
    · refine x_aload_n (μ := mu_tw_countArea) (pc := 10) 0 dX11_countArea_10 rfl ?_
      refine x_iload_n (μ := mu_tw_countArea) (pc := 11) 2 dX11_countArea_11 rfl ?_
      refine x_aload_n (μ := mu_tw_countArea) (pc := 12) 0 dX11_countArea_12 rfl ?_
      refine x_iload_n (μ := mu_tw_countArea) (pc := 13) 3 dX11_countArea_13 rfl ?_
      refine x_callV_pi (μ := mu_tw_countArea) (pc := 14) (ok_tw_areaCell (ω := ω) (l := l) (d := d - 1) (by omega) hM hv3) gRel_Tw gRel_Tw (fun _ q => q) q3267 q3269 qs133 q232 q3270 dX11_countArea_14 rfl hM.1 hy_tw_areaCell (by omega) (Nat.le_of_ble_eq_true rfl) rfl (Nat.le_of_ble_eq_true rfl) (fun x3 hr4 => ?_)
      refine x_callV_mv (μ := mu_tw_countArea) (pc := 17) (ok_tw_load (ω := ω) (l := l) (d := d - 1) (by omega) hM hv2 hr4) gRel_Tw gRel_Tw (fun _ q => q) q3326 q3328 qs146 q232 q3329 dX11_countArea_17 rfl hM.1 hy_tw_load (by omega) (Nat.le_of_ble_eq_true rfl) rfl (Nat.le_of_ble_eq_true rfl) (fun x5 k6 => ?_)
      have hM7 : TM x5 h := hM.tw k6
      refine x_aload_n (μ := mu_tw_countArea) (pc := 20) 0 dX11_countArea_20 rfl ?_
      refine x_fgrE (μ := mu_tw_countArea) (pc := 21) fX11_66 (Or.inr ⟨_, rfl⟩) q2702 (hM7.a66).1 dX11_countArea_21 hM7.1 ?_
      refine x_iload_n (μ := mu_tw_countArea) (pc := 24) 2 dX11_countArea_24 rfl ?_
      refine x_iald (μ := mu_tw_countArea) (pc := 25) dX11_countArea_25 (hM7.a66).2.1 (hM7.a66).2.2 (fun hr8 => ?_)
      refine x_iconst (μ := mu_tw_countArea) (pc := 26) dX11_countArea_26 ?_
      refine x_icmp_ne (μ := mu_tw_countArea) (pc := 27) (tgt := 38) dX11_countArea_27 rfl hr8 (by decide) ?_ ?_
      · exact okj_tw_countArea_l2_j38 hdp hM7 hv1 hv2 hv3 ih hK
      · refine x_iload_n (μ := mu_tw_countArea) (pc := 30) 1 dX11_countArea_30 rfl ?_
        refine x_bipush (μ := mu_tw_countArea) (pc := 31) dX11_countArea_31 (by decide) ?_
        refine x_icmp_eq (μ := mu_tw_countArea) (pc := 33) (tgt := 38) dX11_countArea_33 rfl hv1 (by decide) ?_ ?_
        · exact okj_tw_countArea_l2_j38 hdp hM7 hv1 hv2 hv3 ih hK
        · refine x_iconst (μ := mu_tw_countArea) (pc := 36) dX11_countArea_36 ?_
          exact x_zret (μ := mu_tw_countArea) (pc := 37) dX11_countArea_37 rfl (by decide) rfl (gRel_Tw.1 _) (show g32 0 from (by decide))
def tw_countArea (N : Nat) (h : Nat) (v1 : Int) (v2 : Int) (σ : gMem) : Option (Int × gMem) := tw_countArea_l2 N h v1 v2 (fun s15 => some (1, s15)) N 0 σ
set_option maxRecDepth 100000 in
theorem ok_tw_countArea {ω : gW} {l : Launch} {d : Nat} {N : Nat} {h : Nat} {σ : gMem} {v1 : Int} {v2 : Int} (hdp : 2 ≤ d) (hM : TM σ h) (hv1 : g32 v1) (hv2 : g32 v2) : gK (fun p : Int × gMem => (.inl (some (vI p.1)), p.2)) gTw ω l d mu_tw_countArea [vR h, vI v1, vI v2] σ (tw_countArea N h v1 v2 σ) := by
  refine gK.of hp_X11 (Nat.le_of_ble_eq_true rfl) ?_
  unfold tw_countArea
  refine x_iconst (μ := mu_tw_countArea) (pc := 0) dX11_countArea_0 ?_
  refine x_istore_n (μ := mu_tw_countArea) (pc := 1) (lv' := [(3, vI 0), (0, vR h), (1, vI v1), (2, vI v2)]) dX11_countArea_1 rfl (by decide) rfl ?_
  refine x_loc (lv' := [(0, vR h), (1, vI v1), (2, vI v2), (3, vI 0)]) [1, 2, 3, 0] rfl ?_
  refine okl_tw_countArea_l2 hdp hv1 hv2 (fun s15 hM16 => ?_) N 0 σ (by decide) hM
  refine x_iconst (μ := mu_tw_countArea) (pc := 71) dX11_countArea_71 ?_
  exact x_zret (μ := mu_tw_countArea) (pc := 72) dX11_countArea_72 rfl (by decide) rfl (gRel_Tw.1 _) (show g32 1 from (by decide))
def tw_come (h : Nat) (v1 : Int) (v2 : Int) (σ : gMem) : Option gMem := if v1 ≠ 31 then if v1 ≠ 32 then if v1 ≠ 36 then if v1 ≠ 33 then if mI σ h 76 ≠ 0 then (tw_number h v2 (mL σ h 78) σ).bind (fun x3 => some x3) else (tw_error h v2 7 σ).bind (fun x6 => some x6) else (tw_number h v2 (mL σ h 77) σ).bind (fun x10 => some x10) else (tw_number h v2 (mI σ h 76) σ).bind (fun x14 => some x14) else (tw_truth h v2 (mI σ h 80) σ).bind (fun x18 => some x18) else (tw_truth h v2 (mI σ h 79) σ).bind (fun x22 => some x22)
set_option maxRecDepth 100000 in
theorem ok_tw_come {ω : gW} {l : Launch} {d : Nat} {h : Nat} {σ : gMem} {v1 : Int} {v2 : Int} (hdp : 1 ≤ d) (hM : TM σ h) (hv1 : g32 v1) (hv2 : g32 v2) : gK (fun p : gMem => (.inl none, p)) gTw ω l d mu_tw_come [vR h, vI v1, vI v2] σ (tw_come h v1 v2 σ) := by
  refine gK.of hp_X11 (Nat.le_of_ble_eq_true rfl) ?_
  unfold tw_come
  refine x_iload_n (μ := mu_tw_come) (pc := 0) 1 dX11_come_0 rfl ?_
  refine x_bipush (μ := mu_tw_come) (pc := 1) dX11_come_1 (by decide) ?_
  refine x_icmp_ne (μ := mu_tw_come) (pc := 3) (tgt := 18) dX11_come_3 rfl hv1 (by decide) ?_ ?_
  · refine x_iload_n (μ := mu_tw_come) (pc := 18) 1 dX11_come_18 rfl ?_
    refine x_bipush (μ := mu_tw_come) (pc := 19) dX11_come_19 (by decide) ?_
    refine x_icmp_ne (μ := mu_tw_come) (pc := 21) (tgt := 36) dX11_come_21 rfl hv1 (by decide) ?_ ?_
    · refine x_iload_n (μ := mu_tw_come) (pc := 36) 1 dX11_come_36 rfl ?_
      refine x_bipush (μ := mu_tw_come) (pc := 37) dX11_come_37 (by decide) ?_
      refine x_icmp_ne (μ := mu_tw_come) (pc := 39) (tgt := 55) dX11_come_39 rfl hv1 (by decide) ?_ ?_
      · refine x_iload_n (μ := mu_tw_come) (pc := 55) 1 dX11_come_55 rfl ?_
        refine x_bipush (μ := mu_tw_come) (pc := 56) dX11_come_56 (by decide) ?_
        refine x_icmp_ne (μ := mu_tw_come) (pc := 58) (tgt := 73) dX11_come_58 rfl hv1 (by decide) ?_ ?_
        · refine x_aload_n (μ := mu_tw_come) (pc := 73) 0 dX11_come_73 rfl ?_
          refine x_fgi (μ := mu_tw_come) (pc := 74) fX11_76 q2712 dX11_come_74 hM.1 (fun hr1 => ?_)
          refine x_if_ne (μ := mu_tw_come) (pc := 77) (tgt := 90) dX11_come_77 rfl hr1 ?_ ?_
          · refine x_aload_n (μ := mu_tw_come) (pc := 90) 0 dX11_come_90 rfl ?_
            refine x_iload_n (μ := mu_tw_come) (pc := 91) 2 dX11_come_91 rfl ?_
            refine x_aload_n (μ := mu_tw_come) (pc := 92) 0 dX11_come_92 rfl ?_
            refine x_fgl (μ := mu_tw_come) (pc := 93) fX11_78 q2714 dX11_come_93 hM.1 (fun hr2 => ?_)
            refine x_callV_mv (μ := mu_tw_come) (pc := 96) (ok_tw_number (ω := ω) (l := l) (d := d - 1) (by omega) hM hv2 hr2) gRel_Tw gRel_Tw (fun _ q => q) q3315 q3317 qs144 q232 q3318 dX11_come_96 rfl hM.1 hy_tw_number (by omega) (Nat.le_of_ble_eq_true rfl) rfl (Nat.le_of_ble_eq_true rfl) (fun x3 k4 => ?_)
            have hM5 : TM x3 h := hM.tw k4
            exact x_vret (μ := mu_tw_come) (pc := 99) (a1 := x3) dX11_come_99 rfl rfl (gRel_Tw.1 _) trivial
          · refine x_aload_n (μ := mu_tw_come) (pc := 80) 0 dX11_come_80 rfl ?_
            refine x_iload_n (μ := mu_tw_come) (pc := 81) 2 dX11_come_81 rfl ?_
            refine x_bipush (μ := mu_tw_come) (pc := 82) dX11_come_82 (by decide) ?_
            refine x_callV_mv (μ := mu_tw_come) (pc := 84) (ok_tw_error (ω := ω) (l := l) (d := d - 1) (by omega) hM hv2 (by decide)) gRel_Tw gRel_Tw (fun _ q => q) q3294 q3296 qs139 q232 q3297 dX11_come_84 rfl hM.1 hy_tw_error (by omega) (Nat.le_of_ble_eq_true rfl) rfl (Nat.le_of_ble_eq_true rfl) (fun x6 k7 => ?_)
            have hM8 : TM x6 h := hM.tw k7
            refine x_goto (μ := mu_tw_come) (pc := 87) (tgt := 99) dX11_come_87 rfl ?_
            exact x_vret (μ := mu_tw_come) (pc := 99) (a1 := x6) dX11_come_99 rfl rfl (gRel_Tw.1 _) trivial
        · refine x_aload_n (μ := mu_tw_come) (pc := 61) 0 dX11_come_61 rfl ?_
          refine x_iload_n (μ := mu_tw_come) (pc := 62) 2 dX11_come_62 rfl ?_
          refine x_aload_n (μ := mu_tw_come) (pc := 63) 0 dX11_come_63 rfl ?_
          refine x_fgl (μ := mu_tw_come) (pc := 64) fX11_77 q2713 dX11_come_64 hM.1 (fun hr9 => ?_)
          refine x_callV_mv (μ := mu_tw_come) (pc := 67) (ok_tw_number (ω := ω) (l := l) (d := d - 1) (by omega) hM hv2 hr9) gRel_Tw gRel_Tw (fun _ q => q) q3315 q3317 qs144 q232 q3318 dX11_come_67 rfl hM.1 hy_tw_number (by omega) (Nat.le_of_ble_eq_true rfl) rfl (Nat.le_of_ble_eq_true rfl) (fun x10 k11 => ?_)
          have hM12 : TM x10 h := hM.tw k11
          refine x_goto (μ := mu_tw_come) (pc := 70) (tgt := 99) dX11_come_70 rfl ?_
          exact x_vret (μ := mu_tw_come) (pc := 99) (a1 := x10) dX11_come_99 rfl rfl (gRel_Tw.1 _) trivial
      · refine x_aload_n (μ := mu_tw_come) (pc := 42) 0 dX11_come_42 rfl ?_
        refine x_iload_n (μ := mu_tw_come) (pc := 43) 2 dX11_come_43 rfl ?_
        refine x_aload_n (μ := mu_tw_come) (pc := 44) 0 dX11_come_44 rfl ?_
        refine x_fgi (μ := mu_tw_come) (pc := 45) fX11_76 q2712 dX11_come_45 hM.1 (fun hr13 => ?_)
        refine x_i2l (μ := mu_tw_come) (pc := 48) dX11_come_48 hr13 ?_
        refine x_callV_mv (μ := mu_tw_come) (pc := 49) (ok_tw_number (ω := ω) (l := l) (d := d - 1) (by omega) hM hv2 (g32_64 hr13)) gRel_Tw gRel_Tw (fun _ q => q) q3315 q3317 qs144 q232 q3318 dX11_come_49 rfl hM.1 hy_tw_number (by omega) (Nat.le_of_ble_eq_true rfl) rfl (Nat.le_of_ble_eq_true rfl) (fun x14 k15 => ?_)
        have hM16 : TM x14 h := hM.tw k15
        refine x_goto (μ := mu_tw_come) (pc := 52) (tgt := 99) dX11_come_52 rfl ?_
        exact x_vret (μ := mu_tw_come) (pc := 99) (a1 := x14) dX11_come_99 rfl rfl (gRel_Tw.1 _) trivial
    · refine x_aload_n (μ := mu_tw_come) (pc := 24) 0 dX11_come_24 rfl ?_
      refine x_iload_n (μ := mu_tw_come) (pc := 25) 2 dX11_come_25 rfl ?_
      refine x_aload_n (μ := mu_tw_come) (pc := 26) 0 dX11_come_26 rfl ?_
      refine x_fgz (μ := mu_tw_come) (pc := 27) fX11_80 q2716 dX11_come_27 hM.1 (fun hr17 => ?_)
      refine x_callV_mv (μ := mu_tw_come) (pc := 30) (ok_tw_truth (ω := ω) (l := l) (d := d - 1) (by omega) hM hv2 hr17) gRel_Tw gRel_Tw (fun _ q => q) q3322 q3324 qs145 q232 q3325 dX11_come_30 rfl hM.1 hy_tw_truth (by omega) (Nat.le_of_ble_eq_true rfl) rfl (Nat.le_of_ble_eq_true rfl) (fun x18 k19 => ?_)
      have hM20 : TM x18 h := hM.tw k19
      refine x_goto (μ := mu_tw_come) (pc := 33) (tgt := 99) dX11_come_33 rfl ?_
      exact x_vret (μ := mu_tw_come) (pc := 99) (a1 := x18) dX11_come_99 rfl rfl (gRel_Tw.1 _) trivial
  · refine x_aload_n (μ := mu_tw_come) (pc := 6) 0 dX11_come_6 rfl ?_
    refine x_iload_n (μ := mu_tw_come) (pc := 7) 2 dX11_come_7 rfl ?_
    refine x_aload_n (μ := mu_tw_come) (pc := 8) 0 dX11_come_8 rfl ?_
    refine x_fgz (μ := mu_tw_come) (pc := 9) fX11_79 q2715 dX11_come_9 hM.1 (fun hr21 => ?_)
    refine x_callV_mv (μ := mu_tw_come) (pc := 12) (ok_tw_truth (ω := ω) (l := l) (d := d - 1) (by omega) hM hv2 hr21) gRel_Tw gRel_Tw (fun _ q => q) q3322 q3324 qs145 q232 q3325 dX11_come_12 rfl hM.1 hy_tw_truth (by omega) (Nat.le_of_ble_eq_true rfl) rfl (Nat.le_of_ble_eq_true rfl) (fun x22 k23 => ?_)
    have hM24 : TM x22 h := hM.tw k23
    refine x_goto (μ := mu_tw_come) (pc := 15) (tgt := 99) dX11_come_15 rfl ?_
    exact x_vret (μ := mu_tw_come) (pc := 99) (a1 := x22) dX11_come_99 rfl rfl (gRel_Tw.1 _) trivial
def tw_cellAt (h : Nat) (v1 : Int) (v2 : Int) (v3 : Int) (σ : gMem) : Option Int := if 0 ≤ ((((320 * v1) + (10 * (v2 - 1))) + v3) - 1) ∧ ((((320 * v1) + (10 * (v2 - 1))) + v3) - 1) < ((39040 : Nat) : Int) then some (mI σ (h + 5) ((((320 * v1) + (10 * (v2 - 1))) + v3) - 1).toNat) else none
set_option maxRecDepth 100000 in
theorem ok_tw_cellAt {ω : gW} {l : Launch} {d : Nat} {h : Nat} {σ : gMem} {v1 : Int} {v2 : Int} {v3 : Int} (hdp : 0 ≤ d) (hM : TM σ h) (hv1 : g32 v1) (hv2 : g32 v2) (hv3 : g32 v3) : gK (fun x : Int => (.inl (some (vI x)), σ)) gTw ω l d mu_tw_cellAt [vR h, vI v1, vI v2, vI v3] σ (tw_cellAt h v1 v2 v3 σ) := by
  refine gK.of hp_X11 (Nat.le_of_ble_eq_true rfl) ?_
  unfold tw_cellAt
  refine x_aload_n (μ := mu_tw_cellAt) (pc := 0) 0 dX11_cellAt_0 rfl ?_
  refine x_fgrE (μ := mu_tw_cellAt) (pc := 1) fX11_5 (Or.inr ⟨_, rfl⟩) q2641 (hM.a5).1 dX11_cellAt_1 hM.1 ?_
  refine x_sipush (μ := mu_tw_cellAt) (pc := 4) dX11_cellAt_4 (by decide) ?_
  refine x_iload_n (μ := mu_tw_cellAt) (pc := 7) 1 dX11_cellAt_7 rfl ?_
  refine x_imul (μ := mu_tw_cellAt) (pc := 8) dX11_cellAt_8 ?_
  refine x_bipush (μ := mu_tw_cellAt) (pc := 9) dX11_cellAt_9 (by decide) ?_
  refine x_iload_n (μ := mu_tw_cellAt) (pc := 11) 2 dX11_cellAt_11 rfl ?_
  refine x_iconst (μ := mu_tw_cellAt) (pc := 12) dX11_cellAt_12 ?_
  refine x_isub (μ := mu_tw_cellAt) (pc := 13) dX11_cellAt_13 ?_
  refine x_imul (μ := mu_tw_cellAt) (pc := 14) dX11_cellAt_14 ?_
  refine x_iadd (μ := mu_tw_cellAt) (pc := 15) dX11_cellAt_15 ?_
  refine x_iload_n (μ := mu_tw_cellAt) (pc := 16) 3 dX11_cellAt_16 rfl ?_
  refine x_iadd (μ := mu_tw_cellAt) (pc := 17) dX11_cellAt_17 ?_
  refine x_iconst (μ := mu_tw_cellAt) (pc := 18) dX11_cellAt_18 ?_
  refine x_isub (μ := mu_tw_cellAt) (pc := 19) dX11_cellAt_19 ?_
  refine x_iald (μ := mu_tw_cellAt) (pc := 20) dX11_cellAt_20 (hM.a5).2.1 (hM.a5).2.2 (fun hr1 => ?_)
  exact x_iret (μ := mu_tw_cellAt) (pc := 21) dX11_cellAt_21 rfl rfl (gRel_Tw.1 _) (show g32 (mI σ (h + 5) ((((320 * v1) + (10 * (v2 - 1))) + v3) - 1).toNat) from hr1)
def tw_put (h : Nat) (v1 : Int) (σ : gMem) : Option gMem := if 0 ≤ (mI σ h 87) ∧ (mI σ h 87) < ((2000 : Nat) : Int) then gLet (wI σ (h + 42) (mI σ h 87).toNat (bByte v1)) (fun s2 => gLet (wI s2 h 87 (w32 ((mI s2 h 87) + 1))) (fun s6 => some s6)) else none
set_option maxRecDepth 100000 in
theorem ok_tw_put {ω : gW} {l : Launch} {d : Nat} {h : Nat} {σ : gMem} {v1 : Int} (hdp : 0 ≤ d) (hM : TM σ h) (hv1 : g32 v1) : gK (fun p : gMem => (.inl none, p)) gTw ω l d mu_tw_put [vR h, vI v1] σ (tw_put h v1 σ) := by
  refine gK.of hp_X11 (Nat.le_of_ble_eq_true rfl) ?_
  unfold tw_put
  refine x_aload_n (μ := mu_tw_put) (pc := 0) 0 dX11_put_0 rfl ?_
  refine x_fgrE (μ := mu_tw_put) (pc := 1) fX11_86 (Or.inr ⟨_, rfl⟩) q2722 (hM.a86).1 dX11_put_1 hM.1 ?_
  refine x_aload_n (μ := mu_tw_put) (pc := 4) 0 dX11_put_4 rfl ?_
  refine x_fgi (μ := mu_tw_put) (pc := 5) fX11_87 q2723 dX11_put_5 hM.1 (fun hr1 => ?_)
  refine x_iload_n (μ := mu_tw_put) (pc := 8) 1 dX11_put_8 rfl ?_
  refine x_i2b (μ := mu_tw_put) (pc := 9) dX11_put_9 ?_
  refine x_bast (μ := mu_tw_put) (pc := 10) dX11_put_10 (hM.a86).2.1 (hM.a86).2.2 (bByte_b _) (fun _ _ q => gTw_wI q) ?_
  refine x_let (fun s2 e3 => ?_)
  have hM4 := TM.eI e3 hM
  refine x_aload_n (μ := mu_tw_put) (pc := 11) 0 dX11_put_11 rfl ?_
  refine x_dup (μ := mu_tw_put) (pc := 12) dX11_put_12 rfl ?_
  refine x_fgi (μ := mu_tw_put) (pc := 13) fX11_87 q2723 dX11_put_13 hM4.1 (fun hr5 => ?_)
  refine x_iconst (μ := mu_tw_put) (pc := 16) dX11_put_16 ?_
  refine x_iadd (μ := mu_tw_put) (pc := 17) dX11_put_17 ?_
  refine x_w1 ?_
  refine x_fpi (μ := mu_tw_put) (pc := 18) fX11_87 q2723 dX11_put_18 hM4.1 (fun _ q => gTw_wI q) ?_
  refine x_let (fun s6 e7 => ?_)
  have hM8 := TM.eI e7 hM4
  exact x_vret (μ := mu_tw_put) (pc := 21) (a1 := s6) dX11_put_21 rfl rfl (gRel_Tw.1 _) trivial
def tw_level (v0 : Int) (σ : gMem) : Option Int := (tw_in v0 10 15 σ).bind (fun x1 => if x1 = 0 then if v0 ≠ 16 then if v0 = 17 then some 3 else if v0 ≠ 18 then (tw_in v0 19 21 σ).bind (fun x3 => if x3 = 0 then if v0 ≠ 7 then some 6 else some 5 else some 4) else some 3 else some 2 else some 1)
set_option maxRecDepth 100000 in
theorem ok_tw_level {ω : gW} {l : Launch} {d : Nat} {σ : gMem} {v0 : Int} (hdp : 1 ≤ d) (hv0 : g32 v0) : gK (fun x : Int => (.inl (some (vI x)), σ)) gTw ω l d mu_tw_level [vI v0] σ (tw_level v0 σ) := by
  refine gK.of hp_X11 (Nat.le_of_ble_eq_true rfl) ?_
  unfold tw_level
  refine x_iload_n (μ := mu_tw_level) (pc := 0) 0 dX11_level_0 rfl ?_
  refine x_bipush (μ := mu_tw_level) (pc := 1) dX11_level_1 (by decide) ?_
  refine x_bipush (μ := mu_tw_level) (pc := 3) dX11_level_3 (by decide) ?_
  refine x_callS_pi (μ := mu_tw_level) (pc := 5) (ok_tw_in (ω := ω) (l := l) (d := d - 1) (by omega) hv0 (by decide) (by decide)) gRel_Tw gRel_Tw (fun _ q => q) q2980 q2981 q232 q2982 dX11_level_5 hy_tw_in (by omega) (Nat.le_of_ble_eq_true rfl) rfl (Nat.le_of_ble_eq_true rfl) (fun x1 hr2 => ?_)
  refine x_if_eq (μ := mu_tw_level) (pc := 8) (tgt := 13) dX11_level_8 rfl hr2 ?_ ?_
  · refine x_iload_n (μ := mu_tw_level) (pc := 13) 0 dX11_level_13 rfl ?_
    refine x_bipush (μ := mu_tw_level) (pc := 14) dX11_level_14 (by decide) ?_
    refine x_icmp_ne (μ := mu_tw_level) (pc := 16) (tgt := 21) dX11_level_16 rfl hv0 (by decide) ?_ ?_
    · refine x_iload_n (μ := mu_tw_level) (pc := 21) 0 dX11_level_21 rfl ?_
      refine x_bipush (μ := mu_tw_level) (pc := 22) dX11_level_22 (by decide) ?_
      refine x_icmp_eq (μ := mu_tw_level) (pc := 24) (tgt := 33) dX11_level_24 rfl hv0 (by decide) ?_ ?_
      · refine x_iconst (μ := mu_tw_level) (pc := 33) dX11_level_33 ?_
        exact x_iret (μ := mu_tw_level) (pc := 34) dX11_level_34 rfl rfl (gRel_Tw.1 _) (show g32 3 from (by decide))
      · refine x_iload_n (μ := mu_tw_level) (pc := 27) 0 dX11_level_27 rfl ?_
        refine x_bipush (μ := mu_tw_level) (pc := 28) dX11_level_28 (by decide) ?_
        refine x_icmp_ne (μ := mu_tw_level) (pc := 30) (tgt := 35) dX11_level_30 rfl hv0 (by decide) ?_ ?_
        · refine x_iload_n (μ := mu_tw_level) (pc := 35) 0 dX11_level_35 rfl ?_
          refine x_bipush (μ := mu_tw_level) (pc := 36) dX11_level_36 (by decide) ?_
          refine x_bipush (μ := mu_tw_level) (pc := 38) dX11_level_38 (by decide) ?_
          refine x_callS_pi (μ := mu_tw_level) (pc := 40) (ok_tw_in (ω := ω) (l := l) (d := d - 1) (by omega) hv0 (by decide) (by decide)) gRel_Tw gRel_Tw (fun _ q => q) q2980 q2981 q232 q2982 dX11_level_40 hy_tw_in (by omega) (Nat.le_of_ble_eq_true rfl) rfl (Nat.le_of_ble_eq_true rfl) (fun x3 hr4 => ?_)
          refine x_if_eq (μ := mu_tw_level) (pc := 43) (tgt := 50) dX11_level_43 rfl hr4 ?_ ?_
          · refine x_iload_n (μ := mu_tw_level) (pc := 50) 0 dX11_level_50 rfl ?_
            refine x_bipush (μ := mu_tw_level) (pc := 51) dX11_level_51 (by decide) ?_
            refine x_icmp_ne (μ := mu_tw_level) (pc := 53) (tgt := 60) dX11_level_53 rfl hv0 (by decide) ?_ ?_
            · refine x_bipush (μ := mu_tw_level) (pc := 60) dX11_level_60 (by decide) ?_
              exact x_iret (μ := mu_tw_level) (pc := 62) dX11_level_62 rfl rfl (gRel_Tw.1 _) (show g32 6 from (by decide))
            · refine x_iconst (μ := mu_tw_level) (pc := 56) dX11_level_56 ?_
              refine x_goto (μ := mu_tw_level) (pc := 57) (tgt := 62) dX11_level_57 rfl ?_
              exact x_iret (μ := mu_tw_level) (pc := 62) dX11_level_62 rfl rfl (gRel_Tw.1 _) (show g32 5 from (by decide))
          · refine x_iconst (μ := mu_tw_level) (pc := 46) dX11_level_46 ?_
            refine x_goto (μ := mu_tw_level) (pc := 47) (tgt := 62) dX11_level_47 rfl ?_
            exact x_iret (μ := mu_tw_level) (pc := 62) dX11_level_62 rfl rfl (gRel_Tw.1 _) (show g32 4 from (by decide))
        · refine x_iconst (μ := mu_tw_level) (pc := 33) dX11_level_33 ?_
          exact x_iret (μ := mu_tw_level) (pc := 34) dX11_level_34 rfl rfl (gRel_Tw.1 _) (show g32 3 from (by decide))
    · refine x_iconst (μ := mu_tw_level) (pc := 19) dX11_level_19 ?_
      exact x_iret (μ := mu_tw_level) (pc := 20) dX11_level_20 rfl rfl (gRel_Tw.1 _) (show g32 2 from (by decide))
  · refine x_iconst (μ := mu_tw_level) (pc := 11) dX11_level_11 ?_
    exact x_iret (μ := mu_tw_level) (pc := 12) dX11_level_12 rfl rfl (gRel_Tw.1 _) (show g32 1 from (by decide))
def tw_putNumber_l9 (N : Nat) (h : Nat) (v3 : Int) (K : gMem → Option gMem) : Nat → Int → gMem → Option gMem
  | 0, _, _ => none
  | n + 1, v4, s => if v3 ≤ v4 then K s else if 0 ≤ ((20 - v3) + v4) ∧ ((20 - v3) + v4) < ((20 : Nat) : Int) then (tw_put h (mI s (h + 37) ((20 - v3) + v4).toNat) s).bind (fun x6 => tw_putNumber_l9 N h v3 K n (w32 (v4 + 1)) x6) else none
set_option maxRecDepth 100000 in
theorem okl_tw_putNumber_l9 {ω : gW} {l : Launch} {d : Nat} {N : Nat} {h : Nat} {σ0 : gMem} {v3 : Int} {K : gMem → Option gMem} (hdp : 1 ≤ d) (hv3 : g32 v3) (hK : ∀ (s : gMem) , TM s h → GG (fun p : gMem => (.inl none, p)) gTw ω l d mu_tw_putNumber σ0 37 [] [] s (K s)) : ∀ (n : Nat) (v4 : Int) (s : gMem) , g32 v4 → TM s h → GG (fun p : gMem => (.inl none, p)) gTw ω l d mu_tw_putNumber σ0 9 [(0, vR h), (3, vI v3), (4, vI v4)] [] s (tw_putNumber_l9 N h v3 K n v4 s) := by
  intro n
  induction n with
  | zero => intros; exact x_none
  | succ n ih =>
    intro v4 s hv4 hM
    unfold tw_putNumber_l9
    refine x_iload (μ := mu_tw_putNumber) (pc := 9) 2 dX11_putNumber_9 rfl ?_
    refine x_iload_n (μ := mu_tw_putNumber) (pc := 11) 1 dX11_putNumber_11 rfl ?_
    refine x_icmp_ge (μ := mu_tw_putNumber) (pc := 12) (tgt := 37) dX11_putNumber_12 rfl hv4 hv3 ?_ ?_
    · refine x_loc (lv' := []) [] rfl ?_
      exact hK s hM
    · refine x_aload_n (μ := mu_tw_putNumber) (pc := 15) 0 dX11_putNumber_15 rfl ?_
      refine x_aload_n (μ := mu_tw_putNumber) (pc := 16) 0 dX11_putNumber_16 rfl ?_
      refine x_fgrE (μ := mu_tw_putNumber) (pc := 17) fX11_70 (Or.inr ⟨_, rfl⟩) q2706 (hM.a70).1 dX11_putNumber_17 hM.1 ?_
      refine x_bipush (μ := mu_tw_putNumber) (pc := 20) dX11_putNumber_20 (by decide) ?_
      refine x_iload_n (μ := mu_tw_putNumber) (pc := 22) 1 dX11_putNumber_22 rfl ?_
      refine x_isub (μ := mu_tw_putNumber) (pc := 23) dX11_putNumber_23 ?_
      refine x_iload (μ := mu_tw_putNumber) (pc := 24) 2 dX11_putNumber_24 rfl ?_
      refine x_iadd (μ := mu_tw_putNumber) (pc := 26) dX11_putNumber_26 ?_
      refine x_bald (μ := mu_tw_putNumber) (pc := 27) dX11_putNumber_27 (hM.a70).2.1 (hM.a70).2.2 (fun hr5 => ?_)
      refine x_callV_mv (μ := mu_tw_putNumber) (pc := 28) (ok_tw_put (ω := ω) (l := l) (d := d - 1) (by omega) hM hr5) gRel_Tw gRel_Tw (fun _ q => q) q3461 q3463 qs175 q232 q3464 dX11_putNumber_28 rfl hM.1 hy_tw_put (by omega) (Nat.le_of_ble_eq_true rfl) rfl (Nat.le_of_ble_eq_true rfl) (fun x6 k7 => ?_)
      have hM8 : TM x6 h := hM.tw k7
      refine x_iincw (μ := mu_tw_putNumber) (pc := 31) (lv' := [(4, vI (w32 (v4 + 1))), (0, vR h), (3, vI v3)]) 2 dX11_putNumber_31 rfl (by decide) rfl ?_
      refine x_goto (μ := mu_tw_putNumber) (pc := 34) (tgt := 9) dX11_putNumber_34 rfl ?_
      refine x_loc (lv' := [(0, vR h), (3, vI v3), (4, vI (w32 (v4 + 1)))]) [1, 2, 0] rfl ?_
      exact ih (w32 (v4 + 1)) x6 (w32_rng _) hM8
def tw_putNumber (N : Nat) (h : Nat) (v1 : Int) (σ : gMem) : Option gMem := (tw_decimal N h v1 σ).bind (fun x1 => tw_putNumber_l9 N h (x1.1) (fun s9 => some s9) N 0 (x1.2))
set_option maxRecDepth 100000 in
theorem ok_tw_putNumber {ω : gW} {l : Launch} {d : Nat} {N : Nat} {h : Nat} {σ : gMem} {v1 : Int} (hdp : 1 ≤ d) (hM : TM σ h) (hv1 : g64 v1) : gK (fun p : gMem => (.inl none, p)) gTw ω l d mu_tw_putNumber [vR h, vL v1] σ (tw_putNumber N h v1 σ) := by
  refine gK.of hp_X11 (Nat.le_of_ble_eq_true rfl) ?_
  unfold tw_putNumber
  refine x_aload_n (μ := mu_tw_putNumber) (pc := 0) 0 dX11_putNumber_0 rfl ?_
  refine x_lload_n (μ := mu_tw_putNumber) (pc := 1) 1 dX11_putNumber_1 rfl ?_
  refine x_callV_mi (μ := mu_tw_putNumber) (pc := 2) (ok_tw_decimal (ω := ω) (l := l) (d := d - 1) (by omega) hM hv1) gRel_Tw gRel_Tw (fun _ q => q) q3374 q3376 qs157 q232 q3377 dX11_putNumber_2 rfl hM.1 hy_tw_decimal (by omega) (Nat.le_of_ble_eq_true rfl) rfl (Nat.le_of_ble_eq_true rfl) (fun x1 k3 hr2 => ?_)
  have hM4 : TM (x1.2) h := hM.tw k3
  refine x_istore_n (μ := mu_tw_putNumber) (pc := 5) (lv' := [(3, vI (x1.1)), (0, vR h), (1, vL v1)]) dX11_putNumber_5 rfl (by decide) rfl ?_
  refine x_iconst (μ := mu_tw_putNumber) (pc := 6) dX11_putNumber_6 ?_
  refine x_istore (μ := mu_tw_putNumber) (pc := 7) (lv' := [(4, vI 0), (3, vI (x1.1)), (0, vR h), (1, vL v1)]) dX11_putNumber_7 (by decide) rfl ?_
  refine x_loc (lv' := [(0, vR h), (3, vI (x1.1)), (4, vI 0)]) [2, 1, 0] rfl ?_
  refine okl_tw_putNumber_l9 hdp hr2 (fun s9 hM10 => ?_) N 0 (x1.2) (by decide) hM4
  exact x_vret (μ := mu_tw_putNumber) (pc := 37) (a1 := s9) dX11_putNumber_37 rfl rfl (gRel_Tw.1 _) trivial
def tw_putLetters_l2 (N : Nat) (h : Nat) (v1 : Int) (v2 : Int) (K : gMem → Option gMem) : Nat → Int → gMem → Option gMem
  | 0, _, _ => none
  | n + 1, v3, s => if v2 ≤ v3 then K s else if 0 ≤ (v1 + v3) ∧ (v1 + v3) < ((82400 : Nat) : Int) then (tw_put h (mI s (h + 9) (v1 + v3).toNat) s).bind (fun x2 => tw_putLetters_l2 N h v1 v2 K n (w32 (v3 + 1)) x2) else none
set_option maxRecDepth 100000 in
theorem okl_tw_putLetters_l2 {ω : gW} {l : Launch} {d : Nat} {N : Nat} {h : Nat} {σ0 : gMem} {v1 : Int} {v2 : Int} {K : gMem → Option gMem} (hdp : 1 ≤ d) (hv1 : g32 v1) (hv2 : g32 v2) (hK : ∀ (s : gMem) , TM s h → GG (fun p : gMem => (.inl none, p)) gTw ω l d mu_tw_putLetters σ0 25 [] [] s (K s)) : ∀ (n : Nat) (v3 : Int) (s : gMem) , g32 v3 → TM s h → GG (fun p : gMem => (.inl none, p)) gTw ω l d mu_tw_putLetters σ0 2 [(0, vR h), (1, vI v1), (2, vI v2), (3, vI v3)] [] s (tw_putLetters_l2 N h v1 v2 K n v3 s) := by
  intro n
  induction n with
  | zero => intros; exact x_none
  | succ n ih =>
    intro v3 s hv3 hM
    unfold tw_putLetters_l2
    refine x_iload_n (μ := mu_tw_putLetters) (pc := 2) 3 dX11_putLetters_2 rfl ?_
    refine x_iload_n (μ := mu_tw_putLetters) (pc := 3) 2 dX11_putLetters_3 rfl ?_
    refine x_icmp_ge (μ := mu_tw_putLetters) (pc := 4) (tgt := 25) dX11_putLetters_4 rfl hv3 hv2 ?_ ?_
    · refine x_loc (lv' := []) [] rfl ?_
      exact hK s hM
    · refine x_aload_n (μ := mu_tw_putLetters) (pc := 7) 0 dX11_putLetters_7 rfl ?_
      refine x_aload_n (μ := mu_tw_putLetters) (pc := 8) 0 dX11_putLetters_8 rfl ?_
      refine x_fgrE (μ := mu_tw_putLetters) (pc := 9) fX11_18 (Or.inr ⟨_, rfl⟩) q2654 (hM.a18).1 dX11_putLetters_9 hM.1 ?_
      refine x_iload_n (μ := mu_tw_putLetters) (pc := 12) 1 dX11_putLetters_12 rfl ?_
      refine x_iload_n (μ := mu_tw_putLetters) (pc := 13) 3 dX11_putLetters_13 rfl ?_
      refine x_iadd (μ := mu_tw_putLetters) (pc := 14) dX11_putLetters_14 ?_
      refine x_bald (μ := mu_tw_putLetters) (pc := 15) dX11_putLetters_15 (hM.a18).2.1 (hM.a18).2.2 (fun hr1 => ?_)
      refine x_callV_mv (μ := mu_tw_putLetters) (pc := 16) (ok_tw_put (ω := ω) (l := l) (d := d - 1) (by omega) hM hr1) gRel_Tw gRel_Tw (fun _ q => q) q3461 q3463 qs175 q232 q3464 dX11_putLetters_16 rfl hM.1 hy_tw_put (by omega) (Nat.le_of_ble_eq_true rfl) rfl (Nat.le_of_ble_eq_true rfl) (fun x2 k3 => ?_)
      have hM4 : TM x2 h := hM.tw k3
      refine x_iincw (μ := mu_tw_putLetters) (pc := 19) (lv' := [(3, vI (w32 (v3 + 1))), (0, vR h), (1, vI v1), (2, vI v2)]) 3 dX11_putLetters_19 rfl (by decide) rfl ?_
      refine x_goto (μ := mu_tw_putLetters) (pc := 22) (tgt := 2) dX11_putLetters_22 rfl ?_
      refine x_loc (lv' := [(0, vR h), (1, vI v1), (2, vI v2), (3, vI (w32 (v3 + 1)))]) [1, 2, 3, 0] rfl ?_
      exact ih (w32 (v3 + 1)) x2 (w32_rng _) hM4
def tw_putLetters (N : Nat) (h : Nat) (v1 : Int) (v2 : Int) (σ : gMem) : Option gMem := tw_putLetters_l2 N h v1 v2 (fun s5 => some s5) N 0 σ
set_option maxRecDepth 100000 in
theorem ok_tw_putLetters {ω : gW} {l : Launch} {d : Nat} {N : Nat} {h : Nat} {σ : gMem} {v1 : Int} {v2 : Int} (hdp : 1 ≤ d) (hM : TM σ h) (hv1 : g32 v1) (hv2 : g32 v2) : gK (fun p : gMem => (.inl none, p)) gTw ω l d mu_tw_putLetters [vR h, vI v1, vI v2] σ (tw_putLetters N h v1 v2 σ) := by
  refine gK.of hp_X11 (Nat.le_of_ble_eq_true rfl) ?_
  unfold tw_putLetters
  refine x_iconst (μ := mu_tw_putLetters) (pc := 0) dX11_putLetters_0 ?_
  refine x_istore_n (μ := mu_tw_putLetters) (pc := 1) (lv' := [(3, vI 0), (0, vR h), (1, vI v1), (2, vI v2)]) dX11_putLetters_1 rfl (by decide) rfl ?_
  refine x_loc (lv' := [(0, vR h), (1, vI v1), (2, vI v2), (3, vI 0)]) [1, 2, 3, 0] rfl ?_
  refine okl_tw_putLetters_l2 hdp hv1 hv2 (fun s5 hM6 => ?_) N 0 σ (by decide) hM
  exact x_vret (μ := mu_tw_putLetters) (pc := 25) (a1 := s5) dX11_putLetters_25 rfl rfl (gRel_Tw.1 _) trivial
def tw_say_l2 (N : Nat) (h : Nat) (v1 : Nat) (K : gMem → Option gMem) : Nat → Int → gMem → Option gMem
  | 0, _, _ => none
  | n + 1, v2, s => if mT s v1 = 90 then if w32 (mN s v1 : Int) ≤ v2 then K s else if 0 ≤ v2 ∧ v2 < (mN s v1 : Int) then (tw_put h (mI s v1 v2.toNat) s).bind (fun x4 => tw_say_l2 N h v1 K n (w32 (v2 + 1)) x4) else none else none
set_option maxRecDepth 100000 in
theorem okl_tw_say_l2 {ω : gW} {l : Launch} {d : Nat} {N : Nat} {h : Nat} {σ0 : gMem} {v1 : Nat} {K : gMem → Option gMem} (hdp : 5 ≤ d) (hK : ∀ (s : gMem) , TM s h → GG (fun p : gMem => (.inl none, p)) gTw ω l d mu_tw_say σ0 25 [] [] s (K s)) : ∀ (n : Nat) (v2 : Int) (s : gMem) , g32 v2 → TM s h → GG (fun p : gMem => (.inl none, p)) gTw ω l d mu_tw_say σ0 2 [(0, vR h), (1, vR v1), (2, vI v2)] [] s (tw_say_l2 N h v1 K n v2 s) := by
  intro n
  induction n with
  | zero => intros; exact x_none
  | succ n ih =>
    intro v2 s hv2 hM
    unfold tw_say_l2
    refine x_iload_n (μ := mu_tw_say) (pc := 2) 2 dX11_say_2 rfl ?_
    refine x_aload_n (μ := mu_tw_say) (pc := 3) 1 dX11_say_3 rfl ?_
    refine x_if (fun hT1 => ?_)
    refine x_slen (μ := mu_tw_say) (pc := 4) q3037 dX11_say_4 hT1 (by omega) (Nat.le_of_ble_eq_true rfl) ?_
    refine x_w1 ?_
    refine x_icmp_ge (μ := mu_tw_say) (pc := 7) (tgt := 25) dX11_say_7 rfl hv2 (w32_rng _) ?_ ?_
    · refine x_loc (lv' := []) [] rfl ?_
      exact hK s hM
    · refine x_aload_n (μ := mu_tw_say) (pc := 10) 0 dX11_say_10 rfl ?_
      refine x_aload_n (μ := mu_tw_say) (pc := 11) 1 dX11_say_11 rfl ?_
      refine x_iload_n (μ := mu_tw_say) (pc := 12) 2 dX11_say_12 rfl ?_
      refine x_schar (μ := mu_tw_say) (pc := 13) q3038 dX11_say_13 hT1 hv2 (by omega) (Nat.le_of_ble_eq_true rfl) (fun hr3 => ?_)
      refine x_callV_mv (μ := mu_tw_say) (pc := 16) (ok_tw_put (ω := ω) (l := l) (d := d - 1) (by omega) hM hr3) gRel_Tw gRel_Tw (fun _ q => q) q3461 q3463 qs175 q232 q3464 dX11_say_16 rfl hM.1 hy_tw_put (by omega) (Nat.le_of_ble_eq_true rfl) rfl (Nat.le_of_ble_eq_true rfl) (fun x4 k5 => ?_)
      have hM6 : TM x4 h := hM.tw k5
      refine x_iincw (μ := mu_tw_say) (pc := 19) (lv' := [(2, vI (w32 (v2 + 1))), (0, vR h), (1, vR v1)]) 2 dX11_say_19 rfl (by decide) rfl ?_
      refine x_goto (μ := mu_tw_say) (pc := 22) (tgt := 2) dX11_say_22 rfl ?_
      refine x_loc (lv' := [(0, vR h), (1, vR v1), (2, vI (w32 (v2 + 1)))]) [1, 2, 0] rfl ?_
      exact ih (w32 (v2 + 1)) x4 (w32_rng _) hM6
def tw_say (N : Nat) (h : Nat) (v1 : Nat) (σ : gMem) : Option gMem := tw_say_l2 N h v1 (fun s7 => some s7) N 0 σ
set_option maxRecDepth 100000 in
theorem ok_tw_say {ω : gW} {l : Launch} {d : Nat} {N : Nat} {h : Nat} {σ : gMem} {v1 : Nat} (hdp : 5 ≤ d) (hM : TM σ h) : gK (fun p : gMem => (.inl none, p)) gTw ω l d mu_tw_say [vR h, vR v1] σ (tw_say N h v1 σ) := by
  refine gK.of hp_X11 (Nat.le_of_ble_eq_true rfl) ?_
  unfold tw_say
  refine x_iconst (μ := mu_tw_say) (pc := 0) dX11_say_0 ?_
  refine x_istore_n (μ := mu_tw_say) (pc := 1) (lv' := [(2, vI 0), (0, vR h), (1, vR v1)]) dX11_say_1 rfl (by decide) rfl ?_
  refine x_loc (lv' := [(0, vR h), (1, vR v1), (2, vI 0)]) [1, 2, 0] rfl ?_
  refine okl_tw_say_l2 hdp (fun s7 hM8 => ?_) N 0 σ (by decide) hM
  exact x_vret (μ := mu_tw_say) (pc := 25) (a1 := s7) dX11_say_25 rfl rfl (gRel_Tw.1 _) trivial
def tw_putCorner_j32 (N : Nat) (h : Nat) (v1 : Int) (s : gMem) : Option gMem := (tw_putNumber N h (w32 (v1 + 1)) s).bind (fun x4 => some x4)
set_option maxRecDepth 100000 in
theorem okj_tw_putCorner_j32 {ω : gW} {l : Launch} {d : Nat} {N : Nat} {h : Nat} {σ0 : gMem} {s : gMem} {v1 : Int} (hdp : 2 ≤ d) (hM : TM s h) (hv1 : g32 v1) : GG (fun p : gMem => (.inl none, p)) gTw ω l d mu_tw_putCorner σ0 32 [(0, vR h), (1, vI v1)] [] s (tw_putCorner_j32 N h v1 s) := by
  unfold tw_putCorner_j32
  refine x_aload_n (μ := mu_tw_putCorner) (pc := 32) 0 dX11_putCorner_32 rfl ?_
  refine x_iload_n (μ := mu_tw_putCorner) (pc := 33) 1 dX11_putCorner_33 rfl ?_
  refine x_iconst (μ := mu_tw_putCorner) (pc := 34) dX11_putCorner_34 ?_
  refine x_iadd (μ := mu_tw_putCorner) (pc := 35) dX11_putCorner_35 ?_
  refine x_w1 ?_
  refine x_i2l (μ := mu_tw_putCorner) (pc := 36) dX11_putCorner_36 (w32_rng _) ?_
  refine x_callV_mv (μ := mu_tw_putCorner) (pc := 37) (ok_tw_putNumber (ω := ω) (l := l) (d := d - 1) (by omega) hM (g32_64 (w32_rng _))) gRel_Tw gRel_Tw (fun _ q => q) q3472 q3474 qs177 q232 q3475 dX11_putCorner_37 rfl hM.1 hy_tw_putNumber (by omega) (Nat.le_of_ble_eq_true rfl) rfl (Nat.le_of_ble_eq_true rfl) (fun x4 k5 => ?_)
  have hM6 : TM x4 h := hM.tw k5
  exact x_vret (μ := mu_tw_putCorner) (pc := 40) (a1 := x4) dX11_putCorner_40 rfl rfl (gRel_Tw.1 _) trivial
def tw_putCorner_j12 (N : Nat) (h : Nat) (v1 : Int) (v2 : Int) (v3 : Int) (s : gMem) : Option gMem := (tw_put h (w32 (65 + v2)) s).bind (fun x1 => if bAnd v3 2 ≤ 0 then tw_putCorner_j32 N h v1  x1 else (tw_put h 36 x1).bind (fun x7 => tw_putCorner_j32 N h v1  x7))
set_option maxRecDepth 100000 in
theorem okj_tw_putCorner_j12 {ω : gW} {l : Launch} {d : Nat} {N : Nat} {h : Nat} {σ0 : gMem} {s : gMem} {v1 : Int} {v2 : Int} {v3 : Int} (hdp : 2 ≤ d) (hM : TM s h) (hv1 : g32 v1) (hv2 : g32 v2) (hv3 : g32 v3) : GG (fun p : gMem => (.inl none, p)) gTw ω l d mu_tw_putCorner σ0 12 [(0, vR h), (1, vI v1), (2, vI v2), (3, vI v3)] [] s (tw_putCorner_j12 N h v1 v2 v3 s) := by
  unfold tw_putCorner_j12
  refine x_aload_n (μ := mu_tw_putCorner) (pc := 12) 0 dX11_putCorner_12 rfl ?_
  refine x_bipush (μ := mu_tw_putCorner) (pc := 13) dX11_putCorner_13 (by decide) ?_
  refine x_iload_n (μ := mu_tw_putCorner) (pc := 15) 2 dX11_putCorner_15 rfl ?_
  refine x_iadd (μ := mu_tw_putCorner) (pc := 16) dX11_putCorner_16 ?_
  refine x_w1 ?_
  refine x_callV_mv (μ := mu_tw_putCorner) (pc := 17) (ok_tw_put (ω := ω) (l := l) (d := d - 1) (by omega) hM (w32_rng _)) gRel_Tw gRel_Tw (fun _ q => q) q3461 q3463 qs175 q232 q3464 dX11_putCorner_17 rfl hM.1 hy_tw_put (by omega) (Nat.le_of_ble_eq_true rfl) rfl (Nat.le_of_ble_eq_true rfl) (fun x1 k2 => ?_)
  have hM3 : TM x1 h := hM.tw k2
  refine x_iload_n (μ := mu_tw_putCorner) (pc := 20) 3 dX11_putCorner_20 rfl ?_
  refine x_iconst (μ := mu_tw_putCorner) (pc := 21) dX11_putCorner_21 ?_
  refine x_iand (μ := mu_tw_putCorner) (pc := 22) dX11_putCorner_22 ?_
  refine x_if_le (μ := mu_tw_putCorner) (pc := 23) (tgt := 32) dX11_putCorner_23 rfl (bAnd_rng _ _) ?_ ?_
  · refine x_loc (lv' := [(0, vR h), (1, vI v1)]) [0, 1] rfl ?_
    exact okj_tw_putCorner_j32 hdp hM3 hv1
  · refine x_aload_n (μ := mu_tw_putCorner) (pc := 26) 0 dX11_putCorner_26 rfl ?_
    refine x_bipush (μ := mu_tw_putCorner) (pc := 27) dX11_putCorner_27 (by decide) ?_
    refine x_callV_mv (μ := mu_tw_putCorner) (pc := 29) (ok_tw_put (ω := ω) (l := l) (d := d - 1) (by omega) hM3 (by decide)) gRel_Tw gRel_Tw (fun _ q => q) q3461 q3463 qs175 q232 q3464 dX11_putCorner_29 rfl hM3.1 hy_tw_put (by omega) (Nat.le_of_ble_eq_true rfl) rfl (Nat.le_of_ble_eq_true rfl) (fun x7 k8 => ?_)
    have hM9 : TM x7 h := hM3.tw k8
    refine x_loc (lv' := [(0, vR h), (1, vI v1)]) [0, 1] rfl ?_
    exact okj_tw_putCorner_j32 hdp hM9 hv1
def tw_putCorner (N : Nat) (h : Nat) (v1 : Int) (v2 : Int) (v3 : Int) (σ : gMem) : Option gMem := if bAnd v3 1 ≤ 0 then tw_putCorner_j12 N h v1 v2 v3  σ else (tw_put h 36 σ).bind (fun x10 => tw_putCorner_j12 N h v1 v2 v3  x10)
set_option maxRecDepth 100000 in
theorem ok_tw_putCorner {ω : gW} {l : Launch} {d : Nat} {N : Nat} {h : Nat} {σ : gMem} {v1 : Int} {v2 : Int} {v3 : Int} (hdp : 2 ≤ d) (hM : TM σ h) (hv1 : g32 v1) (hv2 : g32 v2) (hv3 : g32 v3) : gK (fun p : gMem => (.inl none, p)) gTw ω l d mu_tw_putCorner [vR h, vI v1, vI v2, vI v3] σ (tw_putCorner N h v1 v2 v3 σ) := by
  refine gK.of hp_X11 (Nat.le_of_ble_eq_true rfl) ?_
  unfold tw_putCorner
  refine x_iload_n (μ := mu_tw_putCorner) (pc := 0) 3 dX11_putCorner_0 rfl ?_
  refine x_iconst (μ := mu_tw_putCorner) (pc := 1) dX11_putCorner_1 ?_
  refine x_iand (μ := mu_tw_putCorner) (pc := 2) dX11_putCorner_2 ?_
  refine x_if_le (μ := mu_tw_putCorner) (pc := 3) (tgt := 12) dX11_putCorner_3 rfl (bAnd_rng _ _) ?_ ?_
  · exact okj_tw_putCorner_j12 hdp hM hv1 hv2 hv3
  · refine x_aload_n (μ := mu_tw_putCorner) (pc := 6) 0 dX11_putCorner_6 rfl ?_
    refine x_bipush (μ := mu_tw_putCorner) (pc := 7) dX11_putCorner_7 (by decide) ?_
    refine x_callV_mv (μ := mu_tw_putCorner) (pc := 9) (ok_tw_put (ω := ω) (l := l) (d := d - 1) (by omega) hM (by decide)) gRel_Tw gRel_Tw (fun _ q => q) q3461 q3463 qs175 q232 q3464 dX11_putCorner_9 rfl hM.1 hy_tw_put (by omega) (Nat.le_of_ble_eq_true rfl) rfl (Nat.le_of_ble_eq_true rfl) (fun x10 k11 => ?_)
    have hM12 : TM x10 h := hM.tw k11
    exact okj_tw_putCorner_j12 hdp hM12 hv1 hv2 hv3
def tw_putSide_j10 (N : Nat) (W : Int → Int → gMem → Option gMem) (h : Nat) (v1 : Int) (v2 : Int) (v3 : Int) (s : gMem) : Option gMem := (W v1 v2 s).bind (fun x1 => if v3 = 0 then some x1 else (tw_put h 41 x1).bind (fun x4 => some x4))
set_option maxRecDepth 100000 in
theorem okj_tw_putSide_j10 {ω : gW} {l : Launch} {d : Nat} {N : Nat} {W : Int → Int → gMem → Option gMem} {dW : Nat} {h : Nat} {σ0 : gMem} {s : gMem} {v1 : Int} {v2 : Int} {v3 : Int} (hW : ∀ (a1 : Int) (a2 : Int) (s : gMem), TM s h → g32 a1 → g32 a2 → gK (fun p : gMem => (.inl none, p)) gTw ω l dW mu_tw_putPart [vR h, vI a1, vI a2] s (W a1 a2 s)) (hdp : 1 ≤ d) (hdw : dW + 1 ≤ d) (hM : TM s h) (hv1 : g32 v1) (hv2 : g32 v2) (hv3 : g32 v3) : GG (fun p : gMem => (.inl none, p)) gTw ω l d mu_tw_putSide σ0 10 [(0, vR h), (1, vI v1), (2, vI v2), (3, vI v3)] [] s (tw_putSide_j10 N W h v1 v2 v3 s) := by
  unfold tw_putSide_j10
  refine x_aload_n (μ := mu_tw_putSide) (pc := 10) 0 dX11_putSide_10 rfl ?_
  refine x_iload_n (μ := mu_tw_putSide) (pc := 11) 1 dX11_putSide_11 rfl ?_
  refine x_iload_n (μ := mu_tw_putSide) (pc := 12) 2 dX11_putSide_12 rfl ?_
  refine x_callV_mv (μ := mu_tw_putSide) (pc := 13) (hW v1 v2 s hM hv1 hv2) gRel_Tw gRel_Tw (fun _ q => q) q3465 q3467 qs176 q232 q3468 dX11_putSide_13 rfl hM.1 hy_tw_putPart (by omega) (Nat.le_of_ble_eq_true rfl) rfl (Nat.le_of_ble_eq_true rfl) (fun x1 k2 => ?_)
  have hM3 : TM x1 h := hM.tw k2
  refine x_iload_n (μ := mu_tw_putSide) (pc := 16) 3 dX11_putSide_16 rfl ?_
  refine x_if_eq (μ := mu_tw_putSide) (pc := 17) (tgt := 26) dX11_putSide_17 rfl hv3 ?_ ?_
  · exact x_vret (μ := mu_tw_putSide) (pc := 26) (a1 := x1) dX11_putSide_26 rfl rfl (gRel_Tw.1 _) trivial
  · refine x_aload_n (μ := mu_tw_putSide) (pc := 20) 0 dX11_putSide_20 rfl ?_
    refine x_bipush (μ := mu_tw_putSide) (pc := 21) dX11_putSide_21 (by decide) ?_
    refine x_callV_mv (μ := mu_tw_putSide) (pc := 23) (ok_tw_put (ω := ω) (l := l) (d := d - 1) (by omega) hM3 (by decide)) gRel_Tw gRel_Tw (fun _ q => q) q3461 q3463 qs175 q232 q3464 dX11_putSide_23 rfl hM3.1 hy_tw_put (by omega) (Nat.le_of_ble_eq_true rfl) rfl (Nat.le_of_ble_eq_true rfl) (fun x4 k5 => ?_)
    have hM6 : TM x4 h := hM3.tw k5
    exact x_vret (μ := mu_tw_putSide) (pc := 26) (a1 := x4) dX11_putSide_26 rfl rfl (gRel_Tw.1 _) trivial
def tw_putSide (N : Nat) (W : Int → Int → gMem → Option gMem) (h : Nat) (v1 : Int) (v2 : Int) (v3 : Int) (σ : gMem) : Option gMem := if v3 = 0 then tw_putSide_j10 N W h v1 v2 v3  σ else (tw_put h 40 σ).bind (fun x7 => tw_putSide_j10 N W h v1 v2 v3  x7)
set_option maxRecDepth 100000 in
theorem ok_tw_putSide {ω : gW} {l : Launch} {d : Nat} {N : Nat} {W : Int → Int → gMem → Option gMem} {dW : Nat} {h : Nat} {σ : gMem} {v1 : Int} {v2 : Int} {v3 : Int} (hW : ∀ (a1 : Int) (a2 : Int) (s : gMem), TM s h → g32 a1 → g32 a2 → gK (fun p : gMem => (.inl none, p)) gTw ω l dW mu_tw_putPart [vR h, vI a1, vI a2] s (W a1 a2 s)) (hdp : 1 ≤ d) (hdw : dW + 1 ≤ d) (hM : TM σ h) (hv1 : g32 v1) (hv2 : g32 v2) (hv3 : g32 v3) : gK (fun p : gMem => (.inl none, p)) gTw ω l d mu_tw_putSide [vR h, vI v1, vI v2, vI v3] σ (tw_putSide N W h v1 v2 v3 σ) := by
  refine gK.of hp_X11 (Nat.le_of_ble_eq_true rfl) ?_
  unfold tw_putSide
  refine x_iload_n (μ := mu_tw_putSide) (pc := 0) 3 dX11_putSide_0 rfl ?_
  refine x_if_eq (μ := mu_tw_putSide) (pc := 1) (tgt := 10) dX11_putSide_1 rfl hv3 ?_ ?_
  · exact okj_tw_putSide_j10 hW hdp hdw hM hv1 hv2 hv3
  · refine x_aload_n (μ := mu_tw_putSide) (pc := 4) 0 dX11_putSide_4 rfl ?_
    refine x_bipush (μ := mu_tw_putSide) (pc := 5) dX11_putSide_5 (by decide) ?_
    refine x_callV_mv (μ := mu_tw_putSide) (pc := 7) (ok_tw_put (ω := ω) (l := l) (d := d - 1) (by omega) hM (by decide)) gRel_Tw gRel_Tw (fun _ q => q) q3461 q3463 qs175 q232 q3464 dX11_putSide_7 rfl hM.1 hy_tw_put (by omega) (Nat.le_of_ble_eq_true rfl) rfl (Nat.le_of_ble_eq_true rfl) (fun x7 k8 => ?_)
    have hM9 : TM x7 h := hM.tw k8
    exact okj_tw_putSide_j10 hW hdp hdw hM9 hv1 hv2 hv3
def tw_signOf (v0 : Int) (σ : gMem) : Option Nat := if v0 = 10 then some (mR σ 0 122) else if v0 = 11 then some (mR σ 0 123) else if v0 = 12 then some (mR σ 0 124) else if v0 = 13 then some (mR σ 0 125) else if v0 = 14 then some (mR σ 0 126) else if v0 = 15 then some (mR σ 0 127) else if v0 = 16 then some (mR σ 0 128) else if v0 = 17 then some (mR σ 0 129) else if v0 = 18 then some (mR σ 0 130) else if v0 = 19 then some (mR σ 0 131) else if v0 = 20 then some (mR σ 0 132) else some (mR σ 0 133)
set_option maxRecDepth 100000 in
theorem ok_tw_signOf {ω : gW} {l : Launch} {d : Nat} {σ : gMem} {v0 : Int} (hdp : 0 ≤ d) (hv0 : g32 v0) : gK (fun x : Nat => (.inl (some (vR x)), σ)) gTw ω l d mu_tw_signOf [vI v0] σ (tw_signOf v0 σ) := by
  refine gK.of hp_X11 (Nat.le_of_ble_eq_true rfl) ?_
  unfold tw_signOf
  refine x_iload_n (μ := mu_tw_signOf) (pc := 0) 0 dX11_signOf_0 rfl ?_
  refine x_tab (μ := mu_tw_signOf) (pc := 1) (tgt := 60) 10 dX11_signOf_1 (by decide) (by decide) (by decide) rfl rfl ?_ (fun hn1 => ?_)
  · refine x_ldcwS (μ := mu_tw_signOf) (pc := 60) (j := 122) (List.mem_of_getElem? (i := 51) rfl) dX11_signOf_60 ?_
    exact x_aret (μ := mu_tw_signOf) (pc := 63) dX11_signOf_63 rfl (by first | exact Or.inl ⟨_, rfl⟩ | exact Or.inr ⟨_, rfl⟩) rfl (gRel_Tw.1 _) trivial
  refine x_tab (μ := mu_tw_signOf) (pc := 1) (tgt := 64) 11 dX11_signOf_1 (by decide) (by decide) (by decide) rfl rfl ?_ (fun hn2 => ?_)
  · refine x_ldcwS (μ := mu_tw_signOf) (pc := 64) (j := 123) (List.mem_of_getElem? (i := 53) rfl) dX11_signOf_64 ?_
    exact x_aret (μ := mu_tw_signOf) (pc := 67) dX11_signOf_67 rfl (by first | exact Or.inl ⟨_, rfl⟩ | exact Or.inr ⟨_, rfl⟩) rfl (gRel_Tw.1 _) trivial
  refine x_tab (μ := mu_tw_signOf) (pc := 1) (tgt := 68) 12 dX11_signOf_1 (by decide) (by decide) (by decide) rfl rfl ?_ (fun hn3 => ?_)
  · refine x_ldcwS (μ := mu_tw_signOf) (pc := 68) (j := 124) (List.mem_of_getElem? (i := 55) rfl) dX11_signOf_68 ?_
    exact x_aret (μ := mu_tw_signOf) (pc := 71) dX11_signOf_71 rfl (by first | exact Or.inl ⟨_, rfl⟩ | exact Or.inr ⟨_, rfl⟩) rfl (gRel_Tw.1 _) trivial
  refine x_tab (μ := mu_tw_signOf) (pc := 1) (tgt := 72) 13 dX11_signOf_1 (by decide) (by decide) (by decide) rfl rfl ?_ (fun hn4 => ?_)
  · refine x_ldcwS (μ := mu_tw_signOf) (pc := 72) (j := 125) (List.mem_of_getElem? (i := 57) rfl) dX11_signOf_72 ?_
    exact x_aret (μ := mu_tw_signOf) (pc := 75) dX11_signOf_75 rfl (by first | exact Or.inl ⟨_, rfl⟩ | exact Or.inr ⟨_, rfl⟩) rfl (gRel_Tw.1 _) trivial
  refine x_tab (μ := mu_tw_signOf) (pc := 1) (tgt := 76) 14 dX11_signOf_1 (by decide) (by decide) (by decide) rfl rfl ?_ (fun hn5 => ?_)
  · refine x_ldcwS (μ := mu_tw_signOf) (pc := 76) (j := 126) (List.mem_of_getElem? (i := 59) rfl) dX11_signOf_76 ?_
    exact x_aret (μ := mu_tw_signOf) (pc := 79) dX11_signOf_79 rfl (by first | exact Or.inl ⟨_, rfl⟩ | exact Or.inr ⟨_, rfl⟩) rfl (gRel_Tw.1 _) trivial
  refine x_tab (μ := mu_tw_signOf) (pc := 1) (tgt := 80) 15 dX11_signOf_1 (by decide) (by decide) (by decide) rfl rfl ?_ (fun hn6 => ?_)
  · refine x_ldcwS (μ := mu_tw_signOf) (pc := 80) (j := 127) (List.mem_of_getElem? (i := 61) rfl) dX11_signOf_80 ?_
    exact x_aret (μ := mu_tw_signOf) (pc := 83) dX11_signOf_83 rfl (by first | exact Or.inl ⟨_, rfl⟩ | exact Or.inr ⟨_, rfl⟩) rfl (gRel_Tw.1 _) trivial
  refine x_tab (μ := mu_tw_signOf) (pc := 1) (tgt := 84) 16 dX11_signOf_1 (by decide) (by decide) (by decide) rfl rfl ?_ (fun hn7 => ?_)
  · refine x_ldcwS (μ := mu_tw_signOf) (pc := 84) (j := 128) (List.mem_of_getElem? (i := 63) rfl) dX11_signOf_84 ?_
    exact x_aret (μ := mu_tw_signOf) (pc := 87) dX11_signOf_87 rfl (by first | exact Or.inl ⟨_, rfl⟩ | exact Or.inr ⟨_, rfl⟩) rfl (gRel_Tw.1 _) trivial
  refine x_tab (μ := mu_tw_signOf) (pc := 1) (tgt := 88) 17 dX11_signOf_1 (by decide) (by decide) (by decide) rfl rfl ?_ (fun hn8 => ?_)
  · refine x_ldcwS (μ := mu_tw_signOf) (pc := 88) (j := 129) (List.mem_of_getElem? (i := 65) rfl) dX11_signOf_88 ?_
    exact x_aret (μ := mu_tw_signOf) (pc := 91) dX11_signOf_91 rfl (by first | exact Or.inl ⟨_, rfl⟩ | exact Or.inr ⟨_, rfl⟩) rfl (gRel_Tw.1 _) trivial
  refine x_tab (μ := mu_tw_signOf) (pc := 1) (tgt := 92) 18 dX11_signOf_1 (by decide) (by decide) (by decide) rfl rfl ?_ (fun hn9 => ?_)
  · refine x_ldcwS (μ := mu_tw_signOf) (pc := 92) (j := 130) (List.mem_of_getElem? (i := 67) rfl) dX11_signOf_92 ?_
    exact x_aret (μ := mu_tw_signOf) (pc := 95) dX11_signOf_95 rfl (by first | exact Or.inl ⟨_, rfl⟩ | exact Or.inr ⟨_, rfl⟩) rfl (gRel_Tw.1 _) trivial
  refine x_tab (μ := mu_tw_signOf) (pc := 1) (tgt := 96) 19 dX11_signOf_1 (by decide) (by decide) (by decide) rfl rfl ?_ (fun hn10 => ?_)
  · refine x_ldcwS (μ := mu_tw_signOf) (pc := 96) (j := 131) (List.mem_of_getElem? (i := 69) rfl) dX11_signOf_96 ?_
    exact x_aret (μ := mu_tw_signOf) (pc := 99) dX11_signOf_99 rfl (by first | exact Or.inl ⟨_, rfl⟩ | exact Or.inr ⟨_, rfl⟩) rfl (gRel_Tw.1 _) trivial
  refine x_tab (μ := mu_tw_signOf) (pc := 1) (tgt := 100) 20 dX11_signOf_1 (by decide) (by decide) (by decide) rfl rfl ?_ (fun hn11 => ?_)
  · refine x_ldcwS (μ := mu_tw_signOf) (pc := 100) (j := 132) (List.mem_of_getElem? (i := 71) rfl) dX11_signOf_100 ?_
    exact x_aret (μ := mu_tw_signOf) (pc := 103) dX11_signOf_103 rfl (by first | exact Or.inl ⟨_, rfl⟩ | exact Or.inr ⟨_, rfl⟩) rfl (gRel_Tw.1 _) trivial
  refine x_tabOut (μ := mu_tw_signOf) (pc := 1) (tgt := 104) dX11_signOf_1 hv0 (by omega) rfl ?_
  refine x_ldcwS (μ := mu_tw_signOf) (pc := 104) (j := 133) (List.mem_of_getElem? (i := 73) rfl) dX11_signOf_104 ?_
  exact x_aret (μ := mu_tw_signOf) (pc := 107) dX11_signOf_107 rfl (by first | exact Or.inl ⟨_, rfl⟩ | exact Or.inr ⟨_, rfl⟩) rfl (gRel_Tw.1 _) trivial
def tw_isLetters_l13 (N : Nat) (h : Nat) (σ : gMem) (v1 : Int) (v2 : Int) (v3 : Nat) (K : Option Int) : Nat → Int → Option Int
  | 0, _ => none
  | n + 1, v4 => if v2 ≤ v4 then K else if 0 ≤ (v1 + v4) ∧ (v1 + v4) < ((82400 : Nat) : Int) then if mT σ v3 = 90 then if 0 ≤ v4 ∧ v4 < (mN σ v3 : Int) then if mI σ (h + 9) (v1 + v4).toNat = mI σ v3 v4.toNat then tw_isLetters_l13 N h σ v1 v2 v3 K n (w32 (v4 + 1)) else some 0 else none else none else none
set_option maxRecDepth 100000 in
theorem okl_tw_isLetters_l13 {ω : gW} {l : Launch} {d : Nat} {N : Nat} {h : Nat} {σ : gMem} {v1 : Int} {v2 : Int} {v3 : Nat} {K : Option Int} (hdp : 5 ≤ d) (hM : TM σ h) (hv1 : g32 v1) (hv2 : g32 v2) (hK : GG (fun x : Int => (.inl (some (vI x)), σ)) gTw ω l d mu_tw_isLetters σ 45 [] [] σ (K)) : ∀ (n : Nat) (v4 : Int) , g32 v4 → GG (fun x : Int => (.inl (some (vI x)), σ)) gTw ω l d mu_tw_isLetters σ 13 [(0, vR h), (1, vI v1), (2, vI v2), (3, vR v3), (4, vI v4)] [] σ (tw_isLetters_l13 N h σ v1 v2 v3 K n v4) := by
  intro n
  induction n with
  | zero => intros; exact x_none
  | succ n ih =>
    intro v4 hv4
    unfold tw_isLetters_l13
    refine x_iload (μ := mu_tw_isLetters) (pc := 13) 4 dX11_isLetters_13 rfl ?_
    refine x_iload_n (μ := mu_tw_isLetters) (pc := 15) 2 dX11_isLetters_15 rfl ?_
    refine x_icmp_ge (μ := mu_tw_isLetters) (pc := 16) (tgt := 45) dX11_isLetters_16 rfl hv4 hv2 ?_ ?_
    · refine x_loc (lv' := []) [] rfl ?_
      exact hK
    · refine x_aload_n (μ := mu_tw_isLetters) (pc := 19) 0 dX11_isLetters_19 rfl ?_
      refine x_fgrE (μ := mu_tw_isLetters) (pc := 20) fX11_18 (Or.inr ⟨_, rfl⟩) q2654 (hM.a18).1 dX11_isLetters_20 hM.1 ?_
      refine x_iload_n (μ := mu_tw_isLetters) (pc := 23) 1 dX11_isLetters_23 rfl ?_
      refine x_iload (μ := mu_tw_isLetters) (pc := 24) 4 dX11_isLetters_24 rfl ?_
      refine x_iadd (μ := mu_tw_isLetters) (pc := 26) dX11_isLetters_26 ?_
      refine x_bald (μ := mu_tw_isLetters) (pc := 27) dX11_isLetters_27 (hM.a18).2.1 (hM.a18).2.2 (fun hr3 => ?_)
      refine x_aload_n (μ := mu_tw_isLetters) (pc := 28) 3 dX11_isLetters_28 rfl ?_
      refine x_iload (μ := mu_tw_isLetters) (pc := 29) 4 dX11_isLetters_29 rfl ?_
      refine x_if (fun hT4 => ?_)
      refine x_schar (μ := mu_tw_isLetters) (pc := 31) q3038 dX11_isLetters_31 hT4 hv4 (by omega) (Nat.le_of_ble_eq_true rfl) (fun hr5 => ?_)
      refine x_icmp_eq (μ := mu_tw_isLetters) (pc := 34) (tgt := 39) dX11_isLetters_34 rfl hr3 hr5 ?_ ?_
      · refine x_iincw (μ := mu_tw_isLetters) (pc := 39) (lv' := [(4, vI (w32 (v4 + 1))), (0, vR h), (1, vI v1), (2, vI v2), (3, vR v3)]) 4 dX11_isLetters_39 rfl (by decide) rfl ?_
        refine x_goto (μ := mu_tw_isLetters) (pc := 42) (tgt := 13) dX11_isLetters_42 rfl ?_
        refine x_loc (lv' := [(0, vR h), (1, vI v1), (2, vI v2), (3, vR v3), (4, vI (w32 (v4 + 1)))]) [1, 2, 3, 4, 0] rfl ?_
        exact ih (w32 (v4 + 1)) (w32_rng _)
      · refine x_iconst (μ := mu_tw_isLetters) (pc := 37) dX11_isLetters_37 ?_
        exact x_zret (μ := mu_tw_isLetters) (pc := 38) dX11_isLetters_38 rfl (by decide) rfl (gRel_Tw.1 _) (show g32 0 from (by decide))
def tw_isLetters (N : Nat) (h : Nat) (v1 : Int) (v2 : Int) (v3 : Nat) (σ : gMem) : Option Int := if mT σ v3 = 90 then if w32 (mN σ v3 : Int) = v2 then tw_isLetters_l13 N h σ v1 v2 v3 (some 1) N 0 else some 0 else none
set_option maxRecDepth 100000 in
theorem ok_tw_isLetters {ω : gW} {l : Launch} {d : Nat} {N : Nat} {h : Nat} {σ : gMem} {v1 : Int} {v2 : Int} {v3 : Nat} (hdp : 5 ≤ d) (hM : TM σ h) (hv1 : g32 v1) (hv2 : g32 v2) : gK (fun x : Int => (.inl (some (vI x)), σ)) gTw ω l d mu_tw_isLetters [vR h, vI v1, vI v2, vR v3] σ (tw_isLetters N h v1 v2 v3 σ) := by
  refine gK.of hp_X11 (Nat.le_of_ble_eq_true rfl) ?_
  unfold tw_isLetters
  refine x_aload_n (μ := mu_tw_isLetters) (pc := 0) 3 dX11_isLetters_0 rfl ?_
  refine x_if (fun hT1 => ?_)
  refine x_slen (μ := mu_tw_isLetters) (pc := 1) q3037 dX11_isLetters_1 hT1 (by omega) (Nat.le_of_ble_eq_true rfl) ?_
  refine x_iload_n (μ := mu_tw_isLetters) (pc := 4) 2 dX11_isLetters_4 rfl ?_
  refine x_w2 ?_
  refine x_icmp_eq (μ := mu_tw_isLetters) (pc := 5) (tgt := 10) dX11_isLetters_5 rfl (w32_rng _) hv2 ?_ ?_
  · refine x_iconst (μ := mu_tw_isLetters) (pc := 10) dX11_isLetters_10 ?_
    refine x_istore (μ := mu_tw_isLetters) (pc := 11) (lv' := [(4, vI 0), (0, vR h), (1, vI v1), (2, vI v2), (3, vR v3)]) dX11_isLetters_11 (by decide) rfl ?_
    refine x_loc (lv' := [(0, vR h), (1, vI v1), (2, vI v2), (3, vR v3), (4, vI 0)]) [1, 2, 3, 4, 0] rfl ?_
    refine okl_tw_isLetters_l13 hdp hM hv1 hv2 ?_ N 0 (by decide)
    refine x_iconst (μ := mu_tw_isLetters) (pc := 45) dX11_isLetters_45 ?_
    exact x_zret (μ := mu_tw_isLetters) (pc := 46) dX11_isLetters_46 rfl (by decide) rfl (gRel_Tw.1 _) (show g32 1 from (by decide))
  · refine x_iconst (μ := mu_tw_isLetters) (pc := 8) dX11_isLetters_8 ?_
    exact x_zret (μ := mu_tw_isLetters) (pc := 9) dX11_isLetters_9 rfl (by decide) rfl (gRel_Tw.1 _) (show g32 0 from (by decide))
def tw_erase_l71_j98 (N : Nat) (h : Nat) (v2 : Int) (v3 : Int) (v4 : Int) (v6 : Int) (v7 : Int) (t0 : Int) (t1 : Int) (Kh : Int → Int → gMem → Option (Int × gMem)) (K : Int → gMem → Option (Int × gMem)) (s : gMem) : Option (Int × gMem) := (tw_setCell h v6 v7 0 s).bind (fun x22 => Kh (w32 (t1 + t0)) (w32 (v7 + 1)) x22)
set_option maxRecDepth 100000 in
theorem okj_tw_erase_l71_j98 {ω : gW} {l : Launch} {d : Nat} {N : Nat} {h : Nat} {σ0 : gMem} {s : gMem} {v2 : Int} {v3 : Int} {v4 : Int} {v6 : Int} {v7 : Int} {t0 : Int} {t1 : Int} {Kh : Int → Int → gMem → Option (Int × gMem)} {K : Int → gMem → Option (Int × gMem)} (hdp : 2 ≤ d) (hM : TM s h) (hv2 : g32 v2) (hv3 : g32 v3) (hv4 : g32 v4) (hv6 : g32 v6) (hv7 : g32 v7) (ht0 : g32 t0) (ht1 : g32 t1) (hKh : ∀ (v5 : Int) (v7 : Int) (s : gMem) , g32 v5 → g32 v7 → TM s h → GG (fun p : Int × gMem => (.inl (some (vI p.1)), p.2)) gTw ω l d mu_tw_erase σ0 71 [(0, vR h), (2, vI v2), (3, vI v3), (4, vI v4), (5, vI v5), (6, vI v6), (7, vI v7)] [] s (Kh v5 v7 s)) (hK : ∀ (v5 : Int) (s : gMem) , g32 v5 → TM s h → GG (fun p : Int × gMem => (.inl (some (vI p.1)), p.2)) gTw ω l d mu_tw_erase σ0 116 [(0, vR h), (2, vI v2), (3, vI v3), (4, vI v4), (5, vI v5), (6, vI v6)] [] s (K v5 s)) : GG (fun p : Int × gMem => (.inl (some (vI p.1)), p.2)) gTw ω l d mu_tw_erase σ0 98 [(0, vR h), (2, vI v2), (3, vI v3), (4, vI v4), (6, vI v6), (7, vI v7)] [vI t0, vI t1] s (tw_erase_l71_j98 N h v2 v3 v4 v6 v7 t0 t1 Kh K s) := by
  unfold tw_erase_l71_j98
  refine x_iadd (μ := mu_tw_erase) (pc := 98) dX11_erase_98 ?_
  refine x_w1 ?_
  refine x_istore (μ := mu_tw_erase) (pc := 99) (lv' := [(5, vI (w32 (t1 + t0))), (0, vR h), (2, vI v2), (3, vI v3), (4, vI v4), (6, vI v6), (7, vI v7)]) dX11_erase_99 (by decide) rfl ?_
  refine x_aload_n (μ := mu_tw_erase) (pc := 101) 1 dX11_erase_101 rfl ?_
  refine x_iload (μ := mu_tw_erase) (pc := 102) 5 dX11_erase_102 rfl ?_
  refine x_iload (μ := mu_tw_erase) (pc := 104) 6 dX11_erase_104 rfl ?_
  refine x_iconst (μ := mu_tw_erase) (pc := 106) dX11_erase_106 ?_
  refine x_callV_mv (μ := mu_tw_erase) (pc := 107) (ok_tw_setCell (ω := ω) (l := l) (d := d - 1) (by omega) hM hv6 hv7 (by decide)) gRel_Tw gRel_Tw (fun _ q => q) q3195 q3197 qs120 q232 q3198 dX11_erase_107 rfl hM.1 hy_tw_setCell (by omega) (Nat.le_of_ble_eq_true rfl) rfl (Nat.le_of_ble_eq_true rfl) (fun x22 k23 => ?_)
  have hM24 : TM x22 h := hM.tw k23
  refine x_iincw (μ := mu_tw_erase) (pc := 110) (lv' := [(7, vI (w32 (v7 + 1))), (5, vI (w32 (t1 + t0))), (0, vR h), (2, vI v2), (3, vI v3), (4, vI v4), (6, vI v6)]) 6 dX11_erase_110 rfl (by decide) rfl ?_
  refine x_goto (μ := mu_tw_erase) (pc := 113) (tgt := 71) dX11_erase_113 rfl ?_
  refine x_loc (lv' := [(0, vR h), (2, vI v2), (3, vI v3), (4, vI v4), (5, vI (w32 (t1 + t0))), (6, vI v6), (7, vI (w32 (v7 + 1)))]) [2, 3, 4, 5, 1, 6, 0] rfl ?_
  exact hKh (w32 (t1 + t0)) (w32 (v7 + 1)) x22 (w32_rng _) (w32_rng _) hM24
def tw_erase_l71 (N : Nat) (h : Nat) (v2 : Int) (v3 : Int) (v4 : Int) (v6 : Int) (K : Int → gMem → Option (Int × gMem)) : Nat → Int → Int → gMem → Option (Int × gMem)
  | 0, _, _, _ => none
  | n + 1, v5, v7, s => if v4 < v7 then K v5 s else (tw_cellAt h 40 v6 v7 s).bind (fun x20 => if x20 = 0 then tw_erase_l71_j98 N h v2 v3 v4 v6 v7 0 v5 (tw_erase_l71 N h v2 v3 v4 v6 K n) K s else tw_erase_l71_j98 N h v2 v3 v4 v6 v7 1 v5 (tw_erase_l71 N h v2 v3 v4 v6 K n) K s)
set_option maxRecDepth 100000 in
theorem okl_tw_erase_l71 {ω : gW} {l : Launch} {d : Nat} {N : Nat} {h : Nat} {σ0 : gMem} {v2 : Int} {v3 : Int} {v4 : Int} {v6 : Int} {K : Int → gMem → Option (Int × gMem)} (hdp : 2 ≤ d) (hv2 : g32 v2) (hv3 : g32 v3) (hv4 : g32 v4) (hv6 : g32 v6) (hK : ∀ (v5 : Int) (s : gMem) , g32 v5 → TM s h → GG (fun p : Int × gMem => (.inl (some (vI p.1)), p.2)) gTw ω l d mu_tw_erase σ0 116 [(0, vR h), (2, vI v2), (3, vI v3), (4, vI v4), (5, vI v5), (6, vI v6)] [] s (K v5 s)) : ∀ (n : Nat) (v5 : Int) (v7 : Int) (s : gMem) , g32 v5 → g32 v7 → TM s h → GG (fun p : Int × gMem => (.inl (some (vI p.1)), p.2)) gTw ω l d mu_tw_erase σ0 71 [(0, vR h), (2, vI v2), (3, vI v3), (4, vI v4), (5, vI v5), (6, vI v6), (7, vI v7)] [] s (tw_erase_l71 N h v2 v3 v4 v6 K n v5 v7 s) := by
  intro n
  induction n with
  | zero => intros; exact x_none
  | succ n ih =>
    intro v5 v7 s hv5 hv7 hM
    unfold tw_erase_l71
    refine x_iload (μ := mu_tw_erase) (pc := 71) 6 dX11_erase_71 rfl ?_
    refine x_iload (μ := mu_tw_erase) (pc := 73) 3 dX11_erase_73 rfl ?_
    refine x_icmp_gt (μ := mu_tw_erase) (pc := 75) (tgt := 116) dX11_erase_75 rfl hv7 hv4 ?_ ?_
    · refine x_loc (lv' := [(0, vR h), (2, vI v2), (3, vI v3), (4, vI v4), (5, vI v5), (6, vI v6)]) [0, 1, 2, 3, 4, 5] rfl ?_
      exact hK v5 s hv5 hM
    · refine x_iload (μ := mu_tw_erase) (pc := 78) 4 dX11_erase_78 rfl ?_
      refine x_aload_n (μ := mu_tw_erase) (pc := 80) 0 dX11_erase_80 rfl ?_
      refine x_bipush (μ := mu_tw_erase) (pc := 81) dX11_erase_81 (by decide) ?_
      refine x_iload (μ := mu_tw_erase) (pc := 83) 5 dX11_erase_83 rfl ?_
      refine x_iload (μ := mu_tw_erase) (pc := 85) 6 dX11_erase_85 rfl ?_
      refine x_callV_pi (μ := mu_tw_erase) (pc := 87) (ok_tw_cellAt (ω := ω) (l := l) (d := d - 1) (by omega) hM (by decide) hv6 hv7) gRel_Tw gRel_Tw (fun _ q => q) q3453 q3455 qs173 q232 q3456 dX11_erase_87 rfl hM.1 hy_tw_cellAt (by omega) (Nat.le_of_ble_eq_true rfl) rfl (Nat.le_of_ble_eq_true rfl) (fun x20 hr21 => ?_)
      refine x_if_eq (μ := mu_tw_erase) (pc := 90) (tgt := 97) dX11_erase_90 rfl hr21 ?_ ?_
      · refine x_iconst (μ := mu_tw_erase) (pc := 97) dX11_erase_97 ?_
        refine x_loc (lv' := [(0, vR h), (2, vI v2), (3, vI v3), (4, vI v4), (6, vI v6), (7, vI v7)]) [0, 1, 2, 3, 5, 6] rfl ?_
        exact okj_tw_erase_l71_j98 hdp hM hv2 hv3 hv4 hv6 hv7 (by decide) hv5 ih hK
      · refine x_iconst (μ := mu_tw_erase) (pc := 93) dX11_erase_93 ?_
        refine x_goto (μ := mu_tw_erase) (pc := 94) (tgt := 98) dX11_erase_94 rfl ?_
        refine x_loc (lv' := [(0, vR h), (2, vI v2), (3, vI v3), (4, vI v4), (6, vI v6), (7, vI v7)]) [0, 1, 2, 3, 5, 6] rfl ?_
        exact okj_tw_erase_l71_j98 hdp hM hv2 hv3 hv4 hv6 hv7 (by decide) hv5 ih hK
def tw_erase_l62 (N : Nat) (h : Nat) (v2 : Int) (v3 : Int) (v4 : Int) (K : Int → gMem → Option (Int × gMem)) : Nat → Int → Int → gMem → Option (Int × gMem)
  | 0, _, _, _ => none
  | n + 1, v5, v6, s => if v3 < v6 then K v5 s else tw_erase_l71 N h v2 v3 v4 v6 (fun y25 s26 => tw_erase_l62 N h v2 v3 v4 K n y25 (w32 (v6 + 1)) s26) N v5 v2 s
set_option maxRecDepth 100000 in
theorem okl_tw_erase_l62 {ω : gW} {l : Launch} {d : Nat} {N : Nat} {h : Nat} {σ0 : gMem} {v2 : Int} {v3 : Int} {v4 : Int} {K : Int → gMem → Option (Int × gMem)} (hdp : 2 ≤ d) (hv2 : g32 v2) (hv3 : g32 v3) (hv4 : g32 v4) (hK : ∀ (v5 : Int) (s : gMem) , g32 v5 → TM s h → GG (fun p : Int × gMem => (.inl (some (vI p.1)), p.2)) gTw ω l d mu_tw_erase σ0 122 [(5, vI v5)] [] s (K v5 s)) : ∀ (n : Nat) (v5 : Int) (v6 : Int) (s : gMem) , g32 v5 → g32 v6 → TM s h → GG (fun p : Int × gMem => (.inl (some (vI p.1)), p.2)) gTw ω l d mu_tw_erase σ0 62 [(0, vR h), (2, vI v2), (3, vI v3), (4, vI v4), (5, vI v5), (6, vI v6)] [] s (tw_erase_l62 N h v2 v3 v4 K n v5 v6 s) := by
  intro n
  induction n with
  | zero => intros; exact x_none
  | succ n ih =>
    intro v5 v6 s hv5 hv6 hM
    unfold tw_erase_l62
    refine x_iload (μ := mu_tw_erase) (pc := 62) 5 dX11_erase_62 rfl ?_
    refine x_iload_n (μ := mu_tw_erase) (pc := 64) 2 dX11_erase_64 rfl ?_
    refine x_icmp_gt (μ := mu_tw_erase) (pc := 65) (tgt := 122) dX11_erase_65 rfl hv6 hv3 ?_ ?_
    · refine x_loc (lv' := [(5, vI v5)]) [4] rfl ?_
      exact hK v5 s hv5 hM
    · refine x_iload_n (μ := mu_tw_erase) (pc := 68) 1 dX11_erase_68 rfl ?_
      refine x_istore (μ := mu_tw_erase) (pc := 69) (lv' := [(7, vI v2), (0, vR h), (2, vI v2), (3, vI v3), (4, vI v4), (5, vI v5), (6, vI v6)]) dX11_erase_69 (by decide) rfl ?_
      refine x_loc (lv' := [(0, vR h), (2, vI v2), (3, vI v3), (4, vI v4), (5, vI v5), (6, vI v6), (7, vI v2)]) [1, 2, 3, 4, 5, 6, 0] rfl ?_
      refine okl_tw_erase_l71 hdp hv2 hv3 hv4 hv6 (fun y25 s26 hy25 hM27 => ?_) N v5 v2 s hv5 hv2 hM
      refine x_iincw (μ := mu_tw_erase) (pc := 116) (lv' := [(6, vI (w32 (v6 + 1))), (0, vR h), (2, vI v2), (3, vI v3), (4, vI v4), (5, vI y25)]) 5 dX11_erase_116 rfl (by decide) rfl ?_
      refine x_goto (μ := mu_tw_erase) (pc := 119) (tgt := 62) dX11_erase_119 rfl ?_
      refine x_loc (lv' := [(0, vR h), (2, vI v2), (3, vI v3), (4, vI v4), (5, vI y25), (6, vI (w32 (v6 + 1)))]) [1, 2, 3, 4, 5, 0] rfl ?_
      exact ih y25 (w32 (v6 + 1)) s26 hy25 (w32_rng _) hM27
def tw_erase (N : Nat) (h : Nat) (v1 : Int) (v2 : Int) (v3 : Int) (v4 : Int) (σ : gMem) : Option (Int × gMem) := gLet (wI σ h 0 0) (fun s1 => (tw_isCell h 40 v1 v2 s1).bind (fun x4 => if x4 = 0 then (tw_throwing h 1 s1).bind (fun x6 => some (x6.1, x6.2)) else (tw_isCell h 40 v3 v4 s1).bind (fun x10 => if x10 ≠ 0 then if v3 < v1 then (tw_throwing h 2 s1).bind (fun x12 => some (x12.1, x12.2)) else if v2 ≤ v4 then (tw_step N h s1).bind (fun x16 => tw_erase_l62 N h v2 v3 v4 (fun y28 s29 => some (y28, s29)) N 0 v1 (x16.2)) else (tw_throwing h 2 s1).bind (fun x31 => some (x31.1, x31.2)) else (tw_throwing h 1 s1).bind (fun x35 => some (x35.1, x35.2)))))
set_option maxRecDepth 100000 in
theorem ok_tw_erase {ω : gW} {l : Launch} {d : Nat} {N : Nat} {h : Nat} {σ : gMem} {v1 : Int} {v2 : Int} {v3 : Int} {v4 : Int} (hdp : 2 ≤ d) (hM : TM σ h) (hv1 : g32 v1) (hv2 : g32 v2) (hv3 : g32 v3) (hv4 : g32 v4) : gK (fun p : Int × gMem => (.inl (some (vI p.1)), p.2)) gTw ω l d mu_tw_erase [vR h, vI v1, vI v2, vI v3, vI v4] σ (tw_erase N h v1 v2 v3 v4 σ) := by
  refine gK.of hp_X11 (Nat.le_of_ble_eq_true rfl) ?_
  unfold tw_erase
  refine x_aload_n (μ := mu_tw_erase) (pc := 0) 0 dX11_erase_0 rfl ?_
  refine x_iconst (μ := mu_tw_erase) (pc := 1) dX11_erase_1 ?_
  refine x_fpi (μ := mu_tw_erase) (pc := 2) fX11_0 q2636 dX11_erase_2 hM.1 (fun _ q => gTw_wI q) ?_
  refine x_let (fun s1 e2 => ?_)
  have hM3 := TM.eI e2 hM
  refine x_aload_n (μ := mu_tw_erase) (pc := 5) 0 dX11_erase_5 rfl ?_
  refine x_bipush (μ := mu_tw_erase) (pc := 6) dX11_erase_6 (by decide) ?_
  refine x_iload_n (μ := mu_tw_erase) (pc := 8) 1 dX11_erase_8 rfl ?_
  refine x_iload_n (μ := mu_tw_erase) (pc := 9) 2 dX11_erase_9 rfl ?_
  refine x_callV_pi (μ := mu_tw_erase) (pc := 10) (ok_tw_isCell (ω := ω) (l := l) (d := d - 1) (by omega) hM3 (by decide) hv1 hv2) gRel_Tw gRel_Tw (fun _ q => q) q2987 q2989 qs80 q232 q2990 dX11_erase_10 rfl hM3.1 hy_tw_isCell (by omega) (Nat.le_of_ble_eq_true rfl) rfl (Nat.le_of_ble_eq_true rfl) (fun x4 hr5 => ?_)
  refine x_if_eq (μ := mu_tw_erase) (pc := 13) (tgt := 28) dX11_erase_13 rfl hr5 ?_ ?_
  · refine x_aload_n (μ := mu_tw_erase) (pc := 28) 0 dX11_erase_28 rfl ?_
    refine x_iconst (μ := mu_tw_erase) (pc := 29) dX11_erase_29 ?_
    refine x_callV_mi (μ := mu_tw_erase) (pc := 30) (ok_tw_throwing (ω := ω) (l := l) (d := d - 1) (by omega) hM3 (by decide)) gRel_Tw gRel_Tw (fun _ q => q) q2960 q2962 qs78 q232 q2963 dX11_erase_30 rfl hM3.1 hy_tw_throwing (by omega) (Nat.le_of_ble_eq_true rfl) rfl (Nat.le_of_ble_eq_true rfl) (fun x6 k8 hr7 => ?_)
    have hM9 : TM (x6.2) h := hM3.tw k8
    exact x_iret (μ := mu_tw_erase) (pc := 33) dX11_erase_33 rfl rfl (gRel_Tw.1 _) (show g32 (x6.1) from hr7)
  · refine x_aload_n (μ := mu_tw_erase) (pc := 16) 0 dX11_erase_16 rfl ?_
    refine x_bipush (μ := mu_tw_erase) (pc := 17) dX11_erase_17 (by decide) ?_
    refine x_iload_n (μ := mu_tw_erase) (pc := 19) 3 dX11_erase_19 rfl ?_
    refine x_iload (μ := mu_tw_erase) (pc := 20) 4 dX11_erase_20 rfl ?_
    refine x_callV_pi (μ := mu_tw_erase) (pc := 22) (ok_tw_isCell (ω := ω) (l := l) (d := d - 1) (by omega) hM3 (by decide) hv3 hv4) gRel_Tw gRel_Tw (fun _ q => q) q2987 q2989 qs80 q232 q2990 dX11_erase_22 rfl hM3.1 hy_tw_isCell (by omega) (Nat.le_of_ble_eq_true rfl) rfl (Nat.le_of_ble_eq_true rfl) (fun x10 hr11 => ?_)
    refine x_if_ne (μ := mu_tw_erase) (pc := 25) (tgt := 34) dX11_erase_25 rfl hr11 ?_ ?_
    · refine x_iload_n (μ := mu_tw_erase) (pc := 34) 3 dX11_erase_34 rfl ?_
      refine x_iload_n (μ := mu_tw_erase) (pc := 35) 1 dX11_erase_35 rfl ?_
      refine x_icmp_lt (μ := mu_tw_erase) (pc := 36) (tgt := 45) dX11_erase_36 rfl hv3 hv1 ?_ ?_
      · refine x_aload_n (μ := mu_tw_erase) (pc := 45) 0 dX11_erase_45 rfl ?_
        refine x_iconst (μ := mu_tw_erase) (pc := 46) dX11_erase_46 ?_
        refine x_callV_mi (μ := mu_tw_erase) (pc := 47) (ok_tw_throwing (ω := ω) (l := l) (d := d - 1) (by omega) hM3 (by decide)) gRel_Tw gRel_Tw (fun _ q => q) q2960 q2962 qs78 q232 q2963 dX11_erase_47 rfl hM3.1 hy_tw_throwing (by omega) (Nat.le_of_ble_eq_true rfl) rfl (Nat.le_of_ble_eq_true rfl) (fun x12 k14 hr13 => ?_)
        have hM15 : TM (x12.2) h := hM3.tw k14
        exact x_iret (μ := mu_tw_erase) (pc := 50) dX11_erase_50 rfl rfl (gRel_Tw.1 _) (show g32 (x12.1) from hr13)
      · refine x_iload (μ := mu_tw_erase) (pc := 39) 4 dX11_erase_39 rfl ?_
        refine x_iload_n (μ := mu_tw_erase) (pc := 41) 2 dX11_erase_41 rfl ?_
        refine x_icmp_ge (μ := mu_tw_erase) (pc := 42) (tgt := 51) dX11_erase_42 rfl hv4 hv2 ?_ ?_
        · refine x_aload_n (μ := mu_tw_erase) (pc := 51) 0 dX11_erase_51 rfl ?_
          refine x_callV_mi (μ := mu_tw_erase) (pc := 52) (ok_tw_step (ω := ω) (l := l) (d := d - 1) (by omega) hM3 ) gRel_Tw gRel_Tw (fun _ q => q) q3191 q3193 qs119 q232 q3194 dX11_erase_52 rfl hM3.1 hy_tw_step (by omega) (Nat.le_of_ble_eq_true rfl) rfl (Nat.le_of_ble_eq_true rfl) (fun x16 k18 hr17 => ?_)
          have hM19 : TM (x16.2) h := hM3.tw k18
          refine x_pop (μ := mu_tw_erase) (pc := 55) dX11_erase_55 rfl ?_
          refine x_iconst (μ := mu_tw_erase) (pc := 56) dX11_erase_56 ?_
          refine x_istore (μ := mu_tw_erase) (pc := 57) (lv' := [(5, vI 0), (0, vR h), (1, vI v1), (2, vI v2), (3, vI v3), (4, vI v4)]) dX11_erase_57 (by decide) rfl ?_
          refine x_iload_n (μ := mu_tw_erase) (pc := 59) 2 dX11_erase_59 rfl ?_
          refine x_istore (μ := mu_tw_erase) (pc := 60) (lv' := [(6, vI v1), (5, vI 0), (0, vR h), (1, vI v1), (2, vI v2), (3, vI v3), (4, vI v4)]) dX11_erase_60 (by decide) rfl ?_
          refine x_loc (lv' := [(0, vR h), (2, vI v2), (3, vI v3), (4, vI v4), (5, vI 0), (6, vI v1)]) [2, 4, 5, 6, 1, 0] rfl ?_
          refine okl_tw_erase_l62 hdp hv2 hv3 hv4 (fun y28 s29 hy28 hM30 => ?_) N 0 v1 (x16.2) (by decide) hv1 hM19
          refine x_iload (μ := mu_tw_erase) (pc := 122) 0 dX11_erase_122 rfl ?_
          exact x_iret (μ := mu_tw_erase) (pc := 124) dX11_erase_124 rfl rfl (gRel_Tw.1 _) (show g32 y28 from hy28)
        · refine x_aload_n (μ := mu_tw_erase) (pc := 45) 0 dX11_erase_45 rfl ?_
          refine x_iconst (μ := mu_tw_erase) (pc := 46) dX11_erase_46 ?_
          refine x_callV_mi (μ := mu_tw_erase) (pc := 47) (ok_tw_throwing (ω := ω) (l := l) (d := d - 1) (by omega) hM3 (by decide)) gRel_Tw gRel_Tw (fun _ q => q) q2960 q2962 qs78 q232 q2963 dX11_erase_47 rfl hM3.1 hy_tw_throwing (by omega) (Nat.le_of_ble_eq_true rfl) rfl (Nat.le_of_ble_eq_true rfl) (fun x31 k33 hr32 => ?_)
          have hM34 : TM (x31.2) h := hM3.tw k33
          exact x_iret (μ := mu_tw_erase) (pc := 50) dX11_erase_50 rfl rfl (gRel_Tw.1 _) (show g32 (x31.1) from hr32)
    · refine x_aload_n (μ := mu_tw_erase) (pc := 28) 0 dX11_erase_28 rfl ?_
      refine x_iconst (μ := mu_tw_erase) (pc := 29) dX11_erase_29 ?_
      refine x_callV_mi (μ := mu_tw_erase) (pc := 30) (ok_tw_throwing (ω := ω) (l := l) (d := d - 1) (by omega) hM3 (by decide)) gRel_Tw gRel_Tw (fun _ q => q) q2960 q2962 qs78 q232 q2963 dX11_erase_30 rfl hM3.1 hy_tw_throwing (by omega) (Nat.le_of_ble_eq_true rfl) rfl (Nat.le_of_ble_eq_true rfl) (fun x35 k37 hr36 => ?_)
      have hM38 : TM (x35.2) h := hM3.tw k37
      exact x_iret (μ := mu_tw_erase) (pc := 33) dX11_erase_33 rfl rfl (gRel_Tw.1 _) (show g32 (x35.1) from hr36)
def tw_setLines (h : Nat) (v1 : Int) (v2 : Int) (v3 : Int) (σ : gMem) : Option gMem := if v2 ≠ 0 then if 0 ≤ v1 ∧ v1 < ((122 : Nat) : Int) then gLet (wI σ (h + 2) v1.toNat v3) (fun s1 => some s1) else none else if 0 ≤ v1 ∧ v1 < ((122 : Nat) : Int) then gLet (wI σ (h + 1) v1.toNat v3) (fun s4 => some s4) else none
set_option maxRecDepth 100000 in
theorem ok_tw_setLines {ω : gW} {l : Launch} {d : Nat} {h : Nat} {σ : gMem} {v1 : Int} {v2 : Int} {v3 : Int} (hdp : 0 ≤ d) (hM : TM σ h) (hv1 : g32 v1) (hv2 : g32 v2) (hv3 : g32 v3) : gK (fun p : gMem => (.inl none, p)) gTw ω l d mu_tw_setLines [vR h, vI v1, vI v2, vI v3] σ (tw_setLines h v1 v2 v3 σ) := by
  refine gK.of hp_X11 (Nat.le_of_ble_eq_true rfl) ?_
  unfold tw_setLines
  refine x_iload_n (μ := mu_tw_setLines) (pc := 0) 2 dX11_setLines_0 rfl ?_
  refine x_if_ne (μ := mu_tw_setLines) (pc := 1) (tgt := 14) dX11_setLines_1 rfl hv2 ?_ ?_
  · refine x_aload_n (μ := mu_tw_setLines) (pc := 14) 0 dX11_setLines_14 rfl ?_
    refine x_fgrE (μ := mu_tw_setLines) (pc := 15) fX11_2 (Or.inr ⟨_, rfl⟩) q2638 (hM.a2).1 dX11_setLines_15 hM.1 ?_
    refine x_iload_n (μ := mu_tw_setLines) (pc := 18) 1 dX11_setLines_18 rfl ?_
    refine x_iload_n (μ := mu_tw_setLines) (pc := 19) 3 dX11_setLines_19 rfl ?_
    refine x_iast (μ := mu_tw_setLines) (pc := 20) dX11_setLines_20 (hM.a2).2.1 (hM.a2).2.2 (fun _ _ q => gTw_wI q) ?_
    refine x_let (fun s1 e2 => ?_)
    have hM3 := TM.eI e2 hM
    exact x_vret (μ := mu_tw_setLines) (pc := 21) (a1 := s1) dX11_setLines_21 rfl rfl (gRel_Tw.1 _) trivial
  · refine x_aload_n (μ := mu_tw_setLines) (pc := 4) 0 dX11_setLines_4 rfl ?_
    refine x_fgrE (μ := mu_tw_setLines) (pc := 5) fX11_1 (Or.inr ⟨_, rfl⟩) q2637 (hM.a1).1 dX11_setLines_5 hM.1 ?_
    refine x_iload_n (μ := mu_tw_setLines) (pc := 8) 1 dX11_setLines_8 rfl ?_
    refine x_iload_n (μ := mu_tw_setLines) (pc := 9) 3 dX11_setLines_9 rfl ?_
    refine x_iast (μ := mu_tw_setLines) (pc := 10) dX11_setLines_10 (hM.a1).2.1 (hM.a1).2.2 (fun _ _ q => gTw_wI q) ?_
    refine x_let (fun s4 e5 => ?_)
    have hM6 := TM.eI e5 hM
    refine x_goto (μ := mu_tw_setLines) (pc := 11) (tgt := 21) dX11_setLines_11 rfl ?_
    exact x_vret (μ := mu_tw_setLines) (pc := 21) (a1 := s4) dX11_setLines_21 rfl rfl (gRel_Tw.1 _) trivial
def tw_setLine (h : Nat) (v1 : Int) (v2 : Int) (v3 : Int) (v4 : Int) (σ : gMem) : Option gMem := if v2 ≠ 0 then if 0 ≤ ((10 * v1) + v3) ∧ ((10 * v1) + v3) < ((1220 : Nat) : Int) then gLet (wI σ (h + 4) ((10 * v1) + v3).toNat v4) (fun s1 => some s1) else none else if 0 ≤ ((32 * v1) + v3) ∧ ((32 * v1) + v3) < ((3904 : Nat) : Int) then gLet (wI σ (h + 3) ((32 * v1) + v3).toNat v4) (fun s4 => some s4) else none
set_option maxRecDepth 100000 in
theorem ok_tw_setLine {ω : gW} {l : Launch} {d : Nat} {h : Nat} {σ : gMem} {v1 : Int} {v2 : Int} {v3 : Int} {v4 : Int} (hdp : 0 ≤ d) (hM : TM σ h) (hv1 : g32 v1) (hv2 : g32 v2) (hv3 : g32 v3) (hv4 : g32 v4) : gK (fun p : gMem => (.inl none, p)) gTw ω l d mu_tw_setLine [vR h, vI v1, vI v2, vI v3, vI v4] σ (tw_setLine h v1 v2 v3 v4 σ) := by
  refine gK.of hp_X11 (Nat.le_of_ble_eq_true rfl) ?_
  unfold tw_setLine
  refine x_iload_n (μ := mu_tw_setLine) (pc := 0) 2 dX11_setLine_0 rfl ?_
  refine x_if_ne (μ := mu_tw_setLine) (pc := 1) (tgt := 20) dX11_setLine_1 rfl hv2 ?_ ?_
  · refine x_aload_n (μ := mu_tw_setLine) (pc := 20) 0 dX11_setLine_20 rfl ?_
    refine x_fgrE (μ := mu_tw_setLine) (pc := 21) fX11_4 (Or.inr ⟨_, rfl⟩) q2640 (hM.a4).1 dX11_setLine_21 hM.1 ?_
    refine x_bipush (μ := mu_tw_setLine) (pc := 24) dX11_setLine_24 (by decide) ?_
    refine x_iload_n (μ := mu_tw_setLine) (pc := 26) 1 dX11_setLine_26 rfl ?_
    refine x_imul (μ := mu_tw_setLine) (pc := 27) dX11_setLine_27 ?_
    refine x_iload_n (μ := mu_tw_setLine) (pc := 28) 3 dX11_setLine_28 rfl ?_
    refine x_iadd (μ := mu_tw_setLine) (pc := 29) dX11_setLine_29 ?_
    refine x_iload (μ := mu_tw_setLine) (pc := 30) 4 dX11_setLine_30 rfl ?_
    refine x_iast (μ := mu_tw_setLine) (pc := 32) dX11_setLine_32 (hM.a4).2.1 (hM.a4).2.2 (fun _ _ q => gTw_wI q) ?_
    refine x_let (fun s1 e2 => ?_)
    have hM3 := TM.eI e2 hM
    exact x_vret (μ := mu_tw_setLine) (pc := 33) (a1 := s1) dX11_setLine_33 rfl rfl (gRel_Tw.1 _) trivial
  · refine x_aload_n (μ := mu_tw_setLine) (pc := 4) 0 dX11_setLine_4 rfl ?_
    refine x_fgrE (μ := mu_tw_setLine) (pc := 5) fX11_3 (Or.inr ⟨_, rfl⟩) q2639 (hM.a3).1 dX11_setLine_5 hM.1 ?_
    refine x_bipush (μ := mu_tw_setLine) (pc := 8) dX11_setLine_8 (by decide) ?_
    refine x_iload_n (μ := mu_tw_setLine) (pc := 10) 1 dX11_setLine_10 rfl ?_
    refine x_imul (μ := mu_tw_setLine) (pc := 11) dX11_setLine_11 ?_
    refine x_iload_n (μ := mu_tw_setLine) (pc := 12) 3 dX11_setLine_12 rfl ?_
    refine x_iadd (μ := mu_tw_setLine) (pc := 13) dX11_setLine_13 ?_
    refine x_iload (μ := mu_tw_setLine) (pc := 14) 4 dX11_setLine_14 rfl ?_
    refine x_iast (μ := mu_tw_setLine) (pc := 16) dX11_setLine_16 (hM.a3).2.1 (hM.a3).2.2 (fun _ _ q => gTw_wI q) ?_
    refine x_let (fun s4 e5 => ?_)
    have hM6 := TM.eI e5 hM
    refine x_goto (μ := mu_tw_setLine) (pc := 17) (tgt := 33) dX11_setLine_17 rfl ?_
    exact x_vret (μ := mu_tw_setLine) (pc := 33) (a1 := s4) dX11_setLine_33 rfl rfl (gRel_Tw.1 _) trivial
def tw_longOf (v0 : Int) (σ : gMem) : Option Int := if v0 ≠ 0 then some 32 else some 10
set_option maxRecDepth 100000 in
theorem ok_tw_longOf {ω : gW} {l : Launch} {d : Nat} {σ : gMem} {v0 : Int} (hdp : 0 ≤ d) (hv0 : g32 v0) : gK (fun x : Int => (.inl (some (vI x)), σ)) gTw ω l d mu_tw_longOf [vI v0] σ (tw_longOf v0 σ) := by
  refine gK.of hp_X11 (Nat.le_of_ble_eq_true rfl) ?_
  unfold tw_longOf
  refine x_iload_n (μ := mu_tw_longOf) (pc := 0) 0 dX11_longOf_0 rfl ?_
  refine x_if_ne (μ := mu_tw_longOf) (pc := 1) (tgt := 9) dX11_longOf_1 rfl hv0 ?_ ?_
  · refine x_bipush (μ := mu_tw_longOf) (pc := 9) dX11_longOf_9 (by decide) ?_
    exact x_iret (μ := mu_tw_longOf) (pc := 11) dX11_longOf_11 rfl rfl (gRel_Tw.1 _) (show g32 32 from (by decide))
  · refine x_bipush (μ := mu_tw_longOf) (pc := 4) dX11_longOf_4 (by decide) ?_
    refine x_goto (μ := mu_tw_longOf) (pc := 6) (tgt := 11) dX11_longOf_6 rfl ?_
    exact x_iret (μ := mu_tw_longOf) (pc := 11) dX11_longOf_11 rfl rfl (gRel_Tw.1 _) (show g32 10 from (by decide))
def tw_onLine (v0 : Int) (v1 : Int) (v2 : Int) (σ : gMem) : Option Int := if v0 ≠ 0 then some (w32 ((10 * v2) + v1)) else some (w32 ((10 * v1) + v2))
set_option maxRecDepth 100000 in
theorem ok_tw_onLine {ω : gW} {l : Launch} {d : Nat} {σ : gMem} {v0 : Int} {v1 : Int} {v2 : Int} (hdp : 0 ≤ d) (hv0 : g32 v0) (hv1 : g32 v1) (hv2 : g32 v2) : gK (fun x : Int => (.inl (some (vI x)), σ)) gTw ω l d mu_tw_onLine [vI v0, vI v1, vI v2] σ (tw_onLine v0 v1 v2 σ) := by
  refine gK.of hp_X11 (Nat.le_of_ble_eq_true rfl) ?_
  unfold tw_onLine
  refine x_iload_n (μ := mu_tw_onLine) (pc := 0) 0 dX11_onLine_0 rfl ?_
  refine x_if_ne (μ := mu_tw_onLine) (pc := 1) (tgt := 13) dX11_onLine_1 rfl hv0 ?_ ?_
  · refine x_bipush (μ := mu_tw_onLine) (pc := 13) dX11_onLine_13 (by decide) ?_
    refine x_iload_n (μ := mu_tw_onLine) (pc := 15) 2 dX11_onLine_15 rfl ?_
    refine x_imul (μ := mu_tw_onLine) (pc := 16) dX11_onLine_16 ?_
    refine x_iload_n (μ := mu_tw_onLine) (pc := 17) 1 dX11_onLine_17 rfl ?_
    refine x_iadd (μ := mu_tw_onLine) (pc := 18) dX11_onLine_18 ?_
    refine x_w1 ?_
    exact x_iret (μ := mu_tw_onLine) (pc := 19) dX11_onLine_19 rfl rfl (gRel_Tw.1 _) (show g32 (w32 ((10 * v2) + v1)) from (w32_rng _))
  · refine x_bipush (μ := mu_tw_onLine) (pc := 4) dX11_onLine_4 (by decide) ?_
    refine x_iload_n (μ := mu_tw_onLine) (pc := 6) 1 dX11_onLine_6 rfl ?_
    refine x_imul (μ := mu_tw_onLine) (pc := 7) dX11_onLine_7 ?_
    refine x_iload_n (μ := mu_tw_onLine) (pc := 8) 2 dX11_onLine_8 rfl ?_
    refine x_iadd (μ := mu_tw_onLine) (pc := 9) dX11_onLine_9 ?_
    refine x_goto (μ := mu_tw_onLine) (pc := 10) (tgt := 19) dX11_onLine_10 rfl ?_
    refine x_w1 ?_
    exact x_iret (μ := mu_tw_onLine) (pc := 19) dX11_onLine_19 rfl rfl (gRel_Tw.1 _) (show g32 (w32 ((10 * v1) + v2)) from (w32_rng _))
def tw_emptyLine_l2 (N : Nat) (h : Nat) (v1 : Int) (v2 : Int) (K : gMem → Option gMem) : Nat → Int → gMem → Option gMem
  | 0, _, _ => none
  | n + 1, v3, s => (tw_longOf v1 s).bind (fun x1 => if x1 ≤ v3 then K s else (tw_onLine v1 v2 v3 s).bind (fun x3 => if 0 ≤ (12800 + x3) ∧ (12800 + x3) < ((39040 : Nat) : Int) then gLet (wI s (h + 5) (12800 + x3).toNat 0) (fun s5 => tw_emptyLine_l2 N h v1 v2 K n (w32 (v3 + 1)) s5) else none))
set_option maxRecDepth 100000 in
theorem okl_tw_emptyLine_l2 {ω : gW} {l : Launch} {d : Nat} {N : Nat} {h : Nat} {σ0 : gMem} {v1 : Int} {v2 : Int} {K : gMem → Option gMem} (hdp : 1 ≤ d) (hv1 : g32 v1) (hv2 : g32 v2) (hK : ∀ (s : gMem) , TM s h → GG (fun p : gMem => (.inl none, p)) gTw ω l d mu_tw_emptyLine σ0 32 [] [] s (K s)) : ∀ (n : Nat) (v3 : Int) (s : gMem) , g32 v3 → TM s h → GG (fun p : gMem => (.inl none, p)) gTw ω l d mu_tw_emptyLine σ0 2 [(0, vR h), (1, vI v1), (2, vI v2), (3, vI v3)] [] s (tw_emptyLine_l2 N h v1 v2 K n v3 s) := by
  intro n
  induction n with
  | zero => intros; exact x_none
  | succ n ih =>
    intro v3 s hv3 hM
    unfold tw_emptyLine_l2
    refine x_iload_n (μ := mu_tw_emptyLine) (pc := 2) 3 dX11_emptyLine_2 rfl ?_
    refine x_iload_n (μ := mu_tw_emptyLine) (pc := 3) 1 dX11_emptyLine_3 rfl ?_
    refine x_callS_pi (μ := mu_tw_emptyLine) (pc := 4) (ok_tw_longOf (ω := ω) (l := l) (d := d - 1) (by omega) hv1) gRel_Tw gRel_Tw (fun _ q => q) q3539 q3540 q232 q3541 dX11_emptyLine_4 hy_tw_longOf (by omega) (Nat.le_of_ble_eq_true rfl) rfl (Nat.le_of_ble_eq_true rfl) (fun x1 hr2 => ?_)
    refine x_icmp_ge (μ := mu_tw_emptyLine) (pc := 7) (tgt := 32) dX11_emptyLine_7 rfl hv3 hr2 ?_ ?_
    · refine x_loc (lv' := []) [] rfl ?_
      exact hK s hM
    · refine x_aload_n (μ := mu_tw_emptyLine) (pc := 10) 0 dX11_emptyLine_10 rfl ?_
      refine x_fgrE (μ := mu_tw_emptyLine) (pc := 11) fX11_5 (Or.inr ⟨_, rfl⟩) q2641 (hM.a5).1 dX11_emptyLine_11 hM.1 ?_
      refine x_sipush (μ := mu_tw_emptyLine) (pc := 14) dX11_emptyLine_14 (by decide) ?_
      refine x_iload_n (μ := mu_tw_emptyLine) (pc := 17) 1 dX11_emptyLine_17 rfl ?_
      refine x_iload_n (μ := mu_tw_emptyLine) (pc := 18) 2 dX11_emptyLine_18 rfl ?_
      refine x_iload_n (μ := mu_tw_emptyLine) (pc := 19) 3 dX11_emptyLine_19 rfl ?_
      refine x_callS_pi (μ := mu_tw_emptyLine) (pc := 20) (ok_tw_onLine (ω := ω) (l := l) (d := d - 1) (by omega) hv1 hv2 hv3) gRel_Tw gRel_Tw (fun _ q => q) q3542 q3543 q232 q3544 dX11_emptyLine_20 hy_tw_onLine (by omega) (Nat.le_of_ble_eq_true rfl) rfl (Nat.le_of_ble_eq_true rfl) (fun x3 hr4 => ?_)
      refine x_iadd (μ := mu_tw_emptyLine) (pc := 23) dX11_emptyLine_23 ?_
      refine x_iconst (μ := mu_tw_emptyLine) (pc := 24) dX11_emptyLine_24 ?_
      refine x_iast (μ := mu_tw_emptyLine) (pc := 25) dX11_emptyLine_25 (hM.a5).2.1 (hM.a5).2.2 (fun _ _ q => gTw_wI q) ?_
      refine x_let (fun s5 e6 => ?_)
      have hM7 := TM.eI e6 hM
      refine x_iincw (μ := mu_tw_emptyLine) (pc := 26) (lv' := [(3, vI (w32 (v3 + 1))), (0, vR h), (1, vI v1), (2, vI v2)]) 3 dX11_emptyLine_26 rfl (by decide) rfl ?_
      refine x_goto (μ := mu_tw_emptyLine) (pc := 29) (tgt := 2) dX11_emptyLine_29 rfl ?_
      refine x_loc (lv' := [(0, vR h), (1, vI v1), (2, vI v2), (3, vI (w32 (v3 + 1)))]) [1, 2, 3, 0] rfl ?_
      exact ih (w32 (v3 + 1)) s5 (w32_rng _) hM7
def tw_emptyLine (N : Nat) (h : Nat) (v1 : Int) (v2 : Int) (σ : gMem) : Option gMem := tw_emptyLine_l2 N h v1 v2 (fun s8 => some s8) N 0 σ
set_option maxRecDepth 100000 in
theorem ok_tw_emptyLine {ω : gW} {l : Launch} {d : Nat} {N : Nat} {h : Nat} {σ : gMem} {v1 : Int} {v2 : Int} (hdp : 1 ≤ d) (hM : TM σ h) (hv1 : g32 v1) (hv2 : g32 v2) : gK (fun p : gMem => (.inl none, p)) gTw ω l d mu_tw_emptyLine [vR h, vI v1, vI v2] σ (tw_emptyLine N h v1 v2 σ) := by
  refine gK.of hp_X11 (Nat.le_of_ble_eq_true rfl) ?_
  unfold tw_emptyLine
  refine x_iconst (μ := mu_tw_emptyLine) (pc := 0) dX11_emptyLine_0 ?_
  refine x_istore_n (μ := mu_tw_emptyLine) (pc := 1) (lv' := [(3, vI 0), (0, vR h), (1, vI v1), (2, vI v2)]) dX11_emptyLine_1 rfl (by decide) rfl ?_
  refine x_loc (lv' := [(0, vR h), (1, vI v1), (2, vI v2), (3, vI 0)]) [1, 2, 3, 0] rfl ?_
  refine okl_tw_emptyLine_l2 hdp hv1 hv2 (fun s8 hM9 => ?_) N 0 σ (by decide) hM
  exact x_vret (μ := mu_tw_emptyLine) (pc := 32) (a1 := s8) dX11_emptyLine_32 rfl rfl (gRel_Tw.1 _) trivial
def tw_rank (v0 : Int) (σ : gMem) : Option Int := if v0 ≠ 0 then some v0 else some 5
set_option maxRecDepth 100000 in
theorem ok_tw_rank {ω : gW} {l : Launch} {d : Nat} {σ : gMem} {v0 : Int} (hdp : 0 ≤ d) (hv0 : g32 v0) : gK (fun x : Int => (.inl (some (vI x)), σ)) gTw ω l d mu_tw_rank [vI v0] σ (tw_rank v0 σ) := by
  refine gK.of hp_X11 (Nat.le_of_ble_eq_true rfl) ?_
  unfold tw_rank
  refine x_iload_n (μ := mu_tw_rank) (pc := 0) 0 dX11_rank_0 rfl ?_
  refine x_if_ne (μ := mu_tw_rank) (pc := 1) (tgt := 8) dX11_rank_1 rfl hv0 ?_ ?_
  · refine x_iload_n (μ := mu_tw_rank) (pc := 8) 0 dX11_rank_8 rfl ?_
    exact x_iret (μ := mu_tw_rank) (pc := 9) dX11_rank_9 rfl rfl (gRel_Tw.1 _) (show g32 v0 from hv0)
  · refine x_iconst (μ := mu_tw_rank) (pc := 4) dX11_rank_4 ?_
    refine x_goto (μ := mu_tw_rank) (pc := 5) (tgt := 9) dX11_rank_5 rfl ?_
    exact x_iret (μ := mu_tw_rank) (pc := 9) dX11_rank_9 rfl rfl (gRel_Tw.1 _) (show g32 5 from (by decide))
def tw_unsettled_l4_j27 (N : Nat) (h : Nat) (σ : gMem) (v2 : Int) (t0 : Int) (t1 : Int) (Kh : Int → Int → Option Int) (K : Int → Option Int) : Option Int := Kh (w32 (t1 + t0)) (w32 (v2 + 1))
set_option maxRecDepth 100000 in
theorem okj_tw_unsettled_l4_j27 {ω : gW} {l : Launch} {d : Nat} {N : Nat} {h : Nat} {σ : gMem} {v2 : Int} {t0 : Int} {t1 : Int} {Kh : Int → Int → Option Int} {K : Int → Option Int} (hdp : 0 ≤ d) (hM : TM σ h) (hv2 : g32 v2) (ht0 : g32 t0) (ht1 : g32 t1) (hKh : ∀ (v1 : Int) (v2 : Int) , g32 v1 → g32 v2 → GG (fun x : Int => (.inl (some (vI x)), σ)) gTw ω l d mu_tw_unsettled σ 4 [(0, vR h), (1, vI v1), (2, vI v2)] [] σ (Kh v1 v2)) (hK : ∀ (v1 : Int) , g32 v1 → GG (fun x : Int => (.inl (some (vI x)), σ)) gTw ω l d mu_tw_unsettled σ 35 [(1, vI v1)] [] σ (K v1)) : GG (fun x : Int => (.inl (some (vI x)), σ)) gTw ω l d mu_tw_unsettled σ 27 [(0, vR h), (2, vI v2)] [vI t0, vI t1] σ (tw_unsettled_l4_j27 N h σ v2 t0 t1 Kh K ) := by
  unfold tw_unsettled_l4_j27
  refine x_iadd (μ := mu_tw_unsettled) (pc := 27) dX11_unsettled_27 ?_
  refine x_w1 ?_
  refine x_istore_n (μ := mu_tw_unsettled) (pc := 28) (lv' := [(1, vI (w32 (t1 + t0))), (0, vR h), (2, vI v2)]) dX11_unsettled_28 rfl (by decide) rfl ?_
  refine x_iincw (μ := mu_tw_unsettled) (pc := 29) (lv' := [(2, vI (w32 (v2 + 1))), (1, vI (w32 (t1 + t0))), (0, vR h)]) 2 dX11_unsettled_29 rfl (by decide) rfl ?_
  refine x_goto (μ := mu_tw_unsettled) (pc := 32) (tgt := 4) dX11_unsettled_32 rfl ?_
  refine x_loc (lv' := [(0, vR h), (1, vI (w32 (t1 + t0))), (2, vI (w32 (v2 + 1)))]) [2, 1, 0] rfl ?_
  exact hKh (w32 (t1 + t0)) (w32 (v2 + 1)) (w32_rng _) (w32_rng _)
def tw_unsettled_l4 (N : Nat) (h : Nat) (σ : gMem) (K : Int → Option Int) : Nat → Int → Int → Option Int
  | 0, _, _ => none
  | n + 1, v1, v2 => if mI σ h 98 ≤ v2 then K v1 else if 0 ≤ v2 ∧ v2 < ((370 : Nat) : Int) then if mI σ (h + 52) v2.toNat = 0 then tw_unsettled_l4_j27 N h σ v2 1 v1 (tw_unsettled_l4 N h σ K n) K else tw_unsettled_l4_j27 N h σ v2 0 v1 (tw_unsettled_l4 N h σ K n) K else none
set_option maxRecDepth 100000 in
theorem okl_tw_unsettled_l4 {ω : gW} {l : Launch} {d : Nat} {N : Nat} {h : Nat} {σ : gMem} {K : Int → Option Int} (hdp : 0 ≤ d) (hM : TM σ h) (hK : ∀ (v1 : Int) , g32 v1 → GG (fun x : Int => (.inl (some (vI x)), σ)) gTw ω l d mu_tw_unsettled σ 35 [(1, vI v1)] [] σ (K v1)) : ∀ (n : Nat) (v1 : Int) (v2 : Int) , g32 v1 → g32 v2 → GG (fun x : Int => (.inl (some (vI x)), σ)) gTw ω l d mu_tw_unsettled σ 4 [(0, vR h), (1, vI v1), (2, vI v2)] [] σ (tw_unsettled_l4 N h σ K n v1 v2) := by
  intro n
  induction n with
  | zero => intros; exact x_none
  | succ n ih =>
    intro v1 v2 hv1 hv2
    unfold tw_unsettled_l4
    refine x_iload_n (μ := mu_tw_unsettled) (pc := 4) 2 dX11_unsettled_4 rfl ?_
    refine x_aload_n (μ := mu_tw_unsettled) (pc := 5) 0 dX11_unsettled_5 rfl ?_
    refine x_fgi (μ := mu_tw_unsettled) (pc := 6) fX11_98 q2734 dX11_unsettled_6 hM.1 (fun hr1 => ?_)
    refine x_icmp_ge (μ := mu_tw_unsettled) (pc := 9) (tgt := 35) dX11_unsettled_9 rfl hv2 hr1 ?_ ?_
    · refine x_loc (lv' := [(1, vI v1)]) [1] rfl ?_
      exact hK v1 hv1
    · refine x_iload_n (μ := mu_tw_unsettled) (pc := 12) 1 dX11_unsettled_12 rfl ?_
      refine x_aload_n (μ := mu_tw_unsettled) (pc := 13) 0 dX11_unsettled_13 rfl ?_
      refine x_fgrE (μ := mu_tw_unsettled) (pc := 14) fX11_97 (Or.inr ⟨_, rfl⟩) q2733 (hM.a97).1 dX11_unsettled_14 hM.1 ?_
      refine x_iload_n (μ := mu_tw_unsettled) (pc := 17) 2 dX11_unsettled_17 rfl ?_
      refine x_zald (μ := mu_tw_unsettled) (pc := 18) dX11_unsettled_18 (hM.a97).2.1 (hM.a97).2.2 (fun hr2 => ?_)
      refine x_if_eq (μ := mu_tw_unsettled) (pc := 19) (tgt := 26) dX11_unsettled_19 rfl hr2 ?_ ?_
      · refine x_iconst (μ := mu_tw_unsettled) (pc := 26) dX11_unsettled_26 ?_
        refine x_loc (lv' := [(0, vR h), (2, vI v2)]) [0, 2] rfl ?_
        exact okj_tw_unsettled_l4_j27 hdp hM hv2 (by decide) hv1 ih hK
      · refine x_iconst (μ := mu_tw_unsettled) (pc := 22) dX11_unsettled_22 ?_
        refine x_goto (μ := mu_tw_unsettled) (pc := 23) (tgt := 27) dX11_unsettled_23 rfl ?_
        refine x_loc (lv' := [(0, vR h), (2, vI v2)]) [0, 2] rfl ?_
        exact okj_tw_unsettled_l4_j27 hdp hM hv2 (by decide) hv1 ih hK
def tw_unsettled (N : Nat) (h : Nat) (σ : gMem) : Option Int := tw_unsettled_l4 N h σ (fun y3 => some y3) N 0 0
set_option maxRecDepth 100000 in
theorem ok_tw_unsettled {ω : gW} {l : Launch} {d : Nat} {N : Nat} {h : Nat} {σ : gMem} (hdp : 0 ≤ d) (hM : TM σ h) : gK (fun x : Int => (.inl (some (vI x)), σ)) gTw ω l d mu_tw_unsettled [vR h] σ (tw_unsettled N h σ) := by
  refine gK.of hp_X11 (Nat.le_of_ble_eq_true rfl) ?_
  unfold tw_unsettled
  refine x_iconst (μ := mu_tw_unsettled) (pc := 0) dX11_unsettled_0 ?_
  refine x_istore_n (μ := mu_tw_unsettled) (pc := 1) (lv' := [(1, vI 0), (0, vR h)]) dX11_unsettled_1 rfl (by decide) rfl ?_
  refine x_iconst (μ := mu_tw_unsettled) (pc := 2) dX11_unsettled_2 ?_
  refine x_istore_n (μ := mu_tw_unsettled) (pc := 3) (lv' := [(2, vI 0), (1, vI 0), (0, vR h)]) dX11_unsettled_3 rfl (by decide) rfl ?_
  refine x_loc (lv' := [(0, vR h), (1, vI 0), (2, vI 0)]) [2, 1, 0] rfl ?_
  refine okl_tw_unsettled_l4 hdp hM (fun y3 hy3 => ?_) N 0 0 (by decide) (by decide)
  refine x_iload_n (μ := mu_tw_unsettled) (pc := 35) 0 dX11_unsettled_35 rfl ?_
  exact x_iret (μ := mu_tw_unsettled) (pc := 36) dX11_unsettled_36 rfl rfl (gRel_Tw.1 _) (show g32 y3 from hy3)
def tw_head (h : Nat) (σ : gMem) : Option Int := if 0 ≤ (mI σ h 12) ∧ (mI σ h 12) < ((6 : Nat) : Int) then some (mI σ (h + 8) (mI σ h 12).toNat) else none
set_option maxRecDepth 100000 in
theorem ok_tw_head {ω : gW} {l : Launch} {d : Nat} {h : Nat} {σ : gMem} (hdp : 0 ≤ d) (hM : TM σ h) : gK (fun x : Int => (.inl (some (vI x)), σ)) gTw ω l d mu_tw_head [vR h] σ (tw_head h σ) := by
  refine gK.of hp_X11 (Nat.le_of_ble_eq_true rfl) ?_
  unfold tw_head
  refine x_aload_n (μ := mu_tw_head) (pc := 0) 0 dX11_head_0 rfl ?_
  refine x_fgrE (μ := mu_tw_head) (pc := 1) fX11_11 (Or.inr ⟨_, rfl⟩) q2647 (hM.a11).1 dX11_head_1 hM.1 ?_
  refine x_aload_n (μ := mu_tw_head) (pc := 4) 0 dX11_head_4 rfl ?_
  refine x_fgi (μ := mu_tw_head) (pc := 5) fX11_12 q2648 dX11_head_5 hM.1 (fun hr1 => ?_)
  refine x_iald (μ := mu_tw_head) (pc := 8) dX11_head_8 (hM.a11).2.1 (hM.a11).2.2 (fun hr2 => ?_)
  exact x_iret (μ := mu_tw_head) (pc := 9) dX11_head_9 rfl rfl (gRel_Tw.1 _) (show g32 (mI σ (h + 8) (mI σ h 12).toNat) from hr2)
def tw_branch (h : Nat) (v1 : Int) (σ : gMem) : Option (Int × gMem) := gLet (wI σ h 0 0) (fun s1 => (tw_in v1 0 5 s1).bind (fun x4 => if x4 ≠ 0 then if 0 ≤ v1 ∧ v1 < ((6 : Nat) : Int) then if mI s1 (h + 8) v1.toNat < 0 then (tw_head h s1).bind (fun x7 => if 0 ≤ v1 ∧ v1 < ((6 : Nat) : Int) then gLet (wI s1 (h + 8) v1.toNat x7) (fun s9 => (tw_head h s9).bind (fun x12 => some (x12, s9))) else none) else (tw_throwing h 2 s1).bind (fun x14 => some (x14.1, x14.2)) else none else (tw_throwing h 1 s1).bind (fun x18 => some (x18.1, x18.2))))
set_option maxRecDepth 100000 in
theorem ok_tw_branch {ω : gW} {l : Launch} {d : Nat} {h : Nat} {σ : gMem} {v1 : Int} (hdp : 1 ≤ d) (hM : TM σ h) (hv1 : g32 v1) : gK (fun p : Int × gMem => (.inl (some (vI p.1)), p.2)) gTw ω l d mu_tw_branch [vR h, vI v1] σ (tw_branch h v1 σ) := by
  refine gK.of hp_X11 (Nat.le_of_ble_eq_true rfl) ?_
  unfold tw_branch
  refine x_aload_n (μ := mu_tw_branch) (pc := 0) 0 dX11_branch_0 rfl ?_
  refine x_iconst (μ := mu_tw_branch) (pc := 1) dX11_branch_1 ?_
  refine x_fpi (μ := mu_tw_branch) (pc := 2) fX11_0 q2636 dX11_branch_2 hM.1 (fun _ q => gTw_wI q) ?_
  refine x_let (fun s1 e2 => ?_)
  have hM3 := TM.eI e2 hM
  refine x_iload_n (μ := mu_tw_branch) (pc := 5) 1 dX11_branch_5 rfl ?_
  refine x_iconst (μ := mu_tw_branch) (pc := 6) dX11_branch_6 ?_
  refine x_iconst (μ := mu_tw_branch) (pc := 7) dX11_branch_7 ?_
  refine x_callS_pi (μ := mu_tw_branch) (pc := 8) (ok_tw_in (ω := ω) (l := l) (d := d - 1) (by omega) hv1 (by decide) (by decide)) gRel_Tw gRel_Tw (fun _ q => q) q2980 q2981 q232 q2982 dX11_branch_8 hy_tw_in (by omega) (Nat.le_of_ble_eq_true rfl) rfl (Nat.le_of_ble_eq_true rfl) (fun x4 hr5 => ?_)
  refine x_if_ne (μ := mu_tw_branch) (pc := 11) (tgt := 20) dX11_branch_11 rfl hr5 ?_ ?_
  · refine x_aload_n (μ := mu_tw_branch) (pc := 20) 0 dX11_branch_20 rfl ?_
    refine x_fgrE (μ := mu_tw_branch) (pc := 21) fX11_11 (Or.inr ⟨_, rfl⟩) q2647 (hM3.a11).1 dX11_branch_21 hM3.1 ?_
    refine x_iload_n (μ := mu_tw_branch) (pc := 24) 1 dX11_branch_24 rfl ?_
    refine x_iald (μ := mu_tw_branch) (pc := 25) dX11_branch_25 (hM3.a11).2.1 (hM3.a11).2.2 (fun hr6 => ?_)
    refine x_if_lt (μ := mu_tw_branch) (pc := 26) (tgt := 35) dX11_branch_26 rfl hr6 ?_ ?_
    · refine x_aload_n (μ := mu_tw_branch) (pc := 35) 0 dX11_branch_35 rfl ?_
      refine x_fgrE (μ := mu_tw_branch) (pc := 36) fX11_11 (Or.inr ⟨_, rfl⟩) q2647 (hM3.a11).1 dX11_branch_36 hM3.1 ?_
      refine x_iload_n (μ := mu_tw_branch) (pc := 39) 1 dX11_branch_39 rfl ?_
      refine x_aload_n (μ := mu_tw_branch) (pc := 40) 0 dX11_branch_40 rfl ?_
      refine x_callV_pi (μ := mu_tw_branch) (pc := 41) (ok_tw_head (ω := ω) (l := l) (d := d - 1) (by omega) hM3 ) gRel_Tw gRel_Tw (fun _ q => q) q3596 q3598 qs195 q232 q3599 dX11_branch_41 rfl hM3.1 hy_tw_head (by omega) (Nat.le_of_ble_eq_true rfl) rfl (Nat.le_of_ble_eq_true rfl) (fun x7 hr8 => ?_)
      refine x_iast (μ := mu_tw_branch) (pc := 44) dX11_branch_44 (hM3.a11).2.1 (hM3.a11).2.2 (fun _ _ q => gTw_wI q) ?_
      refine x_let (fun s9 e10 => ?_)
      have hM11 := TM.eI e10 hM3
      refine x_aload_n (μ := mu_tw_branch) (pc := 45) 0 dX11_branch_45 rfl ?_
      refine x_callV_pi (μ := mu_tw_branch) (pc := 46) (ok_tw_head (ω := ω) (l := l) (d := d - 1) (by omega) hM11 ) gRel_Tw gRel_Tw (fun _ q => q) q3596 q3598 qs195 q232 q3599 dX11_branch_46 rfl hM11.1 hy_tw_head (by omega) (Nat.le_of_ble_eq_true rfl) rfl (Nat.le_of_ble_eq_true rfl) (fun x12 hr13 => ?_)
      exact x_iret (μ := mu_tw_branch) (pc := 49) dX11_branch_49 rfl rfl (gRel_Tw.1 _) (show g32 x12 from hr13)
    · refine x_aload_n (μ := mu_tw_branch) (pc := 29) 0 dX11_branch_29 rfl ?_
      refine x_iconst (μ := mu_tw_branch) (pc := 30) dX11_branch_30 ?_
      refine x_callV_mi (μ := mu_tw_branch) (pc := 31) (ok_tw_throwing (ω := ω) (l := l) (d := d - 1) (by omega) hM3 (by decide)) gRel_Tw gRel_Tw (fun _ q => q) q2960 q2962 qs78 q232 q2963 dX11_branch_31 rfl hM3.1 hy_tw_throwing (by omega) (Nat.le_of_ble_eq_true rfl) rfl (Nat.le_of_ble_eq_true rfl) (fun x14 k16 hr15 => ?_)
      have hM17 : TM (x14.2) h := hM3.tw k16
      exact x_iret (μ := mu_tw_branch) (pc := 34) dX11_branch_34 rfl rfl (gRel_Tw.1 _) (show g32 (x14.1) from hr15)
  · refine x_aload_n (μ := mu_tw_branch) (pc := 14) 0 dX11_branch_14 rfl ?_
    refine x_iconst (μ := mu_tw_branch) (pc := 15) dX11_branch_15 ?_
    refine x_callV_mi (μ := mu_tw_branch) (pc := 16) (ok_tw_throwing (ω := ω) (l := l) (d := d - 1) (by omega) hM3 (by decide)) gRel_Tw gRel_Tw (fun _ q => q) q2960 q2962 qs78 q232 q2963 dX11_branch_16 rfl hM3.1 hy_tw_throwing (by omega) (Nat.le_of_ble_eq_true rfl) rfl (Nat.le_of_ble_eq_true rfl) (fun x18 k20 hr19 => ?_)
    have hM21 : TM (x18.2) h := hM3.tw k20
    exact x_iret (μ := mu_tw_branch) (pc := 19) dX11_branch_19 rfl rfl (gRel_Tw.1 _) (show g32 (x18.1) from hr19)
def tw_isLike_2_l25_j65 (N : Nat) (h : Nat) (σ : gMem) (v1 : Int) (v2 : Int) (v3 : Int) (v5 : Int) (t0 : Int) (Kh : Int → Int → Option Int) (K : Int → Option Int) : Option Int := Kh t0 (w32 (v5 + 1))
set_option maxRecDepth 100000 in
theorem okj_tw_isLike_2_l25_j65 {ω : gW} {l : Launch} {d : Nat} {N : Nat} {h : Nat} {σ : gMem} {v1 : Int} {v2 : Int} {v3 : Int} {v5 : Int} {t0 : Int} {Kh : Int → Int → Option Int} {K : Int → Option Int} (hdp : 1 ≤ d) (hM : TM σ h) (hv1 : g32 v1) (hv2 : g32 v2) (hv3 : g32 v3) (hv5 : g32 v5) (ht0 : g32 t0) (hKh : ∀ (v4 : Int) (v5 : Int) , g32 v4 → g32 v5 → GG (fun x : Int => (.inl (some (vI x)), σ)) gTw ω l d mu_tw_isLike_2 σ 25 [(0, vR h), (1, vI v1), (2, vI v2), (3, vI v3), (4, vI v4), (5, vI v5)] [] σ (Kh v4 v5)) (hK : ∀ (v4 : Int) , g32 v4 → GG (fun x : Int => (.inl (some (vI x)), σ)) gTw ω l d mu_tw_isLike_2 σ 73 [(4, vI v4)] [] σ (K v4)) : GG (fun x : Int => (.inl (some (vI x)), σ)) gTw ω l d mu_tw_isLike_2 σ 65 [(0, vR h), (1, vI v1), (2, vI v2), (3, vI v3), (5, vI v5)] [vI t0] σ (tw_isLike_2_l25_j65 N h σ v1 v2 v3 v5 t0 Kh K ) := by
  unfold tw_isLike_2_l25_j65
  refine x_istore (μ := mu_tw_isLike_2) (pc := 65) (lv' := [(4, vI t0), (0, vR h), (1, vI v1), (2, vI v2), (3, vI v3), (5, vI v5)]) dX11_isLike_2_65 (by decide) rfl ?_
  refine x_iincw (μ := mu_tw_isLike_2) (pc := 67) (lv' := [(5, vI (w32 (v5 + 1))), (4, vI t0), (0, vR h), (1, vI v1), (2, vI v2), (3, vI v3)]) 5 dX11_isLike_2_67 rfl (by decide) rfl ?_
  refine x_goto (μ := mu_tw_isLike_2) (pc := 70) (tgt := 25) dX11_isLike_2_70 rfl ?_
  refine x_loc (lv' := [(0, vR h), (1, vI v1), (2, vI v2), (3, vI v3), (4, vI t0), (5, vI (w32 (v5 + 1)))]) [2, 3, 4, 5, 1, 0] rfl ?_
  exact hKh t0 (w32 (v5 + 1)) ht0 (w32_rng _)
def tw_isLike_2_l25 (N : Nat) (h : Nat) (σ : gMem) (v1 : Int) (v2 : Int) (v3 : Int) (K : Int → Option Int) : Nat → Int → Int → Option Int
  | 0, _, _ => none
  | n + 1, v4, v5 => (tw_linesOf h v1 v3 σ).bind (fun x5 => if x5 ≤ v5 then K v4 else if v4 = 0 then K v4 else (tw_lineAt h v1 v3 v5 σ).bind (fun x7 => (tw_lineAt h v2 v3 v5 σ).bind (fun x9 => if x7 ≠ x9 then tw_isLike_2_l25_j65 N h σ v1 v2 v3 v5 0 (tw_isLike_2_l25 N h σ v1 v2 v3 K n) K else tw_isLike_2_l25_j65 N h σ v1 v2 v3 v5 1 (tw_isLike_2_l25 N h σ v1 v2 v3 K n) K)))
set_option maxRecDepth 100000 in
theorem okl_tw_isLike_2_l25 {ω : gW} {l : Launch} {d : Nat} {N : Nat} {h : Nat} {σ : gMem} {v1 : Int} {v2 : Int} {v3 : Int} {K : Int → Option Int} (hdp : 1 ≤ d) (hM : TM σ h) (hv1 : g32 v1) (hv2 : g32 v2) (hv3 : g32 v3) (hK : ∀ (v4 : Int) , g32 v4 → GG (fun x : Int => (.inl (some (vI x)), σ)) gTw ω l d mu_tw_isLike_2 σ 73 [(4, vI v4)] [] σ (K v4)) : ∀ (n : Nat) (v4 : Int) (v5 : Int) , g32 v4 → g32 v5 → GG (fun x : Int => (.inl (some (vI x)), σ)) gTw ω l d mu_tw_isLike_2 σ 25 [(0, vR h), (1, vI v1), (2, vI v2), (3, vI v3), (4, vI v4), (5, vI v5)] [] σ (tw_isLike_2_l25 N h σ v1 v2 v3 K n v4 v5) := by
  intro n
  induction n with
  | zero => intros; exact x_none
  | succ n ih =>
    intro v4 v5 hv4 hv5
    unfold tw_isLike_2_l25
    refine x_iload (μ := mu_tw_isLike_2) (pc := 25) 5 dX11_isLike_2_25 rfl ?_
    refine x_aload_n (μ := mu_tw_isLike_2) (pc := 27) 0 dX11_isLike_2_27 rfl ?_
    refine x_iload_n (μ := mu_tw_isLike_2) (pc := 28) 1 dX11_isLike_2_28 rfl ?_
    refine x_iload_n (μ := mu_tw_isLike_2) (pc := 29) 3 dX11_isLike_2_29 rfl ?_
    refine x_callV_pi (μ := mu_tw_isLike_2) (pc := 30) (ok_tw_linesOf (ω := ω) (l := l) (d := d - 1) (by omega) hM hv1 hv3) gRel_Tw gRel_Tw (fun _ q => q) q3245 q3247 qs129 q232 q3248 dX11_isLike_2_30 rfl hM.1 hy_tw_linesOf (by omega) (Nat.le_of_ble_eq_true rfl) rfl (Nat.le_of_ble_eq_true rfl) (fun x5 hr6 => ?_)
    refine x_icmp_ge (μ := mu_tw_isLike_2) (pc := 33) (tgt := 73) dX11_isLike_2_33 rfl hv5 hr6 ?_ ?_
    · refine x_loc (lv' := [(4, vI v4)]) [4] rfl ?_
      exact hK v4 hv4
    · refine x_iload (μ := mu_tw_isLike_2) (pc := 36) 4 dX11_isLike_2_36 rfl ?_
      refine x_if_eq (μ := mu_tw_isLike_2) (pc := 38) (tgt := 73) dX11_isLike_2_38 rfl hv4 ?_ ?_
      · refine x_loc (lv' := [(4, vI v4)]) [4] rfl ?_
        exact hK v4 hv4
      · refine x_aload_n (μ := mu_tw_isLike_2) (pc := 41) 0 dX11_isLike_2_41 rfl ?_
        refine x_iload_n (μ := mu_tw_isLike_2) (pc := 42) 1 dX11_isLike_2_42 rfl ?_
        refine x_iload_n (μ := mu_tw_isLike_2) (pc := 43) 3 dX11_isLike_2_43 rfl ?_
        refine x_iload (μ := mu_tw_isLike_2) (pc := 44) 5 dX11_isLike_2_44 rfl ?_
        refine x_callV_pi (μ := mu_tw_isLike_2) (pc := 46) (ok_tw_lineAt (ω := ω) (l := l) (d := d - 1) (by omega) hM hv1 hv3 hv5) gRel_Tw gRel_Tw (fun _ q => q) q3148 q3150 qs111 q232 q3151 dX11_isLike_2_46 rfl hM.1 hy_tw_lineAt (by omega) (Nat.le_of_ble_eq_true rfl) rfl (Nat.le_of_ble_eq_true rfl) (fun x7 hr8 => ?_)
        refine x_aload_n (μ := mu_tw_isLike_2) (pc := 49) 0 dX11_isLike_2_49 rfl ?_
        refine x_iload_n (μ := mu_tw_isLike_2) (pc := 50) 2 dX11_isLike_2_50 rfl ?_
        refine x_iload_n (μ := mu_tw_isLike_2) (pc := 51) 3 dX11_isLike_2_51 rfl ?_
        refine x_iload (μ := mu_tw_isLike_2) (pc := 52) 5 dX11_isLike_2_52 rfl ?_
        refine x_callV_pi (μ := mu_tw_isLike_2) (pc := 54) (ok_tw_lineAt (ω := ω) (l := l) (d := d - 1) (by omega) hM hv2 hv3 hv5) gRel_Tw gRel_Tw (fun _ q => q) q3148 q3150 qs111 q232 q3151 dX11_isLike_2_54 rfl hM.1 hy_tw_lineAt (by omega) (Nat.le_of_ble_eq_true rfl) rfl (Nat.le_of_ble_eq_true rfl) (fun x9 hr10 => ?_)
        refine x_icmp_ne (μ := mu_tw_isLike_2) (pc := 57) (tgt := 64) dX11_isLike_2_57 rfl hr8 hr10 ?_ ?_
        · refine x_iconst (μ := mu_tw_isLike_2) (pc := 64) dX11_isLike_2_64 ?_
          refine x_loc (lv' := [(0, vR h), (1, vI v1), (2, vI v2), (3, vI v3), (5, vI v5)]) [0, 1, 2, 3, 5] rfl ?_
          exact okj_tw_isLike_2_l25_j65 hdp hM hv1 hv2 hv3 hv5 (by decide) ih hK
        · refine x_iconst (μ := mu_tw_isLike_2) (pc := 60) dX11_isLike_2_60 ?_
          refine x_goto (μ := mu_tw_isLike_2) (pc := 61) (tgt := 65) dX11_isLike_2_61 rfl ?_
          refine x_loc (lv' := [(0, vR h), (1, vI v1), (2, vI v2), (3, vI v3), (5, vI v5)]) [0, 1, 2, 3, 5] rfl ?_
          exact okj_tw_isLike_2_l25_j65 hdp hM hv1 hv2 hv3 hv5 (by decide) ih hK
def tw_isLike_2_j20 (N : Nat) (h : Nat) (σ : gMem) (v1 : Int) (v2 : Int) (v3 : Int) (t0 : Int) : Option Int := tw_isLike_2_l25 N h σ v1 v2 v3 (fun y11 => if y11 = 0 ∨ y11 = 1 then some y11 else none) N t0 0
set_option maxRecDepth 100000 in
theorem okj_tw_isLike_2_j20 {ω : gW} {l : Launch} {d : Nat} {N : Nat} {h : Nat} {σ : gMem} {v1 : Int} {v2 : Int} {v3 : Int} {t0 : Int} (hdp : 1 ≤ d) (hM : TM σ h) (hv1 : g32 v1) (hv2 : g32 v2) (hv3 : g32 v3) (ht0 : g32 t0) : GG (fun x : Int => (.inl (some (vI x)), σ)) gTw ω l d mu_tw_isLike_2 σ 20 [(0, vR h), (1, vI v1), (2, vI v2), (3, vI v3)] [vI t0] σ (tw_isLike_2_j20 N h σ v1 v2 v3 t0 ) := by
  unfold tw_isLike_2_j20
  refine x_istore (μ := mu_tw_isLike_2) (pc := 20) (lv' := [(4, vI t0), (0, vR h), (1, vI v1), (2, vI v2), (3, vI v3)]) dX11_isLike_2_20 (by decide) rfl ?_
  refine x_iconst (μ := mu_tw_isLike_2) (pc := 22) dX11_isLike_2_22 ?_
  refine x_istore (μ := mu_tw_isLike_2) (pc := 23) (lv' := [(5, vI 0), (4, vI t0), (0, vR h), (1, vI v1), (2, vI v2), (3, vI v3)]) dX11_isLike_2_23 (by decide) rfl ?_
  refine x_loc (lv' := [(0, vR h), (1, vI v1), (2, vI v2), (3, vI v3), (4, vI t0), (5, vI 0)]) [2, 3, 4, 5, 1, 0] rfl ?_
  refine okl_tw_isLike_2_l25 hdp hM hv1 hv2 hv3 (fun y11 hy11 => ?_) N t0 0 ht0 (by decide)
  refine x_iload (μ := mu_tw_isLike_2) (pc := 73) 0 dX11_isLike_2_73 rfl ?_
  exact x_if (μ := mu_tw_isLike_2) (pc := 75) (fun hz => x_zret dX11_isLike_2_75 rfl hz rfl (gRel_Tw.1 _) (show g32 y11 from hy11))
def tw_isLike_2 (N : Nat) (h : Nat) (v1 : Int) (v2 : Int) (v3 : Int) (σ : gMem) : Option Int := (tw_linesOf h v1 v3 σ).bind (fun x1 => (tw_linesOf h v2 v3 σ).bind (fun x3 => if x1 ≠ x3 then tw_isLike_2_j20 N h σ v1 v2 v3 0 else tw_isLike_2_j20 N h σ v1 v2 v3 1))
set_option maxRecDepth 100000 in
theorem ok_tw_isLike_2 {ω : gW} {l : Launch} {d : Nat} {N : Nat} {h : Nat} {σ : gMem} {v1 : Int} {v2 : Int} {v3 : Int} (hdp : 1 ≤ d) (hM : TM σ h) (hv1 : g32 v1) (hv2 : g32 v2) (hv3 : g32 v3) : gK (fun x : Int => (.inl (some (vI x)), σ)) gTw ω l d mu_tw_isLike_2 [vR h, vI v1, vI v2, vI v3] σ (tw_isLike_2 N h v1 v2 v3 σ) := by
  refine gK.of hp_X11 (Nat.le_of_ble_eq_true rfl) ?_
  unfold tw_isLike_2
  refine x_aload_n (μ := mu_tw_isLike_2) (pc := 0) 0 dX11_isLike_2_0 rfl ?_
  refine x_iload_n (μ := mu_tw_isLike_2) (pc := 1) 1 dX11_isLike_2_1 rfl ?_
  refine x_iload_n (μ := mu_tw_isLike_2) (pc := 2) 3 dX11_isLike_2_2 rfl ?_
  refine x_callV_pi (μ := mu_tw_isLike_2) (pc := 3) (ok_tw_linesOf (ω := ω) (l := l) (d := d - 1) (by omega) hM hv1 hv3) gRel_Tw gRel_Tw (fun _ q => q) q3245 q3247 qs129 q232 q3248 dX11_isLike_2_3 rfl hM.1 hy_tw_linesOf (by omega) (Nat.le_of_ble_eq_true rfl) rfl (Nat.le_of_ble_eq_true rfl) (fun x1 hr2 => ?_)
  refine x_aload_n (μ := mu_tw_isLike_2) (pc := 6) 0 dX11_isLike_2_6 rfl ?_
  refine x_iload_n (μ := mu_tw_isLike_2) (pc := 7) 2 dX11_isLike_2_7 rfl ?_
  refine x_iload_n (μ := mu_tw_isLike_2) (pc := 8) 3 dX11_isLike_2_8 rfl ?_
  refine x_callV_pi (μ := mu_tw_isLike_2) (pc := 9) (ok_tw_linesOf (ω := ω) (l := l) (d := d - 1) (by omega) hM hv2 hv3) gRel_Tw gRel_Tw (fun _ q => q) q3245 q3247 qs129 q232 q3248 dX11_isLike_2_9 rfl hM.1 hy_tw_linesOf (by omega) (Nat.le_of_ble_eq_true rfl) rfl (Nat.le_of_ble_eq_true rfl) (fun x3 hr4 => ?_)
  refine x_icmp_ne (μ := mu_tw_isLike_2) (pc := 12) (tgt := 19) dX11_isLike_2_12 rfl hr2 hr4 ?_ ?_
  · refine x_iconst (μ := mu_tw_isLike_2) (pc := 19) dX11_isLike_2_19 ?_
    exact okj_tw_isLike_2_j20 hdp hM hv1 hv2 hv3 (by decide)
  · refine x_iconst (μ := mu_tw_isLike_2) (pc := 15) dX11_isLike_2_15 ?_
    refine x_goto (μ := mu_tw_isLike_2) (pc := 16) (tgt := 20) dX11_isLike_2_16 rfl ?_
    exact okj_tw_isLike_2_j20 hdp hM hv1 hv2 hv3 (by decide)
def tw_sameLetters_l3 (N : Nat) (h : Nat) (σ : gMem) (v1 : Int) (v2 : Int) (v3 : Int) (K : Option Int) : Nat → Int → Option Int
  | 0, _ => none
  | n + 1, v4 => if v3 ≤ v4 then K else if 0 ≤ (v1 + v4) ∧ (v1 + v4) < ((82400 : Nat) : Int) then if 0 ≤ (v2 + v4) ∧ (v2 + v4) < ((82400 : Nat) : Int) then if mI σ (h + 9) (v1 + v4).toNat = mI σ (h + 9) (v2 + v4).toNat then tw_sameLetters_l3 N h σ v1 v2 v3 K n (w32 (v4 + 1)) else some 0 else none else none
set_option maxRecDepth 100000 in
theorem okl_tw_sameLetters_l3 {ω : gW} {l : Launch} {d : Nat} {N : Nat} {h : Nat} {σ : gMem} {v1 : Int} {v2 : Int} {v3 : Int} {K : Option Int} (hdp : 0 ≤ d) (hM : TM σ h) (hv1 : g32 v1) (hv2 : g32 v2) (hv3 : g32 v3) (hK : GG (fun x : Int => (.inl (some (vI x)), σ)) gTw ω l d mu_tw_sameLetters σ 38 [] [] σ (K)) : ∀ (n : Nat) (v4 : Int) , g32 v4 → GG (fun x : Int => (.inl (some (vI x)), σ)) gTw ω l d mu_tw_sameLetters σ 3 [(0, vR h), (1, vI v1), (2, vI v2), (3, vI v3), (4, vI v4)] [] σ (tw_sameLetters_l3 N h σ v1 v2 v3 K n v4) := by
  intro n
  induction n with
  | zero => intros; exact x_none
  | succ n ih =>
    intro v4 hv4
    unfold tw_sameLetters_l3
    refine x_iload (μ := mu_tw_sameLetters) (pc := 3) 4 dX11_sameLetters_3 rfl ?_
    refine x_iload_n (μ := mu_tw_sameLetters) (pc := 5) 3 dX11_sameLetters_5 rfl ?_
    refine x_icmp_ge (μ := mu_tw_sameLetters) (pc := 6) (tgt := 38) dX11_sameLetters_6 rfl hv4 hv3 ?_ ?_
    · refine x_loc (lv' := []) [] rfl ?_
      exact hK
    · refine x_aload_n (μ := mu_tw_sameLetters) (pc := 9) 0 dX11_sameLetters_9 rfl ?_
      refine x_fgrE (μ := mu_tw_sameLetters) (pc := 10) fX11_18 (Or.inr ⟨_, rfl⟩) q2654 (hM.a18).1 dX11_sameLetters_10 hM.1 ?_
      refine x_iload_n (μ := mu_tw_sameLetters) (pc := 13) 1 dX11_sameLetters_13 rfl ?_
      refine x_iload (μ := mu_tw_sameLetters) (pc := 14) 4 dX11_sameLetters_14 rfl ?_
      refine x_iadd (μ := mu_tw_sameLetters) (pc := 16) dX11_sameLetters_16 ?_
      refine x_bald (μ := mu_tw_sameLetters) (pc := 17) dX11_sameLetters_17 (hM.a18).2.1 (hM.a18).2.2 (fun hr1 => ?_)
      refine x_aload_n (μ := mu_tw_sameLetters) (pc := 18) 0 dX11_sameLetters_18 rfl ?_
      refine x_fgrE (μ := mu_tw_sameLetters) (pc := 19) fX11_18 (Or.inr ⟨_, rfl⟩) q2654 (hM.a18).1 dX11_sameLetters_19 hM.1 ?_
      refine x_iload_n (μ := mu_tw_sameLetters) (pc := 22) 2 dX11_sameLetters_22 rfl ?_
      refine x_iload (μ := mu_tw_sameLetters) (pc := 23) 4 dX11_sameLetters_23 rfl ?_
      refine x_iadd (μ := mu_tw_sameLetters) (pc := 25) dX11_sameLetters_25 ?_
      refine x_bald (μ := mu_tw_sameLetters) (pc := 26) dX11_sameLetters_26 (hM.a18).2.1 (hM.a18).2.2 (fun hr2 => ?_)
      refine x_icmp_eq (μ := mu_tw_sameLetters) (pc := 27) (tgt := 32) dX11_sameLetters_27 rfl hr1 hr2 ?_ ?_
      · refine x_iincw (μ := mu_tw_sameLetters) (pc := 32) (lv' := [(4, vI (w32 (v4 + 1))), (0, vR h), (1, vI v1), (2, vI v2), (3, vI v3)]) 4 dX11_sameLetters_32 rfl (by decide) rfl ?_
        refine x_goto (μ := mu_tw_sameLetters) (pc := 35) (tgt := 3) dX11_sameLetters_35 rfl ?_
        refine x_loc (lv' := [(0, vR h), (1, vI v1), (2, vI v2), (3, vI v3), (4, vI (w32 (v4 + 1)))]) [1, 2, 3, 4, 0] rfl ?_
        exact ih (w32 (v4 + 1)) (w32_rng _)
      · refine x_iconst (μ := mu_tw_sameLetters) (pc := 30) dX11_sameLetters_30 ?_
        exact x_zret (μ := mu_tw_sameLetters) (pc := 31) dX11_sameLetters_31 rfl (by decide) rfl (gRel_Tw.1 _) (show g32 0 from (by decide))
def tw_sameLetters (N : Nat) (h : Nat) (v1 : Int) (v2 : Int) (v3 : Int) (σ : gMem) : Option Int := tw_sameLetters_l3 N h σ v1 v2 v3 (some 1) N 0
set_option maxRecDepth 100000 in
theorem ok_tw_sameLetters {ω : gW} {l : Launch} {d : Nat} {N : Nat} {h : Nat} {σ : gMem} {v1 : Int} {v2 : Int} {v3 : Int} (hdp : 0 ≤ d) (hM : TM σ h) (hv1 : g32 v1) (hv2 : g32 v2) (hv3 : g32 v3) : gK (fun x : Int => (.inl (some (vI x)), σ)) gTw ω l d mu_tw_sameLetters [vR h, vI v1, vI v2, vI v3] σ (tw_sameLetters N h v1 v2 v3 σ) := by
  refine gK.of hp_X11 (Nat.le_of_ble_eq_true rfl) ?_
  unfold tw_sameLetters
  refine x_iconst (μ := mu_tw_sameLetters) (pc := 0) dX11_sameLetters_0 ?_
  refine x_istore (μ := mu_tw_sameLetters) (pc := 1) (lv' := [(4, vI 0), (0, vR h), (1, vI v1), (2, vI v2), (3, vI v3)]) dX11_sameLetters_1 (by decide) rfl ?_
  refine x_loc (lv' := [(0, vR h), (1, vI v1), (2, vI v2), (3, vI v3), (4, vI 0)]) [1, 2, 3, 4, 0] rfl ?_
  refine okl_tw_sameLetters_l3 hdp hM hv1 hv2 hv3 ?_ N 0 (by decide)
  refine x_iconst (μ := mu_tw_sameLetters) (pc := 38) dX11_sameLetters_38 ?_
  exact x_zret (μ := mu_tw_sameLetters) (pc := 39) dX11_sameLetters_39 rfl (by decide) rfl (gRel_Tw.1 _) (show g32 1 from (by decide))
def tw_forgetSteps (h : Nat) (σ : gMem) : Option gMem := gLet (wI σ h 16 0) (fun s1 => gLet (wI s1 h 17 0) (fun s4 => some s4))
set_option maxRecDepth 100000 in
theorem ok_tw_forgetSteps {ω : gW} {l : Launch} {d : Nat} {h : Nat} {σ : gMem} (hdp : 0 ≤ d) (hM : TM σ h) : gK (fun p : gMem => (.inl none, p)) gTw ω l d mu_tw_forgetSteps [vR h] σ (tw_forgetSteps h σ) := by
  refine gK.of hp_X11 (Nat.le_of_ble_eq_true rfl) ?_
  unfold tw_forgetSteps
  refine x_aload_n (μ := mu_tw_forgetSteps) (pc := 0) 0 dX11_forgetSteps_0 rfl ?_
  refine x_iconst (μ := mu_tw_forgetSteps) (pc := 1) dX11_forgetSteps_1 ?_
  refine x_fpi (μ := mu_tw_forgetSteps) (pc := 2) fX11_16 q2652 dX11_forgetSteps_2 hM.1 (fun _ q => gTw_wI q) ?_
  refine x_let (fun s1 e2 => ?_)
  have hM3 := TM.eI e2 hM
  refine x_aload_n (μ := mu_tw_forgetSteps) (pc := 5) 0 dX11_forgetSteps_5 rfl ?_
  refine x_iconst (μ := mu_tw_forgetSteps) (pc := 6) dX11_forgetSteps_6 ?_
  refine x_fpi (μ := mu_tw_forgetSteps) (pc := 7) fX11_17 q2653 dX11_forgetSteps_7 hM3.1 (fun _ q => gTw_wI q) ?_
  refine x_let (fun s4 e5 => ?_)
  have hM6 := TM.eI e5 hM3
  exact x_vret (μ := mu_tw_forgetSteps) (pc := 10) (a1 := s4) dX11_forgetSteps_10 rfl rfl (gRel_Tw.1 _) trivial
def tw_ancestors_l2_j20 (N : Nat) (h : Nat) (v1 : Int) (v2 : Nat) (v3 : Int) (t0 : Int) (t1 : Int) (t2 : Nat) (Kh : Int → gMem → Option gMem) (K : gMem → Option gMem) (s : gMem) : Option gMem := if mT s t2 = 103 then if t0 = 0 ∨ t0 = 1 then if 0 ≤ t1 ∧ t1 < (mN s t2 : Int) then gLet (wI s t2 t1.toNat t0) (fun s3 => Kh (w32 (v3 + 1)) s3) else none else none else none
set_option maxRecDepth 100000 in
theorem okj_tw_ancestors_l2_j20 {ω : gW} {l : Launch} {d : Nat} {N : Nat} {h : Nat} {σ0 : gMem} {s : gMem} {v1 : Int} {v2 : Nat} {v3 : Int} {t0 : Int} {t1 : Int} {t2 : Nat} {Kh : Int → gMem → Option gMem} {K : gMem → Option gMem} (hdp : 0 ≤ d) (hM : TM s h) (hv1 : g32 v1) (hv3 : g32 v3) (ht0 : g32 t0) (ht1 : g32 t1) (hKh : ∀ (v3 : Int) (s : gMem) , g32 v3 → TM s h → GG (fun p : gMem => (.inl none, p)) gTw ω l d mu_tw_ancestors σ0 2 [(0, vR h), (1, vI v1), (2, vR v2), (3, vI v3)] [] s (Kh v3 s)) (hK : ∀ (s : gMem) , TM s h → GG (fun p : gMem => (.inl none, p)) gTw ω l d mu_tw_ancestors σ0 27 [(0, vR h), (1, vI v1), (2, vR v2)] [] s (K s)) : GG (fun p : gMem => (.inl none, p)) gTw ω l d mu_tw_ancestors σ0 20 [(0, vR h), (1, vI v1), (2, vR v2), (3, vI v3)] [vI t0, vI t1, vR t2] s (tw_ancestors_l2_j20 N h v1 v2 v3 t0 t1 t2 Kh K s) := by
  unfold tw_ancestors_l2_j20
  refine x_if (fun hT1 => ?_)
  refine x_if (fun hz2 => ?_)
  refine x_zast (μ := mu_tw_ancestors) (pc := 20) dX11_ancestors_20 hT1 rfl hz2 (fun _ _ q => gTw_wI q) ?_
  refine x_let (fun s3 e4 => ?_)
  have hM5 := TM.eI e4 hM
  refine x_iincw (μ := mu_tw_ancestors) (pc := 21) (lv' := [(3, vI (w32 (v3 + 1))), (0, vR h), (1, vI v1), (2, vR v2)]) 3 dX11_ancestors_21 rfl (by decide) rfl ?_
  refine x_goto (μ := mu_tw_ancestors) (pc := 24) (tgt := 2) dX11_ancestors_24 rfl ?_
  refine x_loc (lv' := [(0, vR h), (1, vI v1), (2, vR v2), (3, vI (w32 (v3 + 1)))]) [1, 2, 3, 0] rfl ?_
  exact hKh (w32 (v3 + 1)) s3 (w32_rng _) hM5
def tw_ancestors_l2 (N : Nat) (h : Nat) (v1 : Int) (v2 : Nat) (K : gMem → Option gMem) : Nat → Int → gMem → Option gMem
  | 0, _, _ => none
  | n + 1, v3, s => if 40 ≤ v3 then K s else if v3 ≠ v1 then tw_ancestors_l2_j20 N h v1 v2 v3 0 v3 v2 (tw_ancestors_l2 N h v1 v2 K n) K s else tw_ancestors_l2_j20 N h v1 v2 v3 1 v3 v2 (tw_ancestors_l2 N h v1 v2 K n) K s
set_option maxRecDepth 100000 in
theorem okl_tw_ancestors_l2 {ω : gW} {l : Launch} {d : Nat} {N : Nat} {h : Nat} {σ0 : gMem} {v1 : Int} {v2 : Nat} {K : gMem → Option gMem} (hdp : 0 ≤ d) (hv1 : g32 v1) (hK : ∀ (s : gMem) , TM s h → GG (fun p : gMem => (.inl none, p)) gTw ω l d mu_tw_ancestors σ0 27 [(0, vR h), (1, vI v1), (2, vR v2)] [] s (K s)) : ∀ (n : Nat) (v3 : Int) (s : gMem) , g32 v3 → TM s h → GG (fun p : gMem => (.inl none, p)) gTw ω l d mu_tw_ancestors σ0 2 [(0, vR h), (1, vI v1), (2, vR v2), (3, vI v3)] [] s (tw_ancestors_l2 N h v1 v2 K n v3 s) := by
  intro n
  induction n with
  | zero => intros; exact x_none
  | succ n ih =>
    intro v3 s hv3 hM
    unfold tw_ancestors_l2
    refine x_iload_n (μ := mu_tw_ancestors) (pc := 2) 3 dX11_ancestors_2 rfl ?_
    refine x_bipush (μ := mu_tw_ancestors) (pc := 3) dX11_ancestors_3 (by decide) ?_
    refine x_icmp_ge (μ := mu_tw_ancestors) (pc := 5) (tgt := 27) dX11_ancestors_5 rfl hv3 (by decide) ?_ ?_
    · refine x_loc (lv' := [(0, vR h), (1, vI v1), (2, vR v2)]) [0, 1, 2] rfl ?_
      exact hK s hM
    · refine x_aload_n (μ := mu_tw_ancestors) (pc := 8) 2 dX11_ancestors_8 rfl ?_
      refine x_iload_n (μ := mu_tw_ancestors) (pc := 9) 3 dX11_ancestors_9 rfl ?_
      refine x_iload_n (μ := mu_tw_ancestors) (pc := 10) 3 dX11_ancestors_10 rfl ?_
      refine x_iload_n (μ := mu_tw_ancestors) (pc := 11) 1 dX11_ancestors_11 rfl ?_
      refine x_icmp_ne (μ := mu_tw_ancestors) (pc := 12) (tgt := 19) dX11_ancestors_12 rfl hv3 hv1 ?_ ?_
      · refine x_iconst (μ := mu_tw_ancestors) (pc := 19) dX11_ancestors_19 ?_
        exact okj_tw_ancestors_l2_j20 hdp hM hv1 hv3 (by decide) hv3 ih hK
      · refine x_iconst (μ := mu_tw_ancestors) (pc := 15) dX11_ancestors_15 ?_
        refine x_goto (μ := mu_tw_ancestors) (pc := 16) (tgt := 20) dX11_ancestors_16 rfl ?_
        exact okj_tw_ancestors_l2_j20 hdp hM hv1 hv3 (by decide) hv3 ih hK
def tw_ancestors_l29_j66 (N : Nat) (h : Nat) (v2 : Nat) (v3 : Int) (Kh : Int → gMem → Option gMem) (K : gMem → Option gMem) (s : gMem) : Option gMem := Kh (w32 (v3 + (-1))) s
set_option maxRecDepth 100000 in
theorem okj_tw_ancestors_l29_j66 {ω : gW} {l : Launch} {d : Nat} {N : Nat} {h : Nat} {σ0 : gMem} {s : gMem} {v2 : Nat} {v3 : Int} {Kh : Int → gMem → Option gMem} {K : gMem → Option gMem} (hdp : 0 ≤ d) (hM : TM s h) (hv3 : g32 v3) (hKh : ∀ (v3 : Int) (s : gMem) , g32 v3 → TM s h → GG (fun p : gMem => (.inl none, p)) gTw ω l d mu_tw_ancestors σ0 29 [(0, vR h), (2, vR v2), (3, vI v3)] [] s (Kh v3 s)) (hK : ∀ (s : gMem) , TM s h → GG (fun p : gMem => (.inl none, p)) gTw ω l d mu_tw_ancestors σ0 72 [] [] s (K s)) : GG (fun p : gMem => (.inl none, p)) gTw ω l d mu_tw_ancestors σ0 66 [(0, vR h), (2, vR v2), (3, vI v3)] [] s (tw_ancestors_l29_j66 N h v2 v3 Kh K s) := by
  unfold tw_ancestors_l29_j66
  refine x_iincw (μ := mu_tw_ancestors) (pc := 66) (lv' := [(3, vI (w32 (v3 + (-1)))), (0, vR h), (2, vR v2)]) 2 dX11_ancestors_66 rfl (by decide) rfl ?_
  refine x_goto (μ := mu_tw_ancestors) (pc := 69) (tgt := 29) dX11_ancestors_69 rfl ?_
  refine x_loc (lv' := [(0, vR h), (2, vR v2), (3, vI (w32 (v3 + (-1))))]) [1, 2, 0] rfl ?_
  exact hKh (w32 (v3 + (-1))) s (w32_rng _) hM
def tw_ancestors_l29 (N : Nat) (h : Nat) (v2 : Nat) (K : gMem → Option gMem) : Nat → Int → gMem → Option gMem
  | 0, _, _ => none
  | n + 1, v3, s => if v3 ≤ 0 then K s else if mT s v2 = 103 then if 0 ≤ v3 ∧ v3 < (mN s v2 : Int) then if mI s v2 v3.toNat = 0 then tw_ancestors_l29_j66 N h v2 v3  (tw_ancestors_l29 N h v2 K n) K s else if 0 ≤ v3 ∧ v3 < ((40 : Nat) : Int) then if 0 ≤ (mI s (h + 6) v3.toNat) ∧ (mI s (h + 6) v3.toNat) < (mN s v2 : Int) then gLet (wI s v2 (mI s (h + 6) v3.toNat).toNat 1) (fun s11 => if 0 ≤ v3 ∧ v3 < ((40 : Nat) : Int) then if mI s11 (h + 7) v3.toNat < 0 then tw_ancestors_l29_j66 N h v2 v3  (tw_ancestors_l29 N h v2 K n) K s11 else if 0 ≤ v3 ∧ v3 < ((40 : Nat) : Int) then if 0 ≤ (mI s11 (h + 7) v3.toNat) ∧ (mI s11 (h + 7) v3.toNat) < (mN s11 v2 : Int) then gLet (wI s11 v2 (mI s11 (h + 7) v3.toNat).toNat 1) (fun s16 => tw_ancestors_l29_j66 N h v2 v3  (tw_ancestors_l29 N h v2 K n) K s16) else none else none else none) else none else none else none else none
set_option maxRecDepth 100000 in
theorem okl_tw_ancestors_l29 {ω : gW} {l : Launch} {d : Nat} {N : Nat} {h : Nat} {σ0 : gMem} {v2 : Nat} {K : gMem → Option gMem} (hdp : 0 ≤ d) (hK : ∀ (s : gMem) , TM s h → GG (fun p : gMem => (.inl none, p)) gTw ω l d mu_tw_ancestors σ0 72 [] [] s (K s)) : ∀ (n : Nat) (v3 : Int) (s : gMem) , g32 v3 → TM s h → GG (fun p : gMem => (.inl none, p)) gTw ω l d mu_tw_ancestors σ0 29 [(0, vR h), (2, vR v2), (3, vI v3)] [] s (tw_ancestors_l29 N h v2 K n v3 s) := by
  intro n
  induction n with
  | zero => intros; exact x_none
  | succ n ih =>
    intro v3 s hv3 hM
    unfold tw_ancestors_l29
    refine x_iload_n (μ := mu_tw_ancestors) (pc := 29) 2 dX11_ancestors_29 rfl ?_
    refine x_if_le (μ := mu_tw_ancestors) (pc := 30) (tgt := 72) dX11_ancestors_30 rfl hv3 ?_ ?_
    · refine x_loc (lv' := []) [] rfl ?_
      exact hK s hM
    · refine x_aload_n (μ := mu_tw_ancestors) (pc := 33) 1 dX11_ancestors_33 rfl ?_
      refine x_iload_n (μ := mu_tw_ancestors) (pc := 34) 2 dX11_ancestors_34 rfl ?_
      refine x_if (fun hT8 => ?_)
      refine x_zald (μ := mu_tw_ancestors) (pc := 35) dX11_ancestors_35 hT8 rfl (fun hr9 => ?_)
      refine x_if_eq (μ := mu_tw_ancestors) (pc := 36) (tgt := 66) dX11_ancestors_36 rfl hr9 ?_ ?_
      · exact okj_tw_ancestors_l29_j66 hdp hM hv3 ih hK
      · refine x_aload_n (μ := mu_tw_ancestors) (pc := 39) 1 dX11_ancestors_39 rfl ?_
        refine x_aload_n (μ := mu_tw_ancestors) (pc := 40) 0 dX11_ancestors_40 rfl ?_
        refine x_fgrE (μ := mu_tw_ancestors) (pc := 41) fX11_9 (Or.inr ⟨_, rfl⟩) q2645 (hM.a9).1 dX11_ancestors_41 hM.1 ?_
        refine x_iload_n (μ := mu_tw_ancestors) (pc := 44) 2 dX11_ancestors_44 rfl ?_
        refine x_iald (μ := mu_tw_ancestors) (pc := 45) dX11_ancestors_45 (hM.a9).2.1 (hM.a9).2.2 (fun hr10 => ?_)
        refine x_iconst (μ := mu_tw_ancestors) (pc := 46) dX11_ancestors_46 ?_
        refine x_zast (μ := mu_tw_ancestors) (pc := 47) dX11_ancestors_47 hT8 rfl (by decide) (fun _ _ q => gTw_wI q) ?_
        refine x_let (fun s11 e12 => ?_)
        have hM13 := TM.eI e12 hM
        refine x_aload_n (μ := mu_tw_ancestors) (pc := 48) 0 dX11_ancestors_48 rfl ?_
        refine x_fgrE (μ := mu_tw_ancestors) (pc := 49) fX11_10 (Or.inr ⟨_, rfl⟩) q2646 (hM13.a10).1 dX11_ancestors_49 hM13.1 ?_
        refine x_iload_n (μ := mu_tw_ancestors) (pc := 52) 2 dX11_ancestors_52 rfl ?_
        refine x_iald (μ := mu_tw_ancestors) (pc := 53) dX11_ancestors_53 (hM13.a10).2.1 (hM13.a10).2.2 (fun hr14 => ?_)
        refine x_if_lt (μ := mu_tw_ancestors) (pc := 54) (tgt := 66) dX11_ancestors_54 rfl hr14 ?_ ?_
        · exact okj_tw_ancestors_l29_j66 hdp hM13 hv3 ih hK
        · refine x_aload_n (μ := mu_tw_ancestors) (pc := 57) 1 dX11_ancestors_57 rfl ?_
          refine x_aload_n (μ := mu_tw_ancestors) (pc := 58) 0 dX11_ancestors_58 rfl ?_
          refine x_fgrE (μ := mu_tw_ancestors) (pc := 59) fX11_10 (Or.inr ⟨_, rfl⟩) q2646 (hM13.a10).1 dX11_ancestors_59 hM13.1 ?_
          refine x_iload_n (μ := mu_tw_ancestors) (pc := 62) 2 dX11_ancestors_62 rfl ?_
          refine x_iald (μ := mu_tw_ancestors) (pc := 63) dX11_ancestors_63 (hM13.a10).2.1 (hM13.a10).2.2 (fun hr15 => ?_)
          refine x_iconst (μ := mu_tw_ancestors) (pc := 64) dX11_ancestors_64 ?_
          refine x_zast (μ := mu_tw_ancestors) (pc := 65) dX11_ancestors_65 (gT_I e12 hT8) rfl (by decide) (fun _ _ q => gTw_wI q) ?_
          refine x_let (fun s16 e17 => ?_)
          have hM18 := TM.eI e17 hM13
          exact okj_tw_ancestors_l29_j66 hdp hM18 hv3 ih hK
def tw_ancestors (N : Nat) (h : Nat) (v1 : Int) (v2 : Nat) (σ : gMem) : Option gMem := tw_ancestors_l2 N h v1 v2 (fun s6 => tw_ancestors_l29 N h v2 (fun s19 => some s19) N v1 s6) N 0 σ
set_option maxRecDepth 100000 in
theorem ok_tw_ancestors {ω : gW} {l : Launch} {d : Nat} {N : Nat} {h : Nat} {σ : gMem} {v1 : Int} {v2 : Nat} (hdp : 0 ≤ d) (hM : TM σ h) (hv1 : g32 v1) : gK (fun p : gMem => (.inl none, p)) gTw ω l d mu_tw_ancestors [vR h, vI v1, vR v2] σ (tw_ancestors N h v1 v2 σ) := by
  refine gK.of hp_X11 (Nat.le_of_ble_eq_true rfl) ?_
  unfold tw_ancestors
  refine x_iconst (μ := mu_tw_ancestors) (pc := 0) dX11_ancestors_0 ?_
  refine x_istore_n (μ := mu_tw_ancestors) (pc := 1) (lv' := [(3, vI 0), (0, vR h), (1, vI v1), (2, vR v2)]) dX11_ancestors_1 rfl (by decide) rfl ?_
  refine x_loc (lv' := [(0, vR h), (1, vI v1), (2, vR v2), (3, vI 0)]) [1, 2, 3, 0] rfl ?_
  refine okl_tw_ancestors_l2 hdp hv1 (fun s6 hM7 => ?_) N 0 σ (by decide) hM
  refine x_iload_n (μ := mu_tw_ancestors) (pc := 27) 1 dX11_ancestors_27 rfl ?_
  refine x_istore_n (μ := mu_tw_ancestors) (pc := 28) (lv' := [(3, vI v1), (0, vR h), (1, vI v1), (2, vR v2)]) dX11_ancestors_28 rfl (by decide) rfl ?_
  refine x_loc (lv' := [(0, vR h), (2, vR v2), (3, vI v1)]) [1, 3, 0] rfl ?_
  refine okl_tw_ancestors_l29 hdp (fun s19 hM20 => ?_) N v1 s6 hv1 hM7
  exact x_vret (μ := mu_tw_ancestors) (pc := 72) (a1 := s19) dX11_ancestors_72 rfl rfl (gRel_Tw.1 _) trivial
def tw_bars (N : Nat) (h : Nat) (v1 : Int) (σ : gMem) : Option Int := if mI σ h 14 ≠ 200 then if 0 ≤ mI σ h 13 then some (w32 (v1 + 1)) else (tw_unsettled N h σ).bind (fun x3 => if x3 ≤ 0 then some 0 else some (w32 (v1 + 1))) else some v1
set_option maxRecDepth 100000 in
theorem ok_tw_bars {ω : gW} {l : Launch} {d : Nat} {N : Nat} {h : Nat} {σ : gMem} {v1 : Int} (hdp : 1 ≤ d) (hM : TM σ h) (hv1 : g32 v1) : gK (fun x : Int => (.inl (some (vI x)), σ)) gTw ω l d mu_tw_bars [vR h, vI v1] σ (tw_bars N h v1 σ) := by
  refine gK.of hp_X11 (Nat.le_of_ble_eq_true rfl) ?_
  unfold tw_bars
  refine x_aload_n (μ := mu_tw_bars) (pc := 0) 0 dX11_bars_0 rfl ?_
  refine x_fgi (μ := mu_tw_bars) (pc := 1) fX11_14 q2650 dX11_bars_1 hM.1 (fun hr1 => ?_)
  refine x_sipush (μ := mu_tw_bars) (pc := 4) dX11_bars_4 (by decide) ?_
  refine x_icmp_ne (μ := mu_tw_bars) (pc := 7) (tgt := 12) dX11_bars_7 rfl hr1 (by decide) ?_ ?_
  · refine x_aload_n (μ := mu_tw_bars) (pc := 12) 0 dX11_bars_12 rfl ?_
    refine x_fgi (μ := mu_tw_bars) (pc := 13) fX11_13 q2649 dX11_bars_13 hM.1 (fun hr2 => ?_)
    refine x_if_ge (μ := mu_tw_bars) (pc := 16) (tgt := 26) dX11_bars_16 rfl hr2 ?_ ?_
    · refine x_iload_n (μ := mu_tw_bars) (pc := 26) 1 dX11_bars_26 rfl ?_
      refine x_iconst (μ := mu_tw_bars) (pc := 27) dX11_bars_27 ?_
      refine x_iadd (μ := mu_tw_bars) (pc := 28) dX11_bars_28 ?_
      refine x_goto (μ := mu_tw_bars) (pc := 29) (tgt := 33) dX11_bars_29 rfl ?_
      refine x_w1 ?_
      exact x_iret (μ := mu_tw_bars) (pc := 33) dX11_bars_33 rfl rfl (gRel_Tw.1 _) (show g32 (w32 (v1 + 1)) from (w32_rng _))
    · refine x_aload_n (μ := mu_tw_bars) (pc := 19) 0 dX11_bars_19 rfl ?_
      refine x_callV_pi (μ := mu_tw_bars) (pc := 20) (ok_tw_unsettled (ω := ω) (l := l) (d := d - 1) (by omega) hM ) gRel_Tw gRel_Tw (fun _ q => q) q3592 q3594 qs194 q232 q3595 dX11_bars_20 rfl hM.1 hy_tw_unsettled (by omega) (Nat.le_of_ble_eq_true rfl) rfl (Nat.le_of_ble_eq_true rfl) (fun x3 hr4 => ?_)
      refine x_if_le (μ := mu_tw_bars) (pc := 23) (tgt := 32) dX11_bars_23 rfl hr4 ?_ ?_
      · refine x_iconst (μ := mu_tw_bars) (pc := 32) dX11_bars_32 ?_
        exact x_iret (μ := mu_tw_bars) (pc := 33) dX11_bars_33 rfl rfl (gRel_Tw.1 _) (show g32 0 from (by decide))
      · refine x_iload_n (μ := mu_tw_bars) (pc := 26) 1 dX11_bars_26 rfl ?_
        refine x_iconst (μ := mu_tw_bars) (pc := 27) dX11_bars_27 ?_
        refine x_iadd (μ := mu_tw_bars) (pc := 28) dX11_bars_28 ?_
        refine x_goto (μ := mu_tw_bars) (pc := 29) (tgt := 33) dX11_bars_29 rfl ?_
        refine x_w1 ?_
        exact x_iret (μ := mu_tw_bars) (pc := 33) dX11_bars_33 rfl rfl (gRel_Tw.1 _) (show g32 (w32 (v1 + 1)) from (w32_rng _))
  · refine x_iload_n (μ := mu_tw_bars) (pc := 10) 1 dX11_bars_10 rfl ?_
    exact x_iret (μ := mu_tw_bars) (pc := 11) dX11_bars_11 rfl rfl (gRel_Tw.1 _) (show g32 v1 from hv1)
def tw_putLine_l5 (N : Nat) (h : Nat) (v1 : Int) (v2 : Int) (K : gMem → Option gMem) : Nat → Int → gMem → Option gMem
  | 0, _, _ => none
  | n + 1, v3, s => if v3 ≤ v1 then K s else if 0 ≤ (v3 - 1) ∧ (v3 - 1) < ((64 : Nat) : Int) then if 0 ≤ v3 ∧ v3 < ((64 : Nat) : Int) then gLet (wI s (h + 53) v3.toNat (mI s (h + 53) (v3 - 1).toNat)) (fun s3 => tw_putLine_l5 N h v1 v2 K n (w32 (v3 + (-1))) s3) else none else none
set_option maxRecDepth 100000 in
theorem okl_tw_putLine_l5 {ω : gW} {l : Launch} {d : Nat} {N : Nat} {h : Nat} {σ0 : gMem} {v1 : Int} {v2 : Int} {K : gMem → Option gMem} (hdp : 0 ≤ d) (hv1 : g32 v1) (hv2 : g32 v2) (hK : ∀ (s : gMem) , TM s h → GG (fun p : gMem => (.inl none, p)) gTw ω l d mu_tw_putLine σ0 30 [(0, vR h), (1, vI v1), (2, vI v2)] [] s (K s)) : ∀ (n : Nat) (v3 : Int) (s : gMem) , g32 v3 → TM s h → GG (fun p : gMem => (.inl none, p)) gTw ω l d mu_tw_putLine σ0 5 [(0, vR h), (1, vI v1), (2, vI v2), (3, vI v3)] [] s (tw_putLine_l5 N h v1 v2 K n v3 s) := by
  intro n
  induction n with
  | zero => intros; exact x_none
  | succ n ih =>
    intro v3 s hv3 hM
    unfold tw_putLine_l5
    refine x_iload_n (μ := mu_tw_putLine) (pc := 5) 3 dX11_putLine_5 rfl ?_
    refine x_iload_n (μ := mu_tw_putLine) (pc := 6) 1 dX11_putLine_6 rfl ?_
    refine x_icmp_le (μ := mu_tw_putLine) (pc := 7) (tgt := 30) dX11_putLine_7 rfl hv3 hv1 ?_ ?_
    · refine x_loc (lv' := [(0, vR h), (1, vI v1), (2, vI v2)]) [0, 1, 2] rfl ?_
      exact hK s hM
    · refine x_aload_n (μ := mu_tw_putLine) (pc := 10) 0 dX11_putLine_10 rfl ?_
      refine x_fgrE (μ := mu_tw_putLine) (pc := 11) fX11_99 (Or.inr ⟨_, rfl⟩) q2735 (hM.a99).1 dX11_putLine_11 hM.1 ?_
      refine x_iload_n (μ := mu_tw_putLine) (pc := 14) 3 dX11_putLine_14 rfl ?_
      refine x_aload_n (μ := mu_tw_putLine) (pc := 15) 0 dX11_putLine_15 rfl ?_
      refine x_fgrE (μ := mu_tw_putLine) (pc := 16) fX11_99 (Or.inr ⟨_, rfl⟩) q2735 (hM.a99).1 dX11_putLine_16 hM.1 ?_
      refine x_iload_n (μ := mu_tw_putLine) (pc := 19) 3 dX11_putLine_19 rfl ?_
      refine x_iconst (μ := mu_tw_putLine) (pc := 20) dX11_putLine_20 ?_
      refine x_isub (μ := mu_tw_putLine) (pc := 21) dX11_putLine_21 ?_
      refine x_iald (μ := mu_tw_putLine) (pc := 22) dX11_putLine_22 (hM.a99).2.1 (hM.a99).2.2 (fun hr2 => ?_)
      refine x_iast (μ := mu_tw_putLine) (pc := 23) dX11_putLine_23 (hM.a99).2.1 (hM.a99).2.2 (fun _ _ q => gTw_wI q) ?_
      refine x_let (fun s3 e4 => ?_)
      have hM5 := TM.eI e4 hM
      refine x_iincw (μ := mu_tw_putLine) (pc := 24) (lv' := [(3, vI (w32 (v3 + (-1)))), (0, vR h), (1, vI v1), (2, vI v2)]) 3 dX11_putLine_24 rfl (by decide) rfl ?_
      refine x_goto (μ := mu_tw_putLine) (pc := 27) (tgt := 5) dX11_putLine_27 rfl ?_
      refine x_loc (lv' := [(0, vR h), (1, vI v1), (2, vI v2), (3, vI (w32 (v3 + (-1))))]) [1, 2, 3, 0] rfl ?_
      exact ih (w32 (v3 + (-1))) s3 (w32_rng _) hM5
def tw_putLine (N : Nat) (h : Nat) (v1 : Int) (v2 : Int) (σ : gMem) : Option gMem := tw_putLine_l5 N h v1 v2 (fun s6 => if 0 ≤ v1 ∧ v1 < ((64 : Nat) : Int) then gLet (wI s6 (h + 53) v1.toNat v2) (fun s8 => gLet (wI s8 h 100 (w32 ((mI s8 h 100) + 1))) (fun s12 => some s12)) else none) N (mI σ h 100) σ
set_option maxRecDepth 100000 in
theorem ok_tw_putLine {ω : gW} {l : Launch} {d : Nat} {N : Nat} {h : Nat} {σ : gMem} {v1 : Int} {v2 : Int} (hdp : 0 ≤ d) (hM : TM σ h) (hv1 : g32 v1) (hv2 : g32 v2) : gK (fun p : gMem => (.inl none, p)) gTw ω l d mu_tw_putLine [vR h, vI v1, vI v2] σ (tw_putLine N h v1 v2 σ) := by
  refine gK.of hp_X11 (Nat.le_of_ble_eq_true rfl) ?_
  unfold tw_putLine
  refine x_aload_n (μ := mu_tw_putLine) (pc := 0) 0 dX11_putLine_0 rfl ?_
  refine x_fgi (μ := mu_tw_putLine) (pc := 1) fX11_100 q2736 dX11_putLine_1 hM.1 (fun hr1 => ?_)
  refine x_istore_n (μ := mu_tw_putLine) (pc := 4) (lv' := [(3, vI (mI σ h 100)), (0, vR h), (1, vI v1), (2, vI v2)]) dX11_putLine_4 rfl (by decide) rfl ?_
  refine x_loc (lv' := [(0, vR h), (1, vI v1), (2, vI v2), (3, vI (mI σ h 100))]) [1, 2, 3, 0] rfl ?_
  refine okl_tw_putLine_l5 hdp hv1 hv2 (fun s6 hM7 => ?_) N (mI σ h 100) σ hr1 hM
  refine x_aload_n (μ := mu_tw_putLine) (pc := 30) 0 dX11_putLine_30 rfl ?_
  refine x_fgrE (μ := mu_tw_putLine) (pc := 31) fX11_99 (Or.inr ⟨_, rfl⟩) q2735 (hM7.a99).1 dX11_putLine_31 hM7.1 ?_
  refine x_iload_n (μ := mu_tw_putLine) (pc := 34) 1 dX11_putLine_34 rfl ?_
  refine x_iload_n (μ := mu_tw_putLine) (pc := 35) 2 dX11_putLine_35 rfl ?_
  refine x_iast (μ := mu_tw_putLine) (pc := 36) dX11_putLine_36 (hM7.a99).2.1 (hM7.a99).2.2 (fun _ _ q => gTw_wI q) ?_
  refine x_let (fun s8 e9 => ?_)
  have hM10 := TM.eI e9 hM7
  refine x_aload_n (μ := mu_tw_putLine) (pc := 37) 0 dX11_putLine_37 rfl ?_
  refine x_dup (μ := mu_tw_putLine) (pc := 38) dX11_putLine_38 rfl ?_
  refine x_fgi (μ := mu_tw_putLine) (pc := 39) fX11_100 q2736 dX11_putLine_39 hM10.1 (fun hr11 => ?_)
  refine x_iconst (μ := mu_tw_putLine) (pc := 42) dX11_putLine_42 ?_
  refine x_iadd (μ := mu_tw_putLine) (pc := 43) dX11_putLine_43 ?_
  refine x_w1 ?_
  refine x_fpi (μ := mu_tw_putLine) (pc := 44) fX11_100 q2736 dX11_putLine_44 hM10.1 (fun _ q => gTw_wI q) ?_
  refine x_let (fun s12 e13 => ?_)
  have hM14 := TM.eI e13 hM10
  exact x_vret (μ := mu_tw_putLine) (pc := 47) (a1 := s12) dX11_putLine_47 rfl rfl (gRel_Tw.1 _) trivial
def tw_lineOf_l2 (N : Nat) (h : Nat) (σ : gMem) (v1 : Int) (K : Option Int) : Nat → Int → Option Int
  | 0, _ => none
  | n + 1, v2 => if mI σ h 100 ≤ v2 then K else if 0 ≤ v2 ∧ v2 < ((64 : Nat) : Int) then if mI σ (h + 53) v2.toNat ≠ v1 then tw_lineOf_l2 N h σ v1 K n (w32 (v2 + 1)) else some v2 else none
set_option maxRecDepth 100000 in
theorem okl_tw_lineOf_l2 {ω : gW} {l : Launch} {d : Nat} {N : Nat} {h : Nat} {σ : gMem} {v1 : Int} {K : Option Int} (hdp : 0 ≤ d) (hM : TM σ h) (hv1 : g32 v1) (hK : GG (fun x : Int => (.inl (some (vI x)), σ)) gTw ω l d mu_tw_lineOf σ 28 [] [] σ (K)) : ∀ (n : Nat) (v2 : Int) , g32 v2 → GG (fun x : Int => (.inl (some (vI x)), σ)) gTw ω l d mu_tw_lineOf σ 2 [(0, vR h), (1, vI v1), (2, vI v2)] [] σ (tw_lineOf_l2 N h σ v1 K n v2) := by
  intro n
  induction n with
  | zero => intros; exact x_none
  | succ n ih =>
    intro v2 hv2
    unfold tw_lineOf_l2
    refine x_iload_n (μ := mu_tw_lineOf) (pc := 2) 2 dX11_lineOf_2 rfl ?_
    refine x_aload_n (μ := mu_tw_lineOf) (pc := 3) 0 dX11_lineOf_3 rfl ?_
    refine x_fgi (μ := mu_tw_lineOf) (pc := 4) fX11_100 q2736 dX11_lineOf_4 hM.1 (fun hr1 => ?_)
    refine x_icmp_ge (μ := mu_tw_lineOf) (pc := 7) (tgt := 28) dX11_lineOf_7 rfl hv2 hr1 ?_ ?_
    · refine x_loc (lv' := []) [] rfl ?_
      exact hK
    · refine x_aload_n (μ := mu_tw_lineOf) (pc := 10) 0 dX11_lineOf_10 rfl ?_
      refine x_fgrE (μ := mu_tw_lineOf) (pc := 11) fX11_99 (Or.inr ⟨_, rfl⟩) q2735 (hM.a99).1 dX11_lineOf_11 hM.1 ?_
      refine x_iload_n (μ := mu_tw_lineOf) (pc := 14) 2 dX11_lineOf_14 rfl ?_
      refine x_iald (μ := mu_tw_lineOf) (pc := 15) dX11_lineOf_15 (hM.a99).2.1 (hM.a99).2.2 (fun hr2 => ?_)
      refine x_iload_n (μ := mu_tw_lineOf) (pc := 16) 1 dX11_lineOf_16 rfl ?_
      refine x_icmp_ne (μ := mu_tw_lineOf) (pc := 17) (tgt := 22) dX11_lineOf_17 rfl hr2 hv1 ?_ ?_
      · refine x_iincw (μ := mu_tw_lineOf) (pc := 22) (lv' := [(2, vI (w32 (v2 + 1))), (0, vR h), (1, vI v1)]) 2 dX11_lineOf_22 rfl (by decide) rfl ?_
        refine x_goto (μ := mu_tw_lineOf) (pc := 25) (tgt := 2) dX11_lineOf_25 rfl ?_
        refine x_loc (lv' := [(0, vR h), (1, vI v1), (2, vI (w32 (v2 + 1)))]) [1, 2, 0] rfl ?_
        exact ih (w32 (v2 + 1)) (w32_rng _)
      · refine x_iload_n (μ := mu_tw_lineOf) (pc := 20) 2 dX11_lineOf_20 rfl ?_
        exact x_iret (μ := mu_tw_lineOf) (pc := 21) dX11_lineOf_21 rfl rfl (gRel_Tw.1 _) (show g32 v2 from hv2)
def tw_lineOf (N : Nat) (h : Nat) (v1 : Int) (σ : gMem) : Option Int := tw_lineOf_l2 N h σ v1 (some (-1)) N 0
set_option maxRecDepth 100000 in
theorem ok_tw_lineOf {ω : gW} {l : Launch} {d : Nat} {N : Nat} {h : Nat} {σ : gMem} {v1 : Int} (hdp : 0 ≤ d) (hM : TM σ h) (hv1 : g32 v1) : gK (fun x : Int => (.inl (some (vI x)), σ)) gTw ω l d mu_tw_lineOf [vR h, vI v1] σ (tw_lineOf N h v1 σ) := by
  refine gK.of hp_X11 (Nat.le_of_ble_eq_true rfl) ?_
  unfold tw_lineOf
  refine x_iconst (μ := mu_tw_lineOf) (pc := 0) dX11_lineOf_0 ?_
  refine x_istore_n (μ := mu_tw_lineOf) (pc := 1) (lv' := [(2, vI 0), (0, vR h), (1, vI v1)]) dX11_lineOf_1 rfl (by decide) rfl ?_
  refine x_loc (lv' := [(0, vR h), (1, vI v1), (2, vI 0)]) [1, 2, 0] rfl ?_
  refine okl_tw_lineOf_l2 hdp hM hv1 ?_ N 0 (by decide)
  refine x_iconst (μ := mu_tw_lineOf) (pc := 28) dX11_lineOf_28 ?_
  exact x_iret (μ := mu_tw_lineOf) (pc := 29) dX11_lineOf_29 rfl rfl (gRel_Tw.1 _) (show g32 (-1) from (by decide))
def tw_clash (h : Nat) (v1 : Int) (v2 : Int) (v3 : Int) (v4 : Int) (σ : gMem) : Option gMem := if 0 ≤ (mI σ h 98) ∧ (mI σ h 98) < ((370 : Nat) : Int) then gLet (wI σ (h + 46) (mI σ h 98).toNat v1) (fun s2 => if 0 ≤ (mI s2 h 98) ∧ (mI s2 h 98) < ((370 : Nat) : Int) then gLet (wI s2 (h + 47) (mI s2 h 98).toNat v2) (fun s6 => if 0 ≤ (mI s6 h 98) ∧ (mI s6 h 98) < ((370 : Nat) : Int) then gLet (wI s6 (h + 48) (mI s6 h 98).toNat v3) (fun s10 => if v4 = 0 ∨ v4 = 1 then if 0 ≤ (mI s10 h 98) ∧ (mI s10 h 98) < ((370 : Nat) : Int) then gLet (wI s10 (h + 51) (mI s10 h 98).toNat v4) (fun s15 => if 0 ≤ (mI s15 h 98) ∧ (mI s15 h 98) < ((370 : Nat) : Int) then gLet (wI s15 (h + 49) (mI s15 h 98).toNat 0) (fun s19 => if 0 ≤ (mI s19 h 98) ∧ (mI s19 h 98) < ((370 : Nat) : Int) then gLet (wI s19 (h + 50) (mI s19 h 98).toNat 0) (fun s23 => if 0 ≤ (mI s23 h 98) ∧ (mI s23 h 98) < ((370 : Nat) : Int) then gLet (wI s23 (h + 52) (mI s23 h 98).toNat 0) (fun s27 => gLet (wI s27 h 98 (w32 ((mI s27 h 98) + 1))) (fun s31 => some s31)) else none) else none) else none) else none else none) else none) else none) else none
set_option maxRecDepth 100000 in
theorem ok_tw_clash {ω : gW} {l : Launch} {d : Nat} {h : Nat} {σ : gMem} {v1 : Int} {v2 : Int} {v3 : Int} {v4 : Int} (hdp : 0 ≤ d) (hM : TM σ h) (hv1 : g32 v1) (hv2 : g32 v2) (hv3 : g32 v3) (hv4 : g32 v4) : gK (fun p : gMem => (.inl none, p)) gTw ω l d mu_tw_clash [vR h, vI v1, vI v2, vI v3, vI v4] σ (tw_clash h v1 v2 v3 v4 σ) := by
  refine gK.of hp_X11 (Nat.le_of_ble_eq_true rfl) ?_
  unfold tw_clash
  refine x_aload_n (μ := mu_tw_clash) (pc := 0) 0 dX11_clash_0 rfl ?_
  refine x_fgrE (μ := mu_tw_clash) (pc := 1) fX11_91 (Or.inr ⟨_, rfl⟩) q2727 (hM.a91).1 dX11_clash_1 hM.1 ?_
  refine x_aload_n (μ := mu_tw_clash) (pc := 4) 0 dX11_clash_4 rfl ?_
  refine x_fgi (μ := mu_tw_clash) (pc := 5) fX11_98 q2734 dX11_clash_5 hM.1 (fun hr1 => ?_)
  refine x_iload_n (μ := mu_tw_clash) (pc := 8) 1 dX11_clash_8 rfl ?_
  refine x_iast (μ := mu_tw_clash) (pc := 9) dX11_clash_9 (hM.a91).2.1 (hM.a91).2.2 (fun _ _ q => gTw_wI q) ?_
  refine x_let (fun s2 e3 => ?_)
  have hM4 := TM.eI e3 hM
  refine x_aload_n (μ := mu_tw_clash) (pc := 10) 0 dX11_clash_10 rfl ?_
  refine x_fgrE (μ := mu_tw_clash) (pc := 11) fX11_92 (Or.inr ⟨_, rfl⟩) q2728 (hM4.a92).1 dX11_clash_11 hM4.1 ?_
  refine x_aload_n (μ := mu_tw_clash) (pc := 14) 0 dX11_clash_14 rfl ?_
  refine x_fgi (μ := mu_tw_clash) (pc := 15) fX11_98 q2734 dX11_clash_15 hM4.1 (fun hr5 => ?_)
  refine x_iload_n (μ := mu_tw_clash) (pc := 18) 2 dX11_clash_18 rfl ?_
  refine x_iast (μ := mu_tw_clash) (pc := 19) dX11_clash_19 (hM4.a92).2.1 (hM4.a92).2.2 (fun _ _ q => gTw_wI q) ?_
  refine x_let (fun s6 e7 => ?_)
  have hM8 := TM.eI e7 hM4
  refine x_aload_n (μ := mu_tw_clash) (pc := 20) 0 dX11_clash_20 rfl ?_
  refine x_fgrE (μ := mu_tw_clash) (pc := 21) fX11_93 (Or.inr ⟨_, rfl⟩) q2729 (hM8.a93).1 dX11_clash_21 hM8.1 ?_
  refine x_aload_n (μ := mu_tw_clash) (pc := 24) 0 dX11_clash_24 rfl ?_
  refine x_fgi (μ := mu_tw_clash) (pc := 25) fX11_98 q2734 dX11_clash_25 hM8.1 (fun hr9 => ?_)
  refine x_iload_n (μ := mu_tw_clash) (pc := 28) 3 dX11_clash_28 rfl ?_
  refine x_iast (μ := mu_tw_clash) (pc := 29) dX11_clash_29 (hM8.a93).2.1 (hM8.a93).2.2 (fun _ _ q => gTw_wI q) ?_
  refine x_let (fun s10 e11 => ?_)
  have hM12 := TM.eI e11 hM8
  refine x_aload_n (μ := mu_tw_clash) (pc := 30) 0 dX11_clash_30 rfl ?_
  refine x_fgrE (μ := mu_tw_clash) (pc := 31) fX11_96 (Or.inr ⟨_, rfl⟩) q2732 (hM12.a96).1 dX11_clash_31 hM12.1 ?_
  refine x_aload_n (μ := mu_tw_clash) (pc := 34) 0 dX11_clash_34 rfl ?_
  refine x_fgi (μ := mu_tw_clash) (pc := 35) fX11_98 q2734 dX11_clash_35 hM12.1 (fun hr13 => ?_)
  refine x_iload (μ := mu_tw_clash) (pc := 38) 4 dX11_clash_38 rfl ?_
  refine x_if (fun hz14 => ?_)
  refine x_zast (μ := mu_tw_clash) (pc := 40) dX11_clash_40 (hM12.a96).2.1 (hM12.a96).2.2 hz14 (fun _ _ q => gTw_wI q) ?_
  refine x_let (fun s15 e16 => ?_)
  have hM17 := TM.eI e16 hM12
  refine x_aload_n (μ := mu_tw_clash) (pc := 41) 0 dX11_clash_41 rfl ?_
  refine x_fgrE (μ := mu_tw_clash) (pc := 42) fX11_94 (Or.inr ⟨_, rfl⟩) q2730 (hM17.a94).1 dX11_clash_42 hM17.1 ?_
  refine x_aload_n (μ := mu_tw_clash) (pc := 45) 0 dX11_clash_45 rfl ?_
  refine x_fgi (μ := mu_tw_clash) (pc := 46) fX11_98 q2734 dX11_clash_46 hM17.1 (fun hr18 => ?_)
  refine x_iconst (μ := mu_tw_clash) (pc := 49) dX11_clash_49 ?_
  refine x_iast (μ := mu_tw_clash) (pc := 50) dX11_clash_50 (hM17.a94).2.1 (hM17.a94).2.2 (fun _ _ q => gTw_wI q) ?_
  refine x_let (fun s19 e20 => ?_)
  have hM21 := TM.eI e20 hM17
  refine x_aload_n (μ := mu_tw_clash) (pc := 51) 0 dX11_clash_51 rfl ?_
  refine x_fgrE (μ := mu_tw_clash) (pc := 52) fX11_95 (Or.inr ⟨_, rfl⟩) q2731 (hM21.a95).1 dX11_clash_52 hM21.1 ?_
  refine x_aload_n (μ := mu_tw_clash) (pc := 55) 0 dX11_clash_55 rfl ?_
  refine x_fgi (μ := mu_tw_clash) (pc := 56) fX11_98 q2734 dX11_clash_56 hM21.1 (fun hr22 => ?_)
  refine x_iconst (μ := mu_tw_clash) (pc := 59) dX11_clash_59 ?_
  refine x_iast (μ := mu_tw_clash) (pc := 60) dX11_clash_60 (hM21.a95).2.1 (hM21.a95).2.2 (fun _ _ q => gTw_wI q) ?_
  refine x_let (fun s23 e24 => ?_)
  have hM25 := TM.eI e24 hM21
  refine x_aload_n (μ := mu_tw_clash) (pc := 61) 0 dX11_clash_61 rfl ?_
  refine x_fgrE (μ := mu_tw_clash) (pc := 62) fX11_97 (Or.inr ⟨_, rfl⟩) q2733 (hM25.a97).1 dX11_clash_62 hM25.1 ?_
  refine x_aload_n (μ := mu_tw_clash) (pc := 65) 0 dX11_clash_65 rfl ?_
  refine x_fgi (μ := mu_tw_clash) (pc := 66) fX11_98 q2734 dX11_clash_66 hM25.1 (fun hr26 => ?_)
  refine x_iconst (μ := mu_tw_clash) (pc := 69) dX11_clash_69 ?_
  refine x_zast (μ := mu_tw_clash) (pc := 70) dX11_clash_70 (hM25.a97).2.1 (hM25.a97).2.2 (by decide) (fun _ _ q => gTw_wI q) ?_
  refine x_let (fun s27 e28 => ?_)
  have hM29 := TM.eI e28 hM25
  refine x_aload_n (μ := mu_tw_clash) (pc := 71) 0 dX11_clash_71 rfl ?_
  refine x_dup (μ := mu_tw_clash) (pc := 72) dX11_clash_72 rfl ?_
  refine x_fgi (μ := mu_tw_clash) (pc := 73) fX11_98 q2734 dX11_clash_73 hM29.1 (fun hr30 => ?_)
  refine x_iconst (μ := mu_tw_clash) (pc := 76) dX11_clash_76 ?_
  refine x_iadd (μ := mu_tw_clash) (pc := 77) dX11_clash_77 ?_
  refine x_w1 ?_
  refine x_fpi (μ := mu_tw_clash) (pc := 78) fX11_98 q2734 dX11_clash_78 hM29.1 (fun _ q => gTw_wI q) ?_
  refine x_let (fun s31 e32 => ?_)
  have hM33 := TM.eI e32 hM29
  exact x_vret (μ := mu_tw_clash) (pc := 81) (a1 := s31) dX11_clash_81 rfl rfl (gRel_Tw.1 _) trivial
def tw_differ (h : Nat) (v1 : Int) (v2 : Int) (v3 : Int) (σ : gMem) : Option gMem := if 0 ≤ (mI σ h 104) ∧ (mI σ h 104) < ((410 : Nat) : Int) then gLet (wI σ (h + 54) (mI σ h 104).toNat v1) (fun s2 => if 0 ≤ (mI s2 h 104) ∧ (mI s2 h 104) < ((410 : Nat) : Int) then gLet (wI s2 (h + 55) (mI s2 h 104).toNat v2) (fun s6 => if 0 ≤ (mI s6 h 104) ∧ (mI s6 h 104) < ((410 : Nat) : Int) then gLet (wI s6 (h + 56) (mI s6 h 104).toNat v3) (fun s10 => gLet (wI s10 h 104 (w32 ((mI s10 h 104) + 1))) (fun s14 => some s14)) else none) else none) else none
set_option maxRecDepth 100000 in
theorem ok_tw_differ {ω : gW} {l : Launch} {d : Nat} {h : Nat} {σ : gMem} {v1 : Int} {v2 : Int} {v3 : Int} (hdp : 0 ≤ d) (hM : TM σ h) (hv1 : g32 v1) (hv2 : g32 v2) (hv3 : g32 v3) : gK (fun p : gMem => (.inl none, p)) gTw ω l d mu_tw_differ [vR h, vI v1, vI v2, vI v3] σ (tw_differ h v1 v2 v3 σ) := by
  refine gK.of hp_X11 (Nat.le_of_ble_eq_true rfl) ?_
  unfold tw_differ
  refine x_aload_n (μ := mu_tw_differ) (pc := 0) 0 dX11_differ_0 rfl ?_
  refine x_fgrE (μ := mu_tw_differ) (pc := 1) fX11_101 (Or.inr ⟨_, rfl⟩) q2737 (hM.a101).1 dX11_differ_1 hM.1 ?_
  refine x_aload_n (μ := mu_tw_differ) (pc := 4) 0 dX11_differ_4 rfl ?_
  refine x_fgi (μ := mu_tw_differ) (pc := 5) fX11_104 q2740 dX11_differ_5 hM.1 (fun hr1 => ?_)
  refine x_iload_n (μ := mu_tw_differ) (pc := 8) 1 dX11_differ_8 rfl ?_
  refine x_iast (μ := mu_tw_differ) (pc := 9) dX11_differ_9 (hM.a101).2.1 (hM.a101).2.2 (fun _ _ q => gTw_wI q) ?_
  refine x_let (fun s2 e3 => ?_)
  have hM4 := TM.eI e3 hM
  refine x_aload_n (μ := mu_tw_differ) (pc := 10) 0 dX11_differ_10 rfl ?_
  refine x_fgrE (μ := mu_tw_differ) (pc := 11) fX11_102 (Or.inr ⟨_, rfl⟩) q2738 (hM4.a102).1 dX11_differ_11 hM4.1 ?_
  refine x_aload_n (μ := mu_tw_differ) (pc := 14) 0 dX11_differ_14 rfl ?_
  refine x_fgi (μ := mu_tw_differ) (pc := 15) fX11_104 q2740 dX11_differ_15 hM4.1 (fun hr5 => ?_)
  refine x_iload_n (μ := mu_tw_differ) (pc := 18) 2 dX11_differ_18 rfl ?_
  refine x_iast (μ := mu_tw_differ) (pc := 19) dX11_differ_19 (hM4.a102).2.1 (hM4.a102).2.2 (fun _ _ q => gTw_wI q) ?_
  refine x_let (fun s6 e7 => ?_)
  have hM8 := TM.eI e7 hM4
  refine x_aload_n (μ := mu_tw_differ) (pc := 20) 0 dX11_differ_20 rfl ?_
  refine x_fgrE (μ := mu_tw_differ) (pc := 21) fX11_103 (Or.inr ⟨_, rfl⟩) q2739 (hM8.a103).1 dX11_differ_21 hM8.1 ?_
  refine x_aload_n (μ := mu_tw_differ) (pc := 24) 0 dX11_differ_24 rfl ?_
  refine x_fgi (μ := mu_tw_differ) (pc := 25) fX11_104 q2740 dX11_differ_25 hM8.1 (fun hr9 => ?_)
  refine x_iload_n (μ := mu_tw_differ) (pc := 28) 3 dX11_differ_28 rfl ?_
  refine x_iast (μ := mu_tw_differ) (pc := 29) dX11_differ_29 (hM8.a103).2.1 (hM8.a103).2.2 (fun _ _ q => gTw_wI q) ?_
  refine x_let (fun s10 e11 => ?_)
  have hM12 := TM.eI e11 hM8
  refine x_aload_n (μ := mu_tw_differ) (pc := 30) 0 dX11_differ_30 rfl ?_
  refine x_dup (μ := mu_tw_differ) (pc := 31) dX11_differ_31 rfl ?_
  refine x_fgi (μ := mu_tw_differ) (pc := 32) fX11_104 q2740 dX11_differ_32 hM12.1 (fun hr13 => ?_)
  refine x_iconst (μ := mu_tw_differ) (pc := 35) dX11_differ_35 ?_
  refine x_iadd (μ := mu_tw_differ) (pc := 36) dX11_differ_36 ?_
  refine x_w1 ?_
  refine x_fpi (μ := mu_tw_differ) (pc := 37) fX11_104 q2740 dX11_differ_37 hM12.1 (fun _ q => gTw_wI q) ?_
  refine x_let (fun s14 e15 => ?_)
  have hM16 := TM.eI e15 hM12
  exact x_vret (μ := mu_tw_differ) (pc := 40) (a1 := s14) dX11_differ_40 rfl rfl (gRel_Tw.1 _) trivial
def tw_difference (h : Nat) (v1 : Int) (v2 : Int) (σ : gMem) : Option (Int × gMem) := gLet (wI σ h 0 0) (fun s1 => (tw_in v1 0 (w32 ((mI s1 h 104) - 1)) s1).bind (fun x5 => if x5 ≠ 0 then if v2 ≠ 0 then if v2 ≠ 1 then if v2 ≠ 2 then some ((-1), s1) else if 0 ≤ v1 ∧ v1 < ((410 : Nat) : Int) then some (mI s1 (h + 56) v1.toNat, s1) else none else if 0 ≤ v1 ∧ v1 < ((410 : Nat) : Int) then some (mI s1 (h + 55) v1.toNat, s1) else none else if 0 ≤ v1 ∧ v1 < ((410 : Nat) : Int) then some (mI s1 (h + 54) v1.toNat, s1) else none else some ((-1), s1)))
set_option maxRecDepth 100000 in
theorem ok_tw_difference {ω : gW} {l : Launch} {d : Nat} {h : Nat} {σ : gMem} {v1 : Int} {v2 : Int} (hdp : 1 ≤ d) (hM : TM σ h) (hv1 : g32 v1) (hv2 : g32 v2) : gK (fun p : Int × gMem => (.inl (some (vI p.1)), p.2)) gTw ω l d mu_tw_difference [vR h, vI v1, vI v2] σ (tw_difference h v1 v2 σ) := by
  refine gK.of hp_X11 (Nat.le_of_ble_eq_true rfl) ?_
  unfold tw_difference
  refine x_aload_n (μ := mu_tw_difference) (pc := 0) 0 dX11_difference_0 rfl ?_
  refine x_iconst (μ := mu_tw_difference) (pc := 1) dX11_difference_1 ?_
  refine x_fpi (μ := mu_tw_difference) (pc := 2) fX11_0 q2636 dX11_difference_2 hM.1 (fun _ q => gTw_wI q) ?_
  refine x_let (fun s1 e2 => ?_)
  have hM3 := TM.eI e2 hM
  refine x_iload_n (μ := mu_tw_difference) (pc := 5) 1 dX11_difference_5 rfl ?_
  refine x_iconst (μ := mu_tw_difference) (pc := 6) dX11_difference_6 ?_
  refine x_aload_n (μ := mu_tw_difference) (pc := 7) 0 dX11_difference_7 rfl ?_
  refine x_fgi (μ := mu_tw_difference) (pc := 8) fX11_104 q2740 dX11_difference_8 hM3.1 (fun hr4 => ?_)
  refine x_iconst (μ := mu_tw_difference) (pc := 11) dX11_difference_11 ?_
  refine x_isub (μ := mu_tw_difference) (pc := 12) dX11_difference_12 ?_
  refine x_w1 ?_
  refine x_callS_pi (μ := mu_tw_difference) (pc := 13) (ok_tw_in (ω := ω) (l := l) (d := d - 1) (by omega) hv1 (by decide) (w32_rng _)) gRel_Tw gRel_Tw (fun _ q => q) q2980 q2981 q232 q2982 dX11_difference_13 hy_tw_in (by omega) (Nat.le_of_ble_eq_true rfl) rfl (Nat.le_of_ble_eq_true rfl) (fun x5 hr6 => ?_)
  refine x_if_ne (μ := mu_tw_difference) (pc := 16) (tgt := 21) dX11_difference_16 rfl hr6 ?_ ?_
  · refine x_iload_n (μ := mu_tw_difference) (pc := 21) 2 dX11_difference_21 rfl ?_
    refine x_if_ne (μ := mu_tw_difference) (pc := 22) (tgt := 34) dX11_difference_22 rfl hv2 ?_ ?_
    · refine x_iload_n (μ := mu_tw_difference) (pc := 34) 2 dX11_difference_34 rfl ?_
      refine x_iconst (μ := mu_tw_difference) (pc := 35) dX11_difference_35 ?_
      refine x_icmp_ne (μ := mu_tw_difference) (pc := 36) (tgt := 48) dX11_difference_36 rfl hv2 (by decide) ?_ ?_
      · refine x_iload_n (μ := mu_tw_difference) (pc := 48) 2 dX11_difference_48 rfl ?_
        refine x_iconst (μ := mu_tw_difference) (pc := 49) dX11_difference_49 ?_
        refine x_icmp_ne (μ := mu_tw_difference) (pc := 50) (tgt := 62) dX11_difference_50 rfl hv2 (by decide) ?_ ?_
        · refine x_iconst (μ := mu_tw_difference) (pc := 62) dX11_difference_62 ?_
          exact x_iret (μ := mu_tw_difference) (pc := 63) dX11_difference_63 rfl rfl (gRel_Tw.1 _) (show g32 (-1) from (by decide))
        · refine x_aload_n (μ := mu_tw_difference) (pc := 53) 0 dX11_difference_53 rfl ?_
          refine x_fgrE (μ := mu_tw_difference) (pc := 54) fX11_103 (Or.inr ⟨_, rfl⟩) q2739 (hM3.a103).1 dX11_difference_54 hM3.1 ?_
          refine x_iload_n (μ := mu_tw_difference) (pc := 57) 1 dX11_difference_57 rfl ?_
          refine x_iald (μ := mu_tw_difference) (pc := 58) dX11_difference_58 (hM3.a103).2.1 (hM3.a103).2.2 (fun hr7 => ?_)
          refine x_goto (μ := mu_tw_difference) (pc := 59) (tgt := 63) dX11_difference_59 rfl ?_
          exact x_iret (μ := mu_tw_difference) (pc := 63) dX11_difference_63 rfl rfl (gRel_Tw.1 _) (show g32 (mI s1 (h + 56) v1.toNat) from hr7)
      · refine x_aload_n (μ := mu_tw_difference) (pc := 39) 0 dX11_difference_39 rfl ?_
        refine x_fgrE (μ := mu_tw_difference) (pc := 40) fX11_102 (Or.inr ⟨_, rfl⟩) q2738 (hM3.a102).1 dX11_difference_40 hM3.1 ?_
        refine x_iload_n (μ := mu_tw_difference) (pc := 43) 1 dX11_difference_43 rfl ?_
        refine x_iald (μ := mu_tw_difference) (pc := 44) dX11_difference_44 (hM3.a102).2.1 (hM3.a102).2.2 (fun hr8 => ?_)
        refine x_goto (μ := mu_tw_difference) (pc := 45) (tgt := 63) dX11_difference_45 rfl ?_
        exact x_iret (μ := mu_tw_difference) (pc := 63) dX11_difference_63 rfl rfl (gRel_Tw.1 _) (show g32 (mI s1 (h + 55) v1.toNat) from hr8)
    · refine x_aload_n (μ := mu_tw_difference) (pc := 25) 0 dX11_difference_25 rfl ?_
      refine x_fgrE (μ := mu_tw_difference) (pc := 26) fX11_101 (Or.inr ⟨_, rfl⟩) q2737 (hM3.a101).1 dX11_difference_26 hM3.1 ?_
      refine x_iload_n (μ := mu_tw_difference) (pc := 29) 1 dX11_difference_29 rfl ?_
      refine x_iald (μ := mu_tw_difference) (pc := 30) dX11_difference_30 (hM3.a101).2.1 (hM3.a101).2.2 (fun hr9 => ?_)
      refine x_goto (μ := mu_tw_difference) (pc := 31) (tgt := 63) dX11_difference_31 rfl ?_
      exact x_iret (μ := mu_tw_difference) (pc := 63) dX11_difference_63 rfl rfl (gRel_Tw.1 _) (show g32 (mI s1 (h + 54) v1.toNat) from hr9)
  · refine x_iconst (μ := mu_tw_difference) (pc := 19) dX11_difference_19 ?_
    exact x_iret (μ := mu_tw_difference) (pc := 20) dX11_difference_20 rfl rfl (gRel_Tw.1 _) (show g32 (-1) from (by decide))
def tw_sheet (h : Nat) (v1 : Int) (v2 : Int) (σ : gMem) : Option (Int × gMem) := gLet (wI σ h 0 0) (fun s1 => (tw_isSheet h v1 s1).bind (fun x4 => if x4 ≠ 0 then if v2 = 0 then (tw_sheetAt v1 s1).bind (fun x7 => if 0 ≤ x7 ∧ x7 < ((122 : Nat) : Int) then some (mI s1 (h + 1) x7.toNat, s1) else none) else if v2 = 1 then (tw_sheetAt v1 s1).bind (fun x11 => if 0 ≤ x11 ∧ x11 < ((122 : Nat) : Int) then some (mI s1 (h + 2) x11.toNat, s1) else none) else if v2 = 2 then if 0 ≤ v1 then if 0 ≤ v1 ∧ v1 < ((40 : Nat) : Int) then some (mI s1 (h + 6) v1.toNat, s1) else none else (tw_head h s1).bind (fun x16 => some (x16, s1)) else if v2 = 3 then if 0 ≤ v1 then if 0 ≤ v1 ∧ v1 < ((40 : Nat) : Int) then some (mI s1 (h + 7) v1.toNat, s1) else none else some (mI s1 h 13, s1) else some ((-1), s1) else some ((-1), s1)))
set_option maxRecDepth 100000 in
theorem ok_tw_sheet {ω : gW} {l : Launch} {d : Nat} {h : Nat} {σ : gMem} {v1 : Int} {v2 : Int} (hdp : 2 ≤ d) (hM : TM σ h) (hv1 : g32 v1) (hv2 : g32 v2) : gK (fun p : Int × gMem => (.inl (some (vI p.1)), p.2)) gTw ω l d mu_tw_sheet [vR h, vI v1, vI v2] σ (tw_sheet h v1 v2 σ) := by
  refine gK.of hp_X11 (Nat.le_of_ble_eq_true rfl) ?_
  unfold tw_sheet
  refine x_aload_n (μ := mu_tw_sheet) (pc := 0) 0 dX11_sheet_0 rfl ?_
  refine x_iconst (μ := mu_tw_sheet) (pc := 1) dX11_sheet_1 ?_
  refine x_fpi (μ := mu_tw_sheet) (pc := 2) fX11_0 q2636 dX11_sheet_2 hM.1 (fun _ q => gTw_wI q) ?_
  refine x_let (fun s1 e2 => ?_)
  have hM3 := TM.eI e2 hM
  refine x_aload_n (μ := mu_tw_sheet) (pc := 5) 0 dX11_sheet_5 rfl ?_
  refine x_iload_n (μ := mu_tw_sheet) (pc := 6) 1 dX11_sheet_6 rfl ?_
  refine x_callV_pi (μ := mu_tw_sheet) (pc := 7) (ok_tw_isSheet (ω := ω) (l := l) (d := d - 1) (by omega) hM3 hv1) gRel_Tw gRel_Tw (fun _ q => q) q3211 q3213 qs122 q232 q3214 dX11_sheet_7 rfl hM3.1 hy_tw_isSheet (by omega) (Nat.le_of_ble_eq_true rfl) rfl (Nat.le_of_ble_eq_true rfl) (fun x4 hr5 => ?_)
  refine x_if_ne (μ := mu_tw_sheet) (pc := 10) (tgt := 15) dX11_sheet_10 rfl hr5 ?_ ?_
  · refine x_iload_n (μ := mu_tw_sheet) (pc := 15) 2 dX11_sheet_15 rfl ?_
    refine x_tab (μ := mu_tw_sheet) (pc := 16) (tgt := 48) 0 dX11_sheet_16 (by decide) (by decide) (by decide) rfl rfl ?_ (fun hn6 => ?_)
    · refine x_aload_n (μ := mu_tw_sheet) (pc := 48) 0 dX11_sheet_48 rfl ?_
      refine x_fgrE (μ := mu_tw_sheet) (pc := 49) fX11_1 (Or.inr ⟨_, rfl⟩) q2637 (hM3.a1).1 dX11_sheet_49 hM3.1 ?_
      refine x_iload_n (μ := mu_tw_sheet) (pc := 52) 1 dX11_sheet_52 rfl ?_
      refine x_callS_pi (μ := mu_tw_sheet) (pc := 53) (ok_tw_sheetAt (ω := ω) (l := l) (d := d - 1) (by omega) hv1) gRel_Tw gRel_Tw (fun _ q => q) q3215 q3216 q232 q3217 dX11_sheet_53 hy_tw_sheetAt (by omega) (Nat.le_of_ble_eq_true rfl) rfl (Nat.le_of_ble_eq_true rfl) (fun x7 hr8 => ?_)
      refine x_iald (μ := mu_tw_sheet) (pc := 56) dX11_sheet_56 (hM3.a1).2.1 (hM3.a1).2.2 (fun hr9 => ?_)
      exact x_iret (μ := mu_tw_sheet) (pc := 57) dX11_sheet_57 rfl rfl (gRel_Tw.1 _) (show g32 (mI s1 (h + 1) x7.toNat) from hr9)
    refine x_tab (μ := mu_tw_sheet) (pc := 16) (tgt := 58) 1 dX11_sheet_16 (by decide) (by decide) (by decide) rfl rfl ?_ (fun hn10 => ?_)
    · refine x_aload_n (μ := mu_tw_sheet) (pc := 58) 0 dX11_sheet_58 rfl ?_
      refine x_fgrE (μ := mu_tw_sheet) (pc := 59) fX11_2 (Or.inr ⟨_, rfl⟩) q2638 (hM3.a2).1 dX11_sheet_59 hM3.1 ?_
      refine x_iload_n (μ := mu_tw_sheet) (pc := 62) 1 dX11_sheet_62 rfl ?_
      refine x_callS_pi (μ := mu_tw_sheet) (pc := 63) (ok_tw_sheetAt (ω := ω) (l := l) (d := d - 1) (by omega) hv1) gRel_Tw gRel_Tw (fun _ q => q) q3215 q3216 q232 q3217 dX11_sheet_63 hy_tw_sheetAt (by omega) (Nat.le_of_ble_eq_true rfl) rfl (Nat.le_of_ble_eq_true rfl) (fun x11 hr12 => ?_)
      refine x_iald (μ := mu_tw_sheet) (pc := 66) dX11_sheet_66 (hM3.a2).2.1 (hM3.a2).2.2 (fun hr13 => ?_)
      exact x_iret (μ := mu_tw_sheet) (pc := 67) dX11_sheet_67 rfl rfl (gRel_Tw.1 _) (show g32 (mI s1 (h + 2) x11.toNat) from hr13)
    refine x_tab (μ := mu_tw_sheet) (pc := 16) (tgt := 68) 2 dX11_sheet_16 (by decide) (by decide) (by decide) rfl rfl ?_ (fun hn14 => ?_)
    · refine x_iload_n (μ := mu_tw_sheet) (pc := 68) 1 dX11_sheet_68 rfl ?_
      refine x_if_ge (μ := mu_tw_sheet) (pc := 69) (tgt := 79) dX11_sheet_69 rfl hv1 ?_ ?_
      · refine x_aload_n (μ := mu_tw_sheet) (pc := 79) 0 dX11_sheet_79 rfl ?_
        refine x_fgrE (μ := mu_tw_sheet) (pc := 80) fX11_9 (Or.inr ⟨_, rfl⟩) q2645 (hM3.a9).1 dX11_sheet_80 hM3.1 ?_
        refine x_iload_n (μ := mu_tw_sheet) (pc := 83) 1 dX11_sheet_83 rfl ?_
        refine x_iald (μ := mu_tw_sheet) (pc := 84) dX11_sheet_84 (hM3.a9).2.1 (hM3.a9).2.2 (fun hr15 => ?_)
        exact x_iret (μ := mu_tw_sheet) (pc := 85) dX11_sheet_85 rfl rfl (gRel_Tw.1 _) (show g32 (mI s1 (h + 6) v1.toNat) from hr15)
      · refine x_aload_n (μ := mu_tw_sheet) (pc := 72) 0 dX11_sheet_72 rfl ?_
        refine x_callV_pi (μ := mu_tw_sheet) (pc := 73) (ok_tw_head (ω := ω) (l := l) (d := d - 1) (by omega) hM3 ) gRel_Tw gRel_Tw (fun _ q => q) q3596 q3598 qs195 q232 q3599 dX11_sheet_73 rfl hM3.1 hy_tw_head (by omega) (Nat.le_of_ble_eq_true rfl) rfl (Nat.le_of_ble_eq_true rfl) (fun x16 hr17 => ?_)
        refine x_goto (μ := mu_tw_sheet) (pc := 76) (tgt := 85) dX11_sheet_76 rfl ?_
        exact x_iret (μ := mu_tw_sheet) (pc := 85) dX11_sheet_85 rfl rfl (gRel_Tw.1 _) (show g32 x16 from hr17)
    refine x_tab (μ := mu_tw_sheet) (pc := 16) (tgt := 86) 3 dX11_sheet_16 (by decide) (by decide) (by decide) rfl rfl ?_ (fun hn18 => ?_)
    · refine x_iload_n (μ := mu_tw_sheet) (pc := 86) 1 dX11_sheet_86 rfl ?_
      refine x_if_ge (μ := mu_tw_sheet) (pc := 87) (tgt := 97) dX11_sheet_87 rfl hv1 ?_ ?_
      · refine x_aload_n (μ := mu_tw_sheet) (pc := 97) 0 dX11_sheet_97 rfl ?_
        refine x_fgrE (μ := mu_tw_sheet) (pc := 98) fX11_10 (Or.inr ⟨_, rfl⟩) q2646 (hM3.a10).1 dX11_sheet_98 hM3.1 ?_
        refine x_iload_n (μ := mu_tw_sheet) (pc := 101) 1 dX11_sheet_101 rfl ?_
        refine x_iald (μ := mu_tw_sheet) (pc := 102) dX11_sheet_102 (hM3.a10).2.1 (hM3.a10).2.2 (fun hr19 => ?_)
        exact x_iret (μ := mu_tw_sheet) (pc := 103) dX11_sheet_103 rfl rfl (gRel_Tw.1 _) (show g32 (mI s1 (h + 7) v1.toNat) from hr19)
      · refine x_aload_n (μ := mu_tw_sheet) (pc := 90) 0 dX11_sheet_90 rfl ?_
        refine x_fgi (μ := mu_tw_sheet) (pc := 91) fX11_13 q2649 dX11_sheet_91 hM3.1 (fun hr20 => ?_)
        refine x_goto (μ := mu_tw_sheet) (pc := 94) (tgt := 103) dX11_sheet_94 rfl ?_
        exact x_iret (μ := mu_tw_sheet) (pc := 103) dX11_sheet_103 rfl rfl (gRel_Tw.1 _) (show g32 (mI s1 h 13) from hr20)
    refine x_tabOut (μ := mu_tw_sheet) (pc := 16) (tgt := 104) dX11_sheet_16 hv2 (by omega) rfl ?_
    refine x_iconst (μ := mu_tw_sheet) (pc := 104) dX11_sheet_104 ?_
    exact x_iret (μ := mu_tw_sheet) (pc := 105) dX11_sheet_105 rfl rfl (gRel_Tw.1 _) (show g32 (-1) from (by decide))
  · refine x_iconst (μ := mu_tw_sheet) (pc := 13) dX11_sheet_13 ?_
    exact x_iret (μ := mu_tw_sheet) (pc := 14) dX11_sheet_14 rfl rfl (gRel_Tw.1 _) (show g32 (-1) from (by decide))
def x13_leads (v0 : Nat) (v1 : Nat) (v2 : Nat) (σ : gMem) : Option gMem := some σ
set_option maxRecDepth 100000 in
theorem ok_x13_leads {ω : gW} {l : Launch} {d : Nat} {σ : gMem} {v0 : Nat} {v1 : Nat} {v2 : Nat} (hl : l.stackTraces = false) (hdp : 0 ≤ d) : gK (fun p : gMem => (.inl none, p)) gE ω l d mu_x13_leads [vR v0, vR v1, vR v2] σ (x13_leads v0 v1 v2 σ) := by
  refine gK.of hp_X13 (Nat.le_of_ble_eq_true rfl) ?_
  unfold x13_leads
  exact x_vret (μ := mu_x13_leads) (pc := 0) (a1 := σ) dX13_leads_0 rfl rfl (gRel_E.1 _) trivial
def x13_rank (v0 : Nat) (σ : gMem) : Option Int := some 6
set_option maxRecDepth 100000 in
theorem ok_x13_rank {ω : gW} {l : Launch} {d : Nat} {σ : gMem} {v0 : Nat} (hl : l.stackTraces = false) (hdp : 0 ≤ d) : gK (fun x : Int => (.inl (some (vI x)), σ)) gE ω l d mu_x13_rank [vR v0] σ (x13_rank v0 σ) := by
  refine gK.of hp_X13 (Nat.le_of_ble_eq_true rfl) ?_
  unfold x13_rank
  refine x_bipush (μ := mu_x13_rank) (pc := 0) dX13_rank_0 (by decide) ?_
  exact x_iret (μ := mu_x13_rank) (pc := 2) dX13_rank_2 rfl rfl (gRel_E.1 _) (show g32 6 from (by decide))
def x13_same (v0 : Nat) (v1 : Nat) (σ : gMem) : Option Int := if v1 = 0 ∨ gNode (mT σ v1) = true then if mT σ v1 = 11 then if v1 = 0 ∨ mT σ v1 = 11 then if mT σ v1 = 11 then if mT σ v0 = 11 then if gcmp (mL σ v1 0) (mL σ v0 0) ≠ 0 then some 0 else some 1 else none else none else none else some 0 else none
set_option maxRecDepth 100000 in
theorem ok_x13_same {ω : gW} {l : Launch} {d : Nat} {σ : gMem} {v0 : Nat} {v1 : Nat} (hl : l.stackTraces = false) (hdp : 0 ≤ d) : gK (fun x : Int => (.inl (some (vI x)), σ)) gE ω l d mu_x13_same [vR v0, vR v1] σ (x13_same v0 v1 σ) := by
  refine gK.of hp_X13 (Nat.le_of_ble_eq_true rfl) ?_
  unfold x13_same
  refine x_aload_n (μ := mu_x13_same) (pc := 0) 1 dX13_same_0 rfl ?_
  refine x_if (fun hg1 => ?_)
  refine x_inst (μ := mu_x13_same) (pc := 1) (ci := 10) (by decide) rfl q1646 dX13_same_1 hg1 ?_ ?_
  · refine x_if_eqF (μ := mu_x13_same) (pc := 4) (tgt := 26) dX13_same_4 rfl (by decide) (by decide) ?_
    refine x_aload_n (μ := mu_x13_same) (pc := 7) 1 dX13_same_7 rfl ?_
    refine x_if (fun hg2 => ?_)
    refine x_castC (μ := mu_x13_same) (pc := 8) (ci := 10) rfl q1646 dX13_same_8 hg2 ?_
    refine x_if (fun hT3 => ?_)
    refine x_fgl (μ := mu_x13_same) (pc := 11) fX13_0 q1873 dX13_same_11 hT3 (fun hr4 => ?_)
    refine x_aload_n (μ := mu_x13_same) (pc := 14) 0 dX13_same_14 rfl ?_
    refine x_if (fun hT5 => ?_)
    refine x_fgl (μ := mu_x13_same) (pc := 15) fX13_0 q1873 dX13_same_15 hT5 (fun hr6 => ?_)
    refine x_lcmp (μ := mu_x13_same) (pc := 18) dX13_same_18 hr4 hr6 ?_
    refine x_if_ne (μ := mu_x13_same) (pc := 19) (tgt := 26) dX13_same_19 rfl (gcmp_rng _ _) ?_ ?_
    · refine x_iconst (μ := mu_x13_same) (pc := 26) dX13_same_26 ?_
      exact x_zret (μ := mu_x13_same) (pc := 27) dX13_same_27 rfl (by decide) rfl (gRel_E.1 _) (show g32 0 from (by decide))
    · refine x_iconst (μ := mu_x13_same) (pc := 22) dX13_same_22 ?_
      refine x_goto (μ := mu_x13_same) (pc := 23) (tgt := 27) dX13_same_23 rfl ?_
      exact x_zret (μ := mu_x13_same) (pc := 27) dX13_same_27 rfl (by decide) rfl (gRel_E.1 _) (show g32 1 from (by decide))
  · refine x_if_eqT (μ := mu_x13_same) (pc := 4) (tgt := 26) dX13_same_4 rfl (by decide) (by decide) ?_
    refine x_iconst (μ := mu_x13_same) (pc := 26) dX13_same_26 ?_
    exact x_zret (μ := mu_x13_same) (pc := 27) dX13_same_27 rfl (by decide) rfl (gRel_E.1 _) (show g32 0 from (by decide))
def x13_isAlike (v0 : Nat) (v1 : Nat) (σ : gMem) : Option Int := if v1 = 0 ∨ gNode (mT σ v1) = true then if mT σ v1 = 11 then if v1 = 0 ∨ mT σ v1 = 11 then if mT σ v1 = 11 then if mT σ v0 = 11 then if gcmp (mL σ v1 0) (mL σ v0 0) ≠ 0 then some 0 else some 1 else none else none else none else some 0 else none
set_option maxRecDepth 100000 in
theorem ok_x13_isAlike {ω : gW} {l : Launch} {d : Nat} {σ : gMem} {v0 : Nat} {v1 : Nat} (hl : l.stackTraces = false) (hdp : 0 ≤ d) : gK (fun x : Int => (.inl (some (vI x)), σ)) gE ω l d mu_x13_isAlike [vR v0, vR v1] σ (x13_isAlike v0 v1 σ) := by
  refine gK.of hp_X13 (Nat.le_of_ble_eq_true rfl) ?_
  unfold x13_isAlike
  refine x_aload_n (μ := mu_x13_isAlike) (pc := 0) 1 dX13_isAlike_0 rfl ?_
  refine x_if (fun hg1 => ?_)
  refine x_inst (μ := mu_x13_isAlike) (pc := 1) (ci := 10) (by decide) rfl q1646 dX13_isAlike_1 hg1 ?_ ?_
  · refine x_if_eqF (μ := mu_x13_isAlike) (pc := 4) (tgt := 26) dX13_isAlike_4 rfl (by decide) (by decide) ?_
    refine x_aload_n (μ := mu_x13_isAlike) (pc := 7) 1 dX13_isAlike_7 rfl ?_
    refine x_if (fun hg2 => ?_)
    refine x_castC (μ := mu_x13_isAlike) (pc := 8) (ci := 10) rfl q1646 dX13_isAlike_8 hg2 ?_
    refine x_if (fun hT3 => ?_)
    refine x_fgl (μ := mu_x13_isAlike) (pc := 11) fX13_0 q1873 dX13_isAlike_11 hT3 (fun hr4 => ?_)
    refine x_aload_n (μ := mu_x13_isAlike) (pc := 14) 0 dX13_isAlike_14 rfl ?_
    refine x_if (fun hT5 => ?_)
    refine x_fgl (μ := mu_x13_isAlike) (pc := 15) fX13_0 q1873 dX13_isAlike_15 hT5 (fun hr6 => ?_)
    refine x_lcmp (μ := mu_x13_isAlike) (pc := 18) dX13_isAlike_18 hr4 hr6 ?_
    refine x_if_ne (μ := mu_x13_isAlike) (pc := 19) (tgt := 26) dX13_isAlike_19 rfl (gcmp_rng _ _) ?_ ?_
    · refine x_iconst (μ := mu_x13_isAlike) (pc := 26) dX13_isAlike_26 ?_
      exact x_zret (μ := mu_x13_isAlike) (pc := 27) dX13_isAlike_27 rfl (by decide) rfl (gRel_E.1 _) (show g32 0 from (by decide))
    · refine x_iconst (μ := mu_x13_isAlike) (pc := 22) dX13_isAlike_22 ?_
      refine x_goto (μ := mu_x13_isAlike) (pc := 23) (tgt := 27) dX13_isAlike_23 rfl ?_
      exact x_zret (μ := mu_x13_isAlike) (pc := 27) dX13_isAlike_27 rfl (by decide) rfl (gRel_E.1 _) (show g32 1 from (by decide))
  · refine x_if_eqT (μ := mu_x13_isAlike) (pc := 4) (tgt := 26) dX13_isAlike_4 rfl (by decide) (by decide) ?_
    refine x_iconst (μ := mu_x13_isAlike) (pc := 26) dX13_isAlike_26 ?_
    exact x_zret (μ := mu_x13_isAlike) (pc := 27) dX13_isAlike_27 rfl (by decide) rfl (gRel_E.1 _) (show g32 0 from (by decide))
def x13_init (v0 : Nat) (v1 : Int) (σ : gMem) : Option gMem := if mT σ v0 = 11 then gLet (wL σ v0 0 v1) (fun s2 => some s2) else none
set_option maxRecDepth 100000 in
theorem ok_x13_init {ω : gW} {l : Launch} {d : Nat} {σ : gMem} {v0 : Nat} {v1 : Int} (hl : l.stackTraces = false) (hdp : 2 ≤ d) (hv1 : g64 v1) : gK (fun p : gMem => (.inl none, p)) gE ω l d mu_x13_init [vR v0, vL v1] σ (x13_init v0 v1 σ) := by
  refine gK.of hp_X13 (Nat.le_of_ble_eq_true rfl) ?_
  unfold x13_init
  refine x_aload_n (μ := mu_x13_init) (pc := 0) 0 dX13_init_0 rfl ?_
  refine x_if (fun hT1 => ?_)
  refine x_recI (μ := mu_x13_init) (pc := 1) (ci := 10) rfl q1869 dX13_init_1 hT1 (by omega) (Nat.le_of_ble_eq_true rfl) ?_
  refine x_aload_n (μ := mu_x13_init) (pc := 4) 0 dX13_init_4 rfl ?_
  refine x_lload_n (μ := mu_x13_init) (pc := 5) 1 dX13_init_5 rfl ?_
  refine x_fplF (μ := mu_x13_init) (pc := 6) fX13_0 q1873 rfl rfl dX13_init_6 hT1 (fun _ q => gE_wL q) ?_
  refine x_let (fun s2 e3 => ?_)
  exact x_vret (μ := mu_x13_init) (pc := 9) (a1 := s2) dX13_init_9 rfl rfl (gRel_E.1 _) trivial
def x13_parts (v0 : Nat) (σ : gMem) : Option Int := some 0
set_option maxRecDepth 100000 in
theorem ok_x13_parts {ω : gW} {l : Launch} {d : Nat} {σ : gMem} {v0 : Nat} (hl : l.stackTraces = false) (hdp : 0 ≤ d) : gK (fun x : Int => (.inl (some (vI x)), σ)) gE ω l d mu_x13_parts [vR v0] σ (x13_parts v0 σ) := by
  refine gK.of hp_X13 (Nat.le_of_ble_eq_true rfl) ?_
  unfold x13_parts
  refine x_iconst (μ := mu_x13_parts) (pc := 0) dX13_parts_0 ?_
  exact x_iret (μ := mu_x13_parts) (pc := 1) dX13_parts_1 rfl rfl (gRel_E.1 _) (show g32 0 from (by decide))
def x13_shifted (v0 : Nat) (v1 : Nat) (σ : gMem) : Option (Nat × gMem) := some (v0, σ)
set_option maxRecDepth 100000 in
theorem ok_x13_shifted {ω : gW} {l : Launch} {d : Nat} {σ : gMem} {v0 : Nat} {v1 : Nat} (hl : l.stackTraces = false) (hdp : 0 ≤ d) : gK (fun p : Nat × gMem => (.inl (some (vR p.1)), p.2)) gE ω l d mu_x13_shifted [vR v0, vR v1] σ (x13_shifted v0 v1 σ) := by
  refine gK.of hp_X13 (Nat.le_of_ble_eq_true rfl) ?_
  unfold x13_shifted
  refine x_aload_n (μ := mu_x13_shifted) (pc := 0) 0 dX13_shifted_0 rfl ?_
  exact x_aret (μ := mu_x13_shifted) (pc := 1) dX13_shifted_1 rfl (by first | exact Or.inl ⟨_, rfl⟩ | exact Or.inr ⟨_, rfl⟩) rfl (gRel_E.1 _) trivial
def x14_leads (v0 : Nat) (v1 : Nat) (v2 : Nat) (σ : gMem) : Option gMem := some σ
set_option maxRecDepth 100000 in
theorem ok_x14_leads {ω : gW} {l : Launch} {d : Nat} {σ : gMem} {v0 : Nat} {v1 : Nat} {v2 : Nat} (hl : l.stackTraces = false) (hdp : 0 ≤ d) : gK (fun p : gMem => (.inl none, p)) gE ω l d mu_x14_leads [vR v0, vR v1, vR v2] σ (x14_leads v0 v1 v2 σ) := by
  refine gK.of hp_X14 (Nat.le_of_ble_eq_true rfl) ?_
  unfold x14_leads
  exact x_vret (μ := mu_x14_leads) (pc := 0) (a1 := σ) dX14_leads_0 rfl rfl (gRel_E.1 _) trivial
def x14_rank (v0 : Nat) (σ : gMem) : Option Int := some 6
set_option maxRecDepth 100000 in
theorem ok_x14_rank {ω : gW} {l : Launch} {d : Nat} {σ : gMem} {v0 : Nat} (hl : l.stackTraces = false) (hdp : 0 ≤ d) : gK (fun x : Int => (.inl (some (vI x)), σ)) gE ω l d mu_x14_rank [vR v0] σ (x14_rank v0 σ) := by
  refine gK.of hp_X14 (Nat.le_of_ble_eq_true rfl) ?_
  unfold x14_rank
  refine x_bipush (μ := mu_x14_rank) (pc := 0) dX14_rank_0 (by decide) ?_
  exact x_iret (μ := mu_x14_rank) (pc := 2) dX14_rank_2 rfl rfl (gRel_E.1 _) (show g32 6 from (by decide))
def x14_has_l18_j45 (N : Nat) (σ : gMem) (v0 : Nat) (v1 : Nat) (v3 : Int) (t0 : Int) (Kh : Int → Int → Option Int) (K : Int → Option Int) : Option Int := Kh t0 (w32 (v3 + 1))
set_option maxRecDepth 100000 in
theorem okj_x14_has_l18_j45 {ω : gW} {l : Launch} {d : Nat} {N : Nat} {σ : gMem} {v0 : Nat} {v1 : Nat} {v3 : Int} {t0 : Int} {Kh : Int → Int → Option Int} {K : Int → Option Int} (hl : l.stackTraces = false) (hdp : 0 ≤ d) (hv3 : g32 v3) (ht0 : g32 t0) (hKh : ∀ (v2 : Int) (v3 : Int) , g32 v2 → g32 v3 → GG (fun x : Int => (.inl (some (vI x)), σ)) gE ω l d mu_x14_has σ 18 [(0, vR v0), (1, vR v1), (2, vI v2), (3, vI v3)] [] σ (Kh v2 v3)) (hK : ∀ (v2 : Int) , g32 v2 → GG (fun x : Int => (.inl (some (vI x)), σ)) gE ω l d mu_x14_has σ 52 [(2, vI v2)] [] σ (K v2)) : GG (fun x : Int => (.inl (some (vI x)), σ)) gE ω l d mu_x14_has σ 45 [(0, vR v0), (1, vR v1), (3, vI v3)] [vI t0] σ (x14_has_l18_j45 N σ v0 v1 v3 t0 Kh K ) := by
  unfold x14_has_l18_j45
  refine x_istore_n (μ := mu_x14_has) (pc := 45) (lv' := [(2, vI t0), (0, vR v0), (1, vR v1), (3, vI v3)]) dX14_has_45 rfl (by decide) rfl ?_
  refine x_iincw (μ := mu_x14_has) (pc := 46) (lv' := [(3, vI (w32 (v3 + 1))), (2, vI t0), (0, vR v0), (1, vR v1)]) 3 dX14_has_46 rfl (by decide) rfl ?_
  refine x_goto (μ := mu_x14_has) (pc := 49) (tgt := 18) dX14_has_49 rfl ?_
  refine x_loc (lv' := [(0, vR v0), (1, vR v1), (2, vI t0), (3, vI (w32 (v3 + 1)))]) [2, 3, 1, 0] rfl ?_
  exact hKh t0 (w32 (v3 + 1)) ht0 (w32_rng _)
def x14_has_l18 (N : Nat) (σ : gMem) (v0 : Nat) (v1 : Nat) (K : Int → Option Int) : Nat → Int → Int → Option Int
  | 0, _, _ => none
  | n + 1, v2, v3 => if v2 = 0 then K v2 else if mT σ v1 = 102 then if w32 (mN σ v1 : Int) ≤ v3 then K v2 else if 0 ≤ v3 ∧ v3 < (mN σ v1 : Int) then if mT σ v0 = 12 then if mT σ (mR σ v0 0) = 102 then if 0 ≤ v3 ∧ v3 < (mN σ (mR σ v0 0) : Int) then if mI σ v1 v3.toNat ≠ mI σ (mR σ v0 0) v3.toNat then x14_has_l18_j45 N σ v0 v1 v3 0 (x14_has_l18 N σ v0 v1 K n) K else x14_has_l18_j45 N σ v0 v1 v3 1 (x14_has_l18 N σ v0 v1 K n) K else none else none else none else none else none
set_option maxRecDepth 100000 in
theorem okl_x14_has_l18 {ω : gW} {l : Launch} {d : Nat} {N : Nat} {σ : gMem} {v0 : Nat} {v1 : Nat} {K : Int → Option Int} (hl : l.stackTraces = false) (hdp : 0 ≤ d) (hK : ∀ (v2 : Int) , g32 v2 → GG (fun x : Int => (.inl (some (vI x)), σ)) gE ω l d mu_x14_has σ 52 [(2, vI v2)] [] σ (K v2)) : ∀ (n : Nat) (v2 : Int) (v3 : Int) , g32 v2 → g32 v3 → GG (fun x : Int => (.inl (some (vI x)), σ)) gE ω l d mu_x14_has σ 18 [(0, vR v0), (1, vR v1), (2, vI v2), (3, vI v3)] [] σ (x14_has_l18 N σ v0 v1 K n v2 v3) := by
  intro n
  induction n with
  | zero => intros; exact x_none
  | succ n ih =>
    intro v2 v3 hv2 hv3
    unfold x14_has_l18
    refine x_iload_n (μ := mu_x14_has) (pc := 18) 2 dX14_has_18 rfl ?_
    refine x_if_eq (μ := mu_x14_has) (pc := 19) (tgt := 52) dX14_has_19 rfl hv2 ?_ ?_
    · refine x_loc (lv' := [(2, vI v2)]) [2] rfl ?_
      exact hK v2 hv2
    · refine x_iload_n (μ := mu_x14_has) (pc := 22) 3 dX14_has_22 rfl ?_
      refine x_aload_n (μ := mu_x14_has) (pc := 23) 1 dX14_has_23 rfl ?_
      refine x_if (fun hT4 => ?_)
      refine x_len (μ := mu_x14_has) (pc := 24) 2 (fun _ => rfl) dX14_has_24 hT4 ?_
      refine x_w1 ?_
      refine x_icmp_ge (μ := mu_x14_has) (pc := 25) (tgt := 52) dX14_has_25 rfl hv3 (w32_rng _) ?_ ?_
      · refine x_loc (lv' := [(2, vI v2)]) [2] rfl ?_
        exact hK v2 hv2
      · refine x_aload_n (μ := mu_x14_has) (pc := 28) 1 dX14_has_28 rfl ?_
        refine x_iload_n (μ := mu_x14_has) (pc := 29) 3 dX14_has_29 rfl ?_
        refine x_bald (μ := mu_x14_has) (pc := 30) dX14_has_30 hT4 rfl (fun hr5 => ?_)
        refine x_aload_n (μ := mu_x14_has) (pc := 31) 0 dX14_has_31 rfl ?_
        refine x_if (fun hT6 => ?_)
        refine x_fgr (μ := mu_x14_has) (pc := 32) fX14_0 (by first | exact Or.inl ⟨_, rfl⟩ | exact Or.inr ⟨_, rfl⟩) q1894 dX14_has_32 hT6 ?_
        refine x_iload_n (μ := mu_x14_has) (pc := 35) 3 dX14_has_35 rfl ?_
        refine x_if (fun hT7 => ?_)
        refine x_bald (μ := mu_x14_has) (pc := 36) dX14_has_36 hT7 rfl (fun hr8 => ?_)
        refine x_icmp_ne (μ := mu_x14_has) (pc := 37) (tgt := 44) dX14_has_37 rfl hr5 hr8 ?_ ?_
        · refine x_iconst (μ := mu_x14_has) (pc := 44) dX14_has_44 ?_
          refine x_loc (lv' := [(0, vR v0), (1, vR v1), (3, vI v3)]) [0, 1, 3] rfl ?_
          exact okj_x14_has_l18_j45 hl hdp hv3 (by decide) ih hK
        · refine x_iconst (μ := mu_x14_has) (pc := 40) dX14_has_40 ?_
          refine x_goto (μ := mu_x14_has) (pc := 41) (tgt := 45) dX14_has_41 rfl ?_
          refine x_loc (lv' := [(0, vR v0), (1, vR v1), (3, vI v3)]) [0, 1, 3] rfl ?_
          exact okj_x14_has_l18_j45 hl hdp hv3 (by decide) ih hK
def x14_has_j15 (N : Nat) (σ : gMem) (v0 : Nat) (v1 : Nat) (t0 : Int) : Option Int := x14_has_l18 N σ v0 v1 (fun y9 => if y9 = 0 ∨ y9 = 1 then some y9 else none) N t0 0
set_option maxRecDepth 100000 in
theorem okj_x14_has_j15 {ω : gW} {l : Launch} {d : Nat} {N : Nat} {σ : gMem} {v0 : Nat} {v1 : Nat} {t0 : Int} (hl : l.stackTraces = false) (hdp : 0 ≤ d) (ht0 : g32 t0) : GG (fun x : Int => (.inl (some (vI x)), σ)) gE ω l d mu_x14_has σ 15 [(0, vR v0), (1, vR v1)] [vI t0] σ (x14_has_j15 N σ v0 v1 t0 ) := by
  unfold x14_has_j15
  refine x_istore_n (μ := mu_x14_has) (pc := 15) (lv' := [(2, vI t0), (0, vR v0), (1, vR v1)]) dX14_has_15 rfl (by decide) rfl ?_
  refine x_iconst (μ := mu_x14_has) (pc := 16) dX14_has_16 ?_
  refine x_istore_n (μ := mu_x14_has) (pc := 17) (lv' := [(3, vI 0), (2, vI t0), (0, vR v0), (1, vR v1)]) dX14_has_17 rfl (by decide) rfl ?_
  refine x_loc (lv' := [(0, vR v0), (1, vR v1), (2, vI t0), (3, vI 0)]) [2, 3, 1, 0] rfl ?_
  refine okl_x14_has_l18 hl hdp (fun y9 hy9 => ?_) N t0 0 ht0 (by decide)
  refine x_iload_n (μ := mu_x14_has) (pc := 52) 0 dX14_has_52 rfl ?_
  exact x_if (μ := mu_x14_has) (pc := 53) (fun hz => x_zret dX14_has_53 rfl hz rfl (gRel_E.1 _) (show g32 y9 from hy9))
def x14_has (N : Nat) (v0 : Nat) (v1 : Nat) (σ : gMem) : Option Int := if mT σ v1 = 102 then if mT σ v0 = 12 then if mT σ (mR σ v0 0) = 102 then if w32 (mN σ v1 : Int) ≠ w32 (mN σ (mR σ v0 0) : Int) then x14_has_j15 N σ v0 v1 0 else x14_has_j15 N σ v0 v1 1 else none else none else none
set_option maxRecDepth 100000 in
theorem ok_x14_has {ω : gW} {l : Launch} {d : Nat} {N : Nat} {σ : gMem} {v0 : Nat} {v1 : Nat} (hl : l.stackTraces = false) (hdp : 0 ≤ d) : gK (fun x : Int => (.inl (some (vI x)), σ)) gE ω l d mu_x14_has [vR v0, vR v1] σ (x14_has N v0 v1 σ) := by
  refine gK.of hp_X14 (Nat.le_of_ble_eq_true rfl) ?_
  unfold x14_has
  refine x_aload_n (μ := mu_x14_has) (pc := 0) 1 dX14_has_0 rfl ?_
  refine x_if (fun hT1 => ?_)
  refine x_len (μ := mu_x14_has) (pc := 1) 2 (fun _ => rfl) dX14_has_1 hT1 ?_
  refine x_aload_n (μ := mu_x14_has) (pc := 2) 0 dX14_has_2 rfl ?_
  refine x_if (fun hT2 => ?_)
  refine x_fgr (μ := mu_x14_has) (pc := 3) fX14_0 (by first | exact Or.inl ⟨_, rfl⟩ | exact Or.inr ⟨_, rfl⟩) q1894 dX14_has_3 hT2 ?_
  refine x_if (fun hT3 => ?_)
  refine x_len (μ := mu_x14_has) (pc := 6) 2 (fun _ => rfl) dX14_has_6 hT3 ?_
  refine x_w1 ?_
  refine x_w2 ?_
  refine x_icmp_ne (μ := mu_x14_has) (pc := 7) (tgt := 14) dX14_has_7 rfl (w32_rng _) (w32_rng _) ?_ ?_
  · refine x_iconst (μ := mu_x14_has) (pc := 14) dX14_has_14 ?_
    exact okj_x14_has_j15 hl hdp (by decide)
  · refine x_iconst (μ := mu_x14_has) (pc := 10) dX14_has_10 ?_
    refine x_goto (μ := mu_x14_has) (pc := 11) (tgt := 15) dX14_has_11 rfl ?_
    exact okj_x14_has_j15 hl hdp (by decide)
def x14_isAlike (N : Nat) (v0 : Nat) (v1 : Nat) (σ : gMem) : Option Int := if v1 = 0 ∨ gNode (mT σ v1) = true then if mT σ v1 = 12 then if v1 = 0 ∨ mT σ v1 = 12 then if mT σ v1 = 12 then if mT σ v0 = 12 then (x14_has N v0 (mR σ v1 0) σ).bind (fun x5 => if x5 = 0 then some 0 else some 1) else none else none else none else some 0 else none
set_option maxRecDepth 100000 in
theorem ok_x14_isAlike {ω : gW} {l : Launch} {d : Nat} {N : Nat} {σ : gMem} {v0 : Nat} {v1 : Nat} (hl : l.stackTraces = false) (hdp : 1 ≤ d) : gK (fun x : Int => (.inl (some (vI x)), σ)) gE ω l d mu_x14_isAlike [vR v0, vR v1] σ (x14_isAlike N v0 v1 σ) := by
  refine gK.of hp_X14 (Nat.le_of_ble_eq_true rfl) ?_
  unfold x14_isAlike
  refine x_aload_n (μ := mu_x14_isAlike) (pc := 0) 1 dX14_isAlike_0 rfl ?_
  refine x_if (fun hg1 => ?_)
  refine x_inst (μ := mu_x14_isAlike) (pc := 1) (ci := 11) (by decide) rfl q1652 dX14_isAlike_1 hg1 ?_ ?_
  · refine x_if_eqF (μ := mu_x14_isAlike) (pc := 4) (tgt := 25) dX14_isAlike_4 rfl (by decide) (by decide) ?_
    refine x_aload_n (μ := mu_x14_isAlike) (pc := 7) 0 dX14_isAlike_7 rfl ?_
    refine x_aload_n (μ := mu_x14_isAlike) (pc := 8) 1 dX14_isAlike_8 rfl ?_
    refine x_if (fun hg2 => ?_)
    refine x_castC (μ := mu_x14_isAlike) (pc := 9) (ci := 11) rfl q1652 dX14_isAlike_9 hg2 ?_
    refine x_if (fun hT3 => ?_)
    refine x_fgr (μ := mu_x14_isAlike) (pc := 12) fX14_0 (by first | exact Or.inl ⟨_, rfl⟩ | exact Or.inr ⟨_, rfl⟩) q1894 dX14_isAlike_12 hT3 ?_
    refine x_if (fun hT4 => ?_)
    refine x_callV_pi (μ := mu_x14_isAlike) (pc := 15) (ok_x14_has (ω := ω) (l := l) (d := d - 1) hl (by omega) ) gRel_E gRel_E (fun _ q => q) q1653 q1655 qs26 q242 q1657 dX14_isAlike_15 rfl hT4 hy_x14_has (by omega) (Nat.le_of_ble_eq_true rfl) rfl (Nat.le_of_ble_eq_true rfl) (fun x5 hr6 => ?_)
    refine x_if_eq (μ := mu_x14_isAlike) (pc := 18) (tgt := 25) dX14_isAlike_18 rfl hr6 ?_ ?_
    · refine x_iconst (μ := mu_x14_isAlike) (pc := 25) dX14_isAlike_25 ?_
      exact x_zret (μ := mu_x14_isAlike) (pc := 26) dX14_isAlike_26 rfl (by decide) rfl (gRel_E.1 _) (show g32 0 from (by decide))
    · refine x_iconst (μ := mu_x14_isAlike) (pc := 21) dX14_isAlike_21 ?_
      refine x_goto (μ := mu_x14_isAlike) (pc := 22) (tgt := 26) dX14_isAlike_22 rfl ?_
      exact x_zret (μ := mu_x14_isAlike) (pc := 26) dX14_isAlike_26 rfl (by decide) rfl (gRel_E.1 _) (show g32 1 from (by decide))
  · refine x_if_eqT (μ := mu_x14_isAlike) (pc := 4) (tgt := 25) dX14_isAlike_4 rfl (by decide) (by decide) ?_
    refine x_iconst (μ := mu_x14_isAlike) (pc := 25) dX14_isAlike_25 ?_
    exact x_zret (μ := mu_x14_isAlike) (pc := 26) dX14_isAlike_26 rfl (by decide) rfl (gRel_E.1 _) (show g32 0 from (by decide))
def x14_init (v0 : Nat) (v1 : Nat) (σ : gMem) : Option gMem := if mT σ v0 = 12 then gLet (wR σ v0 0 v1) (fun s2 => some s2) else none
set_option maxRecDepth 100000 in
theorem ok_x14_init {ω : gW} {l : Launch} {d : Nat} {σ : gMem} {v0 : Nat} {v1 : Nat} (hl : l.stackTraces = false) (hdp : 2 ≤ d) : gK (fun p : gMem => (.inl none, p)) gE ω l d mu_x14_init [vR v0, vR v1] σ (x14_init v0 v1 σ) := by
  refine gK.of hp_X14 (Nat.le_of_ble_eq_true rfl) ?_
  unfold x14_init
  refine x_aload_n (μ := mu_x14_init) (pc := 0) 0 dX14_init_0 rfl ?_
  refine x_if (fun hT1 => ?_)
  refine x_recI (μ := mu_x14_init) (pc := 1) (ci := 11) rfl q1893 dX14_init_1 hT1 (by omega) (Nat.le_of_ble_eq_true rfl) ?_
  refine x_aload_n (μ := mu_x14_init) (pc := 4) 0 dX14_init_4 rfl ?_
  refine x_aload_n (μ := mu_x14_init) (pc := 5) 1 dX14_init_5 rfl ?_
  refine x_fprF (μ := mu_x14_init) (pc := 6) fX14_0 q1894 rfl rfl (by first | exact Or.inl ⟨_, rfl⟩ | exact Or.inr ⟨_, rfl⟩) dX14_init_6 hT1 (fun _ q => gE_wR q) ?_
  refine x_let (fun s2 e3 => ?_)
  exact x_vret (μ := mu_x14_init) (pc := 9) (a1 := s2) dX14_init_9 rfl rfl (gRel_E.1 _) trivial
def x14_parts (v0 : Nat) (σ : gMem) : Option Int := some 0
set_option maxRecDepth 100000 in
theorem ok_x14_parts {ω : gW} {l : Launch} {d : Nat} {σ : gMem} {v0 : Nat} (hl : l.stackTraces = false) (hdp : 0 ≤ d) : gK (fun x : Int => (.inl (some (vI x)), σ)) gE ω l d mu_x14_parts [vR v0] σ (x14_parts v0 σ) := by
  refine gK.of hp_X14 (Nat.le_of_ble_eq_true rfl) ?_
  unfold x14_parts
  refine x_iconst (μ := mu_x14_parts) (pc := 0) dX14_parts_0 ?_
  exact x_iret (μ := mu_x14_parts) (pc := 1) dX14_parts_1 rfl rfl (gRel_E.1 _) (show g32 0 from (by decide))
def x14_shifted (v0 : Nat) (v1 : Nat) (σ : gMem) : Option (Nat × gMem) := some (v0, σ)
set_option maxRecDepth 100000 in
theorem ok_x14_shifted {ω : gW} {l : Launch} {d : Nat} {σ : gMem} {v0 : Nat} {v1 : Nat} (hl : l.stackTraces = false) (hdp : 0 ≤ d) : gK (fun p : Nat × gMem => (.inl (some (vR p.1)), p.2)) gE ω l d mu_x14_shifted [vR v0, vR v1] σ (x14_shifted v0 v1 σ) := by
  refine gK.of hp_X14 (Nat.le_of_ble_eq_true rfl) ?_
  unfold x14_shifted
  refine x_aload_n (μ := mu_x14_shifted) (pc := 0) 0 dX14_shifted_0 rfl ?_
  exact x_aret (μ := mu_x14_shifted) (pc := 1) dX14_shifted_1 rfl (by first | exact Or.inl ⟨_, rfl⟩ | exact Or.inr ⟨_, rfl⟩) rfl (gRel_E.1 _) trivial
def x15_leads (v0 : Nat) (v1 : Nat) (v2 : Nat) (σ : gMem) : Option gMem := some σ
set_option maxRecDepth 100000 in
theorem ok_x15_leads {ω : gW} {l : Launch} {d : Nat} {σ : gMem} {v0 : Nat} {v1 : Nat} {v2 : Nat} (hl : l.stackTraces = false) (hdp : 0 ≤ d) : gK (fun p : gMem => (.inl none, p)) gE ω l d mu_x15_leads [vR v0, vR v1, vR v2] σ (x15_leads v0 v1 v2 σ) := by
  refine gK.of hp_X15 (Nat.le_of_ble_eq_true rfl) ?_
  unfold x15_leads
  exact x_vret (μ := mu_x15_leads) (pc := 0) (a1 := σ) dX15_leads_0 rfl rfl (gRel_E.1 _) trivial
def x15_rank (v0 : Nat) (σ : gMem) : Option Int := some 6
set_option maxRecDepth 100000 in
theorem ok_x15_rank {ω : gW} {l : Launch} {d : Nat} {σ : gMem} {v0 : Nat} (hl : l.stackTraces = false) (hdp : 0 ≤ d) : gK (fun x : Int => (.inl (some (vI x)), σ)) gE ω l d mu_x15_rank [vR v0] σ (x15_rank v0 σ) := by
  refine gK.of hp_X15 (Nat.le_of_ble_eq_true rfl) ?_
  unfold x15_rank
  refine x_bipush (μ := mu_x15_rank) (pc := 0) dX15_rank_0 (by decide) ?_
  exact x_iret (μ := mu_x15_rank) (pc := 2) dX15_rank_2 rfl rfl (gRel_E.1 _) (show g32 6 from (by decide))
def x15_same (v0 : Nat) (v1 : Nat) (σ : gMem) : Option Int := if v1 = 0 ∨ gNode (mT σ v1) = true then if mT σ v1 = 13 then some 1 else some 0 else none
set_option maxRecDepth 100000 in
theorem ok_x15_same {ω : gW} {l : Launch} {d : Nat} {σ : gMem} {v0 : Nat} {v1 : Nat} (hl : l.stackTraces = false) (hdp : 0 ≤ d) : gK (fun x : Int => (.inl (some (vI x)), σ)) gE ω l d mu_x15_same [vR v0, vR v1] σ (x15_same v0 v1 σ) := by
  refine gK.of hp_X15 (Nat.le_of_ble_eq_true rfl) ?_
  unfold x15_same
  refine x_aload_n (μ := mu_x15_same) (pc := 0) 1 dX15_same_0 rfl ?_
  refine x_if (fun hg1 => ?_)
  refine x_inst (μ := mu_x15_same) (pc := 1) (ci := 12) (by decide) rfl q1611 dX15_same_1 hg1 ?_ ?_
  · exact x_zret (μ := mu_x15_same) (pc := 4) dX15_same_4 rfl (by decide) rfl (gRel_E.1 _) (show g32 1 from (by decide))
  · exact x_zret (μ := mu_x15_same) (pc := 4) dX15_same_4 rfl (by decide) rfl (gRel_E.1 _) (show g32 0 from (by decide))
def x15_init (v0 : Nat) (σ : gMem) : Option gMem := if mT σ v0 = 13 then some σ else none
set_option maxRecDepth 100000 in
theorem ok_x15_init {ω : gW} {l : Launch} {d : Nat} {σ : gMem} {v0 : Nat} (hl : l.stackTraces = false) (hdp : 2 ≤ d) : gK (fun p : gMem => (.inl none, p)) gE ω l d mu_x15_init [vR v0] σ (x15_init v0 σ) := by
  refine gK.of hp_X15 (Nat.le_of_ble_eq_true rfl) ?_
  unfold x15_init
  refine x_aload_n (μ := mu_x15_init) (pc := 0) 0 dX15_init_0 rfl ?_
  refine x_if (fun hT1 => ?_)
  refine x_recI (μ := mu_x15_init) (pc := 1) (ci := 12) rfl q1908 dX15_init_1 hT1 (by omega) (Nat.le_of_ble_eq_true rfl) ?_
  exact x_vret (μ := mu_x15_init) (pc := 4) (a1 := σ) dX15_init_4 rfl rfl (gRel_E.1 _) trivial
def x15_shifted (v0 : Nat) (v1 : Nat) (σ : gMem) : Option (Nat × gMem) := some (v0, σ)
set_option maxRecDepth 100000 in
theorem ok_x15_shifted {ω : gW} {l : Launch} {d : Nat} {σ : gMem} {v0 : Nat} {v1 : Nat} (hl : l.stackTraces = false) (hdp : 0 ≤ d) : gK (fun p : Nat × gMem => (.inl (some (vR p.1)), p.2)) gE ω l d mu_x15_shifted [vR v0, vR v1] σ (x15_shifted v0 v1 σ) := by
  refine gK.of hp_X15 (Nat.le_of_ble_eq_true rfl) ?_
  unfold x15_shifted
  refine x_aload_n (μ := mu_x15_shifted) (pc := 0) 0 dX15_shifted_0 rfl ?_
  exact x_aret (μ := mu_x15_shifted) (pc := 1) dX15_shifted_1 rfl (by first | exact Or.inl ⟨_, rfl⟩ | exact Or.inr ⟨_, rfl⟩) rfl (gRel_E.1 _) trivial
def x16_same (v0 : Nat) (v1 : Nat) (σ : gMem) : Option Int := if mT σ v0 = 14 then if mT σ v1 = 14 then if mI σ v0 0 ≠ mI σ v1 0 then some 0 else if mI σ v0 1 ≠ mI σ v1 1 then some 0 else if mI σ v0 2 ≠ mI σ v1 2 then some 0 else if mI σ v0 3 ≠ mI σ v1 3 then some 0 else some 1 else none else none
set_option maxRecDepth 100000 in
theorem ok_x16_same {ω : gW} {l : Launch} {d : Nat} {σ : gMem} {v0 : Nat} {v1 : Nat} (hl : l.stackTraces = false) (hdp : 0 ≤ d) : gK (fun x : Int => (.inl (some (vI x)), σ)) gE ω l d mu_x16_same [vR v0, vR v1] σ (x16_same v0 v1 σ) := by
  refine gK.of hp_X16 (Nat.le_of_ble_eq_true rfl) ?_
  unfold x16_same
  refine x_aload_n (μ := mu_x16_same) (pc := 0) 0 dX16_same_0 rfl ?_
  refine x_if (fun hT1 => ?_)
  refine x_fgi (μ := mu_x16_same) (pc := 1) fX16_0 q1940 dX16_same_1 hT1 (fun hr2 => ?_)
  refine x_aload_n (μ := mu_x16_same) (pc := 4) 1 dX16_same_4 rfl ?_
  refine x_if (fun hT3 => ?_)
  refine x_fgi (μ := mu_x16_same) (pc := 5) fX16_0 q1940 dX16_same_5 hT3 (fun hr4 => ?_)
  refine x_icmp_ne (μ := mu_x16_same) (pc := 8) (tgt := 48) dX16_same_8 rfl hr2 hr4 ?_ ?_
  · refine x_iconst (μ := mu_x16_same) (pc := 48) dX16_same_48 ?_
    exact x_zret (μ := mu_x16_same) (pc := 49) dX16_same_49 rfl (by decide) rfl (gRel_E.1 _) (show g32 0 from (by decide))
  · refine x_aload_n (μ := mu_x16_same) (pc := 11) 0 dX16_same_11 rfl ?_
    refine x_fgi (μ := mu_x16_same) (pc := 12) fX16_1 q1945 dX16_same_12 hT1 (fun hr5 => ?_)
    refine x_aload_n (μ := mu_x16_same) (pc := 15) 1 dX16_same_15 rfl ?_
    refine x_fgi (μ := mu_x16_same) (pc := 16) fX16_1 q1945 dX16_same_16 hT3 (fun hr6 => ?_)
    refine x_icmp_ne (μ := mu_x16_same) (pc := 19) (tgt := 48) dX16_same_19 rfl hr5 hr6 ?_ ?_
    · refine x_iconst (μ := mu_x16_same) (pc := 48) dX16_same_48 ?_
      exact x_zret (μ := mu_x16_same) (pc := 49) dX16_same_49 rfl (by decide) rfl (gRel_E.1 _) (show g32 0 from (by decide))
    · refine x_aload_n (μ := mu_x16_same) (pc := 22) 0 dX16_same_22 rfl ?_
      refine x_fgz (μ := mu_x16_same) (pc := 23) fX16_2 q1950 dX16_same_23 hT1 (fun hr7 => ?_)
      refine x_aload_n (μ := mu_x16_same) (pc := 26) 1 dX16_same_26 rfl ?_
      refine x_fgz (μ := mu_x16_same) (pc := 27) fX16_2 q1950 dX16_same_27 hT3 (fun hr8 => ?_)
      refine x_icmp_ne (μ := mu_x16_same) (pc := 30) (tgt := 48) dX16_same_30 rfl hr7 hr8 ?_ ?_
      · refine x_iconst (μ := mu_x16_same) (pc := 48) dX16_same_48 ?_
        exact x_zret (μ := mu_x16_same) (pc := 49) dX16_same_49 rfl (by decide) rfl (gRel_E.1 _) (show g32 0 from (by decide))
      · refine x_aload_n (μ := mu_x16_same) (pc := 33) 0 dX16_same_33 rfl ?_
        refine x_fgz (μ := mu_x16_same) (pc := 34) fX16_3 q1951 dX16_same_34 hT1 (fun hr9 => ?_)
        refine x_aload_n (μ := mu_x16_same) (pc := 37) 1 dX16_same_37 rfl ?_
        refine x_fgz (μ := mu_x16_same) (pc := 38) fX16_3 q1951 dX16_same_38 hT3 (fun hr10 => ?_)
        refine x_icmp_ne (μ := mu_x16_same) (pc := 41) (tgt := 48) dX16_same_41 rfl hr9 hr10 ?_ ?_
        · refine x_iconst (μ := mu_x16_same) (pc := 48) dX16_same_48 ?_
          exact x_zret (μ := mu_x16_same) (pc := 49) dX16_same_49 rfl (by decide) rfl (gRel_E.1 _) (show g32 0 from (by decide))
        · refine x_iconst (μ := mu_x16_same) (pc := 44) dX16_same_44 ?_
          refine x_goto (μ := mu_x16_same) (pc := 45) (tgt := 49) dX16_same_45 rfl ?_
          exact x_zret (μ := mu_x16_same) (pc := 49) dX16_same_49 rfl (by decide) rfl (gRel_E.1 _) (show g32 1 from (by decide))
def x16_init (v0 : Nat) (v1 : Int) (v2 : Int) (v3 : Int) (v4 : Int) (σ : gMem) : Option gMem := if mT σ v0 = 14 then gLet (wI σ v0 0 v1) (fun s2 => gLet (wI s2 v0 1 v2) (fun s4 => if v3 = 0 ∨ v3 = 1 then gLet (wI s4 v0 2 v3) (fun s7 => if v4 = 0 ∨ v4 = 1 then gLet (wI s7 v0 3 v4) (fun s10 => some s10) else none) else none)) else none
set_option maxRecDepth 100000 in
theorem ok_x16_init {ω : gW} {l : Launch} {d : Nat} {σ : gMem} {v0 : Nat} {v1 : Int} {v2 : Int} {v3 : Int} {v4 : Int} (hl : l.stackTraces = false) (hdp : 2 ≤ d) (hv1 : g32 v1) (hv2 : g32 v2) (hv3 : g32 v3) (hv4 : g32 v4) : gK (fun p : gMem => (.inl none, p)) gE ω l d mu_x16_init [vR v0, vI v1, vI v2, vI v3, vI v4] σ (x16_init v0 v1 v2 v3 v4 σ) := by
  refine gK.of hp_X16 (Nat.le_of_ble_eq_true rfl) ?_
  unfold x16_init
  refine x_aload_n (μ := mu_x16_init) (pc := 0) 0 dX16_init_0 rfl ?_
  refine x_if (fun hT1 => ?_)
  refine x_recI (μ := mu_x16_init) (pc := 1) (ci := 13) rfl q1939 dX16_init_1 hT1 (by omega) (Nat.le_of_ble_eq_true rfl) ?_
  refine x_aload_n (μ := mu_x16_init) (pc := 4) 0 dX16_init_4 rfl ?_
  refine x_iload_n (μ := mu_x16_init) (pc := 5) 1 dX16_init_5 rfl ?_
  refine x_fpiF (μ := mu_x16_init) (pc := 6) fX16_0 q1940 rfl rfl dX16_init_6 hT1 (fun _ q => gE_wI q) ?_
  refine x_let (fun s2 e3 => ?_)
  refine x_aload_n (μ := mu_x16_init) (pc := 9) 0 dX16_init_9 rfl ?_
  refine x_iload_n (μ := mu_x16_init) (pc := 10) 2 dX16_init_10 rfl ?_
  refine x_fpiF (μ := mu_x16_init) (pc := 11) fX16_1 q1945 rfl rfl dX16_init_11 (gT_I e3 hT1) (fun _ q => gE_wI q) ?_
  refine x_let (fun s4 e5 => ?_)
  refine x_aload_n (μ := mu_x16_init) (pc := 14) 0 dX16_init_14 rfl ?_
  refine x_iload_n (μ := mu_x16_init) (pc := 15) 3 dX16_init_15 rfl ?_
  refine x_if (fun hz6 => ?_)
  refine x_fpzF (μ := mu_x16_init) (pc := 16) fX16_2 q1950 rfl rfl hz6 dX16_init_16 (gT_I e5 (gT_I e3 hT1)) (fun _ q => gE_wI q) ?_
  refine x_let (fun s7 e8 => ?_)
  refine x_aload_n (μ := mu_x16_init) (pc := 19) 0 dX16_init_19 rfl ?_
  refine x_iload (μ := mu_x16_init) (pc := 20) 4 dX16_init_20 rfl ?_
  refine x_if (fun hz9 => ?_)
  refine x_fpzF (μ := mu_x16_init) (pc := 22) fX16_3 q1951 rfl rfl hz9 dX16_init_22 (gT_I e8 (gT_I e5 (gT_I e3 hT1))) (fun _ q => gE_wI q) ?_
  refine x_let (fun s10 e11 => ?_)
  exact x_vret (μ := mu_x16_init) (pc := 25) (a1 := s10) dX16_init_25 rfl rfl (gRel_E.1 _) trivial
def x16_moved (v0 : Nat) (v1 : Int) (v2 : Int) (σ : gMem) : Option Int := if v1 = (-1) then some (-1) else if w32 (v1 + v2) < 0 then some (-1) else if mT σ v0 = 100 then if w32 (v1 + v2) < w32 (mN σ v0 : Int) then if 0 ≤ (w32 (v1 + v2)) ∧ (w32 (v1 + v2)) < (mN σ v0 : Int) then some (mI σ v0 (w32 (v1 + v2)).toNat) else none else some (-1) else none
set_option maxRecDepth 100000 in
theorem ok_x16_moved {ω : gW} {l : Launch} {d : Nat} {σ : gMem} {v0 : Nat} {v1 : Int} {v2 : Int} (hl : l.stackTraces = false) (hdp : 0 ≤ d) (hv1 : g32 v1) (hv2 : g32 v2) : gK (fun x : Int => (.inl (some (vI x)), σ)) gE ω l d mu_x16_moved [vR v0, vI v1, vI v2] σ (x16_moved v0 v1 v2 σ) := by
  refine gK.of hp_X16 (Nat.le_of_ble_eq_true rfl) ?_
  unfold x16_moved
  refine x_iload_n (μ := mu_x16_moved) (pc := 0) 1 dX16_moved_0 rfl ?_
  refine x_iload_n (μ := mu_x16_moved) (pc := 1) 2 dX16_moved_1 rfl ?_
  refine x_iadd (μ := mu_x16_moved) (pc := 2) dX16_moved_2 ?_
  refine x_w1 ?_
  refine x_istore_n (μ := mu_x16_moved) (pc := 3) (lv' := [(3, vI (w32 (v1 + v2))), (0, vR v0), (1, vI v1), (2, vI v2)]) dX16_moved_3 rfl (by decide) rfl ?_
  refine x_iload_n (μ := mu_x16_moved) (pc := 4) 2 dX16_moved_4 rfl ?_
  refine x_iconst (μ := mu_x16_moved) (pc := 5) dX16_moved_5 ?_
  refine x_icmp_eq (μ := mu_x16_moved) (pc := 6) (tgt := 19) dX16_moved_6 rfl hv1 (by decide) ?_ ?_
  · refine x_iconst (μ := mu_x16_moved) (pc := 19) dX16_moved_19 ?_
    refine x_goto (μ := mu_x16_moved) (pc := 20) (tgt := 26) dX16_moved_20 rfl ?_
    exact x_iret (μ := mu_x16_moved) (pc := 26) dX16_moved_26 rfl rfl (gRel_E.1 _) (show g32 (-1) from (by decide))
  · refine x_iload_n (μ := mu_x16_moved) (pc := 9) 0 dX16_moved_9 rfl ?_
    refine x_if_lt (μ := mu_x16_moved) (pc := 10) (tgt := 19) dX16_moved_10 rfl (w32_rng _) ?_ ?_
    · refine x_iconst (μ := mu_x16_moved) (pc := 19) dX16_moved_19 ?_
      refine x_goto (μ := mu_x16_moved) (pc := 20) (tgt := 26) dX16_moved_20 rfl ?_
      exact x_iret (μ := mu_x16_moved) (pc := 26) dX16_moved_26 rfl rfl (gRel_E.1 _) (show g32 (-1) from (by decide))
    · refine x_iload_n (μ := mu_x16_moved) (pc := 13) 0 dX16_moved_13 rfl ?_
      refine x_aload_n (μ := mu_x16_moved) (pc := 14) 1 dX16_moved_14 rfl ?_
      refine x_if (fun hT1 => ?_)
      refine x_len (μ := mu_x16_moved) (pc := 15) 0 (fun _ => rfl) dX16_moved_15 hT1 ?_
      refine x_w1 ?_
      refine x_icmp_lt (μ := mu_x16_moved) (pc := 16) (tgt := 23) dX16_moved_16 rfl (w32_rng _) (w32_rng _) ?_ ?_
      · refine x_aload_n (μ := mu_x16_moved) (pc := 23) 1 dX16_moved_23 rfl ?_
        refine x_iload_n (μ := mu_x16_moved) (pc := 24) 0 dX16_moved_24 rfl ?_
        refine x_iald (μ := mu_x16_moved) (pc := 25) dX16_moved_25 hT1 rfl (fun hr2 => ?_)
        exact x_iret (μ := mu_x16_moved) (pc := 26) dX16_moved_26 rfl rfl (gRel_E.1 _) (show g32 (mI σ v0 (w32 (v1 + v2)).toNat) from hr2)
      · refine x_iconst (μ := mu_x16_moved) (pc := 19) dX16_moved_19 ?_
        refine x_goto (μ := mu_x16_moved) (pc := 20) (tgt := 26) dX16_moved_20 rfl ?_
        exact x_iret (μ := mu_x16_moved) (pc := 26) dX16_moved_26 rfl rfl (gRel_E.1 _) (show g32 (-1) from (by decide))
def x17_rank (v0 : Nat) (σ : gMem) : Option Int := some 6
set_option maxRecDepth 100000 in
theorem ok_x17_rank {ω : gW} {l : Launch} {d : Nat} {σ : gMem} {v0 : Nat} (hl : l.stackTraces = false) (hdp : 0 ≤ d) : gK (fun x : Int => (.inl (some (vI x)), σ)) gE ω l d mu_x17_rank [vR v0] σ (x17_rank v0 σ) := by
  refine gK.of hp_X17 (Nat.le_of_ble_eq_true rfl) ?_
  unfold x17_rank
  refine x_bipush (μ := mu_x17_rank) (pc := 0) dX17_rank_0 (by decide) ?_
  exact x_iret (μ := mu_x17_rank) (pc := 2) dX17_rank_2 rfl rfl (gRel_E.1 _) (show g32 6 from (by decide))
def x17_same (v0 : Nat) (v1 : Nat) (σ : gMem) : Option Int := if v1 = 0 ∨ gNode (mT σ v1) = true then if mT σ v1 = 15 then if v1 = 0 ∨ mT σ v1 = 15 then if mT σ v1 = 15 then if mT σ v0 = 15 then if mI σ v1 1 ≠ mI σ v0 1 then some 0 else if v1 = 0 ∨ mT σ v1 = 15 then if mT σ (mR σ v0 0) = 14 then (x16_same (mR σ v0 0) (mR σ v1 0) σ).bind (fun x9 => if x9 = 0 then some 0 else some 1) else none else none else none else none else none else some 0 else none
set_option maxRecDepth 100000 in
theorem ok_x17_same {ω : gW} {l : Launch} {d : Nat} {σ : gMem} {v0 : Nat} {v1 : Nat} (hl : l.stackTraces = false) (hdp : 1 ≤ d) : gK (fun x : Int => (.inl (some (vI x)), σ)) gE ω l d mu_x17_same [vR v0, vR v1] σ (x17_same v0 v1 σ) := by
  refine gK.of hp_X17 (Nat.le_of_ble_eq_true rfl) ?_
  unfold x17_same
  refine x_aload_n (μ := mu_x17_same) (pc := 0) 1 dX17_same_0 rfl ?_
  refine x_if (fun hg1 => ?_)
  refine x_inst (μ := mu_x17_same) (pc := 1) (ci := 14) (by decide) rfl q1625 dX17_same_1 hg1 ?_ ?_
  · refine x_if_eqF (μ := mu_x17_same) (pc := 4) (tgt := 42) dX17_same_4 rfl (by decide) (by decide) ?_
    refine x_aload_n (μ := mu_x17_same) (pc := 7) 1 dX17_same_7 rfl ?_
    refine x_if (fun hg2 => ?_)
    refine x_castC (μ := mu_x17_same) (pc := 8) (ci := 14) rfl q1625 dX17_same_8 hg2 ?_
    refine x_if (fun hT3 => ?_)
    refine x_fgi (μ := mu_x17_same) (pc := 11) fX17_1 q1974 dX17_same_11 hT3 (fun hr4 => ?_)
    refine x_aload_n (μ := mu_x17_same) (pc := 14) 0 dX17_same_14 rfl ?_
    refine x_if (fun hT5 => ?_)
    refine x_fgi (μ := mu_x17_same) (pc := 15) fX17_1 q1974 dX17_same_15 hT5 (fun hr6 => ?_)
    refine x_icmp_ne (μ := mu_x17_same) (pc := 18) (tgt := 42) dX17_same_18 rfl hr4 hr6 ?_ ?_
    · refine x_iconst (μ := mu_x17_same) (pc := 42) dX17_same_42 ?_
      exact x_zret (μ := mu_x17_same) (pc := 43) dX17_same_43 rfl (by decide) rfl (gRel_E.1 _) (show g32 0 from (by decide))
    · refine x_aload_n (μ := mu_x17_same) (pc := 21) 0 dX17_same_21 rfl ?_
      refine x_fgr (μ := mu_x17_same) (pc := 22) fX17_0 (by first | exact Or.inl ⟨_, rfl⟩ | exact Or.inr ⟨_, rfl⟩) q1971 dX17_same_22 hT5 ?_
      refine x_aload_n (μ := mu_x17_same) (pc := 25) 1 dX17_same_25 rfl ?_
      refine x_if (fun hg7 => ?_)
      refine x_castC (μ := mu_x17_same) (pc := 26) (ci := 14) rfl q1625 dX17_same_26 hg7 ?_
      refine x_fgr (μ := mu_x17_same) (pc := 29) fX17_0 (by first | exact Or.inl ⟨_, rfl⟩ | exact Or.inr ⟨_, rfl⟩) q1971 dX17_same_29 hT3 ?_
      refine x_if (fun hT8 => ?_)
      refine x_callV_pi (μ := mu_x17_same) (pc := 32) (ok_x16_same (ω := ω) (l := l) (d := d - 1) hl (by omega) ) gRel_E gRel_E (fun _ q => q) q1626 q1595 q1596 q248 q1597 dX17_same_32 rfl hT8 hy_x16_same (by omega) (Nat.le_of_ble_eq_true rfl) rfl (Nat.le_of_ble_eq_true rfl) (fun x9 hr10 => ?_)
      refine x_if_eq (μ := mu_x17_same) (pc := 35) (tgt := 42) dX17_same_35 rfl hr10 ?_ ?_
      · refine x_iconst (μ := mu_x17_same) (pc := 42) dX17_same_42 ?_
        exact x_zret (μ := mu_x17_same) (pc := 43) dX17_same_43 rfl (by decide) rfl (gRel_E.1 _) (show g32 0 from (by decide))
      · refine x_iconst (μ := mu_x17_same) (pc := 38) dX17_same_38 ?_
        refine x_goto (μ := mu_x17_same) (pc := 39) (tgt := 43) dX17_same_39 rfl ?_
        exact x_zret (μ := mu_x17_same) (pc := 43) dX17_same_43 rfl (by decide) rfl (gRel_E.1 _) (show g32 1 from (by decide))
  · refine x_if_eqT (μ := mu_x17_same) (pc := 4) (tgt := 42) dX17_same_4 rfl (by decide) (by decide) ?_
    refine x_iconst (μ := mu_x17_same) (pc := 42) dX17_same_42 ?_
    exact x_zret (μ := mu_x17_same) (pc := 43) dX17_same_43 rfl (by decide) rfl (gRel_E.1 _) (show g32 0 from (by decide))
def x17_init (v0 : Nat) (v1 : Nat) (v2 : Int) (σ : gMem) : Option gMem := if mT σ v0 = 15 then gLet (wR σ v0 0 v1) (fun s2 => gLet (wI s2 v0 1 v2) (fun s4 => some s4)) else none
set_option maxRecDepth 100000 in
theorem ok_x17_init {ω : gW} {l : Launch} {d : Nat} {σ : gMem} {v0 : Nat} {v1 : Nat} {v2 : Int} (hl : l.stackTraces = false) (hdp : 2 ≤ d) (hv2 : g32 v2) : gK (fun p : gMem => (.inl none, p)) gE ω l d mu_x17_init [vR v0, vR v1, vI v2] σ (x17_init v0 v1 v2 σ) := by
  refine gK.of hp_X17 (Nat.le_of_ble_eq_true rfl) ?_
  unfold x17_init
  refine x_aload_n (μ := mu_x17_init) (pc := 0) 0 dX17_init_0 rfl ?_
  refine x_if (fun hT1 => ?_)
  refine x_recI (μ := mu_x17_init) (pc := 1) (ci := 14) rfl q1970 dX17_init_1 hT1 (by omega) (Nat.le_of_ble_eq_true rfl) ?_
  refine x_aload_n (μ := mu_x17_init) (pc := 4) 0 dX17_init_4 rfl ?_
  refine x_aload_n (μ := mu_x17_init) (pc := 5) 1 dX17_init_5 rfl ?_
  refine x_fprF (μ := mu_x17_init) (pc := 6) fX17_0 q1971 rfl rfl (by first | exact Or.inl ⟨_, rfl⟩ | exact Or.inr ⟨_, rfl⟩) dX17_init_6 hT1 (fun _ q => gE_wR q) ?_
  refine x_let (fun s2 e3 => ?_)
  refine x_aload_n (μ := mu_x17_init) (pc := 9) 0 dX17_init_9 rfl ?_
  refine x_iload_n (μ := mu_x17_init) (pc := 10) 2 dX17_init_10 rfl ?_
  refine x_fpiF (μ := mu_x17_init) (pc := 11) fX17_1 q1974 rfl rfl dX17_init_11 (gT_R e3 hT1) (fun _ q => gE_wI q) ?_
  refine x_let (fun s4 e5 => ?_)
  exact x_vret (μ := mu_x17_init) (pc := 14) (a1 := s4) dX17_init_14 rfl rfl (gRel_E.1 _) trivial
def x18_leads (v0 : Nat) (v1 : Nat) (v2 : Nat) (σ : gMem) : Option gMem := some σ
set_option maxRecDepth 100000 in
theorem ok_x18_leads {ω : gW} {l : Launch} {d : Nat} {σ : gMem} {v0 : Nat} {v1 : Nat} {v2 : Nat} (hl : l.stackTraces = false) (hdp : 0 ≤ d) : gK (fun p : gMem => (.inl none, p)) gE ω l d mu_x18_leads [vR v0, vR v1, vR v2] σ (x18_leads v0 v1 v2 σ) := by
  refine gK.of hp_X18 (Nat.le_of_ble_eq_true rfl) ?_
  unfold x18_leads
  exact x_vret (μ := mu_x18_leads) (pc := 0) (a1 := σ) dX18_leads_0 rfl rfl (gRel_E.1 _) trivial
def x18_rank (v0 : Nat) (σ : gMem) : Option Int := some 6
set_option maxRecDepth 100000 in
theorem ok_x18_rank {ω : gW} {l : Launch} {d : Nat} {σ : gMem} {v0 : Nat} (hl : l.stackTraces = false) (hdp : 0 ≤ d) : gK (fun x : Int => (.inl (some (vI x)), σ)) gE ω l d mu_x18_rank [vR v0] σ (x18_rank v0 σ) := by
  refine gK.of hp_X18 (Nat.le_of_ble_eq_true rfl) ?_
  unfold x18_rank
  refine x_bipush (μ := mu_x18_rank) (pc := 0) dX18_rank_0 (by decide) ?_
  exact x_iret (μ := mu_x18_rank) (pc := 2) dX18_rank_2 rfl rfl (gRel_E.1 _) (show g32 6 from (by decide))
def x18_same (v0 : Nat) (v1 : Nat) (σ : gMem) : Option Int := if v1 = 0 ∨ gNode (mT σ v1) = true then if mT σ v1 = 16 then if v1 = 0 ∨ mT σ v1 = 16 then if mT σ v1 = 16 then if mT σ v0 = 16 then if mI σ v1 0 ≠ mI σ v0 0 then some 0 else some 1 else none else none else none else some 0 else none
set_option maxRecDepth 100000 in
theorem ok_x18_same {ω : gW} {l : Launch} {d : Nat} {σ : gMem} {v0 : Nat} {v1 : Nat} (hl : l.stackTraces = false) (hdp : 0 ≤ d) : gK (fun x : Int => (.inl (some (vI x)), σ)) gE ω l d mu_x18_same [vR v0, vR v1] σ (x18_same v0 v1 σ) := by
  refine gK.of hp_X18 (Nat.le_of_ble_eq_true rfl) ?_
  unfold x18_same
  refine x_aload_n (μ := mu_x18_same) (pc := 0) 1 dX18_same_0 rfl ?_
  refine x_if (fun hg1 => ?_)
  refine x_inst (μ := mu_x18_same) (pc := 1) (ci := 15) (by decide) rfl q1632 dX18_same_1 hg1 ?_ ?_
  · refine x_if_eqF (μ := mu_x18_same) (pc := 4) (tgt := 25) dX18_same_4 rfl (by decide) (by decide) ?_
    refine x_aload_n (μ := mu_x18_same) (pc := 7) 1 dX18_same_7 rfl ?_
    refine x_if (fun hg2 => ?_)
    refine x_castC (μ := mu_x18_same) (pc := 8) (ci := 15) rfl q1632 dX18_same_8 hg2 ?_
    refine x_if (fun hT3 => ?_)
    refine x_fgz (μ := mu_x18_same) (pc := 11) fX18_0 q1992 dX18_same_11 hT3 (fun hr4 => ?_)
    refine x_aload_n (μ := mu_x18_same) (pc := 14) 0 dX18_same_14 rfl ?_
    refine x_if (fun hT5 => ?_)
    refine x_fgz (μ := mu_x18_same) (pc := 15) fX18_0 q1992 dX18_same_15 hT5 (fun hr6 => ?_)
    refine x_icmp_ne (μ := mu_x18_same) (pc := 18) (tgt := 25) dX18_same_18 rfl hr4 hr6 ?_ ?_
    · refine x_iconst (μ := mu_x18_same) (pc := 25) dX18_same_25 ?_
      exact x_zret (μ := mu_x18_same) (pc := 26) dX18_same_26 rfl (by decide) rfl (gRel_E.1 _) (show g32 0 from (by decide))
    · refine x_iconst (μ := mu_x18_same) (pc := 21) dX18_same_21 ?_
      refine x_goto (μ := mu_x18_same) (pc := 22) (tgt := 26) dX18_same_22 rfl ?_
      exact x_zret (μ := mu_x18_same) (pc := 26) dX18_same_26 rfl (by decide) rfl (gRel_E.1 _) (show g32 1 from (by decide))
  · refine x_if_eqT (μ := mu_x18_same) (pc := 4) (tgt := 25) dX18_same_4 rfl (by decide) (by decide) ?_
    refine x_iconst (μ := mu_x18_same) (pc := 25) dX18_same_25 ?_
    exact x_zret (μ := mu_x18_same) (pc := 26) dX18_same_26 rfl (by decide) rfl (gRel_E.1 _) (show g32 0 from (by decide))
def x18_isAlike (v0 : Nat) (v1 : Nat) (σ : gMem) : Option Int := if v1 = 0 ∨ gNode (mT σ v1) = true then if mT σ v1 = 16 then if v1 = 0 ∨ mT σ v1 = 16 then if mT σ v1 = 16 then if mT σ v0 = 16 then if mI σ v1 0 ≠ mI σ v0 0 then some 0 else some 1 else none else none else none else some 0 else none
set_option maxRecDepth 100000 in
theorem ok_x18_isAlike {ω : gW} {l : Launch} {d : Nat} {σ : gMem} {v0 : Nat} {v1 : Nat} (hl : l.stackTraces = false) (hdp : 0 ≤ d) : gK (fun x : Int => (.inl (some (vI x)), σ)) gE ω l d mu_x18_isAlike [vR v0, vR v1] σ (x18_isAlike v0 v1 σ) := by
  refine gK.of hp_X18 (Nat.le_of_ble_eq_true rfl) ?_
  unfold x18_isAlike
  refine x_aload_n (μ := mu_x18_isAlike) (pc := 0) 1 dX18_isAlike_0 rfl ?_
  refine x_if (fun hg1 => ?_)
  refine x_inst (μ := mu_x18_isAlike) (pc := 1) (ci := 15) (by decide) rfl q1632 dX18_isAlike_1 hg1 ?_ ?_
  · refine x_if_eqF (μ := mu_x18_isAlike) (pc := 4) (tgt := 25) dX18_isAlike_4 rfl (by decide) (by decide) ?_
    refine x_aload_n (μ := mu_x18_isAlike) (pc := 7) 1 dX18_isAlike_7 rfl ?_
    refine x_if (fun hg2 => ?_)
    refine x_castC (μ := mu_x18_isAlike) (pc := 8) (ci := 15) rfl q1632 dX18_isAlike_8 hg2 ?_
    refine x_if (fun hT3 => ?_)
    refine x_fgz (μ := mu_x18_isAlike) (pc := 11) fX18_0 q1992 dX18_isAlike_11 hT3 (fun hr4 => ?_)
    refine x_aload_n (μ := mu_x18_isAlike) (pc := 14) 0 dX18_isAlike_14 rfl ?_
    refine x_if (fun hT5 => ?_)
    refine x_fgz (μ := mu_x18_isAlike) (pc := 15) fX18_0 q1992 dX18_isAlike_15 hT5 (fun hr6 => ?_)
    refine x_icmp_ne (μ := mu_x18_isAlike) (pc := 18) (tgt := 25) dX18_isAlike_18 rfl hr4 hr6 ?_ ?_
    · refine x_iconst (μ := mu_x18_isAlike) (pc := 25) dX18_isAlike_25 ?_
      exact x_zret (μ := mu_x18_isAlike) (pc := 26) dX18_isAlike_26 rfl (by decide) rfl (gRel_E.1 _) (show g32 0 from (by decide))
    · refine x_iconst (μ := mu_x18_isAlike) (pc := 21) dX18_isAlike_21 ?_
      refine x_goto (μ := mu_x18_isAlike) (pc := 22) (tgt := 26) dX18_isAlike_22 rfl ?_
      exact x_zret (μ := mu_x18_isAlike) (pc := 26) dX18_isAlike_26 rfl (by decide) rfl (gRel_E.1 _) (show g32 1 from (by decide))
  · refine x_if_eqT (μ := mu_x18_isAlike) (pc := 4) (tgt := 25) dX18_isAlike_4 rfl (by decide) (by decide) ?_
    refine x_iconst (μ := mu_x18_isAlike) (pc := 25) dX18_isAlike_25 ?_
    exact x_zret (μ := mu_x18_isAlike) (pc := 26) dX18_isAlike_26 rfl (by decide) rfl (gRel_E.1 _) (show g32 0 from (by decide))
def x18_init (v0 : Nat) (v1 : Int) (σ : gMem) : Option gMem := if mT σ v0 = 16 then if v1 = 0 ∨ v1 = 1 then gLet (wI σ v0 0 v1) (fun s3 => some s3) else none else none
set_option maxRecDepth 100000 in
theorem ok_x18_init {ω : gW} {l : Launch} {d : Nat} {σ : gMem} {v0 : Nat} {v1 : Int} (hl : l.stackTraces = false) (hdp : 2 ≤ d) (hv1 : g32 v1) : gK (fun p : gMem => (.inl none, p)) gE ω l d mu_x18_init [vR v0, vI v1] σ (x18_init v0 v1 σ) := by
  refine gK.of hp_X18 (Nat.le_of_ble_eq_true rfl) ?_
  unfold x18_init
  refine x_aload_n (μ := mu_x18_init) (pc := 0) 0 dX18_init_0 rfl ?_
  refine x_if (fun hT1 => ?_)
  refine x_recI (μ := mu_x18_init) (pc := 1) (ci := 15) rfl q1991 dX18_init_1 hT1 (by omega) (Nat.le_of_ble_eq_true rfl) ?_
  refine x_aload_n (μ := mu_x18_init) (pc := 4) 0 dX18_init_4 rfl ?_
  refine x_iload_n (μ := mu_x18_init) (pc := 5) 1 dX18_init_5 rfl ?_
  refine x_if (fun hz2 => ?_)
  refine x_fpzF (μ := mu_x18_init) (pc := 6) fX18_0 q1992 rfl rfl hz2 dX18_init_6 hT1 (fun _ q => gE_wI q) ?_
  refine x_let (fun s3 e4 => ?_)
  exact x_vret (μ := mu_x18_init) (pc := 9) (a1 := s3) dX18_init_9 rfl rfl (gRel_E.1 _) trivial
def x18_parts (v0 : Nat) (σ : gMem) : Option Int := some 0
set_option maxRecDepth 100000 in
theorem ok_x18_parts {ω : gW} {l : Launch} {d : Nat} {σ : gMem} {v0 : Nat} (hl : l.stackTraces = false) (hdp : 0 ≤ d) : gK (fun x : Int => (.inl (some (vI x)), σ)) gE ω l d mu_x18_parts [vR v0] σ (x18_parts v0 σ) := by
  refine gK.of hp_X18 (Nat.le_of_ble_eq_true rfl) ?_
  unfold x18_parts
  refine x_iconst (μ := mu_x18_parts) (pc := 0) dX18_parts_0 ?_
  exact x_iret (μ := mu_x18_parts) (pc := 1) dX18_parts_1 rfl rfl (gRel_E.1 _) (show g32 0 from (by decide))
def x18_shifted (v0 : Nat) (v1 : Nat) (σ : gMem) : Option (Nat × gMem) := some (v0, σ)
set_option maxRecDepth 100000 in
theorem ok_x18_shifted {ω : gW} {l : Launch} {d : Nat} {σ : gMem} {v0 : Nat} {v1 : Nat} (hl : l.stackTraces = false) (hdp : 0 ≤ d) : gK (fun p : Nat × gMem => (.inl (some (vR p.1)), p.2)) gE ω l d mu_x18_shifted [vR v0, vR v1] σ (x18_shifted v0 v1 σ) := by
  refine gK.of hp_X18 (Nat.le_of_ble_eq_true rfl) ?_
  unfold x18_shifted
  refine x_aload_n (μ := mu_x18_shifted) (pc := 0) 0 dX18_shifted_0 rfl ?_
  exact x_aret (μ := mu_x18_shifted) (pc := 1) dX18_shifted_1 rfl (by first | exact Or.inl ⟨_, rfl⟩ | exact Or.inr ⟨_, rfl⟩) rfl (gRel_E.1 _) trivial
def x19_rank (v0 : Nat) (σ : gMem) : Option Int := some 6
set_option maxRecDepth 100000 in
theorem ok_x19_rank {ω : gW} {l : Launch} {d : Nat} {σ : gMem} {v0 : Nat} (hl : l.stackTraces = false) (hdp : 0 ≤ d) : gK (fun x : Int => (.inl (some (vI x)), σ)) gE ω l d mu_x19_rank [vR v0] σ (x19_rank v0 σ) := by
  refine gK.of hp_X19 (Nat.le_of_ble_eq_true rfl) ?_
  unfold x19_rank
  refine x_bipush (μ := mu_x19_rank) (pc := 0) dX19_rank_0 (by decide) ?_
  exact x_iret (μ := mu_x19_rank) (pc := 2) dX19_rank_2 rfl rfl (gRel_E.1 _) (show g32 6 from (by decide))
def x19_same (v0 : Nat) (v1 : Nat) (σ : gMem) : Option Int := if v1 = 0 ∨ gNode (mT σ v1) = true then if mT σ v1 = 17 then if v1 = 0 ∨ mT σ v1 = 17 then if mT σ v1 = 17 then if mT σ v0 = 17 then if mI σ v1 2 ≠ mI σ v0 2 then some 0 else if mT σ (mR σ v0 0) = 14 then (x16_same (mR σ v0 0) (mR σ v1 0) σ).bind (fun x8 => if x8 = 0 then some 0 else if mT σ (mR σ v0 1) = 14 then (x16_same (mR σ v0 1) (mR σ v1 1) σ).bind (fun x11 => if x11 = 0 then some 0 else some 1) else none) else none else none else none else none else some 0 else none
set_option maxRecDepth 100000 in
theorem ok_x19_same {ω : gW} {l : Launch} {d : Nat} {σ : gMem} {v0 : Nat} {v1 : Nat} (hl : l.stackTraces = false) (hdp : 1 ≤ d) : gK (fun x : Int => (.inl (some (vI x)), σ)) gE ω l d mu_x19_same [vR v0, vR v1] σ (x19_same v0 v1 σ) := by
  refine gK.of hp_X19 (Nat.le_of_ble_eq_true rfl) ?_
  unfold x19_same
  refine x_aload_n (μ := mu_x19_same) (pc := 0) 1 dX19_same_0 rfl ?_
  refine x_if (fun hg1 => ?_)
  refine x_inst (μ := mu_x19_same) (pc := 1) (ci := 16) (by decide) rfl q1593 dX19_same_1 hg1 ?_ ?_
  · refine x_if_neT (μ := mu_x19_same) (pc := 4) (tgt := 9) dX19_same_4 rfl (by decide) (by decide) ?_
    refine x_aload_n (μ := mu_x19_same) (pc := 9) 1 dX19_same_9 rfl ?_
    refine x_if (fun hg2 => ?_)
    refine x_castC (μ := mu_x19_same) (pc := 10) (ci := 16) rfl q1593 dX19_same_10 hg2 ?_
    refine x_astore_n (μ := mu_x19_same) (pc := 13) (lv' := [(2, vR v1), (0, vR v0), (1, vR v1)]) dX19_same_13 rfl (by decide) rfl ?_
    refine x_aload_n (μ := mu_x19_same) (pc := 14) 0 dX19_same_14 rfl ?_
    refine x_if (fun hT3 => ?_)
    refine x_fgi (μ := mu_x19_same) (pc := 15) fX19_2 q2018 dX19_same_15 hT3 (fun hr4 => ?_)
    refine x_aload_n (μ := mu_x19_same) (pc := 18) 1 dX19_same_18 rfl ?_
    refine x_if (fun hT5 => ?_)
    refine x_fgi (μ := mu_x19_same) (pc := 19) fX19_2 q2018 dX19_same_19 hT5 (fun hr6 => ?_)
    refine x_icmp_ne (μ := mu_x19_same) (pc := 22) (tgt := 57) dX19_same_22 rfl hr4 hr6 ?_ ?_
    · refine x_iconst (μ := mu_x19_same) (pc := 57) dX19_same_57 ?_
      exact x_zret (μ := mu_x19_same) (pc := 58) dX19_same_58 rfl (by decide) rfl (gRel_E.1 _) (show g32 0 from (by decide))
    · refine x_aload_n (μ := mu_x19_same) (pc := 25) 1 dX19_same_25 rfl ?_
      refine x_fgr (μ := mu_x19_same) (pc := 26) fX19_0 (by first | exact Or.inl ⟨_, rfl⟩ | exact Or.inr ⟨_, rfl⟩) q2014 dX19_same_26 hT5 ?_
      refine x_aload_n (μ := mu_x19_same) (pc := 29) 0 dX19_same_29 rfl ?_
      refine x_fgr (μ := mu_x19_same) (pc := 30) fX19_0 (by first | exact Or.inl ⟨_, rfl⟩ | exact Or.inr ⟨_, rfl⟩) q2014 dX19_same_30 hT3 ?_
      refine x_if (fun hT7 => ?_)
      refine x_callV_pi (μ := mu_x19_same) (pc := 33) (ok_x16_same (ω := ω) (l := l) (d := d - 1) hl (by omega) ) gRel_E gRel_E (fun _ q => q) q1594 q1595 q1596 q248 q1597 dX19_same_33 rfl hT7 hy_x16_same (by omega) (Nat.le_of_ble_eq_true rfl) rfl (Nat.le_of_ble_eq_true rfl) (fun x8 hr9 => ?_)
      refine x_if_eq (μ := mu_x19_same) (pc := 36) (tgt := 57) dX19_same_36 rfl hr9 ?_ ?_
      · refine x_iconst (μ := mu_x19_same) (pc := 57) dX19_same_57 ?_
        exact x_zret (μ := mu_x19_same) (pc := 58) dX19_same_58 rfl (by decide) rfl (gRel_E.1 _) (show g32 0 from (by decide))
      · refine x_aload_n (μ := mu_x19_same) (pc := 39) 1 dX19_same_39 rfl ?_
        refine x_fgr (μ := mu_x19_same) (pc := 40) fX19_1 (by first | exact Or.inl ⟨_, rfl⟩ | exact Or.inr ⟨_, rfl⟩) q2016 dX19_same_40 hT5 ?_
        refine x_aload_n (μ := mu_x19_same) (pc := 43) 0 dX19_same_43 rfl ?_
        refine x_fgr (μ := mu_x19_same) (pc := 44) fX19_1 (by first | exact Or.inl ⟨_, rfl⟩ | exact Or.inr ⟨_, rfl⟩) q2016 dX19_same_44 hT3 ?_
        refine x_if (fun hT10 => ?_)
        refine x_callV_pi (μ := mu_x19_same) (pc := 47) (ok_x16_same (ω := ω) (l := l) (d := d - 1) hl (by omega) ) gRel_E gRel_E (fun _ q => q) q1594 q1595 q1596 q248 q1597 dX19_same_47 rfl hT10 hy_x16_same (by omega) (Nat.le_of_ble_eq_true rfl) rfl (Nat.le_of_ble_eq_true rfl) (fun x11 hr12 => ?_)
        refine x_if_eq (μ := mu_x19_same) (pc := 50) (tgt := 57) dX19_same_50 rfl hr12 ?_ ?_
        · refine x_iconst (μ := mu_x19_same) (pc := 57) dX19_same_57 ?_
          exact x_zret (μ := mu_x19_same) (pc := 58) dX19_same_58 rfl (by decide) rfl (gRel_E.1 _) (show g32 0 from (by decide))
        · refine x_iconst (μ := mu_x19_same) (pc := 53) dX19_same_53 ?_
          refine x_goto (μ := mu_x19_same) (pc := 54) (tgt := 58) dX19_same_54 rfl ?_
          exact x_zret (μ := mu_x19_same) (pc := 58) dX19_same_58 rfl (by decide) rfl (gRel_E.1 _) (show g32 1 from (by decide))
  · refine x_if_neF (μ := mu_x19_same) (pc := 4) (tgt := 9) dX19_same_4 rfl (by decide) (by decide) ?_
    refine x_iconst (μ := mu_x19_same) (pc := 7) dX19_same_7 ?_
    exact x_zret (μ := mu_x19_same) (pc := 8) dX19_same_8 rfl (by decide) rfl (gRel_E.1 _) (show g32 0 from (by decide))
def x19_init (v0 : Nat) (v1 : Nat) (v2 : Nat) (v3 : Int) (σ : gMem) : Option gMem := if mT σ v0 = 17 then gLet (wR σ v0 0 v1) (fun s2 => gLet (wR s2 v0 1 v2) (fun s4 => gLet (wI s4 v0 2 v3) (fun s6 => some s6))) else none
set_option maxRecDepth 100000 in
theorem ok_x19_init {ω : gW} {l : Launch} {d : Nat} {σ : gMem} {v0 : Nat} {v1 : Nat} {v2 : Nat} {v3 : Int} (hl : l.stackTraces = false) (hdp : 2 ≤ d) (hv3 : g32 v3) : gK (fun p : gMem => (.inl none, p)) gE ω l d mu_x19_init [vR v0, vR v1, vR v2, vI v3] σ (x19_init v0 v1 v2 v3 σ) := by
  refine gK.of hp_X19 (Nat.le_of_ble_eq_true rfl) ?_
  unfold x19_init
  refine x_aload_n (μ := mu_x19_init) (pc := 0) 0 dX19_init_0 rfl ?_
  refine x_if (fun hT1 => ?_)
  refine x_recI (μ := mu_x19_init) (pc := 1) (ci := 16) rfl q2013 dX19_init_1 hT1 (by omega) (Nat.le_of_ble_eq_true rfl) ?_
  refine x_aload_n (μ := mu_x19_init) (pc := 4) 0 dX19_init_4 rfl ?_
  refine x_aload_n (μ := mu_x19_init) (pc := 5) 1 dX19_init_5 rfl ?_
  refine x_fprF (μ := mu_x19_init) (pc := 6) fX19_0 q2014 rfl rfl (by first | exact Or.inl ⟨_, rfl⟩ | exact Or.inr ⟨_, rfl⟩) dX19_init_6 hT1 (fun _ q => gE_wR q) ?_
  refine x_let (fun s2 e3 => ?_)
  refine x_aload_n (μ := mu_x19_init) (pc := 9) 0 dX19_init_9 rfl ?_
  refine x_aload_n (μ := mu_x19_init) (pc := 10) 2 dX19_init_10 rfl ?_
  refine x_fprF (μ := mu_x19_init) (pc := 11) fX19_1 q2016 rfl rfl (by first | exact Or.inl ⟨_, rfl⟩ | exact Or.inr ⟨_, rfl⟩) dX19_init_11 (gT_R e3 hT1) (fun _ q => gE_wR q) ?_
  refine x_let (fun s4 e5 => ?_)
  refine x_aload_n (μ := mu_x19_init) (pc := 14) 0 dX19_init_14 rfl ?_
  refine x_iload_n (μ := mu_x19_init) (pc := 15) 3 dX19_init_15 rfl ?_
  refine x_fpiF (μ := mu_x19_init) (pc := 16) fX19_2 q2018 rfl rfl dX19_init_16 (gT_R e5 (gT_R e3 hT1)) (fun _ q => gE_wI q) ?_
  refine x_let (fun s6 e7 => ?_)
  exact x_vret (μ := mu_x19_init) (pc := 19) (a1 := s6) dX19_init_19 rfl rfl (gRel_E.1 _) trivial
def x2_init (v0 : Nat) (σ : gMem) : Option gMem := if mT σ v0 = 2 then if 0 ≤ (320 : Int) ∧ (320 : Int) < 1000000 then gLet (wN σ 102 (320 : Int).toNat) (fun s4 => gLet (wR s4 v0 0 (mZ σ)) (fun s6 => if 0 ≤ (320 : Int) ∧ (320 : Int) < 1000000 then gLet (wN s6 102 (320 : Int).toNat) (fun s10 => gLet (wR s10 v0 1 (mZ s6)) (fun s12 => if 0 ≤ (7680 : Int) ∧ (7680 : Int) < 1000000 then gLet (wN s12 102 (7680 : Int).toNat) (fun s16 => gLet (wR s16 v0 2 (mZ s12)) (fun s18 => if 0 ≤ (320 : Int) ∧ (320 : Int) < 1000000 then gLet (wN s18 101 (320 : Int).toNat) (fun s22 => gLet (wR s22 v0 3 (mZ s18)) (fun s24 => some s24)) else none)) else none)) else none)) else none else none
set_option maxRecDepth 100000 in
theorem ok_x2_init {ω : gW} {l : Launch} {d : Nat} {σ : gMem} {v0 : Nat} (hl : l.stackTraces = false) (hdp : 1 ≤ d) : gK (fun p : gMem => (.inl none, p)) gE ω l d mu_x2_init [vR v0] σ (x2_init v0 σ) := by
  refine gK.of hp_X2 (Nat.le_of_ble_eq_true rfl) ?_
  unfold x2_init
  refine x_aload_n (μ := mu_x2_init) (pc := 0) 0 dX2_init_0 rfl ?_
  refine x_if (fun hT1 => ?_)
  refine x_objI (μ := mu_x2_init) (pc := 1) (ci := 1) rfl q283 dX2_init_1 hT1 (by omega) (Nat.le_of_ble_eq_true rfl) ?_
  refine x_aload_n (μ := mu_x2_init) (pc := 4) 0 dX2_init_4 rfl ?_
  refine x_sipush (μ := mu_x2_init) (pc := 5) dX2_init_5 (by decide) ?_
  refine x_if (fun hg2 => ?_)
  refine x_ok (fun ok3 => ?_)
  refine x_newab (μ := mu_x2_init) (pc := 8) dX2_init_8 hg2 ?_
  refine x_let (fun s4 e5 => ?_)
  refine x_fprF (μ := mu_x2_init) (pc := 10) fX2_0 q284 rfl rfl (by first | exact Or.inl ⟨_, rfl⟩ | exact Or.inr ⟨_, rfl⟩) dX2_init_10 (gT_N e5 ok3 hT1 (by decide)) (fun _ q => gE_wR q) ?_
  refine x_let (fun s6 e7 => ?_)
  refine x_aload_n (μ := mu_x2_init) (pc := 13) 0 dX2_init_13 rfl ?_
  refine x_sipush (μ := mu_x2_init) (pc := 14) dX2_init_14 (by decide) ?_
  refine x_if (fun hg8 => ?_)
  refine x_ok (fun ok9 => ?_)
  refine x_newab (μ := mu_x2_init) (pc := 17) dX2_init_17 hg8 ?_
  refine x_let (fun s10 e11 => ?_)
  refine x_fprF (μ := mu_x2_init) (pc := 19) fX2_1 q286 rfl rfl (by first | exact Or.inl ⟨_, rfl⟩ | exact Or.inr ⟨_, rfl⟩) dX2_init_19 (gT_N e11 ok9 (gT_R e7 (gT_N e5 ok3 hT1 (by decide))) (by decide)) (fun _ q => gE_wR q) ?_
  refine x_let (fun s12 e13 => ?_)
  refine x_aload_n (μ := mu_x2_init) (pc := 22) 0 dX2_init_22 rfl ?_
  refine x_sipush (μ := mu_x2_init) (pc := 23) dX2_init_23 (by decide) ?_
  refine x_if (fun hg14 => ?_)
  refine x_ok (fun ok15 => ?_)
  refine x_newab (μ := mu_x2_init) (pc := 26) dX2_init_26 hg14 ?_
  refine x_let (fun s16 e17 => ?_)
  refine x_fprF (μ := mu_x2_init) (pc := 28) fX2_2 q288 rfl rfl (by first | exact Or.inl ⟨_, rfl⟩ | exact Or.inr ⟨_, rfl⟩) dX2_init_28 (gT_N e17 ok15 (gT_R e13 (gT_N e11 ok9 (gT_R e7 (gT_N e5 ok3 hT1 (by decide))) (by decide))) (by decide)) (fun _ q => gE_wR q) ?_
  refine x_let (fun s18 e19 => ?_)
  refine x_aload_n (μ := mu_x2_init) (pc := 31) 0 dX2_init_31 rfl ?_
  refine x_sipush (μ := mu_x2_init) (pc := 32) dX2_init_32 (by decide) ?_
  refine x_if (fun hg20 => ?_)
  refine x_ok (fun ok21 => ?_)
  refine x_newal (μ := mu_x2_init) (pc := 35) dX2_init_35 hg20 ?_
  refine x_let (fun s22 e23 => ?_)
  refine x_fprF (μ := mu_x2_init) (pc := 37) fX2_3 q290 rfl rfl (by first | exact Or.inl ⟨_, rfl⟩ | exact Or.inr ⟨_, rfl⟩) dX2_init_37 (gT_N e23 ok21 (gT_R e19 (gT_N e17 ok15 (gT_R e13 (gT_N e11 ok9 (gT_R e7 (gT_N e5 ok3 hT1 (by decide))) (by decide))) (by decide))) (by decide)) (fun _ q => gE_wR q) ?_
  refine x_let (fun s24 e25 => ?_)
  exact x_vret (μ := mu_x2_init) (pc := 40) (a1 := s24) dX2_init_40 rfl rfl (gRel_E.1 _) trivial
def x2_give (v0 : Nat) (v1 : Int) (v2 : Nat) (σ : gMem) : Option gMem := if mT σ v0 = 2 then if mT σ (mR σ v0 0) = 102 then if 0 ≤ v1 ∧ v1 < (mN σ (mR σ v0 0) : Int) then if mT σ v2 = 5 then gLet (wI σ v2 0 (mI σ (mR σ v0 0) v1.toNat)) (fun s5 => if mT s5 (mR s5 v0 1) = 102 then if 0 ≤ v1 ∧ v1 < (mN s5 (mR s5 v0 1) : Int) then gLet (wI s5 v2 1 (mI s5 (mR s5 v0 1) v1.toNat)) (fun s9 => if mT s9 (mR s9 v0 3) = 101 then if 0 ≤ v1 ∧ v1 < (mN s9 (mR s9 v0 3) : Int) then gLet (wL s9 v2 2 (mL s9 (mR s9 v0 3) v1.toNat)) (fun s13 => if mT s13 (mR s13 v0 1) = 102 then if 0 ≤ v1 ∧ v1 < (mN s13 (mR s13 v0 1) : Int) then if mT s13 (mR s13 v0 2) = 102 then if mT s13 (mR s13 v2 3) = 102 then if (0 ≤ (w32 (24 * v1)) ∧ 0 ≤ (0 : Int) ∧ 0 ≤ (mI s13 (mR s13 v0 1) v1.toNat)) ∧ (w32 (24 * v1)) + (mI s13 (mR s13 v0 1) v1.toNat) ≤ (mN s13 (mR s13 v0 2) : Int) ∧ (0 : Int) + (mI s13 (mR s13 v0 1) v1.toNat) ≤ (mN s13 (mR s13 v2 3) : Int) then gLet (wCI s13 (mR s13 v0 2) (w32 (24 * v1)).toNat (mR s13 v2 3) (0 : Int).toNat (mI s13 (mR s13 v0 1) v1.toNat).toNat) (fun s20 => some s20) else none else none else none else none else none) else none else none) else none else none) else none else none else none else none
set_option maxRecDepth 100000 in
theorem ok_x2_give {ω : gW} {l : Launch} {d : Nat} {σ : gMem} {v0 : Nat} {v1 : Int} {v2 : Nat} (hl : l.stackTraces = false) (hdp : 1 ≤ d) (hv1 : g32 v1) : gK (fun p : gMem => (.inl none, p)) gE ω l d mu_x2_give [vR v0, vI v1, vR v2] σ (x2_give v0 v1 v2 σ) := by
  refine gK.of hp_X2 (Nat.le_of_ble_eq_true rfl) ?_
  unfold x2_give
  refine x_aload_n (μ := mu_x2_give) (pc := 0) 2 dX2_give_0 rfl ?_
  refine x_aload_n (μ := mu_x2_give) (pc := 1) 0 dX2_give_1 rfl ?_
  refine x_if (fun hT1 => ?_)
  refine x_fgr (μ := mu_x2_give) (pc := 2) fX2_0 (by first | exact Or.inl ⟨_, rfl⟩ | exact Or.inr ⟨_, rfl⟩) q284 dX2_give_2 hT1 ?_
  refine x_iload_n (μ := mu_x2_give) (pc := 5) 1 dX2_give_5 rfl ?_
  refine x_if (fun hT2 => ?_)
  refine x_bald (μ := mu_x2_give) (pc := 6) dX2_give_6 hT2 rfl (fun hr3 => ?_)
  refine x_if (fun hT4 => ?_)
  refine x_fpiN (μ := mu_x2_give) (pc := 7) fX5_0 q372 dX2_give_7 hT4 (fun _ q => gE_wI q) ?_
  refine x_let (fun s5 e6 => ?_)
  refine x_aload_n (μ := mu_x2_give) (pc := 10) 2 dX2_give_10 rfl ?_
  refine x_aload_n (μ := mu_x2_give) (pc := 11) 0 dX2_give_11 rfl ?_
  refine x_fgr (μ := mu_x2_give) (pc := 12) fX2_1 (by first | exact Or.inl ⟨_, rfl⟩ | exact Or.inr ⟨_, rfl⟩) q286 dX2_give_12 (gT_I e6 hT1) ?_
  refine x_iload_n (μ := mu_x2_give) (pc := 15) 1 dX2_give_15 rfl ?_
  refine x_if (fun hT7 => ?_)
  refine x_bald (μ := mu_x2_give) (pc := 16) dX2_give_16 hT7 rfl (fun hr8 => ?_)
  refine x_fpiN (μ := mu_x2_give) (pc := 17) fX5_1 q377 dX2_give_17 (gT_I e6 hT4) (fun _ q => gE_wI q) ?_
  refine x_let (fun s9 e10 => ?_)
  refine x_aload_n (μ := mu_x2_give) (pc := 20) 2 dX2_give_20 rfl ?_
  refine x_aload_n (μ := mu_x2_give) (pc := 21) 0 dX2_give_21 rfl ?_
  refine x_fgr (μ := mu_x2_give) (pc := 22) fX2_3 (by first | exact Or.inl ⟨_, rfl⟩ | exact Or.inr ⟨_, rfl⟩) q290 dX2_give_22 (gT_I e10 (gT_I e6 hT1)) ?_
  refine x_iload_n (μ := mu_x2_give) (pc := 25) 1 dX2_give_25 rfl ?_
  refine x_if (fun hT11 => ?_)
  refine x_lald (μ := mu_x2_give) (pc := 26) dX2_give_26 hT11 rfl (fun hr12 => ?_)
  refine x_fplN (μ := mu_x2_give) (pc := 27) fX5_2 q380 dX2_give_27 (gT_I e10 (gT_I e6 hT4)) (fun _ q => gE_wL q) ?_
  refine x_let (fun s13 e14 => ?_)
  refine x_aload_n (μ := mu_x2_give) (pc := 30) 0 dX2_give_30 rfl ?_
  refine x_fgr (μ := mu_x2_give) (pc := 31) fX2_2 (by first | exact Or.inl ⟨_, rfl⟩ | exact Or.inr ⟨_, rfl⟩) q288 dX2_give_31 (gT_L e14 (gT_I e10 (gT_I e6 hT1))) ?_
  refine x_bipush (μ := mu_x2_give) (pc := 34) dX2_give_34 (by decide) ?_
  refine x_iload_n (μ := mu_x2_give) (pc := 36) 1 dX2_give_36 rfl ?_
  refine x_imul (μ := mu_x2_give) (pc := 37) dX2_give_37 ?_
  refine x_aload_n (μ := mu_x2_give) (pc := 38) 2 dX2_give_38 rfl ?_
  refine x_fgrN (μ := mu_x2_give) (pc := 39) fX5_3 (by first | exact Or.inl ⟨_, rfl⟩ | exact Or.inr ⟨_, rfl⟩) q385 dX2_give_39 (gT_L e14 (gT_I e10 (gT_I e6 hT4))) ?_
  refine x_iconst (μ := mu_x2_give) (pc := 42) dX2_give_42 ?_
  refine x_aload_n (μ := mu_x2_give) (pc := 43) 0 dX2_give_43 rfl ?_
  refine x_fgr (μ := mu_x2_give) (pc := 44) fX2_1 (by first | exact Or.inl ⟨_, rfl⟩ | exact Or.inr ⟨_, rfl⟩) q286 dX2_give_44 (gT_L e14 (gT_I e10 (gT_I e6 hT1))) ?_
  refine x_iload_n (μ := mu_x2_give) (pc := 47) 1 dX2_give_47 rfl ?_
  refine x_if (fun hT15 => ?_)
  refine x_bald (μ := mu_x2_give) (pc := 48) dX2_give_48 hT15 rfl (fun hr16 => ?_)
  refine x_stk (st2 := [vI (mI s13 (mR s13 v0 1) v1.toNat), vI 0, vR (mR s13 v2 3), vI (w32 (24 * v1)), vR (mR s13 v0 2)]) (by simp only [List.map_cons, gval_w32, gval_w64]) ?_
  refine x_if (fun hT17 => ?_)
  refine x_if (fun hT18 => ?_)
  refine x_if (fun hg19 => ?_)
  refine x_copyB (μ := mu_x2_give) (pc := 49) q1027 dX2_give_49 hT17 hT18 hg19 (by omega) (Nat.le_of_ble_eq_true rfl) (fun _ q => gE_wCI q) ?_
  refine x_let (fun s20 e21 => ?_)
  exact x_vret (μ := mu_x2_give) (pc := 52) (a1 := s20) dX2_give_52 rfl rfl (gRel_E.1 _) trivial
def x2_put (v0 : Nat) (v1 : Int) (v2 : Nat) (σ : gMem) : Option gMem := if mT σ v0 = 2 then if mT σ v2 = 5 then if mT σ (mR σ v0 0) = 102 then if 0 ≤ v1 ∧ v1 < (mN σ (mR σ v0 0) : Int) then gLet (wI σ (mR σ v0 0) v1.toNat (bByte (mI σ v2 0))) (fun s5 => if mT s5 (mR s5 v0 1) = 102 then if 0 ≤ v1 ∧ v1 < (mN s5 (mR s5 v0 1) : Int) then gLet (wI s5 (mR s5 v0 1) v1.toNat (bByte (mI s5 v2 1))) (fun s9 => if mT s9 (mR s9 v0 3) = 101 then if 0 ≤ v1 ∧ v1 < (mN s9 (mR s9 v0 3) : Int) then gLet (wL s9 (mR s9 v0 3) v1.toNat (mL s9 v2 2)) (fun s13 => if mT s13 (mR s13 v2 3) = 102 then if mT s13 (mR s13 v0 2) = 102 then if (0 ≤ (0 : Int) ∧ 0 ≤ (w32 (24 * v1)) ∧ 0 ≤ (mI s13 v2 1)) ∧ (0 : Int) + (mI s13 v2 1) ≤ (mN s13 (mR s13 v2 3) : Int) ∧ (w32 (24 * v1)) + (mI s13 v2 1) ≤ (mN s13 (mR s13 v0 2) : Int) then gLet (wCI s13 (mR s13 v2 3) (0 : Int).toNat (mR s13 v0 2) (w32 (24 * v1)).toNat (mI s13 v2 1).toNat) (fun s19 => some s19) else none else none else none) else none else none) else none else none) else none else none else none else none
set_option maxRecDepth 100000 in
theorem ok_x2_put {ω : gW} {l : Launch} {d : Nat} {σ : gMem} {v0 : Nat} {v1 : Int} {v2 : Nat} (hl : l.stackTraces = false) (hdp : 1 ≤ d) (hv1 : g32 v1) : gK (fun p : gMem => (.inl none, p)) gE ω l d mu_x2_put [vR v0, vI v1, vR v2] σ (x2_put v0 v1 v2 σ) := by
  refine gK.of hp_X2 (Nat.le_of_ble_eq_true rfl) ?_
  unfold x2_put
  refine x_aload_n (μ := mu_x2_put) (pc := 0) 0 dX2_put_0 rfl ?_
  refine x_if (fun hT1 => ?_)
  refine x_fgr (μ := mu_x2_put) (pc := 1) fX2_0 (by first | exact Or.inl ⟨_, rfl⟩ | exact Or.inr ⟨_, rfl⟩) q284 dX2_put_1 hT1 ?_
  refine x_iload_n (μ := mu_x2_put) (pc := 4) 1 dX2_put_4 rfl ?_
  refine x_aload_n (μ := mu_x2_put) (pc := 5) 2 dX2_put_5 rfl ?_
  refine x_if (fun hT2 => ?_)
  refine x_fgiN (μ := mu_x2_put) (pc := 6) fX5_0 q372 dX2_put_6 hT2 (fun hr3 => ?_)
  refine x_i2b (μ := mu_x2_put) (pc := 9) dX2_put_9 ?_
  refine x_if (fun hT4 => ?_)
  refine x_bast (μ := mu_x2_put) (pc := 10) dX2_put_10 hT4 rfl (bByte_b _) (fun _ _ q => gE_wI q) ?_
  refine x_let (fun s5 e6 => ?_)
  refine x_aload_n (μ := mu_x2_put) (pc := 11) 0 dX2_put_11 rfl ?_
  refine x_fgr (μ := mu_x2_put) (pc := 12) fX2_1 (by first | exact Or.inl ⟨_, rfl⟩ | exact Or.inr ⟨_, rfl⟩) q286 dX2_put_12 (gT_I e6 hT1) ?_
  refine x_iload_n (μ := mu_x2_put) (pc := 15) 1 dX2_put_15 rfl ?_
  refine x_aload_n (μ := mu_x2_put) (pc := 16) 2 dX2_put_16 rfl ?_
  refine x_fgiN (μ := mu_x2_put) (pc := 17) fX5_1 q377 dX2_put_17 (gT_I e6 hT2) (fun hr7 => ?_)
  refine x_i2b (μ := mu_x2_put) (pc := 20) dX2_put_20 ?_
  refine x_if (fun hT8 => ?_)
  refine x_bast (μ := mu_x2_put) (pc := 21) dX2_put_21 hT8 rfl (bByte_b _) (fun _ _ q => gE_wI q) ?_
  refine x_let (fun s9 e10 => ?_)
  refine x_aload_n (μ := mu_x2_put) (pc := 22) 0 dX2_put_22 rfl ?_
  refine x_fgr (μ := mu_x2_put) (pc := 23) fX2_3 (by first | exact Or.inl ⟨_, rfl⟩ | exact Or.inr ⟨_, rfl⟩) q290 dX2_put_23 (gT_I e10 (gT_I e6 hT1)) ?_
  refine x_iload_n (μ := mu_x2_put) (pc := 26) 1 dX2_put_26 rfl ?_
  refine x_aload_n (μ := mu_x2_put) (pc := 27) 2 dX2_put_27 rfl ?_
  refine x_fglN (μ := mu_x2_put) (pc := 28) fX5_2 q380 dX2_put_28 (gT_I e10 (gT_I e6 hT2)) (fun hr11 => ?_)
  refine x_if (fun hT12 => ?_)
  refine x_last (μ := mu_x2_put) (pc := 31) dX2_put_31 hT12 rfl (fun _ _ q => gE_wL q) ?_
  refine x_let (fun s13 e14 => ?_)
  refine x_aload_n (μ := mu_x2_put) (pc := 32) 2 dX2_put_32 rfl ?_
  refine x_fgrN (μ := mu_x2_put) (pc := 33) fX5_3 (by first | exact Or.inl ⟨_, rfl⟩ | exact Or.inr ⟨_, rfl⟩) q385 dX2_put_33 (gT_L e14 (gT_I e10 (gT_I e6 hT2))) ?_
  refine x_iconst (μ := mu_x2_put) (pc := 36) dX2_put_36 ?_
  refine x_aload_n (μ := mu_x2_put) (pc := 37) 0 dX2_put_37 rfl ?_
  refine x_fgr (μ := mu_x2_put) (pc := 38) fX2_2 (by first | exact Or.inl ⟨_, rfl⟩ | exact Or.inr ⟨_, rfl⟩) q288 dX2_put_38 (gT_L e14 (gT_I e10 (gT_I e6 hT1))) ?_
  refine x_bipush (μ := mu_x2_put) (pc := 41) dX2_put_41 (by decide) ?_
  refine x_iload_n (μ := mu_x2_put) (pc := 43) 1 dX2_put_43 rfl ?_
  refine x_imul (μ := mu_x2_put) (pc := 44) dX2_put_44 ?_
  refine x_aload_n (μ := mu_x2_put) (pc := 45) 2 dX2_put_45 rfl ?_
  refine x_fgiN (μ := mu_x2_put) (pc := 46) fX5_1 q377 dX2_put_46 (gT_L e14 (gT_I e10 (gT_I e6 hT2))) (fun hr15 => ?_)
  refine x_w2 ?_
  refine x_if (fun hT16 => ?_)
  refine x_if (fun hT17 => ?_)
  refine x_if (fun hg18 => ?_)
  refine x_copyB (μ := mu_x2_put) (pc := 49) q1027 dX2_put_49 hT16 hT17 hg18 (by omega) (Nat.le_of_ble_eq_true rfl) (fun _ q => gE_wCI q) ?_
  refine x_let (fun s19 e20 => ?_)
  exact x_vret (μ := mu_x2_put) (pc := 52) (a1 := s19) dX2_put_52 rfl rfl (gRel_E.1 _) trivial
def x2_copy (v0 : Nat) (v1 : Nat) (σ : gMem) : Option gMem := if mT σ v1 = 2 then if mT σ v0 = 2 then if mT σ (mR σ v1 0) = 102 then if mT σ (mR σ v0 0) = 102 then if (0 ≤ (0 : Int) ∧ 0 ≤ (0 : Int) ∧ 0 ≤ (320 : Int)) ∧ (0 : Int) + (320 : Int) ≤ (mN σ (mR σ v1 0) : Int) ∧ (0 : Int) + (320 : Int) ≤ (mN σ (mR σ v0 0) : Int) then gLet (wCI σ (mR σ v1 0) (0 : Int).toNat (mR σ v0 0) (0 : Int).toNat (320 : Int).toNat) (fun s6 => if mT s6 (mR s6 v1 1) = 102 then if mT s6 (mR s6 v0 1) = 102 then if (0 ≤ (0 : Int) ∧ 0 ≤ (0 : Int) ∧ 0 ≤ (320 : Int)) ∧ (0 : Int) + (320 : Int) ≤ (mN s6 (mR s6 v1 1) : Int) ∧ (0 : Int) + (320 : Int) ≤ (mN s6 (mR s6 v0 1) : Int) then gLet (wCI s6 (mR s6 v1 1) (0 : Int).toNat (mR s6 v0 1) (0 : Int).toNat (320 : Int).toNat) (fun s11 => if mT s11 (mR s11 v1 3) = 101 then if mT s11 (mR s11 v0 3) = 101 then if (0 ≤ (0 : Int) ∧ 0 ≤ (0 : Int) ∧ 0 ≤ (320 : Int)) ∧ (0 : Int) + (320 : Int) ≤ (mN s11 (mR s11 v1 3) : Int) ∧ (0 : Int) + (320 : Int) ≤ (mN s11 (mR s11 v0 3) : Int) then gLet (wCL s11 (mR s11 v1 3) (0 : Int).toNat (mR s11 v0 3) (0 : Int).toNat (320 : Int).toNat) (fun s16 => if mT s16 (mR s16 v1 2) = 102 then if mT s16 (mR s16 v0 2) = 102 then if (0 ≤ (0 : Int) ∧ 0 ≤ (0 : Int) ∧ 0 ≤ (7680 : Int)) ∧ (0 : Int) + (7680 : Int) ≤ (mN s16 (mR s16 v1 2) : Int) ∧ (0 : Int) + (7680 : Int) ≤ (mN s16 (mR s16 v0 2) : Int) then gLet (wCI s16 (mR s16 v1 2) (0 : Int).toNat (mR s16 v0 2) (0 : Int).toNat (7680 : Int).toNat) (fun s21 => some s21) else none else none else none) else none else none else none) else none else none else none) else none else none else none else none else none
set_option maxRecDepth 100000 in
theorem ok_x2_copy {ω : gW} {l : Launch} {d : Nat} {σ : gMem} {v0 : Nat} {v1 : Nat} (hl : l.stackTraces = false) (hdp : 1 ≤ d) : gK (fun p : gMem => (.inl none, p)) gE ω l d mu_x2_copy [vR v0, vR v1] σ (x2_copy v0 v1 σ) := by
  refine gK.of hp_X2 (Nat.le_of_ble_eq_true rfl) ?_
  unfold x2_copy
  refine x_aload_n (μ := mu_x2_copy) (pc := 0) 1 dX2_copy_0 rfl ?_
  refine x_if (fun hT1 => ?_)
  refine x_fgr (μ := mu_x2_copy) (pc := 1) fX2_0 (by first | exact Or.inl ⟨_, rfl⟩ | exact Or.inr ⟨_, rfl⟩) q284 dX2_copy_1 hT1 ?_
  refine x_iconst (μ := mu_x2_copy) (pc := 4) dX2_copy_4 ?_
  refine x_aload_n (μ := mu_x2_copy) (pc := 5) 0 dX2_copy_5 rfl ?_
  refine x_if (fun hT2 => ?_)
  refine x_fgr (μ := mu_x2_copy) (pc := 6) fX2_0 (by first | exact Or.inl ⟨_, rfl⟩ | exact Or.inr ⟨_, rfl⟩) q284 dX2_copy_6 hT2 ?_
  refine x_iconst (μ := mu_x2_copy) (pc := 9) dX2_copy_9 ?_
  refine x_sipush (μ := mu_x2_copy) (pc := 10) dX2_copy_10 (by decide) ?_
  refine x_if (fun hT3 => ?_)
  refine x_if (fun hT4 => ?_)
  refine x_if (fun hg5 => ?_)
  refine x_copyB (μ := mu_x2_copy) (pc := 13) q1027 dX2_copy_13 hT3 hT4 hg5 (by omega) (Nat.le_of_ble_eq_true rfl) (fun _ q => gE_wCI q) ?_
  refine x_let (fun s6 e7 => ?_)
  refine x_aload_n (μ := mu_x2_copy) (pc := 16) 1 dX2_copy_16 rfl ?_
  refine x_fgr (μ := mu_x2_copy) (pc := 17) fX2_1 (by first | exact Or.inl ⟨_, rfl⟩ | exact Or.inr ⟨_, rfl⟩) q286 dX2_copy_17 (gT_CI e7 hT1) ?_
  refine x_iconst (μ := mu_x2_copy) (pc := 20) dX2_copy_20 ?_
  refine x_aload_n (μ := mu_x2_copy) (pc := 21) 0 dX2_copy_21 rfl ?_
  refine x_fgr (μ := mu_x2_copy) (pc := 22) fX2_1 (by first | exact Or.inl ⟨_, rfl⟩ | exact Or.inr ⟨_, rfl⟩) q286 dX2_copy_22 (gT_CI e7 hT2) ?_
  refine x_iconst (μ := mu_x2_copy) (pc := 25) dX2_copy_25 ?_
  refine x_sipush (μ := mu_x2_copy) (pc := 26) dX2_copy_26 (by decide) ?_
  refine x_if (fun hT8 => ?_)
  refine x_if (fun hT9 => ?_)
  refine x_if (fun hg10 => ?_)
  refine x_copyB (μ := mu_x2_copy) (pc := 29) q1027 dX2_copy_29 hT8 hT9 hg10 (by omega) (Nat.le_of_ble_eq_true rfl) (fun _ q => gE_wCI q) ?_
  refine x_let (fun s11 e12 => ?_)
  refine x_aload_n (μ := mu_x2_copy) (pc := 32) 1 dX2_copy_32 rfl ?_
  refine x_fgr (μ := mu_x2_copy) (pc := 33) fX2_3 (by first | exact Or.inl ⟨_, rfl⟩ | exact Or.inr ⟨_, rfl⟩) q290 dX2_copy_33 (gT_CI e12 (gT_CI e7 hT1)) ?_
  refine x_iconst (μ := mu_x2_copy) (pc := 36) dX2_copy_36 ?_
  refine x_aload_n (μ := mu_x2_copy) (pc := 37) 0 dX2_copy_37 rfl ?_
  refine x_fgr (μ := mu_x2_copy) (pc := 38) fX2_3 (by first | exact Or.inl ⟨_, rfl⟩ | exact Or.inr ⟨_, rfl⟩) q290 dX2_copy_38 (gT_CI e12 (gT_CI e7 hT2)) ?_
  refine x_iconst (μ := mu_x2_copy) (pc := 41) dX2_copy_41 ?_
  refine x_sipush (μ := mu_x2_copy) (pc := 42) dX2_copy_42 (by decide) ?_
  refine x_if (fun hT13 => ?_)
  refine x_if (fun hT14 => ?_)
  refine x_if (fun hg15 => ?_)
  refine x_copyL (μ := mu_x2_copy) (pc := 45) q1027 dX2_copy_45 hT13 hT14 hg15 (by omega) (Nat.le_of_ble_eq_true rfl) (fun _ q => gE_wCL q) ?_
  refine x_let (fun s16 e17 => ?_)
  refine x_aload_n (μ := mu_x2_copy) (pc := 48) 1 dX2_copy_48 rfl ?_
  refine x_fgr (μ := mu_x2_copy) (pc := 49) fX2_2 (by first | exact Or.inl ⟨_, rfl⟩ | exact Or.inr ⟨_, rfl⟩) q288 dX2_copy_49 (gT_CL e17 (gT_CI e12 (gT_CI e7 hT1))) ?_
  refine x_iconst (μ := mu_x2_copy) (pc := 52) dX2_copy_52 ?_
  refine x_aload_n (μ := mu_x2_copy) (pc := 53) 0 dX2_copy_53 rfl ?_
  refine x_fgr (μ := mu_x2_copy) (pc := 54) fX2_2 (by first | exact Or.inl ⟨_, rfl⟩ | exact Or.inr ⟨_, rfl⟩) q288 dX2_copy_54 (gT_CL e17 (gT_CI e12 (gT_CI e7 hT2))) ?_
  refine x_iconst (μ := mu_x2_copy) (pc := 57) dX2_copy_57 ?_
  refine x_sipush (μ := mu_x2_copy) (pc := 58) dX2_copy_58 (by decide) ?_
  refine x_if (fun hT18 => ?_)
  refine x_if (fun hT19 => ?_)
  refine x_if (fun hg20 => ?_)
  refine x_copyB (μ := mu_x2_copy) (pc := 61) q1027 dX2_copy_61 hT18 hT19 hg20 (by omega) (Nat.le_of_ble_eq_true rfl) (fun _ q => gE_wCI q) ?_
  refine x_let (fun s21 e22 => ?_)
  exact x_vret (μ := mu_x2_copy) (pc := 64) (a1 := s21) dX2_copy_64 rfl rfl (gRel_E.1 _) trivial
def x20_rank (v0 : Nat) (σ : gMem) : Option Int := some 6
set_option maxRecDepth 100000 in
theorem ok_x20_rank {ω : gW} {l : Launch} {d : Nat} {σ : gMem} {v0 : Nat} (hl : l.stackTraces = false) (hdp : 0 ≤ d) : gK (fun x : Int => (.inl (some (vI x)), σ)) gE ω l d mu_x20_rank [vR v0] σ (x20_rank v0 σ) := by
  refine gK.of hp_X20 (Nat.le_of_ble_eq_true rfl) ?_
  unfold x20_rank
  refine x_bipush (μ := mu_x20_rank) (pc := 0) dX20_rank_0 (by decide) ?_
  exact x_iret (μ := mu_x20_rank) (pc := 2) dX20_rank_2 rfl rfl (gRel_E.1 _) (show g32 6 from (by decide))
def x20_same_l47 (N : Nat) (W : Nat → Nat → gMem → Option Int) (σ : gMem) (v0 : Nat) (v2 : Nat) (K : Int → Option Int) : Nat → Int → Int → Option Int
  | 0, _, _ => none
  | n + 1, v3, v4 => if v3 = 0 then K v3 else if mT σ v0 = 18 then if mT σ (mR σ v0 1) = 108 then if w32 (mN σ (mR σ v0 1) : Int) ≤ v4 then K v3 else if 0 ≤ v4 ∧ v4 < (mN σ (mR σ v0 1) : Int) then if mT σ v2 = 18 then if mT σ (mR σ v2 1) = 108 then if 0 ≤ v4 ∧ v4 < (mN σ (mR σ v2 1) : Int) then (W (mR σ (mR σ v0 1) v4.toNat) (mR σ (mR σ v2 1) v4.toNat) σ).bind (fun x9 => x20_same_l47 N W σ v0 v2 K n x9 (w32 (v4 + 1))) else none else none else none else none else none else none
set_option maxRecDepth 100000 in
theorem okl_x20_same_l47 {ω : gW} {l : Launch} {d : Nat} {N : Nat} {W : Nat → Nat → gMem → Option Int} {dW : Nat} {σ : gMem} {v0 : Nat} {v2 : Nat} {K : Int → Option Int} (hl : l.stackTraces = false) (hW : ∀ (a0 : Nat) (a1 : Nat) (s : gMem), gKI (fun x : Int => (.inl (some (vI x)), s)) gE ω l dW iy_Part_same (some .boolean) [vR a0, vR a1] s (W a0 a1 s)) (hdp : 0 ≤ d) (hdw : dW + 1 ≤ d) (hK : ∀ (v3 : Int) , g32 v3 → GG (fun x : Int => (.inl (some (vI x)), σ)) gE ω l d mu_x20_same σ 87 [(3, vI v3)] [] σ (K v3)) : ∀ (n : Nat) (v3 : Int) (v4 : Int) , g32 v3 → g32 v4 → GG (fun x : Int => (.inl (some (vI x)), σ)) gE ω l d mu_x20_same σ 47 [(0, vR v0), (2, vR v2), (3, vI v3), (4, vI v4)] [] σ (x20_same_l47 N W σ v0 v2 K n v3 v4) := by
  intro n
  induction n with
  | zero => intros; exact x_none
  | succ n ih =>
    intro v3 v4 hv3 hv4
    unfold x20_same_l47
    refine x_iload_n (μ := mu_x20_same) (pc := 47) 2 dX20_same_47 rfl ?_
    refine x_if_eq (μ := mu_x20_same) (pc := 48) (tgt := 87) dX20_same_48 rfl hv3 ?_ ?_
    · refine x_loc (lv' := [(3, vI v3)]) [2] rfl ?_
      exact hK v3 hv3
    · refine x_iload (μ := mu_x20_same) (pc := 51) 3 dX20_same_51 rfl ?_
      refine x_aload_n (μ := mu_x20_same) (pc := 53) 0 dX20_same_53 rfl ?_
      refine x_if (fun hT5 => ?_)
      refine x_fgr (μ := mu_x20_same) (pc := 54) fX20_1 (by first | exact Or.inl ⟨_, rfl⟩ | exact Or.inr ⟨_, rfl⟩) q2041 dX20_same_54 hT5 ?_
      refine x_if (fun hT6 => ?_)
      refine x_len (μ := mu_x20_same) (pc := 57) 8 (fun _ => rfl) dX20_same_57 hT6 ?_
      refine x_w1 ?_
      refine x_icmp_ge (μ := mu_x20_same) (pc := 58) (tgt := 87) dX20_same_58 rfl hv4 (w32_rng _) ?_ ?_
      · refine x_loc (lv' := [(3, vI v3)]) [2] rfl ?_
        exact hK v3 hv3
      · refine x_aload_n (μ := mu_x20_same) (pc := 61) 0 dX20_same_61 rfl ?_
        refine x_fgr (μ := mu_x20_same) (pc := 62) fX20_1 (by first | exact Or.inl ⟨_, rfl⟩ | exact Or.inr ⟨_, rfl⟩) q2041 dX20_same_62 hT5 ?_
        refine x_iload (μ := mu_x20_same) (pc := 65) 3 dX20_same_65 rfl ?_
        refine x_aald (μ := mu_x20_same) (pc := 67) 8 (fun _ => rfl) rfl rfl dX20_same_67 hT6 rfl ?_
        refine x_aload_n (μ := mu_x20_same) (pc := 68) 1 dX20_same_68 rfl ?_
        refine x_if (fun hT7 => ?_)
        refine x_fgr (μ := mu_x20_same) (pc := 69) fX20_1 (by first | exact Or.inl ⟨_, rfl⟩ | exact Or.inr ⟨_, rfl⟩) q2041 dX20_same_69 hT7 ?_
        refine x_iload (μ := mu_x20_same) (pc := 72) 3 dX20_same_72 rfl ?_
        refine x_if (fun hT8 => ?_)
        refine x_aald (μ := mu_x20_same) (pc := 74) 8 (fun _ => rfl) rfl rfl dX20_same_74 hT8 rfl ?_
        refine x_callF_pi (μ := mu_x20_same) (pc := 75) (hW (mR σ (mR σ v0 1) v4.toNat) (mR σ (mR σ v2 1) v4.toNat) σ ) gRel_E gRel_E (fun _ q => q) q1605 dX20_same_75 iy_Part_same_hy (by omega) rfl (Nat.le_of_ble_eq_true rfl) (fun x9 hr10 => ?_)
        refine x_istore_n (μ := mu_x20_same) (pc := 80) (lv' := [(3, vI x9), (0, vR v0), (2, vR v2), (4, vI v4)]) dX20_same_80 rfl (by decide) rfl ?_
        refine x_iincw (μ := mu_x20_same) (pc := 81) (lv' := [(4, vI (w32 (v4 + 1))), (3, vI x9), (0, vR v0), (2, vR v2)]) 3 dX20_same_81 rfl (by decide) rfl ?_
        refine x_goto (μ := mu_x20_same) (pc := 84) (tgt := 47) dX20_same_84 rfl ?_
        refine x_loc (lv' := [(0, vR v0), (2, vR v2), (3, vI x9), (4, vI (w32 (v4 + 1)))]) [2, 3, 1, 0] rfl ?_
        exact ih x9 (w32 (v4 + 1)) hr10 (w32_rng _)
def x20_same_j43 (N : Nat) (W : Nat → Nat → gMem → Option Int) (σ : gMem) (v0 : Nat) (v2 : Nat) (t0 : Int) : Option Int := x20_same_l47 N W σ v0 v2 (fun y11 => if y11 = 0 ∨ y11 = 1 then some y11 else none) N t0 0
set_option maxRecDepth 100000 in
theorem okj_x20_same_j43 {ω : gW} {l : Launch} {d : Nat} {N : Nat} {W : Nat → Nat → gMem → Option Int} {dW : Nat} {σ : gMem} {v0 : Nat} {v2 : Nat} {t0 : Int} (hl : l.stackTraces = false) (hW : ∀ (a0 : Nat) (a1 : Nat) (s : gMem), gKI (fun x : Int => (.inl (some (vI x)), s)) gE ω l dW iy_Part_same (some .boolean) [vR a0, vR a1] s (W a0 a1 s)) (hdp : 0 ≤ d) (hdw : dW + 1 ≤ d) (ht0 : g32 t0) : GG (fun x : Int => (.inl (some (vI x)), σ)) gE ω l d mu_x20_same σ 43 [(0, vR v0), (2, vR v2)] [vI t0] σ (x20_same_j43 N W σ v0 v2 t0 ) := by
  unfold x20_same_j43
  refine x_istore_n (μ := mu_x20_same) (pc := 43) (lv' := [(3, vI t0), (0, vR v0), (2, vR v2)]) dX20_same_43 rfl (by decide) rfl ?_
  refine x_iconst (μ := mu_x20_same) (pc := 44) dX20_same_44 ?_
  refine x_istore (μ := mu_x20_same) (pc := 45) (lv' := [(4, vI 0), (3, vI t0), (0, vR v0), (2, vR v2)]) dX20_same_45 (by decide) rfl ?_
  refine x_loc (lv' := [(0, vR v0), (2, vR v2), (3, vI t0), (4, vI 0)]) [2, 3, 1, 0] rfl ?_
  refine okl_x20_same_l47 hl hW hdp hdw (fun y11 hy11 => ?_) N t0 0 ht0 (by decide)
  refine x_iload_n (μ := mu_x20_same) (pc := 87) 0 dX20_same_87 rfl ?_
  exact x_if (μ := mu_x20_same) (pc := 88) (fun hz => x_zret dX20_same_88 rfl hz rfl (gRel_E.1 _) (show g32 y11 from hy11))
def x20_same_j42 (N : Nat) (W : Nat → Nat → gMem → Option Int) (σ : gMem) (v0 : Nat) (v2 : Nat) : Option Int := x20_same_j43 N W σ v0 v2 0
set_option maxRecDepth 100000 in
theorem okj_x20_same_j42 {ω : gW} {l : Launch} {d : Nat} {N : Nat} {W : Nat → Nat → gMem → Option Int} {dW : Nat} {σ : gMem} {v0 : Nat} {v2 : Nat} (hl : l.stackTraces = false) (hW : ∀ (a0 : Nat) (a1 : Nat) (s : gMem), gKI (fun x : Int => (.inl (some (vI x)), s)) gE ω l dW iy_Part_same (some .boolean) [vR a0, vR a1] s (W a0 a1 s)) (hdp : 0 ≤ d) (hdw : dW + 1 ≤ d) : GG (fun x : Int => (.inl (some (vI x)), σ)) gE ω l d mu_x20_same σ 42 [(0, vR v0), (2, vR v2)] [] σ (x20_same_j42 N W σ v0 v2 ) := by
  unfold x20_same_j42
  refine x_iconst (μ := mu_x20_same) (pc := 42) dX20_same_42 ?_
  exact okj_x20_same_j43 hl hW hdp hdw (by decide)
def x20_same (N : Nat) (W : Nat → Nat → gMem → Option Int) (v0 : Nat) (v1 : Nat) (σ : gMem) : Option Int := if v1 = 0 ∨ gNode (mT σ v1) = true then if mT σ v1 = 18 then if v1 = 0 ∨ mT σ v1 = 18 then if mT σ v1 = 18 then if mT σ v0 = 18 then if mR σ v1 0 ≠ mR σ v0 0 then x20_same_j42 N W σ v0 v1  else if mT σ (mR σ v1 1) = 108 then if mT σ (mR σ v0 1) = 108 then if w32 (mN σ (mR σ v1 1) : Int) ≠ w32 (mN σ (mR σ v0 1) : Int) then x20_same_j42 N W σ v0 v1  else x20_same_j43 N W σ v0 v1 1 else none else none else none else none else none else some 0 else none
set_option maxRecDepth 100000 in
theorem ok_x20_same {ω : gW} {l : Launch} {d : Nat} {N : Nat} {W : Nat → Nat → gMem → Option Int} {dW : Nat} {σ : gMem} {v0 : Nat} {v1 : Nat} (hl : l.stackTraces = false) (hW : ∀ (a0 : Nat) (a1 : Nat) (s : gMem), gKI (fun x : Int => (.inl (some (vI x)), s)) gE ω l dW iy_Part_same (some .boolean) [vR a0, vR a1] s (W a0 a1 s)) (hdp : 0 ≤ d) (hdw : dW + 1 ≤ d) : gK (fun x : Int => (.inl (some (vI x)), σ)) gE ω l d mu_x20_same [vR v0, vR v1] σ (x20_same N W v0 v1 σ) := by
  refine gK.of hp_X20 (Nat.le_of_ble_eq_true rfl) ?_
  unfold x20_same
  refine x_aload_n (μ := mu_x20_same) (pc := 0) 1 dX20_same_0 rfl ?_
  refine x_if (fun hg1 => ?_)
  refine x_inst (μ := mu_x20_same) (pc := 1) (ci := 17) (by decide) rfl q1603 dX20_same_1 hg1 ?_ ?_
  · refine x_if_neT (μ := mu_x20_same) (pc := 4) (tgt := 9) dX20_same_4 rfl (by decide) (by decide) ?_
    refine x_aload_n (μ := mu_x20_same) (pc := 9) 1 dX20_same_9 rfl ?_
    refine x_if (fun hg2 => ?_)
    refine x_castC (μ := mu_x20_same) (pc := 10) (ci := 17) rfl q1603 dX20_same_10 hg2 ?_
    refine x_astore_n (μ := mu_x20_same) (pc := 13) (lv' := [(2, vR v1), (0, vR v0), (1, vR v1)]) dX20_same_13 rfl (by decide) rfl ?_
    refine x_aload_n (μ := mu_x20_same) (pc := 14) 0 dX20_same_14 rfl ?_
    refine x_if (fun hT3 => ?_)
    refine x_fgr (μ := mu_x20_same) (pc := 15) fX20_0 (by first | exact Or.inl ⟨_, rfl⟩ | exact Or.inr ⟨_, rfl⟩) q2040 dX20_same_15 hT3 ?_
    refine x_aload_n (μ := mu_x20_same) (pc := 18) 1 dX20_same_18 rfl ?_
    refine x_if (fun hT4 => ?_)
    refine x_fgr (μ := mu_x20_same) (pc := 19) fX20_0 (by first | exact Or.inl ⟨_, rfl⟩ | exact Or.inr ⟨_, rfl⟩) q2040 dX20_same_19 hT4 ?_
    refine x_acmp_ne (μ := mu_x20_same) (pc := 22) (tgt := 42) dX20_same_22 rfl ?_ ?_
    · refine x_loc (lv' := [(0, vR v0), (2, vR v1)]) [1, 0] rfl ?_
      exact okj_x20_same_j42 hl hW hdp hdw
    · refine x_aload_n (μ := mu_x20_same) (pc := 25) 0 dX20_same_25 rfl ?_
      refine x_fgr (μ := mu_x20_same) (pc := 26) fX20_1 (by first | exact Or.inl ⟨_, rfl⟩ | exact Or.inr ⟨_, rfl⟩) q2041 dX20_same_26 hT3 ?_
      refine x_if (fun hT12 => ?_)
      refine x_len (μ := mu_x20_same) (pc := 29) 8 (fun _ => rfl) dX20_same_29 hT12 ?_
      refine x_aload_n (μ := mu_x20_same) (pc := 30) 1 dX20_same_30 rfl ?_
      refine x_fgr (μ := mu_x20_same) (pc := 31) fX20_1 (by first | exact Or.inl ⟨_, rfl⟩ | exact Or.inr ⟨_, rfl⟩) q2041 dX20_same_31 hT4 ?_
      refine x_if (fun hT13 => ?_)
      refine x_len (μ := mu_x20_same) (pc := 34) 8 (fun _ => rfl) dX20_same_34 hT13 ?_
      refine x_w1 ?_
      refine x_w2 ?_
      refine x_icmp_ne (μ := mu_x20_same) (pc := 35) (tgt := 42) dX20_same_35 rfl (w32_rng _) (w32_rng _) ?_ ?_
      · refine x_loc (lv' := [(0, vR v0), (2, vR v1)]) [1, 0] rfl ?_
        exact okj_x20_same_j42 hl hW hdp hdw
      · refine x_iconst (μ := mu_x20_same) (pc := 38) dX20_same_38 ?_
        refine x_goto (μ := mu_x20_same) (pc := 39) (tgt := 43) dX20_same_39 rfl ?_
        refine x_loc (lv' := [(0, vR v0), (2, vR v1)]) [1, 0] rfl ?_
        exact okj_x20_same_j43 hl hW hdp hdw (by decide)
  · refine x_if_neF (μ := mu_x20_same) (pc := 4) (tgt := 9) dX20_same_4 rfl (by decide) (by decide) ?_
    refine x_iconst (μ := mu_x20_same) (pc := 7) dX20_same_7 ?_
    exact x_zret (μ := mu_x20_same) (pc := 8) dX20_same_8 rfl (by decide) rfl (gRel_E.1 _) (show g32 0 from (by decide))
def x20_init (v0 : Nat) (v1 : Nat) (v2 : Nat) (σ : gMem) : Option gMem := if mT σ v0 = 18 then gLet (wR σ v0 0 v1) (fun s2 => gLet (wR s2 v0 1 v2) (fun s4 => some s4)) else none
set_option maxRecDepth 100000 in
theorem ok_x20_init {ω : gW} {l : Launch} {d : Nat} {σ : gMem} {v0 : Nat} {v1 : Nat} {v2 : Nat} (hl : l.stackTraces = false) (hdp : 2 ≤ d) : gK (fun p : gMem => (.inl none, p)) gE ω l d mu_x20_init [vR v0, vR v1, vR v2] σ (x20_init v0 v1 v2 σ) := by
  refine gK.of hp_X20 (Nat.le_of_ble_eq_true rfl) ?_
  unfold x20_init
  refine x_aload_n (μ := mu_x20_init) (pc := 0) 0 dX20_init_0 rfl ?_
  refine x_if (fun hT1 => ?_)
  refine x_recI (μ := mu_x20_init) (pc := 1) (ci := 17) rfl q2039 dX20_init_1 hT1 (by omega) (Nat.le_of_ble_eq_true rfl) ?_
  refine x_aload_n (μ := mu_x20_init) (pc := 4) 0 dX20_init_4 rfl ?_
  refine x_aload_n (μ := mu_x20_init) (pc := 5) 1 dX20_init_5 rfl ?_
  refine x_fprF (μ := mu_x20_init) (pc := 6) fX20_0 q2040 rfl rfl (by first | exact Or.inl ⟨_, rfl⟩ | exact Or.inr ⟨_, rfl⟩) dX20_init_6 hT1 (fun _ q => gE_wR q) ?_
  refine x_let (fun s2 e3 => ?_)
  refine x_aload_n (μ := mu_x20_init) (pc := 9) 0 dX20_init_9 rfl ?_
  refine x_aload_n (μ := mu_x20_init) (pc := 10) 2 dX20_init_10 rfl ?_
  refine x_fprF (μ := mu_x20_init) (pc := 11) fX20_1 q2041 rfl rfl (by first | exact Or.inl ⟨_, rfl⟩ | exact Or.inr ⟨_, rfl⟩) dX20_init_11 (gT_R e3 hT1) (fun _ q => gE_wR q) ?_
  refine x_let (fun s4 e5 => ?_)
  exact x_vret (μ := mu_x20_init) (pc := 14) (a1 := s4) dX20_init_14 rfl rfl (gRel_E.1 _) trivial
def x20_shifted_l11 (N : Nat) (W : Nat → Nat → gMem → Option (Nat × gMem)) (v0 : Nat) (v1 : Nat) (v2 : Nat) (K : gMem → Option (Nat × gMem)) : Nat → Int → gMem → Option (Nat × gMem)
  | 0, _, _ => none
  | n + 1, v3, s => if mT s v0 = 18 then if mT s (mR s v0 1) = 108 then if w32 (mN s (mR s v0 1) : Int) ≤ v3 then K s else if 0 ≤ v3 ∧ v3 < (mN s (mR s v0 1) : Int) then (W (mR s (mR s v0 1) v3.toNat) v1 s).bind (fun x9 => if mT (x9.2) v2 = 108 then if x9.1 = 0 ∨ gAsg 8 (mT (x9.2) (x9.1)) = true then if 0 ≤ v3 ∧ v3 < (mN (x9.2) v2 : Int) then gLet (wR (x9.2) v2 v3.toNat (x9.1)) (fun s13 => x20_shifted_l11 N W v0 v1 v2 K n (w32 (v3 + 1)) s13) else none else none else none) else none else none else none
set_option maxRecDepth 100000 in
theorem okl_x20_shifted_l11 {ω : gW} {l : Launch} {d : Nat} {N : Nat} {W : Nat → Nat → gMem → Option (Nat × gMem)} {dW : Nat} {σ0 : gMem} {v0 : Nat} {v1 : Nat} {v2 : Nat} {K : gMem → Option (Nat × gMem)} (hl : l.stackTraces = false) (hW : ∀ (a0 : Nat) (a1 : Nat) (s : gMem), gKI (fun p : Nat × gMem => (.inl (some (vR p.1)), p.2)) gE ω l dW iy_Part_shifted (some (.object "SheetBranches$Part")) [vR a0, vR a1] s (W a0 a1 s)) (hdp : 3 ≤ d) (hdw : dW + 1 ≤ d) (hK : ∀ (s : gMem) , GG (fun p : Nat × gMem => (.inl (some (vR p.1)), p.2)) gE ω l d mu_x20_shifted σ0 41 [(0, vR v0), (2, vR v2)] [] s (K s)) : ∀ (n : Nat) (v3 : Int) (s : gMem) , g32 v3 → GG (fun p : Nat × gMem => (.inl (some (vR p.1)), p.2)) gE ω l d mu_x20_shifted σ0 11 [(0, vR v0), (1, vR v1), (2, vR v2), (3, vI v3)] [] s (x20_shifted_l11 N W v0 v1 v2 K n v3 s) := by
  intro n
  induction n with
  | zero => intros; exact x_none
  | succ n ih =>
    intro v3 s hv3
    unfold x20_shifted_l11
    refine x_iload_n (μ := mu_x20_shifted) (pc := 11) 3 dX20_shifted_11 rfl ?_
    refine x_aload_n (μ := mu_x20_shifted) (pc := 12) 0 dX20_shifted_12 rfl ?_
    refine x_if (fun hT7 => ?_)
    refine x_fgr (μ := mu_x20_shifted) (pc := 13) fX20_1 (by first | exact Or.inl ⟨_, rfl⟩ | exact Or.inr ⟨_, rfl⟩) q2041 dX20_shifted_13 hT7 ?_
    refine x_if (fun hT8 => ?_)
    refine x_len (μ := mu_x20_shifted) (pc := 16) 8 (fun _ => rfl) dX20_shifted_16 hT8 ?_
    refine x_w1 ?_
    refine x_icmp_ge (μ := mu_x20_shifted) (pc := 17) (tgt := 41) dX20_shifted_17 rfl hv3 (w32_rng _) ?_ ?_
    · refine x_loc (lv' := [(0, vR v0), (2, vR v2)]) [0, 2] rfl ?_
      exact hK s
    · refine x_aload_n (μ := mu_x20_shifted) (pc := 20) 2 dX20_shifted_20 rfl ?_
      refine x_iload_n (μ := mu_x20_shifted) (pc := 21) 3 dX20_shifted_21 rfl ?_
      refine x_aload_n (μ := mu_x20_shifted) (pc := 22) 0 dX20_shifted_22 rfl ?_
      refine x_fgr (μ := mu_x20_shifted) (pc := 23) fX20_1 (by first | exact Or.inl ⟨_, rfl⟩ | exact Or.inr ⟨_, rfl⟩) q2041 dX20_shifted_23 hT7 ?_
      refine x_iload_n (μ := mu_x20_shifted) (pc := 26) 3 dX20_shifted_26 rfl ?_
      refine x_aald (μ := mu_x20_shifted) (pc := 27) 8 (fun _ => rfl) rfl rfl dX20_shifted_27 hT8 rfl ?_
      refine x_aload_n (μ := mu_x20_shifted) (pc := 28) 1 dX20_shifted_28 rfl ?_
      refine x_callF_mr (μ := mu_x20_shifted) (pc := 29) (hW (mR s (mR s v0 1) v3.toNat) v1 s ) gRel_E gRel_E (fun _ q => q) q2322 dX20_shifted_29 iy_Part_shifted_hy (by omega) rfl (Nat.le_of_ble_eq_true rfl) (fun x9 k10 => ?_)
      refine x_if (fun hT11 => ?_)
      refine x_if (fun hz12 => ?_)
      refine x_aast (μ := mu_x20_shifted) (pc := 34) 8 ⟨fun _ => rfl, rfl, rfl⟩ dX20_shifted_34 hT11 rfl hz12 (fun _ _ q => gE_wR q) ?_
      refine x_let (fun s13 e14 => ?_)
      refine x_iincw (μ := mu_x20_shifted) (pc := 35) (lv' := [(3, vI (w32 (v3 + 1))), (0, vR v0), (1, vR v1), (2, vR v2)]) 3 dX20_shifted_35 rfl (by decide) rfl ?_
      refine x_goto (μ := mu_x20_shifted) (pc := 38) (tgt := 11) dX20_shifted_38 rfl ?_
      refine x_loc (lv' := [(0, vR v0), (1, vR v1), (2, vR v2), (3, vI (w32 (v3 + 1)))]) [1, 2, 3, 0] rfl ?_
      exact ih (w32 (v3 + 1)) s13 (w32_rng _)
def x20_shifted (N : Nat) (W : Nat → Nat → gMem → Option (Nat × gMem)) (v0 : Nat) (v1 : Nat) (σ : gMem) : Option (Nat × gMem) := if mT σ v0 = 18 then if mT σ (mR σ v0 1) = 108 then if 0 ≤ (w32 (mN σ (mR σ v0 1) : Int)) ∧ (w32 (mN σ (mR σ v0 1) : Int)) < 1000000 then gLet (wN σ 108 (w32 (mN σ (mR σ v0 1) : Int)).toNat) (fun s5 => x20_shifted_l11 N W v0 v1 (mZ σ) (fun s15 => gLet (wN s15 18 2) (fun s17 => if mT s17 v0 = 18 then (x20_init (mZ s15) (mR s17 v0 0) (mZ σ) s17).bind (fun x20 => some (mZ s15, x20)) else none)) N 0 s5) else none else none else none
set_option maxRecDepth 100000 in
theorem ok_x20_shifted {ω : gW} {l : Launch} {d : Nat} {N : Nat} {W : Nat → Nat → gMem → Option (Nat × gMem)} {dW : Nat} {σ : gMem} {v0 : Nat} {v1 : Nat} (hl : l.stackTraces = false) (hW : ∀ (a0 : Nat) (a1 : Nat) (s : gMem), gKI (fun p : Nat × gMem => (.inl (some (vR p.1)), p.2)) gE ω l dW iy_Part_shifted (some (.object "SheetBranches$Part")) [vR a0, vR a1] s (W a0 a1 s)) (hdp : 3 ≤ d) (hdw : dW + 1 ≤ d) : gK (fun p : Nat × gMem => (.inl (some (vR p.1)), p.2)) gE ω l d mu_x20_shifted [vR v0, vR v1] σ (x20_shifted N W v0 v1 σ) := by
  refine gK.of hp_X20 (Nat.le_of_ble_eq_true rfl) ?_
  unfold x20_shifted
  refine x_aload_n (μ := mu_x20_shifted) (pc := 0) 0 dX20_shifted_0 rfl ?_
  refine x_if (fun hT1 => ?_)
  refine x_fgr (μ := mu_x20_shifted) (pc := 1) fX20_1 (by first | exact Or.inl ⟨_, rfl⟩ | exact Or.inr ⟨_, rfl⟩) q2041 dX20_shifted_1 hT1 ?_
  refine x_if (fun hT2 => ?_)
  refine x_len (μ := mu_x20_shifted) (pc := 4) 8 (fun _ => rfl) dX20_shifted_4 hT2 ?_
  refine x_w1 ?_
  refine x_if (fun hg3 => ?_)
  refine x_ok (fun ok4 => ?_)
  refine x_anew (μ := mu_x20_shifted) (pc := 5) 8 (fun _ => rfl) rfl (by decide) q2320 dX20_shifted_5 hg3 ?_
  refine x_let (fun s5 e6 => ?_)
  refine x_astore_n (μ := mu_x20_shifted) (pc := 8) (lv' := [(2, vR (mZ σ)), (0, vR v0), (1, vR v1)]) dX20_shifted_8 rfl (by decide) rfl ?_
  refine x_iconst (μ := mu_x20_shifted) (pc := 9) dX20_shifted_9 ?_
  refine x_istore_n (μ := mu_x20_shifted) (pc := 10) (lv' := [(3, vI 0), (2, vR (mZ σ)), (0, vR v0), (1, vR v1)]) dX20_shifted_10 rfl (by decide) rfl ?_
  refine x_loc (lv' := [(0, vR v0), (1, vR v1), (2, vR (mZ σ)), (3, vI 0)]) [2, 3, 1, 0] rfl ?_
  refine okl_x20_shifted_l11 hl hW hdp hdw (fun s15 => ?_) N 0 s5 (by decide)
  refine x_ok (fun ok16 => ?_)
  refine x_new (μ := mu_x20_shifted) (pc := 41) (ci := 17) gk_X20 gd_X20 q1603 q1208 q252 dX20_shifted_41 ?_
  refine x_let (fun s17 e18 => ?_)
  refine x_dup (μ := mu_x20_shifted) (pc := 44) dX20_shifted_44 rfl ?_
  refine x_aload_n (μ := mu_x20_shifted) (pc := 45) 0 dX20_shifted_45 rfl ?_
  refine x_if (fun hT19 => ?_)
  refine x_fgr (μ := mu_x20_shifted) (pc := 46) fX20_0 (by first | exact Or.inl ⟨_, rfl⟩ | exact Or.inr ⟨_, rfl⟩) q2040 dX20_shifted_46 hT19 ?_
  refine x_aload_n (μ := mu_x20_shifted) (pc := 49) 1 dX20_shifted_49 rfl ?_
  refine x_callI_mv (μ := mu_x20_shifted) (pc := 50) (ok_x20_init (ω := ω) (l := l) (d := d - 1) hl (by omega) ) gRel_E gRel_E (fun _ q => q) q2369 q2037 q252 q2038 dX20_shifted_50 (gT_ne (gT_new e18)) rfl hy_x20_init (by omega) (Nat.le_of_ble_eq_true rfl) rfl (Nat.le_of_ble_eq_true rfl) (fun x20 k21 => ?_)
  exact x_aret (μ := mu_x20_shifted) (pc := 53) dX20_shifted_53 rfl (by first | exact Or.inl ⟨_, rfl⟩ | exact Or.inr ⟨_, rfl⟩) rfl (gRel_E.1 _) trivial
def x21_leads (N : Nat) (W : Nat → Nat → Nat → gMem → Option gMem) (v0 : Nat) (v1 : Nat) (v2 : Nat) (σ : gMem) : Option gMem := if mT σ v0 = 19 then (W (mR σ v0 0) v1 v2 σ).bind (fun x2 => some x2) else none
set_option maxRecDepth 100000 in
theorem ok_x21_leads {ω : gW} {l : Launch} {d : Nat} {N : Nat} {W : Nat → Nat → Nat → gMem → Option gMem} {dW : Nat} {σ : gMem} {v0 : Nat} {v1 : Nat} {v2 : Nat} (hl : l.stackTraces = false) (hW : ∀ (a0 : Nat) (a1 : Nat) (a2 : Nat) (s : gMem), gKI (fun p : gMem => (.inl none, p)) gE ω l dW iy_Part_leads none [vR a0, vR a1, vR a2] s (W a0 a1 a2 s)) (hdp : 0 ≤ d) (hdw : dW + 1 ≤ d) : gK (fun p : gMem => (.inl none, p)) gE ω l d mu_x21_leads [vR v0, vR v1, vR v2] σ (x21_leads N W v0 v1 v2 σ) := by
  refine gK.of hp_X21 (Nat.le_of_ble_eq_true rfl) ?_
  unfold x21_leads
  refine x_aload_n (μ := mu_x21_leads) (pc := 0) 0 dX21_leads_0 rfl ?_
  refine x_if (fun hT1 => ?_)
  refine x_fgr (μ := mu_x21_leads) (pc := 1) fX21_0 (by first | exact Or.inl ⟨_, rfl⟩ | exact Or.inr ⟨_, rfl⟩) q2053 dX21_leads_1 hT1 ?_
  refine x_aload_n (μ := mu_x21_leads) (pc := 4) 1 dX21_leads_4 rfl ?_
  refine x_aload_n (μ := mu_x21_leads) (pc := 5) 2 dX21_leads_5 rfl ?_
  refine x_callF_mv (μ := mu_x21_leads) (pc := 6) (hW (mR σ v0 0) v1 v2 σ ) gRel_E gRel_E (fun _ q => q) q899 dX21_leads_6 iy_Part_leads_hy (by omega) rfl (Nat.le_of_ble_eq_true rfl) (fun x2 k3 => ?_)
  exact x_vret (μ := mu_x21_leads) (pc := 11) (a1 := x2) dX21_leads_11 rfl rfl (gRel_E.1 _) trivial
def x21_rank (v0 : Nat) (σ : gMem) : Option Int := some 5
set_option maxRecDepth 100000 in
theorem ok_x21_rank {ω : gW} {l : Launch} {d : Nat} {σ : gMem} {v0 : Nat} (hl : l.stackTraces = false) (hdp : 0 ≤ d) : gK (fun x : Int => (.inl (some (vI x)), σ)) gE ω l d mu_x21_rank [vR v0] σ (x21_rank v0 σ) := by
  refine gK.of hp_X21 (Nat.le_of_ble_eq_true rfl) ?_
  unfold x21_rank
  refine x_iconst (μ := mu_x21_rank) (pc := 0) dX21_rank_0 ?_
  exact x_iret (μ := mu_x21_rank) (pc := 1) dX21_rank_1 rfl rfl (gRel_E.1 _) (show g32 5 from (by decide))
def x21_same (N : Nat) (W : Nat → Nat → gMem → Option Int) (v0 : Nat) (v1 : Nat) (σ : gMem) : Option Int := if v1 = 0 ∨ gNode (mT σ v1) = true then if mT σ v1 = 19 then if mT σ v0 = 19 then if v1 = 0 ∨ mT σ v1 = 19 then if mT σ v1 = 19 then (W (mR σ v0 0) (mR σ v1 0) σ).bind (fun x5 => if x5 = 0 then some 0 else some 1) else none else none else none else some 0 else none
set_option maxRecDepth 100000 in
theorem ok_x21_same {ω : gW} {l : Launch} {d : Nat} {N : Nat} {W : Nat → Nat → gMem → Option Int} {dW : Nat} {σ : gMem} {v0 : Nat} {v1 : Nat} (hl : l.stackTraces = false) (hW : ∀ (a0 : Nat) (a1 : Nat) (s : gMem), gKI (fun x : Int => (.inl (some (vI x)), s)) gE ω l dW iy_Part_same (some .boolean) [vR a0, vR a1] s (W a0 a1 s)) (hdp : 0 ≤ d) (hdw : dW + 1 ≤ d) : gK (fun x : Int => (.inl (some (vI x)), σ)) gE ω l d mu_x21_same [vR v0, vR v1] σ (x21_same N W v0 v1 σ) := by
  refine gK.of hp_X21 (Nat.le_of_ble_eq_true rfl) ?_
  unfold x21_same
  refine x_aload_n (μ := mu_x21_same) (pc := 0) 1 dX21_same_0 rfl ?_
  refine x_if (fun hg1 => ?_)
  refine x_inst (μ := mu_x21_same) (pc := 1) (ci := 18) (by decide) rfl q1617 dX21_same_1 hg1 ?_ ?_
  · refine x_if_eqF (μ := mu_x21_same) (pc := 4) (tgt := 30) dX21_same_4 rfl (by decide) (by decide) ?_
    refine x_aload_n (μ := mu_x21_same) (pc := 7) 0 dX21_same_7 rfl ?_
    refine x_if (fun hT2 => ?_)
    refine x_fgr (μ := mu_x21_same) (pc := 8) fX21_0 (by first | exact Or.inl ⟨_, rfl⟩ | exact Or.inr ⟨_, rfl⟩) q2053 dX21_same_8 hT2 ?_
    refine x_aload_n (μ := mu_x21_same) (pc := 11) 1 dX21_same_11 rfl ?_
    refine x_if (fun hg3 => ?_)
    refine x_castC (μ := mu_x21_same) (pc := 12) (ci := 18) rfl q1617 dX21_same_12 hg3 ?_
    refine x_if (fun hT4 => ?_)
    refine x_fgr (μ := mu_x21_same) (pc := 15) fX21_0 (by first | exact Or.inl ⟨_, rfl⟩ | exact Or.inr ⟨_, rfl⟩) q2053 dX21_same_15 hT4 ?_
    refine x_callF_pi (μ := mu_x21_same) (pc := 18) (hW (mR σ v0 0) (mR σ v1 0) σ ) gRel_E gRel_E (fun _ q => q) q1619 dX21_same_18 iy_Part_same_hy (by omega) rfl (Nat.le_of_ble_eq_true rfl) (fun x5 hr6 => ?_)
    refine x_if_eq (μ := mu_x21_same) (pc := 23) (tgt := 30) dX21_same_23 rfl hr6 ?_ ?_
    · refine x_iconst (μ := mu_x21_same) (pc := 30) dX21_same_30 ?_
      exact x_zret (μ := mu_x21_same) (pc := 31) dX21_same_31 rfl (by decide) rfl (gRel_E.1 _) (show g32 0 from (by decide))
    · refine x_iconst (μ := mu_x21_same) (pc := 26) dX21_same_26 ?_
      refine x_goto (μ := mu_x21_same) (pc := 27) (tgt := 31) dX21_same_27 rfl ?_
      exact x_zret (μ := mu_x21_same) (pc := 31) dX21_same_31 rfl (by decide) rfl (gRel_E.1 _) (show g32 1 from (by decide))
  · refine x_if_eqT (μ := mu_x21_same) (pc := 4) (tgt := 30) dX21_same_4 rfl (by decide) (by decide) ?_
    refine x_iconst (μ := mu_x21_same) (pc := 30) dX21_same_30 ?_
    exact x_zret (μ := mu_x21_same) (pc := 31) dX21_same_31 rfl (by decide) rfl (gRel_E.1 _) (show g32 0 from (by decide))
def x21_init (v0 : Nat) (v1 : Nat) (σ : gMem) : Option gMem := if mT σ v0 = 19 then gLet (wR σ v0 0 v1) (fun s2 => some s2) else none
set_option maxRecDepth 100000 in
theorem ok_x21_init {ω : gW} {l : Launch} {d : Nat} {σ : gMem} {v0 : Nat} {v1 : Nat} (hl : l.stackTraces = false) (hdp : 2 ≤ d) : gK (fun p : gMem => (.inl none, p)) gE ω l d mu_x21_init [vR v0, vR v1] σ (x21_init v0 v1 σ) := by
  refine gK.of hp_X21 (Nat.le_of_ble_eq_true rfl) ?_
  unfold x21_init
  refine x_aload_n (μ := mu_x21_init) (pc := 0) 0 dX21_init_0 rfl ?_
  refine x_if (fun hT1 => ?_)
  refine x_recI (μ := mu_x21_init) (pc := 1) (ci := 18) rfl q2052 dX21_init_1 hT1 (by omega) (Nat.le_of_ble_eq_true rfl) ?_
  refine x_aload_n (μ := mu_x21_init) (pc := 4) 0 dX21_init_4 rfl ?_
  refine x_aload_n (μ := mu_x21_init) (pc := 5) 1 dX21_init_5 rfl ?_
  refine x_fprF (μ := mu_x21_init) (pc := 6) fX21_0 q2053 rfl rfl (by first | exact Or.inl ⟨_, rfl⟩ | exact Or.inr ⟨_, rfl⟩) dX21_init_6 hT1 (fun _ q => gE_wR q) ?_
  refine x_let (fun s2 e3 => ?_)
  exact x_vret (μ := mu_x21_init) (pc := 9) (a1 := s2) dX21_init_9 rfl rfl (gRel_E.1 _) trivial
def x21_shifted (N : Nat) (W : Nat → Nat → gMem → Option (Nat × gMem)) (v0 : Nat) (v1 : Nat) (σ : gMem) : Option (Nat × gMem) := gLet (wN σ 19 1) (fun s2 => if mT s2 v0 = 19 then (W (mR s2 v0 0) v1 s2).bind (fun x5 => (x21_init (mZ σ) (x5.1) (x5.2)).bind (fun x7 => some (mZ σ, x7))) else none)
set_option maxRecDepth 100000 in
theorem ok_x21_shifted {ω : gW} {l : Launch} {d : Nat} {N : Nat} {W : Nat → Nat → gMem → Option (Nat × gMem)} {dW : Nat} {σ : gMem} {v0 : Nat} {v1 : Nat} (hl : l.stackTraces = false) (hW : ∀ (a0 : Nat) (a1 : Nat) (s : gMem), gKI (fun p : Nat × gMem => (.inl (some (vR p.1)), p.2)) gE ω l dW iy_Part_shifted (some (.object "SheetBranches$Part")) [vR a0, vR a1] s (W a0 a1 s)) (hdp : 3 ≤ d) (hdw : dW + 1 ≤ d) : gK (fun p : Nat × gMem => (.inl (some (vR p.1)), p.2)) gE ω l d mu_x21_shifted [vR v0, vR v1] σ (x21_shifted N W v0 v1 σ) := by
  refine gK.of hp_X21 (Nat.le_of_ble_eq_true rfl) ?_
  unfold x21_shifted
  refine x_ok (fun ok1 => ?_)
  refine x_new (μ := mu_x21_shifted) (pc := 0) (ci := 18) gk_X21 gd_X21 q1617 q2048 q253 dX21_shifted_0 ?_
  refine x_let (fun s2 e3 => ?_)
  refine x_dup (μ := mu_x21_shifted) (pc := 3) dX21_shifted_3 rfl ?_
  refine x_aload_n (μ := mu_x21_shifted) (pc := 4) 0 dX21_shifted_4 rfl ?_
  refine x_if (fun hT4 => ?_)
  refine x_fgr (μ := mu_x21_shifted) (pc := 5) fX21_0 (by first | exact Or.inl ⟨_, rfl⟩ | exact Or.inr ⟨_, rfl⟩) q2053 dX21_shifted_5 hT4 ?_
  refine x_aload_n (μ := mu_x21_shifted) (pc := 8) 1 dX21_shifted_8 rfl ?_
  refine x_callF_mr (μ := mu_x21_shifted) (pc := 9) (hW (mR s2 v0 0) v1 s2 ) gRel_E gRel_E (fun _ q => q) q2334 dX21_shifted_9 iy_Part_shifted_hy (by omega) rfl (Nat.le_of_ble_eq_true rfl) (fun x5 k6 => ?_)
  refine x_callI_mv (μ := mu_x21_shifted) (pc := 14) (ok_x21_init (ω := ω) (l := l) (d := d - 1) hl (by omega) ) gRel_E gRel_E (fun _ q => q) q2368 q2050 q253 q2051 dX21_shifted_14 (gT_ne (gT_E k6 (gT_new e3) (by decide))) rfl hy_x21_init (by omega) (Nat.le_of_ble_eq_true rfl) rfl (Nat.le_of_ble_eq_true rfl) (fun x7 k8 => ?_)
  exact x_aret (μ := mu_x21_shifted) (pc := 17) dX21_shifted_17 rfl (by first | exact Or.inl ⟨_, rfl⟩ | exact Or.inr ⟨_, rfl⟩) rfl (gRel_E.1 _) trivial
def x22_leads (N : Nat) (W : Nat → Nat → Nat → gMem → Option gMem) (v0 : Nat) (v1 : Nat) (v2 : Nat) (σ : gMem) : Option gMem := if mT σ v0 = 20 then (W (mR σ v0 1) v1 v2 σ).bind (fun x2 => (W (mR x2 v0 2) v1 v2 x2).bind (fun x4 => some x4)) else none
set_option maxRecDepth 100000 in
theorem ok_x22_leads {ω : gW} {l : Launch} {d : Nat} {N : Nat} {W : Nat → Nat → Nat → gMem → Option gMem} {dW : Nat} {σ : gMem} {v0 : Nat} {v1 : Nat} {v2 : Nat} (hl : l.stackTraces = false) (hW : ∀ (a0 : Nat) (a1 : Nat) (a2 : Nat) (s : gMem), gKI (fun p : gMem => (.inl none, p)) gE ω l dW iy_Part_leads none [vR a0, vR a1, vR a2] s (W a0 a1 a2 s)) (hdp : 0 ≤ d) (hdw : dW + 1 ≤ d) : gK (fun p : gMem => (.inl none, p)) gE ω l d mu_x22_leads [vR v0, vR v1, vR v2] σ (x22_leads N W v0 v1 v2 σ) := by
  refine gK.of hp_X22 (Nat.le_of_ble_eq_true rfl) ?_
  unfold x22_leads
  refine x_aload_n (μ := mu_x22_leads) (pc := 0) 0 dX22_leads_0 rfl ?_
  refine x_if (fun hT1 => ?_)
  refine x_fgr (μ := mu_x22_leads) (pc := 1) fX22_1 (by first | exact Or.inl ⟨_, rfl⟩ | exact Or.inr ⟨_, rfl⟩) q2073 dX22_leads_1 hT1 ?_
  refine x_aload_n (μ := mu_x22_leads) (pc := 4) 1 dX22_leads_4 rfl ?_
  refine x_aload_n (μ := mu_x22_leads) (pc := 5) 2 dX22_leads_5 rfl ?_
  refine x_callF_mv (μ := mu_x22_leads) (pc := 6) (hW (mR σ v0 1) v1 v2 σ ) gRel_E gRel_E (fun _ q => q) q923 dX22_leads_6 iy_Part_leads_hy (by omega) rfl (Nat.le_of_ble_eq_true rfl) (fun x2 k3 => ?_)
  refine x_aload_n (μ := mu_x22_leads) (pc := 11) 0 dX22_leads_11 rfl ?_
  refine x_fgr (μ := mu_x22_leads) (pc := 12) fX22_2 (by first | exact Or.inl ⟨_, rfl⟩ | exact Or.inr ⟨_, rfl⟩) q2074 dX22_leads_12 (gT_E k3 hT1 (by decide)) ?_
  refine x_aload_n (μ := mu_x22_leads) (pc := 15) 1 dX22_leads_15 rfl ?_
  refine x_aload_n (μ := mu_x22_leads) (pc := 16) 2 dX22_leads_16 rfl ?_
  refine x_callF_mv (μ := mu_x22_leads) (pc := 17) (hW (mR x2 v0 2) v1 v2 x2 ) gRel_E gRel_E (fun _ q => q) q923 dX22_leads_17 iy_Part_leads_hy (by omega) rfl (Nat.le_of_ble_eq_true rfl) (fun x4 k5 => ?_)
  exact x_vret (μ := mu_x22_leads) (pc := 22) (a1 := x4) dX22_leads_22 rfl rfl (gRel_E.1 _) trivial
def x22_rank (v0 : Nat) (σ : gMem) : Option Int := if mT σ v0 = 20 then if mT σ (mR σ v0 0) = 92 then some (mI σ (mR σ v0 0) 2) else none else none
set_option maxRecDepth 100000 in
theorem ok_x22_rank {ω : gW} {l : Launch} {d : Nat} {σ : gMem} {v0 : Nat} (hl : l.stackTraces = false) (hdp : 0 ≤ d) : gK (fun x : Int => (.inl (some (vI x)), σ)) gE ω l d mu_x22_rank [vR v0] σ (x22_rank v0 σ) := by
  refine gK.of hp_X22 (Nat.le_of_ble_eq_true rfl) ?_
  unfold x22_rank
  refine x_aload_n (μ := mu_x22_rank) (pc := 0) 0 dX22_rank_0 rfl ?_
  refine x_if (fun hT1 => ?_)
  refine x_fgr (μ := mu_x22_rank) (pc := 1) fX22_0 (by first | exact Or.inl ⟨_, rfl⟩ | exact Or.inr ⟨_, rfl⟩) q2072 dX22_rank_1 hT1 ?_
  refine x_if (fun hT2 => ?_)
  refine x_esN (μ := mu_x22_rank) (pc := 4) (k := 2) (List.mem_of_getElem? (i := 1) rfl) (by decide) q3798 dX22_rank_4 hT2 (fun hr3 => ?_)
  exact x_iret (μ := mu_x22_rank) (pc := 7) dX22_rank_7 rfl rfl (gRel_E.1 _) (show g32 (mI σ (mR σ v0 0) 2) from hr3)
def x22_same (N : Nat) (W : Nat → Nat → gMem → Option Int) (v0 : Nat) (v1 : Nat) (σ : gMem) : Option Int := if v1 = 0 ∨ gNode (mT σ v1) = true then if mT σ v1 = 20 then if v1 = 0 ∨ mT σ v1 = 20 then if mT σ v1 = 20 then if mT σ v0 = 20 then if mR σ v1 0 ≠ mR σ v0 0 then some 0 else (W (mR σ v0 1) (mR σ v1 1) σ).bind (fun x5 => if x5 = 0 then some 0 else (W (mR σ v0 2) (mR σ v1 2) σ).bind (fun x7 => if x7 = 0 then some 0 else some 1)) else none else none else none else some 0 else none
set_option maxRecDepth 100000 in
theorem ok_x22_same {ω : gW} {l : Launch} {d : Nat} {N : Nat} {W : Nat → Nat → gMem → Option Int} {dW : Nat} {σ : gMem} {v0 : Nat} {v1 : Nat} (hl : l.stackTraces = false) (hW : ∀ (a0 : Nat) (a1 : Nat) (s : gMem), gKI (fun x : Int => (.inl (some (vI x)), s)) gE ω l dW iy_Part_same (some .boolean) [vR a0, vR a1] s (W a0 a1 s)) (hdp : 0 ≤ d) (hdw : dW + 1 ≤ d) : gK (fun x : Int => (.inl (some (vI x)), σ)) gE ω l d mu_x22_same [vR v0, vR v1] σ (x22_same N W v0 v1 σ) := by
  refine gK.of hp_X22 (Nat.le_of_ble_eq_true rfl) ?_
  unfold x22_same
  refine x_aload_n (μ := mu_x22_same) (pc := 0) 1 dX22_same_0 rfl ?_
  refine x_if (fun hg1 => ?_)
  refine x_inst (μ := mu_x22_same) (pc := 1) (ci := 19) (by decide) rfl q1638 dX22_same_1 hg1 ?_ ?_
  · refine x_if_neT (μ := mu_x22_same) (pc := 4) (tgt := 9) dX22_same_4 rfl (by decide) (by decide) ?_
    refine x_aload_n (μ := mu_x22_same) (pc := 9) 1 dX22_same_9 rfl ?_
    refine x_if (fun hg2 => ?_)
    refine x_castC (μ := mu_x22_same) (pc := 10) (ci := 19) rfl q1638 dX22_same_10 hg2 ?_
    refine x_astore_n (μ := mu_x22_same) (pc := 13) (lv' := [(2, vR v1), (0, vR v0), (1, vR v1)]) dX22_same_13 rfl (by decide) rfl ?_
    refine x_aload_n (μ := mu_x22_same) (pc := 14) 0 dX22_same_14 rfl ?_
    refine x_if (fun hT3 => ?_)
    refine x_fgr (μ := mu_x22_same) (pc := 15) fX22_0 (by first | exact Or.inl ⟨_, rfl⟩ | exact Or.inr ⟨_, rfl⟩) q2072 dX22_same_15 hT3 ?_
    refine x_aload_n (μ := mu_x22_same) (pc := 18) 1 dX22_same_18 rfl ?_
    refine x_if (fun hT4 => ?_)
    refine x_fgr (μ := mu_x22_same) (pc := 19) fX22_0 (by first | exact Or.inl ⟨_, rfl⟩ | exact Or.inr ⟨_, rfl⟩) q2072 dX22_same_19 hT4 ?_
    refine x_acmp_ne (μ := mu_x22_same) (pc := 22) (tgt := 61) dX22_same_22 rfl ?_ ?_
    · refine x_iconst (μ := mu_x22_same) (pc := 61) dX22_same_61 ?_
      exact x_zret (μ := mu_x22_same) (pc := 62) dX22_same_62 rfl (by decide) rfl (gRel_E.1 _) (show g32 0 from (by decide))
    · refine x_aload_n (μ := mu_x22_same) (pc := 25) 1 dX22_same_25 rfl ?_
      refine x_fgr (μ := mu_x22_same) (pc := 26) fX22_1 (by first | exact Or.inl ⟨_, rfl⟩ | exact Or.inr ⟨_, rfl⟩) q2073 dX22_same_26 hT4 ?_
      refine x_aload_n (μ := mu_x22_same) (pc := 29) 0 dX22_same_29 rfl ?_
      refine x_fgr (μ := mu_x22_same) (pc := 30) fX22_1 (by first | exact Or.inl ⟨_, rfl⟩ | exact Or.inr ⟨_, rfl⟩) q2073 dX22_same_30 hT3 ?_
      refine x_callF_pi (μ := mu_x22_same) (pc := 33) (hW (mR σ v0 1) (mR σ v1 1) σ ) gRel_E gRel_E (fun _ q => q) q1640 dX22_same_33 iy_Part_same_hy (by omega) rfl (Nat.le_of_ble_eq_true rfl) (fun x5 hr6 => ?_)
      refine x_if_eq (μ := mu_x22_same) (pc := 38) (tgt := 61) dX22_same_38 rfl hr6 ?_ ?_
      · refine x_iconst (μ := mu_x22_same) (pc := 61) dX22_same_61 ?_
        exact x_zret (μ := mu_x22_same) (pc := 62) dX22_same_62 rfl (by decide) rfl (gRel_E.1 _) (show g32 0 from (by decide))
      · refine x_aload_n (μ := mu_x22_same) (pc := 41) 1 dX22_same_41 rfl ?_
        refine x_fgr (μ := mu_x22_same) (pc := 42) fX22_2 (by first | exact Or.inl ⟨_, rfl⟩ | exact Or.inr ⟨_, rfl⟩) q2074 dX22_same_42 hT4 ?_
        refine x_aload_n (μ := mu_x22_same) (pc := 45) 0 dX22_same_45 rfl ?_
        refine x_fgr (μ := mu_x22_same) (pc := 46) fX22_2 (by first | exact Or.inl ⟨_, rfl⟩ | exact Or.inr ⟨_, rfl⟩) q2074 dX22_same_46 hT3 ?_
        refine x_callF_pi (μ := mu_x22_same) (pc := 49) (hW (mR σ v0 2) (mR σ v1 2) σ ) gRel_E gRel_E (fun _ q => q) q1640 dX22_same_49 iy_Part_same_hy (by omega) rfl (Nat.le_of_ble_eq_true rfl) (fun x7 hr8 => ?_)
        refine x_if_eq (μ := mu_x22_same) (pc := 54) (tgt := 61) dX22_same_54 rfl hr8 ?_ ?_
        · refine x_iconst (μ := mu_x22_same) (pc := 61) dX22_same_61 ?_
          exact x_zret (μ := mu_x22_same) (pc := 62) dX22_same_62 rfl (by decide) rfl (gRel_E.1 _) (show g32 0 from (by decide))
        · refine x_iconst (μ := mu_x22_same) (pc := 57) dX22_same_57 ?_
          refine x_goto (μ := mu_x22_same) (pc := 58) (tgt := 62) dX22_same_58 rfl ?_
          exact x_zret (μ := mu_x22_same) (pc := 62) dX22_same_62 rfl (by decide) rfl (gRel_E.1 _) (show g32 1 from (by decide))
  · refine x_if_neF (μ := mu_x22_same) (pc := 4) (tgt := 9) dX22_same_4 rfl (by decide) (by decide) ?_
    refine x_iconst (μ := mu_x22_same) (pc := 7) dX22_same_7 ?_
    exact x_zret (μ := mu_x22_same) (pc := 8) dX22_same_8 rfl (by decide) rfl (gRel_E.1 _) (show g32 0 from (by decide))
def x22_init (v0 : Nat) (v1 : Nat) (v2 : Nat) (v3 : Nat) (σ : gMem) : Option gMem := if mT σ v0 = 20 then gLet (wR σ v0 0 v1) (fun s2 => gLet (wR s2 v0 1 v2) (fun s4 => gLet (wR s4 v0 2 v3) (fun s6 => some s6))) else none
set_option maxRecDepth 100000 in
theorem ok_x22_init {ω : gW} {l : Launch} {d : Nat} {σ : gMem} {v0 : Nat} {v1 : Nat} {v2 : Nat} {v3 : Nat} (hl : l.stackTraces = false) (hdp : 2 ≤ d) : gK (fun p : gMem => (.inl none, p)) gE ω l d mu_x22_init [vR v0, vR v1, vR v2, vR v3] σ (x22_init v0 v1 v2 v3 σ) := by
  refine gK.of hp_X22 (Nat.le_of_ble_eq_true rfl) ?_
  unfold x22_init
  refine x_aload_n (μ := mu_x22_init) (pc := 0) 0 dX22_init_0 rfl ?_
  refine x_if (fun hT1 => ?_)
  refine x_recI (μ := mu_x22_init) (pc := 1) (ci := 19) rfl q2071 dX22_init_1 hT1 (by omega) (Nat.le_of_ble_eq_true rfl) ?_
  refine x_aload_n (μ := mu_x22_init) (pc := 4) 0 dX22_init_4 rfl ?_
  refine x_aload_n (μ := mu_x22_init) (pc := 5) 1 dX22_init_5 rfl ?_
  refine x_fprF (μ := mu_x22_init) (pc := 6) fX22_0 q2072 rfl rfl (by first | exact Or.inl ⟨_, rfl⟩ | exact Or.inr ⟨_, rfl⟩) dX22_init_6 hT1 (fun _ q => gE_wR q) ?_
  refine x_let (fun s2 e3 => ?_)
  refine x_aload_n (μ := mu_x22_init) (pc := 9) 0 dX22_init_9 rfl ?_
  refine x_aload_n (μ := mu_x22_init) (pc := 10) 2 dX22_init_10 rfl ?_
  refine x_fprF (μ := mu_x22_init) (pc := 11) fX22_1 q2073 rfl rfl (by first | exact Or.inl ⟨_, rfl⟩ | exact Or.inr ⟨_, rfl⟩) dX22_init_11 (gT_R e3 hT1) (fun _ q => gE_wR q) ?_
  refine x_let (fun s4 e5 => ?_)
  refine x_aload_n (μ := mu_x22_init) (pc := 14) 0 dX22_init_14 rfl ?_
  refine x_aload_n (μ := mu_x22_init) (pc := 15) 3 dX22_init_15 rfl ?_
  refine x_fprF (μ := mu_x22_init) (pc := 16) fX22_2 q2074 rfl rfl (by first | exact Or.inl ⟨_, rfl⟩ | exact Or.inr ⟨_, rfl⟩) dX22_init_16 (gT_R e5 (gT_R e3 hT1)) (fun _ q => gE_wR q) ?_
  refine x_let (fun s6 e7 => ?_)
  exact x_vret (μ := mu_x22_init) (pc := 19) (a1 := s6) dX22_init_19 rfl rfl (gRel_E.1 _) trivial
def x22_shifted (N : Nat) (W : Nat → Nat → gMem → Option (Nat × gMem)) (v0 : Nat) (v1 : Nat) (σ : gMem) : Option (Nat × gMem) := gLet (wN σ 20 3) (fun s2 => if mT s2 v0 = 20 then (W (mR s2 v0 1) v1 s2).bind (fun x5 => (W (mR (x5.2) v0 2) v1 (x5.2)).bind (fun x7 => (x22_init (mZ σ) (mR s2 v0 0) (x5.1) (x7.1) (x7.2)).bind (fun x9 => some (mZ σ, x9)))) else none)
set_option maxRecDepth 100000 in
theorem ok_x22_shifted {ω : gW} {l : Launch} {d : Nat} {N : Nat} {W : Nat → Nat → gMem → Option (Nat × gMem)} {dW : Nat} {σ : gMem} {v0 : Nat} {v1 : Nat} (hl : l.stackTraces = false) (hW : ∀ (a0 : Nat) (a1 : Nat) (s : gMem), gKI (fun p : Nat × gMem => (.inl (some (vR p.1)), p.2)) gE ω l dW iy_Part_shifted (some (.object "SheetBranches$Part")) [vR a0, vR a1] s (W a0 a1 s)) (hdp : 3 ≤ d) (hdw : dW + 1 ≤ d) : gK (fun p : Nat × gMem => (.inl (some (vR p.1)), p.2)) gE ω l d mu_x22_shifted [vR v0, vR v1] σ (x22_shifted N W v0 v1 σ) := by
  refine gK.of hp_X22 (Nat.le_of_ble_eq_true rfl) ?_
  unfold x22_shifted
  refine x_ok (fun ok1 => ?_)
  refine x_new (μ := mu_x22_shifted) (pc := 0) (ci := 19) gk_X22 gd_X22 q1638 q2067 q255 dX22_shifted_0 ?_
  refine x_let (fun s2 e3 => ?_)
  refine x_dup (μ := mu_x22_shifted) (pc := 3) dX22_shifted_3 rfl ?_
  refine x_aload_n (μ := mu_x22_shifted) (pc := 4) 0 dX22_shifted_4 rfl ?_
  refine x_if (fun hT4 => ?_)
  refine x_fgr (μ := mu_x22_shifted) (pc := 5) fX22_0 (by first | exact Or.inl ⟨_, rfl⟩ | exact Or.inr ⟨_, rfl⟩) q2072 dX22_shifted_5 hT4 ?_
  refine x_aload_n (μ := mu_x22_shifted) (pc := 8) 0 dX22_shifted_8 rfl ?_
  refine x_fgr (μ := mu_x22_shifted) (pc := 9) fX22_1 (by first | exact Or.inl ⟨_, rfl⟩ | exact Or.inr ⟨_, rfl⟩) q2073 dX22_shifted_9 hT4 ?_
  refine x_aload_n (μ := mu_x22_shifted) (pc := 12) 1 dX22_shifted_12 rfl ?_
  refine x_callF_mr (μ := mu_x22_shifted) (pc := 13) (hW (mR s2 v0 1) v1 s2 ) gRel_E gRel_E (fun _ q => q) q2356 dX22_shifted_13 iy_Part_shifted_hy (by omega) rfl (Nat.le_of_ble_eq_true rfl) (fun x5 k6 => ?_)
  refine x_aload_n (μ := mu_x22_shifted) (pc := 18) 0 dX22_shifted_18 rfl ?_
  refine x_fgr (μ := mu_x22_shifted) (pc := 19) fX22_2 (by first | exact Or.inl ⟨_, rfl⟩ | exact Or.inr ⟨_, rfl⟩) q2074 dX22_shifted_19 (gT_E k6 hT4 (by decide)) ?_
  refine x_aload_n (μ := mu_x22_shifted) (pc := 22) 1 dX22_shifted_22 rfl ?_
  refine x_callF_mr (μ := mu_x22_shifted) (pc := 23) (hW (mR (x5.2) v0 2) v1 (x5.2) ) gRel_E gRel_E (fun _ q => q) q2356 dX22_shifted_23 iy_Part_shifted_hy (by omega) rfl (Nat.le_of_ble_eq_true rfl) (fun x7 k8 => ?_)
  refine x_callI_mv (μ := mu_x22_shifted) (pc := 28) (ok_x22_init (ω := ω) (l := l) (d := d - 1) hl (by omega) ) gRel_E gRel_E (fun _ q => q) q2367 q2069 q255 q2070 dX22_shifted_28 (gT_ne (gT_E k8 (gT_E k6 (gT_new e3) (by decide)) (by decide))) rfl hy_x22_init (by omega) (Nat.le_of_ble_eq_true rfl) rfl (Nat.le_of_ble_eq_true rfl) (fun x9 k10 => ?_)
  exact x_aret (μ := mu_x22_shifted) (pc := 31) dX22_shifted_31 rfl (by first | exact Or.inl ⟨_, rfl⟩ | exact Or.inr ⟨_, rfl⟩) rfl (gRel_E.1 _) trivial
def x23_init (v0 : Nat) (v1 : Nat) (v2 : Int) (σ : gMem) : Option gMem := if mT σ v0 = 21 then gLet (wR σ v0 0 v1) (fun s2 => gLet (wI s2 v0 1 v2) (fun s4 => some s4)) else none
set_option maxRecDepth 100000 in
theorem ok_x23_init {ω : gW} {l : Launch} {d : Nat} {σ : gMem} {v0 : Nat} {v1 : Nat} {v2 : Int} (hl : l.stackTraces = false) (hdp : 2 ≤ d) (hv2 : g32 v2) : gK (fun p : gMem => (.inl none, p)) gE ω l d mu_x23_init [vR v0, vR v1, vI v2] σ (x23_init v0 v1 v2 σ) := by
  refine gK.of hp_X23 (Nat.le_of_ble_eq_true rfl) ?_
  unfold x23_init
  refine x_aload_n (μ := mu_x23_init) (pc := 0) 0 dX23_init_0 rfl ?_
  refine x_if (fun hT1 => ?_)
  refine x_recI (μ := mu_x23_init) (pc := 1) (ci := 20) rfl q2106 dX23_init_1 hT1 (by omega) (Nat.le_of_ble_eq_true rfl) ?_
  refine x_aload_n (μ := mu_x23_init) (pc := 4) 0 dX23_init_4 rfl ?_
  refine x_aload_n (μ := mu_x23_init) (pc := 5) 1 dX23_init_5 rfl ?_
  refine x_fprF (μ := mu_x23_init) (pc := 6) fX23_0 q2107 rfl rfl (by first | exact Or.inl ⟨_, rfl⟩ | exact Or.inr ⟨_, rfl⟩) dX23_init_6 hT1 (fun _ q => gE_wR q) ?_
  refine x_let (fun s2 e3 => ?_)
  refine x_aload_n (μ := mu_x23_init) (pc := 9) 0 dX23_init_9 rfl ?_
  refine x_iload_n (μ := mu_x23_init) (pc := 10) 2 dX23_init_10 rfl ?_
  refine x_fpiF (μ := mu_x23_init) (pc := 11) fX23_1 q2111 rfl rfl dX23_init_11 (gT_R e3 hT1) (fun _ q => gE_wI q) ?_
  refine x_let (fun s4 e5 => ?_)
  exact x_vret (μ := mu_x23_init) (pc := 14) (a1 := s4) dX23_init_14 rfl rfl (gRel_E.1 _) trivial
def x23_parts (v0 : Nat) (σ : gMem) : Option Int := if mT σ v0 = 21 then some (mI σ v0 1) else none
set_option maxRecDepth 100000 in
theorem ok_x23_parts {ω : gW} {l : Launch} {d : Nat} {σ : gMem} {v0 : Nat} (hl : l.stackTraces = false) (hdp : 0 ≤ d) : gK (fun x : Int => (.inl (some (vI x)), σ)) gE ω l d mu_x23_parts [vR v0] σ (x23_parts v0 σ) := by
  refine gK.of hp_X23 (Nat.le_of_ble_eq_true rfl) ?_
  unfold x23_parts
  refine x_aload_n (μ := mu_x23_parts) (pc := 0) 0 dX23_parts_0 rfl ?_
  refine x_if (fun hT1 => ?_)
  refine x_fgi (μ := mu_x23_parts) (pc := 1) fX23_1 q2111 dX23_parts_1 hT1 (fun hr2 => ?_)
  exact x_iret (μ := mu_x23_parts) (pc := 4) dX23_parts_4 rfl rfl (gRel_E.1 _) (show g32 (mI σ v0 1) from hr2)
def x24_init (v0 : Nat) (v1 : Int) (v2 : Int) (v3 : Nat) (v4 : Nat) (σ : gMem) : Option gMem := if mT σ v0 = 22 then gLet (wI σ v0 0 v1) (fun s2 => gLet (wI s2 v0 1 v2) (fun s4 => gLet (wR s4 v0 2 v3) (fun s6 => gLet (wR s6 v0 3 v4) (fun s8 => some s8)))) else none
set_option maxRecDepth 100000 in
theorem ok_x24_init {ω : gW} {l : Launch} {d : Nat} {σ : gMem} {v0 : Nat} {v1 : Int} {v2 : Int} {v3 : Nat} {v4 : Nat} (hl : l.stackTraces = false) (hdp : 2 ≤ d) (hv1 : g32 v1) (hv2 : g32 v2) : gK (fun p : gMem => (.inl none, p)) gE ω l d mu_x24_init [vR v0, vI v1, vI v2, vR v3, vR v4] σ (x24_init v0 v1 v2 v3 v4 σ) := by
  refine gK.of hp_X24 (Nat.le_of_ble_eq_true rfl) ?_
  unfold x24_init
  refine x_aload_n (μ := mu_x24_init) (pc := 0) 0 dX24_init_0 rfl ?_
  refine x_if (fun hT1 => ?_)
  refine x_recI (μ := mu_x24_init) (pc := 1) (ci := 21) rfl q2273 dX24_init_1 hT1 (by omega) (Nat.le_of_ble_eq_true rfl) ?_
  refine x_aload_n (μ := mu_x24_init) (pc := 4) 0 dX24_init_4 rfl ?_
  refine x_iload_n (μ := mu_x24_init) (pc := 5) 1 dX24_init_5 rfl ?_
  refine x_fpiF (μ := mu_x24_init) (pc := 6) fX24_0 q2274 rfl rfl dX24_init_6 hT1 (fun _ q => gE_wI q) ?_
  refine x_let (fun s2 e3 => ?_)
  refine x_aload_n (μ := mu_x24_init) (pc := 9) 0 dX24_init_9 rfl ?_
  refine x_iload_n (μ := mu_x24_init) (pc := 10) 2 dX24_init_10 rfl ?_
  refine x_fpiF (μ := mu_x24_init) (pc := 11) fX24_1 q2276 rfl rfl dX24_init_11 (gT_I e3 hT1) (fun _ q => gE_wI q) ?_
  refine x_let (fun s4 e5 => ?_)
  refine x_aload_n (μ := mu_x24_init) (pc := 14) 0 dX24_init_14 rfl ?_
  refine x_aload_n (μ := mu_x24_init) (pc := 15) 3 dX24_init_15 rfl ?_
  refine x_fprF (μ := mu_x24_init) (pc := 16) fX24_2 q2278 rfl rfl (by first | exact Or.inl ⟨_, rfl⟩ | exact Or.inr ⟨_, rfl⟩) dX24_init_16 (gT_I e5 (gT_I e3 hT1)) (fun _ q => gE_wR q) ?_
  refine x_let (fun s6 e7 => ?_)
  refine x_aload_n (μ := mu_x24_init) (pc := 19) 0 dX24_init_19 rfl ?_
  refine x_aload (μ := mu_x24_init) (pc := 20) 4 dX24_init_20 rfl ?_
  refine x_fprF (μ := mu_x24_init) (pc := 22) fX24_3 q2279 rfl rfl (by first | exact Or.inl ⟨_, rfl⟩ | exact Or.inr ⟨_, rfl⟩) dX24_init_22 (gT_R e7 (gT_I e5 (gT_I e3 hT1))) (fun _ q => gE_wR q) ?_
  refine x_let (fun s8 e9 => ?_)
  exact x_vret (μ := mu_x24_init) (pc := 25) (a1 := s8) dX24_init_25 rfl rfl (gRel_E.1 _) trivial
def x24_sheet (v0 : Nat) (v1 : Int) (σ : gMem) : Option Nat := if v1 ≠ (-1) then if mT σ v0 = 22 then if mT σ (mR σ v0 3) = 104 then if 0 ≤ v1 ∧ v1 < (mN σ (mR σ v0 3) : Int) then if mT σ (mR σ (mR σ v0 3) v1.toNat) = 9 then some (mR σ (mR σ (mR σ v0 3) v1.toNat) 0) else none else none else none else none else if mT σ v0 = 22 then some (mR σ v0 2) else none
set_option maxRecDepth 100000 in
theorem ok_x24_sheet {ω : gW} {l : Launch} {d : Nat} {σ : gMem} {v0 : Nat} {v1 : Int} (hl : l.stackTraces = false) (hdp : 0 ≤ d) (hv1 : g32 v1) : gK (fun x : Nat => (.inl (some (vR x)), σ)) gE ω l d mu_x24_sheet [vR v0, vI v1] σ (x24_sheet v0 v1 σ) := by
  refine gK.of hp_X24 (Nat.le_of_ble_eq_true rfl) ?_
  unfold x24_sheet
  refine x_iload_n (μ := mu_x24_sheet) (pc := 0) 1 dX24_sheet_0 rfl ?_
  refine x_iconst (μ := mu_x24_sheet) (pc := 1) dX24_sheet_1 ?_
  refine x_icmp_ne (μ := mu_x24_sheet) (pc := 2) (tgt := 12) dX24_sheet_2 rfl hv1 (by decide) ?_ ?_
  · refine x_aload_n (μ := mu_x24_sheet) (pc := 12) 0 dX24_sheet_12 rfl ?_
    refine x_if (fun hT1 => ?_)
    refine x_fgr (μ := mu_x24_sheet) (pc := 13) fX24_3 (by first | exact Or.inl ⟨_, rfl⟩ | exact Or.inr ⟨_, rfl⟩) q2279 dX24_sheet_13 hT1 ?_
    refine x_iload_n (μ := mu_x24_sheet) (pc := 16) 1 dX24_sheet_16 rfl ?_
    refine x_if (fun hT2 => ?_)
    refine x_aald (μ := mu_x24_sheet) (pc := 17) 4 (fun _ => rfl) rfl rfl dX24_sheet_17 hT2 rfl ?_
    refine x_if (fun hT3 => ?_)
    refine x_fgrN (μ := mu_x24_sheet) (pc := 18) fX10_0 (by first | exact Or.inl ⟨_, rfl⟩ | exact Or.inr ⟨_, rfl⟩) q598 dX24_sheet_18 hT3 ?_
    exact x_aret (μ := mu_x24_sheet) (pc := 21) dX24_sheet_21 rfl (by first | exact Or.inl ⟨_, rfl⟩ | exact Or.inr ⟨_, rfl⟩) rfl (gRel_E.1 _) trivial
  · refine x_aload_n (μ := mu_x24_sheet) (pc := 5) 0 dX24_sheet_5 rfl ?_
    refine x_if (fun hT4 => ?_)
    refine x_fgr (μ := mu_x24_sheet) (pc := 6) fX24_2 (by first | exact Or.inl ⟨_, rfl⟩ | exact Or.inr ⟨_, rfl⟩) q2278 dX24_sheet_6 hT4 ?_
    refine x_goto (μ := mu_x24_sheet) (pc := 9) (tgt := 21) dX24_sheet_9 rfl ?_
    exact x_aret (μ := mu_x24_sheet) (pc := 21) dX24_sheet_21 rfl (by first | exact Or.inl ⟨_, rfl⟩ | exact Or.inr ⟨_, rfl⟩) rfl (gRel_E.1 _) trivial
def x25_init (v0 : Nat) (v1 : Nat) (v2 : Nat) (v3 : Nat) (σ : gMem) : Option gMem := if mT σ v0 = 23 then if 0 ≤ (16 : Int) ∧ (16 : Int) < 1000000 then gLet (wN σ 106 (16 : Int).toNat) (fun s4 => gLet (wR s4 v0 4 (mZ σ)) (fun s6 => gLet (wR s6 v0 0 v1) (fun s8 => gLet (wR s8 v0 1 v2) (fun s10 => gLet (wR s10 v0 2 v3) (fun s12 => some s12))))) else none else none
set_option maxRecDepth 100000 in
theorem ok_x25_init {ω : gW} {l : Launch} {d : Nat} {σ : gMem} {v0 : Nat} {v1 : Nat} {v2 : Nat} {v3 : Nat} (hl : l.stackTraces = false) (hdp : 1 ≤ d) : gK (fun p : gMem => (.inl none, p)) gE ω l d mu_x25_init [vR v0, vR v1, vR v2, vR v3] σ (x25_init v0 v1 v2 v3 σ) := by
  refine gK.of hp_X25 (Nat.le_of_ble_eq_true rfl) ?_
  unfold x25_init
  refine x_aload_n (μ := mu_x25_init) (pc := 0) 0 dX25_init_0 rfl ?_
  refine x_if (fun hT1 => ?_)
  refine x_objI (μ := mu_x25_init) (pc := 1) (ci := 22) rfl q2468 dX25_init_1 hT1 (by omega) (Nat.le_of_ble_eq_true rfl) ?_
  refine x_aload_n (μ := mu_x25_init) (pc := 4) 0 dX25_init_4 rfl ?_
  refine x_bipush (μ := mu_x25_init) (pc := 5) dX25_init_5 (by decide) ?_
  refine x_if (fun hg2 => ?_)
  refine x_ok (fun ok3 => ?_)
  refine x_anew (μ := mu_x25_init) (pc := 7) 6 (fun _ => rfl) rfl (by decide) q2469 dX25_init_7 hg2 ?_
  refine x_let (fun s4 e5 => ?_)
  refine x_fpr (μ := mu_x25_init) (pc := 10) fX25_4 q2475 (by first | exact Or.inl ⟨_, rfl⟩ | exact Or.inr ⟨_, rfl⟩) dX25_init_10 (gT_N e5 ok3 hT1 (by decide)) (fun _ q => gE_wR q) ?_
  refine x_let (fun s6 e7 => ?_)
  refine x_aload_n (μ := mu_x25_init) (pc := 13) 0 dX25_init_13 rfl ?_
  refine x_aload_n (μ := mu_x25_init) (pc := 14) 1 dX25_init_14 rfl ?_
  refine x_fprF (μ := mu_x25_init) (pc := 15) fX25_0 q2470 rfl rfl (by first | exact Or.inl ⟨_, rfl⟩ | exact Or.inr ⟨_, rfl⟩) dX25_init_15 (gT_R e7 (gT_N e5 ok3 hT1 (by decide))) (fun _ q => gE_wR q) ?_
  refine x_let (fun s8 e9 => ?_)
  refine x_aload_n (μ := mu_x25_init) (pc := 18) 0 dX25_init_18 rfl ?_
  refine x_aload_n (μ := mu_x25_init) (pc := 19) 2 dX25_init_19 rfl ?_
  refine x_fprF (μ := mu_x25_init) (pc := 20) fX25_1 q2471 rfl rfl (by first | exact Or.inl ⟨_, rfl⟩ | exact Or.inr ⟨_, rfl⟩) dX25_init_20 (gT_R e9 (gT_R e7 (gT_N e5 ok3 hT1 (by decide)))) (fun _ q => gE_wR q) ?_
  refine x_let (fun s10 e11 => ?_)
  refine x_aload_n (μ := mu_x25_init) (pc := 23) 0 dX25_init_23 rfl ?_
  refine x_aload_n (μ := mu_x25_init) (pc := 24) 3 dX25_init_24 rfl ?_
  refine x_fprF (μ := mu_x25_init) (pc := 25) fX25_2 q2472 rfl rfl (by first | exact Or.inl ⟨_, rfl⟩ | exact Or.inr ⟨_, rfl⟩) dX25_init_25 (gT_R e11 (gT_R e9 (gT_R e7 (gT_N e5 ok3 hT1 (by decide))))) (fun _ q => gE_wR q) ?_
  refine x_let (fun s12 e13 => ?_)
  exact x_vret (μ := mu_x25_init) (pc := 28) (a1 := s12) dX25_init_28 rfl rfl (gRel_E.1 _) trivial
def x25_behind_l13 (N : Nat) (σ : gMem) (v0 : Nat) (v1 : Int) (v2 : Nat) (v4 : Int) (K : Option Int) : Nat → Int → Option Int
  | 0, _ => none
  | n + 1, v5 => if v1 ≤ v5 then K else if mT σ v0 = 100 then if 0 ≤ v5 ∧ v5 < (mN σ v0 : Int) then if mT σ v2 = 100 then if 0 ≤ v4 ∧ v4 < (mN σ v2 : Int) then if mI σ v0 v5.toNat ≠ mI σ v2 v4.toNat then x25_behind_l13 N σ v0 v1 v2 v4 K n (w32 (v5 + 1)) else some (w32 (v5 + 1)) else none else none else none else none
set_option maxRecDepth 100000 in
theorem okl_x25_behind_l13 {ω : gW} {l : Launch} {d : Nat} {N : Nat} {σ : gMem} {v0 : Nat} {v1 : Int} {v2 : Nat} {v4 : Int} {K : Option Int} (hl : l.stackTraces = false) (hdp : 0 ≤ d) (hv1 : g32 v1) (hv4 : g32 v4) (hK : GG (fun x : Int => (.inl (some (vI x)), σ)) gE ω l d mu_x25_behind σ 41 [(0, vR v0), (1, vI v1), (2, vR v2), (4, vI v4)] [] σ (K)) : ∀ (n : Nat) (v5 : Int) , g32 v5 → GG (fun x : Int => (.inl (some (vI x)), σ)) gE ω l d mu_x25_behind σ 13 [(0, vR v0), (1, vI v1), (2, vR v2), (4, vI v4), (5, vI v5)] [] σ (x25_behind_l13 N σ v0 v1 v2 v4 K n v5) := by
  intro n
  induction n with
  | zero => intros; exact x_none
  | succ n ih =>
    intro v5 hv5
    unfold x25_behind_l13
    refine x_iload (μ := mu_x25_behind) (pc := 13) 4 dX25_behind_13 rfl ?_
    refine x_iload_n (μ := mu_x25_behind) (pc := 15) 1 dX25_behind_15 rfl ?_
    refine x_icmp_ge (μ := mu_x25_behind) (pc := 16) (tgt := 41) dX25_behind_16 rfl hv5 hv1 ?_ ?_
    · refine x_loc (lv' := [(0, vR v0), (1, vI v1), (2, vR v2), (4, vI v4)]) [0, 1, 2, 3] rfl ?_
      exact hK
    · refine x_aload_n (μ := mu_x25_behind) (pc := 19) 0 dX25_behind_19 rfl ?_
      refine x_iload (μ := mu_x25_behind) (pc := 20) 4 dX25_behind_20 rfl ?_
      refine x_if (fun hT1 => ?_)
      refine x_iald (μ := mu_x25_behind) (pc := 22) dX25_behind_22 hT1 rfl (fun hr2 => ?_)
      refine x_aload_n (μ := mu_x25_behind) (pc := 23) 2 dX25_behind_23 rfl ?_
      refine x_iload (μ := mu_x25_behind) (pc := 24) 3 dX25_behind_24 rfl ?_
      refine x_if (fun hT3 => ?_)
      refine x_iald (μ := mu_x25_behind) (pc := 26) dX25_behind_26 hT3 rfl (fun hr4 => ?_)
      refine x_icmp_ne (μ := mu_x25_behind) (pc := 27) (tgt := 35) dX25_behind_27 rfl hr2 hr4 ?_ ?_
      · refine x_iincw (μ := mu_x25_behind) (pc := 35) (lv' := [(5, vI (w32 (v5 + 1))), (0, vR v0), (1, vI v1), (2, vR v2), (4, vI v4)]) 4 dX25_behind_35 rfl (by decide) rfl ?_
        refine x_goto (μ := mu_x25_behind) (pc := 38) (tgt := 13) dX25_behind_38 rfl ?_
        refine x_loc (lv' := [(0, vR v0), (1, vI v1), (2, vR v2), (4, vI v4), (5, vI (w32 (v5 + 1)))]) [1, 2, 3, 4, 0] rfl ?_
        exact ih (w32 (v5 + 1)) (w32_rng _)
      · refine x_iload (μ := mu_x25_behind) (pc := 30) 4 dX25_behind_30 rfl ?_
        refine x_iconst (μ := mu_x25_behind) (pc := 32) dX25_behind_32 ?_
        refine x_iadd (μ := mu_x25_behind) (pc := 33) dX25_behind_33 ?_
        refine x_w1 ?_
        exact x_iret (μ := mu_x25_behind) (pc := 34) dX25_behind_34 rfl rfl (gRel_E.1 _) (show g32 (w32 (v5 + 1)) from (w32_rng _))
def x25_behind_l5 (N : Nat) (σ : gMem) (v0 : Nat) (v1 : Int) (v2 : Nat) (K : Option Int) : Nat → Int → Option Int
  | 0, _ => none
  | n + 1, v4 => if v4 < 0 then K else x25_behind_l13 N σ v0 v1 v2 v4 (x25_behind_l5 N σ v0 v1 v2 K n (w32 (v4 + (-1)))) N 0
set_option maxRecDepth 100000 in
theorem okl_x25_behind_l5 {ω : gW} {l : Launch} {d : Nat} {N : Nat} {σ : gMem} {v0 : Nat} {v1 : Int} {v2 : Nat} {K : Option Int} (hl : l.stackTraces = false) (hdp : 0 ≤ d) (hv1 : g32 v1) (hK : GG (fun x : Int => (.inl (some (vI x)), σ)) gE ω l d mu_x25_behind σ 47 [] [] σ (K)) : ∀ (n : Nat) (v4 : Int) , g32 v4 → GG (fun x : Int => (.inl (some (vI x)), σ)) gE ω l d mu_x25_behind σ 5 [(0, vR v0), (1, vI v1), (2, vR v2), (4, vI v4)] [] σ (x25_behind_l5 N σ v0 v1 v2 K n v4) := by
  intro n
  induction n with
  | zero => intros; exact x_none
  | succ n ih =>
    intro v4 hv4
    unfold x25_behind_l5
    refine x_iload (μ := mu_x25_behind) (pc := 5) 3 dX25_behind_5 rfl ?_
    refine x_if_lt (μ := mu_x25_behind) (pc := 7) (tgt := 47) dX25_behind_7 rfl hv4 ?_ ?_
    · refine x_loc (lv' := []) [] rfl ?_
      exact hK
    · refine x_iconst (μ := mu_x25_behind) (pc := 10) dX25_behind_10 ?_
      refine x_istore (μ := mu_x25_behind) (pc := 11) (lv' := [(5, vI 0), (0, vR v0), (1, vI v1), (2, vR v2), (4, vI v4)]) dX25_behind_11 (by decide) rfl ?_
      refine x_loc (lv' := [(0, vR v0), (1, vI v1), (2, vR v2), (4, vI v4), (5, vI 0)]) [1, 2, 3, 4, 0] rfl ?_
      refine okl_x25_behind_l13 hl hdp hv1 hv4 ?_ N 0 (by decide)
      refine x_iincw (μ := mu_x25_behind) (pc := 41) (lv' := [(4, vI (w32 (v4 + (-1)))), (0, vR v0), (1, vI v1), (2, vR v2)]) 3 dX25_behind_41 rfl (by decide) rfl ?_
      refine x_goto (μ := mu_x25_behind) (pc := 44) (tgt := 5) dX25_behind_44 rfl ?_
      refine x_loc (lv' := [(0, vR v0), (1, vI v1), (2, vR v2), (4, vI (w32 (v4 + (-1))))]) [1, 2, 3, 0] rfl ?_
      exact ih (w32 (v4 + (-1))) (w32_rng _)
def x25_behind (N : Nat) (v0 : Nat) (v1 : Int) (v2 : Nat) (v3 : Int) (σ : gMem) : Option Int := x25_behind_l5 N σ v0 v1 v2 (some 0) N (w32 (v3 - 1))
set_option maxRecDepth 100000 in
theorem ok_x25_behind {ω : gW} {l : Launch} {d : Nat} {N : Nat} {σ : gMem} {v0 : Nat} {v1 : Int} {v2 : Nat} {v3 : Int} (hl : l.stackTraces = false) (hdp : 0 ≤ d) (hv1 : g32 v1) (hv3 : g32 v3) : gK (fun x : Int => (.inl (some (vI x)), σ)) gE ω l d mu_x25_behind [vR v0, vI v1, vR v2, vI v3] σ (x25_behind N v0 v1 v2 v3 σ) := by
  refine gK.of hp_X25 (Nat.le_of_ble_eq_true rfl) ?_
  unfold x25_behind
  refine x_iload_n (μ := mu_x25_behind) (pc := 0) 3 dX25_behind_0 rfl ?_
  refine x_iconst (μ := mu_x25_behind) (pc := 1) dX25_behind_1 ?_
  refine x_isub (μ := mu_x25_behind) (pc := 2) dX25_behind_2 ?_
  refine x_w1 ?_
  refine x_istore (μ := mu_x25_behind) (pc := 3) (lv' := [(4, vI (w32 (v3 - 1))), (0, vR v0), (1, vI v1), (2, vR v2), (3, vI v3)]) dX25_behind_3 (by decide) rfl ?_
  refine x_loc (lv' := [(0, vR v0), (1, vI v1), (2, vR v2), (4, vI (w32 (v3 - 1)))]) [1, 2, 3, 0] rfl ?_
  refine okl_x25_behind_l5 hl hdp hv1 ?_ N (w32 (v3 - 1)) (w32_rng _)
  refine x_iconst (μ := mu_x25_behind) (pc := 47) dX25_behind_47 ?_
  exact x_iret (μ := mu_x25_behind) (pc := 48) dX25_behind_48 rfl rfl (gRel_E.1 _) (show g32 0 from (by decide))
