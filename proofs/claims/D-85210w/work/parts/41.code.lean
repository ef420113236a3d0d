def tw_readFormula_j70 (N : Nat) (h : Nat) (s : gMem) : Option gMem := if mI s h 56 ≤ 60 then some s else (tw_fail h 5 (mI s h 45) s).bind (fun x21 => some x21)
set_option maxRecDepth 100000 in
theorem okj_tw_readFormula_j70 {ω : gW} {l : Launch} {d : Nat} {N : Nat} {h : Nat} {σ0 : gMem} {s : gMem} (hdp : 211 ≤ d) (hM : TM s h) : GG (fun p : gMem => (.inl none, p)) gTw ω l d mu_tw_readFormula σ0 70 [(0, vR h)] [] s (tw_readFormula_j70 N h s) := by
  unfold tw_readFormula_j70
  refine x_aload_n (μ := mu_tw_readFormula) (pc := 70) 0 dX11_readFormula_70 rfl ?_
  refine x_fgi (μ := mu_tw_readFormula) (pc := 71) fX11_56 q2692 dX11_readFormula_71 hM.1 (fun hr19 => ?_)
  refine x_bipush (μ := mu_tw_readFormula) (pc := 74) dX11_readFormula_74 (by decide) ?_
  refine x_icmp_le (μ := mu_tw_readFormula) (pc := 76) (tgt := 88) dX11_readFormula_76 rfl hr19 (by decide) ?_ ?_
  · exact x_vret (μ := mu_tw_readFormula) (pc := 88) (a1 := s) dX11_readFormula_88 rfl rfl (gRel_Tw.1 _) trivial
  · refine x_aload_n (μ := mu_tw_readFormula) (pc := 79) 0 dX11_readFormula_79 rfl ?_
    refine x_iconst (μ := mu_tw_readFormula) (pc := 80) dX11_readFormula_80 ?_
    refine x_aload_n (μ := mu_tw_readFormula) (pc := 81) 0 dX11_readFormula_81 rfl ?_
    refine x_fgi (μ := mu_tw_readFormula) (pc := 82) fX11_45 q2681 dX11_readFormula_82 hM.1 (fun hr20 => ?_)
    refine x_callV_mv (μ := mu_tw_readFormula) (pc := 85) (ok_tw_fail (ω := ω) (l := l) (d := d - 1) (by omega) hM (by decide) hr20) gRel_Tw gRel_Tw (fun _ q => q) q3079 q3081 qs100 q232 q3082 dX11_readFormula_85 rfl hM.1 hy_tw_fail (by omega) (Nat.le_of_ble_eq_true rfl) rfl (Nat.le_of_ble_eq_true rfl) (fun x21 k22 => ?_)
    have hM23 : TM x21 h := hM.tw k22
    exact x_vret (μ := mu_tw_readFormula) (pc := 88) (a1 := x21) dX11_readFormula_88 rfl rfl (gRel_Tw.1 _) trivial
def tw_readFormula_j51 (N : Nat) (h : Nat) (s : gMem) : Option gMem := if mI s h 58 ≤ 0 then tw_readFormula_j70 N h  s else (tw_fail h (mI s h 58) (mI s h 59) s).bind (fun x26 => tw_readFormula_j70 N h  x26)
set_option maxRecDepth 100000 in
theorem okj_tw_readFormula_j51 {ω : gW} {l : Launch} {d : Nat} {N : Nat} {h : Nat} {σ0 : gMem} {s : gMem} (hdp : 211 ≤ d) (hM : TM s h) : GG (fun p : gMem => (.inl none, p)) gTw ω l d mu_tw_readFormula σ0 51 [(0, vR h)] [] s (tw_readFormula_j51 N h s) := by
  unfold tw_readFormula_j51
  refine x_aload_n (μ := mu_tw_readFormula) (pc := 51) 0 dX11_readFormula_51 rfl ?_
  refine x_fgi (μ := mu_tw_readFormula) (pc := 52) fX11_58 q2694 dX11_readFormula_52 hM.1 (fun hr18 => ?_)
  refine x_if_le (μ := mu_tw_readFormula) (pc := 55) (tgt := 70) dX11_readFormula_55 rfl hr18 ?_ ?_
  · exact okj_tw_readFormula_j70 hdp hM
  · refine x_aload_n (μ := mu_tw_readFormula) (pc := 58) 0 dX11_readFormula_58 rfl ?_
    refine x_aload_n (μ := mu_tw_readFormula) (pc := 59) 0 dX11_readFormula_59 rfl ?_
    refine x_fgi (μ := mu_tw_readFormula) (pc := 60) fX11_58 q2694 dX11_readFormula_60 hM.1 (fun hr24 => ?_)
    refine x_aload_n (μ := mu_tw_readFormula) (pc := 63) 0 dX11_readFormula_63 rfl ?_
    refine x_fgi (μ := mu_tw_readFormula) (pc := 64) fX11_59 q2695 dX11_readFormula_64 hM.1 (fun hr25 => ?_)
    refine x_callV_mv (μ := mu_tw_readFormula) (pc := 67) (ok_tw_fail (ω := ω) (l := l) (d := d - 1) (by omega) hM hr24 hr25) gRel_Tw gRel_Tw (fun _ q => q) q3079 q3081 qs100 q232 q3082 dX11_readFormula_67 rfl hM.1 hy_tw_fail (by omega) (Nat.le_of_ble_eq_true rfl) rfl (Nat.le_of_ble_eq_true rfl) (fun x26 k27 => ?_)
    have hM28 : TM x26 h := hM.tw k27
    exact okj_tw_readFormula_j70 hdp hM28
def tw_readFormula (N : Nat) (h : Nat) (σ : gMem) : Option gMem := gLet (wI σ h 58 0) (fun s1 => gLet (wI s1 h 57 0) (fun s4 => gLet (wI s4 h 46 (w32 ((mI s4 h 43) + 1))) (fun s8 => (tw_next N h s8).bind (fun x11 => (tw_readTest N (tw_readSign N h 24) h x11).bind (fun x14 => if mI x14 h 41 ≠ 0 then tw_readFormula_j51 N h  x14 else if mI x14 h 47 = 0 then tw_readFormula_j51 N h  x14 else (tw_fail h 1 (mI x14 h 48) x14).bind (fun x31 => tw_readFormula_j51 N h  x31))))))
set_option maxRecDepth 100000 in
theorem ok_tw_readFormula {ω : gW} {l : Launch} {d : Nat} {N : Nat} {h : Nat} {σ : gMem} (hdp : 211 ≤ d) (hM : TM σ h) : gK (fun p : gMem => (.inl none, p)) gTw ω l d mu_tw_readFormula [vR h] σ (tw_readFormula N h σ) := by
  refine gK.of hp_X11 (Nat.le_of_ble_eq_true rfl) ?_
  unfold tw_readFormula
  refine x_aload_n (μ := mu_tw_readFormula) (pc := 0) 0 dX11_readFormula_0 rfl ?_
  refine x_iconst (μ := mu_tw_readFormula) (pc := 1) dX11_readFormula_1 ?_
  refine x_fpi (μ := mu_tw_readFormula) (pc := 2) fX11_58 q2694 dX11_readFormula_2 hM.1 (fun _ q => gTw_wI q) ?_
  refine x_let (fun s1 e2 => ?_)
  have hM3 := TM.eI e2 hM
  refine x_aload_n (μ := mu_tw_readFormula) (pc := 5) 0 dX11_readFormula_5 rfl ?_
  refine x_iconst (μ := mu_tw_readFormula) (pc := 6) dX11_readFormula_6 ?_
  refine x_fpi (μ := mu_tw_readFormula) (pc := 7) fX11_57 q2693 dX11_readFormula_7 hM3.1 (fun _ q => gTw_wI q) ?_
  refine x_let (fun s4 e5 => ?_)
  have hM6 := TM.eI e5 hM3
  refine x_aload_n (μ := mu_tw_readFormula) (pc := 10) 0 dX11_readFormula_10 rfl ?_
  refine x_aload_n (μ := mu_tw_readFormula) (pc := 11) 0 dX11_readFormula_11 rfl ?_
  refine x_fgi (μ := mu_tw_readFormula) (pc := 12) fX11_43 q2679 dX11_readFormula_12 hM6.1 (fun hr7 => ?_)
  refine x_iconst (μ := mu_tw_readFormula) (pc := 15) dX11_readFormula_15 ?_
  refine x_iadd (μ := mu_tw_readFormula) (pc := 16) dX11_readFormula_16 ?_
  refine x_w1 ?_
  refine x_fpi (μ := mu_tw_readFormula) (pc := 17) fX11_46 q2682 dX11_readFormula_17 hM6.1 (fun _ q => gTw_wI q) ?_
  refine x_let (fun s8 e9 => ?_)
  have hM10 := TM.eI e9 hM6
  refine x_aload_n (μ := mu_tw_readFormula) (pc := 20) 0 dX11_readFormula_20 rfl ?_
  refine x_callV_mv (μ := mu_tw_readFormula) (pc := 21) (ok_tw_next (ω := ω) (l := l) (d := d - 1) (by omega) hM10 ) gRel_Tw gRel_Tw (fun _ q => q) q2995 q2997 qs82 q232 q2998 dX11_readFormula_21 rfl hM10.1 hy_tw_next (by omega) (Nat.le_of_ble_eq_true rfl) rfl (Nat.le_of_ble_eq_true rfl) (fun x11 k12 => ?_)
  have hM13 : TM x11 h := hM10.tw k12
  refine x_aload_n (μ := mu_tw_readFormula) (pc := 24) 0 dX11_readFormula_24 rfl ?_
  refine x_callV_mv (μ := mu_tw_readFormula) (pc := 25) (ok_tw_readTest (ω := ω) (l := l) (d := d - 1) (dW := 206) (fun  s mm  => ok_tw_readSign 24  s mm  (Nat.le_refl _)) (by omega) (by omega) hM13 ) gRel_Tw gRel_Tw (fun _ q => q) q3047 q3049 qs92 q232 q3050 dX11_readFormula_25 rfl hM13.1 hy_tw_readTest (by omega) (Nat.le_of_ble_eq_true rfl) rfl (Nat.le_of_ble_eq_true rfl) (fun x14 k15 => ?_)
  have hM16 : TM x14 h := hM13.tw k15
  refine x_aload_n (μ := mu_tw_readFormula) (pc := 28) 0 dX11_readFormula_28 rfl ?_
  refine x_fgi (μ := mu_tw_readFormula) (pc := 29) fX11_41 q2677 dX11_readFormula_29 hM16.1 (fun hr17 => ?_)
  refine x_if_ne (μ := mu_tw_readFormula) (pc := 32) (tgt := 51) dX11_readFormula_32 rfl hr17 ?_ ?_
  · exact okj_tw_readFormula_j51 hdp hM16
  · refine x_aload_n (μ := mu_tw_readFormula) (pc := 35) 0 dX11_readFormula_35 rfl ?_
    refine x_fgi (μ := mu_tw_readFormula) (pc := 36) fX11_47 q2683 dX11_readFormula_36 hM16.1 (fun hr29 => ?_)
    refine x_if_eq (μ := mu_tw_readFormula) (pc := 39) (tgt := 51) dX11_readFormula_39 rfl hr29 ?_ ?_
    · exact okj_tw_readFormula_j51 hdp hM16
    · refine x_aload_n (μ := mu_tw_readFormula) (pc := 42) 0 dX11_readFormula_42 rfl ?_
      refine x_iconst (μ := mu_tw_readFormula) (pc := 43) dX11_readFormula_43 ?_
      refine x_aload_n (μ := mu_tw_readFormula) (pc := 44) 0 dX11_readFormula_44 rfl ?_
      refine x_fgi (μ := mu_tw_readFormula) (pc := 45) fX11_48 q2684 dX11_readFormula_45 hM16.1 (fun hr30 => ?_)
      refine x_callV_mv (μ := mu_tw_readFormula) (pc := 48) (ok_tw_fail (ω := ω) (l := l) (d := d - 1) (by omega) hM16 (by decide) hr30) gRel_Tw gRel_Tw (fun _ q => q) q3079 q3081 qs100 q232 q3082 dX11_readFormula_48 rfl hM16.1 hy_tw_fail (by omega) (Nat.le_of_ble_eq_true rfl) rfl (Nat.le_of_ble_eq_true rfl) (fun x31 k32 => ?_)
      have hM33 : TM x31 h := hM16.tw k32
      exact okj_tw_readFormula_j51 hdp hM33
def tw_needValues_l19_j45 (N : Nat) (h : Nat) (v1 : Int) (v2 : Int) (v3 : Int) (Kh : Int → gMem → Option gMem) (K : gMem → Option gMem) (s : gMem) : Option gMem := Kh (w32 (v3 + 1)) s
set_option maxRecDepth 100000 in
theorem okj_tw_needValues_l19_j45 {ω : gW} {l : Launch} {d : Nat} {N : Nat} {h : Nat} {σ0 : gMem} {s : gMem} {v1 : Int} {v2 : Int} {v3 : Int} {Kh : Int → gMem → Option gMem} {K : gMem → Option gMem} (hdp : 205 ≤ d) (hM : TM s h) (hv1 : g32 v1) (hv2 : g32 v2) (hv3 : g32 v3) (hKh : ∀ (v3 : Int) (s : gMem) , g32 v3 → TM s h → GG (fun p : gMem => (.inl none, p)) gTw ω l d mu_tw_needValues σ0 19 [(0, vR h), (1, vI v1), (2, vI v2), (3, vI v3)] [] s (Kh v3 s)) (hK : ∀ (s : gMem) , TM s h → GG (fun p : gMem => (.inl none, p)) gTw ω l d mu_tw_needValues σ0 51 [(0, vR h), (1, vI v1)] [] s (K s)) : GG (fun p : gMem => (.inl none, p)) gTw ω l d mu_tw_needValues σ0 45 [(0, vR h), (1, vI v1), (2, vI v2), (3, vI v3)] [] s (tw_needValues_l19_j45 N h v1 v2 v3 Kh K s) := by
  unfold tw_needValues_l19_j45
  refine x_iincw (μ := mu_tw_needValues) (pc := 45) (lv' := [(3, vI (w32 (v3 + 1))), (0, vR h), (1, vI v1), (2, vI v2)]) 3 dX11_needValues_45 rfl (by decide) rfl ?_
  refine x_goto (μ := mu_tw_needValues) (pc := 48) (tgt := 19) dX11_needValues_48 rfl ?_
  refine x_loc (lv' := [(0, vR h), (1, vI v1), (2, vI v2), (3, vI (w32 (v3 + 1)))]) [1, 2, 3, 0] rfl ?_
  exact hKh (w32 (v3 + 1)) s (w32_rng _) hM
def tw_needValues_l19 (N : Nat) (h : Nat) (v1 : Int) (v2 : Int) (K : gMem → Option gMem) : Nat → Int → gMem → Option gMem
  | 0, _, _ => none
  | n + 1, v3, s => if v2 ≤ v3 then K s else if 0 ≤ v3 ∧ v3 < ((40 : Nat) : Int) then if mI s (h + 32) v3.toNat ≠ 0 then tw_needValues_l19_j45 N h v1 v2 v3  (tw_needValues_l19 N h v1 v2 K n) K s else (tw_valuesOf N h v3 s).bind (fun x2 => if 0 ≤ v3 ∧ v3 < ((40 : Nat) : Int) then gLet (wI x2 (h + 32) v3.toNat 1) (fun s5 => tw_needValues_l19_j45 N h v1 v2 v3  (tw_needValues_l19 N h v1 v2 K n) K s5) else none) else none
set_option maxRecDepth 100000 in
theorem okl_tw_needValues_l19 {ω : gW} {l : Launch} {d : Nat} {N : Nat} {h : Nat} {σ0 : gMem} {v1 : Int} {v2 : Int} {K : gMem → Option gMem} (hdp : 205 ≤ d) (hv1 : g32 v1) (hv2 : g32 v2) (hK : ∀ (s : gMem) , TM s h → GG (fun p : gMem => (.inl none, p)) gTw ω l d mu_tw_needValues σ0 51 [(0, vR h), (1, vI v1)] [] s (K s)) : ∀ (n : Nat) (v3 : Int) (s : gMem) , g32 v3 → TM s h → GG (fun p : gMem => (.inl none, p)) gTw ω l d mu_tw_needValues σ0 19 [(0, vR h), (1, vI v1), (2, vI v2), (3, vI v3)] [] s (tw_needValues_l19 N h v1 v2 K n v3 s) := by
  intro n
  induction n with
  | zero => intros; exact x_none
  | succ n ih =>
    intro v3 s hv3 hM
    unfold tw_needValues_l19
    refine x_iload_n (μ := mu_tw_needValues) (pc := 19) 3 dX11_needValues_19 rfl ?_
    refine x_iload_n (μ := mu_tw_needValues) (pc := 20) 2 dX11_needValues_20 rfl ?_
    refine x_icmp_ge (μ := mu_tw_needValues) (pc := 21) (tgt := 51) dX11_needValues_21 rfl hv3 hv2 ?_ ?_
    · refine x_loc (lv' := [(0, vR h), (1, vI v1)]) [0, 1] rfl ?_
      exact hK s hM
    · refine x_aload_n (μ := mu_tw_needValues) (pc := 24) 0 dX11_needValues_24 rfl ?_
      refine x_fgrE (μ := mu_tw_needValues) (pc := 25) fX11_64 (Or.inr ⟨_, rfl⟩) q2700 (hM.a64).1 dX11_needValues_25 hM.1 ?_
      refine x_iload_n (μ := mu_tw_needValues) (pc := 28) 3 dX11_needValues_28 rfl ?_
      refine x_zald (μ := mu_tw_needValues) (pc := 29) dX11_needValues_29 (hM.a64).2.1 (hM.a64).2.2 (fun hr1 => ?_)
      refine x_if_ne (μ := mu_tw_needValues) (pc := 30) (tgt := 45) dX11_needValues_30 rfl hr1 ?_ ?_
      · exact okj_tw_needValues_l19_j45 hdp hM hv1 hv2 hv3 ih hK
      · refine x_aload_n (μ := mu_tw_needValues) (pc := 33) 0 dX11_needValues_33 rfl ?_
        refine x_iload_n (μ := mu_tw_needValues) (pc := 34) 3 dX11_needValues_34 rfl ?_
        refine x_callV_mv (μ := mu_tw_needValues) (pc := 35) (ok_tw_valuesOf (ω := ω) (l := l) (d := d - 1) (by omega) hM hv3) gRel_Tw gRel_Tw (fun _ q => q) q3222 q3224 qs124 q232 q3225 dX11_needValues_35 rfl hM.1 hy_tw_valuesOf (by omega) (Nat.le_of_ble_eq_true rfl) rfl (Nat.le_of_ble_eq_true rfl) (fun x2 k3 => ?_)
        have hM4 : TM x2 h := hM.tw k3
        refine x_aload_n (μ := mu_tw_needValues) (pc := 38) 0 dX11_needValues_38 rfl ?_
        refine x_fgrE (μ := mu_tw_needValues) (pc := 39) fX11_64 (Or.inr ⟨_, rfl⟩) q2700 (hM4.a64).1 dX11_needValues_39 hM4.1 ?_
        refine x_iload_n (μ := mu_tw_needValues) (pc := 42) 3 dX11_needValues_42 rfl ?_
        refine x_iconst (μ := mu_tw_needValues) (pc := 43) dX11_needValues_43 ?_
        refine x_zast (μ := mu_tw_needValues) (pc := 44) dX11_needValues_44 (hM4.a64).2.1 (hM4.a64).2.2 (by decide) (fun _ _ q => gTw_wI q) ?_
        refine x_let (fun s5 e6 => ?_)
        have hM7 := TM.eI e6 hM4
        exact okj_tw_needValues_l19_j45 hdp hM7 hv1 hv2 hv3 ih hK
def tw_needValues_j16 (N : Nat) (h : Nat) (v1 : Int) (t0 : Int) (s : gMem) : Option gMem := tw_needValues_l19 N h v1 t0 (fun s8 => if v1 ≠ 40 then some s8 else if mI s8 h 65 ≠ 0 then some s8 else (tw_valuesOf N h 40 s8).bind (fun x11 => gLet (wI x11 h 65 1) (fun s14 => some s14))) N 0 s
set_option maxRecDepth 100000 in
theorem okj_tw_needValues_j16 {ω : gW} {l : Launch} {d : Nat} {N : Nat} {h : Nat} {σ0 : gMem} {s : gMem} {v1 : Int} {t0 : Int} (hdp : 205 ≤ d) (hM : TM s h) (hv1 : g32 v1) (ht0 : g32 t0) : GG (fun p : gMem => (.inl none, p)) gTw ω l d mu_tw_needValues σ0 16 [(0, vR h), (1, vI v1)] [vI t0] s (tw_needValues_j16 N h v1 t0 s) := by
  unfold tw_needValues_j16
  refine x_istore_n (μ := mu_tw_needValues) (pc := 16) (lv' := [(2, vI t0), (0, vR h), (1, vI v1)]) dX11_needValues_16 rfl (by decide) rfl ?_
  refine x_iconst (μ := mu_tw_needValues) (pc := 17) dX11_needValues_17 ?_
  refine x_istore_n (μ := mu_tw_needValues) (pc := 18) (lv' := [(3, vI 0), (2, vI t0), (0, vR h), (1, vI v1)]) dX11_needValues_18 rfl (by decide) rfl ?_
  refine x_loc (lv' := [(0, vR h), (1, vI v1), (2, vI t0), (3, vI 0)]) [2, 3, 1, 0] rfl ?_
  refine okl_tw_needValues_l19 hdp hv1 ht0 (fun s8 hM9 => ?_) N 0 s (by decide) hM
  refine x_iload_n (μ := mu_tw_needValues) (pc := 51) 1 dX11_needValues_51 rfl ?_
  refine x_bipush (μ := mu_tw_needValues) (pc := 52) dX11_needValues_52 (by decide) ?_
  refine x_icmp_ne (μ := mu_tw_needValues) (pc := 54) (tgt := 75) dX11_needValues_54 rfl hv1 (by decide) ?_ ?_
  · exact x_vret (μ := mu_tw_needValues) (pc := 75) (a1 := s8) dX11_needValues_75 rfl rfl (gRel_Tw.1 _) trivial
  · refine x_aload_n (μ := mu_tw_needValues) (pc := 57) 0 dX11_needValues_57 rfl ?_
    refine x_fgz (μ := mu_tw_needValues) (pc := 58) fX11_65 q2701 dX11_needValues_58 hM9.1 (fun hr10 => ?_)
    refine x_if_ne (μ := mu_tw_needValues) (pc := 61) (tgt := 75) dX11_needValues_61 rfl hr10 ?_ ?_
    · exact x_vret (μ := mu_tw_needValues) (pc := 75) (a1 := s8) dX11_needValues_75 rfl rfl (gRel_Tw.1 _) trivial
    · refine x_aload_n (μ := mu_tw_needValues) (pc := 64) 0 dX11_needValues_64 rfl ?_
      refine x_bipush (μ := mu_tw_needValues) (pc := 65) dX11_needValues_65 (by decide) ?_
      refine x_callV_mv (μ := mu_tw_needValues) (pc := 67) (ok_tw_valuesOf (ω := ω) (l := l) (d := d - 1) (by omega) hM9 (by decide)) gRel_Tw gRel_Tw (fun _ q => q) q3222 q3224 qs124 q232 q3225 dX11_needValues_67 rfl hM9.1 hy_tw_valuesOf (by omega) (Nat.le_of_ble_eq_true rfl) rfl (Nat.le_of_ble_eq_true rfl) (fun x11 k12 => ?_)
      have hM13 : TM x11 h := hM9.tw k12
      refine x_aload_n (μ := mu_tw_needValues) (pc := 70) 0 dX11_needValues_70 rfl ?_
      refine x_iconst (μ := mu_tw_needValues) (pc := 71) dX11_needValues_71 ?_
      refine x_fpz (μ := mu_tw_needValues) (pc := 72) fX11_65 q2701 (by decide) dX11_needValues_72 hM13.1 (fun _ q => gTw_wI q) ?_
      refine x_let (fun s14 e15 => ?_)
      have hM16 := TM.eI e15 hM13
      exact x_vret (μ := mu_tw_needValues) (pc := 75) (a1 := s14) dX11_needValues_75 rfl rfl (gRel_Tw.1 _) trivial
def tw_needValues (N : Nat) (h : Nat) (v1 : Int) (σ : gMem) : Option gMem := if v1 ≠ 40 then tw_needValues_j16 N h v1 (w32 (v1 + 1)) σ else tw_needValues_j16 N h v1 (mI σ h 8) σ
set_option maxRecDepth 100000 in
theorem ok_tw_needValues {ω : gW} {l : Launch} {d : Nat} {N : Nat} {h : Nat} {σ : gMem} {v1 : Int} (hdp : 205 ≤ d) (hM : TM σ h) (hv1 : g32 v1) : gK (fun p : gMem => (.inl none, p)) gTw ω l d mu_tw_needValues [vR h, vI v1] σ (tw_needValues N h v1 σ) := by
  refine gK.of hp_X11 (Nat.le_of_ble_eq_true rfl) ?_
  unfold tw_needValues
  refine x_iload_n (μ := mu_tw_needValues) (pc := 0) 1 dX11_needValues_0 rfl ?_
  refine x_bipush (μ := mu_tw_needValues) (pc := 1) dX11_needValues_1 (by decide) ?_
  refine x_icmp_ne (μ := mu_tw_needValues) (pc := 3) (tgt := 13) dX11_needValues_3 rfl hv1 (by decide) ?_ ?_
  · refine x_iload_n (μ := mu_tw_needValues) (pc := 13) 1 dX11_needValues_13 rfl ?_
    refine x_iconst (μ := mu_tw_needValues) (pc := 14) dX11_needValues_14 ?_
    refine x_iadd (μ := mu_tw_needValues) (pc := 15) dX11_needValues_15 ?_
    refine x_w1 ?_
    exact okj_tw_needValues_j16 hdp hM hv1 (w32_rng _)
  · refine x_aload_n (μ := mu_tw_needValues) (pc := 6) 0 dX11_needValues_6 rfl ?_
    refine x_fgi (μ := mu_tw_needValues) (pc := 7) fX11_8 q2644 dX11_needValues_7 hM.1 (fun hr17 => ?_)
    refine x_goto (μ := mu_tw_needValues) (pc := 10) (tgt := 16) dX11_needValues_10 rfl ?_
    exact okj_tw_needValues_j16 hdp hM hv1 hr17
def tw_value (N : Nat) (h : Nat) (v1 : Int) (v2 : Int) (v3 : Int) (σ : gMem) : Option (Int × gMem) := gLet (wI σ h 0 0) (fun s1 => (tw_asked h v1 v2 v3 s1).bind (fun x4 => if 0 ≤ x4 then (tw_sheetAt v1 s1).bind (fun x6 => (tw_needValues N h x6 s1).bind (fun x8 => if 0 ≤ x4 ∧ x4 < ((13120 : Nat) : Int) then if mI x8 (h + 28) x4.toNat ≠ 0 then if 0 ≤ x4 ∧ x4 < ((13120 : Nat) : Int) then if mI x8 (h + 28) x4.toNat ≠ 2 then if 0 ≤ x4 ∧ x4 < ((13120 : Nat) : Int) then some (mL x8 (h + 29) x4.toNat, x8) else none else if 0 ≤ x4 ∧ x4 < ((13120 : Nat) : Int) then some (mI x8 (h + 30) x4.toNat, x8) else none else none else some ((((0 : Fin 2) : Nat) : Int), x8) else none)) else some ((((0 : Fin 2) : Nat) : Int), s1)))
set_option maxRecDepth 100000 in
theorem ok_tw_value {ω : gW} {l : Launch} {d : Nat} {N : Nat} {h : Nat} {σ : gMem} {v1 : Int} {v2 : Int} {v3 : Int} (hdp : 206 ≤ d) (hM : TM σ h) (hv1 : g32 v1) (hv2 : g32 v2) (hv3 : g32 v3) : gK (fun p : Int × gMem => (.inl (some (vL p.1)), p.2)) gTw ω l d mu_tw_value [vR h, vI v1, vI v2, vI v3] σ (tw_value N h v1 v2 v3 σ) := by
  refine gK.of hp_X11 (Nat.le_of_ble_eq_true rfl) ?_
  unfold tw_value
  refine x_aload_n (μ := mu_tw_value) (pc := 0) 0 dX11_value_0 rfl ?_
  refine x_iconst (μ := mu_tw_value) (pc := 1) dX11_value_1 ?_
  refine x_fpi (μ := mu_tw_value) (pc := 2) fX11_0 q2636 dX11_value_2 hM.1 (fun _ q => gTw_wI q) ?_
  refine x_let (fun s1 e2 => ?_)
  have hM3 := TM.eI e2 hM
  refine x_aload_n (μ := mu_tw_value) (pc := 5) 0 dX11_value_5 rfl ?_
  refine x_iload_n (μ := mu_tw_value) (pc := 6) 1 dX11_value_6 rfl ?_
  refine x_iload_n (μ := mu_tw_value) (pc := 7) 2 dX11_value_7 rfl ?_
  refine x_iload_n (μ := mu_tw_value) (pc := 8) 3 dX11_value_8 rfl ?_
  refine x_callV_pi (μ := mu_tw_value) (pc := 9) (ok_tw_asked (ω := ω) (l := l) (d := d - 1) (by omega) hM3 hv1 hv2 hv3) gRel_Tw gRel_Tw (fun _ q => q) q3207 q3209 qs121 q232 q3210 dX11_value_9 rfl hM3.1 hy_tw_asked (by omega) (Nat.le_of_ble_eq_true rfl) rfl (Nat.le_of_ble_eq_true rfl) (fun x4 hr5 => ?_)
  refine x_istore (μ := mu_tw_value) (pc := 12) (lv' := [(4, vI x4), (0, vR h), (1, vI v1), (2, vI v2), (3, vI v3)]) dX11_value_12 (by decide) rfl ?_
  refine x_iload (μ := mu_tw_value) (pc := 14) 0 dX11_value_14 rfl ?_
  refine x_if_ge (μ := mu_tw_value) (pc := 16) (tgt := 21) dX11_value_16 rfl hr5 ?_ ?_
  · refine x_aload_n (μ := mu_tw_value) (pc := 21) 1 dX11_value_21 rfl ?_
    refine x_iload_n (μ := mu_tw_value) (pc := 22) 2 dX11_value_22 rfl ?_
    refine x_callS_pi (μ := mu_tw_value) (pc := 23) (ok_tw_sheetAt (ω := ω) (l := l) (d := d - 1) (by omega) hv1) gRel_Tw gRel_Tw (fun _ q => q) q3215 q3216 q232 q3217 dX11_value_23 hy_tw_sheetAt (by omega) (Nat.le_of_ble_eq_true rfl) rfl (Nat.le_of_ble_eq_true rfl) (fun x6 hr7 => ?_)
    refine x_callV_mv (μ := mu_tw_value) (pc := 26) (ok_tw_needValues (ω := ω) (l := l) (d := d - 1) (by omega) hM3 hr7) gRel_Tw gRel_Tw (fun _ q => q) q3218 q3220 qs123 q232 q3221 dX11_value_26 rfl hM3.1 hy_tw_needValues (by omega) (Nat.le_of_ble_eq_true rfl) rfl (Nat.le_of_ble_eq_true rfl) (fun x8 k9 => ?_)
    have hM10 : TM x8 h := hM3.tw k9
    refine x_aload_n (μ := mu_tw_value) (pc := 29) 1 dX11_value_29 rfl ?_
    refine x_fgrE (μ := mu_tw_value) (pc := 30) fX11_60 (Or.inr ⟨_, rfl⟩) q2696 (hM10.a60).1 dX11_value_30 hM10.1 ?_
    refine x_iload (μ := mu_tw_value) (pc := 33) 0 dX11_value_33 rfl ?_
    refine x_iald (μ := mu_tw_value) (pc := 35) dX11_value_35 (hM10.a60).2.1 (hM10.a60).2.2 (fun hr11 => ?_)
    refine x_if_ne (μ := mu_tw_value) (pc := 36) (tgt := 43) dX11_value_36 rfl hr11 ?_ ?_
    · refine x_aload_n (μ := mu_tw_value) (pc := 43) 1 dX11_value_43 rfl ?_
      refine x_fgrE (μ := mu_tw_value) (pc := 44) fX11_60 (Or.inr ⟨_, rfl⟩) q2696 (hM10.a60).1 dX11_value_44 hM10.1 ?_
      refine x_iload (μ := mu_tw_value) (pc := 47) 0 dX11_value_47 rfl ?_
      refine x_iald (μ := mu_tw_value) (pc := 49) dX11_value_49 (hM10.a60).2.1 (hM10.a60).2.2 (fun hr12 => ?_)
      refine x_iconst (μ := mu_tw_value) (pc := 50) dX11_value_50 ?_
      refine x_icmp_ne (μ := mu_tw_value) (pc := 51) (tgt := 65) dX11_value_51 rfl hr12 (by decide) ?_ ?_
      · refine x_aload_n (μ := mu_tw_value) (pc := 65) 1 dX11_value_65 rfl ?_
        refine x_fgrE (μ := mu_tw_value) (pc := 66) fX11_61 (Or.inr ⟨_, rfl⟩) q2697 (hM10.a61).1 dX11_value_66 hM10.1 ?_
        refine x_iload (μ := mu_tw_value) (pc := 69) 0 dX11_value_69 rfl ?_
        refine x_lald (μ := mu_tw_value) (pc := 71) dX11_value_71 (hM10.a61).2.1 (hM10.a61).2.2 (fun hr13 => ?_)
        exact x_lret (μ := mu_tw_value) (pc := 72) dX11_value_72 rfl rfl (gRel_Tw.1 _) (show g64 (mL x8 (h + 29) x4.toNat) from hr13)
      · refine x_aload_n (μ := mu_tw_value) (pc := 54) 1 dX11_value_54 rfl ?_
        refine x_fgrE (μ := mu_tw_value) (pc := 55) fX11_62 (Or.inr ⟨_, rfl⟩) q2698 (hM10.a62).1 dX11_value_55 hM10.1 ?_
        refine x_iload (μ := mu_tw_value) (pc := 58) 0 dX11_value_58 rfl ?_
        refine x_iald (μ := mu_tw_value) (pc := 60) dX11_value_60 (hM10.a62).2.1 (hM10.a62).2.2 (fun hr14 => ?_)
        refine x_i2l (μ := mu_tw_value) (pc := 61) dX11_value_61 hr14 ?_
        refine x_goto (μ := mu_tw_value) (pc := 62) (tgt := 72) dX11_value_62 rfl ?_
        exact x_lret (μ := mu_tw_value) (pc := 72) dX11_value_72 rfl rfl (gRel_Tw.1 _) (show g64 (mI x8 (h + 30) x4.toNat) from (g32_64 hr14))
    · refine x_lconst (μ := mu_tw_value) (pc := 39) dX11_value_39 ?_
      refine x_goto (μ := mu_tw_value) (pc := 40) (tgt := 72) dX11_value_40 rfl ?_
      exact x_lret (μ := mu_tw_value) (pc := 72) dX11_value_72 rfl rfl (gRel_Tw.1 _) (show g64 (((0 : Fin 2) : Nat) : Int) from (by decide))
  · refine x_lconst (μ := mu_tw_value) (pc := 19) dX11_value_19 ?_
    exact x_lret (μ := mu_tw_value) (pc := 20) dX11_value_20 rfl rfl (gRel_Tw.1 _) (show g64 (((0 : Fin 2) : Nat) : Int) from (by decide))
def tw_letter (N : Nat) (h : Nat) (v1 : Int) (v2 : Int) (v3 : Int) (v4 : Int) (σ : gMem) : Option (Int × gMem) := gLet (wI σ h 0 0) (fun s1 => (tw_asked h v1 v2 v3 s1).bind (fun x4 => if 0 ≤ x4 then (tw_sheetAt v1 s1).bind (fun x6 => (tw_needValues N h x6 s1).bind (fun x8 => if 0 ≤ x4 ∧ x4 < ((13120 : Nat) : Int) then if mI x8 (h + 28) x4.toNat ≠ 2 then some ((-1), x8) else if 0 ≤ x4 ∧ x4 < ((13120 : Nat) : Int) then (tw_in v4 0 (w32 ((mI x8 (h + 30) x4.toNat) - 1)) x8).bind (fun x13 => if x13 = 0 then some ((-1), x8) else if 0 ≤ ((24 * x4) + v4) ∧ ((24 * x4) + v4) < ((314880 : Nat) : Int) then some (mI x8 (h + 31) ((24 * x4) + v4).toNat, x8) else none) else none else none)) else some ((-1), s1)))
set_option maxRecDepth 100000 in
theorem ok_tw_letter {ω : gW} {l : Launch} {d : Nat} {N : Nat} {h : Nat} {σ : gMem} {v1 : Int} {v2 : Int} {v3 : Int} {v4 : Int} (hdp : 206 ≤ d) (hM : TM σ h) (hv1 : g32 v1) (hv2 : g32 v2) (hv3 : g32 v3) (hv4 : g32 v4) : gK (fun p : Int × gMem => (.inl (some (vI p.1)), p.2)) gTw ω l d mu_tw_letter [vR h, vI v1, vI v2, vI v3, vI v4] σ (tw_letter N h v1 v2 v3 v4 σ) := by
  refine gK.of hp_X11 (Nat.le_of_ble_eq_true rfl) ?_
  unfold tw_letter
  refine x_aload_n (μ := mu_tw_letter) (pc := 0) 0 dX11_letter_0 rfl ?_
  refine x_iconst (μ := mu_tw_letter) (pc := 1) dX11_letter_1 ?_
  refine x_fpi (μ := mu_tw_letter) (pc := 2) fX11_0 q2636 dX11_letter_2 hM.1 (fun _ q => gTw_wI q) ?_
  refine x_let (fun s1 e2 => ?_)
  have hM3 := TM.eI e2 hM
  refine x_aload_n (μ := mu_tw_letter) (pc := 5) 0 dX11_letter_5 rfl ?_
  refine x_iload_n (μ := mu_tw_letter) (pc := 6) 1 dX11_letter_6 rfl ?_
  refine x_iload_n (μ := mu_tw_letter) (pc := 7) 2 dX11_letter_7 rfl ?_
  refine x_iload_n (μ := mu_tw_letter) (pc := 8) 3 dX11_letter_8 rfl ?_
  refine x_callV_pi (μ := mu_tw_letter) (pc := 9) (ok_tw_asked (ω := ω) (l := l) (d := d - 1) (by omega) hM3 hv1 hv2 hv3) gRel_Tw gRel_Tw (fun _ q => q) q3207 q3209 qs121 q232 q3210 dX11_letter_9 rfl hM3.1 hy_tw_asked (by omega) (Nat.le_of_ble_eq_true rfl) rfl (Nat.le_of_ble_eq_true rfl) (fun x4 hr5 => ?_)
  refine x_istore (μ := mu_tw_letter) (pc := 12) (lv' := [(5, vI x4), (0, vR h), (1, vI v1), (2, vI v2), (3, vI v3), (4, vI v4)]) dX11_letter_12 (by decide) rfl ?_
  refine x_iload (μ := mu_tw_letter) (pc := 14) 0 dX11_letter_14 rfl ?_
  refine x_if_ge (μ := mu_tw_letter) (pc := 16) (tgt := 21) dX11_letter_16 rfl hr5 ?_ ?_
  · refine x_aload_n (μ := mu_tw_letter) (pc := 21) 1 dX11_letter_21 rfl ?_
    refine x_iload_n (μ := mu_tw_letter) (pc := 22) 2 dX11_letter_22 rfl ?_
    refine x_callS_pi (μ := mu_tw_letter) (pc := 23) (ok_tw_sheetAt (ω := ω) (l := l) (d := d - 1) (by omega) hv1) gRel_Tw gRel_Tw (fun _ q => q) q3215 q3216 q232 q3217 dX11_letter_23 hy_tw_sheetAt (by omega) (Nat.le_of_ble_eq_true rfl) rfl (Nat.le_of_ble_eq_true rfl) (fun x6 hr7 => ?_)
    refine x_callV_mv (μ := mu_tw_letter) (pc := 26) (ok_tw_needValues (ω := ω) (l := l) (d := d - 1) (by omega) hM3 hr7) gRel_Tw gRel_Tw (fun _ q => q) q3218 q3220 qs123 q232 q3221 dX11_letter_26 rfl hM3.1 hy_tw_needValues (by omega) (Nat.le_of_ble_eq_true rfl) rfl (Nat.le_of_ble_eq_true rfl) (fun x8 k9 => ?_)
    have hM10 : TM x8 h := hM3.tw k9
    refine x_aload_n (μ := mu_tw_letter) (pc := 29) 1 dX11_letter_29 rfl ?_
    refine x_fgrE (μ := mu_tw_letter) (pc := 30) fX11_60 (Or.inr ⟨_, rfl⟩) q2696 (hM10.a60).1 dX11_letter_30 hM10.1 ?_
    refine x_iload (μ := mu_tw_letter) (pc := 33) 0 dX11_letter_33 rfl ?_
    refine x_iald (μ := mu_tw_letter) (pc := 35) dX11_letter_35 (hM10.a60).2.1 (hM10.a60).2.2 (fun hr11 => ?_)
    refine x_iconst (μ := mu_tw_letter) (pc := 36) dX11_letter_36 ?_
    refine x_icmp_ne (μ := mu_tw_letter) (pc := 37) (tgt := 74) dX11_letter_37 rfl hr11 (by decide) ?_ ?_
    · refine x_iconst (μ := mu_tw_letter) (pc := 74) dX11_letter_74 ?_
      exact x_iret (μ := mu_tw_letter) (pc := 75) dX11_letter_75 rfl rfl (gRel_Tw.1 _) (show g32 (-1) from (by decide))
    · refine x_iload (μ := mu_tw_letter) (pc := 40) 5 dX11_letter_40 rfl ?_
      refine x_iconst (μ := mu_tw_letter) (pc := 42) dX11_letter_42 ?_
      refine x_aload_n (μ := mu_tw_letter) (pc := 43) 1 dX11_letter_43 rfl ?_
      refine x_fgrE (μ := mu_tw_letter) (pc := 44) fX11_62 (Or.inr ⟨_, rfl⟩) q2698 (hM10.a62).1 dX11_letter_44 hM10.1 ?_
      refine x_iload (μ := mu_tw_letter) (pc := 47) 0 dX11_letter_47 rfl ?_
      refine x_iald (μ := mu_tw_letter) (pc := 49) dX11_letter_49 (hM10.a62).2.1 (hM10.a62).2.2 (fun hr12 => ?_)
      refine x_iconst (μ := mu_tw_letter) (pc := 50) dX11_letter_50 ?_
      refine x_isub (μ := mu_tw_letter) (pc := 51) dX11_letter_51 ?_
      refine x_w1 ?_
      refine x_callS_pi (μ := mu_tw_letter) (pc := 52) (ok_tw_in (ω := ω) (l := l) (d := d - 1) (by omega) hv4 (by decide) (w32_rng _)) gRel_Tw gRel_Tw (fun _ q => q) q2980 q2981 q232 q2982 dX11_letter_52 hy_tw_in (by omega) (Nat.le_of_ble_eq_true rfl) rfl (Nat.le_of_ble_eq_true rfl) (fun x13 hr14 => ?_)
      refine x_if_eq (μ := mu_tw_letter) (pc := 55) (tgt := 74) dX11_letter_55 rfl hr14 ?_ ?_
      · refine x_iconst (μ := mu_tw_letter) (pc := 74) dX11_letter_74 ?_
        exact x_iret (μ := mu_tw_letter) (pc := 75) dX11_letter_75 rfl rfl (gRel_Tw.1 _) (show g32 (-1) from (by decide))
      · refine x_aload_n (μ := mu_tw_letter) (pc := 58) 1 dX11_letter_58 rfl ?_
        refine x_fgrE (μ := mu_tw_letter) (pc := 59) fX11_63 (Or.inr ⟨_, rfl⟩) q2699 (hM10.a63).1 dX11_letter_59 hM10.1 ?_
        refine x_bipush (μ := mu_tw_letter) (pc := 62) dX11_letter_62 (by decide) ?_
        refine x_iload (μ := mu_tw_letter) (pc := 64) 0 dX11_letter_64 rfl ?_
        refine x_imul (μ := mu_tw_letter) (pc := 66) dX11_letter_66 ?_
        refine x_iload (μ := mu_tw_letter) (pc := 67) 5 dX11_letter_67 rfl ?_
        refine x_iadd (μ := mu_tw_letter) (pc := 69) dX11_letter_69 ?_
        refine x_bald (μ := mu_tw_letter) (pc := 70) dX11_letter_70 (hM10.a63).2.1 (hM10.a63).2.2 (fun hr15 => ?_)
        refine x_goto (μ := mu_tw_letter) (pc := 71) (tgt := 75) dX11_letter_71 rfl ?_
        exact x_iret (μ := mu_tw_letter) (pc := 75) dX11_letter_75 rfl rfl (gRel_Tw.1 _) (show g32 (mI x8 (h + 31) ((24 * x4) + v4).toNat) from hr15)
  · refine x_iconst (μ := mu_tw_letter) (pc := 19) dX11_letter_19 ?_
    exact x_iret (μ := mu_tw_letter) (pc := 20) dX11_letter_20 rfl rfl (gRel_Tw.1 _) (show g32 (-1) from (by decide))
def tw_sort_l110 (N : Nat) (h : Nat) (v2 : Int) (v4 : Int) (v5 : Int) (v6 : Int) (v7 : Int) (K : Int → gMem → Option (Int × gMem)) : Nat → Int → gMem → Option (Int × gMem)
  | 0, _, _ => none
  | n + 1, v8, s => if v8 ≤ 0 then K v8 s else if 0 ≤ (v8 - 1) ∧ (v8 - 1) < ((32 : Nat) : Int) then (tw_isAhead N h (w32 (v6 + (10 * v7))) (w32 (v6 + (10 * (mI s (h + 43) (v8 - 1).toNat)))) v4 s).bind (fun x25 => if x25.1 = 0 then K v8 (x25.2) else if 0 ≤ (v8 - 1) ∧ (v8 - 1) < ((32 : Nat) : Int) then if 0 ≤ v8 ∧ v8 < ((32 : Nat) : Int) then gLet (wI (x25.2) (h + 43) v8.toNat (mI (x25.2) (h + 43) (v8 - 1).toNat)) (fun s30 => tw_sort_l110 N h v2 v4 v5 v6 v7 K n (w32 (v8 + (-1))) s30) else none else none) else none
set_option maxRecDepth 100000 in
theorem okl_tw_sort_l110 {ω : gW} {l : Launch} {d : Nat} {N : Nat} {h : Nat} {σ0 : gMem} {v2 : Int} {v4 : Int} {v5 : Int} {v6 : Int} {v7 : Int} {K : Int → gMem → Option (Int × gMem)} (hdp : 206 ≤ d) (hv2 : g32 v2) (hv4 : g32 v4) (hv5 : g32 v5) (hv6 : g32 v6) (hv7 : g32 v7) (hK : ∀ (v8 : Int) (s : gMem) , g32 v8 → TM s h → GG (fun p : Int × gMem => (.inl (some (vI p.1)), p.2)) gTw ω l d mu_tw_sort σ0 169 [(0, vR h), (2, vI v2), (4, vI v4), (5, vI v5), (6, vI v6), (7, vI v7), (8, vI v8)] [] s (K v8 s)) : ∀ (n : Nat) (v8 : Int) (s : gMem) , g32 v8 → TM s h → GG (fun p : Int × gMem => (.inl (some (vI p.1)), p.2)) gTw ω l d mu_tw_sort σ0 110 [(0, vR h), (2, vI v2), (4, vI v4), (5, vI v5), (6, vI v6), (7, vI v7), (8, vI v8)] [] s (tw_sort_l110 N h v2 v4 v5 v6 v7 K n v8 s) := by
  intro n
  induction n with
  | zero => intros; exact x_none
  | succ n ih =>
    intro v8 s hv8 hM
    unfold tw_sort_l110
    refine x_iload (μ := mu_tw_sort) (pc := 110) 6 dX11_sort_110 rfl ?_
    refine x_if_le (μ := mu_tw_sort) (pc := 112) (tgt := 169) dX11_sort_112 rfl hv8 ?_ ?_
    · exact hK v8 s hv8 hM
    · refine x_aload_n (μ := mu_tw_sort) (pc := 115) 0 dX11_sort_115 rfl ?_
      refine x_iload (μ := mu_tw_sort) (pc := 116) 4 dX11_sort_116 rfl ?_
      refine x_bipush (μ := mu_tw_sort) (pc := 118) dX11_sort_118 (by decide) ?_
      refine x_iload (μ := mu_tw_sort) (pc := 120) 5 dX11_sort_120 rfl ?_
      refine x_imul (μ := mu_tw_sort) (pc := 122) dX11_sort_122 ?_
      refine x_iadd (μ := mu_tw_sort) (pc := 123) dX11_sort_123 ?_
      refine x_iload (μ := mu_tw_sort) (pc := 124) 4 dX11_sort_124 rfl ?_
      refine x_bipush (μ := mu_tw_sort) (pc := 126) dX11_sort_126 (by decide) ?_
      refine x_aload_n (μ := mu_tw_sort) (pc := 128) 0 dX11_sort_128 rfl ?_
      refine x_fgrE (μ := mu_tw_sort) (pc := 129) fX11_88 (Or.inr ⟨_, rfl⟩) q2724 (hM.a88).1 dX11_sort_129 hM.1 ?_
      refine x_iload (μ := mu_tw_sort) (pc := 132) 6 dX11_sort_132 rfl ?_
      refine x_iconst (μ := mu_tw_sort) (pc := 134) dX11_sort_134 ?_
      refine x_isub (μ := mu_tw_sort) (pc := 135) dX11_sort_135 ?_
      refine x_iald (μ := mu_tw_sort) (pc := 136) dX11_sort_136 (hM.a88).2.1 (hM.a88).2.2 (fun hr24 => ?_)
      refine x_imul (μ := mu_tw_sort) (pc := 137) dX11_sort_137 ?_
      refine x_iadd (μ := mu_tw_sort) (pc := 138) dX11_sort_138 ?_
      refine x_iload (μ := mu_tw_sort) (pc := 139) 2 dX11_sort_139 rfl ?_
      refine x_w2 ?_
      refine x_stk (st2 := [vI v4, vI (w32 (v6 + (10 * (mI s (h + 43) (v8 - 1).toNat)))), vI (w32 (v6 + (10 * v7))), vR h]) (by simp only [List.map_cons, gval_w32, gval_w64]) ?_
      refine x_callV_mi (μ := mu_tw_sort) (pc := 141) (ok_tw_isAhead (ω := ω) (l := l) (d := d - 1) (by omega) hM (w32_rng _) (w32_rng _) hv4) gRel_Tw gRel_Tw (fun _ q => q) q3581 q3583 qs193 q232 q3584 dX11_sort_141 rfl hM.1 hy_tw_isAhead (by omega) (Nat.le_of_ble_eq_true rfl) rfl (Nat.le_of_ble_eq_true rfl) (fun x25 k27 hr26 => ?_)
      have hM28 : TM (x25.2) h := hM.tw k27
      refine x_if_eq (μ := mu_tw_sort) (pc := 144) (tgt := 169) dX11_sort_144 rfl hr26 ?_ ?_
      · exact hK v8 (x25.2) hv8 hM28
      · refine x_aload_n (μ := mu_tw_sort) (pc := 147) 0 dX11_sort_147 rfl ?_
        refine x_fgrE (μ := mu_tw_sort) (pc := 148) fX11_88 (Or.inr ⟨_, rfl⟩) q2724 (hM28.a88).1 dX11_sort_148 hM28.1 ?_
        refine x_iload (μ := mu_tw_sort) (pc := 151) 6 dX11_sort_151 rfl ?_
        refine x_aload_n (μ := mu_tw_sort) (pc := 153) 0 dX11_sort_153 rfl ?_
        refine x_fgrE (μ := mu_tw_sort) (pc := 154) fX11_88 (Or.inr ⟨_, rfl⟩) q2724 (hM28.a88).1 dX11_sort_154 hM28.1 ?_
        refine x_iload (μ := mu_tw_sort) (pc := 157) 6 dX11_sort_157 rfl ?_
        refine x_iconst (μ := mu_tw_sort) (pc := 159) dX11_sort_159 ?_
        refine x_isub (μ := mu_tw_sort) (pc := 160) dX11_sort_160 ?_
        refine x_iald (μ := mu_tw_sort) (pc := 161) dX11_sort_161 (hM28.a88).2.1 (hM28.a88).2.2 (fun hr29 => ?_)
        refine x_iast (μ := mu_tw_sort) (pc := 162) dX11_sort_162 (hM28.a88).2.1 (hM28.a88).2.2 (fun _ _ q => gTw_wI q) ?_
        refine x_let (fun s30 e31 => ?_)
        have hM32 := TM.eI e31 hM28
        refine x_iincw (μ := mu_tw_sort) (pc := 163) (lv' := [(8, vI (w32 (v8 + (-1)))), (0, vR h), (2, vI v2), (4, vI v4), (5, vI v5), (6, vI v6), (7, vI v7)]) 6 dX11_sort_163 rfl (by decide) rfl ?_
        refine x_goto (μ := mu_tw_sort) (pc := 166) (tgt := 110) dX11_sort_166 rfl ?_
        refine x_loc (lv' := [(0, vR h), (2, vI v2), (4, vI v4), (5, vI v5), (6, vI v6), (7, vI v7), (8, vI (w32 (v8 + (-1))))]) [1, 2, 3, 4, 5, 6, 0] rfl ?_
        exact ih (w32 (v8 + (-1))) s30 (w32_rng _) hM32
def tw_sort_l99_j169 (N : Nat) (h : Nat) (v2 : Int) (v4 : Int) (v5 : Int) (v6 : Int) (v7 : Int) (v8 : Int) (Kh : Int → gMem → Option (Int × gMem)) (K : gMem → Option (Int × gMem)) (s : gMem) : Option (Int × gMem) := if 0 ≤ v8 ∧ v8 < ((32 : Nat) : Int) then gLet (wI s (h + 43) v8.toNat v7) (fun s36 => Kh (w32 (v7 + 1)) s36) else none
set_option maxRecDepth 100000 in
theorem okj_tw_sort_l99_j169 {ω : gW} {l : Launch} {d : Nat} {N : Nat} {h : Nat} {σ0 : gMem} {s : gMem} {v2 : Int} {v4 : Int} {v5 : Int} {v6 : Int} {v7 : Int} {v8 : Int} {Kh : Int → gMem → Option (Int × gMem)} {K : gMem → Option (Int × gMem)} (hdp : 206 ≤ d) (hM : TM s h) (hv2 : g32 v2) (hv4 : g32 v4) (hv5 : g32 v5) (hv6 : g32 v6) (hv7 : g32 v7) (hv8 : g32 v8) (hKh : ∀ (v7 : Int) (s : gMem) , g32 v7 → TM s h → GG (fun p : Int × gMem => (.inl (some (vI p.1)), p.2)) gTw ω l d mu_tw_sort σ0 99 [(0, vR h), (2, vI v2), (4, vI v4), (5, vI v5), (6, vI v6), (7, vI v7)] [] s (Kh v7 s)) (hK : ∀ (s : gMem) , TM s h → GG (fun p : Int × gMem => (.inl (some (vI p.1)), p.2)) gTw ω l d mu_tw_sort σ0 184 [(0, vR h), (2, vI v2), (5, vI v5)] [] s (K s)) : GG (fun p : Int × gMem => (.inl (some (vI p.1)), p.2)) gTw ω l d mu_tw_sort σ0 169 [(0, vR h), (2, vI v2), (4, vI v4), (5, vI v5), (6, vI v6), (7, vI v7), (8, vI v8)] [] s (tw_sort_l99_j169 N h v2 v4 v5 v6 v7 v8 Kh K s) := by
  unfold tw_sort_l99_j169
  refine x_aload_n (μ := mu_tw_sort) (pc := 169) 0 dX11_sort_169 rfl ?_
  refine x_fgrE (μ := mu_tw_sort) (pc := 170) fX11_88 (Or.inr ⟨_, rfl⟩) q2724 (hM.a88).1 dX11_sort_170 hM.1 ?_
  refine x_iload (μ := mu_tw_sort) (pc := 173) 6 dX11_sort_173 rfl ?_
  refine x_iload (μ := mu_tw_sort) (pc := 175) 5 dX11_sort_175 rfl ?_
  refine x_iast (μ := mu_tw_sort) (pc := 177) dX11_sort_177 (hM.a88).2.1 (hM.a88).2.2 (fun _ _ q => gTw_wI q) ?_
  refine x_let (fun s36 e37 => ?_)
  have hM38 := TM.eI e37 hM
  refine x_iincw (μ := mu_tw_sort) (pc := 178) (lv' := [(7, vI (w32 (v7 + 1))), (0, vR h), (2, vI v2), (4, vI v4), (5, vI v5), (6, vI v6), (8, vI v8)]) 5 dX11_sort_178 rfl (by decide) rfl ?_
  refine x_goto (μ := mu_tw_sort) (pc := 181) (tgt := 99) dX11_sort_181 rfl ?_
  refine x_loc (lv' := [(0, vR h), (2, vI v2), (4, vI v4), (5, vI v5), (6, vI v6), (7, vI (w32 (v7 + 1)))]) [1, 2, 3, 4, 5, 0] rfl ?_
  exact hKh (w32 (v7 + 1)) s36 (w32_rng _) hM38
def tw_sort_l99 (N : Nat) (h : Nat) (v2 : Int) (v4 : Int) (v5 : Int) (v6 : Int) (K : gMem → Option (Int × gMem)) : Nat → Int → gMem → Option (Int × gMem)
  | 0, _, _ => none
  | n + 1, v7, s => if v5 ≤ v7 then K s else tw_sort_l110 N h v2 v4 v5 v6 v7 (fun y33 s34 => tw_sort_l99_j169 N h v2 v4 v5 v6 v7 y33  (tw_sort_l99 N h v2 v4 v5 v6 K n) K s34) N v7 s
set_option maxRecDepth 100000 in
theorem okl_tw_sort_l99 {ω : gW} {l : Launch} {d : Nat} {N : Nat} {h : Nat} {σ0 : gMem} {v2 : Int} {v4 : Int} {v5 : Int} {v6 : Int} {K : gMem → Option (Int × gMem)} (hdp : 206 ≤ d) (hv2 : g32 v2) (hv4 : g32 v4) (hv5 : g32 v5) (hv6 : g32 v6) (hK : ∀ (s : gMem) , TM s h → GG (fun p : Int × gMem => (.inl (some (vI p.1)), p.2)) gTw ω l d mu_tw_sort σ0 184 [(0, vR h), (2, vI v2), (5, vI v5)] [] s (K s)) : ∀ (n : Nat) (v7 : Int) (s : gMem) , g32 v7 → TM s h → GG (fun p : Int × gMem => (.inl (some (vI p.1)), p.2)) gTw ω l d mu_tw_sort σ0 99 [(0, vR h), (2, vI v2), (4, vI v4), (5, vI v5), (6, vI v6), (7, vI v7)] [] s (tw_sort_l99 N h v2 v4 v5 v6 K n v7 s) := by
  intro n
  induction n with
  | zero => intros; exact x_none
  | succ n ih =>
    intro v7 s hv7 hM
    unfold tw_sort_l99
    refine x_iload (μ := mu_tw_sort) (pc := 99) 5 dX11_sort_99 rfl ?_
    refine x_iload (μ := mu_tw_sort) (pc := 101) 3 dX11_sort_101 rfl ?_
    refine x_icmp_ge (μ := mu_tw_sort) (pc := 103) (tgt := 184) dX11_sort_103 rfl hv7 hv5 ?_ ?_
    · refine x_loc (lv' := [(0, vR h), (2, vI v2), (5, vI v5)]) [0, 1, 3] rfl ?_
      exact hK s hM
    · refine x_iload (μ := mu_tw_sort) (pc := 106) 5 dX11_sort_106 rfl ?_
      refine x_istore (μ := mu_tw_sort) (pc := 108) (lv' := [(8, vI v7), (0, vR h), (2, vI v2), (4, vI v4), (5, vI v5), (6, vI v6), (7, vI v7)]) dX11_sort_108 (by decide) rfl ?_
      refine x_loc (lv' := [(0, vR h), (2, vI v2), (4, vI v4), (5, vI v5), (6, vI v6), (7, vI v7), (8, vI v7)]) [1, 2, 3, 4, 5, 6, 0] rfl ?_
      refine okl_tw_sort_l110 hdp hv2 hv4 hv5 hv6 hv7 (fun y33 s34 hy33 hM35 => ?_) N v7 s hv7 hM
      exact okj_tw_sort_l99_j169 hdp hM35 hv2 hv4 hv5 hv6 hv7 hy33 ih hK
def tw_sort_l196_j222 (N : Nat) (h : Nat) (v2 : Int) (v5 : Int) (v7 : Int) (v9 : Int) (t0 : Int) (t1 : Int) (Kh : Int → Int → gMem → Option (Int × gMem)) (K : Int → gMem → Option (Int × gMem)) (s : gMem) : Option (Int × gMem) := if 0 ≤ v9 ∧ v9 < ((32 : Nat) : Int) then (tw_comeLine N h 0 (w32 ((v2 - 1) + (mI s (h + 43) v9.toNat))) v7 (w32 ((v2 - 1) + v9)) s).bind (fun x47 => Kh (w32 (t1 + t0)) (w32 (v9 + 1)) x47) else none
set_option maxRecDepth 100000 in
theorem okj_tw_sort_l196_j222 {ω : gW} {l : Launch} {d : Nat} {N : Nat} {h : Nat} {σ0 : gMem} {s : gMem} {v2 : Int} {v5 : Int} {v7 : Int} {v9 : Int} {t0 : Int} {t1 : Int} {Kh : Int → Int → gMem → Option (Int × gMem)} {K : Int → gMem → Option (Int × gMem)} (hdp : 206 ≤ d) (hM : TM s h) (hv2 : g32 v2) (hv5 : g32 v5) (hv7 : g32 v7) (hv9 : g32 v9) (ht0 : g32 t0) (ht1 : g32 t1) (hKh : ∀ (v8 : Int) (v9 : Int) (s : gMem) , g32 v8 → g32 v9 → TM s h → GG (fun p : Int × gMem => (.inl (some (vI p.1)), p.2)) gTw ω l d mu_tw_sort σ0 196 [(0, vR h), (2, vI v2), (5, vI v5), (7, vI v7), (8, vI v8), (9, vI v9)] [] s (Kh v8 v9 s)) (hK : ∀ (v8 : Int) (s : gMem) , g32 v8 → TM s h → GG (fun p : Int × gMem => (.inl (some (vI p.1)), p.2)) gTw ω l d mu_tw_sort σ0 255 [(8, vI v8)] [] s (K v8 s)) : GG (fun p : Int × gMem => (.inl (some (vI p.1)), p.2)) gTw ω l d mu_tw_sort σ0 222 [(0, vR h), (2, vI v2), (5, vI v5), (7, vI v7), (9, vI v9)] [vI t0, vI t1] s (tw_sort_l196_j222 N h v2 v5 v7 v9 t0 t1 Kh K s) := by
  unfold tw_sort_l196_j222
  refine x_iadd (μ := mu_tw_sort) (pc := 222) dX11_sort_222 ?_
  refine x_w1 ?_
  refine x_istore (μ := mu_tw_sort) (pc := 223) (lv' := [(8, vI (w32 (t1 + t0))), (0, vR h), (2, vI v2), (5, vI v5), (7, vI v7), (9, vI v9)]) dX11_sort_223 (by decide) rfl ?_
  refine x_aload_n (μ := mu_tw_sort) (pc := 225) 1 dX11_sort_225 rfl ?_
  refine x_iconst (μ := mu_tw_sort) (pc := 226) dX11_sort_226 ?_
  refine x_iload_n (μ := mu_tw_sort) (pc := 227) 2 dX11_sort_227 rfl ?_
  refine x_iconst (μ := mu_tw_sort) (pc := 228) dX11_sort_228 ?_
  refine x_isub (μ := mu_tw_sort) (pc := 229) dX11_sort_229 ?_
  refine x_aload_n (μ := mu_tw_sort) (pc := 230) 1 dX11_sort_230 rfl ?_
  refine x_fgrE (μ := mu_tw_sort) (pc := 231) fX11_88 (Or.inr ⟨_, rfl⟩) q2724 (hM.a88).1 dX11_sort_231 hM.1 ?_
  refine x_iload (μ := mu_tw_sort) (pc := 234) 5 dX11_sort_234 rfl ?_
  refine x_iald (μ := mu_tw_sort) (pc := 236) dX11_sort_236 (hM.a88).2.1 (hM.a88).2.2 (fun hr46 => ?_)
  refine x_iadd (μ := mu_tw_sort) (pc := 237) dX11_sort_237 ?_
  refine x_iload (μ := mu_tw_sort) (pc := 238) 4 dX11_sort_238 rfl ?_
  refine x_iload_n (μ := mu_tw_sort) (pc := 240) 2 dX11_sort_240 rfl ?_
  refine x_iconst (μ := mu_tw_sort) (pc := 241) dX11_sort_241 ?_
  refine x_isub (μ := mu_tw_sort) (pc := 242) dX11_sort_242 ?_
  refine x_iload (μ := mu_tw_sort) (pc := 243) 5 dX11_sort_243 rfl ?_
  refine x_iadd (μ := mu_tw_sort) (pc := 245) dX11_sort_245 ?_
  refine x_w1 ?_
  refine x_stk (st2 := [vI (w32 ((v2 - 1) + v9)), vI v7, vI (w32 ((v2 - 1) + (mI s (h + 43) v9.toNat))), vI 0, vR h]) (by simp only [List.map_cons, gval_w32, gval_w64]) ?_
  refine x_callV_mv (μ := mu_tw_sort) (pc := 246) (ok_tw_comeLine (ω := ω) (l := l) (d := d - 1) (by omega) hM (by decide) (w32_rng _) hv7 (w32_rng _)) gRel_Tw gRel_Tw (fun _ q => q) q3531 q3533 qs186 q232 q3534 dX11_sort_246 rfl hM.1 hy_tw_comeLine (by omega) (Nat.le_of_ble_eq_true rfl) rfl (Nat.le_of_ble_eq_true rfl) (fun x47 k48 => ?_)
  have hM49 : TM x47 h := hM.tw k48
  refine x_iincw (μ := mu_tw_sort) (pc := 249) (lv' := [(9, vI (w32 (v9 + 1))), (8, vI (w32 (t1 + t0))), (0, vR h), (2, vI v2), (5, vI v5), (7, vI v7)]) 5 dX11_sort_249 rfl (by decide) rfl ?_
  refine x_goto (μ := mu_tw_sort) (pc := 252) (tgt := 196) dX11_sort_252 rfl ?_
  refine x_loc (lv' := [(0, vR h), (2, vI v2), (5, vI v5), (7, vI v7), (8, vI (w32 (t1 + t0))), (9, vI (w32 (v9 + 1)))]) [2, 3, 4, 5, 1, 0] rfl ?_
  exact hKh (w32 (t1 + t0)) (w32 (v9 + 1)) x47 (w32_rng _) (w32_rng _) hM49
def tw_sort_l196 (N : Nat) (h : Nat) (v2 : Int) (v5 : Int) (v7 : Int) (K : Int → gMem → Option (Int × gMem)) : Nat → Int → Int → gMem → Option (Int × gMem)
  | 0, _, _, _ => none
  | n + 1, v8, v9, s => if v5 ≤ v9 then K v8 s else if 0 ≤ v9 ∧ v9 < ((32 : Nat) : Int) then if mI s (h + 43) v9.toNat = v9 then tw_sort_l196_j222 N h v2 v5 v7 v9 0 v8 (tw_sort_l196 N h v2 v5 v7 K n) K s else tw_sort_l196_j222 N h v2 v5 v7 v9 1 v8 (tw_sort_l196 N h v2 v5 v7 K n) K s else none
set_option maxRecDepth 100000 in
theorem okl_tw_sort_l196 {ω : gW} {l : Launch} {d : Nat} {N : Nat} {h : Nat} {σ0 : gMem} {v2 : Int} {v5 : Int} {v7 : Int} {K : Int → gMem → Option (Int × gMem)} (hdp : 206 ≤ d) (hv2 : g32 v2) (hv5 : g32 v5) (hv7 : g32 v7) (hK : ∀ (v8 : Int) (s : gMem) , g32 v8 → TM s h → GG (fun p : Int × gMem => (.inl (some (vI p.1)), p.2)) gTw ω l d mu_tw_sort σ0 255 [(8, vI v8)] [] s (K v8 s)) : ∀ (n : Nat) (v8 : Int) (v9 : Int) (s : gMem) , g32 v8 → g32 v9 → TM s h → GG (fun p : Int × gMem => (.inl (some (vI p.1)), p.2)) gTw ω l d mu_tw_sort σ0 196 [(0, vR h), (2, vI v2), (5, vI v5), (7, vI v7), (8, vI v8), (9, vI v9)] [] s (tw_sort_l196 N h v2 v5 v7 K n v8 v9 s) := by
  intro n
  induction n with
  | zero => intros; exact x_none
  | succ n ih =>
    intro v8 v9 s hv8 hv9 hM
    unfold tw_sort_l196
    refine x_iload (μ := mu_tw_sort) (pc := 196) 5 dX11_sort_196 rfl ?_
    refine x_iload (μ := mu_tw_sort) (pc := 198) 2 dX11_sort_198 rfl ?_
    refine x_icmp_ge (μ := mu_tw_sort) (pc := 200) (tgt := 255) dX11_sort_200 rfl hv9 hv5 ?_ ?_
    · refine x_loc (lv' := [(8, vI v8)]) [4] rfl ?_
      exact hK v8 s hv8 hM
    · refine x_iload (μ := mu_tw_sort) (pc := 203) 4 dX11_sort_203 rfl ?_
      refine x_aload_n (μ := mu_tw_sort) (pc := 205) 0 dX11_sort_205 rfl ?_
      refine x_fgrE (μ := mu_tw_sort) (pc := 206) fX11_88 (Or.inr ⟨_, rfl⟩) q2724 (hM.a88).1 dX11_sort_206 hM.1 ?_
      refine x_iload (μ := mu_tw_sort) (pc := 209) 5 dX11_sort_209 rfl ?_
      refine x_iald (μ := mu_tw_sort) (pc := 211) dX11_sort_211 (hM.a88).2.1 (hM.a88).2.2 (fun hr45 => ?_)
      refine x_iload (μ := mu_tw_sort) (pc := 212) 5 dX11_sort_212 rfl ?_
      refine x_icmp_eq (μ := mu_tw_sort) (pc := 214) (tgt := 221) dX11_sort_214 rfl hr45 hv9 ?_ ?_
      · refine x_iconst (μ := mu_tw_sort) (pc := 221) dX11_sort_221 ?_
        refine x_loc (lv' := [(0, vR h), (2, vI v2), (5, vI v5), (7, vI v7), (9, vI v9)]) [0, 1, 2, 3, 5] rfl ?_
        exact okj_tw_sort_l196_j222 hdp hM hv2 hv5 hv7 hv9 (by decide) hv8 ih hK
      · refine x_iconst (μ := mu_tw_sort) (pc := 217) dX11_sort_217 ?_
        refine x_goto (μ := mu_tw_sort) (pc := 218) (tgt := 222) dX11_sort_218 rfl ?_
        refine x_loc (lv' := [(0, vR h), (2, vI v2), (5, vI v5), (7, vI v7), (9, vI v9)]) [0, 1, 2, 3, 5] rfl ?_
        exact okj_tw_sort_l196_j222 hdp hM hv2 hv5 hv7 hv9 (by decide) hv8 ih hK
def tw_sort (N : Nat) (h : Nat) (v1 : Int) (v2 : Int) (v3 : Int) (v4 : Int) (σ : gMem) : Option (Int × gMem) := gLet (wI σ h 0 0) (fun s1 => if 0 ≤ (40 : Int) ∧ (40 : Int) < ((122 : Nat) : Int) then (tw_in v1 1 (mI s1 (h + 2) (40 : Int).toNat) s1).bind (fun x5 => if x5 = 0 then (tw_throwing h 1 s1).bind (fun x7 => some (x7.1, x7.2)) else if 0 ≤ (40 : Int) ∧ (40 : Int) < ((122 : Nat) : Int) then (tw_in v2 1 (mI s1 (h + 1) (40 : Int).toNat) s1).bind (fun x12 => if x12 = 0 then (tw_throwing h 1 s1).bind (fun x14 => some (x14.1, x14.2)) else if 0 ≤ (40 : Int) ∧ (40 : Int) < ((122 : Nat) : Int) then (tw_in v3 1 (mI s1 (h + 1) (40 : Int).toNat) s1).bind (fun x19 => if x19 ≠ 0 then if v2 ≤ v3 then (tw_needValues N h 40 s1).bind (fun x21 => tw_sort_l99 N h v2 v4 (w32 ((v3 - v2) + 1)) (w32 (((12800 + (10 * (v2 - 1))) + v1) - 1)) (fun s39 => (tw_step N h s39).bind (fun x41 => tw_sort_l196 N h v2 (w32 ((v3 - v2) + 1)) (x41.1) (fun y50 s51 => some (y50, s51)) N 0 0 (x41.2))) N 0 x21) else (tw_throwing h 2 s1).bind (fun x53 => some (x53.1, x53.2)) else (tw_throwing h 1 s1).bind (fun x57 => some (x57.1, x57.2))) else none) else none) else none)
set_option maxRecDepth 100000 in
theorem ok_tw_sort {ω : gW} {l : Launch} {d : Nat} {N : Nat} {h : Nat} {σ : gMem} {v1 : Int} {v2 : Int} {v3 : Int} {v4 : Int} (hdp : 206 ≤ d) (hM : TM σ h) (hv1 : g32 v1) (hv2 : g32 v2) (hv3 : g32 v3) (hv4 : g32 v4) : gK (fun p : Int × gMem => (.inl (some (vI p.1)), p.2)) gTw ω l d mu_tw_sort [vR h, vI v1, vI v2, vI v3, vI v4] σ (tw_sort N h v1 v2 v3 v4 σ) := by
  refine gK.of hp_X11 (Nat.le_of_ble_eq_true rfl) ?_
  unfold tw_sort
  refine x_aload_n (μ := mu_tw_sort) (pc := 0) 0 dX11_sort_0 rfl ?_
  refine x_iconst (μ := mu_tw_sort) (pc := 1) dX11_sort_1 ?_
  refine x_fpi (μ := mu_tw_sort) (pc := 2) fX11_0 q2636 dX11_sort_2 hM.1 (fun _ q => gTw_wI q) ?_
  refine x_let (fun s1 e2 => ?_)
  have hM3 := TM.eI e2 hM
  refine x_iload_n (μ := mu_tw_sort) (pc := 5) 1 dX11_sort_5 rfl ?_
  refine x_iconst (μ := mu_tw_sort) (pc := 6) dX11_sort_6 ?_
  refine x_aload_n (μ := mu_tw_sort) (pc := 7) 0 dX11_sort_7 rfl ?_
  refine x_fgrE (μ := mu_tw_sort) (pc := 8) fX11_2 (Or.inr ⟨_, rfl⟩) q2638 (hM3.a2).1 dX11_sort_8 hM3.1 ?_
  refine x_bipush (μ := mu_tw_sort) (pc := 11) dX11_sort_11 (by decide) ?_
  refine x_iald (μ := mu_tw_sort) (pc := 13) dX11_sort_13 (hM3.a2).2.1 (hM3.a2).2.2 (fun hr4 => ?_)
  refine x_callS_pi (μ := mu_tw_sort) (pc := 14) (ok_tw_in (ω := ω) (l := l) (d := d - 1) (by omega) hv1 (by decide) hr4) gRel_Tw gRel_Tw (fun _ q => q) q2980 q2981 q232 q2982 dX11_sort_14 hy_tw_in (by omega) (Nat.le_of_ble_eq_true rfl) rfl (Nat.le_of_ble_eq_true rfl) (fun x5 hr6 => ?_)
  refine x_if_eq (μ := mu_tw_sort) (pc := 17) (tgt := 50) dX11_sort_17 rfl hr6 ?_ ?_
  · refine x_aload_n (μ := mu_tw_sort) (pc := 50) 0 dX11_sort_50 rfl ?_
    refine x_iconst (μ := mu_tw_sort) (pc := 51) dX11_sort_51 ?_
    refine x_callV_mi (μ := mu_tw_sort) (pc := 52) (ok_tw_throwing (ω := ω) (l := l) (d := d - 1) (by omega) hM3 (by decide)) gRel_Tw gRel_Tw (fun _ q => q) q2960 q2962 qs78 q232 q2963 dX11_sort_52 rfl hM3.1 hy_tw_throwing (by omega) (Nat.le_of_ble_eq_true rfl) rfl (Nat.le_of_ble_eq_true rfl) (fun x7 k9 hr8 => ?_)
    have hM10 : TM (x7.2) h := hM3.tw k9
    exact x_iret (μ := mu_tw_sort) (pc := 55) dX11_sort_55 rfl rfl (gRel_Tw.1 _) (show g32 (x7.1) from hr8)
  · refine x_iload_n (μ := mu_tw_sort) (pc := 20) 2 dX11_sort_20 rfl ?_
    refine x_iconst (μ := mu_tw_sort) (pc := 21) dX11_sort_21 ?_
    refine x_aload_n (μ := mu_tw_sort) (pc := 22) 0 dX11_sort_22 rfl ?_
    refine x_fgrE (μ := mu_tw_sort) (pc := 23) fX11_1 (Or.inr ⟨_, rfl⟩) q2637 (hM3.a1).1 dX11_sort_23 hM3.1 ?_
    refine x_bipush (μ := mu_tw_sort) (pc := 26) dX11_sort_26 (by decide) ?_
    refine x_iald (μ := mu_tw_sort) (pc := 28) dX11_sort_28 (hM3.a1).2.1 (hM3.a1).2.2 (fun hr11 => ?_)
    refine x_callS_pi (μ := mu_tw_sort) (pc := 29) (ok_tw_in (ω := ω) (l := l) (d := d - 1) (by omega) hv2 (by decide) hr11) gRel_Tw gRel_Tw (fun _ q => q) q2980 q2981 q232 q2982 dX11_sort_29 hy_tw_in (by omega) (Nat.le_of_ble_eq_true rfl) rfl (Nat.le_of_ble_eq_true rfl) (fun x12 hr13 => ?_)
    refine x_if_eq (μ := mu_tw_sort) (pc := 32) (tgt := 50) dX11_sort_32 rfl hr13 ?_ ?_
    · refine x_aload_n (μ := mu_tw_sort) (pc := 50) 0 dX11_sort_50 rfl ?_
      refine x_iconst (μ := mu_tw_sort) (pc := 51) dX11_sort_51 ?_
      refine x_callV_mi (μ := mu_tw_sort) (pc := 52) (ok_tw_throwing (ω := ω) (l := l) (d := d - 1) (by omega) hM3 (by decide)) gRel_Tw gRel_Tw (fun _ q => q) q2960 q2962 qs78 q232 q2963 dX11_sort_52 rfl hM3.1 hy_tw_throwing (by omega) (Nat.le_of_ble_eq_true rfl) rfl (Nat.le_of_ble_eq_true rfl) (fun x14 k16 hr15 => ?_)
      have hM17 : TM (x14.2) h := hM3.tw k16
      exact x_iret (μ := mu_tw_sort) (pc := 55) dX11_sort_55 rfl rfl (gRel_Tw.1 _) (show g32 (x14.1) from hr15)
    · refine x_iload_n (μ := mu_tw_sort) (pc := 35) 3 dX11_sort_35 rfl ?_
      refine x_iconst (μ := mu_tw_sort) (pc := 36) dX11_sort_36 ?_
      refine x_aload_n (μ := mu_tw_sort) (pc := 37) 0 dX11_sort_37 rfl ?_
      refine x_fgrE (μ := mu_tw_sort) (pc := 38) fX11_1 (Or.inr ⟨_, rfl⟩) q2637 (hM3.a1).1 dX11_sort_38 hM3.1 ?_
      refine x_bipush (μ := mu_tw_sort) (pc := 41) dX11_sort_41 (by decide) ?_
      refine x_iald (μ := mu_tw_sort) (pc := 43) dX11_sort_43 (hM3.a1).2.1 (hM3.a1).2.2 (fun hr18 => ?_)
      refine x_callS_pi (μ := mu_tw_sort) (pc := 44) (ok_tw_in (ω := ω) (l := l) (d := d - 1) (by omega) hv3 (by decide) hr18) gRel_Tw gRel_Tw (fun _ q => q) q2980 q2981 q232 q2982 dX11_sort_44 hy_tw_in (by omega) (Nat.le_of_ble_eq_true rfl) rfl (Nat.le_of_ble_eq_true rfl) (fun x19 hr20 => ?_)
      refine x_if_ne (μ := mu_tw_sort) (pc := 47) (tgt := 56) dX11_sort_47 rfl hr20 ?_ ?_
      · refine x_iload_n (μ := mu_tw_sort) (pc := 56) 3 dX11_sort_56 rfl ?_
        refine x_iload_n (μ := mu_tw_sort) (pc := 57) 2 dX11_sort_57 rfl ?_
        refine x_icmp_ge (μ := mu_tw_sort) (pc := 58) (tgt := 67) dX11_sort_58 rfl hv3 hv2 ?_ ?_
        · refine x_aload_n (μ := mu_tw_sort) (pc := 67) 0 dX11_sort_67 rfl ?_
          refine x_bipush (μ := mu_tw_sort) (pc := 68) dX11_sort_68 (by decide) ?_
          refine x_callV_mv (μ := mu_tw_sort) (pc := 70) (ok_tw_needValues (ω := ω) (l := l) (d := d - 1) (by omega) hM3 (by decide)) gRel_Tw gRel_Tw (fun _ q => q) q3218 q3220 qs123 q232 q3221 dX11_sort_70 rfl hM3.1 hy_tw_needValues (by omega) (Nat.le_of_ble_eq_true rfl) rfl (Nat.le_of_ble_eq_true rfl) (fun x21 k22 => ?_)
          have hM23 : TM x21 h := hM3.tw k22
          refine x_iload_n (μ := mu_tw_sort) (pc := 73) 3 dX11_sort_73 rfl ?_
          refine x_iload_n (μ := mu_tw_sort) (pc := 74) 2 dX11_sort_74 rfl ?_
          refine x_isub (μ := mu_tw_sort) (pc := 75) dX11_sort_75 ?_
          refine x_iconst (μ := mu_tw_sort) (pc := 76) dX11_sort_76 ?_
          refine x_iadd (μ := mu_tw_sort) (pc := 77) dX11_sort_77 ?_
          refine x_w1 ?_
          refine x_istore (μ := mu_tw_sort) (pc := 78) (lv' := [(5, vI (w32 ((v3 - v2) + 1))), (0, vR h), (1, vI v1), (2, vI v2), (3, vI v3), (4, vI v4)]) dX11_sort_78 (by decide) rfl ?_
          refine x_sipush (μ := mu_tw_sort) (pc := 80) dX11_sort_80 (by decide) ?_
          refine x_bipush (μ := mu_tw_sort) (pc := 83) dX11_sort_83 (by decide) ?_
          refine x_iload_n (μ := mu_tw_sort) (pc := 85) 3 dX11_sort_85 rfl ?_
          refine x_iconst (μ := mu_tw_sort) (pc := 86) dX11_sort_86 ?_
          refine x_isub (μ := mu_tw_sort) (pc := 87) dX11_sort_87 ?_
          refine x_imul (μ := mu_tw_sort) (pc := 88) dX11_sort_88 ?_
          refine x_iadd (μ := mu_tw_sort) (pc := 89) dX11_sort_89 ?_
          refine x_iload_n (μ := mu_tw_sort) (pc := 90) 2 dX11_sort_90 rfl ?_
          refine x_iadd (μ := mu_tw_sort) (pc := 91) dX11_sort_91 ?_
          refine x_iconst (μ := mu_tw_sort) (pc := 92) dX11_sort_92 ?_
          refine x_isub (μ := mu_tw_sort) (pc := 93) dX11_sort_93 ?_
          refine x_w1 ?_
          refine x_istore (μ := mu_tw_sort) (pc := 94) (lv' := [(6, vI (w32 (((12800 + (10 * (v2 - 1))) + v1) - 1))), (5, vI (w32 ((v3 - v2) + 1))), (0, vR h), (1, vI v1), (2, vI v2), (3, vI v3), (4, vI v4)]) dX11_sort_94 (by decide) rfl ?_
          refine x_iconst (μ := mu_tw_sort) (pc := 96) dX11_sort_96 ?_
          refine x_istore (μ := mu_tw_sort) (pc := 97) (lv' := [(7, vI 0), (6, vI (w32 (((12800 + (10 * (v2 - 1))) + v1) - 1))), (5, vI (w32 ((v3 - v2) + 1))), (0, vR h), (1, vI v1), (2, vI v2), (3, vI v3), (4, vI v4)]) dX11_sort_97 (by decide) rfl ?_
          refine x_loc (lv' := [(0, vR h), (2, vI v2), (4, vI v4), (5, vI (w32 ((v3 - v2) + 1))), (6, vI (w32 (((12800 + (10 * (v2 - 1))) + v1) - 1))), (7, vI 0)]) [3, 5, 7, 2, 1, 0] rfl ?_
          refine okl_tw_sort_l99 hdp hv2 hv4 (w32_rng _) (w32_rng _) (fun s39 hM40 => ?_) N 0 x21 (by decide) hM23
          refine x_aload_n (μ := mu_tw_sort) (pc := 184) 0 dX11_sort_184 rfl ?_
          refine x_callV_mi (μ := mu_tw_sort) (pc := 185) (ok_tw_step (ω := ω) (l := l) (d := d - 1) (by omega) hM40 ) gRel_Tw gRel_Tw (fun _ q => q) q3191 q3193 qs119 q232 q3194 dX11_sort_185 rfl hM40.1 hy_tw_step (by omega) (Nat.le_of_ble_eq_true rfl) rfl (Nat.le_of_ble_eq_true rfl) (fun x41 k43 hr42 => ?_)
          have hM44 : TM (x41.2) h := hM40.tw k43
          refine x_istore (μ := mu_tw_sort) (pc := 188) (lv' := [(7, vI (x41.1)), (0, vR h), (2, vI v2), (5, vI (w32 ((v3 - v2) + 1)))]) dX11_sort_188 (by decide) rfl ?_
          refine x_iconst (μ := mu_tw_sort) (pc := 190) dX11_sort_190 ?_
          refine x_istore (μ := mu_tw_sort) (pc := 191) (lv' := [(8, vI 0), (7, vI (x41.1)), (0, vR h), (2, vI v2), (5, vI (w32 ((v3 - v2) + 1)))]) dX11_sort_191 (by decide) rfl ?_
          refine x_iconst (μ := mu_tw_sort) (pc := 193) dX11_sort_193 ?_
          refine x_istore (μ := mu_tw_sort) (pc := 194) (lv' := [(9, vI 0), (8, vI 0), (7, vI (x41.1)), (0, vR h), (2, vI v2), (5, vI (w32 ((v3 - v2) + 1)))]) dX11_sort_194 (by decide) rfl ?_
          refine x_loc (lv' := [(0, vR h), (2, vI v2), (5, vI (w32 ((v3 - v2) + 1))), (7, vI (x41.1)), (8, vI 0), (9, vI 0)]) [3, 4, 5, 2, 1, 0] rfl ?_
          refine okl_tw_sort_l196 hdp hv2 (w32_rng _) hr42 (fun y50 s51 hy50 hM52 => ?_) N 0 0 (x41.2) (by decide) (by decide) hM44
          refine x_iload (μ := mu_tw_sort) (pc := 255) 0 dX11_sort_255 rfl ?_
          exact x_iret (μ := mu_tw_sort) (pc := 257) dX11_sort_257 rfl rfl (gRel_Tw.1 _) (show g32 y50 from hy50)
        · refine x_aload_n (μ := mu_tw_sort) (pc := 61) 0 dX11_sort_61 rfl ?_
          refine x_iconst (μ := mu_tw_sort) (pc := 62) dX11_sort_62 ?_
          refine x_callV_mi (μ := mu_tw_sort) (pc := 63) (ok_tw_throwing (ω := ω) (l := l) (d := d - 1) (by omega) hM3 (by decide)) gRel_Tw gRel_Tw (fun _ q => q) q2960 q2962 qs78 q232 q2963 dX11_sort_63 rfl hM3.1 hy_tw_throwing (by omega) (Nat.le_of_ble_eq_true rfl) rfl (Nat.le_of_ble_eq_true rfl) (fun x53 k55 hr54 => ?_)
          have hM56 : TM (x53.2) h := hM3.tw k55
          exact x_iret (μ := mu_tw_sort) (pc := 66) dX11_sort_66 rfl rfl (gRel_Tw.1 _) (show g32 (x53.1) from hr54)
      · refine x_aload_n (μ := mu_tw_sort) (pc := 50) 0 dX11_sort_50 rfl ?_
        refine x_iconst (μ := mu_tw_sort) (pc := 51) dX11_sort_51 ?_
        refine x_callV_mi (μ := mu_tw_sort) (pc := 52) (ok_tw_throwing (ω := ω) (l := l) (d := d - 1) (by omega) hM3 (by decide)) gRel_Tw gRel_Tw (fun _ q => q) q2960 q2962 qs78 q232 q2963 dX11_sort_52 rfl hM3.1 hy_tw_throwing (by omega) (Nat.le_of_ble_eq_true rfl) rfl (Nat.le_of_ble_eq_true rfl) (fun x57 k59 hr58 => ?_)
        have hM60 : TM (x57.2) h := hM3.tw k59
        exact x_iret (μ := mu_tw_sort) (pc := 55) dX11_sort_55 rfl rfl (gRel_Tw.1 _) (show g32 (x57.1) from hr58)
def x6_sign_o (N : Nat) (W : Nat → gMem → Option gR) (v0 : Nat) (σ : gMem) : Option gR := if mT σ v0 = 6 then (x6_peek N v0 σ).bind (fun x2 => if x2.1 = 45 then (x6_opens v0 (x2.2)).bind (fun p => gThrV p (fun s7 => (W v0 s7).bind (fun p => gThrR p (fun x8 s10 => gLet (wI s10 v0 7 (w32 ((mI s10 v0 7) - 1))) (fun s12 => gLet (wI s12 v0 8 (w32 ((mI s12 v0 8) + 1))) (fun s15 => gLet (wN s15 19 1) (fun s18 => (x21_init (mZ s15) x8 s18).bind (fun x20 => some (.inl (some (vR (mZ s15))), x20))))))))) else (x6_atom N W v0 (x2.2)).bind (fun p => gThrR p (fun x22 s24 => some (.inl (some (vR x22)), s24)))) else none
set_option maxRecDepth 100000 in
theorem ok_x6_sign_o {ω : gW} {l : Launch} {d : Nat} {N : Nat} {W : Nat → gMem → Option gR} {dW : Nat} {σ : gMem} {v0 : Nat} (hl : l.stackTraces = false) (hW : ∀ (a0 : Nat) (s : gMem), gK (fun p : gR => p) gE ω l dW mu_x6_sign [vR a0] s (W a0 s)) (hdp : 16 ≤ d) (hdw : dW + 9 ≤ d) : gK (fun p : gR => p) gE ω l d mu_x6_sign [vR v0] σ (x6_sign_o N W v0 σ) := by
  refine gK.of hp_X6 (Nat.le_of_ble_eq_true rfl) ?_
  unfold x6_sign_o
  refine x_aload_n (μ := mu_x6_sign) (pc := 0) 0 dX6_sign_0 rfl ?_
  refine x_if (fun hT1 => ?_)
  refine x_callV_mi (μ := mu_x6_sign) (pc := 1) (ok_x6_peek (ω := ω) (l := l) (d := d - 1) hl (by omega) ) gRel_E gRel_E (fun _ q => q) q1811 q1813 qs34 q226 q1814 dX6_sign_1 rfl hT1 hy_x6_peek (by omega) (Nat.le_of_ble_eq_true rfl) rfl (Nat.le_of_ble_eq_true rfl) (fun x2 k4 hr3 => ?_)
  refine x_bipush (μ := mu_x6_sign) (pc := 4) dX6_sign_4 (by decide) ?_
  refine x_icmp_eq (μ := mu_x6_sign) (pc := 6) (tgt := 14) dX6_sign_6 rfl hr3 (by decide) ?_ ?_
  · refine x_aload_n (μ := mu_x6_sign) (pc := 14) 0 dX6_sign_14 rfl ?_
    refine x_callV_xv (μ := mu_x6_sign) (pc := 15) (ok_x6_opens (ω := ω) (l := l) (d := d - 1) hl (by omega) ) q1823 q1825 qs37 q226 q1826 dX6_sign_15 rfl (gT_E k4 hT1 (by decide)) hy_x6_opens (by omega) (Nat.le_of_ble_eq_true rfl) rfl (Nat.le_of_ble_eq_true rfl) (by decide) (fun s7 k6 => ?_)
    refine x_aload_n (μ := mu_x6_sign) (pc := 18) 0 dX6_sign_18 rfl ?_
    refine x_callV_xr (μ := mu_x6_sign) (pc := 19) (hW v0 s7 ) q1807 q1809 qs33 q226 q1810 dX6_sign_19 rfl (gT_E k6 (gT_E k4 hT1 (by decide)) (by decide)) hy_x6_sign (by omega) (Nat.le_of_ble_eq_true rfl) rfl (Nat.le_of_ble_eq_true rfl) (by decide) (fun x8 s10 k9 => ?_)
    refine x_astore_n (μ := mu_x6_sign) (pc := 22) (lv' := [(1, vR x8), (0, vR v0)]) dX6_sign_22 rfl (by decide) rfl ?_
    refine x_aload_n (μ := mu_x6_sign) (pc := 23) 1 dX6_sign_23 rfl ?_
    refine x_dup (μ := mu_x6_sign) (pc := 24) dX6_sign_24 rfl ?_
    refine x_fgi (μ := mu_x6_sign) (pc := 25) fX6_7 q488 dX6_sign_25 (gT_E k9 (gT_E k6 (gT_E k4 hT1 (by decide)) (by decide)) (by decide)) (fun hr11 => ?_)
    refine x_iconst (μ := mu_x6_sign) (pc := 28) dX6_sign_28 ?_
    refine x_isub (μ := mu_x6_sign) (pc := 29) dX6_sign_29 ?_
    refine x_w1 ?_
    refine x_fpi (μ := mu_x6_sign) (pc := 30) fX6_7 q488 dX6_sign_30 (gT_E k9 (gT_E k6 (gT_E k4 hT1 (by decide)) (by decide)) (by decide)) (fun _ q => gE_wI q) ?_
    refine x_let (fun s12 e13 => ?_)
    refine x_aload_n (μ := mu_x6_sign) (pc := 33) 1 dX6_sign_33 rfl ?_
    refine x_dup (μ := mu_x6_sign) (pc := 34) dX6_sign_34 rfl ?_
    refine x_fgi (μ := mu_x6_sign) (pc := 35) fX6_8 q489 dX6_sign_35 (gT_I e13 (gT_E k9 (gT_E k6 (gT_E k4 hT1 (by decide)) (by decide)) (by decide))) (fun hr14 => ?_)
    refine x_iconst (μ := mu_x6_sign) (pc := 38) dX6_sign_38 ?_
    refine x_iadd (μ := mu_x6_sign) (pc := 39) dX6_sign_39 ?_
    refine x_w1 ?_
    refine x_fpi (μ := mu_x6_sign) (pc := 40) fX6_8 q489 dX6_sign_40 (gT_I e13 (gT_E k9 (gT_E k6 (gT_E k4 hT1 (by decide)) (by decide)) (by decide))) (fun _ q => gE_wI q) ?_
    refine x_let (fun s15 e16 => ?_)
    refine x_ok (fun ok17 => ?_)
    refine x_new (μ := mu_x6_sign) (pc := 43) (ci := 18) gk_X21 gd_X21 q2047 q2048 q253 dX6_sign_43 ?_
    refine x_let (fun s18 e19 => ?_)
    refine x_dup (μ := mu_x6_sign) (pc := 46) dX6_sign_46 rfl ?_
    refine x_aload_n (μ := mu_x6_sign) (pc := 47) 0 dX6_sign_47 rfl ?_
    refine x_callIN_mv (μ := mu_x6_sign) (pc := 48) (ok_x21_init (ω := ω) (l := l) (d := d - 1) hl (by omega) ) gRel_E gRel_E (fun _ q => q) q2049 q2050 q253 q2051 dX6_sign_48 (gT_ne (gT_new e19)) rfl hy_x21_init (by omega) (Nat.le_of_ble_eq_true rfl) rfl (Nat.le_of_ble_eq_true rfl) (fun x20 k21 => ?_)
    exact x_aret (μ := mu_x6_sign) (pc := 51) (a1 := ((.inl (some (vR (mZ s15))), x20) : gR)) dX6_sign_51 rfl (by first | exact Or.inl ⟨_, rfl⟩ | exact Or.inr ⟨_, rfl⟩) rfl (gRel_E.1 _) trivial
  · refine x_aload_n (μ := mu_x6_sign) (pc := 9) 0 dX6_sign_9 rfl ?_
    refine x_callV_xr (μ := mu_x6_sign) (pc := 10) (ok_x6_atom (ω := ω) (l := l) (d := d - 1) hl hW (by omega) (by omega) ) q1819 q1821 qs36 q226 q1822 dX6_sign_10 rfl (gT_E k4 hT1 (by decide)) hy_x6_atom (by omega) (Nat.le_of_ble_eq_true rfl) rfl (Nat.le_of_ble_eq_true rfl) (by decide) (fun x22 s24 k23 => ?_)
    exact x_aret (μ := mu_x6_sign) (pc := 13) (a1 := ((.inl (some (vR x22)), s24) : gR)) dX6_sign_13 rfl (by first | exact Or.inl ⟨_, rfl⟩ | exact Or.inr ⟨_, rfl⟩) rfl (gRel_E.1 _) trivial
def x6_sign (N : Nat) : Nat → Nat → gMem → Option gR
  | 0 => fun _ _ => none
  | n + 1 => fun a0 s => x6_sign_o N (x6_sign N n) a0 s
set_option maxRecDepth 100000 in
theorem ok_x6_sign {ω : gW} {l : Launch} {N : Nat} (hl : l.stackTraces = false) : ∀ (n : Nat) {d : Nat} (a0 : Nat) (s : gMem), 16 + 9 * n ≤ d → gK (fun p : gR => p) gE ω l d mu_x6_sign [vR a0] s (x6_sign N n a0 s) := by
  intro n
  induction n with
  | zero => intro d a0 s hd; exact gK.none
  | succ n ih =>
    intro d a0 s hd
    exact ok_x6_sign_o (dW := 16 + 9 * n) hl (fun a0 s => ih a0 s (Nat.le_refl _)) (by omega) (by omega)
def tw_enter_l57 (N : Nat) (h : Nat) (v1 : Int) (v2 : Int) (K : gMem → Option (Int × gMem)) : Nat → gMem → Option (Int × gMem)
  | 0, _ => none
  | n + 1, s => if mI s h 44 ≤ mI s h 43 then K s else if 0 ≤ (mI s h 43) ∧ (mI s h 43) < ((400 : Nat) : Int) then if mI s (h + 27) (mI s h 43).toNat ≠ 32 then K s else gLet (wI s h 43 (w32 ((mI s h 43) + 1))) (fun s30 => tw_enter_l57 N h v1 v2 K n s30) else none
set_option maxRecDepth 100000 in
theorem okl_tw_enter_l57 {ω : gW} {l : Launch} {d : Nat} {N : Nat} {h : Nat} {σ0 : gMem} {v1 : Int} {v2 : Int} {K : gMem → Option (Int × gMem)} (hdp : 212 ≤ d) (hv1 : g32 v1) (hv2 : g32 v2) (hK : ∀ (s : gMem) , TM s h → GG (fun p : Int × gMem => (.inl (some (vI p.1)), p.2)) gTw ω l d mu_tw_enter σ0 95 [(0, vR h), (1, vI v1), (2, vI v2)] [] s (K s)) : ∀ (n : Nat) (s : gMem) , TM s h → GG (fun p : Int × gMem => (.inl (some (vI p.1)), p.2)) gTw ω l d mu_tw_enter σ0 57 [(0, vR h), (1, vI v1), (2, vI v2)] [] s (tw_enter_l57 N h v1 v2 K n s) := by
  intro n
  induction n with
  | zero => intros; exact x_none
  | succ n ih =>
    intro s hM
    unfold tw_enter_l57
    refine x_aload_n (μ := mu_tw_enter) (pc := 57) 0 dX11_enter_57 rfl ?_
    refine x_fgi (μ := mu_tw_enter) (pc := 58) fX11_43 q2679 dX11_enter_58 hM.1 (fun hr25 => ?_)
    refine x_aload_n (μ := mu_tw_enter) (pc := 61) 0 dX11_enter_61 rfl ?_
    refine x_fgi (μ := mu_tw_enter) (pc := 62) fX11_44 q2680 dX11_enter_62 hM.1 (fun hr26 => ?_)
    refine x_icmp_ge (μ := mu_tw_enter) (pc := 65) (tgt := 95) dX11_enter_65 rfl hr25 hr26 ?_ ?_
    · exact hK s hM
    · refine x_aload_n (μ := mu_tw_enter) (pc := 68) 0 dX11_enter_68 rfl ?_
      refine x_fgrE (μ := mu_tw_enter) (pc := 69) fX11_39 (Or.inr ⟨_, rfl⟩) q2675 (hM.a39).1 dX11_enter_69 hM.1 ?_
      refine x_aload_n (μ := mu_tw_enter) (pc := 72) 0 dX11_enter_72 rfl ?_
      refine x_fgi (μ := mu_tw_enter) (pc := 73) fX11_43 q2679 dX11_enter_73 hM.1 (fun hr27 => ?_)
      refine x_iald (μ := mu_tw_enter) (pc := 76) dX11_enter_76 (hM.a39).2.1 (hM.a39).2.2 (fun hr28 => ?_)
      refine x_bipush (μ := mu_tw_enter) (pc := 77) dX11_enter_77 (by decide) ?_
      refine x_icmp_ne (μ := mu_tw_enter) (pc := 79) (tgt := 95) dX11_enter_79 rfl hr28 (by decide) ?_ ?_
      · exact hK s hM
      · refine x_aload_n (μ := mu_tw_enter) (pc := 82) 0 dX11_enter_82 rfl ?_
        refine x_dup (μ := mu_tw_enter) (pc := 83) dX11_enter_83 rfl ?_
        refine x_fgi (μ := mu_tw_enter) (pc := 84) fX11_43 q2679 dX11_enter_84 hM.1 (fun hr29 => ?_)
        refine x_iconst (μ := mu_tw_enter) (pc := 87) dX11_enter_87 ?_
        refine x_iadd (μ := mu_tw_enter) (pc := 88) dX11_enter_88 ?_
        refine x_w1 ?_
        refine x_fpi (μ := mu_tw_enter) (pc := 89) fX11_43 q2679 dX11_enter_89 hM.1 (fun _ q => gTw_wI q) ?_
        refine x_let (fun s30 e31 => ?_)
        have hM32 := TM.eI e31 hM
        refine x_goto (μ := mu_tw_enter) (pc := 92) (tgt := 57) dX11_enter_92 rfl ?_
        exact ih s30 hM32
def tw_enter_l95 (N : Nat) (h : Nat) (v1 : Int) (v2 : Int) (K : gMem → Option (Int × gMem)) : Nat → gMem → Option (Int × gMem)
  | 0, _ => none
  | n + 1, s => if mI s h 44 ≤ mI s h 43 then K s else if 0 ≤ ((mI s h 44) - 1) ∧ ((mI s h 44) - 1) < ((400 : Nat) : Int) then if mI s (h + 27) ((mI s h 44) - 1).toNat ≠ 32 then K s else gLet (wI s h 44 (w32 ((mI s h 44) - 1))) (fun s40 => tw_enter_l95 N h v1 v2 K n s40) else none
set_option maxRecDepth 100000 in
theorem okl_tw_enter_l95 {ω : gW} {l : Launch} {d : Nat} {N : Nat} {h : Nat} {σ0 : gMem} {v1 : Int} {v2 : Int} {K : gMem → Option (Int × gMem)} (hdp : 212 ≤ d) (hv1 : g32 v1) (hv2 : g32 v2) (hK : ∀ (s : gMem) , TM s h → GG (fun p : Int × gMem => (.inl (some (vI p.1)), p.2)) gTw ω l d mu_tw_enter σ0 135 [(0, vR h), (1, vI v1), (2, vI v2)] [] s (K s)) : ∀ (n : Nat) (s : gMem) , TM s h → GG (fun p : Int × gMem => (.inl (some (vI p.1)), p.2)) gTw ω l d mu_tw_enter σ0 95 [(0, vR h), (1, vI v1), (2, vI v2)] [] s (tw_enter_l95 N h v1 v2 K n s) := by
  intro n
  induction n with
  | zero => intros; exact x_none
  | succ n ih =>
    intro s hM
    unfold tw_enter_l95
    refine x_aload_n (μ := mu_tw_enter) (pc := 95) 0 dX11_enter_95 rfl ?_
    refine x_fgi (μ := mu_tw_enter) (pc := 96) fX11_44 q2680 dX11_enter_96 hM.1 (fun hr35 => ?_)
    refine x_aload_n (μ := mu_tw_enter) (pc := 99) 0 dX11_enter_99 rfl ?_
    refine x_fgi (μ := mu_tw_enter) (pc := 100) fX11_43 q2679 dX11_enter_100 hM.1 (fun hr36 => ?_)
    refine x_icmp_le (μ := mu_tw_enter) (pc := 103) (tgt := 135) dX11_enter_103 rfl hr35 hr36 ?_ ?_
    · exact hK s hM
    · refine x_aload_n (μ := mu_tw_enter) (pc := 106) 0 dX11_enter_106 rfl ?_
      refine x_fgrE (μ := mu_tw_enter) (pc := 107) fX11_39 (Or.inr ⟨_, rfl⟩) q2675 (hM.a39).1 dX11_enter_107 hM.1 ?_
      refine x_aload_n (μ := mu_tw_enter) (pc := 110) 0 dX11_enter_110 rfl ?_
      refine x_fgi (μ := mu_tw_enter) (pc := 111) fX11_44 q2680 dX11_enter_111 hM.1 (fun hr37 => ?_)
      refine x_iconst (μ := mu_tw_enter) (pc := 114) dX11_enter_114 ?_
      refine x_isub (μ := mu_tw_enter) (pc := 115) dX11_enter_115 ?_
      refine x_iald (μ := mu_tw_enter) (pc := 116) dX11_enter_116 (hM.a39).2.1 (hM.a39).2.2 (fun hr38 => ?_)
      refine x_bipush (μ := mu_tw_enter) (pc := 117) dX11_enter_117 (by decide) ?_
      refine x_icmp_ne (μ := mu_tw_enter) (pc := 119) (tgt := 135) dX11_enter_119 rfl hr38 (by decide) ?_ ?_
      · exact hK s hM
      · refine x_aload_n (μ := mu_tw_enter) (pc := 122) 0 dX11_enter_122 rfl ?_
        refine x_dup (μ := mu_tw_enter) (pc := 123) dX11_enter_123 rfl ?_
        refine x_fgi (μ := mu_tw_enter) (pc := 124) fX11_44 q2680 dX11_enter_124 hM.1 (fun hr39 => ?_)
        refine x_iconst (μ := mu_tw_enter) (pc := 127) dX11_enter_127 ?_
        refine x_isub (μ := mu_tw_enter) (pc := 128) dX11_enter_128 ?_
        refine x_w1 ?_
        refine x_fpi (μ := mu_tw_enter) (pc := 129) fX11_44 q2680 dX11_enter_129 hM.1 (fun _ q => gTw_wI q) ?_
        refine x_let (fun s40 e41 => ?_)
        have hM42 := TM.eI e41 hM
        refine x_goto (μ := mu_tw_enter) (pc := 132) (tgt := 95) dX11_enter_132 rfl ?_
        exact ih s40 hM42
def tw_enter_j266 (N : Nat) (h : Nat) (v1 : Int) (v2 : Int) (v5 : Int) (s : gMem) : Option (Int × gMem) := (tw_step N h s).bind (fun x57 => (tw_setCell h v1 v2 v5 (x57.2)).bind (fun x61 => some (mI x61 h 56, x61)))
set_option maxRecDepth 100000 in
theorem okj_tw_enter_j266 {ω : gW} {l : Launch} {d : Nat} {N : Nat} {h : Nat} {σ0 : gMem} {s : gMem} {v1 : Int} {v2 : Int} {v5 : Int} (hdp : 212 ≤ d) (hM : TM s h) (hv1 : g32 v1) (hv2 : g32 v2) (hv5 : g32 v5) : GG (fun p : Int × gMem => (.inl (some (vI p.1)), p.2)) gTw ω l d mu_tw_enter σ0 266 [(0, vR h), (1, vI v1), (2, vI v2), (5, vI v5)] [] s (tw_enter_j266 N h v1 v2 v5 s) := by
  unfold tw_enter_j266
  refine x_aload_n (μ := mu_tw_enter) (pc := 266) 0 dX11_enter_266 rfl ?_
  refine x_callV_mi (μ := mu_tw_enter) (pc := 267) (ok_tw_step (ω := ω) (l := l) (d := d - 1) (by omega) hM ) gRel_Tw gRel_Tw (fun _ q => q) q3191 q3193 qs119 q232 q3194 dX11_enter_267 rfl hM.1 hy_tw_step (by omega) (Nat.le_of_ble_eq_true rfl) rfl (Nat.le_of_ble_eq_true rfl) (fun x57 k59 hr58 => ?_)
  have hM60 : TM (x57.2) h := hM.tw k59
  refine x_pop (μ := mu_tw_enter) (pc := 270) dX11_enter_270 rfl ?_
  refine x_aload_n (μ := mu_tw_enter) (pc := 271) 0 dX11_enter_271 rfl ?_
  refine x_iload_n (μ := mu_tw_enter) (pc := 272) 1 dX11_enter_272 rfl ?_
  refine x_iload_n (μ := mu_tw_enter) (pc := 273) 2 dX11_enter_273 rfl ?_
  refine x_iload (μ := mu_tw_enter) (pc := 274) 3 dX11_enter_274 rfl ?_
  refine x_callV_mv (μ := mu_tw_enter) (pc := 276) (ok_tw_setCell (ω := ω) (l := l) (d := d - 1) (by omega) hM60 hv1 hv2 hv5) gRel_Tw gRel_Tw (fun _ q => q) q3195 q3197 qs120 q232 q3198 dX11_enter_276 rfl hM60.1 hy_tw_setCell (by omega) (Nat.le_of_ble_eq_true rfl) rfl (Nat.le_of_ble_eq_true rfl) (fun x61 k62 => ?_)
  have hM63 : TM x61 h := hM60.tw k62
  refine x_aload_n (μ := mu_tw_enter) (pc := 279) 0 dX11_enter_279 rfl ?_
  refine x_fgi (μ := mu_tw_enter) (pc := 280) fX11_56 q2692 dX11_enter_280 hM63.1 (fun hr64 => ?_)
  exact x_iret (μ := mu_tw_enter) (pc := 283) dX11_enter_283 rfl rfl (gRel_Tw.1 _) (show g32 (mI x61 h 56) from hr64)
def tw_enter_j193 (N : Nat) (h : Nat) (v1 : Int) (v2 : Int) (v4 : Int) (v5 : Int) (s : gMem) : Option (Int × gMem) := if mI s h 41 ≤ 0 then if w32 ((mI s h 25) + (mI s h 56)) ≤ 60000 then if v4 = 0 then tw_enter_j266 N h v1 v2 v5  s else if 0 ≤ (mI s h 25) ∧ (mI s h 25) < ((60420 : Nat) : Int) then gLet (wI s (h + 26) (mI s h 25).toNat (mI s h 56)) (fun s68 => gLet (wI s68 h 25 (w32 ((mI s68 h 25) + (mI s68 h 56)))) (fun s73 => tw_enter_j266 N h v1 v2 (w32 ((mI s h 25) + 1))  s73)) else none else (tw_throwing h 3 s).bind (fun x76 => some (x76.1, x76.2)) else (tw_throwing h 2 s).bind (fun x80 => some (x80.1, x80.2))
set_option maxRecDepth 100000 in
theorem okj_tw_enter_j193 {ω : gW} {l : Launch} {d : Nat} {N : Nat} {h : Nat} {σ0 : gMem} {s : gMem} {v1 : Int} {v2 : Int} {v4 : Int} {v5 : Int} (hdp : 212 ≤ d) (hM : TM s h) (hv1 : g32 v1) (hv2 : g32 v2) (hv4 : g32 v4) (hv5 : g32 v5) : GG (fun p : Int × gMem => (.inl (some (vI p.1)), p.2)) gTw ω l d mu_tw_enter σ0 193 [(0, vR h), (1, vI v1), (2, vI v2), (4, vI v4), (5, vI v5)] [] s (tw_enter_j193 N h v1 v2 v4 v5 s) := by
  unfold tw_enter_j193
  refine x_aload_n (μ := mu_tw_enter) (pc := 193) 0 dX11_enter_193 rfl ?_
  refine x_fgi (μ := mu_tw_enter) (pc := 194) fX11_41 q2677 dX11_enter_194 hM.1 (fun hr54 => ?_)
  refine x_if_le (μ := mu_tw_enter) (pc := 197) (tgt := 206) dX11_enter_197 rfl hr54 ?_ ?_
  · refine x_aload_n (μ := mu_tw_enter) (pc := 206) 0 dX11_enter_206 rfl ?_
    refine x_fgi (μ := mu_tw_enter) (pc := 207) fX11_25 q2661 dX11_enter_207 hM.1 (fun hr55 => ?_)
    refine x_aload_n (μ := mu_tw_enter) (pc := 210) 0 dX11_enter_210 rfl ?_
    refine x_fgi (μ := mu_tw_enter) (pc := 211) fX11_56 q2692 dX11_enter_211 hM.1 (fun hr56 => ?_)
    refine x_iadd (μ := mu_tw_enter) (pc := 214) dX11_enter_214 ?_
    refine x_ldcw (μ := mu_tw_enter) (pc := 215) (n := 60000) dX11_enter_215 q3190 ?_
    refine x_w2 ?_
    refine x_icmp_le (μ := mu_tw_enter) (pc := 218) (tgt := 227) dX11_enter_218 rfl (w32_rng _) (by decide) ?_ ?_
    · refine x_iload (μ := mu_tw_enter) (pc := 227) 3 dX11_enter_227 rfl ?_
      refine x_if_eq (μ := mu_tw_enter) (pc := 229) (tgt := 266) dX11_enter_229 rfl hv4 ?_ ?_
      · refine x_loc (lv' := [(0, vR h), (1, vI v1), (2, vI v2), (5, vI v5)]) [0, 1, 2, 4] rfl ?_
        exact okj_tw_enter_j266 hdp hM hv1 hv2 hv5
      · refine x_aload_n (μ := mu_tw_enter) (pc := 232) 0 dX11_enter_232 rfl ?_
        refine x_fgi (μ := mu_tw_enter) (pc := 233) fX11_25 q2661 dX11_enter_233 hM.1 (fun hr65 => ?_)
        refine x_iconst (μ := mu_tw_enter) (pc := 236) dX11_enter_236 ?_
        refine x_iadd (μ := mu_tw_enter) (pc := 237) dX11_enter_237 ?_
        refine x_w1 ?_
        refine x_istore (μ := mu_tw_enter) (pc := 238) (lv' := [(5, vI (w32 ((mI s h 25) + 1))), (0, vR h), (1, vI v1), (2, vI v2), (4, vI v4)]) dX11_enter_238 (by decide) rfl ?_
        refine x_aload_n (μ := mu_tw_enter) (pc := 240) 1 dX11_enter_240 rfl ?_
        refine x_fgrE (μ := mu_tw_enter) (pc := 241) fX11_38 (Or.inr ⟨_, rfl⟩) q2674 (hM.a38).1 dX11_enter_241 hM.1 ?_
        refine x_aload_n (μ := mu_tw_enter) (pc := 244) 1 dX11_enter_244 rfl ?_
        refine x_fgi (μ := mu_tw_enter) (pc := 245) fX11_25 q2661 dX11_enter_245 hM.1 (fun hr66 => ?_)
        refine x_aload_n (μ := mu_tw_enter) (pc := 248) 1 dX11_enter_248 rfl ?_
        refine x_fgi (μ := mu_tw_enter) (pc := 249) fX11_56 q2692 dX11_enter_249 hM.1 (fun hr67 => ?_)
        refine x_iast (μ := mu_tw_enter) (pc := 252) dX11_enter_252 (hM.a38).2.1 (hM.a38).2.2 (fun _ _ q => gTw_wI q) ?_
        refine x_let (fun s68 e69 => ?_)
        have hM70 := TM.eI e69 hM
        refine x_aload_n (μ := mu_tw_enter) (pc := 253) 1 dX11_enter_253 rfl ?_
        refine x_aload_n (μ := mu_tw_enter) (pc := 254) 1 dX11_enter_254 rfl ?_
        refine x_fgi (μ := mu_tw_enter) (pc := 255) fX11_25 q2661 dX11_enter_255 hM70.1 (fun hr71 => ?_)
        refine x_aload_n (μ := mu_tw_enter) (pc := 258) 1 dX11_enter_258 rfl ?_
        refine x_fgi (μ := mu_tw_enter) (pc := 259) fX11_56 q2692 dX11_enter_259 hM70.1 (fun hr72 => ?_)
        refine x_iadd (μ := mu_tw_enter) (pc := 262) dX11_enter_262 ?_
        refine x_w1 ?_
        refine x_fpi (μ := mu_tw_enter) (pc := 263) fX11_25 q2661 dX11_enter_263 hM70.1 (fun _ q => gTw_wI q) ?_
        refine x_let (fun s73 e74 => ?_)
        have hM75 := TM.eI e74 hM70
        refine x_loc (lv' := [(0, vR h), (1, vI v1), (2, vI v2), (5, vI (w32 ((mI s h 25) + 1)))]) [1, 2, 3, 0] rfl ?_
        exact okj_tw_enter_j266 hdp hM75 hv1 hv2 (w32_rng _)
    · refine x_aload_n (μ := mu_tw_enter) (pc := 221) 0 dX11_enter_221 rfl ?_
      refine x_iconst (μ := mu_tw_enter) (pc := 222) dX11_enter_222 ?_
      refine x_callV_mi (μ := mu_tw_enter) (pc := 223) (ok_tw_throwing (ω := ω) (l := l) (d := d - 1) (by omega) hM (by decide)) gRel_Tw gRel_Tw (fun _ q => q) q2960 q2962 qs78 q232 q2963 dX11_enter_223 rfl hM.1 hy_tw_throwing (by omega) (Nat.le_of_ble_eq_true rfl) rfl (Nat.le_of_ble_eq_true rfl) (fun x76 k78 hr77 => ?_)
      have hM79 : TM (x76.2) h := hM.tw k78
      exact x_iret (μ := mu_tw_enter) (pc := 226) dX11_enter_226 rfl rfl (gRel_Tw.1 _) (show g32 (x76.1) from hr77)
  · refine x_aload_n (μ := mu_tw_enter) (pc := 200) 0 dX11_enter_200 rfl ?_
    refine x_iconst (μ := mu_tw_enter) (pc := 201) dX11_enter_201 ?_
    refine x_callV_mi (μ := mu_tw_enter) (pc := 202) (ok_tw_throwing (ω := ω) (l := l) (d := d - 1) (by omega) hM (by decide)) gRel_Tw gRel_Tw (fun _ q => q) q2960 q2962 qs78 q232 q2963 dX11_enter_202 rfl hM.1 hy_tw_throwing (by omega) (Nat.le_of_ble_eq_true rfl) rfl (Nat.le_of_ble_eq_true rfl) (fun x80 k82 hr81 => ?_)
    have hM83 : TM (x80.2) h := hM.tw k82
    exact x_iret (μ := mu_tw_enter) (pc := 205) dX11_enter_205 rfl rfl (gRel_Tw.1 _) (show g32 (x80.1) from hr81)
def tw_enter_j165 (N : Nat) (h : Nat) (v1 : Int) (v2 : Int) (t0 : Int) (s : gMem) : Option (Int × gMem) := gLet (wI s h 56 0) (fun s47 => if t0 = 0 then (tw_plainEntered N h s47).bind (fun x50 => tw_enter_j193 N h v1 v2 t0 (x50.1)  (x50.2)) else (tw_readFormula N h s47).bind (fun x84 => tw_enter_j193 N h v1 v2 t0 0  x84))
set_option maxRecDepth 100000 in
theorem okj_tw_enter_j165 {ω : gW} {l : Launch} {d : Nat} {N : Nat} {h : Nat} {σ0 : gMem} {s : gMem} {v1 : Int} {v2 : Int} {t0 : Int} (hdp : 212 ≤ d) (hM : TM s h) (hv1 : g32 v1) (hv2 : g32 v2) (ht0 : g32 t0) : GG (fun p : Int × gMem => (.inl (some (vI p.1)), p.2)) gTw ω l d mu_tw_enter σ0 165 [(0, vR h), (1, vI v1), (2, vI v2)] [vI t0] s (tw_enter_j165 N h v1 v2 t0 s) := by
  unfold tw_enter_j165
  refine x_istore (μ := mu_tw_enter) (pc := 165) (lv' := [(4, vI t0), (0, vR h), (1, vI v1), (2, vI v2)]) dX11_enter_165 (by decide) rfl ?_
  refine x_iconst (μ := mu_tw_enter) (pc := 167) dX11_enter_167 ?_
  refine x_istore (μ := mu_tw_enter) (pc := 168) (lv' := [(5, vI 0), (4, vI t0), (0, vR h), (1, vI v1), (2, vI v2)]) dX11_enter_168 (by decide) rfl ?_
  refine x_aload_n (μ := mu_tw_enter) (pc := 170) 2 dX11_enter_170 rfl ?_
  refine x_iconst (μ := mu_tw_enter) (pc := 171) dX11_enter_171 ?_
  refine x_fpi (μ := mu_tw_enter) (pc := 172) fX11_56 q2692 dX11_enter_172 hM.1 (fun _ q => gTw_wI q) ?_
  refine x_let (fun s47 e48 => ?_)
  have hM49 := TM.eI e48 hM
  refine x_iload (μ := mu_tw_enter) (pc := 175) 1 dX11_enter_175 rfl ?_
  refine x_if_eq (μ := mu_tw_enter) (pc := 177) (tgt := 187) dX11_enter_177 rfl ht0 ?_ ?_
  · refine x_aload_n (μ := mu_tw_enter) (pc := 187) 2 dX11_enter_187 rfl ?_
    refine x_callV_mi (μ := mu_tw_enter) (pc := 188) (ok_tw_plainEntered (ω := ω) (l := l) (d := d - 1) (by omega) hM49 ) gRel_Tw gRel_Tw (fun _ q => q) q3177 q3179 qs116 q232 q3180 dX11_enter_188 rfl hM49.1 hy_tw_plainEntered (by omega) (Nat.le_of_ble_eq_true rfl) rfl (Nat.le_of_ble_eq_true rfl) (fun x50 k52 hr51 => ?_)
    have hM53 : TM (x50.2) h := hM49.tw k52
    refine x_istore (μ := mu_tw_enter) (pc := 191) (lv' := [(5, vI (x50.1)), (4, vI t0), (0, vR h), (1, vI v1), (2, vI v2)]) dX11_enter_191 (by decide) rfl ?_
    refine x_loc (lv' := [(0, vR h), (1, vI v1), (2, vI v2), (4, vI t0), (5, vI (x50.1))]) [2, 3, 4, 1, 0] rfl ?_
    exact okj_tw_enter_j193 hdp hM53 hv1 hv2 ht0 hr51
  · refine x_aload_n (μ := mu_tw_enter) (pc := 180) 2 dX11_enter_180 rfl ?_
    refine x_callV_mv (μ := mu_tw_enter) (pc := 181) (ok_tw_readFormula (ω := ω) (l := l) (d := d - 1) (by omega) hM49 ) gRel_Tw gRel_Tw (fun _ q => q) q2991 q2993 qs81 q232 q2994 dX11_enter_181 rfl hM49.1 hy_tw_readFormula (by omega) (Nat.le_of_ble_eq_true rfl) rfl (Nat.le_of_ble_eq_true rfl) (fun x84 k85 => ?_)
    have hM86 : TM x84 h := hM49.tw k85
    refine x_goto (μ := mu_tw_enter) (pc := 184) (tgt := 193) dX11_enter_184 rfl ?_
    refine x_loc (lv' := [(0, vR h), (1, vI v1), (2, vI v2), (4, vI t0), (5, vI 0)]) [2, 3, 4, 1, 0] rfl ?_
    exact okj_tw_enter_j193 hdp hM86 hv1 hv2 ht0 (by decide)
def tw_enter_j164 (N : Nat) (h : Nat) (v1 : Int) (v2 : Int) (s : gMem) : Option (Int × gMem) := tw_enter_j165 N h v1 v2 0 s
set_option maxRecDepth 100000 in
theorem okj_tw_enter_j164 {ω : gW} {l : Launch} {d : Nat} {N : Nat} {h : Nat} {σ0 : gMem} {s : gMem} {v1 : Int} {v2 : Int} (hdp : 212 ≤ d) (hM : TM s h) (hv1 : g32 v1) (hv2 : g32 v2) : GG (fun p : Int × gMem => (.inl (some (vI p.1)), p.2)) gTw ω l d mu_tw_enter σ0 164 [(0, vR h), (1, vI v1), (2, vI v2)] [] s (tw_enter_j164 N h v1 v2 s) := by
  unfold tw_enter_j164
  refine x_iconst (μ := mu_tw_enter) (pc := 164) dX11_enter_164 ?_
  exact okj_tw_enter_j165 hdp hM hv1 hv2 (by decide)
def tw_enter_j135 (N : Nat) (h : Nat) (v1 : Int) (v2 : Int) (s : gMem) : Option (Int × gMem) := if mI s h 44 ≤ mI s h 43 then tw_enter_j164 N h v1 v2  s else if 0 ≤ (mI s h 43) ∧ (mI s h 43) < ((400 : Nat) : Int) then if mI s (h + 27) (mI s h 43).toNat ≠ 61 then tw_enter_j164 N h v1 v2  s else tw_enter_j165 N h v1 v2 1 s else none
set_option maxRecDepth 100000 in
theorem okj_tw_enter_j135 {ω : gW} {l : Launch} {d : Nat} {N : Nat} {h : Nat} {σ0 : gMem} {s : gMem} {v1 : Int} {v2 : Int} (hdp : 212 ≤ d) (hM : TM s h) (hv1 : g32 v1) (hv2 : g32 v2) : GG (fun p : Int × gMem => (.inl (some (vI p.1)), p.2)) gTw ω l d mu_tw_enter σ0 135 [(0, vR h), (1, vI v1), (2, vI v2)] [] s (tw_enter_j135 N h v1 v2 s) := by
  unfold tw_enter_j135
  refine x_aload_n (μ := mu_tw_enter) (pc := 135) 0 dX11_enter_135 rfl ?_
  refine x_fgi (μ := mu_tw_enter) (pc := 136) fX11_43 q2679 dX11_enter_136 hM.1 (fun hr45 => ?_)
  refine x_aload_n (μ := mu_tw_enter) (pc := 139) 0 dX11_enter_139 rfl ?_
  refine x_fgi (μ := mu_tw_enter) (pc := 140) fX11_44 q2680 dX11_enter_140 hM.1 (fun hr46 => ?_)
  refine x_icmp_ge (μ := mu_tw_enter) (pc := 143) (tgt := 164) dX11_enter_143 rfl hr45 hr46 ?_ ?_
  · exact okj_tw_enter_j164 hdp hM hv1 hv2
  · refine x_aload_n (μ := mu_tw_enter) (pc := 146) 0 dX11_enter_146 rfl ?_
    refine x_fgrE (μ := mu_tw_enter) (pc := 147) fX11_39 (Or.inr ⟨_, rfl⟩) q2675 (hM.a39).1 dX11_enter_147 hM.1 ?_
    refine x_aload_n (μ := mu_tw_enter) (pc := 150) 0 dX11_enter_150 rfl ?_
    refine x_fgi (μ := mu_tw_enter) (pc := 151) fX11_43 q2679 dX11_enter_151 hM.1 (fun hr87 => ?_)
    refine x_iald (μ := mu_tw_enter) (pc := 154) dX11_enter_154 (hM.a39).2.1 (hM.a39).2.2 (fun hr88 => ?_)
    refine x_bipush (μ := mu_tw_enter) (pc := 155) dX11_enter_155 (by decide) ?_
    refine x_icmp_ne (μ := mu_tw_enter) (pc := 157) (tgt := 164) dX11_enter_157 rfl hr88 (by decide) ?_ ?_
    · exact okj_tw_enter_j164 hdp hM hv1 hv2
    · refine x_iconst (μ := mu_tw_enter) (pc := 160) dX11_enter_160 ?_
      refine x_goto (μ := mu_tw_enter) (pc := 161) (tgt := 165) dX11_enter_161 rfl ?_
      exact okj_tw_enter_j165 hdp hM hv1 hv2 (by decide)
def tw_enter (N : Nat) (h : Nat) (v1 : Int) (v2 : Int) (σ : gMem) : Option (Int × gMem) := gLet (wI σ h 0 0) (fun s1 => (tw_isCell h 40 v1 v2 s1).bind (fun x4 => if x4 ≠ 0 then gLet (wI s1 h 40 0) (fun s7 => gLet (wI s7 h 41 0) (fun s10 => gLet (wI s10 h 42 (-1)) (fun s13 => gLet (wI s13 h 43 0) (fun s16 => gLet (wI s16 h 44 (mI s1 h 40)) (fun s19 => gLet (wI s19 h 45 (mI s1 h 40)) (fun s22 => tw_enter_l57 N h v1 v2 (fun s33 => tw_enter_l95 N h v1 v2 (fun s43 => tw_enter_j135 N h v1 v2  s43) N s33) N s22)))))) else (tw_throwing h 1 s1).bind (fun x89 => some (x89.1, x89.2))))
set_option maxRecDepth 100000 in
theorem ok_tw_enter {ω : gW} {l : Launch} {d : Nat} {N : Nat} {h : Nat} {σ : gMem} {v1 : Int} {v2 : Int} (hdp : 212 ≤ d) (hM : TM σ h) (hv1 : g32 v1) (hv2 : g32 v2) : gK (fun p : Int × gMem => (.inl (some (vI p.1)), p.2)) gTw ω l d mu_tw_enter [vR h, vI v1, vI v2] σ (tw_enter N h v1 v2 σ) := by
  refine gK.of hp_X11 (Nat.le_of_ble_eq_true rfl) ?_
  unfold tw_enter
  refine x_aload_n (μ := mu_tw_enter) (pc := 0) 0 dX11_enter_0 rfl ?_
  refine x_iconst (μ := mu_tw_enter) (pc := 1) dX11_enter_1 ?_
  refine x_fpi (μ := mu_tw_enter) (pc := 2) fX11_0 q2636 dX11_enter_2 hM.1 (fun _ q => gTw_wI q) ?_
  refine x_let (fun s1 e2 => ?_)
  have hM3 := TM.eI e2 hM
  refine x_aload_n (μ := mu_tw_enter) (pc := 5) 0 dX11_enter_5 rfl ?_
  refine x_bipush (μ := mu_tw_enter) (pc := 6) dX11_enter_6 (by decide) ?_
  refine x_iload_n (μ := mu_tw_enter) (pc := 8) 1 dX11_enter_8 rfl ?_
  refine x_iload_n (μ := mu_tw_enter) (pc := 9) 2 dX11_enter_9 rfl ?_
  refine x_callV_pi (μ := mu_tw_enter) (pc := 10) (ok_tw_isCell (ω := ω) (l := l) (d := d - 1) (by omega) hM3 (by decide) hv1 hv2) gRel_Tw gRel_Tw (fun _ q => q) q2987 q2989 qs80 q232 q2990 dX11_enter_10 rfl hM3.1 hy_tw_isCell (by omega) (Nat.le_of_ble_eq_true rfl) rfl (Nat.le_of_ble_eq_true rfl) (fun x4 hr5 => ?_)
  refine x_if_ne (μ := mu_tw_enter) (pc := 13) (tgt := 22) dX11_enter_13 rfl hr5 ?_ ?_
  · refine x_aload_n (μ := mu_tw_enter) (pc := 22) 0 dX11_enter_22 rfl ?_
    refine x_fgi (μ := mu_tw_enter) (pc := 23) fX11_40 q2676 dX11_enter_23 hM3.1 (fun hr6 => ?_)
    refine x_istore_n (μ := mu_tw_enter) (pc := 26) (lv' := [(3, vI (mI s1 h 40)), (0, vR h), (1, vI v1), (2, vI v2)]) dX11_enter_26 rfl (by decide) rfl ?_
    refine x_aload_n (μ := mu_tw_enter) (pc := 27) 1 dX11_enter_27 rfl ?_
    refine x_iconst (μ := mu_tw_enter) (pc := 28) dX11_enter_28 ?_
    refine x_fpi (μ := mu_tw_enter) (pc := 29) fX11_40 q2676 dX11_enter_29 hM3.1 (fun _ q => gTw_wI q) ?_
    refine x_let (fun s7 e8 => ?_)
    have hM9 := TM.eI e8 hM3
    refine x_aload_n (μ := mu_tw_enter) (pc := 32) 1 dX11_enter_32 rfl ?_
    refine x_iconst (μ := mu_tw_enter) (pc := 33) dX11_enter_33 ?_
    refine x_fpi (μ := mu_tw_enter) (pc := 34) fX11_41 q2677 dX11_enter_34 hM9.1 (fun _ q => gTw_wI q) ?_
    refine x_let (fun s10 e11 => ?_)
    have hM12 := TM.eI e11 hM9
    refine x_aload_n (μ := mu_tw_enter) (pc := 37) 1 dX11_enter_37 rfl ?_
    refine x_iconst (μ := mu_tw_enter) (pc := 38) dX11_enter_38 ?_
    refine x_fpi (μ := mu_tw_enter) (pc := 39) fX11_42 q2678 dX11_enter_39 hM12.1 (fun _ q => gTw_wI q) ?_
    refine x_let (fun s13 e14 => ?_)
    have hM15 := TM.eI e14 hM12
    refine x_aload_n (μ := mu_tw_enter) (pc := 42) 1 dX11_enter_42 rfl ?_
    refine x_iconst (μ := mu_tw_enter) (pc := 43) dX11_enter_43 ?_
    refine x_fpi (μ := mu_tw_enter) (pc := 44) fX11_43 q2679 dX11_enter_44 hM15.1 (fun _ q => gTw_wI q) ?_
    refine x_let (fun s16 e17 => ?_)
    have hM18 := TM.eI e17 hM15
    refine x_aload_n (μ := mu_tw_enter) (pc := 47) 1 dX11_enter_47 rfl ?_
    refine x_iload_n (μ := mu_tw_enter) (pc := 48) 0 dX11_enter_48 rfl ?_
    refine x_fpi (μ := mu_tw_enter) (pc := 49) fX11_44 q2680 dX11_enter_49 hM18.1 (fun _ q => gTw_wI q) ?_
    refine x_let (fun s19 e20 => ?_)
    have hM21 := TM.eI e20 hM18
    refine x_aload_n (μ := mu_tw_enter) (pc := 52) 1 dX11_enter_52 rfl ?_
    refine x_iload_n (μ := mu_tw_enter) (pc := 53) 0 dX11_enter_53 rfl ?_
    refine x_fpi (μ := mu_tw_enter) (pc := 54) fX11_45 q2681 dX11_enter_54 hM21.1 (fun _ q => gTw_wI q) ?_
    refine x_let (fun s22 e23 => ?_)
    have hM24 := TM.eI e23 hM21
    refine x_loc (lv' := [(0, vR h), (1, vI v1), (2, vI v2)]) [1, 2, 3] rfl ?_
    refine okl_tw_enter_l57 hdp hv1 hv2 (fun s33 hM34 => ?_) N s22 hM24
    refine okl_tw_enter_l95 hdp hv1 hv2 (fun s43 hM44 => ?_) N s33 hM34
    exact okj_tw_enter_j135 hdp hM44 hv1 hv2
  · refine x_aload_n (μ := mu_tw_enter) (pc := 16) 0 dX11_enter_16 rfl ?_
    refine x_iconst (μ := mu_tw_enter) (pc := 17) dX11_enter_17 ?_
    refine x_callV_mi (μ := mu_tw_enter) (pc := 18) (ok_tw_throwing (ω := ω) (l := l) (d := d - 1) (by omega) hM3 (by decide)) gRel_Tw gRel_Tw (fun _ q => q) q2960 q2962 qs78 q232 q2963 dX11_enter_18 rfl hM3.1 hy_tw_throwing (by omega) (Nat.le_of_ble_eq_true rfl) rfl (Nat.le_of_ble_eq_true rfl) (fun x89 k91 hr90 => ?_)
    have hM92 : TM (x89.2) h := hM3.tw k91
    exact x_iret (μ := mu_tw_enter) (pc := 21) dX11_enter_21 rfl rfl (gRel_Tw.1 _) (show g32 (x89.1) from hr90)
def tw_kind (N : Nat) (h : Nat) (v1 : Int) (v2 : Int) (v3 : Int) (σ : gMem) : Option (Int × gMem) := gLet (wI σ h 0 0) (fun s1 => (tw_asked h v1 v2 v3 s1).bind (fun x4 => if 0 ≤ x4 then (tw_sheetAt v1 s1).bind (fun x6 => (tw_needValues N h x6 s1).bind (fun x8 => if 0 ≤ x4 ∧ x4 < ((13120 : Nat) : Int) then some (mI x8 (h + 28) x4.toNat, x8) else none)) else some ((-1), s1)))
set_option maxRecDepth 100000 in
theorem ok_tw_kind {ω : gW} {l : Launch} {d : Nat} {N : Nat} {h : Nat} {σ : gMem} {v1 : Int} {v2 : Int} {v3 : Int} (hdp : 206 ≤ d) (hM : TM σ h) (hv1 : g32 v1) (hv2 : g32 v2) (hv3 : g32 v3) : gK (fun p : Int × gMem => (.inl (some (vI p.1)), p.2)) gTw ω l d mu_tw_kind [vR h, vI v1, vI v2, vI v3] σ (tw_kind N h v1 v2 v3 σ) := by
  refine gK.of hp_X11 (Nat.le_of_ble_eq_true rfl) ?_
  unfold tw_kind
  refine x_aload_n (μ := mu_tw_kind) (pc := 0) 0 dX11_kind_0 rfl ?_
  refine x_iconst (μ := mu_tw_kind) (pc := 1) dX11_kind_1 ?_
  refine x_fpi (μ := mu_tw_kind) (pc := 2) fX11_0 q2636 dX11_kind_2 hM.1 (fun _ q => gTw_wI q) ?_
  refine x_let (fun s1 e2 => ?_)
  have hM3 := TM.eI e2 hM
  refine x_aload_n (μ := mu_tw_kind) (pc := 5) 0 dX11_kind_5 rfl ?_
  refine x_iload_n (μ := mu_tw_kind) (pc := 6) 1 dX11_kind_6 rfl ?_
  refine x_iload_n (μ := mu_tw_kind) (pc := 7) 2 dX11_kind_7 rfl ?_
  refine x_iload_n (μ := mu_tw_kind) (pc := 8) 3 dX11_kind_8 rfl ?_
  refine x_callV_pi (μ := mu_tw_kind) (pc := 9) (ok_tw_asked (ω := ω) (l := l) (d := d - 1) (by omega) hM3 hv1 hv2 hv3) gRel_Tw gRel_Tw (fun _ q => q) q3207 q3209 qs121 q232 q3210 dX11_kind_9 rfl hM3.1 hy_tw_asked (by omega) (Nat.le_of_ble_eq_true rfl) rfl (Nat.le_of_ble_eq_true rfl) (fun x4 hr5 => ?_)
  refine x_istore (μ := mu_tw_kind) (pc := 12) (lv' := [(4, vI x4), (0, vR h), (1, vI v1), (2, vI v2), (3, vI v3)]) dX11_kind_12 (by decide) rfl ?_
  refine x_iload (μ := mu_tw_kind) (pc := 14) 0 dX11_kind_14 rfl ?_
  refine x_if_ge (μ := mu_tw_kind) (pc := 16) (tgt := 21) dX11_kind_16 rfl hr5 ?_ ?_
  · refine x_aload_n (μ := mu_tw_kind) (pc := 21) 1 dX11_kind_21 rfl ?_
    refine x_iload_n (μ := mu_tw_kind) (pc := 22) 2 dX11_kind_22 rfl ?_
    refine x_callS_pi (μ := mu_tw_kind) (pc := 23) (ok_tw_sheetAt (ω := ω) (l := l) (d := d - 1) (by omega) hv1) gRel_Tw gRel_Tw (fun _ q => q) q3215 q3216 q232 q3217 dX11_kind_23 hy_tw_sheetAt (by omega) (Nat.le_of_ble_eq_true rfl) rfl (Nat.le_of_ble_eq_true rfl) (fun x6 hr7 => ?_)
    refine x_callV_mv (μ := mu_tw_kind) (pc := 26) (ok_tw_needValues (ω := ω) (l := l) (d := d - 1) (by omega) hM3 hr7) gRel_Tw gRel_Tw (fun _ q => q) q3218 q3220 qs123 q232 q3221 dX11_kind_26 rfl hM3.1 hy_tw_needValues (by omega) (Nat.le_of_ble_eq_true rfl) rfl (Nat.le_of_ble_eq_true rfl) (fun x8 k9 => ?_)
    have hM10 : TM x8 h := hM3.tw k9
    refine x_aload_n (μ := mu_tw_kind) (pc := 29) 1 dX11_kind_29 rfl ?_
    refine x_fgrE (μ := mu_tw_kind) (pc := 30) fX11_60 (Or.inr ⟨_, rfl⟩) q2696 (hM10.a60).1 dX11_kind_30 hM10.1 ?_
    refine x_iload (μ := mu_tw_kind) (pc := 33) 0 dX11_kind_33 rfl ?_
    refine x_iald (μ := mu_tw_kind) (pc := 35) dX11_kind_35 (hM10.a60).2.1 (hM10.a60).2.2 (fun hr11 => ?_)
    exact x_iret (μ := mu_tw_kind) (pc := 36) dX11_kind_36 rfl rfl (gRel_Tw.1 _) (show g32 (mI x8 (h + 28) x4.toNat) from hr11)
  · refine x_iconst (μ := mu_tw_kind) (pc := 19) dX11_kind_19 ?_
    exact x_iret (μ := mu_tw_kind) (pc := 20) dX11_kind_20 rfl rfl (gRel_Tw.1 _) (show g32 (-1) from (by decide))
def x6_formula (N : Nat) (v0 : Nat) (v1 : Int) (v2 : Int) (σ : gMem) : Option gR := if mT σ v0 = 6 then gLet (wI σ v0 6 v1) (fun s2 => gLet (wI s2 v0 5 v2) (fun s4 => gLet (wI s4 v0 7 0) (fun s6 => gLet (wI s6 v0 8 0) (fun s8 => gLet (wI s8 v0 11 0) (fun s10 => gLet (wI s10 v0 14 0) (fun s12 => gLet (wI s12 v0 15 (-1)) (fun s14 => (x6_test N (x6_sign N 24) v0 s14).bind (fun p => gThrR p (fun x16 s18 => (x6_peek N v0 s18).bind (fun x19 => if x19.1 = (-1) then if mI (x19.2) v0 14 = 0 then if mI (x19.2) v0 8 ≤ 60 then gLet (wN (x19.2) 21 2) (fun s25 => (x23_init (mZ (x19.2)) x16 (mI s25 v0 8) s25).bind (fun x28 => gLet (wR x28 v0 16 (mZ (x19.2))) (fun s30 => some (.inl none, s30)))) else (x6_wrong v0 5 (mI (x19.2) v0 5) (x19.2)).bind (fun x33 => if mT (x33.2) (x33.1) = 25 then some (.inr "SheetBranches$Wrong", x33.2) else none) else (x6_wrong v0 (mI (x19.2) v0 14) (mI (x19.2) v0 15) (x19.2)).bind (fun x38 => if mT (x38.2) (x38.1) = 25 then some (.inr "SheetBranches$Wrong", x38.2) else none) else (x6_wrong v0 1 (mI (x19.2) v0 6) (x19.2)).bind (fun x42 => if mT (x42.2) (x42.1) = 25 then some (.inr "SheetBranches$Wrong", x42.2) else none))))))))))) else none
set_option maxRecDepth 100000 in
theorem ok_x6_formula {ω : gW} {l : Launch} {d : Nat} {N : Nat} {σ : gMem} {v0 : Nat} {v1 : Int} {v2 : Int} (hl : l.stackTraces = false) (hdp : 237 ≤ d) (hv1 : g32 v1) (hv2 : g32 v2) : gK (fun p : gR => p) gE ω l d mu_x6_formula [vR v0, vI v1, vI v2] σ (x6_formula N v0 v1 v2 σ) := by
  refine gK.of hp_X6 (Nat.le_of_ble_eq_true rfl) ?_
  unfold x6_formula
  refine x_aload_n (μ := mu_x6_formula) (pc := 0) 0 dX6_formula_0 rfl ?_
  refine x_iload_n (μ := mu_x6_formula) (pc := 1) 1 dX6_formula_1 rfl ?_
  refine x_if (fun hT1 => ?_)
  refine x_fpi (μ := mu_x6_formula) (pc := 2) fX6_6 q487 dX6_formula_2 hT1 (fun _ q => gE_wI q) ?_
  refine x_let (fun s2 e3 => ?_)
  refine x_aload_n (μ := mu_x6_formula) (pc := 5) 0 dX6_formula_5 rfl ?_
  refine x_iload_n (μ := mu_x6_formula) (pc := 6) 2 dX6_formula_6 rfl ?_
  refine x_fpi (μ := mu_x6_formula) (pc := 7) fX6_5 q486 dX6_formula_7 (gT_I e3 hT1) (fun _ q => gE_wI q) ?_
  refine x_let (fun s4 e5 => ?_)
  refine x_aload_n (μ := mu_x6_formula) (pc := 10) 0 dX6_formula_10 rfl ?_
  refine x_iconst (μ := mu_x6_formula) (pc := 11) dX6_formula_11 ?_
  refine x_fpi (μ := mu_x6_formula) (pc := 12) fX6_7 q488 dX6_formula_12 (gT_I e5 (gT_I e3 hT1)) (fun _ q => gE_wI q) ?_
  refine x_let (fun s6 e7 => ?_)
  refine x_aload_n (μ := mu_x6_formula) (pc := 15) 0 dX6_formula_15 rfl ?_
  refine x_iconst (μ := mu_x6_formula) (pc := 16) dX6_formula_16 ?_
  refine x_fpi (μ := mu_x6_formula) (pc := 17) fX6_8 q489 dX6_formula_17 (gT_I e7 (gT_I e5 (gT_I e3 hT1))) (fun _ q => gE_wI q) ?_
  refine x_let (fun s8 e9 => ?_)
  refine x_aload_n (μ := mu_x6_formula) (pc := 20) 0 dX6_formula_20 rfl ?_
  refine x_iconst (μ := mu_x6_formula) (pc := 21) dX6_formula_21 ?_
  refine x_fpi (μ := mu_x6_formula) (pc := 22) fX6_11 q492 dX6_formula_22 (gT_I e9 (gT_I e7 (gT_I e5 (gT_I e3 hT1)))) (fun _ q => gE_wI q) ?_
  refine x_let (fun s10 e11 => ?_)
  refine x_aload_n (μ := mu_x6_formula) (pc := 25) 0 dX6_formula_25 rfl ?_
  refine x_iconst (μ := mu_x6_formula) (pc := 26) dX6_formula_26 ?_
  refine x_fpi (μ := mu_x6_formula) (pc := 27) fX6_14 q497 dX6_formula_27 (gT_I e11 (gT_I e9 (gT_I e7 (gT_I e5 (gT_I e3 hT1))))) (fun _ q => gE_wI q) ?_
  refine x_let (fun s12 e13 => ?_)
  refine x_aload_n (μ := mu_x6_formula) (pc := 30) 0 dX6_formula_30 rfl ?_
  refine x_iconst (μ := mu_x6_formula) (pc := 31) dX6_formula_31 ?_
  refine x_fpi (μ := mu_x6_formula) (pc := 32) fX6_15 q498 dX6_formula_32 (gT_I e13 (gT_I e11 (gT_I e9 (gT_I e7 (gT_I e5 (gT_I e3 hT1)))))) (fun _ q => gE_wI q) ?_
  refine x_let (fun s14 e15 => ?_)
  refine x_aload_n (μ := mu_x6_formula) (pc := 35) 0 dX6_formula_35 rfl ?_
  refine x_callV_xr (μ := mu_x6_formula) (pc := 36) (ok_x6_test (ω := ω) (l := l) (d := d - 1) (dW := 232) hl (fun a0 s  => ok_x6_sign hl 24 a0 s  (Nat.le_refl _)) (by omega) (by omega) ) q1791 q1793 qs29 q226 q1794 dX6_formula_36 rfl (gT_I e15 (gT_I e13 (gT_I e11 (gT_I e9 (gT_I e7 (gT_I e5 (gT_I e3 hT1))))))) hy_x6_test (by omega) (Nat.le_of_ble_eq_true rfl) rfl (Nat.le_of_ble_eq_true rfl) (by decide) (fun x16 s18 k17 => ?_)
  refine x_astore_n (μ := mu_x6_formula) (pc := 39) (lv' := [(3, vR x16), (0, vR v0), (1, vI v1), (2, vI v2)]) dX6_formula_39 rfl (by decide) rfl ?_
  refine x_aload_n (μ := mu_x6_formula) (pc := 40) 1 dX6_formula_40 rfl ?_
  refine x_callV_mi (μ := mu_x6_formula) (pc := 41) (ok_x6_peek (ω := ω) (l := l) (d := d - 1) hl (by omega) ) gRel_E gRel_E (fun _ q => q) q1811 q1813 qs34 q226 q1814 dX6_formula_41 rfl (gT_E k17 (gT_I e15 (gT_I e13 (gT_I e11 (gT_I e9 (gT_I e7 (gT_I e5 (gT_I e3 hT1))))))) (by decide)) hy_x6_peek (by omega) (Nat.le_of_ble_eq_true rfl) rfl (Nat.le_of_ble_eq_true rfl) (fun x19 k21 hr20 => ?_)
  refine x_iconst (μ := mu_x6_formula) (pc := 44) dX6_formula_44 ?_
  refine x_icmp_eq (μ := mu_x6_formula) (pc := 45) (tgt := 58) dX6_formula_45 rfl hr20 (by decide) ?_ ?_
  · refine x_aload_n (μ := mu_x6_formula) (pc := 58) 1 dX6_formula_58 rfl ?_
    refine x_fgi (μ := mu_x6_formula) (pc := 59) fX6_14 q497 dX6_formula_59 (gT_E k21 (gT_E k17 (gT_I e15 (gT_I e13 (gT_I e11 (gT_I e9 (gT_I e7 (gT_I e5 (gT_I e3 hT1))))))) (by decide)) (by decide)) (fun hr22 => ?_)
    refine x_if_eq (μ := mu_x6_formula) (pc := 62) (tgt := 78) dX6_formula_62 rfl hr22 ?_ ?_
    · refine x_aload_n (μ := mu_x6_formula) (pc := 78) 1 dX6_formula_78 rfl ?_
      refine x_fgi (μ := mu_x6_formula) (pc := 79) fX6_8 q489 dX6_formula_79 (gT_E k21 (gT_E k17 (gT_I e15 (gT_I e13 (gT_I e11 (gT_I e9 (gT_I e7 (gT_I e5 (gT_I e3 hT1))))))) (by decide)) (by decide)) (fun hr23 => ?_)
      refine x_bipush (μ := mu_x6_formula) (pc := 82) dX6_formula_82 (by decide) ?_
      refine x_icmp_le (μ := mu_x6_formula) (pc := 84) (tgt := 97) dX6_formula_84 rfl hr23 (by decide) ?_ ?_
      · refine x_aload_n (μ := mu_x6_formula) (pc := 97) 1 dX6_formula_97 rfl ?_
        refine x_ok (fun ok24 => ?_)
        refine x_new (μ := mu_x6_formula) (pc := 98) (ci := 20) gk_X23 gd_X23 q2101 q2102 q256 dX6_formula_98 ?_
        refine x_let (fun s25 e26 => ?_)
        refine x_dup (μ := mu_x6_formula) (pc := 101) dX6_formula_101 rfl ?_
        refine x_aload_n (μ := mu_x6_formula) (pc := 102) 0 dX6_formula_102 rfl ?_
        refine x_aload_n (μ := mu_x6_formula) (pc := 103) 1 dX6_formula_103 rfl ?_
        refine x_fgi (μ := mu_x6_formula) (pc := 104) fX6_8 q489 dX6_formula_104 (gT_N e26 ok24 (gT_E k21 (gT_E k17 (gT_I e15 (gT_I e13 (gT_I e11 (gT_I e9 (gT_I e7 (gT_I e5 (gT_I e3 hT1))))))) (by decide)) (by decide)) (by decide)) (fun hr27 => ?_)
        refine x_callIN_mv (μ := mu_x6_formula) (pc := 107) (ok_x23_init (ω := ω) (l := l) (d := d - 1) hl (by omega) hr27) gRel_E gRel_E (fun _ q => q) q2103 q2104 q256 q2105 dX6_formula_107 (gT_ne (gT_new e26)) rfl hy_x23_init (by omega) (Nat.le_of_ble_eq_true rfl) rfl (Nat.le_of_ble_eq_true rfl) (fun x28 k29 => ?_)
        refine x_fpr (μ := mu_x6_formula) (pc := 110) fX6_16 q499 (by first | exact Or.inl ⟨_, rfl⟩ | exact Or.inr ⟨_, rfl⟩) dX6_formula_110 (gT_E k29 (gT_N e26 ok24 (gT_E k21 (gT_E k17 (gT_I e15 (gT_I e13 (gT_I e11 (gT_I e9 (gT_I e7 (gT_I e5 (gT_I e3 hT1))))))) (by decide)) (by decide)) (by decide)) (by decide)) (fun _ q => gE_wR q) ?_
        refine x_let (fun s30 e31 => ?_)
        exact x_vret (μ := mu_x6_formula) (pc := 113) (a1 := ((.inl none, s30) : gR)) dX6_formula_113 rfl rfl (gRel_E.1 _) trivial
      · refine x_aload_n (μ := mu_x6_formula) (pc := 87) 1 dX6_formula_87 rfl ?_
        refine x_iconst (μ := mu_x6_formula) (pc := 88) dX6_formula_88 ?_
        refine x_aload_n (μ := mu_x6_formula) (pc := 89) 1 dX6_formula_89 rfl ?_
        refine x_fgi (μ := mu_x6_formula) (pc := 90) fX6_5 q486 dX6_formula_90 (gT_E k21 (gT_E k17 (gT_I e15 (gT_I e13 (gT_I e11 (gT_I e9 (gT_I e7 (gT_I e5 (gT_I e3 hT1))))))) (by decide)) (by decide)) (fun hr32 => ?_)
        refine x_callV_mr (μ := mu_x6_formula) (pc := 93) (ok_x6_wrong (ω := ω) (l := l) (d := d - 1) hl (by omega) (by decide) hr32) gRel_E gRel_E (fun _ q => q) q1827 q1829 qs38 q226 q1830 dX6_formula_93 rfl (gT_E k21 (gT_E k17 (gT_I e15 (gT_I e13 (gT_I e11 (gT_I e9 (gT_I e7 (gT_I e5 (gT_I e3 hT1))))))) (by decide)) (by decide)) hy_x6_wrong (by omega) (Nat.le_of_ble_eq_true rfl) rfl (Nat.le_of_ble_eq_true rfl) (fun x33 k34 => ?_)
        refine x_if (fun hT35 => ?_)
        exact x_athrow (μ := mu_x6_formula) (pc := 96) dX6_formula_96 hT35 (by decide)
    · refine x_aload_n (μ := mu_x6_formula) (pc := 65) 1 dX6_formula_65 rfl ?_
      refine x_aload_n (μ := mu_x6_formula) (pc := 66) 1 dX6_formula_66 rfl ?_
      refine x_fgi (μ := mu_x6_formula) (pc := 67) fX6_14 q497 dX6_formula_67 (gT_E k21 (gT_E k17 (gT_I e15 (gT_I e13 (gT_I e11 (gT_I e9 (gT_I e7 (gT_I e5 (gT_I e3 hT1))))))) (by decide)) (by decide)) (fun hr36 => ?_)
      refine x_aload_n (μ := mu_x6_formula) (pc := 70) 1 dX6_formula_70 rfl ?_
      refine x_fgi (μ := mu_x6_formula) (pc := 71) fX6_15 q498 dX6_formula_71 (gT_E k21 (gT_E k17 (gT_I e15 (gT_I e13 (gT_I e11 (gT_I e9 (gT_I e7 (gT_I e5 (gT_I e3 hT1))))))) (by decide)) (by decide)) (fun hr37 => ?_)
      refine x_callV_mr (μ := mu_x6_formula) (pc := 74) (ok_x6_wrong (ω := ω) (l := l) (d := d - 1) hl (by omega) hr36 hr37) gRel_E gRel_E (fun _ q => q) q1827 q1829 qs38 q226 q1830 dX6_formula_74 rfl (gT_E k21 (gT_E k17 (gT_I e15 (gT_I e13 (gT_I e11 (gT_I e9 (gT_I e7 (gT_I e5 (gT_I e3 hT1))))))) (by decide)) (by decide)) hy_x6_wrong (by omega) (Nat.le_of_ble_eq_true rfl) rfl (Nat.le_of_ble_eq_true rfl) (fun x38 k39 => ?_)
      refine x_if (fun hT40 => ?_)
      exact x_athrow (μ := mu_x6_formula) (pc := 77) dX6_formula_77 hT40 (by decide)
  · refine x_aload_n (μ := mu_x6_formula) (pc := 48) 1 dX6_formula_48 rfl ?_
    refine x_iconst (μ := mu_x6_formula) (pc := 49) dX6_formula_49 ?_
    refine x_aload_n (μ := mu_x6_formula) (pc := 50) 1 dX6_formula_50 rfl ?_
    refine x_fgi (μ := mu_x6_formula) (pc := 51) fX6_6 q487 dX6_formula_51 (gT_E k21 (gT_E k17 (gT_I e15 (gT_I e13 (gT_I e11 (gT_I e9 (gT_I e7 (gT_I e5 (gT_I e3 hT1))))))) (by decide)) (by decide)) (fun hr41 => ?_)
    refine x_callV_mr (μ := mu_x6_formula) (pc := 54) (ok_x6_wrong (ω := ω) (l := l) (d := d - 1) hl (by omega) (by decide) hr41) gRel_E gRel_E (fun _ q => q) q1827 q1829 qs38 q226 q1830 dX6_formula_54 rfl (gT_E k21 (gT_E k17 (gT_I e15 (gT_I e13 (gT_I e11 (gT_I e9 (gT_I e7 (gT_I e5 (gT_I e3 hT1))))))) (by decide)) (by decide)) hy_x6_wrong (by omega) (Nat.le_of_ble_eq_true rfl) rfl (Nat.le_of_ble_eq_true rfl) (fun x42 k43 => ?_)
    refine x_if (fun hT44 => ?_)
    exact x_athrow (μ := mu_x6_formula) (pc := 57) dX6_formula_57 hT44 (by decide)
def x6_read_l47 (N : Nat) (v0 : Nat) (v1 : Nat) (v6 : Int) (K : Int → gMem → Option gR) : Nat → Int → gMem → Option gR
  | 0, _, _ => none
  | n + 1, v5, s => if v6 ≤ v5 then K v5 s else if mT s v1 = 102 then if 0 ≤ v5 ∧ v5 < (mN s v1 : Int) then if mI s v1 v5.toNat ≠ 32 then K v5 s else x6_read_l47 N v0 v1 v6 K n (w32 (v5 + 1)) s else none else none
set_option maxRecDepth 100000 in
theorem okl_x6_read_l47 {ω : gW} {l : Launch} {d : Nat} {N : Nat} {σ0 : gMem} {v0 : Nat} {v1 : Nat} {v6 : Int} {K : Int → gMem → Option gR} (hl : l.stackTraces = false) (hdp : 238 ≤ d) (hv6 : g32 v6) (hK : ∀ (v5 : Int) (s : gMem) , g32 v5 → GG (fun p : gR => p) gE ω l d mu_x6_read σ0 69 [(0, vR v0), (1, vR v1), (5, vI v5), (6, vI v6)] [] s (K v5 s)) : ∀ (n : Nat) (v5 : Int) (s : gMem) , g32 v5 → GG (fun p : gR => p) gE ω l d mu_x6_read σ0 47 [(0, vR v0), (1, vR v1), (5, vI v5), (6, vI v6)] [] s (x6_read_l47 N v0 v1 v6 K n v5 s) := by
  intro n
  induction n with
  | zero => intros; exact x_none
  | succ n ih =>
    intro v5 s hv5
    unfold x6_read_l47
    refine x_iload (μ := mu_x6_read) (pc := 47) 2 dX6_read_47 rfl ?_
    refine x_iload (μ := mu_x6_read) (pc := 49) 3 dX6_read_49 rfl ?_
    refine x_icmp_ge (μ := mu_x6_read) (pc := 51) (tgt := 69) dX6_read_51 rfl hv5 hv6 ?_ ?_
    · exact hK v5 s hv5
    · refine x_aload_n (μ := mu_x6_read) (pc := 54) 1 dX6_read_54 rfl ?_
      refine x_iload (μ := mu_x6_read) (pc := 55) 2 dX6_read_55 rfl ?_
      refine x_if (fun hT18 => ?_)
      refine x_bald (μ := mu_x6_read) (pc := 57) dX6_read_57 hT18 rfl (fun hr19 => ?_)
      refine x_bipush (μ := mu_x6_read) (pc := 58) dX6_read_58 (by decide) ?_
      refine x_icmp_ne (μ := mu_x6_read) (pc := 60) (tgt := 69) dX6_read_60 rfl hr19 (by decide) ?_ ?_
      · exact hK v5 s hv5
      · refine x_iincw (μ := mu_x6_read) (pc := 63) (lv' := [(5, vI (w32 (v5 + 1))), (0, vR v0), (1, vR v1), (6, vI v6)]) 2 dX6_read_63 rfl (by decide) rfl ?_
        refine x_goto (μ := mu_x6_read) (pc := 66) (tgt := 47) dX6_read_66 rfl ?_
        refine x_loc (lv' := [(0, vR v0), (1, vR v1), (5, vI (w32 (v5 + 1))), (6, vI v6)]) [1, 2, 0, 3] rfl ?_
        exact ih (w32 (v5 + 1)) s (w32_rng _)
def x6_read_l69 (N : Nat) (v0 : Nat) (v1 : Nat) (v5 : Int) (K : Int → gMem → Option gR) : Nat → Int → gMem → Option gR
  | 0, _, _ => none
  | n + 1, v6, s => if v6 ≤ v5 then K v6 s else if mT s v1 = 102 then if 0 ≤ (v6 - 1) ∧ (v6 - 1) < (mN s v1 : Int) then if mI s v1 (v6 - 1).toNat ≠ 32 then K v6 s else x6_read_l69 N v0 v1 v5 K n (w32 (v6 + (-1))) s else none else none
set_option maxRecDepth 100000 in
theorem okl_x6_read_l69 {ω : gW} {l : Launch} {d : Nat} {N : Nat} {σ0 : gMem} {v0 : Nat} {v1 : Nat} {v5 : Int} {K : Int → gMem → Option gR} (hl : l.stackTraces = false) (hdp : 238 ≤ d) (hv5 : g32 v5) (hK : ∀ (v6 : Int) (s : gMem) , g32 v6 → GG (fun p : gR => p) gE ω l d mu_x6_read σ0 93 [(0, vR v0), (1, vR v1), (5, vI v5), (6, vI v6)] [] s (K v6 s)) : ∀ (n : Nat) (v6 : Int) (s : gMem) , g32 v6 → GG (fun p : gR => p) gE ω l d mu_x6_read σ0 69 [(0, vR v0), (1, vR v1), (5, vI v5), (6, vI v6)] [] s (x6_read_l69 N v0 v1 v5 K n v6 s) := by
  intro n
  induction n with
  | zero => intros; exact x_none
  | succ n ih =>
    intro v6 s hv6
    unfold x6_read_l69
    refine x_iload (μ := mu_x6_read) (pc := 69) 3 dX6_read_69 rfl ?_
    refine x_iload (μ := mu_x6_read) (pc := 71) 2 dX6_read_71 rfl ?_
    refine x_icmp_le (μ := mu_x6_read) (pc := 73) (tgt := 93) dX6_read_73 rfl hv6 hv5 ?_ ?_
    · exact hK v6 s hv6
    · refine x_aload_n (μ := mu_x6_read) (pc := 76) 1 dX6_read_76 rfl ?_
      refine x_iload (μ := mu_x6_read) (pc := 77) 3 dX6_read_77 rfl ?_
      refine x_iconst (μ := mu_x6_read) (pc := 79) dX6_read_79 ?_
      refine x_isub (μ := mu_x6_read) (pc := 80) dX6_read_80 ?_
      refine x_if (fun hT22 => ?_)
      refine x_bald (μ := mu_x6_read) (pc := 81) dX6_read_81 hT22 rfl (fun hr23 => ?_)
      refine x_bipush (μ := mu_x6_read) (pc := 82) dX6_read_82 (by decide) ?_
      refine x_icmp_ne (μ := mu_x6_read) (pc := 84) (tgt := 93) dX6_read_84 rfl hr23 (by decide) ?_ ?_
      · exact hK v6 s hv6
      · refine x_iincw (μ := mu_x6_read) (pc := 87) (lv' := [(6, vI (w32 (v6 + (-1)))), (0, vR v0), (1, vR v1), (5, vI v5)]) 3 dX6_read_87 rfl (by decide) rfl ?_
        refine x_goto (μ := mu_x6_read) (pc := 90) (tgt := 69) dX6_read_90 rfl ?_
        refine x_loc (lv' := [(0, vR v0), (1, vR v1), (5, vI v5), (6, vI (w32 (v6 + (-1))))]) [1, 2, 3, 0] rfl ?_
        exact ih (w32 (v6 + (-1))) s (w32_rng _)
def x6_read_j93 (N : Nat) (v0 : Nat) (v1 : Nat) (v5 : Int) (v6 : Int) (s : gMem) : Option gR := if v5 ≠ v6 then if mT s v1 = 102 then if 0 ≤ v5 ∧ v5 < (mN s v1 : Int) then if mI s v1 v5.toNat ≠ 61 then if mT s v0 = 6 then (x6_plain N v0 v5 v6 s).bind (fun p => gThrV p (fun s31 => some (.inl none, s31))) else none else if mT s v0 = 6 then (x6_formula N v0 (w32 (v5 + 1)) v6 s).bind (fun p => gThrV p (fun s35 => some (.inl none, s35))) else none else none else none else some (.inl none, s)
set_option maxRecDepth 100000 in
theorem okj_x6_read_j93 {ω : gW} {l : Launch} {d : Nat} {N : Nat} {σ0 : gMem} {s : gMem} {v0 : Nat} {v1 : Nat} {v5 : Int} {v6 : Int} (hl : l.stackTraces = false) (hdp : 238 ≤ d) (hv5 : g32 v5) (hv6 : g32 v6) : GG (fun p : gR => p) gE ω l d mu_x6_read σ0 93 [(0, vR v0), (1, vR v1), (5, vI v5), (6, vI v6)] [] s (x6_read_j93 N v0 v1 v5 v6 s) := by
  unfold x6_read_j93
  refine x_iload (μ := mu_x6_read) (pc := 93) 2 dX6_read_93 rfl ?_
  refine x_iload (μ := mu_x6_read) (pc := 95) 3 dX6_read_95 rfl ?_
  refine x_icmp_ne (μ := mu_x6_read) (pc := 97) (tgt := 101) dX6_read_97 rfl hv5 hv6 ?_ ?_
  · refine x_aload_n (μ := mu_x6_read) (pc := 101) 1 dX6_read_101 rfl ?_
    refine x_iload (μ := mu_x6_read) (pc := 102) 2 dX6_read_102 rfl ?_
    refine x_if (fun hT26 => ?_)
    refine x_bald (μ := mu_x6_read) (pc := 104) dX6_read_104 hT26 rfl (fun hr27 => ?_)
    refine x_bipush (μ := mu_x6_read) (pc := 105) dX6_read_105 (by decide) ?_
    refine x_icmp_ne (μ := mu_x6_read) (pc := 107) (tgt := 123) dX6_read_107 rfl hr27 (by decide) ?_ ?_
    · refine x_aload_n (μ := mu_x6_read) (pc := 123) 0 dX6_read_123 rfl ?_
      refine x_iload (μ := mu_x6_read) (pc := 124) 2 dX6_read_124 rfl ?_
      refine x_iload (μ := mu_x6_read) (pc := 126) 3 dX6_read_126 rfl ?_
      refine x_if (fun hT28 => ?_)
      refine x_callV_xv (μ := mu_x6_read) (pc := 128) (ok_x6_plain (ω := ω) (l := l) (d := d - 1) hl (by omega) hv5 hv6) q2117 q2119 qs59 q226 q2120 dX6_read_128 rfl hT28 hy_x6_plain (by omega) (Nat.le_of_ble_eq_true rfl) rfl (Nat.le_of_ble_eq_true rfl) (by decide) (fun s31 k30 => ?_)
      exact x_vret (μ := mu_x6_read) (pc := 131) (a1 := ((.inl none, s31) : gR)) dX6_read_131 rfl rfl (gRel_E.1 _) trivial
    · refine x_aload_n (μ := mu_x6_read) (pc := 110) 0 dX6_read_110 rfl ?_
      refine x_iload (μ := mu_x6_read) (pc := 111) 2 dX6_read_111 rfl ?_
      refine x_iconst (μ := mu_x6_read) (pc := 113) dX6_read_113 ?_
      refine x_iadd (μ := mu_x6_read) (pc := 114) dX6_read_114 ?_
      refine x_iload (μ := mu_x6_read) (pc := 115) 3 dX6_read_115 rfl ?_
      refine x_w2 ?_
      refine x_if (fun hT32 => ?_)
      refine x_callV_xv (μ := mu_x6_read) (pc := 117) (ok_x6_formula (ω := ω) (l := l) (d := d - 1) hl (by omega) (w32_rng _) hv6) q1787 q1789 qs28 q226 q1790 dX6_read_117 rfl hT32 hy_x6_formula (by omega) (Nat.le_of_ble_eq_true rfl) rfl (Nat.le_of_ble_eq_true rfl) (by decide) (fun s35 k34 => ?_)
      refine x_goto (μ := mu_x6_read) (pc := 120) (tgt := 131) dX6_read_120 rfl ?_
      exact x_vret (μ := mu_x6_read) (pc := 131) (a1 := ((.inl none, s35) : gR)) dX6_read_131 rfl rfl (gRel_E.1 _) trivial
  · exact x_vret (μ := mu_x6_read) (pc := 100) (a1 := ((.inl none, s) : gR)) dX6_read_100 rfl rfl (gRel_E.1 _) trivial
def x6_read (N : Nat) (v0 : Nat) (v1 : Nat) (v2 : Int) (v3 : Nat) (v4 : Int) (σ : gMem) : Option gR := if mT σ v0 = 6 then gLet (wR σ v0 3 v1) (fun s2 => gLet (wI s2 v0 4 v2) (fun s4 => gLet (wI s4 v0 5 v2) (fun s6 => gLet (wR s6 v0 2 v3) (fun s8 => gLet (wI s8 v0 1 v4) (fun s10 => gLet (wI s10 v0 12 0) (fun s12 => gLet (wI s12 v0 13 (-1)) (fun s14 => gLet (wR s14 v0 16 0) (fun s16 => x6_read_l47 N v0 v1 v2 (fun y20 s21 => x6_read_l69 N v0 v1 y20 (fun y24 s25 => x6_read_j93 N v0 v1 y20 y24  s25) N v2 s21) N 0 s16)))))))) else none
set_option maxRecDepth 100000 in
theorem ok_x6_read {ω : gW} {l : Launch} {d : Nat} {N : Nat} {σ : gMem} {v0 : Nat} {v1 : Nat} {v2 : Int} {v3 : Nat} {v4 : Int} (hl : l.stackTraces = false) (hdp : 238 ≤ d) (hv2 : g32 v2) (hv4 : g32 v4) : gK (fun p : gR => p) gE ω l d mu_x6_read [vR v0, vR v1, vI v2, vR v3, vI v4] σ (x6_read N v0 v1 v2 v3 v4 σ) := by
  refine gK.of hp_X6 (Nat.le_of_ble_eq_true rfl) ?_
  unfold x6_read
  refine x_aload_n (μ := mu_x6_read) (pc := 0) 0 dX6_read_0 rfl ?_
  refine x_aload_n (μ := mu_x6_read) (pc := 1) 1 dX6_read_1 rfl ?_
  refine x_if (fun hT1 => ?_)
  refine x_fpr (μ := mu_x6_read) (pc := 2) fX6_3 q484 (by first | exact Or.inl ⟨_, rfl⟩ | exact Or.inr ⟨_, rfl⟩) dX6_read_2 hT1 (fun _ q => gE_wR q) ?_
  refine x_let (fun s2 e3 => ?_)
  refine x_aload_n (μ := mu_x6_read) (pc := 5) 0 dX6_read_5 rfl ?_
  refine x_iload_n (μ := mu_x6_read) (pc := 6) 2 dX6_read_6 rfl ?_
  refine x_fpi (μ := mu_x6_read) (pc := 7) fX6_4 q485 dX6_read_7 (gT_R e3 hT1) (fun _ q => gE_wI q) ?_
  refine x_let (fun s4 e5 => ?_)
  refine x_aload_n (μ := mu_x6_read) (pc := 10) 0 dX6_read_10 rfl ?_
  refine x_iload_n (μ := mu_x6_read) (pc := 11) 2 dX6_read_11 rfl ?_
  refine x_fpi (μ := mu_x6_read) (pc := 12) fX6_5 q486 dX6_read_12 (gT_I e5 (gT_R e3 hT1)) (fun _ q => gE_wI q) ?_
  refine x_let (fun s6 e7 => ?_)
  refine x_aload_n (μ := mu_x6_read) (pc := 15) 0 dX6_read_15 rfl ?_
  refine x_aload_n (μ := mu_x6_read) (pc := 16) 3 dX6_read_16 rfl ?_
  refine x_fpr (μ := mu_x6_read) (pc := 17) fX6_2 q483 (by first | exact Or.inl ⟨_, rfl⟩ | exact Or.inr ⟨_, rfl⟩) dX6_read_17 (gT_I e7 (gT_I e5 (gT_R e3 hT1))) (fun _ q => gE_wR q) ?_
  refine x_let (fun s8 e9 => ?_)
  refine x_aload_n (μ := mu_x6_read) (pc := 20) 0 dX6_read_20 rfl ?_
  refine x_iload (μ := mu_x6_read) (pc := 21) 4 dX6_read_21 rfl ?_
  refine x_fpi (μ := mu_x6_read) (pc := 23) fX6_1 q482 dX6_read_23 (gT_R e9 (gT_I e7 (gT_I e5 (gT_R e3 hT1)))) (fun _ q => gE_wI q) ?_
  refine x_let (fun s10 e11 => ?_)
  refine x_aload_n (μ := mu_x6_read) (pc := 26) 0 dX6_read_26 rfl ?_
  refine x_iconst (μ := mu_x6_read) (pc := 27) dX6_read_27 ?_
  refine x_fpi (μ := mu_x6_read) (pc := 28) fX6_12 q493 dX6_read_28 (gT_I e11 (gT_R e9 (gT_I e7 (gT_I e5 (gT_R e3 hT1))))) (fun _ q => gE_wI q) ?_
  refine x_let (fun s12 e13 => ?_)
  refine x_aload_n (μ := mu_x6_read) (pc := 31) 0 dX6_read_31 rfl ?_
  refine x_iconst (μ := mu_x6_read) (pc := 32) dX6_read_32 ?_
  refine x_fpi (μ := mu_x6_read) (pc := 33) fX6_13 q495 dX6_read_33 (gT_I e13 (gT_I e11 (gT_R e9 (gT_I e7 (gT_I e5 (gT_R e3 hT1)))))) (fun _ q => gE_wI q) ?_
  refine x_let (fun s14 e15 => ?_)
  refine x_aload_n (μ := mu_x6_read) (pc := 36) 0 dX6_read_36 rfl ?_
  refine x_null (μ := mu_x6_read) (pc := 37) dX6_read_37 ?_
  refine x_fpr (μ := mu_x6_read) (pc := 38) fX6_16 q499 (by first | exact Or.inl ⟨_, rfl⟩ | exact Or.inr ⟨_, rfl⟩) dX6_read_38 (gT_I e15 (gT_I e13 (gT_I e11 (gT_R e9 (gT_I e7 (gT_I e5 (gT_R e3 hT1))))))) (fun _ q => gE_wR q) ?_
  refine x_let (fun s16 e17 => ?_)
  refine x_iconst (μ := mu_x6_read) (pc := 41) dX6_read_41 ?_
  refine x_istore (μ := mu_x6_read) (pc := 42) (lv' := [(5, vI 0), (0, vR v0), (1, vR v1), (2, vI v2), (3, vR v3), (4, vI v4)]) dX6_read_42 (by decide) rfl ?_
  refine x_iload_n (μ := mu_x6_read) (pc := 44) 3 dX6_read_44 rfl ?_
  refine x_istore (μ := mu_x6_read) (pc := 45) (lv' := [(6, vI v2), (5, vI 0), (0, vR v0), (1, vR v1), (2, vI v2), (3, vR v3), (4, vI v4)]) dX6_read_45 (by decide) rfl ?_
  refine x_loc (lv' := [(0, vR v0), (1, vR v1), (5, vI 0), (6, vI v2)]) [2, 3, 1, 0] rfl ?_
  refine okl_x6_read_l47 hl hdp hv2 (fun y20 s21 hy20 => ?_) N 0 s16 (by decide)
  refine okl_x6_read_l69 hl hdp hy20 (fun y24 s25 hy24 => ?_) N v2 s21 hv2
  exact okj_x6_read_j93 hl hdp hy20 hy24
def x1_enter_j124 (N : Nat) (v0 : Nat) (v1 : Int) (v2 : Int) (v4 : Nat) (t0 : Int) (s : gMem) : Option gR := if mT s v0 = 1 then if w32 ((mI s v0 17) + t0) ≤ 60000 then gLet (wI s v0 17 (w32 ((mI s v0 17) + t0))) (fun s27 => (x1_step N v0 s27).bind (fun x29 => if mT x29 (mR x29 v0 8) = 8 then if mT x29 (mR x29 (mR x29 v0 8) 2) = 111 then if 0 ≤ (v1 - 1) ∧ (v1 - 1) < (mN x29 (mR x29 (mR x29 v0 8) 2) : Int) then if mT x29 (mR x29 (mR x29 (mR x29 v0 8) 2) (v1 - 1).toNat) = 110 then if v4 = 0 ∨ gAsg 10 (mT x29 v4) = true then if 0 ≤ (v2 - 1) ∧ (v2 - 1) < (mN x29 (mR x29 (mR x29 (mR x29 v0 8) 2) (v1 - 1).toNat) : Int) then gLet (wR x29 (mR x29 (mR x29 (mR x29 v0 8) 2) (v1 - 1).toNat) (v2 - 1).toNat v4) (fun s35 => some (.inl (some (vI t0)), s35)) else none else none else none else none else none else none)) else some (.inr "java/lang/UnsupportedOperationException", wX s 6) else none
set_option maxRecDepth 100000 in
theorem okj_x1_enter_j124 {ω : gW} {l : Launch} {d : Nat} {N : Nat} {σ0 : gMem} {s : gMem} {v0 : Nat} {v1 : Int} {v2 : Int} {v4 : Nat} {t0 : Int} (hl : l.stackTraces = false) (hdp : 239 ≤ d) (hv1 : g32 v1) (hv2 : g32 v2) (ht0 : g32 t0) : GG (fun p : gR => p) gE ω l d mu_x1_enter σ0 124 [(0, vR v0), (1, vI v1), (2, vI v2), (4, vR v4)] [vI t0] s (x1_enter_j124 N v0 v1 v2 v4 t0 s) := by
  unfold x1_enter_j124
  refine x_istore (μ := mu_x1_enter) (pc := 124) (lv' := [(5, vI t0), (0, vR v0), (1, vI v1), (2, vI v2), (4, vR v4)]) dX1_enter_124 (by decide) rfl ?_
  refine x_aload_n (μ := mu_x1_enter) (pc := 126) 1 dX1_enter_126 rfl ?_
  refine x_if (fun hT24 => ?_)
  refine x_fgi (μ := mu_x1_enter) (pc := 127) fX1_17 q662 dX1_enter_127 hT24 (fun hr25 => ?_)
  refine x_iload (μ := mu_x1_enter) (pc := 130) 0 dX1_enter_130 rfl ?_
  refine x_iadd (μ := mu_x1_enter) (pc := 132) dX1_enter_132 ?_
  refine x_ldcw (μ := mu_x1_enter) (pc := 133) (n := 60000) dX1_enter_133 q2160 ?_
  refine x_w2 ?_
  refine x_icmp_le (μ := mu_x1_enter) (pc := 136) (tgt := 147) dX1_enter_136 rfl (w32_rng _) (by decide) ?_ ?_
  · refine x_aload_n (μ := mu_x1_enter) (pc := 147) 1 dX1_enter_147 rfl ?_
    refine x_dup (μ := mu_x1_enter) (pc := 148) dX1_enter_148 rfl ?_
    refine x_fgi (μ := mu_x1_enter) (pc := 149) fX1_17 q662 dX1_enter_149 hT24 (fun hr26 => ?_)
    refine x_iload (μ := mu_x1_enter) (pc := 152) 0 dX1_enter_152 rfl ?_
    refine x_iadd (μ := mu_x1_enter) (pc := 154) dX1_enter_154 ?_
    refine x_w1 ?_
    refine x_fpi (μ := mu_x1_enter) (pc := 155) fX1_17 q662 dX1_enter_155 hT24 (fun _ q => gE_wI q) ?_
    refine x_let (fun s27 e28 => ?_)
    refine x_aload_n (μ := mu_x1_enter) (pc := 158) 1 dX1_enter_158 rfl ?_
    refine x_callV_mv (μ := mu_x1_enter) (pc := 159) (ok_x1_step (ω := ω) (l := l) (d := d - 1) hl (by omega) ) gRel_E gRel_E (fun _ q => q) q2176 q2178 qs60 q221 q2179 dX1_enter_159 rfl (gT_I e28 hT24) hy_x1_step (by omega) (Nat.le_of_ble_eq_true rfl) rfl (Nat.le_of_ble_eq_true rfl) (fun x29 k30 => ?_)
    refine x_aload_n (μ := mu_x1_enter) (pc := 162) 1 dX1_enter_162 rfl ?_
    refine x_fgr (μ := mu_x1_enter) (pc := 163) fX1_8 (by first | exact Or.inl ⟨_, rfl⟩ | exact Or.inr ⟨_, rfl⟩) q653 dX1_enter_163 (gT_E k30 (gT_I e28 hT24) (by decide)) ?_
    refine x_if (fun hT31 => ?_)
    refine x_fgrN (μ := mu_x1_enter) (pc := 166) fX9_2 (by first | exact Or.inl ⟨_, rfl⟩ | exact Or.inr ⟨_, rfl⟩) q582 dX1_enter_166 hT31 ?_
    refine x_iload_n (μ := mu_x1_enter) (pc := 169) 2 dX1_enter_169 rfl ?_
    refine x_iconst (μ := mu_x1_enter) (pc := 170) dX1_enter_170 ?_
    refine x_isub (μ := mu_x1_enter) (pc := 171) dX1_enter_171 ?_
    refine x_if (fun hT32 => ?_)
    refine x_aald (μ := mu_x1_enter) (pc := 172) 11 (fun _ => rfl) rfl rfl dX1_enter_172 hT32 rfl ?_
    refine x_iload_n (μ := mu_x1_enter) (pc := 173) 3 dX1_enter_173 rfl ?_
    refine x_iconst (μ := mu_x1_enter) (pc := 174) dX1_enter_174 ?_
    refine x_isub (μ := mu_x1_enter) (pc := 175) dX1_enter_175 ?_
    refine x_aload (μ := mu_x1_enter) (pc := 176) 4 dX1_enter_176 rfl ?_
    refine x_if (fun hT33 => ?_)
    refine x_if (fun hz34 => ?_)
    refine x_aast (μ := mu_x1_enter) (pc := 178) 10 ⟨fun _ => rfl, rfl, rfl⟩ dX1_enter_178 hT33 rfl hz34 (fun _ _ q => gE_wR q) ?_
    refine x_let (fun s35 e36 => ?_)
    refine x_iload (μ := mu_x1_enter) (pc := 179) 0 dX1_enter_179 rfl ?_
    exact x_iret (μ := mu_x1_enter) (pc := 181) (a1 := ((.inl (some (vI t0)), s35) : gR)) dX1_enter_181 rfl rfl (gRel_E.1 _) (show g32 t0 from ht0)
  · exact x_throw0 (μ := mu_x1_enter) (pc := 139) hl gex_UnsupportedOperationException (by decide) rfl q2161 q258 dX1_enter_139 dX1_enter_142 dX1_enter_143 dX1_enter_146 (by decide) (by omega) (Nat.le_of_ble_eq_true rfl)
def x1_enter (N : Nat) (v0 : Nat) (v1 : Int) (v2 : Int) (σ : gMem) : Option gR := if mT σ v0 = 1 then if mT σ (mR σ v0 8) = 8 then (x9_has (mR σ v0 8) (w32 (v1 - 1)) (w32 (v2 - 1)) σ).bind (fun x3 => if x3 ≠ 0 then gLet (wI σ v0 1 0) (fun s6 => gLet (wI s6 v0 2 0) (fun s8 => gLet (wI s8 v0 3 (-1)) (fun s10 => if mT s10 (mR s10 v0 24) = 6 then (x6_read N (mR s10 v0 24) (mR s10 v0 0) (mI σ v0 1) (mR s10 v0 8) (mI s10 v0 5) s10).bind (fun p => gTryV p (fun s16 => if mT s16 (mR s16 v0 24) = 6 then if mR s16 (mR s16 v0 24) 16 ≠ 0 then (dp_Content_parts (mR s16 (mR s16 v0 24) 16) s16).bind (fun x22 => x1_enter_j124 N v0 v1 v2 (mR s16 (mR s16 v0 24) 16) x22 s16) else x1_enter_j124 N v0 v1 v2 (mR s16 (mR s16 v0 24) 16) 0 s16 else none) (fun E17 s18 => if E17 = "SheetBranches$Wrong" then if mT s18 (mR s18 v0 24) = 6 then gLet (wI s18 v0 2 (mI s18 (mR s18 v0 24) 12)) (fun s40 => if mT s40 (mR s40 v0 24) = 6 then gLet (wI s40 v0 3 (mI s40 (mR s40 v0 24) 13)) (fun s44 => some (.inr "java/lang/IllegalArgumentException", wX s44 6)) else none) else none else none)) else none))) else some (.inr "java/lang/IndexOutOfBoundsException", wX σ 6)) else none else none
set_option maxRecDepth 100000 in
theorem ok_x1_enter {ω : gW} {l : Launch} {d : Nat} {N : Nat} {σ : gMem} {v0 : Nat} {v1 : Int} {v2 : Int} (hl : l.stackTraces = false) (hdp : 239 ≤ d) (hv1 : g32 v1) (hv2 : g32 v2) : gK (fun p : gR => p) gE ω l d mu_x1_enter [vR v0, vI v1, vI v2] σ (x1_enter N v0 v1 v2 σ) := by
  refine gK.ofH hp_X1 (Nat.le_of_ble_eq_true rfl) ?_
  unfold x1_enter
  refine x_aload_n (μ := mu_x1_enter) (pc := 0) 0 dX1_enter_0 rfl ?_
  refine x_if (fun hT1 => ?_)
  refine x_fgr (μ := mu_x1_enter) (pc := 1) fX1_8 (by first | exact Or.inl ⟨_, rfl⟩ | exact Or.inr ⟨_, rfl⟩) q653 dX1_enter_1 hT1 ?_
  refine x_iload_n (μ := mu_x1_enter) (pc := 4) 1 dX1_enter_4 rfl ?_
  refine x_iconst (μ := mu_x1_enter) (pc := 5) dX1_enter_5 ?_
  refine x_isub (μ := mu_x1_enter) (pc := 6) dX1_enter_6 ?_
  refine x_iload_n (μ := mu_x1_enter) (pc := 7) 2 dX1_enter_7 rfl ?_
  refine x_iconst (μ := mu_x1_enter) (pc := 8) dX1_enter_8 ?_
  refine x_isub (μ := mu_x1_enter) (pc := 9) dX1_enter_9 ?_
  refine x_w1 ?_
  refine x_w2 ?_
  refine x_if (fun hT2 => ?_)
  refine x_callV_pi (μ := mu_x1_enter) (pc := 10) (ok_x9_has (ω := ω) (l := l) (d := d - 1) hl (by omega) (w32_rng _) (w32_rng _)) gRel_E gRel_E (fun _ q => q) q820 q821 q822 q230 q823 dX1_enter_10 rfl hT2 hy_x9_has (by omega) (Nat.le_of_ble_eq_true rfl) rfl (Nat.le_of_ble_eq_true rfl) (fun x3 hr4 => ?_)
  refine x_if_ne (μ := mu_x1_enter) (pc := 13) (tgt := 24) dX1_enter_13 rfl hr4 ?_ ?_
  · refine x_aload_n (μ := mu_x1_enter) (pc := 24) 0 dX1_enter_24 rfl ?_
    refine x_fgi (μ := mu_x1_enter) (pc := 25) fX1_1 q646 dX1_enter_25 hT1 (fun hr5 => ?_)
    refine x_istore_n (μ := mu_x1_enter) (pc := 28) (lv' := [(3, vI (mI σ v0 1)), (0, vR v0), (1, vI v1), (2, vI v2)]) dX1_enter_28 rfl (by decide) rfl ?_
    refine x_aload_n (μ := mu_x1_enter) (pc := 29) 1 dX1_enter_29 rfl ?_
    refine x_iconst (μ := mu_x1_enter) (pc := 30) dX1_enter_30 ?_
    refine x_fpi (μ := mu_x1_enter) (pc := 31) fX1_1 q646 dX1_enter_31 hT1 (fun _ q => gE_wI q) ?_
    refine x_let (fun s6 e7 => ?_)
    refine x_aload_n (μ := mu_x1_enter) (pc := 34) 1 dX1_enter_34 rfl ?_
    refine x_iconst (μ := mu_x1_enter) (pc := 35) dX1_enter_35 ?_
    refine x_fpi (μ := mu_x1_enter) (pc := 36) fX1_2 q647 dX1_enter_36 (gT_I e7 hT1) (fun _ q => gE_wI q) ?_
    refine x_let (fun s8 e9 => ?_)
    refine x_aload_n (μ := mu_x1_enter) (pc := 39) 1 dX1_enter_39 rfl ?_
    refine x_iconst (μ := mu_x1_enter) (pc := 40) dX1_enter_40 ?_
    refine x_fpi (μ := mu_x1_enter) (pc := 41) fX1_3 q648 dX1_enter_41 (gT_I e9 (gT_I e7 hT1)) (fun _ q => gE_wI q) ?_
    refine x_let (fun s10 e11 => ?_)
    refine x_aload_n (μ := mu_x1_enter) (pc := 44) 1 dX1_enter_44 rfl ?_
    refine x_fgr (μ := mu_x1_enter) (pc := 45) fX1_24 (by first | exact Or.inl ⟨_, rfl⟩ | exact Or.inr ⟨_, rfl⟩) q669 dX1_enter_45 (gT_I e11 (gT_I e9 (gT_I e7 hT1))) ?_
    refine x_aload_n (μ := mu_x1_enter) (pc := 48) 1 dX1_enter_48 rfl ?_
    refine x_fgr (μ := mu_x1_enter) (pc := 49) fX1_0 (by first | exact Or.inl ⟨_, rfl⟩ | exact Or.inr ⟨_, rfl⟩) q645 dX1_enter_49 (gT_I e11 (gT_I e9 (gT_I e7 hT1))) ?_
    refine x_iload_n (μ := mu_x1_enter) (pc := 52) 0 dX1_enter_52 rfl ?_
    refine x_aload_n (μ := mu_x1_enter) (pc := 53) 1 dX1_enter_53 rfl ?_
    refine x_fgr (μ := mu_x1_enter) (pc := 54) fX1_8 (by first | exact Or.inl ⟨_, rfl⟩ | exact Or.inr ⟨_, rfl⟩) q653 dX1_enter_54 (gT_I e11 (gT_I e9 (gT_I e7 hT1))) ?_
    refine x_aload_n (μ := mu_x1_enter) (pc := 57) 1 dX1_enter_57 rfl ?_
    refine x_fgi (μ := mu_x1_enter) (pc := 58) fX1_5 q650 dX1_enter_58 (gT_I e11 (gT_I e9 (gT_I e7 hT1))) (fun hr12 => ?_)
    refine x_if (fun hT13 => ?_)
    refine x_callV_tv (μ := mu_x1_enter) (pc := 61) (ok_x6_read (ω := ω) (l := l) (d := d - 1) hl (by omega) hr5 hr12) q1783 q1784 q1785 q226 q1786 dX1_enter_61 rfl hT13 hy_x6_read (by omega) (Nat.le_of_ble_eq_true rfl) rfl (Nat.le_of_ble_eq_true rfl) (fun s16 k15 => ?_) (fun E17 s18 k20 => ?_)
    · refine x_goto (μ := mu_x1_enter) (pc := 64) (tgt := 99) dX1_enter_64 rfl ?_
      refine x_aload_n (μ := mu_x1_enter) (pc := 99) 1 dX1_enter_99 rfl ?_
      refine x_fgr (μ := mu_x1_enter) (pc := 100) fX1_24 (by first | exact Or.inl ⟨_, rfl⟩ | exact Or.inr ⟨_, rfl⟩) q669 dX1_enter_100 (gT_E k15 (gT_I e11 (gT_I e9 (gT_I e7 hT1))) (by decide)) ?_
      refine x_if (fun hT21 => ?_)
      refine x_fgrN (μ := mu_x1_enter) (pc := 103) fX6_16 (by first | exact Or.inl ⟨_, rfl⟩ | exact Or.inr ⟨_, rfl⟩) q500 dX1_enter_103 hT21 ?_
      refine x_astore (μ := mu_x1_enter) (pc := 106) (lv' := [(4, vR (mR s16 (mR s16 v0 24) 16)), (3, vI (mI σ v0 1)), (0, vR v0), (1, vI v1), (2, vI v2)]) dX1_enter_106 (by decide) rfl ?_
      refine x_aload (μ := mu_x1_enter) (pc := 108) 0 dX1_enter_108 rfl ?_
      refine x_ifnonnull (μ := mu_x1_enter) (pc := 110) (tgt := 117) dX1_enter_110 rfl ?_ ?_
      · refine x_aload (μ := mu_x1_enter) (pc := 117) 0 dX1_enter_117 rfl ?_
        refine x_callF_pi (μ := mu_x1_enter) (pc := 119) (ok_dp_Content_parts (ω := ω) (l := l) (d := d - 1) hl (mR s16 (mR s16 v0 24) 16) s16 (by omega)) gRel_E gRel_E (fun _ q => q) q2137 dX1_enter_119 iy_Content_parts_hy (by omega) rfl (Nat.le_of_ble_eq_true rfl) (fun x22 hr23 => ?_)
        refine x_loc (lv' := [(0, vR v0), (1, vI v1), (2, vI v2), (4, vR (mR s16 (mR s16 v0 24) 16))]) [2, 3, 4, 0] rfl ?_
        exact okj_x1_enter_j124 hl hdp hv1 hv2 hr23
      · refine x_iconst (μ := mu_x1_enter) (pc := 113) dX1_enter_113 ?_
        refine x_goto (μ := mu_x1_enter) (pc := 114) (tgt := 124) dX1_enter_114 rfl ?_
        refine x_loc (lv' := [(0, vR v0), (1, vI v1), (2, vI v2), (4, vR (mR s16 (mR s16 v0 24) 16))]) [2, 3, 4, 0] rfl ?_
        exact okj_x1_enter_j124 hl hdp hv1 hv2 (by decide)
    · refine x_eqE "SheetBranches$Wrong" (fun _ => ?_) (fun _ => ?_)
      · refine x_catch0 (pc := 61) (tgt := 67) rfl  q1761 q1837 (by decide) (fun q37 => ?_)
        refine x_astore (μ := mu_x1_enter) (pc := 67) (lv' := [(4, vR q37), (3, vI (mI σ v0 1)), (0, vR v0), (1, vI v1), (2, vI v2)]) dX1_enter_67 (by decide) rfl ?_
        refine x_aload_n (μ := mu_x1_enter) (pc := 69) 2 dX1_enter_69 rfl ?_
        refine x_aload_n (μ := mu_x1_enter) (pc := 70) 2 dX1_enter_70 rfl ?_
        refine x_fgr (μ := mu_x1_enter) (pc := 71) fX1_24 (by first | exact Or.inl ⟨_, rfl⟩ | exact Or.inr ⟨_, rfl⟩) q669 dX1_enter_71 (gT_E k20 (gT_I e11 (gT_I e9 (gT_I e7 hT1))) (by decide)) ?_
        refine x_if (fun hT38 => ?_)
        refine x_fgiN (μ := mu_x1_enter) (pc := 74) fX6_12 q494 dX1_enter_74 hT38 (fun hr39 => ?_)
        refine x_fpi (μ := mu_x1_enter) (pc := 77) fX1_2 q647 dX1_enter_77 (gT_E k20 (gT_I e11 (gT_I e9 (gT_I e7 hT1))) (by decide)) (fun _ q => gE_wI q) ?_
        refine x_let (fun s40 e41 => ?_)
        refine x_aload_n (μ := mu_x1_enter) (pc := 80) 2 dX1_enter_80 rfl ?_
        refine x_aload_n (μ := mu_x1_enter) (pc := 81) 2 dX1_enter_81 rfl ?_
        refine x_fgr (μ := mu_x1_enter) (pc := 82) fX1_24 (by first | exact Or.inl ⟨_, rfl⟩ | exact Or.inr ⟨_, rfl⟩) q669 dX1_enter_82 (gT_I e41 (gT_E k20 (gT_I e11 (gT_I e9 (gT_I e7 hT1))) (by decide))) ?_
        refine x_if (fun hT42 => ?_)
        refine x_fgiN (μ := mu_x1_enter) (pc := 85) fX6_13 q496 dX1_enter_85 hT42 (fun hr43 => ?_)
        refine x_fpi (μ := mu_x1_enter) (pc := 88) fX1_3 q648 dX1_enter_88 (gT_I e41 (gT_E k20 (gT_I e11 (gT_I e9 (gT_I e7 hT1))) (by decide))) (fun _ q => gE_wI q) ?_
        refine x_let (fun s44 e45 => ?_)
        exact x_throw0 (μ := mu_x1_enter) (pc := 91) hl gex_IllegalArgumentException (by decide) rfl q2121 q257 dX1_enter_91 dX1_enter_94 dX1_enter_95 dX1_enter_98 (by decide) (by omega) (Nat.le_of_ble_eq_true rfl)
      exact x_xnone
  · exact x_throw0 (μ := mu_x1_enter) (pc := 16) hl gex_IndexOutOfBoundsException (by decide) rfl q1762 q236 dX1_enter_16 dX1_enter_19 dX1_enter_20 dX1_enter_23 (by decide) (by omega) (Nat.le_of_ble_eq_true rfl)
def x0_enter (N : Nat) (v0 : Nat) (v1 : Int) (v2 : Int) (v3 : Nat) (σ : gMem) : Option (Int × gMem) := if mT σ v0 = 1 then (x1_enter N v0 v1 v2 σ).bind (fun p => gTryI p (fun x2 s5 => if mT s5 v3 = 101 then if 0 ≤ (0 : Int) ∧ (0 : Int) < (mN s5 v3 : Int) then gLet (wL s5 v3 (0 : Int).toNat x2) (fun s11 => some (0, s11)) else none else none) (fun E6 s7 => if E6 = "java/lang/IndexOutOfBoundsException" then some (1, s7) else if E6 = "java/lang/IllegalArgumentException" then some (2, s7) else if E6 = "java/lang/UnsupportedOperationException" then some (3, s7) else none)) else none
set_option maxRecDepth 100000 in
theorem ok_x0_enter {ω : gW} {l : Launch} {d : Nat} {N : Nat} {σ : gMem} {v0 : Nat} {v1 : Int} {v2 : Int} {v3 : Nat} (hl : l.stackTraces = false) (hdp : 240 ≤ d) (hv1 : g32 v1) (hv2 : g32 v2) : gK (fun p : Int × gMem => (.inl (some (vI p.1)), p.2)) gE ω l d mu_x0_enter [vR v0, vI v1, vI v2, vR v3] σ (x0_enter N v0 v1 v2 v3 σ) := by
  refine gK.ofH hp_X0 (Nat.le_of_ble_eq_true rfl) ?_
  unfold x0_enter
  refine x_aload_n (μ := mu_x0_enter) (pc := 0) 3 dX0_enter_0 rfl ?_
  refine x_iconst (μ := mu_x0_enter) (pc := 1) dX0_enter_1 ?_
  refine x_aload_n (μ := mu_x0_enter) (pc := 2) 0 dX0_enter_2 rfl ?_
  refine x_iload_n (μ := mu_x0_enter) (pc := 3) 1 dX0_enter_3 rfl ?_
  refine x_iload_n (μ := mu_x0_enter) (pc := 4) 2 dX0_enter_4 rfl ?_
  refine x_if (fun hT1 => ?_)
  refine x_callVW_ti (μ := mu_x0_enter) (pc := 5) (ok_x1_enter (ω := ω) (l := l) (d := d - 1) hl (by omega) hv1 hv2) q1757 q1758 q1759 q221 q1760 dX0_enter_5 rfl hT1 hy_x1_enter (by omega) (Nat.le_of_ble_eq_true rfl) rfl (Nat.le_of_ble_eq_true rfl) (fun x2 s5 k4 hr3 => ?_) (fun E6 s7 k9 => ?_)
  · refine x_i2l (μ := mu_x0_enter) (pc := 8) dX0_enter_8 hr3 ?_
    refine x_if (fun hT10 => ?_)
    refine x_last (μ := mu_x0_enter) (pc := 9) dX0_enter_9 hT10 rfl (fun _ _ q => gE_wL q) ?_
    refine x_let (fun s11 e12 => ?_)
    refine x_goto (μ := mu_x0_enter) (pc := 10) (tgt := 25) dX0_enter_10 rfl ?_
    refine x_iconst (μ := mu_x0_enter) (pc := 25) dX0_enter_25 ?_
    exact x_iret (μ := mu_x0_enter) (pc := 26) dX0_enter_26 rfl rfl (gRel_E.1 _) (show g32 0 from (by decide))
  · refine x_eqE "java/lang/IndexOutOfBoundsException" (fun _ => ?_) (fun _ => ?_)
    · refine x_catch0 (pc := 5) (tgt := 13) rfl  q1676 q1764 (by decide) (fun q13 => ?_)
      refine x_astore (μ := mu_x0_enter) (pc := 13) (lv' := [(4, vR q13), (0, vR v0), (1, vI v1), (2, vI v2), (3, vR v3)]) dX0_enter_13 (by decide) rfl ?_
      refine x_iconst (μ := mu_x0_enter) (pc := 15) dX0_enter_15 ?_
      exact x_iret (μ := mu_x0_enter) (pc := 16) dX0_enter_16 rfl rfl (gRel_E.1 _) (show g32 1 from (by decide))
    refine x_eqE "java/lang/IllegalArgumentException" (fun _ => ?_) (fun _ => ?_)
    · refine x_catch1 (pc := 5) (tgt := 17) rfl q1676 (by decide) q1755 q2123 (by decide) (fun q14 => ?_)
      refine x_astore (μ := mu_x0_enter) (pc := 17) (lv' := [(4, vR q14), (0, vR v0), (1, vI v1), (2, vI v2), (3, vR v3)]) dX0_enter_17 (by decide) rfl ?_
      refine x_iconst (μ := mu_x0_enter) (pc := 19) dX0_enter_19 ?_
      exact x_iret (μ := mu_x0_enter) (pc := 20) dX0_enter_20 rfl rfl (gRel_E.1 _) (show g32 2 from (by decide))
    refine x_eqE "java/lang/UnsupportedOperationException" (fun _ => ?_) (fun _ => ?_)
    · refine x_catch2 (pc := 5) (tgt := 21) rfl q1676 (by decide) q1755 (by decide) q1756 q2163 (by decide) (fun q15 => ?_)
      refine x_astore (μ := mu_x0_enter) (pc := 21) (lv' := [(4, vR q15), (0, vR v0), (1, vI v1), (2, vI v2), (3, vR v3)]) dX0_enter_21 (by decide) rfl ?_
      refine x_iconst (μ := mu_x0_enter) (pc := 23) dX0_enter_23 ?_
      exact x_iret (μ := mu_x0_enter) (pc := 24) dX0_enter_24 rfl rfl (gRel_E.1 _) (show g32 3 from (by decide))
    exact x_xnone
def l_law_l23_j1884 (N : Nat) (v0 : Nat) (v1 : Nat) (v2 : Nat) (v3 : Nat) (v4 : Int) (Kh : Int → gMem → Option (Int × gMem)) (K : gMem → Option (Int × gMem)) (s : gMem) : Option (Int × gMem) := Kh (w32 (v4 + 7)) s
set_option maxRecDepth 100000 in
theorem okj_l_law_l23_j1884 {ω : gW} {l : Launch} {d : Nat} {N : Nat} {σ0 : gMem} {s : gMem} {v0 : Nat} {v1 : Nat} {v2 : Nat} {v3 : Nat} {v4 : Int} {Kh : Int → gMem → Option (Int × gMem)} {K : gMem → Option (Int × gMem)} (hl : l.stackTraces = false) (hdp : 241 ≤ d) (hv4 : g32 v4) (hKh : ∀ (v4 : Int) (s : gMem) , g32 v4 → GG (fun p : Int × gMem => (.inl (some (vI p.1)), p.2)) gE ω l d mu_l_law σ0 23 [(0, vR v0), (1, vR v1), (2, vR v2), (3, vR v3), (4, vI v4)] [] s (Kh v4 s)) (hK : ∀ (s : gMem) , GG (fun p : Int × gMem => (.inl (some (vI p.1)), p.2)) gE ω l d mu_l_law σ0 1890 [] [] s (K s)) : GG (fun p : Int × gMem => (.inl (some (vI p.1)), p.2)) gE ω l d mu_l_law σ0 1884 [(0, vR v0), (1, vR v1), (2, vR v2), (3, vR v3), (4, vI v4)] [] s (l_law_l23_j1884 N v0 v1 v2 v3 v4 Kh K s) := by
  unfold l_law_l23_j1884
  refine x_iincw (μ := mu_l_law) (pc := 1884) (lv' := [(4, vI (w32 (v4 + 7))), (0, vR v0), (1, vR v1), (2, vR v2), (3, vR v3)]) 4 dL_law_1884 rfl (by decide) rfl ?_
  refine x_goto (μ := mu_l_law) (pc := 1887) (tgt := 23) dL_law_1887 rfl ?_
  refine x_loc (lv' := [(0, vR v0), (1, vR v1), (2, vR v2), (3, vR v3), (4, vI (w32 (v4 + 7)))]) [1, 2, 3, 4, 0] rfl ?_
  exact hKh (w32 (v4 + 7)) s (w32_rng _)
def l_law_l23_j865 (N : Nat) (v0 : Nat) (v1 : Nat) (v2 : Nat) (v3 : Nat) (v4 : Int) (v5 : Int) (t0 : Int) (t1 : Int) (t2 : Int) (t3 : Int) (t4 : Nat) (Kh : Int → gMem → Option (Int × gMem)) (K : gMem → Option (Int × gMem)) (s : gMem) : Option (Int × gMem) := if TMb s t4 = true then (tw_sort N t4 t3 t2 t1 t0 s).bind (fun x187 => if TMb (x187.2) v2 = true then (tw_thrown v2 (x187.2)).bind (fun x191 => if x191 = v5 then if v5 ≠ 0 then l_law_l23_j1884 N v0 v1 v2 v3 v4  (Kh) K (x187.2) else if mT (x187.2) v3 = 101 then if 0 ≤ (0 : Int) ∧ (0 : Int) < (mN (x187.2) v3 : Int) then if gcmp (mL (x187.2) v3 (0 : Int).toNat) (x187.1) = 0 then l_law_l23_j1884 N v0 v1 v2 v3 v4  (Kh) K (x187.2) else some (0, x187.2) else none else none else some (0, x187.2)) else none) else none
set_option maxRecDepth 100000 in
theorem okj_l_law_l23_j865 {ω : gW} {l : Launch} {d : Nat} {N : Nat} {σ0 : gMem} {s : gMem} {v0 : Nat} {v1 : Nat} {v2 : Nat} {v3 : Nat} {v4 : Int} {v5 : Int} {t0 : Int} {t1 : Int} {t2 : Int} {t3 : Int} {t4 : Nat} {Kh : Int → gMem → Option (Int × gMem)} {K : gMem → Option (Int × gMem)} (hl : l.stackTraces = false) (hdp : 241 ≤ d) (hv4 : g32 v4) (hv5 : g32 v5) (ht0 : g32 t0) (ht1 : g32 t1) (ht2 : g32 t2) (ht3 : g32 t3) (hKh : ∀ (v4 : Int) (s : gMem) , g32 v4 → GG (fun p : Int × gMem => (.inl (some (vI p.1)), p.2)) gE ω l d mu_l_law σ0 23 [(0, vR v0), (1, vR v1), (2, vR v2), (3, vR v3), (4, vI v4)] [] s (Kh v4 s)) (hK : ∀ (s : gMem) , GG (fun p : Int × gMem => (.inl (some (vI p.1)), p.2)) gE ω l d mu_l_law σ0 1890 [] [] s (K s)) : GG (fun p : Int × gMem => (.inl (some (vI p.1)), p.2)) gE ω l d mu_l_law σ0 865 [(0, vR v0), (1, vR v1), (2, vR v2), (3, vR v3), (4, vI v4), (5, vI v5)] [vI t0, vI t1, vI t2, vI t3, vR t4] s (l_law_l23_j865 N v0 v1 v2 v3 v4 v5 t0 t1 t2 t3 t4 Kh K s) := by
  unfold l_law_l23_j865
  refine x_if (fun hm186 => ?_)
  refine x_callV_mi (μ := mu_l_law) (pc := 865) (ok_tw_sort (ω := ω) (l := l) (d := d - 1) (by omega) (TMb_ok hm186) ht3 ht2 ht1 ht0) gRel_E gRel_Tw (fun _ q => gTw_E q) q3577 q3578 q3579 q232 q3580 dL_law_865 rfl (TMb_ok hm186).1 hy_tw_sort (by omega) (Nat.le_of_ble_eq_true rfl) rfl (Nat.le_of_ble_eq_true rfl) (fun x187 k189 hr188 => ?_)
  refine x_istore (μ := mu_l_law) (pc := 868) (lv' := [(6, vI (x187.1)), (0, vR v0), (1, vR v1), (2, vR v2), (3, vR v3), (4, vI v4), (5, vI v5)]) dL_law_868 (by decide) rfl ?_
  refine x_aload_n (μ := mu_l_law) (pc := 870) 3 dL_law_870 rfl ?_
  refine x_if (fun hm190 => ?_)
  refine x_callV_pi (μ := mu_l_law) (pc := 871) (ok_tw_thrown (ω := ω) (l := l) (d := d - 1) (by omega) (TMb_ok hm190) ) gRel_E gRel_Tw (fun _ q => gTw_E q) q2952 q2953 q2954 q232 q2955 dL_law_871 rfl (TMb_ok hm190).1 hy_tw_thrown (by omega) (Nat.le_of_ble_eq_true rfl) rfl (Nat.le_of_ble_eq_true rfl) (fun x191 hr192 => ?_)
  refine x_iload (μ := mu_l_law) (pc := 874) 6 dL_law_874 rfl ?_
  refine x_icmp_eq (μ := mu_l_law) (pc := 876) (tgt := 881) dL_law_876 rfl hr192 hv5 ?_ ?_
  · refine x_iload (μ := mu_l_law) (pc := 881) 6 dL_law_881 rfl ?_
    refine x_if_ne (μ := mu_l_law) (pc := 883) (tgt := 898) dL_law_883 rfl hv5 ?_ ?_
    · refine x_goto (μ := mu_l_law) (pc := 898) (tgt := 1884) dL_law_898 rfl ?_
      refine x_loc (lv' := [(0, vR v0), (1, vR v1), (2, vR v2), (3, vR v3), (4, vI v4)]) [1, 2, 3, 4, 5] rfl ?_
      exact okj_l_law_l23_j1884 hl hdp hv4 hKh hK
    · refine x_aload_n (μ := mu_l_law) (pc := 886) 4 dL_law_886 rfl ?_
      refine x_iconst (μ := mu_l_law) (pc := 887) dL_law_887 ?_
      refine x_if (fun hT193 => ?_)
      refine x_lald (μ := mu_l_law) (pc := 888) dL_law_888 hT193 rfl (fun hr194 => ?_)
      refine x_iload (μ := mu_l_law) (pc := 889) 0 dL_law_889 rfl ?_
      refine x_i2l (μ := mu_l_law) (pc := 891) dL_law_891 hr188 ?_
      refine x_lcmp (μ := mu_l_law) (pc := 892) dL_law_892 hr194 (g32_64 hr188) ?_
      refine x_if_eq (μ := mu_l_law) (pc := 893) (tgt := 898) dL_law_893 rfl (gcmp_rng _ _) ?_ ?_
      · refine x_goto (μ := mu_l_law) (pc := 898) (tgt := 1884) dL_law_898 rfl ?_
        refine x_loc (lv' := [(0, vR v0), (1, vR v1), (2, vR v2), (3, vR v3), (4, vI v4)]) [1, 2, 3, 4, 5] rfl ?_
        exact okj_l_law_l23_j1884 hl hdp hv4 hKh hK
      · refine x_iconst (μ := mu_l_law) (pc := 896) dL_law_896 ?_
        exact x_zret (μ := mu_l_law) (pc := 897) dL_law_897 rfl (by decide) rfl (gRel_E.1 _) (show g32 0 from (by decide))
  · refine x_iconst (μ := mu_l_law) (pc := 879) dL_law_879 ?_
    exact x_zret (μ := mu_l_law) (pc := 880) dL_law_880 rfl (by decide) rfl (gRel_E.1 _) (show g32 0 from (by decide))
def l_law_l23_j826 (N : Nat) (v0 : Nat) (v1 : Nat) (v2 : Nat) (v3 : Nat) (v4 : Int) (t0 : Int) (t1 : Int) (t2 : Int) (t3 : Int) (t4 : Nat) (Kh : Int → gMem → Option (Int × gMem)) (K : gMem → Option (Int × gMem)) (s : gMem) : Option (Int × gMem) := (x0_sort N t4 t3 t2 t1 t0 v3 s).bind (fun x178 => if mT (x178.2) v0 = 94 then if 0 ≤ (v4 + 1) ∧ (v4 + 1) < (mN (x178.2) v0 : Int) then if 0 ≤ (v4 + 2) ∧ (v4 + 2) < (mN (x178.2) v0 : Int) then if 0 ≤ (v4 + 3) ∧ (v4 + 3) < (mN (x178.2) v0 : Int) then if 0 ≤ (v4 + 4) ∧ (v4 + 4) < (mN (x178.2) v0 : Int) then if mI (x178.2) v0 (v4 + 4).toNat = 0 then l_law_l23_j865 N v0 v1 v2 v3 v4 (x178.1) 0 (mI (x178.2) v0 (v4 + 3).toNat) (mI (x178.2) v0 (v4 + 2).toNat) (mI (x178.2) v0 (v4 + 1).toNat) v2 (Kh) K (x178.2) else l_law_l23_j865 N v0 v1 v2 v3 v4 (x178.1) 1 (mI (x178.2) v0 (v4 + 3).toNat) (mI (x178.2) v0 (v4 + 2).toNat) (mI (x178.2) v0 (v4 + 1).toNat) v2 (Kh) K (x178.2) else none else none else none else none else none)
set_option maxRecDepth 100000 in
theorem okj_l_law_l23_j826 {ω : gW} {l : Launch} {d : Nat} {N : Nat} {σ0 : gMem} {s : gMem} {v0 : Nat} {v1 : Nat} {v2 : Nat} {v3 : Nat} {v4 : Int} {t0 : Int} {t1 : Int} {t2 : Int} {t3 : Int} {t4 : Nat} {Kh : Int → gMem → Option (Int × gMem)} {K : gMem → Option (Int × gMem)} (hl : l.stackTraces = false) (hdp : 241 ≤ d) (hv4 : g32 v4) (ht0 : g32 t0) (ht1 : g32 t1) (ht2 : g32 t2) (ht3 : g32 t3) (hKh : ∀ (v4 : Int) (s : gMem) , g32 v4 → GG (fun p : Int × gMem => (.inl (some (vI p.1)), p.2)) gE ω l d mu_l_law σ0 23 [(0, vR v0), (1, vR v1), (2, vR v2), (3, vR v3), (4, vI v4)] [] s (Kh v4 s)) (hK : ∀ (s : gMem) , GG (fun p : Int × gMem => (.inl (some (vI p.1)), p.2)) gE ω l d mu_l_law σ0 1890 [] [] s (K s)) : GG (fun p : Int × gMem => (.inl (some (vI p.1)), p.2)) gE ω l d mu_l_law σ0 826 [(0, vR v0), (1, vR v1), (2, vR v2), (3, vR v3), (4, vI v4)] [vI t0, vI t1, vI t2, vI t3, vR t4] s (l_law_l23_j826 N v0 v1 v2 v3 v4 t0 t1 t2 t3 t4 Kh K s) := by
  unfold l_law_l23_j826
  refine x_aload_n (μ := mu_l_law) (pc := 826) 3 dL_law_826 rfl ?_
  refine x_callSW_mi (μ := mu_l_law) (pc := 827) (ok_x0_sort (ω := ω) (l := l) (d := d - 1) hl (by omega) ht3 ht2 ht1 ht0) gRel_E gRel_E (fun _ q => q) q2371 q2372 q220 q2373 dL_law_827 hy_x0_sort (by omega) (Nat.le_of_ble_eq_true rfl) rfl (Nat.le_of_ble_eq_true rfl) (fun x178 k180 hr179 => ?_)
  refine x_istore (μ := mu_l_law) (pc := 830) (lv' := [(5, vI (x178.1)), (0, vR v0), (1, vR v1), (2, vR v2), (3, vR v3), (4, vI v4)]) dL_law_830 (by decide) rfl ?_
  refine x_aload_n (μ := mu_l_law) (pc := 832) 3 dL_law_832 rfl ?_
  refine x_aload_n (μ := mu_l_law) (pc := 833) 1 dL_law_833 rfl ?_
  refine x_iload (μ := mu_l_law) (pc := 834) 5 dL_law_834 rfl ?_
  refine x_iconst (μ := mu_l_law) (pc := 836) dL_law_836 ?_
  refine x_iadd (μ := mu_l_law) (pc := 837) dL_law_837 ?_
  refine x_if (fun hT181 => ?_)
  refine x_scald (μ := mu_l_law) (pc := 838) dL_law_838 hT181 (fun hr182 => ?_)
  refine x_aload_n (μ := mu_l_law) (pc := 839) 1 dL_law_839 rfl ?_
  refine x_iload (μ := mu_l_law) (pc := 840) 5 dL_law_840 rfl ?_
  refine x_iconst (μ := mu_l_law) (pc := 842) dL_law_842 ?_
  refine x_iadd (μ := mu_l_law) (pc := 843) dL_law_843 ?_
  refine x_scald (μ := mu_l_law) (pc := 844) dL_law_844 hT181 (fun hr183 => ?_)
  refine x_aload_n (μ := mu_l_law) (pc := 845) 1 dL_law_845 rfl ?_
  refine x_iload (μ := mu_l_law) (pc := 846) 5 dL_law_846 rfl ?_
  refine x_iconst (μ := mu_l_law) (pc := 848) dL_law_848 ?_
  refine x_iadd (μ := mu_l_law) (pc := 849) dL_law_849 ?_
  refine x_scald (μ := mu_l_law) (pc := 850) dL_law_850 hT181 (fun hr184 => ?_)
  refine x_aload_n (μ := mu_l_law) (pc := 851) 1 dL_law_851 rfl ?_
  refine x_iload (μ := mu_l_law) (pc := 852) 5 dL_law_852 rfl ?_
  refine x_iconst (μ := mu_l_law) (pc := 854) dL_law_854 ?_
  refine x_iadd (μ := mu_l_law) (pc := 855) dL_law_855 ?_
  refine x_scald (μ := mu_l_law) (pc := 856) dL_law_856 hT181 (fun hr185 => ?_)
  refine x_if_eq (μ := mu_l_law) (pc := 857) (tgt := 864) dL_law_857 rfl hr185 ?_ ?_
  · refine x_iconst (μ := mu_l_law) (pc := 864) dL_law_864 ?_
    refine x_loc (lv' := [(0, vR v0), (1, vR v1), (2, vR v2), (3, vR v3), (4, vI v4), (5, vI (x178.1))]) [1, 2, 3, 4, 5, 0] rfl ?_
    exact okj_l_law_l23_j865 hl hdp hv4 hr179 (by decide) hr184 hr183 hr182 hKh hK
  · refine x_iconst (μ := mu_l_law) (pc := 860) dL_law_860 ?_
    refine x_goto (μ := mu_l_law) (pc := 861) (tgt := 865) dL_law_861 rfl ?_
    refine x_loc (lv' := [(0, vR v0), (1, vR v1), (2, vR v2), (3, vR v3), (4, vI v4), (5, vI (x178.1))]) [1, 2, 3, 4, 5, 0] rfl ?_
    exact okj_l_law_l23_j865 hl hdp hv4 hr179 (by decide) hr184 hr183 hr182 hKh hK
def l_law_l23_j1355 (N : Nat) (v0 : Nat) (v1 : Nat) (v2 : Nat) (v3 : Nat) (v4 : Int) (v5 : Int) (t0 : Int) (t1 : Int) (t2 : Nat) (Kh : Int → gMem → Option (Int × gMem)) (K : gMem → Option (Int × gMem)) (s : gMem) : Option (Int × gMem) := if TMb s t2 = true then (tw_choose N t2 t1 t0 s).bind (fun x325 => if TMb (x325.2) v2 = true then (tw_thrown v2 (x325.2)).bind (fun x329 => if x329 = v5 then if v5 ≠ 0 then l_law_l23_j1884 N v0 v1 v2 v3 v4  (Kh) K (x325.2) else if mT (x325.2) v3 = 101 then if 0 ≤ (0 : Int) ∧ (0 : Int) < (mN (x325.2) v3 : Int) then if gcmp (mL (x325.2) v3 (0 : Int).toNat) (x325.1) = 0 then l_law_l23_j1884 N v0 v1 v2 v3 v4  (Kh) K (x325.2) else some (0, x325.2) else none else none else some (0, x325.2)) else none) else none
set_option maxRecDepth 100000 in
theorem okj_l_law_l23_j1355 {ω : gW} {l : Launch} {d : Nat} {N : Nat} {σ0 : gMem} {s : gMem} {v0 : Nat} {v1 : Nat} {v2 : Nat} {v3 : Nat} {v4 : Int} {v5 : Int} {t0 : Int} {t1 : Int} {t2 : Nat} {Kh : Int → gMem → Option (Int × gMem)} {K : gMem → Option (Int × gMem)} (hl : l.stackTraces = false) (hdp : 241 ≤ d) (hv4 : g32 v4) (hv5 : g32 v5) (ht0 : g32 t0) (ht1 : g32 t1) (hKh : ∀ (v4 : Int) (s : gMem) , g32 v4 → GG (fun p : Int × gMem => (.inl (some (vI p.1)), p.2)) gE ω l d mu_l_law σ0 23 [(0, vR v0), (1, vR v1), (2, vR v2), (3, vR v3), (4, vI v4)] [] s (Kh v4 s)) (hK : ∀ (s : gMem) , GG (fun p : Int × gMem => (.inl (some (vI p.1)), p.2)) gE ω l d mu_l_law σ0 1890 [] [] s (K s)) : GG (fun p : Int × gMem => (.inl (some (vI p.1)), p.2)) gE ω l d mu_l_law σ0 1355 [(0, vR v0), (1, vR v1), (2, vR v2), (3, vR v3), (4, vI v4), (5, vI v5)] [vI t0, vI t1, vR t2] s (l_law_l23_j1355 N v0 v1 v2 v3 v4 v5 t0 t1 t2 Kh K s) := by
  unfold l_law_l23_j1355
  refine x_if (fun hm324 => ?_)
  refine x_callV_mi (μ := mu_l_law) (pc := 1355) (ok_tw_choose (ω := ω) (l := l) (d := d - 1) (by omega) (TMb_ok hm324) ht1 ht0) gRel_E gRel_Tw (fun _ q => gTw_E q) q3714 q3715 q3716 q232 q3717 dL_law_1355 rfl (TMb_ok hm324).1 hy_tw_choose (by omega) (Nat.le_of_ble_eq_true rfl) rfl (Nat.le_of_ble_eq_true rfl) (fun x325 k327 hr326 => ?_)
  refine x_istore (μ := mu_l_law) (pc := 1358) (lv' := [(6, vI (x325.1)), (0, vR v0), (1, vR v1), (2, vR v2), (3, vR v3), (4, vI v4), (5, vI v5)]) dL_law_1358 (by decide) rfl ?_
  refine x_aload_n (μ := mu_l_law) (pc := 1360) 3 dL_law_1360 rfl ?_
  refine x_if (fun hm328 => ?_)
  refine x_callV_pi (μ := mu_l_law) (pc := 1361) (ok_tw_thrown (ω := ω) (l := l) (d := d - 1) (by omega) (TMb_ok hm328) ) gRel_E gRel_Tw (fun _ q => gTw_E q) q2952 q2953 q2954 q232 q2955 dL_law_1361 rfl (TMb_ok hm328).1 hy_tw_thrown (by omega) (Nat.le_of_ble_eq_true rfl) rfl (Nat.le_of_ble_eq_true rfl) (fun x329 hr330 => ?_)
  refine x_iload (μ := mu_l_law) (pc := 1364) 6 dL_law_1364 rfl ?_
  refine x_icmp_eq (μ := mu_l_law) (pc := 1366) (tgt := 1371) dL_law_1366 rfl hr330 hv5 ?_ ?_
  · refine x_iload (μ := mu_l_law) (pc := 1371) 6 dL_law_1371 rfl ?_
    refine x_if_ne (μ := mu_l_law) (pc := 1373) (tgt := 1388) dL_law_1373 rfl hv5 ?_ ?_
    · refine x_goto (μ := mu_l_law) (pc := 1388) (tgt := 1884) dL_law_1388 rfl ?_
      refine x_loc (lv' := [(0, vR v0), (1, vR v1), (2, vR v2), (3, vR v3), (4, vI v4)]) [1, 2, 3, 4, 5] rfl ?_
      exact okj_l_law_l23_j1884 hl hdp hv4 hKh hK
    · refine x_aload_n (μ := mu_l_law) (pc := 1376) 4 dL_law_1376 rfl ?_
      refine x_iconst (μ := mu_l_law) (pc := 1377) dL_law_1377 ?_
      refine x_if (fun hT331 => ?_)
      refine x_lald (μ := mu_l_law) (pc := 1378) dL_law_1378 hT331 rfl (fun hr332 => ?_)
      refine x_iload (μ := mu_l_law) (pc := 1379) 0 dL_law_1379 rfl ?_
      refine x_i2l (μ := mu_l_law) (pc := 1381) dL_law_1381 hr326 ?_
      refine x_lcmp (μ := mu_l_law) (pc := 1382) dL_law_1382 hr332 (g32_64 hr326) ?_
      refine x_if_eq (μ := mu_l_law) (pc := 1383) (tgt := 1388) dL_law_1383 rfl (gcmp_rng _ _) ?_ ?_
      · refine x_goto (μ := mu_l_law) (pc := 1388) (tgt := 1884) dL_law_1388 rfl ?_
        refine x_loc (lv' := [(0, vR v0), (1, vR v1), (2, vR v2), (3, vR v3), (4, vI v4)]) [1, 2, 3, 4, 5] rfl ?_
        exact okj_l_law_l23_j1884 hl hdp hv4 hKh hK
      · refine x_iconst (μ := mu_l_law) (pc := 1386) dL_law_1386 ?_
        exact x_zret (μ := mu_l_law) (pc := 1387) dL_law_1387 rfl (by decide) rfl (gRel_E.1 _) (show g32 0 from (by decide))
  · refine x_iconst (μ := mu_l_law) (pc := 1369) dL_law_1369 ?_
    exact x_zret (μ := mu_l_law) (pc := 1370) dL_law_1370 rfl (by decide) rfl (gRel_E.1 _) (show g32 0 from (by decide))
def l_law_l23_j1328 (N : Nat) (v0 : Nat) (v1 : Nat) (v2 : Nat) (v3 : Nat) (v4 : Int) (t0 : Int) (t1 : Int) (t2 : Nat) (Kh : Int → gMem → Option (Int × gMem)) (K : gMem → Option (Int × gMem)) (s : gMem) : Option (Int × gMem) := (x0_choose N t2 t1 t0 v3 s).bind (fun x318 => if mT (x318.2) v0 = 94 then if 0 ≤ (v4 + 1) ∧ (v4 + 1) < (mN (x318.2) v0 : Int) then if 0 ≤ (v4 + 2) ∧ (v4 + 2) < (mN (x318.2) v0 : Int) then if mI (x318.2) v0 (v4 + 2).toNat = 0 then l_law_l23_j1355 N v0 v1 v2 v3 v4 (x318.1) 0 (mI (x318.2) v0 (v4 + 1).toNat) v2 (Kh) K (x318.2) else l_law_l23_j1355 N v0 v1 v2 v3 v4 (x318.1) 1 (mI (x318.2) v0 (v4 + 1).toNat) v2 (Kh) K (x318.2) else none else none else none)
set_option maxRecDepth 100000 in
theorem okj_l_law_l23_j1328 {ω : gW} {l : Launch} {d : Nat} {N : Nat} {σ0 : gMem} {s : gMem} {v0 : Nat} {v1 : Nat} {v2 : Nat} {v3 : Nat} {v4 : Int} {t0 : Int} {t1 : Int} {t2 : Nat} {Kh : Int → gMem → Option (Int × gMem)} {K : gMem → Option (Int × gMem)} (hl : l.stackTraces = false) (hdp : 241 ≤ d) (hv4 : g32 v4) (ht0 : g32 t0) (ht1 : g32 t1) (hKh : ∀ (v4 : Int) (s : gMem) , g32 v4 → GG (fun p : Int × gMem => (.inl (some (vI p.1)), p.2)) gE ω l d mu_l_law σ0 23 [(0, vR v0), (1, vR v1), (2, vR v2), (3, vR v3), (4, vI v4)] [] s (Kh v4 s)) (hK : ∀ (s : gMem) , GG (fun p : Int × gMem => (.inl (some (vI p.1)), p.2)) gE ω l d mu_l_law σ0 1890 [] [] s (K s)) : GG (fun p : Int × gMem => (.inl (some (vI p.1)), p.2)) gE ω l d mu_l_law σ0 1328 [(0, vR v0), (1, vR v1), (2, vR v2), (3, vR v3), (4, vI v4)] [vI t0, vI t1, vR t2] s (l_law_l23_j1328 N v0 v1 v2 v3 v4 t0 t1 t2 Kh K s) := by
  unfold l_law_l23_j1328
  refine x_aload_n (μ := mu_l_law) (pc := 1328) 3 dL_law_1328 rfl ?_
  refine x_callSW_mi (μ := mu_l_law) (pc := 1329) (ok_x0_choose (ω := ω) (l := l) (d := d - 1) hl (by omega) ht1 ht0) gRel_E gRel_E (fun _ q => q) q2582 q2583 q220 q2584 dL_law_1329 hy_x0_choose (by omega) (Nat.le_of_ble_eq_true rfl) rfl (Nat.le_of_ble_eq_true rfl) (fun x318 k320 hr319 => ?_)
  refine x_istore (μ := mu_l_law) (pc := 1332) (lv' := [(5, vI (x318.1)), (0, vR v0), (1, vR v1), (2, vR v2), (3, vR v3), (4, vI v4)]) dL_law_1332 (by decide) rfl ?_
  refine x_aload_n (μ := mu_l_law) (pc := 1334) 3 dL_law_1334 rfl ?_
  refine x_aload_n (μ := mu_l_law) (pc := 1335) 1 dL_law_1335 rfl ?_
  refine x_iload (μ := mu_l_law) (pc := 1336) 5 dL_law_1336 rfl ?_
  refine x_iconst (μ := mu_l_law) (pc := 1338) dL_law_1338 ?_
  refine x_iadd (μ := mu_l_law) (pc := 1339) dL_law_1339 ?_
  refine x_if (fun hT321 => ?_)
  refine x_scald (μ := mu_l_law) (pc := 1340) dL_law_1340 hT321 (fun hr322 => ?_)
  refine x_aload_n (μ := mu_l_law) (pc := 1341) 1 dL_law_1341 rfl ?_
  refine x_iload (μ := mu_l_law) (pc := 1342) 5 dL_law_1342 rfl ?_
  refine x_iconst (μ := mu_l_law) (pc := 1344) dL_law_1344 ?_
  refine x_iadd (μ := mu_l_law) (pc := 1345) dL_law_1345 ?_
  refine x_scald (μ := mu_l_law) (pc := 1346) dL_law_1346 hT321 (fun hr323 => ?_)
  refine x_if_eq (μ := mu_l_law) (pc := 1347) (tgt := 1354) dL_law_1347 rfl hr323 ?_ ?_
  · refine x_iconst (μ := mu_l_law) (pc := 1354) dL_law_1354 ?_
    refine x_loc (lv' := [(0, vR v0), (1, vR v1), (2, vR v2), (3, vR v3), (4, vI v4), (5, vI (x318.1))]) [1, 2, 3, 4, 5, 0] rfl ?_
    exact okj_l_law_l23_j1355 hl hdp hv4 hr319 (by decide) hr322 hKh hK
  · refine x_iconst (μ := mu_l_law) (pc := 1350) dL_law_1350 ?_
    refine x_goto (μ := mu_l_law) (pc := 1351) (tgt := 1355) dL_law_1351 rfl ?_
    refine x_loc (lv' := [(0, vR v0), (1, vR v1), (2, vR v2), (3, vR v3), (4, vI v4), (5, vI (x318.1))]) [1, 2, 3, 4, 5, 0] rfl ?_
    exact okj_l_law_l23_j1355 hl hdp hv4 hr319 (by decide) hr322 hKh hK
set_option maxRecDepth 100000 in
def l_law_l23 (N : Nat) (v0 : Nat) (v1 : Nat) (v2 : Nat) (v3 : Nat) (K : gMem → Option (Int × gMem)) : Nat → Int → gMem → Option (Int × gMem)
  | 0, _, _ => none
  | n + 1, v4, s => if mT s v0 = 94 then if w32 ((mN s v0 : Int) - 7) < v4 then K s else if 0 ≤ v4 ∧ v4 < (mN s v0 : Int) then if bAnd (mI s v0 v4.toNat) 31 = 0 then if 0 ≤ (v4 + 1) ∧ (v4 + 1) < (mN s v0 : Int) then if 0 ≤ (v4 + 2) ∧ (v4 + 2) < (mN s v0 : Int) then if 0 ≤ (v4 + 3) ∧ (v4 + 3) < (mN s v0 : Int) then if 0 ≤ (v4 + 4) ∧ (v4 + 4) < (mN s v0 : Int) then if 0 ≤ (v4 + 5) ∧ (v4 + 5) < (mN s v0 : Int) then if mT s v1 = 1 then (x1_feed N v1 (mI s v0 (v4 + 1).toNat) (mI s v0 (v4 + 2).toNat) (mI s v0 (v4 + 3).toNat) (mI s v0 (v4 + 4).toNat) (mI s v0 (v4 + 5).toNat) s).bind (fun x24 => if 0 ≤ (v4 + 1) ∧ (v4 + 1) < (mN (x24.2) v0 : Int) then if 0 ≤ (v4 + 2) ∧ (v4 + 2) < (mN (x24.2) v0 : Int) then if 0 ≤ (v4 + 3) ∧ (v4 + 3) < (mN (x24.2) v0 : Int) then if 0 ≤ (v4 + 4) ∧ (v4 + 4) < (mN (x24.2) v0 : Int) then if 0 ≤ (v4 + 5) ∧ (v4 + 5) < (mN (x24.2) v0 : Int) then if TMb (x24.2) v2 = true then (tw_feed N v2 (mI (x24.2) v0 (v4 + 1).toNat) (mI (x24.2) v0 (v4 + 2).toNat) (mI (x24.2) v0 (v4 + 3).toNat) (mI (x24.2) v0 (v4 + 4).toNat) (mI (x24.2) v0 (v4 + 5).toNat) (x24.2)).bind (fun x33 => if x24.1 = x33.1 then l_law_l23_j1884 N v0 v1 v2 v3 v4  (l_law_l23 N v0 v1 v2 v3 K n) K (x33.2) else some (0, x33.2)) else none else none else none else none else none else none) else none else none else none else none else none else none else if bAnd (mI s v0 v4.toNat) 31 = 1 then if 0 ≤ (v4 + 1) ∧ (v4 + 1) < (mN s v0 : Int) then if mT s v1 = 1 then (x1_end v1 (mI s v0 (v4 + 1).toNat) s).bind (fun x39 => if 0 ≤ (v4 + 1) ∧ (v4 + 1) < (mN (x39.2) v0 : Int) then if TMb (x39.2) v2 = true then (tw_end v2 (mI (x39.2) v0 (v4 + 1).toNat) (x39.2)).bind (fun x44 => if x39.1 = x44.1 then l_law_l23_j1884 N v0 v1 v2 v3 v4  (l_law_l23 N v0 v1 v2 v3 K n) K (x44.2) else some (0, x44.2)) else none else none) else none else none else if bAnd (mI s v0 v4.toNat) 31 = 2 then if 0 ≤ (v4 + 1) ∧ (v4 + 1) < (mN s v0 : Int) then if 0 ≤ (v4 + 2) ∧ (v4 + 2) < (mN s v0 : Int) then (x0_enter N v1 (mI s v0 (v4 + 1).toNat) (mI s v0 (v4 + 2).toNat) v3 s).bind (fun x50 => if 0 ≤ (v4 + 1) ∧ (v4 + 1) < (mN (x50.2) v0 : Int) then if 0 ≤ (v4 + 2) ∧ (v4 + 2) < (mN (x50.2) v0 : Int) then if TMb (x50.2) v2 = true then (tw_enter N v2 (mI (x50.2) v0 (v4 + 1).toNat) (mI (x50.2) v0 (v4 + 2).toNat) (x50.2)).bind (fun x56 => if TMb (x56.2) v2 = true then (tw_thrown v2 (x56.2)).bind (fun x60 => if x60 = x50.1 then if x50.1 ≠ 0 then l_law_l23_j1884 N v0 v1 v2 v3 v4  (l_law_l23 N v0 v1 v2 v3 K n) K (x56.2) else if mT (x56.2) v3 = 101 then if 0 ≤ (0 : Int) ∧ (0 : Int) < (mN (x56.2) v3 : Int) then if gcmp (mL (x56.2) v3 (0 : Int).toNat) (x56.1) = 0 then l_law_l23_j1884 N v0 v1 v2 v3 v4  (l_law_l23 N v0 v1 v2 v3 K n) K (x56.2) else some (0, x56.2) else none else none else some (0, x56.2)) else none) else none else none else none) else none else none else if bAnd (mI s v0 v4.toNat) 31 = 3 then if 0 ≤ (v4 + 1) ∧ (v4 + 1) < (mN s v0 : Int) then if mT s v1 = 1 then (x1_fault v1 (mI s v0 (v4 + 1).toNat) s).bind (fun x67 => if 0 ≤ (v4 + 1) ∧ (v4 + 1) < (mN s v0 : Int) then if TMb s v2 = true then (tw_fault v2 (mI s v0 (v4 + 1).toNat) s).bind (fun x71 => if x67 = x71.1 then l_law_l23_j1884 N v0 v1 v2 v3 v4  (l_law_l23 N v0 v1 v2 v3 K n) K (x71.2) else some (0, x71.2)) else none else none) else none else none else if bAnd (mI s v0 v4.toNat) 31 = 4 then if 0 ≤ (v4 + 1) ∧ (v4 + 1) < (mN s v0 : Int) then if 0 ≤ (v4 + 2) ∧ (v4 + 2) < (mN s v0 : Int) then if 0 ≤ (v4 + 3) ∧ (v4 + 3) < (mN s v0 : Int) then if 0 ≤ (v4 + 4) ∧ (v4 + 4) < (mN s v0 : Int) then (x0_erase N v1 (mI s v0 (v4 + 1).toNat) (mI s v0 (v4 + 2).toNat) (mI s v0 (v4 + 3).toNat) (mI s v0 (v4 + 4).toNat) v3 s).bind (fun x79 => if 0 ≤ (v4 + 1) ∧ (v4 + 1) < (mN (x79.2) v0 : Int) then if 0 ≤ (v4 + 2) ∧ (v4 + 2) < (mN (x79.2) v0 : Int) then if 0 ≤ (v4 + 3) ∧ (v4 + 3) < (mN (x79.2) v0 : Int) then if 0 ≤ (v4 + 4) ∧ (v4 + 4) < (mN (x79.2) v0 : Int) then if TMb (x79.2) v2 = true then (tw_erase N v2 (mI (x79.2) v0 (v4 + 1).toNat) (mI (x79.2) v0 (v4 + 2).toNat) (mI (x79.2) v0 (v4 + 3).toNat) (mI (x79.2) v0 (v4 + 4).toNat) (x79.2)).bind (fun x87 => if TMb (x87.2) v2 = true then (tw_thrown v2 (x87.2)).bind (fun x91 => if x91 = x79.1 then if x79.1 ≠ 0 then l_law_l23_j1884 N v0 v1 v2 v3 v4  (l_law_l23 N v0 v1 v2 v3 K n) K (x87.2) else if mT (x87.2) v3 = 101 then if 0 ≤ (0 : Int) ∧ (0 : Int) < (mN (x87.2) v3 : Int) then if gcmp (mL (x87.2) v3 (0 : Int).toNat) (x87.1) = 0 then l_law_l23_j1884 N v0 v1 v2 v3 v4  (l_law_l23 N v0 v1 v2 v3 K n) K (x87.2) else some (0, x87.2) else none else none else some (0, x87.2)) else none) else none else none else none else none else none) else none else none else none else none else if bAnd (mI s v0 v4.toNat) 31 = 5 then if 0 ≤ (v4 + 1) ∧ (v4 + 1) < (mN s v0 : Int) then if 0 ≤ (v4 + 2) ∧ (v4 + 2) < (mN s v0 : Int) then (x0_insert N v1 (mI s v0 (v4 + 1).toNat) (mI s v0 (v4 + 2).toNat) v3 s).bind (fun x98 => if 0 ≤ (v4 + 1) ∧ (v4 + 1) < (mN (x98.2) v0 : Int) then if 0 ≤ (v4 + 2) ∧ (v4 + 2) < (mN (x98.2) v0 : Int) then if TMb (x98.2) v2 = true then (tw_insert N v2 (mI (x98.2) v0 (v4 + 1).toNat) (mI (x98.2) v0 (v4 + 2).toNat) (x98.2)).bind (fun x104 => if TMb (x104.2) v2 = true then (tw_thrown v2 (x104.2)).bind (fun x108 => if x108 = x98.1 then if x98.1 ≠ 0 then l_law_l23_j1884 N v0 v1 v2 v3 v4  (l_law_l23 N v0 v1 v2 v3 K n) K (x104.2) else if mT (x104.2) v3 = 101 then if 0 ≤ (0 : Int) ∧ (0 : Int) < (mN (x104.2) v3 : Int) then if gcmp (mL (x104.2) v3 (0 : Int).toNat) (x104.1) = 0 then l_law_l23_j1884 N v0 v1 v2 v3 v4  (l_law_l23 N v0 v1 v2 v3 K n) K (x104.2) else some (0, x104.2) else none else none else some (0, x104.2)) else none) else none else none else none) else none else none else if bAnd (mI s v0 v4.toNat) 31 = 6 then if 0 ≤ (v4 + 1) ∧ (v4 + 1) < (mN s v0 : Int) then if 0 ≤ (v4 + 2) ∧ (v4 + 2) < (mN s v0 : Int) then (x0_remove N v1 (mI s v0 (v4 + 1).toNat) (mI s v0 (v4 + 2).toNat) v3 s).bind (fun x115 => if 0 ≤ (v4 + 1) ∧ (v4 + 1) < (mN (x115.2) v0 : Int) then if 0 ≤ (v4 + 2) ∧ (v4 + 2) < (mN (x115.2) v0 : Int) then if TMb (x115.2) v2 = true then (tw_remove N v2 (mI (x115.2) v0 (v4 + 1).toNat) (mI (x115.2) v0 (v4 + 2).toNat) (x115.2)).bind (fun x121 => if TMb (x121.2) v2 = true then (tw_thrown v2 (x121.2)).bind (fun x125 => if x125 = x115.1 then if x115.1 ≠ 0 then l_law_l23_j1884 N v0 v1 v2 v3 v4  (l_law_l23 N v0 v1 v2 v3 K n) K (x121.2) else if mT (x121.2) v3 = 101 then if 0 ≤ (0 : Int) ∧ (0 : Int) < (mN (x121.2) v3 : Int) then if gcmp (mL (x121.2) v3 (0 : Int).toNat) (x121.1) = 0 then l_law_l23_j1884 N v0 v1 v2 v3 v4  (l_law_l23 N v0 v1 v2 v3 K n) K (x121.2) else some (0, x121.2) else none else none else some (0, x121.2)) else none) else none else none else none) else none else none else if bAnd (mI s v0 v4.toNat) 31 = 7 then if 0 ≤ (v4 + 1) ∧ (v4 + 1) < (mN s v0 : Int) then if 0 ≤ (v4 + 2) ∧ (v4 + 2) < (mN s v0 : Int) then if 0 ≤ (v4 + 3) ∧ (v4 + 3) < (mN s v0 : Int) then (x0_move N v1 (mI s v0 (v4 + 1).toNat) (mI s v0 (v4 + 2).toNat) (mI s v0 (v4 + 3).toNat) v3 s).bind (fun x133 => if 0 ≤ (v4 + 1) ∧ (v4 + 1) < (mN (x133.2) v0 : Int) then if 0 ≤ (v4 + 2) ∧ (v4 + 2) < (mN (x133.2) v0 : Int) then if 0 ≤ (v4 + 3) ∧ (v4 + 3) < (mN (x133.2) v0 : Int) then if TMb (x133.2) v2 = true then (tw_move N v2 (mI (x133.2) v0 (v4 + 1).toNat) (mI (x133.2) v0 (v4 + 2).toNat) (mI (x133.2) v0 (v4 + 3).toNat) (x133.2)).bind (fun x140 => if TMb (x140.2) v2 = true then (tw_thrown v2 (x140.2)).bind (fun x144 => if x144 = x133.1 then if x133.1 ≠ 0 then l_law_l23_j1884 N v0 v1 v2 v3 v4  (l_law_l23 N v0 v1 v2 v3 K n) K (x140.2) else if mT (x140.2) v3 = 101 then if 0 ≤ (0 : Int) ∧ (0 : Int) < (mN (x140.2) v3 : Int) then if gcmp (mL (x140.2) v3 (0 : Int).toNat) (x140.1) = 0 then l_law_l23_j1884 N v0 v1 v2 v3 v4  (l_law_l23 N v0 v1 v2 v3 K n) K (x140.2) else some (0, x140.2) else none else none else some (0, x140.2)) else none) else none else none else none else none) else none else none else none else if bAnd (mI s v0 v4.toNat) 31 = 8 then if 0 ≤ (v4 + 1) ∧ (v4 + 1) < (mN s v0 : Int) then if 0 ≤ (v4 + 2) ∧ (v4 + 2) < (mN s v0 : Int) then if 0 ≤ (v4 + 3) ∧ (v4 + 3) < (mN s v0 : Int) then if 0 ≤ (v4 + 4) ∧ (v4 + 4) < (mN s v0 : Int) then if 0 ≤ (v4 + 5) ∧ (v4 + 5) < (mN s v0 : Int) then if 0 ≤ (v4 + 6) ∧ (v4 + 6) < (mN s v0 : Int) then (x0_copy N v1 (mI s v0 (v4 + 1).toNat) (mI s v0 (v4 + 2).toNat) (mI s v0 (v4 + 3).toNat) (mI s v0 (v4 + 4).toNat) (mI s v0 (v4 + 5).toNat) (mI s v0 (v4 + 6).toNat) v3 s).bind (fun x155 => if 0 ≤ (v4 + 1) ∧ (v4 + 1) < (mN (x155.2) v0 : Int) then if 0 ≤ (v4 + 2) ∧ (v4 + 2) < (mN (x155.2) v0 : Int) then if 0 ≤ (v4 + 3) ∧ (v4 + 3) < (mN (x155.2) v0 : Int) then if 0 ≤ (v4 + 4) ∧ (v4 + 4) < (mN (x155.2) v0 : Int) then if 0 ≤ (v4 + 5) ∧ (v4 + 5) < (mN (x155.2) v0 : Int) then if 0 ≤ (v4 + 6) ∧ (v4 + 6) < (mN (x155.2) v0 : Int) then if TMb (x155.2) v2 = true then (tw_copy N v2 (mI (x155.2) v0 (v4 + 1).toNat) (mI (x155.2) v0 (v4 + 2).toNat) (mI (x155.2) v0 (v4 + 3).toNat) (mI (x155.2) v0 (v4 + 4).toNat) (mI (x155.2) v0 (v4 + 5).toNat) (mI (x155.2) v0 (v4 + 6).toNat) (x155.2)).bind (fun x165 => if TMb (x165.2) v2 = true then (tw_thrown v2 (x165.2)).bind (fun x169 => if x169 = x155.1 then if x155.1 ≠ 0 then l_law_l23_j1884 N v0 v1 v2 v3 v4  (l_law_l23 N v0 v1 v2 v3 K n) K (x165.2) else if mT (x165.2) v3 = 101 then if 0 ≤ (0 : Int) ∧ (0 : Int) < (mN (x165.2) v3 : Int) then if gcmp (mL (x165.2) v3 (0 : Int).toNat) (x165.1) = 0 then l_law_l23_j1884 N v0 v1 v2 v3 v4  (l_law_l23 N v0 v1 v2 v3 K n) K (x165.2) else some (0, x165.2) else none else none else some (0, x165.2)) else none) else none else none else none else none else none else none else none) else none else none else none else none else none else none else if bAnd (mI s v0 v4.toNat) 31 = 9 then if 0 ≤ (v4 + 1) ∧ (v4 + 1) < (mN s v0 : Int) then if 0 ≤ (v4 + 2) ∧ (v4 + 2) < (mN s v0 : Int) then if 0 ≤ (v4 + 3) ∧ (v4 + 3) < (mN s v0 : Int) then if 0 ≤ (v4 + 4) ∧ (v4 + 4) < (mN s v0 : Int) then if mI s v0 (v4 + 4).toNat = 0 then l_law_l23_j826 N v0 v1 v2 v3 v4 0 (mI s v0 (v4 + 3).toNat) (mI s v0 (v4 + 2).toNat) (mI s v0 (v4 + 1).toNat) v1 (l_law_l23 N v0 v1 v2 v3 K n) K s else l_law_l23_j826 N v0 v1 v2 v3 v4 1 (mI s v0 (v4 + 3).toNat) (mI s v0 (v4 + 2).toNat) (mI s v0 (v4 + 1).toNat) v1 (l_law_l23 N v0 v1 v2 v3 K n) K s else none else none else none else none else if bAnd (mI s v0 v4.toNat) 31 = 10 then (x0_undo v1 v3 s).bind (fun x196 => if TMb (x196.2) v2 = true then (tw_undo N v2 (x196.2)).bind (fun x200 => if TMb (x200.2) v2 = true then (tw_thrown v2 (x200.2)).bind (fun x204 => if x204 = x196.1 then if x196.1 ≠ 0 then l_law_l23_j1884 N v0 v1 v2 v3 v4  (l_law_l23 N v0 v1 v2 v3 K n) K (x200.2) else if mT (x200.2) v3 = 101 then if 0 ≤ (0 : Int) ∧ (0 : Int) < (mN (x200.2) v3 : Int) then if gcmp (mL (x200.2) v3 (0 : Int).toNat) (x200.1) = 0 then l_law_l23_j1884 N v0 v1 v2 v3 v4  (l_law_l23 N v0 v1 v2 v3 K n) K (x200.2) else some (0, x200.2) else none else none else some (0, x200.2)) else none) else none) else if bAnd (mI s v0 v4.toNat) 31 = 11 then (x0_redo v1 v3 s).bind (fun x209 => if TMb (x209.2) v2 = true then (tw_redo N v2 (x209.2)).bind (fun x213 => if TMb (x213.2) v2 = true then (tw_thrown v2 (x213.2)).bind (fun x217 => if x217 = x209.1 then if x209.1 ≠ 0 then l_law_l23_j1884 N v0 v1 v2 v3 v4  (l_law_l23 N v0 v1 v2 v3 K n) K (x213.2) else if mT (x213.2) v3 = 101 then if 0 ≤ (0 : Int) ∧ (0 : Int) < (mN (x213.2) v3 : Int) then if gcmp (mL (x213.2) v3 (0 : Int).toNat) (x213.1) = 0 then l_law_l23_j1884 N v0 v1 v2 v3 v4  (l_law_l23 N v0 v1 v2 v3 K n) K (x213.2) else some (0, x213.2) else none else none else some (0, x213.2)) else none) else none) else if bAnd (mI s v0 v4.toNat) 31 = 12 then (x0_commit N v1 v3 s).bind (fun x222 => if TMb (x222.2) v2 = true then (tw_commit N v2 (x222.2)).bind (fun x226 => if TMb (x226.2) v2 = true then (tw_thrown v2 (x226.2)).bind (fun x230 => if x230 = x222.1 then if x222.1 ≠ 0 then l_law_l23_j1884 N v0 v1 v2 v3 v4  (l_law_l23 N v0 v1 v2 v3 K n) K (x226.2) else if mT (x226.2) v3 = 101 then if 0 ≤ (0 : Int) ∧ (0 : Int) < (mN (x226.2) v3 : Int) then if gcmp (mL (x226.2) v3 (0 : Int).toNat) (x226.1) = 0 then l_law_l23_j1884 N v0 v1 v2 v3 v4  (l_law_l23 N v0 v1 v2 v3 K n) K (x226.2) else some (0, x226.2) else none else none else some (0, x226.2)) else none) else none) else if bAnd (mI s v0 v4.toNat) 31 = 13 then if 0 ≤ (v4 + 1) ∧ (v4 + 1) < (mN s v0 : Int) then (x0_branch v1 (mI s v0 (v4 + 1).toNat) v3 s).bind (fun x236 => if 0 ≤ (v4 + 1) ∧ (v4 + 1) < (mN (x236.2) v0 : Int) then if TMb (x236.2) v2 = true then (tw_branch v2 (mI (x236.2) v0 (v4 + 1).toNat) (x236.2)).bind (fun x241 => if TMb (x241.2) v2 = true then (tw_thrown v2 (x241.2)).bind (fun x245 => if x245 = x236.1 then if x236.1 ≠ 0 then l_law_l23_j1884 N v0 v1 v2 v3 v4  (l_law_l23 N v0 v1 v2 v3 K n) K (x241.2) else if mT (x241.2) v3 = 101 then if 0 ≤ (0 : Int) ∧ (0 : Int) < (mN (x241.2) v3 : Int) then if gcmp (mL (x241.2) v3 (0 : Int).toNat) (x241.1) = 0 then l_law_l23_j1884 N v0 v1 v2 v3 v4  (l_law_l23 N v0 v1 v2 v3 K n) K (x241.2) else some (0, x241.2) else none else none else some (0, x241.2)) else none) else none else none) else none else if bAnd (mI s v0 v4.toNat) 31 = 14 then if 0 ≤ (v4 + 1) ∧ (v4 + 1) < (mN s v0 : Int) then (x0_go N v1 (mI s v0 (v4 + 1).toNat) v3 s).bind (fun x251 => if 0 ≤ (v4 + 1) ∧ (v4 + 1) < (mN (x251.2) v0 : Int) then if TMb (x251.2) v2 = true then (tw_go N v2 (mI (x251.2) v0 (v4 + 1).toNat) (x251.2)).bind (fun x256 => if TMb (x256.2) v2 = true then (tw_thrown v2 (x256.2)).bind (fun x260 => if x260 = x251.1 then if x251.1 ≠ 0 then l_law_l23_j1884 N v0 v1 v2 v3 v4  (l_law_l23 N v0 v1 v2 v3 K n) K (x256.2) else if mT (x256.2) v3 = 101 then if 0 ≤ (0 : Int) ∧ (0 : Int) < (mN (x256.2) v3 : Int) then if gcmp (mL (x256.2) v3 (0 : Int).toNat) (x256.1) = 0 then l_law_l23_j1884 N v0 v1 v2 v3 v4  (l_law_l23 N v0 v1 v2 v3 K n) K (x256.2) else some (0, x256.2) else none else none else some (0, x256.2)) else none) else none else none) else none else if bAnd (mI s v0 v4.toNat) 31 = 15 then if mT s v1 = 1 then (x1_drop N v1 s).bind (fun x266 => if TMb (x266.2) v2 = true then (tw_drop N v2 (x266.2)).bind (fun x270 => if x266.1 = x270.1 then l_law_l23_j1884 N v0 v1 v2 v3 v4  (l_law_l23 N v0 v1 v2 v3 K n) K (x270.2) else some (0, x270.2)) else none) else none else if bAnd (mI s v0 v4.toNat) 31 = 16 then if 0 ≤ (v4 + 1) ∧ (v4 + 1) < (mN s v0 : Int) then (x0_merge N v1 (mI s v0 (v4 + 1).toNat) v3 s).bind (fun x275 => if 0 ≤ (v4 + 1) ∧ (v4 + 1) < (mN (x275.2) v0 : Int) then if TMb (x275.2) v2 = true then (tw_merge N v2 (mI (x275.2) v0 (v4 + 1).toNat) (x275.2)).bind (fun x280 => if TMb (x280.2) v2 = true then (tw_thrown v2 (x280.2)).bind (fun x284 => if x284 = x275.1 then if x275.1 ≠ 0 then l_law_l23_j1884 N v0 v1 v2 v3 v4  (l_law_l23 N v0 v1 v2 v3 K n) K (x280.2) else if mT (x280.2) v3 = 101 then if 0 ≤ (0 : Int) ∧ (0 : Int) < (mN (x280.2) v3 : Int) then if gcmp (mL (x280.2) v3 (0 : Int).toNat) (x280.1) = 0 then l_law_l23_j1884 N v0 v1 v2 v3 v4  (l_law_l23 N v0 v1 v2 v3 K n) K (x280.2) else some (0, x280.2) else none else none else some (0, x280.2)) else none) else none else none) else none else if bAnd (mI s v0 v4.toNat) 31 = 17 then if 0 ≤ (v4 + 1) ∧ (v4 + 1) < (mN s v0 : Int) then (x0_pick N v1 (mI s v0 (v4 + 1).toNat) v3 s).bind (fun x290 => if 0 ≤ (v4 + 1) ∧ (v4 + 1) < (mN (x290.2) v0 : Int) then if TMb (x290.2) v2 = true then (tw_pick N v2 (mI (x290.2) v0 (v4 + 1).toNat) (x290.2)).bind (fun x295 => if TMb (x295.2) v2 = true then (tw_thrown v2 (x295.2)).bind (fun x299 => if x299 = x290.1 then if x290.1 ≠ 0 then l_law_l23_j1884 N v0 v1 v2 v3 v4  (l_law_l23 N v0 v1 v2 v3 K n) K (x295.2) else if mT (x295.2) v3 = 101 then if 0 ≤ (0 : Int) ∧ (0 : Int) < (mN (x295.2) v3 : Int) then if gcmp (mL (x295.2) v3 (0 : Int).toNat) (x295.1) = 0 then l_law_l23_j1884 N v0 v1 v2 v3 v4  (l_law_l23 N v0 v1 v2 v3 K n) K (x295.2) else some (0, x295.2) else none else none else some (0, x295.2)) else none) else none else none) else none else if bAnd (mI s v0 v4.toNat) 31 = 18 then if 0 ≤ (v4 + 1) ∧ (v4 + 1) < (mN s v0 : Int) then if 0 ≤ (v4 + 2) ∧ (v4 + 2) < (mN s v0 : Int) then if mT s v1 = 1 then (x1_conflict N v1 (mI s v0 (v4 + 1).toNat) (mI s v0 (v4 + 2).toNat) s).bind (fun x307 => if 0 ≤ (v4 + 1) ∧ (v4 + 1) < (mN s v0 : Int) then if 0 ≤ (v4 + 2) ∧ (v4 + 2) < (mN s v0 : Int) then if TMb s v2 = true then (tw_conflict N v2 (mI s v0 (v4 + 1).toNat) (mI s v0 (v4 + 2).toNat) s).bind (fun x312 => if x307 = x312.1 then l_law_l23_j1884 N v0 v1 v2 v3 v4  (l_law_l23 N v0 v1 v2 v3 K n) K (x312.2) else some (0, x312.2)) else none else none else none) else none else none else none else if bAnd (mI s v0 v4.toNat) 31 = 19 then if 0 ≤ (v4 + 1) ∧ (v4 + 1) < (mN s v0 : Int) then if 0 ≤ (v4 + 2) ∧ (v4 + 2) < (mN s v0 : Int) then if mI s v0 (v4 + 2).toNat = 0 then l_law_l23_j1328 N v0 v1 v2 v3 v4 0 (mI s v0 (v4 + 1).toNat) v1 (l_law_l23 N v0 v1 v2 v3 K n) K s else l_law_l23_j1328 N v0 v1 v2 v3 v4 1 (mI s v0 (v4 + 1).toNat) v1 (l_law_l23 N v0 v1 v2 v3 K n) K s else none else none else if bAnd (mI s v0 v4.toNat) 31 = 20 then if 0 ≤ (v4 + 1) ∧ (v4 + 1) < (mN s v0 : Int) then if 0 ≤ (v4 + 2) ∧ (v4 + 2) < (mN s v0 : Int) then if mT s v1 = 1 then (x1_base v1 (mI s v0 (v4 + 1).toNat) (mI s v0 (v4 + 2).toNat) s).bind (fun x337 => if 0 ≤ (v4 + 1) ∧ (v4 + 1) < (mN s v0 : Int) then if 0 ≤ (v4 + 2) ∧ (v4 + 2) < (mN s v0 : Int) then if TMb s v2 = true then (tw_base N v2 (mI s v0 (v4 + 1).toNat) (mI s v0 (v4 + 2).toNat) s).bind (fun x342 => if x337 = x342.1 then l_law_l23_j1884 N v0 v1 v2 v3 v4  (l_law_l23 N v0 v1 v2 v3 K n) K (x342.2) else some (0, x342.2)) else none else none else none) else none else none else none else if bAnd (mI s v0 v4.toNat) 31 = 21 then if 0 ≤ (v4 + 1) ∧ (v4 + 1) < (mN s v0 : Int) then if 0 ≤ (v4 + 2) ∧ (v4 + 2) < (mN s v0 : Int) then (x0_diff N v1 (mI s v0 (v4 + 1).toNat) (mI s v0 (v4 + 2).toNat) v3 s).bind (fun x348 => if 0 ≤ (v4 + 1) ∧ (v4 + 1) < (mN (x348.2) v0 : Int) then if 0 ≤ (v4 + 2) ∧ (v4 + 2) < (mN (x348.2) v0 : Int) then if TMb (x348.2) v2 = true then (tw_diff N v2 (mI (x348.2) v0 (v4 + 1).toNat) (mI (x348.2) v0 (v4 + 2).toNat) (x348.2)).bind (fun x354 => if TMb (x354.2) v2 = true then (tw_thrown v2 (x354.2)).bind (fun x358 => if x358 = x348.1 then if x348.1 ≠ 0 then l_law_l23_j1884 N v0 v1 v2 v3 v4  (l_law_l23 N v0 v1 v2 v3 K n) K (x354.2) else if mT (x354.2) v3 = 101 then if 0 ≤ (0 : Int) ∧ (0 : Int) < (mN (x354.2) v3 : Int) then if gcmp (mL (x354.2) v3 (0 : Int).toNat) (x354.1) = 0 then l_law_l23_j1884 N v0 v1 v2 v3 v4  (l_law_l23 N v0 v1 v2 v3 K n) K (x354.2) else some (0, x354.2) else none else none else some (0, x354.2)) else none) else none else none else none) else none else none else if bAnd (mI s v0 v4.toNat) 31 = 22 then if 0 ≤ (v4 + 1) ∧ (v4 + 1) < (mN s v0 : Int) then if 0 ≤ (v4 + 2) ∧ (v4 + 2) < (mN s v0 : Int) then if mT s v1 = 1 then (x1_difference v1 (mI s v0 (v4 + 1).toNat) (mI s v0 (v4 + 2).toNat) s).bind (fun x366 => if 0 ≤ (v4 + 1) ∧ (v4 + 1) < (mN s v0 : Int) then if 0 ≤ (v4 + 2) ∧ (v4 + 2) < (mN s v0 : Int) then if TMb s v2 = true then (tw_difference v2 (mI s v0 (v4 + 1).toNat) (mI s v0 (v4 + 2).toNat) s).bind (fun x371 => if x366 = x371.1 then l_law_l23_j1884 N v0 v1 v2 v3 v4  (l_law_l23 N v0 v1 v2 v3 K n) K (x371.2) else some (0, x371.2)) else none else none else none) else none else none else none else if bAnd (mI s v0 v4.toNat) 31 = 23 then if 0 ≤ (v4 + 1) ∧ (v4 + 1) < (mN s v0 : Int) then if 0 ≤ (v4 + 2) ∧ (v4 + 2) < (mN s v0 : Int) then (x0_blame N v1 (mI s v0 (v4 + 1).toNat) (mI s v0 (v4 + 2).toNat) v3 s).bind (fun x377 => if 0 ≤ (v4 + 1) ∧ (v4 + 1) < (mN (x377.2) v0 : Int) then if 0 ≤ (v4 + 2) ∧ (v4 + 2) < (mN (x377.2) v0 : Int) then if TMb (x377.2) v2 = true then (tw_blame N v2 (mI (x377.2) v0 (v4 + 1).toNat) (mI (x377.2) v0 (v4 + 2).toNat) (x377.2)).bind (fun x383 => if TMb (x383.2) v2 = true then (tw_thrown v2 (x383.2)).bind (fun x387 => if x387 = x377.1 then if x377.1 ≠ 0 then l_law_l23_j1884 N v0 v1 v2 v3 v4  (l_law_l23 N v0 v1 v2 v3 K n) K (x383.2) else if mT (x383.2) v3 = 101 then if 0 ≤ (0 : Int) ∧ (0 : Int) < (mN (x383.2) v3 : Int) then if gcmp (mL (x383.2) v3 (0 : Int).toNat) (x383.1) = 0 then l_law_l23_j1884 N v0 v1 v2 v3 v4  (l_law_l23 N v0 v1 v2 v3 K n) K (x383.2) else some (0, x383.2) else none else none else some (0, x383.2)) else none) else none else none else none) else none else none else if bAnd (mI s v0 v4.toNat) 31 = 24 then if 0 ≤ (v4 + 1) ∧ (v4 + 1) < (mN s v0 : Int) then if 0 ≤ (v4 + 2) ∧ (v4 + 2) < (mN s v0 : Int) then if mT s v1 = 1 then (x1_sheet v1 (mI s v0 (v4 + 1).toNat) (mI s v0 (v4 + 2).toNat) s).bind (fun x395 => if 0 ≤ (v4 + 1) ∧ (v4 + 1) < (mN s v0 : Int) then if 0 ≤ (v4 + 2) ∧ (v4 + 2) < (mN s v0 : Int) then if TMb s v2 = true then (tw_sheet v2 (mI s v0 (v4 + 1).toNat) (mI s v0 (v4 + 2).toNat) s).bind (fun x400 => if x395 = x400.1 then l_law_l23_j1884 N v0 v1 v2 v3 v4  (l_law_l23 N v0 v1 v2 v3 K n) K (x400.2) else some (0, x400.2)) else none else none else none) else none else none else none else if bAnd (mI s v0 v4.toNat) 31 = 25 then if 0 ≤ (v4 + 1) ∧ (v4 + 1) < (mN s v0 : Int) then if 0 ≤ (v4 + 2) ∧ (v4 + 2) < (mN s v0 : Int) then if 0 ≤ (v4 + 3) ∧ (v4 + 3) < (mN s v0 : Int) then if mT s v1 = 1 then (x1_kind N v1 (mI s v0 (v4 + 1).toNat) (mI s v0 (v4 + 2).toNat) (mI s v0 (v4 + 3).toNat) s).bind (fun x408 => if 0 ≤ (v4 + 1) ∧ (v4 + 1) < (mN (x408.2) v0 : Int) then if 0 ≤ (v4 + 2) ∧ (v4 + 2) < (mN (x408.2) v0 : Int) then if 0 ≤ (v4 + 3) ∧ (v4 + 3) < (mN (x408.2) v0 : Int) then if TMb (x408.2) v2 = true then (tw_kind N v2 (mI (x408.2) v0 (v4 + 1).toNat) (mI (x408.2) v0 (v4 + 2).toNat) (mI (x408.2) v0 (v4 + 3).toNat) (x408.2)).bind (fun x415 => if x408.1 = x415.1 then l_law_l23_j1884 N v0 v1 v2 v3 v4  (l_law_l23 N v0 v1 v2 v3 K n) K (x415.2) else some (0, x415.2)) else none else none else none else none) else none else none else none else none else if bAnd (mI s v0 v4.toNat) 31 = 26 then if 0 ≤ (v4 + 1) ∧ (v4 + 1) < (mN s v0 : Int) then if 0 ≤ (v4 + 2) ∧ (v4 + 2) < (mN s v0 : Int) then if 0 ≤ (v4 + 3) ∧ (v4 + 3) < (mN s v0 : Int) then if mT s v1 = 1 then (x1_value N v1 (mI s v0 (v4 + 1).toNat) (mI s v0 (v4 + 2).toNat) (mI s v0 (v4 + 3).toNat) s).bind (fun x423 => if 0 ≤ (v4 + 1) ∧ (v4 + 1) < (mN (x423.2) v0 : Int) then if 0 ≤ (v4 + 2) ∧ (v4 + 2) < (mN (x423.2) v0 : Int) then if 0 ≤ (v4 + 3) ∧ (v4 + 3) < (mN (x423.2) v0 : Int) then if TMb (x423.2) v2 = true then (tw_value N v2 (mI (x423.2) v0 (v4 + 1).toNat) (mI (x423.2) v0 (v4 + 2).toNat) (mI (x423.2) v0 (v4 + 3).toNat) (x423.2)).bind (fun x430 => if gcmp (x423.1) (x430.1) = 0 then l_law_l23_j1884 N v0 v1 v2 v3 v4  (l_law_l23 N v0 v1 v2 v3 K n) K (x430.2) else some (0, x430.2)) else none else none else none else none) else none else none else none else none else if bAnd (mI s v0 v4.toNat) 31 = 27 then if 0 ≤ (v4 + 1) ∧ (v4 + 1) < (mN s v0 : Int) then if 0 ≤ (v4 + 2) ∧ (v4 + 2) < (mN s v0 : Int) then if 0 ≤ (v4 + 3) ∧ (v4 + 3) < (mN s v0 : Int) then if 0 ≤ (v4 + 4) ∧ (v4 + 4) < (mN s v0 : Int) then if mT s v1 = 1 then (x1_letter N v1 (mI s v0 (v4 + 1).toNat) (mI s v0 (v4 + 2).toNat) (mI s v0 (v4 + 3).toNat) (mI s v0 (v4 + 4).toNat) s).bind (fun x439 => if 0 ≤ (v4 + 1) ∧ (v4 + 1) < (mN (x439.2) v0 : Int) then if 0 ≤ (v4 + 2) ∧ (v4 + 2) < (mN (x439.2) v0 : Int) then if 0 ≤ (v4 + 3) ∧ (v4 + 3) < (mN (x439.2) v0 : Int) then if 0 ≤ (v4 + 4) ∧ (v4 + 4) < (mN (x439.2) v0 : Int) then if TMb (x439.2) v2 = true then (tw_letter N v2 (mI (x439.2) v0 (v4 + 1).toNat) (mI (x439.2) v0 (v4 + 2).toNat) (mI (x439.2) v0 (v4 + 3).toNat) (mI (x439.2) v0 (v4 + 4).toNat) (x439.2)).bind (fun x447 => if x439.1 = x447.1 then l_law_l23_j1884 N v0 v1 v2 v3 v4  (l_law_l23 N v0 v1 v2 v3 K n) K (x447.2) else some (0, x447.2)) else none else none else none else none else none) else none else none else none else none else none else if bAnd (mI s v0 v4.toNat) 31 = 28 then if 0 ≤ (v4 + 1) ∧ (v4 + 1) < (mN s v0 : Int) then if 0 ≤ (v4 + 2) ∧ (v4 + 2) < (mN s v0 : Int) then if 0 ≤ (v4 + 3) ∧ (v4 + 3) < (mN s v0 : Int) then if 0 ≤ (v4 + 4) ∧ (v4 + 4) < (mN s v0 : Int) then if mT s v1 = 1 then (x1_written N v1 (mI s v0 (v4 + 1).toNat) (mI s v0 (v4 + 2).toNat) (mI s v0 (v4 + 3).toNat) (mI s v0 (v4 + 4).toNat) s).bind (fun x456 => if 0 ≤ (v4 + 1) ∧ (v4 + 1) < (mN (x456.2) v0 : Int) then if 0 ≤ (v4 + 2) ∧ (v4 + 2) < (mN (x456.2) v0 : Int) then if 0 ≤ (v4 + 3) ∧ (v4 + 3) < (mN (x456.2) v0 : Int) then if 0 ≤ (v4 + 4) ∧ (v4 + 4) < (mN (x456.2) v0 : Int) then if TMb (x456.2) v2 = true then (tw_written N v2 (mI (x456.2) v0 (v4 + 1).toNat) (mI (x456.2) v0 (v4 + 2).toNat) (mI (x456.2) v0 (v4 + 3).toNat) (mI (x456.2) v0 (v4 + 4).toNat) (x456.2)).bind (fun x464 => if x456.1 = x464.1 then l_law_l23_j1884 N v0 v1 v2 v3 v4  (l_law_l23 N v0 v1 v2 v3 K n) K (x464.2) else some (0, x464.2)) else none else none else none else none else none) else none else none else none else none else none else if bAnd (mI s v0 v4.toNat) 31 = 29 then if 0 ≤ (v4 + 1) ∧ (v4 + 1) < (mN s v0 : Int) then if mT s v1 = 1 then (x1_total N v1 (mI s v0 (v4 + 1).toNat) s).bind (fun x470 => if 0 ≤ (v4 + 1) ∧ (v4 + 1) < (mN s v0 : Int) then if TMb s v2 = true then (tw_total N v2 (mI s v0 (v4 + 1).toNat) s).bind (fun x474 => if x470 = x474.1 then l_law_l23_j1884 N v0 v1 v2 v3 v4  (l_law_l23 N v0 v1 v2 v3 K n) K (x474.2) else some (0, x474.2)) else none else none) else none else none else l_law_l23_j1884 N v0 v1 v2 v3 v4  (l_law_l23 N v0 v1 v2 v3 K n) K s else none else none
set_option maxRecDepth 100000 in
theorem okl_l_law_l23 {ω : gW} {l : Launch} {d : Nat} {N : Nat} {σ0 : gMem} {v0 : Nat} {v1 : Nat} {v2 : Nat} {v3 : Nat} {K : gMem → Option (Int × gMem)} (hl : l.stackTraces = false) (hdp : 241 ≤ d) (hK : ∀ (s : gMem) , GG (fun p : Int × gMem => (.inl (some (vI p.1)), p.2)) gE ω l d mu_l_law σ0 1890 [] [] s (K s)) : ∀ (n : Nat) (v4 : Int) (s : gMem) , g32 v4 → GG (fun p : Int × gMem => (.inl (some (vI p.1)), p.2)) gE ω l d mu_l_law σ0 23 [(0, vR v0), (1, vR v1), (2, vR v2), (3, vR v3), (4, vI v4)] [] s (l_law_l23 N v0 v1 v2 v3 K n v4 s) := by
  intro n
  induction n with
  | zero => intros; exact x_none
  | succ n ih =>
    intro v4 s hv4
    unfold l_law_l23
    refine x_iload (μ := mu_l_law) (pc := 23) 4 dL_law_23 rfl ?_
    refine x_aload_n (μ := mu_l_law) (pc := 25) 0 dL_law_25 rfl ?_
    refine x_if (fun hT15 => ?_)
    refine x_sclen (μ := mu_l_law) (pc := 26) dL_law_26 hT15 ?_
    refine x_bipush (μ := mu_l_law) (pc := 27) dL_law_27 (by decide) ?_
    refine x_isub (μ := mu_l_law) (pc := 29) dL_law_29 ?_
    refine x_w1 ?_
    refine x_icmp_gt (μ := mu_l_law) (pc := 30) (tgt := 1890) dL_law_30 rfl hv4 (w32_rng _) ?_ ?_
    · refine x_loc (lv' := []) [] rfl ?_
      exact hK s
    · refine x_aload_n (μ := mu_l_law) (pc := 33) 0 dL_law_33 rfl ?_
      refine x_iload (μ := mu_l_law) (pc := 34) 4 dL_law_34 rfl ?_
      refine x_scald (μ := mu_l_law) (pc := 36) dL_law_36 hT15 (fun hr16 => ?_)
      refine x_bipush (μ := mu_l_law) (pc := 37) dL_law_37 (by decide) ?_
      refine x_iand (μ := mu_l_law) (pc := 39) dL_law_39 ?_
      refine x_tab (μ := mu_l_law) (pc := 40) (tgt := 176) 0 dL_law_40 (by decide) (by decide) (by decide) rfl rfl ?_ (fun hn17 => ?_)
      · refine x_aload_n (μ := mu_l_law) (pc := 176) 1 dL_law_176 rfl ?_
        refine x_aload_n (μ := mu_l_law) (pc := 177) 0 dL_law_177 rfl ?_
        refine x_iload (μ := mu_l_law) (pc := 178) 4 dL_law_178 rfl ?_
        refine x_iconst (μ := mu_l_law) (pc := 180) dL_law_180 ?_
        refine x_iadd (μ := mu_l_law) (pc := 181) dL_law_181 ?_
        refine x_scald (μ := mu_l_law) (pc := 182) dL_law_182 hT15 (fun hr18 => ?_)
        refine x_aload_n (μ := mu_l_law) (pc := 183) 0 dL_law_183 rfl ?_
        refine x_iload (μ := mu_l_law) (pc := 184) 4 dL_law_184 rfl ?_
        refine x_iconst (μ := mu_l_law) (pc := 186) dL_law_186 ?_
        refine x_iadd (μ := mu_l_law) (pc := 187) dL_law_187 ?_
        refine x_scald (μ := mu_l_law) (pc := 188) dL_law_188 hT15 (fun hr19 => ?_)
        refine x_aload_n (μ := mu_l_law) (pc := 189) 0 dL_law_189 rfl ?_
        refine x_iload (μ := mu_l_law) (pc := 190) 4 dL_law_190 rfl ?_
        refine x_iconst (μ := mu_l_law) (pc := 192) dL_law_192 ?_
        refine x_iadd (μ := mu_l_law) (pc := 193) dL_law_193 ?_
        refine x_scald (μ := mu_l_law) (pc := 194) dL_law_194 hT15 (fun hr20 => ?_)
        refine x_aload_n (μ := mu_l_law) (pc := 195) 0 dL_law_195 rfl ?_
        refine x_iload (μ := mu_l_law) (pc := 196) 4 dL_law_196 rfl ?_
        refine x_iconst (μ := mu_l_law) (pc := 198) dL_law_198 ?_
        refine x_iadd (μ := mu_l_law) (pc := 199) dL_law_199 ?_
        refine x_scald (μ := mu_l_law) (pc := 200) dL_law_200 hT15 (fun hr21 => ?_)
        refine x_aload_n (μ := mu_l_law) (pc := 201) 0 dL_law_201 rfl ?_
        refine x_iload (μ := mu_l_law) (pc := 202) 4 dL_law_202 rfl ?_
        refine x_iconst (μ := mu_l_law) (pc := 204) dL_law_204 ?_
        refine x_iadd (μ := mu_l_law) (pc := 205) dL_law_205 ?_
        refine x_scald (μ := mu_l_law) (pc := 206) dL_law_206 hT15 (fun hr22 => ?_)
        refine x_if (fun hT23 => ?_)
        refine x_callV_mi (μ := mu_l_law) (pc := 207) (ok_x1_feed (ω := ω) (l := l) (d := d - 1) hl (by omega) hr18 hr19 hr20 hr21 hr22) gRel_E gRel_E (fun _ q => q) q742 q743 q744 q221 q745 dL_law_207 rfl hT23 hy_x1_feed (by omega) (Nat.le_of_ble_eq_true rfl) rfl (Nat.le_of_ble_eq_true rfl) (fun x24 k26 hr25 => ?_)
        refine x_aload_n (μ := mu_l_law) (pc := 210) 2 dL_law_210 rfl ?_
        refine x_aload_n (μ := mu_l_law) (pc := 211) 0 dL_law_211 rfl ?_
        refine x_iload (μ := mu_l_law) (pc := 212) 4 dL_law_212 rfl ?_
        refine x_iconst (μ := mu_l_law) (pc := 214) dL_law_214 ?_
        refine x_iadd (μ := mu_l_law) (pc := 215) dL_law_215 ?_
        refine x_scald (μ := mu_l_law) (pc := 216) dL_law_216 (gT_E k26 hT15 (by decide)) (fun hr27 => ?_)
        refine x_aload_n (μ := mu_l_law) (pc := 217) 0 dL_law_217 rfl ?_
        refine x_iload (μ := mu_l_law) (pc := 218) 4 dL_law_218 rfl ?_
        refine x_iconst (μ := mu_l_law) (pc := 220) dL_law_220 ?_
        refine x_iadd (μ := mu_l_law) (pc := 221) dL_law_221 ?_
        refine x_scald (μ := mu_l_law) (pc := 222) dL_law_222 (gT_E k26 hT15 (by decide)) (fun hr28 => ?_)
        refine x_aload_n (μ := mu_l_law) (pc := 223) 0 dL_law_223 rfl ?_
        refine x_iload (μ := mu_l_law) (pc := 224) 4 dL_law_224 rfl ?_
        refine x_iconst (μ := mu_l_law) (pc := 226) dL_law_226 ?_
        refine x_iadd (μ := mu_l_law) (pc := 227) dL_law_227 ?_
        refine x_scald (μ := mu_l_law) (pc := 228) dL_law_228 (gT_E k26 hT15 (by decide)) (fun hr29 => ?_)
        refine x_aload_n (μ := mu_l_law) (pc := 229) 0 dL_law_229 rfl ?_
        refine x_iload (μ := mu_l_law) (pc := 230) 4 dL_law_230 rfl ?_
        refine x_iconst (μ := mu_l_law) (pc := 232) dL_law_232 ?_
        refine x_iadd (μ := mu_l_law) (pc := 233) dL_law_233 ?_
        refine x_scald (μ := mu_l_law) (pc := 234) dL_law_234 (gT_E k26 hT15 (by decide)) (fun hr30 => ?_)
        refine x_aload_n (μ := mu_l_law) (pc := 235) 0 dL_law_235 rfl ?_
        refine x_iload (μ := mu_l_law) (pc := 236) 4 dL_law_236 rfl ?_
        refine x_iconst (μ := mu_l_law) (pc := 238) dL_law_238 ?_
        refine x_iadd (μ := mu_l_law) (pc := 239) dL_law_239 ?_
        refine x_scald (μ := mu_l_law) (pc := 240) dL_law_240 (gT_E k26 hT15 (by decide)) (fun hr31 => ?_)
        refine x_if (fun hm32 => ?_)
        refine x_callV_mi (μ := mu_l_law) (pc := 241) (ok_tw_feed (ω := ω) (l := l) (d := d - 1) (by omega) (TMb_ok hm32) hr27 hr28 hr29 hr30 hr31) gRel_E gRel_Tw (fun _ q => gTw_E q) q2972 q2973 q2974 q232 q2975 dL_law_241 rfl (TMb_ok hm32).1 hy_tw_feed (by omega) (Nat.le_of_ble_eq_true rfl) rfl (Nat.le_of_ble_eq_true rfl) (fun x33 k35 hr34 => ?_)
        refine x_icmp_eq (μ := mu_l_law) (pc := 244) (tgt := 1884) dL_law_244 rfl hr25 hr34 ?_ ?_
        · exact okj_l_law_l23_j1884 hl hdp hv4 ih hK
        · refine x_iconst (μ := mu_l_law) (pc := 247) dL_law_247 ?_
          exact x_zret (μ := mu_l_law) (pc := 248) dL_law_248 rfl (by decide) rfl (gRel_E.1 _) (show g32 0 from (by decide))
      refine x_tab (μ := mu_l_law) (pc := 40) (tgt := 249) 1 dL_law_40 (by decide) (by decide) (by decide) rfl rfl ?_ (fun hn36 => ?_)
      · refine x_aload_n (μ := mu_l_law) (pc := 249) 1 dL_law_249 rfl ?_
        refine x_aload_n (μ := mu_l_law) (pc := 250) 0 dL_law_250 rfl ?_
        refine x_iload (μ := mu_l_law) (pc := 251) 4 dL_law_251 rfl ?_
        refine x_iconst (μ := mu_l_law) (pc := 253) dL_law_253 ?_
        refine x_iadd (μ := mu_l_law) (pc := 254) dL_law_254 ?_
        refine x_scald (μ := mu_l_law) (pc := 255) dL_law_255 hT15 (fun hr37 => ?_)
        refine x_if (fun hT38 => ?_)
        refine x_callV_mi (μ := mu_l_law) (pc := 256) (ok_x1_end (ω := ω) (l := l) (d := d - 1) hl (by omega) hr37) gRel_E gRel_E (fun _ q => q) q750 q751 q752 q221 q753 dL_law_256 rfl hT38 hy_x1_end (by omega) (Nat.le_of_ble_eq_true rfl) rfl (Nat.le_of_ble_eq_true rfl) (fun x39 k41 hr40 => ?_)
        refine x_aload_n (μ := mu_l_law) (pc := 259) 2 dL_law_259 rfl ?_
        refine x_aload_n (μ := mu_l_law) (pc := 260) 0 dL_law_260 rfl ?_
        refine x_iload (μ := mu_l_law) (pc := 261) 4 dL_law_261 rfl ?_
        refine x_iconst (μ := mu_l_law) (pc := 263) dL_law_263 ?_
        refine x_iadd (μ := mu_l_law) (pc := 264) dL_law_264 ?_
        refine x_scald (μ := mu_l_law) (pc := 265) dL_law_265 (gT_E k41 hT15 (by decide)) (fun hr42 => ?_)
        refine x_if (fun hm43 => ?_)
        refine x_callV_mi (μ := mu_l_law) (pc := 266) (ok_tw_end (ω := ω) (l := l) (d := d - 1) (by omega) (TMb_ok hm43) hr42) gRel_E gRel_Tw (fun _ q => gTw_E q) q2976 q2977 q2978 q232 q2979 dL_law_266 rfl (TMb_ok hm43).1 hy_tw_end (by omega) (Nat.le_of_ble_eq_true rfl) rfl (Nat.le_of_ble_eq_true rfl) (fun x44 k46 hr45 => ?_)
        refine x_icmp_eq (μ := mu_l_law) (pc := 269) (tgt := 1884) dL_law_269 rfl hr40 hr45 ?_ ?_
        · exact okj_l_law_l23_j1884 hl hdp hv4 ih hK
        · refine x_iconst (μ := mu_l_law) (pc := 272) dL_law_272 ?_
          exact x_zret (μ := mu_l_law) (pc := 273) dL_law_273 rfl (by decide) rfl (gRel_E.1 _) (show g32 0 from (by decide))
      refine x_tab (μ := mu_l_law) (pc := 40) (tgt := 274) 2 dL_law_40 (by decide) (by decide) (by decide) rfl rfl ?_ (fun hn47 => ?_)
      · refine x_aload_n (μ := mu_l_law) (pc := 274) 1 dL_law_274 rfl ?_
        refine x_aload_n (μ := mu_l_law) (pc := 275) 0 dL_law_275 rfl ?_
        refine x_iload (μ := mu_l_law) (pc := 276) 4 dL_law_276 rfl ?_
        refine x_iconst (μ := mu_l_law) (pc := 278) dL_law_278 ?_
        refine x_iadd (μ := mu_l_law) (pc := 279) dL_law_279 ?_
        refine x_scald (μ := mu_l_law) (pc := 280) dL_law_280 hT15 (fun hr48 => ?_)
        refine x_aload_n (μ := mu_l_law) (pc := 281) 0 dL_law_281 rfl ?_
        refine x_iload (μ := mu_l_law) (pc := 282) 4 dL_law_282 rfl ?_
        refine x_iconst (μ := mu_l_law) (pc := 284) dL_law_284 ?_
        refine x_iadd (μ := mu_l_law) (pc := 285) dL_law_285 ?_
        refine x_scald (μ := mu_l_law) (pc := 286) dL_law_286 hT15 (fun hr49 => ?_)
        refine x_aload_n (μ := mu_l_law) (pc := 287) 3 dL_law_287 rfl ?_
        refine x_callSW_mi (μ := mu_l_law) (pc := 288) (ok_x0_enter (ω := ω) (l := l) (d := d - 1) hl (by omega) hr48 hr49) gRel_E gRel_E (fun _ q => q) q1673 q1674 q220 q1675 dL_law_288 hy_x0_enter (by omega) (Nat.le_of_ble_eq_true rfl) rfl (Nat.le_of_ble_eq_true rfl) (fun x50 k52 hr51 => ?_)
        refine x_istore (μ := mu_l_law) (pc := 291) (lv' := [(5, vI (x50.1)), (0, vR v0), (1, vR v1), (2, vR v2), (3, vR v3), (4, vI v4)]) dL_law_291 (by decide) rfl ?_
        refine x_aload_n (μ := mu_l_law) (pc := 293) 3 dL_law_293 rfl ?_
        refine x_aload_n (μ := mu_l_law) (pc := 294) 1 dL_law_294 rfl ?_
        refine x_iload (μ := mu_l_law) (pc := 295) 5 dL_law_295 rfl ?_
        refine x_iconst (μ := mu_l_law) (pc := 297) dL_law_297 ?_
        refine x_iadd (μ := mu_l_law) (pc := 298) dL_law_298 ?_
        refine x_scald (μ := mu_l_law) (pc := 299) dL_law_299 (gT_E k52 hT15 (by decide)) (fun hr53 => ?_)
        refine x_aload_n (μ := mu_l_law) (pc := 300) 1 dL_law_300 rfl ?_
        refine x_iload (μ := mu_l_law) (pc := 301) 5 dL_law_301 rfl ?_
        refine x_iconst (μ := mu_l_law) (pc := 303) dL_law_303 ?_
        refine x_iadd (μ := mu_l_law) (pc := 304) dL_law_304 ?_
        refine x_scald (μ := mu_l_law) (pc := 305) dL_law_305 (gT_E k52 hT15 (by decide)) (fun hr54 => ?_)
        refine x_if (fun hm55 => ?_)
        refine x_callV_mi (μ := mu_l_law) (pc := 306) (ok_tw_enter (ω := ω) (l := l) (d := d - 1) (by omega) (TMb_ok hm55) hr53 hr54) gRel_E gRel_Tw (fun _ q => gTw_E q) q2983 q2984 q2985 q232 q2986 dL_law_306 rfl (TMb_ok hm55).1 hy_tw_enter (by omega) (Nat.le_of_ble_eq_true rfl) rfl (Nat.le_of_ble_eq_true rfl) (fun x56 k58 hr57 => ?_)
        refine x_istore (μ := mu_l_law) (pc := 309) (lv' := [(6, vI (x56.1)), (5, vI (x50.1)), (0, vR v0), (1, vR v1), (2, vR v2), (3, vR v3), (4, vI v4)]) dL_law_309 (by decide) rfl ?_
        refine x_aload_n (μ := mu_l_law) (pc := 311) 4 dL_law_311 rfl ?_
        refine x_if (fun hm59 => ?_)
        refine x_callV_pi (μ := mu_l_law) (pc := 312) (ok_tw_thrown (ω := ω) (l := l) (d := d - 1) (by omega) (TMb_ok hm59) ) gRel_E gRel_Tw (fun _ q => gTw_E q) q2952 q2953 q2954 q232 q2955 dL_law_312 rfl (TMb_ok hm59).1 hy_tw_thrown (by omega) (Nat.le_of_ble_eq_true rfl) rfl (Nat.le_of_ble_eq_true rfl) (fun x60 hr61 => ?_)
        refine x_iload (μ := mu_l_law) (pc := 315) 1 dL_law_315 rfl ?_
        refine x_icmp_eq (μ := mu_l_law) (pc := 317) (tgt := 322) dL_law_317 rfl hr61 hr51 ?_ ?_
        · refine x_iload (μ := mu_l_law) (pc := 322) 1 dL_law_322 rfl ?_
          refine x_if_ne (μ := mu_l_law) (pc := 324) (tgt := 339) dL_law_324 rfl hr51 ?_ ?_
          · refine x_goto (μ := mu_l_law) (pc := 339) (tgt := 1884) dL_law_339 rfl ?_
            refine x_loc (lv' := [(0, vR v0), (1, vR v1), (2, vR v2), (3, vR v3), (4, vI v4)]) [2, 3, 4, 5, 6] rfl ?_
            exact okj_l_law_l23_j1884 hl hdp hv4 ih hK
          · refine x_aload_n (μ := mu_l_law) (pc := 327) 5 dL_law_327 rfl ?_
            refine x_iconst (μ := mu_l_law) (pc := 328) dL_law_328 ?_
            refine x_if (fun hT62 => ?_)
            refine x_lald (μ := mu_l_law) (pc := 329) dL_law_329 hT62 rfl (fun hr63 => ?_)
            refine x_iload (μ := mu_l_law) (pc := 330) 0 dL_law_330 rfl ?_
            refine x_i2l (μ := mu_l_law) (pc := 332) dL_law_332 hr57 ?_
            refine x_lcmp (μ := mu_l_law) (pc := 333) dL_law_333 hr63 (g32_64 hr57) ?_
            refine x_if_eq (μ := mu_l_law) (pc := 334) (tgt := 339) dL_law_334 rfl (gcmp_rng _ _) ?_ ?_
            · refine x_goto (μ := mu_l_law) (pc := 339) (tgt := 1884) dL_law_339 rfl ?_
              refine x_loc (lv' := [(0, vR v0), (1, vR v1), (2, vR v2), (3, vR v3), (4, vI v4)]) [2, 3, 4, 5, 6] rfl ?_
              exact okj_l_law_l23_j1884 hl hdp hv4 ih hK
            · refine x_iconst (μ := mu_l_law) (pc := 337) dL_law_337 ?_
              exact x_zret (μ := mu_l_law) (pc := 338) dL_law_338 rfl (by decide) rfl (gRel_E.1 _) (show g32 0 from (by decide))
        · refine x_iconst (μ := mu_l_law) (pc := 320) dL_law_320 ?_
          exact x_zret (μ := mu_l_law) (pc := 321) dL_law_321 rfl (by decide) rfl (gRel_E.1 _) (show g32 0 from (by decide))
      refine x_tab (μ := mu_l_law) (pc := 40) (tgt := 342) 3 dL_law_40 (by decide) (by decide) (by decide) rfl rfl ?_ (fun hn64 => ?_)
      · refine x_aload_n (μ := mu_l_law) (pc := 342) 1 dL_law_342 rfl ?_
        refine x_aload_n (μ := mu_l_law) (pc := 343) 0 dL_law_343 rfl ?_
        refine x_iload (μ := mu_l_law) (pc := 344) 4 dL_law_344 rfl ?_
        refine x_iconst (μ := mu_l_law) (pc := 346) dL_law_346 ?_
        refine x_iadd (μ := mu_l_law) (pc := 347) dL_law_347 ?_
        refine x_scald (μ := mu_l_law) (pc := 348) dL_law_348 hT15 (fun hr65 => ?_)
        refine x_if (fun hT66 => ?_)
        refine x_callV_pi (μ := mu_l_law) (pc := 349) (ok_x1_fault (ω := ω) (l := l) (d := d - 1) hl (by omega) hr65) gRel_E gRel_E (fun _ q => q) q754 q755 q756 q221 q757 dL_law_349 rfl hT66 hy_x1_fault (by omega) (Nat.le_of_ble_eq_true rfl) rfl (Nat.le_of_ble_eq_true rfl) (fun x67 hr68 => ?_)
        refine x_aload_n (μ := mu_l_law) (pc := 352) 2 dL_law_352 rfl ?_
        refine x_aload_n (μ := mu_l_law) (pc := 353) 0 dL_law_353 rfl ?_
        refine x_iload (μ := mu_l_law) (pc := 354) 4 dL_law_354 rfl ?_
        refine x_iconst (μ := mu_l_law) (pc := 356) dL_law_356 ?_
        refine x_iadd (μ := mu_l_law) (pc := 357) dL_law_357 ?_
        refine x_scald (μ := mu_l_law) (pc := 358) dL_law_358 hT15 (fun hr69 => ?_)
        refine x_if (fun hm70 => ?_)
        refine x_callV_mi (μ := mu_l_law) (pc := 359) (ok_tw_fault (ω := ω) (l := l) (d := d - 1) (by omega) (TMb_ok hm70) hr69) gRel_E gRel_Tw (fun _ q => gTw_E q) q3199 q3200 q3201 q232 q3202 dL_law_359 rfl (TMb_ok hm70).1 hy_tw_fault (by omega) (Nat.le_of_ble_eq_true rfl) rfl (Nat.le_of_ble_eq_true rfl) (fun x71 k73 hr72 => ?_)
        refine x_icmp_eq (μ := mu_l_law) (pc := 362) (tgt := 1884) dL_law_362 rfl hr68 hr72 ?_ ?_
        · exact okj_l_law_l23_j1884 hl hdp hv4 ih hK
        · refine x_iconst (μ := mu_l_law) (pc := 365) dL_law_365 ?_
          exact x_zret (μ := mu_l_law) (pc := 366) dL_law_366 rfl (by decide) rfl (gRel_E.1 _) (show g32 0 from (by decide))
      refine x_tab (μ := mu_l_law) (pc := 40) (tgt := 367) 4 dL_law_40 (by decide) (by decide) (by decide) rfl rfl ?_ (fun hn74 => ?_)
      · refine x_aload_n (μ := mu_l_law) (pc := 367) 1 dL_law_367 rfl ?_
        refine x_aload_n (μ := mu_l_law) (pc := 368) 0 dL_law_368 rfl ?_
        refine x_iload (μ := mu_l_law) (pc := 369) 4 dL_law_369 rfl ?_
        refine x_iconst (μ := mu_l_law) (pc := 371) dL_law_371 ?_
        refine x_iadd (μ := mu_l_law) (pc := 372) dL_law_372 ?_
        refine x_scald (μ := mu_l_law) (pc := 373) dL_law_373 hT15 (fun hr75 => ?_)
        refine x_aload_n (μ := mu_l_law) (pc := 374) 0 dL_law_374 rfl ?_
        refine x_iload (μ := mu_l_law) (pc := 375) 4 dL_law_375 rfl ?_
        refine x_iconst (μ := mu_l_law) (pc := 377) dL_law_377 ?_
        refine x_iadd (μ := mu_l_law) (pc := 378) dL_law_378 ?_
        refine x_scald (μ := mu_l_law) (pc := 379) dL_law_379 hT15 (fun hr76 => ?_)
        refine x_aload_n (μ := mu_l_law) (pc := 380) 0 dL_law_380 rfl ?_
        refine x_iload (μ := mu_l_law) (pc := 381) 4 dL_law_381 rfl ?_
        refine x_iconst (μ := mu_l_law) (pc := 383) dL_law_383 ?_
        refine x_iadd (μ := mu_l_law) (pc := 384) dL_law_384 ?_
        refine x_scald (μ := mu_l_law) (pc := 385) dL_law_385 hT15 (fun hr77 => ?_)
        refine x_aload_n (μ := mu_l_law) (pc := 386) 0 dL_law_386 rfl ?_
        refine x_iload (μ := mu_l_law) (pc := 387) 4 dL_law_387 rfl ?_
        refine x_iconst (μ := mu_l_law) (pc := 389) dL_law_389 ?_
        refine x_iadd (μ := mu_l_law) (pc := 390) dL_law_390 ?_
        refine x_scald (μ := mu_l_law) (pc := 391) dL_law_391 hT15 (fun hr78 => ?_)
        refine x_aload_n (μ := mu_l_law) (pc := 392) 3 dL_law_392 rfl ?_
        refine x_callSW_mi (μ := mu_l_law) (pc := 393) (ok_x0_erase (ω := ω) (l := l) (d := d - 1) hl (by omega) hr75 hr76 hr77 hr78) gRel_E gRel_E (fun _ q => q) q2180 q2181 q220 q2182 dL_law_393 hy_x0_erase (by omega) (Nat.le_of_ble_eq_true rfl) rfl (Nat.le_of_ble_eq_true rfl) (fun x79 k81 hr80 => ?_)
        refine x_istore (μ := mu_l_law) (pc := 396) (lv' := [(5, vI (x79.1)), (0, vR v0), (1, vR v1), (2, vR v2), (3, vR v3), (4, vI v4)]) dL_law_396 (by decide) rfl ?_
        refine x_aload_n (μ := mu_l_law) (pc := 398) 3 dL_law_398 rfl ?_
        refine x_aload_n (μ := mu_l_law) (pc := 399) 1 dL_law_399 rfl ?_
        refine x_iload (μ := mu_l_law) (pc := 400) 5 dL_law_400 rfl ?_
        refine x_iconst (μ := mu_l_law) (pc := 402) dL_law_402 ?_
        refine x_iadd (μ := mu_l_law) (pc := 403) dL_law_403 ?_
        refine x_scald (μ := mu_l_law) (pc := 404) dL_law_404 (gT_E k81 hT15 (by decide)) (fun hr82 => ?_)
        refine x_aload_n (μ := mu_l_law) (pc := 405) 1 dL_law_405 rfl ?_
        refine x_iload (μ := mu_l_law) (pc := 406) 5 dL_law_406 rfl ?_
        refine x_iconst (μ := mu_l_law) (pc := 408) dL_law_408 ?_
        refine x_iadd (μ := mu_l_law) (pc := 409) dL_law_409 ?_
        refine x_scald (μ := mu_l_law) (pc := 410) dL_law_410 (gT_E k81 hT15 (by decide)) (fun hr83 => ?_)
        refine x_aload_n (μ := mu_l_law) (pc := 411) 1 dL_law_411 rfl ?_
        refine x_iload (μ := mu_l_law) (pc := 412) 5 dL_law_412 rfl ?_
        refine x_iconst (μ := mu_l_law) (pc := 414) dL_law_414 ?_
        refine x_iadd (μ := mu_l_law) (pc := 415) dL_law_415 ?_
        refine x_scald (μ := mu_l_law) (pc := 416) dL_law_416 (gT_E k81 hT15 (by decide)) (fun hr84 => ?_)
        refine x_aload_n (μ := mu_l_law) (pc := 417) 1 dL_law_417 rfl ?_
        refine x_iload (μ := mu_l_law) (pc := 418) 5 dL_law_418 rfl ?_
        refine x_iconst (μ := mu_l_law) (pc := 420) dL_law_420 ?_
        refine x_iadd (μ := mu_l_law) (pc := 421) dL_law_421 ?_
        refine x_scald (μ := mu_l_law) (pc := 422) dL_law_422 (gT_E k81 hT15 (by decide)) (fun hr85 => ?_)
        refine x_if (fun hm86 => ?_)
        refine x_callV_mi (μ := mu_l_law) (pc := 423) (ok_tw_erase (ω := ω) (l := l) (d := d - 1) (by omega) (TMb_ok hm86) hr82 hr83 hr84 hr85) gRel_E gRel_Tw (fun _ q => gTw_E q) q3519 q3520 q3521 q232 q3522 dL_law_423 rfl (TMb_ok hm86).1 hy_tw_erase (by omega) (Nat.le_of_ble_eq_true rfl) rfl (Nat.le_of_ble_eq_true rfl) (fun x87 k89 hr88 => ?_)
        refine x_istore (μ := mu_l_law) (pc := 426) (lv' := [(6, vI (x87.1)), (5, vI (x79.1)), (0, vR v0), (1, vR v1), (2, vR v2), (3, vR v3), (4, vI v4)]) dL_law_426 (by decide) rfl ?_
        refine x_aload_n (μ := mu_l_law) (pc := 428) 4 dL_law_428 rfl ?_
        refine x_if (fun hm90 => ?_)
        refine x_callV_pi (μ := mu_l_law) (pc := 429) (ok_tw_thrown (ω := ω) (l := l) (d := d - 1) (by omega) (TMb_ok hm90) ) gRel_E gRel_Tw (fun _ q => gTw_E q) q2952 q2953 q2954 q232 q2955 dL_law_429 rfl (TMb_ok hm90).1 hy_tw_thrown (by omega) (Nat.le_of_ble_eq_true rfl) rfl (Nat.le_of_ble_eq_true rfl) (fun x91 hr92 => ?_)
        refine x_iload (μ := mu_l_law) (pc := 432) 1 dL_law_432 rfl ?_
        refine x_icmp_eq (μ := mu_l_law) (pc := 434) (tgt := 439) dL_law_434 rfl hr92 hr80 ?_ ?_
        · refine x_iload (μ := mu_l_law) (pc := 439) 1 dL_law_439 rfl ?_
          refine x_if_ne (μ := mu_l_law) (pc := 441) (tgt := 456) dL_law_441 rfl hr80 ?_ ?_
          · refine x_goto (μ := mu_l_law) (pc := 456) (tgt := 1884) dL_law_456 rfl ?_
            refine x_loc (lv' := [(0, vR v0), (1, vR v1), (2, vR v2), (3, vR v3), (4, vI v4)]) [2, 3, 4, 5, 6] rfl ?_
            exact okj_l_law_l23_j1884 hl hdp hv4 ih hK
          · refine x_aload_n (μ := mu_l_law) (pc := 444) 5 dL_law_444 rfl ?_
            refine x_iconst (μ := mu_l_law) (pc := 445) dL_law_445 ?_
            refine x_if (fun hT93 => ?_)
            refine x_lald (μ := mu_l_law) (pc := 446) dL_law_446 hT93 rfl (fun hr94 => ?_)
            refine x_iload (μ := mu_l_law) (pc := 447) 0 dL_law_447 rfl ?_
            refine x_i2l (μ := mu_l_law) (pc := 449) dL_law_449 hr88 ?_
            refine x_lcmp (μ := mu_l_law) (pc := 450) dL_law_450 hr94 (g32_64 hr88) ?_
            refine x_if_eq (μ := mu_l_law) (pc := 451) (tgt := 456) dL_law_451 rfl (gcmp_rng _ _) ?_ ?_
            · refine x_goto (μ := mu_l_law) (pc := 456) (tgt := 1884) dL_law_456 rfl ?_
              refine x_loc (lv' := [(0, vR v0), (1, vR v1), (2, vR v2), (3, vR v3), (4, vI v4)]) [2, 3, 4, 5, 6] rfl ?_
              exact okj_l_law_l23_j1884 hl hdp hv4 ih hK
            · refine x_iconst (μ := mu_l_law) (pc := 454) dL_law_454 ?_
              exact x_zret (μ := mu_l_law) (pc := 455) dL_law_455 rfl (by decide) rfl (gRel_E.1 _) (show g32 0 from (by decide))
        · refine x_iconst (μ := mu_l_law) (pc := 437) dL_law_437 ?_
          exact x_zret (μ := mu_l_law) (pc := 438) dL_law_438 rfl (by decide) rfl (gRel_E.1 _) (show g32 0 from (by decide))
      refine x_tab (μ := mu_l_law) (pc := 40) (tgt := 459) 5 dL_law_40 (by decide) (by decide) (by decide) rfl rfl ?_ (fun hn95 => ?_)
      · refine x_aload_n (μ := mu_l_law) (pc := 459) 1 dL_law_459 rfl ?_
        refine x_aload_n (μ := mu_l_law) (pc := 460) 0 dL_law_460 rfl ?_
        refine x_iload (μ := mu_l_law) (pc := 461) 4 dL_law_461 rfl ?_
        refine x_iconst (μ := mu_l_law) (pc := 463) dL_law_463 ?_
        refine x_iadd (μ := mu_l_law) (pc := 464) dL_law_464 ?_
        refine x_scald (μ := mu_l_law) (pc := 465) dL_law_465 hT15 (fun hr96 => ?_)
        refine x_aload_n (μ := mu_l_law) (pc := 466) 0 dL_law_466 rfl ?_
        refine x_iload (μ := mu_l_law) (pc := 467) 4 dL_law_467 rfl ?_
        refine x_iconst (μ := mu_l_law) (pc := 469) dL_law_469 ?_
        refine x_iadd (μ := mu_l_law) (pc := 470) dL_law_470 ?_
        refine x_scald (μ := mu_l_law) (pc := 471) dL_law_471 hT15 (fun hr97 => ?_)
        refine x_aload_n (μ := mu_l_law) (pc := 472) 3 dL_law_472 rfl ?_
        refine x_callSW_mi (μ := mu_l_law) (pc := 473) (ok_x0_insert (ω := ω) (l := l) (d := d - 1) hl (by omega) hr96 hr97) gRel_E gRel_E (fun _ q => q) q2191 q2192 q220 q2193 dL_law_473 hy_x0_insert (by omega) (Nat.le_of_ble_eq_true rfl) rfl (Nat.le_of_ble_eq_true rfl) (fun x98 k100 hr99 => ?_)
        refine x_istore (μ := mu_l_law) (pc := 476) (lv' := [(5, vI (x98.1)), (0, vR v0), (1, vR v1), (2, vR v2), (3, vR v3), (4, vI v4)]) dL_law_476 (by decide) rfl ?_
        refine x_aload_n (μ := mu_l_law) (pc := 478) 3 dL_law_478 rfl ?_
        refine x_aload_n (μ := mu_l_law) (pc := 479) 1 dL_law_479 rfl ?_
        refine x_iload (μ := mu_l_law) (pc := 480) 5 dL_law_480 rfl ?_
        refine x_iconst (μ := mu_l_law) (pc := 482) dL_law_482 ?_
        refine x_iadd (μ := mu_l_law) (pc := 483) dL_law_483 ?_
        refine x_scald (μ := mu_l_law) (pc := 484) dL_law_484 (gT_E k100 hT15 (by decide)) (fun hr101 => ?_)
        refine x_aload_n (μ := mu_l_law) (pc := 485) 1 dL_law_485 rfl ?_
        refine x_iload (μ := mu_l_law) (pc := 486) 5 dL_law_486 rfl ?_
        refine x_iconst (μ := mu_l_law) (pc := 488) dL_law_488 ?_
        refine x_iadd (μ := mu_l_law) (pc := 489) dL_law_489 ?_
        refine x_scald (μ := mu_l_law) (pc := 490) dL_law_490 (gT_E k100 hT15 (by decide)) (fun hr102 => ?_)
        refine x_if (fun hm103 => ?_)
        refine x_callV_mi (μ := mu_l_law) (pc := 491) (ok_tw_insert (ω := ω) (l := l) (d := d - 1) (by omega) (TMb_ok hm103) hr101 hr102) gRel_E gRel_Tw (fun _ q => gTw_E q) q3523 q3524 q3525 q232 q3526 dL_law_491 rfl (TMb_ok hm103).1 hy_tw_insert (by omega) (Nat.le_of_ble_eq_true rfl) rfl (Nat.le_of_ble_eq_true rfl) (fun x104 k106 hr105 => ?_)
        refine x_istore (μ := mu_l_law) (pc := 494) (lv' := [(6, vI (x104.1)), (5, vI (x98.1)), (0, vR v0), (1, vR v1), (2, vR v2), (3, vR v3), (4, vI v4)]) dL_law_494 (by decide) rfl ?_
        refine x_aload_n (μ := mu_l_law) (pc := 496) 4 dL_law_496 rfl ?_
        refine x_if (fun hm107 => ?_)
        refine x_callV_pi (μ := mu_l_law) (pc := 497) (ok_tw_thrown (ω := ω) (l := l) (d := d - 1) (by omega) (TMb_ok hm107) ) gRel_E gRel_Tw (fun _ q => gTw_E q) q2952 q2953 q2954 q232 q2955 dL_law_497 rfl (TMb_ok hm107).1 hy_tw_thrown (by omega) (Nat.le_of_ble_eq_true rfl) rfl (Nat.le_of_ble_eq_true rfl) (fun x108 hr109 => ?_)
        refine x_iload (μ := mu_l_law) (pc := 500) 1 dL_law_500 rfl ?_
        refine x_icmp_eq (μ := mu_l_law) (pc := 502) (tgt := 507) dL_law_502 rfl hr109 hr99 ?_ ?_
        · refine x_iload (μ := mu_l_law) (pc := 507) 1 dL_law_507 rfl ?_
          refine x_if_ne (μ := mu_l_law) (pc := 509) (tgt := 524) dL_law_509 rfl hr99 ?_ ?_
          · refine x_goto (μ := mu_l_law) (pc := 524) (tgt := 1884) dL_law_524 rfl ?_
            refine x_loc (lv' := [(0, vR v0), (1, vR v1), (2, vR v2), (3, vR v3), (4, vI v4)]) [2, 3, 4, 5, 6] rfl ?_
            exact okj_l_law_l23_j1884 hl hdp hv4 ih hK
          · refine x_aload_n (μ := mu_l_law) (pc := 512) 5 dL_law_512 rfl ?_
            refine x_iconst (μ := mu_l_law) (pc := 513) dL_law_513 ?_
            refine x_if (fun hT110 => ?_)
            refine x_lald (μ := mu_l_law) (pc := 514) dL_law_514 hT110 rfl (fun hr111 => ?_)
            refine x_iload (μ := mu_l_law) (pc := 515) 0 dL_law_515 rfl ?_
            refine x_i2l (μ := mu_l_law) (pc := 517) dL_law_517 hr105 ?_
            refine x_lcmp (μ := mu_l_law) (pc := 518) dL_law_518 hr111 (g32_64 hr105) ?_
            refine x_if_eq (μ := mu_l_law) (pc := 519) (tgt := 524) dL_law_519 rfl (gcmp_rng _ _) ?_ ?_
            · refine x_goto (μ := mu_l_law) (pc := 524) (tgt := 1884) dL_law_524 rfl ?_
              refine x_loc (lv' := [(0, vR v0), (1, vR v1), (2, vR v2), (3, vR v3), (4, vI v4)]) [2, 3, 4, 5, 6] rfl ?_
              exact okj_l_law_l23_j1884 hl hdp hv4 ih hK
            · refine x_iconst (μ := mu_l_law) (pc := 522) dL_law_522 ?_
              exact x_zret (μ := mu_l_law) (pc := 523) dL_law_523 rfl (by decide) rfl (gRel_E.1 _) (show g32 0 from (by decide))
        · refine x_iconst (μ := mu_l_law) (pc := 505) dL_law_505 ?_
          exact x_zret (μ := mu_l_law) (pc := 506) dL_law_506 rfl (by decide) rfl (gRel_E.1 _) (show g32 0 from (by decide))
      refine x_tab (μ := mu_l_law) (pc := 40) (tgt := 527) 6 dL_law_40 (by decide) (by decide) (by decide) rfl rfl ?_ (fun hn112 => ?_)
      · refine x_aload_n (μ := mu_l_law) (pc := 527) 1 dL_law_527 rfl ?_
        refine x_aload_n (μ := mu_l_law) (pc := 528) 0 dL_law_528 rfl ?_
        refine x_iload (μ := mu_l_law) (pc := 529) 4 dL_law_529 rfl ?_
        refine x_iconst (μ := mu_l_law) (pc := 531) dL_law_531 ?_
        refine x_iadd (μ := mu_l_law) (pc := 532) dL_law_532 ?_
        refine x_scald (μ := mu_l_law) (pc := 533) dL_law_533 hT15 (fun hr113 => ?_)
        refine x_aload_n (μ := mu_l_law) (pc := 534) 0 dL_law_534 rfl ?_
        refine x_iload (μ := mu_l_law) (pc := 535) 4 dL_law_535 rfl ?_
        refine x_iconst (μ := mu_l_law) (pc := 537) dL_law_537 ?_
        refine x_iadd (μ := mu_l_law) (pc := 538) dL_law_538 ?_
        refine x_scald (μ := mu_l_law) (pc := 539) dL_law_539 hT15 (fun hr114 => ?_)
        refine x_aload_n (μ := mu_l_law) (pc := 540) 3 dL_law_540 rfl ?_
        refine x_callSW_mi (μ := mu_l_law) (pc := 541) (ok_x0_remove (ω := ω) (l := l) (d := d - 1) hl (by omega) hr113 hr114) gRel_E gRel_E (fun _ q => q) q2240 q2241 q220 q2242 dL_law_541 hy_x0_remove (by omega) (Nat.le_of_ble_eq_true rfl) rfl (Nat.le_of_ble_eq_true rfl) (fun x115 k117 hr116 => ?_)
        refine x_istore (μ := mu_l_law) (pc := 544) (lv' := [(5, vI (x115.1)), (0, vR v0), (1, vR v1), (2, vR v2), (3, vR v3), (4, vI v4)]) dL_law_544 (by decide) rfl ?_
        refine x_aload_n (μ := mu_l_law) (pc := 546) 3 dL_law_546 rfl ?_
        refine x_aload_n (μ := mu_l_law) (pc := 547) 1 dL_law_547 rfl ?_
        refine x_iload (μ := mu_l_law) (pc := 548) 5 dL_law_548 rfl ?_
        refine x_iconst (μ := mu_l_law) (pc := 550) dL_law_550 ?_
        refine x_iadd (μ := mu_l_law) (pc := 551) dL_law_551 ?_
        refine x_scald (μ := mu_l_law) (pc := 552) dL_law_552 (gT_E k117 hT15 (by decide)) (fun hr118 => ?_)
        refine x_aload_n (μ := mu_l_law) (pc := 553) 1 dL_law_553 rfl ?_
        refine x_iload (μ := mu_l_law) (pc := 554) 5 dL_law_554 rfl ?_
        refine x_iconst (μ := mu_l_law) (pc := 556) dL_law_556 ?_
        refine x_iadd (μ := mu_l_law) (pc := 557) dL_law_557 ?_
        refine x_scald (μ := mu_l_law) (pc := 558) dL_law_558 (gT_E k117 hT15 (by decide)) (fun hr119 => ?_)
        refine x_if (fun hm120 => ?_)
        refine x_callV_mi (μ := mu_l_law) (pc := 559) (ok_tw_remove (ω := ω) (l := l) (d := d - 1) (by omega) (TMb_ok hm120) hr118 hr119) gRel_E gRel_Tw (fun _ q => gTw_E q) q3549 q3550 q3551 q232 q3552 dL_law_559 rfl (TMb_ok hm120).1 hy_tw_remove (by omega) (Nat.le_of_ble_eq_true rfl) rfl (Nat.le_of_ble_eq_true rfl) (fun x121 k123 hr122 => ?_)
        refine x_istore (μ := mu_l_law) (pc := 562) (lv' := [(6, vI (x121.1)), (5, vI (x115.1)), (0, vR v0), (1, vR v1), (2, vR v2), (3, vR v3), (4, vI v4)]) dL_law_562 (by decide) rfl ?_
        refine x_aload_n (μ := mu_l_law) (pc := 564) 4 dL_law_564 rfl ?_
        refine x_if (fun hm124 => ?_)
        refine x_callV_pi (μ := mu_l_law) (pc := 565) (ok_tw_thrown (ω := ω) (l := l) (d := d - 1) (by omega) (TMb_ok hm124) ) gRel_E gRel_Tw (fun _ q => gTw_E q) q2952 q2953 q2954 q232 q2955 dL_law_565 rfl (TMb_ok hm124).1 hy_tw_thrown (by omega) (Nat.le_of_ble_eq_true rfl) rfl (Nat.le_of_ble_eq_true rfl) (fun x125 hr126 => ?_)
        refine x_iload (μ := mu_l_law) (pc := 568) 1 dL_law_568 rfl ?_
        refine x_icmp_eq (μ := mu_l_law) (pc := 570) (tgt := 575) dL_law_570 rfl hr126 hr116 ?_ ?_
        · refine x_iload (μ := mu_l_law) (pc := 575) 1 dL_law_575 rfl ?_
          refine x_if_ne (μ := mu_l_law) (pc := 577) (tgt := 592) dL_law_577 rfl hr116 ?_ ?_
          · refine x_goto (μ := mu_l_law) (pc := 592) (tgt := 1884) dL_law_592 rfl ?_
            refine x_loc (lv' := [(0, vR v0), (1, vR v1), (2, vR v2), (3, vR v3), (4, vI v4)]) [2, 3, 4, 5, 6] rfl ?_
            exact okj_l_law_l23_j1884 hl hdp hv4 ih hK
          · refine x_aload_n (μ := mu_l_law) (pc := 580) 5 dL_law_580 rfl ?_
            refine x_iconst (μ := mu_l_law) (pc := 581) dL_law_581 ?_
            refine x_if (fun hT127 => ?_)
            refine x_lald (μ := mu_l_law) (pc := 582) dL_law_582 hT127 rfl (fun hr128 => ?_)
            refine x_iload (μ := mu_l_law) (pc := 583) 0 dL_law_583 rfl ?_
            refine x_i2l (μ := mu_l_law) (pc := 585) dL_law_585 hr122 ?_
            refine x_lcmp (μ := mu_l_law) (pc := 586) dL_law_586 hr128 (g32_64 hr122) ?_
            refine x_if_eq (μ := mu_l_law) (pc := 587) (tgt := 592) dL_law_587 rfl (gcmp_rng _ _) ?_ ?_
            · refine x_goto (μ := mu_l_law) (pc := 592) (tgt := 1884) dL_law_592 rfl ?_
              refine x_loc (lv' := [(0, vR v0), (1, vR v1), (2, vR v2), (3, vR v3), (4, vI v4)]) [2, 3, 4, 5, 6] rfl ?_
              exact okj_l_law_l23_j1884 hl hdp hv4 ih hK
            · refine x_iconst (μ := mu_l_law) (pc := 590) dL_law_590 ?_
              exact x_zret (μ := mu_l_law) (pc := 591) dL_law_591 rfl (by decide) rfl (gRel_E.1 _) (show g32 0 from (by decide))
        · refine x_iconst (μ := mu_l_law) (pc := 573) dL_law_573 ?_
          exact x_zret (μ := mu_l_law) (pc := 574) dL_law_574 rfl (by decide) rfl (gRel_E.1 _) (show g32 0 from (by decide))
      refine x_tab (μ := mu_l_law) (pc := 40) (tgt := 595) 7 dL_law_40 (by decide) (by decide) (by decide) rfl rfl ?_ (fun hn129 => ?_)
      · refine x_aload_n (μ := mu_l_law) (pc := 595) 1 dL_law_595 rfl ?_
        refine x_aload_n (μ := mu_l_law) (pc := 596) 0 dL_law_596 rfl ?_
        refine x_iload (μ := mu_l_law) (pc := 597) 4 dL_law_597 rfl ?_
        refine x_iconst (μ := mu_l_law) (pc := 599) dL_law_599 ?_
        refine x_iadd (μ := mu_l_law) (pc := 600) dL_law_600 ?_
        refine x_scald (μ := mu_l_law) (pc := 601) dL_law_601 hT15 (fun hr130 => ?_)
        refine x_aload_n (μ := mu_l_law) (pc := 602) 0 dL_law_602 rfl ?_
        refine x_iload (μ := mu_l_law) (pc := 603) 4 dL_law_603 rfl ?_
        refine x_iconst (μ := mu_l_law) (pc := 605) dL_law_605 ?_
        refine x_iadd (μ := mu_l_law) (pc := 606) dL_law_606 ?_
        refine x_scald (μ := mu_l_law) (pc := 607) dL_law_607 hT15 (fun hr131 => ?_)
        refine x_aload_n (μ := mu_l_law) (pc := 608) 0 dL_law_608 rfl ?_
        refine x_iload (μ := mu_l_law) (pc := 609) 4 dL_law_609 rfl ?_
        refine x_iconst (μ := mu_l_law) (pc := 611) dL_law_611 ?_
        refine x_iadd (μ := mu_l_law) (pc := 612) dL_law_612 ?_
        refine x_scald (μ := mu_l_law) (pc := 613) dL_law_613 hT15 (fun hr132 => ?_)
        refine x_aload_n (μ := mu_l_law) (pc := 614) 3 dL_law_614 rfl ?_
        refine x_callSW_mi (μ := mu_l_law) (pc := 615) (ok_x0_move (ω := ω) (l := l) (d := d - 1) hl (by omega) hr130 hr131 hr132) gRel_E gRel_E (fun _ q => q) q2250 q2251 q220 q2252 dL_law_615 hy_x0_move (by omega) (Nat.le_of_ble_eq_true rfl) rfl (Nat.le_of_ble_eq_true rfl) (fun x133 k135 hr134 => ?_)
        refine x_istore (μ := mu_l_law) (pc := 618) (lv' := [(5, vI (x133.1)), (0, vR v0), (1, vR v1), (2, vR v2), (3, vR v3), (4, vI v4)]) dL_law_618 (by decide) rfl ?_
        refine x_aload_n (μ := mu_l_law) (pc := 620) 3 dL_law_620 rfl ?_
        refine x_aload_n (μ := mu_l_law) (pc := 621) 1 dL_law_621 rfl ?_
        refine x_iload (μ := mu_l_law) (pc := 622) 5 dL_law_622 rfl ?_
        refine x_iconst (μ := mu_l_law) (pc := 624) dL_law_624 ?_
        refine x_iadd (μ := mu_l_law) (pc := 625) dL_law_625 ?_
        refine x_scald (μ := mu_l_law) (pc := 626) dL_law_626 (gT_E k135 hT15 (by decide)) (fun hr136 => ?_)
        refine x_aload_n (μ := mu_l_law) (pc := 627) 1 dL_law_627 rfl ?_
        refine x_iload (μ := mu_l_law) (pc := 628) 5 dL_law_628 rfl ?_
        refine x_iconst (μ := mu_l_law) (pc := 630) dL_law_630 ?_
        refine x_iadd (μ := mu_l_law) (pc := 631) dL_law_631 ?_
        refine x_scald (μ := mu_l_law) (pc := 632) dL_law_632 (gT_E k135 hT15 (by decide)) (fun hr137 => ?_)
        refine x_aload_n (μ := mu_l_law) (pc := 633) 1 dL_law_633 rfl ?_
        refine x_iload (μ := mu_l_law) (pc := 634) 5 dL_law_634 rfl ?_
        refine x_iconst (μ := mu_l_law) (pc := 636) dL_law_636 ?_
        refine x_iadd (μ := mu_l_law) (pc := 637) dL_law_637 ?_
        refine x_scald (μ := mu_l_law) (pc := 638) dL_law_638 (gT_E k135 hT15 (by decide)) (fun hr138 => ?_)
        refine x_if (fun hm139 => ?_)
        refine x_callV_mi (μ := mu_l_law) (pc := 639) (ok_tw_move (ω := ω) (l := l) (d := d - 1) (by omega) (TMb_ok hm139) hr136 hr137 hr138) gRel_E gRel_Tw (fun _ q => gTw_E q) q3557 q3558 q3559 q232 q3560 dL_law_639 rfl (TMb_ok hm139).1 hy_tw_move (by omega) (Nat.le_of_ble_eq_true rfl) rfl (Nat.le_of_ble_eq_true rfl) (fun x140 k142 hr141 => ?_)
        refine x_istore (μ := mu_l_law) (pc := 642) (lv' := [(6, vI (x140.1)), (5, vI (x133.1)), (0, vR v0), (1, vR v1), (2, vR v2), (3, vR v3), (4, vI v4)]) dL_law_642 (by decide) rfl ?_
        refine x_aload_n (μ := mu_l_law) (pc := 644) 4 dL_law_644 rfl ?_
        refine x_if (fun hm143 => ?_)
        refine x_callV_pi (μ := mu_l_law) (pc := 645) (ok_tw_thrown (ω := ω) (l := l) (d := d - 1) (by omega) (TMb_ok hm143) ) gRel_E gRel_Tw (fun _ q => gTw_E q) q2952 q2953 q2954 q232 q2955 dL_law_645 rfl (TMb_ok hm143).1 hy_tw_thrown (by omega) (Nat.le_of_ble_eq_true rfl) rfl (Nat.le_of_ble_eq_true rfl) (fun x144 hr145 => ?_)
        refine x_iload (μ := mu_l_law) (pc := 648) 1 dL_law_648 rfl ?_
        refine x_icmp_eq (μ := mu_l_law) (pc := 650) (tgt := 655) dL_law_650 rfl hr145 hr134 ?_ ?_
        · refine x_iload (μ := mu_l_law) (pc := 655) 1 dL_law_655 rfl ?_
          refine x_if_ne (μ := mu_l_law) (pc := 657) (tgt := 672) dL_law_657 rfl hr134 ?_ ?_
          · refine x_goto (μ := mu_l_law) (pc := 672) (tgt := 1884) dL_law_672 rfl ?_
            refine x_loc (lv' := [(0, vR v0), (1, vR v1), (2, vR v2), (3, vR v3), (4, vI v4)]) [2, 3, 4, 5, 6] rfl ?_
            exact okj_l_law_l23_j1884 hl hdp hv4 ih hK
          · refine x_aload_n (μ := mu_l_law) (pc := 660) 5 dL_law_660 rfl ?_
            refine x_iconst (μ := mu_l_law) (pc := 661) dL_law_661 ?_
            refine x_if (fun hT146 => ?_)
            refine x_lald (μ := mu_l_law) (pc := 662) dL_law_662 hT146 rfl (fun hr147 => ?_)
            refine x_iload (μ := mu_l_law) (pc := 663) 0 dL_law_663 rfl ?_
            refine x_i2l (μ := mu_l_law) (pc := 665) dL_law_665 hr141 ?_
            refine x_lcmp (μ := mu_l_law) (pc := 666) dL_law_666 hr147 (g32_64 hr141) ?_
            refine x_if_eq (μ := mu_l_law) (pc := 667) (tgt := 672) dL_law_667 rfl (gcmp_rng _ _) ?_ ?_
            · refine x_goto (μ := mu_l_law) (pc := 672) (tgt := 1884) dL_law_672 rfl ?_
              refine x_loc (lv' := [(0, vR v0), (1, vR v1), (2, vR v2), (3, vR v3), (4, vI v4)]) [2, 3, 4, 5, 6] rfl ?_
              exact okj_l_law_l23_j1884 hl hdp hv4 ih hK
            · refine x_iconst (μ := mu_l_law) (pc := 670) dL_law_670 ?_
              exact x_zret (μ := mu_l_law) (pc := 671) dL_law_671 rfl (by decide) rfl (gRel_E.1 _) (show g32 0 from (by decide))
        · refine x_iconst (μ := mu_l_law) (pc := 653) dL_law_653 ?_
          exact x_zret (μ := mu_l_law) (pc := 654) dL_law_654 rfl (by decide) rfl (gRel_E.1 _) (show g32 0 from (by decide))
      refine x_tab (μ := mu_l_law) (pc := 40) (tgt := 675) 8 dL_law_40 (by decide) (by decide) (by decide) rfl rfl ?_ (fun hn148 => ?_)
      · refine x_aload_n (μ := mu_l_law) (pc := 675) 1 dL_law_675 rfl ?_
        refine x_aload_n (μ := mu_l_law) (pc := 676) 0 dL_law_676 rfl ?_
        refine x_iload (μ := mu_l_law) (pc := 677) 4 dL_law_677 rfl ?_
        refine x_iconst (μ := mu_l_law) (pc := 679) dL_law_679 ?_
        refine x_iadd (μ := mu_l_law) (pc := 680) dL_law_680 ?_
        refine x_scald (μ := mu_l_law) (pc := 681) dL_law_681 hT15 (fun hr149 => ?_)
        refine x_aload_n (μ := mu_l_law) (pc := 682) 0 dL_law_682 rfl ?_
        refine x_iload (μ := mu_l_law) (pc := 683) 4 dL_law_683 rfl ?_
        refine x_iconst (μ := mu_l_law) (pc := 685) dL_law_685 ?_
        refine x_iadd (μ := mu_l_law) (pc := 686) dL_law_686 ?_
        refine x_scald (μ := mu_l_law) (pc := 687) dL_law_687 hT15 (fun hr150 => ?_)
        refine x_aload_n (μ := mu_l_law) (pc := 688) 0 dL_law_688 rfl ?_
        refine x_iload (μ := mu_l_law) (pc := 689) 4 dL_law_689 rfl ?_
        refine x_iconst (μ := mu_l_law) (pc := 691) dL_law_691 ?_
        refine x_iadd (μ := mu_l_law) (pc := 692) dL_law_692 ?_
        refine x_scald (μ := mu_l_law) (pc := 693) dL_law_693 hT15 (fun hr151 => ?_)
        refine x_aload_n (μ := mu_l_law) (pc := 694) 0 dL_law_694 rfl ?_
        refine x_iload (μ := mu_l_law) (pc := 695) 4 dL_law_695 rfl ?_
        refine x_iconst (μ := mu_l_law) (pc := 697) dL_law_697 ?_
        refine x_iadd (μ := mu_l_law) (pc := 698) dL_law_698 ?_
        refine x_scald (μ := mu_l_law) (pc := 699) dL_law_699 hT15 (fun hr152 => ?_)
        refine x_aload_n (μ := mu_l_law) (pc := 700) 0 dL_law_700 rfl ?_
        refine x_iload (μ := mu_l_law) (pc := 701) 4 dL_law_701 rfl ?_
        refine x_iconst (μ := mu_l_law) (pc := 703) dL_law_703 ?_
        refine x_iadd (μ := mu_l_law) (pc := 704) dL_law_704 ?_
        refine x_scald (μ := mu_l_law) (pc := 705) dL_law_705 hT15 (fun hr153 => ?_)
        refine x_aload_n (μ := mu_l_law) (pc := 706) 0 dL_law_706 rfl ?_
        refine x_iload (μ := mu_l_law) (pc := 707) 4 dL_law_707 rfl ?_
        refine x_bipush (μ := mu_l_law) (pc := 709) dL_law_709 (by decide) ?_
        refine x_iadd (μ := mu_l_law) (pc := 711) dL_law_711 ?_
        refine x_scald (μ := mu_l_law) (pc := 712) dL_law_712 hT15 (fun hr154 => ?_)
        refine x_aload_n (μ := mu_l_law) (pc := 713) 3 dL_law_713 rfl ?_
        refine x_callSW_mi (μ := mu_l_law) (pc := 714) (ok_x0_copy (ω := ω) (l := l) (d := d - 1) hl (by omega) hr149 hr150 hr151 hr152 hr153 hr154) gRel_E gRel_E (fun _ q => q) q2260 q2261 q220 q2262 dL_law_714 hy_x0_copy (by omega) (Nat.le_of_ble_eq_true rfl) rfl (Nat.le_of_ble_eq_true rfl) (fun x155 k157 hr156 => ?_)
        refine x_istore (μ := mu_l_law) (pc := 717) (lv' := [(5, vI (x155.1)), (0, vR v0), (1, vR v1), (2, vR v2), (3, vR v3), (4, vI v4)]) dL_law_717 (by decide) rfl ?_
        refine x_aload_n (μ := mu_l_law) (pc := 719) 3 dL_law_719 rfl ?_
        refine x_aload_n (μ := mu_l_law) (pc := 720) 1 dL_law_720 rfl ?_
        refine x_iload (μ := mu_l_law) (pc := 721) 5 dL_law_721 rfl ?_
        refine x_iconst (μ := mu_l_law) (pc := 723) dL_law_723 ?_
        refine x_iadd (μ := mu_l_law) (pc := 724) dL_law_724 ?_
        refine x_scald (μ := mu_l_law) (pc := 725) dL_law_725 (gT_E k157 hT15 (by decide)) (fun hr158 => ?_)
        refine x_aload_n (μ := mu_l_law) (pc := 726) 1 dL_law_726 rfl ?_
        refine x_iload (μ := mu_l_law) (pc := 727) 5 dL_law_727 rfl ?_
        refine x_iconst (μ := mu_l_law) (pc := 729) dL_law_729 ?_
        refine x_iadd (μ := mu_l_law) (pc := 730) dL_law_730 ?_
        refine x_scald (μ := mu_l_law) (pc := 731) dL_law_731 (gT_E k157 hT15 (by decide)) (fun hr159 => ?_)
        refine x_aload_n (μ := mu_l_law) (pc := 732) 1 dL_law_732 rfl ?_
        refine x_iload (μ := mu_l_law) (pc := 733) 5 dL_law_733 rfl ?_
        refine x_iconst (μ := mu_l_law) (pc := 735) dL_law_735 ?_
        refine x_iadd (μ := mu_l_law) (pc := 736) dL_law_736 ?_
        refine x_scald (μ := mu_l_law) (pc := 737) dL_law_737 (gT_E k157 hT15 (by decide)) (fun hr160 => ?_)
        refine x_aload_n (μ := mu_l_law) (pc := 738) 1 dL_law_738 rfl ?_
        refine x_iload (μ := mu_l_law) (pc := 739) 5 dL_law_739 rfl ?_
        refine x_iconst (μ := mu_l_law) (pc := 741) dL_law_741 ?_
        refine x_iadd (μ := mu_l_law) (pc := 742) dL_law_742 ?_
        refine x_scald (μ := mu_l_law) (pc := 743) dL_law_743 (gT_E k157 hT15 (by decide)) (fun hr161 => ?_)
        refine x_aload_n (μ := mu_l_law) (pc := 744) 1 dL_law_744 rfl ?_
        refine x_iload (μ := mu_l_law) (pc := 745) 5 dL_law_745 rfl ?_
        refine x_iconst (μ := mu_l_law) (pc := 747) dL_law_747 ?_
        refine x_iadd (μ := mu_l_law) (pc := 748) dL_law_748 ?_
        refine x_scald (μ := mu_l_law) (pc := 749) dL_law_749 (gT_E k157 hT15 (by decide)) (fun hr162 => ?_)
        refine x_aload_n (μ := mu_l_law) (pc := 750) 1 dL_law_750 rfl ?_
        refine x_iload (μ := mu_l_law) (pc := 751) 5 dL_law_751 rfl ?_
        refine x_bipush (μ := mu_l_law) (pc := 753) dL_law_753 (by decide) ?_
        refine x_iadd (μ := mu_l_law) (pc := 755) dL_law_755 ?_
        refine x_scald (μ := mu_l_law) (pc := 756) dL_law_756 (gT_E k157 hT15 (by decide)) (fun hr163 => ?_)
        refine x_if (fun hm164 => ?_)
        refine x_callV_mi (μ := mu_l_law) (pc := 757) (ok_tw_copy (ω := ω) (l := l) (d := d - 1) (by omega) (TMb_ok hm164) hr158 hr159 hr160 hr161 hr162 hr163) gRel_E gRel_Tw (fun _ q => gTw_E q) q3561 q3562 q3563 q232 q3564 dL_law_757 rfl (TMb_ok hm164).1 hy_tw_copy (by omega) (Nat.le_of_ble_eq_true rfl) rfl (Nat.le_of_ble_eq_true rfl) (fun x165 k167 hr166 => ?_)
        refine x_istore (μ := mu_l_law) (pc := 760) (lv' := [(6, vI (x165.1)), (5, vI (x155.1)), (0, vR v0), (1, vR v1), (2, vR v2), (3, vR v3), (4, vI v4)]) dL_law_760 (by decide) rfl ?_
        refine x_aload_n (μ := mu_l_law) (pc := 762) 4 dL_law_762 rfl ?_
        refine x_if (fun hm168 => ?_)
        refine x_callV_pi (μ := mu_l_law) (pc := 763) (ok_tw_thrown (ω := ω) (l := l) (d := d - 1) (by omega) (TMb_ok hm168) ) gRel_E gRel_Tw (fun _ q => gTw_E q) q2952 q2953 q2954 q232 q2955 dL_law_763 rfl (TMb_ok hm168).1 hy_tw_thrown (by omega) (Nat.le_of_ble_eq_true rfl) rfl (Nat.le_of_ble_eq_true rfl) (fun x169 hr170 => ?_)
        refine x_iload (μ := mu_l_law) (pc := 766) 1 dL_law_766 rfl ?_
        refine x_icmp_eq (μ := mu_l_law) (pc := 768) (tgt := 773) dL_law_768 rfl hr170 hr156 ?_ ?_
        · refine x_iload (μ := mu_l_law) (pc := 773) 1 dL_law_773 rfl ?_
          refine x_if_ne (μ := mu_l_law) (pc := 775) (tgt := 790) dL_law_775 rfl hr156 ?_ ?_
          · refine x_goto (μ := mu_l_law) (pc := 790) (tgt := 1884) dL_law_790 rfl ?_
            refine x_loc (lv' := [(0, vR v0), (1, vR v1), (2, vR v2), (3, vR v3), (4, vI v4)]) [2, 3, 4, 5, 6] rfl ?_
            exact okj_l_law_l23_j1884 hl hdp hv4 ih hK
          · refine x_aload_n (μ := mu_l_law) (pc := 778) 5 dL_law_778 rfl ?_
            refine x_iconst (μ := mu_l_law) (pc := 779) dL_law_779 ?_
            refine x_if (fun hT171 => ?_)
            refine x_lald (μ := mu_l_law) (pc := 780) dL_law_780 hT171 rfl (fun hr172 => ?_)
            refine x_iload (μ := mu_l_law) (pc := 781) 0 dL_law_781 rfl ?_
            refine x_i2l (μ := mu_l_law) (pc := 783) dL_law_783 hr166 ?_
            refine x_lcmp (μ := mu_l_law) (pc := 784) dL_law_784 hr172 (g32_64 hr166) ?_
            refine x_if_eq (μ := mu_l_law) (pc := 785) (tgt := 790) dL_law_785 rfl (gcmp_rng _ _) ?_ ?_
            · refine x_goto (μ := mu_l_law) (pc := 790) (tgt := 1884) dL_law_790 rfl ?_
              refine x_loc (lv' := [(0, vR v0), (1, vR v1), (2, vR v2), (3, vR v3), (4, vI v4)]) [2, 3, 4, 5, 6] rfl ?_
              exact okj_l_law_l23_j1884 hl hdp hv4 ih hK
            · refine x_iconst (μ := mu_l_law) (pc := 788) dL_law_788 ?_
              exact x_zret (μ := mu_l_law) (pc := 789) dL_law_789 rfl (by decide) rfl (gRel_E.1 _) (show g32 0 from (by decide))
        · refine x_iconst (μ := mu_l_law) (pc := 771) dL_law_771 ?_
          exact x_zret (μ := mu_l_law) (pc := 772) dL_law_772 rfl (by decide) rfl (gRel_E.1 _) (show g32 0 from (by decide))
      refine x_tab (μ := mu_l_law) (pc := 40) (tgt := 793) 9 dL_law_40 (by decide) (by decide) (by decide) rfl rfl ?_ (fun hn173 => ?_)
      · refine x_aload_n (μ := mu_l_law) (pc := 793) 1 dL_law_793 rfl ?_
        refine x_aload_n (μ := mu_l_law) (pc := 794) 0 dL_law_794 rfl ?_
        refine x_iload (μ := mu_l_law) (pc := 795) 4 dL_law_795 rfl ?_
        refine x_iconst (μ := mu_l_law) (pc := 797) dL_law_797 ?_
        refine x_iadd (μ := mu_l_law) (pc := 798) dL_law_798 ?_
        refine x_scald (μ := mu_l_law) (pc := 799) dL_law_799 hT15 (fun hr174 => ?_)
        refine x_aload_n (μ := mu_l_law) (pc := 800) 0 dL_law_800 rfl ?_
        refine x_iload (μ := mu_l_law) (pc := 801) 4 dL_law_801 rfl ?_
        refine x_iconst (μ := mu_l_law) (pc := 803) dL_law_803 ?_
        refine x_iadd (μ := mu_l_law) (pc := 804) dL_law_804 ?_
        refine x_scald (μ := mu_l_law) (pc := 805) dL_law_805 hT15 (fun hr175 => ?_)
        refine x_aload_n (μ := mu_l_law) (pc := 806) 0 dL_law_806 rfl ?_
        refine x_iload (μ := mu_l_law) (pc := 807) 4 dL_law_807 rfl ?_
        refine x_iconst (μ := mu_l_law) (pc := 809) dL_law_809 ?_
        refine x_iadd (μ := mu_l_law) (pc := 810) dL_law_810 ?_
        refine x_scald (μ := mu_l_law) (pc := 811) dL_law_811 hT15 (fun hr176 => ?_)
        refine x_aload_n (μ := mu_l_law) (pc := 812) 0 dL_law_812 rfl ?_
        refine x_iload (μ := mu_l_law) (pc := 813) 4 dL_law_813 rfl ?_
        refine x_iconst (μ := mu_l_law) (pc := 815) dL_law_815 ?_
        refine x_iadd (μ := mu_l_law) (pc := 816) dL_law_816 ?_
        refine x_scald (μ := mu_l_law) (pc := 817) dL_law_817 hT15 (fun hr177 => ?_)
        refine x_if_eq (μ := mu_l_law) (pc := 818) (tgt := 825) dL_law_818 rfl hr177 ?_ ?_
        · refine x_iconst (μ := mu_l_law) (pc := 825) dL_law_825 ?_
          exact okj_l_law_l23_j826 hl hdp hv4 (by decide) hr176 hr175 hr174 ih hK
        · refine x_iconst (μ := mu_l_law) (pc := 821) dL_law_821 ?_
          refine x_goto (μ := mu_l_law) (pc := 822) (tgt := 826) dL_law_822 rfl ?_
          exact okj_l_law_l23_j826 hl hdp hv4 (by decide) hr176 hr175 hr174 ih hK
      refine x_tab (μ := mu_l_law) (pc := 40) (tgt := 901) 10 dL_law_40 (by decide) (by decide) (by decide) rfl rfl ?_ (fun hn195 => ?_)
      · refine x_aload_n (μ := mu_l_law) (pc := 901) 1 dL_law_901 rfl ?_
        refine x_aload_n (μ := mu_l_law) (pc := 902) 3 dL_law_902 rfl ?_
        refine x_callSW_mi (μ := mu_l_law) (pc := 903) (ok_x0_undo (ω := ω) (l := l) (d := d - 1) hl (by omega) ) gRel_E gRel_E (fun _ q => q) q2389 q2390 q220 q2391 dL_law_903 hy_x0_undo (by omega) (Nat.le_of_ble_eq_true rfl) rfl (Nat.le_of_ble_eq_true rfl) (fun x196 k198 hr197 => ?_)
        refine x_istore (μ := mu_l_law) (pc := 906) (lv' := [(5, vI (x196.1)), (0, vR v0), (1, vR v1), (2, vR v2), (3, vR v3), (4, vI v4)]) dL_law_906 (by decide) rfl ?_
        refine x_aload_n (μ := mu_l_law) (pc := 908) 3 dL_law_908 rfl ?_
        refine x_if (fun hm199 => ?_)
        refine x_callV_mi (μ := mu_l_law) (pc := 909) (ok_tw_undo (ω := ω) (l := l) (d := d - 1) (by omega) (TMb_ok hm199) ) gRel_E gRel_Tw (fun _ q => gTw_E q) q2956 q2957 q2958 q232 q2959 dL_law_909 rfl (TMb_ok hm199).1 hy_tw_undo (by omega) (Nat.le_of_ble_eq_true rfl) rfl (Nat.le_of_ble_eq_true rfl) (fun x200 k202 hr201 => ?_)
        refine x_istore (μ := mu_l_law) (pc := 912) (lv' := [(6, vI (x200.1)), (5, vI (x196.1)), (0, vR v0), (1, vR v1), (2, vR v2), (3, vR v3), (4, vI v4)]) dL_law_912 (by decide) rfl ?_
        refine x_aload_n (μ := mu_l_law) (pc := 914) 4 dL_law_914 rfl ?_
        refine x_if (fun hm203 => ?_)
        refine x_callV_pi (μ := mu_l_law) (pc := 915) (ok_tw_thrown (ω := ω) (l := l) (d := d - 1) (by omega) (TMb_ok hm203) ) gRel_E gRel_Tw (fun _ q => gTw_E q) q2952 q2953 q2954 q232 q2955 dL_law_915 rfl (TMb_ok hm203).1 hy_tw_thrown (by omega) (Nat.le_of_ble_eq_true rfl) rfl (Nat.le_of_ble_eq_true rfl) (fun x204 hr205 => ?_)
        refine x_iload (μ := mu_l_law) (pc := 918) 1 dL_law_918 rfl ?_
        refine x_icmp_eq (μ := mu_l_law) (pc := 920) (tgt := 925) dL_law_920 rfl hr205 hr197 ?_ ?_
        · refine x_iload (μ := mu_l_law) (pc := 925) 1 dL_law_925 rfl ?_
          refine x_if_ne (μ := mu_l_law) (pc := 927) (tgt := 942) dL_law_927 rfl hr197 ?_ ?_
          · refine x_goto (μ := mu_l_law) (pc := 942) (tgt := 1884) dL_law_942 rfl ?_
            refine x_loc (lv' := [(0, vR v0), (1, vR v1), (2, vR v2), (3, vR v3), (4, vI v4)]) [2, 3, 4, 5, 6] rfl ?_
            exact okj_l_law_l23_j1884 hl hdp hv4 ih hK
          · refine x_aload_n (μ := mu_l_law) (pc := 930) 5 dL_law_930 rfl ?_
            refine x_iconst (μ := mu_l_law) (pc := 931) dL_law_931 ?_
            refine x_if (fun hT206 => ?_)
            refine x_lald (μ := mu_l_law) (pc := 932) dL_law_932 hT206 rfl (fun hr207 => ?_)
            refine x_iload (μ := mu_l_law) (pc := 933) 0 dL_law_933 rfl ?_
            refine x_i2l (μ := mu_l_law) (pc := 935) dL_law_935 hr201 ?_
            refine x_lcmp (μ := mu_l_law) (pc := 936) dL_law_936 hr207 (g32_64 hr201) ?_
            refine x_if_eq (μ := mu_l_law) (pc := 937) (tgt := 942) dL_law_937 rfl (gcmp_rng _ _) ?_ ?_
            · refine x_goto (μ := mu_l_law) (pc := 942) (tgt := 1884) dL_law_942 rfl ?_
              refine x_loc (lv' := [(0, vR v0), (1, vR v1), (2, vR v2), (3, vR v3), (4, vI v4)]) [2, 3, 4, 5, 6] rfl ?_
              exact okj_l_law_l23_j1884 hl hdp hv4 ih hK
            · refine x_iconst (μ := mu_l_law) (pc := 940) dL_law_940 ?_
              exact x_zret (μ := mu_l_law) (pc := 941) dL_law_941 rfl (by decide) rfl (gRel_E.1 _) (show g32 0 from (by decide))
        · refine x_iconst (μ := mu_l_law) (pc := 923) dL_law_923 ?_
          exact x_zret (μ := mu_l_law) (pc := 924) dL_law_924 rfl (by decide) rfl (gRel_E.1 _) (show g32 0 from (by decide))
      refine x_tab (μ := mu_l_law) (pc := 40) (tgt := 945) 11 dL_law_40 (by decide) (by decide) (by decide) rfl rfl ?_ (fun hn208 => ?_)
      · refine x_aload_n (μ := mu_l_law) (pc := 945) 1 dL_law_945 rfl ?_
        refine x_aload_n (μ := mu_l_law) (pc := 946) 3 dL_law_946 rfl ?_
        refine x_callSW_mi (μ := mu_l_law) (pc := 947) (ok_x0_redo (ω := ω) (l := l) (d := d - 1) hl (by omega) ) gRel_E gRel_E (fun _ q => q) q2412 q2413 q220 q2414 dL_law_947 hy_x0_redo (by omega) (Nat.le_of_ble_eq_true rfl) rfl (Nat.le_of_ble_eq_true rfl) (fun x209 k211 hr210 => ?_)
        refine x_istore (μ := mu_l_law) (pc := 950) (lv' := [(5, vI (x209.1)), (0, vR v0), (1, vR v1), (2, vR v2), (3, vR v3), (4, vI v4)]) dL_law_950 (by decide) rfl ?_
        refine x_aload_n (μ := mu_l_law) (pc := 952) 3 dL_law_952 rfl ?_
        refine x_if (fun hm212 => ?_)
        refine x_callV_mi (μ := mu_l_law) (pc := 953) (ok_tw_redo (ω := ω) (l := l) (d := d - 1) (by omega) (TMb_ok hm212) ) gRel_E gRel_Tw (fun _ q => gTw_E q) q2968 q2969 q2970 q232 q2971 dL_law_953 rfl (TMb_ok hm212).1 hy_tw_redo (by omega) (Nat.le_of_ble_eq_true rfl) rfl (Nat.le_of_ble_eq_true rfl) (fun x213 k215 hr214 => ?_)
        refine x_istore (μ := mu_l_law) (pc := 956) (lv' := [(6, vI (x213.1)), (5, vI (x209.1)), (0, vR v0), (1, vR v1), (2, vR v2), (3, vR v3), (4, vI v4)]) dL_law_956 (by decide) rfl ?_
        refine x_aload_n (μ := mu_l_law) (pc := 958) 4 dL_law_958 rfl ?_
        refine x_if (fun hm216 => ?_)
        refine x_callV_pi (μ := mu_l_law) (pc := 959) (ok_tw_thrown (ω := ω) (l := l) (d := d - 1) (by omega) (TMb_ok hm216) ) gRel_E gRel_Tw (fun _ q => gTw_E q) q2952 q2953 q2954 q232 q2955 dL_law_959 rfl (TMb_ok hm216).1 hy_tw_thrown (by omega) (Nat.le_of_ble_eq_true rfl) rfl (Nat.le_of_ble_eq_true rfl) (fun x217 hr218 => ?_)
        refine x_iload (μ := mu_l_law) (pc := 962) 1 dL_law_962 rfl ?_
        refine x_icmp_eq (μ := mu_l_law) (pc := 964) (tgt := 969) dL_law_964 rfl hr218 hr210 ?_ ?_
        · refine x_iload (μ := mu_l_law) (pc := 969) 1 dL_law_969 rfl ?_
          refine x_if_ne (μ := mu_l_law) (pc := 971) (tgt := 986) dL_law_971 rfl hr210 ?_ ?_
          · refine x_goto (μ := mu_l_law) (pc := 986) (tgt := 1884) dL_law_986 rfl ?_
            refine x_loc (lv' := [(0, vR v0), (1, vR v1), (2, vR v2), (3, vR v3), (4, vI v4)]) [2, 3, 4, 5, 6] rfl ?_
            exact okj_l_law_l23_j1884 hl hdp hv4 ih hK
          · refine x_aload_n (μ := mu_l_law) (pc := 974) 5 dL_law_974 rfl ?_
            refine x_iconst (μ := mu_l_law) (pc := 975) dL_law_975 ?_
            refine x_if (fun hT219 => ?_)
            refine x_lald (μ := mu_l_law) (pc := 976) dL_law_976 hT219 rfl (fun hr220 => ?_)
            refine x_iload (μ := mu_l_law) (pc := 977) 0 dL_law_977 rfl ?_
            refine x_i2l (μ := mu_l_law) (pc := 979) dL_law_979 hr214 ?_
            refine x_lcmp (μ := mu_l_law) (pc := 980) dL_law_980 hr220 (g32_64 hr214) ?_
            refine x_if_eq (μ := mu_l_law) (pc := 981) (tgt := 986) dL_law_981 rfl (gcmp_rng _ _) ?_ ?_
            · refine x_goto (μ := mu_l_law) (pc := 986) (tgt := 1884) dL_law_986 rfl ?_
              refine x_loc (lv' := [(0, vR v0), (1, vR v1), (2, vR v2), (3, vR v3), (4, vI v4)]) [2, 3, 4, 5, 6] rfl ?_
              exact okj_l_law_l23_j1884 hl hdp hv4 ih hK
            · refine x_iconst (μ := mu_l_law) (pc := 984) dL_law_984 ?_
              exact x_zret (μ := mu_l_law) (pc := 985) dL_law_985 rfl (by decide) rfl (gRel_E.1 _) (show g32 0 from (by decide))
        · refine x_iconst (μ := mu_l_law) (pc := 967) dL_law_967 ?_
          exact x_zret (μ := mu_l_law) (pc := 968) dL_law_968 rfl (by decide) rfl (gRel_E.1 _) (show g32 0 from (by decide))
      refine x_tab (μ := mu_l_law) (pc := 40) (tgt := 989) 12 dL_law_40 (by decide) (by decide) (by decide) rfl rfl ?_ (fun hn221 => ?_)
      · refine x_aload_n (μ := mu_l_law) (pc := 989) 1 dL_law_989 rfl ?_
        refine x_aload_n (μ := mu_l_law) (pc := 990) 3 dL_law_990 rfl ?_
        refine x_callSW_mi (μ := mu_l_law) (pc := 991) (ok_x0_commit (ω := ω) (l := l) (d := d - 1) hl (by omega) ) gRel_E gRel_E (fun _ q => q) q2419 q2420 q220 q2421 dL_law_991 hy_x0_commit (by omega) (Nat.le_of_ble_eq_true rfl) rfl (Nat.le_of_ble_eq_true rfl) (fun x222 k224 hr223 => ?_)
        refine x_istore (μ := mu_l_law) (pc := 994) (lv' := [(5, vI (x222.1)), (0, vR v0), (1, vR v1), (2, vR v2), (3, vR v3), (4, vI v4)]) dL_law_994 (by decide) rfl ?_
        refine x_aload_n (μ := mu_l_law) (pc := 996) 3 dL_law_996 rfl ?_
        refine x_if (fun hm225 => ?_)
        refine x_callV_mi (μ := mu_l_law) (pc := 997) (ok_tw_commit (ω := ω) (l := l) (d := d - 1) (by omega) (TMb_ok hm225) ) gRel_E gRel_Tw (fun _ q => gTw_E q) q3588 q3589 q3590 q232 q3591 dL_law_997 rfl (TMb_ok hm225).1 hy_tw_commit (by omega) (Nat.le_of_ble_eq_true rfl) rfl (Nat.le_of_ble_eq_true rfl) (fun x226 k228 hr227 => ?_)
        refine x_istore (μ := mu_l_law) (pc := 1000) (lv' := [(6, vI (x226.1)), (5, vI (x222.1)), (0, vR v0), (1, vR v1), (2, vR v2), (3, vR v3), (4, vI v4)]) dL_law_1000 (by decide) rfl ?_
        refine x_aload_n (μ := mu_l_law) (pc := 1002) 4 dL_law_1002 rfl ?_
        refine x_if (fun hm229 => ?_)
        refine x_callV_pi (μ := mu_l_law) (pc := 1003) (ok_tw_thrown (ω := ω) (l := l) (d := d - 1) (by omega) (TMb_ok hm229) ) gRel_E gRel_Tw (fun _ q => gTw_E q) q2952 q2953 q2954 q232 q2955 dL_law_1003 rfl (TMb_ok hm229).1 hy_tw_thrown (by omega) (Nat.le_of_ble_eq_true rfl) rfl (Nat.le_of_ble_eq_true rfl) (fun x230 hr231 => ?_)
        refine x_iload (μ := mu_l_law) (pc := 1006) 1 dL_law_1006 rfl ?_
        refine x_icmp_eq (μ := mu_l_law) (pc := 1008) (tgt := 1013) dL_law_1008 rfl hr231 hr223 ?_ ?_
        · refine x_iload (μ := mu_l_law) (pc := 1013) 1 dL_law_1013 rfl ?_
          refine x_if_ne (μ := mu_l_law) (pc := 1015) (tgt := 1030) dL_law_1015 rfl hr223 ?_ ?_
          · refine x_goto (μ := mu_l_law) (pc := 1030) (tgt := 1884) dL_law_1030 rfl ?_
            refine x_loc (lv' := [(0, vR v0), (1, vR v1), (2, vR v2), (3, vR v3), (4, vI v4)]) [2, 3, 4, 5, 6] rfl ?_
            exact okj_l_law_l23_j1884 hl hdp hv4 ih hK
          · refine x_aload_n (μ := mu_l_law) (pc := 1018) 5 dL_law_1018 rfl ?_
            refine x_iconst (μ := mu_l_law) (pc := 1019) dL_law_1019 ?_
            refine x_if (fun hT232 => ?_)
            refine x_lald (μ := mu_l_law) (pc := 1020) dL_law_1020 hT232 rfl (fun hr233 => ?_)
            refine x_iload (μ := mu_l_law) (pc := 1021) 0 dL_law_1021 rfl ?_
            refine x_i2l (μ := mu_l_law) (pc := 1023) dL_law_1023 hr227 ?_
            refine x_lcmp (μ := mu_l_law) (pc := 1024) dL_law_1024 hr233 (g32_64 hr227) ?_
            refine x_if_eq (μ := mu_l_law) (pc := 1025) (tgt := 1030) dL_law_1025 rfl (gcmp_rng _ _) ?_ ?_
            · refine x_goto (μ := mu_l_law) (pc := 1030) (tgt := 1884) dL_law_1030 rfl ?_
              refine x_loc (lv' := [(0, vR v0), (1, vR v1), (2, vR v2), (3, vR v3), (4, vI v4)]) [2, 3, 4, 5, 6] rfl ?_
              exact okj_l_law_l23_j1884 hl hdp hv4 ih hK
            · refine x_iconst (μ := mu_l_law) (pc := 1028) dL_law_1028 ?_
              exact x_zret (μ := mu_l_law) (pc := 1029) dL_law_1029 rfl (by decide) rfl (gRel_E.1 _) (show g32 0 from (by decide))
        · refine x_iconst (μ := mu_l_law) (pc := 1011) dL_law_1011 ?_
          exact x_zret (μ := mu_l_law) (pc := 1012) dL_law_1012 rfl (by decide) rfl (gRel_E.1 _) (show g32 0 from (by decide))
      refine x_tab (μ := mu_l_law) (pc := 40) (tgt := 1033) 13 dL_law_40 (by decide) (by decide) (by decide) rfl rfl ?_ (fun hn234 => ?_)
      · refine x_aload_n (μ := mu_l_law) (pc := 1033) 1 dL_law_1033 rfl ?_
        refine x_aload_n (μ := mu_l_law) (pc := 1034) 0 dL_law_1034 rfl ?_
        refine x_iload (μ := mu_l_law) (pc := 1035) 4 dL_law_1035 rfl ?_
        refine x_iconst (μ := mu_l_law) (pc := 1037) dL_law_1037 ?_
        refine x_iadd (μ := mu_l_law) (pc := 1038) dL_law_1038 ?_
        refine x_scald (μ := mu_l_law) (pc := 1039) dL_law_1039 hT15 (fun hr235 => ?_)
        refine x_aload_n (μ := mu_l_law) (pc := 1040) 3 dL_law_1040 rfl ?_
        refine x_callSW_mi (μ := mu_l_law) (pc := 1041) (ok_x0_branch (ω := ω) (l := l) (d := d - 1) hl (by omega) hr235) gRel_E gRel_E (fun _ q => q) q2430 q2431 q220 q2432 dL_law_1041 hy_x0_branch (by omega) (Nat.le_of_ble_eq_true rfl) rfl (Nat.le_of_ble_eq_true rfl) (fun x236 k238 hr237 => ?_)
        refine x_istore (μ := mu_l_law) (pc := 1044) (lv' := [(5, vI (x236.1)), (0, vR v0), (1, vR v1), (2, vR v2), (3, vR v3), (4, vI v4)]) dL_law_1044 (by decide) rfl ?_
        refine x_aload_n (μ := mu_l_law) (pc := 1046) 3 dL_law_1046 rfl ?_
        refine x_aload_n (μ := mu_l_law) (pc := 1047) 1 dL_law_1047 rfl ?_
        refine x_iload (μ := mu_l_law) (pc := 1048) 5 dL_law_1048 rfl ?_
        refine x_iconst (μ := mu_l_law) (pc := 1050) dL_law_1050 ?_
        refine x_iadd (μ := mu_l_law) (pc := 1051) dL_law_1051 ?_
        refine x_scald (μ := mu_l_law) (pc := 1052) dL_law_1052 (gT_E k238 hT15 (by decide)) (fun hr239 => ?_)
        refine x_if (fun hm240 => ?_)
        refine x_callV_mi (μ := mu_l_law) (pc := 1053) (ok_tw_branch (ω := ω) (l := l) (d := d - 1) (by omega) (TMb_ok hm240) hr239) gRel_E gRel_Tw (fun _ q => gTw_E q) q3600 q3601 q3602 q232 q3603 dL_law_1053 rfl (TMb_ok hm240).1 hy_tw_branch (by omega) (Nat.le_of_ble_eq_true rfl) rfl (Nat.le_of_ble_eq_true rfl) (fun x241 k243 hr242 => ?_)
        refine x_istore (μ := mu_l_law) (pc := 1056) (lv' := [(6, vI (x241.1)), (5, vI (x236.1)), (0, vR v0), (1, vR v1), (2, vR v2), (3, vR v3), (4, vI v4)]) dL_law_1056 (by decide) rfl ?_
        refine x_aload_n (μ := mu_l_law) (pc := 1058) 4 dL_law_1058 rfl ?_
        refine x_if (fun hm244 => ?_)
        refine x_callV_pi (μ := mu_l_law) (pc := 1059) (ok_tw_thrown (ω := ω) (l := l) (d := d - 1) (by omega) (TMb_ok hm244) ) gRel_E gRel_Tw (fun _ q => gTw_E q) q2952 q2953 q2954 q232 q2955 dL_law_1059 rfl (TMb_ok hm244).1 hy_tw_thrown (by omega) (Nat.le_of_ble_eq_true rfl) rfl (Nat.le_of_ble_eq_true rfl) (fun x245 hr246 => ?_)
        refine x_iload (μ := mu_l_law) (pc := 1062) 1 dL_law_1062 rfl ?_
        refine x_icmp_eq (μ := mu_l_law) (pc := 1064) (tgt := 1069) dL_law_1064 rfl hr246 hr237 ?_ ?_
        · refine x_iload (μ := mu_l_law) (pc := 1069) 1 dL_law_1069 rfl ?_
          refine x_if_ne (μ := mu_l_law) (pc := 1071) (tgt := 1086) dL_law_1071 rfl hr237 ?_ ?_
          · refine x_goto (μ := mu_l_law) (pc := 1086) (tgt := 1884) dL_law_1086 rfl ?_
            refine x_loc (lv' := [(0, vR v0), (1, vR v1), (2, vR v2), (3, vR v3), (4, vI v4)]) [2, 3, 4, 5, 6] rfl ?_
            exact okj_l_law_l23_j1884 hl hdp hv4 ih hK
          · refine x_aload_n (μ := mu_l_law) (pc := 1074) 5 dL_law_1074 rfl ?_
            refine x_iconst (μ := mu_l_law) (pc := 1075) dL_law_1075 ?_
            refine x_if (fun hT247 => ?_)
            refine x_lald (μ := mu_l_law) (pc := 1076) dL_law_1076 hT247 rfl (fun hr248 => ?_)
            refine x_iload (μ := mu_l_law) (pc := 1077) 0 dL_law_1077 rfl ?_
            refine x_i2l (μ := mu_l_law) (pc := 1079) dL_law_1079 hr242 ?_
            refine x_lcmp (μ := mu_l_law) (pc := 1080) dL_law_1080 hr248 (g32_64 hr242) ?_
            refine x_if_eq (μ := mu_l_law) (pc := 1081) (tgt := 1086) dL_law_1081 rfl (gcmp_rng _ _) ?_ ?_
            · refine x_goto (μ := mu_l_law) (pc := 1086) (tgt := 1884) dL_law_1086 rfl ?_
              refine x_loc (lv' := [(0, vR v0), (1, vR v1), (2, vR v2), (3, vR v3), (4, vI v4)]) [2, 3, 4, 5, 6] rfl ?_
              exact okj_l_law_l23_j1884 hl hdp hv4 ih hK
            · refine x_iconst (μ := mu_l_law) (pc := 1084) dL_law_1084 ?_
              exact x_zret (μ := mu_l_law) (pc := 1085) dL_law_1085 rfl (by decide) rfl (gRel_E.1 _) (show g32 0 from (by decide))
        · refine x_iconst (μ := mu_l_law) (pc := 1067) dL_law_1067 ?_
          exact x_zret (μ := mu_l_law) (pc := 1068) dL_law_1068 rfl (by decide) rfl (gRel_E.1 _) (show g32 0 from (by decide))
      refine x_tab (μ := mu_l_law) (pc := 40) (tgt := 1089) 14 dL_law_40 (by decide) (by decide) (by decide) rfl rfl ?_ (fun hn249 => ?_)
      · refine x_aload_n (μ := mu_l_law) (pc := 1089) 1 dL_law_1089 rfl ?_
        refine x_aload_n (μ := mu_l_law) (pc := 1090) 0 dL_law_1090 rfl ?_
        refine x_iload (μ := mu_l_law) (pc := 1091) 4 dL_law_1091 rfl ?_
        refine x_iconst (μ := mu_l_law) (pc := 1093) dL_law_1093 ?_
        refine x_iadd (μ := mu_l_law) (pc := 1094) dL_law_1094 ?_
        refine x_scald (μ := mu_l_law) (pc := 1095) dL_law_1095 hT15 (fun hr250 => ?_)
        refine x_aload_n (μ := mu_l_law) (pc := 1096) 3 dL_law_1096 rfl ?_
        refine x_callSW_mi (μ := mu_l_law) (pc := 1097) (ok_x0_go (ω := ω) (l := l) (d := d - 1) hl (by omega) hr250) gRel_E gRel_E (fun _ q => q) q2440 q2441 q220 q2442 dL_law_1097 hy_x0_go (by omega) (Nat.le_of_ble_eq_true rfl) rfl (Nat.le_of_ble_eq_true rfl) (fun x251 k253 hr252 => ?_)
        refine x_istore (μ := mu_l_law) (pc := 1100) (lv' := [(5, vI (x251.1)), (0, vR v0), (1, vR v1), (2, vR v2), (3, vR v3), (4, vI v4)]) dL_law_1100 (by decide) rfl ?_
        refine x_aload_n (μ := mu_l_law) (pc := 1102) 3 dL_law_1102 rfl ?_
        refine x_aload_n (μ := mu_l_law) (pc := 1103) 1 dL_law_1103 rfl ?_
        refine x_iload (μ := mu_l_law) (pc := 1104) 5 dL_law_1104 rfl ?_
        refine x_iconst (μ := mu_l_law) (pc := 1106) dL_law_1106 ?_
        refine x_iadd (μ := mu_l_law) (pc := 1107) dL_law_1107 ?_
        refine x_scald (μ := mu_l_law) (pc := 1108) dL_law_1108 (gT_E k253 hT15 (by decide)) (fun hr254 => ?_)
        refine x_if (fun hm255 => ?_)
        refine x_callV_mi (μ := mu_l_law) (pc := 1109) (ok_tw_go (ω := ω) (l := l) (d := d - 1) (by omega) (TMb_ok hm255) hr254) gRel_E gRel_Tw (fun _ q => gTw_E q) q3604 q3605 q3606 q232 q3607 dL_law_1109 rfl (TMb_ok hm255).1 hy_tw_go (by omega) (Nat.le_of_ble_eq_true rfl) rfl (Nat.le_of_ble_eq_true rfl) (fun x256 k258 hr257 => ?_)
        refine x_istore (μ := mu_l_law) (pc := 1112) (lv' := [(6, vI (x256.1)), (5, vI (x251.1)), (0, vR v0), (1, vR v1), (2, vR v2), (3, vR v3), (4, vI v4)]) dL_law_1112 (by decide) rfl ?_
        refine x_aload_n (μ := mu_l_law) (pc := 1114) 4 dL_law_1114 rfl ?_
        refine x_if (fun hm259 => ?_)
        refine x_callV_pi (μ := mu_l_law) (pc := 1115) (ok_tw_thrown (ω := ω) (l := l) (d := d - 1) (by omega) (TMb_ok hm259) ) gRel_E gRel_Tw (fun _ q => gTw_E q) q2952 q2953 q2954 q232 q2955 dL_law_1115 rfl (TMb_ok hm259).1 hy_tw_thrown (by omega) (Nat.le_of_ble_eq_true rfl) rfl (Nat.le_of_ble_eq_true rfl) (fun x260 hr261 => ?_)
        refine x_iload (μ := mu_l_law) (pc := 1118) 1 dL_law_1118 rfl ?_
        refine x_icmp_eq (μ := mu_l_law) (pc := 1120) (tgt := 1125) dL_law_1120 rfl hr261 hr252 ?_ ?_
        · refine x_iload (μ := mu_l_law) (pc := 1125) 1 dL_law_1125 rfl ?_
          refine x_if_ne (μ := mu_l_law) (pc := 1127) (tgt := 1142) dL_law_1127 rfl hr252 ?_ ?_
          · refine x_goto (μ := mu_l_law) (pc := 1142) (tgt := 1884) dL_law_1142 rfl ?_
            refine x_loc (lv' := [(0, vR v0), (1, vR v1), (2, vR v2), (3, vR v3), (4, vI v4)]) [2, 3, 4, 5, 6] rfl ?_
            exact okj_l_law_l23_j1884 hl hdp hv4 ih hK
          · refine x_aload_n (μ := mu_l_law) (pc := 1130) 5 dL_law_1130 rfl ?_
            refine x_iconst (μ := mu_l_law) (pc := 1131) dL_law_1131 ?_
            refine x_if (fun hT262 => ?_)
            refine x_lald (μ := mu_l_law) (pc := 1132) dL_law_1132 hT262 rfl (fun hr263 => ?_)
            refine x_iload (μ := mu_l_law) (pc := 1133) 0 dL_law_1133 rfl ?_
            refine x_i2l (μ := mu_l_law) (pc := 1135) dL_law_1135 hr257 ?_
            refine x_lcmp (μ := mu_l_law) (pc := 1136) dL_law_1136 hr263 (g32_64 hr257) ?_
            refine x_if_eq (μ := mu_l_law) (pc := 1137) (tgt := 1142) dL_law_1137 rfl (gcmp_rng _ _) ?_ ?_
            · refine x_goto (μ := mu_l_law) (pc := 1142) (tgt := 1884) dL_law_1142 rfl ?_
              refine x_loc (lv' := [(0, vR v0), (1, vR v1), (2, vR v2), (3, vR v3), (4, vI v4)]) [2, 3, 4, 5, 6] rfl ?_
              exact okj_l_law_l23_j1884 hl hdp hv4 ih hK
            · refine x_iconst (μ := mu_l_law) (pc := 1140) dL_law_1140 ?_
              exact x_zret (μ := mu_l_law) (pc := 1141) dL_law_1141 rfl (by decide) rfl (gRel_E.1 _) (show g32 0 from (by decide))
        · refine x_iconst (μ := mu_l_law) (pc := 1123) dL_law_1123 ?_
          exact x_zret (μ := mu_l_law) (pc := 1124) dL_law_1124 rfl (by decide) rfl (gRel_E.1 _) (show g32 0 from (by decide))
      refine x_tab (μ := mu_l_law) (pc := 40) (tgt := 1145) 15 dL_law_40 (by decide) (by decide) (by decide) rfl rfl ?_ (fun hn264 => ?_)
      · refine x_aload_n (μ := mu_l_law) (pc := 1145) 1 dL_law_1145 rfl ?_
        refine x_if (fun hT265 => ?_)
        refine x_callV_mi (μ := mu_l_law) (pc := 1146) (ok_x1_drop (ω := ω) (l := l) (d := d - 1) hl (by omega) ) gRel_E gRel_E (fun _ q => q) q758 q759 q760 q221 q761 dL_law_1146 rfl hT265 hy_x1_drop (by omega) (Nat.le_of_ble_eq_true rfl) rfl (Nat.le_of_ble_eq_true rfl) (fun x266 k268 hr267 => ?_)
        refine x_aload_n (μ := mu_l_law) (pc := 1149) 2 dL_law_1149 rfl ?_
        refine x_if (fun hm269 => ?_)
        refine x_callV_mi (μ := mu_l_law) (pc := 1150) (ok_tw_drop (ω := ω) (l := l) (d := d - 1) (by omega) (TMb_ok hm269) ) gRel_E gRel_Tw (fun _ q => gTw_E q) q3636 q3637 q3638 q232 q3639 dL_law_1150 rfl (TMb_ok hm269).1 hy_tw_drop (by omega) (Nat.le_of_ble_eq_true rfl) rfl (Nat.le_of_ble_eq_true rfl) (fun x270 k272 hr271 => ?_)
        refine x_icmp_eq (μ := mu_l_law) (pc := 1153) (tgt := 1884) dL_law_1153 rfl hr267 hr271 ?_ ?_
        · exact okj_l_law_l23_j1884 hl hdp hv4 ih hK
        · refine x_iconst (μ := mu_l_law) (pc := 1156) dL_law_1156 ?_
          exact x_zret (μ := mu_l_law) (pc := 1157) dL_law_1157 rfl (by decide) rfl (gRel_E.1 _) (show g32 0 from (by decide))
      refine x_tab (μ := mu_l_law) (pc := 40) (tgt := 1158) 16 dL_law_40 (by decide) (by decide) (by decide) rfl rfl ?_ (fun hn273 => ?_)
      · refine x_aload_n (μ := mu_l_law) (pc := 1158) 1 dL_law_1158 rfl ?_
        refine x_aload_n (μ := mu_l_law) (pc := 1159) 0 dL_law_1159 rfl ?_
        refine x_iload (μ := mu_l_law) (pc := 1160) 4 dL_law_1160 rfl ?_
        refine x_iconst (μ := mu_l_law) (pc := 1162) dL_law_1162 ?_
        refine x_iadd (μ := mu_l_law) (pc := 1163) dL_law_1163 ?_
        refine x_scald (μ := mu_l_law) (pc := 1164) dL_law_1164 hT15 (fun hr274 => ?_)
        refine x_aload_n (μ := mu_l_law) (pc := 1165) 3 dL_law_1165 rfl ?_
        refine x_callSW_mi (μ := mu_l_law) (pc := 1166) (ok_x0_merge (ω := ω) (l := l) (d := d - 1) hl (by omega) hr274) gRel_E gRel_E (fun _ q => q) q2451 q2452 q220 q2453 dL_law_1166 hy_x0_merge (by omega) (Nat.le_of_ble_eq_true rfl) rfl (Nat.le_of_ble_eq_true rfl) (fun x275 k277 hr276 => ?_)
        refine x_istore (μ := mu_l_law) (pc := 1169) (lv' := [(5, vI (x275.1)), (0, vR v0), (1, vR v1), (2, vR v2), (3, vR v3), (4, vI v4)]) dL_law_1169 (by decide) rfl ?_
        refine x_aload_n (μ := mu_l_law) (pc := 1171) 3 dL_law_1171 rfl ?_
        refine x_aload_n (μ := mu_l_law) (pc := 1172) 1 dL_law_1172 rfl ?_
        refine x_iload (μ := mu_l_law) (pc := 1173) 5 dL_law_1173 rfl ?_
        refine x_iconst (μ := mu_l_law) (pc := 1175) dL_law_1175 ?_
        refine x_iadd (μ := mu_l_law) (pc := 1176) dL_law_1176 ?_
        refine x_scald (μ := mu_l_law) (pc := 1177) dL_law_1177 (gT_E k277 hT15 (by decide)) (fun hr278 => ?_)
        refine x_if (fun hm279 => ?_)
        refine x_callV_mi (μ := mu_l_law) (pc := 1178) (ok_tw_merge (ω := ω) (l := l) (d := d - 1) (by omega) (TMb_ok hm279) hr278) gRel_E gRel_Tw (fun _ q => gTw_E q) q3648 q3649 q3650 q232 q3651 dL_law_1178 rfl (TMb_ok hm279).1 hy_tw_merge (by omega) (Nat.le_of_ble_eq_true rfl) rfl (Nat.le_of_ble_eq_true rfl) (fun x280 k282 hr281 => ?_)
        refine x_istore (μ := mu_l_law) (pc := 1181) (lv' := [(6, vI (x280.1)), (5, vI (x275.1)), (0, vR v0), (1, vR v1), (2, vR v2), (3, vR v3), (4, vI v4)]) dL_law_1181 (by decide) rfl ?_
        refine x_aload_n (μ := mu_l_law) (pc := 1183) 4 dL_law_1183 rfl ?_
        refine x_if (fun hm283 => ?_)
        refine x_callV_pi (μ := mu_l_law) (pc := 1184) (ok_tw_thrown (ω := ω) (l := l) (d := d - 1) (by omega) (TMb_ok hm283) ) gRel_E gRel_Tw (fun _ q => gTw_E q) q2952 q2953 q2954 q232 q2955 dL_law_1184 rfl (TMb_ok hm283).1 hy_tw_thrown (by omega) (Nat.le_of_ble_eq_true rfl) rfl (Nat.le_of_ble_eq_true rfl) (fun x284 hr285 => ?_)
        refine x_iload (μ := mu_l_law) (pc := 1187) 1 dL_law_1187 rfl ?_
        refine x_icmp_eq (μ := mu_l_law) (pc := 1189) (tgt := 1194) dL_law_1189 rfl hr285 hr276 ?_ ?_
        · refine x_iload (μ := mu_l_law) (pc := 1194) 1 dL_law_1194 rfl ?_
          refine x_if_ne (μ := mu_l_law) (pc := 1196) (tgt := 1211) dL_law_1196 rfl hr276 ?_ ?_
          · refine x_goto (μ := mu_l_law) (pc := 1211) (tgt := 1884) dL_law_1211 rfl ?_
            refine x_loc (lv' := [(0, vR v0), (1, vR v1), (2, vR v2), (3, vR v3), (4, vI v4)]) [2, 3, 4, 5, 6] rfl ?_
            exact okj_l_law_l23_j1884 hl hdp hv4 ih hK
          · refine x_aload_n (μ := mu_l_law) (pc := 1199) 5 dL_law_1199 rfl ?_
            refine x_iconst (μ := mu_l_law) (pc := 1200) dL_law_1200 ?_
            refine x_if (fun hT286 => ?_)
            refine x_lald (μ := mu_l_law) (pc := 1201) dL_law_1201 hT286 rfl (fun hr287 => ?_)
            refine x_iload (μ := mu_l_law) (pc := 1202) 0 dL_law_1202 rfl ?_
            refine x_i2l (μ := mu_l_law) (pc := 1204) dL_law_1204 hr281 ?_
            refine x_lcmp (μ := mu_l_law) (pc := 1205) dL_law_1205 hr287 (g32_64 hr281) ?_
            refine x_if_eq (μ := mu_l_law) (pc := 1206) (tgt := 1211) dL_law_1206 rfl (gcmp_rng _ _) ?_ ?_
            · refine x_goto (μ := mu_l_law) (pc := 1211) (tgt := 1884) dL_law_1211 rfl ?_
              refine x_loc (lv' := [(0, vR v0), (1, vR v1), (2, vR v2), (3, vR v3), (4, vI v4)]) [2, 3, 4, 5, 6] rfl ?_
              exact okj_l_law_l23_j1884 hl hdp hv4 ih hK
            · refine x_iconst (μ := mu_l_law) (pc := 1209) dL_law_1209 ?_
              exact x_zret (μ := mu_l_law) (pc := 1210) dL_law_1210 rfl (by decide) rfl (gRel_E.1 _) (show g32 0 from (by decide))
        · refine x_iconst (μ := mu_l_law) (pc := 1192) dL_law_1192 ?_
          exact x_zret (μ := mu_l_law) (pc := 1193) dL_law_1193 rfl (by decide) rfl (gRel_E.1 _) (show g32 0 from (by decide))
      refine x_tab (μ := mu_l_law) (pc := 40) (tgt := 1214) 17 dL_law_40 (by decide) (by decide) (by decide) rfl rfl ?_ (fun hn288 => ?_)
      · refine x_aload_n (μ := mu_l_law) (pc := 1214) 1 dL_law_1214 rfl ?_
        refine x_aload_n (μ := mu_l_law) (pc := 1215) 0 dL_law_1215 rfl ?_
        refine x_iload (μ := mu_l_law) (pc := 1216) 4 dL_law_1216 rfl ?_
        refine x_iconst (μ := mu_l_law) (pc := 1218) dL_law_1218 ?_
        refine x_iadd (μ := mu_l_law) (pc := 1219) dL_law_1219 ?_
        refine x_scald (μ := mu_l_law) (pc := 1220) dL_law_1220 hT15 (fun hr289 => ?_)
        refine x_aload_n (μ := mu_l_law) (pc := 1221) 3 dL_law_1221 rfl ?_
        refine x_callSW_mi (μ := mu_l_law) (pc := 1222) (ok_x0_pick (ω := ω) (l := l) (d := d - 1) hl (by omega) hr289) gRel_E gRel_E (fun _ q => q) q2575 q2576 q220 q2577 dL_law_1222 hy_x0_pick (by omega) (Nat.le_of_ble_eq_true rfl) rfl (Nat.le_of_ble_eq_true rfl) (fun x290 k292 hr291 => ?_)
        refine x_istore (μ := mu_l_law) (pc := 1225) (lv' := [(5, vI (x290.1)), (0, vR v0), (1, vR v1), (2, vR v2), (3, vR v3), (4, vI v4)]) dL_law_1225 (by decide) rfl ?_
        refine x_aload_n (μ := mu_l_law) (pc := 1227) 3 dL_law_1227 rfl ?_
        refine x_aload_n (μ := mu_l_law) (pc := 1228) 1 dL_law_1228 rfl ?_
        refine x_iload (μ := mu_l_law) (pc := 1229) 5 dL_law_1229 rfl ?_
        refine x_iconst (μ := mu_l_law) (pc := 1231) dL_law_1231 ?_
        refine x_iadd (μ := mu_l_law) (pc := 1232) dL_law_1232 ?_
        refine x_scald (μ := mu_l_law) (pc := 1233) dL_law_1233 (gT_E k292 hT15 (by decide)) (fun hr293 => ?_)
        refine x_if (fun hm294 => ?_)
        refine x_callV_mi (μ := mu_l_law) (pc := 1234) (ok_tw_pick (ω := ω) (l := l) (d := d - 1) (by omega) (TMb_ok hm294) hr293) gRel_E gRel_Tw (fun _ q => gTw_E q) q3706 q3707 q3708 q232 q3709 dL_law_1234 rfl (TMb_ok hm294).1 hy_tw_pick (by omega) (Nat.le_of_ble_eq_true rfl) rfl (Nat.le_of_ble_eq_true rfl) (fun x295 k297 hr296 => ?_)
        refine x_istore (μ := mu_l_law) (pc := 1237) (lv' := [(6, vI (x295.1)), (5, vI (x290.1)), (0, vR v0), (1, vR v1), (2, vR v2), (3, vR v3), (4, vI v4)]) dL_law_1237 (by decide) rfl ?_
        refine x_aload_n (μ := mu_l_law) (pc := 1239) 4 dL_law_1239 rfl ?_
        refine x_if (fun hm298 => ?_)
        refine x_callV_pi (μ := mu_l_law) (pc := 1240) (ok_tw_thrown (ω := ω) (l := l) (d := d - 1) (by omega) (TMb_ok hm298) ) gRel_E gRel_Tw (fun _ q => gTw_E q) q2952 q2953 q2954 q232 q2955 dL_law_1240 rfl (TMb_ok hm298).1 hy_tw_thrown (by omega) (Nat.le_of_ble_eq_true rfl) rfl (Nat.le_of_ble_eq_true rfl) (fun x299 hr300 => ?_)
        refine x_iload (μ := mu_l_law) (pc := 1243) 1 dL_law_1243 rfl ?_
        refine x_icmp_eq (μ := mu_l_law) (pc := 1245) (tgt := 1250) dL_law_1245 rfl hr300 hr291 ?_ ?_
        · refine x_iload (μ := mu_l_law) (pc := 1250) 1 dL_law_1250 rfl ?_
          refine x_if_ne (μ := mu_l_law) (pc := 1252) (tgt := 1267) dL_law_1252 rfl hr291 ?_ ?_
          · refine x_goto (μ := mu_l_law) (pc := 1267) (tgt := 1884) dL_law_1267 rfl ?_
            refine x_loc (lv' := [(0, vR v0), (1, vR v1), (2, vR v2), (3, vR v3), (4, vI v4)]) [2, 3, 4, 5, 6] rfl ?_
            exact okj_l_law_l23_j1884 hl hdp hv4 ih hK
          · refine x_aload_n (μ := mu_l_law) (pc := 1255) 5 dL_law_1255 rfl ?_
            refine x_iconst (μ := mu_l_law) (pc := 1256) dL_law_1256 ?_
            refine x_if (fun hT301 => ?_)
            refine x_lald (μ := mu_l_law) (pc := 1257) dL_law_1257 hT301 rfl (fun hr302 => ?_)
            refine x_iload (μ := mu_l_law) (pc := 1258) 0 dL_law_1258 rfl ?_
            refine x_i2l (μ := mu_l_law) (pc := 1260) dL_law_1260 hr296 ?_
            refine x_lcmp (μ := mu_l_law) (pc := 1261) dL_law_1261 hr302 (g32_64 hr296) ?_
            refine x_if_eq (μ := mu_l_law) (pc := 1262) (tgt := 1267) dL_law_1262 rfl (gcmp_rng _ _) ?_ ?_
            · refine x_goto (μ := mu_l_law) (pc := 1267) (tgt := 1884) dL_law_1267 rfl ?_
              refine x_loc (lv' := [(0, vR v0), (1, vR v1), (2, vR v2), (3, vR v3), (4, vI v4)]) [2, 3, 4, 5, 6] rfl ?_
              exact okj_l_law_l23_j1884 hl hdp hv4 ih hK
            · refine x_iconst (μ := mu_l_law) (pc := 1265) dL_law_1265 ?_
              exact x_zret (μ := mu_l_law) (pc := 1266) dL_law_1266 rfl (by decide) rfl (gRel_E.1 _) (show g32 0 from (by decide))
        · refine x_iconst (μ := mu_l_law) (pc := 1248) dL_law_1248 ?_
          exact x_zret (μ := mu_l_law) (pc := 1249) dL_law_1249 rfl (by decide) rfl (gRel_E.1 _) (show g32 0 from (by decide))
      refine x_tab (μ := mu_l_law) (pc := 40) (tgt := 1270) 18 dL_law_40 (by decide) (by decide) (by decide) rfl rfl ?_ (fun hn303 => ?_)
      · refine x_aload_n (μ := mu_l_law) (pc := 1270) 1 dL_law_1270 rfl ?_
        refine x_aload_n (μ := mu_l_law) (pc := 1271) 0 dL_law_1271 rfl ?_
        refine x_iload (μ := mu_l_law) (pc := 1272) 4 dL_law_1272 rfl ?_
        refine x_iconst (μ := mu_l_law) (pc := 1274) dL_law_1274 ?_
        refine x_iadd (μ := mu_l_law) (pc := 1275) dL_law_1275 ?_
        refine x_scald (μ := mu_l_law) (pc := 1276) dL_law_1276 hT15 (fun hr304 => ?_)
        refine x_aload_n (μ := mu_l_law) (pc := 1277) 0 dL_law_1277 rfl ?_
        refine x_iload (μ := mu_l_law) (pc := 1278) 4 dL_law_1278 rfl ?_
        refine x_iconst (μ := mu_l_law) (pc := 1280) dL_law_1280 ?_
        refine x_iadd (μ := mu_l_law) (pc := 1281) dL_law_1281 ?_
        refine x_scald (μ := mu_l_law) (pc := 1282) dL_law_1282 hT15 (fun hr305 => ?_)
        refine x_if (fun hT306 => ?_)
        refine x_callV_pi (μ := mu_l_law) (pc := 1283) (ok_x1_conflict (ω := ω) (l := l) (d := d - 1) hl (by omega) hr304 hr305) gRel_E gRel_E (fun _ q => q) q774 q775 q776 q221 q777 dL_law_1283 rfl hT306 hy_x1_conflict (by omega) (Nat.le_of_ble_eq_true rfl) rfl (Nat.le_of_ble_eq_true rfl) (fun x307 hr308 => ?_)
        refine x_aload_n (μ := mu_l_law) (pc := 1286) 2 dL_law_1286 rfl ?_
        refine x_aload_n (μ := mu_l_law) (pc := 1287) 0 dL_law_1287 rfl ?_
        refine x_iload (μ := mu_l_law) (pc := 1288) 4 dL_law_1288 rfl ?_
        refine x_iconst (μ := mu_l_law) (pc := 1290) dL_law_1290 ?_
        refine x_iadd (μ := mu_l_law) (pc := 1291) dL_law_1291 ?_
        refine x_scald (μ := mu_l_law) (pc := 1292) dL_law_1292 hT15 (fun hr309 => ?_)
        refine x_aload_n (μ := mu_l_law) (pc := 1293) 0 dL_law_1293 rfl ?_
        refine x_iload (μ := mu_l_law) (pc := 1294) 4 dL_law_1294 rfl ?_
        refine x_iconst (μ := mu_l_law) (pc := 1296) dL_law_1296 ?_
        refine x_iadd (μ := mu_l_law) (pc := 1297) dL_law_1297 ?_
        refine x_scald (μ := mu_l_law) (pc := 1298) dL_law_1298 hT15 (fun hr310 => ?_)
        refine x_if (fun hm311 => ?_)
        refine x_callV_mi (μ := mu_l_law) (pc := 1299) (ok_tw_conflict (ω := ω) (l := l) (d := d - 1) (by omega) (TMb_ok hm311) hr309 hr310) gRel_E gRel_Tw (fun _ q => gTw_E q) q3710 q3711 q3712 q232 q3713 dL_law_1299 rfl (TMb_ok hm311).1 hy_tw_conflict (by omega) (Nat.le_of_ble_eq_true rfl) rfl (Nat.le_of_ble_eq_true rfl) (fun x312 k314 hr313 => ?_)
        refine x_icmp_eq (μ := mu_l_law) (pc := 1302) (tgt := 1884) dL_law_1302 rfl hr308 hr313 ?_ ?_
        · exact okj_l_law_l23_j1884 hl hdp hv4 ih hK
        · refine x_iconst (μ := mu_l_law) (pc := 1305) dL_law_1305 ?_
          exact x_zret (μ := mu_l_law) (pc := 1306) dL_law_1306 rfl (by decide) rfl (gRel_E.1 _) (show g32 0 from (by decide))
      refine x_tab (μ := mu_l_law) (pc := 40) (tgt := 1307) 19 dL_law_40 (by decide) (by decide) (by decide) rfl rfl ?_ (fun hn315 => ?_)
      · refine x_aload_n (μ := mu_l_law) (pc := 1307) 1 dL_law_1307 rfl ?_
        refine x_aload_n (μ := mu_l_law) (pc := 1308) 0 dL_law_1308 rfl ?_
        refine x_iload (μ := mu_l_law) (pc := 1309) 4 dL_law_1309 rfl ?_
        refine x_iconst (μ := mu_l_law) (pc := 1311) dL_law_1311 ?_
        refine x_iadd (μ := mu_l_law) (pc := 1312) dL_law_1312 ?_
        refine x_scald (μ := mu_l_law) (pc := 1313) dL_law_1313 hT15 (fun hr316 => ?_)
        refine x_aload_n (μ := mu_l_law) (pc := 1314) 0 dL_law_1314 rfl ?_
        refine x_iload (μ := mu_l_law) (pc := 1315) 4 dL_law_1315 rfl ?_
        refine x_iconst (μ := mu_l_law) (pc := 1317) dL_law_1317 ?_
        refine x_iadd (μ := mu_l_law) (pc := 1318) dL_law_1318 ?_
        refine x_scald (μ := mu_l_law) (pc := 1319) dL_law_1319 hT15 (fun hr317 => ?_)
        refine x_if_eq (μ := mu_l_law) (pc := 1320) (tgt := 1327) dL_law_1320 rfl hr317 ?_ ?_
        · refine x_iconst (μ := mu_l_law) (pc := 1327) dL_law_1327 ?_
          exact okj_l_law_l23_j1328 hl hdp hv4 (by decide) hr316 ih hK
        · refine x_iconst (μ := mu_l_law) (pc := 1323) dL_law_1323 ?_
          refine x_goto (μ := mu_l_law) (pc := 1324) (tgt := 1328) dL_law_1324 rfl ?_
          exact okj_l_law_l23_j1328 hl hdp hv4 (by decide) hr316 ih hK
      refine x_tab (μ := mu_l_law) (pc := 40) (tgt := 1391) 20 dL_law_40 (by decide) (by decide) (by decide) rfl rfl ?_ (fun hn333 => ?_)
      · refine x_aload_n (μ := mu_l_law) (pc := 1391) 1 dL_law_1391 rfl ?_
        refine x_aload_n (μ := mu_l_law) (pc := 1392) 0 dL_law_1392 rfl ?_
        refine x_iload (μ := mu_l_law) (pc := 1393) 4 dL_law_1393 rfl ?_
        refine x_iconst (μ := mu_l_law) (pc := 1395) dL_law_1395 ?_
        refine x_iadd (μ := mu_l_law) (pc := 1396) dL_law_1396 ?_
        refine x_scald (μ := mu_l_law) (pc := 1397) dL_law_1397 hT15 (fun hr334 => ?_)
        refine x_aload_n (μ := mu_l_law) (pc := 1398) 0 dL_law_1398 rfl ?_
        refine x_iload (μ := mu_l_law) (pc := 1399) 4 dL_law_1399 rfl ?_
        refine x_iconst (μ := mu_l_law) (pc := 1401) dL_law_1401 ?_
        refine x_iadd (μ := mu_l_law) (pc := 1402) dL_law_1402 ?_
        refine x_scald (μ := mu_l_law) (pc := 1403) dL_law_1403 hT15 (fun hr335 => ?_)
        refine x_if (fun hT336 => ?_)
        refine x_callV_pi (μ := mu_l_law) (pc := 1404) (ok_x1_base (ω := ω) (l := l) (d := d - 1) hl (by omega) hr334 hr335) gRel_E gRel_E (fun _ q => q) q789 q790 q791 q221 q792 dL_law_1404 rfl hT336 hy_x1_base (by omega) (Nat.le_of_ble_eq_true rfl) rfl (Nat.le_of_ble_eq_true rfl) (fun x337 hr338 => ?_)
        refine x_aload_n (μ := mu_l_law) (pc := 1407) 2 dL_law_1407 rfl ?_
        refine x_aload_n (μ := mu_l_law) (pc := 1408) 0 dL_law_1408 rfl ?_
        refine x_iload (μ := mu_l_law) (pc := 1409) 4 dL_law_1409 rfl ?_
        refine x_iconst (μ := mu_l_law) (pc := 1411) dL_law_1411 ?_
        refine x_iadd (μ := mu_l_law) (pc := 1412) dL_law_1412 ?_
        refine x_scald (μ := mu_l_law) (pc := 1413) dL_law_1413 hT15 (fun hr339 => ?_)
        refine x_aload_n (μ := mu_l_law) (pc := 1414) 0 dL_law_1414 rfl ?_
        refine x_iload (μ := mu_l_law) (pc := 1415) 4 dL_law_1415 rfl ?_
        refine x_iconst (μ := mu_l_law) (pc := 1417) dL_law_1417 ?_
        refine x_iadd (μ := mu_l_law) (pc := 1418) dL_law_1418 ?_
        refine x_scald (μ := mu_l_law) (pc := 1419) dL_law_1419 hT15 (fun hr340 => ?_)
        refine x_if (fun hm341 => ?_)
        refine x_callV_mi (μ := mu_l_law) (pc := 1420) (ok_tw_base (ω := ω) (l := l) (d := d - 1) (by omega) (TMb_ok hm341) hr339 hr340) gRel_E gRel_Tw (fun _ q => gTw_E q) q3640 q3641 q3642 q232 q3643 dL_law_1420 rfl (TMb_ok hm341).1 hy_tw_base (by omega) (Nat.le_of_ble_eq_true rfl) rfl (Nat.le_of_ble_eq_true rfl) (fun x342 k344 hr343 => ?_)
        refine x_icmp_eq (μ := mu_l_law) (pc := 1423) (tgt := 1884) dL_law_1423 rfl hr338 hr343 ?_ ?_
        · exact okj_l_law_l23_j1884 hl hdp hv4 ih hK
        · refine x_iconst (μ := mu_l_law) (pc := 1426) dL_law_1426 ?_
          exact x_zret (μ := mu_l_law) (pc := 1427) dL_law_1427 rfl (by decide) rfl (gRel_E.1 _) (show g32 0 from (by decide))
      refine x_tab (μ := mu_l_law) (pc := 40) (tgt := 1428) 21 dL_law_40 (by decide) (by decide) (by decide) rfl rfl ?_ (fun hn345 => ?_)
      · refine x_aload_n (μ := mu_l_law) (pc := 1428) 1 dL_law_1428 rfl ?_
        refine x_aload_n (μ := mu_l_law) (pc := 1429) 0 dL_law_1429 rfl ?_
        refine x_iload (μ := mu_l_law) (pc := 1430) 4 dL_law_1430 rfl ?_
        refine x_iconst (μ := mu_l_law) (pc := 1432) dL_law_1432 ?_
        refine x_iadd (μ := mu_l_law) (pc := 1433) dL_law_1433 ?_
        refine x_scald (μ := mu_l_law) (pc := 1434) dL_law_1434 hT15 (fun hr346 => ?_)
        refine x_aload_n (μ := mu_l_law) (pc := 1435) 0 dL_law_1435 rfl ?_
        refine x_iload (μ := mu_l_law) (pc := 1436) 4 dL_law_1436 rfl ?_
        refine x_iconst (μ := mu_l_law) (pc := 1438) dL_law_1438 ?_
        refine x_iadd (μ := mu_l_law) (pc := 1439) dL_law_1439 ?_
        refine x_scald (μ := mu_l_law) (pc := 1440) dL_law_1440 hT15 (fun hr347 => ?_)
        refine x_aload_n (μ := mu_l_law) (pc := 1441) 3 dL_law_1441 rfl ?_
        refine x_callSW_mi (μ := mu_l_law) (pc := 1442) (ok_x0_diff (ω := ω) (l := l) (d := d - 1) hl (by omega) hr346 hr347) gRel_E gRel_E (fun _ q => q) q2590 q2591 q220 q2592 dL_law_1442 hy_x0_diff (by omega) (Nat.le_of_ble_eq_true rfl) rfl (Nat.le_of_ble_eq_true rfl) (fun x348 k350 hr349 => ?_)
        refine x_istore (μ := mu_l_law) (pc := 1445) (lv' := [(5, vI (x348.1)), (0, vR v0), (1, vR v1), (2, vR v2), (3, vR v3), (4, vI v4)]) dL_law_1445 (by decide) rfl ?_
        refine x_aload_n (μ := mu_l_law) (pc := 1447) 3 dL_law_1447 rfl ?_
        refine x_aload_n (μ := mu_l_law) (pc := 1448) 1 dL_law_1448 rfl ?_
        refine x_iload (μ := mu_l_law) (pc := 1449) 5 dL_law_1449 rfl ?_
        refine x_iconst (μ := mu_l_law) (pc := 1451) dL_law_1451 ?_
        refine x_iadd (μ := mu_l_law) (pc := 1452) dL_law_1452 ?_
        refine x_scald (μ := mu_l_law) (pc := 1453) dL_law_1453 (gT_E k350 hT15 (by decide)) (fun hr351 => ?_)
        refine x_aload_n (μ := mu_l_law) (pc := 1454) 1 dL_law_1454 rfl ?_
        refine x_iload (μ := mu_l_law) (pc := 1455) 5 dL_law_1455 rfl ?_
        refine x_iconst (μ := mu_l_law) (pc := 1457) dL_law_1457 ?_
        refine x_iadd (μ := mu_l_law) (pc := 1458) dL_law_1458 ?_
        refine x_scald (μ := mu_l_law) (pc := 1459) dL_law_1459 (gT_E k350 hT15 (by decide)) (fun hr352 => ?_)
        refine x_if (fun hm353 => ?_)
        refine x_callV_mi (μ := mu_l_law) (pc := 1460) (ok_tw_diff (ω := ω) (l := l) (d := d - 1) (by omega) (TMb_ok hm353) hr351 hr352) gRel_E gRel_Tw (fun _ q => gTw_E q) q3718 q3719 q3720 q232 q3721 dL_law_1460 rfl (TMb_ok hm353).1 hy_tw_diff (by omega) (Nat.le_of_ble_eq_true rfl) rfl (Nat.le_of_ble_eq_true rfl) (fun x354 k356 hr355 => ?_)
        refine x_istore (μ := mu_l_law) (pc := 1463) (lv' := [(6, vI (x354.1)), (5, vI (x348.1)), (0, vR v0), (1, vR v1), (2, vR v2), (3, vR v3), (4, vI v4)]) dL_law_1463 (by decide) rfl ?_
        refine x_aload_n (μ := mu_l_law) (pc := 1465) 4 dL_law_1465 rfl ?_
        refine x_if (fun hm357 => ?_)
        refine x_callV_pi (μ := mu_l_law) (pc := 1466) (ok_tw_thrown (ω := ω) (l := l) (d := d - 1) (by omega) (TMb_ok hm357) ) gRel_E gRel_Tw (fun _ q => gTw_E q) q2952 q2953 q2954 q232 q2955 dL_law_1466 rfl (TMb_ok hm357).1 hy_tw_thrown (by omega) (Nat.le_of_ble_eq_true rfl) rfl (Nat.le_of_ble_eq_true rfl) (fun x358 hr359 => ?_)
        refine x_iload (μ := mu_l_law) (pc := 1469) 1 dL_law_1469 rfl ?_
        refine x_icmp_eq (μ := mu_l_law) (pc := 1471) (tgt := 1476) dL_law_1471 rfl hr359 hr349 ?_ ?_
        · refine x_iload (μ := mu_l_law) (pc := 1476) 1 dL_law_1476 rfl ?_
          refine x_if_ne (μ := mu_l_law) (pc := 1478) (tgt := 1493) dL_law_1478 rfl hr349 ?_ ?_
          · refine x_goto (μ := mu_l_law) (pc := 1493) (tgt := 1884) dL_law_1493 rfl ?_
            refine x_loc (lv' := [(0, vR v0), (1, vR v1), (2, vR v2), (3, vR v3), (4, vI v4)]) [2, 3, 4, 5, 6] rfl ?_
            exact okj_l_law_l23_j1884 hl hdp hv4 ih hK
          · refine x_aload_n (μ := mu_l_law) (pc := 1481) 5 dL_law_1481 rfl ?_
            refine x_iconst (μ := mu_l_law) (pc := 1482) dL_law_1482 ?_
            refine x_if (fun hT360 => ?_)
            refine x_lald (μ := mu_l_law) (pc := 1483) dL_law_1483 hT360 rfl (fun hr361 => ?_)
            refine x_iload (μ := mu_l_law) (pc := 1484) 0 dL_law_1484 rfl ?_
            refine x_i2l (μ := mu_l_law) (pc := 1486) dL_law_1486 hr355 ?_
            refine x_lcmp (μ := mu_l_law) (pc := 1487) dL_law_1487 hr361 (g32_64 hr355) ?_
            refine x_if_eq (μ := mu_l_law) (pc := 1488) (tgt := 1493) dL_law_1488 rfl (gcmp_rng _ _) ?_ ?_
            · refine x_goto (μ := mu_l_law) (pc := 1493) (tgt := 1884) dL_law_1493 rfl ?_
              refine x_loc (lv' := [(0, vR v0), (1, vR v1), (2, vR v2), (3, vR v3), (4, vI v4)]) [2, 3, 4, 5, 6] rfl ?_
              exact okj_l_law_l23_j1884 hl hdp hv4 ih hK
            · refine x_iconst (μ := mu_l_law) (pc := 1491) dL_law_1491 ?_
              exact x_zret (μ := mu_l_law) (pc := 1492) dL_law_1492 rfl (by decide) rfl (gRel_E.1 _) (show g32 0 from (by decide))
        · refine x_iconst (μ := mu_l_law) (pc := 1474) dL_law_1474 ?_
          exact x_zret (μ := mu_l_law) (pc := 1475) dL_law_1475 rfl (by decide) rfl (gRel_E.1 _) (show g32 0 from (by decide))
      refine x_tab (μ := mu_l_law) (pc := 40) (tgt := 1496) 22 dL_law_40 (by decide) (by decide) (by decide) rfl rfl ?_ (fun hn362 => ?_)
      · refine x_aload_n (μ := mu_l_law) (pc := 1496) 1 dL_law_1496 rfl ?_
        refine x_aload_n (μ := mu_l_law) (pc := 1497) 0 dL_law_1497 rfl ?_
        refine x_iload (μ := mu_l_law) (pc := 1498) 4 dL_law_1498 rfl ?_
        refine x_iconst (μ := mu_l_law) (pc := 1500) dL_law_1500 ?_
        refine x_iadd (μ := mu_l_law) (pc := 1501) dL_law_1501 ?_
        refine x_scald (μ := mu_l_law) (pc := 1502) dL_law_1502 hT15 (fun hr363 => ?_)
        refine x_aload_n (μ := mu_l_law) (pc := 1503) 0 dL_law_1503 rfl ?_
        refine x_iload (μ := mu_l_law) (pc := 1504) 4 dL_law_1504 rfl ?_
        refine x_iconst (μ := mu_l_law) (pc := 1506) dL_law_1506 ?_
        refine x_iadd (μ := mu_l_law) (pc := 1507) dL_law_1507 ?_
        refine x_scald (μ := mu_l_law) (pc := 1508) dL_law_1508 hT15 (fun hr364 => ?_)
        refine x_if (fun hT365 => ?_)
        refine x_callV_pi (μ := mu_l_law) (pc := 1509) (ok_x1_difference (ω := ω) (l := l) (d := d - 1) hl (by omega) hr363 hr364) gRel_E gRel_E (fun _ q => q) q800 q801 q802 q221 q803 dL_law_1509 rfl hT365 hy_x1_difference (by omega) (Nat.le_of_ble_eq_true rfl) rfl (Nat.le_of_ble_eq_true rfl) (fun x366 hr367 => ?_)
        refine x_aload_n (μ := mu_l_law) (pc := 1512) 2 dL_law_1512 rfl ?_
        refine x_aload_n (μ := mu_l_law) (pc := 1513) 0 dL_law_1513 rfl ?_
        refine x_iload (μ := mu_l_law) (pc := 1514) 4 dL_law_1514 rfl ?_
        refine x_iconst (μ := mu_l_law) (pc := 1516) dL_law_1516 ?_
        refine x_iadd (μ := mu_l_law) (pc := 1517) dL_law_1517 ?_
        refine x_scald (μ := mu_l_law) (pc := 1518) dL_law_1518 hT15 (fun hr368 => ?_)
        refine x_aload_n (μ := mu_l_law) (pc := 1519) 0 dL_law_1519 rfl ?_
        refine x_iload (μ := mu_l_law) (pc := 1520) 4 dL_law_1520 rfl ?_
        refine x_iconst (μ := mu_l_law) (pc := 1522) dL_law_1522 ?_
        refine x_iadd (μ := mu_l_law) (pc := 1523) dL_law_1523 ?_
        refine x_scald (μ := mu_l_law) (pc := 1524) dL_law_1524 hT15 (fun hr369 => ?_)
        refine x_if (fun hm370 => ?_)
        refine x_callV_mi (μ := mu_l_law) (pc := 1525) (ok_tw_difference (ω := ω) (l := l) (d := d - 1) (by omega) (TMb_ok hm370) hr368 hr369) gRel_E gRel_Tw (fun _ q => gTw_E q) q3730 q3731 q3732 q232 q3733 dL_law_1525 rfl (TMb_ok hm370).1 hy_tw_difference (by omega) (Nat.le_of_ble_eq_true rfl) rfl (Nat.le_of_ble_eq_true rfl) (fun x371 k373 hr372 => ?_)
        refine x_icmp_eq (μ := mu_l_law) (pc := 1528) (tgt := 1884) dL_law_1528 rfl hr367 hr372 ?_ ?_
        · exact okj_l_law_l23_j1884 hl hdp hv4 ih hK
        · refine x_iconst (μ := mu_l_law) (pc := 1531) dL_law_1531 ?_
          exact x_zret (μ := mu_l_law) (pc := 1532) dL_law_1532 rfl (by decide) rfl (gRel_E.1 _) (show g32 0 from (by decide))
      refine x_tab (μ := mu_l_law) (pc := 40) (tgt := 1533) 23 dL_law_40 (by decide) (by decide) (by decide) rfl rfl ?_ (fun hn374 => ?_)
      · refine x_aload_n (μ := mu_l_law) (pc := 1533) 1 dL_law_1533 rfl ?_
        refine x_aload_n (μ := mu_l_law) (pc := 1534) 0 dL_law_1534 rfl ?_
        refine x_iload (μ := mu_l_law) (pc := 1535) 4 dL_law_1535 rfl ?_
        refine x_iconst (μ := mu_l_law) (pc := 1537) dL_law_1537 ?_
        refine x_iadd (μ := mu_l_law) (pc := 1538) dL_law_1538 ?_
        refine x_scald (μ := mu_l_law) (pc := 1539) dL_law_1539 hT15 (fun hr375 => ?_)
        refine x_aload_n (μ := mu_l_law) (pc := 1540) 0 dL_law_1540 rfl ?_
        refine x_iload (μ := mu_l_law) (pc := 1541) 4 dL_law_1541 rfl ?_
        refine x_iconst (μ := mu_l_law) (pc := 1543) dL_law_1543 ?_
        refine x_iadd (μ := mu_l_law) (pc := 1544) dL_law_1544 ?_
        refine x_scald (μ := mu_l_law) (pc := 1545) dL_law_1545 hT15 (fun hr376 => ?_)
        refine x_aload_n (μ := mu_l_law) (pc := 1546) 3 dL_law_1546 rfl ?_
        refine x_callSW_mi (μ := mu_l_law) (pc := 1547) (ok_x0_blame (ω := ω) (l := l) (d := d - 1) hl (by omega) hr375 hr376) gRel_E gRel_E (fun _ q => q) q2610 q2611 q220 q2612 dL_law_1547 hy_x0_blame (by omega) (Nat.le_of_ble_eq_true rfl) rfl (Nat.le_of_ble_eq_true rfl) (fun x377 k379 hr378 => ?_)
        refine x_istore (μ := mu_l_law) (pc := 1550) (lv' := [(5, vI (x377.1)), (0, vR v0), (1, vR v1), (2, vR v2), (3, vR v3), (4, vI v4)]) dL_law_1550 (by decide) rfl ?_
        refine x_aload_n (μ := mu_l_law) (pc := 1552) 3 dL_law_1552 rfl ?_
        refine x_aload_n (μ := mu_l_law) (pc := 1553) 1 dL_law_1553 rfl ?_
        refine x_iload (μ := mu_l_law) (pc := 1554) 5 dL_law_1554 rfl ?_
        refine x_iconst (μ := mu_l_law) (pc := 1556) dL_law_1556 ?_
        refine x_iadd (μ := mu_l_law) (pc := 1557) dL_law_1557 ?_
        refine x_scald (μ := mu_l_law) (pc := 1558) dL_law_1558 (gT_E k379 hT15 (by decide)) (fun hr380 => ?_)
        refine x_aload_n (μ := mu_l_law) (pc := 1559) 1 dL_law_1559 rfl ?_
        refine x_iload (μ := mu_l_law) (pc := 1560) 5 dL_law_1560 rfl ?_
        refine x_iconst (μ := mu_l_law) (pc := 1562) dL_law_1562 ?_
        refine x_iadd (μ := mu_l_law) (pc := 1563) dL_law_1563 ?_
        refine x_scald (μ := mu_l_law) (pc := 1564) dL_law_1564 (gT_E k379 hT15 (by decide)) (fun hr381 => ?_)
        refine x_if (fun hm382 => ?_)
        refine x_callV_mi (μ := mu_l_law) (pc := 1565) (ok_tw_blame (ω := ω) (l := l) (d := d - 1) (by omega) (TMb_ok hm382) hr380 hr381) gRel_E gRel_Tw (fun _ q => gTw_E q) q3734 q3735 q3736 q232 q3737 dL_law_1565 rfl (TMb_ok hm382).1 hy_tw_blame (by omega) (Nat.le_of_ble_eq_true rfl) rfl (Nat.le_of_ble_eq_true rfl) (fun x383 k385 hr384 => ?_)
        refine x_istore (μ := mu_l_law) (pc := 1568) (lv' := [(6, vI (x383.1)), (5, vI (x377.1)), (0, vR v0), (1, vR v1), (2, vR v2), (3, vR v3), (4, vI v4)]) dL_law_1568 (by decide) rfl ?_
        refine x_aload_n (μ := mu_l_law) (pc := 1570) 4 dL_law_1570 rfl ?_
        refine x_if (fun hm386 => ?_)
        refine x_callV_pi (μ := mu_l_law) (pc := 1571) (ok_tw_thrown (ω := ω) (l := l) (d := d - 1) (by omega) (TMb_ok hm386) ) gRel_E gRel_Tw (fun _ q => gTw_E q) q2952 q2953 q2954 q232 q2955 dL_law_1571 rfl (TMb_ok hm386).1 hy_tw_thrown (by omega) (Nat.le_of_ble_eq_true rfl) rfl (Nat.le_of_ble_eq_true rfl) (fun x387 hr388 => ?_)
        refine x_iload (μ := mu_l_law) (pc := 1574) 1 dL_law_1574 rfl ?_
        refine x_icmp_eq (μ := mu_l_law) (pc := 1576) (tgt := 1581) dL_law_1576 rfl hr388 hr378 ?_ ?_
        · refine x_iload (μ := mu_l_law) (pc := 1581) 1 dL_law_1581 rfl ?_
          refine x_if_ne (μ := mu_l_law) (pc := 1583) (tgt := 1598) dL_law_1583 rfl hr378 ?_ ?_
          · refine x_goto (μ := mu_l_law) (pc := 1598) (tgt := 1884) dL_law_1598 rfl ?_
            refine x_loc (lv' := [(0, vR v0), (1, vR v1), (2, vR v2), (3, vR v3), (4, vI v4)]) [2, 3, 4, 5, 6] rfl ?_
            exact okj_l_law_l23_j1884 hl hdp hv4 ih hK
          · refine x_aload_n (μ := mu_l_law) (pc := 1586) 5 dL_law_1586 rfl ?_
            refine x_iconst (μ := mu_l_law) (pc := 1587) dL_law_1587 ?_
            refine x_if (fun hT389 => ?_)
            refine x_lald (μ := mu_l_law) (pc := 1588) dL_law_1588 hT389 rfl (fun hr390 => ?_)
            refine x_iload (μ := mu_l_law) (pc := 1589) 0 dL_law_1589 rfl ?_
            refine x_i2l (μ := mu_l_law) (pc := 1591) dL_law_1591 hr384 ?_
            refine x_lcmp (μ := mu_l_law) (pc := 1592) dL_law_1592 hr390 (g32_64 hr384) ?_
            refine x_if_eq (μ := mu_l_law) (pc := 1593) (tgt := 1598) dL_law_1593 rfl (gcmp_rng _ _) ?_ ?_
            · refine x_goto (μ := mu_l_law) (pc := 1598) (tgt := 1884) dL_law_1598 rfl ?_
              refine x_loc (lv' := [(0, vR v0), (1, vR v1), (2, vR v2), (3, vR v3), (4, vI v4)]) [2, 3, 4, 5, 6] rfl ?_
              exact okj_l_law_l23_j1884 hl hdp hv4 ih hK
            · refine x_iconst (μ := mu_l_law) (pc := 1596) dL_law_1596 ?_
              exact x_zret (μ := mu_l_law) (pc := 1597) dL_law_1597 rfl (by decide) rfl (gRel_E.1 _) (show g32 0 from (by decide))
        · refine x_iconst (μ := mu_l_law) (pc := 1579) dL_law_1579 ?_
          exact x_zret (μ := mu_l_law) (pc := 1580) dL_law_1580 rfl (by decide) rfl (gRel_E.1 _) (show g32 0 from (by decide))
      refine x_tab (μ := mu_l_law) (pc := 40) (tgt := 1601) 24 dL_law_40 (by decide) (by decide) (by decide) rfl rfl ?_ (fun hn391 => ?_)
      · refine x_aload_n (μ := mu_l_law) (pc := 1601) 1 dL_law_1601 rfl ?_
        refine x_aload_n (μ := mu_l_law) (pc := 1602) 0 dL_law_1602 rfl ?_
        refine x_iload (μ := mu_l_law) (pc := 1603) 4 dL_law_1603 rfl ?_
        refine x_iconst (μ := mu_l_law) (pc := 1605) dL_law_1605 ?_
        refine x_iadd (μ := mu_l_law) (pc := 1606) dL_law_1606 ?_
        refine x_scald (μ := mu_l_law) (pc := 1607) dL_law_1607 hT15 (fun hr392 => ?_)
        refine x_aload_n (μ := mu_l_law) (pc := 1608) 0 dL_law_1608 rfl ?_
        refine x_iload (μ := mu_l_law) (pc := 1609) 4 dL_law_1609 rfl ?_
        refine x_iconst (μ := mu_l_law) (pc := 1611) dL_law_1611 ?_
        refine x_iadd (μ := mu_l_law) (pc := 1612) dL_law_1612 ?_
        refine x_scald (μ := mu_l_law) (pc := 1613) dL_law_1613 hT15 (fun hr393 => ?_)
        refine x_if (fun hT394 => ?_)
        refine x_callV_pi (μ := mu_l_law) (pc := 1614) (ok_x1_sheet (ω := ω) (l := l) (d := d - 1) hl (by omega) hr392 hr393) gRel_E gRel_E (fun _ q => q) q804 q805 q806 q221 q807 dL_law_1614 rfl hT394 hy_x1_sheet (by omega) (Nat.le_of_ble_eq_true rfl) rfl (Nat.le_of_ble_eq_true rfl) (fun x395 hr396 => ?_)
        refine x_aload_n (μ := mu_l_law) (pc := 1617) 2 dL_law_1617 rfl ?_
        refine x_aload_n (μ := mu_l_law) (pc := 1618) 0 dL_law_1618 rfl ?_
        refine x_iload (μ := mu_l_law) (pc := 1619) 4 dL_law_1619 rfl ?_
        refine x_iconst (μ := mu_l_law) (pc := 1621) dL_law_1621 ?_
        refine x_iadd (μ := mu_l_law) (pc := 1622) dL_law_1622 ?_
        refine x_scald (μ := mu_l_law) (pc := 1623) dL_law_1623 hT15 (fun hr397 => ?_)
        refine x_aload_n (μ := mu_l_law) (pc := 1624) 0 dL_law_1624 rfl ?_
        refine x_iload (μ := mu_l_law) (pc := 1625) 4 dL_law_1625 rfl ?_
        refine x_iconst (μ := mu_l_law) (pc := 1627) dL_law_1627 ?_
        refine x_iadd (μ := mu_l_law) (pc := 1628) dL_law_1628 ?_
        refine x_scald (μ := mu_l_law) (pc := 1629) dL_law_1629 hT15 (fun hr398 => ?_)
        refine x_if (fun hm399 => ?_)
        refine x_callV_mi (μ := mu_l_law) (pc := 1630) (ok_tw_sheet (ω := ω) (l := l) (d := d - 1) (by omega) (TMb_ok hm399) hr397 hr398) gRel_E gRel_Tw (fun _ q => gTw_E q) q3742 q3743 q3744 q232 q3745 dL_law_1630 rfl (TMb_ok hm399).1 hy_tw_sheet (by omega) (Nat.le_of_ble_eq_true rfl) rfl (Nat.le_of_ble_eq_true rfl) (fun x400 k402 hr401 => ?_)
        refine x_icmp_eq (μ := mu_l_law) (pc := 1633) (tgt := 1884) dL_law_1633 rfl hr396 hr401 ?_ ?_
        · exact okj_l_law_l23_j1884 hl hdp hv4 ih hK
        · refine x_iconst (μ := mu_l_law) (pc := 1636) dL_law_1636 ?_
          exact x_zret (μ := mu_l_law) (pc := 1637) dL_law_1637 rfl (by decide) rfl (gRel_E.1 _) (show g32 0 from (by decide))
      refine x_tab (μ := mu_l_law) (pc := 40) (tgt := 1638) 25 dL_law_40 (by decide) (by decide) (by decide) rfl rfl ?_ (fun hn403 => ?_)
      · refine x_aload_n (μ := mu_l_law) (pc := 1638) 1 dL_law_1638 rfl ?_
        refine x_aload_n (μ := mu_l_law) (pc := 1639) 0 dL_law_1639 rfl ?_
        refine x_iload (μ := mu_l_law) (pc := 1640) 4 dL_law_1640 rfl ?_
        refine x_iconst (μ := mu_l_law) (pc := 1642) dL_law_1642 ?_
        refine x_iadd (μ := mu_l_law) (pc := 1643) dL_law_1643 ?_
        refine x_scald (μ := mu_l_law) (pc := 1644) dL_law_1644 hT15 (fun hr404 => ?_)
        refine x_aload_n (μ := mu_l_law) (pc := 1645) 0 dL_law_1645 rfl ?_
        refine x_iload (μ := mu_l_law) (pc := 1646) 4 dL_law_1646 rfl ?_
        refine x_iconst (μ := mu_l_law) (pc := 1648) dL_law_1648 ?_
        refine x_iadd (μ := mu_l_law) (pc := 1649) dL_law_1649 ?_
        refine x_scald (μ := mu_l_law) (pc := 1650) dL_law_1650 hT15 (fun hr405 => ?_)
        refine x_aload_n (μ := mu_l_law) (pc := 1651) 0 dL_law_1651 rfl ?_
        refine x_iload (μ := mu_l_law) (pc := 1652) 4 dL_law_1652 rfl ?_
        refine x_iconst (μ := mu_l_law) (pc := 1654) dL_law_1654 ?_
        refine x_iadd (μ := mu_l_law) (pc := 1655) dL_law_1655 ?_
        refine x_scald (μ := mu_l_law) (pc := 1656) dL_law_1656 hT15 (fun hr406 => ?_)
        refine x_if (fun hT407 => ?_)
        refine x_callV_mi (μ := mu_l_law) (pc := 1657) (ok_x1_kind (ω := ω) (l := l) (d := d - 1) hl (by omega) hr404 hr405 hr406) gRel_E gRel_E (fun _ q => q) q812 q813 q814 q221 q815 dL_law_1657 rfl hT407 hy_x1_kind (by omega) (Nat.le_of_ble_eq_true rfl) rfl (Nat.le_of_ble_eq_true rfl) (fun x408 k410 hr409 => ?_)
        refine x_aload_n (μ := mu_l_law) (pc := 1660) 2 dL_law_1660 rfl ?_
        refine x_aload_n (μ := mu_l_law) (pc := 1661) 0 dL_law_1661 rfl ?_
        refine x_iload (μ := mu_l_law) (pc := 1662) 4 dL_law_1662 rfl ?_
        refine x_iconst (μ := mu_l_law) (pc := 1664) dL_law_1664 ?_
        refine x_iadd (μ := mu_l_law) (pc := 1665) dL_law_1665 ?_
        refine x_scald (μ := mu_l_law) (pc := 1666) dL_law_1666 (gT_E k410 hT15 (by decide)) (fun hr411 => ?_)
        refine x_aload_n (μ := mu_l_law) (pc := 1667) 0 dL_law_1667 rfl ?_
        refine x_iload (μ := mu_l_law) (pc := 1668) 4 dL_law_1668 rfl ?_
        refine x_iconst (μ := mu_l_law) (pc := 1670) dL_law_1670 ?_
        refine x_iadd (μ := mu_l_law) (pc := 1671) dL_law_1671 ?_
        refine x_scald (μ := mu_l_law) (pc := 1672) dL_law_1672 (gT_E k410 hT15 (by decide)) (fun hr412 => ?_)
        refine x_aload_n (μ := mu_l_law) (pc := 1673) 0 dL_law_1673 rfl ?_
        refine x_iload (μ := mu_l_law) (pc := 1674) 4 dL_law_1674 rfl ?_
        refine x_iconst (μ := mu_l_law) (pc := 1676) dL_law_1676 ?_
        refine x_iadd (μ := mu_l_law) (pc := 1677) dL_law_1677 ?_
        refine x_scald (μ := mu_l_law) (pc := 1678) dL_law_1678 (gT_E k410 hT15 (by decide)) (fun hr413 => ?_)
        refine x_if (fun hm414 => ?_)
        refine x_callV_mi (μ := mu_l_law) (pc := 1679) (ok_tw_kind (ω := ω) (l := l) (d := d - 1) (by omega) (TMb_ok hm414) hr411 hr412 hr413) gRel_E gRel_Tw (fun _ q => gTw_E q) q3203 q3204 q3205 q232 q3206 dL_law_1679 rfl (TMb_ok hm414).1 hy_tw_kind (by omega) (Nat.le_of_ble_eq_true rfl) rfl (Nat.le_of_ble_eq_true rfl) (fun x415 k417 hr416 => ?_)
        refine x_icmp_eq (μ := mu_l_law) (pc := 1682) (tgt := 1884) dL_law_1682 rfl hr409 hr416 ?_ ?_
        · exact okj_l_law_l23_j1884 hl hdp hv4 ih hK
        · refine x_iconst (μ := mu_l_law) (pc := 1685) dL_law_1685 ?_
          exact x_zret (μ := mu_l_law) (pc := 1686) dL_law_1686 rfl (by decide) rfl (gRel_E.1 _) (show g32 0 from (by decide))
      refine x_tab (μ := mu_l_law) (pc := 40) (tgt := 1687) 26 dL_law_40 (by decide) (by decide) (by decide) rfl rfl ?_ (fun hn418 => ?_)
      · refine x_aload_n (μ := mu_l_law) (pc := 1687) 1 dL_law_1687 rfl ?_
        refine x_aload_n (μ := mu_l_law) (pc := 1688) 0 dL_law_1688 rfl ?_
        refine x_iload (μ := mu_l_law) (pc := 1689) 4 dL_law_1689 rfl ?_
        refine x_iconst (μ := mu_l_law) (pc := 1691) dL_law_1691 ?_
        refine x_iadd (μ := mu_l_law) (pc := 1692) dL_law_1692 ?_
        refine x_scald (μ := mu_l_law) (pc := 1693) dL_law_1693 hT15 (fun hr419 => ?_)
        refine x_aload_n (μ := mu_l_law) (pc := 1694) 0 dL_law_1694 rfl ?_
        refine x_iload (μ := mu_l_law) (pc := 1695) 4 dL_law_1695 rfl ?_
        refine x_iconst (μ := mu_l_law) (pc := 1697) dL_law_1697 ?_
        refine x_iadd (μ := mu_l_law) (pc := 1698) dL_law_1698 ?_
        refine x_scald (μ := mu_l_law) (pc := 1699) dL_law_1699 hT15 (fun hr420 => ?_)
        refine x_aload_n (μ := mu_l_law) (pc := 1700) 0 dL_law_1700 rfl ?_
        refine x_iload (μ := mu_l_law) (pc := 1701) 4 dL_law_1701 rfl ?_
        refine x_iconst (μ := mu_l_law) (pc := 1703) dL_law_1703 ?_
        refine x_iadd (μ := mu_l_law) (pc := 1704) dL_law_1704 ?_
        refine x_scald (μ := mu_l_law) (pc := 1705) dL_law_1705 hT15 (fun hr421 => ?_)
        refine x_if (fun hT422 => ?_)
        refine x_callV_ml (μ := mu_l_law) (pc := 1706) (ok_x1_value (ω := ω) (l := l) (d := d - 1) hl (by omega) hr419 hr420 hr421) gRel_E gRel_E (fun _ q => q) q1335 q1336 q1337 q221 q1338 dL_law_1706 rfl hT422 hy_x1_value (by omega) (Nat.le_of_ble_eq_true rfl) rfl (Nat.le_of_ble_eq_true rfl) (fun x423 k425 hr424 => ?_)
        refine x_aload_n (μ := mu_l_law) (pc := 1709) 2 dL_law_1709 rfl ?_
        refine x_aload_n (μ := mu_l_law) (pc := 1710) 0 dL_law_1710 rfl ?_
        refine x_iload (μ := mu_l_law) (pc := 1711) 4 dL_law_1711 rfl ?_
        refine x_iconst (μ := mu_l_law) (pc := 1713) dL_law_1713 ?_
        refine x_iadd (μ := mu_l_law) (pc := 1714) dL_law_1714 ?_
        refine x_scald (μ := mu_l_law) (pc := 1715) dL_law_1715 (gT_E k425 hT15 (by decide)) (fun hr426 => ?_)
        refine x_aload_n (μ := mu_l_law) (pc := 1716) 0 dL_law_1716 rfl ?_
        refine x_iload (μ := mu_l_law) (pc := 1717) 4 dL_law_1717 rfl ?_
        refine x_iconst (μ := mu_l_law) (pc := 1719) dL_law_1719 ?_
        refine x_iadd (μ := mu_l_law) (pc := 1720) dL_law_1720 ?_
        refine x_scald (μ := mu_l_law) (pc := 1721) dL_law_1721 (gT_E k425 hT15 (by decide)) (fun hr427 => ?_)
        refine x_aload_n (μ := mu_l_law) (pc := 1722) 0 dL_law_1722 rfl ?_
        refine x_iload (μ := mu_l_law) (pc := 1723) 4 dL_law_1723 rfl ?_
        refine x_iconst (μ := mu_l_law) (pc := 1725) dL_law_1725 ?_
        refine x_iadd (μ := mu_l_law) (pc := 1726) dL_law_1726 ?_
        refine x_scald (μ := mu_l_law) (pc := 1727) dL_law_1727 (gT_E k425 hT15 (by decide)) (fun hr428 => ?_)
        refine x_if (fun hm429 => ?_)
        refine x_callV_ml (μ := mu_l_law) (pc := 1728) (ok_tw_value (ω := ω) (l := l) (d := d - 1) (by omega) (TMb_ok hm429) hr426 hr427 hr428) gRel_E gRel_Tw (fun _ q => gTw_E q) q3441 q3442 q3443 q232 q3444 dL_law_1728 rfl (TMb_ok hm429).1 hy_tw_value (by omega) (Nat.le_of_ble_eq_true rfl) rfl (Nat.le_of_ble_eq_true rfl) (fun x430 k432 hr431 => ?_)
        refine x_lcmp (μ := mu_l_law) (pc := 1731) dL_law_1731 hr424 hr431 ?_
        refine x_if_eq (μ := mu_l_law) (pc := 1732) (tgt := 1884) dL_law_1732 rfl (gcmp_rng _ _) ?_ ?_
        · exact okj_l_law_l23_j1884 hl hdp hv4 ih hK
        · refine x_iconst (μ := mu_l_law) (pc := 1735) dL_law_1735 ?_
          exact x_zret (μ := mu_l_law) (pc := 1736) dL_law_1736 rfl (by decide) rfl (gRel_E.1 _) (show g32 0 from (by decide))
      refine x_tab (μ := mu_l_law) (pc := 40) (tgt := 1737) 27 dL_law_40 (by decide) (by decide) (by decide) rfl rfl ?_ (fun hn433 => ?_)
      · refine x_aload_n (μ := mu_l_law) (pc := 1737) 1 dL_law_1737 rfl ?_
        refine x_aload_n (μ := mu_l_law) (pc := 1738) 0 dL_law_1738 rfl ?_
        refine x_iload (μ := mu_l_law) (pc := 1739) 4 dL_law_1739 rfl ?_
        refine x_iconst (μ := mu_l_law) (pc := 1741) dL_law_1741 ?_
        refine x_iadd (μ := mu_l_law) (pc := 1742) dL_law_1742 ?_
        refine x_scald (μ := mu_l_law) (pc := 1743) dL_law_1743 hT15 (fun hr434 => ?_)
        refine x_aload_n (μ := mu_l_law) (pc := 1744) 0 dL_law_1744 rfl ?_
        refine x_iload (μ := mu_l_law) (pc := 1745) 4 dL_law_1745 rfl ?_
        refine x_iconst (μ := mu_l_law) (pc := 1747) dL_law_1747 ?_
        refine x_iadd (μ := mu_l_law) (pc := 1748) dL_law_1748 ?_
        refine x_scald (μ := mu_l_law) (pc := 1749) dL_law_1749 hT15 (fun hr435 => ?_)
        refine x_aload_n (μ := mu_l_law) (pc := 1750) 0 dL_law_1750 rfl ?_
        refine x_iload (μ := mu_l_law) (pc := 1751) 4 dL_law_1751 rfl ?_
        refine x_iconst (μ := mu_l_law) (pc := 1753) dL_law_1753 ?_
        refine x_iadd (μ := mu_l_law) (pc := 1754) dL_law_1754 ?_
        refine x_scald (μ := mu_l_law) (pc := 1755) dL_law_1755 hT15 (fun hr436 => ?_)
        refine x_aload_n (μ := mu_l_law) (pc := 1756) 0 dL_law_1756 rfl ?_
        refine x_iload (μ := mu_l_law) (pc := 1757) 4 dL_law_1757 rfl ?_
        refine x_iconst (μ := mu_l_law) (pc := 1759) dL_law_1759 ?_
        refine x_iadd (μ := mu_l_law) (pc := 1760) dL_law_1760 ?_
        refine x_scald (μ := mu_l_law) (pc := 1761) dL_law_1761 hT15 (fun hr437 => ?_)
        refine x_if (fun hT438 => ?_)
        refine x_callV_mi (μ := mu_l_law) (pc := 1762) (ok_x1_letter (ω := ω) (l := l) (d := d - 1) hl (by omega) hr434 hr435 hr436 hr437) gRel_E gRel_E (fun _ q => q) q1339 q1340 q1341 q221 q1342 dL_law_1762 rfl hT438 hy_x1_letter (by omega) (Nat.le_of_ble_eq_true rfl) rfl (Nat.le_of_ble_eq_true rfl) (fun x439 k441 hr440 => ?_)
        refine x_aload_n (μ := mu_l_law) (pc := 1765) 2 dL_law_1765 rfl ?_
        refine x_aload_n (μ := mu_l_law) (pc := 1766) 0 dL_law_1766 rfl ?_
        refine x_iload (μ := mu_l_law) (pc := 1767) 4 dL_law_1767 rfl ?_
        refine x_iconst (μ := mu_l_law) (pc := 1769) dL_law_1769 ?_
        refine x_iadd (μ := mu_l_law) (pc := 1770) dL_law_1770 ?_
        refine x_scald (μ := mu_l_law) (pc := 1771) dL_law_1771 (gT_E k441 hT15 (by decide)) (fun hr442 => ?_)
        refine x_aload_n (μ := mu_l_law) (pc := 1772) 0 dL_law_1772 rfl ?_
        refine x_iload (μ := mu_l_law) (pc := 1773) 4 dL_law_1773 rfl ?_
        refine x_iconst (μ := mu_l_law) (pc := 1775) dL_law_1775 ?_
        refine x_iadd (μ := mu_l_law) (pc := 1776) dL_law_1776 ?_
        refine x_scald (μ := mu_l_law) (pc := 1777) dL_law_1777 (gT_E k441 hT15 (by decide)) (fun hr443 => ?_)
        refine x_aload_n (μ := mu_l_law) (pc := 1778) 0 dL_law_1778 rfl ?_
        refine x_iload (μ := mu_l_law) (pc := 1779) 4 dL_law_1779 rfl ?_
        refine x_iconst (μ := mu_l_law) (pc := 1781) dL_law_1781 ?_
        refine x_iadd (μ := mu_l_law) (pc := 1782) dL_law_1782 ?_
        refine x_scald (μ := mu_l_law) (pc := 1783) dL_law_1783 (gT_E k441 hT15 (by decide)) (fun hr444 => ?_)
        refine x_aload_n (μ := mu_l_law) (pc := 1784) 0 dL_law_1784 rfl ?_
        refine x_iload (μ := mu_l_law) (pc := 1785) 4 dL_law_1785 rfl ?_
        refine x_iconst (μ := mu_l_law) (pc := 1787) dL_law_1787 ?_
        refine x_iadd (μ := mu_l_law) (pc := 1788) dL_law_1788 ?_
        refine x_scald (μ := mu_l_law) (pc := 1789) dL_law_1789 (gT_E k441 hT15 (by decide)) (fun hr445 => ?_)
        refine x_if (fun hm446 => ?_)
        refine x_callV_mi (μ := mu_l_law) (pc := 1790) (ok_tw_letter (ω := ω) (l := l) (d := d - 1) (by omega) (TMb_ok hm446) hr442 hr443 hr444 hr445) gRel_E gRel_Tw (fun _ q => gTw_E q) q3445 q3446 q3447 q232 q3448 dL_law_1790 rfl (TMb_ok hm446).1 hy_tw_letter (by omega) (Nat.le_of_ble_eq_true rfl) rfl (Nat.le_of_ble_eq_true rfl) (fun x447 k449 hr448 => ?_)
        refine x_icmp_eq (μ := mu_l_law) (pc := 1793) (tgt := 1884) dL_law_1793 rfl hr440 hr448 ?_ ?_
        · exact okj_l_law_l23_j1884 hl hdp hv4 ih hK
        · refine x_iconst (μ := mu_l_law) (pc := 1796) dL_law_1796 ?_
          exact x_zret (μ := mu_l_law) (pc := 1797) dL_law_1797 rfl (by decide) rfl (gRel_E.1 _) (show g32 0 from (by decide))
      refine x_tab (μ := mu_l_law) (pc := 40) (tgt := 1798) 28 dL_law_40 (by decide) (by decide) (by decide) rfl rfl ?_ (fun hn450 => ?_)
      · refine x_aload_n (μ := mu_l_law) (pc := 1798) 1 dL_law_1798 rfl ?_
        refine x_aload_n (μ := mu_l_law) (pc := 1799) 0 dL_law_1799 rfl ?_
        refine x_iload (μ := mu_l_law) (pc := 1800) 4 dL_law_1800 rfl ?_
        refine x_iconst (μ := mu_l_law) (pc := 1802) dL_law_1802 ?_
        refine x_iadd (μ := mu_l_law) (pc := 1803) dL_law_1803 ?_
        refine x_scald (μ := mu_l_law) (pc := 1804) dL_law_1804 hT15 (fun hr451 => ?_)
        refine x_aload_n (μ := mu_l_law) (pc := 1805) 0 dL_law_1805 rfl ?_
        refine x_iload (μ := mu_l_law) (pc := 1806) 4 dL_law_1806 rfl ?_
        refine x_iconst (μ := mu_l_law) (pc := 1808) dL_law_1808 ?_
        refine x_iadd (μ := mu_l_law) (pc := 1809) dL_law_1809 ?_
        refine x_scald (μ := mu_l_law) (pc := 1810) dL_law_1810 hT15 (fun hr452 => ?_)
        refine x_aload_n (μ := mu_l_law) (pc := 1811) 0 dL_law_1811 rfl ?_
        refine x_iload (μ := mu_l_law) (pc := 1812) 4 dL_law_1812 rfl ?_
        refine x_iconst (μ := mu_l_law) (pc := 1814) dL_law_1814 ?_
        refine x_iadd (μ := mu_l_law) (pc := 1815) dL_law_1815 ?_
        refine x_scald (μ := mu_l_law) (pc := 1816) dL_law_1816 hT15 (fun hr453 => ?_)
        refine x_aload_n (μ := mu_l_law) (pc := 1817) 0 dL_law_1817 rfl ?_
        refine x_iload (μ := mu_l_law) (pc := 1818) 4 dL_law_1818 rfl ?_
        refine x_iconst (μ := mu_l_law) (pc := 1820) dL_law_1820 ?_
        refine x_iadd (μ := mu_l_law) (pc := 1821) dL_law_1821 ?_
        refine x_scald (μ := mu_l_law) (pc := 1822) dL_law_1822 hT15 (fun hr454 => ?_)
        refine x_if (fun hT455 => ?_)
        refine x_callV_mi (μ := mu_l_law) (pc := 1823) (ok_x1_written (ω := ω) (l := l) (d := d - 1) hl (by omega) hr451 hr452 hr453 hr454) gRel_E gRel_E (fun _ q => q) q1343 q1344 q1345 q221 q1346 dL_law_1823 rfl hT455 hy_x1_written (by omega) (Nat.le_of_ble_eq_true rfl) rfl (Nat.le_of_ble_eq_true rfl) (fun x456 k458 hr457 => ?_)
        refine x_aload_n (μ := mu_l_law) (pc := 1826) 2 dL_law_1826 rfl ?_
        refine x_aload_n (μ := mu_l_law) (pc := 1827) 0 dL_law_1827 rfl ?_
        refine x_iload (μ := mu_l_law) (pc := 1828) 4 dL_law_1828 rfl ?_
        refine x_iconst (μ := mu_l_law) (pc := 1830) dL_law_1830 ?_
        refine x_iadd (μ := mu_l_law) (pc := 1831) dL_law_1831 ?_
        refine x_scald (μ := mu_l_law) (pc := 1832) dL_law_1832 (gT_E k458 hT15 (by decide)) (fun hr459 => ?_)
        refine x_aload_n (μ := mu_l_law) (pc := 1833) 0 dL_law_1833 rfl ?_
        refine x_iload (μ := mu_l_law) (pc := 1834) 4 dL_law_1834 rfl ?_
        refine x_iconst (μ := mu_l_law) (pc := 1836) dL_law_1836 ?_
        refine x_iadd (μ := mu_l_law) (pc := 1837) dL_law_1837 ?_
        refine x_scald (μ := mu_l_law) (pc := 1838) dL_law_1838 (gT_E k458 hT15 (by decide)) (fun hr460 => ?_)
        refine x_aload_n (μ := mu_l_law) (pc := 1839) 0 dL_law_1839 rfl ?_
        refine x_iload (μ := mu_l_law) (pc := 1840) 4 dL_law_1840 rfl ?_
        refine x_iconst (μ := mu_l_law) (pc := 1842) dL_law_1842 ?_
        refine x_iadd (μ := mu_l_law) (pc := 1843) dL_law_1843 ?_
        refine x_scald (μ := mu_l_law) (pc := 1844) dL_law_1844 (gT_E k458 hT15 (by decide)) (fun hr461 => ?_)
        refine x_aload_n (μ := mu_l_law) (pc := 1845) 0 dL_law_1845 rfl ?_
        refine x_iload (μ := mu_l_law) (pc := 1846) 4 dL_law_1846 rfl ?_
        refine x_iconst (μ := mu_l_law) (pc := 1848) dL_law_1848 ?_
        refine x_iadd (μ := mu_l_law) (pc := 1849) dL_law_1849 ?_
        refine x_scald (μ := mu_l_law) (pc := 1850) dL_law_1850 (gT_E k458 hT15 (by decide)) (fun hr462 => ?_)
        refine x_if (fun hm463 => ?_)
        refine x_callV_mi (μ := mu_l_law) (pc := 1851) (ok_tw_written (ω := ω) (l := l) (d := d - 1) (by omega) (TMb_ok hm463) hr459 hr460 hr461 hr462) gRel_E gRel_Tw (fun _ q => gTw_E q) q3449 q3450 q3451 q232 q3452 dL_law_1851 rfl (TMb_ok hm463).1 hy_tw_written (by omega) (Nat.le_of_ble_eq_true rfl) rfl (Nat.le_of_ble_eq_true rfl) (fun x464 k466 hr465 => ?_)
        refine x_icmp_eq (μ := mu_l_law) (pc := 1854) (tgt := 1884) dL_law_1854 rfl hr457 hr465 ?_ ?_
        · exact okj_l_law_l23_j1884 hl hdp hv4 ih hK
        · refine x_iconst (μ := mu_l_law) (pc := 1857) dL_law_1857 ?_
          exact x_zret (μ := mu_l_law) (pc := 1858) dL_law_1858 rfl (by decide) rfl (gRel_E.1 _) (show g32 0 from (by decide))
      refine x_tab (μ := mu_l_law) (pc := 40) (tgt := 1859) 29 dL_law_40 (by decide) (by decide) (by decide) rfl rfl ?_ (fun hn467 => ?_)
      · refine x_aload_n (μ := mu_l_law) (pc := 1859) 1 dL_law_1859 rfl ?_
        refine x_aload_n (μ := mu_l_law) (pc := 1860) 0 dL_law_1860 rfl ?_
        refine x_iload (μ := mu_l_law) (pc := 1861) 4 dL_law_1861 rfl ?_
        refine x_iconst (μ := mu_l_law) (pc := 1863) dL_law_1863 ?_
        refine x_iadd (μ := mu_l_law) (pc := 1864) dL_law_1864 ?_
        refine x_scald (μ := mu_l_law) (pc := 1865) dL_law_1865 hT15 (fun hr468 => ?_)
        refine x_if (fun hT469 => ?_)
        refine x_callV_pi (μ := mu_l_law) (pc := 1866) (ok_x1_total (ω := ω) (l := l) (d := d - 1) hl (by omega) hr468) gRel_E gRel_E (fun _ q => q) q1556 q1557 q1558 q221 q1559 dL_law_1866 rfl hT469 hy_x1_total (by omega) (Nat.le_of_ble_eq_true rfl) rfl (Nat.le_of_ble_eq_true rfl) (fun x470 hr471 => ?_)
        refine x_aload_n (μ := mu_l_law) (pc := 1869) 2 dL_law_1869 rfl ?_
        refine x_aload_n (μ := mu_l_law) (pc := 1870) 0 dL_law_1870 rfl ?_
        refine x_iload (μ := mu_l_law) (pc := 1871) 4 dL_law_1871 rfl ?_
        refine x_iconst (μ := mu_l_law) (pc := 1873) dL_law_1873 ?_
        refine x_iadd (μ := mu_l_law) (pc := 1874) dL_law_1874 ?_
        refine x_scald (μ := mu_l_law) (pc := 1875) dL_law_1875 hT15 (fun hr472 => ?_)
        refine x_if (fun hm473 => ?_)
        refine x_callV_mi (μ := mu_l_law) (pc := 1876) (ok_tw_total (ω := ω) (l := l) (d := d - 1) (by omega) (TMb_ok hm473) hr472) gRel_E gRel_Tw (fun _ q => gTw_E q) q3746 q3747 q3748 q232 q3749 dL_law_1876 rfl (TMb_ok hm473).1 hy_tw_total (by omega) (Nat.le_of_ble_eq_true rfl) rfl (Nat.le_of_ble_eq_true rfl) (fun x474 k476 hr475 => ?_)
        refine x_icmp_eq (μ := mu_l_law) (pc := 1879) (tgt := 1884) dL_law_1879 rfl hr471 hr475 ?_ ?_
        · exact okj_l_law_l23_j1884 hl hdp hv4 ih hK
        · refine x_iconst (μ := mu_l_law) (pc := 1882) dL_law_1882 ?_
          exact x_zret (μ := mu_l_law) (pc := 1883) dL_law_1883 rfl (by decide) rfl (gRel_E.1 _) (show g32 0 from (by decide))
      refine x_tabOut (μ := mu_l_law) (pc := 40) (tgt := 1884) dL_law_40 (bAnd_rng _ _) (by omega) rfl ?_
      exact okj_l_law_l23_j1884 hl hdp hv4 ih hK
def l_law (N : Nat) (v0 : Nat) (σ : gMem) : Option (Int × gMem) := gLet (wN σ 1 32) (fun s2 => (x1_init N (mZ σ) s2).bind (fun x4 => gLet (wN x4 10 105) (fun s7 => (x11_init N (mZ x4) s7).bind (fun x9 => if 0 ≤ (1 : Int) ∧ (1 : Int) < 1000000 then gLet (wN x9 101 (1 : Int).toNat) (fun s13 => l_law_l23 N v0 (mZ σ) (mZ x4) (mZ x9) (fun s477 => some (1, s477)) N 0 s13) else none))))
set_option maxRecDepth 100000 in
theorem ok_l_law {ω : gW} {l : Launch} {d : Nat} {N : Nat} {σ : gMem} {v0 : Nat} (hl : l.stackTraces = false) (hdp : 241 ≤ d) : GG (fun p : Int × gMem => (.inl (some (vI p.1)), p.2)) gE ω l d mu_l_law σ 0 (gent 0 [vR v0]) [] σ (l_law N v0 σ) := by
  unfold l_law
  refine x_ok (fun ok1 => ?_)
  refine x_new (μ := mu_l_law) (pc := 0) (ci := 0) gk_X1 gd_X1 q268 q269 q221 dL_law_0 ?_
  refine x_let (fun s2 e3 => ?_)
  refine x_dup (μ := mu_l_law) (pc := 3) dL_law_3 rfl ?_
  refine x_callI_mv (μ := mu_l_law) (pc := 4) (ok_x1_init (ω := ω) (l := l) (d := d - 1) hl (by omega) ) gRel_E gRel_E (fun _ q => q) q270 q271 q221 q272 dL_law_4 (gT_ne (gT_new e3)) rfl hy_x1_init (by omega) (Nat.le_of_ble_eq_true rfl) rfl (Nat.le_of_ble_eq_true rfl) (fun x4 k5 => ?_)
  refine x_astore_n (μ := mu_l_law) (pc := 7) (lv' := [(1, vR (mZ σ)), (0, vR v0)]) dL_law_7 rfl (by decide) rfl ?_
  refine x_ok (fun ok6 => ?_)
  refine x_new (μ := mu_l_law) (pc := 8) (ci := 9) gk_X11 gd_X11 q2622 q2623 q232 dL_law_8 ?_
  refine x_let (fun s7 e8 => ?_)
  refine x_dup (μ := mu_l_law) (pc := 11) dL_law_11 rfl ?_
  refine x_callI_mv (μ := mu_l_law) (pc := 12) (ok_x11_init (ω := ω) (l := l) (d := d - 1) hl (by omega) ) gRel_E gRel_E (fun _ q => q) q2624 q2625 q232 q2626 dL_law_12 (gT_ne (gT_new e8)) rfl hy_x11_init (by omega) (Nat.le_of_ble_eq_true rfl) rfl (Nat.le_of_ble_eq_true rfl) (fun x9 k10 => ?_)
  refine x_astore_n (μ := mu_l_law) (pc := 15) (lv' := [(2, vR (mZ x4)), (1, vR (mZ σ)), (0, vR v0)]) dL_law_15 rfl (by decide) rfl ?_
  refine x_iconst (μ := mu_l_law) (pc := 16) dL_law_16 ?_
  refine x_if (fun hg11 => ?_)
  refine x_ok (fun ok12 => ?_)
  refine x_newal (μ := mu_l_law) (pc := 17) dL_law_17 hg11 ?_
  refine x_let (fun s13 e14 => ?_)
  refine x_astore_n (μ := mu_l_law) (pc := 19) (lv' := [(3, vR (mZ x9)), (2, vR (mZ x4)), (1, vR (mZ σ)), (0, vR v0)]) dL_law_19 rfl (by decide) rfl ?_
  refine x_iconst (μ := mu_l_law) (pc := 20) dL_law_20 ?_
  refine x_istore (μ := mu_l_law) (pc := 21) (lv' := [(4, vI 0), (3, vR (mZ x9)), (2, vR (mZ x4)), (1, vR (mZ σ)), (0, vR v0)]) dL_law_21 (by decide) rfl ?_
  refine x_loc (lv' := [(0, vR v0), (1, vR (mZ σ)), (2, vR (mZ x4)), (3, vR (mZ x9)), (4, vI 0)]) [4, 3, 2, 1, 0] rfl ?_
  refine okl_l_law_l23 hl hdp (fun s477 => ?_) N 0 s13 (by decide)
  refine x_iconst (μ := mu_l_law) (pc := 1890) dL_law_1890 ?_
  exact x_zret (μ := mu_l_law) (pc := 1891) dL_law_1891 rfl (by decide) rfl (gRel_E.1 _) (show g32 1 from (by decide))
