def tw_readArea_j185 (N : Nat) (h : Nat) (v1 : Int) (s : gMem) : Option gMem := (tw_later h 3 v1 s).bind (fun x25 => (tw_next N h x25).bind (fun x28 => some x28))
set_option maxRecDepth 100000 in
theorem okj_tw_readArea_j185 {ω : gW} {l : Launch} {d : Nat} {N : Nat} {h : Nat} {σ0 : gMem} {s : gMem} {v1 : Int} (hdp : 7 ≤ d) (hM : TM s h) (hv1 : g32 v1) : GG (fun p : gMem => (.inl none, p)) gTw ω l d mu_tw_readArea σ0 185 [(0, vR h), (1, vI v1)] [] s (tw_readArea_j185 N h v1 s) := by
  unfold tw_readArea_j185
  refine x_aload_n (μ := mu_tw_readArea) (pc := 185) 0 dX11_readArea_185 rfl ?_
  refine x_iconst (μ := mu_tw_readArea) (pc := 186) dX11_readArea_186 ?_
  refine x_iload_n (μ := mu_tw_readArea) (pc := 187) 1 dX11_readArea_187 rfl ?_
  refine x_callV_mv (μ := mu_tw_readArea) (pc := 188) (ok_tw_later (ω := ω) (l := l) (d := d - 1) (by omega) hM (by decide) hv1) gRel_Tw gRel_Tw (fun _ q => q) q3152 q3154 qs112 q232 q3155 dX11_readArea_188 rfl hM.1 hy_tw_later (by omega) (Nat.le_of_ble_eq_true rfl) rfl (Nat.le_of_ble_eq_true rfl) (fun x25 k26 => ?_)
  have hM27 : TM x25 h := hM.tw k26
  refine x_aload_n (μ := mu_tw_readArea) (pc := 191) 0 dX11_readArea_191 rfl ?_
  refine x_callV_mv (μ := mu_tw_readArea) (pc := 192) (ok_tw_next (ω := ω) (l := l) (d := d - 1) (by omega) hM27 ) gRel_Tw gRel_Tw (fun _ q => q) q2995 q2997 qs82 q232 q2998 dX11_readArea_192 rfl hM27.1 hy_tw_next (by omega) (Nat.le_of_ble_eq_true rfl) rfl (Nat.le_of_ble_eq_true rfl) (fun x28 k29 => ?_)
  have hM30 : TM x28 h := hM27.tw k29
  exact x_vret (μ := mu_tw_readArea) (pc := 195) (a1 := x28) dX11_readArea_195 rfl rfl (gRel_Tw.1 _) trivial
def tw_readArea_j144 (N : Nat) (h : Nat) (v6 : Int) (v7 : Int) (v10 : Int) (t0 : Int) (s : gMem) : Option gMem := (tw_lineAt h t0 0 (w32 (v6 - 1)) s).bind (fun x36 => if 0 ≤ v10 ∧ v10 < ((60420 : Nat) : Int) then gLet (wI s (h + 22) v10.toNat x36) (fun s38 => (tw_lineAt h t0 1 (w32 (v7 - 1)) s38).bind (fun x41 => if 0 ≤ v10 ∧ v10 < ((60420 : Nat) : Int) then gLet (wI s38 (h + 23) v10.toNat x41) (fun s43 => (tw_next N h s43).bind (fun x46 => some x46)) else none)) else none)
set_option maxRecDepth 100000 in
theorem okj_tw_readArea_j144 {ω : gW} {l : Launch} {d : Nat} {N : Nat} {h : Nat} {σ0 : gMem} {s : gMem} {v6 : Int} {v7 : Int} {v10 : Int} {t0 : Int} (hdp : 7 ≤ d) (hM : TM s h) (hv6 : g32 v6) (hv7 : g32 v7) (hv10 : g32 v10) (ht0 : g32 t0) : GG (fun p : gMem => (.inl none, p)) gTw ω l d mu_tw_readArea σ0 144 [(0, vR h), (6, vI v6), (7, vI v7), (10, vI v10)] [vI t0] s (tw_readArea_j144 N h v6 v7 v10 t0 s) := by
  unfold tw_readArea_j144
  refine x_istore (μ := mu_tw_readArea) (pc := 144) (lv' := [(11, vI t0), (0, vR h), (6, vI v6), (7, vI v7), (10, vI v10)]) dX11_readArea_144 (by decide) rfl ?_
  refine x_aload_n (μ := mu_tw_readArea) (pc := 146) 1 dX11_readArea_146 rfl ?_
  refine x_fgrE (μ := mu_tw_readArea) (pc := 147) fX11_34 (Or.inr ⟨_, rfl⟩) q2670 (hM.a34).1 dX11_readArea_147 hM.1 ?_
  refine x_iload (μ := mu_tw_readArea) (pc := 150) 4 dX11_readArea_150 rfl ?_
  refine x_aload_n (μ := mu_tw_readArea) (pc := 152) 1 dX11_readArea_152 rfl ?_
  refine x_iload (μ := mu_tw_readArea) (pc := 153) 0 dX11_readArea_153 rfl ?_
  refine x_iconst (μ := mu_tw_readArea) (pc := 155) dX11_readArea_155 ?_
  refine x_iload (μ := mu_tw_readArea) (pc := 156) 2 dX11_readArea_156 rfl ?_
  refine x_iconst (μ := mu_tw_readArea) (pc := 158) dX11_readArea_158 ?_
  refine x_isub (μ := mu_tw_readArea) (pc := 159) dX11_readArea_159 ?_
  refine x_w1 ?_
  refine x_callV_pi (μ := mu_tw_readArea) (pc := 160) (ok_tw_lineAt (ω := ω) (l := l) (d := d - 1) (by omega) hM ht0 (by decide) (w32_rng _)) gRel_Tw gRel_Tw (fun _ q => q) q3148 q3150 qs111 q232 q3151 dX11_readArea_160 rfl hM.1 hy_tw_lineAt (by omega) (Nat.le_of_ble_eq_true rfl) rfl (Nat.le_of_ble_eq_true rfl) (fun x36 hr37 => ?_)
  refine x_iast (μ := mu_tw_readArea) (pc := 163) dX11_readArea_163 (hM.a34).2.1 (hM.a34).2.2 (fun _ _ q => gTw_wI q) ?_
  refine x_let (fun s38 e39 => ?_)
  have hM40 := TM.eI e39 hM
  refine x_aload_n (μ := mu_tw_readArea) (pc := 164) 1 dX11_readArea_164 rfl ?_
  refine x_fgrE (μ := mu_tw_readArea) (pc := 165) fX11_35 (Or.inr ⟨_, rfl⟩) q2671 (hM40.a35).1 dX11_readArea_165 hM40.1 ?_
  refine x_iload (μ := mu_tw_readArea) (pc := 168) 4 dX11_readArea_168 rfl ?_
  refine x_aload_n (μ := mu_tw_readArea) (pc := 170) 1 dX11_readArea_170 rfl ?_
  refine x_iload (μ := mu_tw_readArea) (pc := 171) 0 dX11_readArea_171 rfl ?_
  refine x_iconst (μ := mu_tw_readArea) (pc := 173) dX11_readArea_173 ?_
  refine x_iload (μ := mu_tw_readArea) (pc := 174) 3 dX11_readArea_174 rfl ?_
  refine x_iconst (μ := mu_tw_readArea) (pc := 176) dX11_readArea_176 ?_
  refine x_isub (μ := mu_tw_readArea) (pc := 177) dX11_readArea_177 ?_
  refine x_w1 ?_
  refine x_callV_pi (μ := mu_tw_readArea) (pc := 178) (ok_tw_lineAt (ω := ω) (l := l) (d := d - 1) (by omega) hM40 ht0 (by decide) (w32_rng _)) gRel_Tw gRel_Tw (fun _ q => q) q3148 q3150 qs111 q232 q3151 dX11_readArea_178 rfl hM40.1 hy_tw_lineAt (by omega) (Nat.le_of_ble_eq_true rfl) rfl (Nat.le_of_ble_eq_true rfl) (fun x41 hr42 => ?_)
  refine x_iast (μ := mu_tw_readArea) (pc := 181) dX11_readArea_181 (hM40.a35).2.1 (hM40.a35).2.2 (fun _ _ q => gTw_wI q) ?_
  refine x_let (fun s43 e44 => ?_)
  have hM45 := TM.eI e44 hM40
  refine x_goto (μ := mu_tw_readArea) (pc := 182) (tgt := 191) dX11_readArea_182 rfl ?_
  refine x_aload_n (μ := mu_tw_readArea) (pc := 191) 1 dX11_readArea_191 rfl ?_
  refine x_callV_mv (μ := mu_tw_readArea) (pc := 192) (ok_tw_next (ω := ω) (l := l) (d := d - 1) (by omega) hM45 ) gRel_Tw gRel_Tw (fun _ q => q) q2995 q2997 qs82 q232 q2998 dX11_readArea_192 rfl hM45.1 hy_tw_next (by omega) (Nat.le_of_ble_eq_true rfl) rfl (Nat.le_of_ble_eq_true rfl) (fun x46 k47 => ?_)
  have hM48 : TM x46 h := hM45.tw k47
  exact x_vret (μ := mu_tw_readArea) (pc := 195) (a1 := x46) dX11_readArea_195 rfl rfl (gRel_Tw.1 _) trivial
def tw_readArea (N : Nat) (h : Nat) (σ : gMem) : Option gMem := (tw_corner N h (w32 ((mI σ h 49) + 1)) σ).bind (fun x6 => if x6.1 ≠ 0 then (tw_readVersion N h (mI (x6.2) h 55) (x6.2)).bind (fun x14 => if mI (x14.2) h 41 ≤ 0 then (tw_part N h 6 0 (x14.2)).bind (fun x19 => (tw_isThere h (x14.1) (mI σ h 52) (mI σ h 53) (x19.2)).bind (fun x23 => if x23 = 0 then tw_readArea_j185 N h (mI σ h 48)  (x19.2) else (tw_isThere h (x14.1) (mI (x6.2) h 52) (mI (x6.2) h 53) (x19.2)).bind (fun x31 => if x31 = 0 then tw_readArea_j185 N h (mI σ h 48)  (x19.2) else (tw_meanOne h (x19.1) (x14.1) (mI σ h 52) (mI σ h 53) (bOr (mI σ h 54) (bShl (mI (x6.2) h 54) 2)) (x19.2)).bind (fun x33 => if 0 ≤ x14.1 then tw_readArea_j144 N h (mI (x6.2) h 52) (mI (x6.2) h 53) (x19.1) (x14.1) x33 else tw_readArea_j144 N h (mI (x6.2) h 52) (mI (x6.2) h 53) (x19.1) 40 x33)))) else some (x14.2)) else (tw_fail h 1 (w32 ((mI σ h 49) + 1)) (x6.2)).bind (fun x49 => some x49))
set_option maxRecDepth 100000 in
theorem ok_tw_readArea {ω : gW} {l : Launch} {d : Nat} {N : Nat} {h : Nat} {σ : gMem} (hdp : 7 ≤ d) (hM : TM σ h) : gK (fun p : gMem => (.inl none, p)) gTw ω l d mu_tw_readArea [vR h] σ (tw_readArea N h σ) := by
  refine gK.of hp_X11 (Nat.le_of_ble_eq_true rfl) ?_
  unfold tw_readArea
  refine x_aload_n (μ := mu_tw_readArea) (pc := 0) 0 dX11_readArea_0 rfl ?_
  refine x_fgi (μ := mu_tw_readArea) (pc := 1) fX11_48 q2684 dX11_readArea_1 hM.1 (fun hr1 => ?_)
  refine x_istore_n (μ := mu_tw_readArea) (pc := 4) (lv' := [(1, vI (mI σ h 48)), (0, vR h)]) dX11_readArea_4 rfl (by decide) rfl ?_
  refine x_aload_n (μ := mu_tw_readArea) (pc := 5) 1 dX11_readArea_5 rfl ?_
  refine x_fgi (μ := mu_tw_readArea) (pc := 6) fX11_52 q2688 dX11_readArea_6 hM.1 (fun hr2 => ?_)
  refine x_istore_n (μ := mu_tw_readArea) (pc := 9) (lv' := [(2, vI (mI σ h 52)), (1, vI (mI σ h 48)), (0, vR h)]) dX11_readArea_9 rfl (by decide) rfl ?_
  refine x_aload_n (μ := mu_tw_readArea) (pc := 10) 2 dX11_readArea_10 rfl ?_
  refine x_fgi (μ := mu_tw_readArea) (pc := 11) fX11_53 q2689 dX11_readArea_11 hM.1 (fun hr3 => ?_)
  refine x_istore_n (μ := mu_tw_readArea) (pc := 14) (lv' := [(3, vI (mI σ h 53)), (2, vI (mI σ h 52)), (1, vI (mI σ h 48)), (0, vR h)]) dX11_readArea_14 rfl (by decide) rfl ?_
  refine x_aload_n (μ := mu_tw_readArea) (pc := 15) 3 dX11_readArea_15 rfl ?_
  refine x_fgi (μ := mu_tw_readArea) (pc := 16) fX11_54 q2690 dX11_readArea_16 hM.1 (fun hr4 => ?_)
  refine x_istore (μ := mu_tw_readArea) (pc := 19) (lv' := [(4, vI (mI σ h 54)), (3, vI (mI σ h 53)), (2, vI (mI σ h 52)), (1, vI (mI σ h 48)), (0, vR h)]) dX11_readArea_19 (by decide) rfl ?_
  refine x_aload_n (μ := mu_tw_readArea) (pc := 21) 4 dX11_readArea_21 rfl ?_
  refine x_fgi (μ := mu_tw_readArea) (pc := 22) fX11_49 q2685 dX11_readArea_22 hM.1 (fun hr5 => ?_)
  refine x_iconst (μ := mu_tw_readArea) (pc := 25) dX11_readArea_25 ?_
  refine x_iadd (μ := mu_tw_readArea) (pc := 26) dX11_readArea_26 ?_
  refine x_w1 ?_
  refine x_istore (μ := mu_tw_readArea) (pc := 27) (lv' := [(5, vI (w32 ((mI σ h 49) + 1))), (4, vI (mI σ h 54)), (3, vI (mI σ h 53)), (2, vI (mI σ h 52)), (1, vI (mI σ h 48)), (0, vR h)]) dX11_readArea_27 (by decide) rfl ?_
  refine x_aload_n (μ := mu_tw_readArea) (pc := 29) 5 dX11_readArea_29 rfl ?_
  refine x_iload (μ := mu_tw_readArea) (pc := 30) 0 dX11_readArea_30 rfl ?_
  refine x_callV_mi (μ := mu_tw_readArea) (pc := 32) (ok_tw_corner (ω := ω) (l := l) (d := d - 1) (by omega) hM (w32_rng _)) gRel_Tw gRel_Tw (fun _ q => q) q3028 q3030 qs88 q232 q3031 dX11_readArea_32 rfl hM.1 hy_tw_corner (by omega) (Nat.le_of_ble_eq_true rfl) rfl (Nat.le_of_ble_eq_true rfl) (fun x6 k8 hr7 => ?_)
  have hM9 : TM (x6.2) h := hM.tw k8
  refine x_if_ne (μ := mu_tw_readArea) (pc := 35) (tgt := 46) dX11_readArea_35 rfl hr7 ?_ ?_
  · refine x_aload_n (μ := mu_tw_readArea) (pc := 46) 5 dX11_readArea_46 rfl ?_
    refine x_fgi (μ := mu_tw_readArea) (pc := 47) fX11_52 q2688 dX11_readArea_47 hM9.1 (fun hr10 => ?_)
    refine x_istore (μ := mu_tw_readArea) (pc := 50) (lv' := [(6, vI (mI (x6.2) h 52)), (5, vI (w32 ((mI σ h 49) + 1))), (4, vI (mI σ h 54)), (3, vI (mI σ h 53)), (2, vI (mI σ h 52)), (1, vI (mI σ h 48)), (0, vR h)]) dX11_readArea_50 (by decide) rfl ?_
    refine x_aload_n (μ := mu_tw_readArea) (pc := 52) 6 dX11_readArea_52 rfl ?_
    refine x_fgi (μ := mu_tw_readArea) (pc := 53) fX11_53 q2689 dX11_readArea_53 hM9.1 (fun hr11 => ?_)
    refine x_istore (μ := mu_tw_readArea) (pc := 56) (lv' := [(7, vI (mI (x6.2) h 53)), (6, vI (mI (x6.2) h 52)), (5, vI (w32 ((mI σ h 49) + 1))), (4, vI (mI σ h 54)), (3, vI (mI σ h 53)), (2, vI (mI σ h 52)), (1, vI (mI σ h 48)), (0, vR h)]) dX11_readArea_56 (by decide) rfl ?_
    refine x_aload_n (μ := mu_tw_readArea) (pc := 58) 7 dX11_readArea_58 rfl ?_
    refine x_fgi (μ := mu_tw_readArea) (pc := 59) fX11_54 q2690 dX11_readArea_59 hM9.1 (fun hr12 => ?_)
    refine x_istore (μ := mu_tw_readArea) (pc := 62) (lv' := [(8, vI (mI (x6.2) h 54)), (7, vI (mI (x6.2) h 53)), (6, vI (mI (x6.2) h 52)), (5, vI (w32 ((mI σ h 49) + 1))), (4, vI (mI σ h 54)), (3, vI (mI σ h 53)), (2, vI (mI σ h 52)), (1, vI (mI σ h 48)), (0, vR h)]) dX11_readArea_62 (by decide) rfl ?_
    refine x_aload_n (μ := mu_tw_readArea) (pc := 64) 8 dX11_readArea_64 rfl ?_
    refine x_aload_n (μ := mu_tw_readArea) (pc := 65) 8 dX11_readArea_65 rfl ?_
    refine x_fgi (μ := mu_tw_readArea) (pc := 66) fX11_55 q2691 dX11_readArea_66 hM9.1 (fun hr13 => ?_)
    refine x_callV_mi (μ := mu_tw_readArea) (pc := 69) (ok_tw_readVersion (ω := ω) (l := l) (d := d - 1) (by omega) hM9 hr13) gRel_Tw gRel_Tw (fun _ q => q) q3136 q3138 qs108 q232 q3139 dX11_readArea_69 rfl hM9.1 hy_tw_readVersion (by omega) (Nat.le_of_ble_eq_true rfl) rfl (Nat.le_of_ble_eq_true rfl) (fun x14 k16 hr15 => ?_)
    have hM17 : TM (x14.2) h := hM9.tw k16
    refine x_istore (μ := mu_tw_readArea) (pc := 72) (lv' := [(9, vI (x14.1)), (8, vI (mI (x6.2) h 54)), (7, vI (mI (x6.2) h 53)), (6, vI (mI (x6.2) h 52)), (5, vI (w32 ((mI σ h 49) + 1))), (4, vI (mI σ h 54)), (3, vI (mI σ h 53)), (2, vI (mI σ h 52)), (1, vI (mI σ h 48)), (0, vR h)]) dX11_readArea_72 (by decide) rfl ?_
    refine x_aload_n (μ := mu_tw_readArea) (pc := 74) 9 dX11_readArea_74 rfl ?_
    refine x_fgi (μ := mu_tw_readArea) (pc := 75) fX11_41 q2677 dX11_readArea_75 hM17.1 (fun hr18 => ?_)
    refine x_if_le (μ := mu_tw_readArea) (pc := 78) (tgt := 82) dX11_readArea_78 rfl hr18 ?_ ?_
    · refine x_aload_n (μ := mu_tw_readArea) (pc := 82) 9 dX11_readArea_82 rfl ?_
      refine x_bipush (μ := mu_tw_readArea) (pc := 83) dX11_readArea_83 (by decide) ?_
      refine x_iconst (μ := mu_tw_readArea) (pc := 85) dX11_readArea_85 ?_
      refine x_callV_mi (μ := mu_tw_readArea) (pc := 86) (ok_tw_part (ω := ω) (l := l) (d := d - 1) (by omega) hM17 (by decide) (by decide)) gRel_Tw gRel_Tw (fun _ q => q) q3083 q3085 qs101 q232 q3086 dX11_readArea_86 rfl hM17.1 hy_tw_part (by omega) (Nat.le_of_ble_eq_true rfl) rfl (Nat.le_of_ble_eq_true rfl) (fun x19 k21 hr20 => ?_)
      have hM22 : TM (x19.2) h := hM17.tw k21
      refine x_istore (μ := mu_tw_readArea) (pc := 89) (lv' := [(10, vI (x19.1)), (9, vI (x14.1)), (8, vI (mI (x6.2) h 54)), (7, vI (mI (x6.2) h 53)), (6, vI (mI (x6.2) h 52)), (5, vI (w32 ((mI σ h 49) + 1))), (4, vI (mI σ h 54)), (3, vI (mI σ h 53)), (2, vI (mI σ h 52)), (1, vI (mI σ h 48)), (0, vR h)]) dX11_readArea_89 (by decide) rfl ?_
      refine x_aload_n (μ := mu_tw_readArea) (pc := 91) 10 dX11_readArea_91 rfl ?_
      refine x_iload (μ := mu_tw_readArea) (pc := 92) 1 dX11_readArea_92 rfl ?_
      refine x_iload_n (μ := mu_tw_readArea) (pc := 94) 8 dX11_readArea_94 rfl ?_
      refine x_iload_n (μ := mu_tw_readArea) (pc := 95) 7 dX11_readArea_95 rfl ?_
      refine x_callV_pi (μ := mu_tw_readArea) (pc := 96) (ok_tw_isThere (ω := ω) (l := l) (d := d - 1) (by omega) hM22 hr15 hr2 hr3) gRel_Tw gRel_Tw (fun _ q => q) q3140 q3142 qs109 q232 q3143 dX11_readArea_96 rfl hM22.1 hy_tw_isThere (by omega) (Nat.le_of_ble_eq_true rfl) rfl (Nat.le_of_ble_eq_true rfl) (fun x23 hr24 => ?_)
      refine x_if_eq (μ := mu_tw_readArea) (pc := 99) (tgt := 185) dX11_readArea_99 rfl hr24 ?_ ?_
      · refine x_loc (lv' := [(0, vR h), (1, vI (mI σ h 48))]) [10, 9] rfl ?_
        exact okj_tw_readArea_j185 hdp hM22 hr1
      · refine x_aload_n (μ := mu_tw_readArea) (pc := 102) 10 dX11_readArea_102 rfl ?_
        refine x_iload (μ := mu_tw_readArea) (pc := 103) 1 dX11_readArea_103 rfl ?_
        refine x_iload (μ := mu_tw_readArea) (pc := 105) 4 dX11_readArea_105 rfl ?_
        refine x_iload (μ := mu_tw_readArea) (pc := 107) 3 dX11_readArea_107 rfl ?_
        refine x_callV_pi (μ := mu_tw_readArea) (pc := 109) (ok_tw_isThere (ω := ω) (l := l) (d := d - 1) (by omega) hM22 hr15 hr10 hr11) gRel_Tw gRel_Tw (fun _ q => q) q3140 q3142 qs109 q232 q3143 dX11_readArea_109 rfl hM22.1 hy_tw_isThere (by omega) (Nat.le_of_ble_eq_true rfl) rfl (Nat.le_of_ble_eq_true rfl) (fun x31 hr32 => ?_)
        refine x_if_eq (μ := mu_tw_readArea) (pc := 112) (tgt := 185) dX11_readArea_112 rfl hr32 ?_ ?_
        · refine x_loc (lv' := [(0, vR h), (1, vI (mI σ h 48))]) [10, 9] rfl ?_
          exact okj_tw_readArea_j185 hdp hM22 hr1
        · refine x_aload_n (μ := mu_tw_readArea) (pc := 115) 10 dX11_readArea_115 rfl ?_
          refine x_iload (μ := mu_tw_readArea) (pc := 116) 0 dX11_readArea_116 rfl ?_
          refine x_iload (μ := mu_tw_readArea) (pc := 118) 1 dX11_readArea_118 rfl ?_
          refine x_iload_n (μ := mu_tw_readArea) (pc := 120) 8 dX11_readArea_120 rfl ?_
          refine x_iload_n (μ := mu_tw_readArea) (pc := 121) 7 dX11_readArea_121 rfl ?_
          refine x_iload (μ := mu_tw_readArea) (pc := 122) 6 dX11_readArea_122 rfl ?_
          refine x_iload (μ := mu_tw_readArea) (pc := 124) 2 dX11_readArea_124 rfl ?_
          refine x_iconst (μ := mu_tw_readArea) (pc := 126) dX11_readArea_126 ?_
          refine x_ishl (μ := mu_tw_readArea) (pc := 127) dX11_readArea_127 ?_
          refine x_ior (μ := mu_tw_readArea) (pc := 128) dX11_readArea_128 ?_
          refine x_callV_mv (μ := mu_tw_readArea) (pc := 129) (ok_tw_meanOne (ω := ω) (l := l) (d := d - 1) (by omega) hM22 hr20 hr15 hr2 hr3 (bOr_rng _ _)) gRel_Tw gRel_Tw (fun _ q => q) q3144 q3146 qs110 q232 q3147 dX11_readArea_129 rfl hM22.1 hy_tw_meanOne (by omega) (Nat.le_of_ble_eq_true rfl) rfl (Nat.le_of_ble_eq_true rfl) (fun x33 k34 => ?_)
          have hM35 : TM x33 h := hM22.tw k34
          refine x_iload (μ := mu_tw_readArea) (pc := 132) 1 dX11_readArea_132 rfl ?_
          refine x_if_ge (μ := mu_tw_readArea) (pc := 134) (tgt := 142) dX11_readArea_134 rfl hr15 ?_ ?_
          · refine x_iload (μ := mu_tw_readArea) (pc := 142) 1 dX11_readArea_142 rfl ?_
            refine x_loc (lv' := [(0, vR h), (6, vI (mI (x6.2) h 52)), (7, vI (mI (x6.2) h 53)), (10, vI (x19.1))]) [10, 4, 3, 0] rfl ?_
            exact okj_tw_readArea_j144 hdp hM35 hr10 hr11 hr20 hr15
          · refine x_bipush (μ := mu_tw_readArea) (pc := 137) dX11_readArea_137 (by decide) ?_
            refine x_goto (μ := mu_tw_readArea) (pc := 139) (tgt := 144) dX11_readArea_139 rfl ?_
            refine x_loc (lv' := [(0, vR h), (6, vI (mI (x6.2) h 52)), (7, vI (mI (x6.2) h 53)), (10, vI (x19.1))]) [10, 4, 3, 0] rfl ?_
            exact okj_tw_readArea_j144 hdp hM35 hr10 hr11 hr20 (by decide)
    · exact x_vret (μ := mu_tw_readArea) (pc := 81) (a1 := x14.2) dX11_readArea_81 rfl rfl (gRel_Tw.1 _) trivial
  · refine x_aload_n (μ := mu_tw_readArea) (pc := 38) 5 dX11_readArea_38 rfl ?_
    refine x_iconst (μ := mu_tw_readArea) (pc := 39) dX11_readArea_39 ?_
    refine x_iload (μ := mu_tw_readArea) (pc := 40) 0 dX11_readArea_40 rfl ?_
    refine x_callV_mv (μ := mu_tw_readArea) (pc := 42) (ok_tw_fail (ω := ω) (l := l) (d := d - 1) (by omega) hM9 (by decide) (w32_rng _)) gRel_Tw gRel_Tw (fun _ q => q) q3079 q3081 qs100 q232 q3082 dX11_readArea_42 rfl hM9.1 hy_tw_fail (by omega) (Nat.le_of_ble_eq_true rfl) rfl (Nat.le_of_ble_eq_true rfl) (fun x49 k50 => ?_)
    have hM51 : TM x49 h := hM9.tw k50
    exact x_vret (μ := mu_tw_readArea) (pc := 45) (a1 := x49) dX11_readArea_45 rfl rfl (gRel_Tw.1 _) trivial
def tw_readShut (N : Nat) (h : Nat) (σ : gMem) : Option gMem := if mI σ h 41 ≤ 0 then if mI σ h 47 = 7 then gLet (wI σ h 57 (w32 ((mI σ h 57) - 1))) (fun s4 => (tw_next N h s4).bind (fun x7 => some x7)) else (tw_fail h 1 (mI σ h 48) σ).bind (fun x11 => some x11) else some σ
set_option maxRecDepth 100000 in
theorem ok_tw_readShut {ω : gW} {l : Launch} {d : Nat} {N : Nat} {h : Nat} {σ : gMem} (hdp : 7 ≤ d) (hM : TM σ h) : gK (fun p : gMem => (.inl none, p)) gTw ω l d mu_tw_readShut [vR h] σ (tw_readShut N h σ) := by
  refine gK.of hp_X11 (Nat.le_of_ble_eq_true rfl) ?_
  unfold tw_readShut
  refine x_aload_n (μ := mu_tw_readShut) (pc := 0) 0 dX11_readShut_0 rfl ?_
  refine x_fgi (μ := mu_tw_readShut) (pc := 1) fX11_41 q2677 dX11_readShut_1 hM.1 (fun hr1 => ?_)
  refine x_if_le (μ := mu_tw_readShut) (pc := 4) (tgt := 8) dX11_readShut_4 rfl hr1 ?_ ?_
  · refine x_aload_n (μ := mu_tw_readShut) (pc := 8) 0 dX11_readShut_8 rfl ?_
    refine x_fgi (μ := mu_tw_readShut) (pc := 9) fX11_47 q2683 dX11_readShut_9 hM.1 (fun hr2 => ?_)
    refine x_bipush (μ := mu_tw_readShut) (pc := 12) dX11_readShut_12 (by decide) ?_
    refine x_icmp_eq (μ := mu_tw_readShut) (pc := 14) (tgt := 27) dX11_readShut_14 rfl hr2 (by decide) ?_ ?_
    · refine x_aload_n (μ := mu_tw_readShut) (pc := 27) 0 dX11_readShut_27 rfl ?_
      refine x_dup (μ := mu_tw_readShut) (pc := 28) dX11_readShut_28 rfl ?_
      refine x_fgi (μ := mu_tw_readShut) (pc := 29) fX11_57 q2693 dX11_readShut_29 hM.1 (fun hr3 => ?_)
      refine x_iconst (μ := mu_tw_readShut) (pc := 32) dX11_readShut_32 ?_
      refine x_isub (μ := mu_tw_readShut) (pc := 33) dX11_readShut_33 ?_
      refine x_w1 ?_
      refine x_fpi (μ := mu_tw_readShut) (pc := 34) fX11_57 q2693 dX11_readShut_34 hM.1 (fun _ q => gTw_wI q) ?_
      refine x_let (fun s4 e5 => ?_)
      have hM6 := TM.eI e5 hM
      refine x_aload_n (μ := mu_tw_readShut) (pc := 37) 0 dX11_readShut_37 rfl ?_
      refine x_callV_mv (μ := mu_tw_readShut) (pc := 38) (ok_tw_next (ω := ω) (l := l) (d := d - 1) (by omega) hM6 ) gRel_Tw gRel_Tw (fun _ q => q) q2995 q2997 qs82 q232 q2998 dX11_readShut_38 rfl hM6.1 hy_tw_next (by omega) (Nat.le_of_ble_eq_true rfl) rfl (Nat.le_of_ble_eq_true rfl) (fun x7 k8 => ?_)
      have hM9 : TM x7 h := hM6.tw k8
      exact x_vret (μ := mu_tw_readShut) (pc := 41) (a1 := x7) dX11_readShut_41 rfl rfl (gRel_Tw.1 _) trivial
    · refine x_aload_n (μ := mu_tw_readShut) (pc := 17) 0 dX11_readShut_17 rfl ?_
      refine x_iconst (μ := mu_tw_readShut) (pc := 18) dX11_readShut_18 ?_
      refine x_aload_n (μ := mu_tw_readShut) (pc := 19) 0 dX11_readShut_19 rfl ?_
      refine x_fgi (μ := mu_tw_readShut) (pc := 20) fX11_48 q2684 dX11_readShut_20 hM.1 (fun hr10 => ?_)
      refine x_callV_mv (μ := mu_tw_readShut) (pc := 23) (ok_tw_fail (ω := ω) (l := l) (d := d - 1) (by omega) hM (by decide) hr10) gRel_Tw gRel_Tw (fun _ q => q) q3079 q3081 qs100 q232 q3082 dX11_readShut_23 rfl hM.1 hy_tw_fail (by omega) (Nat.le_of_ble_eq_true rfl) rfl (Nat.le_of_ble_eq_true rfl) (fun x11 k12 => ?_)
      have hM13 : TM x11 h := hM.tw k12
      exact x_vret (μ := mu_tw_readShut) (pc := 26) (a1 := x11) dX11_readShut_26 rfl rfl (gRel_Tw.1 _) trivial
  · exact x_vret (μ := mu_tw_readShut) (pc := 7) (a1 := σ) dX11_readShut_7 rfl rfl (gRel_Tw.1 _) trivial
def tw_readSpot (N : Nat) (h : Nat) (σ : gMem) : Option gMem := (tw_readVersion N h (mI σ h 49) σ).bind (fun x6 => if mI (x6.2) h 41 ≤ 0 then (tw_part N h 5 0 (x6.2)).bind (fun x11 => (tw_isThere h (x6.1) (mI σ h 52) (mI σ h 53) (x11.2)).bind (fun x15 => if x15 = 0 then (tw_later h 3 (mI σ h 48) (x11.2)).bind (fun x17 => (tw_next N h x17).bind (fun x20 => some x20)) else (tw_meanOne h (x11.1) (x6.1) (mI σ h 52) (mI σ h 53) (mI σ h 54) (x11.2)).bind (fun x23 => (tw_next N h x23).bind (fun x26 => some x26)))) else some (x6.2))
set_option maxRecDepth 100000 in
theorem ok_tw_readSpot {ω : gW} {l : Launch} {d : Nat} {N : Nat} {h : Nat} {σ : gMem} (hdp : 7 ≤ d) (hM : TM σ h) : gK (fun p : gMem => (.inl none, p)) gTw ω l d mu_tw_readSpot [vR h] σ (tw_readSpot N h σ) := by
  refine gK.of hp_X11 (Nat.le_of_ble_eq_true rfl) ?_
  unfold tw_readSpot
  refine x_aload_n (μ := mu_tw_readSpot) (pc := 0) 0 dX11_readSpot_0 rfl ?_
  refine x_fgi (μ := mu_tw_readSpot) (pc := 1) fX11_48 q2684 dX11_readSpot_1 hM.1 (fun hr1 => ?_)
  refine x_istore_n (μ := mu_tw_readSpot) (pc := 4) (lv' := [(1, vI (mI σ h 48)), (0, vR h)]) dX11_readSpot_4 rfl (by decide) rfl ?_
  refine x_aload_n (μ := mu_tw_readSpot) (pc := 5) 1 dX11_readSpot_5 rfl ?_
  refine x_fgi (μ := mu_tw_readSpot) (pc := 6) fX11_52 q2688 dX11_readSpot_6 hM.1 (fun hr2 => ?_)
  refine x_istore_n (μ := mu_tw_readSpot) (pc := 9) (lv' := [(2, vI (mI σ h 52)), (1, vI (mI σ h 48)), (0, vR h)]) dX11_readSpot_9 rfl (by decide) rfl ?_
  refine x_aload_n (μ := mu_tw_readSpot) (pc := 10) 2 dX11_readSpot_10 rfl ?_
  refine x_fgi (μ := mu_tw_readSpot) (pc := 11) fX11_53 q2689 dX11_readSpot_11 hM.1 (fun hr3 => ?_)
  refine x_istore_n (μ := mu_tw_readSpot) (pc := 14) (lv' := [(3, vI (mI σ h 53)), (2, vI (mI σ h 52)), (1, vI (mI σ h 48)), (0, vR h)]) dX11_readSpot_14 rfl (by decide) rfl ?_
  refine x_aload_n (μ := mu_tw_readSpot) (pc := 15) 3 dX11_readSpot_15 rfl ?_
  refine x_fgi (μ := mu_tw_readSpot) (pc := 16) fX11_54 q2690 dX11_readSpot_16 hM.1 (fun hr4 => ?_)
  refine x_istore (μ := mu_tw_readSpot) (pc := 19) (lv' := [(4, vI (mI σ h 54)), (3, vI (mI σ h 53)), (2, vI (mI σ h 52)), (1, vI (mI σ h 48)), (0, vR h)]) dX11_readSpot_19 (by decide) rfl ?_
  refine x_aload_n (μ := mu_tw_readSpot) (pc := 21) 4 dX11_readSpot_21 rfl ?_
  refine x_aload_n (μ := mu_tw_readSpot) (pc := 22) 4 dX11_readSpot_22 rfl ?_
  refine x_fgi (μ := mu_tw_readSpot) (pc := 23) fX11_49 q2685 dX11_readSpot_23 hM.1 (fun hr5 => ?_)
  refine x_callV_mi (μ := mu_tw_readSpot) (pc := 26) (ok_tw_readVersion (ω := ω) (l := l) (d := d - 1) (by omega) hM hr5) gRel_Tw gRel_Tw (fun _ q => q) q3136 q3138 qs108 q232 q3139 dX11_readSpot_26 rfl hM.1 hy_tw_readVersion (by omega) (Nat.le_of_ble_eq_true rfl) rfl (Nat.le_of_ble_eq_true rfl) (fun x6 k8 hr7 => ?_)
  have hM9 : TM (x6.2) h := hM.tw k8
  refine x_istore (μ := mu_tw_readSpot) (pc := 29) (lv' := [(5, vI (x6.1)), (4, vI (mI σ h 54)), (3, vI (mI σ h 53)), (2, vI (mI σ h 52)), (1, vI (mI σ h 48)), (0, vR h)]) dX11_readSpot_29 (by decide) rfl ?_
  refine x_aload_n (μ := mu_tw_readSpot) (pc := 31) 5 dX11_readSpot_31 rfl ?_
  refine x_fgi (μ := mu_tw_readSpot) (pc := 32) fX11_41 q2677 dX11_readSpot_32 hM9.1 (fun hr10 => ?_)
  refine x_if_le (μ := mu_tw_readSpot) (pc := 35) (tgt := 39) dX11_readSpot_35 rfl hr10 ?_ ?_
  · refine x_aload_n (μ := mu_tw_readSpot) (pc := 39) 5 dX11_readSpot_39 rfl ?_
    refine x_iconst (μ := mu_tw_readSpot) (pc := 40) dX11_readSpot_40 ?_
    refine x_iconst (μ := mu_tw_readSpot) (pc := 41) dX11_readSpot_41 ?_
    refine x_callV_mi (μ := mu_tw_readSpot) (pc := 42) (ok_tw_part (ω := ω) (l := l) (d := d - 1) (by omega) hM9 (by decide) (by decide)) gRel_Tw gRel_Tw (fun _ q => q) q3083 q3085 qs101 q232 q3086 dX11_readSpot_42 rfl hM9.1 hy_tw_part (by omega) (Nat.le_of_ble_eq_true rfl) rfl (Nat.le_of_ble_eq_true rfl) (fun x11 k13 hr12 => ?_)
    have hM14 : TM (x11.2) h := hM9.tw k13
    refine x_istore (μ := mu_tw_readSpot) (pc := 45) (lv' := [(6, vI (x11.1)), (5, vI (x6.1)), (4, vI (mI σ h 54)), (3, vI (mI σ h 53)), (2, vI (mI σ h 52)), (1, vI (mI σ h 48)), (0, vR h)]) dX11_readSpot_45 (by decide) rfl ?_
    refine x_aload_n (μ := mu_tw_readSpot) (pc := 47) 6 dX11_readSpot_47 rfl ?_
    refine x_iload (μ := mu_tw_readSpot) (pc := 48) 1 dX11_readSpot_48 rfl ?_
    refine x_iload_n (μ := mu_tw_readSpot) (pc := 50) 4 dX11_readSpot_50 rfl ?_
    refine x_iload_n (μ := mu_tw_readSpot) (pc := 51) 3 dX11_readSpot_51 rfl ?_
    refine x_callV_pi (μ := mu_tw_readSpot) (pc := 52) (ok_tw_isThere (ω := ω) (l := l) (d := d - 1) (by omega) hM14 hr7 hr2 hr3) gRel_Tw gRel_Tw (fun _ q => q) q3140 q3142 qs109 q232 q3143 dX11_readSpot_52 rfl hM14.1 hy_tw_isThere (by omega) (Nat.le_of_ble_eq_true rfl) rfl (Nat.le_of_ble_eq_true rfl) (fun x15 hr16 => ?_)
    refine x_if_eq (μ := mu_tw_readSpot) (pc := 55) (tgt := 73) dX11_readSpot_55 rfl hr16 ?_ ?_
    · refine x_aload_n (μ := mu_tw_readSpot) (pc := 73) 6 dX11_readSpot_73 rfl ?_
      refine x_iconst (μ := mu_tw_readSpot) (pc := 74) dX11_readSpot_74 ?_
      refine x_iload_n (μ := mu_tw_readSpot) (pc := 75) 5 dX11_readSpot_75 rfl ?_
      refine x_callV_mv (μ := mu_tw_readSpot) (pc := 76) (ok_tw_later (ω := ω) (l := l) (d := d - 1) (by omega) hM14 (by decide) hr1) gRel_Tw gRel_Tw (fun _ q => q) q3152 q3154 qs112 q232 q3155 dX11_readSpot_76 rfl hM14.1 hy_tw_later (by omega) (Nat.le_of_ble_eq_true rfl) rfl (Nat.le_of_ble_eq_true rfl) (fun x17 k18 => ?_)
      have hM19 : TM x17 h := hM14.tw k18
      refine x_aload_n (μ := mu_tw_readSpot) (pc := 79) 6 dX11_readSpot_79 rfl ?_
      refine x_callV_mv (μ := mu_tw_readSpot) (pc := 80) (ok_tw_next (ω := ω) (l := l) (d := d - 1) (by omega) hM19 ) gRel_Tw gRel_Tw (fun _ q => q) q2995 q2997 qs82 q232 q2998 dX11_readSpot_80 rfl hM19.1 hy_tw_next (by omega) (Nat.le_of_ble_eq_true rfl) rfl (Nat.le_of_ble_eq_true rfl) (fun x20 k21 => ?_)
      have hM22 : TM x20 h := hM19.tw k21
      exact x_vret (μ := mu_tw_readSpot) (pc := 83) (a1 := x20) dX11_readSpot_83 rfl rfl (gRel_Tw.1 _) trivial
    · refine x_aload_n (μ := mu_tw_readSpot) (pc := 58) 6 dX11_readSpot_58 rfl ?_
      refine x_iload (μ := mu_tw_readSpot) (pc := 59) 0 dX11_readSpot_59 rfl ?_
      refine x_iload (μ := mu_tw_readSpot) (pc := 61) 1 dX11_readSpot_61 rfl ?_
      refine x_iload_n (μ := mu_tw_readSpot) (pc := 63) 4 dX11_readSpot_63 rfl ?_
      refine x_iload_n (μ := mu_tw_readSpot) (pc := 64) 3 dX11_readSpot_64 rfl ?_
      refine x_iload (μ := mu_tw_readSpot) (pc := 65) 2 dX11_readSpot_65 rfl ?_
      refine x_callV_mv (μ := mu_tw_readSpot) (pc := 67) (ok_tw_meanOne (ω := ω) (l := l) (d := d - 1) (by omega) hM14 hr12 hr7 hr2 hr3 hr4) gRel_Tw gRel_Tw (fun _ q => q) q3144 q3146 qs110 q232 q3147 dX11_readSpot_67 rfl hM14.1 hy_tw_meanOne (by omega) (Nat.le_of_ble_eq_true rfl) rfl (Nat.le_of_ble_eq_true rfl) (fun x23 k24 => ?_)
      have hM25 : TM x23 h := hM14.tw k24
      refine x_goto (μ := mu_tw_readSpot) (pc := 70) (tgt := 79) dX11_readSpot_70 rfl ?_
      refine x_aload_n (μ := mu_tw_readSpot) (pc := 79) 6 dX11_readSpot_79 rfl ?_
      refine x_callV_mv (μ := mu_tw_readSpot) (pc := 80) (ok_tw_next (ω := ω) (l := l) (d := d - 1) (by omega) hM25 ) gRel_Tw gRel_Tw (fun _ q => q) q2995 q2997 qs82 q232 q2998 dX11_readSpot_80 rfl hM25.1 hy_tw_next (by omega) (Nat.le_of_ble_eq_true rfl) rfl (Nat.le_of_ble_eq_true rfl) (fun x26 k27 => ?_)
      have hM28 : TM x26 h := hM25.tw k27
      exact x_vret (μ := mu_tw_readSpot) (pc := 83) (a1 := x26) dX11_readSpot_83 rfl rfl (gRel_Tw.1 _) trivial
  · exact x_vret (μ := mu_tw_readSpot) (pc := 38) (a1 := x6.2) dX11_readSpot_38 rfl rfl (gRel_Tw.1 _) trivial
def tw_spotCell (N : Nat) (h : Nat) (v1 : Int) (v2 : Int) (σ : gMem) : Option Int := (tw_sheetOf h v1 v2 σ).bind (fun x1 => if 0 ≤ v1 ∧ v1 < ((60420 : Nat) : Int) then (tw_placeOf N h x1 0 (mI σ (h + 20) v1.toNat) σ).bind (fun x4 => if 0 ≤ v1 ∧ v1 < ((60420 : Nat) : Int) then (tw_placeOf N h x1 1 (mI σ (h + 21) v1.toNat) σ).bind (fun x7 => if x4 < 0 then some (-1) else if 0 ≤ x7 then some (w32 (((320 * x1) + (10 * x4)) + x7)) else some (-1)) else none) else none)
set_option maxRecDepth 100000 in
theorem ok_tw_spotCell {ω : gW} {l : Launch} {d : Nat} {N : Nat} {h : Nat} {σ : gMem} {v1 : Int} {v2 : Int} (hdp : 2 ≤ d) (hM : TM σ h) (hv1 : g32 v1) (hv2 : g32 v2) : gK (fun x : Int => (.inl (some (vI x)), σ)) gTw ω l d mu_tw_spotCell [vR h, vI v1, vI v2] σ (tw_spotCell N h v1 v2 σ) := by
  refine gK.of hp_X11 (Nat.le_of_ble_eq_true rfl) ?_
  unfold tw_spotCell
  refine x_aload_n (μ := mu_tw_spotCell) (pc := 0) 0 dX11_spotCell_0 rfl ?_
  refine x_iload_n (μ := mu_tw_spotCell) (pc := 1) 1 dX11_spotCell_1 rfl ?_
  refine x_iload_n (μ := mu_tw_spotCell) (pc := 2) 2 dX11_spotCell_2 rfl ?_
  refine x_callV_pi (μ := mu_tw_spotCell) (pc := 3) (ok_tw_sheetOf (ω := ω) (l := l) (d := d - 1) (by omega) hM hv1 hv2) gRel_Tw gRel_Tw (fun _ q => q) q3237 q3239 qs127 q232 q3240 dX11_spotCell_3 rfl hM.1 hy_tw_sheetOf (by omega) (Nat.le_of_ble_eq_true rfl) rfl (Nat.le_of_ble_eq_true rfl) (fun x1 hr2 => ?_)
  refine x_istore_n (μ := mu_tw_spotCell) (pc := 6) (lv' := [(3, vI x1), (0, vR h), (1, vI v1), (2, vI v2)]) dX11_spotCell_6 rfl (by decide) rfl ?_
  refine x_aload_n (μ := mu_tw_spotCell) (pc := 7) 1 dX11_spotCell_7 rfl ?_
  refine x_iload_n (μ := mu_tw_spotCell) (pc := 8) 0 dX11_spotCell_8 rfl ?_
  refine x_iconst (μ := mu_tw_spotCell) (pc := 9) dX11_spotCell_9 ?_
  refine x_aload_n (μ := mu_tw_spotCell) (pc := 10) 1 dX11_spotCell_10 rfl ?_
  refine x_fgrE (μ := mu_tw_spotCell) (pc := 11) fX11_32 (Or.inr ⟨_, rfl⟩) q2668 (hM.a32).1 dX11_spotCell_11 hM.1 ?_
  refine x_iload_n (μ := mu_tw_spotCell) (pc := 14) 2 dX11_spotCell_14 rfl ?_
  refine x_iald (μ := mu_tw_spotCell) (pc := 15) dX11_spotCell_15 (hM.a32).2.1 (hM.a32).2.2 (fun hr3 => ?_)
  refine x_callV_pi (μ := mu_tw_spotCell) (pc := 16) (ok_tw_placeOf (ω := ω) (l := l) (d := d - 1) (by omega) hM hr2 (by decide) hr3) gRel_Tw gRel_Tw (fun _ q => q) q3241 q3243 qs128 q232 q3244 dX11_spotCell_16 rfl hM.1 hy_tw_placeOf (by omega) (Nat.le_of_ble_eq_true rfl) rfl (Nat.le_of_ble_eq_true rfl) (fun x4 hr5 => ?_)
  refine x_istore (μ := mu_tw_spotCell) (pc := 19) (lv' := [(4, vI x4), (3, vI x1), (0, vR h), (1, vI v1), (2, vI v2)]) dX11_spotCell_19 (by decide) rfl ?_
  refine x_aload_n (μ := mu_tw_spotCell) (pc := 21) 2 dX11_spotCell_21 rfl ?_
  refine x_iload_n (μ := mu_tw_spotCell) (pc := 22) 1 dX11_spotCell_22 rfl ?_
  refine x_iconst (μ := mu_tw_spotCell) (pc := 23) dX11_spotCell_23 ?_
  refine x_aload_n (μ := mu_tw_spotCell) (pc := 24) 2 dX11_spotCell_24 rfl ?_
  refine x_fgrE (μ := mu_tw_spotCell) (pc := 25) fX11_33 (Or.inr ⟨_, rfl⟩) q2669 (hM.a33).1 dX11_spotCell_25 hM.1 ?_
  refine x_iload_n (μ := mu_tw_spotCell) (pc := 28) 3 dX11_spotCell_28 rfl ?_
  refine x_iald (μ := mu_tw_spotCell) (pc := 29) dX11_spotCell_29 (hM.a33).2.1 (hM.a33).2.2 (fun hr6 => ?_)
  refine x_callV_pi (μ := mu_tw_spotCell) (pc := 30) (ok_tw_placeOf (ω := ω) (l := l) (d := d - 1) (by omega) hM hr2 (by decide) hr6) gRel_Tw gRel_Tw (fun _ q => q) q3241 q3243 qs128 q232 q3244 dX11_spotCell_30 rfl hM.1 hy_tw_placeOf (by omega) (Nat.le_of_ble_eq_true rfl) rfl (Nat.le_of_ble_eq_true rfl) (fun x7 hr8 => ?_)
  refine x_istore (μ := mu_tw_spotCell) (pc := 33) (lv' := [(5, vI x7), (4, vI x4), (3, vI x1), (0, vR h), (1, vI v1), (2, vI v2)]) dX11_spotCell_33 (by decide) rfl ?_
  refine x_iload (μ := mu_tw_spotCell) (pc := 35) 1 dX11_spotCell_35 rfl ?_
  refine x_if_lt (μ := mu_tw_spotCell) (pc := 37) (tgt := 45) dX11_spotCell_37 rfl hr5 ?_ ?_
  · refine x_iconst (μ := mu_tw_spotCell) (pc := 45) dX11_spotCell_45 ?_
    refine x_goto (μ := mu_tw_spotCell) (pc := 46) (tgt := 63) dX11_spotCell_46 rfl ?_
    exact x_iret (μ := mu_tw_spotCell) (pc := 63) dX11_spotCell_63 rfl rfl (gRel_Tw.1 _) (show g32 (-1) from (by decide))
  · refine x_iload (μ := mu_tw_spotCell) (pc := 40) 0 dX11_spotCell_40 rfl ?_
    refine x_if_ge (μ := mu_tw_spotCell) (pc := 42) (tgt := 49) dX11_spotCell_42 rfl hr8 ?_ ?_
    · refine x_sipush (μ := mu_tw_spotCell) (pc := 49) dX11_spotCell_49 (by decide) ?_
      refine x_iload_n (μ := mu_tw_spotCell) (pc := 52) 2 dX11_spotCell_52 rfl ?_
      refine x_imul (μ := mu_tw_spotCell) (pc := 53) dX11_spotCell_53 ?_
      refine x_bipush (μ := mu_tw_spotCell) (pc := 54) dX11_spotCell_54 (by decide) ?_
      refine x_iload (μ := mu_tw_spotCell) (pc := 56) 1 dX11_spotCell_56 rfl ?_
      refine x_imul (μ := mu_tw_spotCell) (pc := 58) dX11_spotCell_58 ?_
      refine x_iadd (μ := mu_tw_spotCell) (pc := 59) dX11_spotCell_59 ?_
      refine x_iload (μ := mu_tw_spotCell) (pc := 60) 0 dX11_spotCell_60 rfl ?_
      refine x_iadd (μ := mu_tw_spotCell) (pc := 62) dX11_spotCell_62 ?_
      refine x_w1 ?_
      exact x_iret (μ := mu_tw_spotCell) (pc := 63) dX11_spotCell_63 rfl rfl (gRel_Tw.1 _) (show g32 (w32 (((320 * x1) + (10 * x4)) + x7)) from (w32_rng _))
    · refine x_iconst (μ := mu_tw_spotCell) (pc := 45) dX11_spotCell_45 ?_
      refine x_goto (μ := mu_tw_spotCell) (pc := 46) (tgt := 63) dX11_spotCell_46 rfl ?_
      exact x_iret (μ := mu_tw_spotCell) (pc := 63) dX11_spotCell_63 rfl rfl (gRel_Tw.1 _) (show g32 (-1) from (by decide))
def tw_compare (N : Nat) (h : Nat) (v1 : Int) (v2 : Int) (σ : gMem) : Option gMem := (tw_asOther N h v1 (w32 (v1 + 1)) σ).bind (fun x1 => (tw_asOther N h (w32 (v1 + 1)) v1 x1).bind (fun x4 => if 0 ≤ v1 ∧ v1 < ((200 : Nat) : Int) then if 0 ≤ (v1 + 1) ∧ (v1 + 1) < ((200 : Nat) : Int) then if mI x4 (h + 33) v1.toNat ≠ mI x4 (h + 33) (v1 + 1).toNat then if 2 ≤ v2 then (tw_error h v1 3 x4).bind (fun x9 => some x9) else if v2 ≠ 1 then (tw_truth h v1 0 x4).bind (fun x12 => some x12) else (tw_truth h v1 1 x4).bind (fun x15 => some x15) else (tw_order N h v1 (w32 (v1 + 1)) x4).bind (fun x18 => (tw_holds x18 v2 x4).bind (fun x20 => (tw_truth h v1 x20 x4).bind (fun x22 => some x22))) else none else none))
set_option maxRecDepth 100000 in
theorem ok_tw_compare {ω : gW} {l : Launch} {d : Nat} {N : Nat} {h : Nat} {σ : gMem} {v1 : Int} {v2 : Int} (hdp : 7 ≤ d) (hM : TM σ h) (hv1 : g32 v1) (hv2 : g32 v2) : gK (fun p : gMem => (.inl none, p)) gTw ω l d mu_tw_compare [vR h, vI v1, vI v2] σ (tw_compare N h v1 v2 σ) := by
  refine gK.of hp_X11 (Nat.le_of_ble_eq_true rfl) ?_
  unfold tw_compare
  refine x_aload_n (μ := mu_tw_compare) (pc := 0) 0 dX11_compare_0 rfl ?_
  refine x_iload_n (μ := mu_tw_compare) (pc := 1) 1 dX11_compare_1 rfl ?_
  refine x_iload_n (μ := mu_tw_compare) (pc := 2) 1 dX11_compare_2 rfl ?_
  refine x_iconst (μ := mu_tw_compare) (pc := 3) dX11_compare_3 ?_
  refine x_iadd (μ := mu_tw_compare) (pc := 4) dX11_compare_4 ?_
  refine x_w1 ?_
  refine x_callV_mv (μ := mu_tw_compare) (pc := 5) (ok_tw_asOther (ω := ω) (l := l) (d := d - 1) (by omega) hM hv1 (w32_rng _)) gRel_Tw gRel_Tw (fun _ q => q) q3350 q3352 qs152 q232 q3353 dX11_compare_5 rfl hM.1 hy_tw_asOther (by omega) (Nat.le_of_ble_eq_true rfl) rfl (Nat.le_of_ble_eq_true rfl) (fun x1 k2 => ?_)
  have hM3 : TM x1 h := hM.tw k2
  refine x_aload_n (μ := mu_tw_compare) (pc := 8) 0 dX11_compare_8 rfl ?_
  refine x_iload_n (μ := mu_tw_compare) (pc := 9) 1 dX11_compare_9 rfl ?_
  refine x_iconst (μ := mu_tw_compare) (pc := 10) dX11_compare_10 ?_
  refine x_iadd (μ := mu_tw_compare) (pc := 11) dX11_compare_11 ?_
  refine x_iload_n (μ := mu_tw_compare) (pc := 12) 1 dX11_compare_12 rfl ?_
  refine x_w2 ?_
  refine x_callV_mv (μ := mu_tw_compare) (pc := 13) (ok_tw_asOther (ω := ω) (l := l) (d := d - 1) (by omega) hM3 (w32_rng _) hv1) gRel_Tw gRel_Tw (fun _ q => q) q3350 q3352 qs152 q232 q3353 dX11_compare_13 rfl hM3.1 hy_tw_asOther (by omega) (Nat.le_of_ble_eq_true rfl) rfl (Nat.le_of_ble_eq_true rfl) (fun x4 k5 => ?_)
  have hM6 : TM x4 h := hM3.tw k5
  refine x_aload_n (μ := mu_tw_compare) (pc := 16) 0 dX11_compare_16 rfl ?_
  refine x_fgrE (μ := mu_tw_compare) (pc := 17) fX11_66 (Or.inr ⟨_, rfl⟩) q2702 (hM6.a66).1 dX11_compare_17 hM6.1 ?_
  refine x_iload_n (μ := mu_tw_compare) (pc := 20) 1 dX11_compare_20 rfl ?_
  refine x_iald (μ := mu_tw_compare) (pc := 21) dX11_compare_21 (hM6.a66).2.1 (hM6.a66).2.2 (fun hr7 => ?_)
  refine x_aload_n (μ := mu_tw_compare) (pc := 22) 0 dX11_compare_22 rfl ?_
  refine x_fgrE (μ := mu_tw_compare) (pc := 23) fX11_66 (Or.inr ⟨_, rfl⟩) q2702 (hM6.a66).1 dX11_compare_23 hM6.1 ?_
  refine x_iload_n (μ := mu_tw_compare) (pc := 26) 1 dX11_compare_26 rfl ?_
  refine x_iconst (μ := mu_tw_compare) (pc := 27) dX11_compare_27 ?_
  refine x_iadd (μ := mu_tw_compare) (pc := 28) dX11_compare_28 ?_
  refine x_iald (μ := mu_tw_compare) (pc := 29) dX11_compare_29 (hM6.a66).2.1 (hM6.a66).2.2 (fun hr8 => ?_)
  refine x_icmp_ne (μ := mu_tw_compare) (pc := 30) (tgt := 53) dX11_compare_30 rfl hr7 hr8 ?_ ?_
  · refine x_iload_n (μ := mu_tw_compare) (pc := 53) 2 dX11_compare_53 rfl ?_
    refine x_iconst (μ := mu_tw_compare) (pc := 54) dX11_compare_54 ?_
    refine x_icmp_ge (μ := mu_tw_compare) (pc := 55) (tgt := 76) dX11_compare_55 rfl hv2 (by decide) ?_ ?_
    · refine x_aload_n (μ := mu_tw_compare) (pc := 76) 0 dX11_compare_76 rfl ?_
      refine x_iload_n (μ := mu_tw_compare) (pc := 77) 1 dX11_compare_77 rfl ?_
      refine x_iconst (μ := mu_tw_compare) (pc := 78) dX11_compare_78 ?_
      refine x_callV_mv (μ := mu_tw_compare) (pc := 79) (ok_tw_error (ω := ω) (l := l) (d := d - 1) (by omega) hM6 hv1 (by decide)) gRel_Tw gRel_Tw (fun _ q => q) q3294 q3296 qs139 q232 q3297 dX11_compare_79 rfl hM6.1 hy_tw_error (by omega) (Nat.le_of_ble_eq_true rfl) rfl (Nat.le_of_ble_eq_true rfl) (fun x9 k10 => ?_)
      have hM11 : TM x9 h := hM6.tw k10
      exact x_vret (μ := mu_tw_compare) (pc := 82) (a1 := x9) dX11_compare_82 rfl rfl (gRel_Tw.1 _) trivial
    · refine x_aload_n (μ := mu_tw_compare) (pc := 58) 0 dX11_compare_58 rfl ?_
      refine x_iload_n (μ := mu_tw_compare) (pc := 59) 1 dX11_compare_59 rfl ?_
      refine x_iload_n (μ := mu_tw_compare) (pc := 60) 2 dX11_compare_60 rfl ?_
      refine x_iconst (μ := mu_tw_compare) (pc := 61) dX11_compare_61 ?_
      refine x_icmp_ne (μ := mu_tw_compare) (pc := 62) (tgt := 69) dX11_compare_62 rfl hv2 (by decide) ?_ ?_
      · refine x_iconst (μ := mu_tw_compare) (pc := 69) dX11_compare_69 ?_
        refine x_callV_mv (μ := mu_tw_compare) (pc := 70) (ok_tw_truth (ω := ω) (l := l) (d := d - 1) (by omega) hM6 hv1 (by decide)) gRel_Tw gRel_Tw (fun _ q => q) q3322 q3324 qs145 q232 q3325 dX11_compare_70 rfl hM6.1 hy_tw_truth (by omega) (Nat.le_of_ble_eq_true rfl) rfl (Nat.le_of_ble_eq_true rfl) (fun x12 k13 => ?_)
        have hM14 : TM x12 h := hM6.tw k13
        refine x_goto (μ := mu_tw_compare) (pc := 73) (tgt := 82) dX11_compare_73 rfl ?_
        exact x_vret (μ := mu_tw_compare) (pc := 82) (a1 := x12) dX11_compare_82 rfl rfl (gRel_Tw.1 _) trivial
      · refine x_iconst (μ := mu_tw_compare) (pc := 65) dX11_compare_65 ?_
        refine x_goto (μ := mu_tw_compare) (pc := 66) (tgt := 70) dX11_compare_66 rfl ?_
        refine x_callV_mv (μ := mu_tw_compare) (pc := 70) (ok_tw_truth (ω := ω) (l := l) (d := d - 1) (by omega) hM6 hv1 (by decide)) gRel_Tw gRel_Tw (fun _ q => q) q3322 q3324 qs145 q232 q3325 dX11_compare_70 rfl hM6.1 hy_tw_truth (by omega) (Nat.le_of_ble_eq_true rfl) rfl (Nat.le_of_ble_eq_true rfl) (fun x15 k16 => ?_)
        have hM17 : TM x15 h := hM6.tw k16
        refine x_goto (μ := mu_tw_compare) (pc := 73) (tgt := 82) dX11_compare_73 rfl ?_
        exact x_vret (μ := mu_tw_compare) (pc := 82) (a1 := x15) dX11_compare_82 rfl rfl (gRel_Tw.1 _) trivial
  · refine x_aload_n (μ := mu_tw_compare) (pc := 33) 0 dX11_compare_33 rfl ?_
    refine x_iload_n (μ := mu_tw_compare) (pc := 34) 1 dX11_compare_34 rfl ?_
    refine x_aload_n (μ := mu_tw_compare) (pc := 35) 0 dX11_compare_35 rfl ?_
    refine x_iload_n (μ := mu_tw_compare) (pc := 36) 1 dX11_compare_36 rfl ?_
    refine x_iload_n (μ := mu_tw_compare) (pc := 37) 1 dX11_compare_37 rfl ?_
    refine x_iconst (μ := mu_tw_compare) (pc := 38) dX11_compare_38 ?_
    refine x_iadd (μ := mu_tw_compare) (pc := 39) dX11_compare_39 ?_
    refine x_w1 ?_
    refine x_callV_pi (μ := mu_tw_compare) (pc := 40) (ok_tw_order (ω := ω) (l := l) (d := d - 1) (by omega) hM6 hv1 (w32_rng _)) gRel_Tw gRel_Tw (fun _ q => q) q3359 q3361 qs154 q232 q3362 dX11_compare_40 rfl hM6.1 hy_tw_order (by omega) (Nat.le_of_ble_eq_true rfl) rfl (Nat.le_of_ble_eq_true rfl) (fun x18 hr19 => ?_)
    refine x_iload_n (μ := mu_tw_compare) (pc := 43) 2 dX11_compare_43 rfl ?_
    refine x_callS_pi (μ := mu_tw_compare) (pc := 44) (ok_tw_holds (ω := ω) (l := l) (d := d - 1) (by omega) hr19 hv2) gRel_Tw gRel_Tw (fun _ q => q) q3363 q3364 q232 q3365 dX11_compare_44 hy_tw_holds (by omega) (Nat.le_of_ble_eq_true rfl) rfl (Nat.le_of_ble_eq_true rfl) (fun x20 hr21 => ?_)
    refine x_callV_mv (μ := mu_tw_compare) (pc := 47) (ok_tw_truth (ω := ω) (l := l) (d := d - 1) (by omega) hM6 hv1 hr21) gRel_Tw gRel_Tw (fun _ q => q) q3322 q3324 qs145 q232 q3325 dX11_compare_47 rfl hM6.1 hy_tw_truth (by omega) (Nat.le_of_ble_eq_true rfl) rfl (Nat.le_of_ble_eq_true rfl) (fun x22 k23 => ?_)
    have hM24 : TM x22 h := hM6.tw k23
    refine x_goto (μ := mu_tw_compare) (pc := 50) (tgt := 82) dX11_compare_50 rfl ?_
    exact x_vret (μ := mu_tw_compare) (pc := 82) (a1 := x22) dX11_compare_82 rfl rfl (gRel_Tw.1 _) trivial
def tw_join_l46 (N : Nat) (h : Nat) (v1 : Int) (v2 : Int) (v3 : Int) (K : gMem → Option gMem) : Nat → Int → gMem → Option gMem
  | 0, _, _ => none
  | n + 1, v4, s => if v3 ≤ v4 then K s else if 0 ≤ ((24 * (v1 + 1)) + v4) ∧ ((24 * (v1 + 1)) + v4) < ((4800 : Nat) : Int) then if -128 ≤ mI s (h + 36) ((24 * (v1 + 1)) + v4).toNat ∧ mI s (h + 36) ((24 * (v1 + 1)) + v4).toNat ≤ 127 then if 0 ≤ (((24 * v1) + v2) + v4) ∧ (((24 * v1) + v2) + v4) < ((4800 : Nat) : Int) then gLet (wI s (h + 36) (((24 * v1) + v2) + v4).toNat (mI s (h + 36) ((24 * (v1 + 1)) + v4).toNat)) (fun s11 => tw_join_l46 N h v1 v2 v3 K n (w32 (v4 + 1)) s11) else none else none else none
set_option maxRecDepth 100000 in
theorem okl_tw_join_l46 {ω : gW} {l : Launch} {d : Nat} {N : Nat} {h : Nat} {σ0 : gMem} {v1 : Int} {v2 : Int} {v3 : Int} {K : gMem → Option gMem} (hdp : 7 ≤ d) (hv1 : g32 v1) (hv2 : g32 v2) (hv3 : g32 v3) (hK : ∀ (s : gMem) , TM s h → GG (fun p : gMem => (.inl none, p)) gTw ω l d mu_tw_join σ0 86 [(0, vR h), (1, vI v1), (2, vI v2), (3, vI v3)] [] s (K s)) : ∀ (n : Nat) (v4 : Int) (s : gMem) , g32 v4 → TM s h → GG (fun p : gMem => (.inl none, p)) gTw ω l d mu_tw_join σ0 46 [(0, vR h), (1, vI v1), (2, vI v2), (3, vI v3), (4, vI v4)] [] s (tw_join_l46 N h v1 v2 v3 K n v4 s) := by
  intro n
  induction n with
  | zero => intros; exact x_none
  | succ n ih =>
    intro v4 s hv4 hM
    unfold tw_join_l46
    refine x_iload (μ := mu_tw_join) (pc := 46) 4 dX11_join_46 rfl ?_
    refine x_iload_n (μ := mu_tw_join) (pc := 48) 3 dX11_join_48 rfl ?_
    refine x_icmp_ge (μ := mu_tw_join) (pc := 49) (tgt := 86) dX11_join_49 rfl hv4 hv3 ?_ ?_
    · refine x_loc (lv' := [(0, vR h), (1, vI v1), (2, vI v2), (3, vI v3)]) [0, 1, 2, 3] rfl ?_
      exact hK s hM
    · refine x_aload_n (μ := mu_tw_join) (pc := 52) 0 dX11_join_52 rfl ?_
      refine x_fgrE (μ := mu_tw_join) (pc := 53) fX11_69 (Or.inr ⟨_, rfl⟩) q2705 (hM.a69).1 dX11_join_53 hM.1 ?_
      refine x_bipush (μ := mu_tw_join) (pc := 56) dX11_join_56 (by decide) ?_
      refine x_iload_n (μ := mu_tw_join) (pc := 58) 1 dX11_join_58 rfl ?_
      refine x_imul (μ := mu_tw_join) (pc := 59) dX11_join_59 ?_
      refine x_iload_n (μ := mu_tw_join) (pc := 60) 2 dX11_join_60 rfl ?_
      refine x_iadd (μ := mu_tw_join) (pc := 61) dX11_join_61 ?_
      refine x_iload (μ := mu_tw_join) (pc := 62) 4 dX11_join_62 rfl ?_
      refine x_iadd (μ := mu_tw_join) (pc := 64) dX11_join_64 ?_
      refine x_aload_n (μ := mu_tw_join) (pc := 65) 0 dX11_join_65 rfl ?_
      refine x_fgrE (μ := mu_tw_join) (pc := 66) fX11_69 (Or.inr ⟨_, rfl⟩) q2705 (hM.a69).1 dX11_join_66 hM.1 ?_
      refine x_bipush (μ := mu_tw_join) (pc := 69) dX11_join_69 (by decide) ?_
      refine x_iload_n (μ := mu_tw_join) (pc := 71) 1 dX11_join_71 rfl ?_
      refine x_iconst (μ := mu_tw_join) (pc := 72) dX11_join_72 ?_
      refine x_iadd (μ := mu_tw_join) (pc := 73) dX11_join_73 ?_
      refine x_imul (μ := mu_tw_join) (pc := 74) dX11_join_74 ?_
      refine x_iload (μ := mu_tw_join) (pc := 75) 4 dX11_join_75 rfl ?_
      refine x_iadd (μ := mu_tw_join) (pc := 77) dX11_join_77 ?_
      refine x_bald (μ := mu_tw_join) (pc := 78) dX11_join_78 (hM.a69).2.1 (hM.a69).2.2 (fun hr9 => ?_)
      refine x_if (fun hz10 => ?_)
      refine x_bast (μ := mu_tw_join) (pc := 79) dX11_join_79 (hM.a69).2.1 (hM.a69).2.2 hz10 (fun _ _ q => gTw_wI q) ?_
      refine x_let (fun s11 e12 => ?_)
      have hM13 := TM.eI e12 hM
      refine x_iincw (μ := mu_tw_join) (pc := 80) (lv' := [(4, vI (w32 (v4 + 1))), (0, vR h), (1, vI v1), (2, vI v2), (3, vI v3)]) 4 dX11_join_80 rfl (by decide) rfl ?_
      refine x_goto (μ := mu_tw_join) (pc := 83) (tgt := 46) dX11_join_83 rfl ?_
      refine x_loc (lv' := [(0, vR h), (1, vI v1), (2, vI v2), (3, vI v3), (4, vI (w32 (v4 + 1)))]) [1, 2, 3, 4, 0] rfl ?_
      exact ih (w32 (v4 + 1)) s11 (w32_rng _) hM13
def tw_join (N : Nat) (h : Nat) (v1 : Int) (σ : gMem) : Option gMem := (tw_wantsText N h v1 σ).bind (fun x1 => (tw_wantsText N h (w32 (v1 + 1)) x1).bind (fun x4 => if 0 ≤ v1 ∧ v1 < ((200 : Nat) : Int) then if 0 ≤ (v1 + 1) ∧ (v1 + 1) < ((200 : Nat) : Int) then if w32 ((mI x4 (h + 35) v1.toNat) + (mI x4 (h + 35) (v1 + 1).toNat)) ≤ 24 then tw_join_l46 N h v1 (mI x4 (h + 35) v1.toNat) (mI x4 (h + 35) (v1 + 1).toNat) (fun s14 => if 0 ≤ v1 ∧ v1 < ((200 : Nat) : Int) then gLet (wI s14 (h + 35) v1.toNat (w32 ((mI x4 (h + 35) v1.toNat) + (mI x4 (h + 35) (v1 + 1).toNat)))) (fun s16 => some s16) else none) N 0 x4 else (tw_error h v1 5 x4).bind (fun x19 => some x19) else none else none))
set_option maxRecDepth 100000 in
theorem ok_tw_join {ω : gW} {l : Launch} {d : Nat} {N : Nat} {h : Nat} {σ : gMem} {v1 : Int} (hdp : 7 ≤ d) (hM : TM σ h) (hv1 : g32 v1) : gK (fun p : gMem => (.inl none, p)) gTw ω l d mu_tw_join [vR h, vI v1] σ (tw_join N h v1 σ) := by
  refine gK.of hp_X11 (Nat.le_of_ble_eq_true rfl) ?_
  unfold tw_join
  refine x_aload_n (μ := mu_tw_join) (pc := 0) 0 dX11_join_0 rfl ?_
  refine x_iload_n (μ := mu_tw_join) (pc := 1) 1 dX11_join_1 rfl ?_
  refine x_callV_mv (μ := mu_tw_join) (pc := 2) (ok_tw_wantsText (ω := ω) (l := l) (d := d - 1) (by omega) hM hv1) gRel_Tw gRel_Tw (fun _ q => q) q3370 q3372 qs156 q232 q3373 dX11_join_2 rfl hM.1 hy_tw_wantsText (by omega) (Nat.le_of_ble_eq_true rfl) rfl (Nat.le_of_ble_eq_true rfl) (fun x1 k2 => ?_)
  have hM3 : TM x1 h := hM.tw k2
  refine x_aload_n (μ := mu_tw_join) (pc := 5) 0 dX11_join_5 rfl ?_
  refine x_iload_n (μ := mu_tw_join) (pc := 6) 1 dX11_join_6 rfl ?_
  refine x_iconst (μ := mu_tw_join) (pc := 7) dX11_join_7 ?_
  refine x_iadd (μ := mu_tw_join) (pc := 8) dX11_join_8 ?_
  refine x_w1 ?_
  refine x_callV_mv (μ := mu_tw_join) (pc := 9) (ok_tw_wantsText (ω := ω) (l := l) (d := d - 1) (by omega) hM3 (w32_rng _)) gRel_Tw gRel_Tw (fun _ q => q) q3370 q3372 qs156 q232 q3373 dX11_join_9 rfl hM3.1 hy_tw_wantsText (by omega) (Nat.le_of_ble_eq_true rfl) rfl (Nat.le_of_ble_eq_true rfl) (fun x4 k5 => ?_)
  have hM6 : TM x4 h := hM3.tw k5
  refine x_aload_n (μ := mu_tw_join) (pc := 12) 0 dX11_join_12 rfl ?_
  refine x_fgrE (μ := mu_tw_join) (pc := 13) fX11_68 (Or.inr ⟨_, rfl⟩) q2704 (hM6.a68).1 dX11_join_13 hM6.1 ?_
  refine x_iload_n (μ := mu_tw_join) (pc := 16) 1 dX11_join_16 rfl ?_
  refine x_iald (μ := mu_tw_join) (pc := 17) dX11_join_17 (hM6.a68).2.1 (hM6.a68).2.2 (fun hr7 => ?_)
  refine x_istore_n (μ := mu_tw_join) (pc := 18) (lv' := [(2, vI (mI x4 (h + 35) v1.toNat)), (0, vR h), (1, vI v1)]) dX11_join_18 rfl (by decide) rfl ?_
  refine x_aload_n (μ := mu_tw_join) (pc := 19) 1 dX11_join_19 rfl ?_
  refine x_fgrE (μ := mu_tw_join) (pc := 20) fX11_68 (Or.inr ⟨_, rfl⟩) q2704 (hM6.a68).1 dX11_join_20 hM6.1 ?_
  refine x_iload_n (μ := mu_tw_join) (pc := 23) 2 dX11_join_23 rfl ?_
  refine x_iconst (μ := mu_tw_join) (pc := 24) dX11_join_24 ?_
  refine x_iadd (μ := mu_tw_join) (pc := 25) dX11_join_25 ?_
  refine x_iald (μ := mu_tw_join) (pc := 26) dX11_join_26 (hM6.a68).2.1 (hM6.a68).2.2 (fun hr8 => ?_)
  refine x_istore_n (μ := mu_tw_join) (pc := 27) (lv' := [(3, vI (mI x4 (h + 35) (v1 + 1).toNat)), (2, vI (mI x4 (h + 35) v1.toNat)), (0, vR h), (1, vI v1)]) dX11_join_27 rfl (by decide) rfl ?_
  refine x_iload_n (μ := mu_tw_join) (pc := 28) 1 dX11_join_28 rfl ?_
  refine x_iload_n (μ := mu_tw_join) (pc := 29) 0 dX11_join_29 rfl ?_
  refine x_iadd (μ := mu_tw_join) (pc := 30) dX11_join_30 ?_
  refine x_bipush (μ := mu_tw_join) (pc := 31) dX11_join_31 (by decide) ?_
  refine x_w2 ?_
  refine x_icmp_le (μ := mu_tw_join) (pc := 33) (tgt := 43) dX11_join_33 rfl (w32_rng _) (by decide) ?_ ?_
  · refine x_iconst (μ := mu_tw_join) (pc := 43) dX11_join_43 ?_
    refine x_istore (μ := mu_tw_join) (pc := 44) (lv' := [(4, vI 0), (3, vI (mI x4 (h + 35) (v1 + 1).toNat)), (2, vI (mI x4 (h + 35) v1.toNat)), (0, vR h), (1, vI v1)]) dX11_join_44 (by decide) rfl ?_
    refine x_loc (lv' := [(0, vR h), (1, vI v1), (2, vI (mI x4 (h + 35) v1.toNat)), (3, vI (mI x4 (h + 35) (v1 + 1).toNat)), (4, vI 0)]) [3, 4, 2, 1, 0] rfl ?_
    refine okl_tw_join_l46 hdp hv1 hr7 hr8 (fun s14 hM15 => ?_) N 0 x4 (by decide) hM6
    refine x_aload_n (μ := mu_tw_join) (pc := 86) 0 dX11_join_86 rfl ?_
    refine x_fgrE (μ := mu_tw_join) (pc := 87) fX11_68 (Or.inr ⟨_, rfl⟩) q2704 (hM15.a68).1 dX11_join_87 hM15.1 ?_
    refine x_iload_n (μ := mu_tw_join) (pc := 90) 1 dX11_join_90 rfl ?_
    refine x_iload_n (μ := mu_tw_join) (pc := 91) 2 dX11_join_91 rfl ?_
    refine x_iload_n (μ := mu_tw_join) (pc := 92) 3 dX11_join_92 rfl ?_
    refine x_iadd (μ := mu_tw_join) (pc := 93) dX11_join_93 ?_
    refine x_w1 ?_
    refine x_iast (μ := mu_tw_join) (pc := 94) dX11_join_94 (hM15.a68).2.1 (hM15.a68).2.2 (fun _ _ q => gTw_wI q) ?_
    refine x_let (fun s16 e17 => ?_)
    have hM18 := TM.eI e17 hM15
    exact x_vret (μ := mu_tw_join) (pc := 95) (a1 := s16) dX11_join_95 rfl rfl (gRel_Tw.1 _) trivial
  · refine x_aload_n (μ := mu_tw_join) (pc := 36) 2 dX11_join_36 rfl ?_
    refine x_iload_n (μ := mu_tw_join) (pc := 37) 3 dX11_join_37 rfl ?_
    refine x_iconst (μ := mu_tw_join) (pc := 38) dX11_join_38 ?_
    refine x_callV_mv (μ := mu_tw_join) (pc := 39) (ok_tw_error (ω := ω) (l := l) (d := d - 1) (by omega) hM6 hv1 (by decide)) gRel_Tw gRel_Tw (fun _ q => q) q3294 q3296 qs139 q232 q3297 dX11_join_39 rfl hM6.1 hy_tw_error (by omega) (Nat.le_of_ble_eq_true rfl) rfl (Nat.le_of_ble_eq_true rfl) (fun x19 k20 => ?_)
    have hM21 : TM x19 h := hM6.tw k20
    exact x_vret (μ := mu_tw_join) (pc := 42) (a1 := x19) dX11_join_42 rfl rfl (gRel_Tw.1 _) trivial
def tw_isGone (N : Nat) (h : Nat) (v1 : Int) (σ : gMem) : Option Int := (tw_spotCell N h v1 (mI σ h 81) σ).bind (fun x2 => if 0 ≤ x2 then some 0 else some 1)
set_option maxRecDepth 100000 in
theorem ok_tw_isGone {ω : gW} {l : Launch} {d : Nat} {N : Nat} {h : Nat} {σ : gMem} {v1 : Int} (hdp : 3 ≤ d) (hM : TM σ h) (hv1 : g32 v1) : gK (fun x : Int => (.inl (some (vI x)), σ)) gTw ω l d mu_tw_isGone [vR h, vI v1] σ (tw_isGone N h v1 σ) := by
  refine gK.of hp_X11 (Nat.le_of_ble_eq_true rfl) ?_
  unfold tw_isGone
  refine x_aload_n (μ := mu_tw_isGone) (pc := 0) 0 dX11_isGone_0 rfl ?_
  refine x_iload_n (μ := mu_tw_isGone) (pc := 1) 1 dX11_isGone_1 rfl ?_
  refine x_aload_n (μ := mu_tw_isGone) (pc := 2) 0 dX11_isGone_2 rfl ?_
  refine x_fgi (μ := mu_tw_isGone) (pc := 3) fX11_81 q2717 dX11_isGone_3 hM.1 (fun hr1 => ?_)
  refine x_callV_pi (μ := mu_tw_isGone) (pc := 6) (ok_tw_spotCell (ω := ω) (l := l) (d := d - 1) (by omega) hM hv1 hr1) gRel_Tw gRel_Tw (fun _ q => q) q3233 q3235 qs126 q232 q3236 dX11_isGone_6 rfl hM.1 hy_tw_spotCell (by omega) (Nat.le_of_ble_eq_true rfl) rfl (Nat.le_of_ble_eq_true rfl) (fun x2 hr3 => ?_)
  refine x_if_ge (μ := mu_tw_isGone) (pc := 9) (tgt := 16) dX11_isGone_9 rfl hr3 ?_ ?_
  · refine x_iconst (μ := mu_tw_isGone) (pc := 16) dX11_isGone_16 ?_
    exact x_zret (μ := mu_tw_isGone) (pc := 17) dX11_isGone_17 rfl (by decide) rfl (gRel_Tw.1 _) (show g32 0 from (by decide))
  · refine x_iconst (μ := mu_tw_isGone) (pc := 12) dX11_isGone_12 ?_
    refine x_goto (μ := mu_tw_isGone) (pc := 13) (tgt := 17) dX11_isGone_13 rfl ?_
    exact x_zret (μ := mu_tw_isGone) (pc := 17) dX11_isGone_17 rfl (by decide) rfl (gRel_Tw.1 _) (show g32 1 from (by decide))
def tw_workLook_l153_j195 (N : Nat) (W : Int → Int → Int → gMem → Option gMem) (h : Nat) (v3 : Int) (v4 : Int) (v6 : Int) (v7 : Int) (v8 : Int) (Kh : Int → Int → Int → gMem → Option gMem) (K : Int → Int → gMem → Option gMem) (s : gMem) : Option gMem := Kh v6 v7 (w32 (v8 + 1)) s
set_option maxRecDepth 100000 in
theorem okj_tw_workLook_l153_j195 {ω : gW} {l : Launch} {d : Nat} {N : Nat} {W : Int → Int → Int → gMem → Option gMem} {dW : Nat} {h : Nat} {σ0 : gMem} {s : gMem} {v3 : Int} {v4 : Int} {v6 : Int} {v7 : Int} {v8 : Int} {Kh : Int → Int → Int → gMem → Option gMem} {K : Int → Int → gMem → Option gMem} (hW : ∀ (a1 : Int) (a2 : Int) (a3 : Int) (s : gMem), TM s h → g32 a1 → g32 a2 → g32 a3 → gK (fun p : gMem => (.inl none, p)) gTw ω l dW mu_tw_work [vR h, vI a1, vI a2, vI a3] s (W a1 a2 a3 s)) (hdp : 8 ≤ d) (hdw : dW + 1 ≤ d) (hM : TM s h) (hv3 : g32 v3) (hv4 : g32 v4) (hv6 : g32 v6) (hv7 : g32 v7) (hv8 : g32 v8) (hKh : ∀ (v6 : Int) (v7 : Int) (v8 : Int) (s : gMem) , g32 v6 → g32 v7 → g32 v8 → TM s h → GG (fun p : gMem => (.inl none, p)) gTw ω l d mu_tw_workLook σ0 153 [(0, vR h), (3, vI v3), (4, vI v4), (6, vI v6), (7, vI v7), (8, vI v8)] [] s (Kh v6 v7 v8 s)) (hK : ∀ (v6 : Int) (v7 : Int) (s : gMem) , g32 v6 → g32 v7 → TM s h → GG (fun p : gMem => (.inl none, p)) gTw ω l d mu_tw_workLook σ0 201 [(0, vR h), (3, vI v3), (4, vI v4), (6, vI v6), (7, vI v7)] [] s (K v6 v7 s)) : GG (fun p : gMem => (.inl none, p)) gTw ω l d mu_tw_workLook σ0 195 [(0, vR h), (3, vI v3), (4, vI v4), (6, vI v6), (7, vI v7), (8, vI v8)] [] s (tw_workLook_l153_j195 N W h v3 v4 v6 v7 v8 Kh K s) := by
  unfold tw_workLook_l153_j195
  refine x_iincw (μ := mu_tw_workLook) (pc := 195) (lv' := [(8, vI (w32 (v8 + 1))), (0, vR h), (3, vI v3), (4, vI v4), (6, vI v6), (7, vI v7)]) 5 dX11_workLook_195 rfl (by decide) rfl ?_
  refine x_goto (μ := mu_tw_workLook) (pc := 198) (tgt := 153) dX11_workLook_198 rfl ?_
  refine x_loc (lv' := [(0, vR h), (3, vI v3), (4, vI v4), (6, vI v6), (7, vI v7), (8, vI (w32 (v8 + 1)))]) [1, 2, 3, 4, 5, 0] rfl ?_
  exact hKh v6 v7 (w32 (v8 + 1)) s hv6 hv7 (w32_rng _) hM
def tw_workLook_l153_j193 (N : Nat) (W : Int → Int → Int → gMem → Option gMem) (h : Nat) (v3 : Int) (v4 : Int) (v6 : Int) (v8 : Int) (t0 : Int) (Kh : Int → Int → Int → gMem → Option gMem) (K : Int → Int → gMem → Option gMem) (s : gMem) : Option gMem := tw_workLook_l153_j195 N W h v3 v4 v6 t0 v8  (Kh) K s
set_option maxRecDepth 100000 in
theorem okj_tw_workLook_l153_j193 {ω : gW} {l : Launch} {d : Nat} {N : Nat} {W : Int → Int → Int → gMem → Option gMem} {dW : Nat} {h : Nat} {σ0 : gMem} {s : gMem} {v3 : Int} {v4 : Int} {v6 : Int} {v8 : Int} {t0 : Int} {Kh : Int → Int → Int → gMem → Option gMem} {K : Int → Int → gMem → Option gMem} (hW : ∀ (a1 : Int) (a2 : Int) (a3 : Int) (s : gMem), TM s h → g32 a1 → g32 a2 → g32 a3 → gK (fun p : gMem => (.inl none, p)) gTw ω l dW mu_tw_work [vR h, vI a1, vI a2, vI a3] s (W a1 a2 a3 s)) (hdp : 8 ≤ d) (hdw : dW + 1 ≤ d) (hM : TM s h) (hv3 : g32 v3) (hv4 : g32 v4) (hv6 : g32 v6) (hv8 : g32 v8) (ht0 : g32 t0) (hKh : ∀ (v6 : Int) (v7 : Int) (v8 : Int) (s : gMem) , g32 v6 → g32 v7 → g32 v8 → TM s h → GG (fun p : gMem => (.inl none, p)) gTw ω l d mu_tw_workLook σ0 153 [(0, vR h), (3, vI v3), (4, vI v4), (6, vI v6), (7, vI v7), (8, vI v8)] [] s (Kh v6 v7 v8 s)) (hK : ∀ (v6 : Int) (v7 : Int) (s : gMem) , g32 v6 → g32 v7 → TM s h → GG (fun p : gMem => (.inl none, p)) gTw ω l d mu_tw_workLook σ0 201 [(0, vR h), (3, vI v3), (4, vI v4), (6, vI v6), (7, vI v7)] [] s (K v6 v7 s)) : GG (fun p : gMem => (.inl none, p)) gTw ω l d mu_tw_workLook σ0 193 [(0, vR h), (3, vI v3), (4, vI v4), (6, vI v6), (8, vI v8)] [vI t0] s (tw_workLook_l153_j193 N W h v3 v4 v6 v8 t0 Kh K s) := by
  unfold tw_workLook_l153_j193
  refine x_istore (μ := mu_tw_workLook) (pc := 193) (lv' := [(7, vI t0), (0, vR h), (3, vI v3), (4, vI v4), (6, vI v6), (8, vI v8)]) dX11_workLook_193 (by decide) rfl ?_
  refine x_loc (lv' := [(0, vR h), (3, vI v3), (4, vI v4), (6, vI v6), (7, vI t0), (8, vI v8)]) [1, 2, 3, 4, 0, 5] rfl ?_
  exact okj_tw_workLook_l153_j195 hW hdp hdw hM hv3 hv4 hv6 ht0 hv8 hKh hK
def tw_workLook_l153 (N : Nat) (W : Int → Int → Int → gMem → Option gMem) (h : Nat) (v3 : Int) (v4 : Int) (K : Int → Int → gMem → Option gMem) : Nat → Int → Int → Int → gMem → Option gMem
  | 0, _, _, _, _ => none
  | n + 1, v6, v7, v8, s => (tw_areaSize h s).bind (fun x14 => if x14 ≤ v8 then K v6 v7 s else (tw_areaCell h v8 s).bind (fun x16 => (tw_isLike N h v3 x16 s).bind (fun x18 => if x18.1 = 0 then tw_workLook_l153_j195 N W h v3 v4 v6 v7 v8  (tw_workLook_l153 N W h v3 v4 K n) K (x18.2) else if v7 ≠ 0 then tw_workLook_l153_j193 N W h v3 v4 (w32 (v6 + 1)) v8 v7 (tw_workLook_l153 N W h v3 v4 K n) K (x18.2) else tw_workLook_l153_j193 N W h v3 v4 (w32 (v6 + 1)) v8 (w32 (v8 + 1)) (tw_workLook_l153 N W h v3 v4 K n) K (x18.2))))
set_option maxRecDepth 100000 in
theorem okl_tw_workLook_l153 {ω : gW} {l : Launch} {d : Nat} {N : Nat} {W : Int → Int → Int → gMem → Option gMem} {dW : Nat} {h : Nat} {σ0 : gMem} {v3 : Int} {v4 : Int} {K : Int → Int → gMem → Option gMem} (hW : ∀ (a1 : Int) (a2 : Int) (a3 : Int) (s : gMem), TM s h → g32 a1 → g32 a2 → g32 a3 → gK (fun p : gMem => (.inl none, p)) gTw ω l dW mu_tw_work [vR h, vI a1, vI a2, vI a3] s (W a1 a2 a3 s)) (hdp : 8 ≤ d) (hdw : dW + 1 ≤ d) (hv3 : g32 v3) (hv4 : g32 v4) (hK : ∀ (v6 : Int) (v7 : Int) (s : gMem) , g32 v6 → g32 v7 → TM s h → GG (fun p : gMem => (.inl none, p)) gTw ω l d mu_tw_workLook σ0 201 [(0, vR h), (3, vI v3), (4, vI v4), (6, vI v6), (7, vI v7)] [] s (K v6 v7 s)) : ∀ (n : Nat) (v6 : Int) (v7 : Int) (v8 : Int) (s : gMem) , g32 v6 → g32 v7 → g32 v8 → TM s h → GG (fun p : gMem => (.inl none, p)) gTw ω l d mu_tw_workLook σ0 153 [(0, vR h), (3, vI v3), (4, vI v4), (6, vI v6), (7, vI v7), (8, vI v8)] [] s (tw_workLook_l153 N W h v3 v4 K n v6 v7 v8 s) := by
  intro n
  induction n with
  | zero => intros; exact x_none
  | succ n ih =>
    intro v6 v7 v8 s hv6 hv7 hv8 hM
    unfold tw_workLook_l153
    refine x_iload (μ := mu_tw_workLook) (pc := 153) 5 dX11_workLook_153 rfl ?_
    refine x_aload_n (μ := mu_tw_workLook) (pc := 155) 0 dX11_workLook_155 rfl ?_
    refine x_callV_pi (μ := mu_tw_workLook) (pc := 156) (ok_tw_areaSize (ω := ω) (l := l) (d := d - 1) (by omega) hM ) gRel_Tw gRel_Tw (fun _ q => q) q3263 q3265 qs132 q232 q3266 dX11_workLook_156 rfl hM.1 hy_tw_areaSize (by omega) (Nat.le_of_ble_eq_true rfl) rfl (Nat.le_of_ble_eq_true rfl) (fun x14 hr15 => ?_)
    refine x_icmp_ge (μ := mu_tw_workLook) (pc := 159) (tgt := 201) dX11_workLook_159 rfl hv8 hr15 ?_ ?_
    · refine x_loc (lv' := [(0, vR h), (3, vI v3), (4, vI v4), (6, vI v6), (7, vI v7)]) [0, 1, 2, 3, 4] rfl ?_
      exact hK v6 v7 s hv6 hv7 hM
    · refine x_aload_n (μ := mu_tw_workLook) (pc := 162) 0 dX11_workLook_162 rfl ?_
      refine x_iload_n (μ := mu_tw_workLook) (pc := 163) 1 dX11_workLook_163 rfl ?_
      refine x_aload_n (μ := mu_tw_workLook) (pc := 164) 0 dX11_workLook_164 rfl ?_
      refine x_iload (μ := mu_tw_workLook) (pc := 165) 5 dX11_workLook_165 rfl ?_
      refine x_callV_pi (μ := mu_tw_workLook) (pc := 167) (ok_tw_areaCell (ω := ω) (l := l) (d := d - 1) (by omega) hM hv8) gRel_Tw gRel_Tw (fun _ q => q) q3267 q3269 qs133 q232 q3270 dX11_workLook_167 rfl hM.1 hy_tw_areaCell (by omega) (Nat.le_of_ble_eq_true rfl) rfl (Nat.le_of_ble_eq_true rfl) (fun x16 hr17 => ?_)
      refine x_callV_mi (μ := mu_tw_workLook) (pc := 170) (ok_tw_isLike (ω := ω) (l := l) (d := d - 1) (by omega) hM hv3 hr17) gRel_Tw gRel_Tw (fun _ q => q) q3437 q3439 qs172 q232 q3440 dX11_workLook_170 rfl hM.1 hy_tw_isLike (by omega) (Nat.le_of_ble_eq_true rfl) rfl (Nat.le_of_ble_eq_true rfl) (fun x18 k20 hr19 => ?_)
      have hM21 : TM (x18.2) h := hM.tw k20
      refine x_if_eq (μ := mu_tw_workLook) (pc := 173) (tgt := 195) dX11_workLook_173 rfl hr19 ?_ ?_
      · exact okj_tw_workLook_l153_j195 hW hdp hdw hM21 hv3 hv4 hv6 hv7 hv8 ih hK
      · refine x_iincw (μ := mu_tw_workLook) (pc := 176) (lv' := [(6, vI (w32 (v6 + 1))), (0, vR h), (3, vI v3), (4, vI v4), (7, vI v7), (8, vI v8)]) 3 dX11_workLook_176 rfl (by decide) rfl ?_
        refine x_iload (μ := mu_tw_workLook) (pc := 179) 4 dX11_workLook_179 rfl ?_
        refine x_if_ne (μ := mu_tw_workLook) (pc := 181) (tgt := 191) dX11_workLook_181 rfl hv7 ?_ ?_
        · refine x_iload (μ := mu_tw_workLook) (pc := 191) 4 dX11_workLook_191 rfl ?_
          refine x_loc (lv' := [(0, vR h), (3, vI v3), (4, vI v4), (6, vI (w32 (v6 + 1))), (8, vI v8)]) [1, 2, 3, 0, 5] rfl ?_
          exact okj_tw_workLook_l153_j193 hW hdp hdw hM21 hv3 hv4 (w32_rng _) hv8 hv7 ih hK
        · refine x_iload (μ := mu_tw_workLook) (pc := 184) 5 dX11_workLook_184 rfl ?_
          refine x_iconst (μ := mu_tw_workLook) (pc := 186) dX11_workLook_186 ?_
          refine x_iadd (μ := mu_tw_workLook) (pc := 187) dX11_workLook_187 ?_
          refine x_goto (μ := mu_tw_workLook) (pc := 188) (tgt := 193) dX11_workLook_188 rfl ?_
          refine x_w1 ?_
          refine x_loc (lv' := [(0, vR h), (3, vI v3), (4, vI v4), (6, vI (w32 (v6 + 1))), (8, vI v8)]) [1, 2, 3, 0, 5] rfl ?_
          exact okj_tw_workLook_l153_j193 hW hdp hdw hM21 hv3 hv4 (w32_rng _) hv8 (w32_rng _) ih hK
def tw_workLook_j42 (N : Nat) (W : Int → Int → Int → gMem → Option gMem) (h : Nat) (v2 : Int) (v3 : Int) (v4 : Int) (v5 : Int) (t0 : Int) (t1 : Int) (s : gMem) : Option gMem := (tw_under N h t1 t0 s).bind (fun x4 => (W x4 v2 v3 s).bind (fun x6 => if 0 ≤ v3 ∧ v3 < ((200 : Nat) : Int) then if mI x6 (h + 33) v3.toNat ≠ 4 then (tw_area N h v5 v2 x6).bind (fun x10 => if x10.1 ≠ 0 then if v4 ≠ 45 then tw_workLook_l153 N W h v3 v4 (fun y22 y23 s24 => if v4 ≠ 47 then if y23 ≠ 0 then (tw_number h v3 y23 s24).bind (fun x26 => some x26) else (tw_error h v3 7 s24).bind (fun x29 => some x29) else (tw_number h v3 y22 s24).bind (fun x32 => some x32)) N 0 0 0 (x10.2) else (tw_wantsNumber h v3 (x10.2)).bind (fun x35 => if x35.1 ≠ 0 then if 0 ≤ v3 ∧ v3 < ((200 : Nat) : Int) then if gcmp (mL (x35.2) (h + 34) v3.toNat) (((1 : Fin 2) : Nat) : Int) < 0 then (tw_error h v3 1 (x35.2)).bind (fun x40 => some x40) else (tw_areaSize h (x35.2)).bind (fun x43 => if gcmp (mL (x35.2) (h + 34) v3.toNat) x43 ≤ 0 then (tw_areaCell h (w32 ((mL (x35.2) (h + 34) v3.toNat) - 1)) (x35.2)).bind (fun x45 => (tw_load N h v3 x45 (x35.2)).bind (fun x47 => some x47)) else (tw_error h v3 1 (x35.2)).bind (fun x50 => some x50)) else none else some (x35.2)) else (tw_error h v3 1 (x10.2)).bind (fun x53 => some x53)) else some x6 else none))
set_option maxRecDepth 100000 in
theorem okj_tw_workLook_j42 {ω : gW} {l : Launch} {d : Nat} {N : Nat} {W : Int → Int → Int → gMem → Option gMem} {dW : Nat} {h : Nat} {σ0 : gMem} {s : gMem} {v2 : Int} {v3 : Int} {v4 : Int} {v5 : Int} {t0 : Int} {t1 : Int} (hW : ∀ (a1 : Int) (a2 : Int) (a3 : Int) (s : gMem), TM s h → g32 a1 → g32 a2 → g32 a3 → gK (fun p : gMem => (.inl none, p)) gTw ω l dW mu_tw_work [vR h, vI a1, vI a2, vI a3] s (W a1 a2 a3 s)) (hdp : 8 ≤ d) (hdw : dW + 1 ≤ d) (hM : TM s h) (hv2 : g32 v2) (hv3 : g32 v3) (hv4 : g32 v4) (hv5 : g32 v5) (ht0 : g32 t0) (ht1 : g32 t1) : GG (fun p : gMem => (.inl none, p)) gTw ω l d mu_tw_workLook σ0 42 [(0, vR h), (2, vI v2), (3, vI v3), (4, vI v4), (5, vI v5)] [vI t0, vI t1, vR h, vR h] s (tw_workLook_j42 N W h v2 v3 v4 v5 t0 t1 s) := by
  unfold tw_workLook_j42
  refine x_callV_pi (μ := mu_tw_workLook) (pc := 42) (ok_tw_under (ω := ω) (l := l) (d := d - 1) (by omega) hM ht1 ht0) gRel_Tw gRel_Tw (fun _ q => q) q3338 q3340 qs149 q232 q3341 dX11_workLook_42 rfl hM.1 hy_tw_under (by omega) (Nat.le_of_ble_eq_true rfl) rfl (Nat.le_of_ble_eq_true rfl) (fun x4 hr5 => ?_)
  refine x_iload_n (μ := mu_tw_workLook) (pc := 45) 1 dX11_workLook_45 rfl ?_
  refine x_iload_n (μ := mu_tw_workLook) (pc := 46) 2 dX11_workLook_46 rfl ?_
  refine x_callV_mv (μ := mu_tw_workLook) (pc := 47) (hW x4 v2 v3 s hM hr5 hv2 hv3) gRel_Tw gRel_Tw (fun _ q => q) q3311 q3313 qs143 q232 q3314 dX11_workLook_47 rfl hM.1 hy_tw_work (by omega) (Nat.le_of_ble_eq_true rfl) rfl (Nat.le_of_ble_eq_true rfl) (fun x6 k7 => ?_)
  have hM8 : TM x6 h := hM.tw k7
  refine x_aload_n (μ := mu_tw_workLook) (pc := 50) 0 dX11_workLook_50 rfl ?_
  refine x_fgrE (μ := mu_tw_workLook) (pc := 51) fX11_66 (Or.inr ⟨_, rfl⟩) q2702 (hM8.a66).1 dX11_workLook_51 hM8.1 ?_
  refine x_iload_n (μ := mu_tw_workLook) (pc := 54) 2 dX11_workLook_54 rfl ?_
  refine x_iald (μ := mu_tw_workLook) (pc := 55) dX11_workLook_55 (hM8.a66).2.1 (hM8.a66).2.2 (fun hr9 => ?_)
  refine x_iconst (μ := mu_tw_workLook) (pc := 56) dX11_workLook_56 ?_
  refine x_icmp_ne (μ := mu_tw_workLook) (pc := 57) (tgt := 61) dX11_workLook_57 rfl hr9 (by decide) ?_ ?_
  · refine x_aload_n (μ := mu_tw_workLook) (pc := 61) 0 dX11_workLook_61 rfl ?_
    refine x_iload (μ := mu_tw_workLook) (pc := 62) 4 dX11_workLook_62 rfl ?_
    refine x_iload_n (μ := mu_tw_workLook) (pc := 64) 1 dX11_workLook_64 rfl ?_
    refine x_callV_mi (μ := mu_tw_workLook) (pc := 65) (ok_tw_area (ω := ω) (l := l) (d := d - 1) (by omega) hM8 hv5 hv2) gRel_Tw gRel_Tw (fun _ q => q) q3253 q3255 qs131 q232 q3256 dX11_workLook_65 rfl hM8.1 hy_tw_area (by omega) (Nat.le_of_ble_eq_true rfl) rfl (Nat.le_of_ble_eq_true rfl) (fun x10 k12 hr11 => ?_)
    have hM13 : TM (x10.2) h := hM8.tw k12
    refine x_if_ne (μ := mu_tw_workLook) (pc := 68) (tgt := 78) dX11_workLook_68 rfl hr11 ?_ ?_
    · refine x_iload (μ := mu_tw_workLook) (pc := 78) 3 dX11_workLook_78 rfl ?_
      refine x_bipush (μ := mu_tw_workLook) (pc := 80) dX11_workLook_80 (by decide) ?_
      refine x_icmp_ne (μ := mu_tw_workLook) (pc := 82) (tgt := 144) dX11_workLook_82 rfl hv4 (by decide) ?_ ?_
      · refine x_iconst (μ := mu_tw_workLook) (pc := 144) dX11_workLook_144 ?_
        refine x_istore (μ := mu_tw_workLook) (pc := 145) (lv' := [(6, vI 0), (0, vR h), (2, vI v2), (3, vI v3), (4, vI v4), (5, vI v5)]) dX11_workLook_145 (by decide) rfl ?_
        refine x_iconst (μ := mu_tw_workLook) (pc := 147) dX11_workLook_147 ?_
        refine x_istore (μ := mu_tw_workLook) (pc := 148) (lv' := [(7, vI 0), (6, vI 0), (0, vR h), (2, vI v2), (3, vI v3), (4, vI v4), (5, vI v5)]) dX11_workLook_148 (by decide) rfl ?_
        refine x_iconst (μ := mu_tw_workLook) (pc := 150) dX11_workLook_150 ?_
        refine x_istore (μ := mu_tw_workLook) (pc := 151) (lv' := [(8, vI 0), (7, vI 0), (6, vI 0), (0, vR h), (2, vI v2), (3, vI v3), (4, vI v4), (5, vI v5)]) dX11_workLook_151 (by decide) rfl ?_
        refine x_loc (lv' := [(0, vR h), (3, vI v3), (4, vI v4), (6, vI 0), (7, vI 0), (8, vI 0)]) [3, 5, 6, 2, 1, 0] rfl ?_
        refine okl_tw_workLook_l153 hW hdp hdw hv3 hv4 (fun y22 y23 s24 hy22 hy23 hM25 => ?_) N 0 0 0 (x10.2) (by decide) (by decide) (by decide) hM13
        refine x_iload (μ := mu_tw_workLook) (pc := 201) 2 dX11_workLook_201 rfl ?_
        refine x_bipush (μ := mu_tw_workLook) (pc := 203) dX11_workLook_203 (by decide) ?_
        refine x_icmp_ne (μ := mu_tw_workLook) (pc := 205) (tgt := 219) dX11_workLook_205 rfl hv4 (by decide) ?_ ?_
        · refine x_iload (μ := mu_tw_workLook) (pc := 219) 4 dX11_workLook_219 rfl ?_
          refine x_if_ne (μ := mu_tw_workLook) (pc := 221) (tgt := 234) dX11_workLook_221 rfl hy23 ?_ ?_
          · refine x_aload_n (μ := mu_tw_workLook) (pc := 234) 0 dX11_workLook_234 rfl ?_
            refine x_iload_n (μ := mu_tw_workLook) (pc := 235) 1 dX11_workLook_235 rfl ?_
            refine x_iload (μ := mu_tw_workLook) (pc := 236) 4 dX11_workLook_236 rfl ?_
            refine x_i2l (μ := mu_tw_workLook) (pc := 238) dX11_workLook_238 hy23 ?_
            refine x_callV_mv (μ := mu_tw_workLook) (pc := 239) (ok_tw_number (ω := ω) (l := l) (d := d - 1) (by omega) hM25 hv3 (g32_64 hy23)) gRel_Tw gRel_Tw (fun _ q => q) q3315 q3317 qs144 q232 q3318 dX11_workLook_239 rfl hM25.1 hy_tw_number (by omega) (Nat.le_of_ble_eq_true rfl) rfl (Nat.le_of_ble_eq_true rfl) (fun x26 k27 => ?_)
            have hM28 : TM x26 h := hM25.tw k27
            exact x_vret (μ := mu_tw_workLook) (pc := 242) (a1 := x26) dX11_workLook_242 rfl rfl (gRel_Tw.1 _) trivial
          · refine x_aload_n (μ := mu_tw_workLook) (pc := 224) 0 dX11_workLook_224 rfl ?_
            refine x_iload_n (μ := mu_tw_workLook) (pc := 225) 1 dX11_workLook_225 rfl ?_
            refine x_bipush (μ := mu_tw_workLook) (pc := 226) dX11_workLook_226 (by decide) ?_
            refine x_callV_mv (μ := mu_tw_workLook) (pc := 228) (ok_tw_error (ω := ω) (l := l) (d := d - 1) (by omega) hM25 hv3 (by decide)) gRel_Tw gRel_Tw (fun _ q => q) q3294 q3296 qs139 q232 q3297 dX11_workLook_228 rfl hM25.1 hy_tw_error (by omega) (Nat.le_of_ble_eq_true rfl) rfl (Nat.le_of_ble_eq_true rfl) (fun x29 k30 => ?_)
            have hM31 : TM x29 h := hM25.tw k30
            refine x_goto (μ := mu_tw_workLook) (pc := 231) (tgt := 242) dX11_workLook_231 rfl ?_
            exact x_vret (μ := mu_tw_workLook) (pc := 242) (a1 := x29) dX11_workLook_242 rfl rfl (gRel_Tw.1 _) trivial
        · refine x_aload_n (μ := mu_tw_workLook) (pc := 208) 0 dX11_workLook_208 rfl ?_
          refine x_iload_n (μ := mu_tw_workLook) (pc := 209) 1 dX11_workLook_209 rfl ?_
          refine x_iload (μ := mu_tw_workLook) (pc := 210) 3 dX11_workLook_210 rfl ?_
          refine x_i2l (μ := mu_tw_workLook) (pc := 212) dX11_workLook_212 hy22 ?_
          refine x_callV_mv (μ := mu_tw_workLook) (pc := 213) (ok_tw_number (ω := ω) (l := l) (d := d - 1) (by omega) hM25 hv3 (g32_64 hy22)) gRel_Tw gRel_Tw (fun _ q => q) q3315 q3317 qs144 q232 q3318 dX11_workLook_213 rfl hM25.1 hy_tw_number (by omega) (Nat.le_of_ble_eq_true rfl) rfl (Nat.le_of_ble_eq_true rfl) (fun x32 k33 => ?_)
          have hM34 : TM x32 h := hM25.tw k33
          refine x_goto (μ := mu_tw_workLook) (pc := 216) (tgt := 242) dX11_workLook_216 rfl ?_
          exact x_vret (μ := mu_tw_workLook) (pc := 242) (a1 := x32) dX11_workLook_242 rfl rfl (gRel_Tw.1 _) trivial
      · refine x_aload_n (μ := mu_tw_workLook) (pc := 85) 0 dX11_workLook_85 rfl ?_
        refine x_iload_n (μ := mu_tw_workLook) (pc := 86) 2 dX11_workLook_86 rfl ?_
        refine x_callV_mi (μ := mu_tw_workLook) (pc := 87) (ok_tw_wantsNumber (ω := ω) (l := l) (d := d - 1) (by omega) hM13 hv3) gRel_Tw gRel_Tw (fun _ q => q) q3330 q3332 qs147 q232 q3333 dX11_workLook_87 rfl hM13.1 hy_tw_wantsNumber (by omega) (Nat.le_of_ble_eq_true rfl) rfl (Nat.le_of_ble_eq_true rfl) (fun x35 k37 hr36 => ?_)
        have hM38 : TM (x35.2) h := hM13.tw k37
        refine x_if_ne (μ := mu_tw_workLook) (pc := 90) (tgt := 94) dX11_workLook_90 rfl hr36 ?_ ?_
        · refine x_aload_n (μ := mu_tw_workLook) (pc := 94) 0 dX11_workLook_94 rfl ?_
          refine x_fgrE (μ := mu_tw_workLook) (pc := 95) fX11_67 (Or.inr ⟨_, rfl⟩) q2703 (hM38.a67).1 dX11_workLook_95 hM38.1 ?_
          refine x_iload_n (μ := mu_tw_workLook) (pc := 98) 2 dX11_workLook_98 rfl ?_
          refine x_lald (μ := mu_tw_workLook) (pc := 99) dX11_workLook_99 (hM38.a67).2.1 (hM38.a67).2.2 (fun hr39 => ?_)
          refine x_lstore (μ := mu_tw_workLook) (pc := 100) (lv' := [(6, vL (mL (x35.2) (h + 34) v3.toNat)), (0, vR h), (2, vI v2), (3, vI v3), (4, vI v4), (5, vI v5)]) dX11_workLook_100 (by decide) rfl ?_
          refine x_lload (μ := mu_tw_workLook) (pc := 102) 0 dX11_workLook_102 rfl ?_
          refine x_lconst (μ := mu_tw_workLook) (pc := 104) dX11_workLook_104 ?_
          refine x_lcmp (μ := mu_tw_workLook) (pc := 105) dX11_workLook_105 hr39 (by decide) ?_
          refine x_if_lt (μ := mu_tw_workLook) (pc := 106) (tgt := 120) dX11_workLook_106 rfl (gcmp_rng _ _) ?_ ?_
          · refine x_aload_n (μ := mu_tw_workLook) (pc := 120) 1 dX11_workLook_120 rfl ?_
            refine x_iload_n (μ := mu_tw_workLook) (pc := 121) 3 dX11_workLook_121 rfl ?_
            refine x_iconst (μ := mu_tw_workLook) (pc := 122) dX11_workLook_122 ?_
            refine x_callV_mv (μ := mu_tw_workLook) (pc := 123) (ok_tw_error (ω := ω) (l := l) (d := d - 1) (by omega) hM38 hv3 (by decide)) gRel_Tw gRel_Tw (fun _ q => q) q3294 q3296 qs139 q232 q3297 dX11_workLook_123 rfl hM38.1 hy_tw_error (by omega) (Nat.le_of_ble_eq_true rfl) rfl (Nat.le_of_ble_eq_true rfl) (fun x40 k41 => ?_)
            have hM42 : TM x40 h := hM38.tw k41
            refine x_goto (μ := mu_tw_workLook) (pc := 126) (tgt := 143) dX11_workLook_126 rfl ?_
            exact x_vret (μ := mu_tw_workLook) (pc := 143) (a1 := x40) dX11_workLook_143 rfl rfl (gRel_Tw.1 _) trivial
          · refine x_lload (μ := mu_tw_workLook) (pc := 109) 0 dX11_workLook_109 rfl ?_
            refine x_aload_n (μ := mu_tw_workLook) (pc := 111) 1 dX11_workLook_111 rfl ?_
            refine x_callV_pi (μ := mu_tw_workLook) (pc := 112) (ok_tw_areaSize (ω := ω) (l := l) (d := d - 1) (by omega) hM38 ) gRel_Tw gRel_Tw (fun _ q => q) q3263 q3265 qs132 q232 q3266 dX11_workLook_112 rfl hM38.1 hy_tw_areaSize (by omega) (Nat.le_of_ble_eq_true rfl) rfl (Nat.le_of_ble_eq_true rfl) (fun x43 hr44 => ?_)
            refine x_i2l (μ := mu_tw_workLook) (pc := 115) dX11_workLook_115 hr44 ?_
            refine x_lcmp (μ := mu_tw_workLook) (pc := 116) dX11_workLook_116 hr39 (g32_64 hr44) ?_
            refine x_if_le (μ := mu_tw_workLook) (pc := 117) (tgt := 129) dX11_workLook_117 rfl (gcmp_rng _ _) ?_ ?_
            · refine x_aload_n (μ := mu_tw_workLook) (pc := 129) 1 dX11_workLook_129 rfl ?_
              refine x_iload_n (μ := mu_tw_workLook) (pc := 130) 3 dX11_workLook_130 rfl ?_
              refine x_aload_n (μ := mu_tw_workLook) (pc := 131) 1 dX11_workLook_131 rfl ?_
              refine x_lload (μ := mu_tw_workLook) (pc := 132) 0 dX11_workLook_132 rfl ?_
              refine x_l2i (μ := mu_tw_workLook) (pc := 134) dX11_workLook_134 ?_
              refine x_iconst (μ := mu_tw_workLook) (pc := 135) dX11_workLook_135 ?_
              refine x_isub (μ := mu_tw_workLook) (pc := 136) dX11_workLook_136 ?_
              refine x_w1 ?_
              refine x_callV_pi (μ := mu_tw_workLook) (pc := 137) (ok_tw_areaCell (ω := ω) (l := l) (d := d - 1) (by omega) hM38 (w32_rng _)) gRel_Tw gRel_Tw (fun _ q => q) q3267 q3269 qs133 q232 q3270 dX11_workLook_137 rfl hM38.1 hy_tw_areaCell (by omega) (Nat.le_of_ble_eq_true rfl) rfl (Nat.le_of_ble_eq_true rfl) (fun x45 hr46 => ?_)
              refine x_callV_mv (μ := mu_tw_workLook) (pc := 140) (ok_tw_load (ω := ω) (l := l) (d := d - 1) (by omega) hM38 hv3 hr46) gRel_Tw gRel_Tw (fun _ q => q) q3326 q3328 qs146 q232 q3329 dX11_workLook_140 rfl hM38.1 hy_tw_load (by omega) (Nat.le_of_ble_eq_true rfl) rfl (Nat.le_of_ble_eq_true rfl) (fun x47 k48 => ?_)
              have hM49 : TM x47 h := hM38.tw k48
              exact x_vret (μ := mu_tw_workLook) (pc := 143) (a1 := x47) dX11_workLook_143 rfl rfl (gRel_Tw.1 _) trivial
            · refine x_aload_n (μ := mu_tw_workLook) (pc := 120) 1 dX11_workLook_120 rfl ?_
              refine x_iload_n (μ := mu_tw_workLook) (pc := 121) 3 dX11_workLook_121 rfl ?_
              refine x_iconst (μ := mu_tw_workLook) (pc := 122) dX11_workLook_122 ?_
              refine x_callV_mv (μ := mu_tw_workLook) (pc := 123) (ok_tw_error (ω := ω) (l := l) (d := d - 1) (by omega) hM38 hv3 (by decide)) gRel_Tw gRel_Tw (fun _ q => q) q3294 q3296 qs139 q232 q3297 dX11_workLook_123 rfl hM38.1 hy_tw_error (by omega) (Nat.le_of_ble_eq_true rfl) rfl (Nat.le_of_ble_eq_true rfl) (fun x50 k51 => ?_)
              have hM52 : TM x50 h := hM38.tw k51
              refine x_goto (μ := mu_tw_workLook) (pc := 126) (tgt := 143) dX11_workLook_126 rfl ?_
              exact x_vret (μ := mu_tw_workLook) (pc := 143) (a1 := x50) dX11_workLook_143 rfl rfl (gRel_Tw.1 _) trivial
        · exact x_vret (μ := mu_tw_workLook) (pc := 93) (a1 := x35.2) dX11_workLook_93 rfl rfl (gRel_Tw.1 _) trivial
    · refine x_aload_n (μ := mu_tw_workLook) (pc := 71) 0 dX11_workLook_71 rfl ?_
      refine x_iload_n (μ := mu_tw_workLook) (pc := 72) 2 dX11_workLook_72 rfl ?_
      refine x_iconst (μ := mu_tw_workLook) (pc := 73) dX11_workLook_73 ?_
      refine x_callV_mv (μ := mu_tw_workLook) (pc := 74) (ok_tw_error (ω := ω) (l := l) (d := d - 1) (by omega) hM13 hv3 (by decide)) gRel_Tw gRel_Tw (fun _ q => q) q3294 q3296 qs139 q232 q3297 dX11_workLook_74 rfl hM13.1 hy_tw_error (by omega) (Nat.le_of_ble_eq_true rfl) rfl (Nat.le_of_ble_eq_true rfl) (fun x53 k54 => ?_)
      have hM55 : TM x53 h := hM13.tw k54
      exact x_vret (μ := mu_tw_workLook) (pc := 77) (a1 := x53) dX11_workLook_77 rfl rfl (gRel_Tw.1 _) trivial
  · exact x_vret (μ := mu_tw_workLook) (pc := 60) (a1 := x6) dX11_workLook_60 rfl rfl (gRel_Tw.1 _) trivial
def tw_workLook_j22 (N : Nat) (W : Int → Int → Int → gMem → Option gMem) (h : Nat) (v1 : Int) (v2 : Int) (v3 : Int) (v4 : Int) (t0 : Int) (t1 : Int) (s : gMem) : Option gMem := (tw_under N h t1 t0 s).bind (fun x2 => if v4 ≠ 46 then tw_workLook_j42 N W h v2 v3 v4 x2 1 v1 s else tw_workLook_j42 N W h v2 v3 v4 x2 0 v1 s)
set_option maxRecDepth 100000 in
theorem okj_tw_workLook_j22 {ω : gW} {l : Launch} {d : Nat} {N : Nat} {W : Int → Int → Int → gMem → Option gMem} {dW : Nat} {h : Nat} {σ0 : gMem} {s : gMem} {v1 : Int} {v2 : Int} {v3 : Int} {v4 : Int} {t0 : Int} {t1 : Int} (hW : ∀ (a1 : Int) (a2 : Int) (a3 : Int) (s : gMem), TM s h → g32 a1 → g32 a2 → g32 a3 → gK (fun p : gMem => (.inl none, p)) gTw ω l dW mu_tw_work [vR h, vI a1, vI a2, vI a3] s (W a1 a2 a3 s)) (hdp : 8 ≤ d) (hdw : dW + 1 ≤ d) (hM : TM s h) (hv1 : g32 v1) (hv2 : g32 v2) (hv3 : g32 v3) (hv4 : g32 v4) (ht0 : g32 t0) (ht1 : g32 t1) : GG (fun p : gMem => (.inl none, p)) gTw ω l d mu_tw_workLook σ0 22 [(0, vR h), (1, vI v1), (2, vI v2), (3, vI v3), (4, vI v4)] [vI t0, vI t1, vR h] s (tw_workLook_j22 N W h v1 v2 v3 v4 t0 t1 s) := by
  unfold tw_workLook_j22
  refine x_callV_pi (μ := mu_tw_workLook) (pc := 22) (ok_tw_under (ω := ω) (l := l) (d := d - 1) (by omega) hM ht1 ht0) gRel_Tw gRel_Tw (fun _ q => q) q3338 q3340 qs149 q232 q3341 dX11_workLook_22 rfl hM.1 hy_tw_under (by omega) (Nat.le_of_ble_eq_true rfl) rfl (Nat.le_of_ble_eq_true rfl) (fun x2 hr3 => ?_)
  refine x_istore (μ := mu_tw_workLook) (pc := 25) (lv' := [(5, vI x2), (0, vR h), (1, vI v1), (2, vI v2), (3, vI v3), (4, vI v4)]) dX11_workLook_25 (by decide) rfl ?_
  refine x_aload_n (μ := mu_tw_workLook) (pc := 27) 1 dX11_workLook_27 rfl ?_
  refine x_aload_n (μ := mu_tw_workLook) (pc := 28) 1 dX11_workLook_28 rfl ?_
  refine x_iload_n (μ := mu_tw_workLook) (pc := 29) 2 dX11_workLook_29 rfl ?_
  refine x_iload (μ := mu_tw_workLook) (pc := 30) 5 dX11_workLook_30 rfl ?_
  refine x_bipush (μ := mu_tw_workLook) (pc := 32) dX11_workLook_32 (by decide) ?_
  refine x_icmp_ne (μ := mu_tw_workLook) (pc := 34) (tgt := 41) dX11_workLook_34 rfl hv4 (by decide) ?_ ?_
  · refine x_iconst (μ := mu_tw_workLook) (pc := 41) dX11_workLook_41 ?_
    refine x_loc (lv' := [(0, vR h), (2, vI v2), (3, vI v3), (4, vI v4), (5, vI x2)]) [1, 3, 4, 5, 0] rfl ?_
    exact okj_tw_workLook_j42 hW hdp hdw hM hv2 hv3 hv4 hr3 (by decide) hv1
  · refine x_iconst (μ := mu_tw_workLook) (pc := 37) dX11_workLook_37 ?_
    refine x_goto (μ := mu_tw_workLook) (pc := 38) (tgt := 42) dX11_workLook_38 rfl ?_
    refine x_loc (lv' := [(0, vR h), (2, vI v2), (3, vI v3), (4, vI v4), (5, vI x2)]) [1, 3, 4, 5, 0] rfl ?_
    exact okj_tw_workLook_j42 hW hdp hdw hM hv2 hv3 hv4 hr3 (by decide) hv1
def tw_workLook (N : Nat) (W : Int → Int → Int → gMem → Option gMem) (h : Nat) (v1 : Int) (v2 : Int) (v3 : Int) (σ : gMem) : Option gMem := if 0 ≤ v1 ∧ v1 < ((60420 : Nat) : Int) then if mI σ (h + 14) v1.toNat ≠ 46 then tw_workLook_j22 N W h v1 v2 v3 (mI σ (h + 14) v1.toNat) 0 v1 σ else tw_workLook_j22 N W h v1 v2 v3 (mI σ (h + 14) v1.toNat) 1 v1 σ else none
set_option maxRecDepth 100000 in
theorem ok_tw_workLook {ω : gW} {l : Launch} {d : Nat} {N : Nat} {W : Int → Int → Int → gMem → Option gMem} {dW : Nat} {h : Nat} {σ : gMem} {v1 : Int} {v2 : Int} {v3 : Int} (hW : ∀ (a1 : Int) (a2 : Int) (a3 : Int) (s : gMem), TM s h → g32 a1 → g32 a2 → g32 a3 → gK (fun p : gMem => (.inl none, p)) gTw ω l dW mu_tw_work [vR h, vI a1, vI a2, vI a3] s (W a1 a2 a3 s)) (hdp : 8 ≤ d) (hdw : dW + 1 ≤ d) (hM : TM σ h) (hv1 : g32 v1) (hv2 : g32 v2) (hv3 : g32 v3) : gK (fun p : gMem => (.inl none, p)) gTw ω l d mu_tw_workLook [vR h, vI v1, vI v2, vI v3] σ (tw_workLook N W h v1 v2 v3 σ) := by
  refine gK.of hp_X11 (Nat.le_of_ble_eq_true rfl) ?_
  unfold tw_workLook
  refine x_aload_n (μ := mu_tw_workLook) (pc := 0) 0 dX11_workLook_0 rfl ?_
  refine x_fgrE (μ := mu_tw_workLook) (pc := 1) fX11_26 (Or.inr ⟨_, rfl⟩) q2662 (hM.a26).1 dX11_workLook_1 hM.1 ?_
  refine x_iload_n (μ := mu_tw_workLook) (pc := 4) 1 dX11_workLook_4 rfl ?_
  refine x_iald (μ := mu_tw_workLook) (pc := 5) dX11_workLook_5 (hM.a26).2.1 (hM.a26).2.2 (fun hr1 => ?_)
  refine x_istore (μ := mu_tw_workLook) (pc := 6) (lv' := [(4, vI (mI σ (h + 14) v1.toNat)), (0, vR h), (1, vI v1), (2, vI v2), (3, vI v3)]) dX11_workLook_6 (by decide) rfl ?_
  refine x_aload_n (μ := mu_tw_workLook) (pc := 8) 1 dX11_workLook_8 rfl ?_
  refine x_iload_n (μ := mu_tw_workLook) (pc := 9) 2 dX11_workLook_9 rfl ?_
  refine x_iload (μ := mu_tw_workLook) (pc := 10) 0 dX11_workLook_10 rfl ?_
  refine x_bipush (μ := mu_tw_workLook) (pc := 12) dX11_workLook_12 (by decide) ?_
  refine x_icmp_ne (μ := mu_tw_workLook) (pc := 14) (tgt := 21) dX11_workLook_14 rfl hr1 (by decide) ?_ ?_
  · refine x_iconst (μ := mu_tw_workLook) (pc := 21) dX11_workLook_21 ?_
    refine x_loc (lv' := [(0, vR h), (1, vI v1), (2, vI v2), (3, vI v3), (4, vI (mI σ (h + 14) v1.toNat))]) [1, 2, 3, 4, 0] rfl ?_
    exact okj_tw_workLook_j22 hW hdp hdw hM hv1 hv2 hv3 hr1 (by decide) hv1
  · refine x_iconst (μ := mu_tw_workLook) (pc := 17) dX11_workLook_17 ?_
    refine x_goto (μ := mu_tw_workLook) (pc := 18) (tgt := 22) dX11_workLook_18 rfl ?_
    refine x_loc (lv' := [(0, vR h), (1, vI v1), (2, vI v2), (3, vI v3), (4, vI (mI σ (h + 14) v1.toNat))]) [1, 2, 3, 4, 0] rfl ?_
    exact okj_tw_workLook_j22 hW hdp hdw hM hv1 hv2 hv3 hr1 (by decide) hv1
def tw_putPart_o_l285_j309 (N : Nat) (W : Int → Int → gMem → Option gMem) (h : Nat) (v1 : Int) (v2 : Int) (v5 : Int) (t0 : Int) (Kh : Int → gMem → Option gMem) (K : gMem → Option gMem) (s : gMem) : Option gMem := (tw_put h t0 s).bind (fun x12 => (tw_under N h v1 v5 x12).bind (fun x15 => (W x15 v2 x12).bind (fun x17 => Kh (w32 (v5 + 1)) x17)))
set_option maxRecDepth 100000 in
theorem okj_tw_putPart_o_l285_j309 {ω : gW} {l : Launch} {d : Nat} {N : Nat} {W : Int → Int → gMem → Option gMem} {dW : Nat} {h : Nat} {σ0 : gMem} {s : gMem} {v1 : Int} {v2 : Int} {v5 : Int} {t0 : Int} {Kh : Int → gMem → Option gMem} {K : gMem → Option gMem} (hW : ∀ (a1 : Int) (a2 : Int) (s : gMem), TM s h → g32 a1 → g32 a2 → gK (fun p : gMem => (.inl none, p)) gTw ω l dW mu_tw_putPart [vR h, vI a1, vI a2] s (W a1 a2 s)) (hdp : 7 ≤ d) (hdw : dW + 2 ≤ d) (hM : TM s h) (hv1 : g32 v1) (hv2 : g32 v2) (hv5 : g32 v5) (ht0 : g32 t0) (hKh : ∀ (v5 : Int) (s : gMem) , g32 v5 → TM s h → GG (fun p : gMem => (.inl none, p)) gTw ω l d mu_tw_putPart σ0 285 [(0, vR h), (1, vI v1), (2, vI v2), (5, vI v5)] [] s (Kh v5 s)) (hK : ∀ (s : gMem) , TM s h → GG (fun p : gMem => (.inl none, p)) gTw ω l d mu_tw_putPart σ0 330 [(0, vR h)] [] s (K s)) : GG (fun p : gMem => (.inl none, p)) gTw ω l d mu_tw_putPart σ0 309 [(0, vR h), (1, vI v1), (2, vI v2), (5, vI v5)] [vI t0, vR h] s (tw_putPart_o_l285_j309 N W h v1 v2 v5 t0 Kh K s) := by
  unfold tw_putPart_o_l285_j309
  refine x_callV_mv (μ := mu_tw_putPart) (pc := 309) (ok_tw_put (ω := ω) (l := l) (d := d - 1) (by omega) hM ht0) gRel_Tw gRel_Tw (fun _ q => q) q3461 q3463 qs175 q232 q3464 dX11_putPart_309 rfl hM.1 hy_tw_put (by omega) (Nat.le_of_ble_eq_true rfl) rfl (Nat.le_of_ble_eq_true rfl) (fun x12 k13 => ?_)
  have hM14 : TM x12 h := hM.tw k13
  refine x_aload_n (μ := mu_tw_putPart) (pc := 312) 0 dX11_putPart_312 rfl ?_
  refine x_aload_n (μ := mu_tw_putPart) (pc := 313) 0 dX11_putPart_313 rfl ?_
  refine x_iload_n (μ := mu_tw_putPart) (pc := 314) 1 dX11_putPart_314 rfl ?_
  refine x_iload (μ := mu_tw_putPart) (pc := 315) 3 dX11_putPart_315 rfl ?_
  refine x_callV_pi (μ := mu_tw_putPart) (pc := 317) (ok_tw_under (ω := ω) (l := l) (d := d - 1) (by omega) hM14 hv1 hv5) gRel_Tw gRel_Tw (fun _ q => q) q3338 q3340 qs149 q232 q3341 dX11_putPart_317 rfl hM14.1 hy_tw_under (by omega) (Nat.le_of_ble_eq_true rfl) rfl (Nat.le_of_ble_eq_true rfl) (fun x15 hr16 => ?_)
  refine x_iload_n (μ := mu_tw_putPart) (pc := 320) 2 dX11_putPart_320 rfl ?_
  refine x_callV_mv (μ := mu_tw_putPart) (pc := 321) (hW x15 v2 x12 hM14 hr16 hv2) gRel_Tw gRel_Tw (fun _ q => q) q3465 q3467 qs176 q232 q3468 dX11_putPart_321 rfl hM14.1 hy_tw_putPart (by omega) (Nat.le_of_ble_eq_true rfl) rfl (Nat.le_of_ble_eq_true rfl) (fun x17 k18 => ?_)
  have hM19 : TM x17 h := hM14.tw k18
  refine x_iincw (μ := mu_tw_putPart) (pc := 324) (lv' := [(5, vI (w32 (v5 + 1))), (0, vR h), (1, vI v1), (2, vI v2)]) 3 dX11_putPart_324 rfl (by decide) rfl ?_
  refine x_goto (μ := mu_tw_putPart) (pc := 327) (tgt := 285) dX11_putPart_327 rfl ?_
  refine x_loc (lv' := [(0, vR h), (1, vI v1), (2, vI v2), (5, vI (w32 (v5 + 1)))]) [1, 2, 3, 0] rfl ?_
  exact hKh (w32 (v5 + 1)) x17 (w32_rng _) hM19
def tw_putPart_o_l285 (N : Nat) (W : Int → Int → gMem → Option gMem) (h : Nat) (v1 : Int) (v2 : Int) (K : gMem → Option gMem) : Nat → Int → gMem → Option gMem
  | 0, _, _ => none
  | n + 1, v5, s => if 0 ≤ v1 ∧ v1 < ((60420 : Nat) : Int) then if mI s (h + 15) v1.toNat ≤ v5 then K s else if v5 ≠ 0 then tw_putPart_o_l285_j309 N W h v1 v2 v5 44 (tw_putPart_o_l285 N W h v1 v2 K n) K s else tw_putPart_o_l285_j309 N W h v1 v2 v5 40 (tw_putPart_o_l285 N W h v1 v2 K n) K s else none
set_option maxRecDepth 100000 in
theorem okl_tw_putPart_o_l285 {ω : gW} {l : Launch} {d : Nat} {N : Nat} {W : Int → Int → gMem → Option gMem} {dW : Nat} {h : Nat} {σ0 : gMem} {v1 : Int} {v2 : Int} {K : gMem → Option gMem} (hW : ∀ (a1 : Int) (a2 : Int) (s : gMem), TM s h → g32 a1 → g32 a2 → gK (fun p : gMem => (.inl none, p)) gTw ω l dW mu_tw_putPart [vR h, vI a1, vI a2] s (W a1 a2 s)) (hdp : 7 ≤ d) (hdw : dW + 2 ≤ d) (hv1 : g32 v1) (hv2 : g32 v2) (hK : ∀ (s : gMem) , TM s h → GG (fun p : gMem => (.inl none, p)) gTw ω l d mu_tw_putPart σ0 330 [(0, vR h)] [] s (K s)) : ∀ (n : Nat) (v5 : Int) (s : gMem) , g32 v5 → TM s h → GG (fun p : gMem => (.inl none, p)) gTw ω l d mu_tw_putPart σ0 285 [(0, vR h), (1, vI v1), (2, vI v2), (5, vI v5)] [] s (tw_putPart_o_l285 N W h v1 v2 K n v5 s) := by
  intro n
  induction n with
  | zero => intros; exact x_none
  | succ n ih =>
    intro v5 s hv5 hM
    unfold tw_putPart_o_l285
    refine x_iload (μ := mu_tw_putPart) (pc := 285) 3 dX11_putPart_285 rfl ?_
    refine x_aload_n (μ := mu_tw_putPart) (pc := 287) 0 dX11_putPart_287 rfl ?_
    refine x_fgrE (μ := mu_tw_putPart) (pc := 288) fX11_27 (Or.inr ⟨_, rfl⟩) q2663 (hM.a27).1 dX11_putPart_288 hM.1 ?_
    refine x_iload_n (μ := mu_tw_putPart) (pc := 291) 1 dX11_putPart_291 rfl ?_
    refine x_iald (μ := mu_tw_putPart) (pc := 292) dX11_putPart_292 (hM.a27).2.1 (hM.a27).2.2 (fun hr11 => ?_)
    refine x_icmp_ge (μ := mu_tw_putPart) (pc := 293) (tgt := 330) dX11_putPart_293 rfl hv5 hr11 ?_ ?_
    · refine x_loc (lv' := [(0, vR h)]) [0] rfl ?_
      exact hK s hM
    · refine x_aload_n (μ := mu_tw_putPart) (pc := 296) 0 dX11_putPart_296 rfl ?_
      refine x_iload (μ := mu_tw_putPart) (pc := 297) 3 dX11_putPart_297 rfl ?_
      refine x_if_ne (μ := mu_tw_putPart) (pc := 299) (tgt := 307) dX11_putPart_299 rfl hv5 ?_ ?_
      · refine x_bipush (μ := mu_tw_putPart) (pc := 307) dX11_putPart_307 (by decide) ?_
        exact okj_tw_putPart_o_l285_j309 hW hdp hdw hM hv1 hv2 hv5 (by decide) ih hK
      · refine x_bipush (μ := mu_tw_putPart) (pc := 302) dX11_putPart_302 (by decide) ?_
        refine x_goto (μ := mu_tw_putPart) (pc := 304) (tgt := 309) dX11_putPart_304 rfl ?_
        exact okj_tw_putPart_o_l285_j309 hW hdp hdw hM hv1 hv2 hv5 (by decide) ih hK
def tw_putPart_o_j231 (N : Nat) (W : Int → Int → gMem → Option gMem) (h : Nat) (v1 : Int) (v2 : Int) (v3 : Int) (v4 : Int) (t0 : Int) (t1 : Int) (t2 : Int) (s : gMem) : Option gMem := (tw_putSide N W h t2 t1 t0 s).bind (fun x30 => (tw_signOf v3 x30).bind (fun x33 => (tw_say N h x33 x30).bind (fun x34 => if 0 ≤ (v1 - 1) ∧ (v1 - 1) < ((60420 : Nat) : Int) then (tw_level (mI x34 (h + 14) (v1 - 1).toNat) x34).bind (fun x38 => if v4 < x38 then (tw_putSide N W h (w32 (v1 - 1)) v2 0 x34).bind (fun x40 => some x40) else (tw_putSide N W h (w32 (v1 - 1)) v2 1 x34).bind (fun x43 => some x43)) else none)))
set_option maxRecDepth 100000 in
theorem okj_tw_putPart_o_j231 {ω : gW} {l : Launch} {d : Nat} {N : Nat} {W : Int → Int → gMem → Option gMem} {dW : Nat} {h : Nat} {σ0 : gMem} {s : gMem} {v1 : Int} {v2 : Int} {v3 : Int} {v4 : Int} {t0 : Int} {t1 : Int} {t2 : Int} (hW : ∀ (a1 : Int) (a2 : Int) (s : gMem), TM s h → g32 a1 → g32 a2 → gK (fun p : gMem => (.inl none, p)) gTw ω l dW mu_tw_putPart [vR h, vI a1, vI a2] s (W a1 a2 s)) (hdp : 7 ≤ d) (hdw : dW + 2 ≤ d) (hM : TM s h) (hv1 : g32 v1) (hv2 : g32 v2) (hv3 : g32 v3) (hv4 : g32 v4) (ht0 : g32 t0) (ht1 : g32 t1) (ht2 : g32 t2) : GG (fun p : gMem => (.inl none, p)) gTw ω l d mu_tw_putPart σ0 231 [(0, vR h), (1, vI v1), (2, vI v2), (3, vI v3), (4, vI v4)] [vI t0, vI t1, vI t2, vR h] s (tw_putPart_o_j231 N W h v1 v2 v3 v4 t0 t1 t2 s) := by
  unfold tw_putPart_o_j231
  refine x_callV_mv (μ := mu_tw_putPart) (pc := 231) (ok_tw_putSide (ω := ω) (l := l) (d := d - 1) hW (by omega) (by omega) hM ht2 ht1 ht0) gRel_Tw gRel_Tw (fun _ q => q) q3492 q3494 qs182 q232 q3495 dX11_putPart_231 rfl hM.1 hy_tw_putSide (by omega) (Nat.le_of_ble_eq_true rfl) rfl (Nat.le_of_ble_eq_true rfl) (fun x30 k31 => ?_)
  have hM32 : TM x30 h := hM.tw k31
  refine x_aload_n (μ := mu_tw_putPart) (pc := 234) 0 dX11_putPart_234 rfl ?_
  refine x_iload_n (μ := mu_tw_putPart) (pc := 235) 3 dX11_putPart_235 rfl ?_
  refine x_callS_pr (μ := mu_tw_putPart) (pc := 236) (ok_tw_signOf (ω := ω) (l := l) (d := d - 1) (by omega) hv3) gRel_Tw gRel_Tw (fun _ q => q) q3496 q3497 q232 q3498 dX11_putPart_236 hy_tw_signOf (by omega) (Nat.le_of_ble_eq_true rfl) rfl (Nat.le_of_ble_eq_true rfl) (fun x33 => ?_)
  refine x_callV_mv (μ := mu_tw_putPart) (pc := 239) (ok_tw_say (ω := ω) (l := l) (d := d - 1) (by omega) hM32 ) gRel_Tw gRel_Tw (fun _ q => q) q3480 q3482 qs179 q232 q3483 dX11_putPart_239 rfl hM32.1 hy_tw_say (by omega) (Nat.le_of_ble_eq_true rfl) rfl (Nat.le_of_ble_eq_true rfl) (fun x34 k35 => ?_)
  have hM36 : TM x34 h := hM32.tw k35
  refine x_aload_n (μ := mu_tw_putPart) (pc := 242) 0 dX11_putPart_242 rfl ?_
  refine x_iload_n (μ := mu_tw_putPart) (pc := 243) 1 dX11_putPart_243 rfl ?_
  refine x_iconst (μ := mu_tw_putPart) (pc := 244) dX11_putPart_244 ?_
  refine x_isub (μ := mu_tw_putPart) (pc := 245) dX11_putPart_245 ?_
  refine x_iload_n (μ := mu_tw_putPart) (pc := 246) 2 dX11_putPart_246 rfl ?_
  refine x_aload_n (μ := mu_tw_putPart) (pc := 247) 0 dX11_putPart_247 rfl ?_
  refine x_fgrE (μ := mu_tw_putPart) (pc := 248) fX11_26 (Or.inr ⟨_, rfl⟩) q2662 (hM36.a26).1 dX11_putPart_248 hM36.1 ?_
  refine x_iload_n (μ := mu_tw_putPart) (pc := 251) 1 dX11_putPart_251 rfl ?_
  refine x_iconst (μ := mu_tw_putPart) (pc := 252) dX11_putPart_252 ?_
  refine x_isub (μ := mu_tw_putPart) (pc := 253) dX11_putPart_253 ?_
  refine x_iald (μ := mu_tw_putPart) (pc := 254) dX11_putPart_254 (hM36.a26).2.1 (hM36.a26).2.2 (fun hr37 => ?_)
  refine x_callS_pi (μ := mu_tw_putPart) (pc := 255) (ok_tw_level (ω := ω) (l := l) (d := d - 1) (by omega) hr37) gRel_Tw gRel_Tw (fun _ q => q) q3469 q3470 q232 q3471 dX11_putPart_255 hy_tw_level (by omega) (Nat.le_of_ble_eq_true rfl) rfl (Nat.le_of_ble_eq_true rfl) (fun x38 hr39 => ?_)
  refine x_iload (μ := mu_tw_putPart) (pc := 258) 4 dX11_putPart_258 rfl ?_
  refine x_icmp_gt (μ := mu_tw_putPart) (pc := 260) (tgt := 267) dX11_putPart_260 rfl hr39 hv4 ?_ ?_
  · refine x_iconst (μ := mu_tw_putPart) (pc := 267) dX11_putPart_267 ?_
    refine x_stk (st2 := [vI 0, vI v2, vI (w32 (v1 - 1)), vR h]) (by simp only [List.map_cons, gval_w32, gval_w64]) ?_
    refine x_callV_mv (μ := mu_tw_putPart) (pc := 268) (ok_tw_putSide (ω := ω) (l := l) (d := d - 1) hW (by omega) (by omega) hM36 (w32_rng _) hv2 (by decide)) gRel_Tw gRel_Tw (fun _ q => q) q3492 q3494 qs182 q232 q3495 dX11_putPart_268 rfl hM36.1 hy_tw_putSide (by omega) (Nat.le_of_ble_eq_true rfl) rfl (Nat.le_of_ble_eq_true rfl) (fun x40 k41 => ?_)
    have hM42 : TM x40 h := hM36.tw k41
    refine x_goto (μ := mu_tw_putPart) (pc := 271) (tgt := 336) dX11_putPart_271 rfl ?_
    exact x_vret (μ := mu_tw_putPart) (pc := 336) (a1 := x40) dX11_putPart_336 rfl rfl (gRel_Tw.1 _) trivial
  · refine x_iconst (μ := mu_tw_putPart) (pc := 263) dX11_putPart_263 ?_
    refine x_goto (μ := mu_tw_putPart) (pc := 264) (tgt := 268) dX11_putPart_264 rfl ?_
    refine x_stk (st2 := [vI 1, vI v2, vI (w32 (v1 - 1)), vR h]) (by simp only [List.map_cons, gval_w32, gval_w64]) ?_
    refine x_callV_mv (μ := mu_tw_putPart) (pc := 268) (ok_tw_putSide (ω := ω) (l := l) (d := d - 1) hW (by omega) (by omega) hM36 (w32_rng _) hv2 (by decide)) gRel_Tw gRel_Tw (fun _ q => q) q3492 q3494 qs182 q232 q3495 dX11_putPart_268 rfl hM36.1 hy_tw_putSide (by omega) (Nat.le_of_ble_eq_true rfl) rfl (Nat.le_of_ble_eq_true rfl) (fun x43 k44 => ?_)
    have hM45 : TM x43 h := hM36.tw k44
    refine x_goto (μ := mu_tw_putPart) (pc := 271) (tgt := 336) dX11_putPart_271 rfl ?_
    exact x_vret (μ := mu_tw_putPart) (pc := 336) (a1 := x43) dX11_putPart_336 rfl rfl (gRel_Tw.1 _) trivial
def tw_putPart_o_j226 (N : Nat) (W : Int → Int → gMem → Option gMem) (h : Nat) (v1 : Int) (v2 : Int) (v3 : Int) (v4 : Int) (t0 : Int) (t1 : Int) (s : gMem) : Option gMem := tw_putPart_o_j231 N W h v1 v2 v3 v4 1 t0 t1 s
set_option maxRecDepth 100000 in
theorem okj_tw_putPart_o_j226 {ω : gW} {l : Launch} {d : Nat} {N : Nat} {W : Int → Int → gMem → Option gMem} {dW : Nat} {h : Nat} {σ0 : gMem} {s : gMem} {v1 : Int} {v2 : Int} {v3 : Int} {v4 : Int} {t0 : Int} {t1 : Int} (hW : ∀ (a1 : Int) (a2 : Int) (s : gMem), TM s h → g32 a1 → g32 a2 → gK (fun p : gMem => (.inl none, p)) gTw ω l dW mu_tw_putPart [vR h, vI a1, vI a2] s (W a1 a2 s)) (hdp : 7 ≤ d) (hdw : dW + 2 ≤ d) (hM : TM s h) (hv1 : g32 v1) (hv2 : g32 v2) (hv3 : g32 v3) (hv4 : g32 v4) (ht0 : g32 t0) (ht1 : g32 t1) : GG (fun p : gMem => (.inl none, p)) gTw ω l d mu_tw_putPart σ0 226 [(0, vR h), (1, vI v1), (2, vI v2), (3, vI v3), (4, vI v4)] [vI t0, vI t1, vR h] s (tw_putPart_o_j226 N W h v1 v2 v3 v4 t0 t1 s) := by
  unfold tw_putPart_o_j226
  refine x_iconst (μ := mu_tw_putPart) (pc := 226) dX11_putPart_226 ?_
  refine x_goto (μ := mu_tw_putPart) (pc := 227) (tgt := 231) dX11_putPart_227 rfl ?_
  exact okj_tw_putPart_o_j231 hW hdp hdw hM hv1 hv2 hv3 hv4 (by decide) ht0 ht1
def tw_putPart_o_j230 (N : Nat) (W : Int → Int → gMem → Option gMem) (h : Nat) (v1 : Int) (v2 : Int) (v3 : Int) (v4 : Int) (t0 : Int) (t1 : Int) (s : gMem) : Option gMem := tw_putPart_o_j231 N W h v1 v2 v3 v4 0 t0 t1 s
set_option maxRecDepth 100000 in
theorem okj_tw_putPart_o_j230 {ω : gW} {l : Launch} {d : Nat} {N : Nat} {W : Int → Int → gMem → Option gMem} {dW : Nat} {h : Nat} {σ0 : gMem} {s : gMem} {v1 : Int} {v2 : Int} {v3 : Int} {v4 : Int} {t0 : Int} {t1 : Int} (hW : ∀ (a1 : Int) (a2 : Int) (s : gMem), TM s h → g32 a1 → g32 a2 → gK (fun p : gMem => (.inl none, p)) gTw ω l dW mu_tw_putPart [vR h, vI a1, vI a2] s (W a1 a2 s)) (hdp : 7 ≤ d) (hdw : dW + 2 ≤ d) (hM : TM s h) (hv1 : g32 v1) (hv2 : g32 v2) (hv3 : g32 v3) (hv4 : g32 v4) (ht0 : g32 t0) (ht1 : g32 t1) : GG (fun p : gMem => (.inl none, p)) gTw ω l d mu_tw_putPart σ0 230 [(0, vR h), (1, vI v1), (2, vI v2), (3, vI v3), (4, vI v4)] [vI t0, vI t1, vR h] s (tw_putPart_o_j230 N W h v1 v2 v3 v4 t0 t1 s) := by
  unfold tw_putPart_o_j230
  refine x_iconst (μ := mu_tw_putPart) (pc := 230) dX11_putPart_230 ?_
  exact okj_tw_putPart_o_j231 hW hdp hdw hM hv1 hv2 hv3 hv4 (by decide) ht0 ht1
def tw_putPart_o (N : Nat) (W : Int → Int → gMem → Option gMem) (h : Nat) (v1 : Int) (v2 : Int) (σ : gMem) : Option gMem := if 0 ≤ v1 ∧ v1 < ((60420 : Nat) : Int) then (tw_level (mI σ (h + 14) v1.toNat) σ).bind (fun x2 => if mI σ (h + 14) v1.toNat ≠ 1 then if mI σ (h + 14) v1.toNat ≠ 2 then if mI σ (h + 14) v1.toNat ≠ 3 then if mI σ (h + 14) v1.toNat ≠ 4 then if mI σ (h + 14) v1.toNat = 5 then (tw_putPlace N h v1 v2 σ).bind (fun x4 => some x4) else if mI σ (h + 14) v1.toNat ≠ 6 then if mI σ (h + 14) v1.toNat ≠ 7 then if 30 ≤ mI σ (h + 14) v1.toNat then (tw_nameOf (mI σ (h + 14) v1.toNat) σ).bind (fun x7 => (tw_say N h x7 σ).bind (fun x8 => tw_putPart_o_l285 N W h v1 v2 (fun s20 => (tw_put h 41 s20).bind (fun x22 => some x22)) N 0 x8)) else (tw_under N h v1 0 σ).bind (fun x25 => if 0 ≤ x25 ∧ x25 < ((60420 : Nat) : Int) then (tw_level (mI σ (h + 14) x25.toNat) σ).bind (fun x28 => if x28 < x2 then tw_putPart_o_j226 N W h v1 v2 (mI σ (h + 14) v1.toNat) x2 v2 x25 σ else if x2 ≠ 1 then tw_putPart_o_j230 N W h v1 v2 (mI σ (h + 14) v1.toNat) x2 v2 x25 σ else if x28 ≠ 1 then tw_putPart_o_j230 N W h v1 v2 (mI σ (h + 14) v1.toNat) x2 v2 x25 σ else tw_putPart_o_j226 N W h v1 v2 (mI σ (h + 14) v1.toNat) x2 v2 x25 σ) else none) else (tw_put h 45 σ).bind (fun x46 => if 0 ≤ (v1 - 1) ∧ (v1 - 1) < ((60420 : Nat) : Int) then (tw_level (mI x46 (h + 14) (v1 - 1).toNat) x46).bind (fun x50 => if 5 ≤ x50 then (tw_putSide N W h (w32 (v1 - 1)) v2 0 x46).bind (fun x52 => some x52) else (tw_putSide N W h (w32 (v1 - 1)) v2 1 x46).bind (fun x55 => some x55)) else none) else (tw_putPlace N h v1 v2 σ).bind (fun x58 => some x58) else (tw_say N h (mR σ 0 100) σ).bind (fun x61 => some x61) else if 0 ≤ v1 ∧ v1 < ((60420 : Nat) : Int) then if gcmp (mL σ (h + 17) v1.toNat) (((1 : Fin 2) : Nat) : Int) ≠ 0 then (tw_say N h (mR σ 0 102) σ).bind (fun x65 => some x65) else (tw_say N h (mR σ 0 101) σ).bind (fun x68 => some x68) else none else (tw_put h 34 σ).bind (fun x71 => if 0 ≤ v1 ∧ v1 < ((60420 : Nat) : Int) then if 0 ≤ v1 ∧ v1 < ((60420 : Nat) : Int) then (tw_putLetters N h (mI x71 (h + 18) v1.toNat) (mI x71 (h + 19) v1.toNat) x71).bind (fun x76 => (tw_put h 34 x76).bind (fun x79 => some x79)) else none else none) else if 0 ≤ v1 ∧ v1 < ((60420 : Nat) : Int) then (tw_putNumber N h (mL σ (h + 17) v1.toNat) σ).bind (fun x83 => some x83) else none) else none
set_option maxRecDepth 100000 in
theorem ok_tw_putPart_o {ω : gW} {l : Launch} {d : Nat} {N : Nat} {W : Int → Int → gMem → Option gMem} {dW : Nat} {h : Nat} {σ : gMem} {v1 : Int} {v2 : Int} (hW : ∀ (a1 : Int) (a2 : Int) (s : gMem), TM s h → g32 a1 → g32 a2 → gK (fun p : gMem => (.inl none, p)) gTw ω l dW mu_tw_putPart [vR h, vI a1, vI a2] s (W a1 a2 s)) (hdp : 7 ≤ d) (hdw : dW + 2 ≤ d) (hM : TM σ h) (hv1 : g32 v1) (hv2 : g32 v2) : gK (fun p : gMem => (.inl none, p)) gTw ω l d mu_tw_putPart [vR h, vI v1, vI v2] σ (tw_putPart_o N W h v1 v2 σ) := by
  refine gK.of hp_X11 (Nat.le_of_ble_eq_true rfl) ?_
  unfold tw_putPart_o
  refine x_aload_n (μ := mu_tw_putPart) (pc := 0) 0 dX11_putPart_0 rfl ?_
  refine x_fgrE (μ := mu_tw_putPart) (pc := 1) fX11_26 (Or.inr ⟨_, rfl⟩) q2662 (hM.a26).1 dX11_putPart_1 hM.1 ?_
  refine x_iload_n (μ := mu_tw_putPart) (pc := 4) 1 dX11_putPart_4 rfl ?_
  refine x_iald (μ := mu_tw_putPart) (pc := 5) dX11_putPart_5 (hM.a26).2.1 (hM.a26).2.2 (fun hr1 => ?_)
  refine x_istore_n (μ := mu_tw_putPart) (pc := 6) (lv' := [(3, vI (mI σ (h + 14) v1.toNat)), (0, vR h), (1, vI v1), (2, vI v2)]) dX11_putPart_6 rfl (by decide) rfl ?_
  refine x_iload_n (μ := mu_tw_putPart) (pc := 7) 0 dX11_putPart_7 rfl ?_
  refine x_callS_pi (μ := mu_tw_putPart) (pc := 8) (ok_tw_level (ω := ω) (l := l) (d := d - 1) (by omega) hr1) gRel_Tw gRel_Tw (fun _ q => q) q3469 q3470 q232 q3471 dX11_putPart_8 hy_tw_level (by omega) (Nat.le_of_ble_eq_true rfl) rfl (Nat.le_of_ble_eq_true rfl) (fun x2 hr3 => ?_)
  refine x_istore (μ := mu_tw_putPart) (pc := 11) (lv' := [(4, vI x2), (3, vI (mI σ (h + 14) v1.toNat)), (0, vR h), (1, vI v1), (2, vI v2)]) dX11_putPart_11 (by decide) rfl ?_
  refine x_iload_n (μ := mu_tw_putPart) (pc := 13) 1 dX11_putPart_13 rfl ?_
  refine x_iconst (μ := mu_tw_putPart) (pc := 14) dX11_putPart_14 ?_
  refine x_icmp_ne (μ := mu_tw_putPart) (pc := 15) (tgt := 31) dX11_putPart_15 rfl hr1 (by decide) ?_ ?_
  · refine x_iload_n (μ := mu_tw_putPart) (pc := 31) 1 dX11_putPart_31 rfl ?_
    refine x_iconst (μ := mu_tw_putPart) (pc := 32) dX11_putPart_32 ?_
    refine x_icmp_ne (μ := mu_tw_putPart) (pc := 33) (tgt := 67) dX11_putPart_33 rfl hr1 (by decide) ?_ ?_
    · refine x_iload_n (μ := mu_tw_putPart) (pc := 67) 1 dX11_putPart_67 rfl ?_
      refine x_iconst (μ := mu_tw_putPart) (pc := 68) dX11_putPart_68 ?_
      refine x_icmp_ne (μ := mu_tw_putPart) (pc := 69) (tgt := 99) dX11_putPart_69 rfl hr1 (by decide) ?_ ?_
      · refine x_iload_n (μ := mu_tw_putPart) (pc := 99) 1 dX11_putPart_99 rfl ?_
        refine x_iconst (μ := mu_tw_putPart) (pc := 100) dX11_putPart_100 ?_
        refine x_icmp_ne (μ := mu_tw_putPart) (pc := 101) (tgt := 114) dX11_putPart_101 rfl hr1 (by decide) ?_ ?_
        · refine x_iload_n (μ := mu_tw_putPart) (pc := 114) 1 dX11_putPart_114 rfl ?_
          refine x_iconst (μ := mu_tw_putPart) (pc := 115) dX11_putPart_115 ?_
          refine x_icmp_eq (μ := mu_tw_putPart) (pc := 116) (tgt := 125) dX11_putPart_116 rfl hr1 (by decide) ?_ ?_
          · refine x_aload_n (μ := mu_tw_putPart) (pc := 125) 2 dX11_putPart_125 rfl ?_
            refine x_iload_n (μ := mu_tw_putPart) (pc := 126) 3 dX11_putPart_126 rfl ?_
            refine x_iload_n (μ := mu_tw_putPart) (pc := 127) 4 dX11_putPart_127 rfl ?_
            refine x_callV_mv (μ := mu_tw_putPart) (pc := 128) (ok_tw_putPlace (ω := ω) (l := l) (d := d - 1) (by omega) hM hv1 hv2) gRel_Tw gRel_Tw (fun _ q => q) q3484 q3486 qs180 q232 q3487 dX11_putPart_128 rfl hM.1 hy_tw_putPlace (by omega) (Nat.le_of_ble_eq_true rfl) rfl (Nat.le_of_ble_eq_true rfl) (fun x4 k5 => ?_)
            have hM6 : TM x4 h := hM.tw k5
            refine x_goto (μ := mu_tw_putPart) (pc := 131) (tgt := 336) dX11_putPart_131 rfl ?_
            exact x_vret (μ := mu_tw_putPart) (pc := 336) (a1 := x4) dX11_putPart_336 rfl rfl (gRel_Tw.1 _) trivial
          · refine x_iload_n (μ := mu_tw_putPart) (pc := 119) 1 dX11_putPart_119 rfl ?_
            refine x_bipush (μ := mu_tw_putPart) (pc := 120) dX11_putPart_120 (by decide) ?_
            refine x_icmp_ne (μ := mu_tw_putPart) (pc := 122) (tgt := 134) dX11_putPart_122 rfl hr1 (by decide) ?_ ?_
            · refine x_iload_n (μ := mu_tw_putPart) (pc := 134) 1 dX11_putPart_134 rfl ?_
              refine x_bipush (μ := mu_tw_putPart) (pc := 135) dX11_putPart_135 (by decide) ?_
              refine x_icmp_ne (μ := mu_tw_putPart) (pc := 137) (tgt := 177) dX11_putPart_137 rfl hr1 (by decide) ?_ ?_
              · refine x_iload_n (μ := mu_tw_putPart) (pc := 177) 1 dX11_putPart_177 rfl ?_
                refine x_bipush (μ := mu_tw_putPart) (pc := 178) dX11_putPart_178 (by decide) ?_
                refine x_icmp_ge (μ := mu_tw_putPart) (pc := 180) (tgt := 274) dX11_putPart_180 rfl hr1 (by decide) ?_ ?_
                · refine x_aload_n (μ := mu_tw_putPart) (pc := 274) 2 dX11_putPart_274 rfl ?_
                  refine x_iload_n (μ := mu_tw_putPart) (pc := 275) 1 dX11_putPart_275 rfl ?_
                  refine x_callS_pr (μ := mu_tw_putPart) (pc := 276) (ok_tw_nameOf (ω := ω) (l := l) (d := d - 1) (by omega) hr1) gRel_Tw gRel_Tw (fun _ q => q) q3103 q3104 q232 q3105 dX11_putPart_276 hy_tw_nameOf (by omega) (Nat.le_of_ble_eq_true rfl) rfl (Nat.le_of_ble_eq_true rfl) (fun x7 => ?_)
                  refine x_callV_mv (μ := mu_tw_putPart) (pc := 279) (ok_tw_say (ω := ω) (l := l) (d := d - 1) (by omega) hM ) gRel_Tw gRel_Tw (fun _ q => q) q3480 q3482 qs179 q232 q3483 dX11_putPart_279 rfl hM.1 hy_tw_say (by omega) (Nat.le_of_ble_eq_true rfl) rfl (Nat.le_of_ble_eq_true rfl) (fun x8 k9 => ?_)
                  have hM10 : TM x8 h := hM.tw k9
                  refine x_iconst (μ := mu_tw_putPart) (pc := 282) dX11_putPart_282 ?_
                  refine x_istore (μ := mu_tw_putPart) (pc := 283) (lv' := [(5, vI 0), (4, vI x2), (3, vI (mI σ (h + 14) v1.toNat)), (0, vR h), (1, vI v1), (2, vI v2)]) dX11_putPart_283 (by decide) rfl ?_
                  refine x_loc (lv' := [(0, vR h), (1, vI v1), (2, vI v2), (5, vI 0)]) [3, 4, 5, 0] rfl ?_
                  refine okl_tw_putPart_o_l285 hW hdp hdw hv1 hv2 (fun s20 hM21 => ?_) N 0 x8 (by decide) hM10
                  refine x_aload_n (μ := mu_tw_putPart) (pc := 330) 0 dX11_putPart_330 rfl ?_
                  refine x_bipush (μ := mu_tw_putPart) (pc := 331) dX11_putPart_331 (by decide) ?_
                  refine x_callV_mv (μ := mu_tw_putPart) (pc := 333) (ok_tw_put (ω := ω) (l := l) (d := d - 1) (by omega) hM21 (by decide)) gRel_Tw gRel_Tw (fun _ q => q) q3461 q3463 qs175 q232 q3464 dX11_putPart_333 rfl hM21.1 hy_tw_put (by omega) (Nat.le_of_ble_eq_true rfl) rfl (Nat.le_of_ble_eq_true rfl) (fun x22 k23 => ?_)
                  have hM24 : TM x22 h := hM21.tw k23
                  exact x_vret (μ := mu_tw_putPart) (pc := 336) (a1 := x22) dX11_putPart_336 rfl rfl (gRel_Tw.1 _) trivial
                · refine x_aload_n (μ := mu_tw_putPart) (pc := 183) 2 dX11_putPart_183 rfl ?_
                  refine x_iload_n (μ := mu_tw_putPart) (pc := 184) 3 dX11_putPart_184 rfl ?_
                  refine x_iconst (μ := mu_tw_putPart) (pc := 185) dX11_putPart_185 ?_
                  refine x_callV_pi (μ := mu_tw_putPart) (pc := 186) (ok_tw_under (ω := ω) (l := l) (d := d - 1) (by omega) hM hv1 (by decide)) gRel_Tw gRel_Tw (fun _ q => q) q3338 q3340 qs149 q232 q3341 dX11_putPart_186 rfl hM.1 hy_tw_under (by omega) (Nat.le_of_ble_eq_true rfl) rfl (Nat.le_of_ble_eq_true rfl) (fun x25 hr26 => ?_)
                  refine x_istore (μ := mu_tw_putPart) (pc := 189) (lv' := [(5, vI x25), (4, vI x2), (3, vI (mI σ (h + 14) v1.toNat)), (0, vR h), (1, vI v1), (2, vI v2)]) dX11_putPart_189 (by decide) rfl ?_
                  refine x_aload_n (μ := mu_tw_putPart) (pc := 191) 3 dX11_putPart_191 rfl ?_
                  refine x_fgrE (μ := mu_tw_putPart) (pc := 192) fX11_26 (Or.inr ⟨_, rfl⟩) q2662 (hM.a26).1 dX11_putPart_192 hM.1 ?_
                  refine x_iload (μ := mu_tw_putPart) (pc := 195) 0 dX11_putPart_195 rfl ?_
                  refine x_iald (μ := mu_tw_putPart) (pc := 197) dX11_putPart_197 (hM.a26).2.1 (hM.a26).2.2 (fun hr27 => ?_)
                  refine x_callS_pi (μ := mu_tw_putPart) (pc := 198) (ok_tw_level (ω := ω) (l := l) (d := d - 1) (by omega) hr27) gRel_Tw gRel_Tw (fun _ q => q) q3469 q3470 q232 q3471 dX11_putPart_198 hy_tw_level (by omega) (Nat.le_of_ble_eq_true rfl) rfl (Nat.le_of_ble_eq_true rfl) (fun x28 hr29 => ?_)
                  refine x_istore (μ := mu_tw_putPart) (pc := 201) (lv' := [(6, vI x28), (5, vI x25), (4, vI x2), (3, vI (mI σ (h + 14) v1.toNat)), (0, vR h), (1, vI v1), (2, vI v2)]) dX11_putPart_201 (by decide) rfl ?_
                  refine x_aload_n (μ := mu_tw_putPart) (pc := 203) 4 dX11_putPart_203 rfl ?_
                  refine x_iload (μ := mu_tw_putPart) (pc := 204) 1 dX11_putPart_204 rfl ?_
                  refine x_iload_n (μ := mu_tw_putPart) (pc := 206) 6 dX11_putPart_206 rfl ?_
                  refine x_iload (μ := mu_tw_putPart) (pc := 207) 0 dX11_putPart_207 rfl ?_
                  refine x_iload (μ := mu_tw_putPart) (pc := 209) 2 dX11_putPart_209 rfl ?_
                  refine x_icmp_lt (μ := mu_tw_putPart) (pc := 211) (tgt := 226) dX11_putPart_211 rfl hr29 hr3 ?_ ?_
                  · refine x_loc (lv' := [(0, vR h), (1, vI v1), (2, vI v2), (3, vI (mI σ (h + 14) v1.toNat)), (4, vI x2)]) [4, 5, 6, 3, 2] rfl ?_
                    exact okj_tw_putPart_o_j226 hW hdp hdw hM hv1 hv2 hr1 hr3 hv2 hr26
                  · refine x_iload (μ := mu_tw_putPart) (pc := 214) 2 dX11_putPart_214 rfl ?_
                    refine x_iconst (μ := mu_tw_putPart) (pc := 216) dX11_putPart_216 ?_
                    refine x_icmp_ne (μ := mu_tw_putPart) (pc := 217) (tgt := 230) dX11_putPart_217 rfl hr3 (by decide) ?_ ?_
                    · refine x_loc (lv' := [(0, vR h), (1, vI v1), (2, vI v2), (3, vI (mI σ (h + 14) v1.toNat)), (4, vI x2)]) [4, 5, 6, 3, 2] rfl ?_
                      exact okj_tw_putPart_o_j230 hW hdp hdw hM hv1 hv2 hr1 hr3 hv2 hr26
                    · refine x_iload (μ := mu_tw_putPart) (pc := 220) 0 dX11_putPart_220 rfl ?_
                      refine x_iconst (μ := mu_tw_putPart) (pc := 222) dX11_putPart_222 ?_
                      refine x_icmp_ne (μ := mu_tw_putPart) (pc := 223) (tgt := 230) dX11_putPart_223 rfl hr29 (by decide) ?_ ?_
                      · refine x_loc (lv' := [(0, vR h), (1, vI v1), (2, vI v2), (3, vI (mI σ (h + 14) v1.toNat)), (4, vI x2)]) [4, 5, 6, 3, 2] rfl ?_
                        exact okj_tw_putPart_o_j230 hW hdp hdw hM hv1 hv2 hr1 hr3 hv2 hr26
                      · refine x_loc (lv' := [(0, vR h), (1, vI v1), (2, vI v2), (3, vI (mI σ (h + 14) v1.toNat)), (4, vI x2)]) [4, 5, 6, 3, 2] rfl ?_
                        exact okj_tw_putPart_o_j226 hW hdp hdw hM hv1 hv2 hr1 hr3 hv2 hr26
              · refine x_aload_n (μ := mu_tw_putPart) (pc := 140) 2 dX11_putPart_140 rfl ?_
                refine x_bipush (μ := mu_tw_putPart) (pc := 141) dX11_putPart_141 (by decide) ?_
                refine x_callV_mv (μ := mu_tw_putPart) (pc := 143) (ok_tw_put (ω := ω) (l := l) (d := d - 1) (by omega) hM (by decide)) gRel_Tw gRel_Tw (fun _ q => q) q3461 q3463 qs175 q232 q3464 dX11_putPart_143 rfl hM.1 hy_tw_put (by omega) (Nat.le_of_ble_eq_true rfl) rfl (Nat.le_of_ble_eq_true rfl) (fun x46 k47 => ?_)
                have hM48 : TM x46 h := hM.tw k47
                refine x_aload_n (μ := mu_tw_putPart) (pc := 146) 2 dX11_putPart_146 rfl ?_
                refine x_iload_n (μ := mu_tw_putPart) (pc := 147) 3 dX11_putPart_147 rfl ?_
                refine x_iconst (μ := mu_tw_putPart) (pc := 148) dX11_putPart_148 ?_
                refine x_isub (μ := mu_tw_putPart) (pc := 149) dX11_putPart_149 ?_
                refine x_iload_n (μ := mu_tw_putPart) (pc := 150) 4 dX11_putPart_150 rfl ?_
                refine x_aload_n (μ := mu_tw_putPart) (pc := 151) 2 dX11_putPart_151 rfl ?_
                refine x_fgrE (μ := mu_tw_putPart) (pc := 152) fX11_26 (Or.inr ⟨_, rfl⟩) q2662 (hM48.a26).1 dX11_putPart_152 hM48.1 ?_
                refine x_iload_n (μ := mu_tw_putPart) (pc := 155) 3 dX11_putPart_155 rfl ?_
                refine x_iconst (μ := mu_tw_putPart) (pc := 156) dX11_putPart_156 ?_
                refine x_isub (μ := mu_tw_putPart) (pc := 157) dX11_putPart_157 ?_
                refine x_iald (μ := mu_tw_putPart) (pc := 158) dX11_putPart_158 (hM48.a26).2.1 (hM48.a26).2.2 (fun hr49 => ?_)
                refine x_callS_pi (μ := mu_tw_putPart) (pc := 159) (ok_tw_level (ω := ω) (l := l) (d := d - 1) (by omega) hr49) gRel_Tw gRel_Tw (fun _ q => q) q3469 q3470 q232 q3471 dX11_putPart_159 hy_tw_level (by omega) (Nat.le_of_ble_eq_true rfl) rfl (Nat.le_of_ble_eq_true rfl) (fun x50 hr51 => ?_)
                refine x_iconst (μ := mu_tw_putPart) (pc := 162) dX11_putPart_162 ?_
                refine x_icmp_ge (μ := mu_tw_putPart) (pc := 163) (tgt := 170) dX11_putPart_163 rfl hr51 (by decide) ?_ ?_
                · refine x_iconst (μ := mu_tw_putPart) (pc := 170) dX11_putPart_170 ?_
                  refine x_stk (st2 := [vI 0, vI v2, vI (w32 (v1 - 1)), vR h]) (by simp only [List.map_cons, gval_w32, gval_w64]) ?_
                  refine x_callV_mv (μ := mu_tw_putPart) (pc := 171) (ok_tw_putSide (ω := ω) (l := l) (d := d - 1) hW (by omega) (by omega) hM48 (w32_rng _) hv2 (by decide)) gRel_Tw gRel_Tw (fun _ q => q) q3492 q3494 qs182 q232 q3495 dX11_putPart_171 rfl hM48.1 hy_tw_putSide (by omega) (Nat.le_of_ble_eq_true rfl) rfl (Nat.le_of_ble_eq_true rfl) (fun x52 k53 => ?_)
                  have hM54 : TM x52 h := hM48.tw k53
                  refine x_goto (μ := mu_tw_putPart) (pc := 174) (tgt := 336) dX11_putPart_174 rfl ?_
                  exact x_vret (μ := mu_tw_putPart) (pc := 336) (a1 := x52) dX11_putPart_336 rfl rfl (gRel_Tw.1 _) trivial
                · refine x_iconst (μ := mu_tw_putPart) (pc := 166) dX11_putPart_166 ?_
                  refine x_goto (μ := mu_tw_putPart) (pc := 167) (tgt := 171) dX11_putPart_167 rfl ?_
                  refine x_stk (st2 := [vI 1, vI v2, vI (w32 (v1 - 1)), vR h]) (by simp only [List.map_cons, gval_w32, gval_w64]) ?_
                  refine x_callV_mv (μ := mu_tw_putPart) (pc := 171) (ok_tw_putSide (ω := ω) (l := l) (d := d - 1) hW (by omega) (by omega) hM48 (w32_rng _) hv2 (by decide)) gRel_Tw gRel_Tw (fun _ q => q) q3492 q3494 qs182 q232 q3495 dX11_putPart_171 rfl hM48.1 hy_tw_putSide (by omega) (Nat.le_of_ble_eq_true rfl) rfl (Nat.le_of_ble_eq_true rfl) (fun x55 k56 => ?_)
                  have hM57 : TM x55 h := hM48.tw k56
                  refine x_goto (μ := mu_tw_putPart) (pc := 174) (tgt := 336) dX11_putPart_174 rfl ?_
                  exact x_vret (μ := mu_tw_putPart) (pc := 336) (a1 := x55) dX11_putPart_336 rfl rfl (gRel_Tw.1 _) trivial
            · refine x_aload_n (μ := mu_tw_putPart) (pc := 125) 2 dX11_putPart_125 rfl ?_
              refine x_iload_n (μ := mu_tw_putPart) (pc := 126) 3 dX11_putPart_126 rfl ?_
              refine x_iload_n (μ := mu_tw_putPart) (pc := 127) 4 dX11_putPart_127 rfl ?_
              refine x_callV_mv (μ := mu_tw_putPart) (pc := 128) (ok_tw_putPlace (ω := ω) (l := l) (d := d - 1) (by omega) hM hv1 hv2) gRel_Tw gRel_Tw (fun _ q => q) q3484 q3486 qs180 q232 q3487 dX11_putPart_128 rfl hM.1 hy_tw_putPlace (by omega) (Nat.le_of_ble_eq_true rfl) rfl (Nat.le_of_ble_eq_true rfl) (fun x58 k59 => ?_)
              have hM60 : TM x58 h := hM.tw k59
              refine x_goto (μ := mu_tw_putPart) (pc := 131) (tgt := 336) dX11_putPart_131 rfl ?_
              exact x_vret (μ := mu_tw_putPart) (pc := 336) (a1 := x58) dX11_putPart_336 rfl rfl (gRel_Tw.1 _) trivial
        · refine x_aload_n (μ := mu_tw_putPart) (pc := 104) 2 dX11_putPart_104 rfl ?_
          refine x_ldcwS (μ := mu_tw_putPart) (pc := 105) (j := 100) (List.mem_of_getElem? (i := 4) rfl) dX11_putPart_105 ?_
          refine x_callV_mv (μ := mu_tw_putPart) (pc := 108) (ok_tw_say (ω := ω) (l := l) (d := d - 1) (by omega) hM ) gRel_Tw gRel_Tw (fun _ q => q) q3480 q3482 qs179 q232 q3483 dX11_putPart_108 rfl hM.1 hy_tw_say (by omega) (Nat.le_of_ble_eq_true rfl) rfl (Nat.le_of_ble_eq_true rfl) (fun x61 k62 => ?_)
          have hM63 : TM x61 h := hM.tw k62
          refine x_goto (μ := mu_tw_putPart) (pc := 111) (tgt := 336) dX11_putPart_111 rfl ?_
          exact x_vret (μ := mu_tw_putPart) (pc := 336) (a1 := x61) dX11_putPart_336 rfl rfl (gRel_Tw.1 _) trivial
      · refine x_aload_n (μ := mu_tw_putPart) (pc := 72) 2 dX11_putPart_72 rfl ?_
        refine x_aload_n (μ := mu_tw_putPart) (pc := 73) 2 dX11_putPart_73 rfl ?_
        refine x_fgrE (μ := mu_tw_putPart) (pc := 74) fX11_29 (Or.inr ⟨_, rfl⟩) q2665 (hM.a29).1 dX11_putPart_74 hM.1 ?_
        refine x_iload_n (μ := mu_tw_putPart) (pc := 77) 3 dX11_putPart_77 rfl ?_
        refine x_lald (μ := mu_tw_putPart) (pc := 78) dX11_putPart_78 (hM.a29).2.1 (hM.a29).2.2 (fun hr64 => ?_)
        refine x_lconst (μ := mu_tw_putPart) (pc := 79) dX11_putPart_79 ?_
        refine x_lcmp (μ := mu_tw_putPart) (pc := 80) dX11_putPart_80 hr64 (by decide) ?_
        refine x_if_ne (μ := mu_tw_putPart) (pc := 81) (tgt := 90) dX11_putPart_81 rfl (gcmp_rng _ _) ?_ ?_
        · refine x_ldcwS (μ := mu_tw_putPart) (pc := 90) (j := 102) (List.mem_of_getElem? (i := 12) rfl) dX11_putPart_90 ?_
          refine x_callV_mv (μ := mu_tw_putPart) (pc := 93) (ok_tw_say (ω := ω) (l := l) (d := d - 1) (by omega) hM ) gRel_Tw gRel_Tw (fun _ q => q) q3480 q3482 qs179 q232 q3483 dX11_putPart_93 rfl hM.1 hy_tw_say (by omega) (Nat.le_of_ble_eq_true rfl) rfl (Nat.le_of_ble_eq_true rfl) (fun x65 k66 => ?_)
          have hM67 : TM x65 h := hM.tw k66
          refine x_goto (μ := mu_tw_putPart) (pc := 96) (tgt := 336) dX11_putPart_96 rfl ?_
          exact x_vret (μ := mu_tw_putPart) (pc := 336) (a1 := x65) dX11_putPart_336 rfl rfl (gRel_Tw.1 _) trivial
        · refine x_ldcwS (μ := mu_tw_putPart) (pc := 84) (j := 101) (List.mem_of_getElem? (i := 8) rfl) dX11_putPart_84 ?_
          refine x_goto (μ := mu_tw_putPart) (pc := 87) (tgt := 93) dX11_putPart_87 rfl ?_
          refine x_callV_mv (μ := mu_tw_putPart) (pc := 93) (ok_tw_say (ω := ω) (l := l) (d := d - 1) (by omega) hM ) gRel_Tw gRel_Tw (fun _ q => q) q3480 q3482 qs179 q232 q3483 dX11_putPart_93 rfl hM.1 hy_tw_say (by omega) (Nat.le_of_ble_eq_true rfl) rfl (Nat.le_of_ble_eq_true rfl) (fun x68 k69 => ?_)
          have hM70 : TM x68 h := hM.tw k69
          refine x_goto (μ := mu_tw_putPart) (pc := 96) (tgt := 336) dX11_putPart_96 rfl ?_
          exact x_vret (μ := mu_tw_putPart) (pc := 336) (a1 := x68) dX11_putPart_336 rfl rfl (gRel_Tw.1 _) trivial
    · refine x_aload_n (μ := mu_tw_putPart) (pc := 36) 2 dX11_putPart_36 rfl ?_
      refine x_bipush (μ := mu_tw_putPart) (pc := 37) dX11_putPart_37 (by decide) ?_
      refine x_callV_mv (μ := mu_tw_putPart) (pc := 39) (ok_tw_put (ω := ω) (l := l) (d := d - 1) (by omega) hM (by decide)) gRel_Tw gRel_Tw (fun _ q => q) q3461 q3463 qs175 q232 q3464 dX11_putPart_39 rfl hM.1 hy_tw_put (by omega) (Nat.le_of_ble_eq_true rfl) rfl (Nat.le_of_ble_eq_true rfl) (fun x71 k72 => ?_)
      have hM73 : TM x71 h := hM.tw k72
      refine x_aload_n (μ := mu_tw_putPart) (pc := 42) 2 dX11_putPart_42 rfl ?_
      refine x_aload_n (μ := mu_tw_putPart) (pc := 43) 2 dX11_putPart_43 rfl ?_
      refine x_fgrE (μ := mu_tw_putPart) (pc := 44) fX11_30 (Or.inr ⟨_, rfl⟩) q2666 (hM73.a30).1 dX11_putPart_44 hM73.1 ?_
      refine x_iload_n (μ := mu_tw_putPart) (pc := 47) 3 dX11_putPart_47 rfl ?_
      refine x_iald (μ := mu_tw_putPart) (pc := 48) dX11_putPart_48 (hM73.a30).2.1 (hM73.a30).2.2 (fun hr74 => ?_)
      refine x_aload_n (μ := mu_tw_putPart) (pc := 49) 2 dX11_putPart_49 rfl ?_
      refine x_fgrE (μ := mu_tw_putPart) (pc := 50) fX11_31 (Or.inr ⟨_, rfl⟩) q2667 (hM73.a31).1 dX11_putPart_50 hM73.1 ?_
      refine x_iload_n (μ := mu_tw_putPart) (pc := 53) 3 dX11_putPart_53 rfl ?_
      refine x_iald (μ := mu_tw_putPart) (pc := 54) dX11_putPart_54 (hM73.a31).2.1 (hM73.a31).2.2 (fun hr75 => ?_)
      refine x_callV_mv (μ := mu_tw_putPart) (pc := 55) (ok_tw_putLetters (ω := ω) (l := l) (d := d - 1) (by omega) hM73 hr74 hr75) gRel_Tw gRel_Tw (fun _ q => q) q3476 q3478 qs178 q232 q3479 dX11_putPart_55 rfl hM73.1 hy_tw_putLetters (by omega) (Nat.le_of_ble_eq_true rfl) rfl (Nat.le_of_ble_eq_true rfl) (fun x76 k77 => ?_)
      have hM78 : TM x76 h := hM73.tw k77
      refine x_aload_n (μ := mu_tw_putPart) (pc := 58) 2 dX11_putPart_58 rfl ?_
      refine x_bipush (μ := mu_tw_putPart) (pc := 59) dX11_putPart_59 (by decide) ?_
      refine x_callV_mv (μ := mu_tw_putPart) (pc := 61) (ok_tw_put (ω := ω) (l := l) (d := d - 1) (by omega) hM78 (by decide)) gRel_Tw gRel_Tw (fun _ q => q) q3461 q3463 qs175 q232 q3464 dX11_putPart_61 rfl hM78.1 hy_tw_put (by omega) (Nat.le_of_ble_eq_true rfl) rfl (Nat.le_of_ble_eq_true rfl) (fun x79 k80 => ?_)
      have hM81 : TM x79 h := hM78.tw k80
      refine x_goto (μ := mu_tw_putPart) (pc := 64) (tgt := 336) dX11_putPart_64 rfl ?_
      exact x_vret (μ := mu_tw_putPart) (pc := 336) (a1 := x79) dX11_putPart_336 rfl rfl (gRel_Tw.1 _) trivial
  · refine x_aload_n (μ := mu_tw_putPart) (pc := 18) 2 dX11_putPart_18 rfl ?_
    refine x_aload_n (μ := mu_tw_putPart) (pc := 19) 2 dX11_putPart_19 rfl ?_
    refine x_fgrE (μ := mu_tw_putPart) (pc := 20) fX11_29 (Or.inr ⟨_, rfl⟩) q2665 (hM.a29).1 dX11_putPart_20 hM.1 ?_
    refine x_iload_n (μ := mu_tw_putPart) (pc := 23) 3 dX11_putPart_23 rfl ?_
    refine x_lald (μ := mu_tw_putPart) (pc := 24) dX11_putPart_24 (hM.a29).2.1 (hM.a29).2.2 (fun hr82 => ?_)
    refine x_callV_mv (μ := mu_tw_putPart) (pc := 25) (ok_tw_putNumber (ω := ω) (l := l) (d := d - 1) (by omega) hM hr82) gRel_Tw gRel_Tw (fun _ q => q) q3472 q3474 qs177 q232 q3475 dX11_putPart_25 rfl hM.1 hy_tw_putNumber (by omega) (Nat.le_of_ble_eq_true rfl) rfl (Nat.le_of_ble_eq_true rfl) (fun x83 k84 => ?_)
    have hM85 : TM x83 h := hM.tw k84
    refine x_goto (μ := mu_tw_putPart) (pc := 28) (tgt := 336) dX11_putPart_28 rfl ?_
    exact x_vret (μ := mu_tw_putPart) (pc := 336) (a1 := x83) dX11_putPart_336 rfl rfl (gRel_Tw.1 _) trivial
def tw_putPart (N : Nat) (h : Nat) : Nat → Int → Int → gMem → Option gMem
  | 0 => fun _ _ _ => none
  | n + 1 => fun a0 a1 s => tw_putPart_o N (tw_putPart N h n) h a0 a1 s
set_option maxRecDepth 100000 in
theorem ok_tw_putPart {ω : gW} {l : Launch} {N : Nat} {h : Nat} : ∀ (n : Nat) {d : Nat} (a0 : Int) (a1 : Int) (s : gMem), TM s h → g32 a0 → g32 a1 → 7 + 2 * n ≤ d → gK (fun p : gMem => (.inl none, p)) gTw ω l d mu_tw_putPart [vR h, vI a0, vI a1] s (tw_putPart N h n a0 a1 s) := by
  intro n
  induction n with
  | zero => intro d a0 a1 s mm h0 h1 hd; exact gK.none
  | succ n ih =>
    intro d a0 a1 s mm h0 h1 hd
    exact ok_tw_putPart_o (dW := 7 + 2 * n) (fun a0 a1 s mm h0 h1 => ih a0 a1 s mm h0 h1 (Nat.le_refl _)) (by omega) (by omega) mm h0 h1
def tw_insert_l85 (N : Nat) (h : Nat) (v1 : Int) (v2 : Int) (v3 : Int) (v4 : Int) (K : gMem → Option (Int × gMem)) : Nat → Int → gMem → Option (Int × gMem)
  | 0, _, _ => none
  | n + 1, v5, s => if v3 < v5 then K s else (tw_comeLine N h v1 (w32 (v5 - 1)) v4 v5 s).bind (fun x17 => tw_insert_l85 N h v1 v2 v3 v4 K n (w32 (v5 + 1)) x17)
set_option maxRecDepth 100000 in
theorem okl_tw_insert_l85 {ω : gW} {l : Launch} {d : Nat} {N : Nat} {h : Nat} {σ0 : gMem} {v1 : Int} {v2 : Int} {v3 : Int} {v4 : Int} {K : gMem → Option (Int × gMem)} (hdp : 2 ≤ d) (hv1 : g32 v1) (hv2 : g32 v2) (hv3 : g32 v3) (hv4 : g32 v4) (hK : ∀ (s : gMem) , TM s h → GG (fun p : Int × gMem => (.inl (some (vI p.1)), p.2)) gTw ω l d mu_tw_insert σ0 110 [(0, vR h), (1, vI v1), (2, vI v2), (3, vI v3)] [] s (K s)) : ∀ (n : Nat) (v5 : Int) (s : gMem) , g32 v5 → TM s h → GG (fun p : Int × gMem => (.inl (some (vI p.1)), p.2)) gTw ω l d mu_tw_insert σ0 85 [(0, vR h), (1, vI v1), (2, vI v2), (3, vI v3), (4, vI v4), (5, vI v5)] [] s (tw_insert_l85 N h v1 v2 v3 v4 K n v5 s) := by
  intro n
  induction n with
  | zero => intros; exact x_none
  | succ n ih =>
    intro v5 s hv5 hM
    unfold tw_insert_l85
    refine x_iload (μ := mu_tw_insert) (pc := 85) 5 dX11_insert_85 rfl ?_
    refine x_iload_n (μ := mu_tw_insert) (pc := 87) 3 dX11_insert_87 rfl ?_
    refine x_icmp_gt (μ := mu_tw_insert) (pc := 88) (tgt := 110) dX11_insert_88 rfl hv5 hv3 ?_ ?_
    · refine x_loc (lv' := [(0, vR h), (1, vI v1), (2, vI v2), (3, vI v3)]) [0, 1, 2, 3] rfl ?_
      exact hK s hM
    · refine x_aload_n (μ := mu_tw_insert) (pc := 91) 0 dX11_insert_91 rfl ?_
      refine x_iload_n (μ := mu_tw_insert) (pc := 92) 1 dX11_insert_92 rfl ?_
      refine x_iload (μ := mu_tw_insert) (pc := 93) 5 dX11_insert_93 rfl ?_
      refine x_iconst (μ := mu_tw_insert) (pc := 95) dX11_insert_95 ?_
      refine x_isub (μ := mu_tw_insert) (pc := 96) dX11_insert_96 ?_
      refine x_iload (μ := mu_tw_insert) (pc := 97) 4 dX11_insert_97 rfl ?_
      refine x_iload (μ := mu_tw_insert) (pc := 99) 5 dX11_insert_99 rfl ?_
      refine x_stk (st2 := [vI v5, vI v4, vI (w32 (v5 - 1)), vI v1, vR h]) (by simp only [List.map_cons, gval_w32, gval_w64]) ?_
      refine x_callV_mv (μ := mu_tw_insert) (pc := 101) (ok_tw_comeLine (ω := ω) (l := l) (d := d - 1) (by omega) hM hv1 (w32_rng _) hv4 hv5) gRel_Tw gRel_Tw (fun _ q => q) q3531 q3533 qs186 q232 q3534 dX11_insert_101 rfl hM.1 hy_tw_comeLine (by omega) (Nat.le_of_ble_eq_true rfl) rfl (Nat.le_of_ble_eq_true rfl) (fun x17 k18 => ?_)
      have hM19 : TM x17 h := hM.tw k18
      refine x_iincw (μ := mu_tw_insert) (pc := 104) (lv' := [(5, vI (w32 (v5 + 1))), (0, vR h), (1, vI v1), (2, vI v2), (3, vI v3), (4, vI v4)]) 5 dX11_insert_104 rfl (by decide) rfl ?_
      refine x_goto (μ := mu_tw_insert) (pc := 107) (tgt := 85) dX11_insert_107 rfl ?_
      refine x_loc (lv' := [(0, vR h), (1, vI v1), (2, vI v2), (3, vI v3), (4, vI v4), (5, vI (w32 (v5 + 1)))]) [1, 2, 3, 4, 5, 0] rfl ?_
      exact ih (w32 (v5 + 1)) x17 (w32_rng _) hM19
def tw_insert_j140 (N : Nat) (h : Nat) (v1 : Int) (v3 : Int) (t0 : Int) (t1 : Int) (t2 : Int) (t3 : Int) (s : gMem) : Option (Int × gMem) := (tw_setLine h t3 t2 t1 t0 s).bind (fun x26 => if v1 ≠ 0 then gLet (wI x26 h 7 (w32 ((mI x26 h 7) + 1))) (fun s30 => some (w32 (v3 + 1), s30)) else gLet (wI x26 h 6 (w32 ((mI x26 h 6) + 1))) (fun s34 => some (w32 (v3 + 1), s34)))
set_option maxRecDepth 100000 in
theorem okj_tw_insert_j140 {ω : gW} {l : Launch} {d : Nat} {N : Nat} {h : Nat} {σ0 : gMem} {s : gMem} {v1 : Int} {v3 : Int} {t0 : Int} {t1 : Int} {t2 : Int} {t3 : Int} (hdp : 2 ≤ d) (hM : TM s h) (hv1 : g32 v1) (hv3 : g32 v3) (ht0 : g32 t0) (ht1 : g32 t1) (ht2 : g32 t2) (ht3 : g32 t3) : GG (fun p : Int × gMem => (.inl (some (vI p.1)), p.2)) gTw ω l d mu_tw_insert σ0 140 [(0, vR h), (1, vI v1), (3, vI v3)] [vI t0, vI t1, vI t2, vI t3, vR h] s (tw_insert_j140 N h v1 v3 t0 t1 t2 t3 s) := by
  unfold tw_insert_j140
  refine x_callV_mv (μ := mu_tw_insert) (pc := 140) (ok_tw_setLine (ω := ω) (l := l) (d := d - 1) (by omega) hM ht3 ht2 ht1 ht0) gRel_Tw gRel_Tw (fun _ q => q) q3535 q3537 qs187 q232 q3538 dX11_insert_140 rfl hM.1 hy_tw_setLine (by omega) (Nat.le_of_ble_eq_true rfl) rfl (Nat.le_of_ble_eq_true rfl) (fun x26 k27 => ?_)
  have hM28 : TM x26 h := hM.tw k27
  refine x_iload_n (μ := mu_tw_insert) (pc := 143) 1 dX11_insert_143 rfl ?_
  refine x_if_ne (μ := mu_tw_insert) (pc := 144) (tgt := 160) dX11_insert_144 rfl hv1 ?_ ?_
  · refine x_aload_n (μ := mu_tw_insert) (pc := 160) 0 dX11_insert_160 rfl ?_
    refine x_dup (μ := mu_tw_insert) (pc := 161) dX11_insert_161 rfl ?_
    refine x_fgi (μ := mu_tw_insert) (pc := 162) fX11_7 q2643 dX11_insert_162 hM28.1 (fun hr29 => ?_)
    refine x_iconst (μ := mu_tw_insert) (pc := 165) dX11_insert_165 ?_
    refine x_iadd (μ := mu_tw_insert) (pc := 166) dX11_insert_166 ?_
    refine x_w1 ?_
    refine x_fpi (μ := mu_tw_insert) (pc := 167) fX11_7 q2643 dX11_insert_167 hM28.1 (fun _ q => gTw_wI q) ?_
    refine x_let (fun s30 e31 => ?_)
    have hM32 := TM.eI e31 hM28
    refine x_iload_n (μ := mu_tw_insert) (pc := 170) 2 dX11_insert_170 rfl ?_
    refine x_iconst (μ := mu_tw_insert) (pc := 171) dX11_insert_171 ?_
    refine x_iadd (μ := mu_tw_insert) (pc := 172) dX11_insert_172 ?_
    refine x_w1 ?_
    exact x_iret (μ := mu_tw_insert) (pc := 173) dX11_insert_173 rfl rfl (gRel_Tw.1 _) (show g32 (w32 (v3 + 1)) from (w32_rng _))
  · refine x_aload_n (μ := mu_tw_insert) (pc := 147) 0 dX11_insert_147 rfl ?_
    refine x_dup (μ := mu_tw_insert) (pc := 148) dX11_insert_148 rfl ?_
    refine x_fgi (μ := mu_tw_insert) (pc := 149) fX11_6 q2642 dX11_insert_149 hM28.1 (fun hr33 => ?_)
    refine x_iconst (μ := mu_tw_insert) (pc := 152) dX11_insert_152 ?_
    refine x_iadd (μ := mu_tw_insert) (pc := 153) dX11_insert_153 ?_
    refine x_w1 ?_
    refine x_fpi (μ := mu_tw_insert) (pc := 154) fX11_6 q2642 dX11_insert_154 hM28.1 (fun _ q => gTw_wI q) ?_
    refine x_let (fun s34 e35 => ?_)
    have hM36 := TM.eI e35 hM28
    refine x_goto (μ := mu_tw_insert) (pc := 157) (tgt := 170) dX11_insert_157 rfl ?_
    refine x_iload_n (μ := mu_tw_insert) (pc := 170) 2 dX11_insert_170 rfl ?_
    refine x_iconst (μ := mu_tw_insert) (pc := 171) dX11_insert_171 ?_
    refine x_iadd (μ := mu_tw_insert) (pc := 172) dX11_insert_172 ?_
    refine x_w1 ?_
    exact x_iret (μ := mu_tw_insert) (pc := 173) dX11_insert_173 rfl rfl (gRel_Tw.1 _) (show g32 (w32 (v3 + 1)) from (w32_rng _))
def tw_insert_j57 (N : Nat) (h : Nat) (v1 : Int) (v2 : Int) (v3 : Int) (t0 : Int) (t1 : Int) (s : gMem) : Option (Int × gMem) := if t1 ≠ t0 then (tw_step N h s).bind (fun x10 => (tw_setLines h 40 v1 (w32 (v3 + 1)) (x10.2)).bind (fun x14 => tw_insert_l85 N h v1 v2 v3 (x10.1) (fun s20 => (tw_emptyLine N h v1 (w32 (v2 - 1)) s20).bind (fun x22 => if v1 ≠ 0 then tw_insert_j140 N h v1 v3 (mI x22 h 7) (w32 (v2 - 1)) v1 40 x22 else tw_insert_j140 N h v1 v3 (mI x22 h 6) (w32 (v2 - 1)) v1 40 x22)) N v2 x14)) else (tw_throwing h 3 s).bind (fun x38 => some (x38.1, x38.2))
set_option maxRecDepth 100000 in
theorem okj_tw_insert_j57 {ω : gW} {l : Launch} {d : Nat} {N : Nat} {h : Nat} {σ0 : gMem} {s : gMem} {v1 : Int} {v2 : Int} {v3 : Int} {t0 : Int} {t1 : Int} (hdp : 2 ≤ d) (hM : TM s h) (hv1 : g32 v1) (hv2 : g32 v2) (hv3 : g32 v3) (ht0 : g32 t0) (ht1 : g32 t1) : GG (fun p : Int × gMem => (.inl (some (vI p.1)), p.2)) gTw ω l d mu_tw_insert σ0 57 [(0, vR h), (1, vI v1), (2, vI v2), (3, vI v3)] [vI t0, vI t1] s (tw_insert_j57 N h v1 v2 v3 t0 t1 s) := by
  unfold tw_insert_j57
  refine x_icmp_ne (μ := mu_tw_insert) (pc := 57) (tgt := 66) dX11_insert_57 rfl ht1 ht0 ?_ ?_
  · refine x_aload_n (μ := mu_tw_insert) (pc := 66) 0 dX11_insert_66 rfl ?_
    refine x_callV_mi (μ := mu_tw_insert) (pc := 67) (ok_tw_step (ω := ω) (l := l) (d := d - 1) (by omega) hM ) gRel_Tw gRel_Tw (fun _ q => q) q3191 q3193 qs119 q232 q3194 dX11_insert_67 rfl hM.1 hy_tw_step (by omega) (Nat.le_of_ble_eq_true rfl) rfl (Nat.le_of_ble_eq_true rfl) (fun x10 k12 hr11 => ?_)
    have hM13 : TM (x10.2) h := hM.tw k12
    refine x_istore (μ := mu_tw_insert) (pc := 70) (lv' := [(4, vI (x10.1)), (0, vR h), (1, vI v1), (2, vI v2), (3, vI v3)]) dX11_insert_70 (by decide) rfl ?_
    refine x_aload_n (μ := mu_tw_insert) (pc := 72) 1 dX11_insert_72 rfl ?_
    refine x_bipush (μ := mu_tw_insert) (pc := 73) dX11_insert_73 (by decide) ?_
    refine x_iload_n (μ := mu_tw_insert) (pc := 75) 2 dX11_insert_75 rfl ?_
    refine x_iload_n (μ := mu_tw_insert) (pc := 76) 4 dX11_insert_76 rfl ?_
    refine x_iconst (μ := mu_tw_insert) (pc := 77) dX11_insert_77 ?_
    refine x_iadd (μ := mu_tw_insert) (pc := 78) dX11_insert_78 ?_
    refine x_w1 ?_
    refine x_callV_mv (μ := mu_tw_insert) (pc := 79) (ok_tw_setLines (ω := ω) (l := l) (d := d - 1) (by omega) hM13 (by decide) hv1 (w32_rng _)) gRel_Tw gRel_Tw (fun _ q => q) q3527 q3529 qs185 q232 q3530 dX11_insert_79 rfl hM13.1 hy_tw_setLines (by omega) (Nat.le_of_ble_eq_true rfl) rfl (Nat.le_of_ble_eq_true rfl) (fun x14 k15 => ?_)
    have hM16 : TM x14 h := hM13.tw k15
    refine x_iload_n (μ := mu_tw_insert) (pc := 82) 3 dX11_insert_82 rfl ?_
    refine x_istore (μ := mu_tw_insert) (pc := 83) (lv' := [(5, vI v2), (4, vI (x10.1)), (0, vR h), (1, vI v1), (2, vI v2), (3, vI v3)]) dX11_insert_83 (by decide) rfl ?_
    refine x_loc (lv' := [(0, vR h), (1, vI v1), (2, vI v2), (3, vI v3), (4, vI (x10.1)), (5, vI v2)]) [2, 3, 4, 5, 1, 0] rfl ?_
    refine okl_tw_insert_l85 hdp hv1 hv2 hv3 hr11 (fun s20 hM21 => ?_) N v2 x14 hv2 hM16
    refine x_aload_n (μ := mu_tw_insert) (pc := 110) 0 dX11_insert_110 rfl ?_
    refine x_iload_n (μ := mu_tw_insert) (pc := 111) 1 dX11_insert_111 rfl ?_
    refine x_iload_n (μ := mu_tw_insert) (pc := 112) 2 dX11_insert_112 rfl ?_
    refine x_iconst (μ := mu_tw_insert) (pc := 113) dX11_insert_113 ?_
    refine x_isub (μ := mu_tw_insert) (pc := 114) dX11_insert_114 ?_
    refine x_w1 ?_
    refine x_callV_mv (μ := mu_tw_insert) (pc := 115) (ok_tw_emptyLine (ω := ω) (l := l) (d := d - 1) (by omega) hM21 hv1 (w32_rng _)) gRel_Tw gRel_Tw (fun _ q => q) q3545 q3547 qs188 q232 q3548 dX11_insert_115 rfl hM21.1 hy_tw_emptyLine (by omega) (Nat.le_of_ble_eq_true rfl) rfl (Nat.le_of_ble_eq_true rfl) (fun x22 k23 => ?_)
    have hM24 : TM x22 h := hM21.tw k23
    refine x_aload_n (μ := mu_tw_insert) (pc := 118) 0 dX11_insert_118 rfl ?_
    refine x_bipush (μ := mu_tw_insert) (pc := 119) dX11_insert_119 (by decide) ?_
    refine x_iload_n (μ := mu_tw_insert) (pc := 121) 1 dX11_insert_121 rfl ?_
    refine x_iload_n (μ := mu_tw_insert) (pc := 122) 2 dX11_insert_122 rfl ?_
    refine x_iconst (μ := mu_tw_insert) (pc := 123) dX11_insert_123 ?_
    refine x_isub (μ := mu_tw_insert) (pc := 124) dX11_insert_124 ?_
    refine x_iload_n (μ := mu_tw_insert) (pc := 125) 1 dX11_insert_125 rfl ?_
    refine x_if_ne (μ := mu_tw_insert) (pc := 126) (tgt := 136) dX11_insert_126 rfl hv1 ?_ ?_
    · refine x_aload_n (μ := mu_tw_insert) (pc := 136) 0 dX11_insert_136 rfl ?_
      refine x_fgi (μ := mu_tw_insert) (pc := 137) fX11_7 q2643 dX11_insert_137 hM24.1 (fun hr25 => ?_)
      refine x_w2 ?_
      refine x_loc (lv' := [(0, vR h), (1, vI v1), (3, vI v3)]) [0, 1, 3] rfl ?_
      exact okj_tw_insert_j140 hdp hM24 hv1 hv3 hr25 (w32_rng _) hv1 (by decide)
    · refine x_aload_n (μ := mu_tw_insert) (pc := 129) 0 dX11_insert_129 rfl ?_
      refine x_fgi (μ := mu_tw_insert) (pc := 130) fX11_6 q2642 dX11_insert_130 hM24.1 (fun hr37 => ?_)
      refine x_goto (μ := mu_tw_insert) (pc := 133) (tgt := 140) dX11_insert_133 rfl ?_
      refine x_w2 ?_
      refine x_loc (lv' := [(0, vR h), (1, vI v1), (3, vI v3)]) [0, 1, 3] rfl ?_
      exact okj_tw_insert_j140 hdp hM24 hv1 hv3 hr37 (w32_rng _) hv1 (by decide)
  · refine x_aload_n (μ := mu_tw_insert) (pc := 60) 0 dX11_insert_60 rfl ?_
    refine x_iconst (μ := mu_tw_insert) (pc := 61) dX11_insert_61 ?_
    refine x_callV_mi (μ := mu_tw_insert) (pc := 62) (ok_tw_throwing (ω := ω) (l := l) (d := d - 1) (by omega) hM (by decide)) gRel_Tw gRel_Tw (fun _ q => q) q2960 q2962 qs78 q232 q2963 dX11_insert_62 rfl hM.1 hy_tw_throwing (by omega) (Nat.le_of_ble_eq_true rfl) rfl (Nat.le_of_ble_eq_true rfl) (fun x38 k40 hr39 => ?_)
    have hM41 : TM (x38.2) h := hM.tw k40
    exact x_iret (μ := mu_tw_insert) (pc := 65) dX11_insert_65 rfl rfl (gRel_Tw.1 _) (show g32 (x38.1) from hr39)
def tw_insert (N : Nat) (h : Nat) (v1 : Int) (v2 : Int) (σ : gMem) : Option (Int × gMem) := gLet (wI σ h 0 0) (fun s1 => (tw_in v1 0 1 s1).bind (fun x4 => if x4 ≠ 0 then (tw_linesOf h 40 v1 s1).bind (fun x6 => (tw_in v2 1 (w32 (x6 + 1)) s1).bind (fun x8 => if x8 ≠ 0 then if v1 ≠ 0 then tw_insert_j57 N h v1 v2 x6 10 x6 s1 else tw_insert_j57 N h v1 v2 x6 32 x6 s1 else (tw_throwing h 2 s1).bind (fun x42 => some (x42.1, x42.2)))) else (tw_throwing h 1 s1).bind (fun x46 => some (x46.1, x46.2))))
set_option maxRecDepth 100000 in
theorem ok_tw_insert {ω : gW} {l : Launch} {d : Nat} {N : Nat} {h : Nat} {σ : gMem} {v1 : Int} {v2 : Int} (hdp : 2 ≤ d) (hM : TM σ h) (hv1 : g32 v1) (hv2 : g32 v2) : gK (fun p : Int × gMem => (.inl (some (vI p.1)), p.2)) gTw ω l d mu_tw_insert [vR h, vI v1, vI v2] σ (tw_insert N h v1 v2 σ) := by
  refine gK.of hp_X11 (Nat.le_of_ble_eq_true rfl) ?_
  unfold tw_insert
  refine x_aload_n (μ := mu_tw_insert) (pc := 0) 0 dX11_insert_0 rfl ?_
  refine x_iconst (μ := mu_tw_insert) (pc := 1) dX11_insert_1 ?_
  refine x_fpi (μ := mu_tw_insert) (pc := 2) fX11_0 q2636 dX11_insert_2 hM.1 (fun _ q => gTw_wI q) ?_
  refine x_let (fun s1 e2 => ?_)
  have hM3 := TM.eI e2 hM
  refine x_iload_n (μ := mu_tw_insert) (pc := 5) 1 dX11_insert_5 rfl ?_
  refine x_iconst (μ := mu_tw_insert) (pc := 6) dX11_insert_6 ?_
  refine x_iconst (μ := mu_tw_insert) (pc := 7) dX11_insert_7 ?_
  refine x_callS_pi (μ := mu_tw_insert) (pc := 8) (ok_tw_in (ω := ω) (l := l) (d := d - 1) (by omega) hv1 (by decide) (by decide)) gRel_Tw gRel_Tw (fun _ q => q) q2980 q2981 q232 q2982 dX11_insert_8 hy_tw_in (by omega) (Nat.le_of_ble_eq_true rfl) rfl (Nat.le_of_ble_eq_true rfl) (fun x4 hr5 => ?_)
  refine x_if_ne (μ := mu_tw_insert) (pc := 11) (tgt := 20) dX11_insert_11 rfl hr5 ?_ ?_
  · refine x_aload_n (μ := mu_tw_insert) (pc := 20) 0 dX11_insert_20 rfl ?_
    refine x_bipush (μ := mu_tw_insert) (pc := 21) dX11_insert_21 (by decide) ?_
    refine x_iload_n (μ := mu_tw_insert) (pc := 23) 1 dX11_insert_23 rfl ?_
    refine x_callV_pi (μ := mu_tw_insert) (pc := 24) (ok_tw_linesOf (ω := ω) (l := l) (d := d - 1) (by omega) hM3 (by decide) hv1) gRel_Tw gRel_Tw (fun _ q => q) q3245 q3247 qs129 q232 q3248 dX11_insert_24 rfl hM3.1 hy_tw_linesOf (by omega) (Nat.le_of_ble_eq_true rfl) rfl (Nat.le_of_ble_eq_true rfl) (fun x6 hr7 => ?_)
    refine x_istore_n (μ := mu_tw_insert) (pc := 27) (lv' := [(3, vI x6), (0, vR h), (1, vI v1), (2, vI v2)]) dX11_insert_27 rfl (by decide) rfl ?_
    refine x_iload_n (μ := mu_tw_insert) (pc := 28) 3 dX11_insert_28 rfl ?_
    refine x_iconst (μ := mu_tw_insert) (pc := 29) dX11_insert_29 ?_
    refine x_iload_n (μ := mu_tw_insert) (pc := 30) 0 dX11_insert_30 rfl ?_
    refine x_iconst (μ := mu_tw_insert) (pc := 31) dX11_insert_31 ?_
    refine x_iadd (μ := mu_tw_insert) (pc := 32) dX11_insert_32 ?_
    refine x_w1 ?_
    refine x_callS_pi (μ := mu_tw_insert) (pc := 33) (ok_tw_in (ω := ω) (l := l) (d := d - 1) (by omega) hv2 (by decide) (w32_rng _)) gRel_Tw gRel_Tw (fun _ q => q) q2980 q2981 q232 q2982 dX11_insert_33 hy_tw_in (by omega) (Nat.le_of_ble_eq_true rfl) rfl (Nat.le_of_ble_eq_true rfl) (fun x8 hr9 => ?_)
    refine x_if_ne (μ := mu_tw_insert) (pc := 36) (tgt := 45) dX11_insert_36 rfl hr9 ?_ ?_
    · refine x_iload_n (μ := mu_tw_insert) (pc := 45) 0 dX11_insert_45 rfl ?_
      refine x_iload_n (μ := mu_tw_insert) (pc := 46) 2 dX11_insert_46 rfl ?_
      refine x_if_ne (μ := mu_tw_insert) (pc := 47) (tgt := 55) dX11_insert_47 rfl hv1 ?_ ?_
      · refine x_bipush (μ := mu_tw_insert) (pc := 55) dX11_insert_55 (by decide) ?_
        refine x_loc (lv' := [(0, vR h), (1, vI v1), (2, vI v2), (3, vI x6)]) [1, 2, 3, 0] rfl ?_
        exact okj_tw_insert_j57 hdp hM3 hv1 hv2 hr7 (by decide) hr7
      · refine x_bipush (μ := mu_tw_insert) (pc := 50) dX11_insert_50 (by decide) ?_
        refine x_goto (μ := mu_tw_insert) (pc := 52) (tgt := 57) dX11_insert_52 rfl ?_
        refine x_loc (lv' := [(0, vR h), (1, vI v1), (2, vI v2), (3, vI x6)]) [1, 2, 3, 0] rfl ?_
        exact okj_tw_insert_j57 hdp hM3 hv1 hv2 hr7 (by decide) hr7
    · refine x_aload_n (μ := mu_tw_insert) (pc := 39) 1 dX11_insert_39 rfl ?_
      refine x_iconst (μ := mu_tw_insert) (pc := 40) dX11_insert_40 ?_
      refine x_callV_mi (μ := mu_tw_insert) (pc := 41) (ok_tw_throwing (ω := ω) (l := l) (d := d - 1) (by omega) hM3 (by decide)) gRel_Tw gRel_Tw (fun _ q => q) q2960 q2962 qs78 q232 q2963 dX11_insert_41 rfl hM3.1 hy_tw_throwing (by omega) (Nat.le_of_ble_eq_true rfl) rfl (Nat.le_of_ble_eq_true rfl) (fun x42 k44 hr43 => ?_)
      have hM45 : TM (x42.2) h := hM3.tw k44
      exact x_iret (μ := mu_tw_insert) (pc := 44) dX11_insert_44 rfl rfl (gRel_Tw.1 _) (show g32 (x42.1) from hr43)
  · refine x_aload_n (μ := mu_tw_insert) (pc := 14) 0 dX11_insert_14 rfl ?_
    refine x_iconst (μ := mu_tw_insert) (pc := 15) dX11_insert_15 ?_
    refine x_callV_mi (μ := mu_tw_insert) (pc := 16) (ok_tw_throwing (ω := ω) (l := l) (d := d - 1) (by omega) hM3 (by decide)) gRel_Tw gRel_Tw (fun _ q => q) q2960 q2962 qs78 q232 q2963 dX11_insert_16 rfl hM3.1 hy_tw_throwing (by omega) (Nat.le_of_ble_eq_true rfl) rfl (Nat.le_of_ble_eq_true rfl) (fun x46 k48 hr47 => ?_)
    have hM49 : TM (x46.2) h := hM3.tw k48
    exact x_iret (μ := mu_tw_insert) (pc := 19) dX11_insert_19 rfl rfl (gRel_Tw.1 _) (show g32 (x46.1) from hr47)
def tw_remove (N : Nat) (h : Nat) (v1 : Int) (v2 : Int) (σ : gMem) : Option (Int × gMem) := gLet (wI σ h 0 0) (fun s1 => (tw_in v1 0 1 s1).bind (fun x4 => if x4 ≠ 0 then (tw_linesOf h 40 v1 s1).bind (fun x6 => (tw_in v2 1 x6 s1).bind (fun x8 => if x8 ≠ 0 then if x6 ≠ 1 then (tw_step N h s1).bind (fun x10 => (tw_goLine N h v1 v2 (x10.1) (x10.2)).bind (fun x14 => some (w32 (x6 - 1), x14))) else (tw_throwing h 3 s1).bind (fun x17 => some (x17.1, x17.2)) else (tw_throwing h 2 s1).bind (fun x21 => some (x21.1, x21.2)))) else (tw_throwing h 1 s1).bind (fun x25 => some (x25.1, x25.2))))
set_option maxRecDepth 100000 in
theorem ok_tw_remove {ω : gW} {l : Launch} {d : Nat} {N : Nat} {h : Nat} {σ : gMem} {v1 : Int} {v2 : Int} (hdp : 3 ≤ d) (hM : TM σ h) (hv1 : g32 v1) (hv2 : g32 v2) : gK (fun p : Int × gMem => (.inl (some (vI p.1)), p.2)) gTw ω l d mu_tw_remove [vR h, vI v1, vI v2] σ (tw_remove N h v1 v2 σ) := by
  refine gK.of hp_X11 (Nat.le_of_ble_eq_true rfl) ?_
  unfold tw_remove
  refine x_aload_n (μ := mu_tw_remove) (pc := 0) 0 dX11_remove_0 rfl ?_
  refine x_iconst (μ := mu_tw_remove) (pc := 1) dX11_remove_1 ?_
  refine x_fpi (μ := mu_tw_remove) (pc := 2) fX11_0 q2636 dX11_remove_2 hM.1 (fun _ q => gTw_wI q) ?_
  refine x_let (fun s1 e2 => ?_)
  have hM3 := TM.eI e2 hM
  refine x_iload_n (μ := mu_tw_remove) (pc := 5) 1 dX11_remove_5 rfl ?_
  refine x_iconst (μ := mu_tw_remove) (pc := 6) dX11_remove_6 ?_
  refine x_iconst (μ := mu_tw_remove) (pc := 7) dX11_remove_7 ?_
  refine x_callS_pi (μ := mu_tw_remove) (pc := 8) (ok_tw_in (ω := ω) (l := l) (d := d - 1) (by omega) hv1 (by decide) (by decide)) gRel_Tw gRel_Tw (fun _ q => q) q2980 q2981 q232 q2982 dX11_remove_8 hy_tw_in (by omega) (Nat.le_of_ble_eq_true rfl) rfl (Nat.le_of_ble_eq_true rfl) (fun x4 hr5 => ?_)
  refine x_if_ne (μ := mu_tw_remove) (pc := 11) (tgt := 20) dX11_remove_11 rfl hr5 ?_ ?_
  · refine x_aload_n (μ := mu_tw_remove) (pc := 20) 0 dX11_remove_20 rfl ?_
    refine x_bipush (μ := mu_tw_remove) (pc := 21) dX11_remove_21 (by decide) ?_
    refine x_iload_n (μ := mu_tw_remove) (pc := 23) 1 dX11_remove_23 rfl ?_
    refine x_callV_pi (μ := mu_tw_remove) (pc := 24) (ok_tw_linesOf (ω := ω) (l := l) (d := d - 1) (by omega) hM3 (by decide) hv1) gRel_Tw gRel_Tw (fun _ q => q) q3245 q3247 qs129 q232 q3248 dX11_remove_24 rfl hM3.1 hy_tw_linesOf (by omega) (Nat.le_of_ble_eq_true rfl) rfl (Nat.le_of_ble_eq_true rfl) (fun x6 hr7 => ?_)
    refine x_istore_n (μ := mu_tw_remove) (pc := 27) (lv' := [(3, vI x6), (0, vR h), (1, vI v1), (2, vI v2)]) dX11_remove_27 rfl (by decide) rfl ?_
    refine x_iload_n (μ := mu_tw_remove) (pc := 28) 3 dX11_remove_28 rfl ?_
    refine x_iconst (μ := mu_tw_remove) (pc := 29) dX11_remove_29 ?_
    refine x_iload_n (μ := mu_tw_remove) (pc := 30) 0 dX11_remove_30 rfl ?_
    refine x_callS_pi (μ := mu_tw_remove) (pc := 31) (ok_tw_in (ω := ω) (l := l) (d := d - 1) (by omega) hv2 (by decide) hr7) gRel_Tw gRel_Tw (fun _ q => q) q2980 q2981 q232 q2982 dX11_remove_31 hy_tw_in (by omega) (Nat.le_of_ble_eq_true rfl) rfl (Nat.le_of_ble_eq_true rfl) (fun x8 hr9 => ?_)
    refine x_if_ne (μ := mu_tw_remove) (pc := 34) (tgt := 43) dX11_remove_34 rfl hr9 ?_ ?_
    · refine x_iload_n (μ := mu_tw_remove) (pc := 43) 0 dX11_remove_43 rfl ?_
      refine x_iconst (μ := mu_tw_remove) (pc := 44) dX11_remove_44 ?_
      refine x_icmp_ne (μ := mu_tw_remove) (pc := 45) (tgt := 54) dX11_remove_45 rfl hr7 (by decide) ?_ ?_
      · refine x_aload_n (μ := mu_tw_remove) (pc := 54) 1 dX11_remove_54 rfl ?_
        refine x_callV_mi (μ := mu_tw_remove) (pc := 55) (ok_tw_step (ω := ω) (l := l) (d := d - 1) (by omega) hM3 ) gRel_Tw gRel_Tw (fun _ q => q) q3191 q3193 qs119 q232 q3194 dX11_remove_55 rfl hM3.1 hy_tw_step (by omega) (Nat.le_of_ble_eq_true rfl) rfl (Nat.le_of_ble_eq_true rfl) (fun x10 k12 hr11 => ?_)
        have hM13 : TM (x10.2) h := hM3.tw k12
        refine x_istore (μ := mu_tw_remove) (pc := 58) (lv' := [(4, vI (x10.1)), (3, vI x6), (0, vR h), (1, vI v1), (2, vI v2)]) dX11_remove_58 (by decide) rfl ?_
        refine x_aload_n (μ := mu_tw_remove) (pc := 60) 2 dX11_remove_60 rfl ?_
        refine x_iload_n (μ := mu_tw_remove) (pc := 61) 3 dX11_remove_61 rfl ?_
        refine x_iload_n (μ := mu_tw_remove) (pc := 62) 4 dX11_remove_62 rfl ?_
        refine x_iload (μ := mu_tw_remove) (pc := 63) 0 dX11_remove_63 rfl ?_
        refine x_callV_mv (μ := mu_tw_remove) (pc := 65) (ok_tw_goLine (ω := ω) (l := l) (d := d - 1) (by omega) hM13 hv1 hv2 hr11) gRel_Tw gRel_Tw (fun _ q => q) q3553 q3555 qs189 q232 q3556 dX11_remove_65 rfl hM13.1 hy_tw_goLine (by omega) (Nat.le_of_ble_eq_true rfl) rfl (Nat.le_of_ble_eq_true rfl) (fun x14 k15 => ?_)
        have hM16 : TM x14 h := hM13.tw k15
        refine x_iload_n (μ := mu_tw_remove) (pc := 68) 1 dX11_remove_68 rfl ?_
        refine x_iconst (μ := mu_tw_remove) (pc := 69) dX11_remove_69 ?_
        refine x_isub (μ := mu_tw_remove) (pc := 70) dX11_remove_70 ?_
        refine x_w1 ?_
        exact x_iret (μ := mu_tw_remove) (pc := 71) dX11_remove_71 rfl rfl (gRel_Tw.1 _) (show g32 (w32 (x6 - 1)) from (w32_rng _))
      · refine x_aload_n (μ := mu_tw_remove) (pc := 48) 1 dX11_remove_48 rfl ?_
        refine x_iconst (μ := mu_tw_remove) (pc := 49) dX11_remove_49 ?_
        refine x_callV_mi (μ := mu_tw_remove) (pc := 50) (ok_tw_throwing (ω := ω) (l := l) (d := d - 1) (by omega) hM3 (by decide)) gRel_Tw gRel_Tw (fun _ q => q) q2960 q2962 qs78 q232 q2963 dX11_remove_50 rfl hM3.1 hy_tw_throwing (by omega) (Nat.le_of_ble_eq_true rfl) rfl (Nat.le_of_ble_eq_true rfl) (fun x17 k19 hr18 => ?_)
        have hM20 : TM (x17.2) h := hM3.tw k19
        exact x_iret (μ := mu_tw_remove) (pc := 53) dX11_remove_53 rfl rfl (gRel_Tw.1 _) (show g32 (x17.1) from hr18)
    · refine x_aload_n (μ := mu_tw_remove) (pc := 37) 1 dX11_remove_37 rfl ?_
      refine x_iconst (μ := mu_tw_remove) (pc := 38) dX11_remove_38 ?_
      refine x_callV_mi (μ := mu_tw_remove) (pc := 39) (ok_tw_throwing (ω := ω) (l := l) (d := d - 1) (by omega) hM3 (by decide)) gRel_Tw gRel_Tw (fun _ q => q) q2960 q2962 qs78 q232 q2963 dX11_remove_39 rfl hM3.1 hy_tw_throwing (by omega) (Nat.le_of_ble_eq_true rfl) rfl (Nat.le_of_ble_eq_true rfl) (fun x21 k23 hr22 => ?_)
      have hM24 : TM (x21.2) h := hM3.tw k23
      exact x_iret (μ := mu_tw_remove) (pc := 42) dX11_remove_42 rfl rfl (gRel_Tw.1 _) (show g32 (x21.1) from hr22)
  · refine x_aload_n (μ := mu_tw_remove) (pc := 14) 0 dX11_remove_14 rfl ?_
    refine x_iconst (μ := mu_tw_remove) (pc := 15) dX11_remove_15 ?_
    refine x_callV_mi (μ := mu_tw_remove) (pc := 16) (ok_tw_throwing (ω := ω) (l := l) (d := d - 1) (by omega) hM3 (by decide)) gRel_Tw gRel_Tw (fun _ q => q) q2960 q2962 qs78 q232 q2963 dX11_remove_16 rfl hM3.1 hy_tw_throwing (by omega) (Nat.le_of_ble_eq_true rfl) rfl (Nat.le_of_ble_eq_true rfl) (fun x25 k27 hr26 => ?_)
    have hM28 : TM (x25.2) h := hM3.tw k27
    exact x_iret (μ := mu_tw_remove) (pc := 19) dX11_remove_19 rfl rfl (gRel_Tw.1 _) (show g32 (x25.1) from hr26)
def tw_shift_j290 (N : Nat) (h : Nat) (v1 : Int) (v6 : Int) (v10 : Int) (v11 : Int) (t0 : Int) (t1 : Int) (s : gMem) : Option gMem := if 0 ≤ t1 ∧ t1 < ((60420 : Nat) : Int) then gLet (wI s (h + 22) t1.toNat t0) (fun s23 => if v11 = 0 then if 0 ≤ v1 ∧ v1 < ((60420 : Nat) : Int) then gLet (wI s23 (h + 23) v1.toNat (-1)) (fun s26 => some s26) else none else if v6 = 0 then if 0 ≤ v1 ∧ v1 < ((60420 : Nat) : Int) then gLet (wI s23 (h + 23) v1.toNat (-1)) (fun s29 => some s29) else none else if 0 ≤ v1 ∧ v1 < ((60420 : Nat) : Int) then gLet (wI s23 (h + 23) v1.toNat v10) (fun s32 => some s32) else none) else none
set_option maxRecDepth 100000 in
theorem okj_tw_shift_j290 {ω : gW} {l : Launch} {d : Nat} {N : Nat} {h : Nat} {σ0 : gMem} {s : gMem} {v1 : Int} {v6 : Int} {v10 : Int} {v11 : Int} {t0 : Int} {t1 : Int} (hdp : 3 ≤ d) (hM : TM s h) (hv1 : g32 v1) (hv6 : g32 v6) (hv10 : g32 v10) (hv11 : g32 v11) (ht0 : g32 t0) (ht1 : g32 t1) : GG (fun p : gMem => (.inl none, p)) gTw ω l d mu_tw_shift σ0 290 [(0, vR h), (1, vI v1), (6, vI v6), (10, vI v10), (11, vI v11)] [vI t0, vI t1, vR (h + 22)] s (tw_shift_j290 N h v1 v6 v10 v11 t0 t1 s) := by
  unfold tw_shift_j290
  refine x_iast (μ := mu_tw_shift) (pc := 290) dX11_shift_290 (hM.a34).2.1 (hM.a34).2.2 (fun _ _ q => gTw_wI q) ?_
  refine x_let (fun s23 e24 => ?_)
  have hM25 := TM.eI e24 hM
  refine x_aload_n (μ := mu_tw_shift) (pc := 291) 0 dX11_shift_291 rfl ?_
  refine x_fgrE (μ := mu_tw_shift) (pc := 292) fX11_35 (Or.inr ⟨_, rfl⟩) q2671 (hM25.a35).1 dX11_shift_292 hM25.1 ?_
  refine x_iload_n (μ := mu_tw_shift) (pc := 295) 1 dX11_shift_295 rfl ?_
  refine x_iload (μ := mu_tw_shift) (pc := 296) 4 dX11_shift_296 rfl ?_
  refine x_if_eq (μ := mu_tw_shift) (pc := 298) (tgt := 311) dX11_shift_298 rfl hv11 ?_ ?_
  · refine x_iconst (μ := mu_tw_shift) (pc := 311) dX11_shift_311 ?_
    refine x_iast (μ := mu_tw_shift) (pc := 312) dX11_shift_312 (hM25.a35).2.1 (hM25.a35).2.2 (fun _ _ q => gTw_wI q) ?_
    refine x_let (fun s26 e27 => ?_)
    have hM28 := TM.eI e27 hM25
    exact x_vret (μ := mu_tw_shift) (pc := 313) (a1 := s26) dX11_shift_313 rfl rfl (gRel_Tw.1 _) trivial
  · refine x_iload (μ := mu_tw_shift) (pc := 301) 2 dX11_shift_301 rfl ?_
    refine x_if_eq (μ := mu_tw_shift) (pc := 303) (tgt := 311) dX11_shift_303 rfl hv6 ?_ ?_
    · refine x_iconst (μ := mu_tw_shift) (pc := 311) dX11_shift_311 ?_
      refine x_iast (μ := mu_tw_shift) (pc := 312) dX11_shift_312 (hM25.a35).2.1 (hM25.a35).2.2 (fun _ _ q => gTw_wI q) ?_
      refine x_let (fun s29 e30 => ?_)
      have hM31 := TM.eI e30 hM25
      exact x_vret (μ := mu_tw_shift) (pc := 313) (a1 := s29) dX11_shift_313 rfl rfl (gRel_Tw.1 _) trivial
    · refine x_iload (μ := mu_tw_shift) (pc := 306) 3 dX11_shift_306 rfl ?_
      refine x_goto (μ := mu_tw_shift) (pc := 308) (tgt := 312) dX11_shift_308 rfl ?_
      refine x_iast (μ := mu_tw_shift) (pc := 312) dX11_shift_312 (hM25.a35).2.1 (hM25.a35).2.2 (fun _ _ q => gTw_wI q) ?_
      refine x_let (fun s32 e33 => ?_)
      have hM34 := TM.eI e33 hM25
      exact x_vret (μ := mu_tw_shift) (pc := 313) (a1 := s32) dX11_shift_313 rfl rfl (gRel_Tw.1 _) trivial
def tw_shift_j289 (N : Nat) (h : Nat) (v1 : Int) (v6 : Int) (v10 : Int) (v11 : Int) (t0 : Int) (s : gMem) : Option gMem := tw_shift_j290 N h v1 v6 v10 v11 (-1) t0 s
set_option maxRecDepth 100000 in
theorem okj_tw_shift_j289 {ω : gW} {l : Launch} {d : Nat} {N : Nat} {h : Nat} {σ0 : gMem} {s : gMem} {v1 : Int} {v6 : Int} {v10 : Int} {v11 : Int} {t0 : Int} (hdp : 3 ≤ d) (hM : TM s h) (hv1 : g32 v1) (hv6 : g32 v6) (hv10 : g32 v10) (hv11 : g32 v11) (ht0 : g32 t0) : GG (fun p : gMem => (.inl none, p)) gTw ω l d mu_tw_shift σ0 289 [(0, vR h), (1, vI v1), (6, vI v6), (10, vI v10), (11, vI v11)] [vI t0, vR (h + 22)] s (tw_shift_j289 N h v1 v6 v10 v11 t0 s) := by
  unfold tw_shift_j289
  refine x_iconst (μ := mu_tw_shift) (pc := 289) dX11_shift_289 ?_
  exact okj_tw_shift_j290 hdp hM hv1 hv6 hv10 hv11 (by decide) ht0
def tw_shift_j268 (N : Nat) (h : Nat) (v1 : Int) (v6 : Int) (v9 : Int) (v10 : Int) (v11 : Int) (t0 : Int) (t1 : Int) (s : gMem) : Option gMem := if 0 ≤ t1 ∧ t1 < ((60420 : Nat) : Int) then gLet (wI s (h + 21) t1.toNat t0) (fun s20 => if v11 = 0 then tw_shift_j289 N h v1 v6 v10 v11 v1 s20 else if v6 = 0 then tw_shift_j289 N h v1 v6 v10 v11 v1 s20 else tw_shift_j290 N h v1 v6 v10 v11 v9 v1 s20) else none
set_option maxRecDepth 100000 in
theorem okj_tw_shift_j268 {ω : gW} {l : Launch} {d : Nat} {N : Nat} {h : Nat} {σ0 : gMem} {s : gMem} {v1 : Int} {v6 : Int} {v9 : Int} {v10 : Int} {v11 : Int} {t0 : Int} {t1 : Int} (hdp : 3 ≤ d) (hM : TM s h) (hv1 : g32 v1) (hv6 : g32 v6) (hv9 : g32 v9) (hv10 : g32 v10) (hv11 : g32 v11) (ht0 : g32 t0) (ht1 : g32 t1) : GG (fun p : gMem => (.inl none, p)) gTw ω l d mu_tw_shift σ0 268 [(0, vR h), (1, vI v1), (6, vI v6), (9, vI v9), (10, vI v10), (11, vI v11)] [vI t0, vI t1, vR (h + 21)] s (tw_shift_j268 N h v1 v6 v9 v10 v11 t0 t1 s) := by
  unfold tw_shift_j268
  refine x_iast (μ := mu_tw_shift) (pc := 268) dX11_shift_268 (hM.a33).2.1 (hM.a33).2.2 (fun _ _ q => gTw_wI q) ?_
  refine x_let (fun s20 e21 => ?_)
  have hM22 := TM.eI e21 hM
  refine x_aload_n (μ := mu_tw_shift) (pc := 269) 0 dX11_shift_269 rfl ?_
  refine x_fgrE (μ := mu_tw_shift) (pc := 270) fX11_34 (Or.inr ⟨_, rfl⟩) q2670 (hM22.a34).1 dX11_shift_270 hM22.1 ?_
  refine x_iload_n (μ := mu_tw_shift) (pc := 273) 1 dX11_shift_273 rfl ?_
  refine x_iload (μ := mu_tw_shift) (pc := 274) 5 dX11_shift_274 rfl ?_
  refine x_if_eq (μ := mu_tw_shift) (pc := 276) (tgt := 289) dX11_shift_276 rfl hv11 ?_ ?_
  · refine x_loc (lv' := [(0, vR h), (1, vI v1), (6, vI v6), (10, vI v10), (11, vI v11)]) [0, 1, 2, 4, 5] rfl ?_
    exact okj_tw_shift_j289 hdp hM22 hv1 hv6 hv10 hv11 hv1
  · refine x_iload (μ := mu_tw_shift) (pc := 279) 2 dX11_shift_279 rfl ?_
    refine x_if_eq (μ := mu_tw_shift) (pc := 281) (tgt := 289) dX11_shift_281 rfl hv6 ?_ ?_
    · refine x_loc (lv' := [(0, vR h), (1, vI v1), (6, vI v6), (10, vI v10), (11, vI v11)]) [0, 1, 2, 4, 5] rfl ?_
      exact okj_tw_shift_j289 hdp hM22 hv1 hv6 hv10 hv11 hv1
    · refine x_iload (μ := mu_tw_shift) (pc := 284) 3 dX11_shift_284 rfl ?_
      refine x_goto (μ := mu_tw_shift) (pc := 286) (tgt := 290) dX11_shift_286 rfl ?_
      refine x_loc (lv' := [(0, vR h), (1, vI v1), (6, vI v6), (10, vI v10), (11, vI v11)]) [0, 1, 2, 4, 5] rfl ?_
      exact okj_tw_shift_j290 hdp hM22 hv1 hv6 hv10 hv11 hv9 hv1
def tw_shift_j251 (N : Nat) (h : Nat) (v1 : Int) (v6 : Int) (v8 : Int) (v9 : Int) (v10 : Int) (v11 : Int) (t0 : Int) (t1 : Int) (s : gMem) : Option gMem := if 0 ≤ t1 ∧ t1 < ((60420 : Nat) : Int) then gLet (wI s (h + 20) t1.toNat t0) (fun s17 => if v11 = 0 then tw_shift_j268 N h v1 v6 v9 v10 v11 (-1) v1 s17 else tw_shift_j268 N h v1 v6 v9 v10 v11 v8 v1 s17) else none
set_option maxRecDepth 100000 in
theorem okj_tw_shift_j251 {ω : gW} {l : Launch} {d : Nat} {N : Nat} {h : Nat} {σ0 : gMem} {s : gMem} {v1 : Int} {v6 : Int} {v8 : Int} {v9 : Int} {v10 : Int} {v11 : Int} {t0 : Int} {t1 : Int} (hdp : 3 ≤ d) (hM : TM s h) (hv1 : g32 v1) (hv6 : g32 v6) (hv8 : g32 v8) (hv9 : g32 v9) (hv10 : g32 v10) (hv11 : g32 v11) (ht0 : g32 t0) (ht1 : g32 t1) : GG (fun p : gMem => (.inl none, p)) gTw ω l d mu_tw_shift σ0 251 [(0, vR h), (1, vI v1), (6, vI v6), (8, vI v8), (9, vI v9), (10, vI v10), (11, vI v11)] [vI t0, vI t1, vR (h + 20)] s (tw_shift_j251 N h v1 v6 v8 v9 v10 v11 t0 t1 s) := by
  unfold tw_shift_j251
  refine x_iast (μ := mu_tw_shift) (pc := 251) dX11_shift_251 (hM.a32).2.1 (hM.a32).2.2 (fun _ _ q => gTw_wI q) ?_
  refine x_let (fun s17 e18 => ?_)
  have hM19 := TM.eI e18 hM
  refine x_aload_n (μ := mu_tw_shift) (pc := 252) 0 dX11_shift_252 rfl ?_
  refine x_fgrE (μ := mu_tw_shift) (pc := 253) fX11_33 (Or.inr ⟨_, rfl⟩) q2669 (hM19.a33).1 dX11_shift_253 hM19.1 ?_
  refine x_iload_n (μ := mu_tw_shift) (pc := 256) 1 dX11_shift_256 rfl ?_
  refine x_iload (μ := mu_tw_shift) (pc := 257) 6 dX11_shift_257 rfl ?_
  refine x_if_eq (μ := mu_tw_shift) (pc := 259) (tgt := 267) dX11_shift_259 rfl hv11 ?_ ?_
  · refine x_iconst (μ := mu_tw_shift) (pc := 267) dX11_shift_267 ?_
    refine x_loc (lv' := [(0, vR h), (1, vI v1), (6, vI v6), (9, vI v9), (10, vI v10), (11, vI v11)]) [0, 1, 2, 4, 5, 6] rfl ?_
    exact okj_tw_shift_j268 hdp hM19 hv1 hv6 hv9 hv10 hv11 (by decide) hv1
  · refine x_iload (μ := mu_tw_shift) (pc := 262) 3 dX11_shift_262 rfl ?_
    refine x_goto (μ := mu_tw_shift) (pc := 264) (tgt := 268) dX11_shift_264 rfl ?_
    refine x_loc (lv' := [(0, vR h), (1, vI v1), (6, vI v6), (9, vI v9), (10, vI v10), (11, vI v11)]) [0, 1, 2, 4, 5, 6] rfl ?_
    exact okj_tw_shift_j268 hdp hM19 hv1 hv6 hv9 hv10 hv11 hv8 hv1
def tw_shift_j235 (N : Nat) (h : Nat) (v1 : Int) (v6 : Int) (v7 : Int) (v8 : Int) (v9 : Int) (v10 : Int) (v11 : Int) (s : gMem) : Option gMem := if v11 = 0 then tw_shift_j251 N h v1 v6 v8 v9 v10 v11 (-1) v1 s else tw_shift_j251 N h v1 v6 v8 v9 v10 v11 v7 v1 s
set_option maxRecDepth 100000 in
theorem okj_tw_shift_j235 {ω : gW} {l : Launch} {d : Nat} {N : Nat} {h : Nat} {σ0 : gMem} {s : gMem} {v1 : Int} {v6 : Int} {v7 : Int} {v8 : Int} {v9 : Int} {v10 : Int} {v11 : Int} (hdp : 3 ≤ d) (hM : TM s h) (hv1 : g32 v1) (hv6 : g32 v6) (hv7 : g32 v7) (hv8 : g32 v8) (hv9 : g32 v9) (hv10 : g32 v10) (hv11 : g32 v11) : GG (fun p : gMem => (.inl none, p)) gTw ω l d mu_tw_shift σ0 235 [(0, vR h), (1, vI v1), (6, vI v6), (7, vI v7), (8, vI v8), (9, vI v9), (10, vI v10), (11, vI v11)] [] s (tw_shift_j235 N h v1 v6 v7 v8 v9 v10 v11 s) := by
  unfold tw_shift_j235
  refine x_aload_n (μ := mu_tw_shift) (pc := 235) 0 dX11_shift_235 rfl ?_
  refine x_fgrE (μ := mu_tw_shift) (pc := 236) fX11_32 (Or.inr ⟨_, rfl⟩) q2668 (hM.a32).1 dX11_shift_236 hM.1 ?_
  refine x_iload_n (μ := mu_tw_shift) (pc := 239) 1 dX11_shift_239 rfl ?_
  refine x_iload (μ := mu_tw_shift) (pc := 240) 7 dX11_shift_240 rfl ?_
  refine x_if_eq (μ := mu_tw_shift) (pc := 242) (tgt := 250) dX11_shift_242 rfl hv11 ?_ ?_
  · refine x_iconst (μ := mu_tw_shift) (pc := 250) dX11_shift_250 ?_
    refine x_loc (lv' := [(0, vR h), (1, vI v1), (6, vI v6), (8, vI v8), (9, vI v9), (10, vI v10), (11, vI v11)]) [0, 1, 2, 4, 5, 6, 7] rfl ?_
    exact okj_tw_shift_j251 hdp hM hv1 hv6 hv8 hv9 hv10 hv11 (by decide) hv1
  · refine x_iload (μ := mu_tw_shift) (pc := 245) 3 dX11_shift_245 rfl ?_
    refine x_goto (μ := mu_tw_shift) (pc := 247) (tgt := 251) dX11_shift_247 rfl ?_
    refine x_loc (lv' := [(0, vR h), (1, vI v1), (6, vI v6), (8, vI v8), (9, vI v9), (10, vI v10), (11, vI v11)]) [0, 1, 2, 4, 5, 6, 7] rfl ?_
    exact okj_tw_shift_j251 hdp hM hv1 hv6 hv8 hv9 hv10 hv11 hv7 hv1
def tw_shift_j207 (N : Nat) (h : Nat) (v1 : Int) (v6 : Int) (v7 : Int) (v8 : Int) (v9 : Int) (v10 : Int) (t0 : Int) (s : gMem) : Option gMem := if t0 ≠ 0 then tw_shift_j235 N h v1 v6 v7 v8 v9 v10 t0  s else if 0 ≤ v1 ∧ v1 < ((60420 : Nat) : Int) then gLet (wI s (h + 14) v1.toNat 4) (fun s35 => if 0 ≤ v1 ∧ v1 < ((60420 : Nat) : Int) then gLet (wI s35 (h + 24) v1.toNat 0) (fun s38 => if 0 ≤ v1 ∧ v1 < ((60420 : Nat) : Int) then gLet (wI s38 (h + 25) v1.toNat (-1)) (fun s41 => tw_shift_j235 N h v1 v6 v7 v8 v9 v10 t0  s41) else none) else none) else none
set_option maxRecDepth 100000 in
theorem okj_tw_shift_j207 {ω : gW} {l : Launch} {d : Nat} {N : Nat} {h : Nat} {σ0 : gMem} {s : gMem} {v1 : Int} {v6 : Int} {v7 : Int} {v8 : Int} {v9 : Int} {v10 : Int} {t0 : Int} (hdp : 3 ≤ d) (hM : TM s h) (hv1 : g32 v1) (hv6 : g32 v6) (hv7 : g32 v7) (hv8 : g32 v8) (hv9 : g32 v9) (hv10 : g32 v10) (ht0 : g32 t0) : GG (fun p : gMem => (.inl none, p)) gTw ω l d mu_tw_shift σ0 207 [(0, vR h), (1, vI v1), (6, vI v6), (7, vI v7), (8, vI v8), (9, vI v9), (10, vI v10)] [vI t0] s (tw_shift_j207 N h v1 v6 v7 v8 v9 v10 t0 s) := by
  unfold tw_shift_j207
  refine x_istore (μ := mu_tw_shift) (pc := 207) (lv' := [(11, vI t0), (0, vR h), (1, vI v1), (6, vI v6), (7, vI v7), (8, vI v8), (9, vI v9), (10, vI v10)]) dX11_shift_207 (by decide) rfl ?_
  refine x_iload (μ := mu_tw_shift) (pc := 209) 0 dX11_shift_209 rfl ?_
  refine x_if_ne (μ := mu_tw_shift) (pc := 211) (tgt := 235) dX11_shift_211 rfl ht0 ?_ ?_
  · refine x_loc (lv' := [(0, vR h), (1, vI v1), (6, vI v6), (7, vI v7), (8, vI v8), (9, vI v9), (10, vI v10), (11, vI t0)]) [1, 2, 3, 4, 5, 6, 7, 0] rfl ?_
    exact okj_tw_shift_j235 hdp hM hv1 hv6 hv7 hv8 hv9 hv10 ht0
  · refine x_aload_n (μ := mu_tw_shift) (pc := 214) 1 dX11_shift_214 rfl ?_
    refine x_fgrE (μ := mu_tw_shift) (pc := 215) fX11_26 (Or.inr ⟨_, rfl⟩) q2662 (hM.a26).1 dX11_shift_215 hM.1 ?_
    refine x_iload_n (μ := mu_tw_shift) (pc := 218) 2 dX11_shift_218 rfl ?_
    refine x_iconst (μ := mu_tw_shift) (pc := 219) dX11_shift_219 ?_
    refine x_iast (μ := mu_tw_shift) (pc := 220) dX11_shift_220 (hM.a26).2.1 (hM.a26).2.2 (fun _ _ q => gTw_wI q) ?_
    refine x_let (fun s35 e36 => ?_)
    have hM37 := TM.eI e36 hM
    refine x_aload_n (μ := mu_tw_shift) (pc := 221) 1 dX11_shift_221 rfl ?_
    refine x_fgrE (μ := mu_tw_shift) (pc := 222) fX11_36 (Or.inr ⟨_, rfl⟩) q2672 (hM37.a36).1 dX11_shift_222 hM37.1 ?_
    refine x_iload_n (μ := mu_tw_shift) (pc := 225) 2 dX11_shift_225 rfl ?_
    refine x_iconst (μ := mu_tw_shift) (pc := 226) dX11_shift_226 ?_
    refine x_iast (μ := mu_tw_shift) (pc := 227) dX11_shift_227 (hM37.a36).2.1 (hM37.a36).2.2 (fun _ _ q => gTw_wI q) ?_
    refine x_let (fun s38 e39 => ?_)
    have hM40 := TM.eI e39 hM37
    refine x_aload_n (μ := mu_tw_shift) (pc := 228) 1 dX11_shift_228 rfl ?_
    refine x_fgrE (μ := mu_tw_shift) (pc := 229) fX11_37 (Or.inr ⟨_, rfl⟩) q2673 (hM40.a37).1 dX11_shift_229 hM40.1 ?_
    refine x_iload_n (μ := mu_tw_shift) (pc := 232) 2 dX11_shift_232 rfl ?_
    refine x_iconst (μ := mu_tw_shift) (pc := 233) dX11_shift_233 ?_
    refine x_iast (μ := mu_tw_shift) (pc := 234) dX11_shift_234 (hM40.a37).2.1 (hM40.a37).2.2 (fun _ _ q => gTw_wI q) ?_
    refine x_let (fun s41 e42 => ?_)
    have hM43 := TM.eI e42 hM40
    refine x_loc (lv' := [(0, vR h), (1, vI v1), (6, vI v6), (7, vI v7), (8, vI v8), (9, vI v9), (10, vI v10), (11, vI t0)]) [1, 2, 3, 4, 5, 6, 7, 0] rfl ?_
    exact okj_tw_shift_j235 hdp hM43 hv1 hv6 hv7 hv8 hv9 hv10 ht0
def tw_shift_j206 (N : Nat) (h : Nat) (v1 : Int) (v6 : Int) (v7 : Int) (v8 : Int) (v9 : Int) (v10 : Int) (s : gMem) : Option gMem := tw_shift_j207 N h v1 v6 v7 v8 v9 v10 0 s
set_option maxRecDepth 100000 in
theorem okj_tw_shift_j206 {ω : gW} {l : Launch} {d : Nat} {N : Nat} {h : Nat} {σ0 : gMem} {s : gMem} {v1 : Int} {v6 : Int} {v7 : Int} {v8 : Int} {v9 : Int} {v10 : Int} (hdp : 3 ≤ d) (hM : TM s h) (hv1 : g32 v1) (hv6 : g32 v6) (hv7 : g32 v7) (hv8 : g32 v8) (hv9 : g32 v9) (hv10 : g32 v10) : GG (fun p : gMem => (.inl none, p)) gTw ω l d mu_tw_shift σ0 206 [(0, vR h), (1, vI v1), (6, vI v6), (7, vI v7), (8, vI v8), (9, vI v9), (10, vI v10)] [] s (tw_shift_j206 N h v1 v6 v7 v8 v9 v10 s) := by
  unfold tw_shift_j206
  refine x_iconst (μ := mu_tw_shift) (pc := 206) dX11_shift_206 ?_
  exact okj_tw_shift_j207 hdp hM hv1 hv6 hv7 hv8 hv9 hv10 (by decide)
def tw_shift_j180 (N : Nat) (h : Nat) (v1 : Int) (v6 : Int) (v7 : Int) (v8 : Int) (v9 : Int) (t0 : Int) (s : gMem) : Option gMem := if v7 < 0 then tw_shift_j206 N h v1 v6 v7 v8 v9 t0  s else if v8 < 0 then tw_shift_j206 N h v1 v6 v7 v8 v9 t0  s else if v9 < 0 then tw_shift_j206 N h v1 v6 v7 v8 v9 t0  s else if t0 < 0 then tw_shift_j206 N h v1 v6 v7 v8 v9 t0  s else tw_shift_j207 N h v1 v6 v7 v8 v9 t0 1 s
set_option maxRecDepth 100000 in
theorem okj_tw_shift_j180 {ω : gW} {l : Launch} {d : Nat} {N : Nat} {h : Nat} {σ0 : gMem} {s : gMem} {v1 : Int} {v6 : Int} {v7 : Int} {v8 : Int} {v9 : Int} {t0 : Int} (hdp : 3 ≤ d) (hM : TM s h) (hv1 : g32 v1) (hv6 : g32 v6) (hv7 : g32 v7) (hv8 : g32 v8) (hv9 : g32 v9) (ht0 : g32 t0) : GG (fun p : gMem => (.inl none, p)) gTw ω l d mu_tw_shift σ0 180 [(0, vR h), (1, vI v1), (6, vI v6), (7, vI v7), (8, vI v8), (9, vI v9)] [vI t0] s (tw_shift_j180 N h v1 v6 v7 v8 v9 t0 s) := by
  unfold tw_shift_j180
  refine x_istore (μ := mu_tw_shift) (pc := 180) (lv' := [(10, vI t0), (0, vR h), (1, vI v1), (6, vI v6), (7, vI v7), (8, vI v8), (9, vI v9)]) dX11_shift_180 (by decide) rfl ?_
  refine x_iload (μ := mu_tw_shift) (pc := 182) 4 dX11_shift_182 rfl ?_
  refine x_if_lt (μ := mu_tw_shift) (pc := 184) (tgt := 206) dX11_shift_184 rfl hv7 ?_ ?_
  · refine x_loc (lv' := [(0, vR h), (1, vI v1), (6, vI v6), (7, vI v7), (8, vI v8), (9, vI v9), (10, vI t0)]) [1, 2, 3, 4, 5, 6, 0] rfl ?_
    exact okj_tw_shift_j206 hdp hM hv1 hv6 hv7 hv8 hv9 ht0
  · refine x_iload (μ := mu_tw_shift) (pc := 187) 5 dX11_shift_187 rfl ?_
    refine x_if_lt (μ := mu_tw_shift) (pc := 189) (tgt := 206) dX11_shift_189 rfl hv8 ?_ ?_
    · refine x_loc (lv' := [(0, vR h), (1, vI v1), (6, vI v6), (7, vI v7), (8, vI v8), (9, vI v9), (10, vI t0)]) [1, 2, 3, 4, 5, 6, 0] rfl ?_
      exact okj_tw_shift_j206 hdp hM hv1 hv6 hv7 hv8 hv9 ht0
    · refine x_iload (μ := mu_tw_shift) (pc := 192) 6 dX11_shift_192 rfl ?_
      refine x_if_lt (μ := mu_tw_shift) (pc := 194) (tgt := 206) dX11_shift_194 rfl hv9 ?_ ?_
      · refine x_loc (lv' := [(0, vR h), (1, vI v1), (6, vI v6), (7, vI v7), (8, vI v8), (9, vI v9), (10, vI t0)]) [1, 2, 3, 4, 5, 6, 0] rfl ?_
        exact okj_tw_shift_j206 hdp hM hv1 hv6 hv7 hv8 hv9 ht0
      · refine x_iload (μ := mu_tw_shift) (pc := 197) 0 dX11_shift_197 rfl ?_
        refine x_if_lt (μ := mu_tw_shift) (pc := 199) (tgt := 206) dX11_shift_199 rfl ht0 ?_ ?_
        · refine x_loc (lv' := [(0, vR h), (1, vI v1), (6, vI v6), (7, vI v7), (8, vI v8), (9, vI v9), (10, vI t0)]) [1, 2, 3, 4, 5, 6, 0] rfl ?_
          exact okj_tw_shift_j206 hdp hM hv1 hv6 hv7 hv8 hv9 ht0
        · refine x_iconst (μ := mu_tw_shift) (pc := 202) dX11_shift_202 ?_
          refine x_goto (μ := mu_tw_shift) (pc := 203) (tgt := 207) dX11_shift_203 rfl ?_
          refine x_loc (lv' := [(0, vR h), (1, vI v1), (6, vI v6), (7, vI v7), (8, vI v8), (9, vI v9), (10, vI t0)]) [1, 2, 3, 4, 5, 6, 0] rfl ?_
          exact okj_tw_shift_j207 hdp hM hv1 hv6 hv7 hv8 hv9 ht0 (by decide)
def tw_shift_j139 (N : Nat) (h : Nat) (v1 : Int) (v3 : Int) (v4 : Int) (v5 : Int) (v6 : Int) (v7 : Int) (v8 : Int) (t0 : Int) (s : gMem) : Option gMem := if v6 ≠ 0 then if bAnd v5 4 ≤ 0 then if 0 ≤ v1 ∧ v1 < ((60420 : Nat) : Int) then (tw_further N h v4 1 (mI s (h + 23) v1.toNat) v3 s).bind (fun x15 => tw_shift_j180 N h v1 v6 v7 v8 t0 x15 s) else none else if 0 ≤ v1 ∧ v1 < ((60420 : Nat) : Int) then tw_shift_j180 N h v1 v6 v7 v8 t0 (mI s (h + 23) v1.toNat) s else none else tw_shift_j180 N h v1 v6 v7 v8 t0 0 s
set_option maxRecDepth 100000 in
theorem okj_tw_shift_j139 {ω : gW} {l : Launch} {d : Nat} {N : Nat} {h : Nat} {σ0 : gMem} {s : gMem} {v1 : Int} {v3 : Int} {v4 : Int} {v5 : Int} {v6 : Int} {v7 : Int} {v8 : Int} {t0 : Int} (hdp : 3 ≤ d) (hM : TM s h) (hv1 : g32 v1) (hv3 : g32 v3) (hv4 : g32 v4) (hv5 : g32 v5) (hv6 : g32 v6) (hv7 : g32 v7) (hv8 : g32 v8) (ht0 : g32 t0) : GG (fun p : gMem => (.inl none, p)) gTw ω l d mu_tw_shift σ0 139 [(0, vR h), (1, vI v1), (3, vI v3), (4, vI v4), (5, vI v5), (6, vI v6), (7, vI v7), (8, vI v8)] [vI t0] s (tw_shift_j139 N h v1 v3 v4 v5 v6 v7 v8 t0 s) := by
  unfold tw_shift_j139
  refine x_istore (μ := mu_tw_shift) (pc := 139) (lv' := [(9, vI t0), (0, vR h), (1, vI v1), (3, vI v3), (4, vI v4), (5, vI v5), (6, vI v6), (7, vI v7), (8, vI v8)]) dX11_shift_139 (by decide) rfl ?_
  refine x_iload (μ := mu_tw_shift) (pc := 141) 6 dX11_shift_141 rfl ?_
  refine x_if_ne (μ := mu_tw_shift) (pc := 143) (tgt := 150) dX11_shift_143 rfl hv6 ?_ ?_
  · refine x_iload (μ := mu_tw_shift) (pc := 150) 5 dX11_shift_150 rfl ?_
    refine x_iconst (μ := mu_tw_shift) (pc := 152) dX11_shift_152 ?_
    refine x_iand (μ := mu_tw_shift) (pc := 153) dX11_shift_153 ?_
    refine x_if_le (μ := mu_tw_shift) (pc := 154) (tgt := 166) dX11_shift_154 rfl (bAnd_rng _ _) ?_ ?_
    · refine x_aload_n (μ := mu_tw_shift) (pc := 166) 1 dX11_shift_166 rfl ?_
      refine x_iload (μ := mu_tw_shift) (pc := 167) 4 dX11_shift_167 rfl ?_
      refine x_iconst (μ := mu_tw_shift) (pc := 169) dX11_shift_169 ?_
      refine x_aload_n (μ := mu_tw_shift) (pc := 170) 1 dX11_shift_170 rfl ?_
      refine x_fgrE (μ := mu_tw_shift) (pc := 171) fX11_35 (Or.inr ⟨_, rfl⟩) q2671 (hM.a35).1 dX11_shift_171 hM.1 ?_
      refine x_iload_n (μ := mu_tw_shift) (pc := 174) 2 dX11_shift_174 rfl ?_
      refine x_iald (μ := mu_tw_shift) (pc := 175) dX11_shift_175 (hM.a35).2.1 (hM.a35).2.2 (fun hr14 => ?_)
      refine x_iload_n (μ := mu_tw_shift) (pc := 176) 3 dX11_shift_176 rfl ?_
      refine x_callV_pi (μ := mu_tw_shift) (pc := 177) (ok_tw_further (ω := ω) (l := l) (d := d - 1) (by omega) hM hv4 (by decide) hr14 hv3) gRel_Tw gRel_Tw (fun _ q => q) q3573 q3575 qs192 q232 q3576 dX11_shift_177 rfl hM.1 hy_tw_further (by omega) (Nat.le_of_ble_eq_true rfl) rfl (Nat.le_of_ble_eq_true rfl) (fun x15 hr16 => ?_)
      refine x_loc (lv' := [(0, vR h), (1, vI v1), (6, vI v6), (7, vI v7), (8, vI v8), (9, vI t0)]) [1, 2, 6, 7, 8, 0] rfl ?_
      exact okj_tw_shift_j180 hdp hM hv1 hv6 hv7 hv8 ht0 hr16
    · refine x_aload_n (μ := mu_tw_shift) (pc := 157) 1 dX11_shift_157 rfl ?_
      refine x_fgrE (μ := mu_tw_shift) (pc := 158) fX11_35 (Or.inr ⟨_, rfl⟩) q2671 (hM.a35).1 dX11_shift_158 hM.1 ?_
      refine x_iload_n (μ := mu_tw_shift) (pc := 161) 2 dX11_shift_161 rfl ?_
      refine x_iald (μ := mu_tw_shift) (pc := 162) dX11_shift_162 (hM.a35).2.1 (hM.a35).2.2 (fun hr44 => ?_)
      refine x_goto (μ := mu_tw_shift) (pc := 163) (tgt := 180) dX11_shift_163 rfl ?_
      refine x_loc (lv' := [(0, vR h), (1, vI v1), (6, vI v6), (7, vI v7), (8, vI v8), (9, vI t0)]) [1, 2, 6, 7, 8, 0] rfl ?_
      exact okj_tw_shift_j180 hdp hM hv1 hv6 hv7 hv8 ht0 hr44
  · refine x_iconst (μ := mu_tw_shift) (pc := 146) dX11_shift_146 ?_
    refine x_goto (μ := mu_tw_shift) (pc := 147) (tgt := 180) dX11_shift_147 rfl ?_
    refine x_loc (lv' := [(0, vR h), (1, vI v1), (6, vI v6), (7, vI v7), (8, vI v8), (9, vI t0)]) [1, 2, 6, 7, 8, 0] rfl ?_
    exact okj_tw_shift_j180 hdp hM hv1 hv6 hv7 hv8 ht0 (by decide)
def tw_shift_j97 (N : Nat) (h : Nat) (v1 : Int) (v2 : Int) (v3 : Int) (v4 : Int) (v5 : Int) (v6 : Int) (v7 : Int) (t0 : Int) (s : gMem) : Option gMem := if v6 ≠ 0 then if bAnd v5 8 ≤ 0 then if 0 ≤ v1 ∧ v1 < ((60420 : Nat) : Int) then (tw_further N h v4 0 (mI s (h + 22) v1.toNat) v2 s).bind (fun x12 => tw_shift_j139 N h v1 v3 v4 v5 v6 v7 t0 x12 s) else none else if 0 ≤ v1 ∧ v1 < ((60420 : Nat) : Int) then tw_shift_j139 N h v1 v3 v4 v5 v6 v7 t0 (mI s (h + 22) v1.toNat) s else none else tw_shift_j139 N h v1 v3 v4 v5 v6 v7 t0 0 s
set_option maxRecDepth 100000 in
theorem okj_tw_shift_j97 {ω : gW} {l : Launch} {d : Nat} {N : Nat} {h : Nat} {σ0 : gMem} {s : gMem} {v1 : Int} {v2 : Int} {v3 : Int} {v4 : Int} {v5 : Int} {v6 : Int} {v7 : Int} {t0 : Int} (hdp : 3 ≤ d) (hM : TM s h) (hv1 : g32 v1) (hv2 : g32 v2) (hv3 : g32 v3) (hv4 : g32 v4) (hv5 : g32 v5) (hv6 : g32 v6) (hv7 : g32 v7) (ht0 : g32 t0) : GG (fun p : gMem => (.inl none, p)) gTw ω l d mu_tw_shift σ0 97 [(0, vR h), (1, vI v1), (2, vI v2), (3, vI v3), (4, vI v4), (5, vI v5), (6, vI v6), (7, vI v7)] [vI t0] s (tw_shift_j97 N h v1 v2 v3 v4 v5 v6 v7 t0 s) := by
  unfold tw_shift_j97
  refine x_istore (μ := mu_tw_shift) (pc := 97) (lv' := [(8, vI t0), (0, vR h), (1, vI v1), (2, vI v2), (3, vI v3), (4, vI v4), (5, vI v5), (6, vI v6), (7, vI v7)]) dX11_shift_97 (by decide) rfl ?_
  refine x_iload (μ := mu_tw_shift) (pc := 99) 7 dX11_shift_99 rfl ?_
  refine x_if_ne (μ := mu_tw_shift) (pc := 101) (tgt := 108) dX11_shift_101 rfl hv6 ?_ ?_
  · refine x_iload (μ := mu_tw_shift) (pc := 108) 6 dX11_shift_108 rfl ?_
    refine x_bipush (μ := mu_tw_shift) (pc := 110) dX11_shift_110 (by decide) ?_
    refine x_iand (μ := mu_tw_shift) (pc := 112) dX11_shift_112 ?_
    refine x_if_le (μ := mu_tw_shift) (pc := 113) (tgt := 125) dX11_shift_113 rfl (bAnd_rng _ _) ?_ ?_
    · refine x_aload_n (μ := mu_tw_shift) (pc := 125) 1 dX11_shift_125 rfl ?_
      refine x_iload (μ := mu_tw_shift) (pc := 126) 5 dX11_shift_126 rfl ?_
      refine x_iconst (μ := mu_tw_shift) (pc := 128) dX11_shift_128 ?_
      refine x_aload_n (μ := mu_tw_shift) (pc := 129) 1 dX11_shift_129 rfl ?_
      refine x_fgrE (μ := mu_tw_shift) (pc := 130) fX11_34 (Or.inr ⟨_, rfl⟩) q2670 (hM.a34).1 dX11_shift_130 hM.1 ?_
      refine x_iload_n (μ := mu_tw_shift) (pc := 133) 2 dX11_shift_133 rfl ?_
      refine x_iald (μ := mu_tw_shift) (pc := 134) dX11_shift_134 (hM.a34).2.1 (hM.a34).2.2 (fun hr11 => ?_)
      refine x_iload_n (μ := mu_tw_shift) (pc := 135) 3 dX11_shift_135 rfl ?_
      refine x_callV_pi (μ := mu_tw_shift) (pc := 136) (ok_tw_further (ω := ω) (l := l) (d := d - 1) (by omega) hM hv4 (by decide) hr11 hv2) gRel_Tw gRel_Tw (fun _ q => q) q3573 q3575 qs192 q232 q3576 dX11_shift_136 rfl hM.1 hy_tw_further (by omega) (Nat.le_of_ble_eq_true rfl) rfl (Nat.le_of_ble_eq_true rfl) (fun x12 hr13 => ?_)
      refine x_loc (lv' := [(0, vR h), (1, vI v1), (3, vI v3), (4, vI v4), (5, vI v5), (6, vI v6), (7, vI v7), (8, vI t0)]) [1, 2, 4, 5, 6, 7, 8, 0] rfl ?_
      exact okj_tw_shift_j139 hdp hM hv1 hv3 hv4 hv5 hv6 hv7 ht0 hr13
    · refine x_aload_n (μ := mu_tw_shift) (pc := 116) 1 dX11_shift_116 rfl ?_
      refine x_fgrE (μ := mu_tw_shift) (pc := 117) fX11_34 (Or.inr ⟨_, rfl⟩) q2670 (hM.a34).1 dX11_shift_117 hM.1 ?_
      refine x_iload_n (μ := mu_tw_shift) (pc := 120) 2 dX11_shift_120 rfl ?_
      refine x_iald (μ := mu_tw_shift) (pc := 121) dX11_shift_121 (hM.a34).2.1 (hM.a34).2.2 (fun hr45 => ?_)
      refine x_goto (μ := mu_tw_shift) (pc := 122) (tgt := 139) dX11_shift_122 rfl ?_
      refine x_loc (lv' := [(0, vR h), (1, vI v1), (3, vI v3), (4, vI v4), (5, vI v5), (6, vI v6), (7, vI v7), (8, vI t0)]) [1, 2, 4, 5, 6, 7, 8, 0] rfl ?_
      exact okj_tw_shift_j139 hdp hM hv1 hv3 hv4 hv5 hv6 hv7 ht0 hr45
  · refine x_iconst (μ := mu_tw_shift) (pc := 104) dX11_shift_104 ?_
    refine x_goto (μ := mu_tw_shift) (pc := 105) (tgt := 139) dX11_shift_105 rfl ?_
    refine x_loc (lv' := [(0, vR h), (1, vI v1), (3, vI v3), (4, vI v4), (5, vI v5), (6, vI v6), (7, vI v7), (8, vI t0)]) [1, 2, 4, 5, 6, 7, 8, 0] rfl ?_
    exact okj_tw_shift_j139 hdp hM hv1 hv3 hv4 hv5 hv6 hv7 ht0 (by decide)
def tw_shift_j65 (N : Nat) (h : Nat) (v1 : Int) (v2 : Int) (v3 : Int) (v4 : Int) (v5 : Int) (v6 : Int) (t0 : Int) (s : gMem) : Option gMem := if bAnd v5 1 ≤ 0 then if 0 ≤ v1 ∧ v1 < ((60420 : Nat) : Int) then (tw_further N h v4 1 (mI s (h + 21) v1.toNat) v3 s).bind (fun x9 => tw_shift_j97 N h v1 v2 v3 v4 v5 v6 t0 x9 s) else none else if 0 ≤ v1 ∧ v1 < ((60420 : Nat) : Int) then tw_shift_j97 N h v1 v2 v3 v4 v5 v6 t0 (mI s (h + 21) v1.toNat) s else none
set_option maxRecDepth 100000 in
theorem okj_tw_shift_j65 {ω : gW} {l : Launch} {d : Nat} {N : Nat} {h : Nat} {σ0 : gMem} {s : gMem} {v1 : Int} {v2 : Int} {v3 : Int} {v4 : Int} {v5 : Int} {v6 : Int} {t0 : Int} (hdp : 3 ≤ d) (hM : TM s h) (hv1 : g32 v1) (hv2 : g32 v2) (hv3 : g32 v3) (hv4 : g32 v4) (hv5 : g32 v5) (hv6 : g32 v6) (ht0 : g32 t0) : GG (fun p : gMem => (.inl none, p)) gTw ω l d mu_tw_shift σ0 65 [(0, vR h), (1, vI v1), (2, vI v2), (3, vI v3), (4, vI v4), (5, vI v5), (6, vI v6)] [vI t0] s (tw_shift_j65 N h v1 v2 v3 v4 v5 v6 t0 s) := by
  unfold tw_shift_j65
  refine x_istore (μ := mu_tw_shift) (pc := 65) (lv' := [(7, vI t0), (0, vR h), (1, vI v1), (2, vI v2), (3, vI v3), (4, vI v4), (5, vI v5), (6, vI v6)]) dX11_shift_65 (by decide) rfl ?_
  refine x_iload (μ := mu_tw_shift) (pc := 67) 6 dX11_shift_67 rfl ?_
  refine x_iconst (μ := mu_tw_shift) (pc := 69) dX11_shift_69 ?_
  refine x_iand (μ := mu_tw_shift) (pc := 70) dX11_shift_70 ?_
  refine x_if_le (μ := mu_tw_shift) (pc := 71) (tgt := 83) dX11_shift_71 rfl (bAnd_rng _ _) ?_ ?_
  · refine x_aload_n (μ := mu_tw_shift) (pc := 83) 1 dX11_shift_83 rfl ?_
    refine x_iload (μ := mu_tw_shift) (pc := 84) 5 dX11_shift_84 rfl ?_
    refine x_iconst (μ := mu_tw_shift) (pc := 86) dX11_shift_86 ?_
    refine x_aload_n (μ := mu_tw_shift) (pc := 87) 1 dX11_shift_87 rfl ?_
    refine x_fgrE (μ := mu_tw_shift) (pc := 88) fX11_33 (Or.inr ⟨_, rfl⟩) q2669 (hM.a33).1 dX11_shift_88 hM.1 ?_
    refine x_iload_n (μ := mu_tw_shift) (pc := 91) 2 dX11_shift_91 rfl ?_
    refine x_iald (μ := mu_tw_shift) (pc := 92) dX11_shift_92 (hM.a33).2.1 (hM.a33).2.2 (fun hr8 => ?_)
    refine x_iload_n (μ := mu_tw_shift) (pc := 93) 4 dX11_shift_93 rfl ?_
    refine x_callV_pi (μ := mu_tw_shift) (pc := 94) (ok_tw_further (ω := ω) (l := l) (d := d - 1) (by omega) hM hv4 (by decide) hr8 hv3) gRel_Tw gRel_Tw (fun _ q => q) q3573 q3575 qs192 q232 q3576 dX11_shift_94 rfl hM.1 hy_tw_further (by omega) (Nat.le_of_ble_eq_true rfl) rfl (Nat.le_of_ble_eq_true rfl) (fun x9 hr10 => ?_)
    refine x_loc (lv' := [(0, vR h), (1, vI v1), (2, vI v2), (3, vI v3), (4, vI v4), (5, vI v5), (6, vI v6), (7, vI t0)]) [1, 2, 3, 4, 5, 6, 7, 0] rfl ?_
    exact okj_tw_shift_j97 hdp hM hv1 hv2 hv3 hv4 hv5 hv6 ht0 hr10
  · refine x_aload_n (μ := mu_tw_shift) (pc := 74) 1 dX11_shift_74 rfl ?_
    refine x_fgrE (μ := mu_tw_shift) (pc := 75) fX11_33 (Or.inr ⟨_, rfl⟩) q2669 (hM.a33).1 dX11_shift_75 hM.1 ?_
    refine x_iload_n (μ := mu_tw_shift) (pc := 78) 2 dX11_shift_78 rfl ?_
    refine x_iald (μ := mu_tw_shift) (pc := 79) dX11_shift_79 (hM.a33).2.1 (hM.a33).2.2 (fun hr46 => ?_)
    refine x_goto (μ := mu_tw_shift) (pc := 80) (tgt := 97) dX11_shift_80 rfl ?_
    refine x_loc (lv' := [(0, vR h), (1, vI v1), (2, vI v2), (3, vI v3), (4, vI v4), (5, vI v5), (6, vI v6), (7, vI t0)]) [1, 2, 3, 4, 5, 6, 7, 0] rfl ?_
    exact okj_tw_shift_j97 hdp hM hv1 hv2 hv3 hv4 hv5 hv6 ht0 hr46
def tw_shift_j33 (N : Nat) (h : Nat) (v1 : Int) (v2 : Int) (v3 : Int) (v4 : Int) (v5 : Int) (t0 : Int) (s : gMem) : Option gMem := if bAnd v5 2 ≤ 0 then if 0 ≤ v1 ∧ v1 < ((60420 : Nat) : Int) then (tw_further N h v4 0 (mI s (h + 20) v1.toNat) v2 s).bind (fun x6 => tw_shift_j65 N h v1 v2 v3 v4 v5 t0 x6 s) else none else if 0 ≤ v1 ∧ v1 < ((60420 : Nat) : Int) then tw_shift_j65 N h v1 v2 v3 v4 v5 t0 (mI s (h + 20) v1.toNat) s else none
set_option maxRecDepth 100000 in
theorem okj_tw_shift_j33 {ω : gW} {l : Launch} {d : Nat} {N : Nat} {h : Nat} {σ0 : gMem} {s : gMem} {v1 : Int} {v2 : Int} {v3 : Int} {v4 : Int} {v5 : Int} {t0 : Int} (hdp : 3 ≤ d) (hM : TM s h) (hv1 : g32 v1) (hv2 : g32 v2) (hv3 : g32 v3) (hv4 : g32 v4) (hv5 : g32 v5) (ht0 : g32 t0) : GG (fun p : gMem => (.inl none, p)) gTw ω l d mu_tw_shift σ0 33 [(0, vR h), (1, vI v1), (2, vI v2), (3, vI v3), (4, vI v4), (5, vI v5)] [vI t0] s (tw_shift_j33 N h v1 v2 v3 v4 v5 t0 s) := by
  unfold tw_shift_j33
  refine x_istore (μ := mu_tw_shift) (pc := 33) (lv' := [(6, vI t0), (0, vR h), (1, vI v1), (2, vI v2), (3, vI v3), (4, vI v4), (5, vI v5)]) dX11_shift_33 (by decide) rfl ?_
  refine x_iload (μ := mu_tw_shift) (pc := 35) 6 dX11_shift_35 rfl ?_
  refine x_iconst (μ := mu_tw_shift) (pc := 37) dX11_shift_37 ?_
  refine x_iand (μ := mu_tw_shift) (pc := 38) dX11_shift_38 ?_
  refine x_if_le (μ := mu_tw_shift) (pc := 39) (tgt := 51) dX11_shift_39 rfl (bAnd_rng _ _) ?_ ?_
  · refine x_aload_n (μ := mu_tw_shift) (pc := 51) 1 dX11_shift_51 rfl ?_
    refine x_iload (μ := mu_tw_shift) (pc := 52) 5 dX11_shift_52 rfl ?_
    refine x_iconst (μ := mu_tw_shift) (pc := 54) dX11_shift_54 ?_
    refine x_aload_n (μ := mu_tw_shift) (pc := 55) 1 dX11_shift_55 rfl ?_
    refine x_fgrE (μ := mu_tw_shift) (pc := 56) fX11_32 (Or.inr ⟨_, rfl⟩) q2668 (hM.a32).1 dX11_shift_56 hM.1 ?_
    refine x_iload_n (μ := mu_tw_shift) (pc := 59) 2 dX11_shift_59 rfl ?_
    refine x_iald (μ := mu_tw_shift) (pc := 60) dX11_shift_60 (hM.a32).2.1 (hM.a32).2.2 (fun hr5 => ?_)
    refine x_iload_n (μ := mu_tw_shift) (pc := 61) 3 dX11_shift_61 rfl ?_
    refine x_callV_pi (μ := mu_tw_shift) (pc := 62) (ok_tw_further (ω := ω) (l := l) (d := d - 1) (by omega) hM hv4 (by decide) hr5 hv2) gRel_Tw gRel_Tw (fun _ q => q) q3573 q3575 qs192 q232 q3576 dX11_shift_62 rfl hM.1 hy_tw_further (by omega) (Nat.le_of_ble_eq_true rfl) rfl (Nat.le_of_ble_eq_true rfl) (fun x6 hr7 => ?_)
    refine x_loc (lv' := [(0, vR h), (1, vI v1), (2, vI v2), (3, vI v3), (4, vI v4), (5, vI v5), (6, vI t0)]) [1, 2, 3, 4, 5, 6, 0] rfl ?_
    exact okj_tw_shift_j65 hdp hM hv1 hv2 hv3 hv4 hv5 ht0 hr7
  · refine x_aload_n (μ := mu_tw_shift) (pc := 42) 1 dX11_shift_42 rfl ?_
    refine x_fgrE (μ := mu_tw_shift) (pc := 43) fX11_32 (Or.inr ⟨_, rfl⟩) q2668 (hM.a32).1 dX11_shift_43 hM.1 ?_
    refine x_iload_n (μ := mu_tw_shift) (pc := 46) 2 dX11_shift_46 rfl ?_
    refine x_iald (μ := mu_tw_shift) (pc := 47) dX11_shift_47 (hM.a32).2.1 (hM.a32).2.2 (fun hr47 => ?_)
    refine x_goto (μ := mu_tw_shift) (pc := 48) (tgt := 65) dX11_shift_48 rfl ?_
    refine x_loc (lv' := [(0, vR h), (1, vI v1), (2, vI v2), (3, vI v3), (4, vI v4), (5, vI v5), (6, vI t0)]) [1, 2, 3, 4, 5, 6, 0] rfl ?_
    exact okj_tw_shift_j65 hdp hM hv1 hv2 hv3 hv4 hv5 ht0 hr47
def tw_shift (N : Nat) (h : Nat) (v1 : Int) (v2 : Int) (v3 : Int) (σ : gMem) : Option gMem := (tw_sheetOf h v1 40 σ).bind (fun x1 => if 0 ≤ v1 ∧ v1 < ((60420 : Nat) : Int) then if 0 ≤ v1 ∧ v1 < ((60420 : Nat) : Int) then if mI σ (h + 14) v1.toNat ≠ 6 then tw_shift_j33 N h v1 v2 v3 x1 (mI σ (h + 24) v1.toNat) 0 σ else tw_shift_j33 N h v1 v2 v3 x1 (mI σ (h + 24) v1.toNat) 1 σ else none else none)
set_option maxRecDepth 100000 in
theorem ok_tw_shift {ω : gW} {l : Launch} {d : Nat} {N : Nat} {h : Nat} {σ : gMem} {v1 : Int} {v2 : Int} {v3 : Int} (hdp : 3 ≤ d) (hM : TM σ h) (hv1 : g32 v1) (hv2 : g32 v2) (hv3 : g32 v3) : gK (fun p : gMem => (.inl none, p)) gTw ω l d mu_tw_shift [vR h, vI v1, vI v2, vI v3] σ (tw_shift N h v1 v2 v3 σ) := by
  refine gK.of hp_X11 (Nat.le_of_ble_eq_true rfl) ?_
  unfold tw_shift
  refine x_aload_n (μ := mu_tw_shift) (pc := 0) 0 dX11_shift_0 rfl ?_
  refine x_iload_n (μ := mu_tw_shift) (pc := 1) 1 dX11_shift_1 rfl ?_
  refine x_bipush (μ := mu_tw_shift) (pc := 2) dX11_shift_2 (by decide) ?_
  refine x_callV_pi (μ := mu_tw_shift) (pc := 4) (ok_tw_sheetOf (ω := ω) (l := l) (d := d - 1) (by omega) hM hv1 (by decide)) gRel_Tw gRel_Tw (fun _ q => q) q3237 q3239 qs127 q232 q3240 dX11_shift_4 rfl hM.1 hy_tw_sheetOf (by omega) (Nat.le_of_ble_eq_true rfl) rfl (Nat.le_of_ble_eq_true rfl) (fun x1 hr2 => ?_)
  refine x_istore (μ := mu_tw_shift) (pc := 7) (lv' := [(4, vI x1), (0, vR h), (1, vI v1), (2, vI v2), (3, vI v3)]) dX11_shift_7 (by decide) rfl ?_
  refine x_aload_n (μ := mu_tw_shift) (pc := 9) 1 dX11_shift_9 rfl ?_
  refine x_fgrE (μ := mu_tw_shift) (pc := 10) fX11_36 (Or.inr ⟨_, rfl⟩) q2672 (hM.a36).1 dX11_shift_10 hM.1 ?_
  refine x_iload_n (μ := mu_tw_shift) (pc := 13) 2 dX11_shift_13 rfl ?_
  refine x_iald (μ := mu_tw_shift) (pc := 14) dX11_shift_14 (hM.a36).2.1 (hM.a36).2.2 (fun hr3 => ?_)
  refine x_istore (μ := mu_tw_shift) (pc := 15) (lv' := [(5, vI (mI σ (h + 24) v1.toNat)), (4, vI x1), (0, vR h), (1, vI v1), (2, vI v2), (3, vI v3)]) dX11_shift_15 (by decide) rfl ?_
  refine x_aload_n (μ := mu_tw_shift) (pc := 17) 2 dX11_shift_17 rfl ?_
  refine x_fgrE (μ := mu_tw_shift) (pc := 18) fX11_26 (Or.inr ⟨_, rfl⟩) q2662 (hM.a26).1 dX11_shift_18 hM.1 ?_
  refine x_iload_n (μ := mu_tw_shift) (pc := 21) 3 dX11_shift_21 rfl ?_
  refine x_iald (μ := mu_tw_shift) (pc := 22) dX11_shift_22 (hM.a26).2.1 (hM.a26).2.2 (fun hr4 => ?_)
  refine x_bipush (μ := mu_tw_shift) (pc := 23) dX11_shift_23 (by decide) ?_
  refine x_icmp_ne (μ := mu_tw_shift) (pc := 25) (tgt := 32) dX11_shift_25 rfl hr4 (by decide) ?_ ?_
  · refine x_iconst (μ := mu_tw_shift) (pc := 32) dX11_shift_32 ?_
    refine x_loc (lv' := [(0, vR h), (1, vI v1), (2, vI v2), (3, vI v3), (4, vI x1), (5, vI (mI σ (h + 24) v1.toNat))]) [2, 3, 4, 5, 1, 0] rfl ?_
    exact okj_tw_shift_j33 hdp hM hv1 hv2 hv3 hr2 hr3 (by decide)
  · refine x_iconst (μ := mu_tw_shift) (pc := 28) dX11_shift_28 ?_
    refine x_goto (μ := mu_tw_shift) (pc := 29) (tgt := 33) dX11_shift_29 rfl ?_
    refine x_loc (lv' := [(0, vR h), (1, vI v1), (2, vI v2), (3, vI v3), (4, vI x1), (5, vI (mI σ (h + 24) v1.toNat))]) [2, 3, 4, 5, 1, 0] rfl ?_
    exact okj_tw_shift_j33 hdp hM hv1 hv2 hv3 hr2 hr3 (by decide)
def tw_alike_l66 (N : Nat) (h : Nat) (σ : gMem) (v1 : Int) (v2 : Int) (v3 : Int) (K : Int → Option Int) : Nat → Int → Int → Option Int
  | 0, _, _ => none
  | n + 1, v4, v5 => if v3 ≤ v5 then K v4 else if v4 = 0 then K v4 else (tw_sameParts N h (w32 ((v1 - 1) + v5)) (w32 ((v2 - 1) + v5)) σ).bind (fun x20 => tw_alike_l66 N h σ v1 v2 v3 K n x20 (w32 (v5 + 1)))
set_option maxRecDepth 100000 in
theorem okl_tw_alike_l66 {ω : gW} {l : Launch} {d : Nat} {N : Nat} {h : Nat} {σ : gMem} {v1 : Int} {v2 : Int} {v3 : Int} {K : Int → Option Int} (hdp : 2 ≤ d) (hM : TM σ h) (hv1 : g32 v1) (hv2 : g32 v2) (hv3 : g32 v3) (hK : ∀ (v4 : Int) , g32 v4 → GG (fun x : Int => (.inl (some (vI x)), σ)) gTw ω l d mu_tw_alike σ 101 [(4, vI v4)] [] σ (K v4)) : ∀ (n : Nat) (v4 : Int) (v5 : Int) , g32 v4 → g32 v5 → GG (fun x : Int => (.inl (some (vI x)), σ)) gTw ω l d mu_tw_alike σ 66 [(0, vR h), (1, vI v1), (2, vI v2), (3, vI v3), (4, vI v4), (5, vI v5)] [] σ (tw_alike_l66 N h σ v1 v2 v3 K n v4 v5) := by
  intro n
  induction n with
  | zero => intros; exact x_none
  | succ n ih =>
    intro v4 v5 hv4 hv5
    unfold tw_alike_l66
    refine x_iload (μ := mu_tw_alike) (pc := 66) 5 dX11_alike_66 rfl ?_
    refine x_iload_n (μ := mu_tw_alike) (pc := 68) 3 dX11_alike_68 rfl ?_
    refine x_icmp_ge (μ := mu_tw_alike) (pc := 69) (tgt := 101) dX11_alike_69 rfl hv5 hv3 ?_ ?_
    · refine x_loc (lv' := [(4, vI v4)]) [4] rfl ?_
      exact hK v4 hv4
    · refine x_iload (μ := mu_tw_alike) (pc := 72) 4 dX11_alike_72 rfl ?_
      refine x_if_eq (μ := mu_tw_alike) (pc := 74) (tgt := 101) dX11_alike_74 rfl hv4 ?_ ?_
      · refine x_loc (lv' := [(4, vI v4)]) [4] rfl ?_
        exact hK v4 hv4
      · refine x_aload_n (μ := mu_tw_alike) (pc := 77) 0 dX11_alike_77 rfl ?_
        refine x_iload_n (μ := mu_tw_alike) (pc := 78) 1 dX11_alike_78 rfl ?_
        refine x_iconst (μ := mu_tw_alike) (pc := 79) dX11_alike_79 ?_
        refine x_isub (μ := mu_tw_alike) (pc := 80) dX11_alike_80 ?_
        refine x_iload (μ := mu_tw_alike) (pc := 81) 5 dX11_alike_81 rfl ?_
        refine x_iadd (μ := mu_tw_alike) (pc := 83) dX11_alike_83 ?_
        refine x_iload_n (μ := mu_tw_alike) (pc := 84) 2 dX11_alike_84 rfl ?_
        refine x_iconst (μ := mu_tw_alike) (pc := 85) dX11_alike_85 ?_
        refine x_isub (μ := mu_tw_alike) (pc := 86) dX11_alike_86 ?_
        refine x_iload (μ := mu_tw_alike) (pc := 87) 5 dX11_alike_87 rfl ?_
        refine x_iadd (μ := mu_tw_alike) (pc := 89) dX11_alike_89 ?_
        refine x_w1 ?_
        refine x_w2 ?_
        refine x_callV_pi (μ := mu_tw_alike) (pc := 90) (ok_tw_sameParts (ω := ω) (l := l) (d := d - 1) (by omega) hM (w32_rng _) (w32_rng _)) gRel_Tw gRel_Tw (fun _ q => q) q3620 q3622 qs199 q232 q3623 dX11_alike_90 rfl hM.1 hy_tw_sameParts (by omega) (Nat.le_of_ble_eq_true rfl) rfl (Nat.le_of_ble_eq_true rfl) (fun x20 hr21 => ?_)
        refine x_istore (μ := mu_tw_alike) (pc := 93) (lv' := [(4, vI x20), (0, vR h), (1, vI v1), (2, vI v2), (3, vI v3), (5, vI v5)]) dX11_alike_93 (by decide) rfl ?_
        refine x_iincw (μ := mu_tw_alike) (pc := 95) (lv' := [(5, vI (w32 (v5 + 1))), (4, vI x20), (0, vR h), (1, vI v1), (2, vI v2), (3, vI v3)]) 5 dX11_alike_95 rfl (by decide) rfl ?_
        refine x_goto (μ := mu_tw_alike) (pc := 98) (tgt := 66) dX11_alike_98 rfl ?_
        refine x_loc (lv' := [(0, vR h), (1, vI v1), (2, vI v2), (3, vI v3), (4, vI x20), (5, vI (w32 (v5 + 1)))]) [2, 3, 4, 5, 1, 0] rfl ?_
        exact ih x20 (w32 (v5 + 1)) hr21 (w32_rng _)
def tw_alike_j61 (N : Nat) (h : Nat) (σ : gMem) (v1 : Int) (v2 : Int) (v3 : Int) (t0 : Int) : Option Int := tw_alike_l66 N h σ v1 v2 v3 (fun y22 => if y22 = 0 ∨ y22 = 1 then some y22 else none) N t0 0
set_option maxRecDepth 100000 in
theorem okj_tw_alike_j61 {ω : gW} {l : Launch} {d : Nat} {N : Nat} {h : Nat} {σ : gMem} {v1 : Int} {v2 : Int} {v3 : Int} {t0 : Int} (hdp : 2 ≤ d) (hM : TM σ h) (hv1 : g32 v1) (hv2 : g32 v2) (hv3 : g32 v3) (ht0 : g32 t0) : GG (fun x : Int => (.inl (some (vI x)), σ)) gTw ω l d mu_tw_alike σ 61 [(0, vR h), (1, vI v1), (2, vI v2), (3, vI v3)] [vI t0] σ (tw_alike_j61 N h σ v1 v2 v3 t0 ) := by
  unfold tw_alike_j61
  refine x_istore (μ := mu_tw_alike) (pc := 61) (lv' := [(4, vI t0), (0, vR h), (1, vI v1), (2, vI v2), (3, vI v3)]) dX11_alike_61 (by decide) rfl ?_
  refine x_iconst (μ := mu_tw_alike) (pc := 63) dX11_alike_63 ?_
  refine x_istore (μ := mu_tw_alike) (pc := 64) (lv' := [(5, vI 0), (4, vI t0), (0, vR h), (1, vI v1), (2, vI v2), (3, vI v3)]) dX11_alike_64 (by decide) rfl ?_
  refine x_loc (lv' := [(0, vR h), (1, vI v1), (2, vI v2), (3, vI v3), (4, vI t0), (5, vI 0)]) [2, 3, 4, 5, 1, 0] rfl ?_
  refine okl_tw_alike_l66 hdp hM hv1 hv2 hv3 (fun y22 hy22 => ?_) N t0 0 ht0 (by decide)
  refine x_iload (μ := mu_tw_alike) (pc := 101) 0 dX11_alike_101 rfl ?_
  exact x_if (μ := mu_tw_alike) (pc := 103) (fun hz => x_zret dX11_alike_103 rfl hz rfl (gRel_Tw.1 _) (show g32 y22 from hy22))
def tw_alike (N : Nat) (h : Nat) (v1 : Int) (v2 : Int) (σ : gMem) : Option Int := if v1 ≠ v2 then if v1 = 0 then some 0 else if v2 = 0 then some 0 else (tw_isFormula v1 σ).bind (fun x1 => (tw_isFormula v2 σ).bind (fun x3 => if x1 = x3 then (tw_isFormula v1 σ).bind (fun x5 => if x5 = 0 then if 0 ≤ (w32 (v1 - 100000)) ∧ (w32 (v1 - 100000)) < ((4200 : Nat) : Int) then if 0 ≤ (w32 (v2 - 100000)) ∧ (w32 (v2 - 100000)) < ((4200 : Nat) : Int) then if mI σ (h + 10) (w32 (v1 - 100000)).toNat ≠ mI σ (h + 10) (w32 (v2 - 100000)).toNat then some 0 else if 0 ≤ (w32 (v1 - 100000)) ∧ (w32 (v1 - 100000)) < ((4200 : Nat) : Int) then if 0 ≤ (w32 (v2 - 100000)) ∧ (w32 (v2 - 100000)) < ((4200 : Nat) : Int) then if gcmp (mL σ (h + 11) (w32 (v1 - 100000)).toNat) (mL σ (h + 11) (w32 (v2 - 100000)).toNat) ≠ 0 then some 0 else if 0 ≤ (w32 (v1 - 100000)) ∧ (w32 (v1 - 100000)) < ((4200 : Nat) : Int) then if 0 ≤ (w32 (v2 - 100000)) ∧ (w32 (v2 - 100000)) < ((4200 : Nat) : Int) then if mI σ (h + 13) (w32 (v1 - 100000)).toNat = mI σ (h + 13) (w32 (v2 - 100000)).toNat then if 0 ≤ (w32 (v1 - 100000)) ∧ (w32 (v1 - 100000)) < ((4200 : Nat) : Int) then if 0 ≤ (w32 (v2 - 100000)) ∧ (w32 (v2 - 100000)) < ((4200 : Nat) : Int) then if 0 ≤ (w32 (v1 - 100000)) ∧ (w32 (v1 - 100000)) < ((4200 : Nat) : Int) then (tw_sameLetters N h (mI σ (h + 12) (w32 (v1 - 100000)).toNat) (mI σ (h + 12) (w32 (v2 - 100000)).toNat) (mI σ (h + 13) (w32 (v1 - 100000)).toNat) σ).bind (fun x16 => if x16 = 0 ∨ x16 = 1 then some x16 else none) else none else none else none else some 0 else none else none else none else none else none else none else if 0 ≤ (v1 - 1) ∧ (v1 - 1) < ((60420 : Nat) : Int) then if 0 ≤ (v2 - 1) ∧ (v2 - 1) < ((60420 : Nat) : Int) then if mI σ (h + 26) (v2 - 1).toNat ≠ mI σ (h + 26) (v1 - 1).toNat then tw_alike_j61 N h σ v1 v2 (mI σ (h + 26) (v1 - 1).toNat) 0 else tw_alike_j61 N h σ v1 v2 (mI σ (h + 26) (v1 - 1).toNat) 1 else none else none) else some 0)) else some 1
set_option maxRecDepth 100000 in
theorem ok_tw_alike {ω : gW} {l : Launch} {d : Nat} {N : Nat} {h : Nat} {σ : gMem} {v1 : Int} {v2 : Int} (hdp : 2 ≤ d) (hM : TM σ h) (hv1 : g32 v1) (hv2 : g32 v2) : gK (fun x : Int => (.inl (some (vI x)), σ)) gTw ω l d mu_tw_alike [vR h, vI v1, vI v2] σ (tw_alike N h v1 v2 σ) := by
  refine gK.of hp_X11 (Nat.le_of_ble_eq_true rfl) ?_
  unfold tw_alike
  refine x_iload_n (μ := mu_tw_alike) (pc := 0) 1 dX11_alike_0 rfl ?_
  refine x_iload_n (μ := mu_tw_alike) (pc := 1) 2 dX11_alike_1 rfl ?_
  refine x_icmp_ne (μ := mu_tw_alike) (pc := 2) (tgt := 7) dX11_alike_2 rfl hv1 hv2 ?_ ?_
  · refine x_iload_n (μ := mu_tw_alike) (pc := 7) 1 dX11_alike_7 rfl ?_
    refine x_if_eq (μ := mu_tw_alike) (pc := 8) (tgt := 26) dX11_alike_8 rfl hv1 ?_ ?_
    · refine x_iconst (μ := mu_tw_alike) (pc := 26) dX11_alike_26 ?_
      exact x_zret (μ := mu_tw_alike) (pc := 27) dX11_alike_27 rfl (by decide) rfl (gRel_Tw.1 _) (show g32 0 from (by decide))
    · refine x_iload_n (μ := mu_tw_alike) (pc := 11) 2 dX11_alike_11 rfl ?_
      refine x_if_eq (μ := mu_tw_alike) (pc := 12) (tgt := 26) dX11_alike_12 rfl hv2 ?_ ?_
      · refine x_iconst (μ := mu_tw_alike) (pc := 26) dX11_alike_26 ?_
        exact x_zret (μ := mu_tw_alike) (pc := 27) dX11_alike_27 rfl (by decide) rfl (gRel_Tw.1 _) (show g32 0 from (by decide))
      · refine x_iload_n (μ := mu_tw_alike) (pc := 15) 1 dX11_alike_15 rfl ?_
        refine x_callS_pi (μ := mu_tw_alike) (pc := 16) (ok_tw_isFormula (ω := ω) (l := l) (d := d - 1) (by omega) hv1) gRel_Tw gRel_Tw (fun _ q => q) q3226 q3227 q232 q3228 dX11_alike_16 hy_tw_isFormula (by omega) (Nat.le_of_ble_eq_true rfl) rfl (Nat.le_of_ble_eq_true rfl) (fun x1 hr2 => ?_)
        refine x_iload_n (μ := mu_tw_alike) (pc := 19) 2 dX11_alike_19 rfl ?_
        refine x_callS_pi (μ := mu_tw_alike) (pc := 20) (ok_tw_isFormula (ω := ω) (l := l) (d := d - 1) (by omega) hv2) gRel_Tw gRel_Tw (fun _ q => q) q3226 q3227 q232 q3228 dX11_alike_20 hy_tw_isFormula (by omega) (Nat.le_of_ble_eq_true rfl) rfl (Nat.le_of_ble_eq_true rfl) (fun x3 hr4 => ?_)
        refine x_icmp_eq (μ := mu_tw_alike) (pc := 23) (tgt := 28) dX11_alike_23 rfl hr2 hr4 ?_ ?_
        · refine x_iload_n (μ := mu_tw_alike) (pc := 28) 1 dX11_alike_28 rfl ?_
          refine x_callS_pi (μ := mu_tw_alike) (pc := 29) (ok_tw_isFormula (ω := ω) (l := l) (d := d - 1) (by omega) hv1) gRel_Tw gRel_Tw (fun _ q => q) q3226 q3227 q232 q3228 dX11_alike_29 hy_tw_isFormula (by omega) (Nat.le_of_ble_eq_true rfl) rfl (Nat.le_of_ble_eq_true rfl) (fun x5 hr6 => ?_)
          refine x_if_eq (μ := mu_tw_alike) (pc := 32) (tgt := 104) dX11_alike_32 rfl hr6 ?_ ?_
          · refine x_iload_n (μ := mu_tw_alike) (pc := 104) 1 dX11_alike_104 rfl ?_
            refine x_ldc (μ := mu_tw_alike) (pc := 105) (n := 100000) dX11_alike_105 q3189 ?_
            refine x_isub (μ := mu_tw_alike) (pc := 107) dX11_alike_107 ?_
            refine x_w1 ?_
            refine x_istore_n (μ := mu_tw_alike) (pc := 108) (lv' := [(3, vI (w32 (v1 - 100000))), (0, vR h), (1, vI v1), (2, vI v2)]) dX11_alike_108 rfl (by decide) rfl ?_
            refine x_iload_n (μ := mu_tw_alike) (pc := 109) 3 dX11_alike_109 rfl ?_
            refine x_ldc (μ := mu_tw_alike) (pc := 110) (n := 100000) dX11_alike_110 q3189 ?_
            refine x_isub (μ := mu_tw_alike) (pc := 112) dX11_alike_112 ?_
            refine x_w1 ?_
            refine x_istore (μ := mu_tw_alike) (pc := 113) (lv' := [(4, vI (w32 (v2 - 100000))), (3, vI (w32 (v1 - 100000))), (0, vR h), (1, vI v1), (2, vI v2)]) dX11_alike_113 (by decide) rfl ?_
            refine x_aload_n (μ := mu_tw_alike) (pc := 115) 2 dX11_alike_115 rfl ?_
            refine x_fgrE (μ := mu_tw_alike) (pc := 116) fX11_20 (Or.inr ⟨_, rfl⟩) q2656 (hM.a20).1 dX11_alike_116 hM.1 ?_
            refine x_iload_n (μ := mu_tw_alike) (pc := 119) 1 dX11_alike_119 rfl ?_
            refine x_iald (μ := mu_tw_alike) (pc := 120) dX11_alike_120 (hM.a20).2.1 (hM.a20).2.2 (fun hr7 => ?_)
            refine x_aload_n (μ := mu_tw_alike) (pc := 121) 2 dX11_alike_121 rfl ?_
            refine x_fgrE (μ := mu_tw_alike) (pc := 122) fX11_20 (Or.inr ⟨_, rfl⟩) q2656 (hM.a20).1 dX11_alike_122 hM.1 ?_
            refine x_iload (μ := mu_tw_alike) (pc := 125) 0 dX11_alike_125 rfl ?_
            refine x_iald (μ := mu_tw_alike) (pc := 127) dX11_alike_127 (hM.a20).2.1 (hM.a20).2.2 (fun hr8 => ?_)
            refine x_icmp_ne (μ := mu_tw_alike) (pc := 128) (tgt := 164) dX11_alike_128 rfl hr7 hr8 ?_ ?_
            · refine x_iconst (μ := mu_tw_alike) (pc := 164) dX11_alike_164 ?_
              exact x_zret (μ := mu_tw_alike) (pc := 165) dX11_alike_165 rfl (by decide) rfl (gRel_Tw.1 _) (show g32 0 from (by decide))
            · refine x_aload_n (μ := mu_tw_alike) (pc := 131) 2 dX11_alike_131 rfl ?_
              refine x_fgrE (μ := mu_tw_alike) (pc := 132) fX11_21 (Or.inr ⟨_, rfl⟩) q2657 (hM.a21).1 dX11_alike_132 hM.1 ?_
              refine x_iload_n (μ := mu_tw_alike) (pc := 135) 1 dX11_alike_135 rfl ?_
              refine x_lald (μ := mu_tw_alike) (pc := 136) dX11_alike_136 (hM.a21).2.1 (hM.a21).2.2 (fun hr9 => ?_)
              refine x_aload_n (μ := mu_tw_alike) (pc := 137) 2 dX11_alike_137 rfl ?_
              refine x_fgrE (μ := mu_tw_alike) (pc := 138) fX11_21 (Or.inr ⟨_, rfl⟩) q2657 (hM.a21).1 dX11_alike_138 hM.1 ?_
              refine x_iload (μ := mu_tw_alike) (pc := 141) 0 dX11_alike_141 rfl ?_
              refine x_lald (μ := mu_tw_alike) (pc := 143) dX11_alike_143 (hM.a21).2.1 (hM.a21).2.2 (fun hr10 => ?_)
              refine x_lcmp (μ := mu_tw_alike) (pc := 144) dX11_alike_144 hr9 hr10 ?_
              refine x_if_ne (μ := mu_tw_alike) (pc := 145) (tgt := 164) dX11_alike_145 rfl (gcmp_rng _ _) ?_ ?_
              · refine x_iconst (μ := mu_tw_alike) (pc := 164) dX11_alike_164 ?_
                exact x_zret (μ := mu_tw_alike) (pc := 165) dX11_alike_165 rfl (by decide) rfl (gRel_Tw.1 _) (show g32 0 from (by decide))
              · refine x_aload_n (μ := mu_tw_alike) (pc := 148) 2 dX11_alike_148 rfl ?_
                refine x_fgrE (μ := mu_tw_alike) (pc := 149) fX11_23 (Or.inr ⟨_, rfl⟩) q2659 (hM.a23).1 dX11_alike_149 hM.1 ?_
                refine x_iload_n (μ := mu_tw_alike) (pc := 152) 1 dX11_alike_152 rfl ?_
                refine x_iald (μ := mu_tw_alike) (pc := 153) dX11_alike_153 (hM.a23).2.1 (hM.a23).2.2 (fun hr11 => ?_)
                refine x_aload_n (μ := mu_tw_alike) (pc := 154) 2 dX11_alike_154 rfl ?_
                refine x_fgrE (μ := mu_tw_alike) (pc := 155) fX11_23 (Or.inr ⟨_, rfl⟩) q2659 (hM.a23).1 dX11_alike_155 hM.1 ?_
                refine x_iload (μ := mu_tw_alike) (pc := 158) 0 dX11_alike_158 rfl ?_
                refine x_iald (μ := mu_tw_alike) (pc := 160) dX11_alike_160 (hM.a23).2.1 (hM.a23).2.2 (fun hr12 => ?_)
                refine x_icmp_eq (μ := mu_tw_alike) (pc := 161) (tgt := 166) dX11_alike_161 rfl hr11 hr12 ?_ ?_
                · refine x_aload_n (μ := mu_tw_alike) (pc := 166) 2 dX11_alike_166 rfl ?_
                  refine x_aload_n (μ := mu_tw_alike) (pc := 167) 2 dX11_alike_167 rfl ?_
                  refine x_fgrE (μ := mu_tw_alike) (pc := 168) fX11_22 (Or.inr ⟨_, rfl⟩) q2658 (hM.a22).1 dX11_alike_168 hM.1 ?_
                  refine x_iload_n (μ := mu_tw_alike) (pc := 171) 1 dX11_alike_171 rfl ?_
                  refine x_iald (μ := mu_tw_alike) (pc := 172) dX11_alike_172 (hM.a22).2.1 (hM.a22).2.2 (fun hr13 => ?_)
                  refine x_aload_n (μ := mu_tw_alike) (pc := 173) 2 dX11_alike_173 rfl ?_
                  refine x_fgrE (μ := mu_tw_alike) (pc := 174) fX11_22 (Or.inr ⟨_, rfl⟩) q2658 (hM.a22).1 dX11_alike_174 hM.1 ?_
                  refine x_iload (μ := mu_tw_alike) (pc := 177) 0 dX11_alike_177 rfl ?_
                  refine x_iald (μ := mu_tw_alike) (pc := 179) dX11_alike_179 (hM.a22).2.1 (hM.a22).2.2 (fun hr14 => ?_)
                  refine x_aload_n (μ := mu_tw_alike) (pc := 180) 2 dX11_alike_180 rfl ?_
                  refine x_fgrE (μ := mu_tw_alike) (pc := 181) fX11_23 (Or.inr ⟨_, rfl⟩) q2659 (hM.a23).1 dX11_alike_181 hM.1 ?_
                  refine x_iload_n (μ := mu_tw_alike) (pc := 184) 1 dX11_alike_184 rfl ?_
                  refine x_iald (μ := mu_tw_alike) (pc := 185) dX11_alike_185 (hM.a23).2.1 (hM.a23).2.2 (fun hr15 => ?_)
                  refine x_callV_pi (μ := mu_tw_alike) (pc := 186) (ok_tw_sameLetters (ω := ω) (l := l) (d := d - 1) (by omega) hM hr13 hr14 hr15) gRel_Tw gRel_Tw (fun _ q => q) q3624 q3626 qs200 q232 q3627 dX11_alike_186 rfl hM.1 hy_tw_sameLetters (by omega) (Nat.le_of_ble_eq_true rfl) rfl (Nat.le_of_ble_eq_true rfl) (fun x16 hr17 => ?_)
                  exact x_if (μ := mu_tw_alike) (pc := 189) (fun hz => x_zret dX11_alike_189 rfl hz rfl (gRel_Tw.1 _) (show g32 x16 from hr17))
                · refine x_iconst (μ := mu_tw_alike) (pc := 164) dX11_alike_164 ?_
                  exact x_zret (μ := mu_tw_alike) (pc := 165) dX11_alike_165 rfl (by decide) rfl (gRel_Tw.1 _) (show g32 0 from (by decide))
          · refine x_aload_n (μ := mu_tw_alike) (pc := 35) 0 dX11_alike_35 rfl ?_
            refine x_fgrE (μ := mu_tw_alike) (pc := 36) fX11_38 (Or.inr ⟨_, rfl⟩) q2674 (hM.a38).1 dX11_alike_36 hM.1 ?_
            refine x_iload_n (μ := mu_tw_alike) (pc := 39) 1 dX11_alike_39 rfl ?_
            refine x_iconst (μ := mu_tw_alike) (pc := 40) dX11_alike_40 ?_
            refine x_isub (μ := mu_tw_alike) (pc := 41) dX11_alike_41 ?_
            refine x_iald (μ := mu_tw_alike) (pc := 42) dX11_alike_42 (hM.a38).2.1 (hM.a38).2.2 (fun hr18 => ?_)
            refine x_istore_n (μ := mu_tw_alike) (pc := 43) (lv' := [(3, vI (mI σ (h + 26) (v1 - 1).toNat)), (0, vR h), (1, vI v1), (2, vI v2)]) dX11_alike_43 rfl (by decide) rfl ?_
            refine x_aload_n (μ := mu_tw_alike) (pc := 44) 1 dX11_alike_44 rfl ?_
            refine x_fgrE (μ := mu_tw_alike) (pc := 45) fX11_38 (Or.inr ⟨_, rfl⟩) q2674 (hM.a38).1 dX11_alike_45 hM.1 ?_
            refine x_iload_n (μ := mu_tw_alike) (pc := 48) 3 dX11_alike_48 rfl ?_
            refine x_iconst (μ := mu_tw_alike) (pc := 49) dX11_alike_49 ?_
            refine x_isub (μ := mu_tw_alike) (pc := 50) dX11_alike_50 ?_
            refine x_iald (μ := mu_tw_alike) (pc := 51) dX11_alike_51 (hM.a38).2.1 (hM.a38).2.2 (fun hr19 => ?_)
            refine x_iload_n (μ := mu_tw_alike) (pc := 52) 0 dX11_alike_52 rfl ?_
            refine x_icmp_ne (μ := mu_tw_alike) (pc := 53) (tgt := 60) dX11_alike_53 rfl hr19 hr18 ?_ ?_
            · refine x_iconst (μ := mu_tw_alike) (pc := 60) dX11_alike_60 ?_
              refine x_loc (lv' := [(0, vR h), (1, vI v1), (2, vI v2), (3, vI (mI σ (h + 26) (v1 - 1).toNat))]) [1, 2, 3, 0] rfl ?_
              exact okj_tw_alike_j61 hdp hM hv1 hv2 hr18 (by decide)
            · refine x_iconst (μ := mu_tw_alike) (pc := 56) dX11_alike_56 ?_
              refine x_goto (μ := mu_tw_alike) (pc := 57) (tgt := 61) dX11_alike_57 rfl ?_
              refine x_loc (lv' := [(0, vR h), (1, vI v1), (2, vI v2), (3, vI (mI σ (h + 26) (v1 - 1).toNat))]) [1, 2, 3, 0] rfl ?_
              exact okj_tw_alike_j61 hdp hM hv1 hv2 hr18 (by decide)
        · refine x_iconst (μ := mu_tw_alike) (pc := 26) dX11_alike_26 ?_
          exact x_zret (μ := mu_tw_alike) (pc := 27) dX11_alike_27 rfl (by decide) rfl (gRel_Tw.1 _) (show g32 0 from (by decide))
  · refine x_iconst (μ := mu_tw_alike) (pc := 5) dX11_alike_5 ?_
    exact x_zret (μ := mu_tw_alike) (pc := 6) dX11_alike_6 rfl (by decide) rfl (gRel_Tw.1 _) (show g32 1 from (by decide))
def tw_isChanged_l3_j106 (N : Nat) (h : Nat) (σ : gMem) (v1 : Int) (v2 : Int) (v3 : Int) (v4 : Int) (v5 : Int) (Kh : Int → Option Int) (K : Option Int) : Option Int := Kh (w32 (v5 + 1))
set_option maxRecDepth 100000 in
theorem okj_tw_isChanged_l3_j106 {ω : gW} {l : Launch} {d : Nat} {N : Nat} {h : Nat} {σ : gMem} {v1 : Int} {v2 : Int} {v3 : Int} {v4 : Int} {v5 : Int} {Kh : Int → Option Int} {K : Option Int} (hdp : 3 ≤ d) (hM : TM σ h) (hv1 : g32 v1) (hv2 : g32 v2) (hv3 : g32 v3) (hv4 : g32 v4) (hv5 : g32 v5) (hKh : ∀ (v5 : Int) , g32 v5 → GG (fun x : Int => (.inl (some (vI x)), σ)) gTw ω l d mu_tw_isChanged σ 3 [(0, vR h), (1, vI v1), (2, vI v2), (3, vI v3), (4, vI v4), (5, vI v5)] [] σ (Kh v5)) (hK : GG (fun x : Int => (.inl (some (vI x)), σ)) gTw ω l d mu_tw_isChanged σ 112 [] [] σ (K)) : GG (fun x : Int => (.inl (some (vI x)), σ)) gTw ω l d mu_tw_isChanged σ 106 [(0, vR h), (1, vI v1), (2, vI v2), (3, vI v3), (4, vI v4), (5, vI v5)] [] σ (tw_isChanged_l3_j106 N h σ v1 v2 v3 v4 v5 Kh K ) := by
  unfold tw_isChanged_l3_j106
  refine x_iincw (μ := mu_tw_isChanged) (pc := 106) (lv' := [(5, vI (w32 (v5 + 1))), (0, vR h), (1, vI v1), (2, vI v2), (3, vI v3), (4, vI v4)]) 5 dX11_isChanged_106 rfl (by decide) rfl ?_
  refine x_goto (μ := mu_tw_isChanged) (pc := 109) (tgt := 3) dX11_isChanged_109 rfl ?_
  refine x_loc (lv' := [(0, vR h), (1, vI v1), (2, vI v2), (3, vI v3), (4, vI v4), (5, vI (w32 (v5 + 1)))]) [1, 2, 3, 4, 5, 0] rfl ?_
  exact hKh (w32 (v5 + 1)) (w32_rng _)
def tw_isChanged_l3_j78 (N : Nat) (h : Nat) (σ : gMem) (v1 : Int) (v2 : Int) (v3 : Int) (v4 : Int) (v5 : Int) (v7 : Int) (t0 : Int) (Kh : Int → Option Int) (K : Option Int) : Option Int := if 0 ≤ t0 then (tw_alike N h v7 t0 σ).bind (fun x9 => if x9 ≠ 0 then tw_isChanged_l3_j106 N h σ v1 v2 v3 v4 v5  (Kh) K else some 1) else if v7 = 0 then tw_isChanged_l3_j106 N h σ v1 v2 v3 v4 v5  (Kh) K else some 1
set_option maxRecDepth 100000 in
theorem okj_tw_isChanged_l3_j78 {ω : gW} {l : Launch} {d : Nat} {N : Nat} {h : Nat} {σ : gMem} {v1 : Int} {v2 : Int} {v3 : Int} {v4 : Int} {v5 : Int} {v7 : Int} {t0 : Int} {Kh : Int → Option Int} {K : Option Int} (hdp : 3 ≤ d) (hM : TM σ h) (hv1 : g32 v1) (hv2 : g32 v2) (hv3 : g32 v3) (hv4 : g32 v4) (hv5 : g32 v5) (hv7 : g32 v7) (ht0 : g32 t0) (hKh : ∀ (v5 : Int) , g32 v5 → GG (fun x : Int => (.inl (some (vI x)), σ)) gTw ω l d mu_tw_isChanged σ 3 [(0, vR h), (1, vI v1), (2, vI v2), (3, vI v3), (4, vI v4), (5, vI v5)] [] σ (Kh v5)) (hK : GG (fun x : Int => (.inl (some (vI x)), σ)) gTw ω l d mu_tw_isChanged σ 112 [] [] σ (K)) : GG (fun x : Int => (.inl (some (vI x)), σ)) gTw ω l d mu_tw_isChanged σ 78 [(0, vR h), (1, vI v1), (2, vI v2), (3, vI v3), (4, vI v4), (5, vI v5), (7, vI v7)] [vI t0] σ (tw_isChanged_l3_j78 N h σ v1 v2 v3 v4 v5 v7 t0 Kh K ) := by
  unfold tw_isChanged_l3_j78
  refine x_istore (μ := mu_tw_isChanged) (pc := 78) (lv' := [(8, vI t0), (0, vR h), (1, vI v1), (2, vI v2), (3, vI v3), (4, vI v4), (5, vI v5), (7, vI v7)]) dX11_isChanged_78 (by decide) rfl ?_
  refine x_iload (μ := mu_tw_isChanged) (pc := 80) 0 dX11_isChanged_80 rfl ?_
  refine x_if_ge (μ := mu_tw_isChanged) (pc := 82) (tgt := 93) dX11_isChanged_82 rfl ht0 ?_ ?_
  · refine x_aload_n (μ := mu_tw_isChanged) (pc := 93) 1 dX11_isChanged_93 rfl ?_
    refine x_iload (μ := mu_tw_isChanged) (pc := 94) 7 dX11_isChanged_94 rfl ?_
    refine x_iload (μ := mu_tw_isChanged) (pc := 96) 0 dX11_isChanged_96 rfl ?_
    refine x_callV_pi (μ := mu_tw_isChanged) (pc := 98) (ok_tw_alike (ω := ω) (l := l) (d := d - 1) (by omega) hM hv7 ht0) gRel_Tw gRel_Tw (fun _ q => q) q3616 q3618 qs198 q232 q3619 dX11_isChanged_98 rfl hM.1 hy_tw_alike (by omega) (Nat.le_of_ble_eq_true rfl) rfl (Nat.le_of_ble_eq_true rfl) (fun x9 hr10 => ?_)
    refine x_if_ne (μ := mu_tw_isChanged) (pc := 101) (tgt := 106) dX11_isChanged_101 rfl hr10 ?_ ?_
    · refine x_loc (lv' := [(0, vR h), (1, vI v1), (2, vI v2), (3, vI v3), (4, vI v4), (5, vI v5)]) [1, 2, 3, 4, 5, 6] rfl ?_
      exact okj_tw_isChanged_l3_j106 hdp hM hv1 hv2 hv3 hv4 hv5 hKh hK
    · refine x_iconst (μ := mu_tw_isChanged) (pc := 104) dX11_isChanged_104 ?_
      exact x_zret (μ := mu_tw_isChanged) (pc := 105) dX11_isChanged_105 rfl (by decide) rfl (gRel_Tw.1 _) (show g32 1 from (by decide))
  · refine x_iload (μ := mu_tw_isChanged) (pc := 85) 7 dX11_isChanged_85 rfl ?_
    refine x_if_eq (μ := mu_tw_isChanged) (pc := 87) (tgt := 106) dX11_isChanged_87 rfl hv7 ?_ ?_
    · refine x_loc (lv' := [(0, vR h), (1, vI v1), (2, vI v2), (3, vI v3), (4, vI v4), (5, vI v5)]) [1, 2, 3, 4, 5, 6] rfl ?_
      exact okj_tw_isChanged_l3_j106 hdp hM hv1 hv2 hv3 hv4 hv5 hKh hK
    · refine x_goto (μ := mu_tw_isChanged) (pc := 90) (tgt := 104) dX11_isChanged_90 rfl ?_
      refine x_iconst (μ := mu_tw_isChanged) (pc := 104) dX11_isChanged_104 ?_
      exact x_zret (μ := mu_tw_isChanged) (pc := 105) dX11_isChanged_105 rfl (by decide) rfl (gRel_Tw.1 _) (show g32 1 from (by decide))
def tw_isChanged_l3_j51 (N : Nat) (h : Nat) (σ : gMem) (v1 : Int) (v2 : Int) (v3 : Int) (v4 : Int) (v5 : Int) (v6 : Int) (t0 : Int) (Kh : Int → Option Int) (K : Option Int) : Option Int := if v2 ≠ 0 then (tw_contentOf N h v4 v6 v3 σ).bind (fun x7 => tw_isChanged_l3_j78 N h σ v1 v2 v3 v4 v5 t0 x7 (Kh) K) else (tw_contentOf N h v4 v3 v6 σ).bind (fun x11 => tw_isChanged_l3_j78 N h σ v1 v2 v3 v4 v5 t0 x11 (Kh) K)
set_option maxRecDepth 100000 in
theorem okj_tw_isChanged_l3_j51 {ω : gW} {l : Launch} {d : Nat} {N : Nat} {h : Nat} {σ : gMem} {v1 : Int} {v2 : Int} {v3 : Int} {v4 : Int} {v5 : Int} {v6 : Int} {t0 : Int} {Kh : Int → Option Int} {K : Option Int} (hdp : 3 ≤ d) (hM : TM σ h) (hv1 : g32 v1) (hv2 : g32 v2) (hv3 : g32 v3) (hv4 : g32 v4) (hv5 : g32 v5) (hv6 : g32 v6) (ht0 : g32 t0) (hKh : ∀ (v5 : Int) , g32 v5 → GG (fun x : Int => (.inl (some (vI x)), σ)) gTw ω l d mu_tw_isChanged σ 3 [(0, vR h), (1, vI v1), (2, vI v2), (3, vI v3), (4, vI v4), (5, vI v5)] [] σ (Kh v5)) (hK : GG (fun x : Int => (.inl (some (vI x)), σ)) gTw ω l d mu_tw_isChanged σ 112 [] [] σ (K)) : GG (fun x : Int => (.inl (some (vI x)), σ)) gTw ω l d mu_tw_isChanged σ 51 [(0, vR h), (1, vI v1), (2, vI v2), (3, vI v3), (4, vI v4), (5, vI v5), (6, vI v6)] [vI t0] σ (tw_isChanged_l3_j51 N h σ v1 v2 v3 v4 v5 v6 t0 Kh K ) := by
  unfold tw_isChanged_l3_j51
  refine x_istore (μ := mu_tw_isChanged) (pc := 51) (lv' := [(7, vI t0), (0, vR h), (1, vI v1), (2, vI v2), (3, vI v3), (4, vI v4), (5, vI v5), (6, vI v6)]) dX11_isChanged_51 (by decide) rfl ?_
  refine x_iload_n (μ := mu_tw_isChanged) (pc := 53) 3 dX11_isChanged_53 rfl ?_
  refine x_if_ne (μ := mu_tw_isChanged) (pc := 54) (tgt := 69) dX11_isChanged_54 rfl hv2 ?_ ?_
  · refine x_aload_n (μ := mu_tw_isChanged) (pc := 69) 1 dX11_isChanged_69 rfl ?_
    refine x_iload (μ := mu_tw_isChanged) (pc := 70) 5 dX11_isChanged_70 rfl ?_
    refine x_iload (μ := mu_tw_isChanged) (pc := 72) 7 dX11_isChanged_72 rfl ?_
    refine x_iload_n (μ := mu_tw_isChanged) (pc := 74) 4 dX11_isChanged_74 rfl ?_
    refine x_callV_pi (μ := mu_tw_isChanged) (pc := 75) (ok_tw_contentOf (ω := ω) (l := l) (d := d - 1) (by omega) hM hv4 hv6 hv3) gRel_Tw gRel_Tw (fun _ q => q) q3681 q3683 qs211 q232 q3684 dX11_isChanged_75 rfl hM.1 hy_tw_contentOf (by omega) (Nat.le_of_ble_eq_true rfl) rfl (Nat.le_of_ble_eq_true rfl) (fun x7 hr8 => ?_)
    refine x_loc (lv' := [(0, vR h), (1, vI v1), (2, vI v2), (3, vI v3), (4, vI v4), (5, vI v5), (7, vI t0)]) [1, 2, 3, 4, 5, 6, 0] rfl ?_
    exact okj_tw_isChanged_l3_j78 hdp hM hv1 hv2 hv3 hv4 hv5 ht0 hr8 hKh hK
  · refine x_aload_n (μ := mu_tw_isChanged) (pc := 57) 1 dX11_isChanged_57 rfl ?_
    refine x_iload (μ := mu_tw_isChanged) (pc := 58) 5 dX11_isChanged_58 rfl ?_
    refine x_iload_n (μ := mu_tw_isChanged) (pc := 60) 4 dX11_isChanged_60 rfl ?_
    refine x_iload (μ := mu_tw_isChanged) (pc := 61) 7 dX11_isChanged_61 rfl ?_
    refine x_callV_pi (μ := mu_tw_isChanged) (pc := 63) (ok_tw_contentOf (ω := ω) (l := l) (d := d - 1) (by omega) hM hv4 hv3 hv6) gRel_Tw gRel_Tw (fun _ q => q) q3681 q3683 qs211 q232 q3684 dX11_isChanged_63 rfl hM.1 hy_tw_contentOf (by omega) (Nat.le_of_ble_eq_true rfl) rfl (Nat.le_of_ble_eq_true rfl) (fun x11 hr12 => ?_)
    refine x_goto (μ := mu_tw_isChanged) (pc := 66) (tgt := 78) dX11_isChanged_66 rfl ?_
    refine x_loc (lv' := [(0, vR h), (1, vI v1), (2, vI v2), (3, vI v3), (4, vI v4), (5, vI v5), (7, vI t0)]) [1, 2, 3, 4, 5, 6, 0] rfl ?_
    exact okj_tw_isChanged_l3_j78 hdp hM hv1 hv2 hv3 hv4 hv5 ht0 hr12 hKh hK
def tw_isChanged_l3 (N : Nat) (h : Nat) (σ : gMem) (v1 : Int) (v2 : Int) (v3 : Int) (v4 : Int) (K : Option Int) : Nat → Int → Option Int
  | 0, _ => none
  | n + 1, v5 => (tw_linesOf h v1 (w32 (1 - v2)) σ).bind (fun x1 => if x1 ≤ v5 then K else (tw_lineAt h v1 (w32 (1 - v2)) v5 σ).bind (fun x3 => if v2 ≠ 0 then (tw_contentOf N h v1 x3 v3 σ).bind (fun x5 => tw_isChanged_l3_j51 N h σ v1 v2 v3 v4 v5 x3 x5 (tw_isChanged_l3 N h σ v1 v2 v3 v4 K n) K) else (tw_contentOf N h v1 v3 x3 σ).bind (fun x13 => tw_isChanged_l3_j51 N h σ v1 v2 v3 v4 v5 x3 x13 (tw_isChanged_l3 N h σ v1 v2 v3 v4 K n) K)))
set_option maxRecDepth 100000 in
theorem okl_tw_isChanged_l3 {ω : gW} {l : Launch} {d : Nat} {N : Nat} {h : Nat} {σ : gMem} {v1 : Int} {v2 : Int} {v3 : Int} {v4 : Int} {K : Option Int} (hdp : 3 ≤ d) (hM : TM σ h) (hv1 : g32 v1) (hv2 : g32 v2) (hv3 : g32 v3) (hv4 : g32 v4) (hK : GG (fun x : Int => (.inl (some (vI x)), σ)) gTw ω l d mu_tw_isChanged σ 112 [] [] σ (K)) : ∀ (n : Nat) (v5 : Int) , g32 v5 → GG (fun x : Int => (.inl (some (vI x)), σ)) gTw ω l d mu_tw_isChanged σ 3 [(0, vR h), (1, vI v1), (2, vI v2), (3, vI v3), (4, vI v4), (5, vI v5)] [] σ (tw_isChanged_l3 N h σ v1 v2 v3 v4 K n v5) := by
  intro n
  induction n with
  | zero => intros; exact x_none
  | succ n ih =>
    intro v5 hv5
    unfold tw_isChanged_l3
    refine x_iload (μ := mu_tw_isChanged) (pc := 3) 5 dX11_isChanged_3 rfl ?_
    refine x_aload_n (μ := mu_tw_isChanged) (pc := 5) 0 dX11_isChanged_5 rfl ?_
    refine x_iload_n (μ := mu_tw_isChanged) (pc := 6) 1 dX11_isChanged_6 rfl ?_
    refine x_iconst (μ := mu_tw_isChanged) (pc := 7) dX11_isChanged_7 ?_
    refine x_iload_n (μ := mu_tw_isChanged) (pc := 8) 2 dX11_isChanged_8 rfl ?_
    refine x_isub (μ := mu_tw_isChanged) (pc := 9) dX11_isChanged_9 ?_
    refine x_w1 ?_
    refine x_callV_pi (μ := mu_tw_isChanged) (pc := 10) (ok_tw_linesOf (ω := ω) (l := l) (d := d - 1) (by omega) hM hv1 (w32_rng _)) gRel_Tw gRel_Tw (fun _ q => q) q3245 q3247 qs129 q232 q3248 dX11_isChanged_10 rfl hM.1 hy_tw_linesOf (by omega) (Nat.le_of_ble_eq_true rfl) rfl (Nat.le_of_ble_eq_true rfl) (fun x1 hr2 => ?_)
    refine x_icmp_ge (μ := mu_tw_isChanged) (pc := 13) (tgt := 112) dX11_isChanged_13 rfl hv5 hr2 ?_ ?_
    · refine x_loc (lv' := []) [] rfl ?_
      exact hK
    · refine x_aload_n (μ := mu_tw_isChanged) (pc := 16) 0 dX11_isChanged_16 rfl ?_
      refine x_iload_n (μ := mu_tw_isChanged) (pc := 17) 1 dX11_isChanged_17 rfl ?_
      refine x_iconst (μ := mu_tw_isChanged) (pc := 18) dX11_isChanged_18 ?_
      refine x_iload_n (μ := mu_tw_isChanged) (pc := 19) 2 dX11_isChanged_19 rfl ?_
      refine x_isub (μ := mu_tw_isChanged) (pc := 20) dX11_isChanged_20 ?_
      refine x_iload (μ := mu_tw_isChanged) (pc := 21) 5 dX11_isChanged_21 rfl ?_
      refine x_w2 ?_
      refine x_callV_pi (μ := mu_tw_isChanged) (pc := 23) (ok_tw_lineAt (ω := ω) (l := l) (d := d - 1) (by omega) hM hv1 (w32_rng _) hv5) gRel_Tw gRel_Tw (fun _ q => q) q3148 q3150 qs111 q232 q3151 dX11_isChanged_23 rfl hM.1 hy_tw_lineAt (by omega) (Nat.le_of_ble_eq_true rfl) rfl (Nat.le_of_ble_eq_true rfl) (fun x3 hr4 => ?_)
      refine x_istore (μ := mu_tw_isChanged) (pc := 26) (lv' := [(6, vI x3), (0, vR h), (1, vI v1), (2, vI v2), (3, vI v3), (4, vI v4), (5, vI v5)]) dX11_isChanged_26 (by decide) rfl ?_
      refine x_iload_n (μ := mu_tw_isChanged) (pc := 28) 3 dX11_isChanged_28 rfl ?_
      refine x_if_ne (μ := mu_tw_isChanged) (pc := 29) (tgt := 43) dX11_isChanged_29 rfl hv2 ?_ ?_
      · refine x_aload_n (μ := mu_tw_isChanged) (pc := 43) 1 dX11_isChanged_43 rfl ?_
        refine x_iload_n (μ := mu_tw_isChanged) (pc := 44) 2 dX11_isChanged_44 rfl ?_
        refine x_iload (μ := mu_tw_isChanged) (pc := 45) 0 dX11_isChanged_45 rfl ?_
        refine x_iload_n (μ := mu_tw_isChanged) (pc := 47) 4 dX11_isChanged_47 rfl ?_
        refine x_callV_pi (μ := mu_tw_isChanged) (pc := 48) (ok_tw_contentOf (ω := ω) (l := l) (d := d - 1) (by omega) hM hv1 hr4 hv3) gRel_Tw gRel_Tw (fun _ q => q) q3681 q3683 qs211 q232 q3684 dX11_isChanged_48 rfl hM.1 hy_tw_contentOf (by omega) (Nat.le_of_ble_eq_true rfl) rfl (Nat.le_of_ble_eq_true rfl) (fun x5 hr6 => ?_)
        refine x_loc (lv' := [(0, vR h), (1, vI v1), (2, vI v2), (3, vI v3), (4, vI v4), (5, vI v5), (6, vI x3)]) [1, 2, 3, 4, 5, 6, 0] rfl ?_
        exact okj_tw_isChanged_l3_j51 hdp hM hv1 hv2 hv3 hv4 hv5 hr4 hr6 ih hK
      · refine x_aload_n (μ := mu_tw_isChanged) (pc := 32) 1 dX11_isChanged_32 rfl ?_
        refine x_iload_n (μ := mu_tw_isChanged) (pc := 33) 2 dX11_isChanged_33 rfl ?_
        refine x_iload_n (μ := mu_tw_isChanged) (pc := 34) 4 dX11_isChanged_34 rfl ?_
        refine x_iload (μ := mu_tw_isChanged) (pc := 35) 0 dX11_isChanged_35 rfl ?_
        refine x_callV_pi (μ := mu_tw_isChanged) (pc := 37) (ok_tw_contentOf (ω := ω) (l := l) (d := d - 1) (by omega) hM hv1 hv3 hr4) gRel_Tw gRel_Tw (fun _ q => q) q3681 q3683 qs211 q232 q3684 dX11_isChanged_37 rfl hM.1 hy_tw_contentOf (by omega) (Nat.le_of_ble_eq_true rfl) rfl (Nat.le_of_ble_eq_true rfl) (fun x13 hr14 => ?_)
        refine x_goto (μ := mu_tw_isChanged) (pc := 40) (tgt := 51) dX11_isChanged_40 rfl ?_
        refine x_loc (lv' := [(0, vR h), (1, vI v1), (2, vI v2), (3, vI v3), (4, vI v4), (5, vI v5), (6, vI x3)]) [1, 2, 3, 4, 5, 6, 0] rfl ?_
        exact okj_tw_isChanged_l3_j51 hdp hM hv1 hv2 hv3 hv4 hv5 hr4 hr14 ih hK
def tw_isChanged (N : Nat) (h : Nat) (v1 : Int) (v2 : Int) (v3 : Int) (v4 : Int) (σ : gMem) : Option Int := tw_isChanged_l3 N h σ v1 v2 v3 v4 (some 0) N 0
set_option maxRecDepth 100000 in
theorem ok_tw_isChanged {ω : gW} {l : Launch} {d : Nat} {N : Nat} {h : Nat} {σ : gMem} {v1 : Int} {v2 : Int} {v3 : Int} {v4 : Int} (hdp : 3 ≤ d) (hM : TM σ h) (hv1 : g32 v1) (hv2 : g32 v2) (hv3 : g32 v3) (hv4 : g32 v4) : gK (fun x : Int => (.inl (some (vI x)), σ)) gTw ω l d mu_tw_isChanged [vR h, vI v1, vI v2, vI v3, vI v4] σ (tw_isChanged N h v1 v2 v3 v4 σ) := by
  refine gK.of hp_X11 (Nat.le_of_ble_eq_true rfl) ?_
  unfold tw_isChanged
  refine x_iconst (μ := mu_tw_isChanged) (pc := 0) dX11_isChanged_0 ?_
  refine x_istore (μ := mu_tw_isChanged) (pc := 1) (lv' := [(5, vI 0), (0, vR h), (1, vI v1), (2, vI v2), (3, vI v3), (4, vI v4)]) dX11_isChanged_1 (by decide) rfl ?_
  refine x_loc (lv' := [(0, vR h), (1, vI v1), (2, vI v2), (3, vI v3), (4, vI v4), (5, vI 0)]) [1, 2, 3, 4, 5, 0] rfl ?_
  refine okl_tw_isChanged_l3 hdp hM hv1 hv2 hv3 hv4 ?_ N 0 (by decide)
  refine x_iconst (μ := mu_tw_isChanged) (pc := 112) dX11_isChanged_112 ?_
  exact x_zret (μ := mu_tw_isChanged) (pc := 113) dX11_isChanged_113 rfl (by decide) rfl (gRel_Tw.1 _) (show g32 0 from (by decide))
def tw_newCell_j174 (N : Nat) (h : Nat) (v3 : Int) (v4 : Int) (v10 : Int) (s : gMem) : Option gMem := if 0 ≤ ((38720 + (10 * v3)) + v4) ∧ ((38720 + (10 * v3)) + v4) < ((39040 : Nat) : Int) then gLet (wI s (h + 5) ((38720 + (10 * v3)) + v4).toNat v10) (fun s11 => some s11) else none
set_option maxRecDepth 100000 in
theorem okj_tw_newCell_j174 {ω : gW} {l : Launch} {d : Nat} {N : Nat} {h : Nat} {σ0 : gMem} {s : gMem} {v3 : Int} {v4 : Int} {v10 : Int} (hdp : 3 ≤ d) (hM : TM s h) (hv3 : g32 v3) (hv4 : g32 v4) (hv10 : g32 v10) : GG (fun p : gMem => (.inl none, p)) gTw ω l d mu_tw_newCell σ0 174 [(0, vR h), (3, vI v3), (4, vI v4), (10, vI v10)] [] s (tw_newCell_j174 N h v3 v4 v10 s) := by
  unfold tw_newCell_j174
  refine x_aload_n (μ := mu_tw_newCell) (pc := 174) 0 dX11_newCell_174 rfl ?_
  refine x_fgrE (μ := mu_tw_newCell) (pc := 175) fX11_5 (Or.inr ⟨_, rfl⟩) q2641 (hM.a5).1 dX11_newCell_175 hM.1 ?_
  refine x_ldcw (μ := mu_tw_newCell) (pc := 178) (n := 38720) dX11_newCell_178 q3701 ?_
  refine x_bipush (μ := mu_tw_newCell) (pc := 181) dX11_newCell_181 (by decide) ?_
  refine x_iload_n (μ := mu_tw_newCell) (pc := 183) 1 dX11_newCell_183 rfl ?_
  refine x_imul (μ := mu_tw_newCell) (pc := 184) dX11_newCell_184 ?_
  refine x_iadd (μ := mu_tw_newCell) (pc := 185) dX11_newCell_185 ?_
  refine x_iload (μ := mu_tw_newCell) (pc := 186) 2 dX11_newCell_186 rfl ?_
  refine x_iadd (μ := mu_tw_newCell) (pc := 188) dX11_newCell_188 ?_
  refine x_iload (μ := mu_tw_newCell) (pc := 189) 3 dX11_newCell_189 rfl ?_
  refine x_iast (μ := mu_tw_newCell) (pc := 191) dX11_newCell_191 (hM.a5).2.1 (hM.a5).2.2 (fun _ _ q => gTw_wI q) ?_
  refine x_let (fun s11 e12 => ?_)
  have hM13 := TM.eI e12 hM
  exact x_vret (μ := mu_tw_newCell) (pc := 192) (a1 := s11) dX11_newCell_192 rfl rfl (gRel_Tw.1 _) trivial
def tw_newCell_j88 (N : Nat) (h : Nat) (v3 : Int) (v4 : Int) (t0 : Int) (s : gMem) : Option gMem := tw_newCell_j174 N h v3 v4 t0  s
set_option maxRecDepth 100000 in
theorem okj_tw_newCell_j88 {ω : gW} {l : Launch} {d : Nat} {N : Nat} {h : Nat} {σ0 : gMem} {s : gMem} {v3 : Int} {v4 : Int} {t0 : Int} (hdp : 3 ≤ d) (hM : TM s h) (hv3 : g32 v3) (hv4 : g32 v4) (ht0 : g32 t0) : GG (fun p : gMem => (.inl none, p)) gTw ω l d mu_tw_newCell σ0 88 [(0, vR h), (3, vI v3), (4, vI v4)] [vI t0] s (tw_newCell_j88 N h v3 v4 t0 s) := by
  unfold tw_newCell_j88
  refine x_istore (μ := mu_tw_newCell) (pc := 88) (lv' := [(10, vI t0), (0, vR h), (3, vI v3), (4, vI v4)]) dX11_newCell_88 (by decide) rfl ?_
  refine x_goto (μ := mu_tw_newCell) (pc := 90) (tgt := 174) dX11_newCell_90 rfl ?_
  refine x_loc (lv' := [(0, vR h), (3, vI v3), (4, vI v4), (10, vI t0)]) [1, 2, 3, 0] rfl ?_
  exact okj_tw_newCell_j174 hdp hM hv3 hv4 ht0
def tw_newCell_j66 (N : Nat) (h : Nat) (v3 : Int) (v4 : Int) (v5 : Int) (v6 : Int) (v7 : Int) (v8 : Int) (t0 : Int) (s : gMem) : Option gMem := if 0 ≤ v7 then if v8 < 0 then tw_newCell_j174 N h v3 v4 v7  s else (tw_alike N h v8 t0 s).bind (fun x14 => if x14 ≠ 0 then tw_newCell_j174 N h v3 v4 v7  s else (tw_alike N h v7 v8 s).bind (fun x16 => if x16 ≠ 0 then tw_newCell_j174 N h v3 v4 v7  s else (tw_alike N h v7 t0 s).bind (fun x18 => if x18 = 0 then (tw_clash h 3 v5 v6 1 s).bind (fun x20 => if 0 ≤ ((mI x20 h 98) - 1) ∧ ((mI x20 h 98) - 1) < ((370 : Nat) : Int) then gLet (wI x20 (h + 49) ((mI x20 h 98) - 1).toNat v7) (fun s24 => if 0 ≤ ((mI s24 h 98) - 1) ∧ ((mI s24 h 98) - 1) < ((370 : Nat) : Int) then gLet (wI s24 (h + 50) ((mI s24 h 98) - 1).toNat v8) (fun s28 => tw_newCell_j174 N h v3 v4 v7  s28) else none) else none) else tw_newCell_j174 N h v3 v4 v8  s))) else if 0 ≤ v8 then tw_newCell_j88 N h v3 v4 v8 s else tw_newCell_j88 N h v3 v4 0 s
set_option maxRecDepth 100000 in
theorem okj_tw_newCell_j66 {ω : gW} {l : Launch} {d : Nat} {N : Nat} {h : Nat} {σ0 : gMem} {s : gMem} {v3 : Int} {v4 : Int} {v5 : Int} {v6 : Int} {v7 : Int} {v8 : Int} {t0 : Int} (hdp : 3 ≤ d) (hM : TM s h) (hv3 : g32 v3) (hv4 : g32 v4) (hv5 : g32 v5) (hv6 : g32 v6) (hv7 : g32 v7) (hv8 : g32 v8) (ht0 : g32 t0) : GG (fun p : gMem => (.inl none, p)) gTw ω l d mu_tw_newCell σ0 66 [(0, vR h), (3, vI v3), (4, vI v4), (5, vI v5), (6, vI v6), (7, vI v7), (8, vI v8)] [vI t0] s (tw_newCell_j66 N h v3 v4 v5 v6 v7 v8 t0 s) := by
  unfold tw_newCell_j66
  refine x_istore (μ := mu_tw_newCell) (pc := 66) (lv' := [(9, vI t0), (0, vR h), (3, vI v3), (4, vI v4), (5, vI v5), (6, vI v6), (7, vI v7), (8, vI v8)]) dX11_newCell_66 (by decide) rfl ?_
  refine x_iload (μ := mu_tw_newCell) (pc := 68) 6 dX11_newCell_68 rfl ?_
  refine x_istore (μ := mu_tw_newCell) (pc := 70) (lv' := [(10, vI v7), (9, vI t0), (0, vR h), (3, vI v3), (4, vI v4), (5, vI v5), (6, vI v6), (7, vI v7), (8, vI v8)]) dX11_newCell_70 (by decide) rfl ?_
  refine x_iload (μ := mu_tw_newCell) (pc := 72) 7 dX11_newCell_72 rfl ?_
  refine x_if_ge (μ := mu_tw_newCell) (pc := 74) (tgt := 93) dX11_newCell_74 rfl hv7 ?_ ?_
  · refine x_iload (μ := mu_tw_newCell) (pc := 93) 8 dX11_newCell_93 rfl ?_
    refine x_if_lt (μ := mu_tw_newCell) (pc := 95) (tgt := 174) dX11_newCell_95 rfl hv8 ?_ ?_
    · refine x_loc (lv' := [(0, vR h), (3, vI v3), (4, vI v4), (10, vI v7)]) [2, 3, 4, 0] rfl ?_
      exact okj_tw_newCell_j174 hdp hM hv3 hv4 hv7
    · refine x_aload_n (μ := mu_tw_newCell) (pc := 98) 2 dX11_newCell_98 rfl ?_
      refine x_iload (μ := mu_tw_newCell) (pc := 99) 8 dX11_newCell_99 rfl ?_
      refine x_iload (μ := mu_tw_newCell) (pc := 101) 1 dX11_newCell_101 rfl ?_
      refine x_callV_pi (μ := mu_tw_newCell) (pc := 103) (ok_tw_alike (ω := ω) (l := l) (d := d - 1) (by omega) hM hv8 ht0) gRel_Tw gRel_Tw (fun _ q => q) q3616 q3618 qs198 q232 q3619 dX11_newCell_103 rfl hM.1 hy_tw_alike (by omega) (Nat.le_of_ble_eq_true rfl) rfl (Nat.le_of_ble_eq_true rfl) (fun x14 hr15 => ?_)
      refine x_if_ne (μ := mu_tw_newCell) (pc := 106) (tgt := 174) dX11_newCell_106 rfl hr15 ?_ ?_
      · refine x_loc (lv' := [(0, vR h), (3, vI v3), (4, vI v4), (10, vI v7)]) [2, 3, 4, 0] rfl ?_
        exact okj_tw_newCell_j174 hdp hM hv3 hv4 hv7
      · refine x_aload_n (μ := mu_tw_newCell) (pc := 109) 2 dX11_newCell_109 rfl ?_
        refine x_iload (μ := mu_tw_newCell) (pc := 110) 7 dX11_newCell_110 rfl ?_
        refine x_iload (μ := mu_tw_newCell) (pc := 112) 8 dX11_newCell_112 rfl ?_
        refine x_callV_pi (μ := mu_tw_newCell) (pc := 114) (ok_tw_alike (ω := ω) (l := l) (d := d - 1) (by omega) hM hv7 hv8) gRel_Tw gRel_Tw (fun _ q => q) q3616 q3618 qs198 q232 q3619 dX11_newCell_114 rfl hM.1 hy_tw_alike (by omega) (Nat.le_of_ble_eq_true rfl) rfl (Nat.le_of_ble_eq_true rfl) (fun x16 hr17 => ?_)
        refine x_if_ne (μ := mu_tw_newCell) (pc := 117) (tgt := 174) dX11_newCell_117 rfl hr17 ?_ ?_
        · refine x_loc (lv' := [(0, vR h), (3, vI v3), (4, vI v4), (10, vI v7)]) [2, 3, 4, 0] rfl ?_
          exact okj_tw_newCell_j174 hdp hM hv3 hv4 hv7
        · refine x_aload_n (μ := mu_tw_newCell) (pc := 120) 2 dX11_newCell_120 rfl ?_
          refine x_iload (μ := mu_tw_newCell) (pc := 121) 7 dX11_newCell_121 rfl ?_
          refine x_iload (μ := mu_tw_newCell) (pc := 123) 1 dX11_newCell_123 rfl ?_
          refine x_callV_pi (μ := mu_tw_newCell) (pc := 125) (ok_tw_alike (ω := ω) (l := l) (d := d - 1) (by omega) hM hv7 ht0) gRel_Tw gRel_Tw (fun _ q => q) q3616 q3618 qs198 q232 q3619 dX11_newCell_125 rfl hM.1 hy_tw_alike (by omega) (Nat.le_of_ble_eq_true rfl) rfl (Nat.le_of_ble_eq_true rfl) (fun x18 hr19 => ?_)
          refine x_if_eq (μ := mu_tw_newCell) (pc := 128) (tgt := 138) dX11_newCell_128 rfl hr19 ?_ ?_
          · refine x_aload_n (μ := mu_tw_newCell) (pc := 138) 2 dX11_newCell_138 rfl ?_
            refine x_iconst (μ := mu_tw_newCell) (pc := 139) dX11_newCell_139 ?_
            refine x_iload (μ := mu_tw_newCell) (pc := 140) 5 dX11_newCell_140 rfl ?_
            refine x_iload (μ := mu_tw_newCell) (pc := 142) 6 dX11_newCell_142 rfl ?_
            refine x_iconst (μ := mu_tw_newCell) (pc := 144) dX11_newCell_144 ?_
            refine x_callV_mv (μ := mu_tw_newCell) (pc := 145) (ok_tw_clash (ω := ω) (l := l) (d := d - 1) (by omega) hM (by decide) hv5 hv6 (by decide)) gRel_Tw gRel_Tw (fun _ q => q) q3697 q3699 qs215 q232 q3700 dX11_newCell_145 rfl hM.1 hy_tw_clash (by omega) (Nat.le_of_ble_eq_true rfl) rfl (Nat.le_of_ble_eq_true rfl) (fun x20 k21 => ?_)
            have hM22 : TM x20 h := hM.tw k21
            refine x_aload_n (μ := mu_tw_newCell) (pc := 148) 2 dX11_newCell_148 rfl ?_
            refine x_fgrE (μ := mu_tw_newCell) (pc := 149) fX11_94 (Or.inr ⟨_, rfl⟩) q2730 (hM22.a94).1 dX11_newCell_149 hM22.1 ?_
            refine x_aload_n (μ := mu_tw_newCell) (pc := 152) 2 dX11_newCell_152 rfl ?_
            refine x_fgi (μ := mu_tw_newCell) (pc := 153) fX11_98 q2734 dX11_newCell_153 hM22.1 (fun hr23 => ?_)
            refine x_iconst (μ := mu_tw_newCell) (pc := 156) dX11_newCell_156 ?_
            refine x_isub (μ := mu_tw_newCell) (pc := 157) dX11_newCell_157 ?_
            refine x_iload (μ := mu_tw_newCell) (pc := 158) 7 dX11_newCell_158 rfl ?_
            refine x_iast (μ := mu_tw_newCell) (pc := 160) dX11_newCell_160 (hM22.a94).2.1 (hM22.a94).2.2 (fun _ _ q => gTw_wI q) ?_
            refine x_let (fun s24 e25 => ?_)
            have hM26 := TM.eI e25 hM22
            refine x_aload_n (μ := mu_tw_newCell) (pc := 161) 2 dX11_newCell_161 rfl ?_
            refine x_fgrE (μ := mu_tw_newCell) (pc := 162) fX11_95 (Or.inr ⟨_, rfl⟩) q2731 (hM26.a95).1 dX11_newCell_162 hM26.1 ?_
            refine x_aload_n (μ := mu_tw_newCell) (pc := 165) 2 dX11_newCell_165 rfl ?_
            refine x_fgi (μ := mu_tw_newCell) (pc := 166) fX11_98 q2734 dX11_newCell_166 hM26.1 (fun hr27 => ?_)
            refine x_iconst (μ := mu_tw_newCell) (pc := 169) dX11_newCell_169 ?_
            refine x_isub (μ := mu_tw_newCell) (pc := 170) dX11_newCell_170 ?_
            refine x_iload (μ := mu_tw_newCell) (pc := 171) 8 dX11_newCell_171 rfl ?_
            refine x_iast (μ := mu_tw_newCell) (pc := 173) dX11_newCell_173 (hM26.a95).2.1 (hM26.a95).2.2 (fun _ _ q => gTw_wI q) ?_
            refine x_let (fun s28 e29 => ?_)
            have hM30 := TM.eI e29 hM26
            refine x_loc (lv' := [(0, vR h), (3, vI v3), (4, vI v4), (10, vI v7)]) [2, 3, 4, 0] rfl ?_
            exact okj_tw_newCell_j174 hdp hM30 hv3 hv4 hv7
          · refine x_iload (μ := mu_tw_newCell) (pc := 131) 8 dX11_newCell_131 rfl ?_
            refine x_istore (μ := mu_tw_newCell) (pc := 133) (lv' := [(10, vI v8), (9, vI t0), (0, vR h), (3, vI v3), (4, vI v4), (5, vI v5), (6, vI v6), (7, vI v7), (8, vI v8)]) dX11_newCell_133 (by decide) rfl ?_
            refine x_goto (μ := mu_tw_newCell) (pc := 135) (tgt := 174) dX11_newCell_135 rfl ?_
            refine x_loc (lv' := [(0, vR h), (3, vI v3), (4, vI v4), (10, vI v8)]) [2, 3, 4, 0] rfl ?_
            exact okj_tw_newCell_j174 hdp hM hv3 hv4 hv8
  · refine x_iload (μ := mu_tw_newCell) (pc := 77) 8 dX11_newCell_77 rfl ?_
    refine x_if_ge (μ := mu_tw_newCell) (pc := 79) (tgt := 86) dX11_newCell_79 rfl hv8 ?_ ?_
    · refine x_iload (μ := mu_tw_newCell) (pc := 86) 8 dX11_newCell_86 rfl ?_
      refine x_loc (lv' := [(0, vR h), (3, vI v3), (4, vI v4)]) [2, 3, 4] rfl ?_
      exact okj_tw_newCell_j88 hdp hM hv3 hv4 hv8
    · refine x_iconst (μ := mu_tw_newCell) (pc := 82) dX11_newCell_82 ?_
      refine x_goto (μ := mu_tw_newCell) (pc := 83) (tgt := 88) dX11_newCell_83 rfl ?_
      refine x_loc (lv' := [(0, vR h), (3, vI v3), (4, vI v4)]) [2, 3, 4] rfl ?_
      exact okj_tw_newCell_j88 hdp hM hv3 hv4 (by decide)
def tw_newCell (N : Nat) (h : Nat) (v1 : Int) (v2 : Int) (v3 : Int) (v4 : Int) (σ : gMem) : Option gMem := (tw_lineAt h 121 0 v3 σ).bind (fun x1 => (tw_lineAt h 121 1 v4 σ).bind (fun x3 => (tw_contentOf N h 40 x1 x3 σ).bind (fun x5 => (tw_contentOf N h v1 x1 x3 σ).bind (fun x7 => (tw_contentOf N h v2 x1 x3 σ).bind (fun x9 => if 0 ≤ x9 then tw_newCell_j66 N h v3 v4 x1 x3 x5 x7 x9 σ else tw_newCell_j66 N h v3 v4 x1 x3 x5 x7 0 σ)))))
set_option maxRecDepth 100000 in
theorem ok_tw_newCell {ω : gW} {l : Launch} {d : Nat} {N : Nat} {h : Nat} {σ : gMem} {v1 : Int} {v2 : Int} {v3 : Int} {v4 : Int} (hdp : 3 ≤ d) (hM : TM σ h) (hv1 : g32 v1) (hv2 : g32 v2) (hv3 : g32 v3) (hv4 : g32 v4) : gK (fun p : gMem => (.inl none, p)) gTw ω l d mu_tw_newCell [vR h, vI v1, vI v2, vI v3, vI v4] σ (tw_newCell N h v1 v2 v3 v4 σ) := by
  refine gK.of hp_X11 (Nat.le_of_ble_eq_true rfl) ?_
  unfold tw_newCell
  refine x_aload_n (μ := mu_tw_newCell) (pc := 0) 0 dX11_newCell_0 rfl ?_
  refine x_bipush (μ := mu_tw_newCell) (pc := 1) dX11_newCell_1 (by decide) ?_
  refine x_iconst (μ := mu_tw_newCell) (pc := 3) dX11_newCell_3 ?_
  refine x_iload_n (μ := mu_tw_newCell) (pc := 4) 3 dX11_newCell_4 rfl ?_
  refine x_callV_pi (μ := mu_tw_newCell) (pc := 5) (ok_tw_lineAt (ω := ω) (l := l) (d := d - 1) (by omega) hM (by decide) (by decide) hv3) gRel_Tw gRel_Tw (fun _ q => q) q3148 q3150 qs111 q232 q3151 dX11_newCell_5 rfl hM.1 hy_tw_lineAt (by omega) (Nat.le_of_ble_eq_true rfl) rfl (Nat.le_of_ble_eq_true rfl) (fun x1 hr2 => ?_)
  refine x_istore (μ := mu_tw_newCell) (pc := 8) (lv' := [(5, vI x1), (0, vR h), (1, vI v1), (2, vI v2), (3, vI v3), (4, vI v4)]) dX11_newCell_8 (by decide) rfl ?_
  refine x_aload_n (μ := mu_tw_newCell) (pc := 10) 1 dX11_newCell_10 rfl ?_
  refine x_bipush (μ := mu_tw_newCell) (pc := 11) dX11_newCell_11 (by decide) ?_
  refine x_iconst (μ := mu_tw_newCell) (pc := 13) dX11_newCell_13 ?_
  refine x_iload (μ := mu_tw_newCell) (pc := 14) 5 dX11_newCell_14 rfl ?_
  refine x_callV_pi (μ := mu_tw_newCell) (pc := 16) (ok_tw_lineAt (ω := ω) (l := l) (d := d - 1) (by omega) hM (by decide) (by decide) hv4) gRel_Tw gRel_Tw (fun _ q => q) q3148 q3150 qs111 q232 q3151 dX11_newCell_16 rfl hM.1 hy_tw_lineAt (by omega) (Nat.le_of_ble_eq_true rfl) rfl (Nat.le_of_ble_eq_true rfl) (fun x3 hr4 => ?_)
  refine x_istore (μ := mu_tw_newCell) (pc := 19) (lv' := [(6, vI x3), (5, vI x1), (0, vR h), (1, vI v1), (2, vI v2), (3, vI v3), (4, vI v4)]) dX11_newCell_19 (by decide) rfl ?_
  refine x_aload_n (μ := mu_tw_newCell) (pc := 21) 2 dX11_newCell_21 rfl ?_
  refine x_bipush (μ := mu_tw_newCell) (pc := 22) dX11_newCell_22 (by decide) ?_
  refine x_iload (μ := mu_tw_newCell) (pc := 24) 1 dX11_newCell_24 rfl ?_
  refine x_iload (μ := mu_tw_newCell) (pc := 26) 0 dX11_newCell_26 rfl ?_
  refine x_callV_pi (μ := mu_tw_newCell) (pc := 28) (ok_tw_contentOf (ω := ω) (l := l) (d := d - 1) (by omega) hM (by decide) hr2 hr4) gRel_Tw gRel_Tw (fun _ q => q) q3681 q3683 qs211 q232 q3684 dX11_newCell_28 rfl hM.1 hy_tw_contentOf (by omega) (Nat.le_of_ble_eq_true rfl) rfl (Nat.le_of_ble_eq_true rfl) (fun x5 hr6 => ?_)
  refine x_istore (μ := mu_tw_newCell) (pc := 31) (lv' := [(7, vI x5), (6, vI x3), (5, vI x1), (0, vR h), (1, vI v1), (2, vI v2), (3, vI v3), (4, vI v4)]) dX11_newCell_31 (by decide) rfl ?_
  refine x_aload_n (μ := mu_tw_newCell) (pc := 33) 3 dX11_newCell_33 rfl ?_
  refine x_iload_n (μ := mu_tw_newCell) (pc := 34) 4 dX11_newCell_34 rfl ?_
  refine x_iload (μ := mu_tw_newCell) (pc := 35) 2 dX11_newCell_35 rfl ?_
  refine x_iload (μ := mu_tw_newCell) (pc := 37) 1 dX11_newCell_37 rfl ?_
  refine x_callV_pi (μ := mu_tw_newCell) (pc := 39) (ok_tw_contentOf (ω := ω) (l := l) (d := d - 1) (by omega) hM hv1 hr2 hr4) gRel_Tw gRel_Tw (fun _ q => q) q3681 q3683 qs211 q232 q3684 dX11_newCell_39 rfl hM.1 hy_tw_contentOf (by omega) (Nat.le_of_ble_eq_true rfl) rfl (Nat.le_of_ble_eq_true rfl) (fun x7 hr8 => ?_)
  refine x_istore (μ := mu_tw_newCell) (pc := 42) (lv' := [(8, vI x7), (7, vI x5), (6, vI x3), (5, vI x1), (0, vR h), (1, vI v1), (2, vI v2), (3, vI v3), (4, vI v4)]) dX11_newCell_42 (by decide) rfl ?_
  refine x_aload_n (μ := mu_tw_newCell) (pc := 44) 4 dX11_newCell_44 rfl ?_
  refine x_iload_n (μ := mu_tw_newCell) (pc := 45) 6 dX11_newCell_45 rfl ?_
  refine x_iload (μ := mu_tw_newCell) (pc := 46) 3 dX11_newCell_46 rfl ?_
  refine x_iload (μ := mu_tw_newCell) (pc := 48) 2 dX11_newCell_48 rfl ?_
  refine x_callV_pi (μ := mu_tw_newCell) (pc := 50) (ok_tw_contentOf (ω := ω) (l := l) (d := d - 1) (by omega) hM hv2 hr2 hr4) gRel_Tw gRel_Tw (fun _ q => q) q3681 q3683 qs211 q232 q3684 dX11_newCell_50 rfl hM.1 hy_tw_contentOf (by omega) (Nat.le_of_ble_eq_true rfl) rfl (Nat.le_of_ble_eq_true rfl) (fun x9 hr10 => ?_)
  refine x_istore (μ := mu_tw_newCell) (pc := 53) (lv' := [(9, vI x9), (8, vI x7), (7, vI x5), (6, vI x3), (5, vI x1), (0, vR h), (1, vI v1), (2, vI v2), (3, vI v3), (4, vI v4)]) dX11_newCell_53 (by decide) rfl ?_
  refine x_iload (μ := mu_tw_newCell) (pc := 55) 0 dX11_newCell_55 rfl ?_
  refine x_if_ge (μ := mu_tw_newCell) (pc := 57) (tgt := 64) dX11_newCell_57 rfl hr10 ?_ ?_
  · refine x_iload (μ := mu_tw_newCell) (pc := 64) 0 dX11_newCell_64 rfl ?_
    refine x_loc (lv' := [(0, vR h), (3, vI v3), (4, vI v4), (5, vI x1), (6, vI x3), (7, vI x5), (8, vI x7)]) [5, 8, 9, 4, 3, 2, 1] rfl ?_
    exact okj_tw_newCell_j66 hdp hM hv3 hv4 hr2 hr4 hr6 hr8 hr10
  · refine x_iconst (μ := mu_tw_newCell) (pc := 60) dX11_newCell_60 ?_
    refine x_goto (μ := mu_tw_newCell) (pc := 61) (tgt := 66) dX11_newCell_61 rfl ?_
    refine x_loc (lv' := [(0, vR h), (3, vI v3), (4, vI v4), (5, vI x1), (6, vI x3), (7, vI x5), (8, vI x7)]) [5, 8, 9, 4, 3, 2, 1] rfl ?_
    exact okj_tw_newCell_j66 hdp hM hv3 hv4 hr2 hr4 hr6 hr8 (by decide)
def tw_diff_l46 (N : Nat) (h : Nat) (v3 : Int) (v4 : Int) (K : gMem → Option (Int × gMem)) : Nat → Int → gMem → Option (Int × gMem)
  | 0, _, _ => none
  | n + 1, v5, s => if 2 ≤ v5 then K s else (tw_linesAlone N h v3 v4 v5 (w32 ((2 * v5) + 1)) s).bind (fun x19 => (tw_linesAlone N h v4 v3 v5 (w32 ((2 * v5) + 2)) x19).bind (fun x22 => tw_diff_l46 N h v3 v4 K n (w32 (v5 + 1)) x22))
set_option maxRecDepth 100000 in
theorem okl_tw_diff_l46 {ω : gW} {l : Launch} {d : Nat} {N : Nat} {h : Nat} {σ0 : gMem} {v3 : Int} {v4 : Int} {K : gMem → Option (Int × gMem)} (hdp : 3 ≤ d) (hv3 : g32 v3) (hv4 : g32 v4) (hK : ∀ (s : gMem) , TM s h → GG (fun p : Int × gMem => (.inl (some (vI p.1)), p.2)) gTw ω l d mu_tw_diff σ0 88 [(0, vR h), (3, vI v3), (4, vI v4)] [] s (K s)) : ∀ (n : Nat) (v5 : Int) (s : gMem) , g32 v5 → TM s h → GG (fun p : Int × gMem => (.inl (some (vI p.1)), p.2)) gTw ω l d mu_tw_diff σ0 46 [(0, vR h), (3, vI v3), (4, vI v4), (5, vI v5)] [] s (tw_diff_l46 N h v3 v4 K n v5 s) := by
  intro n
  induction n with
  | zero => intros; exact x_none
  | succ n ih =>
    intro v5 s hv5 hM
    unfold tw_diff_l46
    refine x_iload (μ := mu_tw_diff) (pc := 46) 3 dX11_diff_46 rfl ?_
    refine x_iconst (μ := mu_tw_diff) (pc := 48) dX11_diff_48 ?_
    refine x_icmp_ge (μ := mu_tw_diff) (pc := 49) (tgt := 88) dX11_diff_49 rfl hv5 (by decide) ?_ ?_
    · refine x_loc (lv' := [(0, vR h), (3, vI v3), (4, vI v4)]) [0, 1, 2] rfl ?_
      exact hK s hM
    · refine x_aload_n (μ := mu_tw_diff) (pc := 52) 0 dX11_diff_52 rfl ?_
      refine x_iload_n (μ := mu_tw_diff) (pc := 53) 1 dX11_diff_53 rfl ?_
      refine x_iload (μ := mu_tw_diff) (pc := 54) 2 dX11_diff_54 rfl ?_
      refine x_iload (μ := mu_tw_diff) (pc := 56) 3 dX11_diff_56 rfl ?_
      refine x_iconst (μ := mu_tw_diff) (pc := 58) dX11_diff_58 ?_
      refine x_iload (μ := mu_tw_diff) (pc := 59) 3 dX11_diff_59 rfl ?_
      refine x_imul (μ := mu_tw_diff) (pc := 61) dX11_diff_61 ?_
      refine x_iconst (μ := mu_tw_diff) (pc := 62) dX11_diff_62 ?_
      refine x_iadd (μ := mu_tw_diff) (pc := 63) dX11_diff_63 ?_
      refine x_w1 ?_
      refine x_callV_mv (μ := mu_tw_diff) (pc := 64) (ok_tw_linesAlone (ω := ω) (l := l) (d := d - 1) (by omega) hM hv3 hv4 hv5 (w32_rng _)) gRel_Tw gRel_Tw (fun _ q => q) q3722 q3724 qs217 q232 q3725 dX11_diff_64 rfl hM.1 hy_tw_linesAlone (by omega) (Nat.le_of_ble_eq_true rfl) rfl (Nat.le_of_ble_eq_true rfl) (fun x19 k20 => ?_)
      have hM21 : TM x19 h := hM.tw k20
      refine x_aload_n (μ := mu_tw_diff) (pc := 67) 0 dX11_diff_67 rfl ?_
      refine x_iload (μ := mu_tw_diff) (pc := 68) 2 dX11_diff_68 rfl ?_
      refine x_iload_n (μ := mu_tw_diff) (pc := 70) 1 dX11_diff_70 rfl ?_
      refine x_iload (μ := mu_tw_diff) (pc := 71) 3 dX11_diff_71 rfl ?_
      refine x_iconst (μ := mu_tw_diff) (pc := 73) dX11_diff_73 ?_
      refine x_iload (μ := mu_tw_diff) (pc := 74) 3 dX11_diff_74 rfl ?_
      refine x_imul (μ := mu_tw_diff) (pc := 76) dX11_diff_76 ?_
      refine x_iconst (μ := mu_tw_diff) (pc := 77) dX11_diff_77 ?_
      refine x_iadd (μ := mu_tw_diff) (pc := 78) dX11_diff_78 ?_
      refine x_w1 ?_
      refine x_callV_mv (μ := mu_tw_diff) (pc := 79) (ok_tw_linesAlone (ω := ω) (l := l) (d := d - 1) (by omega) hM21 hv4 hv3 hv5 (w32_rng _)) gRel_Tw gRel_Tw (fun _ q => q) q3722 q3724 qs217 q232 q3725 dX11_diff_79 rfl hM21.1 hy_tw_linesAlone (by omega) (Nat.le_of_ble_eq_true rfl) rfl (Nat.le_of_ble_eq_true rfl) (fun x22 k23 => ?_)
      have hM24 : TM x22 h := hM21.tw k23
      refine x_iincw (μ := mu_tw_diff) (pc := 82) (lv' := [(5, vI (w32 (v5 + 1))), (0, vR h), (3, vI v3), (4, vI v4)]) 3 dX11_diff_82 rfl (by decide) rfl ?_
      refine x_goto (μ := mu_tw_diff) (pc := 85) (tgt := 46) dX11_diff_85 rfl ?_
      refine x_loc (lv' := [(0, vR h), (3, vI v3), (4, vI v4), (5, vI (w32 (v5 + 1)))]) [1, 2, 3, 0] rfl ?_
      exact ih (w32 (v5 + 1)) x22 (w32_rng _) hM24
def tw_diff_l91_j121 (N : Nat) (h : Nat) (v3 : Int) (v4 : Int) (v5 : Int) (Kh : Int → gMem → Option (Int × gMem)) (K : gMem → Option (Int × gMem)) (s : gMem) : Option (Int × gMem) := Kh (w32 (v5 + 1)) s
set_option maxRecDepth 100000 in
theorem okj_tw_diff_l91_j121 {ω : gW} {l : Launch} {d : Nat} {N : Nat} {h : Nat} {σ0 : gMem} {s : gMem} {v3 : Int} {v4 : Int} {v5 : Int} {Kh : Int → gMem → Option (Int × gMem)} {K : gMem → Option (Int × gMem)} (hdp : 3 ≤ d) (hM : TM s h) (hv3 : g32 v3) (hv4 : g32 v4) (hv5 : g32 v5) (hKh : ∀ (v5 : Int) (s : gMem) , g32 v5 → TM s h → GG (fun p : Int × gMem => (.inl (some (vI p.1)), p.2)) gTw ω l d mu_tw_diff σ0 91 [(0, vR h), (3, vI v3), (4, vI v4), (5, vI v5)] [] s (Kh v5 s)) (hK : ∀ (s : gMem) , TM s h → GG (fun p : Int × gMem => (.inl (some (vI p.1)), p.2)) gTw ω l d mu_tw_diff σ0 127 [(0, vR h), (3, vI v3), (4, vI v4)] [] s (K s)) : GG (fun p : Int × gMem => (.inl (some (vI p.1)), p.2)) gTw ω l d mu_tw_diff σ0 121 [(0, vR h), (3, vI v3), (4, vI v4), (5, vI v5)] [] s (tw_diff_l91_j121 N h v3 v4 v5 Kh K s) := by
  unfold tw_diff_l91_j121
  refine x_iincw (μ := mu_tw_diff) (pc := 121) (lv' := [(5, vI (w32 (v5 + 1))), (0, vR h), (3, vI v3), (4, vI v4)]) 3 dX11_diff_121 rfl (by decide) rfl ?_
  refine x_goto (μ := mu_tw_diff) (pc := 124) (tgt := 91) dX11_diff_124 rfl ?_
  refine x_loc (lv' := [(0, vR h), (3, vI v3), (4, vI v4), (5, vI (w32 (v5 + 1)))]) [1, 2, 3, 0] rfl ?_
  exact hKh (w32 (v5 + 1)) s (w32_rng _) hM
def tw_diff_l91 (N : Nat) (h : Nat) (v3 : Int) (v4 : Int) (K : gMem → Option (Int × gMem)) : Nat → Int → gMem → Option (Int × gMem)
  | 0, _, _ => none
  | n + 1, v5, s => if 2 ≤ v5 then K s else (tw_sameOrder N h v3 v4 v4 v5 s).bind (fun x27 => if x27 ≠ 0 then tw_diff_l91_j121 N h v3 v4 v5  (tw_diff_l91 N h v3 v4 K n) K s else (tw_differ h (w32 (5 + v5)) 0 0 s).bind (fun x29 => tw_diff_l91_j121 N h v3 v4 v5  (tw_diff_l91 N h v3 v4 K n) K x29))
set_option maxRecDepth 100000 in
theorem okl_tw_diff_l91 {ω : gW} {l : Launch} {d : Nat} {N : Nat} {h : Nat} {σ0 : gMem} {v3 : Int} {v4 : Int} {K : gMem → Option (Int × gMem)} (hdp : 3 ≤ d) (hv3 : g32 v3) (hv4 : g32 v4) (hK : ∀ (s : gMem) , TM s h → GG (fun p : Int × gMem => (.inl (some (vI p.1)), p.2)) gTw ω l d mu_tw_diff σ0 127 [(0, vR h), (3, vI v3), (4, vI v4)] [] s (K s)) : ∀ (n : Nat) (v5 : Int) (s : gMem) , g32 v5 → TM s h → GG (fun p : Int × gMem => (.inl (some (vI p.1)), p.2)) gTw ω l d mu_tw_diff σ0 91 [(0, vR h), (3, vI v3), (4, vI v4), (5, vI v5)] [] s (tw_diff_l91 N h v3 v4 K n v5 s) := by
  intro n
  induction n with
  | zero => intros; exact x_none
  | succ n ih =>
    intro v5 s hv5 hM
    unfold tw_diff_l91
    refine x_iload (μ := mu_tw_diff) (pc := 91) 3 dX11_diff_91 rfl ?_
    refine x_iconst (μ := mu_tw_diff) (pc := 93) dX11_diff_93 ?_
    refine x_icmp_ge (μ := mu_tw_diff) (pc := 94) (tgt := 127) dX11_diff_94 rfl hv5 (by decide) ?_ ?_
    · refine x_loc (lv' := [(0, vR h), (3, vI v3), (4, vI v4)]) [0, 1, 2] rfl ?_
      exact hK s hM
    · refine x_aload_n (μ := mu_tw_diff) (pc := 97) 0 dX11_diff_97 rfl ?_
      refine x_iload_n (μ := mu_tw_diff) (pc := 98) 1 dX11_diff_98 rfl ?_
      refine x_iload (μ := mu_tw_diff) (pc := 99) 2 dX11_diff_99 rfl ?_
      refine x_iload (μ := mu_tw_diff) (pc := 101) 2 dX11_diff_101 rfl ?_
      refine x_iload (μ := mu_tw_diff) (pc := 103) 3 dX11_diff_103 rfl ?_
      refine x_callV_pi (μ := mu_tw_diff) (pc := 105) (ok_tw_sameOrder (ω := ω) (l := l) (d := d - 1) (by omega) hM hv3 hv4 hv4 hv5) gRel_Tw gRel_Tw (fun _ q => q) q3669 q3671 qs208 q232 q3672 dX11_diff_105 rfl hM.1 hy_tw_sameOrder (by omega) (Nat.le_of_ble_eq_true rfl) rfl (Nat.le_of_ble_eq_true rfl) (fun x27 hr28 => ?_)
      refine x_if_ne (μ := mu_tw_diff) (pc := 108) (tgt := 121) dX11_diff_108 rfl hr28 ?_ ?_
      · exact okj_tw_diff_l91_j121 hdp hM hv3 hv4 hv5 ih hK
      · refine x_aload_n (μ := mu_tw_diff) (pc := 111) 0 dX11_diff_111 rfl ?_
        refine x_iconst (μ := mu_tw_diff) (pc := 112) dX11_diff_112 ?_
        refine x_iload (μ := mu_tw_diff) (pc := 113) 3 dX11_diff_113 rfl ?_
        refine x_iadd (μ := mu_tw_diff) (pc := 115) dX11_diff_115 ?_
        refine x_iconst (μ := mu_tw_diff) (pc := 116) dX11_diff_116 ?_
        refine x_iconst (μ := mu_tw_diff) (pc := 117) dX11_diff_117 ?_
        refine x_stk (st2 := [vI 0, vI 0, vI (w32 (5 + v5)), vR h]) (by simp only [List.map_cons, gval_w32, gval_w64]) ?_
        refine x_callV_mv (μ := mu_tw_diff) (pc := 118) (ok_tw_differ (ω := ω) (l := l) (d := d - 1) (by omega) hM (w32_rng _) (by decide) (by decide)) gRel_Tw gRel_Tw (fun _ q => q) q3726 q3728 qs218 q232 q3729 dX11_diff_118 rfl hM.1 hy_tw_differ (by omega) (Nat.le_of_ble_eq_true rfl) rfl (Nat.le_of_ble_eq_true rfl) (fun x29 k30 => ?_)
        have hM31 : TM x29 h := hM.tw k30
        exact okj_tw_diff_l91_j121 hdp hM31 hv3 hv4 hv5 ih hK
def tw_diff_l130_j243 (N : Nat) (h : Nat) (v3 : Int) (v4 : Int) (v5 : Int) (Kh : Int → gMem → Option (Int × gMem)) (K : gMem → Option (Int × gMem)) (s : gMem) : Option (Int × gMem) := Kh (w32 (v5 + 1)) s
set_option maxRecDepth 100000 in
theorem okj_tw_diff_l130_j243 {ω : gW} {l : Launch} {d : Nat} {N : Nat} {h : Nat} {σ0 : gMem} {s : gMem} {v3 : Int} {v4 : Int} {v5 : Int} {Kh : Int → gMem → Option (Int × gMem)} {K : gMem → Option (Int × gMem)} (hdp : 3 ≤ d) (hM : TM s h) (hv3 : g32 v3) (hv4 : g32 v4) (hv5 : g32 v5) (hKh : ∀ (v5 : Int) (s : gMem) , g32 v5 → TM s h → GG (fun p : Int × gMem => (.inl (some (vI p.1)), p.2)) gTw ω l d mu_tw_diff σ0 130 [(0, vR h), (3, vI v3), (4, vI v4), (5, vI v5)] [] s (Kh v5 s)) (hK : ∀ (s : gMem) , TM s h → GG (fun p : Int × gMem => (.inl (some (vI p.1)), p.2)) gTw ω l d mu_tw_diff σ0 249 [(0, vR h)] [] s (K s)) : GG (fun p : Int × gMem => (.inl (some (vI p.1)), p.2)) gTw ω l d mu_tw_diff σ0 243 [(0, vR h), (3, vI v3), (4, vI v4), (5, vI v5)] [] s (tw_diff_l130_j243 N h v3 v4 v5 Kh K s) := by
  unfold tw_diff_l130_j243
  refine x_iincw (μ := mu_tw_diff) (pc := 243) (lv' := [(5, vI (w32 (v5 + 1))), (0, vR h), (3, vI v3), (4, vI v4)]) 3 dX11_diff_243 rfl (by decide) rfl ?_
  refine x_goto (μ := mu_tw_diff) (pc := 246) (tgt := 130) dX11_diff_246 rfl ?_
  refine x_loc (lv' := [(0, vR h), (3, vI v3), (4, vI v4), (5, vI (w32 (v5 + 1)))]) [1, 2, 3, 0] rfl ?_
  exact hKh (w32 (v5 + 1)) s (w32_rng _) hM
def tw_diff_l130 (N : Nat) (h : Nat) (v3 : Int) (v4 : Int) (K : gMem → Option (Int × gMem)) : Nat → Int → gMem → Option (Int × gMem)
  | 0, _, _ => none
  | n + 1, v5, s => if 320 ≤ v5 then K s else if 0 ≤ v4 ∧ v4 < ((122 : Nat) : Int) then if mI s (h + 1) v4.toNat ≤ w32 (Int.tdiv v5 10) then tw_diff_l130_j243 N h v3 v4 v5  (tw_diff_l130 N h v3 v4 K n) K s else if 0 ≤ v4 ∧ v4 < ((122 : Nat) : Int) then if mI s (h + 2) v4.toNat ≤ w32 (Int.tmod v5 10) then tw_diff_l130_j243 N h v3 v4 v5  (tw_diff_l130 N h v3 v4 K n) K s else (tw_lineAt h v4 0 (w32 (Int.tdiv v5 10)) s).bind (fun x36 => (tw_lineAt h v4 1 (w32 (Int.tmod v5 10)) s).bind (fun x38 => (tw_contentOf N h v3 x36 x38 s).bind (fun x40 => if x40 < 0 then tw_diff_l130_j243 N h v3 v4 v5  (tw_diff_l130 N h v3 v4 K n) K s else if 0 ≤ ((320 * v4) + v5) ∧ ((320 * v4) + v5) < ((39040 : Nat) : Int) then (tw_alike N h x40 (mI s (h + 5) ((320 * v4) + v5).toNat) s).bind (fun x43 => if x43 ≠ 0 then tw_diff_l130_j243 N h v3 v4 v5  (tw_diff_l130 N h v3 v4 K n) K s else (tw_differ h 7 (w32 ((w32 (Int.tdiv v5 10)) + 1)) (w32 ((w32 (Int.tmod v5 10)) + 1)) s).bind (fun x45 => tw_diff_l130_j243 N h v3 v4 v5  (tw_diff_l130 N h v3 v4 K n) K x45)) else none))) else none else none
set_option maxRecDepth 100000 in
theorem okl_tw_diff_l130 {ω : gW} {l : Launch} {d : Nat} {N : Nat} {h : Nat} {σ0 : gMem} {v3 : Int} {v4 : Int} {K : gMem → Option (Int × gMem)} (hdp : 3 ≤ d) (hv3 : g32 v3) (hv4 : g32 v4) (hK : ∀ (s : gMem) , TM s h → GG (fun p : Int × gMem => (.inl (some (vI p.1)), p.2)) gTw ω l d mu_tw_diff σ0 249 [(0, vR h)] [] s (K s)) : ∀ (n : Nat) (v5 : Int) (s : gMem) , g32 v5 → TM s h → GG (fun p : Int × gMem => (.inl (some (vI p.1)), p.2)) gTw ω l d mu_tw_diff σ0 130 [(0, vR h), (3, vI v3), (4, vI v4), (5, vI v5)] [] s (tw_diff_l130 N h v3 v4 K n v5 s) := by
  intro n
  induction n with
  | zero => intros; exact x_none
  | succ n ih =>
    intro v5 s hv5 hM
    unfold tw_diff_l130
    refine x_iload (μ := mu_tw_diff) (pc := 130) 3 dX11_diff_130 rfl ?_
    refine x_sipush (μ := mu_tw_diff) (pc := 132) dX11_diff_132 (by decide) ?_
    refine x_icmp_ge (μ := mu_tw_diff) (pc := 135) (tgt := 249) dX11_diff_135 rfl hv5 (by decide) ?_ ?_
    · refine x_loc (lv' := [(0, vR h)]) [0] rfl ?_
      exact hK s hM
    · refine x_iload (μ := mu_tw_diff) (pc := 138) 3 dX11_diff_138 rfl ?_
      refine x_bipush (μ := mu_tw_diff) (pc := 140) dX11_diff_140 (by decide) ?_
      refine x_idivc (μ := mu_tw_diff) (pc := 142) dX11_diff_142 hv5 (by decide) (by decide) ?_
      refine x_w1 ?_
      refine x_istore (μ := mu_tw_diff) (pc := 143) (lv' := [(6, vI (w32 (Int.tdiv v5 10))), (0, vR h), (3, vI v3), (4, vI v4), (5, vI v5)]) dX11_diff_143 (by decide) rfl ?_
      refine x_iload (μ := mu_tw_diff) (pc := 145) 4 dX11_diff_145 rfl ?_
      refine x_bipush (μ := mu_tw_diff) (pc := 147) dX11_diff_147 (by decide) ?_
      refine x_iremc (μ := mu_tw_diff) (pc := 149) dX11_diff_149 hv5 (by decide) (by decide) ?_
      refine x_w1 ?_
      refine x_istore (μ := mu_tw_diff) (pc := 150) (lv' := [(7, vI (w32 (Int.tmod v5 10))), (6, vI (w32 (Int.tdiv v5 10))), (0, vR h), (3, vI v3), (4, vI v4), (5, vI v5)]) dX11_diff_150 (by decide) rfl ?_
      refine x_iload (μ := mu_tw_diff) (pc := 152) 1 dX11_diff_152 rfl ?_
      refine x_aload_n (μ := mu_tw_diff) (pc := 154) 2 dX11_diff_154 rfl ?_
      refine x_fgrE (μ := mu_tw_diff) (pc := 155) fX11_1 (Or.inr ⟨_, rfl⟩) q2637 (hM.a1).1 dX11_diff_155 hM.1 ?_
      refine x_iload (μ := mu_tw_diff) (pc := 158) 4 dX11_diff_158 rfl ?_
      refine x_iald (μ := mu_tw_diff) (pc := 160) dX11_diff_160 (hM.a1).2.1 (hM.a1).2.2 (fun hr34 => ?_)
      refine x_icmp_ge (μ := mu_tw_diff) (pc := 161) (tgt := 243) dX11_diff_161 rfl (w32_rng _) hr34 ?_ ?_
      · refine x_loc (lv' := [(0, vR h), (3, vI v3), (4, vI v4), (5, vI v5)]) [2, 3, 4, 5] rfl ?_
        exact okj_tw_diff_l130_j243 hdp hM hv3 hv4 hv5 ih hK
      · refine x_iload (μ := mu_tw_diff) (pc := 164) 0 dX11_diff_164 rfl ?_
        refine x_aload_n (μ := mu_tw_diff) (pc := 166) 2 dX11_diff_166 rfl ?_
        refine x_fgrE (μ := mu_tw_diff) (pc := 167) fX11_2 (Or.inr ⟨_, rfl⟩) q2638 (hM.a2).1 dX11_diff_167 hM.1 ?_
        refine x_iload (μ := mu_tw_diff) (pc := 170) 4 dX11_diff_170 rfl ?_
        refine x_iald (μ := mu_tw_diff) (pc := 172) dX11_diff_172 (hM.a2).2.1 (hM.a2).2.2 (fun hr35 => ?_)
        refine x_icmp_ge (μ := mu_tw_diff) (pc := 173) (tgt := 243) dX11_diff_173 rfl (w32_rng _) hr35 ?_ ?_
        · refine x_loc (lv' := [(0, vR h), (3, vI v3), (4, vI v4), (5, vI v5)]) [2, 3, 4, 5] rfl ?_
          exact okj_tw_diff_l130_j243 hdp hM hv3 hv4 hv5 ih hK
        · refine x_aload_n (μ := mu_tw_diff) (pc := 176) 2 dX11_diff_176 rfl ?_
          refine x_iload_n (μ := mu_tw_diff) (pc := 177) 3 dX11_diff_177 rfl ?_
          refine x_aload_n (μ := mu_tw_diff) (pc := 178) 2 dX11_diff_178 rfl ?_
          refine x_iload (μ := mu_tw_diff) (pc := 179) 4 dX11_diff_179 rfl ?_
          refine x_iconst (μ := mu_tw_diff) (pc := 181) dX11_diff_181 ?_
          refine x_iload (μ := mu_tw_diff) (pc := 182) 1 dX11_diff_182 rfl ?_
          refine x_callV_pi (μ := mu_tw_diff) (pc := 184) (ok_tw_lineAt (ω := ω) (l := l) (d := d - 1) (by omega) hM hv4 (by decide) (w32_rng _)) gRel_Tw gRel_Tw (fun _ q => q) q3148 q3150 qs111 q232 q3151 dX11_diff_184 rfl hM.1 hy_tw_lineAt (by omega) (Nat.le_of_ble_eq_true rfl) rfl (Nat.le_of_ble_eq_true rfl) (fun x36 hr37 => ?_)
          refine x_aload_n (μ := mu_tw_diff) (pc := 187) 2 dX11_diff_187 rfl ?_
          refine x_iload (μ := mu_tw_diff) (pc := 188) 4 dX11_diff_188 rfl ?_
          refine x_iconst (μ := mu_tw_diff) (pc := 190) dX11_diff_190 ?_
          refine x_iload (μ := mu_tw_diff) (pc := 191) 0 dX11_diff_191 rfl ?_
          refine x_callV_pi (μ := mu_tw_diff) (pc := 193) (ok_tw_lineAt (ω := ω) (l := l) (d := d - 1) (by omega) hM hv4 (by decide) (w32_rng _)) gRel_Tw gRel_Tw (fun _ q => q) q3148 q3150 qs111 q232 q3151 dX11_diff_193 rfl hM.1 hy_tw_lineAt (by omega) (Nat.le_of_ble_eq_true rfl) rfl (Nat.le_of_ble_eq_true rfl) (fun x38 hr39 => ?_)
          refine x_callV_pi (μ := mu_tw_diff) (pc := 196) (ok_tw_contentOf (ω := ω) (l := l) (d := d - 1) (by omega) hM hv3 hr37 hr39) gRel_Tw gRel_Tw (fun _ q => q) q3681 q3683 qs211 q232 q3684 dX11_diff_196 rfl hM.1 hy_tw_contentOf (by omega) (Nat.le_of_ble_eq_true rfl) rfl (Nat.le_of_ble_eq_true rfl) (fun x40 hr41 => ?_)
          refine x_istore (μ := mu_tw_diff) (pc := 199) (lv' := [(8, vI x40), (7, vI (w32 (Int.tmod v5 10))), (6, vI (w32 (Int.tdiv v5 10))), (0, vR h), (3, vI v3), (4, vI v4), (5, vI v5)]) dX11_diff_199 (by decide) rfl ?_
          refine x_iload (μ := mu_tw_diff) (pc := 201) 0 dX11_diff_201 rfl ?_
          refine x_if_lt (μ := mu_tw_diff) (pc := 203) (tgt := 243) dX11_diff_203 rfl hr41 ?_ ?_
          · refine x_loc (lv' := [(0, vR h), (3, vI v3), (4, vI v4), (5, vI v5)]) [3, 4, 5, 6] rfl ?_
            exact okj_tw_diff_l130_j243 hdp hM hv3 hv4 hv5 ih hK
          · refine x_aload_n (μ := mu_tw_diff) (pc := 206) 3 dX11_diff_206 rfl ?_
            refine x_iload (μ := mu_tw_diff) (pc := 207) 0 dX11_diff_207 rfl ?_
            refine x_aload_n (μ := mu_tw_diff) (pc := 209) 3 dX11_diff_209 rfl ?_
            refine x_fgrE (μ := mu_tw_diff) (pc := 210) fX11_5 (Or.inr ⟨_, rfl⟩) q2641 (hM.a5).1 dX11_diff_210 hM.1 ?_
            refine x_sipush (μ := mu_tw_diff) (pc := 213) dX11_diff_213 (by decide) ?_
            refine x_iload (μ := mu_tw_diff) (pc := 216) 5 dX11_diff_216 rfl ?_
            refine x_imul (μ := mu_tw_diff) (pc := 218) dX11_diff_218 ?_
            refine x_iload (μ := mu_tw_diff) (pc := 219) 6 dX11_diff_219 rfl ?_
            refine x_iadd (μ := mu_tw_diff) (pc := 221) dX11_diff_221 ?_
            refine x_iald (μ := mu_tw_diff) (pc := 222) dX11_diff_222 (hM.a5).2.1 (hM.a5).2.2 (fun hr42 => ?_)
            refine x_callV_pi (μ := mu_tw_diff) (pc := 223) (ok_tw_alike (ω := ω) (l := l) (d := d - 1) (by omega) hM hr41 hr42) gRel_Tw gRel_Tw (fun _ q => q) q3616 q3618 qs198 q232 q3619 dX11_diff_223 rfl hM.1 hy_tw_alike (by omega) (Nat.le_of_ble_eq_true rfl) rfl (Nat.le_of_ble_eq_true rfl) (fun x43 hr44 => ?_)
            refine x_if_ne (μ := mu_tw_diff) (pc := 226) (tgt := 243) dX11_diff_226 rfl hr44 ?_ ?_
            · refine x_loc (lv' := [(0, vR h), (3, vI v3), (4, vI v4), (5, vI v5)]) [3, 4, 5, 6] rfl ?_
              exact okj_tw_diff_l130_j243 hdp hM hv3 hv4 hv5 ih hK
            · refine x_aload_n (μ := mu_tw_diff) (pc := 229) 3 dX11_diff_229 rfl ?_
              refine x_bipush (μ := mu_tw_diff) (pc := 230) dX11_diff_230 (by decide) ?_
              refine x_iload (μ := mu_tw_diff) (pc := 232) 2 dX11_diff_232 rfl ?_
              refine x_iconst (μ := mu_tw_diff) (pc := 234) dX11_diff_234 ?_
              refine x_iadd (μ := mu_tw_diff) (pc := 235) dX11_diff_235 ?_
              refine x_iload (μ := mu_tw_diff) (pc := 236) 1 dX11_diff_236 rfl ?_
              refine x_iconst (μ := mu_tw_diff) (pc := 238) dX11_diff_238 ?_
              refine x_iadd (μ := mu_tw_diff) (pc := 239) dX11_diff_239 ?_
              refine x_w1 ?_
              refine x_w2 ?_
              refine x_callV_mv (μ := mu_tw_diff) (pc := 240) (ok_tw_differ (ω := ω) (l := l) (d := d - 1) (by omega) hM (by decide) (w32_rng _) (w32_rng _)) gRel_Tw gRel_Tw (fun _ q => q) q3726 q3728 qs218 q232 q3729 dX11_diff_240 rfl hM.1 hy_tw_differ (by omega) (Nat.le_of_ble_eq_true rfl) rfl (Nat.le_of_ble_eq_true rfl) (fun x45 k46 => ?_)
              have hM47 : TM x45 h := hM.tw k46
              refine x_loc (lv' := [(0, vR h), (3, vI v3), (4, vI v4), (5, vI v5)]) [3, 4, 5, 6] rfl ?_
              exact okj_tw_diff_l130_j243 hdp hM47 hv3 hv4 hv5 ih hK
def tw_diff (N : Nat) (h : Nat) (v1 : Int) (v2 : Int) (σ : gMem) : Option (Int × gMem) := gLet (wI σ h 0 0) (fun s1 => (tw_isSheet h v1 s1).bind (fun x4 => if x4 = 0 then (tw_throwing h 1 s1).bind (fun x6 => some (x6.1, x6.2)) else (tw_isSheet h v2 s1).bind (fun x10 => if x10 ≠ 0 then (tw_sheetAt v1 s1).bind (fun x12 => (tw_sheetAt v2 s1).bind (fun x14 => gLet (wI s1 h 104 0) (fun s16 => tw_diff_l46 N h x12 x14 (fun s25 => tw_diff_l91 N h x12 x14 (fun s32 => tw_diff_l130 N h x12 x14 (fun s48 => some (mI s48 h 104, s48)) N 0 s32) N 0 s25) N 0 s16))) else (tw_throwing h 1 s1).bind (fun x51 => some (x51.1, x51.2)))))
set_option maxRecDepth 100000 in
theorem ok_tw_diff {ω : gW} {l : Launch} {d : Nat} {N : Nat} {h : Nat} {σ : gMem} {v1 : Int} {v2 : Int} (hdp : 3 ≤ d) (hM : TM σ h) (hv1 : g32 v1) (hv2 : g32 v2) : gK (fun p : Int × gMem => (.inl (some (vI p.1)), p.2)) gTw ω l d mu_tw_diff [vR h, vI v1, vI v2] σ (tw_diff N h v1 v2 σ) := by
  refine gK.of hp_X11 (Nat.le_of_ble_eq_true rfl) ?_
  unfold tw_diff
  refine x_aload_n (μ := mu_tw_diff) (pc := 0) 0 dX11_diff_0 rfl ?_
  refine x_iconst (μ := mu_tw_diff) (pc := 1) dX11_diff_1 ?_
  refine x_fpi (μ := mu_tw_diff) (pc := 2) fX11_0 q2636 dX11_diff_2 hM.1 (fun _ q => gTw_wI q) ?_
  refine x_let (fun s1 e2 => ?_)
  have hM3 := TM.eI e2 hM
  refine x_aload_n (μ := mu_tw_diff) (pc := 5) 0 dX11_diff_5 rfl ?_
  refine x_iload_n (μ := mu_tw_diff) (pc := 6) 1 dX11_diff_6 rfl ?_
  refine x_callV_pi (μ := mu_tw_diff) (pc := 7) (ok_tw_isSheet (ω := ω) (l := l) (d := d - 1) (by omega) hM3 hv1) gRel_Tw gRel_Tw (fun _ q => q) q3211 q3213 qs122 q232 q3214 dX11_diff_7 rfl hM3.1 hy_tw_isSheet (by omega) (Nat.le_of_ble_eq_true rfl) rfl (Nat.le_of_ble_eq_true rfl) (fun x4 hr5 => ?_)
  refine x_if_eq (μ := mu_tw_diff) (pc := 10) (tgt := 21) dX11_diff_10 rfl hr5 ?_ ?_
  · refine x_aload_n (μ := mu_tw_diff) (pc := 21) 0 dX11_diff_21 rfl ?_
    refine x_iconst (μ := mu_tw_diff) (pc := 22) dX11_diff_22 ?_
    refine x_callV_mi (μ := mu_tw_diff) (pc := 23) (ok_tw_throwing (ω := ω) (l := l) (d := d - 1) (by omega) hM3 (by decide)) gRel_Tw gRel_Tw (fun _ q => q) q2960 q2962 qs78 q232 q2963 dX11_diff_23 rfl hM3.1 hy_tw_throwing (by omega) (Nat.le_of_ble_eq_true rfl) rfl (Nat.le_of_ble_eq_true rfl) (fun x6 k8 hr7 => ?_)
    have hM9 : TM (x6.2) h := hM3.tw k8
    exact x_iret (μ := mu_tw_diff) (pc := 26) dX11_diff_26 rfl rfl (gRel_Tw.1 _) (show g32 (x6.1) from hr7)
  · refine x_aload_n (μ := mu_tw_diff) (pc := 13) 0 dX11_diff_13 rfl ?_
    refine x_iload_n (μ := mu_tw_diff) (pc := 14) 2 dX11_diff_14 rfl ?_
    refine x_callV_pi (μ := mu_tw_diff) (pc := 15) (ok_tw_isSheet (ω := ω) (l := l) (d := d - 1) (by omega) hM3 hv2) gRel_Tw gRel_Tw (fun _ q => q) q3211 q3213 qs122 q232 q3214 dX11_diff_15 rfl hM3.1 hy_tw_isSheet (by omega) (Nat.le_of_ble_eq_true rfl) rfl (Nat.le_of_ble_eq_true rfl) (fun x10 hr11 => ?_)
    refine x_if_ne (μ := mu_tw_diff) (pc := 18) (tgt := 27) dX11_diff_18 rfl hr11 ?_ ?_
    · refine x_iload_n (μ := mu_tw_diff) (pc := 27) 1 dX11_diff_27 rfl ?_
      refine x_callS_pi (μ := mu_tw_diff) (pc := 28) (ok_tw_sheetAt (ω := ω) (l := l) (d := d - 1) (by omega) hv1) gRel_Tw gRel_Tw (fun _ q => q) q3215 q3216 q232 q3217 dX11_diff_28 hy_tw_sheetAt (by omega) (Nat.le_of_ble_eq_true rfl) rfl (Nat.le_of_ble_eq_true rfl) (fun x12 hr13 => ?_)
      refine x_istore_n (μ := mu_tw_diff) (pc := 31) (lv' := [(3, vI x12), (0, vR h), (1, vI v1), (2, vI v2)]) dX11_diff_31 rfl (by decide) rfl ?_
      refine x_iload_n (μ := mu_tw_diff) (pc := 32) 3 dX11_diff_32 rfl ?_
      refine x_callS_pi (μ := mu_tw_diff) (pc := 33) (ok_tw_sheetAt (ω := ω) (l := l) (d := d - 1) (by omega) hv2) gRel_Tw gRel_Tw (fun _ q => q) q3215 q3216 q232 q3217 dX11_diff_33 hy_tw_sheetAt (by omega) (Nat.le_of_ble_eq_true rfl) rfl (Nat.le_of_ble_eq_true rfl) (fun x14 hr15 => ?_)
      refine x_istore (μ := mu_tw_diff) (pc := 36) (lv' := [(4, vI x14), (3, vI x12), (0, vR h), (1, vI v1), (2, vI v2)]) dX11_diff_36 (by decide) rfl ?_
      refine x_aload_n (μ := mu_tw_diff) (pc := 38) 2 dX11_diff_38 rfl ?_
      refine x_iconst (μ := mu_tw_diff) (pc := 39) dX11_diff_39 ?_
      refine x_fpi (μ := mu_tw_diff) (pc := 40) fX11_104 q2740 dX11_diff_40 hM3.1 (fun _ q => gTw_wI q) ?_
      refine x_let (fun s16 e17 => ?_)
      have hM18 := TM.eI e17 hM3
      refine x_iconst (μ := mu_tw_diff) (pc := 43) dX11_diff_43 ?_
      refine x_istore (μ := mu_tw_diff) (pc := 44) (lv' := [(5, vI 0), (4, vI x14), (3, vI x12), (0, vR h), (1, vI v1), (2, vI v2)]) dX11_diff_44 (by decide) rfl ?_
      refine x_loc (lv' := [(0, vR h), (3, vI x12), (4, vI x14), (5, vI 0)]) [3, 2, 1, 0] rfl ?_
      refine okl_tw_diff_l46 hdp hr13 hr15 (fun s25 hM26 => ?_) N 0 s16 (by decide) hM18
      refine x_iconst (μ := mu_tw_diff) (pc := 88) dX11_diff_88 ?_
      refine x_istore (μ := mu_tw_diff) (pc := 89) (lv' := [(5, vI 0), (0, vR h), (3, vI x12), (4, vI x14)]) dX11_diff_89 (by decide) rfl ?_
      refine x_loc (lv' := [(0, vR h), (3, vI x12), (4, vI x14), (5, vI 0)]) [1, 2, 3, 0] rfl ?_
      refine okl_tw_diff_l91 hdp hr13 hr15 (fun s32 hM33 => ?_) N 0 s25 (by decide) hM26
      refine x_iconst (μ := mu_tw_diff) (pc := 127) dX11_diff_127 ?_
      refine x_istore (μ := mu_tw_diff) (pc := 128) (lv' := [(5, vI 0), (0, vR h), (3, vI x12), (4, vI x14)]) dX11_diff_128 (by decide) rfl ?_
      refine x_loc (lv' := [(0, vR h), (3, vI x12), (4, vI x14), (5, vI 0)]) [1, 2, 3, 0] rfl ?_
      refine okl_tw_diff_l130 hdp hr13 hr15 (fun s48 hM49 => ?_) N 0 s32 (by decide) hM33
      refine x_aload_n (μ := mu_tw_diff) (pc := 249) 0 dX11_diff_249 rfl ?_
      refine x_fgi (μ := mu_tw_diff) (pc := 250) fX11_104 q2740 dX11_diff_250 hM49.1 (fun hr50 => ?_)
      exact x_iret (μ := mu_tw_diff) (pc := 253) dX11_diff_253 rfl rfl (gRel_Tw.1 _) (show g32 (mI s48 h 104) from hr50)
    · refine x_aload_n (μ := mu_tw_diff) (pc := 21) 0 dX11_diff_21 rfl ?_
      refine x_iconst (μ := mu_tw_diff) (pc := 22) dX11_diff_22 ?_
      refine x_callV_mi (μ := mu_tw_diff) (pc := 23) (ok_tw_throwing (ω := ω) (l := l) (d := d - 1) (by omega) hM3 (by decide)) gRel_Tw gRel_Tw (fun _ q => q) q2960 q2962 qs78 q232 q2963 dX11_diff_23 rfl hM3.1 hy_tw_throwing (by omega) (Nat.le_of_ble_eq_true rfl) rfl (Nat.le_of_ble_eq_true rfl) (fun x51 k53 hr52 => ?_)
      have hM54 : TM (x51.2) h := hM3.tw k53
      exact x_iret (μ := mu_tw_diff) (pc := 26) dX11_diff_26 rfl rfl (gRel_Tw.1 _) (show g32 (x51.1) from hr52)
def tw_hasLike_j15 (N : Nat) (h : Nat) (σ : gMem) (v4 : Int) (t0 : Int) : Option Int := if t0 < 0 then some 0 else (tw_alike N h t0 v4 σ).bind (fun x3 => if x3 = 0 then some 0 else some 1)
set_option maxRecDepth 100000 in
theorem okj_tw_hasLike_j15 {ω : gW} {l : Launch} {d : Nat} {N : Nat} {h : Nat} {σ : gMem} {v4 : Int} {t0 : Int} (hdp : 3 ≤ d) (hM : TM σ h) (hv4 : g32 v4) (ht0 : g32 t0) : GG (fun x : Int => (.inl (some (vI x)), σ)) gTw ω l d mu_tw_hasLike σ 15 [(0, vR h), (4, vI v4)] [vI t0] σ (tw_hasLike_j15 N h σ v4 t0 ) := by
  unfold tw_hasLike_j15
  refine x_istore (μ := mu_tw_hasLike) (pc := 15) (lv' := [(5, vI t0), (0, vR h), (4, vI v4)]) dX11_hasLike_15 (by decide) rfl ?_
  refine x_iload (μ := mu_tw_hasLike) (pc := 17) 0 dX11_hasLike_17 rfl ?_
  refine x_if_lt (μ := mu_tw_hasLike) (pc := 19) (tgt := 37) dX11_hasLike_19 rfl ht0 ?_ ?_
  · refine x_iconst (μ := mu_tw_hasLike) (pc := 37) dX11_hasLike_37 ?_
    exact x_zret (μ := mu_tw_hasLike) (pc := 38) dX11_hasLike_38 rfl (by decide) rfl (gRel_Tw.1 _) (show g32 0 from (by decide))
  · refine x_aload_n (μ := mu_tw_hasLike) (pc := 22) 1 dX11_hasLike_22 rfl ?_
    refine x_iload (μ := mu_tw_hasLike) (pc := 23) 0 dX11_hasLike_23 rfl ?_
    refine x_iload (μ := mu_tw_hasLike) (pc := 25) 2 dX11_hasLike_25 rfl ?_
    refine x_callV_pi (μ := mu_tw_hasLike) (pc := 27) (ok_tw_alike (ω := ω) (l := l) (d := d - 1) (by omega) hM ht0 hv4) gRel_Tw gRel_Tw (fun _ q => q) q3616 q3618 qs198 q232 q3619 dX11_hasLike_27 rfl hM.1 hy_tw_alike (by omega) (Nat.le_of_ble_eq_true rfl) rfl (Nat.le_of_ble_eq_true rfl) (fun x3 hr4 => ?_)
    refine x_if_eq (μ := mu_tw_hasLike) (pc := 30) (tgt := 37) dX11_hasLike_30 rfl hr4 ?_ ?_
    · refine x_iconst (μ := mu_tw_hasLike) (pc := 37) dX11_hasLike_37 ?_
      exact x_zret (μ := mu_tw_hasLike) (pc := 38) dX11_hasLike_38 rfl (by decide) rfl (gRel_Tw.1 _) (show g32 0 from (by decide))
    · refine x_iconst (μ := mu_tw_hasLike) (pc := 33) dX11_hasLike_33 ?_
      refine x_goto (μ := mu_tw_hasLike) (pc := 34) (tgt := 38) dX11_hasLike_34 rfl ?_
      exact x_zret (μ := mu_tw_hasLike) (pc := 38) dX11_hasLike_38 rfl (by decide) rfl (gRel_Tw.1 _) (show g32 1 from (by decide))
def tw_hasLike (N : Nat) (h : Nat) (v1 : Int) (v2 : Int) (v3 : Int) (v4 : Int) (σ : gMem) : Option Int := if 0 ≤ v1 then (tw_contentOf N h v1 v2 v3 σ).bind (fun x1 => tw_hasLike_j15 N h σ v4 x1) else tw_hasLike_j15 N h σ v4 (-1)
set_option maxRecDepth 100000 in
theorem ok_tw_hasLike {ω : gW} {l : Launch} {d : Nat} {N : Nat} {h : Nat} {σ : gMem} {v1 : Int} {v2 : Int} {v3 : Int} {v4 : Int} (hdp : 3 ≤ d) (hM : TM σ h) (hv1 : g32 v1) (hv2 : g32 v2) (hv3 : g32 v3) (hv4 : g32 v4) : gK (fun x : Int => (.inl (some (vI x)), σ)) gTw ω l d mu_tw_hasLike [vR h, vI v1, vI v2, vI v3, vI v4] σ (tw_hasLike N h v1 v2 v3 v4 σ) := by
  refine gK.of hp_X11 (Nat.le_of_ble_eq_true rfl) ?_
  unfold tw_hasLike
  refine x_iload_n (μ := mu_tw_hasLike) (pc := 0) 1 dX11_hasLike_0 rfl ?_
  refine x_if_ge (μ := mu_tw_hasLike) (pc := 1) (tgt := 8) dX11_hasLike_1 rfl hv1 ?_ ?_
  · refine x_aload_n (μ := mu_tw_hasLike) (pc := 8) 0 dX11_hasLike_8 rfl ?_
    refine x_iload_n (μ := mu_tw_hasLike) (pc := 9) 1 dX11_hasLike_9 rfl ?_
    refine x_iload_n (μ := mu_tw_hasLike) (pc := 10) 2 dX11_hasLike_10 rfl ?_
    refine x_iload_n (μ := mu_tw_hasLike) (pc := 11) 3 dX11_hasLike_11 rfl ?_
    refine x_callV_pi (μ := mu_tw_hasLike) (pc := 12) (ok_tw_contentOf (ω := ω) (l := l) (d := d - 1) (by omega) hM hv1 hv2 hv3) gRel_Tw gRel_Tw (fun _ q => q) q3681 q3683 qs211 q232 q3684 dX11_hasLike_12 rfl hM.1 hy_tw_contentOf (by omega) (Nat.le_of_ble_eq_true rfl) rfl (Nat.le_of_ble_eq_true rfl) (fun x1 hr2 => ?_)
    refine x_loc (lv' := [(0, vR h), (4, vI v4)]) [0, 4] rfl ?_
    exact okj_tw_hasLike_j15 hdp hM hv4 hr2
  · refine x_iconst (μ := mu_tw_hasLike) (pc := 4) dX11_hasLike_4 ?_
    refine x_goto (μ := mu_tw_hasLike) (pc := 5) (tgt := 15) dX11_hasLike_5 rfl ?_
    refine x_loc (lv' := [(0, vR h), (4, vI v4)]) [0, 4] rfl ?_
    exact okj_tw_hasLike_j15 hdp hM hv4 (by decide)
def x16_isIn (N : Nat) (v0 : Nat) (v1 : Nat) (σ : gMem) : Option Int := if mT σ v0 = 14 then if mT σ v1 = 8 then (x9_row N v1 (mI σ v0 0) σ).bind (fun x4 => if x4 = (-1) then some 0 else (x9_column N v1 (mI σ v0 1) σ).bind (fun x7 => if x7 = (-1) then some 0 else some 1)) else none else none
set_option maxRecDepth 100000 in
theorem ok_x16_isIn {ω : gW} {l : Launch} {d : Nat} {N : Nat} {σ : gMem} {v0 : Nat} {v1 : Nat} (hl : l.stackTraces = false) (hdp : 2 ≤ d) : gK (fun x : Int => (.inl (some (vI x)), σ)) gE ω l d mu_x16_isIn [vR v0, vR v1] σ (x16_isIn N v0 v1 σ) := by
  refine gK.of hp_X16 (Nat.le_of_ble_eq_true rfl) ?_
  unfold x16_isIn
  refine x_aload_n (μ := mu_x16_isIn) (pc := 0) 1 dX16_isIn_0 rfl ?_
  refine x_aload_n (μ := mu_x16_isIn) (pc := 1) 0 dX16_isIn_1 rfl ?_
  refine x_if (fun hT1 => ?_)
  refine x_fgi (μ := mu_x16_isIn) (pc := 2) fX16_0 q1940 dX16_isIn_2 hT1 (fun hr2 => ?_)
  refine x_if (fun hT3 => ?_)
  refine x_callV_pi (μ := mu_x16_isIn) (pc := 5) (ok_x9_row (ω := ω) (l := l) (d := d - 1) hl (by omega) hr2) gRel_E gRel_E (fun _ q => q) q855 q779 q780 q230 q781 dX16_isIn_5 rfl hT3 hy_x9_row (by omega) (Nat.le_of_ble_eq_true rfl) rfl (Nat.le_of_ble_eq_true rfl) (fun x4 hr5 => ?_)
  refine x_iconst (μ := mu_x16_isIn) (pc := 8) dX16_isIn_8 ?_
  refine x_icmp_eq (μ := mu_x16_isIn) (pc := 9) (tgt := 28) dX16_isIn_9 rfl hr5 (by decide) ?_ ?_
  · refine x_iconst (μ := mu_x16_isIn) (pc := 28) dX16_isIn_28 ?_
    exact x_zret (μ := mu_x16_isIn) (pc := 29) dX16_isIn_29 rfl (by decide) rfl (gRel_E.1 _) (show g32 0 from (by decide))
  · refine x_aload_n (μ := mu_x16_isIn) (pc := 12) 1 dX16_isIn_12 rfl ?_
    refine x_aload_n (μ := mu_x16_isIn) (pc := 13) 0 dX16_isIn_13 rfl ?_
    refine x_fgi (μ := mu_x16_isIn) (pc := 14) fX16_1 q1945 dX16_isIn_14 hT1 (fun hr6 => ?_)
    refine x_callV_pi (μ := mu_x16_isIn) (pc := 17) (ok_x9_column (ω := ω) (l := l) (d := d - 1) hl (by omega) hr6) gRel_E gRel_E (fun _ q => q) q856 q786 q787 q230 q788 dX16_isIn_17 rfl hT3 hy_x9_column (by omega) (Nat.le_of_ble_eq_true rfl) rfl (Nat.le_of_ble_eq_true rfl) (fun x7 hr8 => ?_)
    refine x_iconst (μ := mu_x16_isIn) (pc := 20) dX16_isIn_20 ?_
    refine x_icmp_eq (μ := mu_x16_isIn) (pc := 21) (tgt := 28) dX16_isIn_21 rfl hr8 (by decide) ?_ ?_
    · refine x_iconst (μ := mu_x16_isIn) (pc := 28) dX16_isIn_28 ?_
      exact x_zret (μ := mu_x16_isIn) (pc := 29) dX16_isIn_29 rfl (by decide) rfl (gRel_E.1 _) (show g32 0 from (by decide))
    · refine x_iconst (μ := mu_x16_isIn) (pc := 24) dX16_isIn_24 ?_
      refine x_goto (μ := mu_x16_isIn) (pc := 25) (tgt := 29) dX16_isIn_25 rfl ?_
      exact x_zret (μ := mu_x16_isIn) (pc := 29) dX16_isIn_29 rfl (by decide) rfl (gRel_E.1 _) (show g32 1 from (by decide))
def x16_write_j41 (N : Nat) (v0 : Nat) (v1 : Nat) (v2 : Nat) (s : gMem) : Option gMem := if mT s v0 = 14 then if mT s v2 = 8 then (x9_row N v2 (mI s v0 0) s).bind (fun x15 => if mT s v1 = 7 then (x8_number 20 v1 (w32 (x15 + 1)) s).bind (fun x18 => some x18) else none) else none else none
set_option maxRecDepth 100000 in
theorem okj_x16_write_j41 {ω : gW} {l : Launch} {d : Nat} {N : Nat} {σ0 : gMem} {s : gMem} {v0 : Nat} {v1 : Nat} {v2 : Nat} (hl : l.stackTraces = false) (hdp : 22 ≤ d) : GG (fun p : gMem => (.inl none, p)) gE ω l d mu_x16_write σ0 41 [(0, vR v0), (1, vR v1), (2, vR v2)] [] s (x16_write_j41 N v0 v1 v2 s) := by
  unfold x16_write_j41
  refine x_aload_n (μ := mu_x16_write) (pc := 41) 1 dX16_write_41 rfl ?_
  refine x_aload_n (μ := mu_x16_write) (pc := 42) 2 dX16_write_42 rfl ?_
  refine x_aload_n (μ := mu_x16_write) (pc := 43) 0 dX16_write_43 rfl ?_
  refine x_if (fun hT12 => ?_)
  refine x_fgi (μ := mu_x16_write) (pc := 44) fX16_0 q1940 dX16_write_44 hT12 (fun hr13 => ?_)
  refine x_if (fun hT14 => ?_)
  refine x_callV_pi (μ := mu_x16_write) (pc := 47) (ok_x9_row (ω := ω) (l := l) (d := d - 1) hl (by omega) hr13) gRel_E gRel_E (fun _ q => q) q855 q779 q780 q230 q781 dX16_write_47 rfl hT14 hy_x9_row (by omega) (Nat.le_of_ble_eq_true rfl) rfl (Nat.le_of_ble_eq_true rfl) (fun x15 hr16 => ?_)
  refine x_iconst (μ := mu_x16_write) (pc := 50) dX16_write_50 ?_
  refine x_iadd (μ := mu_x16_write) (pc := 51) dX16_write_51 ?_
  refine x_w1 ?_
  refine x_i2l (μ := mu_x16_write) (pc := 52) dX16_write_52 (w32_rng _) ?_
  refine x_if (fun hT17 => ?_)
  refine x_callV_mv (μ := mu_x16_write) (pc := 53) (ok_x8_number (ω := ω) (l := l) (d := d - 1) hl 20 v1 (w32 (x15 + 1)) s (g32_64 (w32_rng _)) (by omega)) gRel_E gRel_E (fun _ q => q) q1394 q1395 q1396 q229 q1397 dX16_write_53 rfl hT17 hy_x8_number (by omega) (Nat.le_of_ble_eq_true rfl) rfl (Nat.le_of_ble_eq_true rfl) (fun x18 k19 => ?_)
  exact x_vret (μ := mu_x16_write) (pc := 56) (a1 := x18) dX16_write_56 rfl rfl (gRel_E.1 _) trivial
def x16_write_j13 (N : Nat) (v0 : Nat) (v1 : Nat) (v2 : Nat) (s : gMem) : Option gMem := if mT s v0 = 14 then if mT s v2 = 8 then (x9_column N v2 (mI s v0 1) s).bind (fun x6 => if mT s v1 = 7 then (x8_put v1 (w32 (65 + x6)) s).bind (fun x9 => if mI x9 v0 2 = 0 then x16_write_j41 N v0 v1 v2  x9 else (x8_put v1 36 x9).bind (fun x20 => x16_write_j41 N v0 v1 v2  x20)) else none) else none else none
set_option maxRecDepth 100000 in
theorem okj_x16_write_j13 {ω : gW} {l : Launch} {d : Nat} {N : Nat} {σ0 : gMem} {s : gMem} {v0 : Nat} {v1 : Nat} {v2 : Nat} (hl : l.stackTraces = false) (hdp : 22 ≤ d) : GG (fun p : gMem => (.inl none, p)) gE ω l d mu_x16_write σ0 13 [(0, vR v0), (1, vR v1), (2, vR v2)] [] s (x16_write_j13 N v0 v1 v2 s) := by
  unfold x16_write_j13
  refine x_aload_n (μ := mu_x16_write) (pc := 13) 1 dX16_write_13 rfl ?_
  refine x_bipush (μ := mu_x16_write) (pc := 14) dX16_write_14 (by decide) ?_
  refine x_aload_n (μ := mu_x16_write) (pc := 16) 2 dX16_write_16 rfl ?_
  refine x_aload_n (μ := mu_x16_write) (pc := 17) 0 dX16_write_17 rfl ?_
  refine x_if (fun hT3 => ?_)
  refine x_fgi (μ := mu_x16_write) (pc := 18) fX16_1 q1945 dX16_write_18 hT3 (fun hr4 => ?_)
  refine x_if (fun hT5 => ?_)
  refine x_callV_pi (μ := mu_x16_write) (pc := 21) (ok_x9_column (ω := ω) (l := l) (d := d - 1) hl (by omega) hr4) gRel_E gRel_E (fun _ q => q) q856 q786 q787 q230 q788 dX16_write_21 rfl hT5 hy_x9_column (by omega) (Nat.le_of_ble_eq_true rfl) rfl (Nat.le_of_ble_eq_true rfl) (fun x6 hr7 => ?_)
  refine x_iadd (μ := mu_x16_write) (pc := 24) dX16_write_24 ?_
  refine x_w1 ?_
  refine x_if (fun hT8 => ?_)
  refine x_callV_mv (μ := mu_x16_write) (pc := 25) (ok_x8_put (ω := ω) (l := l) (d := d - 1) hl (by omega) (w32_rng _)) gRel_E gRel_E (fun _ q => q) q1393 q1366 q1367 q229 q1368 dX16_write_25 rfl hT8 hy_x8_put (by omega) (Nat.le_of_ble_eq_true rfl) rfl (Nat.le_of_ble_eq_true rfl) (fun x9 k10 => ?_)
  refine x_aload_n (μ := mu_x16_write) (pc := 28) 0 dX16_write_28 rfl ?_
  refine x_fgz (μ := mu_x16_write) (pc := 29) fX16_2 q1950 dX16_write_29 (gT_E k10 hT3 (by decide)) (fun hr11 => ?_)
  refine x_if_eq (μ := mu_x16_write) (pc := 32) (tgt := 41) dX16_write_32 rfl hr11 ?_ ?_
  · exact okj_x16_write_j41 hl hdp
  · refine x_aload_n (μ := mu_x16_write) (pc := 35) 1 dX16_write_35 rfl ?_
    refine x_bipush (μ := mu_x16_write) (pc := 36) dX16_write_36 (by decide) ?_
    refine x_callV_mv (μ := mu_x16_write) (pc := 38) (ok_x8_put (ω := ω) (l := l) (d := d - 1) hl (by omega) (by decide)) gRel_E gRel_E (fun _ q => q) q1393 q1366 q1367 q229 q1368 dX16_write_38 rfl (gT_E k10 hT8 (by decide)) hy_x8_put (by omega) (Nat.le_of_ble_eq_true rfl) rfl (Nat.le_of_ble_eq_true rfl) (fun x20 k21 => ?_)
    exact okj_x16_write_j41 hl hdp
def x16_write (N : Nat) (v0 : Nat) (v1 : Nat) (v2 : Nat) (σ : gMem) : Option gMem := if mT σ v0 = 14 then if mI σ v0 3 = 0 then x16_write_j13 N v0 v1 v2  σ else if mT σ v1 = 7 then (x8_put v1 36 σ).bind (fun x23 => x16_write_j13 N v0 v1 v2  x23) else none else none
set_option maxRecDepth 100000 in
theorem ok_x16_write {ω : gW} {l : Launch} {d : Nat} {N : Nat} {σ : gMem} {v0 : Nat} {v1 : Nat} {v2 : Nat} (hl : l.stackTraces = false) (hdp : 22 ≤ d) : gK (fun p : gMem => (.inl none, p)) gE ω l d mu_x16_write [vR v0, vR v1, vR v2] σ (x16_write N v0 v1 v2 σ) := by
  refine gK.of hp_X16 (Nat.le_of_ble_eq_true rfl) ?_
  unfold x16_write
  refine x_aload_n (μ := mu_x16_write) (pc := 0) 0 dX16_write_0 rfl ?_
  refine x_if (fun hT1 => ?_)
  refine x_fgz (μ := mu_x16_write) (pc := 1) fX16_3 q1951 dX16_write_1 hT1 (fun hr2 => ?_)
  refine x_if_eq (μ := mu_x16_write) (pc := 4) (tgt := 13) dX16_write_4 rfl hr2 ?_ ?_
  · exact okj_x16_write_j13 hl hdp
  · refine x_aload_n (μ := mu_x16_write) (pc := 7) 1 dX16_write_7 rfl ?_
    refine x_bipush (μ := mu_x16_write) (pc := 8) dX16_write_8 (by decide) ?_
    refine x_if (fun hT22 => ?_)
    refine x_callV_mv (μ := mu_x16_write) (pc := 10) (ok_x8_put (ω := ω) (l := l) (d := d - 1) hl (by omega) (by decide)) gRel_E gRel_E (fun _ q => q) q1393 q1366 q1367 q229 q1368 dX16_write_10 rfl hT22 hy_x8_put (by omega) (Nat.le_of_ble_eq_true rfl) rfl (Nat.le_of_ble_eq_true rfl) (fun x23 k24 => ?_)
    exact okj_x16_write_j13 hl hdp
def x16_shifted_j67 (N : Nat) (v0 : Nat) (v3 : Int) (t0 : Int) (s : gMem) : Option (Nat × gMem) := if v3 = (-1) then some (0, s) else if t0 ≠ (-1) then gLet (wN s 14 4) (fun s22 => if mT s22 v0 = 14 then (x16_init (mZ s) v3 t0 (mI s22 v0 2) (mI s22 v0 3) s22).bind (fun x27 => some (mZ s, x27)) else none) else some (0, s)
set_option maxRecDepth 100000 in
theorem okj_x16_shifted_j67 {ω : gW} {l : Launch} {d : Nat} {N : Nat} {σ0 : gMem} {s : gMem} {v0 : Nat} {v3 : Int} {t0 : Int} (hl : l.stackTraces = false) (hdp : 3 ≤ d) (hv3 : g32 v3) (ht0 : g32 t0) : GG (fun p : Nat × gMem => (.inl (some (vR p.1)), p.2)) gE ω l d mu_x16_shifted σ0 67 [(0, vR v0), (3, vI v3)] [vI t0] s (x16_shifted_j67 N v0 v3 t0 s) := by
  unfold x16_shifted_j67
  refine x_istore (μ := mu_x16_shifted) (pc := 67) (lv' := [(4, vI t0), (0, vR v0), (3, vI v3)]) dX16_shifted_67 (by decide) rfl ?_
  refine x_iload_n (μ := mu_x16_shifted) (pc := 69) 2 dX16_shifted_69 rfl ?_
  refine x_iconst (μ := mu_x16_shifted) (pc := 70) dX16_shifted_70 ?_
  refine x_icmp_eq (μ := mu_x16_shifted) (pc := 71) (tgt := 80) dX16_shifted_71 rfl hv3 (by decide) ?_ ?_
  · refine x_null (μ := mu_x16_shifted) (pc := 80) dX16_shifted_80 ?_
    refine x_goto (μ := mu_x16_shifted) (pc := 81) (tgt := 102) dX16_shifted_81 rfl ?_
    exact x_aret (μ := mu_x16_shifted) (pc := 102) dX16_shifted_102 rfl (by first | exact Or.inl ⟨_, rfl⟩ | exact Or.inr ⟨_, rfl⟩) rfl (gRel_E.1 _) trivial
  · refine x_iload (μ := mu_x16_shifted) (pc := 74) 0 dX16_shifted_74 rfl ?_
    refine x_iconst (μ := mu_x16_shifted) (pc := 76) dX16_shifted_76 ?_
    refine x_icmp_ne (μ := mu_x16_shifted) (pc := 77) (tgt := 84) dX16_shifted_77 rfl ht0 (by decide) ?_ ?_
    · refine x_ok (fun ok21 => ?_)
      refine x_new (μ := mu_x16_shifted) (pc := 84) (ci := 13) gk_X16 gd_X16 q2310 q1935 q248 dX16_shifted_84 ?_
      refine x_let (fun s22 e23 => ?_)
      refine x_dup (μ := mu_x16_shifted) (pc := 87) dX16_shifted_87 rfl ?_
      refine x_iload_n (μ := mu_x16_shifted) (pc := 88) 2 dX16_shifted_88 rfl ?_
      refine x_iload (μ := mu_x16_shifted) (pc := 89) 0 dX16_shifted_89 rfl ?_
      refine x_aload_n (μ := mu_x16_shifted) (pc := 91) 1 dX16_shifted_91 rfl ?_
      refine x_if (fun hT24 => ?_)
      refine x_fgz (μ := mu_x16_shifted) (pc := 92) fX16_2 q1950 dX16_shifted_92 hT24 (fun hr25 => ?_)
      refine x_aload_n (μ := mu_x16_shifted) (pc := 95) 1 dX16_shifted_95 rfl ?_
      refine x_fgz (μ := mu_x16_shifted) (pc := 96) fX16_3 q1951 dX16_shifted_96 hT24 (fun hr26 => ?_)
      refine x_callI_mv (μ := mu_x16_shifted) (pc := 99) (ok_x16_init (ω := ω) (l := l) (d := d - 1) hl (by omega) hv3 ht0 hr25 hr26) gRel_E gRel_E (fun _ q => q) q2311 q1937 q248 q1938 dX16_shifted_99 (gT_ne (gT_new e23)) rfl hy_x16_init (by omega) (Nat.le_of_ble_eq_true rfl) rfl (Nat.le_of_ble_eq_true rfl) (fun x27 k28 => ?_)
      exact x_aret (μ := mu_x16_shifted) (pc := 102) dX16_shifted_102 rfl (by first | exact Or.inl ⟨_, rfl⟩ | exact Or.inr ⟨_, rfl⟩) rfl (gRel_E.1 _) trivial
    · refine x_null (μ := mu_x16_shifted) (pc := 80) dX16_shifted_80 ?_
      refine x_goto (μ := mu_x16_shifted) (pc := 81) (tgt := 102) dX16_shifted_81 rfl ?_
      exact x_aret (μ := mu_x16_shifted) (pc := 102) dX16_shifted_102 rfl (by first | exact Or.inl ⟨_, rfl⟩ | exact Or.inr ⟨_, rfl⟩) rfl (gRel_E.1 _) trivial
def x16_shifted_j33 (N : Nat) (v0 : Nat) (v1 : Nat) (v2 : Nat) (t0 : Int) (s : gMem) : Option (Nat × gMem) := if mT s v0 = 14 then if mI s v0 3 = 0 then if mT s v2 = 8 then (x9_column N v2 (mI s v0 1) s).bind (fun x15 => if mT s v1 = 22 then (x16_moved (mR s v2 1) x15 (mI s v1 1) s).bind (fun x19 => x16_shifted_j67 N v0 t0 x19 s) else none) else none else x16_shifted_j67 N v0 t0 (mI s v0 1) s else none
set_option maxRecDepth 100000 in
theorem okj_x16_shifted_j33 {ω : gW} {l : Launch} {d : Nat} {N : Nat} {σ0 : gMem} {s : gMem} {v0 : Nat} {v1 : Nat} {v2 : Nat} {t0 : Int} (hl : l.stackTraces = false) (hdp : 3 ≤ d) (ht0 : g32 t0) : GG (fun p : Nat × gMem => (.inl (some (vR p.1)), p.2)) gE ω l d mu_x16_shifted σ0 33 [(0, vR v0), (1, vR v1), (2, vR v2)] [vI t0] s (x16_shifted_j33 N v0 v1 v2 t0 s) := by
  unfold x16_shifted_j33
  refine x_istore_n (μ := mu_x16_shifted) (pc := 33) (lv' := [(3, vI t0), (0, vR v0), (1, vR v1), (2, vR v2)]) dX16_shifted_33 rfl (by decide) rfl ?_
  refine x_aload_n (μ := mu_x16_shifted) (pc := 34) 1 dX16_shifted_34 rfl ?_
  refine x_if (fun hT11 => ?_)
  refine x_fgz (μ := mu_x16_shifted) (pc := 35) fX16_3 q1951 dX16_shifted_35 hT11 (fun hr12 => ?_)
  refine x_if_eq (μ := mu_x16_shifted) (pc := 38) (tgt := 48) dX16_shifted_38 rfl hr12 ?_ ?_
  · refine x_aload_n (μ := mu_x16_shifted) (pc := 48) 3 dX16_shifted_48 rfl ?_
    refine x_if (fun hT13 => ?_)
    refine x_fgrN (μ := mu_x16_shifted) (pc := 49) fX9_1 (by first | exact Or.inl ⟨_, rfl⟩ | exact Or.inr ⟨_, rfl⟩) q575 dX16_shifted_49 hT13 ?_
    refine x_aload_n (μ := mu_x16_shifted) (pc := 52) 3 dX16_shifted_52 rfl ?_
    refine x_aload_n (μ := mu_x16_shifted) (pc := 53) 1 dX16_shifted_53 rfl ?_
    refine x_fgi (μ := mu_x16_shifted) (pc := 54) fX16_1 q1945 dX16_shifted_54 hT11 (fun hr14 => ?_)
    refine x_callV_pi (μ := mu_x16_shifted) (pc := 57) (ok_x9_column (ω := ω) (l := l) (d := d - 1) hl (by omega) hr14) gRel_E gRel_E (fun _ q => q) q856 q786 q787 q230 q788 dX16_shifted_57 rfl hT13 hy_x9_column (by omega) (Nat.le_of_ble_eq_true rfl) rfl (Nat.le_of_ble_eq_true rfl) (fun x15 hr16 => ?_)
    refine x_aload_n (μ := mu_x16_shifted) (pc := 60) 2 dX16_shifted_60 rfl ?_
    refine x_if (fun hT17 => ?_)
    refine x_fgiN (μ := mu_x16_shifted) (pc := 61) fX24_1 q2277 dX16_shifted_61 hT17 (fun hr18 => ?_)
    refine x_callS_pi (μ := mu_x16_shifted) (pc := 64) (ok_x16_moved (ω := ω) (l := l) (d := d - 1) hl (by omega) hr16 hr18) gRel_E gRel_E (fun _ q => q) q2307 q2308 q248 q2309 dX16_shifted_64 hy_x16_moved (by omega) (Nat.le_of_ble_eq_true rfl) rfl (Nat.le_of_ble_eq_true rfl) (fun x19 hr20 => ?_)
    refine x_loc (lv' := [(0, vR v0), (3, vI t0)]) [1, 0] rfl ?_
    exact okj_x16_shifted_j67 hl hdp ht0 hr20
  · refine x_aload_n (μ := mu_x16_shifted) (pc := 41) 1 dX16_shifted_41 rfl ?_
    refine x_fgi (μ := mu_x16_shifted) (pc := 42) fX16_1 q1945 dX16_shifted_42 hT11 (fun hr29 => ?_)
    refine x_goto (μ := mu_x16_shifted) (pc := 45) (tgt := 67) dX16_shifted_45 rfl ?_
    refine x_loc (lv' := [(0, vR v0), (3, vI t0)]) [1, 0] rfl ?_
    exact okj_x16_shifted_j67 hl hdp ht0 hr29
def x16_shifted (N : Nat) (v0 : Nat) (v1 : Nat) (v2 : Nat) (σ : gMem) : Option (Nat × gMem) := if mT σ v0 = 14 then if mI σ v0 2 = 0 then if mT σ v2 = 8 then (x9_row N v2 (mI σ v0 0) σ).bind (fun x5 => if mT σ v1 = 22 then (x16_moved (mR σ v2 0) x5 (mI σ v1 0) σ).bind (fun x9 => x16_shifted_j33 N v0 v1 v2 x9 σ) else none) else none else x16_shifted_j33 N v0 v1 v2 (mI σ v0 0) σ else none
set_option maxRecDepth 100000 in
theorem ok_x16_shifted {ω : gW} {l : Launch} {d : Nat} {N : Nat} {σ : gMem} {v0 : Nat} {v1 : Nat} {v2 : Nat} (hl : l.stackTraces = false) (hdp : 3 ≤ d) : gK (fun p : Nat × gMem => (.inl (some (vR p.1)), p.2)) gE ω l d mu_x16_shifted [vR v0, vR v1, vR v2] σ (x16_shifted N v0 v1 v2 σ) := by
  refine gK.of hp_X16 (Nat.le_of_ble_eq_true rfl) ?_
  unfold x16_shifted
  refine x_aload_n (μ := mu_x16_shifted) (pc := 0) 0 dX16_shifted_0 rfl ?_
  refine x_if (fun hT1 => ?_)
  refine x_fgz (μ := mu_x16_shifted) (pc := 1) fX16_2 q1950 dX16_shifted_1 hT1 (fun hr2 => ?_)
  refine x_if_eq (μ := mu_x16_shifted) (pc := 4) (tgt := 14) dX16_shifted_4 rfl hr2 ?_ ?_
  · refine x_aload_n (μ := mu_x16_shifted) (pc := 14) 2 dX16_shifted_14 rfl ?_
    refine x_if (fun hT3 => ?_)
    refine x_fgrN (μ := mu_x16_shifted) (pc := 15) fX9_0 (by first | exact Or.inl ⟨_, rfl⟩ | exact Or.inr ⟨_, rfl⟩) q570 dX16_shifted_15 hT3 ?_
    refine x_aload_n (μ := mu_x16_shifted) (pc := 18) 2 dX16_shifted_18 rfl ?_
    refine x_aload_n (μ := mu_x16_shifted) (pc := 19) 0 dX16_shifted_19 rfl ?_
    refine x_fgi (μ := mu_x16_shifted) (pc := 20) fX16_0 q1940 dX16_shifted_20 hT1 (fun hr4 => ?_)
    refine x_callV_pi (μ := mu_x16_shifted) (pc := 23) (ok_x9_row (ω := ω) (l := l) (d := d - 1) hl (by omega) hr4) gRel_E gRel_E (fun _ q => q) q855 q779 q780 q230 q781 dX16_shifted_23 rfl hT3 hy_x9_row (by omega) (Nat.le_of_ble_eq_true rfl) rfl (Nat.le_of_ble_eq_true rfl) (fun x5 hr6 => ?_)
    refine x_aload_n (μ := mu_x16_shifted) (pc := 26) 1 dX16_shifted_26 rfl ?_
    refine x_if (fun hT7 => ?_)
    refine x_fgiN (μ := mu_x16_shifted) (pc := 27) fX24_0 q2275 dX16_shifted_27 hT7 (fun hr8 => ?_)
    refine x_callS_pi (μ := mu_x16_shifted) (pc := 30) (ok_x16_moved (ω := ω) (l := l) (d := d - 1) hl (by omega) hr6 hr8) gRel_E gRel_E (fun _ q => q) q2307 q2308 q248 q2309 dX16_shifted_30 hy_x16_moved (by omega) (Nat.le_of_ble_eq_true rfl) rfl (Nat.le_of_ble_eq_true rfl) (fun x9 hr10 => ?_)
    exact okj_x16_shifted_j33 hl hdp hr10
  · refine x_aload_n (μ := mu_x16_shifted) (pc := 7) 0 dX16_shifted_7 rfl ?_
    refine x_fgi (μ := mu_x16_shifted) (pc := 8) fX16_0 q1940 dX16_shifted_8 hT1 (fun hr30 => ?_)
    refine x_goto (μ := mu_x16_shifted) (pc := 11) (tgt := 33) dX16_shifted_11 rfl ?_
    exact okj_x16_shifted_j33 hl hdp hr30
def x17_leads (N : Nat) (v0 : Nat) (v1 : Nat) (v2 : Nat) (σ : gMem) : Option gMem := if mT σ v0 = 15 then if mI σ v0 1 ≠ (-1) then some σ else if mT σ (mR σ v0 0) = 14 then (x16_isIn N (mR σ v0 0) v2 σ).bind (fun x4 => if x4 = 0 then some σ else if mT σ v2 = 8 then (x9_row N v2 (mI σ (mR σ v0 0) 0) σ).bind (fun x8 => (x9_column N v2 (mI σ (mR σ v0 0) 1) σ).bind (fun x11 => if mT σ v1 = 4 then (x4_add v1 x8 x11 σ).bind (fun x14 => some x14) else none)) else none) else none else none
set_option maxRecDepth 100000 in
theorem ok_x17_leads {ω : gW} {l : Launch} {d : Nat} {N : Nat} {σ : gMem} {v0 : Nat} {v1 : Nat} {v2 : Nat} (hl : l.stackTraces = false) (hdp : 3 ≤ d) : gK (fun p : gMem => (.inl none, p)) gE ω l d mu_x17_leads [vR v0, vR v1, vR v2] σ (x17_leads N v0 v1 v2 σ) := by
  refine gK.of hp_X17 (Nat.le_of_ble_eq_true rfl) ?_
  unfold x17_leads
  refine x_aload_n (μ := mu_x17_leads) (pc := 0) 0 dX17_leads_0 rfl ?_
  refine x_if (fun hT1 => ?_)
  refine x_fgi (μ := mu_x17_leads) (pc := 1) fX17_1 q1974 dX17_leads_1 hT1 (fun hr2 => ?_)
  refine x_iconst (μ := mu_x17_leads) (pc := 4) dX17_leads_4 ?_
  refine x_icmp_ne (μ := mu_x17_leads) (pc := 5) (tgt := 45) dX17_leads_5 rfl hr2 (by decide) ?_ ?_
  · exact x_vret (μ := mu_x17_leads) (pc := 45) (a1 := σ) dX17_leads_45 rfl rfl (gRel_E.1 _) trivial
  · refine x_aload_n (μ := mu_x17_leads) (pc := 8) 0 dX17_leads_8 rfl ?_
    refine x_fgr (μ := mu_x17_leads) (pc := 9) fX17_0 (by first | exact Or.inl ⟨_, rfl⟩ | exact Or.inr ⟨_, rfl⟩) q1971 dX17_leads_9 hT1 ?_
    refine x_aload_n (μ := mu_x17_leads) (pc := 12) 2 dX17_leads_12 rfl ?_
    refine x_if (fun hT3 => ?_)
    refine x_callV_pi (μ := mu_x17_leads) (pc := 13) (ok_x16_isIn (ω := ω) (l := l) (d := d - 1) hl (by omega) ) gRel_E gRel_E (fun _ q => q) q906 q852 q853 q248 q854 dX17_leads_13 rfl hT3 hy_x16_isIn (by omega) (Nat.le_of_ble_eq_true rfl) rfl (Nat.le_of_ble_eq_true rfl) (fun x4 hr5 => ?_)
    refine x_if_eq (μ := mu_x17_leads) (pc := 16) (tgt := 45) dX17_leads_16 rfl hr5 ?_ ?_
    · exact x_vret (μ := mu_x17_leads) (pc := 45) (a1 := σ) dX17_leads_45 rfl rfl (gRel_E.1 _) trivial
    · refine x_aload_n (μ := mu_x17_leads) (pc := 19) 1 dX17_leads_19 rfl ?_
      refine x_aload_n (μ := mu_x17_leads) (pc := 20) 2 dX17_leads_20 rfl ?_
      refine x_aload_n (μ := mu_x17_leads) (pc := 21) 0 dX17_leads_21 rfl ?_
      refine x_fgr (μ := mu_x17_leads) (pc := 22) fX17_0 (by first | exact Or.inl ⟨_, rfl⟩ | exact Or.inr ⟨_, rfl⟩) q1971 dX17_leads_22 hT1 ?_
      refine x_fgiN (μ := mu_x17_leads) (pc := 25) fX16_0 q1941 dX17_leads_25 hT3 (fun hr6 => ?_)
      refine x_if (fun hT7 => ?_)
      refine x_callV_pi (μ := mu_x17_leads) (pc := 28) (ok_x9_row (ω := ω) (l := l) (d := d - 1) hl (by omega) hr6) gRel_E gRel_E (fun _ q => q) q907 q779 q780 q230 q781 dX17_leads_28 rfl hT7 hy_x9_row (by omega) (Nat.le_of_ble_eq_true rfl) rfl (Nat.le_of_ble_eq_true rfl) (fun x8 hr9 => ?_)
      refine x_aload_n (μ := mu_x17_leads) (pc := 31) 2 dX17_leads_31 rfl ?_
      refine x_aload_n (μ := mu_x17_leads) (pc := 32) 0 dX17_leads_32 rfl ?_
      refine x_fgr (μ := mu_x17_leads) (pc := 33) fX17_0 (by first | exact Or.inl ⟨_, rfl⟩ | exact Or.inr ⟨_, rfl⟩) q1971 dX17_leads_33 hT1 ?_
      refine x_fgiN (μ := mu_x17_leads) (pc := 36) fX16_1 q1946 dX17_leads_36 hT3 (fun hr10 => ?_)
      refine x_callV_pi (μ := mu_x17_leads) (pc := 39) (ok_x9_column (ω := ω) (l := l) (d := d - 1) hl (by omega) hr10) gRel_E gRel_E (fun _ q => q) q908 q786 q787 q230 q788 dX17_leads_39 rfl hT7 hy_x9_column (by omega) (Nat.le_of_ble_eq_true rfl) rfl (Nat.le_of_ble_eq_true rfl) (fun x11 hr12 => ?_)
      refine x_if (fun hT13 => ?_)
      refine x_callV_mv (μ := mu_x17_leads) (pc := 42) (ok_x4_add (ω := ω) (l := l) (d := d - 1) hl (by omega) hr9 hr12) gRel_E gRel_E (fun _ q => q) q909 q866 q867 q224 q868 dX17_leads_42 rfl hT13 hy_x4_add (by omega) (Nat.le_of_ble_eq_true rfl) rfl (Nat.le_of_ble_eq_true rfl) (fun x14 k15 => ?_)
      exact x_vret (μ := mu_x17_leads) (pc := 45) (a1 := x14) dX17_leads_45 rfl rfl (gRel_E.1 _) trivial
def x17_work (N : Nat) (v0 : Nat) (v1 : Nat) (v2 : Nat) (σ : gMem) : Option gMem := if mT σ v0 = 15 then if mT σ v1 = 3 then (x3_sheetOf v1 (mI σ v0 1) σ).bind (fun x4 => if mT σ (mR σ v0 0) = 14 then if mT σ x4 = 8 then (x9_row N x4 (mI σ (mR σ v0 0) 0) σ).bind (fun x8 => (x9_column N x4 (mI σ (mR σ v0 0) 1) σ).bind (fun x11 => if x8 = (-1) then if mT σ v2 = 5 then (x5_fail v2 1 σ).bind (fun x14 => some x14) else none else if x11 ≠ (-1) then (x3_valuesOf v1 (mI σ v0 1) σ).bind (fun x17 => if mT σ x17 = 2 then (x2_give x17 (w32 ((10 * x8) + x11)) v2 σ).bind (fun x19 => some x19) else none) else if mT σ v2 = 5 then (x5_fail v2 1 σ).bind (fun x22 => some x22) else none)) else none else none) else none else none
set_option maxRecDepth 100000 in
theorem ok_x17_work {ω : gW} {l : Launch} {d : Nat} {N : Nat} {σ : gMem} {v0 : Nat} {v1 : Nat} {v2 : Nat} (hl : l.stackTraces = false) (hdp : 2 ≤ d) : gK (fun p : gMem => (.inl none, p)) gE ω l d mu_x17_work [vR v0, vR v1, vR v2] σ (x17_work N v0 v1 v2 σ) := by
  refine gK.of hp_X17 (Nat.le_of_ble_eq_true rfl) ?_
  unfold x17_work
  refine x_aload_n (μ := mu_x17_work) (pc := 0) 1 dX17_work_0 rfl ?_
  refine x_aload_n (μ := mu_x17_work) (pc := 1) 0 dX17_work_1 rfl ?_
  refine x_if (fun hT1 => ?_)
  refine x_fgi (μ := mu_x17_work) (pc := 2) fX17_1 q1974 dX17_work_2 hT1 (fun hr2 => ?_)
  refine x_if (fun hT3 => ?_)
  refine x_callV_pr (μ := mu_x17_work) (pc := 5) (ok_x3_sheetOf (ω := ω) (l := l) (d := d - 1) hl (by omega) hr2) gRel_E gRel_E (fun _ q => q) q1014 q1015 q1016 q223 q1017 dX17_work_5 rfl hT3 hy_x3_sheetOf (by omega) (Nat.le_of_ble_eq_true rfl) rfl (Nat.le_of_ble_eq_true rfl) (fun x4 => ?_)
  refine x_astore_n (μ := mu_x17_work) (pc := 8) (lv' := [(3, vR x4), (0, vR v0), (1, vR v1), (2, vR v2)]) dX17_work_8 rfl (by decide) rfl ?_
  refine x_aload_n (μ := mu_x17_work) (pc := 9) 0 dX17_work_9 rfl ?_
  refine x_aload_n (μ := mu_x17_work) (pc := 10) 1 dX17_work_10 rfl ?_
  refine x_fgr (μ := mu_x17_work) (pc := 11) fX17_0 (by first | exact Or.inl ⟨_, rfl⟩ | exact Or.inr ⟨_, rfl⟩) q1971 dX17_work_11 hT1 ?_
  refine x_if (fun hT5 => ?_)
  refine x_fgiN (μ := mu_x17_work) (pc := 14) fX16_0 q1941 dX17_work_14 hT5 (fun hr6 => ?_)
  refine x_if (fun hT7 => ?_)
  refine x_callV_pi (μ := mu_x17_work) (pc := 17) (ok_x9_row (ω := ω) (l := l) (d := d - 1) hl (by omega) hr6) gRel_E gRel_E (fun _ q => q) q907 q779 q780 q230 q781 dX17_work_17 rfl hT7 hy_x9_row (by omega) (Nat.le_of_ble_eq_true rfl) rfl (Nat.le_of_ble_eq_true rfl) (fun x8 hr9 => ?_)
  refine x_istore (μ := mu_x17_work) (pc := 20) (lv' := [(4, vI x8), (3, vR x4), (0, vR v0), (1, vR v1), (2, vR v2)]) dX17_work_20 (by decide) rfl ?_
  refine x_aload_n (μ := mu_x17_work) (pc := 22) 1 dX17_work_22 rfl ?_
  refine x_aload_n (μ := mu_x17_work) (pc := 23) 2 dX17_work_23 rfl ?_
  refine x_fgr (μ := mu_x17_work) (pc := 24) fX17_0 (by first | exact Or.inl ⟨_, rfl⟩ | exact Or.inr ⟨_, rfl⟩) q1971 dX17_work_24 hT1 ?_
  refine x_fgiN (μ := mu_x17_work) (pc := 27) fX16_1 q1946 dX17_work_27 hT5 (fun hr10 => ?_)
  refine x_callV_pi (μ := mu_x17_work) (pc := 30) (ok_x9_column (ω := ω) (l := l) (d := d - 1) hl (by omega) hr10) gRel_E gRel_E (fun _ q => q) q908 q786 q787 q230 q788 dX17_work_30 rfl hT7 hy_x9_column (by omega) (Nat.le_of_ble_eq_true rfl) rfl (Nat.le_of_ble_eq_true rfl) (fun x11 hr12 => ?_)
  refine x_istore (μ := mu_x17_work) (pc := 33) (lv' := [(5, vI x11), (4, vI x8), (3, vR x4), (0, vR v0), (1, vR v1), (2, vR v2)]) dX17_work_33 (by decide) rfl ?_
  refine x_iload (μ := mu_x17_work) (pc := 35) 1 dX17_work_35 rfl ?_
  refine x_iconst (μ := mu_x17_work) (pc := 37) dX17_work_37 ?_
  refine x_icmp_eq (μ := mu_x17_work) (pc := 38) (tgt := 47) dX17_work_38 rfl hr9 (by decide) ?_ ?_
  · refine x_aload_n (μ := mu_x17_work) (pc := 47) 5 dX17_work_47 rfl ?_
    refine x_iconst (μ := mu_x17_work) (pc := 48) dX17_work_48 ?_
    refine x_if (fun hT13 => ?_)
    refine x_callV_mv (μ := mu_x17_work) (pc := 49) (ok_x5_fail (ω := ω) (l := l) (d := d - 1) hl (by omega) (by decide)) gRel_E gRel_E (fun _ q => q) q1018 q969 q970 q225 q971 dX17_work_49 rfl hT13 hy_x5_fail (by omega) (Nat.le_of_ble_eq_true rfl) rfl (Nat.le_of_ble_eq_true rfl) (fun x14 k15 => ?_)
    refine x_goto (μ := mu_x17_work) (pc := 52) (tgt := 75) dX17_work_52 rfl ?_
    exact x_vret (μ := mu_x17_work) (pc := 75) (a1 := x14) dX17_work_75 rfl rfl (gRel_E.1 _) trivial
  · refine x_iload (μ := mu_x17_work) (pc := 41) 0 dX17_work_41 rfl ?_
    refine x_iconst (μ := mu_x17_work) (pc := 43) dX17_work_43 ?_
    refine x_icmp_ne (μ := mu_x17_work) (pc := 44) (tgt := 55) dX17_work_44 rfl hr12 (by decide) ?_ ?_
    · refine x_aload_n (μ := mu_x17_work) (pc := 55) 4 dX17_work_55 rfl ?_
      refine x_aload_n (μ := mu_x17_work) (pc := 56) 3 dX17_work_56 rfl ?_
      refine x_fgi (μ := mu_x17_work) (pc := 57) fX17_1 q1974 dX17_work_57 hT1 (fun hr16 => ?_)
      refine x_callV_pr (μ := mu_x17_work) (pc := 60) (ok_x3_valuesOf (ω := ω) (l := l) (d := d - 1) hl (by omega) hr16) gRel_E gRel_E (fun _ q => q) q1019 q1020 q1021 q223 q1022 dX17_work_60 rfl hT3 hy_x3_valuesOf (by omega) (Nat.le_of_ble_eq_true rfl) rfl (Nat.le_of_ble_eq_true rfl) (fun x17 => ?_)
      refine x_bipush (μ := mu_x17_work) (pc := 63) dX17_work_63 (by decide) ?_
      refine x_iload (μ := mu_x17_work) (pc := 65) 1 dX17_work_65 rfl ?_
      refine x_imul (μ := mu_x17_work) (pc := 67) dX17_work_67 ?_
      refine x_iload (μ := mu_x17_work) (pc := 68) 0 dX17_work_68 rfl ?_
      refine x_iadd (μ := mu_x17_work) (pc := 70) dX17_work_70 ?_
      refine x_aload_n (μ := mu_x17_work) (pc := 71) 5 dX17_work_71 rfl ?_
      refine x_w2 ?_
      refine x_if (fun hT18 => ?_)
      refine x_callV_mv (μ := mu_x17_work) (pc := 72) (ok_x2_give (ω := ω) (l := l) (d := d - 1) hl (by omega) (w32_rng _)) gRel_E gRel_E (fun _ q => q) q1023 q1024 q1025 q222 q1026 dX17_work_72 rfl hT18 hy_x2_give (by omega) (Nat.le_of_ble_eq_true rfl) rfl (Nat.le_of_ble_eq_true rfl) (fun x19 k20 => ?_)
      exact x_vret (μ := mu_x17_work) (pc := 75) (a1 := x19) dX17_work_75 rfl rfl (gRel_E.1 _) trivial
    · refine x_aload_n (μ := mu_x17_work) (pc := 47) 5 dX17_work_47 rfl ?_
      refine x_iconst (μ := mu_x17_work) (pc := 48) dX17_work_48 ?_
      refine x_if (fun hT21 => ?_)
      refine x_callV_mv (μ := mu_x17_work) (pc := 49) (ok_x5_fail (ω := ω) (l := l) (d := d - 1) hl (by omega) (by decide)) gRel_E gRel_E (fun _ q => q) q1018 q969 q970 q225 q971 dX17_work_49 rfl hT21 hy_x5_fail (by omega) (Nat.le_of_ble_eq_true rfl) rfl (Nat.le_of_ble_eq_true rfl) (fun x22 k23 => ?_)
      refine x_goto (μ := mu_x17_work) (pc := 52) (tgt := 75) dX17_work_52 rfl ?_
      exact x_vret (μ := mu_x17_work) (pc := 75) (a1 := x22) dX17_work_75 rfl rfl (gRel_E.1 _) trivial
def x17_write (N : Nat) (v0 : Nat) (v1 : Nat) (v2 : Nat) (σ : gMem) : Option gMem := if mT σ v0 = 15 then if mT σ v1 = 7 then (x8_sheetOf v1 (mI σ v0 1) v2 σ).bind (fun x4 => if mT σ (mR σ v0 0) = 14 then (x16_isIn N (mR σ v0 0) x4 σ).bind (fun x6 => if x6 ≠ 0 then (x16_write N (mR σ v0 0) v1 x4 σ).bind (fun x8 => (x8_at v1 (mI x8 v0 1) x8).bind (fun x11 => some x11)) else (x8_word N v1 (mR σ 0 100) σ).bind (fun x13 => some x13)) else none) else none else none
set_option maxRecDepth 100000 in
theorem ok_x17_write {ω : gW} {l : Launch} {d : Nat} {N : Nat} {σ : gMem} {v0 : Nat} {v1 : Nat} {v2 : Nat} (hl : l.stackTraces = false) (hdp : 23 ≤ d) : gK (fun p : gMem => (.inl none, p)) gE ω l d mu_x17_write [vR v0, vR v1, vR v2] σ (x17_write N v0 v1 v2 σ) := by
  refine gK.of hp_X17 (Nat.le_of_ble_eq_true rfl) ?_
  unfold x17_write
  refine x_aload_n (μ := mu_x17_write) (pc := 0) 1 dX17_write_0 rfl ?_
  refine x_aload_n (μ := mu_x17_write) (pc := 1) 0 dX17_write_1 rfl ?_
  refine x_if (fun hT1 => ?_)
  refine x_fgi (μ := mu_x17_write) (pc := 2) fX17_1 q1974 dX17_write_2 hT1 (fun hr2 => ?_)
  refine x_aload_n (μ := mu_x17_write) (pc := 5) 2 dX17_write_5 rfl ?_
  refine x_if (fun hT3 => ?_)
  refine x_callV_pr (μ := mu_x17_write) (pc := 6) (ok_x8_sheetOf (ω := ω) (l := l) (d := d - 1) hl (by omega) hr2) gRel_E gRel_E (fun _ q => q) q1489 q1379 q1380 q229 q1381 dX17_write_6 rfl hT3 hy_x8_sheetOf (by omega) (Nat.le_of_ble_eq_true rfl) rfl (Nat.le_of_ble_eq_true rfl) (fun x4 => ?_)
  refine x_astore_n (μ := mu_x17_write) (pc := 9) (lv' := [(3, vR x4), (0, vR v0), (1, vR v1), (2, vR v2)]) dX17_write_9 rfl (by decide) rfl ?_
  refine x_aload_n (μ := mu_x17_write) (pc := 10) 1 dX17_write_10 rfl ?_
  refine x_fgr (μ := mu_x17_write) (pc := 11) fX17_0 (by first | exact Or.inl ⟨_, rfl⟩ | exact Or.inr ⟨_, rfl⟩) q1971 dX17_write_11 hT1 ?_
  refine x_aload_n (μ := mu_x17_write) (pc := 14) 0 dX17_write_14 rfl ?_
  refine x_if (fun hT5 => ?_)
  refine x_callV_pi (μ := mu_x17_write) (pc := 15) (ok_x16_isIn (ω := ω) (l := l) (d := d - 1) hl (by omega) ) gRel_E gRel_E (fun _ q => q) q906 q852 q853 q248 q854 dX17_write_15 rfl hT5 hy_x16_isIn (by omega) (Nat.le_of_ble_eq_true rfl) rfl (Nat.le_of_ble_eq_true rfl) (fun x6 hr7 => ?_)
  refine x_if_ne (μ := mu_x17_write) (pc := 18) (tgt := 28) dX17_write_18 rfl hr7 ?_ ?_
  · refine x_aload_n (μ := mu_x17_write) (pc := 28) 1 dX17_write_28 rfl ?_
    refine x_fgr (μ := mu_x17_write) (pc := 29) fX17_0 (by first | exact Or.inl ⟨_, rfl⟩ | exact Or.inr ⟨_, rfl⟩) q1971 dX17_write_29 hT1 ?_
    refine x_aload_n (μ := mu_x17_write) (pc := 32) 2 dX17_write_32 rfl ?_
    refine x_aload_n (μ := mu_x17_write) (pc := 33) 0 dX17_write_33 rfl ?_
    refine x_callV_mv (μ := mu_x17_write) (pc := 34) (ok_x16_write (ω := ω) (l := l) (d := d - 1) hl (by omega) ) gRel_E gRel_E (fun _ q => q) q1492 q1390 q1391 q248 q1392 dX17_write_34 rfl hT5 hy_x16_write (by omega) (Nat.le_of_ble_eq_true rfl) rfl (Nat.le_of_ble_eq_true rfl) (fun x8 k9 => ?_)
    refine x_aload_n (μ := mu_x17_write) (pc := 37) 2 dX17_write_37 rfl ?_
    refine x_aload_n (μ := mu_x17_write) (pc := 38) 1 dX17_write_38 rfl ?_
    refine x_fgi (μ := mu_x17_write) (pc := 39) fX17_1 q1974 dX17_write_39 (gT_E k9 hT1 (by decide)) (fun hr10 => ?_)
    refine x_callV_mv (μ := mu_x17_write) (pc := 42) (ok_x8_at (ω := ω) (l := l) (d := d - 1) hl (by omega) hr10) gRel_E gRel_E (fun _ q => q) q1493 q1404 q1405 q229 q1406 dX17_write_42 rfl (gT_E k9 hT3 (by decide)) hy_x8_at (by omega) (Nat.le_of_ble_eq_true rfl) rfl (Nat.le_of_ble_eq_true rfl) (fun x11 k12 => ?_)
    exact x_vret (μ := mu_x17_write) (pc := 45) (a1 := x11) dX17_write_45 rfl rfl (gRel_E.1 _) trivial
  · refine x_aload_n (μ := mu_x17_write) (pc := 21) 2 dX17_write_21 rfl ?_
    refine x_ldcS (μ := mu_x17_write) (pc := 22) (j := 100) (List.mem_of_getElem? (i := 3) rfl) dX17_write_22 ?_
    refine x_callV_mv (μ := mu_x17_write) (pc := 24) (ok_x8_word (ω := ω) (l := l) (d := d - 1) hl (by omega) ) gRel_E gRel_E (fun _ q => q) q1491 q1384 q1385 q229 q1386 dX17_write_24 rfl hT3 hy_x8_word (by omega) (Nat.le_of_ble_eq_true rfl) rfl (Nat.le_of_ble_eq_true rfl) (fun x13 k14 => ?_)
    exact x_vret (μ := mu_x17_write) (pc := 27) (a1 := x13) dX17_write_27 rfl rfl (gRel_E.1 _) trivial
def x17_shifted (N : Nat) (v0 : Nat) (v1 : Nat) (σ : gMem) : Option (Nat × gMem) := if mT σ v0 = 15 then if mT σ v1 = 22 then (x24_sheet v1 (mI σ v0 1) σ).bind (fun x4 => if mT σ (mR σ v0 0) = 14 then (x16_shifted N (mR σ v0 0) v1 x4 σ).bind (fun x6 => if x6.1 ≠ 0 then gLet (wN (x6.2) 15 2) (fun s9 => (x17_init (mZ (x6.2)) (x6.1) (mI s9 v0 1) s9).bind (fun x12 => some (mZ (x6.2), x12))) else gLet (wN (x6.2) 13 0) (fun s15 => (x15_init (mZ (x6.2)) s15).bind (fun x17 => some (mZ (x6.2), x17)))) else none) else none else none
set_option maxRecDepth 100000 in
theorem ok_x17_shifted {ω : gW} {l : Launch} {d : Nat} {N : Nat} {σ : gMem} {v0 : Nat} {v1 : Nat} (hl : l.stackTraces = false) (hdp : 4 ≤ d) : gK (fun p : Nat × gMem => (.inl (some (vR p.1)), p.2)) gE ω l d mu_x17_shifted [vR v0, vR v1] σ (x17_shifted N v0 v1 σ) := by
  refine gK.of hp_X17 (Nat.le_of_ble_eq_true rfl) ?_
  unfold x17_shifted
  refine x_aload_n (μ := mu_x17_shifted) (pc := 0) 0 dX17_shifted_0 rfl ?_
  refine x_if (fun hT1 => ?_)
  refine x_fgr (μ := mu_x17_shifted) (pc := 1) fX17_0 (by first | exact Or.inl ⟨_, rfl⟩ | exact Or.inr ⟨_, rfl⟩) q1971 dX17_shifted_1 hT1 ?_
  refine x_aload_n (μ := mu_x17_shifted) (pc := 4) 1 dX17_shifted_4 rfl ?_
  refine x_aload_n (μ := mu_x17_shifted) (pc := 5) 1 dX17_shifted_5 rfl ?_
  refine x_aload_n (μ := mu_x17_shifted) (pc := 6) 0 dX17_shifted_6 rfl ?_
  refine x_fgi (μ := mu_x17_shifted) (pc := 7) fX17_1 q1974 dX17_shifted_7 hT1 (fun hr2 => ?_)
  refine x_if (fun hT3 => ?_)
  refine x_callV_pr (μ := mu_x17_shifted) (pc := 10) (ok_x24_sheet (ω := ω) (l := l) (d := d - 1) hl (by omega) hr2) gRel_E gRel_E (fun _ q => q) q2340 q2300 q2301 q261 q2302 dX17_shifted_10 rfl hT3 hy_x24_sheet (by omega) (Nat.le_of_ble_eq_true rfl) rfl (Nat.le_of_ble_eq_true rfl) (fun x4 => ?_)
  refine x_if (fun hT5 => ?_)
  refine x_callV_mr (μ := mu_x17_shifted) (pc := 13) (ok_x16_shifted (ω := ω) (l := l) (d := d - 1) hl (by omega) ) gRel_E gRel_E (fun _ q => q) q2341 q2304 q2305 q248 q2306 dX17_shifted_13 rfl hT5 hy_x16_shifted (by omega) (Nat.le_of_ble_eq_true rfl) rfl (Nat.le_of_ble_eq_true rfl) (fun x6 k7 => ?_)
  refine x_astore_n (μ := mu_x17_shifted) (pc := 16) (lv' := [(2, vR (x6.1)), (0, vR v0), (1, vR v1)]) dX17_shifted_16 rfl (by decide) rfl ?_
  refine x_aload_n (μ := mu_x17_shifted) (pc := 17) 0 dX17_shifted_17 rfl ?_
  refine x_ifnonnull (μ := mu_x17_shifted) (pc := 18) (tgt := 31) dX17_shifted_18 rfl ?_ ?_
  · refine x_ok (fun ok8 => ?_)
    refine x_new (μ := mu_x17_shifted) (pc := 31) (ci := 14) gk_X17 gd_X17 q1625 q1966 q249 dX17_shifted_31 ?_
    refine x_let (fun s9 e10 => ?_)
    refine x_dup (μ := mu_x17_shifted) (pc := 34) dX17_shifted_34 rfl ?_
    refine x_aload_n (μ := mu_x17_shifted) (pc := 35) 0 dX17_shifted_35 rfl ?_
    refine x_aload_n (μ := mu_x17_shifted) (pc := 36) 1 dX17_shifted_36 rfl ?_
    refine x_fgi (μ := mu_x17_shifted) (pc := 37) fX17_1 q1974 dX17_shifted_37 (gT_N e10 ok8 (gT_E k7 hT1 (by decide)) (by decide)) (fun hr11 => ?_)
    refine x_callI_mv (μ := mu_x17_shifted) (pc := 40) (ok_x17_init (ω := ω) (l := l) (d := d - 1) hl (by omega) hr11) gRel_E gRel_E (fun _ q => q) q2344 q1968 q249 q1969 dX17_shifted_40 (gT_ne (gT_new e10)) rfl hy_x17_init (by omega) (Nat.le_of_ble_eq_true rfl) rfl (Nat.le_of_ble_eq_true rfl) (fun x12 k13 => ?_)
    exact x_aret (μ := mu_x17_shifted) (pc := 43) dX17_shifted_43 rfl (by first | exact Or.inl ⟨_, rfl⟩ | exact Or.inr ⟨_, rfl⟩) rfl (gRel_E.1 _) trivial
  · refine x_ok (fun ok14 => ?_)
    refine x_new (μ := mu_x17_shifted) (pc := 21) (ci := 12) gk_X15 gd_X15 q2342 q1904 q247 dX17_shifted_21 ?_
    refine x_let (fun s15 e16 => ?_)
    refine x_dup (μ := mu_x17_shifted) (pc := 24) dX17_shifted_24 rfl ?_
    refine x_callIN_mv (μ := mu_x17_shifted) (pc := 25) (ok_x15_init (ω := ω) (l := l) (d := d - 1) hl (by omega) ) gRel_E gRel_E (fun _ q => q) q2343 q1906 q247 q1907 dX17_shifted_25 (gT_ne (gT_new e16)) rfl hy_x15_init (by omega) (Nat.le_of_ble_eq_true rfl) rfl (Nat.le_of_ble_eq_true rfl) (fun x17 k18 => ?_)
    refine x_goto (μ := mu_x17_shifted) (pc := 28) (tgt := 43) dX17_shifted_28 rfl ?_
    exact x_aret (μ := mu_x17_shifted) (pc := 43) dX17_shifted_43 rfl (by first | exact Or.inl ⟨_, rfl⟩ | exact Or.inr ⟨_, rfl⟩) rfl (gRel_E.1 _) trivial
def x19_leads_l152 (N : Nat) (v1 : Nat) (v4 : Int) (v5 : Int) (v6 : Int) (v7 : Int) (K : gMem → Option gMem) : Nat → Int → gMem → Option gMem
  | 0, _, _ => none
  | n + 1, v8, s => if v6 < v8 then K s else if mT s v1 = 4 then (x4_add v1 v7 v8 s).bind (fun x35 => x19_leads_l152 N v1 v4 v5 v6 v7 K n (w32 (v8 + 1)) x35) else none
set_option maxRecDepth 100000 in
theorem okl_x19_leads_l152 {ω : gW} {l : Launch} {d : Nat} {N : Nat} {σ0 : gMem} {v1 : Nat} {v4 : Int} {v5 : Int} {v6 : Int} {v7 : Int} {K : gMem → Option gMem} (hl : l.stackTraces = false) (hdp : 3 ≤ d) (hv4 : g32 v4) (hv5 : g32 v5) (hv6 : g32 v6) (hv7 : g32 v7) (hK : ∀ (s : gMem) , GG (fun p : gMem => (.inl none, p)) gE ω l d mu_x19_leads σ0 173 [(1, vR v1), (4, vI v4), (5, vI v5), (6, vI v6), (7, vI v7)] [] s (K s)) : ∀ (n : Nat) (v8 : Int) (s : gMem) , g32 v8 → GG (fun p : gMem => (.inl none, p)) gE ω l d mu_x19_leads σ0 152 [(1, vR v1), (4, vI v4), (5, vI v5), (6, vI v6), (7, vI v7), (8, vI v8)] [] s (x19_leads_l152 N v1 v4 v5 v6 v7 K n v8 s) := by
  intro n
  induction n with
  | zero => intros; exact x_none
  | succ n ih =>
    intro v8 s hv8
    unfold x19_leads_l152
    refine x_iload (μ := mu_x19_leads) (pc := 152) 5 dX19_leads_152 rfl ?_
    refine x_iload (μ := mu_x19_leads) (pc := 154) 3 dX19_leads_154 rfl ?_
    refine x_icmp_gt (μ := mu_x19_leads) (pc := 156) (tgt := 173) dX19_leads_156 rfl hv8 hv6 ?_ ?_
    · refine x_loc (lv' := [(1, vR v1), (4, vI v4), (5, vI v5), (6, vI v6), (7, vI v7)]) [0, 1, 2, 3, 4] rfl ?_
      exact hK s
    · refine x_aload_n (μ := mu_x19_leads) (pc := 159) 0 dX19_leads_159 rfl ?_
      refine x_iload (μ := mu_x19_leads) (pc := 160) 4 dX19_leads_160 rfl ?_
      refine x_iload (μ := mu_x19_leads) (pc := 162) 5 dX19_leads_162 rfl ?_
      refine x_if (fun hT34 => ?_)
      refine x_callV_mv (μ := mu_x19_leads) (pc := 164) (ok_x4_add (ω := ω) (l := l) (d := d - 1) hl (by omega) hv7 hv8) gRel_E gRel_E (fun _ q => q) q865 q866 q867 q224 q868 dX19_leads_164 rfl hT34 hy_x4_add (by omega) (Nat.le_of_ble_eq_true rfl) rfl (Nat.le_of_ble_eq_true rfl) (fun x35 k36 => ?_)
      refine x_iincw (μ := mu_x19_leads) (pc := 167) (lv' := [(8, vI (w32 (v8 + 1))), (1, vR v1), (4, vI v4), (5, vI v5), (6, vI v6), (7, vI v7)]) 5 dX19_leads_167 rfl (by decide) rfl ?_
      refine x_goto (μ := mu_x19_leads) (pc := 170) (tgt := 152) dX19_leads_170 rfl ?_
      refine x_loc (lv' := [(1, vR v1), (4, vI v4), (5, vI v5), (6, vI v6), (7, vI v7), (8, vI (w32 (v8 + 1)))]) [1, 2, 3, 4, 5, 0] rfl ?_
      exact ih (w32 (v8 + 1)) x35 (w32_rng _)
def x19_leads_l141 (N : Nat) (v1 : Nat) (v4 : Int) (v5 : Int) (v6 : Int) (K : gMem → Option gMem) : Nat → Int → gMem → Option gMem
  | 0, _, _ => none
  | n + 1, v7, s => if v4 < v7 then K s else x19_leads_l152 N v1 v4 v5 v6 v7 (fun s37 => x19_leads_l141 N v1 v4 v5 v6 K n (w32 (v7 + 1)) s37) N v5 s
set_option maxRecDepth 100000 in
theorem okl_x19_leads_l141 {ω : gW} {l : Launch} {d : Nat} {N : Nat} {σ0 : gMem} {v1 : Nat} {v4 : Int} {v5 : Int} {v6 : Int} {K : gMem → Option gMem} (hl : l.stackTraces = false) (hdp : 3 ≤ d) (hv4 : g32 v4) (hv5 : g32 v5) (hv6 : g32 v6) (hK : ∀ (s : gMem) , GG (fun p : gMem => (.inl none, p)) gE ω l d mu_x19_leads σ0 179 [] [] s (K s)) : ∀ (n : Nat) (v7 : Int) (s : gMem) , g32 v7 → GG (fun p : gMem => (.inl none, p)) gE ω l d mu_x19_leads σ0 141 [(1, vR v1), (4, vI v4), (5, vI v5), (6, vI v6), (7, vI v7)] [] s (x19_leads_l141 N v1 v4 v5 v6 K n v7 s) := by
  intro n
  induction n with
  | zero => intros; exact x_none
  | succ n ih =>
    intro v7 s hv7
    unfold x19_leads_l141
    refine x_iload (μ := mu_x19_leads) (pc := 141) 4 dX19_leads_141 rfl ?_
    refine x_iload (μ := mu_x19_leads) (pc := 143) 1 dX19_leads_143 rfl ?_
    refine x_icmp_gt (μ := mu_x19_leads) (pc := 145) (tgt := 179) dX19_leads_145 rfl hv7 hv4 ?_ ?_
    · refine x_loc (lv' := []) [] rfl ?_
      exact hK s
    · refine x_iload (μ := mu_x19_leads) (pc := 148) 2 dX19_leads_148 rfl ?_
      refine x_istore (μ := mu_x19_leads) (pc := 150) (lv' := [(8, vI v5), (1, vR v1), (4, vI v4), (5, vI v5), (6, vI v6), (7, vI v7)]) dX19_leads_150 (by decide) rfl ?_
      refine x_loc (lv' := [(1, vR v1), (4, vI v4), (5, vI v5), (6, vI v6), (7, vI v7), (8, vI v5)]) [1, 2, 3, 4, 5, 0] rfl ?_
      refine okl_x19_leads_l152 hl hdp hv4 hv5 hv6 hv7 (fun s37 => ?_) N v5 s hv5
      refine x_iincw (μ := mu_x19_leads) (pc := 173) (lv' := [(7, vI (w32 (v7 + 1))), (1, vR v1), (4, vI v4), (5, vI v5), (6, vI v6)]) 4 dX19_leads_173 rfl (by decide) rfl ?_
      refine x_goto (μ := mu_x19_leads) (pc := 176) (tgt := 141) dX19_leads_176 rfl ?_
      refine x_loc (lv' := [(1, vR v1), (4, vI v4), (5, vI v5), (6, vI v6), (7, vI (w32 (v7 + 1)))]) [1, 2, 3, 4, 0] rfl ?_
      exact ih (w32 (v7 + 1)) s37 (w32_rng _)
def x19_leads (N : Nat) (v0 : Nat) (v1 : Nat) (v2 : Nat) (σ : gMem) : Option gMem := if mT σ v0 = 17 then if mI σ v0 2 ≠ (-1) then some σ else if mT σ (mR σ v0 0) = 14 then (x16_isIn N (mR σ v0 0) v2 σ).bind (fun x4 => if x4 = 0 then some σ else if mT σ (mR σ v0 1) = 14 then (x16_isIn N (mR σ v0 1) v2 σ).bind (fun x7 => if x7 ≠ 0 then if mT σ v2 = 8 then (x9_row N v2 (mI σ (mR σ v0 0) 0) σ).bind (fun x11 => (x9_row N v2 (mI σ (mR σ v0 1) 0) σ).bind (fun x14 => (x9_row N v2 (mI σ (mR σ v0 0) 0) σ).bind (fun x17 => (x9_row N v2 (mI σ (mR σ v0 1) 0) σ).bind (fun x20 => (x9_column N v2 (mI σ (mR σ v0 0) 1) σ).bind (fun x23 => (x9_column N v2 (mI σ (mR σ v0 1) 1) σ).bind (fun x26 => (x9_column N v2 (mI σ (mR σ v0 0) 1) σ).bind (fun x29 => (x9_column N v2 (mI σ (mR σ v0 1) 1) σ).bind (fun x32 => x19_leads_l141 N v1 (w32 (if x17 < x20 then x20 else x17)) (w32 (if x26 < x23 then x26 else x23)) (w32 (if x29 < x32 then x32 else x29)) (fun s38 => some s38) N (w32 (if x14 < x11 then x14 else x11)) σ)))))))) else none else some σ) else none) else none else none
set_option maxRecDepth 100000 in
theorem ok_x19_leads {ω : gW} {l : Launch} {d : Nat} {N : Nat} {σ : gMem} {v0 : Nat} {v1 : Nat} {v2 : Nat} (hl : l.stackTraces = false) (hdp : 3 ≤ d) : gK (fun p : gMem => (.inl none, p)) gE ω l d mu_x19_leads [vR v0, vR v1, vR v2] σ (x19_leads N v0 v1 v2 σ) := by
  refine gK.of hp_X19 (Nat.le_of_ble_eq_true rfl) ?_
  unfold x19_leads
  refine x_aload_n (μ := mu_x19_leads) (pc := 0) 0 dX19_leads_0 rfl ?_
  refine x_if (fun hT1 => ?_)
  refine x_fgi (μ := mu_x19_leads) (pc := 1) fX19_2 q2018 dX19_leads_1 hT1 (fun hr2 => ?_)
  refine x_iconst (μ := mu_x19_leads) (pc := 4) dX19_leads_4 ?_
  refine x_icmp_ne (μ := mu_x19_leads) (pc := 5) (tgt := 30) dX19_leads_5 rfl hr2 (by decide) ?_ ?_
  · exact x_vret (μ := mu_x19_leads) (pc := 30) (a1 := σ) dX19_leads_30 rfl rfl (gRel_E.1 _) trivial
  · refine x_aload_n (μ := mu_x19_leads) (pc := 8) 0 dX19_leads_8 rfl ?_
    refine x_fgr (μ := mu_x19_leads) (pc := 9) fX19_0 (by first | exact Or.inl ⟨_, rfl⟩ | exact Or.inr ⟨_, rfl⟩) q2014 dX19_leads_9 hT1 ?_
    refine x_aload_n (μ := mu_x19_leads) (pc := 12) 2 dX19_leads_12 rfl ?_
    refine x_if (fun hT3 => ?_)
    refine x_callV_pi (μ := mu_x19_leads) (pc := 13) (ok_x16_isIn (ω := ω) (l := l) (d := d - 1) hl (by omega) ) gRel_E gRel_E (fun _ q => q) q851 q852 q853 q248 q854 dX19_leads_13 rfl hT3 hy_x16_isIn (by omega) (Nat.le_of_ble_eq_true rfl) rfl (Nat.le_of_ble_eq_true rfl) (fun x4 hr5 => ?_)
    refine x_if_eq (μ := mu_x19_leads) (pc := 16) (tgt := 30) dX19_leads_16 rfl hr5 ?_ ?_
    · exact x_vret (μ := mu_x19_leads) (pc := 30) (a1 := σ) dX19_leads_30 rfl rfl (gRel_E.1 _) trivial
    · refine x_aload_n (μ := mu_x19_leads) (pc := 19) 0 dX19_leads_19 rfl ?_
      refine x_fgr (μ := mu_x19_leads) (pc := 20) fX19_1 (by first | exact Or.inl ⟨_, rfl⟩ | exact Or.inr ⟨_, rfl⟩) q2016 dX19_leads_20 hT1 ?_
      refine x_aload_n (μ := mu_x19_leads) (pc := 23) 2 dX19_leads_23 rfl ?_
      refine x_if (fun hT6 => ?_)
      refine x_callV_pi (μ := mu_x19_leads) (pc := 24) (ok_x16_isIn (ω := ω) (l := l) (d := d - 1) hl (by omega) ) gRel_E gRel_E (fun _ q => q) q851 q852 q853 q248 q854 dX19_leads_24 rfl hT6 hy_x16_isIn (by omega) (Nat.le_of_ble_eq_true rfl) rfl (Nat.le_of_ble_eq_true rfl) (fun x7 hr8 => ?_)
      refine x_if_ne (μ := mu_x19_leads) (pc := 27) (tgt := 31) dX19_leads_27 rfl hr8 ?_ ?_
      · refine x_aload_n (μ := mu_x19_leads) (pc := 31) 2 dX19_leads_31 rfl ?_
        refine x_aload_n (μ := mu_x19_leads) (pc := 32) 0 dX19_leads_32 rfl ?_
        refine x_fgr (μ := mu_x19_leads) (pc := 33) fX19_0 (by first | exact Or.inl ⟨_, rfl⟩ | exact Or.inr ⟨_, rfl⟩) q2014 dX19_leads_33 hT1 ?_
        refine x_fgiN (μ := mu_x19_leads) (pc := 36) fX16_0 q1942 dX19_leads_36 hT3 (fun hr9 => ?_)
        refine x_if (fun hT10 => ?_)
        refine x_callV_pi (μ := mu_x19_leads) (pc := 39) (ok_x9_row (ω := ω) (l := l) (d := d - 1) hl (by omega) hr9) gRel_E gRel_E (fun _ q => q) q857 q779 q780 q230 q781 dX19_leads_39 rfl hT10 hy_x9_row (by omega) (Nat.le_of_ble_eq_true rfl) rfl (Nat.le_of_ble_eq_true rfl) (fun x11 hr12 => ?_)
        refine x_aload_n (μ := mu_x19_leads) (pc := 42) 2 dX19_leads_42 rfl ?_
        refine x_aload_n (μ := mu_x19_leads) (pc := 43) 0 dX19_leads_43 rfl ?_
        refine x_fgr (μ := mu_x19_leads) (pc := 44) fX19_1 (by first | exact Or.inl ⟨_, rfl⟩ | exact Or.inr ⟨_, rfl⟩) q2016 dX19_leads_44 hT1 ?_
        refine x_fgiN (μ := mu_x19_leads) (pc := 47) fX16_0 q1942 dX19_leads_47 hT6 (fun hr13 => ?_)
        refine x_callV_pi (μ := mu_x19_leads) (pc := 50) (ok_x9_row (ω := ω) (l := l) (d := d - 1) hl (by omega) hr13) gRel_E gRel_E (fun _ q => q) q857 q779 q780 q230 q781 dX19_leads_50 rfl hT10 hy_x9_row (by omega) (Nat.le_of_ble_eq_true rfl) rfl (Nat.le_of_ble_eq_true rfl) (fun x14 hr15 => ?_)
        refine x_mmin (μ := mu_x19_leads) (pc := 53) q858 dX19_leads_53 hr12 hr15 (by omega) (Nat.le_of_ble_eq_true rfl) ?_
        refine x_w1 ?_
        refine x_istore_n (μ := mu_x19_leads) (pc := 56) (lv' := [(3, vI (w32 (if x14 < x11 then x14 else x11))), (0, vR v0), (1, vR v1), (2, vR v2)]) dX19_leads_56 rfl (by decide) rfl ?_
        refine x_aload_n (μ := mu_x19_leads) (pc := 57) 3 dX19_leads_57 rfl ?_
        refine x_aload_n (μ := mu_x19_leads) (pc := 58) 1 dX19_leads_58 rfl ?_
        refine x_fgr (μ := mu_x19_leads) (pc := 59) fX19_0 (by first | exact Or.inl ⟨_, rfl⟩ | exact Or.inr ⟨_, rfl⟩) q2014 dX19_leads_59 hT1 ?_
        refine x_fgiN (μ := mu_x19_leads) (pc := 62) fX16_0 q1942 dX19_leads_62 hT3 (fun hr16 => ?_)
        refine x_callV_pi (μ := mu_x19_leads) (pc := 65) (ok_x9_row (ω := ω) (l := l) (d := d - 1) hl (by omega) hr16) gRel_E gRel_E (fun _ q => q) q857 q779 q780 q230 q781 dX19_leads_65 rfl hT10 hy_x9_row (by omega) (Nat.le_of_ble_eq_true rfl) rfl (Nat.le_of_ble_eq_true rfl) (fun x17 hr18 => ?_)
        refine x_aload_n (μ := mu_x19_leads) (pc := 68) 3 dX19_leads_68 rfl ?_
        refine x_aload_n (μ := mu_x19_leads) (pc := 69) 1 dX19_leads_69 rfl ?_
        refine x_fgr (μ := mu_x19_leads) (pc := 70) fX19_1 (by first | exact Or.inl ⟨_, rfl⟩ | exact Or.inr ⟨_, rfl⟩) q2016 dX19_leads_70 hT1 ?_
        refine x_fgiN (μ := mu_x19_leads) (pc := 73) fX16_0 q1942 dX19_leads_73 hT6 (fun hr19 => ?_)
        refine x_callV_pi (μ := mu_x19_leads) (pc := 76) (ok_x9_row (ω := ω) (l := l) (d := d - 1) hl (by omega) hr19) gRel_E gRel_E (fun _ q => q) q857 q779 q780 q230 q781 dX19_leads_76 rfl hT10 hy_x9_row (by omega) (Nat.le_of_ble_eq_true rfl) rfl (Nat.le_of_ble_eq_true rfl) (fun x20 hr21 => ?_)
        refine x_mmax (μ := mu_x19_leads) (pc := 79) q861 dX19_leads_79 hr18 hr21 (by omega) (Nat.le_of_ble_eq_true rfl) ?_
        refine x_w1 ?_
        refine x_istore (μ := mu_x19_leads) (pc := 82) (lv' := [(4, vI (w32 (if x17 < x20 then x20 else x17))), (3, vI (w32 (if x14 < x11 then x14 else x11))), (0, vR v0), (1, vR v1), (2, vR v2)]) dX19_leads_82 (by decide) rfl ?_
        refine x_aload_n (μ := mu_x19_leads) (pc := 84) 4 dX19_leads_84 rfl ?_
        refine x_aload_n (μ := mu_x19_leads) (pc := 85) 2 dX19_leads_85 rfl ?_
        refine x_fgr (μ := mu_x19_leads) (pc := 86) fX19_0 (by first | exact Or.inl ⟨_, rfl⟩ | exact Or.inr ⟨_, rfl⟩) q2014 dX19_leads_86 hT1 ?_
        refine x_fgiN (μ := mu_x19_leads) (pc := 89) fX16_1 q1948 dX19_leads_89 hT3 (fun hr22 => ?_)
        refine x_callV_pi (μ := mu_x19_leads) (pc := 92) (ok_x9_column (ω := ω) (l := l) (d := d - 1) hl (by omega) hr22) gRel_E gRel_E (fun _ q => q) q864 q786 q787 q230 q788 dX19_leads_92 rfl hT10 hy_x9_column (by omega) (Nat.le_of_ble_eq_true rfl) rfl (Nat.le_of_ble_eq_true rfl) (fun x23 hr24 => ?_)
        refine x_aload_n (μ := mu_x19_leads) (pc := 95) 4 dX19_leads_95 rfl ?_
        refine x_aload_n (μ := mu_x19_leads) (pc := 96) 2 dX19_leads_96 rfl ?_
        refine x_fgr (μ := mu_x19_leads) (pc := 97) fX19_1 (by first | exact Or.inl ⟨_, rfl⟩ | exact Or.inr ⟨_, rfl⟩) q2016 dX19_leads_97 hT1 ?_
        refine x_fgiN (μ := mu_x19_leads) (pc := 100) fX16_1 q1948 dX19_leads_100 hT6 (fun hr25 => ?_)
        refine x_callV_pi (μ := mu_x19_leads) (pc := 103) (ok_x9_column (ω := ω) (l := l) (d := d - 1) hl (by omega) hr25) gRel_E gRel_E (fun _ q => q) q864 q786 q787 q230 q788 dX19_leads_103 rfl hT10 hy_x9_column (by omega) (Nat.le_of_ble_eq_true rfl) rfl (Nat.le_of_ble_eq_true rfl) (fun x26 hr27 => ?_)
        refine x_mmin (μ := mu_x19_leads) (pc := 106) q858 dX19_leads_106 hr24 hr27 (by omega) (Nat.le_of_ble_eq_true rfl) ?_
        refine x_w1 ?_
        refine x_istore (μ := mu_x19_leads) (pc := 109) (lv' := [(5, vI (w32 (if x26 < x23 then x26 else x23))), (4, vI (w32 (if x17 < x20 then x20 else x17))), (3, vI (w32 (if x14 < x11 then x14 else x11))), (0, vR v0), (1, vR v1), (2, vR v2)]) dX19_leads_109 (by decide) rfl ?_
        refine x_aload_n (μ := mu_x19_leads) (pc := 111) 5 dX19_leads_111 rfl ?_
        refine x_aload_n (μ := mu_x19_leads) (pc := 112) 3 dX19_leads_112 rfl ?_
        refine x_fgr (μ := mu_x19_leads) (pc := 113) fX19_0 (by first | exact Or.inl ⟨_, rfl⟩ | exact Or.inr ⟨_, rfl⟩) q2014 dX19_leads_113 hT1 ?_
        refine x_fgiN (μ := mu_x19_leads) (pc := 116) fX16_1 q1948 dX19_leads_116 hT3 (fun hr28 => ?_)
        refine x_callV_pi (μ := mu_x19_leads) (pc := 119) (ok_x9_column (ω := ω) (l := l) (d := d - 1) hl (by omega) hr28) gRel_E gRel_E (fun _ q => q) q864 q786 q787 q230 q788 dX19_leads_119 rfl hT10 hy_x9_column (by omega) (Nat.le_of_ble_eq_true rfl) rfl (Nat.le_of_ble_eq_true rfl) (fun x29 hr30 => ?_)
        refine x_aload_n (μ := mu_x19_leads) (pc := 122) 5 dX19_leads_122 rfl ?_
        refine x_aload_n (μ := mu_x19_leads) (pc := 123) 3 dX19_leads_123 rfl ?_
        refine x_fgr (μ := mu_x19_leads) (pc := 124) fX19_1 (by first | exact Or.inl ⟨_, rfl⟩ | exact Or.inr ⟨_, rfl⟩) q2016 dX19_leads_124 hT1 ?_
        refine x_fgiN (μ := mu_x19_leads) (pc := 127) fX16_1 q1948 dX19_leads_127 hT6 (fun hr31 => ?_)
        refine x_callV_pi (μ := mu_x19_leads) (pc := 130) (ok_x9_column (ω := ω) (l := l) (d := d - 1) hl (by omega) hr31) gRel_E gRel_E (fun _ q => q) q864 q786 q787 q230 q788 dX19_leads_130 rfl hT10 hy_x9_column (by omega) (Nat.le_of_ble_eq_true rfl) rfl (Nat.le_of_ble_eq_true rfl) (fun x32 hr33 => ?_)
        refine x_mmax (μ := mu_x19_leads) (pc := 133) q861 dX19_leads_133 hr30 hr33 (by omega) (Nat.le_of_ble_eq_true rfl) ?_
        refine x_w1 ?_
        refine x_istore (μ := mu_x19_leads) (pc := 136) (lv' := [(6, vI (w32 (if x29 < x32 then x32 else x29))), (5, vI (w32 (if x26 < x23 then x26 else x23))), (4, vI (w32 (if x17 < x20 then x20 else x17))), (3, vI (w32 (if x14 < x11 then x14 else x11))), (0, vR v0), (1, vR v1), (2, vR v2)]) dX19_leads_136 (by decide) rfl ?_
        refine x_iload_n (μ := mu_x19_leads) (pc := 138) 3 dX19_leads_138 rfl ?_
        refine x_istore (μ := mu_x19_leads) (pc := 139) (lv' := [(7, vI (w32 (if x14 < x11 then x14 else x11))), (6, vI (w32 (if x29 < x32 then x32 else x29))), (5, vI (w32 (if x26 < x23 then x26 else x23))), (4, vI (w32 (if x17 < x20 then x20 else x17))), (3, vI (w32 (if x14 < x11 then x14 else x11))), (0, vR v0), (1, vR v1), (2, vR v2)]) dX19_leads_139 (by decide) rfl ?_
        refine x_loc (lv' := [(1, vR v1), (4, vI (w32 (if x17 < x20 then x20 else x17))), (5, vI (w32 (if x26 < x23 then x26 else x23))), (6, vI (w32 (if x29 < x32 then x32 else x29))), (7, vI (w32 (if x14 < x11 then x14 else x11)))]) [6, 3, 2, 1, 0] rfl ?_
        refine okl_x19_leads_l141 hl hdp (w32_rng _) (w32_rng _) (w32_rng _) (fun s38 => ?_) N (w32 (if x14 < x11 then x14 else x11)) σ (w32_rng _)
        exact x_vret (μ := mu_x19_leads) (pc := 179) (a1 := s38) dX19_leads_179 rfl rfl (gRel_E.1 _) trivial
      · exact x_vret (μ := mu_x19_leads) (pc := 30) (a1 := σ) dX19_leads_30 rfl rfl (gRel_E.1 _) trivial
def x19_write (N : Nat) (v0 : Nat) (v1 : Nat) (v2 : Nat) (σ : gMem) : Option gMem := if mT σ v0 = 17 then if mT σ v1 = 7 then (x8_sheetOf v1 (mI σ v0 2) v2 σ).bind (fun x4 => if mT σ (mR σ v0 0) = 14 then (x16_isIn N (mR σ v0 0) x4 σ).bind (fun x6 => if x6 = 0 then (x8_word N v1 (mR σ 0 100) σ).bind (fun x8 => some x8) else if mT σ (mR σ v0 1) = 14 then (x16_isIn N (mR σ v0 1) x4 σ).bind (fun x11 => if x11 ≠ 0 then (x16_write N (mR σ v0 0) v1 x4 σ).bind (fun x13 => (x8_put v1 58 x13).bind (fun x15 => if mT x15 (mR x15 v0 1) = 14 then (x16_write N (mR x15 v0 1) v1 x4 x15).bind (fun x18 => (x8_at v1 (mI x18 v0 2) x18).bind (fun x21 => some x21)) else none)) else (x8_word N v1 (mR σ 0 100) σ).bind (fun x23 => some x23)) else none) else none) else none else none
set_option maxRecDepth 100000 in
theorem ok_x19_write {ω : gW} {l : Launch} {d : Nat} {N : Nat} {σ : gMem} {v0 : Nat} {v1 : Nat} {v2 : Nat} (hl : l.stackTraces = false) (hdp : 23 ≤ d) : gK (fun p : gMem => (.inl none, p)) gE ω l d mu_x19_write [vR v0, vR v1, vR v2] σ (x19_write N v0 v1 v2 σ) := by
  refine gK.of hp_X19 (Nat.le_of_ble_eq_true rfl) ?_
  unfold x19_write
  refine x_aload_n (μ := mu_x19_write) (pc := 0) 1 dX19_write_0 rfl ?_
  refine x_aload_n (μ := mu_x19_write) (pc := 1) 0 dX19_write_1 rfl ?_
  refine x_if (fun hT1 => ?_)
  refine x_fgi (μ := mu_x19_write) (pc := 2) fX19_2 q2018 dX19_write_2 hT1 (fun hr2 => ?_)
  refine x_aload_n (μ := mu_x19_write) (pc := 5) 2 dX19_write_5 rfl ?_
  refine x_if (fun hT3 => ?_)
  refine x_callV_pr (μ := mu_x19_write) (pc := 6) (ok_x8_sheetOf (ω := ω) (l := l) (d := d - 1) hl (by omega) hr2) gRel_E gRel_E (fun _ q => q) q1378 q1379 q1380 q229 q1381 dX19_write_6 rfl hT3 hy_x8_sheetOf (by omega) (Nat.le_of_ble_eq_true rfl) rfl (Nat.le_of_ble_eq_true rfl) (fun x4 => ?_)
  refine x_astore_n (μ := mu_x19_write) (pc := 9) (lv' := [(3, vR x4), (0, vR v0), (1, vR v1), (2, vR v2)]) dX19_write_9 rfl (by decide) rfl ?_
  refine x_aload_n (μ := mu_x19_write) (pc := 10) 1 dX19_write_10 rfl ?_
  refine x_fgr (μ := mu_x19_write) (pc := 11) fX19_0 (by first | exact Or.inl ⟨_, rfl⟩ | exact Or.inr ⟨_, rfl⟩) q2014 dX19_write_11 hT1 ?_
  refine x_aload_n (μ := mu_x19_write) (pc := 14) 0 dX19_write_14 rfl ?_
  refine x_if (fun hT5 => ?_)
  refine x_callV_pi (μ := mu_x19_write) (pc := 15) (ok_x16_isIn (ω := ω) (l := l) (d := d - 1) hl (by omega) ) gRel_E gRel_E (fun _ q => q) q851 q852 q853 q248 q854 dX19_write_15 rfl hT5 hy_x16_isIn (by omega) (Nat.le_of_ble_eq_true rfl) rfl (Nat.le_of_ble_eq_true rfl) (fun x6 hr7 => ?_)
  refine x_if_eq (μ := mu_x19_write) (pc := 18) (tgt := 32) dX19_write_18 rfl hr7 ?_ ?_
  · refine x_aload_n (μ := mu_x19_write) (pc := 32) 2 dX19_write_32 rfl ?_
    refine x_ldcS (μ := mu_x19_write) (pc := 33) (j := 100) (List.mem_of_getElem? (i := 0) rfl) dX19_write_33 ?_
    refine x_callV_mv (μ := mu_x19_write) (pc := 35) (ok_x8_word (ω := ω) (l := l) (d := d - 1) hl (by omega) ) gRel_E gRel_E (fun _ q => q) q1383 q1384 q1385 q229 q1386 dX19_write_35 rfl hT3 hy_x8_word (by omega) (Nat.le_of_ble_eq_true rfl) rfl (Nat.le_of_ble_eq_true rfl) (fun x8 k9 => ?_)
    exact x_vret (μ := mu_x19_write) (pc := 38) (a1 := x8) dX19_write_38 rfl rfl (gRel_E.1 _) trivial
  · refine x_aload_n (μ := mu_x19_write) (pc := 21) 1 dX19_write_21 rfl ?_
    refine x_fgr (μ := mu_x19_write) (pc := 22) fX19_1 (by first | exact Or.inl ⟨_, rfl⟩ | exact Or.inr ⟨_, rfl⟩) q2016 dX19_write_22 hT1 ?_
    refine x_aload_n (μ := mu_x19_write) (pc := 25) 0 dX19_write_25 rfl ?_
    refine x_if (fun hT10 => ?_)
    refine x_callV_pi (μ := mu_x19_write) (pc := 26) (ok_x16_isIn (ω := ω) (l := l) (d := d - 1) hl (by omega) ) gRel_E gRel_E (fun _ q => q) q851 q852 q853 q248 q854 dX19_write_26 rfl hT10 hy_x16_isIn (by omega) (Nat.le_of_ble_eq_true rfl) rfl (Nat.le_of_ble_eq_true rfl) (fun x11 hr12 => ?_)
    refine x_if_ne (μ := mu_x19_write) (pc := 29) (tgt := 39) dX19_write_29 rfl hr12 ?_ ?_
    · refine x_aload_n (μ := mu_x19_write) (pc := 39) 1 dX19_write_39 rfl ?_
      refine x_fgr (μ := mu_x19_write) (pc := 40) fX19_0 (by first | exact Or.inl ⟨_, rfl⟩ | exact Or.inr ⟨_, rfl⟩) q2014 dX19_write_40 hT1 ?_
      refine x_aload_n (μ := mu_x19_write) (pc := 43) 2 dX19_write_43 rfl ?_
      refine x_aload_n (μ := mu_x19_write) (pc := 44) 0 dX19_write_44 rfl ?_
      refine x_callV_mv (μ := mu_x19_write) (pc := 45) (ok_x16_write (ω := ω) (l := l) (d := d - 1) hl (by omega) ) gRel_E gRel_E (fun _ q => q) q1389 q1390 q1391 q248 q1392 dX19_write_45 rfl hT5 hy_x16_write (by omega) (Nat.le_of_ble_eq_true rfl) rfl (Nat.le_of_ble_eq_true rfl) (fun x13 k14 => ?_)
      refine x_aload_n (μ := mu_x19_write) (pc := 48) 2 dX19_write_48 rfl ?_
      refine x_bipush (μ := mu_x19_write) (pc := 49) dX19_write_49 (by decide) ?_
      refine x_callV_mv (μ := mu_x19_write) (pc := 51) (ok_x8_put (ω := ω) (l := l) (d := d - 1) hl (by omega) (by decide)) gRel_E gRel_E (fun _ q => q) q1402 q1366 q1367 q229 q1368 dX19_write_51 rfl (gT_E k14 hT3 (by decide)) hy_x8_put (by omega) (Nat.le_of_ble_eq_true rfl) rfl (Nat.le_of_ble_eq_true rfl) (fun x15 k16 => ?_)
      refine x_aload_n (μ := mu_x19_write) (pc := 54) 1 dX19_write_54 rfl ?_
      refine x_fgr (μ := mu_x19_write) (pc := 55) fX19_1 (by first | exact Or.inl ⟨_, rfl⟩ | exact Or.inr ⟨_, rfl⟩) q2016 dX19_write_55 (gT_E k16 (gT_E k14 hT1 (by decide)) (by decide)) ?_
      refine x_aload_n (μ := mu_x19_write) (pc := 58) 2 dX19_write_58 rfl ?_
      refine x_aload_n (μ := mu_x19_write) (pc := 59) 0 dX19_write_59 rfl ?_
      refine x_if (fun hT17 => ?_)
      refine x_callV_mv (μ := mu_x19_write) (pc := 60) (ok_x16_write (ω := ω) (l := l) (d := d - 1) hl (by omega) ) gRel_E gRel_E (fun _ q => q) q1389 q1390 q1391 q248 q1392 dX19_write_60 rfl hT17 hy_x16_write (by omega) (Nat.le_of_ble_eq_true rfl) rfl (Nat.le_of_ble_eq_true rfl) (fun x18 k19 => ?_)
      refine x_aload_n (μ := mu_x19_write) (pc := 63) 2 dX19_write_63 rfl ?_
      refine x_aload_n (μ := mu_x19_write) (pc := 64) 1 dX19_write_64 rfl ?_
      refine x_fgi (μ := mu_x19_write) (pc := 65) fX19_2 q2018 dX19_write_65 (gT_E k19 (gT_E k16 (gT_E k14 hT1 (by decide)) (by decide)) (by decide)) (fun hr20 => ?_)
      refine x_callV_mv (μ := mu_x19_write) (pc := 68) (ok_x8_at (ω := ω) (l := l) (d := d - 1) hl (by omega) hr20) gRel_E gRel_E (fun _ q => q) q1403 q1404 q1405 q229 q1406 dX19_write_68 rfl (gT_E k19 (gT_E k16 (gT_E k14 hT3 (by decide)) (by decide)) (by decide)) hy_x8_at (by omega) (Nat.le_of_ble_eq_true rfl) rfl (Nat.le_of_ble_eq_true rfl) (fun x21 k22 => ?_)
      exact x_vret (μ := mu_x19_write) (pc := 71) (a1 := x21) dX19_write_71 rfl rfl (gRel_E.1 _) trivial
    · refine x_aload_n (μ := mu_x19_write) (pc := 32) 2 dX19_write_32 rfl ?_
      refine x_ldcS (μ := mu_x19_write) (pc := 33) (j := 100) (List.mem_of_getElem? (i := 0) rfl) dX19_write_33 ?_
      refine x_callV_mv (μ := mu_x19_write) (pc := 35) (ok_x8_word (ω := ω) (l := l) (d := d - 1) hl (by omega) ) gRel_E gRel_E (fun _ q => q) q1383 q1384 q1385 q229 q1386 dX19_write_35 rfl hT3 hy_x8_word (by omega) (Nat.le_of_ble_eq_true rfl) rfl (Nat.le_of_ble_eq_true rfl) (fun x23 k24 => ?_)
      exact x_vret (μ := mu_x19_write) (pc := 38) (a1 := x23) dX19_write_38 rfl rfl (gRel_E.1 _) trivial
