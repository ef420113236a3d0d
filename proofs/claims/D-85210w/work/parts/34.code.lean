def tw_workEnd_l161 (N : Nat) (W : Int → Int → Int → gMem → Option gMem) (h : Nat) (v3 : Int) (v4 : Int) (v5 : Int) (K : gMem → Option gMem) : Nat → Int → gMem → Option gMem
  | 0, _, _ => none
  | n + 1, v6, s => if v4 ≤ v6 then K s else if 0 ≤ (((24 * v3) + v5) + v6) ∧ (((24 * v3) + v5) + v6) < ((4800 : Nat) : Int) then if -128 ≤ mI s (h + 36) (((24 * v3) + v5) + v6).toNat ∧ mI s (h + 36) (((24 * v3) + v5) + v6).toNat ≤ 127 then if 0 ≤ ((24 * v3) + v6) ∧ ((24 * v3) + v6) < ((4800 : Nat) : Int) then gLet (wI s (h + 36) ((24 * v3) + v6).toNat (mI s (h + 36) (((24 * v3) + v5) + v6).toNat)) (fun s31 => tw_workEnd_l161 N W h v3 v4 v5 K n (w32 (v6 + 1)) s31) else none else none else none
set_option maxRecDepth 100000 in
theorem okl_tw_workEnd_l161 {ω : gW} {l : Launch} {d : Nat} {N : Nat} {W : Int → Int → Int → gMem → Option gMem} {dW : Nat} {h : Nat} {σ0 : gMem} {v3 : Int} {v4 : Int} {v5 : Int} {K : gMem → Option gMem} (hW : ∀ (a1 : Int) (a2 : Int) (a3 : Int) (s : gMem), TM s h → g32 a1 → g32 a2 → g32 a3 → gK (fun p : gMem => (.inl none, p)) gTw ω l dW mu_tw_work [vR h, vI a1, vI a2, vI a3] s (W a1 a2 a3 s)) (hdp : 7 ≤ d) (hdw : dW + 1 ≤ d) (hv3 : g32 v3) (hv4 : g32 v4) (hv5 : g32 v5) (hK : ∀ (s : gMem) , TM s h → GG (fun p : gMem => (.inl none, p)) gTw ω l d mu_tw_workEnd σ0 201 [(0, vR h), (3, vI v3), (4, vI v4)] [] s (K s)) : ∀ (n : Nat) (v6 : Int) (s : gMem) , g32 v6 → TM s h → GG (fun p : gMem => (.inl none, p)) gTw ω l d mu_tw_workEnd σ0 161 [(0, vR h), (3, vI v3), (4, vI v4), (5, vI v5), (6, vI v6)] [] s (tw_workEnd_l161 N W h v3 v4 v5 K n v6 s) := by
  intro n
  induction n with
  | zero => intros; exact x_none
  | succ n ih =>
    intro v6 s hv6 hM
    unfold tw_workEnd_l161
    refine x_iload (μ := mu_tw_workEnd) (pc := 161) 4 dX11_workEnd_161 rfl ?_
    refine x_iload (μ := mu_tw_workEnd) (pc := 163) 2 dX11_workEnd_163 rfl ?_
    refine x_icmp_ge (μ := mu_tw_workEnd) (pc := 165) (tgt := 201) dX11_workEnd_165 rfl hv6 hv4 ?_ ?_
    · refine x_loc (lv' := [(0, vR h), (3, vI v3), (4, vI v4)]) [0, 1, 2] rfl ?_
      exact hK s hM
    · refine x_aload_n (μ := mu_tw_workEnd) (pc := 168) 0 dX11_workEnd_168 rfl ?_
      refine x_fgrE (μ := mu_tw_workEnd) (pc := 169) fX11_69 (Or.inr ⟨_, rfl⟩) q2705 (hM.a69).1 dX11_workEnd_169 hM.1 ?_
      refine x_bipush (μ := mu_tw_workEnd) (pc := 172) dX11_workEnd_172 (by decide) ?_
      refine x_iload_n (μ := mu_tw_workEnd) (pc := 174) 1 dX11_workEnd_174 rfl ?_
      refine x_imul (μ := mu_tw_workEnd) (pc := 175) dX11_workEnd_175 ?_
      refine x_iload (μ := mu_tw_workEnd) (pc := 176) 4 dX11_workEnd_176 rfl ?_
      refine x_iadd (μ := mu_tw_workEnd) (pc := 178) dX11_workEnd_178 ?_
      refine x_aload_n (μ := mu_tw_workEnd) (pc := 179) 0 dX11_workEnd_179 rfl ?_
      refine x_fgrE (μ := mu_tw_workEnd) (pc := 180) fX11_69 (Or.inr ⟨_, rfl⟩) q2705 (hM.a69).1 dX11_workEnd_180 hM.1 ?_
      refine x_bipush (μ := mu_tw_workEnd) (pc := 183) dX11_workEnd_183 (by decide) ?_
      refine x_iload_n (μ := mu_tw_workEnd) (pc := 185) 1 dX11_workEnd_185 rfl ?_
      refine x_imul (μ := mu_tw_workEnd) (pc := 186) dX11_workEnd_186 ?_
      refine x_iload (μ := mu_tw_workEnd) (pc := 187) 3 dX11_workEnd_187 rfl ?_
      refine x_iadd (μ := mu_tw_workEnd) (pc := 189) dX11_workEnd_189 ?_
      refine x_iload (μ := mu_tw_workEnd) (pc := 190) 4 dX11_workEnd_190 rfl ?_
      refine x_iadd (μ := mu_tw_workEnd) (pc := 192) dX11_workEnd_192 ?_
      refine x_bald (μ := mu_tw_workEnd) (pc := 193) dX11_workEnd_193 (hM.a69).2.1 (hM.a69).2.2 (fun hr29 => ?_)
      refine x_if (fun hz30 => ?_)
      refine x_bast (μ := mu_tw_workEnd) (pc := 194) dX11_workEnd_194 (hM.a69).2.1 (hM.a69).2.2 hz30 (fun _ _ q => gTw_wI q) ?_
      refine x_let (fun s31 e32 => ?_)
      have hM33 := TM.eI e32 hM
      refine x_iincw (μ := mu_tw_workEnd) (pc := 195) (lv' := [(6, vI (w32 (v6 + 1))), (0, vR h), (3, vI v3), (4, vI v4), (5, vI v5)]) 4 dX11_workEnd_195 rfl (by decide) rfl ?_
      refine x_goto (μ := mu_tw_workEnd) (pc := 198) (tgt := 161) dX11_workEnd_198 rfl ?_
      refine x_loc (lv' := [(0, vR h), (3, vI v3), (4, vI v4), (5, vI v5), (6, vI (w32 (v6 + 1)))]) [1, 2, 3, 4, 0] rfl ?_
      exact ih (w32 (v6 + 1)) s31 (w32_rng _) hM33
def tw_workEnd_j156 (N : Nat) (W : Int → Int → Int → gMem → Option gMem) (h : Nat) (v3 : Int) (v4 : Int) (t0 : Int) (s : gMem) : Option gMem := tw_workEnd_l161 N W h v3 v4 t0 (fun s34 => if 0 ≤ v3 ∧ v3 < ((200 : Nat) : Int) then gLet (wI s34 (h + 35) v3.toNat v4) (fun s36 => some s36) else none) N 0 s
set_option maxRecDepth 100000 in
theorem okj_tw_workEnd_j156 {ω : gW} {l : Launch} {d : Nat} {N : Nat} {W : Int → Int → Int → gMem → Option gMem} {dW : Nat} {h : Nat} {σ0 : gMem} {s : gMem} {v3 : Int} {v4 : Int} {t0 : Int} (hW : ∀ (a1 : Int) (a2 : Int) (a3 : Int) (s : gMem), TM s h → g32 a1 → g32 a2 → g32 a3 → gK (fun p : gMem => (.inl none, p)) gTw ω l dW mu_tw_work [vR h, vI a1, vI a2, vI a3] s (W a1 a2 a3 s)) (hdp : 7 ≤ d) (hdw : dW + 1 ≤ d) (hM : TM s h) (hv3 : g32 v3) (hv4 : g32 v4) (ht0 : g32 t0) : GG (fun p : gMem => (.inl none, p)) gTw ω l d mu_tw_workEnd σ0 156 [(0, vR h), (3, vI v3), (4, vI v4)] [vI t0] s (tw_workEnd_j156 N W h v3 v4 t0 s) := by
  unfold tw_workEnd_j156
  refine x_istore (μ := mu_tw_workEnd) (pc := 156) (lv' := [(5, vI t0), (0, vR h), (3, vI v3), (4, vI v4)]) dX11_workEnd_156 (by decide) rfl ?_
  refine x_iconst (μ := mu_tw_workEnd) (pc := 158) dX11_workEnd_158 ?_
  refine x_istore (μ := mu_tw_workEnd) (pc := 159) (lv' := [(6, vI 0), (5, vI t0), (0, vR h), (3, vI v3), (4, vI v4)]) dX11_workEnd_159 (by decide) rfl ?_
  refine x_loc (lv' := [(0, vR h), (3, vI v3), (4, vI v4), (5, vI t0), (6, vI 0)]) [2, 3, 4, 1, 0] rfl ?_
  refine okl_tw_workEnd_l161 hW hdp hdw hv3 hv4 ht0 (fun s34 hM35 => ?_) N 0 s (by decide) hM
  refine x_aload_n (μ := mu_tw_workEnd) (pc := 201) 0 dX11_workEnd_201 rfl ?_
  refine x_fgrE (μ := mu_tw_workEnd) (pc := 202) fX11_68 (Or.inr ⟨_, rfl⟩) q2704 (hM35.a68).1 dX11_workEnd_202 hM35.1 ?_
  refine x_iload_n (μ := mu_tw_workEnd) (pc := 205) 1 dX11_workEnd_205 rfl ?_
  refine x_iload (μ := mu_tw_workEnd) (pc := 206) 2 dX11_workEnd_206 rfl ?_
  refine x_iast (μ := mu_tw_workEnd) (pc := 208) dX11_workEnd_208 (hM35.a68).2.1 (hM35.a68).2.2 (fun _ _ q => gTw_wI q) ?_
  refine x_let (fun s36 e37 => ?_)
  have hM38 := TM.eI e37 hM35
  exact x_vret (μ := mu_tw_workEnd) (pc := 209) (a1 := s36) dX11_workEnd_209 rfl rfl (gRel_Tw.1 _) trivial
def tw_workEnd_j130 (N : Nat) (W : Int → Int → Int → gMem → Option gMem) (h : Nat) (v1 : Int) (v3 : Int) (t0 : Int) (s : gMem) : Option gMem := if 0 ≤ v1 ∧ v1 < ((60420 : Nat) : Int) then if mI s (h + 14) v1.toNat ≠ 43 then if 0 ≤ v3 ∧ v3 < ((200 : Nat) : Int) then tw_workEnd_j156 N W h v3 t0 (w32 ((mI s (h + 35) v3.toNat) - t0)) s else none else tw_workEnd_j156 N W h v3 t0 0 s else none
set_option maxRecDepth 100000 in
theorem okj_tw_workEnd_j130 {ω : gW} {l : Launch} {d : Nat} {N : Nat} {W : Int → Int → Int → gMem → Option gMem} {dW : Nat} {h : Nat} {σ0 : gMem} {s : gMem} {v1 : Int} {v3 : Int} {t0 : Int} (hW : ∀ (a1 : Int) (a2 : Int) (a3 : Int) (s : gMem), TM s h → g32 a1 → g32 a2 → g32 a3 → gK (fun p : gMem => (.inl none, p)) gTw ω l dW mu_tw_work [vR h, vI a1, vI a2, vI a3] s (W a1 a2 a3 s)) (hdp : 7 ≤ d) (hdw : dW + 1 ≤ d) (hM : TM s h) (hv1 : g32 v1) (hv3 : g32 v3) (ht0 : g32 t0) : GG (fun p : gMem => (.inl none, p)) gTw ω l d mu_tw_workEnd σ0 130 [(0, vR h), (1, vI v1), (3, vI v3)] [vI t0] s (tw_workEnd_j130 N W h v1 v3 t0 s) := by
  unfold tw_workEnd_j130
  refine x_istore (μ := mu_tw_workEnd) (pc := 130) (lv' := [(4, vI t0), (0, vR h), (1, vI v1), (3, vI v3)]) dX11_workEnd_130 (by decide) rfl ?_
  refine x_aload_n (μ := mu_tw_workEnd) (pc := 132) 1 dX11_workEnd_132 rfl ?_
  refine x_fgrE (μ := mu_tw_workEnd) (pc := 133) fX11_26 (Or.inr ⟨_, rfl⟩) q2662 (hM.a26).1 dX11_workEnd_133 hM.1 ?_
  refine x_iload_n (μ := mu_tw_workEnd) (pc := 136) 2 dX11_workEnd_136 rfl ?_
  refine x_iald (μ := mu_tw_workEnd) (pc := 137) dX11_workEnd_137 (hM.a26).2.1 (hM.a26).2.2 (fun hr27 => ?_)
  refine x_bipush (μ := mu_tw_workEnd) (pc := 138) dX11_workEnd_138 (by decide) ?_
  refine x_icmp_ne (μ := mu_tw_workEnd) (pc := 140) (tgt := 147) dX11_workEnd_140 rfl hr27 (by decide) ?_ ?_
  · refine x_aload_n (μ := mu_tw_workEnd) (pc := 147) 1 dX11_workEnd_147 rfl ?_
    refine x_fgrE (μ := mu_tw_workEnd) (pc := 148) fX11_68 (Or.inr ⟨_, rfl⟩) q2704 (hM.a68).1 dX11_workEnd_148 hM.1 ?_
    refine x_iload_n (μ := mu_tw_workEnd) (pc := 151) 3 dX11_workEnd_151 rfl ?_
    refine x_iald (μ := mu_tw_workEnd) (pc := 152) dX11_workEnd_152 (hM.a68).2.1 (hM.a68).2.2 (fun hr28 => ?_)
    refine x_iload (μ := mu_tw_workEnd) (pc := 153) 0 dX11_workEnd_153 rfl ?_
    refine x_isub (μ := mu_tw_workEnd) (pc := 155) dX11_workEnd_155 ?_
    refine x_w1 ?_
    refine x_loc (lv' := [(0, vR h), (3, vI v3), (4, vI t0)]) [1, 3, 0] rfl ?_
    exact okj_tw_workEnd_j156 hW hdp hdw hM hv3 ht0 (w32_rng _)
  · refine x_iconst (μ := mu_tw_workEnd) (pc := 143) dX11_workEnd_143 ?_
    refine x_goto (μ := mu_tw_workEnd) (pc := 144) (tgt := 156) dX11_workEnd_144 rfl ?_
    refine x_loc (lv' := [(0, vR h), (3, vI v3), (4, vI t0)]) [1, 3, 0] rfl ?_
    exact okj_tw_workEnd_j156 hW hdp hdw hM hv3 ht0 (by decide)
def tw_workEnd (N : Nat) (W : Int → Int → Int → gMem → Option gMem) (h : Nat) (v1 : Int) (v2 : Int) (v3 : Int) (σ : gMem) : Option gMem := (tw_under N h v1 0 σ).bind (fun x1 => (W x1 v2 v3 σ).bind (fun x3 => if 0 ≤ v3 ∧ v3 < ((200 : Nat) : Int) then if mI x3 (h + 33) v3.toNat ≠ 4 then (tw_under N h v1 1 x3).bind (fun x7 => (W x7 v2 (w32 (v3 + 1)) x3).bind (fun x9 => if 0 ≤ (v3 + 1) ∧ (v3 + 1) < ((200 : Nat) : Int) then if mI x9 (h + 33) (v3 + 1).toNat ≠ 4 then (tw_wantsText N h v3 x9).bind (fun x13 => (tw_wantsNumber h (w32 (v3 + 1)) x13).bind (fun x16 => if x16.1 = 0 then (tw_error h v3 3 (x16.2)).bind (fun x20 => some x20) else if 0 ≤ (v3 + 1) ∧ (v3 + 1) < ((200 : Nat) : Int) then if 0 ≤ gcmp (mL (x16.2) (h + 34) (v3 + 1).toNat) (((0 : Fin 2) : Nat) : Int) then if 0 ≤ (v3 + 1) ∧ (v3 + 1) < ((200 : Nat) : Int) then if 0 ≤ v3 ∧ v3 < ((200 : Nat) : Int) then if gcmp (mL (x16.2) (h + 34) (v3 + 1).toNat) (mI (x16.2) (h + 35) v3.toNat) ≤ 0 then if 0 ≤ (v3 + 1) ∧ (v3 + 1) < ((200 : Nat) : Int) then tw_workEnd_j130 N W h v1 v3 (w32 (mL (x16.2) (h + 34) (v3 + 1).toNat)) (x16.2) else none else if 0 ≤ v3 ∧ v3 < ((200 : Nat) : Int) then tw_workEnd_j130 N W h v1 v3 (mI (x16.2) (h + 35) v3.toNat) (x16.2) else none else none else none else (tw_error h v3 3 (x16.2)).bind (fun x40 => some x40) else none)) else (tw_bring N h (w32 (v3 + 1)) v3 x9).bind (fun x43 => some x43) else none)) else some x3 else none))
set_option maxRecDepth 100000 in
theorem ok_tw_workEnd {ω : gW} {l : Launch} {d : Nat} {N : Nat} {W : Int → Int → Int → gMem → Option gMem} {dW : Nat} {h : Nat} {σ : gMem} {v1 : Int} {v2 : Int} {v3 : Int} (hW : ∀ (a1 : Int) (a2 : Int) (a3 : Int) (s : gMem), TM s h → g32 a1 → g32 a2 → g32 a3 → gK (fun p : gMem => (.inl none, p)) gTw ω l dW mu_tw_work [vR h, vI a1, vI a2, vI a3] s (W a1 a2 a3 s)) (hdp : 7 ≤ d) (hdw : dW + 1 ≤ d) (hM : TM σ h) (hv1 : g32 v1) (hv2 : g32 v2) (hv3 : g32 v3) : gK (fun p : gMem => (.inl none, p)) gTw ω l d mu_tw_workEnd [vR h, vI v1, vI v2, vI v3] σ (tw_workEnd N W h v1 v2 v3 σ) := by
  refine gK.of hp_X11 (Nat.le_of_ble_eq_true rfl) ?_
  unfold tw_workEnd
  refine x_aload_n (μ := mu_tw_workEnd) (pc := 0) 0 dX11_workEnd_0 rfl ?_
  refine x_aload_n (μ := mu_tw_workEnd) (pc := 1) 0 dX11_workEnd_1 rfl ?_
  refine x_iload_n (μ := mu_tw_workEnd) (pc := 2) 1 dX11_workEnd_2 rfl ?_
  refine x_iconst (μ := mu_tw_workEnd) (pc := 3) dX11_workEnd_3 ?_
  refine x_callV_pi (μ := mu_tw_workEnd) (pc := 4) (ok_tw_under (ω := ω) (l := l) (d := d - 1) (by omega) hM hv1 (by decide)) gRel_Tw gRel_Tw (fun _ q => q) q3338 q3340 qs149 q232 q3341 dX11_workEnd_4 rfl hM.1 hy_tw_under (by omega) (Nat.le_of_ble_eq_true rfl) rfl (Nat.le_of_ble_eq_true rfl) (fun x1 hr2 => ?_)
  refine x_iload_n (μ := mu_tw_workEnd) (pc := 7) 2 dX11_workEnd_7 rfl ?_
  refine x_iload_n (μ := mu_tw_workEnd) (pc := 8) 3 dX11_workEnd_8 rfl ?_
  refine x_callV_mv (μ := mu_tw_workEnd) (pc := 9) (hW x1 v2 v3 σ hM hr2 hv2 hv3) gRel_Tw gRel_Tw (fun _ q => q) q3311 q3313 qs143 q232 q3314 dX11_workEnd_9 rfl hM.1 hy_tw_work (by omega) (Nat.le_of_ble_eq_true rfl) rfl (Nat.le_of_ble_eq_true rfl) (fun x3 k4 => ?_)
  have hM5 : TM x3 h := hM.tw k4
  refine x_aload_n (μ := mu_tw_workEnd) (pc := 12) 0 dX11_workEnd_12 rfl ?_
  refine x_fgrE (μ := mu_tw_workEnd) (pc := 13) fX11_66 (Or.inr ⟨_, rfl⟩) q2702 (hM5.a66).1 dX11_workEnd_13 hM5.1 ?_
  refine x_iload_n (μ := mu_tw_workEnd) (pc := 16) 3 dX11_workEnd_16 rfl ?_
  refine x_iald (μ := mu_tw_workEnd) (pc := 17) dX11_workEnd_17 (hM5.a66).2.1 (hM5.a66).2.2 (fun hr6 => ?_)
  refine x_iconst (μ := mu_tw_workEnd) (pc := 18) dX11_workEnd_18 ?_
  refine x_icmp_ne (μ := mu_tw_workEnd) (pc := 19) (tgt := 23) dX11_workEnd_19 rfl hr6 (by decide) ?_ ?_
  · refine x_aload_n (μ := mu_tw_workEnd) (pc := 23) 0 dX11_workEnd_23 rfl ?_
    refine x_aload_n (μ := mu_tw_workEnd) (pc := 24) 0 dX11_workEnd_24 rfl ?_
    refine x_iload_n (μ := mu_tw_workEnd) (pc := 25) 1 dX11_workEnd_25 rfl ?_
    refine x_iconst (μ := mu_tw_workEnd) (pc := 26) dX11_workEnd_26 ?_
    refine x_callV_pi (μ := mu_tw_workEnd) (pc := 27) (ok_tw_under (ω := ω) (l := l) (d := d - 1) (by omega) hM5 hv1 (by decide)) gRel_Tw gRel_Tw (fun _ q => q) q3338 q3340 qs149 q232 q3341 dX11_workEnd_27 rfl hM5.1 hy_tw_under (by omega) (Nat.le_of_ble_eq_true rfl) rfl (Nat.le_of_ble_eq_true rfl) (fun x7 hr8 => ?_)
    refine x_iload_n (μ := mu_tw_workEnd) (pc := 30) 2 dX11_workEnd_30 rfl ?_
    refine x_iload_n (μ := mu_tw_workEnd) (pc := 31) 3 dX11_workEnd_31 rfl ?_
    refine x_iconst (μ := mu_tw_workEnd) (pc := 32) dX11_workEnd_32 ?_
    refine x_iadd (μ := mu_tw_workEnd) (pc := 33) dX11_workEnd_33 ?_
    refine x_w1 ?_
    refine x_callV_mv (μ := mu_tw_workEnd) (pc := 34) (hW x7 v2 (w32 (v3 + 1)) x3 hM5 hr8 hv2 (w32_rng _)) gRel_Tw gRel_Tw (fun _ q => q) q3311 q3313 qs143 q232 q3314 dX11_workEnd_34 rfl hM5.1 hy_tw_work (by omega) (Nat.le_of_ble_eq_true rfl) rfl (Nat.le_of_ble_eq_true rfl) (fun x9 k10 => ?_)
    have hM11 : TM x9 h := hM5.tw k10
    refine x_aload_n (μ := mu_tw_workEnd) (pc := 37) 0 dX11_workEnd_37 rfl ?_
    refine x_fgrE (μ := mu_tw_workEnd) (pc := 38) fX11_66 (Or.inr ⟨_, rfl⟩) q2702 (hM11.a66).1 dX11_workEnd_38 hM11.1 ?_
    refine x_iload_n (μ := mu_tw_workEnd) (pc := 41) 3 dX11_workEnd_41 rfl ?_
    refine x_iconst (μ := mu_tw_workEnd) (pc := 42) dX11_workEnd_42 ?_
    refine x_iadd (μ := mu_tw_workEnd) (pc := 43) dX11_workEnd_43 ?_
    refine x_iald (μ := mu_tw_workEnd) (pc := 44) dX11_workEnd_44 (hM11.a66).2.1 (hM11.a66).2.2 (fun hr12 => ?_)
    refine x_iconst (μ := mu_tw_workEnd) (pc := 45) dX11_workEnd_45 ?_
    refine x_icmp_ne (μ := mu_tw_workEnd) (pc := 46) (tgt := 58) dX11_workEnd_46 rfl hr12 (by decide) ?_ ?_
    · refine x_aload_n (μ := mu_tw_workEnd) (pc := 58) 0 dX11_workEnd_58 rfl ?_
      refine x_iload_n (μ := mu_tw_workEnd) (pc := 59) 3 dX11_workEnd_59 rfl ?_
      refine x_callV_mv (μ := mu_tw_workEnd) (pc := 60) (ok_tw_wantsText (ω := ω) (l := l) (d := d - 1) (by omega) hM11 hv3) gRel_Tw gRel_Tw (fun _ q => q) q3370 q3372 qs156 q232 q3373 dX11_workEnd_60 rfl hM11.1 hy_tw_wantsText (by omega) (Nat.le_of_ble_eq_true rfl) rfl (Nat.le_of_ble_eq_true rfl) (fun x13 k14 => ?_)
      have hM15 : TM x13 h := hM11.tw k14
      refine x_aload_n (μ := mu_tw_workEnd) (pc := 63) 0 dX11_workEnd_63 rfl ?_
      refine x_iload_n (μ := mu_tw_workEnd) (pc := 64) 3 dX11_workEnd_64 rfl ?_
      refine x_iconst (μ := mu_tw_workEnd) (pc := 65) dX11_workEnd_65 ?_
      refine x_iadd (μ := mu_tw_workEnd) (pc := 66) dX11_workEnd_66 ?_
      refine x_w1 ?_
      refine x_callV_mi (μ := mu_tw_workEnd) (pc := 67) (ok_tw_wantsNumber (ω := ω) (l := l) (d := d - 1) (by omega) hM15 (w32_rng _)) gRel_Tw gRel_Tw (fun _ q => q) q3330 q3332 qs147 q232 q3333 dX11_workEnd_67 rfl hM15.1 hy_tw_wantsNumber (by omega) (Nat.le_of_ble_eq_true rfl) rfl (Nat.le_of_ble_eq_true rfl) (fun x16 k18 hr17 => ?_)
      have hM19 : TM (x16.2) h := hM15.tw k18
      refine x_if_eq (μ := mu_tw_workEnd) (pc := 70) (tgt := 86) dX11_workEnd_70 rfl hr17 ?_ ?_
      · refine x_aload_n (μ := mu_tw_workEnd) (pc := 86) 0 dX11_workEnd_86 rfl ?_
        refine x_iload_n (μ := mu_tw_workEnd) (pc := 87) 3 dX11_workEnd_87 rfl ?_
        refine x_iconst (μ := mu_tw_workEnd) (pc := 88) dX11_workEnd_88 ?_
        refine x_callV_mv (μ := mu_tw_workEnd) (pc := 89) (ok_tw_error (ω := ω) (l := l) (d := d - 1) (by omega) hM19 hv3 (by decide)) gRel_Tw gRel_Tw (fun _ q => q) q3294 q3296 qs139 q232 q3297 dX11_workEnd_89 rfl hM19.1 hy_tw_error (by omega) (Nat.le_of_ble_eq_true rfl) rfl (Nat.le_of_ble_eq_true rfl) (fun x20 k21 => ?_)
        have hM22 : TM x20 h := hM19.tw k21
        exact x_vret (μ := mu_tw_workEnd) (pc := 92) (a1 := x20) dX11_workEnd_92 rfl rfl (gRel_Tw.1 _) trivial
      · refine x_aload_n (μ := mu_tw_workEnd) (pc := 73) 0 dX11_workEnd_73 rfl ?_
        refine x_fgrE (μ := mu_tw_workEnd) (pc := 74) fX11_67 (Or.inr ⟨_, rfl⟩) q2703 (hM19.a67).1 dX11_workEnd_74 hM19.1 ?_
        refine x_iload_n (μ := mu_tw_workEnd) (pc := 77) 3 dX11_workEnd_77 rfl ?_
        refine x_iconst (μ := mu_tw_workEnd) (pc := 78) dX11_workEnd_78 ?_
        refine x_iadd (μ := mu_tw_workEnd) (pc := 79) dX11_workEnd_79 ?_
        refine x_lald (μ := mu_tw_workEnd) (pc := 80) dX11_workEnd_80 (hM19.a67).2.1 (hM19.a67).2.2 (fun hr23 => ?_)
        refine x_lconst (μ := mu_tw_workEnd) (pc := 81) dX11_workEnd_81 ?_
        refine x_lcmp (μ := mu_tw_workEnd) (pc := 82) dX11_workEnd_82 hr23 (by decide) ?_
        refine x_if_ge (μ := mu_tw_workEnd) (pc := 83) (tgt := 93) dX11_workEnd_83 rfl (gcmp_rng _ _) ?_ ?_
        · refine x_aload_n (μ := mu_tw_workEnd) (pc := 93) 0 dX11_workEnd_93 rfl ?_
          refine x_fgrE (μ := mu_tw_workEnd) (pc := 94) fX11_67 (Or.inr ⟨_, rfl⟩) q2703 (hM19.a67).1 dX11_workEnd_94 hM19.1 ?_
          refine x_iload_n (μ := mu_tw_workEnd) (pc := 97) 3 dX11_workEnd_97 rfl ?_
          refine x_iconst (μ := mu_tw_workEnd) (pc := 98) dX11_workEnd_98 ?_
          refine x_iadd (μ := mu_tw_workEnd) (pc := 99) dX11_workEnd_99 ?_
          refine x_lald (μ := mu_tw_workEnd) (pc := 100) dX11_workEnd_100 (hM19.a67).2.1 (hM19.a67).2.2 (fun hr24 => ?_)
          refine x_aload_n (μ := mu_tw_workEnd) (pc := 101) 0 dX11_workEnd_101 rfl ?_
          refine x_fgrE (μ := mu_tw_workEnd) (pc := 102) fX11_68 (Or.inr ⟨_, rfl⟩) q2704 (hM19.a68).1 dX11_workEnd_102 hM19.1 ?_
          refine x_iload_n (μ := mu_tw_workEnd) (pc := 105) 3 dX11_workEnd_105 rfl ?_
          refine x_iald (μ := mu_tw_workEnd) (pc := 106) dX11_workEnd_106 (hM19.a68).2.1 (hM19.a68).2.2 (fun hr25 => ?_)
          refine x_i2l (μ := mu_tw_workEnd) (pc := 107) dX11_workEnd_107 hr25 ?_
          refine x_lcmp (μ := mu_tw_workEnd) (pc := 108) dX11_workEnd_108 hr24 (g32_64 hr25) ?_
          refine x_if_le (μ := mu_tw_workEnd) (pc := 109) (tgt := 121) dX11_workEnd_109 rfl (gcmp_rng _ _) ?_ ?_
          · refine x_aload_n (μ := mu_tw_workEnd) (pc := 121) 0 dX11_workEnd_121 rfl ?_
            refine x_fgrE (μ := mu_tw_workEnd) (pc := 122) fX11_67 (Or.inr ⟨_, rfl⟩) q2703 (hM19.a67).1 dX11_workEnd_122 hM19.1 ?_
            refine x_iload_n (μ := mu_tw_workEnd) (pc := 125) 3 dX11_workEnd_125 rfl ?_
            refine x_iconst (μ := mu_tw_workEnd) (pc := 126) dX11_workEnd_126 ?_
            refine x_iadd (μ := mu_tw_workEnd) (pc := 127) dX11_workEnd_127 ?_
            refine x_lald (μ := mu_tw_workEnd) (pc := 128) dX11_workEnd_128 (hM19.a67).2.1 (hM19.a67).2.2 (fun hr26 => ?_)
            refine x_l2i (μ := mu_tw_workEnd) (pc := 129) dX11_workEnd_129 ?_
            refine x_w1 ?_
            refine x_loc (lv' := [(0, vR h), (1, vI v1), (3, vI v3)]) [0, 1, 3] rfl ?_
            exact okj_tw_workEnd_j130 hW hdp hdw hM19 hv1 hv3 (w32_rng _)
          · refine x_aload_n (μ := mu_tw_workEnd) (pc := 112) 0 dX11_workEnd_112 rfl ?_
            refine x_fgrE (μ := mu_tw_workEnd) (pc := 113) fX11_68 (Or.inr ⟨_, rfl⟩) q2704 (hM19.a68).1 dX11_workEnd_113 hM19.1 ?_
            refine x_iload_n (μ := mu_tw_workEnd) (pc := 116) 3 dX11_workEnd_116 rfl ?_
            refine x_iald (μ := mu_tw_workEnd) (pc := 117) dX11_workEnd_117 (hM19.a68).2.1 (hM19.a68).2.2 (fun hr39 => ?_)
            refine x_goto (μ := mu_tw_workEnd) (pc := 118) (tgt := 130) dX11_workEnd_118 rfl ?_
            refine x_loc (lv' := [(0, vR h), (1, vI v1), (3, vI v3)]) [0, 1, 3] rfl ?_
            exact okj_tw_workEnd_j130 hW hdp hdw hM19 hv1 hv3 hr39
        · refine x_aload_n (μ := mu_tw_workEnd) (pc := 86) 0 dX11_workEnd_86 rfl ?_
          refine x_iload_n (μ := mu_tw_workEnd) (pc := 87) 3 dX11_workEnd_87 rfl ?_
          refine x_iconst (μ := mu_tw_workEnd) (pc := 88) dX11_workEnd_88 ?_
          refine x_callV_mv (μ := mu_tw_workEnd) (pc := 89) (ok_tw_error (ω := ω) (l := l) (d := d - 1) (by omega) hM19 hv3 (by decide)) gRel_Tw gRel_Tw (fun _ q => q) q3294 q3296 qs139 q232 q3297 dX11_workEnd_89 rfl hM19.1 hy_tw_error (by omega) (Nat.le_of_ble_eq_true rfl) rfl (Nat.le_of_ble_eq_true rfl) (fun x40 k41 => ?_)
          have hM42 : TM x40 h := hM19.tw k41
          exact x_vret (μ := mu_tw_workEnd) (pc := 92) (a1 := x40) dX11_workEnd_92 rfl rfl (gRel_Tw.1 _) trivial
    · refine x_aload_n (μ := mu_tw_workEnd) (pc := 49) 0 dX11_workEnd_49 rfl ?_
      refine x_iload_n (μ := mu_tw_workEnd) (pc := 50) 3 dX11_workEnd_50 rfl ?_
      refine x_iconst (μ := mu_tw_workEnd) (pc := 51) dX11_workEnd_51 ?_
      refine x_iadd (μ := mu_tw_workEnd) (pc := 52) dX11_workEnd_52 ?_
      refine x_iload_n (μ := mu_tw_workEnd) (pc := 53) 3 dX11_workEnd_53 rfl ?_
      refine x_w2 ?_
      refine x_callV_mv (μ := mu_tw_workEnd) (pc := 54) (ok_tw_bring (ω := ω) (l := l) (d := d - 1) (by omega) hM11 (w32_rng _) hv3) gRel_Tw gRel_Tw (fun _ q => q) q3342 q3344 qs150 q232 q3345 dX11_workEnd_54 rfl hM11.1 hy_tw_bring (by omega) (Nat.le_of_ble_eq_true rfl) rfl (Nat.le_of_ble_eq_true rfl) (fun x43 k44 => ?_)
      have hM45 : TM x43 h := hM11.tw k44
      exact x_vret (μ := mu_tw_workEnd) (pc := 57) (a1 := x43) dX11_workEnd_57 rfl rfl (gRel_Tw.1 _) trivial
  · exact x_vret (μ := mu_tw_workEnd) (pc := 22) (a1 := x3) dX11_workEnd_22 rfl rfl (gRel_Tw.1 _) trivial
def tw_isLike (N : Nat) (h : Nat) (v1 : Int) (v2 : Int) (σ : gMem) : Option (Int × gMem) := (tw_load N h (w32 (v1 + 1)) v2 σ).bind (fun x1 => if 0 ≤ (v1 + 1) ∧ (v1 + 1) < ((200 : Nat) : Int) then if mI x1 (h + 33) (v1 + 1).toNat ≠ 4 then (tw_bring N h v1 (w32 (v1 + 2)) x1).bind (fun x5 => (tw_asOther N h (w32 (v1 + 1)) (w32 (v1 + 2)) x5).bind (fun x8 => (tw_asOther N h (w32 (v1 + 2)) (w32 (v1 + 1)) x8).bind (fun x11 => if 0 ≤ (v1 + 1) ∧ (v1 + 1) < ((200 : Nat) : Int) then if 0 ≤ (v1 + 2) ∧ (v1 + 2) < ((200 : Nat) : Int) then if mI x11 (h + 33) (v1 + 1).toNat ≠ mI x11 (h + 33) (v1 + 2).toNat then some (0, x11) else (tw_order N h (w32 (v1 + 1)) (w32 (v1 + 2)) x11).bind (fun x16 => if x16 ≠ 0 then some (0, x11) else some (1, x11)) else none else none))) else some (0, x1) else none)
set_option maxRecDepth 100000 in
theorem ok_tw_isLike {ω : gW} {l : Launch} {d : Nat} {N : Nat} {h : Nat} {σ : gMem} {v1 : Int} {v2 : Int} (hdp : 7 ≤ d) (hM : TM σ h) (hv1 : g32 v1) (hv2 : g32 v2) : gK (fun p : Int × gMem => (.inl (some (vI p.1)), p.2)) gTw ω l d mu_tw_isLike [vR h, vI v1, vI v2] σ (tw_isLike N h v1 v2 σ) := by
  refine gK.of hp_X11 (Nat.le_of_ble_eq_true rfl) ?_
  unfold tw_isLike
  refine x_aload_n (μ := mu_tw_isLike) (pc := 0) 0 dX11_isLike_0 rfl ?_
  refine x_iload_n (μ := mu_tw_isLike) (pc := 1) 1 dX11_isLike_1 rfl ?_
  refine x_iconst (μ := mu_tw_isLike) (pc := 2) dX11_isLike_2 ?_
  refine x_iadd (μ := mu_tw_isLike) (pc := 3) dX11_isLike_3 ?_
  refine x_iload_n (μ := mu_tw_isLike) (pc := 4) 2 dX11_isLike_4 rfl ?_
  refine x_w2 ?_
  refine x_callV_mv (μ := mu_tw_isLike) (pc := 5) (ok_tw_load (ω := ω) (l := l) (d := d - 1) (by omega) hM (w32_rng _) hv2) gRel_Tw gRel_Tw (fun _ q => q) q3326 q3328 qs146 q232 q3329 dX11_isLike_5 rfl hM.1 hy_tw_load (by omega) (Nat.le_of_ble_eq_true rfl) rfl (Nat.le_of_ble_eq_true rfl) (fun x1 k2 => ?_)
  have hM3 : TM x1 h := hM.tw k2
  refine x_aload_n (μ := mu_tw_isLike) (pc := 8) 0 dX11_isLike_8 rfl ?_
  refine x_fgrE (μ := mu_tw_isLike) (pc := 9) fX11_66 (Or.inr ⟨_, rfl⟩) q2702 (hM3.a66).1 dX11_isLike_9 hM3.1 ?_
  refine x_iload_n (μ := mu_tw_isLike) (pc := 12) 1 dX11_isLike_12 rfl ?_
  refine x_iconst (μ := mu_tw_isLike) (pc := 13) dX11_isLike_13 ?_
  refine x_iadd (μ := mu_tw_isLike) (pc := 14) dX11_isLike_14 ?_
  refine x_iald (μ := mu_tw_isLike) (pc := 15) dX11_isLike_15 (hM3.a66).2.1 (hM3.a66).2.2 (fun hr4 => ?_)
  refine x_iconst (μ := mu_tw_isLike) (pc := 16) dX11_isLike_16 ?_
  refine x_icmp_ne (μ := mu_tw_isLike) (pc := 17) (tgt := 22) dX11_isLike_17 rfl hr4 (by decide) ?_ ?_
  · refine x_aload_n (μ := mu_tw_isLike) (pc := 22) 0 dX11_isLike_22 rfl ?_
    refine x_iload_n (μ := mu_tw_isLike) (pc := 23) 1 dX11_isLike_23 rfl ?_
    refine x_iload_n (μ := mu_tw_isLike) (pc := 24) 1 dX11_isLike_24 rfl ?_
    refine x_iconst (μ := mu_tw_isLike) (pc := 25) dX11_isLike_25 ?_
    refine x_iadd (μ := mu_tw_isLike) (pc := 26) dX11_isLike_26 ?_
    refine x_w1 ?_
    refine x_callV_mv (μ := mu_tw_isLike) (pc := 27) (ok_tw_bring (ω := ω) (l := l) (d := d - 1) (by omega) hM3 hv1 (w32_rng _)) gRel_Tw gRel_Tw (fun _ q => q) q3342 q3344 qs150 q232 q3345 dX11_isLike_27 rfl hM3.1 hy_tw_bring (by omega) (Nat.le_of_ble_eq_true rfl) rfl (Nat.le_of_ble_eq_true rfl) (fun x5 k6 => ?_)
    have hM7 : TM x5 h := hM3.tw k6
    refine x_aload_n (μ := mu_tw_isLike) (pc := 30) 0 dX11_isLike_30 rfl ?_
    refine x_iload_n (μ := mu_tw_isLike) (pc := 31) 1 dX11_isLike_31 rfl ?_
    refine x_iconst (μ := mu_tw_isLike) (pc := 32) dX11_isLike_32 ?_
    refine x_iadd (μ := mu_tw_isLike) (pc := 33) dX11_isLike_33 ?_
    refine x_iload_n (μ := mu_tw_isLike) (pc := 34) 1 dX11_isLike_34 rfl ?_
    refine x_iconst (μ := mu_tw_isLike) (pc := 35) dX11_isLike_35 ?_
    refine x_iadd (μ := mu_tw_isLike) (pc := 36) dX11_isLike_36 ?_
    refine x_w1 ?_
    refine x_w2 ?_
    refine x_callV_mv (μ := mu_tw_isLike) (pc := 37) (ok_tw_asOther (ω := ω) (l := l) (d := d - 1) (by omega) hM7 (w32_rng _) (w32_rng _)) gRel_Tw gRel_Tw (fun _ q => q) q3350 q3352 qs152 q232 q3353 dX11_isLike_37 rfl hM7.1 hy_tw_asOther (by omega) (Nat.le_of_ble_eq_true rfl) rfl (Nat.le_of_ble_eq_true rfl) (fun x8 k9 => ?_)
    have hM10 : TM x8 h := hM7.tw k9
    refine x_aload_n (μ := mu_tw_isLike) (pc := 40) 0 dX11_isLike_40 rfl ?_
    refine x_iload_n (μ := mu_tw_isLike) (pc := 41) 1 dX11_isLike_41 rfl ?_
    refine x_iconst (μ := mu_tw_isLike) (pc := 42) dX11_isLike_42 ?_
    refine x_iadd (μ := mu_tw_isLike) (pc := 43) dX11_isLike_43 ?_
    refine x_iload_n (μ := mu_tw_isLike) (pc := 44) 1 dX11_isLike_44 rfl ?_
    refine x_iconst (μ := mu_tw_isLike) (pc := 45) dX11_isLike_45 ?_
    refine x_iadd (μ := mu_tw_isLike) (pc := 46) dX11_isLike_46 ?_
    refine x_w1 ?_
    refine x_w2 ?_
    refine x_callV_mv (μ := mu_tw_isLike) (pc := 47) (ok_tw_asOther (ω := ω) (l := l) (d := d - 1) (by omega) hM10 (w32_rng _) (w32_rng _)) gRel_Tw gRel_Tw (fun _ q => q) q3350 q3352 qs152 q232 q3353 dX11_isLike_47 rfl hM10.1 hy_tw_asOther (by omega) (Nat.le_of_ble_eq_true rfl) rfl (Nat.le_of_ble_eq_true rfl) (fun x11 k12 => ?_)
    have hM13 : TM x11 h := hM10.tw k12
    refine x_aload_n (μ := mu_tw_isLike) (pc := 50) 0 dX11_isLike_50 rfl ?_
    refine x_fgrE (μ := mu_tw_isLike) (pc := 51) fX11_66 (Or.inr ⟨_, rfl⟩) q2702 (hM13.a66).1 dX11_isLike_51 hM13.1 ?_
    refine x_iload_n (μ := mu_tw_isLike) (pc := 54) 1 dX11_isLike_54 rfl ?_
    refine x_iconst (μ := mu_tw_isLike) (pc := 55) dX11_isLike_55 ?_
    refine x_iadd (μ := mu_tw_isLike) (pc := 56) dX11_isLike_56 ?_
    refine x_iald (μ := mu_tw_isLike) (pc := 57) dX11_isLike_57 (hM13.a66).2.1 (hM13.a66).2.2 (fun hr14 => ?_)
    refine x_aload_n (μ := mu_tw_isLike) (pc := 58) 0 dX11_isLike_58 rfl ?_
    refine x_fgrE (μ := mu_tw_isLike) (pc := 59) fX11_66 (Or.inr ⟨_, rfl⟩) q2702 (hM13.a66).1 dX11_isLike_59 hM13.1 ?_
    refine x_iload_n (μ := mu_tw_isLike) (pc := 62) 1 dX11_isLike_62 rfl ?_
    refine x_iconst (μ := mu_tw_isLike) (pc := 63) dX11_isLike_63 ?_
    refine x_iadd (μ := mu_tw_isLike) (pc := 64) dX11_isLike_64 ?_
    refine x_iald (μ := mu_tw_isLike) (pc := 65) dX11_isLike_65 (hM13.a66).2.1 (hM13.a66).2.2 (fun hr15 => ?_)
    refine x_icmp_ne (μ := mu_tw_isLike) (pc := 66) (tgt := 86) dX11_isLike_66 rfl hr14 hr15 ?_ ?_
    · refine x_iconst (μ := mu_tw_isLike) (pc := 86) dX11_isLike_86 ?_
      exact x_zret (μ := mu_tw_isLike) (pc := 87) dX11_isLike_87 rfl (by decide) rfl (gRel_Tw.1 _) (show g32 0 from (by decide))
    · refine x_aload_n (μ := mu_tw_isLike) (pc := 69) 0 dX11_isLike_69 rfl ?_
      refine x_iload_n (μ := mu_tw_isLike) (pc := 70) 1 dX11_isLike_70 rfl ?_
      refine x_iconst (μ := mu_tw_isLike) (pc := 71) dX11_isLike_71 ?_
      refine x_iadd (μ := mu_tw_isLike) (pc := 72) dX11_isLike_72 ?_
      refine x_iload_n (μ := mu_tw_isLike) (pc := 73) 1 dX11_isLike_73 rfl ?_
      refine x_iconst (μ := mu_tw_isLike) (pc := 74) dX11_isLike_74 ?_
      refine x_iadd (μ := mu_tw_isLike) (pc := 75) dX11_isLike_75 ?_
      refine x_w1 ?_
      refine x_w2 ?_
      refine x_callV_pi (μ := mu_tw_isLike) (pc := 76) (ok_tw_order (ω := ω) (l := l) (d := d - 1) (by omega) hM13 (w32_rng _) (w32_rng _)) gRel_Tw gRel_Tw (fun _ q => q) q3359 q3361 qs154 q232 q3362 dX11_isLike_76 rfl hM13.1 hy_tw_order (by omega) (Nat.le_of_ble_eq_true rfl) rfl (Nat.le_of_ble_eq_true rfl) (fun x16 hr17 => ?_)
      refine x_if_ne (μ := mu_tw_isLike) (pc := 79) (tgt := 86) dX11_isLike_79 rfl hr17 ?_ ?_
      · refine x_iconst (μ := mu_tw_isLike) (pc := 86) dX11_isLike_86 ?_
        exact x_zret (μ := mu_tw_isLike) (pc := 87) dX11_isLike_87 rfl (by decide) rfl (gRel_Tw.1 _) (show g32 0 from (by decide))
      · refine x_iconst (μ := mu_tw_isLike) (pc := 82) dX11_isLike_82 ?_
        refine x_goto (μ := mu_tw_isLike) (pc := 83) (tgt := 87) dX11_isLike_83 rfl ?_
        exact x_zret (μ := mu_tw_isLike) (pc := 87) dX11_isLike_87 rfl (by decide) rfl (gRel_Tw.1 _) (show g32 1 from (by decide))
  · refine x_iconst (μ := mu_tw_isLike) (pc := 20) dX11_isLike_20 ?_
    exact x_zret (μ := mu_tw_isLike) (pc := 21) dX11_isLike_21 rfl (by decide) rfl (gRel_Tw.1 _) (show g32 0 from (by decide))
def tw_putPlace_j168 (N : Nat) (h : Nat) (v1 : Int) (s : gMem) : Option gMem := if 0 ≤ v1 ∧ v1 < ((60420 : Nat) : Int) then if mI s (h + 25) v1.toNat < 0 then some s else (tw_put h 64 s).bind (fun x24 => if 0 ≤ v1 ∧ v1 < ((60420 : Nat) : Int) then (tw_putNumber N h (mI x24 (h + 25) v1.toNat) x24).bind (fun x28 => some x28) else none) else none
set_option maxRecDepth 100000 in
theorem okj_tw_putPlace_j168 {ω : gW} {l : Launch} {d : Nat} {N : Nat} {h : Nat} {σ0 : gMem} {s : gMem} {v1 : Int} (hdp : 6 ≤ d) (hM : TM s h) (hv1 : g32 v1) : GG (fun p : gMem => (.inl none, p)) gTw ω l d mu_tw_putPlace σ0 168 [(0, vR h), (1, vI v1)] [] s (tw_putPlace_j168 N h v1 s) := by
  unfold tw_putPlace_j168
  refine x_aload_n (μ := mu_tw_putPlace) (pc := 168) 0 dX11_putPlace_168 rfl ?_
  refine x_fgrE (μ := mu_tw_putPlace) (pc := 169) fX11_37 (Or.inr ⟨_, rfl⟩) q2673 (hM.a37).1 dX11_putPlace_169 hM.1 ?_
  refine x_iload_n (μ := mu_tw_putPlace) (pc := 172) 1 dX11_putPlace_172 rfl ?_
  refine x_iald (μ := mu_tw_putPlace) (pc := 173) dX11_putPlace_173 (hM.a37).2.1 (hM.a37).2.2 (fun hr23 => ?_)
  refine x_if_lt (μ := mu_tw_putPlace) (pc := 174) (tgt := 194) dX11_putPlace_174 rfl hr23 ?_ ?_
  · exact x_vret (μ := mu_tw_putPlace) (pc := 194) (a1 := s) dX11_putPlace_194 rfl rfl (gRel_Tw.1 _) trivial
  · refine x_aload_n (μ := mu_tw_putPlace) (pc := 177) 0 dX11_putPlace_177 rfl ?_
    refine x_bipush (μ := mu_tw_putPlace) (pc := 178) dX11_putPlace_178 (by decide) ?_
    refine x_callV_mv (μ := mu_tw_putPlace) (pc := 180) (ok_tw_put (ω := ω) (l := l) (d := d - 1) (by omega) hM (by decide)) gRel_Tw gRel_Tw (fun _ q => q) q3461 q3463 qs175 q232 q3464 dX11_putPlace_180 rfl hM.1 hy_tw_put (by omega) (Nat.le_of_ble_eq_true rfl) rfl (Nat.le_of_ble_eq_true rfl) (fun x24 k25 => ?_)
    have hM26 : TM x24 h := hM.tw k25
    refine x_aload_n (μ := mu_tw_putPlace) (pc := 183) 0 dX11_putPlace_183 rfl ?_
    refine x_aload_n (μ := mu_tw_putPlace) (pc := 184) 0 dX11_putPlace_184 rfl ?_
    refine x_fgrE (μ := mu_tw_putPlace) (pc := 185) fX11_37 (Or.inr ⟨_, rfl⟩) q2673 (hM26.a37).1 dX11_putPlace_185 hM26.1 ?_
    refine x_iload_n (μ := mu_tw_putPlace) (pc := 188) 1 dX11_putPlace_188 rfl ?_
    refine x_iald (μ := mu_tw_putPlace) (pc := 189) dX11_putPlace_189 (hM26.a37).2.1 (hM26.a37).2.2 (fun hr27 => ?_)
    refine x_i2l (μ := mu_tw_putPlace) (pc := 190) dX11_putPlace_190 hr27 ?_
    refine x_callV_mv (μ := mu_tw_putPlace) (pc := 191) (ok_tw_putNumber (ω := ω) (l := l) (d := d - 1) (by omega) hM26 (g32_64 hr27)) gRel_Tw gRel_Tw (fun _ q => q) q3472 q3474 qs177 q232 q3475 dX11_putPlace_191 rfl hM26.1 hy_tw_putNumber (by omega) (Nat.le_of_ble_eq_true rfl) rfl (Nat.le_of_ble_eq_true rfl) (fun x28 k29 => ?_)
    have hM30 : TM x28 h := hM26.tw k29
    exact x_vret (μ := mu_tw_putPlace) (pc := 194) (a1 := x28) dX11_putPlace_194 rfl rfl (gRel_Tw.1 _) trivial
def tw_putPlace_j97 (N : Nat) (h : Nat) (v1 : Int) (v4 : Int) (v5 : Int) (v6 : Int) (v7 : Int) (t0 : Int) (s : gMem) : Option gMem := if v5 < 0 then (tw_say N h (mR s 0 100) s).bind (fun x10 => some x10) else if v6 < 0 then (tw_say N h (mR s 0 100) s).bind (fun x13 => some x13) else if v7 < 0 then (tw_say N h (mR s 0 100) s).bind (fun x16 => some x16) else if 0 ≤ t0 then if 0 ≤ v1 ∧ v1 < ((60420 : Nat) : Int) then (tw_putCorner N h v5 v6 (mI s (h + 24) v1.toNat) s).bind (fun x20 => if v4 = 0 then tw_putPlace_j168 N h v1  x20 else (tw_put h 58 x20).bind (fun x31 => if 0 ≤ v1 ∧ v1 < ((60420 : Nat) : Int) then (tw_putCorner N h v7 t0 (bShr (mI x31 (h + 24) v1.toNat) 2) x31).bind (fun x35 => tw_putPlace_j168 N h v1  x35) else none)) else none else (tw_say N h (mR s 0 100) s).bind (fun x38 => some x38)
set_option maxRecDepth 100000 in
theorem okj_tw_putPlace_j97 {ω : gW} {l : Launch} {d : Nat} {N : Nat} {h : Nat} {σ0 : gMem} {s : gMem} {v1 : Int} {v4 : Int} {v5 : Int} {v6 : Int} {v7 : Int} {t0 : Int} (hdp : 6 ≤ d) (hM : TM s h) (hv1 : g32 v1) (hv4 : g32 v4) (hv5 : g32 v5) (hv6 : g32 v6) (hv7 : g32 v7) (ht0 : g32 t0) : GG (fun p : gMem => (.inl none, p)) gTw ω l d mu_tw_putPlace σ0 97 [(0, vR h), (1, vI v1), (4, vI v4), (5, vI v5), (6, vI v6), (7, vI v7)] [vI t0] s (tw_putPlace_j97 N h v1 v4 v5 v6 v7 t0 s) := by
  unfold tw_putPlace_j97
  refine x_istore (μ := mu_tw_putPlace) (pc := 97) (lv' := [(8, vI t0), (0, vR h), (1, vI v1), (4, vI v4), (5, vI v5), (6, vI v6), (7, vI v7)]) dX11_putPlace_97 (by decide) rfl ?_
  refine x_iload (μ := mu_tw_putPlace) (pc := 99) 4 dX11_putPlace_99 rfl ?_
  refine x_if_lt (μ := mu_tw_putPlace) (pc := 101) (tgt := 119) dX11_putPlace_101 rfl hv5 ?_ ?_
  · refine x_aload_n (μ := mu_tw_putPlace) (pc := 119) 1 dX11_putPlace_119 rfl ?_
    refine x_ldcwS (μ := mu_tw_putPlace) (pc := 120) (j := 100) (List.mem_of_getElem? (i := 4) rfl) dX11_putPlace_120 ?_
    refine x_callV_mv (μ := mu_tw_putPlace) (pc := 123) (ok_tw_say (ω := ω) (l := l) (d := d - 1) (by omega) hM ) gRel_Tw gRel_Tw (fun _ q => q) q3480 q3482 qs179 q232 q3483 dX11_putPlace_123 rfl hM.1 hy_tw_say (by omega) (Nat.le_of_ble_eq_true rfl) rfl (Nat.le_of_ble_eq_true rfl) (fun x10 k11 => ?_)
    have hM12 : TM x10 h := hM.tw k11
    exact x_vret (μ := mu_tw_putPlace) (pc := 126) (a1 := x10) dX11_putPlace_126 rfl rfl (gRel_Tw.1 _) trivial
  · refine x_iload (μ := mu_tw_putPlace) (pc := 104) 5 dX11_putPlace_104 rfl ?_
    refine x_if_lt (μ := mu_tw_putPlace) (pc := 106) (tgt := 119) dX11_putPlace_106 rfl hv6 ?_ ?_
    · refine x_aload_n (μ := mu_tw_putPlace) (pc := 119) 1 dX11_putPlace_119 rfl ?_
      refine x_ldcwS (μ := mu_tw_putPlace) (pc := 120) (j := 100) (List.mem_of_getElem? (i := 4) rfl) dX11_putPlace_120 ?_
      refine x_callV_mv (μ := mu_tw_putPlace) (pc := 123) (ok_tw_say (ω := ω) (l := l) (d := d - 1) (by omega) hM ) gRel_Tw gRel_Tw (fun _ q => q) q3480 q3482 qs179 q232 q3483 dX11_putPlace_123 rfl hM.1 hy_tw_say (by omega) (Nat.le_of_ble_eq_true rfl) rfl (Nat.le_of_ble_eq_true rfl) (fun x13 k14 => ?_)
      have hM15 : TM x13 h := hM.tw k14
      exact x_vret (μ := mu_tw_putPlace) (pc := 126) (a1 := x13) dX11_putPlace_126 rfl rfl (gRel_Tw.1 _) trivial
    · refine x_iload (μ := mu_tw_putPlace) (pc := 109) 6 dX11_putPlace_109 rfl ?_
      refine x_if_lt (μ := mu_tw_putPlace) (pc := 111) (tgt := 119) dX11_putPlace_111 rfl hv7 ?_ ?_
      · refine x_aload_n (μ := mu_tw_putPlace) (pc := 119) 1 dX11_putPlace_119 rfl ?_
        refine x_ldcwS (μ := mu_tw_putPlace) (pc := 120) (j := 100) (List.mem_of_getElem? (i := 4) rfl) dX11_putPlace_120 ?_
        refine x_callV_mv (μ := mu_tw_putPlace) (pc := 123) (ok_tw_say (ω := ω) (l := l) (d := d - 1) (by omega) hM ) gRel_Tw gRel_Tw (fun _ q => q) q3480 q3482 qs179 q232 q3483 dX11_putPlace_123 rfl hM.1 hy_tw_say (by omega) (Nat.le_of_ble_eq_true rfl) rfl (Nat.le_of_ble_eq_true rfl) (fun x16 k17 => ?_)
        have hM18 : TM x16 h := hM.tw k17
        exact x_vret (μ := mu_tw_putPlace) (pc := 126) (a1 := x16) dX11_putPlace_126 rfl rfl (gRel_Tw.1 _) trivial
      · refine x_iload (μ := mu_tw_putPlace) (pc := 114) 0 dX11_putPlace_114 rfl ?_
        refine x_if_ge (μ := mu_tw_putPlace) (pc := 116) (tgt := 127) dX11_putPlace_116 rfl ht0 ?_ ?_
        · refine x_aload_n (μ := mu_tw_putPlace) (pc := 127) 1 dX11_putPlace_127 rfl ?_
          refine x_iload (μ := mu_tw_putPlace) (pc := 128) 4 dX11_putPlace_128 rfl ?_
          refine x_iload (μ := mu_tw_putPlace) (pc := 130) 5 dX11_putPlace_130 rfl ?_
          refine x_aload_n (μ := mu_tw_putPlace) (pc := 132) 1 dX11_putPlace_132 rfl ?_
          refine x_fgrE (μ := mu_tw_putPlace) (pc := 133) fX11_36 (Or.inr ⟨_, rfl⟩) q2672 (hM.a36).1 dX11_putPlace_133 hM.1 ?_
          refine x_iload_n (μ := mu_tw_putPlace) (pc := 136) 2 dX11_putPlace_136 rfl ?_
          refine x_iald (μ := mu_tw_putPlace) (pc := 137) dX11_putPlace_137 (hM.a36).2.1 (hM.a36).2.2 (fun hr19 => ?_)
          refine x_callV_mv (μ := mu_tw_putPlace) (pc := 138) (ok_tw_putCorner (ω := ω) (l := l) (d := d - 1) (by omega) hM hv5 hv6 hr19) gRel_Tw gRel_Tw (fun _ q => q) q3488 q3490 qs181 q232 q3491 dX11_putPlace_138 rfl hM.1 hy_tw_putCorner (by omega) (Nat.le_of_ble_eq_true rfl) rfl (Nat.le_of_ble_eq_true rfl) (fun x20 k21 => ?_)
          have hM22 : TM x20 h := hM.tw k21
          refine x_iload (μ := mu_tw_putPlace) (pc := 141) 3 dX11_putPlace_141 rfl ?_
          refine x_if_eq (μ := mu_tw_putPlace) (pc := 143) (tgt := 168) dX11_putPlace_143 rfl hv4 ?_ ?_
          · refine x_loc (lv' := [(0, vR h), (1, vI v1)]) [1, 2] rfl ?_
            exact okj_tw_putPlace_j168 hdp hM22 hv1
          · refine x_aload_n (μ := mu_tw_putPlace) (pc := 146) 1 dX11_putPlace_146 rfl ?_
            refine x_bipush (μ := mu_tw_putPlace) (pc := 147) dX11_putPlace_147 (by decide) ?_
            refine x_callV_mv (μ := mu_tw_putPlace) (pc := 149) (ok_tw_put (ω := ω) (l := l) (d := d - 1) (by omega) hM22 (by decide)) gRel_Tw gRel_Tw (fun _ q => q) q3461 q3463 qs175 q232 q3464 dX11_putPlace_149 rfl hM22.1 hy_tw_put (by omega) (Nat.le_of_ble_eq_true rfl) rfl (Nat.le_of_ble_eq_true rfl) (fun x31 k32 => ?_)
            have hM33 : TM x31 h := hM22.tw k32
            refine x_aload_n (μ := mu_tw_putPlace) (pc := 152) 1 dX11_putPlace_152 rfl ?_
            refine x_iload (μ := mu_tw_putPlace) (pc := 153) 6 dX11_putPlace_153 rfl ?_
            refine x_iload (μ := mu_tw_putPlace) (pc := 155) 0 dX11_putPlace_155 rfl ?_
            refine x_aload_n (μ := mu_tw_putPlace) (pc := 157) 1 dX11_putPlace_157 rfl ?_
            refine x_fgrE (μ := mu_tw_putPlace) (pc := 158) fX11_36 (Or.inr ⟨_, rfl⟩) q2672 (hM33.a36).1 dX11_putPlace_158 hM33.1 ?_
            refine x_iload_n (μ := mu_tw_putPlace) (pc := 161) 2 dX11_putPlace_161 rfl ?_
            refine x_iald (μ := mu_tw_putPlace) (pc := 162) dX11_putPlace_162 (hM33.a36).2.1 (hM33.a36).2.2 (fun hr34 => ?_)
            refine x_iconst (μ := mu_tw_putPlace) (pc := 163) dX11_putPlace_163 ?_
            refine x_ishr (μ := mu_tw_putPlace) (pc := 164) dX11_putPlace_164 ?_
            refine x_callV_mv (μ := mu_tw_putPlace) (pc := 165) (ok_tw_putCorner (ω := ω) (l := l) (d := d - 1) (by omega) hM33 hv7 ht0 (bShr_rng _ _)) gRel_Tw gRel_Tw (fun _ q => q) q3488 q3490 qs181 q232 q3491 dX11_putPlace_165 rfl hM33.1 hy_tw_putCorner (by omega) (Nat.le_of_ble_eq_true rfl) rfl (Nat.le_of_ble_eq_true rfl) (fun x35 k36 => ?_)
            have hM37 : TM x35 h := hM33.tw k36
            refine x_loc (lv' := [(0, vR h), (1, vI v1)]) [1, 2] rfl ?_
            exact okj_tw_putPlace_j168 hdp hM37 hv1
        · refine x_aload_n (μ := mu_tw_putPlace) (pc := 119) 1 dX11_putPlace_119 rfl ?_
          refine x_ldcwS (μ := mu_tw_putPlace) (pc := 120) (j := 100) (List.mem_of_getElem? (i := 4) rfl) dX11_putPlace_120 ?_
          refine x_callV_mv (μ := mu_tw_putPlace) (pc := 123) (ok_tw_say (ω := ω) (l := l) (d := d - 1) (by omega) hM ) gRel_Tw gRel_Tw (fun _ q => q) q3480 q3482 qs179 q232 q3483 dX11_putPlace_123 rfl hM.1 hy_tw_say (by omega) (Nat.le_of_ble_eq_true rfl) rfl (Nat.le_of_ble_eq_true rfl) (fun x38 k39 => ?_)
          have hM40 : TM x38 h := hM.tw k39
          exact x_vret (μ := mu_tw_putPlace) (pc := 126) (a1 := x38) dX11_putPlace_126 rfl rfl (gRel_Tw.1 _) trivial
def tw_putPlace_j74 (N : Nat) (h : Nat) (v1 : Int) (v3 : Int) (v4 : Int) (v5 : Int) (v6 : Int) (t0 : Int) (s : gMem) : Option gMem := if v4 = 0 then tw_putPlace_j97 N h v1 v4 v5 v6 t0 0 s else if 0 ≤ v1 ∧ v1 < ((60420 : Nat) : Int) then (tw_placeOf N h v3 1 (mI s (h + 23) v1.toNat) s).bind (fun x42 => tw_putPlace_j97 N h v1 v4 v5 v6 t0 x42 s) else none
set_option maxRecDepth 100000 in
theorem okj_tw_putPlace_j74 {ω : gW} {l : Launch} {d : Nat} {N : Nat} {h : Nat} {σ0 : gMem} {s : gMem} {v1 : Int} {v3 : Int} {v4 : Int} {v5 : Int} {v6 : Int} {t0 : Int} (hdp : 6 ≤ d) (hM : TM s h) (hv1 : g32 v1) (hv3 : g32 v3) (hv4 : g32 v4) (hv5 : g32 v5) (hv6 : g32 v6) (ht0 : g32 t0) : GG (fun p : gMem => (.inl none, p)) gTw ω l d mu_tw_putPlace σ0 74 [(0, vR h), (1, vI v1), (3, vI v3), (4, vI v4), (5, vI v5), (6, vI v6)] [vI t0] s (tw_putPlace_j74 N h v1 v3 v4 v5 v6 t0 s) := by
  unfold tw_putPlace_j74
  refine x_istore (μ := mu_tw_putPlace) (pc := 74) (lv' := [(7, vI t0), (0, vR h), (1, vI v1), (3, vI v3), (4, vI v4), (5, vI v5), (6, vI v6)]) dX11_putPlace_74 (by decide) rfl ?_
  refine x_iload (μ := mu_tw_putPlace) (pc := 76) 4 dX11_putPlace_76 rfl ?_
  refine x_if_eq (μ := mu_tw_putPlace) (pc := 78) (tgt := 96) dX11_putPlace_78 rfl hv4 ?_ ?_
  · refine x_iconst (μ := mu_tw_putPlace) (pc := 96) dX11_putPlace_96 ?_
    refine x_loc (lv' := [(0, vR h), (1, vI v1), (4, vI v4), (5, vI v5), (6, vI v6), (7, vI t0)]) [1, 2, 4, 5, 6, 0] rfl ?_
    exact okj_tw_putPlace_j97 hdp hM hv1 hv4 hv5 hv6 ht0 (by decide)
  · refine x_aload_n (μ := mu_tw_putPlace) (pc := 81) 1 dX11_putPlace_81 rfl ?_
    refine x_iload_n (μ := mu_tw_putPlace) (pc := 82) 3 dX11_putPlace_82 rfl ?_
    refine x_iconst (μ := mu_tw_putPlace) (pc := 83) dX11_putPlace_83 ?_
    refine x_aload_n (μ := mu_tw_putPlace) (pc := 84) 1 dX11_putPlace_84 rfl ?_
    refine x_fgrE (μ := mu_tw_putPlace) (pc := 85) fX11_35 (Or.inr ⟨_, rfl⟩) q2671 (hM.a35).1 dX11_putPlace_85 hM.1 ?_
    refine x_iload_n (μ := mu_tw_putPlace) (pc := 88) 2 dX11_putPlace_88 rfl ?_
    refine x_iald (μ := mu_tw_putPlace) (pc := 89) dX11_putPlace_89 (hM.a35).2.1 (hM.a35).2.2 (fun hr41 => ?_)
    refine x_callV_pi (μ := mu_tw_putPlace) (pc := 90) (ok_tw_placeOf (ω := ω) (l := l) (d := d - 1) (by omega) hM hv3 (by decide) hr41) gRel_Tw gRel_Tw (fun _ q => q) q3241 q3243 qs128 q232 q3244 dX11_putPlace_90 rfl hM.1 hy_tw_placeOf (by omega) (Nat.le_of_ble_eq_true rfl) rfl (Nat.le_of_ble_eq_true rfl) (fun x42 hr43 => ?_)
    refine x_goto (μ := mu_tw_putPlace) (pc := 93) (tgt := 97) dX11_putPlace_93 rfl ?_
    refine x_loc (lv' := [(0, vR h), (1, vI v1), (4, vI v4), (5, vI v5), (6, vI v6), (7, vI t0)]) [1, 2, 4, 5, 6, 0] rfl ?_
    exact okj_tw_putPlace_j97 hdp hM hv1 hv4 hv5 hv6 ht0 hr43
def tw_putPlace_j23 (N : Nat) (h : Nat) (v1 : Int) (v3 : Int) (t0 : Int) (s : gMem) : Option gMem := if 0 ≤ v1 ∧ v1 < ((60420 : Nat) : Int) then (tw_placeOf N h v3 0 (mI s (h + 20) v1.toNat) s).bind (fun x5 => if 0 ≤ v1 ∧ v1 < ((60420 : Nat) : Int) then (tw_placeOf N h v3 1 (mI s (h + 21) v1.toNat) s).bind (fun x8 => if t0 = 0 then tw_putPlace_j74 N h v1 v3 t0 x5 x8 0 s else if 0 ≤ v1 ∧ v1 < ((60420 : Nat) : Int) then (tw_placeOf N h v3 0 (mI s (h + 22) v1.toNat) s).bind (fun x45 => tw_putPlace_j74 N h v1 v3 t0 x5 x8 x45 s) else none) else none) else none
set_option maxRecDepth 100000 in
theorem okj_tw_putPlace_j23 {ω : gW} {l : Launch} {d : Nat} {N : Nat} {h : Nat} {σ0 : gMem} {s : gMem} {v1 : Int} {v3 : Int} {t0 : Int} (hdp : 6 ≤ d) (hM : TM s h) (hv1 : g32 v1) (hv3 : g32 v3) (ht0 : g32 t0) : GG (fun p : gMem => (.inl none, p)) gTw ω l d mu_tw_putPlace σ0 23 [(0, vR h), (1, vI v1), (3, vI v3)] [vI t0] s (tw_putPlace_j23 N h v1 v3 t0 s) := by
  unfold tw_putPlace_j23
  refine x_istore (μ := mu_tw_putPlace) (pc := 23) (lv' := [(4, vI t0), (0, vR h), (1, vI v1), (3, vI v3)]) dX11_putPlace_23 (by decide) rfl ?_
  refine x_aload_n (μ := mu_tw_putPlace) (pc := 25) 1 dX11_putPlace_25 rfl ?_
  refine x_iload_n (μ := mu_tw_putPlace) (pc := 26) 3 dX11_putPlace_26 rfl ?_
  refine x_iconst (μ := mu_tw_putPlace) (pc := 27) dX11_putPlace_27 ?_
  refine x_aload_n (μ := mu_tw_putPlace) (pc := 28) 1 dX11_putPlace_28 rfl ?_
  refine x_fgrE (μ := mu_tw_putPlace) (pc := 29) fX11_32 (Or.inr ⟨_, rfl⟩) q2668 (hM.a32).1 dX11_putPlace_29 hM.1 ?_
  refine x_iload_n (μ := mu_tw_putPlace) (pc := 32) 2 dX11_putPlace_32 rfl ?_
  refine x_iald (μ := mu_tw_putPlace) (pc := 33) dX11_putPlace_33 (hM.a32).2.1 (hM.a32).2.2 (fun hr4 => ?_)
  refine x_callV_pi (μ := mu_tw_putPlace) (pc := 34) (ok_tw_placeOf (ω := ω) (l := l) (d := d - 1) (by omega) hM hv3 (by decide) hr4) gRel_Tw gRel_Tw (fun _ q => q) q3241 q3243 qs128 q232 q3244 dX11_putPlace_34 rfl hM.1 hy_tw_placeOf (by omega) (Nat.le_of_ble_eq_true rfl) rfl (Nat.le_of_ble_eq_true rfl) (fun x5 hr6 => ?_)
  refine x_istore (μ := mu_tw_putPlace) (pc := 37) (lv' := [(5, vI x5), (4, vI t0), (0, vR h), (1, vI v1), (3, vI v3)]) dX11_putPlace_37 (by decide) rfl ?_
  refine x_aload_n (μ := mu_tw_putPlace) (pc := 39) 2 dX11_putPlace_39 rfl ?_
  refine x_iload_n (μ := mu_tw_putPlace) (pc := 40) 4 dX11_putPlace_40 rfl ?_
  refine x_iconst (μ := mu_tw_putPlace) (pc := 41) dX11_putPlace_41 ?_
  refine x_aload_n (μ := mu_tw_putPlace) (pc := 42) 2 dX11_putPlace_42 rfl ?_
  refine x_fgrE (μ := mu_tw_putPlace) (pc := 43) fX11_33 (Or.inr ⟨_, rfl⟩) q2669 (hM.a33).1 dX11_putPlace_43 hM.1 ?_
  refine x_iload_n (μ := mu_tw_putPlace) (pc := 46) 3 dX11_putPlace_46 rfl ?_
  refine x_iald (μ := mu_tw_putPlace) (pc := 47) dX11_putPlace_47 (hM.a33).2.1 (hM.a33).2.2 (fun hr7 => ?_)
  refine x_callV_pi (μ := mu_tw_putPlace) (pc := 48) (ok_tw_placeOf (ω := ω) (l := l) (d := d - 1) (by omega) hM hv3 (by decide) hr7) gRel_Tw gRel_Tw (fun _ q => q) q3241 q3243 qs128 q232 q3244 dX11_putPlace_48 rfl hM.1 hy_tw_placeOf (by omega) (Nat.le_of_ble_eq_true rfl) rfl (Nat.le_of_ble_eq_true rfl) (fun x8 hr9 => ?_)
  refine x_istore (μ := mu_tw_putPlace) (pc := 51) (lv' := [(6, vI x8), (5, vI x5), (4, vI t0), (0, vR h), (1, vI v1), (3, vI v3)]) dX11_putPlace_51 (by decide) rfl ?_
  refine x_iload (μ := mu_tw_putPlace) (pc := 53) 2 dX11_putPlace_53 rfl ?_
  refine x_if_eq (μ := mu_tw_putPlace) (pc := 55) (tgt := 73) dX11_putPlace_55 rfl ht0 ?_ ?_
  · refine x_iconst (μ := mu_tw_putPlace) (pc := 73) dX11_putPlace_73 ?_
    refine x_loc (lv' := [(0, vR h), (1, vI v1), (3, vI v3), (4, vI t0), (5, vI x5), (6, vI x8)]) [3, 4, 5, 2, 1, 0] rfl ?_
    exact okj_tw_putPlace_j74 hdp hM hv1 hv3 ht0 hr6 hr9 (by decide)
  · refine x_aload_n (μ := mu_tw_putPlace) (pc := 58) 3 dX11_putPlace_58 rfl ?_
    refine x_iload_n (μ := mu_tw_putPlace) (pc := 59) 5 dX11_putPlace_59 rfl ?_
    refine x_iconst (μ := mu_tw_putPlace) (pc := 60) dX11_putPlace_60 ?_
    refine x_aload_n (μ := mu_tw_putPlace) (pc := 61) 3 dX11_putPlace_61 rfl ?_
    refine x_fgrE (μ := mu_tw_putPlace) (pc := 62) fX11_34 (Or.inr ⟨_, rfl⟩) q2670 (hM.a34).1 dX11_putPlace_62 hM.1 ?_
    refine x_iload_n (μ := mu_tw_putPlace) (pc := 65) 4 dX11_putPlace_65 rfl ?_
    refine x_iald (μ := mu_tw_putPlace) (pc := 66) dX11_putPlace_66 (hM.a34).2.1 (hM.a34).2.2 (fun hr44 => ?_)
    refine x_callV_pi (μ := mu_tw_putPlace) (pc := 67) (ok_tw_placeOf (ω := ω) (l := l) (d := d - 1) (by omega) hM hv3 (by decide) hr44) gRel_Tw gRel_Tw (fun _ q => q) q3241 q3243 qs128 q232 q3244 dX11_putPlace_67 rfl hM.1 hy_tw_placeOf (by omega) (Nat.le_of_ble_eq_true rfl) rfl (Nat.le_of_ble_eq_true rfl) (fun x45 hr46 => ?_)
    refine x_goto (μ := mu_tw_putPlace) (pc := 70) (tgt := 74) dX11_putPlace_70 rfl ?_
    refine x_loc (lv' := [(0, vR h), (1, vI v1), (3, vI v3), (4, vI t0), (5, vI x5), (6, vI x8)]) [3, 4, 5, 2, 1, 0] rfl ?_
    exact okj_tw_putPlace_j74 hdp hM hv1 hv3 ht0 hr6 hr9 hr46
def tw_putPlace (N : Nat) (h : Nat) (v1 : Int) (v2 : Int) (σ : gMem) : Option gMem := (tw_sheetOf h v1 v2 σ).bind (fun x1 => if 0 ≤ v1 ∧ v1 < ((60420 : Nat) : Int) then if mI σ (h + 14) v1.toNat ≠ 6 then tw_putPlace_j23 N h v1 x1 0 σ else tw_putPlace_j23 N h v1 x1 1 σ else none)
set_option maxRecDepth 100000 in
theorem ok_tw_putPlace {ω : gW} {l : Launch} {d : Nat} {N : Nat} {h : Nat} {σ : gMem} {v1 : Int} {v2 : Int} (hdp : 6 ≤ d) (hM : TM σ h) (hv1 : g32 v1) (hv2 : g32 v2) : gK (fun p : gMem => (.inl none, p)) gTw ω l d mu_tw_putPlace [vR h, vI v1, vI v2] σ (tw_putPlace N h v1 v2 σ) := by
  refine gK.of hp_X11 (Nat.le_of_ble_eq_true rfl) ?_
  unfold tw_putPlace
  refine x_aload_n (μ := mu_tw_putPlace) (pc := 0) 0 dX11_putPlace_0 rfl ?_
  refine x_iload_n (μ := mu_tw_putPlace) (pc := 1) 1 dX11_putPlace_1 rfl ?_
  refine x_iload_n (μ := mu_tw_putPlace) (pc := 2) 2 dX11_putPlace_2 rfl ?_
  refine x_callV_pi (μ := mu_tw_putPlace) (pc := 3) (ok_tw_sheetOf (ω := ω) (l := l) (d := d - 1) (by omega) hM hv1 hv2) gRel_Tw gRel_Tw (fun _ q => q) q3237 q3239 qs127 q232 q3240 dX11_putPlace_3 rfl hM.1 hy_tw_sheetOf (by omega) (Nat.le_of_ble_eq_true rfl) rfl (Nat.le_of_ble_eq_true rfl) (fun x1 hr2 => ?_)
  refine x_istore_n (μ := mu_tw_putPlace) (pc := 6) (lv' := [(3, vI x1), (0, vR h), (1, vI v1), (2, vI v2)]) dX11_putPlace_6 rfl (by decide) rfl ?_
  refine x_aload_n (μ := mu_tw_putPlace) (pc := 7) 1 dX11_putPlace_7 rfl ?_
  refine x_fgrE (μ := mu_tw_putPlace) (pc := 8) fX11_26 (Or.inr ⟨_, rfl⟩) q2662 (hM.a26).1 dX11_putPlace_8 hM.1 ?_
  refine x_iload_n (μ := mu_tw_putPlace) (pc := 11) 2 dX11_putPlace_11 rfl ?_
  refine x_iald (μ := mu_tw_putPlace) (pc := 12) dX11_putPlace_12 (hM.a26).2.1 (hM.a26).2.2 (fun hr3 => ?_)
  refine x_bipush (μ := mu_tw_putPlace) (pc := 13) dX11_putPlace_13 (by decide) ?_
  refine x_icmp_ne (μ := mu_tw_putPlace) (pc := 15) (tgt := 22) dX11_putPlace_15 rfl hr3 (by decide) ?_ ?_
  · refine x_iconst (μ := mu_tw_putPlace) (pc := 22) dX11_putPlace_22 ?_
    refine x_loc (lv' := [(0, vR h), (1, vI v1), (3, vI x1)]) [1, 2, 0] rfl ?_
    exact okj_tw_putPlace_j23 hdp hM hv1 hr2 (by decide)
  · refine x_iconst (μ := mu_tw_putPlace) (pc := 18) dX11_putPlace_18 ?_
    refine x_goto (μ := mu_tw_putPlace) (pc := 19) (tgt := 23) dX11_putPlace_19 rfl ?_
    refine x_loc (lv' := [(0, vR h), (1, vI v1), (3, vI x1)]) [1, 2, 0] rfl ?_
    exact okj_tw_putPlace_j23 hdp hM hv1 hr2 (by decide)
def tw_needsMark_l111 (N : Nat) (h : Nat) (σ : gMem) (v1 : Int) (v2 : Int) (K : Int → Option Int) : Nat → Int → Int → Option Int
  | 0, _, _ => none
  | n + 1, v4, v5 => if v2 ≤ v5 then K v4 else if v4 = 0 then K v4 else if 0 ≤ (v1 + v5) ∧ (v1 + v5) < ((82400 : Nat) : Int) then (tw_isDigit (mI σ (h + 9) (v1 + v5).toNat) σ).bind (fun x13 => tw_needsMark_l111 N h σ v1 v2 K n x13 (w32 (v5 + 1))) else none
set_option maxRecDepth 100000 in
theorem okl_tw_needsMark_l111 {ω : gW} {l : Launch} {d : Nat} {N : Nat} {h : Nat} {σ : gMem} {v1 : Int} {v2 : Int} {K : Int → Option Int} (hdp : 6 ≤ d) (hM : TM σ h) (hv1 : g32 v1) (hv2 : g32 v2) (hK : ∀ (v4 : Int) , g32 v4 → GG (fun x : Int => (.inl (some (vI x)), σ)) gTw ω l d mu_tw_needsMark σ 142 [(4, vI v4)] [] σ (K v4)) : ∀ (n : Nat) (v4 : Int) (v5 : Int) , g32 v4 → g32 v5 → GG (fun x : Int => (.inl (some (vI x)), σ)) gTw ω l d mu_tw_needsMark σ 111 [(0, vR h), (1, vI v1), (2, vI v2), (4, vI v4), (5, vI v5)] [] σ (tw_needsMark_l111 N h σ v1 v2 K n v4 v5) := by
  intro n
  induction n with
  | zero => intros; exact x_none
  | succ n ih =>
    intro v4 v5 hv4 hv5
    unfold tw_needsMark_l111
    refine x_iload (μ := mu_tw_needsMark) (pc := 111) 4 dX11_needsMark_111 rfl ?_
    refine x_iload_n (μ := mu_tw_needsMark) (pc := 113) 2 dX11_needsMark_113 rfl ?_
    refine x_icmp_ge (μ := mu_tw_needsMark) (pc := 114) (tgt := 142) dX11_needsMark_114 rfl hv5 hv2 ?_ ?_
    · refine x_loc (lv' := [(4, vI v4)]) [3] rfl ?_
      exact hK v4 hv4
    · refine x_iload (μ := mu_tw_needsMark) (pc := 117) 3 dX11_needsMark_117 rfl ?_
      refine x_if_eq (μ := mu_tw_needsMark) (pc := 119) (tgt := 142) dX11_needsMark_119 rfl hv4 ?_ ?_
      · refine x_loc (lv' := [(4, vI v4)]) [3] rfl ?_
        exact hK v4 hv4
      · refine x_aload_n (μ := mu_tw_needsMark) (pc := 122) 0 dX11_needsMark_122 rfl ?_
        refine x_fgrE (μ := mu_tw_needsMark) (pc := 123) fX11_18 (Or.inr ⟨_, rfl⟩) q2654 (hM.a18).1 dX11_needsMark_123 hM.1 ?_
        refine x_iload_n (μ := mu_tw_needsMark) (pc := 126) 1 dX11_needsMark_126 rfl ?_
        refine x_iload (μ := mu_tw_needsMark) (pc := 127) 4 dX11_needsMark_127 rfl ?_
        refine x_iadd (μ := mu_tw_needsMark) (pc := 129) dX11_needsMark_129 ?_
        refine x_bald (μ := mu_tw_needsMark) (pc := 130) dX11_needsMark_130 (hM.a18).2.1 (hM.a18).2.2 (fun hr12 => ?_)
        refine x_callS_pi (μ := mu_tw_needsMark) (pc := 131) (ok_tw_isDigit (ω := ω) (l := l) (d := d - 1) (by omega) hr12) gRel_Tw gRel_Tw (fun _ q => q) q3007 q3008 q232 q3009 dX11_needsMark_131 hy_tw_isDigit (by omega) (Nat.le_of_ble_eq_true rfl) rfl (Nat.le_of_ble_eq_true rfl) (fun x13 hr14 => ?_)
        refine x_istore (μ := mu_tw_needsMark) (pc := 134) (lv' := [(4, vI x13), (0, vR h), (1, vI v1), (2, vI v2), (5, vI v5)]) dX11_needsMark_134 (by decide) rfl ?_
        refine x_iincw (μ := mu_tw_needsMark) (pc := 136) (lv' := [(5, vI (w32 (v5 + 1))), (4, vI x13), (0, vR h), (1, vI v1), (2, vI v2)]) 4 dX11_needsMark_136 rfl (by decide) rfl ?_
        refine x_goto (μ := mu_tw_needsMark) (pc := 139) (tgt := 111) dX11_needsMark_139 rfl ?_
        refine x_loc (lv' := [(0, vR h), (1, vI v1), (2, vI v2), (4, vI x13), (5, vI (w32 (v5 + 1)))]) [2, 3, 4, 1, 0] rfl ?_
        exact ih x13 (w32 (v5 + 1)) hr14 (w32_rng _)
def tw_needsMark_j96 (N : Nat) (h : Nat) (σ : gMem) (v1 : Int) (v2 : Int) (t0 : Int) : Option Int := (tw_in (w32 (v2 - t0)) 1 15 σ).bind (fun x10 => tw_needsMark_l111 N h σ v1 v2 (fun y15 => if y15 = 0 ∨ y15 = 1 then some y15 else none) N x10 t0)
set_option maxRecDepth 100000 in
theorem okj_tw_needsMark_j96 {ω : gW} {l : Launch} {d : Nat} {N : Nat} {h : Nat} {σ : gMem} {v1 : Int} {v2 : Int} {t0 : Int} (hdp : 6 ≤ d) (hM : TM σ h) (hv1 : g32 v1) (hv2 : g32 v2) (ht0 : g32 t0) : GG (fun x : Int => (.inl (some (vI x)), σ)) gTw ω l d mu_tw_needsMark σ 96 [(0, vR h), (1, vI v1), (2, vI v2)] [vI t0] σ (tw_needsMark_j96 N h σ v1 v2 t0 ) := by
  unfold tw_needsMark_j96
  refine x_istore_n (μ := mu_tw_needsMark) (pc := 96) (lv' := [(3, vI t0), (0, vR h), (1, vI v1), (2, vI v2)]) dX11_needsMark_96 rfl (by decide) rfl ?_
  refine x_iload_n (μ := mu_tw_needsMark) (pc := 97) 3 dX11_needsMark_97 rfl ?_
  refine x_iload_n (μ := mu_tw_needsMark) (pc := 98) 0 dX11_needsMark_98 rfl ?_
  refine x_isub (μ := mu_tw_needsMark) (pc := 99) dX11_needsMark_99 ?_
  refine x_iconst (μ := mu_tw_needsMark) (pc := 100) dX11_needsMark_100 ?_
  refine x_bipush (μ := mu_tw_needsMark) (pc := 101) dX11_needsMark_101 (by decide) ?_
  refine x_stk (st2 := [vI 15, vI 1, vI (w32 (v2 - t0))]) (by simp only [List.map_cons, gval_w32, gval_w64]) ?_
  refine x_callS_pi (μ := mu_tw_needsMark) (pc := 103) (ok_tw_in (ω := ω) (l := l) (d := d - 1) (by omega) (w32_rng _) (by decide) (by decide)) gRel_Tw gRel_Tw (fun _ q => q) q2980 q2981 q232 q2982 dX11_needsMark_103 hy_tw_in (by omega) (Nat.le_of_ble_eq_true rfl) rfl (Nat.le_of_ble_eq_true rfl) (fun x10 hr11 => ?_)
  refine x_istore (μ := mu_tw_needsMark) (pc := 106) (lv' := [(4, vI x10), (3, vI t0), (0, vR h), (1, vI v1), (2, vI v2)]) dX11_needsMark_106 (by decide) rfl ?_
  refine x_iload_n (μ := mu_tw_needsMark) (pc := 108) 1 dX11_needsMark_108 rfl ?_
  refine x_istore (μ := mu_tw_needsMark) (pc := 109) (lv' := [(5, vI t0), (4, vI x10), (3, vI t0), (0, vR h), (1, vI v1), (2, vI v2)]) dX11_needsMark_109 (by decide) rfl ?_
  refine x_loc (lv' := [(0, vR h), (1, vI v1), (2, vI v2), (4, vI x10), (5, vI t0)]) [3, 4, 5, 1, 0] rfl ?_
  refine okl_tw_needsMark_l111 hdp hM hv1 hv2 (fun y15 hy15 => ?_) N x10 t0 hr11 ht0
  refine x_iload (μ := mu_tw_needsMark) (pc := 142) 0 dX11_needsMark_142 rfl ?_
  exact x_if (μ := mu_tw_needsMark) (pc := 144) (fun hz => x_zret dX11_needsMark_144 rfl hz rfl (gRel_Tw.1 _) (show g32 y15 from hy15))
def tw_needsMark (N : Nat) (h : Nat) (v1 : Int) (v2 : Int) (σ : gMem) : Option Int := if v2 = 0 then some 1 else if 0 ≤ v1 ∧ v1 < ((82400 : Nat) : Int) then if mI σ (h + 9) v1.toNat = 32 then some 1 else if 0 ≤ ((v1 + v2) - 1) ∧ ((v1 + v2) - 1) < ((82400 : Nat) : Int) then if mI σ (h + 9) ((v1 + v2) - 1).toNat = 32 then some 1 else if 0 ≤ v1 ∧ v1 < ((82400 : Nat) : Int) then if mI σ (h + 9) v1.toNat = 61 then some 1 else if 0 ≤ v1 ∧ v1 < ((82400 : Nat) : Int) then if mI σ (h + 9) v1.toNat ≠ 39 then (tw_isLetters N h v1 v2 (mR σ 0 101) σ).bind (fun x5 => if x5 ≠ 0 then some 1 else (tw_isLetters N h v1 v2 (mR σ 0 102) σ).bind (fun x7 => if x7 = 0 then if 0 ≤ v1 ∧ v1 < ((82400 : Nat) : Int) then if mI σ (h + 9) v1.toNat ≠ 45 then tw_needsMark_j96 N h σ v1 v2 0 else tw_needsMark_j96 N h σ v1 v2 1 else none else some 1)) else some 1 else none else none else none else none
set_option maxRecDepth 100000 in
theorem ok_tw_needsMark {ω : gW} {l : Launch} {d : Nat} {N : Nat} {h : Nat} {σ : gMem} {v1 : Int} {v2 : Int} (hdp : 6 ≤ d) (hM : TM σ h) (hv1 : g32 v1) (hv2 : g32 v2) : gK (fun x : Int => (.inl (some (vI x)), σ)) gTw ω l d mu_tw_needsMark [vR h, vI v1, vI v2] σ (tw_needsMark N h v1 v2 σ) := by
  refine gK.of hp_X11 (Nat.le_of_ble_eq_true rfl) ?_
  unfold tw_needsMark
  refine x_iload_n (μ := mu_tw_needsMark) (pc := 0) 2 dX11_needsMark_0 rfl ?_
  refine x_if_eq (μ := mu_tw_needsMark) (pc := 1) (tgt := 52) dX11_needsMark_1 rfl hv2 ?_ ?_
  · refine x_iconst (μ := mu_tw_needsMark) (pc := 52) dX11_needsMark_52 ?_
    exact x_zret (μ := mu_tw_needsMark) (pc := 53) dX11_needsMark_53 rfl (by decide) rfl (gRel_Tw.1 _) (show g32 1 from (by decide))
  · refine x_aload_n (μ := mu_tw_needsMark) (pc := 4) 0 dX11_needsMark_4 rfl ?_
    refine x_fgrE (μ := mu_tw_needsMark) (pc := 5) fX11_18 (Or.inr ⟨_, rfl⟩) q2654 (hM.a18).1 dX11_needsMark_5 hM.1 ?_
    refine x_iload_n (μ := mu_tw_needsMark) (pc := 8) 1 dX11_needsMark_8 rfl ?_
    refine x_bald (μ := mu_tw_needsMark) (pc := 9) dX11_needsMark_9 (hM.a18).2.1 (hM.a18).2.2 (fun hr1 => ?_)
    refine x_bipush (μ := mu_tw_needsMark) (pc := 10) dX11_needsMark_10 (by decide) ?_
    refine x_icmp_eq (μ := mu_tw_needsMark) (pc := 12) (tgt := 52) dX11_needsMark_12 rfl hr1 (by decide) ?_ ?_
    · refine x_iconst (μ := mu_tw_needsMark) (pc := 52) dX11_needsMark_52 ?_
      exact x_zret (μ := mu_tw_needsMark) (pc := 53) dX11_needsMark_53 rfl (by decide) rfl (gRel_Tw.1 _) (show g32 1 from (by decide))
    · refine x_aload_n (μ := mu_tw_needsMark) (pc := 15) 0 dX11_needsMark_15 rfl ?_
      refine x_fgrE (μ := mu_tw_needsMark) (pc := 16) fX11_18 (Or.inr ⟨_, rfl⟩) q2654 (hM.a18).1 dX11_needsMark_16 hM.1 ?_
      refine x_iload_n (μ := mu_tw_needsMark) (pc := 19) 1 dX11_needsMark_19 rfl ?_
      refine x_iload_n (μ := mu_tw_needsMark) (pc := 20) 2 dX11_needsMark_20 rfl ?_
      refine x_iadd (μ := mu_tw_needsMark) (pc := 21) dX11_needsMark_21 ?_
      refine x_iconst (μ := mu_tw_needsMark) (pc := 22) dX11_needsMark_22 ?_
      refine x_isub (μ := mu_tw_needsMark) (pc := 23) dX11_needsMark_23 ?_
      refine x_bald (μ := mu_tw_needsMark) (pc := 24) dX11_needsMark_24 (hM.a18).2.1 (hM.a18).2.2 (fun hr2 => ?_)
      refine x_bipush (μ := mu_tw_needsMark) (pc := 25) dX11_needsMark_25 (by decide) ?_
      refine x_icmp_eq (μ := mu_tw_needsMark) (pc := 27) (tgt := 52) dX11_needsMark_27 rfl hr2 (by decide) ?_ ?_
      · refine x_iconst (μ := mu_tw_needsMark) (pc := 52) dX11_needsMark_52 ?_
        exact x_zret (μ := mu_tw_needsMark) (pc := 53) dX11_needsMark_53 rfl (by decide) rfl (gRel_Tw.1 _) (show g32 1 from (by decide))
      · refine x_aload_n (μ := mu_tw_needsMark) (pc := 30) 0 dX11_needsMark_30 rfl ?_
        refine x_fgrE (μ := mu_tw_needsMark) (pc := 31) fX11_18 (Or.inr ⟨_, rfl⟩) q2654 (hM.a18).1 dX11_needsMark_31 hM.1 ?_
        refine x_iload_n (μ := mu_tw_needsMark) (pc := 34) 1 dX11_needsMark_34 rfl ?_
        refine x_bald (μ := mu_tw_needsMark) (pc := 35) dX11_needsMark_35 (hM.a18).2.1 (hM.a18).2.2 (fun hr3 => ?_)
        refine x_bipush (μ := mu_tw_needsMark) (pc := 36) dX11_needsMark_36 (by decide) ?_
        refine x_icmp_eq (μ := mu_tw_needsMark) (pc := 38) (tgt := 52) dX11_needsMark_38 rfl hr3 (by decide) ?_ ?_
        · refine x_iconst (μ := mu_tw_needsMark) (pc := 52) dX11_needsMark_52 ?_
          exact x_zret (μ := mu_tw_needsMark) (pc := 53) dX11_needsMark_53 rfl (by decide) rfl (gRel_Tw.1 _) (show g32 1 from (by decide))
        · refine x_aload_n (μ := mu_tw_needsMark) (pc := 41) 0 dX11_needsMark_41 rfl ?_
          refine x_fgrE (μ := mu_tw_needsMark) (pc := 42) fX11_18 (Or.inr ⟨_, rfl⟩) q2654 (hM.a18).1 dX11_needsMark_42 hM.1 ?_
          refine x_iload_n (μ := mu_tw_needsMark) (pc := 45) 1 dX11_needsMark_45 rfl ?_
          refine x_bald (μ := mu_tw_needsMark) (pc := 46) dX11_needsMark_46 (hM.a18).2.1 (hM.a18).2.2 (fun hr4 => ?_)
          refine x_bipush (μ := mu_tw_needsMark) (pc := 47) dX11_needsMark_47 (by decide) ?_
          refine x_icmp_ne (μ := mu_tw_needsMark) (pc := 49) (tgt := 54) dX11_needsMark_49 rfl hr4 (by decide) ?_ ?_
          · refine x_aload_n (μ := mu_tw_needsMark) (pc := 54) 0 dX11_needsMark_54 rfl ?_
            refine x_iload_n (μ := mu_tw_needsMark) (pc := 55) 1 dX11_needsMark_55 rfl ?_
            refine x_iload_n (μ := mu_tw_needsMark) (pc := 56) 2 dX11_needsMark_56 rfl ?_
            refine x_ldcwS (μ := mu_tw_needsMark) (pc := 57) (j := 101) (List.mem_of_getElem? (i := 8) rfl) dX11_needsMark_57 ?_
            refine x_callV_pi (μ := mu_tw_needsMark) (pc := 60) (ok_tw_isLetters (ω := ω) (l := l) (d := d - 1) (by omega) hM hv1 hv2) gRel_Tw gRel_Tw (fun _ q => q) q3515 q3517 qs184 q232 q3518 dX11_needsMark_60 rfl hM.1 hy_tw_isLetters (by omega) (Nat.le_of_ble_eq_true rfl) rfl (Nat.le_of_ble_eq_true rfl) (fun x5 hr6 => ?_)
            refine x_if_ne (μ := mu_tw_needsMark) (pc := 63) (tgt := 78) dX11_needsMark_63 rfl hr6 ?_ ?_
            · refine x_iconst (μ := mu_tw_needsMark) (pc := 78) dX11_needsMark_78 ?_
              exact x_zret (μ := mu_tw_needsMark) (pc := 79) dX11_needsMark_79 rfl (by decide) rfl (gRel_Tw.1 _) (show g32 1 from (by decide))
            · refine x_aload_n (μ := mu_tw_needsMark) (pc := 66) 0 dX11_needsMark_66 rfl ?_
              refine x_iload_n (μ := mu_tw_needsMark) (pc := 67) 1 dX11_needsMark_67 rfl ?_
              refine x_iload_n (μ := mu_tw_needsMark) (pc := 68) 2 dX11_needsMark_68 rfl ?_
              refine x_ldcwS (μ := mu_tw_needsMark) (pc := 69) (j := 102) (List.mem_of_getElem? (i := 12) rfl) dX11_needsMark_69 ?_
              refine x_callV_pi (μ := mu_tw_needsMark) (pc := 72) (ok_tw_isLetters (ω := ω) (l := l) (d := d - 1) (by omega) hM hv1 hv2) gRel_Tw gRel_Tw (fun _ q => q) q3515 q3517 qs184 q232 q3518 dX11_needsMark_72 rfl hM.1 hy_tw_isLetters (by omega) (Nat.le_of_ble_eq_true rfl) rfl (Nat.le_of_ble_eq_true rfl) (fun x7 hr8 => ?_)
              refine x_if_eq (μ := mu_tw_needsMark) (pc := 75) (tgt := 80) dX11_needsMark_75 rfl hr8 ?_ ?_
              · refine x_aload_n (μ := mu_tw_needsMark) (pc := 80) 0 dX11_needsMark_80 rfl ?_
                refine x_fgrE (μ := mu_tw_needsMark) (pc := 81) fX11_18 (Or.inr ⟨_, rfl⟩) q2654 (hM.a18).1 dX11_needsMark_81 hM.1 ?_
                refine x_iload_n (μ := mu_tw_needsMark) (pc := 84) 1 dX11_needsMark_84 rfl ?_
                refine x_bald (μ := mu_tw_needsMark) (pc := 85) dX11_needsMark_85 (hM.a18).2.1 (hM.a18).2.2 (fun hr9 => ?_)
                refine x_bipush (μ := mu_tw_needsMark) (pc := 86) dX11_needsMark_86 (by decide) ?_
                refine x_icmp_ne (μ := mu_tw_needsMark) (pc := 88) (tgt := 95) dX11_needsMark_88 rfl hr9 (by decide) ?_ ?_
                · refine x_iconst (μ := mu_tw_needsMark) (pc := 95) dX11_needsMark_95 ?_
                  exact okj_tw_needsMark_j96 hdp hM hv1 hv2 (by decide)
                · refine x_iconst (μ := mu_tw_needsMark) (pc := 91) dX11_needsMark_91 ?_
                  refine x_goto (μ := mu_tw_needsMark) (pc := 92) (tgt := 96) dX11_needsMark_92 rfl ?_
                  exact okj_tw_needsMark_j96 hdp hM hv1 hv2 (by decide)
              · refine x_iconst (μ := mu_tw_needsMark) (pc := 78) dX11_needsMark_78 ?_
                exact x_zret (μ := mu_tw_needsMark) (pc := 79) dX11_needsMark_79 rfl (by decide) rfl (gRel_Tw.1 _) (show g32 1 from (by decide))
          · refine x_iconst (μ := mu_tw_needsMark) (pc := 52) dX11_needsMark_52 ?_
            exact x_zret (μ := mu_tw_needsMark) (pc := 53) dX11_needsMark_53 rfl (by decide) rfl (gRel_Tw.1 _) (show g32 1 from (by decide))
def tw_comeLine_l19 (N : Nat) (h : Nat) (v1 : Int) (v2 : Int) (v3 : Int) (v4 : Int) (K : gMem → Option gMem) : Nat → Int → gMem → Option gMem
  | 0, _, _ => none
  | n + 1, v5, s => (tw_longOf v1 s).bind (fun x6 => if x6 ≤ v5 then K s else (tw_onLine v1 v4 v5 s).bind (fun x8 => (tw_onLine v1 v2 v5 s).bind (fun x10 => if 0 ≤ ((320 * v3) + x10) ∧ ((320 * v3) + x10) < ((39040 : Nat) : Int) then if 0 ≤ (12800 + x8) ∧ (12800 + x8) < ((39040 : Nat) : Int) then gLet (wI s (h + 5) (12800 + x8).toNat (mI s (h + 5) ((320 * v3) + x10).toNat)) (fun s13 => tw_comeLine_l19 N h v1 v2 v3 v4 K n (w32 (v5 + 1)) s13) else none else none)))
set_option maxRecDepth 100000 in
theorem okl_tw_comeLine_l19 {ω : gW} {l : Launch} {d : Nat} {N : Nat} {h : Nat} {σ0 : gMem} {v1 : Int} {v2 : Int} {v3 : Int} {v4 : Int} {K : gMem → Option gMem} (hdp : 1 ≤ d) (hv1 : g32 v1) (hv2 : g32 v2) (hv3 : g32 v3) (hv4 : g32 v4) (hK : ∀ (s : gMem) , TM s h → GG (fun p : gMem => (.inl none, p)) gTw ω l d mu_tw_comeLine σ0 69 [] [] s (K s)) : ∀ (n : Nat) (v5 : Int) (s : gMem) , g32 v5 → TM s h → GG (fun p : gMem => (.inl none, p)) gTw ω l d mu_tw_comeLine σ0 19 [(0, vR h), (1, vI v1), (2, vI v2), (3, vI v3), (4, vI v4), (5, vI v5)] [] s (tw_comeLine_l19 N h v1 v2 v3 v4 K n v5 s) := by
  intro n
  induction n with
  | zero => intros; exact x_none
  | succ n ih =>
    intro v5 s hv5 hM
    unfold tw_comeLine_l19
    refine x_iload (μ := mu_tw_comeLine) (pc := 19) 5 dX11_comeLine_19 rfl ?_
    refine x_iload_n (μ := mu_tw_comeLine) (pc := 21) 1 dX11_comeLine_21 rfl ?_
    refine x_callS_pi (μ := mu_tw_comeLine) (pc := 22) (ok_tw_longOf (ω := ω) (l := l) (d := d - 1) (by omega) hv1) gRel_Tw gRel_Tw (fun _ q => q) q3539 q3540 q232 q3541 dX11_comeLine_22 hy_tw_longOf (by omega) (Nat.le_of_ble_eq_true rfl) rfl (Nat.le_of_ble_eq_true rfl) (fun x6 hr7 => ?_)
    refine x_icmp_ge (μ := mu_tw_comeLine) (pc := 25) (tgt := 69) dX11_comeLine_25 rfl hv5 hr7 ?_ ?_
    · refine x_loc (lv' := []) [] rfl ?_
      exact hK s hM
    · refine x_aload_n (μ := mu_tw_comeLine) (pc := 28) 0 dX11_comeLine_28 rfl ?_
      refine x_fgrE (μ := mu_tw_comeLine) (pc := 29) fX11_5 (Or.inr ⟨_, rfl⟩) q2641 (hM.a5).1 dX11_comeLine_29 hM.1 ?_
      refine x_sipush (μ := mu_tw_comeLine) (pc := 32) dX11_comeLine_32 (by decide) ?_
      refine x_iload_n (μ := mu_tw_comeLine) (pc := 35) 1 dX11_comeLine_35 rfl ?_
      refine x_iload (μ := mu_tw_comeLine) (pc := 36) 4 dX11_comeLine_36 rfl ?_
      refine x_iload (μ := mu_tw_comeLine) (pc := 38) 5 dX11_comeLine_38 rfl ?_
      refine x_callS_pi (μ := mu_tw_comeLine) (pc := 40) (ok_tw_onLine (ω := ω) (l := l) (d := d - 1) (by omega) hv1 hv4 hv5) gRel_Tw gRel_Tw (fun _ q => q) q3542 q3543 q232 q3544 dX11_comeLine_40 hy_tw_onLine (by omega) (Nat.le_of_ble_eq_true rfl) rfl (Nat.le_of_ble_eq_true rfl) (fun x8 hr9 => ?_)
      refine x_iadd (μ := mu_tw_comeLine) (pc := 43) dX11_comeLine_43 ?_
      refine x_aload_n (μ := mu_tw_comeLine) (pc := 44) 0 dX11_comeLine_44 rfl ?_
      refine x_fgrE (μ := mu_tw_comeLine) (pc := 45) fX11_5 (Or.inr ⟨_, rfl⟩) q2641 (hM.a5).1 dX11_comeLine_45 hM.1 ?_
      refine x_sipush (μ := mu_tw_comeLine) (pc := 48) dX11_comeLine_48 (by decide) ?_
      refine x_iload_n (μ := mu_tw_comeLine) (pc := 51) 3 dX11_comeLine_51 rfl ?_
      refine x_imul (μ := mu_tw_comeLine) (pc := 52) dX11_comeLine_52 ?_
      refine x_iload_n (μ := mu_tw_comeLine) (pc := 53) 1 dX11_comeLine_53 rfl ?_
      refine x_iload_n (μ := mu_tw_comeLine) (pc := 54) 2 dX11_comeLine_54 rfl ?_
      refine x_iload (μ := mu_tw_comeLine) (pc := 55) 5 dX11_comeLine_55 rfl ?_
      refine x_callS_pi (μ := mu_tw_comeLine) (pc := 57) (ok_tw_onLine (ω := ω) (l := l) (d := d - 1) (by omega) hv1 hv2 hv5) gRel_Tw gRel_Tw (fun _ q => q) q3542 q3543 q232 q3544 dX11_comeLine_57 hy_tw_onLine (by omega) (Nat.le_of_ble_eq_true rfl) rfl (Nat.le_of_ble_eq_true rfl) (fun x10 hr11 => ?_)
      refine x_iadd (μ := mu_tw_comeLine) (pc := 60) dX11_comeLine_60 ?_
      refine x_iald (μ := mu_tw_comeLine) (pc := 61) dX11_comeLine_61 (hM.a5).2.1 (hM.a5).2.2 (fun hr12 => ?_)
      refine x_iast (μ := mu_tw_comeLine) (pc := 62) dX11_comeLine_62 (hM.a5).2.1 (hM.a5).2.2 (fun _ _ q => gTw_wI q) ?_
      refine x_let (fun s13 e14 => ?_)
      have hM15 := TM.eI e14 hM
      refine x_iincw (μ := mu_tw_comeLine) (pc := 63) (lv' := [(5, vI (w32 (v5 + 1))), (0, vR h), (1, vI v1), (2, vI v2), (3, vI v3), (4, vI v4)]) 5 dX11_comeLine_63 rfl (by decide) rfl ?_
      refine x_goto (μ := mu_tw_comeLine) (pc := 66) (tgt := 19) dX11_comeLine_66 rfl ?_
      refine x_loc (lv' := [(0, vR h), (1, vI v1), (2, vI v2), (3, vI v3), (4, vI v4), (5, vI (w32 (v5 + 1)))]) [1, 2, 3, 4, 5, 0] rfl ?_
      exact ih (w32 (v5 + 1)) s13 (w32_rng _) hM15
def tw_comeLine (N : Nat) (h : Nat) (v1 : Int) (v2 : Int) (v3 : Int) (v4 : Int) (σ : gMem) : Option gMem := (tw_lineAt h v3 v1 v2 σ).bind (fun x1 => (tw_setLine h 40 v1 v4 x1 σ).bind (fun x3 => tw_comeLine_l19 N h v1 v2 v3 v4 (fun s16 => some s16) N 0 x3))
set_option maxRecDepth 100000 in
theorem ok_tw_comeLine {ω : gW} {l : Launch} {d : Nat} {N : Nat} {h : Nat} {σ : gMem} {v1 : Int} {v2 : Int} {v3 : Int} {v4 : Int} (hdp : 1 ≤ d) (hM : TM σ h) (hv1 : g32 v1) (hv2 : g32 v2) (hv3 : g32 v3) (hv4 : g32 v4) : gK (fun p : gMem => (.inl none, p)) gTw ω l d mu_tw_comeLine [vR h, vI v1, vI v2, vI v3, vI v4] σ (tw_comeLine N h v1 v2 v3 v4 σ) := by
  refine gK.of hp_X11 (Nat.le_of_ble_eq_true rfl) ?_
  unfold tw_comeLine
  refine x_aload_n (μ := mu_tw_comeLine) (pc := 0) 0 dX11_comeLine_0 rfl ?_
  refine x_bipush (μ := mu_tw_comeLine) (pc := 1) dX11_comeLine_1 (by decide) ?_
  refine x_iload_n (μ := mu_tw_comeLine) (pc := 3) 1 dX11_comeLine_3 rfl ?_
  refine x_iload (μ := mu_tw_comeLine) (pc := 4) 4 dX11_comeLine_4 rfl ?_
  refine x_aload_n (μ := mu_tw_comeLine) (pc := 6) 0 dX11_comeLine_6 rfl ?_
  refine x_iload_n (μ := mu_tw_comeLine) (pc := 7) 3 dX11_comeLine_7 rfl ?_
  refine x_iload_n (μ := mu_tw_comeLine) (pc := 8) 1 dX11_comeLine_8 rfl ?_
  refine x_iload_n (μ := mu_tw_comeLine) (pc := 9) 2 dX11_comeLine_9 rfl ?_
  refine x_callV_pi (μ := mu_tw_comeLine) (pc := 10) (ok_tw_lineAt (ω := ω) (l := l) (d := d - 1) (by omega) hM hv3 hv1 hv2) gRel_Tw gRel_Tw (fun _ q => q) q3148 q3150 qs111 q232 q3151 dX11_comeLine_10 rfl hM.1 hy_tw_lineAt (by omega) (Nat.le_of_ble_eq_true rfl) rfl (Nat.le_of_ble_eq_true rfl) (fun x1 hr2 => ?_)
  refine x_callV_mv (μ := mu_tw_comeLine) (pc := 13) (ok_tw_setLine (ω := ω) (l := l) (d := d - 1) (by omega) hM (by decide) hv1 hv4 hr2) gRel_Tw gRel_Tw (fun _ q => q) q3535 q3537 qs187 q232 q3538 dX11_comeLine_13 rfl hM.1 hy_tw_setLine (by omega) (Nat.le_of_ble_eq_true rfl) rfl (Nat.le_of_ble_eq_true rfl) (fun x3 k4 => ?_)
  have hM5 : TM x3 h := hM.tw k4
  refine x_iconst (μ := mu_tw_comeLine) (pc := 16) dX11_comeLine_16 ?_
  refine x_istore (μ := mu_tw_comeLine) (pc := 17) (lv' := [(5, vI 0), (0, vR h), (1, vI v1), (2, vI v2), (3, vI v3), (4, vI v4)]) dX11_comeLine_17 (by decide) rfl ?_
  refine x_loc (lv' := [(0, vR h), (1, vI v1), (2, vI v2), (3, vI v3), (4, vI v4), (5, vI 0)]) [1, 2, 3, 4, 5, 0] rfl ?_
  refine okl_tw_comeLine_l19 hdp hv1 hv2 hv3 hv4 (fun s16 hM17 => ?_) N 0 x3 (by decide) hM5
  exact x_vret (μ := mu_tw_comeLine) (pc := 69) (a1 := s16) dX11_comeLine_69 rfl rfl (gRel_Tw.1 _) trivial
def tw_goLine_l12 (N : Nat) (h : Nat) (v1 : Int) (v3 : Int) (v4 : Int) (K : gMem → Option gMem) : Nat → Int → gMem → Option gMem
  | 0, _, _ => none
  | n + 1, v5, s => if v4 ≤ v5 then K s else (tw_comeLine N h v1 v5 v3 (w32 (v5 - 1)) s).bind (fun x3 => tw_goLine_l12 N h v1 v3 v4 K n (w32 (v5 + 1)) x3)
set_option maxRecDepth 100000 in
theorem okl_tw_goLine_l12 {ω : gW} {l : Launch} {d : Nat} {N : Nat} {h : Nat} {σ0 : gMem} {v1 : Int} {v3 : Int} {v4 : Int} {K : gMem → Option gMem} (hdp : 2 ≤ d) (hv1 : g32 v1) (hv3 : g32 v3) (hv4 : g32 v4) (hK : ∀ (s : gMem) , TM s h → GG (fun p : gMem => (.inl none, p)) gTw ω l d mu_tw_goLine σ0 37 [(0, vR h), (1, vI v1), (4, vI v4)] [] s (K s)) : ∀ (n : Nat) (v5 : Int) (s : gMem) , g32 v5 → TM s h → GG (fun p : gMem => (.inl none, p)) gTw ω l d mu_tw_goLine σ0 12 [(0, vR h), (1, vI v1), (3, vI v3), (4, vI v4), (5, vI v5)] [] s (tw_goLine_l12 N h v1 v3 v4 K n v5 s) := by
  intro n
  induction n with
  | zero => intros; exact x_none
  | succ n ih =>
    intro v5 s hv5 hM
    unfold tw_goLine_l12
    refine x_iload (μ := mu_tw_goLine) (pc := 12) 4 dX11_goLine_12 rfl ?_
    refine x_iload (μ := mu_tw_goLine) (pc := 14) 3 dX11_goLine_14 rfl ?_
    refine x_icmp_ge (μ := mu_tw_goLine) (pc := 16) (tgt := 37) dX11_goLine_16 rfl hv5 hv4 ?_ ?_
    · refine x_loc (lv' := [(0, vR h), (1, vI v1), (4, vI v4)]) [0, 1, 3] rfl ?_
      exact hK s hM
    · refine x_aload_n (μ := mu_tw_goLine) (pc := 19) 0 dX11_goLine_19 rfl ?_
      refine x_iload_n (μ := mu_tw_goLine) (pc := 20) 1 dX11_goLine_20 rfl ?_
      refine x_iload (μ := mu_tw_goLine) (pc := 21) 4 dX11_goLine_21 rfl ?_
      refine x_iload_n (μ := mu_tw_goLine) (pc := 23) 2 dX11_goLine_23 rfl ?_
      refine x_iload (μ := mu_tw_goLine) (pc := 24) 4 dX11_goLine_24 rfl ?_
      refine x_iconst (μ := mu_tw_goLine) (pc := 26) dX11_goLine_26 ?_
      refine x_isub (μ := mu_tw_goLine) (pc := 27) dX11_goLine_27 ?_
      refine x_w1 ?_
      refine x_callV_mv (μ := mu_tw_goLine) (pc := 28) (ok_tw_comeLine (ω := ω) (l := l) (d := d - 1) (by omega) hM hv1 hv5 hv3 (w32_rng _)) gRel_Tw gRel_Tw (fun _ q => q) q3531 q3533 qs186 q232 q3534 dX11_goLine_28 rfl hM.1 hy_tw_comeLine (by omega) (Nat.le_of_ble_eq_true rfl) rfl (Nat.le_of_ble_eq_true rfl) (fun x3 k4 => ?_)
      have hM5 : TM x3 h := hM.tw k4
      refine x_iincw (μ := mu_tw_goLine) (pc := 31) (lv' := [(5, vI (w32 (v5 + 1))), (0, vR h), (1, vI v1), (3, vI v3), (4, vI v4)]) 4 dX11_goLine_31 rfl (by decide) rfl ?_
      refine x_goto (μ := mu_tw_goLine) (pc := 34) (tgt := 12) dX11_goLine_34 rfl ?_
      refine x_loc (lv' := [(0, vR h), (1, vI v1), (3, vI v3), (4, vI v4), (5, vI (w32 (v5 + 1)))]) [1, 2, 3, 4, 0] rfl ?_
      exact ih (w32 (v5 + 1)) x3 (w32_rng _) hM5
def tw_goLine (N : Nat) (h : Nat) (v1 : Int) (v2 : Int) (v3 : Int) (σ : gMem) : Option gMem := (tw_linesOf h 40 v1 σ).bind (fun x1 => tw_goLine_l12 N h v1 v3 x1 (fun s6 => (tw_emptyLine N h v1 (w32 (x1 - 1)) s6).bind (fun x8 => (tw_setLines h 40 v1 (w32 (x1 - 1)) x8).bind (fun x11 => some x11))) N v2 σ)
set_option maxRecDepth 100000 in
theorem ok_tw_goLine {ω : gW} {l : Launch} {d : Nat} {N : Nat} {h : Nat} {σ : gMem} {v1 : Int} {v2 : Int} {v3 : Int} (hdp : 2 ≤ d) (hM : TM σ h) (hv1 : g32 v1) (hv2 : g32 v2) (hv3 : g32 v3) : gK (fun p : gMem => (.inl none, p)) gTw ω l d mu_tw_goLine [vR h, vI v1, vI v2, vI v3] σ (tw_goLine N h v1 v2 v3 σ) := by
  refine gK.of hp_X11 (Nat.le_of_ble_eq_true rfl) ?_
  unfold tw_goLine
  refine x_aload_n (μ := mu_tw_goLine) (pc := 0) 0 dX11_goLine_0 rfl ?_
  refine x_bipush (μ := mu_tw_goLine) (pc := 1) dX11_goLine_1 (by decide) ?_
  refine x_iload_n (μ := mu_tw_goLine) (pc := 3) 1 dX11_goLine_3 rfl ?_
  refine x_callV_pi (μ := mu_tw_goLine) (pc := 4) (ok_tw_linesOf (ω := ω) (l := l) (d := d - 1) (by omega) hM (by decide) hv1) gRel_Tw gRel_Tw (fun _ q => q) q3245 q3247 qs129 q232 q3248 dX11_goLine_4 rfl hM.1 hy_tw_linesOf (by omega) (Nat.le_of_ble_eq_true rfl) rfl (Nat.le_of_ble_eq_true rfl) (fun x1 hr2 => ?_)
  refine x_istore (μ := mu_tw_goLine) (pc := 7) (lv' := [(4, vI x1), (0, vR h), (1, vI v1), (2, vI v2), (3, vI v3)]) dX11_goLine_7 (by decide) rfl ?_
  refine x_iload_n (μ := mu_tw_goLine) (pc := 9) 3 dX11_goLine_9 rfl ?_
  refine x_istore (μ := mu_tw_goLine) (pc := 10) (lv' := [(5, vI v2), (4, vI x1), (0, vR h), (1, vI v1), (2, vI v2), (3, vI v3)]) dX11_goLine_10 (by decide) rfl ?_
  refine x_loc (lv' := [(0, vR h), (1, vI v1), (3, vI v3), (4, vI x1), (5, vI v2)]) [2, 3, 5, 1, 0] rfl ?_
  refine okl_tw_goLine_l12 hdp hv1 hv3 hr2 (fun s6 hM7 => ?_) N v2 σ hv2 hM
  refine x_aload_n (μ := mu_tw_goLine) (pc := 37) 0 dX11_goLine_37 rfl ?_
  refine x_iload_n (μ := mu_tw_goLine) (pc := 38) 1 dX11_goLine_38 rfl ?_
  refine x_iload (μ := mu_tw_goLine) (pc := 39) 2 dX11_goLine_39 rfl ?_
  refine x_iconst (μ := mu_tw_goLine) (pc := 41) dX11_goLine_41 ?_
  refine x_isub (μ := mu_tw_goLine) (pc := 42) dX11_goLine_42 ?_
  refine x_w1 ?_
  refine x_callV_mv (μ := mu_tw_goLine) (pc := 43) (ok_tw_emptyLine (ω := ω) (l := l) (d := d - 1) (by omega) hM7 hv1 (w32_rng _)) gRel_Tw gRel_Tw (fun _ q => q) q3545 q3547 qs188 q232 q3548 dX11_goLine_43 rfl hM7.1 hy_tw_emptyLine (by omega) (Nat.le_of_ble_eq_true rfl) rfl (Nat.le_of_ble_eq_true rfl) (fun x8 k9 => ?_)
  have hM10 : TM x8 h := hM7.tw k9
  refine x_aload_n (μ := mu_tw_goLine) (pc := 46) 0 dX11_goLine_46 rfl ?_
  refine x_bipush (μ := mu_tw_goLine) (pc := 47) dX11_goLine_47 (by decide) ?_
  refine x_iload_n (μ := mu_tw_goLine) (pc := 49) 1 dX11_goLine_49 rfl ?_
  refine x_iload (μ := mu_tw_goLine) (pc := 50) 2 dX11_goLine_50 rfl ?_
  refine x_iconst (μ := mu_tw_goLine) (pc := 52) dX11_goLine_52 ?_
  refine x_isub (μ := mu_tw_goLine) (pc := 53) dX11_goLine_53 ?_
  refine x_w1 ?_
  refine x_callV_mv (μ := mu_tw_goLine) (pc := 54) (ok_tw_setLines (ω := ω) (l := l) (d := d - 1) (by omega) hM10 (by decide) hv1 (w32_rng _)) gRel_Tw gRel_Tw (fun _ q => q) q3527 q3529 qs185 q232 q3530 dX11_goLine_54 rfl hM10.1 hy_tw_setLines (by omega) (Nat.le_of_ble_eq_true rfl) rfl (Nat.le_of_ble_eq_true rfl) (fun x11 k12 => ?_)
  have hM13 : TM x11 h := hM10.tw k12
  exact x_vret (μ := mu_tw_goLine) (pc := 57) (a1 := x11) dX11_goLine_57 rfl rfl (gRel_Tw.1 _) trivial
def tw_move_l76 (N : Nat) (h : Nat) (v1 : Int) (v2 : Int) (v3 : Int) (v5 : Int) (v6 : Int) (K : gMem → Option (Int × gMem)) : Nat → Int → gMem → Option (Int × gMem)
  | 0, _, _ => none
  | n + 1, v7, s => if v7 = v3 then K s else (tw_comeLine N h v1 (w32 ((v7 + v6) - 1)) v5 (w32 (v7 - 1)) s).bind (fun x20 => tw_move_l76 N h v1 v2 v3 v5 v6 K n (w32 (v7 + v6)) x20)
set_option maxRecDepth 100000 in
theorem okl_tw_move_l76 {ω : gW} {l : Launch} {d : Nat} {N : Nat} {h : Nat} {σ0 : gMem} {v1 : Int} {v2 : Int} {v3 : Int} {v5 : Int} {v6 : Int} {K : gMem → Option (Int × gMem)} (hdp : 2 ≤ d) (hv1 : g32 v1) (hv2 : g32 v2) (hv3 : g32 v3) (hv5 : g32 v5) (hv6 : g32 v6) (hK : ∀ (s : gMem) , TM s h → GG (fun p : Int × gMem => (.inl (some (vI p.1)), p.2)) gTw ω l d mu_tw_move σ0 110 [(0, vR h), (1, vI v1), (2, vI v2), (3, vI v3), (5, vI v5), (6, vI v6)] [] s (K s)) : ∀ (n : Nat) (v7 : Int) (s : gMem) , g32 v7 → TM s h → GG (fun p : Int × gMem => (.inl (some (vI p.1)), p.2)) gTw ω l d mu_tw_move σ0 76 [(0, vR h), (1, vI v1), (2, vI v2), (3, vI v3), (5, vI v5), (6, vI v6), (7, vI v7)] [] s (tw_move_l76 N h v1 v2 v3 v5 v6 K n v7 s) := by
  intro n
  induction n with
  | zero => intros; exact x_none
  | succ n ih =>
    intro v7 s hv7 hM
    unfold tw_move_l76
    refine x_iload (μ := mu_tw_move) (pc := 76) 6 dX11_move_76 rfl ?_
    refine x_iload_n (μ := mu_tw_move) (pc := 78) 3 dX11_move_78 rfl ?_
    refine x_icmp_eq (μ := mu_tw_move) (pc := 79) (tgt := 110) dX11_move_79 rfl hv7 hv3 ?_ ?_
    · refine x_loc (lv' := [(0, vR h), (1, vI v1), (2, vI v2), (3, vI v3), (5, vI v5), (6, vI v6)]) [0, 1, 2, 3, 4, 5] rfl ?_
      exact hK s hM
    · refine x_aload_n (μ := mu_tw_move) (pc := 82) 0 dX11_move_82 rfl ?_
      refine x_iload_n (μ := mu_tw_move) (pc := 83) 1 dX11_move_83 rfl ?_
      refine x_iload (μ := mu_tw_move) (pc := 84) 6 dX11_move_84 rfl ?_
      refine x_iload (μ := mu_tw_move) (pc := 86) 5 dX11_move_86 rfl ?_
      refine x_iadd (μ := mu_tw_move) (pc := 88) dX11_move_88 ?_
      refine x_iconst (μ := mu_tw_move) (pc := 89) dX11_move_89 ?_
      refine x_isub (μ := mu_tw_move) (pc := 90) dX11_move_90 ?_
      refine x_iload (μ := mu_tw_move) (pc := 91) 4 dX11_move_91 rfl ?_
      refine x_iload (μ := mu_tw_move) (pc := 93) 6 dX11_move_93 rfl ?_
      refine x_iconst (μ := mu_tw_move) (pc := 95) dX11_move_95 ?_
      refine x_isub (μ := mu_tw_move) (pc := 96) dX11_move_96 ?_
      refine x_w1 ?_
      refine x_stk (st2 := [vI (w32 (v7 - 1)), vI v5, vI (w32 ((v7 + v6) - 1)), vI v1, vR h]) (by simp only [List.map_cons, gval_w32, gval_w64]) ?_
      refine x_callV_mv (μ := mu_tw_move) (pc := 97) (ok_tw_comeLine (ω := ω) (l := l) (d := d - 1) (by omega) hM hv1 (w32_rng _) hv5 (w32_rng _)) gRel_Tw gRel_Tw (fun _ q => q) q3531 q3533 qs186 q232 q3534 dX11_move_97 rfl hM.1 hy_tw_comeLine (by omega) (Nat.le_of_ble_eq_true rfl) rfl (Nat.le_of_ble_eq_true rfl) (fun x20 k21 => ?_)
      have hM22 : TM x20 h := hM.tw k21
      refine x_iload (μ := mu_tw_move) (pc := 100) 6 dX11_move_100 rfl ?_
      refine x_iload (μ := mu_tw_move) (pc := 102) 5 dX11_move_102 rfl ?_
      refine x_iadd (μ := mu_tw_move) (pc := 104) dX11_move_104 ?_
      refine x_w1 ?_
      refine x_istore (μ := mu_tw_move) (pc := 105) (lv' := [(7, vI (w32 (v7 + v6))), (0, vR h), (1, vI v1), (2, vI v2), (3, vI v3), (5, vI v5), (6, vI v6)]) dX11_move_105 (by decide) rfl ?_
      refine x_goto (μ := mu_tw_move) (pc := 107) (tgt := 76) dX11_move_107 rfl ?_
      refine x_loc (lv' := [(0, vR h), (1, vI v1), (2, vI v2), (3, vI v3), (5, vI v5), (6, vI v6), (7, vI (w32 (v7 + v6)))]) [1, 2, 3, 4, 5, 6, 0] rfl ?_
      exact ih (w32 (v7 + v6)) x20 (w32_rng _) hM22
def tw_move_j71 (N : Nat) (h : Nat) (v1 : Int) (v2 : Int) (v3 : Int) (v5 : Int) (t0 : Int) (s : gMem) : Option (Int × gMem) := tw_move_l76 N h v1 v2 v3 v5 t0 (fun s23 => (tw_comeLine N h v1 (w32 (v2 - 1)) v5 (w32 (v3 - 1)) s23).bind (fun x25 => if v2 ≠ v3 then some (w32 (((v3 - v2) * t0) + 1), x25) else some (0, x25))) N v2 s
set_option maxRecDepth 100000 in
theorem okj_tw_move_j71 {ω : gW} {l : Launch} {d : Nat} {N : Nat} {h : Nat} {σ0 : gMem} {s : gMem} {v1 : Int} {v2 : Int} {v3 : Int} {v5 : Int} {t0 : Int} (hdp : 2 ≤ d) (hM : TM s h) (hv1 : g32 v1) (hv2 : g32 v2) (hv3 : g32 v3) (hv5 : g32 v5) (ht0 : g32 t0) : GG (fun p : Int × gMem => (.inl (some (vI p.1)), p.2)) gTw ω l d mu_tw_move σ0 71 [(0, vR h), (1, vI v1), (2, vI v2), (3, vI v3), (5, vI v5)] [vI t0] s (tw_move_j71 N h v1 v2 v3 v5 t0 s) := by
  unfold tw_move_j71
  refine x_istore (μ := mu_tw_move) (pc := 71) (lv' := [(6, vI t0), (0, vR h), (1, vI v1), (2, vI v2), (3, vI v3), (5, vI v5)]) dX11_move_71 (by decide) rfl ?_
  refine x_iload_n (μ := mu_tw_move) (pc := 73) 3 dX11_move_73 rfl ?_
  refine x_istore (μ := mu_tw_move) (pc := 74) (lv' := [(7, vI v2), (6, vI t0), (0, vR h), (1, vI v1), (2, vI v2), (3, vI v3), (5, vI v5)]) dX11_move_74 (by decide) rfl ?_
  refine x_loc (lv' := [(0, vR h), (1, vI v1), (2, vI v2), (3, vI v3), (5, vI v5), (6, vI t0), (7, vI v2)]) [2, 3, 4, 5, 6, 1, 0] rfl ?_
  refine okl_tw_move_l76 hdp hv1 hv2 hv3 hv5 ht0 (fun s23 hM24 => ?_) N v2 s hv2 hM
  refine x_aload_n (μ := mu_tw_move) (pc := 110) 0 dX11_move_110 rfl ?_
  refine x_iload_n (μ := mu_tw_move) (pc := 111) 1 dX11_move_111 rfl ?_
  refine x_iload_n (μ := mu_tw_move) (pc := 112) 2 dX11_move_112 rfl ?_
  refine x_iconst (μ := mu_tw_move) (pc := 113) dX11_move_113 ?_
  refine x_isub (μ := mu_tw_move) (pc := 114) dX11_move_114 ?_
  refine x_iload (μ := mu_tw_move) (pc := 115) 4 dX11_move_115 rfl ?_
  refine x_iload_n (μ := mu_tw_move) (pc := 117) 3 dX11_move_117 rfl ?_
  refine x_iconst (μ := mu_tw_move) (pc := 118) dX11_move_118 ?_
  refine x_isub (μ := mu_tw_move) (pc := 119) dX11_move_119 ?_
  refine x_w1 ?_
  refine x_stk (st2 := [vI (w32 (v3 - 1)), vI v5, vI (w32 (v2 - 1)), vI v1, vR h]) (by simp only [List.map_cons, gval_w32, gval_w64]) ?_
  refine x_callV_mv (μ := mu_tw_move) (pc := 120) (ok_tw_comeLine (ω := ω) (l := l) (d := d - 1) (by omega) hM24 hv1 (w32_rng _) hv5 (w32_rng _)) gRel_Tw gRel_Tw (fun _ q => q) q3531 q3533 qs186 q232 q3534 dX11_move_120 rfl hM24.1 hy_tw_comeLine (by omega) (Nat.le_of_ble_eq_true rfl) rfl (Nat.le_of_ble_eq_true rfl) (fun x25 k26 => ?_)
  have hM27 : TM x25 h := hM24.tw k26
  refine x_iload_n (μ := mu_tw_move) (pc := 123) 2 dX11_move_123 rfl ?_
  refine x_iload_n (μ := mu_tw_move) (pc := 124) 3 dX11_move_124 rfl ?_
  refine x_icmp_ne (μ := mu_tw_move) (pc := 125) (tgt := 132) dX11_move_125 rfl hv2 hv3 ?_ ?_
  · refine x_iload_n (μ := mu_tw_move) (pc := 132) 3 dX11_move_132 rfl ?_
    refine x_iload_n (μ := mu_tw_move) (pc := 133) 2 dX11_move_133 rfl ?_
    refine x_isub (μ := mu_tw_move) (pc := 134) dX11_move_134 ?_
    refine x_iload (μ := mu_tw_move) (pc := 135) 5 dX11_move_135 rfl ?_
    refine x_imul (μ := mu_tw_move) (pc := 137) dX11_move_137 ?_
    refine x_iconst (μ := mu_tw_move) (pc := 138) dX11_move_138 ?_
    refine x_iadd (μ := mu_tw_move) (pc := 139) dX11_move_139 ?_
    refine x_w1 ?_
    exact x_iret (μ := mu_tw_move) (pc := 140) dX11_move_140 rfl rfl (gRel_Tw.1 _) (show g32 (w32 (((v3 - v2) * t0) + 1)) from (w32_rng _))
  · refine x_iconst (μ := mu_tw_move) (pc := 128) dX11_move_128 ?_
    refine x_goto (μ := mu_tw_move) (pc := 129) (tgt := 140) dX11_move_129 rfl ?_
    exact x_iret (μ := mu_tw_move) (pc := 140) dX11_move_140 rfl rfl (gRel_Tw.1 _) (show g32 0 from (by decide))
def tw_move (N : Nat) (h : Nat) (v1 : Int) (v2 : Int) (v3 : Int) (σ : gMem) : Option (Int × gMem) := gLet (wI σ h 0 0) (fun s1 => (tw_in v1 0 1 s1).bind (fun x4 => if x4 ≠ 0 then (tw_linesOf h 40 v1 s1).bind (fun x6 => (tw_in v2 1 x6 s1).bind (fun x8 => if x8 = 0 then (tw_throwing h 2 s1).bind (fun x10 => some (x10.1, x10.2)) else (tw_in v3 1 x6 s1).bind (fun x14 => if x14 ≠ 0 then (tw_step N h s1).bind (fun x16 => if v3 ≤ v2 then tw_move_j71 N h v1 v2 v3 (x16.1) (-1) (x16.2) else tw_move_j71 N h v1 v2 v3 (x16.1) 1 (x16.2)) else (tw_throwing h 2 s1).bind (fun x28 => some (x28.1, x28.2))))) else (tw_throwing h 1 s1).bind (fun x32 => some (x32.1, x32.2))))
set_option maxRecDepth 100000 in
theorem ok_tw_move {ω : gW} {l : Launch} {d : Nat} {N : Nat} {h : Nat} {σ : gMem} {v1 : Int} {v2 : Int} {v3 : Int} (hdp : 2 ≤ d) (hM : TM σ h) (hv1 : g32 v1) (hv2 : g32 v2) (hv3 : g32 v3) : gK (fun p : Int × gMem => (.inl (some (vI p.1)), p.2)) gTw ω l d mu_tw_move [vR h, vI v1, vI v2, vI v3] σ (tw_move N h v1 v2 v3 σ) := by
  refine gK.of hp_X11 (Nat.le_of_ble_eq_true rfl) ?_
  unfold tw_move
  refine x_aload_n (μ := mu_tw_move) (pc := 0) 0 dX11_move_0 rfl ?_
  refine x_iconst (μ := mu_tw_move) (pc := 1) dX11_move_1 ?_
  refine x_fpi (μ := mu_tw_move) (pc := 2) fX11_0 q2636 dX11_move_2 hM.1 (fun _ q => gTw_wI q) ?_
  refine x_let (fun s1 e2 => ?_)
  have hM3 := TM.eI e2 hM
  refine x_iload_n (μ := mu_tw_move) (pc := 5) 1 dX11_move_5 rfl ?_
  refine x_iconst (μ := mu_tw_move) (pc := 6) dX11_move_6 ?_
  refine x_iconst (μ := mu_tw_move) (pc := 7) dX11_move_7 ?_
  refine x_callS_pi (μ := mu_tw_move) (pc := 8) (ok_tw_in (ω := ω) (l := l) (d := d - 1) (by omega) hv1 (by decide) (by decide)) gRel_Tw gRel_Tw (fun _ q => q) q2980 q2981 q232 q2982 dX11_move_8 hy_tw_in (by omega) (Nat.le_of_ble_eq_true rfl) rfl (Nat.le_of_ble_eq_true rfl) (fun x4 hr5 => ?_)
  refine x_if_ne (μ := mu_tw_move) (pc := 11) (tgt := 20) dX11_move_11 rfl hr5 ?_ ?_
  · refine x_aload_n (μ := mu_tw_move) (pc := 20) 0 dX11_move_20 rfl ?_
    refine x_bipush (μ := mu_tw_move) (pc := 21) dX11_move_21 (by decide) ?_
    refine x_iload_n (μ := mu_tw_move) (pc := 23) 1 dX11_move_23 rfl ?_
    refine x_callV_pi (μ := mu_tw_move) (pc := 24) (ok_tw_linesOf (ω := ω) (l := l) (d := d - 1) (by omega) hM3 (by decide) hv1) gRel_Tw gRel_Tw (fun _ q => q) q3245 q3247 qs129 q232 q3248 dX11_move_24 rfl hM3.1 hy_tw_linesOf (by omega) (Nat.le_of_ble_eq_true rfl) rfl (Nat.le_of_ble_eq_true rfl) (fun x6 hr7 => ?_)
    refine x_istore (μ := mu_tw_move) (pc := 27) (lv' := [(4, vI x6), (0, vR h), (1, vI v1), (2, vI v2), (3, vI v3)]) dX11_move_27 (by decide) rfl ?_
    refine x_iload_n (μ := mu_tw_move) (pc := 29) 3 dX11_move_29 rfl ?_
    refine x_iconst (μ := mu_tw_move) (pc := 30) dX11_move_30 ?_
    refine x_iload (μ := mu_tw_move) (pc := 31) 0 dX11_move_31 rfl ?_
    refine x_callS_pi (μ := mu_tw_move) (pc := 33) (ok_tw_in (ω := ω) (l := l) (d := d - 1) (by omega) hv2 (by decide) hr7) gRel_Tw gRel_Tw (fun _ q => q) q2980 q2981 q232 q2982 dX11_move_33 hy_tw_in (by omega) (Nat.le_of_ble_eq_true rfl) rfl (Nat.le_of_ble_eq_true rfl) (fun x8 hr9 => ?_)
    refine x_if_eq (μ := mu_tw_move) (pc := 36) (tgt := 49) dX11_move_36 rfl hr9 ?_ ?_
    · refine x_aload_n (μ := mu_tw_move) (pc := 49) 1 dX11_move_49 rfl ?_
      refine x_iconst (μ := mu_tw_move) (pc := 50) dX11_move_50 ?_
      refine x_callV_mi (μ := mu_tw_move) (pc := 51) (ok_tw_throwing (ω := ω) (l := l) (d := d - 1) (by omega) hM3 (by decide)) gRel_Tw gRel_Tw (fun _ q => q) q2960 q2962 qs78 q232 q2963 dX11_move_51 rfl hM3.1 hy_tw_throwing (by omega) (Nat.le_of_ble_eq_true rfl) rfl (Nat.le_of_ble_eq_true rfl) (fun x10 k12 hr11 => ?_)
      have hM13 : TM (x10.2) h := hM3.tw k12
      exact x_iret (μ := mu_tw_move) (pc := 54) dX11_move_54 rfl rfl (gRel_Tw.1 _) (show g32 (x10.1) from hr11)
    · refine x_iload_n (μ := mu_tw_move) (pc := 39) 4 dX11_move_39 rfl ?_
      refine x_iconst (μ := mu_tw_move) (pc := 40) dX11_move_40 ?_
      refine x_iload (μ := mu_tw_move) (pc := 41) 0 dX11_move_41 rfl ?_
      refine x_callS_pi (μ := mu_tw_move) (pc := 43) (ok_tw_in (ω := ω) (l := l) (d := d - 1) (by omega) hv3 (by decide) hr7) gRel_Tw gRel_Tw (fun _ q => q) q2980 q2981 q232 q2982 dX11_move_43 hy_tw_in (by omega) (Nat.le_of_ble_eq_true rfl) rfl (Nat.le_of_ble_eq_true rfl) (fun x14 hr15 => ?_)
      refine x_if_ne (μ := mu_tw_move) (pc := 46) (tgt := 55) dX11_move_46 rfl hr15 ?_ ?_
      · refine x_aload_n (μ := mu_tw_move) (pc := 55) 1 dX11_move_55 rfl ?_
        refine x_callV_mi (μ := mu_tw_move) (pc := 56) (ok_tw_step (ω := ω) (l := l) (d := d - 1) (by omega) hM3 ) gRel_Tw gRel_Tw (fun _ q => q) q3191 q3193 qs119 q232 q3194 dX11_move_56 rfl hM3.1 hy_tw_step (by omega) (Nat.le_of_ble_eq_true rfl) rfl (Nat.le_of_ble_eq_true rfl) (fun x16 k18 hr17 => ?_)
        have hM19 : TM (x16.2) h := hM3.tw k18
        refine x_istore (μ := mu_tw_move) (pc := 59) (lv' := [(5, vI (x16.1)), (4, vI x6), (0, vR h), (1, vI v1), (2, vI v2), (3, vI v3)]) dX11_move_59 (by decide) rfl ?_
        refine x_iload_n (μ := mu_tw_move) (pc := 61) 5 dX11_move_61 rfl ?_
        refine x_iload_n (μ := mu_tw_move) (pc := 62) 4 dX11_move_62 rfl ?_
        refine x_icmp_le (μ := mu_tw_move) (pc := 63) (tgt := 70) dX11_move_63 rfl hv3 hv2 ?_ ?_
        · refine x_iconst (μ := mu_tw_move) (pc := 70) dX11_move_70 ?_
          refine x_loc (lv' := [(0, vR h), (1, vI v1), (2, vI v2), (3, vI v3), (5, vI (x16.1))]) [2, 3, 4, 5, 0] rfl ?_
          exact okj_tw_move_j71 hdp hM19 hv1 hv2 hv3 hr17 (by decide)
        · refine x_iconst (μ := mu_tw_move) (pc := 66) dX11_move_66 ?_
          refine x_goto (μ := mu_tw_move) (pc := 67) (tgt := 71) dX11_move_67 rfl ?_
          refine x_loc (lv' := [(0, vR h), (1, vI v1), (2, vI v2), (3, vI v3), (5, vI (x16.1))]) [2, 3, 4, 5, 0] rfl ?_
          exact okj_tw_move_j71 hdp hM19 hv1 hv2 hv3 hr17 (by decide)
      · refine x_aload_n (μ := mu_tw_move) (pc := 49) 1 dX11_move_49 rfl ?_
        refine x_iconst (μ := mu_tw_move) (pc := 50) dX11_move_50 ?_
        refine x_callV_mi (μ := mu_tw_move) (pc := 51) (ok_tw_throwing (ω := ω) (l := l) (d := d - 1) (by omega) hM3 (by decide)) gRel_Tw gRel_Tw (fun _ q => q) q2960 q2962 qs78 q232 q2963 dX11_move_51 rfl hM3.1 hy_tw_throwing (by omega) (Nat.le_of_ble_eq_true rfl) rfl (Nat.le_of_ble_eq_true rfl) (fun x28 k30 hr29 => ?_)
        have hM31 : TM (x28.2) h := hM3.tw k30
        exact x_iret (μ := mu_tw_move) (pc := 54) dX11_move_54 rfl rfl (gRel_Tw.1 _) (show g32 (x28.1) from hr29)
  · refine x_aload_n (μ := mu_tw_move) (pc := 14) 0 dX11_move_14 rfl ?_
    refine x_iconst (μ := mu_tw_move) (pc := 15) dX11_move_15 ?_
    refine x_callV_mi (μ := mu_tw_move) (pc := 16) (ok_tw_throwing (ω := ω) (l := l) (d := d - 1) (by omega) hM3 (by decide)) gRel_Tw gRel_Tw (fun _ q => q) q2960 q2962 qs78 q232 q2963 dX11_move_16 rfl hM3.1 hy_tw_throwing (by omega) (Nat.le_of_ble_eq_true rfl) rfl (Nat.le_of_ble_eq_true rfl) (fun x32 k34 hr33 => ?_)
    have hM35 : TM (x32.2) h := hM3.tw k34
    exact x_iret (μ := mu_tw_move) (pc := 19) dX11_move_19 rfl rfl (gRel_Tw.1 _) (show g32 (x32.1) from hr33)
def tw_further (N : Nat) (h : Nat) (v1 : Int) (v2 : Int) (v3 : Int) (v4 : Int) (σ : gMem) : Option Int := (tw_placeOf N h v1 v2 v3 σ).bind (fun x1 => if x1 < 0 then some (-1) else (tw_linesOf h v1 v2 σ).bind (fun x3 => (tw_in (w32 (x1 + v4)) 0 (w32 (x3 - 1)) σ).bind (fun x5 => if x5 ≠ 0 then (tw_lineAt h v1 v2 (w32 (x1 + v4)) σ).bind (fun x7 => some x7) else some (-1))))
set_option maxRecDepth 100000 in
theorem ok_tw_further {ω : gW} {l : Launch} {d : Nat} {N : Nat} {h : Nat} {σ : gMem} {v1 : Int} {v2 : Int} {v3 : Int} {v4 : Int} (hdp : 2 ≤ d) (hM : TM σ h) (hv1 : g32 v1) (hv2 : g32 v2) (hv3 : g32 v3) (hv4 : g32 v4) : gK (fun x : Int => (.inl (some (vI x)), σ)) gTw ω l d mu_tw_further [vR h, vI v1, vI v2, vI v3, vI v4] σ (tw_further N h v1 v2 v3 v4 σ) := by
  refine gK.of hp_X11 (Nat.le_of_ble_eq_true rfl) ?_
  unfold tw_further
  refine x_aload_n (μ := mu_tw_further) (pc := 0) 0 dX11_further_0 rfl ?_
  refine x_iload_n (μ := mu_tw_further) (pc := 1) 1 dX11_further_1 rfl ?_
  refine x_iload_n (μ := mu_tw_further) (pc := 2) 2 dX11_further_2 rfl ?_
  refine x_iload_n (μ := mu_tw_further) (pc := 3) 3 dX11_further_3 rfl ?_
  refine x_callV_pi (μ := mu_tw_further) (pc := 4) (ok_tw_placeOf (ω := ω) (l := l) (d := d - 1) (by omega) hM hv1 hv2 hv3) gRel_Tw gRel_Tw (fun _ q => q) q3241 q3243 qs128 q232 q3244 dX11_further_4 rfl hM.1 hy_tw_placeOf (by omega) (Nat.le_of_ble_eq_true rfl) rfl (Nat.le_of_ble_eq_true rfl) (fun x1 hr2 => ?_)
  refine x_istore (μ := mu_tw_further) (pc := 7) (lv' := [(5, vI x1), (0, vR h), (1, vI v1), (2, vI v2), (3, vI v3), (4, vI v4)]) dX11_further_7 (by decide) rfl ?_
  refine x_iload (μ := mu_tw_further) (pc := 9) 0 dX11_further_9 rfl ?_
  refine x_if_lt (μ := mu_tw_further) (pc := 11) (tgt := 34) dX11_further_11 rfl hr2 ?_ ?_
  · refine x_iconst (μ := mu_tw_further) (pc := 34) dX11_further_34 ?_
    refine x_goto (μ := mu_tw_further) (pc := 35) (tgt := 49) dX11_further_35 rfl ?_
    exact x_iret (μ := mu_tw_further) (pc := 49) dX11_further_49 rfl rfl (gRel_Tw.1 _) (show g32 (-1) from (by decide))
  · refine x_iload (μ := mu_tw_further) (pc := 14) 0 dX11_further_14 rfl ?_
    refine x_iload (μ := mu_tw_further) (pc := 16) 5 dX11_further_16 rfl ?_
    refine x_iadd (μ := mu_tw_further) (pc := 18) dX11_further_18 ?_
    refine x_iconst (μ := mu_tw_further) (pc := 19) dX11_further_19 ?_
    refine x_aload_n (μ := mu_tw_further) (pc := 20) 1 dX11_further_20 rfl ?_
    refine x_iload_n (μ := mu_tw_further) (pc := 21) 2 dX11_further_21 rfl ?_
    refine x_iload_n (μ := mu_tw_further) (pc := 22) 3 dX11_further_22 rfl ?_
    refine x_callV_pi (μ := mu_tw_further) (pc := 23) (ok_tw_linesOf (ω := ω) (l := l) (d := d - 1) (by omega) hM hv1 hv2) gRel_Tw gRel_Tw (fun _ q => q) q3245 q3247 qs129 q232 q3248 dX11_further_23 rfl hM.1 hy_tw_linesOf (by omega) (Nat.le_of_ble_eq_true rfl) rfl (Nat.le_of_ble_eq_true rfl) (fun x3 hr4 => ?_)
    refine x_iconst (μ := mu_tw_further) (pc := 26) dX11_further_26 ?_
    refine x_isub (μ := mu_tw_further) (pc := 27) dX11_further_27 ?_
    refine x_w1 ?_
    refine x_stk (st2 := [vI (w32 (x3 - 1)), vI 0, vI (w32 (x1 + v4))]) (by simp only [List.map_cons, gval_w32, gval_w64]) ?_
    refine x_callS_pi (μ := mu_tw_further) (pc := 28) (ok_tw_in (ω := ω) (l := l) (d := d - 1) (by omega) (w32_rng _) (by decide) (w32_rng _)) gRel_Tw gRel_Tw (fun _ q => q) q2980 q2981 q232 q2982 dX11_further_28 hy_tw_in (by omega) (Nat.le_of_ble_eq_true rfl) rfl (Nat.le_of_ble_eq_true rfl) (fun x5 hr6 => ?_)
    refine x_if_ne (μ := mu_tw_further) (pc := 31) (tgt := 38) dX11_further_31 rfl hr6 ?_ ?_
    · refine x_aload_n (μ := mu_tw_further) (pc := 38) 1 dX11_further_38 rfl ?_
      refine x_iload_n (μ := mu_tw_further) (pc := 39) 2 dX11_further_39 rfl ?_
      refine x_iload_n (μ := mu_tw_further) (pc := 40) 3 dX11_further_40 rfl ?_
      refine x_iload (μ := mu_tw_further) (pc := 41) 0 dX11_further_41 rfl ?_
      refine x_iload (μ := mu_tw_further) (pc := 43) 5 dX11_further_43 rfl ?_
      refine x_iadd (μ := mu_tw_further) (pc := 45) dX11_further_45 ?_
      refine x_w1 ?_
      refine x_callV_pi (μ := mu_tw_further) (pc := 46) (ok_tw_lineAt (ω := ω) (l := l) (d := d - 1) (by omega) hM hv1 hv2 (w32_rng _)) gRel_Tw gRel_Tw (fun _ q => q) q3148 q3150 qs111 q232 q3151 dX11_further_46 rfl hM.1 hy_tw_lineAt (by omega) (Nat.le_of_ble_eq_true rfl) rfl (Nat.le_of_ble_eq_true rfl) (fun x7 hr8 => ?_)
      exact x_iret (μ := mu_tw_further) (pc := 49) dX11_further_49 rfl rfl (gRel_Tw.1 _) (show g32 x7 from hr8)
    · refine x_iconst (μ := mu_tw_further) (pc := 34) dX11_further_34 ?_
      refine x_goto (μ := mu_tw_further) (pc := 35) (tgt := 49) dX11_further_35 rfl ?_
      exact x_iret (μ := mu_tw_further) (pc := 49) dX11_further_49 rfl rfl (gRel_Tw.1 _) (show g32 (-1) from (by decide))
def tw_isAhead_j34 (N : Nat) (h : Nat) (v4 : Int) (v5 : Int) (s : gMem) : Option (Int × gMem) := if v5 ≤ v4 then some (0, s) else some (1, s)
set_option maxRecDepth 100000 in
theorem okj_tw_isAhead_j34 {ω : gW} {l : Launch} {d : Nat} {N : Nat} {h : Nat} {σ0 : gMem} {s : gMem} {v4 : Int} {v5 : Int} (hdp : 2 ≤ d) (hM : TM s h) (hv4 : g32 v4) (hv5 : g32 v5) : GG (fun p : Int × gMem => (.inl (some (vI p.1)), p.2)) gTw ω l d mu_tw_isAhead σ0 34 [(4, vI v4), (5, vI v5)] [] s (tw_isAhead_j34 N h v4 v5 s) := by
  unfold tw_isAhead_j34
  refine x_iload (μ := mu_tw_isAhead) (pc := 34) 0 dX11_isAhead_34 rfl ?_
  refine x_iload (μ := mu_tw_isAhead) (pc := 36) 1 dX11_isAhead_36 rfl ?_
  refine x_icmp_ge (μ := mu_tw_isAhead) (pc := 38) (tgt := 45) dX11_isAhead_38 rfl hv4 hv5 ?_ ?_
  · refine x_iconst (μ := mu_tw_isAhead) (pc := 45) dX11_isAhead_45 ?_
    exact x_zret (μ := mu_tw_isAhead) (pc := 46) dX11_isAhead_46 rfl (by decide) rfl (gRel_Tw.1 _) (show g32 0 from (by decide))
  · refine x_iconst (μ := mu_tw_isAhead) (pc := 41) dX11_isAhead_41 ?_
    refine x_goto (μ := mu_tw_isAhead) (pc := 42) (tgt := 46) dX11_isAhead_42 rfl ?_
    exact x_zret (μ := mu_tw_isAhead) (pc := 46) dX11_isAhead_46 rfl (by decide) rfl (gRel_Tw.1 _) (show g32 1 from (by decide))
def tw_isAhead_j66 (N : Nat) (h : Nat) (v3 : Int) (t0 : Int) (s : gMem) : Option (Int × gMem) := if t0 = v3 then some (0, s) else some (1, s)
set_option maxRecDepth 100000 in
theorem okj_tw_isAhead_j66 {ω : gW} {l : Launch} {d : Nat} {N : Nat} {h : Nat} {σ0 : gMem} {s : gMem} {v3 : Int} {t0 : Int} (hdp : 2 ≤ d) (hM : TM s h) (hv3 : g32 v3) (ht0 : g32 t0) : GG (fun p : Int × gMem => (.inl (some (vI p.1)), p.2)) gTw ω l d mu_tw_isAhead σ0 66 [(3, vI v3)] [vI t0] s (tw_isAhead_j66 N h v3 t0 s) := by
  unfold tw_isAhead_j66
  refine x_iload_n (μ := mu_tw_isAhead) (pc := 66) 0 dX11_isAhead_66 rfl ?_
  refine x_icmp_eq (μ := mu_tw_isAhead) (pc := 67) (tgt := 74) dX11_isAhead_67 rfl ht0 hv3 ?_ ?_
  · refine x_iconst (μ := mu_tw_isAhead) (pc := 74) dX11_isAhead_74 ?_
    exact x_zret (μ := mu_tw_isAhead) (pc := 75) dX11_isAhead_75 rfl (by decide) rfl (gRel_Tw.1 _) (show g32 0 from (by decide))
  · refine x_iconst (μ := mu_tw_isAhead) (pc := 70) dX11_isAhead_70 ?_
    refine x_goto (μ := mu_tw_isAhead) (pc := 71) (tgt := 75) dX11_isAhead_71 rfl ?_
    exact x_zret (μ := mu_tw_isAhead) (pc := 75) dX11_isAhead_75 rfl (by decide) rfl (gRel_Tw.1 _) (show g32 1 from (by decide))
def tw_isAhead (N : Nat) (h : Nat) (v1 : Int) (v2 : Int) (v3 : Int) (σ : gMem) : Option (Int × gMem) := if 0 ≤ v1 ∧ v1 < ((13120 : Nat) : Int) then (tw_rank (mI σ (h + 28) v1.toNat) σ).bind (fun x2 => if 0 ≤ v2 ∧ v2 < ((13120 : Nat) : Int) then (tw_rank (mI σ (h + 28) v2.toNat) σ).bind (fun x5 => if x2 = 5 then tw_isAhead_j34 N h x2 x5  σ else if x5 ≠ 5 then if x2 = x5 then if x2 ≠ 4 then (tw_load N h 0 v1 σ).bind (fun x7 => (tw_load N h 1 v2 x7).bind (fun x10 => (tw_order N h 0 1 x10).bind (fun x13 => if v3 = 0 then if 0 ≤ x13 then some (0, x10) else some (1, x10) else if x13 ≤ 0 then some (0, x10) else some (1, x10)))) else some (0, σ) else if x5 ≤ x2 then tw_isAhead_j66 N h v3 0 σ else tw_isAhead_j66 N h v3 1 σ else tw_isAhead_j34 N h x2 x5  σ) else none) else none
set_option maxRecDepth 100000 in
theorem ok_tw_isAhead {ω : gW} {l : Launch} {d : Nat} {N : Nat} {h : Nat} {σ : gMem} {v1 : Int} {v2 : Int} {v3 : Int} (hdp : 2 ≤ d) (hM : TM σ h) (hv1 : g32 v1) (hv2 : g32 v2) (hv3 : g32 v3) : gK (fun p : Int × gMem => (.inl (some (vI p.1)), p.2)) gTw ω l d mu_tw_isAhead [vR h, vI v1, vI v2, vI v3] σ (tw_isAhead N h v1 v2 v3 σ) := by
  refine gK.of hp_X11 (Nat.le_of_ble_eq_true rfl) ?_
  unfold tw_isAhead
  refine x_aload_n (μ := mu_tw_isAhead) (pc := 0) 0 dX11_isAhead_0 rfl ?_
  refine x_fgrE (μ := mu_tw_isAhead) (pc := 1) fX11_60 (Or.inr ⟨_, rfl⟩) q2696 (hM.a60).1 dX11_isAhead_1 hM.1 ?_
  refine x_iload_n (μ := mu_tw_isAhead) (pc := 4) 1 dX11_isAhead_4 rfl ?_
  refine x_iald (μ := mu_tw_isAhead) (pc := 5) dX11_isAhead_5 (hM.a60).2.1 (hM.a60).2.2 (fun hr1 => ?_)
  refine x_callS_pi (μ := mu_tw_isAhead) (pc := 6) (ok_tw_rank (ω := ω) (l := l) (d := d - 1) (by omega) hr1) gRel_Tw gRel_Tw (fun _ q => q) q3585 q3586 q232 q3587 dX11_isAhead_6 hy_tw_rank (by omega) (Nat.le_of_ble_eq_true rfl) rfl (Nat.le_of_ble_eq_true rfl) (fun x2 hr3 => ?_)
  refine x_istore (μ := mu_tw_isAhead) (pc := 9) (lv' := [(4, vI x2), (0, vR h), (1, vI v1), (2, vI v2), (3, vI v3)]) dX11_isAhead_9 (by decide) rfl ?_
  refine x_aload_n (μ := mu_tw_isAhead) (pc := 11) 1 dX11_isAhead_11 rfl ?_
  refine x_fgrE (μ := mu_tw_isAhead) (pc := 12) fX11_60 (Or.inr ⟨_, rfl⟩) q2696 (hM.a60).1 dX11_isAhead_12 hM.1 ?_
  refine x_iload_n (μ := mu_tw_isAhead) (pc := 15) 3 dX11_isAhead_15 rfl ?_
  refine x_iald (μ := mu_tw_isAhead) (pc := 16) dX11_isAhead_16 (hM.a60).2.1 (hM.a60).2.2 (fun hr4 => ?_)
  refine x_callS_pi (μ := mu_tw_isAhead) (pc := 17) (ok_tw_rank (ω := ω) (l := l) (d := d - 1) (by omega) hr4) gRel_Tw gRel_Tw (fun _ q => q) q3585 q3586 q232 q3587 dX11_isAhead_17 hy_tw_rank (by omega) (Nat.le_of_ble_eq_true rfl) rfl (Nat.le_of_ble_eq_true rfl) (fun x5 hr6 => ?_)
  refine x_istore (μ := mu_tw_isAhead) (pc := 20) (lv' := [(5, vI x5), (4, vI x2), (0, vR h), (1, vI v1), (2, vI v2), (3, vI v3)]) dX11_isAhead_20 (by decide) rfl ?_
  refine x_iload (μ := mu_tw_isAhead) (pc := 22) 1 dX11_isAhead_22 rfl ?_
  refine x_iconst (μ := mu_tw_isAhead) (pc := 24) dX11_isAhead_24 ?_
  refine x_icmp_eq (μ := mu_tw_isAhead) (pc := 25) (tgt := 34) dX11_isAhead_25 rfl hr3 (by decide) ?_ ?_
  · refine x_loc (lv' := [(4, vI x2), (5, vI x5)]) [1, 0] rfl ?_
    exact okj_tw_isAhead_j34 hdp hM hr3 hr6
  · refine x_iload (μ := mu_tw_isAhead) (pc := 28) 0 dX11_isAhead_28 rfl ?_
    refine x_iconst (μ := mu_tw_isAhead) (pc := 30) dX11_isAhead_30 ?_
    refine x_icmp_ne (μ := mu_tw_isAhead) (pc := 31) (tgt := 47) dX11_isAhead_31 rfl hr6 (by decide) ?_ ?_
    · refine x_iload (μ := mu_tw_isAhead) (pc := 47) 1 dX11_isAhead_47 rfl ?_
      refine x_iload (μ := mu_tw_isAhead) (pc := 49) 0 dX11_isAhead_49 rfl ?_
      refine x_icmp_eq (μ := mu_tw_isAhead) (pc := 51) (tgt := 76) dX11_isAhead_51 rfl hr3 hr6 ?_ ?_
      · refine x_iload (μ := mu_tw_isAhead) (pc := 76) 1 dX11_isAhead_76 rfl ?_
        refine x_iconst (μ := mu_tw_isAhead) (pc := 78) dX11_isAhead_78 ?_
        refine x_icmp_ne (μ := mu_tw_isAhead) (pc := 79) (tgt := 84) dX11_isAhead_79 rfl hr3 (by decide) ?_ ?_
        · refine x_aload_n (μ := mu_tw_isAhead) (pc := 84) 2 dX11_isAhead_84 rfl ?_
          refine x_iconst (μ := mu_tw_isAhead) (pc := 85) dX11_isAhead_85 ?_
          refine x_iload_n (μ := mu_tw_isAhead) (pc := 86) 3 dX11_isAhead_86 rfl ?_
          refine x_callV_mv (μ := mu_tw_isAhead) (pc := 87) (ok_tw_load (ω := ω) (l := l) (d := d - 1) (by omega) hM (by decide) hv1) gRel_Tw gRel_Tw (fun _ q => q) q3326 q3328 qs146 q232 q3329 dX11_isAhead_87 rfl hM.1 hy_tw_load (by omega) (Nat.le_of_ble_eq_true rfl) rfl (Nat.le_of_ble_eq_true rfl) (fun x7 k8 => ?_)
          have hM9 : TM x7 h := hM.tw k8
          refine x_aload_n (μ := mu_tw_isAhead) (pc := 90) 2 dX11_isAhead_90 rfl ?_
          refine x_iconst (μ := mu_tw_isAhead) (pc := 91) dX11_isAhead_91 ?_
          refine x_iload_n (μ := mu_tw_isAhead) (pc := 92) 4 dX11_isAhead_92 rfl ?_
          refine x_callV_mv (μ := mu_tw_isAhead) (pc := 93) (ok_tw_load (ω := ω) (l := l) (d := d - 1) (by omega) hM9 (by decide) hv2) gRel_Tw gRel_Tw (fun _ q => q) q3326 q3328 qs146 q232 q3329 dX11_isAhead_93 rfl hM9.1 hy_tw_load (by omega) (Nat.le_of_ble_eq_true rfl) rfl (Nat.le_of_ble_eq_true rfl) (fun x10 k11 => ?_)
          have hM12 : TM x10 h := hM9.tw k11
          refine x_aload_n (μ := mu_tw_isAhead) (pc := 96) 2 dX11_isAhead_96 rfl ?_
          refine x_iconst (μ := mu_tw_isAhead) (pc := 97) dX11_isAhead_97 ?_
          refine x_iconst (μ := mu_tw_isAhead) (pc := 98) dX11_isAhead_98 ?_
          refine x_callV_pi (μ := mu_tw_isAhead) (pc := 99) (ok_tw_order (ω := ω) (l := l) (d := d - 1) (by omega) hM12 (by decide) (by decide)) gRel_Tw gRel_Tw (fun _ q => q) q3359 q3361 qs154 q232 q3362 dX11_isAhead_99 rfl hM12.1 hy_tw_order (by omega) (Nat.le_of_ble_eq_true rfl) rfl (Nat.le_of_ble_eq_true rfl) (fun x13 hr14 => ?_)
          refine x_istore (μ := mu_tw_isAhead) (pc := 102) (lv' := [(6, vI x13), (5, vI x5), (4, vI x2), (0, vR h), (1, vI v1), (2, vI v2), (3, vI v3)]) dX11_isAhead_102 (by decide) rfl ?_
          refine x_iload_n (μ := mu_tw_isAhead) (pc := 104) 6 dX11_isAhead_104 rfl ?_
          refine x_if_eq (μ := mu_tw_isAhead) (pc := 105) (tgt := 121) dX11_isAhead_105 rfl hv3 ?_ ?_
          · refine x_iload (μ := mu_tw_isAhead) (pc := 121) 0 dX11_isAhead_121 rfl ?_
            refine x_if_ge (μ := mu_tw_isAhead) (pc := 123) (tgt := 130) dX11_isAhead_123 rfl hr14 ?_ ?_
            · refine x_iconst (μ := mu_tw_isAhead) (pc := 130) dX11_isAhead_130 ?_
              exact x_zret (μ := mu_tw_isAhead) (pc := 131) dX11_isAhead_131 rfl (by decide) rfl (gRel_Tw.1 _) (show g32 0 from (by decide))
            · refine x_iconst (μ := mu_tw_isAhead) (pc := 126) dX11_isAhead_126 ?_
              refine x_goto (μ := mu_tw_isAhead) (pc := 127) (tgt := 131) dX11_isAhead_127 rfl ?_
              exact x_zret (μ := mu_tw_isAhead) (pc := 131) dX11_isAhead_131 rfl (by decide) rfl (gRel_Tw.1 _) (show g32 1 from (by decide))
          · refine x_iload (μ := mu_tw_isAhead) (pc := 108) 0 dX11_isAhead_108 rfl ?_
            refine x_if_le (μ := mu_tw_isAhead) (pc := 110) (tgt := 117) dX11_isAhead_110 rfl hr14 ?_ ?_
            · refine x_iconst (μ := mu_tw_isAhead) (pc := 117) dX11_isAhead_117 ?_
              refine x_goto (μ := mu_tw_isAhead) (pc := 118) (tgt := 131) dX11_isAhead_118 rfl ?_
              exact x_zret (μ := mu_tw_isAhead) (pc := 131) dX11_isAhead_131 rfl (by decide) rfl (gRel_Tw.1 _) (show g32 0 from (by decide))
            · refine x_iconst (μ := mu_tw_isAhead) (pc := 113) dX11_isAhead_113 ?_
              refine x_goto (μ := mu_tw_isAhead) (pc := 114) (tgt := 131) dX11_isAhead_114 rfl ?_
              exact x_zret (μ := mu_tw_isAhead) (pc := 131) dX11_isAhead_131 rfl (by decide) rfl (gRel_Tw.1 _) (show g32 1 from (by decide))
        · refine x_iconst (μ := mu_tw_isAhead) (pc := 82) dX11_isAhead_82 ?_
          exact x_zret (μ := mu_tw_isAhead) (pc := 83) dX11_isAhead_83 rfl (by decide) rfl (gRel_Tw.1 _) (show g32 0 from (by decide))
      · refine x_iload (μ := mu_tw_isAhead) (pc := 54) 1 dX11_isAhead_54 rfl ?_
        refine x_iload (μ := mu_tw_isAhead) (pc := 56) 0 dX11_isAhead_56 rfl ?_
        refine x_icmp_ge (μ := mu_tw_isAhead) (pc := 58) (tgt := 65) dX11_isAhead_58 rfl hr3 hr6 ?_ ?_
        · refine x_iconst (μ := mu_tw_isAhead) (pc := 65) dX11_isAhead_65 ?_
          refine x_loc (lv' := [(3, vI v3)]) [5] rfl ?_
          exact okj_tw_isAhead_j66 hdp hM hv3 (by decide)
        · refine x_iconst (μ := mu_tw_isAhead) (pc := 61) dX11_isAhead_61 ?_
          refine x_goto (μ := mu_tw_isAhead) (pc := 62) (tgt := 66) dX11_isAhead_62 rfl ?_
          refine x_loc (lv' := [(3, vI v3)]) [5] rfl ?_
          exact okj_tw_isAhead_j66 hdp hM hv3 (by decide)
    · refine x_loc (lv' := [(4, vI x2), (5, vI x5)]) [1, 0] rfl ?_
      exact okj_tw_isAhead_j34 hdp hM hr3 hr6
def tw_commit (N : Nat) (h : Nat) (σ : gMem) : Option (Int × gMem) := gLet (wI σ h 0 0) (fun s1 => (tw_unsettled N h s1).bind (fun x4 => if x4 ≤ 0 then if mI s1 h 8 ≠ 40 then (tw_copySheet N h 40 (mI s1 h 8) s1).bind (fun x8 => (tw_head h x8).bind (fun x11 => if 0 ≤ (mI s1 h 8) ∧ (mI s1 h 8) < ((40 : Nat) : Int) then gLet (wI x8 (h + 6) (mI s1 h 8).toNat x11) (fun s13 => if 0 ≤ (mI s1 h 8) ∧ (mI s1 h 8) < ((40 : Nat) : Int) then gLet (wI s13 (h + 7) (mI s1 h 8).toNat (mI s13 h 13)) (fun s17 => gLet (wI s17 h 13 (-1)) (fun s20 => gLet (wI s20 h 98 0) (fun s23 => if 0 ≤ (mI s23 h 12) ∧ (mI s23 h 12) < ((6 : Nat) : Int) then gLet (wI s23 (h + 8) (mI s23 h 12).toNat (mI s1 h 8)) (fun s27 => gLet (wI s27 h 8 (w32 ((mI s27 h 8) + 1))) (fun s31 => some (mI s1 h 8, s31))) else none))) else none) else none)) else (tw_throwing h 2 s1).bind (fun x34 => some (x34.1, x34.2)) else (tw_throwing h 1 s1).bind (fun x38 => some (x38.1, x38.2))))
set_option maxRecDepth 100000 in
theorem ok_tw_commit {ω : gW} {l : Launch} {d : Nat} {N : Nat} {h : Nat} {σ : gMem} (hdp : 1 ≤ d) (hM : TM σ h) : gK (fun p : Int × gMem => (.inl (some (vI p.1)), p.2)) gTw ω l d mu_tw_commit [vR h] σ (tw_commit N h σ) := by
  refine gK.of hp_X11 (Nat.le_of_ble_eq_true rfl) ?_
  unfold tw_commit
  refine x_aload_n (μ := mu_tw_commit) (pc := 0) 0 dX11_commit_0 rfl ?_
  refine x_iconst (μ := mu_tw_commit) (pc := 1) dX11_commit_1 ?_
  refine x_fpi (μ := mu_tw_commit) (pc := 2) fX11_0 q2636 dX11_commit_2 hM.1 (fun _ q => gTw_wI q) ?_
  refine x_let (fun s1 e2 => ?_)
  have hM3 := TM.eI e2 hM
  refine x_aload_n (μ := mu_tw_commit) (pc := 5) 0 dX11_commit_5 rfl ?_
  refine x_callV_pi (μ := mu_tw_commit) (pc := 6) (ok_tw_unsettled (ω := ω) (l := l) (d := d - 1) (by omega) hM3 ) gRel_Tw gRel_Tw (fun _ q => q) q3592 q3594 qs194 q232 q3595 dX11_commit_6 rfl hM3.1 hy_tw_unsettled (by omega) (Nat.le_of_ble_eq_true rfl) rfl (Nat.le_of_ble_eq_true rfl) (fun x4 hr5 => ?_)
  refine x_if_le (μ := mu_tw_commit) (pc := 9) (tgt := 18) dX11_commit_9 rfl hr5 ?_ ?_
  · refine x_aload_n (μ := mu_tw_commit) (pc := 18) 0 dX11_commit_18 rfl ?_
    refine x_fgi (μ := mu_tw_commit) (pc := 19) fX11_8 q2644 dX11_commit_19 hM3.1 (fun hr6 => ?_)
    refine x_bipush (μ := mu_tw_commit) (pc := 22) dX11_commit_22 (by decide) ?_
    refine x_icmp_ne (μ := mu_tw_commit) (pc := 24) (tgt := 33) dX11_commit_24 rfl hr6 (by decide) ?_ ?_
    · refine x_aload_n (μ := mu_tw_commit) (pc := 33) 0 dX11_commit_33 rfl ?_
      refine x_fgi (μ := mu_tw_commit) (pc := 34) fX11_8 q2644 dX11_commit_34 hM3.1 (fun hr7 => ?_)
      refine x_istore_n (μ := mu_tw_commit) (pc := 37) (lv' := [(1, vI (mI s1 h 8)), (0, vR h)]) dX11_commit_37 rfl (by decide) rfl ?_
      refine x_aload_n (μ := mu_tw_commit) (pc := 38) 1 dX11_commit_38 rfl ?_
      refine x_bipush (μ := mu_tw_commit) (pc := 39) dX11_commit_39 (by decide) ?_
      refine x_iload_n (μ := mu_tw_commit) (pc := 41) 0 dX11_commit_41 rfl ?_
      refine x_callV_mv (μ := mu_tw_commit) (pc := 42) (ok_tw_copySheet (ω := ω) (l := l) (d := d - 1) (by omega) hM3 (by decide) hr7) gRel_Tw gRel_Tw (fun _ q => q) q2632 q2634 qs77 q232 q2635 dX11_commit_42 rfl hM3.1 hy_tw_copySheet (by omega) (Nat.le_of_ble_eq_true rfl) rfl (Nat.le_of_ble_eq_true rfl) (fun x8 k9 => ?_)
      have hM10 : TM x8 h := hM3.tw k9
      refine x_aload_n (μ := mu_tw_commit) (pc := 45) 1 dX11_commit_45 rfl ?_
      refine x_fgrE (μ := mu_tw_commit) (pc := 46) fX11_9 (Or.inr ⟨_, rfl⟩) q2645 (hM10.a9).1 dX11_commit_46 hM10.1 ?_
      refine x_iload_n (μ := mu_tw_commit) (pc := 49) 0 dX11_commit_49 rfl ?_
      refine x_aload_n (μ := mu_tw_commit) (pc := 50) 1 dX11_commit_50 rfl ?_
      refine x_callV_pi (μ := mu_tw_commit) (pc := 51) (ok_tw_head (ω := ω) (l := l) (d := d - 1) (by omega) hM10 ) gRel_Tw gRel_Tw (fun _ q => q) q3596 q3598 qs195 q232 q3599 dX11_commit_51 rfl hM10.1 hy_tw_head (by omega) (Nat.le_of_ble_eq_true rfl) rfl (Nat.le_of_ble_eq_true rfl) (fun x11 hr12 => ?_)
      refine x_iast (μ := mu_tw_commit) (pc := 54) dX11_commit_54 (hM10.a9).2.1 (hM10.a9).2.2 (fun _ _ q => gTw_wI q) ?_
      refine x_let (fun s13 e14 => ?_)
      have hM15 := TM.eI e14 hM10
      refine x_aload_n (μ := mu_tw_commit) (pc := 55) 1 dX11_commit_55 rfl ?_
      refine x_fgrE (μ := mu_tw_commit) (pc := 56) fX11_10 (Or.inr ⟨_, rfl⟩) q2646 (hM15.a10).1 dX11_commit_56 hM15.1 ?_
      refine x_iload_n (μ := mu_tw_commit) (pc := 59) 0 dX11_commit_59 rfl ?_
      refine x_aload_n (μ := mu_tw_commit) (pc := 60) 1 dX11_commit_60 rfl ?_
      refine x_fgi (μ := mu_tw_commit) (pc := 61) fX11_13 q2649 dX11_commit_61 hM15.1 (fun hr16 => ?_)
      refine x_iast (μ := mu_tw_commit) (pc := 64) dX11_commit_64 (hM15.a10).2.1 (hM15.a10).2.2 (fun _ _ q => gTw_wI q) ?_
      refine x_let (fun s17 e18 => ?_)
      have hM19 := TM.eI e18 hM15
      refine x_aload_n (μ := mu_tw_commit) (pc := 65) 1 dX11_commit_65 rfl ?_
      refine x_iconst (μ := mu_tw_commit) (pc := 66) dX11_commit_66 ?_
      refine x_fpi (μ := mu_tw_commit) (pc := 67) fX11_13 q2649 dX11_commit_67 hM19.1 (fun _ q => gTw_wI q) ?_
      refine x_let (fun s20 e21 => ?_)
      have hM22 := TM.eI e21 hM19
      refine x_aload_n (μ := mu_tw_commit) (pc := 70) 1 dX11_commit_70 rfl ?_
      refine x_iconst (μ := mu_tw_commit) (pc := 71) dX11_commit_71 ?_
      refine x_fpi (μ := mu_tw_commit) (pc := 72) fX11_98 q2734 dX11_commit_72 hM22.1 (fun _ q => gTw_wI q) ?_
      refine x_let (fun s23 e24 => ?_)
      have hM25 := TM.eI e24 hM22
      refine x_aload_n (μ := mu_tw_commit) (pc := 75) 1 dX11_commit_75 rfl ?_
      refine x_fgrE (μ := mu_tw_commit) (pc := 76) fX11_11 (Or.inr ⟨_, rfl⟩) q2647 (hM25.a11).1 dX11_commit_76 hM25.1 ?_
      refine x_aload_n (μ := mu_tw_commit) (pc := 79) 1 dX11_commit_79 rfl ?_
      refine x_fgi (μ := mu_tw_commit) (pc := 80) fX11_12 q2648 dX11_commit_80 hM25.1 (fun hr26 => ?_)
      refine x_iload_n (μ := mu_tw_commit) (pc := 83) 0 dX11_commit_83 rfl ?_
      refine x_iast (μ := mu_tw_commit) (pc := 84) dX11_commit_84 (hM25.a11).2.1 (hM25.a11).2.2 (fun _ _ q => gTw_wI q) ?_
      refine x_let (fun s27 e28 => ?_)
      have hM29 := TM.eI e28 hM25
      refine x_aload_n (μ := mu_tw_commit) (pc := 85) 1 dX11_commit_85 rfl ?_
      refine x_dup (μ := mu_tw_commit) (pc := 86) dX11_commit_86 rfl ?_
      refine x_fgi (μ := mu_tw_commit) (pc := 87) fX11_8 q2644 dX11_commit_87 hM29.1 (fun hr30 => ?_)
      refine x_iconst (μ := mu_tw_commit) (pc := 90) dX11_commit_90 ?_
      refine x_iadd (μ := mu_tw_commit) (pc := 91) dX11_commit_91 ?_
      refine x_w1 ?_
      refine x_fpi (μ := mu_tw_commit) (pc := 92) fX11_8 q2644 dX11_commit_92 hM29.1 (fun _ q => gTw_wI q) ?_
      refine x_let (fun s31 e32 => ?_)
      have hM33 := TM.eI e32 hM29
      refine x_iload_n (μ := mu_tw_commit) (pc := 95) 0 dX11_commit_95 rfl ?_
      exact x_iret (μ := mu_tw_commit) (pc := 96) dX11_commit_96 rfl rfl (gRel_Tw.1 _) (show g32 (mI s1 h 8) from hr7)
    · refine x_aload_n (μ := mu_tw_commit) (pc := 27) 0 dX11_commit_27 rfl ?_
      refine x_iconst (μ := mu_tw_commit) (pc := 28) dX11_commit_28 ?_
      refine x_callV_mi (μ := mu_tw_commit) (pc := 29) (ok_tw_throwing (ω := ω) (l := l) (d := d - 1) (by omega) hM3 (by decide)) gRel_Tw gRel_Tw (fun _ q => q) q2960 q2962 qs78 q232 q2963 dX11_commit_29 rfl hM3.1 hy_tw_throwing (by omega) (Nat.le_of_ble_eq_true rfl) rfl (Nat.le_of_ble_eq_true rfl) (fun x34 k36 hr35 => ?_)
      have hM37 : TM (x34.2) h := hM3.tw k36
      exact x_iret (μ := mu_tw_commit) (pc := 32) dX11_commit_32 rfl rfl (gRel_Tw.1 _) (show g32 (x34.1) from hr35)
  · refine x_aload_n (μ := mu_tw_commit) (pc := 12) 0 dX11_commit_12 rfl ?_
    refine x_iconst (μ := mu_tw_commit) (pc := 13) dX11_commit_13 ?_
    refine x_callV_mi (μ := mu_tw_commit) (pc := 14) (ok_tw_throwing (ω := ω) (l := l) (d := d - 1) (by omega) hM3 (by decide)) gRel_Tw gRel_Tw (fun _ q => q) q2960 q2962 qs78 q232 q2963 dX11_commit_14 rfl hM3.1 hy_tw_throwing (by omega) (Nat.le_of_ble_eq_true rfl) rfl (Nat.le_of_ble_eq_true rfl) (fun x38 k40 hr39 => ?_)
    have hM41 : TM (x38.2) h := hM3.tw k40
    exact x_iret (μ := mu_tw_commit) (pc := 17) dX11_commit_17 rfl rfl (gRel_Tw.1 _) (show g32 (x38.1) from hr39)
def tw_sameParts_j176 (N : Nat) (h : Nat) (σ : gMem) (v1 : Int) (v2 : Int) (t0 : Int) : Option Int := if t0 = 0 then some 0 else if 0 ≤ v1 ∧ v1 < ((60420 : Nat) : Int) then if 0 ≤ v2 ∧ v2 < ((60420 : Nat) : Int) then if 0 ≤ v1 ∧ v1 < ((60420 : Nat) : Int) then (tw_sameLetters N h (mI σ (h + 18) v1.toNat) (mI σ (h + 18) v2.toNat) (mI σ (h + 19) v1.toNat) σ).bind (fun x6 => if x6 = 0 then some 0 else some 1) else none else none else none
set_option maxRecDepth 100000 in
theorem okj_tw_sameParts_j176 {ω : gW} {l : Launch} {d : Nat} {N : Nat} {h : Nat} {σ : gMem} {v1 : Int} {v2 : Int} {t0 : Int} (hdp : 1 ≤ d) (hM : TM σ h) (hv1 : g32 v1) (hv2 : g32 v2) (ht0 : g32 t0) : GG (fun x : Int => (.inl (some (vI x)), σ)) gTw ω l d mu_tw_sameParts σ 176 [(0, vR h), (1, vI v1), (2, vI v2)] [vI t0] σ (tw_sameParts_j176 N h σ v1 v2 t0 ) := by
  unfold tw_sameParts_j176
  refine x_istore_n (μ := mu_tw_sameParts) (pc := 176) (lv' := [(3, vI t0), (0, vR h), (1, vI v1), (2, vI v2)]) dX11_sameParts_176 rfl (by decide) rfl ?_
  refine x_iload_n (μ := mu_tw_sameParts) (pc := 177) 0 dX11_sameParts_177 rfl ?_
  refine x_if_eq (μ := mu_tw_sameParts) (pc := 178) (tgt := 210) dX11_sameParts_178 rfl ht0 ?_ ?_
  · refine x_iconst (μ := mu_tw_sameParts) (pc := 210) dX11_sameParts_210 ?_
    exact x_zret (μ := mu_tw_sameParts) (pc := 211) dX11_sameParts_211 rfl (by decide) rfl (gRel_Tw.1 _) (show g32 0 from (by decide))
  · refine x_aload_n (μ := mu_tw_sameParts) (pc := 181) 1 dX11_sameParts_181 rfl ?_
    refine x_aload_n (μ := mu_tw_sameParts) (pc := 182) 1 dX11_sameParts_182 rfl ?_
    refine x_fgrE (μ := mu_tw_sameParts) (pc := 183) fX11_30 (Or.inr ⟨_, rfl⟩) q2666 (hM.a30).1 dX11_sameParts_183 hM.1 ?_
    refine x_iload_n (μ := mu_tw_sameParts) (pc := 186) 2 dX11_sameParts_186 rfl ?_
    refine x_iald (μ := mu_tw_sameParts) (pc := 187) dX11_sameParts_187 (hM.a30).2.1 (hM.a30).2.2 (fun hr3 => ?_)
    refine x_aload_n (μ := mu_tw_sameParts) (pc := 188) 1 dX11_sameParts_188 rfl ?_
    refine x_fgrE (μ := mu_tw_sameParts) (pc := 189) fX11_30 (Or.inr ⟨_, rfl⟩) q2666 (hM.a30).1 dX11_sameParts_189 hM.1 ?_
    refine x_iload_n (μ := mu_tw_sameParts) (pc := 192) 3 dX11_sameParts_192 rfl ?_
    refine x_iald (μ := mu_tw_sameParts) (pc := 193) dX11_sameParts_193 (hM.a30).2.1 (hM.a30).2.2 (fun hr4 => ?_)
    refine x_aload_n (μ := mu_tw_sameParts) (pc := 194) 1 dX11_sameParts_194 rfl ?_
    refine x_fgrE (μ := mu_tw_sameParts) (pc := 195) fX11_31 (Or.inr ⟨_, rfl⟩) q2667 (hM.a31).1 dX11_sameParts_195 hM.1 ?_
    refine x_iload_n (μ := mu_tw_sameParts) (pc := 198) 2 dX11_sameParts_198 rfl ?_
    refine x_iald (μ := mu_tw_sameParts) (pc := 199) dX11_sameParts_199 (hM.a31).2.1 (hM.a31).2.2 (fun hr5 => ?_)
    refine x_callV_pi (μ := mu_tw_sameParts) (pc := 200) (ok_tw_sameLetters (ω := ω) (l := l) (d := d - 1) (by omega) hM hr3 hr4 hr5) gRel_Tw gRel_Tw (fun _ q => q) q3624 q3626 qs200 q232 q3627 dX11_sameParts_200 rfl hM.1 hy_tw_sameLetters (by omega) (Nat.le_of_ble_eq_true rfl) rfl (Nat.le_of_ble_eq_true rfl) (fun x6 hr7 => ?_)
    refine x_if_eq (μ := mu_tw_sameParts) (pc := 203) (tgt := 210) dX11_sameParts_203 rfl hr7 ?_ ?_
    · refine x_iconst (μ := mu_tw_sameParts) (pc := 210) dX11_sameParts_210 ?_
      exact x_zret (μ := mu_tw_sameParts) (pc := 211) dX11_sameParts_211 rfl (by decide) rfl (gRel_Tw.1 _) (show g32 0 from (by decide))
    · refine x_iconst (μ := mu_tw_sameParts) (pc := 206) dX11_sameParts_206 ?_
      refine x_goto (μ := mu_tw_sameParts) (pc := 207) (tgt := 211) dX11_sameParts_207 rfl ?_
      exact x_zret (μ := mu_tw_sameParts) (pc := 211) dX11_sameParts_211 rfl (by decide) rfl (gRel_Tw.1 _) (show g32 1 from (by decide))
def tw_sameParts_j175 (N : Nat) (h : Nat) (σ : gMem) (v1 : Int) (v2 : Int) : Option Int := tw_sameParts_j176 N h σ v1 v2 0
set_option maxRecDepth 100000 in
theorem okj_tw_sameParts_j175 {ω : gW} {l : Launch} {d : Nat} {N : Nat} {h : Nat} {σ : gMem} {v1 : Int} {v2 : Int} (hdp : 1 ≤ d) (hM : TM σ h) (hv1 : g32 v1) (hv2 : g32 v2) : GG (fun x : Int => (.inl (some (vI x)), σ)) gTw ω l d mu_tw_sameParts σ 175 [(0, vR h), (1, vI v1), (2, vI v2)] [] σ (tw_sameParts_j175 N h σ v1 v2 ) := by
  unfold tw_sameParts_j175
  refine x_iconst (μ := mu_tw_sameParts) (pc := 175) dX11_sameParts_175 ?_
  exact okj_tw_sameParts_j176 hdp hM hv1 hv2 (by decide)
def tw_sameParts_j136 (N : Nat) (h : Nat) (σ : gMem) (v1 : Int) (v2 : Int) (t0 : Int) : Option Int := if t0 = 0 then tw_sameParts_j175 N h σ v1 v2  else if 0 ≤ v1 ∧ v1 < ((60420 : Nat) : Int) then if 0 ≤ v2 ∧ v2 < ((60420 : Nat) : Int) then if mI σ (h + 24) v1.toNat ≠ mI σ (h + 24) v2.toNat then tw_sameParts_j175 N h σ v1 v2  else if 0 ≤ v1 ∧ v1 < ((60420 : Nat) : Int) then if 0 ≤ v2 ∧ v2 < ((60420 : Nat) : Int) then if mI σ (h + 25) v1.toNat ≠ mI σ (h + 25) v2.toNat then tw_sameParts_j175 N h σ v1 v2  else tw_sameParts_j176 N h σ v1 v2 1 else none else none else none else none
set_option maxRecDepth 100000 in
theorem okj_tw_sameParts_j136 {ω : gW} {l : Launch} {d : Nat} {N : Nat} {h : Nat} {σ : gMem} {v1 : Int} {v2 : Int} {t0 : Int} (hdp : 1 ≤ d) (hM : TM σ h) (hv1 : g32 v1) (hv2 : g32 v2) (ht0 : g32 t0) : GG (fun x : Int => (.inl (some (vI x)), σ)) gTw ω l d mu_tw_sameParts σ 136 [(0, vR h), (1, vI v1), (2, vI v2)] [vI t0] σ (tw_sameParts_j136 N h σ v1 v2 t0 ) := by
  unfold tw_sameParts_j136
  refine x_istore_n (μ := mu_tw_sameParts) (pc := 136) (lv' := [(3, vI t0), (0, vR h), (1, vI v1), (2, vI v2)]) dX11_sameParts_136 rfl (by decide) rfl ?_
  refine x_iload_n (μ := mu_tw_sameParts) (pc := 137) 0 dX11_sameParts_137 rfl ?_
  refine x_if_eq (μ := mu_tw_sameParts) (pc := 138) (tgt := 175) dX11_sameParts_138 rfl ht0 ?_ ?_
  · refine x_loc (lv' := [(0, vR h), (1, vI v1), (2, vI v2)]) [1, 2, 3] rfl ?_
    exact okj_tw_sameParts_j175 hdp hM hv1 hv2
  · refine x_aload_n (μ := mu_tw_sameParts) (pc := 141) 1 dX11_sameParts_141 rfl ?_
    refine x_fgrE (μ := mu_tw_sameParts) (pc := 142) fX11_36 (Or.inr ⟨_, rfl⟩) q2672 (hM.a36).1 dX11_sameParts_142 hM.1 ?_
    refine x_iload_n (μ := mu_tw_sameParts) (pc := 145) 2 dX11_sameParts_145 rfl ?_
    refine x_iald (μ := mu_tw_sameParts) (pc := 146) dX11_sameParts_146 (hM.a36).2.1 (hM.a36).2.2 (fun hr8 => ?_)
    refine x_aload_n (μ := mu_tw_sameParts) (pc := 147) 1 dX11_sameParts_147 rfl ?_
    refine x_fgrE (μ := mu_tw_sameParts) (pc := 148) fX11_36 (Or.inr ⟨_, rfl⟩) q2672 (hM.a36).1 dX11_sameParts_148 hM.1 ?_
    refine x_iload_n (μ := mu_tw_sameParts) (pc := 151) 3 dX11_sameParts_151 rfl ?_
    refine x_iald (μ := mu_tw_sameParts) (pc := 152) dX11_sameParts_152 (hM.a36).2.1 (hM.a36).2.2 (fun hr9 => ?_)
    refine x_icmp_ne (μ := mu_tw_sameParts) (pc := 153) (tgt := 175) dX11_sameParts_153 rfl hr8 hr9 ?_ ?_
    · refine x_loc (lv' := [(0, vR h), (1, vI v1), (2, vI v2)]) [1, 2, 3] rfl ?_
      exact okj_tw_sameParts_j175 hdp hM hv1 hv2
    · refine x_aload_n (μ := mu_tw_sameParts) (pc := 156) 1 dX11_sameParts_156 rfl ?_
      refine x_fgrE (μ := mu_tw_sameParts) (pc := 157) fX11_37 (Or.inr ⟨_, rfl⟩) q2673 (hM.a37).1 dX11_sameParts_157 hM.1 ?_
      refine x_iload_n (μ := mu_tw_sameParts) (pc := 160) 2 dX11_sameParts_160 rfl ?_
      refine x_iald (μ := mu_tw_sameParts) (pc := 161) dX11_sameParts_161 (hM.a37).2.1 (hM.a37).2.2 (fun hr10 => ?_)
      refine x_aload_n (μ := mu_tw_sameParts) (pc := 162) 1 dX11_sameParts_162 rfl ?_
      refine x_fgrE (μ := mu_tw_sameParts) (pc := 163) fX11_37 (Or.inr ⟨_, rfl⟩) q2673 (hM.a37).1 dX11_sameParts_163 hM.1 ?_
      refine x_iload_n (μ := mu_tw_sameParts) (pc := 166) 3 dX11_sameParts_166 rfl ?_
      refine x_iald (μ := mu_tw_sameParts) (pc := 167) dX11_sameParts_167 (hM.a37).2.1 (hM.a37).2.2 (fun hr11 => ?_)
      refine x_icmp_ne (μ := mu_tw_sameParts) (pc := 168) (tgt := 175) dX11_sameParts_168 rfl hr10 hr11 ?_ ?_
      · refine x_loc (lv' := [(0, vR h), (1, vI v1), (2, vI v2)]) [1, 2, 3] rfl ?_
        exact okj_tw_sameParts_j175 hdp hM hv1 hv2
      · refine x_iconst (μ := mu_tw_sameParts) (pc := 171) dX11_sameParts_171 ?_
        refine x_goto (μ := mu_tw_sameParts) (pc := 172) (tgt := 176) dX11_sameParts_172 rfl ?_
        refine x_loc (lv' := [(0, vR h), (1, vI v1), (2, vI v2)]) [1, 2, 3] rfl ?_
        exact okj_tw_sameParts_j176 hdp hM hv1 hv2 (by decide)
def tw_sameParts_j135 (N : Nat) (h : Nat) (σ : gMem) (v1 : Int) (v2 : Int) : Option Int := tw_sameParts_j136 N h σ v1 v2 0
set_option maxRecDepth 100000 in
theorem okj_tw_sameParts_j135 {ω : gW} {l : Launch} {d : Nat} {N : Nat} {h : Nat} {σ : gMem} {v1 : Int} {v2 : Int} (hdp : 1 ≤ d) (hM : TM σ h) (hv1 : g32 v1) (hv2 : g32 v2) : GG (fun x : Int => (.inl (some (vI x)), σ)) gTw ω l d mu_tw_sameParts σ 135 [(0, vR h), (1, vI v1), (2, vI v2)] [] σ (tw_sameParts_j135 N h σ v1 v2 ) := by
  unfold tw_sameParts_j135
  refine x_iconst (μ := mu_tw_sameParts) (pc := 135) dX11_sameParts_135 ?_
  exact okj_tw_sameParts_j136 hdp hM hv1 hv2 (by decide)
def tw_sameParts_j66 (N : Nat) (h : Nat) (σ : gMem) (v1 : Int) (v2 : Int) (t0 : Int) : Option Int := if t0 = 0 then tw_sameParts_j135 N h σ v1 v2  else if 0 ≤ v1 ∧ v1 < ((60420 : Nat) : Int) then if 0 ≤ v2 ∧ v2 < ((60420 : Nat) : Int) then if mI σ (h + 20) v1.toNat ≠ mI σ (h + 20) v2.toNat then tw_sameParts_j135 N h σ v1 v2  else if 0 ≤ v1 ∧ v1 < ((60420 : Nat) : Int) then if 0 ≤ v2 ∧ v2 < ((60420 : Nat) : Int) then if mI σ (h + 21) v1.toNat ≠ mI σ (h + 21) v2.toNat then tw_sameParts_j135 N h σ v1 v2  else if 0 ≤ v1 ∧ v1 < ((60420 : Nat) : Int) then if 0 ≤ v2 ∧ v2 < ((60420 : Nat) : Int) then if mI σ (h + 22) v1.toNat ≠ mI σ (h + 22) v2.toNat then tw_sameParts_j135 N h σ v1 v2  else if 0 ≤ v1 ∧ v1 < ((60420 : Nat) : Int) then if 0 ≤ v2 ∧ v2 < ((60420 : Nat) : Int) then if mI σ (h + 23) v1.toNat ≠ mI σ (h + 23) v2.toNat then tw_sameParts_j135 N h σ v1 v2  else tw_sameParts_j136 N h σ v1 v2 1 else none else none else none else none else none else none else none else none
set_option maxRecDepth 100000 in
theorem okj_tw_sameParts_j66 {ω : gW} {l : Launch} {d : Nat} {N : Nat} {h : Nat} {σ : gMem} {v1 : Int} {v2 : Int} {t0 : Int} (hdp : 1 ≤ d) (hM : TM σ h) (hv1 : g32 v1) (hv2 : g32 v2) (ht0 : g32 t0) : GG (fun x : Int => (.inl (some (vI x)), σ)) gTw ω l d mu_tw_sameParts σ 66 [(0, vR h), (1, vI v1), (2, vI v2)] [vI t0] σ (tw_sameParts_j66 N h σ v1 v2 t0 ) := by
  unfold tw_sameParts_j66
  refine x_istore_n (μ := mu_tw_sameParts) (pc := 66) (lv' := [(3, vI t0), (0, vR h), (1, vI v1), (2, vI v2)]) dX11_sameParts_66 rfl (by decide) rfl ?_
  refine x_iload_n (μ := mu_tw_sameParts) (pc := 67) 0 dX11_sameParts_67 rfl ?_
  refine x_if_eq (μ := mu_tw_sameParts) (pc := 68) (tgt := 135) dX11_sameParts_68 rfl ht0 ?_ ?_
  · refine x_loc (lv' := [(0, vR h), (1, vI v1), (2, vI v2)]) [1, 2, 3] rfl ?_
    exact okj_tw_sameParts_j135 hdp hM hv1 hv2
  · refine x_aload_n (μ := mu_tw_sameParts) (pc := 71) 1 dX11_sameParts_71 rfl ?_
    refine x_fgrE (μ := mu_tw_sameParts) (pc := 72) fX11_32 (Or.inr ⟨_, rfl⟩) q2668 (hM.a32).1 dX11_sameParts_72 hM.1 ?_
    refine x_iload_n (μ := mu_tw_sameParts) (pc := 75) 2 dX11_sameParts_75 rfl ?_
    refine x_iald (μ := mu_tw_sameParts) (pc := 76) dX11_sameParts_76 (hM.a32).2.1 (hM.a32).2.2 (fun hr12 => ?_)
    refine x_aload_n (μ := mu_tw_sameParts) (pc := 77) 1 dX11_sameParts_77 rfl ?_
    refine x_fgrE (μ := mu_tw_sameParts) (pc := 78) fX11_32 (Or.inr ⟨_, rfl⟩) q2668 (hM.a32).1 dX11_sameParts_78 hM.1 ?_
    refine x_iload_n (μ := mu_tw_sameParts) (pc := 81) 3 dX11_sameParts_81 rfl ?_
    refine x_iald (μ := mu_tw_sameParts) (pc := 82) dX11_sameParts_82 (hM.a32).2.1 (hM.a32).2.2 (fun hr13 => ?_)
    refine x_icmp_ne (μ := mu_tw_sameParts) (pc := 83) (tgt := 135) dX11_sameParts_83 rfl hr12 hr13 ?_ ?_
    · refine x_loc (lv' := [(0, vR h), (1, vI v1), (2, vI v2)]) [1, 2, 3] rfl ?_
      exact okj_tw_sameParts_j135 hdp hM hv1 hv2
    · refine x_aload_n (μ := mu_tw_sameParts) (pc := 86) 1 dX11_sameParts_86 rfl ?_
      refine x_fgrE (μ := mu_tw_sameParts) (pc := 87) fX11_33 (Or.inr ⟨_, rfl⟩) q2669 (hM.a33).1 dX11_sameParts_87 hM.1 ?_
      refine x_iload_n (μ := mu_tw_sameParts) (pc := 90) 2 dX11_sameParts_90 rfl ?_
      refine x_iald (μ := mu_tw_sameParts) (pc := 91) dX11_sameParts_91 (hM.a33).2.1 (hM.a33).2.2 (fun hr14 => ?_)
      refine x_aload_n (μ := mu_tw_sameParts) (pc := 92) 1 dX11_sameParts_92 rfl ?_
      refine x_fgrE (μ := mu_tw_sameParts) (pc := 93) fX11_33 (Or.inr ⟨_, rfl⟩) q2669 (hM.a33).1 dX11_sameParts_93 hM.1 ?_
      refine x_iload_n (μ := mu_tw_sameParts) (pc := 96) 3 dX11_sameParts_96 rfl ?_
      refine x_iald (μ := mu_tw_sameParts) (pc := 97) dX11_sameParts_97 (hM.a33).2.1 (hM.a33).2.2 (fun hr15 => ?_)
      refine x_icmp_ne (μ := mu_tw_sameParts) (pc := 98) (tgt := 135) dX11_sameParts_98 rfl hr14 hr15 ?_ ?_
      · refine x_loc (lv' := [(0, vR h), (1, vI v1), (2, vI v2)]) [1, 2, 3] rfl ?_
        exact okj_tw_sameParts_j135 hdp hM hv1 hv2
      · refine x_aload_n (μ := mu_tw_sameParts) (pc := 101) 1 dX11_sameParts_101 rfl ?_
        refine x_fgrE (μ := mu_tw_sameParts) (pc := 102) fX11_34 (Or.inr ⟨_, rfl⟩) q2670 (hM.a34).1 dX11_sameParts_102 hM.1 ?_
        refine x_iload_n (μ := mu_tw_sameParts) (pc := 105) 2 dX11_sameParts_105 rfl ?_
        refine x_iald (μ := mu_tw_sameParts) (pc := 106) dX11_sameParts_106 (hM.a34).2.1 (hM.a34).2.2 (fun hr16 => ?_)
        refine x_aload_n (μ := mu_tw_sameParts) (pc := 107) 1 dX11_sameParts_107 rfl ?_
        refine x_fgrE (μ := mu_tw_sameParts) (pc := 108) fX11_34 (Or.inr ⟨_, rfl⟩) q2670 (hM.a34).1 dX11_sameParts_108 hM.1 ?_
        refine x_iload_n (μ := mu_tw_sameParts) (pc := 111) 3 dX11_sameParts_111 rfl ?_
        refine x_iald (μ := mu_tw_sameParts) (pc := 112) dX11_sameParts_112 (hM.a34).2.1 (hM.a34).2.2 (fun hr17 => ?_)
        refine x_icmp_ne (μ := mu_tw_sameParts) (pc := 113) (tgt := 135) dX11_sameParts_113 rfl hr16 hr17 ?_ ?_
        · refine x_loc (lv' := [(0, vR h), (1, vI v1), (2, vI v2)]) [1, 2, 3] rfl ?_
          exact okj_tw_sameParts_j135 hdp hM hv1 hv2
        · refine x_aload_n (μ := mu_tw_sameParts) (pc := 116) 1 dX11_sameParts_116 rfl ?_
          refine x_fgrE (μ := mu_tw_sameParts) (pc := 117) fX11_35 (Or.inr ⟨_, rfl⟩) q2671 (hM.a35).1 dX11_sameParts_117 hM.1 ?_
          refine x_iload_n (μ := mu_tw_sameParts) (pc := 120) 2 dX11_sameParts_120 rfl ?_
          refine x_iald (μ := mu_tw_sameParts) (pc := 121) dX11_sameParts_121 (hM.a35).2.1 (hM.a35).2.2 (fun hr18 => ?_)
          refine x_aload_n (μ := mu_tw_sameParts) (pc := 122) 1 dX11_sameParts_122 rfl ?_
          refine x_fgrE (μ := mu_tw_sameParts) (pc := 123) fX11_35 (Or.inr ⟨_, rfl⟩) q2671 (hM.a35).1 dX11_sameParts_123 hM.1 ?_
          refine x_iload_n (μ := mu_tw_sameParts) (pc := 126) 3 dX11_sameParts_126 rfl ?_
          refine x_iald (μ := mu_tw_sameParts) (pc := 127) dX11_sameParts_127 (hM.a35).2.1 (hM.a35).2.2 (fun hr19 => ?_)
          refine x_icmp_ne (μ := mu_tw_sameParts) (pc := 128) (tgt := 135) dX11_sameParts_128 rfl hr18 hr19 ?_ ?_
          · refine x_loc (lv' := [(0, vR h), (1, vI v1), (2, vI v2)]) [1, 2, 3] rfl ?_
            exact okj_tw_sameParts_j135 hdp hM hv1 hv2
          · refine x_iconst (μ := mu_tw_sameParts) (pc := 131) dX11_sameParts_131 ?_
            refine x_goto (μ := mu_tw_sameParts) (pc := 132) (tgt := 136) dX11_sameParts_132 rfl ?_
            refine x_loc (lv' := [(0, vR h), (1, vI v1), (2, vI v2)]) [1, 2, 3] rfl ?_
            exact okj_tw_sameParts_j136 hdp hM hv1 hv2 (by decide)
def tw_sameParts_j65 (N : Nat) (h : Nat) (σ : gMem) (v1 : Int) (v2 : Int) : Option Int := tw_sameParts_j66 N h σ v1 v2 0
set_option maxRecDepth 100000 in
theorem okj_tw_sameParts_j65 {ω : gW} {l : Launch} {d : Nat} {N : Nat} {h : Nat} {σ : gMem} {v1 : Int} {v2 : Int} (hdp : 1 ≤ d) (hM : TM σ h) (hv1 : g32 v1) (hv2 : g32 v2) : GG (fun x : Int => (.inl (some (vI x)), σ)) gTw ω l d mu_tw_sameParts σ 65 [(0, vR h), (1, vI v1), (2, vI v2)] [] σ (tw_sameParts_j65 N h σ v1 v2 ) := by
  unfold tw_sameParts_j65
  refine x_iconst (μ := mu_tw_sameParts) (pc := 65) dX11_sameParts_65 ?_
  exact okj_tw_sameParts_j66 hdp hM hv1 hv2 (by decide)
def tw_sameParts (N : Nat) (h : Nat) (v1 : Int) (v2 : Int) (σ : gMem) : Option Int := if 0 ≤ v1 ∧ v1 < ((60420 : Nat) : Int) then if 0 ≤ v2 ∧ v2 < ((60420 : Nat) : Int) then if mI σ (h + 14) v1.toNat ≠ mI σ (h + 14) v2.toNat then tw_sameParts_j65 N h σ v1 v2  else if 0 ≤ v1 ∧ v1 < ((60420 : Nat) : Int) then if 0 ≤ v2 ∧ v2 < ((60420 : Nat) : Int) then if mI σ (h + 15) v1.toNat ≠ mI σ (h + 15) v2.toNat then tw_sameParts_j65 N h σ v1 v2  else if 0 ≤ v1 ∧ v1 < ((60420 : Nat) : Int) then if 0 ≤ v2 ∧ v2 < ((60420 : Nat) : Int) then if gcmp (mL σ (h + 17) v1.toNat) (mL σ (h + 17) v2.toNat) ≠ 0 then tw_sameParts_j65 N h σ v1 v2  else if 0 ≤ v1 ∧ v1 < ((60420 : Nat) : Int) then if 0 ≤ v2 ∧ v2 < ((60420 : Nat) : Int) then if mI σ (h + 19) v1.toNat ≠ mI σ (h + 19) v2.toNat then tw_sameParts_j65 N h σ v1 v2  else tw_sameParts_j66 N h σ v1 v2 1 else none else none else none else none else none else none else none else none
set_option maxRecDepth 100000 in
theorem ok_tw_sameParts {ω : gW} {l : Launch} {d : Nat} {N : Nat} {h : Nat} {σ : gMem} {v1 : Int} {v2 : Int} (hdp : 1 ≤ d) (hM : TM σ h) (hv1 : g32 v1) (hv2 : g32 v2) : gK (fun x : Int => (.inl (some (vI x)), σ)) gTw ω l d mu_tw_sameParts [vR h, vI v1, vI v2] σ (tw_sameParts N h v1 v2 σ) := by
  refine gK.of hp_X11 (Nat.le_of_ble_eq_true rfl) ?_
  unfold tw_sameParts
  refine x_aload_n (μ := mu_tw_sameParts) (pc := 0) 0 dX11_sameParts_0 rfl ?_
  refine x_fgrE (μ := mu_tw_sameParts) (pc := 1) fX11_26 (Or.inr ⟨_, rfl⟩) q2662 (hM.a26).1 dX11_sameParts_1 hM.1 ?_
  refine x_iload_n (μ := mu_tw_sameParts) (pc := 4) 1 dX11_sameParts_4 rfl ?_
  refine x_iald (μ := mu_tw_sameParts) (pc := 5) dX11_sameParts_5 (hM.a26).2.1 (hM.a26).2.2 (fun hr1 => ?_)
  refine x_aload_n (μ := mu_tw_sameParts) (pc := 6) 0 dX11_sameParts_6 rfl ?_
  refine x_fgrE (μ := mu_tw_sameParts) (pc := 7) fX11_26 (Or.inr ⟨_, rfl⟩) q2662 (hM.a26).1 dX11_sameParts_7 hM.1 ?_
  refine x_iload_n (μ := mu_tw_sameParts) (pc := 10) 2 dX11_sameParts_10 rfl ?_
  refine x_iald (μ := mu_tw_sameParts) (pc := 11) dX11_sameParts_11 (hM.a26).2.1 (hM.a26).2.2 (fun hr2 => ?_)
  refine x_icmp_ne (μ := mu_tw_sameParts) (pc := 12) (tgt := 65) dX11_sameParts_12 rfl hr1 hr2 ?_ ?_
  · exact okj_tw_sameParts_j65 hdp hM hv1 hv2
  · refine x_aload_n (μ := mu_tw_sameParts) (pc := 15) 0 dX11_sameParts_15 rfl ?_
    refine x_fgrE (μ := mu_tw_sameParts) (pc := 16) fX11_27 (Or.inr ⟨_, rfl⟩) q2663 (hM.a27).1 dX11_sameParts_16 hM.1 ?_
    refine x_iload_n (μ := mu_tw_sameParts) (pc := 19) 1 dX11_sameParts_19 rfl ?_
    refine x_iald (μ := mu_tw_sameParts) (pc := 20) dX11_sameParts_20 (hM.a27).2.1 (hM.a27).2.2 (fun hr20 => ?_)
    refine x_aload_n (μ := mu_tw_sameParts) (pc := 21) 0 dX11_sameParts_21 rfl ?_
    refine x_fgrE (μ := mu_tw_sameParts) (pc := 22) fX11_27 (Or.inr ⟨_, rfl⟩) q2663 (hM.a27).1 dX11_sameParts_22 hM.1 ?_
    refine x_iload_n (μ := mu_tw_sameParts) (pc := 25) 2 dX11_sameParts_25 rfl ?_
    refine x_iald (μ := mu_tw_sameParts) (pc := 26) dX11_sameParts_26 (hM.a27).2.1 (hM.a27).2.2 (fun hr21 => ?_)
    refine x_icmp_ne (μ := mu_tw_sameParts) (pc := 27) (tgt := 65) dX11_sameParts_27 rfl hr20 hr21 ?_ ?_
    · exact okj_tw_sameParts_j65 hdp hM hv1 hv2
    · refine x_aload_n (μ := mu_tw_sameParts) (pc := 30) 0 dX11_sameParts_30 rfl ?_
      refine x_fgrE (μ := mu_tw_sameParts) (pc := 31) fX11_29 (Or.inr ⟨_, rfl⟩) q2665 (hM.a29).1 dX11_sameParts_31 hM.1 ?_
      refine x_iload_n (μ := mu_tw_sameParts) (pc := 34) 1 dX11_sameParts_34 rfl ?_
      refine x_lald (μ := mu_tw_sameParts) (pc := 35) dX11_sameParts_35 (hM.a29).2.1 (hM.a29).2.2 (fun hr22 => ?_)
      refine x_aload_n (μ := mu_tw_sameParts) (pc := 36) 0 dX11_sameParts_36 rfl ?_
      refine x_fgrE (μ := mu_tw_sameParts) (pc := 37) fX11_29 (Or.inr ⟨_, rfl⟩) q2665 (hM.a29).1 dX11_sameParts_37 hM.1 ?_
      refine x_iload_n (μ := mu_tw_sameParts) (pc := 40) 2 dX11_sameParts_40 rfl ?_
      refine x_lald (μ := mu_tw_sameParts) (pc := 41) dX11_sameParts_41 (hM.a29).2.1 (hM.a29).2.2 (fun hr23 => ?_)
      refine x_lcmp (μ := mu_tw_sameParts) (pc := 42) dX11_sameParts_42 hr22 hr23 ?_
      refine x_if_ne (μ := mu_tw_sameParts) (pc := 43) (tgt := 65) dX11_sameParts_43 rfl (gcmp_rng _ _) ?_ ?_
      · exact okj_tw_sameParts_j65 hdp hM hv1 hv2
      · refine x_aload_n (μ := mu_tw_sameParts) (pc := 46) 0 dX11_sameParts_46 rfl ?_
        refine x_fgrE (μ := mu_tw_sameParts) (pc := 47) fX11_31 (Or.inr ⟨_, rfl⟩) q2667 (hM.a31).1 dX11_sameParts_47 hM.1 ?_
        refine x_iload_n (μ := mu_tw_sameParts) (pc := 50) 1 dX11_sameParts_50 rfl ?_
        refine x_iald (μ := mu_tw_sameParts) (pc := 51) dX11_sameParts_51 (hM.a31).2.1 (hM.a31).2.2 (fun hr24 => ?_)
        refine x_aload_n (μ := mu_tw_sameParts) (pc := 52) 0 dX11_sameParts_52 rfl ?_
        refine x_fgrE (μ := mu_tw_sameParts) (pc := 53) fX11_31 (Or.inr ⟨_, rfl⟩) q2667 (hM.a31).1 dX11_sameParts_53 hM.1 ?_
        refine x_iload_n (μ := mu_tw_sameParts) (pc := 56) 2 dX11_sameParts_56 rfl ?_
        refine x_iald (μ := mu_tw_sameParts) (pc := 57) dX11_sameParts_57 (hM.a31).2.1 (hM.a31).2.2 (fun hr25 => ?_)
        refine x_icmp_ne (μ := mu_tw_sameParts) (pc := 58) (tgt := 65) dX11_sameParts_58 rfl hr24 hr25 ?_ ?_
        · exact okj_tw_sameParts_j65 hdp hM hv1 hv2
        · refine x_iconst (μ := mu_tw_sameParts) (pc := 61) dX11_sameParts_61 ?_
          refine x_goto (μ := mu_tw_sameParts) (pc := 62) (tgt := 66) dX11_sameParts_62 rfl ?_
          exact okj_tw_sameParts_j66 hdp hM hv1 hv2 (by decide)
def tw_become (N : Nat) (h : Nat) (v1 : Int) (σ : gMem) : Option gMem := (tw_copySheet N h v1 40 σ).bind (fun x1 => gLet (wI x1 h 13 (-1)) (fun s4 => gLet (wI s4 h 98 0) (fun s7 => (tw_forgetSteps h s7).bind (fun x10 => some x10))))
set_option maxRecDepth 100000 in
theorem ok_tw_become {ω : gW} {l : Launch} {d : Nat} {N : Nat} {h : Nat} {σ : gMem} {v1 : Int} (hdp : 1 ≤ d) (hM : TM σ h) (hv1 : g32 v1) : gK (fun p : gMem => (.inl none, p)) gTw ω l d mu_tw_become [vR h, vI v1] σ (tw_become N h v1 σ) := by
  refine gK.of hp_X11 (Nat.le_of_ble_eq_true rfl) ?_
  unfold tw_become
  refine x_aload_n (μ := mu_tw_become) (pc := 0) 0 dX11_become_0 rfl ?_
  refine x_iload_n (μ := mu_tw_become) (pc := 1) 1 dX11_become_1 rfl ?_
  refine x_bipush (μ := mu_tw_become) (pc := 2) dX11_become_2 (by decide) ?_
  refine x_callV_mv (μ := mu_tw_become) (pc := 4) (ok_tw_copySheet (ω := ω) (l := l) (d := d - 1) (by omega) hM hv1 (by decide)) gRel_Tw gRel_Tw (fun _ q => q) q2632 q2634 qs77 q232 q2635 dX11_become_4 rfl hM.1 hy_tw_copySheet (by omega) (Nat.le_of_ble_eq_true rfl) rfl (Nat.le_of_ble_eq_true rfl) (fun x1 k2 => ?_)
  have hM3 : TM x1 h := hM.tw k2
  refine x_aload_n (μ := mu_tw_become) (pc := 7) 0 dX11_become_7 rfl ?_
  refine x_iconst (μ := mu_tw_become) (pc := 8) dX11_become_8 ?_
  refine x_fpi (μ := mu_tw_become) (pc := 9) fX11_13 q2649 dX11_become_9 hM3.1 (fun _ q => gTw_wI q) ?_
  refine x_let (fun s4 e5 => ?_)
  have hM6 := TM.eI e5 hM3
  refine x_aload_n (μ := mu_tw_become) (pc := 12) 0 dX11_become_12 rfl ?_
  refine x_iconst (μ := mu_tw_become) (pc := 13) dX11_become_13 ?_
  refine x_fpi (μ := mu_tw_become) (pc := 14) fX11_98 q2734 dX11_become_14 hM6.1 (fun _ q => gTw_wI q) ?_
  refine x_let (fun s7 e8 => ?_)
  have hM9 := TM.eI e8 hM6
  refine x_aload_n (μ := mu_tw_become) (pc := 17) 0 dX11_become_17 rfl ?_
  refine x_callV_mv (μ := mu_tw_become) (pc := 18) (ok_tw_forgetSteps (ω := ω) (l := l) (d := d - 1) (by omega) hM9 ) gRel_Tw gRel_Tw (fun _ q => q) q3632 q3634 qs202 q232 q3635 dX11_become_18 rfl hM9.1 hy_tw_forgetSteps (by omega) (Nat.le_of_ble_eq_true rfl) rfl (Nat.le_of_ble_eq_true rfl) (fun x10 k11 => ?_)
  have hM12 : TM x10 h := hM9.tw k11
  exact x_vret (μ := mu_tw_become) (pc := 21) (a1 := x10) dX11_become_21 rfl rfl (gRel_Tw.1 _) trivial
def tw_drop (N : Nat) (h : Nat) (σ : gMem) : Option (Int × gMem) := gLet (wI σ h 0 0) (fun s1 => (tw_head h s1).bind (fun x4 => (tw_become N h x4 s1).bind (fun x6 => (tw_head h x6).bind (fun x9 => some (x9, x6)))))
set_option maxRecDepth 100000 in
theorem ok_tw_drop {ω : gW} {l : Launch} {d : Nat} {N : Nat} {h : Nat} {σ : gMem} (hdp : 2 ≤ d) (hM : TM σ h) : gK (fun p : Int × gMem => (.inl (some (vI p.1)), p.2)) gTw ω l d mu_tw_drop [vR h] σ (tw_drop N h σ) := by
  refine gK.of hp_X11 (Nat.le_of_ble_eq_true rfl) ?_
  unfold tw_drop
  refine x_aload_n (μ := mu_tw_drop) (pc := 0) 0 dX11_drop_0 rfl ?_
  refine x_iconst (μ := mu_tw_drop) (pc := 1) dX11_drop_1 ?_
  refine x_fpi (μ := mu_tw_drop) (pc := 2) fX11_0 q2636 dX11_drop_2 hM.1 (fun _ q => gTw_wI q) ?_
  refine x_let (fun s1 e2 => ?_)
  have hM3 := TM.eI e2 hM
  refine x_aload_n (μ := mu_tw_drop) (pc := 5) 0 dX11_drop_5 rfl ?_
  refine x_aload_n (μ := mu_tw_drop) (pc := 6) 0 dX11_drop_6 rfl ?_
  refine x_callV_pi (μ := mu_tw_drop) (pc := 7) (ok_tw_head (ω := ω) (l := l) (d := d - 1) (by omega) hM3 ) gRel_Tw gRel_Tw (fun _ q => q) q3596 q3598 qs195 q232 q3599 dX11_drop_7 rfl hM3.1 hy_tw_head (by omega) (Nat.le_of_ble_eq_true rfl) rfl (Nat.le_of_ble_eq_true rfl) (fun x4 hr5 => ?_)
  refine x_callV_mv (μ := mu_tw_drop) (pc := 10) (ok_tw_become (ω := ω) (l := l) (d := d - 1) (by omega) hM3 hr5) gRel_Tw gRel_Tw (fun _ q => q) q3628 q3630 qs201 q232 q3631 dX11_drop_10 rfl hM3.1 hy_tw_become (by omega) (Nat.le_of_ble_eq_true rfl) rfl (Nat.le_of_ble_eq_true rfl) (fun x6 k7 => ?_)
  have hM8 : TM x6 h := hM3.tw k7
  refine x_aload_n (μ := mu_tw_drop) (pc := 13) 0 dX11_drop_13 rfl ?_
  refine x_callV_pi (μ := mu_tw_drop) (pc := 14) (ok_tw_head (ω := ω) (l := l) (d := d - 1) (by omega) hM8 ) gRel_Tw gRel_Tw (fun _ q => q) q3596 q3598 qs195 q232 q3599 dX11_drop_14 rfl hM8.1 hy_tw_head (by omega) (Nat.le_of_ble_eq_true rfl) rfl (Nat.le_of_ble_eq_true rfl) (fun x9 hr10 => ?_)
  exact x_iret (μ := mu_tw_drop) (pc := 17) dX11_drop_17 rfl rfl (gRel_Tw.1 _) (show g32 x9 from hr10)
def tw_base_l60_j78 (N : Nat) (h : Nat) (v3 : Int) (Kh : Int → gMem → Option (Int × gMem)) (K : Int → gMem → Option (Int × gMem)) (s : gMem) : Option (Int × gMem) := Kh (w32 (v3 + (-1))) s
set_option maxRecDepth 100000 in
theorem okj_tw_base_l60_j78 {ω : gW} {l : Launch} {d : Nat} {N : Nat} {h : Nat} {σ0 : gMem} {s : gMem} {v3 : Int} {Kh : Int → gMem → Option (Int × gMem)} {K : Int → gMem → Option (Int × gMem)} (hdp : 1 ≤ d) (hM : TM s h) (hv3 : g32 v3) (hKh : ∀ (v3 : Int) (s : gMem) , g32 v3 → TM s h → GG (fun p : Int × gMem => (.inl (some (vI p.1)), p.2)) gTw ω l d mu_tw_base σ0 60 [(0, vR h), (3, vI v3)] [] s (Kh v3 s)) (hK : ∀ (v3 : Int) (s : gMem) , g32 v3 → TM s h → GG (fun p : Int × gMem => (.inl (some (vI p.1)), p.2)) gTw ω l d mu_tw_base σ0 84 [(3, vI v3)] [] s (K v3 s)) : GG (fun p : Int × gMem => (.inl (some (vI p.1)), p.2)) gTw ω l d mu_tw_base σ0 78 [(0, vR h), (3, vI v3)] [] s (tw_base_l60_j78 N h v3 Kh K s) := by
  unfold tw_base_l60_j78
  refine x_iincw (μ := mu_tw_base) (pc := 78) (lv' := [(3, vI (w32 (v3 + (-1)))), (0, vR h)]) 1 dX11_base_78 rfl (by decide) rfl ?_
  refine x_goto (μ := mu_tw_base) (pc := 81) (tgt := 60) dX11_base_81 rfl ?_
  refine x_loc (lv' := [(0, vR h), (3, vI (w32 (v3 + (-1))))]) [1, 0] rfl ?_
  exact hKh (w32 (v3 + (-1))) s (w32_rng _) hM
def tw_base_l60 (N : Nat) (h : Nat) (K : Int → gMem → Option (Int × gMem)) : Nat → Int → gMem → Option (Int × gMem)
  | 0, _, _ => none
  | n + 1, v3, s => if 0 ≤ v3 ∧ v3 < ((40 : Nat) : Int) then if mI s (h + 44) v3.toNat = 0 then tw_base_l60_j78 N h v3  (tw_base_l60 N h K n) K s else if 0 ≤ v3 ∧ v3 < ((40 : Nat) : Int) then if mI s (h + 45) v3.toNat ≠ 0 then K v3 s else tw_base_l60_j78 N h v3  (tw_base_l60 N h K n) K s else none else none
set_option maxRecDepth 100000 in
theorem okl_tw_base_l60 {ω : gW} {l : Launch} {d : Nat} {N : Nat} {h : Nat} {σ0 : gMem} {K : Int → gMem → Option (Int × gMem)} (hdp : 1 ≤ d) (hK : ∀ (v3 : Int) (s : gMem) , g32 v3 → TM s h → GG (fun p : Int × gMem => (.inl (some (vI p.1)), p.2)) gTw ω l d mu_tw_base σ0 84 [(3, vI v3)] [] s (K v3 s)) : ∀ (n : Nat) (v3 : Int) (s : gMem) , g32 v3 → TM s h → GG (fun p : Int × gMem => (.inl (some (vI p.1)), p.2)) gTw ω l d mu_tw_base σ0 60 [(0, vR h), (3, vI v3)] [] s (tw_base_l60 N h K n v3 s) := by
  intro n
  induction n with
  | zero => intros; exact x_none
  | succ n ih =>
    intro v3 s hv3 hM
    unfold tw_base_l60
    refine x_aload_n (μ := mu_tw_base) (pc := 60) 0 dX11_base_60 rfl ?_
    refine x_fgrE (μ := mu_tw_base) (pc := 61) fX11_89 (Or.inr ⟨_, rfl⟩) q2725 (hM.a89).1 dX11_base_61 hM.1 ?_
    refine x_iload_n (μ := mu_tw_base) (pc := 64) 1 dX11_base_64 rfl ?_
    refine x_zald (μ := mu_tw_base) (pc := 65) dX11_base_65 (hM.a89).2.1 (hM.a89).2.2 (fun hr17 => ?_)
    refine x_if_eq (μ := mu_tw_base) (pc := 66) (tgt := 78) dX11_base_66 rfl hr17 ?_ ?_
    · exact okj_tw_base_l60_j78 hdp hM hv3 ih hK
    · refine x_aload_n (μ := mu_tw_base) (pc := 69) 0 dX11_base_69 rfl ?_
      refine x_fgrE (μ := mu_tw_base) (pc := 70) fX11_90 (Or.inr ⟨_, rfl⟩) q2726 (hM.a90).1 dX11_base_70 hM.1 ?_
      refine x_iload_n (μ := mu_tw_base) (pc := 73) 1 dX11_base_73 rfl ?_
      refine x_zald (μ := mu_tw_base) (pc := 74) dX11_base_74 (hM.a90).2.1 (hM.a90).2.2 (fun hr18 => ?_)
      refine x_if_ne (μ := mu_tw_base) (pc := 75) (tgt := 84) dX11_base_75 rfl hr18 ?_ ?_
      · refine x_loc (lv' := [(3, vI v3)]) [1] rfl ?_
        exact hK v3 s hv3 hM
      · exact okj_tw_base_l60_j78 hdp hM hv3 ih hK
def tw_base (N : Nat) (h : Nat) (v1 : Int) (v2 : Int) (σ : gMem) : Option (Int × gMem) := gLet (wI σ h 0 0) (fun s1 => (tw_in v1 0 (w32 ((mI s1 h 8) - 1)) s1).bind (fun x5 => if x5 = 0 then some ((-1), s1) else (tw_in v2 0 (w32 ((mI s1 h 8) - 1)) s1).bind (fun x8 => if x8 ≠ 0 then (tw_ancestors N h v1 (h + 44) s1).bind (fun x10 => (tw_ancestors N h v2 (h + 45) x10).bind (fun x13 => tw_base_l60 N h (fun y19 s20 => some (y19, s20)) N (w32 ((mI x13 h 8) - 1)) x13)) else some ((-1), s1))))
set_option maxRecDepth 100000 in
theorem ok_tw_base {ω : gW} {l : Launch} {d : Nat} {N : Nat} {h : Nat} {σ : gMem} {v1 : Int} {v2 : Int} (hdp : 1 ≤ d) (hM : TM σ h) (hv1 : g32 v1) (hv2 : g32 v2) : gK (fun p : Int × gMem => (.inl (some (vI p.1)), p.2)) gTw ω l d mu_tw_base [vR h, vI v1, vI v2] σ (tw_base N h v1 v2 σ) := by
  refine gK.of hp_X11 (Nat.le_of_ble_eq_true rfl) ?_
  unfold tw_base
  refine x_aload_n (μ := mu_tw_base) (pc := 0) 0 dX11_base_0 rfl ?_
  refine x_iconst (μ := mu_tw_base) (pc := 1) dX11_base_1 ?_
  refine x_fpi (μ := mu_tw_base) (pc := 2) fX11_0 q2636 dX11_base_2 hM.1 (fun _ q => gTw_wI q) ?_
  refine x_let (fun s1 e2 => ?_)
  have hM3 := TM.eI e2 hM
  refine x_iload_n (μ := mu_tw_base) (pc := 5) 1 dX11_base_5 rfl ?_
  refine x_iconst (μ := mu_tw_base) (pc := 6) dX11_base_6 ?_
  refine x_aload_n (μ := mu_tw_base) (pc := 7) 0 dX11_base_7 rfl ?_
  refine x_fgi (μ := mu_tw_base) (pc := 8) fX11_8 q2644 dX11_base_8 hM3.1 (fun hr4 => ?_)
  refine x_iconst (μ := mu_tw_base) (pc := 11) dX11_base_11 ?_
  refine x_isub (μ := mu_tw_base) (pc := 12) dX11_base_12 ?_
  refine x_w1 ?_
  refine x_callS_pi (μ := mu_tw_base) (pc := 13) (ok_tw_in (ω := ω) (l := l) (d := d - 1) (by omega) hv1 (by decide) (w32_rng _)) gRel_Tw gRel_Tw (fun _ q => q) q2980 q2981 q232 q2982 dX11_base_13 hy_tw_in (by omega) (Nat.le_of_ble_eq_true rfl) rfl (Nat.le_of_ble_eq_true rfl) (fun x5 hr6 => ?_)
  refine x_if_eq (μ := mu_tw_base) (pc := 16) (tgt := 33) dX11_base_16 rfl hr6 ?_ ?_
  · refine x_iconst (μ := mu_tw_base) (pc := 33) dX11_base_33 ?_
    exact x_iret (μ := mu_tw_base) (pc := 34) dX11_base_34 rfl rfl (gRel_Tw.1 _) (show g32 (-1) from (by decide))
  · refine x_iload_n (μ := mu_tw_base) (pc := 19) 2 dX11_base_19 rfl ?_
    refine x_iconst (μ := mu_tw_base) (pc := 20) dX11_base_20 ?_
    refine x_aload_n (μ := mu_tw_base) (pc := 21) 0 dX11_base_21 rfl ?_
    refine x_fgi (μ := mu_tw_base) (pc := 22) fX11_8 q2644 dX11_base_22 hM3.1 (fun hr7 => ?_)
    refine x_iconst (μ := mu_tw_base) (pc := 25) dX11_base_25 ?_
    refine x_isub (μ := mu_tw_base) (pc := 26) dX11_base_26 ?_
    refine x_w1 ?_
    refine x_callS_pi (μ := mu_tw_base) (pc := 27) (ok_tw_in (ω := ω) (l := l) (d := d - 1) (by omega) hv2 (by decide) (w32_rng _)) gRel_Tw gRel_Tw (fun _ q => q) q2980 q2981 q232 q2982 dX11_base_27 hy_tw_in (by omega) (Nat.le_of_ble_eq_true rfl) rfl (Nat.le_of_ble_eq_true rfl) (fun x8 hr9 => ?_)
    refine x_if_ne (μ := mu_tw_base) (pc := 30) (tgt := 35) dX11_base_30 rfl hr9 ?_ ?_
    · refine x_aload_n (μ := mu_tw_base) (pc := 35) 0 dX11_base_35 rfl ?_
      refine x_iload_n (μ := mu_tw_base) (pc := 36) 1 dX11_base_36 rfl ?_
      refine x_aload_n (μ := mu_tw_base) (pc := 37) 0 dX11_base_37 rfl ?_
      refine x_fgrE (μ := mu_tw_base) (pc := 38) fX11_89 (Or.inr ⟨_, rfl⟩) q2725 (hM3.a89).1 dX11_base_38 hM3.1 ?_
      refine x_callV_mv (μ := mu_tw_base) (pc := 41) (ok_tw_ancestors (ω := ω) (l := l) (d := d - 1) (by omega) hM3 hv1) gRel_Tw gRel_Tw (fun _ q => q) q3644 q3646 qs203 q232 q3647 dX11_base_41 rfl hM3.1 hy_tw_ancestors (by omega) (Nat.le_of_ble_eq_true rfl) rfl (Nat.le_of_ble_eq_true rfl) (fun x10 k11 => ?_)
      have hM12 : TM x10 h := hM3.tw k11
      refine x_aload_n (μ := mu_tw_base) (pc := 44) 0 dX11_base_44 rfl ?_
      refine x_iload_n (μ := mu_tw_base) (pc := 45) 2 dX11_base_45 rfl ?_
      refine x_aload_n (μ := mu_tw_base) (pc := 46) 0 dX11_base_46 rfl ?_
      refine x_fgrE (μ := mu_tw_base) (pc := 47) fX11_90 (Or.inr ⟨_, rfl⟩) q2726 (hM12.a90).1 dX11_base_47 hM12.1 ?_
      refine x_callV_mv (μ := mu_tw_base) (pc := 50) (ok_tw_ancestors (ω := ω) (l := l) (d := d - 1) (by omega) hM12 hv2) gRel_Tw gRel_Tw (fun _ q => q) q3644 q3646 qs203 q232 q3647 dX11_base_50 rfl hM12.1 hy_tw_ancestors (by omega) (Nat.le_of_ble_eq_true rfl) rfl (Nat.le_of_ble_eq_true rfl) (fun x13 k14 => ?_)
      have hM15 : TM x13 h := hM12.tw k14
      refine x_aload_n (μ := mu_tw_base) (pc := 53) 0 dX11_base_53 rfl ?_
      refine x_fgi (μ := mu_tw_base) (pc := 54) fX11_8 q2644 dX11_base_54 hM15.1 (fun hr16 => ?_)
      refine x_iconst (μ := mu_tw_base) (pc := 57) dX11_base_57 ?_
      refine x_isub (μ := mu_tw_base) (pc := 58) dX11_base_58 ?_
      refine x_w1 ?_
      refine x_istore_n (μ := mu_tw_base) (pc := 59) (lv' := [(3, vI (w32 ((mI x13 h 8) - 1))), (0, vR h), (1, vI v1), (2, vI v2)]) dX11_base_59 rfl (by decide) rfl ?_
      refine x_loc (lv' := [(0, vR h), (3, vI (w32 ((mI x13 h 8) - 1)))]) [1, 0] rfl ?_
      refine okl_tw_base_l60 hdp (fun y19 s20 hy19 hM21 => ?_) N (w32 ((mI x13 h 8) - 1)) x13 (w32_rng _) hM15
      refine x_iload_n (μ := mu_tw_base) (pc := 84) 0 dX11_base_84 rfl ?_
      exact x_iret (μ := mu_tw_base) (pc := 85) dX11_base_85 rfl rfl (gRel_Tw.1 _) (show g32 y19 from hy19)
    · refine x_iconst (μ := mu_tw_base) (pc := 33) dX11_base_33 ?_
      exact x_iret (μ := mu_tw_base) (pc := 34) dX11_base_34 rfl rfl (gRel_Tw.1 _) (show g32 (-1) from (by decide))
def tw_sameOrder_l6_j82 (N : Nat) (h : Nat) (σ : gMem) (v1 : Int) (v2 : Int) (v3 : Int) (v4 : Int) (v6 : Int) (t0 : Int) (Kh : Int → Int → Option Int) (K : Option Int) : Option Int := Kh t0 (w32 (v6 + 1))
set_option maxRecDepth 100000 in
theorem okj_tw_sameOrder_l6_j82 {ω : gW} {l : Launch} {d : Nat} {N : Nat} {h : Nat} {σ : gMem} {v1 : Int} {v2 : Int} {v3 : Int} {v4 : Int} {v6 : Int} {t0 : Int} {Kh : Int → Int → Option Int} {K : Option Int} (hdp : 2 ≤ d) (hM : TM σ h) (hv1 : g32 v1) (hv2 : g32 v2) (hv3 : g32 v3) (hv4 : g32 v4) (hv6 : g32 v6) (ht0 : g32 t0) (hKh : ∀ (v5 : Int) (v6 : Int) , g32 v5 → g32 v6 → GG (fun x : Int => (.inl (some (vI x)), σ)) gTw ω l d mu_tw_sameOrder σ 6 [(0, vR h), (1, vI v1), (2, vI v2), (3, vI v3), (4, vI v4), (5, vI v5), (6, vI v6)] [] σ (Kh v5 v6)) (hK : GG (fun x : Int => (.inl (some (vI x)), σ)) gTw ω l d mu_tw_sameOrder σ 90 [] [] σ (K)) : GG (fun x : Int => (.inl (some (vI x)), σ)) gTw ω l d mu_tw_sameOrder σ 82 [(0, vR h), (1, vI v1), (2, vI v2), (3, vI v3), (4, vI v4), (6, vI v6)] [vI t0] σ (tw_sameOrder_l6_j82 N h σ v1 v2 v3 v4 v6 t0 Kh K ) := by
  unfold tw_sameOrder_l6_j82
  refine x_istore (μ := mu_tw_sameOrder) (pc := 82) (lv' := [(5, vI t0), (0, vR h), (1, vI v1), (2, vI v2), (3, vI v3), (4, vI v4), (6, vI v6)]) dX11_sameOrder_82 (by decide) rfl ?_
  refine x_iincw (μ := mu_tw_sameOrder) (pc := 84) (lv' := [(6, vI (w32 (v6 + 1))), (5, vI t0), (0, vR h), (1, vI v1), (2, vI v2), (3, vI v3), (4, vI v4)]) 6 dX11_sameOrder_84 rfl (by decide) rfl ?_
  refine x_goto (μ := mu_tw_sameOrder) (pc := 87) (tgt := 6) dX11_sameOrder_87 rfl ?_
  refine x_loc (lv' := [(0, vR h), (1, vI v1), (2, vI v2), (3, vI v3), (4, vI v4), (5, vI t0), (6, vI (w32 (v6 + 1)))]) [2, 3, 4, 5, 6, 1, 0] rfl ?_
  exact hKh t0 (w32 (v6 + 1)) ht0 (w32_rng _)
def tw_sameOrder_l6_j70 (N : Nat) (h : Nat) (σ : gMem) (v1 : Int) (v2 : Int) (v3 : Int) (v4 : Int) (v5 : Int) (v6 : Int) (v8 : Int) (Kh : Int → Int → Option Int) (K : Option Int) : Option Int := if v8 < 0 then tw_sameOrder_l6_j82 N h σ v1 v2 v3 v4 v6 v5 (Kh) K else tw_sameOrder_l6_j82 N h σ v1 v2 v3 v4 v6 v8 (Kh) K
set_option maxRecDepth 100000 in
theorem okj_tw_sameOrder_l6_j70 {ω : gW} {l : Launch} {d : Nat} {N : Nat} {h : Nat} {σ : gMem} {v1 : Int} {v2 : Int} {v3 : Int} {v4 : Int} {v5 : Int} {v6 : Int} {v8 : Int} {Kh : Int → Int → Option Int} {K : Option Int} (hdp : 2 ≤ d) (hM : TM σ h) (hv1 : g32 v1) (hv2 : g32 v2) (hv3 : g32 v3) (hv4 : g32 v4) (hv5 : g32 v5) (hv6 : g32 v6) (hv8 : g32 v8) (hKh : ∀ (v5 : Int) (v6 : Int) , g32 v5 → g32 v6 → GG (fun x : Int => (.inl (some (vI x)), σ)) gTw ω l d mu_tw_sameOrder σ 6 [(0, vR h), (1, vI v1), (2, vI v2), (3, vI v3), (4, vI v4), (5, vI v5), (6, vI v6)] [] σ (Kh v5 v6)) (hK : GG (fun x : Int => (.inl (some (vI x)), σ)) gTw ω l d mu_tw_sameOrder σ 90 [] [] σ (K)) : GG (fun x : Int => (.inl (some (vI x)), σ)) gTw ω l d mu_tw_sameOrder σ 70 [(0, vR h), (1, vI v1), (2, vI v2), (3, vI v3), (4, vI v4), (5, vI v5), (6, vI v6), (8, vI v8)] [] σ (tw_sameOrder_l6_j70 N h σ v1 v2 v3 v4 v5 v6 v8 Kh K ) := by
  unfold tw_sameOrder_l6_j70
  refine x_iload (μ := mu_tw_sameOrder) (pc := 70) 7 dX11_sameOrder_70 rfl ?_
  refine x_if_lt (μ := mu_tw_sameOrder) (pc := 72) (tgt := 80) dX11_sameOrder_72 rfl hv8 ?_ ?_
  · refine x_iload (μ := mu_tw_sameOrder) (pc := 80) 5 dX11_sameOrder_80 rfl ?_
    refine x_loc (lv' := [(0, vR h), (1, vI v1), (2, vI v2), (3, vI v3), (4, vI v4), (6, vI v6)]) [0, 1, 2, 3, 4, 6] rfl ?_
    exact okj_tw_sameOrder_l6_j82 hdp hM hv1 hv2 hv3 hv4 hv6 hv5 hKh hK
  · refine x_iload (μ := mu_tw_sameOrder) (pc := 75) 7 dX11_sameOrder_75 rfl ?_
    refine x_goto (μ := mu_tw_sameOrder) (pc := 77) (tgt := 82) dX11_sameOrder_77 rfl ?_
    refine x_loc (lv' := [(0, vR h), (1, vI v1), (2, vI v2), (3, vI v3), (4, vI v4), (6, vI v6)]) [0, 1, 2, 3, 4, 6] rfl ?_
    exact okj_tw_sameOrder_l6_j82 hdp hM hv1 hv2 hv3 hv4 hv6 hv8 hKh hK
def tw_sameOrder_l6_j54 (N : Nat) (h : Nat) (σ : gMem) (v1 : Int) (v2 : Int) (v3 : Int) (v4 : Int) (v5 : Int) (v6 : Int) (t0 : Int) (Kh : Int → Int → Option Int) (K : Option Int) : Option Int := if t0 < 0 then tw_sameOrder_l6_j70 N h σ v1 v2 v3 v4 v5 v6 t0  (Kh) K else if v5 ≤ t0 then tw_sameOrder_l6_j70 N h σ v1 v2 v3 v4 v5 v6 t0  (Kh) K else some 0
set_option maxRecDepth 100000 in
theorem okj_tw_sameOrder_l6_j54 {ω : gW} {l : Launch} {d : Nat} {N : Nat} {h : Nat} {σ : gMem} {v1 : Int} {v2 : Int} {v3 : Int} {v4 : Int} {v5 : Int} {v6 : Int} {t0 : Int} {Kh : Int → Int → Option Int} {K : Option Int} (hdp : 2 ≤ d) (hM : TM σ h) (hv1 : g32 v1) (hv2 : g32 v2) (hv3 : g32 v3) (hv4 : g32 v4) (hv5 : g32 v5) (hv6 : g32 v6) (ht0 : g32 t0) (hKh : ∀ (v5 : Int) (v6 : Int) , g32 v5 → g32 v6 → GG (fun x : Int => (.inl (some (vI x)), σ)) gTw ω l d mu_tw_sameOrder σ 6 [(0, vR h), (1, vI v1), (2, vI v2), (3, vI v3), (4, vI v4), (5, vI v5), (6, vI v6)] [] σ (Kh v5 v6)) (hK : GG (fun x : Int => (.inl (some (vI x)), σ)) gTw ω l d mu_tw_sameOrder σ 90 [] [] σ (K)) : GG (fun x : Int => (.inl (some (vI x)), σ)) gTw ω l d mu_tw_sameOrder σ 54 [(0, vR h), (1, vI v1), (2, vI v2), (3, vI v3), (4, vI v4), (5, vI v5), (6, vI v6)] [vI t0] σ (tw_sameOrder_l6_j54 N h σ v1 v2 v3 v4 v5 v6 t0 Kh K ) := by
  unfold tw_sameOrder_l6_j54
  refine x_istore (μ := mu_tw_sameOrder) (pc := 54) (lv' := [(8, vI t0), (0, vR h), (1, vI v1), (2, vI v2), (3, vI v3), (4, vI v4), (5, vI v5), (6, vI v6)]) dX11_sameOrder_54 (by decide) rfl ?_
  refine x_iload (μ := mu_tw_sameOrder) (pc := 56) 0 dX11_sameOrder_56 rfl ?_
  refine x_if_lt (μ := mu_tw_sameOrder) (pc := 58) (tgt := 70) dX11_sameOrder_58 rfl ht0 ?_ ?_
  · refine x_loc (lv' := [(0, vR h), (1, vI v1), (2, vI v2), (3, vI v3), (4, vI v4), (5, vI v5), (6, vI v6), (8, vI t0)]) [1, 2, 3, 4, 5, 6, 7, 0] rfl ?_
    exact okj_tw_sameOrder_l6_j70 hdp hM hv1 hv2 hv3 hv4 hv5 hv6 ht0 hKh hK
  · refine x_iload (μ := mu_tw_sameOrder) (pc := 61) 0 dX11_sameOrder_61 rfl ?_
    refine x_iload (μ := mu_tw_sameOrder) (pc := 63) 6 dX11_sameOrder_63 rfl ?_
    refine x_icmp_ge (μ := mu_tw_sameOrder) (pc := 65) (tgt := 70) dX11_sameOrder_65 rfl ht0 hv5 ?_ ?_
    · refine x_loc (lv' := [(0, vR h), (1, vI v1), (2, vI v2), (3, vI v3), (4, vI v4), (5, vI v5), (6, vI v6), (8, vI t0)]) [1, 2, 3, 4, 5, 6, 7, 0] rfl ?_
      exact okj_tw_sameOrder_l6_j70 hdp hM hv1 hv2 hv3 hv4 hv5 hv6 ht0 hKh hK
    · refine x_iconst (μ := mu_tw_sameOrder) (pc := 68) dX11_sameOrder_68 ?_
      exact x_zret (μ := mu_tw_sameOrder) (pc := 69) dX11_sameOrder_69 rfl (by decide) rfl (gRel_Tw.1 _) (show g32 0 from (by decide))
def tw_sameOrder_l6 (N : Nat) (h : Nat) (σ : gMem) (v1 : Int) (v2 : Int) (v3 : Int) (v4 : Int) (K : Option Int) : Nat → Int → Int → Option Int
  | 0, _, _ => none
  | n + 1, v5, v6 => (tw_linesOf h v1 v4 σ).bind (fun x1 => if x1 ≤ v6 then K else (tw_lineAt h v1 v4 v6 σ).bind (fun x3 => (tw_placeOf N h v3 v4 x3 σ).bind (fun x5 => if 0 ≤ x5 then (tw_placeOf N h v2 v4 x3 σ).bind (fun x7 => tw_sameOrder_l6_j54 N h σ v1 v2 v3 v4 v5 v6 x7 (tw_sameOrder_l6 N h σ v1 v2 v3 v4 K n) K) else tw_sameOrder_l6_j54 N h σ v1 v2 v3 v4 v5 v6 (-1) (tw_sameOrder_l6 N h σ v1 v2 v3 v4 K n) K)))
set_option maxRecDepth 100000 in
theorem okl_tw_sameOrder_l6 {ω : gW} {l : Launch} {d : Nat} {N : Nat} {h : Nat} {σ : gMem} {v1 : Int} {v2 : Int} {v3 : Int} {v4 : Int} {K : Option Int} (hdp : 2 ≤ d) (hM : TM σ h) (hv1 : g32 v1) (hv2 : g32 v2) (hv3 : g32 v3) (hv4 : g32 v4) (hK : GG (fun x : Int => (.inl (some (vI x)), σ)) gTw ω l d mu_tw_sameOrder σ 90 [] [] σ (K)) : ∀ (n : Nat) (v5 : Int) (v6 : Int) , g32 v5 → g32 v6 → GG (fun x : Int => (.inl (some (vI x)), σ)) gTw ω l d mu_tw_sameOrder σ 6 [(0, vR h), (1, vI v1), (2, vI v2), (3, vI v3), (4, vI v4), (5, vI v5), (6, vI v6)] [] σ (tw_sameOrder_l6 N h σ v1 v2 v3 v4 K n v5 v6) := by
  intro n
  induction n with
  | zero => intros; exact x_none
  | succ n ih =>
    intro v5 v6 hv5 hv6
    unfold tw_sameOrder_l6
    refine x_iload (μ := mu_tw_sameOrder) (pc := 6) 6 dX11_sameOrder_6 rfl ?_
    refine x_aload_n (μ := mu_tw_sameOrder) (pc := 8) 0 dX11_sameOrder_8 rfl ?_
    refine x_iload_n (μ := mu_tw_sameOrder) (pc := 9) 1 dX11_sameOrder_9 rfl ?_
    refine x_iload (μ := mu_tw_sameOrder) (pc := 10) 4 dX11_sameOrder_10 rfl ?_
    refine x_callV_pi (μ := mu_tw_sameOrder) (pc := 12) (ok_tw_linesOf (ω := ω) (l := l) (d := d - 1) (by omega) hM hv1 hv4) gRel_Tw gRel_Tw (fun _ q => q) q3245 q3247 qs129 q232 q3248 dX11_sameOrder_12 rfl hM.1 hy_tw_linesOf (by omega) (Nat.le_of_ble_eq_true rfl) rfl (Nat.le_of_ble_eq_true rfl) (fun x1 hr2 => ?_)
    refine x_icmp_ge (μ := mu_tw_sameOrder) (pc := 15) (tgt := 90) dX11_sameOrder_15 rfl hv6 hr2 ?_ ?_
    · refine x_loc (lv' := []) [] rfl ?_
      exact hK
    · refine x_aload_n (μ := mu_tw_sameOrder) (pc := 18) 0 dX11_sameOrder_18 rfl ?_
      refine x_iload_n (μ := mu_tw_sameOrder) (pc := 19) 1 dX11_sameOrder_19 rfl ?_
      refine x_iload (μ := mu_tw_sameOrder) (pc := 20) 4 dX11_sameOrder_20 rfl ?_
      refine x_iload (μ := mu_tw_sameOrder) (pc := 22) 6 dX11_sameOrder_22 rfl ?_
      refine x_callV_pi (μ := mu_tw_sameOrder) (pc := 24) (ok_tw_lineAt (ω := ω) (l := l) (d := d - 1) (by omega) hM hv1 hv4 hv6) gRel_Tw gRel_Tw (fun _ q => q) q3148 q3150 qs111 q232 q3151 dX11_sameOrder_24 rfl hM.1 hy_tw_lineAt (by omega) (Nat.le_of_ble_eq_true rfl) rfl (Nat.le_of_ble_eq_true rfl) (fun x3 hr4 => ?_)
      refine x_istore (μ := mu_tw_sameOrder) (pc := 27) (lv' := [(7, vI x3), (0, vR h), (1, vI v1), (2, vI v2), (3, vI v3), (4, vI v4), (5, vI v5), (6, vI v6)]) dX11_sameOrder_27 (by decide) rfl ?_
      refine x_aload_n (μ := mu_tw_sameOrder) (pc := 29) 1 dX11_sameOrder_29 rfl ?_
      refine x_iload_n (μ := mu_tw_sameOrder) (pc := 30) 4 dX11_sameOrder_30 rfl ?_
      refine x_iload (μ := mu_tw_sameOrder) (pc := 31) 5 dX11_sameOrder_31 rfl ?_
      refine x_iload (μ := mu_tw_sameOrder) (pc := 33) 0 dX11_sameOrder_33 rfl ?_
      refine x_callV_pi (μ := mu_tw_sameOrder) (pc := 35) (ok_tw_placeOf (ω := ω) (l := l) (d := d - 1) (by omega) hM hv3 hv4 hr4) gRel_Tw gRel_Tw (fun _ q => q) q3241 q3243 qs128 q232 q3244 dX11_sameOrder_35 rfl hM.1 hy_tw_placeOf (by omega) (Nat.le_of_ble_eq_true rfl) rfl (Nat.le_of_ble_eq_true rfl) (fun x5 hr6 => ?_)
      refine x_if_ge (μ := mu_tw_sameOrder) (pc := 38) (tgt := 45) dX11_sameOrder_38 rfl hr6 ?_ ?_
      · refine x_aload_n (μ := mu_tw_sameOrder) (pc := 45) 1 dX11_sameOrder_45 rfl ?_
        refine x_iload_n (μ := mu_tw_sameOrder) (pc := 46) 3 dX11_sameOrder_46 rfl ?_
        refine x_iload (μ := mu_tw_sameOrder) (pc := 47) 5 dX11_sameOrder_47 rfl ?_
        refine x_iload (μ := mu_tw_sameOrder) (pc := 49) 0 dX11_sameOrder_49 rfl ?_
        refine x_callV_pi (μ := mu_tw_sameOrder) (pc := 51) (ok_tw_placeOf (ω := ω) (l := l) (d := d - 1) (by omega) hM hv2 hv4 hr4) gRel_Tw gRel_Tw (fun _ q => q) q3241 q3243 qs128 q232 q3244 dX11_sameOrder_51 rfl hM.1 hy_tw_placeOf (by omega) (Nat.le_of_ble_eq_true rfl) rfl (Nat.le_of_ble_eq_true rfl) (fun x7 hr8 => ?_)
        refine x_loc (lv' := [(0, vR h), (1, vI v1), (2, vI v2), (3, vI v3), (4, vI v4), (5, vI v5), (6, vI v6)]) [1, 2, 3, 4, 5, 6, 7] rfl ?_
        exact okj_tw_sameOrder_l6_j54 hdp hM hv1 hv2 hv3 hv4 hv5 hv6 hr8 ih hK
      · refine x_iconst (μ := mu_tw_sameOrder) (pc := 41) dX11_sameOrder_41 ?_
        refine x_goto (μ := mu_tw_sameOrder) (pc := 42) (tgt := 54) dX11_sameOrder_42 rfl ?_
        refine x_loc (lv' := [(0, vR h), (1, vI v1), (2, vI v2), (3, vI v3), (4, vI v4), (5, vI v5), (6, vI v6)]) [1, 2, 3, 4, 5, 6, 7] rfl ?_
        exact okj_tw_sameOrder_l6_j54 hdp hM hv1 hv2 hv3 hv4 hv5 hv6 (by decide) ih hK
def tw_sameOrder (N : Nat) (h : Nat) (v1 : Int) (v2 : Int) (v3 : Int) (v4 : Int) (σ : gMem) : Option Int := tw_sameOrder_l6 N h σ v1 v2 v3 v4 (some 1) N (-1) 0
set_option maxRecDepth 100000 in
theorem ok_tw_sameOrder {ω : gW} {l : Launch} {d : Nat} {N : Nat} {h : Nat} {σ : gMem} {v1 : Int} {v2 : Int} {v3 : Int} {v4 : Int} (hdp : 2 ≤ d) (hM : TM σ h) (hv1 : g32 v1) (hv2 : g32 v2) (hv3 : g32 v3) (hv4 : g32 v4) : gK (fun x : Int => (.inl (some (vI x)), σ)) gTw ω l d mu_tw_sameOrder [vR h, vI v1, vI v2, vI v3, vI v4] σ (tw_sameOrder N h v1 v2 v3 v4 σ) := by
  refine gK.of hp_X11 (Nat.le_of_ble_eq_true rfl) ?_
  unfold tw_sameOrder
  refine x_iconst (μ := mu_tw_sameOrder) (pc := 0) dX11_sameOrder_0 ?_
  refine x_istore (μ := mu_tw_sameOrder) (pc := 1) (lv' := [(5, vI (-1)), (0, vR h), (1, vI v1), (2, vI v2), (3, vI v3), (4, vI v4)]) dX11_sameOrder_1 (by decide) rfl ?_
  refine x_iconst (μ := mu_tw_sameOrder) (pc := 3) dX11_sameOrder_3 ?_
  refine x_istore (μ := mu_tw_sameOrder) (pc := 4) (lv' := [(6, vI 0), (5, vI (-1)), (0, vR h), (1, vI v1), (2, vI v2), (3, vI v3), (4, vI v4)]) dX11_sameOrder_4 (by decide) rfl ?_
  refine x_loc (lv' := [(0, vR h), (1, vI v1), (2, vI v2), (3, vI v3), (4, vI v4), (5, vI (-1)), (6, vI 0)]) [2, 3, 4, 5, 6, 1, 0] rfl ?_
  refine okl_tw_sameOrder_l6 hdp hM hv1 hv2 hv3 hv4 ?_ N (-1) 0 (by decide) (by decide)
  refine x_iconst (μ := mu_tw_sameOrder) (pc := 90) dX11_sameOrder_90 ?_
  exact x_zret (μ := mu_tw_sameOrder) (pc := 91) dX11_sameOrder_91 rfl (by decide) rfl (gRel_Tw.1 _) (show g32 1 from (by decide))
def tw_contentOf (N : Nat) (h : Nat) (v1 : Int) (v2 : Int) (v3 : Int) (σ : gMem) : Option Int := (tw_placeOf N h v1 0 v2 σ).bind (fun x1 => (tw_placeOf N h v1 1 v3 σ).bind (fun x3 => if x1 < 0 then some (-1) else if 0 ≤ x3 then if 0 ≤ (((320 * v1) + (10 * x1)) + x3) ∧ (((320 * v1) + (10 * x1)) + x3) < ((39040 : Nat) : Int) then some (mI σ (h + 5) (((320 * v1) + (10 * x1)) + x3).toNat) else none else some (-1)))
set_option maxRecDepth 100000 in
theorem ok_tw_contentOf {ω : gW} {l : Launch} {d : Nat} {N : Nat} {h : Nat} {σ : gMem} {v1 : Int} {v2 : Int} {v3 : Int} (hdp : 2 ≤ d) (hM : TM σ h) (hv1 : g32 v1) (hv2 : g32 v2) (hv3 : g32 v3) : gK (fun x : Int => (.inl (some (vI x)), σ)) gTw ω l d mu_tw_contentOf [vR h, vI v1, vI v2, vI v3] σ (tw_contentOf N h v1 v2 v3 σ) := by
  refine gK.of hp_X11 (Nat.le_of_ble_eq_true rfl) ?_
  unfold tw_contentOf
  refine x_aload_n (μ := mu_tw_contentOf) (pc := 0) 0 dX11_contentOf_0 rfl ?_
  refine x_iload_n (μ := mu_tw_contentOf) (pc := 1) 1 dX11_contentOf_1 rfl ?_
  refine x_iconst (μ := mu_tw_contentOf) (pc := 2) dX11_contentOf_2 ?_
  refine x_iload_n (μ := mu_tw_contentOf) (pc := 3) 2 dX11_contentOf_3 rfl ?_
  refine x_callV_pi (μ := mu_tw_contentOf) (pc := 4) (ok_tw_placeOf (ω := ω) (l := l) (d := d - 1) (by omega) hM hv1 (by decide) hv2) gRel_Tw gRel_Tw (fun _ q => q) q3241 q3243 qs128 q232 q3244 dX11_contentOf_4 rfl hM.1 hy_tw_placeOf (by omega) (Nat.le_of_ble_eq_true rfl) rfl (Nat.le_of_ble_eq_true rfl) (fun x1 hr2 => ?_)
  refine x_istore (μ := mu_tw_contentOf) (pc := 7) (lv' := [(4, vI x1), (0, vR h), (1, vI v1), (2, vI v2), (3, vI v3)]) dX11_contentOf_7 (by decide) rfl ?_
  refine x_aload_n (μ := mu_tw_contentOf) (pc := 9) 1 dX11_contentOf_9 rfl ?_
  refine x_iload_n (μ := mu_tw_contentOf) (pc := 10) 2 dX11_contentOf_10 rfl ?_
  refine x_iconst (μ := mu_tw_contentOf) (pc := 11) dX11_contentOf_11 ?_
  refine x_iload_n (μ := mu_tw_contentOf) (pc := 12) 4 dX11_contentOf_12 rfl ?_
  refine x_callV_pi (μ := mu_tw_contentOf) (pc := 13) (ok_tw_placeOf (ω := ω) (l := l) (d := d - 1) (by omega) hM hv1 (by decide) hv3) gRel_Tw gRel_Tw (fun _ q => q) q3241 q3243 qs128 q232 q3244 dX11_contentOf_13 rfl hM.1 hy_tw_placeOf (by omega) (Nat.le_of_ble_eq_true rfl) rfl (Nat.le_of_ble_eq_true rfl) (fun x3 hr4 => ?_)
  refine x_istore (μ := mu_tw_contentOf) (pc := 16) (lv' := [(5, vI x3), (4, vI x1), (0, vR h), (1, vI v1), (2, vI v2), (3, vI v3)]) dX11_contentOf_16 (by decide) rfl ?_
  refine x_iload (μ := mu_tw_contentOf) (pc := 18) 1 dX11_contentOf_18 rfl ?_
  refine x_if_lt (μ := mu_tw_contentOf) (pc := 20) (tgt := 28) dX11_contentOf_20 rfl hr2 ?_ ?_
  · refine x_iconst (μ := mu_tw_contentOf) (pc := 28) dX11_contentOf_28 ?_
    refine x_goto (μ := mu_tw_contentOf) (pc := 29) (tgt := 51) dX11_contentOf_29 rfl ?_
    exact x_iret (μ := mu_tw_contentOf) (pc := 51) dX11_contentOf_51 rfl rfl (gRel_Tw.1 _) (show g32 (-1) from (by decide))
  · refine x_iload (μ := mu_tw_contentOf) (pc := 23) 0 dX11_contentOf_23 rfl ?_
    refine x_if_ge (μ := mu_tw_contentOf) (pc := 25) (tgt := 32) dX11_contentOf_25 rfl hr4 ?_ ?_
    · refine x_aload_n (μ := mu_tw_contentOf) (pc := 32) 2 dX11_contentOf_32 rfl ?_
      refine x_fgrE (μ := mu_tw_contentOf) (pc := 33) fX11_5 (Or.inr ⟨_, rfl⟩) q2641 (hM.a5).1 dX11_contentOf_33 hM.1 ?_
      refine x_sipush (μ := mu_tw_contentOf) (pc := 36) dX11_contentOf_36 (by decide) ?_
      refine x_iload_n (μ := mu_tw_contentOf) (pc := 39) 3 dX11_contentOf_39 rfl ?_
      refine x_imul (μ := mu_tw_contentOf) (pc := 40) dX11_contentOf_40 ?_
      refine x_bipush (μ := mu_tw_contentOf) (pc := 41) dX11_contentOf_41 (by decide) ?_
      refine x_iload (μ := mu_tw_contentOf) (pc := 43) 1 dX11_contentOf_43 rfl ?_
      refine x_imul (μ := mu_tw_contentOf) (pc := 45) dX11_contentOf_45 ?_
      refine x_iadd (μ := mu_tw_contentOf) (pc := 46) dX11_contentOf_46 ?_
      refine x_iload (μ := mu_tw_contentOf) (pc := 47) 0 dX11_contentOf_47 rfl ?_
      refine x_iadd (μ := mu_tw_contentOf) (pc := 49) dX11_contentOf_49 ?_
      refine x_iald (μ := mu_tw_contentOf) (pc := 50) dX11_contentOf_50 (hM.a5).2.1 (hM.a5).2.2 (fun hr5 => ?_)
      exact x_iret (μ := mu_tw_contentOf) (pc := 51) dX11_contentOf_51 rfl rfl (gRel_Tw.1 _) (show g32 (mI σ (h + 5) (((320 * v1) + (10 * x1)) + x3).toNat) from hr5)
    · refine x_iconst (μ := mu_tw_contentOf) (pc := 28) dX11_contentOf_28 ?_
      refine x_goto (μ := mu_tw_contentOf) (pc := 29) (tgt := 51) dX11_contentOf_29 rfl ?_
      exact x_iret (μ := mu_tw_contentOf) (pc := 51) dX11_contentOf_51 rfl rfl (gRel_Tw.1 _) (show g32 (-1) from (by decide))
def tw_lineConflicts_l3_j113 (N : Nat) (h : Nat) (v1 : Int) (v2 : Int) (v3 : Int) (v4 : Int) (Kh : Int → gMem → Option gMem) (K : gMem → Option gMem) (s : gMem) : Option gMem := Kh (w32 (v4 + 1)) s
set_option maxRecDepth 100000 in
theorem okj_tw_lineConflicts_l3_j113 {ω : gW} {l : Launch} {d : Nat} {N : Nat} {h : Nat} {σ0 : gMem} {s : gMem} {v1 : Int} {v2 : Int} {v3 : Int} {v4 : Int} {Kh : Int → gMem → Option gMem} {K : gMem → Option gMem} (hdp : 2 ≤ d) (hM : TM s h) (hv1 : g32 v1) (hv2 : g32 v2) (hv3 : g32 v3) (hv4 : g32 v4) (hKh : ∀ (v4 : Int) (s : gMem) , g32 v4 → TM s h → GG (fun p : gMem => (.inl none, p)) gTw ω l d mu_tw_lineConflicts σ0 3 [(0, vR h), (1, vI v1), (2, vI v2), (3, vI v3), (4, vI v4)] [] s (Kh v4 s)) (hK : ∀ (s : gMem) , TM s h → GG (fun p : gMem => (.inl none, p)) gTw ω l d mu_tw_lineConflicts σ0 119 [] [] s (K s)) : GG (fun p : gMem => (.inl none, p)) gTw ω l d mu_tw_lineConflicts σ0 113 [(0, vR h), (1, vI v1), (2, vI v2), (3, vI v3), (4, vI v4)] [] s (tw_lineConflicts_l3_j113 N h v1 v2 v3 v4 Kh K s) := by
  unfold tw_lineConflicts_l3_j113
  refine x_iincw (μ := mu_tw_lineConflicts) (pc := 113) (lv' := [(4, vI (w32 (v4 + 1))), (0, vR h), (1, vI v1), (2, vI v2), (3, vI v3)]) 4 dX11_lineConflicts_113 rfl (by decide) rfl ?_
  refine x_goto (μ := mu_tw_lineConflicts) (pc := 116) (tgt := 3) dX11_lineConflicts_116 rfl ?_
  refine x_loc (lv' := [(0, vR h), (1, vI v1), (2, vI v2), (3, vI v3), (4, vI (w32 (v4 + 1)))]) [1, 2, 3, 4, 0] rfl ?_
  exact hKh (w32 (v4 + 1)) s (w32_rng _) hM
def tw_lineConflicts_l3_j108 (N : Nat) (h : Nat) (v1 : Int) (v2 : Int) (v3 : Int) (v4 : Int) (v6 : Int) (t0 : Int) (t1 : Int) (t2 : Int) (Kh : Int → gMem → Option gMem) (K : gMem → Option gMem) (s : gMem) : Option gMem := (tw_clash h t2 t1 t0 v6 s).bind (fun x9 => tw_lineConflicts_l3_j113 N h v1 v2 v3 v4  (Kh) K x9)
set_option maxRecDepth 100000 in
theorem okj_tw_lineConflicts_l3_j108 {ω : gW} {l : Launch} {d : Nat} {N : Nat} {h : Nat} {σ0 : gMem} {s : gMem} {v1 : Int} {v2 : Int} {v3 : Int} {v4 : Int} {v6 : Int} {t0 : Int} {t1 : Int} {t2 : Int} {Kh : Int → gMem → Option gMem} {K : gMem → Option gMem} (hdp : 2 ≤ d) (hM : TM s h) (hv1 : g32 v1) (hv2 : g32 v2) (hv3 : g32 v3) (hv4 : g32 v4) (hv6 : g32 v6) (ht0 : g32 t0) (ht1 : g32 t1) (ht2 : g32 t2) (hKh : ∀ (v4 : Int) (s : gMem) , g32 v4 → TM s h → GG (fun p : gMem => (.inl none, p)) gTw ω l d mu_tw_lineConflicts σ0 3 [(0, vR h), (1, vI v1), (2, vI v2), (3, vI v3), (4, vI v4)] [] s (Kh v4 s)) (hK : ∀ (s : gMem) , TM s h → GG (fun p : gMem => (.inl none, p)) gTw ω l d mu_tw_lineConflicts σ0 119 [] [] s (K s)) : GG (fun p : gMem => (.inl none, p)) gTw ω l d mu_tw_lineConflicts σ0 108 [(0, vR h), (1, vI v1), (2, vI v2), (3, vI v3), (4, vI v4), (6, vI v6)] [vI t0, vI t1, vI t2, vR h] s (tw_lineConflicts_l3_j108 N h v1 v2 v3 v4 v6 t0 t1 t2 Kh K s) := by
  unfold tw_lineConflicts_l3_j108
  refine x_iload (μ := mu_tw_lineConflicts) (pc := 108) 5 dX11_lineConflicts_108 rfl ?_
  refine x_callV_mv (μ := mu_tw_lineConflicts) (pc := 110) (ok_tw_clash (ω := ω) (l := l) (d := d - 1) (by omega) hM ht2 ht1 ht0 hv6) gRel_Tw gRel_Tw (fun _ q => q) q3697 q3699 qs215 q232 q3700 dX11_lineConflicts_110 rfl hM.1 hy_tw_clash (by omega) (Nat.le_of_ble_eq_true rfl) rfl (Nat.le_of_ble_eq_true rfl) (fun x9 k10 => ?_)
  have hM11 : TM x9 h := hM.tw k10
  refine x_loc (lv' := [(0, vR h), (1, vI v1), (2, vI v2), (3, vI v3), (4, vI v4)]) [0, 1, 2, 3, 4] rfl ?_
  exact okj_tw_lineConflicts_l3_j113 hdp hM11 hv1 hv2 hv3 hv4 hKh hK
def tw_lineConflicts_l3_j98 (N : Nat) (h : Nat) (v1 : Int) (v2 : Int) (v3 : Int) (v4 : Int) (v5 : Int) (v6 : Int) (t0 : Int) (t1 : Int) (Kh : Int → gMem → Option gMem) (K : gMem → Option gMem) (s : gMem) : Option gMem := if v3 ≠ 0 then tw_lineConflicts_l3_j108 N h v1 v2 v3 v4 v6 v5 t0 t1 (Kh) K s else tw_lineConflicts_l3_j108 N h v1 v2 v3 v4 v6 (-1) t0 t1 (Kh) K s
set_option maxRecDepth 100000 in
theorem okj_tw_lineConflicts_l3_j98 {ω : gW} {l : Launch} {d : Nat} {N : Nat} {h : Nat} {σ0 : gMem} {s : gMem} {v1 : Int} {v2 : Int} {v3 : Int} {v4 : Int} {v5 : Int} {v6 : Int} {t0 : Int} {t1 : Int} {Kh : Int → gMem → Option gMem} {K : gMem → Option gMem} (hdp : 2 ≤ d) (hM : TM s h) (hv1 : g32 v1) (hv2 : g32 v2) (hv3 : g32 v3) (hv4 : g32 v4) (hv5 : g32 v5) (hv6 : g32 v6) (ht0 : g32 t0) (ht1 : g32 t1) (hKh : ∀ (v4 : Int) (s : gMem) , g32 v4 → TM s h → GG (fun p : gMem => (.inl none, p)) gTw ω l d mu_tw_lineConflicts σ0 3 [(0, vR h), (1, vI v1), (2, vI v2), (3, vI v3), (4, vI v4)] [] s (Kh v4 s)) (hK : ∀ (s : gMem) , TM s h → GG (fun p : gMem => (.inl none, p)) gTw ω l d mu_tw_lineConflicts σ0 119 [] [] s (K s)) : GG (fun p : gMem => (.inl none, p)) gTw ω l d mu_tw_lineConflicts σ0 98 [(0, vR h), (1, vI v1), (2, vI v2), (3, vI v3), (4, vI v4), (5, vI v5), (6, vI v6)] [vI t0, vI t1, vR h] s (tw_lineConflicts_l3_j98 N h v1 v2 v3 v4 v5 v6 t0 t1 Kh K s) := by
  unfold tw_lineConflicts_l3_j98
  refine x_iload_n (μ := mu_tw_lineConflicts) (pc := 98) 3 dX11_lineConflicts_98 rfl ?_
  refine x_if_ne (μ := mu_tw_lineConflicts) (pc := 99) (tgt := 106) dX11_lineConflicts_99 rfl hv3 ?_ ?_
  · refine x_iload (μ := mu_tw_lineConflicts) (pc := 106) 5 dX11_lineConflicts_106 rfl ?_
    refine x_loc (lv' := [(0, vR h), (1, vI v1), (2, vI v2), (3, vI v3), (4, vI v4), (6, vI v6)]) [0, 1, 2, 3, 4, 6] rfl ?_
    exact okj_tw_lineConflicts_l3_j108 hdp hM hv1 hv2 hv3 hv4 hv6 hv5 ht0 ht1 hKh hK
  · refine x_iconst (μ := mu_tw_lineConflicts) (pc := 102) dX11_lineConflicts_102 ?_
    refine x_goto (μ := mu_tw_lineConflicts) (pc := 103) (tgt := 108) dX11_lineConflicts_103 rfl ?_
    refine x_loc (lv' := [(0, vR h), (1, vI v1), (2, vI v2), (3, vI v3), (4, vI v4), (6, vI v6)]) [0, 1, 2, 3, 4, 6] rfl ?_
    exact okj_tw_lineConflicts_l3_j108 hdp hM hv1 hv2 hv3 hv4 hv6 (by decide) ht0 ht1 hKh hK
def tw_lineConflicts_l3_j66 (N : Nat) (h : Nat) (v1 : Int) (v2 : Int) (v3 : Int) (v4 : Int) (v5 : Int) (v6 : Int) (t0 : Int) (Kh : Int → gMem → Option gMem) (K : gMem → Option gMem) (s : gMem) : Option gMem := if t0 ≠ 0 then tw_lineConflicts_l3_j113 N h v1 v2 v3 v4  (Kh) K s else (tw_placeOf N h v2 v3 v5 s).bind (fun x7 => if x7 < 0 then tw_lineConflicts_l3_j113 N h v1 v2 v3 v4  (Kh) K s else if v3 ≠ 0 then tw_lineConflicts_l3_j98 N h v1 v2 v3 v4 v5 v6 (-1) (w32 (v3 + 1)) (Kh) K s else tw_lineConflicts_l3_j98 N h v1 v2 v3 v4 v5 v6 v5 (w32 (v3 + 1)) (Kh) K s)
set_option maxRecDepth 100000 in
theorem okj_tw_lineConflicts_l3_j66 {ω : gW} {l : Launch} {d : Nat} {N : Nat} {h : Nat} {σ0 : gMem} {s : gMem} {v1 : Int} {v2 : Int} {v3 : Int} {v4 : Int} {v5 : Int} {v6 : Int} {t0 : Int} {Kh : Int → gMem → Option gMem} {K : gMem → Option gMem} (hdp : 2 ≤ d) (hM : TM s h) (hv1 : g32 v1) (hv2 : g32 v2) (hv3 : g32 v3) (hv4 : g32 v4) (hv5 : g32 v5) (hv6 : g32 v6) (ht0 : g32 t0) (hKh : ∀ (v4 : Int) (s : gMem) , g32 v4 → TM s h → GG (fun p : gMem => (.inl none, p)) gTw ω l d mu_tw_lineConflicts σ0 3 [(0, vR h), (1, vI v1), (2, vI v2), (3, vI v3), (4, vI v4)] [] s (Kh v4 s)) (hK : ∀ (s : gMem) , TM s h → GG (fun p : gMem => (.inl none, p)) gTw ω l d mu_tw_lineConflicts σ0 119 [] [] s (K s)) : GG (fun p : gMem => (.inl none, p)) gTw ω l d mu_tw_lineConflicts σ0 66 [(0, vR h), (1, vI v1), (2, vI v2), (3, vI v3), (4, vI v4), (5, vI v5), (6, vI v6)] [vI t0] s (tw_lineConflicts_l3_j66 N h v1 v2 v3 v4 v5 v6 t0 Kh K s) := by
  unfold tw_lineConflicts_l3_j66
  refine x_istore (μ := mu_tw_lineConflicts) (pc := 66) (lv' := [(7, vI t0), (0, vR h), (1, vI v1), (2, vI v2), (3, vI v3), (4, vI v4), (5, vI v5), (6, vI v6)]) dX11_lineConflicts_66 (by decide) rfl ?_
  refine x_iload (μ := mu_tw_lineConflicts) (pc := 68) 0 dX11_lineConflicts_68 rfl ?_
  refine x_if_ne (μ := mu_tw_lineConflicts) (pc := 70) (tgt := 113) dX11_lineConflicts_70 rfl ht0 ?_ ?_
  · refine x_loc (lv' := [(0, vR h), (1, vI v1), (2, vI v2), (3, vI v3), (4, vI v4)]) [1, 2, 3, 4, 5] rfl ?_
    exact okj_tw_lineConflicts_l3_j113 hdp hM hv1 hv2 hv3 hv4 hKh hK
  · refine x_aload_n (μ := mu_tw_lineConflicts) (pc := 73) 1 dX11_lineConflicts_73 rfl ?_
    refine x_iload_n (μ := mu_tw_lineConflicts) (pc := 74) 3 dX11_lineConflicts_74 rfl ?_
    refine x_iload_n (μ := mu_tw_lineConflicts) (pc := 75) 4 dX11_lineConflicts_75 rfl ?_
    refine x_iload (μ := mu_tw_lineConflicts) (pc := 76) 6 dX11_lineConflicts_76 rfl ?_
    refine x_callV_pi (μ := mu_tw_lineConflicts) (pc := 78) (ok_tw_placeOf (ω := ω) (l := l) (d := d - 1) (by omega) hM hv2 hv3 hv5) gRel_Tw gRel_Tw (fun _ q => q) q3241 q3243 qs128 q232 q3244 dX11_lineConflicts_78 rfl hM.1 hy_tw_placeOf (by omega) (Nat.le_of_ble_eq_true rfl) rfl (Nat.le_of_ble_eq_true rfl) (fun x7 hr8 => ?_)
    refine x_if_lt (μ := mu_tw_lineConflicts) (pc := 81) (tgt := 113) dX11_lineConflicts_81 rfl hr8 ?_ ?_
    · refine x_loc (lv' := [(0, vR h), (1, vI v1), (2, vI v2), (3, vI v3), (4, vI v4)]) [1, 2, 3, 4, 5] rfl ?_
      exact okj_tw_lineConflicts_l3_j113 hdp hM hv1 hv2 hv3 hv4 hKh hK
    · refine x_aload_n (μ := mu_tw_lineConflicts) (pc := 84) 1 dX11_lineConflicts_84 rfl ?_
      refine x_iload_n (μ := mu_tw_lineConflicts) (pc := 85) 4 dX11_lineConflicts_85 rfl ?_
      refine x_iconst (μ := mu_tw_lineConflicts) (pc := 86) dX11_lineConflicts_86 ?_
      refine x_iadd (μ := mu_tw_lineConflicts) (pc := 87) dX11_lineConflicts_87 ?_
      refine x_iload_n (μ := mu_tw_lineConflicts) (pc := 88) 4 dX11_lineConflicts_88 rfl ?_
      refine x_if_ne (μ := mu_tw_lineConflicts) (pc := 89) (tgt := 97) dX11_lineConflicts_89 rfl hv3 ?_ ?_
      · refine x_iconst (μ := mu_tw_lineConflicts) (pc := 97) dX11_lineConflicts_97 ?_
        refine x_w2 ?_
        refine x_loc (lv' := [(0, vR h), (1, vI v1), (2, vI v2), (3, vI v3), (4, vI v4), (5, vI v5), (6, vI v6)]) [1, 2, 3, 4, 5, 6, 7] rfl ?_
        exact okj_tw_lineConflicts_l3_j98 hdp hM hv1 hv2 hv3 hv4 hv5 hv6 (by decide) (w32_rng _) hKh hK
      · refine x_iload (μ := mu_tw_lineConflicts) (pc := 92) 6 dX11_lineConflicts_92 rfl ?_
        refine x_goto (μ := mu_tw_lineConflicts) (pc := 94) (tgt := 98) dX11_lineConflicts_94 rfl ?_
        refine x_w2 ?_
        refine x_loc (lv' := [(0, vR h), (1, vI v1), (2, vI v2), (3, vI v3), (4, vI v4), (5, vI v5), (6, vI v6)]) [1, 2, 3, 4, 5, 6, 7] rfl ?_
        exact okj_tw_lineConflicts_l3_j98 hdp hM hv1 hv2 hv3 hv4 hv5 hv6 hv5 (w32_rng _) hKh hK
def tw_lineConflicts_l3_j65 (N : Nat) (h : Nat) (v1 : Int) (v2 : Int) (v3 : Int) (v4 : Int) (v5 : Int) (v6 : Int) (Kh : Int → gMem → Option gMem) (K : gMem → Option gMem) (s : gMem) : Option gMem := tw_lineConflicts_l3_j66 N h v1 v2 v3 v4 v5 v6 0 (Kh) K s
set_option maxRecDepth 100000 in
theorem okj_tw_lineConflicts_l3_j65 {ω : gW} {l : Launch} {d : Nat} {N : Nat} {h : Nat} {σ0 : gMem} {s : gMem} {v1 : Int} {v2 : Int} {v3 : Int} {v4 : Int} {v5 : Int} {v6 : Int} {Kh : Int → gMem → Option gMem} {K : gMem → Option gMem} (hdp : 2 ≤ d) (hM : TM s h) (hv1 : g32 v1) (hv2 : g32 v2) (hv3 : g32 v3) (hv4 : g32 v4) (hv5 : g32 v5) (hv6 : g32 v6) (hKh : ∀ (v4 : Int) (s : gMem) , g32 v4 → TM s h → GG (fun p : gMem => (.inl none, p)) gTw ω l d mu_tw_lineConflicts σ0 3 [(0, vR h), (1, vI v1), (2, vI v2), (3, vI v3), (4, vI v4)] [] s (Kh v4 s)) (hK : ∀ (s : gMem) , TM s h → GG (fun p : gMem => (.inl none, p)) gTw ω l d mu_tw_lineConflicts σ0 119 [] [] s (K s)) : GG (fun p : gMem => (.inl none, p)) gTw ω l d mu_tw_lineConflicts σ0 65 [(0, vR h), (1, vI v1), (2, vI v2), (3, vI v3), (4, vI v4), (5, vI v5), (6, vI v6)] [] s (tw_lineConflicts_l3_j65 N h v1 v2 v3 v4 v5 v6 Kh K s) := by
  unfold tw_lineConflicts_l3_j65
  refine x_iconst (μ := mu_tw_lineConflicts) (pc := 65) dX11_lineConflicts_65 ?_
  exact okj_tw_lineConflicts_l3_j66 hdp hM hv1 hv2 hv3 hv4 hv5 hv6 (by decide) hKh hK
def tw_lineConflicts_l3_j43 (N : Nat) (h : Nat) (v1 : Int) (v2 : Int) (v3 : Int) (v4 : Int) (v5 : Int) (t0 : Int) (Kh : Int → gMem → Option gMem) (K : gMem → Option gMem) (s : gMem) : Option gMem := if t0 = 0 then tw_lineConflicts_l3_j65 N h v1 v2 v3 v4 v5 t0  (Kh) K s else (tw_placeOf N h v1 v3 v5 s).bind (fun x12 => if x12 < 0 then tw_lineConflicts_l3_j65 N h v1 v2 v3 v4 v5 t0  (Kh) K s else tw_lineConflicts_l3_j66 N h v1 v2 v3 v4 v5 t0 1 (Kh) K s)
set_option maxRecDepth 100000 in
theorem okj_tw_lineConflicts_l3_j43 {ω : gW} {l : Launch} {d : Nat} {N : Nat} {h : Nat} {σ0 : gMem} {s : gMem} {v1 : Int} {v2 : Int} {v3 : Int} {v4 : Int} {v5 : Int} {t0 : Int} {Kh : Int → gMem → Option gMem} {K : gMem → Option gMem} (hdp : 2 ≤ d) (hM : TM s h) (hv1 : g32 v1) (hv2 : g32 v2) (hv3 : g32 v3) (hv4 : g32 v4) (hv5 : g32 v5) (ht0 : g32 t0) (hKh : ∀ (v4 : Int) (s : gMem) , g32 v4 → TM s h → GG (fun p : gMem => (.inl none, p)) gTw ω l d mu_tw_lineConflicts σ0 3 [(0, vR h), (1, vI v1), (2, vI v2), (3, vI v3), (4, vI v4)] [] s (Kh v4 s)) (hK : ∀ (s : gMem) , TM s h → GG (fun p : gMem => (.inl none, p)) gTw ω l d mu_tw_lineConflicts σ0 119 [] [] s (K s)) : GG (fun p : gMem => (.inl none, p)) gTw ω l d mu_tw_lineConflicts σ0 43 [(0, vR h), (1, vI v1), (2, vI v2), (3, vI v3), (4, vI v4), (5, vI v5)] [vI t0] s (tw_lineConflicts_l3_j43 N h v1 v2 v3 v4 v5 t0 Kh K s) := by
  unfold tw_lineConflicts_l3_j43
  refine x_istore (μ := mu_tw_lineConflicts) (pc := 43) (lv' := [(6, vI t0), (0, vR h), (1, vI v1), (2, vI v2), (3, vI v3), (4, vI v4), (5, vI v5)]) dX11_lineConflicts_43 (by decide) rfl ?_
  refine x_iload (μ := mu_tw_lineConflicts) (pc := 45) 0 dX11_lineConflicts_45 rfl ?_
  refine x_if_eq (μ := mu_tw_lineConflicts) (pc := 47) (tgt := 65) dX11_lineConflicts_47 rfl ht0 ?_ ?_
  · refine x_loc (lv' := [(0, vR h), (1, vI v1), (2, vI v2), (3, vI v3), (4, vI v4), (5, vI v5), (6, vI t0)]) [1, 2, 3, 4, 5, 6, 0] rfl ?_
    exact okj_tw_lineConflicts_l3_j65 hdp hM hv1 hv2 hv3 hv4 hv5 ht0 hKh hK
  · refine x_aload_n (μ := mu_tw_lineConflicts) (pc := 50) 1 dX11_lineConflicts_50 rfl ?_
    refine x_iload_n (μ := mu_tw_lineConflicts) (pc := 51) 2 dX11_lineConflicts_51 rfl ?_
    refine x_iload_n (μ := mu_tw_lineConflicts) (pc := 52) 4 dX11_lineConflicts_52 rfl ?_
    refine x_iload (μ := mu_tw_lineConflicts) (pc := 53) 6 dX11_lineConflicts_53 rfl ?_
    refine x_callV_pi (μ := mu_tw_lineConflicts) (pc := 55) (ok_tw_placeOf (ω := ω) (l := l) (d := d - 1) (by omega) hM hv1 hv3 hv5) gRel_Tw gRel_Tw (fun _ q => q) q3241 q3243 qs128 q232 q3244 dX11_lineConflicts_55 rfl hM.1 hy_tw_placeOf (by omega) (Nat.le_of_ble_eq_true rfl) rfl (Nat.le_of_ble_eq_true rfl) (fun x12 hr13 => ?_)
    refine x_if_lt (μ := mu_tw_lineConflicts) (pc := 58) (tgt := 65) dX11_lineConflicts_58 rfl hr13 ?_ ?_
    · refine x_loc (lv' := [(0, vR h), (1, vI v1), (2, vI v2), (3, vI v3), (4, vI v4), (5, vI v5), (6, vI t0)]) [1, 2, 3, 4, 5, 6, 0] rfl ?_
      exact okj_tw_lineConflicts_l3_j65 hdp hM hv1 hv2 hv3 hv4 hv5 ht0 hKh hK
    · refine x_iconst (μ := mu_tw_lineConflicts) (pc := 61) dX11_lineConflicts_61 ?_
      refine x_goto (μ := mu_tw_lineConflicts) (pc := 62) (tgt := 66) dX11_lineConflicts_62 rfl ?_
      refine x_loc (lv' := [(0, vR h), (1, vI v1), (2, vI v2), (3, vI v3), (4, vI v4), (5, vI v5), (6, vI t0)]) [1, 2, 3, 4, 5, 6, 0] rfl ?_
      exact okj_tw_lineConflicts_l3_j66 hdp hM hv1 hv2 hv3 hv4 hv5 ht0 (by decide) hKh hK
def tw_lineConflicts_l3 (N : Nat) (h : Nat) (v1 : Int) (v2 : Int) (v3 : Int) (K : gMem → Option gMem) : Nat → Int → gMem → Option gMem
  | 0, _, _ => none
  | n + 1, v4, s => (tw_linesOf h 121 v3 s).bind (fun x1 => if x1 ≤ v4 then K s else (tw_lineAt h 121 v3 v4 s).bind (fun x3 => (tw_placeOf N h 40 v3 x3 s).bind (fun x5 => if x5 < 0 then tw_lineConflicts_l3_j43 N h v1 v2 v3 v4 x3 0 (tw_lineConflicts_l3 N h v1 v2 v3 K n) K s else tw_lineConflicts_l3_j43 N h v1 v2 v3 v4 x3 1 (tw_lineConflicts_l3 N h v1 v2 v3 K n) K s)))
set_option maxRecDepth 100000 in
theorem okl_tw_lineConflicts_l3 {ω : gW} {l : Launch} {d : Nat} {N : Nat} {h : Nat} {σ0 : gMem} {v1 : Int} {v2 : Int} {v3 : Int} {K : gMem → Option gMem} (hdp : 2 ≤ d) (hv1 : g32 v1) (hv2 : g32 v2) (hv3 : g32 v3) (hK : ∀ (s : gMem) , TM s h → GG (fun p : gMem => (.inl none, p)) gTw ω l d mu_tw_lineConflicts σ0 119 [] [] s (K s)) : ∀ (n : Nat) (v4 : Int) (s : gMem) , g32 v4 → TM s h → GG (fun p : gMem => (.inl none, p)) gTw ω l d mu_tw_lineConflicts σ0 3 [(0, vR h), (1, vI v1), (2, vI v2), (3, vI v3), (4, vI v4)] [] s (tw_lineConflicts_l3 N h v1 v2 v3 K n v4 s) := by
  intro n
  induction n with
  | zero => intros; exact x_none
  | succ n ih =>
    intro v4 s hv4 hM
    unfold tw_lineConflicts_l3
    refine x_iload (μ := mu_tw_lineConflicts) (pc := 3) 4 dX11_lineConflicts_3 rfl ?_
    refine x_aload_n (μ := mu_tw_lineConflicts) (pc := 5) 0 dX11_lineConflicts_5 rfl ?_
    refine x_bipush (μ := mu_tw_lineConflicts) (pc := 6) dX11_lineConflicts_6 (by decide) ?_
    refine x_iload_n (μ := mu_tw_lineConflicts) (pc := 8) 3 dX11_lineConflicts_8 rfl ?_
    refine x_callV_pi (μ := mu_tw_lineConflicts) (pc := 9) (ok_tw_linesOf (ω := ω) (l := l) (d := d - 1) (by omega) hM (by decide) hv3) gRel_Tw gRel_Tw (fun _ q => q) q3245 q3247 qs129 q232 q3248 dX11_lineConflicts_9 rfl hM.1 hy_tw_linesOf (by omega) (Nat.le_of_ble_eq_true rfl) rfl (Nat.le_of_ble_eq_true rfl) (fun x1 hr2 => ?_)
    refine x_icmp_ge (μ := mu_tw_lineConflicts) (pc := 12) (tgt := 119) dX11_lineConflicts_12 rfl hv4 hr2 ?_ ?_
    · refine x_loc (lv' := []) [] rfl ?_
      exact hK s hM
    · refine x_aload_n (μ := mu_tw_lineConflicts) (pc := 15) 0 dX11_lineConflicts_15 rfl ?_
      refine x_bipush (μ := mu_tw_lineConflicts) (pc := 16) dX11_lineConflicts_16 (by decide) ?_
      refine x_iload_n (μ := mu_tw_lineConflicts) (pc := 18) 3 dX11_lineConflicts_18 rfl ?_
      refine x_iload (μ := mu_tw_lineConflicts) (pc := 19) 4 dX11_lineConflicts_19 rfl ?_
      refine x_callV_pi (μ := mu_tw_lineConflicts) (pc := 21) (ok_tw_lineAt (ω := ω) (l := l) (d := d - 1) (by omega) hM (by decide) hv3 hv4) gRel_Tw gRel_Tw (fun _ q => q) q3148 q3150 qs111 q232 q3151 dX11_lineConflicts_21 rfl hM.1 hy_tw_lineAt (by omega) (Nat.le_of_ble_eq_true rfl) rfl (Nat.le_of_ble_eq_true rfl) (fun x3 hr4 => ?_)
      refine x_istore (μ := mu_tw_lineConflicts) (pc := 24) (lv' := [(5, vI x3), (0, vR h), (1, vI v1), (2, vI v2), (3, vI v3), (4, vI v4)]) dX11_lineConflicts_24 (by decide) rfl ?_
      refine x_aload_n (μ := mu_tw_lineConflicts) (pc := 26) 1 dX11_lineConflicts_26 rfl ?_
      refine x_bipush (μ := mu_tw_lineConflicts) (pc := 27) dX11_lineConflicts_27 (by decide) ?_
      refine x_iload_n (μ := mu_tw_lineConflicts) (pc := 29) 4 dX11_lineConflicts_29 rfl ?_
      refine x_iload (μ := mu_tw_lineConflicts) (pc := 30) 0 dX11_lineConflicts_30 rfl ?_
      refine x_callV_pi (μ := mu_tw_lineConflicts) (pc := 32) (ok_tw_placeOf (ω := ω) (l := l) (d := d - 1) (by omega) hM (by decide) hv3 hr4) gRel_Tw gRel_Tw (fun _ q => q) q3241 q3243 qs128 q232 q3244 dX11_lineConflicts_32 rfl hM.1 hy_tw_placeOf (by omega) (Nat.le_of_ble_eq_true rfl) rfl (Nat.le_of_ble_eq_true rfl) (fun x5 hr6 => ?_)
      refine x_if_lt (μ := mu_tw_lineConflicts) (pc := 35) (tgt := 42) dX11_lineConflicts_35 rfl hr6 ?_ ?_
      · refine x_iconst (μ := mu_tw_lineConflicts) (pc := 42) dX11_lineConflicts_42 ?_
        refine x_loc (lv' := [(0, vR h), (1, vI v1), (2, vI v2), (3, vI v3), (4, vI v4), (5, vI x3)]) [1, 2, 3, 4, 5, 0] rfl ?_
        exact okj_tw_lineConflicts_l3_j43 hdp hM hv1 hv2 hv3 hv4 hr4 (by decide) ih hK
      · refine x_iconst (μ := mu_tw_lineConflicts) (pc := 38) dX11_lineConflicts_38 ?_
        refine x_goto (μ := mu_tw_lineConflicts) (pc := 39) (tgt := 43) dX11_lineConflicts_39 rfl ?_
        refine x_loc (lv' := [(0, vR h), (1, vI v1), (2, vI v2), (3, vI v3), (4, vI v4), (5, vI x3)]) [1, 2, 3, 4, 5, 0] rfl ?_
        exact okj_tw_lineConflicts_l3_j43 hdp hM hv1 hv2 hv3 hv4 hr4 (by decide) ih hK
def tw_lineConflicts (N : Nat) (h : Nat) (v1 : Int) (v2 : Int) (v3 : Int) (σ : gMem) : Option gMem := tw_lineConflicts_l3 N h v1 v2 v3 (fun s14 => some s14) N 0 σ
set_option maxRecDepth 100000 in
theorem ok_tw_lineConflicts {ω : gW} {l : Launch} {d : Nat} {N : Nat} {h : Nat} {σ : gMem} {v1 : Int} {v2 : Int} {v3 : Int} (hdp : 2 ≤ d) (hM : TM σ h) (hv1 : g32 v1) (hv2 : g32 v2) (hv3 : g32 v3) : gK (fun p : gMem => (.inl none, p)) gTw ω l d mu_tw_lineConflicts [vR h, vI v1, vI v2, vI v3] σ (tw_lineConflicts N h v1 v2 v3 σ) := by
  refine gK.of hp_X11 (Nat.le_of_ble_eq_true rfl) ?_
  unfold tw_lineConflicts
  refine x_iconst (μ := mu_tw_lineConflicts) (pc := 0) dX11_lineConflicts_0 ?_
  refine x_istore (μ := mu_tw_lineConflicts) (pc := 1) (lv' := [(4, vI 0), (0, vR h), (1, vI v1), (2, vI v2), (3, vI v3)]) dX11_lineConflicts_1 (by decide) rfl ?_
  refine x_loc (lv' := [(0, vR h), (1, vI v1), (2, vI v2), (3, vI v3), (4, vI 0)]) [1, 2, 3, 4, 0] rfl ?_
  refine okl_tw_lineConflicts_l3 hdp hv1 hv2 hv3 (fun s14 hM15 => ?_) N 0 σ (by decide) hM
  exact x_vret (μ := mu_tw_lineConflicts) (pc := 119) (a1 := s14) dX11_lineConflicts_119 rfl rfl (gRel_Tw.1 _) trivial
def tw_conflict (N : Nat) (h : Nat) (v1 : Int) (v2 : Int) (σ : gMem) : Option (Int × gMem) := gLet (wI σ h 0 0) (fun s1 => (tw_in v1 0 (w32 ((mI s1 h 98) - 1)) s1).bind (fun x5 => if x5 ≠ 0 then if v2 = 0 then if 0 ≤ v1 ∧ v1 < ((370 : Nat) : Int) then some (mI s1 (h + 46) v1.toNat, s1) else none else if v2 = 1 then if 0 ≤ v1 ∧ v1 < ((370 : Nat) : Int) then (tw_placeOf N h 40 0 (mI s1 (h + 47) v1.toNat) s1).bind (fun x11 => some (w32 (x11 + 1), s1)) else none else if v2 = 2 then if 0 ≤ v1 ∧ v1 < ((370 : Nat) : Int) then (tw_placeOf N h 40 1 (mI s1 (h + 48) v1.toNat) s1).bind (fun x15 => some (w32 (x15 + 1), s1)) else none else if v2 = 3 then if 0 ≤ v1 ∧ v1 < ((370 : Nat) : Int) then if mI s1 (h + 52) v1.toNat = 0 then some (0, s1) else some (1, s1) else none else some ((-1), s1) else some ((-1), s1)))
set_option maxRecDepth 100000 in
theorem ok_tw_conflict {ω : gW} {l : Launch} {d : Nat} {N : Nat} {h : Nat} {σ : gMem} {v1 : Int} {v2 : Int} (hdp : 2 ≤ d) (hM : TM σ h) (hv1 : g32 v1) (hv2 : g32 v2) : gK (fun p : Int × gMem => (.inl (some (vI p.1)), p.2)) gTw ω l d mu_tw_conflict [vR h, vI v1, vI v2] σ (tw_conflict N h v1 v2 σ) := by
  refine gK.of hp_X11 (Nat.le_of_ble_eq_true rfl) ?_
  unfold tw_conflict
  refine x_aload_n (μ := mu_tw_conflict) (pc := 0) 0 dX11_conflict_0 rfl ?_
  refine x_iconst (μ := mu_tw_conflict) (pc := 1) dX11_conflict_1 ?_
  refine x_fpi (μ := mu_tw_conflict) (pc := 2) fX11_0 q2636 dX11_conflict_2 hM.1 (fun _ q => gTw_wI q) ?_
  refine x_let (fun s1 e2 => ?_)
  have hM3 := TM.eI e2 hM
  refine x_iload_n (μ := mu_tw_conflict) (pc := 5) 1 dX11_conflict_5 rfl ?_
  refine x_iconst (μ := mu_tw_conflict) (pc := 6) dX11_conflict_6 ?_
  refine x_aload_n (μ := mu_tw_conflict) (pc := 7) 0 dX11_conflict_7 rfl ?_
  refine x_fgi (μ := mu_tw_conflict) (pc := 8) fX11_98 q2734 dX11_conflict_8 hM3.1 (fun hr4 => ?_)
  refine x_iconst (μ := mu_tw_conflict) (pc := 11) dX11_conflict_11 ?_
  refine x_isub (μ := mu_tw_conflict) (pc := 12) dX11_conflict_12 ?_
  refine x_w1 ?_
  refine x_callS_pi (μ := mu_tw_conflict) (pc := 13) (ok_tw_in (ω := ω) (l := l) (d := d - 1) (by omega) hv1 (by decide) (w32_rng _)) gRel_Tw gRel_Tw (fun _ q => q) q2980 q2981 q232 q2982 dX11_conflict_13 hy_tw_in (by omega) (Nat.le_of_ble_eq_true rfl) rfl (Nat.le_of_ble_eq_true rfl) (fun x5 hr6 => ?_)
  refine x_if_ne (μ := mu_tw_conflict) (pc := 16) (tgt := 21) dX11_conflict_16 rfl hr6 ?_ ?_
  · refine x_iload_n (μ := mu_tw_conflict) (pc := 21) 2 dX11_conflict_21 rfl ?_
    refine x_tab (μ := mu_tw_conflict) (pc := 22) (tgt := 52) 0 dX11_conflict_22 (by decide) (by decide) (by decide) rfl rfl ?_ (fun hn7 => ?_)
    · refine x_aload_n (μ := mu_tw_conflict) (pc := 52) 0 dX11_conflict_52 rfl ?_
      refine x_fgrE (μ := mu_tw_conflict) (pc := 53) fX11_91 (Or.inr ⟨_, rfl⟩) q2727 (hM3.a91).1 dX11_conflict_53 hM3.1 ?_
      refine x_iload_n (μ := mu_tw_conflict) (pc := 56) 1 dX11_conflict_56 rfl ?_
      refine x_iald (μ := mu_tw_conflict) (pc := 57) dX11_conflict_57 (hM3.a91).2.1 (hM3.a91).2.2 (fun hr8 => ?_)
      exact x_iret (μ := mu_tw_conflict) (pc := 58) dX11_conflict_58 rfl rfl (gRel_Tw.1 _) (show g32 (mI s1 (h + 46) v1.toNat) from hr8)
    refine x_tab (μ := mu_tw_conflict) (pc := 22) (tgt := 59) 1 dX11_conflict_22 (by decide) (by decide) (by decide) rfl rfl ?_ (fun hn9 => ?_)
    · refine x_aload_n (μ := mu_tw_conflict) (pc := 59) 0 dX11_conflict_59 rfl ?_
      refine x_bipush (μ := mu_tw_conflict) (pc := 60) dX11_conflict_60 (by decide) ?_
      refine x_iconst (μ := mu_tw_conflict) (pc := 62) dX11_conflict_62 ?_
      refine x_aload_n (μ := mu_tw_conflict) (pc := 63) 0 dX11_conflict_63 rfl ?_
      refine x_fgrE (μ := mu_tw_conflict) (pc := 64) fX11_92 (Or.inr ⟨_, rfl⟩) q2728 (hM3.a92).1 dX11_conflict_64 hM3.1 ?_
      refine x_iload_n (μ := mu_tw_conflict) (pc := 67) 1 dX11_conflict_67 rfl ?_
      refine x_iald (μ := mu_tw_conflict) (pc := 68) dX11_conflict_68 (hM3.a92).2.1 (hM3.a92).2.2 (fun hr10 => ?_)
      refine x_callV_pi (μ := mu_tw_conflict) (pc := 69) (ok_tw_placeOf (ω := ω) (l := l) (d := d - 1) (by omega) hM3 (by decide) (by decide) hr10) gRel_Tw gRel_Tw (fun _ q => q) q3241 q3243 qs128 q232 q3244 dX11_conflict_69 rfl hM3.1 hy_tw_placeOf (by omega) (Nat.le_of_ble_eq_true rfl) rfl (Nat.le_of_ble_eq_true rfl) (fun x11 hr12 => ?_)
      refine x_iconst (μ := mu_tw_conflict) (pc := 72) dX11_conflict_72 ?_
      refine x_iadd (μ := mu_tw_conflict) (pc := 73) dX11_conflict_73 ?_
      refine x_w1 ?_
      exact x_iret (μ := mu_tw_conflict) (pc := 74) dX11_conflict_74 rfl rfl (gRel_Tw.1 _) (show g32 (w32 (x11 + 1)) from (w32_rng _))
    refine x_tab (μ := mu_tw_conflict) (pc := 22) (tgt := 75) 2 dX11_conflict_22 (by decide) (by decide) (by decide) rfl rfl ?_ (fun hn13 => ?_)
    · refine x_aload_n (μ := mu_tw_conflict) (pc := 75) 0 dX11_conflict_75 rfl ?_
      refine x_bipush (μ := mu_tw_conflict) (pc := 76) dX11_conflict_76 (by decide) ?_
      refine x_iconst (μ := mu_tw_conflict) (pc := 78) dX11_conflict_78 ?_
      refine x_aload_n (μ := mu_tw_conflict) (pc := 79) 0 dX11_conflict_79 rfl ?_
      refine x_fgrE (μ := mu_tw_conflict) (pc := 80) fX11_93 (Or.inr ⟨_, rfl⟩) q2729 (hM3.a93).1 dX11_conflict_80 hM3.1 ?_
      refine x_iload_n (μ := mu_tw_conflict) (pc := 83) 1 dX11_conflict_83 rfl ?_
      refine x_iald (μ := mu_tw_conflict) (pc := 84) dX11_conflict_84 (hM3.a93).2.1 (hM3.a93).2.2 (fun hr14 => ?_)
      refine x_callV_pi (μ := mu_tw_conflict) (pc := 85) (ok_tw_placeOf (ω := ω) (l := l) (d := d - 1) (by omega) hM3 (by decide) (by decide) hr14) gRel_Tw gRel_Tw (fun _ q => q) q3241 q3243 qs128 q232 q3244 dX11_conflict_85 rfl hM3.1 hy_tw_placeOf (by omega) (Nat.le_of_ble_eq_true rfl) rfl (Nat.le_of_ble_eq_true rfl) (fun x15 hr16 => ?_)
      refine x_iconst (μ := mu_tw_conflict) (pc := 88) dX11_conflict_88 ?_
      refine x_iadd (μ := mu_tw_conflict) (pc := 89) dX11_conflict_89 ?_
      refine x_w1 ?_
      exact x_iret (μ := mu_tw_conflict) (pc := 90) dX11_conflict_90 rfl rfl (gRel_Tw.1 _) (show g32 (w32 (x15 + 1)) from (w32_rng _))
    refine x_tab (μ := mu_tw_conflict) (pc := 22) (tgt := 91) 3 dX11_conflict_22 (by decide) (by decide) (by decide) rfl rfl ?_ (fun hn17 => ?_)
    · refine x_aload_n (μ := mu_tw_conflict) (pc := 91) 0 dX11_conflict_91 rfl ?_
      refine x_fgrE (μ := mu_tw_conflict) (pc := 92) fX11_97 (Or.inr ⟨_, rfl⟩) q2733 (hM3.a97).1 dX11_conflict_92 hM3.1 ?_
      refine x_iload_n (μ := mu_tw_conflict) (pc := 95) 1 dX11_conflict_95 rfl ?_
      refine x_zald (μ := mu_tw_conflict) (pc := 96) dX11_conflict_96 (hM3.a97).2.1 (hM3.a97).2.2 (fun hr18 => ?_)
      refine x_if_eq (μ := mu_tw_conflict) (pc := 97) (tgt := 104) dX11_conflict_97 rfl hr18 ?_ ?_
      · refine x_iconst (μ := mu_tw_conflict) (pc := 104) dX11_conflict_104 ?_
        exact x_iret (μ := mu_tw_conflict) (pc := 105) dX11_conflict_105 rfl rfl (gRel_Tw.1 _) (show g32 0 from (by decide))
      · refine x_iconst (μ := mu_tw_conflict) (pc := 100) dX11_conflict_100 ?_
        refine x_goto (μ := mu_tw_conflict) (pc := 101) (tgt := 105) dX11_conflict_101 rfl ?_
        exact x_iret (μ := mu_tw_conflict) (pc := 105) dX11_conflict_105 rfl rfl (gRel_Tw.1 _) (show g32 1 from (by decide))
    refine x_tabOut (μ := mu_tw_conflict) (pc := 22) (tgt := 106) dX11_conflict_22 hv2 (by omega) rfl ?_
    refine x_iconst (μ := mu_tw_conflict) (pc := 106) dX11_conflict_106 ?_
    exact x_iret (μ := mu_tw_conflict) (pc := 107) dX11_conflict_107 rfl rfl (gRel_Tw.1 _) (show g32 (-1) from (by decide))
  · refine x_iconst (μ := mu_tw_conflict) (pc := 19) dX11_conflict_19 ?_
    exact x_iret (μ := mu_tw_conflict) (pc := 20) dX11_conflict_20 rfl rfl (gRel_Tw.1 _) (show g32 (-1) from (by decide))
def tw_choose_j153 (N : Nat) (h : Nat) (v3 : Int) (v7 : Int) (t0 : Int) (s : gMem) : Option (Int × gMem) := if t0 < 0 then (tw_unsettled N h s).bind (fun x24 => some (x24, s)) else (tw_linesOf h 40 v7 s).bind (fun x26 => if x26 ≤ 1 then (tw_unsettled N h s).bind (fun x28 => some (x28, s)) else (tw_goLine N h v7 (w32 (t0 + 1)) v3 s).bind (fun x30 => (tw_unsettled N h x30).bind (fun x33 => some (x33, x30))))
set_option maxRecDepth 100000 in
theorem okj_tw_choose_j153 {ω : gW} {l : Launch} {d : Nat} {N : Nat} {h : Nat} {σ0 : gMem} {s : gMem} {v3 : Int} {v7 : Int} {t0 : Int} (hdp : 3 ≤ d) (hM : TM s h) (hv3 : g32 v3) (hv7 : g32 v7) (ht0 : g32 t0) : GG (fun p : Int × gMem => (.inl (some (vI p.1)), p.2)) gTw ω l d mu_tw_choose σ0 153 [(0, vR h), (3, vI v3), (7, vI v7)] [vI t0] s (tw_choose_j153 N h v3 v7 t0 s) := by
  unfold tw_choose_j153
  refine x_istore (μ := mu_tw_choose) (pc := 153) (lv' := [(8, vI t0), (0, vR h), (3, vI v3), (7, vI v7)]) dX11_choose_153 (by decide) rfl ?_
  refine x_iload (μ := mu_tw_choose) (pc := 155) 0 dX11_choose_155 rfl ?_
  refine x_if_lt (μ := mu_tw_choose) (pc := 157) (tgt := 183) dX11_choose_157 rfl ht0 ?_ ?_
  · refine x_aload_n (μ := mu_tw_choose) (pc := 183) 1 dX11_choose_183 rfl ?_
    refine x_callV_pi (μ := mu_tw_choose) (pc := 184) (ok_tw_unsettled (ω := ω) (l := l) (d := d - 1) (by omega) hM ) gRel_Tw gRel_Tw (fun _ q => q) q3592 q3594 qs194 q232 q3595 dX11_choose_184 rfl hM.1 hy_tw_unsettled (by omega) (Nat.le_of_ble_eq_true rfl) rfl (Nat.le_of_ble_eq_true rfl) (fun x24 hr25 => ?_)
    exact x_iret (μ := mu_tw_choose) (pc := 187) dX11_choose_187 rfl rfl (gRel_Tw.1 _) (show g32 x24 from hr25)
  · refine x_aload_n (μ := mu_tw_choose) (pc := 160) 1 dX11_choose_160 rfl ?_
    refine x_bipush (μ := mu_tw_choose) (pc := 161) dX11_choose_161 (by decide) ?_
    refine x_iload (μ := mu_tw_choose) (pc := 163) 3 dX11_choose_163 rfl ?_
    refine x_callV_pi (μ := mu_tw_choose) (pc := 165) (ok_tw_linesOf (ω := ω) (l := l) (d := d - 1) (by omega) hM (by decide) hv7) gRel_Tw gRel_Tw (fun _ q => q) q3245 q3247 qs129 q232 q3248 dX11_choose_165 rfl hM.1 hy_tw_linesOf (by omega) (Nat.le_of_ble_eq_true rfl) rfl (Nat.le_of_ble_eq_true rfl) (fun x26 hr27 => ?_)
    refine x_iconst (μ := mu_tw_choose) (pc := 168) dX11_choose_168 ?_
    refine x_icmp_le (μ := mu_tw_choose) (pc := 169) (tgt := 183) dX11_choose_169 rfl hr27 (by decide) ?_ ?_
    · refine x_aload_n (μ := mu_tw_choose) (pc := 183) 1 dX11_choose_183 rfl ?_
      refine x_callV_pi (μ := mu_tw_choose) (pc := 184) (ok_tw_unsettled (ω := ω) (l := l) (d := d - 1) (by omega) hM ) gRel_Tw gRel_Tw (fun _ q => q) q3592 q3594 qs194 q232 q3595 dX11_choose_184 rfl hM.1 hy_tw_unsettled (by omega) (Nat.le_of_ble_eq_true rfl) rfl (Nat.le_of_ble_eq_true rfl) (fun x28 hr29 => ?_)
      exact x_iret (μ := mu_tw_choose) (pc := 187) dX11_choose_187 rfl rfl (gRel_Tw.1 _) (show g32 x28 from hr29)
    · refine x_aload_n (μ := mu_tw_choose) (pc := 172) 1 dX11_choose_172 rfl ?_
      refine x_iload (μ := mu_tw_choose) (pc := 173) 3 dX11_choose_173 rfl ?_
      refine x_iload (μ := mu_tw_choose) (pc := 175) 0 dX11_choose_175 rfl ?_
      refine x_iconst (μ := mu_tw_choose) (pc := 177) dX11_choose_177 ?_
      refine x_iadd (μ := mu_tw_choose) (pc := 178) dX11_choose_178 ?_
      refine x_iload_n (μ := mu_tw_choose) (pc := 179) 2 dX11_choose_179 rfl ?_
      refine x_w2 ?_
      refine x_callV_mv (μ := mu_tw_choose) (pc := 180) (ok_tw_goLine (ω := ω) (l := l) (d := d - 1) (by omega) hM hv7 (w32_rng _) hv3) gRel_Tw gRel_Tw (fun _ q => q) q3553 q3555 qs189 q232 q3556 dX11_choose_180 rfl hM.1 hy_tw_goLine (by omega) (Nat.le_of_ble_eq_true rfl) rfl (Nat.le_of_ble_eq_true rfl) (fun x30 k31 => ?_)
      have hM32 : TM x30 h := hM.tw k31
      refine x_aload_n (μ := mu_tw_choose) (pc := 183) 1 dX11_choose_183 rfl ?_
      refine x_callV_pi (μ := mu_tw_choose) (pc := 184) (ok_tw_unsettled (ω := ω) (l := l) (d := d - 1) (by omega) hM32 ) gRel_Tw gRel_Tw (fun _ q => q) q3592 q3594 qs194 q232 q3595 dX11_choose_184 rfl hM32.1 hy_tw_unsettled (by omega) (Nat.le_of_ble_eq_true rfl) rfl (Nat.le_of_ble_eq_true rfl) (fun x33 hr34 => ?_)
      exact x_iret (μ := mu_tw_choose) (pc := 187) dX11_choose_187 rfl rfl (gRel_Tw.1 _) (show g32 x33 from hr34)
def tw_choose (N : Nat) (h : Nat) (v1 : Int) (v2 : Int) (σ : gMem) : Option (Int × gMem) := gLet (wI σ h 0 0) (fun s1 => (tw_in v1 0 (w32 ((mI s1 h 98) - 1)) s1).bind (fun x5 => if x5 ≠ 0 then (tw_step N h s1).bind (fun x7 => if 0 ≤ v1 ∧ v1 < ((370 : Nat) : Int) then gLet (wI (x7.2) (h + 52) v1.toNat 1) (fun s11 => if 0 ≤ v1 ∧ v1 < ((370 : Nat) : Int) then if 0 ≤ v1 ∧ v1 < ((370 : Nat) : Int) then (tw_placeOf N h 40 0 (mI s11 (h + 47) v1.toNat) s11).bind (fun x16 => if 0 ≤ v1 ∧ v1 < ((370 : Nat) : Int) then (tw_placeOf N h 40 1 (mI s11 (h + 48) v1.toNat) s11).bind (fun x19 => if mI s11 (h + 46) v1.toNat ≠ 3 then if 0 ≤ v1 ∧ v1 < ((370 : Nat) : Int) then if v2 ≠ mI s11 (h + 51) v1.toNat then (tw_unsettled N h s11).bind (fun x22 => some (x22, s11)) else if w32 ((mI s11 (h + 46) v1.toNat) - 1) ≠ 0 then tw_choose_j153 N h (x7.1) (w32 ((mI s11 (h + 46) v1.toNat) - 1)) x19 s11 else tw_choose_j153 N h (x7.1) (w32 ((mI s11 (h + 46) v1.toNat) - 1)) x16 s11 else none else if x16 < 0 then (tw_unsettled N h s11).bind (fun x35 => some (x35, s11)) else if x19 < 0 then (tw_unsettled N h s11).bind (fun x37 => some (x37, s11)) else if v2 = 0 then if 0 ≤ v1 ∧ v1 < ((370 : Nat) : Int) then (tw_setCell h (w32 (x16 + 1)) (w32 (x19 + 1)) (mI s11 (h + 49) v1.toNat) s11).bind (fun x40 => (tw_unsettled N h x40).bind (fun x43 => some (x43, x40))) else none else if 0 ≤ v1 ∧ v1 < ((370 : Nat) : Int) then (tw_setCell h (w32 (x16 + 1)) (w32 (x19 + 1)) (mI s11 (h + 50) v1.toNat) s11).bind (fun x46 => (tw_unsettled N h x46).bind (fun x49 => some (x49, x46))) else none) else none) else none else none) else none) else (tw_throwing h 1 s1).bind (fun x51 => some (x51.1, x51.2))))
set_option maxRecDepth 100000 in
theorem ok_tw_choose {ω : gW} {l : Launch} {d : Nat} {N : Nat} {h : Nat} {σ : gMem} {v1 : Int} {v2 : Int} (hdp : 3 ≤ d) (hM : TM σ h) (hv1 : g32 v1) (hv2 : g32 v2) : gK (fun p : Int × gMem => (.inl (some (vI p.1)), p.2)) gTw ω l d mu_tw_choose [vR h, vI v1, vI v2] σ (tw_choose N h v1 v2 σ) := by
  refine gK.of hp_X11 (Nat.le_of_ble_eq_true rfl) ?_
  unfold tw_choose
  refine x_aload_n (μ := mu_tw_choose) (pc := 0) 0 dX11_choose_0 rfl ?_
  refine x_iconst (μ := mu_tw_choose) (pc := 1) dX11_choose_1 ?_
  refine x_fpi (μ := mu_tw_choose) (pc := 2) fX11_0 q2636 dX11_choose_2 hM.1 (fun _ q => gTw_wI q) ?_
  refine x_let (fun s1 e2 => ?_)
  have hM3 := TM.eI e2 hM
  refine x_iload_n (μ := mu_tw_choose) (pc := 5) 1 dX11_choose_5 rfl ?_
  refine x_iconst (μ := mu_tw_choose) (pc := 6) dX11_choose_6 ?_
  refine x_aload_n (μ := mu_tw_choose) (pc := 7) 0 dX11_choose_7 rfl ?_
  refine x_fgi (μ := mu_tw_choose) (pc := 8) fX11_98 q2734 dX11_choose_8 hM3.1 (fun hr4 => ?_)
  refine x_iconst (μ := mu_tw_choose) (pc := 11) dX11_choose_11 ?_
  refine x_isub (μ := mu_tw_choose) (pc := 12) dX11_choose_12 ?_
  refine x_w1 ?_
  refine x_callS_pi (μ := mu_tw_choose) (pc := 13) (ok_tw_in (ω := ω) (l := l) (d := d - 1) (by omega) hv1 (by decide) (w32_rng _)) gRel_Tw gRel_Tw (fun _ q => q) q2980 q2981 q232 q2982 dX11_choose_13 hy_tw_in (by omega) (Nat.le_of_ble_eq_true rfl) rfl (Nat.le_of_ble_eq_true rfl) (fun x5 hr6 => ?_)
  refine x_if_ne (μ := mu_tw_choose) (pc := 16) (tgt := 25) dX11_choose_16 rfl hr6 ?_ ?_
  · refine x_aload_n (μ := mu_tw_choose) (pc := 25) 0 dX11_choose_25 rfl ?_
    refine x_callV_mi (μ := mu_tw_choose) (pc := 26) (ok_tw_step (ω := ω) (l := l) (d := d - 1) (by omega) hM3 ) gRel_Tw gRel_Tw (fun _ q => q) q3191 q3193 qs119 q232 q3194 dX11_choose_26 rfl hM3.1 hy_tw_step (by omega) (Nat.le_of_ble_eq_true rfl) rfl (Nat.le_of_ble_eq_true rfl) (fun x7 k9 hr8 => ?_)
    have hM10 : TM (x7.2) h := hM3.tw k9
    refine x_istore_n (μ := mu_tw_choose) (pc := 29) (lv' := [(3, vI (x7.1)), (0, vR h), (1, vI v1), (2, vI v2)]) dX11_choose_29 rfl (by decide) rfl ?_
    refine x_aload_n (μ := mu_tw_choose) (pc := 30) 1 dX11_choose_30 rfl ?_
    refine x_fgrE (μ := mu_tw_choose) (pc := 31) fX11_97 (Or.inr ⟨_, rfl⟩) q2733 (hM10.a97).1 dX11_choose_31 hM10.1 ?_
    refine x_iload_n (μ := mu_tw_choose) (pc := 34) 2 dX11_choose_34 rfl ?_
    refine x_iconst (μ := mu_tw_choose) (pc := 35) dX11_choose_35 ?_
    refine x_zast (μ := mu_tw_choose) (pc := 36) dX11_choose_36 (hM10.a97).2.1 (hM10.a97).2.2 (by decide) (fun _ _ q => gTw_wI q) ?_
    refine x_let (fun s11 e12 => ?_)
    have hM13 := TM.eI e12 hM10
    refine x_aload_n (μ := mu_tw_choose) (pc := 37) 1 dX11_choose_37 rfl ?_
    refine x_fgrE (μ := mu_tw_choose) (pc := 38) fX11_91 (Or.inr ⟨_, rfl⟩) q2727 (hM13.a91).1 dX11_choose_38 hM13.1 ?_
    refine x_iload_n (μ := mu_tw_choose) (pc := 41) 2 dX11_choose_41 rfl ?_
    refine x_iald (μ := mu_tw_choose) (pc := 42) dX11_choose_42 (hM13.a91).2.1 (hM13.a91).2.2 (fun hr14 => ?_)
    refine x_istore (μ := mu_tw_choose) (pc := 43) (lv' := [(4, vI (mI s11 (h + 46) v1.toNat)), (3, vI (x7.1)), (0, vR h), (1, vI v1), (2, vI v2)]) dX11_choose_43 (by decide) rfl ?_
    refine x_aload_n (μ := mu_tw_choose) (pc := 45) 2 dX11_choose_45 rfl ?_
    refine x_bipush (μ := mu_tw_choose) (pc := 46) dX11_choose_46 (by decide) ?_
    refine x_iconst (μ := mu_tw_choose) (pc := 48) dX11_choose_48 ?_
    refine x_aload_n (μ := mu_tw_choose) (pc := 49) 2 dX11_choose_49 rfl ?_
    refine x_fgrE (μ := mu_tw_choose) (pc := 50) fX11_92 (Or.inr ⟨_, rfl⟩) q2728 (hM13.a92).1 dX11_choose_50 hM13.1 ?_
    refine x_iload_n (μ := mu_tw_choose) (pc := 53) 3 dX11_choose_53 rfl ?_
    refine x_iald (μ := mu_tw_choose) (pc := 54) dX11_choose_54 (hM13.a92).2.1 (hM13.a92).2.2 (fun hr15 => ?_)
    refine x_callV_pi (μ := mu_tw_choose) (pc := 55) (ok_tw_placeOf (ω := ω) (l := l) (d := d - 1) (by omega) hM13 (by decide) (by decide) hr15) gRel_Tw gRel_Tw (fun _ q => q) q3241 q3243 qs128 q232 q3244 dX11_choose_55 rfl hM13.1 hy_tw_placeOf (by omega) (Nat.le_of_ble_eq_true rfl) rfl (Nat.le_of_ble_eq_true rfl) (fun x16 hr17 => ?_)
    refine x_istore (μ := mu_tw_choose) (pc := 58) (lv' := [(5, vI x16), (4, vI (mI s11 (h + 46) v1.toNat)), (3, vI (x7.1)), (0, vR h), (1, vI v1), (2, vI v2)]) dX11_choose_58 (by decide) rfl ?_
    refine x_aload_n (μ := mu_tw_choose) (pc := 60) 3 dX11_choose_60 rfl ?_
    refine x_bipush (μ := mu_tw_choose) (pc := 61) dX11_choose_61 (by decide) ?_
    refine x_iconst (μ := mu_tw_choose) (pc := 63) dX11_choose_63 ?_
    refine x_aload_n (μ := mu_tw_choose) (pc := 64) 3 dX11_choose_64 rfl ?_
    refine x_fgrE (μ := mu_tw_choose) (pc := 65) fX11_93 (Or.inr ⟨_, rfl⟩) q2729 (hM13.a93).1 dX11_choose_65 hM13.1 ?_
    refine x_iload_n (μ := mu_tw_choose) (pc := 68) 4 dX11_choose_68 rfl ?_
    refine x_iald (μ := mu_tw_choose) (pc := 69) dX11_choose_69 (hM13.a93).2.1 (hM13.a93).2.2 (fun hr18 => ?_)
    refine x_callV_pi (μ := mu_tw_choose) (pc := 70) (ok_tw_placeOf (ω := ω) (l := l) (d := d - 1) (by omega) hM13 (by decide) (by decide) hr18) gRel_Tw gRel_Tw (fun _ q => q) q3241 q3243 qs128 q232 q3244 dX11_choose_70 rfl hM13.1 hy_tw_placeOf (by omega) (Nat.le_of_ble_eq_true rfl) rfl (Nat.le_of_ble_eq_true rfl) (fun x19 hr20 => ?_)
    refine x_istore (μ := mu_tw_choose) (pc := 73) (lv' := [(6, vI x19), (5, vI x16), (4, vI (mI s11 (h + 46) v1.toNat)), (3, vI (x7.1)), (0, vR h), (1, vI v1), (2, vI v2)]) dX11_choose_73 (by decide) rfl ?_
    refine x_iload (μ := mu_tw_choose) (pc := 75) 2 dX11_choose_75 rfl ?_
    refine x_iconst (μ := mu_tw_choose) (pc := 77) dX11_choose_77 ?_
    refine x_icmp_ne (μ := mu_tw_choose) (pc := 78) (tgt := 125) dX11_choose_78 rfl hr14 (by decide) ?_ ?_
    · refine x_iload_n (μ := mu_tw_choose) (pc := 125) 6 dX11_choose_125 rfl ?_
      refine x_aload_n (μ := mu_tw_choose) (pc := 126) 4 dX11_choose_126 rfl ?_
      refine x_fgrE (μ := mu_tw_choose) (pc := 127) fX11_96 (Or.inr ⟨_, rfl⟩) q2732 (hM13.a96).1 dX11_choose_127 hM13.1 ?_
      refine x_iload_n (μ := mu_tw_choose) (pc := 130) 5 dX11_choose_130 rfl ?_
      refine x_zald (μ := mu_tw_choose) (pc := 131) dX11_choose_131 (hM13.a96).2.1 (hM13.a96).2.2 (fun hr21 => ?_)
      refine x_icmp_ne (μ := mu_tw_choose) (pc := 132) (tgt := 183) dX11_choose_132 rfl hv2 hr21 ?_ ?_
      · refine x_aload_n (μ := mu_tw_choose) (pc := 183) 4 dX11_choose_183 rfl ?_
        refine x_callV_pi (μ := mu_tw_choose) (pc := 184) (ok_tw_unsettled (ω := ω) (l := l) (d := d - 1) (by omega) hM13 ) gRel_Tw gRel_Tw (fun _ q => q) q3592 q3594 qs194 q232 q3595 dX11_choose_184 rfl hM13.1 hy_tw_unsettled (by omega) (Nat.le_of_ble_eq_true rfl) rfl (Nat.le_of_ble_eq_true rfl) (fun x22 hr23 => ?_)
        exact x_iret (μ := mu_tw_choose) (pc := 187) dX11_choose_187 rfl rfl (gRel_Tw.1 _) (show g32 x22 from hr23)
      · refine x_iload (μ := mu_tw_choose) (pc := 135) 2 dX11_choose_135 rfl ?_
        refine x_iconst (μ := mu_tw_choose) (pc := 137) dX11_choose_137 ?_
        refine x_isub (μ := mu_tw_choose) (pc := 138) dX11_choose_138 ?_
        refine x_w1 ?_
        refine x_istore (μ := mu_tw_choose) (pc := 139) (lv' := [(7, vI (w32 ((mI s11 (h + 46) v1.toNat) - 1))), (6, vI x19), (5, vI x16), (4, vI (mI s11 (h + 46) v1.toNat)), (3, vI (x7.1)), (0, vR h), (1, vI v1), (2, vI v2)]) dX11_choose_139 (by decide) rfl ?_
        refine x_iload (μ := mu_tw_choose) (pc := 141) 0 dX11_choose_141 rfl ?_
        refine x_if_ne (μ := mu_tw_choose) (pc := 143) (tgt := 151) dX11_choose_143 rfl (w32_rng _) ?_ ?_
        · refine x_iload (μ := mu_tw_choose) (pc := 151) 1 dX11_choose_151 rfl ?_
          refine x_loc (lv' := [(0, vR h), (3, vI (x7.1)), (7, vI (w32 ((mI s11 (h + 46) v1.toNat) - 1)))]) [5, 4, 0] rfl ?_
          exact okj_tw_choose_j153 hdp hM13 hr8 (w32_rng _) hr20
        · refine x_iload (μ := mu_tw_choose) (pc := 146) 2 dX11_choose_146 rfl ?_
          refine x_goto (μ := mu_tw_choose) (pc := 148) (tgt := 153) dX11_choose_148 rfl ?_
          refine x_loc (lv' := [(0, vR h), (3, vI (x7.1)), (7, vI (w32 ((mI s11 (h + 46) v1.toNat) - 1)))]) [5, 4, 0] rfl ?_
          exact okj_tw_choose_j153 hdp hM13 hr8 (w32_rng _) hr17
    · refine x_iload (μ := mu_tw_choose) (pc := 81) 1 dX11_choose_81 rfl ?_
      refine x_if_lt (μ := mu_tw_choose) (pc := 83) (tgt := 183) dX11_choose_83 rfl hr17 ?_ ?_
      · refine x_aload_n (μ := mu_tw_choose) (pc := 183) 4 dX11_choose_183 rfl ?_
        refine x_callV_pi (μ := mu_tw_choose) (pc := 184) (ok_tw_unsettled (ω := ω) (l := l) (d := d - 1) (by omega) hM13 ) gRel_Tw gRel_Tw (fun _ q => q) q3592 q3594 qs194 q232 q3595 dX11_choose_184 rfl hM13.1 hy_tw_unsettled (by omega) (Nat.le_of_ble_eq_true rfl) rfl (Nat.le_of_ble_eq_true rfl) (fun x35 hr36 => ?_)
        exact x_iret (μ := mu_tw_choose) (pc := 187) dX11_choose_187 rfl rfl (gRel_Tw.1 _) (show g32 x35 from hr36)
      · refine x_iload (μ := mu_tw_choose) (pc := 86) 0 dX11_choose_86 rfl ?_
        refine x_if_lt (μ := mu_tw_choose) (pc := 88) (tgt := 183) dX11_choose_88 rfl hr20 ?_ ?_
        · refine x_aload_n (μ := mu_tw_choose) (pc := 183) 4 dX11_choose_183 rfl ?_
          refine x_callV_pi (μ := mu_tw_choose) (pc := 184) (ok_tw_unsettled (ω := ω) (l := l) (d := d - 1) (by omega) hM13 ) gRel_Tw gRel_Tw (fun _ q => q) q3592 q3594 qs194 q232 q3595 dX11_choose_184 rfl hM13.1 hy_tw_unsettled (by omega) (Nat.le_of_ble_eq_true rfl) rfl (Nat.le_of_ble_eq_true rfl) (fun x37 hr38 => ?_)
          exact x_iret (μ := mu_tw_choose) (pc := 187) dX11_choose_187 rfl rfl (gRel_Tw.1 _) (show g32 x37 from hr38)
        · refine x_aload_n (μ := mu_tw_choose) (pc := 91) 4 dX11_choose_91 rfl ?_
          refine x_iload (μ := mu_tw_choose) (pc := 92) 1 dX11_choose_92 rfl ?_
          refine x_iconst (μ := mu_tw_choose) (pc := 94) dX11_choose_94 ?_
          refine x_iadd (μ := mu_tw_choose) (pc := 95) dX11_choose_95 ?_
          refine x_iload (μ := mu_tw_choose) (pc := 96) 0 dX11_choose_96 rfl ?_
          refine x_iconst (μ := mu_tw_choose) (pc := 98) dX11_choose_98 ?_
          refine x_iadd (μ := mu_tw_choose) (pc := 99) dX11_choose_99 ?_
          refine x_iload_n (μ := mu_tw_choose) (pc := 100) 6 dX11_choose_100 rfl ?_
          refine x_if_eq (μ := mu_tw_choose) (pc := 101) (tgt := 113) dX11_choose_101 rfl hv2 ?_ ?_
          · refine x_aload_n (μ := mu_tw_choose) (pc := 113) 4 dX11_choose_113 rfl ?_
            refine x_fgrE (μ := mu_tw_choose) (pc := 114) fX11_94 (Or.inr ⟨_, rfl⟩) q2730 (hM13.a94).1 dX11_choose_114 hM13.1 ?_
            refine x_iload_n (μ := mu_tw_choose) (pc := 117) 5 dX11_choose_117 rfl ?_
            refine x_iald (μ := mu_tw_choose) (pc := 118) dX11_choose_118 (hM13.a94).2.1 (hM13.a94).2.2 (fun hr39 => ?_)
            refine x_w2 ?_
            refine x_stk (st2 := [vI (mI s11 (h + 49) v1.toNat), vI (w32 (x19 + 1)), vI (w32 (x16 + 1)), vR h]) (by simp only [List.map_cons, gval_w32, gval_w64]) ?_
            refine x_callV_mv (μ := mu_tw_choose) (pc := 119) (ok_tw_setCell (ω := ω) (l := l) (d := d - 1) (by omega) hM13 (w32_rng _) (w32_rng _) hr39) gRel_Tw gRel_Tw (fun _ q => q) q3195 q3197 qs120 q232 q3198 dX11_choose_119 rfl hM13.1 hy_tw_setCell (by omega) (Nat.le_of_ble_eq_true rfl) rfl (Nat.le_of_ble_eq_true rfl) (fun x40 k41 => ?_)
            have hM42 : TM x40 h := hM13.tw k41
            refine x_goto (μ := mu_tw_choose) (pc := 122) (tgt := 183) dX11_choose_122 rfl ?_
            refine x_aload_n (μ := mu_tw_choose) (pc := 183) 4 dX11_choose_183 rfl ?_
            refine x_callV_pi (μ := mu_tw_choose) (pc := 184) (ok_tw_unsettled (ω := ω) (l := l) (d := d - 1) (by omega) hM42 ) gRel_Tw gRel_Tw (fun _ q => q) q3592 q3594 qs194 q232 q3595 dX11_choose_184 rfl hM42.1 hy_tw_unsettled (by omega) (Nat.le_of_ble_eq_true rfl) rfl (Nat.le_of_ble_eq_true rfl) (fun x43 hr44 => ?_)
            exact x_iret (μ := mu_tw_choose) (pc := 187) dX11_choose_187 rfl rfl (gRel_Tw.1 _) (show g32 x43 from hr44)
          · refine x_aload_n (μ := mu_tw_choose) (pc := 104) 4 dX11_choose_104 rfl ?_
            refine x_fgrE (μ := mu_tw_choose) (pc := 105) fX11_95 (Or.inr ⟨_, rfl⟩) q2731 (hM13.a95).1 dX11_choose_105 hM13.1 ?_
            refine x_iload_n (μ := mu_tw_choose) (pc := 108) 5 dX11_choose_108 rfl ?_
            refine x_iald (μ := mu_tw_choose) (pc := 109) dX11_choose_109 (hM13.a95).2.1 (hM13.a95).2.2 (fun hr45 => ?_)
            refine x_goto (μ := mu_tw_choose) (pc := 110) (tgt := 119) dX11_choose_110 rfl ?_
            refine x_w2 ?_
            refine x_stk (st2 := [vI (mI s11 (h + 50) v1.toNat), vI (w32 (x19 + 1)), vI (w32 (x16 + 1)), vR h]) (by simp only [List.map_cons, gval_w32, gval_w64]) ?_
            refine x_callV_mv (μ := mu_tw_choose) (pc := 119) (ok_tw_setCell (ω := ω) (l := l) (d := d - 1) (by omega) hM13 (w32_rng _) (w32_rng _) hr45) gRel_Tw gRel_Tw (fun _ q => q) q3195 q3197 qs120 q232 q3198 dX11_choose_119 rfl hM13.1 hy_tw_setCell (by omega) (Nat.le_of_ble_eq_true rfl) rfl (Nat.le_of_ble_eq_true rfl) (fun x46 k47 => ?_)
            have hM48 : TM x46 h := hM13.tw k47
            refine x_goto (μ := mu_tw_choose) (pc := 122) (tgt := 183) dX11_choose_122 rfl ?_
            refine x_aload_n (μ := mu_tw_choose) (pc := 183) 4 dX11_choose_183 rfl ?_
            refine x_callV_pi (μ := mu_tw_choose) (pc := 184) (ok_tw_unsettled (ω := ω) (l := l) (d := d - 1) (by omega) hM48 ) gRel_Tw gRel_Tw (fun _ q => q) q3592 q3594 qs194 q232 q3595 dX11_choose_184 rfl hM48.1 hy_tw_unsettled (by omega) (Nat.le_of_ble_eq_true rfl) rfl (Nat.le_of_ble_eq_true rfl) (fun x49 hr50 => ?_)
            exact x_iret (μ := mu_tw_choose) (pc := 187) dX11_choose_187 rfl rfl (gRel_Tw.1 _) (show g32 x49 from hr50)
  · refine x_aload_n (μ := mu_tw_choose) (pc := 19) 0 dX11_choose_19 rfl ?_
    refine x_iconst (μ := mu_tw_choose) (pc := 20) dX11_choose_20 ?_
    refine x_callV_mi (μ := mu_tw_choose) (pc := 21) (ok_tw_throwing (ω := ω) (l := l) (d := d - 1) (by omega) hM3 (by decide)) gRel_Tw gRel_Tw (fun _ q => q) q2960 q2962 qs78 q232 q2963 dX11_choose_21 rfl hM3.1 hy_tw_throwing (by omega) (Nat.le_of_ble_eq_true rfl) rfl (Nat.le_of_ble_eq_true rfl) (fun x51 k53 hr52 => ?_)
    have hM54 : TM (x51.2) h := hM3.tw k53
    exact x_iret (μ := mu_tw_choose) (pc := 24) dX11_choose_24 rfl rfl (gRel_Tw.1 _) (show g32 (x51.1) from hr52)
def tw_linesAlone_l3_j61 (N : Nat) (h : Nat) (v1 : Int) (v2 : Int) (v3 : Int) (v4 : Int) (v5 : Int) (Kh : Int → gMem → Option gMem) (K : gMem → Option gMem) (s : gMem) : Option gMem := Kh (w32 (v5 + 1)) s
set_option maxRecDepth 100000 in
theorem okj_tw_linesAlone_l3_j61 {ω : gW} {l : Launch} {d : Nat} {N : Nat} {h : Nat} {σ0 : gMem} {s : gMem} {v1 : Int} {v2 : Int} {v3 : Int} {v4 : Int} {v5 : Int} {Kh : Int → gMem → Option gMem} {K : gMem → Option gMem} (hdp : 2 ≤ d) (hM : TM s h) (hv1 : g32 v1) (hv2 : g32 v2) (hv3 : g32 v3) (hv4 : g32 v4) (hv5 : g32 v5) (hKh : ∀ (v5 : Int) (s : gMem) , g32 v5 → TM s h → GG (fun p : gMem => (.inl none, p)) gTw ω l d mu_tw_linesAlone σ0 3 [(0, vR h), (1, vI v1), (2, vI v2), (3, vI v3), (4, vI v4), (5, vI v5)] [] s (Kh v5 s)) (hK : ∀ (s : gMem) , TM s h → GG (fun p : gMem => (.inl none, p)) gTw ω l d mu_tw_linesAlone σ0 67 [] [] s (K s)) : GG (fun p : gMem => (.inl none, p)) gTw ω l d mu_tw_linesAlone σ0 61 [(0, vR h), (1, vI v1), (2, vI v2), (3, vI v3), (4, vI v4), (5, vI v5)] [] s (tw_linesAlone_l3_j61 N h v1 v2 v3 v4 v5 Kh K s) := by
  unfold tw_linesAlone_l3_j61
  refine x_iincw (μ := mu_tw_linesAlone) (pc := 61) (lv' := [(5, vI (w32 (v5 + 1))), (0, vR h), (1, vI v1), (2, vI v2), (3, vI v3), (4, vI v4)]) 5 dX11_linesAlone_61 rfl (by decide) rfl ?_
  refine x_goto (μ := mu_tw_linesAlone) (pc := 64) (tgt := 3) dX11_linesAlone_64 rfl ?_
  refine x_loc (lv' := [(0, vR h), (1, vI v1), (2, vI v2), (3, vI v3), (4, vI v4), (5, vI (w32 (v5 + 1)))]) [1, 2, 3, 4, 5, 0] rfl ?_
  exact hKh (w32 (v5 + 1)) s (w32_rng _) hM
def tw_linesAlone_l3_j58 (N : Nat) (h : Nat) (v1 : Int) (v2 : Int) (v3 : Int) (v4 : Int) (v5 : Int) (t0 : Int) (t1 : Int) (t2 : Int) (Kh : Int → gMem → Option gMem) (K : gMem → Option gMem) (s : gMem) : Option gMem := (tw_differ h t2 t1 t0 s).bind (fun x7 => tw_linesAlone_l3_j61 N h v1 v2 v3 v4 v5  (Kh) K x7)
set_option maxRecDepth 100000 in
theorem okj_tw_linesAlone_l3_j58 {ω : gW} {l : Launch} {d : Nat} {N : Nat} {h : Nat} {σ0 : gMem} {s : gMem} {v1 : Int} {v2 : Int} {v3 : Int} {v4 : Int} {v5 : Int} {t0 : Int} {t1 : Int} {t2 : Int} {Kh : Int → gMem → Option gMem} {K : gMem → Option gMem} (hdp : 2 ≤ d) (hM : TM s h) (hv1 : g32 v1) (hv2 : g32 v2) (hv3 : g32 v3) (hv4 : g32 v4) (hv5 : g32 v5) (ht0 : g32 t0) (ht1 : g32 t1) (ht2 : g32 t2) (hKh : ∀ (v5 : Int) (s : gMem) , g32 v5 → TM s h → GG (fun p : gMem => (.inl none, p)) gTw ω l d mu_tw_linesAlone σ0 3 [(0, vR h), (1, vI v1), (2, vI v2), (3, vI v3), (4, vI v4), (5, vI v5)] [] s (Kh v5 s)) (hK : ∀ (s : gMem) , TM s h → GG (fun p : gMem => (.inl none, p)) gTw ω l d mu_tw_linesAlone σ0 67 [] [] s (K s)) : GG (fun p : gMem => (.inl none, p)) gTw ω l d mu_tw_linesAlone σ0 58 [(0, vR h), (1, vI v1), (2, vI v2), (3, vI v3), (4, vI v4), (5, vI v5)] [vI t0, vI t1, vI t2, vR h] s (tw_linesAlone_l3_j58 N h v1 v2 v3 v4 v5 t0 t1 t2 Kh K s) := by
  unfold tw_linesAlone_l3_j58
  refine x_callV_mv (μ := mu_tw_linesAlone) (pc := 58) (ok_tw_differ (ω := ω) (l := l) (d := d - 1) (by omega) hM ht2 ht1 ht0) gRel_Tw gRel_Tw (fun _ q => q) q3726 q3728 qs218 q232 q3729 dX11_linesAlone_58 rfl hM.1 hy_tw_differ (by omega) (Nat.le_of_ble_eq_true rfl) rfl (Nat.le_of_ble_eq_true rfl) (fun x7 k8 => ?_)
  have hM9 : TM x7 h := hM.tw k8
  exact okj_tw_linesAlone_l3_j61 hdp hM9 hv1 hv2 hv3 hv4 hv5 hKh hK
def tw_linesAlone_l3_j46 (N : Nat) (h : Nat) (v1 : Int) (v2 : Int) (v3 : Int) (v4 : Int) (v5 : Int) (t0 : Int) (t1 : Int) (Kh : Int → gMem → Option gMem) (K : gMem → Option gMem) (s : gMem) : Option gMem := if v3 ≠ 0 then tw_linesAlone_l3_j58 N h v1 v2 v3 v4 v5 (w32 (v5 + 1)) t0 t1 (Kh) K s else tw_linesAlone_l3_j58 N h v1 v2 v3 v4 v5 0 t0 t1 (Kh) K s
set_option maxRecDepth 100000 in
theorem okj_tw_linesAlone_l3_j46 {ω : gW} {l : Launch} {d : Nat} {N : Nat} {h : Nat} {σ0 : gMem} {s : gMem} {v1 : Int} {v2 : Int} {v3 : Int} {v4 : Int} {v5 : Int} {t0 : Int} {t1 : Int} {Kh : Int → gMem → Option gMem} {K : gMem → Option gMem} (hdp : 2 ≤ d) (hM : TM s h) (hv1 : g32 v1) (hv2 : g32 v2) (hv3 : g32 v3) (hv4 : g32 v4) (hv5 : g32 v5) (ht0 : g32 t0) (ht1 : g32 t1) (hKh : ∀ (v5 : Int) (s : gMem) , g32 v5 → TM s h → GG (fun p : gMem => (.inl none, p)) gTw ω l d mu_tw_linesAlone σ0 3 [(0, vR h), (1, vI v1), (2, vI v2), (3, vI v3), (4, vI v4), (5, vI v5)] [] s (Kh v5 s)) (hK : ∀ (s : gMem) , TM s h → GG (fun p : gMem => (.inl none, p)) gTw ω l d mu_tw_linesAlone σ0 67 [] [] s (K s)) : GG (fun p : gMem => (.inl none, p)) gTw ω l d mu_tw_linesAlone σ0 46 [(0, vR h), (1, vI v1), (2, vI v2), (3, vI v3), (4, vI v4), (5, vI v5)] [vI t0, vI t1, vR h] s (tw_linesAlone_l3_j46 N h v1 v2 v3 v4 v5 t0 t1 Kh K s) := by
  unfold tw_linesAlone_l3_j46
  refine x_iload_n (μ := mu_tw_linesAlone) (pc := 46) 3 dX11_linesAlone_46 rfl ?_
  refine x_if_ne (μ := mu_tw_linesAlone) (pc := 47) (tgt := 54) dX11_linesAlone_47 rfl hv3 ?_ ?_
  · refine x_iload (μ := mu_tw_linesAlone) (pc := 54) 5 dX11_linesAlone_54 rfl ?_
    refine x_iconst (μ := mu_tw_linesAlone) (pc := 56) dX11_linesAlone_56 ?_
    refine x_iadd (μ := mu_tw_linesAlone) (pc := 57) dX11_linesAlone_57 ?_
    refine x_w1 ?_
    exact okj_tw_linesAlone_l3_j58 hdp hM hv1 hv2 hv3 hv4 hv5 (w32_rng _) ht0 ht1 hKh hK
  · refine x_iconst (μ := mu_tw_linesAlone) (pc := 50) dX11_linesAlone_50 ?_
    refine x_goto (μ := mu_tw_linesAlone) (pc := 51) (tgt := 58) dX11_linesAlone_51 rfl ?_
    exact okj_tw_linesAlone_l3_j58 hdp hM hv1 hv2 hv3 hv4 hv5 (by decide) ht0 ht1 hKh hK
def tw_linesAlone_l3 (N : Nat) (h : Nat) (v1 : Int) (v2 : Int) (v3 : Int) (v4 : Int) (K : gMem → Option gMem) : Nat → Int → gMem → Option gMem
  | 0, _, _ => none
  | n + 1, v5, s => (tw_linesOf h v1 v3 s).bind (fun x1 => if x1 ≤ v5 then K s else (tw_lineAt h v1 v3 v5 s).bind (fun x3 => (tw_placeOf N h v2 v3 x3 s).bind (fun x5 => if 0 ≤ x5 then tw_linesAlone_l3_j61 N h v1 v2 v3 v4 v5  (tw_linesAlone_l3 N h v1 v2 v3 v4 K n) K s else if v3 ≠ 0 then tw_linesAlone_l3_j46 N h v1 v2 v3 v4 v5 0 v4 (tw_linesAlone_l3 N h v1 v2 v3 v4 K n) K s else tw_linesAlone_l3_j46 N h v1 v2 v3 v4 v5 (w32 (v5 + 1)) v4 (tw_linesAlone_l3 N h v1 v2 v3 v4 K n) K s)))
set_option maxRecDepth 100000 in
theorem okl_tw_linesAlone_l3 {ω : gW} {l : Launch} {d : Nat} {N : Nat} {h : Nat} {σ0 : gMem} {v1 : Int} {v2 : Int} {v3 : Int} {v4 : Int} {K : gMem → Option gMem} (hdp : 2 ≤ d) (hv1 : g32 v1) (hv2 : g32 v2) (hv3 : g32 v3) (hv4 : g32 v4) (hK : ∀ (s : gMem) , TM s h → GG (fun p : gMem => (.inl none, p)) gTw ω l d mu_tw_linesAlone σ0 67 [] [] s (K s)) : ∀ (n : Nat) (v5 : Int) (s : gMem) , g32 v5 → TM s h → GG (fun p : gMem => (.inl none, p)) gTw ω l d mu_tw_linesAlone σ0 3 [(0, vR h), (1, vI v1), (2, vI v2), (3, vI v3), (4, vI v4), (5, vI v5)] [] s (tw_linesAlone_l3 N h v1 v2 v3 v4 K n v5 s) := by
  intro n
  induction n with
  | zero => intros; exact x_none
  | succ n ih =>
    intro v5 s hv5 hM
    unfold tw_linesAlone_l3
    refine x_iload (μ := mu_tw_linesAlone) (pc := 3) 5 dX11_linesAlone_3 rfl ?_
    refine x_aload_n (μ := mu_tw_linesAlone) (pc := 5) 0 dX11_linesAlone_5 rfl ?_
    refine x_iload_n (μ := mu_tw_linesAlone) (pc := 6) 1 dX11_linesAlone_6 rfl ?_
    refine x_iload_n (μ := mu_tw_linesAlone) (pc := 7) 3 dX11_linesAlone_7 rfl ?_
    refine x_callV_pi (μ := mu_tw_linesAlone) (pc := 8) (ok_tw_linesOf (ω := ω) (l := l) (d := d - 1) (by omega) hM hv1 hv3) gRel_Tw gRel_Tw (fun _ q => q) q3245 q3247 qs129 q232 q3248 dX11_linesAlone_8 rfl hM.1 hy_tw_linesOf (by omega) (Nat.le_of_ble_eq_true rfl) rfl (Nat.le_of_ble_eq_true rfl) (fun x1 hr2 => ?_)
    refine x_icmp_ge (μ := mu_tw_linesAlone) (pc := 11) (tgt := 67) dX11_linesAlone_11 rfl hv5 hr2 ?_ ?_
    · refine x_loc (lv' := []) [] rfl ?_
      exact hK s hM
    · refine x_aload_n (μ := mu_tw_linesAlone) (pc := 14) 0 dX11_linesAlone_14 rfl ?_
      refine x_iload_n (μ := mu_tw_linesAlone) (pc := 15) 2 dX11_linesAlone_15 rfl ?_
      refine x_iload_n (μ := mu_tw_linesAlone) (pc := 16) 3 dX11_linesAlone_16 rfl ?_
      refine x_aload_n (μ := mu_tw_linesAlone) (pc := 17) 0 dX11_linesAlone_17 rfl ?_
      refine x_iload_n (μ := mu_tw_linesAlone) (pc := 18) 1 dX11_linesAlone_18 rfl ?_
      refine x_iload_n (μ := mu_tw_linesAlone) (pc := 19) 3 dX11_linesAlone_19 rfl ?_
      refine x_iload (μ := mu_tw_linesAlone) (pc := 20) 5 dX11_linesAlone_20 rfl ?_
      refine x_callV_pi (μ := mu_tw_linesAlone) (pc := 22) (ok_tw_lineAt (ω := ω) (l := l) (d := d - 1) (by omega) hM hv1 hv3 hv5) gRel_Tw gRel_Tw (fun _ q => q) q3148 q3150 qs111 q232 q3151 dX11_linesAlone_22 rfl hM.1 hy_tw_lineAt (by omega) (Nat.le_of_ble_eq_true rfl) rfl (Nat.le_of_ble_eq_true rfl) (fun x3 hr4 => ?_)
      refine x_callV_pi (μ := mu_tw_linesAlone) (pc := 25) (ok_tw_placeOf (ω := ω) (l := l) (d := d - 1) (by omega) hM hv2 hv3 hr4) gRel_Tw gRel_Tw (fun _ q => q) q3241 q3243 qs128 q232 q3244 dX11_linesAlone_25 rfl hM.1 hy_tw_placeOf (by omega) (Nat.le_of_ble_eq_true rfl) rfl (Nat.le_of_ble_eq_true rfl) (fun x5 hr6 => ?_)
      refine x_if_ge (μ := mu_tw_linesAlone) (pc := 28) (tgt := 61) dX11_linesAlone_28 rfl hr6 ?_ ?_
      · exact okj_tw_linesAlone_l3_j61 hdp hM hv1 hv2 hv3 hv4 hv5 ih hK
      · refine x_aload_n (μ := mu_tw_linesAlone) (pc := 31) 0 dX11_linesAlone_31 rfl ?_
        refine x_iload (μ := mu_tw_linesAlone) (pc := 32) 4 dX11_linesAlone_32 rfl ?_
        refine x_iload_n (μ := mu_tw_linesAlone) (pc := 34) 3 dX11_linesAlone_34 rfl ?_
        refine x_if_ne (μ := mu_tw_linesAlone) (pc := 35) (tgt := 45) dX11_linesAlone_35 rfl hv3 ?_ ?_
        · refine x_iconst (μ := mu_tw_linesAlone) (pc := 45) dX11_linesAlone_45 ?_
          exact okj_tw_linesAlone_l3_j46 hdp hM hv1 hv2 hv3 hv4 hv5 (by decide) hv4 ih hK
        · refine x_iload (μ := mu_tw_linesAlone) (pc := 38) 5 dX11_linesAlone_38 rfl ?_
          refine x_iconst (μ := mu_tw_linesAlone) (pc := 40) dX11_linesAlone_40 ?_
          refine x_iadd (μ := mu_tw_linesAlone) (pc := 41) dX11_linesAlone_41 ?_
          refine x_goto (μ := mu_tw_linesAlone) (pc := 42) (tgt := 46) dX11_linesAlone_42 rfl ?_
          refine x_w1 ?_
          exact okj_tw_linesAlone_l3_j46 hdp hM hv1 hv2 hv3 hv4 hv5 (w32_rng _) hv4 ih hK
def tw_linesAlone (N : Nat) (h : Nat) (v1 : Int) (v2 : Int) (v3 : Int) (v4 : Int) (σ : gMem) : Option gMem := tw_linesAlone_l3 N h v1 v2 v3 v4 (fun s10 => some s10) N 0 σ
set_option maxRecDepth 100000 in
theorem ok_tw_linesAlone {ω : gW} {l : Launch} {d : Nat} {N : Nat} {h : Nat} {σ : gMem} {v1 : Int} {v2 : Int} {v3 : Int} {v4 : Int} (hdp : 2 ≤ d) (hM : TM σ h) (hv1 : g32 v1) (hv2 : g32 v2) (hv3 : g32 v3) (hv4 : g32 v4) : gK (fun p : gMem => (.inl none, p)) gTw ω l d mu_tw_linesAlone [vR h, vI v1, vI v2, vI v3, vI v4] σ (tw_linesAlone N h v1 v2 v3 v4 σ) := by
  refine gK.of hp_X11 (Nat.le_of_ble_eq_true rfl) ?_
  unfold tw_linesAlone
  refine x_iconst (μ := mu_tw_linesAlone) (pc := 0) dX11_linesAlone_0 ?_
  refine x_istore (μ := mu_tw_linesAlone) (pc := 1) (lv' := [(5, vI 0), (0, vR h), (1, vI v1), (2, vI v2), (3, vI v3), (4, vI v4)]) dX11_linesAlone_1 (by decide) rfl ?_
  refine x_loc (lv' := [(0, vR h), (1, vI v1), (2, vI v2), (3, vI v3), (4, vI v4), (5, vI 0)]) [1, 2, 3, 4, 5, 0] rfl ?_
  refine okl_tw_linesAlone_l3 hdp hv1 hv2 hv3 hv4 (fun s10 hM11 => ?_) N 0 σ (by decide) hM
  exact x_vret (μ := mu_tw_linesAlone) (pc := 67) (a1 := s10) dX11_linesAlone_67 rfl rfl (gRel_Tw.1 _) trivial
def x13_work (v0 : Nat) (v1 : Nat) (v2 : Nat) (σ : gMem) : Option gMem := if mT σ v0 = 11 then if mT σ v2 = 5 then (x5_be v2 (mL σ v0 0) σ).bind (fun x4 => some x4) else none else none
set_option maxRecDepth 100000 in
theorem ok_x13_work {ω : gW} {l : Launch} {d : Nat} {σ : gMem} {v0 : Nat} {v1 : Nat} {v2 : Nat} (hl : l.stackTraces = false) (hdp : 2 ≤ d) : gK (fun p : gMem => (.inl none, p)) gE ω l d mu_x13_work [vR v0, vR v1, vR v2] σ (x13_work v0 v1 v2 σ) := by
  refine gK.of hp_X13 (Nat.le_of_ble_eq_true rfl) ?_
  unfold x13_work
  refine x_aload_n (μ := mu_x13_work) (pc := 0) 2 dX13_work_0 rfl ?_
  refine x_aload_n (μ := mu_x13_work) (pc := 1) 0 dX13_work_1 rfl ?_
  refine x_if (fun hT1 => ?_)
  refine x_fgl (μ := mu_x13_work) (pc := 2) fX13_0 q1873 dX13_work_2 hT1 (fun hr2 => ?_)
  refine x_if (fun hT3 => ?_)
  refine x_callV_mv (μ := mu_x13_work) (pc := 5) (ok_x5_be (ω := ω) (l := l) (d := d - 1) hl (by omega) hr2) gRel_E gRel_E (fun _ q => q) q1051 q1052 q1053 q225 q1054 dX13_work_5 rfl hT3 hy_x5_be (by omega) (Nat.le_of_ble_eq_true rfl) rfl (Nat.le_of_ble_eq_true rfl) (fun x4 k5 => ?_)
  exact x_vret (μ := mu_x13_work) (pc := 8) (a1 := x4) dX13_work_8 rfl rfl (gRel_E.1 _) trivial
def x13_write (v0 : Nat) (v1 : Nat) (v2 : Nat) (σ : gMem) : Option gMem := if mT σ v0 = 11 then if mT σ v1 = 7 then (x8_number 20 v1 (mL σ v0 0) σ).bind (fun x4 => some x4) else none else none
set_option maxRecDepth 100000 in
theorem ok_x13_write {ω : gW} {l : Launch} {d : Nat} {σ : gMem} {v0 : Nat} {v1 : Nat} {v2 : Nat} (hl : l.stackTraces = false) (hdp : 22 ≤ d) : gK (fun p : gMem => (.inl none, p)) gE ω l d mu_x13_write [vR v0, vR v1, vR v2] σ (x13_write v0 v1 v2 σ) := by
  refine gK.of hp_X13 (Nat.le_of_ble_eq_true rfl) ?_
  unfold x13_write
  refine x_aload_n (μ := mu_x13_write) (pc := 0) 1 dX13_write_0 rfl ?_
  refine x_aload_n (μ := mu_x13_write) (pc := 1) 0 dX13_write_1 rfl ?_
  refine x_if (fun hT1 => ?_)
  refine x_fgl (μ := mu_x13_write) (pc := 2) fX13_0 q1873 dX13_write_2 hT1 (fun hr2 => ?_)
  refine x_if (fun hT3 => ?_)
  refine x_callV_mv (μ := mu_x13_write) (pc := 5) (ok_x8_number (ω := ω) (l := l) (d := d - 1) hl 20 v1 (mL σ v0 0) σ hr2 (by omega)) gRel_E gRel_E (fun _ q => q) q1516 q1395 q1396 q229 q1397 dX13_write_5 rfl hT3 hy_x8_number (by omega) (Nat.le_of_ble_eq_true rfl) rfl (Nat.le_of_ble_eq_true rfl) (fun x4 k5 => ?_)
  exact x_vret (μ := mu_x13_write) (pc := 8) (a1 := x4) dX13_write_8 rfl rfl (gRel_E.1 _) trivial
def x14_work (v0 : Nat) (v1 : Nat) (v2 : Nat) (σ : gMem) : Option gMem := if mT σ v0 = 12 then if mT σ (mR σ v0 0) = 102 then if mT σ v2 = 5 then (x5_words v2 (mR σ v0 0) 0 (w32 (mN σ (mR σ v0 0) : Int)) σ).bind (fun x4 => some x4) else none else none else none
set_option maxRecDepth 100000 in
theorem ok_x14_work {ω : gW} {l : Launch} {d : Nat} {σ : gMem} {v0 : Nat} {v1 : Nat} {v2 : Nat} (hl : l.stackTraces = false) (hdp : 2 ≤ d) : gK (fun p : gMem => (.inl none, p)) gE ω l d mu_x14_work [vR v0, vR v1, vR v2] σ (x14_work v0 v1 v2 σ) := by
  refine gK.of hp_X14 (Nat.le_of_ble_eq_true rfl) ?_
  unfold x14_work
  refine x_aload_n (μ := mu_x14_work) (pc := 0) 2 dX14_work_0 rfl ?_
  refine x_aload_n (μ := mu_x14_work) (pc := 1) 0 dX14_work_1 rfl ?_
  refine x_if (fun hT1 => ?_)
  refine x_fgr (μ := mu_x14_work) (pc := 2) fX14_0 (by first | exact Or.inl ⟨_, rfl⟩ | exact Or.inr ⟨_, rfl⟩) q1894 dX14_work_2 hT1 ?_
  refine x_iconst (μ := mu_x14_work) (pc := 5) dX14_work_5 ?_
  refine x_aload_n (μ := mu_x14_work) (pc := 6) 0 dX14_work_6 rfl ?_
  refine x_fgr (μ := mu_x14_work) (pc := 7) fX14_0 (by first | exact Or.inl ⟨_, rfl⟩ | exact Or.inr ⟨_, rfl⟩) q1894 dX14_work_7 hT1 ?_
  refine x_if (fun hT2 => ?_)
  refine x_len (μ := mu_x14_work) (pc := 10) 2 (fun _ => rfl) dX14_work_10 hT2 ?_
  refine x_w1 ?_
  refine x_if (fun hT3 => ?_)
  refine x_callV_mv (μ := mu_x14_work) (pc := 11) (ok_x5_words (ω := ω) (l := l) (d := d - 1) hl (by omega) (by decide) (w32_rng _)) gRel_E gRel_E (fun _ q => q) q1063 q1064 q1065 q225 q1066 dX14_work_11 rfl hT3 hy_x5_words (by omega) (Nat.le_of_ble_eq_true rfl) rfl (Nat.le_of_ble_eq_true rfl) (fun x4 k5 => ?_)
  exact x_vret (μ := mu_x14_work) (pc := 14) (a1 := x4) dX14_work_14 rfl rfl (gRel_E.1 _) trivial
def x14_same (N : Nat) (v0 : Nat) (v1 : Nat) (σ : gMem) : Option Int := if v1 = 0 ∨ gNode (mT σ v1) = true then if mT σ v1 = 12 then if v1 = 0 ∨ mT σ v1 = 12 then if mT σ v1 = 12 then if mT σ v0 = 12 then (x14_has N v0 (mR σ v1 0) σ).bind (fun x5 => if x5 = 0 then some 0 else some 1) else none else none else none else some 0 else none
set_option maxRecDepth 100000 in
theorem ok_x14_same {ω : gW} {l : Launch} {d : Nat} {N : Nat} {σ : gMem} {v0 : Nat} {v1 : Nat} (hl : l.stackTraces = false) (hdp : 1 ≤ d) : gK (fun x : Int => (.inl (some (vI x)), σ)) gE ω l d mu_x14_same [vR v0, vR v1] σ (x14_same N v0 v1 σ) := by
  refine gK.of hp_X14 (Nat.le_of_ble_eq_true rfl) ?_
  unfold x14_same
  refine x_aload_n (μ := mu_x14_same) (pc := 0) 1 dX14_same_0 rfl ?_
  refine x_if (fun hg1 => ?_)
  refine x_inst (μ := mu_x14_same) (pc := 1) (ci := 11) (by decide) rfl q1652 dX14_same_1 hg1 ?_ ?_
  · refine x_if_eqF (μ := mu_x14_same) (pc := 4) (tgt := 25) dX14_same_4 rfl (by decide) (by decide) ?_
    refine x_aload_n (μ := mu_x14_same) (pc := 7) 0 dX14_same_7 rfl ?_
    refine x_aload_n (μ := mu_x14_same) (pc := 8) 1 dX14_same_8 rfl ?_
    refine x_if (fun hg2 => ?_)
    refine x_castC (μ := mu_x14_same) (pc := 9) (ci := 11) rfl q1652 dX14_same_9 hg2 ?_
    refine x_if (fun hT3 => ?_)
    refine x_fgr (μ := mu_x14_same) (pc := 12) fX14_0 (by first | exact Or.inl ⟨_, rfl⟩ | exact Or.inr ⟨_, rfl⟩) q1894 dX14_same_12 hT3 ?_
    refine x_if (fun hT4 => ?_)
    refine x_callV_pi (μ := mu_x14_same) (pc := 15) (ok_x14_has (ω := ω) (l := l) (d := d - 1) hl (by omega) ) gRel_E gRel_E (fun _ q => q) q1653 q1655 qs26 q242 q1657 dX14_same_15 rfl hT4 hy_x14_has (by omega) (Nat.le_of_ble_eq_true rfl) rfl (Nat.le_of_ble_eq_true rfl) (fun x5 hr6 => ?_)
    refine x_if_eq (μ := mu_x14_same) (pc := 18) (tgt := 25) dX14_same_18 rfl hr6 ?_ ?_
    · refine x_iconst (μ := mu_x14_same) (pc := 25) dX14_same_25 ?_
      exact x_zret (μ := mu_x14_same) (pc := 26) dX14_same_26 rfl (by decide) rfl (gRel_E.1 _) (show g32 0 from (by decide))
    · refine x_iconst (μ := mu_x14_same) (pc := 21) dX14_same_21 ?_
      refine x_goto (μ := mu_x14_same) (pc := 22) (tgt := 26) dX14_same_22 rfl ?_
      exact x_zret (μ := mu_x14_same) (pc := 26) dX14_same_26 rfl (by decide) rfl (gRel_E.1 _) (show g32 1 from (by decide))
  · refine x_if_eqT (μ := mu_x14_same) (pc := 4) (tgt := 25) dX14_same_4 rfl (by decide) (by decide) ?_
    refine x_iconst (μ := mu_x14_same) (pc := 25) dX14_same_25 ?_
    exact x_zret (μ := mu_x14_same) (pc := 26) dX14_same_26 rfl (by decide) rfl (gRel_E.1 _) (show g32 0 from (by decide))
def x15_work (v0 : Nat) (v1 : Nat) (v2 : Nat) (σ : gMem) : Option gMem := if mT σ v2 = 5 then (x5_fail v2 1 σ).bind (fun x2 => some x2) else none
set_option maxRecDepth 100000 in
theorem ok_x15_work {ω : gW} {l : Launch} {d : Nat} {σ : gMem} {v0 : Nat} {v1 : Nat} {v2 : Nat} (hl : l.stackTraces = false) (hdp : 1 ≤ d) : gK (fun p : gMem => (.inl none, p)) gE ω l d mu_x15_work [vR v0, vR v1, vR v2] σ (x15_work v0 v1 v2 σ) := by
  refine gK.of hp_X15 (Nat.le_of_ble_eq_true rfl) ?_
  unfold x15_work
  refine x_aload_n (μ := mu_x15_work) (pc := 0) 2 dX15_work_0 rfl ?_
  refine x_iconst (μ := mu_x15_work) (pc := 1) dX15_work_1 ?_
  refine x_if (fun hT1 => ?_)
  refine x_callV_mv (μ := mu_x15_work) (pc := 2) (ok_x5_fail (ω := ω) (l := l) (d := d - 1) hl (by omega) (by decide)) gRel_E gRel_E (fun _ q => q) q1001 q969 q970 q225 q971 dX15_work_2 rfl hT1 hy_x5_fail (by omega) (Nat.le_of_ble_eq_true rfl) rfl (Nat.le_of_ble_eq_true rfl) (fun x2 k3 => ?_)
  exact x_vret (μ := mu_x15_work) (pc := 5) (a1 := x2) dX15_work_5 rfl rfl (gRel_E.1 _) trivial
def x15_write (N : Nat) (v0 : Nat) (v1 : Nat) (v2 : Nat) (σ : gMem) : Option gMem := if mT σ v1 = 7 then (x8_word N v1 (mR σ 0 100) σ).bind (fun x2 => some x2) else none
set_option maxRecDepth 100000 in
theorem ok_x15_write {ω : gW} {l : Launch} {d : Nat} {N : Nat} {σ : gMem} {v0 : Nat} {v1 : Nat} {v2 : Nat} (hl : l.stackTraces = false) (hdp : 6 ≤ d) : gK (fun p : gMem => (.inl none, p)) gE ω l d mu_x15_write [vR v0, vR v1, vR v2] σ (x15_write N v0 v1 v2 σ) := by
  refine gK.of hp_X15 (Nat.le_of_ble_eq_true rfl) ?_
  unfold x15_write
  refine x_aload_n (μ := mu_x15_write) (pc := 0) 1 dX15_write_0 rfl ?_
  refine x_ldcS (μ := mu_x15_write) (pc := 1) (j := 100) (List.mem_of_getElem? (i := 1) rfl) dX15_write_1 ?_
  refine x_if (fun hT1 => ?_)
  refine x_callV_mv (μ := mu_x15_write) (pc := 3) (ok_x8_word (ω := ω) (l := l) (d := d - 1) hl (by omega) ) gRel_E gRel_E (fun _ q => q) q1422 q1384 q1385 q229 q1386 dX15_write_3 rfl hT1 hy_x8_word (by omega) (Nat.le_of_ble_eq_true rfl) rfl (Nat.le_of_ble_eq_true rfl) (fun x2 k3 => ?_)
  exact x_vret (μ := mu_x15_write) (pc := 6) (a1 := x2) dX15_write_6 rfl rfl (gRel_E.1 _) trivial
def x18_work (v0 : Nat) (v1 : Nat) (v2 : Nat) (σ : gMem) : Option gMem := if mT σ v0 = 16 then if mT σ v2 = 5 then (x5_is v2 (mI σ v0 0) σ).bind (fun x4 => some x4) else none else none
set_option maxRecDepth 100000 in
theorem ok_x18_work {ω : gW} {l : Launch} {d : Nat} {σ : gMem} {v0 : Nat} {v1 : Nat} {v2 : Nat} (hl : l.stackTraces = false) (hdp : 1 ≤ d) : gK (fun p : gMem => (.inl none, p)) gE ω l d mu_x18_work [vR v0, vR v1, vR v2] σ (x18_work v0 v1 v2 σ) := by
  refine gK.of hp_X18 (Nat.le_of_ble_eq_true rfl) ?_
  unfold x18_work
  refine x_aload_n (μ := mu_x18_work) (pc := 0) 2 dX18_work_0 rfl ?_
  refine x_aload_n (μ := mu_x18_work) (pc := 1) 0 dX18_work_1 rfl ?_
  refine x_if (fun hT1 => ?_)
  refine x_fgz (μ := mu_x18_work) (pc := 2) fX18_0 q1992 dX18_work_2 hT1 (fun hr2 => ?_)
  refine x_if (fun hT3 => ?_)
  refine x_callV_mv (μ := mu_x18_work) (pc := 5) (ok_x5_is (ω := ω) (l := l) (d := d - 1) hl (by omega) hr2) gRel_E gRel_E (fun _ q => q) q1035 q1036 q1037 q225 q1038 dX18_work_5 rfl hT3 hy_x5_is (by omega) (Nat.le_of_ble_eq_true rfl) rfl (Nat.le_of_ble_eq_true rfl) (fun x4 k5 => ?_)
  exact x_vret (μ := mu_x18_work) (pc := 8) (a1 := x4) dX18_work_8 rfl rfl (gRel_E.1 _) trivial
def x18_write (N : Nat) (v0 : Nat) (v1 : Nat) (v2 : Nat) (σ : gMem) : Option gMem := if mT σ v0 = 16 then if mI σ v0 0 = 0 then if mT σ v1 = 7 then (x8_word N v1 (mR σ 0 102) σ).bind (fun x4 => some x4) else none else if mT σ v1 = 7 then (x8_word N v1 (mR σ 0 101) σ).bind (fun x7 => some x7) else none else none
set_option maxRecDepth 100000 in
theorem ok_x18_write {ω : gW} {l : Launch} {d : Nat} {N : Nat} {σ : gMem} {v0 : Nat} {v1 : Nat} {v2 : Nat} (hl : l.stackTraces = false) (hdp : 6 ≤ d) : gK (fun p : gMem => (.inl none, p)) gE ω l d mu_x18_write [vR v0, vR v1, vR v2] σ (x18_write N v0 v1 v2 σ) := by
  refine gK.of hp_X18 (Nat.le_of_ble_eq_true rfl) ?_
  unfold x18_write
  refine x_aload_n (μ := mu_x18_write) (pc := 0) 1 dX18_write_0 rfl ?_
  refine x_aload_n (μ := mu_x18_write) (pc := 1) 0 dX18_write_1 rfl ?_
  refine x_if (fun hT1 => ?_)
  refine x_fgz (μ := mu_x18_write) (pc := 2) fX18_0 q1992 dX18_write_2 hT1 (fun hr2 => ?_)
  refine x_if_eq (μ := mu_x18_write) (pc := 5) (tgt := 13) dX18_write_5 rfl hr2 ?_ ?_
  · refine x_ldcS (μ := mu_x18_write) (pc := 13) (j := 102) (List.mem_of_getElem? (i := 10) rfl) dX18_write_13 ?_
    refine x_if (fun hT3 => ?_)
    refine x_callV_mv (μ := mu_x18_write) (pc := 15) (ok_x8_word (ω := ω) (l := l) (d := d - 1) hl (by omega) ) gRel_E gRel_E (fun _ q => q) q1501 q1384 q1385 q229 q1386 dX18_write_15 rfl hT3 hy_x8_word (by omega) (Nat.le_of_ble_eq_true rfl) rfl (Nat.le_of_ble_eq_true rfl) (fun x4 k5 => ?_)
    exact x_vret (μ := mu_x18_write) (pc := 18) (a1 := x4) dX18_write_18 rfl rfl (gRel_E.1 _) trivial
  · refine x_ldcS (μ := mu_x18_write) (pc := 8) (j := 101) (List.mem_of_getElem? (i := 6) rfl) dX18_write_8 ?_
    refine x_goto (μ := mu_x18_write) (pc := 10) (tgt := 15) dX18_write_10 rfl ?_
    refine x_if (fun hT6 => ?_)
    refine x_callV_mv (μ := mu_x18_write) (pc := 15) (ok_x8_word (ω := ω) (l := l) (d := d - 1) hl (by omega) ) gRel_E gRel_E (fun _ q => q) q1501 q1384 q1385 q229 q1386 dX18_write_15 rfl hT6 hy_x8_word (by omega) (Nat.le_of_ble_eq_true rfl) rfl (Nat.le_of_ble_eq_true rfl) (fun x7 k8 => ?_)
    exact x_vret (μ := mu_x18_write) (pc := 18) (a1 := x7) dX18_write_18 rfl rfl (gRel_E.1 _) trivial
def x19_work (v0 : Nat) (v1 : Nat) (v2 : Nat) (σ : gMem) : Option gMem := if mT σ v2 = 5 then (x5_none v2 σ).bind (fun x2 => some x2) else none
set_option maxRecDepth 100000 in
theorem ok_x19_work {ω : gW} {l : Launch} {d : Nat} {σ : gMem} {v0 : Nat} {v1 : Nat} {v2 : Nat} (hl : l.stackTraces = false) (hdp : 1 ≤ d) : gK (fun p : gMem => (.inl none, p)) gE ω l d mu_x19_work [vR v0, vR v1, vR v2] σ (x19_work v0 v1 v2 σ) := by
  refine gK.of hp_X19 (Nat.le_of_ble_eq_true rfl) ?_
  unfold x19_work
  refine x_aload_n (μ := mu_x19_work) (pc := 0) 2 dX19_work_0 rfl ?_
  refine x_if (fun hT1 => ?_)
  refine x_callV_mv (μ := mu_x19_work) (pc := 1) (ok_x5_none (ω := ω) (l := l) (d := d - 1) hl (by omega) ) gRel_E gRel_E (fun _ q => q) q982 q965 q966 q225 q967 dX19_work_1 rfl hT1 hy_x5_none (by omega) (Nat.le_of_ble_eq_true rfl) rfl (Nat.le_of_ble_eq_true rfl) (fun x2 k3 => ?_)
  exact x_vret (μ := mu_x19_work) (pc := 4) (a1 := x2) dX19_work_4 rfl rfl (gRel_E.1 _) trivial
def x20_leads_l13 (N : Nat) (W : Nat → Nat → Nat → gMem → Option gMem) (v0 : Nat) (v1 : Nat) (v2 : Nat) (K : gMem → Option gMem) : Nat → Int → gMem → Option gMem
  | 0, _, _ => none
  | n + 1, v3, s => if mT s v0 = 18 then if mT s (mR s v0 1) = 108 then if w32 (mN s (mR s v0 1) : Int) ≤ v3 then K s else if 0 ≤ v3 ∧ v3 < (mN s (mR s v0 1) : Int) then (W (mR s (mR s v0 1) v3.toNat) v1 v2 s).bind (fun x7 => x20_leads_l13 N W v0 v1 v2 K n (w32 (v3 + 1)) x7) else none else none else none
set_option maxRecDepth 100000 in
theorem okl_x20_leads_l13 {ω : gW} {l : Launch} {d : Nat} {N : Nat} {W : Nat → Nat → Nat → gMem → Option gMem} {dW : Nat} {σ0 : gMem} {v0 : Nat} {v1 : Nat} {v2 : Nat} {K : gMem → Option gMem} (hl : l.stackTraces = false) (hW : ∀ (a0 : Nat) (a1 : Nat) (a2 : Nat) (s : gMem), gKI (fun p : gMem => (.inl none, p)) gE ω l dW iy_Part_leads none [vR a0, vR a1, vR a2] s (W a0 a1 a2 s)) (hdp : 1 ≤ d) (hdw : dW + 1 ≤ d) (hK : ∀ (s : gMem) , GG (fun p : gMem => (.inl none, p)) gE ω l d mu_x20_leads σ0 41 [] [] s (K s)) : ∀ (n : Nat) (v3 : Int) (s : gMem) , g32 v3 → GG (fun p : gMem => (.inl none, p)) gE ω l d mu_x20_leads σ0 13 [(0, vR v0), (1, vR v1), (2, vR v2), (3, vI v3)] [] s (x20_leads_l13 N W v0 v1 v2 K n v3 s) := by
  intro n
  induction n with
  | zero => intros; exact x_none
  | succ n ih =>
    intro v3 s hv3
    unfold x20_leads_l13
    refine x_iload_n (μ := mu_x20_leads) (pc := 13) 3 dX20_leads_13 rfl ?_
    refine x_aload_n (μ := mu_x20_leads) (pc := 14) 0 dX20_leads_14 rfl ?_
    refine x_if (fun hT5 => ?_)
    refine x_fgr (μ := mu_x20_leads) (pc := 15) fX20_1 (by first | exact Or.inl ⟨_, rfl⟩ | exact Or.inr ⟨_, rfl⟩) q2041 dX20_leads_15 hT5 ?_
    refine x_if (fun hT6 => ?_)
    refine x_len (μ := mu_x20_leads) (pc := 18) 8 (fun _ => rfl) dX20_leads_18 hT6 ?_
    refine x_w1 ?_
    refine x_icmp_ge (μ := mu_x20_leads) (pc := 19) (tgt := 41) dX20_leads_19 rfl hv3 (w32_rng _) ?_ ?_
    · refine x_loc (lv' := []) [] rfl ?_
      exact hK s
    · refine x_aload_n (μ := mu_x20_leads) (pc := 22) 0 dX20_leads_22 rfl ?_
      refine x_fgr (μ := mu_x20_leads) (pc := 23) fX20_1 (by first | exact Or.inl ⟨_, rfl⟩ | exact Or.inr ⟨_, rfl⟩) q2041 dX20_leads_23 hT5 ?_
      refine x_iload_n (μ := mu_x20_leads) (pc := 26) 3 dX20_leads_26 rfl ?_
      refine x_aald (μ := mu_x20_leads) (pc := 27) 8 (fun _ => rfl) rfl rfl dX20_leads_27 hT6 rfl ?_
      refine x_aload_n (μ := mu_x20_leads) (pc := 28) 1 dX20_leads_28 rfl ?_
      refine x_aload_n (μ := mu_x20_leads) (pc := 29) 2 dX20_leads_29 rfl ?_
      refine x_callF_mv (μ := mu_x20_leads) (pc := 30) (hW (mR s (mR s v0 1) v3.toNat) v1 v2 s ) gRel_E gRel_E (fun _ q => q) q885 dX20_leads_30 iy_Part_leads_hy (by omega) rfl (Nat.le_of_ble_eq_true rfl) (fun x7 k8 => ?_)
      refine x_iincw (μ := mu_x20_leads) (pc := 35) (lv' := [(3, vI (w32 (v3 + 1))), (0, vR v0), (1, vR v1), (2, vR v2)]) 3 dX20_leads_35 rfl (by decide) rfl ?_
      refine x_goto (μ := mu_x20_leads) (pc := 38) (tgt := 13) dX20_leads_38 rfl ?_
      refine x_loc (lv' := [(0, vR v0), (1, vR v1), (2, vR v2), (3, vI (w32 (v3 + 1)))]) [1, 2, 3, 0] rfl ?_
      exact ih (w32 (v3 + 1)) x7 (w32_rng _)
def x20_leads (N : Nat) (W : Nat → Nat → Nat → gMem → Option gMem) (v0 : Nat) (v1 : Nat) (v2 : Nat) (σ : gMem) : Option gMem := if mT σ v0 = 18 then if mT σ (mR σ v0 0) = 91 then (x7_wantsSpot (mR σ v0 0) σ).bind (fun x3 => if x3 = 0 then x20_leads_l13 N W v0 v1 v2 (fun s9 => some s9) N 0 σ else some σ) else none else none
set_option maxRecDepth 100000 in
theorem ok_x20_leads {ω : gW} {l : Launch} {d : Nat} {N : Nat} {W : Nat → Nat → Nat → gMem → Option gMem} {dW : Nat} {σ : gMem} {v0 : Nat} {v1 : Nat} {v2 : Nat} (hl : l.stackTraces = false) (hW : ∀ (a0 : Nat) (a1 : Nat) (a2 : Nat) (s : gMem), gKI (fun p : gMem => (.inl none, p)) gE ω l dW iy_Part_leads none [vR a0, vR a1, vR a2] s (W a0 a1 a2 s)) (hdp : 1 ≤ d) (hdw : dW + 1 ≤ d) : gK (fun p : gMem => (.inl none, p)) gE ω l d mu_x20_leads [vR v0, vR v1, vR v2] σ (x20_leads N W v0 v1 v2 σ) := by
  refine gK.of hp_X20 (Nat.le_of_ble_eq_true rfl) ?_
  unfold x20_leads
  refine x_aload_n (μ := mu_x20_leads) (pc := 0) 0 dX20_leads_0 rfl ?_
  refine x_if (fun hT1 => ?_)
  refine x_fgr (μ := mu_x20_leads) (pc := 1) fX20_0 (by first | exact Or.inl ⟨_, rfl⟩ | exact Or.inr ⟨_, rfl⟩) q2040 dX20_leads_1 hT1 ?_
  refine x_if (fun hT2 => ?_)
  refine x_callEN_pi (μ := mu_x20_leads) (pc := 4) (ok_x7_wantsSpot (ω := ω) (l := l) (d := d - 1) hl (by omega) ) gRel_E gRel_E (fun _ q => q) q875 q877 qs8 q228 q879 dX20_leads_4 rfl hT2 hy_x7_wantsSpot (by omega) (Nat.le_of_ble_eq_true rfl) rfl (Nat.le_of_ble_eq_true rfl) (fun x3 hr4 => ?_)
  refine x_if_eq (μ := mu_x20_leads) (pc := 7) (tgt := 11) dX20_leads_7 rfl hr4 ?_ ?_
  · refine x_iconst (μ := mu_x20_leads) (pc := 11) dX20_leads_11 ?_
    refine x_istore_n (μ := mu_x20_leads) (pc := 12) (lv' := [(3, vI 0), (0, vR v0), (1, vR v1), (2, vR v2)]) dX20_leads_12 rfl (by decide) rfl ?_
    refine x_loc (lv' := [(0, vR v0), (1, vR v1), (2, vR v2), (3, vI 0)]) [1, 2, 3, 0] rfl ?_
    refine okl_x20_leads_l13 hl hW hdp hdw (fun s9 => ?_) N 0 σ (by decide)
    exact x_vret (μ := mu_x20_leads) (pc := 41) (a1 := s9) dX20_leads_41 rfl rfl (gRel_E.1 _) trivial
  · exact x_vret (μ := mu_x20_leads) (pc := 10) (a1 := σ) dX20_leads_10 rfl rfl (gRel_E.1 _) trivial
def x20_nth_l44 (N : Nat) (v1 : Nat) (v2 : Nat) (v3 : Nat) (K : gMem → Option gMem) : Nat → Int → gMem → Option gMem
  | 0, _, _ => none
  | n + 1, v4, s => if mT s v2 = 5 then if 0 ≤ gcmp v4 (mL s v2 2) then K s else if mT s v1 = 3 then (x3_next v1 s).bind (fun x16 => x20_nth_l44 N v1 v2 v3 K n (w64 (v4 + (((1 : Fin 2) : Nat) : Int))) (x16.2)) else none else none
set_option maxRecDepth 100000 in
theorem okl_x20_nth_l44 {ω : gW} {l : Launch} {d : Nat} {N : Nat} {σ0 : gMem} {v1 : Nat} {v2 : Nat} {v3 : Nat} {K : gMem → Option gMem} (hl : l.stackTraces = false) (hdp : 3 ≤ d) (hK : ∀ (s : gMem) , GG (fun p : gMem => (.inl none, p)) gE ω l d mu_x20_nth σ0 69 [(1, vR v1), (3, vR v3)] [] s (K s)) : ∀ (n : Nat) (v4 : Int) (s : gMem) , g64 v4 → GG (fun p : gMem => (.inl none, p)) gE ω l d mu_x20_nth σ0 44 [(1, vR v1), (2, vR v2), (3, vR v3), (4, vL v4)] [] s (x20_nth_l44 N v1 v2 v3 K n v4 s) := by
  intro n
  induction n with
  | zero => intros; exact x_none
  | succ n ih =>
    intro v4 s hv4
    unfold x20_nth_l44
    refine x_lload (μ := mu_x20_nth) (pc := 44) 3 dX20_nth_44 rfl ?_
    refine x_aload_n (μ := mu_x20_nth) (pc := 46) 1 dX20_nth_46 rfl ?_
    refine x_if (fun hT13 => ?_)
    refine x_fglN (μ := mu_x20_nth) (pc := 47) fX5_2 q383 dX20_nth_47 hT13 (fun hr14 => ?_)
    refine x_lcmp (μ := mu_x20_nth) (pc := 50) dX20_nth_50 hv4 hr14 ?_
    refine x_if_ge (μ := mu_x20_nth) (pc := 51) (tgt := 69) dX20_nth_51 rfl (gcmp_rng _ _) ?_ ?_
    · refine x_loc (lv' := [(1, vR v1), (3, vR v3)]) [0, 2] rfl ?_
      exact hK s
    · refine x_aload_n (μ := mu_x20_nth) (pc := 54) 0 dX20_nth_54 rfl ?_
      refine x_if (fun hT15 => ?_)
      refine x_callV_mi (μ := mu_x20_nth) (pc := 55) (ok_x3_next (ω := ω) (l := l) (d := d - 1) hl (by omega) ) gRel_E gRel_E (fun _ q => q) q1230 q1231 q1232 q223 q1233 dX20_nth_55 rfl hT15 hy_x3_next (by omega) (Nat.le_of_ble_eq_true rfl) rfl (Nat.le_of_ble_eq_true rfl) (fun x16 k18 hr17 => ?_)
      refine x_istore (μ := mu_x20_nth) (pc := 58) (lv' := [(6, vI (x16.1)), (1, vR v1), (2, vR v2), (3, vR v3), (4, vL v4)]) dX20_nth_58 (by decide) rfl ?_
      refine x_lload (μ := mu_x20_nth) (pc := 60) 4 dX20_nth_60 rfl ?_
      refine x_lconst (μ := mu_x20_nth) (pc := 62) dX20_nth_62 ?_
      refine x_ladd (μ := mu_x20_nth) (pc := 63) dX20_nth_63 ?_
      refine x_W1 ?_
      refine x_lstore (μ := mu_x20_nth) (pc := 64) (lv' := [(4, vL (w64 (v4 + (((1 : Fin 2) : Nat) : Int)))), (6, vI (x16.1)), (1, vR v1), (2, vR v2), (3, vR v3)]) dX20_nth_64 (by decide) rfl ?_
      refine x_goto (μ := mu_x20_nth) (pc := 66) (tgt := 44) dX20_nth_66 rfl ?_
      refine x_loc (lv' := [(1, vR v1), (2, vR v2), (3, vR v3), (4, vL (w64 (v4 + (((1 : Fin 2) : Nat) : Int))))]) [2, 3, 4, 0] rfl ?_
      exact ih (w64 (v4 + (((1 : Fin 2) : Nat) : Int))) (x16.2) (w64_rng _)
def x20_nth (N : Nat) (v0 : Nat) (v1 : Nat) (v2 : Nat) (v3 : Nat) (σ : gMem) : Option gMem := if mT σ v2 = 5 then (x5_wantNumber v2 σ).bind (fun x2 => if x2.1 ≠ 0 then if gcmp (mL (x2.2) v2 2) (((1 : Fin 2) : Nat) : Int) < 0 then if mT (x2.2) v3 = 5 then (x5_fail v3 1 (x2.2)).bind (fun x7 => some x7) else none else if mT (x2.2) v1 = 3 then (x3_size v1 (x2.2)).bind (fun x11 => if gcmp (mL (x2.2) v2 2) x11 ≤ 0 then x20_nth_l44 N v1 v2 v3 (fun s19 => if mT s19 v1 = 3 then if mT s19 v3 = 5 then (x5_copy v3 (mR s19 v1 4) s19).bind (fun x22 => some x22) else none else none) N (((0 : Fin 2) : Nat) : Int) (x2.2) else if mT (x2.2) v3 = 5 then (x5_fail v3 1 (x2.2)).bind (fun x25 => some x25) else none) else none else if mT (x2.2) v3 = 5 then (x5_copy v3 v2 (x2.2)).bind (fun x28 => some x28) else none) else none
set_option maxRecDepth 100000 in
theorem ok_x20_nth {ω : gW} {l : Launch} {d : Nat} {N : Nat} {σ : gMem} {v0 : Nat} {v1 : Nat} {v2 : Nat} {v3 : Nat} (hl : l.stackTraces = false) (hdp : 3 ≤ d) : gK (fun p : gMem => (.inl none, p)) gE ω l d mu_x20_nth [vR v0, vR v1, vR v2, vR v3] σ (x20_nth N v0 v1 v2 v3 σ) := by
  refine gK.of hp_X20 (Nat.le_of_ble_eq_true rfl) ?_
  unfold x20_nth
  refine x_aload_n (μ := mu_x20_nth) (pc := 0) 2 dX20_nth_0 rfl ?_
  refine x_if (fun hT1 => ?_)
  refine x_callV_mi (μ := mu_x20_nth) (pc := 1) (ok_x5_wantNumber (ω := ω) (l := l) (d := d - 1) hl (by omega) ) gRel_E gRel_E (fun _ q => q) q1263 q1179 q1180 q225 q1181 dX20_nth_1 rfl hT1 hy_x5_wantNumber (by omega) (Nat.le_of_ble_eq_true rfl) rfl (Nat.le_of_ble_eq_true rfl) (fun x2 k4 hr3 => ?_)
  refine x_if_ne (μ := mu_x20_nth) (pc := 4) (tgt := 13) dX20_nth_4 rfl hr3 ?_ ?_
  · refine x_aload_n (μ := mu_x20_nth) (pc := 13) 2 dX20_nth_13 rfl ?_
    refine x_fglN (μ := mu_x20_nth) (pc := 14) fX5_2 q383 dX20_nth_14 (gT_E k4 hT1 (by decide)) (fun hr5 => ?_)
    refine x_lconst (μ := mu_x20_nth) (pc := 17) dX20_nth_17 ?_
    refine x_lcmp (μ := mu_x20_nth) (pc := 18) dX20_nth_18 hr5 (by decide) ?_
    refine x_if_lt (μ := mu_x20_nth) (pc := 19) (tgt := 35) dX20_nth_19 rfl (gcmp_rng _ _) ?_ ?_
    · refine x_aload_n (μ := mu_x20_nth) (pc := 35) 3 dX20_nth_35 rfl ?_
      refine x_iconst (μ := mu_x20_nth) (pc := 36) dX20_nth_36 ?_
      refine x_if (fun hT6 => ?_)
      refine x_callV_mv (μ := mu_x20_nth) (pc := 37) (ok_x5_fail (ω := ω) (l := l) (d := d - 1) hl (by omega) (by decide)) gRel_E gRel_E (fun _ q => q) q1262 q969 q970 q225 q971 dX20_nth_37 rfl hT6 hy_x5_fail (by omega) (Nat.le_of_ble_eq_true rfl) rfl (Nat.le_of_ble_eq_true rfl) (fun x7 k8 => ?_)
      exact x_vret (μ := mu_x20_nth) (pc := 40) (a1 := x7) dX20_nth_40 rfl rfl (gRel_E.1 _) trivial
    · refine x_aload_n (μ := mu_x20_nth) (pc := 22) 2 dX20_nth_22 rfl ?_
      refine x_fglN (μ := mu_x20_nth) (pc := 23) fX5_2 q383 dX20_nth_23 (gT_E k4 hT1 (by decide)) (fun hr9 => ?_)
      refine x_aload_n (μ := mu_x20_nth) (pc := 26) 1 dX20_nth_26 rfl ?_
      refine x_if (fun hT10 => ?_)
      refine x_callV_pi (μ := mu_x20_nth) (pc := 27) (ok_x3_size (ω := ω) (l := l) (d := d - 1) hl (by omega) ) gRel_E gRel_E (fun _ q => q) q1281 q1282 q1283 q223 q1284 dX20_nth_27 rfl hT10 hy_x3_size (by omega) (Nat.le_of_ble_eq_true rfl) rfl (Nat.le_of_ble_eq_true rfl) (fun x11 hr12 => ?_)
      refine x_i2l (μ := mu_x20_nth) (pc := 30) dX20_nth_30 hr12 ?_
      refine x_lcmp (μ := mu_x20_nth) (pc := 31) dX20_nth_31 hr9 (g32_64 hr12) ?_
      refine x_if_le (μ := mu_x20_nth) (pc := 32) (tgt := 41) dX20_nth_32 rfl (gcmp_rng _ _) ?_ ?_
      · refine x_lconst (μ := mu_x20_nth) (pc := 41) dX20_nth_41 ?_
        refine x_lstore (μ := mu_x20_nth) (pc := 42) (lv' := [(4, vL (((0 : Fin 2) : Nat) : Int)), (0, vR v0), (1, vR v1), (2, vR v2), (3, vR v3)]) dX20_nth_42 (by decide) rfl ?_
        refine x_loc (lv' := [(1, vR v1), (2, vR v2), (3, vR v3), (4, vL (((0 : Fin 2) : Nat) : Int))]) [2, 3, 4, 0] rfl ?_
        refine okl_x20_nth_l44 hl hdp (fun s19 => ?_) N (((0 : Fin 2) : Nat) : Int) (x2.2) (by decide)
        refine x_aload_n (μ := mu_x20_nth) (pc := 69) 1 dX20_nth_69 rfl ?_
        refine x_aload_n (μ := mu_x20_nth) (pc := 70) 0 dX20_nth_70 rfl ?_
        refine x_if (fun hT20 => ?_)
        refine x_fgrN (μ := mu_x20_nth) (pc := 71) fX3_4 (by first | exact Or.inl ⟨_, rfl⟩ | exact Or.inr ⟨_, rfl⟩) q402 dX20_nth_71 hT20 ?_
        refine x_if (fun hT21 => ?_)
        refine x_callV_mv (μ := mu_x20_nth) (pc := 74) (ok_x5_copy (ω := ω) (l := l) (d := d - 1) hl (by omega) ) gRel_E gRel_E (fun _ q => q) q1217 q1077 q1078 q225 q1079 dX20_nth_74 rfl hT21 hy_x5_copy (by omega) (Nat.le_of_ble_eq_true rfl) rfl (Nat.le_of_ble_eq_true rfl) (fun x22 k23 => ?_)
        exact x_vret (μ := mu_x20_nth) (pc := 77) (a1 := x22) dX20_nth_77 rfl rfl (gRel_E.1 _) trivial
      · refine x_aload_n (μ := mu_x20_nth) (pc := 35) 3 dX20_nth_35 rfl ?_
        refine x_iconst (μ := mu_x20_nth) (pc := 36) dX20_nth_36 ?_
        refine x_if (fun hT24 => ?_)
        refine x_callV_mv (μ := mu_x20_nth) (pc := 37) (ok_x5_fail (ω := ω) (l := l) (d := d - 1) hl (by omega) (by decide)) gRel_E gRel_E (fun _ q => q) q1262 q969 q970 q225 q971 dX20_nth_37 rfl hT24 hy_x5_fail (by omega) (Nat.le_of_ble_eq_true rfl) rfl (Nat.le_of_ble_eq_true rfl) (fun x25 k26 => ?_)
        exact x_vret (μ := mu_x20_nth) (pc := 40) (a1 := x25) dX20_nth_40 rfl rfl (gRel_E.1 _) trivial
  · refine x_aload_n (μ := mu_x20_nth) (pc := 7) 3 dX20_nth_7 rfl ?_
    refine x_aload_n (μ := mu_x20_nth) (pc := 8) 2 dX20_nth_8 rfl ?_
    refine x_if (fun hT27 => ?_)
    refine x_callV_mv (μ := mu_x20_nth) (pc := 9) (ok_x5_copy (ω := ω) (l := l) (d := d - 1) hl (by omega) ) gRel_E gRel_E (fun _ q => q) q1217 q1077 q1078 q225 q1079 dX20_nth_9 rfl hT27 hy_x5_copy (by omega) (Nat.le_of_ble_eq_true rfl) rfl (Nat.le_of_ble_eq_true rfl) (fun x28 k29 => ?_)
    exact x_vret (μ := mu_x20_nth) (pc := 12) (a1 := x28) dX20_nth_12 rfl rfl (gRel_E.1 _) trivial
def x20_write_l19_j38 (N : Nat) (W : Nat → Nat → Nat → gMem → Option gMem) (v0 : Nat) (v1 : Nat) (v2 : Nat) (v3 : Int) (Kh : Int → gMem → Option gMem) (K : gMem → Option gMem) (s : gMem) : Option gMem := if mT s v0 = 18 then if mT s (mR s v0 1) = 108 then if 0 ≤ v3 ∧ v3 < (mN s (mR s v0 1) : Int) then (W (mR s (mR s v0 1) v3.toNat) v1 v2 s).bind (fun x12 => Kh (w32 (v3 + 1)) x12) else none else none else none
set_option maxRecDepth 100000 in
theorem okj_x20_write_l19_j38 {ω : gW} {l : Launch} {d : Nat} {N : Nat} {W : Nat → Nat → Nat → gMem → Option gMem} {dW : Nat} {σ0 : gMem} {s : gMem} {v0 : Nat} {v1 : Nat} {v2 : Nat} {v3 : Int} {Kh : Int → gMem → Option gMem} {K : gMem → Option gMem} (hl : l.stackTraces = false) (hW : ∀ (a0 : Nat) (a1 : Nat) (a2 : Nat) (s : gMem), gKI (fun p : gMem => (.inl none, p)) gE ω l dW iy_Part_write none [vR a0, vR a1, vR a2] s (W a0 a1 a2 s)) (hdp : 6 ≤ d) (hdw : dW + 1 ≤ d) (hv3 : g32 v3) (hKh : ∀ (v3 : Int) (s : gMem) , g32 v3 → GG (fun p : gMem => (.inl none, p)) gE ω l d mu_x20_write σ0 19 [(0, vR v0), (1, vR v1), (2, vR v2), (3, vI v3)] [] s (Kh v3 s)) (hK : ∀ (s : gMem) , GG (fun p : gMem => (.inl none, p)) gE ω l d mu_x20_write σ0 57 [(1, vR v1)] [] s (K s)) : GG (fun p : gMem => (.inl none, p)) gE ω l d mu_x20_write σ0 38 [(0, vR v0), (1, vR v1), (2, vR v2), (3, vI v3)] [] s (x20_write_l19_j38 N W v0 v1 v2 v3 Kh K s) := by
  unfold x20_write_l19_j38
  refine x_aload_n (μ := mu_x20_write) (pc := 38) 0 dX20_write_38 rfl ?_
  refine x_if (fun hT10 => ?_)
  refine x_fgr (μ := mu_x20_write) (pc := 39) fX20_1 (by first | exact Or.inl ⟨_, rfl⟩ | exact Or.inr ⟨_, rfl⟩) q2041 dX20_write_39 hT10 ?_
  refine x_iload_n (μ := mu_x20_write) (pc := 42) 3 dX20_write_42 rfl ?_
  refine x_if (fun hT11 => ?_)
  refine x_aald (μ := mu_x20_write) (pc := 43) 8 (fun _ => rfl) rfl rfl dX20_write_43 hT11 rfl ?_
  refine x_aload_n (μ := mu_x20_write) (pc := 44) 1 dX20_write_44 rfl ?_
  refine x_aload_n (μ := mu_x20_write) (pc := 45) 2 dX20_write_45 rfl ?_
  refine x_callF_mv (μ := mu_x20_write) (pc := 46) (hW (mR s (mR s v0 1) v3.toNat) v1 v2 s ) gRel_E gRel_E (fun _ q => q) q1415 dX20_write_46 iy_Part_write_hy (by omega) rfl (Nat.le_of_ble_eq_true rfl) (fun x12 k13 => ?_)
  refine x_iincw (μ := mu_x20_write) (pc := 51) (lv' := [(3, vI (w32 (v3 + 1))), (0, vR v0), (1, vR v1), (2, vR v2)]) 3 dX20_write_51 rfl (by decide) rfl ?_
  refine x_goto (μ := mu_x20_write) (pc := 54) (tgt := 19) dX20_write_54 rfl ?_
  refine x_loc (lv' := [(0, vR v0), (1, vR v1), (2, vR v2), (3, vI (w32 (v3 + 1)))]) [1, 2, 3, 0] rfl ?_
  exact hKh (w32 (v3 + 1)) x12 (w32_rng _)
def x20_write_l19 (N : Nat) (W : Nat → Nat → Nat → gMem → Option gMem) (v0 : Nat) (v1 : Nat) (v2 : Nat) (K : gMem → Option gMem) : Nat → Int → gMem → Option gMem
  | 0, _, _ => none
  | n + 1, v3, s => if mT s v0 = 18 then if mT s (mR s v0 1) = 108 then if w32 (mN s (mR s v0 1) : Int) ≤ v3 then K s else if v3 ≤ 0 then x20_write_l19_j38 N W v0 v1 v2 v3  (x20_write_l19 N W v0 v1 v2 K n) K s else if mT s v1 = 7 then (x8_put v1 44 s).bind (fun x15 => x20_write_l19_j38 N W v0 v1 v2 v3  (x20_write_l19 N W v0 v1 v2 K n) K x15) else none else none else none
set_option maxRecDepth 100000 in
theorem okl_x20_write_l19 {ω : gW} {l : Launch} {d : Nat} {N : Nat} {W : Nat → Nat → Nat → gMem → Option gMem} {dW : Nat} {σ0 : gMem} {v0 : Nat} {v1 : Nat} {v2 : Nat} {K : gMem → Option gMem} (hl : l.stackTraces = false) (hW : ∀ (a0 : Nat) (a1 : Nat) (a2 : Nat) (s : gMem), gKI (fun p : gMem => (.inl none, p)) gE ω l dW iy_Part_write none [vR a0, vR a1, vR a2] s (W a0 a1 a2 s)) (hdp : 6 ≤ d) (hdw : dW + 1 ≤ d) (hK : ∀ (s : gMem) , GG (fun p : gMem => (.inl none, p)) gE ω l d mu_x20_write σ0 57 [(1, vR v1)] [] s (K s)) : ∀ (n : Nat) (v3 : Int) (s : gMem) , g32 v3 → GG (fun p : gMem => (.inl none, p)) gE ω l d mu_x20_write σ0 19 [(0, vR v0), (1, vR v1), (2, vR v2), (3, vI v3)] [] s (x20_write_l19 N W v0 v1 v2 K n v3 s) := by
  intro n
  induction n with
  | zero => intros; exact x_none
  | succ n ih =>
    intro v3 s hv3
    unfold x20_write_l19
    refine x_iload_n (μ := mu_x20_write) (pc := 19) 3 dX20_write_19 rfl ?_
    refine x_aload_n (μ := mu_x20_write) (pc := 20) 0 dX20_write_20 rfl ?_
    refine x_if (fun hT8 => ?_)
    refine x_fgr (μ := mu_x20_write) (pc := 21) fX20_1 (by first | exact Or.inl ⟨_, rfl⟩ | exact Or.inr ⟨_, rfl⟩) q2041 dX20_write_21 hT8 ?_
    refine x_if (fun hT9 => ?_)
    refine x_len (μ := mu_x20_write) (pc := 24) 8 (fun _ => rfl) dX20_write_24 hT9 ?_
    refine x_w1 ?_
    refine x_icmp_ge (μ := mu_x20_write) (pc := 25) (tgt := 57) dX20_write_25 rfl hv3 (w32_rng _) ?_ ?_
    · refine x_loc (lv' := [(1, vR v1)]) [1] rfl ?_
      exact hK s
    · refine x_iload_n (μ := mu_x20_write) (pc := 28) 3 dX20_write_28 rfl ?_
      refine x_if_le (μ := mu_x20_write) (pc := 29) (tgt := 38) dX20_write_29 rfl hv3 ?_ ?_
      · exact okj_x20_write_l19_j38 hl hW hdp hdw hv3 ih hK
      · refine x_aload_n (μ := mu_x20_write) (pc := 32) 1 dX20_write_32 rfl ?_
        refine x_bipush (μ := mu_x20_write) (pc := 33) dX20_write_33 (by decide) ?_
        refine x_if (fun hT14 => ?_)
        refine x_callV_mv (μ := mu_x20_write) (pc := 35) (ok_x8_put (ω := ω) (l := l) (d := d - 1) hl (by omega) (by decide)) gRel_E gRel_E (fun _ q => q) q1413 q1366 q1367 q229 q1368 dX20_write_35 rfl hT14 hy_x8_put (by omega) (Nat.le_of_ble_eq_true rfl) rfl (Nat.le_of_ble_eq_true rfl) (fun x15 k16 => ?_)
        exact okj_x20_write_l19_j38 hl hW hdp hdw hv3 ih hK
def x20_write (N : Nat) (W : Nat → Nat → Nat → gMem → Option gMem) (v0 : Nat) (v1 : Nat) (v2 : Nat) (σ : gMem) : Option gMem := if mT σ v0 = 18 then if mT σ (mR σ v0 0) = 91 then if mT σ v1 = 7 then (x8_word N v1 (mR σ (mR σ v0 0) 1) σ).bind (fun x4 => (x8_put v1 40 x4).bind (fun x6 => x20_write_l19 N W v0 v1 v2 (fun s17 => if mT s17 v1 = 7 then (x8_put v1 41 s17).bind (fun x19 => some x19) else none) N 0 x6)) else none else none else none
set_option maxRecDepth 100000 in
theorem ok_x20_write {ω : gW} {l : Launch} {d : Nat} {N : Nat} {W : Nat → Nat → Nat → gMem → Option gMem} {dW : Nat} {σ : gMem} {v0 : Nat} {v1 : Nat} {v2 : Nat} (hl : l.stackTraces = false) (hW : ∀ (a0 : Nat) (a1 : Nat) (a2 : Nat) (s : gMem), gKI (fun p : gMem => (.inl none, p)) gE ω l dW iy_Part_write none [vR a0, vR a1, vR a2] s (W a0 a1 a2 s)) (hdp : 6 ≤ d) (hdw : dW + 1 ≤ d) : gK (fun p : gMem => (.inl none, p)) gE ω l d mu_x20_write [vR v0, vR v1, vR v2] σ (x20_write N W v0 v1 v2 σ) := by
  refine gK.of hp_X20 (Nat.le_of_ble_eq_true rfl) ?_
  unfold x20_write
  refine x_aload_n (μ := mu_x20_write) (pc := 0) 1 dX20_write_0 rfl ?_
  refine x_aload_n (μ := mu_x20_write) (pc := 1) 0 dX20_write_1 rfl ?_
  refine x_if (fun hT1 => ?_)
  refine x_fgr (μ := mu_x20_write) (pc := 2) fX20_0 (by first | exact Or.inl ⟨_, rfl⟩ | exact Or.inr ⟨_, rfl⟩) q2040 dX20_write_2 hT1 ?_
  refine x_if (fun hT2 => ?_)
  refine x_erN (μ := mu_x20_write) (pc := 5) q3797 dX20_write_5 (Or.inl ⟨rfl, hT2⟩) ?_
  refine x_if (fun hT3 => ?_)
  refine x_callV_mv (μ := mu_x20_write) (pc := 8) (ok_x8_word (ω := ω) (l := l) (d := d - 1) hl (by omega) ) gRel_E gRel_E (fun _ q => q) q1412 q1384 q1385 q229 q1386 dX20_write_8 rfl hT3 hy_x8_word (by omega) (Nat.le_of_ble_eq_true rfl) rfl (Nat.le_of_ble_eq_true rfl) (fun x4 k5 => ?_)
  refine x_aload_n (μ := mu_x20_write) (pc := 11) 1 dX20_write_11 rfl ?_
  refine x_bipush (μ := mu_x20_write) (pc := 12) dX20_write_12 (by decide) ?_
  refine x_callV_mv (μ := mu_x20_write) (pc := 14) (ok_x8_put (ω := ω) (l := l) (d := d - 1) hl (by omega) (by decide)) gRel_E gRel_E (fun _ q => q) q1413 q1366 q1367 q229 q1368 dX20_write_14 rfl (gT_E k5 hT3 (by decide)) hy_x8_put (by omega) (Nat.le_of_ble_eq_true rfl) rfl (Nat.le_of_ble_eq_true rfl) (fun x6 k7 => ?_)
  refine x_iconst (μ := mu_x20_write) (pc := 17) dX20_write_17 ?_
  refine x_istore_n (μ := mu_x20_write) (pc := 18) (lv' := [(3, vI 0), (0, vR v0), (1, vR v1), (2, vR v2)]) dX20_write_18 rfl (by decide) rfl ?_
  refine x_loc (lv' := [(0, vR v0), (1, vR v1), (2, vR v2), (3, vI 0)]) [1, 2, 3, 0] rfl ?_
  refine okl_x20_write_l19 hl hW hdp hdw (fun s17 => ?_) N 0 x6 (by decide)
  refine x_aload_n (μ := mu_x20_write) (pc := 57) 0 dX20_write_57 rfl ?_
  refine x_bipush (μ := mu_x20_write) (pc := 58) dX20_write_58 (by decide) ?_
  refine x_if (fun hT18 => ?_)
  refine x_callV_mv (μ := mu_x20_write) (pc := 60) (ok_x8_put (ω := ω) (l := l) (d := d - 1) hl (by omega) (by decide)) gRel_E gRel_E (fun _ q => q) q1413 q1366 q1367 q229 q1368 dX20_write_60 rfl hT18 hy_x8_put (by omega) (Nat.le_of_ble_eq_true rfl) rfl (Nat.le_of_ble_eq_true rfl) (fun x19 k20 => ?_)
  exact x_vret (μ := mu_x20_write) (pc := 63) (a1 := x19) dX20_write_63 rfl rfl (gRel_E.1 _) trivial
def x21_work (N : Nat) (W : Nat → Nat → Nat → gMem → Option gMem) (v0 : Nat) (v1 : Nat) (v2 : Nat) (σ : gMem) : Option gMem := if mT σ v0 = 19 then (W (mR σ v0 0) v1 v2 σ).bind (fun x2 => if mT x2 v2 = 5 then (x5_failed v2 x2).bind (fun x5 => if x5 ≠ 0 then some x2 else (x5_wantNumber v2 x2).bind (fun x7 => if x7.1 = 0 then some (x7.2) else (x5_be v2 (w64 (-(mL (x7.2) v2 2))) (x7.2)).bind (fun x11 => some x11))) else none) else none
set_option maxRecDepth 100000 in
theorem ok_x21_work {ω : gW} {l : Launch} {d : Nat} {N : Nat} {W : Nat → Nat → Nat → gMem → Option gMem} {dW : Nat} {σ : gMem} {v0 : Nat} {v1 : Nat} {v2 : Nat} (hl : l.stackTraces = false) (hW : ∀ (a0 : Nat) (a1 : Nat) (a2 : Nat) (s : gMem), gKI (fun p : gMem => (.inl none, p)) gE ω l dW iy_Part_work none [vR a0, vR a1, vR a2] s (W a0 a1 a2 s)) (hdp : 3 ≤ d) (hdw : dW + 1 ≤ d) : gK (fun p : gMem => (.inl none, p)) gE ω l d mu_x21_work [vR v0, vR v1, vR v2] σ (x21_work N W v0 v1 v2 σ) := by
  refine gK.of hp_X21 (Nat.le_of_ble_eq_true rfl) ?_
  unfold x21_work
  refine x_aload_n (μ := mu_x21_work) (pc := 0) 0 dX21_work_0 rfl ?_
  refine x_if (fun hT1 => ?_)
  refine x_fgr (μ := mu_x21_work) (pc := 1) fX21_0 (by first | exact Or.inl ⟨_, rfl⟩ | exact Or.inr ⟨_, rfl⟩) q2053 dX21_work_1 hT1 ?_
  refine x_aload_n (μ := mu_x21_work) (pc := 4) 1 dX21_work_4 rfl ?_
  refine x_aload_n (μ := mu_x21_work) (pc := 5) 2 dX21_work_5 rfl ?_
  refine x_callF_mv (μ := mu_x21_work) (pc := 6) (hW (mR σ v0 0) v1 v2 σ ) gRel_E gRel_E (fun _ q => q) q1008 dX21_work_6 iy_Part_work_hy (by omega) rfl (Nat.le_of_ble_eq_true rfl) (fun x2 k3 => ?_)
  refine x_aload_n (μ := mu_x21_work) (pc := 11) 2 dX21_work_11 rfl ?_
  refine x_if (fun hT4 => ?_)
  refine x_callV_pi (μ := mu_x21_work) (pc := 12) (ok_x5_failed (ω := ω) (l := l) (d := d - 1) hl (by omega) ) gRel_E gRel_E (fun _ q => q) q1197 q1073 q1074 q225 q1075 dX21_work_12 rfl hT4 hy_x5_failed (by omega) (Nat.le_of_ble_eq_true rfl) rfl (Nat.le_of_ble_eq_true rfl) (fun x5 hr6 => ?_)
  refine x_if_ne (μ := mu_x21_work) (pc := 15) (tgt := 34) dX21_work_15 rfl hr6 ?_ ?_
  · exact x_vret (μ := mu_x21_work) (pc := 34) (a1 := x2) dX21_work_34 rfl rfl (gRel_E.1 _) trivial
  · refine x_aload_n (μ := mu_x21_work) (pc := 18) 2 dX21_work_18 rfl ?_
    refine x_callV_mi (μ := mu_x21_work) (pc := 19) (ok_x5_wantNumber (ω := ω) (l := l) (d := d - 1) hl (by omega) ) gRel_E gRel_E (fun _ q => q) q1198 q1179 q1180 q225 q1181 dX21_work_19 rfl hT4 hy_x5_wantNumber (by omega) (Nat.le_of_ble_eq_true rfl) rfl (Nat.le_of_ble_eq_true rfl) (fun x7 k9 hr8 => ?_)
    refine x_if_eq (μ := mu_x21_work) (pc := 22) (tgt := 34) dX21_work_22 rfl hr8 ?_ ?_
    · exact x_vret (μ := mu_x21_work) (pc := 34) (a1 := x7.2) dX21_work_34 rfl rfl (gRel_E.1 _) trivial
    · refine x_aload_n (μ := mu_x21_work) (pc := 25) 2 dX21_work_25 rfl ?_
      refine x_aload_n (μ := mu_x21_work) (pc := 26) 2 dX21_work_26 rfl ?_
      refine x_fglN (μ := mu_x21_work) (pc := 27) fX5_2 q382 dX21_work_27 (gT_E k9 hT4 (by decide)) (fun hr10 => ?_)
      refine x_lneg (μ := mu_x21_work) (pc := 30) dX21_work_30 ?_
      refine x_W1 ?_
      refine x_callV_mv (μ := mu_x21_work) (pc := 31) (ok_x5_be (ω := ω) (l := l) (d := d - 1) hl (by omega) (w64_rng _)) gRel_E gRel_E (fun _ q => q) q1199 q1052 q1053 q225 q1054 dX21_work_31 rfl (gT_E k9 hT4 (by decide)) hy_x5_be (by omega) (Nat.le_of_ble_eq_true rfl) rfl (Nat.le_of_ble_eq_true rfl) (fun x11 k12 => ?_)
      exact x_vret (μ := mu_x21_work) (pc := 34) (a1 := x11) dX21_work_34 rfl rfl (gRel_E.1 _) trivial
def x21_write (N : Nat) (W : Nat → Nat → Nat → gMem → Option gMem) (v0 : Nat) (v1 : Nat) (v2 : Nat) (σ : gMem) : Option gMem := if mT σ v1 = 7 then (x8_put v1 45 σ).bind (fun x2 => if mT x2 v0 = 19 then (dp_Part_rank (mR x2 v0 0) x2).bind (fun x5 => if 5 ≤ x5 then (x8_part N W v1 (mR x2 v0 0) 0 v2 x2).bind (fun x7 => some x7) else (x8_part N W v1 (mR x2 v0 0) 1 v2 x2).bind (fun x9 => some x9)) else none) else none
set_option maxRecDepth 100000 in
theorem ok_x21_write {ω : gW} {l : Launch} {d : Nat} {N : Nat} {W : Nat → Nat → Nat → gMem → Option gMem} {dW : Nat} {σ : gMem} {v0 : Nat} {v1 : Nat} {v2 : Nat} (hl : l.stackTraces = false) (hW : ∀ (a0 : Nat) (a1 : Nat) (a2 : Nat) (s : gMem), gKI (fun p : gMem => (.inl none, p)) gE ω l dW iy_Part_write none [vR a0, vR a1, vR a2] s (W a0 a1 a2 s)) (hdp : 2 ≤ d) (hdw : dW + 2 ≤ d) : gK (fun p : gMem => (.inl none, p)) gE ω l d mu_x21_write [vR v0, vR v1, vR v2] σ (x21_write N W v0 v1 v2 σ) := by
  refine gK.of hp_X21 (Nat.le_of_ble_eq_true rfl) ?_
  unfold x21_write
  refine x_aload_n (μ := mu_x21_write) (pc := 0) 1 dX21_write_0 rfl ?_
  refine x_bipush (μ := mu_x21_write) (pc := 1) dX21_write_1 (by decide) ?_
  refine x_if (fun hT1 => ?_)
  refine x_callV_mv (μ := mu_x21_write) (pc := 3) (ok_x8_put (ω := ω) (l := l) (d := d - 1) hl (by omega) (by decide)) gRel_E gRel_E (fun _ q => q) q1428 q1366 q1367 q229 q1368 dX21_write_3 rfl hT1 hy_x8_put (by omega) (Nat.le_of_ble_eq_true rfl) rfl (Nat.le_of_ble_eq_true rfl) (fun x2 k3 => ?_)
  refine x_aload_n (μ := mu_x21_write) (pc := 6) 1 dX21_write_6 rfl ?_
  refine x_aload_n (μ := mu_x21_write) (pc := 7) 0 dX21_write_7 rfl ?_
  refine x_if (fun hT4 => ?_)
  refine x_fgr (μ := mu_x21_write) (pc := 8) fX21_0 (by first | exact Or.inl ⟨_, rfl⟩ | exact Or.inr ⟨_, rfl⟩) q2053 dX21_write_8 hT4 ?_
  refine x_aload_n (μ := mu_x21_write) (pc := 11) 0 dX21_write_11 rfl ?_
  refine x_fgr (μ := mu_x21_write) (pc := 12) fX21_0 (by first | exact Or.inl ⟨_, rfl⟩ | exact Or.inr ⟨_, rfl⟩) q2053 dX21_write_12 hT4 ?_
  refine x_callF_pi (μ := mu_x21_write) (pc := 15) (ok_dp_Part_rank (ω := ω) (l := l) (d := d - 1) hl (mR x2 v0 0) x2 (by omega)) gRel_E gRel_E (fun _ q => q) q1430 dX21_write_15 iy_Part_rank_hy (by omega) rfl (Nat.le_of_ble_eq_true rfl) (fun x5 hr6 => ?_)
  refine x_iconst (μ := mu_x21_write) (pc := 20) dX21_write_20 ?_
  refine x_icmp_ge (μ := mu_x21_write) (pc := 21) (tgt := 28) dX21_write_21 rfl hr6 (by decide) ?_ ?_
  · refine x_iconst (μ := mu_x21_write) (pc := 28) dX21_write_28 ?_
    refine x_aload_n (μ := mu_x21_write) (pc := 29) 2 dX21_write_29 rfl ?_
    refine x_callV_mv (μ := mu_x21_write) (pc := 30) (ok_x8_part (ω := ω) (l := l) (d := d - 1) hl hW (by omega) (by omega) (by decide)) gRel_E gRel_E (fun _ q => q) q1478 q1479 q1480 q229 q1481 dX21_write_30 rfl (gT_E k3 hT1 (by decide)) hy_x8_part (by omega) (Nat.le_of_ble_eq_true rfl) rfl (Nat.le_of_ble_eq_true rfl) (fun x7 k8 => ?_)
    exact x_vret (μ := mu_x21_write) (pc := 33) (a1 := x7) dX21_write_33 rfl rfl (gRel_E.1 _) trivial
  · refine x_iconst (μ := mu_x21_write) (pc := 24) dX21_write_24 ?_
    refine x_goto (μ := mu_x21_write) (pc := 25) (tgt := 29) dX21_write_25 rfl ?_
    refine x_aload_n (μ := mu_x21_write) (pc := 29) 2 dX21_write_29 rfl ?_
    refine x_callV_mv (μ := mu_x21_write) (pc := 30) (ok_x8_part (ω := ω) (l := l) (d := d - 1) hl hW (by omega) (by omega) (by decide)) gRel_E gRel_E (fun _ q => q) q1478 q1479 q1480 q229 q1481 dX21_write_30 rfl (gT_E k3 hT1 (by decide)) hy_x8_part (by omega) (Nat.le_of_ble_eq_true rfl) rfl (Nat.le_of_ble_eq_true rfl) (fun x9 k10 => ?_)
    exact x_vret (μ := mu_x21_write) (pc := 33) (a1 := x9) dX21_write_33 rfl rfl (gRel_E.1 _) trivial
def x22_write_j49 (N : Nat) (W : Nat → Nat → Nat → gMem → Option gMem) (v0 : Nat) (v1 : Nat) (v2 : Nat) (v3 : Int) (t0 : Int) (t1 : Nat) (t2 : Nat) (s : gMem) : Option gMem := if mT s t2 = 7 then (x8_part N W t2 t1 t0 v2 s).bind (fun x7 => if mT x7 v0 = 20 then if mT x7 (mR x7 v0 0) = 92 then if mT x7 v1 = 7 then (x8_word N v1 (mR x7 (mR x7 v0 0) 1) x7).bind (fun x12 => (dp_Part_rank (mR x12 v0 2) x12).bind (fun x14 => if v3 < x14 then (x8_part N W v1 (mR x12 v0 2) 0 v2 x12).bind (fun x16 => some x16) else (x8_part N W v1 (mR x12 v0 2) 1 v2 x12).bind (fun x18 => some x18))) else none else none else none) else none
set_option maxRecDepth 100000 in
theorem okj_x22_write_j49 {ω : gW} {l : Launch} {d : Nat} {N : Nat} {W : Nat → Nat → Nat → gMem → Option gMem} {dW : Nat} {σ0 : gMem} {s : gMem} {v0 : Nat} {v1 : Nat} {v2 : Nat} {v3 : Int} {t0 : Int} {t1 : Nat} {t2 : Nat} (hl : l.stackTraces = false) (hW : ∀ (a0 : Nat) (a1 : Nat) (a2 : Nat) (s : gMem), gKI (fun p : gMem => (.inl none, p)) gE ω l dW iy_Part_write none [vR a0, vR a1, vR a2] s (W a0 a1 a2 s)) (hdp : 6 ≤ d) (hdw : dW + 2 ≤ d) (hv3 : g32 v3) (ht0 : g32 t0) : GG (fun p : gMem => (.inl none, p)) gE ω l d mu_x22_write σ0 49 [(0, vR v0), (1, vR v1), (2, vR v2), (3, vI v3)] [vI t0, vR t1, vR t2] s (x22_write_j49 N W v0 v1 v2 v3 t0 t1 t2 s) := by
  unfold x22_write_j49
  refine x_aload_n (μ := mu_x22_write) (pc := 49) 2 dX22_write_49 rfl ?_
  refine x_if (fun hT6 => ?_)
  refine x_callV_mv (μ := mu_x22_write) (pc := 50) (ok_x8_part (ω := ω) (l := l) (d := d - 1) hl hW (by omega) (by omega) ht0) gRel_E gRel_E (fun _ q => q) q1509 q1479 q1480 q229 q1481 dX22_write_50 rfl hT6 hy_x8_part (by omega) (Nat.le_of_ble_eq_true rfl) rfl (Nat.le_of_ble_eq_true rfl) (fun x7 k8 => ?_)
  refine x_aload_n (μ := mu_x22_write) (pc := 53) 1 dX22_write_53 rfl ?_
  refine x_aload_n (μ := mu_x22_write) (pc := 54) 0 dX22_write_54 rfl ?_
  refine x_if (fun hT9 => ?_)
  refine x_fgr (μ := mu_x22_write) (pc := 55) fX22_0 (by first | exact Or.inl ⟨_, rfl⟩ | exact Or.inr ⟨_, rfl⟩) q2072 dX22_write_55 hT9 ?_
  refine x_if (fun hT10 => ?_)
  refine x_erN (μ := mu_x22_write) (pc := 58) q3799 dX22_write_58 (Or.inr ⟨rfl, hT10⟩) ?_
  refine x_if (fun hT11 => ?_)
  refine x_callV_mv (μ := mu_x22_write) (pc := 61) (ok_x8_word (ω := ω) (l := l) (d := d - 1) hl (by omega) ) gRel_E gRel_E (fun _ q => q) q1510 q1384 q1385 q229 q1386 dX22_write_61 rfl hT11 hy_x8_word (by omega) (Nat.le_of_ble_eq_true rfl) rfl (Nat.le_of_ble_eq_true rfl) (fun x12 k13 => ?_)
  refine x_aload_n (μ := mu_x22_write) (pc := 64) 1 dX22_write_64 rfl ?_
  refine x_aload_n (μ := mu_x22_write) (pc := 65) 0 dX22_write_65 rfl ?_
  refine x_fgr (μ := mu_x22_write) (pc := 66) fX22_2 (by first | exact Or.inl ⟨_, rfl⟩ | exact Or.inr ⟨_, rfl⟩) q2074 dX22_write_66 (gT_E k13 hT9 (by decide)) ?_
  refine x_aload_n (μ := mu_x22_write) (pc := 69) 0 dX22_write_69 rfl ?_
  refine x_fgr (μ := mu_x22_write) (pc := 70) fX22_2 (by first | exact Or.inl ⟨_, rfl⟩ | exact Or.inr ⟨_, rfl⟩) q2074 dX22_write_70 (gT_E k13 hT9 (by decide)) ?_
  refine x_callF_pi (μ := mu_x22_write) (pc := 73) (ok_dp_Part_rank (ω := ω) (l := l) (d := d - 1) hl (mR x12 v0 2) x12 (by omega)) gRel_E gRel_E (fun _ q => q) q1508 dX22_write_73 iy_Part_rank_hy (by omega) rfl (Nat.le_of_ble_eq_true rfl) (fun x14 hr15 => ?_)
  refine x_iload_n (μ := mu_x22_write) (pc := 78) 3 dX22_write_78 rfl ?_
  refine x_icmp_gt (μ := mu_x22_write) (pc := 79) (tgt := 86) dX22_write_79 rfl hr15 hv3 ?_ ?_
  · refine x_iconst (μ := mu_x22_write) (pc := 86) dX22_write_86 ?_
    refine x_aload_n (μ := mu_x22_write) (pc := 87) 2 dX22_write_87 rfl ?_
    refine x_callV_mv (μ := mu_x22_write) (pc := 88) (ok_x8_part (ω := ω) (l := l) (d := d - 1) hl hW (by omega) (by omega) (by decide)) gRel_E gRel_E (fun _ q => q) q1509 q1479 q1480 q229 q1481 dX22_write_88 rfl (gT_E k13 hT11 (by decide)) hy_x8_part (by omega) (Nat.le_of_ble_eq_true rfl) rfl (Nat.le_of_ble_eq_true rfl) (fun x16 k17 => ?_)
    exact x_vret (μ := mu_x22_write) (pc := 91) (a1 := x16) dX22_write_91 rfl rfl (gRel_E.1 _) trivial
  · refine x_iconst (μ := mu_x22_write) (pc := 82) dX22_write_82 ?_
    refine x_goto (μ := mu_x22_write) (pc := 83) (tgt := 87) dX22_write_83 rfl ?_
    refine x_aload_n (μ := mu_x22_write) (pc := 87) 2 dX22_write_87 rfl ?_
    refine x_callV_mv (μ := mu_x22_write) (pc := 88) (ok_x8_part (ω := ω) (l := l) (d := d - 1) hl hW (by omega) (by omega) (by decide)) gRel_E gRel_E (fun _ q => q) q1509 q1479 q1480 q229 q1481 dX22_write_88 rfl (gT_E k13 hT11 (by decide)) hy_x8_part (by omega) (Nat.le_of_ble_eq_true rfl) rfl (Nat.le_of_ble_eq_true rfl) (fun x18 k19 => ?_)
    exact x_vret (μ := mu_x22_write) (pc := 91) (a1 := x18) dX22_write_91 rfl rfl (gRel_E.1 _) trivial
def x22_write_j44 (N : Nat) (W : Nat → Nat → Nat → gMem → Option gMem) (v0 : Nat) (v1 : Nat) (v2 : Nat) (v3 : Int) (t0 : Nat) (t1 : Nat) (s : gMem) : Option gMem := x22_write_j49 N W v0 v1 v2 v3 1 t0 t1 s
set_option maxRecDepth 100000 in
theorem okj_x22_write_j44 {ω : gW} {l : Launch} {d : Nat} {N : Nat} {W : Nat → Nat → Nat → gMem → Option gMem} {dW : Nat} {σ0 : gMem} {s : gMem} {v0 : Nat} {v1 : Nat} {v2 : Nat} {v3 : Int} {t0 : Nat} {t1 : Nat} (hl : l.stackTraces = false) (hW : ∀ (a0 : Nat) (a1 : Nat) (a2 : Nat) (s : gMem), gKI (fun p : gMem => (.inl none, p)) gE ω l dW iy_Part_write none [vR a0, vR a1, vR a2] s (W a0 a1 a2 s)) (hdp : 6 ≤ d) (hdw : dW + 2 ≤ d) (hv3 : g32 v3) : GG (fun p : gMem => (.inl none, p)) gE ω l d mu_x22_write σ0 44 [(0, vR v0), (1, vR v1), (2, vR v2), (3, vI v3)] [vR t0, vR t1] s (x22_write_j44 N W v0 v1 v2 v3 t0 t1 s) := by
  unfold x22_write_j44
  refine x_iconst (μ := mu_x22_write) (pc := 44) dX22_write_44 ?_
  refine x_goto (μ := mu_x22_write) (pc := 45) (tgt := 49) dX22_write_45 rfl ?_
  exact okj_x22_write_j49 hl hW hdp hdw hv3 (by decide)
def x22_write_j48 (N : Nat) (W : Nat → Nat → Nat → gMem → Option gMem) (v0 : Nat) (v1 : Nat) (v2 : Nat) (v3 : Int) (t0 : Nat) (t1 : Nat) (s : gMem) : Option gMem := x22_write_j49 N W v0 v1 v2 v3 0 t0 t1 s
set_option maxRecDepth 100000 in
theorem okj_x22_write_j48 {ω : gW} {l : Launch} {d : Nat} {N : Nat} {W : Nat → Nat → Nat → gMem → Option gMem} {dW : Nat} {σ0 : gMem} {s : gMem} {v0 : Nat} {v1 : Nat} {v2 : Nat} {v3 : Int} {t0 : Nat} {t1 : Nat} (hl : l.stackTraces = false) (hW : ∀ (a0 : Nat) (a1 : Nat) (a2 : Nat) (s : gMem), gKI (fun p : gMem => (.inl none, p)) gE ω l dW iy_Part_write none [vR a0, vR a1, vR a2] s (W a0 a1 a2 s)) (hdp : 6 ≤ d) (hdw : dW + 2 ≤ d) (hv3 : g32 v3) : GG (fun p : gMem => (.inl none, p)) gE ω l d mu_x22_write σ0 48 [(0, vR v0), (1, vR v1), (2, vR v2), (3, vI v3)] [vR t0, vR t1] s (x22_write_j48 N W v0 v1 v2 v3 t0 t1 s) := by
  unfold x22_write_j48
  refine x_iconst (μ := mu_x22_write) (pc := 48) dX22_write_48 ?_
  exact okj_x22_write_j49 hl hW hdp hdw hv3 (by decide)
def x22_write (N : Nat) (W : Nat → Nat → Nat → gMem → Option gMem) (v0 : Nat) (v1 : Nat) (v2 : Nat) (σ : gMem) : Option gMem := if mT σ v0 = 20 then if mT σ (mR σ v0 0) = 92 then (dp_Part_rank (mR σ v0 1) σ).bind (fun x4 => if x4 < mI σ (mR σ v0 0) 2 then x22_write_j44 N W v0 v1 v2 (mI σ (mR σ v0 0) 2) (mR σ v0 1) v1 σ else if mI σ (mR σ v0 0) 2 ≠ 1 then x22_write_j48 N W v0 v1 v2 (mI σ (mR σ v0 0) 2) (mR σ v0 1) v1 σ else (dp_Part_rank (mR σ v0 1) σ).bind (fun x20 => if x20 ≠ 1 then x22_write_j48 N W v0 v1 v2 (mI σ (mR σ v0 0) 2) (mR σ v0 1) v1 σ else x22_write_j44 N W v0 v1 v2 (mI σ (mR σ v0 0) 2) (mR σ v0 1) v1 σ)) else none else none
set_option maxRecDepth 100000 in
theorem ok_x22_write {ω : gW} {l : Launch} {d : Nat} {N : Nat} {W : Nat → Nat → Nat → gMem → Option gMem} {dW : Nat} {σ : gMem} {v0 : Nat} {v1 : Nat} {v2 : Nat} (hl : l.stackTraces = false) (hW : ∀ (a0 : Nat) (a1 : Nat) (a2 : Nat) (s : gMem), gKI (fun p : gMem => (.inl none, p)) gE ω l dW iy_Part_write none [vR a0, vR a1, vR a2] s (W a0 a1 a2 s)) (hdp : 6 ≤ d) (hdw : dW + 2 ≤ d) : gK (fun p : gMem => (.inl none, p)) gE ω l d mu_x22_write [vR v0, vR v1, vR v2] σ (x22_write N W v0 v1 v2 σ) := by
  refine gK.of hp_X22 (Nat.le_of_ble_eq_true rfl) ?_
  unfold x22_write
  refine x_aload_n (μ := mu_x22_write) (pc := 0) 0 dX22_write_0 rfl ?_
  refine x_if (fun hT1 => ?_)
  refine x_fgr (μ := mu_x22_write) (pc := 1) fX22_0 (by first | exact Or.inl ⟨_, rfl⟩ | exact Or.inr ⟨_, rfl⟩) q2072 dX22_write_1 hT1 ?_
  refine x_if (fun hT2 => ?_)
  refine x_esN (μ := mu_x22_write) (pc := 4) (k := 2) (List.mem_of_getElem? (i := 1) rfl) (by decide) q3798 dX22_write_4 hT2 (fun hr3 => ?_)
  refine x_istore_n (μ := mu_x22_write) (pc := 7) (lv' := [(3, vI (mI σ (mR σ v0 0) 2)), (0, vR v0), (1, vR v1), (2, vR v2)]) dX22_write_7 rfl (by decide) rfl ?_
  refine x_aload_n (μ := mu_x22_write) (pc := 8) 2 dX22_write_8 rfl ?_
  refine x_aload_n (μ := mu_x22_write) (pc := 9) 1 dX22_write_9 rfl ?_
  refine x_fgr (μ := mu_x22_write) (pc := 10) fX22_1 (by first | exact Or.inl ⟨_, rfl⟩ | exact Or.inr ⟨_, rfl⟩) q2073 dX22_write_10 hT1 ?_
  refine x_aload_n (μ := mu_x22_write) (pc := 13) 1 dX22_write_13 rfl ?_
  refine x_fgr (μ := mu_x22_write) (pc := 14) fX22_1 (by first | exact Or.inl ⟨_, rfl⟩ | exact Or.inr ⟨_, rfl⟩) q2073 dX22_write_14 hT1 ?_
  refine x_callF_pi (μ := mu_x22_write) (pc := 17) (ok_dp_Part_rank (ω := ω) (l := l) (d := d - 1) hl (mR σ v0 1) σ (by omega)) gRel_E gRel_E (fun _ q => q) q1508 dX22_write_17 iy_Part_rank_hy (by omega) rfl (Nat.le_of_ble_eq_true rfl) (fun x4 hr5 => ?_)
  refine x_iload_n (μ := mu_x22_write) (pc := 22) 0 dX22_write_22 rfl ?_
  refine x_icmp_lt (μ := mu_x22_write) (pc := 23) (tgt := 44) dX22_write_23 rfl hr5 hr3 ?_ ?_
  · refine x_loc (lv' := [(0, vR v0), (1, vR v1), (2, vR v2), (3, vI (mI σ (mR σ v0 0) 2))]) [1, 2, 3, 0] rfl ?_
    exact okj_x22_write_j44 hl hW hdp hdw hr3
  · refine x_iload_n (μ := mu_x22_write) (pc := 26) 0 dX22_write_26 rfl ?_
    refine x_iconst (μ := mu_x22_write) (pc := 27) dX22_write_27 ?_
    refine x_icmp_ne (μ := mu_x22_write) (pc := 28) (tgt := 48) dX22_write_28 rfl hr3 (by decide) ?_ ?_
    · refine x_loc (lv' := [(0, vR v0), (1, vR v1), (2, vR v2), (3, vI (mI σ (mR σ v0 0) 2))]) [1, 2, 3, 0] rfl ?_
      exact okj_x22_write_j48 hl hW hdp hdw hr3
    · refine x_aload_n (μ := mu_x22_write) (pc := 31) 1 dX22_write_31 rfl ?_
      refine x_fgr (μ := mu_x22_write) (pc := 32) fX22_1 (by first | exact Or.inl ⟨_, rfl⟩ | exact Or.inr ⟨_, rfl⟩) q2073 dX22_write_32 hT1 ?_
      refine x_callF_pi (μ := mu_x22_write) (pc := 35) (ok_dp_Part_rank (ω := ω) (l := l) (d := d - 1) hl (mR σ v0 1) σ (by omega)) gRel_E gRel_E (fun _ q => q) q1508 dX22_write_35 iy_Part_rank_hy (by omega) rfl (Nat.le_of_ble_eq_true rfl) (fun x20 hr21 => ?_)
      refine x_iconst (μ := mu_x22_write) (pc := 40) dX22_write_40 ?_
      refine x_icmp_ne (μ := mu_x22_write) (pc := 41) (tgt := 48) dX22_write_41 rfl hr21 (by decide) ?_ ?_
      · refine x_loc (lv' := [(0, vR v0), (1, vR v1), (2, vR v2), (3, vI (mI σ (mR σ v0 0) 2))]) [1, 2, 3, 0] rfl ?_
        exact okj_x22_write_j48 hl hW hdp hdw hr3
      · refine x_loc (lv' := [(0, vR v0), (1, vR v1), (2, vR v2), (3, vI (mI σ (mR σ v0 0) 2))]) [1, 2, 3, 0] rfl ?_
        exact okj_x22_write_j44 hl hW hdp hdw hr3
def x25_has (N : Nat) (v0 : Nat) (v1 : Int) (v2 : Int) (σ : gMem) : Option Int := if mT σ v0 = 8 then (x9_marks v0 v1 σ).bind (fun x2 => (x9_placeOf N x2 v2 σ).bind (fun x3 => if x3 = (-1) then some 0 else some 1)) else none
set_option maxRecDepth 100000 in
theorem ok_x25_has {ω : gW} {l : Launch} {d : Nat} {N : Nat} {σ : gMem} {v0 : Nat} {v1 : Int} {v2 : Int} (hl : l.stackTraces = false) (hdp : 1 ≤ d) (hv1 : g32 v1) (hv2 : g32 v2) : gK (fun x : Int => (.inl (some (vI x)), σ)) gE ω l d mu_x25_has [vR v0, vI v1, vI v2] σ (x25_has N v0 v1 v2 σ) := by
  refine gK.of hp_X25 (Nat.le_of_ble_eq_true rfl) ?_
  unfold x25_has
  refine x_aload_n (μ := mu_x25_has) (pc := 0) 0 dX25_has_0 rfl ?_
  refine x_iload_n (μ := mu_x25_has) (pc := 1) 1 dX25_has_1 rfl ?_
  refine x_if (fun hT1 => ?_)
  refine x_callV_pr (μ := mu_x25_has) (pc := 2) (ok_x9_marks (ω := ω) (l := l) (d := d - 1) hl (by omega) hv1) gRel_E gRel_E (fun _ q => q) q2504 q2204 q2205 q230 q2206 dX25_has_2 rfl hT1 hy_x9_marks (by omega) (Nat.le_of_ble_eq_true rfl) rfl (Nat.le_of_ble_eq_true rfl) (fun x2 => ?_)
  refine x_iload_n (μ := mu_x25_has) (pc := 5) 2 dX25_has_5 rfl ?_
  refine x_callSN_pi (μ := mu_x25_has) (pc := 6) (ok_x9_placeOf (ω := ω) (l := l) (d := d - 1) hl (by omega) hv2) gRel_E gRel_E (fun _ q => q) q2505 q783 q230 q784 dX25_has_6 hy_x9_placeOf (by omega) (Nat.le_of_ble_eq_true rfl) rfl (Nat.le_of_ble_eq_true rfl) (fun x3 hr4 => ?_)
  refine x_iconst (μ := mu_x25_has) (pc := 9) dX25_has_9 ?_
  refine x_icmp_eq (μ := mu_x25_has) (pc := 10) (tgt := 17) dX25_has_10 rfl hr4 (by decide) ?_ ?_
  · refine x_iconst (μ := mu_x25_has) (pc := 17) dX25_has_17 ?_
    exact x_zret (μ := mu_x25_has) (pc := 18) dX25_has_18 rfl (by decide) rfl (gRel_E.1 _) (show g32 0 from (by decide))
  · refine x_iconst (μ := mu_x25_has) (pc := 13) dX25_has_13 ?_
    refine x_goto (μ := mu_x25_has) (pc := 14) (tgt := 18) dX25_has_14 rfl ?_
    exact x_zret (μ := mu_x25_has) (pc := 18) dX25_has_18 rfl (by decide) rfl (gRel_E.1 _) (show g32 1 from (by decide))
def x25_tell_j44 (v0 : Nat) (v1 : Int) (v2 : Int) (v3 : Int) (v4 : Int) (v5 : Nat) (v6 : Nat) (s : gMem) : Option gMem := if mT s v0 = 23 then gLet (wN s 24 6) (fun s7 => (x26_init (mZ s) v1 v2 v3 v4 v5 v6 s7).bind (fun x9 => if mT x9 (mR s v0 4) = 106 then if mZ s = 0 ∨ gAsg 6 (mT x9 (mZ s)) = true then if 0 ≤ (mI s v0 5) ∧ (mI s v0 5) < (mN x9 (mR s v0 4) : Int) then gLet (wR x9 (mR s v0 4) (mI s v0 5).toNat (mZ s)) (fun s13 => gLet (wI s13 v0 5 (w32 ((mI s13 v0 5) + 1))) (fun s16 => some s16)) else none else none else none)) else none
set_option maxRecDepth 100000 in
theorem okj_x25_tell_j44 {ω : gW} {l : Launch} {d : Nat} {σ0 : gMem} {s : gMem} {v0 : Nat} {v1 : Int} {v2 : Int} {v3 : Int} {v4 : Int} {v5 : Nat} {v6 : Nat} (hl : l.stackTraces = false) (hdp : 3 ≤ d) (hv1 : g32 v1) (hv2 : g32 v2) (hv3 : g32 v3) (hv4 : g32 v4) : GG (fun p : gMem => (.inl none, p)) gE ω l d mu_x25_tell σ0 44 [(0, vR v0), (1, vI v1), (2, vI v2), (3, vI v3), (4, vI v4), (5, vR v5), (6, vR v6)] [] s (x25_tell_j44 v0 v1 v2 v3 v4 v5 v6 s) := by
  unfold x25_tell_j44
  refine x_aload_n (μ := mu_x25_tell) (pc := 44) 0 dX25_tell_44 rfl ?_
  refine x_if (fun hT4 => ?_)
  refine x_fgr (μ := mu_x25_tell) (pc := 45) fX25_4 (by first | exact Or.inl ⟨_, rfl⟩ | exact Or.inr ⟨_, rfl⟩) q2475 dX25_tell_45 hT4 ?_
  refine x_aload_n (μ := mu_x25_tell) (pc := 48) 0 dX25_tell_48 rfl ?_
  refine x_fgi (μ := mu_x25_tell) (pc := 49) fX25_5 q2477 dX25_tell_49 hT4 (fun hr5 => ?_)
  refine x_ok (fun ok6 => ?_)
  refine x_new (μ := mu_x25_tell) (pc := 52) (ci := 23) gk_X26 gd_X26 q2469 q2536 q267 dX25_tell_52 ?_
  refine x_let (fun s7 e8 => ?_)
  refine x_dup (μ := mu_x25_tell) (pc := 55) dX25_tell_55 rfl ?_
  refine x_iload_n (μ := mu_x25_tell) (pc := 56) 1 dX25_tell_56 rfl ?_
  refine x_iload_n (μ := mu_x25_tell) (pc := 57) 2 dX25_tell_57 rfl ?_
  refine x_iload_n (μ := mu_x25_tell) (pc := 58) 3 dX25_tell_58 rfl ?_
  refine x_iload (μ := mu_x25_tell) (pc := 59) 4 dX25_tell_59 rfl ?_
  refine x_aload (μ := mu_x25_tell) (pc := 61) 5 dX25_tell_61 rfl ?_
  refine x_aload (μ := mu_x25_tell) (pc := 63) 6 dX25_tell_63 rfl ?_
  refine x_callIN_mv (μ := mu_x25_tell) (pc := 65) (ok_x26_init (ω := ω) (l := l) (d := d - 1) hl (by omega) hv1 hv2 hv3 hv4) gRel_E gRel_E (fun _ q => q) q2537 q2538 q267 q2539 dX25_tell_65 (gT_ne (gT_new e8)) rfl hy_x26_init (by omega) (Nat.le_of_ble_eq_true rfl) rfl (Nat.le_of_ble_eq_true rfl) (fun x9 k10 => ?_)
  refine x_if (fun hT11 => ?_)
  refine x_if (fun hz12 => ?_)
  refine x_aast (μ := mu_x25_tell) (pc := 68) 6 ⟨fun _ => rfl, rfl, rfl⟩ dX25_tell_68 hT11 rfl hz12 (fun _ _ q => gE_wR q) ?_
  refine x_let (fun s13 e14 => ?_)
  refine x_aload_n (μ := mu_x25_tell) (pc := 69) 0 dX25_tell_69 rfl ?_
  refine x_dup (μ := mu_x25_tell) (pc := 70) dX25_tell_70 rfl ?_
  refine x_fgi (μ := mu_x25_tell) (pc := 71) fX25_5 q2477 dX25_tell_71 (gT_R e14 (gT_E k10 (gT_N e8 ok6 hT4 (by decide)) (by decide))) (fun hr15 => ?_)
  refine x_iconst (μ := mu_x25_tell) (pc := 74) dX25_tell_74 ?_
  refine x_iadd (μ := mu_x25_tell) (pc := 75) dX25_tell_75 ?_
  refine x_w1 ?_
  refine x_fpi (μ := mu_x25_tell) (pc := 76) fX25_5 q2477 dX25_tell_76 (gT_R e14 (gT_E k10 (gT_N e8 ok6 hT4 (by decide)) (by decide))) (fun _ q => gE_wI q) ?_
  refine x_let (fun s16 e17 => ?_)
  exact x_vret (μ := mu_x25_tell) (pc := 79) (a1 := s16) dX25_tell_79 rfl rfl (gRel_E.1 _) trivial
def x25_tell (v0 : Nat) (v1 : Int) (v2 : Int) (v3 : Int) (v4 : Int) (v5 : Nat) (v6 : Nat) (σ : gMem) : Option gMem := if mT σ v0 = 23 then if mT σ (mR σ v0 4) = 106 then if mI σ v0 5 ≠ w32 (mN σ (mR σ v0 4) : Int) then x25_tell_j44 v0 v1 v2 v3 v4 v5 v6  σ else if 0 ≤ (w32 (2 * (mI σ v0 5))) ∧ (w32 (2 * (mI σ v0 5))) < 1000000 then gLet (wN σ 106 (w32 (2 * (mI σ v0 5))).toNat) (fun s21 => if mT s21 (mR s21 v0 4) = 106 then if (0 ≤ (0 : Int) ∧ 0 ≤ (0 : Int) ∧ 0 ≤ (mI s21 v0 5)) ∧ (0 : Int) + (mI s21 v0 5) ≤ (mN s21 (mR s21 v0 4) : Int) ∧ (0 : Int) + (mI s21 v0 5) ≤ (mN s21 (mZ σ) : Int) then if gRefs s21 (mR s21 v0 4) (0 : Int).toNat (mI s21 v0 5).toNat = true then gLet (wCR s21 (mR s21 v0 4) (0 : Int).toNat (mZ σ) (0 : Int).toNat (mI s21 v0 5).toNat) (fun s27 => gLet (wR s27 v0 4 (mZ σ)) (fun s29 => x25_tell_j44 v0 v1 v2 v3 v4 v5 v6  s29)) else none else none else none) else none else none else none
set_option maxRecDepth 100000 in
theorem ok_x25_tell {ω : gW} {l : Launch} {d : Nat} {σ : gMem} {v0 : Nat} {v1 : Int} {v2 : Int} {v3 : Int} {v4 : Int} {v5 : Nat} {v6 : Nat} (hl : l.stackTraces = false) (hdp : 3 ≤ d) (hv1 : g32 v1) (hv2 : g32 v2) (hv3 : g32 v3) (hv4 : g32 v4) : gK (fun p : gMem => (.inl none, p)) gE ω l d mu_x25_tell [vR v0, vI v1, vI v2, vI v3, vI v4, vR v5, vR v6] σ (x25_tell v0 v1 v2 v3 v4 v5 v6 σ) := by
  refine gK.of hp_X25 (Nat.le_of_ble_eq_true rfl) ?_
  unfold x25_tell
  refine x_aload_n (μ := mu_x25_tell) (pc := 0) 0 dX25_tell_0 rfl ?_
  refine x_if (fun hT1 => ?_)
  refine x_fgi (μ := mu_x25_tell) (pc := 1) fX25_5 q2477 dX25_tell_1 hT1 (fun hr2 => ?_)
  refine x_aload_n (μ := mu_x25_tell) (pc := 4) 0 dX25_tell_4 rfl ?_
  refine x_fgr (μ := mu_x25_tell) (pc := 5) fX25_4 (by first | exact Or.inl ⟨_, rfl⟩ | exact Or.inr ⟨_, rfl⟩) q2475 dX25_tell_5 hT1 ?_
  refine x_if (fun hT3 => ?_)
  refine x_len (μ := mu_x25_tell) (pc := 8) 6 (fun _ => rfl) dX25_tell_8 hT3 ?_
  refine x_w1 ?_
  refine x_icmp_ne (μ := mu_x25_tell) (pc := 9) (tgt := 44) dX25_tell_9 rfl hr2 (w32_rng _) ?_ ?_
  · exact okj_x25_tell_j44 hl hdp hv1 hv2 hv3 hv4
  · refine x_iconst (μ := mu_x25_tell) (pc := 12) dX25_tell_12 ?_
    refine x_aload_n (μ := mu_x25_tell) (pc := 13) 0 dX25_tell_13 rfl ?_
    refine x_fgi (μ := mu_x25_tell) (pc := 14) fX25_5 q2477 dX25_tell_14 hT1 (fun hr18 => ?_)
    refine x_imul (μ := mu_x25_tell) (pc := 17) dX25_tell_17 ?_
    refine x_w1 ?_
    refine x_if (fun hg19 => ?_)
    refine x_ok (fun ok20 => ?_)
    refine x_anew (μ := mu_x25_tell) (pc := 18) 6 (fun _ => rfl) rfl (by decide) q2469 dX25_tell_18 hg19 ?_
    refine x_let (fun s21 e22 => ?_)
    refine x_astore (μ := mu_x25_tell) (pc := 21) (lv' := [(7, vR (mZ σ)), (0, vR v0), (1, vI v1), (2, vI v2), (3, vI v3), (4, vI v4), (5, vR v5), (6, vR v6)]) dX25_tell_21 (by decide) rfl ?_
    refine x_aload_n (μ := mu_x25_tell) (pc := 23) 1 dX25_tell_23 rfl ?_
    refine x_fgr (μ := mu_x25_tell) (pc := 24) fX25_4 (by first | exact Or.inl ⟨_, rfl⟩ | exact Or.inr ⟨_, rfl⟩) q2475 dX25_tell_24 (gT_N e22 ok20 hT1 (by decide)) ?_
    refine x_iconst (μ := mu_x25_tell) (pc := 27) dX25_tell_27 ?_
    refine x_aload (μ := mu_x25_tell) (pc := 28) 0 dX25_tell_28 rfl ?_
    refine x_iconst (μ := mu_x25_tell) (pc := 30) dX25_tell_30 ?_
    refine x_aload_n (μ := mu_x25_tell) (pc := 31) 1 dX25_tell_31 rfl ?_
    refine x_fgi (μ := mu_x25_tell) (pc := 32) fX25_5 q2477 dX25_tell_32 (gT_N e22 ok20 hT1 (by decide)) (fun hr23 => ?_)
    refine x_if (fun hT24 => ?_)
    refine x_if (fun hg25 => ?_)
    refine x_if (fun hg26 => ?_)
    refine x_copyR (μ := mu_x25_tell) (pc := 35) q2525 dX25_tell_35 hT24 (gT_new e22) hg25 hg26 (by omega) (Nat.le_of_ble_eq_true rfl) (fun _ q => gE_wCR q) ?_
    refine x_let (fun s27 e28 => ?_)
    refine x_aload_n (μ := mu_x25_tell) (pc := 38) 1 dX25_tell_38 rfl ?_
    refine x_aload (μ := mu_x25_tell) (pc := 39) 0 dX25_tell_39 rfl ?_
    refine x_fpr (μ := mu_x25_tell) (pc := 41) fX25_4 q2475 (by first | exact Or.inl ⟨_, rfl⟩ | exact Or.inr ⟨_, rfl⟩) dX25_tell_41 (gT_CR e28 (gT_N e22 ok20 hT1 (by decide))) (fun _ q => gE_wR q) ?_
    refine x_let (fun s29 e30 => ?_)
    refine x_loc (lv' := [(0, vR v0), (1, vI v1), (2, vI v2), (3, vI v3), (4, vI v4), (5, vR v5), (6, vR v6)]) [1, 2, 3, 4, 5, 6, 7] rfl ?_
    exact okj_x25_tell_j44 hl hdp hv1 hv2 hv3 hv4
def x3_init_l54 (N : Nat) (v0 : Nat) (K : gMem → Option gMem) : Nat → Int → gMem → Option gMem
  | 0, _, _ => none
  | n + 1, v2, s => if mT s v0 = 3 then if mT s (mR s v0 2) = 107 then if w32 (mN s (mR s v0 2) : Int) ≤ v2 then K s else gLet (wN s 5 4) (fun s34 => (x5_init (mZ s) s34).bind (fun x36 => if mZ s = 0 ∨ gAsg 7 (mT x36 (mZ s)) = true then if 0 ≤ v2 ∧ v2 < (mN x36 (mR s v0 2) : Int) then gLet (wR x36 (mR s v0 2) v2.toNat (mZ s)) (fun s39 => x3_init_l54 N v0 K n (w32 (v2 + 1)) s39) else none else none)) else none else none
set_option maxRecDepth 100000 in
theorem okl_x3_init_l54 {ω : gW} {l : Launch} {d : Nat} {N : Nat} {σ0 : gMem} {v0 : Nat} {K : gMem → Option gMem} (hl : l.stackTraces = false) (hdp : 2 ≤ d) (hK : ∀ (s : gMem) , GG (fun p : gMem => (.inl none, p)) gE ω l d mu_x3_init σ0 82 [] [] s (K s)) : ∀ (n : Nat) (v2 : Int) (s : gMem) , g32 v2 → GG (fun p : gMem => (.inl none, p)) gE ω l d mu_x3_init σ0 54 [(0, vR v0), (2, vI v2)] [] s (x3_init_l54 N v0 K n v2 s) := by
  intro n
  induction n with
  | zero => intros; exact x_none
  | succ n ih =>
    intro v2 s hv2
    unfold x3_init_l54
    refine x_iload_n (μ := mu_x3_init) (pc := 54) 1 dX3_init_54 rfl ?_
    refine x_aload_n (μ := mu_x3_init) (pc := 55) 0 dX3_init_55 rfl ?_
    refine x_if (fun hT31 => ?_)
    refine x_fgr (μ := mu_x3_init) (pc := 56) fX3_2 (by first | exact Or.inl ⟨_, rfl⟩ | exact Or.inr ⟨_, rfl⟩) q397 dX3_init_56 hT31 ?_
    refine x_if (fun hT32 => ?_)
    refine x_len (μ := mu_x3_init) (pc := 59) 7 (fun _ => rfl) dX3_init_59 hT32 ?_
    refine x_w1 ?_
    refine x_icmp_ge (μ := mu_x3_init) (pc := 60) (tgt := 82) dX3_init_60 rfl hv2 (w32_rng _) ?_ ?_
    · refine x_loc (lv' := []) [] rfl ?_
      exact hK s
    · refine x_aload_n (μ := mu_x3_init) (pc := 63) 0 dX3_init_63 rfl ?_
      refine x_fgr (μ := mu_x3_init) (pc := 64) fX3_2 (by first | exact Or.inl ⟨_, rfl⟩ | exact Or.inr ⟨_, rfl⟩) q397 dX3_init_64 hT31 ?_
      refine x_iload_n (μ := mu_x3_init) (pc := 67) 1 dX3_init_67 rfl ?_
      refine x_ok (fun ok33 => ?_)
      refine x_new (μ := mu_x3_init) (pc := 68) (ci := 4) gk_X5 gd_X5 q364 q366 q225 dX3_init_68 ?_
      refine x_let (fun s34 e35 => ?_)
      refine x_dup (μ := mu_x3_init) (pc := 71) dX3_init_71 rfl ?_
      refine x_callIN_mv (μ := mu_x3_init) (pc := 72) (ok_x5_init (ω := ω) (l := l) (d := d - 1) hl (by omega) ) gRel_E gRel_E (fun _ q => q) q367 q368 q225 q369 dX3_init_72 (gT_ne (gT_new e35)) rfl hy_x5_init (by omega) (Nat.le_of_ble_eq_true rfl) rfl (Nat.le_of_ble_eq_true rfl) (fun x36 k37 => ?_)
      refine x_if (fun hz38 => ?_)
      refine x_aast (μ := mu_x3_init) (pc := 75) 7 ⟨fun _ => rfl, rfl, rfl⟩ dX3_init_75 (gT_E k37 (gT_N e35 ok33 hT32 (by decide)) (by decide)) rfl hz38 (fun _ _ q => gE_wR q) ?_
      refine x_let (fun s39 e40 => ?_)
      refine x_iincw (μ := mu_x3_init) (pc := 76) (lv' := [(2, vI (w32 (v2 + 1))), (0, vR v0)]) 1 dX3_init_76 rfl (by decide) rfl ?_
      refine x_goto (μ := mu_x3_init) (pc := 79) (tgt := 54) dX3_init_79 rfl ?_
      refine x_loc (lv' := [(0, vR v0), (2, vI (w32 (v2 + 1)))]) [1, 0] rfl ?_
      exact ih (w32 (v2 + 1)) s39 (w32_rng _)
def x3_init (N : Nat) (v0 : Nat) (v1 : Nat) (σ : gMem) : Option gMem := if mT σ v0 = 3 then gLet (wN σ 4 13) (fun s3 => (x4_init (mZ σ) s3).bind (fun x5 => gLet (wR x5 v0 1 (mZ σ)) (fun s7 => if 0 ≤ (700 : Int) ∧ (700 : Int) < 1000000 then gLet (wN s7 107 (700 : Int).toNat) (fun s11 => gLet (wR s11 v0 2 (mZ s7)) (fun s13 => gLet (wN s13 5 4) (fun s16 => (x5_init (mZ s13) s16).bind (fun x18 => gLet (wR x18 v0 4 (mZ s13)) (fun s20 => gLet (wN s20 5 4) (fun s23 => (x5_init (mZ s20) s23).bind (fun x25 => gLet (wR x25 v0 5 (mZ s20)) (fun s27 => gLet (wR s27 v0 0 v1) (fun s29 => x3_init_l54 N v0 (fun s41 => some s41) N 0 s29))))))))) else none))) else none
set_option maxRecDepth 100000 in
theorem ok_x3_init {ω : gW} {l : Launch} {d : Nat} {N : Nat} {σ : gMem} {v0 : Nat} {v1 : Nat} (hl : l.stackTraces = false) (hdp : 2 ≤ d) : gK (fun p : gMem => (.inl none, p)) gE ω l d mu_x3_init [vR v0, vR v1] σ (x3_init N v0 v1 σ) := by
  refine gK.of hp_X3 (Nat.le_of_ble_eq_true rfl) ?_
  unfold x3_init
  refine x_aload_n (μ := mu_x3_init) (pc := 0) 0 dX3_init_0 rfl ?_
  refine x_if (fun hT1 => ?_)
  refine x_objI (μ := mu_x3_init) (pc := 1) (ci := 2) rfl q313 dX3_init_1 hT1 (by omega) (Nat.le_of_ble_eq_true rfl) ?_
  refine x_aload_n (μ := mu_x3_init) (pc := 4) 0 dX3_init_4 rfl ?_
  refine x_ok (fun ok2 => ?_)
  refine x_new (μ := mu_x3_init) (pc := 5) (ci := 3) gk_X4 gd_X4 q314 q315 q224 dX3_init_5 ?_
  refine x_let (fun s3 e4 => ?_)
  refine x_dup (μ := mu_x3_init) (pc := 8) dX3_init_8 rfl ?_
  refine x_callIN_mv (μ := mu_x3_init) (pc := 9) (ok_x4_init (ω := ω) (l := l) (d := d - 1) hl (by omega) ) gRel_E gRel_E (fun _ q => q) q316 q317 q224 q318 dX3_init_9 (gT_ne (gT_new e4)) rfl hy_x4_init (by omega) (Nat.le_of_ble_eq_true rfl) rfl (Nat.le_of_ble_eq_true rfl) (fun x5 k6 => ?_)
  refine x_fprF (μ := mu_x3_init) (pc := 12) fX3_1 q396 rfl rfl (by first | exact Or.inl ⟨_, rfl⟩ | exact Or.inr ⟨_, rfl⟩) dX3_init_12 (gT_E k6 (gT_N e4 ok2 hT1 (by decide)) (by decide)) (fun _ q => gE_wR q) ?_
  refine x_let (fun s7 e8 => ?_)
  refine x_aload_n (μ := mu_x3_init) (pc := 15) 0 dX3_init_15 rfl ?_
  refine x_sipush (μ := mu_x3_init) (pc := 16) dX3_init_16 (by decide) ?_
  refine x_if (fun hg9 => ?_)
  refine x_ok (fun ok10 => ?_)
  refine x_anew (μ := mu_x3_init) (pc := 19) 7 (fun _ => rfl) rfl (by decide) q364 dX3_init_19 hg9 ?_
  refine x_let (fun s11 e12 => ?_)
  refine x_fprF (μ := mu_x3_init) (pc := 22) fX3_2 q397 rfl rfl (by first | exact Or.inl ⟨_, rfl⟩ | exact Or.inr ⟨_, rfl⟩) dX3_init_22 (gT_N e12 ok10 (gT_R e8 (gT_E k6 (gT_N e4 ok2 hT1 (by decide)) (by decide))) (by decide)) (fun _ q => gE_wR q) ?_
  refine x_let (fun s13 e14 => ?_)
  refine x_aload_n (μ := mu_x3_init) (pc := 25) 0 dX3_init_25 rfl ?_
  refine x_ok (fun ok15 => ?_)
  refine x_new (μ := mu_x3_init) (pc := 26) (ci := 4) gk_X5 gd_X5 q364 q366 q225 dX3_init_26 ?_
  refine x_let (fun s16 e17 => ?_)
  refine x_dup (μ := mu_x3_init) (pc := 29) dX3_init_29 rfl ?_
  refine x_callIN_mv (μ := mu_x3_init) (pc := 30) (ok_x5_init (ω := ω) (l := l) (d := d - 1) hl (by omega) ) gRel_E gRel_E (fun _ q => q) q367 q368 q225 q369 dX3_init_30 (gT_ne (gT_new e17)) rfl hy_x5_init (by omega) (Nat.le_of_ble_eq_true rfl) rfl (Nat.le_of_ble_eq_true rfl) (fun x18 k19 => ?_)
  refine x_fprF (μ := mu_x3_init) (pc := 33) fX3_4 q401 rfl rfl (by first | exact Or.inl ⟨_, rfl⟩ | exact Or.inr ⟨_, rfl⟩) dX3_init_33 (gT_E k19 (gT_N e17 ok15 (gT_R e14 (gT_N e12 ok10 (gT_R e8 (gT_E k6 (gT_N e4 ok2 hT1 (by decide)) (by decide))) (by decide))) (by decide)) (by decide)) (fun _ q => gE_wR q) ?_
  refine x_let (fun s20 e21 => ?_)
  refine x_aload_n (μ := mu_x3_init) (pc := 36) 0 dX3_init_36 rfl ?_
  refine x_ok (fun ok22 => ?_)
  refine x_new (μ := mu_x3_init) (pc := 37) (ci := 4) gk_X5 gd_X5 q364 q366 q225 dX3_init_37 ?_
  refine x_let (fun s23 e24 => ?_)
  refine x_dup (μ := mu_x3_init) (pc := 40) dX3_init_40 rfl ?_
  refine x_callIN_mv (μ := mu_x3_init) (pc := 41) (ok_x5_init (ω := ω) (l := l) (d := d - 1) hl (by omega) ) gRel_E gRel_E (fun _ q => q) q367 q368 q225 q369 dX3_init_41 (gT_ne (gT_new e24)) rfl hy_x5_init (by omega) (Nat.le_of_ble_eq_true rfl) rfl (Nat.le_of_ble_eq_true rfl) (fun x25 k26 => ?_)
  refine x_fprF (μ := mu_x3_init) (pc := 44) fX3_5 q403 rfl rfl (by first | exact Or.inl ⟨_, rfl⟩ | exact Or.inr ⟨_, rfl⟩) dX3_init_44 (gT_E k26 (gT_N e24 ok22 (gT_R e21 (gT_E k19 (gT_N e17 ok15 (gT_R e14 (gT_N e12 ok10 (gT_R e8 (gT_E k6 (gT_N e4 ok2 hT1 (by decide)) (by decide))) (by decide))) (by decide)) (by decide))) (by decide)) (by decide)) (fun _ q => gE_wR q) ?_
  refine x_let (fun s27 e28 => ?_)
  refine x_aload_n (μ := mu_x3_init) (pc := 47) 0 dX3_init_47 rfl ?_
  refine x_aload_n (μ := mu_x3_init) (pc := 48) 1 dX3_init_48 rfl ?_
  refine x_fprF (μ := mu_x3_init) (pc := 49) fX3_0 q395 rfl rfl (by first | exact Or.inl ⟨_, rfl⟩ | exact Or.inr ⟨_, rfl⟩) dX3_init_49 (gT_R e28 (gT_E k26 (gT_N e24 ok22 (gT_R e21 (gT_E k19 (gT_N e17 ok15 (gT_R e14 (gT_N e12 ok10 (gT_R e8 (gT_E k6 (gT_N e4 ok2 hT1 (by decide)) (by decide))) (by decide))) (by decide)) (by decide))) (by decide)) (by decide))) (fun _ q => gE_wR q) ?_
  refine x_let (fun s29 e30 => ?_)
  refine x_iconst (μ := mu_x3_init) (pc := 52) dX3_init_52 ?_
  refine x_istore_n (μ := mu_x3_init) (pc := 53) (lv' := [(2, vI 0), (0, vR v0), (1, vR v1)]) dX3_init_53 rfl (by decide) rfl ?_
  refine x_loc (lv' := [(0, vR v0), (2, vI 0)]) [1, 0] rfl ?_
  refine okl_x3_init_l54 hl hdp (fun s41 => ?_) N 0 s29 (by decide)
  exact x_vret (μ := mu_x3_init) (pc := 82) (a1 := s41) dX3_init_82 rfl rfl (gRel_E.1 _) trivial
def x3_take (v0 : Nat) (σ : gMem) : Option (Nat × gMem) := if mT σ v0 = 3 then gLet (wI σ v0 3 (w32 ((mI σ v0 3) + 1))) (fun s3 => if mT s3 (mR s3 v0 2) = 107 then if 0 ≤ ((mI s3 v0 3) - 1) ∧ ((mI s3 v0 3) - 1) < (mN s3 (mR s3 v0 2) : Int) then if mT s3 (mR s3 (mR s3 v0 2) ((mI s3 v0 3) - 1).toNat) = 5 then (x5_none (mR s3 (mR s3 v0 2) ((mI s3 v0 3) - 1).toNat) s3).bind (fun x8 => if mT x8 (mR x8 v0 2) = 107 then if 0 ≤ ((mI x8 v0 3) - 1) ∧ ((mI x8 v0 3) - 1) < (mN x8 (mR x8 v0 2) : Int) then some (mR x8 (mR x8 v0 2) ((mI x8 v0 3) - 1).toNat, x8) else none else none) else none else none else none) else none
set_option maxRecDepth 100000 in
theorem ok_x3_take {ω : gW} {l : Launch} {d : Nat} {σ : gMem} {v0 : Nat} (hl : l.stackTraces = false) (hdp : 1 ≤ d) : gK (fun p : Nat × gMem => (.inl (some (vR p.1)), p.2)) gE ω l d mu_x3_take [vR v0] σ (x3_take v0 σ) := by
  refine gK.of hp_X3 (Nat.le_of_ble_eq_true rfl) ?_
  unfold x3_take
  refine x_aload_n (μ := mu_x3_take) (pc := 0) 0 dX3_take_0 rfl ?_
  refine x_dup (μ := mu_x3_take) (pc := 1) dX3_take_1 rfl ?_
  refine x_if (fun hT1 => ?_)
  refine x_fgi (μ := mu_x3_take) (pc := 2) fX3_3 q399 dX3_take_2 hT1 (fun hr2 => ?_)
  refine x_iconst (μ := mu_x3_take) (pc := 5) dX3_take_5 ?_
  refine x_iadd (μ := mu_x3_take) (pc := 6) dX3_take_6 ?_
  refine x_w1 ?_
  refine x_fpi (μ := mu_x3_take) (pc := 7) fX3_3 q399 dX3_take_7 hT1 (fun _ q => gE_wI q) ?_
  refine x_let (fun s3 e4 => ?_)
  refine x_aload_n (μ := mu_x3_take) (pc := 10) 0 dX3_take_10 rfl ?_
  refine x_fgr (μ := mu_x3_take) (pc := 11) fX3_2 (by first | exact Or.inl ⟨_, rfl⟩ | exact Or.inr ⟨_, rfl⟩) q397 dX3_take_11 (gT_I e4 hT1) ?_
  refine x_aload_n (μ := mu_x3_take) (pc := 14) 0 dX3_take_14 rfl ?_
  refine x_fgi (μ := mu_x3_take) (pc := 15) fX3_3 q399 dX3_take_15 (gT_I e4 hT1) (fun hr5 => ?_)
  refine x_iconst (μ := mu_x3_take) (pc := 18) dX3_take_18 ?_
  refine x_isub (μ := mu_x3_take) (pc := 19) dX3_take_19 ?_
  refine x_if (fun hT6 => ?_)
  refine x_aald (μ := mu_x3_take) (pc := 20) 7 (fun _ => rfl) rfl rfl dX3_take_20 hT6 rfl ?_
  refine x_if (fun hT7 => ?_)
  refine x_callV_mv (μ := mu_x3_take) (pc := 21) (ok_x5_none (ω := ω) (l := l) (d := d - 1) hl (by omega) ) gRel_E gRel_E (fun _ q => q) q964 q965 q966 q225 q967 dX3_take_21 rfl hT7 hy_x5_none (by omega) (Nat.le_of_ble_eq_true rfl) rfl (Nat.le_of_ble_eq_true rfl) (fun x8 k9 => ?_)
  refine x_aload_n (μ := mu_x3_take) (pc := 24) 0 dX3_take_24 rfl ?_
  refine x_fgr (μ := mu_x3_take) (pc := 25) fX3_2 (by first | exact Or.inl ⟨_, rfl⟩ | exact Or.inr ⟨_, rfl⟩) q397 dX3_take_25 (gT_E k9 (gT_I e4 hT1) (by decide)) ?_
  refine x_aload_n (μ := mu_x3_take) (pc := 28) 0 dX3_take_28 rfl ?_
  refine x_fgi (μ := mu_x3_take) (pc := 29) fX3_3 q399 dX3_take_29 (gT_E k9 (gT_I e4 hT1) (by decide)) (fun hr10 => ?_)
  refine x_iconst (μ := mu_x3_take) (pc := 32) dX3_take_32 ?_
  refine x_isub (μ := mu_x3_take) (pc := 33) dX3_take_33 ?_
  refine x_if (fun hT11 => ?_)
  refine x_aald (μ := mu_x3_take) (pc := 34) 7 (fun _ => rfl) rfl rfl dX3_take_34 hT11 rfl ?_
  exact x_aret (μ := mu_x3_take) (pc := 35) dX3_take_35 rfl (by first | exact Or.inl ⟨_, rfl⟩ | exact Or.inr ⟨_, rfl⟩) rfl (gRel_E.1 _) trivial
def x4_leave_l46 (N : Nat) (v0 : Nat) (v1 : Int) (v2 : Int) (K : gMem → Option gMem) : Nat → gMem → Option gMem
  | 0, _ => none
  | n + 1, s => if mT s v0 = 4 then gLet (wI s v0 12 (w32 ((mI s v0 12) - 1))) (fun s11 => if mT s11 (mR s11 v0 6) = 100 then if 0 ≤ (mI s11 v0 12) ∧ (mI s11 v0 12) < (mN s11 (mR s11 v0 6) : Int) then if mT s11 (mR s11 v0 7) = 103 then if 0 ≤ (mI s11 (mR s11 v0 6) (mI s11 v0 12).toNat) ∧ (mI s11 (mR s11 v0 6) (mI s11 v0 12).toNat) < (mN s11 (mR s11 v0 7) : Int) then gLet (wI s11 (mR s11 v0 7) (mI s11 (mR s11 v0 6) (mI s11 v0 12).toNat).toNat 0) (fun s17 => if mT s17 (mR s17 v0 8) = 103 then if v2 = 0 ∨ v2 = 1 then if 0 ≤ (mI s11 (mR s11 v0 6) (mI s11 v0 12).toNat) ∧ (mI s11 (mR s11 v0 6) (mI s11 v0 12).toNat) < (mN s17 (mR s17 v0 8) : Int) then gLet (wI s17 (mR s17 v0 8) (mI s11 (mR s11 v0 6) (mI s11 v0 12).toNat).toNat v2) (fun s21 => if mT s21 (mR s21 v0 1) = 100 then if 0 ≤ (mI s21 v0 10) ∧ (mI s21 v0 10) < (mN s21 (mR s21 v0 1) : Int) then gLet (wI s21 (mR s21 v0 1) (mI s21 v0 10).toNat (mI s11 (mR s11 v0 6) (mI s11 v0 12).toNat)) (fun s25 => gLet (wI s25 v0 10 (w32 ((mI s25 v0 10) + 1))) (fun s28 => if mI s11 (mR s11 v0 6) (mI s11 v0 12).toNat ≠ v1 then x4_leave_l46 N v0 v1 v2 K n s28 else K s28)) else none else none) else none else none else none) else none else none else none else none) else none
set_option maxRecDepth 100000 in
theorem okl_x4_leave_l46 {ω : gW} {l : Launch} {d : Nat} {N : Nat} {σ0 : gMem} {v0 : Nat} {v1 : Int} {v2 : Int} {K : gMem → Option gMem} (hl : l.stackTraces = false) (hdp : 1 ≤ d) (hv1 : g32 v1) (hv2 : g32 v2) (hK : ∀ (s : gMem) , GG (fun p : gMem => (.inl none, p)) gE ω l d mu_x4_leave σ0 105 [] [] s (K s)) : ∀ (n : Nat) (s : gMem) , GG (fun p : gMem => (.inl none, p)) gE ω l d mu_x4_leave σ0 46 [(0, vR v0), (1, vI v1), (2, vI v2)] [] s (x4_leave_l46 N v0 v1 v2 K n s) := by
  intro n
  induction n with
  | zero => intros; exact x_none
  | succ n ih =>
    intro s
    unfold x4_leave_l46
    refine x_aload_n (μ := mu_x4_leave) (pc := 46) 0 dX4_leave_46 rfl ?_
    refine x_dup (μ := mu_x4_leave) (pc := 47) dX4_leave_47 rfl ?_
    refine x_if (fun hT9 => ?_)
    refine x_fgi (μ := mu_x4_leave) (pc := 48) fX4_12 q335 dX4_leave_48 hT9 (fun hr10 => ?_)
    refine x_iconst (μ := mu_x4_leave) (pc := 51) dX4_leave_51 ?_
    refine x_isub (μ := mu_x4_leave) (pc := 52) dX4_leave_52 ?_
    refine x_w1 ?_
    refine x_fpi (μ := mu_x4_leave) (pc := 53) fX4_12 q335 dX4_leave_53 hT9 (fun _ q => gE_wI q) ?_
    refine x_let (fun s11 e12 => ?_)
    refine x_aload_n (μ := mu_x4_leave) (pc := 56) 0 dX4_leave_56 rfl ?_
    refine x_fgr (μ := mu_x4_leave) (pc := 57) fX4_6 (by first | exact Or.inl ⟨_, rfl⟩ | exact Or.inr ⟨_, rfl⟩) q327 dX4_leave_57 (gT_I e12 hT9) ?_
    refine x_aload_n (μ := mu_x4_leave) (pc := 60) 0 dX4_leave_60 rfl ?_
    refine x_fgi (μ := mu_x4_leave) (pc := 61) fX4_12 q335 dX4_leave_61 (gT_I e12 hT9) (fun hr13 => ?_)
    refine x_if (fun hT14 => ?_)
    refine x_iald (μ := mu_x4_leave) (pc := 64) dX4_leave_64 hT14 rfl (fun hr15 => ?_)
    refine x_istore_n (μ := mu_x4_leave) (pc := 65) (lv' := [(3, vI (mI s11 (mR s11 v0 6) (mI s11 v0 12).toNat)), (0, vR v0), (1, vI v1), (2, vI v2)]) dX4_leave_65 rfl (by decide) rfl ?_
    refine x_aload_n (μ := mu_x4_leave) (pc := 66) 1 dX4_leave_66 rfl ?_
    refine x_fgr (μ := mu_x4_leave) (pc := 67) fX4_7 (by first | exact Or.inl ⟨_, rfl⟩ | exact Or.inr ⟨_, rfl⟩) q328 dX4_leave_67 (gT_I e12 hT9) ?_
    refine x_iload_n (μ := mu_x4_leave) (pc := 70) 0 dX4_leave_70 rfl ?_
    refine x_iconst (μ := mu_x4_leave) (pc := 71) dX4_leave_71 ?_
    refine x_if (fun hT16 => ?_)
    refine x_zast (μ := mu_x4_leave) (pc := 72) dX4_leave_72 hT16 rfl (by decide) (fun _ _ q => gE_wI q) ?_
    refine x_let (fun s17 e18 => ?_)
    refine x_aload_n (μ := mu_x4_leave) (pc := 73) 1 dX4_leave_73 rfl ?_
    refine x_fgr (μ := mu_x4_leave) (pc := 74) fX4_8 (by first | exact Or.inl ⟨_, rfl⟩ | exact Or.inr ⟨_, rfl⟩) q329 dX4_leave_74 (gT_I e18 (gT_I e12 hT9)) ?_
    refine x_iload_n (μ := mu_x4_leave) (pc := 77) 0 dX4_leave_77 rfl ?_
    refine x_iload_n (μ := mu_x4_leave) (pc := 78) 3 dX4_leave_78 rfl ?_
    refine x_if (fun hT19 => ?_)
    refine x_if (fun hz20 => ?_)
    refine x_zast (μ := mu_x4_leave) (pc := 79) dX4_leave_79 hT19 rfl hz20 (fun _ _ q => gE_wI q) ?_
    refine x_let (fun s21 e22 => ?_)
    refine x_aload_n (μ := mu_x4_leave) (pc := 80) 1 dX4_leave_80 rfl ?_
    refine x_fgr (μ := mu_x4_leave) (pc := 81) fX4_1 (by first | exact Or.inl ⟨_, rfl⟩ | exact Or.inr ⟨_, rfl⟩) q321 dX4_leave_81 (gT_I e22 (gT_I e18 (gT_I e12 hT9))) ?_
    refine x_aload_n (μ := mu_x4_leave) (pc := 84) 1 dX4_leave_84 rfl ?_
    refine x_fgi (μ := mu_x4_leave) (pc := 85) fX4_10 q332 dX4_leave_85 (gT_I e22 (gT_I e18 (gT_I e12 hT9))) (fun hr23 => ?_)
    refine x_iload_n (μ := mu_x4_leave) (pc := 88) 0 dX4_leave_88 rfl ?_
    refine x_if (fun hT24 => ?_)
    refine x_iast (μ := mu_x4_leave) (pc := 89) dX4_leave_89 hT24 rfl (fun _ _ q => gE_wI q) ?_
    refine x_let (fun s25 e26 => ?_)
    refine x_aload_n (μ := mu_x4_leave) (pc := 90) 1 dX4_leave_90 rfl ?_
    refine x_dup (μ := mu_x4_leave) (pc := 91) dX4_leave_91 rfl ?_
    refine x_fgi (μ := mu_x4_leave) (pc := 92) fX4_10 q332 dX4_leave_92 (gT_I e26 (gT_I e22 (gT_I e18 (gT_I e12 hT9)))) (fun hr27 => ?_)
    refine x_iconst (μ := mu_x4_leave) (pc := 95) dX4_leave_95 ?_
    refine x_iadd (μ := mu_x4_leave) (pc := 96) dX4_leave_96 ?_
    refine x_w1 ?_
    refine x_fpi (μ := mu_x4_leave) (pc := 97) fX4_10 q332 dX4_leave_97 (gT_I e26 (gT_I e22 (gT_I e18 (gT_I e12 hT9)))) (fun _ q => gE_wI q) ?_
    refine x_let (fun s28 e29 => ?_)
    refine x_iload_n (μ := mu_x4_leave) (pc := 100) 0 dX4_leave_100 rfl ?_
    refine x_iload_n (μ := mu_x4_leave) (pc := 101) 2 dX4_leave_101 rfl ?_
    refine x_icmp_ne (μ := mu_x4_leave) (pc := 102) (tgt := 46) dX4_leave_102 rfl hr15 hv1 ?_ ?_
    · refine x_loc (lv' := [(0, vR v0), (1, vI v1), (2, vI v2)]) [1, 2, 3] rfl ?_
      exact ih s28
    · refine x_loc (lv' := []) [] rfl ?_
      exact hK s28
def x4_leave_j45 (N : Nat) (v0 : Nat) (v1 : Int) (t0 : Int) (s : gMem) : Option gMem := x4_leave_l46 N v0 v1 t0 (fun s30 => some s30) N s
set_option maxRecDepth 100000 in
theorem okj_x4_leave_j45 {ω : gW} {l : Launch} {d : Nat} {N : Nat} {σ0 : gMem} {s : gMem} {v0 : Nat} {v1 : Int} {t0 : Int} (hl : l.stackTraces = false) (hdp : 1 ≤ d) (hv1 : g32 v1) (ht0 : g32 t0) : GG (fun p : gMem => (.inl none, p)) gE ω l d mu_x4_leave σ0 45 [(0, vR v0), (1, vI v1)] [vI t0] s (x4_leave_j45 N v0 v1 t0 s) := by
  unfold x4_leave_j45
  refine x_istore_n (μ := mu_x4_leave) (pc := 45) (lv' := [(2, vI t0), (0, vR v0), (1, vI v1)]) dX4_leave_45 rfl (by decide) rfl ?_
  refine x_loc (lv' := [(0, vR v0), (1, vI v1), (2, vI t0)]) [1, 2, 0] rfl ?_
  refine okl_x4_leave_l46 hl hdp hv1 ht0 (fun s30 => ?_) N s
  exact x_vret (μ := mu_x4_leave) (pc := 105) (a1 := s30) dX4_leave_105 rfl rfl (gRel_E.1 _) trivial
def x4_leave_j40 (N : Nat) (v0 : Nat) (v1 : Int) (s : gMem) : Option gMem := x4_leave_j45 N v0 v1 1 s
set_option maxRecDepth 100000 in
theorem okj_x4_leave_j40 {ω : gW} {l : Launch} {d : Nat} {N : Nat} {σ0 : gMem} {s : gMem} {v0 : Nat} {v1 : Int} (hl : l.stackTraces = false) (hdp : 1 ≤ d) (hv1 : g32 v1) : GG (fun p : gMem => (.inl none, p)) gE ω l d mu_x4_leave σ0 40 [(0, vR v0), (1, vI v1)] [] s (x4_leave_j40 N v0 v1 s) := by
  unfold x4_leave_j40
  refine x_iconst (μ := mu_x4_leave) (pc := 40) dX4_leave_40 ?_
  refine x_goto (μ := mu_x4_leave) (pc := 41) (tgt := 45) dX4_leave_41 rfl ?_
  exact okj_x4_leave_j45 hl hdp hv1 (by decide)
def x4_leave (N : Nat) (v0 : Nat) (v1 : Int) (σ : gMem) : Option gMem := if mT σ v0 = 4 then if mT σ (mR σ v0 3) = 100 then if 0 ≤ v1 ∧ v1 < (mN σ (mR σ v0 3) : Int) then if mT σ (mR σ v0 2) = 100 then if 0 ≤ v1 ∧ v1 < (mN σ (mR σ v0 2) : Int) then if mI σ (mR σ v0 3) v1.toNat = mI σ (mR σ v0 2) v1.toNat then if mT σ (mR σ v0 6) = 100 then if 0 ≤ ((mI σ v0 12) - 1) ∧ ((mI σ v0 12) - 1) < (mN σ (mR σ v0 6) : Int) then if mI σ (mR σ v0 6) ((mI σ v0 12) - 1).toNat ≠ v1 then x4_leave_j40 N v0 v1  σ else (x4_leads v0 v1 v1 σ).bind (fun x31 => if x31 = 0 then x4_leave_j45 N v0 v1 0 σ else x4_leave_j40 N v0 v1  σ) else none else none else some σ else none else none else none else none else none
set_option maxRecDepth 100000 in
theorem ok_x4_leave {ω : gW} {l : Launch} {d : Nat} {N : Nat} {σ : gMem} {v0 : Nat} {v1 : Int} (hl : l.stackTraces = false) (hdp : 1 ≤ d) (hv1 : g32 v1) : gK (fun p : gMem => (.inl none, p)) gE ω l d mu_x4_leave [vR v0, vI v1] σ (x4_leave N v0 v1 σ) := by
  refine gK.of hp_X4 (Nat.le_of_ble_eq_true rfl) ?_
  unfold x4_leave
  refine x_aload_n (μ := mu_x4_leave) (pc := 0) 0 dX4_leave_0 rfl ?_
  refine x_if (fun hT1 => ?_)
  refine x_fgr (μ := mu_x4_leave) (pc := 1) fX4_3 (by first | exact Or.inl ⟨_, rfl⟩ | exact Or.inr ⟨_, rfl⟩) q324 dX4_leave_1 hT1 ?_
  refine x_iload_n (μ := mu_x4_leave) (pc := 4) 1 dX4_leave_4 rfl ?_
  refine x_if (fun hT2 => ?_)
  refine x_iald (μ := mu_x4_leave) (pc := 5) dX4_leave_5 hT2 rfl (fun hr3 => ?_)
  refine x_aload_n (μ := mu_x4_leave) (pc := 6) 0 dX4_leave_6 rfl ?_
  refine x_fgr (μ := mu_x4_leave) (pc := 7) fX4_2 (by first | exact Or.inl ⟨_, rfl⟩ | exact Or.inr ⟨_, rfl⟩) q323 dX4_leave_7 hT1 ?_
  refine x_iload_n (μ := mu_x4_leave) (pc := 10) 1 dX4_leave_10 rfl ?_
  refine x_if (fun hT4 => ?_)
  refine x_iald (μ := mu_x4_leave) (pc := 11) dX4_leave_11 hT4 rfl (fun hr5 => ?_)
  refine x_icmp_eq (μ := mu_x4_leave) (pc := 12) (tgt := 16) dX4_leave_12 rfl hr3 hr5 ?_ ?_
  · refine x_aload_n (μ := mu_x4_leave) (pc := 16) 0 dX4_leave_16 rfl ?_
    refine x_fgr (μ := mu_x4_leave) (pc := 17) fX4_6 (by first | exact Or.inl ⟨_, rfl⟩ | exact Or.inr ⟨_, rfl⟩) q327 dX4_leave_17 hT1 ?_
    refine x_aload_n (μ := mu_x4_leave) (pc := 20) 0 dX4_leave_20 rfl ?_
    refine x_fgi (μ := mu_x4_leave) (pc := 21) fX4_12 q335 dX4_leave_21 hT1 (fun hr6 => ?_)
    refine x_iconst (μ := mu_x4_leave) (pc := 24) dX4_leave_24 ?_
    refine x_isub (μ := mu_x4_leave) (pc := 25) dX4_leave_25 ?_
    refine x_if (fun hT7 => ?_)
    refine x_iald (μ := mu_x4_leave) (pc := 26) dX4_leave_26 hT7 rfl (fun hr8 => ?_)
    refine x_iload_n (μ := mu_x4_leave) (pc := 27) 1 dX4_leave_27 rfl ?_
    refine x_icmp_ne (μ := mu_x4_leave) (pc := 28) (tgt := 40) dX4_leave_28 rfl hr8 hv1 ?_ ?_
    · exact okj_x4_leave_j40 hl hdp hv1
    · refine x_aload_n (μ := mu_x4_leave) (pc := 31) 0 dX4_leave_31 rfl ?_
      refine x_iload_n (μ := mu_x4_leave) (pc := 32) 1 dX4_leave_32 rfl ?_
      refine x_iload_n (μ := mu_x4_leave) (pc := 33) 1 dX4_leave_33 rfl ?_
      refine x_callV_pi (μ := mu_x4_leave) (pc := 34) (ok_x4_leads (ω := ω) (l := l) (d := d - 1) hl (by omega) hv1 hv1) gRel_E gRel_E (fun _ q => q) q959 q961 qs13 q224 q962 dX4_leave_34 rfl hT1 hy_x4_leads (by omega) (Nat.le_of_ble_eq_true rfl) rfl (Nat.le_of_ble_eq_true rfl) (fun x31 hr32 => ?_)
      refine x_if_eq (μ := mu_x4_leave) (pc := 37) (tgt := 44) dX4_leave_37 rfl hr32 ?_ ?_
      · refine x_iconst (μ := mu_x4_leave) (pc := 44) dX4_leave_44 ?_
        exact okj_x4_leave_j45 hl hdp hv1 (by decide)
      · exact okj_x4_leave_j40 hl hdp hv1
  · exact x_vret (μ := mu_x4_leave) (pc := 15) (a1 := σ) dX4_leave_15 rfl rfl (gRel_E.1 _) trivial
def x5_against_l22 (N : Nat) (σ : gMem) (v0 : Nat) (v1 : Nat) (K : Option Int) : Nat → Int → Option Int
  | 0, _ => none
  | n + 1, v2 => if mT σ v0 = 5 then if mI σ v0 1 ≤ v2 then K else if mT σ v1 = 5 then if mI σ v1 1 ≤ v2 then K else if mT σ (mR σ v0 3) = 102 then if 0 ≤ v2 ∧ v2 < (mN σ (mR σ v0 3) : Int) then if mT σ (mR σ v1 3) = 102 then if 0 ≤ v2 ∧ v2 < (mN σ (mR σ v1 3) : Int) then if mI σ (mR σ v0 3) v2.toNat = mI σ (mR σ v1 3) v2.toNat then x5_against_l22 N σ v0 v1 K n (w32 (v2 + 1)) else if 0 ≤ v2 ∧ v2 < (mN σ (mR σ v0 3) : Int) then if 0 ≤ v2 ∧ v2 < (mN σ (mR σ v1 3) : Int) then some (w32 ((mI σ (mR σ v0 3) v2.toNat) - (mI σ (mR σ v1 3) v2.toNat))) else none else none else none else none else none else none else none else none
set_option maxRecDepth 100000 in
theorem okl_x5_against_l22 {ω : gW} {l : Launch} {d : Nat} {N : Nat} {σ : gMem} {v0 : Nat} {v1 : Nat} {K : Option Int} (hl : l.stackTraces = false) (hdp : 1 ≤ d) (hK : GG (fun x : Int => (.inl (some (vI x)), σ)) gE ω l d mu_x5_against σ 73 [(0, vR v0), (1, vR v1)] [] σ (K)) : ∀ (n : Nat) (v2 : Int) , g32 v2 → GG (fun x : Int => (.inl (some (vI x)), σ)) gE ω l d mu_x5_against σ 22 [(0, vR v0), (1, vR v1), (2, vI v2)] [] σ (x5_against_l22 N σ v0 v1 K n v2) := by
  intro n
  induction n with
  | zero => intros; exact x_none
  | succ n ih =>
    intro v2 hv2
    unfold x5_against_l22
    refine x_iload_n (μ := mu_x5_against) (pc := 22) 2 dX5_against_22 rfl ?_
    refine x_aload_n (μ := mu_x5_against) (pc := 23) 0 dX5_against_23 rfl ?_
    refine x_if (fun hT3 => ?_)
    refine x_fgi (μ := mu_x5_against) (pc := 24) fX5_1 q376 dX5_against_24 hT3 (fun hr4 => ?_)
    refine x_icmp_ge (μ := mu_x5_against) (pc := 27) (tgt := 73) dX5_against_27 rfl hv2 hr4 ?_ ?_
    · refine x_loc (lv' := [(0, vR v0), (1, vR v1)]) [0, 1] rfl ?_
      exact hK
    · refine x_iload_n (μ := mu_x5_against) (pc := 30) 2 dX5_against_30 rfl ?_
      refine x_aload_n (μ := mu_x5_against) (pc := 31) 1 dX5_against_31 rfl ?_
      refine x_if (fun hT5 => ?_)
      refine x_fgi (μ := mu_x5_against) (pc := 32) fX5_1 q376 dX5_against_32 hT5 (fun hr6 => ?_)
      refine x_icmp_ge (μ := mu_x5_against) (pc := 35) (tgt := 73) dX5_against_35 rfl hv2 hr6 ?_ ?_
      · refine x_loc (lv' := [(0, vR v0), (1, vR v1)]) [0, 1] rfl ?_
        exact hK
      · refine x_aload_n (μ := mu_x5_against) (pc := 38) 0 dX5_against_38 rfl ?_
        refine x_fgr (μ := mu_x5_against) (pc := 39) fX5_3 (by first | exact Or.inl ⟨_, rfl⟩ | exact Or.inr ⟨_, rfl⟩) q384 dX5_against_39 hT3 ?_
        refine x_iload_n (μ := mu_x5_against) (pc := 42) 2 dX5_against_42 rfl ?_
        refine x_if (fun hT7 => ?_)
        refine x_bald (μ := mu_x5_against) (pc := 43) dX5_against_43 hT7 rfl (fun hr8 => ?_)
        refine x_aload_n (μ := mu_x5_against) (pc := 44) 1 dX5_against_44 rfl ?_
        refine x_fgr (μ := mu_x5_against) (pc := 45) fX5_3 (by first | exact Or.inl ⟨_, rfl⟩ | exact Or.inr ⟨_, rfl⟩) q384 dX5_against_45 hT5 ?_
        refine x_iload_n (μ := mu_x5_against) (pc := 48) 2 dX5_against_48 rfl ?_
        refine x_if (fun hT9 => ?_)
        refine x_bald (μ := mu_x5_against) (pc := 49) dX5_against_49 hT9 rfl (fun hr10 => ?_)
        refine x_icmp_eq (μ := mu_x5_against) (pc := 50) (tgt := 67) dX5_against_50 rfl hr8 hr10 ?_ ?_
        · refine x_iincw (μ := mu_x5_against) (pc := 67) (lv' := [(2, vI (w32 (v2 + 1))), (0, vR v0), (1, vR v1)]) 2 dX5_against_67 rfl (by decide) rfl ?_
          refine x_goto (μ := mu_x5_against) (pc := 70) (tgt := 22) dX5_against_70 rfl ?_
          refine x_loc (lv' := [(0, vR v0), (1, vR v1), (2, vI (w32 (v2 + 1)))]) [1, 2, 0] rfl ?_
          exact ih (w32 (v2 + 1)) (w32_rng _)
        · refine x_aload_n (μ := mu_x5_against) (pc := 53) 0 dX5_against_53 rfl ?_
          refine x_fgr (μ := mu_x5_against) (pc := 54) fX5_3 (by first | exact Or.inl ⟨_, rfl⟩ | exact Or.inr ⟨_, rfl⟩) q384 dX5_against_54 hT3 ?_
          refine x_iload_n (μ := mu_x5_against) (pc := 57) 2 dX5_against_57 rfl ?_
          refine x_bald (μ := mu_x5_against) (pc := 58) dX5_against_58 hT7 rfl (fun hr11 => ?_)
          refine x_aload_n (μ := mu_x5_against) (pc := 59) 1 dX5_against_59 rfl ?_
          refine x_fgr (μ := mu_x5_against) (pc := 60) fX5_3 (by first | exact Or.inl ⟨_, rfl⟩ | exact Or.inr ⟨_, rfl⟩) q384 dX5_against_60 hT5 ?_
          refine x_iload_n (μ := mu_x5_against) (pc := 63) 2 dX5_against_63 rfl ?_
          refine x_bald (μ := mu_x5_against) (pc := 64) dX5_against_64 hT9 rfl (fun hr12 => ?_)
          refine x_isub (μ := mu_x5_against) (pc := 65) dX5_against_65 ?_
          refine x_w1 ?_
          exact x_iret (μ := mu_x5_against) (pc := 66) dX5_against_66 rfl rfl (gRel_E.1 _) (show g32 (w32 ((mI σ (mR σ v0 3) v2.toNat) - (mI σ (mR σ v1 3) v2.toNat))) from (w32_rng _))
def x5_against (N : Nat) (v0 : Nat) (v1 : Nat) (σ : gMem) : Option Int := if mT σ v0 = 5 then if mI σ v0 0 = 2 then x5_against_l22 N σ v0 v1 (if mT σ v1 = 5 then some (w32 ((mI σ v0 1) - (mI σ v1 1))) else none) N 0 else if mT σ v1 = 5 then (j15_compare (mL σ v0 2) (mL σ v1 2) σ).bind (fun x19 => some x19) else none else none
set_option maxRecDepth 100000 in
theorem ok_x5_against {ω : gW} {l : Launch} {d : Nat} {N : Nat} {σ : gMem} {v0 : Nat} {v1 : Nat} (hl : l.stackTraces = false) (hdp : 1 ≤ d) : gK (fun x : Int => (.inl (some (vI x)), σ)) gE ω l d mu_x5_against [vR v0, vR v1] σ (x5_against N v0 v1 σ) := by
  refine gK.of hp_X5 (Nat.le_of_ble_eq_true rfl) ?_
  unfold x5_against
  refine x_aload_n (μ := mu_x5_against) (pc := 0) 0 dX5_against_0 rfl ?_
  refine x_if (fun hT1 => ?_)
  refine x_fgi (μ := mu_x5_against) (pc := 1) fX5_0 q371 dX5_against_1 hT1 (fun hr2 => ?_)
  refine x_iconst (μ := mu_x5_against) (pc := 4) dX5_against_4 ?_
  refine x_icmp_eq (μ := mu_x5_against) (pc := 5) (tgt := 20) dX5_against_5 rfl hr2 (by decide) ?_ ?_
  · refine x_iconst (μ := mu_x5_against) (pc := 20) dX5_against_20 ?_
    refine x_istore_n (μ := mu_x5_against) (pc := 21) (lv' := [(2, vI 0), (0, vR v0), (1, vR v1)]) dX5_against_21 rfl (by decide) rfl ?_
    refine x_loc (lv' := [(0, vR v0), (1, vR v1), (2, vI 0)]) [1, 2, 0] rfl ?_
    refine okl_x5_against_l22 hl hdp ?_ N 0 (by decide)
    refine x_aload_n (μ := mu_x5_against) (pc := 73) 0 dX5_against_73 rfl ?_
    refine x_fgi (μ := mu_x5_against) (pc := 74) fX5_1 q376 dX5_against_74 hT1 (fun hr13 => ?_)
    refine x_aload_n (μ := mu_x5_against) (pc := 77) 1 dX5_against_77 rfl ?_
    refine x_if (fun hT14 => ?_)
    refine x_fgi (μ := mu_x5_against) (pc := 78) fX5_1 q376 dX5_against_78 hT14 (fun hr15 => ?_)
    refine x_isub (μ := mu_x5_against) (pc := 81) dX5_against_81 ?_
    refine x_w1 ?_
    exact x_iret (μ := mu_x5_against) (pc := 82) dX5_against_82 rfl rfl (gRel_E.1 _) (show g32 (w32 ((mI σ v0 1) - (mI σ v1 1))) from (w32_rng _))
  · refine x_aload_n (μ := mu_x5_against) (pc := 8) 0 dX5_against_8 rfl ?_
    refine x_fgl (μ := mu_x5_against) (pc := 9) fX5_2 q379 dX5_against_9 hT1 (fun hr16 => ?_)
    refine x_aload_n (μ := mu_x5_against) (pc := 12) 1 dX5_against_12 rfl ?_
    refine x_if (fun hT17 => ?_)
    refine x_fgl (μ := mu_x5_against) (pc := 13) fX5_2 q379 dX5_against_13 hT17 (fun hr18 => ?_)
    refine x_callS_pi (μ := mu_x5_against) (pc := 16) (ok_j15_compare (ω := ω) (l := l) (d := d - 1) hl (by omega) hr16 hr18) gRel_E gRel_E (fun _ q => q) q1102 q1103 q263 q1104 dX5_against_16 hy_j15_compare (by omega) (Nat.le_of_ble_eq_true rfl) rfl (Nat.le_of_ble_eq_true rfl) (fun x19 hr20 => ?_)
    exact x_iret (μ := mu_x5_against) (pc := 19) dX5_against_19 rfl rfl (gRel_E.1 _) (show g32 x19 from hr20)
