def x5_wantText_j56 (N : Nat) (v0 : Nat) (v1 : Int) (v3 : Int) (s : gMem) : Option gMem := if v3 ≠ 1 then some s else if mT s v0 = 5 then (x5_digits N v0 v1 s).bind (fun x12 => some x12) else none
set_option maxRecDepth 100000 in
theorem okj_x5_wantText_j56 {ω : gW} {l : Launch} {d : Nat} {N : Nat} {σ0 : gMem} {s : gMem} {v0 : Nat} {v1 : Int} {v3 : Int} (hl : l.stackTraces = false) (hdp : 6 ≤ d) (hv1 : g64 v1) (hv3 : g32 v3) : GG (fun p : gMem => (.inl none, p)) gE ω l d mu_x5_wantText σ0 56 [(0, vR v0), (1, vL v1), (3, vI v3)] [] s (x5_wantText_j56 N v0 v1 v3 s) := by
  unfold x5_wantText_j56
  refine x_iload_n (μ := mu_x5_wantText) (pc := 56) 2 dX5_wantText_56 rfl ?_
  refine x_iconst (μ := mu_x5_wantText) (pc := 57) dX5_wantText_57 ?_
  refine x_icmp_ne (μ := mu_x5_wantText) (pc := 58) (tgt := 66) dX5_wantText_58 rfl hv3 (by decide) ?_ ?_
  · exact x_vret (μ := mu_x5_wantText) (pc := 66) (a1 := s) dX5_wantText_66 rfl rfl (gRel_E.1 _) trivial
  · refine x_aload_n (μ := mu_x5_wantText) (pc := 61) 0 dX5_wantText_61 rfl ?_
    refine x_lload_n (μ := mu_x5_wantText) (pc := 62) 1 dX5_wantText_62 rfl ?_
    refine x_if (fun hT11 => ?_)
    refine x_callV_mv (μ := mu_x5_wantText) (pc := 63) (ok_x5_digits (ω := ω) (l := l) (d := d - 1) hl (by omega) hv1) gRel_E gRel_E (fun _ q => q) q1168 q1170 qs15 q225 q1171 dX5_wantText_63 rfl hT11 hy_x5_digits (by omega) (Nat.le_of_ble_eq_true rfl) rfl (Nat.le_of_ble_eq_true rfl) (fun x12 k13 => ?_)
    exact x_vret (μ := mu_x5_wantText) (pc := 66) (a1 := x12) dX5_wantText_66 rfl rfl (gRel_E.1 _) trivial
def x5_wantText_j53 (N : Nat) (v0 : Nat) (v1 : Int) (v3 : Int) (t0 : Nat) (t1 : Nat) (s : gMem) : Option gMem := if mT s t1 = 5 then (x5_spell N t1 t0 s).bind (fun x15 => x5_wantText_j56 N v0 v1 v3  x15) else none
set_option maxRecDepth 100000 in
theorem okj_x5_wantText_j53 {ω : gW} {l : Launch} {d : Nat} {N : Nat} {σ0 : gMem} {s : gMem} {v0 : Nat} {v1 : Int} {v3 : Int} {t0 : Nat} {t1 : Nat} (hl : l.stackTraces = false) (hdp : 6 ≤ d) (hv1 : g64 v1) (hv3 : g32 v3) : GG (fun p : gMem => (.inl none, p)) gE ω l d mu_x5_wantText σ0 53 [(0, vR v0), (1, vL v1), (3, vI v3)] [vR t0, vR t1] s (x5_wantText_j53 N v0 v1 v3 t0 t1 s) := by
  unfold x5_wantText_j53
  refine x_if (fun hT14 => ?_)
  refine x_callV_mv (μ := mu_x5_wantText) (pc := 53) (ok_x5_spell (ω := ω) (l := l) (d := d - 1) hl (by omega) ) gRel_E gRel_E (fun _ q => q) q1116 q1118 qs14 q225 q1119 dX5_wantText_53 rfl hT14 hy_x5_spell (by omega) (Nat.le_of_ble_eq_true rfl) rfl (Nat.le_of_ble_eq_true rfl) (fun x15 k16 => ?_)
  exact okj_x5_wantText_j56 hl hdp hv1 hv3
def x5_wantText (N : Nat) (v0 : Nat) (σ : gMem) : Option gMem := if mT σ v0 = 5 then if mI σ v0 0 ≠ 2 then gLet (wI σ v0 0 2) (fun s5 => gLet (wL s5 v0 2 (((0 : Fin 2) : Nat) : Int)) (fun s7 => gLet (wI s7 v0 1 0) (fun s9 => if mI σ v0 0 ≠ 3 then x5_wantText_j56 N v0 (mL σ v0 2) (mI σ v0 0)  s9 else if gcmp (mL σ v0 2) (((1 : Fin 2) : Nat) : Int) ≠ 0 then x5_wantText_j53 N v0 (mL σ v0 2) (mI σ v0 0) (mR s9 0 102) v0 s9 else x5_wantText_j53 N v0 (mL σ v0 2) (mI σ v0 0) (mR s9 0 101) v0 s9))) else some σ else none
set_option maxRecDepth 100000 in
theorem ok_x5_wantText {ω : gW} {l : Launch} {d : Nat} {N : Nat} {σ : gMem} {v0 : Nat} (hl : l.stackTraces = false) (hdp : 6 ≤ d) : gK (fun p : gMem => (.inl none, p)) gE ω l d mu_x5_wantText [vR v0] σ (x5_wantText N v0 σ) := by
  refine gK.of hp_X5 (Nat.le_of_ble_eq_true rfl) ?_
  unfold x5_wantText
  refine x_aload_n (μ := mu_x5_wantText) (pc := 0) 0 dX5_wantText_0 rfl ?_
  refine x_if (fun hT1 => ?_)
  refine x_fgi (μ := mu_x5_wantText) (pc := 1) fX5_0 q371 dX5_wantText_1 hT1 (fun hr2 => ?_)
  refine x_iconst (μ := mu_x5_wantText) (pc := 4) dX5_wantText_4 ?_
  refine x_icmp_ne (μ := mu_x5_wantText) (pc := 5) (tgt := 9) dX5_wantText_5 rfl hr2 (by decide) ?_ ?_
  · refine x_aload_n (μ := mu_x5_wantText) (pc := 9) 0 dX5_wantText_9 rfl ?_
    refine x_fgl (μ := mu_x5_wantText) (pc := 10) fX5_2 q379 dX5_wantText_10 hT1 (fun hr3 => ?_)
    refine x_lstore_n (μ := mu_x5_wantText) (pc := 13) (lv' := [(1, vL (mL σ v0 2)), (0, vR v0)]) dX5_wantText_13 rfl (by decide) rfl ?_
    refine x_aload_n (μ := mu_x5_wantText) (pc := 14) 1 dX5_wantText_14 rfl ?_
    refine x_fgi (μ := mu_x5_wantText) (pc := 15) fX5_0 q371 dX5_wantText_15 hT1 (fun hr4 => ?_)
    refine x_istore_n (μ := mu_x5_wantText) (pc := 18) (lv' := [(3, vI (mI σ v0 0)), (1, vL (mL σ v0 2)), (0, vR v0)]) dX5_wantText_18 rfl (by decide) rfl ?_
    refine x_aload_n (μ := mu_x5_wantText) (pc := 19) 2 dX5_wantText_19 rfl ?_
    refine x_iconst (μ := mu_x5_wantText) (pc := 20) dX5_wantText_20 ?_
    refine x_fpi (μ := mu_x5_wantText) (pc := 21) fX5_0 q371 dX5_wantText_21 hT1 (fun _ q => gE_wI q) ?_
    refine x_let (fun s5 e6 => ?_)
    refine x_aload_n (μ := mu_x5_wantText) (pc := 24) 2 dX5_wantText_24 rfl ?_
    refine x_lconst (μ := mu_x5_wantText) (pc := 25) dX5_wantText_25 ?_
    refine x_fpl (μ := mu_x5_wantText) (pc := 26) fX5_2 q379 dX5_wantText_26 (gT_I e6 hT1) (fun _ q => gE_wL q) ?_
    refine x_let (fun s7 e8 => ?_)
    refine x_aload_n (μ := mu_x5_wantText) (pc := 29) 2 dX5_wantText_29 rfl ?_
    refine x_iconst (μ := mu_x5_wantText) (pc := 30) dX5_wantText_30 ?_
    refine x_fpi (μ := mu_x5_wantText) (pc := 31) fX5_1 q376 dX5_wantText_31 (gT_L e8 (gT_I e6 hT1)) (fun _ q => gE_wI q) ?_
    refine x_let (fun s9 e10 => ?_)
    refine x_iload_n (μ := mu_x5_wantText) (pc := 34) 0 dX5_wantText_34 rfl ?_
    refine x_iconst (μ := mu_x5_wantText) (pc := 35) dX5_wantText_35 ?_
    refine x_icmp_ne (μ := mu_x5_wantText) (pc := 36) (tgt := 56) dX5_wantText_36 rfl hr4 (by decide) ?_ ?_
    · refine x_loc (lv' := [(0, vR v0), (1, vL (mL σ v0 2)), (3, vI (mI σ v0 0))]) [2, 1, 0] rfl ?_
      exact okj_x5_wantText_j56 hl hdp hr3 hr4
    · refine x_aload_n (μ := mu_x5_wantText) (pc := 39) 2 dX5_wantText_39 rfl ?_
      refine x_lload_n (μ := mu_x5_wantText) (pc := 40) 1 dX5_wantText_40 rfl ?_
      refine x_lconst (μ := mu_x5_wantText) (pc := 41) dX5_wantText_41 ?_
      refine x_lcmp (μ := mu_x5_wantText) (pc := 42) dX5_wantText_42 hr3 (by decide) ?_
      refine x_if_ne (μ := mu_x5_wantText) (pc := 43) (tgt := 51) dX5_wantText_43 rfl (gcmp_rng _ _) ?_ ?_
      · refine x_ldcS (μ := mu_x5_wantText) (pc := 51) (j := 102) (List.mem_of_getElem? (i := 11) rfl) dX5_wantText_51 ?_
        refine x_loc (lv' := [(0, vR v0), (1, vL (mL σ v0 2)), (3, vI (mI σ v0 0))]) [2, 1, 0] rfl ?_
        exact okj_x5_wantText_j53 hl hdp hr3 hr4
      · refine x_ldcS (μ := mu_x5_wantText) (pc := 46) (j := 101) (List.mem_of_getElem? (i := 7) rfl) dX5_wantText_46 ?_
        refine x_goto (μ := mu_x5_wantText) (pc := 48) (tgt := 53) dX5_wantText_48 rfl ?_
        refine x_loc (lv' := [(0, vR v0), (1, vL (mL σ v0 2)), (3, vI (mI σ v0 0))]) [2, 1, 0] rfl ?_
        exact okj_x5_wantText_j53 hl hdp hr3 hr4
  · exact x_vret (μ := mu_x5_wantText) (pc := 8) (a1 := σ) dX5_wantText_8 rfl rfl (gRel_E.1 _) trivial
def x6_init (v0 : Nat) (v1 : Nat) (σ : gMem) : Option gMem := if mT σ v0 = 6 then if 0 ≤ (400 : Int) ∧ (400 : Int) < 1000000 then gLet (wN σ 108 (400 : Int).toNat) (fun s4 => gLet (wR s4 v0 9 (mZ σ)) (fun s6 => (x7_values s6).bind (fun x8 => gLet (wR (x8.2) v0 10 (x8.1)) (fun s10 => gLet (wR s10 v0 0 v1) (fun s12 => some s12))))) else none else none
set_option maxRecDepth 100000 in
theorem ok_x6_init {ω : gW} {l : Launch} {d : Nat} {σ : gMem} {v0 : Nat} {v1 : Nat} (hl : l.stackTraces = false) (hdp : 2 ≤ d) : gK (fun p : gMem => (.inl none, p)) gE ω l d mu_x6_init [vR v0, vR v1] σ (x6_init v0 v1 σ) := by
  refine gK.of hp_X6 (Nat.le_of_ble_eq_true rfl) ?_
  unfold x6_init
  refine x_aload_n (μ := mu_x6_init) (pc := 0) 0 dX6_init_0 rfl ?_
  refine x_if (fun hT1 => ?_)
  refine x_objI (μ := mu_x6_init) (pc := 1) (ci := 5) rfl q465 dX6_init_1 hT1 (by omega) (Nat.le_of_ble_eq_true rfl) ?_
  refine x_aload_n (μ := mu_x6_init) (pc := 4) 0 dX6_init_4 rfl ?_
  refine x_sipush (μ := mu_x6_init) (pc := 5) dX6_init_5 (by decide) ?_
  refine x_if (fun hg2 => ?_)
  refine x_ok (fun ok3 => ?_)
  refine x_anew (μ := mu_x6_init) (pc := 8) 8 (fun _ => rfl) rfl (by decide) q466 dX6_init_8 hg2 ?_
  refine x_let (fun s4 e5 => ?_)
  refine x_fprF (μ := mu_x6_init) (pc := 11) fX6_9 q490 rfl rfl (by first | exact Or.inl ⟨_, rfl⟩ | exact Or.inr ⟨_, rfl⟩) dX6_init_11 (gT_N e5 ok3 hT1 (by decide)) (fun _ q => gE_wR q) ?_
  refine x_let (fun s6 e7 => ?_)
  refine x_aload_n (μ := mu_x6_init) (pc := 14) 0 dX6_init_14 rfl ?_
  refine x_callS_mr (μ := mu_x6_init) (pc := 15) (ok_x7_values (ω := ω) (l := l) (d := d - 1) hl (by omega) ) gRel_E gRel_E (fun _ q => q) q468 q469 q228 q470 dX6_init_15 hy_x7_values (by omega) (Nat.le_of_ble_eq_true rfl) rfl (Nat.le_of_ble_eq_true rfl) (fun x8 k9 => ?_)
  refine x_fprF (μ := mu_x6_init) (pc := 18) fX6_10 q491 rfl rfl (by first | exact Or.inl ⟨_, rfl⟩ | exact Or.inr ⟨_, rfl⟩) dX6_init_18 (gT_E k9 (gT_R e7 (gT_N e5 ok3 hT1 (by decide))) (by decide)) (fun _ q => gE_wR q) ?_
  refine x_let (fun s10 e11 => ?_)
  refine x_aload_n (μ := mu_x6_init) (pc := 21) 0 dX6_init_21 rfl ?_
  refine x_aload_n (μ := mu_x6_init) (pc := 22) 1 dX6_init_22 rfl ?_
  refine x_fprF (μ := mu_x6_init) (pc := 23) fX6_0 q481 rfl rfl (by first | exact Or.inl ⟨_, rfl⟩ | exact Or.inr ⟨_, rfl⟩) dX6_init_23 (gT_R e11 (gT_E k9 (gT_R e7 (gT_N e5 ok3 hT1 (by decide))) (by decide))) (fun _ q => gE_wR q) ?_
  refine x_let (fun s12 e13 => ?_)
  exact x_vret (μ := mu_x6_init) (pc := 26) (a1 := s12) dX6_init_26 rfl rfl (gRel_E.1 _) trivial
def x6_isWhole_l43 (N : Nat) (σ : gMem) (v0 : Nat) (v2 : Int) (K : Int → Option Int) : Nat → Int → Int → Option Int
  | 0, _, _ => none
  | n + 1, v3, v4 => if v4 = 0 then K v4 else if v2 ≤ v3 then K v4 else if mT σ v0 = 102 then if 0 ≤ v3 ∧ v3 < (mN σ v0 : Int) then (x6_isDigit (mI σ v0 v3.toNat) σ).bind (fun x3 => x6_isWhole_l43 N σ v0 v2 K n (w32 (v3 + 1)) x3) else none else none
set_option maxRecDepth 100000 in
theorem okl_x6_isWhole_l43 {ω : gW} {l : Launch} {d : Nat} {N : Nat} {σ : gMem} {v0 : Nat} {v2 : Int} {K : Int → Option Int} (hl : l.stackTraces = false) (hdp : 1 ≤ d) (hv2 : g32 v2) (hK : ∀ (v4 : Int) , g32 v4 → GG (fun x : Int => (.inl (some (vI x)), σ)) gE ω l d mu_x6_isWhole σ 67 [(4, vI v4)] [] σ (K v4)) : ∀ (n : Nat) (v3 : Int) (v4 : Int) , g32 v3 → g32 v4 → GG (fun x : Int => (.inl (some (vI x)), σ)) gE ω l d mu_x6_isWhole σ 43 [(0, vR v0), (2, vI v2), (3, vI v3), (4, vI v4)] [] σ (x6_isWhole_l43 N σ v0 v2 K n v3 v4) := by
  intro n
  induction n with
  | zero => intros; exact x_none
  | succ n ih =>
    intro v3 v4 hv3 hv4
    unfold x6_isWhole_l43
    refine x_iload (μ := mu_x6_isWhole) (pc := 43) 3 dX6_isWhole_43 rfl ?_
    refine x_if_eq (μ := mu_x6_isWhole) (pc := 45) (tgt := 67) dX6_isWhole_45 rfl hv4 ?_ ?_
    · refine x_loc (lv' := [(4, vI v4)]) [3] rfl ?_
      exact hK v4 hv4
    · refine x_iload_n (μ := mu_x6_isWhole) (pc := 48) 2 dX6_isWhole_48 rfl ?_
      refine x_iload_n (μ := mu_x6_isWhole) (pc := 49) 1 dX6_isWhole_49 rfl ?_
      refine x_icmp_ge (μ := mu_x6_isWhole) (pc := 50) (tgt := 67) dX6_isWhole_50 rfl hv3 hv2 ?_ ?_
      · refine x_loc (lv' := [(4, vI v4)]) [3] rfl ?_
        exact hK v4 hv4
      · refine x_aload_n (μ := mu_x6_isWhole) (pc := 53) 0 dX6_isWhole_53 rfl ?_
        refine x_iload_n (μ := mu_x6_isWhole) (pc := 54) 2 dX6_isWhole_54 rfl ?_
        refine x_if (fun hT1 => ?_)
        refine x_bald (μ := mu_x6_isWhole) (pc := 55) dX6_isWhole_55 hT1 rfl (fun hr2 => ?_)
        refine x_callS_pi (μ := mu_x6_isWhole) (pc := 56) (ok_x6_isDigit (ω := ω) (l := l) (d := d - 1) hl (by omega) hr2) gRel_E gRel_E (fun _ q => q) q1537 q1538 q226 q1539 dX6_isWhole_56 hy_x6_isDigit (by omega) (Nat.le_of_ble_eq_true rfl) rfl (Nat.le_of_ble_eq_true rfl) (fun x3 hr4 => ?_)
        refine x_istore (μ := mu_x6_isWhole) (pc := 59) (lv' := [(4, vI x3), (0, vR v0), (2, vI v2), (3, vI v3)]) dX6_isWhole_59 (by decide) rfl ?_
        refine x_iincw (μ := mu_x6_isWhole) (pc := 61) (lv' := [(3, vI (w32 (v3 + 1))), (4, vI x3), (0, vR v0), (2, vI v2)]) 3 dX6_isWhole_61 rfl (by decide) rfl ?_
        refine x_goto (μ := mu_x6_isWhole) (pc := 64) (tgt := 43) dX6_isWhole_64 rfl ?_
        refine x_loc (lv' := [(0, vR v0), (2, vI v2), (3, vI (w32 (v3 + 1))), (4, vI x3)]) [2, 3, 0, 1] rfl ?_
        exact ih (w32 (v3 + 1)) x3 (w32_rng _) hr4
def x6_isWhole_j41 (N : Nat) (σ : gMem) (v0 : Nat) (v2 : Int) (v3 : Int) (t0 : Int) : Option Int := x6_isWhole_l43 N σ v0 v2 (fun y5 => if y5 = 0 ∨ y5 = 1 then some y5 else none) N v3 t0
set_option maxRecDepth 100000 in
theorem okj_x6_isWhole_j41 {ω : gW} {l : Launch} {d : Nat} {N : Nat} {σ : gMem} {v0 : Nat} {v2 : Int} {v3 : Int} {t0 : Int} (hl : l.stackTraces = false) (hdp : 1 ≤ d) (hv2 : g32 v2) (hv3 : g32 v3) (ht0 : g32 t0) : GG (fun x : Int => (.inl (some (vI x)), σ)) gE ω l d mu_x6_isWhole σ 41 [(0, vR v0), (2, vI v2), (3, vI v3)] [vI t0] σ (x6_isWhole_j41 N σ v0 v2 v3 t0 ) := by
  unfold x6_isWhole_j41
  refine x_istore (μ := mu_x6_isWhole) (pc := 41) (lv' := [(4, vI t0), (0, vR v0), (2, vI v2), (3, vI v3)]) dX6_isWhole_41 (by decide) rfl ?_
  refine x_loc (lv' := [(0, vR v0), (2, vI v2), (3, vI v3), (4, vI t0)]) [1, 2, 3, 0] rfl ?_
  refine okl_x6_isWhole_l43 hl hdp hv2 (fun y5 hy5 => ?_) N v3 t0 hv3 ht0
  refine x_iload (μ := mu_x6_isWhole) (pc := 67) 0 dX6_isWhole_67 rfl ?_
  exact x_if (μ := mu_x6_isWhole) (pc := 69) (fun hz => x_zret dX6_isWhole_69 rfl hz rfl (gRel_E.1 _) (show g32 y5 from hy5))
def x6_isWhole_j40 (N : Nat) (σ : gMem) (v0 : Nat) (v2 : Int) (v3 : Int) : Option Int := x6_isWhole_j41 N σ v0 v2 v3 0
set_option maxRecDepth 100000 in
theorem okj_x6_isWhole_j40 {ω : gW} {l : Launch} {d : Nat} {N : Nat} {σ : gMem} {v0 : Nat} {v2 : Int} {v3 : Int} (hl : l.stackTraces = false) (hdp : 1 ≤ d) (hv2 : g32 v2) (hv3 : g32 v3) : GG (fun x : Int => (.inl (some (vI x)), σ)) gE ω l d mu_x6_isWhole σ 40 [(0, vR v0), (2, vI v2), (3, vI v3)] [] σ (x6_isWhole_j40 N σ v0 v2 v3 ) := by
  unfold x6_isWhole_j40
  refine x_iconst (μ := mu_x6_isWhole) (pc := 40) dX6_isWhole_40 ?_
  exact okj_x6_isWhole_j41 hl hdp hv2 hv3 (by decide)
def x6_isWhole_j20 (N : Nat) (σ : gMem) (v0 : Nat) (v2 : Int) (t0 : Int) : Option Int := if w32 (v2 - t0) < 1 then x6_isWhole_j40 N σ v0 v2 t0  else if 15 < w32 (v2 - t0) then x6_isWhole_j40 N σ v0 v2 t0  else x6_isWhole_j41 N σ v0 v2 t0 1
set_option maxRecDepth 100000 in
theorem okj_x6_isWhole_j20 {ω : gW} {l : Launch} {d : Nat} {N : Nat} {σ : gMem} {v0 : Nat} {v2 : Int} {t0 : Int} (hl : l.stackTraces = false) (hdp : 1 ≤ d) (hv2 : g32 v2) (ht0 : g32 t0) : GG (fun x : Int => (.inl (some (vI x)), σ)) gE ω l d mu_x6_isWhole σ 20 [(0, vR v0), (2, vI v2)] [vI t0] σ (x6_isWhole_j20 N σ v0 v2 t0 ) := by
  unfold x6_isWhole_j20
  refine x_istore_n (μ := mu_x6_isWhole) (pc := 20) (lv' := [(3, vI t0), (0, vR v0), (2, vI v2)]) dX6_isWhole_20 rfl (by decide) rfl ?_
  refine x_iload_n (μ := mu_x6_isWhole) (pc := 21) 2 dX6_isWhole_21 rfl ?_
  refine x_iload_n (μ := mu_x6_isWhole) (pc := 22) 0 dX6_isWhole_22 rfl ?_
  refine x_isub (μ := mu_x6_isWhole) (pc := 23) dX6_isWhole_23 ?_
  refine x_iconst (μ := mu_x6_isWhole) (pc := 24) dX6_isWhole_24 ?_
  refine x_w2 ?_
  refine x_icmp_lt (μ := mu_x6_isWhole) (pc := 25) (tgt := 40) dX6_isWhole_25 rfl (w32_rng _) (by decide) ?_ ?_
  · refine x_loc (lv' := [(0, vR v0), (2, vI v2), (3, vI t0)]) [1, 2, 0] rfl ?_
    exact okj_x6_isWhole_j40 hl hdp hv2 ht0
  · refine x_iload_n (μ := mu_x6_isWhole) (pc := 28) 2 dX6_isWhole_28 rfl ?_
    refine x_iload_n (μ := mu_x6_isWhole) (pc := 29) 0 dX6_isWhole_29 rfl ?_
    refine x_isub (μ := mu_x6_isWhole) (pc := 30) dX6_isWhole_30 ?_
    refine x_bipush (μ := mu_x6_isWhole) (pc := 31) dX6_isWhole_31 (by decide) ?_
    refine x_w2 ?_
    refine x_icmp_gt (μ := mu_x6_isWhole) (pc := 33) (tgt := 40) dX6_isWhole_33 rfl (w32_rng _) (by decide) ?_ ?_
    · refine x_loc (lv' := [(0, vR v0), (2, vI v2), (3, vI t0)]) [1, 2, 0] rfl ?_
      exact okj_x6_isWhole_j40 hl hdp hv2 ht0
    · refine x_iconst (μ := mu_x6_isWhole) (pc := 36) dX6_isWhole_36 ?_
      refine x_goto (μ := mu_x6_isWhole) (pc := 37) (tgt := 41) dX6_isWhole_37 rfl ?_
      refine x_loc (lv' := [(0, vR v0), (2, vI v2), (3, vI t0)]) [1, 2, 0] rfl ?_
      exact okj_x6_isWhole_j41 hl hdp hv2 ht0 (by decide)
def x6_isWhole_j19 (N : Nat) (σ : gMem) (v0 : Nat) (v1 : Int) (v2 : Int) : Option Int := x6_isWhole_j20 N σ v0 v2 v1
set_option maxRecDepth 100000 in
theorem okj_x6_isWhole_j19 {ω : gW} {l : Launch} {d : Nat} {N : Nat} {σ : gMem} {v0 : Nat} {v1 : Int} {v2 : Int} (hl : l.stackTraces = false) (hdp : 1 ≤ d) (hv1 : g32 v1) (hv2 : g32 v2) : GG (fun x : Int => (.inl (some (vI x)), σ)) gE ω l d mu_x6_isWhole σ 19 [(0, vR v0), (1, vI v1), (2, vI v2)] [] σ (x6_isWhole_j19 N σ v0 v1 v2 ) := by
  unfold x6_isWhole_j19
  refine x_iload_n (μ := mu_x6_isWhole) (pc := 19) 1 dX6_isWhole_19 rfl ?_
  refine x_loc (lv' := [(0, vR v0), (2, vI v2)]) [0, 2] rfl ?_
  exact okj_x6_isWhole_j20 hl hdp hv2 hv1
def x6_isWhole (N : Nat) (v0 : Nat) (v1 : Int) (v2 : Int) (σ : gMem) : Option Int := if v2 ≤ v1 then x6_isWhole_j19 N σ v0 v1 v2  else if mT σ v0 = 102 then if 0 ≤ v1 ∧ v1 < (mN σ v0 : Int) then if mI σ v0 v1.toNat ≠ 45 then x6_isWhole_j19 N σ v0 v1 v2  else x6_isWhole_j20 N σ v0 v2 (w32 (v1 + 1)) else none else none
set_option maxRecDepth 100000 in
theorem ok_x6_isWhole {ω : gW} {l : Launch} {d : Nat} {N : Nat} {σ : gMem} {v0 : Nat} {v1 : Int} {v2 : Int} (hl : l.stackTraces = false) (hdp : 1 ≤ d) (hv1 : g32 v1) (hv2 : g32 v2) : gK (fun x : Int => (.inl (some (vI x)), σ)) gE ω l d mu_x6_isWhole [vR v0, vI v1, vI v2] σ (x6_isWhole N v0 v1 v2 σ) := by
  refine gK.of hp_X6 (Nat.le_of_ble_eq_true rfl) ?_
  unfold x6_isWhole
  refine x_iload_n (μ := mu_x6_isWhole) (pc := 0) 1 dX6_isWhole_0 rfl ?_
  refine x_iload_n (μ := mu_x6_isWhole) (pc := 1) 2 dX6_isWhole_1 rfl ?_
  refine x_icmp_ge (μ := mu_x6_isWhole) (pc := 2) (tgt := 19) dX6_isWhole_2 rfl hv1 hv2 ?_ ?_
  · exact okj_x6_isWhole_j19 hl hdp hv1 hv2
  · refine x_aload_n (μ := mu_x6_isWhole) (pc := 5) 0 dX6_isWhole_5 rfl ?_
    refine x_iload_n (μ := mu_x6_isWhole) (pc := 6) 1 dX6_isWhole_6 rfl ?_
    refine x_if (fun hT6 => ?_)
    refine x_bald (μ := mu_x6_isWhole) (pc := 7) dX6_isWhole_7 hT6 rfl (fun hr7 => ?_)
    refine x_bipush (μ := mu_x6_isWhole) (pc := 8) dX6_isWhole_8 (by decide) ?_
    refine x_icmp_ne (μ := mu_x6_isWhole) (pc := 10) (tgt := 19) dX6_isWhole_10 rfl hr7 (by decide) ?_ ?_
    · exact okj_x6_isWhole_j19 hl hdp hv1 hv2
    · refine x_iload_n (μ := mu_x6_isWhole) (pc := 13) 1 dX6_isWhole_13 rfl ?_
      refine x_iconst (μ := mu_x6_isWhole) (pc := 14) dX6_isWhole_14 ?_
      refine x_iadd (μ := mu_x6_isWhole) (pc := 15) dX6_isWhole_15 ?_
      refine x_goto (μ := mu_x6_isWhole) (pc := 16) (tgt := 20) dX6_isWhole_16 rfl ?_
      refine x_w1 ?_
      refine x_loc (lv' := [(0, vR v0), (2, vI v2)]) [0, 2] rfl ?_
      exact okj_x6_isWhole_j20 hl hdp hv2 (w32_rng _)
def x6_isTruth (N : Nat) (v0 : Nat) (v1 : Int) (v2 : Int) (σ : gMem) : Option Int := (x6_spells N v0 v1 v2 (mR σ 0 101) σ).bind (fun x1 => if x1 ≠ 0 then some 1 else (x6_spells N v0 v1 v2 (mR σ 0 102) σ).bind (fun x3 => if x3 = 0 then some 0 else some 1))
set_option maxRecDepth 100000 in
theorem ok_x6_isTruth {ω : gW} {l : Launch} {d : Nat} {N : Nat} {σ : gMem} {v0 : Nat} {v1 : Int} {v2 : Int} (hl : l.stackTraces = false) (hdp : 6 ≤ d) (hv1 : g32 v1) (hv2 : g32 v2) : gK (fun x : Int => (.inl (some (vI x)), σ)) gE ω l d mu_x6_isTruth [vR v0, vI v1, vI v2] σ (x6_isTruth N v0 v1 v2 σ) := by
  refine gK.of hp_X6 (Nat.le_of_ble_eq_true rfl) ?_
  unfold x6_isTruth
  refine x_aload_n (μ := mu_x6_isTruth) (pc := 0) 0 dX6_isTruth_0 rfl ?_
  refine x_iload_n (μ := mu_x6_isTruth) (pc := 1) 1 dX6_isTruth_1 rfl ?_
  refine x_iload_n (μ := mu_x6_isTruth) (pc := 2) 2 dX6_isTruth_2 rfl ?_
  refine x_ldcS (μ := mu_x6_isTruth) (pc := 3) (j := 101) (List.mem_of_getElem? (i := 5) rfl) dX6_isTruth_3 ?_
  refine x_callS_pi (μ := mu_x6_isTruth) (pc := 5) (ok_x6_spells (ω := ω) (l := l) (d := d - 1) hl (by omega) hv1 hv2) gRel_E gRel_E (fun _ q => q) q1544 q1545 q226 q1546 dX6_isTruth_5 hy_x6_spells (by omega) (Nat.le_of_ble_eq_true rfl) rfl (Nat.le_of_ble_eq_true rfl) (fun x1 hr2 => ?_)
  refine x_if_ne (μ := mu_x6_isTruth) (pc := 8) (tgt := 22) dX6_isTruth_8 rfl hr2 ?_ ?_
  · refine x_iconst (μ := mu_x6_isTruth) (pc := 22) dX6_isTruth_22 ?_
    refine x_goto (μ := mu_x6_isTruth) (pc := 23) (tgt := 27) dX6_isTruth_23 rfl ?_
    exact x_zret (μ := mu_x6_isTruth) (pc := 27) dX6_isTruth_27 rfl (by decide) rfl (gRel_E.1 _) (show g32 1 from (by decide))
  · refine x_aload_n (μ := mu_x6_isTruth) (pc := 11) 0 dX6_isTruth_11 rfl ?_
    refine x_iload_n (μ := mu_x6_isTruth) (pc := 12) 1 dX6_isTruth_12 rfl ?_
    refine x_iload_n (μ := mu_x6_isTruth) (pc := 13) 2 dX6_isTruth_13 rfl ?_
    refine x_ldcS (μ := mu_x6_isTruth) (pc := 14) (j := 102) (List.mem_of_getElem? (i := 9) rfl) dX6_isTruth_14 ?_
    refine x_callS_pi (μ := mu_x6_isTruth) (pc := 16) (ok_x6_spells (ω := ω) (l := l) (d := d - 1) hl (by omega) hv1 hv2) gRel_E gRel_E (fun _ q => q) q1544 q1545 q226 q1546 dX6_isTruth_16 hy_x6_spells (by omega) (Nat.le_of_ble_eq_true rfl) rfl (Nat.le_of_ble_eq_true rfl) (fun x3 hr4 => ?_)
    refine x_if_eq (μ := mu_x6_isTruth) (pc := 19) (tgt := 26) dX6_isTruth_19 rfl hr4 ?_ ?_
    · refine x_iconst (μ := mu_x6_isTruth) (pc := 26) dX6_isTruth_26 ?_
      exact x_zret (μ := mu_x6_isTruth) (pc := 27) dX6_isTruth_27 rfl (by decide) rfl (gRel_E.1 _) (show g32 0 from (by decide))
    · refine x_iconst (μ := mu_x6_isTruth) (pc := 22) dX6_isTruth_22 ?_
      refine x_goto (μ := mu_x6_isTruth) (pc := 23) (tgt := 27) dX6_isTruth_23 rfl ?_
      exact x_zret (μ := mu_x6_isTruth) (pc := 27) dX6_isTruth_27 rfl (by decide) rfl (gRel_E.1 _) (show g32 1 from (by decide))
def x6_peek_l0 (N : Nat) (v0 : Nat) (K : gMem → Option (Int × gMem)) : Nat → gMem → Option (Int × gMem)
  | 0, _ => none
  | n + 1, s => if mT s v0 = 6 then if mI s v0 5 ≤ mI s v0 6 then K s else if mT s (mR s v0 3) = 102 then if 0 ≤ (mI s v0 6) ∧ (mI s v0 6) < (mN s (mR s v0 3) : Int) then if mI s (mR s v0 3) (mI s v0 6).toNat ≠ 32 then K s else gLet (wI s v0 6 (w32 ((mI s v0 6) + 1))) (fun s23 => x6_peek_l0 N v0 K n s23) else none else none else none
set_option maxRecDepth 100000 in
theorem okl_x6_peek_l0 {ω : gW} {l : Launch} {d : Nat} {N : Nat} {σ0 : gMem} {v0 : Nat} {K : gMem → Option (Int × gMem)} (hl : l.stackTraces = false) (hdp : 1 ≤ d) (hK : ∀ (s : gMem) , GG (fun p : Int × gMem => (.inl (some (vI p.1)), p.2)) gE ω l d mu_x6_peek σ0 38 [(0, vR v0)] [] s (K s)) : ∀ (n : Nat) (s : gMem) , GG (fun p : Int × gMem => (.inl (some (vI p.1)), p.2)) gE ω l d mu_x6_peek σ0 0 [(0, vR v0)] [] s (x6_peek_l0 N v0 K n s) := by
  intro n
  induction n with
  | zero => intros; exact x_none
  | succ n ih =>
    intro s
    unfold x6_peek_l0
    refine x_aload_n (μ := mu_x6_peek) (pc := 0) 0 dX6_peek_0 rfl ?_
    refine x_if (fun hT16 => ?_)
    refine x_fgi (μ := mu_x6_peek) (pc := 1) fX6_6 q487 dX6_peek_1 hT16 (fun hr17 => ?_)
    refine x_aload_n (μ := mu_x6_peek) (pc := 4) 0 dX6_peek_4 rfl ?_
    refine x_fgi (μ := mu_x6_peek) (pc := 5) fX6_5 q486 dX6_peek_5 hT16 (fun hr18 => ?_)
    refine x_icmp_ge (μ := mu_x6_peek) (pc := 8) (tgt := 38) dX6_peek_8 rfl hr17 hr18 ?_ ?_
    · exact hK s
    · refine x_aload_n (μ := mu_x6_peek) (pc := 11) 0 dX6_peek_11 rfl ?_
      refine x_fgr (μ := mu_x6_peek) (pc := 12) fX6_3 (by first | exact Or.inl ⟨_, rfl⟩ | exact Or.inr ⟨_, rfl⟩) q484 dX6_peek_12 hT16 ?_
      refine x_aload_n (μ := mu_x6_peek) (pc := 15) 0 dX6_peek_15 rfl ?_
      refine x_fgi (μ := mu_x6_peek) (pc := 16) fX6_6 q487 dX6_peek_16 hT16 (fun hr19 => ?_)
      refine x_if (fun hT20 => ?_)
      refine x_bald (μ := mu_x6_peek) (pc := 19) dX6_peek_19 hT20 rfl (fun hr21 => ?_)
      refine x_bipush (μ := mu_x6_peek) (pc := 20) dX6_peek_20 (by decide) ?_
      refine x_icmp_ne (μ := mu_x6_peek) (pc := 22) (tgt := 38) dX6_peek_22 rfl hr21 (by decide) ?_ ?_
      · exact hK s
      · refine x_aload_n (μ := mu_x6_peek) (pc := 25) 0 dX6_peek_25 rfl ?_
        refine x_dup (μ := mu_x6_peek) (pc := 26) dX6_peek_26 rfl ?_
        refine x_fgi (μ := mu_x6_peek) (pc := 27) fX6_6 q487 dX6_peek_27 hT16 (fun hr22 => ?_)
        refine x_iconst (μ := mu_x6_peek) (pc := 30) dX6_peek_30 ?_
        refine x_iadd (μ := mu_x6_peek) (pc := 31) dX6_peek_31 ?_
        refine x_w1 ?_
        refine x_fpi (μ := mu_x6_peek) (pc := 32) fX6_6 q487 dX6_peek_32 hT16 (fun _ q => gE_wI q) ?_
        refine x_let (fun s23 e24 => ?_)
        refine x_goto (μ := mu_x6_peek) (pc := 35) (tgt := 0) dX6_peek_35 rfl ?_
        exact ih s23
def x6_peek (N : Nat) (v0 : Nat) (σ : gMem) : Option (Int × gMem) := if mT σ v0 = 6 then if mI σ v0 5 ≤ mI σ v0 6 then (x6_here v0 (mI σ v0 6) σ).bind (fun x5 => some (x5, σ)) else if mT σ (mR σ v0 3) = 102 then if 0 ≤ (mI σ v0 6) ∧ (mI σ v0 6) < (mN σ (mR σ v0 3) : Int) then if mI σ (mR σ v0 3) (mI σ v0 6).toNat ≠ 32 then (x6_here v0 (mI σ v0 6) σ).bind (fun x11 => some (x11, σ)) else gLet (wI σ v0 6 (w32 ((mI σ v0 6) + 1))) (fun s14 => x6_peek_l0 N v0 (fun s25 => if mT s25 v0 = 6 then (x6_here v0 (mI s25 v0 6) s25).bind (fun x28 => some (x28, s25)) else none) N s14) else none else none else none
set_option maxRecDepth 100000 in
theorem ok_x6_peek {ω : gW} {l : Launch} {d : Nat} {N : Nat} {σ : gMem} {v0 : Nat} (hl : l.stackTraces = false) (hdp : 1 ≤ d) : gK (fun p : Int × gMem => (.inl (some (vI p.1)), p.2)) gE ω l d mu_x6_peek [vR v0] σ (x6_peek N v0 σ) := by
  refine gK.of hp_X6 (Nat.le_of_ble_eq_true rfl) ?_
  unfold x6_peek
  refine x_aload_n (μ := mu_x6_peek) (pc := 0) 0 dX6_peek_0 rfl ?_
  refine x_if (fun hT1 => ?_)
  refine x_fgi (μ := mu_x6_peek) (pc := 1) fX6_6 q487 dX6_peek_1 hT1 (fun hr2 => ?_)
  refine x_aload_n (μ := mu_x6_peek) (pc := 4) 0 dX6_peek_4 rfl ?_
  refine x_fgi (μ := mu_x6_peek) (pc := 5) fX6_5 q486 dX6_peek_5 hT1 (fun hr3 => ?_)
  refine x_icmp_ge (μ := mu_x6_peek) (pc := 8) (tgt := 38) dX6_peek_8 rfl hr2 hr3 ?_ ?_
  · refine x_aload_n (μ := mu_x6_peek) (pc := 38) 0 dX6_peek_38 rfl ?_
    refine x_aload_n (μ := mu_x6_peek) (pc := 39) 0 dX6_peek_39 rfl ?_
    refine x_fgi (μ := mu_x6_peek) (pc := 40) fX6_6 q487 dX6_peek_40 hT1 (fun hr4 => ?_)
    refine x_callV_pi (μ := mu_x6_peek) (pc := 43) (ok_x6_here (ω := ω) (l := l) (d := d - 1) hl (by omega) hr4) gRel_E gRel_E (fun _ q => q) q1815 q1817 qs35 q226 q1818 dX6_peek_43 rfl hT1 hy_x6_here (by omega) (Nat.le_of_ble_eq_true rfl) rfl (Nat.le_of_ble_eq_true rfl) (fun x5 hr6 => ?_)
    exact x_iret (μ := mu_x6_peek) (pc := 46) dX6_peek_46 rfl rfl (gRel_E.1 _) (show g32 x5 from hr6)
  · refine x_aload_n (μ := mu_x6_peek) (pc := 11) 0 dX6_peek_11 rfl ?_
    refine x_fgr (μ := mu_x6_peek) (pc := 12) fX6_3 (by first | exact Or.inl ⟨_, rfl⟩ | exact Or.inr ⟨_, rfl⟩) q484 dX6_peek_12 hT1 ?_
    refine x_aload_n (μ := mu_x6_peek) (pc := 15) 0 dX6_peek_15 rfl ?_
    refine x_fgi (μ := mu_x6_peek) (pc := 16) fX6_6 q487 dX6_peek_16 hT1 (fun hr7 => ?_)
    refine x_if (fun hT8 => ?_)
    refine x_bald (μ := mu_x6_peek) (pc := 19) dX6_peek_19 hT8 rfl (fun hr9 => ?_)
    refine x_bipush (μ := mu_x6_peek) (pc := 20) dX6_peek_20 (by decide) ?_
    refine x_icmp_ne (μ := mu_x6_peek) (pc := 22) (tgt := 38) dX6_peek_22 rfl hr9 (by decide) ?_ ?_
    · refine x_aload_n (μ := mu_x6_peek) (pc := 38) 0 dX6_peek_38 rfl ?_
      refine x_aload_n (μ := mu_x6_peek) (pc := 39) 0 dX6_peek_39 rfl ?_
      refine x_fgi (μ := mu_x6_peek) (pc := 40) fX6_6 q487 dX6_peek_40 hT1 (fun hr10 => ?_)
      refine x_callV_pi (μ := mu_x6_peek) (pc := 43) (ok_x6_here (ω := ω) (l := l) (d := d - 1) hl (by omega) hr10) gRel_E gRel_E (fun _ q => q) q1815 q1817 qs35 q226 q1818 dX6_peek_43 rfl hT1 hy_x6_here (by omega) (Nat.le_of_ble_eq_true rfl) rfl (Nat.le_of_ble_eq_true rfl) (fun x11 hr12 => ?_)
      exact x_iret (μ := mu_x6_peek) (pc := 46) dX6_peek_46 rfl rfl (gRel_E.1 _) (show g32 x11 from hr12)
    · refine x_aload_n (μ := mu_x6_peek) (pc := 25) 0 dX6_peek_25 rfl ?_
      refine x_dup (μ := mu_x6_peek) (pc := 26) dX6_peek_26 rfl ?_
      refine x_fgi (μ := mu_x6_peek) (pc := 27) fX6_6 q487 dX6_peek_27 hT1 (fun hr13 => ?_)
      refine x_iconst (μ := mu_x6_peek) (pc := 30) dX6_peek_30 ?_
      refine x_iadd (μ := mu_x6_peek) (pc := 31) dX6_peek_31 ?_
      refine x_w1 ?_
      refine x_fpi (μ := mu_x6_peek) (pc := 32) fX6_6 q487 dX6_peek_32 hT1 (fun _ q => gE_wI q) ?_
      refine x_let (fun s14 e15 => ?_)
      refine x_goto (μ := mu_x6_peek) (pc := 35) (tgt := 0) dX6_peek_35 rfl ?_
      refine okl_x6_peek_l0 hl hdp (fun s25 => ?_) N s14
      refine x_aload_n (μ := mu_x6_peek) (pc := 38) 0 dX6_peek_38 rfl ?_
      refine x_aload_n (μ := mu_x6_peek) (pc := 39) 0 dX6_peek_39 rfl ?_
      refine x_if (fun hT26 => ?_)
      refine x_fgi (μ := mu_x6_peek) (pc := 40) fX6_6 q487 dX6_peek_40 hT26 (fun hr27 => ?_)
      refine x_callV_pi (μ := mu_x6_peek) (pc := 43) (ok_x6_here (ω := ω) (l := l) (d := d - 1) hl (by omega) hr27) gRel_E gRel_E (fun _ q => q) q1815 q1817 qs35 q226 q1818 dX6_peek_43 rfl hT26 hy_x6_here (by omega) (Nat.le_of_ble_eq_true rfl) rfl (Nat.le_of_ble_eq_true rfl) (fun x28 hr29 => ?_)
      exact x_iret (μ := mu_x6_peek) (pc := 46) dX6_peek_46 rfl rfl (gRel_E.1 _) (show g32 x28 from hr29)
def x6_wrong (v0 : Nat) (v1 : Int) (v2 : Int) (σ : gMem) : Option (Nat × gMem) := if mT σ v0 = 6 then if v2 ≠ mI σ v0 5 then (x6_wrongJust v0 v1 v2 σ).bind (fun x3 => some (x3.1, x3.2)) else (x6_wrongJust v0 v1 (mI σ v0 4) σ).bind (fun x6 => some (x6.1, x6.2)) else none
set_option maxRecDepth 100000 in
theorem ok_x6_wrong {ω : gW} {l : Launch} {d : Nat} {σ : gMem} {v0 : Nat} {v1 : Int} {v2 : Int} (hl : l.stackTraces = false) (hdp : 9 ≤ d) (hv1 : g32 v1) (hv2 : g32 v2) : gK (fun p : Nat × gMem => (.inl (some (vR p.1)), p.2)) gE ω l d mu_x6_wrong [vR v0, vI v1, vI v2] σ (x6_wrong v0 v1 v2 σ) := by
  refine gK.of hp_X6 (Nat.le_of_ble_eq_true rfl) ?_
  unfold x6_wrong
  refine x_aload_n (μ := mu_x6_wrong) (pc := 0) 0 dX6_wrong_0 rfl ?_
  refine x_iload_n (μ := mu_x6_wrong) (pc := 1) 1 dX6_wrong_1 rfl ?_
  refine x_iload_n (μ := mu_x6_wrong) (pc := 2) 2 dX6_wrong_2 rfl ?_
  refine x_aload_n (μ := mu_x6_wrong) (pc := 3) 0 dX6_wrong_3 rfl ?_
  refine x_if (fun hT1 => ?_)
  refine x_fgi (μ := mu_x6_wrong) (pc := 4) fX6_5 q486 dX6_wrong_4 hT1 (fun hr2 => ?_)
  refine x_icmp_ne (μ := mu_x6_wrong) (pc := 7) (tgt := 17) dX6_wrong_7 rfl hv2 hr2 ?_ ?_
  · refine x_iload_n (μ := mu_x6_wrong) (pc := 17) 2 dX6_wrong_17 rfl ?_
    refine x_callV_mr (μ := mu_x6_wrong) (pc := 18) (ok_x6_wrongJust (ω := ω) (l := l) (d := d - 1) hl (by omega) hv1 hv2) gRel_E gRel_E (fun _ q => q) q1831 q1833 qs39 q226 q1834 dX6_wrong_18 rfl hT1 hy_x6_wrongJust (by omega) (Nat.le_of_ble_eq_true rfl) rfl (Nat.le_of_ble_eq_true rfl) (fun x3 k4 => ?_)
    exact x_aret (μ := mu_x6_wrong) (pc := 21) dX6_wrong_21 rfl (by first | exact Or.inl ⟨_, rfl⟩ | exact Or.inr ⟨_, rfl⟩) rfl (gRel_E.1 _) trivial
  · refine x_aload_n (μ := mu_x6_wrong) (pc := 10) 0 dX6_wrong_10 rfl ?_
    refine x_fgi (μ := mu_x6_wrong) (pc := 11) fX6_4 q485 dX6_wrong_11 hT1 (fun hr5 => ?_)
    refine x_goto (μ := mu_x6_wrong) (pc := 14) (tgt := 18) dX6_wrong_14 rfl ?_
    refine x_callV_mr (μ := mu_x6_wrong) (pc := 18) (ok_x6_wrongJust (ω := ω) (l := l) (d := d - 1) hl (by omega) hv1 hr5) gRel_E gRel_E (fun _ q => q) q1831 q1833 qs39 q226 q1834 dX6_wrong_18 rfl hT1 hy_x6_wrongJust (by omega) (Nat.le_of_ble_eq_true rfl) rfl (Nat.le_of_ble_eq_true rfl) (fun x6 k7 => ?_)
    exact x_aret (μ := mu_x6_wrong) (pc := 21) dX6_wrong_21 rfl (by first | exact Or.inl ⟨_, rfl⟩ | exact Or.inr ⟨_, rfl⟩) rfl (gRel_E.1 _) trivial
def x6_expect (N : Nat) (v0 : Nat) (v1 : Int) (σ : gMem) : Option gR := if mT σ v0 = 6 then (x6_peek N v0 σ).bind (fun x2 => if x2.1 = v1 then gLet (wI (x2.2) v0 6 (w32 ((mI (x2.2) v0 6) + 1))) (fun s6 => some (.inl none, s6)) else (x6_wrong v0 1 (mI (x2.2) v0 6) (x2.2)).bind (fun x9 => if mT (x9.2) (x9.1) = 25 then some (.inr "SheetBranches$Wrong", x9.2) else none)) else none
set_option maxRecDepth 100000 in
theorem ok_x6_expect {ω : gW} {l : Launch} {d : Nat} {N : Nat} {σ : gMem} {v0 : Nat} {v1 : Int} (hl : l.stackTraces = false) (hdp : 10 ≤ d) (hv1 : g32 v1) : gK (fun p : gR => p) gE ω l d mu_x6_expect [vR v0, vI v1] σ (x6_expect N v0 v1 σ) := by
  refine gK.of hp_X6 (Nat.le_of_ble_eq_true rfl) ?_
  unfold x6_expect
  refine x_aload_n (μ := mu_x6_expect) (pc := 0) 0 dX6_expect_0 rfl ?_
  refine x_if (fun hT1 => ?_)
  refine x_callV_mi (μ := mu_x6_expect) (pc := 1) (ok_x6_peek (ω := ω) (l := l) (d := d - 1) hl (by omega) ) gRel_E gRel_E (fun _ q => q) q1811 q1813 qs34 q226 q1814 dX6_expect_1 rfl hT1 hy_x6_peek (by omega) (Nat.le_of_ble_eq_true rfl) rfl (Nat.le_of_ble_eq_true rfl) (fun x2 k4 hr3 => ?_)
  refine x_iload_n (μ := mu_x6_expect) (pc := 4) 1 dX6_expect_4 rfl ?_
  refine x_icmp_eq (μ := mu_x6_expect) (pc := 5) (tgt := 18) dX6_expect_5 rfl hr3 hv1 ?_ ?_
  · refine x_aload_n (μ := mu_x6_expect) (pc := 18) 0 dX6_expect_18 rfl ?_
    refine x_dup (μ := mu_x6_expect) (pc := 19) dX6_expect_19 rfl ?_
    refine x_fgi (μ := mu_x6_expect) (pc := 20) fX6_6 q487 dX6_expect_20 (gT_E k4 hT1 (by decide)) (fun hr5 => ?_)
    refine x_iconst (μ := mu_x6_expect) (pc := 23) dX6_expect_23 ?_
    refine x_iadd (μ := mu_x6_expect) (pc := 24) dX6_expect_24 ?_
    refine x_w1 ?_
    refine x_fpi (μ := mu_x6_expect) (pc := 25) fX6_6 q487 dX6_expect_25 (gT_E k4 hT1 (by decide)) (fun _ q => gE_wI q) ?_
    refine x_let (fun s6 e7 => ?_)
    exact x_vret (μ := mu_x6_expect) (pc := 28) (a1 := ((.inl none, s6) : gR)) dX6_expect_28 rfl rfl (gRel_E.1 _) trivial
  · refine x_aload_n (μ := mu_x6_expect) (pc := 8) 0 dX6_expect_8 rfl ?_
    refine x_iconst (μ := mu_x6_expect) (pc := 9) dX6_expect_9 ?_
    refine x_aload_n (μ := mu_x6_expect) (pc := 10) 0 dX6_expect_10 rfl ?_
    refine x_fgi (μ := mu_x6_expect) (pc := 11) fX6_6 q487 dX6_expect_11 (gT_E k4 hT1 (by decide)) (fun hr8 => ?_)
    refine x_callV_mr (μ := mu_x6_expect) (pc := 14) (ok_x6_wrong (ω := ω) (l := l) (d := d - 1) hl (by omega) (by decide) hr8) gRel_E gRel_E (fun _ q => q) q1827 q1829 qs38 q226 q1830 dX6_expect_14 rfl (gT_E k4 hT1 (by decide)) hy_x6_wrong (by omega) (Nat.le_of_ble_eq_true rfl) rfl (Nat.le_of_ble_eq_true rfl) (fun x9 k10 => ?_)
    refine x_if (fun hT11 => ?_)
    exact x_athrow (μ := mu_x6_expect) (pc := 17) dX6_expect_17 hT11 (by decide)
def x6_number_l5 (N : Nat) (v0 : Nat) (v1 : Int) (K : gMem → Option gR) : Nat → gMem → Option gR
  | 0, _ => none
  | n + 1, s => if mT s v0 = 6 then (x6_here v0 (mI s v0 6) s).bind (fun x5 => (x6_isDigit x5 s).bind (fun x7 => if x7 = 0 then K s else if w32 ((mI s v0 6) - v1) ≠ 15 then gLet (wI s v0 6 (w32 ((mI s v0 6) + 1))) (fun s11 => x6_number_l5 N v0 v1 K n s11) else (x6_wrong v0 1 (mI s v0 6) s).bind (fun x14 => if mT (x14.2) (x14.1) = 25 then some (.inr "SheetBranches$Wrong", x14.2) else none))) else none
set_option maxRecDepth 100000 in
theorem okl_x6_number_l5 {ω : gW} {l : Launch} {d : Nat} {N : Nat} {σ0 : gMem} {v0 : Nat} {v1 : Int} {K : gMem → Option gR} (hl : l.stackTraces = false) (hdp : 10 ≤ d) (hv1 : g32 v1) (hK : ∀ (s : gMem) , GG (fun p : gR => p) gE ω l d mu_x6_number σ0 53 [(0, vR v0), (1, vI v1)] [] s (K s)) : ∀ (n : Nat) (s : gMem) , GG (fun p : gR => p) gE ω l d mu_x6_number σ0 5 [(0, vR v0), (1, vI v1)] [] s (x6_number_l5 N v0 v1 K n s) := by
  intro n
  induction n with
  | zero => intros; exact x_none
  | succ n ih =>
    intro s
    unfold x6_number_l5
    refine x_aload_n (μ := mu_x6_number) (pc := 5) 0 dX6_number_5 rfl ?_
    refine x_aload_n (μ := mu_x6_number) (pc := 6) 0 dX6_number_6 rfl ?_
    refine x_if (fun hT3 => ?_)
    refine x_fgi (μ := mu_x6_number) (pc := 7) fX6_6 q487 dX6_number_7 hT3 (fun hr4 => ?_)
    refine x_callV_pi (μ := mu_x6_number) (pc := 10) (ok_x6_here (ω := ω) (l := l) (d := d - 1) hl (by omega) hr4) gRel_E gRel_E (fun _ q => q) q1815 q1817 qs35 q226 q1818 dX6_number_10 rfl hT3 hy_x6_here (by omega) (Nat.le_of_ble_eq_true rfl) rfl (Nat.le_of_ble_eq_true rfl) (fun x5 hr6 => ?_)
    refine x_callS_pi (μ := mu_x6_number) (pc := 13) (ok_x6_isDigit (ω := ω) (l := l) (d := d - 1) hl (by omega) hr6) gRel_E gRel_E (fun _ q => q) q1537 q1538 q226 q1539 dX6_number_13 hy_x6_isDigit (by omega) (Nat.le_of_ble_eq_true rfl) rfl (Nat.le_of_ble_eq_true rfl) (fun x7 hr8 => ?_)
    refine x_if_eq (μ := mu_x6_number) (pc := 16) (tgt := 53) dX6_number_16 rfl hr8 ?_ ?_
    · exact hK s
    · refine x_aload_n (μ := mu_x6_number) (pc := 19) 0 dX6_number_19 rfl ?_
      refine x_fgi (μ := mu_x6_number) (pc := 20) fX6_6 q487 dX6_number_20 hT3 (fun hr9 => ?_)
      refine x_iload_n (μ := mu_x6_number) (pc := 23) 1 dX6_number_23 rfl ?_
      refine x_isub (μ := mu_x6_number) (pc := 24) dX6_number_24 ?_
      refine x_bipush (μ := mu_x6_number) (pc := 25) dX6_number_25 (by decide) ?_
      refine x_w2 ?_
      refine x_icmp_ne (μ := mu_x6_number) (pc := 27) (tgt := 40) dX6_number_27 rfl (w32_rng _) (by decide) ?_ ?_
      · refine x_aload_n (μ := mu_x6_number) (pc := 40) 0 dX6_number_40 rfl ?_
        refine x_dup (μ := mu_x6_number) (pc := 41) dX6_number_41 rfl ?_
        refine x_fgi (μ := mu_x6_number) (pc := 42) fX6_6 q487 dX6_number_42 hT3 (fun hr10 => ?_)
        refine x_iconst (μ := mu_x6_number) (pc := 45) dX6_number_45 ?_
        refine x_iadd (μ := mu_x6_number) (pc := 46) dX6_number_46 ?_
        refine x_w1 ?_
        refine x_fpi (μ := mu_x6_number) (pc := 47) fX6_6 q487 dX6_number_47 hT3 (fun _ q => gE_wI q) ?_
        refine x_let (fun s11 e12 => ?_)
        refine x_goto (μ := mu_x6_number) (pc := 50) (tgt := 5) dX6_number_50 rfl ?_
        exact ih s11
      · refine x_aload_n (μ := mu_x6_number) (pc := 30) 0 dX6_number_30 rfl ?_
        refine x_iconst (μ := mu_x6_number) (pc := 31) dX6_number_31 ?_
        refine x_aload_n (μ := mu_x6_number) (pc := 32) 0 dX6_number_32 rfl ?_
        refine x_fgi (μ := mu_x6_number) (pc := 33) fX6_6 q487 dX6_number_33 hT3 (fun hr13 => ?_)
        refine x_callV_mr (μ := mu_x6_number) (pc := 36) (ok_x6_wrong (ω := ω) (l := l) (d := d - 1) hl (by omega) (by decide) hr13) gRel_E gRel_E (fun _ q => q) q1827 q1829 qs38 q226 q1830 dX6_number_36 rfl hT3 hy_x6_wrong (by omega) (Nat.le_of_ble_eq_true rfl) rfl (Nat.le_of_ble_eq_true rfl) (fun x14 k15 => ?_)
        refine x_if (fun hT16 => ?_)
        exact x_athrow (μ := mu_x6_number) (pc := 39) dX6_number_39 hT16 (by decide)
def x6_number (N : Nat) (v0 : Nat) (σ : gMem) : Option gR := if mT σ v0 = 6 then x6_number_l5 N v0 (mI σ v0 6) (fun s17 => if mT s17 v0 = 6 then gLet (wI s17 v0 8 (w32 ((mI s17 v0 8) + 1))) (fun s20 => gLet (wN s20 11 1) (fun s23 => (x6_digits N v0 (mI σ v0 6) (mI s23 v0 6) s23).bind (fun x26 => (x13_init (mZ s20) x26 s23).bind (fun x28 => some (.inl (some (vR (mZ s20))), x28))))) else none) N σ else none
set_option maxRecDepth 100000 in
theorem ok_x6_number {ω : gW} {l : Launch} {d : Nat} {N : Nat} {σ : gMem} {v0 : Nat} (hl : l.stackTraces = false) (hdp : 10 ≤ d) : gK (fun p : gR => p) gE ω l d mu_x6_number [vR v0] σ (x6_number N v0 σ) := by
  refine gK.of hp_X6 (Nat.le_of_ble_eq_true rfl) ?_
  unfold x6_number
  refine x_aload_n (μ := mu_x6_number) (pc := 0) 0 dX6_number_0 rfl ?_
  refine x_if (fun hT1 => ?_)
  refine x_fgi (μ := mu_x6_number) (pc := 1) fX6_6 q487 dX6_number_1 hT1 (fun hr2 => ?_)
  refine x_istore_n (μ := mu_x6_number) (pc := 4) (lv' := [(1, vI (mI σ v0 6)), (0, vR v0)]) dX6_number_4 rfl (by decide) rfl ?_
  refine x_loc (lv' := [(0, vR v0), (1, vI (mI σ v0 6))]) [1, 0] rfl ?_
  refine okl_x6_number_l5 hl hdp hr2 (fun s17 => ?_) N σ
  refine x_aload_n (μ := mu_x6_number) (pc := 53) 0 dX6_number_53 rfl ?_
  refine x_dup (μ := mu_x6_number) (pc := 54) dX6_number_54 rfl ?_
  refine x_if (fun hT18 => ?_)
  refine x_fgi (μ := mu_x6_number) (pc := 55) fX6_8 q489 dX6_number_55 hT18 (fun hr19 => ?_)
  refine x_iconst (μ := mu_x6_number) (pc := 58) dX6_number_58 ?_
  refine x_iadd (μ := mu_x6_number) (pc := 59) dX6_number_59 ?_
  refine x_w1 ?_
  refine x_fpi (μ := mu_x6_number) (pc := 60) fX6_8 q489 dX6_number_60 hT18 (fun _ q => gE_wI q) ?_
  refine x_let (fun s20 e21 => ?_)
  refine x_ok (fun ok22 => ?_)
  refine x_new (μ := mu_x6_number) (pc := 63) (ci := 10) gk_X13 gd_X13 q1858 q1859 q241 dX6_number_63 ?_
  refine x_let (fun s23 e24 => ?_)
  refine x_dup (μ := mu_x6_number) (pc := 66) dX6_number_66 rfl ?_
  refine x_aload_n (μ := mu_x6_number) (pc := 67) 0 dX6_number_67 rfl ?_
  refine x_iload_n (μ := mu_x6_number) (pc := 68) 1 dX6_number_68 rfl ?_
  refine x_aload_n (μ := mu_x6_number) (pc := 69) 0 dX6_number_69 rfl ?_
  refine x_fgi (μ := mu_x6_number) (pc := 70) fX6_6 q487 dX6_number_70 (gT_N e24 ok22 (gT_I e21 hT18) (by decide)) (fun hr25 => ?_)
  refine x_callV_pl (μ := mu_x6_number) (pc := 73) (ok_x6_digits (ω := ω) (l := l) (d := d - 1) hl (by omega) hr2 hr25) gRel_E gRel_E (fun _ q => q) q1860 q1862 qs42 q226 q1863 dX6_number_73 rfl (gT_N e24 ok22 (gT_I e21 hT18) (by decide)) hy_x6_digits (by omega) (Nat.le_of_ble_eq_true rfl) rfl (Nat.le_of_ble_eq_true rfl) (fun x26 hr27 => ?_)
  refine x_callIN_mv (μ := mu_x6_number) (pc := 76) (ok_x13_init (ω := ω) (l := l) (d := d - 1) hl (by omega) hr27) gRel_E gRel_E (fun _ q => q) q1866 q1867 q241 q1868 dX6_number_76 (gT_ne (gT_new e24)) rfl hy_x13_init (by omega) (Nat.le_of_ble_eq_true rfl) rfl (Nat.le_of_ble_eq_true rfl) (fun x28 k29 => ?_)
  exact x_aret (μ := mu_x6_number) (pc := 79) (a1 := ((.inl (some (vR (mZ s20))), x28) : gR)) dX6_number_79 rfl (by first | exact Or.inl ⟨_, rfl⟩ | exact Or.inr ⟨_, rfl⟩) rfl (gRel_E.1 _) trivial
def x6_quoted_l15 (N : Nat) (v0 : Nat) (v1 : Int) (K : gMem → Option gR) : Nat → gMem → Option gR
  | 0, _ => none
  | n + 1, s => if mT s v0 = 6 then (x6_here v0 (mI s v0 6) s).bind (fun x8 => if x8 = 34 then K s else if mI s v0 6 ≠ mI s v0 5 then if w32 (((mI s v0 6) - v1) - 1) ≠ 24 then if mT s (mR s v0 3) = 102 then if 0 ≤ (mI s v0 6) ∧ (mI s v0 6) < (mN s (mR s v0 3) : Int) then (x6_isSign (mI s (mR s v0 3) (mI s v0 6).toNat) s).bind (fun x16 => if x16 ≠ 0 then gLet (wI s v0 6 (w32 ((mI s v0 6) + 1))) (fun s19 => x6_quoted_l15 N v0 v1 K n s19) else (x6_wrong v0 1 (mI s v0 6) s).bind (fun x22 => if mT (x22.2) (x22.1) = 25 then some (.inr "SheetBranches$Wrong", x22.2) else none)) else none else none else (x6_wrong v0 1 v1 s).bind (fun x25 => if mT (x25.2) (x25.1) = 25 then some (.inr "SheetBranches$Wrong", x25.2) else none) else (x6_wrong v0 1 (mI s v0 6) s).bind (fun x29 => if mT (x29.2) (x29.1) = 25 then some (.inr "SheetBranches$Wrong", x29.2) else none)) else none
set_option maxRecDepth 100000 in
theorem okl_x6_quoted_l15 {ω : gW} {l : Launch} {d : Nat} {N : Nat} {σ0 : gMem} {v0 : Nat} {v1 : Int} {K : gMem → Option gR} (hl : l.stackTraces = false) (hdp : 10 ≤ d) (hv1 : g32 v1) (hK : ∀ (s : gMem) , GG (fun p : gR => p) gE ω l d mu_x6_quoted σ0 107 [(0, vR v0), (1, vI v1)] [] s (K s)) : ∀ (n : Nat) (s : gMem) , GG (fun p : gR => p) gE ω l d mu_x6_quoted σ0 15 [(0, vR v0), (1, vI v1)] [] s (x6_quoted_l15 N v0 v1 K n s) := by
  intro n
  induction n with
  | zero => intros; exact x_none
  | succ n ih =>
    intro s
    unfold x6_quoted_l15
    refine x_aload_n (μ := mu_x6_quoted) (pc := 15) 0 dX6_quoted_15 rfl ?_
    refine x_aload_n (μ := mu_x6_quoted) (pc := 16) 0 dX6_quoted_16 rfl ?_
    refine x_if (fun hT6 => ?_)
    refine x_fgi (μ := mu_x6_quoted) (pc := 17) fX6_6 q487 dX6_quoted_17 hT6 (fun hr7 => ?_)
    refine x_callV_pi (μ := mu_x6_quoted) (pc := 20) (ok_x6_here (ω := ω) (l := l) (d := d - 1) hl (by omega) hr7) gRel_E gRel_E (fun _ q => q) q1815 q1817 qs35 q226 q1818 dX6_quoted_20 rfl hT6 hy_x6_here (by omega) (Nat.le_of_ble_eq_true rfl) rfl (Nat.le_of_ble_eq_true rfl) (fun x8 hr9 => ?_)
    refine x_bipush (μ := mu_x6_quoted) (pc := 23) dX6_quoted_23 (by decide) ?_
    refine x_icmp_eq (μ := mu_x6_quoted) (pc := 25) (tgt := 107) dX6_quoted_25 rfl hr9 (by decide) ?_ ?_
    · exact hK s
    · refine x_aload_n (μ := mu_x6_quoted) (pc := 28) 0 dX6_quoted_28 rfl ?_
      refine x_fgi (μ := mu_x6_quoted) (pc := 29) fX6_6 q487 dX6_quoted_29 hT6 (fun hr10 => ?_)
      refine x_aload_n (μ := mu_x6_quoted) (pc := 32) 0 dX6_quoted_32 rfl ?_
      refine x_fgi (μ := mu_x6_quoted) (pc := 33) fX6_5 q486 dX6_quoted_33 hT6 (fun hr11 => ?_)
      refine x_icmp_ne (μ := mu_x6_quoted) (pc := 36) (tgt := 49) dX6_quoted_36 rfl hr10 hr11 ?_ ?_
      · refine x_aload_n (μ := mu_x6_quoted) (pc := 49) 0 dX6_quoted_49 rfl ?_
        refine x_fgi (μ := mu_x6_quoted) (pc := 50) fX6_6 q487 dX6_quoted_50 hT6 (fun hr12 => ?_)
        refine x_iload_n (μ := mu_x6_quoted) (pc := 53) 1 dX6_quoted_53 rfl ?_
        refine x_isub (μ := mu_x6_quoted) (pc := 54) dX6_quoted_54 ?_
        refine x_iconst (μ := mu_x6_quoted) (pc := 55) dX6_quoted_55 ?_
        refine x_isub (μ := mu_x6_quoted) (pc := 56) dX6_quoted_56 ?_
        refine x_bipush (μ := mu_x6_quoted) (pc := 57) dX6_quoted_57 (by decide) ?_
        refine x_w2 ?_
        refine x_icmp_ne (μ := mu_x6_quoted) (pc := 59) (tgt := 69) dX6_quoted_59 rfl (w32_rng _) (by decide) ?_ ?_
        · refine x_aload_n (μ := mu_x6_quoted) (pc := 69) 0 dX6_quoted_69 rfl ?_
          refine x_fgr (μ := mu_x6_quoted) (pc := 70) fX6_3 (by first | exact Or.inl ⟨_, rfl⟩ | exact Or.inr ⟨_, rfl⟩) q484 dX6_quoted_70 hT6 ?_
          refine x_aload_n (μ := mu_x6_quoted) (pc := 73) 0 dX6_quoted_73 rfl ?_
          refine x_fgi (μ := mu_x6_quoted) (pc := 74) fX6_6 q487 dX6_quoted_74 hT6 (fun hr13 => ?_)
          refine x_if (fun hT14 => ?_)
          refine x_bald (μ := mu_x6_quoted) (pc := 77) dX6_quoted_77 hT14 rfl (fun hr15 => ?_)
          refine x_callS_pi (μ := mu_x6_quoted) (pc := 78) (ok_x6_isSign (ω := ω) (l := l) (d := d - 1) hl (by omega) hr15) gRel_E gRel_E (fun _ q => q) q1881 q1882 q226 q1883 dX6_quoted_78 hy_x6_isSign (by omega) (Nat.le_of_ble_eq_true rfl) rfl (Nat.le_of_ble_eq_true rfl) (fun x16 hr17 => ?_)
          refine x_if_ne (μ := mu_x6_quoted) (pc := 81) (tgt := 94) dX6_quoted_81 rfl hr17 ?_ ?_
          · refine x_aload_n (μ := mu_x6_quoted) (pc := 94) 0 dX6_quoted_94 rfl ?_
            refine x_dup (μ := mu_x6_quoted) (pc := 95) dX6_quoted_95 rfl ?_
            refine x_fgi (μ := mu_x6_quoted) (pc := 96) fX6_6 q487 dX6_quoted_96 hT6 (fun hr18 => ?_)
            refine x_iconst (μ := mu_x6_quoted) (pc := 99) dX6_quoted_99 ?_
            refine x_iadd (μ := mu_x6_quoted) (pc := 100) dX6_quoted_100 ?_
            refine x_w1 ?_
            refine x_fpi (μ := mu_x6_quoted) (pc := 101) fX6_6 q487 dX6_quoted_101 hT6 (fun _ q => gE_wI q) ?_
            refine x_let (fun s19 e20 => ?_)
            refine x_goto (μ := mu_x6_quoted) (pc := 104) (tgt := 15) dX6_quoted_104 rfl ?_
            exact ih s19
          · refine x_aload_n (μ := mu_x6_quoted) (pc := 84) 0 dX6_quoted_84 rfl ?_
            refine x_iconst (μ := mu_x6_quoted) (pc := 85) dX6_quoted_85 ?_
            refine x_aload_n (μ := mu_x6_quoted) (pc := 86) 0 dX6_quoted_86 rfl ?_
            refine x_fgi (μ := mu_x6_quoted) (pc := 87) fX6_6 q487 dX6_quoted_87 hT6 (fun hr21 => ?_)
            refine x_callV_mr (μ := mu_x6_quoted) (pc := 90) (ok_x6_wrong (ω := ω) (l := l) (d := d - 1) hl (by omega) (by decide) hr21) gRel_E gRel_E (fun _ q => q) q1827 q1829 qs38 q226 q1830 dX6_quoted_90 rfl hT6 hy_x6_wrong (by omega) (Nat.le_of_ble_eq_true rfl) rfl (Nat.le_of_ble_eq_true rfl) (fun x22 k23 => ?_)
            refine x_if (fun hT24 => ?_)
            exact x_athrow (μ := mu_x6_quoted) (pc := 93) dX6_quoted_93 hT24 (by decide)
        · refine x_aload_n (μ := mu_x6_quoted) (pc := 62) 0 dX6_quoted_62 rfl ?_
          refine x_iconst (μ := mu_x6_quoted) (pc := 63) dX6_quoted_63 ?_
          refine x_iload_n (μ := mu_x6_quoted) (pc := 64) 1 dX6_quoted_64 rfl ?_
          refine x_callV_mr (μ := mu_x6_quoted) (pc := 65) (ok_x6_wrong (ω := ω) (l := l) (d := d - 1) hl (by omega) (by decide) hv1) gRel_E gRel_E (fun _ q => q) q1827 q1829 qs38 q226 q1830 dX6_quoted_65 rfl hT6 hy_x6_wrong (by omega) (Nat.le_of_ble_eq_true rfl) rfl (Nat.le_of_ble_eq_true rfl) (fun x25 k26 => ?_)
          refine x_if (fun hT27 => ?_)
          exact x_athrow (μ := mu_x6_quoted) (pc := 68) dX6_quoted_68 hT27 (by decide)
      · refine x_aload_n (μ := mu_x6_quoted) (pc := 39) 0 dX6_quoted_39 rfl ?_
        refine x_iconst (μ := mu_x6_quoted) (pc := 40) dX6_quoted_40 ?_
        refine x_aload_n (μ := mu_x6_quoted) (pc := 41) 0 dX6_quoted_41 rfl ?_
        refine x_fgi (μ := mu_x6_quoted) (pc := 42) fX6_6 q487 dX6_quoted_42 hT6 (fun hr28 => ?_)
        refine x_callV_mr (μ := mu_x6_quoted) (pc := 45) (ok_x6_wrong (ω := ω) (l := l) (d := d - 1) hl (by omega) (by decide) hr28) gRel_E gRel_E (fun _ q => q) q1827 q1829 qs38 q226 q1830 dX6_quoted_45 rfl hT6 hy_x6_wrong (by omega) (Nat.le_of_ble_eq_true rfl) rfl (Nat.le_of_ble_eq_true rfl) (fun x29 k30 => ?_)
        refine x_if (fun hT31 => ?_)
        exact x_athrow (μ := mu_x6_quoted) (pc := 48) dX6_quoted_48 hT31 (by decide)
def x6_quoted (N : Nat) (v0 : Nat) (σ : gMem) : Option gR := if mT σ v0 = 6 then gLet (wI σ v0 6 (w32 ((mI σ v0 6) + 1))) (fun s4 => x6_quoted_l15 N v0 (mI σ v0 6) (fun s32 => if mT s32 v0 = 6 then gLet (wI s32 v0 6 (w32 ((mI s32 v0 6) + 1))) (fun s35 => gLet (wI s35 v0 8 (w32 ((mI s35 v0 8) + 1))) (fun s38 => gLet (wN s38 12 1) (fun s41 => (x6_part v0 (w32 ((mI σ v0 6) + 1)) (w32 ((mI s41 v0 6) - 1)) s41).bind (fun x44 => (x14_init (mZ s38) (x44.1) (x44.2)).bind (fun x46 => some (.inl (some (vR (mZ s38))), x46)))))) else none) N s4) else none
set_option maxRecDepth 100000 in
theorem ok_x6_quoted {ω : gW} {l : Launch} {d : Nat} {N : Nat} {σ : gMem} {v0 : Nat} (hl : l.stackTraces = false) (hdp : 10 ≤ d) : gK (fun p : gR => p) gE ω l d mu_x6_quoted [vR v0] σ (x6_quoted N v0 σ) := by
  refine gK.of hp_X6 (Nat.le_of_ble_eq_true rfl) ?_
  unfold x6_quoted
  refine x_aload_n (μ := mu_x6_quoted) (pc := 0) 0 dX6_quoted_0 rfl ?_
  refine x_if (fun hT1 => ?_)
  refine x_fgi (μ := mu_x6_quoted) (pc := 1) fX6_6 q487 dX6_quoted_1 hT1 (fun hr2 => ?_)
  refine x_istore_n (μ := mu_x6_quoted) (pc := 4) (lv' := [(1, vI (mI σ v0 6)), (0, vR v0)]) dX6_quoted_4 rfl (by decide) rfl ?_
  refine x_aload_n (μ := mu_x6_quoted) (pc := 5) 1 dX6_quoted_5 rfl ?_
  refine x_dup (μ := mu_x6_quoted) (pc := 6) dX6_quoted_6 rfl ?_
  refine x_fgi (μ := mu_x6_quoted) (pc := 7) fX6_6 q487 dX6_quoted_7 hT1 (fun hr3 => ?_)
  refine x_iconst (μ := mu_x6_quoted) (pc := 10) dX6_quoted_10 ?_
  refine x_iadd (μ := mu_x6_quoted) (pc := 11) dX6_quoted_11 ?_
  refine x_w1 ?_
  refine x_fpi (μ := mu_x6_quoted) (pc := 12) fX6_6 q487 dX6_quoted_12 hT1 (fun _ q => gE_wI q) ?_
  refine x_let (fun s4 e5 => ?_)
  refine x_loc (lv' := [(0, vR v0), (1, vI (mI σ v0 6))]) [1, 0] rfl ?_
  refine okl_x6_quoted_l15 hl hdp hr2 (fun s32 => ?_) N s4
  refine x_aload_n (μ := mu_x6_quoted) (pc := 107) 0 dX6_quoted_107 rfl ?_
  refine x_dup (μ := mu_x6_quoted) (pc := 108) dX6_quoted_108 rfl ?_
  refine x_if (fun hT33 => ?_)
  refine x_fgi (μ := mu_x6_quoted) (pc := 109) fX6_6 q487 dX6_quoted_109 hT33 (fun hr34 => ?_)
  refine x_iconst (μ := mu_x6_quoted) (pc := 112) dX6_quoted_112 ?_
  refine x_iadd (μ := mu_x6_quoted) (pc := 113) dX6_quoted_113 ?_
  refine x_w1 ?_
  refine x_fpi (μ := mu_x6_quoted) (pc := 114) fX6_6 q487 dX6_quoted_114 hT33 (fun _ q => gE_wI q) ?_
  refine x_let (fun s35 e36 => ?_)
  refine x_aload_n (μ := mu_x6_quoted) (pc := 117) 0 dX6_quoted_117 rfl ?_
  refine x_dup (μ := mu_x6_quoted) (pc := 118) dX6_quoted_118 rfl ?_
  refine x_fgi (μ := mu_x6_quoted) (pc := 119) fX6_8 q489 dX6_quoted_119 (gT_I e36 hT33) (fun hr37 => ?_)
  refine x_iconst (μ := mu_x6_quoted) (pc := 122) dX6_quoted_122 ?_
  refine x_iadd (μ := mu_x6_quoted) (pc := 123) dX6_quoted_123 ?_
  refine x_w1 ?_
  refine x_fpi (μ := mu_x6_quoted) (pc := 124) fX6_8 q489 dX6_quoted_124 (gT_I e36 hT33) (fun _ q => gE_wI q) ?_
  refine x_let (fun s38 e39 => ?_)
  refine x_ok (fun ok40 => ?_)
  refine x_new (μ := mu_x6_quoted) (pc := 127) (ci := 11) gk_X14 gd_X14 q1884 q1656 q242 dX6_quoted_127 ?_
  refine x_let (fun s41 e42 => ?_)
  refine x_dup (μ := mu_x6_quoted) (pc := 130) dX6_quoted_130 rfl ?_
  refine x_aload_n (μ := mu_x6_quoted) (pc := 131) 0 dX6_quoted_131 rfl ?_
  refine x_iload_n (μ := mu_x6_quoted) (pc := 132) 1 dX6_quoted_132 rfl ?_
  refine x_iconst (μ := mu_x6_quoted) (pc := 133) dX6_quoted_133 ?_
  refine x_iadd (μ := mu_x6_quoted) (pc := 134) dX6_quoted_134 ?_
  refine x_aload_n (μ := mu_x6_quoted) (pc := 135) 0 dX6_quoted_135 rfl ?_
  refine x_fgi (μ := mu_x6_quoted) (pc := 136) fX6_6 q487 dX6_quoted_136 (gT_N e42 ok40 (gT_I e39 (gT_I e36 hT33)) (by decide)) (fun hr43 => ?_)
  refine x_iconst (μ := mu_x6_quoted) (pc := 139) dX6_quoted_139 ?_
  refine x_isub (μ := mu_x6_quoted) (pc := 140) dX6_quoted_140 ?_
  refine x_w1 ?_
  refine x_w2 ?_
  refine x_callV_mr (μ := mu_x6_quoted) (pc := 141) (ok_x6_part (ω := ω) (l := l) (d := d - 1) hl (by omega) (w32_rng _) (w32_rng _)) gRel_E gRel_E (fun _ q => q) q1885 q1887 qs44 q226 q1888 dX6_quoted_141 rfl (gT_N e42 ok40 (gT_I e39 (gT_I e36 hT33)) (by decide)) hy_x6_part (by omega) (Nat.le_of_ble_eq_true rfl) rfl (Nat.le_of_ble_eq_true rfl) (fun x44 k45 => ?_)
  refine x_callIN_mv (μ := mu_x6_quoted) (pc := 144) (ok_x14_init (ω := ω) (l := l) (d := d - 1) hl (by omega) ) gRel_E gRel_E (fun _ q => q) q1890 q1891 q242 q1892 dX6_quoted_144 (gT_ne (gT_E k45 (gT_new e42) (by decide))) rfl hy_x14_init (by omega) (Nat.le_of_ble_eq_true rfl) rfl (Nat.le_of_ble_eq_true rfl) (fun x46 k47 => ?_)
  exact x_aret (μ := mu_x6_quoted) (pc := 147) (a1 := ((.inl (some (vR (mZ s38))), x46) : gR)) dX6_quoted_147 rfl (by first | exact Or.inl ⟨_, rfl⟩ | exact Or.inr ⟨_, rfl⟩) rfl (gRel_E.1 _) trivial
def x6_gone (N : Nat) (v0 : Nat) (σ : gMem) : Option gR := if mT σ v0 = 6 then if mI σ v0 5 < w32 ((mI σ v0 6) + 4) then (x6_wrong v0 1 (mI σ v0 6) σ).bind (fun x5 => if mT (x5.2) (x5.1) = 25 then some (.inr "SheetBranches$Wrong", x5.2) else none) else (x6_spells N (mR σ v0 3) (mI σ v0 6) (w32 ((mI σ v0 6) + 4)) (mR σ 0 100) σ).bind (fun x10 => if x10 ≠ 0 then gLet (wI σ v0 6 (w32 ((mI σ v0 6) + 4))) (fun s13 => gLet (wI s13 v0 8 (w32 ((mI s13 v0 8) + 1))) (fun s16 => gLet (wN s16 13 0) (fun s19 => (x15_init (mZ s16) s19).bind (fun x21 => some (.inl (some (vR (mZ s16))), x21))))) else (x6_wrong v0 1 (mI σ v0 6) σ).bind (fun x24 => if mT (x24.2) (x24.1) = 25 then some (.inr "SheetBranches$Wrong", x24.2) else none)) else none
set_option maxRecDepth 100000 in
theorem ok_x6_gone {ω : gW} {l : Launch} {d : Nat} {N : Nat} {σ : gMem} {v0 : Nat} (hl : l.stackTraces = false) (hdp : 10 ≤ d) : gK (fun p : gR => p) gE ω l d mu_x6_gone [vR v0] σ (x6_gone N v0 σ) := by
  refine gK.of hp_X6 (Nat.le_of_ble_eq_true rfl) ?_
  unfold x6_gone
  refine x_aload_n (μ := mu_x6_gone) (pc := 0) 0 dX6_gone_0 rfl ?_
  refine x_if (fun hT1 => ?_)
  refine x_fgi (μ := mu_x6_gone) (pc := 1) fX6_6 q487 dX6_gone_1 hT1 (fun hr2 => ?_)
  refine x_iconst (μ := mu_x6_gone) (pc := 4) dX6_gone_4 ?_
  refine x_iadd (μ := mu_x6_gone) (pc := 5) dX6_gone_5 ?_
  refine x_aload_n (μ := mu_x6_gone) (pc := 6) 0 dX6_gone_6 rfl ?_
  refine x_fgi (μ := mu_x6_gone) (pc := 7) fX6_5 q486 dX6_gone_7 hT1 (fun hr3 => ?_)
  refine x_w2 ?_
  refine x_icmp_gt (μ := mu_x6_gone) (pc := 10) (tgt := 36) dX6_gone_10 rfl (w32_rng _) hr3 ?_ ?_
  · refine x_aload_n (μ := mu_x6_gone) (pc := 36) 0 dX6_gone_36 rfl ?_
    refine x_iconst (μ := mu_x6_gone) (pc := 37) dX6_gone_37 ?_
    refine x_aload_n (μ := mu_x6_gone) (pc := 38) 0 dX6_gone_38 rfl ?_
    refine x_fgi (μ := mu_x6_gone) (pc := 39) fX6_6 q487 dX6_gone_39 hT1 (fun hr4 => ?_)
    refine x_callV_mr (μ := mu_x6_gone) (pc := 42) (ok_x6_wrong (ω := ω) (l := l) (d := d - 1) hl (by omega) (by decide) hr4) gRel_E gRel_E (fun _ q => q) q1827 q1829 qs38 q226 q1830 dX6_gone_42 rfl hT1 hy_x6_wrong (by omega) (Nat.le_of_ble_eq_true rfl) rfl (Nat.le_of_ble_eq_true rfl) (fun x5 k6 => ?_)
    refine x_if (fun hT7 => ?_)
    exact x_athrow (μ := mu_x6_gone) (pc := 45) dX6_gone_45 hT7 (by decide)
  · refine x_aload_n (μ := mu_x6_gone) (pc := 13) 0 dX6_gone_13 rfl ?_
    refine x_fgr (μ := mu_x6_gone) (pc := 14) fX6_3 (by first | exact Or.inl ⟨_, rfl⟩ | exact Or.inr ⟨_, rfl⟩) q484 dX6_gone_14 hT1 ?_
    refine x_aload_n (μ := mu_x6_gone) (pc := 17) 0 dX6_gone_17 rfl ?_
    refine x_fgi (μ := mu_x6_gone) (pc := 18) fX6_6 q487 dX6_gone_18 hT1 (fun hr8 => ?_)
    refine x_aload_n (μ := mu_x6_gone) (pc := 21) 0 dX6_gone_21 rfl ?_
    refine x_fgi (μ := mu_x6_gone) (pc := 22) fX6_6 q487 dX6_gone_22 hT1 (fun hr9 => ?_)
    refine x_iconst (μ := mu_x6_gone) (pc := 25) dX6_gone_25 ?_
    refine x_iadd (μ := mu_x6_gone) (pc := 26) dX6_gone_26 ?_
    refine x_ldcwS (μ := mu_x6_gone) (pc := 27) (j := 100) (List.mem_of_getElem? (i := 2) rfl) dX6_gone_27 ?_
    refine x_w2 ?_
    refine x_callS_pi (μ := mu_x6_gone) (pc := 30) (ok_x6_spells (ω := ω) (l := l) (d := d - 1) hl (by omega) hr8 (w32_rng _)) gRel_E gRel_E (fun _ q => q) q1544 q1545 q226 q1546 dX6_gone_30 hy_x6_spells (by omega) (Nat.le_of_ble_eq_true rfl) rfl (Nat.le_of_ble_eq_true rfl) (fun x10 hr11 => ?_)
    refine x_if_ne (μ := mu_x6_gone) (pc := 33) (tgt := 46) dX6_gone_33 rfl hr11 ?_ ?_
    · refine x_aload_n (μ := mu_x6_gone) (pc := 46) 0 dX6_gone_46 rfl ?_
      refine x_dup (μ := mu_x6_gone) (pc := 47) dX6_gone_47 rfl ?_
      refine x_fgi (μ := mu_x6_gone) (pc := 48) fX6_6 q487 dX6_gone_48 hT1 (fun hr12 => ?_)
      refine x_iconst (μ := mu_x6_gone) (pc := 51) dX6_gone_51 ?_
      refine x_iadd (μ := mu_x6_gone) (pc := 52) dX6_gone_52 ?_
      refine x_w1 ?_
      refine x_fpi (μ := mu_x6_gone) (pc := 53) fX6_6 q487 dX6_gone_53 hT1 (fun _ q => gE_wI q) ?_
      refine x_let (fun s13 e14 => ?_)
      refine x_aload_n (μ := mu_x6_gone) (pc := 56) 0 dX6_gone_56 rfl ?_
      refine x_dup (μ := mu_x6_gone) (pc := 57) dX6_gone_57 rfl ?_
      refine x_fgi (μ := mu_x6_gone) (pc := 58) fX6_8 q489 dX6_gone_58 (gT_I e14 hT1) (fun hr15 => ?_)
      refine x_iconst (μ := mu_x6_gone) (pc := 61) dX6_gone_61 ?_
      refine x_iadd (μ := mu_x6_gone) (pc := 62) dX6_gone_62 ?_
      refine x_w1 ?_
      refine x_fpi (μ := mu_x6_gone) (pc := 63) fX6_8 q489 dX6_gone_63 (gT_I e14 hT1) (fun _ q => gE_wI q) ?_
      refine x_let (fun s16 e17 => ?_)
      refine x_ok (fun ok18 => ?_)
      refine x_new (μ := mu_x6_gone) (pc := 66) (ci := 12) gk_X15 gd_X15 q1903 q1904 q247 dX6_gone_66 ?_
      refine x_let (fun s19 e20 => ?_)
      refine x_dup (μ := mu_x6_gone) (pc := 69) dX6_gone_69 rfl ?_
      refine x_callIN_mv (μ := mu_x6_gone) (pc := 70) (ok_x15_init (ω := ω) (l := l) (d := d - 1) hl (by omega) ) gRel_E gRel_E (fun _ q => q) q1905 q1906 q247 q1907 dX6_gone_70 (gT_ne (gT_new e20)) rfl hy_x15_init (by omega) (Nat.le_of_ble_eq_true rfl) rfl (Nat.le_of_ble_eq_true rfl) (fun x21 k22 => ?_)
      exact x_aret (μ := mu_x6_gone) (pc := 73) (a1 := ((.inl (some (vR (mZ s16))), x21) : gR)) dX6_gone_73 rfl (by first | exact Or.inl ⟨_, rfl⟩ | exact Or.inr ⟨_, rfl⟩) rfl (gRel_E.1 _) trivial
    · refine x_aload_n (μ := mu_x6_gone) (pc := 36) 0 dX6_gone_36 rfl ?_
      refine x_iconst (μ := mu_x6_gone) (pc := 37) dX6_gone_37 ?_
      refine x_aload_n (μ := mu_x6_gone) (pc := 38) 0 dX6_gone_38 rfl ?_
      refine x_fgi (μ := mu_x6_gone) (pc := 39) fX6_6 q487 dX6_gone_39 hT1 (fun hr23 => ?_)
      refine x_callV_mr (μ := mu_x6_gone) (pc := 42) (ok_x6_wrong (ω := ω) (l := l) (d := d - 1) hl (by omega) (by decide) hr23) gRel_E gRel_E (fun _ q => q) q1827 q1829 qs38 q226 q1830 dX6_gone_42 rfl hT1 hy_x6_wrong (by omega) (Nat.le_of_ble_eq_true rfl) rfl (Nat.le_of_ble_eq_true rfl) (fun x24 k25 => ?_)
      refine x_if (fun hT26 => ?_)
      exact x_athrow (μ := mu_x6_gone) (pc := 45) dX6_gone_45 hT26 (by decide)
def x6_corner_j83 (σ : gMem) (v0 : Nat) (v1 : Int) (v2 : Int) : Option Int := if mT σ v0 = 6 then (x6_here v0 v2 σ).bind (fun x21 => (x6_isDigit x21 σ).bind (fun x23 => if x23 ≠ 0 then some 0 else (x6_here v0 v2 σ).bind (fun x25 => (x6_isLetter x25 σ).bind (fun x27 => if x27 = 0 then some (w32 (v2 - v1)) else some 0)))) else none
set_option maxRecDepth 100000 in
theorem okj_x6_corner_j83 {ω : gW} {l : Launch} {d : Nat} {σ : gMem} {v0 : Nat} {v1 : Int} {v2 : Int} (hl : l.stackTraces = false) (hdp : 1 ≤ d) (hv1 : g32 v1) (hv2 : g32 v2) : GG (fun x : Int => (.inl (some (vI x)), σ)) gE ω l d mu_x6_corner σ 83 [(0, vR v0), (1, vI v1), (2, vI v2)] [] σ (x6_corner_j83 σ v0 v1 v2 ) := by
  unfold x6_corner_j83
  refine x_aload_n (μ := mu_x6_corner) (pc := 83) 0 dX6_corner_83 rfl ?_
  refine x_iload_n (μ := mu_x6_corner) (pc := 84) 2 dX6_corner_84 rfl ?_
  refine x_if (fun hT20 => ?_)
  refine x_callV_pi (μ := mu_x6_corner) (pc := 85) (ok_x6_here (ω := ω) (l := l) (d := d - 1) hl (by omega) hv2) gRel_E gRel_E (fun _ q => q) q1815 q1817 qs35 q226 q1818 dX6_corner_85 rfl hT20 hy_x6_here (by omega) (Nat.le_of_ble_eq_true rfl) rfl (Nat.le_of_ble_eq_true rfl) (fun x21 hr22 => ?_)
  refine x_callS_pi (μ := mu_x6_corner) (pc := 88) (ok_x6_isDigit (ω := ω) (l := l) (d := d - 1) hl (by omega) hr22) gRel_E gRel_E (fun _ q => q) q1537 q1538 q226 q1539 dX6_corner_88 hy_x6_isDigit (by omega) (Nat.le_of_ble_eq_true rfl) rfl (Nat.le_of_ble_eq_true rfl) (fun x23 hr24 => ?_)
  refine x_if_ne (μ := mu_x6_corner) (pc := 91) (tgt := 105) dX6_corner_91 rfl hr24 ?_ ?_
  · refine x_iconst (μ := mu_x6_corner) (pc := 105) dX6_corner_105 ?_
    refine x_goto (μ := mu_x6_corner) (pc := 106) (tgt := 112) dX6_corner_106 rfl ?_
    exact x_iret (μ := mu_x6_corner) (pc := 112) dX6_corner_112 rfl rfl (gRel_E.1 _) (show g32 0 from (by decide))
  · refine x_aload_n (μ := mu_x6_corner) (pc := 94) 0 dX6_corner_94 rfl ?_
    refine x_iload_n (μ := mu_x6_corner) (pc := 95) 2 dX6_corner_95 rfl ?_
    refine x_callV_pi (μ := mu_x6_corner) (pc := 96) (ok_x6_here (ω := ω) (l := l) (d := d - 1) hl (by omega) hv2) gRel_E gRel_E (fun _ q => q) q1815 q1817 qs35 q226 q1818 dX6_corner_96 rfl hT20 hy_x6_here (by omega) (Nat.le_of_ble_eq_true rfl) rfl (Nat.le_of_ble_eq_true rfl) (fun x25 hr26 => ?_)
    refine x_callS_pi (μ := mu_x6_corner) (pc := 99) (ok_x6_isLetter (ω := ω) (l := l) (d := d - 1) hl (by omega) hr26) gRel_E gRel_E (fun _ q => q) q1914 q1915 q226 q1916 dX6_corner_99 hy_x6_isLetter (by omega) (Nat.le_of_ble_eq_true rfl) rfl (Nat.le_of_ble_eq_true rfl) (fun x27 hr28 => ?_)
    refine x_if_eq (μ := mu_x6_corner) (pc := 102) (tgt := 109) dX6_corner_102 rfl hr28 ?_ ?_
    · refine x_iload_n (μ := mu_x6_corner) (pc := 109) 2 dX6_corner_109 rfl ?_
      refine x_iload_n (μ := mu_x6_corner) (pc := 110) 1 dX6_corner_110 rfl ?_
      refine x_isub (μ := mu_x6_corner) (pc := 111) dX6_corner_111 ?_
      refine x_w1 ?_
      exact x_iret (μ := mu_x6_corner) (pc := 112) dX6_corner_112 rfl rfl (gRel_E.1 _) (show g32 (w32 (v2 - v1)) from (w32_rng _))
    · refine x_iconst (μ := mu_x6_corner) (pc := 105) dX6_corner_105 ?_
      refine x_goto (μ := mu_x6_corner) (pc := 106) (tgt := 112) dX6_corner_106 rfl ?_
      exact x_iret (μ := mu_x6_corner) (pc := 112) dX6_corner_112 rfl rfl (gRel_E.1 _) (show g32 0 from (by decide))
def x6_corner_j53 (σ : gMem) (v0 : Nat) (v1 : Int) (v2 : Int) : Option Int := if mT σ v0 = 6 then (x6_here v0 v2 σ).bind (fun x12 => (x6_isDigit x12 σ).bind (fun x14 => if x14 ≠ 0 then (x6_here v0 (w32 (v2 + 1)) σ).bind (fun x16 => (x6_isDigit x16 σ).bind (fun x18 => if x18 = 0 then x6_corner_j83 σ v0 v1 (w32 (v2 + 1))  else x6_corner_j83 σ v0 v1 (w32 (w32 (v2 + 1) + 1)) )) else some 0)) else none
set_option maxRecDepth 100000 in
theorem okj_x6_corner_j53 {ω : gW} {l : Launch} {d : Nat} {σ : gMem} {v0 : Nat} {v1 : Int} {v2 : Int} (hl : l.stackTraces = false) (hdp : 1 ≤ d) (hv1 : g32 v1) (hv2 : g32 v2) : GG (fun x : Int => (.inl (some (vI x)), σ)) gE ω l d mu_x6_corner σ 53 [(0, vR v0), (1, vI v1), (2, vI v2)] [] σ (x6_corner_j53 σ v0 v1 v2 ) := by
  unfold x6_corner_j53
  refine x_aload_n (μ := mu_x6_corner) (pc := 53) 0 dX6_corner_53 rfl ?_
  refine x_iload_n (μ := mu_x6_corner) (pc := 54) 2 dX6_corner_54 rfl ?_
  refine x_if (fun hT11 => ?_)
  refine x_callV_pi (μ := mu_x6_corner) (pc := 55) (ok_x6_here (ω := ω) (l := l) (d := d - 1) hl (by omega) hv2) gRel_E gRel_E (fun _ q => q) q1815 q1817 qs35 q226 q1818 dX6_corner_55 rfl hT11 hy_x6_here (by omega) (Nat.le_of_ble_eq_true rfl) rfl (Nat.le_of_ble_eq_true rfl) (fun x12 hr13 => ?_)
  refine x_callS_pi (μ := mu_x6_corner) (pc := 58) (ok_x6_isDigit (ω := ω) (l := l) (d := d - 1) hl (by omega) hr13) gRel_E gRel_E (fun _ q => q) q1537 q1538 q226 q1539 dX6_corner_58 hy_x6_isDigit (by omega) (Nat.le_of_ble_eq_true rfl) rfl (Nat.le_of_ble_eq_true rfl) (fun x14 hr15 => ?_)
  refine x_if_ne (μ := mu_x6_corner) (pc := 61) (tgt := 66) dX6_corner_61 rfl hr15 ?_ ?_
  · refine x_iincw (μ := mu_x6_corner) (pc := 66) (lv' := [(2, vI (w32 (v2 + 1))), (0, vR v0), (1, vI v1)]) 2 dX6_corner_66 rfl (by decide) rfl ?_
    refine x_aload_n (μ := mu_x6_corner) (pc := 69) 1 dX6_corner_69 rfl ?_
    refine x_iload_n (μ := mu_x6_corner) (pc := 70) 0 dX6_corner_70 rfl ?_
    refine x_callV_pi (μ := mu_x6_corner) (pc := 71) (ok_x6_here (ω := ω) (l := l) (d := d - 1) hl (by omega) (w32_rng _)) gRel_E gRel_E (fun _ q => q) q1815 q1817 qs35 q226 q1818 dX6_corner_71 rfl hT11 hy_x6_here (by omega) (Nat.le_of_ble_eq_true rfl) rfl (Nat.le_of_ble_eq_true rfl) (fun x16 hr17 => ?_)
    refine x_callS_pi (μ := mu_x6_corner) (pc := 74) (ok_x6_isDigit (ω := ω) (l := l) (d := d - 1) hl (by omega) hr17) gRel_E gRel_E (fun _ q => q) q1537 q1538 q226 q1539 dX6_corner_74 hy_x6_isDigit (by omega) (Nat.le_of_ble_eq_true rfl) rfl (Nat.le_of_ble_eq_true rfl) (fun x18 hr19 => ?_)
    refine x_if_eq (μ := mu_x6_corner) (pc := 77) (tgt := 83) dX6_corner_77 rfl hr19 ?_ ?_
    · refine x_loc (lv' := [(0, vR v0), (1, vI v1), (2, vI (w32 (v2 + 1)))]) [1, 2, 0] rfl ?_
      exact okj_x6_corner_j83 hl hdp hv1 (w32_rng _)
    · refine x_iincw (μ := mu_x6_corner) (pc := 80) (lv' := [(2, vI (w32 (w32 (v2 + 1) + 1))), (0, vR v0), (1, vI v1)]) 0 dX6_corner_80 rfl (by decide) rfl ?_
      refine x_loc (lv' := [(0, vR v0), (1, vI v1), (2, vI (w32 (w32 (v2 + 1) + 1)))]) [1, 2, 0] rfl ?_
      exact okj_x6_corner_j83 hl hdp hv1 (w32_rng _)
  · refine x_iconst (μ := mu_x6_corner) (pc := 64) dX6_corner_64 ?_
    exact x_iret (μ := mu_x6_corner) (pc := 65) dX6_corner_65 rfl rfl (gRel_E.1 _) (show g32 0 from (by decide))
def x6_corner_j15 (σ : gMem) (v0 : Nat) (v1 : Int) (v2 : Int) : Option Int := if mT σ v0 = 6 then (x6_here v0 v2 σ).bind (fun x5 => if x5 < 65 then some 0 else (x6_here v0 v2 σ).bind (fun x7 => if x7 ≤ 74 then (x6_here v0 (w32 (v2 + 1)) σ).bind (fun x9 => if x9 ≠ 36 then x6_corner_j53 σ v0 v1 (w32 (v2 + 1))  else x6_corner_j53 σ v0 v1 (w32 (w32 (v2 + 1) + 1)) ) else some 0)) else none
set_option maxRecDepth 100000 in
theorem okj_x6_corner_j15 {ω : gW} {l : Launch} {d : Nat} {σ : gMem} {v0 : Nat} {v1 : Int} {v2 : Int} (hl : l.stackTraces = false) (hdp : 1 ≤ d) (hv1 : g32 v1) (hv2 : g32 v2) : GG (fun x : Int => (.inl (some (vI x)), σ)) gE ω l d mu_x6_corner σ 15 [(0, vR v0), (1, vI v1), (2, vI v2)] [] σ (x6_corner_j15 σ v0 v1 v2 ) := by
  unfold x6_corner_j15
  refine x_aload_n (μ := mu_x6_corner) (pc := 15) 0 dX6_corner_15 rfl ?_
  refine x_iload_n (μ := mu_x6_corner) (pc := 16) 2 dX6_corner_16 rfl ?_
  refine x_if (fun hT4 => ?_)
  refine x_callV_pi (μ := mu_x6_corner) (pc := 17) (ok_x6_here (ω := ω) (l := l) (d := d - 1) hl (by omega) hv2) gRel_E gRel_E (fun _ q => q) q1815 q1817 qs35 q226 q1818 dX6_corner_17 rfl hT4 hy_x6_here (by omega) (Nat.le_of_ble_eq_true rfl) rfl (Nat.le_of_ble_eq_true rfl) (fun x5 hr6 => ?_)
  refine x_bipush (μ := mu_x6_corner) (pc := 20) dX6_corner_20 (by decide) ?_
  refine x_icmp_lt (μ := mu_x6_corner) (pc := 22) (tgt := 35) dX6_corner_22 rfl hr6 (by decide) ?_ ?_
  · refine x_iconst (μ := mu_x6_corner) (pc := 35) dX6_corner_35 ?_
    exact x_iret (μ := mu_x6_corner) (pc := 36) dX6_corner_36 rfl rfl (gRel_E.1 _) (show g32 0 from (by decide))
  · refine x_aload_n (μ := mu_x6_corner) (pc := 25) 0 dX6_corner_25 rfl ?_
    refine x_iload_n (μ := mu_x6_corner) (pc := 26) 2 dX6_corner_26 rfl ?_
    refine x_callV_pi (μ := mu_x6_corner) (pc := 27) (ok_x6_here (ω := ω) (l := l) (d := d - 1) hl (by omega) hv2) gRel_E gRel_E (fun _ q => q) q1815 q1817 qs35 q226 q1818 dX6_corner_27 rfl hT4 hy_x6_here (by omega) (Nat.le_of_ble_eq_true rfl) rfl (Nat.le_of_ble_eq_true rfl) (fun x7 hr8 => ?_)
    refine x_bipush (μ := mu_x6_corner) (pc := 30) dX6_corner_30 (by decide) ?_
    refine x_icmp_le (μ := mu_x6_corner) (pc := 32) (tgt := 37) dX6_corner_32 rfl hr8 (by decide) ?_ ?_
    · refine x_iincw (μ := mu_x6_corner) (pc := 37) (lv' := [(2, vI (w32 (v2 + 1))), (0, vR v0), (1, vI v1)]) 2 dX6_corner_37 rfl (by decide) rfl ?_
      refine x_aload_n (μ := mu_x6_corner) (pc := 40) 1 dX6_corner_40 rfl ?_
      refine x_iload_n (μ := mu_x6_corner) (pc := 41) 0 dX6_corner_41 rfl ?_
      refine x_callV_pi (μ := mu_x6_corner) (pc := 42) (ok_x6_here (ω := ω) (l := l) (d := d - 1) hl (by omega) (w32_rng _)) gRel_E gRel_E (fun _ q => q) q1815 q1817 qs35 q226 q1818 dX6_corner_42 rfl hT4 hy_x6_here (by omega) (Nat.le_of_ble_eq_true rfl) rfl (Nat.le_of_ble_eq_true rfl) (fun x9 hr10 => ?_)
      refine x_bipush (μ := mu_x6_corner) (pc := 45) dX6_corner_45 (by decide) ?_
      refine x_icmp_ne (μ := mu_x6_corner) (pc := 47) (tgt := 53) dX6_corner_47 rfl hr10 (by decide) ?_ ?_
      · refine x_loc (lv' := [(0, vR v0), (1, vI v1), (2, vI (w32 (v2 + 1)))]) [1, 2, 0] rfl ?_
        exact okj_x6_corner_j53 hl hdp hv1 (w32_rng _)
      · refine x_iincw (μ := mu_x6_corner) (pc := 50) (lv' := [(2, vI (w32 (w32 (v2 + 1) + 1))), (0, vR v0), (1, vI v1)]) 0 dX6_corner_50 rfl (by decide) rfl ?_
        refine x_loc (lv' := [(0, vR v0), (1, vI v1), (2, vI (w32 (w32 (v2 + 1) + 1)))]) [1, 2, 0] rfl ?_
        exact okj_x6_corner_j53 hl hdp hv1 (w32_rng _)
    · refine x_iconst (μ := mu_x6_corner) (pc := 35) dX6_corner_35 ?_
      exact x_iret (μ := mu_x6_corner) (pc := 36) dX6_corner_36 rfl rfl (gRel_E.1 _) (show g32 0 from (by decide))
def x6_corner (v0 : Nat) (v1 : Int) (σ : gMem) : Option Int := if mT σ v0 = 6 then (x6_here v0 v1 σ).bind (fun x2 => if x2 ≠ 36 then x6_corner_j15 σ v0 v1 v1  else x6_corner_j15 σ v0 v1 (w32 (v1 + 1)) ) else none
set_option maxRecDepth 100000 in
theorem ok_x6_corner {ω : gW} {l : Launch} {d : Nat} {σ : gMem} {v0 : Nat} {v1 : Int} (hl : l.stackTraces = false) (hdp : 1 ≤ d) (hv1 : g32 v1) : gK (fun x : Int => (.inl (some (vI x)), σ)) gE ω l d mu_x6_corner [vR v0, vI v1] σ (x6_corner v0 v1 σ) := by
  refine gK.of hp_X6 (Nat.le_of_ble_eq_true rfl) ?_
  unfold x6_corner
  refine x_iload_n (μ := mu_x6_corner) (pc := 0) 1 dX6_corner_0 rfl ?_
  refine x_istore_n (μ := mu_x6_corner) (pc := 1) (lv' := [(2, vI v1), (0, vR v0), (1, vI v1)]) dX6_corner_1 rfl (by decide) rfl ?_
  refine x_aload_n (μ := mu_x6_corner) (pc := 2) 1 dX6_corner_2 rfl ?_
  refine x_iload_n (μ := mu_x6_corner) (pc := 3) 0 dX6_corner_3 rfl ?_
  refine x_if (fun hT1 => ?_)
  refine x_callV_pi (μ := mu_x6_corner) (pc := 4) (ok_x6_here (ω := ω) (l := l) (d := d - 1) hl (by omega) hv1) gRel_E gRel_E (fun _ q => q) q1815 q1817 qs35 q226 q1818 dX6_corner_4 rfl hT1 hy_x6_here (by omega) (Nat.le_of_ble_eq_true rfl) rfl (Nat.le_of_ble_eq_true rfl) (fun x2 hr3 => ?_)
  refine x_bipush (μ := mu_x6_corner) (pc := 7) dX6_corner_7 (by decide) ?_
  refine x_icmp_ne (μ := mu_x6_corner) (pc := 9) (tgt := 15) dX6_corner_9 rfl hr3 (by decide) ?_ ?_
  · refine x_loc (lv' := [(0, vR v0), (1, vI v1), (2, vI v1)]) [1, 2, 0] rfl ?_
    exact okj_x6_corner_j15 hl hdp hv1 hv1
  · refine x_iincw (μ := mu_x6_corner) (pc := 12) (lv' := [(2, vI (w32 (v1 + 1))), (0, vR v0), (1, vI v1)]) 0 dX6_corner_12 rfl (by decide) rfl ?_
    refine x_loc (lv' := [(0, vR v0), (1, vI v1), (2, vI (w32 (v1 + 1)))]) [1, 2, 0] rfl ?_
    exact okj_x6_corner_j15 hl hdp hv1 (w32_rng _)
def x6_version_j88 (N : Nat) (v0 : Nat) (v1 : Int) (s : gMem) : Option gR := if mT s v0 = 6 then (x6_here v0 (mI s v0 6) s).bind (fun x24 => (x6_isDigit x24 s).bind (fun x26 => if x26 = 0 then (x6_digits N v0 v1 (mI s v0 6) s).bind (fun x29 => some (.inl (some (vI (w32 x29))), s)) else (x6_wrong v0 1 (mI s v0 6) s).bind (fun x32 => if mT (x32.2) (x32.1) = 25 then some (.inr "SheetBranches$Wrong", x32.2) else none))) else none
set_option maxRecDepth 100000 in
theorem okj_x6_version_j88 {ω : gW} {l : Launch} {d : Nat} {N : Nat} {σ0 : gMem} {s : gMem} {v0 : Nat} {v1 : Int} (hl : l.stackTraces = false) (hdp : 10 ≤ d) (hv1 : g32 v1) : GG (fun p : gR => p) gE ω l d mu_x6_version σ0 88 [(0, vR v0), (1, vI v1)] [] s (x6_version_j88 N v0 v1 s) := by
  unfold x6_version_j88
  refine x_aload_n (μ := mu_x6_version) (pc := 88) 0 dX6_version_88 rfl ?_
  refine x_aload_n (μ := mu_x6_version) (pc := 89) 0 dX6_version_89 rfl ?_
  refine x_if (fun hT22 => ?_)
  refine x_fgi (μ := mu_x6_version) (pc := 90) fX6_6 q487 dX6_version_90 hT22 (fun hr23 => ?_)
  refine x_callV_pi (μ := mu_x6_version) (pc := 93) (ok_x6_here (ω := ω) (l := l) (d := d - 1) hl (by omega) hr23) gRel_E gRel_E (fun _ q => q) q1815 q1817 qs35 q226 q1818 dX6_version_93 rfl hT22 hy_x6_here (by omega) (Nat.le_of_ble_eq_true rfl) rfl (Nat.le_of_ble_eq_true rfl) (fun x24 hr25 => ?_)
  refine x_callS_pi (μ := mu_x6_version) (pc := 96) (ok_x6_isDigit (ω := ω) (l := l) (d := d - 1) hl (by omega) hr25) gRel_E gRel_E (fun _ q => q) q1537 q1538 q226 q1539 dX6_version_96 hy_x6_isDigit (by omega) (Nat.le_of_ble_eq_true rfl) rfl (Nat.le_of_ble_eq_true rfl) (fun x26 hr27 => ?_)
  refine x_if_eq (μ := mu_x6_version) (pc := 99) (tgt := 112) dX6_version_99 rfl hr27 ?_ ?_
  · refine x_aload_n (μ := mu_x6_version) (pc := 112) 0 dX6_version_112 rfl ?_
    refine x_iload_n (μ := mu_x6_version) (pc := 113) 1 dX6_version_113 rfl ?_
    refine x_aload_n (μ := mu_x6_version) (pc := 114) 0 dX6_version_114 rfl ?_
    refine x_fgi (μ := mu_x6_version) (pc := 115) fX6_6 q487 dX6_version_115 hT22 (fun hr28 => ?_)
    refine x_callV_pl (μ := mu_x6_version) (pc := 118) (ok_x6_digits (ω := ω) (l := l) (d := d - 1) hl (by omega) hv1 hr28) gRel_E gRel_E (fun _ q => q) q1860 q1862 qs42 q226 q1863 dX6_version_118 rfl hT22 hy_x6_digits (by omega) (Nat.le_of_ble_eq_true rfl) rfl (Nat.le_of_ble_eq_true rfl) (fun x29 hr30 => ?_)
    refine x_l2i (μ := mu_x6_version) (pc := 121) dX6_version_121 ?_
    refine x_w1 ?_
    exact x_iret (μ := mu_x6_version) (pc := 122) (a1 := ((.inl (some (vI (w32 x29))), s) : gR)) dX6_version_122 rfl rfl (gRel_E.1 _) (show g32 (w32 x29) from (w32_rng _))
  · refine x_aload_n (μ := mu_x6_version) (pc := 102) 0 dX6_version_102 rfl ?_
    refine x_iconst (μ := mu_x6_version) (pc := 103) dX6_version_103 ?_
    refine x_aload_n (μ := mu_x6_version) (pc := 104) 0 dX6_version_104 rfl ?_
    refine x_fgi (μ := mu_x6_version) (pc := 105) fX6_6 q487 dX6_version_105 hT22 (fun hr31 => ?_)
    refine x_callV_mr (μ := mu_x6_version) (pc := 108) (ok_x6_wrong (ω := ω) (l := l) (d := d - 1) hl (by omega) (by decide) hr31) gRel_E gRel_E (fun _ q => q) q1827 q1829 qs38 q226 q1830 dX6_version_108 rfl hT22 hy_x6_wrong (by omega) (Nat.le_of_ble_eq_true rfl) rfl (Nat.le_of_ble_eq_true rfl) (fun x32 k33 => ?_)
    refine x_if (fun hT34 => ?_)
    exact x_athrow (μ := mu_x6_version) (pc := 111) dX6_version_111 hT34 (by decide)
def x6_version (N : Nat) (v0 : Nat) (σ : gMem) : Option gR := if mT σ v0 = 6 then (x6_here v0 (mI σ v0 6) σ).bind (fun x3 => if x3 = 64 then gLet (wI σ v0 6 (w32 ((mI σ v0 6) + 1))) (fun s6 => (x6_here v0 (mI s6 v0 6) s6).bind (fun x10 => (x6_isDigit x10 s6).bind (fun x12 => if x12 ≠ 0 then gLet (wI s6 v0 6 (w32 ((mI s6 v0 6) + 1))) (fun s15 => (x6_here v0 (mI s15 v0 6) s15).bind (fun x18 => (x6_isDigit x18 s15).bind (fun x20 => if x20 = 0 then x6_version_j88 N v0 (mI s6 v0 6)  s15 else gLet (wI s15 v0 6 (w32 ((mI s15 v0 6) + 1))) (fun s36 => x6_version_j88 N v0 (mI s6 v0 6)  s36)))) else (x6_wrongJust v0 1 (mI s6 v0 6) s6).bind (fun x39 => if mT (x39.2) (x39.1) = 25 then some (.inr "SheetBranches$Wrong", x39.2) else none)))) else some (.inl (some (vI (-1))), σ)) else none
set_option maxRecDepth 100000 in
theorem ok_x6_version {ω : gW} {l : Launch} {d : Nat} {N : Nat} {σ : gMem} {v0 : Nat} (hl : l.stackTraces = false) (hdp : 10 ≤ d) : gK (fun p : gR => p) gE ω l d mu_x6_version [vR v0] σ (x6_version N v0 σ) := by
  refine gK.of hp_X6 (Nat.le_of_ble_eq_true rfl) ?_
  unfold x6_version
  refine x_aload_n (μ := mu_x6_version) (pc := 0) 0 dX6_version_0 rfl ?_
  refine x_aload_n (μ := mu_x6_version) (pc := 1) 0 dX6_version_1 rfl ?_
  refine x_if (fun hT1 => ?_)
  refine x_fgi (μ := mu_x6_version) (pc := 2) fX6_6 q487 dX6_version_2 hT1 (fun hr2 => ?_)
  refine x_callV_pi (μ := mu_x6_version) (pc := 5) (ok_x6_here (ω := ω) (l := l) (d := d - 1) hl (by omega) hr2) gRel_E gRel_E (fun _ q => q) q1815 q1817 qs35 q226 q1818 dX6_version_5 rfl hT1 hy_x6_here (by omega) (Nat.le_of_ble_eq_true rfl) rfl (Nat.le_of_ble_eq_true rfl) (fun x3 hr4 => ?_)
  refine x_bipush (μ := mu_x6_version) (pc := 8) dX6_version_8 (by decide) ?_
  refine x_icmp_eq (μ := mu_x6_version) (pc := 10) (tgt := 15) dX6_version_10 rfl hr4 (by decide) ?_ ?_
  · refine x_aload_n (μ := mu_x6_version) (pc := 15) 0 dX6_version_15 rfl ?_
    refine x_dup (μ := mu_x6_version) (pc := 16) dX6_version_16 rfl ?_
    refine x_fgi (μ := mu_x6_version) (pc := 17) fX6_6 q487 dX6_version_17 hT1 (fun hr5 => ?_)
    refine x_iconst (μ := mu_x6_version) (pc := 20) dX6_version_20 ?_
    refine x_iadd (μ := mu_x6_version) (pc := 21) dX6_version_21 ?_
    refine x_w1 ?_
    refine x_fpi (μ := mu_x6_version) (pc := 22) fX6_6 q487 dX6_version_22 hT1 (fun _ q => gE_wI q) ?_
    refine x_let (fun s6 e7 => ?_)
    refine x_aload_n (μ := mu_x6_version) (pc := 25) 0 dX6_version_25 rfl ?_
    refine x_fgi (μ := mu_x6_version) (pc := 26) fX6_6 q487 dX6_version_26 (gT_I e7 hT1) (fun hr8 => ?_)
    refine x_istore_n (μ := mu_x6_version) (pc := 29) (lv' := [(1, vI (mI s6 v0 6)), (0, vR v0)]) dX6_version_29 rfl (by decide) rfl ?_
    refine x_aload_n (μ := mu_x6_version) (pc := 30) 1 dX6_version_30 rfl ?_
    refine x_aload_n (μ := mu_x6_version) (pc := 31) 1 dX6_version_31 rfl ?_
    refine x_fgi (μ := mu_x6_version) (pc := 32) fX6_6 q487 dX6_version_32 (gT_I e7 hT1) (fun hr9 => ?_)
    refine x_callV_pi (μ := mu_x6_version) (pc := 35) (ok_x6_here (ω := ω) (l := l) (d := d - 1) hl (by omega) hr9) gRel_E gRel_E (fun _ q => q) q1815 q1817 qs35 q226 q1818 dX6_version_35 rfl (gT_I e7 hT1) hy_x6_here (by omega) (Nat.le_of_ble_eq_true rfl) rfl (Nat.le_of_ble_eq_true rfl) (fun x10 hr11 => ?_)
    refine x_callS_pi (μ := mu_x6_version) (pc := 38) (ok_x6_isDigit (ω := ω) (l := l) (d := d - 1) hl (by omega) hr11) gRel_E gRel_E (fun _ q => q) q1537 q1538 q226 q1539 dX6_version_38 hy_x6_isDigit (by omega) (Nat.le_of_ble_eq_true rfl) rfl (Nat.le_of_ble_eq_true rfl) (fun x12 hr13 => ?_)
    refine x_if_ne (μ := mu_x6_version) (pc := 41) (tgt := 54) dX6_version_41 rfl hr13 ?_ ?_
    · refine x_aload_n (μ := mu_x6_version) (pc := 54) 1 dX6_version_54 rfl ?_
      refine x_dup (μ := mu_x6_version) (pc := 55) dX6_version_55 rfl ?_
      refine x_fgi (μ := mu_x6_version) (pc := 56) fX6_6 q487 dX6_version_56 (gT_I e7 hT1) (fun hr14 => ?_)
      refine x_iconst (μ := mu_x6_version) (pc := 59) dX6_version_59 ?_
      refine x_iadd (μ := mu_x6_version) (pc := 60) dX6_version_60 ?_
      refine x_w1 ?_
      refine x_fpi (μ := mu_x6_version) (pc := 61) fX6_6 q487 dX6_version_61 (gT_I e7 hT1) (fun _ q => gE_wI q) ?_
      refine x_let (fun s15 e16 => ?_)
      refine x_aload_n (μ := mu_x6_version) (pc := 64) 1 dX6_version_64 rfl ?_
      refine x_aload_n (μ := mu_x6_version) (pc := 65) 1 dX6_version_65 rfl ?_
      refine x_fgi (μ := mu_x6_version) (pc := 66) fX6_6 q487 dX6_version_66 (gT_I e16 (gT_I e7 hT1)) (fun hr17 => ?_)
      refine x_callV_pi (μ := mu_x6_version) (pc := 69) (ok_x6_here (ω := ω) (l := l) (d := d - 1) hl (by omega) hr17) gRel_E gRel_E (fun _ q => q) q1815 q1817 qs35 q226 q1818 dX6_version_69 rfl (gT_I e16 (gT_I e7 hT1)) hy_x6_here (by omega) (Nat.le_of_ble_eq_true rfl) rfl (Nat.le_of_ble_eq_true rfl) (fun x18 hr19 => ?_)
      refine x_callS_pi (μ := mu_x6_version) (pc := 72) (ok_x6_isDigit (ω := ω) (l := l) (d := d - 1) hl (by omega) hr19) gRel_E gRel_E (fun _ q => q) q1537 q1538 q226 q1539 dX6_version_72 hy_x6_isDigit (by omega) (Nat.le_of_ble_eq_true rfl) rfl (Nat.le_of_ble_eq_true rfl) (fun x20 hr21 => ?_)
      refine x_if_eq (μ := mu_x6_version) (pc := 75) (tgt := 88) dX6_version_75 rfl hr21 ?_ ?_
      · refine x_loc (lv' := [(0, vR v0), (1, vI (mI s6 v0 6))]) [1, 0] rfl ?_
        exact okj_x6_version_j88 hl hdp hr8
      · refine x_aload_n (μ := mu_x6_version) (pc := 78) 1 dX6_version_78 rfl ?_
        refine x_dup (μ := mu_x6_version) (pc := 79) dX6_version_79 rfl ?_
        refine x_fgi (μ := mu_x6_version) (pc := 80) fX6_6 q487 dX6_version_80 (gT_I e16 (gT_I e7 hT1)) (fun hr35 => ?_)
        refine x_iconst (μ := mu_x6_version) (pc := 83) dX6_version_83 ?_
        refine x_iadd (μ := mu_x6_version) (pc := 84) dX6_version_84 ?_
        refine x_w1 ?_
        refine x_fpi (μ := mu_x6_version) (pc := 85) fX6_6 q487 dX6_version_85 (gT_I e16 (gT_I e7 hT1)) (fun _ q => gE_wI q) ?_
        refine x_let (fun s36 e37 => ?_)
        refine x_loc (lv' := [(0, vR v0), (1, vI (mI s6 v0 6))]) [1, 0] rfl ?_
        exact okj_x6_version_j88 hl hdp hr8
    · refine x_aload_n (μ := mu_x6_version) (pc := 44) 1 dX6_version_44 rfl ?_
      refine x_iconst (μ := mu_x6_version) (pc := 45) dX6_version_45 ?_
      refine x_aload_n (μ := mu_x6_version) (pc := 46) 1 dX6_version_46 rfl ?_
      refine x_fgi (μ := mu_x6_version) (pc := 47) fX6_6 q487 dX6_version_47 (gT_I e7 hT1) (fun hr38 => ?_)
      refine x_callV_mr (μ := mu_x6_version) (pc := 50) (ok_x6_wrongJust (ω := ω) (l := l) (d := d - 1) hl (by omega) (by decide) hr38) gRel_E gRel_E (fun _ q => q) q1831 q1833 qs39 q226 q1834 dX6_version_50 rfl (gT_I e7 hT1) hy_x6_wrongJust (by omega) (Nat.le_of_ble_eq_true rfl) rfl (Nat.le_of_ble_eq_true rfl) (fun x39 k40 => ?_)
      refine x_if (fun hT41 => ?_)
      exact x_athrow (μ := mu_x6_version) (pc := 53) dX6_version_53 hT41 (by decide)
  · refine x_iconst (μ := mu_x6_version) (pc := 13) dX6_version_13 ?_
    exact x_iret (μ := mu_x6_version) (pc := 14) (a1 := ((.inl (some (vI (-1))), σ) : gR)) dX6_version_14 rfl rfl (gRel_E.1 _) (show g32 (-1) from (by decide))
def x6_cornerOf_j72 (N : Nat) (v0 : Nat) (v2 : Int) (v3 : Nat) (v4 : Int) (v5 : Int) (v6 : Int) (v7 : Int) (s : gMem) : Option (Nat × gMem) := if mT s v0 = 6 then (x6_digits N v0 v4 v2 s).bind (fun x9 => if v3 = 0 then some (0, s) else if mT s v3 = 8 then (x9_has v3 (w32 (x9 - 1)) v6 s).bind (fun x12 => if x12 ≠ 0 then gLet (wN s 14 4) (fun s15 => if mT s15 (mR s15 v3 0) = 100 then if 0 ≤ (w32 (x9 - 1)) ∧ (w32 (x9 - 1)) < (mN s15 (mR s15 v3 0) : Int) then if mT s15 (mR s15 v3 1) = 100 then if 0 ≤ v6 ∧ v6 < (mN s15 (mR s15 v3 1) : Int) then (x16_init (mZ s) (mI s15 (mR s15 v3 0) (w32 (x9 - 1)).toNat) (mI s15 (mR s15 v3 1) v6.toNat) v7 v5 s15).bind (fun x21 => some (mZ s, x21)) else none else none else none else none) else some (0, s)) else none) else none
set_option maxRecDepth 100000 in
theorem okj_x6_cornerOf_j72 {ω : gW} {l : Launch} {d : Nat} {N : Nat} {σ0 : gMem} {s : gMem} {v0 : Nat} {v2 : Int} {v3 : Nat} {v4 : Int} {v5 : Int} {v6 : Int} {v7 : Int} (hl : l.stackTraces = false) (hdp : 3 ≤ d) (hv2 : g32 v2) (hv4 : g32 v4) (hv5 : g32 v5) (hv6 : g32 v6) (hv7 : g32 v7) : GG (fun p : Nat × gMem => (.inl (some (vR p.1)), p.2)) gE ω l d mu_x6_cornerOf σ0 72 [(0, vR v0), (2, vI v2), (3, vR v3), (4, vI v4), (5, vI v5), (6, vI v6), (7, vI v7)] [] s (x6_cornerOf_j72 N v0 v2 v3 v4 v5 v6 v7 s) := by
  unfold x6_cornerOf_j72
  refine x_aload_n (μ := mu_x6_cornerOf) (pc := 72) 0 dX6_cornerOf_72 rfl ?_
  refine x_iload (μ := mu_x6_cornerOf) (pc := 73) 3 dX6_cornerOf_73 rfl ?_
  refine x_iload_n (μ := mu_x6_cornerOf) (pc := 75) 1 dX6_cornerOf_75 rfl ?_
  refine x_if (fun hT8 => ?_)
  refine x_callV_pl (μ := mu_x6_cornerOf) (pc := 76) (ok_x6_digits (ω := ω) (l := l) (d := d - 1) hl (by omega) hv4 hv2) gRel_E gRel_E (fun _ q => q) q1860 q1862 qs42 q226 q1863 dX6_cornerOf_76 rfl hT8 hy_x6_digits (by omega) (Nat.le_of_ble_eq_true rfl) rfl (Nat.le_of_ble_eq_true rfl) (fun x9 hr10 => ?_)
  refine x_l2i (μ := mu_x6_cornerOf) (pc := 79) dX6_cornerOf_79 ?_
  refine x_iconst (μ := mu_x6_cornerOf) (pc := 80) dX6_cornerOf_80 ?_
  refine x_isub (μ := mu_x6_cornerOf) (pc := 81) dX6_cornerOf_81 ?_
  refine x_w1 ?_
  refine x_istore (μ := mu_x6_cornerOf) (pc := 82) (lv' := [(8, vI (w32 (x9 - 1))), (0, vR v0), (2, vI v2), (3, vR v3), (4, vI v4), (5, vI v5), (6, vI v6), (7, vI v7)]) dX6_cornerOf_82 (by decide) rfl ?_
  refine x_aload_n (μ := mu_x6_cornerOf) (pc := 84) 3 dX6_cornerOf_84 rfl ?_
  refine x_ifnull (μ := mu_x6_cornerOf) (pc := 85) (tgt := 99) dX6_cornerOf_85 rfl ?_ ?_
  · refine x_null (μ := mu_x6_cornerOf) (pc := 99) dX6_cornerOf_99 ?_
    exact x_aret (μ := mu_x6_cornerOf) (pc := 100) dX6_cornerOf_100 rfl (by first | exact Or.inl ⟨_, rfl⟩ | exact Or.inr ⟨_, rfl⟩) rfl (gRel_E.1 _) trivial
  · refine x_aload_n (μ := mu_x6_cornerOf) (pc := 88) 3 dX6_cornerOf_88 rfl ?_
    refine x_iload (μ := mu_x6_cornerOf) (pc := 89) 0 dX6_cornerOf_89 rfl ?_
    refine x_iload (μ := mu_x6_cornerOf) (pc := 91) 6 dX6_cornerOf_91 rfl ?_
    refine x_if (fun hT11 => ?_)
    refine x_callV_pi (μ := mu_x6_cornerOf) (pc := 93) (ok_x9_has (ω := ω) (l := l) (d := d - 1) hl (by omega) (w32_rng _) hv6) gRel_E gRel_E (fun _ q => q) q1933 q821 q822 q230 q823 dX6_cornerOf_93 rfl hT11 hy_x9_has (by omega) (Nat.le_of_ble_eq_true rfl) rfl (Nat.le_of_ble_eq_true rfl) (fun x12 hr13 => ?_)
    refine x_if_ne (μ := mu_x6_cornerOf) (pc := 96) (tgt := 101) dX6_cornerOf_96 rfl hr13 ?_ ?_
    · refine x_ok (fun ok14 => ?_)
      refine x_new (μ := mu_x6_cornerOf) (pc := 101) (ci := 13) gk_X16 gd_X16 q1934 q1935 q248 dX6_cornerOf_101 ?_
      refine x_let (fun s15 e16 => ?_)
      refine x_dup (μ := mu_x6_cornerOf) (pc := 104) dX6_cornerOf_104 rfl ?_
      refine x_aload_n (μ := mu_x6_cornerOf) (pc := 105) 3 dX6_cornerOf_105 rfl ?_
      refine x_fgrN (μ := mu_x6_cornerOf) (pc := 106) fX9_0 (by first | exact Or.inl ⟨_, rfl⟩ | exact Or.inr ⟨_, rfl⟩) q572 dX6_cornerOf_106 (gT_N e16 ok14 hT11 (by decide)) ?_
      refine x_iload (μ := mu_x6_cornerOf) (pc := 109) 0 dX6_cornerOf_109 rfl ?_
      refine x_if (fun hT17 => ?_)
      refine x_iald (μ := mu_x6_cornerOf) (pc := 111) dX6_cornerOf_111 hT17 rfl (fun hr18 => ?_)
      refine x_aload_n (μ := mu_x6_cornerOf) (pc := 112) 3 dX6_cornerOf_112 rfl ?_
      refine x_fgrN (μ := mu_x6_cornerOf) (pc := 113) fX9_1 (by first | exact Or.inl ⟨_, rfl⟩ | exact Or.inr ⟨_, rfl⟩) q577 dX6_cornerOf_113 (gT_N e16 ok14 hT11 (by decide)) ?_
      refine x_iload (μ := mu_x6_cornerOf) (pc := 116) 6 dX6_cornerOf_116 rfl ?_
      refine x_if (fun hT19 => ?_)
      refine x_iald (μ := mu_x6_cornerOf) (pc := 118) dX6_cornerOf_118 hT19 rfl (fun hr20 => ?_)
      refine x_iload (μ := mu_x6_cornerOf) (pc := 119) 7 dX6_cornerOf_119 rfl ?_
      refine x_iload (μ := mu_x6_cornerOf) (pc := 121) 5 dX6_cornerOf_121 rfl ?_
      refine x_callIN_mv (μ := mu_x6_cornerOf) (pc := 123) (ok_x16_init (ω := ω) (l := l) (d := d - 1) hl (by omega) hr18 hr20 hv7 hv5) gRel_E gRel_E (fun _ q => q) q1936 q1937 q248 q1938 dX6_cornerOf_123 (gT_ne (gT_new e16)) rfl hy_x16_init (by omega) (Nat.le_of_ble_eq_true rfl) rfl (Nat.le_of_ble_eq_true rfl) (fun x21 k22 => ?_)
      exact x_aret (μ := mu_x6_cornerOf) (pc := 126) dX6_cornerOf_126 rfl (by first | exact Or.inl ⟨_, rfl⟩ | exact Or.inr ⟨_, rfl⟩) rfl (gRel_E.1 _) trivial
    · refine x_null (μ := mu_x6_cornerOf) (pc := 99) dX6_cornerOf_99 ?_
      exact x_aret (μ := mu_x6_cornerOf) (pc := 100) dX6_cornerOf_100 rfl (by first | exact Or.inl ⟨_, rfl⟩ | exact Or.inr ⟨_, rfl⟩) rfl (gRel_E.1 _) trivial
def x6_cornerOf_j62 (N : Nat) (v0 : Nat) (v2 : Int) (v3 : Nat) (v4 : Int) (v5 : Int) (v6 : Int) (t0 : Int) (s : gMem) : Option (Nat × gMem) := if t0 = 0 then x6_cornerOf_j72 N v0 v2 v3 v4 v5 v6 t0  s else x6_cornerOf_j72 N v0 v2 v3 (w32 (v4 + 1)) v5 v6 t0  s
set_option maxRecDepth 100000 in
theorem okj_x6_cornerOf_j62 {ω : gW} {l : Launch} {d : Nat} {N : Nat} {σ0 : gMem} {s : gMem} {v0 : Nat} {v2 : Int} {v3 : Nat} {v4 : Int} {v5 : Int} {v6 : Int} {t0 : Int} (hl : l.stackTraces = false) (hdp : 3 ≤ d) (hv2 : g32 v2) (hv4 : g32 v4) (hv5 : g32 v5) (hv6 : g32 v6) (ht0 : g32 t0) : GG (fun p : Nat × gMem => (.inl (some (vR p.1)), p.2)) gE ω l d mu_x6_cornerOf σ0 62 [(0, vR v0), (2, vI v2), (3, vR v3), (4, vI v4), (5, vI v5), (6, vI v6)] [vI t0] s (x6_cornerOf_j62 N v0 v2 v3 v4 v5 v6 t0 s) := by
  unfold x6_cornerOf_j62
  refine x_istore (μ := mu_x6_cornerOf) (pc := 62) (lv' := [(7, vI t0), (0, vR v0), (2, vI v2), (3, vR v3), (4, vI v4), (5, vI v5), (6, vI v6)]) dX6_cornerOf_62 (by decide) rfl ?_
  refine x_iload (μ := mu_x6_cornerOf) (pc := 64) 0 dX6_cornerOf_64 rfl ?_
  refine x_if_eq (μ := mu_x6_cornerOf) (pc := 66) (tgt := 72) dX6_cornerOf_66 rfl ht0 ?_ ?_
  · refine x_loc (lv' := [(0, vR v0), (2, vI v2), (3, vR v3), (4, vI v4), (5, vI v5), (6, vI v6), (7, vI t0)]) [1, 2, 3, 4, 5, 6, 0] rfl ?_
    exact okj_x6_cornerOf_j72 hl hdp hv2 hv4 hv5 hv6 ht0
  · refine x_iincw (μ := mu_x6_cornerOf) (pc := 69) (lv' := [(4, vI (w32 (v4 + 1))), (7, vI t0), (0, vR v0), (2, vI v2), (3, vR v3), (5, vI v5), (6, vI v6)]) 4 dX6_cornerOf_69 rfl (by decide) rfl ?_
    refine x_loc (lv' := [(0, vR v0), (2, vI v2), (3, vR v3), (4, vI (w32 (v4 + 1))), (5, vI v5), (6, vI v6), (7, vI t0)]) [2, 3, 4, 0, 5, 6, 1] rfl ?_
    exact okj_x6_cornerOf_j72 hl hdp hv2 (w32_rng _) hv5 hv6 ht0
def x6_cornerOf_j30 (N : Nat) (v0 : Nat) (v2 : Int) (v3 : Nat) (v4 : Int) (v5 : Int) (s : gMem) : Option (Nat × gMem) := if mT s v0 = 6 then if mT s (mR s v0 3) = 102 then if 0 ≤ v4 ∧ v4 < (mN s (mR s v0 3) : Int) then if 0 ≤ (w32 (v4 + 1)) ∧ (w32 (v4 + 1)) < (mN s (mR s v0 3) : Int) then if mI s (mR s v0 3) (w32 (v4 + 1)).toNat ≠ 36 then x6_cornerOf_j62 N v0 v2 v3 (w32 (v4 + 1)) v5 (w32 ((mI s (mR s v0 3) v4.toNat) - 65)) 0 s else x6_cornerOf_j62 N v0 v2 v3 (w32 (v4 + 1)) v5 (w32 ((mI s (mR s v0 3) v4.toNat) - 65)) 1 s else none else none else none else none
set_option maxRecDepth 100000 in
theorem okj_x6_cornerOf_j30 {ω : gW} {l : Launch} {d : Nat} {N : Nat} {σ0 : gMem} {s : gMem} {v0 : Nat} {v2 : Int} {v3 : Nat} {v4 : Int} {v5 : Int} (hl : l.stackTraces = false) (hdp : 3 ≤ d) (hv2 : g32 v2) (hv4 : g32 v4) (hv5 : g32 v5) : GG (fun p : Nat × gMem => (.inl (some (vR p.1)), p.2)) gE ω l d mu_x6_cornerOf σ0 30 [(0, vR v0), (2, vI v2), (3, vR v3), (4, vI v4), (5, vI v5)] [] s (x6_cornerOf_j30 N v0 v2 v3 v4 v5 s) := by
  unfold x6_cornerOf_j30
  refine x_aload_n (μ := mu_x6_cornerOf) (pc := 30) 0 dX6_cornerOf_30 rfl ?_
  refine x_if (fun hT4 => ?_)
  refine x_fgr (μ := mu_x6_cornerOf) (pc := 31) fX6_3 (by first | exact Or.inl ⟨_, rfl⟩ | exact Or.inr ⟨_, rfl⟩) q484 dX6_cornerOf_31 hT4 ?_
  refine x_iload (μ := mu_x6_cornerOf) (pc := 34) 3 dX6_cornerOf_34 rfl ?_
  refine x_if (fun hT5 => ?_)
  refine x_bald (μ := mu_x6_cornerOf) (pc := 36) dX6_cornerOf_36 hT5 rfl (fun hr6 => ?_)
  refine x_bipush (μ := mu_x6_cornerOf) (pc := 37) dX6_cornerOf_37 (by decide) ?_
  refine x_isub (μ := mu_x6_cornerOf) (pc := 39) dX6_cornerOf_39 ?_
  refine x_w1 ?_
  refine x_istore (μ := mu_x6_cornerOf) (pc := 40) (lv' := [(6, vI (w32 ((mI s (mR s v0 3) v4.toNat) - 65))), (0, vR v0), (2, vI v2), (3, vR v3), (4, vI v4), (5, vI v5)]) dX6_cornerOf_40 (by decide) rfl ?_
  refine x_iincw (μ := mu_x6_cornerOf) (pc := 42) (lv' := [(4, vI (w32 (v4 + 1))), (6, vI (w32 ((mI s (mR s v0 3) v4.toNat) - 65))), (0, vR v0), (2, vI v2), (3, vR v3), (5, vI v5)]) 4 dX6_cornerOf_42 rfl (by decide) rfl ?_
  refine x_aload_n (μ := mu_x6_cornerOf) (pc := 45) 2 dX6_cornerOf_45 rfl ?_
  refine x_fgr (μ := mu_x6_cornerOf) (pc := 46) fX6_3 (by first | exact Or.inl ⟨_, rfl⟩ | exact Or.inr ⟨_, rfl⟩) q484 dX6_cornerOf_46 hT4 ?_
  refine x_iload (μ := mu_x6_cornerOf) (pc := 49) 0 dX6_cornerOf_49 rfl ?_
  refine x_bald (μ := mu_x6_cornerOf) (pc := 51) dX6_cornerOf_51 hT5 rfl (fun hr7 => ?_)
  refine x_bipush (μ := mu_x6_cornerOf) (pc := 52) dX6_cornerOf_52 (by decide) ?_
  refine x_icmp_ne (μ := mu_x6_cornerOf) (pc := 54) (tgt := 61) dX6_cornerOf_54 rfl hr7 (by decide) ?_ ?_
  · refine x_iconst (μ := mu_x6_cornerOf) (pc := 61) dX6_cornerOf_61 ?_
    refine x_loc (lv' := [(0, vR v0), (2, vI v2), (3, vR v3), (4, vI (w32 (v4 + 1))), (5, vI v5), (6, vI (w32 ((mI s (mR s v0 3) v4.toNat) - 65)))]) [2, 3, 4, 0, 5, 1] rfl ?_
    exact okj_x6_cornerOf_j62 hl hdp hv2 (w32_rng _) hv5 (w32_rng _) (by decide)
  · refine x_iconst (μ := mu_x6_cornerOf) (pc := 57) dX6_cornerOf_57 ?_
    refine x_goto (μ := mu_x6_cornerOf) (pc := 58) (tgt := 62) dX6_cornerOf_58 rfl ?_
    refine x_loc (lv' := [(0, vR v0), (2, vI v2), (3, vR v3), (4, vI (w32 (v4 + 1))), (5, vI v5), (6, vI (w32 ((mI s (mR s v0 3) v4.toNat) - 65)))]) [2, 3, 4, 0, 5, 1] rfl ?_
    exact okj_x6_cornerOf_j62 hl hdp hv2 (w32_rng _) hv5 (w32_rng _) (by decide)
def x6_cornerOf_j20 (N : Nat) (v0 : Nat) (v2 : Int) (v3 : Nat) (v4 : Int) (t0 : Int) (s : gMem) : Option (Nat × gMem) := if t0 = 0 then x6_cornerOf_j30 N v0 v2 v3 v4 t0  s else x6_cornerOf_j30 N v0 v2 v3 (w32 (v4 + 1)) t0  s
set_option maxRecDepth 100000 in
theorem okj_x6_cornerOf_j20 {ω : gW} {l : Launch} {d : Nat} {N : Nat} {σ0 : gMem} {s : gMem} {v0 : Nat} {v2 : Int} {v3 : Nat} {v4 : Int} {t0 : Int} (hl : l.stackTraces = false) (hdp : 3 ≤ d) (hv2 : g32 v2) (hv4 : g32 v4) (ht0 : g32 t0) : GG (fun p : Nat × gMem => (.inl (some (vR p.1)), p.2)) gE ω l d mu_x6_cornerOf σ0 20 [(0, vR v0), (2, vI v2), (3, vR v3), (4, vI v4)] [vI t0] s (x6_cornerOf_j20 N v0 v2 v3 v4 t0 s) := by
  unfold x6_cornerOf_j20
  refine x_istore (μ := mu_x6_cornerOf) (pc := 20) (lv' := [(5, vI t0), (0, vR v0), (2, vI v2), (3, vR v3), (4, vI v4)]) dX6_cornerOf_20 (by decide) rfl ?_
  refine x_iload (μ := mu_x6_cornerOf) (pc := 22) 0 dX6_cornerOf_22 rfl ?_
  refine x_if_eq (μ := mu_x6_cornerOf) (pc := 24) (tgt := 30) dX6_cornerOf_24 rfl ht0 ?_ ?_
  · refine x_loc (lv' := [(0, vR v0), (2, vI v2), (3, vR v3), (4, vI v4), (5, vI t0)]) [1, 2, 3, 4, 0] rfl ?_
    exact okj_x6_cornerOf_j30 hl hdp hv2 hv4 ht0
  · refine x_iincw (μ := mu_x6_cornerOf) (pc := 27) (lv' := [(4, vI (w32 (v4 + 1))), (5, vI t0), (0, vR v0), (2, vI v2), (3, vR v3)]) 4 dX6_cornerOf_27 rfl (by decide) rfl ?_
    refine x_loc (lv' := [(0, vR v0), (2, vI v2), (3, vR v3), (4, vI (w32 (v4 + 1))), (5, vI t0)]) [2, 3, 4, 0, 1] rfl ?_
    exact okj_x6_cornerOf_j30 hl hdp hv2 (w32_rng _) ht0
def x6_cornerOf (N : Nat) (v0 : Nat) (v1 : Int) (v2 : Int) (v3 : Nat) (σ : gMem) : Option (Nat × gMem) := if mT σ v0 = 6 then if mT σ (mR σ v0 3) = 102 then if 0 ≤ v1 ∧ v1 < (mN σ (mR σ v0 3) : Int) then if mI σ (mR σ v0 3) v1.toNat ≠ 36 then x6_cornerOf_j20 N v0 v2 v3 v1 0 σ else x6_cornerOf_j20 N v0 v2 v3 v1 1 σ else none else none else none
set_option maxRecDepth 100000 in
theorem ok_x6_cornerOf {ω : gW} {l : Launch} {d : Nat} {N : Nat} {σ : gMem} {v0 : Nat} {v1 : Int} {v2 : Int} {v3 : Nat} (hl : l.stackTraces = false) (hdp : 3 ≤ d) (hv1 : g32 v1) (hv2 : g32 v2) : gK (fun p : Nat × gMem => (.inl (some (vR p.1)), p.2)) gE ω l d mu_x6_cornerOf [vR v0, vI v1, vI v2, vR v3] σ (x6_cornerOf N v0 v1 v2 v3 σ) := by
  refine gK.of hp_X6 (Nat.le_of_ble_eq_true rfl) ?_
  unfold x6_cornerOf
  refine x_iload_n (μ := mu_x6_cornerOf) (pc := 0) 1 dX6_cornerOf_0 rfl ?_
  refine x_istore (μ := mu_x6_cornerOf) (pc := 1) (lv' := [(4, vI v1), (0, vR v0), (1, vI v1), (2, vI v2), (3, vR v3)]) dX6_cornerOf_1 (by decide) rfl ?_
  refine x_aload_n (μ := mu_x6_cornerOf) (pc := 3) 1 dX6_cornerOf_3 rfl ?_
  refine x_if (fun hT1 => ?_)
  refine x_fgr (μ := mu_x6_cornerOf) (pc := 4) fX6_3 (by first | exact Or.inl ⟨_, rfl⟩ | exact Or.inr ⟨_, rfl⟩) q484 dX6_cornerOf_4 hT1 ?_
  refine x_iload (μ := mu_x6_cornerOf) (pc := 7) 0 dX6_cornerOf_7 rfl ?_
  refine x_if (fun hT2 => ?_)
  refine x_bald (μ := mu_x6_cornerOf) (pc := 9) dX6_cornerOf_9 hT2 rfl (fun hr3 => ?_)
  refine x_bipush (μ := mu_x6_cornerOf) (pc := 10) dX6_cornerOf_10 (by decide) ?_
  refine x_icmp_ne (μ := mu_x6_cornerOf) (pc := 12) (tgt := 19) dX6_cornerOf_12 rfl hr3 (by decide) ?_ ?_
  · refine x_iconst (μ := mu_x6_cornerOf) (pc := 19) dX6_cornerOf_19 ?_
    refine x_loc (lv' := [(0, vR v0), (2, vI v2), (3, vR v3), (4, vI v1)]) [1, 3, 4, 0] rfl ?_
    exact okj_x6_cornerOf_j20 hl hdp hv2 hv1 (by decide)
  · refine x_iconst (μ := mu_x6_cornerOf) (pc := 15) dX6_cornerOf_15 ?_
    refine x_goto (μ := mu_x6_cornerOf) (pc := 16) (tgt := 20) dX6_cornerOf_16 rfl ?_
    refine x_loc (lv' := [(0, vR v0), (2, vI v2), (3, vR v3), (4, vI v1)]) [1, 3, 4, 0] rfl ?_
    exact okj_x6_cornerOf_j20 hl hdp hv2 hv1 (by decide)
def x6_area_j128 (N : Nat) (v4 : Int) (v5 : Nat) (v6 : Nat) (s : gMem) : Option gR := gLet (wN s 17 3) (fun s35 => (x19_init (mZ s) v5 v6 v4 s35).bind (fun x37 => some (.inl (some (vR (mZ s))), x37)))
set_option maxRecDepth 100000 in
theorem okj_x6_area_j128 {ω : gW} {l : Launch} {d : Nat} {N : Nat} {σ0 : gMem} {s : gMem} {v4 : Int} {v5 : Nat} {v6 : Nat} (hl : l.stackTraces = false) (hdp : 11 ≤ d) (hv4 : g32 v4) : GG (fun p : gR => p) gE ω l d mu_x6_area σ0 128 [(4, vI v4), (5, vR v5), (6, vR v6)] [] s (x6_area_j128 N v4 v5 v6 s) := by
  unfold x6_area_j128
  refine x_ok (fun ok34 => ?_)
  refine x_new (μ := mu_x6_area) (pc := 128) (ci := 16) gk_X19 gd_X19 q2008 q2009 q251 dX6_area_128 ?_
  refine x_let (fun s35 e36 => ?_)
  refine x_dup (μ := mu_x6_area) (pc := 131) dX6_area_131 rfl ?_
  refine x_aload (μ := mu_x6_area) (pc := 132) 1 dX6_area_132 rfl ?_
  refine x_aload (μ := mu_x6_area) (pc := 134) 2 dX6_area_134 rfl ?_
  refine x_iload (μ := mu_x6_area) (pc := 136) 0 dX6_area_136 rfl ?_
  refine x_callIN_mv (μ := mu_x6_area) (pc := 138) (ok_x19_init (ω := ω) (l := l) (d := d - 1) hl (by omega) hv4) gRel_E gRel_E (fun _ q => q) q2010 q2011 q251 q2012 dX6_area_138 (gT_ne (gT_new e36)) rfl hy_x19_init (by omega) (Nat.le_of_ble_eq_true rfl) rfl (Nat.le_of_ble_eq_true rfl) (fun x37 k38 => ?_)
  exact x_aret (μ := mu_x6_area) (pc := 141) (a1 := ((.inl (some (vR (mZ s))), x37) : gR)) dX6_area_141 rfl (by first | exact Or.inl ⟨_, rfl⟩ | exact Or.inr ⟨_, rfl⟩) rfl (gRel_E.1 _) trivial
def x6_area_j122 (N : Nat) (v0 : Nat) (v1 : Int) (v4 : Int) (v5 : Nat) (v6 : Nat) (s : gMem) : Option gR := if mT s v0 = 6 then (x6_late v0 3 v1 s).bind (fun x32 => x6_area_j128 N v4 v5 v6  x32) else none
set_option maxRecDepth 100000 in
theorem okj_x6_area_j122 {ω : gW} {l : Launch} {d : Nat} {N : Nat} {σ0 : gMem} {s : gMem} {v0 : Nat} {v1 : Int} {v4 : Int} {v5 : Nat} {v6 : Nat} (hl : l.stackTraces = false) (hdp : 11 ≤ d) (hv1 : g32 v1) (hv4 : g32 v4) : GG (fun p : gR => p) gE ω l d mu_x6_area σ0 122 [(0, vR v0), (1, vI v1), (4, vI v4), (5, vR v5), (6, vR v6)] [] s (x6_area_j122 N v0 v1 v4 v5 v6 s) := by
  unfold x6_area_j122
  refine x_aload_n (μ := mu_x6_area) (pc := 122) 0 dX6_area_122 rfl ?_
  refine x_iconst (μ := mu_x6_area) (pc := 123) dX6_area_123 ?_
  refine x_iload_n (μ := mu_x6_area) (pc := 124) 1 dX6_area_124 rfl ?_
  refine x_if (fun hT31 => ?_)
  refine x_callV_mv (μ := mu_x6_area) (pc := 125) (ok_x6_late (ω := ω) (l := l) (d := d - 1) hl (by omega) (by decide) hv1) gRel_E gRel_E (fun _ q => q) q1961 q1963 qs51 q226 q1964 dX6_area_125 rfl hT31 hy_x6_late (by omega) (Nat.le_of_ble_eq_true rfl) rfl (Nat.le_of_ble_eq_true rfl) (fun x32 k33 => ?_)
  refine x_loc (lv' := [(4, vI v4), (5, vR v5), (6, vR v6)]) [2, 3, 4] rfl ?_
  exact okj_x6_area_j128 hl hdp hv4
def x6_area (N : Nat) (v0 : Nat) (σ : gMem) : Option gR := if mT σ v0 = 6 then (x6_corner v0 (mI σ v0 6) σ).bind (fun x5 => gLet (wI σ v0 6 (w32 ((w32 ((mI σ v0 6) + x5)) + 1))) (fun s7 => (x6_corner v0 (mI s7 v0 6) s7).bind (fun x10 => if x10 ≠ 0 then (x6_corner v0 (mI s7 v0 6) s7).bind (fun x14 => gLet (wI s7 v0 6 (w32 ((mI s7 v0 6) + x14))) (fun s16 => (x6_version N v0 s16).bind (fun p => gThrI p (fun x18 s21 => (x6_sheetOf v0 x18 s21).bind (fun x22 => (x6_cornerOf N v0 (mI σ v0 6) (w32 ((mI σ v0 6) + x5)) x22 s21).bind (fun x23 => (x6_sheetOf v0 x18 (x23.2)).bind (fun x25 => (x6_cornerOf N v0 (w32 ((w32 ((mI σ v0 6) + x5)) + 1)) (w32 ((mI s7 v0 6) + x14)) x25 (x23.2)).bind (fun x26 => gLet (wI (x26.2) v0 8 (w32 ((mI (x26.2) v0 8) + 1))) (fun s29 => if x23.1 = 0 then x6_area_j122 N v0 (mI σ v0 6) x18 (x23.1) (x26.1)  s29 else if x26.1 ≠ 0 then x6_area_j128 N x18 (x23.1) (x26.1)  s29 else x6_area_j122 N v0 (mI σ v0 6) x18 (x23.1) (x26.1)  s29))))))))) else (x6_wrongJust v0 1 (mI s7 v0 6) s7).bind (fun x40 => if mT (x40.2) (x40.1) = 25 then some (.inr "SheetBranches$Wrong", x40.2) else none)))) else none
set_option maxRecDepth 100000 in
theorem ok_x6_area {ω : gW} {l : Launch} {d : Nat} {N : Nat} {σ : gMem} {v0 : Nat} (hl : l.stackTraces = false) (hdp : 11 ≤ d) : gK (fun p : gR => p) gE ω l d mu_x6_area [vR v0] σ (x6_area N v0 σ) := by
  refine gK.of hp_X6 (Nat.le_of_ble_eq_true rfl) ?_
  unfold x6_area
  refine x_aload_n (μ := mu_x6_area) (pc := 0) 0 dX6_area_0 rfl ?_
  refine x_if (fun hT1 => ?_)
  refine x_fgi (μ := mu_x6_area) (pc := 1) fX6_6 q487 dX6_area_1 hT1 (fun hr2 => ?_)
  refine x_istore_n (μ := mu_x6_area) (pc := 4) (lv' := [(1, vI (mI σ v0 6)), (0, vR v0)]) dX6_area_4 rfl (by decide) rfl ?_
  refine x_aload_n (μ := mu_x6_area) (pc := 5) 1 dX6_area_5 rfl ?_
  refine x_fgi (μ := mu_x6_area) (pc := 6) fX6_6 q487 dX6_area_6 hT1 (fun hr3 => ?_)
  refine x_aload_n (μ := mu_x6_area) (pc := 9) 1 dX6_area_9 rfl ?_
  refine x_aload_n (μ := mu_x6_area) (pc := 10) 1 dX6_area_10 rfl ?_
  refine x_fgi (μ := mu_x6_area) (pc := 11) fX6_6 q487 dX6_area_11 hT1 (fun hr4 => ?_)
  refine x_callV_pi (μ := mu_x6_area) (pc := 14) (ok_x6_corner (ω := ω) (l := l) (d := d - 1) hl (by omega) hr4) gRel_E gRel_E (fun _ q => q) q1910 q1912 qs46 q226 q1913 dX6_area_14 rfl hT1 hy_x6_corner (by omega) (Nat.le_of_ble_eq_true rfl) rfl (Nat.le_of_ble_eq_true rfl) (fun x5 hr6 => ?_)
  refine x_iadd (μ := mu_x6_area) (pc := 17) dX6_area_17 ?_
  refine x_w1 ?_
  refine x_istore_n (μ := mu_x6_area) (pc := 18) (lv' := [(2, vI (w32 ((mI σ v0 6) + x5))), (1, vI (mI σ v0 6)), (0, vR v0)]) dX6_area_18 rfl (by decide) rfl ?_
  refine x_aload_n (μ := mu_x6_area) (pc := 19) 2 dX6_area_19 rfl ?_
  refine x_iload_n (μ := mu_x6_area) (pc := 20) 0 dX6_area_20 rfl ?_
  refine x_iconst (μ := mu_x6_area) (pc := 21) dX6_area_21 ?_
  refine x_iadd (μ := mu_x6_area) (pc := 22) dX6_area_22 ?_
  refine x_w1 ?_
  refine x_fpi (μ := mu_x6_area) (pc := 23) fX6_6 q487 dX6_area_23 hT1 (fun _ q => gE_wI q) ?_
  refine x_let (fun s7 e8 => ?_)
  refine x_aload_n (μ := mu_x6_area) (pc := 26) 2 dX6_area_26 rfl ?_
  refine x_aload_n (μ := mu_x6_area) (pc := 27) 2 dX6_area_27 rfl ?_
  refine x_fgi (μ := mu_x6_area) (pc := 28) fX6_6 q487 dX6_area_28 (gT_I e8 hT1) (fun hr9 => ?_)
  refine x_callV_pi (μ := mu_x6_area) (pc := 31) (ok_x6_corner (ω := ω) (l := l) (d := d - 1) hl (by omega) hr9) gRel_E gRel_E (fun _ q => q) q1910 q1912 qs46 q226 q1913 dX6_area_31 rfl (gT_I e8 hT1) hy_x6_corner (by omega) (Nat.le_of_ble_eq_true rfl) rfl (Nat.le_of_ble_eq_true rfl) (fun x10 hr11 => ?_)
  refine x_if_ne (μ := mu_x6_area) (pc := 34) (tgt := 47) dX6_area_34 rfl hr11 ?_ ?_
  · refine x_aload_n (μ := mu_x6_area) (pc := 47) 2 dX6_area_47 rfl ?_
    refine x_fgi (μ := mu_x6_area) (pc := 48) fX6_6 q487 dX6_area_48 (gT_I e8 hT1) (fun hr12 => ?_)
    refine x_aload_n (μ := mu_x6_area) (pc := 51) 2 dX6_area_51 rfl ?_
    refine x_aload_n (μ := mu_x6_area) (pc := 52) 2 dX6_area_52 rfl ?_
    refine x_fgi (μ := mu_x6_area) (pc := 53) fX6_6 q487 dX6_area_53 (gT_I e8 hT1) (fun hr13 => ?_)
    refine x_callV_pi (μ := mu_x6_area) (pc := 56) (ok_x6_corner (ω := ω) (l := l) (d := d - 1) hl (by omega) hr13) gRel_E gRel_E (fun _ q => q) q1910 q1912 qs46 q226 q1913 dX6_area_56 rfl (gT_I e8 hT1) hy_x6_corner (by omega) (Nat.le_of_ble_eq_true rfl) rfl (Nat.le_of_ble_eq_true rfl) (fun x14 hr15 => ?_)
    refine x_iadd (μ := mu_x6_area) (pc := 59) dX6_area_59 ?_
    refine x_w1 ?_
    refine x_istore_n (μ := mu_x6_area) (pc := 60) (lv' := [(3, vI (w32 ((mI s7 v0 6) + x14))), (2, vI (w32 ((mI σ v0 6) + x5))), (1, vI (mI σ v0 6)), (0, vR v0)]) dX6_area_60 rfl (by decide) rfl ?_
    refine x_aload_n (μ := mu_x6_area) (pc := 61) 3 dX6_area_61 rfl ?_
    refine x_iload_n (μ := mu_x6_area) (pc := 62) 0 dX6_area_62 rfl ?_
    refine x_fpi (μ := mu_x6_area) (pc := 63) fX6_6 q487 dX6_area_63 (gT_I e8 hT1) (fun _ q => gE_wI q) ?_
    refine x_let (fun s16 e17 => ?_)
    refine x_aload_n (μ := mu_x6_area) (pc := 66) 3 dX6_area_66 rfl ?_
    refine x_callV_xi (μ := mu_x6_area) (pc := 67) (ok_x6_version (ω := ω) (l := l) (d := d - 1) hl (by omega) ) q1921 q1923 qs48 q226 q1924 dX6_area_67 rfl (gT_I e17 (gT_I e8 hT1)) hy_x6_version (by omega) (Nat.le_of_ble_eq_true rfl) rfl (Nat.le_of_ble_eq_true rfl) (by decide) (fun x18 s21 k20 hr19 => ?_)
    refine x_istore (μ := mu_x6_area) (pc := 70) (lv' := [(4, vI x18), (3, vI (w32 ((mI s7 v0 6) + x14))), (2, vI (w32 ((mI σ v0 6) + x5))), (1, vI (mI σ v0 6)), (0, vR v0)]) dX6_area_70 (by decide) rfl ?_
    refine x_aload_n (μ := mu_x6_area) (pc := 72) 4 dX6_area_72 rfl ?_
    refine x_iload_n (μ := mu_x6_area) (pc := 73) 3 dX6_area_73 rfl ?_
    refine x_iload_n (μ := mu_x6_area) (pc := 74) 2 dX6_area_74 rfl ?_
    refine x_aload_n (μ := mu_x6_area) (pc := 75) 4 dX6_area_75 rfl ?_
    refine x_iload (μ := mu_x6_area) (pc := 76) 0 dX6_area_76 rfl ?_
    refine x_callV_pr (μ := mu_x6_area) (pc := 78) (ok_x6_sheetOf (ω := ω) (l := l) (d := d - 1) hl (by omega) hr19) gRel_E gRel_E (fun _ q => q) q1925 q1927 qs49 q226 q1928 dX6_area_78 rfl (gT_E k20 (gT_I e17 (gT_I e8 hT1)) (by decide)) hy_x6_sheetOf (by omega) (Nat.le_of_ble_eq_true rfl) rfl (Nat.le_of_ble_eq_true rfl) (fun x22 => ?_)
    refine x_callV_mr (μ := mu_x6_area) (pc := 81) (ok_x6_cornerOf (ω := ω) (l := l) (d := d - 1) hl (by omega) hr2 (w32_rng _)) gRel_E gRel_E (fun _ q => q) q1929 q1931 qs50 q226 q1932 dX6_area_81 rfl (gT_E k20 (gT_I e17 (gT_I e8 hT1)) (by decide)) hy_x6_cornerOf (by omega) (Nat.le_of_ble_eq_true rfl) rfl (Nat.le_of_ble_eq_true rfl) (fun x23 k24 => ?_)
    refine x_astore (μ := mu_x6_area) (pc := 84) (lv' := [(5, vR (x23.1)), (4, vI x18), (3, vI (w32 ((mI s7 v0 6) + x14))), (2, vI (w32 ((mI σ v0 6) + x5))), (1, vI (mI σ v0 6)), (0, vR v0)]) dX6_area_84 (by decide) rfl ?_
    refine x_aload_n (μ := mu_x6_area) (pc := 86) 5 dX6_area_86 rfl ?_
    refine x_iload_n (μ := mu_x6_area) (pc := 87) 3 dX6_area_87 rfl ?_
    refine x_iconst (μ := mu_x6_area) (pc := 88) dX6_area_88 ?_
    refine x_iadd (μ := mu_x6_area) (pc := 89) dX6_area_89 ?_
    refine x_iload_n (μ := mu_x6_area) (pc := 90) 2 dX6_area_90 rfl ?_
    refine x_aload_n (μ := mu_x6_area) (pc := 91) 5 dX6_area_91 rfl ?_
    refine x_iload (μ := mu_x6_area) (pc := 92) 1 dX6_area_92 rfl ?_
    refine x_callV_pr (μ := mu_x6_area) (pc := 94) (ok_x6_sheetOf (ω := ω) (l := l) (d := d - 1) hl (by omega) hr19) gRel_E gRel_E (fun _ q => q) q1925 q1927 qs49 q226 q1928 dX6_area_94 rfl (gT_E k24 (gT_E k20 (gT_I e17 (gT_I e8 hT1)) (by decide)) (by decide)) hy_x6_sheetOf (by omega) (Nat.le_of_ble_eq_true rfl) rfl (Nat.le_of_ble_eq_true rfl) (fun x25 => ?_)
    refine x_stk (st2 := [vR x25, vI (w32 ((mI s7 v0 6) + x14)), vI (w32 ((w32 ((mI σ v0 6) + x5)) + 1)), vR v0]) (by simp only [List.map_cons, gval_w32, gval_w64]) ?_
    refine x_callV_mr (μ := mu_x6_area) (pc := 97) (ok_x6_cornerOf (ω := ω) (l := l) (d := d - 1) hl (by omega) (w32_rng _) (w32_rng _)) gRel_E gRel_E (fun _ q => q) q1929 q1931 qs50 q226 q1932 dX6_area_97 rfl (gT_E k24 (gT_E k20 (gT_I e17 (gT_I e8 hT1)) (by decide)) (by decide)) hy_x6_cornerOf (by omega) (Nat.le_of_ble_eq_true rfl) rfl (Nat.le_of_ble_eq_true rfl) (fun x26 k27 => ?_)
    refine x_astore (μ := mu_x6_area) (pc := 100) (lv' := [(6, vR (x26.1)), (5, vR (x23.1)), (4, vI x18), (3, vI (w32 ((mI s7 v0 6) + x14))), (2, vI (w32 ((mI σ v0 6) + x5))), (1, vI (mI σ v0 6)), (0, vR v0)]) dX6_area_100 (by decide) rfl ?_
    refine x_aload_n (μ := mu_x6_area) (pc := 102) 6 dX6_area_102 rfl ?_
    refine x_dup (μ := mu_x6_area) (pc := 103) dX6_area_103 rfl ?_
    refine x_fgi (μ := mu_x6_area) (pc := 104) fX6_8 q489 dX6_area_104 (gT_E k27 (gT_E k24 (gT_E k20 (gT_I e17 (gT_I e8 hT1)) (by decide)) (by decide)) (by decide)) (fun hr28 => ?_)
    refine x_iconst (μ := mu_x6_area) (pc := 107) dX6_area_107 ?_
    refine x_iadd (μ := mu_x6_area) (pc := 108) dX6_area_108 ?_
    refine x_w1 ?_
    refine x_fpi (μ := mu_x6_area) (pc := 109) fX6_8 q489 dX6_area_109 (gT_E k27 (gT_E k24 (gT_E k20 (gT_I e17 (gT_I e8 hT1)) (by decide)) (by decide)) (by decide)) (fun _ q => gE_wI q) ?_
    refine x_let (fun s29 e30 => ?_)
    refine x_aload (μ := mu_x6_area) (pc := 112) 1 dX6_area_112 rfl ?_
    refine x_ifnull (μ := mu_x6_area) (pc := 114) (tgt := 122) dX6_area_114 rfl ?_ ?_
    · refine x_loc (lv' := [(0, vR v0), (1, vI (mI σ v0 6)), (4, vI x18), (5, vR (x23.1)), (6, vR (x26.1))]) [6, 5, 2, 1, 0] rfl ?_
      exact okj_x6_area_j122 hl hdp hr2 hr19
    · refine x_aload (μ := mu_x6_area) (pc := 117) 0 dX6_area_117 rfl ?_
      refine x_ifnonnull (μ := mu_x6_area) (pc := 119) (tgt := 128) dX6_area_119 rfl ?_ ?_
      · refine x_loc (lv' := [(4, vI x18), (5, vR (x23.1)), (6, vR (x26.1))]) [2, 1, 0] rfl ?_
        exact okj_x6_area_j128 hl hdp hr19
      · refine x_loc (lv' := [(0, vR v0), (1, vI (mI σ v0 6)), (4, vI x18), (5, vR (x23.1)), (6, vR (x26.1))]) [6, 5, 2, 1, 0] rfl ?_
        exact okj_x6_area_j122 hl hdp hr2 hr19
  · refine x_aload_n (μ := mu_x6_area) (pc := 37) 2 dX6_area_37 rfl ?_
    refine x_iconst (μ := mu_x6_area) (pc := 38) dX6_area_38 ?_
    refine x_aload_n (μ := mu_x6_area) (pc := 39) 2 dX6_area_39 rfl ?_
    refine x_fgi (μ := mu_x6_area) (pc := 40) fX6_6 q487 dX6_area_40 (gT_I e8 hT1) (fun hr39 => ?_)
    refine x_callV_mr (μ := mu_x6_area) (pc := 43) (ok_x6_wrongJust (ω := ω) (l := l) (d := d - 1) hl (by omega) (by decide) hr39) gRel_E gRel_E (fun _ q => q) q1831 q1833 qs39 q226 q1834 dX6_area_43 rfl (gT_I e8 hT1) hy_x6_wrongJust (by omega) (Nat.le_of_ble_eq_true rfl) rfl (Nat.le_of_ble_eq_true rfl) (fun x40 k41 => ?_)
    refine x_if (fun hT42 => ?_)
    exact x_athrow (μ := mu_x6_area) (pc := 46) dX6_area_46 hT42 (by decide)
def x6_comparing_j82 (N : Nat) (v1 : Int) (v2 : Int) (s : gMem) : Option (Nat × gMem) := if v2 ≠ 61 then if v1 ≠ 62 then if v2 ≠ 62 then some (mR s 0 22, s) else some (mR s 0 21, s) else some (mR s 0 24, s) else if v1 ≠ 60 then some (mR s 0 25, s) else some (mR s 0 23, s)
set_option maxRecDepth 100000 in
theorem okj_x6_comparing_j82 {ω : gW} {l : Launch} {d : Nat} {N : Nat} {σ0 : gMem} {s : gMem} {v1 : Int} {v2 : Int} (hl : l.stackTraces = false) (hdp : 2 ≤ d) (hv1 : g32 v1) (hv2 : g32 v2) : GG (fun p : Nat × gMem => (.inl (some (vR p.1)), p.2)) gE ω l d mu_x6_comparing σ0 82 [(1, vI v1), (2, vI v2)] [] s (x6_comparing_j82 N v1 v2 s) := by
  unfold x6_comparing_j82
  refine x_iload_n (μ := mu_x6_comparing) (pc := 82) 1 dX6_comparing_82 rfl ?_
  refine x_bipush (μ := mu_x6_comparing) (pc := 83) dX6_comparing_83 (by decide) ?_
  refine x_icmp_ne (μ := mu_x6_comparing) (pc := 85) (tgt := 104) dX6_comparing_85 rfl hv2 (by decide) ?_ ?_
  · refine x_iload_n (μ := mu_x6_comparing) (pc := 104) 0 dX6_comparing_104 rfl ?_
    refine x_bipush (μ := mu_x6_comparing) (pc := 105) dX6_comparing_105 (by decide) ?_
    refine x_icmp_ne (μ := mu_x6_comparing) (pc := 107) (tgt := 116) dX6_comparing_107 rfl hv1 (by decide) ?_ ?_
    · refine x_iload_n (μ := mu_x6_comparing) (pc := 116) 1 dX6_comparing_116 rfl ?_
      refine x_bipush (μ := mu_x6_comparing) (pc := 117) dX6_comparing_117 (by decide) ?_
      refine x_icmp_ne (μ := mu_x6_comparing) (pc := 119) (tgt := 128) dX6_comparing_119 rfl hv2 (by decide) ?_ ?_
      · refine x_gst (μ := mu_x6_comparing) (pc := 128) (j := 22) (List.mem_of_getElem? (i := 20) rfl) q2099 dX6_comparing_128 ?_
        exact x_aret (μ := mu_x6_comparing) (pc := 131) dX6_comparing_131 rfl (by first | exact Or.inl ⟨_, rfl⟩ | exact Or.inr ⟨_, rfl⟩) rfl (gRel_E.1 _) trivial
      · refine x_gst (μ := mu_x6_comparing) (pc := 122) (j := 21) (List.mem_of_getElem? (i := 19) rfl) q2098 dX6_comparing_122 ?_
        refine x_goto (μ := mu_x6_comparing) (pc := 125) (tgt := 131) dX6_comparing_125 rfl ?_
        exact x_aret (μ := mu_x6_comparing) (pc := 131) dX6_comparing_131 rfl (by first | exact Or.inl ⟨_, rfl⟩ | exact Or.inr ⟨_, rfl⟩) rfl (gRel_E.1 _) trivial
    · refine x_gst (μ := mu_x6_comparing) (pc := 110) (j := 24) (List.mem_of_getElem? (i := 22) rfl) q2096 dX6_comparing_110 ?_
      refine x_goto (μ := mu_x6_comparing) (pc := 113) (tgt := 131) dX6_comparing_113 rfl ?_
      exact x_aret (μ := mu_x6_comparing) (pc := 131) dX6_comparing_131 rfl (by first | exact Or.inl ⟨_, rfl⟩ | exact Or.inr ⟨_, rfl⟩) rfl (gRel_E.1 _) trivial
  · refine x_iload_n (μ := mu_x6_comparing) (pc := 88) 0 dX6_comparing_88 rfl ?_
    refine x_bipush (μ := mu_x6_comparing) (pc := 89) dX6_comparing_89 (by decide) ?_
    refine x_icmp_ne (μ := mu_x6_comparing) (pc := 91) (tgt := 100) dX6_comparing_91 rfl hv1 (by decide) ?_ ?_
    · refine x_gst (μ := mu_x6_comparing) (pc := 100) (j := 25) (List.mem_of_getElem? (i := 23) rfl) q2094 dX6_comparing_100 ?_
      exact x_aret (μ := mu_x6_comparing) (pc := 103) dX6_comparing_103 rfl (by first | exact Or.inl ⟨_, rfl⟩ | exact Or.inr ⟨_, rfl⟩) rfl (gRel_E.1 _) trivial
    · refine x_gst (μ := mu_x6_comparing) (pc := 94) (j := 23) (List.mem_of_getElem? (i := 21) rfl) q2092 dX6_comparing_94 ?_
      refine x_goto (μ := mu_x6_comparing) (pc := 97) (tgt := 103) dX6_comparing_97 rfl ?_
      exact x_aret (μ := mu_x6_comparing) (pc := 103) dX6_comparing_103 rfl (by first | exact Or.inl ⟨_, rfl⟩ | exact Or.inr ⟨_, rfl⟩) rfl (gRel_E.1 _) trivial
def x6_comparing_j72 (N : Nat) (v0 : Nat) (v1 : Int) (v2 : Int) (s : gMem) : Option (Nat × gMem) := if mT s v0 = 6 then gLet (wI s v0 6 (w32 ((mI s v0 6) + 1))) (fun s14 => x6_comparing_j82 N v1 v2  s14) else none
set_option maxRecDepth 100000 in
theorem okj_x6_comparing_j72 {ω : gW} {l : Launch} {d : Nat} {N : Nat} {σ0 : gMem} {s : gMem} {v0 : Nat} {v1 : Int} {v2 : Int} (hl : l.stackTraces = false) (hdp : 2 ≤ d) (hv1 : g32 v1) (hv2 : g32 v2) : GG (fun p : Nat × gMem => (.inl (some (vR p.1)), p.2)) gE ω l d mu_x6_comparing σ0 72 [(0, vR v0), (1, vI v1), (2, vI v2)] [] s (x6_comparing_j72 N v0 v1 v2 s) := by
  unfold x6_comparing_j72
  refine x_aload_n (μ := mu_x6_comparing) (pc := 72) 0 dX6_comparing_72 rfl ?_
  refine x_dup (μ := mu_x6_comparing) (pc := 73) dX6_comparing_73 rfl ?_
  refine x_if (fun hT12 => ?_)
  refine x_fgi (μ := mu_x6_comparing) (pc := 74) fX6_6 q487 dX6_comparing_74 hT12 (fun hr13 => ?_)
  refine x_iconst (μ := mu_x6_comparing) (pc := 77) dX6_comparing_77 ?_
  refine x_iadd (μ := mu_x6_comparing) (pc := 78) dX6_comparing_78 ?_
  refine x_w1 ?_
  refine x_fpi (μ := mu_x6_comparing) (pc := 79) fX6_6 q487 dX6_comparing_79 hT12 (fun _ q => gE_wI q) ?_
  refine x_let (fun s14 e15 => ?_)
  refine x_loc (lv' := [(1, vI v1), (2, vI v2)]) [1, 2] rfl ?_
  exact okj_x6_comparing_j82 hl hdp hv1 hv2
def x6_comparing_j25 (N : Nat) (v0 : Nat) (v1 : Int) (s : gMem) : Option (Nat × gMem) := if mT s v0 = 6 then gLet (wI s v0 6 (w32 ((mI s v0 6) + 1))) (fun s7 => if v1 ≠ 61 then (x6_here v0 (mI s7 v0 6) s7).bind (fun x10 => if x10 = 61 then x6_comparing_j72 N v0 v1 x10  s7 else if v1 ≠ 60 then x6_comparing_j82 N v1 x10  s7 else if x10 ≠ 62 then x6_comparing_j82 N v1 x10  s7 else x6_comparing_j72 N v0 v1 x10  s7) else some (mR s7 0 20, s7)) else none
set_option maxRecDepth 100000 in
theorem okj_x6_comparing_j25 {ω : gW} {l : Launch} {d : Nat} {N : Nat} {σ0 : gMem} {s : gMem} {v0 : Nat} {v1 : Int} (hl : l.stackTraces = false) (hdp : 2 ≤ d) (hv1 : g32 v1) : GG (fun p : Nat × gMem => (.inl (some (vR p.1)), p.2)) gE ω l d mu_x6_comparing σ0 25 [(0, vR v0), (1, vI v1)] [] s (x6_comparing_j25 N v0 v1 s) := by
  unfold x6_comparing_j25
  refine x_aload_n (μ := mu_x6_comparing) (pc := 25) 0 dX6_comparing_25 rfl ?_
  refine x_dup (μ := mu_x6_comparing) (pc := 26) dX6_comparing_26 rfl ?_
  refine x_if (fun hT5 => ?_)
  refine x_fgi (μ := mu_x6_comparing) (pc := 27) fX6_6 q487 dX6_comparing_27 hT5 (fun hr6 => ?_)
  refine x_iconst (μ := mu_x6_comparing) (pc := 30) dX6_comparing_30 ?_
  refine x_iadd (μ := mu_x6_comparing) (pc := 31) dX6_comparing_31 ?_
  refine x_w1 ?_
  refine x_fpi (μ := mu_x6_comparing) (pc := 32) fX6_6 q487 dX6_comparing_32 hT5 (fun _ q => gE_wI q) ?_
  refine x_let (fun s7 e8 => ?_)
  refine x_iload_n (μ := mu_x6_comparing) (pc := 35) 1 dX6_comparing_35 rfl ?_
  refine x_bipush (μ := mu_x6_comparing) (pc := 36) dX6_comparing_36 (by decide) ?_
  refine x_icmp_ne (μ := mu_x6_comparing) (pc := 38) (tgt := 45) dX6_comparing_38 rfl hv1 (by decide) ?_ ?_
  · refine x_aload_n (μ := mu_x6_comparing) (pc := 45) 0 dX6_comparing_45 rfl ?_
    refine x_aload_n (μ := mu_x6_comparing) (pc := 46) 0 dX6_comparing_46 rfl ?_
    refine x_fgi (μ := mu_x6_comparing) (pc := 47) fX6_6 q487 dX6_comparing_47 (gT_I e8 hT5) (fun hr9 => ?_)
    refine x_callV_pi (μ := mu_x6_comparing) (pc := 50) (ok_x6_here (ω := ω) (l := l) (d := d - 1) hl (by omega) hr9) gRel_E gRel_E (fun _ q => q) q1815 q1817 qs35 q226 q1818 dX6_comparing_50 rfl (gT_I e8 hT5) hy_x6_here (by omega) (Nat.le_of_ble_eq_true rfl) rfl (Nat.le_of_ble_eq_true rfl) (fun x10 hr11 => ?_)
    refine x_istore_n (μ := mu_x6_comparing) (pc := 53) (lv' := [(2, vI x10), (0, vR v0), (1, vI v1)]) dX6_comparing_53 rfl (by decide) rfl ?_
    refine x_iload_n (μ := mu_x6_comparing) (pc := 54) 0 dX6_comparing_54 rfl ?_
    refine x_bipush (μ := mu_x6_comparing) (pc := 55) dX6_comparing_55 (by decide) ?_
    refine x_icmp_eq (μ := mu_x6_comparing) (pc := 57) (tgt := 72) dX6_comparing_57 rfl hr11 (by decide) ?_ ?_
    · refine x_loc (lv' := [(0, vR v0), (1, vI v1), (2, vI x10)]) [1, 2, 0] rfl ?_
      exact okj_x6_comparing_j72 hl hdp hv1 hr11
    · refine x_iload_n (μ := mu_x6_comparing) (pc := 60) 2 dX6_comparing_60 rfl ?_
      refine x_bipush (μ := mu_x6_comparing) (pc := 61) dX6_comparing_61 (by decide) ?_
      refine x_icmp_ne (μ := mu_x6_comparing) (pc := 63) (tgt := 82) dX6_comparing_63 rfl hv1 (by decide) ?_ ?_
      · refine x_loc (lv' := [(1, vI v1), (2, vI x10)]) [2, 0] rfl ?_
        exact okj_x6_comparing_j82 hl hdp hv1 hr11
      · refine x_iload_n (μ := mu_x6_comparing) (pc := 66) 0 dX6_comparing_66 rfl ?_
        refine x_bipush (μ := mu_x6_comparing) (pc := 67) dX6_comparing_67 (by decide) ?_
        refine x_icmp_ne (μ := mu_x6_comparing) (pc := 69) (tgt := 82) dX6_comparing_69 rfl hr11 (by decide) ?_ ?_
        · refine x_loc (lv' := [(1, vI v1), (2, vI x10)]) [2, 0] rfl ?_
          exact okj_x6_comparing_j82 hl hdp hv1 hr11
        · refine x_loc (lv' := [(0, vR v0), (1, vI v1), (2, vI x10)]) [1, 2, 0] rfl ?_
          exact okj_x6_comparing_j72 hl hdp hv1 hr11
  · refine x_gst (μ := mu_x6_comparing) (pc := 41) (j := 20) (List.mem_of_getElem? (i := 18) rfl) q2091 dX6_comparing_41 ?_
    exact x_aret (μ := mu_x6_comparing) (pc := 44) dX6_comparing_44 rfl (by first | exact Or.inl ⟨_, rfl⟩ | exact Or.inr ⟨_, rfl⟩) rfl (gRel_E.1 _) trivial
def x6_comparing (N : Nat) (v0 : Nat) (σ : gMem) : Option (Nat × gMem) := if mT σ v0 = 6 then (x6_peek N v0 σ).bind (fun x2 => if x2.1 = 61 then x6_comparing_j25 N v0 (x2.1)  (x2.2) else if x2.1 = 60 then x6_comparing_j25 N v0 (x2.1)  (x2.2) else if x2.1 = 62 then x6_comparing_j25 N v0 (x2.1)  (x2.2) else some (0, x2.2)) else none
set_option maxRecDepth 100000 in
theorem ok_x6_comparing {ω : gW} {l : Launch} {d : Nat} {N : Nat} {σ : gMem} {v0 : Nat} (hl : l.stackTraces = false) (hdp : 2 ≤ d) : gK (fun p : Nat × gMem => (.inl (some (vR p.1)), p.2)) gE ω l d mu_x6_comparing [vR v0] σ (x6_comparing N v0 σ) := by
  refine gK.of hp_X6 (Nat.le_of_ble_eq_true rfl) ?_
  unfold x6_comparing
  refine x_aload_n (μ := mu_x6_comparing) (pc := 0) 0 dX6_comparing_0 rfl ?_
  refine x_if (fun hT1 => ?_)
  refine x_callV_mi (μ := mu_x6_comparing) (pc := 1) (ok_x6_peek (ω := ω) (l := l) (d := d - 1) hl (by omega) ) gRel_E gRel_E (fun _ q => q) q1811 q1813 qs34 q226 q1814 dX6_comparing_1 rfl hT1 hy_x6_peek (by omega) (Nat.le_of_ble_eq_true rfl) rfl (Nat.le_of_ble_eq_true rfl) (fun x2 k4 hr3 => ?_)
  refine x_istore_n (μ := mu_x6_comparing) (pc := 4) (lv' := [(1, vI (x2.1)), (0, vR v0)]) dX6_comparing_4 rfl (by decide) rfl ?_
  refine x_iload_n (μ := mu_x6_comparing) (pc := 5) 0 dX6_comparing_5 rfl ?_
  refine x_bipush (μ := mu_x6_comparing) (pc := 6) dX6_comparing_6 (by decide) ?_
  refine x_icmp_eq (μ := mu_x6_comparing) (pc := 8) (tgt := 25) dX6_comparing_8 rfl hr3 (by decide) ?_ ?_
  · refine x_loc (lv' := [(0, vR v0), (1, vI (x2.1))]) [1, 0] rfl ?_
    exact okj_x6_comparing_j25 hl hdp hr3
  · refine x_iload_n (μ := mu_x6_comparing) (pc := 11) 0 dX6_comparing_11 rfl ?_
    refine x_bipush (μ := mu_x6_comparing) (pc := 12) dX6_comparing_12 (by decide) ?_
    refine x_icmp_eq (μ := mu_x6_comparing) (pc := 14) (tgt := 25) dX6_comparing_14 rfl hr3 (by decide) ?_ ?_
    · refine x_loc (lv' := [(0, vR v0), (1, vI (x2.1))]) [1, 0] rfl ?_
      exact okj_x6_comparing_j25 hl hdp hr3
    · refine x_iload_n (μ := mu_x6_comparing) (pc := 17) 0 dX6_comparing_17 rfl ?_
      refine x_bipush (μ := mu_x6_comparing) (pc := 18) dX6_comparing_18 (by decide) ?_
      refine x_icmp_eq (μ := mu_x6_comparing) (pc := 20) (tgt := 25) dX6_comparing_20 rfl hr3 (by decide) ?_ ?_
      · refine x_loc (lv' := [(0, vR v0), (1, vI (x2.1))]) [1, 0] rfl ?_
        exact okj_x6_comparing_j25 hl hdp hr3
      · refine x_null (μ := mu_x6_comparing) (pc := 23) dX6_comparing_23 ?_
        exact x_aret (μ := mu_x6_comparing) (pc := 24) dX6_comparing_24 rfl (by first | exact Or.inl ⟨_, rfl⟩ | exact Or.inr ⟨_, rfl⟩) rfl (gRel_E.1 _) trivial
def x6_plain_l2 (N : Nat) (v0 : Nat) (v1 : Int) (v2 : Int) (K : gMem → Option gR) : Nat → Int → gMem → Option gR
  | 0, _, _ => none
  | n + 1, v3, s => if mT s v0 = 6 then if mI s v0 5 ≤ v3 then K s else if mT s (mR s v0 3) = 102 then if 0 ≤ v3 ∧ v3 < (mN s (mR s v0 3) : Int) then (x6_isSign (mI s (mR s v0 3) v3.toNat) s).bind (fun x5 => if x5 ≠ 0 then x6_plain_l2 N v0 v1 v2 K n (w32 (v3 + 1)) s else (x6_wrong v0 1 v3 s).bind (fun x7 => if mT (x7.2) (x7.1) = 25 then some (.inr "SheetBranches$Wrong", x7.2) else none)) else none else none else none
set_option maxRecDepth 100000 in
theorem okl_x6_plain_l2 {ω : gW} {l : Launch} {d : Nat} {N : Nat} {σ0 : gMem} {v0 : Nat} {v1 : Int} {v2 : Int} {K : gMem → Option gR} (hl : l.stackTraces = false) (hdp : 10 ≤ d) (hv1 : g32 v1) (hv2 : g32 v2) (hK : ∀ (s : gMem) , GG (fun p : gR => p) gE ω l d mu_x6_plain σ0 35 [(0, vR v0), (1, vI v1), (2, vI v2)] [] s (K s)) : ∀ (n : Nat) (v3 : Int) (s : gMem) , g32 v3 → GG (fun p : gR => p) gE ω l d mu_x6_plain σ0 2 [(0, vR v0), (1, vI v1), (2, vI v2), (3, vI v3)] [] s (x6_plain_l2 N v0 v1 v2 K n v3 s) := by
  intro n
  induction n with
  | zero => intros; exact x_none
  | succ n ih =>
    intro v3 s hv3
    unfold x6_plain_l2
    refine x_iload_n (μ := mu_x6_plain) (pc := 2) 3 dX6_plain_2 rfl ?_
    refine x_aload_n (μ := mu_x6_plain) (pc := 3) 0 dX6_plain_3 rfl ?_
    refine x_if (fun hT1 => ?_)
    refine x_fgi (μ := mu_x6_plain) (pc := 4) fX6_5 q486 dX6_plain_4 hT1 (fun hr2 => ?_)
    refine x_icmp_ge (μ := mu_x6_plain) (pc := 7) (tgt := 35) dX6_plain_7 rfl hv3 hr2 ?_ ?_
    · refine x_loc (lv' := [(0, vR v0), (1, vI v1), (2, vI v2)]) [0, 1, 2] rfl ?_
      exact hK s
    · refine x_aload_n (μ := mu_x6_plain) (pc := 10) 0 dX6_plain_10 rfl ?_
      refine x_fgr (μ := mu_x6_plain) (pc := 11) fX6_3 (by first | exact Or.inl ⟨_, rfl⟩ | exact Or.inr ⟨_, rfl⟩) q484 dX6_plain_11 hT1 ?_
      refine x_iload_n (μ := mu_x6_plain) (pc := 14) 3 dX6_plain_14 rfl ?_
      refine x_if (fun hT3 => ?_)
      refine x_bald (μ := mu_x6_plain) (pc := 15) dX6_plain_15 hT3 rfl (fun hr4 => ?_)
      refine x_callS_pi (μ := mu_x6_plain) (pc := 16) (ok_x6_isSign (ω := ω) (l := l) (d := d - 1) hl (by omega) hr4) gRel_E gRel_E (fun _ q => q) q1881 q1882 q226 q1883 dX6_plain_16 hy_x6_isSign (by omega) (Nat.le_of_ble_eq_true rfl) rfl (Nat.le_of_ble_eq_true rfl) (fun x5 hr6 => ?_)
      refine x_if_ne (μ := mu_x6_plain) (pc := 19) (tgt := 29) dX6_plain_19 rfl hr6 ?_ ?_
      · refine x_iincw (μ := mu_x6_plain) (pc := 29) (lv' := [(3, vI (w32 (v3 + 1))), (0, vR v0), (1, vI v1), (2, vI v2)]) 3 dX6_plain_29 rfl (by decide) rfl ?_
        refine x_goto (μ := mu_x6_plain) (pc := 32) (tgt := 2) dX6_plain_32 rfl ?_
        refine x_loc (lv' := [(0, vR v0), (1, vI v1), (2, vI v2), (3, vI (w32 (v3 + 1)))]) [1, 2, 3, 0] rfl ?_
        exact ih (w32 (v3 + 1)) s (w32_rng _)
      · refine x_aload_n (μ := mu_x6_plain) (pc := 22) 0 dX6_plain_22 rfl ?_
        refine x_iconst (μ := mu_x6_plain) (pc := 23) dX6_plain_23 ?_
        refine x_iload_n (μ := mu_x6_plain) (pc := 24) 3 dX6_plain_24 rfl ?_
        refine x_callV_mr (μ := mu_x6_plain) (pc := 25) (ok_x6_wrong (ω := ω) (l := l) (d := d - 1) hl (by omega) (by decide) hv3) gRel_E gRel_E (fun _ q => q) q1827 q1829 qs38 q226 q1830 dX6_plain_25 rfl hT1 hy_x6_wrong (by omega) (Nat.le_of_ble_eq_true rfl) rfl (Nat.le_of_ble_eq_true rfl) (fun x7 k8 => ?_)
        refine x_if (fun hT9 => ?_)
        exact x_athrow (μ := mu_x6_plain) (pc := 28) dX6_plain_28 hT9 (by decide)
def x6_plain_j168 (N : Nat) (v0 : Nat) (v2 : Int) (t0 : Int) (s : gMem) : Option gR := if w32 (v2 - t0) ≤ 24 then gLet (wN s 12 1) (fun s19 => if mT s19 v0 = 6 then (x6_part v0 t0 v2 s19).bind (fun x22 => (x14_init (mZ s) (x22.1) (x22.2)).bind (fun x24 => gLet (wR x24 v0 16 (mZ s)) (fun s26 => some (.inl none, s26)))) else none) else if mT s v0 = 6 then (x6_wrong v0 6 (w32 (t0 + 24)) s).bind (fun x29 => if mT (x29.2) (x29.1) = 25 then some (.inr "SheetBranches$Wrong", x29.2) else none) else none
set_option maxRecDepth 100000 in
theorem okj_x6_plain_j168 {ω : gW} {l : Launch} {d : Nat} {N : Nat} {σ0 : gMem} {s : gMem} {v0 : Nat} {v2 : Int} {t0 : Int} (hl : l.stackTraces = false) (hdp : 10 ≤ d) (hv2 : g32 v2) (ht0 : g32 t0) : GG (fun p : gR => p) gE ω l d mu_x6_plain σ0 168 [(0, vR v0), (2, vI v2)] [vI t0] s (x6_plain_j168 N v0 v2 t0 s) := by
  unfold x6_plain_j168
  refine x_istore_n (μ := mu_x6_plain) (pc := 168) (lv' := [(3, vI t0), (0, vR v0), (2, vI v2)]) dX6_plain_168 rfl (by decide) rfl ?_
  refine x_iload_n (μ := mu_x6_plain) (pc := 169) 2 dX6_plain_169 rfl ?_
  refine x_iload_n (μ := mu_x6_plain) (pc := 170) 0 dX6_plain_170 rfl ?_
  refine x_isub (μ := mu_x6_plain) (pc := 171) dX6_plain_171 ?_
  refine x_bipush (μ := mu_x6_plain) (pc := 172) dX6_plain_172 (by decide) ?_
  refine x_w2 ?_
  refine x_icmp_le (μ := mu_x6_plain) (pc := 174) (tgt := 188) dX6_plain_174 rfl (w32_rng _) (by decide) ?_ ?_
  · refine x_aload_n (μ := mu_x6_plain) (pc := 188) 1 dX6_plain_188 rfl ?_
    refine x_ok (fun ok18 => ?_)
    refine x_new (μ := mu_x6_plain) (pc := 189) (ci := 11) gk_X14 gd_X14 q1884 q1656 q242 dX6_plain_189 ?_
    refine x_let (fun s19 e20 => ?_)
    refine x_dup (μ := mu_x6_plain) (pc := 192) dX6_plain_192 rfl ?_
    refine x_aload_n (μ := mu_x6_plain) (pc := 193) 1 dX6_plain_193 rfl ?_
    refine x_iload_n (μ := mu_x6_plain) (pc := 194) 0 dX6_plain_194 rfl ?_
    refine x_iload_n (μ := mu_x6_plain) (pc := 195) 2 dX6_plain_195 rfl ?_
    refine x_if (fun hT21 => ?_)
    refine x_callV_mr (μ := mu_x6_plain) (pc := 196) (ok_x6_part (ω := ω) (l := l) (d := d - 1) hl (by omega) ht0 hv2) gRel_E gRel_E (fun _ q => q) q1885 q1887 qs44 q226 q1888 dX6_plain_196 rfl hT21 hy_x6_part (by omega) (Nat.le_of_ble_eq_true rfl) rfl (Nat.le_of_ble_eq_true rfl) (fun x22 k23 => ?_)
    refine x_callIN_mv (μ := mu_x6_plain) (pc := 199) (ok_x14_init (ω := ω) (l := l) (d := d - 1) hl (by omega) ) gRel_E gRel_E (fun _ q => q) q1890 q1891 q242 q1892 dX6_plain_199 (gT_ne (gT_E k23 (gT_new e20) (by decide))) rfl hy_x14_init (by omega) (Nat.le_of_ble_eq_true rfl) rfl (Nat.le_of_ble_eq_true rfl) (fun x24 k25 => ?_)
    refine x_fpr (μ := mu_x6_plain) (pc := 202) fX6_16 q499 (by first | exact Or.inl ⟨_, rfl⟩ | exact Or.inr ⟨_, rfl⟩) dX6_plain_202 (gT_E k25 (gT_E k23 hT21 (by decide)) (by decide)) (fun _ q => gE_wR q) ?_
    refine x_let (fun s26 e27 => ?_)
    exact x_vret (μ := mu_x6_plain) (pc := 205) (a1 := ((.inl none, s26) : gR)) dX6_plain_205 rfl rfl (gRel_E.1 _) trivial
  · refine x_aload_n (μ := mu_x6_plain) (pc := 177) 1 dX6_plain_177 rfl ?_
    refine x_bipush (μ := mu_x6_plain) (pc := 178) dX6_plain_178 (by decide) ?_
    refine x_iload_n (μ := mu_x6_plain) (pc := 180) 0 dX6_plain_180 rfl ?_
    refine x_bipush (μ := mu_x6_plain) (pc := 181) dX6_plain_181 (by decide) ?_
    refine x_iadd (μ := mu_x6_plain) (pc := 183) dX6_plain_183 ?_
    refine x_w1 ?_
    refine x_if (fun hT28 => ?_)
    refine x_callV_mr (μ := mu_x6_plain) (pc := 184) (ok_x6_wrong (ω := ω) (l := l) (d := d - 1) hl (by omega) (by decide) (w32_rng _)) gRel_E gRel_E (fun _ q => q) q1827 q1829 qs38 q226 q1830 dX6_plain_184 rfl hT28 hy_x6_wrong (by omega) (Nat.le_of_ble_eq_true rfl) rfl (Nat.le_of_ble_eq_true rfl) (fun x29 k30 => ?_)
    refine x_if (fun hT31 => ?_)
    exact x_athrow (μ := mu_x6_plain) (pc := 187) dX6_plain_187 hT31 (by decide)
def x6_plain_j76 (N : Nat) (v0 : Nat) (v2 : Int) (v3 : Int) (t0 : Int) (t1 : Nat) (s : gMem) : Option gR := if mT s t1 = 6 then (x6_digits N t1 t0 v2 s).bind (fun x48 => gLet (wN s 11 1) (fun s51 => if v3 = 0 then (x13_init (mZ s) x48 s51).bind (fun x53 => if mT x53 v0 = 6 then gLet (wR x53 v0 16 (mZ s)) (fun s56 => some (.inl none, s56)) else none) else (x13_init (mZ s) (w64 (-x48)) s51).bind (fun x58 => if mT x58 v0 = 6 then gLet (wR x58 v0 16 (mZ s)) (fun s61 => some (.inl none, s61)) else none))) else none
set_option maxRecDepth 100000 in
theorem okj_x6_plain_j76 {ω : gW} {l : Launch} {d : Nat} {N : Nat} {σ0 : gMem} {s : gMem} {v0 : Nat} {v2 : Int} {v3 : Int} {t0 : Int} {t1 : Nat} (hl : l.stackTraces = false) (hdp : 10 ≤ d) (hv2 : g32 v2) (hv3 : g32 v3) (ht0 : g32 t0) : GG (fun p : gR => p) gE ω l d mu_x6_plain σ0 76 [(0, vR v0), (2, vI v2), (3, vI v3)] [vI t0, vR t1] s (x6_plain_j76 N v0 v2 v3 t0 t1 s) := by
  unfold x6_plain_j76
  refine x_iload_n (μ := mu_x6_plain) (pc := 76) 1 dX6_plain_76 rfl ?_
  refine x_if (fun hT47 => ?_)
  refine x_callV_pl (μ := mu_x6_plain) (pc := 77) (ok_x6_digits (ω := ω) (l := l) (d := d - 1) hl (by omega) ht0 hv2) gRel_E gRel_E (fun _ q => q) q1860 q1862 qs42 q226 q1863 dX6_plain_77 rfl hT47 hy_x6_digits (by omega) (Nat.le_of_ble_eq_true rfl) rfl (Nat.le_of_ble_eq_true rfl) (fun x48 hr49 => ?_)
  refine x_lstore (μ := mu_x6_plain) (pc := 80) (lv' := [(4, vL x48), (0, vR v0), (2, vI v2), (3, vI v3)]) dX6_plain_80 (by decide) rfl ?_
  refine x_aload_n (μ := mu_x6_plain) (pc := 82) 1 dX6_plain_82 rfl ?_
  refine x_ok (fun ok50 => ?_)
  refine x_new (μ := mu_x6_plain) (pc := 83) (ci := 10) gk_X13 gd_X13 q1858 q1859 q241 dX6_plain_83 ?_
  refine x_let (fun s51 e52 => ?_)
  refine x_dup (μ := mu_x6_plain) (pc := 86) dX6_plain_86 rfl ?_
  refine x_iload_n (μ := mu_x6_plain) (pc := 87) 3 dX6_plain_87 rfl ?_
  refine x_if_eq (μ := mu_x6_plain) (pc := 88) (tgt := 97) dX6_plain_88 rfl hv3 ?_ ?_
  · refine x_lload (μ := mu_x6_plain) (pc := 97) 0 dX6_plain_97 rfl ?_
    refine x_callIN_mv (μ := mu_x6_plain) (pc := 99) (ok_x13_init (ω := ω) (l := l) (d := d - 1) hl (by omega) hr49) gRel_E gRel_E (fun _ q => q) q1866 q1867 q241 q1868 dX6_plain_99 (gT_ne (gT_new e52)) rfl hy_x13_init (by omega) (Nat.le_of_ble_eq_true rfl) rfl (Nat.le_of_ble_eq_true rfl) (fun x53 k54 => ?_)
    refine x_if (fun hT55 => ?_)
    refine x_fpr (μ := mu_x6_plain) (pc := 102) fX6_16 q499 (by first | exact Or.inl ⟨_, rfl⟩ | exact Or.inr ⟨_, rfl⟩) dX6_plain_102 hT55 (fun _ q => gE_wR q) ?_
    refine x_let (fun s56 e57 => ?_)
    refine x_goto (μ := mu_x6_plain) (pc := 105) (tgt := 205) dX6_plain_105 rfl ?_
    exact x_vret (μ := mu_x6_plain) (pc := 205) (a1 := ((.inl none, s56) : gR)) dX6_plain_205 rfl rfl (gRel_E.1 _) trivial
  · refine x_lload (μ := mu_x6_plain) (pc := 91) 0 dX6_plain_91 rfl ?_
    refine x_lneg (μ := mu_x6_plain) (pc := 93) dX6_plain_93 ?_
    refine x_goto (μ := mu_x6_plain) (pc := 94) (tgt := 99) dX6_plain_94 rfl ?_
    refine x_W1 ?_
    refine x_callIN_mv (μ := mu_x6_plain) (pc := 99) (ok_x13_init (ω := ω) (l := l) (d := d - 1) hl (by omega) (w64_rng _)) gRel_E gRel_E (fun _ q => q) q1866 q1867 q241 q1868 dX6_plain_99 (gT_ne (gT_new e52)) rfl hy_x13_init (by omega) (Nat.le_of_ble_eq_true rfl) rfl (Nat.le_of_ble_eq_true rfl) (fun x58 k59 => ?_)
    refine x_if (fun hT60 => ?_)
    refine x_fpr (μ := mu_x6_plain) (pc := 102) fX6_16 q499 (by first | exact Or.inl ⟨_, rfl⟩ | exact Or.inr ⟨_, rfl⟩) dX6_plain_102 hT60 (fun _ q => gE_wR q) ?_
    refine x_let (fun s61 e62 => ?_)
    refine x_goto (μ := mu_x6_plain) (pc := 105) (tgt := 205) dX6_plain_105 rfl ?_
    exact x_vret (μ := mu_x6_plain) (pc := 205) (a1 := ((.inl none, s61) : gR)) dX6_plain_205 rfl rfl (gRel_E.1 _) trivial
def x6_plain_j63 (N : Nat) (v0 : Nat) (v1 : Int) (v2 : Int) (t0 : Int) (s : gMem) : Option gR := if t0 = 0 then x6_plain_j76 N v0 v2 t0 v1 v0 s else x6_plain_j76 N v0 v2 t0 (w32 (v1 + 1)) v0 s
set_option maxRecDepth 100000 in
theorem okj_x6_plain_j63 {ω : gW} {l : Launch} {d : Nat} {N : Nat} {σ0 : gMem} {s : gMem} {v0 : Nat} {v1 : Int} {v2 : Int} {t0 : Int} (hl : l.stackTraces = false) (hdp : 10 ≤ d) (hv1 : g32 v1) (hv2 : g32 v2) (ht0 : g32 t0) : GG (fun p : gR => p) gE ω l d mu_x6_plain σ0 63 [(0, vR v0), (1, vI v1), (2, vI v2)] [vI t0] s (x6_plain_j63 N v0 v1 v2 t0 s) := by
  unfold x6_plain_j63
  refine x_istore_n (μ := mu_x6_plain) (pc := 63) (lv' := [(3, vI t0), (0, vR v0), (1, vI v1), (2, vI v2)]) dX6_plain_63 rfl (by decide) rfl ?_
  refine x_aload_n (μ := mu_x6_plain) (pc := 64) 1 dX6_plain_64 rfl ?_
  refine x_iload_n (μ := mu_x6_plain) (pc := 65) 0 dX6_plain_65 rfl ?_
  refine x_if_eq (μ := mu_x6_plain) (pc := 66) (tgt := 75) dX6_plain_66 rfl ht0 ?_ ?_
  · refine x_iload_n (μ := mu_x6_plain) (pc := 75) 2 dX6_plain_75 rfl ?_
    refine x_loc (lv' := [(0, vR v0), (2, vI v2), (3, vI t0)]) [1, 3, 0] rfl ?_
    exact okj_x6_plain_j76 hl hdp hv2 ht0 hv1
  · refine x_iload_n (μ := mu_x6_plain) (pc := 69) 2 dX6_plain_69 rfl ?_
    refine x_iconst (μ := mu_x6_plain) (pc := 70) dX6_plain_70 ?_
    refine x_iadd (μ := mu_x6_plain) (pc := 71) dX6_plain_71 ?_
    refine x_goto (μ := mu_x6_plain) (pc := 72) (tgt := 76) dX6_plain_72 rfl ?_
    refine x_w1 ?_
    refine x_loc (lv' := [(0, vR v0), (2, vI v2), (3, vI t0)]) [1, 3, 0] rfl ?_
    exact okj_x6_plain_j76 hl hdp hv2 ht0 (w32_rng _)
def x6_plain (N : Nat) (v0 : Nat) (v1 : Int) (v2 : Int) (σ : gMem) : Option gR := x6_plain_l2 N v0 v1 v2 (fun s10 => if mT s10 v0 = 6 then (x6_isWhole N (mR s10 v0 3) v1 v2 s10).bind (fun x12 => if x12 = 0 then (x6_isTruth N (mR s10 v0 3) v1 v2 s10).bind (fun x14 => if x14 = 0 then if mT s10 (mR s10 v0 3) = 102 then if 0 ≤ v1 ∧ v1 < (mN s10 (mR s10 v0 3) : Int) then if mI s10 (mR s10 v0 3) v1.toNat ≠ 39 then x6_plain_j168 N v0 v2 v1 s10 else x6_plain_j168 N v0 v2 (w32 (v1 + 1)) s10 else none else none else gLet (wN s10 16 1) (fun s33 => if mT s33 (mR s33 v0 3) = 102 then if 0 ≤ v1 ∧ v1 < (mN s33 (mR s33 v0 3) : Int) then if mI s33 (mR s33 v0 3) v1.toNat ≠ 84 then (x18_init (mZ s10) 0 s33).bind (fun x37 => gLet (wR x37 v0 16 (mZ s10)) (fun s39 => some (.inl none, s39))) else (x18_init (mZ s10) 1 s33).bind (fun x41 => gLet (wR x41 v0 16 (mZ s10)) (fun s43 => some (.inl none, s43))) else none else none)) else if mT s10 (mR s10 v0 3) = 102 then if 0 ≤ v1 ∧ v1 < (mN s10 (mR s10 v0 3) : Int) then if mI s10 (mR s10 v0 3) v1.toNat ≠ 45 then x6_plain_j63 N v0 v1 v2 0 s10 else x6_plain_j63 N v0 v1 v2 1 s10 else none else none) else none) N 0 σ
set_option maxRecDepth 100000 in
theorem ok_x6_plain {ω : gW} {l : Launch} {d : Nat} {N : Nat} {σ : gMem} {v0 : Nat} {v1 : Int} {v2 : Int} (hl : l.stackTraces = false) (hdp : 10 ≤ d) (hv1 : g32 v1) (hv2 : g32 v2) : gK (fun p : gR => p) gE ω l d mu_x6_plain [vR v0, vI v1, vI v2] σ (x6_plain N v0 v1 v2 σ) := by
  refine gK.of hp_X6 (Nat.le_of_ble_eq_true rfl) ?_
  unfold x6_plain
  refine x_iconst (μ := mu_x6_plain) (pc := 0) dX6_plain_0 ?_
  refine x_istore_n (μ := mu_x6_plain) (pc := 1) (lv' := [(3, vI 0), (0, vR v0), (1, vI v1), (2, vI v2)]) dX6_plain_1 rfl (by decide) rfl ?_
  refine x_loc (lv' := [(0, vR v0), (1, vI v1), (2, vI v2), (3, vI 0)]) [1, 2, 3, 0] rfl ?_
  refine okl_x6_plain_l2 hl hdp hv1 hv2 (fun s10 => ?_) N 0 σ (by decide)
  refine x_aload_n (μ := mu_x6_plain) (pc := 35) 0 dX6_plain_35 rfl ?_
  refine x_if (fun hT11 => ?_)
  refine x_fgr (μ := mu_x6_plain) (pc := 36) fX6_3 (by first | exact Or.inl ⟨_, rfl⟩ | exact Or.inr ⟨_, rfl⟩) q484 dX6_plain_36 hT11 ?_
  refine x_iload_n (μ := mu_x6_plain) (pc := 39) 1 dX6_plain_39 rfl ?_
  refine x_iload_n (μ := mu_x6_plain) (pc := 40) 2 dX6_plain_40 rfl ?_
  refine x_callS_pi (μ := mu_x6_plain) (pc := 41) (ok_x6_isWhole (ω := ω) (l := l) (d := d - 1) hl (by omega) hv1 hv2) gRel_E gRel_E (fun _ q => q) q1534 q1535 q226 q1536 dX6_plain_41 hy_x6_isWhole (by omega) (Nat.le_of_ble_eq_true rfl) rfl (Nat.le_of_ble_eq_true rfl) (fun x12 hr13 => ?_)
  refine x_if_eq (μ := mu_x6_plain) (pc := 44) (tgt := 108) dX6_plain_44 rfl hr13 ?_ ?_
  · refine x_aload_n (μ := mu_x6_plain) (pc := 108) 0 dX6_plain_108 rfl ?_
    refine x_fgr (μ := mu_x6_plain) (pc := 109) fX6_3 (by first | exact Or.inl ⟨_, rfl⟩ | exact Or.inr ⟨_, rfl⟩) q484 dX6_plain_109 hT11 ?_
    refine x_iload_n (μ := mu_x6_plain) (pc := 112) 1 dX6_plain_112 rfl ?_
    refine x_iload_n (μ := mu_x6_plain) (pc := 113) 2 dX6_plain_113 rfl ?_
    refine x_callS_pi (μ := mu_x6_plain) (pc := 114) (ok_x6_isTruth (ω := ω) (l := l) (d := d - 1) hl (by omega) hv1 hv2) gRel_E gRel_E (fun _ q => q) q1540 q1541 q226 q1542 dX6_plain_114 hy_x6_isTruth (by omega) (Nat.le_of_ble_eq_true rfl) rfl (Nat.le_of_ble_eq_true rfl) (fun x14 hr15 => ?_)
    refine x_if_eq (μ := mu_x6_plain) (pc := 117) (tgt := 150) dX6_plain_117 rfl hr15 ?_ ?_
    · refine x_aload_n (μ := mu_x6_plain) (pc := 150) 0 dX6_plain_150 rfl ?_
      refine x_fgr (μ := mu_x6_plain) (pc := 151) fX6_3 (by first | exact Or.inl ⟨_, rfl⟩ | exact Or.inr ⟨_, rfl⟩) q484 dX6_plain_151 hT11 ?_
      refine x_iload_n (μ := mu_x6_plain) (pc := 154) 1 dX6_plain_154 rfl ?_
      refine x_if (fun hT16 => ?_)
      refine x_bald (μ := mu_x6_plain) (pc := 155) dX6_plain_155 hT16 rfl (fun hr17 => ?_)
      refine x_bipush (μ := mu_x6_plain) (pc := 156) dX6_plain_156 (by decide) ?_
      refine x_icmp_ne (μ := mu_x6_plain) (pc := 158) (tgt := 167) dX6_plain_158 rfl hr17 (by decide) ?_ ?_
      · refine x_iload_n (μ := mu_x6_plain) (pc := 167) 1 dX6_plain_167 rfl ?_
        refine x_loc (lv' := [(0, vR v0), (2, vI v2)]) [0, 2] rfl ?_
        exact okj_x6_plain_j168 hl hdp hv2 hv1
      · refine x_iload_n (μ := mu_x6_plain) (pc := 161) 1 dX6_plain_161 rfl ?_
        refine x_iconst (μ := mu_x6_plain) (pc := 162) dX6_plain_162 ?_
        refine x_iadd (μ := mu_x6_plain) (pc := 163) dX6_plain_163 ?_
        refine x_goto (μ := mu_x6_plain) (pc := 164) (tgt := 168) dX6_plain_164 rfl ?_
        refine x_w1 ?_
        refine x_loc (lv' := [(0, vR v0), (2, vI v2)]) [0, 2] rfl ?_
        exact okj_x6_plain_j168 hl hdp hv2 (w32_rng _)
    · refine x_aload_n (μ := mu_x6_plain) (pc := 120) 0 dX6_plain_120 rfl ?_
      refine x_ok (fun ok32 => ?_)
      refine x_new (μ := mu_x6_plain) (pc := 121) (ci := 15) gk_X18 gd_X18 q1986 q1987 q250 dX6_plain_121 ?_
      refine x_let (fun s33 e34 => ?_)
      refine x_dup (μ := mu_x6_plain) (pc := 124) dX6_plain_124 rfl ?_
      refine x_aload_n (μ := mu_x6_plain) (pc := 125) 0 dX6_plain_125 rfl ?_
      refine x_fgr (μ := mu_x6_plain) (pc := 126) fX6_3 (by first | exact Or.inl ⟨_, rfl⟩ | exact Or.inr ⟨_, rfl⟩) q484 dX6_plain_126 (gT_N e34 ok32 hT11 (by decide)) ?_
      refine x_iload_n (μ := mu_x6_plain) (pc := 129) 1 dX6_plain_129 rfl ?_
      refine x_if (fun hT35 => ?_)
      refine x_bald (μ := mu_x6_plain) (pc := 130) dX6_plain_130 hT35 rfl (fun hr36 => ?_)
      refine x_bipush (μ := mu_x6_plain) (pc := 131) dX6_plain_131 (by decide) ?_
      refine x_icmp_ne (μ := mu_x6_plain) (pc := 133) (tgt := 140) dX6_plain_133 rfl hr36 (by decide) ?_ ?_
      · refine x_iconst (μ := mu_x6_plain) (pc := 140) dX6_plain_140 ?_
        refine x_callIN_mv (μ := mu_x6_plain) (pc := 141) (ok_x18_init (ω := ω) (l := l) (d := d - 1) hl (by omega) (by decide)) gRel_E gRel_E (fun _ q => q) q1988 q1989 q250 q1990 dX6_plain_141 (gT_ne (gT_new e34)) rfl hy_x18_init (by omega) (Nat.le_of_ble_eq_true rfl) rfl (Nat.le_of_ble_eq_true rfl) (fun x37 k38 => ?_)
        refine x_fpr (μ := mu_x6_plain) (pc := 144) fX6_16 q499 (by first | exact Or.inl ⟨_, rfl⟩ | exact Or.inr ⟨_, rfl⟩) dX6_plain_144 (gT_E k38 (gT_N e34 ok32 hT11 (by decide)) (by decide)) (fun _ q => gE_wR q) ?_
        refine x_let (fun s39 e40 => ?_)
        refine x_goto (μ := mu_x6_plain) (pc := 147) (tgt := 205) dX6_plain_147 rfl ?_
        exact x_vret (μ := mu_x6_plain) (pc := 205) (a1 := ((.inl none, s39) : gR)) dX6_plain_205 rfl rfl (gRel_E.1 _) trivial
      · refine x_iconst (μ := mu_x6_plain) (pc := 136) dX6_plain_136 ?_
        refine x_goto (μ := mu_x6_plain) (pc := 137) (tgt := 141) dX6_plain_137 rfl ?_
        refine x_callIN_mv (μ := mu_x6_plain) (pc := 141) (ok_x18_init (ω := ω) (l := l) (d := d - 1) hl (by omega) (by decide)) gRel_E gRel_E (fun _ q => q) q1988 q1989 q250 q1990 dX6_plain_141 (gT_ne (gT_new e34)) rfl hy_x18_init (by omega) (Nat.le_of_ble_eq_true rfl) rfl (Nat.le_of_ble_eq_true rfl) (fun x41 k42 => ?_)
        refine x_fpr (μ := mu_x6_plain) (pc := 144) fX6_16 q499 (by first | exact Or.inl ⟨_, rfl⟩ | exact Or.inr ⟨_, rfl⟩) dX6_plain_144 (gT_E k42 (gT_N e34 ok32 hT11 (by decide)) (by decide)) (fun _ q => gE_wR q) ?_
        refine x_let (fun s43 e44 => ?_)
        refine x_goto (μ := mu_x6_plain) (pc := 147) (tgt := 205) dX6_plain_147 rfl ?_
        exact x_vret (μ := mu_x6_plain) (pc := 205) (a1 := ((.inl none, s43) : gR)) dX6_plain_205 rfl rfl (gRel_E.1 _) trivial
  · refine x_aload_n (μ := mu_x6_plain) (pc := 47) 0 dX6_plain_47 rfl ?_
    refine x_fgr (μ := mu_x6_plain) (pc := 48) fX6_3 (by first | exact Or.inl ⟨_, rfl⟩ | exact Or.inr ⟨_, rfl⟩) q484 dX6_plain_48 hT11 ?_
    refine x_iload_n (μ := mu_x6_plain) (pc := 51) 1 dX6_plain_51 rfl ?_
    refine x_if (fun hT45 => ?_)
    refine x_bald (μ := mu_x6_plain) (pc := 52) dX6_plain_52 hT45 rfl (fun hr46 => ?_)
    refine x_bipush (μ := mu_x6_plain) (pc := 53) dX6_plain_53 (by decide) ?_
    refine x_icmp_ne (μ := mu_x6_plain) (pc := 55) (tgt := 62) dX6_plain_55 rfl hr46 (by decide) ?_ ?_
    · refine x_iconst (μ := mu_x6_plain) (pc := 62) dX6_plain_62 ?_
      exact okj_x6_plain_j63 hl hdp hv1 hv2 (by decide)
    · refine x_iconst (μ := mu_x6_plain) (pc := 58) dX6_plain_58 ?_
      refine x_goto (μ := mu_x6_plain) (pc := 59) (tgt := 63) dX6_plain_59 rfl ?_
      exact okj_x6_plain_j63 hl hdp hv1 hv2 (by decide)
def x8_begin (v0 : Nat) (σ : gMem) : Option gMem := if mT σ v0 = 7 then (x8_put v0 61 σ).bind (fun x2 => gLet (wI x2 v0 2 1) (fun s4 => some s4)) else none
set_option maxRecDepth 100000 in
theorem ok_x8_begin {ω : gW} {l : Launch} {d : Nat} {σ : gMem} {v0 : Nat} (hl : l.stackTraces = false) (hdp : 1 ≤ d) : gK (fun p : gMem => (.inl none, p)) gE ω l d mu_x8_begin [vR v0] σ (x8_begin v0 σ) := by
  refine gK.of hp_X8 (Nat.le_of_ble_eq_true rfl) ?_
  unfold x8_begin
  refine x_aload_n (μ := mu_x8_begin) (pc := 0) 0 dX8_begin_0 rfl ?_
  refine x_bipush (μ := mu_x8_begin) (pc := 1) dX8_begin_1 (by decide) ?_
  refine x_if (fun hT1 => ?_)
  refine x_callV_mv (μ := mu_x8_begin) (pc := 3) (ok_x8_put (ω := ω) (l := l) (d := d - 1) hl (by omega) (by decide)) gRel_E gRel_E (fun _ q => q) q1365 q1366 q1367 q229 q1368 dX8_begin_3 rfl hT1 hy_x8_put (by omega) (Nat.le_of_ble_eq_true rfl) rfl (Nat.le_of_ble_eq_true rfl) (fun x2 k3 => ?_)
  refine x_aload_n (μ := mu_x8_begin) (pc := 6) 0 dX8_begin_6 rfl ?_
  refine x_iconst (μ := mu_x8_begin) (pc := 7) dX8_begin_7 ?_
  refine x_fpz (μ := mu_x8_begin) (pc := 8) fX8_2 q546 (by decide) dX8_begin_8 (gT_E k3 hT1 (by decide)) (fun _ q => gE_wI q) ?_
  refine x_let (fun s4 e5 => ?_)
  exact x_vret (μ := mu_x8_begin) (pc := 11) (a1 := s4) dX8_begin_11 rfl rfl (gRel_E.1 _) trivial
def x9_twin_l40 (N : Nat) (v0 : Nat) (v1 : Nat) (K : gMem → Option (Nat × gMem)) : Nat → Int → gMem → Option (Nat × gMem)
  | 0, _, _ => none
  | n + 1, v2, s => if mT s v1 = 8 then if mT s (mR s v1 2) = 111 then if w32 (mN s (mR s v1 2) : Int) ≤ v2 then K s else if mT s v0 = 8 then if mT s (mR s v0 2) = 111 then if 0 ≤ v2 ∧ v2 < (mN s (mR s v0 2) : Int) then if mT s (mR s (mR s v0 2) v2.toNat) = 110 then gLet (wK s (mR s (mR s v0 2) v2.toNat) 110) (fun s25 => if mZ s = 0 ∨ gAsg 11 (mT s25 (mZ s)) = true then if 0 ≤ v2 ∧ v2 < (mN s25 (mR s v1 2) : Int) then gLet (wR s25 (mR s v1 2) v2.toNat (mZ s)) (fun s28 => x9_twin_l40 N v0 v1 K n (w32 (v2 + 1)) s28) else none else none) else none else none else none else none else none else none
set_option maxRecDepth 100000 in
theorem okl_x9_twin_l40 {ω : gW} {l : Launch} {d : Nat} {N : Nat} {σ0 : gMem} {v0 : Nat} {v1 : Nat} {K : gMem → Option (Nat × gMem)} (hl : l.stackTraces = false) (hdp : 2 ≤ d) (hK : ∀ (s : gMem) , GG (fun p : Nat × gMem => (.inl (some (vR p.1)), p.2)) gE ω l d mu_x9_twin σ0 73 [(1, vR v1)] [] s (K s)) : ∀ (n : Nat) (v2 : Int) (s : gMem) , g32 v2 → GG (fun p : Nat × gMem => (.inl (some (vR p.1)), p.2)) gE ω l d mu_x9_twin σ0 40 [(0, vR v0), (1, vR v1), (2, vI v2)] [] s (x9_twin_l40 N v0 v1 K n v2 s) := by
  intro n
  induction n with
  | zero => intros; exact x_none
  | succ n ih =>
    intro v2 s hv2
    unfold x9_twin_l40
    refine x_iload_n (μ := mu_x9_twin) (pc := 40) 2 dX9_twin_40 rfl ?_
    refine x_aload_n (μ := mu_x9_twin) (pc := 41) 1 dX9_twin_41 rfl ?_
    refine x_if (fun hT19 => ?_)
    refine x_fgr (μ := mu_x9_twin) (pc := 42) fX9_2 (by first | exact Or.inl ⟨_, rfl⟩ | exact Or.inr ⟨_, rfl⟩) q578 dX9_twin_42 hT19 ?_
    refine x_if (fun hT20 => ?_)
    refine x_len (μ := mu_x9_twin) (pc := 45) 11 (fun _ => rfl) dX9_twin_45 hT20 ?_
    refine x_w1 ?_
    refine x_icmp_ge (μ := mu_x9_twin) (pc := 46) (tgt := 73) dX9_twin_46 rfl hv2 (w32_rng _) ?_ ?_
    · refine x_loc (lv' := [(1, vR v1)]) [1] rfl ?_
      exact hK s
    · refine x_aload_n (μ := mu_x9_twin) (pc := 49) 1 dX9_twin_49 rfl ?_
      refine x_fgr (μ := mu_x9_twin) (pc := 50) fX9_2 (by first | exact Or.inl ⟨_, rfl⟩ | exact Or.inr ⟨_, rfl⟩) q578 dX9_twin_50 hT19 ?_
      refine x_iload_n (μ := mu_x9_twin) (pc := 53) 2 dX9_twin_53 rfl ?_
      refine x_aload_n (μ := mu_x9_twin) (pc := 54) 0 dX9_twin_54 rfl ?_
      refine x_if (fun hT21 => ?_)
      refine x_fgr (μ := mu_x9_twin) (pc := 55) fX9_2 (by first | exact Or.inl ⟨_, rfl⟩ | exact Or.inr ⟨_, rfl⟩) q578 dX9_twin_55 hT21 ?_
      refine x_iload_n (μ := mu_x9_twin) (pc := 58) 2 dX9_twin_58 rfl ?_
      refine x_if (fun hT22 => ?_)
      refine x_aald (μ := mu_x9_twin) (pc := 59) 11 (fun _ => rfl) rfl rfl dX9_twin_59 hT22 rfl ?_
      refine x_if (fun hT24 => ?_)
      refine x_ok (fun ok23 => ?_)
      refine x_clonec (μ := mu_x9_twin) (pc := 60) q640 dX9_twin_60 hT24 (by omega) (Nat.le_of_ble_eq_true rfl) ?_
      refine x_let (fun s25 e26 => ?_)
      refine x_castA (μ := mu_x9_twin) (pc := 63) 10 (fun _ => rfl) (Or.inl ⟨_, rfl, rfl⟩) q644 dX9_twin_63 (gT_newK e26) ?_
      refine x_if (fun hz27 => ?_)
      refine x_aast (μ := mu_x9_twin) (pc := 66) 11 ⟨fun _ => rfl, rfl, rfl⟩ dX9_twin_66 (gT_K e26 ok23 hT20 (by decide)) rfl hz27 (fun _ _ q => gE_wR q) ?_
      refine x_let (fun s28 e29 => ?_)
      refine x_iincw (μ := mu_x9_twin) (pc := 67) (lv' := [(2, vI (w32 (v2 + 1))), (0, vR v0), (1, vR v1)]) 2 dX9_twin_67 rfl (by decide) rfl ?_
      refine x_goto (μ := mu_x9_twin) (pc := 70) (tgt := 40) dX9_twin_70 rfl ?_
      refine x_loc (lv' := [(0, vR v0), (1, vR v1), (2, vI (w32 (v2 + 1)))]) [1, 2, 0] rfl ?_
      exact ih (w32 (v2 + 1)) s28 (w32_rng _)
def x9_twin (N : Nat) (v0 : Nat) (σ : gMem) : Option (Nat × gMem) := gLet (wN σ 8 3) (fun s2 => if mT s2 v0 = 8 then if mT s2 (mR s2 v0 0) = 100 then gLet (wK s2 (mR s2 v0 0) 100) (fun s7 => if mT s7 (mR s7 v0 1) = 100 then gLet (wK s7 (mR s7 v0 1) 100) (fun s11 => if mT s11 (mR s11 v0 2) = 111 then gLet (wK s11 (mR s11 v0 2) 111) (fun s15 => (x9_init_2 (mZ σ) (mZ s2) (mZ s7) (mZ s11) s15).bind (fun x17 => x9_twin_l40 N v0 (mZ σ) (fun s30 => some (mZ σ, s30)) N 0 x17)) else none) else none) else none else none)
set_option maxRecDepth 100000 in
theorem ok_x9_twin {ω : gW} {l : Launch} {d : Nat} {N : Nat} {σ : gMem} {v0 : Nat} (hl : l.stackTraces = false) (hdp : 2 ≤ d) : gK (fun p : Nat × gMem => (.inl (some (vR p.1)), p.2)) gE ω l d mu_x9_twin [vR v0] σ (x9_twin N v0 σ) := by
  refine gK.of hp_X9 (Nat.le_of_ble_eq_true rfl) ?_
  unfold x9_twin
  refine x_ok (fun ok1 => ?_)
  refine x_new (μ := mu_x9_twin) (pc := 0) (ci := 7) gk_X9 gd_X9 q627 q559 q230 dX9_twin_0 ?_
  refine x_let (fun s2 e3 => ?_)
  refine x_dup (μ := mu_x9_twin) (pc := 3) dX9_twin_3 rfl ?_
  refine x_aload_n (μ := mu_x9_twin) (pc := 4) 0 dX9_twin_4 rfl ?_
  refine x_if (fun hT4 => ?_)
  refine x_fgr (μ := mu_x9_twin) (pc := 5) fX9_0 (by first | exact Or.inl ⟨_, rfl⟩ | exact Or.inr ⟨_, rfl⟩) q568 dX9_twin_5 hT4 ?_
  refine x_if (fun hT6 => ?_)
  refine x_ok (fun ok5 => ?_)
  refine x_clonei (μ := mu_x9_twin) (pc := 8) q628 dX9_twin_8 hT6 (by omega) (Nat.le_of_ble_eq_true rfl) ?_
  refine x_let (fun s7 e8 => ?_)
  refine x_castA (μ := mu_x9_twin) (pc := 11) 0 (fun _ => rfl) (Or.inr ⟨fun _ h => (by cases h), rfl⟩) q632 dX9_twin_11 (gT_newK e8) ?_
  refine x_aload_n (μ := mu_x9_twin) (pc := 14) 0 dX9_twin_14 rfl ?_
  refine x_fgr (μ := mu_x9_twin) (pc := 15) fX9_1 (by first | exact Or.inl ⟨_, rfl⟩ | exact Or.inr ⟨_, rfl⟩) q573 dX9_twin_15 (gT_K e8 ok5 hT4 (by decide)) ?_
  refine x_if (fun hT10 => ?_)
  refine x_ok (fun ok9 => ?_)
  refine x_clonei (μ := mu_x9_twin) (pc := 18) q628 dX9_twin_18 hT10 (by omega) (Nat.le_of_ble_eq_true rfl) ?_
  refine x_let (fun s11 e12 => ?_)
  refine x_castA (μ := mu_x9_twin) (pc := 21) 0 (fun _ => rfl) (Or.inr ⟨fun _ h => (by cases h), rfl⟩) q632 dX9_twin_21 (gT_newK e12) ?_
  refine x_aload_n (μ := mu_x9_twin) (pc := 24) 0 dX9_twin_24 rfl ?_
  refine x_fgr (μ := mu_x9_twin) (pc := 25) fX9_2 (by first | exact Or.inl ⟨_, rfl⟩ | exact Or.inr ⟨_, rfl⟩) q578 dX9_twin_25 (gT_K e12 ok9 (gT_K e8 ok5 hT4 (by decide)) (by decide)) ?_
  refine x_if (fun hT14 => ?_)
  refine x_ok (fun ok13 => ?_)
  refine x_cloned (μ := mu_x9_twin) (pc := 28) q633 dX9_twin_28 hT14 (by omega) (Nat.le_of_ble_eq_true rfl) ?_
  refine x_let (fun s15 e16 => ?_)
  refine x_castA (μ := mu_x9_twin) (pc := 31) 11 (fun _ => rfl) (Or.inr ⟨fun _ h => (by cases h), rfl⟩) q564 dX9_twin_31 (gT_newK e16) ?_
  refine x_callI_mv (μ := mu_x9_twin) (pc := 34) (ok_x9_init_2 (ω := ω) (l := l) (d := d - 1) hl (by omega) ) gRel_E gRel_E (fun _ q => q) q637 q638 q230 q639 dX9_twin_34 (gT_ne (gT_K e16 ok13 (gT_K e12 ok9 (gT_K e8 ok5 (gT_new e3) (by decide)) (by decide)) (by decide))) rfl hy_x9_init_2 (by omega) (Nat.le_of_ble_eq_true rfl) rfl (Nat.le_of_ble_eq_true rfl) (fun x17 k18 => ?_)
  refine x_astore_n (μ := mu_x9_twin) (pc := 37) (lv' := [(1, vR (mZ σ)), (0, vR v0)]) dX9_twin_37 rfl (by decide) rfl ?_
  refine x_iconst (μ := mu_x9_twin) (pc := 38) dX9_twin_38 ?_
  refine x_istore_n (μ := mu_x9_twin) (pc := 39) (lv' := [(2, vI 0), (1, vR (mZ σ)), (0, vR v0)]) dX9_twin_39 rfl (by decide) rfl ?_
  refine x_loc (lv' := [(0, vR v0), (1, vR (mZ σ)), (2, vI 0)]) [2, 1, 0] rfl ?_
  refine okl_x9_twin_l40 hl hdp (fun s30 => ?_) N 0 x17 (by decide)
  refine x_aload_n (μ := mu_x9_twin) (pc := 73) 0 dX9_twin_73 rfl ?_
  exact x_aret (μ := mu_x9_twin) (pc := 74) dX9_twin_74 rfl (by first | exact Or.inl ⟨_, rfl⟩ | exact Or.inr ⟨_, rfl⟩) rfl (gRel_E.1 _) trivial
def x9_row (N : Nat) (v0 : Nat) (v1 : Int) (σ : gMem) : Option Int := if mT σ v0 = 8 then (x9_placeOf N (mR σ v0 0) v1 σ).bind (fun x2 => some x2) else none
set_option maxRecDepth 100000 in
theorem ok_x9_row {ω : gW} {l : Launch} {d : Nat} {N : Nat} {σ : gMem} {v0 : Nat} {v1 : Int} (hl : l.stackTraces = false) (hdp : 1 ≤ d) (hv1 : g32 v1) : gK (fun x : Int => (.inl (some (vI x)), σ)) gE ω l d mu_x9_row [vR v0, vI v1] σ (x9_row N v0 v1 σ) := by
  refine gK.of hp_X9 (Nat.le_of_ble_eq_true rfl) ?_
  unfold x9_row
  refine x_aload_n (μ := mu_x9_row) (pc := 0) 0 dX9_row_0 rfl ?_
  refine x_if (fun hT1 => ?_)
  refine x_fgr (μ := mu_x9_row) (pc := 1) fX9_0 (by first | exact Or.inl ⟨_, rfl⟩ | exact Or.inr ⟨_, rfl⟩) q568 dX9_row_1 hT1 ?_
  refine x_iload_n (μ := mu_x9_row) (pc := 4) 1 dX9_row_4 rfl ?_
  refine x_callS_pi (μ := mu_x9_row) (pc := 5) (ok_x9_placeOf (ω := ω) (l := l) (d := d - 1) hl (by omega) hv1) gRel_E gRel_E (fun _ q => q) q782 q783 q230 q784 dX9_row_5 hy_x9_placeOf (by omega) (Nat.le_of_ble_eq_true rfl) rfl (Nat.le_of_ble_eq_true rfl) (fun x2 hr3 => ?_)
  exact x_iret (μ := mu_x9_row) (pc := 8) dX9_row_8 rfl rfl (gRel_E.1 _) (show g32 x2 from hr3)
def x9_of (N : Nat) (v0 : Nat) (v1 : Int) (v2 : Int) (σ : gMem) : Option Nat := if mT σ v0 = 8 then (x9_row N v0 v1 σ).bind (fun x2 => (x9_column N v0 v2 σ).bind (fun x4 => if x2 = (-1) then some 0 else if x4 ≠ (-1) then if mT σ (mR σ v0 2) = 111 then if 0 ≤ x2 ∧ x2 < (mN σ (mR σ v0 2) : Int) then if mT σ (mR σ (mR σ v0 2) x2.toNat) = 110 then if 0 ≤ x4 ∧ x4 < (mN σ (mR σ (mR σ v0 2) x2.toNat) : Int) then some (mR σ (mR σ (mR σ v0 2) x2.toNat) x4.toNat) else none else none else none else none else some 0)) else none
set_option maxRecDepth 100000 in
theorem ok_x9_of {ω : gW} {l : Launch} {d : Nat} {N : Nat} {σ : gMem} {v0 : Nat} {v1 : Int} {v2 : Int} (hl : l.stackTraces = false) (hdp : 2 ≤ d) (hv1 : g32 v1) (hv2 : g32 v2) : gK (fun x : Nat => (.inl (some (vR x)), σ)) gE ω l d mu_x9_of [vR v0, vI v1, vI v2] σ (x9_of N v0 v1 v2 σ) := by
  refine gK.of hp_X9 (Nat.le_of_ble_eq_true rfl) ?_
  unfold x9_of
  refine x_aload_n (μ := mu_x9_of) (pc := 0) 0 dX9_of_0 rfl ?_
  refine x_iload_n (μ := mu_x9_of) (pc := 1) 1 dX9_of_1 rfl ?_
  refine x_if (fun hT1 => ?_)
  refine x_callV_pi (μ := mu_x9_of) (pc := 2) (ok_x9_row (ω := ω) (l := l) (d := d - 1) hl (by omega) hv1) gRel_E gRel_E (fun _ q => q) q2238 q779 q780 q230 q781 dX9_of_2 rfl hT1 hy_x9_row (by omega) (Nat.le_of_ble_eq_true rfl) rfl (Nat.le_of_ble_eq_true rfl) (fun x2 hr3 => ?_)
  refine x_istore_n (μ := mu_x9_of) (pc := 5) (lv' := [(3, vI x2), (0, vR v0), (1, vI v1), (2, vI v2)]) dX9_of_5 rfl (by decide) rfl ?_
  refine x_aload_n (μ := mu_x9_of) (pc := 6) 1 dX9_of_6 rfl ?_
  refine x_iload_n (μ := mu_x9_of) (pc := 7) 3 dX9_of_7 rfl ?_
  refine x_callV_pi (μ := mu_x9_of) (pc := 8) (ok_x9_column (ω := ω) (l := l) (d := d - 1) hl (by omega) hv2) gRel_E gRel_E (fun _ q => q) q2239 q786 q787 q230 q788 dX9_of_8 rfl hT1 hy_x9_column (by omega) (Nat.le_of_ble_eq_true rfl) rfl (Nat.le_of_ble_eq_true rfl) (fun x4 hr5 => ?_)
  refine x_istore (μ := mu_x9_of) (pc := 11) (lv' := [(4, vI x4), (3, vI x2), (0, vR v0), (1, vI v1), (2, vI v2)]) dX9_of_11 (by decide) rfl ?_
  refine x_iload_n (μ := mu_x9_of) (pc := 13) 1 dX9_of_13 rfl ?_
  refine x_iconst (μ := mu_x9_of) (pc := 14) dX9_of_14 ?_
  refine x_icmp_eq (μ := mu_x9_of) (pc := 15) (tgt := 24) dX9_of_15 rfl hr3 (by decide) ?_ ?_
  · refine x_null (μ := mu_x9_of) (pc := 24) dX9_of_24 ?_
    refine x_goto (μ := mu_x9_of) (pc := 25) (tgt := 37) dX9_of_25 rfl ?_
    exact x_aret (μ := mu_x9_of) (pc := 37) dX9_of_37 rfl (by first | exact Or.inl ⟨_, rfl⟩ | exact Or.inr ⟨_, rfl⟩) rfl (gRel_E.1 _) trivial
  · refine x_iload (μ := mu_x9_of) (pc := 18) 0 dX9_of_18 rfl ?_
    refine x_iconst (μ := mu_x9_of) (pc := 20) dX9_of_20 ?_
    refine x_icmp_ne (μ := mu_x9_of) (pc := 21) (tgt := 28) dX9_of_21 rfl hr5 (by decide) ?_ ?_
    · refine x_aload_n (μ := mu_x9_of) (pc := 28) 2 dX9_of_28 rfl ?_
      refine x_fgr (μ := mu_x9_of) (pc := 29) fX9_2 (by first | exact Or.inl ⟨_, rfl⟩ | exact Or.inr ⟨_, rfl⟩) q578 dX9_of_29 hT1 ?_
      refine x_iload_n (μ := mu_x9_of) (pc := 32) 1 dX9_of_32 rfl ?_
      refine x_if (fun hT6 => ?_)
      refine x_aald (μ := mu_x9_of) (pc := 33) 11 (fun _ => rfl) rfl rfl dX9_of_33 hT6 rfl ?_
      refine x_iload (μ := mu_x9_of) (pc := 34) 0 dX9_of_34 rfl ?_
      refine x_if (fun hT7 => ?_)
      refine x_aald (μ := mu_x9_of) (pc := 36) 10 (fun _ => rfl) rfl rfl dX9_of_36 hT7 rfl ?_
      exact x_aret (μ := mu_x9_of) (pc := 37) dX9_of_37 rfl (by first | exact Or.inl ⟨_, rfl⟩ | exact Or.inr ⟨_, rfl⟩) rfl (gRel_E.1 _) trivial
    · refine x_null (μ := mu_x9_of) (pc := 24) dX9_of_24 ?_
      refine x_goto (μ := mu_x9_of) (pc := 25) (tgt := 37) dX9_of_25 rfl ?_
      exact x_aret (μ := mu_x9_of) (pc := 37) dX9_of_37 rfl (by first | exact Or.inl ⟨_, rfl⟩ | exact Or.inr ⟨_, rfl⟩) rfl (gRel_E.1 _) trivial
def j15_numberOfLeadingZeros (v0 : Int) (σ : gMem) : Option Int := if w32 (lUshr v0 32) ≠ 0 then (j16_numberOfLeadingZeros (w32 (lUshr v0 32)) σ).bind (fun x1 => some x1) else (j16_numberOfLeadingZeros (w32 v0) σ).bind (fun x3 => some (w32 (32 + x3)))
set_option maxRecDepth 100000 in
theorem ok_j15_numberOfLeadingZeros {ω : gW} {l : Launch} {d : Nat} {σ : gMem} {v0 : Int} (hl : l.stackTraces = false) (hdp : 1 ≤ d) (hv0 : g64 v0) : gK (fun x : Int => (.inl (some (vI x)), σ)) gE ω l d mu_j15_numberOfLeadingZeros [vL v0] σ (j15_numberOfLeadingZeros v0 σ) := by
  refine gK.of hp_J15 (Nat.le_of_ble_eq_true rfl) ?_
  unfold j15_numberOfLeadingZeros
  refine x_lload_n (μ := mu_j15_numberOfLeadingZeros) (pc := 0) 0 dJ15_numberOfLeadingZeros_0 rfl ?_
  refine x_bipush (μ := mu_j15_numberOfLeadingZeros) (pc := 1) dJ15_numberOfLeadingZeros_1 (by decide) ?_
  refine x_lushr (μ := mu_j15_numberOfLeadingZeros) (pc := 3) dJ15_numberOfLeadingZeros_3 ?_
  refine x_l2i (μ := mu_j15_numberOfLeadingZeros) (pc := 4) dJ15_numberOfLeadingZeros_4 ?_
  refine x_w1 ?_
  refine x_istore_n (μ := mu_j15_numberOfLeadingZeros) (pc := 5) (lv' := [(2, vI (w32 (lUshr v0 32))), (0, vL v0)]) dJ15_numberOfLeadingZeros_5 rfl (by decide) rfl ?_
  refine x_iload_n (μ := mu_j15_numberOfLeadingZeros) (pc := 6) 0 dJ15_numberOfLeadingZeros_6 rfl ?_
  refine x_if_ne (μ := mu_j15_numberOfLeadingZeros) (pc := 7) (tgt := 21) dJ15_numberOfLeadingZeros_7 rfl (w32_rng _) ?_ ?_
  · refine x_iload_n (μ := mu_j15_numberOfLeadingZeros) (pc := 21) 0 dJ15_numberOfLeadingZeros_21 rfl ?_
    refine x_callS_pi (μ := mu_j15_numberOfLeadingZeros) (pc := 22) (ok_j16_numberOfLeadingZeros (ω := ω) (l := l) (d := d - 1) hl (by omega) (w32_rng _)) gRel_E gRel_E (fun _ q => q) q796 q797 q264 q798 dJ15_numberOfLeadingZeros_22 hy_j16_numberOfLeadingZeros (by omega) (Nat.le_of_ble_eq_true rfl) rfl (Nat.le_of_ble_eq_true rfl) (fun x1 hr2 => ?_)
    exact x_iret (μ := mu_j15_numberOfLeadingZeros) (pc := 25) dJ15_numberOfLeadingZeros_25 rfl rfl (gRel_E.1 _) (show g32 x1 from hr2)
  · refine x_bipush (μ := mu_j15_numberOfLeadingZeros) (pc := 10) dJ15_numberOfLeadingZeros_10 (by decide) ?_
    refine x_lload_n (μ := mu_j15_numberOfLeadingZeros) (pc := 12) 1 dJ15_numberOfLeadingZeros_12 rfl ?_
    refine x_l2i (μ := mu_j15_numberOfLeadingZeros) (pc := 13) dJ15_numberOfLeadingZeros_13 ?_
    refine x_w1 ?_
    refine x_callS_pi (μ := mu_j15_numberOfLeadingZeros) (pc := 14) (ok_j16_numberOfLeadingZeros (ω := ω) (l := l) (d := d - 1) hl (by omega) (w32_rng _)) gRel_E gRel_E (fun _ q => q) q796 q797 q264 q798 dJ15_numberOfLeadingZeros_14 hy_j16_numberOfLeadingZeros (by omega) (Nat.le_of_ble_eq_true rfl) rfl (Nat.le_of_ble_eq_true rfl) (fun x3 hr4 => ?_)
    refine x_iadd (μ := mu_j15_numberOfLeadingZeros) (pc := 17) dJ15_numberOfLeadingZeros_17 ?_
    refine x_goto (μ := mu_j15_numberOfLeadingZeros) (pc := 18) (tgt := 25) dJ15_numberOfLeadingZeros_18 rfl ?_
    refine x_w1 ?_
    exact x_iret (μ := mu_j15_numberOfLeadingZeros) (pc := 25) dJ15_numberOfLeadingZeros_25 rfl rfl (gRel_E.1 _) (show g32 (w32 (32 + x3)) from (w32_rng _))
def j15_numberOfTrailingZeros (v0 : Int) (σ : gMem) : Option Int := if w32 v0 ≠ 0 then (j16_numberOfTrailingZeros (w32 v0) σ).bind (fun x1 => some x1) else (j16_numberOfTrailingZeros (w32 (lUshr v0 32)) σ).bind (fun x3 => some (w32 (32 + x3)))
set_option maxRecDepth 100000 in
theorem ok_j15_numberOfTrailingZeros {ω : gW} {l : Launch} {d : Nat} {σ : gMem} {v0 : Int} (hl : l.stackTraces = false) (hdp : 1 ≤ d) (hv0 : g64 v0) : gK (fun x : Int => (.inl (some (vI x)), σ)) gE ω l d mu_j15_numberOfTrailingZeros [vL v0] σ (j15_numberOfTrailingZeros v0 σ) := by
  refine gK.of hp_J15 (Nat.le_of_ble_eq_true rfl) ?_
  unfold j15_numberOfTrailingZeros
  refine x_lload_n (μ := mu_j15_numberOfTrailingZeros) (pc := 0) 0 dJ15_numberOfTrailingZeros_0 rfl ?_
  refine x_l2i (μ := mu_j15_numberOfTrailingZeros) (pc := 1) dJ15_numberOfTrailingZeros_1 ?_
  refine x_w1 ?_
  refine x_istore_n (μ := mu_j15_numberOfTrailingZeros) (pc := 2) (lv' := [(2, vI (w32 v0)), (0, vL v0)]) dJ15_numberOfTrailingZeros_2 rfl (by decide) rfl ?_
  refine x_iload_n (μ := mu_j15_numberOfTrailingZeros) (pc := 3) 0 dJ15_numberOfTrailingZeros_3 rfl ?_
  refine x_if_ne (μ := mu_j15_numberOfTrailingZeros) (pc := 4) (tgt := 21) dJ15_numberOfTrailingZeros_4 rfl (w32_rng _) ?_ ?_
  · refine x_iload_n (μ := mu_j15_numberOfTrailingZeros) (pc := 21) 0 dJ15_numberOfTrailingZeros_21 rfl ?_
    refine x_callS_pi (μ := mu_j15_numberOfTrailingZeros) (pc := 22) (ok_j16_numberOfTrailingZeros (ω := ω) (l := l) (d := d - 1) hl (by omega) (w32_rng _)) gRel_E gRel_E (fun _ q => q) q952 q953 q264 q954 dJ15_numberOfTrailingZeros_22 hy_j16_numberOfTrailingZeros (by omega) (Nat.le_of_ble_eq_true rfl) rfl (Nat.le_of_ble_eq_true rfl) (fun x1 hr2 => ?_)
    exact x_iret (μ := mu_j15_numberOfTrailingZeros) (pc := 25) dJ15_numberOfTrailingZeros_25 rfl rfl (gRel_E.1 _) (show g32 x1 from hr2)
  · refine x_bipush (μ := mu_j15_numberOfTrailingZeros) (pc := 7) dJ15_numberOfTrailingZeros_7 (by decide) ?_
    refine x_lload_n (μ := mu_j15_numberOfTrailingZeros) (pc := 9) 1 dJ15_numberOfTrailingZeros_9 rfl ?_
    refine x_bipush (μ := mu_j15_numberOfTrailingZeros) (pc := 10) dJ15_numberOfTrailingZeros_10 (by decide) ?_
    refine x_lushr (μ := mu_j15_numberOfTrailingZeros) (pc := 12) dJ15_numberOfTrailingZeros_12 ?_
    refine x_l2i (μ := mu_j15_numberOfTrailingZeros) (pc := 13) dJ15_numberOfTrailingZeros_13 ?_
    refine x_w1 ?_
    refine x_callS_pi (μ := mu_j15_numberOfTrailingZeros) (pc := 14) (ok_j16_numberOfTrailingZeros (ω := ω) (l := l) (d := d - 1) hl (by omega) (w32_rng _)) gRel_E gRel_E (fun _ q => q) q952 q953 q264 q954 dJ15_numberOfTrailingZeros_14 hy_j16_numberOfTrailingZeros (by omega) (Nat.le_of_ble_eq_true rfl) rfl (Nat.le_of_ble_eq_true rfl) (fun x3 hr4 => ?_)
    refine x_iadd (μ := mu_j15_numberOfTrailingZeros) (pc := 17) dJ15_numberOfTrailingZeros_17 ?_
    refine x_goto (μ := mu_j15_numberOfTrailingZeros) (pc := 18) (tgt := 25) dJ15_numberOfTrailingZeros_18 rfl ?_
    refine x_w1 ?_
    exact x_iret (μ := mu_j15_numberOfTrailingZeros) (pc := 25) dJ15_numberOfTrailingZeros_25 rfl rfl (gRel_E.1 _) (show g32 (w32 (32 + x3)) from (w32_rng _))
def dp_Part_same (N : Nat) : Nat → Nat → Nat → gMem → Option Int
  | 0 => fun _ _ _ => none
  | n + 1 => fun a0 a1 s => if mT s a0 = 11 then x13_same a0 a1 s else if mT s a0 = 12 then x14_same N a0 a1 s else if mT s a0 = 16 then x18_same a0 a1 s else if mT s a0 = 13 then x15_same a0 a1 s else if mT s a0 = 15 then x17_same a0 a1 s else if mT s a0 = 17 then x19_same a0 a1 s else if mT s a0 = 19 then x21_same N (dp_Part_same N n) a0 a1 s else if mT s a0 = 20 then x22_same N (dp_Part_same N n) a0 a1 s else if mT s a0 = 18 then x20_same N (dp_Part_same N n) a0 a1 s else none
set_option maxRecDepth 100000 in
theorem ok_dp_Part_same {ω : gW} {l : Launch} {N : Nat} (hl : l.stackTraces = false) : ∀ (n : Nat) {d : Nat} (a0 : Nat) (a1 : Nat) (s : gMem), 1 + 1 * n ≤ d → gKI (fun x : Int => (.inl (some (vI x)), s)) gE ω l d iy_Part_same (some .boolean) [vR a0, vR a1] s (dp_Part_same N n a0 a1 s) := by
  intro n
  induction n with
  | zero => intro d a0 a1 s hd; exact gKI.none
  | succ n ih =>
    intro d a0 a1 s hd
    unfold dp_Part_same
    refine gKI.cls (ci := 10) rfl (List.mem_of_getElem? (i := 30) rfl) q1641 q1643 q241 q1645 (Nat.le_of_ble_eq_true rfl) (ok_x13_same hl (by omega)) ?_
    refine gKI.cls (ci := 11) rfl (List.mem_of_getElem? (i := 31) rfl) q1647 q1649 q242 q1651 (Nat.le_of_ble_eq_true rfl) (ok_x14_same hl (by omega)) ?_
    refine gKI.cls (ci := 15) rfl (List.mem_of_getElem? (i := 32) rfl) q1627 q1629 q250 q1631 (Nat.le_of_ble_eq_true rfl) (ok_x18_same hl (by omega)) ?_
    refine gKI.cls (ci := 12) rfl (List.mem_of_getElem? (i := 33) rfl) q1606 q1608 q247 q1610 (Nat.le_of_ble_eq_true rfl) (ok_x15_same hl (by omega)) ?_
    refine gKI.cls (ci := 14) rfl (List.mem_of_getElem? (i := 34) rfl) q1620 q1622 q249 q1624 (Nat.le_of_ble_eq_true rfl) (ok_x17_same hl (by omega)) ?_
    refine gKI.cls (ci := 16) rfl (List.mem_of_getElem? (i := 35) rfl) q1588 q1590 q251 q1592 (Nat.le_of_ble_eq_true rfl) (ok_x19_same hl (by omega)) ?_
    refine gKI.cls (ci := 18) rfl (List.mem_of_getElem? (i := 36) rfl) q1612 q1614 q253 q1616 (Nat.le_of_ble_eq_true rfl) (ok_x21_same hl (dW := 1 + 1 * n) (fun a0 a1 s => ih a0 a1 s (Nat.le_refl _)) (by omega) (by omega)) ?_
    refine gKI.cls (ci := 19) rfl (List.mem_of_getElem? (i := 37) rfl) q1633 q1635 q255 q1637 (Nat.le_of_ble_eq_true rfl) (ok_x22_same hl (dW := 1 + 1 * n) (fun a0 a1 s => ih a0 a1 s (Nat.le_refl _)) (by omega) (by omega)) ?_
    refine gKI.cls (ci := 17) rfl (List.mem_of_getElem? (i := 38) rfl) q1598 q1600 q252 q1602 (Nat.le_of_ble_eq_true rfl) (ok_x20_same hl (dW := 1 + 1 * n) (fun a0 a1 s => ih a0 a1 s (Nat.le_refl _)) (by omega) (by omega)) ?_
    exact gKI.none
def x0_branch (v0 : Nat) (v1 : Int) (v2 : Nat) (σ : gMem) : Option (Int × gMem) := if mT σ v0 = 1 then (x1_branch v0 v1 σ).bind (fun p => gTryI p (fun x2 s5 => if mT s5 v2 = 101 then if 0 ≤ (0 : Int) ∧ (0 : Int) < (mN s5 v2 : Int) then gLet (wL s5 v2 (0 : Int).toNat x2) (fun s11 => some (0, s11)) else none else none) (fun E6 s7 => if E6 = "java/lang/IndexOutOfBoundsException" then some (1, s7) else if E6 = "java/lang/IllegalStateException" then some (2, s7) else none)) else none
set_option maxRecDepth 100000 in
theorem ok_x0_branch {ω : gW} {l : Launch} {d : Nat} {σ : gMem} {v0 : Nat} {v1 : Int} {v2 : Nat} (hl : l.stackTraces = false) (hdp : 9 ≤ d) (hv1 : g32 v1) : gK (fun p : Int × gMem => (.inl (some (vI p.1)), p.2)) gE ω l d mu_x0_branch [vR v0, vI v1, vR v2] σ (x0_branch v0 v1 v2 σ) := by
  refine gK.ofH hp_X0 (Nat.le_of_ble_eq_true rfl) ?_
  unfold x0_branch
  refine x_aload_n (μ := mu_x0_branch) (pc := 0) 2 dX0_branch_0 rfl ?_
  refine x_iconst (μ := mu_x0_branch) (pc := 1) dX0_branch_1 ?_
  refine x_aload_n (μ := mu_x0_branch) (pc := 2) 0 dX0_branch_2 rfl ?_
  refine x_iload_n (μ := mu_x0_branch) (pc := 3) 1 dX0_branch_3 rfl ?_
  refine x_if (fun hT1 => ?_)
  refine x_callV_ti (μ := mu_x0_branch) (pc := 4) (ok_x1_branch (ω := ω) (l := l) (d := d - 1) hl (by omega) hv1) q2433 q2434 q2435 q221 q2436 dX0_branch_4 rfl hT1 hy_x1_branch (by omega) (Nat.le_of_ble_eq_true rfl) rfl (Nat.le_of_ble_eq_true rfl) (fun x2 s5 k4 hr3 => ?_) (fun E6 s7 k9 => ?_)
  · refine x_i2l (μ := mu_x0_branch) (pc := 7) dX0_branch_7 hr3 ?_
    refine x_if (fun hT10 => ?_)
    refine x_last (μ := mu_x0_branch) (pc := 8) dX0_branch_8 hT10 rfl (fun _ _ q => gE_wL q) ?_
    refine x_let (fun s11 e12 => ?_)
    refine x_goto (μ := mu_x0_branch) (pc := 9) (tgt := 18) dX0_branch_9 rfl ?_
    refine x_iconst (μ := mu_x0_branch) (pc := 18) dX0_branch_18 ?_
    exact x_iret (μ := mu_x0_branch) (pc := 19) dX0_branch_19 rfl rfl (gRel_E.1 _) (show g32 0 from (by decide))
  · refine x_eqE "java/lang/IndexOutOfBoundsException" (fun _ => ?_) (fun _ => ?_)
    · refine x_catch0 (pc := 4) (tgt := 12) rfl  q1676 q1764 (by decide) (fun q13 => ?_)
      refine x_astore_n (μ := mu_x0_branch) (pc := 12) (lv' := [(3, vR q13), (0, vR v0), (1, vI v1), (2, vR v2)]) dX0_branch_12 rfl (by decide) rfl ?_
      refine x_iconst (μ := mu_x0_branch) (pc := 13) dX0_branch_13 ?_
      exact x_iret (μ := mu_x0_branch) (pc := 14) dX0_branch_14 rfl rfl (gRel_E.1 _) (show g32 1 from (by decide))
    refine x_eqE "java/lang/IllegalStateException" (fun _ => ?_) (fun _ => ?_)
    · refine x_catch1 (pc := 4) (tgt := 15) rfl q1676 (by decide) q2194 q2209 (by decide) (fun q14 => ?_)
      refine x_astore_n (μ := mu_x0_branch) (pc := 15) (lv' := [(3, vR q14), (0, vR v0), (1, vI v1), (2, vR v2)]) dX0_branch_15 rfl (by decide) rfl ?_
      refine x_iconst (μ := mu_x0_branch) (pc := 16) dX0_branch_16 ?_
      exact x_iret (μ := mu_x0_branch) (pc := 17) dX0_branch_17 rfl rfl (gRel_E.1 _) (show g32 2 from (by decide))
    exact x_xnone
def x1_init_l201 (N : Nat) (v0 : Nat) (v1 : Nat) (v2 : Nat) (K : gMem → Option gMem) : Nat → Int → gMem → Option gMem
  | 0, _, _ => none
  | n + 1, v3, s => if mT s v0 = 1 then if mI s v0 21 ≤ v3 then K s else if mT s v1 = 100 then if 0 ≤ v3 ∧ v3 < (mN s v1 : Int) then gLet (wI s v1 v3.toNat v3) (fun s123 => x1_init_l201 N v0 v1 v2 K n (w32 (v3 + 1)) s123) else none else none else none
set_option maxRecDepth 100000 in
theorem okl_x1_init_l201 {ω : gW} {l : Launch} {d : Nat} {N : Nat} {σ0 : gMem} {v0 : Nat} {v1 : Nat} {v2 : Nat} {K : gMem → Option gMem} (hl : l.stackTraces = false) (hdp : 3 ≤ d) (hK : ∀ (s : gMem) , GG (fun p : gMem => (.inl none, p)) gE ω l d mu_x1_init σ0 219 [(0, vR v0), (1, vR v1), (2, vR v2)] [] s (K s)) : ∀ (n : Nat) (v3 : Int) (s : gMem) , g32 v3 → GG (fun p : gMem => (.inl none, p)) gE ω l d mu_x1_init σ0 201 [(0, vR v0), (1, vR v1), (2, vR v2), (3, vI v3)] [] s (x1_init_l201 N v0 v1 v2 K n v3 s) := by
  intro n
  induction n with
  | zero => intros; exact x_none
  | succ n ih =>
    intro v3 s hv3
    unfold x1_init_l201
    refine x_iload_n (μ := mu_x1_init) (pc := 201) 3 dX1_init_201 rfl ?_
    refine x_aload_n (μ := mu_x1_init) (pc := 202) 0 dX1_init_202 rfl ?_
    refine x_if (fun hT120 => ?_)
    refine x_fgi (μ := mu_x1_init) (pc := 203) fX1_21 q666 dX1_init_203 hT120 (fun hr121 => ?_)
    refine x_icmp_ge (μ := mu_x1_init) (pc := 206) (tgt := 219) dX1_init_206 rfl hv3 hr121 ?_ ?_
    · refine x_loc (lv' := [(0, vR v0), (1, vR v1), (2, vR v2)]) [0, 1, 2] rfl ?_
      exact hK s
    · refine x_aload_n (μ := mu_x1_init) (pc := 209) 1 dX1_init_209 rfl ?_
      refine x_iload_n (μ := mu_x1_init) (pc := 210) 3 dX1_init_210 rfl ?_
      refine x_iload_n (μ := mu_x1_init) (pc := 211) 3 dX1_init_211 rfl ?_
      refine x_if (fun hT122 => ?_)
      refine x_iast (μ := mu_x1_init) (pc := 212) dX1_init_212 hT122 rfl (fun _ _ q => gE_wI q) ?_
      refine x_let (fun s123 e124 => ?_)
      refine x_iincw (μ := mu_x1_init) (pc := 213) (lv' := [(3, vI (w32 (v3 + 1))), (0, vR v0), (1, vR v1), (2, vR v2)]) 3 dX1_init_213 rfl (by decide) rfl ?_
      refine x_goto (μ := mu_x1_init) (pc := 216) (tgt := 201) dX1_init_216 rfl ?_
      refine x_loc (lv' := [(0, vR v0), (1, vR v1), (2, vR v2), (3, vI (w32 (v3 + 1)))]) [1, 2, 3, 0] rfl ?_
      exact ih (w32 (v3 + 1)) s123 (w32_rng _)
def x1_init_l221 (N : Nat) (v0 : Nat) (v1 : Nat) (v2 : Nat) (K : gMem → Option gMem) : Nat → Int → gMem → Option gMem
  | 0, _, _ => none
  | n + 1, v3, s => if mT s v0 = 1 then if mI s v0 22 ≤ v3 then K s else if mT s v2 = 100 then if 0 ≤ v3 ∧ v3 < (mN s v2 : Int) then gLet (wI s v2 v3.toNat v3) (fun s129 => x1_init_l221 N v0 v1 v2 K n (w32 (v3 + 1)) s129) else none else none else none
set_option maxRecDepth 100000 in
theorem okl_x1_init_l221 {ω : gW} {l : Launch} {d : Nat} {N : Nat} {σ0 : gMem} {v0 : Nat} {v1 : Nat} {v2 : Nat} {K : gMem → Option gMem} (hl : l.stackTraces = false) (hdp : 3 ≤ d) (hK : ∀ (s : gMem) , GG (fun p : gMem => (.inl none, p)) gE ω l d mu_x1_init σ0 239 [(0, vR v0), (1, vR v1), (2, vR v2)] [] s (K s)) : ∀ (n : Nat) (v3 : Int) (s : gMem) , g32 v3 → GG (fun p : gMem => (.inl none, p)) gE ω l d mu_x1_init σ0 221 [(0, vR v0), (1, vR v1), (2, vR v2), (3, vI v3)] [] s (x1_init_l221 N v0 v1 v2 K n v3 s) := by
  intro n
  induction n with
  | zero => intros; exact x_none
  | succ n ih =>
    intro v3 s hv3
    unfold x1_init_l221
    refine x_iload_n (μ := mu_x1_init) (pc := 221) 3 dX1_init_221 rfl ?_
    refine x_aload_n (μ := mu_x1_init) (pc := 222) 0 dX1_init_222 rfl ?_
    refine x_if (fun hT126 => ?_)
    refine x_fgi (μ := mu_x1_init) (pc := 223) fX1_22 q667 dX1_init_223 hT126 (fun hr127 => ?_)
    refine x_icmp_ge (μ := mu_x1_init) (pc := 226) (tgt := 239) dX1_init_226 rfl hv3 hr127 ?_ ?_
    · refine x_loc (lv' := [(0, vR v0), (1, vR v1), (2, vR v2)]) [0, 1, 2] rfl ?_
      exact hK s
    · refine x_aload_n (μ := mu_x1_init) (pc := 229) 2 dX1_init_229 rfl ?_
      refine x_iload_n (μ := mu_x1_init) (pc := 230) 3 dX1_init_230 rfl ?_
      refine x_iload_n (μ := mu_x1_init) (pc := 231) 3 dX1_init_231 rfl ?_
      refine x_if (fun hT128 => ?_)
      refine x_iast (μ := mu_x1_init) (pc := 232) dX1_init_232 hT128 rfl (fun _ _ q => gE_wI q) ?_
      refine x_let (fun s129 e130 => ?_)
      refine x_iincw (μ := mu_x1_init) (pc := 233) (lv' := [(3, vI (w32 (v3 + 1))), (0, vR v0), (1, vR v1), (2, vR v2)]) 3 dX1_init_233 rfl (by decide) rfl ?_
      refine x_goto (μ := mu_x1_init) (pc := 236) (tgt := 221) dX1_init_236 rfl ?_
      refine x_loc (lv' := [(0, vR v0), (1, vR v1), (2, vR v2), (3, vI (w32 (v3 + 1)))]) [1, 2, 3, 0] rfl ?_
      exact ih (w32 (v3 + 1)) s129 (w32_rng _)
def x1_init_l274 (N : Nat) (v0 : Nat) (v3 : Nat) (K : gMem → Option gMem) : Nat → Int → gMem → Option gMem
  | 0, _, _ => none
  | n + 1, v4, s => if 6 ≤ v4 then K s else if mT s v0 = 1 then if mT s (mR s v0 6) = 100 then if 0 ≤ v4 ∧ v4 < (mN s (mR s v0 6) : Int) then gLet (wI s (mR s v0 6) v4.toNat (-1)) (fun s151 => x1_init_l274 N v0 v3 K n (w32 (v4 + 1)) s151) else none else none else none
set_option maxRecDepth 100000 in
theorem okl_x1_init_l274 {ω : gW} {l : Launch} {d : Nat} {N : Nat} {σ0 : gMem} {v0 : Nat} {v3 : Nat} {K : gMem → Option gMem} (hl : l.stackTraces = false) (hdp : 3 ≤ d) (hK : ∀ (s : gMem) , GG (fun p : gMem => (.inl none, p)) gE ω l d mu_x1_init σ0 295 [(0, vR v0), (3, vR v3)] [] s (K s)) : ∀ (n : Nat) (v4 : Int) (s : gMem) , g32 v4 → GG (fun p : gMem => (.inl none, p)) gE ω l d mu_x1_init σ0 274 [(0, vR v0), (3, vR v3), (4, vI v4)] [] s (x1_init_l274 N v0 v3 K n v4 s) := by
  intro n
  induction n with
  | zero => intros; exact x_none
  | succ n ih =>
    intro v4 s hv4
    unfold x1_init_l274
    refine x_iload (μ := mu_x1_init) (pc := 274) 2 dX1_init_274 rfl ?_
    refine x_bipush (μ := mu_x1_init) (pc := 276) dX1_init_276 (by decide) ?_
    refine x_icmp_ge (μ := mu_x1_init) (pc := 278) (tgt := 295) dX1_init_278 rfl hv4 (by decide) ?_ ?_
    · refine x_loc (lv' := [(0, vR v0), (3, vR v3)]) [0, 1] rfl ?_
      exact hK s
    · refine x_aload_n (μ := mu_x1_init) (pc := 281) 0 dX1_init_281 rfl ?_
      refine x_if (fun hT149 => ?_)
      refine x_fgr (μ := mu_x1_init) (pc := 282) fX1_6 (by first | exact Or.inl ⟨_, rfl⟩ | exact Or.inr ⟨_, rfl⟩) q651 dX1_init_282 hT149 ?_
      refine x_iload (μ := mu_x1_init) (pc := 285) 2 dX1_init_285 rfl ?_
      refine x_iconst (μ := mu_x1_init) (pc := 287) dX1_init_287 ?_
      refine x_if (fun hT150 => ?_)
      refine x_iast (μ := mu_x1_init) (pc := 288) dX1_init_288 hT150 rfl (fun _ _ q => gE_wI q) ?_
      refine x_let (fun s151 e152 => ?_)
      refine x_iincw (μ := mu_x1_init) (pc := 289) (lv' := [(4, vI (w32 (v4 + 1))), (0, vR v0), (3, vR v3)]) 2 dX1_init_289 rfl (by decide) rfl ?_
      refine x_goto (μ := mu_x1_init) (pc := 292) (tgt := 274) dX1_init_292 rfl ?_
      refine x_loc (lv' := [(0, vR v0), (3, vR v3), (4, vI (w32 (v4 + 1)))]) [1, 2, 0] rfl ?_
      exact ih (w32 (v4 + 1)) s151 (w32_rng _)
set_option maxRecDepth 100000 in
def x1_init (N : Nat) (v0 : Nat) (σ : gMem) : Option gMem := if mT σ v0 = 1 then if 0 ≤ (400 : Int) ∧ (400 : Int) < 1000000 then gLet (wN σ 102 (400 : Int).toNat) (fun s4 => gLet (wR s4 v0 0 (mZ σ)) (fun s6 => if 0 ≤ (40 : Int) ∧ (40 : Int) < 1000000 then gLet (wN s6 104 (40 : Int).toNat) (fun s10 => gLet (wR s10 v0 4 (mZ s6)) (fun s12 => if 0 ≤ (6 : Int) ∧ (6 : Int) < 1000000 then gLet (wN s12 100 (6 : Int).toNat) (fun s16 => gLet (wR s16 v0 6 (mZ s12)) (fun s18 => gLet (wN s18 2 4) (fun s21 => (x2_init (mZ s18) s21).bind (fun x23 => gLet (wR x23 v0 9 (mZ s18)) (fun s25 => if 0 ≤ (40 : Int) ∧ (40 : Int) < 1000000 then gLet (wN s25 105 (40 : Int).toNat) (fun s29 => gLet (wR s29 v0 11 (mZ s25)) (fun s31 => if 0 ≤ (40 : Int) ∧ (40 : Int) < 1000000 then gLet (wN s31 105 (40 : Int).toNat) (fun s35 => gLet (wR s35 v0 12 (mZ s31)) (fun s37 => gLet (wI s37 v0 15 (-1)) (fun s39 => if 0 ≤ (0 : Int) ∧ (0 : Int) < 1000000 then gLet (wN s39 106 (0 : Int).toNat) (fun s43 => gLet (wR s43 v0 18 (mZ s39)) (fun s45 => if 0 ≤ (0 : Int) ∧ (0 : Int) < 1000000 then gLet (wN s45 103 (0 : Int).toNat) (fun s49 => gLet (wR s49 v0 19 (mZ s45)) (fun s51 => gLet (wI s51 v0 21 8) (fun s53 => gLet (wI s53 v0 22 6) (fun s55 => gLet (wN s55 3 19) (fun s58 => (x3_init N (mZ s55) (mR s58 v0 4) s58).bind (fun x60 => gLet (wR x60 v0 23 (mZ s55)) (fun s62 => gLet (wN s62 6 17) (fun s65 => (x6_init (mZ s62) (mR s65 v0 4) s65).bind (fun x67 => gLet (wR x67 v0 24 (mZ s62)) (fun s69 => gLet (wN s69 7 4) (fun s72 => (x8_init (mZ s69) (mR s72 v0 4) s72).bind (fun x74 => gLet (wR x74 v0 25 (mZ s69)) (fun s76 => if 0 ≤ (500 : Int) ∧ (500 : Int) < 1000000 then gLet (wN s76 100 (500 : Int).toNat) (fun s80 => gLet (wR s80 v0 26 (mZ s76)) (fun s82 => if 0 ≤ (500 : Int) ∧ (500 : Int) < 1000000 then gLet (wN s82 100 (500 : Int).toNat) (fun s86 => gLet (wR s86 v0 27 (mZ s82)) (fun s88 => if 0 ≤ (500 : Int) ∧ (500 : Int) < 1000000 then gLet (wN s88 100 (500 : Int).toNat) (fun s92 => gLet (wR s92 v0 28 (mZ s88)) (fun s94 => gLet (wN s94 5 4) (fun s97 => (x5_init (mZ s94) s97).bind (fun x99 => gLet (wR x99 v0 30 (mZ s94)) (fun s101 => gLet (wN s101 5 4) (fun s104 => (x5_init (mZ s101) s104).bind (fun x106 => gLet (wR x106 v0 31 (mZ s101)) (fun s108 => if 0 ≤ (mI s108 v0 21) ∧ (mI s108 v0 21) < 1000000 then gLet (wN s108 100 (mI s108 v0 21).toNat) (fun s113 => if 0 ≤ (mI s113 v0 22) ∧ (mI s113 v0 22) < 1000000 then gLet (wN s113 100 (mI s113 v0 22).toNat) (fun s118 => x1_init_l201 N v0 (mZ s108) (mZ s113) (fun s125 => x1_init_l221 N v0 (mZ s108) (mZ s113) (fun s131 => gLet (wN s131 8 3) (fun s133 => (x9_init (mZ s131) (mZ s108) (mZ s113) s133).bind (fun x135 => if mT x135 v0 = 1 then gLet (wN x135 9 5) (fun s139 => (x10_init (mZ x135) (mZ s131) (-1) (-1) (((1 : Fin 2) : Nat) : Int) s139).bind (fun x141 => if mT x141 (mR x135 v0 4) = 104 then if mZ x135 = 0 ∨ gAsg 4 (mT x141 (mZ x135)) = true then if 0 ≤ (0 : Int) ∧ (0 : Int) < (mN x141 (mR x135 v0 4) : Int) then gLet (wR x141 (mR x135 v0 4) (0 : Int).toNat (mZ x135)) (fun s145 => gLet (wI s145 v0 5 1) (fun s147 => x1_init_l274 N v0 (mZ s131) (fun s153 => if mT s153 (mZ s131) = 8 then (x9_twin N (mZ s131) s153).bind (fun x155 => if mT (x155.2) v0 = 1 then gLet (wR (x155.2) v0 8 (x155.1)) (fun s158 => some s158) else none) else none) N 1 s147)) else none else none else none)) else none))) N 0 s125) N 0 s118) else none) else none)))))))) else none)) else none)) else none))))))))))))) else none)) else none))) else none)) else none))))) else none)) else none)) else none else none
set_option maxRecDepth 100000 in
theorem ok_x1_init {ω : gW} {l : Launch} {d : Nat} {N : Nat} {σ : gMem} {v0 : Nat} (hl : l.stackTraces = false) (hdp : 3 ≤ d) : gK (fun p : gMem => (.inl none, p)) gE ω l d mu_x1_init [vR v0] σ (x1_init N v0 σ) := by
  refine gK.of hp_X1 (Nat.le_of_ble_eq_true rfl) ?_
  unfold x1_init
  refine x_aload_n (μ := mu_x1_init) (pc := 0) 0 dX1_init_0 rfl ?_
  refine x_if (fun hT1 => ?_)
  refine x_objI (μ := mu_x1_init) (pc := 1) (ci := 0) rfl q273 dX1_init_1 hT1 (by omega) (Nat.le_of_ble_eq_true rfl) ?_
  refine x_aload_n (μ := mu_x1_init) (pc := 4) 0 dX1_init_4 rfl ?_
  refine x_sipush (μ := mu_x1_init) (pc := 5) dX1_init_5 (by decide) ?_
  refine x_if (fun hg2 => ?_)
  refine x_ok (fun ok3 => ?_)
  refine x_newab (μ := mu_x1_init) (pc := 8) dX1_init_8 hg2 ?_
  refine x_let (fun s4 e5 => ?_)
  refine x_fprF (μ := mu_x1_init) (pc := 10) fX1_0 q645 rfl rfl (by first | exact Or.inl ⟨_, rfl⟩ | exact Or.inr ⟨_, rfl⟩) dX1_init_10 (gT_N e5 ok3 hT1 (by decide)) (fun _ q => gE_wR q) ?_
  refine x_let (fun s6 e7 => ?_)
  refine x_aload_n (μ := mu_x1_init) (pc := 13) 0 dX1_init_13 rfl ?_
  refine x_bipush (μ := mu_x1_init) (pc := 14) dX1_init_14 (by decide) ?_
  refine x_if (fun hg8 => ?_)
  refine x_ok (fun ok9 => ?_)
  refine x_anew (μ := mu_x1_init) (pc := 16) 4 (fun _ => rfl) rfl (by decide) q276 dX1_init_16 hg8 ?_
  refine x_let (fun s10 e11 => ?_)
  refine x_fprF (μ := mu_x1_init) (pc := 19) fX1_4 q649 rfl rfl (by first | exact Or.inl ⟨_, rfl⟩ | exact Or.inr ⟨_, rfl⟩) dX1_init_19 (gT_N e11 ok9 (gT_R e7 (gT_N e5 ok3 hT1 (by decide))) (by decide)) (fun _ q => gE_wR q) ?_
  refine x_let (fun s12 e13 => ?_)
  refine x_aload_n (μ := mu_x1_init) (pc := 22) 0 dX1_init_22 rfl ?_
  refine x_bipush (μ := mu_x1_init) (pc := 23) dX1_init_23 (by decide) ?_
  refine x_if (fun hg14 => ?_)
  refine x_ok (fun ok15 => ?_)
  refine x_newai (μ := mu_x1_init) (pc := 25) dX1_init_25 hg14 ?_
  refine x_let (fun s16 e17 => ?_)
  refine x_fprF (μ := mu_x1_init) (pc := 27) fX1_6 q651 rfl rfl (by first | exact Or.inl ⟨_, rfl⟩ | exact Or.inr ⟨_, rfl⟩) dX1_init_27 (gT_N e17 ok15 (gT_R e13 (gT_N e11 ok9 (gT_R e7 (gT_N e5 ok3 hT1 (by decide))) (by decide))) (by decide)) (fun _ q => gE_wR q) ?_
  refine x_let (fun s18 e19 => ?_)
  refine x_aload_n (μ := mu_x1_init) (pc := 30) 0 dX1_init_30 rfl ?_
  refine x_ok (fun ok20 => ?_)
  refine x_new (μ := mu_x1_init) (pc := 31) (ci := 1) gk_X2 gd_X2 q278 q279 q222 dX1_init_31 ?_
  refine x_let (fun s21 e22 => ?_)
  refine x_dup (μ := mu_x1_init) (pc := 34) dX1_init_34 rfl ?_
  refine x_callIN_mv (μ := mu_x1_init) (pc := 35) (ok_x2_init (ω := ω) (l := l) (d := d - 1) hl (by omega) ) gRel_E gRel_E (fun _ q => q) q280 q281 q222 q282 dX1_init_35 (gT_ne (gT_new e22)) rfl hy_x2_init (by omega) (Nat.le_of_ble_eq_true rfl) rfl (Nat.le_of_ble_eq_true rfl) (fun x23 k24 => ?_)
  refine x_fprF (μ := mu_x1_init) (pc := 38) fX1_9 q654 rfl rfl (by first | exact Or.inl ⟨_, rfl⟩ | exact Or.inr ⟨_, rfl⟩) dX1_init_38 (gT_E k24 (gT_N e22 ok20 (gT_R e19 (gT_N e17 ok15 (gT_R e13 (gT_N e11 ok9 (gT_R e7 (gT_N e5 ok3 hT1 (by decide))) (by decide))) (by decide))) (by decide)) (by decide)) (fun _ q => gE_wR q) ?_
  refine x_let (fun s25 e26 => ?_)
  refine x_aload_n (μ := mu_x1_init) (pc := 41) 0 dX1_init_41 rfl ?_
  refine x_bipush (μ := mu_x1_init) (pc := 42) dX1_init_42 (by decide) ?_
  refine x_if (fun hg27 => ?_)
  refine x_ok (fun ok28 => ?_)
  refine x_anew (μ := mu_x1_init) (pc := 44) 5 (fun _ => rfl) rfl (by decide) q304 dX1_init_44 hg27 ?_
  refine x_let (fun s29 e30 => ?_)
  refine x_fprF (μ := mu_x1_init) (pc := 47) fX1_11 q656 rfl rfl (by first | exact Or.inl ⟨_, rfl⟩ | exact Or.inr ⟨_, rfl⟩) dX1_init_47 (gT_N e30 ok28 (gT_R e26 (gT_E k24 (gT_N e22 ok20 (gT_R e19 (gT_N e17 ok15 (gT_R e13 (gT_N e11 ok9 (gT_R e7 (gT_N e5 ok3 hT1 (by decide))) (by decide))) (by decide))) (by decide)) (by decide))) (by decide)) (fun _ q => gE_wR q) ?_
  refine x_let (fun s31 e32 => ?_)
  refine x_aload_n (μ := mu_x1_init) (pc := 50) 0 dX1_init_50 rfl ?_
  refine x_bipush (μ := mu_x1_init) (pc := 51) dX1_init_51 (by decide) ?_
  refine x_if (fun hg33 => ?_)
  refine x_ok (fun ok34 => ?_)
  refine x_anew (μ := mu_x1_init) (pc := 53) 5 (fun _ => rfl) rfl (by decide) q304 dX1_init_53 hg33 ?_
  refine x_let (fun s35 e36 => ?_)
  refine x_fprF (μ := mu_x1_init) (pc := 56) fX1_12 q657 rfl rfl (by first | exact Or.inl ⟨_, rfl⟩ | exact Or.inr ⟨_, rfl⟩) dX1_init_56 (gT_N e36 ok34 (gT_R e32 (gT_N e30 ok28 (gT_R e26 (gT_E k24 (gT_N e22 ok20 (gT_R e19 (gT_N e17 ok15 (gT_R e13 (gT_N e11 ok9 (gT_R e7 (gT_N e5 ok3 hT1 (by decide))) (by decide))) (by decide))) (by decide)) (by decide))) (by decide))) (by decide)) (fun _ q => gE_wR q) ?_
  refine x_let (fun s37 e38 => ?_)
  refine x_aload_n (μ := mu_x1_init) (pc := 59) 0 dX1_init_59 rfl ?_
  refine x_iconst (μ := mu_x1_init) (pc := 60) dX1_init_60 ?_
  refine x_fpi (μ := mu_x1_init) (pc := 61) fX1_15 q660 dX1_init_61 (gT_R e38 (gT_N e36 ok34 (gT_R e32 (gT_N e30 ok28 (gT_R e26 (gT_E k24 (gT_N e22 ok20 (gT_R e19 (gT_N e17 ok15 (gT_R e13 (gT_N e11 ok9 (gT_R e7 (gT_N e5 ok3 hT1 (by decide))) (by decide))) (by decide))) (by decide)) (by decide))) (by decide))) (by decide))) (fun _ q => gE_wI q) ?_
  refine x_let (fun s39 e40 => ?_)
  refine x_aload_n (μ := mu_x1_init) (pc := 64) 0 dX1_init_64 rfl ?_
  refine x_iconst (μ := mu_x1_init) (pc := 65) dX1_init_65 ?_
  refine x_if (fun hg41 => ?_)
  refine x_ok (fun ok42 => ?_)
  refine x_anew (μ := mu_x1_init) (pc := 66) 6 (fun _ => rfl) rfl (by decide) q306 dX1_init_66 hg41 ?_
  refine x_let (fun s43 e44 => ?_)
  refine x_fpr (μ := mu_x1_init) (pc := 69) fX1_18 q663 (by first | exact Or.inl ⟨_, rfl⟩ | exact Or.inr ⟨_, rfl⟩) dX1_init_69 (gT_N e44 ok42 (gT_I e40 (gT_R e38 (gT_N e36 ok34 (gT_R e32 (gT_N e30 ok28 (gT_R e26 (gT_E k24 (gT_N e22 ok20 (gT_R e19 (gT_N e17 ok15 (gT_R e13 (gT_N e11 ok9 (gT_R e7 (gT_N e5 ok3 hT1 (by decide))) (by decide))) (by decide))) (by decide)) (by decide))) (by decide))) (by decide)))) (by decide)) (fun _ q => gE_wR q) ?_
  refine x_let (fun s45 e46 => ?_)
  refine x_aload_n (μ := mu_x1_init) (pc := 72) 0 dX1_init_72 rfl ?_
  refine x_iconst (μ := mu_x1_init) (pc := 73) dX1_init_73 ?_
  refine x_if (fun hg47 => ?_)
  refine x_ok (fun ok48 => ?_)
  refine x_newaz (μ := mu_x1_init) (pc := 74) dX1_init_74 hg47 ?_
  refine x_let (fun s49 e50 => ?_)
  refine x_fpr (μ := mu_x1_init) (pc := 76) fX1_19 q664 (by first | exact Or.inl ⟨_, rfl⟩ | exact Or.inr ⟨_, rfl⟩) dX1_init_76 (gT_N e50 ok48 (gT_R e46 (gT_N e44 ok42 (gT_I e40 (gT_R e38 (gT_N e36 ok34 (gT_R e32 (gT_N e30 ok28 (gT_R e26 (gT_E k24 (gT_N e22 ok20 (gT_R e19 (gT_N e17 ok15 (gT_R e13 (gT_N e11 ok9 (gT_R e7 (gT_N e5 ok3 hT1 (by decide))) (by decide))) (by decide))) (by decide)) (by decide))) (by decide))) (by decide)))) (by decide))) (by decide)) (fun _ q => gE_wR q) ?_
  refine x_let (fun s51 e52 => ?_)
  refine x_aload_n (μ := mu_x1_init) (pc := 79) 0 dX1_init_79 rfl ?_
  refine x_bipush (μ := mu_x1_init) (pc := 80) dX1_init_80 (by decide) ?_
  refine x_fpi (μ := mu_x1_init) (pc := 82) fX1_21 q666 dX1_init_82 (gT_R e52 (gT_N e50 ok48 (gT_R e46 (gT_N e44 ok42 (gT_I e40 (gT_R e38 (gT_N e36 ok34 (gT_R e32 (gT_N e30 ok28 (gT_R e26 (gT_E k24 (gT_N e22 ok20 (gT_R e19 (gT_N e17 ok15 (gT_R e13 (gT_N e11 ok9 (gT_R e7 (gT_N e5 ok3 hT1 (by decide))) (by decide))) (by decide))) (by decide)) (by decide))) (by decide))) (by decide)))) (by decide))) (by decide))) (fun _ q => gE_wI q) ?_
  refine x_let (fun s53 e54 => ?_)
  refine x_aload_n (μ := mu_x1_init) (pc := 85) 0 dX1_init_85 rfl ?_
  refine x_bipush (μ := mu_x1_init) (pc := 86) dX1_init_86 (by decide) ?_
  refine x_fpi (μ := mu_x1_init) (pc := 88) fX1_22 q667 dX1_init_88 (gT_I e54 (gT_R e52 (gT_N e50 ok48 (gT_R e46 (gT_N e44 ok42 (gT_I e40 (gT_R e38 (gT_N e36 ok34 (gT_R e32 (gT_N e30 ok28 (gT_R e26 (gT_E k24 (gT_N e22 ok20 (gT_R e19 (gT_N e17 ok15 (gT_R e13 (gT_N e11 ok9 (gT_R e7 (gT_N e5 ok3 hT1 (by decide))) (by decide))) (by decide))) (by decide)) (by decide))) (by decide))) (by decide)))) (by decide))) (by decide)))) (fun _ q => gE_wI q) ?_
  refine x_let (fun s55 e56 => ?_)
  refine x_aload_n (μ := mu_x1_init) (pc := 91) 0 dX1_init_91 rfl ?_
  refine x_ok (fun ok57 => ?_)
  refine x_new (μ := mu_x1_init) (pc := 92) (ci := 2) gk_X3 gd_X3 q308 q309 q223 dX1_init_92 ?_
  refine x_let (fun s58 e59 => ?_)
  refine x_dup (μ := mu_x1_init) (pc := 95) dX1_init_95 rfl ?_
  refine x_aload_n (μ := mu_x1_init) (pc := 96) 0 dX1_init_96 rfl ?_
  refine x_fgr (μ := mu_x1_init) (pc := 97) fX1_4 (by first | exact Or.inl ⟨_, rfl⟩ | exact Or.inr ⟨_, rfl⟩) q649 dX1_init_97 (gT_N e59 ok57 (gT_I e56 (gT_I e54 (gT_R e52 (gT_N e50 ok48 (gT_R e46 (gT_N e44 ok42 (gT_I e40 (gT_R e38 (gT_N e36 ok34 (gT_R e32 (gT_N e30 ok28 (gT_R e26 (gT_E k24 (gT_N e22 ok20 (gT_R e19 (gT_N e17 ok15 (gT_R e13 (gT_N e11 ok9 (gT_R e7 (gT_N e5 ok3 hT1 (by decide))) (by decide))) (by decide))) (by decide)) (by decide))) (by decide))) (by decide)))) (by decide))) (by decide))))) (by decide)) ?_
  refine x_callI_mv (μ := mu_x1_init) (pc := 100) (ok_x3_init (ω := ω) (l := l) (d := d - 1) hl (by omega) ) gRel_E gRel_E (fun _ q => q) q310 q311 q223 q312 dX1_init_100 (gT_ne (gT_new e59)) rfl hy_x3_init (by omega) (Nat.le_of_ble_eq_true rfl) rfl (Nat.le_of_ble_eq_true rfl) (fun x60 k61 => ?_)
  refine x_fprF (μ := mu_x1_init) (pc := 103) fX1_23 q668 rfl rfl (by first | exact Or.inl ⟨_, rfl⟩ | exact Or.inr ⟨_, rfl⟩) dX1_init_103 (gT_E k61 (gT_N e59 ok57 (gT_I e56 (gT_I e54 (gT_R e52 (gT_N e50 ok48 (gT_R e46 (gT_N e44 ok42 (gT_I e40 (gT_R e38 (gT_N e36 ok34 (gT_R e32 (gT_N e30 ok28 (gT_R e26 (gT_E k24 (gT_N e22 ok20 (gT_R e19 (gT_N e17 ok15 (gT_R e13 (gT_N e11 ok9 (gT_R e7 (gT_N e5 ok3 hT1 (by decide))) (by decide))) (by decide))) (by decide)) (by decide))) (by decide))) (by decide)))) (by decide))) (by decide))))) (by decide)) (by decide)) (fun _ q => gE_wR q) ?_
  refine x_let (fun s62 e63 => ?_)
  refine x_aload_n (μ := mu_x1_init) (pc := 106) 0 dX1_init_106 rfl ?_
  refine x_ok (fun ok64 => ?_)
  refine x_new (μ := mu_x1_init) (pc := 107) (ci := 5) gk_X6 gd_X6 q460 q461 q226 dX1_init_107 ?_
  refine x_let (fun s65 e66 => ?_)
  refine x_dup (μ := mu_x1_init) (pc := 110) dX1_init_110 rfl ?_
  refine x_aload_n (μ := mu_x1_init) (pc := 111) 0 dX1_init_111 rfl ?_
  refine x_fgr (μ := mu_x1_init) (pc := 112) fX1_4 (by first | exact Or.inl ⟨_, rfl⟩ | exact Or.inr ⟨_, rfl⟩) q649 dX1_init_112 (gT_N e66 ok64 (gT_R e63 (gT_E k61 (gT_N e59 ok57 (gT_I e56 (gT_I e54 (gT_R e52 (gT_N e50 ok48 (gT_R e46 (gT_N e44 ok42 (gT_I e40 (gT_R e38 (gT_N e36 ok34 (gT_R e32 (gT_N e30 ok28 (gT_R e26 (gT_E k24 (gT_N e22 ok20 (gT_R e19 (gT_N e17 ok15 (gT_R e13 (gT_N e11 ok9 (gT_R e7 (gT_N e5 ok3 hT1 (by decide))) (by decide))) (by decide))) (by decide)) (by decide))) (by decide))) (by decide)))) (by decide))) (by decide))))) (by decide)) (by decide))) (by decide)) ?_
  refine x_callI_mv (μ := mu_x1_init) (pc := 115) (ok_x6_init (ω := ω) (l := l) (d := d - 1) hl (by omega) ) gRel_E gRel_E (fun _ q => q) q462 q463 q226 q464 dX1_init_115 (gT_ne (gT_new e66)) rfl hy_x6_init (by omega) (Nat.le_of_ble_eq_true rfl) rfl (Nat.le_of_ble_eq_true rfl) (fun x67 k68 => ?_)
  refine x_fprF (μ := mu_x1_init) (pc := 118) fX1_24 q669 rfl rfl (by first | exact Or.inl ⟨_, rfl⟩ | exact Or.inr ⟨_, rfl⟩) dX1_init_118 (gT_E k68 (gT_N e66 ok64 (gT_R e63 (gT_E k61 (gT_N e59 ok57 (gT_I e56 (gT_I e54 (gT_R e52 (gT_N e50 ok48 (gT_R e46 (gT_N e44 ok42 (gT_I e40 (gT_R e38 (gT_N e36 ok34 (gT_R e32 (gT_N e30 ok28 (gT_R e26 (gT_E k24 (gT_N e22 ok20 (gT_R e19 (gT_N e17 ok15 (gT_R e13 (gT_N e11 ok9 (gT_R e7 (gT_N e5 ok3 hT1 (by decide))) (by decide))) (by decide))) (by decide)) (by decide))) (by decide))) (by decide)))) (by decide))) (by decide))))) (by decide)) (by decide))) (by decide)) (by decide)) (fun _ q => gE_wR q) ?_
  refine x_let (fun s69 e70 => ?_)
  refine x_aload_n (μ := mu_x1_init) (pc := 121) 0 dX1_init_121 rfl ?_
  refine x_ok (fun ok71 => ?_)
  refine x_new (μ := mu_x1_init) (pc := 122) (ci := 6) gk_X8 gd_X8 q536 q537 q229 dX1_init_122 ?_
  refine x_let (fun s72 e73 => ?_)
  refine x_dup (μ := mu_x1_init) (pc := 125) dX1_init_125 rfl ?_
  refine x_aload_n (μ := mu_x1_init) (pc := 126) 0 dX1_init_126 rfl ?_
  refine x_fgr (μ := mu_x1_init) (pc := 127) fX1_4 (by first | exact Or.inl ⟨_, rfl⟩ | exact Or.inr ⟨_, rfl⟩) q649 dX1_init_127 (gT_N e73 ok71 (gT_R e70 (gT_E k68 (gT_N e66 ok64 (gT_R e63 (gT_E k61 (gT_N e59 ok57 (gT_I e56 (gT_I e54 (gT_R e52 (gT_N e50 ok48 (gT_R e46 (gT_N e44 ok42 (gT_I e40 (gT_R e38 (gT_N e36 ok34 (gT_R e32 (gT_N e30 ok28 (gT_R e26 (gT_E k24 (gT_N e22 ok20 (gT_R e19 (gT_N e17 ok15 (gT_R e13 (gT_N e11 ok9 (gT_R e7 (gT_N e5 ok3 hT1 (by decide))) (by decide))) (by decide))) (by decide)) (by decide))) (by decide))) (by decide)))) (by decide))) (by decide))))) (by decide)) (by decide))) (by decide)) (by decide))) (by decide)) ?_
  refine x_callI_mv (μ := mu_x1_init) (pc := 130) (ok_x8_init (ω := ω) (l := l) (d := d - 1) hl (by omega) ) gRel_E gRel_E (fun _ q => q) q538 q539 q229 q540 dX1_init_130 (gT_ne (gT_new e73)) rfl hy_x8_init (by omega) (Nat.le_of_ble_eq_true rfl) rfl (Nat.le_of_ble_eq_true rfl) (fun x74 k75 => ?_)
  refine x_fprF (μ := mu_x1_init) (pc := 133) fX1_25 q670 rfl rfl (by first | exact Or.inl ⟨_, rfl⟩ | exact Or.inr ⟨_, rfl⟩) dX1_init_133 (gT_E k75 (gT_N e73 ok71 (gT_R e70 (gT_E k68 (gT_N e66 ok64 (gT_R e63 (gT_E k61 (gT_N e59 ok57 (gT_I e56 (gT_I e54 (gT_R e52 (gT_N e50 ok48 (gT_R e46 (gT_N e44 ok42 (gT_I e40 (gT_R e38 (gT_N e36 ok34 (gT_R e32 (gT_N e30 ok28 (gT_R e26 (gT_E k24 (gT_N e22 ok20 (gT_R e19 (gT_N e17 ok15 (gT_R e13 (gT_N e11 ok9 (gT_R e7 (gT_N e5 ok3 hT1 (by decide))) (by decide))) (by decide))) (by decide)) (by decide))) (by decide))) (by decide)))) (by decide))) (by decide))))) (by decide)) (by decide))) (by decide)) (by decide))) (by decide)) (by decide)) (fun _ q => gE_wR q) ?_
  refine x_let (fun s76 e77 => ?_)
  refine x_aload_n (μ := mu_x1_init) (pc := 136) 0 dX1_init_136 rfl ?_
  refine x_sipush (μ := mu_x1_init) (pc := 137) dX1_init_137 (by decide) ?_
  refine x_if (fun hg78 => ?_)
  refine x_ok (fun ok79 => ?_)
  refine x_newai (μ := mu_x1_init) (pc := 140) dX1_init_140 hg78 ?_
  refine x_let (fun s80 e81 => ?_)
  refine x_fprF (μ := mu_x1_init) (pc := 142) fX1_26 q671 rfl rfl (by first | exact Or.inl ⟨_, rfl⟩ | exact Or.inr ⟨_, rfl⟩) dX1_init_142 (gT_N e81 ok79 (gT_R e77 (gT_E k75 (gT_N e73 ok71 (gT_R e70 (gT_E k68 (gT_N e66 ok64 (gT_R e63 (gT_E k61 (gT_N e59 ok57 (gT_I e56 (gT_I e54 (gT_R e52 (gT_N e50 ok48 (gT_R e46 (gT_N e44 ok42 (gT_I e40 (gT_R e38 (gT_N e36 ok34 (gT_R e32 (gT_N e30 ok28 (gT_R e26 (gT_E k24 (gT_N e22 ok20 (gT_R e19 (gT_N e17 ok15 (gT_R e13 (gT_N e11 ok9 (gT_R e7 (gT_N e5 ok3 hT1 (by decide))) (by decide))) (by decide))) (by decide)) (by decide))) (by decide))) (by decide)))) (by decide))) (by decide))))) (by decide)) (by decide))) (by decide)) (by decide))) (by decide)) (by decide))) (by decide)) (fun _ q => gE_wR q) ?_
  refine x_let (fun s82 e83 => ?_)
  refine x_aload_n (μ := mu_x1_init) (pc := 145) 0 dX1_init_145 rfl ?_
  refine x_sipush (μ := mu_x1_init) (pc := 146) dX1_init_146 (by decide) ?_
  refine x_if (fun hg84 => ?_)
  refine x_ok (fun ok85 => ?_)
  refine x_newai (μ := mu_x1_init) (pc := 149) dX1_init_149 hg84 ?_
  refine x_let (fun s86 e87 => ?_)
  refine x_fprF (μ := mu_x1_init) (pc := 151) fX1_27 q672 rfl rfl (by first | exact Or.inl ⟨_, rfl⟩ | exact Or.inr ⟨_, rfl⟩) dX1_init_151 (gT_N e87 ok85 (gT_R e83 (gT_N e81 ok79 (gT_R e77 (gT_E k75 (gT_N e73 ok71 (gT_R e70 (gT_E k68 (gT_N e66 ok64 (gT_R e63 (gT_E k61 (gT_N e59 ok57 (gT_I e56 (gT_I e54 (gT_R e52 (gT_N e50 ok48 (gT_R e46 (gT_N e44 ok42 (gT_I e40 (gT_R e38 (gT_N e36 ok34 (gT_R e32 (gT_N e30 ok28 (gT_R e26 (gT_E k24 (gT_N e22 ok20 (gT_R e19 (gT_N e17 ok15 (gT_R e13 (gT_N e11 ok9 (gT_R e7 (gT_N e5 ok3 hT1 (by decide))) (by decide))) (by decide))) (by decide)) (by decide))) (by decide))) (by decide)))) (by decide))) (by decide))))) (by decide)) (by decide))) (by decide)) (by decide))) (by decide)) (by decide))) (by decide))) (by decide)) (fun _ q => gE_wR q) ?_
  refine x_let (fun s88 e89 => ?_)
  refine x_aload_n (μ := mu_x1_init) (pc := 154) 0 dX1_init_154 rfl ?_
  refine x_sipush (μ := mu_x1_init) (pc := 155) dX1_init_155 (by decide) ?_
  refine x_if (fun hg90 => ?_)
  refine x_ok (fun ok91 => ?_)
  refine x_newai (μ := mu_x1_init) (pc := 158) dX1_init_158 hg90 ?_
  refine x_let (fun s92 e93 => ?_)
  refine x_fprF (μ := mu_x1_init) (pc := 160) fX1_28 q673 rfl rfl (by first | exact Or.inl ⟨_, rfl⟩ | exact Or.inr ⟨_, rfl⟩) dX1_init_160 (gT_N e93 ok91 (gT_R e89 (gT_N e87 ok85 (gT_R e83 (gT_N e81 ok79 (gT_R e77 (gT_E k75 (gT_N e73 ok71 (gT_R e70 (gT_E k68 (gT_N e66 ok64 (gT_R e63 (gT_E k61 (gT_N e59 ok57 (gT_I e56 (gT_I e54 (gT_R e52 (gT_N e50 ok48 (gT_R e46 (gT_N e44 ok42 (gT_I e40 (gT_R e38 (gT_N e36 ok34 (gT_R e32 (gT_N e30 ok28 (gT_R e26 (gT_E k24 (gT_N e22 ok20 (gT_R e19 (gT_N e17 ok15 (gT_R e13 (gT_N e11 ok9 (gT_R e7 (gT_N e5 ok3 hT1 (by decide))) (by decide))) (by decide))) (by decide)) (by decide))) (by decide))) (by decide)))) (by decide))) (by decide))))) (by decide)) (by decide))) (by decide)) (by decide))) (by decide)) (by decide))) (by decide))) (by decide))) (by decide)) (fun _ q => gE_wR q) ?_
  refine x_let (fun s94 e95 => ?_)
  refine x_aload_n (μ := mu_x1_init) (pc := 163) 0 dX1_init_163 rfl ?_
  refine x_ok (fun ok96 => ?_)
  refine x_new (μ := mu_x1_init) (pc := 164) (ci := 4) gk_X5 gd_X5 q557 q366 q225 dX1_init_164 ?_
  refine x_let (fun s97 e98 => ?_)
  refine x_dup (μ := mu_x1_init) (pc := 167) dX1_init_167 rfl ?_
  refine x_callIN_mv (μ := mu_x1_init) (pc := 168) (ok_x5_init (ω := ω) (l := l) (d := d - 1) hl (by omega) ) gRel_E gRel_E (fun _ q => q) q558 q368 q225 q369 dX1_init_168 (gT_ne (gT_new e98)) rfl hy_x5_init (by omega) (Nat.le_of_ble_eq_true rfl) rfl (Nat.le_of_ble_eq_true rfl) (fun x99 k100 => ?_)
  refine x_fprF (μ := mu_x1_init) (pc := 171) fX1_30 q675 rfl rfl (by first | exact Or.inl ⟨_, rfl⟩ | exact Or.inr ⟨_, rfl⟩) dX1_init_171 (gT_E k100 (gT_N e98 ok96 (gT_R e95 (gT_N e93 ok91 (gT_R e89 (gT_N e87 ok85 (gT_R e83 (gT_N e81 ok79 (gT_R e77 (gT_E k75 (gT_N e73 ok71 (gT_R e70 (gT_E k68 (gT_N e66 ok64 (gT_R e63 (gT_E k61 (gT_N e59 ok57 (gT_I e56 (gT_I e54 (gT_R e52 (gT_N e50 ok48 (gT_R e46 (gT_N e44 ok42 (gT_I e40 (gT_R e38 (gT_N e36 ok34 (gT_R e32 (gT_N e30 ok28 (gT_R e26 (gT_E k24 (gT_N e22 ok20 (gT_R e19 (gT_N e17 ok15 (gT_R e13 (gT_N e11 ok9 (gT_R e7 (gT_N e5 ok3 hT1 (by decide))) (by decide))) (by decide))) (by decide)) (by decide))) (by decide))) (by decide)))) (by decide))) (by decide))))) (by decide)) (by decide))) (by decide)) (by decide))) (by decide)) (by decide))) (by decide))) (by decide))) (by decide))) (by decide)) (by decide)) (fun _ q => gE_wR q) ?_
  refine x_let (fun s101 e102 => ?_)
  refine x_aload_n (μ := mu_x1_init) (pc := 174) 0 dX1_init_174 rfl ?_
  refine x_ok (fun ok103 => ?_)
  refine x_new (μ := mu_x1_init) (pc := 175) (ci := 4) gk_X5 gd_X5 q557 q366 q225 dX1_init_175 ?_
  refine x_let (fun s104 e105 => ?_)
  refine x_dup (μ := mu_x1_init) (pc := 178) dX1_init_178 rfl ?_
  refine x_callIN_mv (μ := mu_x1_init) (pc := 179) (ok_x5_init (ω := ω) (l := l) (d := d - 1) hl (by omega) ) gRel_E gRel_E (fun _ q => q) q558 q368 q225 q369 dX1_init_179 (gT_ne (gT_new e105)) rfl hy_x5_init (by omega) (Nat.le_of_ble_eq_true rfl) rfl (Nat.le_of_ble_eq_true rfl) (fun x106 k107 => ?_)
  refine x_fprF (μ := mu_x1_init) (pc := 182) fX1_31 q676 rfl rfl (by first | exact Or.inl ⟨_, rfl⟩ | exact Or.inr ⟨_, rfl⟩) dX1_init_182 (gT_E k107 (gT_N e105 ok103 (gT_R e102 (gT_E k100 (gT_N e98 ok96 (gT_R e95 (gT_N e93 ok91 (gT_R e89 (gT_N e87 ok85 (gT_R e83 (gT_N e81 ok79 (gT_R e77 (gT_E k75 (gT_N e73 ok71 (gT_R e70 (gT_E k68 (gT_N e66 ok64 (gT_R e63 (gT_E k61 (gT_N e59 ok57 (gT_I e56 (gT_I e54 (gT_R e52 (gT_N e50 ok48 (gT_R e46 (gT_N e44 ok42 (gT_I e40 (gT_R e38 (gT_N e36 ok34 (gT_R e32 (gT_N e30 ok28 (gT_R e26 (gT_E k24 (gT_N e22 ok20 (gT_R e19 (gT_N e17 ok15 (gT_R e13 (gT_N e11 ok9 (gT_R e7 (gT_N e5 ok3 hT1 (by decide))) (by decide))) (by decide))) (by decide)) (by decide))) (by decide))) (by decide)))) (by decide))) (by decide))))) (by decide)) (by decide))) (by decide)) (by decide))) (by decide)) (by decide))) (by decide))) (by decide))) (by decide))) (by decide)) (by decide))) (by decide)) (by decide)) (fun _ q => gE_wR q) ?_
  refine x_let (fun s108 e109 => ?_)
  refine x_aload_n (μ := mu_x1_init) (pc := 185) 0 dX1_init_185 rfl ?_
  refine x_fgi (μ := mu_x1_init) (pc := 186) fX1_21 q666 dX1_init_186 (gT_R e109 (gT_E k107 (gT_N e105 ok103 (gT_R e102 (gT_E k100 (gT_N e98 ok96 (gT_R e95 (gT_N e93 ok91 (gT_R e89 (gT_N e87 ok85 (gT_R e83 (gT_N e81 ok79 (gT_R e77 (gT_E k75 (gT_N e73 ok71 (gT_R e70 (gT_E k68 (gT_N e66 ok64 (gT_R e63 (gT_E k61 (gT_N e59 ok57 (gT_I e56 (gT_I e54 (gT_R e52 (gT_N e50 ok48 (gT_R e46 (gT_N e44 ok42 (gT_I e40 (gT_R e38 (gT_N e36 ok34 (gT_R e32 (gT_N e30 ok28 (gT_R e26 (gT_E k24 (gT_N e22 ok20 (gT_R e19 (gT_N e17 ok15 (gT_R e13 (gT_N e11 ok9 (gT_R e7 (gT_N e5 ok3 hT1 (by decide))) (by decide))) (by decide))) (by decide)) (by decide))) (by decide))) (by decide)))) (by decide))) (by decide))))) (by decide)) (by decide))) (by decide)) (by decide))) (by decide)) (by decide))) (by decide))) (by decide))) (by decide))) (by decide)) (by decide))) (by decide)) (by decide))) (fun hr110 => ?_)
  refine x_if (fun hg111 => ?_)
  refine x_ok (fun ok112 => ?_)
  refine x_newai (μ := mu_x1_init) (pc := 189) dX1_init_189 hg111 ?_
  refine x_let (fun s113 e114 => ?_)
  refine x_astore_n (μ := mu_x1_init) (pc := 191) (lv' := [(1, vR (mZ s108)), (0, vR v0)]) dX1_init_191 rfl (by decide) rfl ?_
  refine x_aload_n (μ := mu_x1_init) (pc := 192) 1 dX1_init_192 rfl ?_
  refine x_fgi (μ := mu_x1_init) (pc := 193) fX1_22 q667 dX1_init_193 (gT_N e114 ok112 (gT_R e109 (gT_E k107 (gT_N e105 ok103 (gT_R e102 (gT_E k100 (gT_N e98 ok96 (gT_R e95 (gT_N e93 ok91 (gT_R e89 (gT_N e87 ok85 (gT_R e83 (gT_N e81 ok79 (gT_R e77 (gT_E k75 (gT_N e73 ok71 (gT_R e70 (gT_E k68 (gT_N e66 ok64 (gT_R e63 (gT_E k61 (gT_N e59 ok57 (gT_I e56 (gT_I e54 (gT_R e52 (gT_N e50 ok48 (gT_R e46 (gT_N e44 ok42 (gT_I e40 (gT_R e38 (gT_N e36 ok34 (gT_R e32 (gT_N e30 ok28 (gT_R e26 (gT_E k24 (gT_N e22 ok20 (gT_R e19 (gT_N e17 ok15 (gT_R e13 (gT_N e11 ok9 (gT_R e7 (gT_N e5 ok3 hT1 (by decide))) (by decide))) (by decide))) (by decide)) (by decide))) (by decide))) (by decide)))) (by decide))) (by decide))))) (by decide)) (by decide))) (by decide)) (by decide))) (by decide)) (by decide))) (by decide))) (by decide))) (by decide))) (by decide)) (by decide))) (by decide)) (by decide))) (by decide)) (fun hr115 => ?_)
  refine x_if (fun hg116 => ?_)
  refine x_ok (fun ok117 => ?_)
  refine x_newai (μ := mu_x1_init) (pc := 196) dX1_init_196 hg116 ?_
  refine x_let (fun s118 e119 => ?_)
  refine x_astore_n (μ := mu_x1_init) (pc := 198) (lv' := [(2, vR (mZ s113)), (1, vR (mZ s108)), (0, vR v0)]) dX1_init_198 rfl (by decide) rfl ?_
  refine x_iconst (μ := mu_x1_init) (pc := 199) dX1_init_199 ?_
  refine x_istore_n (μ := mu_x1_init) (pc := 200) (lv' := [(3, vI 0), (2, vR (mZ s113)), (1, vR (mZ s108)), (0, vR v0)]) dX1_init_200 rfl (by decide) rfl ?_
  refine x_loc (lv' := [(0, vR v0), (1, vR (mZ s108)), (2, vR (mZ s113)), (3, vI 0)]) [3, 2, 1, 0] rfl ?_
  refine okl_x1_init_l201 hl hdp (fun s125 => ?_) N 0 s118 (by decide)
  refine x_iconst (μ := mu_x1_init) (pc := 219) dX1_init_219 ?_
  refine x_istore_n (μ := mu_x1_init) (pc := 220) (lv' := [(3, vI 0), (0, vR v0), (1, vR (mZ s108)), (2, vR (mZ s113))]) dX1_init_220 rfl (by decide) rfl ?_
  refine x_loc (lv' := [(0, vR v0), (1, vR (mZ s108)), (2, vR (mZ s113)), (3, vI 0)]) [1, 2, 3, 0] rfl ?_
  refine okl_x1_init_l221 hl hdp (fun s131 => ?_) N 0 s125 (by decide)
  refine x_ok (fun ok132 => ?_)
  refine x_new (μ := mu_x1_init) (pc := 239) (ci := 7) gk_X9 gd_X9 q304 q559 q230 dX1_init_239 ?_
  refine x_let (fun s133 e134 => ?_)
  refine x_dup (μ := mu_x1_init) (pc := 242) dX1_init_242 rfl ?_
  refine x_aload_n (μ := mu_x1_init) (pc := 243) 1 dX1_init_243 rfl ?_
  refine x_aload_n (μ := mu_x1_init) (pc := 244) 2 dX1_init_244 rfl ?_
  refine x_callI_mv (μ := mu_x1_init) (pc := 245) (ok_x9_init (ω := ω) (l := l) (d := d - 1) hl (by omega) ) gRel_E gRel_E (fun _ q => q) q560 q561 q230 q562 dX1_init_245 (gT_ne (gT_new e134)) rfl hy_x9_init (by omega) (Nat.le_of_ble_eq_true rfl) rfl (Nat.le_of_ble_eq_true rfl) (fun x135 k136 => ?_)
  refine x_astore_n (μ := mu_x1_init) (pc := 248) (lv' := [(3, vR (mZ s131)), (0, vR v0), (1, vR (mZ s108)), (2, vR (mZ s113))]) dX1_init_248 rfl (by decide) rfl ?_
  refine x_aload_n (μ := mu_x1_init) (pc := 249) 1 dX1_init_249 rfl ?_
  refine x_if (fun hT137 => ?_)
  refine x_fgr (μ := mu_x1_init) (pc := 250) fX1_4 (by first | exact Or.inl ⟨_, rfl⟩ | exact Or.inr ⟨_, rfl⟩) q649 dX1_init_250 hT137 ?_
  refine x_iconst (μ := mu_x1_init) (pc := 253) dX1_init_253 ?_
  refine x_ok (fun ok138 => ?_)
  refine x_new (μ := mu_x1_init) (pc := 254) (ci := 8) gk_X10 gd_X10 q276 q590 q231 dX1_init_254 ?_
  refine x_let (fun s139 e140 => ?_)
  refine x_dup (μ := mu_x1_init) (pc := 257) dX1_init_257 rfl ?_
  refine x_aload_n (μ := mu_x1_init) (pc := 258) 0 dX1_init_258 rfl ?_
  refine x_iconst (μ := mu_x1_init) (pc := 259) dX1_init_259 ?_
  refine x_iconst (μ := mu_x1_init) (pc := 260) dX1_init_260 ?_
  refine x_lconst (μ := mu_x1_init) (pc := 261) dX1_init_261 ?_
  refine x_callI_mv (μ := mu_x1_init) (pc := 262) (ok_x10_init (ω := ω) (l := l) (d := d - 1) hl (by omega) (by decide) (by decide) (by decide)) gRel_E gRel_E (fun _ q => q) q591 q592 q231 q593 dX1_init_262 (gT_ne (gT_new e140)) rfl hy_x10_init (by omega) (Nat.le_of_ble_eq_true rfl) rfl (Nat.le_of_ble_eq_true rfl) (fun x141 k142 => ?_)
  refine x_if (fun hT143 => ?_)
  refine x_if (fun hz144 => ?_)
  refine x_aast (μ := mu_x1_init) (pc := 265) 4 ⟨fun _ => rfl, rfl, rfl⟩ dX1_init_265 hT143 rfl hz144 (fun _ _ q => gE_wR q) ?_
  refine x_let (fun s145 e146 => ?_)
  refine x_aload_n (μ := mu_x1_init) (pc := 266) 1 dX1_init_266 rfl ?_
  refine x_iconst (μ := mu_x1_init) (pc := 267) dX1_init_267 ?_
  refine x_fpi (μ := mu_x1_init) (pc := 268) fX1_5 q650 dX1_init_268 (gT_R e146 (gT_E k142 (gT_N e140 ok138 hT137 (by decide)) (by decide))) (fun _ q => gE_wI q) ?_
  refine x_let (fun s147 e148 => ?_)
  refine x_iconst (μ := mu_x1_init) (pc := 271) dX1_init_271 ?_
  refine x_istore (μ := mu_x1_init) (pc := 272) (lv' := [(4, vI 1), (3, vR (mZ s131)), (0, vR v0), (1, vR (mZ s108)), (2, vR (mZ s113))]) dX1_init_272 (by decide) rfl ?_
  refine x_loc (lv' := [(0, vR v0), (3, vR (mZ s131)), (4, vI 1)]) [2, 1, 0] rfl ?_
  refine okl_x1_init_l274 hl hdp (fun s153 => ?_) N 1 s147 (by decide)
  refine x_aload_n (μ := mu_x1_init) (pc := 295) 0 dX1_init_295 rfl ?_
  refine x_aload_n (μ := mu_x1_init) (pc := 296) 1 dX1_init_296 rfl ?_
  refine x_if (fun hT154 => ?_)
  refine x_callV_mr (μ := mu_x1_init) (pc := 297) (ok_x9_twin (ω := ω) (l := l) (d := d - 1) hl (by omega) ) gRel_E gRel_E (fun _ q => q) q623 q624 q625 q230 q626 dX1_init_297 rfl hT154 hy_x9_twin (by omega) (Nat.le_of_ble_eq_true rfl) rfl (Nat.le_of_ble_eq_true rfl) (fun x155 k156 => ?_)
  refine x_if (fun hT157 => ?_)
  refine x_fpr (μ := mu_x1_init) (pc := 300) fX1_8 q653 (by first | exact Or.inl ⟨_, rfl⟩ | exact Or.inr ⟨_, rfl⟩) dX1_init_300 hT157 (fun _ q => gE_wR q) ?_
  refine x_let (fun s158 e159 => ?_)
  exact x_vret (μ := mu_x1_init) (pc := 303) (a1 := s158) dX1_init_303 rfl rfl (gRel_E.1 _) trivial
def x1_take (N : Nat) (v0 : Nat) (σ : gMem) : Option gMem := if mT σ v0 = 1 then (x1_head v0 σ).bind (fun x2 => if mT σ (mR σ v0 4) = 104 then if 0 ≤ x2 ∧ x2 < (mN σ (mR σ v0 4) : Int) then if mT σ (mR σ (mR σ v0 4) x2.toNat) = 9 then if mT σ (mR σ (mR σ (mR σ v0 4) x2.toNat) 0) = 8 then (x9_twin N (mR σ (mR σ (mR σ v0 4) x2.toNat) 0) σ).bind (fun x7 => gLet (wR (x7.2) v0 8 (x7.1)) (fun s9 => gLet (wI s9 v0 15 (-1)) (fun s11 => gLet (wI s11 v0 20 0) (fun s13 => (x1_forget v0 s13).bind (fun x15 => some x15))))) else none else none else none else none) else none
set_option maxRecDepth 100000 in
theorem ok_x1_take {ω : gW} {l : Launch} {d : Nat} {N : Nat} {σ : gMem} {v0 : Nat} (hl : l.stackTraces = false) (hdp : 3 ≤ d) : gK (fun p : gMem => (.inl none, p)) gE ω l d mu_x1_take [vR v0] σ (x1_take N v0 σ) := by
  refine gK.of hp_X1 (Nat.le_of_ble_eq_true rfl) ?_
  unfold x1_take
  refine x_aload_n (μ := mu_x1_take) (pc := 0) 0 dX1_take_0 rfl ?_
  refine x_aload_n (μ := mu_x1_take) (pc := 1) 0 dX1_take_1 rfl ?_
  refine x_if (fun hT1 => ?_)
  refine x_fgr (μ := mu_x1_take) (pc := 2) fX1_4 (by first | exact Or.inl ⟨_, rfl⟩ | exact Or.inr ⟨_, rfl⟩) q649 dX1_take_2 hT1 ?_
  refine x_aload_n (μ := mu_x1_take) (pc := 5) 0 dX1_take_5 rfl ?_
  refine x_callV_pi (μ := mu_x1_take) (pc := 6) (ok_x1_head (ω := ω) (l := l) (d := d - 1) hl (by omega) ) gRel_E gRel_E (fun _ q => q) q766 q768 qs2 q221 q769 dX1_take_6 rfl hT1 hy_x1_head (by omega) (Nat.le_of_ble_eq_true rfl) rfl (Nat.le_of_ble_eq_true rfl) (fun x2 hr3 => ?_)
  refine x_if (fun hT4 => ?_)
  refine x_aald (μ := mu_x1_take) (pc := 9) 4 (fun _ => rfl) rfl rfl dX1_take_9 hT4 rfl ?_
  refine x_if (fun hT5 => ?_)
  refine x_fgrN (μ := mu_x1_take) (pc := 10) fX10_0 (by first | exact Or.inl ⟨_, rfl⟩ | exact Or.inr ⟨_, rfl⟩) q600 dX1_take_10 hT5 ?_
  refine x_if (fun hT6 => ?_)
  refine x_callV_mr (μ := mu_x1_take) (pc := 13) (ok_x9_twin (ω := ω) (l := l) (d := d - 1) hl (by omega) ) gRel_E gRel_E (fun _ q => q) q623 q624 q625 q230 q626 dX1_take_13 rfl hT6 hy_x9_twin (by omega) (Nat.le_of_ble_eq_true rfl) rfl (Nat.le_of_ble_eq_true rfl) (fun x7 k8 => ?_)
  refine x_fpr (μ := mu_x1_take) (pc := 16) fX1_8 q653 (by first | exact Or.inl ⟨_, rfl⟩ | exact Or.inr ⟨_, rfl⟩) dX1_take_16 (gT_E k8 hT1 (by decide)) (fun _ q => gE_wR q) ?_
  refine x_let (fun s9 e10 => ?_)
  refine x_aload_n (μ := mu_x1_take) (pc := 19) 0 dX1_take_19 rfl ?_
  refine x_iconst (μ := mu_x1_take) (pc := 20) dX1_take_20 ?_
  refine x_fpi (μ := mu_x1_take) (pc := 21) fX1_15 q660 dX1_take_21 (gT_R e10 (gT_E k8 hT1 (by decide))) (fun _ q => gE_wI q) ?_
  refine x_let (fun s11 e12 => ?_)
  refine x_aload_n (μ := mu_x1_take) (pc := 24) 0 dX1_take_24 rfl ?_
  refine x_iconst (μ := mu_x1_take) (pc := 25) dX1_take_25 ?_
  refine x_fpi (μ := mu_x1_take) (pc := 26) fX1_20 q665 dX1_take_26 (gT_I e12 (gT_R e10 (gT_E k8 hT1 (by decide)))) (fun _ q => gE_wI q) ?_
  refine x_let (fun s13 e14 => ?_)
  refine x_aload_n (μ := mu_x1_take) (pc := 29) 0 dX1_take_29 rfl ?_
  refine x_callV_mv (μ := mu_x1_take) (pc := 30) (ok_x1_forget (ω := ω) (l := l) (d := d - 1) hl (by omega) ) gRel_E gRel_E (fun _ q => q) q770 q772 qs3 q221 q773 dX1_take_30 rfl (gT_I e14 (gT_I e12 (gT_R e10 (gT_E k8 hT1 (by decide))))) hy_x1_forget (by omega) (Nat.le_of_ble_eq_true rfl) rfl (Nat.le_of_ble_eq_true rfl) (fun x15 k16 => ?_)
  exact x_vret (μ := mu_x1_take) (pc := 33) (a1 := x15) dX1_take_33 rfl rfl (gRel_E.1 _) trivial
def x1_conflict (N : Nat) (v0 : Nat) (v1 : Int) (v2 : Int) (σ : gMem) : Option Int := if v1 < 0 then some (-1) else if mT σ v0 = 1 then if v1 < mI σ v0 20 then if mT σ (mR σ v0 18) = 106 then if 0 ≤ v1 ∧ v1 < (mN σ (mR σ v0 18) : Int) then if v2 = 0 then if mT σ (mR σ (mR σ v0 18) v1.toNat) = 24 then some (mI σ (mR σ (mR σ v0 18) v1.toNat) 0) else none else if v2 = 1 then if mT σ (mR σ (mR σ v0 18) v1.toNat) = 24 then if mI σ (mR σ (mR σ v0 18) v1.toNat) 0 ≠ 2 then if mT σ (mR σ v0 8) = 8 then (x9_row N (mR σ v0 8) (mI σ (mR σ (mR σ v0 18) v1.toNat) 1) σ).bind (fun x12 => some (w32 (x12 + 1))) else none else some 0 else none else if v2 = 2 then if mT σ (mR σ (mR σ v0 18) v1.toNat) = 24 then if mI σ (mR σ (mR σ v0 18) v1.toNat) 0 ≠ 1 then if mT σ (mR σ v0 8) = 8 then (x9_column N (mR σ v0 8) (mI σ (mR σ (mR σ v0 18) v1.toNat) 2) σ).bind (fun x19 => some (w32 (x19 + 1))) else none else some 0 else none else if v2 = 3 then if mT σ (mR σ v0 19) = 103 then if 0 ≤ v1 ∧ v1 < (mN σ (mR σ v0 19) : Int) then if mI σ (mR σ v0 19) v1.toNat = 0 then some 0 else some 1 else none else none else some (-1) else none else none else some (-1) else none
set_option maxRecDepth 100000 in
theorem ok_x1_conflict {ω : gW} {l : Launch} {d : Nat} {N : Nat} {σ : gMem} {v0 : Nat} {v1 : Int} {v2 : Int} (hl : l.stackTraces = false) (hdp : 2 ≤ d) (hv1 : g32 v1) (hv2 : g32 v2) : gK (fun x : Int => (.inl (some (vI x)), σ)) gE ω l d mu_x1_conflict [vR v0, vI v1, vI v2] σ (x1_conflict N v0 v1 v2 σ) := by
  refine gK.of hp_X1 (Nat.le_of_ble_eq_true rfl) ?_
  unfold x1_conflict
  refine x_iload_n (μ := mu_x1_conflict) (pc := 0) 1 dX1_conflict_0 rfl ?_
  refine x_if_lt (μ := mu_x1_conflict) (pc := 1) (tgt := 12) dX1_conflict_1 rfl hv1 ?_ ?_
  · refine x_iconst (μ := mu_x1_conflict) (pc := 12) dX1_conflict_12 ?_
    exact x_iret (μ := mu_x1_conflict) (pc := 13) dX1_conflict_13 rfl rfl (gRel_E.1 _) (show g32 (-1) from (by decide))
  · refine x_iload_n (μ := mu_x1_conflict) (pc := 4) 1 dX1_conflict_4 rfl ?_
    refine x_aload_n (μ := mu_x1_conflict) (pc := 5) 0 dX1_conflict_5 rfl ?_
    refine x_if (fun hT1 => ?_)
    refine x_fgi (μ := mu_x1_conflict) (pc := 6) fX1_20 q665 dX1_conflict_6 hT1 (fun hr2 => ?_)
    refine x_icmp_lt (μ := mu_x1_conflict) (pc := 9) (tgt := 14) dX1_conflict_9 rfl hv1 hr2 ?_ ?_
    · refine x_aload_n (μ := mu_x1_conflict) (pc := 14) 0 dX1_conflict_14 rfl ?_
      refine x_fgr (μ := mu_x1_conflict) (pc := 15) fX1_18 (by first | exact Or.inl ⟨_, rfl⟩ | exact Or.inr ⟨_, rfl⟩) q663 dX1_conflict_15 hT1 ?_
      refine x_iload_n (μ := mu_x1_conflict) (pc := 18) 1 dX1_conflict_18 rfl ?_
      refine x_if (fun hT3 => ?_)
      refine x_aald (μ := mu_x1_conflict) (pc := 19) 6 (fun _ => rfl) rfl rfl dX1_conflict_19 hT3 rfl ?_
      refine x_astore_n (μ := mu_x1_conflict) (pc := 20) (lv' := [(3, vR (mR σ (mR σ v0 18) v1.toNat)), (0, vR v0), (1, vI v1), (2, vI v2)]) dX1_conflict_20 rfl (by decide) rfl ?_
      refine x_iload_n (μ := mu_x1_conflict) (pc := 21) 3 dX1_conflict_21 rfl ?_
      refine x_tab (μ := mu_x1_conflict) (pc := 22) (tgt := 52) 0 dX1_conflict_22 (by decide) (by decide) (by decide) rfl rfl ?_ (fun hn4 => ?_)
      · refine x_aload_n (μ := mu_x1_conflict) (pc := 52) 0 dX1_conflict_52 rfl ?_
        refine x_if (fun hT5 => ?_)
        refine x_fgiN (μ := mu_x1_conflict) (pc := 53) fX26_0 q2542 dX1_conflict_53 hT5 (fun hr6 => ?_)
        exact x_iret (μ := mu_x1_conflict) (pc := 56) dX1_conflict_56 rfl rfl (gRel_E.1 _) (show g32 (mI σ (mR σ (mR σ v0 18) v1.toNat) 0) from hr6)
      refine x_tab (μ := mu_x1_conflict) (pc := 22) (tgt := 57) 1 dX1_conflict_22 (by decide) (by decide) (by decide) rfl rfl ?_ (fun hn7 => ?_)
      · refine x_aload_n (μ := mu_x1_conflict) (pc := 57) 0 dX1_conflict_57 rfl ?_
        refine x_if (fun hT8 => ?_)
        refine x_fgiN (μ := mu_x1_conflict) (pc := 58) fX26_0 q2542 dX1_conflict_58 hT8 (fun hr9 => ?_)
        refine x_iconst (μ := mu_x1_conflict) (pc := 61) dX1_conflict_61 ?_
        refine x_icmp_ne (μ := mu_x1_conflict) (pc := 62) (tgt := 69) dX1_conflict_62 rfl hr9 (by decide) ?_ ?_
        · refine x_aload_n (μ := mu_x1_conflict) (pc := 69) 1 dX1_conflict_69 rfl ?_
          refine x_fgr (μ := mu_x1_conflict) (pc := 70) fX1_8 (by first | exact Or.inl ⟨_, rfl⟩ | exact Or.inr ⟨_, rfl⟩) q653 dX1_conflict_70 hT1 ?_
          refine x_aload_n (μ := mu_x1_conflict) (pc := 73) 0 dX1_conflict_73 rfl ?_
          refine x_fgiN (μ := mu_x1_conflict) (pc := 74) fX26_1 q2544 dX1_conflict_74 hT8 (fun hr10 => ?_)
          refine x_if (fun hT11 => ?_)
          refine x_callV_pi (μ := mu_x1_conflict) (pc := 77) (ok_x9_row (ω := ω) (l := l) (d := d - 1) hl (by omega) hr10) gRel_E gRel_E (fun _ q => q) q778 q779 q780 q230 q781 dX1_conflict_77 rfl hT11 hy_x9_row (by omega) (Nat.le_of_ble_eq_true rfl) rfl (Nat.le_of_ble_eq_true rfl) (fun x12 hr13 => ?_)
          refine x_iconst (μ := mu_x1_conflict) (pc := 80) dX1_conflict_80 ?_
          refine x_iadd (μ := mu_x1_conflict) (pc := 81) dX1_conflict_81 ?_
          refine x_w1 ?_
          exact x_iret (μ := mu_x1_conflict) (pc := 82) dX1_conflict_82 rfl rfl (gRel_E.1 _) (show g32 (w32 (x12 + 1)) from (w32_rng _))
        · refine x_iconst (μ := mu_x1_conflict) (pc := 65) dX1_conflict_65 ?_
          refine x_goto (μ := mu_x1_conflict) (pc := 66) (tgt := 82) dX1_conflict_66 rfl ?_
          exact x_iret (μ := mu_x1_conflict) (pc := 82) dX1_conflict_82 rfl rfl (gRel_E.1 _) (show g32 0 from (by decide))
      refine x_tab (μ := mu_x1_conflict) (pc := 22) (tgt := 83) 2 dX1_conflict_22 (by decide) (by decide) (by decide) rfl rfl ?_ (fun hn14 => ?_)
      · refine x_aload_n (μ := mu_x1_conflict) (pc := 83) 0 dX1_conflict_83 rfl ?_
        refine x_if (fun hT15 => ?_)
        refine x_fgiN (μ := mu_x1_conflict) (pc := 84) fX26_0 q2542 dX1_conflict_84 hT15 (fun hr16 => ?_)
        refine x_iconst (μ := mu_x1_conflict) (pc := 87) dX1_conflict_87 ?_
        refine x_icmp_ne (μ := mu_x1_conflict) (pc := 88) (tgt := 95) dX1_conflict_88 rfl hr16 (by decide) ?_ ?_
        · refine x_aload_n (μ := mu_x1_conflict) (pc := 95) 1 dX1_conflict_95 rfl ?_
          refine x_fgr (μ := mu_x1_conflict) (pc := 96) fX1_8 (by first | exact Or.inl ⟨_, rfl⟩ | exact Or.inr ⟨_, rfl⟩) q653 dX1_conflict_96 hT1 ?_
          refine x_aload_n (μ := mu_x1_conflict) (pc := 99) 0 dX1_conflict_99 rfl ?_
          refine x_fgiN (μ := mu_x1_conflict) (pc := 100) fX26_2 q2546 dX1_conflict_100 hT15 (fun hr17 => ?_)
          refine x_if (fun hT18 => ?_)
          refine x_callV_pi (μ := mu_x1_conflict) (pc := 103) (ok_x9_column (ω := ω) (l := l) (d := d - 1) hl (by omega) hr17) gRel_E gRel_E (fun _ q => q) q785 q786 q787 q230 q788 dX1_conflict_103 rfl hT18 hy_x9_column (by omega) (Nat.le_of_ble_eq_true rfl) rfl (Nat.le_of_ble_eq_true rfl) (fun x19 hr20 => ?_)
          refine x_iconst (μ := mu_x1_conflict) (pc := 106) dX1_conflict_106 ?_
          refine x_iadd (μ := mu_x1_conflict) (pc := 107) dX1_conflict_107 ?_
          refine x_w1 ?_
          exact x_iret (μ := mu_x1_conflict) (pc := 108) dX1_conflict_108 rfl rfl (gRel_E.1 _) (show g32 (w32 (x19 + 1)) from (w32_rng _))
        · refine x_iconst (μ := mu_x1_conflict) (pc := 91) dX1_conflict_91 ?_
          refine x_goto (μ := mu_x1_conflict) (pc := 92) (tgt := 108) dX1_conflict_92 rfl ?_
          exact x_iret (μ := mu_x1_conflict) (pc := 108) dX1_conflict_108 rfl rfl (gRel_E.1 _) (show g32 0 from (by decide))
      refine x_tab (μ := mu_x1_conflict) (pc := 22) (tgt := 109) 3 dX1_conflict_22 (by decide) (by decide) (by decide) rfl rfl ?_ (fun hn21 => ?_)
      · refine x_aload_n (μ := mu_x1_conflict) (pc := 109) 1 dX1_conflict_109 rfl ?_
        refine x_fgr (μ := mu_x1_conflict) (pc := 110) fX1_19 (by first | exact Or.inl ⟨_, rfl⟩ | exact Or.inr ⟨_, rfl⟩) q664 dX1_conflict_110 hT1 ?_
        refine x_iload_n (μ := mu_x1_conflict) (pc := 113) 2 dX1_conflict_113 rfl ?_
        refine x_if (fun hT22 => ?_)
        refine x_zald (μ := mu_x1_conflict) (pc := 114) dX1_conflict_114 hT22 rfl (fun hr23 => ?_)
        refine x_if_eq (μ := mu_x1_conflict) (pc := 115) (tgt := 122) dX1_conflict_115 rfl hr23 ?_ ?_
        · refine x_iconst (μ := mu_x1_conflict) (pc := 122) dX1_conflict_122 ?_
          exact x_iret (μ := mu_x1_conflict) (pc := 123) dX1_conflict_123 rfl rfl (gRel_E.1 _) (show g32 0 from (by decide))
        · refine x_iconst (μ := mu_x1_conflict) (pc := 118) dX1_conflict_118 ?_
          refine x_goto (μ := mu_x1_conflict) (pc := 119) (tgt := 123) dX1_conflict_119 rfl ?_
          exact x_iret (μ := mu_x1_conflict) (pc := 123) dX1_conflict_123 rfl rfl (gRel_E.1 _) (show g32 1 from (by decide))
      refine x_tabOut (μ := mu_x1_conflict) (pc := 22) (tgt := 124) dX1_conflict_22 hv2 (by omega) rfl ?_
      refine x_iconst (μ := mu_x1_conflict) (pc := 124) dX1_conflict_124 ?_
      exact x_iret (μ := mu_x1_conflict) (pc := 125) dX1_conflict_125 rfl rfl (gRel_E.1 _) (show g32 (-1) from (by decide))
    · refine x_iconst (μ := mu_x1_conflict) (pc := 12) dX1_conflict_12 ?_
      exact x_iret (μ := mu_x1_conflict) (pc := 13) dX1_conflict_13 rfl rfl (gRel_E.1 _) (show g32 (-1) from (by decide))
def x1_base (v0 : Nat) (v1 : Int) (v2 : Int) (σ : gMem) : Option Int := if v1 < 0 then some (-1) else if mT σ v0 = 1 then if mI σ v0 5 ≤ v1 then some (-1) else if v2 < 0 then some (-1) else if v2 < mI σ v0 5 then if mT σ (mR σ v0 4) = 104 then if 0 ≤ v1 ∧ v1 < (mN σ (mR σ v0 4) : Int) then if mT σ (mR σ (mR σ v0 4) v1.toNat) = 9 then if 0 ≤ v2 ∧ v2 < (mN σ (mR σ v0 4) : Int) then if mT σ (mR σ (mR σ v0 4) v2.toNat) = 9 then (j15_numberOfLeadingZeros (lAnd (mL σ (mR σ (mR σ v0 4) v1.toNat) 4) (mL σ (mR σ (mR σ v0 4) v2.toNat) 4)) σ).bind (fun x9 => some (w32 (63 - x9))) else none else none else none else none else none else some (-1) else none
set_option maxRecDepth 100000 in
theorem ok_x1_base {ω : gW} {l : Launch} {d : Nat} {σ : gMem} {v0 : Nat} {v1 : Int} {v2 : Int} (hl : l.stackTraces = false) (hdp : 2 ≤ d) (hv1 : g32 v1) (hv2 : g32 v2) : gK (fun x : Int => (.inl (some (vI x)), σ)) gE ω l d mu_x1_base [vR v0, vI v1, vI v2] σ (x1_base v0 v1 v2 σ) := by
  refine gK.of hp_X1 (Nat.le_of_ble_eq_true rfl) ?_
  unfold x1_base
  refine x_iload_n (μ := mu_x1_base) (pc := 0) 1 dX1_base_0 rfl ?_
  refine x_if_lt (μ := mu_x1_base) (pc := 1) (tgt := 24) dX1_base_1 rfl hv1 ?_ ?_
  · refine x_iconst (μ := mu_x1_base) (pc := 24) dX1_base_24 ?_
    exact x_iret (μ := mu_x1_base) (pc := 25) dX1_base_25 rfl rfl (gRel_E.1 _) (show g32 (-1) from (by decide))
  · refine x_iload_n (μ := mu_x1_base) (pc := 4) 1 dX1_base_4 rfl ?_
    refine x_aload_n (μ := mu_x1_base) (pc := 5) 0 dX1_base_5 rfl ?_
    refine x_if (fun hT1 => ?_)
    refine x_fgi (μ := mu_x1_base) (pc := 6) fX1_5 q650 dX1_base_6 hT1 (fun hr2 => ?_)
    refine x_icmp_ge (μ := mu_x1_base) (pc := 9) (tgt := 24) dX1_base_9 rfl hv1 hr2 ?_ ?_
    · refine x_iconst (μ := mu_x1_base) (pc := 24) dX1_base_24 ?_
      exact x_iret (μ := mu_x1_base) (pc := 25) dX1_base_25 rfl rfl (gRel_E.1 _) (show g32 (-1) from (by decide))
    · refine x_iload_n (μ := mu_x1_base) (pc := 12) 2 dX1_base_12 rfl ?_
      refine x_if_lt (μ := mu_x1_base) (pc := 13) (tgt := 24) dX1_base_13 rfl hv2 ?_ ?_
      · refine x_iconst (μ := mu_x1_base) (pc := 24) dX1_base_24 ?_
        exact x_iret (μ := mu_x1_base) (pc := 25) dX1_base_25 rfl rfl (gRel_E.1 _) (show g32 (-1) from (by decide))
      · refine x_iload_n (μ := mu_x1_base) (pc := 16) 2 dX1_base_16 rfl ?_
        refine x_aload_n (μ := mu_x1_base) (pc := 17) 0 dX1_base_17 rfl ?_
        refine x_fgi (μ := mu_x1_base) (pc := 18) fX1_5 q650 dX1_base_18 hT1 (fun hr3 => ?_)
        refine x_icmp_lt (μ := mu_x1_base) (pc := 21) (tgt := 26) dX1_base_21 rfl hv2 hr3 ?_ ?_
        · refine x_bipush (μ := mu_x1_base) (pc := 26) dX1_base_26 (by decide) ?_
          refine x_aload_n (μ := mu_x1_base) (pc := 28) 0 dX1_base_28 rfl ?_
          refine x_fgr (μ := mu_x1_base) (pc := 29) fX1_4 (by first | exact Or.inl ⟨_, rfl⟩ | exact Or.inr ⟨_, rfl⟩) q649 dX1_base_29 hT1 ?_
          refine x_iload_n (μ := mu_x1_base) (pc := 32) 1 dX1_base_32 rfl ?_
          refine x_if (fun hT4 => ?_)
          refine x_aald (μ := mu_x1_base) (pc := 33) 4 (fun _ => rfl) rfl rfl dX1_base_33 hT4 rfl ?_
          refine x_if (fun hT5 => ?_)
          refine x_fglN (μ := mu_x1_base) (pc := 34) fX10_4 q611 dX1_base_34 hT5 (fun hr6 => ?_)
          refine x_aload_n (μ := mu_x1_base) (pc := 37) 0 dX1_base_37 rfl ?_
          refine x_fgr (μ := mu_x1_base) (pc := 38) fX1_4 (by first | exact Or.inl ⟨_, rfl⟩ | exact Or.inr ⟨_, rfl⟩) q649 dX1_base_38 hT1 ?_
          refine x_iload_n (μ := mu_x1_base) (pc := 41) 2 dX1_base_41 rfl ?_
          refine x_aald (μ := mu_x1_base) (pc := 42) 4 (fun _ => rfl) rfl rfl dX1_base_42 hT4 rfl ?_
          refine x_if (fun hT7 => ?_)
          refine x_fglN (μ := mu_x1_base) (pc := 43) fX10_4 q611 dX1_base_43 hT7 (fun hr8 => ?_)
          refine x_land (μ := mu_x1_base) (pc := 46) dX1_base_46 ?_
          refine x_callS_pi (μ := mu_x1_base) (pc := 47) (ok_j15_numberOfLeadingZeros (ω := ω) (l := l) (d := d - 1) hl (by omega) (lAnd_rng _ _)) gRel_E gRel_E (fun _ q => q) q793 q794 q263 q795 dX1_base_47 hy_j15_numberOfLeadingZeros (by omega) (Nat.le_of_ble_eq_true rfl) rfl (Nat.le_of_ble_eq_true rfl) (fun x9 hr10 => ?_)
          refine x_isub (μ := mu_x1_base) (pc := 50) dX1_base_50 ?_
          refine x_w1 ?_
          exact x_iret (μ := mu_x1_base) (pc := 51) dX1_base_51 rfl rfl (gRel_E.1 _) (show g32 (w32 (63 - x9)) from (w32_rng _))
        · refine x_iconst (μ := mu_x1_base) (pc := 24) dX1_base_24 ?_
          exact x_iret (μ := mu_x1_base) (pc := 25) dX1_base_25 rfl rfl (gRel_E.1 _) (show g32 (-1) from (by decide))
def x1_compare_j35 (N : Nat) (v0 : Nat) (v1 : Nat) (s : gMem) : Option gMem := if v0 ≠ mR s 0 21 then if mT s v1 = 5 then (x5_is v1 0 s).bind (fun x43 => some x43) else none else if mT s v1 = 5 then (x5_is v1 1 s).bind (fun x46 => some x46) else none
set_option maxRecDepth 100000 in
theorem okj_x1_compare_j35 {ω : gW} {l : Launch} {d : Nat} {N : Nat} {σ0 : gMem} {s : gMem} {v0 : Nat} {v1 : Nat} (hl : l.stackTraces = false) (hdp : 3 ≤ d) : GG (fun p : gMem => (.inl none, p)) gE ω l d mu_x1_compare σ0 35 [(0, vR v0), (1, vR v1)] [] s (x1_compare_j35 N v0 v1 s) := by
  unfold x1_compare_j35
  refine x_aload_n (μ := mu_x1_compare) (pc := 35) 1 dX1_compare_35 rfl ?_
  refine x_aload_n (μ := mu_x1_compare) (pc := 36) 0 dX1_compare_36 rfl ?_
  refine x_gst (μ := mu_x1_compare) (pc := 37) (j := 21) (List.mem_of_getElem? (i := 19) rfl) q1094 dX1_compare_37 ?_
  refine x_acmp_ne (μ := mu_x1_compare) (pc := 40) (tgt := 47) dX1_compare_40 rfl ?_ ?_
  · refine x_iconst (μ := mu_x1_compare) (pc := 47) dX1_compare_47 ?_
    refine x_if (fun hT42 => ?_)
    refine x_callV_mv (μ := mu_x1_compare) (pc := 48) (ok_x5_is (ω := ω) (l := l) (d := d - 1) hl (by omega) (by decide)) gRel_E gRel_E (fun _ q => q) q1096 q1036 q1037 q225 q1038 dX1_compare_48 rfl hT42 hy_x5_is (by omega) (Nat.le_of_ble_eq_true rfl) rfl (Nat.le_of_ble_eq_true rfl) (fun x43 k44 => ?_)
    refine x_goto (μ := mu_x1_compare) (pc := 51) (tgt := 59) dX1_compare_51 rfl ?_
    exact x_vret (μ := mu_x1_compare) (pc := 59) (a1 := x43) dX1_compare_59 rfl rfl (gRel_E.1 _) trivial
  · refine x_iconst (μ := mu_x1_compare) (pc := 43) dX1_compare_43 ?_
    refine x_goto (μ := mu_x1_compare) (pc := 44) (tgt := 48) dX1_compare_44 rfl ?_
    refine x_if (fun hT45 => ?_)
    refine x_callV_mv (μ := mu_x1_compare) (pc := 48) (ok_x5_is (ω := ω) (l := l) (d := d - 1) hl (by omega) (by decide)) gRel_E gRel_E (fun _ q => q) q1096 q1036 q1037 q225 q1038 dX1_compare_48 rfl hT45 hy_x5_is (by omega) (Nat.le_of_ble_eq_true rfl) rfl (Nat.le_of_ble_eq_true rfl) (fun x46 k47 => ?_)
    refine x_goto (μ := mu_x1_compare) (pc := 51) (tgt := 59) dX1_compare_51 rfl ?_
    exact x_vret (μ := mu_x1_compare) (pc := 59) (a1 := x46) dX1_compare_59 rfl rfl (gRel_E.1 _) trivial
def x1_compare (N : Nat) (v0 : Nat) (v1 : Nat) (v2 : Nat) (σ : gMem) : Option gMem := if mT σ v1 = 5 then (x5_adapt v1 v2 σ).bind (fun x2 => if mT x2 v2 = 5 then (x5_adapt v2 v1 x2).bind (fun x5 => if mI x5 v1 0 = mI x5 v2 0 then (x5_against N v1 v2 x5).bind (fun x9 => if mT x5 v0 = 92 then if mI x5 v0 0 = 0 then if x9 ≠ 0 then (x5_is v1 0 x5).bind (fun x14 => some x14) else (x5_is v1 1 x5).bind (fun x16 => some x16) else if mI x5 v0 0 = 1 then if x9 = 0 then (x5_is v1 0 x5).bind (fun x19 => some x19) else (x5_is v1 1 x5).bind (fun x21 => some x21) else if mI x5 v0 0 = 2 then if 0 ≤ x9 then (x5_is v1 0 x5).bind (fun x24 => some x24) else (x5_is v1 1 x5).bind (fun x26 => some x26) else if mI x5 v0 0 = 3 then if 0 < x9 then (x5_is v1 0 x5).bind (fun x29 => some x29) else (x5_is v1 1 x5).bind (fun x31 => some x31) else if mI x5 v0 0 = 4 then if x9 ≤ 0 then (x5_is v1 0 x5).bind (fun x34 => some x34) else (x5_is v1 1 x5).bind (fun x36 => some x36) else if x9 < 0 then (x5_is v1 0 x5).bind (fun x38 => some x38) else (x5_is v1 1 x5).bind (fun x40 => some x40) else none) else if v0 = mR x5 0 20 then x1_compare_j35 N v0 v1  x5 else if v0 ≠ mR x5 0 21 then (x5_fail v1 3 x5).bind (fun x48 => some x48) else x1_compare_j35 N v0 v1  x5) else none) else none
set_option maxRecDepth 100000 in
theorem ok_x1_compare {ω : gW} {l : Launch} {d : Nat} {N : Nat} {σ : gMem} {v0 : Nat} {v1 : Nat} {v2 : Nat} (hl : l.stackTraces = false) (hdp : 3 ≤ d) : gK (fun p : gMem => (.inl none, p)) gE ω l d mu_x1_compare [vR v0, vR v1, vR v2] σ (x1_compare N v0 v1 v2 σ) := by
  refine gK.of hp_X1 (Nat.le_of_ble_eq_true rfl) ?_
  unfold x1_compare
  refine x_aload_n (μ := mu_x1_compare) (pc := 0) 1 dX1_compare_0 rfl ?_
  refine x_aload_n (μ := mu_x1_compare) (pc := 1) 2 dX1_compare_1 rfl ?_
  refine x_if (fun hT1 => ?_)
  refine x_callV_mv (μ := mu_x1_compare) (pc := 2) (ok_x5_adapt (ω := ω) (l := l) (d := d - 1) hl (by omega) ) gRel_E gRel_E (fun _ q => q) q1086 q1087 q1088 q225 q1089 dX1_compare_2 rfl hT1 hy_x5_adapt (by omega) (Nat.le_of_ble_eq_true rfl) rfl (Nat.le_of_ble_eq_true rfl) (fun x2 k3 => ?_)
  refine x_aload_n (μ := mu_x1_compare) (pc := 5) 2 dX1_compare_5 rfl ?_
  refine x_aload_n (μ := mu_x1_compare) (pc := 6) 1 dX1_compare_6 rfl ?_
  refine x_if (fun hT4 => ?_)
  refine x_callV_mv (μ := mu_x1_compare) (pc := 7) (ok_x5_adapt (ω := ω) (l := l) (d := d - 1) hl (by omega) ) gRel_E gRel_E (fun _ q => q) q1086 q1087 q1088 q225 q1089 dX1_compare_7 rfl hT4 hy_x5_adapt (by omega) (Nat.le_of_ble_eq_true rfl) rfl (Nat.le_of_ble_eq_true rfl) (fun x5 k6 => ?_)
  refine x_aload_n (μ := mu_x1_compare) (pc := 10) 1 dX1_compare_10 rfl ?_
  refine x_fgiN (μ := mu_x1_compare) (pc := 11) fX5_0 q373 dX1_compare_11 (gT_E k6 (gT_E k3 hT1 (by decide)) (by decide)) (fun hr7 => ?_)
  refine x_aload_n (μ := mu_x1_compare) (pc := 14) 2 dX1_compare_14 rfl ?_
  refine x_fgiN (μ := mu_x1_compare) (pc := 15) fX5_0 q373 dX1_compare_15 (gT_E k6 hT4 (by decide)) (fun hr8 => ?_)
  refine x_icmp_eq (μ := mu_x1_compare) (pc := 18) (tgt := 60) dX1_compare_18 rfl hr7 hr8 ?_ ?_
  · refine x_aload_n (μ := mu_x1_compare) (pc := 60) 1 dX1_compare_60 rfl ?_
    refine x_aload_n (μ := mu_x1_compare) (pc := 61) 2 dX1_compare_61 rfl ?_
    refine x_callV_pi (μ := mu_x1_compare) (pc := 62) (ok_x5_against (ω := ω) (l := l) (d := d - 1) hl (by omega) ) gRel_E gRel_E (fun _ q => q) q1098 q1099 q1100 q225 q1101 dX1_compare_62 rfl (gT_E k6 (gT_E k3 hT1 (by decide)) (by decide)) hy_x5_against (by omega) (Nat.le_of_ble_eq_true rfl) rfl (Nat.le_of_ble_eq_true rfl) (fun x9 hr10 => ?_)
    refine x_istore_n (μ := mu_x1_compare) (pc := 65) (lv' := [(3, vI x9), (0, vR v0), (1, vR v1), (2, vR v2)]) dX1_compare_65 rfl (by decide) rfl ?_
    refine x_aload_n (μ := mu_x1_compare) (pc := 66) 1 dX1_compare_66 rfl ?_
    refine x_if (fun hT11 => ?_)
    refine x_ord92 (μ := mu_x1_compare) (pc := 67) q1105 dX1_compare_67 hT11 (by omega) (Nat.le_of_ble_eq_true rfl) (fun hr12 => ?_)
    refine x_tab (μ := mu_x1_compare) (pc := 70) (tgt := 104) 0 dX1_compare_70 (by decide) (by decide) (by decide) rfl rfl ?_ (fun hn13 => ?_)
    · refine x_aload_n (μ := mu_x1_compare) (pc := 104) 2 dX1_compare_104 rfl ?_
      refine x_iload_n (μ := mu_x1_compare) (pc := 105) 0 dX1_compare_105 rfl ?_
      refine x_if_ne (μ := mu_x1_compare) (pc := 106) (tgt := 113) dX1_compare_106 rfl hr10 ?_ ?_
      · refine x_iconst (μ := mu_x1_compare) (pc := 113) dX1_compare_113 ?_
        refine x_callV_mv (μ := mu_x1_compare) (pc := 114) (ok_x5_is (ω := ω) (l := l) (d := d - 1) hl (by omega) (by decide)) gRel_E gRel_E (fun _ q => q) q1096 q1036 q1037 q225 q1038 dX1_compare_114 rfl (gT_E k6 (gT_E k3 hT1 (by decide)) (by decide)) hy_x5_is (by omega) (Nat.le_of_ble_eq_true rfl) rfl (Nat.le_of_ble_eq_true rfl) (fun x14 k15 => ?_)
        refine x_goto (μ := mu_x1_compare) (pc := 117) (tgt := 197) dX1_compare_117 rfl ?_
        exact x_vret (μ := mu_x1_compare) (pc := 197) (a1 := x14) dX1_compare_197 rfl rfl (gRel_E.1 _) trivial
      · refine x_iconst (μ := mu_x1_compare) (pc := 109) dX1_compare_109 ?_
        refine x_goto (μ := mu_x1_compare) (pc := 110) (tgt := 114) dX1_compare_110 rfl ?_
        refine x_callV_mv (μ := mu_x1_compare) (pc := 114) (ok_x5_is (ω := ω) (l := l) (d := d - 1) hl (by omega) (by decide)) gRel_E gRel_E (fun _ q => q) q1096 q1036 q1037 q225 q1038 dX1_compare_114 rfl (gT_E k6 (gT_E k3 hT1 (by decide)) (by decide)) hy_x5_is (by omega) (Nat.le_of_ble_eq_true rfl) rfl (Nat.le_of_ble_eq_true rfl) (fun x16 k17 => ?_)
        refine x_goto (μ := mu_x1_compare) (pc := 117) (tgt := 197) dX1_compare_117 rfl ?_
        exact x_vret (μ := mu_x1_compare) (pc := 197) (a1 := x16) dX1_compare_197 rfl rfl (gRel_E.1 _) trivial
    refine x_tab (μ := mu_x1_compare) (pc := 70) (tgt := 120) 1 dX1_compare_70 (by decide) (by decide) (by decide) rfl rfl ?_ (fun hn18 => ?_)
    · refine x_aload_n (μ := mu_x1_compare) (pc := 120) 2 dX1_compare_120 rfl ?_
      refine x_iload_n (μ := mu_x1_compare) (pc := 121) 0 dX1_compare_121 rfl ?_
      refine x_if_eq (μ := mu_x1_compare) (pc := 122) (tgt := 129) dX1_compare_122 rfl hr10 ?_ ?_
      · refine x_iconst (μ := mu_x1_compare) (pc := 129) dX1_compare_129 ?_
        refine x_callV_mv (μ := mu_x1_compare) (pc := 130) (ok_x5_is (ω := ω) (l := l) (d := d - 1) hl (by omega) (by decide)) gRel_E gRel_E (fun _ q => q) q1096 q1036 q1037 q225 q1038 dX1_compare_130 rfl (gT_E k6 (gT_E k3 hT1 (by decide)) (by decide)) hy_x5_is (by omega) (Nat.le_of_ble_eq_true rfl) rfl (Nat.le_of_ble_eq_true rfl) (fun x19 k20 => ?_)
        refine x_goto (μ := mu_x1_compare) (pc := 133) (tgt := 197) dX1_compare_133 rfl ?_
        exact x_vret (μ := mu_x1_compare) (pc := 197) (a1 := x19) dX1_compare_197 rfl rfl (gRel_E.1 _) trivial
      · refine x_iconst (μ := mu_x1_compare) (pc := 125) dX1_compare_125 ?_
        refine x_goto (μ := mu_x1_compare) (pc := 126) (tgt := 130) dX1_compare_126 rfl ?_
        refine x_callV_mv (μ := mu_x1_compare) (pc := 130) (ok_x5_is (ω := ω) (l := l) (d := d - 1) hl (by omega) (by decide)) gRel_E gRel_E (fun _ q => q) q1096 q1036 q1037 q225 q1038 dX1_compare_130 rfl (gT_E k6 (gT_E k3 hT1 (by decide)) (by decide)) hy_x5_is (by omega) (Nat.le_of_ble_eq_true rfl) rfl (Nat.le_of_ble_eq_true rfl) (fun x21 k22 => ?_)
        refine x_goto (μ := mu_x1_compare) (pc := 133) (tgt := 197) dX1_compare_133 rfl ?_
        exact x_vret (μ := mu_x1_compare) (pc := 197) (a1 := x21) dX1_compare_197 rfl rfl (gRel_E.1 _) trivial
    refine x_tab (μ := mu_x1_compare) (pc := 70) (tgt := 136) 2 dX1_compare_70 (by decide) (by decide) (by decide) rfl rfl ?_ (fun hn23 => ?_)
    · refine x_aload_n (μ := mu_x1_compare) (pc := 136) 2 dX1_compare_136 rfl ?_
      refine x_iload_n (μ := mu_x1_compare) (pc := 137) 0 dX1_compare_137 rfl ?_
      refine x_if_ge (μ := mu_x1_compare) (pc := 138) (tgt := 145) dX1_compare_138 rfl hr10 ?_ ?_
      · refine x_iconst (μ := mu_x1_compare) (pc := 145) dX1_compare_145 ?_
        refine x_callV_mv (μ := mu_x1_compare) (pc := 146) (ok_x5_is (ω := ω) (l := l) (d := d - 1) hl (by omega) (by decide)) gRel_E gRel_E (fun _ q => q) q1096 q1036 q1037 q225 q1038 dX1_compare_146 rfl (gT_E k6 (gT_E k3 hT1 (by decide)) (by decide)) hy_x5_is (by omega) (Nat.le_of_ble_eq_true rfl) rfl (Nat.le_of_ble_eq_true rfl) (fun x24 k25 => ?_)
        refine x_goto (μ := mu_x1_compare) (pc := 149) (tgt := 197) dX1_compare_149 rfl ?_
        exact x_vret (μ := mu_x1_compare) (pc := 197) (a1 := x24) dX1_compare_197 rfl rfl (gRel_E.1 _) trivial
      · refine x_iconst (μ := mu_x1_compare) (pc := 141) dX1_compare_141 ?_
        refine x_goto (μ := mu_x1_compare) (pc := 142) (tgt := 146) dX1_compare_142 rfl ?_
        refine x_callV_mv (μ := mu_x1_compare) (pc := 146) (ok_x5_is (ω := ω) (l := l) (d := d - 1) hl (by omega) (by decide)) gRel_E gRel_E (fun _ q => q) q1096 q1036 q1037 q225 q1038 dX1_compare_146 rfl (gT_E k6 (gT_E k3 hT1 (by decide)) (by decide)) hy_x5_is (by omega) (Nat.le_of_ble_eq_true rfl) rfl (Nat.le_of_ble_eq_true rfl) (fun x26 k27 => ?_)
        refine x_goto (μ := mu_x1_compare) (pc := 149) (tgt := 197) dX1_compare_149 rfl ?_
        exact x_vret (μ := mu_x1_compare) (pc := 197) (a1 := x26) dX1_compare_197 rfl rfl (gRel_E.1 _) trivial
    refine x_tab (μ := mu_x1_compare) (pc := 70) (tgt := 152) 3 dX1_compare_70 (by decide) (by decide) (by decide) rfl rfl ?_ (fun hn28 => ?_)
    · refine x_aload_n (μ := mu_x1_compare) (pc := 152) 2 dX1_compare_152 rfl ?_
      refine x_iload_n (μ := mu_x1_compare) (pc := 153) 0 dX1_compare_153 rfl ?_
      refine x_if_gt (μ := mu_x1_compare) (pc := 154) (tgt := 161) dX1_compare_154 rfl hr10 ?_ ?_
      · refine x_iconst (μ := mu_x1_compare) (pc := 161) dX1_compare_161 ?_
        refine x_callV_mv (μ := mu_x1_compare) (pc := 162) (ok_x5_is (ω := ω) (l := l) (d := d - 1) hl (by omega) (by decide)) gRel_E gRel_E (fun _ q => q) q1096 q1036 q1037 q225 q1038 dX1_compare_162 rfl (gT_E k6 (gT_E k3 hT1 (by decide)) (by decide)) hy_x5_is (by omega) (Nat.le_of_ble_eq_true rfl) rfl (Nat.le_of_ble_eq_true rfl) (fun x29 k30 => ?_)
        refine x_goto (μ := mu_x1_compare) (pc := 165) (tgt := 197) dX1_compare_165 rfl ?_
        exact x_vret (μ := mu_x1_compare) (pc := 197) (a1 := x29) dX1_compare_197 rfl rfl (gRel_E.1 _) trivial
      · refine x_iconst (μ := mu_x1_compare) (pc := 157) dX1_compare_157 ?_
        refine x_goto (μ := mu_x1_compare) (pc := 158) (tgt := 162) dX1_compare_158 rfl ?_
        refine x_callV_mv (μ := mu_x1_compare) (pc := 162) (ok_x5_is (ω := ω) (l := l) (d := d - 1) hl (by omega) (by decide)) gRel_E gRel_E (fun _ q => q) q1096 q1036 q1037 q225 q1038 dX1_compare_162 rfl (gT_E k6 (gT_E k3 hT1 (by decide)) (by decide)) hy_x5_is (by omega) (Nat.le_of_ble_eq_true rfl) rfl (Nat.le_of_ble_eq_true rfl) (fun x31 k32 => ?_)
        refine x_goto (μ := mu_x1_compare) (pc := 165) (tgt := 197) dX1_compare_165 rfl ?_
        exact x_vret (μ := mu_x1_compare) (pc := 197) (a1 := x31) dX1_compare_197 rfl rfl (gRel_E.1 _) trivial
    refine x_tab (μ := mu_x1_compare) (pc := 70) (tgt := 168) 4 dX1_compare_70 (by decide) (by decide) (by decide) rfl rfl ?_ (fun hn33 => ?_)
    · refine x_aload_n (μ := mu_x1_compare) (pc := 168) 2 dX1_compare_168 rfl ?_
      refine x_iload_n (μ := mu_x1_compare) (pc := 169) 0 dX1_compare_169 rfl ?_
      refine x_if_le (μ := mu_x1_compare) (pc := 170) (tgt := 177) dX1_compare_170 rfl hr10 ?_ ?_
      · refine x_iconst (μ := mu_x1_compare) (pc := 177) dX1_compare_177 ?_
        refine x_callV_mv (μ := mu_x1_compare) (pc := 178) (ok_x5_is (ω := ω) (l := l) (d := d - 1) hl (by omega) (by decide)) gRel_E gRel_E (fun _ q => q) q1096 q1036 q1037 q225 q1038 dX1_compare_178 rfl (gT_E k6 (gT_E k3 hT1 (by decide)) (by decide)) hy_x5_is (by omega) (Nat.le_of_ble_eq_true rfl) rfl (Nat.le_of_ble_eq_true rfl) (fun x34 k35 => ?_)
        refine x_goto (μ := mu_x1_compare) (pc := 181) (tgt := 197) dX1_compare_181 rfl ?_
        exact x_vret (μ := mu_x1_compare) (pc := 197) (a1 := x34) dX1_compare_197 rfl rfl (gRel_E.1 _) trivial
      · refine x_iconst (μ := mu_x1_compare) (pc := 173) dX1_compare_173 ?_
        refine x_goto (μ := mu_x1_compare) (pc := 174) (tgt := 178) dX1_compare_174 rfl ?_
        refine x_callV_mv (μ := mu_x1_compare) (pc := 178) (ok_x5_is (ω := ω) (l := l) (d := d - 1) hl (by omega) (by decide)) gRel_E gRel_E (fun _ q => q) q1096 q1036 q1037 q225 q1038 dX1_compare_178 rfl (gT_E k6 (gT_E k3 hT1 (by decide)) (by decide)) hy_x5_is (by omega) (Nat.le_of_ble_eq_true rfl) rfl (Nat.le_of_ble_eq_true rfl) (fun x36 k37 => ?_)
        refine x_goto (μ := mu_x1_compare) (pc := 181) (tgt := 197) dX1_compare_181 rfl ?_
        exact x_vret (μ := mu_x1_compare) (pc := 197) (a1 := x36) dX1_compare_197 rfl rfl (gRel_E.1 _) trivial
    refine x_tabOut (μ := mu_x1_compare) (pc := 70) (tgt := 184) dX1_compare_70 hr12 (by omega) rfl ?_
    refine x_aload_n (μ := mu_x1_compare) (pc := 184) 2 dX1_compare_184 rfl ?_
    refine x_iload_n (μ := mu_x1_compare) (pc := 185) 0 dX1_compare_185 rfl ?_
    refine x_if_lt (μ := mu_x1_compare) (pc := 186) (tgt := 193) dX1_compare_186 rfl hr10 ?_ ?_
    · refine x_iconst (μ := mu_x1_compare) (pc := 193) dX1_compare_193 ?_
      refine x_callV_mv (μ := mu_x1_compare) (pc := 194) (ok_x5_is (ω := ω) (l := l) (d := d - 1) hl (by omega) (by decide)) gRel_E gRel_E (fun _ q => q) q1096 q1036 q1037 q225 q1038 dX1_compare_194 rfl (gT_E k6 (gT_E k3 hT1 (by decide)) (by decide)) hy_x5_is (by omega) (Nat.le_of_ble_eq_true rfl) rfl (Nat.le_of_ble_eq_true rfl) (fun x38 k39 => ?_)
      exact x_vret (μ := mu_x1_compare) (pc := 197) (a1 := x38) dX1_compare_197 rfl rfl (gRel_E.1 _) trivial
    · refine x_iconst (μ := mu_x1_compare) (pc := 189) dX1_compare_189 ?_
      refine x_goto (μ := mu_x1_compare) (pc := 190) (tgt := 194) dX1_compare_190 rfl ?_
      refine x_callV_mv (μ := mu_x1_compare) (pc := 194) (ok_x5_is (ω := ω) (l := l) (d := d - 1) hl (by omega) (by decide)) gRel_E gRel_E (fun _ q => q) q1096 q1036 q1037 q225 q1038 dX1_compare_194 rfl (gT_E k6 (gT_E k3 hT1 (by decide)) (by decide)) hy_x5_is (by omega) (Nat.le_of_ble_eq_true rfl) rfl (Nat.le_of_ble_eq_true rfl) (fun x40 k41 => ?_)
      exact x_vret (μ := mu_x1_compare) (pc := 197) (a1 := x40) dX1_compare_197 rfl rfl (gRel_E.1 _) trivial
  · refine x_aload_n (μ := mu_x1_compare) (pc := 21) 0 dX1_compare_21 rfl ?_
    refine x_gst (μ := mu_x1_compare) (pc := 22) (j := 20) (List.mem_of_getElem? (i := 18) rfl) q1092 dX1_compare_22 ?_
    refine x_acmp_eq (μ := mu_x1_compare) (pc := 25) (tgt := 35) dX1_compare_25 rfl ?_ ?_
    · refine x_loc (lv' := [(0, vR v0), (1, vR v1)]) [0, 1] rfl ?_
      exact okj_x1_compare_j35 hl hdp
    · refine x_aload_n (μ := mu_x1_compare) (pc := 28) 0 dX1_compare_28 rfl ?_
      refine x_gst (μ := mu_x1_compare) (pc := 29) (j := 21) (List.mem_of_getElem? (i := 19) rfl) q1094 dX1_compare_29 ?_
      refine x_acmp_ne (μ := mu_x1_compare) (pc := 32) (tgt := 54) dX1_compare_32 rfl ?_ ?_
      · refine x_aload_n (μ := mu_x1_compare) (pc := 54) 1 dX1_compare_54 rfl ?_
        refine x_iconst (μ := mu_x1_compare) (pc := 55) dX1_compare_55 ?_
        refine x_callV_mv (μ := mu_x1_compare) (pc := 56) (ok_x5_fail (ω := ω) (l := l) (d := d - 1) hl (by omega) (by decide)) gRel_E gRel_E (fun _ q => q) q1097 q969 q970 q225 q971 dX1_compare_56 rfl (gT_E k6 (gT_E k3 hT1 (by decide)) (by decide)) hy_x5_fail (by omega) (Nat.le_of_ble_eq_true rfl) rfl (Nat.le_of_ble_eq_true rfl) (fun x48 k49 => ?_)
        exact x_vret (μ := mu_x1_compare) (pc := 59) (a1 := x48) dX1_compare_59 rfl rfl (gRel_E.1 _) trivial
      · refine x_loc (lv' := [(0, vR v0), (1, vR v1)]) [0, 1] rfl ?_
        exact okj_x1_compare_j35 hl hdp
def x1_step_j47 (N : Nat) (v0 : Nat) (s : gMem) : Option gMem := if mT s v0 = 1 then if mT s (mR s v0 8) = 8 then (x9_twin N (mR s v0 8) s).bind (fun x6 => if mT (x6.2) (mR s v0 11) = 105 then if x6.1 = 0 ∨ gAsg 5 (mT (x6.2) (x6.1)) = true then if 0 ≤ (mI s v0 13) ∧ (mI s v0 13) < (mN (x6.2) (mR s v0 11) : Int) then gLet (wR (x6.2) (mR s v0 11) (mI s v0 13).toNat (x6.1)) (fun s10 => gLet (wI s10 v0 13 (w32 ((mI s10 v0 13) + 1))) (fun s13 => gLet (wI s13 v0 14 0) (fun s15 => gLet (wI s15 v0 10 0) (fun s17 => some s17)))) else none else none else none) else none else none
set_option maxRecDepth 100000 in
theorem okj_x1_step_j47 {ω : gW} {l : Launch} {d : Nat} {N : Nat} {σ0 : gMem} {s : gMem} {v0 : Nat} (hl : l.stackTraces = false) (hdp : 3 ≤ d) : GG (fun p : gMem => (.inl none, p)) gE ω l d mu_x1_step σ0 47 [(0, vR v0)] [] s (x1_step_j47 N v0 s) := by
  unfold x1_step_j47
  refine x_aload_n (μ := mu_x1_step) (pc := 47) 0 dX1_step_47 rfl ?_
  refine x_if (fun hT3 => ?_)
  refine x_fgr (μ := mu_x1_step) (pc := 48) fX1_11 (by first | exact Or.inl ⟨_, rfl⟩ | exact Or.inr ⟨_, rfl⟩) q656 dX1_step_48 hT3 ?_
  refine x_aload_n (μ := mu_x1_step) (pc := 51) 0 dX1_step_51 rfl ?_
  refine x_fgi (μ := mu_x1_step) (pc := 52) fX1_13 q658 dX1_step_52 hT3 (fun hr4 => ?_)
  refine x_aload_n (μ := mu_x1_step) (pc := 55) 0 dX1_step_55 rfl ?_
  refine x_fgr (μ := mu_x1_step) (pc := 56) fX1_8 (by first | exact Or.inl ⟨_, rfl⟩ | exact Or.inr ⟨_, rfl⟩) q653 dX1_step_56 hT3 ?_
  refine x_if (fun hT5 => ?_)
  refine x_callV_mr (μ := mu_x1_step) (pc := 59) (ok_x9_twin (ω := ω) (l := l) (d := d - 1) hl (by omega) ) gRel_E gRel_E (fun _ q => q) q623 q624 q625 q230 q626 dX1_step_59 rfl hT5 hy_x9_twin (by omega) (Nat.le_of_ble_eq_true rfl) rfl (Nat.le_of_ble_eq_true rfl) (fun x6 k7 => ?_)
  refine x_if (fun hT8 => ?_)
  refine x_if (fun hz9 => ?_)
  refine x_aast (μ := mu_x1_step) (pc := 62) 5 ⟨fun _ => rfl, rfl, rfl⟩ dX1_step_62 hT8 rfl hz9 (fun _ _ q => gE_wR q) ?_
  refine x_let (fun s10 e11 => ?_)
  refine x_aload_n (μ := mu_x1_step) (pc := 63) 0 dX1_step_63 rfl ?_
  refine x_dup (μ := mu_x1_step) (pc := 64) dX1_step_64 rfl ?_
  refine x_fgi (μ := mu_x1_step) (pc := 65) fX1_13 q658 dX1_step_65 (gT_R e11 (gT_E k7 hT3 (by decide))) (fun hr12 => ?_)
  refine x_iconst (μ := mu_x1_step) (pc := 68) dX1_step_68 ?_
  refine x_iadd (μ := mu_x1_step) (pc := 69) dX1_step_69 ?_
  refine x_w1 ?_
  refine x_fpi (μ := mu_x1_step) (pc := 70) fX1_13 q658 dX1_step_70 (gT_R e11 (gT_E k7 hT3 (by decide))) (fun _ q => gE_wI q) ?_
  refine x_let (fun s13 e14 => ?_)
  refine x_aload_n (μ := mu_x1_step) (pc := 73) 0 dX1_step_73 rfl ?_
  refine x_iconst (μ := mu_x1_step) (pc := 74) dX1_step_74 ?_
  refine x_fpi (μ := mu_x1_step) (pc := 75) fX1_14 q659 dX1_step_75 (gT_I e14 (gT_R e11 (gT_E k7 hT3 (by decide)))) (fun _ q => gE_wI q) ?_
  refine x_let (fun s15 e16 => ?_)
  refine x_aload_n (μ := mu_x1_step) (pc := 78) 0 dX1_step_78 rfl ?_
  refine x_iconst (μ := mu_x1_step) (pc := 79) dX1_step_79 ?_
  refine x_fpz (μ := mu_x1_step) (pc := 80) fX1_10 q655 (by decide) dX1_step_80 (gT_I e16 (gT_I e14 (gT_R e11 (gT_E k7 hT3 (by decide))))) (fun _ q => gE_wI q) ?_
  refine x_let (fun s17 e18 => ?_)
  exact x_vret (μ := mu_x1_step) (pc := 83) (a1 := s17) dX1_step_83 rfl rfl (gRel_E.1 _) trivial
def x1_step_l11 (N : Nat) (v0 : Nat) (K : gMem → Option gMem) : Nat → Int → gMem → Option gMem
  | 0, _, _ => none
  | n + 1, v1, s => if 40 ≤ v1 then K s else if mT s v0 = 1 then if mT s (mR s v0 11) = 105 then if 0 ≤ v1 ∧ v1 < (mN s (mR s v0 11) : Int) then if mR s (mR s v0 11) v1.toNat = 0 ∨ gAsg 5 (mT s (mR s (mR s v0 11) v1.toNat)) = true then if 0 ≤ (v1 - 1) ∧ (v1 - 1) < (mN s (mR s v0 11) : Int) then gLet (wR s (mR s v0 11) (v1 - 1).toNat (mR s (mR s v0 11) v1.toNat)) (fun s22 => x1_step_l11 N v0 K n (w32 (v1 + 1)) s22) else none else none else none else none else none
set_option maxRecDepth 100000 in
theorem okl_x1_step_l11 {ω : gW} {l : Launch} {d : Nat} {N : Nat} {σ0 : gMem} {v0 : Nat} {K : gMem → Option gMem} (hl : l.stackTraces = false) (hdp : 3 ≤ d) (hK : ∀ (s : gMem) , GG (fun p : gMem => (.inl none, p)) gE ω l d mu_x1_step σ0 37 [(0, vR v0)] [] s (K s)) : ∀ (n : Nat) (v1 : Int) (s : gMem) , g32 v1 → GG (fun p : gMem => (.inl none, p)) gE ω l d mu_x1_step σ0 11 [(0, vR v0), (1, vI v1)] [] s (x1_step_l11 N v0 K n v1 s) := by
  intro n
  induction n with
  | zero => intros; exact x_none
  | succ n ih =>
    intro v1 s hv1
    unfold x1_step_l11
    refine x_iload_n (μ := mu_x1_step) (pc := 11) 1 dX1_step_11 rfl ?_
    refine x_bipush (μ := mu_x1_step) (pc := 12) dX1_step_12 (by decide) ?_
    refine x_icmp_ge (μ := mu_x1_step) (pc := 14) (tgt := 37) dX1_step_14 rfl hv1 (by decide) ?_ ?_
    · refine x_loc (lv' := [(0, vR v0)]) [0] rfl ?_
      exact hK s
    · refine x_aload_n (μ := mu_x1_step) (pc := 17) 0 dX1_step_17 rfl ?_
      refine x_if (fun hT19 => ?_)
      refine x_fgr (μ := mu_x1_step) (pc := 18) fX1_11 (by first | exact Or.inl ⟨_, rfl⟩ | exact Or.inr ⟨_, rfl⟩) q656 dX1_step_18 hT19 ?_
      refine x_iload_n (μ := mu_x1_step) (pc := 21) 1 dX1_step_21 rfl ?_
      refine x_iconst (μ := mu_x1_step) (pc := 22) dX1_step_22 ?_
      refine x_isub (μ := mu_x1_step) (pc := 23) dX1_step_23 ?_
      refine x_aload_n (μ := mu_x1_step) (pc := 24) 0 dX1_step_24 rfl ?_
      refine x_fgr (μ := mu_x1_step) (pc := 25) fX1_11 (by first | exact Or.inl ⟨_, rfl⟩ | exact Or.inr ⟨_, rfl⟩) q656 dX1_step_25 hT19 ?_
      refine x_iload_n (μ := mu_x1_step) (pc := 28) 1 dX1_step_28 rfl ?_
      refine x_if (fun hT20 => ?_)
      refine x_aald (μ := mu_x1_step) (pc := 29) 5 (fun _ => rfl) rfl rfl dX1_step_29 hT20 rfl ?_
      refine x_if (fun hz21 => ?_)
      refine x_aast (μ := mu_x1_step) (pc := 30) 5 ⟨fun _ => rfl, rfl, rfl⟩ dX1_step_30 hT20 rfl hz21 (fun _ _ q => gE_wR q) ?_
      refine x_let (fun s22 e23 => ?_)
      refine x_iincw (μ := mu_x1_step) (pc := 31) (lv' := [(1, vI (w32 (v1 + 1))), (0, vR v0)]) 1 dX1_step_31 rfl (by decide) rfl ?_
      refine x_goto (μ := mu_x1_step) (pc := 34) (tgt := 11) dX1_step_34 rfl ?_
      refine x_loc (lv' := [(0, vR v0), (1, vI (w32 (v1 + 1)))]) [1, 0] rfl ?_
      exact ih (w32 (v1 + 1)) s22 (w32_rng _)
def x1_step (N : Nat) (v0 : Nat) (σ : gMem) : Option gMem := if mT σ v0 = 1 then if mI σ v0 13 ≠ 40 then x1_step_j47 N v0  σ else x1_step_l11 N v0 (fun s24 => if mT s24 v0 = 1 then gLet (wI s24 v0 13 (w32 ((mI s24 v0 13) - 1))) (fun s27 => x1_step_j47 N v0  s27) else none) N 1 σ else none
set_option maxRecDepth 100000 in
theorem ok_x1_step {ω : gW} {l : Launch} {d : Nat} {N : Nat} {σ : gMem} {v0 : Nat} (hl : l.stackTraces = false) (hdp : 3 ≤ d) : gK (fun p : gMem => (.inl none, p)) gE ω l d mu_x1_step [vR v0] σ (x1_step N v0 σ) := by
  refine gK.of hp_X1 (Nat.le_of_ble_eq_true rfl) ?_
  unfold x1_step
  refine x_aload_n (μ := mu_x1_step) (pc := 0) 0 dX1_step_0 rfl ?_
  refine x_if (fun hT1 => ?_)
  refine x_fgi (μ := mu_x1_step) (pc := 1) fX1_13 q658 dX1_step_1 hT1 (fun hr2 => ?_)
  refine x_bipush (μ := mu_x1_step) (pc := 4) dX1_step_4 (by decide) ?_
  refine x_icmp_ne (μ := mu_x1_step) (pc := 6) (tgt := 47) dX1_step_6 rfl hr2 (by decide) ?_ ?_
  · exact okj_x1_step_j47 hl hdp
  · refine x_iconst (μ := mu_x1_step) (pc := 9) dX1_step_9 ?_
    refine x_istore_n (μ := mu_x1_step) (pc := 10) (lv' := [(1, vI 1), (0, vR v0)]) dX1_step_10 rfl (by decide) rfl ?_
    refine x_loc (lv' := [(0, vR v0), (1, vI 1)]) [1, 0] rfl ?_
    refine okl_x1_step_l11 hl hdp (fun s24 => ?_) N 1 σ (by decide)
    refine x_aload_n (μ := mu_x1_step) (pc := 37) 0 dX1_step_37 rfl ?_
    refine x_dup (μ := mu_x1_step) (pc := 38) dX1_step_38 rfl ?_
    refine x_if (fun hT25 => ?_)
    refine x_fgi (μ := mu_x1_step) (pc := 39) fX1_13 q658 dX1_step_39 hT25 (fun hr26 => ?_)
    refine x_iconst (μ := mu_x1_step) (pc := 42) dX1_step_42 ?_
    refine x_isub (μ := mu_x1_step) (pc := 43) dX1_step_43 ?_
    refine x_w1 ?_
    refine x_fpi (μ := mu_x1_step) (pc := 44) fX1_13 q658 dX1_step_44 hT25 (fun _ q => gE_wI q) ?_
    refine x_let (fun s27 e28 => ?_)
    exact okj_x1_step_j47 hl hdp
def x1_erase_l32_j62 (N : Nat) (v0 : Nat) (v2 : Int) (v3 : Int) (v4 : Int) (v6 : Int) (v7 : Int) (t0 : Int) (t1 : Int) (Kh : Int → Int → gMem → Option gR) (K : Int → gMem → Option gR) (s : gMem) : Option gR := if mT s v0 = 1 then if mT s (mR s v0 8) = 8 then if mT s (mR s (mR s v0 8) 2) = 111 then if 0 ≤ v6 ∧ v6 < (mN s (mR s (mR s v0 8) 2) : Int) then if mT s (mR s (mR s (mR s v0 8) 2) v6.toNat) = 110 then if 0 = 0 ∨ gAsg 10 (mT s 0) = true then if 0 ≤ v7 ∧ v7 < (mN s (mR s (mR s (mR s v0 8) 2) v6.toNat) : Int) then gLet (wR s (mR s (mR s (mR s v0 8) 2) v6.toNat) v7.toNat 0) (fun s16 => Kh (w32 (t1 + t0)) (w32 (v7 + 1)) s16) else none else none else none else none else none else none else none
set_option maxRecDepth 100000 in
theorem okj_x1_erase_l32_j62 {ω : gW} {l : Launch} {d : Nat} {N : Nat} {σ0 : gMem} {s : gMem} {v0 : Nat} {v2 : Int} {v3 : Int} {v4 : Int} {v6 : Int} {v7 : Int} {t0 : Int} {t1 : Int} {Kh : Int → Int → gMem → Option gR} {K : Int → gMem → Option gR} (hl : l.stackTraces = false) (hdp : 9 ≤ d) (hv2 : g32 v2) (hv3 : g32 v3) (hv4 : g32 v4) (hv6 : g32 v6) (hv7 : g32 v7) (ht0 : g32 t0) (ht1 : g32 t1) (hKh : ∀ (v5 : Int) (v7 : Int) (s : gMem) , g32 v5 → g32 v7 → GG (fun p : gR => p) gE ω l d mu_x1_erase σ0 32 [(0, vR v0), (2, vI v2), (3, vI v3), (4, vI v4), (5, vI v5), (6, vI v6), (7, vI v7)] [] s (Kh v5 v7 s)) (hK : ∀ (v5 : Int) (s : gMem) , g32 v5 → GG (fun p : gR => p) gE ω l d mu_x1_erase σ0 85 [(0, vR v0), (2, vI v2), (3, vI v3), (4, vI v4), (5, vI v5), (6, vI v6)] [] s (K v5 s)) : GG (fun p : gR => p) gE ω l d mu_x1_erase σ0 62 [(0, vR v0), (2, vI v2), (3, vI v3), (4, vI v4), (6, vI v6), (7, vI v7)] [vI t0, vI t1] s (x1_erase_l32_j62 N v0 v2 v3 v4 v6 v7 t0 t1 Kh K s) := by
  unfold x1_erase_l32_j62
  refine x_iadd (μ := mu_x1_erase) (pc := 62) dX1_erase_62 ?_
  refine x_w1 ?_
  refine x_istore (μ := mu_x1_erase) (pc := 63) (lv' := [(5, vI (w32 (t1 + t0))), (0, vR v0), (2, vI v2), (3, vI v3), (4, vI v4), (6, vI v6), (7, vI v7)]) dX1_erase_63 (by decide) rfl ?_
  refine x_aload_n (μ := mu_x1_erase) (pc := 65) 1 dX1_erase_65 rfl ?_
  refine x_if (fun hT11 => ?_)
  refine x_fgr (μ := mu_x1_erase) (pc := 66) fX1_8 (by first | exact Or.inl ⟨_, rfl⟩ | exact Or.inr ⟨_, rfl⟩) q653 dX1_erase_66 hT11 ?_
  refine x_if (fun hT12 => ?_)
  refine x_fgrN (μ := mu_x1_erase) (pc := 69) fX9_2 (by first | exact Or.inl ⟨_, rfl⟩ | exact Or.inr ⟨_, rfl⟩) q582 dX1_erase_69 hT12 ?_
  refine x_iload (μ := mu_x1_erase) (pc := 72) 5 dX1_erase_72 rfl ?_
  refine x_if (fun hT13 => ?_)
  refine x_aald (μ := mu_x1_erase) (pc := 74) 11 (fun _ => rfl) rfl rfl dX1_erase_74 hT13 rfl ?_
  refine x_iload (μ := mu_x1_erase) (pc := 75) 6 dX1_erase_75 rfl ?_
  refine x_null (μ := mu_x1_erase) (pc := 77) dX1_erase_77 ?_
  refine x_if (fun hT14 => ?_)
  refine x_if (fun hz15 => ?_)
  refine x_aast (μ := mu_x1_erase) (pc := 78) 10 ⟨fun _ => rfl, rfl, rfl⟩ dX1_erase_78 hT14 rfl hz15 (fun _ _ q => gE_wR q) ?_
  refine x_let (fun s16 e17 => ?_)
  refine x_iincw (μ := mu_x1_erase) (pc := 79) (lv' := [(7, vI (w32 (v7 + 1))), (5, vI (w32 (t1 + t0))), (0, vR v0), (2, vI v2), (3, vI v3), (4, vI v4), (6, vI v6)]) 6 dX1_erase_79 rfl (by decide) rfl ?_
  refine x_goto (μ := mu_x1_erase) (pc := 82) (tgt := 32) dX1_erase_82 rfl ?_
  refine x_loc (lv' := [(0, vR v0), (2, vI v2), (3, vI v3), (4, vI v4), (5, vI (w32 (t1 + t0))), (6, vI v6), (7, vI (w32 (v7 + 1)))]) [2, 3, 4, 5, 1, 6, 0] rfl ?_
  exact hKh (w32 (t1 + t0)) (w32 (v7 + 1)) s16 (w32_rng _) (w32_rng _)
def x1_erase_l32 (N : Nat) (v0 : Nat) (v2 : Int) (v3 : Int) (v4 : Int) (v6 : Int) (K : Int → gMem → Option gR) : Nat → Int → Int → gMem → Option gR
  | 0, _, _, _ => none
  | n + 1, v5, v7, s => if v4 ≤ v7 then K v5 s else if mT s v0 = 1 then if mT s (mR s v0 8) = 8 then if mT s (mR s (mR s v0 8) 2) = 111 then if 0 ≤ v6 ∧ v6 < (mN s (mR s (mR s v0 8) 2) : Int) then if mT s (mR s (mR s (mR s v0 8) 2) v6.toNat) = 110 then if 0 ≤ v7 ∧ v7 < (mN s (mR s (mR s (mR s v0 8) 2) v6.toNat) : Int) then if mR s (mR s (mR s (mR s v0 8) 2) v6.toNat) v7.toNat ≠ 0 then x1_erase_l32_j62 N v0 v2 v3 v4 v6 v7 1 v5 (x1_erase_l32 N v0 v2 v3 v4 v6 K n) K s else x1_erase_l32_j62 N v0 v2 v3 v4 v6 v7 0 v5 (x1_erase_l32 N v0 v2 v3 v4 v6 K n) K s else none else none else none else none else none else none
set_option maxRecDepth 100000 in
theorem okl_x1_erase_l32 {ω : gW} {l : Launch} {d : Nat} {N : Nat} {σ0 : gMem} {v0 : Nat} {v2 : Int} {v3 : Int} {v4 : Int} {v6 : Int} {K : Int → gMem → Option gR} (hl : l.stackTraces = false) (hdp : 9 ≤ d) (hv2 : g32 v2) (hv3 : g32 v3) (hv4 : g32 v4) (hv6 : g32 v6) (hK : ∀ (v5 : Int) (s : gMem) , g32 v5 → GG (fun p : gR => p) gE ω l d mu_x1_erase σ0 85 [(0, vR v0), (2, vI v2), (3, vI v3), (4, vI v4), (5, vI v5), (6, vI v6)] [] s (K v5 s)) : ∀ (n : Nat) (v5 : Int) (v7 : Int) (s : gMem) , g32 v5 → g32 v7 → GG (fun p : gR => p) gE ω l d mu_x1_erase σ0 32 [(0, vR v0), (2, vI v2), (3, vI v3), (4, vI v4), (5, vI v5), (6, vI v6), (7, vI v7)] [] s (x1_erase_l32 N v0 v2 v3 v4 v6 K n v5 v7 s) := by
  intro n
  induction n with
  | zero => intros; exact x_none
  | succ n ih =>
    intro v5 v7 s hv5 hv7
    unfold x1_erase_l32
    refine x_iload (μ := mu_x1_erase) (pc := 32) 6 dX1_erase_32 rfl ?_
    refine x_iload (μ := mu_x1_erase) (pc := 34) 3 dX1_erase_34 rfl ?_
    refine x_icmp_ge (μ := mu_x1_erase) (pc := 36) (tgt := 85) dX1_erase_36 rfl hv7 hv4 ?_ ?_
    · refine x_loc (lv' := [(0, vR v0), (2, vI v2), (3, vI v3), (4, vI v4), (5, vI v5), (6, vI v6)]) [0, 1, 2, 3, 4, 5] rfl ?_
      exact hK v5 s hv5
    · refine x_iload (μ := mu_x1_erase) (pc := 39) 4 dX1_erase_39 rfl ?_
      refine x_aload_n (μ := mu_x1_erase) (pc := 41) 0 dX1_erase_41 rfl ?_
      refine x_if (fun hT7 => ?_)
      refine x_fgr (μ := mu_x1_erase) (pc := 42) fX1_8 (by first | exact Or.inl ⟨_, rfl⟩ | exact Or.inr ⟨_, rfl⟩) q653 dX1_erase_42 hT7 ?_
      refine x_if (fun hT8 => ?_)
      refine x_fgrN (μ := mu_x1_erase) (pc := 45) fX9_2 (by first | exact Or.inl ⟨_, rfl⟩ | exact Or.inr ⟨_, rfl⟩) q582 dX1_erase_45 hT8 ?_
      refine x_iload (μ := mu_x1_erase) (pc := 48) 5 dX1_erase_48 rfl ?_
      refine x_if (fun hT9 => ?_)
      refine x_aald (μ := mu_x1_erase) (pc := 50) 11 (fun _ => rfl) rfl rfl dX1_erase_50 hT9 rfl ?_
      refine x_iload (μ := mu_x1_erase) (pc := 51) 6 dX1_erase_51 rfl ?_
      refine x_if (fun hT10 => ?_)
      refine x_aald (μ := mu_x1_erase) (pc := 53) 10 (fun _ => rfl) rfl rfl dX1_erase_53 hT10 rfl ?_
      refine x_ifnonnull (μ := mu_x1_erase) (pc := 54) (tgt := 61) dX1_erase_54 rfl ?_ ?_
      · refine x_iconst (μ := mu_x1_erase) (pc := 61) dX1_erase_61 ?_
        refine x_loc (lv' := [(0, vR v0), (2, vI v2), (3, vI v3), (4, vI v4), (6, vI v6), (7, vI v7)]) [0, 1, 2, 3, 5, 6] rfl ?_
        exact okj_x1_erase_l32_j62 hl hdp hv2 hv3 hv4 hv6 hv7 (by decide) hv5 ih hK
      · refine x_iconst (μ := mu_x1_erase) (pc := 57) dX1_erase_57 ?_
        refine x_goto (μ := mu_x1_erase) (pc := 58) (tgt := 62) dX1_erase_58 rfl ?_
        refine x_loc (lv' := [(0, vR v0), (2, vI v2), (3, vI v3), (4, vI v4), (6, vI v6), (7, vI v7)]) [0, 1, 2, 3, 5, 6] rfl ?_
        exact okj_x1_erase_l32_j62 hl hdp hv2 hv3 hv4 hv6 hv7 (by decide) hv5 ih hK
def x1_erase_l21 (N : Nat) (v0 : Nat) (v2 : Int) (v3 : Int) (v4 : Int) (K : Int → gMem → Option gR) : Nat → Int → Int → gMem → Option gR
  | 0, _, _, _ => none
  | n + 1, v5, v6, s => if v3 ≤ v6 then K v5 s else x1_erase_l32 N v0 v2 v3 v4 v6 (fun y18 s19 => x1_erase_l21 N v0 v2 v3 v4 K n y18 (w32 (v6 + 1)) s19) N v5 (w32 (v2 - 1)) s
set_option maxRecDepth 100000 in
theorem okl_x1_erase_l21 {ω : gW} {l : Launch} {d : Nat} {N : Nat} {σ0 : gMem} {v0 : Nat} {v2 : Int} {v3 : Int} {v4 : Int} {K : Int → gMem → Option gR} (hl : l.stackTraces = false) (hdp : 9 ≤ d) (hv2 : g32 v2) (hv3 : g32 v3) (hv4 : g32 v4) (hK : ∀ (v5 : Int) (s : gMem) , g32 v5 → GG (fun p : gR => p) gE ω l d mu_x1_erase σ0 91 [(5, vI v5)] [] s (K v5 s)) : ∀ (n : Nat) (v5 : Int) (v6 : Int) (s : gMem) , g32 v5 → g32 v6 → GG (fun p : gR => p) gE ω l d mu_x1_erase σ0 21 [(0, vR v0), (2, vI v2), (3, vI v3), (4, vI v4), (5, vI v5), (6, vI v6)] [] s (x1_erase_l21 N v0 v2 v3 v4 K n v5 v6 s) := by
  intro n
  induction n with
  | zero => intros; exact x_none
  | succ n ih =>
    intro v5 v6 s hv5 hv6
    unfold x1_erase_l21
    refine x_iload (μ := mu_x1_erase) (pc := 21) 5 dX1_erase_21 rfl ?_
    refine x_iload_n (μ := mu_x1_erase) (pc := 23) 2 dX1_erase_23 rfl ?_
    refine x_icmp_ge (μ := mu_x1_erase) (pc := 24) (tgt := 91) dX1_erase_24 rfl hv6 hv3 ?_ ?_
    · refine x_loc (lv' := [(5, vI v5)]) [4] rfl ?_
      exact hK v5 s hv5
    · refine x_iload_n (μ := mu_x1_erase) (pc := 27) 1 dX1_erase_27 rfl ?_
      refine x_iconst (μ := mu_x1_erase) (pc := 28) dX1_erase_28 ?_
      refine x_isub (μ := mu_x1_erase) (pc := 29) dX1_erase_29 ?_
      refine x_w1 ?_
      refine x_istore (μ := mu_x1_erase) (pc := 30) (lv' := [(7, vI (w32 (v2 - 1))), (0, vR v0), (2, vI v2), (3, vI v3), (4, vI v4), (5, vI v5), (6, vI v6)]) dX1_erase_30 (by decide) rfl ?_
      refine x_loc (lv' := [(0, vR v0), (2, vI v2), (3, vI v3), (4, vI v4), (5, vI v5), (6, vI v6), (7, vI (w32 (v2 - 1)))]) [1, 2, 3, 4, 5, 6, 0] rfl ?_
      refine okl_x1_erase_l32 hl hdp hv2 hv3 hv4 hv6 (fun y18 s19 hy18 => ?_) N v5 (w32 (v2 - 1)) s hv5 (w32_rng _)
      refine x_iincw (μ := mu_x1_erase) (pc := 85) (lv' := [(6, vI (w32 (v6 + 1))), (0, vR v0), (2, vI v2), (3, vI v3), (4, vI v4), (5, vI y18)]) 5 dX1_erase_85 rfl (by decide) rfl ?_
      refine x_goto (μ := mu_x1_erase) (pc := 88) (tgt := 21) dX1_erase_88 rfl ?_
      refine x_loc (lv' := [(0, vR v0), (2, vI v2), (3, vI v3), (4, vI v4), (5, vI y18), (6, vI (w32 (v6 + 1)))]) [1, 2, 3, 4, 5, 0] rfl ?_
      exact ih y18 (w32 (v6 + 1)) s19 hy18 (w32_rng _)
def x1_erase (N : Nat) (v0 : Nat) (v1 : Int) (v2 : Int) (v3 : Int) (v4 : Int) (σ : gMem) : Option gR := if mT σ v0 = 1 then (x1_look v0 v1 v2 v3 v4 σ).bind (fun p => gThrV p (fun s4 => (x1_step N v0 s4).bind (fun x5 => x1_erase_l21 N v0 v2 v3 v4 (fun y20 s21 => some (.inl (some (vI y20)), s21)) N 0 (w32 (v1 - 1)) x5))) else none
set_option maxRecDepth 100000 in
theorem ok_x1_erase {ω : gW} {l : Launch} {d : Nat} {N : Nat} {σ : gMem} {v0 : Nat} {v1 : Int} {v2 : Int} {v3 : Int} {v4 : Int} (hl : l.stackTraces = false) (hdp : 9 ≤ d) (hv1 : g32 v1) (hv2 : g32 v2) (hv3 : g32 v3) (hv4 : g32 v4) : gK (fun p : gR => p) gE ω l d mu_x1_erase [vR v0, vI v1, vI v2, vI v3, vI v4] σ (x1_erase N v0 v1 v2 v3 v4 σ) := by
  refine gK.of hp_X1 (Nat.le_of_ble_eq_true rfl) ?_
  unfold x1_erase
  refine x_aload_n (μ := mu_x1_erase) (pc := 0) 0 dX1_erase_0 rfl ?_
  refine x_iload_n (μ := mu_x1_erase) (pc := 1) 1 dX1_erase_1 rfl ?_
  refine x_iload_n (μ := mu_x1_erase) (pc := 2) 2 dX1_erase_2 rfl ?_
  refine x_iload_n (μ := mu_x1_erase) (pc := 3) 3 dX1_erase_3 rfl ?_
  refine x_iload (μ := mu_x1_erase) (pc := 4) 4 dX1_erase_4 rfl ?_
  refine x_if (fun hT1 => ?_)
  refine x_callV_xv (μ := mu_x1_erase) (pc := 6) (ok_x1_look (ω := ω) (l := l) (d := d - 1) hl (by omega) hv1 hv2 hv3 hv4) q2187 q2189 qs61 q221 q2190 dX1_erase_6 rfl hT1 hy_x1_look (by omega) (Nat.le_of_ble_eq_true rfl) rfl (Nat.le_of_ble_eq_true rfl) (by decide) (fun s4 k3 => ?_)
  refine x_aload_n (μ := mu_x1_erase) (pc := 9) 0 dX1_erase_9 rfl ?_
  refine x_callV_mv (μ := mu_x1_erase) (pc := 10) (ok_x1_step (ω := ω) (l := l) (d := d - 1) hl (by omega) ) gRel_E gRel_E (fun _ q => q) q2176 q2178 qs60 q221 q2179 dX1_erase_10 rfl (gT_E k3 hT1 (by decide)) hy_x1_step (by omega) (Nat.le_of_ble_eq_true rfl) rfl (Nat.le_of_ble_eq_true rfl) (fun x5 k6 => ?_)
  refine x_iconst (μ := mu_x1_erase) (pc := 13) dX1_erase_13 ?_
  refine x_istore (μ := mu_x1_erase) (pc := 14) (lv' := [(5, vI 0), (0, vR v0), (1, vI v1), (2, vI v2), (3, vI v3), (4, vI v4)]) dX1_erase_14 (by decide) rfl ?_
  refine x_iload_n (μ := mu_x1_erase) (pc := 16) 2 dX1_erase_16 rfl ?_
  refine x_iconst (μ := mu_x1_erase) (pc := 17) dX1_erase_17 ?_
  refine x_isub (μ := mu_x1_erase) (pc := 18) dX1_erase_18 ?_
  refine x_w1 ?_
  refine x_istore (μ := mu_x1_erase) (pc := 19) (lv' := [(6, vI (w32 (v1 - 1))), (5, vI 0), (0, vR v0), (1, vI v1), (2, vI v2), (3, vI v3), (4, vI v4)]) dX1_erase_19 (by decide) rfl ?_
  refine x_loc (lv' := [(0, vR v0), (2, vI v2), (3, vI v3), (4, vI v4), (5, vI 0), (6, vI (w32 (v1 - 1)))]) [2, 4, 5, 6, 1, 0] rfl ?_
  refine okl_x1_erase_l21 hl hdp hv2 hv3 hv4 (fun y20 s21 hy20 => ?_) N 0 (w32 (v1 - 1)) x5 (by decide) (w32_rng _)
  refine x_iload (μ := mu_x1_erase) (pc := 91) 0 dX1_erase_91 rfl ?_
  exact x_iret (μ := mu_x1_erase) (pc := 93) (a1 := ((.inl (some (vI y20)), s21) : gR)) dX1_erase_93 rfl rfl (gRel_E.1 _) (show g32 y20 from hy20)
def x1_against_j127 (N : Nat) (v4 : Int) (v5 : Int) (t0 : Int) (s : gMem) : Option (Int × gMem) := if v4 = 0 then some (v5, s) else if t0 ≠ 0 then some (v5, s) else some (w32 (-v5), s)
set_option maxRecDepth 100000 in
theorem okj_x1_against_j127 {ω : gW} {l : Launch} {d : Nat} {N : Nat} {σ0 : gMem} {s : gMem} {v4 : Int} {v5 : Int} {t0 : Int} (hl : l.stackTraces = false) (hdp : 2 ≤ d) (hv4 : g32 v4) (hv5 : g32 v5) (ht0 : g32 t0) : GG (fun p : Int × gMem => (.inl (some (vI p.1)), p.2)) gE ω l d mu_x1_against σ0 127 [(4, vI v4), (5, vI v5)] [vI t0] s (x1_against_j127 N v4 v5 t0 s) := by
  unfold x1_against_j127
  refine x_istore (μ := mu_x1_against) (pc := 127) (lv' := [(6, vI t0), (4, vI v4), (5, vI v5)]) dX1_against_127 (by decide) rfl ?_
  refine x_iload (μ := mu_x1_against) (pc := 129) 1 dX1_against_129 rfl ?_
  refine x_if_eq (μ := mu_x1_against) (pc := 131) (tgt := 145) dX1_against_131 rfl hv4 ?_ ?_
  · refine x_iload (μ := mu_x1_against) (pc := 145) 2 dX1_against_145 rfl ?_
    exact x_iret (μ := mu_x1_against) (pc := 147) dX1_against_147 rfl rfl (gRel_E.1 _) (show g32 v5 from hv5)
  · refine x_iload (μ := mu_x1_against) (pc := 134) 0 dX1_against_134 rfl ?_
    refine x_if_ne (μ := mu_x1_against) (pc := 136) (tgt := 145) dX1_against_136 rfl ht0 ?_ ?_
    · refine x_iload (μ := mu_x1_against) (pc := 145) 2 dX1_against_145 rfl ?_
      exact x_iret (μ := mu_x1_against) (pc := 147) dX1_against_147 rfl rfl (gRel_E.1 _) (show g32 v5 from hv5)
    · refine x_iload (μ := mu_x1_against) (pc := 139) 2 dX1_against_139 rfl ?_
      refine x_ineg (μ := mu_x1_against) (pc := 141) dX1_against_141 ?_
      refine x_goto (μ := mu_x1_against) (pc := 142) (tgt := 147) dX1_against_142 rfl ?_
      refine x_w1 ?_
      exact x_iret (μ := mu_x1_against) (pc := 147) dX1_against_147 rfl rfl (gRel_E.1 _) (show g32 (w32 (-v5)) from (w32_rng _))
def x1_against_j122 (N : Nat) (v4 : Int) (v5 : Int) (s : gMem) : Option (Int × gMem) := x1_against_j127 N v4 v5 1 s
set_option maxRecDepth 100000 in
theorem okj_x1_against_j122 {ω : gW} {l : Launch} {d : Nat} {N : Nat} {σ0 : gMem} {s : gMem} {v4 : Int} {v5 : Int} (hl : l.stackTraces = false) (hdp : 2 ≤ d) (hv4 : g32 v4) (hv5 : g32 v5) : GG (fun p : Int × gMem => (.inl (some (vI p.1)), p.2)) gE ω l d mu_x1_against σ0 122 [(4, vI v4), (5, vI v5)] [] s (x1_against_j122 N v4 v5 s) := by
  unfold x1_against_j122
  refine x_iconst (μ := mu_x1_against) (pc := 122) dX1_against_122 ?_
  refine x_goto (μ := mu_x1_against) (pc := 123) (tgt := 127) dX1_against_123 rfl ?_
  exact okj_x1_against_j127 hl hdp hv4 hv5 (by decide)
def x1_against_j102 (N : Nat) (v0 : Nat) (v4 : Int) (v5 : Int) (s : gMem) : Option (Int × gMem) := if mT s v0 = 1 then if mT s (mR s v0 30) = 5 then if mI s (mR s v0 30) 0 = 0 then x1_against_j122 N v4 v5  s else if mT s (mR s v0 31) = 5 then if mI s (mR s v0 31) 0 ≠ 0 then x1_against_j127 N v4 v5 0 s else x1_against_j122 N v4 v5  s else none else none else none
set_option maxRecDepth 100000 in
theorem okj_x1_against_j102 {ω : gW} {l : Launch} {d : Nat} {N : Nat} {σ0 : gMem} {s : gMem} {v0 : Nat} {v4 : Int} {v5 : Int} (hl : l.stackTraces = false) (hdp : 2 ≤ d) (hv4 : g32 v4) (hv5 : g32 v5) : GG (fun p : Int × gMem => (.inl (some (vI p.1)), p.2)) gE ω l d mu_x1_against σ0 102 [(0, vR v0), (4, vI v4), (5, vI v5)] [] s (x1_against_j102 N v0 v4 v5 s) := by
  unfold x1_against_j102
  refine x_aload_n (μ := mu_x1_against) (pc := 102) 0 dX1_against_102 rfl ?_
  refine x_if (fun hT18 => ?_)
  refine x_fgr (μ := mu_x1_against) (pc := 103) fX1_30 (by first | exact Or.inl ⟨_, rfl⟩ | exact Or.inr ⟨_, rfl⟩) q675 dX1_against_103 hT18 ?_
  refine x_if (fun hT19 => ?_)
  refine x_fgiN (μ := mu_x1_against) (pc := 106) fX5_0 q373 dX1_against_106 hT19 (fun hr20 => ?_)
  refine x_if_eq (μ := mu_x1_against) (pc := 109) (tgt := 122) dX1_against_109 rfl hr20 ?_ ?_
  · refine x_loc (lv' := [(4, vI v4), (5, vI v5)]) [1, 2] rfl ?_
    exact okj_x1_against_j122 hl hdp hv4 hv5
  · refine x_aload_n (μ := mu_x1_against) (pc := 112) 0 dX1_against_112 rfl ?_
    refine x_fgr (μ := mu_x1_against) (pc := 113) fX1_31 (by first | exact Or.inl ⟨_, rfl⟩ | exact Or.inr ⟨_, rfl⟩) q676 dX1_against_113 hT18 ?_
    refine x_if (fun hT21 => ?_)
    refine x_fgiN (μ := mu_x1_against) (pc := 116) fX5_0 q373 dX1_against_116 hT21 (fun hr22 => ?_)
    refine x_if_ne (μ := mu_x1_against) (pc := 119) (tgt := 126) dX1_against_119 rfl hr22 ?_ ?_
    · refine x_iconst (μ := mu_x1_against) (pc := 126) dX1_against_126 ?_
      refine x_loc (lv' := [(4, vI v4), (5, vI v5)]) [1, 2] rfl ?_
      exact okj_x1_against_j127 hl hdp hv4 hv5 (by decide)
    · refine x_loc (lv' := [(4, vI v4), (5, vI v5)]) [1, 2] rfl ?_
      exact okj_x1_against_j122 hl hdp hv4 hv5
def x1_against_j100 (N : Nat) (v0 : Nat) (v4 : Int) (t0 : Int) (s : gMem) : Option (Int × gMem) := x1_against_j102 N v0 v4 t0  s
set_option maxRecDepth 100000 in
theorem okj_x1_against_j100 {ω : gW} {l : Launch} {d : Nat} {N : Nat} {σ0 : gMem} {s : gMem} {v0 : Nat} {v4 : Int} {t0 : Int} (hl : l.stackTraces = false) (hdp : 2 ≤ d) (hv4 : g32 v4) (ht0 : g32 t0) : GG (fun p : Int × gMem => (.inl (some (vI p.1)), p.2)) gE ω l d mu_x1_against σ0 100 [(0, vR v0), (4, vI v4)] [vI t0] s (x1_against_j100 N v0 v4 t0 s) := by
  unfold x1_against_j100
  refine x_istore (μ := mu_x1_against) (pc := 100) (lv' := [(5, vI t0), (0, vR v0), (4, vI v4)]) dX1_against_100 (by decide) rfl ?_
  refine x_loc (lv' := [(0, vR v0), (4, vI v4), (5, vI t0)]) [1, 2, 0] rfl ?_
  exact okj_x1_against_j102 hl hdp hv4 ht0
def x1_against_j85 (N : Nat) (v0 : Nat) (v4 : Int) (s : gMem) : Option (Int × gMem) := x1_against_j100 N v0 v4 0 s
set_option maxRecDepth 100000 in
theorem okj_x1_against_j85 {ω : gW} {l : Launch} {d : Nat} {N : Nat} {σ0 : gMem} {s : gMem} {v0 : Nat} {v4 : Int} (hl : l.stackTraces = false) (hdp : 2 ≤ d) (hv4 : g32 v4) : GG (fun p : Int × gMem => (.inl (some (vI p.1)), p.2)) gE ω l d mu_x1_against σ0 85 [(0, vR v0), (4, vI v4)] [] s (x1_against_j85 N v0 v4 s) := by
  unfold x1_against_j85
  refine x_iconst (μ := mu_x1_against) (pc := 85) dX1_against_85 ?_
  refine x_goto (μ := mu_x1_against) (pc := 86) (tgt := 100) dX1_against_86 rfl ?_
  exact okj_x1_against_j100 hl hdp hv4 (by decide)
def x1_against (N : Nat) (v0 : Nat) (v1 : Int) (v2 : Int) (v3 : Int) (v4 : Int) (σ : gMem) : Option (Int × gMem) := if mT σ v0 = 1 then if mT σ (mR σ v0 9) = 2 then (x2_give (mR σ v0 9) (w32 ((10 * v1) + v3)) (mR σ v0 30) σ).bind (fun x3 => if mT x3 (mR x3 v0 9) = 2 then (x2_give (mR x3 v0 9) (w32 ((10 * v2) + v3)) (mR x3 v0 31) x3).bind (fun x6 => if mT x6 (mR x6 v0 30) = 5 then (x1_rankOf (mI x6 (mR x6 v0 30) 0) x6).bind (fun x10 => if mT x6 (mR x6 v0 31) = 5 then (x1_rankOf (mI x6 (mR x6 v0 31) 0) x6).bind (fun x14 => (j16_compare x10 x14 x6).bind (fun x16 => if x16 ≠ 0 then x1_against_j102 N v0 v4 x16  x6 else if mI x6 (mR x6 v0 30) 0 = 0 then x1_against_j85 N v0 v4  x6 else if mI x6 (mR x6 v0 30) 0 ≠ 4 then (x5_against N (mR x6 v0 30) (mR x6 v0 31) x6).bind (fun x25 => x1_against_j100 N v0 v4 x25 x6) else x1_against_j85 N v0 v4  x6)) else none) else none) else none) else none else none
set_option maxRecDepth 100000 in
theorem ok_x1_against {ω : gW} {l : Launch} {d : Nat} {N : Nat} {σ : gMem} {v0 : Nat} {v1 : Int} {v2 : Int} {v3 : Int} {v4 : Int} (hl : l.stackTraces = false) (hdp : 2 ≤ d) (hv1 : g32 v1) (hv2 : g32 v2) (hv3 : g32 v3) (hv4 : g32 v4) : gK (fun p : Int × gMem => (.inl (some (vI p.1)), p.2)) gE ω l d mu_x1_against [vR v0, vI v1, vI v2, vI v3, vI v4] σ (x1_against N v0 v1 v2 v3 v4 σ) := by
  refine gK.of hp_X1 (Nat.le_of_ble_eq_true rfl) ?_
  unfold x1_against
  refine x_aload_n (μ := mu_x1_against) (pc := 0) 0 dX1_against_0 rfl ?_
  refine x_if (fun hT1 => ?_)
  refine x_fgr (μ := mu_x1_against) (pc := 1) fX1_9 (by first | exact Or.inl ⟨_, rfl⟩ | exact Or.inr ⟨_, rfl⟩) q654 dX1_against_1 hT1 ?_
  refine x_bipush (μ := mu_x1_against) (pc := 4) dX1_against_4 (by decide) ?_
  refine x_iload_n (μ := mu_x1_against) (pc := 6) 1 dX1_against_6 rfl ?_
  refine x_imul (μ := mu_x1_against) (pc := 7) dX1_against_7 ?_
  refine x_iload_n (μ := mu_x1_against) (pc := 8) 3 dX1_against_8 rfl ?_
  refine x_iadd (μ := mu_x1_against) (pc := 9) dX1_against_9 ?_
  refine x_aload_n (μ := mu_x1_against) (pc := 10) 0 dX1_against_10 rfl ?_
  refine x_fgr (μ := mu_x1_against) (pc := 11) fX1_30 (by first | exact Or.inl ⟨_, rfl⟩ | exact Or.inr ⟨_, rfl⟩) q675 dX1_against_11 hT1 ?_
  refine x_w2 ?_
  refine x_if (fun hT2 => ?_)
  refine x_callV_mv (μ := mu_x1_against) (pc := 14) (ok_x2_give (ω := ω) (l := l) (d := d - 1) hl (by omega) (w32_rng _)) gRel_E gRel_E (fun _ q => q) q2382 q1024 q1025 q222 q1026 dX1_against_14 rfl hT2 hy_x2_give (by omega) (Nat.le_of_ble_eq_true rfl) rfl (Nat.le_of_ble_eq_true rfl) (fun x3 k4 => ?_)
  refine x_aload_n (μ := mu_x1_against) (pc := 17) 0 dX1_against_17 rfl ?_
  refine x_fgr (μ := mu_x1_against) (pc := 18) fX1_9 (by first | exact Or.inl ⟨_, rfl⟩ | exact Or.inr ⟨_, rfl⟩) q654 dX1_against_18 (gT_E k4 hT1 (by decide)) ?_
  refine x_bipush (μ := mu_x1_against) (pc := 21) dX1_against_21 (by decide) ?_
  refine x_iload_n (μ := mu_x1_against) (pc := 23) 2 dX1_against_23 rfl ?_
  refine x_imul (μ := mu_x1_against) (pc := 24) dX1_against_24 ?_
  refine x_iload_n (μ := mu_x1_against) (pc := 25) 3 dX1_against_25 rfl ?_
  refine x_iadd (μ := mu_x1_against) (pc := 26) dX1_against_26 ?_
  refine x_aload_n (μ := mu_x1_against) (pc := 27) 0 dX1_against_27 rfl ?_
  refine x_fgr (μ := mu_x1_against) (pc := 28) fX1_31 (by first | exact Or.inl ⟨_, rfl⟩ | exact Or.inr ⟨_, rfl⟩) q676 dX1_against_28 (gT_E k4 hT1 (by decide)) ?_
  refine x_w2 ?_
  refine x_if (fun hT5 => ?_)
  refine x_callV_mv (μ := mu_x1_against) (pc := 31) (ok_x2_give (ω := ω) (l := l) (d := d - 1) hl (by omega) (w32_rng _)) gRel_E gRel_E (fun _ q => q) q2382 q1024 q1025 q222 q1026 dX1_against_31 rfl hT5 hy_x2_give (by omega) (Nat.le_of_ble_eq_true rfl) rfl (Nat.le_of_ble_eq_true rfl) (fun x6 k7 => ?_)
  refine x_aload_n (μ := mu_x1_against) (pc := 34) 0 dX1_against_34 rfl ?_
  refine x_fgr (μ := mu_x1_against) (pc := 35) fX1_30 (by first | exact Or.inl ⟨_, rfl⟩ | exact Or.inr ⟨_, rfl⟩) q675 dX1_against_35 (gT_E k7 (gT_E k4 hT1 (by decide)) (by decide)) ?_
  refine x_if (fun hT8 => ?_)
  refine x_fgiN (μ := mu_x1_against) (pc := 38) fX5_0 q373 dX1_against_38 hT8 (fun hr9 => ?_)
  refine x_callS_pi (μ := mu_x1_against) (pc := 41) (ok_x1_rankOf (ω := ω) (l := l) (d := d - 1) hl (by omega) hr9) gRel_E gRel_E (fun _ q => q) q2383 q2384 q221 q2385 dX1_against_41 hy_x1_rankOf (by omega) (Nat.le_of_ble_eq_true rfl) rfl (Nat.le_of_ble_eq_true rfl) (fun x10 hr11 => ?_)
  refine x_aload_n (μ := mu_x1_against) (pc := 44) 0 dX1_against_44 rfl ?_
  refine x_fgr (μ := mu_x1_against) (pc := 45) fX1_31 (by first | exact Or.inl ⟨_, rfl⟩ | exact Or.inr ⟨_, rfl⟩) q676 dX1_against_45 (gT_E k7 (gT_E k4 hT1 (by decide)) (by decide)) ?_
  refine x_if (fun hT12 => ?_)
  refine x_fgiN (μ := mu_x1_against) (pc := 48) fX5_0 q373 dX1_against_48 hT12 (fun hr13 => ?_)
  refine x_callS_pi (μ := mu_x1_against) (pc := 51) (ok_x1_rankOf (ω := ω) (l := l) (d := d - 1) hl (by omega) hr13) gRel_E gRel_E (fun _ q => q) q2383 q2384 q221 q2385 dX1_against_51 hy_x1_rankOf (by omega) (Nat.le_of_ble_eq_true rfl) rfl (Nat.le_of_ble_eq_true rfl) (fun x14 hr15 => ?_)
  refine x_callS_pi (μ := mu_x1_against) (pc := 54) (ok_j16_compare (ω := ω) (l := l) (d := d - 1) hl (by omega) hr11 hr15) gRel_E gRel_E (fun _ q => q) q2386 q2387 q264 q2388 dX1_against_54 hy_j16_compare (by omega) (Nat.le_of_ble_eq_true rfl) rfl (Nat.le_of_ble_eq_true rfl) (fun x16 hr17 => ?_)
  refine x_istore (μ := mu_x1_against) (pc := 57) (lv' := [(5, vI x16), (0, vR v0), (1, vI v1), (2, vI v2), (3, vI v3), (4, vI v4)]) dX1_against_57 (by decide) rfl ?_
  refine x_iload (μ := mu_x1_against) (pc := 59) 0 dX1_against_59 rfl ?_
  refine x_if_ne (μ := mu_x1_against) (pc := 61) (tgt := 102) dX1_against_61 rfl hr17 ?_ ?_
  · refine x_loc (lv' := [(0, vR v0), (4, vI v4), (5, vI x16)]) [1, 5, 0] rfl ?_
    exact okj_x1_against_j102 hl hdp hv4 hr17
  · refine x_aload_n (μ := mu_x1_against) (pc := 64) 1 dX1_against_64 rfl ?_
    refine x_fgr (μ := mu_x1_against) (pc := 65) fX1_30 (by first | exact Or.inl ⟨_, rfl⟩ | exact Or.inr ⟨_, rfl⟩) q675 dX1_against_65 (gT_E k7 (gT_E k4 hT1 (by decide)) (by decide)) ?_
    refine x_fgiN (μ := mu_x1_against) (pc := 68) fX5_0 q373 dX1_against_68 hT8 (fun hr23 => ?_)
    refine x_if_eq (μ := mu_x1_against) (pc := 71) (tgt := 85) dX1_against_71 rfl hr23 ?_ ?_
    · refine x_loc (lv' := [(0, vR v0), (4, vI v4)]) [1, 5] rfl ?_
      exact okj_x1_against_j85 hl hdp hv4
    · refine x_aload_n (μ := mu_x1_against) (pc := 74) 1 dX1_against_74 rfl ?_
      refine x_fgr (μ := mu_x1_against) (pc := 75) fX1_30 (by first | exact Or.inl ⟨_, rfl⟩ | exact Or.inr ⟨_, rfl⟩) q675 dX1_against_75 (gT_E k7 (gT_E k4 hT1 (by decide)) (by decide)) ?_
      refine x_fgiN (μ := mu_x1_against) (pc := 78) fX5_0 q373 dX1_against_78 hT8 (fun hr24 => ?_)
      refine x_iconst (μ := mu_x1_against) (pc := 81) dX1_against_81 ?_
      refine x_icmp_ne (μ := mu_x1_against) (pc := 82) (tgt := 89) dX1_against_82 rfl hr24 (by decide) ?_ ?_
      · refine x_aload_n (μ := mu_x1_against) (pc := 89) 1 dX1_against_89 rfl ?_
        refine x_fgr (μ := mu_x1_against) (pc := 90) fX1_30 (by first | exact Or.inl ⟨_, rfl⟩ | exact Or.inr ⟨_, rfl⟩) q675 dX1_against_90 (gT_E k7 (gT_E k4 hT1 (by decide)) (by decide)) ?_
        refine x_aload_n (μ := mu_x1_against) (pc := 93) 1 dX1_against_93 rfl ?_
        refine x_fgr (μ := mu_x1_against) (pc := 94) fX1_31 (by first | exact Or.inl ⟨_, rfl⟩ | exact Or.inr ⟨_, rfl⟩) q676 dX1_against_94 (gT_E k7 (gT_E k4 hT1 (by decide)) (by decide)) ?_
        refine x_callV_pi (μ := mu_x1_against) (pc := 97) (ok_x5_against (ω := ω) (l := l) (d := d - 1) hl (by omega) ) gRel_E gRel_E (fun _ q => q) q1098 q1099 q1100 q225 q1101 dX1_against_97 rfl hT8 hy_x5_against (by omega) (Nat.le_of_ble_eq_true rfl) rfl (Nat.le_of_ble_eq_true rfl) (fun x25 hr26 => ?_)
        refine x_loc (lv' := [(0, vR v0), (4, vI v4)]) [1, 5] rfl ?_
        exact okj_x1_against_j100 hl hdp hv4 hr26
      · refine x_loc (lv' := [(0, vR v0), (4, vI v4)]) [1, 5] rfl ?_
        exact okj_x1_against_j85 hl hdp hv4
def tw_next_j113 (N : Nat) (h : Nat) (v1 : Int) (s : gMem) : Option gMem := (tw_wordToken N h v1 s).bind (fun x18 => gLet (wI x18 h 46 (mI x18 h 49)) (fun s22 => some s22))
set_option maxRecDepth 100000 in
theorem okj_tw_next_j113 {ω : gW} {l : Launch} {d : Nat} {N : Nat} {h : Nat} {σ0 : gMem} {s : gMem} {v1 : Int} (hdp : 6 ≤ d) (hM : TM s h) (hv1 : g32 v1) : GG (fun p : gMem => (.inl none, p)) gTw ω l d mu_tw_next σ0 113 [(0, vR h), (1, vI v1)] [] s (tw_next_j113 N h v1 s) := by
  unfold tw_next_j113
  refine x_aload_n (μ := mu_tw_next) (pc := 113) 0 dX11_next_113 rfl ?_
  refine x_iload_n (μ := mu_tw_next) (pc := 114) 1 dX11_next_114 rfl ?_
  refine x_callV_mv (μ := mu_tw_next) (pc := 115) (ok_tw_wordToken (ω := ω) (l := l) (d := d - 1) (by omega) hM hv1) gRel_Tw gRel_Tw (fun _ q => q) q3024 q3026 qs87 q232 q3027 dX11_next_115 rfl hM.1 hy_tw_wordToken (by omega) (Nat.le_of_ble_eq_true rfl) rfl (Nat.le_of_ble_eq_true rfl) (fun x18 k19 => ?_)
  have hM20 : TM x18 h := hM.tw k19
  refine x_goto (μ := mu_tw_next) (pc := 118) (tgt := 161) dX11_next_118 rfl ?_
  refine x_aload_n (μ := mu_tw_next) (pc := 161) 0 dX11_next_161 rfl ?_
  refine x_aload_n (μ := mu_tw_next) (pc := 162) 0 dX11_next_162 rfl ?_
  refine x_fgi (μ := mu_tw_next) (pc := 163) fX11_49 q2685 dX11_next_163 hM20.1 (fun hr21 => ?_)
  refine x_fpi (μ := mu_tw_next) (pc := 166) fX11_46 q2682 dX11_next_166 hM20.1 (fun _ q => gTw_wI q) ?_
  refine x_let (fun s22 e23 => ?_)
  have hM24 := TM.eI e23 hM20
  exact x_vret (μ := mu_tw_next) (pc := 169) (a1 := s22) dX11_next_169 rfl rfl (gRel_Tw.1 _) trivial
def tw_next_j156 (N : Nat) (h : Nat) (v1 : Int) (s : gMem) : Option gMem := (tw_signToken h v1 s).bind (fun x25 => gLet (wI x25 h 46 (mI x25 h 49)) (fun s29 => some s29))
set_option maxRecDepth 100000 in
theorem okj_tw_next_j156 {ω : gW} {l : Launch} {d : Nat} {N : Nat} {h : Nat} {σ0 : gMem} {s : gMem} {v1 : Int} (hdp : 6 ≤ d) (hM : TM s h) (hv1 : g32 v1) : GG (fun p : gMem => (.inl none, p)) gTw ω l d mu_tw_next σ0 156 [(0, vR h), (1, vI v1)] [] s (tw_next_j156 N h v1 s) := by
  unfold tw_next_j156
  refine x_aload_n (μ := mu_tw_next) (pc := 156) 0 dX11_next_156 rfl ?_
  refine x_iload_n (μ := mu_tw_next) (pc := 157) 1 dX11_next_157 rfl ?_
  refine x_callV_mv (μ := mu_tw_next) (pc := 158) (ok_tw_signToken (ω := ω) (l := l) (d := d - 1) (by omega) hM hv1) gRel_Tw gRel_Tw (fun _ q => q) q3039 q3041 qs90 q232 q3042 dX11_next_158 rfl hM.1 hy_tw_signToken (by omega) (Nat.le_of_ble_eq_true rfl) rfl (Nat.le_of_ble_eq_true rfl) (fun x25 k26 => ?_)
  have hM27 : TM x25 h := hM.tw k26
  refine x_aload_n (μ := mu_tw_next) (pc := 161) 0 dX11_next_161 rfl ?_
  refine x_aload_n (μ := mu_tw_next) (pc := 162) 0 dX11_next_162 rfl ?_
  refine x_fgi (μ := mu_tw_next) (pc := 163) fX11_49 q2685 dX11_next_163 hM27.1 (fun hr28 => ?_)
  refine x_fpi (μ := mu_tw_next) (pc := 166) fX11_46 q2682 dX11_next_166 hM27.1 (fun _ q => gTw_wI q) ?_
  refine x_let (fun s29 e30 => ?_)
  have hM31 := TM.eI e30 hM27
  exact x_vret (μ := mu_tw_next) (pc := 169) (a1 := s29) dX11_next_169 rfl rfl (gRel_Tw.1 _) trivial
def tw_next_l0 (N : Nat) (h : Nat) (K : gMem → Option gMem) : Nat → gMem → Option gMem
  | 0, _ => none
  | n + 1, s => (tw_byteAt h (mI s h 46) s).bind (fun x74 => if x74 ≠ 32 then K s else gLet (wI s h 46 (w32 ((mI s h 46) + 1))) (fun s77 => tw_next_l0 N h K n s77))
set_option maxRecDepth 100000 in
theorem okl_tw_next_l0 {ω : gW} {l : Launch} {d : Nat} {N : Nat} {h : Nat} {σ0 : gMem} {K : gMem → Option gMem} (hdp : 6 ≤ d) (hK : ∀ (s : gMem) , TM s h → GG (fun p : gMem => (.inl none, p)) gTw ω l d mu_tw_next σ0 26 [(0, vR h)] [] s (K s)) : ∀ (n : Nat) (s : gMem) , TM s h → GG (fun p : gMem => (.inl none, p)) gTw ω l d mu_tw_next σ0 0 [(0, vR h)] [] s (tw_next_l0 N h K n s) := by
  intro n
  induction n with
  | zero => intros; exact x_none
  | succ n ih =>
    intro s hM
    unfold tw_next_l0
    refine x_aload_n (μ := mu_tw_next) (pc := 0) 0 dX11_next_0 rfl ?_
    refine x_aload_n (μ := mu_tw_next) (pc := 1) 0 dX11_next_1 rfl ?_
    refine x_fgi (μ := mu_tw_next) (pc := 2) fX11_46 q2682 dX11_next_2 hM.1 (fun hr73 => ?_)
    refine x_callV_pi (μ := mu_tw_next) (pc := 5) (ok_tw_byteAt (ω := ω) (l := l) (d := d - 1) (by omega) hM hr73) gRel_Tw gRel_Tw (fun _ q => q) q2999 q3001 qs83 q232 q3002 dX11_next_5 rfl hM.1 hy_tw_byteAt (by omega) (Nat.le_of_ble_eq_true rfl) rfl (Nat.le_of_ble_eq_true rfl) (fun x74 hr75 => ?_)
    refine x_bipush (μ := mu_tw_next) (pc := 8) dX11_next_8 (by decide) ?_
    refine x_icmp_ne (μ := mu_tw_next) (pc := 10) (tgt := 26) dX11_next_10 rfl hr75 (by decide) ?_ ?_
    · exact hK s hM
    · refine x_aload_n (μ := mu_tw_next) (pc := 13) 0 dX11_next_13 rfl ?_
      refine x_dup (μ := mu_tw_next) (pc := 14) dX11_next_14 rfl ?_
      refine x_fgi (μ := mu_tw_next) (pc := 15) fX11_46 q2682 dX11_next_15 hM.1 (fun hr76 => ?_)
      refine x_iconst (μ := mu_tw_next) (pc := 18) dX11_next_18 ?_
      refine x_iadd (μ := mu_tw_next) (pc := 19) dX11_next_19 ?_
      refine x_w1 ?_
      refine x_fpi (μ := mu_tw_next) (pc := 20) fX11_46 q2682 dX11_next_20 hM.1 (fun _ q => gTw_wI q) ?_
      refine x_let (fun s77 e78 => ?_)
      have hM79 := TM.eI e78 hM
      refine x_goto (μ := mu_tw_next) (pc := 23) (tgt := 0) dX11_next_23 rfl ?_
      exact ih s77 hM79
def tw_next (N : Nat) (h : Nat) (σ : gMem) : Option gMem := (tw_byteAt h (mI σ h 46) σ).bind (fun x2 => if x2 ≠ 32 then gLet (wI σ h 48 (mI σ h 46)) (fun s5 => gLet (wI s5 h 51 (-1)) (fun s8 => (tw_byteAt h (mI s8 h 46) s8).bind (fun x12 => if x12 ≠ (-1) then (tw_isDigit x12 s8).bind (fun x14 => if x14 = 0 then if x12 ≠ 34 then (tw_isLetter x12 s8).bind (fun x16 => if x16 ≠ 0 then tw_next_j113 N h x12  s8 else if x12 ≠ 36 then if x12 ≠ 35 then tw_next_j156 N h x12  s8 else (tw_isWord N h (mI s8 h 46) 4 (mR s8 0 100) s8).bind (fun x33 => if x33 = 0 then tw_next_j156 N h x12  s8 else (tw_is h 5 (w32 ((mI s8 h 46) + 4)) s8).bind (fun x36 => gLet (wI x36 h 46 (mI x36 h 49)) (fun s40 => some s40))) else tw_next_j113 N h x12  s8) else (tw_textToken N h s8).bind (fun x43 => gLet (wI x43 h 46 (mI x43 h 49)) (fun s47 => some s47)) else (tw_numberToken N h s8).bind (fun x50 => gLet (wI x50 h 46 (mI x50 h 49)) (fun s54 => some s54))) else (tw_is h 0 (mI s8 h 46) s8).bind (fun x58 => gLet (wI x58 h 48 (mI x58 h 45)) (fun s62 => gLet (wI s62 h 46 (mI s62 h 49)) (fun s66 => some s66)))))) else gLet (wI σ h 46 (w32 ((mI σ h 46) + 1))) (fun s70 => tw_next_l0 N h (fun s80 => gLet (wI s80 h 48 (mI s80 h 46)) (fun s83 => gLet (wI s83 h 51 (-1)) (fun s86 => (tw_byteAt h (mI s86 h 46) s86).bind (fun x90 => if x90 ≠ (-1) then (tw_isDigit x90 s86).bind (fun x92 => if x92 = 0 then if x90 ≠ 34 then (tw_isLetter x90 s86).bind (fun x94 => if x94 ≠ 0 then tw_next_j113 N h x90  s86 else if x90 ≠ 36 then if x90 ≠ 35 then tw_next_j156 N h x90  s86 else (tw_isWord N h (mI s86 h 46) 4 (mR s86 0 100) s86).bind (fun x97 => if x97 = 0 then tw_next_j156 N h x90  s86 else (tw_is h 5 (w32 ((mI s86 h 46) + 4)) s86).bind (fun x100 => gLet (wI x100 h 46 (mI x100 h 49)) (fun s104 => some s104))) else tw_next_j113 N h x90  s86) else (tw_textToken N h s86).bind (fun x107 => gLet (wI x107 h 46 (mI x107 h 49)) (fun s111 => some s111)) else (tw_numberToken N h s86).bind (fun x114 => gLet (wI x114 h 46 (mI x114 h 49)) (fun s118 => some s118))) else (tw_is h 0 (mI s86 h 46) s86).bind (fun x122 => gLet (wI x122 h 48 (mI x122 h 45)) (fun s126 => gLet (wI s126 h 46 (mI s126 h 49)) (fun s130 => some s130))))))) N s70))
set_option maxRecDepth 100000 in
theorem ok_tw_next {ω : gW} {l : Launch} {d : Nat} {N : Nat} {h : Nat} {σ : gMem} (hdp : 6 ≤ d) (hM : TM σ h) : gK (fun p : gMem => (.inl none, p)) gTw ω l d mu_tw_next [vR h] σ (tw_next N h σ) := by
  refine gK.of hp_X11 (Nat.le_of_ble_eq_true rfl) ?_
  unfold tw_next
  refine x_aload_n (μ := mu_tw_next) (pc := 0) 0 dX11_next_0 rfl ?_
  refine x_aload_n (μ := mu_tw_next) (pc := 1) 0 dX11_next_1 rfl ?_
  refine x_fgi (μ := mu_tw_next) (pc := 2) fX11_46 q2682 dX11_next_2 hM.1 (fun hr1 => ?_)
  refine x_callV_pi (μ := mu_tw_next) (pc := 5) (ok_tw_byteAt (ω := ω) (l := l) (d := d - 1) (by omega) hM hr1) gRel_Tw gRel_Tw (fun _ q => q) q2999 q3001 qs83 q232 q3002 dX11_next_5 rfl hM.1 hy_tw_byteAt (by omega) (Nat.le_of_ble_eq_true rfl) rfl (Nat.le_of_ble_eq_true rfl) (fun x2 hr3 => ?_)
  refine x_bipush (μ := mu_tw_next) (pc := 8) dX11_next_8 (by decide) ?_
  refine x_icmp_ne (μ := mu_tw_next) (pc := 10) (tgt := 26) dX11_next_10 rfl hr3 (by decide) ?_ ?_
  · refine x_aload_n (μ := mu_tw_next) (pc := 26) 0 dX11_next_26 rfl ?_
    refine x_aload_n (μ := mu_tw_next) (pc := 27) 0 dX11_next_27 rfl ?_
    refine x_fgi (μ := mu_tw_next) (pc := 28) fX11_46 q2682 dX11_next_28 hM.1 (fun hr4 => ?_)
    refine x_fpi (μ := mu_tw_next) (pc := 31) fX11_48 q2684 dX11_next_31 hM.1 (fun _ q => gTw_wI q) ?_
    refine x_let (fun s5 e6 => ?_)
    have hM7 := TM.eI e6 hM
    refine x_aload_n (μ := mu_tw_next) (pc := 34) 0 dX11_next_34 rfl ?_
    refine x_iconst (μ := mu_tw_next) (pc := 35) dX11_next_35 ?_
    refine x_fpi (μ := mu_tw_next) (pc := 36) fX11_51 q2687 dX11_next_36 hM7.1 (fun _ q => gTw_wI q) ?_
    refine x_let (fun s8 e9 => ?_)
    have hM10 := TM.eI e9 hM7
    refine x_aload_n (μ := mu_tw_next) (pc := 39) 0 dX11_next_39 rfl ?_
    refine x_aload_n (μ := mu_tw_next) (pc := 40) 0 dX11_next_40 rfl ?_
    refine x_fgi (μ := mu_tw_next) (pc := 41) fX11_46 q2682 dX11_next_41 hM10.1 (fun hr11 => ?_)
    refine x_callV_pi (μ := mu_tw_next) (pc := 44) (ok_tw_byteAt (ω := ω) (l := l) (d := d - 1) (by omega) hM10 hr11) gRel_Tw gRel_Tw (fun _ q => q) q2999 q3001 qs83 q232 q3002 dX11_next_44 rfl hM10.1 hy_tw_byteAt (by omega) (Nat.le_of_ble_eq_true rfl) rfl (Nat.le_of_ble_eq_true rfl) (fun x12 hr13 => ?_)
    refine x_istore_n (μ := mu_tw_next) (pc := 47) (lv' := [(1, vI x12), (0, vR h)]) dX11_next_47 rfl (by decide) rfl ?_
    refine x_iload_n (μ := mu_tw_next) (pc := 48) 0 dX11_next_48 rfl ?_
    refine x_iconst (μ := mu_tw_next) (pc := 49) dX11_next_49 ?_
    refine x_icmp_ne (μ := mu_tw_next) (pc := 50) (tgt := 73) dX11_next_50 rfl hr13 (by decide) ?_ ?_
    · refine x_iload_n (μ := mu_tw_next) (pc := 73) 0 dX11_next_73 rfl ?_
      refine x_callS_pi (μ := mu_tw_next) (pc := 74) (ok_tw_isDigit (ω := ω) (l := l) (d := d - 1) (by omega) hr13) gRel_Tw gRel_Tw (fun _ q => q) q3007 q3008 q232 q3009 dX11_next_74 hy_tw_isDigit (by omega) (Nat.le_of_ble_eq_true rfl) rfl (Nat.le_of_ble_eq_true rfl) (fun x14 hr15 => ?_)
      refine x_if_eq (μ := mu_tw_next) (pc := 77) (tgt := 87) dX11_next_77 rfl hr15 ?_ ?_
      · refine x_iload_n (μ := mu_tw_next) (pc := 87) 0 dX11_next_87 rfl ?_
        refine x_bipush (μ := mu_tw_next) (pc := 88) dX11_next_88 (by decide) ?_
        refine x_icmp_ne (μ := mu_tw_next) (pc := 90) (tgt := 100) dX11_next_90 rfl hr13 (by decide) ?_ ?_
        · refine x_iload_n (μ := mu_tw_next) (pc := 100) 0 dX11_next_100 rfl ?_
          refine x_callS_pi (μ := mu_tw_next) (pc := 101) (ok_tw_isLetter (ω := ω) (l := l) (d := d - 1) (by omega) hr13) gRel_Tw gRel_Tw (fun _ q => q) q3021 q3022 q232 q3023 dX11_next_101 hy_tw_isLetter (by omega) (Nat.le_of_ble_eq_true rfl) rfl (Nat.le_of_ble_eq_true rfl) (fun x16 hr17 => ?_)
          refine x_if_ne (μ := mu_tw_next) (pc := 104) (tgt := 113) dX11_next_104 rfl hr17 ?_ ?_
          · refine x_loc (lv' := [(0, vR h), (1, vI x12)]) [1, 0] rfl ?_
            exact okj_tw_next_j113 hdp hM10 hr13
          · refine x_iload_n (μ := mu_tw_next) (pc := 107) 0 dX11_next_107 rfl ?_
            refine x_bipush (μ := mu_tw_next) (pc := 108) dX11_next_108 (by decide) ?_
            refine x_icmp_ne (μ := mu_tw_next) (pc := 110) (tgt := 121) dX11_next_110 rfl hr13 (by decide) ?_ ?_
            · refine x_iload_n (μ := mu_tw_next) (pc := 121) 0 dX11_next_121 rfl ?_
              refine x_bipush (μ := mu_tw_next) (pc := 122) dX11_next_122 (by decide) ?_
              refine x_icmp_ne (μ := mu_tw_next) (pc := 124) (tgt := 156) dX11_next_124 rfl hr13 (by decide) ?_ ?_
              · refine x_loc (lv' := [(0, vR h), (1, vI x12)]) [1, 0] rfl ?_
                exact okj_tw_next_j156 hdp hM10 hr13
              · refine x_aload_n (μ := mu_tw_next) (pc := 127) 1 dX11_next_127 rfl ?_
                refine x_aload_n (μ := mu_tw_next) (pc := 128) 1 dX11_next_128 rfl ?_
                refine x_fgi (μ := mu_tw_next) (pc := 129) fX11_46 q2682 dX11_next_129 hM10.1 (fun hr32 => ?_)
                refine x_iconst (μ := mu_tw_next) (pc := 132) dX11_next_132 ?_
                refine x_ldcwS (μ := mu_tw_next) (pc := 133) (j := 100) (List.mem_of_getElem? (i := 4) rfl) dX11_next_133 ?_
                refine x_callV_pi (μ := mu_tw_next) (pc := 136) (ok_tw_isWord (ω := ω) (l := l) (d := d - 1) (by omega) hM10 hr32 (by decide)) gRel_Tw gRel_Tw (fun _ q => q) q3033 q3035 qs89 q232 q3036 dX11_next_136 rfl hM10.1 hy_tw_isWord (by omega) (Nat.le_of_ble_eq_true rfl) rfl (Nat.le_of_ble_eq_true rfl) (fun x33 hr34 => ?_)
                refine x_if_eq (μ := mu_tw_next) (pc := 139) (tgt := 156) dX11_next_139 rfl hr34 ?_ ?_
                · refine x_loc (lv' := [(0, vR h), (1, vI x12)]) [1, 0] rfl ?_
                  exact okj_tw_next_j156 hdp hM10 hr13
                · refine x_aload_n (μ := mu_tw_next) (pc := 142) 1 dX11_next_142 rfl ?_
                  refine x_iconst (μ := mu_tw_next) (pc := 143) dX11_next_143 ?_
                  refine x_aload_n (μ := mu_tw_next) (pc := 144) 1 dX11_next_144 rfl ?_
                  refine x_fgi (μ := mu_tw_next) (pc := 145) fX11_46 q2682 dX11_next_145 hM10.1 (fun hr35 => ?_)
                  refine x_iconst (μ := mu_tw_next) (pc := 148) dX11_next_148 ?_
                  refine x_iadd (μ := mu_tw_next) (pc := 149) dX11_next_149 ?_
                  refine x_w1 ?_
                  refine x_callV_mv (μ := mu_tw_next) (pc := 150) (ok_tw_is (ω := ω) (l := l) (d := d - 1) (by omega) hM10 (by decide) (w32_rng _)) gRel_Tw gRel_Tw (fun _ q => q) q3003 q3005 qs84 q232 q3006 dX11_next_150 rfl hM10.1 hy_tw_is (by omega) (Nat.le_of_ble_eq_true rfl) rfl (Nat.le_of_ble_eq_true rfl) (fun x36 k37 => ?_)
                  have hM38 : TM x36 h := hM10.tw k37
                  refine x_goto (μ := mu_tw_next) (pc := 153) (tgt := 161) dX11_next_153 rfl ?_
                  refine x_aload_n (μ := mu_tw_next) (pc := 161) 1 dX11_next_161 rfl ?_
                  refine x_aload_n (μ := mu_tw_next) (pc := 162) 1 dX11_next_162 rfl ?_
                  refine x_fgi (μ := mu_tw_next) (pc := 163) fX11_49 q2685 dX11_next_163 hM38.1 (fun hr39 => ?_)
                  refine x_fpi (μ := mu_tw_next) (pc := 166) fX11_46 q2682 dX11_next_166 hM38.1 (fun _ q => gTw_wI q) ?_
                  refine x_let (fun s40 e41 => ?_)
                  have hM42 := TM.eI e41 hM38
                  exact x_vret (μ := mu_tw_next) (pc := 169) (a1 := s40) dX11_next_169 rfl rfl (gRel_Tw.1 _) trivial
            · refine x_loc (lv' := [(0, vR h), (1, vI x12)]) [1, 0] rfl ?_
              exact okj_tw_next_j113 hdp hM10 hr13
        · refine x_aload_n (μ := mu_tw_next) (pc := 93) 1 dX11_next_93 rfl ?_
          refine x_callV_mv (μ := mu_tw_next) (pc := 94) (ok_tw_textToken (ω := ω) (l := l) (d := d - 1) (by omega) hM10 ) gRel_Tw gRel_Tw (fun _ q => q) q3014 q3016 qs86 q232 q3017 dX11_next_94 rfl hM10.1 hy_tw_textToken (by omega) (Nat.le_of_ble_eq_true rfl) rfl (Nat.le_of_ble_eq_true rfl) (fun x43 k44 => ?_)
          have hM45 : TM x43 h := hM10.tw k44
          refine x_goto (μ := mu_tw_next) (pc := 97) (tgt := 161) dX11_next_97 rfl ?_
          refine x_aload_n (μ := mu_tw_next) (pc := 161) 1 dX11_next_161 rfl ?_
          refine x_aload_n (μ := mu_tw_next) (pc := 162) 1 dX11_next_162 rfl ?_
          refine x_fgi (μ := mu_tw_next) (pc := 163) fX11_49 q2685 dX11_next_163 hM45.1 (fun hr46 => ?_)
          refine x_fpi (μ := mu_tw_next) (pc := 166) fX11_46 q2682 dX11_next_166 hM45.1 (fun _ q => gTw_wI q) ?_
          refine x_let (fun s47 e48 => ?_)
          have hM49 := TM.eI e48 hM45
          exact x_vret (μ := mu_tw_next) (pc := 169) (a1 := s47) dX11_next_169 rfl rfl (gRel_Tw.1 _) trivial
      · refine x_aload_n (μ := mu_tw_next) (pc := 80) 1 dX11_next_80 rfl ?_
        refine x_callV_mv (μ := mu_tw_next) (pc := 81) (ok_tw_numberToken (ω := ω) (l := l) (d := d - 1) (by omega) hM10 ) gRel_Tw gRel_Tw (fun _ q => q) q3010 q3012 qs85 q232 q3013 dX11_next_81 rfl hM10.1 hy_tw_numberToken (by omega) (Nat.le_of_ble_eq_true rfl) rfl (Nat.le_of_ble_eq_true rfl) (fun x50 k51 => ?_)
        have hM52 : TM x50 h := hM10.tw k51
        refine x_goto (μ := mu_tw_next) (pc := 84) (tgt := 161) dX11_next_84 rfl ?_
        refine x_aload_n (μ := mu_tw_next) (pc := 161) 1 dX11_next_161 rfl ?_
        refine x_aload_n (μ := mu_tw_next) (pc := 162) 1 dX11_next_162 rfl ?_
        refine x_fgi (μ := mu_tw_next) (pc := 163) fX11_49 q2685 dX11_next_163 hM52.1 (fun hr53 => ?_)
        refine x_fpi (μ := mu_tw_next) (pc := 166) fX11_46 q2682 dX11_next_166 hM52.1 (fun _ q => gTw_wI q) ?_
        refine x_let (fun s54 e55 => ?_)
        have hM56 := TM.eI e55 hM52
        exact x_vret (μ := mu_tw_next) (pc := 169) (a1 := s54) dX11_next_169 rfl rfl (gRel_Tw.1 _) trivial
    · refine x_aload_n (μ := mu_tw_next) (pc := 53) 1 dX11_next_53 rfl ?_
      refine x_iconst (μ := mu_tw_next) (pc := 54) dX11_next_54 ?_
      refine x_aload_n (μ := mu_tw_next) (pc := 55) 1 dX11_next_55 rfl ?_
      refine x_fgi (μ := mu_tw_next) (pc := 56) fX11_46 q2682 dX11_next_56 hM10.1 (fun hr57 => ?_)
      refine x_callV_mv (μ := mu_tw_next) (pc := 59) (ok_tw_is (ω := ω) (l := l) (d := d - 1) (by omega) hM10 (by decide) hr57) gRel_Tw gRel_Tw (fun _ q => q) q3003 q3005 qs84 q232 q3006 dX11_next_59 rfl hM10.1 hy_tw_is (by omega) (Nat.le_of_ble_eq_true rfl) rfl (Nat.le_of_ble_eq_true rfl) (fun x58 k59 => ?_)
      have hM60 : TM x58 h := hM10.tw k59
      refine x_aload_n (μ := mu_tw_next) (pc := 62) 1 dX11_next_62 rfl ?_
      refine x_aload_n (μ := mu_tw_next) (pc := 63) 1 dX11_next_63 rfl ?_
      refine x_fgi (μ := mu_tw_next) (pc := 64) fX11_45 q2681 dX11_next_64 hM60.1 (fun hr61 => ?_)
      refine x_fpi (μ := mu_tw_next) (pc := 67) fX11_48 q2684 dX11_next_67 hM60.1 (fun _ q => gTw_wI q) ?_
      refine x_let (fun s62 e63 => ?_)
      have hM64 := TM.eI e63 hM60
      refine x_goto (μ := mu_tw_next) (pc := 70) (tgt := 161) dX11_next_70 rfl ?_
      refine x_aload_n (μ := mu_tw_next) (pc := 161) 1 dX11_next_161 rfl ?_
      refine x_aload_n (μ := mu_tw_next) (pc := 162) 1 dX11_next_162 rfl ?_
      refine x_fgi (μ := mu_tw_next) (pc := 163) fX11_49 q2685 dX11_next_163 hM64.1 (fun hr65 => ?_)
      refine x_fpi (μ := mu_tw_next) (pc := 166) fX11_46 q2682 dX11_next_166 hM64.1 (fun _ q => gTw_wI q) ?_
      refine x_let (fun s66 e67 => ?_)
      have hM68 := TM.eI e67 hM64
      exact x_vret (μ := mu_tw_next) (pc := 169) (a1 := s66) dX11_next_169 rfl rfl (gRel_Tw.1 _) trivial
  · refine x_aload_n (μ := mu_tw_next) (pc := 13) 0 dX11_next_13 rfl ?_
    refine x_dup (μ := mu_tw_next) (pc := 14) dX11_next_14 rfl ?_
    refine x_fgi (μ := mu_tw_next) (pc := 15) fX11_46 q2682 dX11_next_15 hM.1 (fun hr69 => ?_)
    refine x_iconst (μ := mu_tw_next) (pc := 18) dX11_next_18 ?_
    refine x_iadd (μ := mu_tw_next) (pc := 19) dX11_next_19 ?_
    refine x_w1 ?_
    refine x_fpi (μ := mu_tw_next) (pc := 20) fX11_46 q2682 dX11_next_20 hM.1 (fun _ q => gTw_wI q) ?_
    refine x_let (fun s70 e71 => ?_)
    have hM72 := TM.eI e71 hM
    refine x_goto (μ := mu_tw_next) (pc := 23) (tgt := 0) dX11_next_23 rfl ?_
    refine okl_tw_next_l0 hdp (fun s80 hM81 => ?_) N s70 hM72
    refine x_aload_n (μ := mu_tw_next) (pc := 26) 0 dX11_next_26 rfl ?_
    refine x_aload_n (μ := mu_tw_next) (pc := 27) 0 dX11_next_27 rfl ?_
    refine x_fgi (μ := mu_tw_next) (pc := 28) fX11_46 q2682 dX11_next_28 hM81.1 (fun hr82 => ?_)
    refine x_fpi (μ := mu_tw_next) (pc := 31) fX11_48 q2684 dX11_next_31 hM81.1 (fun _ q => gTw_wI q) ?_
    refine x_let (fun s83 e84 => ?_)
    have hM85 := TM.eI e84 hM81
    refine x_aload_n (μ := mu_tw_next) (pc := 34) 0 dX11_next_34 rfl ?_
    refine x_iconst (μ := mu_tw_next) (pc := 35) dX11_next_35 ?_
    refine x_fpi (μ := mu_tw_next) (pc := 36) fX11_51 q2687 dX11_next_36 hM85.1 (fun _ q => gTw_wI q) ?_
    refine x_let (fun s86 e87 => ?_)
    have hM88 := TM.eI e87 hM85
    refine x_aload_n (μ := mu_tw_next) (pc := 39) 0 dX11_next_39 rfl ?_
    refine x_aload_n (μ := mu_tw_next) (pc := 40) 0 dX11_next_40 rfl ?_
    refine x_fgi (μ := mu_tw_next) (pc := 41) fX11_46 q2682 dX11_next_41 hM88.1 (fun hr89 => ?_)
    refine x_callV_pi (μ := mu_tw_next) (pc := 44) (ok_tw_byteAt (ω := ω) (l := l) (d := d - 1) (by omega) hM88 hr89) gRel_Tw gRel_Tw (fun _ q => q) q2999 q3001 qs83 q232 q3002 dX11_next_44 rfl hM88.1 hy_tw_byteAt (by omega) (Nat.le_of_ble_eq_true rfl) rfl (Nat.le_of_ble_eq_true rfl) (fun x90 hr91 => ?_)
    refine x_istore_n (μ := mu_tw_next) (pc := 47) (lv' := [(1, vI x90), (0, vR h)]) dX11_next_47 rfl (by decide) rfl ?_
    refine x_iload_n (μ := mu_tw_next) (pc := 48) 0 dX11_next_48 rfl ?_
    refine x_iconst (μ := mu_tw_next) (pc := 49) dX11_next_49 ?_
    refine x_icmp_ne (μ := mu_tw_next) (pc := 50) (tgt := 73) dX11_next_50 rfl hr91 (by decide) ?_ ?_
    · refine x_iload_n (μ := mu_tw_next) (pc := 73) 0 dX11_next_73 rfl ?_
      refine x_callS_pi (μ := mu_tw_next) (pc := 74) (ok_tw_isDigit (ω := ω) (l := l) (d := d - 1) (by omega) hr91) gRel_Tw gRel_Tw (fun _ q => q) q3007 q3008 q232 q3009 dX11_next_74 hy_tw_isDigit (by omega) (Nat.le_of_ble_eq_true rfl) rfl (Nat.le_of_ble_eq_true rfl) (fun x92 hr93 => ?_)
      refine x_if_eq (μ := mu_tw_next) (pc := 77) (tgt := 87) dX11_next_77 rfl hr93 ?_ ?_
      · refine x_iload_n (μ := mu_tw_next) (pc := 87) 0 dX11_next_87 rfl ?_
        refine x_bipush (μ := mu_tw_next) (pc := 88) dX11_next_88 (by decide) ?_
        refine x_icmp_ne (μ := mu_tw_next) (pc := 90) (tgt := 100) dX11_next_90 rfl hr91 (by decide) ?_ ?_
        · refine x_iload_n (μ := mu_tw_next) (pc := 100) 0 dX11_next_100 rfl ?_
          refine x_callS_pi (μ := mu_tw_next) (pc := 101) (ok_tw_isLetter (ω := ω) (l := l) (d := d - 1) (by omega) hr91) gRel_Tw gRel_Tw (fun _ q => q) q3021 q3022 q232 q3023 dX11_next_101 hy_tw_isLetter (by omega) (Nat.le_of_ble_eq_true rfl) rfl (Nat.le_of_ble_eq_true rfl) (fun x94 hr95 => ?_)
          refine x_if_ne (μ := mu_tw_next) (pc := 104) (tgt := 113) dX11_next_104 rfl hr95 ?_ ?_
          · refine x_loc (lv' := [(0, vR h), (1, vI x90)]) [1, 0] rfl ?_
            exact okj_tw_next_j113 hdp hM88 hr91
          · refine x_iload_n (μ := mu_tw_next) (pc := 107) 0 dX11_next_107 rfl ?_
            refine x_bipush (μ := mu_tw_next) (pc := 108) dX11_next_108 (by decide) ?_
            refine x_icmp_ne (μ := mu_tw_next) (pc := 110) (tgt := 121) dX11_next_110 rfl hr91 (by decide) ?_ ?_
            · refine x_iload_n (μ := mu_tw_next) (pc := 121) 0 dX11_next_121 rfl ?_
              refine x_bipush (μ := mu_tw_next) (pc := 122) dX11_next_122 (by decide) ?_
              refine x_icmp_ne (μ := mu_tw_next) (pc := 124) (tgt := 156) dX11_next_124 rfl hr91 (by decide) ?_ ?_
              · refine x_loc (lv' := [(0, vR h), (1, vI x90)]) [1, 0] rfl ?_
                exact okj_tw_next_j156 hdp hM88 hr91
              · refine x_aload_n (μ := mu_tw_next) (pc := 127) 1 dX11_next_127 rfl ?_
                refine x_aload_n (μ := mu_tw_next) (pc := 128) 1 dX11_next_128 rfl ?_
                refine x_fgi (μ := mu_tw_next) (pc := 129) fX11_46 q2682 dX11_next_129 hM88.1 (fun hr96 => ?_)
                refine x_iconst (μ := mu_tw_next) (pc := 132) dX11_next_132 ?_
                refine x_ldcwS (μ := mu_tw_next) (pc := 133) (j := 100) (List.mem_of_getElem? (i := 4) rfl) dX11_next_133 ?_
                refine x_callV_pi (μ := mu_tw_next) (pc := 136) (ok_tw_isWord (ω := ω) (l := l) (d := d - 1) (by omega) hM88 hr96 (by decide)) gRel_Tw gRel_Tw (fun _ q => q) q3033 q3035 qs89 q232 q3036 dX11_next_136 rfl hM88.1 hy_tw_isWord (by omega) (Nat.le_of_ble_eq_true rfl) rfl (Nat.le_of_ble_eq_true rfl) (fun x97 hr98 => ?_)
                refine x_if_eq (μ := mu_tw_next) (pc := 139) (tgt := 156) dX11_next_139 rfl hr98 ?_ ?_
                · refine x_loc (lv' := [(0, vR h), (1, vI x90)]) [1, 0] rfl ?_
                  exact okj_tw_next_j156 hdp hM88 hr91
                · refine x_aload_n (μ := mu_tw_next) (pc := 142) 1 dX11_next_142 rfl ?_
                  refine x_iconst (μ := mu_tw_next) (pc := 143) dX11_next_143 ?_
                  refine x_aload_n (μ := mu_tw_next) (pc := 144) 1 dX11_next_144 rfl ?_
                  refine x_fgi (μ := mu_tw_next) (pc := 145) fX11_46 q2682 dX11_next_145 hM88.1 (fun hr99 => ?_)
                  refine x_iconst (μ := mu_tw_next) (pc := 148) dX11_next_148 ?_
                  refine x_iadd (μ := mu_tw_next) (pc := 149) dX11_next_149 ?_
                  refine x_w1 ?_
                  refine x_callV_mv (μ := mu_tw_next) (pc := 150) (ok_tw_is (ω := ω) (l := l) (d := d - 1) (by omega) hM88 (by decide) (w32_rng _)) gRel_Tw gRel_Tw (fun _ q => q) q3003 q3005 qs84 q232 q3006 dX11_next_150 rfl hM88.1 hy_tw_is (by omega) (Nat.le_of_ble_eq_true rfl) rfl (Nat.le_of_ble_eq_true rfl) (fun x100 k101 => ?_)
                  have hM102 : TM x100 h := hM88.tw k101
                  refine x_goto (μ := mu_tw_next) (pc := 153) (tgt := 161) dX11_next_153 rfl ?_
                  refine x_aload_n (μ := mu_tw_next) (pc := 161) 1 dX11_next_161 rfl ?_
                  refine x_aload_n (μ := mu_tw_next) (pc := 162) 1 dX11_next_162 rfl ?_
                  refine x_fgi (μ := mu_tw_next) (pc := 163) fX11_49 q2685 dX11_next_163 hM102.1 (fun hr103 => ?_)
                  refine x_fpi (μ := mu_tw_next) (pc := 166) fX11_46 q2682 dX11_next_166 hM102.1 (fun _ q => gTw_wI q) ?_
                  refine x_let (fun s104 e105 => ?_)
                  have hM106 := TM.eI e105 hM102
                  exact x_vret (μ := mu_tw_next) (pc := 169) (a1 := s104) dX11_next_169 rfl rfl (gRel_Tw.1 _) trivial
            · refine x_loc (lv' := [(0, vR h), (1, vI x90)]) [1, 0] rfl ?_
              exact okj_tw_next_j113 hdp hM88 hr91
        · refine x_aload_n (μ := mu_tw_next) (pc := 93) 1 dX11_next_93 rfl ?_
          refine x_callV_mv (μ := mu_tw_next) (pc := 94) (ok_tw_textToken (ω := ω) (l := l) (d := d - 1) (by omega) hM88 ) gRel_Tw gRel_Tw (fun _ q => q) q3014 q3016 qs86 q232 q3017 dX11_next_94 rfl hM88.1 hy_tw_textToken (by omega) (Nat.le_of_ble_eq_true rfl) rfl (Nat.le_of_ble_eq_true rfl) (fun x107 k108 => ?_)
          have hM109 : TM x107 h := hM88.tw k108
          refine x_goto (μ := mu_tw_next) (pc := 97) (tgt := 161) dX11_next_97 rfl ?_
          refine x_aload_n (μ := mu_tw_next) (pc := 161) 1 dX11_next_161 rfl ?_
          refine x_aload_n (μ := mu_tw_next) (pc := 162) 1 dX11_next_162 rfl ?_
          refine x_fgi (μ := mu_tw_next) (pc := 163) fX11_49 q2685 dX11_next_163 hM109.1 (fun hr110 => ?_)
          refine x_fpi (μ := mu_tw_next) (pc := 166) fX11_46 q2682 dX11_next_166 hM109.1 (fun _ q => gTw_wI q) ?_
          refine x_let (fun s111 e112 => ?_)
          have hM113 := TM.eI e112 hM109
          exact x_vret (μ := mu_tw_next) (pc := 169) (a1 := s111) dX11_next_169 rfl rfl (gRel_Tw.1 _) trivial
      · refine x_aload_n (μ := mu_tw_next) (pc := 80) 1 dX11_next_80 rfl ?_
        refine x_callV_mv (μ := mu_tw_next) (pc := 81) (ok_tw_numberToken (ω := ω) (l := l) (d := d - 1) (by omega) hM88 ) gRel_Tw gRel_Tw (fun _ q => q) q3010 q3012 qs85 q232 q3013 dX11_next_81 rfl hM88.1 hy_tw_numberToken (by omega) (Nat.le_of_ble_eq_true rfl) rfl (Nat.le_of_ble_eq_true rfl) (fun x114 k115 => ?_)
        have hM116 : TM x114 h := hM88.tw k115
        refine x_goto (μ := mu_tw_next) (pc := 84) (tgt := 161) dX11_next_84 rfl ?_
        refine x_aload_n (μ := mu_tw_next) (pc := 161) 1 dX11_next_161 rfl ?_
        refine x_aload_n (μ := mu_tw_next) (pc := 162) 1 dX11_next_162 rfl ?_
        refine x_fgi (μ := mu_tw_next) (pc := 163) fX11_49 q2685 dX11_next_163 hM116.1 (fun hr117 => ?_)
        refine x_fpi (μ := mu_tw_next) (pc := 166) fX11_46 q2682 dX11_next_166 hM116.1 (fun _ q => gTw_wI q) ?_
        refine x_let (fun s118 e119 => ?_)
        have hM120 := TM.eI e119 hM116
        exact x_vret (μ := mu_tw_next) (pc := 169) (a1 := s118) dX11_next_169 rfl rfl (gRel_Tw.1 _) trivial
    · refine x_aload_n (μ := mu_tw_next) (pc := 53) 1 dX11_next_53 rfl ?_
      refine x_iconst (μ := mu_tw_next) (pc := 54) dX11_next_54 ?_
      refine x_aload_n (μ := mu_tw_next) (pc := 55) 1 dX11_next_55 rfl ?_
      refine x_fgi (μ := mu_tw_next) (pc := 56) fX11_46 q2682 dX11_next_56 hM88.1 (fun hr121 => ?_)
      refine x_callV_mv (μ := mu_tw_next) (pc := 59) (ok_tw_is (ω := ω) (l := l) (d := d - 1) (by omega) hM88 (by decide) hr121) gRel_Tw gRel_Tw (fun _ q => q) q3003 q3005 qs84 q232 q3006 dX11_next_59 rfl hM88.1 hy_tw_is (by omega) (Nat.le_of_ble_eq_true rfl) rfl (Nat.le_of_ble_eq_true rfl) (fun x122 k123 => ?_)
      have hM124 : TM x122 h := hM88.tw k123
      refine x_aload_n (μ := mu_tw_next) (pc := 62) 1 dX11_next_62 rfl ?_
      refine x_aload_n (μ := mu_tw_next) (pc := 63) 1 dX11_next_63 rfl ?_
      refine x_fgi (μ := mu_tw_next) (pc := 64) fX11_45 q2681 dX11_next_64 hM124.1 (fun hr125 => ?_)
      refine x_fpi (μ := mu_tw_next) (pc := 67) fX11_48 q2684 dX11_next_67 hM124.1 (fun _ q => gTw_wI q) ?_
      refine x_let (fun s126 e127 => ?_)
      have hM128 := TM.eI e127 hM124
      refine x_goto (μ := mu_tw_next) (pc := 70) (tgt := 161) dX11_next_70 rfl ?_
      refine x_aload_n (μ := mu_tw_next) (pc := 161) 1 dX11_next_161 rfl ?_
      refine x_aload_n (μ := mu_tw_next) (pc := 162) 1 dX11_next_162 rfl ?_
      refine x_fgi (μ := mu_tw_next) (pc := 163) fX11_49 q2685 dX11_next_163 hM128.1 (fun hr129 => ?_)
      refine x_fpi (μ := mu_tw_next) (pc := 166) fX11_46 q2682 dX11_next_166 hM128.1 (fun _ q => gTw_wI q) ?_
      refine x_let (fun s130 e131 => ?_)
      have hM132 := TM.eI e131 hM128
      exact x_vret (μ := mu_tw_next) (pc := 169) (a1 := s130) dX11_next_169 rfl rfl (gRel_Tw.1 _) trivial
def tw_readProduct_l4 (N : Nat) (W : gMem → Option gMem) (h : Nat) (K : gMem → Option gMem) : Nat → gMem → Option gMem
  | 0, _ => none
  | n + 1, s => (tw_isSignOf h 19 21 s).bind (fun x4 => if x4 = 0 then K s else (tw_next N h s).bind (fun x7 => (W x7).bind (fun x10 => (tw_part N h (mI s h 50) 2 x10).bind (fun x13 => tw_readProduct_l4 N W h K n (x13.2)))))
set_option maxRecDepth 100000 in
theorem okl_tw_readProduct_l4 {ω : gW} {l : Launch} {d : Nat} {N : Nat} {W : gMem → Option gMem} {dW : Nat} {h : Nat} {σ0 : gMem} {K : gMem → Option gMem} (hW : ∀ (s : gMem), TM s h → gK (fun p : gMem => (.inl none, p)) gTw ω l dW mu_tw_readSign [vR h] s (W s)) (hdp : 7 ≤ d) (hdw : dW + 1 ≤ d) (hK : ∀ (s : gMem) , TM s h → GG (fun p : gMem => (.inl none, p)) gTw ω l d mu_tw_readProduct σ0 38 [] [] s (K s)) : ∀ (n : Nat) (s : gMem) , TM s h → GG (fun p : gMem => (.inl none, p)) gTw ω l d mu_tw_readProduct σ0 4 [(0, vR h)] [] s (tw_readProduct_l4 N W h K n s) := by
  intro n
  induction n with
  | zero => intros; exact x_none
  | succ n ih =>
    intro s hM
    unfold tw_readProduct_l4
    refine x_aload_n (μ := mu_tw_readProduct) (pc := 4) 0 dX11_readProduct_4 rfl ?_
    refine x_bipush (μ := mu_tw_readProduct) (pc := 5) dX11_readProduct_5 (by decide) ?_
    refine x_bipush (μ := mu_tw_readProduct) (pc := 7) dX11_readProduct_7 (by decide) ?_
    refine x_callV_pi (μ := mu_tw_readProduct) (pc := 9) (ok_tw_isSignOf (ω := ω) (l := l) (d := d - 1) (by omega) hM (by decide) (by decide)) gRel_Tw gRel_Tw (fun _ q => q) q3067 q3069 qs97 q232 q3070 dX11_readProduct_9 rfl hM.1 hy_tw_isSignOf (by omega) (Nat.le_of_ble_eq_true rfl) rfl (Nat.le_of_ble_eq_true rfl) (fun x4 hr5 => ?_)
    refine x_if_eq (μ := mu_tw_readProduct) (pc := 12) (tgt := 38) dX11_readProduct_12 rfl hr5 ?_ ?_
    · refine x_loc (lv' := []) [] rfl ?_
      exact hK s hM
    · refine x_aload_n (μ := mu_tw_readProduct) (pc := 15) 0 dX11_readProduct_15 rfl ?_
      refine x_fgi (μ := mu_tw_readProduct) (pc := 16) fX11_50 q2686 dX11_readProduct_16 hM.1 (fun hr6 => ?_)
      refine x_istore_n (μ := mu_tw_readProduct) (pc := 19) (lv' := [(1, vI (mI s h 50)), (0, vR h)]) dX11_readProduct_19 rfl (by decide) rfl ?_
      refine x_aload_n (μ := mu_tw_readProduct) (pc := 20) 1 dX11_readProduct_20 rfl ?_
      refine x_callV_mv (μ := mu_tw_readProduct) (pc := 21) (ok_tw_next (ω := ω) (l := l) (d := d - 1) (by omega) hM ) gRel_Tw gRel_Tw (fun _ q => q) q2995 q2997 qs82 q232 q2998 dX11_readProduct_21 rfl hM.1 hy_tw_next (by omega) (Nat.le_of_ble_eq_true rfl) rfl (Nat.le_of_ble_eq_true rfl) (fun x7 k8 => ?_)
      have hM9 : TM x7 h := hM.tw k8
      refine x_aload_n (μ := mu_tw_readProduct) (pc := 24) 1 dX11_readProduct_24 rfl ?_
      refine x_callV_mv (μ := mu_tw_readProduct) (pc := 25) (hW x7 hM9 ) gRel_Tw gRel_Tw (fun _ q => q) q3063 q3065 qs96 q232 q3066 dX11_readProduct_25 rfl hM9.1 hy_tw_readSign (by omega) (Nat.le_of_ble_eq_true rfl) rfl (Nat.le_of_ble_eq_true rfl) (fun x10 k11 => ?_)
      have hM12 : TM x10 h := hM9.tw k11
      refine x_aload_n (μ := mu_tw_readProduct) (pc := 28) 1 dX11_readProduct_28 rfl ?_
      refine x_iload_n (μ := mu_tw_readProduct) (pc := 29) 0 dX11_readProduct_29 rfl ?_
      refine x_iconst (μ := mu_tw_readProduct) (pc := 30) dX11_readProduct_30 ?_
      refine x_callV_mi (μ := mu_tw_readProduct) (pc := 31) (ok_tw_part (ω := ω) (l := l) (d := d - 1) (by omega) hM12 hr6 (by decide)) gRel_Tw gRel_Tw (fun _ q => q) q3083 q3085 qs101 q232 q3086 dX11_readProduct_31 rfl hM12.1 hy_tw_part (by omega) (Nat.le_of_ble_eq_true rfl) rfl (Nat.le_of_ble_eq_true rfl) (fun x13 k15 hr14 => ?_)
      have hM16 : TM (x13.2) h := hM12.tw k15
      refine x_pop (μ := mu_tw_readProduct) (pc := 34) dX11_readProduct_34 rfl ?_
      refine x_goto (μ := mu_tw_readProduct) (pc := 35) (tgt := 4) dX11_readProduct_35 rfl ?_
      refine x_loc (lv' := [(0, vR h)]) [1] rfl ?_
      exact ih (x13.2) hM16
def tw_readProduct (N : Nat) (W : gMem → Option gMem) (h : Nat) (σ : gMem) : Option gMem := (W σ).bind (fun x1 => tw_readProduct_l4 N W h (fun s17 => some s17) N x1)
set_option maxRecDepth 100000 in
theorem ok_tw_readProduct {ω : gW} {l : Launch} {d : Nat} {N : Nat} {W : gMem → Option gMem} {dW : Nat} {h : Nat} {σ : gMem} (hW : ∀ (s : gMem), TM s h → gK (fun p : gMem => (.inl none, p)) gTw ω l dW mu_tw_readSign [vR h] s (W s)) (hdp : 7 ≤ d) (hdw : dW + 1 ≤ d) (hM : TM σ h) : gK (fun p : gMem => (.inl none, p)) gTw ω l d mu_tw_readProduct [vR h] σ (tw_readProduct N W h σ) := by
  refine gK.of hp_X11 (Nat.le_of_ble_eq_true rfl) ?_
  unfold tw_readProduct
  refine x_aload_n (μ := mu_tw_readProduct) (pc := 0) 0 dX11_readProduct_0 rfl ?_
  refine x_callV_mv (μ := mu_tw_readProduct) (pc := 1) (hW σ hM ) gRel_Tw gRel_Tw (fun _ q => q) q3063 q3065 qs96 q232 q3066 dX11_readProduct_1 rfl hM.1 hy_tw_readSign (by omega) (Nat.le_of_ble_eq_true rfl) rfl (Nat.le_of_ble_eq_true rfl) (fun x1 k2 => ?_)
  have hM3 : TM x1 h := hM.tw k2
  refine okl_tw_readProduct_l4 hW hdp hdw (fun s17 hM18 => ?_) N x1 hM3
  exact x_vret (μ := mu_tw_readProduct) (pc := 38) (a1 := s17) dX11_readProduct_38 rfl rfl (gRel_Tw.1 _) trivial
def tw_readPlain (N : Nat) (h : Nat) (σ : gMem) : Option gMem := if mI σ h 51 < 0 then if mI σ h 47 ≠ 1 then (tw_part N h 2 0 σ).bind (fun x3 => (tw_kept N h (w32 ((mI (x3.2) h 48) + 1)) (w32 ((mI (x3.2) h 49) - 1)) (x3.2)).bind (fun x9 => if 0 ≤ (x3.1) ∧ (x3.1) < ((60420 : Nat) : Int) then gLet (wI (x9.2) (h + 18) (x3.1).toNat (x9.1)) (fun s13 => if 0 ≤ (x3.1) ∧ (x3.1) < ((60420 : Nat) : Int) then gLet (wI s13 (h + 19) (x3.1).toNat (w32 (((mI s13 h 49) - (mI s13 h 48)) - 2))) (fun s18 => (tw_next N h s18).bind (fun x21 => some x21)) else none) else none)) else (tw_part N h 1 0 σ).bind (fun x24 => (tw_numberFrom N h (mI (x24.2) h 48) (mI (x24.2) h 49) (x24.2)).bind (fun x30 => if 0 ≤ (x24.1) ∧ (x24.1) < ((60420 : Nat) : Int) then gLet (wL (x24.2) (h + 17) (x24.1).toNat x30) (fun s32 => (tw_next N h s32).bind (fun x35 => some x35)) else none)) else (tw_fail h 1 (mI σ h 51) σ).bind (fun x39 => some x39)
set_option maxRecDepth 100000 in
theorem ok_tw_readPlain {ω : gW} {l : Launch} {d : Nat} {N : Nat} {h : Nat} {σ : gMem} (hdp : 7 ≤ d) (hM : TM σ h) : gK (fun p : gMem => (.inl none, p)) gTw ω l d mu_tw_readPlain [vR h] σ (tw_readPlain N h σ) := by
  refine gK.of hp_X11 (Nat.le_of_ble_eq_true rfl) ?_
  unfold tw_readPlain
  refine x_aload_n (μ := mu_tw_readPlain) (pc := 0) 0 dX11_readPlain_0 rfl ?_
  refine x_fgi (μ := mu_tw_readPlain) (pc := 1) fX11_51 q2687 dX11_readPlain_1 hM.1 (fun hr1 => ?_)
  refine x_if_lt (μ := mu_tw_readPlain) (pc := 4) (tgt := 17) dX11_readPlain_4 rfl hr1 ?_ ?_
  · refine x_aload_n (μ := mu_tw_readPlain) (pc := 17) 0 dX11_readPlain_17 rfl ?_
    refine x_fgi (μ := mu_tw_readPlain) (pc := 18) fX11_47 q2683 dX11_readPlain_18 hM.1 (fun hr2 => ?_)
    refine x_iconst (μ := mu_tw_readPlain) (pc := 21) dX11_readPlain_21 ?_
    refine x_icmp_ne (μ := mu_tw_readPlain) (pc := 22) (tgt := 53) dX11_readPlain_22 rfl hr2 (by decide) ?_ ?_
    · refine x_aload_n (μ := mu_tw_readPlain) (pc := 53) 0 dX11_readPlain_53 rfl ?_
      refine x_iconst (μ := mu_tw_readPlain) (pc := 54) dX11_readPlain_54 ?_
      refine x_iconst (μ := mu_tw_readPlain) (pc := 55) dX11_readPlain_55 ?_
      refine x_callV_mi (μ := mu_tw_readPlain) (pc := 56) (ok_tw_part (ω := ω) (l := l) (d := d - 1) (by omega) hM (by decide) (by decide)) gRel_Tw gRel_Tw (fun _ q => q) q3083 q3085 qs101 q232 q3086 dX11_readPlain_56 rfl hM.1 hy_tw_part (by omega) (Nat.le_of_ble_eq_true rfl) rfl (Nat.le_of_ble_eq_true rfl) (fun x3 k5 hr4 => ?_)
      have hM6 : TM (x3.2) h := hM.tw k5
      refine x_istore_n (μ := mu_tw_readPlain) (pc := 59) (lv' := [(1, vI (x3.1)), (0, vR h)]) dX11_readPlain_59 rfl (by decide) rfl ?_
      refine x_aload_n (μ := mu_tw_readPlain) (pc := 60) 1 dX11_readPlain_60 rfl ?_
      refine x_fgrE (μ := mu_tw_readPlain) (pc := 61) fX11_30 (Or.inr ⟨_, rfl⟩) q2666 (hM6.a30).1 dX11_readPlain_61 hM6.1 ?_
      refine x_iload_n (μ := mu_tw_readPlain) (pc := 64) 0 dX11_readPlain_64 rfl ?_
      refine x_aload_n (μ := mu_tw_readPlain) (pc := 65) 1 dX11_readPlain_65 rfl ?_
      refine x_aload_n (μ := mu_tw_readPlain) (pc := 66) 1 dX11_readPlain_66 rfl ?_
      refine x_fgi (μ := mu_tw_readPlain) (pc := 67) fX11_48 q2684 dX11_readPlain_67 hM6.1 (fun hr7 => ?_)
      refine x_iconst (μ := mu_tw_readPlain) (pc := 70) dX11_readPlain_70 ?_
      refine x_iadd (μ := mu_tw_readPlain) (pc := 71) dX11_readPlain_71 ?_
      refine x_aload_n (μ := mu_tw_readPlain) (pc := 72) 1 dX11_readPlain_72 rfl ?_
      refine x_fgi (μ := mu_tw_readPlain) (pc := 73) fX11_49 q2685 dX11_readPlain_73 hM6.1 (fun hr8 => ?_)
      refine x_iconst (μ := mu_tw_readPlain) (pc := 76) dX11_readPlain_76 ?_
      refine x_isub (μ := mu_tw_readPlain) (pc := 77) dX11_readPlain_77 ?_
      refine x_w1 ?_
      refine x_w2 ?_
      refine x_callV_mi (μ := mu_tw_readPlain) (pc := 78) (ok_tw_kept (ω := ω) (l := l) (d := d - 1) (by omega) hM6 (w32_rng _) (w32_rng _)) gRel_Tw gRel_Tw (fun _ q => q) q3093 q3095 qs103 q232 q3096 dX11_readPlain_78 rfl hM6.1 hy_tw_kept (by omega) (Nat.le_of_ble_eq_true rfl) rfl (Nat.le_of_ble_eq_true rfl) (fun x9 k11 hr10 => ?_)
      have hM12 : TM (x9.2) h := hM6.tw k11
      refine x_iast (μ := mu_tw_readPlain) (pc := 81) dX11_readPlain_81 (hM12.a30).2.1 (hM12.a30).2.2 (fun _ _ q => gTw_wI q) ?_
      refine x_let (fun s13 e14 => ?_)
      have hM15 := TM.eI e14 hM12
      refine x_aload_n (μ := mu_tw_readPlain) (pc := 82) 1 dX11_readPlain_82 rfl ?_
      refine x_fgrE (μ := mu_tw_readPlain) (pc := 83) fX11_31 (Or.inr ⟨_, rfl⟩) q2667 (hM15.a31).1 dX11_readPlain_83 hM15.1 ?_
      refine x_iload_n (μ := mu_tw_readPlain) (pc := 86) 0 dX11_readPlain_86 rfl ?_
      refine x_aload_n (μ := mu_tw_readPlain) (pc := 87) 1 dX11_readPlain_87 rfl ?_
      refine x_fgi (μ := mu_tw_readPlain) (pc := 88) fX11_49 q2685 dX11_readPlain_88 hM15.1 (fun hr16 => ?_)
      refine x_aload_n (μ := mu_tw_readPlain) (pc := 91) 1 dX11_readPlain_91 rfl ?_
      refine x_fgi (μ := mu_tw_readPlain) (pc := 92) fX11_48 q2684 dX11_readPlain_92 hM15.1 (fun hr17 => ?_)
      refine x_isub (μ := mu_tw_readPlain) (pc := 95) dX11_readPlain_95 ?_
      refine x_iconst (μ := mu_tw_readPlain) (pc := 96) dX11_readPlain_96 ?_
      refine x_isub (μ := mu_tw_readPlain) (pc := 97) dX11_readPlain_97 ?_
      refine x_w1 ?_
      refine x_iast (μ := mu_tw_readPlain) (pc := 98) dX11_readPlain_98 (hM15.a31).2.1 (hM15.a31).2.2 (fun _ _ q => gTw_wI q) ?_
      refine x_let (fun s18 e19 => ?_)
      have hM20 := TM.eI e19 hM15
      refine x_aload_n (μ := mu_tw_readPlain) (pc := 99) 1 dX11_readPlain_99 rfl ?_
      refine x_callV_mv (μ := mu_tw_readPlain) (pc := 100) (ok_tw_next (ω := ω) (l := l) (d := d - 1) (by omega) hM20 ) gRel_Tw gRel_Tw (fun _ q => q) q2995 q2997 qs82 q232 q2998 dX11_readPlain_100 rfl hM20.1 hy_tw_next (by omega) (Nat.le_of_ble_eq_true rfl) rfl (Nat.le_of_ble_eq_true rfl) (fun x21 k22 => ?_)
      have hM23 : TM x21 h := hM20.tw k22
      exact x_vret (μ := mu_tw_readPlain) (pc := 103) (a1 := x21) dX11_readPlain_103 rfl rfl (gRel_Tw.1 _) trivial
    · refine x_aload_n (μ := mu_tw_readPlain) (pc := 25) 0 dX11_readPlain_25 rfl ?_
      refine x_iconst (μ := mu_tw_readPlain) (pc := 26) dX11_readPlain_26 ?_
      refine x_iconst (μ := mu_tw_readPlain) (pc := 27) dX11_readPlain_27 ?_
      refine x_callV_mi (μ := mu_tw_readPlain) (pc := 28) (ok_tw_part (ω := ω) (l := l) (d := d - 1) (by omega) hM (by decide) (by decide)) gRel_Tw gRel_Tw (fun _ q => q) q3083 q3085 qs101 q232 q3086 dX11_readPlain_28 rfl hM.1 hy_tw_part (by omega) (Nat.le_of_ble_eq_true rfl) rfl (Nat.le_of_ble_eq_true rfl) (fun x24 k26 hr25 => ?_)
      have hM27 : TM (x24.2) h := hM.tw k26
      refine x_istore_n (μ := mu_tw_readPlain) (pc := 31) (lv' := [(1, vI (x24.1)), (0, vR h)]) dX11_readPlain_31 rfl (by decide) rfl ?_
      refine x_aload_n (μ := mu_tw_readPlain) (pc := 32) 1 dX11_readPlain_32 rfl ?_
      refine x_fgrE (μ := mu_tw_readPlain) (pc := 33) fX11_29 (Or.inr ⟨_, rfl⟩) q2665 (hM27.a29).1 dX11_readPlain_33 hM27.1 ?_
      refine x_iload_n (μ := mu_tw_readPlain) (pc := 36) 0 dX11_readPlain_36 rfl ?_
      refine x_aload_n (μ := mu_tw_readPlain) (pc := 37) 1 dX11_readPlain_37 rfl ?_
      refine x_aload_n (μ := mu_tw_readPlain) (pc := 38) 1 dX11_readPlain_38 rfl ?_
      refine x_fgi (μ := mu_tw_readPlain) (pc := 39) fX11_48 q2684 dX11_readPlain_39 hM27.1 (fun hr28 => ?_)
      refine x_aload_n (μ := mu_tw_readPlain) (pc := 42) 1 dX11_readPlain_42 rfl ?_
      refine x_fgi (μ := mu_tw_readPlain) (pc := 43) fX11_49 q2685 dX11_readPlain_43 hM27.1 (fun hr29 => ?_)
      refine x_callV_pl (μ := mu_tw_readPlain) (pc := 46) (ok_tw_numberFrom (ω := ω) (l := l) (d := d - 1) (by omega) hM27 hr28 hr29) gRel_Tw gRel_Tw (fun _ q => q) q3087 q3089 qs102 q232 q3090 dX11_readPlain_46 rfl hM27.1 hy_tw_numberFrom (by omega) (Nat.le_of_ble_eq_true rfl) rfl (Nat.le_of_ble_eq_true rfl) (fun x30 hr31 => ?_)
      refine x_last (μ := mu_tw_readPlain) (pc := 49) dX11_readPlain_49 (hM27.a29).2.1 (hM27.a29).2.2 (fun _ _ q => gTw_wL q) ?_
      refine x_let (fun s32 e33 => ?_)
      have hM34 := TM.eL e33 hM27
      refine x_goto (μ := mu_tw_readPlain) (pc := 50) (tgt := 99) dX11_readPlain_50 rfl ?_
      refine x_aload_n (μ := mu_tw_readPlain) (pc := 99) 1 dX11_readPlain_99 rfl ?_
      refine x_callV_mv (μ := mu_tw_readPlain) (pc := 100) (ok_tw_next (ω := ω) (l := l) (d := d - 1) (by omega) hM34 ) gRel_Tw gRel_Tw (fun _ q => q) q2995 q2997 qs82 q232 q2998 dX11_readPlain_100 rfl hM34.1 hy_tw_next (by omega) (Nat.le_of_ble_eq_true rfl) rfl (Nat.le_of_ble_eq_true rfl) (fun x35 k36 => ?_)
      have hM37 : TM x35 h := hM34.tw k36
      exact x_vret (μ := mu_tw_readPlain) (pc := 103) (a1 := x35) dX11_readPlain_103 rfl rfl (gRel_Tw.1 _) trivial
  · refine x_aload_n (μ := mu_tw_readPlain) (pc := 7) 0 dX11_readPlain_7 rfl ?_
    refine x_iconst (μ := mu_tw_readPlain) (pc := 8) dX11_readPlain_8 ?_
    refine x_aload_n (μ := mu_tw_readPlain) (pc := 9) 0 dX11_readPlain_9 rfl ?_
    refine x_fgi (μ := mu_tw_readPlain) (pc := 10) fX11_51 q2687 dX11_readPlain_10 hM.1 (fun hr38 => ?_)
    refine x_callV_mv (μ := mu_tw_readPlain) (pc := 13) (ok_tw_fail (ω := ω) (l := l) (d := d - 1) (by omega) hM (by decide) hr38) gRel_Tw gRel_Tw (fun _ q => q) q3079 q3081 qs100 q232 q3082 dX11_readPlain_13 rfl hM.1 hy_tw_fail (by omega) (Nat.le_of_ble_eq_true rfl) rfl (Nat.le_of_ble_eq_true rfl) (fun x39 k40 => ?_)
    have hM41 : TM x39 h := hM.tw k40
    exact x_vret (μ := mu_tw_readPlain) (pc := 16) (a1 := x39) dX11_readPlain_16 rfl rfl (gRel_Tw.1 _) trivial
