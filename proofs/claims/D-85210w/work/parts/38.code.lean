def tw_copyFormula_l13_j236 (N : Nat) (h : Nat) (v1 : Int) (v2 : Int) (v3 : Int) (v4 : Int) (v5 : Int) (Kh : Int → gMem → Option (Int × gMem)) (K : gMem → Option (Int × gMem)) (s : gMem) : Option (Int × gMem) := Kh (w32 (v5 + 1)) s
set_option maxRecDepth 100000 in
theorem okj_tw_copyFormula_l13_j236 {ω : gW} {l : Launch} {d : Nat} {N : Nat} {h : Nat} {σ0 : gMem} {s : gMem} {v1 : Int} {v2 : Int} {v3 : Int} {v4 : Int} {v5 : Int} {Kh : Int → gMem → Option (Int × gMem)} {K : gMem → Option (Int × gMem)} (hdp : 4 ≤ d) (hM : TM s h) (hv1 : g32 v1) (hv2 : g32 v2) (hv3 : g32 v3) (hv4 : g32 v4) (hv5 : g32 v5) (hKh : ∀ (v5 : Int) (s : gMem) , g32 v5 → TM s h → GG (fun p : Int × gMem => (.inl (some (vI p.1)), p.2)) gTw ω l d mu_tw_copyFormula σ0 13 [(0, vR h), (1, vI v1), (2, vI v2), (3, vI v3), (4, vI v4), (5, vI v5)] [] s (Kh v5 s)) (hK : ∀ (s : gMem) , TM s h → GG (fun p : Int × gMem => (.inl (some (vI p.1)), p.2)) gTw ω l d mu_tw_copyFormula σ0 242 [(0, vR h), (4, vI v4)] [] s (K s)) : GG (fun p : Int × gMem => (.inl (some (vI p.1)), p.2)) gTw ω l d mu_tw_copyFormula σ0 236 [(0, vR h), (1, vI v1), (2, vI v2), (3, vI v3), (4, vI v4), (5, vI v5)] [] s (tw_copyFormula_l13_j236 N h v1 v2 v3 v4 v5 Kh K s) := by
  unfold tw_copyFormula_l13_j236
  refine x_iincw (μ := mu_tw_copyFormula) (pc := 236) (lv' := [(5, vI (w32 (v5 + 1))), (0, vR h), (1, vI v1), (2, vI v2), (3, vI v3), (4, vI v4)]) 5 dX11_copyFormula_236 rfl (by decide) rfl ?_
  refine x_goto (μ := mu_tw_copyFormula) (pc := 239) (tgt := 13) dX11_copyFormula_239 rfl ?_
  refine x_loc (lv' := [(0, vR h), (1, vI v1), (2, vI v2), (3, vI v3), (4, vI v4), (5, vI (w32 (v5 + 1)))]) [1, 2, 3, 4, 5, 0] rfl ?_
  exact hKh (w32 (v5 + 1)) s (w32_rng _) hM
def tw_copyFormula_l13_j228 (N : Nat) (h : Nat) (v1 : Int) (v2 : Int) (v3 : Int) (v4 : Int) (v5 : Int) (v7 : Int) (Kh : Int → gMem → Option (Int × gMem)) (K : gMem → Option (Int × gMem)) (s : gMem) : Option (Int × gMem) := (tw_shift N h v7 v2 v3 s).bind (fun x52 => tw_copyFormula_l13_j236 N h v1 v2 v3 v4 v5  (Kh) K x52)
set_option maxRecDepth 100000 in
theorem okj_tw_copyFormula_l13_j228 {ω : gW} {l : Launch} {d : Nat} {N : Nat} {h : Nat} {σ0 : gMem} {s : gMem} {v1 : Int} {v2 : Int} {v3 : Int} {v4 : Int} {v5 : Int} {v7 : Int} {Kh : Int → gMem → Option (Int × gMem)} {K : gMem → Option (Int × gMem)} (hdp : 4 ≤ d) (hM : TM s h) (hv1 : g32 v1) (hv2 : g32 v2) (hv3 : g32 v3) (hv4 : g32 v4) (hv5 : g32 v5) (hv7 : g32 v7) (hKh : ∀ (v5 : Int) (s : gMem) , g32 v5 → TM s h → GG (fun p : Int × gMem => (.inl (some (vI p.1)), p.2)) gTw ω l d mu_tw_copyFormula σ0 13 [(0, vR h), (1, vI v1), (2, vI v2), (3, vI v3), (4, vI v4), (5, vI v5)] [] s (Kh v5 s)) (hK : ∀ (s : gMem) , TM s h → GG (fun p : Int × gMem => (.inl (some (vI p.1)), p.2)) gTw ω l d mu_tw_copyFormula σ0 242 [(0, vR h), (4, vI v4)] [] s (K s)) : GG (fun p : Int × gMem => (.inl (some (vI p.1)), p.2)) gTw ω l d mu_tw_copyFormula σ0 228 [(0, vR h), (1, vI v1), (2, vI v2), (3, vI v3), (4, vI v4), (5, vI v5), (7, vI v7)] [] s (tw_copyFormula_l13_j228 N h v1 v2 v3 v4 v5 v7 Kh K s) := by
  unfold tw_copyFormula_l13_j228
  refine x_aload_n (μ := mu_tw_copyFormula) (pc := 228) 0 dX11_copyFormula_228 rfl ?_
  refine x_iload (μ := mu_tw_copyFormula) (pc := 229) 6 dX11_copyFormula_229 rfl ?_
  refine x_iload_n (μ := mu_tw_copyFormula) (pc := 231) 2 dX11_copyFormula_231 rfl ?_
  refine x_iload_n (μ := mu_tw_copyFormula) (pc := 232) 3 dX11_copyFormula_232 rfl ?_
  refine x_callV_mv (μ := mu_tw_copyFormula) (pc := 233) (ok_tw_shift (ω := ω) (l := l) (d := d - 1) (by omega) hM hv7 hv2 hv3) gRel_Tw gRel_Tw (fun _ q => q) q3569 q3571 qs191 q232 q3572 dX11_copyFormula_233 rfl hM.1 hy_tw_shift (by omega) (Nat.le_of_ble_eq_true rfl) rfl (Nat.le_of_ble_eq_true rfl) (fun x52 k53 => ?_)
  have hM54 : TM x52 h := hM.tw k53
  refine x_loc (lv' := [(0, vR h), (1, vI v1), (2, vI v2), (3, vI v3), (4, vI v4), (5, vI v5)]) [0, 1, 2, 3, 4, 5] rfl ?_
  exact okj_tw_copyFormula_l13_j236 hdp hM54 hv1 hv2 hv3 hv4 hv5 hKh hK
set_option maxRecDepth 100000 in
def tw_copyFormula_l13 (N : Nat) (h : Nat) (v1 : Int) (v2 : Int) (v3 : Int) (v4 : Int) (K : gMem → Option (Int × gMem)) : Nat → Int → gMem → Option (Int × gMem)
  | 0, _, _ => none
  | n + 1, v5, s => if v4 ≤ v5 then K s else if 0 ≤ (w32 ((v1 - 1) + v5)) ∧ (w32 ((v1 - 1) + v5)) < ((60420 : Nat) : Int) then if 0 ≤ (w32 ((mI s h 25) + v5)) ∧ (w32 ((mI s h 25) + v5)) < ((60420 : Nat) : Int) then gLet (wI s (h + 14) (w32 ((mI s h 25) + v5)).toNat (mI s (h + 14) (w32 ((v1 - 1) + v5)).toNat)) (fun s4 => if 0 ≤ (w32 ((v1 - 1) + v5)) ∧ (w32 ((v1 - 1) + v5)) < ((60420 : Nat) : Int) then if 0 ≤ (w32 ((mI s h 25) + v5)) ∧ (w32 ((mI s h 25) + v5)) < ((60420 : Nat) : Int) then gLet (wI s4 (h + 15) (w32 ((mI s h 25) + v5)).toNat (mI s4 (h + 15) (w32 ((v1 - 1) + v5)).toNat)) (fun s8 => if 0 ≤ (w32 ((v1 - 1) + v5)) ∧ (w32 ((v1 - 1) + v5)) < ((60420 : Nat) : Int) then if 0 ≤ (w32 ((mI s h 25) + v5)) ∧ (w32 ((mI s h 25) + v5)) < ((60420 : Nat) : Int) then gLet (wI s8 (h + 16) (w32 ((mI s h 25) + v5)).toNat (mI s8 (h + 16) (w32 ((v1 - 1) + v5)).toNat)) (fun s12 => if 0 ≤ (w32 ((v1 - 1) + v5)) ∧ (w32 ((v1 - 1) + v5)) < ((60420 : Nat) : Int) then if 0 ≤ (w32 ((mI s h 25) + v5)) ∧ (w32 ((mI s h 25) + v5)) < ((60420 : Nat) : Int) then gLet (wL s12 (h + 17) (w32 ((mI s h 25) + v5)).toNat (mL s12 (h + 17) (w32 ((v1 - 1) + v5)).toNat)) (fun s16 => if 0 ≤ (w32 ((v1 - 1) + v5)) ∧ (w32 ((v1 - 1) + v5)) < ((60420 : Nat) : Int) then if 0 ≤ (w32 ((mI s h 25) + v5)) ∧ (w32 ((mI s h 25) + v5)) < ((60420 : Nat) : Int) then gLet (wI s16 (h + 18) (w32 ((mI s h 25) + v5)).toNat (mI s16 (h + 18) (w32 ((v1 - 1) + v5)).toNat)) (fun s20 => if 0 ≤ (w32 ((v1 - 1) + v5)) ∧ (w32 ((v1 - 1) + v5)) < ((60420 : Nat) : Int) then if 0 ≤ (w32 ((mI s h 25) + v5)) ∧ (w32 ((mI s h 25) + v5)) < ((60420 : Nat) : Int) then gLet (wI s20 (h + 19) (w32 ((mI s h 25) + v5)).toNat (mI s20 (h + 19) (w32 ((v1 - 1) + v5)).toNat)) (fun s24 => if 0 ≤ (w32 ((v1 - 1) + v5)) ∧ (w32 ((v1 - 1) + v5)) < ((60420 : Nat) : Int) then if 0 ≤ (w32 ((mI s h 25) + v5)) ∧ (w32 ((mI s h 25) + v5)) < ((60420 : Nat) : Int) then gLet (wI s24 (h + 20) (w32 ((mI s h 25) + v5)).toNat (mI s24 (h + 20) (w32 ((v1 - 1) + v5)).toNat)) (fun s28 => if 0 ≤ (w32 ((v1 - 1) + v5)) ∧ (w32 ((v1 - 1) + v5)) < ((60420 : Nat) : Int) then if 0 ≤ (w32 ((mI s h 25) + v5)) ∧ (w32 ((mI s h 25) + v5)) < ((60420 : Nat) : Int) then gLet (wI s28 (h + 21) (w32 ((mI s h 25) + v5)).toNat (mI s28 (h + 21) (w32 ((v1 - 1) + v5)).toNat)) (fun s32 => if 0 ≤ (w32 ((v1 - 1) + v5)) ∧ (w32 ((v1 - 1) + v5)) < ((60420 : Nat) : Int) then if 0 ≤ (w32 ((mI s h 25) + v5)) ∧ (w32 ((mI s h 25) + v5)) < ((60420 : Nat) : Int) then gLet (wI s32 (h + 22) (w32 ((mI s h 25) + v5)).toNat (mI s32 (h + 22) (w32 ((v1 - 1) + v5)).toNat)) (fun s36 => if 0 ≤ (w32 ((v1 - 1) + v5)) ∧ (w32 ((v1 - 1) + v5)) < ((60420 : Nat) : Int) then if 0 ≤ (w32 ((mI s h 25) + v5)) ∧ (w32 ((mI s h 25) + v5)) < ((60420 : Nat) : Int) then gLet (wI s36 (h + 23) (w32 ((mI s h 25) + v5)).toNat (mI s36 (h + 23) (w32 ((v1 - 1) + v5)).toNat)) (fun s40 => if 0 ≤ (w32 ((v1 - 1) + v5)) ∧ (w32 ((v1 - 1) + v5)) < ((60420 : Nat) : Int) then if 0 ≤ (w32 ((mI s h 25) + v5)) ∧ (w32 ((mI s h 25) + v5)) < ((60420 : Nat) : Int) then gLet (wI s40 (h + 24) (w32 ((mI s h 25) + v5)).toNat (mI s40 (h + 24) (w32 ((v1 - 1) + v5)).toNat)) (fun s44 => if 0 ≤ (w32 ((v1 - 1) + v5)) ∧ (w32 ((v1 - 1) + v5)) < ((60420 : Nat) : Int) then if 0 ≤ (w32 ((mI s h 25) + v5)) ∧ (w32 ((mI s h 25) + v5)) < ((60420 : Nat) : Int) then gLet (wI s44 (h + 25) (w32 ((mI s h 25) + v5)).toNat (mI s44 (h + 25) (w32 ((v1 - 1) + v5)).toNat)) (fun s48 => if 0 ≤ (w32 ((mI s h 25) + v5)) ∧ (w32 ((mI s h 25) + v5)) < ((60420 : Nat) : Int) then if mI s48 (h + 14) (w32 ((mI s h 25) + v5)).toNat = 5 then tw_copyFormula_l13_j228 N h v1 v2 v3 v4 v5 (w32 ((mI s h 25) + v5))  (tw_copyFormula_l13 N h v1 v2 v3 v4 K n) K s48 else if 0 ≤ (w32 ((mI s h 25) + v5)) ∧ (w32 ((mI s h 25) + v5)) < ((60420 : Nat) : Int) then if mI s48 (h + 14) (w32 ((mI s h 25) + v5)).toNat ≠ 6 then tw_copyFormula_l13_j236 N h v1 v2 v3 v4 v5  (tw_copyFormula_l13 N h v1 v2 v3 v4 K n) K s48 else tw_copyFormula_l13_j228 N h v1 v2 v3 v4 v5 (w32 ((mI s h 25) + v5))  (tw_copyFormula_l13 N h v1 v2 v3 v4 K n) K s48 else none else none) else none else none) else none else none) else none else none) else none else none) else none else none) else none else none) else none else none) else none else none) else none else none) else none else none) else none else none) else none else none
set_option maxRecDepth 100000 in
theorem okl_tw_copyFormula_l13 {ω : gW} {l : Launch} {d : Nat} {N : Nat} {h : Nat} {σ0 : gMem} {v1 : Int} {v2 : Int} {v3 : Int} {v4 : Int} {K : gMem → Option (Int × gMem)} (hdp : 4 ≤ d) (hv1 : g32 v1) (hv2 : g32 v2) (hv3 : g32 v3) (hv4 : g32 v4) (hK : ∀ (s : gMem) , TM s h → GG (fun p : Int × gMem => (.inl (some (vI p.1)), p.2)) gTw ω l d mu_tw_copyFormula σ0 242 [(0, vR h), (4, vI v4)] [] s (K s)) : ∀ (n : Nat) (v5 : Int) (s : gMem) , g32 v5 → TM s h → GG (fun p : Int × gMem => (.inl (some (vI p.1)), p.2)) gTw ω l d mu_tw_copyFormula σ0 13 [(0, vR h), (1, vI v1), (2, vI v2), (3, vI v3), (4, vI v4), (5, vI v5)] [] s (tw_copyFormula_l13 N h v1 v2 v3 v4 K n v5 s) := by
  intro n
  induction n with
  | zero => intros; exact x_none
  | succ n ih =>
    intro v5 s hv5 hM
    unfold tw_copyFormula_l13
    refine x_iload (μ := mu_tw_copyFormula) (pc := 13) 5 dX11_copyFormula_13 rfl ?_
    refine x_iload (μ := mu_tw_copyFormula) (pc := 15) 4 dX11_copyFormula_15 rfl ?_
    refine x_icmp_ge (μ := mu_tw_copyFormula) (pc := 17) (tgt := 242) dX11_copyFormula_17 rfl hv5 hv4 ?_ ?_
    · refine x_loc (lv' := [(0, vR h), (4, vI v4)]) [0, 4] rfl ?_
      exact hK s hM
    · refine x_iload_n (μ := mu_tw_copyFormula) (pc := 20) 1 dX11_copyFormula_20 rfl ?_
      refine x_iconst (μ := mu_tw_copyFormula) (pc := 21) dX11_copyFormula_21 ?_
      refine x_isub (μ := mu_tw_copyFormula) (pc := 22) dX11_copyFormula_22 ?_
      refine x_iload (μ := mu_tw_copyFormula) (pc := 23) 5 dX11_copyFormula_23 rfl ?_
      refine x_iadd (μ := mu_tw_copyFormula) (pc := 25) dX11_copyFormula_25 ?_
      refine x_w1 ?_
      refine x_istore (μ := mu_tw_copyFormula) (pc := 26) (lv' := [(6, vI (w32 ((v1 - 1) + v5))), (0, vR h), (1, vI v1), (2, vI v2), (3, vI v3), (4, vI v4), (5, vI v5)]) dX11_copyFormula_26 (by decide) rfl ?_
      refine x_aload_n (μ := mu_tw_copyFormula) (pc := 28) 1 dX11_copyFormula_28 rfl ?_
      refine x_fgi (μ := mu_tw_copyFormula) (pc := 29) fX11_25 q2661 dX11_copyFormula_29 hM.1 (fun hr2 => ?_)
      refine x_iload (μ := mu_tw_copyFormula) (pc := 32) 6 dX11_copyFormula_32 rfl ?_
      refine x_iadd (μ := mu_tw_copyFormula) (pc := 34) dX11_copyFormula_34 ?_
      refine x_w1 ?_
      refine x_istore (μ := mu_tw_copyFormula) (pc := 35) (lv' := [(7, vI (w32 ((mI s h 25) + v5))), (6, vI (w32 ((v1 - 1) + v5))), (0, vR h), (1, vI v1), (2, vI v2), (3, vI v3), (4, vI v4), (5, vI v5)]) dX11_copyFormula_35 (by decide) rfl ?_
      refine x_aload_n (μ := mu_tw_copyFormula) (pc := 37) 2 dX11_copyFormula_37 rfl ?_
      refine x_fgrE (μ := mu_tw_copyFormula) (pc := 38) fX11_26 (Or.inr ⟨_, rfl⟩) q2662 (hM.a26).1 dX11_copyFormula_38 hM.1 ?_
      refine x_iload (μ := mu_tw_copyFormula) (pc := 41) 0 dX11_copyFormula_41 rfl ?_
      refine x_aload_n (μ := mu_tw_copyFormula) (pc := 43) 2 dX11_copyFormula_43 rfl ?_
      refine x_fgrE (μ := mu_tw_copyFormula) (pc := 44) fX11_26 (Or.inr ⟨_, rfl⟩) q2662 (hM.a26).1 dX11_copyFormula_44 hM.1 ?_
      refine x_iload (μ := mu_tw_copyFormula) (pc := 47) 1 dX11_copyFormula_47 rfl ?_
      refine x_iald (μ := mu_tw_copyFormula) (pc := 49) dX11_copyFormula_49 (hM.a26).2.1 (hM.a26).2.2 (fun hr3 => ?_)
      refine x_iast (μ := mu_tw_copyFormula) (pc := 50) dX11_copyFormula_50 (hM.a26).2.1 (hM.a26).2.2 (fun _ _ q => gTw_wI q) ?_
      refine x_let (fun s4 e5 => ?_)
      have hM6 := TM.eI e5 hM
      refine x_aload_n (μ := mu_tw_copyFormula) (pc := 51) 2 dX11_copyFormula_51 rfl ?_
      refine x_fgrE (μ := mu_tw_copyFormula) (pc := 52) fX11_27 (Or.inr ⟨_, rfl⟩) q2663 (hM6.a27).1 dX11_copyFormula_52 hM6.1 ?_
      refine x_iload (μ := mu_tw_copyFormula) (pc := 55) 0 dX11_copyFormula_55 rfl ?_
      refine x_aload_n (μ := mu_tw_copyFormula) (pc := 57) 2 dX11_copyFormula_57 rfl ?_
      refine x_fgrE (μ := mu_tw_copyFormula) (pc := 58) fX11_27 (Or.inr ⟨_, rfl⟩) q2663 (hM6.a27).1 dX11_copyFormula_58 hM6.1 ?_
      refine x_iload (μ := mu_tw_copyFormula) (pc := 61) 1 dX11_copyFormula_61 rfl ?_
      refine x_iald (μ := mu_tw_copyFormula) (pc := 63) dX11_copyFormula_63 (hM6.a27).2.1 (hM6.a27).2.2 (fun hr7 => ?_)
      refine x_iast (μ := mu_tw_copyFormula) (pc := 64) dX11_copyFormula_64 (hM6.a27).2.1 (hM6.a27).2.2 (fun _ _ q => gTw_wI q) ?_
      refine x_let (fun s8 e9 => ?_)
      have hM10 := TM.eI e9 hM6
      refine x_aload_n (μ := mu_tw_copyFormula) (pc := 65) 2 dX11_copyFormula_65 rfl ?_
      refine x_fgrE (μ := mu_tw_copyFormula) (pc := 66) fX11_28 (Or.inr ⟨_, rfl⟩) q2664 (hM10.a28).1 dX11_copyFormula_66 hM10.1 ?_
      refine x_iload (μ := mu_tw_copyFormula) (pc := 69) 0 dX11_copyFormula_69 rfl ?_
      refine x_aload_n (μ := mu_tw_copyFormula) (pc := 71) 2 dX11_copyFormula_71 rfl ?_
      refine x_fgrE (μ := mu_tw_copyFormula) (pc := 72) fX11_28 (Or.inr ⟨_, rfl⟩) q2664 (hM10.a28).1 dX11_copyFormula_72 hM10.1 ?_
      refine x_iload (μ := mu_tw_copyFormula) (pc := 75) 1 dX11_copyFormula_75 rfl ?_
      refine x_iald (μ := mu_tw_copyFormula) (pc := 77) dX11_copyFormula_77 (hM10.a28).2.1 (hM10.a28).2.2 (fun hr11 => ?_)
      refine x_iast (μ := mu_tw_copyFormula) (pc := 78) dX11_copyFormula_78 (hM10.a28).2.1 (hM10.a28).2.2 (fun _ _ q => gTw_wI q) ?_
      refine x_let (fun s12 e13 => ?_)
      have hM14 := TM.eI e13 hM10
      refine x_aload_n (μ := mu_tw_copyFormula) (pc := 79) 2 dX11_copyFormula_79 rfl ?_
      refine x_fgrE (μ := mu_tw_copyFormula) (pc := 80) fX11_29 (Or.inr ⟨_, rfl⟩) q2665 (hM14.a29).1 dX11_copyFormula_80 hM14.1 ?_
      refine x_iload (μ := mu_tw_copyFormula) (pc := 83) 0 dX11_copyFormula_83 rfl ?_
      refine x_aload_n (μ := mu_tw_copyFormula) (pc := 85) 2 dX11_copyFormula_85 rfl ?_
      refine x_fgrE (μ := mu_tw_copyFormula) (pc := 86) fX11_29 (Or.inr ⟨_, rfl⟩) q2665 (hM14.a29).1 dX11_copyFormula_86 hM14.1 ?_
      refine x_iload (μ := mu_tw_copyFormula) (pc := 89) 1 dX11_copyFormula_89 rfl ?_
      refine x_lald (μ := mu_tw_copyFormula) (pc := 91) dX11_copyFormula_91 (hM14.a29).2.1 (hM14.a29).2.2 (fun hr15 => ?_)
      refine x_last (μ := mu_tw_copyFormula) (pc := 92) dX11_copyFormula_92 (hM14.a29).2.1 (hM14.a29).2.2 (fun _ _ q => gTw_wL q) ?_
      refine x_let (fun s16 e17 => ?_)
      have hM18 := TM.eL e17 hM14
      refine x_aload_n (μ := mu_tw_copyFormula) (pc := 93) 2 dX11_copyFormula_93 rfl ?_
      refine x_fgrE (μ := mu_tw_copyFormula) (pc := 94) fX11_30 (Or.inr ⟨_, rfl⟩) q2666 (hM18.a30).1 dX11_copyFormula_94 hM18.1 ?_
      refine x_iload (μ := mu_tw_copyFormula) (pc := 97) 0 dX11_copyFormula_97 rfl ?_
      refine x_aload_n (μ := mu_tw_copyFormula) (pc := 99) 2 dX11_copyFormula_99 rfl ?_
      refine x_fgrE (μ := mu_tw_copyFormula) (pc := 100) fX11_30 (Or.inr ⟨_, rfl⟩) q2666 (hM18.a30).1 dX11_copyFormula_100 hM18.1 ?_
      refine x_iload (μ := mu_tw_copyFormula) (pc := 103) 1 dX11_copyFormula_103 rfl ?_
      refine x_iald (μ := mu_tw_copyFormula) (pc := 105) dX11_copyFormula_105 (hM18.a30).2.1 (hM18.a30).2.2 (fun hr19 => ?_)
      refine x_iast (μ := mu_tw_copyFormula) (pc := 106) dX11_copyFormula_106 (hM18.a30).2.1 (hM18.a30).2.2 (fun _ _ q => gTw_wI q) ?_
      refine x_let (fun s20 e21 => ?_)
      have hM22 := TM.eI e21 hM18
      refine x_aload_n (μ := mu_tw_copyFormula) (pc := 107) 2 dX11_copyFormula_107 rfl ?_
      refine x_fgrE (μ := mu_tw_copyFormula) (pc := 108) fX11_31 (Or.inr ⟨_, rfl⟩) q2667 (hM22.a31).1 dX11_copyFormula_108 hM22.1 ?_
      refine x_iload (μ := mu_tw_copyFormula) (pc := 111) 0 dX11_copyFormula_111 rfl ?_
      refine x_aload_n (μ := mu_tw_copyFormula) (pc := 113) 2 dX11_copyFormula_113 rfl ?_
      refine x_fgrE (μ := mu_tw_copyFormula) (pc := 114) fX11_31 (Or.inr ⟨_, rfl⟩) q2667 (hM22.a31).1 dX11_copyFormula_114 hM22.1 ?_
      refine x_iload (μ := mu_tw_copyFormula) (pc := 117) 1 dX11_copyFormula_117 rfl ?_
      refine x_iald (μ := mu_tw_copyFormula) (pc := 119) dX11_copyFormula_119 (hM22.a31).2.1 (hM22.a31).2.2 (fun hr23 => ?_)
      refine x_iast (μ := mu_tw_copyFormula) (pc := 120) dX11_copyFormula_120 (hM22.a31).2.1 (hM22.a31).2.2 (fun _ _ q => gTw_wI q) ?_
      refine x_let (fun s24 e25 => ?_)
      have hM26 := TM.eI e25 hM22
      refine x_aload_n (μ := mu_tw_copyFormula) (pc := 121) 2 dX11_copyFormula_121 rfl ?_
      refine x_fgrE (μ := mu_tw_copyFormula) (pc := 122) fX11_32 (Or.inr ⟨_, rfl⟩) q2668 (hM26.a32).1 dX11_copyFormula_122 hM26.1 ?_
      refine x_iload (μ := mu_tw_copyFormula) (pc := 125) 0 dX11_copyFormula_125 rfl ?_
      refine x_aload_n (μ := mu_tw_copyFormula) (pc := 127) 2 dX11_copyFormula_127 rfl ?_
      refine x_fgrE (μ := mu_tw_copyFormula) (pc := 128) fX11_32 (Or.inr ⟨_, rfl⟩) q2668 (hM26.a32).1 dX11_copyFormula_128 hM26.1 ?_
      refine x_iload (μ := mu_tw_copyFormula) (pc := 131) 1 dX11_copyFormula_131 rfl ?_
      refine x_iald (μ := mu_tw_copyFormula) (pc := 133) dX11_copyFormula_133 (hM26.a32).2.1 (hM26.a32).2.2 (fun hr27 => ?_)
      refine x_iast (μ := mu_tw_copyFormula) (pc := 134) dX11_copyFormula_134 (hM26.a32).2.1 (hM26.a32).2.2 (fun _ _ q => gTw_wI q) ?_
      refine x_let (fun s28 e29 => ?_)
      have hM30 := TM.eI e29 hM26
      refine x_aload_n (μ := mu_tw_copyFormula) (pc := 135) 2 dX11_copyFormula_135 rfl ?_
      refine x_fgrE (μ := mu_tw_copyFormula) (pc := 136) fX11_33 (Or.inr ⟨_, rfl⟩) q2669 (hM30.a33).1 dX11_copyFormula_136 hM30.1 ?_
      refine x_iload (μ := mu_tw_copyFormula) (pc := 139) 0 dX11_copyFormula_139 rfl ?_
      refine x_aload_n (μ := mu_tw_copyFormula) (pc := 141) 2 dX11_copyFormula_141 rfl ?_
      refine x_fgrE (μ := mu_tw_copyFormula) (pc := 142) fX11_33 (Or.inr ⟨_, rfl⟩) q2669 (hM30.a33).1 dX11_copyFormula_142 hM30.1 ?_
      refine x_iload (μ := mu_tw_copyFormula) (pc := 145) 1 dX11_copyFormula_145 rfl ?_
      refine x_iald (μ := mu_tw_copyFormula) (pc := 147) dX11_copyFormula_147 (hM30.a33).2.1 (hM30.a33).2.2 (fun hr31 => ?_)
      refine x_iast (μ := mu_tw_copyFormula) (pc := 148) dX11_copyFormula_148 (hM30.a33).2.1 (hM30.a33).2.2 (fun _ _ q => gTw_wI q) ?_
      refine x_let (fun s32 e33 => ?_)
      have hM34 := TM.eI e33 hM30
      refine x_aload_n (μ := mu_tw_copyFormula) (pc := 149) 2 dX11_copyFormula_149 rfl ?_
      refine x_fgrE (μ := mu_tw_copyFormula) (pc := 150) fX11_34 (Or.inr ⟨_, rfl⟩) q2670 (hM34.a34).1 dX11_copyFormula_150 hM34.1 ?_
      refine x_iload (μ := mu_tw_copyFormula) (pc := 153) 0 dX11_copyFormula_153 rfl ?_
      refine x_aload_n (μ := mu_tw_copyFormula) (pc := 155) 2 dX11_copyFormula_155 rfl ?_
      refine x_fgrE (μ := mu_tw_copyFormula) (pc := 156) fX11_34 (Or.inr ⟨_, rfl⟩) q2670 (hM34.a34).1 dX11_copyFormula_156 hM34.1 ?_
      refine x_iload (μ := mu_tw_copyFormula) (pc := 159) 1 dX11_copyFormula_159 rfl ?_
      refine x_iald (μ := mu_tw_copyFormula) (pc := 161) dX11_copyFormula_161 (hM34.a34).2.1 (hM34.a34).2.2 (fun hr35 => ?_)
      refine x_iast (μ := mu_tw_copyFormula) (pc := 162) dX11_copyFormula_162 (hM34.a34).2.1 (hM34.a34).2.2 (fun _ _ q => gTw_wI q) ?_
      refine x_let (fun s36 e37 => ?_)
      have hM38 := TM.eI e37 hM34
      refine x_aload_n (μ := mu_tw_copyFormula) (pc := 163) 2 dX11_copyFormula_163 rfl ?_
      refine x_fgrE (μ := mu_tw_copyFormula) (pc := 164) fX11_35 (Or.inr ⟨_, rfl⟩) q2671 (hM38.a35).1 dX11_copyFormula_164 hM38.1 ?_
      refine x_iload (μ := mu_tw_copyFormula) (pc := 167) 0 dX11_copyFormula_167 rfl ?_
      refine x_aload_n (μ := mu_tw_copyFormula) (pc := 169) 2 dX11_copyFormula_169 rfl ?_
      refine x_fgrE (μ := mu_tw_copyFormula) (pc := 170) fX11_35 (Or.inr ⟨_, rfl⟩) q2671 (hM38.a35).1 dX11_copyFormula_170 hM38.1 ?_
      refine x_iload (μ := mu_tw_copyFormula) (pc := 173) 1 dX11_copyFormula_173 rfl ?_
      refine x_iald (μ := mu_tw_copyFormula) (pc := 175) dX11_copyFormula_175 (hM38.a35).2.1 (hM38.a35).2.2 (fun hr39 => ?_)
      refine x_iast (μ := mu_tw_copyFormula) (pc := 176) dX11_copyFormula_176 (hM38.a35).2.1 (hM38.a35).2.2 (fun _ _ q => gTw_wI q) ?_
      refine x_let (fun s40 e41 => ?_)
      have hM42 := TM.eI e41 hM38
      refine x_aload_n (μ := mu_tw_copyFormula) (pc := 177) 2 dX11_copyFormula_177 rfl ?_
      refine x_fgrE (μ := mu_tw_copyFormula) (pc := 178) fX11_36 (Or.inr ⟨_, rfl⟩) q2672 (hM42.a36).1 dX11_copyFormula_178 hM42.1 ?_
      refine x_iload (μ := mu_tw_copyFormula) (pc := 181) 0 dX11_copyFormula_181 rfl ?_
      refine x_aload_n (μ := mu_tw_copyFormula) (pc := 183) 2 dX11_copyFormula_183 rfl ?_
      refine x_fgrE (μ := mu_tw_copyFormula) (pc := 184) fX11_36 (Or.inr ⟨_, rfl⟩) q2672 (hM42.a36).1 dX11_copyFormula_184 hM42.1 ?_
      refine x_iload (μ := mu_tw_copyFormula) (pc := 187) 1 dX11_copyFormula_187 rfl ?_
      refine x_iald (μ := mu_tw_copyFormula) (pc := 189) dX11_copyFormula_189 (hM42.a36).2.1 (hM42.a36).2.2 (fun hr43 => ?_)
      refine x_iast (μ := mu_tw_copyFormula) (pc := 190) dX11_copyFormula_190 (hM42.a36).2.1 (hM42.a36).2.2 (fun _ _ q => gTw_wI q) ?_
      refine x_let (fun s44 e45 => ?_)
      have hM46 := TM.eI e45 hM42
      refine x_aload_n (μ := mu_tw_copyFormula) (pc := 191) 2 dX11_copyFormula_191 rfl ?_
      refine x_fgrE (μ := mu_tw_copyFormula) (pc := 192) fX11_37 (Or.inr ⟨_, rfl⟩) q2673 (hM46.a37).1 dX11_copyFormula_192 hM46.1 ?_
      refine x_iload (μ := mu_tw_copyFormula) (pc := 195) 0 dX11_copyFormula_195 rfl ?_
      refine x_aload_n (μ := mu_tw_copyFormula) (pc := 197) 2 dX11_copyFormula_197 rfl ?_
      refine x_fgrE (μ := mu_tw_copyFormula) (pc := 198) fX11_37 (Or.inr ⟨_, rfl⟩) q2673 (hM46.a37).1 dX11_copyFormula_198 hM46.1 ?_
      refine x_iload (μ := mu_tw_copyFormula) (pc := 201) 1 dX11_copyFormula_201 rfl ?_
      refine x_iald (μ := mu_tw_copyFormula) (pc := 203) dX11_copyFormula_203 (hM46.a37).2.1 (hM46.a37).2.2 (fun hr47 => ?_)
      refine x_iast (μ := mu_tw_copyFormula) (pc := 204) dX11_copyFormula_204 (hM46.a37).2.1 (hM46.a37).2.2 (fun _ _ q => gTw_wI q) ?_
      refine x_let (fun s48 e49 => ?_)
      have hM50 := TM.eI e49 hM46
      refine x_aload_n (μ := mu_tw_copyFormula) (pc := 205) 2 dX11_copyFormula_205 rfl ?_
      refine x_fgrE (μ := mu_tw_copyFormula) (pc := 206) fX11_26 (Or.inr ⟨_, rfl⟩) q2662 (hM50.a26).1 dX11_copyFormula_206 hM50.1 ?_
      refine x_iload (μ := mu_tw_copyFormula) (pc := 209) 0 dX11_copyFormula_209 rfl ?_
      refine x_iald (μ := mu_tw_copyFormula) (pc := 211) dX11_copyFormula_211 (hM50.a26).2.1 (hM50.a26).2.2 (fun hr51 => ?_)
      refine x_iconst (μ := mu_tw_copyFormula) (pc := 212) dX11_copyFormula_212 ?_
      refine x_icmp_eq (μ := mu_tw_copyFormula) (pc := 213) (tgt := 228) dX11_copyFormula_213 rfl hr51 (by decide) ?_ ?_
      · refine x_loc (lv' := [(0, vR h), (1, vI v1), (2, vI v2), (3, vI v3), (4, vI v4), (5, vI v5), (7, vI (w32 ((mI s h 25) + v5)))]) [2, 3, 4, 5, 6, 7, 0] rfl ?_
        exact okj_tw_copyFormula_l13_j228 hdp hM50 hv1 hv2 hv3 hv4 hv5 (w32_rng _) ih hK
      · refine x_aload_n (μ := mu_tw_copyFormula) (pc := 216) 2 dX11_copyFormula_216 rfl ?_
        refine x_fgrE (μ := mu_tw_copyFormula) (pc := 217) fX11_26 (Or.inr ⟨_, rfl⟩) q2662 (hM50.a26).1 dX11_copyFormula_217 hM50.1 ?_
        refine x_iload (μ := mu_tw_copyFormula) (pc := 220) 0 dX11_copyFormula_220 rfl ?_
        refine x_iald (μ := mu_tw_copyFormula) (pc := 222) dX11_copyFormula_222 (hM50.a26).2.1 (hM50.a26).2.2 (fun hr55 => ?_)
        refine x_bipush (μ := mu_tw_copyFormula) (pc := 223) dX11_copyFormula_223 (by decide) ?_
        refine x_icmp_ne (μ := mu_tw_copyFormula) (pc := 225) (tgt := 236) dX11_copyFormula_225 rfl hr55 (by decide) ?_ ?_
        · refine x_loc (lv' := [(0, vR h), (1, vI v1), (2, vI v2), (3, vI v3), (4, vI v4), (5, vI v5)]) [2, 3, 4, 5, 6, 7] rfl ?_
          exact okj_tw_copyFormula_l13_j236 hdp hM50 hv1 hv2 hv3 hv4 hv5 ih hK
        · refine x_loc (lv' := [(0, vR h), (1, vI v1), (2, vI v2), (3, vI v3), (4, vI v4), (5, vI v5), (7, vI (w32 ((mI s h 25) + v5)))]) [2, 3, 4, 5, 6, 7, 0] rfl ?_
          exact okj_tw_copyFormula_l13_j228 hdp hM50 hv1 hv2 hv3 hv4 hv5 (w32_rng _) ih hK
def tw_copyFormula (N : Nat) (h : Nat) (v1 : Int) (v2 : Int) (v3 : Int) (σ : gMem) : Option (Int × gMem) := if 0 ≤ (v1 - 1) ∧ (v1 - 1) < ((60420 : Nat) : Int) then tw_copyFormula_l13 N h v1 v2 v3 (mI σ (h + 26) (v1 - 1).toNat) (fun s56 => if 0 ≤ (mI s56 h 25) ∧ (mI s56 h 25) < ((60420 : Nat) : Int) then gLet (wI s56 (h + 26) (mI s56 h 25).toNat (mI σ (h + 26) (v1 - 1).toNat)) (fun s59 => gLet (wI s59 h 25 (w32 ((mI s59 h 25) + (mI σ (h + 26) (v1 - 1).toNat)))) (fun s63 => some (w32 (((mI s63 h 25) - (mI σ (h + 26) (v1 - 1).toNat)) + 1), s63))) else none) N 0 σ else none
set_option maxRecDepth 100000 in
theorem ok_tw_copyFormula {ω : gW} {l : Launch} {d : Nat} {N : Nat} {h : Nat} {σ : gMem} {v1 : Int} {v2 : Int} {v3 : Int} (hdp : 4 ≤ d) (hM : TM σ h) (hv1 : g32 v1) (hv2 : g32 v2) (hv3 : g32 v3) : gK (fun p : Int × gMem => (.inl (some (vI p.1)), p.2)) gTw ω l d mu_tw_copyFormula [vR h, vI v1, vI v2, vI v3] σ (tw_copyFormula N h v1 v2 v3 σ) := by
  refine gK.of hp_X11 (Nat.le_of_ble_eq_true rfl) ?_
  unfold tw_copyFormula
  refine x_aload_n (μ := mu_tw_copyFormula) (pc := 0) 0 dX11_copyFormula_0 rfl ?_
  refine x_fgrE (μ := mu_tw_copyFormula) (pc := 1) fX11_38 (Or.inr ⟨_, rfl⟩) q2674 (hM.a38).1 dX11_copyFormula_1 hM.1 ?_
  refine x_iload_n (μ := mu_tw_copyFormula) (pc := 4) 1 dX11_copyFormula_4 rfl ?_
  refine x_iconst (μ := mu_tw_copyFormula) (pc := 5) dX11_copyFormula_5 ?_
  refine x_isub (μ := mu_tw_copyFormula) (pc := 6) dX11_copyFormula_6 ?_
  refine x_iald (μ := mu_tw_copyFormula) (pc := 7) dX11_copyFormula_7 (hM.a38).2.1 (hM.a38).2.2 (fun hr1 => ?_)
  refine x_istore (μ := mu_tw_copyFormula) (pc := 8) (lv' := [(4, vI (mI σ (h + 26) (v1 - 1).toNat)), (0, vR h), (1, vI v1), (2, vI v2), (3, vI v3)]) dX11_copyFormula_8 (by decide) rfl ?_
  refine x_iconst (μ := mu_tw_copyFormula) (pc := 10) dX11_copyFormula_10 ?_
  refine x_istore (μ := mu_tw_copyFormula) (pc := 11) (lv' := [(5, vI 0), (4, vI (mI σ (h + 26) (v1 - 1).toNat)), (0, vR h), (1, vI v1), (2, vI v2), (3, vI v3)]) dX11_copyFormula_11 (by decide) rfl ?_
  refine x_loc (lv' := [(0, vR h), (1, vI v1), (2, vI v2), (3, vI v3), (4, vI (mI σ (h + 26) (v1 - 1).toNat)), (5, vI 0)]) [2, 3, 4, 5, 1, 0] rfl ?_
  refine okl_tw_copyFormula_l13 hdp hv1 hv2 hv3 hr1 (fun s56 hM57 => ?_) N 0 σ (by decide) hM
  refine x_aload_n (μ := mu_tw_copyFormula) (pc := 242) 0 dX11_copyFormula_242 rfl ?_
  refine x_fgrE (μ := mu_tw_copyFormula) (pc := 243) fX11_38 (Or.inr ⟨_, rfl⟩) q2674 (hM57.a38).1 dX11_copyFormula_243 hM57.1 ?_
  refine x_aload_n (μ := mu_tw_copyFormula) (pc := 246) 0 dX11_copyFormula_246 rfl ?_
  refine x_fgi (μ := mu_tw_copyFormula) (pc := 247) fX11_25 q2661 dX11_copyFormula_247 hM57.1 (fun hr58 => ?_)
  refine x_iload (μ := mu_tw_copyFormula) (pc := 250) 1 dX11_copyFormula_250 rfl ?_
  refine x_iast (μ := mu_tw_copyFormula) (pc := 252) dX11_copyFormula_252 (hM57.a38).2.1 (hM57.a38).2.2 (fun _ _ q => gTw_wI q) ?_
  refine x_let (fun s59 e60 => ?_)
  have hM61 := TM.eI e60 hM57
  refine x_aload_n (μ := mu_tw_copyFormula) (pc := 253) 0 dX11_copyFormula_253 rfl ?_
  refine x_aload_n (μ := mu_tw_copyFormula) (pc := 254) 0 dX11_copyFormula_254 rfl ?_
  refine x_fgi (μ := mu_tw_copyFormula) (pc := 255) fX11_25 q2661 dX11_copyFormula_255 hM61.1 (fun hr62 => ?_)
  refine x_iload (μ := mu_tw_copyFormula) (pc := 258) 1 dX11_copyFormula_258 rfl ?_
  refine x_iadd (μ := mu_tw_copyFormula) (pc := 260) dX11_copyFormula_260 ?_
  refine x_w1 ?_
  refine x_fpi (μ := mu_tw_copyFormula) (pc := 261) fX11_25 q2661 dX11_copyFormula_261 hM61.1 (fun _ q => gTw_wI q) ?_
  refine x_let (fun s63 e64 => ?_)
  have hM65 := TM.eI e64 hM61
  refine x_aload_n (μ := mu_tw_copyFormula) (pc := 264) 0 dX11_copyFormula_264 rfl ?_
  refine x_fgi (μ := mu_tw_copyFormula) (pc := 265) fX11_25 q2661 dX11_copyFormula_265 hM65.1 (fun hr66 => ?_)
  refine x_iload (μ := mu_tw_copyFormula) (pc := 268) 1 dX11_copyFormula_268 rfl ?_
  refine x_isub (μ := mu_tw_copyFormula) (pc := 270) dX11_copyFormula_270 ?_
  refine x_iconst (μ := mu_tw_copyFormula) (pc := 271) dX11_copyFormula_271 ?_
  refine x_iadd (μ := mu_tw_copyFormula) (pc := 272) dX11_copyFormula_272 ?_
  refine x_w1 ?_
  exact x_iret (μ := mu_tw_copyFormula) (pc := 273) dX11_copyFormula_273 rfl rfl (gRel_Tw.1 _) (show g32 (w32 (((mI s63 h 25) - (mI σ (h + 26) (v1 - 1).toNat)) + 1)) from (w32_rng _))
def tw_isLikeHead_l31_j105 (N : Nat) (h : Nat) (σ : gMem) (v1 : Int) (v2 : Int) (Kh : Int → Option Int) (K : Option Int) : Option Int := Kh (w32 (v2 + 1))
set_option maxRecDepth 100000 in
theorem okj_tw_isLikeHead_l31_j105 {ω : gW} {l : Launch} {d : Nat} {N : Nat} {h : Nat} {σ : gMem} {v1 : Int} {v2 : Int} {Kh : Int → Option Int} {K : Option Int} (hdp : 3 ≤ d) (hM : TM σ h) (hv1 : g32 v1) (hv2 : g32 v2) (hKh : ∀ (v2 : Int) , g32 v2 → GG (fun x : Int => (.inl (some (vI x)), σ)) gTw ω l d mu_tw_isLikeHead σ 31 [(0, vR h), (1, vI v1), (2, vI v2)] [] σ (Kh v2)) (hK : GG (fun x : Int => (.inl (some (vI x)), σ)) gTw ω l d mu_tw_isLikeHead σ 111 [] [] σ (K)) : GG (fun x : Int => (.inl (some (vI x)), σ)) gTw ω l d mu_tw_isLikeHead σ 105 [(0, vR h), (1, vI v1), (2, vI v2)] [] σ (tw_isLikeHead_l31_j105 N h σ v1 v2 Kh K ) := by
  unfold tw_isLikeHead_l31_j105
  refine x_iincw (μ := mu_tw_isLikeHead) (pc := 105) (lv' := [(2, vI (w32 (v2 + 1))), (0, vR h), (1, vI v1)]) 2 dX11_isLikeHead_105 rfl (by decide) rfl ?_
  refine x_goto (μ := mu_tw_isLikeHead) (pc := 108) (tgt := 31) dX11_isLikeHead_108 rfl ?_
  refine x_loc (lv' := [(0, vR h), (1, vI v1), (2, vI (w32 (v2 + 1)))]) [1, 2, 0] rfl ?_
  exact hKh (w32 (v2 + 1)) (w32_rng _)
def tw_isLikeHead_l31_j69 (N : Nat) (h : Nat) (σ : gMem) (v1 : Int) (v2 : Int) (t0 : Int) (Kh : Int → Option Int) (K : Option Int) : Option Int := if t0 = 0 then tw_isLikeHead_l31_j105 N h σ v1 v2  (Kh) K else if 0 ≤ (12800 + v2) ∧ (12800 + v2) < ((39040 : Nat) : Int) then if 0 ≤ ((320 * v1) + v2) ∧ ((320 * v1) + v2) < ((39040 : Nat) : Int) then (tw_alike N h (mI σ (h + 5) (12800 + v2).toNat) (mI σ (h + 5) ((320 * v1) + v2).toNat) σ).bind (fun x10 => if x10 ≠ 0 then tw_isLikeHead_l31_j105 N h σ v1 v2  (Kh) K else some 0) else none else none
set_option maxRecDepth 100000 in
theorem okj_tw_isLikeHead_l31_j69 {ω : gW} {l : Launch} {d : Nat} {N : Nat} {h : Nat} {σ : gMem} {v1 : Int} {v2 : Int} {t0 : Int} {Kh : Int → Option Int} {K : Option Int} (hdp : 3 ≤ d) (hM : TM σ h) (hv1 : g32 v1) (hv2 : g32 v2) (ht0 : g32 t0) (hKh : ∀ (v2 : Int) , g32 v2 → GG (fun x : Int => (.inl (some (vI x)), σ)) gTw ω l d mu_tw_isLikeHead σ 31 [(0, vR h), (1, vI v1), (2, vI v2)] [] σ (Kh v2)) (hK : GG (fun x : Int => (.inl (some (vI x)), σ)) gTw ω l d mu_tw_isLikeHead σ 111 [] [] σ (K)) : GG (fun x : Int => (.inl (some (vI x)), σ)) gTw ω l d mu_tw_isLikeHead σ 69 [(0, vR h), (1, vI v1), (2, vI v2)] [vI t0] σ (tw_isLikeHead_l31_j69 N h σ v1 v2 t0 Kh K ) := by
  unfold tw_isLikeHead_l31_j69
  refine x_istore_n (μ := mu_tw_isLikeHead) (pc := 69) (lv' := [(3, vI t0), (0, vR h), (1, vI v1), (2, vI v2)]) dX11_isLikeHead_69 rfl (by decide) rfl ?_
  refine x_iload_n (μ := mu_tw_isLikeHead) (pc := 70) 0 dX11_isLikeHead_70 rfl ?_
  refine x_if_eq (μ := mu_tw_isLikeHead) (pc := 71) (tgt := 105) dX11_isLikeHead_71 rfl ht0 ?_ ?_
  · refine x_loc (lv' := [(0, vR h), (1, vI v1), (2, vI v2)]) [1, 2, 3] rfl ?_
    exact okj_tw_isLikeHead_l31_j105 hdp hM hv1 hv2 hKh hK
  · refine x_aload_n (μ := mu_tw_isLikeHead) (pc := 74) 1 dX11_isLikeHead_74 rfl ?_
    refine x_aload_n (μ := mu_tw_isLikeHead) (pc := 75) 1 dX11_isLikeHead_75 rfl ?_
    refine x_fgrE (μ := mu_tw_isLikeHead) (pc := 76) fX11_5 (Or.inr ⟨_, rfl⟩) q2641 (hM.a5).1 dX11_isLikeHead_76 hM.1 ?_
    refine x_sipush (μ := mu_tw_isLikeHead) (pc := 79) dX11_isLikeHead_79 (by decide) ?_
    refine x_iload_n (μ := mu_tw_isLikeHead) (pc := 82) 3 dX11_isLikeHead_82 rfl ?_
    refine x_iadd (μ := mu_tw_isLikeHead) (pc := 83) dX11_isLikeHead_83 ?_
    refine x_iald (μ := mu_tw_isLikeHead) (pc := 84) dX11_isLikeHead_84 (hM.a5).2.1 (hM.a5).2.2 (fun hr8 => ?_)
    refine x_aload_n (μ := mu_tw_isLikeHead) (pc := 85) 1 dX11_isLikeHead_85 rfl ?_
    refine x_fgrE (μ := mu_tw_isLikeHead) (pc := 86) fX11_5 (Or.inr ⟨_, rfl⟩) q2641 (hM.a5).1 dX11_isLikeHead_86 hM.1 ?_
    refine x_sipush (μ := mu_tw_isLikeHead) (pc := 89) dX11_isLikeHead_89 (by decide) ?_
    refine x_iload_n (μ := mu_tw_isLikeHead) (pc := 92) 2 dX11_isLikeHead_92 rfl ?_
    refine x_imul (μ := mu_tw_isLikeHead) (pc := 93) dX11_isLikeHead_93 ?_
    refine x_iload_n (μ := mu_tw_isLikeHead) (pc := 94) 3 dX11_isLikeHead_94 rfl ?_
    refine x_iadd (μ := mu_tw_isLikeHead) (pc := 95) dX11_isLikeHead_95 ?_
    refine x_iald (μ := mu_tw_isLikeHead) (pc := 96) dX11_isLikeHead_96 (hM.a5).2.1 (hM.a5).2.2 (fun hr9 => ?_)
    refine x_callV_pi (μ := mu_tw_isLikeHead) (pc := 97) (ok_tw_alike (ω := ω) (l := l) (d := d - 1) (by omega) hM hr8 hr9) gRel_Tw gRel_Tw (fun _ q => q) q3616 q3618 qs198 q232 q3619 dX11_isLikeHead_97 rfl hM.1 hy_tw_alike (by omega) (Nat.le_of_ble_eq_true rfl) rfl (Nat.le_of_ble_eq_true rfl) (fun x10 hr11 => ?_)
    refine x_if_ne (μ := mu_tw_isLikeHead) (pc := 100) (tgt := 105) dX11_isLikeHead_100 rfl hr11 ?_ ?_
    · refine x_loc (lv' := [(0, vR h), (1, vI v1), (2, vI v2)]) [1, 2, 3] rfl ?_
      exact okj_tw_isLikeHead_l31_j105 hdp hM hv1 hv2 hKh hK
    · refine x_iconst (μ := mu_tw_isLikeHead) (pc := 103) dX11_isLikeHead_103 ?_
      exact x_zret (μ := mu_tw_isLikeHead) (pc := 104) dX11_isLikeHead_104 rfl (by decide) rfl (gRel_Tw.1 _) (show g32 0 from (by decide))
def tw_isLikeHead_l31_j68 (N : Nat) (h : Nat) (σ : gMem) (v1 : Int) (v2 : Int) (Kh : Int → Option Int) (K : Option Int) : Option Int := tw_isLikeHead_l31_j69 N h σ v1 v2 0 (Kh) K
set_option maxRecDepth 100000 in
theorem okj_tw_isLikeHead_l31_j68 {ω : gW} {l : Launch} {d : Nat} {N : Nat} {h : Nat} {σ : gMem} {v1 : Int} {v2 : Int} {Kh : Int → Option Int} {K : Option Int} (hdp : 3 ≤ d) (hM : TM σ h) (hv1 : g32 v1) (hv2 : g32 v2) (hKh : ∀ (v2 : Int) , g32 v2 → GG (fun x : Int => (.inl (some (vI x)), σ)) gTw ω l d mu_tw_isLikeHead σ 31 [(0, vR h), (1, vI v1), (2, vI v2)] [] σ (Kh v2)) (hK : GG (fun x : Int => (.inl (some (vI x)), σ)) gTw ω l d mu_tw_isLikeHead σ 111 [] [] σ (K)) : GG (fun x : Int => (.inl (some (vI x)), σ)) gTw ω l d mu_tw_isLikeHead σ 68 [(0, vR h), (1, vI v1), (2, vI v2)] [] σ (tw_isLikeHead_l31_j68 N h σ v1 v2 Kh K ) := by
  unfold tw_isLikeHead_l31_j68
  refine x_iconst (μ := mu_tw_isLikeHead) (pc := 68) dX11_isLikeHead_68 ?_
  exact okj_tw_isLikeHead_l31_j69 hdp hM hv1 hv2 (by decide) hKh hK
def tw_isLikeHead_l31 (N : Nat) (h : Nat) (σ : gMem) (v1 : Int) (K : Option Int) : Nat → Int → Option Int
  | 0, _ => none
  | n + 1, v2 => if 320 ≤ v2 then K else if 0 ≤ v1 ∧ v1 < ((122 : Nat) : Int) then if mI σ (h + 1) v1.toNat ≤ w32 (Int.tdiv v2 10) then tw_isLikeHead_l31_j68 N h σ v1 v2  (tw_isLikeHead_l31 N h σ v1 K n) K else if 0 ≤ v1 ∧ v1 < ((122 : Nat) : Int) then if mI σ (h + 2) v1.toNat ≤ w32 (Int.tmod v2 10) then tw_isLikeHead_l31_j68 N h σ v1 v2  (tw_isLikeHead_l31 N h σ v1 K n) K else tw_isLikeHead_l31_j69 N h σ v1 v2 1 (tw_isLikeHead_l31 N h σ v1 K n) K else none else none
set_option maxRecDepth 100000 in
theorem okl_tw_isLikeHead_l31 {ω : gW} {l : Launch} {d : Nat} {N : Nat} {h : Nat} {σ : gMem} {v1 : Int} {K : Option Int} (hdp : 3 ≤ d) (hM : TM σ h) (hv1 : g32 v1) (hK : GG (fun x : Int => (.inl (some (vI x)), σ)) gTw ω l d mu_tw_isLikeHead σ 111 [] [] σ (K)) : ∀ (n : Nat) (v2 : Int) , g32 v2 → GG (fun x : Int => (.inl (some (vI x)), σ)) gTw ω l d mu_tw_isLikeHead σ 31 [(0, vR h), (1, vI v1), (2, vI v2)] [] σ (tw_isLikeHead_l31 N h σ v1 K n v2) := by
  intro n
  induction n with
  | zero => intros; exact x_none
  | succ n ih =>
    intro v2 hv2
    unfold tw_isLikeHead_l31
    refine x_iload_n (μ := mu_tw_isLikeHead) (pc := 31) 2 dX11_isLikeHead_31 rfl ?_
    refine x_sipush (μ := mu_tw_isLikeHead) (pc := 32) dX11_isLikeHead_32 (by decide) ?_
    refine x_icmp_ge (μ := mu_tw_isLikeHead) (pc := 35) (tgt := 111) dX11_isLikeHead_35 rfl hv2 (by decide) ?_ ?_
    · refine x_loc (lv' := []) [] rfl ?_
      exact hK
    · refine x_iload_n (μ := mu_tw_isLikeHead) (pc := 38) 2 dX11_isLikeHead_38 rfl ?_
      refine x_bipush (μ := mu_tw_isLikeHead) (pc := 39) dX11_isLikeHead_39 (by decide) ?_
      refine x_idivc (μ := mu_tw_isLikeHead) (pc := 41) dX11_isLikeHead_41 hv2 (by decide) (by decide) ?_
      refine x_aload_n (μ := mu_tw_isLikeHead) (pc := 42) 0 dX11_isLikeHead_42 rfl ?_
      refine x_fgrE (μ := mu_tw_isLikeHead) (pc := 43) fX11_1 (Or.inr ⟨_, rfl⟩) q2637 (hM.a1).1 dX11_isLikeHead_43 hM.1 ?_
      refine x_iload_n (μ := mu_tw_isLikeHead) (pc := 46) 1 dX11_isLikeHead_46 rfl ?_
      refine x_iald (μ := mu_tw_isLikeHead) (pc := 47) dX11_isLikeHead_47 (hM.a1).2.1 (hM.a1).2.2 (fun hr7 => ?_)
      refine x_w2 ?_
      refine x_icmp_ge (μ := mu_tw_isLikeHead) (pc := 48) (tgt := 68) dX11_isLikeHead_48 rfl (w32_rng _) hr7 ?_ ?_
      · exact okj_tw_isLikeHead_l31_j68 hdp hM hv1 hv2 ih hK
      · refine x_iload_n (μ := mu_tw_isLikeHead) (pc := 51) 2 dX11_isLikeHead_51 rfl ?_
        refine x_bipush (μ := mu_tw_isLikeHead) (pc := 52) dX11_isLikeHead_52 (by decide) ?_
        refine x_iremc (μ := mu_tw_isLikeHead) (pc := 54) dX11_isLikeHead_54 hv2 (by decide) (by decide) ?_
        refine x_aload_n (μ := mu_tw_isLikeHead) (pc := 55) 0 dX11_isLikeHead_55 rfl ?_
        refine x_fgrE (μ := mu_tw_isLikeHead) (pc := 56) fX11_2 (Or.inr ⟨_, rfl⟩) q2638 (hM.a2).1 dX11_isLikeHead_56 hM.1 ?_
        refine x_iload_n (μ := mu_tw_isLikeHead) (pc := 59) 1 dX11_isLikeHead_59 rfl ?_
        refine x_iald (μ := mu_tw_isLikeHead) (pc := 60) dX11_isLikeHead_60 (hM.a2).2.1 (hM.a2).2.2 (fun hr12 => ?_)
        refine x_w2 ?_
        refine x_icmp_ge (μ := mu_tw_isLikeHead) (pc := 61) (tgt := 68) dX11_isLikeHead_61 rfl (w32_rng _) hr12 ?_ ?_
        · exact okj_tw_isLikeHead_l31_j68 hdp hM hv1 hv2 ih hK
        · refine x_iconst (μ := mu_tw_isLikeHead) (pc := 64) dX11_isLikeHead_64 ?_
          refine x_goto (μ := mu_tw_isLikeHead) (pc := 65) (tgt := 69) dX11_isLikeHead_65 rfl ?_
          exact okj_tw_isLikeHead_l31_j69 hdp hM hv1 hv2 (by decide) ih hK
def tw_isLikeHead (N : Nat) (h : Nat) (σ : gMem) : Option Int := (tw_head h σ).bind (fun x1 => (tw_isLike_2 N h 40 x1 0 σ).bind (fun x3 => if x3 = 0 then some 0 else (tw_isLike_2 N h 40 x1 1 σ).bind (fun x5 => if x5 ≠ 0 then tw_isLikeHead_l31 N h σ x1 (some 1) N 0 else some 0)))
set_option maxRecDepth 100000 in
theorem ok_tw_isLikeHead {ω : gW} {l : Launch} {d : Nat} {N : Nat} {h : Nat} {σ : gMem} (hdp : 3 ≤ d) (hM : TM σ h) : gK (fun x : Int => (.inl (some (vI x)), σ)) gTw ω l d mu_tw_isLikeHead [vR h] σ (tw_isLikeHead N h σ) := by
  refine gK.of hp_X11 (Nat.le_of_ble_eq_true rfl) ?_
  unfold tw_isLikeHead
  refine x_aload_n (μ := mu_tw_isLikeHead) (pc := 0) 0 dX11_isLikeHead_0 rfl ?_
  refine x_callV_pi (μ := mu_tw_isLikeHead) (pc := 1) (ok_tw_head (ω := ω) (l := l) (d := d - 1) (by omega) hM ) gRel_Tw gRel_Tw (fun _ q => q) q3596 q3598 qs195 q232 q3599 dX11_isLikeHead_1 rfl hM.1 hy_tw_head (by omega) (Nat.le_of_ble_eq_true rfl) rfl (Nat.le_of_ble_eq_true rfl) (fun x1 hr2 => ?_)
  refine x_istore_n (μ := mu_tw_isLikeHead) (pc := 4) (lv' := [(1, vI x1), (0, vR h)]) dX11_isLikeHead_4 rfl (by decide) rfl ?_
  refine x_aload_n (μ := mu_tw_isLikeHead) (pc := 5) 1 dX11_isLikeHead_5 rfl ?_
  refine x_bipush (μ := mu_tw_isLikeHead) (pc := 6) dX11_isLikeHead_6 (by decide) ?_
  refine x_iload_n (μ := mu_tw_isLikeHead) (pc := 8) 0 dX11_isLikeHead_8 rfl ?_
  refine x_iconst (μ := mu_tw_isLikeHead) (pc := 9) dX11_isLikeHead_9 ?_
  refine x_callV_pi (μ := mu_tw_isLikeHead) (pc := 10) (ok_tw_isLike_2 (ω := ω) (l := l) (d := d - 1) (by omega) hM (by decide) hr2 (by decide)) gRel_Tw gRel_Tw (fun _ q => q) q3612 q3614 qs197 q232 q3615 dX11_isLikeHead_10 rfl hM.1 hy_tw_isLike_2 (by omega) (Nat.le_of_ble_eq_true rfl) rfl (Nat.le_of_ble_eq_true rfl) (fun x3 hr4 => ?_)
  refine x_if_eq (μ := mu_tw_isLikeHead) (pc := 13) (tgt := 27) dX11_isLikeHead_13 rfl hr4 ?_ ?_
  · refine x_iconst (μ := mu_tw_isLikeHead) (pc := 27) dX11_isLikeHead_27 ?_
    exact x_zret (μ := mu_tw_isLikeHead) (pc := 28) dX11_isLikeHead_28 rfl (by decide) rfl (gRel_Tw.1 _) (show g32 0 from (by decide))
  · refine x_aload_n (μ := mu_tw_isLikeHead) (pc := 16) 1 dX11_isLikeHead_16 rfl ?_
    refine x_bipush (μ := mu_tw_isLikeHead) (pc := 17) dX11_isLikeHead_17 (by decide) ?_
    refine x_iload_n (μ := mu_tw_isLikeHead) (pc := 19) 0 dX11_isLikeHead_19 rfl ?_
    refine x_iconst (μ := mu_tw_isLikeHead) (pc := 20) dX11_isLikeHead_20 ?_
    refine x_callV_pi (μ := mu_tw_isLikeHead) (pc := 21) (ok_tw_isLike_2 (ω := ω) (l := l) (d := d - 1) (by omega) hM (by decide) hr2 (by decide)) gRel_Tw gRel_Tw (fun _ q => q) q3612 q3614 qs197 q232 q3615 dX11_isLikeHead_21 rfl hM.1 hy_tw_isLike_2 (by omega) (Nat.le_of_ble_eq_true rfl) rfl (Nat.le_of_ble_eq_true rfl) (fun x5 hr6 => ?_)
    refine x_if_ne (μ := mu_tw_isLikeHead) (pc := 24) (tgt := 29) dX11_isLikeHead_24 rfl hr6 ?_ ?_
    · refine x_iconst (μ := mu_tw_isLikeHead) (pc := 29) dX11_isLikeHead_29 ?_
      refine x_istore_n (μ := mu_tw_isLikeHead) (pc := 30) (lv' := [(2, vI 0), (1, vI x1), (0, vR h)]) dX11_isLikeHead_30 rfl (by decide) rfl ?_
      refine x_loc (lv' := [(0, vR h), (1, vI x1), (2, vI 0)]) [2, 1, 0] rfl ?_
      refine okl_tw_isLikeHead_l31 hdp hM hr2 ?_ N 0 (by decide)
      refine x_iconst (μ := mu_tw_isLikeHead) (pc := 111) dX11_isLikeHead_111 ?_
      exact x_zret (μ := mu_tw_isLikeHead) (pc := 112) dX11_isLikeHead_112 rfl (by decide) rfl (gRel_Tw.1 _) (show g32 1 from (by decide))
    · refine x_iconst (μ := mu_tw_isLikeHead) (pc := 27) dX11_isLikeHead_27 ?_
      exact x_zret (μ := mu_tw_isLikeHead) (pc := 28) dX11_isLikeHead_28 rfl (by decide) rfl (gRel_Tw.1 _) (show g32 0 from (by decide))
def tw_isIn (N : Nat) (h : Nat) (v1 : Int) (v2 : Int) (v3 : Int) (v4 : Int) (v5 : Int) (σ : gMem) : Option Int := (tw_placeOf N h v2 v3 v4 σ).bind (fun x1 => if 0 ≤ x1 then some 1 else (tw_placeOf N h v5 v3 v4 σ).bind (fun x3 => if x3 < 0 then some 1 else (tw_isChanged N h v1 v3 v4 v5 σ).bind (fun x5 => if x5 = 0 then some 0 else some 1)))
set_option maxRecDepth 100000 in
theorem ok_tw_isIn {ω : gW} {l : Launch} {d : Nat} {N : Nat} {h : Nat} {σ : gMem} {v1 : Int} {v2 : Int} {v3 : Int} {v4 : Int} {v5 : Int} (hdp : 4 ≤ d) (hM : TM σ h) (hv1 : g32 v1) (hv2 : g32 v2) (hv3 : g32 v3) (hv4 : g32 v4) (hv5 : g32 v5) : gK (fun x : Int => (.inl (some (vI x)), σ)) gTw ω l d mu_tw_isIn [vR h, vI v1, vI v2, vI v3, vI v4, vI v5] σ (tw_isIn N h v1 v2 v3 v4 v5 σ) := by
  refine gK.of hp_X11 (Nat.le_of_ble_eq_true rfl) ?_
  unfold tw_isIn
  refine x_aload_n (μ := mu_tw_isIn) (pc := 0) 0 dX11_isIn_0 rfl ?_
  refine x_iload_n (μ := mu_tw_isIn) (pc := 1) 2 dX11_isIn_1 rfl ?_
  refine x_iload_n (μ := mu_tw_isIn) (pc := 2) 3 dX11_isIn_2 rfl ?_
  refine x_iload (μ := mu_tw_isIn) (pc := 3) 4 dX11_isIn_3 rfl ?_
  refine x_callV_pi (μ := mu_tw_isIn) (pc := 5) (ok_tw_placeOf (ω := ω) (l := l) (d := d - 1) (by omega) hM hv2 hv3 hv4) gRel_Tw gRel_Tw (fun _ q => q) q3241 q3243 qs128 q232 q3244 dX11_isIn_5 rfl hM.1 hy_tw_placeOf (by omega) (Nat.le_of_ble_eq_true rfl) rfl (Nat.le_of_ble_eq_true rfl) (fun x1 hr2 => ?_)
  refine x_if_ge (μ := mu_tw_isIn) (pc := 8) (tgt := 36) dX11_isIn_8 rfl hr2 ?_ ?_
  · refine x_iconst (μ := mu_tw_isIn) (pc := 36) dX11_isIn_36 ?_
    refine x_goto (μ := mu_tw_isIn) (pc := 37) (tgt := 41) dX11_isIn_37 rfl ?_
    exact x_zret (μ := mu_tw_isIn) (pc := 41) dX11_isIn_41 rfl (by decide) rfl (gRel_Tw.1 _) (show g32 1 from (by decide))
  · refine x_aload_n (μ := mu_tw_isIn) (pc := 11) 0 dX11_isIn_11 rfl ?_
    refine x_iload (μ := mu_tw_isIn) (pc := 12) 5 dX11_isIn_12 rfl ?_
    refine x_iload_n (μ := mu_tw_isIn) (pc := 14) 3 dX11_isIn_14 rfl ?_
    refine x_iload (μ := mu_tw_isIn) (pc := 15) 4 dX11_isIn_15 rfl ?_
    refine x_callV_pi (μ := mu_tw_isIn) (pc := 17) (ok_tw_placeOf (ω := ω) (l := l) (d := d - 1) (by omega) hM hv5 hv3 hv4) gRel_Tw gRel_Tw (fun _ q => q) q3241 q3243 qs128 q232 q3244 dX11_isIn_17 rfl hM.1 hy_tw_placeOf (by omega) (Nat.le_of_ble_eq_true rfl) rfl (Nat.le_of_ble_eq_true rfl) (fun x3 hr4 => ?_)
    refine x_if_lt (μ := mu_tw_isIn) (pc := 20) (tgt := 36) dX11_isIn_20 rfl hr4 ?_ ?_
    · refine x_iconst (μ := mu_tw_isIn) (pc := 36) dX11_isIn_36 ?_
      refine x_goto (μ := mu_tw_isIn) (pc := 37) (tgt := 41) dX11_isIn_37 rfl ?_
      exact x_zret (μ := mu_tw_isIn) (pc := 41) dX11_isIn_41 rfl (by decide) rfl (gRel_Tw.1 _) (show g32 1 from (by decide))
    · refine x_aload_n (μ := mu_tw_isIn) (pc := 23) 0 dX11_isIn_23 rfl ?_
      refine x_iload_n (μ := mu_tw_isIn) (pc := 24) 1 dX11_isIn_24 rfl ?_
      refine x_iload_n (μ := mu_tw_isIn) (pc := 25) 3 dX11_isIn_25 rfl ?_
      refine x_iload (μ := mu_tw_isIn) (pc := 26) 4 dX11_isIn_26 rfl ?_
      refine x_iload (μ := mu_tw_isIn) (pc := 28) 5 dX11_isIn_28 rfl ?_
      refine x_callV_pi (μ := mu_tw_isIn) (pc := 30) (ok_tw_isChanged (ω := ω) (l := l) (d := d - 1) (by omega) hM hv1 hv3 hv4 hv5) gRel_Tw gRel_Tw (fun _ q => q) q3677 q3679 qs210 q232 q3680 dX11_isIn_30 rfl hM.1 hy_tw_isChanged (by omega) (Nat.le_of_ble_eq_true rfl) rfl (Nat.le_of_ble_eq_true rfl) (fun x5 hr6 => ?_)
      refine x_if_eq (μ := mu_tw_isIn) (pc := 33) (tgt := 40) dX11_isIn_33 rfl hr6 ?_ ?_
      · refine x_iconst (μ := mu_tw_isIn) (pc := 40) dX11_isIn_40 ?_
        exact x_zret (μ := mu_tw_isIn) (pc := 41) dX11_isIn_41 rfl (by decide) rfl (gRel_Tw.1 _) (show g32 0 from (by decide))
      · refine x_iconst (μ := mu_tw_isIn) (pc := 36) dX11_isIn_36 ?_
        refine x_goto (μ := mu_tw_isIn) (pc := 37) (tgt := 41) dX11_isIn_37 rfl ?_
        exact x_zret (μ := mu_tw_isIn) (pc := 41) dX11_isIn_41 rfl (by decide) rfl (gRel_Tw.1 _) (show g32 1 from (by decide))
def tw_blame_l80 (N : Nat) (h : Nat) (v3 : Int) (v4 : Int) (v5 : Int) (K : Int → gMem → Option (Int × gMem)) : Nat → Int → Int → gMem → Option (Int × gMem)
  | 0, _, _, _ => none
  | n + 1, v6, v7, s => if v7 = 0 then K v6 s else if 0 ≤ v6 ∧ v6 < ((40 : Nat) : Int) then (tw_hasLike N h (mI s (h + 6) v6.toNat) v3 v4 v5 s).bind (fun x17 => if x17 = 0 then if 0 ≤ v6 ∧ v6 < ((40 : Nat) : Int) then (tw_hasLike N h (mI s (h + 7) v6.toNat) v3 v4 v5 s).bind (fun x20 => if x20 = 0 then tw_blame_l80 N h v3 v4 v5 K n v6 0 s else if 0 ≤ v6 ∧ v6 < ((40 : Nat) : Int) then tw_blame_l80 N h v3 v4 v5 K n (mI s (h + 7) v6.toNat) v7 s else none) else none else if 0 ≤ v6 ∧ v6 < ((40 : Nat) : Int) then tw_blame_l80 N h v3 v4 v5 K n (mI s (h + 6) v6.toNat) v7 s else none) else none
set_option maxRecDepth 100000 in
theorem okl_tw_blame_l80 {ω : gW} {l : Launch} {d : Nat} {N : Nat} {h : Nat} {σ0 : gMem} {v3 : Int} {v4 : Int} {v5 : Int} {K : Int → gMem → Option (Int × gMem)} (hdp : 4 ≤ d) (hv3 : g32 v3) (hv4 : g32 v4) (hv5 : g32 v5) (hK : ∀ (v6 : Int) (s : gMem) , g32 v6 → TM s h → GG (fun p : Int × gMem => (.inl (some (vI p.1)), p.2)) gTw ω l d mu_tw_blame σ0 153 [(6, vI v6)] [] s (K v6 s)) : ∀ (n : Nat) (v6 : Int) (v7 : Int) (s : gMem) , g32 v6 → g32 v7 → TM s h → GG (fun p : Int × gMem => (.inl (some (vI p.1)), p.2)) gTw ω l d mu_tw_blame σ0 80 [(0, vR h), (3, vI v3), (4, vI v4), (5, vI v5), (6, vI v6), (7, vI v7)] [] s (tw_blame_l80 N h v3 v4 v5 K n v6 v7 s) := by
  intro n
  induction n with
  | zero => intros; exact x_none
  | succ n ih =>
    intro v6 v7 s hv6 hv7 hM
    unfold tw_blame_l80
    refine x_iload (μ := mu_tw_blame) (pc := 80) 5 dX11_blame_80 rfl ?_
    refine x_if_eq (μ := mu_tw_blame) (pc := 82) (tgt := 153) dX11_blame_82 rfl hv7 ?_ ?_
    · refine x_loc (lv' := [(6, vI v6)]) [4] rfl ?_
      exact hK v6 s hv6 hM
    · refine x_aload_n (μ := mu_tw_blame) (pc := 85) 0 dX11_blame_85 rfl ?_
      refine x_aload_n (μ := mu_tw_blame) (pc := 86) 0 dX11_blame_86 rfl ?_
      refine x_fgrE (μ := mu_tw_blame) (pc := 87) fX11_9 (Or.inr ⟨_, rfl⟩) q2645 (hM.a9).1 dX11_blame_87 hM.1 ?_
      refine x_iload (μ := mu_tw_blame) (pc := 90) 4 dX11_blame_90 rfl ?_
      refine x_iald (μ := mu_tw_blame) (pc := 92) dX11_blame_92 (hM.a9).2.1 (hM.a9).2.2 (fun hr16 => ?_)
      refine x_iload_n (μ := mu_tw_blame) (pc := 93) 1 dX11_blame_93 rfl ?_
      refine x_iload (μ := mu_tw_blame) (pc := 94) 2 dX11_blame_94 rfl ?_
      refine x_iload (μ := mu_tw_blame) (pc := 96) 3 dX11_blame_96 rfl ?_
      refine x_callV_pi (μ := mu_tw_blame) (pc := 98) (ok_tw_hasLike (ω := ω) (l := l) (d := d - 1) (by omega) hM hr16 hv3 hv4 hv5) gRel_Tw gRel_Tw (fun _ q => q) q3738 q3740 qs219 q232 q3741 dX11_blame_98 rfl hM.1 hy_tw_hasLike (by omega) (Nat.le_of_ble_eq_true rfl) rfl (Nat.le_of_ble_eq_true rfl) (fun x17 hr18 => ?_)
      refine x_if_eq (μ := mu_tw_blame) (pc := 101) (tgt := 116) dX11_blame_101 rfl hr18 ?_ ?_
      · refine x_aload_n (μ := mu_tw_blame) (pc := 116) 0 dX11_blame_116 rfl ?_
        refine x_aload_n (μ := mu_tw_blame) (pc := 117) 0 dX11_blame_117 rfl ?_
        refine x_fgrE (μ := mu_tw_blame) (pc := 118) fX11_10 (Or.inr ⟨_, rfl⟩) q2646 (hM.a10).1 dX11_blame_118 hM.1 ?_
        refine x_iload (μ := mu_tw_blame) (pc := 121) 4 dX11_blame_121 rfl ?_
        refine x_iald (μ := mu_tw_blame) (pc := 123) dX11_blame_123 (hM.a10).2.1 (hM.a10).2.2 (fun hr19 => ?_)
        refine x_iload_n (μ := mu_tw_blame) (pc := 124) 1 dX11_blame_124 rfl ?_
        refine x_iload (μ := mu_tw_blame) (pc := 125) 2 dX11_blame_125 rfl ?_
        refine x_iload (μ := mu_tw_blame) (pc := 127) 3 dX11_blame_127 rfl ?_
        refine x_callV_pi (μ := mu_tw_blame) (pc := 129) (ok_tw_hasLike (ω := ω) (l := l) (d := d - 1) (by omega) hM hr19 hv3 hv4 hv5) gRel_Tw gRel_Tw (fun _ q => q) q3738 q3740 qs219 q232 q3741 dX11_blame_129 rfl hM.1 hy_tw_hasLike (by omega) (Nat.le_of_ble_eq_true rfl) rfl (Nat.le_of_ble_eq_true rfl) (fun x20 hr21 => ?_)
        refine x_if_eq (μ := mu_tw_blame) (pc := 132) (tgt := 147) dX11_blame_132 rfl hr21 ?_ ?_
        · refine x_iconst (μ := mu_tw_blame) (pc := 147) dX11_blame_147 ?_
          refine x_istore (μ := mu_tw_blame) (pc := 148) (lv' := [(7, vI 0), (0, vR h), (3, vI v3), (4, vI v4), (5, vI v5), (6, vI v6)]) dX11_blame_148 (by decide) rfl ?_
          refine x_goto (μ := mu_tw_blame) (pc := 150) (tgt := 80) dX11_blame_150 rfl ?_
          refine x_loc (lv' := [(0, vR h), (3, vI v3), (4, vI v4), (5, vI v5), (6, vI v6), (7, vI 0)]) [1, 2, 3, 4, 5, 0] rfl ?_
          exact ih v6 0 s hv6 (by decide) hM
        · refine x_aload_n (μ := mu_tw_blame) (pc := 135) 0 dX11_blame_135 rfl ?_
          refine x_fgrE (μ := mu_tw_blame) (pc := 136) fX11_10 (Or.inr ⟨_, rfl⟩) q2646 (hM.a10).1 dX11_blame_136 hM.1 ?_
          refine x_iload (μ := mu_tw_blame) (pc := 139) 4 dX11_blame_139 rfl ?_
          refine x_iald (μ := mu_tw_blame) (pc := 141) dX11_blame_141 (hM.a10).2.1 (hM.a10).2.2 (fun hr22 => ?_)
          refine x_istore (μ := mu_tw_blame) (pc := 142) (lv' := [(6, vI (mI s (h + 7) v6.toNat)), (0, vR h), (3, vI v3), (4, vI v4), (5, vI v5), (7, vI v7)]) dX11_blame_142 (by decide) rfl ?_
          refine x_goto (μ := mu_tw_blame) (pc := 144) (tgt := 80) dX11_blame_144 rfl ?_
          refine x_loc (lv' := [(0, vR h), (3, vI v3), (4, vI v4), (5, vI v5), (6, vI (mI s (h + 7) v6.toNat)), (7, vI v7)]) [1, 2, 3, 4, 0, 5] rfl ?_
          exact ih (mI s (h + 7) v6.toNat) v7 s hr22 hv7 hM
      · refine x_aload_n (μ := mu_tw_blame) (pc := 104) 0 dX11_blame_104 rfl ?_
        refine x_fgrE (μ := mu_tw_blame) (pc := 105) fX11_9 (Or.inr ⟨_, rfl⟩) q2645 (hM.a9).1 dX11_blame_105 hM.1 ?_
        refine x_iload (μ := mu_tw_blame) (pc := 108) 4 dX11_blame_108 rfl ?_
        refine x_iald (μ := mu_tw_blame) (pc := 110) dX11_blame_110 (hM.a9).2.1 (hM.a9).2.2 (fun hr23 => ?_)
        refine x_istore (μ := mu_tw_blame) (pc := 111) (lv' := [(6, vI (mI s (h + 6) v6.toNat)), (0, vR h), (3, vI v3), (4, vI v4), (5, vI v5), (7, vI v7)]) dX11_blame_111 (by decide) rfl ?_
        refine x_goto (μ := mu_tw_blame) (pc := 113) (tgt := 80) dX11_blame_113 rfl ?_
        refine x_loc (lv' := [(0, vR h), (3, vI v3), (4, vI v4), (5, vI v5), (6, vI (mI s (h + 6) v6.toNat)), (7, vI v7)]) [1, 2, 3, 4, 0, 5] rfl ?_
        exact ih (mI s (h + 6) v6.toNat) v7 s hr23 hv7 hM
def tw_blame (N : Nat) (h : Nat) (v1 : Int) (v2 : Int) (σ : gMem) : Option (Int × gMem) := gLet (wI σ h 0 0) (fun s1 => (tw_isCell h 40 v1 v2 s1).bind (fun x4 => if x4 ≠ 0 then (tw_lineAt h 40 0 (w32 (v1 - 1)) s1).bind (fun x6 => (tw_lineAt h 40 1 (w32 (v2 - 1)) s1).bind (fun x8 => (tw_cellAt h 40 v1 v2 s1).bind (fun x10 => (tw_head h s1).bind (fun x12 => (tw_hasLike N h x12 x6 x8 x10 s1).bind (fun x14 => if x14 ≠ 0 then tw_blame_l80 N h x6 x8 x10 (fun y24 s25 => some (y24, s25)) N x12 1 s1 else some ((-1), s1)))))) else (tw_throwing h 1 s1).bind (fun x27 => some (x27.1, x27.2))))
set_option maxRecDepth 100000 in
theorem ok_tw_blame {ω : gW} {l : Launch} {d : Nat} {N : Nat} {h : Nat} {σ : gMem} {v1 : Int} {v2 : Int} (hdp : 4 ≤ d) (hM : TM σ h) (hv1 : g32 v1) (hv2 : g32 v2) : gK (fun p : Int × gMem => (.inl (some (vI p.1)), p.2)) gTw ω l d mu_tw_blame [vR h, vI v1, vI v2] σ (tw_blame N h v1 v2 σ) := by
  refine gK.of hp_X11 (Nat.le_of_ble_eq_true rfl) ?_
  unfold tw_blame
  refine x_aload_n (μ := mu_tw_blame) (pc := 0) 0 dX11_blame_0 rfl ?_
  refine x_iconst (μ := mu_tw_blame) (pc := 1) dX11_blame_1 ?_
  refine x_fpi (μ := mu_tw_blame) (pc := 2) fX11_0 q2636 dX11_blame_2 hM.1 (fun _ q => gTw_wI q) ?_
  refine x_let (fun s1 e2 => ?_)
  have hM3 := TM.eI e2 hM
  refine x_aload_n (μ := mu_tw_blame) (pc := 5) 0 dX11_blame_5 rfl ?_
  refine x_bipush (μ := mu_tw_blame) (pc := 6) dX11_blame_6 (by decide) ?_
  refine x_iload_n (μ := mu_tw_blame) (pc := 8) 1 dX11_blame_8 rfl ?_
  refine x_iload_n (μ := mu_tw_blame) (pc := 9) 2 dX11_blame_9 rfl ?_
  refine x_callV_pi (μ := mu_tw_blame) (pc := 10) (ok_tw_isCell (ω := ω) (l := l) (d := d - 1) (by omega) hM3 (by decide) hv1 hv2) gRel_Tw gRel_Tw (fun _ q => q) q2987 q2989 qs80 q232 q2990 dX11_blame_10 rfl hM3.1 hy_tw_isCell (by omega) (Nat.le_of_ble_eq_true rfl) rfl (Nat.le_of_ble_eq_true rfl) (fun x4 hr5 => ?_)
  refine x_if_ne (μ := mu_tw_blame) (pc := 13) (tgt := 22) dX11_blame_13 rfl hr5 ?_ ?_
  · refine x_aload_n (μ := mu_tw_blame) (pc := 22) 0 dX11_blame_22 rfl ?_
    refine x_bipush (μ := mu_tw_blame) (pc := 23) dX11_blame_23 (by decide) ?_
    refine x_iconst (μ := mu_tw_blame) (pc := 25) dX11_blame_25 ?_
    refine x_iload_n (μ := mu_tw_blame) (pc := 26) 1 dX11_blame_26 rfl ?_
    refine x_iconst (μ := mu_tw_blame) (pc := 27) dX11_blame_27 ?_
    refine x_isub (μ := mu_tw_blame) (pc := 28) dX11_blame_28 ?_
    refine x_w1 ?_
    refine x_callV_pi (μ := mu_tw_blame) (pc := 29) (ok_tw_lineAt (ω := ω) (l := l) (d := d - 1) (by omega) hM3 (by decide) (by decide) (w32_rng _)) gRel_Tw gRel_Tw (fun _ q => q) q3148 q3150 qs111 q232 q3151 dX11_blame_29 rfl hM3.1 hy_tw_lineAt (by omega) (Nat.le_of_ble_eq_true rfl) rfl (Nat.le_of_ble_eq_true rfl) (fun x6 hr7 => ?_)
    refine x_istore_n (μ := mu_tw_blame) (pc := 32) (lv' := [(3, vI x6), (0, vR h), (1, vI v1), (2, vI v2)]) dX11_blame_32 rfl (by decide) rfl ?_
    refine x_aload_n (μ := mu_tw_blame) (pc := 33) 1 dX11_blame_33 rfl ?_
    refine x_bipush (μ := mu_tw_blame) (pc := 34) dX11_blame_34 (by decide) ?_
    refine x_iconst (μ := mu_tw_blame) (pc := 36) dX11_blame_36 ?_
    refine x_iload_n (μ := mu_tw_blame) (pc := 37) 3 dX11_blame_37 rfl ?_
    refine x_iconst (μ := mu_tw_blame) (pc := 38) dX11_blame_38 ?_
    refine x_isub (μ := mu_tw_blame) (pc := 39) dX11_blame_39 ?_
    refine x_w1 ?_
    refine x_callV_pi (μ := mu_tw_blame) (pc := 40) (ok_tw_lineAt (ω := ω) (l := l) (d := d - 1) (by omega) hM3 (by decide) (by decide) (w32_rng _)) gRel_Tw gRel_Tw (fun _ q => q) q3148 q3150 qs111 q232 q3151 dX11_blame_40 rfl hM3.1 hy_tw_lineAt (by omega) (Nat.le_of_ble_eq_true rfl) rfl (Nat.le_of_ble_eq_true rfl) (fun x8 hr9 => ?_)
    refine x_istore (μ := mu_tw_blame) (pc := 43) (lv' := [(4, vI x8), (3, vI x6), (0, vR h), (1, vI v1), (2, vI v2)]) dX11_blame_43 (by decide) rfl ?_
    refine x_aload_n (μ := mu_tw_blame) (pc := 45) 2 dX11_blame_45 rfl ?_
    refine x_bipush (μ := mu_tw_blame) (pc := 46) dX11_blame_46 (by decide) ?_
    refine x_iload_n (μ := mu_tw_blame) (pc := 48) 3 dX11_blame_48 rfl ?_
    refine x_iload_n (μ := mu_tw_blame) (pc := 49) 4 dX11_blame_49 rfl ?_
    refine x_callV_pi (μ := mu_tw_blame) (pc := 50) (ok_tw_cellAt (ω := ω) (l := l) (d := d - 1) (by omega) hM3 (by decide) hv1 hv2) gRel_Tw gRel_Tw (fun _ q => q) q3453 q3455 qs173 q232 q3456 dX11_blame_50 rfl hM3.1 hy_tw_cellAt (by omega) (Nat.le_of_ble_eq_true rfl) rfl (Nat.le_of_ble_eq_true rfl) (fun x10 hr11 => ?_)
    refine x_istore (μ := mu_tw_blame) (pc := 53) (lv' := [(5, vI x10), (4, vI x8), (3, vI x6), (0, vR h), (1, vI v1), (2, vI v2)]) dX11_blame_53 (by decide) rfl ?_
    refine x_aload_n (μ := mu_tw_blame) (pc := 55) 3 dX11_blame_55 rfl ?_
    refine x_callV_pi (μ := mu_tw_blame) (pc := 56) (ok_tw_head (ω := ω) (l := l) (d := d - 1) (by omega) hM3 ) gRel_Tw gRel_Tw (fun _ q => q) q3596 q3598 qs195 q232 q3599 dX11_blame_56 rfl hM3.1 hy_tw_head (by omega) (Nat.le_of_ble_eq_true rfl) rfl (Nat.le_of_ble_eq_true rfl) (fun x12 hr13 => ?_)
    refine x_istore (μ := mu_tw_blame) (pc := 59) (lv' := [(6, vI x12), (5, vI x10), (4, vI x8), (3, vI x6), (0, vR h), (1, vI v1), (2, vI v2)]) dX11_blame_59 (by decide) rfl ?_
    refine x_aload_n (μ := mu_tw_blame) (pc := 61) 4 dX11_blame_61 rfl ?_
    refine x_iload (μ := mu_tw_blame) (pc := 62) 0 dX11_blame_62 rfl ?_
    refine x_iload_n (μ := mu_tw_blame) (pc := 64) 3 dX11_blame_64 rfl ?_
    refine x_iload (μ := mu_tw_blame) (pc := 65) 2 dX11_blame_65 rfl ?_
    refine x_iload (μ := mu_tw_blame) (pc := 67) 1 dX11_blame_67 rfl ?_
    refine x_callV_pi (μ := mu_tw_blame) (pc := 69) (ok_tw_hasLike (ω := ω) (l := l) (d := d - 1) (by omega) hM3 hr13 hr7 hr9 hr11) gRel_Tw gRel_Tw (fun _ q => q) q3738 q3740 qs219 q232 q3741 dX11_blame_69 rfl hM3.1 hy_tw_hasLike (by omega) (Nat.le_of_ble_eq_true rfl) rfl (Nat.le_of_ble_eq_true rfl) (fun x14 hr15 => ?_)
    refine x_if_ne (μ := mu_tw_blame) (pc := 72) (tgt := 77) dX11_blame_72 rfl hr15 ?_ ?_
    · refine x_iconst (μ := mu_tw_blame) (pc := 77) dX11_blame_77 ?_
      refine x_istore (μ := mu_tw_blame) (pc := 78) (lv' := [(7, vI 1), (6, vI x12), (5, vI x10), (4, vI x8), (3, vI x6), (0, vR h), (1, vI v1), (2, vI v2)]) dX11_blame_78 (by decide) rfl ?_
      refine x_loc (lv' := [(0, vR h), (3, vI x6), (4, vI x8), (5, vI x10), (6, vI x12), (7, vI 1)]) [5, 4, 3, 2, 1, 0] rfl ?_
      refine okl_tw_blame_l80 hdp hr7 hr9 hr11 (fun y24 s25 hy24 hM26 => ?_) N x12 1 s1 hr13 (by decide) hM3
      refine x_iload (μ := mu_tw_blame) (pc := 153) 0 dX11_blame_153 rfl ?_
      exact x_iret (μ := mu_tw_blame) (pc := 155) dX11_blame_155 rfl rfl (gRel_Tw.1 _) (show g32 y24 from hy24)
    · refine x_iconst (μ := mu_tw_blame) (pc := 75) dX11_blame_75 ?_
      exact x_iret (μ := mu_tw_blame) (pc := 76) dX11_blame_76 rfl rfl (gRel_Tw.1 _) (show g32 (-1) from (by decide))
  · refine x_aload_n (μ := mu_tw_blame) (pc := 16) 0 dX11_blame_16 rfl ?_
    refine x_iconst (μ := mu_tw_blame) (pc := 17) dX11_blame_17 ?_
    refine x_callV_mi (μ := mu_tw_blame) (pc := 18) (ok_tw_throwing (ω := ω) (l := l) (d := d - 1) (by omega) hM3 (by decide)) gRel_Tw gRel_Tw (fun _ q => q) q2960 q2962 qs78 q232 q2963 dX11_blame_18 rfl hM3.1 hy_tw_throwing (by omega) (Nat.le_of_ble_eq_true rfl) rfl (Nat.le_of_ble_eq_true rfl) (fun x27 k29 hr28 => ?_)
    have hM30 : TM (x27.2) h := hM3.tw k29
    exact x_iret (μ := mu_tw_blame) (pc := 21) dX11_blame_21 rfl rfl (gRel_Tw.1 _) (show g32 (x27.1) from hr28)
def tw_total (N : Nat) (h : Nat) (v1 : Int) (σ : gMem) : Option (Int × gMem) := gLet (wI σ h 0 0) (fun s1 => if v1 = 0 then some (mI s1 h 8, s1) else if v1 = 1 then some (mI s1 h 12, s1) else if v1 = 2 then (tw_head h s1).bind (fun x9 => some (x9, s1)) else if v1 = 3 then (tw_unsettled N h s1).bind (fun x12 => some (x12, s1)) else if v1 = 4 then some (mI s1 h 16, s1) else if v1 = 5 then some (mI s1 h 17, s1) else if v1 = 6 then some (mI s1 h 25, s1) else if v1 = 7 then some (mI s1 h 40, s1) else if v1 = 8 then some (mI s1 h 14, s1) else if v1 = 9 then (tw_isLikeHead N h s1).bind (fun x25 => if x25 = 0 then some (0, s1) else some (1, s1)) else (tw_in v1 10 15 s1).bind (fun x27 => if x27 = 0 then some ((-1), s1) else if 0 ≤ (v1 - 10) ∧ (v1 - 10) < ((6 : Nat) : Int) then some (mI s1 (h + 8) (v1 - 10).toNat, s1) else none))
set_option maxRecDepth 100000 in
theorem ok_tw_total {ω : gW} {l : Launch} {d : Nat} {N : Nat} {h : Nat} {σ : gMem} {v1 : Int} (hdp : 4 ≤ d) (hM : TM σ h) (hv1 : g32 v1) : gK (fun p : Int × gMem => (.inl (some (vI p.1)), p.2)) gTw ω l d mu_tw_total [vR h, vI v1] σ (tw_total N h v1 σ) := by
  refine gK.of hp_X11 (Nat.le_of_ble_eq_true rfl) ?_
  unfold tw_total
  refine x_aload_n (μ := mu_tw_total) (pc := 0) 0 dX11_total_0 rfl ?_
  refine x_iconst (μ := mu_tw_total) (pc := 1) dX11_total_1 ?_
  refine x_fpi (μ := mu_tw_total) (pc := 2) fX11_0 q2636 dX11_total_2 hM.1 (fun _ q => gTw_wI q) ?_
  refine x_let (fun s1 e2 => ?_)
  have hM3 := TM.eI e2 hM
  refine x_iload_n (μ := mu_tw_total) (pc := 5) 1 dX11_total_5 rfl ?_
  refine x_tab (μ := mu_tw_total) (pc := 6) (tgt := 60) 0 dX11_total_6 (by decide) (by decide) (by decide) rfl rfl ?_ (fun hn4 => ?_)
  · refine x_aload_n (μ := mu_tw_total) (pc := 60) 0 dX11_total_60 rfl ?_
    refine x_fgi (μ := mu_tw_total) (pc := 61) fX11_8 q2644 dX11_total_61 hM3.1 (fun hr5 => ?_)
    exact x_iret (μ := mu_tw_total) (pc := 64) dX11_total_64 rfl rfl (gRel_Tw.1 _) (show g32 (mI s1 h 8) from hr5)
  refine x_tab (μ := mu_tw_total) (pc := 6) (tgt := 65) 1 dX11_total_6 (by decide) (by decide) (by decide) rfl rfl ?_ (fun hn6 => ?_)
  · refine x_aload_n (μ := mu_tw_total) (pc := 65) 0 dX11_total_65 rfl ?_
    refine x_fgi (μ := mu_tw_total) (pc := 66) fX11_12 q2648 dX11_total_66 hM3.1 (fun hr7 => ?_)
    exact x_iret (μ := mu_tw_total) (pc := 69) dX11_total_69 rfl rfl (gRel_Tw.1 _) (show g32 (mI s1 h 12) from hr7)
  refine x_tab (μ := mu_tw_total) (pc := 6) (tgt := 70) 2 dX11_total_6 (by decide) (by decide) (by decide) rfl rfl ?_ (fun hn8 => ?_)
  · refine x_aload_n (μ := mu_tw_total) (pc := 70) 0 dX11_total_70 rfl ?_
    refine x_callV_pi (μ := mu_tw_total) (pc := 71) (ok_tw_head (ω := ω) (l := l) (d := d - 1) (by omega) hM3 ) gRel_Tw gRel_Tw (fun _ q => q) q3596 q3598 qs195 q232 q3599 dX11_total_71 rfl hM3.1 hy_tw_head (by omega) (Nat.le_of_ble_eq_true rfl) rfl (Nat.le_of_ble_eq_true rfl) (fun x9 hr10 => ?_)
    exact x_iret (μ := mu_tw_total) (pc := 74) dX11_total_74 rfl rfl (gRel_Tw.1 _) (show g32 x9 from hr10)
  refine x_tab (μ := mu_tw_total) (pc := 6) (tgt := 75) 3 dX11_total_6 (by decide) (by decide) (by decide) rfl rfl ?_ (fun hn11 => ?_)
  · refine x_aload_n (μ := mu_tw_total) (pc := 75) 0 dX11_total_75 rfl ?_
    refine x_callV_pi (μ := mu_tw_total) (pc := 76) (ok_tw_unsettled (ω := ω) (l := l) (d := d - 1) (by omega) hM3 ) gRel_Tw gRel_Tw (fun _ q => q) q3592 q3594 qs194 q232 q3595 dX11_total_76 rfl hM3.1 hy_tw_unsettled (by omega) (Nat.le_of_ble_eq_true rfl) rfl (Nat.le_of_ble_eq_true rfl) (fun x12 hr13 => ?_)
    exact x_iret (μ := mu_tw_total) (pc := 79) dX11_total_79 rfl rfl (gRel_Tw.1 _) (show g32 x12 from hr13)
  refine x_tab (μ := mu_tw_total) (pc := 6) (tgt := 80) 4 dX11_total_6 (by decide) (by decide) (by decide) rfl rfl ?_ (fun hn14 => ?_)
  · refine x_aload_n (μ := mu_tw_total) (pc := 80) 0 dX11_total_80 rfl ?_
    refine x_fgi (μ := mu_tw_total) (pc := 81) fX11_16 q2652 dX11_total_81 hM3.1 (fun hr15 => ?_)
    exact x_iret (μ := mu_tw_total) (pc := 84) dX11_total_84 rfl rfl (gRel_Tw.1 _) (show g32 (mI s1 h 16) from hr15)
  refine x_tab (μ := mu_tw_total) (pc := 6) (tgt := 85) 5 dX11_total_6 (by decide) (by decide) (by decide) rfl rfl ?_ (fun hn16 => ?_)
  · refine x_aload_n (μ := mu_tw_total) (pc := 85) 0 dX11_total_85 rfl ?_
    refine x_fgi (μ := mu_tw_total) (pc := 86) fX11_17 q2653 dX11_total_86 hM3.1 (fun hr17 => ?_)
    exact x_iret (μ := mu_tw_total) (pc := 89) dX11_total_89 rfl rfl (gRel_Tw.1 _) (show g32 (mI s1 h 17) from hr17)
  refine x_tab (μ := mu_tw_total) (pc := 6) (tgt := 90) 6 dX11_total_6 (by decide) (by decide) (by decide) rfl rfl ?_ (fun hn18 => ?_)
  · refine x_aload_n (μ := mu_tw_total) (pc := 90) 0 dX11_total_90 rfl ?_
    refine x_fgi (μ := mu_tw_total) (pc := 91) fX11_25 q2661 dX11_total_91 hM3.1 (fun hr19 => ?_)
    exact x_iret (μ := mu_tw_total) (pc := 94) dX11_total_94 rfl rfl (gRel_Tw.1 _) (show g32 (mI s1 h 25) from hr19)
  refine x_tab (μ := mu_tw_total) (pc := 6) (tgt := 95) 7 dX11_total_6 (by decide) (by decide) (by decide) rfl rfl ?_ (fun hn20 => ?_)
  · refine x_aload_n (μ := mu_tw_total) (pc := 95) 0 dX11_total_95 rfl ?_
    refine x_fgi (μ := mu_tw_total) (pc := 96) fX11_40 q2676 dX11_total_96 hM3.1 (fun hr21 => ?_)
    exact x_iret (μ := mu_tw_total) (pc := 99) dX11_total_99 rfl rfl (gRel_Tw.1 _) (show g32 (mI s1 h 40) from hr21)
  refine x_tab (μ := mu_tw_total) (pc := 6) (tgt := 100) 8 dX11_total_6 (by decide) (by decide) (by decide) rfl rfl ?_ (fun hn22 => ?_)
  · refine x_aload_n (μ := mu_tw_total) (pc := 100) 0 dX11_total_100 rfl ?_
    refine x_fgi (μ := mu_tw_total) (pc := 101) fX11_14 q2650 dX11_total_101 hM3.1 (fun hr23 => ?_)
    exact x_iret (μ := mu_tw_total) (pc := 104) dX11_total_104 rfl rfl (gRel_Tw.1 _) (show g32 (mI s1 h 14) from hr23)
  refine x_tab (μ := mu_tw_total) (pc := 6) (tgt := 105) 9 dX11_total_6 (by decide) (by decide) (by decide) rfl rfl ?_ (fun hn24 => ?_)
  · refine x_aload_n (μ := mu_tw_total) (pc := 105) 0 dX11_total_105 rfl ?_
    refine x_callV_pi (μ := mu_tw_total) (pc := 106) (ok_tw_isLikeHead (ω := ω) (l := l) (d := d - 1) (by omega) hM3 ) gRel_Tw gRel_Tw (fun _ q => q) q3608 q3610 qs196 q232 q3611 dX11_total_106 rfl hM3.1 hy_tw_isLikeHead (by omega) (Nat.le_of_ble_eq_true rfl) rfl (Nat.le_of_ble_eq_true rfl) (fun x25 hr26 => ?_)
    refine x_if_eq (μ := mu_tw_total) (pc := 109) (tgt := 116) dX11_total_109 rfl hr26 ?_ ?_
    · refine x_iconst (μ := mu_tw_total) (pc := 116) dX11_total_116 ?_
      exact x_iret (μ := mu_tw_total) (pc := 117) dX11_total_117 rfl rfl (gRel_Tw.1 _) (show g32 0 from (by decide))
    · refine x_iconst (μ := mu_tw_total) (pc := 112) dX11_total_112 ?_
      refine x_goto (μ := mu_tw_total) (pc := 113) (tgt := 117) dX11_total_113 rfl ?_
      exact x_iret (μ := mu_tw_total) (pc := 117) dX11_total_117 rfl rfl (gRel_Tw.1 _) (show g32 1 from (by decide))
  refine x_tabOut (μ := mu_tw_total) (pc := 6) (tgt := 118) dX11_total_6 hv1 (by omega) rfl ?_
  refine x_iload_n (μ := mu_tw_total) (pc := 118) 1 dX11_total_118 rfl ?_
  refine x_bipush (μ := mu_tw_total) (pc := 119) dX11_total_119 (by decide) ?_
  refine x_bipush (μ := mu_tw_total) (pc := 121) dX11_total_121 (by decide) ?_
  refine x_callS_pi (μ := mu_tw_total) (pc := 123) (ok_tw_in (ω := ω) (l := l) (d := d - 1) (by omega) hv1 (by decide) (by decide)) gRel_Tw gRel_Tw (fun _ q => q) q2980 q2981 q232 q2982 dX11_total_123 hy_tw_in (by omega) (Nat.le_of_ble_eq_true rfl) rfl (Nat.le_of_ble_eq_true rfl) (fun x27 hr28 => ?_)
  refine x_if_eq (μ := mu_tw_total) (pc := 126) (tgt := 141) dX11_total_126 rfl hr28 ?_ ?_
  · refine x_iconst (μ := mu_tw_total) (pc := 141) dX11_total_141 ?_
    exact x_iret (μ := mu_tw_total) (pc := 142) dX11_total_142 rfl rfl (gRel_Tw.1 _) (show g32 (-1) from (by decide))
  · refine x_aload_n (μ := mu_tw_total) (pc := 129) 0 dX11_total_129 rfl ?_
    refine x_fgrE (μ := mu_tw_total) (pc := 130) fX11_11 (Or.inr ⟨_, rfl⟩) q2647 (hM3.a11).1 dX11_total_130 hM3.1 ?_
    refine x_iload_n (μ := mu_tw_total) (pc := 133) 1 dX11_total_133 rfl ?_
    refine x_bipush (μ := mu_tw_total) (pc := 134) dX11_total_134 (by decide) ?_
    refine x_isub (μ := mu_tw_total) (pc := 136) dX11_total_136 ?_
    refine x_iald (μ := mu_tw_total) (pc := 137) dX11_total_137 (hM3.a11).2.1 (hM3.a11).2.2 (fun hr29 => ?_)
    refine x_goto (μ := mu_tw_total) (pc := 138) (tgt := 142) dX11_total_138 rfl ?_
    exact x_iret (μ := mu_tw_total) (pc := 142) dX11_total_142 rfl rfl (gRel_Tw.1 _) (show g32 (mI s1 (h + 8) (v1 - 10).toNat) from hr29)
def x14_write (N : Nat) (v0 : Nat) (v1 : Nat) (v2 : Nat) (σ : gMem) : Option gMem := if mT σ v1 = 7 then (x8_isFormula v1 σ).bind (fun x2 => if x2 = 0 then if mT σ v0 = 12 then (x6_isPlain N (mR σ v0 0) σ).bind (fun x5 => if x5 ≠ 0 then (x8_all N v1 (mR σ v0 0) σ).bind (fun x7 => some x7) else (x8_put v1 39 σ).bind (fun x9 => (x8_all N v1 (mR x9 v0 0) x9).bind (fun x11 => some x11))) else none else (x8_put v1 34 σ).bind (fun x13 => if mT x13 v0 = 12 then (x8_all N v1 (mR x13 v0 0) x13).bind (fun x16 => (x8_put v1 34 x16).bind (fun x18 => some x18)) else none)) else none
set_option maxRecDepth 100000 in
theorem ok_x14_write {ω : gW} {l : Launch} {d : Nat} {N : Nat} {σ : gMem} {v0 : Nat} {v1 : Nat} {v2 : Nat} (hl : l.stackTraces = false) (hdp : 8 ≤ d) : gK (fun p : gMem => (.inl none, p)) gE ω l d mu_x14_write [vR v0, vR v1, vR v2] σ (x14_write N v0 v1 v2 σ) := by
  refine gK.of hp_X14 (Nat.le_of_ble_eq_true rfl) ?_
  unfold x14_write
  refine x_aload_n (μ := mu_x14_write) (pc := 0) 1 dX14_write_0 rfl ?_
  refine x_if (fun hT1 => ?_)
  refine x_callV_pi (μ := mu_x14_write) (pc := 1) (ok_x8_isFormula (ω := ω) (l := l) (d := d - 1) hl (by omega) ) gRel_E gRel_E (fun _ q => q) q1522 q1523 q1524 q229 q1525 dX14_write_1 rfl hT1 hy_x8_isFormula (by omega) (Nat.le_of_ble_eq_true rfl) rfl (Nat.le_of_ble_eq_true rfl) (fun x2 hr3 => ?_)
  refine x_if_eq (μ := mu_x14_write) (pc := 4) (tgt := 28) dX14_write_4 rfl hr3 ?_ ?_
  · refine x_aload_n (μ := mu_x14_write) (pc := 28) 0 dX14_write_28 rfl ?_
    refine x_if (fun hT4 => ?_)
    refine x_fgr (μ := mu_x14_write) (pc := 29) fX14_0 (by first | exact Or.inl ⟨_, rfl⟩ | exact Or.inr ⟨_, rfl⟩) q1894 dX14_write_29 hT4 ?_
    refine x_callS_pi (μ := mu_x14_write) (pc := 32) (ok_x6_isPlain (ω := ω) (l := l) (d := d - 1) hl (by omega) ) gRel_E gRel_E (fun _ q => q) q1531 q1532 q226 q1533 dX14_write_32 hy_x6_isPlain (by omega) (Nat.le_of_ble_eq_true rfl) rfl (Nat.le_of_ble_eq_true rfl) (fun x5 hr6 => ?_)
    refine x_if_ne (μ := mu_x14_write) (pc := 35) (tgt := 44) dX14_write_35 rfl hr6 ?_ ?_
    · refine x_aload_n (μ := mu_x14_write) (pc := 44) 1 dX14_write_44 rfl ?_
      refine x_aload_n (μ := mu_x14_write) (pc := 45) 0 dX14_write_45 rfl ?_
      refine x_fgr (μ := mu_x14_write) (pc := 46) fX14_0 (by first | exact Or.inl ⟨_, rfl⟩ | exact Or.inr ⟨_, rfl⟩) q1894 dX14_write_46 hT4 ?_
      refine x_callV_mv (μ := mu_x14_write) (pc := 49) (ok_x8_all (ω := ω) (l := l) (d := d - 1) hl (by omega) ) gRel_E gRel_E (fun _ q => q) q1527 q1528 q1529 q229 q1530 dX14_write_49 rfl hT1 hy_x8_all (by omega) (Nat.le_of_ble_eq_true rfl) rfl (Nat.le_of_ble_eq_true rfl) (fun x7 k8 => ?_)
      exact x_vret (μ := mu_x14_write) (pc := 52) (a1 := x7) dX14_write_52 rfl rfl (gRel_E.1 _) trivial
    · refine x_aload_n (μ := mu_x14_write) (pc := 38) 1 dX14_write_38 rfl ?_
      refine x_bipush (μ := mu_x14_write) (pc := 39) dX14_write_39 (by decide) ?_
      refine x_callV_mv (μ := mu_x14_write) (pc := 41) (ok_x8_put (ω := ω) (l := l) (d := d - 1) hl (by omega) (by decide)) gRel_E gRel_E (fun _ q => q) q1526 q1366 q1367 q229 q1368 dX14_write_41 rfl hT1 hy_x8_put (by omega) (Nat.le_of_ble_eq_true rfl) rfl (Nat.le_of_ble_eq_true rfl) (fun x9 k10 => ?_)
      refine x_aload_n (μ := mu_x14_write) (pc := 44) 1 dX14_write_44 rfl ?_
      refine x_aload_n (μ := mu_x14_write) (pc := 45) 0 dX14_write_45 rfl ?_
      refine x_fgr (μ := mu_x14_write) (pc := 46) fX14_0 (by first | exact Or.inl ⟨_, rfl⟩ | exact Or.inr ⟨_, rfl⟩) q1894 dX14_write_46 (gT_E k10 hT4 (by decide)) ?_
      refine x_callV_mv (μ := mu_x14_write) (pc := 49) (ok_x8_all (ω := ω) (l := l) (d := d - 1) hl (by omega) ) gRel_E gRel_E (fun _ q => q) q1527 q1528 q1529 q229 q1530 dX14_write_49 rfl (gT_E k10 hT1 (by decide)) hy_x8_all (by omega) (Nat.le_of_ble_eq_true rfl) rfl (Nat.le_of_ble_eq_true rfl) (fun x11 k12 => ?_)
      exact x_vret (μ := mu_x14_write) (pc := 52) (a1 := x11) dX14_write_52 rfl rfl (gRel_E.1 _) trivial
  · refine x_aload_n (μ := mu_x14_write) (pc := 7) 1 dX14_write_7 rfl ?_
    refine x_bipush (μ := mu_x14_write) (pc := 8) dX14_write_8 (by decide) ?_
    refine x_callV_mv (μ := mu_x14_write) (pc := 10) (ok_x8_put (ω := ω) (l := l) (d := d - 1) hl (by omega) (by decide)) gRel_E gRel_E (fun _ q => q) q1526 q1366 q1367 q229 q1368 dX14_write_10 rfl hT1 hy_x8_put (by omega) (Nat.le_of_ble_eq_true rfl) rfl (Nat.le_of_ble_eq_true rfl) (fun x13 k14 => ?_)
    refine x_aload_n (μ := mu_x14_write) (pc := 13) 1 dX14_write_13 rfl ?_
    refine x_aload_n (μ := mu_x14_write) (pc := 14) 0 dX14_write_14 rfl ?_
    refine x_if (fun hT15 => ?_)
    refine x_fgr (μ := mu_x14_write) (pc := 15) fX14_0 (by first | exact Or.inl ⟨_, rfl⟩ | exact Or.inr ⟨_, rfl⟩) q1894 dX14_write_15 hT15 ?_
    refine x_callV_mv (μ := mu_x14_write) (pc := 18) (ok_x8_all (ω := ω) (l := l) (d := d - 1) hl (by omega) ) gRel_E gRel_E (fun _ q => q) q1527 q1528 q1529 q229 q1530 dX14_write_18 rfl (gT_E k14 hT1 (by decide)) hy_x8_all (by omega) (Nat.le_of_ble_eq_true rfl) rfl (Nat.le_of_ble_eq_true rfl) (fun x16 k17 => ?_)
    refine x_aload_n (μ := mu_x14_write) (pc := 21) 1 dX14_write_21 rfl ?_
    refine x_bipush (μ := mu_x14_write) (pc := 22) dX14_write_22 (by decide) ?_
    refine x_callV_mv (μ := mu_x14_write) (pc := 24) (ok_x8_put (ω := ω) (l := l) (d := d - 1) hl (by omega) (by decide)) gRel_E gRel_E (fun _ q => q) q1526 q1366 q1367 q229 q1368 dX14_write_24 rfl (gT_E k17 (gT_E k14 hT1 (by decide)) (by decide)) hy_x8_put (by omega) (Nat.le_of_ble_eq_true rfl) rfl (Nat.le_of_ble_eq_true rfl) (fun x18 k19 => ?_)
    exact x_vret (μ := mu_x14_write) (pc := 27) (a1 := x18) dX14_write_27 rfl rfl (gRel_E.1 _) trivial
def x20_truths_l88_j176 (N : Nat) (W : Nat → Nat → Nat → gMem → Option gMem) (v0 : Nat) (v1 : Nat) (v2 : Nat) (v3 : Int) (v4 : Int) (v6 : Int) (v7 : Int) (v8 : Nat) (t0 : Int) (Kh : Int → Int → gMem → Option gMem) (K : Int → Int → gMem → Option gMem) (s : gMem) : Option gMem := Kh t0 v6 s
set_option maxRecDepth 100000 in
theorem okj_x20_truths_l88_j176 {ω : gW} {l : Launch} {d : Nat} {N : Nat} {W : Nat → Nat → Nat → gMem → Option gMem} {dW : Nat} {σ0 : gMem} {s : gMem} {v0 : Nat} {v1 : Nat} {v2 : Nat} {v3 : Int} {v4 : Int} {v6 : Int} {v7 : Int} {v8 : Nat} {t0 : Int} {Kh : Int → Int → gMem → Option gMem} {K : Int → Int → gMem → Option gMem} (hl : l.stackTraces = false) (hW : ∀ (a0 : Nat) (a1 : Nat) (a2 : Nat) (s : gMem), gKI (fun p : gMem => (.inl none, p)) gE ω l dW iy_Part_work none [vR a0, vR a1, vR a2] s (W a0 a1 a2 s)) (hdp : 4 ≤ d) (hdw : dW + 2 ≤ d) (hv3 : g32 v3) (hv4 : g32 v4) (hv6 : g32 v6) (hv7 : g32 v7) (ht0 : g32 t0) (hKh : ∀ (v5 : Int) (v6 : Int) (s : gMem) , g32 v5 → g32 v6 → GG (fun p : gMem => (.inl none, p)) gE ω l d mu_x20_truths σ0 88 [(0, vR v0), (1, vR v1), (2, vR v2), (3, vI v3), (4, vI v4), (5, vI v5), (6, vI v6), (7, vI v7), (8, vR v8)] [] s (Kh v5 v6 s)) (hK : ∀ (v5 : Int) (v6 : Int) (s : gMem) , g32 v5 → g32 v6 → GG (fun p : gMem => (.inl none, p)) gE ω l d mu_x20_truths σ0 181 [(0, vR v0), (1, vR v1), (2, vR v2), (3, vI v3), (4, vI v4), (5, vI v5), (6, vI v6), (7, vI v7)] [] s (K v5 v6 s)) : GG (fun p : gMem => (.inl none, p)) gE ω l d mu_x20_truths σ0 176 [(0, vR v0), (1, vR v1), (2, vR v2), (3, vI v3), (4, vI v4), (6, vI v6), (7, vI v7), (8, vR v8)] [vI t0] s (x20_truths_l88_j176 N W v0 v1 v2 v3 v4 v6 v7 v8 t0 Kh K s) := by
  unfold x20_truths_l88_j176
  refine x_istore (μ := mu_x20_truths) (pc := 176) (lv' := [(5, vI t0), (0, vR v0), (1, vR v1), (2, vR v2), (3, vI v3), (4, vI v4), (6, vI v6), (7, vI v7), (8, vR v8)]) dX20_truths_176 (by decide) rfl ?_
  refine x_goto (μ := mu_x20_truths) (pc := 178) (tgt := 88) dX20_truths_178 rfl ?_
  refine x_loc (lv' := [(0, vR v0), (1, vR v1), (2, vR v2), (3, vI v3), (4, vI v4), (5, vI t0), (6, vI v6), (7, vI v7), (8, vR v8)]) [1, 2, 3, 4, 5, 0, 6, 7, 8] rfl ?_
  exact hKh t0 v6 s ht0 hv6
def x20_truths_l88_j171 (N : Nat) (W : Nat → Nat → Nat → gMem → Option gMem) (v0 : Nat) (v1 : Nat) (v2 : Nat) (v3 : Int) (v4 : Int) (v6 : Int) (v7 : Int) (v8 : Nat) (Kh : Int → Int → gMem → Option gMem) (K : Int → Int → gMem → Option gMem) (s : gMem) : Option gMem := x20_truths_l88_j176 N W v0 v1 v2 v3 v4 v6 v7 v8 1 (Kh) K s
set_option maxRecDepth 100000 in
theorem okj_x20_truths_l88_j171 {ω : gW} {l : Launch} {d : Nat} {N : Nat} {W : Nat → Nat → Nat → gMem → Option gMem} {dW : Nat} {σ0 : gMem} {s : gMem} {v0 : Nat} {v1 : Nat} {v2 : Nat} {v3 : Int} {v4 : Int} {v6 : Int} {v7 : Int} {v8 : Nat} {Kh : Int → Int → gMem → Option gMem} {K : Int → Int → gMem → Option gMem} (hl : l.stackTraces = false) (hW : ∀ (a0 : Nat) (a1 : Nat) (a2 : Nat) (s : gMem), gKI (fun p : gMem => (.inl none, p)) gE ω l dW iy_Part_work none [vR a0, vR a1, vR a2] s (W a0 a1 a2 s)) (hdp : 4 ≤ d) (hdw : dW + 2 ≤ d) (hv3 : g32 v3) (hv4 : g32 v4) (hv6 : g32 v6) (hv7 : g32 v7) (hKh : ∀ (v5 : Int) (v6 : Int) (s : gMem) , g32 v5 → g32 v6 → GG (fun p : gMem => (.inl none, p)) gE ω l d mu_x20_truths σ0 88 [(0, vR v0), (1, vR v1), (2, vR v2), (3, vI v3), (4, vI v4), (5, vI v5), (6, vI v6), (7, vI v7), (8, vR v8)] [] s (Kh v5 v6 s)) (hK : ∀ (v5 : Int) (v6 : Int) (s : gMem) , g32 v5 → g32 v6 → GG (fun p : gMem => (.inl none, p)) gE ω l d mu_x20_truths σ0 181 [(0, vR v0), (1, vR v1), (2, vR v2), (3, vI v3), (4, vI v4), (5, vI v5), (6, vI v6), (7, vI v7)] [] s (K v5 v6 s)) : GG (fun p : gMem => (.inl none, p)) gE ω l d mu_x20_truths σ0 171 [(0, vR v0), (1, vR v1), (2, vR v2), (3, vI v3), (4, vI v4), (6, vI v6), (7, vI v7), (8, vR v8)] [] s (x20_truths_l88_j171 N W v0 v1 v2 v3 v4 v6 v7 v8 Kh K s) := by
  unfold x20_truths_l88_j171
  refine x_iconst (μ := mu_x20_truths) (pc := 171) dX20_truths_171 ?_
  refine x_goto (μ := mu_x20_truths) (pc := 172) (tgt := 176) dX20_truths_172 rfl ?_
  exact okj_x20_truths_l88_j176 hl hW hdp hdw hv3 hv4 hv6 hv7 (by decide) hKh hK
def x20_truths_l88_j152 (N : Nat) (W : Nat → Nat → Nat → gMem → Option gMem) (v0 : Nat) (v1 : Nat) (v2 : Nat) (v3 : Int) (v4 : Int) (v6 : Int) (v7 : Int) (v8 : Nat) (Kh : Int → Int → gMem → Option gMem) (K : Int → Int → gMem → Option gMem) (s : gMem) : Option gMem := x20_truths_l88_j176 N W v0 v1 v2 v3 v4 v6 v7 v8 0 (Kh) K s
set_option maxRecDepth 100000 in
theorem okj_x20_truths_l88_j152 {ω : gW} {l : Launch} {d : Nat} {N : Nat} {W : Nat → Nat → Nat → gMem → Option gMem} {dW : Nat} {σ0 : gMem} {s : gMem} {v0 : Nat} {v1 : Nat} {v2 : Nat} {v3 : Int} {v4 : Int} {v6 : Int} {v7 : Int} {v8 : Nat} {Kh : Int → Int → gMem → Option gMem} {K : Int → Int → gMem → Option gMem} (hl : l.stackTraces = false) (hW : ∀ (a0 : Nat) (a1 : Nat) (a2 : Nat) (s : gMem), gKI (fun p : gMem => (.inl none, p)) gE ω l dW iy_Part_work none [vR a0, vR a1, vR a2] s (W a0 a1 a2 s)) (hdp : 4 ≤ d) (hdw : dW + 2 ≤ d) (hv3 : g32 v3) (hv4 : g32 v4) (hv6 : g32 v6) (hv7 : g32 v7) (hKh : ∀ (v5 : Int) (v6 : Int) (s : gMem) , g32 v5 → g32 v6 → GG (fun p : gMem => (.inl none, p)) gE ω l d mu_x20_truths σ0 88 [(0, vR v0), (1, vR v1), (2, vR v2), (3, vI v3), (4, vI v4), (5, vI v5), (6, vI v6), (7, vI v7), (8, vR v8)] [] s (Kh v5 v6 s)) (hK : ∀ (v5 : Int) (v6 : Int) (s : gMem) , g32 v5 → g32 v6 → GG (fun p : gMem => (.inl none, p)) gE ω l d mu_x20_truths σ0 181 [(0, vR v0), (1, vR v1), (2, vR v2), (3, vI v3), (4, vI v4), (5, vI v5), (6, vI v6), (7, vI v7)] [] s (K v5 v6 s)) : GG (fun p : gMem => (.inl none, p)) gE ω l d mu_x20_truths σ0 152 [(0, vR v0), (1, vR v1), (2, vR v2), (3, vI v3), (4, vI v4), (6, vI v6), (7, vI v7), (8, vR v8)] [] s (x20_truths_l88_j152 N W v0 v1 v2 v3 v4 v6 v7 v8 Kh K s) := by
  unfold x20_truths_l88_j152
  refine x_iconst (μ := mu_x20_truths) (pc := 152) dX20_truths_152 ?_
  refine x_goto (μ := mu_x20_truths) (pc := 153) (tgt := 176) dX20_truths_153 rfl ?_
  exact okj_x20_truths_l88_j176 hl hW hdp hdw hv3 hv4 hv6 hv7 (by decide) hKh hK
def x20_truths_l88 (N : Nat) (W : Nat → Nat → Nat → gMem → Option gMem) (v0 : Nat) (v1 : Nat) (v2 : Nat) (v3 : Int) (v4 : Int) (v7 : Int) (v8 : Nat) (K : Int → Int → gMem → Option gMem) : Nat → Int → Int → gMem → Option gMem
  | 0, _, _, _ => none
  | n + 1, v5, v6, s => if v6 = 0 then K v5 v6 s else if mT s v1 = 3 then (x3_next v1 s).bind (fun x17 => if x17.1 = 0 then K v5 v6 (x17.2) else if mT (x17.2) v8 = 5 then (x5_failed v8 (x17.2)).bind (fun x21 => if x21 = 0 then if mI (x17.2) v8 0 ≠ 3 then x20_truths_l88 N W v0 v1 v2 v3 v4 v7 v8 K n v5 v6 (x17.2) else if v3 = 0 then if v5 ≠ 0 then x20_truths_l88_j171 N W v0 v1 v2 v3 v4 v6 v7 v8  (x20_truths_l88 N W v0 v1 v2 v3 v4 v7 v8 K n) K (x17.2) else if gcmp (mL (x17.2) v8 2) (((1 : Fin 2) : Nat) : Int) ≠ 0 then x20_truths_l88_j176 N W v0 v1 v2 v3 v4 v6 v7 v8 0 (x20_truths_l88 N W v0 v1 v2 v3 v4 v7 v8 K n) K (x17.2) else x20_truths_l88_j171 N W v0 v1 v2 v3 v4 v6 v7 v8  (x20_truths_l88 N W v0 v1 v2 v3 v4 v7 v8 K n) K (x17.2) else if v5 = 0 then x20_truths_l88_j152 N W v0 v1 v2 v3 v4 v6 v7 v8  (x20_truths_l88 N W v0 v1 v2 v3 v4 v7 v8 K n) K (x17.2) else if gcmp (mL (x17.2) v8 2) (((1 : Fin 2) : Nat) : Int) ≠ 0 then x20_truths_l88_j152 N W v0 v1 v2 v3 v4 v6 v7 v8  (x20_truths_l88 N W v0 v1 v2 v3 v4 v7 v8 K n) K (x17.2) else x20_truths_l88_j176 N W v0 v1 v2 v3 v4 v6 v7 v8 1 (x20_truths_l88 N W v0 v1 v2 v3 v4 v7 v8 K n) K (x17.2) else if mT (x17.2) v2 = 5 then (x5_copy v2 v8 (x17.2)).bind (fun x27 => x20_truths_l88 N W v0 v1 v2 v3 v4 v7 v8 K n v5 0 x27) else none) else none) else none
set_option maxRecDepth 100000 in
theorem okl_x20_truths_l88 {ω : gW} {l : Launch} {d : Nat} {N : Nat} {W : Nat → Nat → Nat → gMem → Option gMem} {dW : Nat} {σ0 : gMem} {v0 : Nat} {v1 : Nat} {v2 : Nat} {v3 : Int} {v4 : Int} {v7 : Int} {v8 : Nat} {K : Int → Int → gMem → Option gMem} (hl : l.stackTraces = false) (hW : ∀ (a0 : Nat) (a1 : Nat) (a2 : Nat) (s : gMem), gKI (fun p : gMem => (.inl none, p)) gE ω l dW iy_Part_work none [vR a0, vR a1, vR a2] s (W a0 a1 a2 s)) (hdp : 4 ≤ d) (hdw : dW + 2 ≤ d) (hv3 : g32 v3) (hv4 : g32 v4) (hv7 : g32 v7) (hK : ∀ (v5 : Int) (v6 : Int) (s : gMem) , g32 v5 → g32 v6 → GG (fun p : gMem => (.inl none, p)) gE ω l d mu_x20_truths σ0 181 [(0, vR v0), (1, vR v1), (2, vR v2), (3, vI v3), (4, vI v4), (5, vI v5), (6, vI v6), (7, vI v7)] [] s (K v5 v6 s)) : ∀ (n : Nat) (v5 : Int) (v6 : Int) (s : gMem) , g32 v5 → g32 v6 → GG (fun p : gMem => (.inl none, p)) gE ω l d mu_x20_truths σ0 88 [(0, vR v0), (1, vR v1), (2, vR v2), (3, vI v3), (4, vI v4), (5, vI v5), (6, vI v6), (7, vI v7), (8, vR v8)] [] s (x20_truths_l88 N W v0 v1 v2 v3 v4 v7 v8 K n v5 v6 s) := by
  intro n
  induction n with
  | zero => intros; exact x_none
  | succ n ih =>
    intro v5 v6 s hv5 hv6
    unfold x20_truths_l88
    refine x_iload (μ := mu_x20_truths) (pc := 88) 6 dX20_truths_88 rfl ?_
    refine x_if_eq (μ := mu_x20_truths) (pc := 90) (tgt := 181) dX20_truths_90 rfl hv6 ?_ ?_
    · refine x_loc (lv' := [(0, vR v0), (1, vR v1), (2, vR v2), (3, vI v3), (4, vI v4), (5, vI v5), (6, vI v6), (7, vI v7)]) [0, 1, 2, 3, 4, 5, 6, 7] rfl ?_
      exact hK v5 v6 s hv5 hv6
    · refine x_aload_n (μ := mu_x20_truths) (pc := 93) 1 dX20_truths_93 rfl ?_
      refine x_if (fun hT16 => ?_)
      refine x_callV_mi (μ := mu_x20_truths) (pc := 94) (ok_x3_next (ω := ω) (l := l) (d := d - 1) hl (by omega) ) gRel_E gRel_E (fun _ q => q) q1230 q1231 q1232 q223 q1233 dX20_truths_94 rfl hT16 hy_x3_next (by omega) (Nat.le_of_ble_eq_true rfl) rfl (Nat.le_of_ble_eq_true rfl) (fun x17 k19 hr18 => ?_)
      refine x_if_eq (μ := mu_x20_truths) (pc := 97) (tgt := 181) dX20_truths_97 rfl hr18 ?_ ?_
      · refine x_loc (lv' := [(0, vR v0), (1, vR v1), (2, vR v2), (3, vI v3), (4, vI v4), (5, vI v5), (6, vI v6), (7, vI v7)]) [0, 1, 2, 3, 4, 5, 6, 7] rfl ?_
        exact hK v5 v6 (x17.2) hv5 hv6
      · refine x_aload (μ := mu_x20_truths) (pc := 100) 8 dX20_truths_100 rfl ?_
        refine x_if (fun hT20 => ?_)
        refine x_callV_pi (μ := mu_x20_truths) (pc := 102) (ok_x5_failed (ω := ω) (l := l) (d := d - 1) hl (by omega) ) gRel_E gRel_E (fun _ q => q) q1200 q1073 q1074 q225 q1075 dX20_truths_102 rfl hT20 hy_x5_failed (by omega) (Nat.le_of_ble_eq_true rfl) rfl (Nat.le_of_ble_eq_true rfl) (fun x21 hr22 => ?_)
        refine x_if_eq (μ := mu_x20_truths) (pc := 105) (tgt := 120) dX20_truths_105 rfl hr22 ?_ ?_
        · refine x_aload (μ := mu_x20_truths) (pc := 120) 8 dX20_truths_120 rfl ?_
          refine x_fgiN (μ := mu_x20_truths) (pc := 122) fX5_0 q374 dX20_truths_122 hT20 (fun hr23 => ?_)
          refine x_iconst (μ := mu_x20_truths) (pc := 125) dX20_truths_125 ?_
          refine x_icmp_ne (μ := mu_x20_truths) (pc := 126) (tgt := 88) dX20_truths_126 rfl hr23 (by decide) ?_ ?_
          · exact ih v5 v6 (x17.2) hv5 hv6
          · refine x_iload_n (μ := mu_x20_truths) (pc := 129) 3 dX20_truths_129 rfl ?_
            refine x_if_eq (μ := mu_x20_truths) (pc := 130) (tgt := 156) dX20_truths_130 rfl hv3 ?_ ?_
            · refine x_iload (μ := mu_x20_truths) (pc := 156) 5 dX20_truths_156 rfl ?_
              refine x_if_ne (μ := mu_x20_truths) (pc := 158) (tgt := 171) dX20_truths_158 rfl hv5 ?_ ?_
              · refine x_loc (lv' := [(0, vR v0), (1, vR v1), (2, vR v2), (3, vI v3), (4, vI v4), (6, vI v6), (7, vI v7), (8, vR v8)]) [0, 1, 2, 3, 4, 6, 7, 8] rfl ?_
                exact okj_x20_truths_l88_j171 hl hW hdp hdw hv3 hv4 hv6 hv7 ih hK
              · refine x_aload (μ := mu_x20_truths) (pc := 161) 8 dX20_truths_161 rfl ?_
                refine x_fglN (μ := mu_x20_truths) (pc := 163) fX5_2 q383 dX20_truths_163 hT20 (fun hr24 => ?_)
                refine x_lconst (μ := mu_x20_truths) (pc := 166) dX20_truths_166 ?_
                refine x_lcmp (μ := mu_x20_truths) (pc := 167) dX20_truths_167 hr24 (by decide) ?_
                refine x_if_ne (μ := mu_x20_truths) (pc := 168) (tgt := 175) dX20_truths_168 rfl (gcmp_rng _ _) ?_ ?_
                · refine x_iconst (μ := mu_x20_truths) (pc := 175) dX20_truths_175 ?_
                  refine x_loc (lv' := [(0, vR v0), (1, vR v1), (2, vR v2), (3, vI v3), (4, vI v4), (6, vI v6), (7, vI v7), (8, vR v8)]) [0, 1, 2, 3, 4, 6, 7, 8] rfl ?_
                  exact okj_x20_truths_l88_j176 hl hW hdp hdw hv3 hv4 hv6 hv7 (by decide) ih hK
                · refine x_loc (lv' := [(0, vR v0), (1, vR v1), (2, vR v2), (3, vI v3), (4, vI v4), (6, vI v6), (7, vI v7), (8, vR v8)]) [0, 1, 2, 3, 4, 6, 7, 8] rfl ?_
                  exact okj_x20_truths_l88_j171 hl hW hdp hdw hv3 hv4 hv6 hv7 ih hK
            · refine x_iload (μ := mu_x20_truths) (pc := 133) 5 dX20_truths_133 rfl ?_
              refine x_if_eq (μ := mu_x20_truths) (pc := 135) (tgt := 152) dX20_truths_135 rfl hv5 ?_ ?_
              · refine x_loc (lv' := [(0, vR v0), (1, vR v1), (2, vR v2), (3, vI v3), (4, vI v4), (6, vI v6), (7, vI v7), (8, vR v8)]) [0, 1, 2, 3, 4, 6, 7, 8] rfl ?_
                exact okj_x20_truths_l88_j152 hl hW hdp hdw hv3 hv4 hv6 hv7 ih hK
              · refine x_aload (μ := mu_x20_truths) (pc := 138) 8 dX20_truths_138 rfl ?_
                refine x_fglN (μ := mu_x20_truths) (pc := 140) fX5_2 q383 dX20_truths_140 hT20 (fun hr25 => ?_)
                refine x_lconst (μ := mu_x20_truths) (pc := 143) dX20_truths_143 ?_
                refine x_lcmp (μ := mu_x20_truths) (pc := 144) dX20_truths_144 hr25 (by decide) ?_
                refine x_if_ne (μ := mu_x20_truths) (pc := 145) (tgt := 152) dX20_truths_145 rfl (gcmp_rng _ _) ?_ ?_
                · refine x_loc (lv' := [(0, vR v0), (1, vR v1), (2, vR v2), (3, vI v3), (4, vI v4), (6, vI v6), (7, vI v7), (8, vR v8)]) [0, 1, 2, 3, 4, 6, 7, 8] rfl ?_
                  exact okj_x20_truths_l88_j152 hl hW hdp hdw hv3 hv4 hv6 hv7 ih hK
                · refine x_iconst (μ := mu_x20_truths) (pc := 148) dX20_truths_148 ?_
                  refine x_goto (μ := mu_x20_truths) (pc := 149) (tgt := 176) dX20_truths_149 rfl ?_
                  refine x_loc (lv' := [(0, vR v0), (1, vR v1), (2, vR v2), (3, vI v3), (4, vI v4), (6, vI v6), (7, vI v7), (8, vR v8)]) [0, 1, 2, 3, 4, 6, 7, 8] rfl ?_
                  exact okj_x20_truths_l88_j176 hl hW hdp hdw hv3 hv4 hv6 hv7 (by decide) ih hK
        · refine x_aload_n (μ := mu_x20_truths) (pc := 108) 2 dX20_truths_108 rfl ?_
          refine x_aload (μ := mu_x20_truths) (pc := 109) 8 dX20_truths_109 rfl ?_
          refine x_if (fun hT26 => ?_)
          refine x_callV_mv (μ := mu_x20_truths) (pc := 111) (ok_x5_copy (ω := ω) (l := l) (d := d - 1) hl (by omega) ) gRel_E gRel_E (fun _ q => q) q1217 q1077 q1078 q225 q1079 dX20_truths_111 rfl hT26 hy_x5_copy (by omega) (Nat.le_of_ble_eq_true rfl) rfl (Nat.le_of_ble_eq_true rfl) (fun x27 k28 => ?_)
          refine x_iconst (μ := mu_x20_truths) (pc := 114) dX20_truths_114 ?_
          refine x_istore (μ := mu_x20_truths) (pc := 115) (lv' := [(6, vI 0), (0, vR v0), (1, vR v1), (2, vR v2), (3, vI v3), (4, vI v4), (5, vI v5), (7, vI v7), (8, vR v8)]) dX20_truths_115 (by decide) rfl ?_
          refine x_goto (μ := mu_x20_truths) (pc := 117) (tgt := 88) dX20_truths_117 rfl ?_
          refine x_loc (lv' := [(0, vR v0), (1, vR v1), (2, vR v2), (3, vI v3), (4, vI v4), (5, vI v5), (6, vI 0), (7, vI v7), (8, vR v8)]) [1, 2, 3, 4, 5, 6, 0, 7, 8] rfl ?_
          exact ih v5 0 x27 hv5 (by decide)
def x20_truths_l37_j266 (N : Nat) (W : Nat → Nat → Nat → gMem → Option gMem) (v0 : Nat) (v1 : Nat) (v2 : Nat) (v3 : Int) (v4 : Int) (v5 : Int) (v6 : Int) (v7 : Int) (Kh : Int → Int → Int → gMem → Option gMem) (K : Int → Int → gMem → Option gMem) (s : gMem) : Option gMem := Kh v5 v6 (w32 (v7 + 1)) s
set_option maxRecDepth 100000 in
theorem okj_x20_truths_l37_j266 {ω : gW} {l : Launch} {d : Nat} {N : Nat} {W : Nat → Nat → Nat → gMem → Option gMem} {dW : Nat} {σ0 : gMem} {s : gMem} {v0 : Nat} {v1 : Nat} {v2 : Nat} {v3 : Int} {v4 : Int} {v5 : Int} {v6 : Int} {v7 : Int} {Kh : Int → Int → Int → gMem → Option gMem} {K : Int → Int → gMem → Option gMem} (hl : l.stackTraces = false) (hW : ∀ (a0 : Nat) (a1 : Nat) (a2 : Nat) (s : gMem), gKI (fun p : gMem => (.inl none, p)) gE ω l dW iy_Part_work none [vR a0, vR a1, vR a2] s (W a0 a1 a2 s)) (hdp : 4 ≤ d) (hdw : dW + 2 ≤ d) (hv3 : g32 v3) (hv4 : g32 v4) (hv5 : g32 v5) (hv6 : g32 v6) (hv7 : g32 v7) (hKh : ∀ (v5 : Int) (v6 : Int) (v7 : Int) (s : gMem) , g32 v5 → g32 v6 → g32 v7 → GG (fun p : gMem => (.inl none, p)) gE ω l d mu_x20_truths σ0 37 [(0, vR v0), (1, vR v1), (2, vR v2), (3, vI v3), (4, vI v4), (5, vI v5), (6, vI v6), (7, vI v7)] [] s (Kh v5 v6 v7 s)) (hK : ∀ (v5 : Int) (v6 : Int) (s : gMem) , g32 v5 → g32 v6 → GG (fun p : gMem => (.inl none, p)) gE ω l d mu_x20_truths σ0 272 [(1, vR v1), (2, vR v2), (4, vI v4), (5, vI v5), (6, vI v6)] [] s (K v5 v6 s)) : GG (fun p : gMem => (.inl none, p)) gE ω l d mu_x20_truths σ0 266 [(0, vR v0), (1, vR v1), (2, vR v2), (3, vI v3), (4, vI v4), (5, vI v5), (6, vI v6), (7, vI v7)] [] s (x20_truths_l37_j266 N W v0 v1 v2 v3 v4 v5 v6 v7 Kh K s) := by
  unfold x20_truths_l37_j266
  refine x_iincw (μ := mu_x20_truths) (pc := 266) (lv' := [(7, vI (w32 (v7 + 1))), (0, vR v0), (1, vR v1), (2, vR v2), (3, vI v3), (4, vI v4), (5, vI v5), (6, vI v6)]) 7 dX20_truths_266 rfl (by decide) rfl ?_
  refine x_goto (μ := mu_x20_truths) (pc := 269) (tgt := 37) dX20_truths_269 rfl ?_
  refine x_loc (lv' := [(0, vR v0), (1, vR v1), (2, vR v2), (3, vI v3), (4, vI v4), (5, vI v5), (6, vI v6), (7, vI (w32 (v7 + 1)))]) [1, 2, 3, 4, 5, 6, 7, 0] rfl ?_
  exact hKh v5 v6 (w32 (v7 + 1)) s hv5 hv6 (w32_rng _)
def x20_truths_l37_j264 (N : Nat) (W : Nat → Nat → Nat → gMem → Option gMem) (v0 : Nat) (v1 : Nat) (v2 : Nat) (v3 : Int) (v4 : Int) (v6 : Int) (v7 : Int) (t0 : Int) (Kh : Int → Int → Int → gMem → Option gMem) (K : Int → Int → gMem → Option gMem) (s : gMem) : Option gMem := x20_truths_l37_j266 N W v0 v1 v2 v3 v4 t0 v6 v7  (Kh) K s
set_option maxRecDepth 100000 in
theorem okj_x20_truths_l37_j264 {ω : gW} {l : Launch} {d : Nat} {N : Nat} {W : Nat → Nat → Nat → gMem → Option gMem} {dW : Nat} {σ0 : gMem} {s : gMem} {v0 : Nat} {v1 : Nat} {v2 : Nat} {v3 : Int} {v4 : Int} {v6 : Int} {v7 : Int} {t0 : Int} {Kh : Int → Int → Int → gMem → Option gMem} {K : Int → Int → gMem → Option gMem} (hl : l.stackTraces = false) (hW : ∀ (a0 : Nat) (a1 : Nat) (a2 : Nat) (s : gMem), gKI (fun p : gMem => (.inl none, p)) gE ω l dW iy_Part_work none [vR a0, vR a1, vR a2] s (W a0 a1 a2 s)) (hdp : 4 ≤ d) (hdw : dW + 2 ≤ d) (hv3 : g32 v3) (hv4 : g32 v4) (hv6 : g32 v6) (hv7 : g32 v7) (ht0 : g32 t0) (hKh : ∀ (v5 : Int) (v6 : Int) (v7 : Int) (s : gMem) , g32 v5 → g32 v6 → g32 v7 → GG (fun p : gMem => (.inl none, p)) gE ω l d mu_x20_truths σ0 37 [(0, vR v0), (1, vR v1), (2, vR v2), (3, vI v3), (4, vI v4), (5, vI v5), (6, vI v6), (7, vI v7)] [] s (Kh v5 v6 v7 s)) (hK : ∀ (v5 : Int) (v6 : Int) (s : gMem) , g32 v5 → g32 v6 → GG (fun p : gMem => (.inl none, p)) gE ω l d mu_x20_truths σ0 272 [(1, vR v1), (2, vR v2), (4, vI v4), (5, vI v5), (6, vI v6)] [] s (K v5 v6 s)) : GG (fun p : gMem => (.inl none, p)) gE ω l d mu_x20_truths σ0 264 [(0, vR v0), (1, vR v1), (2, vR v2), (3, vI v3), (4, vI v4), (6, vI v6), (7, vI v7)] [vI t0] s (x20_truths_l37_j264 N W v0 v1 v2 v3 v4 v6 v7 t0 Kh K s) := by
  unfold x20_truths_l37_j264
  refine x_istore (μ := mu_x20_truths) (pc := 264) (lv' := [(5, vI t0), (0, vR v0), (1, vR v1), (2, vR v2), (3, vI v3), (4, vI v4), (6, vI v6), (7, vI v7)]) dX20_truths_264 (by decide) rfl ?_
  refine x_loc (lv' := [(0, vR v0), (1, vR v1), (2, vR v2), (3, vI v3), (4, vI v4), (5, vI t0), (6, vI v6), (7, vI v7)]) [1, 2, 3, 4, 5, 0, 6, 7] rfl ?_
  exact okj_x20_truths_l37_j266 hl hW hdp hdw hv3 hv4 ht0 hv6 hv7 hKh hK
def x20_truths_l37_j259 (N : Nat) (W : Nat → Nat → Nat → gMem → Option gMem) (v0 : Nat) (v1 : Nat) (v2 : Nat) (v3 : Int) (v4 : Int) (v6 : Int) (v7 : Int) (Kh : Int → Int → Int → gMem → Option gMem) (K : Int → Int → gMem → Option gMem) (s : gMem) : Option gMem := x20_truths_l37_j264 N W v0 v1 v2 v3 v4 v6 v7 1 (Kh) K s
set_option maxRecDepth 100000 in
theorem okj_x20_truths_l37_j259 {ω : gW} {l : Launch} {d : Nat} {N : Nat} {W : Nat → Nat → Nat → gMem → Option gMem} {dW : Nat} {σ0 : gMem} {s : gMem} {v0 : Nat} {v1 : Nat} {v2 : Nat} {v3 : Int} {v4 : Int} {v6 : Int} {v7 : Int} {Kh : Int → Int → Int → gMem → Option gMem} {K : Int → Int → gMem → Option gMem} (hl : l.stackTraces = false) (hW : ∀ (a0 : Nat) (a1 : Nat) (a2 : Nat) (s : gMem), gKI (fun p : gMem => (.inl none, p)) gE ω l dW iy_Part_work none [vR a0, vR a1, vR a2] s (W a0 a1 a2 s)) (hdp : 4 ≤ d) (hdw : dW + 2 ≤ d) (hv3 : g32 v3) (hv4 : g32 v4) (hv6 : g32 v6) (hv7 : g32 v7) (hKh : ∀ (v5 : Int) (v6 : Int) (v7 : Int) (s : gMem) , g32 v5 → g32 v6 → g32 v7 → GG (fun p : gMem => (.inl none, p)) gE ω l d mu_x20_truths σ0 37 [(0, vR v0), (1, vR v1), (2, vR v2), (3, vI v3), (4, vI v4), (5, vI v5), (6, vI v6), (7, vI v7)] [] s (Kh v5 v6 v7 s)) (hK : ∀ (v5 : Int) (v6 : Int) (s : gMem) , g32 v5 → g32 v6 → GG (fun p : gMem => (.inl none, p)) gE ω l d mu_x20_truths σ0 272 [(1, vR v1), (2, vR v2), (4, vI v4), (5, vI v5), (6, vI v6)] [] s (K v5 v6 s)) : GG (fun p : gMem => (.inl none, p)) gE ω l d mu_x20_truths σ0 259 [(0, vR v0), (1, vR v1), (2, vR v2), (3, vI v3), (4, vI v4), (6, vI v6), (7, vI v7)] [] s (x20_truths_l37_j259 N W v0 v1 v2 v3 v4 v6 v7 Kh K s) := by
  unfold x20_truths_l37_j259
  refine x_iconst (μ := mu_x20_truths) (pc := 259) dX20_truths_259 ?_
  refine x_goto (μ := mu_x20_truths) (pc := 260) (tgt := 264) dX20_truths_260 rfl ?_
  exact okj_x20_truths_l37_j264 hl hW hdp hdw hv3 hv4 hv6 hv7 (by decide) hKh hK
def x20_truths_l37_j240 (N : Nat) (W : Nat → Nat → Nat → gMem → Option gMem) (v0 : Nat) (v1 : Nat) (v2 : Nat) (v3 : Int) (v4 : Int) (v6 : Int) (v7 : Int) (Kh : Int → Int → Int → gMem → Option gMem) (K : Int → Int → gMem → Option gMem) (s : gMem) : Option gMem := x20_truths_l37_j264 N W v0 v1 v2 v3 v4 v6 v7 0 (Kh) K s
set_option maxRecDepth 100000 in
theorem okj_x20_truths_l37_j240 {ω : gW} {l : Launch} {d : Nat} {N : Nat} {W : Nat → Nat → Nat → gMem → Option gMem} {dW : Nat} {σ0 : gMem} {s : gMem} {v0 : Nat} {v1 : Nat} {v2 : Nat} {v3 : Int} {v4 : Int} {v6 : Int} {v7 : Int} {Kh : Int → Int → Int → gMem → Option gMem} {K : Int → Int → gMem → Option gMem} (hl : l.stackTraces = false) (hW : ∀ (a0 : Nat) (a1 : Nat) (a2 : Nat) (s : gMem), gKI (fun p : gMem => (.inl none, p)) gE ω l dW iy_Part_work none [vR a0, vR a1, vR a2] s (W a0 a1 a2 s)) (hdp : 4 ≤ d) (hdw : dW + 2 ≤ d) (hv3 : g32 v3) (hv4 : g32 v4) (hv6 : g32 v6) (hv7 : g32 v7) (hKh : ∀ (v5 : Int) (v6 : Int) (v7 : Int) (s : gMem) , g32 v5 → g32 v6 → g32 v7 → GG (fun p : gMem => (.inl none, p)) gE ω l d mu_x20_truths σ0 37 [(0, vR v0), (1, vR v1), (2, vR v2), (3, vI v3), (4, vI v4), (5, vI v5), (6, vI v6), (7, vI v7)] [] s (Kh v5 v6 v7 s)) (hK : ∀ (v5 : Int) (v6 : Int) (s : gMem) , g32 v5 → g32 v6 → GG (fun p : gMem => (.inl none, p)) gE ω l d mu_x20_truths σ0 272 [(1, vR v1), (2, vR v2), (4, vI v4), (5, vI v5), (6, vI v6)] [] s (K v5 v6 s)) : GG (fun p : gMem => (.inl none, p)) gE ω l d mu_x20_truths σ0 240 [(0, vR v0), (1, vR v1), (2, vR v2), (3, vI v3), (4, vI v4), (6, vI v6), (7, vI v7)] [] s (x20_truths_l37_j240 N W v0 v1 v2 v3 v4 v6 v7 Kh K s) := by
  unfold x20_truths_l37_j240
  refine x_iconst (μ := mu_x20_truths) (pc := 240) dX20_truths_240 ?_
  refine x_goto (μ := mu_x20_truths) (pc := 241) (tgt := 264) dX20_truths_241 rfl ?_
  exact okj_x20_truths_l37_j264 hl hW hdp hdw hv3 hv4 hv6 hv7 (by decide) hKh hK
def x20_truths_l37 (N : Nat) (W : Nat → Nat → Nat → gMem → Option gMem) (v0 : Nat) (v1 : Nat) (v2 : Nat) (v3 : Int) (v4 : Int) (K : Int → Int → gMem → Option gMem) : Nat → Int → Int → Int → gMem → Option gMem
  | 0, _, _, _, _ => none
  | n + 1, v5, v6, v7, s => if v6 = 0 then K v5 v6 s else if mT s v0 = 18 then if mT s (mR s v0 1) = 108 then if w32 (mN s (mR s v0 1) : Int) ≤ v7 then K v5 v6 s else if 0 ≤ v7 ∧ v7 < (mN s (mR s v0 1) : Int) then if mR s (mR s v0 1) v7.toNat = 0 ∨ gNode (mT s (mR s (mR s v0 1) v7.toNat)) = true then if mT s (mR s (mR s v0 1) v7.toNat) = 17 then if 0 ≤ v7 ∧ v7 < (mN s (mR s v0 1) : Int) then if mR s (mR s v0 1) v7.toNat = 0 ∨ mT s (mR s (mR s v0 1) v7.toNat) = 17 then if mT s v1 = 3 then (x3_opens N v1 (mR s (mR s v0 1) v7.toNat) v2 s).bind (fun x13 => x20_truths_l88 N W v0 v1 v2 v3 v4 v7 (mR (x13.2) v1 4) (fun y29 y30 s31 => x20_truths_l37_j266 N W v0 v1 v2 v3 v4 y29 y30 v7  (x20_truths_l37 N W v0 v1 v2 v3 v4 K n) K s31) N v5 (x13.1) (x13.2)) else none else none else none else if mT s v1 = 3 then if mT s (mR s v1 2) = 107 then if 0 ≤ (v4 + v7) ∧ (v4 + v7) < (mN s (mR s v1 2) : Int) then if mT s (mR s (mR s v1 2) (v4 + v7).toNat) = 5 then (x5_wantTruth (mR s (mR s v1 2) (v4 + v7).toNat) s).bind (fun x35 => if x35.1 ≠ 0 then if v3 = 0 then if v5 ≠ 0 then x20_truths_l37_j259 N W v0 v1 v2 v3 v4 (x35.1) v7  (x20_truths_l37 N W v0 v1 v2 v3 v4 K n) K (x35.2) else if gcmp (mL (x35.2) (mR s (mR s v1 2) (v4 + v7).toNat) 2) (((1 : Fin 2) : Nat) : Int) ≠ 0 then x20_truths_l37_j264 N W v0 v1 v2 v3 v4 (x35.1) v7 0 (x20_truths_l37 N W v0 v1 v2 v3 v4 K n) K (x35.2) else x20_truths_l37_j259 N W v0 v1 v2 v3 v4 (x35.1) v7  (x20_truths_l37 N W v0 v1 v2 v3 v4 K n) K (x35.2) else if v5 = 0 then x20_truths_l37_j240 N W v0 v1 v2 v3 v4 (x35.1) v7  (x20_truths_l37 N W v0 v1 v2 v3 v4 K n) K (x35.2) else if gcmp (mL (x35.2) (mR s (mR s v1 2) (v4 + v7).toNat) 2) (((1 : Fin 2) : Nat) : Int) ≠ 0 then x20_truths_l37_j240 N W v0 v1 v2 v3 v4 (x35.1) v7  (x20_truths_l37 N W v0 v1 v2 v3 v4 K n) K (x35.2) else x20_truths_l37_j264 N W v0 v1 v2 v3 v4 (x35.1) v7 1 (x20_truths_l37 N W v0 v1 v2 v3 v4 K n) K (x35.2) else if mT (x35.2) v2 = 5 then (x5_copy v2 (mR s (mR s v1 2) (v4 + v7).toNat) (x35.2)).bind (fun x41 => x20_truths_l37_j266 N W v0 v1 v2 v3 v4 v5 (x35.1) v7  (x20_truths_l37 N W v0 v1 v2 v3 v4 K n) K x41) else none) else none else none else none else none else none else none else none else none
set_option maxRecDepth 100000 in
theorem okl_x20_truths_l37 {ω : gW} {l : Launch} {d : Nat} {N : Nat} {W : Nat → Nat → Nat → gMem → Option gMem} {dW : Nat} {σ0 : gMem} {v0 : Nat} {v1 : Nat} {v2 : Nat} {v3 : Int} {v4 : Int} {K : Int → Int → gMem → Option gMem} (hl : l.stackTraces = false) (hW : ∀ (a0 : Nat) (a1 : Nat) (a2 : Nat) (s : gMem), gKI (fun p : gMem => (.inl none, p)) gE ω l dW iy_Part_work none [vR a0, vR a1, vR a2] s (W a0 a1 a2 s)) (hdp : 4 ≤ d) (hdw : dW + 2 ≤ d) (hv3 : g32 v3) (hv4 : g32 v4) (hK : ∀ (v5 : Int) (v6 : Int) (s : gMem) , g32 v5 → g32 v6 → GG (fun p : gMem => (.inl none, p)) gE ω l d mu_x20_truths σ0 272 [(1, vR v1), (2, vR v2), (4, vI v4), (5, vI v5), (6, vI v6)] [] s (K v5 v6 s)) : ∀ (n : Nat) (v5 : Int) (v6 : Int) (v7 : Int) (s : gMem) , g32 v5 → g32 v6 → g32 v7 → GG (fun p : gMem => (.inl none, p)) gE ω l d mu_x20_truths σ0 37 [(0, vR v0), (1, vR v1), (2, vR v2), (3, vI v3), (4, vI v4), (5, vI v5), (6, vI v6), (7, vI v7)] [] s (x20_truths_l37 N W v0 v1 v2 v3 v4 K n v5 v6 v7 s) := by
  intro n
  induction n with
  | zero => intros; exact x_none
  | succ n ih =>
    intro v5 v6 v7 s hv5 hv6 hv7
    unfold x20_truths_l37
    refine x_iload (μ := mu_x20_truths) (pc := 37) 6 dX20_truths_37 rfl ?_
    refine x_if_eq (μ := mu_x20_truths) (pc := 39) (tgt := 272) dX20_truths_39 rfl hv6 ?_ ?_
    · refine x_loc (lv' := [(1, vR v1), (2, vR v2), (4, vI v4), (5, vI v5), (6, vI v6)]) [1, 2, 4, 5, 6] rfl ?_
      exact hK v5 v6 s hv5 hv6
    · refine x_iload (μ := mu_x20_truths) (pc := 42) 7 dX20_truths_42 rfl ?_
      refine x_aload_n (μ := mu_x20_truths) (pc := 44) 0 dX20_truths_44 rfl ?_
      refine x_if (fun hT8 => ?_)
      refine x_fgr (μ := mu_x20_truths) (pc := 45) fX20_1 (by first | exact Or.inl ⟨_, rfl⟩ | exact Or.inr ⟨_, rfl⟩) q2041 dX20_truths_45 hT8 ?_
      refine x_if (fun hT9 => ?_)
      refine x_len (μ := mu_x20_truths) (pc := 48) 8 (fun _ => rfl) dX20_truths_48 hT9 ?_
      refine x_w1 ?_
      refine x_icmp_ge (μ := mu_x20_truths) (pc := 49) (tgt := 272) dX20_truths_49 rfl hv7 (w32_rng _) ?_ ?_
      · refine x_loc (lv' := [(1, vR v1), (2, vR v2), (4, vI v4), (5, vI v5), (6, vI v6)]) [1, 2, 4, 5, 6] rfl ?_
        exact hK v5 v6 s hv5 hv6
      · refine x_aload_n (μ := mu_x20_truths) (pc := 52) 0 dX20_truths_52 rfl ?_
        refine x_fgr (μ := mu_x20_truths) (pc := 53) fX20_1 (by first | exact Or.inl ⟨_, rfl⟩ | exact Or.inr ⟨_, rfl⟩) q2041 dX20_truths_53 hT8 ?_
        refine x_iload (μ := mu_x20_truths) (pc := 56) 7 dX20_truths_56 rfl ?_
        refine x_aald (μ := mu_x20_truths) (pc := 58) 8 (fun _ => rfl) rfl rfl dX20_truths_58 hT9 rfl ?_
        refine x_if (fun hg10 => ?_)
        refine x_inst (μ := mu_x20_truths) (pc := 59) (ci := 16) (by decide) rfl q1218 dX20_truths_59 hg10 ?_ ?_
        · refine x_if_eqF (μ := mu_x20_truths) (pc := 62) (tgt := 184) dX20_truths_62 rfl (by decide) (by decide) ?_
          refine x_aload_n (μ := mu_x20_truths) (pc := 65) 1 dX20_truths_65 rfl ?_
          refine x_aload_n (μ := mu_x20_truths) (pc := 66) 0 dX20_truths_66 rfl ?_
          refine x_fgr (μ := mu_x20_truths) (pc := 67) fX20_1 (by first | exact Or.inl ⟨_, rfl⟩ | exact Or.inr ⟨_, rfl⟩) q2041 dX20_truths_67 hT8 ?_
          refine x_iload (μ := mu_x20_truths) (pc := 70) 7 dX20_truths_70 rfl ?_
          refine x_aald (μ := mu_x20_truths) (pc := 72) 8 (fun _ => rfl) rfl rfl dX20_truths_72 hT9 rfl ?_
          refine x_if (fun hg11 => ?_)
          refine x_castC (μ := mu_x20_truths) (pc := 73) (ci := 16) rfl q1218 dX20_truths_73 hg11 ?_
          refine x_aload_n (μ := mu_x20_truths) (pc := 76) 2 dX20_truths_76 rfl ?_
          refine x_if (fun hT12 => ?_)
          refine x_callV_mi (μ := mu_x20_truths) (pc := 77) (ok_x3_opens (ω := ω) (l := l) (d := d - 1) hl (by omega) ) gRel_E gRel_E (fun _ q => q) q1219 q1220 q1221 q223 q1222 dX20_truths_77 rfl hT12 hy_x3_opens (by omega) (Nat.le_of_ble_eq_true rfl) rfl (Nat.le_of_ble_eq_true rfl) (fun x13 k15 hr14 => ?_)
          refine x_istore (μ := mu_x20_truths) (pc := 80) (lv' := [(6, vI (x13.1)), (0, vR v0), (1, vR v1), (2, vR v2), (3, vI v3), (4, vI v4), (5, vI v5), (7, vI v7)]) dX20_truths_80 (by decide) rfl ?_
          refine x_aload_n (μ := mu_x20_truths) (pc := 82) 2 dX20_truths_82 rfl ?_
          refine x_fgrN (μ := mu_x20_truths) (pc := 83) fX3_4 (by first | exact Or.inl ⟨_, rfl⟩ | exact Or.inr ⟨_, rfl⟩) q402 dX20_truths_83 (gT_E k15 hT12 (by decide)) ?_
          refine x_astore (μ := mu_x20_truths) (pc := 86) (lv' := [(8, vR (mR (x13.2) v1 4)), (6, vI (x13.1)), (0, vR v0), (1, vR v1), (2, vR v2), (3, vI v3), (4, vI v4), (5, vI v5), (7, vI v7)]) dX20_truths_86 (by decide) rfl ?_
          refine x_loc (lv' := [(0, vR v0), (1, vR v1), (2, vR v2), (3, vI v3), (4, vI v4), (5, vI v5), (6, vI (x13.1)), (7, vI v7), (8, vR (mR (x13.2) v1 4))]) [2, 3, 4, 5, 6, 7, 1, 8, 0] rfl ?_
          refine okl_x20_truths_l88 hl hW hdp hdw hv3 hv4 hv7 (fun y29 y30 s31 hy29 hy30 => ?_) N v5 (x13.1) (x13.2) hv5 hr14
          refine x_goto (μ := mu_x20_truths) (pc := 181) (tgt := 266) dX20_truths_181 rfl ?_
          exact okj_x20_truths_l37_j266 hl hW hdp hdw hv3 hv4 hy29 hy30 hv7 ih hK
        · refine x_if_eqT (μ := mu_x20_truths) (pc := 62) (tgt := 184) dX20_truths_62 rfl (by decide) (by decide) ?_
          refine x_aload_n (μ := mu_x20_truths) (pc := 184) 1 dX20_truths_184 rfl ?_
          refine x_if (fun hT32 => ?_)
          refine x_fgrN (μ := mu_x20_truths) (pc := 185) fX3_2 (by first | exact Or.inl ⟨_, rfl⟩ | exact Or.inr ⟨_, rfl⟩) q398 dX20_truths_185 hT32 ?_
          refine x_iload (μ := mu_x20_truths) (pc := 188) 4 dX20_truths_188 rfl ?_
          refine x_iload (μ := mu_x20_truths) (pc := 190) 7 dX20_truths_190 rfl ?_
          refine x_iadd (μ := mu_x20_truths) (pc := 192) dX20_truths_192 ?_
          refine x_if (fun hT33 => ?_)
          refine x_aald (μ := mu_x20_truths) (pc := 193) 7 (fun _ => rfl) rfl rfl dX20_truths_193 hT33 rfl ?_
          refine x_astore (μ := mu_x20_truths) (pc := 194) (lv' := [(8, vR (mR s (mR s v1 2) (v4 + v7).toNat)), (0, vR v0), (1, vR v1), (2, vR v2), (3, vI v3), (4, vI v4), (5, vI v5), (6, vI v6), (7, vI v7)]) dX20_truths_194 (by decide) rfl ?_
          refine x_aload (μ := mu_x20_truths) (pc := 196) 0 dX20_truths_196 rfl ?_
          refine x_if (fun hT34 => ?_)
          refine x_callV_mi (μ := mu_x20_truths) (pc := 198) (ok_x5_wantTruth (ω := ω) (l := l) (d := d - 1) hl (by omega) ) gRel_E gRel_E (fun _ q => q) q1201 q1202 q1203 q225 q1204 dX20_truths_198 rfl hT34 hy_x5_wantTruth (by omega) (Nat.le_of_ble_eq_true rfl) rfl (Nat.le_of_ble_eq_true rfl) (fun x35 k37 hr36 => ?_)
          refine x_istore (μ := mu_x20_truths) (pc := 201) (lv' := [(6, vI (x35.1)), (8, vR (mR s (mR s v1 2) (v4 + v7).toNat)), (0, vR v0), (1, vR v1), (2, vR v2), (3, vI v3), (4, vI v4), (5, vI v5), (7, vI v7)]) dX20_truths_201 (by decide) rfl ?_
          refine x_iload (μ := mu_x20_truths) (pc := 203) 0 dX20_truths_203 rfl ?_
          refine x_if_ne (μ := mu_x20_truths) (pc := 205) (tgt := 217) dX20_truths_205 rfl hr36 ?_ ?_
          · refine x_iload_n (μ := mu_x20_truths) (pc := 217) 5 dX20_truths_217 rfl ?_
            refine x_if_eq (μ := mu_x20_truths) (pc := 218) (tgt := 244) dX20_truths_218 rfl hv3 ?_ ?_
            · refine x_iload (μ := mu_x20_truths) (pc := 244) 7 dX20_truths_244 rfl ?_
              refine x_if_ne (μ := mu_x20_truths) (pc := 246) (tgt := 259) dX20_truths_246 rfl hv5 ?_ ?_
              · refine x_loc (lv' := [(0, vR v0), (1, vR v1), (2, vR v2), (3, vI v3), (4, vI v4), (6, vI (x35.1)), (7, vI v7)]) [2, 3, 4, 5, 6, 0, 8] rfl ?_
                exact okj_x20_truths_l37_j259 hl hW hdp hdw hv3 hv4 hr36 hv7 ih hK
              · refine x_aload (μ := mu_x20_truths) (pc := 249) 1 dX20_truths_249 rfl ?_
                refine x_fglN (μ := mu_x20_truths) (pc := 251) fX5_2 q383 dX20_truths_251 (gT_E k37 hT34 (by decide)) (fun hr38 => ?_)
                refine x_lconst (μ := mu_x20_truths) (pc := 254) dX20_truths_254 ?_
                refine x_lcmp (μ := mu_x20_truths) (pc := 255) dX20_truths_255 hr38 (by decide) ?_
                refine x_if_ne (μ := mu_x20_truths) (pc := 256) (tgt := 263) dX20_truths_256 rfl (gcmp_rng _ _) ?_ ?_
                · refine x_iconst (μ := mu_x20_truths) (pc := 263) dX20_truths_263 ?_
                  refine x_loc (lv' := [(0, vR v0), (1, vR v1), (2, vR v2), (3, vI v3), (4, vI v4), (6, vI (x35.1)), (7, vI v7)]) [2, 3, 4, 5, 6, 0, 8] rfl ?_
                  exact okj_x20_truths_l37_j264 hl hW hdp hdw hv3 hv4 hr36 hv7 (by decide) ih hK
                · refine x_loc (lv' := [(0, vR v0), (1, vR v1), (2, vR v2), (3, vI v3), (4, vI v4), (6, vI (x35.1)), (7, vI v7)]) [2, 3, 4, 5, 6, 0, 8] rfl ?_
                  exact okj_x20_truths_l37_j259 hl hW hdp hdw hv3 hv4 hr36 hv7 ih hK
            · refine x_iload (μ := mu_x20_truths) (pc := 221) 7 dX20_truths_221 rfl ?_
              refine x_if_eq (μ := mu_x20_truths) (pc := 223) (tgt := 240) dX20_truths_223 rfl hv5 ?_ ?_
              · refine x_loc (lv' := [(0, vR v0), (1, vR v1), (2, vR v2), (3, vI v3), (4, vI v4), (6, vI (x35.1)), (7, vI v7)]) [2, 3, 4, 5, 6, 0, 8] rfl ?_
                exact okj_x20_truths_l37_j240 hl hW hdp hdw hv3 hv4 hr36 hv7 ih hK
              · refine x_aload (μ := mu_x20_truths) (pc := 226) 1 dX20_truths_226 rfl ?_
                refine x_fglN (μ := mu_x20_truths) (pc := 228) fX5_2 q383 dX20_truths_228 (gT_E k37 hT34 (by decide)) (fun hr39 => ?_)
                refine x_lconst (μ := mu_x20_truths) (pc := 231) dX20_truths_231 ?_
                refine x_lcmp (μ := mu_x20_truths) (pc := 232) dX20_truths_232 hr39 (by decide) ?_
                refine x_if_ne (μ := mu_x20_truths) (pc := 233) (tgt := 240) dX20_truths_233 rfl (gcmp_rng _ _) ?_ ?_
                · refine x_loc (lv' := [(0, vR v0), (1, vR v1), (2, vR v2), (3, vI v3), (4, vI v4), (6, vI (x35.1)), (7, vI v7)]) [2, 3, 4, 5, 6, 0, 8] rfl ?_
                  exact okj_x20_truths_l37_j240 hl hW hdp hdw hv3 hv4 hr36 hv7 ih hK
                · refine x_iconst (μ := mu_x20_truths) (pc := 236) dX20_truths_236 ?_
                  refine x_goto (μ := mu_x20_truths) (pc := 237) (tgt := 264) dX20_truths_237 rfl ?_
                  refine x_loc (lv' := [(0, vR v0), (1, vR v1), (2, vR v2), (3, vI v3), (4, vI v4), (6, vI (x35.1)), (7, vI v7)]) [2, 3, 4, 5, 6, 0, 8] rfl ?_
                  exact okj_x20_truths_l37_j264 hl hW hdp hdw hv3 hv4 hr36 hv7 (by decide) ih hK
          · refine x_aload_n (μ := mu_x20_truths) (pc := 208) 4 dX20_truths_208 rfl ?_
            refine x_aload (μ := mu_x20_truths) (pc := 209) 1 dX20_truths_209 rfl ?_
            refine x_if (fun hT40 => ?_)
            refine x_callV_mv (μ := mu_x20_truths) (pc := 211) (ok_x5_copy (ω := ω) (l := l) (d := d - 1) hl (by omega) ) gRel_E gRel_E (fun _ q => q) q1217 q1077 q1078 q225 q1079 dX20_truths_211 rfl hT40 hy_x5_copy (by omega) (Nat.le_of_ble_eq_true rfl) rfl (Nat.le_of_ble_eq_true rfl) (fun x41 k42 => ?_)
            refine x_goto (μ := mu_x20_truths) (pc := 214) (tgt := 266) dX20_truths_214 rfl ?_
            refine x_loc (lv' := [(0, vR v0), (1, vR v1), (2, vR v2), (3, vI v3), (4, vI v4), (5, vI v5), (6, vI (x35.1)), (7, vI v7)]) [2, 3, 4, 5, 6, 7, 0, 8] rfl ?_
            exact okj_x20_truths_l37_j266 hl hW hdp hdw hv3 hv4 hv5 hr36 hv7 ih hK
def x20_truths_j272 (N : Nat) (W : Nat → Nat → Nat → gMem → Option gMem) (v1 : Nat) (v2 : Nat) (v4 : Int) (v5 : Int) (v6 : Int) (s : gMem) : Option gMem := if v6 = 0 then if mT s v1 = 3 then gLet (wI s v1 3 v4) (fun s47 => some s47) else none else if mT s v2 = 5 then (x5_is v2 v5 s).bind (fun x50 => if mT x50 v1 = 3 then gLet (wI x50 v1 3 v4) (fun s53 => some s53) else none) else none
set_option maxRecDepth 100000 in
theorem okj_x20_truths_j272 {ω : gW} {l : Launch} {d : Nat} {N : Nat} {W : Nat → Nat → Nat → gMem → Option gMem} {dW : Nat} {σ0 : gMem} {s : gMem} {v1 : Nat} {v2 : Nat} {v4 : Int} {v5 : Int} {v6 : Int} (hl : l.stackTraces = false) (hW : ∀ (a0 : Nat) (a1 : Nat) (a2 : Nat) (s : gMem), gKI (fun p : gMem => (.inl none, p)) gE ω l dW iy_Part_work none [vR a0, vR a1, vR a2] s (W a0 a1 a2 s)) (hdp : 4 ≤ d) (hdw : dW + 2 ≤ d) (hv4 : g32 v4) (hv5 : g32 v5) (hv6 : g32 v6) : GG (fun p : gMem => (.inl none, p)) gE ω l d mu_x20_truths σ0 272 [(1, vR v1), (2, vR v2), (4, vI v4), (5, vI v5), (6, vI v6)] [] s (x20_truths_j272 N W v1 v2 v4 v5 v6 s) := by
  unfold x20_truths_j272
  refine x_iload (μ := mu_x20_truths) (pc := 272) 4 dX20_truths_272 rfl ?_
  refine x_if_eq (μ := mu_x20_truths) (pc := 274) (tgt := 283) dX20_truths_274 rfl hv6 ?_ ?_
  · refine x_aload_n (μ := mu_x20_truths) (pc := 283) 0 dX20_truths_283 rfl ?_
    refine x_iload (μ := mu_x20_truths) (pc := 284) 2 dX20_truths_284 rfl ?_
    refine x_if (fun hT46 => ?_)
    refine x_fpiN (μ := mu_x20_truths) (pc := 286) fX3_3 q400 dX20_truths_286 hT46 (fun _ q => gE_wI q) ?_
    refine x_let (fun s47 e48 => ?_)
    exact x_vret (μ := mu_x20_truths) (pc := 289) (a1 := s47) dX20_truths_289 rfl rfl (gRel_E.1 _) trivial
  · refine x_aload_n (μ := mu_x20_truths) (pc := 277) 1 dX20_truths_277 rfl ?_
    refine x_iload (μ := mu_x20_truths) (pc := 278) 3 dX20_truths_278 rfl ?_
    refine x_if (fun hT49 => ?_)
    refine x_callV_mv (μ := mu_x20_truths) (pc := 280) (ok_x5_is (ω := ω) (l := l) (d := d - 1) hl (by omega) hv5) gRel_E gRel_E (fun _ q => q) q1235 q1036 q1037 q225 q1038 dX20_truths_280 rfl hT49 hy_x5_is (by omega) (Nat.le_of_ble_eq_true rfl) rfl (Nat.le_of_ble_eq_true rfl) (fun x50 k51 => ?_)
    refine x_aload_n (μ := mu_x20_truths) (pc := 283) 0 dX20_truths_283 rfl ?_
    refine x_iload (μ := mu_x20_truths) (pc := 284) 2 dX20_truths_284 rfl ?_
    refine x_if (fun hT52 => ?_)
    refine x_fpiN (μ := mu_x20_truths) (pc := 286) fX3_3 q400 dX20_truths_286 hT52 (fun _ q => gE_wI q) ?_
    refine x_let (fun s53 e54 => ?_)
    exact x_vret (μ := mu_x20_truths) (pc := 289) (a1 := s53) dX20_truths_289 rfl rfl (gRel_E.1 _) trivial
def x20_truths_j15 (N : Nat) (W : Nat → Nat → Nat → gMem → Option gMem) (v0 : Nat) (v1 : Nat) (v2 : Nat) (t0 : Int) (s : gMem) : Option gMem := if mT s v1 = 3 then if mT s v0 = 18 then (x20_workAll N W v0 v1 v2 0 s).bind (fun x5 => x20_truths_l37 N W v0 v1 v2 t0 (mI s v1 3) (fun y43 y44 s45 => x20_truths_j272 N W v1 v2 (mI s v1 3) y43 y44  s45) N t0 (x5.1) 0 (x5.2)) else none else none
set_option maxRecDepth 100000 in
theorem okj_x20_truths_j15 {ω : gW} {l : Launch} {d : Nat} {N : Nat} {W : Nat → Nat → Nat → gMem → Option gMem} {dW : Nat} {σ0 : gMem} {s : gMem} {v0 : Nat} {v1 : Nat} {v2 : Nat} {t0 : Int} (hl : l.stackTraces = false) (hW : ∀ (a0 : Nat) (a1 : Nat) (a2 : Nat) (s : gMem), gKI (fun p : gMem => (.inl none, p)) gE ω l dW iy_Part_work none [vR a0, vR a1, vR a2] s (W a0 a1 a2 s)) (hdp : 4 ≤ d) (hdw : dW + 2 ≤ d) (ht0 : g32 t0) : GG (fun p : gMem => (.inl none, p)) gE ω l d mu_x20_truths σ0 15 [(0, vR v0), (1, vR v1), (2, vR v2)] [vI t0] s (x20_truths_j15 N W v0 v1 v2 t0 s) := by
  unfold x20_truths_j15
  refine x_istore_n (μ := mu_x20_truths) (pc := 15) (lv' := [(3, vI t0), (0, vR v0), (1, vR v1), (2, vR v2)]) dX20_truths_15 rfl (by decide) rfl ?_
  refine x_aload_n (μ := mu_x20_truths) (pc := 16) 2 dX20_truths_16 rfl ?_
  refine x_if (fun hT2 => ?_)
  refine x_fgiN (μ := mu_x20_truths) (pc := 17) fX3_3 q400 dX20_truths_17 hT2 (fun hr3 => ?_)
  refine x_istore (μ := mu_x20_truths) (pc := 20) (lv' := [(4, vI (mI s v1 3)), (3, vI t0), (0, vR v0), (1, vR v1), (2, vR v2)]) dX20_truths_20 (by decide) rfl ?_
  refine x_iload_n (μ := mu_x20_truths) (pc := 22) 1 dX20_truths_22 rfl ?_
  refine x_istore (μ := mu_x20_truths) (pc := 23) (lv' := [(5, vI t0), (4, vI (mI s v1 3)), (3, vI t0), (0, vR v0), (1, vR v1), (2, vR v2)]) dX20_truths_23 (by decide) rfl ?_
  refine x_aload_n (μ := mu_x20_truths) (pc := 25) 3 dX20_truths_25 rfl ?_
  refine x_aload_n (μ := mu_x20_truths) (pc := 26) 4 dX20_truths_26 rfl ?_
  refine x_aload_n (μ := mu_x20_truths) (pc := 27) 5 dX20_truths_27 rfl ?_
  refine x_iconst (μ := mu_x20_truths) (pc := 28) dX20_truths_28 ?_
  refine x_if (fun hT4 => ?_)
  refine x_callV_mi (μ := mu_x20_truths) (pc := 29) (ok_x20_workAll (ω := ω) (l := l) (d := d - 1) hl hW (by omega) (by omega) (by decide)) gRel_E gRel_E (fun _ q => q) q1212 q1214 qs17 q252 q1215 dX20_truths_29 rfl hT4 hy_x20_workAll (by omega) (Nat.le_of_ble_eq_true rfl) rfl (Nat.le_of_ble_eq_true rfl) (fun x5 k7 hr6 => ?_)
  refine x_istore (μ := mu_x20_truths) (pc := 32) (lv' := [(6, vI (x5.1)), (5, vI t0), (4, vI (mI s v1 3)), (3, vI t0), (0, vR v0), (1, vR v1), (2, vR v2)]) dX20_truths_32 (by decide) rfl ?_
  refine x_iconst (μ := mu_x20_truths) (pc := 34) dX20_truths_34 ?_
  refine x_istore (μ := mu_x20_truths) (pc := 35) (lv' := [(7, vI 0), (6, vI (x5.1)), (5, vI t0), (4, vI (mI s v1 3)), (3, vI t0), (0, vR v0), (1, vR v1), (2, vR v2)]) dX20_truths_35 (by decide) rfl ?_
  refine x_loc (lv' := [(0, vR v0), (1, vR v1), (2, vR v2), (3, vI t0), (4, vI (mI s v1 3)), (5, vI t0), (6, vI (x5.1)), (7, vI 0)]) [5, 6, 7, 4, 3, 2, 1, 0] rfl ?_
  refine okl_x20_truths_l37 hl hW hdp hdw ht0 hr3 (fun y43 y44 s45 hy43 hy44 => ?_) N t0 (x5.1) 0 (x5.2) ht0 hr6 (by decide)
  exact okj_x20_truths_j272 hl hW hdp hdw hr3 hy43 hy44
def x20_truths (N : Nat) (W : Nat → Nat → Nat → gMem → Option gMem) (v0 : Nat) (v1 : Nat) (v2 : Nat) (σ : gMem) : Option gMem := if mT σ v0 = 18 then if mR σ v0 0 ≠ mR σ 0 1 then x20_truths_j15 N W v0 v1 v2 0 σ else x20_truths_j15 N W v0 v1 v2 1 σ else none
set_option maxRecDepth 100000 in
theorem ok_x20_truths {ω : gW} {l : Launch} {d : Nat} {N : Nat} {W : Nat → Nat → Nat → gMem → Option gMem} {dW : Nat} {σ : gMem} {v0 : Nat} {v1 : Nat} {v2 : Nat} (hl : l.stackTraces = false) (hW : ∀ (a0 : Nat) (a1 : Nat) (a2 : Nat) (s : gMem), gKI (fun p : gMem => (.inl none, p)) gE ω l dW iy_Part_work none [vR a0, vR a1, vR a2] s (W a0 a1 a2 s)) (hdp : 4 ≤ d) (hdw : dW + 2 ≤ d) : gK (fun p : gMem => (.inl none, p)) gE ω l d mu_x20_truths [vR v0, vR v1, vR v2] σ (x20_truths N W v0 v1 v2 σ) := by
  refine gK.of hp_X20 (Nat.le_of_ble_eq_true rfl) ?_
  unfold x20_truths
  refine x_aload_n (μ := mu_x20_truths) (pc := 0) 0 dX20_truths_0 rfl ?_
  refine x_if (fun hT1 => ?_)
  refine x_fgr (μ := mu_x20_truths) (pc := 1) fX20_0 (by first | exact Or.inl ⟨_, rfl⟩ | exact Or.inr ⟨_, rfl⟩) q2040 dX20_truths_1 hT1 ?_
  refine x_gst (μ := mu_x20_truths) (pc := 4) (j := 1) (List.mem_of_getElem? (i := 1) rfl) q1210 dX20_truths_4 ?_
  refine x_acmp_ne (μ := mu_x20_truths) (pc := 7) (tgt := 14) dX20_truths_7 rfl ?_ ?_
  · refine x_iconst (μ := mu_x20_truths) (pc := 14) dX20_truths_14 ?_
    exact okj_x20_truths_j15 hl hW hdp hdw (by decide)
  · refine x_iconst (μ := mu_x20_truths) (pc := 10) dX20_truths_10 ?_
    refine x_goto (μ := mu_x20_truths) (pc := 11) (tgt := 15) dX20_truths_11 rfl ?_
    exact okj_x20_truths_j15 hl hW hdp hdw (by decide)
def x20_numbers_l90_j127 (N : Nat) (W : Nat → Nat → Nat → gMem → Option gMem) (v0 : Nat) (v1 : Nat) (v2 : Nat) (v3 : Int) (v4 : Int) (v5 : Int) (v6 : Int) (v7 : Nat) (Kh : Int → gMem → Option gMem) (K : Int → gMem → Option gMem) (s : gMem) : Option gMem := if mT s v7 = 5 then if mI s v7 0 ≠ 1 then Kh v5 s else if mT s v1 = 3 then (x3_tally v1 (mL s v7 2) s).bind (fun x30 => Kh v5 x30) else none else none
set_option maxRecDepth 100000 in
theorem okj_x20_numbers_l90_j127 {ω : gW} {l : Launch} {d : Nat} {N : Nat} {W : Nat → Nat → Nat → gMem → Option gMem} {dW : Nat} {σ0 : gMem} {s : gMem} {v0 : Nat} {v1 : Nat} {v2 : Nat} {v3 : Int} {v4 : Int} {v5 : Int} {v6 : Int} {v7 : Nat} {Kh : Int → gMem → Option gMem} {K : Int → gMem → Option gMem} (hl : l.stackTraces = false) (hW : ∀ (a0 : Nat) (a1 : Nat) (a2 : Nat) (s : gMem), gKI (fun p : gMem => (.inl none, p)) gE ω l dW iy_Part_work none [vR a0, vR a1, vR a2] s (W a0 a1 a2 s)) (hdp : 4 ≤ d) (hdw : dW + 2 ≤ d) (hv3 : g32 v3) (hv4 : g32 v4) (hv5 : g32 v5) (hv6 : g32 v6) (hKh : ∀ (v5 : Int) (s : gMem) , g32 v5 → GG (fun p : gMem => (.inl none, p)) gE ω l d mu_x20_numbers σ0 90 [(0, vR v0), (1, vR v1), (2, vR v2), (3, vI v3), (4, vI v4), (5, vI v5), (6, vI v6), (7, vR v7)] [] s (Kh v5 s)) (hK : ∀ (v5 : Int) (s : gMem) , g32 v5 → GG (fun p : gMem => (.inl none, p)) gE ω l d mu_x20_numbers σ0 148 [(0, vR v0), (1, vR v1), (2, vR v2), (3, vI v3), (4, vI v4), (5, vI v5), (6, vI v6)] [] s (K v5 s)) : GG (fun p : gMem => (.inl none, p)) gE ω l d mu_x20_numbers σ0 127 [(0, vR v0), (1, vR v1), (2, vR v2), (3, vI v3), (4, vI v4), (5, vI v5), (6, vI v6), (7, vR v7)] [] s (x20_numbers_l90_j127 N W v0 v1 v2 v3 v4 v5 v6 v7 Kh K s) := by
  unfold x20_numbers_l90_j127
  refine x_aload (μ := mu_x20_numbers) (pc := 127) 7 dX20_numbers_127 rfl ?_
  refine x_if (fun hT26 => ?_)
  refine x_fgiN (μ := mu_x20_numbers) (pc := 129) fX5_0 q374 dX20_numbers_129 hT26 (fun hr27 => ?_)
  refine x_iconst (μ := mu_x20_numbers) (pc := 132) dX20_numbers_132 ?_
  refine x_icmp_ne (μ := mu_x20_numbers) (pc := 133) (tgt := 90) dX20_numbers_133 rfl hr27 (by decide) ?_ ?_
  · exact hKh v5 s hv5
  · refine x_aload_n (μ := mu_x20_numbers) (pc := 136) 1 dX20_numbers_136 rfl ?_
    refine x_aload (μ := mu_x20_numbers) (pc := 137) 7 dX20_numbers_137 rfl ?_
    refine x_fglN (μ := mu_x20_numbers) (pc := 139) fX5_2 q383 dX20_numbers_139 hT26 (fun hr28 => ?_)
    refine x_if (fun hT29 => ?_)
    refine x_callV_mv (μ := mu_x20_numbers) (pc := 142) (ok_x3_tally (ω := ω) (l := l) (d := d - 1) hl (by omega) hr28) gRel_E gRel_E (fun _ q => q) q1246 q1247 q1248 q223 q1249 dX20_numbers_142 rfl hT29 hy_x3_tally (by omega) (Nat.le_of_ble_eq_true rfl) rfl (Nat.le_of_ble_eq_true rfl) (fun x30 k31 => ?_)
    refine x_goto (μ := mu_x20_numbers) (pc := 145) (tgt := 90) dX20_numbers_145 rfl ?_
    exact hKh v5 x30 hv5
def x20_numbers_l90 (N : Nat) (W : Nat → Nat → Nat → gMem → Option gMem) (v0 : Nat) (v1 : Nat) (v2 : Nat) (v3 : Int) (v4 : Int) (v6 : Int) (v7 : Nat) (K : Int → gMem → Option gMem) : Nat → Int → gMem → Option gMem
  | 0, _, _ => none
  | n + 1, v5, s => if v5 = 0 then K v5 s else if mT s v1 = 3 then (x3_next v1 s).bind (fun x20 => if x20.1 = 0 then K v5 (x20.2) else if mT (x20.2) v7 = 5 then (x5_failed v7 (x20.2)).bind (fun x24 => if x24 = 0 then x20_numbers_l90_j127 N W v0 v1 v2 v3 v4 v5 v6 v7  (x20_numbers_l90 N W v0 v1 v2 v3 v4 v6 v7 K n) K (x20.2) else if v4 ≠ 0 then x20_numbers_l90_j127 N W v0 v1 v2 v3 v4 v5 v6 v7  (x20_numbers_l90 N W v0 v1 v2 v3 v4 v6 v7 K n) K (x20.2) else if mT (x20.2) v2 = 5 then (x5_copy v2 v7 (x20.2)).bind (fun x33 => x20_numbers_l90 N W v0 v1 v2 v3 v4 v6 v7 K n 0 x33) else none) else none) else none
set_option maxRecDepth 100000 in
theorem okl_x20_numbers_l90 {ω : gW} {l : Launch} {d : Nat} {N : Nat} {W : Nat → Nat → Nat → gMem → Option gMem} {dW : Nat} {σ0 : gMem} {v0 : Nat} {v1 : Nat} {v2 : Nat} {v3 : Int} {v4 : Int} {v6 : Int} {v7 : Nat} {K : Int → gMem → Option gMem} (hl : l.stackTraces = false) (hW : ∀ (a0 : Nat) (a1 : Nat) (a2 : Nat) (s : gMem), gKI (fun p : gMem => (.inl none, p)) gE ω l dW iy_Part_work none [vR a0, vR a1, vR a2] s (W a0 a1 a2 s)) (hdp : 4 ≤ d) (hdw : dW + 2 ≤ d) (hv3 : g32 v3) (hv4 : g32 v4) (hv6 : g32 v6) (hK : ∀ (v5 : Int) (s : gMem) , g32 v5 → GG (fun p : gMem => (.inl none, p)) gE ω l d mu_x20_numbers σ0 148 [(0, vR v0), (1, vR v1), (2, vR v2), (3, vI v3), (4, vI v4), (5, vI v5), (6, vI v6)] [] s (K v5 s)) : ∀ (n : Nat) (v5 : Int) (s : gMem) , g32 v5 → GG (fun p : gMem => (.inl none, p)) gE ω l d mu_x20_numbers σ0 90 [(0, vR v0), (1, vR v1), (2, vR v2), (3, vI v3), (4, vI v4), (5, vI v5), (6, vI v6), (7, vR v7)] [] s (x20_numbers_l90 N W v0 v1 v2 v3 v4 v6 v7 K n v5 s) := by
  intro n
  induction n with
  | zero => intros; exact x_none
  | succ n ih =>
    intro v5 s hv5
    unfold x20_numbers_l90
    refine x_iload (μ := mu_x20_numbers) (pc := 90) 5 dX20_numbers_90 rfl ?_
    refine x_if_eq (μ := mu_x20_numbers) (pc := 92) (tgt := 148) dX20_numbers_92 rfl hv5 ?_ ?_
    · refine x_loc (lv' := [(0, vR v0), (1, vR v1), (2, vR v2), (3, vI v3), (4, vI v4), (5, vI v5), (6, vI v6)]) [0, 1, 2, 3, 4, 5, 6] rfl ?_
      exact hK v5 s hv5
    · refine x_aload_n (μ := mu_x20_numbers) (pc := 95) 1 dX20_numbers_95 rfl ?_
      refine x_if (fun hT19 => ?_)
      refine x_callV_mi (μ := mu_x20_numbers) (pc := 96) (ok_x3_next (ω := ω) (l := l) (d := d - 1) hl (by omega) ) gRel_E gRel_E (fun _ q => q) q1230 q1231 q1232 q223 q1233 dX20_numbers_96 rfl hT19 hy_x3_next (by omega) (Nat.le_of_ble_eq_true rfl) rfl (Nat.le_of_ble_eq_true rfl) (fun x20 k22 hr21 => ?_)
      refine x_if_eq (μ := mu_x20_numbers) (pc := 99) (tgt := 148) dX20_numbers_99 rfl hr21 ?_ ?_
      · refine x_loc (lv' := [(0, vR v0), (1, vR v1), (2, vR v2), (3, vI v3), (4, vI v4), (5, vI v5), (6, vI v6)]) [0, 1, 2, 3, 4, 5, 6] rfl ?_
        exact hK v5 (x20.2) hv5
      · refine x_aload (μ := mu_x20_numbers) (pc := 102) 7 dX20_numbers_102 rfl ?_
        refine x_if (fun hT23 => ?_)
        refine x_callV_pi (μ := mu_x20_numbers) (pc := 104) (ok_x5_failed (ω := ω) (l := l) (d := d - 1) hl (by omega) ) gRel_E gRel_E (fun _ q => q) q1200 q1073 q1074 q225 q1075 dX20_numbers_104 rfl hT23 hy_x5_failed (by omega) (Nat.le_of_ble_eq_true rfl) rfl (Nat.le_of_ble_eq_true rfl) (fun x24 hr25 => ?_)
        refine x_if_eq (μ := mu_x20_numbers) (pc := 107) (tgt := 127) dX20_numbers_107 rfl hr25 ?_ ?_
        · exact okj_x20_numbers_l90_j127 hl hW hdp hdw hv3 hv4 hv5 hv6 ih hK
        · refine x_iload (μ := mu_x20_numbers) (pc := 110) 4 dX20_numbers_110 rfl ?_
          refine x_if_ne (μ := mu_x20_numbers) (pc := 112) (tgt := 127) dX20_numbers_112 rfl hv4 ?_ ?_
          · exact okj_x20_numbers_l90_j127 hl hW hdp hdw hv3 hv4 hv5 hv6 ih hK
          · refine x_aload_n (μ := mu_x20_numbers) (pc := 115) 2 dX20_numbers_115 rfl ?_
            refine x_aload (μ := mu_x20_numbers) (pc := 116) 7 dX20_numbers_116 rfl ?_
            refine x_if (fun hT32 => ?_)
            refine x_callV_mv (μ := mu_x20_numbers) (pc := 118) (ok_x5_copy (ω := ω) (l := l) (d := d - 1) hl (by omega) ) gRel_E gRel_E (fun _ q => q) q1217 q1077 q1078 q225 q1079 dX20_numbers_118 rfl hT32 hy_x5_copy (by omega) (Nat.le_of_ble_eq_true rfl) rfl (Nat.le_of_ble_eq_true rfl) (fun x33 k34 => ?_)
            refine x_iconst (μ := mu_x20_numbers) (pc := 121) dX20_numbers_121 ?_
            refine x_istore (μ := mu_x20_numbers) (pc := 122) (lv' := [(5, vI 0), (0, vR v0), (1, vR v1), (2, vR v2), (3, vI v3), (4, vI v4), (6, vI v6), (7, vR v7)]) dX20_numbers_122 (by decide) rfl ?_
            refine x_goto (μ := mu_x20_numbers) (pc := 124) (tgt := 90) dX20_numbers_124 rfl ?_
            refine x_loc (lv' := [(0, vR v0), (1, vR v1), (2, vR v2), (3, vI v3), (4, vI v4), (5, vI 0), (6, vI v6), (7, vR v7)]) [1, 2, 3, 4, 5, 0, 6, 7] rfl ?_
            exact ih 0 x33 (by decide)
def x20_numbers_l39_j244 (N : Nat) (W : Nat → Nat → Nat → gMem → Option gMem) (v0 : Nat) (v1 : Nat) (v2 : Nat) (v3 : Int) (v4 : Int) (v5 : Int) (v6 : Int) (Kh : Int → Int → gMem → Option gMem) (K : Int → gMem → Option gMem) (s : gMem) : Option gMem := Kh v5 (w32 (v6 + 1)) s
set_option maxRecDepth 100000 in
theorem okj_x20_numbers_l39_j244 {ω : gW} {l : Launch} {d : Nat} {N : Nat} {W : Nat → Nat → Nat → gMem → Option gMem} {dW : Nat} {σ0 : gMem} {s : gMem} {v0 : Nat} {v1 : Nat} {v2 : Nat} {v3 : Int} {v4 : Int} {v5 : Int} {v6 : Int} {Kh : Int → Int → gMem → Option gMem} {K : Int → gMem → Option gMem} (hl : l.stackTraces = false) (hW : ∀ (a0 : Nat) (a1 : Nat) (a2 : Nat) (s : gMem), gKI (fun p : gMem => (.inl none, p)) gE ω l dW iy_Part_work none [vR a0, vR a1, vR a2] s (W a0 a1 a2 s)) (hdp : 4 ≤ d) (hdw : dW + 2 ≤ d) (hv3 : g32 v3) (hv4 : g32 v4) (hv5 : g32 v5) (hv6 : g32 v6) (hKh : ∀ (v5 : Int) (v6 : Int) (s : gMem) , g32 v5 → g32 v6 → GG (fun p : gMem => (.inl none, p)) gE ω l d mu_x20_numbers σ0 39 [(0, vR v0), (1, vR v1), (2, vR v2), (3, vI v3), (4, vI v4), (5, vI v5), (6, vI v6)] [] s (Kh v5 v6 s)) (hK : ∀ (v5 : Int) (s : gMem) , g32 v5 → GG (fun p : gMem => (.inl none, p)) gE ω l d mu_x20_numbers σ0 250 [(0, vR v0), (1, vR v1), (2, vR v2), (3, vI v3), (4, vI v4), (5, vI v5)] [] s (K v5 s)) : GG (fun p : gMem => (.inl none, p)) gE ω l d mu_x20_numbers σ0 244 [(0, vR v0), (1, vR v1), (2, vR v2), (3, vI v3), (4, vI v4), (5, vI v5), (6, vI v6)] [] s (x20_numbers_l39_j244 N W v0 v1 v2 v3 v4 v5 v6 Kh K s) := by
  unfold x20_numbers_l39_j244
  refine x_iincw (μ := mu_x20_numbers) (pc := 244) (lv' := [(6, vI (w32 (v6 + 1))), (0, vR v0), (1, vR v1), (2, vR v2), (3, vI v3), (4, vI v4), (5, vI v5)]) 6 dX20_numbers_244 rfl (by decide) rfl ?_
  refine x_goto (μ := mu_x20_numbers) (pc := 247) (tgt := 39) dX20_numbers_247 rfl ?_
  refine x_loc (lv' := [(0, vR v0), (1, vR v1), (2, vR v2), (3, vI v3), (4, vI v4), (5, vI v5), (6, vI (w32 (v6 + 1)))]) [1, 2, 3, 4, 5, 6, 0] rfl ?_
  exact hKh v5 (w32 (v6 + 1)) s hv5 (w32_rng _)
def x20_numbers_l39 (N : Nat) (W : Nat → Nat → Nat → gMem → Option gMem) (v0 : Nat) (v1 : Nat) (v2 : Nat) (v3 : Int) (v4 : Int) (K : Int → gMem → Option gMem) : Nat → Int → Int → gMem → Option gMem
  | 0, _, _, _ => none
  | n + 1, v5, v6, s => if v5 = 0 then K v5 s else if mT s v0 = 18 then if mT s (mR s v0 1) = 108 then if w32 (mN s (mR s v0 1) : Int) ≤ v6 then K v5 s else if 0 ≤ v6 ∧ v6 < (mN s (mR s v0 1) : Int) then if mR s (mR s v0 1) v6.toNat = 0 ∨ gNode (mT s (mR s (mR s v0 1) v6.toNat)) = true then if mT s (mR s (mR s v0 1) v6.toNat) = 17 then if 0 ≤ v6 ∧ v6 < (mN s (mR s v0 1) : Int) then if mR s (mR s v0 1) v6.toNat = 0 ∨ mT s (mR s (mR s v0 1) v6.toNat) = 17 then if mT s v1 = 3 then (x3_opens N v1 (mR s (mR s v0 1) v6.toNat) v2 s).bind (fun x16 => x20_numbers_l90 N W v0 v1 v2 v3 v4 v6 (mR (x16.2) v1 4) (fun y35 s36 => x20_numbers_l39_j244 N W v0 v1 v2 v3 v4 y35 v6  (x20_numbers_l39 N W v0 v1 v2 v3 v4 K n) K s36) N (x16.1) (x16.2)) else none else none else none else if mT s v1 = 3 then if mT s (mR s v1 2) = 107 then if 0 ≤ (v3 + v6) ∧ (v3 + v6) < (mN s (mR s v1 2) : Int) then if v4 = 0 then if mT s (mR s (mR s v1 2) (v3 + v6).toNat) = 5 then (x5_wantNumber (mR s (mR s v1 2) (v3 + v6).toNat) s).bind (fun x40 => if x40.1 = 0 then if mT (x40.2) v2 = 5 then (x5_copy v2 (mR s (mR s v1 2) (v3 + v6).toNat) (x40.2)).bind (fun x44 => x20_numbers_l39_j244 N W v0 v1 v2 v3 v4 (x40.1) v6  (x20_numbers_l39 N W v0 v1 v2 v3 v4 K n) K x44) else none else (x3_tally v1 (mL (x40.2) (mR s (mR s v1 2) (v3 + v6).toNat) 2) (x40.2)).bind (fun x47 => x20_numbers_l39_j244 N W v0 v1 v2 v3 v4 (x40.1) v6  (x20_numbers_l39 N W v0 v1 v2 v3 v4 K n) K x47)) else none else if 0 ≤ v6 ∧ v6 < (mN s (mR s v0 1) : Int) then (x3_isThere N v1 (mR s (mR s v0 1) v6.toNat) s).bind (fun x49 => if x49 ≠ 0 then if mT s (mR s (mR s v1 2) (v3 + v6).toNat) = 5 then if mI s (mR s (mR s v1 2) (v3 + v6).toNat) 0 ≠ 1 then x20_numbers_l39_j244 N W v0 v1 v2 v3 v4 x49 v6  (x20_numbers_l39 N W v0 v1 v2 v3 v4 K n) K s else (x3_tally v1 (mL s (mR s (mR s v1 2) (v3 + v6).toNat) 2) s).bind (fun x54 => x20_numbers_l39_j244 N W v0 v1 v2 v3 v4 x49 v6  (x20_numbers_l39 N W v0 v1 v2 v3 v4 K n) K x54) else none else if mT s v2 = 5 then (x5_fail v2 1 s).bind (fun x57 => x20_numbers_l39_j244 N W v0 v1 v2 v3 v4 x49 v6  (x20_numbers_l39 N W v0 v1 v2 v3 v4 K n) K x57) else none) else none else none else none else none else none else none else none else none
set_option maxRecDepth 100000 in
theorem okl_x20_numbers_l39 {ω : gW} {l : Launch} {d : Nat} {N : Nat} {W : Nat → Nat → Nat → gMem → Option gMem} {dW : Nat} {σ0 : gMem} {v0 : Nat} {v1 : Nat} {v2 : Nat} {v3 : Int} {v4 : Int} {K : Int → gMem → Option gMem} (hl : l.stackTraces = false) (hW : ∀ (a0 : Nat) (a1 : Nat) (a2 : Nat) (s : gMem), gKI (fun p : gMem => (.inl none, p)) gE ω l dW iy_Part_work none [vR a0, vR a1, vR a2] s (W a0 a1 a2 s)) (hdp : 4 ≤ d) (hdw : dW + 2 ≤ d) (hv3 : g32 v3) (hv4 : g32 v4) (hK : ∀ (v5 : Int) (s : gMem) , g32 v5 → GG (fun p : gMem => (.inl none, p)) gE ω l d mu_x20_numbers σ0 250 [(0, vR v0), (1, vR v1), (2, vR v2), (3, vI v3), (4, vI v4), (5, vI v5)] [] s (K v5 s)) : ∀ (n : Nat) (v5 : Int) (v6 : Int) (s : gMem) , g32 v5 → g32 v6 → GG (fun p : gMem => (.inl none, p)) gE ω l d mu_x20_numbers σ0 39 [(0, vR v0), (1, vR v1), (2, vR v2), (3, vI v3), (4, vI v4), (5, vI v5), (6, vI v6)] [] s (x20_numbers_l39 N W v0 v1 v2 v3 v4 K n v5 v6 s) := by
  intro n
  induction n with
  | zero => intros; exact x_none
  | succ n ih =>
    intro v5 v6 s hv5 hv6
    unfold x20_numbers_l39
    refine x_iload (μ := mu_x20_numbers) (pc := 39) 5 dX20_numbers_39 rfl ?_
    refine x_if_eq (μ := mu_x20_numbers) (pc := 41) (tgt := 250) dX20_numbers_41 rfl hv5 ?_ ?_
    · refine x_loc (lv' := [(0, vR v0), (1, vR v1), (2, vR v2), (3, vI v3), (4, vI v4), (5, vI v5)]) [0, 1, 2, 3, 4, 5] rfl ?_
      exact hK v5 s hv5
    · refine x_iload (μ := mu_x20_numbers) (pc := 44) 6 dX20_numbers_44 rfl ?_
      refine x_aload_n (μ := mu_x20_numbers) (pc := 46) 0 dX20_numbers_46 rfl ?_
      refine x_if (fun hT11 => ?_)
      refine x_fgr (μ := mu_x20_numbers) (pc := 47) fX20_1 (by first | exact Or.inl ⟨_, rfl⟩ | exact Or.inr ⟨_, rfl⟩) q2041 dX20_numbers_47 hT11 ?_
      refine x_if (fun hT12 => ?_)
      refine x_len (μ := mu_x20_numbers) (pc := 50) 8 (fun _ => rfl) dX20_numbers_50 hT12 ?_
      refine x_w1 ?_
      refine x_icmp_ge (μ := mu_x20_numbers) (pc := 51) (tgt := 250) dX20_numbers_51 rfl hv6 (w32_rng _) ?_ ?_
      · refine x_loc (lv' := [(0, vR v0), (1, vR v1), (2, vR v2), (3, vI v3), (4, vI v4), (5, vI v5)]) [0, 1, 2, 3, 4, 5] rfl ?_
        exact hK v5 s hv5
      · refine x_aload_n (μ := mu_x20_numbers) (pc := 54) 0 dX20_numbers_54 rfl ?_
        refine x_fgr (μ := mu_x20_numbers) (pc := 55) fX20_1 (by first | exact Or.inl ⟨_, rfl⟩ | exact Or.inr ⟨_, rfl⟩) q2041 dX20_numbers_55 hT11 ?_
        refine x_iload (μ := mu_x20_numbers) (pc := 58) 6 dX20_numbers_58 rfl ?_
        refine x_aald (μ := mu_x20_numbers) (pc := 60) 8 (fun _ => rfl) rfl rfl dX20_numbers_60 hT12 rfl ?_
        refine x_if (fun hg13 => ?_)
        refine x_inst (μ := mu_x20_numbers) (pc := 61) (ci := 16) (by decide) rfl q1218 dX20_numbers_61 hg13 ?_ ?_
        · refine x_if_eqF (μ := mu_x20_numbers) (pc := 64) (tgt := 151) dX20_numbers_64 rfl (by decide) (by decide) ?_
          refine x_aload_n (μ := mu_x20_numbers) (pc := 67) 1 dX20_numbers_67 rfl ?_
          refine x_aload_n (μ := mu_x20_numbers) (pc := 68) 0 dX20_numbers_68 rfl ?_
          refine x_fgr (μ := mu_x20_numbers) (pc := 69) fX20_1 (by first | exact Or.inl ⟨_, rfl⟩ | exact Or.inr ⟨_, rfl⟩) q2041 dX20_numbers_69 hT11 ?_
          refine x_iload (μ := mu_x20_numbers) (pc := 72) 6 dX20_numbers_72 rfl ?_
          refine x_aald (μ := mu_x20_numbers) (pc := 74) 8 (fun _ => rfl) rfl rfl dX20_numbers_74 hT12 rfl ?_
          refine x_if (fun hg14 => ?_)
          refine x_castC (μ := mu_x20_numbers) (pc := 75) (ci := 16) rfl q1218 dX20_numbers_75 hg14 ?_
          refine x_aload_n (μ := mu_x20_numbers) (pc := 78) 2 dX20_numbers_78 rfl ?_
          refine x_if (fun hT15 => ?_)
          refine x_callV_mi (μ := mu_x20_numbers) (pc := 79) (ok_x3_opens (ω := ω) (l := l) (d := d - 1) hl (by omega) ) gRel_E gRel_E (fun _ q => q) q1219 q1220 q1221 q223 q1222 dX20_numbers_79 rfl hT15 hy_x3_opens (by omega) (Nat.le_of_ble_eq_true rfl) rfl (Nat.le_of_ble_eq_true rfl) (fun x16 k18 hr17 => ?_)
          refine x_istore (μ := mu_x20_numbers) (pc := 82) (lv' := [(5, vI (x16.1)), (0, vR v0), (1, vR v1), (2, vR v2), (3, vI v3), (4, vI v4), (6, vI v6)]) dX20_numbers_82 (by decide) rfl ?_
          refine x_aload_n (μ := mu_x20_numbers) (pc := 84) 2 dX20_numbers_84 rfl ?_
          refine x_fgrN (μ := mu_x20_numbers) (pc := 85) fX3_4 (by first | exact Or.inl ⟨_, rfl⟩ | exact Or.inr ⟨_, rfl⟩) q402 dX20_numbers_85 (gT_E k18 hT15 (by decide)) ?_
          refine x_astore (μ := mu_x20_numbers) (pc := 88) (lv' := [(7, vR (mR (x16.2) v1 4)), (5, vI (x16.1)), (0, vR v0), (1, vR v1), (2, vR v2), (3, vI v3), (4, vI v4), (6, vI v6)]) dX20_numbers_88 (by decide) rfl ?_
          refine x_loc (lv' := [(0, vR v0), (1, vR v1), (2, vR v2), (3, vI v3), (4, vI v4), (5, vI (x16.1)), (6, vI v6), (7, vR (mR (x16.2) v1 4))]) [2, 3, 4, 5, 6, 1, 7, 0] rfl ?_
          refine okl_x20_numbers_l90 hl hW hdp hdw hv3 hv4 hv6 (fun y35 s36 hy35 => ?_) N (x16.1) (x16.2) hr17
          refine x_goto (μ := mu_x20_numbers) (pc := 148) (tgt := 244) dX20_numbers_148 rfl ?_
          exact okj_x20_numbers_l39_j244 hl hW hdp hdw hv3 hv4 hy35 hv6 ih hK
        · refine x_if_eqT (μ := mu_x20_numbers) (pc := 64) (tgt := 151) dX20_numbers_64 rfl (by decide) (by decide) ?_
          refine x_aload_n (μ := mu_x20_numbers) (pc := 151) 1 dX20_numbers_151 rfl ?_
          refine x_if (fun hT37 => ?_)
          refine x_fgrN (μ := mu_x20_numbers) (pc := 152) fX3_2 (by first | exact Or.inl ⟨_, rfl⟩ | exact Or.inr ⟨_, rfl⟩) q398 dX20_numbers_152 hT37 ?_
          refine x_iload_n (μ := mu_x20_numbers) (pc := 155) 3 dX20_numbers_155 rfl ?_
          refine x_iload (μ := mu_x20_numbers) (pc := 156) 6 dX20_numbers_156 rfl ?_
          refine x_iadd (μ := mu_x20_numbers) (pc := 158) dX20_numbers_158 ?_
          refine x_if (fun hT38 => ?_)
          refine x_aald (μ := mu_x20_numbers) (pc := 159) 7 (fun _ => rfl) rfl rfl dX20_numbers_159 hT38 rfl ?_
          refine x_astore (μ := mu_x20_numbers) (pc := 160) (lv' := [(7, vR (mR s (mR s v1 2) (v3 + v6).toNat)), (0, vR v0), (1, vR v1), (2, vR v2), (3, vI v3), (4, vI v4), (5, vI v5), (6, vI v6)]) dX20_numbers_160 (by decide) rfl ?_
          refine x_iload (μ := mu_x20_numbers) (pc := 162) 5 dX20_numbers_162 rfl ?_
          refine x_if_eq (μ := mu_x20_numbers) (pc := 164) (tgt := 214) dX20_numbers_164 rfl hv4 ?_ ?_
          · refine x_aload (μ := mu_x20_numbers) (pc := 214) 0 dX20_numbers_214 rfl ?_
            refine x_if (fun hT39 => ?_)
            refine x_callV_mi (μ := mu_x20_numbers) (pc := 216) (ok_x5_wantNumber (ω := ω) (l := l) (d := d - 1) hl (by omega) ) gRel_E gRel_E (fun _ q => q) q1263 q1179 q1180 q225 q1181 dX20_numbers_216 rfl hT39 hy_x5_wantNumber (by omega) (Nat.le_of_ble_eq_true rfl) rfl (Nat.le_of_ble_eq_true rfl) (fun x40 k42 hr41 => ?_)
            refine x_istore (μ := mu_x20_numbers) (pc := 219) (lv' := [(5, vI (x40.1)), (7, vR (mR s (mR s v1 2) (v3 + v6).toNat)), (0, vR v0), (1, vR v1), (2, vR v2), (3, vI v3), (4, vI v4), (6, vI v6)]) dX20_numbers_219 (by decide) rfl ?_
            refine x_iload (μ := mu_x20_numbers) (pc := 221) 0 dX20_numbers_221 rfl ?_
            refine x_if_eq (μ := mu_x20_numbers) (pc := 223) (tgt := 238) dX20_numbers_223 rfl hr41 ?_ ?_
            · refine x_aload_n (μ := mu_x20_numbers) (pc := 238) 4 dX20_numbers_238 rfl ?_
              refine x_aload (μ := mu_x20_numbers) (pc := 239) 1 dX20_numbers_239 rfl ?_
              refine x_if (fun hT43 => ?_)
              refine x_callV_mv (μ := mu_x20_numbers) (pc := 241) (ok_x5_copy (ω := ω) (l := l) (d := d - 1) hl (by omega) ) gRel_E gRel_E (fun _ q => q) q1217 q1077 q1078 q225 q1079 dX20_numbers_241 rfl hT43 hy_x5_copy (by omega) (Nat.le_of_ble_eq_true rfl) rfl (Nat.le_of_ble_eq_true rfl) (fun x44 k45 => ?_)
              refine x_loc (lv' := [(0, vR v0), (1, vR v1), (2, vR v2), (3, vI v3), (4, vI v4), (5, vI (x40.1)), (6, vI v6)]) [2, 3, 4, 5, 6, 0, 7] rfl ?_
              exact okj_x20_numbers_l39_j244 hl hW hdp hdw hv3 hv4 hr41 hv6 ih hK
            · refine x_aload_n (μ := mu_x20_numbers) (pc := 226) 3 dX20_numbers_226 rfl ?_
              refine x_aload (μ := mu_x20_numbers) (pc := 227) 1 dX20_numbers_227 rfl ?_
              refine x_fglN (μ := mu_x20_numbers) (pc := 229) fX5_2 q383 dX20_numbers_229 (gT_E k42 hT39 (by decide)) (fun hr46 => ?_)
              refine x_callV_mv (μ := mu_x20_numbers) (pc := 232) (ok_x3_tally (ω := ω) (l := l) (d := d - 1) hl (by omega) hr46) gRel_E gRel_E (fun _ q => q) q1246 q1247 q1248 q223 q1249 dX20_numbers_232 rfl (gT_E k42 hT37 (by decide)) hy_x3_tally (by omega) (Nat.le_of_ble_eq_true rfl) rfl (Nat.le_of_ble_eq_true rfl) (fun x47 k48 => ?_)
              refine x_goto (μ := mu_x20_numbers) (pc := 235) (tgt := 244) dX20_numbers_235 rfl ?_
              refine x_loc (lv' := [(0, vR v0), (1, vR v1), (2, vR v2), (3, vI v3), (4, vI v4), (5, vI (x40.1)), (6, vI v6)]) [2, 3, 4, 5, 6, 0, 7] rfl ?_
              exact okj_x20_numbers_l39_j244 hl hW hdp hdw hv3 hv4 hr41 hv6 ih hK
          · refine x_aload_n (μ := mu_x20_numbers) (pc := 167) 2 dX20_numbers_167 rfl ?_
            refine x_aload_n (μ := mu_x20_numbers) (pc := 168) 1 dX20_numbers_168 rfl ?_
            refine x_fgr (μ := mu_x20_numbers) (pc := 169) fX20_1 (by first | exact Or.inl ⟨_, rfl⟩ | exact Or.inr ⟨_, rfl⟩) q2041 dX20_numbers_169 hT11 ?_
            refine x_iload (μ := mu_x20_numbers) (pc := 172) 7 dX20_numbers_172 rfl ?_
            refine x_aald (μ := mu_x20_numbers) (pc := 174) 8 (fun _ => rfl) rfl rfl dX20_numbers_174 hT12 rfl ?_
            refine x_callV_pi (μ := mu_x20_numbers) (pc := 175) (ok_x3_isThere (ω := ω) (l := l) (d := d - 1) hl (by omega) ) gRel_E gRel_E (fun _ q => q) q1256 q1257 q1258 q223 q1259 dX20_numbers_175 rfl hT37 hy_x3_isThere (by omega) (Nat.le_of_ble_eq_true rfl) rfl (Nat.le_of_ble_eq_true rfl) (fun x49 hr50 => ?_)
            refine x_istore (μ := mu_x20_numbers) (pc := 178) (lv' := [(5, vI x49), (7, vR (mR s (mR s v1 2) (v3 + v6).toNat)), (0, vR v0), (1, vR v1), (2, vR v2), (3, vI v3), (4, vI v4), (6, vI v6)]) dX20_numbers_178 (by decide) rfl ?_
            refine x_iload (μ := mu_x20_numbers) (pc := 180) 0 dX20_numbers_180 rfl ?_
            refine x_if_ne (μ := mu_x20_numbers) (pc := 182) (tgt := 193) dX20_numbers_182 rfl hr50 ?_ ?_
            · refine x_aload (μ := mu_x20_numbers) (pc := 193) 1 dX20_numbers_193 rfl ?_
              refine x_if (fun hT51 => ?_)
              refine x_fgiN (μ := mu_x20_numbers) (pc := 195) fX5_0 q374 dX20_numbers_195 hT51 (fun hr52 => ?_)
              refine x_iconst (μ := mu_x20_numbers) (pc := 198) dX20_numbers_198 ?_
              refine x_icmp_ne (μ := mu_x20_numbers) (pc := 199) (tgt := 244) dX20_numbers_199 rfl hr52 (by decide) ?_ ?_
              · refine x_loc (lv' := [(0, vR v0), (1, vR v1), (2, vR v2), (3, vI v3), (4, vI v4), (5, vI x49), (6, vI v6)]) [2, 3, 4, 5, 6, 0, 7] rfl ?_
                exact okj_x20_numbers_l39_j244 hl hW hdp hdw hv3 hv4 hr50 hv6 ih hK
              · refine x_aload_n (μ := mu_x20_numbers) (pc := 202) 3 dX20_numbers_202 rfl ?_
                refine x_aload (μ := mu_x20_numbers) (pc := 203) 1 dX20_numbers_203 rfl ?_
                refine x_fglN (μ := mu_x20_numbers) (pc := 205) fX5_2 q383 dX20_numbers_205 hT51 (fun hr53 => ?_)
                refine x_callV_mv (μ := mu_x20_numbers) (pc := 208) (ok_x3_tally (ω := ω) (l := l) (d := d - 1) hl (by omega) hr53) gRel_E gRel_E (fun _ q => q) q1246 q1247 q1248 q223 q1249 dX20_numbers_208 rfl hT37 hy_x3_tally (by omega) (Nat.le_of_ble_eq_true rfl) rfl (Nat.le_of_ble_eq_true rfl) (fun x54 k55 => ?_)
                refine x_goto (μ := mu_x20_numbers) (pc := 211) (tgt := 244) dX20_numbers_211 rfl ?_
                refine x_loc (lv' := [(0, vR v0), (1, vR v1), (2, vR v2), (3, vI v3), (4, vI v4), (5, vI x49), (6, vI v6)]) [2, 3, 4, 5, 6, 0, 7] rfl ?_
                exact okj_x20_numbers_l39_j244 hl hW hdp hdw hv3 hv4 hr50 hv6 ih hK
            · refine x_aload_n (μ := mu_x20_numbers) (pc := 185) 4 dX20_numbers_185 rfl ?_
              refine x_iconst (μ := mu_x20_numbers) (pc := 186) dX20_numbers_186 ?_
              refine x_if (fun hT56 => ?_)
              refine x_callV_mv (μ := mu_x20_numbers) (pc := 187) (ok_x5_fail (ω := ω) (l := l) (d := d - 1) hl (by omega) (by decide)) gRel_E gRel_E (fun _ q => q) q1262 q969 q970 q225 q971 dX20_numbers_187 rfl hT56 hy_x5_fail (by omega) (Nat.le_of_ble_eq_true rfl) rfl (Nat.le_of_ble_eq_true rfl) (fun x57 k58 => ?_)
              refine x_goto (μ := mu_x20_numbers) (pc := 190) (tgt := 244) dX20_numbers_190 rfl ?_
              refine x_loc (lv' := [(0, vR v0), (1, vR v1), (2, vR v2), (3, vI v3), (4, vI v4), (5, vI x49), (6, vI v6)]) [2, 3, 4, 5, 6, 0, 7] rfl ?_
              exact okj_x20_numbers_l39_j244 hl hW hdp hdw hv3 hv4 hr50 hv6 ih hK
def x20_numbers_j250 (N : Nat) (W : Nat → Nat → Nat → gMem → Option gMem) (v0 : Nat) (v1 : Nat) (v2 : Nat) (v3 : Int) (v4 : Int) (v5 : Int) (s : gMem) : Option gMem := if v5 = 0 then if mT s v1 = 3 then gLet (wI s v1 3 v3) (fun s62 => some s62) else none else if mT s v0 = 18 then if mR s v0 0 ≠ mR s 0 5 then if v4 = 0 then if mT s v1 = 3 then if mI s v1 18 ≠ 0 then if mR s v0 0 ≠ mR s 0 6 then if mT s v2 = 5 then (x5_be v2 (mL s v1 17) s).bind (fun x69 => gLet (wI x69 v1 3 v3) (fun s71 => some s71)) else none else if mT s v2 = 5 then (x5_be v2 (mL s v1 16) s).bind (fun x75 => gLet (wI x75 v1 3 v3) (fun s77 => some s77)) else none else if mT s v2 = 5 then (x5_fail v2 7 s).bind (fun x80 => gLet (wI x80 v1 3 v3) (fun s82 => some s82)) else none else none else if mT s v1 = 3 then if mT s v2 = 5 then (x5_be v2 (mI s v1 18) s).bind (fun x87 => gLet (wI x87 v1 3 v3) (fun s89 => some s89)) else none else none else if mT s v1 = 3 then if mT s v2 = 5 then (x5_be v2 (mL s v1 15) s).bind (fun x94 => gLet (wI x94 v1 3 v3) (fun s96 => some s96)) else none else none else none
set_option maxRecDepth 100000 in
theorem okj_x20_numbers_j250 {ω : gW} {l : Launch} {d : Nat} {N : Nat} {W : Nat → Nat → Nat → gMem → Option gMem} {dW : Nat} {σ0 : gMem} {s : gMem} {v0 : Nat} {v1 : Nat} {v2 : Nat} {v3 : Int} {v4 : Int} {v5 : Int} (hl : l.stackTraces = false) (hW : ∀ (a0 : Nat) (a1 : Nat) (a2 : Nat) (s : gMem), gKI (fun p : gMem => (.inl none, p)) gE ω l dW iy_Part_work none [vR a0, vR a1, vR a2] s (W a0 a1 a2 s)) (hdp : 4 ≤ d) (hdw : dW + 2 ≤ d) (hv3 : g32 v3) (hv4 : g32 v4) (hv5 : g32 v5) : GG (fun p : gMem => (.inl none, p)) gE ω l d mu_x20_numbers σ0 250 [(0, vR v0), (1, vR v1), (2, vR v2), (3, vI v3), (4, vI v4), (5, vI v5)] [] s (x20_numbers_j250 N W v0 v1 v2 v3 v4 v5 s) := by
  unfold x20_numbers_j250
  refine x_iload (μ := mu_x20_numbers) (pc := 250) 5 dX20_numbers_250 rfl ?_
  refine x_if_eq (μ := mu_x20_numbers) (pc := 252) (tgt := 334) dX20_numbers_252 rfl hv5 ?_ ?_
  · refine x_aload_n (μ := mu_x20_numbers) (pc := 334) 1 dX20_numbers_334 rfl ?_
    refine x_iload_n (μ := mu_x20_numbers) (pc := 335) 3 dX20_numbers_335 rfl ?_
    refine x_if (fun hT61 => ?_)
    refine x_fpiN (μ := mu_x20_numbers) (pc := 336) fX3_3 q400 dX20_numbers_336 hT61 (fun _ q => gE_wI q) ?_
    refine x_let (fun s62 e63 => ?_)
    exact x_vret (μ := mu_x20_numbers) (pc := 339) (a1 := s62) dX20_numbers_339 rfl rfl (gRel_E.1 _) trivial
  · refine x_aload_n (μ := mu_x20_numbers) (pc := 255) 0 dX20_numbers_255 rfl ?_
    refine x_if (fun hT64 => ?_)
    refine x_fgr (μ := mu_x20_numbers) (pc := 256) fX20_0 (by first | exact Or.inl ⟨_, rfl⟩ | exact Or.inr ⟨_, rfl⟩) q2040 dX20_numbers_256 hT64 ?_
    refine x_gst (μ := mu_x20_numbers) (pc := 259) (j := 5) (List.mem_of_getElem? (i := 5) rfl) q1264 dX20_numbers_259 ?_
    refine x_acmp_ne (μ := mu_x20_numbers) (pc := 262) (tgt := 276) dX20_numbers_262 rfl ?_ ?_
    · refine x_iload (μ := mu_x20_numbers) (pc := 276) 4 dX20_numbers_276 rfl ?_
      refine x_if_eq (μ := mu_x20_numbers) (pc := 278) (tgt := 293) dX20_numbers_278 rfl hv4 ?_ ?_
      · refine x_aload_n (μ := mu_x20_numbers) (pc := 293) 1 dX20_numbers_293 rfl ?_
        refine x_if (fun hT65 => ?_)
        refine x_fgiN (μ := mu_x20_numbers) (pc := 294) fX3_18 q420 dX20_numbers_294 hT65 (fun hr66 => ?_)
        refine x_if_ne (μ := mu_x20_numbers) (pc := 297) (tgt := 309) dX20_numbers_297 rfl hr66 ?_ ?_
        · refine x_aload_n (μ := mu_x20_numbers) (pc := 309) 2 dX20_numbers_309 rfl ?_
          refine x_aload_n (μ := mu_x20_numbers) (pc := 310) 0 dX20_numbers_310 rfl ?_
          refine x_fgr (μ := mu_x20_numbers) (pc := 311) fX20_0 (by first | exact Or.inl ⟨_, rfl⟩ | exact Or.inr ⟨_, rfl⟩) q2040 dX20_numbers_311 hT64 ?_
          refine x_gst (μ := mu_x20_numbers) (pc := 314) (j := 6) (List.mem_of_getElem? (i := 6) rfl) q1267 dX20_numbers_314 ?_
          refine x_acmp_ne (μ := mu_x20_numbers) (pc := 317) (tgt := 327) dX20_numbers_317 rfl ?_ ?_
          · refine x_aload_n (μ := mu_x20_numbers) (pc := 327) 1 dX20_numbers_327 rfl ?_
            refine x_fglN (μ := mu_x20_numbers) (pc := 328) fX3_17 q418 dX20_numbers_328 hT65 (fun hr67 => ?_)
            refine x_if (fun hT68 => ?_)
            refine x_callV_mv (μ := mu_x20_numbers) (pc := 331) (ok_x5_be (ω := ω) (l := l) (d := d - 1) hl (by omega) hr67) gRel_E gRel_E (fun _ q => q) q1266 q1052 q1053 q225 q1054 dX20_numbers_331 rfl hT68 hy_x5_be (by omega) (Nat.le_of_ble_eq_true rfl) rfl (Nat.le_of_ble_eq_true rfl) (fun x69 k70 => ?_)
            refine x_aload_n (μ := mu_x20_numbers) (pc := 334) 1 dX20_numbers_334 rfl ?_
            refine x_iload_n (μ := mu_x20_numbers) (pc := 335) 3 dX20_numbers_335 rfl ?_
            refine x_fpiN (μ := mu_x20_numbers) (pc := 336) fX3_3 q400 dX20_numbers_336 (gT_E k70 hT65 (by decide)) (fun _ q => gE_wI q) ?_
            refine x_let (fun s71 e72 => ?_)
            exact x_vret (μ := mu_x20_numbers) (pc := 339) (a1 := s71) dX20_numbers_339 rfl rfl (gRel_E.1 _) trivial
          · refine x_aload_n (μ := mu_x20_numbers) (pc := 320) 1 dX20_numbers_320 rfl ?_
            refine x_fglN (μ := mu_x20_numbers) (pc := 321) fX3_16 q416 dX20_numbers_321 hT65 (fun hr73 => ?_)
            refine x_goto (μ := mu_x20_numbers) (pc := 324) (tgt := 331) dX20_numbers_324 rfl ?_
            refine x_if (fun hT74 => ?_)
            refine x_callV_mv (μ := mu_x20_numbers) (pc := 331) (ok_x5_be (ω := ω) (l := l) (d := d - 1) hl (by omega) hr73) gRel_E gRel_E (fun _ q => q) q1266 q1052 q1053 q225 q1054 dX20_numbers_331 rfl hT74 hy_x5_be (by omega) (Nat.le_of_ble_eq_true rfl) rfl (Nat.le_of_ble_eq_true rfl) (fun x75 k76 => ?_)
            refine x_aload_n (μ := mu_x20_numbers) (pc := 334) 1 dX20_numbers_334 rfl ?_
            refine x_iload_n (μ := mu_x20_numbers) (pc := 335) 3 dX20_numbers_335 rfl ?_
            refine x_fpiN (μ := mu_x20_numbers) (pc := 336) fX3_3 q400 dX20_numbers_336 (gT_E k76 hT65 (by decide)) (fun _ q => gE_wI q) ?_
            refine x_let (fun s77 e78 => ?_)
            exact x_vret (μ := mu_x20_numbers) (pc := 339) (a1 := s77) dX20_numbers_339 rfl rfl (gRel_E.1 _) trivial
        · refine x_aload_n (μ := mu_x20_numbers) (pc := 300) 2 dX20_numbers_300 rfl ?_
          refine x_bipush (μ := mu_x20_numbers) (pc := 301) dX20_numbers_301 (by decide) ?_
          refine x_if (fun hT79 => ?_)
          refine x_callV_mv (μ := mu_x20_numbers) (pc := 303) (ok_x5_fail (ω := ω) (l := l) (d := d - 1) hl (by omega) (by decide)) gRel_E gRel_E (fun _ q => q) q1262 q969 q970 q225 q971 dX20_numbers_303 rfl hT79 hy_x5_fail (by omega) (Nat.le_of_ble_eq_true rfl) rfl (Nat.le_of_ble_eq_true rfl) (fun x80 k81 => ?_)
          refine x_goto (μ := mu_x20_numbers) (pc := 306) (tgt := 334) dX20_numbers_306 rfl ?_
          refine x_aload_n (μ := mu_x20_numbers) (pc := 334) 1 dX20_numbers_334 rfl ?_
          refine x_iload_n (μ := mu_x20_numbers) (pc := 335) 3 dX20_numbers_335 rfl ?_
          refine x_fpiN (μ := mu_x20_numbers) (pc := 336) fX3_3 q400 dX20_numbers_336 (gT_E k81 hT65 (by decide)) (fun _ q => gE_wI q) ?_
          refine x_let (fun s82 e83 => ?_)
          exact x_vret (μ := mu_x20_numbers) (pc := 339) (a1 := s82) dX20_numbers_339 rfl rfl (gRel_E.1 _) trivial
      · refine x_aload_n (μ := mu_x20_numbers) (pc := 281) 2 dX20_numbers_281 rfl ?_
        refine x_aload_n (μ := mu_x20_numbers) (pc := 282) 1 dX20_numbers_282 rfl ?_
        refine x_if (fun hT84 => ?_)
        refine x_fgiN (μ := mu_x20_numbers) (pc := 283) fX3_18 q420 dX20_numbers_283 hT84 (fun hr85 => ?_)
        refine x_i2l (μ := mu_x20_numbers) (pc := 286) dX20_numbers_286 hr85 ?_
        refine x_if (fun hT86 => ?_)
        refine x_callV_mv (μ := mu_x20_numbers) (pc := 287) (ok_x5_be (ω := ω) (l := l) (d := d - 1) hl (by omega) (g32_64 hr85)) gRel_E gRel_E (fun _ q => q) q1266 q1052 q1053 q225 q1054 dX20_numbers_287 rfl hT86 hy_x5_be (by omega) (Nat.le_of_ble_eq_true rfl) rfl (Nat.le_of_ble_eq_true rfl) (fun x87 k88 => ?_)
        refine x_goto (μ := mu_x20_numbers) (pc := 290) (tgt := 334) dX20_numbers_290 rfl ?_
        refine x_aload_n (μ := mu_x20_numbers) (pc := 334) 1 dX20_numbers_334 rfl ?_
        refine x_iload_n (μ := mu_x20_numbers) (pc := 335) 3 dX20_numbers_335 rfl ?_
        refine x_fpiN (μ := mu_x20_numbers) (pc := 336) fX3_3 q400 dX20_numbers_336 (gT_E k88 hT84 (by decide)) (fun _ q => gE_wI q) ?_
        refine x_let (fun s89 e90 => ?_)
        exact x_vret (μ := mu_x20_numbers) (pc := 339) (a1 := s89) dX20_numbers_339 rfl rfl (gRel_E.1 _) trivial
    · refine x_aload_n (μ := mu_x20_numbers) (pc := 265) 2 dX20_numbers_265 rfl ?_
      refine x_aload_n (μ := mu_x20_numbers) (pc := 266) 1 dX20_numbers_266 rfl ?_
      refine x_if (fun hT91 => ?_)
      refine x_fglN (μ := mu_x20_numbers) (pc := 267) fX3_15 q414 dX20_numbers_267 hT91 (fun hr92 => ?_)
      refine x_if (fun hT93 => ?_)
      refine x_callV_mv (μ := mu_x20_numbers) (pc := 270) (ok_x5_be (ω := ω) (l := l) (d := d - 1) hl (by omega) hr92) gRel_E gRel_E (fun _ q => q) q1266 q1052 q1053 q225 q1054 dX20_numbers_270 rfl hT93 hy_x5_be (by omega) (Nat.le_of_ble_eq_true rfl) rfl (Nat.le_of_ble_eq_true rfl) (fun x94 k95 => ?_)
      refine x_goto (μ := mu_x20_numbers) (pc := 273) (tgt := 334) dX20_numbers_273 rfl ?_
      refine x_aload_n (μ := mu_x20_numbers) (pc := 334) 1 dX20_numbers_334 rfl ?_
      refine x_iload_n (μ := mu_x20_numbers) (pc := 335) 3 dX20_numbers_335 rfl ?_
      refine x_fpiN (μ := mu_x20_numbers) (pc := 336) fX3_3 q400 dX20_numbers_336 (gT_E k95 hT91 (by decide)) (fun _ q => gE_wI q) ?_
      refine x_let (fun s96 e97 => ?_)
      exact x_vret (μ := mu_x20_numbers) (pc := 339) (a1 := s96) dX20_numbers_339 rfl rfl (gRel_E.1 _) trivial
def x20_numbers_j20 (N : Nat) (W : Nat → Nat → Nat → gMem → Option gMem) (v0 : Nat) (v1 : Nat) (v2 : Nat) (v3 : Int) (t0 : Int) (s : gMem) : Option gMem := if mT s v0 = 18 then (x20_workAll N W v0 v1 v2 t0 s).bind (fun x5 => if mT (x5.2) v1 = 3 then (x3_clear v1 (x5.2)).bind (fun x9 => x20_numbers_l39 N W v0 v1 v2 v3 t0 (fun y59 s60 => x20_numbers_j250 N W v0 v1 v2 v3 t0 y59  s60) N (x5.1) 0 x9) else none) else none
set_option maxRecDepth 100000 in
theorem okj_x20_numbers_j20 {ω : gW} {l : Launch} {d : Nat} {N : Nat} {W : Nat → Nat → Nat → gMem → Option gMem} {dW : Nat} {σ0 : gMem} {s : gMem} {v0 : Nat} {v1 : Nat} {v2 : Nat} {v3 : Int} {t0 : Int} (hl : l.stackTraces = false) (hW : ∀ (a0 : Nat) (a1 : Nat) (a2 : Nat) (s : gMem), gKI (fun p : gMem => (.inl none, p)) gE ω l dW iy_Part_work none [vR a0, vR a1, vR a2] s (W a0 a1 a2 s)) (hdp : 4 ≤ d) (hdw : dW + 2 ≤ d) (hv3 : g32 v3) (ht0 : g32 t0) : GG (fun p : gMem => (.inl none, p)) gE ω l d mu_x20_numbers σ0 20 [(0, vR v0), (1, vR v1), (2, vR v2), (3, vI v3)] [vI t0] s (x20_numbers_j20 N W v0 v1 v2 v3 t0 s) := by
  unfold x20_numbers_j20
  refine x_istore (μ := mu_x20_numbers) (pc := 20) (lv' := [(4, vI t0), (0, vR v0), (1, vR v1), (2, vR v2), (3, vI v3)]) dX20_numbers_20 (by decide) rfl ?_
  refine x_aload_n (μ := mu_x20_numbers) (pc := 22) 1 dX20_numbers_22 rfl ?_
  refine x_aload_n (μ := mu_x20_numbers) (pc := 23) 2 dX20_numbers_23 rfl ?_
  refine x_aload_n (μ := mu_x20_numbers) (pc := 24) 3 dX20_numbers_24 rfl ?_
  refine x_iload (μ := mu_x20_numbers) (pc := 25) 0 dX20_numbers_25 rfl ?_
  refine x_if (fun hT4 => ?_)
  refine x_callV_mi (μ := mu_x20_numbers) (pc := 27) (ok_x20_workAll (ω := ω) (l := l) (d := d - 1) hl hW (by omega) (by omega) ht0) gRel_E gRel_E (fun _ q => q) q1212 q1214 qs17 q252 q1215 dX20_numbers_27 rfl hT4 hy_x20_workAll (by omega) (Nat.le_of_ble_eq_true rfl) rfl (Nat.le_of_ble_eq_true rfl) (fun x5 k7 hr6 => ?_)
  refine x_istore (μ := mu_x20_numbers) (pc := 30) (lv' := [(5, vI (x5.1)), (4, vI t0), (0, vR v0), (1, vR v1), (2, vR v2), (3, vI v3)]) dX20_numbers_30 (by decide) rfl ?_
  refine x_aload_n (μ := mu_x20_numbers) (pc := 32) 3 dX20_numbers_32 rfl ?_
  refine x_if (fun hT8 => ?_)
  refine x_callV_mv (μ := mu_x20_numbers) (pc := 33) (ok_x3_clear (ω := ω) (l := l) (d := d - 1) hl (by omega) ) gRel_E gRel_E (fun _ q => q) q1242 q1243 q1244 q223 q1245 dX20_numbers_33 rfl hT8 hy_x3_clear (by omega) (Nat.le_of_ble_eq_true rfl) rfl (Nat.le_of_ble_eq_true rfl) (fun x9 k10 => ?_)
  refine x_iconst (μ := mu_x20_numbers) (pc := 36) dX20_numbers_36 ?_
  refine x_istore (μ := mu_x20_numbers) (pc := 37) (lv' := [(6, vI 0), (5, vI (x5.1)), (4, vI t0), (0, vR v0), (1, vR v1), (2, vR v2), (3, vI v3)]) dX20_numbers_37 (by decide) rfl ?_
  refine x_loc (lv' := [(0, vR v0), (1, vR v1), (2, vR v2), (3, vI v3), (4, vI t0), (5, vI (x5.1)), (6, vI 0)]) [3, 4, 5, 6, 2, 1, 0] rfl ?_
  refine okl_x20_numbers_l39 hl hW hdp hdw hv3 ht0 (fun y59 s60 hy59 => ?_) N (x5.1) 0 x9 hr6 (by decide)
  exact okj_x20_numbers_j250 hl hW hdp hdw hv3 ht0 hy59
def x20_numbers (N : Nat) (W : Nat → Nat → Nat → gMem → Option gMem) (v0 : Nat) (v1 : Nat) (v2 : Nat) (σ : gMem) : Option gMem := if mT σ v1 = 3 then if mT σ v0 = 18 then if mR σ v0 0 ≠ mR σ 0 8 then x20_numbers_j20 N W v0 v1 v2 (mI σ v1 3) 0 σ else x20_numbers_j20 N W v0 v1 v2 (mI σ v1 3) 1 σ else none else none
set_option maxRecDepth 100000 in
theorem ok_x20_numbers {ω : gW} {l : Launch} {d : Nat} {N : Nat} {W : Nat → Nat → Nat → gMem → Option gMem} {dW : Nat} {σ : gMem} {v0 : Nat} {v1 : Nat} {v2 : Nat} (hl : l.stackTraces = false) (hW : ∀ (a0 : Nat) (a1 : Nat) (a2 : Nat) (s : gMem), gKI (fun p : gMem => (.inl none, p)) gE ω l dW iy_Part_work none [vR a0, vR a1, vR a2] s (W a0 a1 a2 s)) (hdp : 4 ≤ d) (hdw : dW + 2 ≤ d) : gK (fun p : gMem => (.inl none, p)) gE ω l d mu_x20_numbers [vR v0, vR v1, vR v2] σ (x20_numbers N W v0 v1 v2 σ) := by
  refine gK.of hp_X20 (Nat.le_of_ble_eq_true rfl) ?_
  unfold x20_numbers
  refine x_aload_n (μ := mu_x20_numbers) (pc := 0) 1 dX20_numbers_0 rfl ?_
  refine x_if (fun hT1 => ?_)
  refine x_fgiN (μ := mu_x20_numbers) (pc := 1) fX3_3 q400 dX20_numbers_1 hT1 (fun hr2 => ?_)
  refine x_istore_n (μ := mu_x20_numbers) (pc := 4) (lv' := [(3, vI (mI σ v1 3)), (0, vR v0), (1, vR v1), (2, vR v2)]) dX20_numbers_4 rfl (by decide) rfl ?_
  refine x_aload_n (μ := mu_x20_numbers) (pc := 5) 1 dX20_numbers_5 rfl ?_
  refine x_if (fun hT3 => ?_)
  refine x_fgr (μ := mu_x20_numbers) (pc := 6) fX20_0 (by first | exact Or.inl ⟨_, rfl⟩ | exact Or.inr ⟨_, rfl⟩) q2040 dX20_numbers_6 hT3 ?_
  refine x_gst (μ := mu_x20_numbers) (pc := 9) (j := 8) (List.mem_of_getElem? (i := 8) rfl) q1240 dX20_numbers_9 ?_
  refine x_acmp_ne (μ := mu_x20_numbers) (pc := 12) (tgt := 19) dX20_numbers_12 rfl ?_ ?_
  · refine x_iconst (μ := mu_x20_numbers) (pc := 19) dX20_numbers_19 ?_
    refine x_loc (lv' := [(0, vR v0), (1, vR v1), (2, vR v2), (3, vI (mI σ v1 3))]) [1, 2, 3, 0] rfl ?_
    exact okj_x20_numbers_j20 hl hW hdp hdw hr2 (by decide)
  · refine x_iconst (μ := mu_x20_numbers) (pc := 15) dX20_numbers_15 ?_
    refine x_goto (μ := mu_x20_numbers) (pc := 16) (tgt := 20) dX20_numbers_16 rfl ?_
    refine x_loc (lv' := [(0, vR v0), (1, vR v1), (2, vR v2), (3, vI (mI σ v1 3))]) [1, 2, 3, 0] rfl ?_
    exact okj_x20_numbers_j20 hl hW hdp hdw hr2 (by decide)
def x20_search_j46 (N : Nat) (W : Nat → Nat → Nat → gMem → Option gMem) (v0 : Nat) (v1 : Nat) (v2 : Nat) (v3 : Nat) (v4 : Nat) (t0 : Int) (t1 : Nat) (s : gMem) : Option gMem := if mT s t1 = 108 then if 0 ≤ t0 ∧ t0 < (mN s t1 : Int) then (W (mR s t1 t0.toNat) v1 v4 s).bind (fun x8 => if mT x8 v4 = 5 then (x5_failed v4 x8).bind (fun x11 => if x11 = 0 then if v3 = 0 ∨ gNode (mT x8 v3) = true then if mT x8 v3 = 17 then if v3 = 0 ∨ mT x8 v3 = 17 then if mT x8 v1 = 3 then (x3_opens N v1 v3 v2 x8).bind (fun x16 => if x16.1 = 0 then (x3_give v1 (x16.2)).bind (fun x19 => some x19) else if mT (x16.2) v0 = 18 then if mR (x16.2) v0 0 ≠ mR (x16.2) 0 13 then (x20_alike N v0 v1 v4 v2 (x16.2)).bind (fun x22 => (x3_give v1 x22).bind (fun x24 => some x24)) else (x20_nth N v0 v1 v4 v2 (x16.2)).bind (fun x26 => (x3_give v1 x26).bind (fun x28 => some x28)) else none) else none else none else if mT x8 v2 = 5 then (x5_fail v2 1 x8).bind (fun x31 => if mT x31 v1 = 3 then (x3_give v1 x31).bind (fun x34 => some x34) else none) else none else none else if mT x8 v2 = 5 then (x5_copy v2 v4 x8).bind (fun x37 => if mT x37 v1 = 3 then (x3_give v1 x37).bind (fun x40 => some x40) else none) else none) else none) else none else none
set_option maxRecDepth 100000 in
theorem okj_x20_search_j46 {ω : gW} {l : Launch} {d : Nat} {N : Nat} {W : Nat → Nat → Nat → gMem → Option gMem} {dW : Nat} {σ0 : gMem} {s : gMem} {v0 : Nat} {v1 : Nat} {v2 : Nat} {v3 : Nat} {v4 : Nat} {t0 : Int} {t1 : Nat} (hl : l.stackTraces = false) (hW : ∀ (a0 : Nat) (a1 : Nat) (a2 : Nat) (s : gMem), gKI (fun p : gMem => (.inl none, p)) gE ω l dW iy_Part_work none [vR a0, vR a1, vR a2] s (W a0 a1 a2 s)) (hdp : 5 ≤ d) (hdw : dW + 1 ≤ d) (ht0 : g32 t0) : GG (fun p : gMem => (.inl none, p)) gE ω l d mu_x20_search σ0 46 [(0, vR v0), (1, vR v1), (2, vR v2), (3, vR v3), (4, vR v4)] [vI t0, vR t1] s (x20_search_j46 N W v0 v1 v2 v3 v4 t0 t1 s) := by
  unfold x20_search_j46
  refine x_if (fun hT7 => ?_)
  refine x_aald (μ := mu_x20_search) (pc := 46) 8 (fun _ => rfl) rfl rfl dX20_search_46 hT7 rfl ?_
  refine x_aload_n (μ := mu_x20_search) (pc := 47) 1 dX20_search_47 rfl ?_
  refine x_aload (μ := mu_x20_search) (pc := 48) 4 dX20_search_48 rfl ?_
  refine x_callF_mv (μ := mu_x20_search) (pc := 50) (hW (mR s t1 t0.toNat) v1 v4 s ) gRel_E gRel_E (fun _ q => q) q995 dX20_search_50 iy_Part_work_hy (by omega) rfl (Nat.le_of_ble_eq_true rfl) (fun x8 k9 => ?_)
  refine x_aload (μ := mu_x20_search) (pc := 55) 4 dX20_search_55 rfl ?_
  refine x_if (fun hT10 => ?_)
  refine x_callV_pi (μ := mu_x20_search) (pc := 57) (ok_x5_failed (ω := ω) (l := l) (d := d - 1) hl (by omega) ) gRel_E gRel_E (fun _ q => q) q1200 q1073 q1074 q225 q1075 dX20_search_57 rfl hT10 hy_x5_failed (by omega) (Nat.le_of_ble_eq_true rfl) rfl (Nat.le_of_ble_eq_true rfl) (fun x11 hr12 => ?_)
  refine x_if_eq (μ := mu_x20_search) (pc := 60) (tgt := 72) dX20_search_60 rfl hr12 ?_ ?_
  · refine x_aload_n (μ := mu_x20_search) (pc := 72) 3 dX20_search_72 rfl ?_
    refine x_if (fun hg13 => ?_)
    refine x_inst (μ := mu_x20_search) (pc := 73) (ci := 16) (by decide) rfl q1218 dX20_search_73 hg13 ?_ ?_
    · refine x_if_neT (μ := mu_x20_search) (pc := 76) (tgt := 87) dX20_search_76 rfl (by decide) (by decide) ?_
      refine x_aload_n (μ := mu_x20_search) (pc := 87) 1 dX20_search_87 rfl ?_
      refine x_aload_n (μ := mu_x20_search) (pc := 88) 3 dX20_search_88 rfl ?_
      refine x_if (fun hg14 => ?_)
      refine x_castC (μ := mu_x20_search) (pc := 89) (ci := 16) rfl q1218 dX20_search_89 hg14 ?_
      refine x_aload_n (μ := mu_x20_search) (pc := 92) 2 dX20_search_92 rfl ?_
      refine x_if (fun hT15 => ?_)
      refine x_callV_mi (μ := mu_x20_search) (pc := 93) (ok_x3_opens (ω := ω) (l := l) (d := d - 1) hl (by omega) ) gRel_E gRel_E (fun _ q => q) q1219 q1220 q1221 q223 q1222 dX20_search_93 rfl hT15 hy_x3_opens (by omega) (Nat.le_of_ble_eq_true rfl) rfl (Nat.le_of_ble_eq_true rfl) (fun x16 k18 hr17 => ?_)
      refine x_if_eq (μ := mu_x20_search) (pc := 96) (tgt := 128) dX20_search_96 rfl hr17 ?_ ?_
      · refine x_aload_n (μ := mu_x20_search) (pc := 128) 1 dX20_search_128 rfl ?_
        refine x_callV_mv (μ := mu_x20_search) (pc := 129) (ok_x3_give (ω := ω) (l := l) (d := d - 1) hl (by omega) ) gRel_E gRel_E (fun _ q => q) q1293 q1194 q1195 q223 q1196 dX20_search_129 rfl (gT_E k18 hT15 (by decide)) hy_x3_give (by omega) (Nat.le_of_ble_eq_true rfl) rfl (Nat.le_of_ble_eq_true rfl) (fun x19 k20 => ?_)
        exact x_vret (μ := mu_x20_search) (pc := 132) (a1 := x19) dX20_search_132 rfl rfl (gRel_E.1 _) trivial
      · refine x_aload_n (μ := mu_x20_search) (pc := 99) 0 dX20_search_99 rfl ?_
        refine x_if (fun hT21 => ?_)
        refine x_fgr (μ := mu_x20_search) (pc := 100) fX20_0 (by first | exact Or.inl ⟨_, rfl⟩ | exact Or.inr ⟨_, rfl⟩) q2040 dX20_search_100 hT21 ?_
        refine x_gst (μ := mu_x20_search) (pc := 103) (j := 13) (List.mem_of_getElem? (i := 13) rfl) q1275 dX20_search_103 ?_
        refine x_acmp_ne (μ := mu_x20_search) (pc := 106) (tgt := 120) dX20_search_106 rfl ?_ ?_
        · refine x_aload_n (μ := mu_x20_search) (pc := 120) 0 dX20_search_120 rfl ?_
          refine x_aload_n (μ := mu_x20_search) (pc := 121) 1 dX20_search_121 rfl ?_
          refine x_aload (μ := mu_x20_search) (pc := 122) 4 dX20_search_122 rfl ?_
          refine x_aload_n (μ := mu_x20_search) (pc := 124) 2 dX20_search_124 rfl ?_
          refine x_callV_mv (μ := mu_x20_search) (pc := 125) (ok_x20_alike (ω := ω) (l := l) (d := d - 1) hl (by omega) ) gRel_E gRel_E (fun _ q => q) q1285 q1287 qs21 q252 q1288 dX20_search_125 rfl hT21 hy_x20_alike (by omega) (Nat.le_of_ble_eq_true rfl) rfl (Nat.le_of_ble_eq_true rfl) (fun x22 k23 => ?_)
          refine x_aload_n (μ := mu_x20_search) (pc := 128) 1 dX20_search_128 rfl ?_
          refine x_callV_mv (μ := mu_x20_search) (pc := 129) (ok_x3_give (ω := ω) (l := l) (d := d - 1) hl (by omega) ) gRel_E gRel_E (fun _ q => q) q1293 q1194 q1195 q223 q1196 dX20_search_129 rfl (gT_E k23 (gT_E k18 hT15 (by decide)) (by decide)) hy_x3_give (by omega) (Nat.le_of_ble_eq_true rfl) rfl (Nat.le_of_ble_eq_true rfl) (fun x24 k25 => ?_)
          exact x_vret (μ := mu_x20_search) (pc := 132) (a1 := x24) dX20_search_132 rfl rfl (gRel_E.1 _) trivial
        · refine x_aload_n (μ := mu_x20_search) (pc := 109) 0 dX20_search_109 rfl ?_
          refine x_aload_n (μ := mu_x20_search) (pc := 110) 1 dX20_search_110 rfl ?_
          refine x_aload (μ := mu_x20_search) (pc := 111) 4 dX20_search_111 rfl ?_
          refine x_aload_n (μ := mu_x20_search) (pc := 113) 2 dX20_search_113 rfl ?_
          refine x_callV_mv (μ := mu_x20_search) (pc := 114) (ok_x20_nth (ω := ω) (l := l) (d := d - 1) hl (by omega) ) gRel_E gRel_E (fun _ q => q) q1277 q1279 qs20 q252 q1280 dX20_search_114 rfl hT21 hy_x20_nth (by omega) (Nat.le_of_ble_eq_true rfl) rfl (Nat.le_of_ble_eq_true rfl) (fun x26 k27 => ?_)
          refine x_goto (μ := mu_x20_search) (pc := 117) (tgt := 128) dX20_search_117 rfl ?_
          refine x_aload_n (μ := mu_x20_search) (pc := 128) 1 dX20_search_128 rfl ?_
          refine x_callV_mv (μ := mu_x20_search) (pc := 129) (ok_x3_give (ω := ω) (l := l) (d := d - 1) hl (by omega) ) gRel_E gRel_E (fun _ q => q) q1293 q1194 q1195 q223 q1196 dX20_search_129 rfl (gT_E k27 (gT_E k18 hT15 (by decide)) (by decide)) hy_x3_give (by omega) (Nat.le_of_ble_eq_true rfl) rfl (Nat.le_of_ble_eq_true rfl) (fun x28 k29 => ?_)
          exact x_vret (μ := mu_x20_search) (pc := 132) (a1 := x28) dX20_search_132 rfl rfl (gRel_E.1 _) trivial
    · refine x_if_neF (μ := mu_x20_search) (pc := 76) (tgt := 87) dX20_search_76 rfl (by decide) (by decide) ?_
      refine x_aload_n (μ := mu_x20_search) (pc := 79) 2 dX20_search_79 rfl ?_
      refine x_iconst (μ := mu_x20_search) (pc := 80) dX20_search_80 ?_
      refine x_if (fun hT30 => ?_)
      refine x_callV_mv (μ := mu_x20_search) (pc := 81) (ok_x5_fail (ω := ω) (l := l) (d := d - 1) hl (by omega) (by decide)) gRel_E gRel_E (fun _ q => q) q1262 q969 q970 q225 q971 dX20_search_81 rfl hT30 hy_x5_fail (by omega) (Nat.le_of_ble_eq_true rfl) rfl (Nat.le_of_ble_eq_true rfl) (fun x31 k32 => ?_)
      refine x_goto (μ := mu_x20_search) (pc := 84) (tgt := 128) dX20_search_84 rfl ?_
      refine x_aload_n (μ := mu_x20_search) (pc := 128) 1 dX20_search_128 rfl ?_
      refine x_if (fun hT33 => ?_)
      refine x_callV_mv (μ := mu_x20_search) (pc := 129) (ok_x3_give (ω := ω) (l := l) (d := d - 1) hl (by omega) ) gRel_E gRel_E (fun _ q => q) q1293 q1194 q1195 q223 q1196 dX20_search_129 rfl hT33 hy_x3_give (by omega) (Nat.le_of_ble_eq_true rfl) rfl (Nat.le_of_ble_eq_true rfl) (fun x34 k35 => ?_)
      exact x_vret (μ := mu_x20_search) (pc := 132) (a1 := x34) dX20_search_132 rfl rfl (gRel_E.1 _) trivial
  · refine x_aload_n (μ := mu_x20_search) (pc := 63) 2 dX20_search_63 rfl ?_
    refine x_aload (μ := mu_x20_search) (pc := 64) 4 dX20_search_64 rfl ?_
    refine x_if (fun hT36 => ?_)
    refine x_callV_mv (μ := mu_x20_search) (pc := 66) (ok_x5_copy (ω := ω) (l := l) (d := d - 1) hl (by omega) ) gRel_E gRel_E (fun _ q => q) q1217 q1077 q1078 q225 q1079 dX20_search_66 rfl hT36 hy_x5_copy (by omega) (Nat.le_of_ble_eq_true rfl) rfl (Nat.le_of_ble_eq_true rfl) (fun x37 k38 => ?_)
    refine x_goto (μ := mu_x20_search) (pc := 69) (tgt := 128) dX20_search_69 rfl ?_
    refine x_aload_n (μ := mu_x20_search) (pc := 128) 1 dX20_search_128 rfl ?_
    refine x_if (fun hT39 => ?_)
    refine x_callV_mv (μ := mu_x20_search) (pc := 129) (ok_x3_give (ω := ω) (l := l) (d := d - 1) hl (by omega) ) gRel_E gRel_E (fun _ q => q) q1293 q1194 q1195 q223 q1196 dX20_search_129 rfl hT39 hy_x3_give (by omega) (Nat.le_of_ble_eq_true rfl) rfl (Nat.le_of_ble_eq_true rfl) (fun x40 k41 => ?_)
    exact x_vret (μ := mu_x20_search) (pc := 132) (a1 := x40) dX20_search_132 rfl rfl (gRel_E.1 _) trivial
def x20_search_j19 (N : Nat) (W : Nat → Nat → Nat → gMem → Option gMem) (v0 : Nat) (v1 : Nat) (v2 : Nat) (t0 : Int) (t1 : Nat) (s : gMem) : Option gMem := if mT s t1 = 108 then if 0 ≤ t0 ∧ t0 < (mN s t1 : Int) then if mT s v1 = 3 then (x3_take v1 s).bind (fun x4 => if mT (x4.2) v0 = 18 then if mR (x4.2) v0 0 ≠ mR (x4.2) 0 12 then x20_search_j46 N W v0 v1 v2 (mR s t1 t0.toNat) (x4.1) 1 (mR (x4.2) v0 1) (x4.2) else x20_search_j46 N W v0 v1 v2 (mR s t1 t0.toNat) (x4.1) 0 (mR (x4.2) v0 1) (x4.2) else none) else none else none else none
set_option maxRecDepth 100000 in
theorem okj_x20_search_j19 {ω : gW} {l : Launch} {d : Nat} {N : Nat} {W : Nat → Nat → Nat → gMem → Option gMem} {dW : Nat} {σ0 : gMem} {s : gMem} {v0 : Nat} {v1 : Nat} {v2 : Nat} {t0 : Int} {t1 : Nat} (hl : l.stackTraces = false) (hW : ∀ (a0 : Nat) (a1 : Nat) (a2 : Nat) (s : gMem), gKI (fun p : gMem => (.inl none, p)) gE ω l dW iy_Part_work none [vR a0, vR a1, vR a2] s (W a0 a1 a2 s)) (hdp : 5 ≤ d) (hdw : dW + 1 ≤ d) (ht0 : g32 t0) : GG (fun p : gMem => (.inl none, p)) gE ω l d mu_x20_search σ0 19 [(0, vR v0), (1, vR v1), (2, vR v2)] [vI t0, vR t1] s (x20_search_j19 N W v0 v1 v2 t0 t1 s) := by
  unfold x20_search_j19
  refine x_if (fun hT2 => ?_)
  refine x_aald (μ := mu_x20_search) (pc := 19) 8 (fun _ => rfl) rfl rfl dX20_search_19 hT2 rfl ?_
  refine x_astore_n (μ := mu_x20_search) (pc := 20) (lv' := [(3, vR (mR s t1 t0.toNat)), (0, vR v0), (1, vR v1), (2, vR v2)]) dX20_search_20 rfl (by decide) rfl ?_
  refine x_aload_n (μ := mu_x20_search) (pc := 21) 2 dX20_search_21 rfl ?_
  refine x_if (fun hT3 => ?_)
  refine x_callV_mr (μ := mu_x20_search) (pc := 22) (ok_x3_take (ω := ω) (l := l) (d := d - 1) hl (by omega) ) gRel_E gRel_E (fun _ q => q) q1216 q1069 q1070 q223 q1071 dX20_search_22 rfl hT3 hy_x3_take (by omega) (Nat.le_of_ble_eq_true rfl) rfl (Nat.le_of_ble_eq_true rfl) (fun x4 k5 => ?_)
  refine x_astore (μ := mu_x20_search) (pc := 25) (lv' := [(4, vR (x4.1)), (3, vR (mR s t1 t0.toNat)), (0, vR v0), (1, vR v1), (2, vR v2)]) dX20_search_25 (by decide) rfl ?_
  refine x_aload_n (μ := mu_x20_search) (pc := 27) 2 dX20_search_27 rfl ?_
  refine x_if (fun hT6 => ?_)
  refine x_fgr (μ := mu_x20_search) (pc := 28) fX20_1 (by first | exact Or.inl ⟨_, rfl⟩ | exact Or.inr ⟨_, rfl⟩) q2041 dX20_search_28 hT6 ?_
  refine x_aload_n (μ := mu_x20_search) (pc := 31) 2 dX20_search_31 rfl ?_
  refine x_fgr (μ := mu_x20_search) (pc := 32) fX20_0 (by first | exact Or.inl ⟨_, rfl⟩ | exact Or.inr ⟨_, rfl⟩) q2040 dX20_search_32 hT6 ?_
  refine x_gst (μ := mu_x20_search) (pc := 35) (j := 12) (List.mem_of_getElem? (i := 12) rfl) q1273 dX20_search_35 ?_
  refine x_acmp_ne (μ := mu_x20_search) (pc := 38) (tgt := 45) dX20_search_38 rfl ?_ ?_
  · refine x_iconst (μ := mu_x20_search) (pc := 45) dX20_search_45 ?_
    refine x_loc (lv' := [(0, vR v0), (1, vR v1), (2, vR v2), (3, vR (mR s t1 t0.toNat)), (4, vR (x4.1))]) [2, 3, 4, 1, 0] rfl ?_
    exact okj_x20_search_j46 hl hW hdp hdw (by decide)
  · refine x_iconst (μ := mu_x20_search) (pc := 41) dX20_search_41 ?_
    refine x_goto (μ := mu_x20_search) (pc := 42) (tgt := 46) dX20_search_42 rfl ?_
    refine x_loc (lv' := [(0, vR v0), (1, vR v1), (2, vR v2), (3, vR (mR s t1 t0.toNat)), (4, vR (x4.1))]) [2, 3, 4, 1, 0] rfl ?_
    exact okj_x20_search_j46 hl hW hdp hdw (by decide)
def x20_search (N : Nat) (W : Nat → Nat → Nat → gMem → Option gMem) (v0 : Nat) (v1 : Nat) (v2 : Nat) (σ : gMem) : Option gMem := if mT σ v0 = 18 then if mR σ v0 0 ≠ mR σ 0 12 then x20_search_j19 N W v0 v1 v2 0 (mR σ v0 1) σ else x20_search_j19 N W v0 v1 v2 1 (mR σ v0 1) σ else none
set_option maxRecDepth 100000 in
theorem ok_x20_search {ω : gW} {l : Launch} {d : Nat} {N : Nat} {W : Nat → Nat → Nat → gMem → Option gMem} {dW : Nat} {σ : gMem} {v0 : Nat} {v1 : Nat} {v2 : Nat} (hl : l.stackTraces = false) (hW : ∀ (a0 : Nat) (a1 : Nat) (a2 : Nat) (s : gMem), gKI (fun p : gMem => (.inl none, p)) gE ω l dW iy_Part_work none [vR a0, vR a1, vR a2] s (W a0 a1 a2 s)) (hdp : 5 ≤ d) (hdw : dW + 1 ≤ d) : gK (fun p : gMem => (.inl none, p)) gE ω l d mu_x20_search [vR v0, vR v1, vR v2] σ (x20_search N W v0 v1 v2 σ) := by
  refine gK.of hp_X20 (Nat.le_of_ble_eq_true rfl) ?_
  unfold x20_search
  refine x_aload_n (μ := mu_x20_search) (pc := 0) 0 dX20_search_0 rfl ?_
  refine x_if (fun hT1 => ?_)
  refine x_fgr (μ := mu_x20_search) (pc := 1) fX20_1 (by first | exact Or.inl ⟨_, rfl⟩ | exact Or.inr ⟨_, rfl⟩) q2041 dX20_search_1 hT1 ?_
  refine x_aload_n (μ := mu_x20_search) (pc := 4) 0 dX20_search_4 rfl ?_
  refine x_fgr (μ := mu_x20_search) (pc := 5) fX20_0 (by first | exact Or.inl ⟨_, rfl⟩ | exact Or.inr ⟨_, rfl⟩) q2040 dX20_search_5 hT1 ?_
  refine x_gst (μ := mu_x20_search) (pc := 8) (j := 12) (List.mem_of_getElem? (i := 12) rfl) q1273 dX20_search_8 ?_
  refine x_acmp_ne (μ := mu_x20_search) (pc := 11) (tgt := 18) dX20_search_11 rfl ?_ ?_
  · refine x_iconst (μ := mu_x20_search) (pc := 18) dX20_search_18 ?_
    exact okj_x20_search_j19 hl hW hdp hdw (by decide)
  · refine x_iconst (μ := mu_x20_search) (pc := 14) dX20_search_14 ?_
    refine x_goto (μ := mu_x20_search) (pc := 15) (tgt := 19) dX20_search_15 rfl ?_
    exact okj_x20_search_j19 hl hW hdp hdw (by decide)
def x22_work (N : Nat) (W : Nat → Nat → Nat → gMem → Option gMem) (v0 : Nat) (v1 : Nat) (v2 : Nat) (σ : gMem) : Option gMem := if mT σ v0 = 20 then (W (mR σ v0 1) v1 v2 σ).bind (fun x2 => if mT x2 v1 = 3 then (x3_take v1 x2).bind (fun x5 => (W (mR (x5.2) v0 2) v1 (x5.1) (x5.2)).bind (fun x7 => if mT x7 v2 = 5 then (x5_failed v2 x7).bind (fun x10 => if x10 ≠ 0 then (x3_give v1 x7).bind (fun x12 => some x12) else if mT x7 (x5.1) = 5 then (x5_failed (x5.1) x7).bind (fun x15 => if x15 = 0 then (x1_two N (mR x7 v0 0) v2 (x5.1) x7).bind (fun x17 => (x3_give v1 x17).bind (fun x19 => some x19)) else (x5_copy v2 (x5.1) x7).bind (fun x21 => (x3_give v1 x21).bind (fun x23 => some x23))) else none) else none)) else none) else none
set_option maxRecDepth 100000 in
theorem ok_x22_work {ω : gW} {l : Launch} {d : Nat} {N : Nat} {W : Nat → Nat → Nat → gMem → Option gMem} {dW : Nat} {σ : gMem} {v0 : Nat} {v1 : Nat} {v2 : Nat} (hl : l.stackTraces = false) (hW : ∀ (a0 : Nat) (a1 : Nat) (a2 : Nat) (s : gMem), gKI (fun p : gMem => (.inl none, p)) gE ω l dW iy_Part_work none [vR a0, vR a1, vR a2] s (W a0 a1 a2 s)) (hdp : 8 ≤ d) (hdw : dW + 1 ≤ d) : gK (fun p : gMem => (.inl none, p)) gE ω l d mu_x22_work [vR v0, vR v1, vR v2] σ (x22_work N W v0 v1 v2 σ) := by
  refine gK.of hp_X22 (Nat.le_of_ble_eq_true rfl) ?_
  unfold x22_work
  refine x_aload_n (μ := mu_x22_work) (pc := 0) 0 dX22_work_0 rfl ?_
  refine x_if (fun hT1 => ?_)
  refine x_fgr (μ := mu_x22_work) (pc := 1) fX22_1 (by first | exact Or.inl ⟨_, rfl⟩ | exact Or.inr ⟨_, rfl⟩) q2073 dX22_work_1 hT1 ?_
  refine x_aload_n (μ := mu_x22_work) (pc := 4) 1 dX22_work_4 rfl ?_
  refine x_aload_n (μ := mu_x22_work) (pc := 5) 2 dX22_work_5 rfl ?_
  refine x_callF_mv (μ := mu_x22_work) (pc := 6) (hW (mR σ v0 1) v1 v2 σ ) gRel_E gRel_E (fun _ q => q) q1045 dX22_work_6 iy_Part_work_hy (by omega) rfl (Nat.le_of_ble_eq_true rfl) (fun x2 k3 => ?_)
  refine x_aload_n (μ := mu_x22_work) (pc := 11) 1 dX22_work_11 rfl ?_
  refine x_if (fun hT4 => ?_)
  refine x_callV_mr (μ := mu_x22_work) (pc := 12) (ok_x3_take (ω := ω) (l := l) (d := d - 1) hl (by omega) ) gRel_E gRel_E (fun _ q => q) q1068 q1069 q1070 q223 q1071 dX22_work_12 rfl hT4 hy_x3_take (by omega) (Nat.le_of_ble_eq_true rfl) rfl (Nat.le_of_ble_eq_true rfl) (fun x5 k6 => ?_)
  refine x_astore_n (μ := mu_x22_work) (pc := 15) (lv' := [(3, vR (x5.1)), (0, vR v0), (1, vR v1), (2, vR v2)]) dX22_work_15 rfl (by decide) rfl ?_
  refine x_aload_n (μ := mu_x22_work) (pc := 16) 1 dX22_work_16 rfl ?_
  refine x_fgr (μ := mu_x22_work) (pc := 17) fX22_2 (by first | exact Or.inl ⟨_, rfl⟩ | exact Or.inr ⟨_, rfl⟩) q2074 dX22_work_17 (gT_E k6 (gT_E k3 hT1 (by decide)) (by decide)) ?_
  refine x_aload_n (μ := mu_x22_work) (pc := 20) 2 dX22_work_20 rfl ?_
  refine x_aload_n (μ := mu_x22_work) (pc := 21) 0 dX22_work_21 rfl ?_
  refine x_callF_mv (μ := mu_x22_work) (pc := 22) (hW (mR (x5.2) v0 2) v1 (x5.1) (x5.2) ) gRel_E gRel_E (fun _ q => q) q1045 dX22_work_22 iy_Part_work_hy (by omega) rfl (Nat.le_of_ble_eq_true rfl) (fun x7 k8 => ?_)
  refine x_aload_n (μ := mu_x22_work) (pc := 27) 3 dX22_work_27 rfl ?_
  refine x_if (fun hT9 => ?_)
  refine x_callV_pi (μ := mu_x22_work) (pc := 28) (ok_x5_failed (ω := ω) (l := l) (d := d - 1) hl (by omega) ) gRel_E gRel_E (fun _ q => q) q1072 q1073 q1074 q225 q1075 dX22_work_28 rfl hT9 hy_x5_failed (by omega) (Nat.le_of_ble_eq_true rfl) rfl (Nat.le_of_ble_eq_true rfl) (fun x10 hr11 => ?_)
  refine x_if_ne (μ := mu_x22_work) (pc := 31) (tgt := 58) dX22_work_31 rfl hr11 ?_ ?_
  · refine x_aload_n (μ := mu_x22_work) (pc := 58) 2 dX22_work_58 rfl ?_
    refine x_callV_mv (μ := mu_x22_work) (pc := 59) (ok_x3_give (ω := ω) (l := l) (d := d - 1) hl (by omega) ) gRel_E gRel_E (fun _ q => q) q1193 q1194 q1195 q223 q1196 dX22_work_59 rfl (gT_E k8 (gT_E k6 hT4 (by decide)) (by decide)) hy_x3_give (by omega) (Nat.le_of_ble_eq_true rfl) rfl (Nat.le_of_ble_eq_true rfl) (fun x12 k13 => ?_)
    exact x_vret (μ := mu_x22_work) (pc := 62) (a1 := x12) dX22_work_62 rfl rfl (gRel_E.1 _) trivial
  · refine x_aload_n (μ := mu_x22_work) (pc := 34) 0 dX22_work_34 rfl ?_
    refine x_if (fun hT14 => ?_)
    refine x_callV_pi (μ := mu_x22_work) (pc := 35) (ok_x5_failed (ω := ω) (l := l) (d := d - 1) hl (by omega) ) gRel_E gRel_E (fun _ q => q) q1072 q1073 q1074 q225 q1075 dX22_work_35 rfl hT14 hy_x5_failed (by omega) (Nat.le_of_ble_eq_true rfl) rfl (Nat.le_of_ble_eq_true rfl) (fun x15 hr16 => ?_)
    refine x_if_eq (μ := mu_x22_work) (pc := 38) (tgt := 49) dX22_work_38 rfl hr16 ?_ ?_
    · refine x_aload_n (μ := mu_x22_work) (pc := 49) 1 dX22_work_49 rfl ?_
      refine x_fgr (μ := mu_x22_work) (pc := 50) fX22_0 (by first | exact Or.inl ⟨_, rfl⟩ | exact Or.inr ⟨_, rfl⟩) q2072 dX22_work_50 (gT_E k8 (gT_E k6 (gT_E k3 hT1 (by decide)) (by decide)) (by decide)) ?_
      refine x_aload_n (μ := mu_x22_work) (pc := 53) 3 dX22_work_53 rfl ?_
      refine x_aload_n (μ := mu_x22_work) (pc := 54) 0 dX22_work_54 rfl ?_
      refine x_callSN_mv (μ := mu_x22_work) (pc := 55) (ok_x1_two (ω := ω) (l := l) (d := d - 1) hl (by omega) ) gRel_E gRel_E (fun _ q => q) q1080 q1081 q221 q1082 dX22_work_55 hy_x1_two (by omega) (Nat.le_of_ble_eq_true rfl) rfl (Nat.le_of_ble_eq_true rfl) (fun x17 k18 => ?_)
      refine x_aload_n (μ := mu_x22_work) (pc := 58) 2 dX22_work_58 rfl ?_
      refine x_callV_mv (μ := mu_x22_work) (pc := 59) (ok_x3_give (ω := ω) (l := l) (d := d - 1) hl (by omega) ) gRel_E gRel_E (fun _ q => q) q1193 q1194 q1195 q223 q1196 dX22_work_59 rfl (gT_E k18 (gT_E k8 (gT_E k6 hT4 (by decide)) (by decide)) (by decide)) hy_x3_give (by omega) (Nat.le_of_ble_eq_true rfl) rfl (Nat.le_of_ble_eq_true rfl) (fun x19 k20 => ?_)
      exact x_vret (μ := mu_x22_work) (pc := 62) (a1 := x19) dX22_work_62 rfl rfl (gRel_E.1 _) trivial
    · refine x_aload_n (μ := mu_x22_work) (pc := 41) 3 dX22_work_41 rfl ?_
      refine x_aload_n (μ := mu_x22_work) (pc := 42) 0 dX22_work_42 rfl ?_
      refine x_callV_mv (μ := mu_x22_work) (pc := 43) (ok_x5_copy (ω := ω) (l := l) (d := d - 1) hl (by omega) ) gRel_E gRel_E (fun _ q => q) q1076 q1077 q1078 q225 q1079 dX22_work_43 rfl hT9 hy_x5_copy (by omega) (Nat.le_of_ble_eq_true rfl) rfl (Nat.le_of_ble_eq_true rfl) (fun x21 k22 => ?_)
      refine x_goto (μ := mu_x22_work) (pc := 46) (tgt := 58) dX22_work_46 rfl ?_
      refine x_aload_n (μ := mu_x22_work) (pc := 58) 2 dX22_work_58 rfl ?_
      refine x_callV_mv (μ := mu_x22_work) (pc := 59) (ok_x3_give (ω := ω) (l := l) (d := d - 1) hl (by omega) ) gRel_E gRel_E (fun _ q => q) q1193 q1194 q1195 q223 q1196 dX22_work_59 rfl (gT_E k22 (gT_E k8 (gT_E k6 hT4 (by decide)) (by decide)) (by decide)) hy_x3_give (by omega) (Nat.le_of_ble_eq_true rfl) rfl (Nat.le_of_ble_eq_true rfl) (fun x23 k24 => ?_)
      exact x_vret (μ := mu_x22_work) (pc := 62) (a1 := x23) dX22_work_62 rfl rfl (gRel_E.1 _) trivial
def x25_isChanged_l12_j87 (N : Nat) (σ : gMem) (v0 : Nat) (v1 : Nat) (v2 : Int) (v3 : Int) (v4 : Nat) (v5 : Int) (Kh : Int → Option Int) (K : Option Int) : Option Int := Kh (w32 (v5 + 1))
set_option maxRecDepth 100000 in
theorem okj_x25_isChanged_l12_j87 {ω : gW} {l : Launch} {d : Nat} {N : Nat} {σ : gMem} {v0 : Nat} {v1 : Nat} {v2 : Int} {v3 : Int} {v4 : Nat} {v5 : Int} {Kh : Int → Option Int} {K : Option Int} (hl : l.stackTraces = false) (hdp : 68 ≤ d) (hv2 : g32 v2) (hv3 : g32 v3) (hv5 : g32 v5) (hKh : ∀ (v5 : Int) , g32 v5 → GG (fun x : Int => (.inl (some (vI x)), σ)) gE ω l d mu_x25_isChanged σ 12 [(0, vR v0), (1, vR v1), (2, vI v2), (3, vI v3), (4, vR v4), (5, vI v5)] [] σ (Kh v5)) (hK : GG (fun x : Int => (.inl (some (vI x)), σ)) gE ω l d mu_x25_isChanged σ 93 [] [] σ (K)) : GG (fun x : Int => (.inl (some (vI x)), σ)) gE ω l d mu_x25_isChanged σ 87 [(0, vR v0), (1, vR v1), (2, vI v2), (3, vI v3), (4, vR v4), (5, vI v5)] [] σ (x25_isChanged_l12_j87 N σ v0 v1 v2 v3 v4 v5 Kh K ) := by
  unfold x25_isChanged_l12_j87
  refine x_iincw (μ := mu_x25_isChanged) (pc := 87) (lv' := [(5, vI (w32 (v5 + 1))), (0, vR v0), (1, vR v1), (2, vI v2), (3, vI v3), (4, vR v4)]) 5 dX25_isChanged_87 rfl (by decide) rfl ?_
  refine x_goto (μ := mu_x25_isChanged) (pc := 90) (tgt := 12) dX25_isChanged_90 rfl ?_
  refine x_loc (lv' := [(0, vR v0), (1, vR v1), (2, vI v2), (3, vI v3), (4, vR v4), (5, vI (w32 (v5 + 1)))]) [1, 2, 3, 4, 5, 0] rfl ?_
  exact hKh (w32 (v5 + 1)) (w32_rng _)
def x25_isChanged_l12 (N : Nat) (σ : gMem) (v0 : Nat) (v1 : Nat) (v2 : Int) (v3 : Int) (v4 : Nat) (K : Option Int) : Nat → Int → Option Int
  | 0, _ => none
  | n + 1, v5 => if mT σ v4 = 100 then if w32 (mN σ v4 : Int) ≤ v5 then K else if 0 ≤ v5 ∧ v5 < (mN σ v4 : Int) then (x25_of N v1 v2 v3 (mI σ v4 v5.toNat) σ).bind (fun x5 => if mT σ v0 = 23 then if 0 ≤ v5 ∧ v5 < (mN σ v4 : Int) then (x25_has N (mR σ v0 0) (w32 (1 - v2)) (mI σ v4 v5.toNat) σ).bind (fun x8 => if x8 = 0 then if x5 = 0 then x25_isChanged_l12_j87 N σ v0 v1 v2 v3 v4 v5  (x25_isChanged_l12 N σ v0 v1 v2 v3 v4 K n) K else some 1 else if 0 ≤ v5 ∧ v5 < (mN σ v4 : Int) then (x25_of N (mR σ v0 0) v2 v3 (mI σ v4 v5.toNat) σ).bind (fun x11 => (x1_isAlike N x5 x11 σ).bind (fun x12 => if x12 ≠ 0 then x25_isChanged_l12_j87 N σ v0 v1 v2 v3 v4 v5  (x25_isChanged_l12 N σ v0 v1 v2 v3 v4 K n) K else some 1)) else none) else none else none) else none else none
set_option maxRecDepth 100000 in
theorem okl_x25_isChanged_l12 {ω : gW} {l : Launch} {d : Nat} {N : Nat} {σ : gMem} {v0 : Nat} {v1 : Nat} {v2 : Int} {v3 : Int} {v4 : Nat} {K : Option Int} (hl : l.stackTraces = false) (hdp : 68 ≤ d) (hv2 : g32 v2) (hv3 : g32 v3) (hK : GG (fun x : Int => (.inl (some (vI x)), σ)) gE ω l d mu_x25_isChanged σ 93 [] [] σ (K)) : ∀ (n : Nat) (v5 : Int) , g32 v5 → GG (fun x : Int => (.inl (some (vI x)), σ)) gE ω l d mu_x25_isChanged σ 12 [(0, vR v0), (1, vR v1), (2, vI v2), (3, vI v3), (4, vR v4), (5, vI v5)] [] σ (x25_isChanged_l12 N σ v0 v1 v2 v3 v4 K n v5) := by
  intro n
  induction n with
  | zero => intros; exact x_none
  | succ n ih =>
    intro v5 hv5
    unfold x25_isChanged_l12
    refine x_iload (μ := mu_x25_isChanged) (pc := 12) 5 dX25_isChanged_12 rfl ?_
    refine x_aload (μ := mu_x25_isChanged) (pc := 14) 4 dX25_isChanged_14 rfl ?_
    refine x_if (fun hT3 => ?_)
    refine x_len (μ := mu_x25_isChanged) (pc := 16) 0 (fun _ => rfl) dX25_isChanged_16 hT3 ?_
    refine x_w1 ?_
    refine x_icmp_ge (μ := mu_x25_isChanged) (pc := 17) (tgt := 93) dX25_isChanged_17 rfl hv5 (w32_rng _) ?_ ?_
    · refine x_loc (lv' := []) [] rfl ?_
      exact hK
    · refine x_aload_n (μ := mu_x25_isChanged) (pc := 20) 1 dX25_isChanged_20 rfl ?_
      refine x_iload_n (μ := mu_x25_isChanged) (pc := 21) 2 dX25_isChanged_21 rfl ?_
      refine x_iload_n (μ := mu_x25_isChanged) (pc := 22) 3 dX25_isChanged_22 rfl ?_
      refine x_aload (μ := mu_x25_isChanged) (pc := 23) 4 dX25_isChanged_23 rfl ?_
      refine x_iload (μ := mu_x25_isChanged) (pc := 25) 5 dX25_isChanged_25 rfl ?_
      refine x_iald (μ := mu_x25_isChanged) (pc := 27) dX25_isChanged_27 hT3 rfl (fun hr4 => ?_)
      refine x_callS_pr (μ := mu_x25_isChanged) (pc := 28) (ok_x25_of (ω := ω) (l := l) (d := d - 1) hl (by omega) hv2 hv3 hr4) gRel_E gRel_E (fun _ q => q) q2517 q2518 q266 q2519 dX25_isChanged_28 hy_x25_of (by omega) (Nat.le_of_ble_eq_true rfl) rfl (Nat.le_of_ble_eq_true rfl) (fun x5 => ?_)
      refine x_astore (μ := mu_x25_isChanged) (pc := 31) (lv' := [(6, vR x5), (0, vR v0), (1, vR v1), (2, vI v2), (3, vI v3), (4, vR v4), (5, vI v5)]) dX25_isChanged_31 (by decide) rfl ?_
      refine x_aload_n (μ := mu_x25_isChanged) (pc := 33) 1 dX25_isChanged_33 rfl ?_
      refine x_if (fun hT6 => ?_)
      refine x_fgr (μ := mu_x25_isChanged) (pc := 34) fX25_0 (by first | exact Or.inl ⟨_, rfl⟩ | exact Or.inr ⟨_, rfl⟩) q2470 dX25_isChanged_34 hT6 ?_
      refine x_iconst (μ := mu_x25_isChanged) (pc := 37) dX25_isChanged_37 ?_
      refine x_iload_n (μ := mu_x25_isChanged) (pc := 38) 3 dX25_isChanged_38 rfl ?_
      refine x_isub (μ := mu_x25_isChanged) (pc := 39) dX25_isChanged_39 ?_
      refine x_aload (μ := mu_x25_isChanged) (pc := 40) 5 dX25_isChanged_40 rfl ?_
      refine x_iload (μ := mu_x25_isChanged) (pc := 42) 6 dX25_isChanged_42 rfl ?_
      refine x_iald (μ := mu_x25_isChanged) (pc := 44) dX25_isChanged_44 hT3 rfl (fun hr7 => ?_)
      refine x_w2 ?_
      refine x_callS_pi (μ := mu_x25_isChanged) (pc := 45) (ok_x25_has (ω := ω) (l := l) (d := d - 1) hl (by omega) (w32_rng _) hr7) gRel_E gRel_E (fun _ q => q) q2506 q2507 q266 q2508 dX25_isChanged_45 hy_x25_has (by omega) (Nat.le_of_ble_eq_true rfl) rfl (Nat.le_of_ble_eq_true rfl) (fun x8 hr9 => ?_)
      refine x_istore (μ := mu_x25_isChanged) (pc := 48) (lv' := [(7, vI x8), (6, vR x5), (0, vR v0), (1, vR v1), (2, vI v2), (3, vI v3), (4, vR v4), (5, vI v5)]) dX25_isChanged_48 (by decide) rfl ?_
      refine x_iload (μ := mu_x25_isChanged) (pc := 50) 0 dX25_isChanged_50 rfl ?_
      refine x_if_eq (μ := mu_x25_isChanged) (pc := 52) (tgt := 80) dX25_isChanged_52 rfl hr9 ?_ ?_
      · refine x_aload (μ := mu_x25_isChanged) (pc := 80) 1 dX25_isChanged_80 rfl ?_
        refine x_ifnull (μ := mu_x25_isChanged) (pc := 82) (tgt := 87) dX25_isChanged_82 rfl ?_ ?_
        · refine x_loc (lv' := [(0, vR v0), (1, vR v1), (2, vI v2), (3, vI v3), (4, vR v4), (5, vI v5)]) [2, 3, 4, 5, 6, 7] rfl ?_
          exact okj_x25_isChanged_l12_j87 hl hdp hv2 hv3 hv5 ih hK
        · refine x_iconst (μ := mu_x25_isChanged) (pc := 85) dX25_isChanged_85 ?_
          exact x_zret (μ := mu_x25_isChanged) (pc := 86) dX25_isChanged_86 rfl (by decide) rfl (gRel_E.1 _) (show g32 1 from (by decide))
      · refine x_aload (μ := mu_x25_isChanged) (pc := 55) 1 dX25_isChanged_55 rfl ?_
        refine x_aload_n (μ := mu_x25_isChanged) (pc := 57) 2 dX25_isChanged_57 rfl ?_
        refine x_fgr (μ := mu_x25_isChanged) (pc := 58) fX25_0 (by first | exact Or.inl ⟨_, rfl⟩ | exact Or.inr ⟨_, rfl⟩) q2470 dX25_isChanged_58 hT6 ?_
        refine x_iload_n (μ := mu_x25_isChanged) (pc := 61) 4 dX25_isChanged_61 rfl ?_
        refine x_iload_n (μ := mu_x25_isChanged) (pc := 62) 5 dX25_isChanged_62 rfl ?_
        refine x_aload (μ := mu_x25_isChanged) (pc := 63) 6 dX25_isChanged_63 rfl ?_
        refine x_iload (μ := mu_x25_isChanged) (pc := 65) 7 dX25_isChanged_65 rfl ?_
        refine x_iald (μ := mu_x25_isChanged) (pc := 67) dX25_isChanged_67 hT3 rfl (fun hr10 => ?_)
        refine x_callS_pr (μ := mu_x25_isChanged) (pc := 68) (ok_x25_of (ω := ω) (l := l) (d := d - 1) hl (by omega) hv2 hv3 hr10) gRel_E gRel_E (fun _ q => q) q2517 q2518 q266 q2519 dX25_isChanged_68 hy_x25_of (by omega) (Nat.le_of_ble_eq_true rfl) rfl (Nat.le_of_ble_eq_true rfl) (fun x11 => ?_)
        refine x_callSN_pi (μ := mu_x25_isChanged) (pc := 71) (ok_x1_isAlike (ω := ω) (l := l) (d := d - 1) hl (by omega) ) gRel_E gRel_E (fun _ q => q) q2521 q1572 q221 q1573 dX25_isChanged_71 hy_x1_isAlike (by omega) (Nat.le_of_ble_eq_true rfl) rfl (Nat.le_of_ble_eq_true rfl) (fun x12 hr13 => ?_)
        refine x_if_ne (μ := mu_x25_isChanged) (pc := 74) (tgt := 87) dX25_isChanged_74 rfl hr13 ?_ ?_
        · refine x_loc (lv' := [(0, vR v0), (1, vR v1), (2, vI v2), (3, vI v3), (4, vR v4), (5, vI v5)]) [2, 3, 4, 5, 6, 7] rfl ?_
          exact okj_x25_isChanged_l12_j87 hl hdp hv2 hv3 hv5 ih hK
        · refine x_goto (μ := mu_x25_isChanged) (pc := 77) (tgt := 85) dX25_isChanged_77 rfl ?_
          refine x_iconst (μ := mu_x25_isChanged) (pc := 85) dX25_isChanged_85 ?_
          exact x_zret (μ := mu_x25_isChanged) (pc := 86) dX25_isChanged_86 rfl (by decide) rfl (gRel_E.1 _) (show g32 1 from (by decide))
def x25_isChanged (N : Nat) (v0 : Nat) (v1 : Nat) (v2 : Int) (v3 : Int) (σ : gMem) : Option Int := if mT σ v1 = 8 then (x9_marks v1 (w32 (1 - v2)) σ).bind (fun x2 => x25_isChanged_l12 N σ v0 v1 v2 v3 x2 (some 0) N 0) else none
set_option maxRecDepth 100000 in
theorem ok_x25_isChanged {ω : gW} {l : Launch} {d : Nat} {N : Nat} {σ : gMem} {v0 : Nat} {v1 : Nat} {v2 : Int} {v3 : Int} (hl : l.stackTraces = false) (hdp : 68 ≤ d) (hv2 : g32 v2) (hv3 : g32 v3) : gK (fun x : Int => (.inl (some (vI x)), σ)) gE ω l d mu_x25_isChanged [vR v0, vR v1, vI v2, vI v3] σ (x25_isChanged N v0 v1 v2 v3 σ) := by
  refine gK.of hp_X25 (Nat.le_of_ble_eq_true rfl) ?_
  unfold x25_isChanged
  refine x_aload_n (μ := mu_x25_isChanged) (pc := 0) 1 dX25_isChanged_0 rfl ?_
  refine x_iconst (μ := mu_x25_isChanged) (pc := 1) dX25_isChanged_1 ?_
  refine x_iload_n (μ := mu_x25_isChanged) (pc := 2) 2 dX25_isChanged_2 rfl ?_
  refine x_isub (μ := mu_x25_isChanged) (pc := 3) dX25_isChanged_3 ?_
  refine x_w1 ?_
  refine x_if (fun hT1 => ?_)
  refine x_callV_pr (μ := mu_x25_isChanged) (pc := 4) (ok_x9_marks (ω := ω) (l := l) (d := d - 1) hl (by omega) (w32_rng _)) gRel_E gRel_E (fun _ q => q) q2504 q2204 q2205 q230 q2206 dX25_isChanged_4 rfl hT1 hy_x9_marks (by omega) (Nat.le_of_ble_eq_true rfl) rfl (Nat.le_of_ble_eq_true rfl) (fun x2 => ?_)
  refine x_astore (μ := mu_x25_isChanged) (pc := 7) (lv' := [(4, vR x2), (0, vR v0), (1, vR v1), (2, vI v2), (3, vI v3)]) dX25_isChanged_7 (by decide) rfl ?_
  refine x_iconst (μ := mu_x25_isChanged) (pc := 9) dX25_isChanged_9 ?_
  refine x_istore (μ := mu_x25_isChanged) (pc := 10) (lv' := [(5, vI 0), (4, vR x2), (0, vR v0), (1, vR v1), (2, vI v2), (3, vI v3)]) dX25_isChanged_10 (by decide) rfl ?_
  refine x_loc (lv' := [(0, vR v0), (1, vR v1), (2, vI v2), (3, vI v3), (4, vR x2), (5, vI 0)]) [2, 3, 4, 5, 1, 0] rfl ?_
  refine okl_x25_isChanged_l12 hl hdp hv2 hv3 ?_ N 0 (by decide)
  refine x_iconst (μ := mu_x25_isChanged) (pc := 93) dX25_isChanged_93 ?_
  exact x_zret (μ := mu_x25_isChanged) (pc := 94) dX25_isChanged_94 rfl (by decide) rfl (gRel_E.1 _) (show g32 0 from (by decide))
def x25_cell_j53 (N : Nat) (v3 : Nat) (v4 : Nat) (v5 : Int) (s : gMem) : Option (Nat × gMem) := if v5 = 0 then some (v4, s) else some (v3, s)
set_option maxRecDepth 100000 in
theorem okj_x25_cell_j53 {ω : gW} {l : Launch} {d : Nat} {N : Nat} {σ0 : gMem} {s : gMem} {v3 : Nat} {v4 : Nat} {v5 : Int} (hl : l.stackTraces = false) (hdp : 68 ≤ d) (hv5 : g32 v5) : GG (fun p : Nat × gMem => (.inl (some (vR p.1)), p.2)) gE ω l d mu_x25_cell σ0 53 [(3, vR v3), (4, vR v4), (5, vI v5)] [] s (x25_cell_j53 N v3 v4 v5 s) := by
  unfold x25_cell_j53
  refine x_iload (μ := mu_x25_cell) (pc := 53) 2 dX25_cell_53 rfl ?_
  refine x_if_eq (μ := mu_x25_cell) (pc := 55) (tgt := 62) dX25_cell_55 rfl hv5 ?_ ?_
  · refine x_aload (μ := mu_x25_cell) (pc := 62) 1 dX25_cell_62 rfl ?_
    exact x_aret (μ := mu_x25_cell) (pc := 64) dX25_cell_64 rfl (by first | exact Or.inl ⟨_, rfl⟩ | exact Or.inr ⟨_, rfl⟩) rfl (gRel_E.1 _) trivial
  · refine x_aload_n (μ := mu_x25_cell) (pc := 58) 0 dX25_cell_58 rfl ?_
    refine x_goto (μ := mu_x25_cell) (pc := 59) (tgt := 64) dX25_cell_59 rfl ?_
    exact x_aret (μ := mu_x25_cell) (pc := 64) dX25_cell_64 rfl (by first | exact Or.inl ⟨_, rfl⟩ | exact Or.inr ⟨_, rfl⟩) rfl (gRel_E.1 _) trivial
def x25_cell (N : Nat) (v0 : Nat) (v1 : Int) (v2 : Int) (σ : gMem) : Option (Nat × gMem) := if mT σ v0 = 23 then if mT σ (mR σ v0 1) = 8 then (x9_of N (mR σ v0 1) v1 v2 σ).bind (fun x3 => if mT σ (mR σ v0 2) = 8 then (x9_of N (mR σ v0 2) v1 v2 σ).bind (fun x5 => (x25_hasCell N (mR σ v0 1) v1 v2 σ).bind (fun x6 => (x25_hasCell N (mR σ v0 2) v1 v2 σ).bind (fun x8 => if x6 = 0 then x25_cell_j53 N x3 x5 x6  σ else if x8 ≠ 0 then if mT σ (mR σ v0 0) = 8 then (x9_of N (mR σ v0 0) v1 v2 σ).bind (fun x11 => (x1_isAlike N x5 x11 σ).bind (fun x12 => if x12 ≠ 0 then some (x3, σ) else (x1_isAlike N x3 x5 σ).bind (fun x14 => if x14 = 0 then (x1_isAlike N x3 x11 σ).bind (fun x16 => if x16 = 0 then (x25_tell v0 3 v1 v2 1 x3 x5 σ).bind (fun x18 => some (x3, x18)) else some (x5, σ)) else some (x3, σ)))) else none else x25_cell_j53 N x3 x5 x6  σ))) else none) else none else none
set_option maxRecDepth 100000 in
theorem ok_x25_cell {ω : gW} {l : Launch} {d : Nat} {N : Nat} {σ : gMem} {v0 : Nat} {v1 : Int} {v2 : Int} (hl : l.stackTraces = false) (hdp : 68 ≤ d) (hv1 : g32 v1) (hv2 : g32 v2) : gK (fun p : Nat × gMem => (.inl (some (vR p.1)), p.2)) gE ω l d mu_x25_cell [vR v0, vI v1, vI v2] σ (x25_cell N v0 v1 v2 σ) := by
  refine gK.of hp_X25 (Nat.le_of_ble_eq_true rfl) ?_
  unfold x25_cell
  refine x_aload_n (μ := mu_x25_cell) (pc := 0) 0 dX25_cell_0 rfl ?_
  refine x_if (fun hT1 => ?_)
  refine x_fgr (μ := mu_x25_cell) (pc := 1) fX25_1 (by first | exact Or.inl ⟨_, rfl⟩ | exact Or.inr ⟨_, rfl⟩) q2471 dX25_cell_1 hT1 ?_
  refine x_iload_n (μ := mu_x25_cell) (pc := 4) 1 dX25_cell_4 rfl ?_
  refine x_iload_n (μ := mu_x25_cell) (pc := 5) 2 dX25_cell_5 rfl ?_
  refine x_if (fun hT2 => ?_)
  refine x_callV_pr (μ := mu_x25_cell) (pc := 6) (ok_x9_of (ω := ω) (l := l) (d := d - 1) hl (by omega) hv1 hv2) gRel_E gRel_E (fun _ q => q) q2520 q2235 q2236 q230 q2237 dX25_cell_6 rfl hT2 hy_x9_of (by omega) (Nat.le_of_ble_eq_true rfl) rfl (Nat.le_of_ble_eq_true rfl) (fun x3 => ?_)
  refine x_astore_n (μ := mu_x25_cell) (pc := 9) (lv' := [(3, vR x3), (0, vR v0), (1, vI v1), (2, vI v2)]) dX25_cell_9 rfl (by decide) rfl ?_
  refine x_aload_n (μ := mu_x25_cell) (pc := 10) 1 dX25_cell_10 rfl ?_
  refine x_fgr (μ := mu_x25_cell) (pc := 11) fX25_2 (by first | exact Or.inl ⟨_, rfl⟩ | exact Or.inr ⟨_, rfl⟩) q2472 dX25_cell_11 hT1 ?_
  refine x_iload_n (μ := mu_x25_cell) (pc := 14) 2 dX25_cell_14 rfl ?_
  refine x_iload_n (μ := mu_x25_cell) (pc := 15) 3 dX25_cell_15 rfl ?_
  refine x_if (fun hT4 => ?_)
  refine x_callV_pr (μ := mu_x25_cell) (pc := 16) (ok_x9_of (ω := ω) (l := l) (d := d - 1) hl (by omega) hv1 hv2) gRel_E gRel_E (fun _ q => q) q2520 q2235 q2236 q230 q2237 dX25_cell_16 rfl hT4 hy_x9_of (by omega) (Nat.le_of_ble_eq_true rfl) rfl (Nat.le_of_ble_eq_true rfl) (fun x5 => ?_)
  refine x_astore (μ := mu_x25_cell) (pc := 19) (lv' := [(4, vR x5), (3, vR x3), (0, vR v0), (1, vI v1), (2, vI v2)]) dX25_cell_19 (by decide) rfl ?_
  refine x_aload_n (μ := mu_x25_cell) (pc := 21) 2 dX25_cell_21 rfl ?_
  refine x_fgr (μ := mu_x25_cell) (pc := 22) fX25_1 (by first | exact Or.inl ⟨_, rfl⟩ | exact Or.inr ⟨_, rfl⟩) q2471 dX25_cell_22 hT1 ?_
  refine x_iload_n (μ := mu_x25_cell) (pc := 25) 3 dX25_cell_25 rfl ?_
  refine x_iload_n (μ := mu_x25_cell) (pc := 26) 4 dX25_cell_26 rfl ?_
  refine x_callS_pi (μ := mu_x25_cell) (pc := 27) (ok_x25_hasCell (ω := ω) (l := l) (d := d - 1) hl (by omega) hv1 hv2) gRel_E gRel_E (fun _ q => q) q2570 q2571 q266 q2572 dX25_cell_27 hy_x25_hasCell (by omega) (Nat.le_of_ble_eq_true rfl) rfl (Nat.le_of_ble_eq_true rfl) (fun x6 hr7 => ?_)
  refine x_istore (μ := mu_x25_cell) (pc := 30) (lv' := [(5, vI x6), (4, vR x5), (3, vR x3), (0, vR v0), (1, vI v1), (2, vI v2)]) dX25_cell_30 (by decide) rfl ?_
  refine x_aload_n (μ := mu_x25_cell) (pc := 32) 3 dX25_cell_32 rfl ?_
  refine x_fgr (μ := mu_x25_cell) (pc := 33) fX25_2 (by first | exact Or.inl ⟨_, rfl⟩ | exact Or.inr ⟨_, rfl⟩) q2472 dX25_cell_33 hT1 ?_
  refine x_iload_n (μ := mu_x25_cell) (pc := 36) 4 dX25_cell_36 rfl ?_
  refine x_iload_n (μ := mu_x25_cell) (pc := 37) 5 dX25_cell_37 rfl ?_
  refine x_callS_pi (μ := mu_x25_cell) (pc := 38) (ok_x25_hasCell (ω := ω) (l := l) (d := d - 1) hl (by omega) hv1 hv2) gRel_E gRel_E (fun _ q => q) q2570 q2571 q266 q2572 dX25_cell_38 hy_x25_hasCell (by omega) (Nat.le_of_ble_eq_true rfl) rfl (Nat.le_of_ble_eq_true rfl) (fun x8 hr9 => ?_)
  refine x_istore (μ := mu_x25_cell) (pc := 41) (lv' := [(6, vI x8), (5, vI x6), (4, vR x5), (3, vR x3), (0, vR v0), (1, vI v1), (2, vI v2)]) dX25_cell_41 (by decide) rfl ?_
  refine x_iload (μ := mu_x25_cell) (pc := 43) 1 dX25_cell_43 rfl ?_
  refine x_if_eq (μ := mu_x25_cell) (pc := 45) (tgt := 53) dX25_cell_45 rfl hr7 ?_ ?_
  · refine x_loc (lv' := [(3, vR x3), (4, vR x5), (5, vI x6)]) [3, 2, 1] rfl ?_
    exact okj_x25_cell_j53 hl hdp hr7
  · refine x_iload (μ := mu_x25_cell) (pc := 48) 0 dX25_cell_48 rfl ?_
    refine x_if_ne (μ := mu_x25_cell) (pc := 50) (tgt := 65) dX25_cell_50 rfl hr9 ?_ ?_
    · refine x_aload_n (μ := mu_x25_cell) (pc := 65) 4 dX25_cell_65 rfl ?_
      refine x_fgr (μ := mu_x25_cell) (pc := 66) fX25_0 (by first | exact Or.inl ⟨_, rfl⟩ | exact Or.inr ⟨_, rfl⟩) q2470 dX25_cell_66 hT1 ?_
      refine x_iload_n (μ := mu_x25_cell) (pc := 69) 5 dX25_cell_69 rfl ?_
      refine x_iload_n (μ := mu_x25_cell) (pc := 70) 6 dX25_cell_70 rfl ?_
      refine x_if (fun hT10 => ?_)
      refine x_callV_pr (μ := mu_x25_cell) (pc := 71) (ok_x9_of (ω := ω) (l := l) (d := d - 1) hl (by omega) hv1 hv2) gRel_E gRel_E (fun _ q => q) q2520 q2235 q2236 q230 q2237 dX25_cell_71 rfl hT10 hy_x9_of (by omega) (Nat.le_of_ble_eq_true rfl) rfl (Nat.le_of_ble_eq_true rfl) (fun x11 => ?_)
      refine x_astore (μ := mu_x25_cell) (pc := 74) (lv' := [(7, vR x11), (6, vI x8), (5, vI x6), (4, vR x5), (3, vR x3), (0, vR v0), (1, vI v1), (2, vI v2)]) dX25_cell_74 (by decide) rfl ?_
      refine x_aload (μ := mu_x25_cell) (pc := 76) 3 dX25_cell_76 rfl ?_
      refine x_aload (μ := mu_x25_cell) (pc := 78) 0 dX25_cell_78 rfl ?_
      refine x_callSN_pi (μ := mu_x25_cell) (pc := 80) (ok_x1_isAlike (ω := ω) (l := l) (d := d - 1) hl (by omega) ) gRel_E gRel_E (fun _ q => q) q2521 q1572 q221 q1573 dX25_cell_80 hy_x1_isAlike (by omega) (Nat.le_of_ble_eq_true rfl) rfl (Nat.le_of_ble_eq_true rfl) (fun x12 hr13 => ?_)
      refine x_if_ne (μ := mu_x25_cell) (pc := 83) (tgt := 95) dX25_cell_83 rfl hr13 ?_ ?_
      · refine x_aload_n (μ := mu_x25_cell) (pc := 95) 4 dX25_cell_95 rfl ?_
        exact x_aret (μ := mu_x25_cell) (pc := 96) dX25_cell_96 rfl (by first | exact Or.inl ⟨_, rfl⟩ | exact Or.inr ⟨_, rfl⟩) rfl (gRel_E.1 _) trivial
      · refine x_aload_n (μ := mu_x25_cell) (pc := 86) 4 dX25_cell_86 rfl ?_
        refine x_aload (μ := mu_x25_cell) (pc := 87) 3 dX25_cell_87 rfl ?_
        refine x_callSN_pi (μ := mu_x25_cell) (pc := 89) (ok_x1_isAlike (ω := ω) (l := l) (d := d - 1) hl (by omega) ) gRel_E gRel_E (fun _ q => q) q2521 q1572 q221 q1573 dX25_cell_89 hy_x1_isAlike (by omega) (Nat.le_of_ble_eq_true rfl) rfl (Nat.le_of_ble_eq_true rfl) (fun x14 hr15 => ?_)
        refine x_if_eq (μ := mu_x25_cell) (pc := 92) (tgt := 97) dX25_cell_92 rfl hr15 ?_ ?_
        · refine x_aload_n (μ := mu_x25_cell) (pc := 97) 4 dX25_cell_97 rfl ?_
          refine x_aload (μ := mu_x25_cell) (pc := 98) 0 dX25_cell_98 rfl ?_
          refine x_callSN_pi (μ := mu_x25_cell) (pc := 100) (ok_x1_isAlike (ω := ω) (l := l) (d := d - 1) hl (by omega) ) gRel_E gRel_E (fun _ q => q) q2521 q1572 q221 q1573 dX25_cell_100 hy_x1_isAlike (by omega) (Nat.le_of_ble_eq_true rfl) rfl (Nat.le_of_ble_eq_true rfl) (fun x16 hr17 => ?_)
          refine x_if_eq (μ := mu_x25_cell) (pc := 103) (tgt := 109) dX25_cell_103 rfl hr17 ?_ ?_
          · refine x_aload_n (μ := mu_x25_cell) (pc := 109) 5 dX25_cell_109 rfl ?_
            refine x_iconst (μ := mu_x25_cell) (pc := 110) dX25_cell_110 ?_
            refine x_iload_n (μ := mu_x25_cell) (pc := 111) 6 dX25_cell_111 rfl ?_
            refine x_iload_n (μ := mu_x25_cell) (pc := 112) 7 dX25_cell_112 rfl ?_
            refine x_iconst (μ := mu_x25_cell) (pc := 113) dX25_cell_113 ?_
            refine x_aload_n (μ := mu_x25_cell) (pc := 114) 4 dX25_cell_114 rfl ?_
            refine x_aload (μ := mu_x25_cell) (pc := 115) 3 dX25_cell_115 rfl ?_
            refine x_callV_mv (μ := mu_x25_cell) (pc := 117) (ok_x25_tell (ω := ω) (l := l) (d := d - 1) hl (by omega) (by decide) hv1 hv2 (by decide)) gRel_E gRel_E (fun _ q => q) q2532 q2534 qs71 q266 q2535 dX25_cell_117 rfl hT1 hy_x25_tell (by omega) (Nat.le_of_ble_eq_true rfl) rfl (Nat.le_of_ble_eq_true rfl) (fun x18 k19 => ?_)
            refine x_aload_n (μ := mu_x25_cell) (pc := 120) 4 dX25_cell_120 rfl ?_
            exact x_aret (μ := mu_x25_cell) (pc := 121) dX25_cell_121 rfl (by first | exact Or.inl ⟨_, rfl⟩ | exact Or.inr ⟨_, rfl⟩) rfl (gRel_E.1 _) trivial
          · refine x_aload (μ := mu_x25_cell) (pc := 106) 3 dX25_cell_106 rfl ?_
            exact x_aret (μ := mu_x25_cell) (pc := 108) dX25_cell_108 rfl (by first | exact Or.inl ⟨_, rfl⟩ | exact Or.inr ⟨_, rfl⟩) rfl (gRel_E.1 _) trivial
        · refine x_aload_n (μ := mu_x25_cell) (pc := 95) 4 dX25_cell_95 rfl ?_
          exact x_aret (μ := mu_x25_cell) (pc := 96) dX25_cell_96 rfl (by first | exact Or.inl ⟨_, rfl⟩ | exact Or.inr ⟨_, rfl⟩) rfl (gRel_E.1 _) trivial
    · refine x_loc (lv' := [(3, vR x3), (4, vR x5), (5, vI x6)]) [3, 2, 1] rfl ?_
      exact okj_x25_cell_j53 hl hdp hr7
set_option maxRecDepth 100000 in
def x4_walk_l14 (N : Nat) (v0 : Nat) (K : gMem → Option gMem) : Nat → Int → gMem → Option gMem
  | 0, _, _ => none
  | n + 1, v2, s => if v2 < 0 then K s else if mT s v0 = 4 then if mT s (mR s v0 5) = 100 then if 0 ≤ v2 ∧ v2 < (mN s (mR s v0 5) : Int) then if mT s (mR s v0 4) = 100 then if 0 ≤ (mI s (mR s v0 5) v2.toNat) ∧ (mI s (mR s v0 5) v2.toNat) < (mN s (mR s v0 4) : Int) then (x4_first N v0 (mI s (mR s v0 5) v2.toNat) (mI s (mR s v0 4) (mI s (mR s v0 5) v2.toNat).toNat) s).bind (fun x12 => if x12 ≠ (-1) then if 0 ≤ (mI s (mR s v0 5) v2.toNat) ∧ (mI s (mR s v0 5) v2.toNat) < (mN s (mR s v0 4) : Int) then gLet (wI s (mR s v0 4) (mI s (mR s v0 5) v2.toNat).toNat (w32 (x12 + 1))) (fun s14 => if mT s14 (mR s14 v0 2) = 100 then if 0 ≤ x12 ∧ x12 < (mN s14 (mR s14 v0 2) : Int) then if mI s14 (mR s14 v0 2) x12.toNat ≠ (-1) then if mT s14 (mR s14 v0 7) = 103 then if 0 ≤ x12 ∧ x12 < (mN s14 (mR s14 v0 7) : Int) then if mI s14 (mR s14 v0 7) x12.toNat = 0 then x4_walk_l14 N v0 K n v2 s14 else if mT s14 (mR s14 v0 3) = 100 then if 0 ≤ (mI s (mR s v0 5) v2.toNat) ∧ (mI s (mR s v0 5) v2.toNat) < (mN s14 (mR s14 v0 3) : Int) then if 0 ≤ x12 ∧ x12 < (mN s14 (mR s14 v0 2) : Int) then if 0 ≤ (mI s (mR s v0 5) v2.toNat) ∧ (mI s (mR s v0 5) v2.toNat) < (mN s14 (mR s14 v0 3) : Int) then gLet (wI s14 (mR s14 v0 3) (mI s (mR s v0 5) v2.toNat).toNat (w32 (if (mI s14 (mR s14 v0 2) x12.toNat) < (mI s14 (mR s14 v0 3) (mI s (mR s v0 5) v2.toNat).toNat) then (mI s14 (mR s14 v0 2) x12.toNat) else (mI s14 (mR s14 v0 3) (mI s (mR s v0 5) v2.toNat).toNat)))) (fun s23 => x4_walk_l14 N v0 K n v2 s23) else none else none else none else none else none else none else if mT s14 (mR s14 v0 5) = 100 then if 0 ≤ (w32 (v2 + 1)) ∧ (w32 (v2 + 1)) < (mN s14 (mR s14 v0 5) : Int) then gLet (wI s14 (mR s14 v0 5) (w32 (v2 + 1)).toNat x12) (fun s26 => (x4_meet v0 x12 s26).bind (fun x28 => x4_walk_l14 N v0 K n (w32 (v2 + 1)) x28)) else none else none else none else none) else none else (x4_leave N v0 (mI s (mR s v0 5) v2.toNat) s).bind (fun x30 => if w32 (v2 + (-1)) < 0 then x4_walk_l14 N v0 K n (w32 (v2 + (-1))) x30 else if mT x30 (mR x30 v0 5) = 100 then if 0 ≤ (w32 (v2 + (-1))) ∧ (w32 (v2 + (-1))) < (mN x30 (mR x30 v0 5) : Int) then if 0 ≤ (w32 (v2 + (-1))) ∧ (w32 (v2 + (-1))) < (mN x30 (mR x30 v0 5) : Int) then if mT x30 (mR x30 v0 3) = 100 then if 0 ≤ (mI x30 (mR x30 v0 5) (w32 (v2 + (-1))).toNat) ∧ (mI x30 (mR x30 v0 5) (w32 (v2 + (-1))).toNat) < (mN x30 (mR x30 v0 3) : Int) then if 0 ≤ (mI s (mR s v0 5) v2.toNat) ∧ (mI s (mR s v0 5) v2.toNat) < (mN x30 (mR x30 v0 3) : Int) then if 0 ≤ (mI x30 (mR x30 v0 5) (w32 (v2 + (-1))).toNat) ∧ (mI x30 (mR x30 v0 5) (w32 (v2 + (-1))).toNat) < (mN x30 (mR x30 v0 3) : Int) then gLet (wI x30 (mR x30 v0 3) (mI x30 (mR x30 v0 5) (w32 (v2 + (-1))).toNat).toNat (w32 (if (mI x30 (mR x30 v0 3) (mI s (mR s v0 5) v2.toNat).toNat) < (mI x30 (mR x30 v0 3) (mI x30 (mR x30 v0 5) (w32 (v2 + (-1))).toNat).toNat) then (mI x30 (mR x30 v0 3) (mI s (mR s v0 5) v2.toNat).toNat) else (mI x30 (mR x30 v0 3) (mI x30 (mR x30 v0 5) (w32 (v2 + (-1))).toNat).toNat)))) (fun s38 => x4_walk_l14 N v0 K n (w32 (v2 + (-1))) s38) else none else none else none else none else none else none else none)) else none else none else none else none else none
set_option maxRecDepth 100000 in
theorem okl_x4_walk_l14 {ω : gW} {l : Launch} {d : Nat} {N : Nat} {σ0 : gMem} {v0 : Nat} {K : gMem → Option gMem} (hl : l.stackTraces = false) (hdp : 3 ≤ d) (hK : ∀ (s : gMem) , GG (fun p : gMem => (.inl none, p)) gE ω l d mu_x4_walk σ0 166 [] [] s (K s)) : ∀ (n : Nat) (v2 : Int) (s : gMem) , g32 v2 → GG (fun p : gMem => (.inl none, p)) gE ω l d mu_x4_walk σ0 14 [(0, vR v0), (2, vI v2)] [] s (x4_walk_l14 N v0 K n v2 s) := by
  intro n
  induction n with
  | zero => intros; exact x_none
  | succ n ih =>
    intro v2 s hv2
    unfold x4_walk_l14
    refine x_iload_n (μ := mu_x4_walk) (pc := 14) 1 dX4_walk_14 rfl ?_
    refine x_if_lt (μ := mu_x4_walk) (pc := 15) (tgt := 166) dX4_walk_15 rfl hv2 ?_ ?_
    · refine x_loc (lv' := []) [] rfl ?_
      exact hK s
    · refine x_aload_n (μ := mu_x4_walk) (pc := 18) 0 dX4_walk_18 rfl ?_
      refine x_if (fun hT7 => ?_)
      refine x_fgr (μ := mu_x4_walk) (pc := 19) fX4_5 (by first | exact Or.inl ⟨_, rfl⟩ | exact Or.inr ⟨_, rfl⟩) q326 dX4_walk_19 hT7 ?_
      refine x_iload_n (μ := mu_x4_walk) (pc := 22) 1 dX4_walk_22 rfl ?_
      refine x_if (fun hT8 => ?_)
      refine x_iald (μ := mu_x4_walk) (pc := 23) dX4_walk_23 hT8 rfl (fun hr9 => ?_)
      refine x_istore_n (μ := mu_x4_walk) (pc := 24) (lv' := [(3, vI (mI s (mR s v0 5) v2.toNat)), (0, vR v0), (2, vI v2)]) dX4_walk_24 rfl (by decide) rfl ?_
      refine x_aload_n (μ := mu_x4_walk) (pc := 25) 1 dX4_walk_25 rfl ?_
      refine x_iload_n (μ := mu_x4_walk) (pc := 26) 0 dX4_walk_26 rfl ?_
      refine x_aload_n (μ := mu_x4_walk) (pc := 27) 1 dX4_walk_27 rfl ?_
      refine x_fgr (μ := mu_x4_walk) (pc := 28) fX4_4 (by first | exact Or.inl ⟨_, rfl⟩ | exact Or.inr ⟨_, rfl⟩) q325 dX4_walk_28 hT7 ?_
      refine x_iload_n (μ := mu_x4_walk) (pc := 31) 0 dX4_walk_31 rfl ?_
      refine x_if (fun hT10 => ?_)
      refine x_iald (μ := mu_x4_walk) (pc := 32) dX4_walk_32 hT10 rfl (fun hr11 => ?_)
      refine x_callV_pi (μ := mu_x4_walk) (pc := 33) (ok_x4_first (ω := ω) (l := l) (d := d - 1) hl (by omega) hr9 hr11) gRel_E gRel_E (fun _ q => q) q944 q946 qs11 q224 q947 dX4_walk_33 rfl hT7 hy_x4_first (by omega) (Nat.le_of_ble_eq_true rfl) rfl (Nat.le_of_ble_eq_true rfl) (fun x12 hr13 => ?_)
      refine x_istore (μ := mu_x4_walk) (pc := 36) (lv' := [(4, vI x12), (3, vI (mI s (mR s v0 5) v2.toNat)), (0, vR v0), (2, vI v2)]) dX4_walk_36 (by decide) rfl ?_
      refine x_iload (μ := mu_x4_walk) (pc := 38) 0 dX4_walk_38 rfl ?_
      refine x_iconst (μ := mu_x4_walk) (pc := 40) dX4_walk_40 ?_
      refine x_icmp_ne (μ := mu_x4_walk) (pc := 41) (tgt := 90) dX4_walk_41 rfl hr13 (by decide) ?_ ?_
      · refine x_aload_n (μ := mu_x4_walk) (pc := 90) 2 dX4_walk_90 rfl ?_
        refine x_fgr (μ := mu_x4_walk) (pc := 91) fX4_4 (by first | exact Or.inl ⟨_, rfl⟩ | exact Or.inr ⟨_, rfl⟩) q325 dX4_walk_91 hT7 ?_
        refine x_iload_n (μ := mu_x4_walk) (pc := 94) 1 dX4_walk_94 rfl ?_
        refine x_iload (μ := mu_x4_walk) (pc := 95) 0 dX4_walk_95 rfl ?_
        refine x_iconst (μ := mu_x4_walk) (pc := 97) dX4_walk_97 ?_
        refine x_iadd (μ := mu_x4_walk) (pc := 98) dX4_walk_98 ?_
        refine x_w1 ?_
        refine x_iast (μ := mu_x4_walk) (pc := 99) dX4_walk_99 hT10 rfl (fun _ _ q => gE_wI q) ?_
        refine x_let (fun s14 e15 => ?_)
        refine x_aload_n (μ := mu_x4_walk) (pc := 100) 2 dX4_walk_100 rfl ?_
        refine x_fgr (μ := mu_x4_walk) (pc := 101) fX4_2 (by first | exact Or.inl ⟨_, rfl⟩ | exact Or.inr ⟨_, rfl⟩) q323 dX4_walk_101 (gT_I e15 hT7) ?_
        refine x_iload (μ := mu_x4_walk) (pc := 104) 0 dX4_walk_104 rfl ?_
        refine x_if (fun hT16 => ?_)
        refine x_iald (μ := mu_x4_walk) (pc := 106) dX4_walk_106 hT16 rfl (fun hr17 => ?_)
        refine x_iconst (μ := mu_x4_walk) (pc := 107) dX4_walk_107 ?_
        refine x_icmp_ne (μ := mu_x4_walk) (pc := 108) (tgt := 131) dX4_walk_108 rfl hr17 (by decide) ?_ ?_
        · refine x_aload_n (μ := mu_x4_walk) (pc := 131) 2 dX4_walk_131 rfl ?_
          refine x_fgr (μ := mu_x4_walk) (pc := 132) fX4_7 (by first | exact Or.inl ⟨_, rfl⟩ | exact Or.inr ⟨_, rfl⟩) q328 dX4_walk_132 (gT_I e15 hT7) ?_
          refine x_iload (μ := mu_x4_walk) (pc := 135) 0 dX4_walk_135 rfl ?_
          refine x_if (fun hT18 => ?_)
          refine x_zald (μ := mu_x4_walk) (pc := 137) dX4_walk_137 hT18 rfl (fun hr19 => ?_)
          refine x_if_eq (μ := mu_x4_walk) (pc := 138) (tgt := 163) dX4_walk_138 rfl hr19 ?_ ?_
          · refine x_goto (μ := mu_x4_walk) (pc := 163) (tgt := 14) dX4_walk_163 rfl ?_
            refine x_loc (lv' := [(0, vR v0), (2, vI v2)]) [2, 3] rfl ?_
            exact ih v2 s14 hv2
          · refine x_aload_n (μ := mu_x4_walk) (pc := 141) 2 dX4_walk_141 rfl ?_
            refine x_fgr (μ := mu_x4_walk) (pc := 142) fX4_3 (by first | exact Or.inl ⟨_, rfl⟩ | exact Or.inr ⟨_, rfl⟩) q324 dX4_walk_142 (gT_I e15 hT7) ?_
            refine x_iload_n (μ := mu_x4_walk) (pc := 145) 1 dX4_walk_145 rfl ?_
            refine x_aload_n (μ := mu_x4_walk) (pc := 146) 2 dX4_walk_146 rfl ?_
            refine x_fgr (μ := mu_x4_walk) (pc := 147) fX4_3 (by first | exact Or.inl ⟨_, rfl⟩ | exact Or.inr ⟨_, rfl⟩) q324 dX4_walk_147 (gT_I e15 hT7) ?_
            refine x_iload_n (μ := mu_x4_walk) (pc := 150) 1 dX4_walk_150 rfl ?_
            refine x_if (fun hT20 => ?_)
            refine x_iald (μ := mu_x4_walk) (pc := 151) dX4_walk_151 hT20 rfl (fun hr21 => ?_)
            refine x_aload_n (μ := mu_x4_walk) (pc := 152) 2 dX4_walk_152 rfl ?_
            refine x_fgr (μ := mu_x4_walk) (pc := 153) fX4_2 (by first | exact Or.inl ⟨_, rfl⟩ | exact Or.inr ⟨_, rfl⟩) q323 dX4_walk_153 (gT_I e15 hT7) ?_
            refine x_iload (μ := mu_x4_walk) (pc := 156) 0 dX4_walk_156 rfl ?_
            refine x_iald (μ := mu_x4_walk) (pc := 158) dX4_walk_158 hT16 rfl (fun hr22 => ?_)
            refine x_mmin (μ := mu_x4_walk) (pc := 159) q963 dX4_walk_159 hr21 hr22 (by omega) (Nat.le_of_ble_eq_true rfl) ?_
            refine x_w1 ?_
            refine x_iast (μ := mu_x4_walk) (pc := 162) dX4_walk_162 hT20 rfl (fun _ _ q => gE_wI q) ?_
            refine x_let (fun s23 e24 => ?_)
            refine x_goto (μ := mu_x4_walk) (pc := 163) (tgt := 14) dX4_walk_163 rfl ?_
            refine x_loc (lv' := [(0, vR v0), (2, vI v2)]) [2, 3] rfl ?_
            exact ih v2 s23 hv2
        · refine x_iincw (μ := mu_x4_walk) (pc := 111) (lv' := [(2, vI (w32 (v2 + 1))), (4, vI x12), (3, vI (mI s (mR s v0 5) v2.toNat)), (0, vR v0)]) 3 dX4_walk_111 rfl (by decide) rfl ?_
          refine x_aload_n (μ := mu_x4_walk) (pc := 114) 3 dX4_walk_114 rfl ?_
          refine x_fgr (μ := mu_x4_walk) (pc := 115) fX4_5 (by first | exact Or.inl ⟨_, rfl⟩ | exact Or.inr ⟨_, rfl⟩) q326 dX4_walk_115 (gT_I e15 hT7) ?_
          refine x_iload_n (μ := mu_x4_walk) (pc := 118) 0 dX4_walk_118 rfl ?_
          refine x_iload (μ := mu_x4_walk) (pc := 119) 1 dX4_walk_119 rfl ?_
          refine x_if (fun hT25 => ?_)
          refine x_iast (μ := mu_x4_walk) (pc := 121) dX4_walk_121 hT25 rfl (fun _ _ q => gE_wI q) ?_
          refine x_let (fun s26 e27 => ?_)
          refine x_aload_n (μ := mu_x4_walk) (pc := 122) 3 dX4_walk_122 rfl ?_
          refine x_iload (μ := mu_x4_walk) (pc := 123) 1 dX4_walk_123 rfl ?_
          refine x_callV_mv (μ := mu_x4_walk) (pc := 125) (ok_x4_meet (ω := ω) (l := l) (d := d - 1) hl (by omega) hr13) gRel_E gRel_E (fun _ q => q) q940 q942 qs10 q224 q943 dX4_walk_125 rfl (gT_I e27 (gT_I e15 hT7)) hy_x4_meet (by omega) (Nat.le_of_ble_eq_true rfl) rfl (Nat.le_of_ble_eq_true rfl) (fun x28 k29 => ?_)
          refine x_goto (μ := mu_x4_walk) (pc := 128) (tgt := 163) dX4_walk_128 rfl ?_
          refine x_goto (μ := mu_x4_walk) (pc := 163) (tgt := 14) dX4_walk_163 rfl ?_
          refine x_loc (lv' := [(0, vR v0), (2, vI (w32 (v2 + 1)))]) [3, 0] rfl ?_
          exact ih (w32 (v2 + 1)) x28 (w32_rng _)
      · refine x_aload_n (μ := mu_x4_walk) (pc := 44) 2 dX4_walk_44 rfl ?_
        refine x_iload_n (μ := mu_x4_walk) (pc := 45) 1 dX4_walk_45 rfl ?_
        refine x_callV_mv (μ := mu_x4_walk) (pc := 46) (ok_x4_leave (ω := ω) (l := l) (d := d - 1) hl (by omega) hr9) gRel_E gRel_E (fun _ q => q) q955 q957 qs12 q224 q958 dX4_walk_46 rfl hT7 hy_x4_leave (by omega) (Nat.le_of_ble_eq_true rfl) rfl (Nat.le_of_ble_eq_true rfl) (fun x30 k31 => ?_)
        refine x_iincw (μ := mu_x4_walk) (pc := 49) (lv' := [(2, vI (w32 (v2 + (-1)))), (4, vI x12), (3, vI (mI s (mR s v0 5) v2.toNat)), (0, vR v0)]) 3 dX4_walk_49 rfl (by decide) rfl ?_
        refine x_iload_n (μ := mu_x4_walk) (pc := 52) 0 dX4_walk_52 rfl ?_
        refine x_if_lt (μ := mu_x4_walk) (pc := 53) (tgt := 14) dX4_walk_53 rfl (w32_rng _) ?_ ?_
        · refine x_loc (lv' := [(0, vR v0), (2, vI (w32 (v2 + (-1))))]) [3, 0] rfl ?_
          exact ih (w32 (v2 + (-1))) x30 (w32_rng _)
        · refine x_aload_n (μ := mu_x4_walk) (pc := 56) 3 dX4_walk_56 rfl ?_
          refine x_fgr (μ := mu_x4_walk) (pc := 57) fX4_3 (by first | exact Or.inl ⟨_, rfl⟩ | exact Or.inr ⟨_, rfl⟩) q324 dX4_walk_57 (gT_E k31 hT7 (by decide)) ?_
          refine x_aload_n (μ := mu_x4_walk) (pc := 60) 3 dX4_walk_60 rfl ?_
          refine x_fgr (μ := mu_x4_walk) (pc := 61) fX4_5 (by first | exact Or.inl ⟨_, rfl⟩ | exact Or.inr ⟨_, rfl⟩) q326 dX4_walk_61 (gT_E k31 hT7 (by decide)) ?_
          refine x_iload_n (μ := mu_x4_walk) (pc := 64) 0 dX4_walk_64 rfl ?_
          refine x_if (fun hT32 => ?_)
          refine x_iald (μ := mu_x4_walk) (pc := 65) dX4_walk_65 hT32 rfl (fun hr33 => ?_)
          refine x_aload_n (μ := mu_x4_walk) (pc := 66) 3 dX4_walk_66 rfl ?_
          refine x_fgr (μ := mu_x4_walk) (pc := 67) fX4_3 (by first | exact Or.inl ⟨_, rfl⟩ | exact Or.inr ⟨_, rfl⟩) q324 dX4_walk_67 (gT_E k31 hT7 (by decide)) ?_
          refine x_aload_n (μ := mu_x4_walk) (pc := 70) 3 dX4_walk_70 rfl ?_
          refine x_fgr (μ := mu_x4_walk) (pc := 71) fX4_5 (by first | exact Or.inl ⟨_, rfl⟩ | exact Or.inr ⟨_, rfl⟩) q326 dX4_walk_71 (gT_E k31 hT7 (by decide)) ?_
          refine x_iload_n (μ := mu_x4_walk) (pc := 74) 0 dX4_walk_74 rfl ?_
          refine x_iald (μ := mu_x4_walk) (pc := 75) dX4_walk_75 hT32 rfl (fun hr34 => ?_)
          refine x_if (fun hT35 => ?_)
          refine x_iald (μ := mu_x4_walk) (pc := 76) dX4_walk_76 hT35 rfl (fun hr36 => ?_)
          refine x_aload_n (μ := mu_x4_walk) (pc := 77) 3 dX4_walk_77 rfl ?_
          refine x_fgr (μ := mu_x4_walk) (pc := 78) fX4_3 (by first | exact Or.inl ⟨_, rfl⟩ | exact Or.inr ⟨_, rfl⟩) q324 dX4_walk_78 (gT_E k31 hT7 (by decide)) ?_
          refine x_iload_n (μ := mu_x4_walk) (pc := 81) 2 dX4_walk_81 rfl ?_
          refine x_iald (μ := mu_x4_walk) (pc := 82) dX4_walk_82 hT35 rfl (fun hr37 => ?_)
          refine x_mmin (μ := mu_x4_walk) (pc := 83) q963 dX4_walk_83 hr36 hr37 (by omega) (Nat.le_of_ble_eq_true rfl) ?_
          refine x_w1 ?_
          refine x_iast (μ := mu_x4_walk) (pc := 86) dX4_walk_86 hT35 rfl (fun _ _ q => gE_wI q) ?_
          refine x_let (fun s38 e39 => ?_)
          refine x_goto (μ := mu_x4_walk) (pc := 87) (tgt := 14) dX4_walk_87 rfl ?_
          refine x_loc (lv' := [(0, vR v0), (2, vI (w32 (v2 + (-1))))]) [3, 0] rfl ?_
          exact ih (w32 (v2 + (-1))) s38 (w32_rng _)
def x4_walk (N : Nat) (v0 : Nat) (v1 : Int) (σ : gMem) : Option gMem := if mT σ v0 = 4 then if mT σ (mR σ v0 5) = 100 then if 0 ≤ (0 : Int) ∧ (0 : Int) < (mN σ (mR σ v0 5) : Int) then gLet (wI σ (mR σ v0 5) (0 : Int).toNat v1) (fun s3 => (x4_meet v0 v1 s3).bind (fun x5 => x4_walk_l14 N v0 (fun s40 => some s40) N 0 x5)) else none else none else none
set_option maxRecDepth 100000 in
theorem ok_x4_walk {ω : gW} {l : Launch} {d : Nat} {N : Nat} {σ : gMem} {v0 : Nat} {v1 : Int} (hl : l.stackTraces = false) (hdp : 3 ≤ d) (hv1 : g32 v1) : gK (fun p : gMem => (.inl none, p)) gE ω l d mu_x4_walk [vR v0, vI v1] σ (x4_walk N v0 v1 σ) := by
  refine gK.of hp_X4 (Nat.le_of_ble_eq_true rfl) ?_
  unfold x4_walk
  refine x_iconst (μ := mu_x4_walk) (pc := 0) dX4_walk_0 ?_
  refine x_istore_n (μ := mu_x4_walk) (pc := 1) (lv' := [(2, vI 0), (0, vR v0), (1, vI v1)]) dX4_walk_1 rfl (by decide) rfl ?_
  refine x_aload_n (μ := mu_x4_walk) (pc := 2) 1 dX4_walk_2 rfl ?_
  refine x_if (fun hT1 => ?_)
  refine x_fgr (μ := mu_x4_walk) (pc := 3) fX4_5 (by first | exact Or.inl ⟨_, rfl⟩ | exact Or.inr ⟨_, rfl⟩) q326 dX4_walk_3 hT1 ?_
  refine x_iconst (μ := mu_x4_walk) (pc := 6) dX4_walk_6 ?_
  refine x_iload_n (μ := mu_x4_walk) (pc := 7) 2 dX4_walk_7 rfl ?_
  refine x_if (fun hT2 => ?_)
  refine x_iast (μ := mu_x4_walk) (pc := 8) dX4_walk_8 hT2 rfl (fun _ _ q => gE_wI q) ?_
  refine x_let (fun s3 e4 => ?_)
  refine x_aload_n (μ := mu_x4_walk) (pc := 9) 1 dX4_walk_9 rfl ?_
  refine x_iload_n (μ := mu_x4_walk) (pc := 10) 2 dX4_walk_10 rfl ?_
  refine x_callV_mv (μ := mu_x4_walk) (pc := 11) (ok_x4_meet (ω := ω) (l := l) (d := d - 1) hl (by omega) hv1) gRel_E gRel_E (fun _ q => q) q940 q942 qs10 q224 q943 dX4_walk_11 rfl (gT_I e4 hT1) hy_x4_meet (by omega) (Nat.le_of_ble_eq_true rfl) rfl (Nat.le_of_ble_eq_true rfl) (fun x5 k6 => ?_)
  refine x_loc (lv' := [(0, vR v0), (2, vI 0)]) [1, 0] rfl ?_
  refine okl_x4_walk_l14 hl hdp (fun s40 => ?_) N 0 x5 (by decide)
  exact x_vret (μ := mu_x4_walk) (pc := 166) (a1 := s40) dX4_walk_166 rfl rfl (gRel_E.1 _) trivial
def x6_sum_l10_j48 (N : Nat) (W : Nat → gMem → Option gR) (v0 : Nat) (v1 : Nat) (t0 : Nat) (t1 : Nat) (Kh : Nat → Int → gMem → Option gR) (K : Nat → gMem → Option gR) (s : gMem) : Option gR := if mT s v0 = 6 then (x6_product N W v0 s).bind (fun p => gThrR p (fun x13 s15 => if mT s15 t1 = 6 then (x6_two t1 t0 v1 x13 s15).bind (fun x17 => (x6_peek N v0 (x17.2)).bind (fun x19 => Kh (x17.1) (x19.1) (x19.2))) else none)) else none
set_option maxRecDepth 100000 in
theorem okj_x6_sum_l10_j48 {ω : gW} {l : Launch} {d : Nat} {N : Nat} {W : Nat → gMem → Option gR} {dW : Nat} {σ0 : gMem} {s : gMem} {v0 : Nat} {v1 : Nat} {t0 : Nat} {t1 : Nat} {Kh : Nat → Int → gMem → Option gR} {K : Nat → gMem → Option gR} (hl : l.stackTraces = false) (hW : ∀ (a0 : Nat) (s : gMem), gK (fun p : gR => p) gE ω l dW mu_x6_sign [vR a0] s (W a0 s)) (hdp : 5 ≤ d) (hdw : dW + 2 ≤ d) (hKh : ∀ (v1 : Nat) (v2 : Int) (s : gMem) , g32 v2 → GG (fun p : gR => p) gE ω l d mu_x6_sum σ0 10 [(0, vR v0), (1, vR v1), (2, vI v2)] [] s (Kh v1 v2 s)) (hK : ∀ (v1 : Nat) (s : gMem) , GG (fun p : gR => p) gE ω l d mu_x6_sum σ0 65 [(1, vR v1)] [] s (K v1 s)) : GG (fun p : gR => p) gE ω l d mu_x6_sum σ0 48 [(0, vR v0), (1, vR v1)] [vR t0, vR t1] s (x6_sum_l10_j48 N W v0 v1 t0 t1 Kh K s) := by
  unfold x6_sum_l10_j48
  refine x_aload_n (μ := mu_x6_sum) (pc := 48) 1 dX6_sum_48 rfl ?_
  refine x_aload_n (μ := mu_x6_sum) (pc := 49) 0 dX6_sum_49 rfl ?_
  refine x_if (fun hT12 => ?_)
  refine x_callV_xr (μ := mu_x6_sum) (pc := 50) (ok_x6_product (ω := ω) (l := l) (d := d - 1) hl hW (by omega) (by omega) ) q1803 q1805 qs32 q226 q1806 dX6_sum_50 rfl hT12 hy_x6_product (by omega) (Nat.le_of_ble_eq_true rfl) rfl (Nat.le_of_ble_eq_true rfl) (by decide) (fun x13 s15 k14 => ?_)
  refine x_if (fun hT16 => ?_)
  refine x_callV_mr (μ := mu_x6_sum) (pc := 53) (ok_x6_two (ω := ω) (l := l) (d := d - 1) hl (by omega) ) gRel_E gRel_E (fun _ q => q) q2062 q2064 qs57 q226 q2065 dX6_sum_53 rfl hT16 hy_x6_two (by omega) (Nat.le_of_ble_eq_true rfl) rfl (Nat.le_of_ble_eq_true rfl) (fun x17 k18 => ?_)
  refine x_astore_n (μ := mu_x6_sum) (pc := 56) (lv' := [(1, vR (x17.1)), (0, vR v0)]) dX6_sum_56 rfl (by decide) rfl ?_
  refine x_aload_n (μ := mu_x6_sum) (pc := 57) 1 dX6_sum_57 rfl ?_
  refine x_callV_mi (μ := mu_x6_sum) (pc := 58) (ok_x6_peek (ω := ω) (l := l) (d := d - 1) hl (by omega) ) gRel_E gRel_E (fun _ q => q) q1811 q1813 qs34 q226 q1814 dX6_sum_58 rfl (gT_E k18 (gT_E k14 hT12 (by decide)) (by decide)) hy_x6_peek (by omega) (Nat.le_of_ble_eq_true rfl) rfl (Nat.le_of_ble_eq_true rfl) (fun x19 k21 hr20 => ?_)
  refine x_istore_n (μ := mu_x6_sum) (pc := 61) (lv' := [(2, vI (x19.1)), (1, vR (x17.1)), (0, vR v0)]) dX6_sum_61 rfl (by decide) rfl ?_
  refine x_goto (μ := mu_x6_sum) (pc := 62) (tgt := 10) dX6_sum_62 rfl ?_
  refine x_loc (lv' := [(0, vR v0), (1, vR (x17.1)), (2, vI (x19.1))]) [2, 1, 0] rfl ?_
  exact hKh (x17.1) (x19.1) (x19.2) hr20
def x6_sum_l10_j22 (N : Nat) (W : Nat → gMem → Option gR) (v0 : Nat) (v1 : Nat) (v2 : Int) (Kh : Nat → Int → gMem → Option gR) (K : Nat → gMem → Option gR) (s : gMem) : Option gR := if mT s v0 = 6 then gLet (wI s v0 6 (w32 ((mI s v0 6) + 1))) (fun s10 => if v2 ≠ 43 then x6_sum_l10_j48 N W v0 v1 (mR s10 0 28) v0 (Kh) K s10 else x6_sum_l10_j48 N W v0 v1 (mR s10 0 27) v0 (Kh) K s10) else none
set_option maxRecDepth 100000 in
theorem okj_x6_sum_l10_j22 {ω : gW} {l : Launch} {d : Nat} {N : Nat} {W : Nat → gMem → Option gR} {dW : Nat} {σ0 : gMem} {s : gMem} {v0 : Nat} {v1 : Nat} {v2 : Int} {Kh : Nat → Int → gMem → Option gR} {K : Nat → gMem → Option gR} (hl : l.stackTraces = false) (hW : ∀ (a0 : Nat) (s : gMem), gK (fun p : gR => p) gE ω l dW mu_x6_sign [vR a0] s (W a0 s)) (hdp : 5 ≤ d) (hdw : dW + 2 ≤ d) (hv2 : g32 v2) (hKh : ∀ (v1 : Nat) (v2 : Int) (s : gMem) , g32 v2 → GG (fun p : gR => p) gE ω l d mu_x6_sum σ0 10 [(0, vR v0), (1, vR v1), (2, vI v2)] [] s (Kh v1 v2 s)) (hK : ∀ (v1 : Nat) (s : gMem) , GG (fun p : gR => p) gE ω l d mu_x6_sum σ0 65 [(1, vR v1)] [] s (K v1 s)) : GG (fun p : gR => p) gE ω l d mu_x6_sum σ0 22 [(0, vR v0), (1, vR v1), (2, vI v2)] [] s (x6_sum_l10_j22 N W v0 v1 v2 Kh K s) := by
  unfold x6_sum_l10_j22
  refine x_aload_n (μ := mu_x6_sum) (pc := 22) 0 dX6_sum_22 rfl ?_
  refine x_dup (μ := mu_x6_sum) (pc := 23) dX6_sum_23 rfl ?_
  refine x_if (fun hT8 => ?_)
  refine x_fgi (μ := mu_x6_sum) (pc := 24) fX6_6 q487 dX6_sum_24 hT8 (fun hr9 => ?_)
  refine x_iconst (μ := mu_x6_sum) (pc := 27) dX6_sum_27 ?_
  refine x_iadd (μ := mu_x6_sum) (pc := 28) dX6_sum_28 ?_
  refine x_w1 ?_
  refine x_fpi (μ := mu_x6_sum) (pc := 29) fX6_6 q487 dX6_sum_29 hT8 (fun _ q => gE_wI q) ?_
  refine x_let (fun s10 e11 => ?_)
  refine x_aload_n (μ := mu_x6_sum) (pc := 32) 0 dX6_sum_32 rfl ?_
  refine x_iload_n (μ := mu_x6_sum) (pc := 33) 2 dX6_sum_33 rfl ?_
  refine x_bipush (μ := mu_x6_sum) (pc := 34) dX6_sum_34 (by decide) ?_
  refine x_icmp_ne (μ := mu_x6_sum) (pc := 36) (tgt := 45) dX6_sum_36 rfl hv2 (by decide) ?_ ?_
  · refine x_gst (μ := mu_x6_sum) (pc := 45) (j := 28) (List.mem_of_getElem? (i := 26) rfl) q2084 dX6_sum_45 ?_
    refine x_loc (lv' := [(0, vR v0), (1, vR v1)]) [0, 1] rfl ?_
    exact okj_x6_sum_l10_j48 hl hW hdp hdw hKh hK
  · refine x_gst (μ := mu_x6_sum) (pc := 39) (j := 27) (List.mem_of_getElem? (i := 25) rfl) q2082 dX6_sum_39 ?_
    refine x_goto (μ := mu_x6_sum) (pc := 42) (tgt := 48) dX6_sum_42 rfl ?_
    refine x_loc (lv' := [(0, vR v0), (1, vR v1)]) [0, 1] rfl ?_
    exact okj_x6_sum_l10_j48 hl hW hdp hdw hKh hK
def x6_sum_l10 (N : Nat) (W : Nat → gMem → Option gR) (v0 : Nat) (K : Nat → gMem → Option gR) : Nat → Nat → Int → gMem → Option gR
  | 0, _, _, _ => none
  | n + 1, v1, v2, s => if v2 = 43 then x6_sum_l10_j22 N W v0 v1 v2  (x6_sum_l10 N W v0 K n) K s else if v2 ≠ 45 then K v1 s else x6_sum_l10_j22 N W v0 v1 v2  (x6_sum_l10 N W v0 K n) K s
set_option maxRecDepth 100000 in
theorem okl_x6_sum_l10 {ω : gW} {l : Launch} {d : Nat} {N : Nat} {W : Nat → gMem → Option gR} {dW : Nat} {σ0 : gMem} {v0 : Nat} {K : Nat → gMem → Option gR} (hl : l.stackTraces = false) (hW : ∀ (a0 : Nat) (s : gMem), gK (fun p : gR => p) gE ω l dW mu_x6_sign [vR a0] s (W a0 s)) (hdp : 5 ≤ d) (hdw : dW + 2 ≤ d) (hK : ∀ (v1 : Nat) (s : gMem) , GG (fun p : gR => p) gE ω l d mu_x6_sum σ0 65 [(1, vR v1)] [] s (K v1 s)) : ∀ (n : Nat) (v1 : Nat) (v2 : Int) (s : gMem) , g32 v2 → GG (fun p : gR => p) gE ω l d mu_x6_sum σ0 10 [(0, vR v0), (1, vR v1), (2, vI v2)] [] s (x6_sum_l10 N W v0 K n v1 v2 s) := by
  intro n
  induction n with
  | zero => intros; exact x_none
  | succ n ih =>
    intro v1 v2 s hv2
    unfold x6_sum_l10
    refine x_iload_n (μ := mu_x6_sum) (pc := 10) 2 dX6_sum_10 rfl ?_
    refine x_bipush (μ := mu_x6_sum) (pc := 11) dX6_sum_11 (by decide) ?_
    refine x_icmp_eq (μ := mu_x6_sum) (pc := 13) (tgt := 22) dX6_sum_13 rfl hv2 (by decide) ?_ ?_
    · exact okj_x6_sum_l10_j22 hl hW hdp hdw hv2 ih hK
    · refine x_iload_n (μ := mu_x6_sum) (pc := 16) 2 dX6_sum_16 rfl ?_
      refine x_bipush (μ := mu_x6_sum) (pc := 17) dX6_sum_17 (by decide) ?_
      refine x_icmp_ne (μ := mu_x6_sum) (pc := 19) (tgt := 65) dX6_sum_19 rfl hv2 (by decide) ?_ ?_
      · refine x_loc (lv' := [(1, vR v1)]) [1] rfl ?_
        exact hK v1 s
      · exact okj_x6_sum_l10_j22 hl hW hdp hdw hv2 ih hK
def x6_sum (N : Nat) (W : Nat → gMem → Option gR) (v0 : Nat) (σ : gMem) : Option gR := if mT σ v0 = 6 then (x6_product N W v0 σ).bind (fun p => gThrR p (fun x2 s4 => (x6_peek N v0 s4).bind (fun x5 => x6_sum_l10 N W v0 (fun y22 s23 => some (.inl (some (vR y22)), s23)) N x2 (x5.1) (x5.2)))) else none
set_option maxRecDepth 100000 in
theorem ok_x6_sum {ω : gW} {l : Launch} {d : Nat} {N : Nat} {W : Nat → gMem → Option gR} {dW : Nat} {σ : gMem} {v0 : Nat} (hl : l.stackTraces = false) (hW : ∀ (a0 : Nat) (s : gMem), gK (fun p : gR => p) gE ω l dW mu_x6_sign [vR a0] s (W a0 s)) (hdp : 5 ≤ d) (hdw : dW + 2 ≤ d) : gK (fun p : gR => p) gE ω l d mu_x6_sum [vR v0] σ (x6_sum N W v0 σ) := by
  refine gK.of hp_X6 (Nat.le_of_ble_eq_true rfl) ?_
  unfold x6_sum
  refine x_aload_n (μ := mu_x6_sum) (pc := 0) 0 dX6_sum_0 rfl ?_
  refine x_if (fun hT1 => ?_)
  refine x_callV_xr (μ := mu_x6_sum) (pc := 1) (ok_x6_product (ω := ω) (l := l) (d := d - 1) hl hW (by omega) (by omega) ) q1803 q1805 qs32 q226 q1806 dX6_sum_1 rfl hT1 hy_x6_product (by omega) (Nat.le_of_ble_eq_true rfl) rfl (Nat.le_of_ble_eq_true rfl) (by decide) (fun x2 s4 k3 => ?_)
  refine x_astore_n (μ := mu_x6_sum) (pc := 4) (lv' := [(1, vR x2), (0, vR v0)]) dX6_sum_4 rfl (by decide) rfl ?_
  refine x_aload_n (μ := mu_x6_sum) (pc := 5) 1 dX6_sum_5 rfl ?_
  refine x_callV_mi (μ := mu_x6_sum) (pc := 6) (ok_x6_peek (ω := ω) (l := l) (d := d - 1) hl (by omega) ) gRel_E gRel_E (fun _ q => q) q1811 q1813 qs34 q226 q1814 dX6_sum_6 rfl (gT_E k3 hT1 (by decide)) hy_x6_peek (by omega) (Nat.le_of_ble_eq_true rfl) rfl (Nat.le_of_ble_eq_true rfl) (fun x5 k7 hr6 => ?_)
  refine x_istore_n (μ := mu_x6_sum) (pc := 9) (lv' := [(2, vI (x5.1)), (1, vR x2), (0, vR v0)]) dX6_sum_9 rfl (by decide) rfl ?_
  refine x_loc (lv' := [(0, vR v0), (1, vR x2), (2, vI (x5.1))]) [2, 1, 0] rfl ?_
  refine okl_x6_sum_l10 hl hW hdp hdw (fun y22 s23 => ?_) N x2 (x5.1) (x5.2) hr6
  refine x_aload_n (μ := mu_x6_sum) (pc := 65) 0 dX6_sum_65 rfl ?_
  exact x_aret (μ := mu_x6_sum) (pc := 66) (a1 := ((.inl (some (vR y22)), s23) : gR)) dX6_sum_66 rfl (by first | exact Or.inl ⟨_, rfl⟩ | exact Or.inr ⟨_, rfl⟩) rfl (gRel_E.1 _) trivial
def x9_isLike_l52 (N : Nat) (σ : gMem) (v0 : Nat) (v1 : Nat) (v3 : Int) (K : Int → Option Int) : Nat → Int → Int → Option Int
  | 0, _, _ => none
  | n + 1, v2, v4 => if v2 = 0 then K v2 else if mT σ v0 = 8 then if mT σ (mR σ v0 1) = 100 then if w32 (mN σ (mR σ v0 1) : Int) ≤ v4 then K v2 else if mT σ (mR σ v0 2) = 111 then if 0 ≤ v3 ∧ v3 < (mN σ (mR σ v0 2) : Int) then if mT σ (mR σ (mR σ v0 2) v3.toNat) = 110 then if 0 ≤ v4 ∧ v4 < (mN σ (mR σ (mR σ v0 2) v3.toNat) : Int) then if mT σ v1 = 8 then if mT σ (mR σ v1 2) = 111 then if 0 ≤ v3 ∧ v3 < (mN σ (mR σ v1 2) : Int) then if mT σ (mR σ (mR σ v1 2) v3.toNat) = 110 then if 0 ≤ v4 ∧ v4 < (mN σ (mR σ (mR σ v1 2) v3.toNat) : Int) then (x1_isAlike N (mR σ (mR σ (mR σ v0 2) v3.toNat) v4.toNat) (mR σ (mR σ (mR σ v1 2) v3.toNat) v4.toNat) σ).bind (fun x14 => x9_isLike_l52 N σ v0 v1 v3 K n x14 (w32 (v4 + 1))) else none else none else none else none else none else none else none else none else none else none else none
set_option maxRecDepth 100000 in
theorem okl_x9_isLike_l52 {ω : gW} {l : Launch} {d : Nat} {N : Nat} {σ : gMem} {v0 : Nat} {v1 : Nat} {v3 : Int} {K : Int → Option Int} (hl : l.stackTraces = false) (hdp : 68 ≤ d) (hv3 : g32 v3) (hK : ∀ (v2 : Int) , g32 v2 → GG (fun x : Int => (.inl (some (vI x)), σ)) gE ω l d mu_x9_isLike σ 94 [(0, vR v0), (1, vR v1), (2, vI v2), (3, vI v3)] [] σ (K v2)) : ∀ (n : Nat) (v2 : Int) (v4 : Int) , g32 v2 → g32 v4 → GG (fun x : Int => (.inl (some (vI x)), σ)) gE ω l d mu_x9_isLike σ 52 [(0, vR v0), (1, vR v1), (2, vI v2), (3, vI v3), (4, vI v4)] [] σ (x9_isLike_l52 N σ v0 v1 v3 K n v2 v4) := by
  intro n
  induction n with
  | zero => intros; exact x_none
  | succ n ih =>
    intro v2 v4 hv2 hv4
    unfold x9_isLike_l52
    refine x_iload_n (μ := mu_x9_isLike) (pc := 52) 2 dX9_isLike_52 rfl ?_
    refine x_if_eq (μ := mu_x9_isLike) (pc := 53) (tgt := 94) dX9_isLike_53 rfl hv2 ?_ ?_
    · refine x_loc (lv' := [(0, vR v0), (1, vR v1), (2, vI v2), (3, vI v3)]) [0, 1, 2, 3] rfl ?_
      exact hK v2 hv2
    · refine x_iload (μ := mu_x9_isLike) (pc := 56) 4 dX9_isLike_56 rfl ?_
      refine x_aload_n (μ := mu_x9_isLike) (pc := 58) 0 dX9_isLike_58 rfl ?_
      refine x_if (fun hT7 => ?_)
      refine x_fgr (μ := mu_x9_isLike) (pc := 59) fX9_1 (by first | exact Or.inl ⟨_, rfl⟩ | exact Or.inr ⟨_, rfl⟩) q573 dX9_isLike_59 hT7 ?_
      refine x_if (fun hT8 => ?_)
      refine x_len (μ := mu_x9_isLike) (pc := 62) 0 (fun _ => rfl) dX9_isLike_62 hT8 ?_
      refine x_w1 ?_
      refine x_icmp_ge (μ := mu_x9_isLike) (pc := 63) (tgt := 94) dX9_isLike_63 rfl hv4 (w32_rng _) ?_ ?_
      · refine x_loc (lv' := [(0, vR v0), (1, vR v1), (2, vI v2), (3, vI v3)]) [0, 1, 2, 3] rfl ?_
        exact hK v2 hv2
      · refine x_aload_n (μ := mu_x9_isLike) (pc := 66) 0 dX9_isLike_66 rfl ?_
        refine x_fgr (μ := mu_x9_isLike) (pc := 67) fX9_2 (by first | exact Or.inl ⟨_, rfl⟩ | exact Or.inr ⟨_, rfl⟩) q578 dX9_isLike_67 hT7 ?_
        refine x_iload_n (μ := mu_x9_isLike) (pc := 70) 3 dX9_isLike_70 rfl ?_
        refine x_if (fun hT9 => ?_)
        refine x_aald (μ := mu_x9_isLike) (pc := 71) 11 (fun _ => rfl) rfl rfl dX9_isLike_71 hT9 rfl ?_
        refine x_iload (μ := mu_x9_isLike) (pc := 72) 4 dX9_isLike_72 rfl ?_
        refine x_if (fun hT10 => ?_)
        refine x_aald (μ := mu_x9_isLike) (pc := 74) 10 (fun _ => rfl) rfl rfl dX9_isLike_74 hT10 rfl ?_
        refine x_aload_n (μ := mu_x9_isLike) (pc := 75) 1 dX9_isLike_75 rfl ?_
        refine x_if (fun hT11 => ?_)
        refine x_fgr (μ := mu_x9_isLike) (pc := 76) fX9_2 (by first | exact Or.inl ⟨_, rfl⟩ | exact Or.inr ⟨_, rfl⟩) q578 dX9_isLike_76 hT11 ?_
        refine x_iload_n (μ := mu_x9_isLike) (pc := 79) 3 dX9_isLike_79 rfl ?_
        refine x_if (fun hT12 => ?_)
        refine x_aald (μ := mu_x9_isLike) (pc := 80) 11 (fun _ => rfl) rfl rfl dX9_isLike_80 hT12 rfl ?_
        refine x_iload (μ := mu_x9_isLike) (pc := 81) 4 dX9_isLike_81 rfl ?_
        refine x_if (fun hT13 => ?_)
        refine x_aald (μ := mu_x9_isLike) (pc := 83) 10 (fun _ => rfl) rfl rfl dX9_isLike_83 hT13 rfl ?_
        refine x_callSN_pi (μ := mu_x9_isLike) (pc := 84) (ok_x1_isAlike (ω := ω) (l := l) (d := d - 1) hl (by omega) ) gRel_E gRel_E (fun _ q => q) q1571 q1572 q221 q1573 dX9_isLike_84 hy_x1_isAlike (by omega) (Nat.le_of_ble_eq_true rfl) rfl (Nat.le_of_ble_eq_true rfl) (fun x14 hr15 => ?_)
        refine x_istore_n (μ := mu_x9_isLike) (pc := 87) (lv' := [(2, vI x14), (0, vR v0), (1, vR v1), (3, vI v3), (4, vI v4)]) dX9_isLike_87 rfl (by decide) rfl ?_
        refine x_iincw (μ := mu_x9_isLike) (pc := 88) (lv' := [(4, vI (w32 (v4 + 1))), (2, vI x14), (0, vR v0), (1, vR v1), (3, vI v3)]) 4 dX9_isLike_88 rfl (by decide) rfl ?_
        refine x_goto (μ := mu_x9_isLike) (pc := 91) (tgt := 52) dX9_isLike_91 rfl ?_
        refine x_loc (lv' := [(0, vR v0), (1, vR v1), (2, vI x14), (3, vI v3), (4, vI (w32 (v4 + 1)))]) [2, 3, 1, 4, 0] rfl ?_
        exact ih x14 (w32 (v4 + 1)) hr15 (w32_rng _)
def x9_isLike_l36_j94 (N : Nat) (σ : gMem) (v0 : Nat) (v1 : Nat) (v2 : Int) (v3 : Int) (Kh : Int → Int → Option Int) (K : Int → Option Int) : Option Int := Kh v2 (w32 (v3 + 1))
set_option maxRecDepth 100000 in
theorem okj_x9_isLike_l36_j94 {ω : gW} {l : Launch} {d : Nat} {N : Nat} {σ : gMem} {v0 : Nat} {v1 : Nat} {v2 : Int} {v3 : Int} {Kh : Int → Int → Option Int} {K : Int → Option Int} (hl : l.stackTraces = false) (hdp : 68 ≤ d) (hv2 : g32 v2) (hv3 : g32 v3) (hKh : ∀ (v2 : Int) (v3 : Int) , g32 v2 → g32 v3 → GG (fun x : Int => (.inl (some (vI x)), σ)) gE ω l d mu_x9_isLike σ 36 [(0, vR v0), (1, vR v1), (2, vI v2), (3, vI v3)] [] σ (Kh v2 v3)) (hK : ∀ (v2 : Int) , g32 v2 → GG (fun x : Int => (.inl (some (vI x)), σ)) gE ω l d mu_x9_isLike σ 100 [(2, vI v2)] [] σ (K v2)) : GG (fun x : Int => (.inl (some (vI x)), σ)) gE ω l d mu_x9_isLike σ 94 [(0, vR v0), (1, vR v1), (2, vI v2), (3, vI v3)] [] σ (x9_isLike_l36_j94 N σ v0 v1 v2 v3 Kh K ) := by
  unfold x9_isLike_l36_j94
  refine x_iincw (μ := mu_x9_isLike) (pc := 94) (lv' := [(3, vI (w32 (v3 + 1))), (0, vR v0), (1, vR v1), (2, vI v2)]) 3 dX9_isLike_94 rfl (by decide) rfl ?_
  refine x_goto (μ := mu_x9_isLike) (pc := 97) (tgt := 36) dX9_isLike_97 rfl ?_
  refine x_loc (lv' := [(0, vR v0), (1, vR v1), (2, vI v2), (3, vI (w32 (v3 + 1)))]) [1, 2, 3, 0] rfl ?_
  exact hKh v2 (w32 (v3 + 1)) hv2 (w32_rng _)
def x9_isLike_l36 (N : Nat) (σ : gMem) (v0 : Nat) (v1 : Nat) (K : Int → Option Int) : Nat → Int → Int → Option Int
  | 0, _, _ => none
  | n + 1, v2, v3 => if v2 = 0 then K v2 else if mT σ v0 = 8 then if mT σ (mR σ v0 0) = 100 then if w32 (mN σ (mR σ v0 0) : Int) ≤ v3 then K v2 else x9_isLike_l52 N σ v0 v1 v3 (fun y16 => x9_isLike_l36_j94 N σ v0 v1 y16 v3  (x9_isLike_l36 N σ v0 v1 K n) K) N v2 0 else none else none
set_option maxRecDepth 100000 in
theorem okl_x9_isLike_l36 {ω : gW} {l : Launch} {d : Nat} {N : Nat} {σ : gMem} {v0 : Nat} {v1 : Nat} {K : Int → Option Int} (hl : l.stackTraces = false) (hdp : 68 ≤ d) (hK : ∀ (v2 : Int) , g32 v2 → GG (fun x : Int => (.inl (some (vI x)), σ)) gE ω l d mu_x9_isLike σ 100 [(2, vI v2)] [] σ (K v2)) : ∀ (n : Nat) (v2 : Int) (v3 : Int) , g32 v2 → g32 v3 → GG (fun x : Int => (.inl (some (vI x)), σ)) gE ω l d mu_x9_isLike σ 36 [(0, vR v0), (1, vR v1), (2, vI v2), (3, vI v3)] [] σ (x9_isLike_l36 N σ v0 v1 K n v2 v3) := by
  intro n
  induction n with
  | zero => intros; exact x_none
  | succ n ih =>
    intro v2 v3 hv2 hv3
    unfold x9_isLike_l36
    refine x_iload_n (μ := mu_x9_isLike) (pc := 36) 2 dX9_isLike_36 rfl ?_
    refine x_if_eq (μ := mu_x9_isLike) (pc := 37) (tgt := 100) dX9_isLike_37 rfl hv2 ?_ ?_
    · refine x_loc (lv' := [(2, vI v2)]) [2] rfl ?_
      exact hK v2 hv2
    · refine x_iload_n (μ := mu_x9_isLike) (pc := 40) 3 dX9_isLike_40 rfl ?_
      refine x_aload_n (μ := mu_x9_isLike) (pc := 41) 0 dX9_isLike_41 rfl ?_
      refine x_if (fun hT5 => ?_)
      refine x_fgr (μ := mu_x9_isLike) (pc := 42) fX9_0 (by first | exact Or.inl ⟨_, rfl⟩ | exact Or.inr ⟨_, rfl⟩) q568 dX9_isLike_42 hT5 ?_
      refine x_if (fun hT6 => ?_)
      refine x_len (μ := mu_x9_isLike) (pc := 45) 0 (fun _ => rfl) dX9_isLike_45 hT6 ?_
      refine x_w1 ?_
      refine x_icmp_ge (μ := mu_x9_isLike) (pc := 46) (tgt := 100) dX9_isLike_46 rfl hv3 (w32_rng _) ?_ ?_
      · refine x_loc (lv' := [(2, vI v2)]) [2] rfl ?_
        exact hK v2 hv2
      · refine x_iconst (μ := mu_x9_isLike) (pc := 49) dX9_isLike_49 ?_
        refine x_istore (μ := mu_x9_isLike) (pc := 50) (lv' := [(4, vI 0), (0, vR v0), (1, vR v1), (2, vI v2), (3, vI v3)]) dX9_isLike_50 (by decide) rfl ?_
        refine x_loc (lv' := [(0, vR v0), (1, vR v1), (2, vI v2), (3, vI v3), (4, vI 0)]) [1, 2, 3, 4, 0] rfl ?_
        refine okl_x9_isLike_l52 hl hdp hv3 (fun y16 hy16 => ?_) N v2 0 hv2 (by decide)
        exact okj_x9_isLike_l36_j94 hl hdp hy16 hv3 ih hK
def x9_isLike_j33 (N : Nat) (σ : gMem) (v0 : Nat) (v1 : Nat) (t0 : Int) : Option Int := x9_isLike_l36 N σ v0 v1 (fun y17 => if y17 = 0 ∨ y17 = 1 then some y17 else none) N t0 0
set_option maxRecDepth 100000 in
theorem okj_x9_isLike_j33 {ω : gW} {l : Launch} {d : Nat} {N : Nat} {σ : gMem} {v0 : Nat} {v1 : Nat} {t0 : Int} (hl : l.stackTraces = false) (hdp : 68 ≤ d) (ht0 : g32 t0) : GG (fun x : Int => (.inl (some (vI x)), σ)) gE ω l d mu_x9_isLike σ 33 [(0, vR v0), (1, vR v1)] [vI t0] σ (x9_isLike_j33 N σ v0 v1 t0 ) := by
  unfold x9_isLike_j33
  refine x_istore_n (μ := mu_x9_isLike) (pc := 33) (lv' := [(2, vI t0), (0, vR v0), (1, vR v1)]) dX9_isLike_33 rfl (by decide) rfl ?_
  refine x_iconst (μ := mu_x9_isLike) (pc := 34) dX9_isLike_34 ?_
  refine x_istore_n (μ := mu_x9_isLike) (pc := 35) (lv' := [(3, vI 0), (2, vI t0), (0, vR v0), (1, vR v1)]) dX9_isLike_35 rfl (by decide) rfl ?_
  refine x_loc (lv' := [(0, vR v0), (1, vR v1), (2, vI t0), (3, vI 0)]) [2, 3, 1, 0] rfl ?_
  refine okl_x9_isLike_l36 hl hdp (fun y17 hy17 => ?_) N t0 0 ht0 (by decide)
  refine x_iload_n (μ := mu_x9_isLike) (pc := 100) 0 dX9_isLike_100 rfl ?_
  exact x_if (μ := mu_x9_isLike) (pc := 101) (fun hz => x_zret dX9_isLike_101 rfl hz rfl (gRel_E.1 _) (show g32 y17 from hy17))
def x9_isLike_j32 (N : Nat) (σ : gMem) (v0 : Nat) (v1 : Nat) : Option Int := x9_isLike_j33 N σ v0 v1 0
set_option maxRecDepth 100000 in
theorem okj_x9_isLike_j32 {ω : gW} {l : Launch} {d : Nat} {N : Nat} {σ : gMem} {v0 : Nat} {v1 : Nat} (hl : l.stackTraces = false) (hdp : 68 ≤ d) : GG (fun x : Int => (.inl (some (vI x)), σ)) gE ω l d mu_x9_isLike σ 32 [(0, vR v0), (1, vR v1)] [] σ (x9_isLike_j32 N σ v0 v1 ) := by
  unfold x9_isLike_j32
  refine x_iconst (μ := mu_x9_isLike) (pc := 32) dX9_isLike_32 ?_
  exact okj_x9_isLike_j33 hl hdp (by decide)
def x9_isLike (N : Nat) (v0 : Nat) (v1 : Nat) (σ : gMem) : Option Int := if mT σ v0 = 8 then if mT σ v1 = 8 then (x9_isAlike N (mR σ v0 0) (mR σ v1 0) σ).bind (fun x3 => if x3 = 0 then x9_isLike_j32 N σ v0 v1  else (x9_isAlike N (mR σ v0 1) (mR σ v1 1) σ).bind (fun x18 => if x18 = 0 then x9_isLike_j32 N σ v0 v1  else x9_isLike_j33 N σ v0 v1 1)) else none else none
set_option maxRecDepth 100000 in
theorem ok_x9_isLike {ω : gW} {l : Launch} {d : Nat} {N : Nat} {σ : gMem} {v0 : Nat} {v1 : Nat} (hl : l.stackTraces = false) (hdp : 68 ≤ d) : gK (fun x : Int => (.inl (some (vI x)), σ)) gE ω l d mu_x9_isLike [vR v0, vR v1] σ (x9_isLike N v0 v1 σ) := by
  refine gK.of hp_X9 (Nat.le_of_ble_eq_true rfl) ?_
  unfold x9_isLike
  refine x_aload_n (μ := mu_x9_isLike) (pc := 0) 0 dX9_isLike_0 rfl ?_
  refine x_if (fun hT1 => ?_)
  refine x_fgr (μ := mu_x9_isLike) (pc := 1) fX9_0 (by first | exact Or.inl ⟨_, rfl⟩ | exact Or.inr ⟨_, rfl⟩) q568 dX9_isLike_1 hT1 ?_
  refine x_aload_n (μ := mu_x9_isLike) (pc := 4) 1 dX9_isLike_4 rfl ?_
  refine x_if (fun hT2 => ?_)
  refine x_fgr (μ := mu_x9_isLike) (pc := 5) fX9_0 (by first | exact Or.inl ⟨_, rfl⟩ | exact Or.inr ⟨_, rfl⟩) q568 dX9_isLike_5 hT2 ?_
  refine x_callS_pi (μ := mu_x9_isLike) (pc := 8) (ok_x9_isAlike (ω := ω) (l := l) (d := d - 1) hl (by omega) ) gRel_E gRel_E (fun _ q => q) q1568 q1569 q230 q1570 dX9_isLike_8 hy_x9_isAlike (by omega) (Nat.le_of_ble_eq_true rfl) rfl (Nat.le_of_ble_eq_true rfl) (fun x3 hr4 => ?_)
  refine x_if_eq (μ := mu_x9_isLike) (pc := 11) (tgt := 32) dX9_isLike_11 rfl hr4 ?_ ?_
  · exact okj_x9_isLike_j32 hl hdp
  · refine x_aload_n (μ := mu_x9_isLike) (pc := 14) 0 dX9_isLike_14 rfl ?_
    refine x_fgr (μ := mu_x9_isLike) (pc := 15) fX9_1 (by first | exact Or.inl ⟨_, rfl⟩ | exact Or.inr ⟨_, rfl⟩) q573 dX9_isLike_15 hT1 ?_
    refine x_aload_n (μ := mu_x9_isLike) (pc := 18) 1 dX9_isLike_18 rfl ?_
    refine x_fgr (μ := mu_x9_isLike) (pc := 19) fX9_1 (by first | exact Or.inl ⟨_, rfl⟩ | exact Or.inr ⟨_, rfl⟩) q573 dX9_isLike_19 hT2 ?_
    refine x_callS_pi (μ := mu_x9_isLike) (pc := 22) (ok_x9_isAlike (ω := ω) (l := l) (d := d - 1) hl (by omega) ) gRel_E gRel_E (fun _ q => q) q1568 q1569 q230 q1570 dX9_isLike_22 hy_x9_isAlike (by omega) (Nat.le_of_ble_eq_true rfl) rfl (Nat.le_of_ble_eq_true rfl) (fun x18 hr19 => ?_)
    refine x_if_eq (μ := mu_x9_isLike) (pc := 25) (tgt := 32) dX9_isLike_25 rfl hr19 ?_ ?_
    · exact okj_x9_isLike_j32 hl hdp
    · refine x_iconst (μ := mu_x9_isLike) (pc := 28) dX9_isLike_28 ?_
      refine x_goto (μ := mu_x9_isLike) (pc := 29) (tgt := 33) dX9_isLike_29 rfl ?_
      exact okj_x9_isLike_j33 hl hdp (by decide)
def x9_lay (N : Nat) (v0 : Nat) (v1 : Int) (v2 : Nat) (σ : gMem) : Option gMem := if v1 ≠ 0 then if mT σ v0 = 8 then (x9_lay_2 N v0 (mR σ v0 0) v2 σ).bind (fun x2 => some x2) else none else if mT σ v0 = 8 then (x9_lay_2 N v0 v2 (mR σ v0 1) σ).bind (fun x5 => some x5) else none
set_option maxRecDepth 100000 in
theorem ok_x9_lay {ω : gW} {l : Launch} {d : Nat} {N : Nat} {σ : gMem} {v0 : Nat} {v1 : Int} {v2 : Nat} (hl : l.stackTraces = false) (hdp : 4 ≤ d) (hv1 : g32 v1) : gK (fun p : gMem => (.inl none, p)) gE ω l d mu_x9_lay [vR v0, vI v1, vR v2] σ (x9_lay N v0 v1 v2 σ) := by
  refine gK.of hp_X9 (Nat.le_of_ble_eq_true rfl) ?_
  unfold x9_lay
  refine x_iload_n (μ := mu_x9_lay) (pc := 0) 1 dX9_lay_0 rfl ?_
  refine x_if_ne (μ := mu_x9_lay) (pc := 1) (tgt := 16) dX9_lay_1 rfl hv1 ?_ ?_
  · refine x_aload_n (μ := mu_x9_lay) (pc := 16) 0 dX9_lay_16 rfl ?_
    refine x_aload_n (μ := mu_x9_lay) (pc := 17) 0 dX9_lay_17 rfl ?_
    refine x_if (fun hT1 => ?_)
    refine x_fgr (μ := mu_x9_lay) (pc := 18) fX9_0 (by first | exact Or.inl ⟨_, rfl⟩ | exact Or.inr ⟨_, rfl⟩) q568 dX9_lay_18 hT1 ?_
    refine x_aload_n (μ := mu_x9_lay) (pc := 21) 2 dX9_lay_21 rfl ?_
    refine x_callV_mv (μ := mu_x9_lay) (pc := 22) (ok_x9_lay_2 (ω := ω) (l := l) (d := d - 1) hl (by omega) ) gRel_E gRel_E (fun _ q => q) q2230 q2231 q2232 q230 q2233 dX9_lay_22 rfl hT1 hy_x9_lay_2 (by omega) (Nat.le_of_ble_eq_true rfl) rfl (Nat.le_of_ble_eq_true rfl) (fun x2 k3 => ?_)
    exact x_vret (μ := mu_x9_lay) (pc := 25) (a1 := x2) dX9_lay_25 rfl rfl (gRel_E.1 _) trivial
  · refine x_aload_n (μ := mu_x9_lay) (pc := 4) 0 dX9_lay_4 rfl ?_
    refine x_aload_n (μ := mu_x9_lay) (pc := 5) 2 dX9_lay_5 rfl ?_
    refine x_aload_n (μ := mu_x9_lay) (pc := 6) 0 dX9_lay_6 rfl ?_
    refine x_if (fun hT4 => ?_)
    refine x_fgr (μ := mu_x9_lay) (pc := 7) fX9_1 (by first | exact Or.inl ⟨_, rfl⟩ | exact Or.inr ⟨_, rfl⟩) q573 dX9_lay_7 hT4 ?_
    refine x_callV_mv (μ := mu_x9_lay) (pc := 10) (ok_x9_lay_2 (ω := ω) (l := l) (d := d - 1) hl (by omega) ) gRel_E gRel_E (fun _ q => q) q2230 q2231 q2232 q230 q2233 dX9_lay_10 rfl hT4 hy_x9_lay_2 (by omega) (Nat.le_of_ble_eq_true rfl) rfl (Nat.le_of_ble_eq_true rfl) (fun x5 k6 => ?_)
    refine x_goto (μ := mu_x9_lay) (pc := 13) (tgt := 25) dX9_lay_13 rfl ?_
    exact x_vret (μ := mu_x9_lay) (pc := 25) (a1 := x5) dX9_lay_25 rfl rfl (gRel_E.1 _) trivial
def dp_Part_write (N : Nat) : Nat → Nat → Nat → Nat → gMem → Option gMem
  | 0 => fun _ _ _ _ => none
  | n + 1 => fun a0 a1 a2 s => if mT s a0 = 11 then x13_write a0 a1 a2 s else if mT s a0 = 12 then x14_write N a0 a1 a2 s else if mT s a0 = 16 then x18_write N a0 a1 a2 s else if mT s a0 = 13 then x15_write N a0 a1 a2 s else if mT s a0 = 15 then x17_write N a0 a1 a2 s else if mT s a0 = 17 then x19_write N a0 a1 a2 s else if mT s a0 = 19 then x21_write N (dp_Part_write N n) a0 a1 a2 s else if mT s a0 = 20 then x22_write N (dp_Part_write N n) a0 a1 a2 s else if mT s a0 = 18 then x20_write N (dp_Part_write N n) a0 a1 a2 s else none
set_option maxRecDepth 100000 in
theorem ok_dp_Part_write {ω : gW} {l : Launch} {N : Nat} (hl : l.stackTraces = false) : ∀ (n : Nat) {d : Nat} (a0 : Nat) (a1 : Nat) (a2 : Nat) (s : gMem), 23 + 2 * n ≤ d → gKI (fun p : gMem => (.inl none, p)) gE ω l d iy_Part_write none [vR a0, vR a1, vR a2] s (dp_Part_write N n a0 a1 a2 s) := by
  intro n
  induction n with
  | zero => intro d a0 a1 a2 s hd; exact gKI.none
  | succ n ih =>
    intro d a0 a1 a2 s hd
    unfold dp_Part_write
    refine gKI.cls (ci := 10) rfl (List.mem_of_getElem? (i := 57) rfl) q1511 q1513 q241 q1515 (Nat.le_of_ble_eq_true rfl) (ok_x13_write hl (by omega)) ?_
    refine gKI.cls (ci := 11) rfl (List.mem_of_getElem? (i := 58) rfl) q1517 q1519 q242 q1521 (Nat.le_of_ble_eq_true rfl) (ok_x14_write hl (by omega)) ?_
    refine gKI.cls (ci := 15) rfl (List.mem_of_getElem? (i := 59) rfl) q1494 q1496 q250 q1498 (Nat.le_of_ble_eq_true rfl) (ok_x18_write hl (by omega)) ?_
    refine gKI.cls (ci := 12) rfl (List.mem_of_getElem? (i := 60) rfl) q1416 q1418 q247 q1420 (Nat.le_of_ble_eq_true rfl) (ok_x15_write hl (by omega)) ?_
    refine gKI.cls (ci := 14) rfl (List.mem_of_getElem? (i := 61) rfl) q1484 q1486 q249 q1488 (Nat.le_of_ble_eq_true rfl) (ok_x17_write hl (by omega)) ?_
    refine gKI.cls (ci := 16) rfl (List.mem_of_getElem? (i := 62) rfl) q1373 q1375 q251 q1377 (Nat.le_of_ble_eq_true rfl) (ok_x19_write hl (by omega)) ?_
    refine gKI.cls (ci := 18) rfl (List.mem_of_getElem? (i := 63) rfl) q1423 q1425 q253 q1427 (Nat.le_of_ble_eq_true rfl) (ok_x21_write hl (dW := 23 + 2 * n) (fun a0 a1 a2 s => ih a0 a1 a2 s (Nat.le_refl _)) (by omega) (by omega)) ?_
    refine gKI.cls (ci := 19) rfl (List.mem_of_getElem? (i := 64) rfl) q1502 q1504 q255 q1506 (Nat.le_of_ble_eq_true rfl) (ok_x22_write hl (dW := 23 + 2 * n) (fun a0 a1 a2 s => ih a0 a1 a2 s (Nat.le_refl _)) (by omega) (by omega)) ?_
    refine gKI.cls (ci := 17) rfl (List.mem_of_getElem? (i := 65) rfl) q1407 q1409 q252 q1411 (Nat.le_of_ble_eq_true rfl) (ok_x20_write hl (dW := 23 + 2 * n) (fun a0 a1 a2 s => ih a0 a1 a2 s (Nat.le_refl _)) (by omega) (by omega)) ?_
    exact gKI.none
def x0_copy (N : Nat) (v0 : Nat) (v1 : Int) (v2 : Int) (v3 : Int) (v4 : Int) (v5 : Int) (v6 : Int) (v7 : Nat) (σ : gMem) : Option (Int × gMem) := if mT σ v0 = 1 then (x1_copy N v0 v1 v2 v3 v4 v5 v6 σ).bind (fun p => gTryI p (fun x2 s5 => if mT s5 v7 = 101 then if 0 ≤ (0 : Int) ∧ (0 : Int) < (mN s5 v7 : Int) then gLet (wL s5 v7 (0 : Int).toNat x2) (fun s11 => some (0, s11)) else none else none) (fun E6 s7 => if E6 = "java/lang/IndexOutOfBoundsException" then some (1, s7) else if E6 = "java/lang/IllegalArgumentException" then some (2, s7) else if E6 = "java/lang/UnsupportedOperationException" then some (3, s7) else none)) else none
set_option maxRecDepth 100000 in
theorem ok_x0_copy {ω : gW} {l : Launch} {d : Nat} {N : Nat} {σ : gMem} {v0 : Nat} {v1 : Int} {v2 : Int} {v3 : Int} {v4 : Int} {v5 : Int} {v6 : Int} {v7 : Nat} (hl : l.stackTraces = false) (hdp : 70 ≤ d) (hv1 : g32 v1) (hv2 : g32 v2) (hv3 : g32 v3) (hv4 : g32 v4) (hv5 : g32 v5) (hv6 : g32 v6) : gK (fun p : Int × gMem => (.inl (some (vI p.1)), p.2)) gE ω l d mu_x0_copy [vR v0, vI v1, vI v2, vI v3, vI v4, vI v5, vI v6, vR v7] σ (x0_copy N v0 v1 v2 v3 v4 v5 v6 v7 σ) := by
  refine gK.ofH hp_X0 (Nat.le_of_ble_eq_true rfl) ?_
  unfold x0_copy
  refine x_aload (μ := mu_x0_copy) (pc := 0) 7 dX0_copy_0 rfl ?_
  refine x_iconst (μ := mu_x0_copy) (pc := 2) dX0_copy_2 ?_
  refine x_aload_n (μ := mu_x0_copy) (pc := 3) 0 dX0_copy_3 rfl ?_
  refine x_iload_n (μ := mu_x0_copy) (pc := 4) 1 dX0_copy_4 rfl ?_
  refine x_iload_n (μ := mu_x0_copy) (pc := 5) 2 dX0_copy_5 rfl ?_
  refine x_iload_n (μ := mu_x0_copy) (pc := 6) 3 dX0_copy_6 rfl ?_
  refine x_iload (μ := mu_x0_copy) (pc := 7) 4 dX0_copy_7 rfl ?_
  refine x_iload (μ := mu_x0_copy) (pc := 9) 5 dX0_copy_9 rfl ?_
  refine x_iload (μ := mu_x0_copy) (pc := 11) 6 dX0_copy_11 rfl ?_
  refine x_if (fun hT1 => ?_)
  refine x_callV_ti (μ := mu_x0_copy) (pc := 13) (ok_x1_copy (ω := ω) (l := l) (d := d - 1) hl (by omega) hv1 hv2 hv3 hv4 hv5 hv6) q2263 q2264 q2265 q221 q2266 dX0_copy_13 rfl hT1 hy_x1_copy (by omega) (Nat.le_of_ble_eq_true rfl) rfl (Nat.le_of_ble_eq_true rfl) (fun x2 s5 k4 hr3 => ?_) (fun E6 s7 k9 => ?_)
  · refine x_i2l (μ := mu_x0_copy) (pc := 16) dX0_copy_16 hr3 ?_
    refine x_if (fun hT10 => ?_)
    refine x_last (μ := mu_x0_copy) (pc := 17) dX0_copy_17 hT10 rfl (fun _ _ q => gE_wL q) ?_
    refine x_let (fun s11 e12 => ?_)
    refine x_goto (μ := mu_x0_copy) (pc := 18) (tgt := 33) dX0_copy_18 rfl ?_
    refine x_iconst (μ := mu_x0_copy) (pc := 33) dX0_copy_33 ?_
    exact x_iret (μ := mu_x0_copy) (pc := 34) dX0_copy_34 rfl rfl (gRel_E.1 _) (show g32 0 from (by decide))
  · refine x_eqE "java/lang/IndexOutOfBoundsException" (fun _ => ?_) (fun _ => ?_)
    · refine x_catch0 (pc := 13) (tgt := 21) rfl  q1676 q1764 (by decide) (fun q13 => ?_)
      refine x_astore (μ := mu_x0_copy) (pc := 21) (lv' := [(8, vR q13), (0, vR v0), (1, vI v1), (2, vI v2), (3, vI v3), (4, vI v4), (5, vI v5), (6, vI v6), (7, vR v7)]) dX0_copy_21 (by decide) rfl ?_
      refine x_iconst (μ := mu_x0_copy) (pc := 23) dX0_copy_23 ?_
      exact x_iret (μ := mu_x0_copy) (pc := 24) dX0_copy_24 rfl rfl (gRel_E.1 _) (show g32 1 from (by decide))
    refine x_eqE "java/lang/IllegalArgumentException" (fun _ => ?_) (fun _ => ?_)
    · refine x_catch1 (pc := 13) (tgt := 25) rfl q1676 (by decide) q1755 q2123 (by decide) (fun q14 => ?_)
      refine x_astore (μ := mu_x0_copy) (pc := 25) (lv' := [(8, vR q14), (0, vR v0), (1, vI v1), (2, vI v2), (3, vI v3), (4, vI v4), (5, vI v5), (6, vI v6), (7, vR v7)]) dX0_copy_25 (by decide) rfl ?_
      refine x_iconst (μ := mu_x0_copy) (pc := 27) dX0_copy_27 ?_
      exact x_iret (μ := mu_x0_copy) (pc := 28) dX0_copy_28 rfl rfl (gRel_E.1 _) (show g32 2 from (by decide))
    refine x_eqE "java/lang/UnsupportedOperationException" (fun _ => ?_) (fun _ => ?_)
    · refine x_catch2 (pc := 13) (tgt := 29) rfl q1676 (by decide) q1755 (by decide) q1756 q2163 (by decide) (fun q15 => ?_)
      refine x_astore (μ := mu_x0_copy) (pc := 29) (lv' := [(8, vR q15), (0, vR v0), (1, vI v1), (2, vI v2), (3, vI v3), (4, vI v4), (5, vI v5), (6, vI v6), (7, vR v7)]) dX0_copy_29 (by decide) rfl ?_
      refine x_iconst (μ := mu_x0_copy) (pc := 31) dX0_copy_31 ?_
      exact x_iret (μ := mu_x0_copy) (pc := 32) dX0_copy_32 rfl rfl (gRel_E.1 _) (show g32 3 from (by decide))
    exact x_xnone
def x0_diff (N : Nat) (v0 : Nat) (v1 : Int) (v2 : Int) (v3 : Nat) (σ : gMem) : Option (Int × gMem) := if mT σ v0 = 1 then (x1_diff N v0 v1 v2 σ).bind (fun p => gTryI p (fun x2 s5 => if mT s5 v3 = 101 then if 0 ≤ (0 : Int) ∧ (0 : Int) < (mN s5 v3 : Int) then gLet (wL s5 v3 (0 : Int).toNat x2) (fun s11 => some (0, s11)) else none else none) (fun E6 s7 => if E6 = "java/util/NoSuchElementException" then some (1, s7) else none)) else none
set_option maxRecDepth 100000 in
theorem ok_x0_diff {ω : gW} {l : Launch} {d : Nat} {N : Nat} {σ : gMem} {v0 : Nat} {v1 : Int} {v2 : Int} {v3 : Nat} (hl : l.stackTraces = false) (hdp : 69 ≤ d) (hv1 : g32 v1) (hv2 : g32 v2) : gK (fun p : Int × gMem => (.inl (some (vI p.1)), p.2)) gE ω l d mu_x0_diff [vR v0, vI v1, vI v2, vR v3] σ (x0_diff N v0 v1 v2 v3 σ) := by
  refine gK.ofH hp_X0 (Nat.le_of_ble_eq_true rfl) ?_
  unfold x0_diff
  refine x_aload_n (μ := mu_x0_diff) (pc := 0) 3 dX0_diff_0 rfl ?_
  refine x_iconst (μ := mu_x0_diff) (pc := 1) dX0_diff_1 ?_
  refine x_aload_n (μ := mu_x0_diff) (pc := 2) 0 dX0_diff_2 rfl ?_
  refine x_iload_n (μ := mu_x0_diff) (pc := 3) 1 dX0_diff_3 rfl ?_
  refine x_iload_n (μ := mu_x0_diff) (pc := 4) 2 dX0_diff_4 rfl ?_
  refine x_if (fun hT1 => ?_)
  refine x_callV_ti (μ := mu_x0_diff) (pc := 5) (ok_x1_diff (ω := ω) (l := l) (d := d - 1) hl (by omega) hv1 hv2) q2593 q2594 q2595 q221 q2596 dX0_diff_5 rfl hT1 hy_x1_diff (by omega) (Nat.le_of_ble_eq_true rfl) rfl (Nat.le_of_ble_eq_true rfl) (fun x2 s5 k4 hr3 => ?_) (fun E6 s7 k9 => ?_)
  · refine x_i2l (μ := mu_x0_diff) (pc := 8) dX0_diff_8 hr3 ?_
    refine x_if (fun hT10 => ?_)
    refine x_last (μ := mu_x0_diff) (pc := 9) dX0_diff_9 hT10 rfl (fun _ _ q => gE_wL q) ?_
    refine x_let (fun s11 e12 => ?_)
    refine x_goto (μ := mu_x0_diff) (pc := 10) (tgt := 17) dX0_diff_10 rfl ?_
    refine x_iconst (μ := mu_x0_diff) (pc := 17) dX0_diff_17 ?_
    exact x_iret (μ := mu_x0_diff) (pc := 18) dX0_diff_18 rfl rfl (gRel_E.1 _) (show g32 0 from (by decide))
  · refine x_eqE "java/util/NoSuchElementException" (fun _ => ?_) (fun _ => ?_)
    · refine x_catch0 (pc := 5) (tgt := 13) rfl  q2392 q2399 (by decide) (fun q13 => ?_)
      refine x_astore (μ := mu_x0_diff) (pc := 13) (lv' := [(4, vR q13), (0, vR v0), (1, vI v1), (2, vI v2), (3, vR v3)]) dX0_diff_13 (by decide) rfl ?_
      refine x_iconst (μ := mu_x0_diff) (pc := 15) dX0_diff_15 ?_
      exact x_iret (μ := mu_x0_diff) (pc := 16) dX0_diff_16 rfl rfl (gRel_E.1 _) (show g32 1 from (by decide))
    exact x_xnone
def x1_total_j22 (N : Nat) (σ : gMem) (v0 : Nat) (v1 : Int) : Option Int := if v1 = 0 then if mT σ v0 = 1 then some (mI σ v0 5) else none else if v1 = 1 then if mT σ v0 = 1 then some (mI σ v0 7) else none else if v1 = 2 then if mT σ v0 = 1 then (x1_head v0 σ).bind (fun x9 => some x9) else none else if v1 = 3 then if mT σ v0 = 1 then (x1_unsettled N v0 σ).bind (fun x13 => some x13) else none else if v1 = 4 then if mT σ v0 = 1 then some (mI σ v0 13) else none else if v1 = 5 then if mT σ v0 = 1 then some (mI σ v0 14) else none else if v1 = 6 then if mT σ v0 = 1 then some (mI σ v0 17) else none else if v1 = 7 then if mT σ v0 = 1 then some (mI σ v0 1) else none else if v1 = 8 then if mT σ v0 = 1 then some (mI σ v0 16) else none else if v1 = 9 then if mT σ v0 = 1 then (x1_head v0 σ).bind (fun x32 => if mT σ (mR σ v0 4) = 104 then if 0 ≤ x32 ∧ x32 < (mN σ (mR σ v0 4) : Int) then if mT σ (mR σ (mR σ v0 4) x32.toNat) = 9 then if mT σ (mR σ v0 8) = 8 then (x9_isLike N (mR σ v0 8) (mR σ (mR σ (mR σ v0 4) x32.toNat) 0) σ).bind (fun x37 => if x37 = 0 then some 0 else some 1) else none else none else none else none) else none else some (-1)
set_option maxRecDepth 100000 in
theorem okj_x1_total_j22 {ω : gW} {l : Launch} {d : Nat} {N : Nat} {σ : gMem} {v0 : Nat} {v1 : Int} (hl : l.stackTraces = false) (hdp : 69 ≤ d) (hv1 : g32 v1) : GG (fun x : Int => (.inl (some (vI x)), σ)) gE ω l d mu_x1_total σ 22 [(0, vR v0), (1, vI v1)] [] σ (x1_total_j22 N σ v0 v1 ) := by
  unfold x1_total_j22
  refine x_iload_n (μ := mu_x1_total) (pc := 22) 1 dX1_total_22 rfl ?_
  refine x_tab (μ := mu_x1_total) (pc := 23) (tgt := 76) 0 dX1_total_23 (by decide) (by decide) (by decide) rfl rfl ?_ (fun hn1 => ?_)
  · refine x_aload_n (μ := mu_x1_total) (pc := 76) 0 dX1_total_76 rfl ?_
    refine x_if (fun hT2 => ?_)
    refine x_fgi (μ := mu_x1_total) (pc := 77) fX1_5 q650 dX1_total_77 hT2 (fun hr3 => ?_)
    exact x_iret (μ := mu_x1_total) (pc := 80) dX1_total_80 rfl rfl (gRel_E.1 _) (show g32 (mI σ v0 5) from hr3)
  refine x_tab (μ := mu_x1_total) (pc := 23) (tgt := 81) 1 dX1_total_23 (by decide) (by decide) (by decide) rfl rfl ?_ (fun hn4 => ?_)
  · refine x_aload_n (μ := mu_x1_total) (pc := 81) 0 dX1_total_81 rfl ?_
    refine x_if (fun hT5 => ?_)
    refine x_fgi (μ := mu_x1_total) (pc := 82) fX1_7 q652 dX1_total_82 hT5 (fun hr6 => ?_)
    exact x_iret (μ := mu_x1_total) (pc := 85) dX1_total_85 rfl rfl (gRel_E.1 _) (show g32 (mI σ v0 7) from hr6)
  refine x_tab (μ := mu_x1_total) (pc := 23) (tgt := 86) 2 dX1_total_23 (by decide) (by decide) (by decide) rfl rfl ?_ (fun hn7 => ?_)
  · refine x_aload_n (μ := mu_x1_total) (pc := 86) 0 dX1_total_86 rfl ?_
    refine x_if (fun hT8 => ?_)
    refine x_callV_pi (μ := mu_x1_total) (pc := 87) (ok_x1_head (ω := ω) (l := l) (d := d - 1) hl (by omega) ) gRel_E gRel_E (fun _ q => q) q766 q768 qs2 q221 q769 dX1_total_87 rfl hT8 hy_x1_head (by omega) (Nat.le_of_ble_eq_true rfl) rfl (Nat.le_of_ble_eq_true rfl) (fun x9 hr10 => ?_)
    exact x_iret (μ := mu_x1_total) (pc := 90) dX1_total_90 rfl rfl (gRel_E.1 _) (show g32 x9 from hr10)
  refine x_tab (μ := mu_x1_total) (pc := 23) (tgt := 91) 3 dX1_total_23 (by decide) (by decide) (by decide) rfl rfl ?_ (fun hn11 => ?_)
  · refine x_aload_n (μ := mu_x1_total) (pc := 91) 0 dX1_total_91 rfl ?_
    refine x_if (fun hT12 => ?_)
    refine x_callV_pi (μ := mu_x1_total) (pc := 92) (ok_x1_unsettled (ω := ω) (l := l) (d := d - 1) hl (by omega) ) gRel_E gRel_E (fun _ q => q) q1560 q1562 qs25 q221 q1563 dX1_total_92 rfl hT12 hy_x1_unsettled (by omega) (Nat.le_of_ble_eq_true rfl) rfl (Nat.le_of_ble_eq_true rfl) (fun x13 hr14 => ?_)
    exact x_iret (μ := mu_x1_total) (pc := 95) dX1_total_95 rfl rfl (gRel_E.1 _) (show g32 x13 from hr14)
  refine x_tab (μ := mu_x1_total) (pc := 23) (tgt := 96) 4 dX1_total_23 (by decide) (by decide) (by decide) rfl rfl ?_ (fun hn15 => ?_)
  · refine x_aload_n (μ := mu_x1_total) (pc := 96) 0 dX1_total_96 rfl ?_
    refine x_if (fun hT16 => ?_)
    refine x_fgi (μ := mu_x1_total) (pc := 97) fX1_13 q658 dX1_total_97 hT16 (fun hr17 => ?_)
    exact x_iret (μ := mu_x1_total) (pc := 100) dX1_total_100 rfl rfl (gRel_E.1 _) (show g32 (mI σ v0 13) from hr17)
  refine x_tab (μ := mu_x1_total) (pc := 23) (tgt := 101) 5 dX1_total_23 (by decide) (by decide) (by decide) rfl rfl ?_ (fun hn18 => ?_)
  · refine x_aload_n (μ := mu_x1_total) (pc := 101) 0 dX1_total_101 rfl ?_
    refine x_if (fun hT19 => ?_)
    refine x_fgi (μ := mu_x1_total) (pc := 102) fX1_14 q659 dX1_total_102 hT19 (fun hr20 => ?_)
    exact x_iret (μ := mu_x1_total) (pc := 105) dX1_total_105 rfl rfl (gRel_E.1 _) (show g32 (mI σ v0 14) from hr20)
  refine x_tab (μ := mu_x1_total) (pc := 23) (tgt := 106) 6 dX1_total_23 (by decide) (by decide) (by decide) rfl rfl ?_ (fun hn21 => ?_)
  · refine x_aload_n (μ := mu_x1_total) (pc := 106) 0 dX1_total_106 rfl ?_
    refine x_if (fun hT22 => ?_)
    refine x_fgi (μ := mu_x1_total) (pc := 107) fX1_17 q662 dX1_total_107 hT22 (fun hr23 => ?_)
    exact x_iret (μ := mu_x1_total) (pc := 110) dX1_total_110 rfl rfl (gRel_E.1 _) (show g32 (mI σ v0 17) from hr23)
  refine x_tab (μ := mu_x1_total) (pc := 23) (tgt := 111) 7 dX1_total_23 (by decide) (by decide) (by decide) rfl rfl ?_ (fun hn24 => ?_)
  · refine x_aload_n (μ := mu_x1_total) (pc := 111) 0 dX1_total_111 rfl ?_
    refine x_if (fun hT25 => ?_)
    refine x_fgi (μ := mu_x1_total) (pc := 112) fX1_1 q646 dX1_total_112 hT25 (fun hr26 => ?_)
    exact x_iret (μ := mu_x1_total) (pc := 115) dX1_total_115 rfl rfl (gRel_E.1 _) (show g32 (mI σ v0 1) from hr26)
  refine x_tab (μ := mu_x1_total) (pc := 23) (tgt := 116) 8 dX1_total_23 (by decide) (by decide) (by decide) rfl rfl ?_ (fun hn27 => ?_)
  · refine x_aload_n (μ := mu_x1_total) (pc := 116) 0 dX1_total_116 rfl ?_
    refine x_if (fun hT28 => ?_)
    refine x_fgi (μ := mu_x1_total) (pc := 117) fX1_16 q661 dX1_total_117 hT28 (fun hr29 => ?_)
    exact x_iret (μ := mu_x1_total) (pc := 120) dX1_total_120 rfl rfl (gRel_E.1 _) (show g32 (mI σ v0 16) from hr29)
  refine x_tab (μ := mu_x1_total) (pc := 23) (tgt := 121) 9 dX1_total_23 (by decide) (by decide) (by decide) rfl rfl ?_ (fun hn30 => ?_)
  · refine x_aload_n (μ := mu_x1_total) (pc := 121) 0 dX1_total_121 rfl ?_
    refine x_if (fun hT31 => ?_)
    refine x_fgr (μ := mu_x1_total) (pc := 122) fX1_8 (by first | exact Or.inl ⟨_, rfl⟩ | exact Or.inr ⟨_, rfl⟩) q653 dX1_total_122 hT31 ?_
    refine x_aload_n (μ := mu_x1_total) (pc := 125) 0 dX1_total_125 rfl ?_
    refine x_fgr (μ := mu_x1_total) (pc := 126) fX1_4 (by first | exact Or.inl ⟨_, rfl⟩ | exact Or.inr ⟨_, rfl⟩) q649 dX1_total_126 hT31 ?_
    refine x_aload_n (μ := mu_x1_total) (pc := 129) 0 dX1_total_129 rfl ?_
    refine x_callV_pi (μ := mu_x1_total) (pc := 130) (ok_x1_head (ω := ω) (l := l) (d := d - 1) hl (by omega) ) gRel_E gRel_E (fun _ q => q) q766 q768 qs2 q221 q769 dX1_total_130 rfl hT31 hy_x1_head (by omega) (Nat.le_of_ble_eq_true rfl) rfl (Nat.le_of_ble_eq_true rfl) (fun x32 hr33 => ?_)
    refine x_if (fun hT34 => ?_)
    refine x_aald (μ := mu_x1_total) (pc := 133) 4 (fun _ => rfl) rfl rfl dX1_total_133 hT34 rfl ?_
    refine x_if (fun hT35 => ?_)
    refine x_fgrN (μ := mu_x1_total) (pc := 134) fX10_0 (by first | exact Or.inl ⟨_, rfl⟩ | exact Or.inr ⟨_, rfl⟩) q600 dX1_total_134 hT35 ?_
    refine x_if (fun hT36 => ?_)
    refine x_callV_pi (μ := mu_x1_total) (pc := 137) (ok_x9_isLike (ω := ω) (l := l) (d := d - 1) hl (by omega) ) gRel_E gRel_E (fun _ q => q) q1564 q1565 q1566 q230 q1567 dX1_total_137 rfl hT36 hy_x9_isLike (by omega) (Nat.le_of_ble_eq_true rfl) rfl (Nat.le_of_ble_eq_true rfl) (fun x37 hr38 => ?_)
    refine x_if_eq (μ := mu_x1_total) (pc := 140) (tgt := 147) dX1_total_140 rfl hr38 ?_ ?_
    · refine x_iconst (μ := mu_x1_total) (pc := 147) dX1_total_147 ?_
      exact x_iret (μ := mu_x1_total) (pc := 148) dX1_total_148 rfl rfl (gRel_E.1 _) (show g32 0 from (by decide))
    · refine x_iconst (μ := mu_x1_total) (pc := 143) dX1_total_143 ?_
      refine x_goto (μ := mu_x1_total) (pc := 144) (tgt := 148) dX1_total_144 rfl ?_
      exact x_iret (μ := mu_x1_total) (pc := 148) dX1_total_148 rfl rfl (gRel_E.1 _) (show g32 1 from (by decide))
  refine x_tabOut (μ := mu_x1_total) (pc := 23) (tgt := 149) dX1_total_23 hv1 (by omega) rfl ?_
  refine x_iconst (μ := mu_x1_total) (pc := 149) dX1_total_149 ?_
  exact x_iret (μ := mu_x1_total) (pc := 150) dX1_total_150 rfl rfl (gRel_E.1 _) (show g32 (-1) from (by decide))
def x1_total (N : Nat) (v0 : Nat) (v1 : Int) (σ : gMem) : Option Int := if v1 < 10 then x1_total_j22 N σ v0 v1  else if 15 < v1 then x1_total_j22 N σ v0 v1  else if mT σ v0 = 1 then if mT σ (mR σ v0 6) = 100 then if 0 ≤ (v1 - 10) ∧ (v1 - 10) < (mN σ (mR σ v0 6) : Int) then some (mI σ (mR σ v0 6) (v1 - 10).toNat) else none else none else none
set_option maxRecDepth 100000 in
theorem ok_x1_total {ω : gW} {l : Launch} {d : Nat} {N : Nat} {σ : gMem} {v0 : Nat} {v1 : Int} (hl : l.stackTraces = false) (hdp : 69 ≤ d) (hv1 : g32 v1) : gK (fun x : Int => (.inl (some (vI x)), σ)) gE ω l d mu_x1_total [vR v0, vI v1] σ (x1_total N v0 v1 σ) := by
  refine gK.of hp_X1 (Nat.le_of_ble_eq_true rfl) ?_
  unfold x1_total
  refine x_iload_n (μ := mu_x1_total) (pc := 0) 1 dX1_total_0 rfl ?_
  refine x_bipush (μ := mu_x1_total) (pc := 1) dX1_total_1 (by decide) ?_
  refine x_icmp_lt (μ := mu_x1_total) (pc := 3) (tgt := 22) dX1_total_3 rfl hv1 (by decide) ?_ ?_
  · exact okj_x1_total_j22 hl hdp hv1
  · refine x_iload_n (μ := mu_x1_total) (pc := 6) 1 dX1_total_6 rfl ?_
    refine x_bipush (μ := mu_x1_total) (pc := 7) dX1_total_7 (by decide) ?_
    refine x_icmp_gt (μ := mu_x1_total) (pc := 9) (tgt := 22) dX1_total_9 rfl hv1 (by decide) ?_ ?_
    · exact okj_x1_total_j22 hl hdp hv1
    · refine x_aload_n (μ := mu_x1_total) (pc := 12) 0 dX1_total_12 rfl ?_
      refine x_if (fun hT39 => ?_)
      refine x_fgr (μ := mu_x1_total) (pc := 13) fX1_6 (by first | exact Or.inl ⟨_, rfl⟩ | exact Or.inr ⟨_, rfl⟩) q651 dX1_total_13 hT39 ?_
      refine x_iload_n (μ := mu_x1_total) (pc := 16) 1 dX1_total_16 rfl ?_
      refine x_bipush (μ := mu_x1_total) (pc := 17) dX1_total_17 (by decide) ?_
      refine x_isub (μ := mu_x1_total) (pc := 19) dX1_total_19 ?_
      refine x_if (fun hT40 => ?_)
      refine x_iald (μ := mu_x1_total) (pc := 20) dX1_total_20 hT40 rfl (fun hr41 => ?_)
      exact x_iret (μ := mu_x1_total) (pc := 21) dX1_total_21 rfl rfl (gRel_E.1 _) (show g32 (mI σ (mR σ v0 6) (v1 - 10).toNat) from hr41)
def x1_insert_j99 (N : Nat) (v0 : Nat) (v1 : Int) (v2 : Int) (v3 : Nat) (v4 : Int) (s : gMem) : Option gR := if mT s v0 = 1 then (x1_with v3 (w32 (v2 - 1)) v4 s).bind (fun x15 => if mT (x15.2) (mR s v0 8) = 8 then (x9_lay N (mR s v0 8) v1 (x15.1) (x15.2)).bind (fun x18 => if mT x18 v3 = 100 then some (.inl (some (vI (w32 ((mN x18 v3 : Int) + 1)))), x18) else none) else none) else none
set_option maxRecDepth 100000 in
theorem okj_x1_insert_j99 {ω : gW} {l : Launch} {d : Nat} {N : Nat} {σ0 : gMem} {s : gMem} {v0 : Nat} {v1 : Int} {v2 : Int} {v3 : Nat} {v4 : Int} (hl : l.stackTraces = false) (hdp : 9 ≤ d) (hv1 : g32 v1) (hv2 : g32 v2) (hv4 : g32 v4) : GG (fun p : gR => p) gE ω l d mu_x1_insert σ0 99 [(0, vR v0), (1, vI v1), (2, vI v2), (3, vR v3), (4, vI v4)] [] s (x1_insert_j99 N v0 v1 v2 v3 v4 s) := by
  unfold x1_insert_j99
  refine x_aload_n (μ := mu_x1_insert) (pc := 99) 0 dX1_insert_99 rfl ?_
  refine x_if (fun hT14 => ?_)
  refine x_fgr (μ := mu_x1_insert) (pc := 100) fX1_8 (by first | exact Or.inl ⟨_, rfl⟩ | exact Or.inr ⟨_, rfl⟩) q653 dX1_insert_100 hT14 ?_
  refine x_iload_n (μ := mu_x1_insert) (pc := 103) 1 dX1_insert_103 rfl ?_
  refine x_aload_n (μ := mu_x1_insert) (pc := 104) 3 dX1_insert_104 rfl ?_
  refine x_iload_n (μ := mu_x1_insert) (pc := 105) 2 dX1_insert_105 rfl ?_
  refine x_iconst (μ := mu_x1_insert) (pc := 106) dX1_insert_106 ?_
  refine x_isub (μ := mu_x1_insert) (pc := 107) dX1_insert_107 ?_
  refine x_iload (μ := mu_x1_insert) (pc := 108) 4 dX1_insert_108 rfl ?_
  refine x_w2 ?_
  refine x_callS_mr (μ := mu_x1_insert) (pc := 110) (ok_x1_with (ω := ω) (l := l) (d := d - 1) hl (by omega) (w32_rng _) hv4) gRel_E gRel_E (fun _ q => q) q2222 q2223 q221 q2224 dX1_insert_110 hy_x1_with (by omega) (Nat.le_of_ble_eq_true rfl) rfl (Nat.le_of_ble_eq_true rfl) (fun x15 k16 => ?_)
  refine x_if (fun hT17 => ?_)
  refine x_callV_mv (μ := mu_x1_insert) (pc := 113) (ok_x9_lay (ω := ω) (l := l) (d := d - 1) hl (by omega) hv1) gRel_E gRel_E (fun _ q => q) q2226 q2227 q2228 q230 q2229 dX1_insert_113 rfl hT17 hy_x9_lay (by omega) (Nat.le_of_ble_eq_true rfl) rfl (Nat.le_of_ble_eq_true rfl) (fun x18 k19 => ?_)
  refine x_aload_n (μ := mu_x1_insert) (pc := 116) 3 dX1_insert_116 rfl ?_
  refine x_if (fun hT20 => ?_)
  refine x_len (μ := mu_x1_insert) (pc := 117) 0 (fun _ => rfl) dX1_insert_117 hT20 ?_
  refine x_iconst (μ := mu_x1_insert) (pc := 118) dX1_insert_118 ?_
  refine x_iadd (μ := mu_x1_insert) (pc := 119) dX1_insert_119 ?_
  refine x_w1 ?_
  exact x_iret (μ := mu_x1_insert) (pc := 120) (a1 := ((.inl (some (vI (w32 ((mN x18 v3 : Int) + 1)))), x18) : gR)) dX1_insert_120 rfl rfl (gRel_E.1 _) (show g32 (w32 ((mN x18 v3 : Int) + 1)) from (w32_rng _))
def x1_insert_j70 (N : Nat) (v0 : Nat) (v1 : Int) (v2 : Int) (v3 : Nat) (t0 : Int) (s : gMem) : Option gR := if v1 ≠ 0 then if mT s v0 = 1 then gLet (wI s v0 22 (w32 ((mI s v0 22) + 1))) (fun s12 => x1_insert_j99 N v0 v1 v2 v3 t0  s12) else none else if mT s v0 = 1 then gLet (wI s v0 21 (w32 ((mI s v0 21) + 1))) (fun s23 => x1_insert_j99 N v0 v1 v2 v3 t0  s23) else none
set_option maxRecDepth 100000 in
theorem okj_x1_insert_j70 {ω : gW} {l : Launch} {d : Nat} {N : Nat} {σ0 : gMem} {s : gMem} {v0 : Nat} {v1 : Int} {v2 : Int} {v3 : Nat} {t0 : Int} (hl : l.stackTraces = false) (hdp : 9 ≤ d) (hv1 : g32 v1) (hv2 : g32 v2) (ht0 : g32 t0) : GG (fun p : gR => p) gE ω l d mu_x1_insert σ0 70 [(0, vR v0), (1, vI v1), (2, vI v2), (3, vR v3)] [vI t0] s (x1_insert_j70 N v0 v1 v2 v3 t0 s) := by
  unfold x1_insert_j70
  refine x_istore (μ := mu_x1_insert) (pc := 70) (lv' := [(4, vI t0), (0, vR v0), (1, vI v1), (2, vI v2), (3, vR v3)]) dX1_insert_70 (by decide) rfl ?_
  refine x_iload_n (μ := mu_x1_insert) (pc := 72) 2 dX1_insert_72 rfl ?_
  refine x_if_ne (μ := mu_x1_insert) (pc := 73) (tgt := 89) dX1_insert_73 rfl hv1 ?_ ?_
  · refine x_aload_n (μ := mu_x1_insert) (pc := 89) 1 dX1_insert_89 rfl ?_
    refine x_dup (μ := mu_x1_insert) (pc := 90) dX1_insert_90 rfl ?_
    refine x_if (fun hT10 => ?_)
    refine x_fgi (μ := mu_x1_insert) (pc := 91) fX1_22 q667 dX1_insert_91 hT10 (fun hr11 => ?_)
    refine x_iconst (μ := mu_x1_insert) (pc := 94) dX1_insert_94 ?_
    refine x_iadd (μ := mu_x1_insert) (pc := 95) dX1_insert_95 ?_
    refine x_w1 ?_
    refine x_fpi (μ := mu_x1_insert) (pc := 96) fX1_22 q667 dX1_insert_96 hT10 (fun _ q => gE_wI q) ?_
    refine x_let (fun s12 e13 => ?_)
    refine x_loc (lv' := [(0, vR v0), (1, vI v1), (2, vI v2), (3, vR v3), (4, vI t0)]) [1, 2, 3, 4, 0] rfl ?_
    exact okj_x1_insert_j99 hl hdp hv1 hv2 ht0
  · refine x_aload_n (μ := mu_x1_insert) (pc := 76) 1 dX1_insert_76 rfl ?_
    refine x_dup (μ := mu_x1_insert) (pc := 77) dX1_insert_77 rfl ?_
    refine x_if (fun hT21 => ?_)
    refine x_fgi (μ := mu_x1_insert) (pc := 78) fX1_21 q666 dX1_insert_78 hT21 (fun hr22 => ?_)
    refine x_iconst (μ := mu_x1_insert) (pc := 81) dX1_insert_81 ?_
    refine x_iadd (μ := mu_x1_insert) (pc := 82) dX1_insert_82 ?_
    refine x_w1 ?_
    refine x_fpi (μ := mu_x1_insert) (pc := 83) fX1_21 q666 dX1_insert_83 hT21 (fun _ q => gE_wI q) ?_
    refine x_let (fun s23 e24 => ?_)
    refine x_goto (μ := mu_x1_insert) (pc := 86) (tgt := 99) dX1_insert_86 rfl ?_
    refine x_loc (lv' := [(0, vR v0), (1, vI v1), (2, vI v2), (3, vR v3), (4, vI t0)]) [1, 2, 3, 4, 0] rfl ?_
    exact okj_x1_insert_j99 hl hdp hv1 hv2 ht0
def x1_insert_j40 (N : Nat) (v0 : Nat) (v1 : Int) (v2 : Int) (v3 : Nat) (t0 : Int) (t1 : Int) (s : gMem) : Option gR := if t1 ≠ t0 then if mT s v0 = 1 then (x1_step N v0 s).bind (fun x7 => if v1 ≠ 0 then x1_insert_j70 N v0 v1 v2 v3 (mI x7 v0 22) x7 else x1_insert_j70 N v0 v1 v2 v3 (mI x7 v0 21) x7) else none else some (.inr "java/lang/IllegalStateException", wX s 6)
set_option maxRecDepth 100000 in
theorem okj_x1_insert_j40 {ω : gW} {l : Launch} {d : Nat} {N : Nat} {σ0 : gMem} {s : gMem} {v0 : Nat} {v1 : Int} {v2 : Int} {v3 : Nat} {t0 : Int} {t1 : Int} (hl : l.stackTraces = false) (hdp : 9 ≤ d) (hv1 : g32 v1) (hv2 : g32 v2) (ht0 : g32 t0) (ht1 : g32 t1) : GG (fun p : gR => p) gE ω l d mu_x1_insert σ0 40 [(0, vR v0), (1, vI v1), (2, vI v2), (3, vR v3)] [vI t0, vI t1] s (x1_insert_j40 N v0 v1 v2 v3 t0 t1 s) := by
  unfold x1_insert_j40
  refine x_icmp_ne (μ := mu_x1_insert) (pc := 40) (tgt := 51) dX1_insert_40 rfl ht1 ht0 ?_ ?_
  · refine x_aload_n (μ := mu_x1_insert) (pc := 51) 0 dX1_insert_51 rfl ?_
    refine x_if (fun hT6 => ?_)
    refine x_callV_mv (μ := mu_x1_insert) (pc := 52) (ok_x1_step (ω := ω) (l := l) (d := d - 1) hl (by omega) ) gRel_E gRel_E (fun _ q => q) q2176 q2178 qs60 q221 q2179 dX1_insert_52 rfl hT6 hy_x1_step (by omega) (Nat.le_of_ble_eq_true rfl) rfl (Nat.le_of_ble_eq_true rfl) (fun x7 k8 => ?_)
    refine x_iload_n (μ := mu_x1_insert) (pc := 55) 1 dX1_insert_55 rfl ?_
    refine x_if_ne (μ := mu_x1_insert) (pc := 56) (tgt := 66) dX1_insert_56 rfl hv1 ?_ ?_
    · refine x_aload_n (μ := mu_x1_insert) (pc := 66) 0 dX1_insert_66 rfl ?_
      refine x_fgi (μ := mu_x1_insert) (pc := 67) fX1_22 q667 dX1_insert_67 (gT_E k8 hT6 (by decide)) (fun hr9 => ?_)
      exact okj_x1_insert_j70 hl hdp hv1 hv2 hr9
    · refine x_aload_n (μ := mu_x1_insert) (pc := 59) 0 dX1_insert_59 rfl ?_
      refine x_fgi (μ := mu_x1_insert) (pc := 60) fX1_21 q666 dX1_insert_60 (gT_E k8 hT6 (by decide)) (fun hr25 => ?_)
      refine x_goto (μ := mu_x1_insert) (pc := 63) (tgt := 70) dX1_insert_63 rfl ?_
      exact okj_x1_insert_j70 hl hdp hv1 hv2 hr25
  · exact x_throw0 (μ := mu_x1_insert) (pc := 43) hl gex_IllegalStateException (by decide) rfl q2207 q259 dX1_insert_43 dX1_insert_46 dX1_insert_47 dX1_insert_50 (by decide) (by omega) (Nat.le_of_ble_eq_true rfl)
def x1_insert (N : Nat) (v0 : Nat) (v1 : Int) (v2 : Int) (σ : gMem) : Option gR := if mT σ v0 = 1 then (x1_marksOf v0 v1 σ).bind (fun p => gThrR p (fun x2 s4 => if v2 < 1 then some (.inr "java/lang/IndexOutOfBoundsException", wX s4 6) else if mT s4 x2 = 100 then if v2 ≤ w32 ((mN s4 x2 : Int) + 1) then if v1 ≠ 0 then x1_insert_j40 N v0 v1 v2 x2 10 (w32 (mN s4 x2 : Int)) s4 else x1_insert_j40 N v0 v1 v2 x2 32 (w32 (mN s4 x2 : Int)) s4 else some (.inr "java/lang/IndexOutOfBoundsException", wX s4 6) else none)) else none
set_option maxRecDepth 100000 in
theorem ok_x1_insert {ω : gW} {l : Launch} {d : Nat} {N : Nat} {σ : gMem} {v0 : Nat} {v1 : Int} {v2 : Int} (hl : l.stackTraces = false) (hdp : 9 ≤ d) (hv1 : g32 v1) (hv2 : g32 v2) : gK (fun p : gR => p) gE ω l d mu_x1_insert [vR v0, vI v1, vI v2] σ (x1_insert N v0 v1 v2 σ) := by
  refine gK.of hp_X1 (Nat.le_of_ble_eq_true rfl) ?_
  unfold x1_insert
  refine x_aload_n (μ := mu_x1_insert) (pc := 0) 0 dX1_insert_0 rfl ?_
  refine x_iload_n (μ := mu_x1_insert) (pc := 1) 1 dX1_insert_1 rfl ?_
  refine x_if (fun hT1 => ?_)
  refine x_callV_xr (μ := mu_x1_insert) (pc := 2) (ok_x1_marksOf (ω := ω) (l := l) (d := d - 1) hl (by omega) hv1) q2199 q2201 qs62 q221 q2202 dX1_insert_2 rfl hT1 hy_x1_marksOf (by omega) (Nat.le_of_ble_eq_true rfl) rfl (Nat.le_of_ble_eq_true rfl) (by decide) (fun x2 s4 k3 => ?_)
  refine x_astore_n (μ := mu_x1_insert) (pc := 5) (lv' := [(3, vR x2), (0, vR v0), (1, vI v1), (2, vI v2)]) dX1_insert_5 rfl (by decide) rfl ?_
  refine x_iload_n (μ := mu_x1_insert) (pc := 6) 3 dX1_insert_6 rfl ?_
  refine x_iconst (μ := mu_x1_insert) (pc := 7) dX1_insert_7 ?_
  refine x_icmp_lt (μ := mu_x1_insert) (pc := 8) (tgt := 19) dX1_insert_8 rfl hv2 (by decide) ?_ ?_
  · exact x_throw0 (μ := mu_x1_insert) (pc := 19) hl gex_IndexOutOfBoundsException (by decide) rfl q1762 q236 dX1_insert_19 dX1_insert_22 dX1_insert_23 dX1_insert_26 (by decide) (by omega) (Nat.le_of_ble_eq_true rfl)
  · refine x_iload_n (μ := mu_x1_insert) (pc := 11) 3 dX1_insert_11 rfl ?_
    refine x_aload_n (μ := mu_x1_insert) (pc := 12) 0 dX1_insert_12 rfl ?_
    refine x_if (fun hT5 => ?_)
    refine x_len (μ := mu_x1_insert) (pc := 13) 0 (fun _ => rfl) dX1_insert_13 hT5 ?_
    refine x_iconst (μ := mu_x1_insert) (pc := 14) dX1_insert_14 ?_
    refine x_iadd (μ := mu_x1_insert) (pc := 15) dX1_insert_15 ?_
    refine x_w1 ?_
    refine x_icmp_le (μ := mu_x1_insert) (pc := 16) (tgt := 27) dX1_insert_16 rfl hv2 (w32_rng _) ?_ ?_
    · refine x_aload_n (μ := mu_x1_insert) (pc := 27) 0 dX1_insert_27 rfl ?_
      refine x_len (μ := mu_x1_insert) (pc := 28) 0 (fun _ => rfl) dX1_insert_28 hT5 ?_
      refine x_iload_n (μ := mu_x1_insert) (pc := 29) 2 dX1_insert_29 rfl ?_
      refine x_if_ne (μ := mu_x1_insert) (pc := 30) (tgt := 38) dX1_insert_30 rfl hv1 ?_ ?_
      · refine x_bipush (μ := mu_x1_insert) (pc := 38) dX1_insert_38 (by decide) ?_
        refine x_w2 ?_
        refine x_loc (lv' := [(0, vR v0), (1, vI v1), (2, vI v2), (3, vR x2)]) [1, 2, 3, 0] rfl ?_
        exact okj_x1_insert_j40 hl hdp hv1 hv2 (by decide) (w32_rng _)
      · refine x_bipush (μ := mu_x1_insert) (pc := 33) dX1_insert_33 (by decide) ?_
        refine x_goto (μ := mu_x1_insert) (pc := 35) (tgt := 40) dX1_insert_35 rfl ?_
        refine x_w2 ?_
        refine x_loc (lv' := [(0, vR v0), (1, vI v1), (2, vI v2), (3, vR x2)]) [1, 2, 3, 0] rfl ?_
        exact okj_x1_insert_j40 hl hdp hv1 hv2 (by decide) (w32_rng _)
    · exact x_throw0 (μ := mu_x1_insert) (pc := 19) hl gex_IndexOutOfBoundsException (by decide) rfl q1762 q236 dX1_insert_19 dX1_insert_22 dX1_insert_23 dX1_insert_26 (by decide) (by omega) (Nat.le_of_ble_eq_true rfl)
def x1_remove (N : Nat) (v0 : Nat) (v1 : Int) (v2 : Int) (σ : gMem) : Option gR := if mT σ v0 = 1 then (x1_marksOf v0 v1 σ).bind (fun p => gThrR p (fun x2 s4 => if v2 < 1 then some (.inr "java/lang/IndexOutOfBoundsException", wX s4 6) else if mT s4 x2 = 100 then if v2 ≤ w32 (mN s4 x2 : Int) then if w32 (mN s4 x2 : Int) ≠ 1 then (x1_step N v0 s4).bind (fun x6 => (x1_without x2 (w32 (v2 - 1)) x6).bind (fun x8 => if mT (x8.2) (mR x6 v0 8) = 8 then (x9_lay N (mR x6 v0 8) v1 (x8.1) (x8.2)).bind (fun x11 => some (.inl (some (vI (w32 ((mN x11 x2 : Int) - 1)))), x11)) else none)) else some (.inr "java/lang/IllegalStateException", wX s4 6) else some (.inr "java/lang/IndexOutOfBoundsException", wX s4 6) else none)) else none
set_option maxRecDepth 100000 in
theorem ok_x1_remove {ω : gW} {l : Launch} {d : Nat} {N : Nat} {σ : gMem} {v0 : Nat} {v1 : Int} {v2 : Int} (hl : l.stackTraces = false) (hdp : 9 ≤ d) (hv1 : g32 v1) (hv2 : g32 v2) : gK (fun p : gR => p) gE ω l d mu_x1_remove [vR v0, vI v1, vI v2] σ (x1_remove N v0 v1 v2 σ) := by
  refine gK.of hp_X1 (Nat.le_of_ble_eq_true rfl) ?_
  unfold x1_remove
  refine x_aload_n (μ := mu_x1_remove) (pc := 0) 0 dX1_remove_0 rfl ?_
  refine x_iload_n (μ := mu_x1_remove) (pc := 1) 1 dX1_remove_1 rfl ?_
  refine x_if (fun hT1 => ?_)
  refine x_callV_xr (μ := mu_x1_remove) (pc := 2) (ok_x1_marksOf (ω := ω) (l := l) (d := d - 1) hl (by omega) hv1) q2199 q2201 qs62 q221 q2202 dX1_remove_2 rfl hT1 hy_x1_marksOf (by omega) (Nat.le_of_ble_eq_true rfl) rfl (Nat.le_of_ble_eq_true rfl) (by decide) (fun x2 s4 k3 => ?_)
  refine x_astore_n (μ := mu_x1_remove) (pc := 5) (lv' := [(3, vR x2), (0, vR v0), (1, vI v1), (2, vI v2)]) dX1_remove_5 rfl (by decide) rfl ?_
  refine x_iload_n (μ := mu_x1_remove) (pc := 6) 3 dX1_remove_6 rfl ?_
  refine x_iconst (μ := mu_x1_remove) (pc := 7) dX1_remove_7 ?_
  refine x_icmp_lt (μ := mu_x1_remove) (pc := 8) (tgt := 17) dX1_remove_8 rfl hv2 (by decide) ?_ ?_
  · exact x_throw0 (μ := mu_x1_remove) (pc := 17) hl gex_IndexOutOfBoundsException (by decide) rfl q1762 q236 dX1_remove_17 dX1_remove_20 dX1_remove_21 dX1_remove_24 (by decide) (by omega) (Nat.le_of_ble_eq_true rfl)
  · refine x_iload_n (μ := mu_x1_remove) (pc := 11) 3 dX1_remove_11 rfl ?_
    refine x_aload_n (μ := mu_x1_remove) (pc := 12) 0 dX1_remove_12 rfl ?_
    refine x_if (fun hT5 => ?_)
    refine x_len (μ := mu_x1_remove) (pc := 13) 0 (fun _ => rfl) dX1_remove_13 hT5 ?_
    refine x_w1 ?_
    refine x_icmp_le (μ := mu_x1_remove) (pc := 14) (tgt := 25) dX1_remove_14 rfl hv2 (w32_rng _) ?_ ?_
    · refine x_aload_n (μ := mu_x1_remove) (pc := 25) 0 dX1_remove_25 rfl ?_
      refine x_len (μ := mu_x1_remove) (pc := 26) 0 (fun _ => rfl) dX1_remove_26 hT5 ?_
      refine x_iconst (μ := mu_x1_remove) (pc := 27) dX1_remove_27 ?_
      refine x_w2 ?_
      refine x_icmp_ne (μ := mu_x1_remove) (pc := 28) (tgt := 39) dX1_remove_28 rfl (w32_rng _) (by decide) ?_ ?_
      · refine x_aload_n (μ := mu_x1_remove) (pc := 39) 1 dX1_remove_39 rfl ?_
        refine x_callV_mv (μ := mu_x1_remove) (pc := 40) (ok_x1_step (ω := ω) (l := l) (d := d - 1) hl (by omega) ) gRel_E gRel_E (fun _ q => q) q2176 q2178 qs60 q221 q2179 dX1_remove_40 rfl (gT_E k3 hT1 (by decide)) hy_x1_step (by omega) (Nat.le_of_ble_eq_true rfl) rfl (Nat.le_of_ble_eq_true rfl) (fun x6 k7 => ?_)
        refine x_aload_n (μ := mu_x1_remove) (pc := 43) 1 dX1_remove_43 rfl ?_
        refine x_fgr (μ := mu_x1_remove) (pc := 44) fX1_8 (by first | exact Or.inl ⟨_, rfl⟩ | exact Or.inr ⟨_, rfl⟩) q653 dX1_remove_44 (gT_E k7 (gT_E k3 hT1 (by decide)) (by decide)) ?_
        refine x_iload_n (μ := mu_x1_remove) (pc := 47) 2 dX1_remove_47 rfl ?_
        refine x_aload_n (μ := mu_x1_remove) (pc := 48) 0 dX1_remove_48 rfl ?_
        refine x_iload_n (μ := mu_x1_remove) (pc := 49) 3 dX1_remove_49 rfl ?_
        refine x_iconst (μ := mu_x1_remove) (pc := 50) dX1_remove_50 ?_
        refine x_isub (μ := mu_x1_remove) (pc := 51) dX1_remove_51 ?_
        refine x_w1 ?_
        refine x_callS_mr (μ := mu_x1_remove) (pc := 52) (ok_x1_without (ω := ω) (l := l) (d := d - 1) hl (by omega) (w32_rng _)) gRel_E gRel_E (fun _ q => q) q2247 q2248 q221 q2249 dX1_remove_52 hy_x1_without (by omega) (Nat.le_of_ble_eq_true rfl) rfl (Nat.le_of_ble_eq_true rfl) (fun x8 k9 => ?_)
        refine x_if (fun hT10 => ?_)
        refine x_callV_mv (μ := mu_x1_remove) (pc := 55) (ok_x9_lay (ω := ω) (l := l) (d := d - 1) hl (by omega) hv1) gRel_E gRel_E (fun _ q => q) q2226 q2227 q2228 q230 q2229 dX1_remove_55 rfl hT10 hy_x9_lay (by omega) (Nat.le_of_ble_eq_true rfl) rfl (Nat.le_of_ble_eq_true rfl) (fun x11 k12 => ?_)
        refine x_aload_n (μ := mu_x1_remove) (pc := 58) 0 dX1_remove_58 rfl ?_
        refine x_len (μ := mu_x1_remove) (pc := 59) 0 (fun _ => rfl) dX1_remove_59 (gT_E k12 (gT_E k9 (gT_E k7 hT5 (by decide)) (by decide)) (by decide)) ?_
        refine x_iconst (μ := mu_x1_remove) (pc := 60) dX1_remove_60 ?_
        refine x_isub (μ := mu_x1_remove) (pc := 61) dX1_remove_61 ?_
        refine x_w1 ?_
        exact x_iret (μ := mu_x1_remove) (pc := 62) (a1 := ((.inl (some (vI (w32 ((mN x11 x2 : Int) - 1)))), x11) : gR)) dX1_remove_62 rfl rfl (gRel_E.1 _) (show g32 (w32 ((mN x11 x2 : Int) - 1)) from (w32_rng _))
      · exact x_throw0 (μ := mu_x1_remove) (pc := 31) hl gex_IllegalStateException (by decide) rfl q2207 q259 dX1_remove_31 dX1_remove_34 dX1_remove_35 dX1_remove_38 (by decide) (by omega) (Nat.le_of_ble_eq_true rfl)
    · exact x_throw0 (μ := mu_x1_remove) (pc := 17) hl gex_IndexOutOfBoundsException (by decide) rfl q1762 q236 dX1_remove_17 dX1_remove_20 dX1_remove_21 dX1_remove_24 (by decide) (by omega) (Nat.le_of_ble_eq_true rfl)
def x1_move (N : Nat) (v0 : Nat) (v1 : Int) (v2 : Int) (v3 : Int) (σ : gMem) : Option gR := if mT σ v0 = 1 then (x1_marksOf v0 v1 σ).bind (fun p => gThrR p (fun x2 s4 => if v2 < 1 then some (.inr "java/lang/IndexOutOfBoundsException", wX s4 6) else if mT s4 x2 = 100 then if w32 (mN s4 x2 : Int) < v2 then some (.inr "java/lang/IndexOutOfBoundsException", wX s4 6) else if v3 < 1 then some (.inr "java/lang/IndexOutOfBoundsException", wX s4 6) else if v3 ≤ w32 (mN s4 x2 : Int) then (x1_step N v0 s4).bind (fun x6 => (x1_without x2 (w32 (v2 - 1)) x6).bind (fun x8 => if 0 ≤ (v2 - 1) ∧ (v2 - 1) < (mN (x8.2) x2 : Int) then (x1_with (x8.1) (w32 (v3 - 1)) (mI (x8.2) x2 (v2 - 1).toNat) (x8.2)).bind (fun x11 => if mT (x11.2) (mR x6 v0 8) = 8 then (x9_lay N (mR x6 v0 8) v1 (x11.1) (x11.2)).bind (fun x14 => if v2 ≠ v3 then some (.inl (some (vI (w32 ((if 0 ≤ (w32 (v2 - v3)) then (w32 (v2 - v3)) else 0 - (w32 (v2 - v3))) + 1)))), x14) else some (.inl (some (vI 0)), x14)) else none) else none)) else some (.inr "java/lang/IndexOutOfBoundsException", wX s4 6) else none)) else none
set_option maxRecDepth 100000 in
theorem ok_x1_move {ω : gW} {l : Launch} {d : Nat} {N : Nat} {σ : gMem} {v0 : Nat} {v1 : Int} {v2 : Int} {v3 : Int} (hl : l.stackTraces = false) (hdp : 9 ≤ d) (hv1 : g32 v1) (hv2 : g32 v2) (hv3 : g32 v3) : gK (fun p : gR => p) gE ω l d mu_x1_move [vR v0, vI v1, vI v2, vI v3] σ (x1_move N v0 v1 v2 v3 σ) := by
  refine gK.of hp_X1 (Nat.le_of_ble_eq_true rfl) ?_
  unfold x1_move
  refine x_aload_n (μ := mu_x1_move) (pc := 0) 0 dX1_move_0 rfl ?_
  refine x_iload_n (μ := mu_x1_move) (pc := 1) 1 dX1_move_1 rfl ?_
  refine x_if (fun hT1 => ?_)
  refine x_callV_xr (μ := mu_x1_move) (pc := 2) (ok_x1_marksOf (ω := ω) (l := l) (d := d - 1) hl (by omega) hv1) q2199 q2201 qs62 q221 q2202 dX1_move_2 rfl hT1 hy_x1_marksOf (by omega) (Nat.le_of_ble_eq_true rfl) rfl (Nat.le_of_ble_eq_true rfl) (by decide) (fun x2 s4 k3 => ?_)
  refine x_astore (μ := mu_x1_move) (pc := 5) (lv' := [(4, vR x2), (0, vR v0), (1, vI v1), (2, vI v2), (3, vI v3)]) dX1_move_5 (by decide) rfl ?_
  refine x_iload_n (μ := mu_x1_move) (pc := 7) 3 dX1_move_7 rfl ?_
  refine x_iconst (μ := mu_x1_move) (pc := 8) dX1_move_8 ?_
  refine x_icmp_lt (μ := mu_x1_move) (pc := 9) (tgt := 31) dX1_move_9 rfl hv2 (by decide) ?_ ?_
  · exact x_throw0 (μ := mu_x1_move) (pc := 31) hl gex_IndexOutOfBoundsException (by decide) rfl q1762 q236 dX1_move_31 dX1_move_34 dX1_move_35 dX1_move_38 (by decide) (by omega) (Nat.le_of_ble_eq_true rfl)
  · refine x_iload_n (μ := mu_x1_move) (pc := 12) 3 dX1_move_12 rfl ?_
    refine x_aload (μ := mu_x1_move) (pc := 13) 0 dX1_move_13 rfl ?_
    refine x_if (fun hT5 => ?_)
    refine x_len (μ := mu_x1_move) (pc := 15) 0 (fun _ => rfl) dX1_move_15 hT5 ?_
    refine x_w1 ?_
    refine x_icmp_gt (μ := mu_x1_move) (pc := 16) (tgt := 31) dX1_move_16 rfl hv2 (w32_rng _) ?_ ?_
    · exact x_throw0 (μ := mu_x1_move) (pc := 31) hl gex_IndexOutOfBoundsException (by decide) rfl q1762 q236 dX1_move_31 dX1_move_34 dX1_move_35 dX1_move_38 (by decide) (by omega) (Nat.le_of_ble_eq_true rfl)
    · refine x_iload_n (μ := mu_x1_move) (pc := 19) 4 dX1_move_19 rfl ?_
      refine x_iconst (μ := mu_x1_move) (pc := 20) dX1_move_20 ?_
      refine x_icmp_lt (μ := mu_x1_move) (pc := 21) (tgt := 31) dX1_move_21 rfl hv3 (by decide) ?_ ?_
      · exact x_throw0 (μ := mu_x1_move) (pc := 31) hl gex_IndexOutOfBoundsException (by decide) rfl q1762 q236 dX1_move_31 dX1_move_34 dX1_move_35 dX1_move_38 (by decide) (by omega) (Nat.le_of_ble_eq_true rfl)
      · refine x_iload_n (μ := mu_x1_move) (pc := 24) 4 dX1_move_24 rfl ?_
        refine x_aload (μ := mu_x1_move) (pc := 25) 0 dX1_move_25 rfl ?_
        refine x_len (μ := mu_x1_move) (pc := 27) 0 (fun _ => rfl) dX1_move_27 hT5 ?_
        refine x_w1 ?_
        refine x_icmp_le (μ := mu_x1_move) (pc := 28) (tgt := 39) dX1_move_28 rfl hv3 (w32_rng _) ?_ ?_
        · refine x_aload_n (μ := mu_x1_move) (pc := 39) 1 dX1_move_39 rfl ?_
          refine x_callV_mv (μ := mu_x1_move) (pc := 40) (ok_x1_step (ω := ω) (l := l) (d := d - 1) hl (by omega) ) gRel_E gRel_E (fun _ q => q) q2176 q2178 qs60 q221 q2179 dX1_move_40 rfl (gT_E k3 hT1 (by decide)) hy_x1_step (by omega) (Nat.le_of_ble_eq_true rfl) rfl (Nat.le_of_ble_eq_true rfl) (fun x6 k7 => ?_)
          refine x_aload_n (μ := mu_x1_move) (pc := 43) 1 dX1_move_43 rfl ?_
          refine x_fgr (μ := mu_x1_move) (pc := 44) fX1_8 (by first | exact Or.inl ⟨_, rfl⟩ | exact Or.inr ⟨_, rfl⟩) q653 dX1_move_44 (gT_E k7 (gT_E k3 hT1 (by decide)) (by decide)) ?_
          refine x_iload_n (μ := mu_x1_move) (pc := 47) 2 dX1_move_47 rfl ?_
          refine x_aload (μ := mu_x1_move) (pc := 48) 0 dX1_move_48 rfl ?_
          refine x_iload_n (μ := mu_x1_move) (pc := 50) 3 dX1_move_50 rfl ?_
          refine x_iconst (μ := mu_x1_move) (pc := 51) dX1_move_51 ?_
          refine x_isub (μ := mu_x1_move) (pc := 52) dX1_move_52 ?_
          refine x_w1 ?_
          refine x_callS_mr (μ := mu_x1_move) (pc := 53) (ok_x1_without (ω := ω) (l := l) (d := d - 1) hl (by omega) (w32_rng _)) gRel_E gRel_E (fun _ q => q) q2247 q2248 q221 q2249 dX1_move_53 hy_x1_without (by omega) (Nat.le_of_ble_eq_true rfl) rfl (Nat.le_of_ble_eq_true rfl) (fun x8 k9 => ?_)
          refine x_iload_n (μ := mu_x1_move) (pc := 56) 4 dX1_move_56 rfl ?_
          refine x_iconst (μ := mu_x1_move) (pc := 57) dX1_move_57 ?_
          refine x_isub (μ := mu_x1_move) (pc := 58) dX1_move_58 ?_
          refine x_aload (μ := mu_x1_move) (pc := 59) 0 dX1_move_59 rfl ?_
          refine x_iload_n (μ := mu_x1_move) (pc := 61) 3 dX1_move_61 rfl ?_
          refine x_iconst (μ := mu_x1_move) (pc := 62) dX1_move_62 ?_
          refine x_isub (μ := mu_x1_move) (pc := 63) dX1_move_63 ?_
          refine x_iald (μ := mu_x1_move) (pc := 64) dX1_move_64 (gT_E k9 (gT_E k7 hT5 (by decide)) (by decide)) rfl (fun hr10 => ?_)
          refine x_w2 ?_
          refine x_callS_mr (μ := mu_x1_move) (pc := 65) (ok_x1_with (ω := ω) (l := l) (d := d - 1) hl (by omega) (w32_rng _) hr10) gRel_E gRel_E (fun _ q => q) q2222 q2223 q221 q2224 dX1_move_65 hy_x1_with (by omega) (Nat.le_of_ble_eq_true rfl) rfl (Nat.le_of_ble_eq_true rfl) (fun x11 k12 => ?_)
          refine x_if (fun hT13 => ?_)
          refine x_callV_mv (μ := mu_x1_move) (pc := 68) (ok_x9_lay (ω := ω) (l := l) (d := d - 1) hl (by omega) hv1) gRel_E gRel_E (fun _ q => q) q2226 q2227 q2228 q230 q2229 dX1_move_68 rfl hT13 hy_x9_lay (by omega) (Nat.le_of_ble_eq_true rfl) rfl (Nat.le_of_ble_eq_true rfl) (fun x14 k15 => ?_)
          refine x_iload_n (μ := mu_x1_move) (pc := 71) 3 dX1_move_71 rfl ?_
          refine x_iload_n (μ := mu_x1_move) (pc := 72) 4 dX1_move_72 rfl ?_
          refine x_icmp_ne (μ := mu_x1_move) (pc := 73) (tgt := 80) dX1_move_73 rfl hv2 hv3 ?_ ?_
          · refine x_iload_n (μ := mu_x1_move) (pc := 80) 3 dX1_move_80 rfl ?_
            refine x_iload_n (μ := mu_x1_move) (pc := 81) 4 dX1_move_81 rfl ?_
            refine x_isub (μ := mu_x1_move) (pc := 82) dX1_move_82 ?_
            refine x_w1 ?_
            refine x_mabs (μ := mu_x1_move) (pc := 83) q2257 dX1_move_83 (w32_rng _) (by omega) (Nat.le_of_ble_eq_true rfl) ?_
            refine x_iconst (μ := mu_x1_move) (pc := 86) dX1_move_86 ?_
            refine x_iadd (μ := mu_x1_move) (pc := 87) dX1_move_87 ?_
            refine x_w1 ?_
            exact x_iret (μ := mu_x1_move) (pc := 88) (a1 := ((.inl (some (vI (w32 ((if 0 ≤ (w32 (v2 - v3)) then (w32 (v2 - v3)) else 0 - (w32 (v2 - v3))) + 1)))), x14) : gR)) dX1_move_88 rfl rfl (gRel_E.1 _) (show g32 (w32 ((if 0 ≤ (w32 (v2 - v3)) then (w32 (v2 - v3)) else 0 - (w32 (v2 - v3))) + 1)) from (w32_rng _))
          · refine x_iconst (μ := mu_x1_move) (pc := 76) dX1_move_76 ?_
            refine x_goto (μ := mu_x1_move) (pc := 77) (tgt := 88) dX1_move_77 rfl ?_
            exact x_iret (μ := mu_x1_move) (pc := 88) (a1 := ((.inl (some (vI 0)), x14) : gR)) dX1_move_88 rfl rfl (gRel_E.1 _) (show g32 0 from (by decide))
        · exact x_throw0 (μ := mu_x1_move) (pc := 31) hl gex_IndexOutOfBoundsException (by decide) rfl q1762 q236 dX1_move_31 dX1_move_34 dX1_move_35 dX1_move_38 (by decide) (by omega) (Nat.le_of_ble_eq_true rfl)
def x1_go (N : Nat) (v0 : Nat) (v1 : Int) (σ : gMem) : Option gR := (x1_isBranch v1 σ).bind (fun x1 => if x1 ≠ 0 then if mT σ v0 = 1 then if mT σ (mR σ v0 6) = 100 then if 0 ≤ v1 ∧ v1 < (mN σ (mR σ v0 6) : Int) then if mI σ (mR σ v0 6) v1.toNat ≠ (-1) then (x1_isBusy N v0 σ).bind (fun x6 => if x6 ≠ 0 then some (.inr "java/lang/IllegalStateException", wX σ 6) else (x1_head v0 σ).bind (fun x8 => if mT σ (mR σ v0 4) = 104 then if 0 ≤ x8 ∧ x8 < (mN σ (mR σ v0 4) : Int) then if mT σ (mR σ (mR σ v0 4) x8.toNat) = 9 then if mT σ (mR σ v0 8) = 8 then (x9_isLike N (mR σ v0 8) (mR σ (mR σ (mR σ v0 4) x8.toNat) 0) σ).bind (fun x13 => if x13 ≠ 0 then gLet (wI σ v0 7 v1) (fun s15 => (x1_take N v0 s15).bind (fun x17 => (x1_head v0 x17).bind (fun x19 => some (.inl (some (vI x19)), x17)))) else some (.inr "java/lang/IllegalStateException", wX σ 6)) else none else none else none else none)) else some (.inr "java/util/NoSuchElementException", wX σ 6) else none else none else none else some (.inr "java/lang/IndexOutOfBoundsException", wX σ 6))
set_option maxRecDepth 100000 in
theorem ok_x1_go {ω : gW} {l : Launch} {d : Nat} {N : Nat} {σ : gMem} {v0 : Nat} {v1 : Int} (hl : l.stackTraces = false) (hdp : 69 ≤ d) (hv1 : g32 v1) : gK (fun p : gR => p) gE ω l d mu_x1_go [vR v0, vI v1] σ (x1_go N v0 v1 σ) := by
  refine gK.of hp_X1 (Nat.le_of_ble_eq_true rfl) ?_
  unfold x1_go
  refine x_iload_n (μ := mu_x1_go) (pc := 0) 1 dX1_go_0 rfl ?_
  refine x_callS_pi (μ := mu_x1_go) (pc := 1) (ok_x1_isBranch (ω := ω) (l := l) (d := d - 1) hl (by omega) hv1) gRel_E gRel_E (fun _ q => q) q2437 q2438 q221 q2439 dX1_go_1 hy_x1_isBranch (by omega) (Nat.le_of_ble_eq_true rfl) rfl (Nat.le_of_ble_eq_true rfl) (fun x1 hr2 => ?_)
  refine x_if_ne (μ := mu_x1_go) (pc := 4) (tgt := 15) dX1_go_4 rfl hr2 ?_ ?_
  · refine x_aload_n (μ := mu_x1_go) (pc := 15) 0 dX1_go_15 rfl ?_
    refine x_if (fun hT3 => ?_)
    refine x_fgr (μ := mu_x1_go) (pc := 16) fX1_6 (by first | exact Or.inl ⟨_, rfl⟩ | exact Or.inr ⟨_, rfl⟩) q651 dX1_go_16 hT3 ?_
    refine x_iload_n (μ := mu_x1_go) (pc := 19) 1 dX1_go_19 rfl ?_
    refine x_if (fun hT4 => ?_)
    refine x_iald (μ := mu_x1_go) (pc := 20) dX1_go_20 hT4 rfl (fun hr5 => ?_)
    refine x_iconst (μ := mu_x1_go) (pc := 21) dX1_go_21 ?_
    refine x_icmp_ne (μ := mu_x1_go) (pc := 22) (tgt := 33) dX1_go_22 rfl hr5 (by decide) ?_ ?_
    · refine x_aload_n (μ := mu_x1_go) (pc := 33) 0 dX1_go_33 rfl ?_
      refine x_callV_pi (μ := mu_x1_go) (pc := 34) (ok_x1_isBusy (ω := ω) (l := l) (d := d - 1) hl (by omega) ) gRel_E gRel_E (fun _ q => q) q2447 q2449 qs64 q221 q2450 dX1_go_34 rfl hT3 hy_x1_isBusy (by omega) (Nat.le_of_ble_eq_true rfl) rfl (Nat.le_of_ble_eq_true rfl) (fun x6 hr7 => ?_)
      refine x_if_ne (μ := mu_x1_go) (pc := 37) (tgt := 62) dX1_go_37 rfl hr7 ?_ ?_
      · exact x_throw0 (μ := mu_x1_go) (pc := 62) hl gex_IllegalStateException (by decide) rfl q2207 q259 dX1_go_62 dX1_go_65 dX1_go_66 dX1_go_69 (by decide) (by omega) (Nat.le_of_ble_eq_true rfl)
      · refine x_aload_n (μ := mu_x1_go) (pc := 40) 0 dX1_go_40 rfl ?_
        refine x_fgr (μ := mu_x1_go) (pc := 41) fX1_8 (by first | exact Or.inl ⟨_, rfl⟩ | exact Or.inr ⟨_, rfl⟩) q653 dX1_go_41 hT3 ?_
        refine x_aload_n (μ := mu_x1_go) (pc := 44) 0 dX1_go_44 rfl ?_
        refine x_fgr (μ := mu_x1_go) (pc := 45) fX1_4 (by first | exact Or.inl ⟨_, rfl⟩ | exact Or.inr ⟨_, rfl⟩) q649 dX1_go_45 hT3 ?_
        refine x_aload_n (μ := mu_x1_go) (pc := 48) 0 dX1_go_48 rfl ?_
        refine x_callV_pi (μ := mu_x1_go) (pc := 49) (ok_x1_head (ω := ω) (l := l) (d := d - 1) hl (by omega) ) gRel_E gRel_E (fun _ q => q) q766 q768 qs2 q221 q769 dX1_go_49 rfl hT3 hy_x1_head (by omega) (Nat.le_of_ble_eq_true rfl) rfl (Nat.le_of_ble_eq_true rfl) (fun x8 hr9 => ?_)
        refine x_if (fun hT10 => ?_)
        refine x_aald (μ := mu_x1_go) (pc := 52) 4 (fun _ => rfl) rfl rfl dX1_go_52 hT10 rfl ?_
        refine x_if (fun hT11 => ?_)
        refine x_fgrN (μ := mu_x1_go) (pc := 53) fX10_0 (by first | exact Or.inl ⟨_, rfl⟩ | exact Or.inr ⟨_, rfl⟩) q600 dX1_go_53 hT11 ?_
        refine x_if (fun hT12 => ?_)
        refine x_callV_pi (μ := mu_x1_go) (pc := 56) (ok_x9_isLike (ω := ω) (l := l) (d := d - 1) hl (by omega) ) gRel_E gRel_E (fun _ q => q) q1564 q1565 q1566 q230 q1567 dX1_go_56 rfl hT12 hy_x9_isLike (by omega) (Nat.le_of_ble_eq_true rfl) rfl (Nat.le_of_ble_eq_true rfl) (fun x13 hr14 => ?_)
        refine x_if_ne (μ := mu_x1_go) (pc := 59) (tgt := 70) dX1_go_59 rfl hr14 ?_ ?_
        · refine x_aload_n (μ := mu_x1_go) (pc := 70) 0 dX1_go_70 rfl ?_
          refine x_iload_n (μ := mu_x1_go) (pc := 71) 1 dX1_go_71 rfl ?_
          refine x_fpi (μ := mu_x1_go) (pc := 72) fX1_7 q652 dX1_go_72 hT3 (fun _ q => gE_wI q) ?_
          refine x_let (fun s15 e16 => ?_)
          refine x_aload_n (μ := mu_x1_go) (pc := 75) 0 dX1_go_75 rfl ?_
          refine x_callV_mv (μ := mu_x1_go) (pc := 76) (ok_x1_take (ω := ω) (l := l) (d := d - 1) hl (by omega) ) gRel_E gRel_E (fun _ q => q) q762 q764 qs1 q221 q765 dX1_go_76 rfl (gT_I e16 hT3) hy_x1_take (by omega) (Nat.le_of_ble_eq_true rfl) rfl (Nat.le_of_ble_eq_true rfl) (fun x17 k18 => ?_)
          refine x_aload_n (μ := mu_x1_go) (pc := 79) 0 dX1_go_79 rfl ?_
          refine x_callV_pi (μ := mu_x1_go) (pc := 80) (ok_x1_head (ω := ω) (l := l) (d := d - 1) hl (by omega) ) gRel_E gRel_E (fun _ q => q) q766 q768 qs2 q221 q769 dX1_go_80 rfl (gT_E k18 (gT_I e16 hT3) (by decide)) hy_x1_head (by omega) (Nat.le_of_ble_eq_true rfl) rfl (Nat.le_of_ble_eq_true rfl) (fun x19 hr20 => ?_)
          exact x_iret (μ := mu_x1_go) (pc := 83) (a1 := ((.inl (some (vI x19)), x17) : gR)) dX1_go_83 rfl rfl (gRel_E.1 _) (show g32 x19 from hr20)
        · exact x_throw0 (μ := mu_x1_go) (pc := 62) hl gex_IllegalStateException (by decide) rfl q2207 q259 dX1_go_62 dX1_go_65 dX1_go_66 dX1_go_69 (by decide) (by omega) (Nat.le_of_ble_eq_true rfl)
    · exact x_throw0 (μ := mu_x1_go) (pc := 25) hl gex_NoSuchElementException (by decide) rfl q2397 q265 dX1_go_25 dX1_go_28 dX1_go_29 dX1_go_32 (by decide) (by omega) (Nat.le_of_ble_eq_true rfl)
  · exact x_throw0 (μ := mu_x1_go) (pc := 7) hl gex_IndexOutOfBoundsException (by decide) rfl q1762 q236 dX1_go_7 dX1_go_10 dX1_go_11 dX1_go_14 (by decide) (by omega) (Nat.le_of_ble_eq_true rfl)
def x1_choose_j156 (N : Nat) (v0 : Nat) (v4 : Int) (t0 : Int) (t1 : Nat) (s : gMem) : Option gR := (x9_placeOf N t1 t0 s).bind (fun x18 => if x18 = (-1) then if mT s v0 = 1 then (x1_unsettled N v0 s).bind (fun x21 => some (.inl (some (vI x21)), s)) else none else if mT s v0 = 1 then if mT s (mR s v0 8) = 8 then (x9_marks (mR s v0 8) v4 s).bind (fun x25 => if mT s x25 = 100 then if w32 (mN s x25 : Int) ≤ 1 then (x1_unsettled N v0 s).bind (fun x27 => some (.inl (some (vI x27)), s)) else (x9_marks (mR s v0 8) v4 s).bind (fun x29 => (x1_without x29 x18 s).bind (fun x30 => (x9_lay N (mR s v0 8) v4 (x30.1) (x30.2)).bind (fun x32 => (x1_unsettled N v0 x32).bind (fun x34 => some (.inl (some (vI x34)), x32))))) else none) else none else none)
set_option maxRecDepth 100000 in
theorem okj_x1_choose_j156 {ω : gW} {l : Launch} {d : Nat} {N : Nat} {σ0 : gMem} {s : gMem} {v0 : Nat} {v4 : Int} {t0 : Int} {t1 : Nat} (hl : l.stackTraces = false) (hdp : 8 ≤ d) (hv4 : g32 v4) (ht0 : g32 t0) : GG (fun p : gR => p) gE ω l d mu_x1_choose σ0 156 [(0, vR v0), (4, vI v4)] [vI t0, vR t1] s (x1_choose_j156 N v0 v4 t0 t1 s) := by
  unfold x1_choose_j156
  refine x_callSN_pi (μ := mu_x1_choose) (pc := 156) (ok_x9_placeOf (ω := ω) (l := l) (d := d - 1) hl (by omega) ht0) gRel_E gRel_E (fun _ q => q) q2589 q783 q230 q784 dX1_choose_156 hy_x9_placeOf (by omega) (Nat.le_of_ble_eq_true rfl) rfl (Nat.le_of_ble_eq_true rfl) (fun x18 hr19 => ?_)
  refine x_istore (μ := mu_x1_choose) (pc := 159) (lv' := [(5, vI x18), (0, vR v0), (4, vI v4)]) dX1_choose_159 (by decide) rfl ?_
  refine x_iload (μ := mu_x1_choose) (pc := 161) 0 dX1_choose_161 rfl ?_
  refine x_iconst (μ := mu_x1_choose) (pc := 163) dX1_choose_163 ?_
  refine x_icmp_eq (μ := mu_x1_choose) (pc := 164) (tgt := 204) dX1_choose_164 rfl hr19 (by decide) ?_ ?_
  · refine x_aload_n (μ := mu_x1_choose) (pc := 204) 1 dX1_choose_204 rfl ?_
    refine x_if (fun hT20 => ?_)
    refine x_callV_pi (μ := mu_x1_choose) (pc := 205) (ok_x1_unsettled (ω := ω) (l := l) (d := d - 1) hl (by omega) ) gRel_E gRel_E (fun _ q => q) q1560 q1562 qs25 q221 q1563 dX1_choose_205 rfl hT20 hy_x1_unsettled (by omega) (Nat.le_of_ble_eq_true rfl) rfl (Nat.le_of_ble_eq_true rfl) (fun x21 hr22 => ?_)
    exact x_iret (μ := mu_x1_choose) (pc := 208) (a1 := ((.inl (some (vI x21)), s) : gR)) dX1_choose_208 rfl rfl (gRel_E.1 _) (show g32 x21 from hr22)
  · refine x_aload_n (μ := mu_x1_choose) (pc := 167) 1 dX1_choose_167 rfl ?_
    refine x_if (fun hT23 => ?_)
    refine x_fgr (μ := mu_x1_choose) (pc := 168) fX1_8 (by first | exact Or.inl ⟨_, rfl⟩ | exact Or.inr ⟨_, rfl⟩) q653 dX1_choose_168 hT23 ?_
    refine x_iload (μ := mu_x1_choose) (pc := 171) 2 dX1_choose_171 rfl ?_
    refine x_if (fun hT24 => ?_)
    refine x_callV_pr (μ := mu_x1_choose) (pc := 173) (ok_x9_marks (ω := ω) (l := l) (d := d - 1) hl (by omega) hv4) gRel_E gRel_E (fun _ q => q) q2203 q2204 q2205 q230 q2206 dX1_choose_173 rfl hT24 hy_x9_marks (by omega) (Nat.le_of_ble_eq_true rfl) rfl (Nat.le_of_ble_eq_true rfl) (fun x25 => ?_)
    refine x_if (fun hT26 => ?_)
    refine x_len (μ := mu_x1_choose) (pc := 176) 0 (fun _ => rfl) dX1_choose_176 hT26 ?_
    refine x_iconst (μ := mu_x1_choose) (pc := 177) dX1_choose_177 ?_
    refine x_w2 ?_
    refine x_icmp_le (μ := mu_x1_choose) (pc := 178) (tgt := 204) dX1_choose_178 rfl (w32_rng _) (by decide) ?_ ?_
    · refine x_aload_n (μ := mu_x1_choose) (pc := 204) 1 dX1_choose_204 rfl ?_
      refine x_callV_pi (μ := mu_x1_choose) (pc := 205) (ok_x1_unsettled (ω := ω) (l := l) (d := d - 1) hl (by omega) ) gRel_E gRel_E (fun _ q => q) q1560 q1562 qs25 q221 q1563 dX1_choose_205 rfl hT23 hy_x1_unsettled (by omega) (Nat.le_of_ble_eq_true rfl) rfl (Nat.le_of_ble_eq_true rfl) (fun x27 hr28 => ?_)
      exact x_iret (μ := mu_x1_choose) (pc := 208) (a1 := ((.inl (some (vI x27)), s) : gR)) dX1_choose_208 rfl rfl (gRel_E.1 _) (show g32 x27 from hr28)
    · refine x_aload_n (μ := mu_x1_choose) (pc := 181) 1 dX1_choose_181 rfl ?_
      refine x_fgr (μ := mu_x1_choose) (pc := 182) fX1_8 (by first | exact Or.inl ⟨_, rfl⟩ | exact Or.inr ⟨_, rfl⟩) q653 dX1_choose_182 hT23 ?_
      refine x_iload (μ := mu_x1_choose) (pc := 185) 2 dX1_choose_185 rfl ?_
      refine x_aload_n (μ := mu_x1_choose) (pc := 187) 1 dX1_choose_187 rfl ?_
      refine x_fgr (μ := mu_x1_choose) (pc := 188) fX1_8 (by first | exact Or.inl ⟨_, rfl⟩ | exact Or.inr ⟨_, rfl⟩) q653 dX1_choose_188 hT23 ?_
      refine x_iload (μ := mu_x1_choose) (pc := 191) 2 dX1_choose_191 rfl ?_
      refine x_callV_pr (μ := mu_x1_choose) (pc := 193) (ok_x9_marks (ω := ω) (l := l) (d := d - 1) hl (by omega) hv4) gRel_E gRel_E (fun _ q => q) q2203 q2204 q2205 q230 q2206 dX1_choose_193 rfl hT24 hy_x9_marks (by omega) (Nat.le_of_ble_eq_true rfl) rfl (Nat.le_of_ble_eq_true rfl) (fun x29 => ?_)
      refine x_iload (μ := mu_x1_choose) (pc := 196) 0 dX1_choose_196 rfl ?_
      refine x_callS_mr (μ := mu_x1_choose) (pc := 198) (ok_x1_without (ω := ω) (l := l) (d := d - 1) hl (by omega) hr19) gRel_E gRel_E (fun _ q => q) q2247 q2248 q221 q2249 dX1_choose_198 hy_x1_without (by omega) (Nat.le_of_ble_eq_true rfl) rfl (Nat.le_of_ble_eq_true rfl) (fun x30 k31 => ?_)
      refine x_callV_mv (μ := mu_x1_choose) (pc := 201) (ok_x9_lay (ω := ω) (l := l) (d := d - 1) hl (by omega) hv4) gRel_E gRel_E (fun _ q => q) q2226 q2227 q2228 q230 q2229 dX1_choose_201 rfl (gT_E k31 hT24 (by decide)) hy_x9_lay (by omega) (Nat.le_of_ble_eq_true rfl) rfl (Nat.le_of_ble_eq_true rfl) (fun x32 k33 => ?_)
      refine x_aload_n (μ := mu_x1_choose) (pc := 204) 1 dX1_choose_204 rfl ?_
      refine x_callV_pi (μ := mu_x1_choose) (pc := 205) (ok_x1_unsettled (ω := ω) (l := l) (d := d - 1) hl (by omega) ) gRel_E gRel_E (fun _ q => q) q1560 q1562 qs25 q221 q1563 dX1_choose_205 rfl (gT_E k33 (gT_E k31 hT23 (by decide)) (by decide)) hy_x1_unsettled (by omega) (Nat.le_of_ble_eq_true rfl) rfl (Nat.le_of_ble_eq_true rfl) (fun x34 hr35 => ?_)
      exact x_iret (μ := mu_x1_choose) (pc := 208) (a1 := ((.inl (some (vI x34)), x32) : gR)) dX1_choose_208 rfl rfl (gRel_E.1 _) (show g32 x34 from hr35)
set_option maxRecDepth 100000 in
def x1_choose (N : Nat) (v0 : Nat) (v1 : Int) (v2 : Int) (σ : gMem) : Option gR := if v1 < 0 then some (.inr "java/lang/IndexOutOfBoundsException", wX σ 6) else if mT σ v0 = 1 then if v1 < mI σ v0 20 then if mT σ (mR σ v0 18) = 106 then if 0 ≤ v1 ∧ v1 < (mN σ (mR σ v0 18) : Int) then (x1_step N v0 σ).bind (fun x4 => if mT x4 (mR x4 v0 19) = 103 then if 0 ≤ v1 ∧ v1 < (mN x4 (mR x4 v0 19) : Int) then gLet (wI x4 (mR x4 v0 19) v1.toNat 1) (fun s7 => if mT s7 (mR σ (mR σ v0 18) v1.toNat) = 24 then if mI s7 (mR σ (mR σ v0 18) v1.toNat) 0 ≠ 3 then if v2 ≠ mI s7 (mR σ (mR σ v0 18) v1.toNat) 3 then (x1_unsettled N v0 s7).bind (fun x12 => some (.inl (some (vI x12)), s7)) else if mT s7 (mR s7 v0 8) = 8 then (x9_marks (mR s7 v0 8) (w32 ((mI s7 (mR σ (mR σ v0 18) v1.toNat) 0) - 1)) s7).bind (fun x16 => if w32 ((mI s7 (mR σ (mR σ v0 18) v1.toNat) 0) - 1) ≠ 0 then x1_choose_j156 N v0 (w32 ((mI s7 (mR σ (mR σ v0 18) v1.toNat) 0) - 1)) (mI s7 (mR σ (mR σ v0 18) v1.toNat) 2) x16 s7 else x1_choose_j156 N v0 (w32 ((mI s7 (mR σ (mR σ v0 18) v1.toNat) 0) - 1)) (mI s7 (mR σ (mR σ v0 18) v1.toNat) 1) x16 s7) else none else if mT s7 (mR s7 v0 8) = 8 then (x9_row N (mR s7 v0 8) (mI s7 (mR σ (mR σ v0 18) v1.toNat) 1) s7).bind (fun x39 => (x9_column N (mR s7 v0 8) (mI s7 (mR σ (mR σ v0 18) v1.toNat) 2) s7).bind (fun x42 => if x39 = (-1) then (x1_unsettled N v0 s7).bind (fun x44 => some (.inl (some (vI x44)), s7)) else if x42 = (-1) then (x1_unsettled N v0 s7).bind (fun x46 => some (.inl (some (vI x46)), s7)) else if mT s7 (mR s7 (mR s7 v0 8) 2) = 111 then if 0 ≤ x39 ∧ x39 < (mN s7 (mR s7 (mR s7 v0 8) 2) : Int) then if v2 = 0 then if mT s7 (mR s7 (mR s7 (mR s7 v0 8) 2) x39.toNat) = 110 then if mR s7 (mR σ (mR σ v0 18) v1.toNat) 4 = 0 ∨ gAsg 10 (mT s7 (mR s7 (mR σ (mR σ v0 18) v1.toNat) 4)) = true then if 0 ≤ x42 ∧ x42 < (mN s7 (mR s7 (mR s7 (mR s7 v0 8) 2) x39.toNat) : Int) then gLet (wR s7 (mR s7 (mR s7 (mR s7 v0 8) 2) x39.toNat) x42.toNat (mR s7 (mR σ (mR σ v0 18) v1.toNat) 4)) (fun s51 => (x1_unsettled N v0 s51).bind (fun x53 => some (.inl (some (vI x53)), s51))) else none else none else none else if mT s7 (mR s7 (mR s7 (mR s7 v0 8) 2) x39.toNat) = 110 then if mR s7 (mR σ (mR σ v0 18) v1.toNat) 5 = 0 ∨ gAsg 10 (mT s7 (mR s7 (mR σ (mR σ v0 18) v1.toNat) 5)) = true then if 0 ≤ x42 ∧ x42 < (mN s7 (mR s7 (mR s7 (mR s7 v0 8) 2) x39.toNat) : Int) then gLet (wR s7 (mR s7 (mR s7 (mR s7 v0 8) 2) x39.toNat) x42.toNat (mR s7 (mR σ (mR σ v0 18) v1.toNat) 5)) (fun s57 => (x1_unsettled N v0 s57).bind (fun x59 => some (.inl (some (vI x59)), s57))) else none else none else none else none else none)) else none else none) else none else none) else none else none else some (.inr "java/lang/IndexOutOfBoundsException", wX σ 6) else none
set_option maxRecDepth 100000 in
theorem ok_x1_choose {ω : gW} {l : Launch} {d : Nat} {N : Nat} {σ : gMem} {v0 : Nat} {v1 : Int} {v2 : Int} (hl : l.stackTraces = false) (hdp : 8 ≤ d) (hv1 : g32 v1) (hv2 : g32 v2) : gK (fun p : gR => p) gE ω l d mu_x1_choose [vR v0, vI v1, vI v2] σ (x1_choose N v0 v1 v2 σ) := by
  refine gK.of hp_X1 (Nat.le_of_ble_eq_true rfl) ?_
  unfold x1_choose
  refine x_iload_n (μ := mu_x1_choose) (pc := 0) 1 dX1_choose_0 rfl ?_
  refine x_if_lt (μ := mu_x1_choose) (pc := 1) (tgt := 12) dX1_choose_1 rfl hv1 ?_ ?_
  · exact x_throw0 (μ := mu_x1_choose) (pc := 12) hl gex_IndexOutOfBoundsException (by decide) rfl q1762 q236 dX1_choose_12 dX1_choose_15 dX1_choose_16 dX1_choose_19 (by decide) (by omega) (Nat.le_of_ble_eq_true rfl)
  · refine x_iload_n (μ := mu_x1_choose) (pc := 4) 1 dX1_choose_4 rfl ?_
    refine x_aload_n (μ := mu_x1_choose) (pc := 5) 0 dX1_choose_5 rfl ?_
    refine x_if (fun hT1 => ?_)
    refine x_fgi (μ := mu_x1_choose) (pc := 6) fX1_20 q665 dX1_choose_6 hT1 (fun hr2 => ?_)
    refine x_icmp_lt (μ := mu_x1_choose) (pc := 9) (tgt := 20) dX1_choose_9 rfl hv1 hr2 ?_ ?_
    · refine x_aload_n (μ := mu_x1_choose) (pc := 20) 0 dX1_choose_20 rfl ?_
      refine x_fgr (μ := mu_x1_choose) (pc := 21) fX1_18 (by first | exact Or.inl ⟨_, rfl⟩ | exact Or.inr ⟨_, rfl⟩) q663 dX1_choose_21 hT1 ?_
      refine x_iload_n (μ := mu_x1_choose) (pc := 24) 1 dX1_choose_24 rfl ?_
      refine x_if (fun hT3 => ?_)
      refine x_aald (μ := mu_x1_choose) (pc := 25) 6 (fun _ => rfl) rfl rfl dX1_choose_25 hT3 rfl ?_
      refine x_astore_n (μ := mu_x1_choose) (pc := 26) (lv' := [(3, vR (mR σ (mR σ v0 18) v1.toNat)), (0, vR v0), (1, vI v1), (2, vI v2)]) dX1_choose_26 rfl (by decide) rfl ?_
      refine x_aload_n (μ := mu_x1_choose) (pc := 27) 1 dX1_choose_27 rfl ?_
      refine x_callV_mv (μ := mu_x1_choose) (pc := 28) (ok_x1_step (ω := ω) (l := l) (d := d - 1) hl (by omega) ) gRel_E gRel_E (fun _ q => q) q2176 q2178 qs60 q221 q2179 dX1_choose_28 rfl hT1 hy_x1_step (by omega) (Nat.le_of_ble_eq_true rfl) rfl (Nat.le_of_ble_eq_true rfl) (fun x4 k5 => ?_)
      refine x_aload_n (μ := mu_x1_choose) (pc := 31) 1 dX1_choose_31 rfl ?_
      refine x_fgr (μ := mu_x1_choose) (pc := 32) fX1_19 (by first | exact Or.inl ⟨_, rfl⟩ | exact Or.inr ⟨_, rfl⟩) q664 dX1_choose_32 (gT_E k5 hT1 (by decide)) ?_
      refine x_iload_n (μ := mu_x1_choose) (pc := 35) 2 dX1_choose_35 rfl ?_
      refine x_iconst (μ := mu_x1_choose) (pc := 36) dX1_choose_36 ?_
      refine x_if (fun hT6 => ?_)
      refine x_zast (μ := mu_x1_choose) (pc := 37) dX1_choose_37 hT6 rfl (by decide) (fun _ _ q => gE_wI q) ?_
      refine x_let (fun s7 e8 => ?_)
      refine x_aload_n (μ := mu_x1_choose) (pc := 38) 0 dX1_choose_38 rfl ?_
      refine x_if (fun hT9 => ?_)
      refine x_fgiN (μ := mu_x1_choose) (pc := 39) fX26_0 q2542 dX1_choose_39 hT9 (fun hr10 => ?_)
      refine x_iconst (μ := mu_x1_choose) (pc := 42) dX1_choose_42 ?_
      refine x_icmp_ne (μ := mu_x1_choose) (pc := 43) (tgt := 115) dX1_choose_43 rfl hr10 (by decide) ?_ ?_
      · refine x_iload_n (μ := mu_x1_choose) (pc := 115) 3 dX1_choose_115 rfl ?_
        refine x_aload_n (μ := mu_x1_choose) (pc := 116) 0 dX1_choose_116 rfl ?_
        refine x_fgzN (μ := mu_x1_choose) (pc := 117) fX26_3 q2548 dX1_choose_117 hT9 (fun hr11 => ?_)
        refine x_icmp_ne (μ := mu_x1_choose) (pc := 120) (tgt := 204) dX1_choose_120 rfl hv2 hr11 ?_ ?_
        · refine x_aload_n (μ := mu_x1_choose) (pc := 204) 1 dX1_choose_204 rfl ?_
          refine x_callV_pi (μ := mu_x1_choose) (pc := 205) (ok_x1_unsettled (ω := ω) (l := l) (d := d - 1) hl (by omega) ) gRel_E gRel_E (fun _ q => q) q1560 q1562 qs25 q221 q1563 dX1_choose_205 rfl (gT_I e8 (gT_E k5 hT1 (by decide))) hy_x1_unsettled (by omega) (Nat.le_of_ble_eq_true rfl) rfl (Nat.le_of_ble_eq_true rfl) (fun x12 hr13 => ?_)
          exact x_iret (μ := mu_x1_choose) (pc := 208) (a1 := ((.inl (some (vI x12)), s7) : gR)) dX1_choose_208 rfl rfl (gRel_E.1 _) (show g32 x12 from hr13)
        · refine x_aload_n (μ := mu_x1_choose) (pc := 123) 0 dX1_choose_123 rfl ?_
          refine x_fgiN (μ := mu_x1_choose) (pc := 124) fX26_0 q2542 dX1_choose_124 hT9 (fun hr14 => ?_)
          refine x_iconst (μ := mu_x1_choose) (pc := 127) dX1_choose_127 ?_
          refine x_isub (μ := mu_x1_choose) (pc := 128) dX1_choose_128 ?_
          refine x_w1 ?_
          refine x_istore (μ := mu_x1_choose) (pc := 129) (lv' := [(4, vI (w32 ((mI s7 (mR σ (mR σ v0 18) v1.toNat) 0) - 1))), (3, vR (mR σ (mR σ v0 18) v1.toNat)), (0, vR v0), (1, vI v1), (2, vI v2)]) dX1_choose_129 (by decide) rfl ?_
          refine x_aload_n (μ := mu_x1_choose) (pc := 131) 2 dX1_choose_131 rfl ?_
          refine x_fgr (μ := mu_x1_choose) (pc := 132) fX1_8 (by first | exact Or.inl ⟨_, rfl⟩ | exact Or.inr ⟨_, rfl⟩) q653 dX1_choose_132 (gT_I e8 (gT_E k5 hT1 (by decide))) ?_
          refine x_iload (μ := mu_x1_choose) (pc := 135) 0 dX1_choose_135 rfl ?_
          refine x_if (fun hT15 => ?_)
          refine x_callV_pr (μ := mu_x1_choose) (pc := 137) (ok_x9_marks (ω := ω) (l := l) (d := d - 1) hl (by omega) (w32_rng _)) gRel_E gRel_E (fun _ q => q) q2203 q2204 q2205 q230 q2206 dX1_choose_137 rfl hT15 hy_x9_marks (by omega) (Nat.le_of_ble_eq_true rfl) rfl (Nat.le_of_ble_eq_true rfl) (fun x16 => ?_)
          refine x_iload (μ := mu_x1_choose) (pc := 140) 0 dX1_choose_140 rfl ?_
          refine x_if_ne (μ := mu_x1_choose) (pc := 142) (tgt := 152) dX1_choose_142 rfl (w32_rng _) ?_ ?_
          · refine x_aload_n (μ := mu_x1_choose) (pc := 152) 1 dX1_choose_152 rfl ?_
            refine x_fgiN (μ := mu_x1_choose) (pc := 153) fX26_2 q2546 dX1_choose_153 hT9 (fun hr17 => ?_)
            refine x_loc (lv' := [(0, vR v0), (4, vI (w32 ((mI s7 (mR σ (mR σ v0 18) v1.toNat) 0) - 1)))]) [2, 0] rfl ?_
            exact okj_x1_choose_j156 hl hdp (w32_rng _) hr17
          · refine x_aload_n (μ := mu_x1_choose) (pc := 145) 1 dX1_choose_145 rfl ?_
            refine x_fgiN (μ := mu_x1_choose) (pc := 146) fX26_1 q2544 dX1_choose_146 hT9 (fun hr36 => ?_)
            refine x_goto (μ := mu_x1_choose) (pc := 149) (tgt := 156) dX1_choose_149 rfl ?_
            refine x_loc (lv' := [(0, vR v0), (4, vI (w32 ((mI s7 (mR σ (mR σ v0 18) v1.toNat) 0) - 1)))]) [2, 0] rfl ?_
            exact okj_x1_choose_j156 hl hdp (w32_rng _) hr36
      · refine x_aload_n (μ := mu_x1_choose) (pc := 46) 1 dX1_choose_46 rfl ?_
        refine x_fgr (μ := mu_x1_choose) (pc := 47) fX1_8 (by first | exact Or.inl ⟨_, rfl⟩ | exact Or.inr ⟨_, rfl⟩) q653 dX1_choose_47 (gT_I e8 (gT_E k5 hT1 (by decide))) ?_
        refine x_aload_n (μ := mu_x1_choose) (pc := 50) 0 dX1_choose_50 rfl ?_
        refine x_fgiN (μ := mu_x1_choose) (pc := 51) fX26_1 q2544 dX1_choose_51 hT9 (fun hr37 => ?_)
        refine x_if (fun hT38 => ?_)
        refine x_callV_pi (μ := mu_x1_choose) (pc := 54) (ok_x9_row (ω := ω) (l := l) (d := d - 1) hl (by omega) hr37) gRel_E gRel_E (fun _ q => q) q778 q779 q780 q230 q781 dX1_choose_54 rfl hT38 hy_x9_row (by omega) (Nat.le_of_ble_eq_true rfl) rfl (Nat.le_of_ble_eq_true rfl) (fun x39 hr40 => ?_)
        refine x_istore (μ := mu_x1_choose) (pc := 57) (lv' := [(4, vI x39), (3, vR (mR σ (mR σ v0 18) v1.toNat)), (0, vR v0), (1, vI v1), (2, vI v2)]) dX1_choose_57 (by decide) rfl ?_
        refine x_aload_n (μ := mu_x1_choose) (pc := 59) 2 dX1_choose_59 rfl ?_
        refine x_fgr (μ := mu_x1_choose) (pc := 60) fX1_8 (by first | exact Or.inl ⟨_, rfl⟩ | exact Or.inr ⟨_, rfl⟩) q653 dX1_choose_60 (gT_I e8 (gT_E k5 hT1 (by decide))) ?_
        refine x_aload_n (μ := mu_x1_choose) (pc := 63) 1 dX1_choose_63 rfl ?_
        refine x_fgiN (μ := mu_x1_choose) (pc := 64) fX26_2 q2546 dX1_choose_64 hT9 (fun hr41 => ?_)
        refine x_callV_pi (μ := mu_x1_choose) (pc := 67) (ok_x9_column (ω := ω) (l := l) (d := d - 1) hl (by omega) hr41) gRel_E gRel_E (fun _ q => q) q785 q786 q787 q230 q788 dX1_choose_67 rfl hT38 hy_x9_column (by omega) (Nat.le_of_ble_eq_true rfl) rfl (Nat.le_of_ble_eq_true rfl) (fun x42 hr43 => ?_)
        refine x_istore (μ := mu_x1_choose) (pc := 70) (lv' := [(5, vI x42), (4, vI x39), (3, vR (mR σ (mR σ v0 18) v1.toNat)), (0, vR v0), (1, vI v1), (2, vI v2)]) dX1_choose_70 (by decide) rfl ?_
        refine x_iload (μ := mu_x1_choose) (pc := 72) 1 dX1_choose_72 rfl ?_
        refine x_iconst (μ := mu_x1_choose) (pc := 74) dX1_choose_74 ?_
        refine x_icmp_eq (μ := mu_x1_choose) (pc := 75) (tgt := 112) dX1_choose_75 rfl hr40 (by decide) ?_ ?_
        · refine x_goto (μ := mu_x1_choose) (pc := 112) (tgt := 204) dX1_choose_112 rfl ?_
          refine x_aload_n (μ := mu_x1_choose) (pc := 204) 3 dX1_choose_204 rfl ?_
          refine x_callV_pi (μ := mu_x1_choose) (pc := 205) (ok_x1_unsettled (ω := ω) (l := l) (d := d - 1) hl (by omega) ) gRel_E gRel_E (fun _ q => q) q1560 q1562 qs25 q221 q1563 dX1_choose_205 rfl (gT_I e8 (gT_E k5 hT1 (by decide))) hy_x1_unsettled (by omega) (Nat.le_of_ble_eq_true rfl) rfl (Nat.le_of_ble_eq_true rfl) (fun x44 hr45 => ?_)
          exact x_iret (μ := mu_x1_choose) (pc := 208) (a1 := ((.inl (some (vI x44)), s7) : gR)) dX1_choose_208 rfl rfl (gRel_E.1 _) (show g32 x44 from hr45)
        · refine x_iload (μ := mu_x1_choose) (pc := 78) 0 dX1_choose_78 rfl ?_
          refine x_iconst (μ := mu_x1_choose) (pc := 80) dX1_choose_80 ?_
          refine x_icmp_eq (μ := mu_x1_choose) (pc := 81) (tgt := 112) dX1_choose_81 rfl hr43 (by decide) ?_ ?_
          · refine x_goto (μ := mu_x1_choose) (pc := 112) (tgt := 204) dX1_choose_112 rfl ?_
            refine x_aload_n (μ := mu_x1_choose) (pc := 204) 3 dX1_choose_204 rfl ?_
            refine x_callV_pi (μ := mu_x1_choose) (pc := 205) (ok_x1_unsettled (ω := ω) (l := l) (d := d - 1) hl (by omega) ) gRel_E gRel_E (fun _ q => q) q1560 q1562 qs25 q221 q1563 dX1_choose_205 rfl (gT_I e8 (gT_E k5 hT1 (by decide))) hy_x1_unsettled (by omega) (Nat.le_of_ble_eq_true rfl) rfl (Nat.le_of_ble_eq_true rfl) (fun x46 hr47 => ?_)
            exact x_iret (μ := mu_x1_choose) (pc := 208) (a1 := ((.inl (some (vI x46)), s7) : gR)) dX1_choose_208 rfl rfl (gRel_E.1 _) (show g32 x46 from hr47)
          · refine x_aload_n (μ := mu_x1_choose) (pc := 84) 3 dX1_choose_84 rfl ?_
            refine x_fgr (μ := mu_x1_choose) (pc := 85) fX1_8 (by first | exact Or.inl ⟨_, rfl⟩ | exact Or.inr ⟨_, rfl⟩) q653 dX1_choose_85 (gT_I e8 (gT_E k5 hT1 (by decide))) ?_
            refine x_fgrN (μ := mu_x1_choose) (pc := 88) fX9_2 (by first | exact Or.inl ⟨_, rfl⟩ | exact Or.inr ⟨_, rfl⟩) q582 dX1_choose_88 hT38 ?_
            refine x_iload (μ := mu_x1_choose) (pc := 91) 1 dX1_choose_91 rfl ?_
            refine x_if (fun hT48 => ?_)
            refine x_aald (μ := mu_x1_choose) (pc := 93) 11 (fun _ => rfl) rfl rfl dX1_choose_93 hT48 rfl ?_
            refine x_iload (μ := mu_x1_choose) (pc := 94) 0 dX1_choose_94 rfl ?_
            refine x_iload_n (μ := mu_x1_choose) (pc := 96) 5 dX1_choose_96 rfl ?_
            refine x_if_eq (μ := mu_x1_choose) (pc := 97) (tgt := 107) dX1_choose_97 rfl hv2 ?_ ?_
            · refine x_aload_n (μ := mu_x1_choose) (pc := 107) 2 dX1_choose_107 rfl ?_
              refine x_fgrN (μ := mu_x1_choose) (pc := 108) fX26_4 (by first | exact Or.inl ⟨_, rfl⟩ | exact Or.inr ⟨_, rfl⟩) q2550 dX1_choose_108 hT9 ?_
              refine x_if (fun hT49 => ?_)
              refine x_if (fun hz50 => ?_)
              refine x_aast (μ := mu_x1_choose) (pc := 111) 10 ⟨fun _ => rfl, rfl, rfl⟩ dX1_choose_111 hT49 rfl hz50 (fun _ _ q => gE_wR q) ?_
              refine x_let (fun s51 e52 => ?_)
              refine x_goto (μ := mu_x1_choose) (pc := 112) (tgt := 204) dX1_choose_112 rfl ?_
              refine x_aload_n (μ := mu_x1_choose) (pc := 204) 3 dX1_choose_204 rfl ?_
              refine x_callV_pi (μ := mu_x1_choose) (pc := 205) (ok_x1_unsettled (ω := ω) (l := l) (d := d - 1) hl (by omega) ) gRel_E gRel_E (fun _ q => q) q1560 q1562 qs25 q221 q1563 dX1_choose_205 rfl (gT_R e52 (gT_I e8 (gT_E k5 hT1 (by decide)))) hy_x1_unsettled (by omega) (Nat.le_of_ble_eq_true rfl) rfl (Nat.le_of_ble_eq_true rfl) (fun x53 hr54 => ?_)
              exact x_iret (μ := mu_x1_choose) (pc := 208) (a1 := ((.inl (some (vI x53)), s51) : gR)) dX1_choose_208 rfl rfl (gRel_E.1 _) (show g32 x53 from hr54)
            · refine x_aload_n (μ := mu_x1_choose) (pc := 100) 2 dX1_choose_100 rfl ?_
              refine x_fgrN (μ := mu_x1_choose) (pc := 101) fX26_5 (by first | exact Or.inl ⟨_, rfl⟩ | exact Or.inr ⟨_, rfl⟩) q2552 dX1_choose_101 hT9 ?_
              refine x_goto (μ := mu_x1_choose) (pc := 104) (tgt := 111) dX1_choose_104 rfl ?_
              refine x_if (fun hT55 => ?_)
              refine x_if (fun hz56 => ?_)
              refine x_aast (μ := mu_x1_choose) (pc := 111) 10 ⟨fun _ => rfl, rfl, rfl⟩ dX1_choose_111 hT55 rfl hz56 (fun _ _ q => gE_wR q) ?_
              refine x_let (fun s57 e58 => ?_)
              refine x_goto (μ := mu_x1_choose) (pc := 112) (tgt := 204) dX1_choose_112 rfl ?_
              refine x_aload_n (μ := mu_x1_choose) (pc := 204) 3 dX1_choose_204 rfl ?_
              refine x_callV_pi (μ := mu_x1_choose) (pc := 205) (ok_x1_unsettled (ω := ω) (l := l) (d := d - 1) hl (by omega) ) gRel_E gRel_E (fun _ q => q) q1560 q1562 qs25 q221 q1563 dX1_choose_205 rfl (gT_R e58 (gT_I e8 (gT_E k5 hT1 (by decide)))) hy_x1_unsettled (by omega) (Nat.le_of_ble_eq_true rfl) rfl (Nat.le_of_ble_eq_true rfl) (fun x59 hr60 => ?_)
              exact x_iret (μ := mu_x1_choose) (pc := 208) (a1 := ((.inl (some (vI x59)), s57) : gR)) dX1_choose_208 rfl rfl (gRel_E.1 _) (show g32 x59 from hr60)
    · exact x_throw0 (μ := mu_x1_choose) (pc := 12) hl gex_IndexOutOfBoundsException (by decide) rfl q1762 q236 dX1_choose_12 dX1_choose_15 dX1_choose_16 dX1_choose_19 (by decide) (by omega) (Nat.le_of_ble_eq_true rfl)
