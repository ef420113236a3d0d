def x3_reckon_l25_j172 (N : Nat) (v0 : Nat) (v1 : Nat) (v2 : Nat) (v3 : Int) (v4 : Int) (Kh : Int → gMem → Option gMem) (K : gMem → Option gMem) (s : gMem) : Option gMem := if mT s v0 = 3 then if mT s v2 = 2 then (x2_put v2 v4 (mR s v0 5) s).bind (fun x36 => Kh (w32 (v3 + 1)) x36) else none else none
set_option maxRecDepth 100000 in
theorem okj_x3_reckon_l25_j172 {ω : gW} {l : Launch} {d : Nat} {N : Nat} {σ0 : gMem} {s : gMem} {v0 : Nat} {v1 : Nat} {v2 : Nat} {v3 : Int} {v4 : Int} {Kh : Int → gMem → Option gMem} {K : gMem → Option gMem} (hl : l.stackTraces = false) (hdp : 201 ≤ d) (hv3 : g32 v3) (hv4 : g32 v4) (hKh : ∀ (v3 : Int) (s : gMem) , g32 v3 → GG (fun p : gMem => (.inl none, p)) gE ω l d mu_x3_reckon σ0 25 [(0, vR v0), (1, vR v1), (2, vR v2), (3, vI v3)] [] s (Kh v3 s)) (hK : ∀ (s : gMem) , GG (fun p : gMem => (.inl none, p)) gE ω l d mu_x3_reckon σ0 188 [] [] s (K s)) : GG (fun p : gMem => (.inl none, p)) gE ω l d mu_x3_reckon σ0 172 [(0, vR v0), (1, vR v1), (2, vR v2), (3, vI v3), (4, vI v4)] [] s (x3_reckon_l25_j172 N v0 v1 v2 v3 v4 Kh K s) := by
  unfold x3_reckon_l25_j172
  refine x_aload_n (μ := mu_x3_reckon) (pc := 172) 2 dX3_reckon_172 rfl ?_
  refine x_iload (μ := mu_x3_reckon) (pc := 173) 4 dX3_reckon_173 rfl ?_
  refine x_aload_n (μ := mu_x3_reckon) (pc := 175) 0 dX3_reckon_175 rfl ?_
  refine x_if (fun hT34 => ?_)
  refine x_fgr (μ := mu_x3_reckon) (pc := 176) fX3_5 (by first | exact Or.inl ⟨_, rfl⟩ | exact Or.inr ⟨_, rfl⟩) q403 dX3_reckon_176 hT34 ?_
  refine x_if (fun hT35 => ?_)
  refine x_callV_mv (μ := mu_x3_reckon) (pc := 179) (ok_x2_put (ω := ω) (l := l) (d := d - 1) hl (by omega) hv4) gRel_E gRel_E (fun _ q => q) q1331 q1332 q1333 q222 q1334 dX3_reckon_179 rfl hT35 hy_x2_put (by omega) (Nat.le_of_ble_eq_true rfl) rfl (Nat.le_of_ble_eq_true rfl) (fun x36 k37 => ?_)
  refine x_iincw (μ := mu_x3_reckon) (pc := 182) (lv' := [(3, vI (w32 (v3 + 1))), (0, vR v0), (1, vR v1), (2, vR v2), (4, vI v4)]) 3 dX3_reckon_182 rfl (by decide) rfl ?_
  refine x_goto (μ := mu_x3_reckon) (pc := 185) (tgt := 25) dX3_reckon_185 rfl ?_
  refine x_loc (lv' := [(0, vR v0), (1, vR v1), (2, vR v2), (3, vI (w32 (v3 + 1)))]) [1, 2, 3, 0] rfl ?_
  exact hKh (w32 (v3 + 1)) x36 (w32_rng _)
def x3_reckon_l25_j146 (N : Nat) (v0 : Nat) (v1 : Nat) (v2 : Nat) (v3 : Int) (v4 : Int) (v5 : Nat) (Kh : Int → gMem → Option gMem) (K : gMem → Option gMem) (s : gMem) : Option gMem := if v5 = 0 ∨ gNode (mT s v5) = true then if mT s v5 = 21 then if mT s v0 = 3 then if mT s (mR s v0 5) = 5 then if mI s (mR s v0 5) 0 ≠ 0 then x3_reckon_l25_j172 N v0 v1 v2 v3 v4  (Kh) K s else (x5_be (mR s v0 5) (((0 : Fin 2) : Nat) : Int) s).bind (fun x38 => x3_reckon_l25_j172 N v0 v1 v2 v3 v4  (Kh) K x38) else none else none else x3_reckon_l25_j172 N v0 v1 v2 v3 v4  (Kh) K s else none
set_option maxRecDepth 100000 in
theorem okj_x3_reckon_l25_j146 {ω : gW} {l : Launch} {d : Nat} {N : Nat} {σ0 : gMem} {s : gMem} {v0 : Nat} {v1 : Nat} {v2 : Nat} {v3 : Int} {v4 : Int} {v5 : Nat} {Kh : Int → gMem → Option gMem} {K : gMem → Option gMem} (hl : l.stackTraces = false) (hdp : 201 ≤ d) (hv3 : g32 v3) (hv4 : g32 v4) (hKh : ∀ (v3 : Int) (s : gMem) , g32 v3 → GG (fun p : gMem => (.inl none, p)) gE ω l d mu_x3_reckon σ0 25 [(0, vR v0), (1, vR v1), (2, vR v2), (3, vI v3)] [] s (Kh v3 s)) (hK : ∀ (s : gMem) , GG (fun p : gMem => (.inl none, p)) gE ω l d mu_x3_reckon σ0 188 [] [] s (K s)) : GG (fun p : gMem => (.inl none, p)) gE ω l d mu_x3_reckon σ0 146 [(0, vR v0), (1, vR v1), (2, vR v2), (3, vI v3), (4, vI v4), (5, vR v5)] [] s (x3_reckon_l25_j146 N v0 v1 v2 v3 v4 v5 Kh K s) := by
  unfold x3_reckon_l25_j146
  refine x_aload (μ := mu_x3_reckon) (pc := 146) 5 dX3_reckon_146 rfl ?_
  refine x_if (fun hg30 => ?_)
  refine x_inst (μ := mu_x3_reckon) (pc := 148) (ci := 20) (by decide) rfl q972 dX3_reckon_148 hg30 ?_ ?_
  · refine x_if_eqF (μ := mu_x3_reckon) (pc := 151) (tgt := 172) dX3_reckon_151 rfl (by decide) (by decide) ?_
    refine x_aload_n (μ := mu_x3_reckon) (pc := 154) 0 dX3_reckon_154 rfl ?_
    refine x_if (fun hT31 => ?_)
    refine x_fgr (μ := mu_x3_reckon) (pc := 155) fX3_5 (by first | exact Or.inl ⟨_, rfl⟩ | exact Or.inr ⟨_, rfl⟩) q403 dX3_reckon_155 hT31 ?_
    refine x_if (fun hT32 => ?_)
    refine x_fgiN (μ := mu_x3_reckon) (pc := 158) fX5_0 q375 dX3_reckon_158 hT32 (fun hr33 => ?_)
    refine x_if_ne (μ := mu_x3_reckon) (pc := 161) (tgt := 172) dX3_reckon_161 rfl hr33 ?_ ?_
    · refine x_loc (lv' := [(0, vR v0), (1, vR v1), (2, vR v2), (3, vI v3), (4, vI v4)]) [0, 1, 2, 3, 4] rfl ?_
      exact okj_x3_reckon_l25_j172 hl hdp hv3 hv4 hKh hK
    · refine x_aload_n (μ := mu_x3_reckon) (pc := 164) 0 dX3_reckon_164 rfl ?_
      refine x_fgr (μ := mu_x3_reckon) (pc := 165) fX3_5 (by first | exact Or.inl ⟨_, rfl⟩ | exact Or.inr ⟨_, rfl⟩) q403 dX3_reckon_165 hT31 ?_
      refine x_lconst (μ := mu_x3_reckon) (pc := 168) dX3_reckon_168 ?_
      refine x_callV_mv (μ := mu_x3_reckon) (pc := 169) (ok_x5_be (ω := ω) (l := l) (d := d - 1) hl (by omega) (by decide)) gRel_E gRel_E (fun _ q => q) q1330 q1052 q1053 q225 q1054 dX3_reckon_169 rfl hT32 hy_x5_be (by omega) (Nat.le_of_ble_eq_true rfl) rfl (Nat.le_of_ble_eq_true rfl) (fun x38 k39 => ?_)
      refine x_loc (lv' := [(0, vR v0), (1, vR v1), (2, vR v2), (3, vI v3), (4, vI v4)]) [0, 1, 2, 3, 4] rfl ?_
      exact okj_x3_reckon_l25_j172 hl hdp hv3 hv4 hKh hK
  · refine x_if_eqT (μ := mu_x3_reckon) (pc := 151) (tgt := 172) dX3_reckon_151 rfl (by decide) (by decide) ?_
    refine x_loc (lv' := [(0, vR v0), (1, vR v1), (2, vR v2), (3, vI v3), (4, vI v4)]) [0, 1, 2, 3, 4] rfl ?_
    exact okj_x3_reckon_l25_j172 hl hdp hv3 hv4 hKh hK
set_option maxRecDepth 100000 in
def x3_reckon_l25 (N : Nat) (v0 : Nat) (v1 : Nat) (v2 : Nat) (K : gMem → Option gMem) : Nat → Int → gMem → Option gMem
  | 0, _, _ => none
  | n + 1, v3, s => if mT s v0 = 3 then if mT s (mR s v0 1) = 4 then if mI s (mR s v0 1) 10 ≤ v3 then K s else if mT s (mR s (mR s v0 1) 1) = 100 then if 0 ≤ v3 ∧ v3 < (mN s (mR s (mR s v0 1) 1) : Int) then if mT s v1 = 8 then if mT s (mR s v1 2) = 111 then if 0 ≤ (Int.tdiv (mI s (mR s (mR s v0 1) 1) v3.toNat) 10) ∧ (Int.tdiv (mI s (mR s (mR s v0 1) 1) v3.toNat) 10) < (mN s (mR s v1 2) : Int) then if mT s (mR s (mR s v1 2) (Int.tdiv (mI s (mR s (mR s v0 1) 1) v3.toNat) 10).toNat) = 110 then if 0 ≤ (Int.tmod (mI s (mR s (mR s v0 1) 1) v3.toNat) 10) ∧ (Int.tmod (mI s (mR s (mR s v0 1) 1) v3.toNat) 10) < (mN s (mR s (mR s v1 2) (Int.tdiv (mI s (mR s (mR s v0 1) 1) v3.toNat) 10).toNat) : Int) then if mT s (mR s v0 5) = 5 then (x5_none (mR s v0 5) s).bind (fun x20 => if mT x20 (mR x20 v0 1) = 4 then if mT x20 (mR x20 (mR x20 v0 1) 8) = 103 then if 0 ≤ (mI s (mR s (mR s v0 1) 1) v3.toNat) ∧ (mI s (mR s (mR s v0 1) 1) v3.toNat) < (mN x20 (mR x20 (mR x20 v0 1) 8) : Int) then if mI x20 (mR x20 (mR x20 v0 1) 8) (mI s (mR s (mR s v0 1) 1) v3.toNat).toNat = 0 then if mR s (mR s (mR s v1 2) (Int.tdiv (mI s (mR s (mR s v0 1) 1) v3.toNat) 10).toNat) (Int.tmod (mI s (mR s (mR s v0 1) 1) v3.toNat) 10).toNat = 0 ∨ gNode (mT x20 (mR s (mR s (mR s v1 2) (Int.tdiv (mI s (mR s (mR s v0 1) 1) v3.toNat) 10).toNat) (Int.tmod (mI s (mR s (mR s v0 1) 1) v3.toNat) 10).toNat)) = true then if mT x20 (mR s (mR s (mR s v1 2) (Int.tdiv (mI s (mR s (mR s v0 1) 1) v3.toNat) 10).toNat) (Int.tmod (mI s (mR s (mR s v0 1) 1) v3.toNat) 10).toNat) = 21 then if mR s (mR s (mR s v1 2) (Int.tdiv (mI s (mR s (mR s v0 1) 1) v3.toNat) 10).toNat) (Int.tmod (mI s (mR s (mR s v0 1) 1) v3.toNat) 10).toNat = 0 ∨ mT x20 (mR s (mR s (mR s v1 2) (Int.tdiv (mI s (mR s (mR s v0 1) 1) v3.toNat) 10).toNat) (Int.tmod (mI s (mR s (mR s v0 1) 1) v3.toNat) 10).toNat) = 21 then if mT x20 (mR s (mR s (mR s v1 2) (Int.tdiv (mI s (mR s (mR s v0 1) 1) v3.toNat) 10).toNat) (Int.tmod (mI s (mR s (mR s v0 1) 1) v3.toNat) 10).toNat) = 21 then (dp_Part_work N 64 (mR x20 (mR s (mR s (mR s v1 2) (Int.tdiv (mI s (mR s (mR s v0 1) 1) v3.toNat) 10).toNat) (Int.tmod (mI s (mR s (mR s v0 1) 1) v3.toNat) 10).toNat) 0) v0 (mR x20 v0 5) x20).bind (fun x28 => x3_reckon_l25_j146 N v0 v1 v2 v3 (mI s (mR s (mR s v0 1) 1) v3.toNat) (mR s (mR s (mR s v1 2) (Int.tdiv (mI s (mR s (mR s v0 1) 1) v3.toNat) 10).toNat) (Int.tmod (mI s (mR s (mR s v0 1) 1) v3.toNat) 10).toNat)  (x3_reckon_l25 N v0 v1 v2 K n) K x28) else none else none else if mR s (mR s (mR s v1 2) (Int.tdiv (mI s (mR s (mR s v0 1) 1) v3.toNat) 10).toNat) (Int.tmod (mI s (mR s (mR s v0 1) 1) v3.toNat) 10).toNat = 0 then x3_reckon_l25_j146 N v0 v1 v2 v3 (mI s (mR s (mR s v0 1) 1) v3.toNat) (mR s (mR s (mR s v1 2) (Int.tdiv (mI s (mR s (mR s v0 1) 1) v3.toNat) 10).toNat) (Int.tmod (mI s (mR s (mR s v0 1) 1) v3.toNat) 10).toNat)  (x3_reckon_l25 N v0 v1 v2 K n) K x20 else if mR s (mR s (mR s v1 2) (Int.tdiv (mI s (mR s (mR s v0 1) 1) v3.toNat) 10).toNat) (Int.tmod (mI s (mR s (mR s v0 1) 1) v3.toNat) 10).toNat = 0 ∨ gPart (mT x20 (mR s (mR s (mR s v1 2) (Int.tdiv (mI s (mR s (mR s v0 1) 1) v3.toNat) 10).toNat) (Int.tmod (mI s (mR s (mR s v0 1) 1) v3.toNat) 10).toNat)) = true then (dp_Part_work N 64 (mR s (mR s (mR s v1 2) (Int.tdiv (mI s (mR s (mR s v0 1) 1) v3.toNat) 10).toNat) (Int.tmod (mI s (mR s (mR s v0 1) 1) v3.toNat) 10).toNat) v0 (mR x20 v0 5) x20).bind (fun x41 => x3_reckon_l25_j146 N v0 v1 v2 v3 (mI s (mR s (mR s v0 1) 1) v3.toNat) (mR s (mR s (mR s v1 2) (Int.tdiv (mI s (mR s (mR s v0 1) 1) v3.toNat) 10).toNat) (Int.tmod (mI s (mR s (mR s v0 1) 1) v3.toNat) 10).toNat)  (x3_reckon_l25 N v0 v1 v2 K n) K x41) else none else none else if mT x20 (mR x20 v0 5) = 5 then (x5_fail (mR x20 v0 5) 6 x20).bind (fun x44 => x3_reckon_l25_j146 N v0 v1 v2 v3 (mI s (mR s (mR s v0 1) 1) v3.toNat) (mR s (mR s (mR s v1 2) (Int.tdiv (mI s (mR s (mR s v0 1) 1) v3.toNat) 10).toNat) (Int.tmod (mI s (mR s (mR s v0 1) 1) v3.toNat) 10).toNat)  (x3_reckon_l25 N v0 v1 v2 K n) K x44) else none else none else none else none) else none else none else none else none else none else none else none else none else none else none
set_option maxRecDepth 100000 in
theorem okl_x3_reckon_l25 {ω : gW} {l : Launch} {d : Nat} {N : Nat} {σ0 : gMem} {v0 : Nat} {v1 : Nat} {v2 : Nat} {K : gMem → Option gMem} (hl : l.stackTraces = false) (hdp : 201 ≤ d) (hK : ∀ (s : gMem) , GG (fun p : gMem => (.inl none, p)) gE ω l d mu_x3_reckon σ0 188 [] [] s (K s)) : ∀ (n : Nat) (v3 : Int) (s : gMem) , g32 v3 → GG (fun p : gMem => (.inl none, p)) gE ω l d mu_x3_reckon σ0 25 [(0, vR v0), (1, vR v1), (2, vR v2), (3, vI v3)] [] s (x3_reckon_l25 N v0 v1 v2 K n v3 s) := by
  intro n
  induction n with
  | zero => intros; exact x_none
  | succ n ih =>
    intro v3 s hv3
    unfold x3_reckon_l25
    refine x_iload_n (μ := mu_x3_reckon) (pc := 25) 3 dX3_reckon_25 rfl ?_
    refine x_aload_n (μ := mu_x3_reckon) (pc := 26) 0 dX3_reckon_26 rfl ?_
    refine x_if (fun hT11 => ?_)
    refine x_fgr (μ := mu_x3_reckon) (pc := 27) fX3_1 (by first | exact Or.inl ⟨_, rfl⟩ | exact Or.inr ⟨_, rfl⟩) q396 dX3_reckon_27 hT11 ?_
    refine x_if (fun hT12 => ?_)
    refine x_fgiN (μ := mu_x3_reckon) (pc := 30) fX4_10 q333 dX3_reckon_30 hT12 (fun hr13 => ?_)
    refine x_icmp_ge (μ := mu_x3_reckon) (pc := 33) (tgt := 188) dX3_reckon_33 rfl hv3 hr13 ?_ ?_
    · refine x_loc (lv' := []) [] rfl ?_
      exact hK s
    · refine x_aload_n (μ := mu_x3_reckon) (pc := 36) 0 dX3_reckon_36 rfl ?_
      refine x_fgr (μ := mu_x3_reckon) (pc := 37) fX3_1 (by first | exact Or.inl ⟨_, rfl⟩ | exact Or.inr ⟨_, rfl⟩) q396 dX3_reckon_37 hT11 ?_
      refine x_fgrN (μ := mu_x3_reckon) (pc := 40) fX4_1 (by first | exact Or.inl ⟨_, rfl⟩ | exact Or.inr ⟨_, rfl⟩) q322 dX3_reckon_40 hT12 ?_
      refine x_iload_n (μ := mu_x3_reckon) (pc := 43) 3 dX3_reckon_43 rfl ?_
      refine x_if (fun hT14 => ?_)
      refine x_iald (μ := mu_x3_reckon) (pc := 44) dX3_reckon_44 hT14 rfl (fun hr15 => ?_)
      refine x_istore (μ := mu_x3_reckon) (pc := 45) (lv' := [(4, vI (mI s (mR s (mR s v0 1) 1) v3.toNat)), (0, vR v0), (1, vR v1), (2, vR v2), (3, vI v3)]) dX3_reckon_45 (by decide) rfl ?_
      refine x_aload_n (μ := mu_x3_reckon) (pc := 47) 2 dX3_reckon_47 rfl ?_
      refine x_if (fun hT16 => ?_)
      refine x_fgrN (μ := mu_x3_reckon) (pc := 48) fX9_2 (by first | exact Or.inl ⟨_, rfl⟩ | exact Or.inr ⟨_, rfl⟩) q580 dX3_reckon_48 hT16 ?_
      refine x_iload (μ := mu_x3_reckon) (pc := 51) 0 dX3_reckon_51 rfl ?_
      refine x_bipush (μ := mu_x3_reckon) (pc := 53) dX3_reckon_53 (by decide) ?_
      refine x_idivc (μ := mu_x3_reckon) (pc := 55) dX3_reckon_55 hr15 (by decide) (by decide) ?_
      refine x_if (fun hT17 => ?_)
      refine x_aald (μ := mu_x3_reckon) (pc := 56) 11 (fun _ => rfl) rfl rfl dX3_reckon_56 hT17 rfl ?_
      refine x_iload (μ := mu_x3_reckon) (pc := 57) 0 dX3_reckon_57 rfl ?_
      refine x_bipush (μ := mu_x3_reckon) (pc := 59) dX3_reckon_59 (by decide) ?_
      refine x_iremc (μ := mu_x3_reckon) (pc := 61) dX3_reckon_61 hr15 (by decide) (by decide) ?_
      refine x_if (fun hT18 => ?_)
      refine x_aald (μ := mu_x3_reckon) (pc := 62) 10 (fun _ => rfl) rfl rfl dX3_reckon_62 hT18 rfl ?_
      refine x_astore (μ := mu_x3_reckon) (pc := 63) (lv' := [(5, vR (mR s (mR s (mR s v1 2) (Int.tdiv (mI s (mR s (mR s v0 1) 1) v3.toNat) 10).toNat) (Int.tmod (mI s (mR s (mR s v0 1) 1) v3.toNat) 10).toNat)), (4, vI (mI s (mR s (mR s v0 1) 1) v3.toNat)), (0, vR v0), (1, vR v1), (2, vR v2), (3, vI v3)]) dX3_reckon_63 (by decide) rfl ?_
      refine x_aload_n (μ := mu_x3_reckon) (pc := 65) 2 dX3_reckon_65 rfl ?_
      refine x_fgr (μ := mu_x3_reckon) (pc := 66) fX3_5 (by first | exact Or.inl ⟨_, rfl⟩ | exact Or.inr ⟨_, rfl⟩) q403 dX3_reckon_66 hT11 ?_
      refine x_if (fun hT19 => ?_)
      refine x_callV_mv (μ := mu_x3_reckon) (pc := 69) (ok_x5_none (ω := ω) (l := l) (d := d - 1) hl (by omega) ) gRel_E gRel_E (fun _ q => q) q964 q965 q966 q225 q967 dX3_reckon_69 rfl hT19 hy_x5_none (by omega) (Nat.le_of_ble_eq_true rfl) rfl (Nat.le_of_ble_eq_true rfl) (fun x20 k21 => ?_)
      refine x_aload_n (μ := mu_x3_reckon) (pc := 72) 2 dX3_reckon_72 rfl ?_
      refine x_fgr (μ := mu_x3_reckon) (pc := 73) fX3_1 (by first | exact Or.inl ⟨_, rfl⟩ | exact Or.inr ⟨_, rfl⟩) q396 dX3_reckon_73 (gT_E k21 hT11 (by decide)) ?_
      refine x_if (fun hT22 => ?_)
      refine x_fgrN (μ := mu_x3_reckon) (pc := 76) fX4_8 (by first | exact Or.inl ⟨_, rfl⟩ | exact Or.inr ⟨_, rfl⟩) q330 dX3_reckon_76 hT22 ?_
      refine x_iload (μ := mu_x3_reckon) (pc := 79) 1 dX3_reckon_79 rfl ?_
      refine x_if (fun hT23 => ?_)
      refine x_zald (μ := mu_x3_reckon) (pc := 81) dX3_reckon_81 hT23 rfl (fun hr24 => ?_)
      refine x_if_eq (μ := mu_x3_reckon) (pc := 82) (tgt := 97) dX3_reckon_82 rfl hr24 ?_ ?_
      · refine x_aload (μ := mu_x3_reckon) (pc := 97) 0 dX3_reckon_97 rfl ?_
        refine x_if (fun hg25 => ?_)
        refine x_inst (μ := mu_x3_reckon) (pc := 99) (ci := 20) (by decide) rfl q972 dX3_reckon_99 hg25 ?_ ?_
        · refine x_if_eqF (μ := mu_x3_reckon) (pc := 102) (tgt := 126) dX3_reckon_102 rfl (by decide) (by decide) ?_
          refine x_aload (μ := mu_x3_reckon) (pc := 105) 0 dX3_reckon_105 rfl ?_
          refine x_if (fun hg26 => ?_)
          refine x_castC (μ := mu_x3_reckon) (pc := 107) (ci := 20) rfl q972 dX3_reckon_107 hg26 ?_
          refine x_if (fun hT27 => ?_)
          refine x_fgrN (μ := mu_x3_reckon) (pc := 110) fX23_0 (by first | exact Or.inl ⟨_, rfl⟩ | exact Or.inr ⟨_, rfl⟩) q2109 dX3_reckon_110 hT27 ?_
          refine x_aload_n (μ := mu_x3_reckon) (pc := 113) 2 dX3_reckon_113 rfl ?_
          refine x_aload_n (μ := mu_x3_reckon) (pc := 114) 2 dX3_reckon_114 rfl ?_
          refine x_fgr (μ := mu_x3_reckon) (pc := 115) fX3_5 (by first | exact Or.inl ⟨_, rfl⟩ | exact Or.inr ⟨_, rfl⟩) q403 dX3_reckon_115 (gT_E k21 hT11 (by decide)) ?_
          refine x_callF_mv (μ := mu_x3_reckon) (pc := 118) (ok_dp_Part_work (ω := ω) (l := l) (d := d - 1) hl 64 (mR x20 (mR s (mR s (mR s v1 2) (Int.tdiv (mI s (mR s (mR s v0 1) 1) v3.toNat) 10).toNat) (Int.tmod (mI s (mR s (mR s v0 1) 1) v3.toNat) 10).toNat) 0) v0 (mR x20 v0 5) x20 (by omega)) gRel_E gRel_E (fun _ q => q) q974 dX3_reckon_118 iy_Part_work_hy (by omega) rfl (Nat.le_of_ble_eq_true rfl) (fun x28 k29 => ?_)
          refine x_goto (μ := mu_x3_reckon) (pc := 123) (tgt := 146) dX3_reckon_123 rfl ?_
          refine x_loc (lv' := [(0, vR v0), (1, vR v1), (2, vR v2), (3, vI v3), (4, vI (mI s (mR s (mR s v0 1) 1) v3.toNat)), (5, vR (mR s (mR s (mR s v1 2) (Int.tdiv (mI s (mR s (mR s v0 1) 1) v3.toNat) 10).toNat) (Int.tmod (mI s (mR s (mR s v0 1) 1) v3.toNat) 10).toNat))]) [2, 3, 4, 5, 1, 0] rfl ?_
          exact okj_x3_reckon_l25_j146 hl hdp hv3 hr15 ih hK
        · refine x_if_eqT (μ := mu_x3_reckon) (pc := 102) (tgt := 126) dX3_reckon_102 rfl (by decide) (by decide) ?_
          refine x_aload (μ := mu_x3_reckon) (pc := 126) 0 dX3_reckon_126 rfl ?_
          refine x_ifnull (μ := mu_x3_reckon) (pc := 128) (tgt := 146) dX3_reckon_128 rfl ?_ ?_
          · refine x_loc (lv' := [(0, vR v0), (1, vR v1), (2, vR v2), (3, vI v3), (4, vI (mI s (mR s (mR s v0 1) 1) v3.toNat)), (5, vR (mR s (mR s (mR s v1 2) (Int.tdiv (mI s (mR s (mR s v0 1) 1) v3.toNat) 10).toNat) (Int.tmod (mI s (mR s (mR s v0 1) 1) v3.toNat) 10).toNat))]) [2, 3, 4, 5, 1, 0] rfl ?_
            exact okj_x3_reckon_l25_j146 hl hdp hv3 hr15 ih hK
          · refine x_aload (μ := mu_x3_reckon) (pc := 131) 0 dX3_reckon_131 rfl ?_
            refine x_if (fun hg40 => ?_)
            refine x_castP (μ := mu_x3_reckon) (pc := 133) q1329 dX3_reckon_133 hg40 ?_
            refine x_aload_n (μ := mu_x3_reckon) (pc := 136) 2 dX3_reckon_136 rfl ?_
            refine x_aload_n (μ := mu_x3_reckon) (pc := 137) 2 dX3_reckon_137 rfl ?_
            refine x_fgr (μ := mu_x3_reckon) (pc := 138) fX3_5 (by first | exact Or.inl ⟨_, rfl⟩ | exact Or.inr ⟨_, rfl⟩) q403 dX3_reckon_138 (gT_E k21 hT11 (by decide)) ?_
            refine x_callF_mv (μ := mu_x3_reckon) (pc := 141) (ok_dp_Part_work (ω := ω) (l := l) (d := d - 1) hl 64 (mR s (mR s (mR s v1 2) (Int.tdiv (mI s (mR s (mR s v0 1) 1) v3.toNat) 10).toNat) (Int.tmod (mI s (mR s (mR s v0 1) 1) v3.toNat) 10).toNat) v0 (mR x20 v0 5) x20 (by omega)) gRel_E gRel_E (fun _ q => q) q974 dX3_reckon_141 iy_Part_work_hy (by omega) rfl (Nat.le_of_ble_eq_true rfl) (fun x41 k42 => ?_)
            refine x_loc (lv' := [(0, vR v0), (1, vR v1), (2, vR v2), (3, vI v3), (4, vI (mI s (mR s (mR s v0 1) 1) v3.toNat)), (5, vR (mR s (mR s (mR s v1 2) (Int.tdiv (mI s (mR s (mR s v0 1) 1) v3.toNat) 10).toNat) (Int.tmod (mI s (mR s (mR s v0 1) 1) v3.toNat) 10).toNat))]) [2, 3, 4, 5, 1, 0] rfl ?_
            exact okj_x3_reckon_l25_j146 hl hdp hv3 hr15 ih hK
      · refine x_aload_n (μ := mu_x3_reckon) (pc := 85) 2 dX3_reckon_85 rfl ?_
        refine x_fgr (μ := mu_x3_reckon) (pc := 86) fX3_5 (by first | exact Or.inl ⟨_, rfl⟩ | exact Or.inr ⟨_, rfl⟩) q403 dX3_reckon_86 (gT_E k21 hT11 (by decide)) ?_
        refine x_bipush (μ := mu_x3_reckon) (pc := 89) dX3_reckon_89 (by decide) ?_
        refine x_if (fun hT43 => ?_)
        refine x_callV_mv (μ := mu_x3_reckon) (pc := 91) (ok_x5_fail (ω := ω) (l := l) (d := d - 1) hl (by omega) (by decide)) gRel_E gRel_E (fun _ q => q) q968 q969 q970 q225 q971 dX3_reckon_91 rfl hT43 hy_x5_fail (by omega) (Nat.le_of_ble_eq_true rfl) rfl (Nat.le_of_ble_eq_true rfl) (fun x44 k45 => ?_)
        refine x_goto (μ := mu_x3_reckon) (pc := 94) (tgt := 146) dX3_reckon_94 rfl ?_
        refine x_loc (lv' := [(0, vR v0), (1, vR v1), (2, vR v2), (3, vI v3), (4, vI (mI s (mR s (mR s v0 1) 1) v3.toNat)), (5, vR (mR s (mR s (mR s v1 2) (Int.tdiv (mI s (mR s (mR s v0 1) 1) v3.toNat) 10).toNat) (Int.tmod (mI s (mR s (mR s v0 1) 1) v3.toNat) 10).toNat))]) [2, 3, 4, 5, 1, 0] rfl ?_
        exact okj_x3_reckon_l25_j146 hl hdp hv3 hr15 ih hK
def x3_reckon (N : Nat) (v0 : Nat) (v1 : Nat) (v2 : Nat) (σ : gMem) : Option gMem := if mT σ v0 = 3 then gLet (wR σ v0 6 v1) (fun s2 => gLet (wR s2 v0 7 v2) (fun s4 => gLet (wI s4 v0 3 0) (fun s6 => if mT s6 (mR s6 v0 1) = 4 then (x4_find N (mR s6 v0 1) v1 s6).bind (fun x9 => x3_reckon_l25 N v0 v1 v2 (fun s46 => some s46) N 0 x9) else none))) else none
set_option maxRecDepth 100000 in
theorem ok_x3_reckon {ω : gW} {l : Launch} {d : Nat} {N : Nat} {σ : gMem} {v0 : Nat} {v1 : Nat} {v2 : Nat} (hl : l.stackTraces = false) (hdp : 201 ≤ d) : gK (fun p : gMem => (.inl none, p)) gE ω l d mu_x3_reckon [vR v0, vR v1, vR v2] σ (x3_reckon N v0 v1 v2 σ) := by
  refine gK.of hp_X3 (Nat.le_of_ble_eq_true rfl) ?_
  unfold x3_reckon
  refine x_aload_n (μ := mu_x3_reckon) (pc := 0) 0 dX3_reckon_0 rfl ?_
  refine x_aload_n (μ := mu_x3_reckon) (pc := 1) 1 dX3_reckon_1 rfl ?_
  refine x_if (fun hT1 => ?_)
  refine x_fpr (μ := mu_x3_reckon) (pc := 2) fX3_6 q404 (by first | exact Or.inl ⟨_, rfl⟩ | exact Or.inr ⟨_, rfl⟩) dX3_reckon_2 hT1 (fun _ q => gE_wR q) ?_
  refine x_let (fun s2 e3 => ?_)
  refine x_aload_n (μ := mu_x3_reckon) (pc := 5) 0 dX3_reckon_5 rfl ?_
  refine x_aload_n (μ := mu_x3_reckon) (pc := 6) 2 dX3_reckon_6 rfl ?_
  refine x_fpr (μ := mu_x3_reckon) (pc := 7) fX3_7 q405 (by first | exact Or.inl ⟨_, rfl⟩ | exact Or.inr ⟨_, rfl⟩) dX3_reckon_7 (gT_R e3 hT1) (fun _ q => gE_wR q) ?_
  refine x_let (fun s4 e5 => ?_)
  refine x_aload_n (μ := mu_x3_reckon) (pc := 10) 0 dX3_reckon_10 rfl ?_
  refine x_iconst (μ := mu_x3_reckon) (pc := 11) dX3_reckon_11 ?_
  refine x_fpi (μ := mu_x3_reckon) (pc := 12) fX3_3 q399 dX3_reckon_12 (gT_R e5 (gT_R e3 hT1)) (fun _ q => gE_wI q) ?_
  refine x_let (fun s6 e7 => ?_)
  refine x_aload_n (μ := mu_x3_reckon) (pc := 15) 0 dX3_reckon_15 rfl ?_
  refine x_fgr (μ := mu_x3_reckon) (pc := 16) fX3_1 (by first | exact Or.inl ⟨_, rfl⟩ | exact Or.inr ⟨_, rfl⟩) q396 dX3_reckon_16 (gT_I e7 (gT_R e5 (gT_R e3 hT1))) ?_
  refine x_aload_n (μ := mu_x3_reckon) (pc := 19) 1 dX3_reckon_19 rfl ?_
  refine x_if (fun hT8 => ?_)
  refine x_callV_mv (μ := mu_x3_reckon) (pc := 20) (ok_x4_find (ω := ω) (l := l) (d := d - 1) hl (by omega) ) gRel_E gRel_E (fun _ q => q) q836 q837 q838 q224 q839 dX3_reckon_20 rfl hT8 hy_x4_find (by omega) (Nat.le_of_ble_eq_true rfl) rfl (Nat.le_of_ble_eq_true rfl) (fun x9 k10 => ?_)
  refine x_iconst (μ := mu_x3_reckon) (pc := 23) dX3_reckon_23 ?_
  refine x_istore_n (μ := mu_x3_reckon) (pc := 24) (lv' := [(3, vI 0), (0, vR v0), (1, vR v1), (2, vR v2)]) dX3_reckon_24 rfl (by decide) rfl ?_
  refine x_loc (lv' := [(0, vR v0), (1, vR v1), (2, vR v2), (3, vI 0)]) [1, 2, 3, 0] rfl ?_
  refine okl_x3_reckon_l25 hl hdp (fun s46 => ?_) N 0 x9 (by decide)
  exact x_vret (μ := mu_x3_reckon) (pc := 188) (a1 := s46) dX3_reckon_188 rfl rfl (gRel_E.1 _) trivial
def x6_test (N : Nat) (W : Nat → gMem → Option gR) (v0 : Nat) (σ : gMem) : Option gR := if mT σ v0 = 6 then (x6_chain N W v0 σ).bind (fun p => gThrR p (fun x2 s4 => (x6_comparing N v0 s4).bind (fun x5 => if x5.1 ≠ 0 then (x6_chain N W v0 (x5.2)).bind (fun p => gThrR p (fun x7 s9 => (x6_two v0 (x5.1) x2 x7 s9).bind (fun x10 => some (.inl (some (vR (x10.1))), x10.2)))) else some (.inl (some (vR x2)), x5.2)))) else none
set_option maxRecDepth 100000 in
theorem ok_x6_test {ω : gW} {l : Launch} {d : Nat} {N : Nat} {W : Nat → gMem → Option gR} {dW : Nat} {σ : gMem} {v0 : Nat} (hl : l.stackTraces = false) (hW : ∀ (a0 : Nat) (s : gMem), gK (fun p : gR => p) gE ω l dW mu_x6_sign [vR a0] s (W a0 s)) (hdp : 7 ≤ d) (hdw : dW + 4 ≤ d) : gK (fun p : gR => p) gE ω l d mu_x6_test [vR v0] σ (x6_test N W v0 σ) := by
  refine gK.of hp_X6 (Nat.le_of_ble_eq_true rfl) ?_
  unfold x6_test
  refine x_aload_n (μ := mu_x6_test) (pc := 0) 0 dX6_test_0 rfl ?_
  refine x_if (fun hT1 => ?_)
  refine x_callV_xr (μ := mu_x6_test) (pc := 1) (ok_x6_chain (ω := ω) (l := l) (d := d - 1) hl hW (by omega) (by omega) ) q1795 q1797 qs30 q226 q1798 dX6_test_1 rfl hT1 hy_x6_chain (by omega) (Nat.le_of_ble_eq_true rfl) rfl (Nat.le_of_ble_eq_true rfl) (by decide) (fun x2 s4 k3 => ?_)
  refine x_astore_n (μ := mu_x6_test) (pc := 4) (lv' := [(1, vR x2), (0, vR v0)]) dX6_test_4 rfl (by decide) rfl ?_
  refine x_aload_n (μ := mu_x6_test) (pc := 5) 1 dX6_test_5 rfl ?_
  refine x_callV_mr (μ := mu_x6_test) (pc := 6) (ok_x6_comparing (ω := ω) (l := l) (d := d - 1) hl (by omega) ) gRel_E gRel_E (fun _ q => q) q2087 q2089 qs58 q226 q2090 dX6_test_6 rfl (gT_E k3 hT1 (by decide)) hy_x6_comparing (by omega) (Nat.le_of_ble_eq_true rfl) rfl (Nat.le_of_ble_eq_true rfl) (fun x5 k6 => ?_)
  refine x_astore_n (μ := mu_x6_test) (pc := 9) (lv' := [(2, vR (x5.1)), (1, vR x2), (0, vR v0)]) dX6_test_9 rfl (by decide) rfl ?_
  refine x_aload_n (μ := mu_x6_test) (pc := 10) 0 dX6_test_10 rfl ?_
  refine x_ifnonnull (μ := mu_x6_test) (pc := 11) (tgt := 18) dX6_test_11 rfl ?_ ?_
  · refine x_aload_n (μ := mu_x6_test) (pc := 18) 2 dX6_test_18 rfl ?_
    refine x_aload_n (μ := mu_x6_test) (pc := 19) 0 dX6_test_19 rfl ?_
    refine x_aload_n (μ := mu_x6_test) (pc := 20) 1 dX6_test_20 rfl ?_
    refine x_aload_n (μ := mu_x6_test) (pc := 21) 2 dX6_test_21 rfl ?_
    refine x_callV_xr (μ := mu_x6_test) (pc := 22) (ok_x6_chain (ω := ω) (l := l) (d := d - 1) hl hW (by omega) (by omega) ) q1795 q1797 qs30 q226 q1798 dX6_test_22 rfl (gT_E k6 (gT_E k3 hT1 (by decide)) (by decide)) hy_x6_chain (by omega) (Nat.le_of_ble_eq_true rfl) rfl (Nat.le_of_ble_eq_true rfl) (by decide) (fun x7 s9 k8 => ?_)
    refine x_callV_mr (μ := mu_x6_test) (pc := 25) (ok_x6_two (ω := ω) (l := l) (d := d - 1) hl (by omega) ) gRel_E gRel_E (fun _ q => q) q2062 q2064 qs57 q226 q2065 dX6_test_25 rfl (gT_E k8 (gT_E k6 (gT_E k3 hT1 (by decide)) (by decide)) (by decide)) hy_x6_two (by omega) (Nat.le_of_ble_eq_true rfl) rfl (Nat.le_of_ble_eq_true rfl) (fun x10 k11 => ?_)
    exact x_aret (μ := mu_x6_test) (pc := 28) (a1 := ((.inl (some (vR (x10.1))), x10.2) : gR)) dX6_test_28 rfl (by first | exact Or.inl ⟨_, rfl⟩ | exact Or.inr ⟨_, rfl⟩) rfl (gRel_E.1 _) trivial
  · refine x_aload_n (μ := mu_x6_test) (pc := 14) 1 dX6_test_14 rfl ?_
    refine x_goto (μ := mu_x6_test) (pc := 15) (tgt := 28) dX6_test_15 rfl ?_
    exact x_aret (μ := mu_x6_test) (pc := 28) (a1 := ((.inl (some (vR x2)), x5.2) : gR)) dX6_test_28 rfl (by first | exact Or.inl ⟨_, rfl⟩ | exact Or.inr ⟨_, rfl⟩) rfl (gRel_E.1 _) trivial
def x6_arg (N : Nat) (W : Nat → gMem → Option gR) (v0 : Nat) (σ : gMem) : Option gR := if mT σ v0 = 6 then (x6_peek N v0 σ).bind (fun x2 => (x6_corner v0 (mI (x2.2) v0 6) (x2.2)).bind (fun x6 => if x6 ≤ 0 then (x6_test N W v0 (x2.2)).bind (fun p => gThrR p (fun x8 s10 => some (.inl (some (vR x8)), s10))) else (x6_here v0 (w32 ((mI (x2.2) v0 6) + x6)) (x2.2)).bind (fun x12 => if x12 ≠ 58 then (x6_test N W v0 (x2.2)).bind (fun p => gThrR p (fun x14 s16 => some (.inl (some (vR x14)), s16))) else (x6_area N v0 (x2.2)).bind (fun p => gThrR p (fun x17 s19 => some (.inl (some (vR x17)), s19)))))) else none
set_option maxRecDepth 100000 in
theorem ok_x6_arg {ω : gW} {l : Launch} {d : Nat} {N : Nat} {W : Nat → gMem → Option gR} {dW : Nat} {σ : gMem} {v0 : Nat} (hl : l.stackTraces = false) (hW : ∀ (a0 : Nat) (s : gMem), gK (fun p : gR => p) gE ω l dW mu_x6_sign [vR a0] s (W a0 s)) (hdp : 12 ≤ d) (hdw : dW + 5 ≤ d) : gK (fun p : gR => p) gE ω l d mu_x6_arg [vR v0] σ (x6_arg N W v0 σ) := by
  refine gK.of hp_X6 (Nat.le_of_ble_eq_true rfl) ?_
  unfold x6_arg
  refine x_aload_n (μ := mu_x6_arg) (pc := 0) 0 dX6_arg_0 rfl ?_
  refine x_if (fun hT1 => ?_)
  refine x_callV_mi (μ := mu_x6_arg) (pc := 1) (ok_x6_peek (ω := ω) (l := l) (d := d - 1) hl (by omega) ) gRel_E gRel_E (fun _ q => q) q1811 q1813 qs34 q226 q1814 dX6_arg_1 rfl hT1 hy_x6_peek (by omega) (Nat.le_of_ble_eq_true rfl) rfl (Nat.le_of_ble_eq_true rfl) (fun x2 k4 hr3 => ?_)
  refine x_istore_n (μ := mu_x6_arg) (pc := 4) (lv' := [(1, vI (x2.1)), (0, vR v0)]) dX6_arg_4 rfl (by decide) rfl ?_
  refine x_aload_n (μ := mu_x6_arg) (pc := 5) 1 dX6_arg_5 rfl ?_
  refine x_aload_n (μ := mu_x6_arg) (pc := 6) 1 dX6_arg_6 rfl ?_
  refine x_fgi (μ := mu_x6_arg) (pc := 7) fX6_6 q487 dX6_arg_7 (gT_E k4 hT1 (by decide)) (fun hr5 => ?_)
  refine x_callV_pi (μ := mu_x6_arg) (pc := 10) (ok_x6_corner (ω := ω) (l := l) (d := d - 1) hl (by omega) hr5) gRel_E gRel_E (fun _ q => q) q1910 q1912 qs46 q226 q1913 dX6_arg_10 rfl (gT_E k4 hT1 (by decide)) hy_x6_corner (by omega) (Nat.le_of_ble_eq_true rfl) rfl (Nat.le_of_ble_eq_true rfl) (fun x6 hr7 => ?_)
  refine x_istore_n (μ := mu_x6_arg) (pc := 13) (lv' := [(2, vI x6), (1, vI (x2.1)), (0, vR v0)]) dX6_arg_13 rfl (by decide) rfl ?_
  refine x_iload_n (μ := mu_x6_arg) (pc := 14) 0 dX6_arg_14 rfl ?_
  refine x_if_le (μ := mu_x6_arg) (pc := 15) (tgt := 40) dX6_arg_15 rfl hr7 ?_ ?_
  · refine x_aload_n (μ := mu_x6_arg) (pc := 40) 2 dX6_arg_40 rfl ?_
    refine x_callV_xr (μ := mu_x6_arg) (pc := 41) (ok_x6_test (ω := ω) (l := l) (d := d - 1) hl hW (by omega) (by omega) ) q1791 q1793 qs29 q226 q1794 dX6_arg_41 rfl (gT_E k4 hT1 (by decide)) hy_x6_test (by omega) (Nat.le_of_ble_eq_true rfl) rfl (Nat.le_of_ble_eq_true rfl) (by decide) (fun x8 s10 k9 => ?_)
    exact x_aret (μ := mu_x6_arg) (pc := 44) (a1 := ((.inl (some (vR x8)), s10) : gR)) dX6_arg_44 rfl (by first | exact Or.inl ⟨_, rfl⟩ | exact Or.inr ⟨_, rfl⟩) rfl (gRel_E.1 _) trivial
  · refine x_aload_n (μ := mu_x6_arg) (pc := 18) 2 dX6_arg_18 rfl ?_
    refine x_aload_n (μ := mu_x6_arg) (pc := 19) 2 dX6_arg_19 rfl ?_
    refine x_fgi (μ := mu_x6_arg) (pc := 20) fX6_6 q487 dX6_arg_20 (gT_E k4 hT1 (by decide)) (fun hr11 => ?_)
    refine x_iload_n (μ := mu_x6_arg) (pc := 23) 0 dX6_arg_23 rfl ?_
    refine x_iadd (μ := mu_x6_arg) (pc := 24) dX6_arg_24 ?_
    refine x_w1 ?_
    refine x_callV_pi (μ := mu_x6_arg) (pc := 25) (ok_x6_here (ω := ω) (l := l) (d := d - 1) hl (by omega) (w32_rng _)) gRel_E gRel_E (fun _ q => q) q1815 q1817 qs35 q226 q1818 dX6_arg_25 rfl (gT_E k4 hT1 (by decide)) hy_x6_here (by omega) (Nat.le_of_ble_eq_true rfl) rfl (Nat.le_of_ble_eq_true rfl) (fun x12 hr13 => ?_)
    refine x_bipush (μ := mu_x6_arg) (pc := 28) dX6_arg_28 (by decide) ?_
    refine x_icmp_ne (μ := mu_x6_arg) (pc := 30) (tgt := 40) dX6_arg_30 rfl hr13 (by decide) ?_ ?_
    · refine x_aload_n (μ := mu_x6_arg) (pc := 40) 2 dX6_arg_40 rfl ?_
      refine x_callV_xr (μ := mu_x6_arg) (pc := 41) (ok_x6_test (ω := ω) (l := l) (d := d - 1) hl hW (by omega) (by omega) ) q1791 q1793 qs29 q226 q1794 dX6_arg_41 rfl (gT_E k4 hT1 (by decide)) hy_x6_test (by omega) (Nat.le_of_ble_eq_true rfl) rfl (Nat.le_of_ble_eq_true rfl) (by decide) (fun x14 s16 k15 => ?_)
      exact x_aret (μ := mu_x6_arg) (pc := 44) (a1 := ((.inl (some (vR x14)), s16) : gR)) dX6_arg_44 rfl (by first | exact Or.inl ⟨_, rfl⟩ | exact Or.inr ⟨_, rfl⟩) rfl (gRel_E.1 _) trivial
    · refine x_aload_n (μ := mu_x6_arg) (pc := 33) 2 dX6_arg_33 rfl ?_
      refine x_callV_xr (μ := mu_x6_arg) (pc := 34) (ok_x6_area (ω := ω) (l := l) (d := d - 1) hl (by omega) ) q2004 q2006 qs55 q226 q2007 dX6_arg_34 rfl (gT_E k4 hT1 (by decide)) hy_x6_area (by omega) (Nat.le_of_ble_eq_true rfl) rfl (Nat.le_of_ble_eq_true rfl) (by decide) (fun x17 s19 k18 => ?_)
      refine x_goto (μ := mu_x6_arg) (pc := 37) (tgt := 44) dX6_arg_37 rfl ?_
      exact x_aret (μ := mu_x6_arg) (pc := 44) (a1 := ((.inl (some (vR x17)), s19) : gR)) dX6_arg_44 rfl (by first | exact Or.inl ⟨_, rfl⟩ | exact Or.inr ⟨_, rfl⟩) rfl (gRel_E.1 _) trivial
def x1_ready (N : Nat) (v0 : Nat) (σ : gMem) : Option (Nat × gMem) := if mT σ v0 = 1 then if mI σ v0 10 ≠ 0 then gLet (wI σ v0 10 1) (fun s3 => some (mR s3 v0 9, s3)) else if mT σ (mR σ v0 23) = 3 then (x3_reckon N (mR σ v0 23) (mR σ v0 8) (mR σ v0 9) σ).bind (fun x6 => gLet (wI x6 v0 10 1) (fun s8 => some (mR s8 v0 9, s8))) else none else none
set_option maxRecDepth 100000 in
theorem ok_x1_ready {ω : gW} {l : Launch} {d : Nat} {N : Nat} {σ : gMem} {v0 : Nat} (hl : l.stackTraces = false) (hdp : 202 ≤ d) : gK (fun p : Nat × gMem => (.inl (some (vR p.1)), p.2)) gE ω l d mu_x1_ready [vR v0] σ (x1_ready N v0 σ) := by
  refine gK.of hp_X1 (Nat.le_of_ble_eq_true rfl) ?_
  unfold x1_ready
  refine x_aload_n (μ := mu_x1_ready) (pc := 0) 0 dX1_ready_0 rfl ?_
  refine x_if (fun hT1 => ?_)
  refine x_fgz (μ := mu_x1_ready) (pc := 1) fX1_10 q655 dX1_ready_1 hT1 (fun hr2 => ?_)
  refine x_if_ne (μ := mu_x1_ready) (pc := 4) (tgt := 22) dX1_ready_4 rfl hr2 ?_ ?_
  · refine x_aload_n (μ := mu_x1_ready) (pc := 22) 0 dX1_ready_22 rfl ?_
    refine x_iconst (μ := mu_x1_ready) (pc := 23) dX1_ready_23 ?_
    refine x_fpz (μ := mu_x1_ready) (pc := 24) fX1_10 q655 (by decide) dX1_ready_24 hT1 (fun _ q => gE_wI q) ?_
    refine x_let (fun s3 e4 => ?_)
    refine x_aload_n (μ := mu_x1_ready) (pc := 27) 0 dX1_ready_27 rfl ?_
    refine x_fgr (μ := mu_x1_ready) (pc := 28) fX1_9 (by first | exact Or.inl ⟨_, rfl⟩ | exact Or.inr ⟨_, rfl⟩) q654 dX1_ready_28 (gT_I e4 hT1) ?_
    exact x_aret (μ := mu_x1_ready) (pc := 31) dX1_ready_31 rfl (by first | exact Or.inl ⟨_, rfl⟩ | exact Or.inr ⟨_, rfl⟩) rfl (gRel_E.1 _) trivial
  · refine x_aload_n (μ := mu_x1_ready) (pc := 7) 0 dX1_ready_7 rfl ?_
    refine x_fgr (μ := mu_x1_ready) (pc := 8) fX1_23 (by first | exact Or.inl ⟨_, rfl⟩ | exact Or.inr ⟨_, rfl⟩) q668 dX1_ready_8 hT1 ?_
    refine x_aload_n (μ := mu_x1_ready) (pc := 11) 0 dX1_ready_11 rfl ?_
    refine x_fgr (μ := mu_x1_ready) (pc := 12) fX1_8 (by first | exact Or.inl ⟨_, rfl⟩ | exact Or.inr ⟨_, rfl⟩) q653 dX1_ready_12 hT1 ?_
    refine x_aload_n (μ := mu_x1_ready) (pc := 15) 0 dX1_ready_15 rfl ?_
    refine x_fgr (μ := mu_x1_ready) (pc := 16) fX1_9 (by first | exact Or.inl ⟨_, rfl⟩ | exact Or.inr ⟨_, rfl⟩) q654 dX1_ready_16 hT1 ?_
    refine x_if (fun hT5 => ?_)
    refine x_callV_mv (μ := mu_x1_ready) (pc := 19) (ok_x3_reckon (ω := ω) (l := l) (d := d - 1) hl (by omega) ) gRel_E gRel_E (fun _ q => q) q832 q833 q834 q223 q835 dX1_ready_19 rfl hT5 hy_x3_reckon (by omega) (Nat.le_of_ble_eq_true rfl) rfl (Nat.le_of_ble_eq_true rfl) (fun x6 k7 => ?_)
    refine x_aload_n (μ := mu_x1_ready) (pc := 22) 0 dX1_ready_22 rfl ?_
    refine x_iconst (μ := mu_x1_ready) (pc := 23) dX1_ready_23 ?_
    refine x_fpz (μ := mu_x1_ready) (pc := 24) fX1_10 q655 (by decide) dX1_ready_24 (gT_E k7 hT1 (by decide)) (fun _ q => gE_wI q) ?_
    refine x_let (fun s8 e9 => ?_)
    refine x_aload_n (μ := mu_x1_ready) (pc := 27) 0 dX1_ready_27 rfl ?_
    refine x_fgr (μ := mu_x1_ready) (pc := 28) fX1_9 (by first | exact Or.inl ⟨_, rfl⟩ | exact Or.inr ⟨_, rfl⟩) q654 dX1_ready_28 (gT_I e9 (gT_E k7 hT1 (by decide))) ?_
    exact x_aret (μ := mu_x1_ready) (pc := 31) dX1_ready_31 rfl (by first | exact Or.inl ⟨_, rfl⟩ | exact Or.inr ⟨_, rfl⟩) rfl (gRel_E.1 _) trivial
def x1_sort_l74 (N : Nat) (v0 : Nat) (v1 : Int) (v2 : Int) (v3 : Int) (v4 : Int) (v6 : Nat) (K : gMem → Option gR) : Nat → Int → gMem → Option gR
  | 0, _, _ => none
  | n + 1, v7, s => if mT s v6 = 100 then if w32 (mN s v6 : Int) ≤ v7 then K s else if 0 ≤ v7 ∧ v7 < (mN s v6 : Int) then gLet (wI s v6 v7.toNat v7) (fun s16 => x1_sort_l74 N v0 v1 v2 v3 v4 v6 K n (w32 (v7 + 1)) s16) else none else none
set_option maxRecDepth 100000 in
theorem okl_x1_sort_l74 {ω : gW} {l : Launch} {d : Nat} {N : Nat} {σ0 : gMem} {v0 : Nat} {v1 : Int} {v2 : Int} {v3 : Int} {v4 : Int} {v6 : Nat} {K : gMem → Option gR} (hl : l.stackTraces = false) (hdp : 203 ≤ d) (hv1 : g32 v1) (hv2 : g32 v2) (hv3 : g32 v3) (hv4 : g32 v4) (hK : ∀ (s : gMem) , GG (fun p : gR => p) gE ω l d mu_x1_sort σ0 95 [(0, vR v0), (1, vI v1), (2, vI v2), (3, vI v3), (4, vI v4), (6, vR v6)] [] s (K s)) : ∀ (n : Nat) (v7 : Int) (s : gMem) , g32 v7 → GG (fun p : gR => p) gE ω l d mu_x1_sort σ0 74 [(0, vR v0), (1, vI v1), (2, vI v2), (3, vI v3), (4, vI v4), (6, vR v6), (7, vI v7)] [] s (x1_sort_l74 N v0 v1 v2 v3 v4 v6 K n v7 s) := by
  intro n
  induction n with
  | zero => intros; exact x_none
  | succ n ih =>
    intro v7 s hv7
    unfold x1_sort_l74
    refine x_iload (μ := mu_x1_sort) (pc := 74) 6 dX1_sort_74 rfl ?_
    refine x_aload (μ := mu_x1_sort) (pc := 76) 5 dX1_sort_76 rfl ?_
    refine x_if (fun hT15 => ?_)
    refine x_len (μ := mu_x1_sort) (pc := 78) 0 (fun _ => rfl) dX1_sort_78 hT15 ?_
    refine x_w1 ?_
    refine x_icmp_ge (μ := mu_x1_sort) (pc := 79) (tgt := 95) dX1_sort_79 rfl hv7 (w32_rng _) ?_ ?_
    · refine x_loc (lv' := [(0, vR v0), (1, vI v1), (2, vI v2), (3, vI v3), (4, vI v4), (6, vR v6)]) [0, 1, 2, 3, 4, 5] rfl ?_
      exact hK s
    · refine x_aload (μ := mu_x1_sort) (pc := 82) 5 dX1_sort_82 rfl ?_
      refine x_iload (μ := mu_x1_sort) (pc := 84) 6 dX1_sort_84 rfl ?_
      refine x_iload (μ := mu_x1_sort) (pc := 86) 6 dX1_sort_86 rfl ?_
      refine x_iast (μ := mu_x1_sort) (pc := 88) dX1_sort_88 hT15 rfl (fun _ _ q => gE_wI q) ?_
      refine x_let (fun s16 e17 => ?_)
      refine x_iincw (μ := mu_x1_sort) (pc := 89) (lv' := [(7, vI (w32 (v7 + 1))), (0, vR v0), (1, vI v1), (2, vI v2), (3, vI v3), (4, vI v4), (6, vR v6)]) 6 dX1_sort_89 rfl (by decide) rfl ?_
      refine x_goto (μ := mu_x1_sort) (pc := 92) (tgt := 74) dX1_sort_92 rfl ?_
      refine x_loc (lv' := [(0, vR v0), (1, vI v1), (2, vI v2), (3, vI v3), (4, vI v4), (6, vR v6), (7, vI (w32 (v7 + 1)))]) [1, 2, 3, 4, 5, 6, 0] rfl ?_
      exact ih (w32 (v7 + 1)) s16 (w32_rng _)
def x1_sort_l115 (N : Nat) (v0 : Nat) (v1 : Int) (v2 : Int) (v3 : Int) (v4 : Int) (v6 : Nat) (v7 : Int) (v8 : Int) (K : Int → gMem → Option gR) : Nat → Int → gMem → Option gR
  | 0, _, _ => none
  | n + 1, v9, s => if v9 < v2 then K v9 s else if mT s v6 = 100 then if 0 ≤ (v9 - 1) ∧ (v9 - 1) < (mN s v6 : Int) then if mT s v0 = 1 then (x1_against N v0 v8 (mI s v6 (v9 - 1).toNat) (w32 (v1 - 1)) v4 s).bind (fun x24 => if 0 ≤ x24.1 then K v9 (x24.2) else if 0 ≤ (v9 - 1) ∧ (v9 - 1) < (mN (x24.2) v6 : Int) then if 0 ≤ v9 ∧ v9 < (mN (x24.2) v6 : Int) then gLet (wI (x24.2) v6 v9.toNat (mI (x24.2) v6 (v9 - 1).toNat)) (fun s28 => x1_sort_l115 N v0 v1 v2 v3 v4 v6 v7 v8 K n (w32 (v9 + (-1))) s28) else none else none) else none else none else none
set_option maxRecDepth 100000 in
theorem okl_x1_sort_l115 {ω : gW} {l : Launch} {d : Nat} {N : Nat} {σ0 : gMem} {v0 : Nat} {v1 : Int} {v2 : Int} {v3 : Int} {v4 : Int} {v6 : Nat} {v7 : Int} {v8 : Int} {K : Int → gMem → Option gR} (hl : l.stackTraces = false) (hdp : 203 ≤ d) (hv1 : g32 v1) (hv2 : g32 v2) (hv3 : g32 v3) (hv4 : g32 v4) (hv7 : g32 v7) (hv8 : g32 v8) (hK : ∀ (v9 : Int) (s : gMem) , g32 v9 → GG (fun p : gR => p) gE ω l d mu_x1_sort σ0 160 [(0, vR v0), (1, vI v1), (2, vI v2), (3, vI v3), (4, vI v4), (6, vR v6), (7, vI v7), (8, vI v8), (9, vI v9)] [] s (K v9 s)) : ∀ (n : Nat) (v9 : Int) (s : gMem) , g32 v9 → GG (fun p : gR => p) gE ω l d mu_x1_sort σ0 115 [(0, vR v0), (1, vI v1), (2, vI v2), (3, vI v3), (4, vI v4), (6, vR v6), (7, vI v7), (8, vI v8), (9, vI v9)] [] s (x1_sort_l115 N v0 v1 v2 v3 v4 v6 v7 v8 K n v9 s) := by
  intro n
  induction n with
  | zero => intros; exact x_none
  | succ n ih =>
    intro v9 s hv9
    unfold x1_sort_l115
    refine x_iload (μ := mu_x1_sort) (pc := 115) 8 dX1_sort_115 rfl ?_
    refine x_iload_n (μ := mu_x1_sort) (pc := 117) 2 dX1_sort_117 rfl ?_
    refine x_icmp_lt (μ := mu_x1_sort) (pc := 118) (tgt := 160) dX1_sort_118 rfl hv9 hv2 ?_ ?_
    · exact hK v9 s hv9
    · refine x_aload_n (μ := mu_x1_sort) (pc := 121) 0 dX1_sort_121 rfl ?_
      refine x_iload (μ := mu_x1_sort) (pc := 122) 7 dX1_sort_122 rfl ?_
      refine x_aload (μ := mu_x1_sort) (pc := 124) 5 dX1_sort_124 rfl ?_
      refine x_iload (μ := mu_x1_sort) (pc := 126) 8 dX1_sort_126 rfl ?_
      refine x_iconst (μ := mu_x1_sort) (pc := 128) dX1_sort_128 ?_
      refine x_isub (μ := mu_x1_sort) (pc := 129) dX1_sort_129 ?_
      refine x_if (fun hT21 => ?_)
      refine x_iald (μ := mu_x1_sort) (pc := 130) dX1_sort_130 hT21 rfl (fun hr22 => ?_)
      refine x_iload_n (μ := mu_x1_sort) (pc := 131) 1 dX1_sort_131 rfl ?_
      refine x_iconst (μ := mu_x1_sort) (pc := 132) dX1_sort_132 ?_
      refine x_isub (μ := mu_x1_sort) (pc := 133) dX1_sort_133 ?_
      refine x_iload (μ := mu_x1_sort) (pc := 134) 4 dX1_sort_134 rfl ?_
      refine x_w2 ?_
      refine x_if (fun hT23 => ?_)
      refine x_callV_mi (μ := mu_x1_sort) (pc := 136) (ok_x1_against (ω := ω) (l := l) (d := d - 1) hl (by omega) hv8 hr22 (w32_rng _) hv4) gRel_E gRel_E (fun _ q => q) q2378 q2380 qs63 q221 q2381 dX1_sort_136 rfl hT23 hy_x1_against (by omega) (Nat.le_of_ble_eq_true rfl) rfl (Nat.le_of_ble_eq_true rfl) (fun x24 k26 hr25 => ?_)
      refine x_if_ge (μ := mu_x1_sort) (pc := 139) (tgt := 160) dX1_sort_139 rfl hr25 ?_ ?_
      · exact hK v9 (x24.2) hv9
      · refine x_aload (μ := mu_x1_sort) (pc := 142) 5 dX1_sort_142 rfl ?_
        refine x_iload (μ := mu_x1_sort) (pc := 144) 8 dX1_sort_144 rfl ?_
        refine x_aload (μ := mu_x1_sort) (pc := 146) 5 dX1_sort_146 rfl ?_
        refine x_iload (μ := mu_x1_sort) (pc := 148) 8 dX1_sort_148 rfl ?_
        refine x_iconst (μ := mu_x1_sort) (pc := 150) dX1_sort_150 ?_
        refine x_isub (μ := mu_x1_sort) (pc := 151) dX1_sort_151 ?_
        refine x_iald (μ := mu_x1_sort) (pc := 152) dX1_sort_152 (gT_E k26 hT21 (by decide)) rfl (fun hr27 => ?_)
        refine x_iast (μ := mu_x1_sort) (pc := 153) dX1_sort_153 (gT_E k26 hT21 (by decide)) rfl (fun _ _ q => gE_wI q) ?_
        refine x_let (fun s28 e29 => ?_)
        refine x_iincw (μ := mu_x1_sort) (pc := 154) (lv' := [(9, vI (w32 (v9 + (-1)))), (0, vR v0), (1, vI v1), (2, vI v2), (3, vI v3), (4, vI v4), (6, vR v6), (7, vI v7), (8, vI v8)]) 8 dX1_sort_154 rfl (by decide) rfl ?_
        refine x_goto (μ := mu_x1_sort) (pc := 157) (tgt := 115) dX1_sort_157 rfl ?_
        refine x_loc (lv' := [(0, vR v0), (1, vI v1), (2, vI v2), (3, vI v3), (4, vI v4), (6, vR v6), (7, vI v7), (8, vI v8), (9, vI (w32 (v9 + (-1))))]) [1, 2, 3, 4, 5, 6, 7, 8, 0] rfl ?_
        exact ih (w32 (v9 + (-1))) s28 (w32_rng _)
def x1_sort_l98_j160 (N : Nat) (v0 : Nat) (v1 : Int) (v2 : Int) (v3 : Int) (v4 : Int) (v6 : Nat) (v7 : Int) (v8 : Int) (v9 : Int) (Kh : Int → gMem → Option gR) (K : gMem → Option gR) (s : gMem) : Option gR := if mT s v6 = 100 then if 0 ≤ v9 ∧ v9 < (mN s v6 : Int) then gLet (wI s v6 v9.toNat v8) (fun s33 => Kh (w32 (v7 + 1)) s33) else none else none
set_option maxRecDepth 100000 in
theorem okj_x1_sort_l98_j160 {ω : gW} {l : Launch} {d : Nat} {N : Nat} {σ0 : gMem} {s : gMem} {v0 : Nat} {v1 : Int} {v2 : Int} {v3 : Int} {v4 : Int} {v6 : Nat} {v7 : Int} {v8 : Int} {v9 : Int} {Kh : Int → gMem → Option gR} {K : gMem → Option gR} (hl : l.stackTraces = false) (hdp : 203 ≤ d) (hv1 : g32 v1) (hv2 : g32 v2) (hv3 : g32 v3) (hv4 : g32 v4) (hv7 : g32 v7) (hv8 : g32 v8) (hv9 : g32 v9) (hKh : ∀ (v7 : Int) (s : gMem) , g32 v7 → GG (fun p : gR => p) gE ω l d mu_x1_sort σ0 98 [(0, vR v0), (1, vI v1), (2, vI v2), (3, vI v3), (4, vI v4), (6, vR v6), (7, vI v7)] [] s (Kh v7 s)) (hK : ∀ (s : gMem) , GG (fun p : gR => p) gE ω l d mu_x1_sort σ0 173 [(0, vR v0), (6, vR v6)] [] s (K s)) : GG (fun p : gR => p) gE ω l d mu_x1_sort σ0 160 [(0, vR v0), (1, vI v1), (2, vI v2), (3, vI v3), (4, vI v4), (6, vR v6), (7, vI v7), (8, vI v8), (9, vI v9)] [] s (x1_sort_l98_j160 N v0 v1 v2 v3 v4 v6 v7 v8 v9 Kh K s) := by
  unfold x1_sort_l98_j160
  refine x_aload (μ := mu_x1_sort) (pc := 160) 5 dX1_sort_160 rfl ?_
  refine x_iload (μ := mu_x1_sort) (pc := 162) 8 dX1_sort_162 rfl ?_
  refine x_iload (μ := mu_x1_sort) (pc := 164) 7 dX1_sort_164 rfl ?_
  refine x_if (fun hT32 => ?_)
  refine x_iast (μ := mu_x1_sort) (pc := 166) dX1_sort_166 hT32 rfl (fun _ _ q => gE_wI q) ?_
  refine x_let (fun s33 e34 => ?_)
  refine x_iincw (μ := mu_x1_sort) (pc := 167) (lv' := [(7, vI (w32 (v7 + 1))), (0, vR v0), (1, vI v1), (2, vI v2), (3, vI v3), (4, vI v4), (6, vR v6), (8, vI v8), (9, vI v9)]) 6 dX1_sort_167 rfl (by decide) rfl ?_
  refine x_goto (μ := mu_x1_sort) (pc := 170) (tgt := 98) dX1_sort_170 rfl ?_
  refine x_loc (lv' := [(0, vR v0), (1, vI v1), (2, vI v2), (3, vI v3), (4, vI v4), (6, vR v6), (7, vI (w32 (v7 + 1)))]) [1, 2, 3, 4, 5, 6, 0] rfl ?_
  exact hKh (w32 (v7 + 1)) s33 (w32_rng _)
def x1_sort_l98 (N : Nat) (v0 : Nat) (v1 : Int) (v2 : Int) (v3 : Int) (v4 : Int) (v6 : Nat) (K : gMem → Option gR) : Nat → Int → gMem → Option gR
  | 0, _, _ => none
  | n + 1, v7, s => if v3 ≤ v7 then K s else if mT s v6 = 100 then if 0 ≤ v7 ∧ v7 < (mN s v6 : Int) then x1_sort_l115 N v0 v1 v2 v3 v4 v6 v7 (mI s v6 v7.toNat) (fun y30 s31 => x1_sort_l98_j160 N v0 v1 v2 v3 v4 v6 v7 (mI s v6 v7.toNat) y30  (x1_sort_l98 N v0 v1 v2 v3 v4 v6 K n) K s31) N v7 s else none else none
set_option maxRecDepth 100000 in
theorem okl_x1_sort_l98 {ω : gW} {l : Launch} {d : Nat} {N : Nat} {σ0 : gMem} {v0 : Nat} {v1 : Int} {v2 : Int} {v3 : Int} {v4 : Int} {v6 : Nat} {K : gMem → Option gR} (hl : l.stackTraces = false) (hdp : 203 ≤ d) (hv1 : g32 v1) (hv2 : g32 v2) (hv3 : g32 v3) (hv4 : g32 v4) (hK : ∀ (s : gMem) , GG (fun p : gR => p) gE ω l d mu_x1_sort σ0 173 [(0, vR v0), (6, vR v6)] [] s (K s)) : ∀ (n : Nat) (v7 : Int) (s : gMem) , g32 v7 → GG (fun p : gR => p) gE ω l d mu_x1_sort σ0 98 [(0, vR v0), (1, vI v1), (2, vI v2), (3, vI v3), (4, vI v4), (6, vR v6), (7, vI v7)] [] s (x1_sort_l98 N v0 v1 v2 v3 v4 v6 K n v7 s) := by
  intro n
  induction n with
  | zero => intros; exact x_none
  | succ n ih =>
    intro v7 s hv7
    unfold x1_sort_l98
    refine x_iload (μ := mu_x1_sort) (pc := 98) 6 dX1_sort_98 rfl ?_
    refine x_iload_n (μ := mu_x1_sort) (pc := 100) 3 dX1_sort_100 rfl ?_
    refine x_icmp_ge (μ := mu_x1_sort) (pc := 101) (tgt := 173) dX1_sort_101 rfl hv7 hv3 ?_ ?_
    · refine x_loc (lv' := [(0, vR v0), (6, vR v6)]) [0, 5] rfl ?_
      exact hK s
    · refine x_aload (μ := mu_x1_sort) (pc := 104) 5 dX1_sort_104 rfl ?_
      refine x_iload (μ := mu_x1_sort) (pc := 106) 6 dX1_sort_106 rfl ?_
      refine x_if (fun hT19 => ?_)
      refine x_iald (μ := mu_x1_sort) (pc := 108) dX1_sort_108 hT19 rfl (fun hr20 => ?_)
      refine x_istore (μ := mu_x1_sort) (pc := 109) (lv' := [(8, vI (mI s v6 v7.toNat)), (0, vR v0), (1, vI v1), (2, vI v2), (3, vI v3), (4, vI v4), (6, vR v6), (7, vI v7)]) dX1_sort_109 (by decide) rfl ?_
      refine x_iload (μ := mu_x1_sort) (pc := 111) 7 dX1_sort_111 rfl ?_
      refine x_istore (μ := mu_x1_sort) (pc := 113) (lv' := [(9, vI v7), (8, vI (mI s v6 v7.toNat)), (0, vR v0), (1, vI v1), (2, vI v2), (3, vI v3), (4, vI v4), (6, vR v6), (7, vI v7)]) dX1_sort_113 (by decide) rfl ?_
      refine x_loc (lv' := [(0, vR v0), (1, vI v1), (2, vI v2), (3, vI v3), (4, vI v4), (6, vR v6), (7, vI v7), (8, vI (mI s v6 v7.toNat)), (9, vI v7)]) [2, 3, 4, 5, 6, 7, 8, 1, 0] rfl ?_
      refine okl_x1_sort_l115 hl hdp hv1 hv2 hv3 hv4 hv7 hr20 (fun y30 s31 hy30 => ?_) N v7 s hv7
      exact okj_x1_sort_l98_j160 hl hdp hv1 hv2 hv3 hv4 hv7 hr20 hy30 ih hK
def x1_sort_l186_j229 (N : Nat) (v0 : Nat) (v6 : Nat) (v7 : Nat) (v9 : Int) (t0 : Int) (t1 : Int) (Kh : Int → Int → gMem → Option gR) (K : Int → gMem → Option gR) (s : gMem) : Option gR := Kh (w32 (t1 + t0)) (w32 (v9 + 1)) s
set_option maxRecDepth 100000 in
theorem okj_x1_sort_l186_j229 {ω : gW} {l : Launch} {d : Nat} {N : Nat} {σ0 : gMem} {s : gMem} {v0 : Nat} {v6 : Nat} {v7 : Nat} {v9 : Int} {t0 : Int} {t1 : Int} {Kh : Int → Int → gMem → Option gR} {K : Int → gMem → Option gR} (hl : l.stackTraces = false) (hdp : 203 ≤ d) (hv9 : g32 v9) (ht0 : g32 t0) (ht1 : g32 t1) (hKh : ∀ (v8 : Int) (v9 : Int) (s : gMem) , g32 v8 → g32 v9 → GG (fun p : gR => p) gE ω l d mu_x1_sort σ0 186 [(0, vR v0), (6, vR v6), (7, vR v7), (8, vI v8), (9, vI v9)] [] s (Kh v8 v9 s)) (hK : ∀ (v8 : Int) (s : gMem) , g32 v8 → GG (fun p : gR => p) gE ω l d mu_x1_sort σ0 238 [(0, vR v0), (7, vR v7), (8, vI v8)] [] s (K v8 s)) : GG (fun p : gR => p) gE ω l d mu_x1_sort σ0 229 [(0, vR v0), (6, vR v6), (7, vR v7), (9, vI v9)] [vI t0, vI t1] s (x1_sort_l186_j229 N v0 v6 v7 v9 t0 t1 Kh K s) := by
  unfold x1_sort_l186_j229
  refine x_iadd (μ := mu_x1_sort) (pc := 229) dX1_sort_229 ?_
  refine x_w1 ?_
  refine x_istore (μ := mu_x1_sort) (pc := 230) (lv' := [(8, vI (w32 (t1 + t0))), (0, vR v0), (6, vR v6), (7, vR v7), (9, vI v9)]) dX1_sort_230 (by decide) rfl ?_
  refine x_iincw (μ := mu_x1_sort) (pc := 232) (lv' := [(9, vI (w32 (v9 + 1))), (8, vI (w32 (t1 + t0))), (0, vR v0), (6, vR v6), (7, vR v7)]) 4 dX1_sort_232 rfl (by decide) rfl ?_
  refine x_goto (μ := mu_x1_sort) (pc := 235) (tgt := 186) dX1_sort_235 rfl ?_
  refine x_loc (lv' := [(0, vR v0), (6, vR v6), (7, vR v7), (8, vI (w32 (t1 + t0))), (9, vI (w32 (v9 + 1)))]) [2, 3, 4, 1, 0] rfl ?_
  exact hKh (w32 (t1 + t0)) (w32 (v9 + 1)) s (w32_rng _) (w32_rng _)
def x1_sort_l186 (N : Nat) (v0 : Nat) (v6 : Nat) (v7 : Nat) (K : Int → gMem → Option gR) : Nat → Int → Int → gMem → Option gR
  | 0, _, _, _ => none
  | n + 1, v8, v9, s => if mT s v6 = 100 then if w32 (mN s v6 : Int) ≤ v9 then K v8 s else if mT s v0 = 1 then if mT s (mR s v0 8) = 8 then if 0 ≤ v9 ∧ v9 < (mN s v6 : Int) then if mT s (mR s (mR s v0 8) 0) = 100 then if 0 ≤ (mI s v6 v9.toNat) ∧ (mI s v6 v9.toNat) < (mN s (mR s (mR s v0 8) 0) : Int) then if mT s v7 = 100 then if 0 ≤ v9 ∧ v9 < (mN s v7 : Int) then gLet (wI s v7 v9.toNat (mI s (mR s (mR s v0 8) 0) (mI s v6 v9.toNat).toNat)) (fun s48 => if 0 ≤ v9 ∧ v9 < (mN s48 v6 : Int) then if mI s48 v6 v9.toNat ≠ v9 then x1_sort_l186_j229 N v0 v6 v7 v9 1 v8 (x1_sort_l186 N v0 v6 v7 K n) K s48 else x1_sort_l186_j229 N v0 v6 v7 v9 0 v8 (x1_sort_l186 N v0 v6 v7 K n) K s48 else none) else none else none else none else none else none else none else none else none
set_option maxRecDepth 100000 in
theorem okl_x1_sort_l186 {ω : gW} {l : Launch} {d : Nat} {N : Nat} {σ0 : gMem} {v0 : Nat} {v6 : Nat} {v7 : Nat} {K : Int → gMem → Option gR} (hl : l.stackTraces = false) (hdp : 203 ≤ d) (hK : ∀ (v8 : Int) (s : gMem) , g32 v8 → GG (fun p : gR => p) gE ω l d mu_x1_sort σ0 238 [(0, vR v0), (7, vR v7), (8, vI v8)] [] s (K v8 s)) : ∀ (n : Nat) (v8 : Int) (v9 : Int) (s : gMem) , g32 v8 → g32 v9 → GG (fun p : gR => p) gE ω l d mu_x1_sort σ0 186 [(0, vR v0), (6, vR v6), (7, vR v7), (8, vI v8), (9, vI v9)] [] s (x1_sort_l186 N v0 v6 v7 K n v8 v9 s) := by
  intro n
  induction n with
  | zero => intros; exact x_none
  | succ n ih =>
    intro v8 v9 s hv8 hv9
    unfold x1_sort_l186
    refine x_iload (μ := mu_x1_sort) (pc := 186) 4 dX1_sort_186 rfl ?_
    refine x_aload (μ := mu_x1_sort) (pc := 188) 1 dX1_sort_188 rfl ?_
    refine x_if (fun hT41 => ?_)
    refine x_len (μ := mu_x1_sort) (pc := 190) 0 (fun _ => rfl) dX1_sort_190 hT41 ?_
    refine x_w1 ?_
    refine x_icmp_ge (μ := mu_x1_sort) (pc := 191) (tgt := 238) dX1_sort_191 rfl hv9 (w32_rng _) ?_ ?_
    · refine x_loc (lv' := [(0, vR v0), (7, vR v7), (8, vI v8)]) [0, 2, 3] rfl ?_
      exact hK v8 s hv8
    · refine x_aload (μ := mu_x1_sort) (pc := 194) 2 dX1_sort_194 rfl ?_
      refine x_iload (μ := mu_x1_sort) (pc := 196) 4 dX1_sort_196 rfl ?_
      refine x_aload_n (μ := mu_x1_sort) (pc := 198) 0 dX1_sort_198 rfl ?_
      refine x_if (fun hT42 => ?_)
      refine x_fgr (μ := mu_x1_sort) (pc := 199) fX1_8 (by first | exact Or.inl ⟨_, rfl⟩ | exact Or.inr ⟨_, rfl⟩) q653 dX1_sort_199 hT42 ?_
      refine x_if (fun hT43 => ?_)
      refine x_fgrN (μ := mu_x1_sort) (pc := 202) fX9_0 (by first | exact Or.inl ⟨_, rfl⟩ | exact Or.inr ⟨_, rfl⟩) q571 dX1_sort_202 hT43 ?_
      refine x_aload (μ := mu_x1_sort) (pc := 205) 1 dX1_sort_205 rfl ?_
      refine x_iload (μ := mu_x1_sort) (pc := 207) 4 dX1_sort_207 rfl ?_
      refine x_iald (μ := mu_x1_sort) (pc := 209) dX1_sort_209 hT41 rfl (fun hr44 => ?_)
      refine x_if (fun hT45 => ?_)
      refine x_iald (μ := mu_x1_sort) (pc := 210) dX1_sort_210 hT45 rfl (fun hr46 => ?_)
      refine x_if (fun hT47 => ?_)
      refine x_iast (μ := mu_x1_sort) (pc := 211) dX1_sort_211 hT47 rfl (fun _ _ q => gE_wI q) ?_
      refine x_let (fun s48 e49 => ?_)
      refine x_iload (μ := mu_x1_sort) (pc := 212) 3 dX1_sort_212 rfl ?_
      refine x_aload (μ := mu_x1_sort) (pc := 214) 1 dX1_sort_214 rfl ?_
      refine x_iload (μ := mu_x1_sort) (pc := 216) 4 dX1_sort_216 rfl ?_
      refine x_iald (μ := mu_x1_sort) (pc := 218) dX1_sort_218 (gT_I e49 hT41) rfl (fun hr50 => ?_)
      refine x_iload (μ := mu_x1_sort) (pc := 219) 4 dX1_sort_219 rfl ?_
      refine x_icmp_ne (μ := mu_x1_sort) (pc := 221) (tgt := 228) dX1_sort_221 rfl hr50 hv9 ?_ ?_
      · refine x_iconst (μ := mu_x1_sort) (pc := 228) dX1_sort_228 ?_
        refine x_loc (lv' := [(0, vR v0), (6, vR v6), (7, vR v7), (9, vI v9)]) [0, 1, 2, 4] rfl ?_
        exact okj_x1_sort_l186_j229 hl hdp hv9 (by decide) hv8 ih hK
      · refine x_iconst (μ := mu_x1_sort) (pc := 224) dX1_sort_224 ?_
        refine x_goto (μ := mu_x1_sort) (pc := 225) (tgt := 229) dX1_sort_225 rfl ?_
        refine x_loc (lv' := [(0, vR v0), (6, vR v6), (7, vR v7), (9, vI v9)]) [0, 1, 2, 4] rfl ?_
        exact okj_x1_sort_l186_j229 hl hdp hv9 (by decide) hv8 ih hK
def x1_sort (N : Nat) (v0 : Nat) (v1 : Int) (v2 : Int) (v3 : Int) (v4 : Int) (σ : gMem) : Option gR := if mT σ v0 = 1 then if mT σ (mR σ v0 8) = 8 then (x9_has (mR σ v0 8) (w32 (v2 - 1)) (w32 (v1 - 1)) σ).bind (fun x3 => if x3 = 0 then some (.inr "java/lang/IndexOutOfBoundsException", wX σ 6) else (x9_has (mR σ v0 8) (w32 (v3 - 1)) (w32 (v1 - 1)) σ).bind (fun x5 => if x5 ≠ 0 then if v2 ≤ v3 then (x1_ready N v0 σ).bind (fun x7 => if mT (x7.2) (mR (x7.2) v0 8) = 8 then if mT (x7.2) (mR (x7.2) (mR (x7.2) v0 8) 0) = 100 then if 0 ≤ (w32 (mN (x7.2) (mR (x7.2) (mR (x7.2) v0 8) 0) : Int)) ∧ (w32 (mN (x7.2) (mR (x7.2) (mR (x7.2) v0 8) 0) : Int)) < 1000000 then gLet (wN (x7.2) 100 (w32 (mN (x7.2) (mR (x7.2) (mR (x7.2) v0 8) 0) : Int)).toNat) (fun s13 => x1_sort_l74 N v0 v1 v2 v3 v4 (mZ (x7.2)) (fun s18 => x1_sort_l98 N v0 v1 v2 v3 v4 (mZ (x7.2)) (fun s35 => if mT s35 (mZ (x7.2)) = 100 then if 0 ≤ (w32 (mN s35 (mZ (x7.2)) : Int)) ∧ (w32 (mN s35 (mZ (x7.2)) : Int)) < 1000000 then gLet (wN s35 100 (w32 (mN s35 (mZ (x7.2)) : Int)).toNat) (fun s39 => x1_sort_l186 N v0 (mZ (x7.2)) (mZ s35) (fun y51 s52 => if mT s52 v0 = 1 then (x1_step N v0 s52).bind (fun x54 => if mT x54 (mR x54 v0 8) = 8 then (x9_lay N (mR x54 v0 8) 0 (mZ s35) x54).bind (fun x57 => some (.inl (some (vI y51)), x57)) else none) else none) N 0 0 s39) else none else none) N v2 s18) N 0 s13) else none else none else none) else some (.inr "java/lang/IllegalArgumentException", wX σ 6) else some (.inr "java/lang/IndexOutOfBoundsException", wX σ 6))) else none else none
set_option maxRecDepth 100000 in
theorem ok_x1_sort {ω : gW} {l : Launch} {d : Nat} {N : Nat} {σ : gMem} {v0 : Nat} {v1 : Int} {v2 : Int} {v3 : Int} {v4 : Int} (hl : l.stackTraces = false) (hdp : 203 ≤ d) (hv1 : g32 v1) (hv2 : g32 v2) (hv3 : g32 v3) (hv4 : g32 v4) : gK (fun p : gR => p) gE ω l d mu_x1_sort [vR v0, vI v1, vI v2, vI v3, vI v4] σ (x1_sort N v0 v1 v2 v3 v4 σ) := by
  refine gK.of hp_X1 (Nat.le_of_ble_eq_true rfl) ?_
  unfold x1_sort
  refine x_aload_n (μ := mu_x1_sort) (pc := 0) 0 dX1_sort_0 rfl ?_
  refine x_if (fun hT1 => ?_)
  refine x_fgr (μ := mu_x1_sort) (pc := 1) fX1_8 (by first | exact Or.inl ⟨_, rfl⟩ | exact Or.inr ⟨_, rfl⟩) q653 dX1_sort_1 hT1 ?_
  refine x_iload_n (μ := mu_x1_sort) (pc := 4) 2 dX1_sort_4 rfl ?_
  refine x_iconst (μ := mu_x1_sort) (pc := 5) dX1_sort_5 ?_
  refine x_isub (μ := mu_x1_sort) (pc := 6) dX1_sort_6 ?_
  refine x_iload_n (μ := mu_x1_sort) (pc := 7) 1 dX1_sort_7 rfl ?_
  refine x_iconst (μ := mu_x1_sort) (pc := 8) dX1_sort_8 ?_
  refine x_isub (μ := mu_x1_sort) (pc := 9) dX1_sort_9 ?_
  refine x_w1 ?_
  refine x_w2 ?_
  refine x_if (fun hT2 => ?_)
  refine x_callV_pi (μ := mu_x1_sort) (pc := 10) (ok_x9_has (ω := ω) (l := l) (d := d - 1) hl (by omega) (w32_rng _) (w32_rng _)) gRel_E gRel_E (fun _ q => q) q820 q821 q822 q230 q823 dX1_sort_10 rfl hT2 hy_x9_has (by omega) (Nat.le_of_ble_eq_true rfl) rfl (Nat.le_of_ble_eq_true rfl) (fun x3 hr4 => ?_)
  refine x_if_eq (μ := mu_x1_sort) (pc := 13) (tgt := 32) dX1_sort_13 rfl hr4 ?_ ?_
  · exact x_throw0 (μ := mu_x1_sort) (pc := 32) hl gex_IndexOutOfBoundsException (by decide) rfl q1762 q236 dX1_sort_32 dX1_sort_35 dX1_sort_36 dX1_sort_39 (by decide) (by omega) (Nat.le_of_ble_eq_true rfl)
  · refine x_aload_n (μ := mu_x1_sort) (pc := 16) 0 dX1_sort_16 rfl ?_
    refine x_fgr (μ := mu_x1_sort) (pc := 17) fX1_8 (by first | exact Or.inl ⟨_, rfl⟩ | exact Or.inr ⟨_, rfl⟩) q653 dX1_sort_17 hT1 ?_
    refine x_iload_n (μ := mu_x1_sort) (pc := 20) 3 dX1_sort_20 rfl ?_
    refine x_iconst (μ := mu_x1_sort) (pc := 21) dX1_sort_21 ?_
    refine x_isub (μ := mu_x1_sort) (pc := 22) dX1_sort_22 ?_
    refine x_iload_n (μ := mu_x1_sort) (pc := 23) 1 dX1_sort_23 rfl ?_
    refine x_iconst (μ := mu_x1_sort) (pc := 24) dX1_sort_24 ?_
    refine x_isub (μ := mu_x1_sort) (pc := 25) dX1_sort_25 ?_
    refine x_w1 ?_
    refine x_w2 ?_
    refine x_callV_pi (μ := mu_x1_sort) (pc := 26) (ok_x9_has (ω := ω) (l := l) (d := d - 1) hl (by omega) (w32_rng _) (w32_rng _)) gRel_E gRel_E (fun _ q => q) q820 q821 q822 q230 q823 dX1_sort_26 rfl hT2 hy_x9_has (by omega) (Nat.le_of_ble_eq_true rfl) rfl (Nat.le_of_ble_eq_true rfl) (fun x5 hr6 => ?_)
    refine x_if_ne (μ := mu_x1_sort) (pc := 29) (tgt := 40) dX1_sort_29 rfl hr6 ?_ ?_
    · refine x_iload_n (μ := mu_x1_sort) (pc := 40) 3 dX1_sort_40 rfl ?_
      refine x_iload_n (μ := mu_x1_sort) (pc := 41) 2 dX1_sort_41 rfl ?_
      refine x_icmp_ge (μ := mu_x1_sort) (pc := 42) (tgt := 53) dX1_sort_42 rfl hv3 hv2 ?_ ?_
      · refine x_aload_n (μ := mu_x1_sort) (pc := 53) 0 dX1_sort_53 rfl ?_
        refine x_callV_mr (μ := mu_x1_sort) (pc := 54) (ok_x1_ready (ω := ω) (l := l) (d := d - 1) hl (by omega) ) gRel_E gRel_E (fun _ q => q) q828 q830 qs7 q221 q831 dX1_sort_54 rfl hT1 hy_x1_ready (by omega) (Nat.le_of_ble_eq_true rfl) rfl (Nat.le_of_ble_eq_true rfl) (fun x7 k8 => ?_)
        refine x_astore (μ := mu_x1_sort) (pc := 57) (lv' := [(5, vR (x7.1)), (0, vR v0), (1, vI v1), (2, vI v2), (3, vI v3), (4, vI v4)]) dX1_sort_57 (by decide) rfl ?_
        refine x_aload_n (μ := mu_x1_sort) (pc := 59) 1 dX1_sort_59 rfl ?_
        refine x_fgr (μ := mu_x1_sort) (pc := 60) fX1_8 (by first | exact Or.inl ⟨_, rfl⟩ | exact Or.inr ⟨_, rfl⟩) q653 dX1_sort_60 (gT_E k8 hT1 (by decide)) ?_
        refine x_if (fun hT9 => ?_)
        refine x_fgrN (μ := mu_x1_sort) (pc := 63) fX9_0 (by first | exact Or.inl ⟨_, rfl⟩ | exact Or.inr ⟨_, rfl⟩) q571 dX1_sort_63 hT9 ?_
        refine x_if (fun hT10 => ?_)
        refine x_len (μ := mu_x1_sort) (pc := 66) 0 (fun _ => rfl) dX1_sort_66 hT10 ?_
        refine x_w1 ?_
        refine x_if (fun hg11 => ?_)
        refine x_ok (fun ok12 => ?_)
        refine x_newai (μ := mu_x1_sort) (pc := 67) dX1_sort_67 hg11 ?_
        refine x_let (fun s13 e14 => ?_)
        refine x_astore (μ := mu_x1_sort) (pc := 69) (lv' := [(6, vR (mZ (x7.2))), (5, vR (x7.1)), (0, vR v0), (1, vI v1), (2, vI v2), (3, vI v3), (4, vI v4)]) dX1_sort_69 (by decide) rfl ?_
        refine x_iconst (μ := mu_x1_sort) (pc := 71) dX1_sort_71 ?_
        refine x_istore (μ := mu_x1_sort) (pc := 72) (lv' := [(7, vI 0), (6, vR (mZ (x7.2))), (5, vR (x7.1)), (0, vR v0), (1, vI v1), (2, vI v2), (3, vI v3), (4, vI v4)]) dX1_sort_72 (by decide) rfl ?_
        refine x_loc (lv' := [(0, vR v0), (1, vI v1), (2, vI v2), (3, vI v3), (4, vI v4), (6, vR (mZ (x7.2))), (7, vI 0)]) [3, 4, 5, 6, 7, 1, 0] rfl ?_
        refine okl_x1_sort_l74 hl hdp hv1 hv2 hv3 hv4 (fun s18 => ?_) N 0 s13 (by decide)
        refine x_iload_n (μ := mu_x1_sort) (pc := 95) 2 dX1_sort_95 rfl ?_
        refine x_istore (μ := mu_x1_sort) (pc := 96) (lv' := [(7, vI v2), (0, vR v0), (1, vI v1), (2, vI v2), (3, vI v3), (4, vI v4), (6, vR (mZ (x7.2)))]) dX1_sort_96 (by decide) rfl ?_
        refine x_loc (lv' := [(0, vR v0), (1, vI v1), (2, vI v2), (3, vI v3), (4, vI v4), (6, vR (mZ (x7.2))), (7, vI v2)]) [1, 2, 3, 4, 5, 6, 0] rfl ?_
        refine okl_x1_sort_l98 hl hdp hv1 hv2 hv3 hv4 (fun s35 => ?_) N v2 s18 hv2
        refine x_aload (μ := mu_x1_sort) (pc := 173) 1 dX1_sort_173 rfl ?_
        refine x_if (fun hT36 => ?_)
        refine x_len (μ := mu_x1_sort) (pc := 175) 0 (fun _ => rfl) dX1_sort_175 hT36 ?_
        refine x_w1 ?_
        refine x_if (fun hg37 => ?_)
        refine x_ok (fun ok38 => ?_)
        refine x_newai (μ := mu_x1_sort) (pc := 176) dX1_sort_176 hg37 ?_
        refine x_let (fun s39 e40 => ?_)
        refine x_astore (μ := mu_x1_sort) (pc := 178) (lv' := [(7, vR (mZ s35)), (0, vR v0), (6, vR (mZ (x7.2)))]) dX1_sort_178 (by decide) rfl ?_
        refine x_iconst (μ := mu_x1_sort) (pc := 180) dX1_sort_180 ?_
        refine x_istore (μ := mu_x1_sort) (pc := 181) (lv' := [(8, vI 0), (7, vR (mZ s35)), (0, vR v0), (6, vR (mZ (x7.2)))]) dX1_sort_181 (by decide) rfl ?_
        refine x_iconst (μ := mu_x1_sort) (pc := 183) dX1_sort_183 ?_
        refine x_istore (μ := mu_x1_sort) (pc := 184) (lv' := [(9, vI 0), (8, vI 0), (7, vR (mZ s35)), (0, vR v0), (6, vR (mZ (x7.2)))]) dX1_sort_184 (by decide) rfl ?_
        refine x_loc (lv' := [(0, vR v0), (6, vR (mZ (x7.2))), (7, vR (mZ s35)), (8, vI 0), (9, vI 0)]) [3, 4, 2, 1, 0] rfl ?_
        refine okl_x1_sort_l186 hl hdp (fun y51 s52 hy51 => ?_) N 0 0 s39 (by decide) (by decide)
        refine x_aload_n (μ := mu_x1_sort) (pc := 238) 0 dX1_sort_238 rfl ?_
        refine x_if (fun hT53 => ?_)
        refine x_callV_mv (μ := mu_x1_sort) (pc := 239) (ok_x1_step (ω := ω) (l := l) (d := d - 1) hl (by omega) ) gRel_E gRel_E (fun _ q => q) q2176 q2178 qs60 q221 q2179 dX1_sort_239 rfl hT53 hy_x1_step (by omega) (Nat.le_of_ble_eq_true rfl) rfl (Nat.le_of_ble_eq_true rfl) (fun x54 k55 => ?_)
        refine x_aload_n (μ := mu_x1_sort) (pc := 242) 0 dX1_sort_242 rfl ?_
        refine x_fgr (μ := mu_x1_sort) (pc := 243) fX1_8 (by first | exact Or.inl ⟨_, rfl⟩ | exact Or.inr ⟨_, rfl⟩) q653 dX1_sort_243 (gT_E k55 hT53 (by decide)) ?_
        refine x_iconst (μ := mu_x1_sort) (pc := 246) dX1_sort_246 ?_
        refine x_aload (μ := mu_x1_sort) (pc := 247) 1 dX1_sort_247 rfl ?_
        refine x_if (fun hT56 => ?_)
        refine x_callV_mv (μ := mu_x1_sort) (pc := 249) (ok_x9_lay (ω := ω) (l := l) (d := d - 1) hl (by omega) (by decide)) gRel_E gRel_E (fun _ q => q) q2226 q2227 q2228 q230 q2229 dX1_sort_249 rfl hT56 hy_x9_lay (by omega) (Nat.le_of_ble_eq_true rfl) rfl (Nat.le_of_ble_eq_true rfl) (fun x57 k58 => ?_)
        refine x_iload (μ := mu_x1_sort) (pc := 252) 2 dX1_sort_252 rfl ?_
        exact x_iret (μ := mu_x1_sort) (pc := 254) (a1 := ((.inl (some (vI y51)), x57) : gR)) dX1_sort_254 rfl rfl (gRel_E.1 _) (show g32 y51 from hy51)
      · exact x_throw0 (μ := mu_x1_sort) (pc := 45) hl gex_IllegalArgumentException (by decide) rfl q2121 q257 dX1_sort_45 dX1_sort_48 dX1_sort_49 dX1_sort_52 (by decide) (by omega) (Nat.le_of_ble_eq_true rfl)
    · exact x_throw0 (μ := mu_x1_sort) (pc := 32) hl gex_IndexOutOfBoundsException (by decide) rfl q1762 q236 dX1_sort_32 dX1_sort_35 dX1_sort_36 dX1_sort_39 (by decide) (by omega) (Nat.le_of_ble_eq_true rfl)
def x1_commit_j68 (N : Nat) (v0 : Nat) (v1 : Int) (s : gMem) : Option gR := gLet (wN s 9 5) (fun s12 => if mT s12 v0 = 1 then if mT s12 (mR s12 v0 8) = 8 then (x9_twin N (mR s12 v0 8) s12).bind (fun x16 => (x1_head v0 (x16.2)).bind (fun x18 => (x10_init (mZ s) (x16.1) x18 (mI (x16.2) v0 15) (lOr v1 (lShl (((1 : Fin 2) : Nat) : Int) (mI (x16.2) v0 5))) (x16.2)).bind (fun x22 => (x1_ready N v0 x22).bind (fun x24 => if mT (x24.2) (mR x22 (mZ s) 1) = 2 then (x2_copy (mR x22 (mZ s) 1) (x24.1) (x24.2)).bind (fun x27 => if mT x27 (mR x27 v0 4) = 104 then if mZ s = 0 ∨ gAsg 4 (mT x27 (mZ s)) = true then if 0 ≤ (mI x27 v0 5) ∧ (mI x27 v0 5) < (mN x27 (mR x27 v0 4) : Int) then gLet (wR x27 (mR x27 v0 4) (mI x27 v0 5).toNat (mZ s)) (fun s32 => if mT s32 (mR s32 v0 6) = 100 then if 0 ≤ (mI s32 v0 7) ∧ (mI s32 v0 7) < (mN s32 (mR s32 v0 6) : Int) then gLet (wI s32 (mR s32 v0 6) (mI s32 v0 7).toNat (mI s32 v0 5)) (fun s37 => gLet (wI s37 v0 5 (w32 ((mI s37 v0 5) + 1))) (fun s40 => gLet (wI s40 v0 15 (-1)) (fun s42 => gLet (wI s42 v0 20 0) (fun s44 => some (.inl (some (vI (w32 ((mI s44 v0 5) - 1)))), s44))))) else none else none) else none else none else none) else none)))) else none else none)
set_option maxRecDepth 100000 in
theorem okj_x1_commit_j68 {ω : gW} {l : Launch} {d : Nat} {N : Nat} {σ0 : gMem} {s : gMem} {v0 : Nat} {v1 : Int} (hl : l.stackTraces = false) (hdp : 203 ≤ d) (hv1 : g64 v1) : GG (fun p : gR => p) gE ω l d mu_x1_commit σ0 68 [(0, vR v0), (1, vL v1)] [] s (x1_commit_j68 N v0 v1 s) := by
  unfold x1_commit_j68
  refine x_ok (fun ok11 => ?_)
  refine x_new (μ := mu_x1_commit) (pc := 68) (ci := 8) gk_X10 gd_X10 q276 q590 q231 dX1_commit_68 ?_
  refine x_let (fun s12 e13 => ?_)
  refine x_dup (μ := mu_x1_commit) (pc := 71) dX1_commit_71 rfl ?_
  refine x_aload_n (μ := mu_x1_commit) (pc := 72) 0 dX1_commit_72 rfl ?_
  refine x_if (fun hT14 => ?_)
  refine x_fgr (μ := mu_x1_commit) (pc := 73) fX1_8 (by first | exact Or.inl ⟨_, rfl⟩ | exact Or.inr ⟨_, rfl⟩) q653 dX1_commit_73 hT14 ?_
  refine x_if (fun hT15 => ?_)
  refine x_callV_mr (μ := mu_x1_commit) (pc := 76) (ok_x9_twin (ω := ω) (l := l) (d := d - 1) hl (by omega) ) gRel_E gRel_E (fun _ q => q) q623 q624 q625 q230 q626 dX1_commit_76 rfl hT15 hy_x9_twin (by omega) (Nat.le_of_ble_eq_true rfl) rfl (Nat.le_of_ble_eq_true rfl) (fun x16 k17 => ?_)
  refine x_aload_n (μ := mu_x1_commit) (pc := 79) 0 dX1_commit_79 rfl ?_
  refine x_callV_pi (μ := mu_x1_commit) (pc := 80) (ok_x1_head (ω := ω) (l := l) (d := d - 1) hl (by omega) ) gRel_E gRel_E (fun _ q => q) q766 q768 qs2 q221 q769 dX1_commit_80 rfl (gT_E k17 hT14 (by decide)) hy_x1_head (by omega) (Nat.le_of_ble_eq_true rfl) rfl (Nat.le_of_ble_eq_true rfl) (fun x18 hr19 => ?_)
  refine x_aload_n (μ := mu_x1_commit) (pc := 83) 0 dX1_commit_83 rfl ?_
  refine x_fgi (μ := mu_x1_commit) (pc := 84) fX1_15 q660 dX1_commit_84 (gT_E k17 hT14 (by decide)) (fun hr20 => ?_)
  refine x_lload_n (μ := mu_x1_commit) (pc := 87) 1 dX1_commit_87 rfl ?_
  refine x_lconst (μ := mu_x1_commit) (pc := 88) dX1_commit_88 ?_
  refine x_aload_n (μ := mu_x1_commit) (pc := 89) 0 dX1_commit_89 rfl ?_
  refine x_fgi (μ := mu_x1_commit) (pc := 90) fX1_5 q650 dX1_commit_90 (gT_E k17 hT14 (by decide)) (fun hr21 => ?_)
  refine x_lshl (μ := mu_x1_commit) (pc := 93) dX1_commit_93 ?_
  refine x_lor (μ := mu_x1_commit) (pc := 94) dX1_commit_94 ?_
  refine x_callI_mv (μ := mu_x1_commit) (pc := 95) (ok_x10_init (ω := ω) (l := l) (d := d - 1) hl (by omega) hr19 hr20 (lOr_rng _ _)) gRel_E gRel_E (fun _ q => q) q591 q592 q231 q593 dX1_commit_95 (gT_ne (gT_E k17 (gT_new e13) (by decide))) rfl hy_x10_init (by omega) (Nat.le_of_ble_eq_true rfl) rfl (Nat.le_of_ble_eq_true rfl) (fun x22 k23 => ?_)
  refine x_astore_n (μ := mu_x1_commit) (pc := 98) (lv' := [(3, vR (mZ s)), (0, vR v0), (1, vL v1)]) dX1_commit_98 rfl (by decide) rfl ?_
  refine x_aload_n (μ := mu_x1_commit) (pc := 99) 0 dX1_commit_99 rfl ?_
  refine x_fgrN (μ := mu_x1_commit) (pc := 100) fX10_1 (by first | exact Or.inl ⟨_, rfl⟩ | exact Or.inr ⟨_, rfl⟩) q605 dX1_commit_100 (gT_E k23 (gT_E k17 (gT_new e13) (by decide)) (by decide)) ?_
  refine x_aload_n (μ := mu_x1_commit) (pc := 103) 1 dX1_commit_103 rfl ?_
  refine x_callV_mr (μ := mu_x1_commit) (pc := 104) (ok_x1_ready (ω := ω) (l := l) (d := d - 1) hl (by omega) ) gRel_E gRel_E (fun _ q => q) q828 q830 qs7 q221 q831 dX1_commit_104 rfl (gT_E k23 (gT_E k17 hT14 (by decide)) (by decide)) hy_x1_ready (by omega) (Nat.le_of_ble_eq_true rfl) rfl (Nat.le_of_ble_eq_true rfl) (fun x24 k25 => ?_)
  refine x_if (fun hT26 => ?_)
  refine x_callV_mv (μ := mu_x1_commit) (pc := 107) (ok_x2_copy (ω := ω) (l := l) (d := d - 1) hl (by omega) ) gRel_E gRel_E (fun _ q => q) q2426 q2427 q2428 q222 q2429 dX1_commit_107 rfl hT26 hy_x2_copy (by omega) (Nat.le_of_ble_eq_true rfl) rfl (Nat.le_of_ble_eq_true rfl) (fun x27 k28 => ?_)
  refine x_aload_n (μ := mu_x1_commit) (pc := 110) 1 dX1_commit_110 rfl ?_
  refine x_fgr (μ := mu_x1_commit) (pc := 111) fX1_4 (by first | exact Or.inl ⟨_, rfl⟩ | exact Or.inr ⟨_, rfl⟩) q649 dX1_commit_111 (gT_E k28 (gT_E k25 (gT_E k23 (gT_E k17 hT14 (by decide)) (by decide)) (by decide)) (by decide)) ?_
  refine x_aload_n (μ := mu_x1_commit) (pc := 114) 1 dX1_commit_114 rfl ?_
  refine x_fgi (μ := mu_x1_commit) (pc := 115) fX1_5 q650 dX1_commit_115 (gT_E k28 (gT_E k25 (gT_E k23 (gT_E k17 hT14 (by decide)) (by decide)) (by decide)) (by decide)) (fun hr29 => ?_)
  refine x_aload_n (μ := mu_x1_commit) (pc := 118) 0 dX1_commit_118 rfl ?_
  refine x_if (fun hT30 => ?_)
  refine x_if (fun hz31 => ?_)
  refine x_aast (μ := mu_x1_commit) (pc := 119) 4 ⟨fun _ => rfl, rfl, rfl⟩ dX1_commit_119 hT30 rfl hz31 (fun _ _ q => gE_wR q) ?_
  refine x_let (fun s32 e33 => ?_)
  refine x_aload_n (μ := mu_x1_commit) (pc := 120) 1 dX1_commit_120 rfl ?_
  refine x_fgr (μ := mu_x1_commit) (pc := 121) fX1_6 (by first | exact Or.inl ⟨_, rfl⟩ | exact Or.inr ⟨_, rfl⟩) q651 dX1_commit_121 (gT_R e33 (gT_E k28 (gT_E k25 (gT_E k23 (gT_E k17 hT14 (by decide)) (by decide)) (by decide)) (by decide))) ?_
  refine x_aload_n (μ := mu_x1_commit) (pc := 124) 1 dX1_commit_124 rfl ?_
  refine x_fgi (μ := mu_x1_commit) (pc := 125) fX1_7 q652 dX1_commit_125 (gT_R e33 (gT_E k28 (gT_E k25 (gT_E k23 (gT_E k17 hT14 (by decide)) (by decide)) (by decide)) (by decide))) (fun hr34 => ?_)
  refine x_aload_n (μ := mu_x1_commit) (pc := 128) 1 dX1_commit_128 rfl ?_
  refine x_fgi (μ := mu_x1_commit) (pc := 129) fX1_5 q650 dX1_commit_129 (gT_R e33 (gT_E k28 (gT_E k25 (gT_E k23 (gT_E k17 hT14 (by decide)) (by decide)) (by decide)) (by decide))) (fun hr35 => ?_)
  refine x_if (fun hT36 => ?_)
  refine x_iast (μ := mu_x1_commit) (pc := 132) dX1_commit_132 hT36 rfl (fun _ _ q => gE_wI q) ?_
  refine x_let (fun s37 e38 => ?_)
  refine x_aload_n (μ := mu_x1_commit) (pc := 133) 1 dX1_commit_133 rfl ?_
  refine x_dup (μ := mu_x1_commit) (pc := 134) dX1_commit_134 rfl ?_
  refine x_fgi (μ := mu_x1_commit) (pc := 135) fX1_5 q650 dX1_commit_135 (gT_I e38 (gT_R e33 (gT_E k28 (gT_E k25 (gT_E k23 (gT_E k17 hT14 (by decide)) (by decide)) (by decide)) (by decide)))) (fun hr39 => ?_)
  refine x_iconst (μ := mu_x1_commit) (pc := 138) dX1_commit_138 ?_
  refine x_iadd (μ := mu_x1_commit) (pc := 139) dX1_commit_139 ?_
  refine x_w1 ?_
  refine x_fpi (μ := mu_x1_commit) (pc := 140) fX1_5 q650 dX1_commit_140 (gT_I e38 (gT_R e33 (gT_E k28 (gT_E k25 (gT_E k23 (gT_E k17 hT14 (by decide)) (by decide)) (by decide)) (by decide)))) (fun _ q => gE_wI q) ?_
  refine x_let (fun s40 e41 => ?_)
  refine x_aload_n (μ := mu_x1_commit) (pc := 143) 1 dX1_commit_143 rfl ?_
  refine x_iconst (μ := mu_x1_commit) (pc := 144) dX1_commit_144 ?_
  refine x_fpi (μ := mu_x1_commit) (pc := 145) fX1_15 q660 dX1_commit_145 (gT_I e41 (gT_I e38 (gT_R e33 (gT_E k28 (gT_E k25 (gT_E k23 (gT_E k17 hT14 (by decide)) (by decide)) (by decide)) (by decide))))) (fun _ q => gE_wI q) ?_
  refine x_let (fun s42 e43 => ?_)
  refine x_aload_n (μ := mu_x1_commit) (pc := 148) 1 dX1_commit_148 rfl ?_
  refine x_iconst (μ := mu_x1_commit) (pc := 149) dX1_commit_149 ?_
  refine x_fpi (μ := mu_x1_commit) (pc := 150) fX1_20 q665 dX1_commit_150 (gT_I e43 (gT_I e41 (gT_I e38 (gT_R e33 (gT_E k28 (gT_E k25 (gT_E k23 (gT_E k17 hT14 (by decide)) (by decide)) (by decide)) (by decide)))))) (fun _ q => gE_wI q) ?_
  refine x_let (fun s44 e45 => ?_)
  refine x_aload_n (μ := mu_x1_commit) (pc := 153) 1 dX1_commit_153 rfl ?_
  refine x_fgi (μ := mu_x1_commit) (pc := 154) fX1_5 q650 dX1_commit_154 (gT_I e45 (gT_I e43 (gT_I e41 (gT_I e38 (gT_R e33 (gT_E k28 (gT_E k25 (gT_E k23 (gT_E k17 hT14 (by decide)) (by decide)) (by decide)) (by decide))))))) (fun hr46 => ?_)
  refine x_iconst (μ := mu_x1_commit) (pc := 157) dX1_commit_157 ?_
  refine x_isub (μ := mu_x1_commit) (pc := 158) dX1_commit_158 ?_
  refine x_w1 ?_
  exact x_iret (μ := mu_x1_commit) (pc := 159) (a1 := ((.inl (some (vI (w32 ((mI s44 v0 5) - 1)))), s44) : gR)) dX1_commit_159 rfl rfl (gRel_E.1 _) (show g32 (w32 ((mI s44 v0 5) - 1)) from (w32_rng _))
def x1_commit (N : Nat) (v0 : Nat) (σ : gMem) : Option gR := if mT σ v0 = 1 then (x1_unsettled N v0 σ).bind (fun x2 => if x2 ≤ 0 then if mI σ v0 5 ≠ 40 then (x1_head v0 σ).bind (fun x5 => if mT σ (mR σ v0 4) = 104 then if 0 ≤ x5 ∧ x5 < (mN σ (mR σ v0 4) : Int) then if mT σ (mR σ (mR σ v0 4) x5.toNat) = 9 then if mI σ v0 15 = (-1) then x1_commit_j68 N v0 (mL σ (mR σ (mR σ v0 4) x5.toNat) 4)  σ else if 0 ≤ (mI σ v0 15) ∧ (mI σ v0 15) < (mN σ (mR σ v0 4) : Int) then if mT σ (mR σ (mR σ v0 4) (mI σ v0 15).toNat) = 9 then x1_commit_j68 N v0 (lOr (mL σ (mR σ (mR σ v0 4) x5.toNat) 4) (mL σ (mR σ (mR σ v0 4) (mI σ v0 15).toNat) 4))  σ else none else none else none else none else none) else some (.inr "java/lang/UnsupportedOperationException", wX σ 6) else some (.inr "java/lang/IllegalStateException", wX σ 6)) else none
set_option maxRecDepth 100000 in
theorem ok_x1_commit {ω : gW} {l : Launch} {d : Nat} {N : Nat} {σ : gMem} {v0 : Nat} (hl : l.stackTraces = false) (hdp : 203 ≤ d) : gK (fun p : gR => p) gE ω l d mu_x1_commit [vR v0] σ (x1_commit N v0 σ) := by
  refine gK.of hp_X1 (Nat.le_of_ble_eq_true rfl) ?_
  unfold x1_commit
  refine x_aload_n (μ := mu_x1_commit) (pc := 0) 0 dX1_commit_0 rfl ?_
  refine x_if (fun hT1 => ?_)
  refine x_callV_pi (μ := mu_x1_commit) (pc := 1) (ok_x1_unsettled (ω := ω) (l := l) (d := d - 1) hl (by omega) ) gRel_E gRel_E (fun _ q => q) q1560 q1562 qs25 q221 q1563 dX1_commit_1 rfl hT1 hy_x1_unsettled (by omega) (Nat.le_of_ble_eq_true rfl) rfl (Nat.le_of_ble_eq_true rfl) (fun x2 hr3 => ?_)
  refine x_if_le (μ := mu_x1_commit) (pc := 4) (tgt := 15) dX1_commit_4 rfl hr3 ?_ ?_
  · refine x_aload_n (μ := mu_x1_commit) (pc := 15) 0 dX1_commit_15 rfl ?_
    refine x_fgi (μ := mu_x1_commit) (pc := 16) fX1_5 q650 dX1_commit_16 hT1 (fun hr4 => ?_)
    refine x_bipush (μ := mu_x1_commit) (pc := 19) dX1_commit_19 (by decide) ?_
    refine x_icmp_ne (μ := mu_x1_commit) (pc := 21) (tgt := 32) dX1_commit_21 rfl hr4 (by decide) ?_ ?_
    · refine x_aload_n (μ := mu_x1_commit) (pc := 32) 0 dX1_commit_32 rfl ?_
      refine x_fgr (μ := mu_x1_commit) (pc := 33) fX1_4 (by first | exact Or.inl ⟨_, rfl⟩ | exact Or.inr ⟨_, rfl⟩) q649 dX1_commit_33 hT1 ?_
      refine x_aload_n (μ := mu_x1_commit) (pc := 36) 0 dX1_commit_36 rfl ?_
      refine x_callV_pi (μ := mu_x1_commit) (pc := 37) (ok_x1_head (ω := ω) (l := l) (d := d - 1) hl (by omega) ) gRel_E gRel_E (fun _ q => q) q766 q768 qs2 q221 q769 dX1_commit_37 rfl hT1 hy_x1_head (by omega) (Nat.le_of_ble_eq_true rfl) rfl (Nat.le_of_ble_eq_true rfl) (fun x5 hr6 => ?_)
      refine x_if (fun hT7 => ?_)
      refine x_aald (μ := mu_x1_commit) (pc := 40) 4 (fun _ => rfl) rfl rfl dX1_commit_40 hT7 rfl ?_
      refine x_if (fun hT8 => ?_)
      refine x_fglN (μ := mu_x1_commit) (pc := 41) fX10_4 q611 dX1_commit_41 hT8 (fun hr9 => ?_)
      refine x_lstore_n (μ := mu_x1_commit) (pc := 44) (lv' := [(1, vL (mL σ (mR σ (mR σ v0 4) x5.toNat) 4)), (0, vR v0)]) dX1_commit_44 rfl (by decide) rfl ?_
      refine x_aload_n (μ := mu_x1_commit) (pc := 45) 1 dX1_commit_45 rfl ?_
      refine x_fgi (μ := mu_x1_commit) (pc := 46) fX1_15 q660 dX1_commit_46 hT1 (fun hr10 => ?_)
      refine x_iconst (μ := mu_x1_commit) (pc := 49) dX1_commit_49 ?_
      refine x_icmp_eq (μ := mu_x1_commit) (pc := 50) (tgt := 68) dX1_commit_50 rfl hr10 (by decide) ?_ ?_
      · refine x_loc (lv' := [(0, vR v0), (1, vL (mL σ (mR σ (mR σ v0 4) x5.toNat) 4))]) [1, 0] rfl ?_
        exact okj_x1_commit_j68 hl hdp hr9
      · refine x_lload_n (μ := mu_x1_commit) (pc := 53) 0 dX1_commit_53 rfl ?_
        refine x_aload_n (μ := mu_x1_commit) (pc := 54) 1 dX1_commit_54 rfl ?_
        refine x_fgr (μ := mu_x1_commit) (pc := 55) fX1_4 (by first | exact Or.inl ⟨_, rfl⟩ | exact Or.inr ⟨_, rfl⟩) q649 dX1_commit_55 hT1 ?_
        refine x_aload_n (μ := mu_x1_commit) (pc := 58) 1 dX1_commit_58 rfl ?_
        refine x_fgi (μ := mu_x1_commit) (pc := 59) fX1_15 q660 dX1_commit_59 hT1 (fun hr47 => ?_)
        refine x_aald (μ := mu_x1_commit) (pc := 62) 4 (fun _ => rfl) rfl rfl dX1_commit_62 hT7 rfl ?_
        refine x_if (fun hT48 => ?_)
        refine x_fglN (μ := mu_x1_commit) (pc := 63) fX10_4 q611 dX1_commit_63 hT48 (fun hr49 => ?_)
        refine x_lor (μ := mu_x1_commit) (pc := 66) dX1_commit_66 ?_
        refine x_lstore_n (μ := mu_x1_commit) (pc := 67) (lv' := [(1, vL (lOr (mL σ (mR σ (mR σ v0 4) x5.toNat) 4) (mL σ (mR σ (mR σ v0 4) (mI σ v0 15).toNat) 4))), (0, vR v0)]) dX1_commit_67 rfl (by decide) rfl ?_
        refine x_loc (lv' := [(0, vR v0), (1, vL (lOr (mL σ (mR σ (mR σ v0 4) x5.toNat) 4) (mL σ (mR σ (mR σ v0 4) (mI σ v0 15).toNat) 4)))]) [1, 0] rfl ?_
        exact okj_x1_commit_j68 hl hdp (lOr_rng _ _)
    · exact x_throw0 (μ := mu_x1_commit) (pc := 24) hl gex_UnsupportedOperationException (by decide) rfl q2161 q258 dX1_commit_24 dX1_commit_27 dX1_commit_28 dX1_commit_31 (by decide) (by omega) (Nat.le_of_ble_eq_true rfl)
  · exact x_throw0 (μ := mu_x1_commit) (pc := 7) hl gex_IllegalStateException (by decide) rfl q2207 q259 dX1_commit_7 dX1_commit_10 dX1_commit_11 dX1_commit_14 (by decide) (by omega) (Nat.le_of_ble_eq_true rfl)
def tw_readWord_j42 (N : Nat) (W : gMem → Option gMem) (h : Nat) (v2 : Int) (s : gMem) : Option gMem := (tw_part N h 3 0 s).bind (fun x6 => if v2 = 0 then if 0 ≤ (x6.1) ∧ (x6.1) < ((60420 : Nat) : Int) then gLet (wL (x6.2) (h + 17) (x6.1).toNat (((0 : Fin 2) : Nat) : Int)) (fun s10 => (tw_next N h s10).bind (fun x13 => some x13)) else none else if 0 ≤ (x6.1) ∧ (x6.1) < ((60420 : Nat) : Int) then gLet (wL (x6.2) (h + 17) (x6.1).toNat (((1 : Fin 2) : Nat) : Int)) (fun s16 => (tw_next N h s16).bind (fun x19 => some x19)) else none)
set_option maxRecDepth 100000 in
theorem okj_tw_readWord_j42 {ω : gW} {l : Launch} {d : Nat} {N : Nat} {W : gMem → Option gMem} {dW : Nat} {h : Nat} {σ0 : gMem} {s : gMem} {v2 : Int} (hW : ∀ (s : gMem), TM s h → gK (fun p : gMem => (.inl none, p)) gTw ω l dW mu_tw_readSign [vR h] s (W s)) (hdp : 12 ≤ d) (hdw : dW + 6 ≤ d) (hM : TM s h) (hv2 : g32 v2) : GG (fun p : gMem => (.inl none, p)) gTw ω l d mu_tw_readWord σ0 42 [(0, vR h), (2, vI v2)] [] s (tw_readWord_j42 N W h v2 s) := by
  unfold tw_readWord_j42
  refine x_aload_n (μ := mu_tw_readWord) (pc := 42) 0 dX11_readWord_42 rfl ?_
  refine x_iconst (μ := mu_tw_readWord) (pc := 43) dX11_readWord_43 ?_
  refine x_iconst (μ := mu_tw_readWord) (pc := 44) dX11_readWord_44 ?_
  refine x_callV_mi (μ := mu_tw_readWord) (pc := 45) (ok_tw_part (ω := ω) (l := l) (d := d - 1) (by omega) hM (by decide) (by decide)) gRel_Tw gRel_Tw (fun _ q => q) q3083 q3085 qs101 q232 q3086 dX11_readWord_45 rfl hM.1 hy_tw_part (by omega) (Nat.le_of_ble_eq_true rfl) rfl (Nat.le_of_ble_eq_true rfl) (fun x6 k8 hr7 => ?_)
  have hM9 : TM (x6.2) h := hM.tw k8
  refine x_istore_n (μ := mu_tw_readWord) (pc := 48) (lv' := [(3, vI (x6.1)), (0, vR h), (2, vI v2)]) dX11_readWord_48 rfl (by decide) rfl ?_
  refine x_aload_n (μ := mu_tw_readWord) (pc := 49) 1 dX11_readWord_49 rfl ?_
  refine x_fgrE (μ := mu_tw_readWord) (pc := 50) fX11_29 (Or.inr ⟨_, rfl⟩) q2665 (hM9.a29).1 dX11_readWord_50 hM9.1 ?_
  refine x_iload_n (μ := mu_tw_readWord) (pc := 53) 0 dX11_readWord_53 rfl ?_
  refine x_iload_n (μ := mu_tw_readWord) (pc := 54) 2 dX11_readWord_54 rfl ?_
  refine x_if_eq (μ := mu_tw_readWord) (pc := 55) (tgt := 62) dX11_readWord_55 rfl hv2 ?_ ?_
  · refine x_lconst (μ := mu_tw_readWord) (pc := 62) dX11_readWord_62 ?_
    refine x_last (μ := mu_tw_readWord) (pc := 63) dX11_readWord_63 (hM9.a29).2.1 (hM9.a29).2.2 (fun _ _ q => gTw_wL q) ?_
    refine x_let (fun s10 e11 => ?_)
    have hM12 := TM.eL e11 hM9
    refine x_aload_n (μ := mu_tw_readWord) (pc := 64) 1 dX11_readWord_64 rfl ?_
    refine x_callV_mv (μ := mu_tw_readWord) (pc := 65) (ok_tw_next (ω := ω) (l := l) (d := d - 1) (by omega) hM12 ) gRel_Tw gRel_Tw (fun _ q => q) q2995 q2997 qs82 q232 q2998 dX11_readWord_65 rfl hM12.1 hy_tw_next (by omega) (Nat.le_of_ble_eq_true rfl) rfl (Nat.le_of_ble_eq_true rfl) (fun x13 k14 => ?_)
    have hM15 : TM x13 h := hM12.tw k14
    exact x_vret (μ := mu_tw_readWord) (pc := 68) (a1 := x13) dX11_readWord_68 rfl rfl (gRel_Tw.1 _) trivial
  · refine x_lconst (μ := mu_tw_readWord) (pc := 58) dX11_readWord_58 ?_
    refine x_goto (μ := mu_tw_readWord) (pc := 59) (tgt := 63) dX11_readWord_59 rfl ?_
    refine x_last (μ := mu_tw_readWord) (pc := 63) dX11_readWord_63 (hM9.a29).2.1 (hM9.a29).2.2 (fun _ _ q => gTw_wL q) ?_
    refine x_let (fun s16 e17 => ?_)
    have hM18 := TM.eL e17 hM9
    refine x_aload_n (μ := mu_tw_readWord) (pc := 64) 1 dX11_readWord_64 rfl ?_
    refine x_callV_mv (μ := mu_tw_readWord) (pc := 65) (ok_tw_next (ω := ω) (l := l) (d := d - 1) (by omega) hM18 ) gRel_Tw gRel_Tw (fun _ q => q) q2995 q2997 qs82 q232 q2998 dX11_readWord_65 rfl hM18.1 hy_tw_next (by omega) (Nat.le_of_ble_eq_true rfl) rfl (Nat.le_of_ble_eq_true rfl) (fun x19 k20 => ?_)
    have hM21 : TM x19 h := hM18.tw k20
    exact x_vret (μ := mu_tw_readWord) (pc := 68) (a1 := x19) dX11_readWord_68 rfl rfl (gRel_Tw.1 _) trivial
def tw_readWord_l72 (N : Nat) (W : gMem → Option gMem) (h : Nat) (v1 : Int) (K : gMem → Option gMem) : Nat → Int → gMem → Option gMem
  | 0, _, _ => none
  | n + 1, v3, s => if 47 < v3 then K s else (tw_nameOf v3 s).bind (fun x26 => (tw_isWord N h (mI s h 48) v1 x26 s).bind (fun x27 => if x27 = 0 then tw_readWord_l72 N W h v1 K n (w32 (v3 + 1)) s else (tw_readCall N W h v3 s).bind (fun x29 => some x29)))
set_option maxRecDepth 100000 in
theorem okl_tw_readWord_l72 {ω : gW} {l : Launch} {d : Nat} {N : Nat} {W : gMem → Option gMem} {dW : Nat} {h : Nat} {σ0 : gMem} {v1 : Int} {K : gMem → Option gMem} (hW : ∀ (s : gMem), TM s h → gK (fun p : gMem => (.inl none, p)) gTw ω l dW mu_tw_readSign [vR h] s (W s)) (hdp : 12 ≤ d) (hdw : dW + 6 ≤ d) (hv1 : g32 v1) (hK : ∀ (s : gMem) , TM s h → GG (fun p : gMem => (.inl none, p)) gTw ω l d mu_tw_readWord σ0 106 [(0, vR h)] [] s (K s)) : ∀ (n : Nat) (v3 : Int) (s : gMem) , g32 v3 → TM s h → GG (fun p : gMem => (.inl none, p)) gTw ω l d mu_tw_readWord σ0 72 [(0, vR h), (1, vI v1), (3, vI v3)] [] s (tw_readWord_l72 N W h v1 K n v3 s) := by
  intro n
  induction n with
  | zero => intros; exact x_none
  | succ n ih =>
    intro v3 s hv3 hM
    unfold tw_readWord_l72
    refine x_iload_n (μ := mu_tw_readWord) (pc := 72) 2 dX11_readWord_72 rfl ?_
    refine x_bipush (μ := mu_tw_readWord) (pc := 73) dX11_readWord_73 (by decide) ?_
    refine x_icmp_gt (μ := mu_tw_readWord) (pc := 75) (tgt := 106) dX11_readWord_75 rfl hv3 (by decide) ?_ ?_
    · refine x_loc (lv' := [(0, vR h)]) [0] rfl ?_
      exact hK s hM
    · refine x_aload_n (μ := mu_tw_readWord) (pc := 78) 0 dX11_readWord_78 rfl ?_
      refine x_aload_n (μ := mu_tw_readWord) (pc := 79) 0 dX11_readWord_79 rfl ?_
      refine x_fgi (μ := mu_tw_readWord) (pc := 80) fX11_48 q2684 dX11_readWord_80 hM.1 (fun hr25 => ?_)
      refine x_iload_n (μ := mu_tw_readWord) (pc := 83) 1 dX11_readWord_83 rfl ?_
      refine x_iload_n (μ := mu_tw_readWord) (pc := 84) 2 dX11_readWord_84 rfl ?_
      refine x_callS_pr (μ := mu_tw_readWord) (pc := 85) (ok_tw_nameOf (ω := ω) (l := l) (d := d - 1) (by omega) hv3) gRel_Tw gRel_Tw (fun _ q => q) q3103 q3104 q232 q3105 dX11_readWord_85 hy_tw_nameOf (by omega) (Nat.le_of_ble_eq_true rfl) rfl (Nat.le_of_ble_eq_true rfl) (fun x26 => ?_)
      refine x_callV_pi (μ := mu_tw_readWord) (pc := 88) (ok_tw_isWord (ω := ω) (l := l) (d := d - 1) (by omega) hM hr25 hv1) gRel_Tw gRel_Tw (fun _ q => q) q3033 q3035 qs89 q232 q3036 dX11_readWord_88 rfl hM.1 hy_tw_isWord (by omega) (Nat.le_of_ble_eq_true rfl) rfl (Nat.le_of_ble_eq_true rfl) (fun x27 hr28 => ?_)
      refine x_if_eq (μ := mu_tw_readWord) (pc := 91) (tgt := 100) dX11_readWord_91 rfl hr28 ?_ ?_
      · refine x_iincw (μ := mu_tw_readWord) (pc := 100) (lv' := [(3, vI (w32 (v3 + 1))), (0, vR h), (1, vI v1)]) 2 dX11_readWord_100 rfl (by decide) rfl ?_
        refine x_goto (μ := mu_tw_readWord) (pc := 103) (tgt := 72) dX11_readWord_103 rfl ?_
        refine x_loc (lv' := [(0, vR h), (1, vI v1), (3, vI (w32 (v3 + 1)))]) [1, 2, 0] rfl ?_
        exact ih (w32 (v3 + 1)) s (w32_rng _) hM
      · refine x_aload_n (μ := mu_tw_readWord) (pc := 94) 0 dX11_readWord_94 rfl ?_
        refine x_iload_n (μ := mu_tw_readWord) (pc := 95) 2 dX11_readWord_95 rfl ?_
        refine x_callV_mv (μ := mu_tw_readWord) (pc := 96) (ok_tw_readCall (ω := ω) (l := l) (d := d - 1) hW (by omega) (by omega) hM hv3) gRel_Tw gRel_Tw (fun _ q => q) q3124 q3126 qs105 q232 q3127 dX11_readWord_96 rfl hM.1 hy_tw_readCall (by omega) (Nat.le_of_ble_eq_true rfl) rfl (Nat.le_of_ble_eq_true rfl) (fun x29 k30 => ?_)
        have hM31 : TM x29 h := hM.tw k30
        exact x_vret (μ := mu_tw_readWord) (pc := 99) (a1 := x29) dX11_readWord_99 rfl rfl (gRel_Tw.1 _) trivial
def tw_readWord (N : Nat) (W : gMem → Option gMem) (h : Nat) (σ : gMem) : Option gMem := (tw_isWord N h (mI σ h 48) (w32 ((mI σ h 49) - (mI σ h 48))) (mR σ 0 101) σ).bind (fun x4 => if x4 ≠ 0 then tw_readWord_j42 N W h x4  σ else (tw_isWord N h (mI σ h 48) (w32 ((mI σ h 49) - (mI σ h 48))) (mR σ 0 102) σ).bind (fun x23 => if x23 = 0 then tw_readWord_l72 N W h (w32 ((mI σ h 49) - (mI σ h 48))) (fun s32 => (tw_fail h 1 (mI s32 h 48) s32).bind (fun x35 => some x35)) N 30 σ else tw_readWord_j42 N W h x4  σ))
set_option maxRecDepth 100000 in
theorem ok_tw_readWord {ω : gW} {l : Launch} {d : Nat} {N : Nat} {W : gMem → Option gMem} {dW : Nat} {h : Nat} {σ : gMem} (hW : ∀ (s : gMem), TM s h → gK (fun p : gMem => (.inl none, p)) gTw ω l dW mu_tw_readSign [vR h] s (W s)) (hdp : 12 ≤ d) (hdw : dW + 6 ≤ d) (hM : TM σ h) : gK (fun p : gMem => (.inl none, p)) gTw ω l d mu_tw_readWord [vR h] σ (tw_readWord N W h σ) := by
  refine gK.of hp_X11 (Nat.le_of_ble_eq_true rfl) ?_
  unfold tw_readWord
  refine x_aload_n (μ := mu_tw_readWord) (pc := 0) 0 dX11_readWord_0 rfl ?_
  refine x_fgi (μ := mu_tw_readWord) (pc := 1) fX11_49 q2685 dX11_readWord_1 hM.1 (fun hr1 => ?_)
  refine x_aload_n (μ := mu_tw_readWord) (pc := 4) 0 dX11_readWord_4 rfl ?_
  refine x_fgi (μ := mu_tw_readWord) (pc := 5) fX11_48 q2684 dX11_readWord_5 hM.1 (fun hr2 => ?_)
  refine x_isub (μ := mu_tw_readWord) (pc := 8) dX11_readWord_8 ?_
  refine x_w1 ?_
  refine x_istore_n (μ := mu_tw_readWord) (pc := 9) (lv' := [(1, vI (w32 ((mI σ h 49) - (mI σ h 48)))), (0, vR h)]) dX11_readWord_9 rfl (by decide) rfl ?_
  refine x_aload_n (μ := mu_tw_readWord) (pc := 10) 1 dX11_readWord_10 rfl ?_
  refine x_aload_n (μ := mu_tw_readWord) (pc := 11) 1 dX11_readWord_11 rfl ?_
  refine x_fgi (μ := mu_tw_readWord) (pc := 12) fX11_48 q2684 dX11_readWord_12 hM.1 (fun hr3 => ?_)
  refine x_iload_n (μ := mu_tw_readWord) (pc := 15) 0 dX11_readWord_15 rfl ?_
  refine x_ldcwS (μ := mu_tw_readWord) (pc := 16) (j := 101) (List.mem_of_getElem? (i := 8) rfl) dX11_readWord_16 ?_
  refine x_callV_pi (μ := mu_tw_readWord) (pc := 19) (ok_tw_isWord (ω := ω) (l := l) (d := d - 1) (by omega) hM hr3 (w32_rng _)) gRel_Tw gRel_Tw (fun _ q => q) q3033 q3035 qs89 q232 q3036 dX11_readWord_19 rfl hM.1 hy_tw_isWord (by omega) (Nat.le_of_ble_eq_true rfl) rfl (Nat.le_of_ble_eq_true rfl) (fun x4 hr5 => ?_)
  refine x_istore_n (μ := mu_tw_readWord) (pc := 22) (lv' := [(2, vI x4), (1, vI (w32 ((mI σ h 49) - (mI σ h 48)))), (0, vR h)]) dX11_readWord_22 rfl (by decide) rfl ?_
  refine x_iload_n (μ := mu_tw_readWord) (pc := 23) 0 dX11_readWord_23 rfl ?_
  refine x_if_ne (μ := mu_tw_readWord) (pc := 24) (tgt := 42) dX11_readWord_24 rfl hr5 ?_ ?_
  · refine x_loc (lv' := [(0, vR h), (2, vI x4)]) [2, 0] rfl ?_
    exact okj_tw_readWord_j42 hW hdp hdw hM hr5
  · refine x_aload_n (μ := mu_tw_readWord) (pc := 27) 2 dX11_readWord_27 rfl ?_
    refine x_aload_n (μ := mu_tw_readWord) (pc := 28) 2 dX11_readWord_28 rfl ?_
    refine x_fgi (μ := mu_tw_readWord) (pc := 29) fX11_48 q2684 dX11_readWord_29 hM.1 (fun hr22 => ?_)
    refine x_iload_n (μ := mu_tw_readWord) (pc := 32) 1 dX11_readWord_32 rfl ?_
    refine x_ldcwS (μ := mu_tw_readWord) (pc := 33) (j := 102) (List.mem_of_getElem? (i := 12) rfl) dX11_readWord_33 ?_
    refine x_callV_pi (μ := mu_tw_readWord) (pc := 36) (ok_tw_isWord (ω := ω) (l := l) (d := d - 1) (by omega) hM hr22 (w32_rng _)) gRel_Tw gRel_Tw (fun _ q => q) q3033 q3035 qs89 q232 q3036 dX11_readWord_36 rfl hM.1 hy_tw_isWord (by omega) (Nat.le_of_ble_eq_true rfl) rfl (Nat.le_of_ble_eq_true rfl) (fun x23 hr24 => ?_)
    refine x_if_eq (μ := mu_tw_readWord) (pc := 39) (tgt := 69) dX11_readWord_39 rfl hr24 ?_ ?_
    · refine x_bipush (μ := mu_tw_readWord) (pc := 69) dX11_readWord_69 (by decide) ?_
      refine x_istore_n (μ := mu_tw_readWord) (pc := 71) (lv' := [(3, vI 30), (2, vI x4), (1, vI (w32 ((mI σ h 49) - (mI σ h 48)))), (0, vR h)]) dX11_readWord_71 rfl (by decide) rfl ?_
      refine x_loc (lv' := [(0, vR h), (1, vI (w32 ((mI σ h 49) - (mI σ h 48)))), (3, vI 30)]) [3, 2, 0] rfl ?_
      refine okl_tw_readWord_l72 hW hdp hdw (w32_rng _) (fun s32 hM33 => ?_) N 30 σ (by decide) hM
      refine x_aload_n (μ := mu_tw_readWord) (pc := 106) 0 dX11_readWord_106 rfl ?_
      refine x_iconst (μ := mu_tw_readWord) (pc := 107) dX11_readWord_107 ?_
      refine x_aload_n (μ := mu_tw_readWord) (pc := 108) 0 dX11_readWord_108 rfl ?_
      refine x_fgi (μ := mu_tw_readWord) (pc := 109) fX11_48 q2684 dX11_readWord_109 hM33.1 (fun hr34 => ?_)
      refine x_callV_mv (μ := mu_tw_readWord) (pc := 112) (ok_tw_fail (ω := ω) (l := l) (d := d - 1) (by omega) hM33 (by decide) hr34) gRel_Tw gRel_Tw (fun _ q => q) q3079 q3081 qs100 q232 q3082 dX11_readWord_112 rfl hM33.1 hy_tw_fail (by omega) (Nat.le_of_ble_eq_true rfl) rfl (Nat.le_of_ble_eq_true rfl) (fun x35 k36 => ?_)
      have hM37 : TM x35 h := hM33.tw k36
      exact x_vret (μ := mu_tw_readWord) (pc := 115) (a1 := x35) dX11_readWord_115 rfl rfl (gRel_Tw.1 _) trivial
    · refine x_loc (lv' := [(0, vR h), (2, vI x4)]) [2, 0] rfl ?_
      exact okj_tw_readWord_j42 hW hdp hdw hM hr5
def tw_work_o (N : Nat) (W : Int → Int → Int → gMem → Option gMem) (h : Nat) (v1 : Int) (v2 : Int) (v3 : Int) (σ : gMem) : Option gMem := if 0 ≤ v1 ∧ v1 < ((60420 : Nat) : Int) then if mI σ (h + 14) v1.toNat ≠ 1 then if mI σ (h + 14) v1.toNat ≠ 2 then if mI σ (h + 14) v1.toNat ≠ 3 then if mI σ (h + 14) v1.toNat ≠ 5 then if mI σ (h + 14) v1.toNat ≠ 7 then (tw_in (mI σ (h + 14) v1.toNat) 10 21 σ).bind (fun x2 => if x2 = 0 then if mI σ (h + 14) v1.toNat < 30 then (tw_error h v3 1 σ).bind (fun x4 => some x4) else (tw_workCall N W h v1 v2 v3 σ).bind (fun x7 => some x7) else (tw_workTwo N W h v1 v2 v3 σ).bind (fun x10 => some x10)) else (W (w32 (v1 - 1)) v2 v3 σ).bind (fun x13 => if 0 ≤ v3 ∧ v3 < ((200 : Nat) : Int) then if mI x13 (h + 33) v3.toNat = 4 then some x13 else (tw_wantsNumber h v3 x13).bind (fun x17 => if x17.1 = 0 then some (x17.2) else if 0 ≤ v3 ∧ v3 < ((200 : Nat) : Int) then (tw_number h v3 (w64 (-(mL (x17.2) (h + 34) v3.toNat))) (x17.2)).bind (fun x22 => some x22) else none) else none) else (tw_spotCell N h v1 v2 σ).bind (fun x25 => if 0 ≤ x25 then (tw_load N h v3 x25 σ).bind (fun x27 => some x27) else (tw_error h v3 1 σ).bind (fun x30 => some x30)) else if 0 ≤ v1 ∧ v1 < ((60420 : Nat) : Int) then if gcmp (mL σ (h + 17) v1.toNat) (((1 : Fin 2) : Nat) : Int) ≠ 0 then (tw_truth h v3 0 σ).bind (fun x34 => some x34) else (tw_truth h v3 1 σ).bind (fun x37 => some x37) else none else if 0 ≤ v1 ∧ v1 < ((60420 : Nat) : Int) then if 0 ≤ v1 ∧ v1 < ((60420 : Nat) : Int) then (tw_text N h v3 (h + 9) (mI σ (h + 18) v1.toNat) (mI σ (h + 19) v1.toNat) σ).bind (fun x42 => some x42) else none else none else if 0 ≤ v1 ∧ v1 < ((60420 : Nat) : Int) then (tw_number h v3 (mL σ (h + 17) v1.toNat) σ).bind (fun x46 => some x46) else none else none
set_option maxRecDepth 100000 in
theorem ok_tw_work_o {ω : gW} {l : Launch} {d : Nat} {N : Nat} {W : Int → Int → Int → gMem → Option gMem} {dW : Nat} {h : Nat} {σ : gMem} {v1 : Int} {v2 : Int} {v3 : Int} (hW : ∀ (a1 : Int) (a2 : Int) (a3 : Int) (s : gMem), TM s h → g32 a1 → g32 a2 → g32 a3 → gK (fun p : gMem => (.inl none, p)) gTw ω l dW mu_tw_work [vR h, vI a1, vI a2, vI a3] s (W a1 a2 a3 s)) (hdp : 10 ≤ d) (hdw : dW + 3 ≤ d) (hM : TM σ h) (hv1 : g32 v1) (hv2 : g32 v2) (hv3 : g32 v3) : gK (fun p : gMem => (.inl none, p)) gTw ω l d mu_tw_work [vR h, vI v1, vI v2, vI v3] σ (tw_work_o N W h v1 v2 v3 σ) := by
  refine gK.of hp_X11 (Nat.le_of_ble_eq_true rfl) ?_
  unfold tw_work_o
  refine x_aload_n (μ := mu_tw_work) (pc := 0) 0 dX11_work_0 rfl ?_
  refine x_fgrE (μ := mu_tw_work) (pc := 1) fX11_26 (Or.inr ⟨_, rfl⟩) q2662 (hM.a26).1 dX11_work_1 hM.1 ?_
  refine x_iload_n (μ := mu_tw_work) (pc := 4) 1 dX11_work_4 rfl ?_
  refine x_iald (μ := mu_tw_work) (pc := 5) dX11_work_5 (hM.a26).2.1 (hM.a26).2.2 (fun hr1 => ?_)
  refine x_istore (μ := mu_tw_work) (pc := 6) (lv' := [(4, vI (mI σ (h + 14) v1.toNat)), (0, vR h), (1, vI v1), (2, vI v2), (3, vI v3)]) dX11_work_6 (by decide) rfl ?_
  refine x_iload (μ := mu_tw_work) (pc := 8) 0 dX11_work_8 rfl ?_
  refine x_iconst (μ := mu_tw_work) (pc := 10) dX11_work_10 ?_
  refine x_icmp_ne (μ := mu_tw_work) (pc := 11) (tgt := 28) dX11_work_11 rfl hr1 (by decide) ?_ ?_
  · refine x_iload (μ := mu_tw_work) (pc := 28) 0 dX11_work_28 rfl ?_
    refine x_iconst (μ := mu_tw_work) (pc := 30) dX11_work_30 ?_
    refine x_icmp_ne (μ := mu_tw_work) (pc := 31) (tgt := 58) dX11_work_31 rfl hr1 (by decide) ?_ ?_
    · refine x_iload (μ := mu_tw_work) (pc := 58) 0 dX11_work_58 rfl ?_
      refine x_iconst (μ := mu_tw_work) (pc := 60) dX11_work_60 ?_
      refine x_icmp_ne (μ := mu_tw_work) (pc := 61) (tgt := 88) dX11_work_61 rfl hr1 (by decide) ?_ ?_
      · refine x_iload (μ := mu_tw_work) (pc := 88) 0 dX11_work_88 rfl ?_
        refine x_iconst (μ := mu_tw_work) (pc := 90) dX11_work_90 ?_
        refine x_icmp_ne (μ := mu_tw_work) (pc := 91) (tgt := 126) dX11_work_91 rfl hr1 (by decide) ?_ ?_
        · refine x_iload (μ := mu_tw_work) (pc := 126) 0 dX11_work_126 rfl ?_
          refine x_bipush (μ := mu_tw_work) (pc := 128) dX11_work_128 (by decide) ?_
          refine x_icmp_ne (μ := mu_tw_work) (pc := 130) (tgt := 175) dX11_work_130 rfl hr1 (by decide) ?_ ?_
          · refine x_iload (μ := mu_tw_work) (pc := 175) 0 dX11_work_175 rfl ?_
            refine x_bipush (μ := mu_tw_work) (pc := 177) dX11_work_177 (by decide) ?_
            refine x_bipush (μ := mu_tw_work) (pc := 179) dX11_work_179 (by decide) ?_
            refine x_callS_pi (μ := mu_tw_work) (pc := 181) (ok_tw_in (ω := ω) (l := l) (d := d - 1) (by omega) hr1 (by decide) (by decide)) gRel_Tw gRel_Tw (fun _ q => q) q2980 q2981 q232 q2982 dX11_work_181 hy_tw_in (by omega) (Nat.le_of_ble_eq_true rfl) rfl (Nat.le_of_ble_eq_true rfl) (fun x2 hr3 => ?_)
            refine x_if_eq (μ := mu_tw_work) (pc := 184) (tgt := 197) dX11_work_184 rfl hr3 ?_ ?_
            · refine x_iload (μ := mu_tw_work) (pc := 197) 0 dX11_work_197 rfl ?_
              refine x_bipush (μ := mu_tw_work) (pc := 199) dX11_work_199 (by decide) ?_
              refine x_icmp_lt (μ := mu_tw_work) (pc := 201) (tgt := 214) dX11_work_201 rfl hr1 (by decide) ?_ ?_
              · refine x_aload_n (μ := mu_tw_work) (pc := 214) 1 dX11_work_214 rfl ?_
                refine x_iload_n (μ := mu_tw_work) (pc := 215) 4 dX11_work_215 rfl ?_
                refine x_iconst (μ := mu_tw_work) (pc := 216) dX11_work_216 ?_
                refine x_callV_mv (μ := mu_tw_work) (pc := 217) (ok_tw_error (ω := ω) (l := l) (d := d - 1) (by omega) hM hv3 (by decide)) gRel_Tw gRel_Tw (fun _ q => q) q3294 q3296 qs139 q232 q3297 dX11_work_217 rfl hM.1 hy_tw_error (by omega) (Nat.le_of_ble_eq_true rfl) rfl (Nat.le_of_ble_eq_true rfl) (fun x4 k5 => ?_)
                have hM6 : TM x4 h := hM.tw k5
                exact x_vret (μ := mu_tw_work) (pc := 220) (a1 := x4) dX11_work_220 rfl rfl (gRel_Tw.1 _) trivial
              · refine x_aload_n (μ := mu_tw_work) (pc := 204) 1 dX11_work_204 rfl ?_
                refine x_iload_n (μ := mu_tw_work) (pc := 205) 2 dX11_work_205 rfl ?_
                refine x_iload_n (μ := mu_tw_work) (pc := 206) 3 dX11_work_206 rfl ?_
                refine x_iload_n (μ := mu_tw_work) (pc := 207) 4 dX11_work_207 rfl ?_
                refine x_callV_mv (μ := mu_tw_work) (pc := 208) (ok_tw_workCall (ω := ω) (l := l) (d := d - 1) hW (by omega) (by omega) hM hv1 hv2 hv3) gRel_Tw gRel_Tw (fun _ q => q) q3386 q3388 qs160 q232 q3389 dX11_work_208 rfl hM.1 hy_tw_workCall (by omega) (Nat.le_of_ble_eq_true rfl) rfl (Nat.le_of_ble_eq_true rfl) (fun x7 k8 => ?_)
                have hM9 : TM x7 h := hM.tw k8
                refine x_goto (μ := mu_tw_work) (pc := 211) (tgt := 220) dX11_work_211 rfl ?_
                exact x_vret (μ := mu_tw_work) (pc := 220) (a1 := x7) dX11_work_220 rfl rfl (gRel_Tw.1 _) trivial
            · refine x_aload_n (μ := mu_tw_work) (pc := 187) 1 dX11_work_187 rfl ?_
              refine x_iload_n (μ := mu_tw_work) (pc := 188) 2 dX11_work_188 rfl ?_
              refine x_iload_n (μ := mu_tw_work) (pc := 189) 3 dX11_work_189 rfl ?_
              refine x_iload_n (μ := mu_tw_work) (pc := 190) 4 dX11_work_190 rfl ?_
              refine x_callV_mv (μ := mu_tw_work) (pc := 191) (ok_tw_workTwo (ω := ω) (l := l) (d := d - 1) hW (by omega) (by omega) hM hv1 hv2 hv3) gRel_Tw gRel_Tw (fun _ q => q) q3334 q3336 qs148 q232 q3337 dX11_work_191 rfl hM.1 hy_tw_workTwo (by omega) (Nat.le_of_ble_eq_true rfl) rfl (Nat.le_of_ble_eq_true rfl) (fun x10 k11 => ?_)
              have hM12 : TM x10 h := hM.tw k11
              refine x_goto (μ := mu_tw_work) (pc := 194) (tgt := 220) dX11_work_194 rfl ?_
              exact x_vret (μ := mu_tw_work) (pc := 220) (a1 := x10) dX11_work_220 rfl rfl (gRel_Tw.1 _) trivial
          · refine x_aload_n (μ := mu_tw_work) (pc := 133) 1 dX11_work_133 rfl ?_
            refine x_iload_n (μ := mu_tw_work) (pc := 134) 2 dX11_work_134 rfl ?_
            refine x_iconst (μ := mu_tw_work) (pc := 135) dX11_work_135 ?_
            refine x_isub (μ := mu_tw_work) (pc := 136) dX11_work_136 ?_
            refine x_iload_n (μ := mu_tw_work) (pc := 137) 3 dX11_work_137 rfl ?_
            refine x_iload_n (μ := mu_tw_work) (pc := 138) 4 dX11_work_138 rfl ?_
            refine x_stk (st2 := [vI v3, vI v2, vI (w32 (v1 - 1)), vR h]) (by simp only [List.map_cons, gval_w32, gval_w64]) ?_
            refine x_callV_mv (μ := mu_tw_work) (pc := 139) (hW (w32 (v1 - 1)) v2 v3 σ hM (w32_rng _) hv2 hv3) gRel_Tw gRel_Tw (fun _ q => q) q3311 q3313 qs143 q232 q3314 dX11_work_139 rfl hM.1 hy_tw_work (by omega) (Nat.le_of_ble_eq_true rfl) rfl (Nat.le_of_ble_eq_true rfl) (fun x13 k14 => ?_)
            have hM15 : TM x13 h := hM.tw k14
            refine x_aload_n (μ := mu_tw_work) (pc := 142) 1 dX11_work_142 rfl ?_
            refine x_fgrE (μ := mu_tw_work) (pc := 143) fX11_66 (Or.inr ⟨_, rfl⟩) q2702 (hM15.a66).1 dX11_work_143 hM15.1 ?_
            refine x_iload_n (μ := mu_tw_work) (pc := 146) 4 dX11_work_146 rfl ?_
            refine x_iald (μ := mu_tw_work) (pc := 147) dX11_work_147 (hM15.a66).2.1 (hM15.a66).2.2 (fun hr16 => ?_)
            refine x_iconst (μ := mu_tw_work) (pc := 148) dX11_work_148 ?_
            refine x_icmp_eq (μ := mu_tw_work) (pc := 149) (tgt := 220) dX11_work_149 rfl hr16 (by decide) ?_ ?_
            · exact x_vret (μ := mu_tw_work) (pc := 220) (a1 := x13) dX11_work_220 rfl rfl (gRel_Tw.1 _) trivial
            · refine x_aload_n (μ := mu_tw_work) (pc := 152) 1 dX11_work_152 rfl ?_
              refine x_iload_n (μ := mu_tw_work) (pc := 153) 4 dX11_work_153 rfl ?_
              refine x_callV_mi (μ := mu_tw_work) (pc := 154) (ok_tw_wantsNumber (ω := ω) (l := l) (d := d - 1) (by omega) hM15 hv3) gRel_Tw gRel_Tw (fun _ q => q) q3330 q3332 qs147 q232 q3333 dX11_work_154 rfl hM15.1 hy_tw_wantsNumber (by omega) (Nat.le_of_ble_eq_true rfl) rfl (Nat.le_of_ble_eq_true rfl) (fun x17 k19 hr18 => ?_)
              have hM20 : TM (x17.2) h := hM15.tw k19
              refine x_if_eq (μ := mu_tw_work) (pc := 157) (tgt := 220) dX11_work_157 rfl hr18 ?_ ?_
              · exact x_vret (μ := mu_tw_work) (pc := 220) (a1 := x17.2) dX11_work_220 rfl rfl (gRel_Tw.1 _) trivial
              · refine x_aload_n (μ := mu_tw_work) (pc := 160) 1 dX11_work_160 rfl ?_
                refine x_iload_n (μ := mu_tw_work) (pc := 161) 4 dX11_work_161 rfl ?_
                refine x_aload_n (μ := mu_tw_work) (pc := 162) 1 dX11_work_162 rfl ?_
                refine x_fgrE (μ := mu_tw_work) (pc := 163) fX11_67 (Or.inr ⟨_, rfl⟩) q2703 (hM20.a67).1 dX11_work_163 hM20.1 ?_
                refine x_iload_n (μ := mu_tw_work) (pc := 166) 4 dX11_work_166 rfl ?_
                refine x_lald (μ := mu_tw_work) (pc := 167) dX11_work_167 (hM20.a67).2.1 (hM20.a67).2.2 (fun hr21 => ?_)
                refine x_lneg (μ := mu_tw_work) (pc := 168) dX11_work_168 ?_
                refine x_W1 ?_
                refine x_callV_mv (μ := mu_tw_work) (pc := 169) (ok_tw_number (ω := ω) (l := l) (d := d - 1) (by omega) hM20 hv3 (w64_rng _)) gRel_Tw gRel_Tw (fun _ q => q) q3315 q3317 qs144 q232 q3318 dX11_work_169 rfl hM20.1 hy_tw_number (by omega) (Nat.le_of_ble_eq_true rfl) rfl (Nat.le_of_ble_eq_true rfl) (fun x22 k23 => ?_)
                have hM24 : TM x22 h := hM20.tw k23
                refine x_goto (μ := mu_tw_work) (pc := 172) (tgt := 220) dX11_work_172 rfl ?_
                exact x_vret (μ := mu_tw_work) (pc := 220) (a1 := x22) dX11_work_220 rfl rfl (gRel_Tw.1 _) trivial
        · refine x_aload_n (μ := mu_tw_work) (pc := 94) 1 dX11_work_94 rfl ?_
          refine x_iload_n (μ := mu_tw_work) (pc := 95) 2 dX11_work_95 rfl ?_
          refine x_iload_n (μ := mu_tw_work) (pc := 96) 3 dX11_work_96 rfl ?_
          refine x_callV_pi (μ := mu_tw_work) (pc := 97) (ok_tw_spotCell (ω := ω) (l := l) (d := d - 1) (by omega) hM hv1 hv2) gRel_Tw gRel_Tw (fun _ q => q) q3233 q3235 qs126 q232 q3236 dX11_work_97 rfl hM.1 hy_tw_spotCell (by omega) (Nat.le_of_ble_eq_true rfl) rfl (Nat.le_of_ble_eq_true rfl) (fun x25 hr26 => ?_)
          refine x_istore (μ := mu_tw_work) (pc := 100) (lv' := [(5, vI x25), (4, vI (mI σ (h + 14) v1.toNat)), (0, vR h), (1, vI v1), (2, vI v2), (3, vI v3)]) dX11_work_100 (by decide) rfl ?_
          refine x_iload (μ := mu_tw_work) (pc := 102) 0 dX11_work_102 rfl ?_
          refine x_if_ge (μ := mu_tw_work) (pc := 104) (tgt := 116) dX11_work_104 rfl hr26 ?_ ?_
          · refine x_aload_n (μ := mu_tw_work) (pc := 116) 2 dX11_work_116 rfl ?_
            refine x_iload_n (μ := mu_tw_work) (pc := 117) 5 dX11_work_117 rfl ?_
            refine x_iload (μ := mu_tw_work) (pc := 118) 0 dX11_work_118 rfl ?_
            refine x_callV_mv (μ := mu_tw_work) (pc := 120) (ok_tw_load (ω := ω) (l := l) (d := d - 1) (by omega) hM hv3 hr26) gRel_Tw gRel_Tw (fun _ q => q) q3326 q3328 qs146 q232 q3329 dX11_work_120 rfl hM.1 hy_tw_load (by omega) (Nat.le_of_ble_eq_true rfl) rfl (Nat.le_of_ble_eq_true rfl) (fun x27 k28 => ?_)
            have hM29 : TM x27 h := hM.tw k28
            refine x_goto (μ := mu_tw_work) (pc := 123) (tgt := 220) dX11_work_123 rfl ?_
            exact x_vret (μ := mu_tw_work) (pc := 220) (a1 := x27) dX11_work_220 rfl rfl (gRel_Tw.1 _) trivial
          · refine x_aload_n (μ := mu_tw_work) (pc := 107) 2 dX11_work_107 rfl ?_
            refine x_iload_n (μ := mu_tw_work) (pc := 108) 5 dX11_work_108 rfl ?_
            refine x_iconst (μ := mu_tw_work) (pc := 109) dX11_work_109 ?_
            refine x_callV_mv (μ := mu_tw_work) (pc := 110) (ok_tw_error (ω := ω) (l := l) (d := d - 1) (by omega) hM hv3 (by decide)) gRel_Tw gRel_Tw (fun _ q => q) q3294 q3296 qs139 q232 q3297 dX11_work_110 rfl hM.1 hy_tw_error (by omega) (Nat.le_of_ble_eq_true rfl) rfl (Nat.le_of_ble_eq_true rfl) (fun x30 k31 => ?_)
            have hM32 : TM x30 h := hM.tw k31
            refine x_goto (μ := mu_tw_work) (pc := 113) (tgt := 123) dX11_work_113 rfl ?_
            refine x_goto (μ := mu_tw_work) (pc := 123) (tgt := 220) dX11_work_123 rfl ?_
            exact x_vret (μ := mu_tw_work) (pc := 220) (a1 := x30) dX11_work_220 rfl rfl (gRel_Tw.1 _) trivial
      · refine x_aload_n (μ := mu_tw_work) (pc := 64) 1 dX11_work_64 rfl ?_
        refine x_iload_n (μ := mu_tw_work) (pc := 65) 4 dX11_work_65 rfl ?_
        refine x_aload_n (μ := mu_tw_work) (pc := 66) 1 dX11_work_66 rfl ?_
        refine x_fgrE (μ := mu_tw_work) (pc := 67) fX11_29 (Or.inr ⟨_, rfl⟩) q2665 (hM.a29).1 dX11_work_67 hM.1 ?_
        refine x_iload_n (μ := mu_tw_work) (pc := 70) 2 dX11_work_70 rfl ?_
        refine x_lald (μ := mu_tw_work) (pc := 71) dX11_work_71 (hM.a29).2.1 (hM.a29).2.2 (fun hr33 => ?_)
        refine x_lconst (μ := mu_tw_work) (pc := 72) dX11_work_72 ?_
        refine x_lcmp (μ := mu_tw_work) (pc := 73) dX11_work_73 hr33 (by decide) ?_
        refine x_if_ne (μ := mu_tw_work) (pc := 74) (tgt := 81) dX11_work_74 rfl (gcmp_rng _ _) ?_ ?_
        · refine x_iconst (μ := mu_tw_work) (pc := 81) dX11_work_81 ?_
          refine x_callV_mv (μ := mu_tw_work) (pc := 82) (ok_tw_truth (ω := ω) (l := l) (d := d - 1) (by omega) hM hv3 (by decide)) gRel_Tw gRel_Tw (fun _ q => q) q3322 q3324 qs145 q232 q3325 dX11_work_82 rfl hM.1 hy_tw_truth (by omega) (Nat.le_of_ble_eq_true rfl) rfl (Nat.le_of_ble_eq_true rfl) (fun x34 k35 => ?_)
          have hM36 : TM x34 h := hM.tw k35
          refine x_goto (μ := mu_tw_work) (pc := 85) (tgt := 220) dX11_work_85 rfl ?_
          exact x_vret (μ := mu_tw_work) (pc := 220) (a1 := x34) dX11_work_220 rfl rfl (gRel_Tw.1 _) trivial
        · refine x_iconst (μ := mu_tw_work) (pc := 77) dX11_work_77 ?_
          refine x_goto (μ := mu_tw_work) (pc := 78) (tgt := 82) dX11_work_78 rfl ?_
          refine x_callV_mv (μ := mu_tw_work) (pc := 82) (ok_tw_truth (ω := ω) (l := l) (d := d - 1) (by omega) hM hv3 (by decide)) gRel_Tw gRel_Tw (fun _ q => q) q3322 q3324 qs145 q232 q3325 dX11_work_82 rfl hM.1 hy_tw_truth (by omega) (Nat.le_of_ble_eq_true rfl) rfl (Nat.le_of_ble_eq_true rfl) (fun x37 k38 => ?_)
          have hM39 : TM x37 h := hM.tw k38
          refine x_goto (μ := mu_tw_work) (pc := 85) (tgt := 220) dX11_work_85 rfl ?_
          exact x_vret (μ := mu_tw_work) (pc := 220) (a1 := x37) dX11_work_220 rfl rfl (gRel_Tw.1 _) trivial
    · refine x_aload_n (μ := mu_tw_work) (pc := 34) 1 dX11_work_34 rfl ?_
      refine x_iload_n (μ := mu_tw_work) (pc := 35) 4 dX11_work_35 rfl ?_
      refine x_aload_n (μ := mu_tw_work) (pc := 36) 1 dX11_work_36 rfl ?_
      refine x_fgrE (μ := mu_tw_work) (pc := 37) fX11_18 (Or.inr ⟨_, rfl⟩) q2654 (hM.a18).1 dX11_work_37 hM.1 ?_
      refine x_aload_n (μ := mu_tw_work) (pc := 40) 1 dX11_work_40 rfl ?_
      refine x_fgrE (μ := mu_tw_work) (pc := 41) fX11_30 (Or.inr ⟨_, rfl⟩) q2666 (hM.a30).1 dX11_work_41 hM.1 ?_
      refine x_iload_n (μ := mu_tw_work) (pc := 44) 2 dX11_work_44 rfl ?_
      refine x_iald (μ := mu_tw_work) (pc := 45) dX11_work_45 (hM.a30).2.1 (hM.a30).2.2 (fun hr40 => ?_)
      refine x_aload_n (μ := mu_tw_work) (pc := 46) 1 dX11_work_46 rfl ?_
      refine x_fgrE (μ := mu_tw_work) (pc := 47) fX11_31 (Or.inr ⟨_, rfl⟩) q2667 (hM.a31).1 dX11_work_47 hM.1 ?_
      refine x_iload_n (μ := mu_tw_work) (pc := 50) 2 dX11_work_50 rfl ?_
      refine x_iald (μ := mu_tw_work) (pc := 51) dX11_work_51 (hM.a31).2.1 (hM.a31).2.2 (fun hr41 => ?_)
      refine x_callV_mv (μ := mu_tw_work) (pc := 52) (ok_tw_text (ω := ω) (l := l) (d := d - 1) (by omega) hM hv3 hr40 hr41) gRel_Tw gRel_Tw (fun _ q => q) q3279 q3281 qs136 q232 q3282 dX11_work_52 rfl hM.1 hy_tw_text (by omega) (Nat.le_of_ble_eq_true rfl) rfl (Nat.le_of_ble_eq_true rfl) (fun x42 k43 => ?_)
      have hM44 : TM x42 h := hM.tw k43
      refine x_goto (μ := mu_tw_work) (pc := 55) (tgt := 220) dX11_work_55 rfl ?_
      exact x_vret (μ := mu_tw_work) (pc := 220) (a1 := x42) dX11_work_220 rfl rfl (gRel_Tw.1 _) trivial
  · refine x_aload_n (μ := mu_tw_work) (pc := 14) 1 dX11_work_14 rfl ?_
    refine x_iload_n (μ := mu_tw_work) (pc := 15) 4 dX11_work_15 rfl ?_
    refine x_aload_n (μ := mu_tw_work) (pc := 16) 1 dX11_work_16 rfl ?_
    refine x_fgrE (μ := mu_tw_work) (pc := 17) fX11_29 (Or.inr ⟨_, rfl⟩) q2665 (hM.a29).1 dX11_work_17 hM.1 ?_
    refine x_iload_n (μ := mu_tw_work) (pc := 20) 2 dX11_work_20 rfl ?_
    refine x_lald (μ := mu_tw_work) (pc := 21) dX11_work_21 (hM.a29).2.1 (hM.a29).2.2 (fun hr45 => ?_)
    refine x_callV_mv (μ := mu_tw_work) (pc := 22) (ok_tw_number (ω := ω) (l := l) (d := d - 1) (by omega) hM hv3 hr45) gRel_Tw gRel_Tw (fun _ q => q) q3315 q3317 qs144 q232 q3318 dX11_work_22 rfl hM.1 hy_tw_number (by omega) (Nat.le_of_ble_eq_true rfl) rfl (Nat.le_of_ble_eq_true rfl) (fun x46 k47 => ?_)
    have hM48 : TM x46 h := hM.tw k47
    refine x_goto (μ := mu_tw_work) (pc := 25) (tgt := 220) dX11_work_25 rfl ?_
    exact x_vret (μ := mu_tw_work) (pc := 220) (a1 := x46) dX11_work_220 rfl rfl (gRel_Tw.1 _) trivial
def tw_work (N : Nat) (h : Nat) : Nat → Int → Int → Int → gMem → Option gMem
  | 0 => fun _ _ _ _ => none
  | n + 1 => fun a0 a1 a2 s => tw_work_o N (tw_work N h n) h a0 a1 a2 s
set_option maxRecDepth 100000 in
theorem ok_tw_work {ω : gW} {l : Launch} {N : Nat} {h : Nat} : ∀ (n : Nat) {d : Nat} (a0 : Int) (a1 : Int) (a2 : Int) (s : gMem), TM s h → g32 a0 → g32 a1 → g32 a2 → 10 + 3 * n ≤ d → gK (fun p : gMem => (.inl none, p)) gTw ω l d mu_tw_work [vR h, vI a0, vI a1, vI a2] s (tw_work N h n a0 a1 a2 s) := by
  intro n
  induction n with
  | zero => intro d a0 a1 a2 s mm h0 h1 h2 hd; exact gK.none
  | succ n ih =>
    intro d a0 a1 a2 s mm h0 h1 h2 hd
    exact ok_tw_work_o (dW := 10 + 3 * n) (fun a0 a1 a2 s mm h0 h1 h2 => ih a0 a1 a2 s mm h0 h1 h2 (Nat.le_refl _)) (by omega) (by omega) mm h0 h1 h2
def tw_together_l43_j103 (N : Nat) (h : Nat) (v1 : Int) (v2 : Int) (v3 : Int) (Kh : Int → gMem → Option (Int × gMem)) (K : gMem → Option (Int × gMem)) (s : gMem) : Option (Int × gMem) := Kh (w32 (v3 + 1)) s
set_option maxRecDepth 100000 in
theorem okj_tw_together_l43_j103 {ω : gW} {l : Launch} {d : Nat} {N : Nat} {h : Nat} {σ0 : gMem} {s : gMem} {v1 : Int} {v2 : Int} {v3 : Int} {Kh : Int → gMem → Option (Int × gMem)} {K : gMem → Option (Int × gMem)} (hdp : 7 ≤ d) (hM : TM s h) (hv1 : g32 v1) (hv2 : g32 v2) (hv3 : g32 v3) (hKh : ∀ (v3 : Int) (s : gMem) , g32 v3 → TM s h → GG (fun p : Int × gMem => (.inl (some (vI p.1)), p.2)) gTw ω l d mu_tw_together σ0 43 [(0, vR h), (1, vI v1), (2, vI v2), (3, vI v3)] [] s (Kh v3 s)) (hK : ∀ (s : gMem) , TM s h → GG (fun p : Int × gMem => (.inl (some (vI p.1)), p.2)) gTw ω l d mu_tw_together σ0 109 [(0, vR h)] [] s (K s)) : GG (fun p : Int × gMem => (.inl (some (vI p.1)), p.2)) gTw ω l d mu_tw_together σ0 103 [(0, vR h), (1, vI v1), (2, vI v2), (3, vI v3)] [] s (tw_together_l43_j103 N h v1 v2 v3 Kh K s) := by
  unfold tw_together_l43_j103
  refine x_iincw (μ := mu_tw_together) (pc := 103) (lv' := [(3, vI (w32 (v3 + 1))), (0, vR h), (1, vI v1), (2, vI v2)]) 3 dX11_together_103 rfl (by decide) rfl ?_
  refine x_goto (μ := mu_tw_together) (pc := 106) (tgt := 43) dX11_together_106 rfl ?_
  refine x_loc (lv' := [(0, vR h), (1, vI v1), (2, vI v2), (3, vI (w32 (v3 + 1)))]) [1, 2, 3, 0] rfl ?_
  exact hKh (w32 (v3 + 1)) s (w32_rng _) hM
def tw_together_l43 (N : Nat) (h : Nat) (v1 : Int) (v2 : Int) (K : gMem → Option (Int × gMem)) : Nat → Int → gMem → Option (Int × gMem)
  | 0, _, _ => none
  | n + 1, v3, s => if 320 ≤ v3 then K s else if 0 ≤ (38720 + v3) ∧ (38720 + v3) < ((39040 : Nat) : Int) then gLet (wI s (h + 5) (38720 + v3).toNat 0) (fun s18 => if 0 ≤ (121 : Int) ∧ (121 : Int) < ((122 : Nat) : Int) then if mI s18 (h + 1) (121 : Int).toNat ≤ w32 (Int.tdiv v3 10) then tw_together_l43_j103 N h v1 v2 v3  (tw_together_l43 N h v1 v2 K n) K s18 else if 0 ≤ (121 : Int) ∧ (121 : Int) < ((122 : Nat) : Int) then if mI s18 (h + 2) (121 : Int).toNat ≤ w32 (Int.tmod v3 10) then tw_together_l43_j103 N h v1 v2 v3  (tw_together_l43 N h v1 v2 K n) K s18 else (tw_newCell N h v1 v2 (w32 (Int.tdiv v3 10)) (w32 (Int.tmod v3 10)) s18).bind (fun x23 => tw_together_l43_j103 N h v1 v2 v3  (tw_together_l43 N h v1 v2 K n) K x23) else none else none) else none
set_option maxRecDepth 100000 in
theorem okl_tw_together_l43 {ω : gW} {l : Launch} {d : Nat} {N : Nat} {h : Nat} {σ0 : gMem} {v1 : Int} {v2 : Int} {K : gMem → Option (Int × gMem)} (hdp : 7 ≤ d) (hv1 : g32 v1) (hv2 : g32 v2) (hK : ∀ (s : gMem) , TM s h → GG (fun p : Int × gMem => (.inl (some (vI p.1)), p.2)) gTw ω l d mu_tw_together σ0 109 [(0, vR h)] [] s (K s)) : ∀ (n : Nat) (v3 : Int) (s : gMem) , g32 v3 → TM s h → GG (fun p : Int × gMem => (.inl (some (vI p.1)), p.2)) gTw ω l d mu_tw_together σ0 43 [(0, vR h), (1, vI v1), (2, vI v2), (3, vI v3)] [] s (tw_together_l43 N h v1 v2 K n v3 s) := by
  intro n
  induction n with
  | zero => intros; exact x_none
  | succ n ih =>
    intro v3 s hv3 hM
    unfold tw_together_l43
    refine x_iload_n (μ := mu_tw_together) (pc := 43) 3 dX11_together_43 rfl ?_
    refine x_sipush (μ := mu_tw_together) (pc := 44) dX11_together_44 (by decide) ?_
    refine x_icmp_ge (μ := mu_tw_together) (pc := 47) (tgt := 109) dX11_together_47 rfl hv3 (by decide) ?_ ?_
    · refine x_loc (lv' := [(0, vR h)]) [0] rfl ?_
      exact hK s hM
    · refine x_aload_n (μ := mu_tw_together) (pc := 50) 0 dX11_together_50 rfl ?_
      refine x_fgrE (μ := mu_tw_together) (pc := 51) fX11_5 (Or.inr ⟨_, rfl⟩) q2641 (hM.a5).1 dX11_together_51 hM.1 ?_
      refine x_ldcw (μ := mu_tw_together) (pc := 54) (n := 38720) dX11_together_54 q3701 ?_
      refine x_iload_n (μ := mu_tw_together) (pc := 57) 3 dX11_together_57 rfl ?_
      refine x_iadd (μ := mu_tw_together) (pc := 58) dX11_together_58 ?_
      refine x_iconst (μ := mu_tw_together) (pc := 59) dX11_together_59 ?_
      refine x_iast (μ := mu_tw_together) (pc := 60) dX11_together_60 (hM.a5).2.1 (hM.a5).2.2 (fun _ _ q => gTw_wI q) ?_
      refine x_let (fun s18 e19 => ?_)
      have hM20 := TM.eI e19 hM
      refine x_iload_n (μ := mu_tw_together) (pc := 61) 3 dX11_together_61 rfl ?_
      refine x_bipush (μ := mu_tw_together) (pc := 62) dX11_together_62 (by decide) ?_
      refine x_idivc (μ := mu_tw_together) (pc := 64) dX11_together_64 hv3 (by decide) (by decide) ?_
      refine x_aload_n (μ := mu_tw_together) (pc := 65) 0 dX11_together_65 rfl ?_
      refine x_fgrE (μ := mu_tw_together) (pc := 66) fX11_1 (Or.inr ⟨_, rfl⟩) q2637 (hM20.a1).1 dX11_together_66 hM20.1 ?_
      refine x_bipush (μ := mu_tw_together) (pc := 69) dX11_together_69 (by decide) ?_
      refine x_iald (μ := mu_tw_together) (pc := 71) dX11_together_71 (hM20.a1).2.1 (hM20.a1).2.2 (fun hr21 => ?_)
      refine x_w2 ?_
      refine x_icmp_ge (μ := mu_tw_together) (pc := 72) (tgt := 103) dX11_together_72 rfl (w32_rng _) hr21 ?_ ?_
      · exact okj_tw_together_l43_j103 hdp hM20 hv1 hv2 hv3 ih hK
      · refine x_iload_n (μ := mu_tw_together) (pc := 75) 3 dX11_together_75 rfl ?_
        refine x_bipush (μ := mu_tw_together) (pc := 76) dX11_together_76 (by decide) ?_
        refine x_iremc (μ := mu_tw_together) (pc := 78) dX11_together_78 hv3 (by decide) (by decide) ?_
        refine x_aload_n (μ := mu_tw_together) (pc := 79) 0 dX11_together_79 rfl ?_
        refine x_fgrE (μ := mu_tw_together) (pc := 80) fX11_2 (Or.inr ⟨_, rfl⟩) q2638 (hM20.a2).1 dX11_together_80 hM20.1 ?_
        refine x_bipush (μ := mu_tw_together) (pc := 83) dX11_together_83 (by decide) ?_
        refine x_iald (μ := mu_tw_together) (pc := 85) dX11_together_85 (hM20.a2).2.1 (hM20.a2).2.2 (fun hr22 => ?_)
        refine x_w2 ?_
        refine x_icmp_ge (μ := mu_tw_together) (pc := 86) (tgt := 103) dX11_together_86 rfl (w32_rng _) hr22 ?_ ?_
        · exact okj_tw_together_l43_j103 hdp hM20 hv1 hv2 hv3 ih hK
        · refine x_aload_n (μ := mu_tw_together) (pc := 89) 0 dX11_together_89 rfl ?_
          refine x_iload_n (μ := mu_tw_together) (pc := 90) 1 dX11_together_90 rfl ?_
          refine x_iload_n (μ := mu_tw_together) (pc := 91) 2 dX11_together_91 rfl ?_
          refine x_iload_n (μ := mu_tw_together) (pc := 92) 3 dX11_together_92 rfl ?_
          refine x_bipush (μ := mu_tw_together) (pc := 93) dX11_together_93 (by decide) ?_
          refine x_idivc (μ := mu_tw_together) (pc := 95) dX11_together_95 hv3 (by decide) (by decide) ?_
          refine x_iload_n (μ := mu_tw_together) (pc := 96) 3 dX11_together_96 rfl ?_
          refine x_bipush (μ := mu_tw_together) (pc := 97) dX11_together_97 (by decide) ?_
          refine x_iremc (μ := mu_tw_together) (pc := 99) dX11_together_99 hv3 (by decide) (by decide) ?_
          refine x_w1 ?_
          refine x_w2 ?_
          refine x_callV_mv (μ := mu_tw_together) (pc := 100) (ok_tw_newCell (ω := ω) (l := l) (d := d - 1) (by omega) hM20 hv1 hv2 (w32_rng _) (w32_rng _)) gRel_Tw gRel_Tw (fun _ q => q) q3702 q3704 qs216 q232 q3705 dX11_together_100 rfl hM20.1 hy_tw_newCell (by omega) (Nat.le_of_ble_eq_true rfl) rfl (Nat.le_of_ble_eq_true rfl) (fun x23 k24 => ?_)
          have hM25 : TM x23 h := hM20.tw k24
          exact okj_tw_together_l43_j103 hdp hM25 hv1 hv2 hv3 ih hK
def tw_together (N : Nat) (h : Nat) (v1 : Int) (v2 : Int) (σ : gMem) : Option (Int × gMem) := (tw_newLines N h v1 v2 0 σ).bind (fun x1 => if x1.1 = 0 then some ((-1), x1.2) else (tw_newLines N h v1 v2 1 (x1.2)).bind (fun x5 => if x5.1 ≠ 0 then gLet (wI (x5.2) h 98 0) (fun s9 => (tw_lineConflicts N h v1 v2 0 s9).bind (fun x12 => (tw_lineConflicts N h v1 v2 1 x12).bind (fun x15 => tw_together_l43 N h v1 v2 (fun s26 => (tw_copySheet N h 121 40 s26).bind (fun x28 => (tw_forgetSteps h x28).bind (fun x31 => gLet (wI x31 h 14 (w32 ((mI x31 h 14) + 1))) (fun s35 => some (mI s35 h 98, s35))))) N 0 x15))) else some ((-1), x5.2)))
set_option maxRecDepth 100000 in
theorem ok_tw_together {ω : gW} {l : Launch} {d : Nat} {N : Nat} {h : Nat} {σ : gMem} {v1 : Int} {v2 : Int} (hdp : 7 ≤ d) (hM : TM σ h) (hv1 : g32 v1) (hv2 : g32 v2) : gK (fun p : Int × gMem => (.inl (some (vI p.1)), p.2)) gTw ω l d mu_tw_together [vR h, vI v1, vI v2] σ (tw_together N h v1 v2 σ) := by
  refine gK.of hp_X11 (Nat.le_of_ble_eq_true rfl) ?_
  unfold tw_together
  refine x_aload_n (μ := mu_tw_together) (pc := 0) 0 dX11_together_0 rfl ?_
  refine x_iload_n (μ := mu_tw_together) (pc := 1) 1 dX11_together_1 rfl ?_
  refine x_iload_n (μ := mu_tw_together) (pc := 2) 2 dX11_together_2 rfl ?_
  refine x_iconst (μ := mu_tw_together) (pc := 3) dX11_together_3 ?_
  refine x_callV_mi (μ := mu_tw_together) (pc := 4) (ok_tw_newLines (ω := ω) (l := l) (d := d - 1) (by omega) hM hv1 hv2 (by decide)) gRel_Tw gRel_Tw (fun _ q => q) q3661 q3663 qs206 q232 q3664 dX11_together_4 rfl hM.1 hy_tw_newLines (by omega) (Nat.le_of_ble_eq_true rfl) rfl (Nat.le_of_ble_eq_true rfl) (fun x1 k3 hr2 => ?_)
  have hM4 : TM (x1.2) h := hM.tw k3
  refine x_if_eq (μ := mu_tw_together) (pc := 7) (tgt := 20) dX11_together_7 rfl hr2 ?_ ?_
  · refine x_iconst (μ := mu_tw_together) (pc := 20) dX11_together_20 ?_
    exact x_iret (μ := mu_tw_together) (pc := 21) dX11_together_21 rfl rfl (gRel_Tw.1 _) (show g32 (-1) from (by decide))
  · refine x_aload_n (μ := mu_tw_together) (pc := 10) 0 dX11_together_10 rfl ?_
    refine x_iload_n (μ := mu_tw_together) (pc := 11) 1 dX11_together_11 rfl ?_
    refine x_iload_n (μ := mu_tw_together) (pc := 12) 2 dX11_together_12 rfl ?_
    refine x_iconst (μ := mu_tw_together) (pc := 13) dX11_together_13 ?_
    refine x_callV_mi (μ := mu_tw_together) (pc := 14) (ok_tw_newLines (ω := ω) (l := l) (d := d - 1) (by omega) hM4 hv1 hv2 (by decide)) gRel_Tw gRel_Tw (fun _ q => q) q3661 q3663 qs206 q232 q3664 dX11_together_14 rfl hM4.1 hy_tw_newLines (by omega) (Nat.le_of_ble_eq_true rfl) rfl (Nat.le_of_ble_eq_true rfl) (fun x5 k7 hr6 => ?_)
    have hM8 : TM (x5.2) h := hM4.tw k7
    refine x_if_ne (μ := mu_tw_together) (pc := 17) (tgt := 22) dX11_together_17 rfl hr6 ?_ ?_
    · refine x_aload_n (μ := mu_tw_together) (pc := 22) 0 dX11_together_22 rfl ?_
      refine x_iconst (μ := mu_tw_together) (pc := 23) dX11_together_23 ?_
      refine x_fpi (μ := mu_tw_together) (pc := 24) fX11_98 q2734 dX11_together_24 hM8.1 (fun _ q => gTw_wI q) ?_
      refine x_let (fun s9 e10 => ?_)
      have hM11 := TM.eI e10 hM8
      refine x_aload_n (μ := mu_tw_together) (pc := 27) 0 dX11_together_27 rfl ?_
      refine x_iload_n (μ := mu_tw_together) (pc := 28) 1 dX11_together_28 rfl ?_
      refine x_iload_n (μ := mu_tw_together) (pc := 29) 2 dX11_together_29 rfl ?_
      refine x_iconst (μ := mu_tw_together) (pc := 30) dX11_together_30 ?_
      refine x_callV_mv (μ := mu_tw_together) (pc := 31) (ok_tw_lineConflicts (ω := ω) (l := l) (d := d - 1) (by omega) hM11 hv1 hv2 (by decide)) gRel_Tw gRel_Tw (fun _ q => q) q3693 q3695 qs214 q232 q3696 dX11_together_31 rfl hM11.1 hy_tw_lineConflicts (by omega) (Nat.le_of_ble_eq_true rfl) rfl (Nat.le_of_ble_eq_true rfl) (fun x12 k13 => ?_)
      have hM14 : TM x12 h := hM11.tw k13
      refine x_aload_n (μ := mu_tw_together) (pc := 34) 0 dX11_together_34 rfl ?_
      refine x_iload_n (μ := mu_tw_together) (pc := 35) 1 dX11_together_35 rfl ?_
      refine x_iload_n (μ := mu_tw_together) (pc := 36) 2 dX11_together_36 rfl ?_
      refine x_iconst (μ := mu_tw_together) (pc := 37) dX11_together_37 ?_
      refine x_callV_mv (μ := mu_tw_together) (pc := 38) (ok_tw_lineConflicts (ω := ω) (l := l) (d := d - 1) (by omega) hM14 hv1 hv2 (by decide)) gRel_Tw gRel_Tw (fun _ q => q) q3693 q3695 qs214 q232 q3696 dX11_together_38 rfl hM14.1 hy_tw_lineConflicts (by omega) (Nat.le_of_ble_eq_true rfl) rfl (Nat.le_of_ble_eq_true rfl) (fun x15 k16 => ?_)
      have hM17 : TM x15 h := hM14.tw k16
      refine x_iconst (μ := mu_tw_together) (pc := 41) dX11_together_41 ?_
      refine x_istore_n (μ := mu_tw_together) (pc := 42) (lv' := [(3, vI 0), (0, vR h), (1, vI v1), (2, vI v2)]) dX11_together_42 rfl (by decide) rfl ?_
      refine x_loc (lv' := [(0, vR h), (1, vI v1), (2, vI v2), (3, vI 0)]) [1, 2, 3, 0] rfl ?_
      refine okl_tw_together_l43 hdp hv1 hv2 (fun s26 hM27 => ?_) N 0 x15 (by decide) hM17
      refine x_aload_n (μ := mu_tw_together) (pc := 109) 0 dX11_together_109 rfl ?_
      refine x_bipush (μ := mu_tw_together) (pc := 110) dX11_together_110 (by decide) ?_
      refine x_bipush (μ := mu_tw_together) (pc := 112) dX11_together_112 (by decide) ?_
      refine x_callV_mv (μ := mu_tw_together) (pc := 114) (ok_tw_copySheet (ω := ω) (l := l) (d := d - 1) (by omega) hM27 (by decide) (by decide)) gRel_Tw gRel_Tw (fun _ q => q) q2632 q2634 qs77 q232 q2635 dX11_together_114 rfl hM27.1 hy_tw_copySheet (by omega) (Nat.le_of_ble_eq_true rfl) rfl (Nat.le_of_ble_eq_true rfl) (fun x28 k29 => ?_)
      have hM30 : TM x28 h := hM27.tw k29
      refine x_aload_n (μ := mu_tw_together) (pc := 117) 0 dX11_together_117 rfl ?_
      refine x_callV_mv (μ := mu_tw_together) (pc := 118) (ok_tw_forgetSteps (ω := ω) (l := l) (d := d - 1) (by omega) hM30 ) gRel_Tw gRel_Tw (fun _ q => q) q3632 q3634 qs202 q232 q3635 dX11_together_118 rfl hM30.1 hy_tw_forgetSteps (by omega) (Nat.le_of_ble_eq_true rfl) rfl (Nat.le_of_ble_eq_true rfl) (fun x31 k32 => ?_)
      have hM33 : TM x31 h := hM30.tw k32
      refine x_aload_n (μ := mu_tw_together) (pc := 121) 0 dX11_together_121 rfl ?_
      refine x_dup (μ := mu_tw_together) (pc := 122) dX11_together_122 rfl ?_
      refine x_fgi (μ := mu_tw_together) (pc := 123) fX11_14 q2650 dX11_together_123 hM33.1 (fun hr34 => ?_)
      refine x_iconst (μ := mu_tw_together) (pc := 126) dX11_together_126 ?_
      refine x_iadd (μ := mu_tw_together) (pc := 127) dX11_together_127 ?_
      refine x_w1 ?_
      refine x_fpi (μ := mu_tw_together) (pc := 128) fX11_14 q2650 dX11_together_128 hM33.1 (fun _ q => gTw_wI q) ?_
      refine x_let (fun s35 e36 => ?_)
      have hM37 := TM.eI e36 hM33
      refine x_aload_n (μ := mu_tw_together) (pc := 131) 0 dX11_together_131 rfl ?_
      refine x_fgi (μ := mu_tw_together) (pc := 132) fX11_98 q2734 dX11_together_132 hM37.1 (fun hr38 => ?_)
      exact x_iret (μ := mu_tw_together) (pc := 135) dX11_together_135 rfl rfl (gRel_Tw.1 _) (show g32 (mI s35 h 98) from hr38)
    · refine x_iconst (μ := mu_tw_together) (pc := 20) dX11_together_20 ?_
      exact x_iret (μ := mu_tw_together) (pc := 21) dX11_together_21 rfl rfl (gRel_Tw.1 _) (show g32 (-1) from (by decide))
def tw_pick (N : Nat) (h : Nat) (v1 : Int) (σ : gMem) : Option (Int × gMem) := gLet (wI σ h 0 0) (fun s1 => (tw_in v1 1 (w32 ((mI s1 h 8) - 1)) s1).bind (fun x5 => if x5 ≠ 0 then (tw_bars N h 2 s1).bind (fun x7 => if x7 ≤ 0 then if 0 ≤ v1 ∧ v1 < ((40 : Nat) : Int) then (tw_together N h v1 (mI s1 (h + 6) v1.toNat) s1).bind (fun x10 => if 0 ≤ x10.1 then some (x10.1, x10.2) else (tw_throwing h 3 (x10.2)).bind (fun x14 => some (x14.1, x14.2))) else none else (tw_bars N h 2 s1).bind (fun x18 => (tw_throwing h x18 s1).bind (fun x20 => some (x20.1, x20.2)))) else (tw_throwing h 1 s1).bind (fun x24 => some (x24.1, x24.2))))
set_option maxRecDepth 100000 in
theorem ok_tw_pick {ω : gW} {l : Launch} {d : Nat} {N : Nat} {h : Nat} {σ : gMem} {v1 : Int} (hdp : 8 ≤ d) (hM : TM σ h) (hv1 : g32 v1) : gK (fun p : Int × gMem => (.inl (some (vI p.1)), p.2)) gTw ω l d mu_tw_pick [vR h, vI v1] σ (tw_pick N h v1 σ) := by
  refine gK.of hp_X11 (Nat.le_of_ble_eq_true rfl) ?_
  unfold tw_pick
  refine x_aload_n (μ := mu_tw_pick) (pc := 0) 0 dX11_pick_0 rfl ?_
  refine x_iconst (μ := mu_tw_pick) (pc := 1) dX11_pick_1 ?_
  refine x_fpi (μ := mu_tw_pick) (pc := 2) fX11_0 q2636 dX11_pick_2 hM.1 (fun _ q => gTw_wI q) ?_
  refine x_let (fun s1 e2 => ?_)
  have hM3 := TM.eI e2 hM
  refine x_iload_n (μ := mu_tw_pick) (pc := 5) 1 dX11_pick_5 rfl ?_
  refine x_iconst (μ := mu_tw_pick) (pc := 6) dX11_pick_6 ?_
  refine x_aload_n (μ := mu_tw_pick) (pc := 7) 0 dX11_pick_7 rfl ?_
  refine x_fgi (μ := mu_tw_pick) (pc := 8) fX11_8 q2644 dX11_pick_8 hM3.1 (fun hr4 => ?_)
  refine x_iconst (μ := mu_tw_pick) (pc := 11) dX11_pick_11 ?_
  refine x_isub (μ := mu_tw_pick) (pc := 12) dX11_pick_12 ?_
  refine x_w1 ?_
  refine x_callS_pi (μ := mu_tw_pick) (pc := 13) (ok_tw_in (ω := ω) (l := l) (d := d - 1) (by omega) hv1 (by decide) (w32_rng _)) gRel_Tw gRel_Tw (fun _ q => q) q2980 q2981 q232 q2982 dX11_pick_13 hy_tw_in (by omega) (Nat.le_of_ble_eq_true rfl) rfl (Nat.le_of_ble_eq_true rfl) (fun x5 hr6 => ?_)
  refine x_if_ne (μ := mu_tw_pick) (pc := 16) (tgt := 25) dX11_pick_16 rfl hr6 ?_ ?_
  · refine x_aload_n (μ := mu_tw_pick) (pc := 25) 0 dX11_pick_25 rfl ?_
    refine x_iconst (μ := mu_tw_pick) (pc := 26) dX11_pick_26 ?_
    refine x_callV_pi (μ := mu_tw_pick) (pc := 27) (ok_tw_bars (ω := ω) (l := l) (d := d - 1) (by omega) hM3 (by decide)) gRel_Tw gRel_Tw (fun _ q => q) q3652 q3654 qs204 q232 q3655 dX11_pick_27 rfl hM3.1 hy_tw_bars (by omega) (Nat.le_of_ble_eq_true rfl) rfl (Nat.le_of_ble_eq_true rfl) (fun x7 hr8 => ?_)
    refine x_if_le (μ := mu_tw_pick) (pc := 30) (tgt := 43) dX11_pick_30 rfl hr8 ?_ ?_
    · refine x_aload_n (μ := mu_tw_pick) (pc := 43) 0 dX11_pick_43 rfl ?_
      refine x_iload_n (μ := mu_tw_pick) (pc := 44) 1 dX11_pick_44 rfl ?_
      refine x_aload_n (μ := mu_tw_pick) (pc := 45) 0 dX11_pick_45 rfl ?_
      refine x_fgrE (μ := mu_tw_pick) (pc := 46) fX11_9 (Or.inr ⟨_, rfl⟩) q2645 (hM3.a9).1 dX11_pick_46 hM3.1 ?_
      refine x_iload_n (μ := mu_tw_pick) (pc := 49) 1 dX11_pick_49 rfl ?_
      refine x_iald (μ := mu_tw_pick) (pc := 50) dX11_pick_50 (hM3.a9).2.1 (hM3.a9).2.2 (fun hr9 => ?_)
      refine x_callV_mi (μ := mu_tw_pick) (pc := 51) (ok_tw_together (ω := ω) (l := l) (d := d - 1) (by omega) hM3 hv1 hr9) gRel_Tw gRel_Tw (fun _ q => q) q3657 q3659 qs205 q232 q3660 dX11_pick_51 rfl hM3.1 hy_tw_together (by omega) (Nat.le_of_ble_eq_true rfl) rfl (Nat.le_of_ble_eq_true rfl) (fun x10 k12 hr11 => ?_)
      have hM13 : TM (x10.2) h := hM3.tw k12
      refine x_istore_n (μ := mu_tw_pick) (pc := 54) (lv' := [(2, vI (x10.1)), (0, vR h), (1, vI v1)]) dX11_pick_54 rfl (by decide) rfl ?_
      refine x_iload_n (μ := mu_tw_pick) (pc := 55) 0 dX11_pick_55 rfl ?_
      refine x_if_ge (μ := mu_tw_pick) (pc := 56) (tgt := 67) dX11_pick_56 rfl hr11 ?_ ?_
      · refine x_iload_n (μ := mu_tw_pick) (pc := 67) 0 dX11_pick_67 rfl ?_
        exact x_iret (μ := mu_tw_pick) (pc := 68) dX11_pick_68 rfl rfl (gRel_Tw.1 _) (show g32 (x10.1) from hr11)
      · refine x_aload_n (μ := mu_tw_pick) (pc := 59) 1 dX11_pick_59 rfl ?_
        refine x_iconst (μ := mu_tw_pick) (pc := 60) dX11_pick_60 ?_
        refine x_callV_mi (μ := mu_tw_pick) (pc := 61) (ok_tw_throwing (ω := ω) (l := l) (d := d - 1) (by omega) hM13 (by decide)) gRel_Tw gRel_Tw (fun _ q => q) q2960 q2962 qs78 q232 q2963 dX11_pick_61 rfl hM13.1 hy_tw_throwing (by omega) (Nat.le_of_ble_eq_true rfl) rfl (Nat.le_of_ble_eq_true rfl) (fun x14 k16 hr15 => ?_)
        have hM17 : TM (x14.2) h := hM13.tw k16
        refine x_goto (μ := mu_tw_pick) (pc := 64) (tgt := 68) dX11_pick_64 rfl ?_
        exact x_iret (μ := mu_tw_pick) (pc := 68) dX11_pick_68 rfl rfl (gRel_Tw.1 _) (show g32 (x14.1) from hr15)
    · refine x_aload_n (μ := mu_tw_pick) (pc := 33) 0 dX11_pick_33 rfl ?_
      refine x_aload_n (μ := mu_tw_pick) (pc := 34) 0 dX11_pick_34 rfl ?_
      refine x_iconst (μ := mu_tw_pick) (pc := 35) dX11_pick_35 ?_
      refine x_callV_pi (μ := mu_tw_pick) (pc := 36) (ok_tw_bars (ω := ω) (l := l) (d := d - 1) (by omega) hM3 (by decide)) gRel_Tw gRel_Tw (fun _ q => q) q3652 q3654 qs204 q232 q3655 dX11_pick_36 rfl hM3.1 hy_tw_bars (by omega) (Nat.le_of_ble_eq_true rfl) rfl (Nat.le_of_ble_eq_true rfl) (fun x18 hr19 => ?_)
      refine x_callV_mi (μ := mu_tw_pick) (pc := 39) (ok_tw_throwing (ω := ω) (l := l) (d := d - 1) (by omega) hM3 hr19) gRel_Tw gRel_Tw (fun _ q => q) q2960 q2962 qs78 q232 q2963 dX11_pick_39 rfl hM3.1 hy_tw_throwing (by omega) (Nat.le_of_ble_eq_true rfl) rfl (Nat.le_of_ble_eq_true rfl) (fun x20 k22 hr21 => ?_)
      have hM23 : TM (x20.2) h := hM3.tw k22
      exact x_iret (μ := mu_tw_pick) (pc := 42) dX11_pick_42 rfl rfl (gRel_Tw.1 _) (show g32 (x20.1) from hr21)
  · refine x_aload_n (μ := mu_tw_pick) (pc := 19) 0 dX11_pick_19 rfl ?_
    refine x_iconst (μ := mu_tw_pick) (pc := 20) dX11_pick_20 ?_
    refine x_callV_mi (μ := mu_tw_pick) (pc := 21) (ok_tw_throwing (ω := ω) (l := l) (d := d - 1) (by omega) hM3 (by decide)) gRel_Tw gRel_Tw (fun _ q => q) q2960 q2962 qs78 q232 q2963 dX11_pick_21 rfl hM3.1 hy_tw_throwing (by omega) (Nat.le_of_ble_eq_true rfl) rfl (Nat.le_of_ble_eq_true rfl) (fun x24 k26 hr25 => ?_)
    have hM27 : TM (x24.2) h := hM3.tw k26
    exact x_iret (μ := mu_tw_pick) (pc := 24) dX11_pick_24 rfl rfl (gRel_Tw.1 _) (show g32 (x24.1) from hr25)
def x25_weave_l72 (N : Nat) (v0 : Nat) (v1 : Nat) (v2 : Nat) (v3 : Int) (K : gMem → Option (Int × gMem)) : Nat → Int → gMem → Option (Int × gMem)
  | 0, _, _ => none
  | n + 1, v4, s => if mT s v2 = 100 then if w32 (mN s v2 : Int) ≤ v4 then K s else if mT s v0 = 23 then if mT s (mR s v0 3) = 8 then if mT s (mR s (mR s v0 3) 2) = 111 then if 0 ≤ v3 ∧ v3 < (mN s (mR s (mR s v0 3) 2) : Int) then if mT s v1 = 100 then if 0 ≤ v3 ∧ v3 < (mN s v1 : Int) then if 0 ≤ v4 ∧ v4 < (mN s v2 : Int) then (x25_cell N v0 (mI s v1 v3.toNat) (mI s v2 v4.toNat) s).bind (fun x27 => if mT (x27.2) (mR s (mR s (mR s v0 3) 2) v3.toNat) = 110 then if x27.1 = 0 ∨ gAsg 10 (mT (x27.2) (x27.1)) = true then if 0 ≤ v4 ∧ v4 < (mN (x27.2) (mR s (mR s (mR s v0 3) 2) v3.toNat) : Int) then gLet (wR (x27.2) (mR s (mR s (mR s v0 3) 2) v3.toNat) v4.toNat (x27.1)) (fun s31 => x25_weave_l72 N v0 v1 v2 v3 K n (w32 (v4 + 1)) s31) else none else none else none) else none else none else none else none else none else none else none else none
set_option maxRecDepth 100000 in
theorem okl_x25_weave_l72 {ω : gW} {l : Launch} {d : Nat} {N : Nat} {σ0 : gMem} {v0 : Nat} {v1 : Nat} {v2 : Nat} {v3 : Int} {K : gMem → Option (Int × gMem)} (hl : l.stackTraces = false) (hdp : 71 ≤ d) (hv3 : g32 v3) (hK : ∀ (s : gMem) , GG (fun p : Int × gMem => (.inl (some (vI p.1)), p.2)) gE ω l d mu_x25_weave σ0 108 [(0, vR v0), (1, vR v1), (2, vR v2), (3, vI v3)] [] s (K s)) : ∀ (n : Nat) (v4 : Int) (s : gMem) , g32 v4 → GG (fun p : Int × gMem => (.inl (some (vI p.1)), p.2)) gE ω l d mu_x25_weave σ0 72 [(0, vR v0), (1, vR v1), (2, vR v2), (3, vI v3), (4, vI v4)] [] s (x25_weave_l72 N v0 v1 v2 v3 K n v4 s) := by
  intro n
  induction n with
  | zero => intros; exact x_none
  | succ n ih =>
    intro v4 s hv4
    unfold x25_weave_l72
    refine x_iload (μ := mu_x25_weave) (pc := 72) 4 dX25_weave_72 rfl ?_
    refine x_aload_n (μ := mu_x25_weave) (pc := 74) 2 dX25_weave_74 rfl ?_
    refine x_if (fun hT20 => ?_)
    refine x_len (μ := mu_x25_weave) (pc := 75) 0 (fun _ => rfl) dX25_weave_75 hT20 ?_
    refine x_w1 ?_
    refine x_icmp_ge (μ := mu_x25_weave) (pc := 76) (tgt := 108) dX25_weave_76 rfl hv4 (w32_rng _) ?_ ?_
    · refine x_loc (lv' := [(0, vR v0), (1, vR v1), (2, vR v2), (3, vI v3)]) [0, 1, 2, 3] rfl ?_
      exact hK s
    · refine x_aload_n (μ := mu_x25_weave) (pc := 79) 0 dX25_weave_79 rfl ?_
      refine x_if (fun hT21 => ?_)
      refine x_fgr (μ := mu_x25_weave) (pc := 80) fX25_3 (by first | exact Or.inl ⟨_, rfl⟩ | exact Or.inr ⟨_, rfl⟩) q2473 dX25_weave_80 hT21 ?_
      refine x_if (fun hT22 => ?_)
      refine x_fgrN (μ := mu_x25_weave) (pc := 83) fX9_2 (by first | exact Or.inl ⟨_, rfl⟩ | exact Or.inr ⟨_, rfl⟩) q581 dX25_weave_83 hT22 ?_
      refine x_iload_n (μ := mu_x25_weave) (pc := 86) 3 dX25_weave_86 rfl ?_
      refine x_if (fun hT23 => ?_)
      refine x_aald (μ := mu_x25_weave) (pc := 87) 11 (fun _ => rfl) rfl rfl dX25_weave_87 hT23 rfl ?_
      refine x_iload (μ := mu_x25_weave) (pc := 88) 4 dX25_weave_88 rfl ?_
      refine x_aload_n (μ := mu_x25_weave) (pc := 90) 0 dX25_weave_90 rfl ?_
      refine x_aload_n (μ := mu_x25_weave) (pc := 91) 1 dX25_weave_91 rfl ?_
      refine x_iload_n (μ := mu_x25_weave) (pc := 92) 3 dX25_weave_92 rfl ?_
      refine x_if (fun hT24 => ?_)
      refine x_iald (μ := mu_x25_weave) (pc := 93) dX25_weave_93 hT24 rfl (fun hr25 => ?_)
      refine x_aload_n (μ := mu_x25_weave) (pc := 94) 2 dX25_weave_94 rfl ?_
      refine x_iload (μ := mu_x25_weave) (pc := 95) 4 dX25_weave_95 rfl ?_
      refine x_iald (μ := mu_x25_weave) (pc := 97) dX25_weave_97 hT20 rfl (fun hr26 => ?_)
      refine x_callV_mr (μ := mu_x25_weave) (pc := 98) (ok_x25_cell (ω := ω) (l := l) (d := d - 1) hl (by omega) hr25 hr26) gRel_E gRel_E (fun _ q => q) q2566 q2568 qs72 q266 q2569 dX25_weave_98 rfl hT21 hy_x25_cell (by omega) (Nat.le_of_ble_eq_true rfl) rfl (Nat.le_of_ble_eq_true rfl) (fun x27 k28 => ?_)
      refine x_if (fun hT29 => ?_)
      refine x_if (fun hz30 => ?_)
      refine x_aast (μ := mu_x25_weave) (pc := 101) 10 ⟨fun _ => rfl, rfl, rfl⟩ dX25_weave_101 hT29 rfl hz30 (fun _ _ q => gE_wR q) ?_
      refine x_let (fun s31 e32 => ?_)
      refine x_iincw (μ := mu_x25_weave) (pc := 102) (lv' := [(4, vI (w32 (v4 + 1))), (0, vR v0), (1, vR v1), (2, vR v2), (3, vI v3)]) 4 dX25_weave_102 rfl (by decide) rfl ?_
      refine x_goto (μ := mu_x25_weave) (pc := 105) (tgt := 72) dX25_weave_105 rfl ?_
      refine x_loc (lv' := [(0, vR v0), (1, vR v1), (2, vR v2), (3, vI v3), (4, vI (w32 (v4 + 1)))]) [1, 2, 3, 4, 0] rfl ?_
      exact ih (w32 (v4 + 1)) s31 (w32_rng _)
def x25_weave_l63 (N : Nat) (v0 : Nat) (v1 : Nat) (v2 : Nat) (K : gMem → Option (Int × gMem)) : Nat → Int → gMem → Option (Int × gMem)
  | 0, _, _ => none
  | n + 1, v3, s => if mT s v1 = 100 then if w32 (mN s v1 : Int) ≤ v3 then K s else x25_weave_l72 N v0 v1 v2 v3 (fun s33 => x25_weave_l63 N v0 v1 v2 K n (w32 (v3 + 1)) s33) N 0 s else none
set_option maxRecDepth 100000 in
theorem okl_x25_weave_l63 {ω : gW} {l : Launch} {d : Nat} {N : Nat} {σ0 : gMem} {v0 : Nat} {v1 : Nat} {v2 : Nat} {K : gMem → Option (Int × gMem)} (hl : l.stackTraces = false) (hdp : 71 ≤ d) (hK : ∀ (s : gMem) , GG (fun p : Int × gMem => (.inl (some (vI p.1)), p.2)) gE ω l d mu_x25_weave σ0 114 [] [] s (K s)) : ∀ (n : Nat) (v3 : Int) (s : gMem) , g32 v3 → GG (fun p : Int × gMem => (.inl (some (vI p.1)), p.2)) gE ω l d mu_x25_weave σ0 63 [(0, vR v0), (1, vR v1), (2, vR v2), (3, vI v3)] [] s (x25_weave_l63 N v0 v1 v2 K n v3 s) := by
  intro n
  induction n with
  | zero => intros; exact x_none
  | succ n ih =>
    intro v3 s hv3
    unfold x25_weave_l63
    refine x_iload_n (μ := mu_x25_weave) (pc := 63) 3 dX25_weave_63 rfl ?_
    refine x_aload_n (μ := mu_x25_weave) (pc := 64) 1 dX25_weave_64 rfl ?_
    refine x_if (fun hT19 => ?_)
    refine x_len (μ := mu_x25_weave) (pc := 65) 0 (fun _ => rfl) dX25_weave_65 hT19 ?_
    refine x_w1 ?_
    refine x_icmp_ge (μ := mu_x25_weave) (pc := 66) (tgt := 114) dX25_weave_66 rfl hv3 (w32_rng _) ?_ ?_
    · refine x_loc (lv' := []) [] rfl ?_
      exact hK s
    · refine x_iconst (μ := mu_x25_weave) (pc := 69) dX25_weave_69 ?_
      refine x_istore (μ := mu_x25_weave) (pc := 70) (lv' := [(4, vI 0), (0, vR v0), (1, vR v1), (2, vR v2), (3, vI v3)]) dX25_weave_70 (by decide) rfl ?_
      refine x_loc (lv' := [(0, vR v0), (1, vR v1), (2, vR v2), (3, vI v3), (4, vI 0)]) [1, 2, 3, 4, 0] rfl ?_
      refine okl_x25_weave_l72 hl hdp hv3 (fun s33 => ?_) N 0 s (by decide)
      refine x_iincw (μ := mu_x25_weave) (pc := 108) (lv' := [(3, vI (w32 (v3 + 1))), (0, vR v0), (1, vR v1), (2, vR v2)]) 3 dX25_weave_108 rfl (by decide) rfl ?_
      refine x_goto (μ := mu_x25_weave) (pc := 111) (tgt := 63) dX25_weave_111 rfl ?_
      refine x_loc (lv' := [(0, vR v0), (1, vR v1), (2, vR v2), (3, vI (w32 (v3 + 1)))]) [1, 2, 3, 0] rfl ?_
      exact ih (w32 (v3 + 1)) s33 (w32_rng _)
def x25_weave (N : Nat) (v0 : Nat) (σ : gMem) : Option (Int × gMem) := if mT σ v0 = 23 then (x25_marks N v0 0 σ).bind (fun x2 => (x25_marks N v0 1 (x2.2)).bind (fun x4 => if mT (x4.2) (x2.1) = 100 then if w32 (mN (x4.2) (x2.1) : Int) = 0 then some (0, x4.2) else if mT (x4.2) (x4.1) = 100 then if w32 (mN (x4.2) (x4.1) : Int) = 0 then some (0, x4.2) else if 32 < w32 (mN (x4.2) (x2.1) : Int) then some (0, x4.2) else if w32 (mN (x4.2) (x4.1) : Int) ≤ 10 then gLet (wN (x4.2) 8 3) (fun s9 => (x9_init (mZ (x4.2)) (x2.1) (x4.1) s9).bind (fun x11 => gLet (wR x11 v0 3 (mZ (x4.2))) (fun s13 => (x25_tellKept N v0 0 s13).bind (fun x15 => (x25_tellKept N v0 1 x15).bind (fun x17 => x25_weave_l63 N v0 (x2.1) (x4.1) (fun s34 => some (1, s34)) N 0 x17))))) else some (0, x4.2) else none else none)) else none
set_option maxRecDepth 100000 in
theorem ok_x25_weave {ω : gW} {l : Launch} {d : Nat} {N : Nat} {σ : gMem} {v0 : Nat} (hl : l.stackTraces = false) (hdp : 71 ≤ d) : gK (fun p : Int × gMem => (.inl (some (vI p.1)), p.2)) gE ω l d mu_x25_weave [vR v0] σ (x25_weave N v0 σ) := by
  refine gK.of hp_X25 (Nat.le_of_ble_eq_true rfl) ?_
  unfold x25_weave
  refine x_aload_n (μ := mu_x25_weave) (pc := 0) 0 dX25_weave_0 rfl ?_
  refine x_iconst (μ := mu_x25_weave) (pc := 1) dX25_weave_1 ?_
  refine x_if (fun hT1 => ?_)
  refine x_callV_mr (μ := mu_x25_weave) (pc := 2) (ok_x25_marks (ω := ω) (l := l) (d := d - 1) hl (by omega) (by decide)) gRel_E gRel_E (fun _ q => q) q2496 q2498 qs66 q266 q2499 dX25_weave_2 rfl hT1 hy_x25_marks (by omega) (Nat.le_of_ble_eq_true rfl) rfl (Nat.le_of_ble_eq_true rfl) (fun x2 k3 => ?_)
  refine x_astore_n (μ := mu_x25_weave) (pc := 5) (lv' := [(1, vR (x2.1)), (0, vR v0)]) dX25_weave_5 rfl (by decide) rfl ?_
  refine x_aload_n (μ := mu_x25_weave) (pc := 6) 1 dX25_weave_6 rfl ?_
  refine x_iconst (μ := mu_x25_weave) (pc := 7) dX25_weave_7 ?_
  refine x_callV_mr (μ := mu_x25_weave) (pc := 8) (ok_x25_marks (ω := ω) (l := l) (d := d - 1) hl (by omega) (by decide)) gRel_E gRel_E (fun _ q => q) q2496 q2498 qs66 q266 q2499 dX25_weave_8 rfl (gT_E k3 hT1 (by decide)) hy_x25_marks (by omega) (Nat.le_of_ble_eq_true rfl) rfl (Nat.le_of_ble_eq_true rfl) (fun x4 k5 => ?_)
  refine x_astore_n (μ := mu_x25_weave) (pc := 11) (lv' := [(2, vR (x4.1)), (1, vR (x2.1)), (0, vR v0)]) dX25_weave_11 rfl (by decide) rfl ?_
  refine x_aload_n (μ := mu_x25_weave) (pc := 12) 1 dX25_weave_12 rfl ?_
  refine x_if (fun hT6 => ?_)
  refine x_len (μ := mu_x25_weave) (pc := 13) 0 (fun _ => rfl) dX25_weave_13 hT6 ?_
  refine x_w1 ?_
  refine x_if_eq (μ := mu_x25_weave) (pc := 14) (tgt := 36) dX25_weave_14 rfl (w32_rng _) ?_ ?_
  · refine x_iconst (μ := mu_x25_weave) (pc := 36) dX25_weave_36 ?_
    exact x_zret (μ := mu_x25_weave) (pc := 37) dX25_weave_37 rfl (by decide) rfl (gRel_E.1 _) (show g32 0 from (by decide))
  · refine x_aload_n (μ := mu_x25_weave) (pc := 17) 0 dX25_weave_17 rfl ?_
    refine x_if (fun hT7 => ?_)
    refine x_len (μ := mu_x25_weave) (pc := 18) 0 (fun _ => rfl) dX25_weave_18 hT7 ?_
    refine x_w1 ?_
    refine x_if_eq (μ := mu_x25_weave) (pc := 19) (tgt := 36) dX25_weave_19 rfl (w32_rng _) ?_ ?_
    · refine x_iconst (μ := mu_x25_weave) (pc := 36) dX25_weave_36 ?_
      exact x_zret (μ := mu_x25_weave) (pc := 37) dX25_weave_37 rfl (by decide) rfl (gRel_E.1 _) (show g32 0 from (by decide))
    · refine x_aload_n (μ := mu_x25_weave) (pc := 22) 1 dX25_weave_22 rfl ?_
      refine x_len (μ := mu_x25_weave) (pc := 23) 0 (fun _ => rfl) dX25_weave_23 hT6 ?_
      refine x_bipush (μ := mu_x25_weave) (pc := 24) dX25_weave_24 (by decide) ?_
      refine x_w2 ?_
      refine x_icmp_gt (μ := mu_x25_weave) (pc := 26) (tgt := 36) dX25_weave_26 rfl (w32_rng _) (by decide) ?_ ?_
      · refine x_iconst (μ := mu_x25_weave) (pc := 36) dX25_weave_36 ?_
        exact x_zret (μ := mu_x25_weave) (pc := 37) dX25_weave_37 rfl (by decide) rfl (gRel_E.1 _) (show g32 0 from (by decide))
      · refine x_aload_n (μ := mu_x25_weave) (pc := 29) 0 dX25_weave_29 rfl ?_
        refine x_len (μ := mu_x25_weave) (pc := 30) 0 (fun _ => rfl) dX25_weave_30 hT7 ?_
        refine x_bipush (μ := mu_x25_weave) (pc := 31) dX25_weave_31 (by decide) ?_
        refine x_w2 ?_
        refine x_icmp_le (μ := mu_x25_weave) (pc := 33) (tgt := 38) dX25_weave_33 rfl (w32_rng _) (by decide) ?_ ?_
        · refine x_aload_n (μ := mu_x25_weave) (pc := 38) 2 dX25_weave_38 rfl ?_
          refine x_ok (fun ok8 => ?_)
          refine x_new (μ := mu_x25_weave) (pc := 39) (ci := 7) gk_X9 gd_X9 q2526 q559 q230 dX25_weave_39 ?_
          refine x_let (fun s9 e10 => ?_)
          refine x_dup (μ := mu_x25_weave) (pc := 42) dX25_weave_42 rfl ?_
          refine x_aload_n (μ := mu_x25_weave) (pc := 43) 1 dX25_weave_43 rfl ?_
          refine x_aload_n (μ := mu_x25_weave) (pc := 44) 0 dX25_weave_44 rfl ?_
          refine x_callI_mv (μ := mu_x25_weave) (pc := 45) (ok_x9_init (ω := ω) (l := l) (d := d - 1) hl (by omega) ) gRel_E gRel_E (fun _ q => q) q2527 q561 q230 q562 dX25_weave_45 (gT_ne (gT_new e10)) rfl hy_x9_init (by omega) (Nat.le_of_ble_eq_true rfl) rfl (Nat.le_of_ble_eq_true rfl) (fun x11 k12 => ?_)
          refine x_fpr (μ := mu_x25_weave) (pc := 48) fX25_3 q2473 (by first | exact Or.inl ⟨_, rfl⟩ | exact Or.inr ⟨_, rfl⟩) dX25_weave_48 (gT_E k12 (gT_N e10 ok8 (gT_E k5 (gT_E k3 hT1 (by decide)) (by decide)) (by decide)) (by decide)) (fun _ q => gE_wR q) ?_
          refine x_let (fun s13 e14 => ?_)
          refine x_aload_n (μ := mu_x25_weave) (pc := 51) 2 dX25_weave_51 rfl ?_
          refine x_iconst (μ := mu_x25_weave) (pc := 52) dX25_weave_52 ?_
          refine x_callV_mv (μ := mu_x25_weave) (pc := 53) (ok_x25_tellKept (ω := ω) (l := l) (d := d - 1) hl (by omega) (by decide)) gRel_E gRel_E (fun _ q => q) q2528 q2530 qs70 q266 q2531 dX25_weave_53 rfl (gT_R e14 (gT_E k12 (gT_N e10 ok8 (gT_E k5 (gT_E k3 hT1 (by decide)) (by decide)) (by decide)) (by decide))) hy_x25_tellKept (by omega) (Nat.le_of_ble_eq_true rfl) rfl (Nat.le_of_ble_eq_true rfl) (fun x15 k16 => ?_)
          refine x_aload_n (μ := mu_x25_weave) (pc := 56) 2 dX25_weave_56 rfl ?_
          refine x_iconst (μ := mu_x25_weave) (pc := 57) dX25_weave_57 ?_
          refine x_callV_mv (μ := mu_x25_weave) (pc := 58) (ok_x25_tellKept (ω := ω) (l := l) (d := d - 1) hl (by omega) (by decide)) gRel_E gRel_E (fun _ q => q) q2528 q2530 qs70 q266 q2531 dX25_weave_58 rfl (gT_E k16 (gT_R e14 (gT_E k12 (gT_N e10 ok8 (gT_E k5 (gT_E k3 hT1 (by decide)) (by decide)) (by decide)) (by decide))) (by decide)) hy_x25_tellKept (by omega) (Nat.le_of_ble_eq_true rfl) rfl (Nat.le_of_ble_eq_true rfl) (fun x17 k18 => ?_)
          refine x_iconst (μ := mu_x25_weave) (pc := 61) dX25_weave_61 ?_
          refine x_istore_n (μ := mu_x25_weave) (pc := 62) (lv' := [(3, vI 0), (2, vR (x4.1)), (1, vR (x2.1)), (0, vR v0)]) dX25_weave_62 rfl (by decide) rfl ?_
          refine x_loc (lv' := [(0, vR v0), (1, vR (x2.1)), (2, vR (x4.1)), (3, vI 0)]) [3, 2, 1, 0] rfl ?_
          refine okl_x25_weave_l63 hl hdp (fun s34 => ?_) N 0 x17 (by decide)
          refine x_iconst (μ := mu_x25_weave) (pc := 114) dX25_weave_114 ?_
          exact x_zret (μ := mu_x25_weave) (pc := 115) dX25_weave_115 rfl (by decide) rfl (gRel_E.1 _) (show g32 1 from (by decide))
        · refine x_iconst (μ := mu_x25_weave) (pc := 36) dX25_weave_36 ?_
          exact x_zret (μ := mu_x25_weave) (pc := 37) dX25_weave_37 rfl (by decide) rfl (gRel_E.1 _) (show g32 0 from (by decide))
def x6_call_l31_j77 (N : Nat) (W : Nat → gMem → Option gR) (v0 : Nat) (v1 : Nat) (v2 : Int) (v3 : Int) (t0 : Int) (Kh : Int → gMem → Option gR) (K : gMem → Option gR) (s : gMem) : Option gR := if t0 = 0 then Kh t0 s else if mT s v0 = 6 then gLet (wI s v0 6 (w32 ((mI s v0 6) + 1))) (fun s26 => Kh t0 s26) else none
set_option maxRecDepth 100000 in
theorem okj_x6_call_l31_j77 {ω : gW} {l : Launch} {d : Nat} {N : Nat} {W : Nat → gMem → Option gR} {dW : Nat} {σ0 : gMem} {s : gMem} {v0 : Nat} {v1 : Nat} {v2 : Int} {v3 : Int} {t0 : Int} {Kh : Int → gMem → Option gR} {K : gMem → Option gR} (hl : l.stackTraces = false) (hW : ∀ (a0 : Nat) (s : gMem), gK (fun p : gR => p) gE ω l dW mu_x6_sign [vR a0] s (W a0 s)) (hdp : 13 ≤ d) (hdw : dW + 6 ≤ d) (hv2 : g32 v2) (hv3 : g32 v3) (ht0 : g32 t0) (hKh : ∀ (v4 : Int) (s : gMem) , g32 v4 → GG (fun p : gR => p) gE ω l d mu_x6_call σ0 31 [(0, vR v0), (1, vR v1), (2, vI v2), (3, vI v3), (4, vI v4)] [] s (Kh v4 s)) (hK : ∀ (s : gMem) , GG (fun p : gR => p) gE ω l d mu_x6_call σ0 97 [(0, vR v0), (1, vR v1), (2, vI v2), (3, vI v3)] [] s (K s)) : GG (fun p : gR => p) gE ω l d mu_x6_call σ0 77 [(0, vR v0), (1, vR v1), (2, vI v2), (3, vI v3)] [vI t0] s (x6_call_l31_j77 N W v0 v1 v2 v3 t0 Kh K s) := by
  unfold x6_call_l31_j77
  refine x_istore (μ := mu_x6_call) (pc := 77) (lv' := [(4, vI t0), (0, vR v0), (1, vR v1), (2, vI v2), (3, vI v3)]) dX6_call_77 (by decide) rfl ?_
  refine x_iload (μ := mu_x6_call) (pc := 79) 0 dX6_call_79 rfl ?_
  refine x_if_eq (μ := mu_x6_call) (pc := 81) (tgt := 94) dX6_call_81 rfl ht0 ?_ ?_
  · refine x_goto (μ := mu_x6_call) (pc := 94) (tgt := 31) dX6_call_94 rfl ?_
    refine x_loc (lv' := [(0, vR v0), (1, vR v1), (2, vI v2), (3, vI v3), (4, vI t0)]) [1, 2, 3, 4, 0] rfl ?_
    exact hKh t0 s ht0
  · refine x_aload_n (μ := mu_x6_call) (pc := 84) 1 dX6_call_84 rfl ?_
    refine x_dup (μ := mu_x6_call) (pc := 85) dX6_call_85 rfl ?_
    refine x_if (fun hT24 => ?_)
    refine x_fgi (μ := mu_x6_call) (pc := 86) fX6_6 q487 dX6_call_86 hT24 (fun hr25 => ?_)
    refine x_iconst (μ := mu_x6_call) (pc := 89) dX6_call_89 ?_
    refine x_iadd (μ := mu_x6_call) (pc := 90) dX6_call_90 ?_
    refine x_w1 ?_
    refine x_fpi (μ := mu_x6_call) (pc := 91) fX6_6 q487 dX6_call_91 hT24 (fun _ q => gE_wI q) ?_
    refine x_let (fun s26 e27 => ?_)
    refine x_goto (μ := mu_x6_call) (pc := 94) (tgt := 31) dX6_call_94 rfl ?_
    refine x_loc (lv' := [(0, vR v0), (1, vR v1), (2, vI v2), (3, vI v3), (4, vI t0)]) [1, 2, 3, 4, 0] rfl ?_
    exact hKh t0 s26 ht0
def x6_call_l31 (N : Nat) (W : Nat → gMem → Option gR) (v0 : Nat) (v1 : Nat) (v2 : Int) (v3 : Int) (K : gMem → Option gR) : Nat → Int → gMem → Option gR
  | 0, _, _ => none
  | n + 1, v4, s => if v4 = 0 then K s else if mT s v0 = 6 then (x6_arg N W v0 s).bind (fun p => gThrR p (fun x10 s12 => if mT s12 (mR s12 v0 9) = 108 then if x10 = 0 ∨ gAsg 8 (mT s12 x10) = true then if 0 ≤ (mI s12 v0 11) ∧ (mI s12 v0 11) < (mN s12 (mR s12 v0 9) : Int) then gLet (wR s12 (mR s12 v0 9) (mI s12 v0 11).toNat x10) (fun s16 => gLet (wI s16 v0 11 (w32 ((mI s16 v0 11) + 1))) (fun s19 => (x6_peek N v0 s19).bind (fun x21 => if x21.1 ≠ 44 then x6_call_l31_j77 N W v0 v1 v2 v3 0 (x6_call_l31 N W v0 v1 v2 v3 K n) K (x21.2) else x6_call_l31_j77 N W v0 v1 v2 v3 1 (x6_call_l31 N W v0 v1 v2 v3 K n) K (x21.2)))) else none else none else none)) else none
set_option maxRecDepth 100000 in
theorem okl_x6_call_l31 {ω : gW} {l : Launch} {d : Nat} {N : Nat} {W : Nat → gMem → Option gR} {dW : Nat} {σ0 : gMem} {v0 : Nat} {v1 : Nat} {v2 : Int} {v3 : Int} {K : gMem → Option gR} (hl : l.stackTraces = false) (hW : ∀ (a0 : Nat) (s : gMem), gK (fun p : gR => p) gE ω l dW mu_x6_sign [vR a0] s (W a0 s)) (hdp : 13 ≤ d) (hdw : dW + 6 ≤ d) (hv2 : g32 v2) (hv3 : g32 v3) (hK : ∀ (s : gMem) , GG (fun p : gR => p) gE ω l d mu_x6_call σ0 97 [(0, vR v0), (1, vR v1), (2, vI v2), (3, vI v3)] [] s (K s)) : ∀ (n : Nat) (v4 : Int) (s : gMem) , g32 v4 → GG (fun p : gR => p) gE ω l d mu_x6_call σ0 31 [(0, vR v0), (1, vR v1), (2, vI v2), (3, vI v3), (4, vI v4)] [] s (x6_call_l31 N W v0 v1 v2 v3 K n v4 s) := by
  intro n
  induction n with
  | zero => intros; exact x_none
  | succ n ih =>
    intro v4 s hv4
    unfold x6_call_l31
    refine x_iload (μ := mu_x6_call) (pc := 31) 4 dX6_call_31 rfl ?_
    refine x_if_eq (μ := mu_x6_call) (pc := 33) (tgt := 97) dX6_call_33 rfl hv4 ?_ ?_
    · refine x_loc (lv' := [(0, vR v0), (1, vR v1), (2, vI v2), (3, vI v3)]) [0, 1, 2, 3] rfl ?_
      exact hK s
    · refine x_aload_n (μ := mu_x6_call) (pc := 36) 0 dX6_call_36 rfl ?_
      refine x_if (fun hT9 => ?_)
      refine x_callV_xr (μ := mu_x6_call) (pc := 37) (ok_x6_arg (ω := ω) (l := l) (d := d - 1) hl hW (by omega) (by omega) ) q2000 q2002 qs54 q226 q2003 dX6_call_37 rfl hT9 hy_x6_arg (by omega) (Nat.le_of_ble_eq_true rfl) rfl (Nat.le_of_ble_eq_true rfl) (by decide) (fun x10 s12 k11 => ?_)
      refine x_astore (μ := mu_x6_call) (pc := 40) (lv' := [(5, vR x10), (0, vR v0), (1, vR v1), (2, vI v2), (3, vI v3), (4, vI v4)]) dX6_call_40 (by decide) rfl ?_
      refine x_aload_n (μ := mu_x6_call) (pc := 42) 1 dX6_call_42 rfl ?_
      refine x_fgr (μ := mu_x6_call) (pc := 43) fX6_9 (by first | exact Or.inl ⟨_, rfl⟩ | exact Or.inr ⟨_, rfl⟩) q490 dX6_call_43 (gT_E k11 hT9 (by decide)) ?_
      refine x_aload_n (μ := mu_x6_call) (pc := 46) 1 dX6_call_46 rfl ?_
      refine x_fgi (μ := mu_x6_call) (pc := 47) fX6_11 q492 dX6_call_47 (gT_E k11 hT9 (by decide)) (fun hr13 => ?_)
      refine x_aload (μ := mu_x6_call) (pc := 50) 0 dX6_call_50 rfl ?_
      refine x_if (fun hT14 => ?_)
      refine x_if (fun hz15 => ?_)
      refine x_aast (μ := mu_x6_call) (pc := 52) 8 ⟨fun _ => rfl, rfl, rfl⟩ dX6_call_52 hT14 rfl hz15 (fun _ _ q => gE_wR q) ?_
      refine x_let (fun s16 e17 => ?_)
      refine x_aload_n (μ := mu_x6_call) (pc := 53) 1 dX6_call_53 rfl ?_
      refine x_dup (μ := mu_x6_call) (pc := 54) dX6_call_54 rfl ?_
      refine x_fgi (μ := mu_x6_call) (pc := 55) fX6_11 q492 dX6_call_55 (gT_R e17 (gT_E k11 hT9 (by decide))) (fun hr18 => ?_)
      refine x_iconst (μ := mu_x6_call) (pc := 58) dX6_call_58 ?_
      refine x_iadd (μ := mu_x6_call) (pc := 59) dX6_call_59 ?_
      refine x_w1 ?_
      refine x_fpi (μ := mu_x6_call) (pc := 60) fX6_11 q492 dX6_call_60 (gT_R e17 (gT_E k11 hT9 (by decide))) (fun _ q => gE_wI q) ?_
      refine x_let (fun s19 e20 => ?_)
      refine x_aload_n (μ := mu_x6_call) (pc := 63) 1 dX6_call_63 rfl ?_
      refine x_callV_mi (μ := mu_x6_call) (pc := 64) (ok_x6_peek (ω := ω) (l := l) (d := d - 1) hl (by omega) ) gRel_E gRel_E (fun _ q => q) q1811 q1813 qs34 q226 q1814 dX6_call_64 rfl (gT_I e20 (gT_R e17 (gT_E k11 hT9 (by decide)))) hy_x6_peek (by omega) (Nat.le_of_ble_eq_true rfl) rfl (Nat.le_of_ble_eq_true rfl) (fun x21 k23 hr22 => ?_)
      refine x_bipush (μ := mu_x6_call) (pc := 67) dX6_call_67 (by decide) ?_
      refine x_icmp_ne (μ := mu_x6_call) (pc := 69) (tgt := 76) dX6_call_69 rfl hr22 (by decide) ?_ ?_
      · refine x_iconst (μ := mu_x6_call) (pc := 76) dX6_call_76 ?_
        refine x_loc (lv' := [(0, vR v0), (1, vR v1), (2, vI v2), (3, vI v3)]) [1, 2, 3, 4] rfl ?_
        exact okj_x6_call_l31_j77 hl hW hdp hdw hv2 hv3 (by decide) ih hK
      · refine x_iconst (μ := mu_x6_call) (pc := 72) dX6_call_72 ?_
        refine x_goto (μ := mu_x6_call) (pc := 73) (tgt := 77) dX6_call_73 rfl ?_
        refine x_loc (lv' := [(0, vR v0), (1, vR v1), (2, vI v2), (3, vI v3)]) [1, 2, 3, 4] rfl ?_
        exact okj_x6_call_l31_j77 hl hW hdp hdw hv2 hv3 (by decide) ih hK
def x6_call_l164_j210 (N : Nat) (W : Nat → gMem → Option gR) (v0 : Nat) (v1 : Nat) (v2 : Int) (v3 : Int) (v5 : Nat) (v7 : Int) (t0 : Int) (Kh : Int → Int → gMem → Option gR) (K : Int → gMem → Option gR) (s : gMem) : Option gR := Kh t0 (w32 (v7 + 1)) s
set_option maxRecDepth 100000 in
theorem okj_x6_call_l164_j210 {ω : gW} {l : Launch} {d : Nat} {N : Nat} {W : Nat → gMem → Option gR} {dW : Nat} {σ0 : gMem} {s : gMem} {v0 : Nat} {v1 : Nat} {v2 : Int} {v3 : Int} {v5 : Nat} {v7 : Int} {t0 : Int} {Kh : Int → Int → gMem → Option gR} {K : Int → gMem → Option gR} (hl : l.stackTraces = false) (hW : ∀ (a0 : Nat) (s : gMem), gK (fun p : gR => p) gE ω l dW mu_x6_sign [vR a0] s (W a0 s)) (hdp : 13 ≤ d) (hdw : dW + 6 ≤ d) (hv2 : g32 v2) (hv3 : g32 v3) (hv7 : g32 v7) (ht0 : g32 t0) (hKh : ∀ (v6 : Int) (v7 : Int) (s : gMem) , g32 v6 → g32 v7 → GG (fun p : gR => p) gE ω l d mu_x6_call σ0 164 [(0, vR v0), (1, vR v1), (2, vI v2), (3, vI v3), (5, vR v5), (6, vI v6), (7, vI v7)] [] s (Kh v6 v7 s)) (hK : ∀ (v6 : Int) (s : gMem) , g32 v6 → GG (fun p : gR => p) gE ω l d mu_x6_call σ0 218 [(0, vR v0), (1, vR v1), (2, vI v2), (3, vI v3), (5, vR v5), (6, vI v6)] [] s (K v6 s)) : GG (fun p : gR => p) gE ω l d mu_x6_call σ0 210 [(0, vR v0), (1, vR v1), (2, vI v2), (3, vI v3), (5, vR v5), (7, vI v7)] [vI t0] s (x6_call_l164_j210 N W v0 v1 v2 v3 v5 v7 t0 Kh K s) := by
  unfold x6_call_l164_j210
  refine x_istore (μ := mu_x6_call) (pc := 210) (lv' := [(6, vI t0), (0, vR v0), (1, vR v1), (2, vI v2), (3, vI v3), (5, vR v5), (7, vI v7)]) dX6_call_210 (by decide) rfl ?_
  refine x_iincw (μ := mu_x6_call) (pc := 212) (lv' := [(7, vI (w32 (v7 + 1))), (6, vI t0), (0, vR v0), (1, vR v1), (2, vI v2), (3, vI v3), (5, vR v5)]) 6 dX6_call_212 rfl (by decide) rfl ?_
  refine x_goto (μ := mu_x6_call) (pc := 215) (tgt := 164) dX6_call_215 rfl ?_
  refine x_loc (lv' := [(0, vR v0), (1, vR v1), (2, vI v2), (3, vI v3), (5, vR v5), (6, vI t0), (7, vI (w32 (v7 + 1)))]) [2, 3, 4, 5, 6, 1, 0] rfl ?_
  exact hKh t0 (w32 (v7 + 1)) s ht0 (w32_rng _)
def x6_call_l164_j209 (N : Nat) (W : Nat → gMem → Option gR) (v0 : Nat) (v1 : Nat) (v2 : Int) (v3 : Int) (v5 : Nat) (v7 : Int) (Kh : Int → Int → gMem → Option gR) (K : Int → gMem → Option gR) (s : gMem) : Option gR := x6_call_l164_j210 N W v0 v1 v2 v3 v5 v7 0 (Kh) K s
set_option maxRecDepth 100000 in
theorem okj_x6_call_l164_j209 {ω : gW} {l : Launch} {d : Nat} {N : Nat} {W : Nat → gMem → Option gR} {dW : Nat} {σ0 : gMem} {s : gMem} {v0 : Nat} {v1 : Nat} {v2 : Int} {v3 : Int} {v5 : Nat} {v7 : Int} {Kh : Int → Int → gMem → Option gR} {K : Int → gMem → Option gR} (hl : l.stackTraces = false) (hW : ∀ (a0 : Nat) (s : gMem), gK (fun p : gR => p) gE ω l dW mu_x6_sign [vR a0] s (W a0 s)) (hdp : 13 ≤ d) (hdw : dW + 6 ≤ d) (hv2 : g32 v2) (hv3 : g32 v3) (hv7 : g32 v7) (hKh : ∀ (v6 : Int) (v7 : Int) (s : gMem) , g32 v6 → g32 v7 → GG (fun p : gR => p) gE ω l d mu_x6_call σ0 164 [(0, vR v0), (1, vR v1), (2, vI v2), (3, vI v3), (5, vR v5), (6, vI v6), (7, vI v7)] [] s (Kh v6 v7 s)) (hK : ∀ (v6 : Int) (s : gMem) , g32 v6 → GG (fun p : gR => p) gE ω l d mu_x6_call σ0 218 [(0, vR v0), (1, vR v1), (2, vI v2), (3, vI v3), (5, vR v5), (6, vI v6)] [] s (K v6 s)) : GG (fun p : gR => p) gE ω l d mu_x6_call σ0 209 [(0, vR v0), (1, vR v1), (2, vI v2), (3, vI v3), (5, vR v5), (7, vI v7)] [] s (x6_call_l164_j209 N W v0 v1 v2 v3 v5 v7 Kh K s) := by
  unfold x6_call_l164_j209
  refine x_iconst (μ := mu_x6_call) (pc := 209) dX6_call_209 ?_
  exact okj_x6_call_l164_j210 hl hW hdp hdw hv2 hv3 hv7 (by decide) hKh hK
def x6_call_l164 (N : Nat) (W : Nat → gMem → Option gR) (v0 : Nat) (v1 : Nat) (v2 : Int) (v3 : Int) (v5 : Nat) (K : Int → gMem → Option gR) : Nat → Int → Int → gMem → Option gR
  | 0, _, _, _ => none
  | n + 1, v6, v7, s => if mT s v5 = 108 then if w32 (mN s v5 : Int) ≤ v7 then K v6 s else if mT s v0 = 6 then if mT s (mR s v0 9) = 108 then if 0 ≤ (v3 + v7) ∧ (v3 + v7) < (mN s (mR s v0 9) : Int) then if mR s (mR s v0 9) (v3 + v7).toNat = 0 ∨ gAsg 8 (mT s (mR s (mR s v0 9) (v3 + v7).toNat)) = true then if 0 ≤ v7 ∧ v7 < (mN s v5 : Int) then gLet (wR s v5 v7.toNat (mR s (mR s v0 9) (v3 + v7).toNat)) (fun s50 => if v6 = 0 then x6_call_l164_j209 N W v0 v1 v2 v3 v5 v7  (x6_call_l164 N W v0 v1 v2 v3 v5 K n) K s50 else if 0 ≤ v7 ∧ v7 < (mN s50 v5 : Int) then if mT s50 v1 = 91 then (x7_takes v1 v7 (mR s50 v5 v7.toNat) s50).bind (fun x53 => if x53 = 0 then x6_call_l164_j209 N W v0 v1 v2 v3 v5 v7  (x6_call_l164 N W v0 v1 v2 v3 v5 K n) K s50 else x6_call_l164_j210 N W v0 v1 v2 v3 v5 v7 1 (x6_call_l164 N W v0 v1 v2 v3 v5 K n) K s50) else none else none) else none else none else none else none else none else none
set_option maxRecDepth 100000 in
theorem okl_x6_call_l164 {ω : gW} {l : Launch} {d : Nat} {N : Nat} {W : Nat → gMem → Option gR} {dW : Nat} {σ0 : gMem} {v0 : Nat} {v1 : Nat} {v2 : Int} {v3 : Int} {v5 : Nat} {K : Int → gMem → Option gR} (hl : l.stackTraces = false) (hW : ∀ (a0 : Nat) (s : gMem), gK (fun p : gR => p) gE ω l dW mu_x6_sign [vR a0] s (W a0 s)) (hdp : 13 ≤ d) (hdw : dW + 6 ≤ d) (hv2 : g32 v2) (hv3 : g32 v3) (hK : ∀ (v6 : Int) (s : gMem) , g32 v6 → GG (fun p : gR => p) gE ω l d mu_x6_call σ0 218 [(0, vR v0), (1, vR v1), (2, vI v2), (3, vI v3), (5, vR v5), (6, vI v6)] [] s (K v6 s)) : ∀ (n : Nat) (v6 : Int) (v7 : Int) (s : gMem) , g32 v6 → g32 v7 → GG (fun p : gR => p) gE ω l d mu_x6_call σ0 164 [(0, vR v0), (1, vR v1), (2, vI v2), (3, vI v3), (5, vR v5), (6, vI v6), (7, vI v7)] [] s (x6_call_l164 N W v0 v1 v2 v3 v5 K n v6 v7 s) := by
  intro n
  induction n with
  | zero => intros; exact x_none
  | succ n ih =>
    intro v6 v7 s hv6 hv7
    unfold x6_call_l164
    refine x_iload (μ := mu_x6_call) (pc := 164) 6 dX6_call_164 rfl ?_
    refine x_aload (μ := mu_x6_call) (pc := 166) 4 dX6_call_166 rfl ?_
    refine x_if (fun hT46 => ?_)
    refine x_len (μ := mu_x6_call) (pc := 168) 8 (fun _ => rfl) dX6_call_168 hT46 ?_
    refine x_w1 ?_
    refine x_icmp_ge (μ := mu_x6_call) (pc := 169) (tgt := 218) dX6_call_169 rfl hv7 (w32_rng _) ?_ ?_
    · refine x_loc (lv' := [(0, vR v0), (1, vR v1), (2, vI v2), (3, vI v3), (5, vR v5), (6, vI v6)]) [0, 1, 2, 3, 4, 5] rfl ?_
      exact hK v6 s hv6
    · refine x_aload (μ := mu_x6_call) (pc := 172) 4 dX6_call_172 rfl ?_
      refine x_iload (μ := mu_x6_call) (pc := 174) 6 dX6_call_174 rfl ?_
      refine x_aload_n (μ := mu_x6_call) (pc := 176) 0 dX6_call_176 rfl ?_
      refine x_if (fun hT47 => ?_)
      refine x_fgr (μ := mu_x6_call) (pc := 177) fX6_9 (by first | exact Or.inl ⟨_, rfl⟩ | exact Or.inr ⟨_, rfl⟩) q490 dX6_call_177 hT47 ?_
      refine x_iload_n (μ := mu_x6_call) (pc := 180) 3 dX6_call_180 rfl ?_
      refine x_iload (μ := mu_x6_call) (pc := 181) 6 dX6_call_181 rfl ?_
      refine x_iadd (μ := mu_x6_call) (pc := 183) dX6_call_183 ?_
      refine x_if (fun hT48 => ?_)
      refine x_aald (μ := mu_x6_call) (pc := 184) 8 (fun _ => rfl) rfl rfl dX6_call_184 hT48 rfl ?_
      refine x_if (fun hz49 => ?_)
      refine x_aast (μ := mu_x6_call) (pc := 185) 8 ⟨fun _ => rfl, rfl, rfl⟩ dX6_call_185 hT46 rfl hz49 (fun _ _ q => gE_wR q) ?_
      refine x_let (fun s50 e51 => ?_)
      refine x_iload (μ := mu_x6_call) (pc := 186) 5 dX6_call_186 rfl ?_
      refine x_if_eq (μ := mu_x6_call) (pc := 188) (tgt := 209) dX6_call_188 rfl hv6 ?_ ?_
      · refine x_loc (lv' := [(0, vR v0), (1, vR v1), (2, vI v2), (3, vI v3), (5, vR v5), (7, vI v7)]) [0, 1, 2, 3, 4, 6] rfl ?_
        exact okj_x6_call_l164_j209 hl hW hdp hdw hv2 hv3 hv7 ih hK
      · refine x_aload_n (μ := mu_x6_call) (pc := 191) 1 dX6_call_191 rfl ?_
        refine x_iload (μ := mu_x6_call) (pc := 192) 6 dX6_call_192 rfl ?_
        refine x_aload (μ := mu_x6_call) (pc := 194) 4 dX6_call_194 rfl ?_
        refine x_iload (μ := mu_x6_call) (pc := 196) 6 dX6_call_196 rfl ?_
        refine x_aald (μ := mu_x6_call) (pc := 198) 8 (fun _ => rfl) rfl rfl dX6_call_198 (gT_R e51 hT46) rfl ?_
        refine x_if (fun hT52 => ?_)
        refine x_callEN_pi (μ := mu_x6_call) (pc := 199) (ok_x7_takes (ω := ω) (l := l) (d := d - 1) hl (by omega) hv7) gRel_E gRel_E (fun _ q => q) q2027 q2029 qs56 q228 q2030 dX6_call_199 rfl hT52 hy_x7_takes (by omega) (Nat.le_of_ble_eq_true rfl) rfl (Nat.le_of_ble_eq_true rfl) (fun x53 hr54 => ?_)
        refine x_if_eq (μ := mu_x6_call) (pc := 202) (tgt := 209) dX6_call_202 rfl hr54 ?_ ?_
        · refine x_loc (lv' := [(0, vR v0), (1, vR v1), (2, vI v2), (3, vI v3), (5, vR v5), (7, vI v7)]) [0, 1, 2, 3, 4, 6] rfl ?_
          exact okj_x6_call_l164_j209 hl hW hdp hdw hv2 hv3 hv7 ih hK
        · refine x_iconst (μ := mu_x6_call) (pc := 205) dX6_call_205 ?_
          refine x_goto (μ := mu_x6_call) (pc := 206) (tgt := 210) dX6_call_206 rfl ?_
          refine x_loc (lv' := [(0, vR v0), (1, vR v1), (2, vI v2), (3, vI v3), (5, vR v5), (7, vI v7)]) [0, 1, 2, 3, 4, 6] rfl ?_
          exact okj_x6_call_l164_j210 hl hW hdp hdw hv2 hv3 hv7 (by decide) ih hK
def x6_call_j159 (N : Nat) (W : Nat → gMem → Option gR) (v0 : Nat) (v1 : Nat) (v2 : Int) (v3 : Int) (v5 : Nat) (t0 : Int) (s : gMem) : Option gR := x6_call_l164 N W v0 v1 v2 v3 v5 (fun y55 s56 => if mT s56 v0 = 6 then gLet (wI s56 v0 11 v3) (fun s58 => if y55 ≠ 0 then gLet (wN s58 18 2) (fun s61 => (x20_init (mZ s58) v1 v5 s61).bind (fun x63 => some (.inl (some (vR (mZ s58))), x63))) else (x6_late v0 4 v2 s58).bind (fun x65 => gLet (wN x65 18 2) (fun s68 => (x20_init (mZ x65) v1 v5 s68).bind (fun x70 => some (.inl (some (vR (mZ x65))), x70))))) else none) N t0 0 s
set_option maxRecDepth 100000 in
theorem okj_x6_call_j159 {ω : gW} {l : Launch} {d : Nat} {N : Nat} {W : Nat → gMem → Option gR} {dW : Nat} {σ0 : gMem} {s : gMem} {v0 : Nat} {v1 : Nat} {v2 : Int} {v3 : Int} {v5 : Nat} {t0 : Int} (hl : l.stackTraces = false) (hW : ∀ (a0 : Nat) (s : gMem), gK (fun p : gR => p) gE ω l dW mu_x6_sign [vR a0] s (W a0 s)) (hdp : 13 ≤ d) (hdw : dW + 6 ≤ d) (hv2 : g32 v2) (hv3 : g32 v3) (ht0 : g32 t0) : GG (fun p : gR => p) gE ω l d mu_x6_call σ0 159 [(0, vR v0), (1, vR v1), (2, vI v2), (3, vI v3), (5, vR v5)] [vI t0] s (x6_call_j159 N W v0 v1 v2 v3 v5 t0 s) := by
  unfold x6_call_j159
  refine x_istore (μ := mu_x6_call) (pc := 159) (lv' := [(6, vI t0), (0, vR v0), (1, vR v1), (2, vI v2), (3, vI v3), (5, vR v5)]) dX6_call_159 (by decide) rfl ?_
  refine x_iconst (μ := mu_x6_call) (pc := 161) dX6_call_161 ?_
  refine x_istore (μ := mu_x6_call) (pc := 162) (lv' := [(7, vI 0), (6, vI t0), (0, vR v0), (1, vR v1), (2, vI v2), (3, vI v3), (5, vR v5)]) dX6_call_162 (by decide) rfl ?_
  refine x_loc (lv' := [(0, vR v0), (1, vR v1), (2, vI v2), (3, vI v3), (5, vR v5), (6, vI t0), (7, vI 0)]) [2, 3, 4, 5, 6, 1, 0] rfl ?_
  refine okl_x6_call_l164 hl hW hdp hdw hv2 hv3 (fun y55 s56 hy55 => ?_) N t0 0 s ht0 (by decide)
  refine x_aload_n (μ := mu_x6_call) (pc := 218) 0 dX6_call_218 rfl ?_
  refine x_iload_n (μ := mu_x6_call) (pc := 219) 3 dX6_call_219 rfl ?_
  refine x_if (fun hT57 => ?_)
  refine x_fpi (μ := mu_x6_call) (pc := 220) fX6_11 q492 dX6_call_220 hT57 (fun _ q => gE_wI q) ?_
  refine x_let (fun s58 e59 => ?_)
  refine x_iload (μ := mu_x6_call) (pc := 223) 5 dX6_call_223 rfl ?_
  refine x_if_ne (μ := mu_x6_call) (pc := 225) (tgt := 234) dX6_call_225 rfl hy55 ?_ ?_
  · refine x_ok (fun ok60 => ?_)
    refine x_new (μ := mu_x6_call) (pc := 234) (ci := 17) gk_X20 gd_X20 q2035 q1208 q252 dX6_call_234 ?_
    refine x_let (fun s61 e62 => ?_)
    refine x_dup (μ := mu_x6_call) (pc := 237) dX6_call_237 rfl ?_
    refine x_aload_n (μ := mu_x6_call) (pc := 238) 1 dX6_call_238 rfl ?_
    refine x_aload (μ := mu_x6_call) (pc := 239) 4 dX6_call_239 rfl ?_
    refine x_callIN_mv (μ := mu_x6_call) (pc := 241) (ok_x20_init (ω := ω) (l := l) (d := d - 1) hl (by omega) ) gRel_E gRel_E (fun _ q => q) q2036 q2037 q252 q2038 dX6_call_241 (gT_ne (gT_new e62)) rfl hy_x20_init (by omega) (Nat.le_of_ble_eq_true rfl) rfl (Nat.le_of_ble_eq_true rfl) (fun x63 k64 => ?_)
    exact x_aret (μ := mu_x6_call) (pc := 244) (a1 := ((.inl (some (vR (mZ s58))), x63) : gR)) dX6_call_244 rfl (by first | exact Or.inl ⟨_, rfl⟩ | exact Or.inr ⟨_, rfl⟩) rfl (gRel_E.1 _) trivial
  · refine x_aload_n (μ := mu_x6_call) (pc := 228) 0 dX6_call_228 rfl ?_
    refine x_iconst (μ := mu_x6_call) (pc := 229) dX6_call_229 ?_
    refine x_iload_n (μ := mu_x6_call) (pc := 230) 2 dX6_call_230 rfl ?_
    refine x_callV_mv (μ := mu_x6_call) (pc := 231) (ok_x6_late (ω := ω) (l := l) (d := d - 1) hl (by omega) (by decide) hv2) gRel_E gRel_E (fun _ q => q) q1961 q1963 qs51 q226 q1964 dX6_call_231 rfl (gT_I e59 hT57) hy_x6_late (by omega) (Nat.le_of_ble_eq_true rfl) rfl (Nat.le_of_ble_eq_true rfl) (fun x65 k66 => ?_)
    refine x_ok (fun ok67 => ?_)
    refine x_new (μ := mu_x6_call) (pc := 234) (ci := 17) gk_X20 gd_X20 q2035 q1208 q252 dX6_call_234 ?_
    refine x_let (fun s68 e69 => ?_)
    refine x_dup (μ := mu_x6_call) (pc := 237) dX6_call_237 rfl ?_
    refine x_aload_n (μ := mu_x6_call) (pc := 238) 1 dX6_call_238 rfl ?_
    refine x_aload (μ := mu_x6_call) (pc := 239) 4 dX6_call_239 rfl ?_
    refine x_callIN_mv (μ := mu_x6_call) (pc := 241) (ok_x20_init (ω := ω) (l := l) (d := d - 1) hl (by omega) ) gRel_E gRel_E (fun _ q => q) q2036 q2037 q252 q2038 dX6_call_241 (gT_ne (gT_new e69)) rfl hy_x20_init (by omega) (Nat.le_of_ble_eq_true rfl) rfl (Nat.le_of_ble_eq_true rfl) (fun x70 k71 => ?_)
    exact x_aret (μ := mu_x6_call) (pc := 244) (a1 := ((.inl (some (vR (mZ x65))), x70) : gR)) dX6_call_244 rfl (by first | exact Or.inl ⟨_, rfl⟩ | exact Or.inr ⟨_, rfl⟩) rfl (gRel_E.1 _) trivial
def x6_call_j158 (N : Nat) (W : Nat → gMem → Option gR) (v0 : Nat) (v1 : Nat) (v2 : Int) (v3 : Int) (v5 : Nat) (s : gMem) : Option gR := x6_call_j159 N W v0 v1 v2 v3 v5 0 s
set_option maxRecDepth 100000 in
theorem okj_x6_call_j158 {ω : gW} {l : Launch} {d : Nat} {N : Nat} {W : Nat → gMem → Option gR} {dW : Nat} {σ0 : gMem} {s : gMem} {v0 : Nat} {v1 : Nat} {v2 : Int} {v3 : Int} {v5 : Nat} (hl : l.stackTraces = false) (hW : ∀ (a0 : Nat) (s : gMem), gK (fun p : gR => p) gE ω l dW mu_x6_sign [vR a0] s (W a0 s)) (hdp : 13 ≤ d) (hdw : dW + 6 ≤ d) (hv2 : g32 v2) (hv3 : g32 v3) : GG (fun p : gR => p) gE ω l d mu_x6_call σ0 158 [(0, vR v0), (1, vR v1), (2, vI v2), (3, vI v3), (5, vR v5)] [] s (x6_call_j158 N W v0 v1 v2 v3 v5 s) := by
  unfold x6_call_j158
  refine x_iconst (μ := mu_x6_call) (pc := 158) dX6_call_158 ?_
  exact okj_x6_call_j159 hl hW hdp hdw hv2 hv3 (by decide)
def x6_call (N : Nat) (W : Nat → gMem → Option gR) (v0 : Nat) (v1 : Nat) (v2 : Int) (σ : gMem) : Option gR := if mT σ v0 = 6 then (x6_peek N v0 σ).bind (fun x2 => if x2.1 = 40 then (x6_opens v0 (x2.2)).bind (fun p => gThrV p (fun s7 => x6_call_l31 N W v0 v1 v2 (mI s7 v0 11) (fun s28 => if mT s28 v0 = 6 then (x6_expect N v0 41 s28).bind (fun p => gThrV p (fun s32 => gLet (wI s32 v0 7 (w32 ((mI s32 v0 7) - 1))) (fun s34 => gLet (wI s34 v0 8 (w32 ((mI s34 v0 8) + 1))) (fun s37 => if 0 ≤ (w32 ((mI s37 v0 11) - (mI s7 v0 11))) ∧ (w32 ((mI s37 v0 11) - (mI s7 v0 11))) < 1000000 then gLet (wN s37 108 (w32 ((mI s37 v0 11) - (mI s7 v0 11))).toNat) (fun s42 => if mT s42 v1 = 91 then if w32 (mN s42 (mZ s37) : Int) < mI s42 v1 2 then x6_call_j158 N W v0 v1 v2 (mI s7 v0 11) (mZ s37)  s42 else if mI s42 v1 3 < w32 (mN s42 (mZ s37) : Int) then x6_call_j158 N W v0 v1 v2 (mI s7 v0 11) (mZ s37)  s42 else x6_call_j159 N W v0 v1 v2 (mI s7 v0 11) (mZ s37) 1 s42 else none) else none)))) else none) N 1 s7)) else (x6_wrong v0 1 (mI (x2.2) v0 6) (x2.2)).bind (fun x74 => if mT (x74.2) (x74.1) = 25 then some (.inr "SheetBranches$Wrong", x74.2) else none)) else none
set_option maxRecDepth 100000 in
theorem ok_x6_call {ω : gW} {l : Launch} {d : Nat} {N : Nat} {W : Nat → gMem → Option gR} {dW : Nat} {σ : gMem} {v0 : Nat} {v1 : Nat} {v2 : Int} (hl : l.stackTraces = false) (hW : ∀ (a0 : Nat) (s : gMem), gK (fun p : gR => p) gE ω l dW mu_x6_sign [vR a0] s (W a0 s)) (hdp : 13 ≤ d) (hdw : dW + 6 ≤ d) (hv2 : g32 v2) : gK (fun p : gR => p) gE ω l d mu_x6_call [vR v0, vR v1, vI v2] σ (x6_call N W v0 v1 v2 σ) := by
  refine gK.of hp_X6 (Nat.le_of_ble_eq_true rfl) ?_
  unfold x6_call
  refine x_aload_n (μ := mu_x6_call) (pc := 0) 0 dX6_call_0 rfl ?_
  refine x_if (fun hT1 => ?_)
  refine x_callV_mi (μ := mu_x6_call) (pc := 1) (ok_x6_peek (ω := ω) (l := l) (d := d - 1) hl (by omega) ) gRel_E gRel_E (fun _ q => q) q1811 q1813 qs34 q226 q1814 dX6_call_1 rfl hT1 hy_x6_peek (by omega) (Nat.le_of_ble_eq_true rfl) rfl (Nat.le_of_ble_eq_true rfl) (fun x2 k4 hr3 => ?_)
  refine x_bipush (μ := mu_x6_call) (pc := 4) dX6_call_4 (by decide) ?_
  refine x_icmp_eq (μ := mu_x6_call) (pc := 6) (tgt := 19) dX6_call_6 rfl hr3 (by decide) ?_ ?_
  · refine x_aload_n (μ := mu_x6_call) (pc := 19) 0 dX6_call_19 rfl ?_
    refine x_callV_xv (μ := mu_x6_call) (pc := 20) (ok_x6_opens (ω := ω) (l := l) (d := d - 1) hl (by omega) ) q1823 q1825 qs37 q226 q1826 dX6_call_20 rfl (gT_E k4 hT1 (by decide)) hy_x6_opens (by omega) (Nat.le_of_ble_eq_true rfl) rfl (Nat.le_of_ble_eq_true rfl) (by decide) (fun s7 k6 => ?_)
    refine x_aload_n (μ := mu_x6_call) (pc := 23) 0 dX6_call_23 rfl ?_
    refine x_fgi (μ := mu_x6_call) (pc := 24) fX6_11 q492 dX6_call_24 (gT_E k6 (gT_E k4 hT1 (by decide)) (by decide)) (fun hr8 => ?_)
    refine x_istore_n (μ := mu_x6_call) (pc := 27) (lv' := [(3, vI (mI s7 v0 11)), (0, vR v0), (1, vR v1), (2, vI v2)]) dX6_call_27 rfl (by decide) rfl ?_
    refine x_iconst (μ := mu_x6_call) (pc := 28) dX6_call_28 ?_
    refine x_istore (μ := mu_x6_call) (pc := 29) (lv' := [(4, vI 1), (3, vI (mI s7 v0 11)), (0, vR v0), (1, vR v1), (2, vI v2)]) dX6_call_29 (by decide) rfl ?_
    refine x_loc (lv' := [(0, vR v0), (1, vR v1), (2, vI v2), (3, vI (mI s7 v0 11)), (4, vI 1)]) [2, 3, 4, 1, 0] rfl ?_
    refine okl_x6_call_l31 hl hW hdp hdw hv2 hr8 (fun s28 => ?_) N 1 s7 (by decide)
    refine x_aload_n (μ := mu_x6_call) (pc := 97) 0 dX6_call_97 rfl ?_
    refine x_bipush (μ := mu_x6_call) (pc := 98) dX6_call_98 (by decide) ?_
    refine x_if (fun hT29 => ?_)
    refine x_callV_xv (μ := mu_x6_call) (pc := 100) (ok_x6_expect (ω := ω) (l := l) (d := d - 1) hl (by omega) (by decide)) q1850 q1852 qs40 q226 q1853 dX6_call_100 rfl hT29 hy_x6_expect (by omega) (Nat.le_of_ble_eq_true rfl) rfl (Nat.le_of_ble_eq_true rfl) (by decide) (fun s32 k31 => ?_)
    refine x_aload_n (μ := mu_x6_call) (pc := 103) 0 dX6_call_103 rfl ?_
    refine x_dup (μ := mu_x6_call) (pc := 104) dX6_call_104 rfl ?_
    refine x_fgi (μ := mu_x6_call) (pc := 105) fX6_7 q488 dX6_call_105 (gT_E k31 hT29 (by decide)) (fun hr33 => ?_)
    refine x_iconst (μ := mu_x6_call) (pc := 108) dX6_call_108 ?_
    refine x_isub (μ := mu_x6_call) (pc := 109) dX6_call_109 ?_
    refine x_w1 ?_
    refine x_fpi (μ := mu_x6_call) (pc := 110) fX6_7 q488 dX6_call_110 (gT_E k31 hT29 (by decide)) (fun _ q => gE_wI q) ?_
    refine x_let (fun s34 e35 => ?_)
    refine x_aload_n (μ := mu_x6_call) (pc := 113) 0 dX6_call_113 rfl ?_
    refine x_dup (μ := mu_x6_call) (pc := 114) dX6_call_114 rfl ?_
    refine x_fgi (μ := mu_x6_call) (pc := 115) fX6_8 q489 dX6_call_115 (gT_I e35 (gT_E k31 hT29 (by decide))) (fun hr36 => ?_)
    refine x_iconst (μ := mu_x6_call) (pc := 118) dX6_call_118 ?_
    refine x_iadd (μ := mu_x6_call) (pc := 119) dX6_call_119 ?_
    refine x_w1 ?_
    refine x_fpi (μ := mu_x6_call) (pc := 120) fX6_8 q489 dX6_call_120 (gT_I e35 (gT_E k31 hT29 (by decide))) (fun _ q => gE_wI q) ?_
    refine x_let (fun s37 e38 => ?_)
    refine x_aload_n (μ := mu_x6_call) (pc := 123) 0 dX6_call_123 rfl ?_
    refine x_fgi (μ := mu_x6_call) (pc := 124) fX6_11 q492 dX6_call_124 (gT_I e38 (gT_I e35 (gT_E k31 hT29 (by decide)))) (fun hr39 => ?_)
    refine x_iload_n (μ := mu_x6_call) (pc := 127) 3 dX6_call_127 rfl ?_
    refine x_isub (μ := mu_x6_call) (pc := 128) dX6_call_128 ?_
    refine x_w1 ?_
    refine x_if (fun hg40 => ?_)
    refine x_ok (fun ok41 => ?_)
    refine x_anew (μ := mu_x6_call) (pc := 129) 8 (fun _ => rfl) rfl (by decide) q466 dX6_call_129 hg40 ?_
    refine x_let (fun s42 e43 => ?_)
    refine x_astore (μ := mu_x6_call) (pc := 132) (lv' := [(5, vR (mZ s37)), (0, vR v0), (1, vR v1), (2, vI v2), (3, vI (mI s7 v0 11))]) dX6_call_132 (by decide) rfl ?_
    refine x_aload (μ := mu_x6_call) (pc := 134) 0 dX6_call_134 rfl ?_
    refine x_len (μ := mu_x6_call) (pc := 136) 8 (fun _ => rfl) dX6_call_136 (gT_new e43) ?_
    refine x_aload_n (μ := mu_x6_call) (pc := 137) 2 dX6_call_137 rfl ?_
    refine x_if (fun hT44 => ?_)
    refine x_eiN (μ := mu_x6_call) (pc := 138) (k := 2) (List.mem_of_getElem? (i := 1) rfl) (by decide) q3791 dX6_call_138 hT44 (fun hr45 => ?_)
    refine x_w2 ?_
    refine x_icmp_lt (μ := mu_x6_call) (pc := 141) (tgt := 158) dX6_call_141 rfl (w32_rng _) hr45 ?_ ?_
    · refine x_loc (lv' := [(0, vR v0), (1, vR v1), (2, vI v2), (3, vI (mI s7 v0 11)), (5, vR (mZ s37))]) [1, 2, 3, 4, 0] rfl ?_
      exact okj_x6_call_j158 hl hW hdp hdw hv2 hr8
    · refine x_aload (μ := mu_x6_call) (pc := 144) 0 dX6_call_144 rfl ?_
      refine x_len (μ := mu_x6_call) (pc := 146) 8 (fun _ => rfl) dX6_call_146 (gT_new e43) ?_
      refine x_aload_n (μ := mu_x6_call) (pc := 147) 2 dX6_call_147 rfl ?_
      refine x_eiN (μ := mu_x6_call) (pc := 148) (k := 3) (List.mem_of_getElem? (i := 2) rfl) (by decide) q3792 dX6_call_148 hT44 (fun hr72 => ?_)
      refine x_w2 ?_
      refine x_icmp_gt (μ := mu_x6_call) (pc := 151) (tgt := 158) dX6_call_151 rfl (w32_rng _) hr72 ?_ ?_
      · refine x_loc (lv' := [(0, vR v0), (1, vR v1), (2, vI v2), (3, vI (mI s7 v0 11)), (5, vR (mZ s37))]) [1, 2, 3, 4, 0] rfl ?_
        exact okj_x6_call_j158 hl hW hdp hdw hv2 hr8
      · refine x_iconst (μ := mu_x6_call) (pc := 154) dX6_call_154 ?_
        refine x_goto (μ := mu_x6_call) (pc := 155) (tgt := 159) dX6_call_155 rfl ?_
        refine x_loc (lv' := [(0, vR v0), (1, vR v1), (2, vI v2), (3, vI (mI s7 v0 11)), (5, vR (mZ s37))]) [1, 2, 3, 4, 0] rfl ?_
        exact okj_x6_call_j159 hl hW hdp hdw hv2 hr8 (by decide)
  · refine x_aload_n (μ := mu_x6_call) (pc := 9) 0 dX6_call_9 rfl ?_
    refine x_iconst (μ := mu_x6_call) (pc := 10) dX6_call_10 ?_
    refine x_aload_n (μ := mu_x6_call) (pc := 11) 0 dX6_call_11 rfl ?_
    refine x_fgi (μ := mu_x6_call) (pc := 12) fX6_6 q487 dX6_call_12 (gT_E k4 hT1 (by decide)) (fun hr73 => ?_)
    refine x_callV_mr (μ := mu_x6_call) (pc := 15) (ok_x6_wrong (ω := ω) (l := l) (d := d - 1) hl (by omega) (by decide) hr73) gRel_E gRel_E (fun _ q => q) q1827 q1829 qs38 q226 q1830 dX6_call_15 rfl (gT_E k4 hT1 (by decide)) hy_x6_wrong (by omega) (Nat.le_of_ble_eq_true rfl) rfl (Nat.le_of_ble_eq_true rfl) (fun x74 k75 => ?_)
    refine x_if (fun hT76 => ?_)
    exact x_athrow (μ := mu_x6_call) (pc := 18) dX6_call_18 hT76 (by decide)
def x0_sort (N : Nat) (v0 : Nat) (v1 : Int) (v2 : Int) (v3 : Int) (v4 : Int) (v5 : Nat) (σ : gMem) : Option (Int × gMem) := if mT σ v0 = 1 then (x1_sort N v0 v1 v2 v3 v4 σ).bind (fun p => gTryI p (fun x2 s5 => if mT s5 v5 = 101 then if 0 ≤ (0 : Int) ∧ (0 : Int) < (mN s5 v5 : Int) then gLet (wL s5 v5 (0 : Int).toNat x2) (fun s11 => some (0, s11)) else none else none) (fun E6 s7 => if E6 = "java/lang/IndexOutOfBoundsException" then some (1, s7) else if E6 = "java/lang/IllegalArgumentException" then some (2, s7) else none)) else none
set_option maxRecDepth 100000 in
theorem ok_x0_sort {ω : gW} {l : Launch} {d : Nat} {N : Nat} {σ : gMem} {v0 : Nat} {v1 : Int} {v2 : Int} {v3 : Int} {v4 : Int} {v5 : Nat} (hl : l.stackTraces = false) (hdp : 204 ≤ d) (hv1 : g32 v1) (hv2 : g32 v2) (hv3 : g32 v3) (hv4 : g32 v4) : gK (fun p : Int × gMem => (.inl (some (vI p.1)), p.2)) gE ω l d mu_x0_sort [vR v0, vI v1, vI v2, vI v3, vI v4, vR v5] σ (x0_sort N v0 v1 v2 v3 v4 v5 σ) := by
  refine gK.ofH hp_X0 (Nat.le_of_ble_eq_true rfl) ?_
  unfold x0_sort
  refine x_aload (μ := mu_x0_sort) (pc := 0) 5 dX0_sort_0 rfl ?_
  refine x_iconst (μ := mu_x0_sort) (pc := 2) dX0_sort_2 ?_
  refine x_aload_n (μ := mu_x0_sort) (pc := 3) 0 dX0_sort_3 rfl ?_
  refine x_iload_n (μ := mu_x0_sort) (pc := 4) 1 dX0_sort_4 rfl ?_
  refine x_iload_n (μ := mu_x0_sort) (pc := 5) 2 dX0_sort_5 rfl ?_
  refine x_iload_n (μ := mu_x0_sort) (pc := 6) 3 dX0_sort_6 rfl ?_
  refine x_iload (μ := mu_x0_sort) (pc := 7) 4 dX0_sort_7 rfl ?_
  refine x_if (fun hT1 => ?_)
  refine x_callV_ti (μ := mu_x0_sort) (pc := 9) (ok_x1_sort (ω := ω) (l := l) (d := d - 1) hl (by omega) hv1 hv2 hv3 hv4) q2374 q2375 q2376 q221 q2377 dX0_sort_9 rfl hT1 hy_x1_sort (by omega) (Nat.le_of_ble_eq_true rfl) rfl (Nat.le_of_ble_eq_true rfl) (fun x2 s5 k4 hr3 => ?_) (fun E6 s7 k9 => ?_)
  · refine x_i2l (μ := mu_x0_sort) (pc := 12) dX0_sort_12 hr3 ?_
    refine x_if (fun hT10 => ?_)
    refine x_last (μ := mu_x0_sort) (pc := 13) dX0_sort_13 hT10 rfl (fun _ _ q => gE_wL q) ?_
    refine x_let (fun s11 e12 => ?_)
    refine x_goto (μ := mu_x0_sort) (pc := 14) (tgt := 25) dX0_sort_14 rfl ?_
    refine x_iconst (μ := mu_x0_sort) (pc := 25) dX0_sort_25 ?_
    exact x_iret (μ := mu_x0_sort) (pc := 26) dX0_sort_26 rfl rfl (gRel_E.1 _) (show g32 0 from (by decide))
  · refine x_eqE "java/lang/IndexOutOfBoundsException" (fun _ => ?_) (fun _ => ?_)
    · refine x_catch0 (pc := 9) (tgt := 17) rfl  q1676 q1764 (by decide) (fun q13 => ?_)
      refine x_astore (μ := mu_x0_sort) (pc := 17) (lv' := [(6, vR q13), (0, vR v0), (1, vI v1), (2, vI v2), (3, vI v3), (4, vI v4), (5, vR v5)]) dX0_sort_17 (by decide) rfl ?_
      refine x_iconst (μ := mu_x0_sort) (pc := 19) dX0_sort_19 ?_
      exact x_iret (μ := mu_x0_sort) (pc := 20) dX0_sort_20 rfl rfl (gRel_E.1 _) (show g32 1 from (by decide))
    refine x_eqE "java/lang/IllegalArgumentException" (fun _ => ?_) (fun _ => ?_)
    · refine x_catch1 (pc := 9) (tgt := 21) rfl q1676 (by decide) q1755 q2123 (by decide) (fun q14 => ?_)
      refine x_astore (μ := mu_x0_sort) (pc := 21) (lv' := [(6, vR q14), (0, vR v0), (1, vI v1), (2, vI v2), (3, vI v3), (4, vI v4), (5, vR v5)]) dX0_sort_21 (by decide) rfl ?_
      refine x_iconst (μ := mu_x0_sort) (pc := 23) dX0_sort_23 ?_
      exact x_iret (μ := mu_x0_sort) (pc := 24) dX0_sort_24 rfl rfl (gRel_E.1 _) (show g32 2 from (by decide))
    exact x_xnone
def x0_commit (N : Nat) (v0 : Nat) (v1 : Nat) (σ : gMem) : Option (Int × gMem) := if mT σ v0 = 1 then (x1_commit N v0 σ).bind (fun p => gTryI p (fun x2 s5 => if mT s5 v1 = 101 then if 0 ≤ (0 : Int) ∧ (0 : Int) < (mN s5 v1 : Int) then gLet (wL s5 v1 (0 : Int).toNat x2) (fun s11 => some (0, s11)) else none else none) (fun E6 s7 => if E6 = "java/lang/IllegalStateException" then some (1, s7) else if E6 = "java/lang/UnsupportedOperationException" then some (2, s7) else none)) else none
set_option maxRecDepth 100000 in
theorem ok_x0_commit {ω : gW} {l : Launch} {d : Nat} {N : Nat} {σ : gMem} {v0 : Nat} {v1 : Nat} (hl : l.stackTraces = false) (hdp : 204 ≤ d) : gK (fun p : Int × gMem => (.inl (some (vI p.1)), p.2)) gE ω l d mu_x0_commit [vR v0, vR v1] σ (x0_commit N v0 v1 σ) := by
  refine gK.ofH hp_X0 (Nat.le_of_ble_eq_true rfl) ?_
  unfold x0_commit
  refine x_aload_n (μ := mu_x0_commit) (pc := 0) 1 dX0_commit_0 rfl ?_
  refine x_iconst (μ := mu_x0_commit) (pc := 1) dX0_commit_1 ?_
  refine x_aload_n (μ := mu_x0_commit) (pc := 2) 0 dX0_commit_2 rfl ?_
  refine x_if (fun hT1 => ?_)
  refine x_callV_ti (μ := mu_x0_commit) (pc := 3) (ok_x1_commit (ω := ω) (l := l) (d := d - 1) hl (by omega) ) q2422 q2423 q2424 q221 q2425 dX0_commit_3 rfl hT1 hy_x1_commit (by omega) (Nat.le_of_ble_eq_true rfl) rfl (Nat.le_of_ble_eq_true rfl) (fun x2 s5 k4 hr3 => ?_) (fun E6 s7 k9 => ?_)
  · refine x_i2l (μ := mu_x0_commit) (pc := 6) dX0_commit_6 hr3 ?_
    refine x_if (fun hT10 => ?_)
    refine x_last (μ := mu_x0_commit) (pc := 7) dX0_commit_7 hT10 rfl (fun _ _ q => gE_wL q) ?_
    refine x_let (fun s11 e12 => ?_)
    refine x_goto (μ := mu_x0_commit) (pc := 8) (tgt := 17) dX0_commit_8 rfl ?_
    refine x_iconst (μ := mu_x0_commit) (pc := 17) dX0_commit_17 ?_
    exact x_iret (μ := mu_x0_commit) (pc := 18) dX0_commit_18 rfl rfl (gRel_E.1 _) (show g32 0 from (by decide))
  · refine x_eqE "java/lang/IllegalStateException" (fun _ => ?_) (fun _ => ?_)
    · refine x_catch0 (pc := 3) (tgt := 11) rfl  q2194 q2209 (by decide) (fun q13 => ?_)
      refine x_astore_n (μ := mu_x0_commit) (pc := 11) (lv' := [(2, vR q13), (0, vR v0), (1, vR v1)]) dX0_commit_11 rfl (by decide) rfl ?_
      refine x_iconst (μ := mu_x0_commit) (pc := 12) dX0_commit_12 ?_
      exact x_iret (μ := mu_x0_commit) (pc := 13) dX0_commit_13 rfl rfl (gRel_E.1 _) (show g32 1 from (by decide))
    refine x_eqE "java/lang/UnsupportedOperationException" (fun _ => ?_) (fun _ => ?_)
    · refine x_catch1 (pc := 3) (tgt := 14) rfl q2194 (by decide) q1756 q2163 (by decide) (fun q14 => ?_)
      refine x_astore_n (μ := mu_x0_commit) (pc := 14) (lv' := [(2, vR q14), (0, vR v0), (1, vR v1)]) dX0_commit_14 rfl (by decide) rfl ?_
      refine x_iconst (μ := mu_x0_commit) (pc := 15) dX0_commit_15 ?_
      exact x_iret (μ := mu_x0_commit) (pc := 16) dX0_commit_16 rfl rfl (gRel_E.1 _) (show g32 2 from (by decide))
    exact x_xnone
def x1_valuesOf (N : Nat) (v0 : Nat) (v1 : Int) (σ : gMem) : Option (Nat × gMem) := if v1 ≠ (-1) then if mT σ v0 = 1 then if mT σ (mR σ v0 4) = 104 then if 0 ≤ v1 ∧ v1 < (mN σ (mR σ v0 4) : Int) then if mT σ (mR σ (mR σ v0 4) v1.toNat) = 9 then some (mR σ (mR σ (mR σ v0 4) v1.toNat) 1, σ) else none else none else none else none else if mT σ v0 = 1 then (x1_ready N v0 σ).bind (fun x5 => some (x5.1, x5.2)) else none
set_option maxRecDepth 100000 in
theorem ok_x1_valuesOf {ω : gW} {l : Launch} {d : Nat} {N : Nat} {σ : gMem} {v0 : Nat} {v1 : Int} (hl : l.stackTraces = false) (hdp : 203 ≤ d) (hv1 : g32 v1) : gK (fun p : Nat × gMem => (.inl (some (vR p.1)), p.2)) gE ω l d mu_x1_valuesOf [vR v0, vI v1] σ (x1_valuesOf N v0 v1 σ) := by
  refine gK.of hp_X1 (Nat.le_of_ble_eq_true rfl) ?_
  unfold x1_valuesOf
  refine x_iload_n (μ := mu_x1_valuesOf) (pc := 0) 1 dX1_valuesOf_0 rfl ?_
  refine x_iconst (μ := mu_x1_valuesOf) (pc := 1) dX1_valuesOf_1 ?_
  refine x_icmp_ne (μ := mu_x1_valuesOf) (pc := 2) (tgt := 12) dX1_valuesOf_2 rfl hv1 (by decide) ?_ ?_
  · refine x_aload_n (μ := mu_x1_valuesOf) (pc := 12) 0 dX1_valuesOf_12 rfl ?_
    refine x_if (fun hT1 => ?_)
    refine x_fgr (μ := mu_x1_valuesOf) (pc := 13) fX1_4 (by first | exact Or.inl ⟨_, rfl⟩ | exact Or.inr ⟨_, rfl⟩) q649 dX1_valuesOf_13 hT1 ?_
    refine x_iload_n (μ := mu_x1_valuesOf) (pc := 16) 1 dX1_valuesOf_16 rfl ?_
    refine x_if (fun hT2 => ?_)
    refine x_aald (μ := mu_x1_valuesOf) (pc := 17) 4 (fun _ => rfl) rfl rfl dX1_valuesOf_17 hT2 rfl ?_
    refine x_if (fun hT3 => ?_)
    refine x_fgrN (μ := mu_x1_valuesOf) (pc := 18) fX10_1 (by first | exact Or.inl ⟨_, rfl⟩ | exact Or.inr ⟨_, rfl⟩) q605 dX1_valuesOf_18 hT3 ?_
    exact x_aret (μ := mu_x1_valuesOf) (pc := 21) dX1_valuesOf_21 rfl (by first | exact Or.inl ⟨_, rfl⟩ | exact Or.inr ⟨_, rfl⟩) rfl (gRel_E.1 _) trivial
  · refine x_aload_n (μ := mu_x1_valuesOf) (pc := 5) 0 dX1_valuesOf_5 rfl ?_
    refine x_if (fun hT4 => ?_)
    refine x_callV_mr (μ := mu_x1_valuesOf) (pc := 6) (ok_x1_ready (ω := ω) (l := l) (d := d - 1) hl (by omega) ) gRel_E gRel_E (fun _ q => q) q828 q830 qs7 q221 q831 dX1_valuesOf_6 rfl hT4 hy_x1_ready (by omega) (Nat.le_of_ble_eq_true rfl) rfl (Nat.le_of_ble_eq_true rfl) (fun x5 k6 => ?_)
    refine x_goto (μ := mu_x1_valuesOf) (pc := 9) (tgt := 21) dX1_valuesOf_9 rfl ?_
    exact x_aret (μ := mu_x1_valuesOf) (pc := 21) dX1_valuesOf_21 rfl (by first | exact Or.inl ⟨_, rfl⟩ | exact Or.inr ⟨_, rfl⟩) rfl (gRel_E.1 _) trivial
def x1_value (N : Nat) (v0 : Nat) (v1 : Int) (v2 : Int) (v3 : Int) (σ : gMem) : Option (Int × gMem) := if mT σ v0 = 1 then (x1_hasCell v0 v1 v2 v3 σ).bind (fun x2 => if x2 ≠ 0 then (x1_valuesOf N v0 v1 σ).bind (fun x4 => if mT (x4.2) (x4.1) = 2 then if mT (x4.2) (mR (x4.2) (x4.1) 0) = 102 then if 0 ≤ (w32 (((10 * (v2 - 1)) + v3) - 1)) ∧ (w32 (((10 * (v2 - 1)) + v3) - 1)) < (mN (x4.2) (mR (x4.2) (x4.1) 0) : Int) then if mI (x4.2) (mR (x4.2) (x4.1) 0) (w32 (((10 * (v2 - 1)) + v3) - 1)).toNat ≠ 2 then if mT (x4.2) (mR (x4.2) (x4.1) 3) = 101 then if 0 ≤ (w32 (((10 * (v2 - 1)) + v3) - 1)) ∧ (w32 (((10 * (v2 - 1)) + v3) - 1)) < (mN (x4.2) (mR (x4.2) (x4.1) 3) : Int) then some (mL (x4.2) (mR (x4.2) (x4.1) 3) (w32 (((10 * (v2 - 1)) + v3) - 1)).toNat, x4.2) else none else none else if mT (x4.2) (mR (x4.2) (x4.1) 1) = 102 then if 0 ≤ (w32 (((10 * (v2 - 1)) + v3) - 1)) ∧ (w32 (((10 * (v2 - 1)) + v3) - 1)) < (mN (x4.2) (mR (x4.2) (x4.1) 1) : Int) then some (mI (x4.2) (mR (x4.2) (x4.1) 1) (w32 (((10 * (v2 - 1)) + v3) - 1)).toNat, x4.2) else none else none else none else none else none) else some ((((0 : Fin 2) : Nat) : Int), σ)) else none
set_option maxRecDepth 100000 in
theorem ok_x1_value {ω : gW} {l : Launch} {d : Nat} {N : Nat} {σ : gMem} {v0 : Nat} {v1 : Int} {v2 : Int} {v3 : Int} (hl : l.stackTraces = false) (hdp : 204 ≤ d) (hv1 : g32 v1) (hv2 : g32 v2) (hv3 : g32 v3) : gK (fun p : Int × gMem => (.inl (some (vL p.1)), p.2)) gE ω l d mu_x1_value [vR v0, vI v1, vI v2, vI v3] σ (x1_value N v0 v1 v2 v3 σ) := by
  refine gK.of hp_X1 (Nat.le_of_ble_eq_true rfl) ?_
  unfold x1_value
  refine x_aload_n (μ := mu_x1_value) (pc := 0) 0 dX1_value_0 rfl ?_
  refine x_iload_n (μ := mu_x1_value) (pc := 1) 1 dX1_value_1 rfl ?_
  refine x_iload_n (μ := mu_x1_value) (pc := 2) 2 dX1_value_2 rfl ?_
  refine x_iload_n (μ := mu_x1_value) (pc := 3) 3 dX1_value_3 rfl ?_
  refine x_if (fun hT1 => ?_)
  refine x_callV_pi (μ := mu_x1_value) (pc := 4) (ok_x1_hasCell (ω := ω) (l := l) (d := d - 1) hl (by omega) hv1 hv2 hv3) gRel_E gRel_E (fun _ q => q) q816 q818 qs5 q221 q819 dX1_value_4 rfl hT1 hy_x1_hasCell (by omega) (Nat.le_of_ble_eq_true rfl) rfl (Nat.le_of_ble_eq_true rfl) (fun x2 hr3 => ?_)
  refine x_if_ne (μ := mu_x1_value) (pc := 7) (tgt := 12) dX1_value_7 rfl hr3 ?_ ?_
  · refine x_aload_n (μ := mu_x1_value) (pc := 12) 0 dX1_value_12 rfl ?_
    refine x_iload_n (μ := mu_x1_value) (pc := 13) 1 dX1_value_13 rfl ?_
    refine x_callV_mr (μ := mu_x1_value) (pc := 14) (ok_x1_valuesOf (ω := ω) (l := l) (d := d - 1) hl (by omega) hv1) gRel_E gRel_E (fun _ q => q) q824 q826 qs6 q221 q827 dX1_value_14 rfl hT1 hy_x1_valuesOf (by omega) (Nat.le_of_ble_eq_true rfl) rfl (Nat.le_of_ble_eq_true rfl) (fun x4 k5 => ?_)
    refine x_astore (μ := mu_x1_value) (pc := 17) (lv' := [(4, vR (x4.1)), (0, vR v0), (1, vI v1), (2, vI v2), (3, vI v3)]) dX1_value_17 (by decide) rfl ?_
    refine x_bipush (μ := mu_x1_value) (pc := 19) dX1_value_19 (by decide) ?_
    refine x_iload_n (μ := mu_x1_value) (pc := 21) 3 dX1_value_21 rfl ?_
    refine x_iconst (μ := mu_x1_value) (pc := 22) dX1_value_22 ?_
    refine x_isub (μ := mu_x1_value) (pc := 23) dX1_value_23 ?_
    refine x_imul (μ := mu_x1_value) (pc := 24) dX1_value_24 ?_
    refine x_iload_n (μ := mu_x1_value) (pc := 25) 4 dX1_value_25 rfl ?_
    refine x_iadd (μ := mu_x1_value) (pc := 26) dX1_value_26 ?_
    refine x_iconst (μ := mu_x1_value) (pc := 27) dX1_value_27 ?_
    refine x_isub (μ := mu_x1_value) (pc := 28) dX1_value_28 ?_
    refine x_w1 ?_
    refine x_istore (μ := mu_x1_value) (pc := 29) (lv' := [(5, vI (w32 (((10 * (v2 - 1)) + v3) - 1))), (4, vR (x4.1)), (0, vR v0), (1, vI v1), (2, vI v2), (3, vI v3)]) dX1_value_29 (by decide) rfl ?_
    refine x_aload (μ := mu_x1_value) (pc := 31) 1 dX1_value_31 rfl ?_
    refine x_if (fun hT6 => ?_)
    refine x_fgrN (μ := mu_x1_value) (pc := 33) fX2_0 (by first | exact Or.inl ⟨_, rfl⟩ | exact Or.inr ⟨_, rfl⟩) q285 dX1_value_33 hT6 ?_
    refine x_iload (μ := mu_x1_value) (pc := 36) 0 dX1_value_36 rfl ?_
    refine x_if (fun hT7 => ?_)
    refine x_bald (μ := mu_x1_value) (pc := 38) dX1_value_38 hT7 rfl (fun hr8 => ?_)
    refine x_iconst (μ := mu_x1_value) (pc := 39) dX1_value_39 ?_
    refine x_icmp_ne (μ := mu_x1_value) (pc := 40) (tgt := 55) dX1_value_40 rfl hr8 (by decide) ?_ ?_
    · refine x_aload (μ := mu_x1_value) (pc := 55) 1 dX1_value_55 rfl ?_
      refine x_fgrN (μ := mu_x1_value) (pc := 57) fX2_3 (by first | exact Or.inl ⟨_, rfl⟩ | exact Or.inr ⟨_, rfl⟩) q291 dX1_value_57 hT6 ?_
      refine x_iload (μ := mu_x1_value) (pc := 60) 0 dX1_value_60 rfl ?_
      refine x_if (fun hT9 => ?_)
      refine x_lald (μ := mu_x1_value) (pc := 62) dX1_value_62 hT9 rfl (fun hr10 => ?_)
      exact x_lret (μ := mu_x1_value) (pc := 63) dX1_value_63 rfl rfl (gRel_E.1 _) (show g64 (mL (x4.2) (mR (x4.2) (x4.1) 3) (w32 (((10 * (v2 - 1)) + v3) - 1)).toNat) from hr10)
    · refine x_aload (μ := mu_x1_value) (pc := 43) 1 dX1_value_43 rfl ?_
      refine x_fgrN (μ := mu_x1_value) (pc := 45) fX2_1 (by first | exact Or.inl ⟨_, rfl⟩ | exact Or.inr ⟨_, rfl⟩) q287 dX1_value_45 hT6 ?_
      refine x_iload (μ := mu_x1_value) (pc := 48) 0 dX1_value_48 rfl ?_
      refine x_if (fun hT11 => ?_)
      refine x_bald (μ := mu_x1_value) (pc := 50) dX1_value_50 hT11 rfl (fun hr12 => ?_)
      refine x_i2l (μ := mu_x1_value) (pc := 51) dX1_value_51 hr12 ?_
      refine x_goto (μ := mu_x1_value) (pc := 52) (tgt := 63) dX1_value_52 rfl ?_
      exact x_lret (μ := mu_x1_value) (pc := 63) dX1_value_63 rfl rfl (gRel_E.1 _) (show g64 (mI (x4.2) (mR (x4.2) (x4.1) 1) (w32 (((10 * (v2 - 1)) + v3) - 1)).toNat) from (g32_64 hr12))
  · refine x_lconst (μ := mu_x1_value) (pc := 10) dX1_value_10 ?_
    exact x_lret (μ := mu_x1_value) (pc := 11) dX1_value_11 rfl rfl (gRel_E.1 _) (show g64 (((0 : Fin 2) : Nat) : Int) from (by decide))
def x1_letter (N : Nat) (v0 : Nat) (v1 : Int) (v2 : Int) (v3 : Int) (v4 : Int) (σ : gMem) : Option (Int × gMem) := if mT σ v0 = 1 then (x1_hasCell v0 v1 v2 v3 σ).bind (fun x2 => if x2 ≠ 0 then (x1_valuesOf N v0 v1 σ).bind (fun x4 => if mT (x4.2) (x4.1) = 2 then if mT (x4.2) (mR (x4.2) (x4.1) 0) = 102 then if 0 ≤ (w32 (((10 * (v2 - 1)) + v3) - 1)) ∧ (w32 (((10 * (v2 - 1)) + v3) - 1)) < (mN (x4.2) (mR (x4.2) (x4.1) 0) : Int) then if mI (x4.2) (mR (x4.2) (x4.1) 0) (w32 (((10 * (v2 - 1)) + v3) - 1)).toNat ≠ 2 then some ((-1), x4.2) else if v4 < 0 then some ((-1), x4.2) else if mT (x4.2) (mR (x4.2) (x4.1) 1) = 102 then if 0 ≤ (w32 (((10 * (v2 - 1)) + v3) - 1)) ∧ (w32 (((10 * (v2 - 1)) + v3) - 1)) < (mN (x4.2) (mR (x4.2) (x4.1) 1) : Int) then if mI (x4.2) (mR (x4.2) (x4.1) 1) (w32 (((10 * (v2 - 1)) + v3) - 1)).toNat ≤ v4 then some ((-1), x4.2) else if mT (x4.2) (mR (x4.2) (x4.1) 2) = 102 then if 0 ≤ ((24 * (w32 (((10 * (v2 - 1)) + v3) - 1))) + v4) ∧ ((24 * (w32 (((10 * (v2 - 1)) + v3) - 1))) + v4) < (mN (x4.2) (mR (x4.2) (x4.1) 2) : Int) then some (mI (x4.2) (mR (x4.2) (x4.1) 2) ((24 * (w32 (((10 * (v2 - 1)) + v3) - 1))) + v4).toNat, x4.2) else none else none else none else none else none else none else none) else some ((-1), σ)) else none
set_option maxRecDepth 100000 in
theorem ok_x1_letter {ω : gW} {l : Launch} {d : Nat} {N : Nat} {σ : gMem} {v0 : Nat} {v1 : Int} {v2 : Int} {v3 : Int} {v4 : Int} (hl : l.stackTraces = false) (hdp : 204 ≤ d) (hv1 : g32 v1) (hv2 : g32 v2) (hv3 : g32 v3) (hv4 : g32 v4) : gK (fun p : Int × gMem => (.inl (some (vI p.1)), p.2)) gE ω l d mu_x1_letter [vR v0, vI v1, vI v2, vI v3, vI v4] σ (x1_letter N v0 v1 v2 v3 v4 σ) := by
  refine gK.of hp_X1 (Nat.le_of_ble_eq_true rfl) ?_
  unfold x1_letter
  refine x_aload_n (μ := mu_x1_letter) (pc := 0) 0 dX1_letter_0 rfl ?_
  refine x_iload_n (μ := mu_x1_letter) (pc := 1) 1 dX1_letter_1 rfl ?_
  refine x_iload_n (μ := mu_x1_letter) (pc := 2) 2 dX1_letter_2 rfl ?_
  refine x_iload_n (μ := mu_x1_letter) (pc := 3) 3 dX1_letter_3 rfl ?_
  refine x_if (fun hT1 => ?_)
  refine x_callV_pi (μ := mu_x1_letter) (pc := 4) (ok_x1_hasCell (ω := ω) (l := l) (d := d - 1) hl (by omega) hv1 hv2 hv3) gRel_E gRel_E (fun _ q => q) q816 q818 qs5 q221 q819 dX1_letter_4 rfl hT1 hy_x1_hasCell (by omega) (Nat.le_of_ble_eq_true rfl) rfl (Nat.le_of_ble_eq_true rfl) (fun x2 hr3 => ?_)
  refine x_if_ne (μ := mu_x1_letter) (pc := 7) (tgt := 12) dX1_letter_7 rfl hr3 ?_ ?_
  · refine x_aload_n (μ := mu_x1_letter) (pc := 12) 0 dX1_letter_12 rfl ?_
    refine x_iload_n (μ := mu_x1_letter) (pc := 13) 1 dX1_letter_13 rfl ?_
    refine x_callV_mr (μ := mu_x1_letter) (pc := 14) (ok_x1_valuesOf (ω := ω) (l := l) (d := d - 1) hl (by omega) hv1) gRel_E gRel_E (fun _ q => q) q824 q826 qs6 q221 q827 dX1_letter_14 rfl hT1 hy_x1_valuesOf (by omega) (Nat.le_of_ble_eq_true rfl) rfl (Nat.le_of_ble_eq_true rfl) (fun x4 k5 => ?_)
    refine x_astore (μ := mu_x1_letter) (pc := 17) (lv' := [(5, vR (x4.1)), (0, vR v0), (1, vI v1), (2, vI v2), (3, vI v3), (4, vI v4)]) dX1_letter_17 (by decide) rfl ?_
    refine x_bipush (μ := mu_x1_letter) (pc := 19) dX1_letter_19 (by decide) ?_
    refine x_iload_n (μ := mu_x1_letter) (pc := 21) 3 dX1_letter_21 rfl ?_
    refine x_iconst (μ := mu_x1_letter) (pc := 22) dX1_letter_22 ?_
    refine x_isub (μ := mu_x1_letter) (pc := 23) dX1_letter_23 ?_
    refine x_imul (μ := mu_x1_letter) (pc := 24) dX1_letter_24 ?_
    refine x_iload_n (μ := mu_x1_letter) (pc := 25) 4 dX1_letter_25 rfl ?_
    refine x_iadd (μ := mu_x1_letter) (pc := 26) dX1_letter_26 ?_
    refine x_iconst (μ := mu_x1_letter) (pc := 27) dX1_letter_27 ?_
    refine x_isub (μ := mu_x1_letter) (pc := 28) dX1_letter_28 ?_
    refine x_w1 ?_
    refine x_istore (μ := mu_x1_letter) (pc := 29) (lv' := [(6, vI (w32 (((10 * (v2 - 1)) + v3) - 1))), (5, vR (x4.1)), (0, vR v0), (1, vI v1), (2, vI v2), (3, vI v3), (4, vI v4)]) dX1_letter_29 (by decide) rfl ?_
    refine x_aload (μ := mu_x1_letter) (pc := 31) 1 dX1_letter_31 rfl ?_
    refine x_if (fun hT6 => ?_)
    refine x_fgrN (μ := mu_x1_letter) (pc := 33) fX2_0 (by first | exact Or.inl ⟨_, rfl⟩ | exact Or.inr ⟨_, rfl⟩) q285 dX1_letter_33 hT6 ?_
    refine x_iload (μ := mu_x1_letter) (pc := 36) 0 dX1_letter_36 rfl ?_
    refine x_if (fun hT7 => ?_)
    refine x_bald (μ := mu_x1_letter) (pc := 38) dX1_letter_38 hT7 rfl (fun hr8 => ?_)
    refine x_iconst (μ := mu_x1_letter) (pc := 39) dX1_letter_39 ?_
    refine x_icmp_ne (μ := mu_x1_letter) (pc := 40) (tgt := 78) dX1_letter_40 rfl hr8 (by decide) ?_ ?_
    · refine x_iconst (μ := mu_x1_letter) (pc := 78) dX1_letter_78 ?_
      exact x_iret (μ := mu_x1_letter) (pc := 79) dX1_letter_79 rfl rfl (gRel_E.1 _) (show g32 (-1) from (by decide))
    · refine x_iload (μ := mu_x1_letter) (pc := 43) 6 dX1_letter_43 rfl ?_
      refine x_if_lt (μ := mu_x1_letter) (pc := 45) (tgt := 78) dX1_letter_45 rfl hv4 ?_ ?_
      · refine x_iconst (μ := mu_x1_letter) (pc := 78) dX1_letter_78 ?_
        exact x_iret (μ := mu_x1_letter) (pc := 79) dX1_letter_79 rfl rfl (gRel_E.1 _) (show g32 (-1) from (by decide))
      · refine x_iload (μ := mu_x1_letter) (pc := 48) 6 dX1_letter_48 rfl ?_
        refine x_aload (μ := mu_x1_letter) (pc := 50) 1 dX1_letter_50 rfl ?_
        refine x_fgrN (μ := mu_x1_letter) (pc := 52) fX2_1 (by first | exact Or.inl ⟨_, rfl⟩ | exact Or.inr ⟨_, rfl⟩) q287 dX1_letter_52 hT6 ?_
        refine x_iload (μ := mu_x1_letter) (pc := 55) 0 dX1_letter_55 rfl ?_
        refine x_if (fun hT9 => ?_)
        refine x_bald (μ := mu_x1_letter) (pc := 57) dX1_letter_57 hT9 rfl (fun hr10 => ?_)
        refine x_icmp_ge (μ := mu_x1_letter) (pc := 58) (tgt := 78) dX1_letter_58 rfl hv4 hr10 ?_ ?_
        · refine x_iconst (μ := mu_x1_letter) (pc := 78) dX1_letter_78 ?_
          exact x_iret (μ := mu_x1_letter) (pc := 79) dX1_letter_79 rfl rfl (gRel_E.1 _) (show g32 (-1) from (by decide))
        · refine x_aload (μ := mu_x1_letter) (pc := 61) 1 dX1_letter_61 rfl ?_
          refine x_fgrN (μ := mu_x1_letter) (pc := 63) fX2_2 (by first | exact Or.inl ⟨_, rfl⟩ | exact Or.inr ⟨_, rfl⟩) q289 dX1_letter_63 hT6 ?_
          refine x_bipush (μ := mu_x1_letter) (pc := 66) dX1_letter_66 (by decide) ?_
          refine x_iload (μ := mu_x1_letter) (pc := 68) 0 dX1_letter_68 rfl ?_
          refine x_imul (μ := mu_x1_letter) (pc := 70) dX1_letter_70 ?_
          refine x_iload (μ := mu_x1_letter) (pc := 71) 6 dX1_letter_71 rfl ?_
          refine x_iadd (μ := mu_x1_letter) (pc := 73) dX1_letter_73 ?_
          refine x_if (fun hT11 => ?_)
          refine x_bald (μ := mu_x1_letter) (pc := 74) dX1_letter_74 hT11 rfl (fun hr12 => ?_)
          refine x_goto (μ := mu_x1_letter) (pc := 75) (tgt := 79) dX1_letter_75 rfl ?_
          exact x_iret (μ := mu_x1_letter) (pc := 79) dX1_letter_79 rfl rfl (gRel_E.1 _) (show g32 (mI (x4.2) (mR (x4.2) (x4.1) 2) ((24 * (w32 (((10 * (v2 - 1)) + v3) - 1))) + v4).toNat) from hr12)
  · refine x_iconst (μ := mu_x1_letter) (pc := 10) dX1_letter_10 ?_
    exact x_iret (μ := mu_x1_letter) (pc := 11) dX1_letter_11 rfl rfl (gRel_E.1 _) (show g32 (-1) from (by decide))
def x1_weave (N : Nat) (v0 : Nat) (v1 : Nat) (v2 : Nat) (σ : gMem) : Option gR := gLet (wN σ 23 6) (fun s2 => if mT s2 v0 = 1 then (x25_init (mZ σ) v1 (mR s2 v0 8) v2 s2).bind (fun x5 => (x25_weave N (mZ σ) x5).bind (fun x7 => if x7.1 ≠ 0 then gLet (wR (x7.2) v0 8 (mR (x7.2) (mZ σ) 3)) (fun s10 => gLet (wR s10 v0 18 (mR s10 (mZ σ) 4)) (fun s12 => gLet (wI s12 v0 20 (mI s12 (mZ σ) 5)) (fun s15 => if 0 ≤ (mI s15 v0 20) ∧ (mI s15 v0 20) < 1000000 then gLet (wN s15 103 (mI s15 v0 20).toNat) (fun s20 => gLet (wR s20 v0 19 (mZ s15)) (fun s22 => gLet (wI s22 v0 16 (w32 ((mI s22 v0 16) + 1))) (fun s25 => (x1_forget v0 s25).bind (fun x27 => some (.inl (some (vI (mI x27 v0 20))), x27))))) else none))) else some (.inr "java/lang/IllegalStateException", wX (x7.2) 6))) else none)
set_option maxRecDepth 100000 in
theorem ok_x1_weave {ω : gW} {l : Launch} {d : Nat} {N : Nat} {σ : gMem} {v0 : Nat} {v1 : Nat} {v2 : Nat} (hl : l.stackTraces = false) (hdp : 72 ≤ d) : gK (fun p : gR => p) gE ω l d mu_x1_weave [vR v0, vR v1, vR v2] σ (x1_weave N v0 v1 v2 σ) := by
  refine gK.of hp_X1 (Nat.le_of_ble_eq_true rfl) ?_
  unfold x1_weave
  refine x_ok (fun ok1 => ?_)
  refine x_new (μ := mu_x1_weave) (pc := 0) (ci := 22) gk_X25 gd_X25 q2463 q2464 q266 dX1_weave_0 ?_
  refine x_let (fun s2 e3 => ?_)
  refine x_dup (μ := mu_x1_weave) (pc := 3) dX1_weave_3 rfl ?_
  refine x_aload_n (μ := mu_x1_weave) (pc := 4) 1 dX1_weave_4 rfl ?_
  refine x_aload_n (μ := mu_x1_weave) (pc := 5) 0 dX1_weave_5 rfl ?_
  refine x_if (fun hT4 => ?_)
  refine x_fgr (μ := mu_x1_weave) (pc := 6) fX1_8 (by first | exact Or.inl ⟨_, rfl⟩ | exact Or.inr ⟨_, rfl⟩) q653 dX1_weave_6 hT4 ?_
  refine x_aload_n (μ := mu_x1_weave) (pc := 9) 2 dX1_weave_9 rfl ?_
  refine x_callI_mv (μ := mu_x1_weave) (pc := 10) (ok_x25_init (ω := ω) (l := l) (d := d - 1) hl (by omega) ) gRel_E gRel_E (fun _ q => q) q2465 q2466 q266 q2467 dX1_weave_10 (gT_ne (gT_new e3)) rfl hy_x25_init (by omega) (Nat.le_of_ble_eq_true rfl) rfl (Nat.le_of_ble_eq_true rfl) (fun x5 k6 => ?_)
  refine x_astore_n (μ := mu_x1_weave) (pc := 13) (lv' := [(3, vR (mZ σ)), (0, vR v0), (1, vR v1), (2, vR v2)]) dX1_weave_13 rfl (by decide) rfl ?_
  refine x_aload_n (μ := mu_x1_weave) (pc := 14) 0 dX1_weave_14 rfl ?_
  refine x_callV_mi (μ := mu_x1_weave) (pc := 15) (ok_x25_weave (ω := ω) (l := l) (d := d - 1) hl (by omega) ) gRel_E gRel_E (fun _ q => q) q2492 q2493 q2494 q266 q2495 dX1_weave_15 rfl (gT_E k6 (gT_new e3) (by decide)) hy_x25_weave (by omega) (Nat.le_of_ble_eq_true rfl) rfl (Nat.le_of_ble_eq_true rfl) (fun x7 k9 hr8 => ?_)
  refine x_if_ne (μ := mu_x1_weave) (pc := 18) (tgt := 29) dX1_weave_18 rfl hr8 ?_ ?_
  · refine x_aload_n (μ := mu_x1_weave) (pc := 29) 1 dX1_weave_29 rfl ?_
    refine x_aload_n (μ := mu_x1_weave) (pc := 30) 0 dX1_weave_30 rfl ?_
    refine x_fgrN (μ := mu_x1_weave) (pc := 31) fX25_3 (by first | exact Or.inl ⟨_, rfl⟩ | exact Or.inr ⟨_, rfl⟩) q2474 dX1_weave_31 (gT_E k9 (gT_E k6 (gT_new e3) (by decide)) (by decide)) ?_
    refine x_fpr (μ := mu_x1_weave) (pc := 34) fX1_8 q653 (by first | exact Or.inl ⟨_, rfl⟩ | exact Or.inr ⟨_, rfl⟩) dX1_weave_34 (gT_E k9 (gT_E k6 hT4 (by decide)) (by decide)) (fun _ q => gE_wR q) ?_
    refine x_let (fun s10 e11 => ?_)
    refine x_aload_n (μ := mu_x1_weave) (pc := 37) 1 dX1_weave_37 rfl ?_
    refine x_aload_n (μ := mu_x1_weave) (pc := 38) 0 dX1_weave_38 rfl ?_
    refine x_fgrN (μ := mu_x1_weave) (pc := 39) fX25_4 (by first | exact Or.inl ⟨_, rfl⟩ | exact Or.inr ⟨_, rfl⟩) q2476 dX1_weave_39 (gT_R e11 (gT_E k9 (gT_E k6 (gT_new e3) (by decide)) (by decide))) ?_
    refine x_fpr (μ := mu_x1_weave) (pc := 42) fX1_18 q663 (by first | exact Or.inl ⟨_, rfl⟩ | exact Or.inr ⟨_, rfl⟩) dX1_weave_42 (gT_R e11 (gT_E k9 (gT_E k6 hT4 (by decide)) (by decide))) (fun _ q => gE_wR q) ?_
    refine x_let (fun s12 e13 => ?_)
    refine x_aload_n (μ := mu_x1_weave) (pc := 45) 1 dX1_weave_45 rfl ?_
    refine x_aload_n (μ := mu_x1_weave) (pc := 46) 0 dX1_weave_46 rfl ?_
    refine x_fgiN (μ := mu_x1_weave) (pc := 47) fX25_5 q2478 dX1_weave_47 (gT_R e13 (gT_R e11 (gT_E k9 (gT_E k6 (gT_new e3) (by decide)) (by decide)))) (fun hr14 => ?_)
    refine x_fpi (μ := mu_x1_weave) (pc := 50) fX1_20 q665 dX1_weave_50 (gT_R e13 (gT_R e11 (gT_E k9 (gT_E k6 hT4 (by decide)) (by decide)))) (fun _ q => gE_wI q) ?_
    refine x_let (fun s15 e16 => ?_)
    refine x_aload_n (μ := mu_x1_weave) (pc := 53) 1 dX1_weave_53 rfl ?_
    refine x_aload_n (μ := mu_x1_weave) (pc := 54) 1 dX1_weave_54 rfl ?_
    refine x_fgi (μ := mu_x1_weave) (pc := 55) fX1_20 q665 dX1_weave_55 (gT_I e16 (gT_R e13 (gT_R e11 (gT_E k9 (gT_E k6 hT4 (by decide)) (by decide))))) (fun hr17 => ?_)
    refine x_if (fun hg18 => ?_)
    refine x_ok (fun ok19 => ?_)
    refine x_newaz (μ := mu_x1_weave) (pc := 58) dX1_weave_58 hg18 ?_
    refine x_let (fun s20 e21 => ?_)
    refine x_fpr (μ := mu_x1_weave) (pc := 60) fX1_19 q664 (by first | exact Or.inl ⟨_, rfl⟩ | exact Or.inr ⟨_, rfl⟩) dX1_weave_60 (gT_N e21 ok19 (gT_I e16 (gT_R e13 (gT_R e11 (gT_E k9 (gT_E k6 hT4 (by decide)) (by decide))))) (by decide)) (fun _ q => gE_wR q) ?_
    refine x_let (fun s22 e23 => ?_)
    refine x_aload_n (μ := mu_x1_weave) (pc := 63) 1 dX1_weave_63 rfl ?_
    refine x_dup (μ := mu_x1_weave) (pc := 64) dX1_weave_64 rfl ?_
    refine x_fgi (μ := mu_x1_weave) (pc := 65) fX1_16 q661 dX1_weave_65 (gT_R e23 (gT_N e21 ok19 (gT_I e16 (gT_R e13 (gT_R e11 (gT_E k9 (gT_E k6 hT4 (by decide)) (by decide))))) (by decide))) (fun hr24 => ?_)
    refine x_iconst (μ := mu_x1_weave) (pc := 68) dX1_weave_68 ?_
    refine x_iadd (μ := mu_x1_weave) (pc := 69) dX1_weave_69 ?_
    refine x_w1 ?_
    refine x_fpi (μ := mu_x1_weave) (pc := 70) fX1_16 q661 dX1_weave_70 (gT_R e23 (gT_N e21 ok19 (gT_I e16 (gT_R e13 (gT_R e11 (gT_E k9 (gT_E k6 hT4 (by decide)) (by decide))))) (by decide))) (fun _ q => gE_wI q) ?_
    refine x_let (fun s25 e26 => ?_)
    refine x_aload_n (μ := mu_x1_weave) (pc := 73) 1 dX1_weave_73 rfl ?_
    refine x_callV_mv (μ := mu_x1_weave) (pc := 74) (ok_x1_forget (ω := ω) (l := l) (d := d - 1) hl (by omega) ) gRel_E gRel_E (fun _ q => q) q770 q772 qs3 q221 q773 dX1_weave_74 rfl (gT_I e26 (gT_R e23 (gT_N e21 ok19 (gT_I e16 (gT_R e13 (gT_R e11 (gT_E k9 (gT_E k6 hT4 (by decide)) (by decide))))) (by decide)))) hy_x1_forget (by omega) (Nat.le_of_ble_eq_true rfl) rfl (Nat.le_of_ble_eq_true rfl) (fun x27 k28 => ?_)
    refine x_aload_n (μ := mu_x1_weave) (pc := 77) 1 dX1_weave_77 rfl ?_
    refine x_fgi (μ := mu_x1_weave) (pc := 78) fX1_20 q665 dX1_weave_78 (gT_E k28 (gT_I e26 (gT_R e23 (gT_N e21 ok19 (gT_I e16 (gT_R e13 (gT_R e11 (gT_E k9 (gT_E k6 hT4 (by decide)) (by decide))))) (by decide)))) (by decide)) (fun hr29 => ?_)
    exact x_iret (μ := mu_x1_weave) (pc := 81) (a1 := ((.inl (some (vI (mI x27 v0 20))), x27) : gR)) dX1_weave_81 rfl rfl (gRel_E.1 _) (show g32 (mI x27 v0 20) from hr29)
  · exact x_throw0 (μ := mu_x1_weave) (pc := 21) hl gex_IllegalStateException (by decide) rfl q2207 q259 dX1_weave_21 dX1_weave_24 dX1_weave_25 dX1_weave_28 (by decide) (by omega) (Nat.le_of_ble_eq_true rfl)
def x1_pick (N : Nat) (v0 : Nat) (v1 : Int) (σ : gMem) : Option gR := if v1 < 1 then some (.inr "java/util/NoSuchElementException", wX σ 6) else if mT σ v0 = 1 then if v1 < mI σ v0 5 then if mI σ v0 16 ≠ 200 then (x1_isBusy N v0 σ).bind (fun x4 => if x4 = 0 then if mT σ (mR σ v0 4) = 104 then if 0 ≤ v1 ∧ v1 < (mN σ (mR σ v0 4) : Int) then if mT σ (mR σ (mR σ v0 4) v1.toNat) = 9 then if 0 ≤ (mI σ (mR σ (mR σ v0 4) v1.toNat) 2) ∧ (mI σ (mR σ (mR σ v0 4) v1.toNat) 2) < (mN σ (mR σ v0 4) : Int) then if mT σ (mR σ (mR σ v0 4) (mI σ (mR σ (mR σ v0 4) v1.toNat) 2).toNat) = 9 then if 0 ≤ v1 ∧ v1 < (mN σ (mR σ v0 4) : Int) then (x1_weave N v0 (mR σ (mR σ (mR σ v0 4) (mI σ (mR σ (mR σ v0 4) v1.toNat) 2).toNat) 0) (mR σ (mR σ (mR σ v0 4) v1.toNat) 0) σ).bind (fun p => gThrI p (fun x10 s13 => some (.inl (some (vI x10)), s13))) else none else none else none else none else none else none else some (.inr "java/lang/IllegalStateException", wX σ 6)) else some (.inr "java/lang/UnsupportedOperationException", wX σ 6) else some (.inr "java/util/NoSuchElementException", wX σ 6) else none
set_option maxRecDepth 100000 in
theorem ok_x1_pick {ω : gW} {l : Launch} {d : Nat} {N : Nat} {σ : gMem} {v0 : Nat} {v1 : Int} (hl : l.stackTraces = false) (hdp : 73 ≤ d) (hv1 : g32 v1) : gK (fun p : gR => p) gE ω l d mu_x1_pick [vR v0, vI v1] σ (x1_pick N v0 v1 σ) := by
  refine gK.of hp_X1 (Nat.le_of_ble_eq_true rfl) ?_
  unfold x1_pick
  refine x_iload_n (μ := mu_x1_pick) (pc := 0) 1 dX1_pick_0 rfl ?_
  refine x_iconst (μ := mu_x1_pick) (pc := 1) dX1_pick_1 ?_
  refine x_icmp_lt (μ := mu_x1_pick) (pc := 2) (tgt := 13) dX1_pick_2 rfl hv1 (by decide) ?_ ?_
  · exact x_throw0 (μ := mu_x1_pick) (pc := 13) hl gex_NoSuchElementException (by decide) rfl q2397 q265 dX1_pick_13 dX1_pick_16 dX1_pick_17 dX1_pick_20 (by decide) (by omega) (Nat.le_of_ble_eq_true rfl)
  · refine x_iload_n (μ := mu_x1_pick) (pc := 5) 1 dX1_pick_5 rfl ?_
    refine x_aload_n (μ := mu_x1_pick) (pc := 6) 0 dX1_pick_6 rfl ?_
    refine x_if (fun hT1 => ?_)
    refine x_fgi (μ := mu_x1_pick) (pc := 7) fX1_5 q650 dX1_pick_7 hT1 (fun hr2 => ?_)
    refine x_icmp_lt (μ := mu_x1_pick) (pc := 10) (tgt := 21) dX1_pick_10 rfl hv1 hr2 ?_ ?_
    · refine x_aload_n (μ := mu_x1_pick) (pc := 21) 0 dX1_pick_21 rfl ?_
      refine x_fgi (μ := mu_x1_pick) (pc := 22) fX1_16 q661 dX1_pick_22 hT1 (fun hr3 => ?_)
      refine x_sipush (μ := mu_x1_pick) (pc := 25) dX1_pick_25 (by decide) ?_
      refine x_icmp_ne (μ := mu_x1_pick) (pc := 28) (tgt := 39) dX1_pick_28 rfl hr3 (by decide) ?_ ?_
      · refine x_aload_n (μ := mu_x1_pick) (pc := 39) 0 dX1_pick_39 rfl ?_
        refine x_callV_pi (μ := mu_x1_pick) (pc := 40) (ok_x1_isBusy (ω := ω) (l := l) (d := d - 1) hl (by omega) ) gRel_E gRel_E (fun _ q => q) q2447 q2449 qs64 q221 q2450 dX1_pick_40 rfl hT1 hy_x1_isBusy (by omega) (Nat.le_of_ble_eq_true rfl) rfl (Nat.le_of_ble_eq_true rfl) (fun x4 hr5 => ?_)
        refine x_if_eq (μ := mu_x1_pick) (pc := 43) (tgt := 54) dX1_pick_43 rfl hr5 ?_ ?_
        · refine x_aload_n (μ := mu_x1_pick) (pc := 54) 0 dX1_pick_54 rfl ?_
          refine x_aload_n (μ := mu_x1_pick) (pc := 55) 0 dX1_pick_55 rfl ?_
          refine x_fgr (μ := mu_x1_pick) (pc := 56) fX1_4 (by first | exact Or.inl ⟨_, rfl⟩ | exact Or.inr ⟨_, rfl⟩) q649 dX1_pick_56 hT1 ?_
          refine x_aload_n (μ := mu_x1_pick) (pc := 59) 0 dX1_pick_59 rfl ?_
          refine x_fgr (μ := mu_x1_pick) (pc := 60) fX1_4 (by first | exact Or.inl ⟨_, rfl⟩ | exact Or.inr ⟨_, rfl⟩) q649 dX1_pick_60 hT1 ?_
          refine x_iload_n (μ := mu_x1_pick) (pc := 63) 1 dX1_pick_63 rfl ?_
          refine x_if (fun hT6 => ?_)
          refine x_aald (μ := mu_x1_pick) (pc := 64) 4 (fun _ => rfl) rfl rfl dX1_pick_64 hT6 rfl ?_
          refine x_if (fun hT7 => ?_)
          refine x_fgiN (μ := mu_x1_pick) (pc := 65) fX10_2 q607 dX1_pick_65 hT7 (fun hr8 => ?_)
          refine x_aald (μ := mu_x1_pick) (pc := 68) 4 (fun _ => rfl) rfl rfl dX1_pick_68 hT6 rfl ?_
          refine x_if (fun hT9 => ?_)
          refine x_fgrN (μ := mu_x1_pick) (pc := 69) fX10_0 (by first | exact Or.inl ⟨_, rfl⟩ | exact Or.inr ⟨_, rfl⟩) q600 dX1_pick_69 hT9 ?_
          refine x_aload_n (μ := mu_x1_pick) (pc := 72) 0 dX1_pick_72 rfl ?_
          refine x_fgr (μ := mu_x1_pick) (pc := 73) fX1_4 (by first | exact Or.inl ⟨_, rfl⟩ | exact Or.inr ⟨_, rfl⟩) q649 dX1_pick_73 hT1 ?_
          refine x_iload_n (μ := mu_x1_pick) (pc := 76) 1 dX1_pick_76 rfl ?_
          refine x_aald (μ := mu_x1_pick) (pc := 77) 4 (fun _ => rfl) rfl rfl dX1_pick_77 hT6 rfl ?_
          refine x_fgrN (μ := mu_x1_pick) (pc := 78) fX10_0 (by first | exact Or.inl ⟨_, rfl⟩ | exact Or.inr ⟨_, rfl⟩) q600 dX1_pick_78 hT7 ?_
          refine x_callV_xi (μ := mu_x1_pick) (pc := 81) (ok_x1_weave (ω := ω) (l := l) (d := d - 1) hl (by omega) ) q2459 q2461 qs65 q221 q2462 dX1_pick_81 rfl hT1 hy_x1_weave (by omega) (Nat.le_of_ble_eq_true rfl) rfl (Nat.le_of_ble_eq_true rfl) (by decide) (fun x10 s13 k12 hr11 => ?_)
          exact x_iret (μ := mu_x1_pick) (pc := 84) (a1 := ((.inl (some (vI x10)), s13) : gR)) dX1_pick_84 rfl rfl (gRel_E.1 _) (show g32 x10 from hr11)
        · exact x_throw0 (μ := mu_x1_pick) (pc := 46) hl gex_IllegalStateException (by decide) rfl q2207 q259 dX1_pick_46 dX1_pick_49 dX1_pick_50 dX1_pick_53 (by decide) (by omega) (Nat.le_of_ble_eq_true rfl)
      · exact x_throw0 (μ := mu_x1_pick) (pc := 31) hl gex_UnsupportedOperationException (by decide) rfl q2161 q258 dX1_pick_31 dX1_pick_34 dX1_pick_35 dX1_pick_38 (by decide) (by omega) (Nat.le_of_ble_eq_true rfl)
    · exact x_throw0 (μ := mu_x1_pick) (pc := 13) hl gex_NoSuchElementException (by decide) rfl q2397 q265 dX1_pick_13 dX1_pick_16 dX1_pick_17 dX1_pick_20 (by decide) (by omega) (Nat.le_of_ble_eq_true rfl)
def tw_readAtom (N : Nat) (W : gMem → Option gMem) (h : Nat) (σ : gMem) : Option gMem := if mI σ h 41 ≤ 0 then if mI σ h 47 = 1 then (tw_readPlain N h σ).bind (fun x3 => some x3) else if mI σ h 47 ≠ 2 then if mI σ h 47 ≠ 4 then if mI σ h 47 ≠ 5 then if mI σ h 47 ≠ 3 then if mI σ h 47 ≠ 6 then (tw_fail h 1 (mI σ h 48) σ).bind (fun x12 => some x12) else (tw_opens h σ).bind (fun x15 => if x15.1 = 0 then some (x15.2) else (tw_next N h (x15.2)).bind (fun x19 => (tw_readTest N W h x19).bind (fun x22 => (tw_readShut N h x22).bind (fun x25 => some x25)))) else (tw_readSpot N h σ).bind (fun x28 => some x28) else (tw_part N h 4 0 σ).bind (fun x31 => (tw_next N h (x31.2)).bind (fun x35 => some x35)) else (tw_readWord N W h σ).bind (fun x38 => some x38) else (tw_readPlain N h σ).bind (fun x41 => some x41) else some σ
set_option maxRecDepth 100000 in
theorem ok_tw_readAtom {ω : gW} {l : Launch} {d : Nat} {N : Nat} {W : gMem → Option gMem} {dW : Nat} {h : Nat} {σ : gMem} (hW : ∀ (s : gMem), TM s h → gK (fun p : gMem => (.inl none, p)) gTw ω l dW mu_tw_readSign [vR h] s (W s)) (hdp : 13 ≤ d) (hdw : dW + 7 ≤ d) (hM : TM σ h) : gK (fun p : gMem => (.inl none, p)) gTw ω l d mu_tw_readAtom [vR h] σ (tw_readAtom N W h σ) := by
  refine gK.of hp_X11 (Nat.le_of_ble_eq_true rfl) ?_
  unfold tw_readAtom
  refine x_aload_n (μ := mu_tw_readAtom) (pc := 0) 0 dX11_readAtom_0 rfl ?_
  refine x_fgi (μ := mu_tw_readAtom) (pc := 1) fX11_41 q2677 dX11_readAtom_1 hM.1 (fun hr1 => ?_)
  refine x_if_le (μ := mu_tw_readAtom) (pc := 4) (tgt := 8) dX11_readAtom_4 rfl hr1 ?_ ?_
  · refine x_aload_n (μ := mu_tw_readAtom) (pc := 8) 0 dX11_readAtom_8 rfl ?_
    refine x_fgi (μ := mu_tw_readAtom) (pc := 9) fX11_47 q2683 dX11_readAtom_9 hM.1 (fun hr2 => ?_)
    refine x_iconst (μ := mu_tw_readAtom) (pc := 12) dX11_readAtom_12 ?_
    refine x_icmp_eq (μ := mu_tw_readAtom) (pc := 13) (tgt := 24) dX11_readAtom_13 rfl hr2 (by decide) ?_ ?_
    · refine x_aload_n (μ := mu_tw_readAtom) (pc := 24) 0 dX11_readAtom_24 rfl ?_
      refine x_callV_mv (μ := mu_tw_readAtom) (pc := 25) (ok_tw_readPlain (ω := ω) (l := l) (d := d - 1) (by omega) hM ) gRel_Tw gRel_Tw (fun _ q => q) q3075 q3077 qs99 q232 q3078 dX11_readAtom_25 rfl hM.1 hy_tw_readPlain (by omega) (Nat.le_of_ble_eq_true rfl) rfl (Nat.le_of_ble_eq_true rfl) (fun x3 k4 => ?_)
      have hM5 : TM x3 h := hM.tw k4
      refine x_goto (μ := mu_tw_readAtom) (pc := 28) (tgt := 123) dX11_readAtom_28 rfl ?_
      exact x_vret (μ := mu_tw_readAtom) (pc := 123) (a1 := x3) dX11_readAtom_123 rfl rfl (gRel_Tw.1 _) trivial
    · refine x_aload_n (μ := mu_tw_readAtom) (pc := 16) 0 dX11_readAtom_16 rfl ?_
      refine x_fgi (μ := mu_tw_readAtom) (pc := 17) fX11_47 q2683 dX11_readAtom_17 hM.1 (fun hr6 => ?_)
      refine x_iconst (μ := mu_tw_readAtom) (pc := 20) dX11_readAtom_20 ?_
      refine x_icmp_ne (μ := mu_tw_readAtom) (pc := 21) (tgt := 31) dX11_readAtom_21 rfl hr6 (by decide) ?_ ?_
      · refine x_aload_n (μ := mu_tw_readAtom) (pc := 31) 0 dX11_readAtom_31 rfl ?_
        refine x_fgi (μ := mu_tw_readAtom) (pc := 32) fX11_47 q2683 dX11_readAtom_32 hM.1 (fun hr7 => ?_)
        refine x_iconst (μ := mu_tw_readAtom) (pc := 35) dX11_readAtom_35 ?_
        refine x_icmp_ne (μ := mu_tw_readAtom) (pc := 36) (tgt := 46) dX11_readAtom_36 rfl hr7 (by decide) ?_ ?_
        · refine x_aload_n (μ := mu_tw_readAtom) (pc := 46) 0 dX11_readAtom_46 rfl ?_
          refine x_fgi (μ := mu_tw_readAtom) (pc := 47) fX11_47 q2683 dX11_readAtom_47 hM.1 (fun hr8 => ?_)
          refine x_iconst (μ := mu_tw_readAtom) (pc := 50) dX11_readAtom_50 ?_
          refine x_icmp_ne (μ := mu_tw_readAtom) (pc := 51) (tgt := 68) dX11_readAtom_51 rfl hr8 (by decide) ?_ ?_
          · refine x_aload_n (μ := mu_tw_readAtom) (pc := 68) 0 dX11_readAtom_68 rfl ?_
            refine x_fgi (μ := mu_tw_readAtom) (pc := 69) fX11_47 q2683 dX11_readAtom_69 hM.1 (fun hr9 => ?_)
            refine x_iconst (μ := mu_tw_readAtom) (pc := 72) dX11_readAtom_72 ?_
            refine x_icmp_ne (μ := mu_tw_readAtom) (pc := 73) (tgt := 83) dX11_readAtom_73 rfl hr9 (by decide) ?_ ?_
            · refine x_aload_n (μ := mu_tw_readAtom) (pc := 83) 0 dX11_readAtom_83 rfl ?_
              refine x_fgi (μ := mu_tw_readAtom) (pc := 84) fX11_47 q2683 dX11_readAtom_84 hM.1 (fun hr10 => ?_)
              refine x_bipush (μ := mu_tw_readAtom) (pc := 87) dX11_readAtom_87 (by decide) ?_
              refine x_icmp_ne (μ := mu_tw_readAtom) (pc := 89) (tgt := 114) dX11_readAtom_89 rfl hr10 (by decide) ?_ ?_
              · refine x_aload_n (μ := mu_tw_readAtom) (pc := 114) 0 dX11_readAtom_114 rfl ?_
                refine x_iconst (μ := mu_tw_readAtom) (pc := 115) dX11_readAtom_115 ?_
                refine x_aload_n (μ := mu_tw_readAtom) (pc := 116) 0 dX11_readAtom_116 rfl ?_
                refine x_fgi (μ := mu_tw_readAtom) (pc := 117) fX11_48 q2684 dX11_readAtom_117 hM.1 (fun hr11 => ?_)
                refine x_callV_mv (μ := mu_tw_readAtom) (pc := 120) (ok_tw_fail (ω := ω) (l := l) (d := d - 1) (by omega) hM (by decide) hr11) gRel_Tw gRel_Tw (fun _ q => q) q3079 q3081 qs100 q232 q3082 dX11_readAtom_120 rfl hM.1 hy_tw_fail (by omega) (Nat.le_of_ble_eq_true rfl) rfl (Nat.le_of_ble_eq_true rfl) (fun x12 k13 => ?_)
                have hM14 : TM x12 h := hM.tw k13
                exact x_vret (μ := mu_tw_readAtom) (pc := 123) (a1 := x12) dX11_readAtom_123 rfl rfl (gRel_Tw.1 _) trivial
              · refine x_aload_n (μ := mu_tw_readAtom) (pc := 92) 0 dX11_readAtom_92 rfl ?_
                refine x_callV_mi (μ := mu_tw_readAtom) (pc := 93) (ok_tw_opens (ω := ω) (l := l) (d := d - 1) (by omega) hM ) gRel_Tw gRel_Tw (fun _ q => q) q3128 q3130 qs106 q232 q3131 dX11_readAtom_93 rfl hM.1 hy_tw_opens (by omega) (Nat.le_of_ble_eq_true rfl) rfl (Nat.le_of_ble_eq_true rfl) (fun x15 k17 hr16 => ?_)
                have hM18 : TM (x15.2) h := hM.tw k17
                refine x_if_eq (μ := mu_tw_readAtom) (pc := 96) (tgt := 123) dX11_readAtom_96 rfl hr16 ?_ ?_
                · exact x_vret (μ := mu_tw_readAtom) (pc := 123) (a1 := x15.2) dX11_readAtom_123 rfl rfl (gRel_Tw.1 _) trivial
                · refine x_aload_n (μ := mu_tw_readAtom) (pc := 99) 0 dX11_readAtom_99 rfl ?_
                  refine x_callV_mv (μ := mu_tw_readAtom) (pc := 100) (ok_tw_next (ω := ω) (l := l) (d := d - 1) (by omega) hM18 ) gRel_Tw gRel_Tw (fun _ q => q) q2995 q2997 qs82 q232 q2998 dX11_readAtom_100 rfl hM18.1 hy_tw_next (by omega) (Nat.le_of_ble_eq_true rfl) rfl (Nat.le_of_ble_eq_true rfl) (fun x19 k20 => ?_)
                  have hM21 : TM x19 h := hM18.tw k20
                  refine x_aload_n (μ := mu_tw_readAtom) (pc := 103) 0 dX11_readAtom_103 rfl ?_
                  refine x_callV_mv (μ := mu_tw_readAtom) (pc := 104) (ok_tw_readTest (ω := ω) (l := l) (d := d - 1) hW (by omega) (by omega) hM21 ) gRel_Tw gRel_Tw (fun _ q => q) q3047 q3049 qs92 q232 q3050 dX11_readAtom_104 rfl hM21.1 hy_tw_readTest (by omega) (Nat.le_of_ble_eq_true rfl) rfl (Nat.le_of_ble_eq_true rfl) (fun x22 k23 => ?_)
                  have hM24 : TM x22 h := hM21.tw k23
                  refine x_aload_n (μ := mu_tw_readAtom) (pc := 107) 0 dX11_readAtom_107 rfl ?_
                  refine x_callV_mv (μ := mu_tw_readAtom) (pc := 108) (ok_tw_readShut (ω := ω) (l := l) (d := d - 1) (by omega) hM24 ) gRel_Tw gRel_Tw (fun _ q => q) q3163 q3165 qs114 q232 q3166 dX11_readAtom_108 rfl hM24.1 hy_tw_readShut (by omega) (Nat.le_of_ble_eq_true rfl) rfl (Nat.le_of_ble_eq_true rfl) (fun x25 k26 => ?_)
                  have hM27 : TM x25 h := hM24.tw k26
                  refine x_goto (μ := mu_tw_readAtom) (pc := 111) (tgt := 123) dX11_readAtom_111 rfl ?_
                  exact x_vret (μ := mu_tw_readAtom) (pc := 123) (a1 := x25) dX11_readAtom_123 rfl rfl (gRel_Tw.1 _) trivial
            · refine x_aload_n (μ := mu_tw_readAtom) (pc := 76) 0 dX11_readAtom_76 rfl ?_
              refine x_callV_mv (μ := mu_tw_readAtom) (pc := 77) (ok_tw_readSpot (ω := ω) (l := l) (d := d - 1) (by omega) hM ) gRel_Tw gRel_Tw (fun _ q => q) q3173 q3175 qs115 q232 q3176 dX11_readAtom_77 rfl hM.1 hy_tw_readSpot (by omega) (Nat.le_of_ble_eq_true rfl) rfl (Nat.le_of_ble_eq_true rfl) (fun x28 k29 => ?_)
              have hM30 : TM x28 h := hM.tw k29
              refine x_goto (μ := mu_tw_readAtom) (pc := 80) (tgt := 123) dX11_readAtom_80 rfl ?_
              exact x_vret (μ := mu_tw_readAtom) (pc := 123) (a1 := x28) dX11_readAtom_123 rfl rfl (gRel_Tw.1 _) trivial
          · refine x_aload_n (μ := mu_tw_readAtom) (pc := 54) 0 dX11_readAtom_54 rfl ?_
            refine x_iconst (μ := mu_tw_readAtom) (pc := 55) dX11_readAtom_55 ?_
            refine x_iconst (μ := mu_tw_readAtom) (pc := 56) dX11_readAtom_56 ?_
            refine x_callV_mi (μ := mu_tw_readAtom) (pc := 57) (ok_tw_part (ω := ω) (l := l) (d := d - 1) (by omega) hM (by decide) (by decide)) gRel_Tw gRel_Tw (fun _ q => q) q3083 q3085 qs101 q232 q3086 dX11_readAtom_57 rfl hM.1 hy_tw_part (by omega) (Nat.le_of_ble_eq_true rfl) rfl (Nat.le_of_ble_eq_true rfl) (fun x31 k33 hr32 => ?_)
            have hM34 : TM (x31.2) h := hM.tw k33
            refine x_pop (μ := mu_tw_readAtom) (pc := 60) dX11_readAtom_60 rfl ?_
            refine x_aload_n (μ := mu_tw_readAtom) (pc := 61) 0 dX11_readAtom_61 rfl ?_
            refine x_callV_mv (μ := mu_tw_readAtom) (pc := 62) (ok_tw_next (ω := ω) (l := l) (d := d - 1) (by omega) hM34 ) gRel_Tw gRel_Tw (fun _ q => q) q2995 q2997 qs82 q232 q2998 dX11_readAtom_62 rfl hM34.1 hy_tw_next (by omega) (Nat.le_of_ble_eq_true rfl) rfl (Nat.le_of_ble_eq_true rfl) (fun x35 k36 => ?_)
            have hM37 : TM x35 h := hM34.tw k36
            refine x_goto (μ := mu_tw_readAtom) (pc := 65) (tgt := 123) dX11_readAtom_65 rfl ?_
            exact x_vret (μ := mu_tw_readAtom) (pc := 123) (a1 := x35) dX11_readAtom_123 rfl rfl (gRel_Tw.1 _) trivial
        · refine x_aload_n (μ := mu_tw_readAtom) (pc := 39) 0 dX11_readAtom_39 rfl ?_
          refine x_callV_mv (μ := mu_tw_readAtom) (pc := 40) (ok_tw_readWord (ω := ω) (l := l) (d := d - 1) hW (by omega) (by omega) hM ) gRel_Tw gRel_Tw (fun _ q => q) q3097 q3099 qs104 q232 q3100 dX11_readAtom_40 rfl hM.1 hy_tw_readWord (by omega) (Nat.le_of_ble_eq_true rfl) rfl (Nat.le_of_ble_eq_true rfl) (fun x38 k39 => ?_)
          have hM40 : TM x38 h := hM.tw k39
          refine x_goto (μ := mu_tw_readAtom) (pc := 43) (tgt := 123) dX11_readAtom_43 rfl ?_
          exact x_vret (μ := mu_tw_readAtom) (pc := 123) (a1 := x38) dX11_readAtom_123 rfl rfl (gRel_Tw.1 _) trivial
      · refine x_aload_n (μ := mu_tw_readAtom) (pc := 24) 0 dX11_readAtom_24 rfl ?_
        refine x_callV_mv (μ := mu_tw_readAtom) (pc := 25) (ok_tw_readPlain (ω := ω) (l := l) (d := d - 1) (by omega) hM ) gRel_Tw gRel_Tw (fun _ q => q) q3075 q3077 qs99 q232 q3078 dX11_readAtom_25 rfl hM.1 hy_tw_readPlain (by omega) (Nat.le_of_ble_eq_true rfl) rfl (Nat.le_of_ble_eq_true rfl) (fun x41 k42 => ?_)
        have hM43 : TM x41 h := hM.tw k42
        refine x_goto (μ := mu_tw_readAtom) (pc := 28) (tgt := 123) dX11_readAtom_28 rfl ?_
        exact x_vret (μ := mu_tw_readAtom) (pc := 123) (a1 := x41) dX11_readAtom_123 rfl rfl (gRel_Tw.1 _) trivial
  · exact x_vret (μ := mu_tw_readAtom) (pc := 7) (a1 := σ) dX11_readAtom_7 rfl rfl (gRel_Tw.1 _) trivial
def tw_formulaValue (N : Nat) (h : Nat) (v1 : Int) (v2 : Int) (v3 : Int) (σ : gMem) : Option gMem := (tw_wholeOf h v2 σ).bind (fun x1 => (tw_work N h 64 x1 v1 0 σ).bind (fun x3 => if 0 ≤ (0 : Int) ∧ (0 : Int) < ((200 : Nat) : Int) then if mI x3 (h + 33) (0 : Int).toNat ≠ 0 then (tw_store N h 0 v3 x3).bind (fun x7 => some x7) else (tw_number h 0 (((0 : Fin 2) : Nat) : Int) x3).bind (fun x10 => (tw_store N h 0 v3 x10).bind (fun x13 => some x13)) else none))
set_option maxRecDepth 100000 in
theorem ok_tw_formulaValue {ω : gW} {l : Launch} {d : Nat} {N : Nat} {h : Nat} {σ : gMem} {v1 : Int} {v2 : Int} {v3 : Int} (hdp : 203 ≤ d) (hM : TM σ h) (hv1 : g32 v1) (hv2 : g32 v2) (hv3 : g32 v3) : gK (fun p : gMem => (.inl none, p)) gTw ω l d mu_tw_formulaValue [vR h, vI v1, vI v2, vI v3] σ (tw_formulaValue N h v1 v2 v3 σ) := by
  refine gK.of hp_X11 (Nat.le_of_ble_eq_true rfl) ?_
  unfold tw_formulaValue
  refine x_aload_n (μ := mu_tw_formulaValue) (pc := 0) 0 dX11_formulaValue_0 rfl ?_
  refine x_aload_n (μ := mu_tw_formulaValue) (pc := 1) 0 dX11_formulaValue_1 rfl ?_
  refine x_iload_n (μ := mu_tw_formulaValue) (pc := 2) 2 dX11_formulaValue_2 rfl ?_
  refine x_callV_pi (μ := mu_tw_formulaValue) (pc := 3) (ok_tw_wholeOf (ω := ω) (l := l) (d := d - 1) (by omega) hM hv2) gRel_Tw gRel_Tw (fun _ q => q) q3307 q3309 qs142 q232 q3310 dX11_formulaValue_3 rfl hM.1 hy_tw_wholeOf (by omega) (Nat.le_of_ble_eq_true rfl) rfl (Nat.le_of_ble_eq_true rfl) (fun x1 hr2 => ?_)
  refine x_iload_n (μ := mu_tw_formulaValue) (pc := 6) 1 dX11_formulaValue_6 rfl ?_
  refine x_iconst (μ := mu_tw_formulaValue) (pc := 7) dX11_formulaValue_7 ?_
  refine x_callV_mv (μ := mu_tw_formulaValue) (pc := 8) (ok_tw_work (ω := ω) (l := l) (d := d - 1) 64 x1 v1 0 σ hM hr2 hv1 (by decide) (by omega)) gRel_Tw gRel_Tw (fun _ q => q) q3311 q3313 qs143 q232 q3314 dX11_formulaValue_8 rfl hM.1 hy_tw_work (by omega) (Nat.le_of_ble_eq_true rfl) rfl (Nat.le_of_ble_eq_true rfl) (fun x3 k4 => ?_)
  have hM5 : TM x3 h := hM.tw k4
  refine x_aload_n (μ := mu_tw_formulaValue) (pc := 11) 0 dX11_formulaValue_11 rfl ?_
  refine x_fgrE (μ := mu_tw_formulaValue) (pc := 12) fX11_66 (Or.inr ⟨_, rfl⟩) q2702 (hM5.a66).1 dX11_formulaValue_12 hM5.1 ?_
  refine x_iconst (μ := mu_tw_formulaValue) (pc := 15) dX11_formulaValue_15 ?_
  refine x_iald (μ := mu_tw_formulaValue) (pc := 16) dX11_formulaValue_16 (hM5.a66).2.1 (hM5.a66).2.2 (fun hr6 => ?_)
  refine x_if_ne (μ := mu_tw_formulaValue) (pc := 17) (tgt := 26) dX11_formulaValue_17 rfl hr6 ?_ ?_
  · refine x_aload_n (μ := mu_tw_formulaValue) (pc := 26) 0 dX11_formulaValue_26 rfl ?_
    refine x_iconst (μ := mu_tw_formulaValue) (pc := 27) dX11_formulaValue_27 ?_
    refine x_iload_n (μ := mu_tw_formulaValue) (pc := 28) 3 dX11_formulaValue_28 rfl ?_
    refine x_callV_mv (μ := mu_tw_formulaValue) (pc := 29) (ok_tw_store (ω := ω) (l := l) (d := d - 1) (by omega) hM5 (by decide) hv3) gRel_Tw gRel_Tw (fun _ q => q) q3283 q3285 qs137 q232 q3286 dX11_formulaValue_29 rfl hM5.1 hy_tw_store (by omega) (Nat.le_of_ble_eq_true rfl) rfl (Nat.le_of_ble_eq_true rfl) (fun x7 k8 => ?_)
    have hM9 : TM x7 h := hM5.tw k8
    exact x_vret (μ := mu_tw_formulaValue) (pc := 32) (a1 := x7) dX11_formulaValue_32 rfl rfl (gRel_Tw.1 _) trivial
  · refine x_aload_n (μ := mu_tw_formulaValue) (pc := 20) 0 dX11_formulaValue_20 rfl ?_
    refine x_iconst (μ := mu_tw_formulaValue) (pc := 21) dX11_formulaValue_21 ?_
    refine x_lconst (μ := mu_tw_formulaValue) (pc := 22) dX11_formulaValue_22 ?_
    refine x_callV_mv (μ := mu_tw_formulaValue) (pc := 23) (ok_tw_number (ω := ω) (l := l) (d := d - 1) (by omega) hM5 (by decide) (by decide)) gRel_Tw gRel_Tw (fun _ q => q) q3315 q3317 qs144 q232 q3318 dX11_formulaValue_23 rfl hM5.1 hy_tw_number (by omega) (Nat.le_of_ble_eq_true rfl) rfl (Nat.le_of_ble_eq_true rfl) (fun x10 k11 => ?_)
    have hM12 : TM x10 h := hM5.tw k11
    refine x_aload_n (μ := mu_tw_formulaValue) (pc := 26) 0 dX11_formulaValue_26 rfl ?_
    refine x_iconst (μ := mu_tw_formulaValue) (pc := 27) dX11_formulaValue_27 ?_
    refine x_iload_n (μ := mu_tw_formulaValue) (pc := 28) 3 dX11_formulaValue_28 rfl ?_
    refine x_callV_mv (μ := mu_tw_formulaValue) (pc := 29) (ok_tw_store (ω := ω) (l := l) (d := d - 1) (by omega) hM12 (by decide) hv3) gRel_Tw gRel_Tw (fun _ q => q) q3283 q3285 qs137 q232 q3286 dX11_formulaValue_29 rfl hM12.1 hy_tw_store (by omega) (Nat.le_of_ble_eq_true rfl) rfl (Nat.le_of_ble_eq_true rfl) (fun x13 k14 => ?_)
    have hM15 : TM x13 h := hM12.tw k14
    exact x_vret (μ := mu_tw_formulaValue) (pc := 32) (a1 := x13) dX11_formulaValue_32 rfl rfl (gRel_Tw.1 _) trivial
def tw_merge (N : Nat) (h : Nat) (v1 : Int) (σ : gMem) : Option (Int × gMem) := gLet (wI σ h 0 0) (fun s1 => (tw_in v1 0 5 s1).bind (fun x4 => if x4 ≠ 0 then if 0 ≤ v1 ∧ v1 < ((6 : Nat) : Int) then if 0 ≤ mI s1 (h + 8) v1.toNat then (tw_bars N h 3 s1).bind (fun x7 => if x7 ≤ 0 then if 0 ≤ v1 ∧ v1 < ((6 : Nat) : Int) then (tw_head h s1).bind (fun x10 => (tw_base N h (mI s1 (h + 8) v1.toNat) x10 s1).bind (fun x12 => if x12.1 ≠ mI s1 (h + 8) v1.toNat then (tw_together N h (mI s1 (h + 8) v1.toNat) (x12.1) (x12.2)).bind (fun x16 => if 0 ≤ x16.1 then gLet (wI (x16.2) h 13 (mI s1 (h + 8) v1.toNat)) (fun s20 => some (x16.1, s20)) else (tw_throwing h 4 (x16.2)).bind (fun x23 => some (x23.1, x23.2))) else some ((-1), x12.2))) else none else (tw_bars N h 3 s1).bind (fun x27 => (tw_throwing h x27 s1).bind (fun x29 => some (x29.1, x29.2)))) else (tw_throwing h 2 s1).bind (fun x33 => some (x33.1, x33.2)) else none else (tw_throwing h 1 s1).bind (fun x37 => some (x37.1, x37.2))))
set_option maxRecDepth 100000 in
theorem ok_tw_merge {ω : gW} {l : Launch} {d : Nat} {N : Nat} {h : Nat} {σ : gMem} {v1 : Int} (hdp : 8 ≤ d) (hM : TM σ h) (hv1 : g32 v1) : gK (fun p : Int × gMem => (.inl (some (vI p.1)), p.2)) gTw ω l d mu_tw_merge [vR h, vI v1] σ (tw_merge N h v1 σ) := by
  refine gK.of hp_X11 (Nat.le_of_ble_eq_true rfl) ?_
  unfold tw_merge
  refine x_aload_n (μ := mu_tw_merge) (pc := 0) 0 dX11_merge_0 rfl ?_
  refine x_iconst (μ := mu_tw_merge) (pc := 1) dX11_merge_1 ?_
  refine x_fpi (μ := mu_tw_merge) (pc := 2) fX11_0 q2636 dX11_merge_2 hM.1 (fun _ q => gTw_wI q) ?_
  refine x_let (fun s1 e2 => ?_)
  have hM3 := TM.eI e2 hM
  refine x_iload_n (μ := mu_tw_merge) (pc := 5) 1 dX11_merge_5 rfl ?_
  refine x_iconst (μ := mu_tw_merge) (pc := 6) dX11_merge_6 ?_
  refine x_iconst (μ := mu_tw_merge) (pc := 7) dX11_merge_7 ?_
  refine x_callS_pi (μ := mu_tw_merge) (pc := 8) (ok_tw_in (ω := ω) (l := l) (d := d - 1) (by omega) hv1 (by decide) (by decide)) gRel_Tw gRel_Tw (fun _ q => q) q2980 q2981 q232 q2982 dX11_merge_8 hy_tw_in (by omega) (Nat.le_of_ble_eq_true rfl) rfl (Nat.le_of_ble_eq_true rfl) (fun x4 hr5 => ?_)
  refine x_if_ne (μ := mu_tw_merge) (pc := 11) (tgt := 20) dX11_merge_11 rfl hr5 ?_ ?_
  · refine x_aload_n (μ := mu_tw_merge) (pc := 20) 0 dX11_merge_20 rfl ?_
    refine x_fgrE (μ := mu_tw_merge) (pc := 21) fX11_11 (Or.inr ⟨_, rfl⟩) q2647 (hM3.a11).1 dX11_merge_21 hM3.1 ?_
    refine x_iload_n (μ := mu_tw_merge) (pc := 24) 1 dX11_merge_24 rfl ?_
    refine x_iald (μ := mu_tw_merge) (pc := 25) dX11_merge_25 (hM3.a11).2.1 (hM3.a11).2.2 (fun hr6 => ?_)
    refine x_if_ge (μ := mu_tw_merge) (pc := 26) (tgt := 35) dX11_merge_26 rfl hr6 ?_ ?_
    · refine x_aload_n (μ := mu_tw_merge) (pc := 35) 0 dX11_merge_35 rfl ?_
      refine x_iconst (μ := mu_tw_merge) (pc := 36) dX11_merge_36 ?_
      refine x_callV_pi (μ := mu_tw_merge) (pc := 37) (ok_tw_bars (ω := ω) (l := l) (d := d - 1) (by omega) hM3 (by decide)) gRel_Tw gRel_Tw (fun _ q => q) q3652 q3654 qs204 q232 q3655 dX11_merge_37 rfl hM3.1 hy_tw_bars (by omega) (Nat.le_of_ble_eq_true rfl) rfl (Nat.le_of_ble_eq_true rfl) (fun x7 hr8 => ?_)
      refine x_if_le (μ := mu_tw_merge) (pc := 40) (tgt := 53) dX11_merge_40 rfl hr8 ?_ ?_
      · refine x_aload_n (μ := mu_tw_merge) (pc := 53) 0 dX11_merge_53 rfl ?_
        refine x_fgrE (μ := mu_tw_merge) (pc := 54) fX11_11 (Or.inr ⟨_, rfl⟩) q2647 (hM3.a11).1 dX11_merge_54 hM3.1 ?_
        refine x_iload_n (μ := mu_tw_merge) (pc := 57) 1 dX11_merge_57 rfl ?_
        refine x_iald (μ := mu_tw_merge) (pc := 58) dX11_merge_58 (hM3.a11).2.1 (hM3.a11).2.2 (fun hr9 => ?_)
        refine x_istore_n (μ := mu_tw_merge) (pc := 59) (lv' := [(2, vI (mI s1 (h + 8) v1.toNat)), (0, vR h), (1, vI v1)]) dX11_merge_59 rfl (by decide) rfl ?_
        refine x_aload_n (μ := mu_tw_merge) (pc := 60) 1 dX11_merge_60 rfl ?_
        refine x_iload_n (μ := mu_tw_merge) (pc := 61) 0 dX11_merge_61 rfl ?_
        refine x_aload_n (μ := mu_tw_merge) (pc := 62) 1 dX11_merge_62 rfl ?_
        refine x_callV_pi (μ := mu_tw_merge) (pc := 63) (ok_tw_head (ω := ω) (l := l) (d := d - 1) (by omega) hM3 ) gRel_Tw gRel_Tw (fun _ q => q) q3596 q3598 qs195 q232 q3599 dX11_merge_63 rfl hM3.1 hy_tw_head (by omega) (Nat.le_of_ble_eq_true rfl) rfl (Nat.le_of_ble_eq_true rfl) (fun x10 hr11 => ?_)
        refine x_callV_mi (μ := mu_tw_merge) (pc := 66) (ok_tw_base (ω := ω) (l := l) (d := d - 1) (by omega) hM3 hr9 hr11) gRel_Tw gRel_Tw (fun _ q => q) q3656 q3641 q3642 q232 q3643 dX11_merge_66 rfl hM3.1 hy_tw_base (by omega) (Nat.le_of_ble_eq_true rfl) rfl (Nat.le_of_ble_eq_true rfl) (fun x12 k14 hr13 => ?_)
        have hM15 : TM (x12.2) h := hM3.tw k14
        refine x_istore_n (μ := mu_tw_merge) (pc := 69) (lv' := [(3, vI (x12.1)), (2, vI (mI s1 (h + 8) v1.toNat)), (0, vR h), (1, vI v1)]) dX11_merge_69 rfl (by decide) rfl ?_
        refine x_iload_n (μ := mu_tw_merge) (pc := 70) 0 dX11_merge_70 rfl ?_
        refine x_iload_n (μ := mu_tw_merge) (pc := 71) 1 dX11_merge_71 rfl ?_
        refine x_icmp_ne (μ := mu_tw_merge) (pc := 72) (tgt := 77) dX11_merge_72 rfl hr13 hr9 ?_ ?_
        · refine x_aload_n (μ := mu_tw_merge) (pc := 77) 2 dX11_merge_77 rfl ?_
          refine x_iload_n (μ := mu_tw_merge) (pc := 78) 1 dX11_merge_78 rfl ?_
          refine x_iload_n (μ := mu_tw_merge) (pc := 79) 0 dX11_merge_79 rfl ?_
          refine x_callV_mi (μ := mu_tw_merge) (pc := 80) (ok_tw_together (ω := ω) (l := l) (d := d - 1) (by omega) hM15 hr9 hr13) gRel_Tw gRel_Tw (fun _ q => q) q3657 q3659 qs205 q232 q3660 dX11_merge_80 rfl hM15.1 hy_tw_together (by omega) (Nat.le_of_ble_eq_true rfl) rfl (Nat.le_of_ble_eq_true rfl) (fun x16 k18 hr17 => ?_)
          have hM19 : TM (x16.2) h := hM15.tw k18
          refine x_istore (μ := mu_tw_merge) (pc := 83) (lv' := [(4, vI (x16.1)), (3, vI (x12.1)), (2, vI (mI s1 (h + 8) v1.toNat)), (0, vR h), (1, vI v1)]) dX11_merge_83 (by decide) rfl ?_
          refine x_iload (μ := mu_tw_merge) (pc := 85) 0 dX11_merge_85 rfl ?_
          refine x_if_ge (μ := mu_tw_merge) (pc := 87) (tgt := 96) dX11_merge_87 rfl hr17 ?_ ?_
          · refine x_aload_n (μ := mu_tw_merge) (pc := 96) 3 dX11_merge_96 rfl ?_
            refine x_iload_n (μ := mu_tw_merge) (pc := 97) 2 dX11_merge_97 rfl ?_
            refine x_fpi (μ := mu_tw_merge) (pc := 98) fX11_13 q2649 dX11_merge_98 hM19.1 (fun _ q => gTw_wI q) ?_
            refine x_let (fun s20 e21 => ?_)
            have hM22 := TM.eI e21 hM19
            refine x_iload (μ := mu_tw_merge) (pc := 101) 0 dX11_merge_101 rfl ?_
            exact x_iret (μ := mu_tw_merge) (pc := 103) dX11_merge_103 rfl rfl (gRel_Tw.1 _) (show g32 (x16.1) from hr17)
          · refine x_aload_n (μ := mu_tw_merge) (pc := 90) 3 dX11_merge_90 rfl ?_
            refine x_iconst (μ := mu_tw_merge) (pc := 91) dX11_merge_91 ?_
            refine x_callV_mi (μ := mu_tw_merge) (pc := 92) (ok_tw_throwing (ω := ω) (l := l) (d := d - 1) (by omega) hM19 (by decide)) gRel_Tw gRel_Tw (fun _ q => q) q2960 q2962 qs78 q232 q2963 dX11_merge_92 rfl hM19.1 hy_tw_throwing (by omega) (Nat.le_of_ble_eq_true rfl) rfl (Nat.le_of_ble_eq_true rfl) (fun x23 k25 hr24 => ?_)
            have hM26 : TM (x23.2) h := hM19.tw k25
            exact x_iret (μ := mu_tw_merge) (pc := 95) dX11_merge_95 rfl rfl (gRel_Tw.1 _) (show g32 (x23.1) from hr24)
        · refine x_iconst (μ := mu_tw_merge) (pc := 75) dX11_merge_75 ?_
          exact x_iret (μ := mu_tw_merge) (pc := 76) dX11_merge_76 rfl rfl (gRel_Tw.1 _) (show g32 (-1) from (by decide))
      · refine x_aload_n (μ := mu_tw_merge) (pc := 43) 0 dX11_merge_43 rfl ?_
        refine x_aload_n (μ := mu_tw_merge) (pc := 44) 0 dX11_merge_44 rfl ?_
        refine x_iconst (μ := mu_tw_merge) (pc := 45) dX11_merge_45 ?_
        refine x_callV_pi (μ := mu_tw_merge) (pc := 46) (ok_tw_bars (ω := ω) (l := l) (d := d - 1) (by omega) hM3 (by decide)) gRel_Tw gRel_Tw (fun _ q => q) q3652 q3654 qs204 q232 q3655 dX11_merge_46 rfl hM3.1 hy_tw_bars (by omega) (Nat.le_of_ble_eq_true rfl) rfl (Nat.le_of_ble_eq_true rfl) (fun x27 hr28 => ?_)
        refine x_callV_mi (μ := mu_tw_merge) (pc := 49) (ok_tw_throwing (ω := ω) (l := l) (d := d - 1) (by omega) hM3 hr28) gRel_Tw gRel_Tw (fun _ q => q) q2960 q2962 qs78 q232 q2963 dX11_merge_49 rfl hM3.1 hy_tw_throwing (by omega) (Nat.le_of_ble_eq_true rfl) rfl (Nat.le_of_ble_eq_true rfl) (fun x29 k31 hr30 => ?_)
        have hM32 : TM (x29.2) h := hM3.tw k31
        exact x_iret (μ := mu_tw_merge) (pc := 52) dX11_merge_52 rfl rfl (gRel_Tw.1 _) (show g32 (x29.1) from hr30)
    · refine x_aload_n (μ := mu_tw_merge) (pc := 29) 0 dX11_merge_29 rfl ?_
      refine x_iconst (μ := mu_tw_merge) (pc := 30) dX11_merge_30 ?_
      refine x_callV_mi (μ := mu_tw_merge) (pc := 31) (ok_tw_throwing (ω := ω) (l := l) (d := d - 1) (by omega) hM3 (by decide)) gRel_Tw gRel_Tw (fun _ q => q) q2960 q2962 qs78 q232 q2963 dX11_merge_31 rfl hM3.1 hy_tw_throwing (by omega) (Nat.le_of_ble_eq_true rfl) rfl (Nat.le_of_ble_eq_true rfl) (fun x33 k35 hr34 => ?_)
      have hM36 : TM (x33.2) h := hM3.tw k35
      exact x_iret (μ := mu_tw_merge) (pc := 34) dX11_merge_34 rfl rfl (gRel_Tw.1 _) (show g32 (x33.1) from hr34)
  · refine x_aload_n (μ := mu_tw_merge) (pc := 14) 0 dX11_merge_14 rfl ?_
    refine x_iconst (μ := mu_tw_merge) (pc := 15) dX11_merge_15 ?_
    refine x_callV_mi (μ := mu_tw_merge) (pc := 16) (ok_tw_throwing (ω := ω) (l := l) (d := d - 1) (by omega) hM3 (by decide)) gRel_Tw gRel_Tw (fun _ q => q) q2960 q2962 qs78 q232 q2963 dX11_merge_16 rfl hM3.1 hy_tw_throwing (by omega) (Nat.le_of_ble_eq_true rfl) rfl (Nat.le_of_ble_eq_true rfl) (fun x37 k39 hr38 => ?_)
    have hM40 : TM (x37.2) h := hM3.tw k39
    exact x_iret (μ := mu_tw_merge) (pc := 19) dX11_merge_19 rfl rfl (gRel_Tw.1 _) (show g32 (x37.1) from hr38)
def x6_word_l5 (N : Nat) (W : Nat → gMem → Option gR) (v0 : Nat) (v1 : Int) (K : gMem → Option gR) : Nat → gMem → Option gR
  | 0, _ => none
  | n + 1, s => if mT s v0 = 6 then (x6_here v0 (mI s v0 6) s).bind (fun x5 => (x6_isLetter x5 s).bind (fun x7 => if x7 = 0 then K s else gLet (wI s v0 6 (w32 ((mI s v0 6) + 1))) (fun s10 => x6_word_l5 N W v0 v1 K n s10))) else none
set_option maxRecDepth 100000 in
theorem okl_x6_word_l5 {ω : gW} {l : Launch} {d : Nat} {N : Nat} {W : Nat → gMem → Option gR} {dW : Nat} {σ0 : gMem} {v0 : Nat} {v1 : Int} {K : gMem → Option gR} (hl : l.stackTraces = false) (hW : ∀ (a0 : Nat) (s : gMem), gK (fun p : gR => p) gE ω l dW mu_x6_sign [vR a0] s (W a0 s)) (hdp : 14 ≤ d) (hdw : dW + 7 ≤ d) (hv1 : g32 v1) (hK : ∀ (s : gMem) , GG (fun p : gR => p) gE ω l d mu_x6_word σ0 32 [(0, vR v0), (1, vI v1)] [] s (K s)) : ∀ (n : Nat) (s : gMem) , GG (fun p : gR => p) gE ω l d mu_x6_word σ0 5 [(0, vR v0), (1, vI v1)] [] s (x6_word_l5 N W v0 v1 K n s) := by
  intro n
  induction n with
  | zero => intros; exact x_none
  | succ n ih =>
    intro s
    unfold x6_word_l5
    refine x_aload_n (μ := mu_x6_word) (pc := 5) 0 dX6_word_5 rfl ?_
    refine x_aload_n (μ := mu_x6_word) (pc := 6) 0 dX6_word_6 rfl ?_
    refine x_if (fun hT3 => ?_)
    refine x_fgi (μ := mu_x6_word) (pc := 7) fX6_6 q487 dX6_word_7 hT3 (fun hr4 => ?_)
    refine x_callV_pi (μ := mu_x6_word) (pc := 10) (ok_x6_here (ω := ω) (l := l) (d := d - 1) hl (by omega) hr4) gRel_E gRel_E (fun _ q => q) q1815 q1817 qs35 q226 q1818 dX6_word_10 rfl hT3 hy_x6_here (by omega) (Nat.le_of_ble_eq_true rfl) rfl (Nat.le_of_ble_eq_true rfl) (fun x5 hr6 => ?_)
    refine x_callS_pi (μ := mu_x6_word) (pc := 13) (ok_x6_isLetter (ω := ω) (l := l) (d := d - 1) hl (by omega) hr6) gRel_E gRel_E (fun _ q => q) q1914 q1915 q226 q1916 dX6_word_13 hy_x6_isLetter (by omega) (Nat.le_of_ble_eq_true rfl) rfl (Nat.le_of_ble_eq_true rfl) (fun x7 hr8 => ?_)
    refine x_if_eq (μ := mu_x6_word) (pc := 16) (tgt := 32) dX6_word_16 rfl hr8 ?_ ?_
    · exact hK s
    · refine x_aload_n (μ := mu_x6_word) (pc := 19) 0 dX6_word_19 rfl ?_
      refine x_dup (μ := mu_x6_word) (pc := 20) dX6_word_20 rfl ?_
      refine x_fgi (μ := mu_x6_word) (pc := 21) fX6_6 q487 dX6_word_21 hT3 (fun hr9 => ?_)
      refine x_iconst (μ := mu_x6_word) (pc := 24) dX6_word_24 ?_
      refine x_iadd (μ := mu_x6_word) (pc := 25) dX6_word_25 ?_
      refine x_w1 ?_
      refine x_fpi (μ := mu_x6_word) (pc := 26) fX6_6 q487 dX6_word_26 hT3 (fun _ q => gE_wI q) ?_
      refine x_let (fun s10 e11 => ?_)
      refine x_goto (μ := mu_x6_word) (pc := 29) (tgt := 5) dX6_word_29 rfl ?_
      exact ih s10
def x6_word_l83 (N : Nat) (W : Nat → gMem → Option gR) (v0 : Nat) (v1 : Int) (K : gMem → Option gR) : Nat → Int → gMem → Option gR
  | 0, _, _ => none
  | n + 1, v2, s => if mT s v0 = 6 then if mT s (mR s v0 10) = 109 then if w32 (mN s (mR s v0 10) : Int) ≤ v2 then K s else if 0 ≤ v2 ∧ v2 < (mN s (mR s v0 10) : Int) then if mT s (mR s (mR s v0 10) v2.toNat) = 91 then (x6_spells N (mR s v0 3) v1 (mI s v0 6) (mR s (mR s (mR s v0 10) v2.toNat) 1) s).bind (fun x21 => if x21 = 0 then x6_word_l83 N W v0 v1 K n (w32 (v2 + 1)) s else if 0 ≤ v2 ∧ v2 < (mN s (mR s v0 10) : Int) then (x6_call N W v0 (mR s (mR s v0 10) v2.toNat) v1 s).bind (fun p => gThrR p (fun x23 s25 => some (.inl (some (vR x23)), s25))) else none) else none else none else none else none
set_option maxRecDepth 100000 in
theorem okl_x6_word_l83 {ω : gW} {l : Launch} {d : Nat} {N : Nat} {W : Nat → gMem → Option gR} {dW : Nat} {σ0 : gMem} {v0 : Nat} {v1 : Int} {K : gMem → Option gR} (hl : l.stackTraces = false) (hW : ∀ (a0 : Nat) (s : gMem), gK (fun p : gR => p) gE ω l dW mu_x6_sign [vR a0] s (W a0 s)) (hdp : 14 ≤ d) (hdw : dW + 7 ≤ d) (hv1 : g32 v1) (hK : ∀ (s : gMem) , GG (fun p : gR => p) gE ω l d mu_x6_word σ0 134 [(0, vR v0), (1, vI v1)] [] s (K s)) : ∀ (n : Nat) (v2 : Int) (s : gMem) , g32 v2 → GG (fun p : gR => p) gE ω l d mu_x6_word σ0 83 [(0, vR v0), (1, vI v1), (2, vI v2)] [] s (x6_word_l83 N W v0 v1 K n v2 s) := by
  intro n
  induction n with
  | zero => intros; exact x_none
  | succ n ih =>
    intro v2 s hv2
    unfold x6_word_l83
    refine x_iload_n (μ := mu_x6_word) (pc := 83) 2 dX6_word_83 rfl ?_
    refine x_aload_n (μ := mu_x6_word) (pc := 84) 0 dX6_word_84 rfl ?_
    refine x_if (fun hT17 => ?_)
    refine x_fgr (μ := mu_x6_word) (pc := 85) fX6_10 (by first | exact Or.inl ⟨_, rfl⟩ | exact Or.inr ⟨_, rfl⟩) q491 dX6_word_85 hT17 ?_
    refine x_if (fun hT18 => ?_)
    refine x_len (μ := mu_x6_word) (pc := 88) 9 (fun _ => rfl) dX6_word_88 hT18 ?_
    refine x_w1 ?_
    refine x_icmp_ge (μ := mu_x6_word) (pc := 89) (tgt := 134) dX6_word_89 rfl hv2 (w32_rng _) ?_ ?_
    · refine x_loc (lv' := [(0, vR v0), (1, vI v1)]) [0, 1] rfl ?_
      exact hK s
    · refine x_aload_n (μ := mu_x6_word) (pc := 92) 0 dX6_word_92 rfl ?_
      refine x_fgr (μ := mu_x6_word) (pc := 93) fX6_3 (by first | exact Or.inl ⟨_, rfl⟩ | exact Or.inr ⟨_, rfl⟩) q484 dX6_word_93 hT17 ?_
      refine x_iload_n (μ := mu_x6_word) (pc := 96) 1 dX6_word_96 rfl ?_
      refine x_aload_n (μ := mu_x6_word) (pc := 97) 0 dX6_word_97 rfl ?_
      refine x_fgi (μ := mu_x6_word) (pc := 98) fX6_6 q487 dX6_word_98 hT17 (fun hr19 => ?_)
      refine x_aload_n (μ := mu_x6_word) (pc := 101) 0 dX6_word_101 rfl ?_
      refine x_fgr (μ := mu_x6_word) (pc := 102) fX6_10 (by first | exact Or.inl ⟨_, rfl⟩ | exact Or.inr ⟨_, rfl⟩) q491 dX6_word_102 hT17 ?_
      refine x_iload_n (μ := mu_x6_word) (pc := 105) 2 dX6_word_105 rfl ?_
      refine x_aald (μ := mu_x6_word) (pc := 106) 9 (fun _ => rfl) rfl rfl dX6_word_106 hT18 rfl ?_
      refine x_if (fun hT20 => ?_)
      refine x_erN (μ := mu_x6_word) (pc := 107) q3790 dX6_word_107 (Or.inl ⟨rfl, hT20⟩) ?_
      refine x_callS_pi (μ := mu_x6_word) (pc := 110) (ok_x6_spells (ω := ω) (l := l) (d := d - 1) hl (by omega) hv1 hr19) gRel_E gRel_E (fun _ q => q) q1544 q1545 q226 q1546 dX6_word_110 hy_x6_spells (by omega) (Nat.le_of_ble_eq_true rfl) rfl (Nat.le_of_ble_eq_true rfl) (fun x21 hr22 => ?_)
      refine x_if_eq (μ := mu_x6_word) (pc := 113) (tgt := 128) dX6_word_113 rfl hr22 ?_ ?_
      · refine x_iincw (μ := mu_x6_word) (pc := 128) (lv' := [(2, vI (w32 (v2 + 1))), (0, vR v0), (1, vI v1)]) 2 dX6_word_128 rfl (by decide) rfl ?_
        refine x_goto (μ := mu_x6_word) (pc := 131) (tgt := 83) dX6_word_131 rfl ?_
        refine x_loc (lv' := [(0, vR v0), (1, vI v1), (2, vI (w32 (v2 + 1)))]) [1, 2, 0] rfl ?_
        exact ih (w32 (v2 + 1)) s (w32_rng _)
      · refine x_aload_n (μ := mu_x6_word) (pc := 116) 0 dX6_word_116 rfl ?_
        refine x_aload_n (μ := mu_x6_word) (pc := 117) 0 dX6_word_117 rfl ?_
        refine x_fgr (μ := mu_x6_word) (pc := 118) fX6_10 (by first | exact Or.inl ⟨_, rfl⟩ | exact Or.inr ⟨_, rfl⟩) q491 dX6_word_118 hT17 ?_
        refine x_iload_n (μ := mu_x6_word) (pc := 121) 2 dX6_word_121 rfl ?_
        refine x_aald (μ := mu_x6_word) (pc := 122) 9 (fun _ => rfl) rfl rfl dX6_word_122 hT18 rfl ?_
        refine x_iload_n (μ := mu_x6_word) (pc := 123) 1 dX6_word_123 rfl ?_
        refine x_callV_xr (μ := mu_x6_word) (pc := 124) (ok_x6_call (ω := ω) (l := l) (d := d - 1) hl hW (by omega) (by omega) hv1) q1996 q1998 qs53 q226 q1999 dX6_word_124 rfl hT17 hy_x6_call (by omega) (Nat.le_of_ble_eq_true rfl) rfl (Nat.le_of_ble_eq_true rfl) (by decide) (fun x23 s25 k24 => ?_)
        exact x_aret (μ := mu_x6_word) (pc := 127) (a1 := ((.inl (some (vR x23)), s25) : gR)) dX6_word_127 rfl (by first | exact Or.inl ⟨_, rfl⟩ | exact Or.inr ⟨_, rfl⟩) rfl (gRel_E.1 _) trivial
def x6_word (N : Nat) (W : Nat → gMem → Option gR) (v0 : Nat) (σ : gMem) : Option gR := if mT σ v0 = 6 then x6_word_l5 N W v0 (mI σ v0 6) (fun s12 => if mT s12 v0 = 6 then (x6_isTruth N (mR s12 v0 3) (mI σ v0 6) (mI s12 v0 6) s12).bind (fun x15 => if x15 = 0 then x6_word_l83 N W v0 (mI σ v0 6) (fun s26 => if mT s26 v0 = 6 then (x6_wrong v0 1 (mI σ v0 6) s26).bind (fun x28 => if mT (x28.2) (x28.1) = 25 then some (.inr "SheetBranches$Wrong", x28.2) else none) else none) N 0 s12 else gLet (wI s12 v0 8 (w32 ((mI s12 v0 8) + 1))) (fun s32 => gLet (wN s32 16 1) (fun s35 => if mT s35 (mR s35 v0 3) = 102 then if 0 ≤ (mI σ v0 6) ∧ (mI σ v0 6) < (mN s35 (mR s35 v0 3) : Int) then if mI s35 (mR s35 v0 3) (mI σ v0 6).toNat ≠ 84 then (x18_init (mZ s32) 0 s35).bind (fun x39 => some (.inl (some (vR (mZ s32))), x39)) else (x18_init (mZ s32) 1 s35).bind (fun x41 => some (.inl (some (vR (mZ s32))), x41)) else none else none))) else none) N σ else none
set_option maxRecDepth 100000 in
theorem ok_x6_word {ω : gW} {l : Launch} {d : Nat} {N : Nat} {W : Nat → gMem → Option gR} {dW : Nat} {σ : gMem} {v0 : Nat} (hl : l.stackTraces = false) (hW : ∀ (a0 : Nat) (s : gMem), gK (fun p : gR => p) gE ω l dW mu_x6_sign [vR a0] s (W a0 s)) (hdp : 14 ≤ d) (hdw : dW + 7 ≤ d) : gK (fun p : gR => p) gE ω l d mu_x6_word [vR v0] σ (x6_word N W v0 σ) := by
  refine gK.of hp_X6 (Nat.le_of_ble_eq_true rfl) ?_
  unfold x6_word
  refine x_aload_n (μ := mu_x6_word) (pc := 0) 0 dX6_word_0 rfl ?_
  refine x_if (fun hT1 => ?_)
  refine x_fgi (μ := mu_x6_word) (pc := 1) fX6_6 q487 dX6_word_1 hT1 (fun hr2 => ?_)
  refine x_istore_n (μ := mu_x6_word) (pc := 4) (lv' := [(1, vI (mI σ v0 6)), (0, vR v0)]) dX6_word_4 rfl (by decide) rfl ?_
  refine x_loc (lv' := [(0, vR v0), (1, vI (mI σ v0 6))]) [1, 0] rfl ?_
  refine okl_x6_word_l5 hl hW hdp hdw hr2 (fun s12 => ?_) N σ
  refine x_aload_n (μ := mu_x6_word) (pc := 32) 0 dX6_word_32 rfl ?_
  refine x_if (fun hT13 => ?_)
  refine x_fgr (μ := mu_x6_word) (pc := 33) fX6_3 (by first | exact Or.inl ⟨_, rfl⟩ | exact Or.inr ⟨_, rfl⟩) q484 dX6_word_33 hT13 ?_
  refine x_iload_n (μ := mu_x6_word) (pc := 36) 1 dX6_word_36 rfl ?_
  refine x_aload_n (μ := mu_x6_word) (pc := 37) 0 dX6_word_37 rfl ?_
  refine x_fgi (μ := mu_x6_word) (pc := 38) fX6_6 q487 dX6_word_38 hT13 (fun hr14 => ?_)
  refine x_callS_pi (μ := mu_x6_word) (pc := 41) (ok_x6_isTruth (ω := ω) (l := l) (d := d - 1) hl (by omega) hr2 hr14) gRel_E gRel_E (fun _ q => q) q1540 q1541 q226 q1542 dX6_word_41 hy_x6_isTruth (by omega) (Nat.le_of_ble_eq_true rfl) rfl (Nat.le_of_ble_eq_true rfl) (fun x15 hr16 => ?_)
  refine x_if_eq (μ := mu_x6_word) (pc := 44) (tgt := 81) dX6_word_44 rfl hr16 ?_ ?_
  · refine x_iconst (μ := mu_x6_word) (pc := 81) dX6_word_81 ?_
    refine x_istore_n (μ := mu_x6_word) (pc := 82) (lv' := [(2, vI 0), (0, vR v0), (1, vI (mI σ v0 6))]) dX6_word_82 rfl (by decide) rfl ?_
    refine x_loc (lv' := [(0, vR v0), (1, vI (mI σ v0 6)), (2, vI 0)]) [1, 2, 0] rfl ?_
    refine okl_x6_word_l83 hl hW hdp hdw hr2 (fun s26 => ?_) N 0 s12 (by decide)
    refine x_aload_n (μ := mu_x6_word) (pc := 134) 0 dX6_word_134 rfl ?_
    refine x_iconst (μ := mu_x6_word) (pc := 135) dX6_word_135 ?_
    refine x_iload_n (μ := mu_x6_word) (pc := 136) 1 dX6_word_136 rfl ?_
    refine x_if (fun hT27 => ?_)
    refine x_callV_mr (μ := mu_x6_word) (pc := 137) (ok_x6_wrong (ω := ω) (l := l) (d := d - 1) hl (by omega) (by decide) hr2) gRel_E gRel_E (fun _ q => q) q1827 q1829 qs38 q226 q1830 dX6_word_137 rfl hT27 hy_x6_wrong (by omega) (Nat.le_of_ble_eq_true rfl) rfl (Nat.le_of_ble_eq_true rfl) (fun x28 k29 => ?_)
    refine x_if (fun hT30 => ?_)
    exact x_athrow (μ := mu_x6_word) (pc := 140) dX6_word_140 hT30 (by decide)
  · refine x_aload_n (μ := mu_x6_word) (pc := 47) 0 dX6_word_47 rfl ?_
    refine x_dup (μ := mu_x6_word) (pc := 48) dX6_word_48 rfl ?_
    refine x_fgi (μ := mu_x6_word) (pc := 49) fX6_8 q489 dX6_word_49 hT13 (fun hr31 => ?_)
    refine x_iconst (μ := mu_x6_word) (pc := 52) dX6_word_52 ?_
    refine x_iadd (μ := mu_x6_word) (pc := 53) dX6_word_53 ?_
    refine x_w1 ?_
    refine x_fpi (μ := mu_x6_word) (pc := 54) fX6_8 q489 dX6_word_54 hT13 (fun _ q => gE_wI q) ?_
    refine x_let (fun s32 e33 => ?_)
    refine x_ok (fun ok34 => ?_)
    refine x_new (μ := mu_x6_word) (pc := 57) (ci := 15) gk_X18 gd_X18 q1986 q1987 q250 dX6_word_57 ?_
    refine x_let (fun s35 e36 => ?_)
    refine x_dup (μ := mu_x6_word) (pc := 60) dX6_word_60 rfl ?_
    refine x_aload_n (μ := mu_x6_word) (pc := 61) 0 dX6_word_61 rfl ?_
    refine x_fgr (μ := mu_x6_word) (pc := 62) fX6_3 (by first | exact Or.inl ⟨_, rfl⟩ | exact Or.inr ⟨_, rfl⟩) q484 dX6_word_62 (gT_N e36 ok34 (gT_I e33 hT13) (by decide)) ?_
    refine x_iload_n (μ := mu_x6_word) (pc := 65) 1 dX6_word_65 rfl ?_
    refine x_if (fun hT37 => ?_)
    refine x_bald (μ := mu_x6_word) (pc := 66) dX6_word_66 hT37 rfl (fun hr38 => ?_)
    refine x_bipush (μ := mu_x6_word) (pc := 67) dX6_word_67 (by decide) ?_
    refine x_icmp_ne (μ := mu_x6_word) (pc := 69) (tgt := 76) dX6_word_69 rfl hr38 (by decide) ?_ ?_
    · refine x_iconst (μ := mu_x6_word) (pc := 76) dX6_word_76 ?_
      refine x_callIN_mv (μ := mu_x6_word) (pc := 77) (ok_x18_init (ω := ω) (l := l) (d := d - 1) hl (by omega) (by decide)) gRel_E gRel_E (fun _ q => q) q1988 q1989 q250 q1990 dX6_word_77 (gT_ne (gT_new e36)) rfl hy_x18_init (by omega) (Nat.le_of_ble_eq_true rfl) rfl (Nat.le_of_ble_eq_true rfl) (fun x39 k40 => ?_)
      exact x_aret (μ := mu_x6_word) (pc := 80) (a1 := ((.inl (some (vR (mZ s32))), x39) : gR)) dX6_word_80 rfl (by first | exact Or.inl ⟨_, rfl⟩ | exact Or.inr ⟨_, rfl⟩) rfl (gRel_E.1 _) trivial
    · refine x_iconst (μ := mu_x6_word) (pc := 72) dX6_word_72 ?_
      refine x_goto (μ := mu_x6_word) (pc := 73) (tgt := 77) dX6_word_73 rfl ?_
      refine x_callIN_mv (μ := mu_x6_word) (pc := 77) (ok_x18_init (ω := ω) (l := l) (d := d - 1) hl (by omega) (by decide)) gRel_E gRel_E (fun _ q => q) q1988 q1989 q250 q1990 dX6_word_77 (gT_ne (gT_new e36)) rfl hy_x18_init (by omega) (Nat.le_of_ble_eq_true rfl) rfl (Nat.le_of_ble_eq_true rfl) (fun x41 k42 => ?_)
      exact x_aret (μ := mu_x6_word) (pc := 80) (a1 := ((.inl (some (vR (mZ s32))), x41) : gR)) dX6_word_80 rfl (by first | exact Or.inl ⟨_, rfl⟩ | exact Or.inr ⟨_, rfl⟩) rfl (gRel_E.1 _) trivial
def x0_pick (N : Nat) (v0 : Nat) (v1 : Int) (v2 : Nat) (σ : gMem) : Option (Int × gMem) := if mT σ v0 = 1 then (x1_pick N v0 v1 σ).bind (fun p => gTryI p (fun x2 s5 => if mT s5 v2 = 101 then if 0 ≤ (0 : Int) ∧ (0 : Int) < (mN s5 v2 : Int) then gLet (wL s5 v2 (0 : Int).toNat x2) (fun s11 => some (0, s11)) else none else none) (fun E6 s7 => if E6 = "java/util/NoSuchElementException" then some (1, s7) else if E6 = "java/lang/UnsupportedOperationException" then some (2, s7) else if E6 = "java/lang/IllegalStateException" then some (3, s7) else none)) else none
set_option maxRecDepth 100000 in
theorem ok_x0_pick {ω : gW} {l : Launch} {d : Nat} {N : Nat} {σ : gMem} {v0 : Nat} {v1 : Int} {v2 : Nat} (hl : l.stackTraces = false) (hdp : 74 ≤ d) (hv1 : g32 v1) : gK (fun p : Int × gMem => (.inl (some (vI p.1)), p.2)) gE ω l d mu_x0_pick [vR v0, vI v1, vR v2] σ (x0_pick N v0 v1 v2 σ) := by
  refine gK.ofH hp_X0 (Nat.le_of_ble_eq_true rfl) ?_
  unfold x0_pick
  refine x_aload_n (μ := mu_x0_pick) (pc := 0) 2 dX0_pick_0 rfl ?_
  refine x_iconst (μ := mu_x0_pick) (pc := 1) dX0_pick_1 ?_
  refine x_aload_n (μ := mu_x0_pick) (pc := 2) 0 dX0_pick_2 rfl ?_
  refine x_iload_n (μ := mu_x0_pick) (pc := 3) 1 dX0_pick_3 rfl ?_
  refine x_if (fun hT1 => ?_)
  refine x_callV_ti (μ := mu_x0_pick) (pc := 4) (ok_x1_pick (ω := ω) (l := l) (d := d - 1) hl (by omega) hv1) q2578 q2579 q2580 q221 q2581 dX0_pick_4 rfl hT1 hy_x1_pick (by omega) (Nat.le_of_ble_eq_true rfl) rfl (Nat.le_of_ble_eq_true rfl) (fun x2 s5 k4 hr3 => ?_) (fun E6 s7 k9 => ?_)
  · refine x_i2l (μ := mu_x0_pick) (pc := 7) dX0_pick_7 hr3 ?_
    refine x_if (fun hT10 => ?_)
    refine x_last (μ := mu_x0_pick) (pc := 8) dX0_pick_8 hT10 rfl (fun _ _ q => gE_wL q) ?_
    refine x_let (fun s11 e12 => ?_)
    refine x_goto (μ := mu_x0_pick) (pc := 9) (tgt := 21) dX0_pick_9 rfl ?_
    refine x_iconst (μ := mu_x0_pick) (pc := 21) dX0_pick_21 ?_
    exact x_iret (μ := mu_x0_pick) (pc := 22) dX0_pick_22 rfl rfl (gRel_E.1 _) (show g32 0 from (by decide))
  · refine x_eqE "java/util/NoSuchElementException" (fun _ => ?_) (fun _ => ?_)
    · refine x_catch0 (pc := 4) (tgt := 12) rfl  q2392 q2399 (by decide) (fun q13 => ?_)
      refine x_astore_n (μ := mu_x0_pick) (pc := 12) (lv' := [(3, vR q13), (0, vR v0), (1, vI v1), (2, vR v2)]) dX0_pick_12 rfl (by decide) rfl ?_
      refine x_iconst (μ := mu_x0_pick) (pc := 13) dX0_pick_13 ?_
      exact x_iret (μ := mu_x0_pick) (pc := 14) dX0_pick_14 rfl rfl (gRel_E.1 _) (show g32 1 from (by decide))
    refine x_eqE "java/lang/UnsupportedOperationException" (fun _ => ?_) (fun _ => ?_)
    · refine x_catch1 (pc := 4) (tgt := 15) rfl q2392 (by decide) q1756 q2163 (by decide) (fun q14 => ?_)
      refine x_astore_n (μ := mu_x0_pick) (pc := 15) (lv' := [(3, vR q14), (0, vR v0), (1, vI v1), (2, vR v2)]) dX0_pick_15 rfl (by decide) rfl ?_
      refine x_iconst (μ := mu_x0_pick) (pc := 16) dX0_pick_16 ?_
      exact x_iret (μ := mu_x0_pick) (pc := 17) dX0_pick_17 rfl rfl (gRel_E.1 _) (show g32 2 from (by decide))
    refine x_eqE "java/lang/IllegalStateException" (fun _ => ?_) (fun _ => ?_)
    · refine x_catch2 (pc := 4) (tgt := 18) rfl q2392 (by decide) q1756 (by decide) q2194 q2209 (by decide) (fun q15 => ?_)
      refine x_astore_n (μ := mu_x0_pick) (pc := 18) (lv' := [(3, vR q15), (0, vR v0), (1, vI v1), (2, vR v2)]) dX0_pick_18 rfl (by decide) rfl ?_
      refine x_iconst (μ := mu_x0_pick) (pc := 19) dX0_pick_19 ?_
      exact x_iret (μ := mu_x0_pick) (pc := 20) dX0_pick_20 rfl rfl (gRel_E.1 _) (show g32 3 from (by decide))
    exact x_xnone
def x1_kind (N : Nat) (v0 : Nat) (v1 : Int) (v2 : Int) (v3 : Int) (σ : gMem) : Option (Int × gMem) := if mT σ v0 = 1 then (x1_hasCell v0 v1 v2 v3 σ).bind (fun x2 => if x2 ≠ 0 then (x1_valuesOf N v0 v1 σ).bind (fun x4 => if mT (x4.2) (x4.1) = 2 then if mT (x4.2) (mR (x4.2) (x4.1) 0) = 102 then if 0 ≤ (((10 * (v2 - 1)) + v3) - 1) ∧ (((10 * (v2 - 1)) + v3) - 1) < (mN (x4.2) (mR (x4.2) (x4.1) 0) : Int) then some (mI (x4.2) (mR (x4.2) (x4.1) 0) (((10 * (v2 - 1)) + v3) - 1).toNat, x4.2) else none else none else none) else some ((-1), σ)) else none
set_option maxRecDepth 100000 in
theorem ok_x1_kind {ω : gW} {l : Launch} {d : Nat} {N : Nat} {σ : gMem} {v0 : Nat} {v1 : Int} {v2 : Int} {v3 : Int} (hl : l.stackTraces = false) (hdp : 204 ≤ d) (hv1 : g32 v1) (hv2 : g32 v2) (hv3 : g32 v3) : gK (fun p : Int × gMem => (.inl (some (vI p.1)), p.2)) gE ω l d mu_x1_kind [vR v0, vI v1, vI v2, vI v3] σ (x1_kind N v0 v1 v2 v3 σ) := by
  refine gK.of hp_X1 (Nat.le_of_ble_eq_true rfl) ?_
  unfold x1_kind
  refine x_aload_n (μ := mu_x1_kind) (pc := 0) 0 dX1_kind_0 rfl ?_
  refine x_iload_n (μ := mu_x1_kind) (pc := 1) 1 dX1_kind_1 rfl ?_
  refine x_iload_n (μ := mu_x1_kind) (pc := 2) 2 dX1_kind_2 rfl ?_
  refine x_iload_n (μ := mu_x1_kind) (pc := 3) 3 dX1_kind_3 rfl ?_
  refine x_if (fun hT1 => ?_)
  refine x_callV_pi (μ := mu_x1_kind) (pc := 4) (ok_x1_hasCell (ω := ω) (l := l) (d := d - 1) hl (by omega) hv1 hv2 hv3) gRel_E gRel_E (fun _ q => q) q816 q818 qs5 q221 q819 dX1_kind_4 rfl hT1 hy_x1_hasCell (by omega) (Nat.le_of_ble_eq_true rfl) rfl (Nat.le_of_ble_eq_true rfl) (fun x2 hr3 => ?_)
  refine x_if_ne (μ := mu_x1_kind) (pc := 7) (tgt := 12) dX1_kind_7 rfl hr3 ?_ ?_
  · refine x_aload_n (μ := mu_x1_kind) (pc := 12) 0 dX1_kind_12 rfl ?_
    refine x_iload_n (μ := mu_x1_kind) (pc := 13) 1 dX1_kind_13 rfl ?_
    refine x_callV_mr (μ := mu_x1_kind) (pc := 14) (ok_x1_valuesOf (ω := ω) (l := l) (d := d - 1) hl (by omega) hv1) gRel_E gRel_E (fun _ q => q) q824 q826 qs6 q221 q827 dX1_kind_14 rfl hT1 hy_x1_valuesOf (by omega) (Nat.le_of_ble_eq_true rfl) rfl (Nat.le_of_ble_eq_true rfl) (fun x4 k5 => ?_)
    refine x_if (fun hT6 => ?_)
    refine x_fgrN (μ := mu_x1_kind) (pc := 17) fX2_0 (by first | exact Or.inl ⟨_, rfl⟩ | exact Or.inr ⟨_, rfl⟩) q285 dX1_kind_17 hT6 ?_
    refine x_bipush (μ := mu_x1_kind) (pc := 20) dX1_kind_20 (by decide) ?_
    refine x_iload_n (μ := mu_x1_kind) (pc := 22) 2 dX1_kind_22 rfl ?_
    refine x_iconst (μ := mu_x1_kind) (pc := 23) dX1_kind_23 ?_
    refine x_isub (μ := mu_x1_kind) (pc := 24) dX1_kind_24 ?_
    refine x_imul (μ := mu_x1_kind) (pc := 25) dX1_kind_25 ?_
    refine x_iload_n (μ := mu_x1_kind) (pc := 26) 3 dX1_kind_26 rfl ?_
    refine x_iadd (μ := mu_x1_kind) (pc := 27) dX1_kind_27 ?_
    refine x_iconst (μ := mu_x1_kind) (pc := 28) dX1_kind_28 ?_
    refine x_isub (μ := mu_x1_kind) (pc := 29) dX1_kind_29 ?_
    refine x_if (fun hT7 => ?_)
    refine x_bald (μ := mu_x1_kind) (pc := 30) dX1_kind_30 hT7 rfl (fun hr8 => ?_)
    exact x_iret (μ := mu_x1_kind) (pc := 31) dX1_kind_31 rfl rfl (gRel_E.1 _) (show g32 (mI (x4.2) (mR (x4.2) (x4.1) 0) (((10 * (v2 - 1)) + v3) - 1).toNat) from hr8)
  · refine x_iconst (μ := mu_x1_kind) (pc := 10) dX1_kind_10 ?_
    exact x_iret (μ := mu_x1_kind) (pc := 11) dX1_kind_11 rfl rfl (gRel_E.1 _) (show g32 (-1) from (by decide))
def x1_merge (N : Nat) (v0 : Nat) (v1 : Int) (σ : gMem) : Option gR := (x1_isBranch v1 σ).bind (fun x1 => if x1 ≠ 0 then if mT σ v0 = 1 then if mT σ (mR σ v0 6) = 100 then if 0 ≤ v1 ∧ v1 < (mN σ (mR σ v0 6) : Int) then if mI σ (mR σ v0 6) v1.toNat ≠ (-1) then if mI σ v0 16 ≠ 200 then (x1_isBusy N v0 σ).bind (fun x7 => if x7 = 0 then (x1_head v0 σ).bind (fun x9 => if mT σ (mR σ v0 4) = 104 then if 0 ≤ x9 ∧ x9 < (mN σ (mR σ v0 4) : Int) then if mT σ (mR σ (mR σ v0 4) x9.toNat) = 9 then if gcmp (lAnd (lShr (mL σ (mR σ (mR σ v0 4) x9.toNat) 4) (mI σ (mR σ v0 6) v1.toNat)) (((1 : Fin 2) : Nat) : Int)) (((1 : Fin 2) : Nat) : Int) ≠ 0 then (x1_head v0 σ).bind (fun x14 => (x1_base v0 x14 (mI σ (mR σ v0 6) v1.toNat) σ).bind (fun x16 => if 0 ≤ x16 ∧ x16 < (mN σ (mR σ v0 4) : Int) then if mT σ (mR σ (mR σ v0 4) x16.toNat) = 9 then if 0 ≤ (mI σ (mR σ v0 6) v1.toNat) ∧ (mI σ (mR σ v0 6) v1.toNat) < (mN σ (mR σ v0 4) : Int) then if mT σ (mR σ (mR σ v0 4) (mI σ (mR σ v0 6) v1.toNat).toNat) = 9 then (x1_weave N v0 (mR σ (mR σ (mR σ v0 4) x16.toNat) 0) (mR σ (mR σ (mR σ v0 4) (mI σ (mR σ v0 6) v1.toNat).toNat) 0) σ).bind (fun p => gThrI p (fun x20 s23 => gLet (wI s23 v0 15 (mI σ (mR σ v0 6) v1.toNat)) (fun s24 => some (.inl (some (vI x20)), s24)))) else none else none else none else none)) else some (.inl (some (vI (-1))), σ) else none else none else none) else some (.inr "java/lang/IllegalStateException", wX σ 6)) else some (.inr "java/lang/UnsupportedOperationException", wX σ 6) else some (.inr "java/util/NoSuchElementException", wX σ 6) else none else none else none else some (.inr "java/lang/IndexOutOfBoundsException", wX σ 6))
set_option maxRecDepth 100000 in
theorem ok_x1_merge {ω : gW} {l : Launch} {d : Nat} {N : Nat} {σ : gMem} {v0 : Nat} {v1 : Int} (hl : l.stackTraces = false) (hdp : 73 ≤ d) (hv1 : g32 v1) : gK (fun p : gR => p) gE ω l d mu_x1_merge [vR v0, vI v1] σ (x1_merge N v0 v1 σ) := by
  refine gK.of hp_X1 (Nat.le_of_ble_eq_true rfl) ?_
  unfold x1_merge
  refine x_iload_n (μ := mu_x1_merge) (pc := 0) 1 dX1_merge_0 rfl ?_
  refine x_callS_pi (μ := mu_x1_merge) (pc := 1) (ok_x1_isBranch (ω := ω) (l := l) (d := d - 1) hl (by omega) hv1) gRel_E gRel_E (fun _ q => q) q2437 q2438 q221 q2439 dX1_merge_1 hy_x1_isBranch (by omega) (Nat.le_of_ble_eq_true rfl) rfl (Nat.le_of_ble_eq_true rfl) (fun x1 hr2 => ?_)
  refine x_if_ne (μ := mu_x1_merge) (pc := 4) (tgt := 15) dX1_merge_4 rfl hr2 ?_ ?_
  · refine x_aload_n (μ := mu_x1_merge) (pc := 15) 0 dX1_merge_15 rfl ?_
    refine x_if (fun hT3 => ?_)
    refine x_fgr (μ := mu_x1_merge) (pc := 16) fX1_6 (by first | exact Or.inl ⟨_, rfl⟩ | exact Or.inr ⟨_, rfl⟩) q651 dX1_merge_16 hT3 ?_
    refine x_iload_n (μ := mu_x1_merge) (pc := 19) 1 dX1_merge_19 rfl ?_
    refine x_if (fun hT4 => ?_)
    refine x_iald (μ := mu_x1_merge) (pc := 20) dX1_merge_20 hT4 rfl (fun hr5 => ?_)
    refine x_istore_n (μ := mu_x1_merge) (pc := 21) (lv' := [(2, vI (mI σ (mR σ v0 6) v1.toNat)), (0, vR v0), (1, vI v1)]) dX1_merge_21 rfl (by decide) rfl ?_
    refine x_iload_n (μ := mu_x1_merge) (pc := 22) 0 dX1_merge_22 rfl ?_
    refine x_iconst (μ := mu_x1_merge) (pc := 23) dX1_merge_23 ?_
    refine x_icmp_ne (μ := mu_x1_merge) (pc := 24) (tgt := 35) dX1_merge_24 rfl hr5 (by decide) ?_ ?_
    · refine x_aload_n (μ := mu_x1_merge) (pc := 35) 1 dX1_merge_35 rfl ?_
      refine x_fgi (μ := mu_x1_merge) (pc := 36) fX1_16 q661 dX1_merge_36 hT3 (fun hr6 => ?_)
      refine x_sipush (μ := mu_x1_merge) (pc := 39) dX1_merge_39 (by decide) ?_
      refine x_icmp_ne (μ := mu_x1_merge) (pc := 42) (tgt := 53) dX1_merge_42 rfl hr6 (by decide) ?_ ?_
      · refine x_aload_n (μ := mu_x1_merge) (pc := 53) 1 dX1_merge_53 rfl ?_
        refine x_callV_pi (μ := mu_x1_merge) (pc := 54) (ok_x1_isBusy (ω := ω) (l := l) (d := d - 1) hl (by omega) ) gRel_E gRel_E (fun _ q => q) q2447 q2449 qs64 q221 q2450 dX1_merge_54 rfl hT3 hy_x1_isBusy (by omega) (Nat.le_of_ble_eq_true rfl) rfl (Nat.le_of_ble_eq_true rfl) (fun x7 hr8 => ?_)
        refine x_if_eq (μ := mu_x1_merge) (pc := 57) (tgt := 68) dX1_merge_57 rfl hr8 ?_ ?_
        · refine x_aload_n (μ := mu_x1_merge) (pc := 68) 1 dX1_merge_68 rfl ?_
          refine x_fgr (μ := mu_x1_merge) (pc := 69) fX1_4 (by first | exact Or.inl ⟨_, rfl⟩ | exact Or.inr ⟨_, rfl⟩) q649 dX1_merge_69 hT3 ?_
          refine x_aload_n (μ := mu_x1_merge) (pc := 72) 1 dX1_merge_72 rfl ?_
          refine x_callV_pi (μ := mu_x1_merge) (pc := 73) (ok_x1_head (ω := ω) (l := l) (d := d - 1) hl (by omega) ) gRel_E gRel_E (fun _ q => q) q766 q768 qs2 q221 q769 dX1_merge_73 rfl hT3 hy_x1_head (by omega) (Nat.le_of_ble_eq_true rfl) rfl (Nat.le_of_ble_eq_true rfl) (fun x9 hr10 => ?_)
          refine x_if (fun hT11 => ?_)
          refine x_aald (μ := mu_x1_merge) (pc := 76) 4 (fun _ => rfl) rfl rfl dX1_merge_76 hT11 rfl ?_
          refine x_if (fun hT12 => ?_)
          refine x_fglN (μ := mu_x1_merge) (pc := 77) fX10_4 q611 dX1_merge_77 hT12 (fun hr13 => ?_)
          refine x_iload_n (μ := mu_x1_merge) (pc := 80) 0 dX1_merge_80 rfl ?_
          refine x_lshr (μ := mu_x1_merge) (pc := 81) dX1_merge_81 ?_
          refine x_lconst (μ := mu_x1_merge) (pc := 82) dX1_merge_82 ?_
          refine x_land (μ := mu_x1_merge) (pc := 83) dX1_merge_83 ?_
          refine x_lconst (μ := mu_x1_merge) (pc := 84) dX1_merge_84 ?_
          refine x_lcmp (μ := mu_x1_merge) (pc := 85) dX1_merge_85 (lAnd_rng _ _) (by decide) ?_
          refine x_if_ne (μ := mu_x1_merge) (pc := 86) (tgt := 91) dX1_merge_86 rfl (gcmp_rng _ _) ?_ ?_
          · refine x_aload_n (μ := mu_x1_merge) (pc := 91) 1 dX1_merge_91 rfl ?_
            refine x_aload_n (μ := mu_x1_merge) (pc := 92) 1 dX1_merge_92 rfl ?_
            refine x_fgr (μ := mu_x1_merge) (pc := 93) fX1_4 (by first | exact Or.inl ⟨_, rfl⟩ | exact Or.inr ⟨_, rfl⟩) q649 dX1_merge_93 hT3 ?_
            refine x_aload_n (μ := mu_x1_merge) (pc := 96) 1 dX1_merge_96 rfl ?_
            refine x_aload_n (μ := mu_x1_merge) (pc := 97) 1 dX1_merge_97 rfl ?_
            refine x_callV_pi (μ := mu_x1_merge) (pc := 98) (ok_x1_head (ω := ω) (l := l) (d := d - 1) hl (by omega) ) gRel_E gRel_E (fun _ q => q) q766 q768 qs2 q221 q769 dX1_merge_98 rfl hT3 hy_x1_head (by omega) (Nat.le_of_ble_eq_true rfl) rfl (Nat.le_of_ble_eq_true rfl) (fun x14 hr15 => ?_)
            refine x_iload_n (μ := mu_x1_merge) (pc := 101) 0 dX1_merge_101 rfl ?_
            refine x_callV_pi (μ := mu_x1_merge) (pc := 102) (ok_x1_base (ω := ω) (l := l) (d := d - 1) hl (by omega) hr15 hr5) gRel_E gRel_E (fun _ q => q) q2458 q790 q791 q221 q792 dX1_merge_102 rfl hT3 hy_x1_base (by omega) (Nat.le_of_ble_eq_true rfl) rfl (Nat.le_of_ble_eq_true rfl) (fun x16 hr17 => ?_)
            refine x_aald (μ := mu_x1_merge) (pc := 105) 4 (fun _ => rfl) rfl rfl dX1_merge_105 hT11 rfl ?_
            refine x_if (fun hT18 => ?_)
            refine x_fgrN (μ := mu_x1_merge) (pc := 106) fX10_0 (by first | exact Or.inl ⟨_, rfl⟩ | exact Or.inr ⟨_, rfl⟩) q600 dX1_merge_106 hT18 ?_
            refine x_aload_n (μ := mu_x1_merge) (pc := 109) 1 dX1_merge_109 rfl ?_
            refine x_fgr (μ := mu_x1_merge) (pc := 110) fX1_4 (by first | exact Or.inl ⟨_, rfl⟩ | exact Or.inr ⟨_, rfl⟩) q649 dX1_merge_110 hT3 ?_
            refine x_iload_n (μ := mu_x1_merge) (pc := 113) 0 dX1_merge_113 rfl ?_
            refine x_aald (μ := mu_x1_merge) (pc := 114) 4 (fun _ => rfl) rfl rfl dX1_merge_114 hT11 rfl ?_
            refine x_if (fun hT19 => ?_)
            refine x_fgrN (μ := mu_x1_merge) (pc := 115) fX10_0 (by first | exact Or.inl ⟨_, rfl⟩ | exact Or.inr ⟨_, rfl⟩) q600 dX1_merge_115 hT19 ?_
            refine x_callV_xi (μ := mu_x1_merge) (pc := 118) (ok_x1_weave (ω := ω) (l := l) (d := d - 1) hl (by omega) ) q2459 q2461 qs65 q221 q2462 dX1_merge_118 rfl hT3 hy_x1_weave (by omega) (Nat.le_of_ble_eq_true rfl) rfl (Nat.le_of_ble_eq_true rfl) (by decide) (fun x20 s23 k22 hr21 => ?_)
            refine x_istore_n (μ := mu_x1_merge) (pc := 121) (lv' := [(3, vI x20), (2, vI (mI σ (mR σ v0 6) v1.toNat)), (0, vR v0), (1, vI v1)]) dX1_merge_121 rfl (by decide) rfl ?_
            refine x_aload_n (μ := mu_x1_merge) (pc := 122) 2 dX1_merge_122 rfl ?_
            refine x_iload_n (μ := mu_x1_merge) (pc := 123) 1 dX1_merge_123 rfl ?_
            refine x_fpi (μ := mu_x1_merge) (pc := 124) fX1_15 q660 dX1_merge_124 (gT_E k22 hT3 (by decide)) (fun _ q => gE_wI q) ?_
            refine x_let (fun s24 e25 => ?_)
            refine x_iload_n (μ := mu_x1_merge) (pc := 127) 0 dX1_merge_127 rfl ?_
            exact x_iret (μ := mu_x1_merge) (pc := 128) (a1 := ((.inl (some (vI x20)), s24) : gR)) dX1_merge_128 rfl rfl (gRel_E.1 _) (show g32 x20 from hr21)
          · refine x_iconst (μ := mu_x1_merge) (pc := 89) dX1_merge_89 ?_
            exact x_iret (μ := mu_x1_merge) (pc := 90) (a1 := ((.inl (some (vI (-1))), σ) : gR)) dX1_merge_90 rfl rfl (gRel_E.1 _) (show g32 (-1) from (by decide))
        · exact x_throw0 (μ := mu_x1_merge) (pc := 60) hl gex_IllegalStateException (by decide) rfl q2207 q259 dX1_merge_60 dX1_merge_63 dX1_merge_64 dX1_merge_67 (by decide) (by omega) (Nat.le_of_ble_eq_true rfl)
      · exact x_throw0 (μ := mu_x1_merge) (pc := 45) hl gex_UnsupportedOperationException (by decide) rfl q2161 q258 dX1_merge_45 dX1_merge_48 dX1_merge_49 dX1_merge_52 (by decide) (by omega) (Nat.le_of_ble_eq_true rfl)
    · exact x_throw0 (μ := mu_x1_merge) (pc := 27) hl gex_NoSuchElementException (by decide) rfl q2397 q265 dX1_merge_27 dX1_merge_30 dX1_merge_31 dX1_merge_34 (by decide) (by omega) (Nat.le_of_ble_eq_true rfl)
  · exact x_throw0 (μ := mu_x1_merge) (pc := 7) hl gex_IndexOutOfBoundsException (by decide) rfl q1762 q236 dX1_merge_7 dX1_merge_10 dX1_merge_11 dX1_merge_14 (by decide) (by omega) (Nat.le_of_ble_eq_true rfl)
def tw_readSign_o (N : Nat) (W : gMem → Option gMem) (h : Nat) (σ : gMem) : Option gMem := (tw_isSignOf h 18 18 σ).bind (fun x1 => if x1 ≠ 0 then (tw_opens h σ).bind (fun x3 => if x3.1 = 0 then some (x3.2) else (tw_next N h (x3.2)).bind (fun x7 => (W x7).bind (fun x10 => gLet (wI x10 h 57 (w32 ((mI x10 h 57) - 1))) (fun s14 => (tw_part N h 7 1 s14).bind (fun x17 => some (x17.2)))))) else (tw_readAtom N W h σ).bind (fun x21 => some x21))
set_option maxRecDepth 100000 in
theorem ok_tw_readSign_o {ω : gW} {l : Launch} {d : Nat} {N : Nat} {W : gMem → Option gMem} {dW : Nat} {h : Nat} {σ : gMem} (hW : ∀ (s : gMem), TM s h → gK (fun p : gMem => (.inl none, p)) gTw ω l dW mu_tw_readSign [vR h] s (W s)) (hdp : 14 ≤ d) (hdw : dW + 8 ≤ d) (hM : TM σ h) : gK (fun p : gMem => (.inl none, p)) gTw ω l d mu_tw_readSign [vR h] σ (tw_readSign_o N W h σ) := by
  refine gK.of hp_X11 (Nat.le_of_ble_eq_true rfl) ?_
  unfold tw_readSign_o
  refine x_aload_n (μ := mu_tw_readSign) (pc := 0) 0 dX11_readSign_0 rfl ?_
  refine x_bipush (μ := mu_tw_readSign) (pc := 1) dX11_readSign_1 (by decide) ?_
  refine x_bipush (μ := mu_tw_readSign) (pc := 3) dX11_readSign_3 (by decide) ?_
  refine x_callV_pi (μ := mu_tw_readSign) (pc := 5) (ok_tw_isSignOf (ω := ω) (l := l) (d := d - 1) (by omega) hM (by decide) (by decide)) gRel_Tw gRel_Tw (fun _ q => q) q3067 q3069 qs97 q232 q3070 dX11_readSign_5 rfl hM.1 hy_tw_isSignOf (by omega) (Nat.le_of_ble_eq_true rfl) rfl (Nat.le_of_ble_eq_true rfl) (fun x1 hr2 => ?_)
  refine x_if_ne (μ := mu_tw_readSign) (pc := 8) (tgt := 16) dX11_readSign_8 rfl hr2 ?_ ?_
  · refine x_aload_n (μ := mu_tw_readSign) (pc := 16) 0 dX11_readSign_16 rfl ?_
    refine x_callV_mi (μ := mu_tw_readSign) (pc := 17) (ok_tw_opens (ω := ω) (l := l) (d := d - 1) (by omega) hM ) gRel_Tw gRel_Tw (fun _ q => q) q3128 q3130 qs106 q232 q3131 dX11_readSign_17 rfl hM.1 hy_tw_opens (by omega) (Nat.le_of_ble_eq_true rfl) rfl (Nat.le_of_ble_eq_true rfl) (fun x3 k5 hr4 => ?_)
    have hM6 : TM (x3.2) h := hM.tw k5
    refine x_if_eq (μ := mu_tw_readSign) (pc := 20) (tgt := 49) dX11_readSign_20 rfl hr4 ?_ ?_
    · exact x_vret (μ := mu_tw_readSign) (pc := 49) (a1 := x3.2) dX11_readSign_49 rfl rfl (gRel_Tw.1 _) trivial
    · refine x_aload_n (μ := mu_tw_readSign) (pc := 23) 0 dX11_readSign_23 rfl ?_
      refine x_callV_mv (μ := mu_tw_readSign) (pc := 24) (ok_tw_next (ω := ω) (l := l) (d := d - 1) (by omega) hM6 ) gRel_Tw gRel_Tw (fun _ q => q) q2995 q2997 qs82 q232 q2998 dX11_readSign_24 rfl hM6.1 hy_tw_next (by omega) (Nat.le_of_ble_eq_true rfl) rfl (Nat.le_of_ble_eq_true rfl) (fun x7 k8 => ?_)
      have hM9 : TM x7 h := hM6.tw k8
      refine x_aload_n (μ := mu_tw_readSign) (pc := 27) 0 dX11_readSign_27 rfl ?_
      refine x_callV_mv (μ := mu_tw_readSign) (pc := 28) (hW x7 hM9 ) gRel_Tw gRel_Tw (fun _ q => q) q3063 q3065 qs96 q232 q3066 dX11_readSign_28 rfl hM9.1 hy_tw_readSign (by omega) (Nat.le_of_ble_eq_true rfl) rfl (Nat.le_of_ble_eq_true rfl) (fun x10 k11 => ?_)
      have hM12 : TM x10 h := hM9.tw k11
      refine x_aload_n (μ := mu_tw_readSign) (pc := 31) 0 dX11_readSign_31 rfl ?_
      refine x_dup (μ := mu_tw_readSign) (pc := 32) dX11_readSign_32 rfl ?_
      refine x_fgi (μ := mu_tw_readSign) (pc := 33) fX11_57 q2693 dX11_readSign_33 hM12.1 (fun hr13 => ?_)
      refine x_iconst (μ := mu_tw_readSign) (pc := 36) dX11_readSign_36 ?_
      refine x_isub (μ := mu_tw_readSign) (pc := 37) dX11_readSign_37 ?_
      refine x_w1 ?_
      refine x_fpi (μ := mu_tw_readSign) (pc := 38) fX11_57 q2693 dX11_readSign_38 hM12.1 (fun _ q => gTw_wI q) ?_
      refine x_let (fun s14 e15 => ?_)
      have hM16 := TM.eI e15 hM12
      refine x_aload_n (μ := mu_tw_readSign) (pc := 41) 0 dX11_readSign_41 rfl ?_
      refine x_bipush (μ := mu_tw_readSign) (pc := 42) dX11_readSign_42 (by decide) ?_
      refine x_iconst (μ := mu_tw_readSign) (pc := 44) dX11_readSign_44 ?_
      refine x_callV_mi (μ := mu_tw_readSign) (pc := 45) (ok_tw_part (ω := ω) (l := l) (d := d - 1) (by omega) hM16 (by decide) (by decide)) gRel_Tw gRel_Tw (fun _ q => q) q3083 q3085 qs101 q232 q3086 dX11_readSign_45 rfl hM16.1 hy_tw_part (by omega) (Nat.le_of_ble_eq_true rfl) rfl (Nat.le_of_ble_eq_true rfl) (fun x17 k19 hr18 => ?_)
      have hM20 : TM (x17.2) h := hM16.tw k19
      refine x_pop (μ := mu_tw_readSign) (pc := 48) dX11_readSign_48 rfl ?_
      exact x_vret (μ := mu_tw_readSign) (pc := 49) (a1 := x17.2) dX11_readSign_49 rfl rfl (gRel_Tw.1 _) trivial
  · refine x_aload_n (μ := mu_tw_readSign) (pc := 11) 0 dX11_readSign_11 rfl ?_
    refine x_callV_mv (μ := mu_tw_readSign) (pc := 12) (ok_tw_readAtom (ω := ω) (l := l) (d := d - 1) hW (by omega) (by omega) hM ) gRel_Tw gRel_Tw (fun _ q => q) q3071 q3073 qs98 q232 q3074 dX11_readSign_12 rfl hM.1 hy_tw_readAtom (by omega) (Nat.le_of_ble_eq_true rfl) rfl (Nat.le_of_ble_eq_true rfl) (fun x21 k22 => ?_)
    have hM23 : TM x21 h := hM.tw k22
    exact x_vret (μ := mu_tw_readSign) (pc := 15) (a1 := x21) dX11_readSign_15 rfl rfl (gRel_Tw.1 _) trivial
def tw_readSign (N : Nat) (h : Nat) : Nat → gMem → Option gMem
  | 0 => fun _ => none
  | n + 1 => fun s => tw_readSign_o N (tw_readSign N h n) h s
set_option maxRecDepth 100000 in
theorem ok_tw_readSign {ω : gW} {l : Launch} {N : Nat} {h : Nat} : ∀ (n : Nat) {d : Nat} (s : gMem), TM s h → 14 + 8 * n ≤ d → gK (fun p : gMem => (.inl none, p)) gTw ω l d mu_tw_readSign [vR h] s (tw_readSign N h n s) := by
  intro n
  induction n with
  | zero => intro d s mm hd; exact gK.none
  | succ n ih =>
    intro d s mm hd
    exact ok_tw_readSign_o (dW := 14 + 8 * n) (fun s mm => ih s mm (Nat.le_refl _)) (by omega) (by omega) mm
def tw_valuesOf_l2 (N : Nat) (h : Nat) (v1 : Int) (K : gMem → Option gMem) : Nat → Int → gMem → Option gMem
  | 0, _, _ => none
  | n + 1, v2, s => if 1600 ≤ v2 then K s else if 0 ≤ v2 ∧ v2 < ((1600 : Nat) : Int) then gLet (wL s (h + 38) v2.toNat (((0 : Fin 2) : Nat) : Int)) (fun s1 => tw_valuesOf_l2 N h v1 K n (w32 (v2 + 1)) s1) else none
set_option maxRecDepth 100000 in
theorem okl_tw_valuesOf_l2 {ω : gW} {l : Launch} {d : Nat} {N : Nat} {h : Nat} {σ0 : gMem} {v1 : Int} {K : gMem → Option gMem} (hdp : 204 ≤ d) (hv1 : g32 v1) (hK : ∀ (s : gMem) , TM s h → GG (fun p : gMem => (.inl none, p)) gTw ω l d mu_tw_valuesOf σ0 22 [(0, vR h), (1, vI v1)] [] s (K s)) : ∀ (n : Nat) (v2 : Int) (s : gMem) , g32 v2 → TM s h → GG (fun p : gMem => (.inl none, p)) gTw ω l d mu_tw_valuesOf σ0 2 [(0, vR h), (1, vI v1), (2, vI v2)] [] s (tw_valuesOf_l2 N h v1 K n v2 s) := by
  intro n
  induction n with
  | zero => intros; exact x_none
  | succ n ih =>
    intro v2 s hv2 hM
    unfold tw_valuesOf_l2
    refine x_iload_n (μ := mu_tw_valuesOf) (pc := 2) 2 dX11_valuesOf_2 rfl ?_
    refine x_sipush (μ := mu_tw_valuesOf) (pc := 3) dX11_valuesOf_3 (by decide) ?_
    refine x_icmp_ge (μ := mu_tw_valuesOf) (pc := 6) (tgt := 22) dX11_valuesOf_6 rfl hv2 (by decide) ?_ ?_
    · refine x_loc (lv' := [(0, vR h), (1, vI v1)]) [0, 1] rfl ?_
      exact hK s hM
    · refine x_aload_n (μ := mu_tw_valuesOf) (pc := 9) 0 dX11_valuesOf_9 rfl ?_
      refine x_fgrE (μ := mu_tw_valuesOf) (pc := 10) fX11_82 (Or.inr ⟨_, rfl⟩) q2718 (hM.a82).1 dX11_valuesOf_10 hM.1 ?_
      refine x_iload_n (μ := mu_tw_valuesOf) (pc := 13) 2 dX11_valuesOf_13 rfl ?_
      refine x_lconst (μ := mu_tw_valuesOf) (pc := 14) dX11_valuesOf_14 ?_
      refine x_last (μ := mu_tw_valuesOf) (pc := 15) dX11_valuesOf_15 (hM.a82).2.1 (hM.a82).2.2 (fun _ _ q => gTw_wL q) ?_
      refine x_let (fun s1 e2 => ?_)
      have hM3 := TM.eL e2 hM
      refine x_iincw (μ := mu_tw_valuesOf) (pc := 16) (lv' := [(2, vI (w32 (v2 + 1))), (0, vR h), (1, vI v1)]) 2 dX11_valuesOf_16 rfl (by decide) rfl ?_
      refine x_goto (μ := mu_tw_valuesOf) (pc := 19) (tgt := 2) dX11_valuesOf_19 rfl ?_
      refine x_loc (lv' := [(0, vR h), (1, vI v1), (2, vI (w32 (v2 + 1)))]) [1, 2, 0] rfl ?_
      exact ih (w32 (v2 + 1)) s1 (w32_rng _) hM3
def tw_valuesOf_l24 (N : Nat) (h : Nat) (v1 : Int) (K : gMem → Option gMem) : Nat → Int → gMem → Option gMem
  | 0, _, _ => none
  | n + 1, v2, s => if 5 ≤ v2 then K s else if 0 ≤ v2 ∧ v2 < ((5 : Nat) : Int) then gLet (wL s (h + 41) v2.toNat (((0 : Fin 2) : Nat) : Int)) (fun s6 => tw_valuesOf_l24 N h v1 K n (w32 (v2 + 1)) s6) else none
set_option maxRecDepth 100000 in
theorem okl_tw_valuesOf_l24 {ω : gW} {l : Launch} {d : Nat} {N : Nat} {h : Nat} {σ0 : gMem} {v1 : Int} {K : gMem → Option gMem} (hdp : 204 ≤ d) (hv1 : g32 v1) (hK : ∀ (s : gMem) , TM s h → GG (fun p : gMem => (.inl none, p)) gTw ω l d mu_tw_valuesOf σ0 42 [(0, vR h), (1, vI v1)] [] s (K s)) : ∀ (n : Nat) (v2 : Int) (s : gMem) , g32 v2 → TM s h → GG (fun p : gMem => (.inl none, p)) gTw ω l d mu_tw_valuesOf σ0 24 [(0, vR h), (1, vI v1), (2, vI v2)] [] s (tw_valuesOf_l24 N h v1 K n v2 s) := by
  intro n
  induction n with
  | zero => intros; exact x_none
  | succ n ih =>
    intro v2 s hv2 hM
    unfold tw_valuesOf_l24
    refine x_iload_n (μ := mu_tw_valuesOf) (pc := 24) 2 dX11_valuesOf_24 rfl ?_
    refine x_iconst (μ := mu_tw_valuesOf) (pc := 25) dX11_valuesOf_25 ?_
    refine x_icmp_ge (μ := mu_tw_valuesOf) (pc := 26) (tgt := 42) dX11_valuesOf_26 rfl hv2 (by decide) ?_ ?_
    · refine x_loc (lv' := [(0, vR h), (1, vI v1)]) [0, 1] rfl ?_
      exact hK s hM
    · refine x_aload_n (μ := mu_tw_valuesOf) (pc := 29) 0 dX11_valuesOf_29 rfl ?_
      refine x_fgrE (μ := mu_tw_valuesOf) (pc := 30) fX11_85 (Or.inr ⟨_, rfl⟩) q2721 (hM.a85).1 dX11_valuesOf_30 hM.1 ?_
      refine x_iload_n (μ := mu_tw_valuesOf) (pc := 33) 2 dX11_valuesOf_33 rfl ?_
      refine x_lconst (μ := mu_tw_valuesOf) (pc := 34) dX11_valuesOf_34 ?_
      refine x_last (μ := mu_tw_valuesOf) (pc := 35) dX11_valuesOf_35 (hM.a85).2.1 (hM.a85).2.2 (fun _ _ q => gTw_wL q) ?_
      refine x_let (fun s6 e7 => ?_)
      have hM8 := TM.eL e7 hM
      refine x_iincw (μ := mu_tw_valuesOf) (pc := 36) (lv' := [(2, vI (w32 (v2 + 1))), (0, vR h), (1, vI v1)]) 2 dX11_valuesOf_36 rfl (by decide) rfl ?_
      refine x_goto (μ := mu_tw_valuesOf) (pc := 39) (tgt := 24) dX11_valuesOf_39 rfl ?_
      refine x_loc (lv' := [(0, vR h), (1, vI v1), (2, vI (w32 (v2 + 1)))]) [1, 2, 0] rfl ?_
      exact ih (w32 (v2 + 1)) s6 (w32_rng _) hM8
def tw_valuesOf_l44_j153 (N : Nat) (h : Nat) (v1 : Int) (v2 : Int) (Kh : Int → gMem → Option gMem) (K : gMem → Option gMem) (s : gMem) : Option gMem := Kh (w32 (v2 + 1)) s
set_option maxRecDepth 100000 in
theorem okj_tw_valuesOf_l44_j153 {ω : gW} {l : Launch} {d : Nat} {N : Nat} {h : Nat} {σ0 : gMem} {s : gMem} {v1 : Int} {v2 : Int} {Kh : Int → gMem → Option gMem} {K : gMem → Option gMem} (hdp : 204 ≤ d) (hM : TM s h) (hv1 : g32 v1) (hv2 : g32 v2) (hKh : ∀ (v2 : Int) (s : gMem) , g32 v2 → TM s h → GG (fun p : gMem => (.inl none, p)) gTw ω l d mu_tw_valuesOf σ0 44 [(0, vR h), (1, vI v1), (2, vI v2)] [] s (Kh v2 s)) (hK : ∀ (s : gMem) , TM s h → GG (fun p : gMem => (.inl none, p)) gTw ω l d mu_tw_valuesOf σ0 159 [(0, vR h), (1, vI v1)] [] s (K s)) : GG (fun p : gMem => (.inl none, p)) gTw ω l d mu_tw_valuesOf σ0 153 [(0, vR h), (1, vI v1), (2, vI v2)] [] s (tw_valuesOf_l44_j153 N h v1 v2 Kh K s) := by
  unfold tw_valuesOf_l44_j153
  refine x_iincw (μ := mu_tw_valuesOf) (pc := 153) (lv' := [(2, vI (w32 (v2 + 1))), (0, vR h), (1, vI v1)]) 2 dX11_valuesOf_153 rfl (by decide) rfl ?_
  refine x_goto (μ := mu_tw_valuesOf) (pc := 156) (tgt := 44) dX11_valuesOf_156 rfl ?_
  refine x_loc (lv' := [(0, vR h), (1, vI v1), (2, vI (w32 (v2 + 1)))]) [1, 2, 0] rfl ?_
  exact hKh (w32 (v2 + 1)) s (w32_rng _) hM
def tw_valuesOf_l44_j121 (N : Nat) (h : Nat) (v1 : Int) (v2 : Int) (v3 : Int) (Kh : Int → gMem → Option gMem) (K : gMem → Option gMem) (s : gMem) : Option gMem := (tw_goesThrough h v2 s).bind (fun x12 => if v3 = 0 then tw_valuesOf_l44_j153 N h v1 v2  (Kh) K x12 else if 0 ≤ ((320 * v1) + v2) ∧ ((320 * v1) + v2) < ((39040 : Nat) : Int) then (tw_plainValue N h (mI x12 (h + 5) ((320 * v1) + v2).toNat) (w32 ((320 * v1) + v2)) x12).bind (fun x16 => tw_valuesOf_l44_j153 N h v1 v2  (Kh) K x16) else none)
set_option maxRecDepth 100000 in
theorem okj_tw_valuesOf_l44_j121 {ω : gW} {l : Launch} {d : Nat} {N : Nat} {h : Nat} {σ0 : gMem} {s : gMem} {v1 : Int} {v2 : Int} {v3 : Int} {Kh : Int → gMem → Option gMem} {K : gMem → Option gMem} (hdp : 204 ≤ d) (hM : TM s h) (hv1 : g32 v1) (hv2 : g32 v2) (hv3 : g32 v3) (hKh : ∀ (v2 : Int) (s : gMem) , g32 v2 → TM s h → GG (fun p : gMem => (.inl none, p)) gTw ω l d mu_tw_valuesOf σ0 44 [(0, vR h), (1, vI v1), (2, vI v2)] [] s (Kh v2 s)) (hK : ∀ (s : gMem) , TM s h → GG (fun p : gMem => (.inl none, p)) gTw ω l d mu_tw_valuesOf σ0 159 [(0, vR h), (1, vI v1)] [] s (K s)) : GG (fun p : gMem => (.inl none, p)) gTw ω l d mu_tw_valuesOf σ0 121 [(0, vR h), (1, vI v1), (2, vI v2), (3, vI v3)] [] s (tw_valuesOf_l44_j121 N h v1 v2 v3 Kh K s) := by
  unfold tw_valuesOf_l44_j121
  refine x_aload_n (μ := mu_tw_valuesOf) (pc := 121) 0 dX11_valuesOf_121 rfl ?_
  refine x_iload_n (μ := mu_tw_valuesOf) (pc := 122) 2 dX11_valuesOf_122 rfl ?_
  refine x_callV_mv (μ := mu_tw_valuesOf) (pc := 123) (ok_tw_goesThrough (ω := ω) (l := l) (d := d - 1) (by omega) hM hv2) gRel_Tw gRel_Tw (fun _ q => q) q3271 q3273 qs134 q232 q3274 dX11_valuesOf_123 rfl hM.1 hy_tw_goesThrough (by omega) (Nat.le_of_ble_eq_true rfl) rfl (Nat.le_of_ble_eq_true rfl) (fun x12 k13 => ?_)
  have hM14 : TM x12 h := hM.tw k13
  refine x_iload_n (μ := mu_tw_valuesOf) (pc := 126) 3 dX11_valuesOf_126 rfl ?_
  refine x_if_eq (μ := mu_tw_valuesOf) (pc := 127) (tgt := 153) dX11_valuesOf_127 rfl hv3 ?_ ?_
  · refine x_loc (lv' := [(0, vR h), (1, vI v1), (2, vI v2)]) [0, 1, 2] rfl ?_
    exact okj_tw_valuesOf_l44_j153 hdp hM14 hv1 hv2 hKh hK
  · refine x_aload_n (μ := mu_tw_valuesOf) (pc := 130) 0 dX11_valuesOf_130 rfl ?_
    refine x_aload_n (μ := mu_tw_valuesOf) (pc := 131) 0 dX11_valuesOf_131 rfl ?_
    refine x_fgrE (μ := mu_tw_valuesOf) (pc := 132) fX11_5 (Or.inr ⟨_, rfl⟩) q2641 (hM14.a5).1 dX11_valuesOf_132 hM14.1 ?_
    refine x_sipush (μ := mu_tw_valuesOf) (pc := 135) dX11_valuesOf_135 (by decide) ?_
    refine x_iload_n (μ := mu_tw_valuesOf) (pc := 138) 1 dX11_valuesOf_138 rfl ?_
    refine x_imul (μ := mu_tw_valuesOf) (pc := 139) dX11_valuesOf_139 ?_
    refine x_iload_n (μ := mu_tw_valuesOf) (pc := 140) 2 dX11_valuesOf_140 rfl ?_
    refine x_iadd (μ := mu_tw_valuesOf) (pc := 141) dX11_valuesOf_141 ?_
    refine x_iald (μ := mu_tw_valuesOf) (pc := 142) dX11_valuesOf_142 (hM14.a5).2.1 (hM14.a5).2.2 (fun hr15 => ?_)
    refine x_sipush (μ := mu_tw_valuesOf) (pc := 143) dX11_valuesOf_143 (by decide) ?_
    refine x_iload_n (μ := mu_tw_valuesOf) (pc := 146) 1 dX11_valuesOf_146 rfl ?_
    refine x_imul (μ := mu_tw_valuesOf) (pc := 147) dX11_valuesOf_147 ?_
    refine x_iload_n (μ := mu_tw_valuesOf) (pc := 148) 2 dX11_valuesOf_148 rfl ?_
    refine x_iadd (μ := mu_tw_valuesOf) (pc := 149) dX11_valuesOf_149 ?_
    refine x_w1 ?_
    refine x_callV_mv (μ := mu_tw_valuesOf) (pc := 150) (ok_tw_plainValue (ω := ω) (l := l) (d := d - 1) (by omega) hM14 hr15 (w32_rng _)) gRel_Tw gRel_Tw (fun _ q => q) q3275 q3277 qs135 q232 q3278 dX11_valuesOf_150 rfl hM14.1 hy_tw_plainValue (by omega) (Nat.le_of_ble_eq_true rfl) rfl (Nat.le_of_ble_eq_true rfl) (fun x16 k17 => ?_)
    have hM18 : TM x16 h := hM14.tw k17
    refine x_loc (lv' := [(0, vR h), (1, vI v1), (2, vI v2)]) [0, 1, 2] rfl ?_
    exact okj_tw_valuesOf_l44_j153 hdp hM18 hv1 hv2 hKh hK
def tw_valuesOf_l44_j82 (N : Nat) (h : Nat) (v1 : Int) (v2 : Int) (t0 : Int) (Kh : Int → gMem → Option gMem) (K : gMem → Option gMem) (s : gMem) : Option gMem := if t0 = 0 then tw_valuesOf_l44_j121 N h v1 v2 t0  (Kh) K s else if 0 ≤ ((320 * v1) + v2) ∧ ((320 * v1) + v2) < ((39040 : Nat) : Int) then (tw_isFormula (mI s (h + 5) ((320 * v1) + v2).toNat) s).bind (fun x20 => if x20 = 0 then tw_valuesOf_l44_j121 N h v1 v2 t0  (Kh) K s else if 0 ≤ v2 ∧ v2 < ((320 : Nat) : Int) then gLet (wI s (h + 40) v2.toNat 0) (fun s22 => (tw_leadsOf N h v1 v2 s22).bind (fun x25 => tw_valuesOf_l44_j153 N h v1 v2  (Kh) K x25)) else none) else none
set_option maxRecDepth 100000 in
theorem okj_tw_valuesOf_l44_j82 {ω : gW} {l : Launch} {d : Nat} {N : Nat} {h : Nat} {σ0 : gMem} {s : gMem} {v1 : Int} {v2 : Int} {t0 : Int} {Kh : Int → gMem → Option gMem} {K : gMem → Option gMem} (hdp : 204 ≤ d) (hM : TM s h) (hv1 : g32 v1) (hv2 : g32 v2) (ht0 : g32 t0) (hKh : ∀ (v2 : Int) (s : gMem) , g32 v2 → TM s h → GG (fun p : gMem => (.inl none, p)) gTw ω l d mu_tw_valuesOf σ0 44 [(0, vR h), (1, vI v1), (2, vI v2)] [] s (Kh v2 s)) (hK : ∀ (s : gMem) , TM s h → GG (fun p : gMem => (.inl none, p)) gTw ω l d mu_tw_valuesOf σ0 159 [(0, vR h), (1, vI v1)] [] s (K s)) : GG (fun p : gMem => (.inl none, p)) gTw ω l d mu_tw_valuesOf σ0 82 [(0, vR h), (1, vI v1), (2, vI v2)] [vI t0] s (tw_valuesOf_l44_j82 N h v1 v2 t0 Kh K s) := by
  unfold tw_valuesOf_l44_j82
  refine x_istore_n (μ := mu_tw_valuesOf) (pc := 82) (lv' := [(3, vI t0), (0, vR h), (1, vI v1), (2, vI v2)]) dX11_valuesOf_82 rfl (by decide) rfl ?_
  refine x_iload_n (μ := mu_tw_valuesOf) (pc := 83) 0 dX11_valuesOf_83 rfl ?_
  refine x_if_eq (μ := mu_tw_valuesOf) (pc := 84) (tgt := 121) dX11_valuesOf_84 rfl ht0 ?_ ?_
  · refine x_loc (lv' := [(0, vR h), (1, vI v1), (2, vI v2), (3, vI t0)]) [1, 2, 3, 0] rfl ?_
    exact okj_tw_valuesOf_l44_j121 hdp hM hv1 hv2 ht0 hKh hK
  · refine x_aload_n (μ := mu_tw_valuesOf) (pc := 87) 1 dX11_valuesOf_87 rfl ?_
    refine x_fgrE (μ := mu_tw_valuesOf) (pc := 88) fX11_5 (Or.inr ⟨_, rfl⟩) q2641 (hM.a5).1 dX11_valuesOf_88 hM.1 ?_
    refine x_sipush (μ := mu_tw_valuesOf) (pc := 91) dX11_valuesOf_91 (by decide) ?_
    refine x_iload_n (μ := mu_tw_valuesOf) (pc := 94) 2 dX11_valuesOf_94 rfl ?_
    refine x_imul (μ := mu_tw_valuesOf) (pc := 95) dX11_valuesOf_95 ?_
    refine x_iload_n (μ := mu_tw_valuesOf) (pc := 96) 3 dX11_valuesOf_96 rfl ?_
    refine x_iadd (μ := mu_tw_valuesOf) (pc := 97) dX11_valuesOf_97 ?_
    refine x_iald (μ := mu_tw_valuesOf) (pc := 98) dX11_valuesOf_98 (hM.a5).2.1 (hM.a5).2.2 (fun hr19 => ?_)
    refine x_callS_pi (μ := mu_tw_valuesOf) (pc := 99) (ok_tw_isFormula (ω := ω) (l := l) (d := d - 1) (by omega) hr19) gRel_Tw gRel_Tw (fun _ q => q) q3226 q3227 q232 q3228 dX11_valuesOf_99 hy_tw_isFormula (by omega) (Nat.le_of_ble_eq_true rfl) rfl (Nat.le_of_ble_eq_true rfl) (fun x20 hr21 => ?_)
    refine x_if_eq (μ := mu_tw_valuesOf) (pc := 102) (tgt := 121) dX11_valuesOf_102 rfl hr21 ?_ ?_
    · refine x_loc (lv' := [(0, vR h), (1, vI v1), (2, vI v2), (3, vI t0)]) [1, 2, 3, 0] rfl ?_
      exact okj_tw_valuesOf_l44_j121 hdp hM hv1 hv2 ht0 hKh hK
    · refine x_aload_n (μ := mu_tw_valuesOf) (pc := 105) 1 dX11_valuesOf_105 rfl ?_
      refine x_fgrE (μ := mu_tw_valuesOf) (pc := 106) fX11_84 (Or.inr ⟨_, rfl⟩) q2720 (hM.a84).1 dX11_valuesOf_106 hM.1 ?_
      refine x_iload_n (μ := mu_tw_valuesOf) (pc := 109) 3 dX11_valuesOf_109 rfl ?_
      refine x_iconst (μ := mu_tw_valuesOf) (pc := 110) dX11_valuesOf_110 ?_
      refine x_zast (μ := mu_tw_valuesOf) (pc := 111) dX11_valuesOf_111 (hM.a84).2.1 (hM.a84).2.2 (by decide) (fun _ _ q => gTw_wI q) ?_
      refine x_let (fun s22 e23 => ?_)
      have hM24 := TM.eI e23 hM
      refine x_aload_n (μ := mu_tw_valuesOf) (pc := 112) 1 dX11_valuesOf_112 rfl ?_
      refine x_iload_n (μ := mu_tw_valuesOf) (pc := 113) 2 dX11_valuesOf_113 rfl ?_
      refine x_iload_n (μ := mu_tw_valuesOf) (pc := 114) 3 dX11_valuesOf_114 rfl ?_
      refine x_callV_mv (μ := mu_tw_valuesOf) (pc := 115) (ok_tw_leadsOf (ω := ω) (l := l) (d := d - 1) (by omega) hM24 hv1 hv2) gRel_Tw gRel_Tw (fun _ q => q) q3229 q3231 qs125 q232 q3232 dX11_valuesOf_115 rfl hM24.1 hy_tw_leadsOf (by omega) (Nat.le_of_ble_eq_true rfl) rfl (Nat.le_of_ble_eq_true rfl) (fun x25 k26 => ?_)
      have hM27 : TM x25 h := hM24.tw k26
      refine x_goto (μ := mu_tw_valuesOf) (pc := 118) (tgt := 153) dX11_valuesOf_118 rfl ?_
      refine x_loc (lv' := [(0, vR h), (1, vI v1), (2, vI v2)]) [1, 2, 3] rfl ?_
      exact okj_tw_valuesOf_l44_j153 hdp hM27 hv1 hv2 hKh hK
def tw_valuesOf_l44_j81 (N : Nat) (h : Nat) (v1 : Int) (v2 : Int) (Kh : Int → gMem → Option gMem) (K : gMem → Option gMem) (s : gMem) : Option gMem := tw_valuesOf_l44_j82 N h v1 v2 0 (Kh) K s
set_option maxRecDepth 100000 in
theorem okj_tw_valuesOf_l44_j81 {ω : gW} {l : Launch} {d : Nat} {N : Nat} {h : Nat} {σ0 : gMem} {s : gMem} {v1 : Int} {v2 : Int} {Kh : Int → gMem → Option gMem} {K : gMem → Option gMem} (hdp : 204 ≤ d) (hM : TM s h) (hv1 : g32 v1) (hv2 : g32 v2) (hKh : ∀ (v2 : Int) (s : gMem) , g32 v2 → TM s h → GG (fun p : gMem => (.inl none, p)) gTw ω l d mu_tw_valuesOf σ0 44 [(0, vR h), (1, vI v1), (2, vI v2)] [] s (Kh v2 s)) (hK : ∀ (s : gMem) , TM s h → GG (fun p : gMem => (.inl none, p)) gTw ω l d mu_tw_valuesOf σ0 159 [(0, vR h), (1, vI v1)] [] s (K s)) : GG (fun p : gMem => (.inl none, p)) gTw ω l d mu_tw_valuesOf σ0 81 [(0, vR h), (1, vI v1), (2, vI v2)] [] s (tw_valuesOf_l44_j81 N h v1 v2 Kh K s) := by
  unfold tw_valuesOf_l44_j81
  refine x_iconst (μ := mu_tw_valuesOf) (pc := 81) dX11_valuesOf_81 ?_
  exact okj_tw_valuesOf_l44_j82 hdp hM hv1 hv2 (by decide) hKh hK
def tw_valuesOf_l44 (N : Nat) (h : Nat) (v1 : Int) (K : gMem → Option gMem) : Nat → Int → gMem → Option gMem
  | 0, _, _ => none
  | n + 1, v2, s => if 320 ≤ v2 then K s else if 0 ≤ v1 ∧ v1 < ((122 : Nat) : Int) then if mI s (h + 1) v1.toNat ≤ w32 (Int.tdiv v2 10) then tw_valuesOf_l44_j81 N h v1 v2  (tw_valuesOf_l44 N h v1 K n) K s else if 0 ≤ v1 ∧ v1 < ((122 : Nat) : Int) then if mI s (h + 2) v1.toNat ≤ w32 (Int.tmod v2 10) then tw_valuesOf_l44_j81 N h v1 v2  (tw_valuesOf_l44 N h v1 K n) K s else tw_valuesOf_l44_j82 N h v1 v2 1 (tw_valuesOf_l44 N h v1 K n) K s else none else none
set_option maxRecDepth 100000 in
theorem okl_tw_valuesOf_l44 {ω : gW} {l : Launch} {d : Nat} {N : Nat} {h : Nat} {σ0 : gMem} {v1 : Int} {K : gMem → Option gMem} (hdp : 204 ≤ d) (hv1 : g32 v1) (hK : ∀ (s : gMem) , TM s h → GG (fun p : gMem => (.inl none, p)) gTw ω l d mu_tw_valuesOf σ0 159 [(0, vR h), (1, vI v1)] [] s (K s)) : ∀ (n : Nat) (v2 : Int) (s : gMem) , g32 v2 → TM s h → GG (fun p : gMem => (.inl none, p)) gTw ω l d mu_tw_valuesOf σ0 44 [(0, vR h), (1, vI v1), (2, vI v2)] [] s (tw_valuesOf_l44 N h v1 K n v2 s) := by
  intro n
  induction n with
  | zero => intros; exact x_none
  | succ n ih =>
    intro v2 s hv2 hM
    unfold tw_valuesOf_l44
    refine x_iload_n (μ := mu_tw_valuesOf) (pc := 44) 2 dX11_valuesOf_44 rfl ?_
    refine x_sipush (μ := mu_tw_valuesOf) (pc := 45) dX11_valuesOf_45 (by decide) ?_
    refine x_icmp_ge (μ := mu_tw_valuesOf) (pc := 48) (tgt := 159) dX11_valuesOf_48 rfl hv2 (by decide) ?_ ?_
    · refine x_loc (lv' := [(0, vR h), (1, vI v1)]) [0, 1] rfl ?_
      exact hK s hM
    · refine x_iload_n (μ := mu_tw_valuesOf) (pc := 51) 2 dX11_valuesOf_51 rfl ?_
      refine x_bipush (μ := mu_tw_valuesOf) (pc := 52) dX11_valuesOf_52 (by decide) ?_
      refine x_idivc (μ := mu_tw_valuesOf) (pc := 54) dX11_valuesOf_54 hv2 (by decide) (by decide) ?_
      refine x_aload_n (μ := mu_tw_valuesOf) (pc := 55) 0 dX11_valuesOf_55 rfl ?_
      refine x_fgrE (μ := mu_tw_valuesOf) (pc := 56) fX11_1 (Or.inr ⟨_, rfl⟩) q2637 (hM.a1).1 dX11_valuesOf_56 hM.1 ?_
      refine x_iload_n (μ := mu_tw_valuesOf) (pc := 59) 1 dX11_valuesOf_59 rfl ?_
      refine x_iald (μ := mu_tw_valuesOf) (pc := 60) dX11_valuesOf_60 (hM.a1).2.1 (hM.a1).2.2 (fun hr11 => ?_)
      refine x_w2 ?_
      refine x_icmp_ge (μ := mu_tw_valuesOf) (pc := 61) (tgt := 81) dX11_valuesOf_61 rfl (w32_rng _) hr11 ?_ ?_
      · exact okj_tw_valuesOf_l44_j81 hdp hM hv1 hv2 ih hK
      · refine x_iload_n (μ := mu_tw_valuesOf) (pc := 64) 2 dX11_valuesOf_64 rfl ?_
        refine x_bipush (μ := mu_tw_valuesOf) (pc := 65) dX11_valuesOf_65 (by decide) ?_
        refine x_iremc (μ := mu_tw_valuesOf) (pc := 67) dX11_valuesOf_67 hv2 (by decide) (by decide) ?_
        refine x_aload_n (μ := mu_tw_valuesOf) (pc := 68) 0 dX11_valuesOf_68 rfl ?_
        refine x_fgrE (μ := mu_tw_valuesOf) (pc := 69) fX11_2 (Or.inr ⟨_, rfl⟩) q2638 (hM.a2).1 dX11_valuesOf_69 hM.1 ?_
        refine x_iload_n (μ := mu_tw_valuesOf) (pc := 72) 1 dX11_valuesOf_72 rfl ?_
        refine x_iald (μ := mu_tw_valuesOf) (pc := 73) dX11_valuesOf_73 (hM.a2).2.1 (hM.a2).2.2 (fun hr28 => ?_)
        refine x_w2 ?_
        refine x_icmp_ge (μ := mu_tw_valuesOf) (pc := 74) (tgt := 81) dX11_valuesOf_74 rfl (w32_rng _) hr28 ?_ ?_
        · exact okj_tw_valuesOf_l44_j81 hdp hM hv1 hv2 ih hK
        · refine x_iconst (μ := mu_tw_valuesOf) (pc := 77) dX11_valuesOf_77 ?_
          refine x_goto (μ := mu_tw_valuesOf) (pc := 78) (tgt := 82) dX11_valuesOf_78 rfl ?_
          exact okj_tw_valuesOf_l44_j82 hdp hM hv1 hv2 (by decide) ih hK
def tw_valuesOf_l165_j217 (N : Nat) (h : Nat) (v1 : Int) (v2 : Int) (Kh : Int → gMem → Option gMem) (K : gMem → Option gMem) (s : gMem) : Option gMem := Kh (w32 (v2 + 1)) s
set_option maxRecDepth 100000 in
theorem okj_tw_valuesOf_l165_j217 {ω : gW} {l : Launch} {d : Nat} {N : Nat} {h : Nat} {σ0 : gMem} {s : gMem} {v1 : Int} {v2 : Int} {Kh : Int → gMem → Option gMem} {K : gMem → Option gMem} (hdp : 204 ≤ d) (hM : TM s h) (hv1 : g32 v1) (hv2 : g32 v2) (hKh : ∀ (v2 : Int) (s : gMem) , g32 v2 → TM s h → GG (fun p : gMem => (.inl none, p)) gTw ω l d mu_tw_valuesOf σ0 165 [(0, vR h), (1, vI v1), (2, vI v2)] [] s (Kh v2 s)) (hK : ∀ (s : gMem) , TM s h → GG (fun p : gMem => (.inl none, p)) gTw ω l d mu_tw_valuesOf σ0 223 [(0, vR h), (1, vI v1)] [] s (K s)) : GG (fun p : gMem => (.inl none, p)) gTw ω l d mu_tw_valuesOf σ0 217 [(0, vR h), (1, vI v1), (2, vI v2)] [] s (tw_valuesOf_l165_j217 N h v1 v2 Kh K s) := by
  unfold tw_valuesOf_l165_j217
  refine x_iincw (μ := mu_tw_valuesOf) (pc := 217) (lv' := [(2, vI (w32 (v2 + 1))), (0, vR h), (1, vI v1)]) 2 dX11_valuesOf_217 rfl (by decide) rfl ?_
  refine x_goto (μ := mu_tw_valuesOf) (pc := 220) (tgt := 165) dX11_valuesOf_220 rfl ?_
  refine x_loc (lv' := [(0, vR h), (1, vI v1), (2, vI (w32 (v2 + 1)))]) [1, 2, 0] rfl ?_
  exact hKh (w32 (v2 + 1)) s (w32_rng _) hM
def tw_valuesOf_l165 (N : Nat) (h : Nat) (v1 : Int) (K : gMem → Option gMem) : Nat → Int → gMem → Option gMem
  | 0, _, _ => none
  | n + 1, v2, s => if 320 ≤ v2 then K s else if 0 ≤ v2 ∧ v2 < ((320 : Nat) : Int) then if mI s (h + 40) v2.toNat ≠ 0 then tw_valuesOf_l165_j217 N h v1 v2  (tw_valuesOf_l165 N h v1 K n) K s else (tw_bit (h + 39) v2 v2 s).bind (fun x35 => if x35 = 0 then tw_valuesOf_l165_j217 N h v1 v2  (tw_valuesOf_l165 N h v1 K n) K s else (tw_goesThrough h v2 s).bind (fun x37 => (tw_error h 0 6 x37).bind (fun x40 => (tw_store N h 0 (w32 ((320 * v1) + v2)) x40).bind (fun x43 => tw_valuesOf_l165_j217 N h v1 v2  (tw_valuesOf_l165 N h v1 K n) K x43)))) else none
set_option maxRecDepth 100000 in
theorem okl_tw_valuesOf_l165 {ω : gW} {l : Launch} {d : Nat} {N : Nat} {h : Nat} {σ0 : gMem} {v1 : Int} {K : gMem → Option gMem} (hdp : 204 ≤ d) (hv1 : g32 v1) (hK : ∀ (s : gMem) , TM s h → GG (fun p : gMem => (.inl none, p)) gTw ω l d mu_tw_valuesOf σ0 223 [(0, vR h), (1, vI v1)] [] s (K s)) : ∀ (n : Nat) (v2 : Int) (s : gMem) , g32 v2 → TM s h → GG (fun p : gMem => (.inl none, p)) gTw ω l d mu_tw_valuesOf σ0 165 [(0, vR h), (1, vI v1), (2, vI v2)] [] s (tw_valuesOf_l165 N h v1 K n v2 s) := by
  intro n
  induction n with
  | zero => intros; exact x_none
  | succ n ih =>
    intro v2 s hv2 hM
    unfold tw_valuesOf_l165
    refine x_iload_n (μ := mu_tw_valuesOf) (pc := 165) 2 dX11_valuesOf_165 rfl ?_
    refine x_sipush (μ := mu_tw_valuesOf) (pc := 166) dX11_valuesOf_166 (by decide) ?_
    refine x_icmp_ge (μ := mu_tw_valuesOf) (pc := 169) (tgt := 223) dX11_valuesOf_169 rfl hv2 (by decide) ?_ ?_
    · refine x_loc (lv' := [(0, vR h), (1, vI v1)]) [0, 1] rfl ?_
      exact hK s hM
    · refine x_aload_n (μ := mu_tw_valuesOf) (pc := 172) 0 dX11_valuesOf_172 rfl ?_
      refine x_fgrE (μ := mu_tw_valuesOf) (pc := 173) fX11_84 (Or.inr ⟨_, rfl⟩) q2720 (hM.a84).1 dX11_valuesOf_173 hM.1 ?_
      refine x_iload_n (μ := mu_tw_valuesOf) (pc := 176) 2 dX11_valuesOf_176 rfl ?_
      refine x_zald (μ := mu_tw_valuesOf) (pc := 177) dX11_valuesOf_177 (hM.a84).2.1 (hM.a84).2.2 (fun hr34 => ?_)
      refine x_if_ne (μ := mu_tw_valuesOf) (pc := 178) (tgt := 217) dX11_valuesOf_178 rfl hr34 ?_ ?_
      · exact okj_tw_valuesOf_l165_j217 hdp hM hv1 hv2 ih hK
      · refine x_aload_n (μ := mu_tw_valuesOf) (pc := 181) 0 dX11_valuesOf_181 rfl ?_
        refine x_fgrE (μ := mu_tw_valuesOf) (pc := 182) fX11_83 (Or.inr ⟨_, rfl⟩) q2719 (hM.a83).1 dX11_valuesOf_182 hM.1 ?_
        refine x_iload_n (μ := mu_tw_valuesOf) (pc := 185) 2 dX11_valuesOf_185 rfl ?_
        refine x_iload_n (μ := mu_tw_valuesOf) (pc := 186) 2 dX11_valuesOf_186 rfl ?_
        refine x_callS_pi (μ := mu_tw_valuesOf) (pc := 187) (ok_tw_bit (ω := ω) (l := l) (d := d - 1) (by omega) hv2 hv2) gRel_Tw gRel_Tw (fun _ q => q) q3291 q3292 q232 q3293 dX11_valuesOf_187 hy_tw_bit (by omega) (Nat.le_of_ble_eq_true rfl) rfl (Nat.le_of_ble_eq_true rfl) (fun x35 hr36 => ?_)
        refine x_if_eq (μ := mu_tw_valuesOf) (pc := 190) (tgt := 217) dX11_valuesOf_190 rfl hr36 ?_ ?_
        · exact okj_tw_valuesOf_l165_j217 hdp hM hv1 hv2 ih hK
        · refine x_aload_n (μ := mu_tw_valuesOf) (pc := 193) 0 dX11_valuesOf_193 rfl ?_
          refine x_iload_n (μ := mu_tw_valuesOf) (pc := 194) 2 dX11_valuesOf_194 rfl ?_
          refine x_callV_mv (μ := mu_tw_valuesOf) (pc := 195) (ok_tw_goesThrough (ω := ω) (l := l) (d := d - 1) (by omega) hM hv2) gRel_Tw gRel_Tw (fun _ q => q) q3271 q3273 qs134 q232 q3274 dX11_valuesOf_195 rfl hM.1 hy_tw_goesThrough (by omega) (Nat.le_of_ble_eq_true rfl) rfl (Nat.le_of_ble_eq_true rfl) (fun x37 k38 => ?_)
          have hM39 : TM x37 h := hM.tw k38
          refine x_aload_n (μ := mu_tw_valuesOf) (pc := 198) 0 dX11_valuesOf_198 rfl ?_
          refine x_iconst (μ := mu_tw_valuesOf) (pc := 199) dX11_valuesOf_199 ?_
          refine x_bipush (μ := mu_tw_valuesOf) (pc := 200) dX11_valuesOf_200 (by decide) ?_
          refine x_callV_mv (μ := mu_tw_valuesOf) (pc := 202) (ok_tw_error (ω := ω) (l := l) (d := d - 1) (by omega) hM39 (by decide) (by decide)) gRel_Tw gRel_Tw (fun _ q => q) q3294 q3296 qs139 q232 q3297 dX11_valuesOf_202 rfl hM39.1 hy_tw_error (by omega) (Nat.le_of_ble_eq_true rfl) rfl (Nat.le_of_ble_eq_true rfl) (fun x40 k41 => ?_)
          have hM42 : TM x40 h := hM39.tw k41
          refine x_aload_n (μ := mu_tw_valuesOf) (pc := 205) 0 dX11_valuesOf_205 rfl ?_
          refine x_iconst (μ := mu_tw_valuesOf) (pc := 206) dX11_valuesOf_206 ?_
          refine x_sipush (μ := mu_tw_valuesOf) (pc := 207) dX11_valuesOf_207 (by decide) ?_
          refine x_iload_n (μ := mu_tw_valuesOf) (pc := 210) 1 dX11_valuesOf_210 rfl ?_
          refine x_imul (μ := mu_tw_valuesOf) (pc := 211) dX11_valuesOf_211 ?_
          refine x_iload_n (μ := mu_tw_valuesOf) (pc := 212) 2 dX11_valuesOf_212 rfl ?_
          refine x_iadd (μ := mu_tw_valuesOf) (pc := 213) dX11_valuesOf_213 ?_
          refine x_w1 ?_
          refine x_callV_mv (μ := mu_tw_valuesOf) (pc := 214) (ok_tw_store (ω := ω) (l := l) (d := d - 1) (by omega) hM42 (by decide) (w32_rng _)) gRel_Tw gRel_Tw (fun _ q => q) q3283 q3285 qs137 q232 q3286 dX11_valuesOf_214 rfl hM42.1 hy_tw_store (by omega) (Nat.le_of_ble_eq_true rfl) rfl (Nat.le_of_ble_eq_true rfl) (fun x43 k44 => ?_)
          have hM45 : TM x43 h := hM42.tw k44
          exact okj_tw_valuesOf_l165_j217 hdp hM45 hv1 hv2 ih hK
def tw_valuesOf_l233_j288 (N : Nat) (h : Nat) (v1 : Int) (v2 : Int) (v3 : Int) (Kh : Int → Int → gMem → Option gMem) (K : Int → gMem → Option gMem) (s : gMem) : Option gMem := Kh v2 (w32 (v3 + 1)) s
set_option maxRecDepth 100000 in
theorem okj_tw_valuesOf_l233_j288 {ω : gW} {l : Launch} {d : Nat} {N : Nat} {h : Nat} {σ0 : gMem} {s : gMem} {v1 : Int} {v2 : Int} {v3 : Int} {Kh : Int → Int → gMem → Option gMem} {K : Int → gMem → Option gMem} (hdp : 204 ≤ d) (hM : TM s h) (hv1 : g32 v1) (hv2 : g32 v2) (hv3 : g32 v3) (hKh : ∀ (v2 : Int) (v3 : Int) (s : gMem) , g32 v2 → g32 v3 → TM s h → GG (fun p : gMem => (.inl none, p)) gTw ω l d mu_tw_valuesOf σ0 233 [(0, vR h), (1, vI v1), (2, vI v2), (3, vI v3)] [] s (Kh v2 v3 s)) (hK : ∀ (v2 : Int) (s : gMem) , g32 v2 → TM s h → GG (fun p : gMem => (.inl none, p)) gTw ω l d mu_tw_valuesOf σ0 294 [(0, vR h), (1, vI v1), (2, vI v2)] [] s (K v2 s)) : GG (fun p : gMem => (.inl none, p)) gTw ω l d mu_tw_valuesOf σ0 288 [(0, vR h), (1, vI v1), (2, vI v2), (3, vI v3)] [] s (tw_valuesOf_l233_j288 N h v1 v2 v3 Kh K s) := by
  unfold tw_valuesOf_l233_j288
  refine x_iincw (μ := mu_tw_valuesOf) (pc := 288) (lv' := [(3, vI (w32 (v3 + 1))), (0, vR h), (1, vI v1), (2, vI v2)]) 3 dX11_valuesOf_288 rfl (by decide) rfl ?_
  refine x_goto (μ := mu_tw_valuesOf) (pc := 291) (tgt := 233) dX11_valuesOf_291 rfl ?_
  refine x_loc (lv' := [(0, vR h), (1, vI v1), (2, vI v2), (3, vI (w32 (v3 + 1)))]) [1, 2, 3, 0] rfl ?_
  exact hKh v2 (w32 (v3 + 1)) s hv2 (w32_rng _) hM
def tw_valuesOf_l233 (N : Nat) (h : Nat) (v1 : Int) (K : Int → gMem → Option gMem) : Nat → Int → Int → gMem → Option gMem
  | 0, _, _, _ => none
  | n + 1, v2, v3, s => if 320 ≤ v3 then K v2 s else if 0 ≤ v3 ∧ v3 < ((320 : Nat) : Int) then if mI s (h + 40) v3.toNat ≠ 0 then tw_valuesOf_l233_j288 N h v1 v2 v3  (tw_valuesOf_l233 N h v1 K n) K s else (tw_isReady N h v3 s).bind (fun x49 => if x49 = 0 then tw_valuesOf_l233_j288 N h v1 v2 v3  (tw_valuesOf_l233 N h v1 K n) K s else if 0 ≤ ((320 * v1) + v3) ∧ ((320 * v1) + v3) < ((39040 : Nat) : Int) then (tw_formulaValue N h v1 (mI s (h + 5) ((320 * v1) + v3).toNat) (w32 ((320 * v1) + v3)) s).bind (fun x52 => (tw_goesThrough h v3 x52).bind (fun x55 => tw_valuesOf_l233_j288 N h v1 1 v3  (tw_valuesOf_l233 N h v1 K n) K x55)) else none) else none
set_option maxRecDepth 100000 in
theorem okl_tw_valuesOf_l233 {ω : gW} {l : Launch} {d : Nat} {N : Nat} {h : Nat} {σ0 : gMem} {v1 : Int} {K : Int → gMem → Option gMem} (hdp : 204 ≤ d) (hv1 : g32 v1) (hK : ∀ (v2 : Int) (s : gMem) , g32 v2 → TM s h → GG (fun p : gMem => (.inl none, p)) gTw ω l d mu_tw_valuesOf σ0 294 [(0, vR h), (1, vI v1), (2, vI v2)] [] s (K v2 s)) : ∀ (n : Nat) (v2 : Int) (v3 : Int) (s : gMem) , g32 v2 → g32 v3 → TM s h → GG (fun p : gMem => (.inl none, p)) gTw ω l d mu_tw_valuesOf σ0 233 [(0, vR h), (1, vI v1), (2, vI v2), (3, vI v3)] [] s (tw_valuesOf_l233 N h v1 K n v2 v3 s) := by
  intro n
  induction n with
  | zero => intros; exact x_none
  | succ n ih =>
    intro v2 v3 s hv2 hv3 hM
    unfold tw_valuesOf_l233
    refine x_iload_n (μ := mu_tw_valuesOf) (pc := 233) 3 dX11_valuesOf_233 rfl ?_
    refine x_sipush (μ := mu_tw_valuesOf) (pc := 234) dX11_valuesOf_234 (by decide) ?_
    refine x_icmp_ge (μ := mu_tw_valuesOf) (pc := 237) (tgt := 294) dX11_valuesOf_237 rfl hv3 (by decide) ?_ ?_
    · refine x_loc (lv' := [(0, vR h), (1, vI v1), (2, vI v2)]) [0, 1, 2] rfl ?_
      exact hK v2 s hv2 hM
    · refine x_aload_n (μ := mu_tw_valuesOf) (pc := 240) 0 dX11_valuesOf_240 rfl ?_
      refine x_fgrE (μ := mu_tw_valuesOf) (pc := 241) fX11_84 (Or.inr ⟨_, rfl⟩) q2720 (hM.a84).1 dX11_valuesOf_241 hM.1 ?_
      refine x_iload_n (μ := mu_tw_valuesOf) (pc := 244) 3 dX11_valuesOf_244 rfl ?_
      refine x_zald (μ := mu_tw_valuesOf) (pc := 245) dX11_valuesOf_245 (hM.a84).2.1 (hM.a84).2.2 (fun hr48 => ?_)
      refine x_if_ne (μ := mu_tw_valuesOf) (pc := 246) (tgt := 288) dX11_valuesOf_246 rfl hr48 ?_ ?_
      · exact okj_tw_valuesOf_l233_j288 hdp hM hv1 hv2 hv3 ih hK
      · refine x_aload_n (μ := mu_tw_valuesOf) (pc := 249) 0 dX11_valuesOf_249 rfl ?_
        refine x_iload_n (μ := mu_tw_valuesOf) (pc := 250) 3 dX11_valuesOf_250 rfl ?_
        refine x_callV_pi (μ := mu_tw_valuesOf) (pc := 251) (ok_tw_isReady (ω := ω) (l := l) (d := d - 1) (by omega) hM hv3) gRel_Tw gRel_Tw (fun _ q => q) q3298 q3300 qs140 q232 q3301 dX11_valuesOf_251 rfl hM.1 hy_tw_isReady (by omega) (Nat.le_of_ble_eq_true rfl) rfl (Nat.le_of_ble_eq_true rfl) (fun x49 hr50 => ?_)
        refine x_if_eq (μ := mu_tw_valuesOf) (pc := 254) (tgt := 288) dX11_valuesOf_254 rfl hr50 ?_ ?_
        · exact okj_tw_valuesOf_l233_j288 hdp hM hv1 hv2 hv3 ih hK
        · refine x_aload_n (μ := mu_tw_valuesOf) (pc := 257) 0 dX11_valuesOf_257 rfl ?_
          refine x_iload_n (μ := mu_tw_valuesOf) (pc := 258) 1 dX11_valuesOf_258 rfl ?_
          refine x_aload_n (μ := mu_tw_valuesOf) (pc := 259) 0 dX11_valuesOf_259 rfl ?_
          refine x_fgrE (μ := mu_tw_valuesOf) (pc := 260) fX11_5 (Or.inr ⟨_, rfl⟩) q2641 (hM.a5).1 dX11_valuesOf_260 hM.1 ?_
          refine x_sipush (μ := mu_tw_valuesOf) (pc := 263) dX11_valuesOf_263 (by decide) ?_
          refine x_iload_n (μ := mu_tw_valuesOf) (pc := 266) 1 dX11_valuesOf_266 rfl ?_
          refine x_imul (μ := mu_tw_valuesOf) (pc := 267) dX11_valuesOf_267 ?_
          refine x_iload_n (μ := mu_tw_valuesOf) (pc := 268) 3 dX11_valuesOf_268 rfl ?_
          refine x_iadd (μ := mu_tw_valuesOf) (pc := 269) dX11_valuesOf_269 ?_
          refine x_iald (μ := mu_tw_valuesOf) (pc := 270) dX11_valuesOf_270 (hM.a5).2.1 (hM.a5).2.2 (fun hr51 => ?_)
          refine x_sipush (μ := mu_tw_valuesOf) (pc := 271) dX11_valuesOf_271 (by decide) ?_
          refine x_iload_n (μ := mu_tw_valuesOf) (pc := 274) 1 dX11_valuesOf_274 rfl ?_
          refine x_imul (μ := mu_tw_valuesOf) (pc := 275) dX11_valuesOf_275 ?_
          refine x_iload_n (μ := mu_tw_valuesOf) (pc := 276) 3 dX11_valuesOf_276 rfl ?_
          refine x_iadd (μ := mu_tw_valuesOf) (pc := 277) dX11_valuesOf_277 ?_
          refine x_w1 ?_
          refine x_callV_mv (μ := mu_tw_valuesOf) (pc := 278) (ok_tw_formulaValue (ω := ω) (l := l) (d := d - 1) (by omega) hM hv1 hr51 (w32_rng _)) gRel_Tw gRel_Tw (fun _ q => q) q3303 q3305 qs141 q232 q3306 dX11_valuesOf_278 rfl hM.1 hy_tw_formulaValue (by omega) (Nat.le_of_ble_eq_true rfl) rfl (Nat.le_of_ble_eq_true rfl) (fun x52 k53 => ?_)
          have hM54 : TM x52 h := hM.tw k53
          refine x_aload_n (μ := mu_tw_valuesOf) (pc := 281) 0 dX11_valuesOf_281 rfl ?_
          refine x_iload_n (μ := mu_tw_valuesOf) (pc := 282) 3 dX11_valuesOf_282 rfl ?_
          refine x_callV_mv (μ := mu_tw_valuesOf) (pc := 283) (ok_tw_goesThrough (ω := ω) (l := l) (d := d - 1) (by omega) hM54 hv3) gRel_Tw gRel_Tw (fun _ q => q) q3271 q3273 qs134 q232 q3274 dX11_valuesOf_283 rfl hM54.1 hy_tw_goesThrough (by omega) (Nat.le_of_ble_eq_true rfl) rfl (Nat.le_of_ble_eq_true rfl) (fun x55 k56 => ?_)
          have hM57 : TM x55 h := hM54.tw k56
          refine x_iconst (μ := mu_tw_valuesOf) (pc := 286) dX11_valuesOf_286 ?_
          refine x_istore_n (μ := mu_tw_valuesOf) (pc := 287) (lv' := [(2, vI 1), (0, vR h), (1, vI v1), (3, vI v3)]) dX11_valuesOf_287 rfl (by decide) rfl ?_
          refine x_loc (lv' := [(0, vR h), (1, vI v1), (2, vI 1), (3, vI v3)]) [1, 2, 0, 3] rfl ?_
          exact okj_tw_valuesOf_l233_j288 hdp hM57 hv1 (by decide) hv3 ih hK
def tw_valuesOf_l225 (N : Nat) (h : Nat) (v1 : Int) (K : gMem → Option gMem) : Nat → Int → gMem → Option gMem
  | 0, _, _ => none
  | n + 1, v2, s => if v2 = 0 then K s else tw_valuesOf_l233 N h v1 (fun y58 s59 => tw_valuesOf_l225 N h v1 K n y58 s59) N 0 0 s
set_option maxRecDepth 100000 in
theorem okl_tw_valuesOf_l225 {ω : gW} {l : Launch} {d : Nat} {N : Nat} {h : Nat} {σ0 : gMem} {v1 : Int} {K : gMem → Option gMem} (hdp : 204 ≤ d) (hv1 : g32 v1) (hK : ∀ (s : gMem) , TM s h → GG (fun p : gMem => (.inl none, p)) gTw ω l d mu_tw_valuesOf σ0 297 [] [] s (K s)) : ∀ (n : Nat) (v2 : Int) (s : gMem) , g32 v2 → TM s h → GG (fun p : gMem => (.inl none, p)) gTw ω l d mu_tw_valuesOf σ0 225 [(0, vR h), (1, vI v1), (2, vI v2)] [] s (tw_valuesOf_l225 N h v1 K n v2 s) := by
  intro n
  induction n with
  | zero => intros; exact x_none
  | succ n ih =>
    intro v2 s hv2 hM
    unfold tw_valuesOf_l225
    refine x_iload_n (μ := mu_tw_valuesOf) (pc := 225) 2 dX11_valuesOf_225 rfl ?_
    refine x_if_eq (μ := mu_tw_valuesOf) (pc := 226) (tgt := 297) dX11_valuesOf_226 rfl hv2 ?_ ?_
    · refine x_loc (lv' := []) [] rfl ?_
      exact hK s hM
    · refine x_iconst (μ := mu_tw_valuesOf) (pc := 229) dX11_valuesOf_229 ?_
      refine x_istore_n (μ := mu_tw_valuesOf) (pc := 230) (lv' := [(2, vI 0), (0, vR h), (1, vI v1)]) dX11_valuesOf_230 rfl (by decide) rfl ?_
      refine x_iconst (μ := mu_tw_valuesOf) (pc := 231) dX11_valuesOf_231 ?_
      refine x_istore_n (μ := mu_tw_valuesOf) (pc := 232) (lv' := [(3, vI 0), (2, vI 0), (0, vR h), (1, vI v1)]) dX11_valuesOf_232 rfl (by decide) rfl ?_
      refine x_loc (lv' := [(0, vR h), (1, vI v1), (2, vI 0), (3, vI 0)]) [2, 3, 1, 0] rfl ?_
      refine okl_tw_valuesOf_l233 hdp hv1 (fun y58 s59 hy58 hM60 => ?_) N 0 0 s (by decide) (by decide) hM
      refine x_goto (μ := mu_tw_valuesOf) (pc := 294) (tgt := 225) dX11_valuesOf_294 rfl ?_
      exact ih y58 s59 hy58 hM60
def tw_valuesOf (N : Nat) (h : Nat) (v1 : Int) (σ : gMem) : Option gMem := tw_valuesOf_l2 N h v1 (fun s4 => tw_valuesOf_l24 N h v1 (fun s9 => tw_valuesOf_l44 N h v1 (fun s29 => (tw_close N h s29).bind (fun x31 => tw_valuesOf_l165 N h v1 (fun s46 => tw_valuesOf_l225 N h v1 (fun s61 => some s61) N 1 s46) N 0 x31)) N 0 s9) N 0 s4) N 0 σ
set_option maxRecDepth 100000 in
theorem ok_tw_valuesOf {ω : gW} {l : Launch} {d : Nat} {N : Nat} {h : Nat} {σ : gMem} {v1 : Int} (hdp : 204 ≤ d) (hM : TM σ h) (hv1 : g32 v1) : gK (fun p : gMem => (.inl none, p)) gTw ω l d mu_tw_valuesOf [vR h, vI v1] σ (tw_valuesOf N h v1 σ) := by
  refine gK.of hp_X11 (Nat.le_of_ble_eq_true rfl) ?_
  unfold tw_valuesOf
  refine x_iconst (μ := mu_tw_valuesOf) (pc := 0) dX11_valuesOf_0 ?_
  refine x_istore_n (μ := mu_tw_valuesOf) (pc := 1) (lv' := [(2, vI 0), (0, vR h), (1, vI v1)]) dX11_valuesOf_1 rfl (by decide) rfl ?_
  refine x_loc (lv' := [(0, vR h), (1, vI v1), (2, vI 0)]) [1, 2, 0] rfl ?_
  refine okl_tw_valuesOf_l2 hdp hv1 (fun s4 hM5 => ?_) N 0 σ (by decide) hM
  refine x_iconst (μ := mu_tw_valuesOf) (pc := 22) dX11_valuesOf_22 ?_
  refine x_istore_n (μ := mu_tw_valuesOf) (pc := 23) (lv' := [(2, vI 0), (0, vR h), (1, vI v1)]) dX11_valuesOf_23 rfl (by decide) rfl ?_
  refine x_loc (lv' := [(0, vR h), (1, vI v1), (2, vI 0)]) [1, 2, 0] rfl ?_
  refine okl_tw_valuesOf_l24 hdp hv1 (fun s9 hM10 => ?_) N 0 s4 (by decide) hM5
  refine x_iconst (μ := mu_tw_valuesOf) (pc := 42) dX11_valuesOf_42 ?_
  refine x_istore_n (μ := mu_tw_valuesOf) (pc := 43) (lv' := [(2, vI 0), (0, vR h), (1, vI v1)]) dX11_valuesOf_43 rfl (by decide) rfl ?_
  refine x_loc (lv' := [(0, vR h), (1, vI v1), (2, vI 0)]) [1, 2, 0] rfl ?_
  refine okl_tw_valuesOf_l44 hdp hv1 (fun s29 hM30 => ?_) N 0 s9 (by decide) hM10
  refine x_aload_n (μ := mu_tw_valuesOf) (pc := 159) 0 dX11_valuesOf_159 rfl ?_
  refine x_callV_mv (μ := mu_tw_valuesOf) (pc := 160) (ok_tw_close (ω := ω) (l := l) (d := d - 1) (by omega) hM30 ) gRel_Tw gRel_Tw (fun _ q => q) q3287 q3289 qs138 q232 q3290 dX11_valuesOf_160 rfl hM30.1 hy_tw_close (by omega) (Nat.le_of_ble_eq_true rfl) rfl (Nat.le_of_ble_eq_true rfl) (fun x31 k32 => ?_)
  have hM33 : TM x31 h := hM30.tw k32
  refine x_iconst (μ := mu_tw_valuesOf) (pc := 163) dX11_valuesOf_163 ?_
  refine x_istore_n (μ := mu_tw_valuesOf) (pc := 164) (lv' := [(2, vI 0), (0, vR h), (1, vI v1)]) dX11_valuesOf_164 rfl (by decide) rfl ?_
  refine x_loc (lv' := [(0, vR h), (1, vI v1), (2, vI 0)]) [1, 2, 0] rfl ?_
  refine okl_tw_valuesOf_l165 hdp hv1 (fun s46 hM47 => ?_) N 0 x31 (by decide) hM33
  refine x_iconst (μ := mu_tw_valuesOf) (pc := 223) dX11_valuesOf_223 ?_
  refine x_istore_n (μ := mu_tw_valuesOf) (pc := 224) (lv' := [(2, vI 1), (0, vR h), (1, vI v1)]) dX11_valuesOf_224 rfl (by decide) rfl ?_
  refine x_loc (lv' := [(0, vR h), (1, vI v1), (2, vI 1)]) [1, 2, 0] rfl ?_
  refine okl_tw_valuesOf_l225 hdp hv1 (fun s61 hM62 => ?_) N 1 s46 (by decide) hM47
  exact x_vret (μ := mu_tw_valuesOf) (pc := 297) (a1 := s61) dX11_valuesOf_297 rfl rfl (gRel_Tw.1 _) trivial
def x6_atom (N : Nat) (W : Nat → gMem → Option gR) (v0 : Nat) (σ : gMem) : Option gR := if mT σ v0 = 6 then (x6_peek N v0 σ).bind (fun x2 => if x2.1 ≠ 40 then (x6_isDigit (x2.1) (x2.2)).bind (fun x5 => if x5 = 0 then if x2.1 ≠ 34 then if x2.1 ≠ 35 then (x6_corner v0 (mI (x2.2) v0 6) (x2.2)).bind (fun x8 => if x8 ≤ 0 then (x6_isLetter (x2.1) (x2.2)).bind (fun x10 => if x10 = 0 then (x6_wrong v0 1 (mI (x2.2) v0 6) (x2.2)).bind (fun x13 => if mT (x13.2) (x13.1) = 25 then some (.inr "SheetBranches$Wrong", x13.2) else none) else (x6_word N W v0 (x2.2)).bind (fun p => gThrR p (fun x16 s18 => some (.inl (some (vR x16)), s18)))) else (x6_spot N v0 (x2.2)).bind (fun p => gThrR p (fun x19 s21 => some (.inl (some (vR x19)), s21)))) else (x6_gone N v0 (x2.2)).bind (fun p => gThrR p (fun x22 s24 => some (.inl (some (vR x22)), s24))) else (x6_quoted N v0 (x2.2)).bind (fun p => gThrR p (fun x25 s27 => some (.inl (some (vR x25)), s27))) else (x6_number N v0 (x2.2)).bind (fun p => gThrR p (fun x28 s30 => some (.inl (some (vR x28)), s30)))) else (x6_opens v0 (x2.2)).bind (fun p => gThrV p (fun s33 => (x6_test N W v0 s33).bind (fun p => gThrR p (fun x34 s36 => (x6_expect N v0 41 s36).bind (fun p => gThrV p (fun s39 => gLet (wI s39 v0 7 (w32 ((mI s39 v0 7) - 1))) (fun s41 => some (.inl (some (vR x34)), s41))))))))) else none
set_option maxRecDepth 100000 in
theorem ok_x6_atom {ω : gW} {l : Launch} {d : Nat} {N : Nat} {W : Nat → gMem → Option gR} {dW : Nat} {σ : gMem} {v0 : Nat} (hl : l.stackTraces = false) (hW : ∀ (a0 : Nat) (s : gMem), gK (fun p : gR => p) gE ω l dW mu_x6_sign [vR a0] s (W a0 s)) (hdp : 15 ≤ d) (hdw : dW + 8 ≤ d) : gK (fun p : gR => p) gE ω l d mu_x6_atom [vR v0] σ (x6_atom N W v0 σ) := by
  refine gK.of hp_X6 (Nat.le_of_ble_eq_true rfl) ?_
  unfold x6_atom
  refine x_aload_n (μ := mu_x6_atom) (pc := 0) 0 dX6_atom_0 rfl ?_
  refine x_if (fun hT1 => ?_)
  refine x_callV_mi (μ := mu_x6_atom) (pc := 1) (ok_x6_peek (ω := ω) (l := l) (d := d - 1) hl (by omega) ) gRel_E gRel_E (fun _ q => q) q1811 q1813 qs34 q226 q1814 dX6_atom_1 rfl hT1 hy_x6_peek (by omega) (Nat.le_of_ble_eq_true rfl) rfl (Nat.le_of_ble_eq_true rfl) (fun x2 k4 hr3 => ?_)
  refine x_istore_n (μ := mu_x6_atom) (pc := 4) (lv' := [(1, vI (x2.1)), (0, vR v0)]) dX6_atom_4 rfl (by decide) rfl ?_
  refine x_iload_n (μ := mu_x6_atom) (pc := 5) 0 dX6_atom_5 rfl ?_
  refine x_bipush (μ := mu_x6_atom) (pc := 6) dX6_atom_6 (by decide) ?_
  refine x_icmp_ne (μ := mu_x6_atom) (pc := 8) (tgt := 38) dX6_atom_8 rfl hr3 (by decide) ?_ ?_
  · refine x_iload_n (μ := mu_x6_atom) (pc := 38) 0 dX6_atom_38 rfl ?_
    refine x_callS_pi (μ := mu_x6_atom) (pc := 39) (ok_x6_isDigit (ω := ω) (l := l) (d := d - 1) hl (by omega) hr3) gRel_E gRel_E (fun _ q => q) q1537 q1538 q226 q1539 dX6_atom_39 hy_x6_isDigit (by omega) (Nat.le_of_ble_eq_true rfl) rfl (Nat.le_of_ble_eq_true rfl) (fun x5 hr6 => ?_)
    refine x_if_eq (μ := mu_x6_atom) (pc := 42) (tgt := 50) dX6_atom_42 rfl hr6 ?_ ?_
    · refine x_iload_n (μ := mu_x6_atom) (pc := 50) 0 dX6_atom_50 rfl ?_
      refine x_bipush (μ := mu_x6_atom) (pc := 51) dX6_atom_51 (by decide) ?_
      refine x_icmp_ne (μ := mu_x6_atom) (pc := 53) (tgt := 61) dX6_atom_53 rfl hr3 (by decide) ?_ ?_
      · refine x_iload_n (μ := mu_x6_atom) (pc := 61) 0 dX6_atom_61 rfl ?_
        refine x_bipush (μ := mu_x6_atom) (pc := 62) dX6_atom_62 (by decide) ?_
        refine x_icmp_ne (μ := mu_x6_atom) (pc := 64) (tgt := 72) dX6_atom_64 rfl hr3 (by decide) ?_ ?_
        · refine x_aload_n (μ := mu_x6_atom) (pc := 72) 1 dX6_atom_72 rfl ?_
          refine x_aload_n (μ := mu_x6_atom) (pc := 73) 1 dX6_atom_73 rfl ?_
          refine x_fgi (μ := mu_x6_atom) (pc := 74) fX6_6 q487 dX6_atom_74 (gT_E k4 hT1 (by decide)) (fun hr7 => ?_)
          refine x_callV_pi (μ := mu_x6_atom) (pc := 77) (ok_x6_corner (ω := ω) (l := l) (d := d - 1) hl (by omega) hr7) gRel_E gRel_E (fun _ q => q) q1910 q1912 qs46 q226 q1913 dX6_atom_77 rfl (gT_E k4 hT1 (by decide)) hy_x6_corner (by omega) (Nat.le_of_ble_eq_true rfl) rfl (Nat.le_of_ble_eq_true rfl) (fun x8 hr9 => ?_)
          refine x_if_le (μ := mu_x6_atom) (pc := 80) (tgt := 88) dX6_atom_80 rfl hr9 ?_ ?_
          · refine x_iload_n (μ := mu_x6_atom) (pc := 88) 0 dX6_atom_88 rfl ?_
            refine x_callS_pi (μ := mu_x6_atom) (pc := 89) (ok_x6_isLetter (ω := ω) (l := l) (d := d - 1) hl (by omega) hr3) gRel_E gRel_E (fun _ q => q) q1914 q1915 q226 q1916 dX6_atom_89 hy_x6_isLetter (by omega) (Nat.le_of_ble_eq_true rfl) rfl (Nat.le_of_ble_eq_true rfl) (fun x10 hr11 => ?_)
            refine x_if_eq (μ := mu_x6_atom) (pc := 92) (tgt := 100) dX6_atom_92 rfl hr11 ?_ ?_
            · refine x_aload_n (μ := mu_x6_atom) (pc := 100) 1 dX6_atom_100 rfl ?_
              refine x_iconst (μ := mu_x6_atom) (pc := 101) dX6_atom_101 ?_
              refine x_aload_n (μ := mu_x6_atom) (pc := 102) 1 dX6_atom_102 rfl ?_
              refine x_fgi (μ := mu_x6_atom) (pc := 103) fX6_6 q487 dX6_atom_103 (gT_E k4 hT1 (by decide)) (fun hr12 => ?_)
              refine x_callV_mr (μ := mu_x6_atom) (pc := 106) (ok_x6_wrong (ω := ω) (l := l) (d := d - 1) hl (by omega) (by decide) hr12) gRel_E gRel_E (fun _ q => q) q1827 q1829 qs38 q226 q1830 dX6_atom_106 rfl (gT_E k4 hT1 (by decide)) hy_x6_wrong (by omega) (Nat.le_of_ble_eq_true rfl) rfl (Nat.le_of_ble_eq_true rfl) (fun x13 k14 => ?_)
              refine x_if (fun hT15 => ?_)
              exact x_athrow (μ := mu_x6_atom) (pc := 109) dX6_atom_109 hT15 (by decide)
            · refine x_aload_n (μ := mu_x6_atom) (pc := 95) 1 dX6_atom_95 rfl ?_
              refine x_callV_xr (μ := mu_x6_atom) (pc := 96) (ok_x6_word (ω := ω) (l := l) (d := d - 1) hl hW (by omega) (by omega) ) q1982 q1984 qs52 q226 q1985 dX6_atom_96 rfl (gT_E k4 hT1 (by decide)) hy_x6_word (by omega) (Nat.le_of_ble_eq_true rfl) rfl (Nat.le_of_ble_eq_true rfl) (by decide) (fun x16 s18 k17 => ?_)
              exact x_aret (μ := mu_x6_atom) (pc := 99) (a1 := ((.inl (some (vR x16)), s18) : gR)) dX6_atom_99 rfl (by first | exact Or.inl ⟨_, rfl⟩ | exact Or.inr ⟨_, rfl⟩) rfl (gRel_E.1 _) trivial
          · refine x_aload_n (μ := mu_x6_atom) (pc := 83) 1 dX6_atom_83 rfl ?_
            refine x_callV_xr (μ := mu_x6_atom) (pc := 84) (ok_x6_spot (ω := ω) (l := l) (d := d - 1) hl (by omega) ) q1917 q1919 qs47 q226 q1920 dX6_atom_84 rfl (gT_E k4 hT1 (by decide)) hy_x6_spot (by omega) (Nat.le_of_ble_eq_true rfl) rfl (Nat.le_of_ble_eq_true rfl) (by decide) (fun x19 s21 k20 => ?_)
            exact x_aret (μ := mu_x6_atom) (pc := 87) (a1 := ((.inl (some (vR x19)), s21) : gR)) dX6_atom_87 rfl (by first | exact Or.inl ⟨_, rfl⟩ | exact Or.inr ⟨_, rfl⟩) rfl (gRel_E.1 _) trivial
        · refine x_aload_n (μ := mu_x6_atom) (pc := 67) 1 dX6_atom_67 rfl ?_
          refine x_callV_xr (μ := mu_x6_atom) (pc := 68) (ok_x6_gone (ω := ω) (l := l) (d := d - 1) hl (by omega) ) q1898 q1900 qs45 q226 q1901 dX6_atom_68 rfl (gT_E k4 hT1 (by decide)) hy_x6_gone (by omega) (Nat.le_of_ble_eq_true rfl) rfl (Nat.le_of_ble_eq_true rfl) (by decide) (fun x22 s24 k23 => ?_)
          exact x_aret (μ := mu_x6_atom) (pc := 71) (a1 := ((.inl (some (vR x22)), s24) : gR)) dX6_atom_71 rfl (by first | exact Or.inl ⟨_, rfl⟩ | exact Or.inr ⟨_, rfl⟩) rfl (gRel_E.1 _) trivial
      · refine x_aload_n (μ := mu_x6_atom) (pc := 56) 1 dX6_atom_56 rfl ?_
        refine x_callV_xr (μ := mu_x6_atom) (pc := 57) (ok_x6_quoted (ω := ω) (l := l) (d := d - 1) hl (by omega) ) q1877 q1879 qs43 q226 q1880 dX6_atom_57 rfl (gT_E k4 hT1 (by decide)) hy_x6_quoted (by omega) (Nat.le_of_ble_eq_true rfl) rfl (Nat.le_of_ble_eq_true rfl) (by decide) (fun x25 s27 k26 => ?_)
        exact x_aret (μ := mu_x6_atom) (pc := 60) (a1 := ((.inl (some (vR x25)), s27) : gR)) dX6_atom_60 rfl (by first | exact Or.inl ⟨_, rfl⟩ | exact Or.inr ⟨_, rfl⟩) rfl (gRel_E.1 _) trivial
    · refine x_aload_n (μ := mu_x6_atom) (pc := 45) 1 dX6_atom_45 rfl ?_
      refine x_callV_xr (μ := mu_x6_atom) (pc := 46) (ok_x6_number (ω := ω) (l := l) (d := d - 1) hl (by omega) ) q1854 q1856 qs41 q226 q1857 dX6_atom_46 rfl (gT_E k4 hT1 (by decide)) hy_x6_number (by omega) (Nat.le_of_ble_eq_true rfl) rfl (Nat.le_of_ble_eq_true rfl) (by decide) (fun x28 s30 k29 => ?_)
      exact x_aret (μ := mu_x6_atom) (pc := 49) (a1 := ((.inl (some (vR x28)), s30) : gR)) dX6_atom_49 rfl (by first | exact Or.inl ⟨_, rfl⟩ | exact Or.inr ⟨_, rfl⟩) rfl (gRel_E.1 _) trivial
  · refine x_aload_n (μ := mu_x6_atom) (pc := 11) 1 dX6_atom_11 rfl ?_
    refine x_callV_xv (μ := mu_x6_atom) (pc := 12) (ok_x6_opens (ω := ω) (l := l) (d := d - 1) hl (by omega) ) q1823 q1825 qs37 q226 q1826 dX6_atom_12 rfl (gT_E k4 hT1 (by decide)) hy_x6_opens (by omega) (Nat.le_of_ble_eq_true rfl) rfl (Nat.le_of_ble_eq_true rfl) (by decide) (fun s33 k32 => ?_)
    refine x_aload_n (μ := mu_x6_atom) (pc := 15) 1 dX6_atom_15 rfl ?_
    refine x_callV_xr (μ := mu_x6_atom) (pc := 16) (ok_x6_test (ω := ω) (l := l) (d := d - 1) hl hW (by omega) (by omega) ) q1791 q1793 qs29 q226 q1794 dX6_atom_16 rfl (gT_E k32 (gT_E k4 hT1 (by decide)) (by decide)) hy_x6_test (by omega) (Nat.le_of_ble_eq_true rfl) rfl (Nat.le_of_ble_eq_true rfl) (by decide) (fun x34 s36 k35 => ?_)
    refine x_astore_n (μ := mu_x6_atom) (pc := 19) (lv' := [(2, vR x34), (1, vI (x2.1)), (0, vR v0)]) dX6_atom_19 rfl (by decide) rfl ?_
    refine x_aload_n (μ := mu_x6_atom) (pc := 20) 2 dX6_atom_20 rfl ?_
    refine x_bipush (μ := mu_x6_atom) (pc := 21) dX6_atom_21 (by decide) ?_
    refine x_callV_xv (μ := mu_x6_atom) (pc := 23) (ok_x6_expect (ω := ω) (l := l) (d := d - 1) hl (by omega) (by decide)) q1850 q1852 qs40 q226 q1853 dX6_atom_23 rfl (gT_E k35 (gT_E k32 (gT_E k4 hT1 (by decide)) (by decide)) (by decide)) hy_x6_expect (by omega) (Nat.le_of_ble_eq_true rfl) rfl (Nat.le_of_ble_eq_true rfl) (by decide) (fun s39 k38 => ?_)
    refine x_aload_n (μ := mu_x6_atom) (pc := 26) 2 dX6_atom_26 rfl ?_
    refine x_dup (μ := mu_x6_atom) (pc := 27) dX6_atom_27 rfl ?_
    refine x_fgi (μ := mu_x6_atom) (pc := 28) fX6_7 q488 dX6_atom_28 (gT_E k38 (gT_E k35 (gT_E k32 (gT_E k4 hT1 (by decide)) (by decide)) (by decide)) (by decide)) (fun hr40 => ?_)
    refine x_iconst (μ := mu_x6_atom) (pc := 31) dX6_atom_31 ?_
    refine x_isub (μ := mu_x6_atom) (pc := 32) dX6_atom_32 ?_
    refine x_w1 ?_
    refine x_fpi (μ := mu_x6_atom) (pc := 33) fX6_7 q488 dX6_atom_33 (gT_E k38 (gT_E k35 (gT_E k32 (gT_E k4 hT1 (by decide)) (by decide)) (by decide)) (by decide)) (fun _ q => gE_wI q) ?_
    refine x_let (fun s41 e42 => ?_)
    refine x_aload_n (μ := mu_x6_atom) (pc := 36) 0 dX6_atom_36 rfl ?_
    exact x_aret (μ := mu_x6_atom) (pc := 37) (a1 := ((.inl (some (vR x34)), s41) : gR)) dX6_atom_37 rfl (by first | exact Or.inl ⟨_, rfl⟩ | exact Or.inr ⟨_, rfl⟩) rfl (gRel_E.1 _) trivial
def x0_merge (N : Nat) (v0 : Nat) (v1 : Int) (v2 : Nat) (σ : gMem) : Option (Int × gMem) := if mT σ v0 = 1 then (x1_merge N v0 v1 σ).bind (fun p => gTryI p (fun x2 s5 => if mT s5 v2 = 101 then if 0 ≤ (0 : Int) ∧ (0 : Int) < (mN s5 v2 : Int) then gLet (wL s5 v2 (0 : Int).toNat x2) (fun s11 => some (0, s11)) else none else none) (fun E6 s7 => if E6 = "java/lang/IndexOutOfBoundsException" then some (1, s7) else if E6 = "java/util/NoSuchElementException" then some (2, s7) else if E6 = "java/lang/UnsupportedOperationException" then some (3, s7) else if E6 = "java/lang/IllegalStateException" then some (4, s7) else none)) else none
set_option maxRecDepth 100000 in
theorem ok_x0_merge {ω : gW} {l : Launch} {d : Nat} {N : Nat} {σ : gMem} {v0 : Nat} {v1 : Int} {v2 : Nat} (hl : l.stackTraces = false) (hdp : 74 ≤ d) (hv1 : g32 v1) : gK (fun p : Int × gMem => (.inl (some (vI p.1)), p.2)) gE ω l d mu_x0_merge [vR v0, vI v1, vR v2] σ (x0_merge N v0 v1 v2 σ) := by
  refine gK.ofH hp_X0 (Nat.le_of_ble_eq_true rfl) ?_
  unfold x0_merge
  refine x_aload_n (μ := mu_x0_merge) (pc := 0) 2 dX0_merge_0 rfl ?_
  refine x_iconst (μ := mu_x0_merge) (pc := 1) dX0_merge_1 ?_
  refine x_aload_n (μ := mu_x0_merge) (pc := 2) 0 dX0_merge_2 rfl ?_
  refine x_iload_n (μ := mu_x0_merge) (pc := 3) 1 dX0_merge_3 rfl ?_
  refine x_if (fun hT1 => ?_)
  refine x_callV_ti (μ := mu_x0_merge) (pc := 4) (ok_x1_merge (ω := ω) (l := l) (d := d - 1) hl (by omega) hv1) q2454 q2455 q2456 q221 q2457 dX0_merge_4 rfl hT1 hy_x1_merge (by omega) (Nat.le_of_ble_eq_true rfl) rfl (Nat.le_of_ble_eq_true rfl) (fun x2 s5 k4 hr3 => ?_) (fun E6 s7 k9 => ?_)
  · refine x_i2l (μ := mu_x0_merge) (pc := 7) dX0_merge_7 hr3 ?_
    refine x_if (fun hT10 => ?_)
    refine x_last (μ := mu_x0_merge) (pc := 8) dX0_merge_8 hT10 rfl (fun _ _ q => gE_wL q) ?_
    refine x_let (fun s11 e12 => ?_)
    refine x_goto (μ := mu_x0_merge) (pc := 9) (tgt := 24) dX0_merge_9 rfl ?_
    refine x_iconst (μ := mu_x0_merge) (pc := 24) dX0_merge_24 ?_
    exact x_iret (μ := mu_x0_merge) (pc := 25) dX0_merge_25 rfl rfl (gRel_E.1 _) (show g32 0 from (by decide))
  · refine x_eqE "java/lang/IndexOutOfBoundsException" (fun _ => ?_) (fun _ => ?_)
    · refine x_catch0 (pc := 4) (tgt := 12) rfl  q1676 q1764 (by decide) (fun q13 => ?_)
      refine x_astore_n (μ := mu_x0_merge) (pc := 12) (lv' := [(3, vR q13), (0, vR v0), (1, vI v1), (2, vR v2)]) dX0_merge_12 rfl (by decide) rfl ?_
      refine x_iconst (μ := mu_x0_merge) (pc := 13) dX0_merge_13 ?_
      exact x_iret (μ := mu_x0_merge) (pc := 14) dX0_merge_14 rfl rfl (gRel_E.1 _) (show g32 1 from (by decide))
    refine x_eqE "java/util/NoSuchElementException" (fun _ => ?_) (fun _ => ?_)
    · refine x_catch1 (pc := 4) (tgt := 15) rfl q1676 (by decide) q2392 q2399 (by decide) (fun q14 => ?_)
      refine x_astore_n (μ := mu_x0_merge) (pc := 15) (lv' := [(3, vR q14), (0, vR v0), (1, vI v1), (2, vR v2)]) dX0_merge_15 rfl (by decide) rfl ?_
      refine x_iconst (μ := mu_x0_merge) (pc := 16) dX0_merge_16 ?_
      exact x_iret (μ := mu_x0_merge) (pc := 17) dX0_merge_17 rfl rfl (gRel_E.1 _) (show g32 2 from (by decide))
    refine x_eqE "java/lang/UnsupportedOperationException" (fun _ => ?_) (fun _ => ?_)
    · refine x_catch2 (pc := 4) (tgt := 18) rfl q1676 (by decide) q2392 (by decide) q1756 q2163 (by decide) (fun q15 => ?_)
      refine x_astore_n (μ := mu_x0_merge) (pc := 18) (lv' := [(3, vR q15), (0, vR v0), (1, vI v1), (2, vR v2)]) dX0_merge_18 rfl (by decide) rfl ?_
      refine x_iconst (μ := mu_x0_merge) (pc := 19) dX0_merge_19 ?_
      exact x_iret (μ := mu_x0_merge) (pc := 20) dX0_merge_20 rfl rfl (gRel_E.1 _) (show g32 3 from (by decide))
    refine x_eqE "java/lang/IllegalStateException" (fun _ => ?_) (fun _ => ?_)
    · refine x_catch3 (pc := 4) (tgt := 21) rfl q1676 (by decide) q2392 (by decide) q1756 (by decide) q2194 q2209 (by decide) (fun q16 => ?_)
      refine x_astore_n (μ := mu_x0_merge) (pc := 21) (lv' := [(3, vR q16), (0, vR v0), (1, vI v1), (2, vR v2)]) dX0_merge_21 rfl (by decide) rfl ?_
      refine x_iconst (μ := mu_x0_merge) (pc := 22) dX0_merge_22 ?_
      exact x_iret (μ := mu_x0_merge) (pc := 23) dX0_merge_23 rfl rfl (gRel_E.1 _) (show g32 4 from (by decide))
    exact x_xnone
