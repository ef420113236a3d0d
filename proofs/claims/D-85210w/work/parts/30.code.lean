def iy_Content_isAlike : MethodName := ⟨"SheetBranches$Content", "isAlike", "(LSheetBranches$Content;)Z"⟩
set_option maxRecDepth 100000 in
theorem iy_Content_isAlike_hy : iy_Content_isAlike.cls ≠ "java/lang/invoke/MethodHandle" ∧ iy_Content_isAlike.cls ≠ "java/lang/invoke/VarHandle" ∧ (parseMethodDescriptor iy_Content_isAlike.desc).map (fun d => d.parameters.length) = some 1 := by decide +kernel
def iy_Content_parts : MethodName := ⟨"SheetBranches$Content", "parts", "()I"⟩
set_option maxRecDepth 100000 in
theorem iy_Content_parts_hy : iy_Content_parts.cls ≠ "java/lang/invoke/MethodHandle" ∧ iy_Content_parts.cls ≠ "java/lang/invoke/VarHandle" ∧ (parseMethodDescriptor iy_Content_parts.desc).map (fun d => d.parameters.length) = some 0 := by decide +kernel
def iy_Content_write : MethodName := ⟨"SheetBranches$Content", "write", "(LSheetBranches$Pen;LSheetBranches$Sheet;)V"⟩
set_option maxRecDepth 100000 in
theorem iy_Content_write_hy : iy_Content_write.cls ≠ "java/lang/invoke/MethodHandle" ∧ iy_Content_write.cls ≠ "java/lang/invoke/VarHandle" ∧ (parseMethodDescriptor iy_Content_write.desc).map (fun d => d.parameters.length) = some 2 := by decide +kernel
def iy_Part_leads : MethodName := ⟨"SheetBranches$Part", "leads", "(LSheetBranches$Links;LSheetBranches$Sheet;)V"⟩
set_option maxRecDepth 100000 in
theorem iy_Part_leads_hy : iy_Part_leads.cls ≠ "java/lang/invoke/MethodHandle" ∧ iy_Part_leads.cls ≠ "java/lang/invoke/VarHandle" ∧ (parseMethodDescriptor iy_Part_leads.desc).map (fun d => d.parameters.length) = some 2 := by decide +kernel
def iy_Part_rank : MethodName := ⟨"SheetBranches$Part", "rank", "()I"⟩
set_option maxRecDepth 100000 in
theorem iy_Part_rank_hy : iy_Part_rank.cls ≠ "java/lang/invoke/MethodHandle" ∧ iy_Part_rank.cls ≠ "java/lang/invoke/VarHandle" ∧ (parseMethodDescriptor iy_Part_rank.desc).map (fun d => d.parameters.length) = some 0 := by decide +kernel
def iy_Part_same : MethodName := ⟨"SheetBranches$Part", "same", "(LSheetBranches$Part;)Z"⟩
set_option maxRecDepth 100000 in
theorem iy_Part_same_hy : iy_Part_same.cls ≠ "java/lang/invoke/MethodHandle" ∧ iy_Part_same.cls ≠ "java/lang/invoke/VarHandle" ∧ (parseMethodDescriptor iy_Part_same.desc).map (fun d => d.parameters.length) = some 1 := by decide +kernel
def iy_Part_shifted : MethodName := ⟨"SheetBranches$Part", "shifted", "(LSheetBranches$Shift;)LSheetBranches$Part;"⟩
set_option maxRecDepth 100000 in
theorem iy_Part_shifted_hy : iy_Part_shifted.cls ≠ "java/lang/invoke/MethodHandle" ∧ iy_Part_shifted.cls ≠ "java/lang/invoke/VarHandle" ∧ (parseMethodDescriptor iy_Part_shifted.desc).map (fun d => d.parameters.length) = some 1 := by decide +kernel
def iy_Part_work : MethodName := ⟨"SheetBranches$Part", "work", "(LSheetBranches$Works;LSheetBranches$Worth;)V"⟩
set_option maxRecDepth 100000 in
theorem iy_Part_work_hy : iy_Part_work.cls ≠ "java/lang/invoke/MethodHandle" ∧ iy_Part_work.cls ≠ "java/lang/invoke/VarHandle" ∧ (parseMethodDescriptor iy_Part_work.desc).map (fun d => d.parameters.length) = some 2 := by decide +kernel
def iy_Part_write : MethodName := ⟨"SheetBranches$Part", "write", "(LSheetBranches$Pen;LSheetBranches$Sheet;)V"⟩
set_option maxRecDepth 100000 in
theorem iy_Part_write_hy : iy_Part_write.cls ≠ "java/lang/invoke/MethodHandle" ∧ iy_Part_write.cls ≠ "java/lang/invoke/VarHandle" ∧ (parseMethodDescriptor iy_Part_write.desc).map (fun d => d.parameters.length) = some 2 := by decide +kernel
def x1_word_l3 (N : Nat) (v0 : Nat) (v1 : Int) (K : gMem → Option gMem) : Nat → Int → gMem → Option gMem
  | 0, _, _ => none
  | n + 1, v2, s => if v2 < 0 then K s else if mT s v0 = 1 then if mT s (mR s v0 0) = 102 then if 0 ≤ (mI s v0 1) ∧ (mI s v0 1) < (mN s (mR s v0 0) : Int) then gLet (wI s (mR s v0 0) (mI s v0 1).toNat (bByte (bShr v1 v2))) (fun s4 => gLet (wI s4 v0 1 (w32 ((mI s4 v0 1) + 1))) (fun s7 => x1_word_l3 N v0 v1 K n (w32 (v2 + (-8))) s7)) else none else none else none
set_option maxRecDepth 100000 in
theorem okl_x1_word_l3 {ω : gW} {l : Launch} {d : Nat} {N : Nat} {σ0 : gMem} {v0 : Nat} {v1 : Int} {K : gMem → Option gMem} (hl : l.stackTraces = false) (hdp : 0 ≤ d) (hv1 : g32 v1) (hK : ∀ (s : gMem) , GG (fun p : gMem => (.inl none, p)) gE ω l d mu_x1_word σ0 36 [] [] s (K s)) : ∀ (n : Nat) (v2 : Int) (s : gMem) , g32 v2 → GG (fun p : gMem => (.inl none, p)) gE ω l d mu_x1_word σ0 3 [(0, vR v0), (1, vI v1), (2, vI v2)] [] s (x1_word_l3 N v0 v1 K n v2 s) := by
  intro n
  induction n with
  | zero => intros; exact x_none
  | succ n ih =>
    intro v2 s hv2
    unfold x1_word_l3
    refine x_iload_n (μ := mu_x1_word) (pc := 3) 2 dX1_word_3 rfl ?_
    refine x_if_lt (μ := mu_x1_word) (pc := 4) (tgt := 36) dX1_word_4 rfl hv2 ?_ ?_
    · refine x_loc (lv' := []) [] rfl ?_
      exact hK s
    · refine x_aload_n (μ := mu_x1_word) (pc := 7) 0 dX1_word_7 rfl ?_
      refine x_if (fun hT1 => ?_)
      refine x_fgr (μ := mu_x1_word) (pc := 8) fX1_0 (by first | exact Or.inl ⟨_, rfl⟩ | exact Or.inr ⟨_, rfl⟩) q645 dX1_word_8 hT1 ?_
      refine x_aload_n (μ := mu_x1_word) (pc := 11) 0 dX1_word_11 rfl ?_
      refine x_fgi (μ := mu_x1_word) (pc := 12) fX1_1 q646 dX1_word_12 hT1 (fun hr2 => ?_)
      refine x_iload_n (μ := mu_x1_word) (pc := 15) 1 dX1_word_15 rfl ?_
      refine x_iload_n (μ := mu_x1_word) (pc := 16) 2 dX1_word_16 rfl ?_
      refine x_ishr (μ := mu_x1_word) (pc := 17) dX1_word_17 ?_
      refine x_i2b (μ := mu_x1_word) (pc := 18) dX1_word_18 ?_
      refine x_if (fun hT3 => ?_)
      refine x_bast (μ := mu_x1_word) (pc := 19) dX1_word_19 hT3 rfl (bByte_b _) (fun _ _ q => gE_wI q) ?_
      refine x_let (fun s4 e5 => ?_)
      refine x_aload_n (μ := mu_x1_word) (pc := 20) 0 dX1_word_20 rfl ?_
      refine x_dup (μ := mu_x1_word) (pc := 21) dX1_word_21 rfl ?_
      refine x_fgi (μ := mu_x1_word) (pc := 22) fX1_1 q646 dX1_word_22 (gT_I e5 hT1) (fun hr6 => ?_)
      refine x_iconst (μ := mu_x1_word) (pc := 25) dX1_word_25 ?_
      refine x_iadd (μ := mu_x1_word) (pc := 26) dX1_word_26 ?_
      refine x_w1 ?_
      refine x_fpi (μ := mu_x1_word) (pc := 27) fX1_1 q646 dX1_word_27 (gT_I e5 hT1) (fun _ q => gE_wI q) ?_
      refine x_let (fun s7 e8 => ?_)
      refine x_iincw (μ := mu_x1_word) (pc := 30) (lv' := [(2, vI (w32 (v2 + (-8)))), (0, vR v0), (1, vI v1)]) 2 dX1_word_30 rfl (by decide) rfl ?_
      refine x_goto (μ := mu_x1_word) (pc := 33) (tgt := 3) dX1_word_33 rfl ?_
      refine x_loc (lv' := [(0, vR v0), (1, vI v1), (2, vI (w32 (v2 + (-8))))]) [1, 2, 0] rfl ?_
      exact ih (w32 (v2 + (-8))) s7 (w32_rng _)
def x1_word (N : Nat) (v0 : Nat) (v1 : Int) (σ : gMem) : Option gMem := x1_word_l3 N v0 v1 (fun s9 => some s9) N 24 σ
set_option maxRecDepth 100000 in
theorem ok_x1_word {ω : gW} {l : Launch} {d : Nat} {N : Nat} {σ : gMem} {v0 : Nat} {v1 : Int} (hl : l.stackTraces = false) (hdp : 0 ≤ d) (hv1 : g32 v1) : gK (fun p : gMem => (.inl none, p)) gE ω l d mu_x1_word [vR v0, vI v1] σ (x1_word N v0 v1 σ) := by
  refine gK.of hp_X1 (Nat.le_of_ble_eq_true rfl) ?_
  unfold x1_word
  refine x_bipush (μ := mu_x1_word) (pc := 0) dX1_word_0 (by decide) ?_
  refine x_istore_n (μ := mu_x1_word) (pc := 2) (lv' := [(2, vI 24), (0, vR v0), (1, vI v1)]) dX1_word_2 rfl (by decide) rfl ?_
  refine x_loc (lv' := [(0, vR v0), (1, vI v1), (2, vI 24)]) [1, 2, 0] rfl ?_
  refine okl_x1_word_l3 hl hdp hv1 (fun s9 => ?_) N 24 σ (by decide)
  exact x_vret (μ := mu_x1_word) (pc := 36) (a1 := s9) dX1_word_36 rfl rfl (gRel_E.1 _) trivial
def x1_end (v0 : Nat) (v1 : Int) (σ : gMem) : Option (Int × gMem) := if v1 < 0 then some (0, σ) else if mT σ v0 = 1 then if v1 ≤ mI σ v0 1 then gLet (wI σ v0 1 v1) (fun s3 => some (1, s3)) else some (0, σ) else none
set_option maxRecDepth 100000 in
theorem ok_x1_end {ω : gW} {l : Launch} {d : Nat} {σ : gMem} {v0 : Nat} {v1 : Int} (hl : l.stackTraces = false) (hdp : 0 ≤ d) (hv1 : g32 v1) : gK (fun p : Int × gMem => (.inl (some (vI p.1)), p.2)) gE ω l d mu_x1_end [vR v0, vI v1] σ (x1_end v0 v1 σ) := by
  refine gK.of hp_X1 (Nat.le_of_ble_eq_true rfl) ?_
  unfold x1_end
  refine x_iload_n (μ := mu_x1_end) (pc := 0) 1 dX1_end_0 rfl ?_
  refine x_if_lt (μ := mu_x1_end) (pc := 1) (tgt := 12) dX1_end_1 rfl hv1 ?_ ?_
  · refine x_iconst (μ := mu_x1_end) (pc := 12) dX1_end_12 ?_
    exact x_zret (μ := mu_x1_end) (pc := 13) dX1_end_13 rfl (by decide) rfl (gRel_E.1 _) (show g32 0 from (by decide))
  · refine x_iload_n (μ := mu_x1_end) (pc := 4) 1 dX1_end_4 rfl ?_
    refine x_aload_n (μ := mu_x1_end) (pc := 5) 0 dX1_end_5 rfl ?_
    refine x_if (fun hT1 => ?_)
    refine x_fgi (μ := mu_x1_end) (pc := 6) fX1_1 q646 dX1_end_6 hT1 (fun hr2 => ?_)
    refine x_icmp_le (μ := mu_x1_end) (pc := 9) (tgt := 14) dX1_end_9 rfl hv1 hr2 ?_ ?_
    · refine x_aload_n (μ := mu_x1_end) (pc := 14) 0 dX1_end_14 rfl ?_
      refine x_iload_n (μ := mu_x1_end) (pc := 15) 1 dX1_end_15 rfl ?_
      refine x_fpi (μ := mu_x1_end) (pc := 16) fX1_1 q646 dX1_end_16 hT1 (fun _ q => gE_wI q) ?_
      refine x_let (fun s3 e4 => ?_)
      refine x_iconst (μ := mu_x1_end) (pc := 19) dX1_end_19 ?_
      exact x_zret (μ := mu_x1_end) (pc := 20) dX1_end_20 rfl (by decide) rfl (gRel_E.1 _) (show g32 1 from (by decide))
    · refine x_iconst (μ := mu_x1_end) (pc := 12) dX1_end_12 ?_
      exact x_zret (μ := mu_x1_end) (pc := 13) dX1_end_13 rfl (by decide) rfl (gRel_E.1 _) (show g32 0 from (by decide))
def x1_fault (v0 : Nat) (v1 : Int) (σ : gMem) : Option Int := if v1 ≠ 0 then if v1 ≠ 1 then some (-1) else if mT σ v0 = 1 then some (mI σ v0 3) else none else if mT σ v0 = 1 then some (mI σ v0 2) else none
set_option maxRecDepth 100000 in
theorem ok_x1_fault {ω : gW} {l : Launch} {d : Nat} {σ : gMem} {v0 : Nat} {v1 : Int} (hl : l.stackTraces = false) (hdp : 0 ≤ d) (hv1 : g32 v1) : gK (fun x : Int => (.inl (some (vI x)), σ)) gE ω l d mu_x1_fault [vR v0, vI v1] σ (x1_fault v0 v1 σ) := by
  refine gK.of hp_X1 (Nat.le_of_ble_eq_true rfl) ?_
  unfold x1_fault
  refine x_iload_n (μ := mu_x1_fault) (pc := 0) 1 dX1_fault_0 rfl ?_
  refine x_if_ne (μ := mu_x1_fault) (pc := 1) (tgt := 11) dX1_fault_1 rfl hv1 ?_ ?_
  · refine x_iload_n (μ := mu_x1_fault) (pc := 11) 1 dX1_fault_11 rfl ?_
    refine x_iconst (μ := mu_x1_fault) (pc := 12) dX1_fault_12 ?_
    refine x_icmp_ne (μ := mu_x1_fault) (pc := 13) (tgt := 23) dX1_fault_13 rfl hv1 (by decide) ?_ ?_
    · refine x_iconst (μ := mu_x1_fault) (pc := 23) dX1_fault_23 ?_
      exact x_iret (μ := mu_x1_fault) (pc := 24) dX1_fault_24 rfl rfl (gRel_E.1 _) (show g32 (-1) from (by decide))
    · refine x_aload_n (μ := mu_x1_fault) (pc := 16) 0 dX1_fault_16 rfl ?_
      refine x_if (fun hT1 => ?_)
      refine x_fgi (μ := mu_x1_fault) (pc := 17) fX1_3 q648 dX1_fault_17 hT1 (fun hr2 => ?_)
      refine x_goto (μ := mu_x1_fault) (pc := 20) (tgt := 24) dX1_fault_20 rfl ?_
      exact x_iret (μ := mu_x1_fault) (pc := 24) dX1_fault_24 rfl rfl (gRel_E.1 _) (show g32 (mI σ v0 3) from hr2)
  · refine x_aload_n (μ := mu_x1_fault) (pc := 4) 0 dX1_fault_4 rfl ?_
    refine x_if (fun hT3 => ?_)
    refine x_fgi (μ := mu_x1_fault) (pc := 5) fX1_2 q647 dX1_fault_5 hT3 (fun hr4 => ?_)
    refine x_goto (μ := mu_x1_fault) (pc := 8) (tgt := 24) dX1_fault_8 rfl ?_
    exact x_iret (μ := mu_x1_fault) (pc := 24) dX1_fault_24 rfl rfl (gRel_E.1 _) (show g32 (mI σ v0 2) from hr4)
def x1_head (v0 : Nat) (σ : gMem) : Option Int := if mT σ v0 = 1 then if mT σ (mR σ v0 6) = 100 then if 0 ≤ (mI σ v0 7) ∧ (mI σ v0 7) < (mN σ (mR σ v0 6) : Int) then some (mI σ (mR σ v0 6) (mI σ v0 7).toNat) else none else none else none
set_option maxRecDepth 100000 in
theorem ok_x1_head {ω : gW} {l : Launch} {d : Nat} {σ : gMem} {v0 : Nat} (hl : l.stackTraces = false) (hdp : 0 ≤ d) : gK (fun x : Int => (.inl (some (vI x)), σ)) gE ω l d mu_x1_head [vR v0] σ (x1_head v0 σ) := by
  refine gK.of hp_X1 (Nat.le_of_ble_eq_true rfl) ?_
  unfold x1_head
  refine x_aload_n (μ := mu_x1_head) (pc := 0) 0 dX1_head_0 rfl ?_
  refine x_if (fun hT1 => ?_)
  refine x_fgr (μ := mu_x1_head) (pc := 1) fX1_6 (by first | exact Or.inl ⟨_, rfl⟩ | exact Or.inr ⟨_, rfl⟩) q651 dX1_head_1 hT1 ?_
  refine x_aload_n (μ := mu_x1_head) (pc := 4) 0 dX1_head_4 rfl ?_
  refine x_fgi (μ := mu_x1_head) (pc := 5) fX1_7 q652 dX1_head_5 hT1 (fun hr2 => ?_)
  refine x_if (fun hT3 => ?_)
  refine x_iald (μ := mu_x1_head) (pc := 8) dX1_head_8 hT3 rfl (fun hr4 => ?_)
  exact x_iret (μ := mu_x1_head) (pc := 9) dX1_head_9 rfl rfl (gRel_E.1 _) (show g32 (mI σ (mR σ v0 6) (mI σ v0 7).toNat) from hr4)
def x1_forget (v0 : Nat) (σ : gMem) : Option gMem := if mT σ v0 = 1 then gLet (wI σ v0 13 0) (fun s2 => gLet (wI s2 v0 14 0) (fun s4 => gLet (wI s4 v0 10 0) (fun s6 => some s6))) else none
set_option maxRecDepth 100000 in
theorem ok_x1_forget {ω : gW} {l : Launch} {d : Nat} {σ : gMem} {v0 : Nat} (hl : l.stackTraces = false) (hdp : 0 ≤ d) : gK (fun p : gMem => (.inl none, p)) gE ω l d mu_x1_forget [vR v0] σ (x1_forget v0 σ) := by
  refine gK.of hp_X1 (Nat.le_of_ble_eq_true rfl) ?_
  unfold x1_forget
  refine x_aload_n (μ := mu_x1_forget) (pc := 0) 0 dX1_forget_0 rfl ?_
  refine x_iconst (μ := mu_x1_forget) (pc := 1) dX1_forget_1 ?_
  refine x_if (fun hT1 => ?_)
  refine x_fpi (μ := mu_x1_forget) (pc := 2) fX1_13 q658 dX1_forget_2 hT1 (fun _ q => gE_wI q) ?_
  refine x_let (fun s2 e3 => ?_)
  refine x_aload_n (μ := mu_x1_forget) (pc := 5) 0 dX1_forget_5 rfl ?_
  refine x_iconst (μ := mu_x1_forget) (pc := 6) dX1_forget_6 ?_
  refine x_fpi (μ := mu_x1_forget) (pc := 7) fX1_14 q659 dX1_forget_7 (gT_I e3 hT1) (fun _ q => gE_wI q) ?_
  refine x_let (fun s4 e5 => ?_)
  refine x_aload_n (μ := mu_x1_forget) (pc := 10) 0 dX1_forget_10 rfl ?_
  refine x_iconst (μ := mu_x1_forget) (pc := 11) dX1_forget_11 ?_
  refine x_fpz (μ := mu_x1_forget) (pc := 12) fX1_10 q655 (by decide) dX1_forget_12 (gT_I e5 (gT_I e3 hT1)) (fun _ q => gE_wI q) ?_
  refine x_let (fun s6 e7 => ?_)
  exact x_vret (μ := mu_x1_forget) (pc := 15) (a1 := s6) dX1_forget_15 rfl rfl (gRel_E.1 _) trivial
def x1_difference (v0 : Nat) (v1 : Int) (v2 : Int) (σ : gMem) : Option Int := if v1 < 0 then some (-1) else if mT σ v0 = 1 then if v1 < mI σ v0 29 then if v2 ≠ 0 then if v2 ≠ 1 then if v2 ≠ 2 then some (-1) else if mT σ (mR σ v0 28) = 100 then if 0 ≤ v1 ∧ v1 < (mN σ (mR σ v0 28) : Int) then some (mI σ (mR σ v0 28) v1.toNat) else none else none else if mT σ (mR σ v0 27) = 100 then if 0 ≤ v1 ∧ v1 < (mN σ (mR σ v0 27) : Int) then some (mI σ (mR σ v0 27) v1.toNat) else none else none else if mT σ (mR σ v0 26) = 100 then if 0 ≤ v1 ∧ v1 < (mN σ (mR σ v0 26) : Int) then some (mI σ (mR σ v0 26) v1.toNat) else none else none else some (-1) else none
set_option maxRecDepth 100000 in
theorem ok_x1_difference {ω : gW} {l : Launch} {d : Nat} {σ : gMem} {v0 : Nat} {v1 : Int} {v2 : Int} (hl : l.stackTraces = false) (hdp : 0 ≤ d) (hv1 : g32 v1) (hv2 : g32 v2) : gK (fun x : Int => (.inl (some (vI x)), σ)) gE ω l d mu_x1_difference [vR v0, vI v1, vI v2] σ (x1_difference v0 v1 v2 σ) := by
  refine gK.of hp_X1 (Nat.le_of_ble_eq_true rfl) ?_
  unfold x1_difference
  refine x_iload_n (μ := mu_x1_difference) (pc := 0) 1 dX1_difference_0 rfl ?_
  refine x_if_lt (μ := mu_x1_difference) (pc := 1) (tgt := 12) dX1_difference_1 rfl hv1 ?_ ?_
  · refine x_iconst (μ := mu_x1_difference) (pc := 12) dX1_difference_12 ?_
    exact x_iret (μ := mu_x1_difference) (pc := 13) dX1_difference_13 rfl rfl (gRel_E.1 _) (show g32 (-1) from (by decide))
  · refine x_iload_n (μ := mu_x1_difference) (pc := 4) 1 dX1_difference_4 rfl ?_
    refine x_aload_n (μ := mu_x1_difference) (pc := 5) 0 dX1_difference_5 rfl ?_
    refine x_if (fun hT1 => ?_)
    refine x_fgi (μ := mu_x1_difference) (pc := 6) fX1_29 q674 dX1_difference_6 hT1 (fun hr2 => ?_)
    refine x_icmp_lt (μ := mu_x1_difference) (pc := 9) (tgt := 14) dX1_difference_9 rfl hv1 hr2 ?_ ?_
    · refine x_iload_n (μ := mu_x1_difference) (pc := 14) 2 dX1_difference_14 rfl ?_
      refine x_if_ne (μ := mu_x1_difference) (pc := 15) (tgt := 27) dX1_difference_15 rfl hv2 ?_ ?_
      · refine x_iload_n (μ := mu_x1_difference) (pc := 27) 2 dX1_difference_27 rfl ?_
        refine x_iconst (μ := mu_x1_difference) (pc := 28) dX1_difference_28 ?_
        refine x_icmp_ne (μ := mu_x1_difference) (pc := 29) (tgt := 41) dX1_difference_29 rfl hv2 (by decide) ?_ ?_
        · refine x_iload_n (μ := mu_x1_difference) (pc := 41) 2 dX1_difference_41 rfl ?_
          refine x_iconst (μ := mu_x1_difference) (pc := 42) dX1_difference_42 ?_
          refine x_icmp_ne (μ := mu_x1_difference) (pc := 43) (tgt := 55) dX1_difference_43 rfl hv2 (by decide) ?_ ?_
          · refine x_iconst (μ := mu_x1_difference) (pc := 55) dX1_difference_55 ?_
            exact x_iret (μ := mu_x1_difference) (pc := 56) dX1_difference_56 rfl rfl (gRel_E.1 _) (show g32 (-1) from (by decide))
          · refine x_aload_n (μ := mu_x1_difference) (pc := 46) 0 dX1_difference_46 rfl ?_
            refine x_fgr (μ := mu_x1_difference) (pc := 47) fX1_28 (by first | exact Or.inl ⟨_, rfl⟩ | exact Or.inr ⟨_, rfl⟩) q673 dX1_difference_47 hT1 ?_
            refine x_iload_n (μ := mu_x1_difference) (pc := 50) 1 dX1_difference_50 rfl ?_
            refine x_if (fun hT3 => ?_)
            refine x_iald (μ := mu_x1_difference) (pc := 51) dX1_difference_51 hT3 rfl (fun hr4 => ?_)
            refine x_goto (μ := mu_x1_difference) (pc := 52) (tgt := 56) dX1_difference_52 rfl ?_
            exact x_iret (μ := mu_x1_difference) (pc := 56) dX1_difference_56 rfl rfl (gRel_E.1 _) (show g32 (mI σ (mR σ v0 28) v1.toNat) from hr4)
        · refine x_aload_n (μ := mu_x1_difference) (pc := 32) 0 dX1_difference_32 rfl ?_
          refine x_fgr (μ := mu_x1_difference) (pc := 33) fX1_27 (by first | exact Or.inl ⟨_, rfl⟩ | exact Or.inr ⟨_, rfl⟩) q672 dX1_difference_33 hT1 ?_
          refine x_iload_n (μ := mu_x1_difference) (pc := 36) 1 dX1_difference_36 rfl ?_
          refine x_if (fun hT5 => ?_)
          refine x_iald (μ := mu_x1_difference) (pc := 37) dX1_difference_37 hT5 rfl (fun hr6 => ?_)
          refine x_goto (μ := mu_x1_difference) (pc := 38) (tgt := 56) dX1_difference_38 rfl ?_
          exact x_iret (μ := mu_x1_difference) (pc := 56) dX1_difference_56 rfl rfl (gRel_E.1 _) (show g32 (mI σ (mR σ v0 27) v1.toNat) from hr6)
      · refine x_aload_n (μ := mu_x1_difference) (pc := 18) 0 dX1_difference_18 rfl ?_
        refine x_fgr (μ := mu_x1_difference) (pc := 19) fX1_26 (by first | exact Or.inl ⟨_, rfl⟩ | exact Or.inr ⟨_, rfl⟩) q671 dX1_difference_19 hT1 ?_
        refine x_iload_n (μ := mu_x1_difference) (pc := 22) 1 dX1_difference_22 rfl ?_
        refine x_if (fun hT7 => ?_)
        refine x_iald (μ := mu_x1_difference) (pc := 23) dX1_difference_23 hT7 rfl (fun hr8 => ?_)
        refine x_goto (μ := mu_x1_difference) (pc := 24) (tgt := 56) dX1_difference_24 rfl ?_
        exact x_iret (μ := mu_x1_difference) (pc := 56) dX1_difference_56 rfl rfl (gRel_E.1 _) (show g32 (mI σ (mR σ v0 26) v1.toNat) from hr8)
    · refine x_iconst (μ := mu_x1_difference) (pc := 12) dX1_difference_12 ?_
      exact x_iret (μ := mu_x1_difference) (pc := 13) dX1_difference_13 rfl rfl (gRel_E.1 _) (show g32 (-1) from (by decide))
def x1_sheetOf (v0 : Nat) (v1 : Int) (σ : gMem) : Option Nat := if v1 ≠ (-1) then if v1 < 0 then some 0 else if mT σ v0 = 1 then if mI σ v0 5 ≤ v1 then some 0 else if mT σ (mR σ v0 4) = 104 then if 0 ≤ v1 ∧ v1 < (mN σ (mR σ v0 4) : Int) then if mT σ (mR σ (mR σ v0 4) v1.toNat) = 9 then some (mR σ (mR σ (mR σ v0 4) v1.toNat) 0) else none else none else none else none else if mT σ v0 = 1 then some (mR σ v0 8) else none
set_option maxRecDepth 100000 in
theorem ok_x1_sheetOf {ω : gW} {l : Launch} {d : Nat} {σ : gMem} {v0 : Nat} {v1 : Int} (hl : l.stackTraces = false) (hdp : 0 ≤ d) (hv1 : g32 v1) : gK (fun x : Nat => (.inl (some (vR x)), σ)) gE ω l d mu_x1_sheetOf [vR v0, vI v1] σ (x1_sheetOf v0 v1 σ) := by
  refine gK.of hp_X1 (Nat.le_of_ble_eq_true rfl) ?_
  unfold x1_sheetOf
  refine x_iload_n (μ := mu_x1_sheetOf) (pc := 0) 1 dX1_sheetOf_0 rfl ?_
  refine x_iconst (μ := mu_x1_sheetOf) (pc := 1) dX1_sheetOf_1 ?_
  refine x_icmp_ne (μ := mu_x1_sheetOf) (pc := 2) (tgt := 12) dX1_sheetOf_2 rfl hv1 (by decide) ?_ ?_
  · refine x_iload_n (μ := mu_x1_sheetOf) (pc := 12) 1 dX1_sheetOf_12 rfl ?_
    refine x_if_lt (μ := mu_x1_sheetOf) (pc := 13) (tgt := 36) dX1_sheetOf_13 rfl hv1 ?_ ?_
    · refine x_null (μ := mu_x1_sheetOf) (pc := 36) dX1_sheetOf_36 ?_
      exact x_aret (μ := mu_x1_sheetOf) (pc := 37) dX1_sheetOf_37 rfl (by first | exact Or.inl ⟨_, rfl⟩ | exact Or.inr ⟨_, rfl⟩) rfl (gRel_E.1 _) trivial
    · refine x_iload_n (μ := mu_x1_sheetOf) (pc := 16) 1 dX1_sheetOf_16 rfl ?_
      refine x_aload_n (μ := mu_x1_sheetOf) (pc := 17) 0 dX1_sheetOf_17 rfl ?_
      refine x_if (fun hT1 => ?_)
      refine x_fgi (μ := mu_x1_sheetOf) (pc := 18) fX1_5 q650 dX1_sheetOf_18 hT1 (fun hr2 => ?_)
      refine x_icmp_ge (μ := mu_x1_sheetOf) (pc := 21) (tgt := 36) dX1_sheetOf_21 rfl hv1 hr2 ?_ ?_
      · refine x_null (μ := mu_x1_sheetOf) (pc := 36) dX1_sheetOf_36 ?_
        exact x_aret (μ := mu_x1_sheetOf) (pc := 37) dX1_sheetOf_37 rfl (by first | exact Or.inl ⟨_, rfl⟩ | exact Or.inr ⟨_, rfl⟩) rfl (gRel_E.1 _) trivial
      · refine x_aload_n (μ := mu_x1_sheetOf) (pc := 24) 0 dX1_sheetOf_24 rfl ?_
        refine x_fgr (μ := mu_x1_sheetOf) (pc := 25) fX1_4 (by first | exact Or.inl ⟨_, rfl⟩ | exact Or.inr ⟨_, rfl⟩) q649 dX1_sheetOf_25 hT1 ?_
        refine x_iload_n (μ := mu_x1_sheetOf) (pc := 28) 1 dX1_sheetOf_28 rfl ?_
        refine x_if (fun hT3 => ?_)
        refine x_aald (μ := mu_x1_sheetOf) (pc := 29) 4 (fun _ => rfl) rfl rfl dX1_sheetOf_29 hT3 rfl ?_
        refine x_if (fun hT4 => ?_)
        refine x_fgrN (μ := mu_x1_sheetOf) (pc := 30) fX10_0 (by first | exact Or.inl ⟨_, rfl⟩ | exact Or.inr ⟨_, rfl⟩) q600 dX1_sheetOf_30 hT4 ?_
        refine x_goto (μ := mu_x1_sheetOf) (pc := 33) (tgt := 37) dX1_sheetOf_33 rfl ?_
        exact x_aret (μ := mu_x1_sheetOf) (pc := 37) dX1_sheetOf_37 rfl (by first | exact Or.inl ⟨_, rfl⟩ | exact Or.inr ⟨_, rfl⟩) rfl (gRel_E.1 _) trivial
  · refine x_aload_n (μ := mu_x1_sheetOf) (pc := 5) 0 dX1_sheetOf_5 rfl ?_
    refine x_if (fun hT5 => ?_)
    refine x_fgr (μ := mu_x1_sheetOf) (pc := 6) fX1_8 (by first | exact Or.inl ⟨_, rfl⟩ | exact Or.inr ⟨_, rfl⟩) q653 dX1_sheetOf_6 hT5 ?_
    refine x_goto (μ := mu_x1_sheetOf) (pc := 9) (tgt := 37) dX1_sheetOf_9 rfl ?_
    exact x_aret (μ := mu_x1_sheetOf) (pc := 37) dX1_sheetOf_37 rfl (by first | exact Or.inl ⟨_, rfl⟩ | exact Or.inr ⟨_, rfl⟩) rfl (gRel_E.1 _) trivial
def x1_unsettled_l4_j27 (N : Nat) (σ : gMem) (v0 : Nat) (v2 : Int) (t0 : Int) (t1 : Int) (Kh : Int → Int → Option Int) (K : Int → Option Int) : Option Int := Kh (w32 (t1 + t0)) (w32 (v2 + 1))
set_option maxRecDepth 100000 in
theorem okj_x1_unsettled_l4_j27 {ω : gW} {l : Launch} {d : Nat} {N : Nat} {σ : gMem} {v0 : Nat} {v2 : Int} {t0 : Int} {t1 : Int} {Kh : Int → Int → Option Int} {K : Int → Option Int} (hl : l.stackTraces = false) (hdp : 0 ≤ d) (hv2 : g32 v2) (ht0 : g32 t0) (ht1 : g32 t1) (hKh : ∀ (v1 : Int) (v2 : Int) , g32 v1 → g32 v2 → GG (fun x : Int => (.inl (some (vI x)), σ)) gE ω l d mu_x1_unsettled σ 4 [(0, vR v0), (1, vI v1), (2, vI v2)] [] σ (Kh v1 v2)) (hK : ∀ (v1 : Int) , g32 v1 → GG (fun x : Int => (.inl (some (vI x)), σ)) gE ω l d mu_x1_unsettled σ 35 [(1, vI v1)] [] σ (K v1)) : GG (fun x : Int => (.inl (some (vI x)), σ)) gE ω l d mu_x1_unsettled σ 27 [(0, vR v0), (2, vI v2)] [vI t0, vI t1] σ (x1_unsettled_l4_j27 N σ v0 v2 t0 t1 Kh K ) := by
  unfold x1_unsettled_l4_j27
  refine x_iadd (μ := mu_x1_unsettled) (pc := 27) dX1_unsettled_27 ?_
  refine x_w1 ?_
  refine x_istore_n (μ := mu_x1_unsettled) (pc := 28) (lv' := [(1, vI (w32 (t1 + t0))), (0, vR v0), (2, vI v2)]) dX1_unsettled_28 rfl (by decide) rfl ?_
  refine x_iincw (μ := mu_x1_unsettled) (pc := 29) (lv' := [(2, vI (w32 (v2 + 1))), (1, vI (w32 (t1 + t0))), (0, vR v0)]) 2 dX1_unsettled_29 rfl (by decide) rfl ?_
  refine x_goto (μ := mu_x1_unsettled) (pc := 32) (tgt := 4) dX1_unsettled_32 rfl ?_
  refine x_loc (lv' := [(0, vR v0), (1, vI (w32 (t1 + t0))), (2, vI (w32 (v2 + 1)))]) [2, 1, 0] rfl ?_
  exact hKh (w32 (t1 + t0)) (w32 (v2 + 1)) (w32_rng _) (w32_rng _)
def x1_unsettled_l4 (N : Nat) (σ : gMem) (v0 : Nat) (K : Int → Option Int) : Nat → Int → Int → Option Int
  | 0, _, _ => none
  | n + 1, v1, v2 => if mT σ v0 = 1 then if mI σ v0 20 ≤ v2 then K v1 else if mT σ (mR σ v0 19) = 103 then if 0 ≤ v2 ∧ v2 < (mN σ (mR σ v0 19) : Int) then if mI σ (mR σ v0 19) v2.toNat = 0 then x1_unsettled_l4_j27 N σ v0 v2 1 v1 (x1_unsettled_l4 N σ v0 K n) K else x1_unsettled_l4_j27 N σ v0 v2 0 v1 (x1_unsettled_l4 N σ v0 K n) K else none else none else none
set_option maxRecDepth 100000 in
theorem okl_x1_unsettled_l4 {ω : gW} {l : Launch} {d : Nat} {N : Nat} {σ : gMem} {v0 : Nat} {K : Int → Option Int} (hl : l.stackTraces = false) (hdp : 0 ≤ d) (hK : ∀ (v1 : Int) , g32 v1 → GG (fun x : Int => (.inl (some (vI x)), σ)) gE ω l d mu_x1_unsettled σ 35 [(1, vI v1)] [] σ (K v1)) : ∀ (n : Nat) (v1 : Int) (v2 : Int) , g32 v1 → g32 v2 → GG (fun x : Int => (.inl (some (vI x)), σ)) gE ω l d mu_x1_unsettled σ 4 [(0, vR v0), (1, vI v1), (2, vI v2)] [] σ (x1_unsettled_l4 N σ v0 K n v1 v2) := by
  intro n
  induction n with
  | zero => intros; exact x_none
  | succ n ih =>
    intro v1 v2 hv1 hv2
    unfold x1_unsettled_l4
    refine x_iload_n (μ := mu_x1_unsettled) (pc := 4) 2 dX1_unsettled_4 rfl ?_
    refine x_aload_n (μ := mu_x1_unsettled) (pc := 5) 0 dX1_unsettled_5 rfl ?_
    refine x_if (fun hT1 => ?_)
    refine x_fgi (μ := mu_x1_unsettled) (pc := 6) fX1_20 q665 dX1_unsettled_6 hT1 (fun hr2 => ?_)
    refine x_icmp_ge (μ := mu_x1_unsettled) (pc := 9) (tgt := 35) dX1_unsettled_9 rfl hv2 hr2 ?_ ?_
    · refine x_loc (lv' := [(1, vI v1)]) [1] rfl ?_
      exact hK v1 hv1
    · refine x_iload_n (μ := mu_x1_unsettled) (pc := 12) 1 dX1_unsettled_12 rfl ?_
      refine x_aload_n (μ := mu_x1_unsettled) (pc := 13) 0 dX1_unsettled_13 rfl ?_
      refine x_fgr (μ := mu_x1_unsettled) (pc := 14) fX1_19 (by first | exact Or.inl ⟨_, rfl⟩ | exact Or.inr ⟨_, rfl⟩) q664 dX1_unsettled_14 hT1 ?_
      refine x_iload_n (μ := mu_x1_unsettled) (pc := 17) 2 dX1_unsettled_17 rfl ?_
      refine x_if (fun hT3 => ?_)
      refine x_zald (μ := mu_x1_unsettled) (pc := 18) dX1_unsettled_18 hT3 rfl (fun hr4 => ?_)
      refine x_if_eq (μ := mu_x1_unsettled) (pc := 19) (tgt := 26) dX1_unsettled_19 rfl hr4 ?_ ?_
      · refine x_iconst (μ := mu_x1_unsettled) (pc := 26) dX1_unsettled_26 ?_
        refine x_loc (lv' := [(0, vR v0), (2, vI v2)]) [0, 2] rfl ?_
        exact okj_x1_unsettled_l4_j27 hl hdp hv2 (by decide) hv1 ih hK
      · refine x_iconst (μ := mu_x1_unsettled) (pc := 22) dX1_unsettled_22 ?_
        refine x_goto (μ := mu_x1_unsettled) (pc := 23) (tgt := 27) dX1_unsettled_23 rfl ?_
        refine x_loc (lv' := [(0, vR v0), (2, vI v2)]) [0, 2] rfl ?_
        exact okj_x1_unsettled_l4_j27 hl hdp hv2 (by decide) hv1 ih hK
def x1_unsettled (N : Nat) (v0 : Nat) (σ : gMem) : Option Int := x1_unsettled_l4 N σ v0 (fun y5 => some y5) N 0 0
set_option maxRecDepth 100000 in
theorem ok_x1_unsettled {ω : gW} {l : Launch} {d : Nat} {N : Nat} {σ : gMem} {v0 : Nat} (hl : l.stackTraces = false) (hdp : 0 ≤ d) : gK (fun x : Int => (.inl (some (vI x)), σ)) gE ω l d mu_x1_unsettled [vR v0] σ (x1_unsettled N v0 σ) := by
  refine gK.of hp_X1 (Nat.le_of_ble_eq_true rfl) ?_
  unfold x1_unsettled
  refine x_iconst (μ := mu_x1_unsettled) (pc := 0) dX1_unsettled_0 ?_
  refine x_istore_n (μ := mu_x1_unsettled) (pc := 1) (lv' := [(1, vI 0), (0, vR v0)]) dX1_unsettled_1 rfl (by decide) rfl ?_
  refine x_iconst (μ := mu_x1_unsettled) (pc := 2) dX1_unsettled_2 ?_
  refine x_istore_n (μ := mu_x1_unsettled) (pc := 3) (lv' := [(2, vI 0), (1, vI 0), (0, vR v0)]) dX1_unsettled_3 rfl (by decide) rfl ?_
  refine x_loc (lv' := [(0, vR v0), (1, vI 0), (2, vI 0)]) [2, 1, 0] rfl ?_
  refine okl_x1_unsettled_l4 hl hdp (fun y5 hy5 => ?_) N 0 0 (by decide) (by decide)
  refine x_iload_n (μ := mu_x1_unsettled) (pc := 35) 0 dX1_unsettled_35 rfl ?_
  exact x_iret (μ := mu_x1_unsettled) (pc := 36) dX1_unsettled_36 rfl rfl (gRel_E.1 _) (show g32 y5 from hy5)
def x1_with (v0 : Nat) (v1 : Int) (v2 : Int) (σ : gMem) : Option (Nat × gMem) := if mT σ v0 = 100 then if 0 ≤ (w32 ((mN σ v0 : Int) + 1)) ∧ (w32 ((mN σ v0 : Int) + 1)) < 1000000 then gLet (wN σ 100 (w32 ((mN σ v0 : Int) + 1)).toNat) (fun s4 => if (0 ≤ (0 : Int) ∧ 0 ≤ (0 : Int) ∧ 0 ≤ v1) ∧ (0 : Int) + v1 ≤ (mN s4 v0 : Int) ∧ (0 : Int) + v1 ≤ (mN s4 (mZ σ) : Int) then gLet (wCI s4 v0 (0 : Int).toNat (mZ σ) (0 : Int).toNat v1.toNat) (fun s7 => if 0 ≤ v1 ∧ v1 < (mN s7 (mZ σ) : Int) then gLet (wI s7 (mZ σ) v1.toNat v2) (fun s9 => if (0 ≤ v1 ∧ 0 ≤ (w32 (v1 + 1)) ∧ 0 ≤ (w32 ((mN s9 v0 : Int) - v1))) ∧ v1 + (w32 ((mN s9 v0 : Int) - v1)) ≤ (mN s9 v0 : Int) ∧ (w32 (v1 + 1)) + (w32 ((mN s9 v0 : Int) - v1)) ≤ (mN s9 (mZ σ) : Int) then gLet (wCI s9 v0 v1.toNat (mZ σ) (w32 (v1 + 1)).toNat (w32 ((mN s9 v0 : Int) - v1)).toNat) (fun s12 => some (mZ σ, s12)) else none) else none) else none) else none else none
set_option maxRecDepth 100000 in
theorem ok_x1_with {ω : gW} {l : Launch} {d : Nat} {σ : gMem} {v0 : Nat} {v1 : Int} {v2 : Int} (hl : l.stackTraces = false) (hdp : 1 ≤ d) (hv1 : g32 v1) (hv2 : g32 v2) : gK (fun p : Nat × gMem => (.inl (some (vR p.1)), p.2)) gE ω l d mu_x1_with [vR v0, vI v1, vI v2] σ (x1_with v0 v1 v2 σ) := by
  refine gK.of hp_X1 (Nat.le_of_ble_eq_true rfl) ?_
  unfold x1_with
  refine x_aload_n (μ := mu_x1_with) (pc := 0) 0 dX1_with_0 rfl ?_
  refine x_if (fun hT1 => ?_)
  refine x_len (μ := mu_x1_with) (pc := 1) 0 (fun _ => rfl) dX1_with_1 hT1 ?_
  refine x_iconst (μ := mu_x1_with) (pc := 2) dX1_with_2 ?_
  refine x_iadd (μ := mu_x1_with) (pc := 3) dX1_with_3 ?_
  refine x_w1 ?_
  refine x_if (fun hg2 => ?_)
  refine x_ok (fun ok3 => ?_)
  refine x_newai (μ := mu_x1_with) (pc := 4) dX1_with_4 hg2 ?_
  refine x_let (fun s4 e5 => ?_)
  refine x_astore_n (μ := mu_x1_with) (pc := 6) (lv' := [(3, vR (mZ σ)), (0, vR v0), (1, vI v1), (2, vI v2)]) dX1_with_6 rfl (by decide) rfl ?_
  refine x_aload_n (μ := mu_x1_with) (pc := 7) 1 dX1_with_7 rfl ?_
  refine x_iconst (μ := mu_x1_with) (pc := 8) dX1_with_8 ?_
  refine x_aload_n (μ := mu_x1_with) (pc := 9) 0 dX1_with_9 rfl ?_
  refine x_iconst (μ := mu_x1_with) (pc := 10) dX1_with_10 ?_
  refine x_iload_n (μ := mu_x1_with) (pc := 11) 2 dX1_with_11 rfl ?_
  refine x_if (fun hg6 => ?_)
  refine x_copyI (μ := mu_x1_with) (pc := 12) q2225 dX1_with_12 (gT_N e5 ok3 hT1 (by decide)) (gT_new e5) hg6 (by omega) (Nat.le_of_ble_eq_true rfl) (fun _ q => gE_wCI q) ?_
  refine x_let (fun s7 e8 => ?_)
  refine x_aload_n (μ := mu_x1_with) (pc := 15) 0 dX1_with_15 rfl ?_
  refine x_iload_n (μ := mu_x1_with) (pc := 16) 2 dX1_with_16 rfl ?_
  refine x_iload_n (μ := mu_x1_with) (pc := 17) 3 dX1_with_17 rfl ?_
  refine x_iast (μ := mu_x1_with) (pc := 18) dX1_with_18 (gT_CI e8 (gT_new e5)) rfl (fun _ _ q => gE_wI q) ?_
  refine x_let (fun s9 e10 => ?_)
  refine x_aload_n (μ := mu_x1_with) (pc := 19) 1 dX1_with_19 rfl ?_
  refine x_iload_n (μ := mu_x1_with) (pc := 20) 2 dX1_with_20 rfl ?_
  refine x_aload_n (μ := mu_x1_with) (pc := 21) 0 dX1_with_21 rfl ?_
  refine x_iload_n (μ := mu_x1_with) (pc := 22) 2 dX1_with_22 rfl ?_
  refine x_iconst (μ := mu_x1_with) (pc := 23) dX1_with_23 ?_
  refine x_iadd (μ := mu_x1_with) (pc := 24) dX1_with_24 ?_
  refine x_aload_n (μ := mu_x1_with) (pc := 25) 1 dX1_with_25 rfl ?_
  refine x_len (μ := mu_x1_with) (pc := 26) 0 (fun _ => rfl) dX1_with_26 (gT_I e10 (gT_CI e8 (gT_N e5 ok3 hT1 (by decide)))) ?_
  refine x_iload_n (μ := mu_x1_with) (pc := 27) 2 dX1_with_27 rfl ?_
  refine x_isub (μ := mu_x1_with) (pc := 28) dX1_with_28 ?_
  refine x_w1 ?_
  refine x_w2 ?_
  refine x_if (fun hg11 => ?_)
  refine x_copyI (μ := mu_x1_with) (pc := 29) q2225 dX1_with_29 (gT_I e10 (gT_CI e8 (gT_N e5 ok3 hT1 (by decide)))) (gT_I e10 (gT_CI e8 (gT_new e5))) hg11 (by omega) (Nat.le_of_ble_eq_true rfl) (fun _ q => gE_wCI q) ?_
  refine x_let (fun s12 e13 => ?_)
  refine x_aload_n (μ := mu_x1_with) (pc := 32) 0 dX1_with_32 rfl ?_
  exact x_aret (μ := mu_x1_with) (pc := 33) dX1_with_33 rfl (by first | exact Or.inl ⟨_, rfl⟩ | exact Or.inr ⟨_, rfl⟩) rfl (gRel_E.1 _) trivial
def x1_without (v0 : Nat) (v1 : Int) (σ : gMem) : Option (Nat × gMem) := if mT σ v0 = 100 then if 0 ≤ (w32 ((mN σ v0 : Int) - 1)) ∧ (w32 ((mN σ v0 : Int) - 1)) < 1000000 then gLet (wN σ 100 (w32 ((mN σ v0 : Int) - 1)).toNat) (fun s4 => if (0 ≤ (0 : Int) ∧ 0 ≤ (0 : Int) ∧ 0 ≤ v1) ∧ (0 : Int) + v1 ≤ (mN s4 v0 : Int) ∧ (0 : Int) + v1 ≤ (mN s4 (mZ σ) : Int) then gLet (wCI s4 v0 (0 : Int).toNat (mZ σ) (0 : Int).toNat v1.toNat) (fun s7 => if (0 ≤ (w32 (v1 + 1)) ∧ 0 ≤ v1 ∧ 0 ≤ (w32 ((mN s7 (mZ σ) : Int) - v1))) ∧ (w32 (v1 + 1)) + (w32 ((mN s7 (mZ σ) : Int) - v1)) ≤ (mN s7 v0 : Int) ∧ v1 + (w32 ((mN s7 (mZ σ) : Int) - v1)) ≤ (mN s7 (mZ σ) : Int) then gLet (wCI s7 v0 (w32 (v1 + 1)).toNat (mZ σ) v1.toNat (w32 ((mN s7 (mZ σ) : Int) - v1)).toNat) (fun s10 => some (mZ σ, s10)) else none) else none) else none else none
set_option maxRecDepth 100000 in
theorem ok_x1_without {ω : gW} {l : Launch} {d : Nat} {σ : gMem} {v0 : Nat} {v1 : Int} (hl : l.stackTraces = false) (hdp : 1 ≤ d) (hv1 : g32 v1) : gK (fun p : Nat × gMem => (.inl (some (vR p.1)), p.2)) gE ω l d mu_x1_without [vR v0, vI v1] σ (x1_without v0 v1 σ) := by
  refine gK.of hp_X1 (Nat.le_of_ble_eq_true rfl) ?_
  unfold x1_without
  refine x_aload_n (μ := mu_x1_without) (pc := 0) 0 dX1_without_0 rfl ?_
  refine x_if (fun hT1 => ?_)
  refine x_len (μ := mu_x1_without) (pc := 1) 0 (fun _ => rfl) dX1_without_1 hT1 ?_
  refine x_iconst (μ := mu_x1_without) (pc := 2) dX1_without_2 ?_
  refine x_isub (μ := mu_x1_without) (pc := 3) dX1_without_3 ?_
  refine x_w1 ?_
  refine x_if (fun hg2 => ?_)
  refine x_ok (fun ok3 => ?_)
  refine x_newai (μ := mu_x1_without) (pc := 4) dX1_without_4 hg2 ?_
  refine x_let (fun s4 e5 => ?_)
  refine x_astore_n (μ := mu_x1_without) (pc := 6) (lv' := [(2, vR (mZ σ)), (0, vR v0), (1, vI v1)]) dX1_without_6 rfl (by decide) rfl ?_
  refine x_aload_n (μ := mu_x1_without) (pc := 7) 1 dX1_without_7 rfl ?_
  refine x_iconst (μ := mu_x1_without) (pc := 8) dX1_without_8 ?_
  refine x_aload_n (μ := mu_x1_without) (pc := 9) 0 dX1_without_9 rfl ?_
  refine x_iconst (μ := mu_x1_without) (pc := 10) dX1_without_10 ?_
  refine x_iload_n (μ := mu_x1_without) (pc := 11) 2 dX1_without_11 rfl ?_
  refine x_if (fun hg6 => ?_)
  refine x_copyI (μ := mu_x1_without) (pc := 12) q2225 dX1_without_12 (gT_N e5 ok3 hT1 (by decide)) (gT_new e5) hg6 (by omega) (Nat.le_of_ble_eq_true rfl) (fun _ q => gE_wCI q) ?_
  refine x_let (fun s7 e8 => ?_)
  refine x_aload_n (μ := mu_x1_without) (pc := 15) 1 dX1_without_15 rfl ?_
  refine x_iload_n (μ := mu_x1_without) (pc := 16) 2 dX1_without_16 rfl ?_
  refine x_iconst (μ := mu_x1_without) (pc := 17) dX1_without_17 ?_
  refine x_iadd (μ := mu_x1_without) (pc := 18) dX1_without_18 ?_
  refine x_aload_n (μ := mu_x1_without) (pc := 19) 0 dX1_without_19 rfl ?_
  refine x_iload_n (μ := mu_x1_without) (pc := 20) 2 dX1_without_20 rfl ?_
  refine x_aload_n (μ := mu_x1_without) (pc := 21) 0 dX1_without_21 rfl ?_
  refine x_len (μ := mu_x1_without) (pc := 22) 0 (fun _ => rfl) dX1_without_22 (gT_CI e8 (gT_new e5)) ?_
  refine x_iload_n (μ := mu_x1_without) (pc := 23) 2 dX1_without_23 rfl ?_
  refine x_isub (μ := mu_x1_without) (pc := 24) dX1_without_24 ?_
  refine x_w1 ?_
  refine x_stk (st2 := [vI (w32 ((mN s7 (mZ σ) : Int) - v1)), vI v1, vR (mZ σ), vI (w32 (v1 + 1)), vR v0]) (by simp only [List.map_cons, gval_w32, gval_w64]) ?_
  refine x_if (fun hg9 => ?_)
  refine x_copyI (μ := mu_x1_without) (pc := 25) q2225 dX1_without_25 (gT_CI e8 (gT_N e5 ok3 hT1 (by decide))) (gT_CI e8 (gT_new e5)) hg9 (by omega) (Nat.le_of_ble_eq_true rfl) (fun _ q => gE_wCI q) ?_
  refine x_let (fun s10 e11 => ?_)
  refine x_aload_n (μ := mu_x1_without) (pc := 28) 0 dX1_without_28 rfl ?_
  exact x_aret (μ := mu_x1_without) (pc := 29) dX1_without_29 rfl (by first | exact Or.inl ⟨_, rfl⟩ | exact Or.inr ⟨_, rfl⟩) rfl (gRel_E.1 _) trivial
def x1_rankOf (v0 : Int) (σ : gMem) : Option Int := if v0 ≠ 1 then if v0 ≠ 2 then if v0 ≠ 3 then if v0 ≠ 4 then some 4 else some 3 else some 2 else some 1 else some 0
set_option maxRecDepth 100000 in
theorem ok_x1_rankOf {ω : gW} {l : Launch} {d : Nat} {σ : gMem} {v0 : Int} (hl : l.stackTraces = false) (hdp : 0 ≤ d) (hv0 : g32 v0) : gK (fun x : Int => (.inl (some (vI x)), σ)) gE ω l d mu_x1_rankOf [vI v0] σ (x1_rankOf v0 σ) := by
  refine gK.of hp_X1 (Nat.le_of_ble_eq_true rfl) ?_
  unfold x1_rankOf
  refine x_iload_n (μ := mu_x1_rankOf) (pc := 0) 0 dX1_rankOf_0 rfl ?_
  refine x_iconst (μ := mu_x1_rankOf) (pc := 1) dX1_rankOf_1 ?_
  refine x_icmp_ne (μ := mu_x1_rankOf) (pc := 2) (tgt := 9) dX1_rankOf_2 rfl hv0 (by decide) ?_ ?_
  · refine x_iload_n (μ := mu_x1_rankOf) (pc := 9) 0 dX1_rankOf_9 rfl ?_
    refine x_iconst (μ := mu_x1_rankOf) (pc := 10) dX1_rankOf_10 ?_
    refine x_icmp_ne (μ := mu_x1_rankOf) (pc := 11) (tgt := 18) dX1_rankOf_11 rfl hv0 (by decide) ?_ ?_
    · refine x_iload_n (μ := mu_x1_rankOf) (pc := 18) 0 dX1_rankOf_18 rfl ?_
      refine x_iconst (μ := mu_x1_rankOf) (pc := 19) dX1_rankOf_19 ?_
      refine x_icmp_ne (μ := mu_x1_rankOf) (pc := 20) (tgt := 27) dX1_rankOf_20 rfl hv0 (by decide) ?_ ?_
      · refine x_iload_n (μ := mu_x1_rankOf) (pc := 27) 0 dX1_rankOf_27 rfl ?_
        refine x_iconst (μ := mu_x1_rankOf) (pc := 28) dX1_rankOf_28 ?_
        refine x_icmp_ne (μ := mu_x1_rankOf) (pc := 29) (tgt := 36) dX1_rankOf_29 rfl hv0 (by decide) ?_ ?_
        · refine x_iconst (μ := mu_x1_rankOf) (pc := 36) dX1_rankOf_36 ?_
          exact x_iret (μ := mu_x1_rankOf) (pc := 37) dX1_rankOf_37 rfl rfl (gRel_E.1 _) (show g32 4 from (by decide))
        · refine x_iconst (μ := mu_x1_rankOf) (pc := 32) dX1_rankOf_32 ?_
          refine x_goto (μ := mu_x1_rankOf) (pc := 33) (tgt := 37) dX1_rankOf_33 rfl ?_
          exact x_iret (μ := mu_x1_rankOf) (pc := 37) dX1_rankOf_37 rfl rfl (gRel_E.1 _) (show g32 3 from (by decide))
      · refine x_iconst (μ := mu_x1_rankOf) (pc := 23) dX1_rankOf_23 ?_
        refine x_goto (μ := mu_x1_rankOf) (pc := 24) (tgt := 37) dX1_rankOf_24 rfl ?_
        exact x_iret (μ := mu_x1_rankOf) (pc := 37) dX1_rankOf_37 rfl rfl (gRel_E.1 _) (show g32 2 from (by decide))
    · refine x_iconst (μ := mu_x1_rankOf) (pc := 14) dX1_rankOf_14 ?_
      refine x_goto (μ := mu_x1_rankOf) (pc := 15) (tgt := 37) dX1_rankOf_15 rfl ?_
      exact x_iret (μ := mu_x1_rankOf) (pc := 37) dX1_rankOf_37 rfl rfl (gRel_E.1 _) (show g32 1 from (by decide))
  · refine x_iconst (μ := mu_x1_rankOf) (pc := 5) dX1_rankOf_5 ?_
    refine x_goto (μ := mu_x1_rankOf) (pc := 6) (tgt := 37) dX1_rankOf_6 rfl ?_
    exact x_iret (μ := mu_x1_rankOf) (pc := 37) dX1_rankOf_37 rfl rfl (gRel_E.1 _) (show g32 0 from (by decide))
def x1_undo (v0 : Nat) (σ : gMem) : Option gR := if mT σ v0 = 1 then if mI σ v0 13 ≠ 0 then if mT σ (mR σ v0 12) = 105 then if mR σ v0 8 = 0 ∨ gAsg 5 (mT σ (mR σ v0 8)) = true then if 0 ≤ (mI σ v0 14) ∧ (mI σ v0 14) < (mN σ (mR σ v0 12) : Int) then gLet (wR σ (mR σ v0 12) (mI σ v0 14).toNat (mR σ v0 8)) (fun s6 => gLet (wI s6 v0 14 (w32 ((mI s6 v0 14) + 1))) (fun s9 => gLet (wI s9 v0 13 (w32 ((mI s9 v0 13) - 1))) (fun s12 => if mT s12 (mR s12 v0 11) = 105 then if 0 ≤ (mI s12 v0 13) ∧ (mI s12 v0 13) < (mN s12 (mR s12 v0 11) : Int) then gLet (wR s12 v0 8 (mR s12 (mR s12 v0 11) (mI s12 v0 13).toNat)) (fun s16 => gLet (wI s16 v0 10 0) (fun s18 => some (.inl (some (vI (mI s18 v0 13))), s18))) else none else none))) else none else none else none else some (.inr "java/util/NoSuchElementException", wX σ 6) else none
set_option maxRecDepth 100000 in
theorem ok_x1_undo {ω : gW} {l : Launch} {d : Nat} {σ : gMem} {v0 : Nat} (hl : l.stackTraces = false) (hdp : 8 ≤ d) : gK (fun p : gR => p) gE ω l d mu_x1_undo [vR v0] σ (x1_undo v0 σ) := by
  refine gK.of hp_X1 (Nat.le_of_ble_eq_true rfl) ?_
  unfold x1_undo
  refine x_aload_n (μ := mu_x1_undo) (pc := 0) 0 dX1_undo_0 rfl ?_
  refine x_if (fun hT1 => ?_)
  refine x_fgi (μ := mu_x1_undo) (pc := 1) fX1_13 q658 dX1_undo_1 hT1 (fun hr2 => ?_)
  refine x_if_ne (μ := mu_x1_undo) (pc := 4) (tgt := 15) dX1_undo_4 rfl hr2 ?_ ?_
  · refine x_aload_n (μ := mu_x1_undo) (pc := 15) 0 dX1_undo_15 rfl ?_
    refine x_fgr (μ := mu_x1_undo) (pc := 16) fX1_12 (by first | exact Or.inl ⟨_, rfl⟩ | exact Or.inr ⟨_, rfl⟩) q657 dX1_undo_16 hT1 ?_
    refine x_aload_n (μ := mu_x1_undo) (pc := 19) 0 dX1_undo_19 rfl ?_
    refine x_fgi (μ := mu_x1_undo) (pc := 20) fX1_14 q659 dX1_undo_20 hT1 (fun hr3 => ?_)
    refine x_aload_n (μ := mu_x1_undo) (pc := 23) 0 dX1_undo_23 rfl ?_
    refine x_fgr (μ := mu_x1_undo) (pc := 24) fX1_8 (by first | exact Or.inl ⟨_, rfl⟩ | exact Or.inr ⟨_, rfl⟩) q653 dX1_undo_24 hT1 ?_
    refine x_if (fun hT4 => ?_)
    refine x_if (fun hz5 => ?_)
    refine x_aast (μ := mu_x1_undo) (pc := 27) 5 ⟨fun _ => rfl, rfl, rfl⟩ dX1_undo_27 hT4 rfl hz5 (fun _ _ q => gE_wR q) ?_
    refine x_let (fun s6 e7 => ?_)
    refine x_aload_n (μ := mu_x1_undo) (pc := 28) 0 dX1_undo_28 rfl ?_
    refine x_dup (μ := mu_x1_undo) (pc := 29) dX1_undo_29 rfl ?_
    refine x_fgi (μ := mu_x1_undo) (pc := 30) fX1_14 q659 dX1_undo_30 (gT_R e7 hT1) (fun hr8 => ?_)
    refine x_iconst (μ := mu_x1_undo) (pc := 33) dX1_undo_33 ?_
    refine x_iadd (μ := mu_x1_undo) (pc := 34) dX1_undo_34 ?_
    refine x_w1 ?_
    refine x_fpi (μ := mu_x1_undo) (pc := 35) fX1_14 q659 dX1_undo_35 (gT_R e7 hT1) (fun _ q => gE_wI q) ?_
    refine x_let (fun s9 e10 => ?_)
    refine x_aload_n (μ := mu_x1_undo) (pc := 38) 0 dX1_undo_38 rfl ?_
    refine x_dup (μ := mu_x1_undo) (pc := 39) dX1_undo_39 rfl ?_
    refine x_fgi (μ := mu_x1_undo) (pc := 40) fX1_13 q658 dX1_undo_40 (gT_I e10 (gT_R e7 hT1)) (fun hr11 => ?_)
    refine x_iconst (μ := mu_x1_undo) (pc := 43) dX1_undo_43 ?_
    refine x_isub (μ := mu_x1_undo) (pc := 44) dX1_undo_44 ?_
    refine x_w1 ?_
    refine x_fpi (μ := mu_x1_undo) (pc := 45) fX1_13 q658 dX1_undo_45 (gT_I e10 (gT_R e7 hT1)) (fun _ q => gE_wI q) ?_
    refine x_let (fun s12 e13 => ?_)
    refine x_aload_n (μ := mu_x1_undo) (pc := 48) 0 dX1_undo_48 rfl ?_
    refine x_aload_n (μ := mu_x1_undo) (pc := 49) 0 dX1_undo_49 rfl ?_
    refine x_fgr (μ := mu_x1_undo) (pc := 50) fX1_11 (by first | exact Or.inl ⟨_, rfl⟩ | exact Or.inr ⟨_, rfl⟩) q656 dX1_undo_50 (gT_I e13 (gT_I e10 (gT_R e7 hT1))) ?_
    refine x_aload_n (μ := mu_x1_undo) (pc := 53) 0 dX1_undo_53 rfl ?_
    refine x_fgi (μ := mu_x1_undo) (pc := 54) fX1_13 q658 dX1_undo_54 (gT_I e13 (gT_I e10 (gT_R e7 hT1))) (fun hr14 => ?_)
    refine x_if (fun hT15 => ?_)
    refine x_aald (μ := mu_x1_undo) (pc := 57) 5 (fun _ => rfl) rfl rfl dX1_undo_57 hT15 rfl ?_
    refine x_fpr (μ := mu_x1_undo) (pc := 58) fX1_8 q653 (by first | exact Or.inl ⟨_, rfl⟩ | exact Or.inr ⟨_, rfl⟩) dX1_undo_58 (gT_I e13 (gT_I e10 (gT_R e7 hT1))) (fun _ q => gE_wR q) ?_
    refine x_let (fun s16 e17 => ?_)
    refine x_aload_n (μ := mu_x1_undo) (pc := 61) 0 dX1_undo_61 rfl ?_
    refine x_iconst (μ := mu_x1_undo) (pc := 62) dX1_undo_62 ?_
    refine x_fpz (μ := mu_x1_undo) (pc := 63) fX1_10 q655 (by decide) dX1_undo_63 (gT_R e17 (gT_I e13 (gT_I e10 (gT_R e7 hT1)))) (fun _ q => gE_wI q) ?_
    refine x_let (fun s18 e19 => ?_)
    refine x_aload_n (μ := mu_x1_undo) (pc := 66) 0 dX1_undo_66 rfl ?_
    refine x_fgi (μ := mu_x1_undo) (pc := 67) fX1_13 q658 dX1_undo_67 (gT_I e19 (gT_R e17 (gT_I e13 (gT_I e10 (gT_R e7 hT1))))) (fun hr20 => ?_)
    exact x_iret (μ := mu_x1_undo) (pc := 70) (a1 := ((.inl (some (vI (mI s18 v0 13))), s18) : gR)) dX1_undo_70 rfl rfl (gRel_E.1 _) (show g32 (mI s18 v0 13) from hr20)
  · exact x_throw0 (μ := mu_x1_undo) (pc := 7) hl gex_NoSuchElementException (by decide) rfl q2397 q265 dX1_undo_7 dX1_undo_10 dX1_undo_11 dX1_undo_14 (by decide) (by omega) (Nat.le_of_ble_eq_true rfl)
def x1_redo (v0 : Nat) (σ : gMem) : Option gR := if mT σ v0 = 1 then if mI σ v0 14 ≠ 0 then if mT σ (mR σ v0 11) = 105 then if mR σ v0 8 = 0 ∨ gAsg 5 (mT σ (mR σ v0 8)) = true then if 0 ≤ (mI σ v0 13) ∧ (mI σ v0 13) < (mN σ (mR σ v0 11) : Int) then gLet (wR σ (mR σ v0 11) (mI σ v0 13).toNat (mR σ v0 8)) (fun s6 => gLet (wI s6 v0 13 (w32 ((mI s6 v0 13) + 1))) (fun s9 => gLet (wI s9 v0 14 (w32 ((mI s9 v0 14) - 1))) (fun s12 => if mT s12 (mR s12 v0 12) = 105 then if 0 ≤ (mI s12 v0 14) ∧ (mI s12 v0 14) < (mN s12 (mR s12 v0 12) : Int) then gLet (wR s12 v0 8 (mR s12 (mR s12 v0 12) (mI s12 v0 14).toNat)) (fun s16 => gLet (wI s16 v0 10 0) (fun s18 => some (.inl (some (vI (mI s18 v0 14))), s18))) else none else none))) else none else none else none else some (.inr "java/util/NoSuchElementException", wX σ 6) else none
set_option maxRecDepth 100000 in
theorem ok_x1_redo {ω : gW} {l : Launch} {d : Nat} {σ : gMem} {v0 : Nat} (hl : l.stackTraces = false) (hdp : 8 ≤ d) : gK (fun p : gR => p) gE ω l d mu_x1_redo [vR v0] σ (x1_redo v0 σ) := by
  refine gK.of hp_X1 (Nat.le_of_ble_eq_true rfl) ?_
  unfold x1_redo
  refine x_aload_n (μ := mu_x1_redo) (pc := 0) 0 dX1_redo_0 rfl ?_
  refine x_if (fun hT1 => ?_)
  refine x_fgi (μ := mu_x1_redo) (pc := 1) fX1_14 q659 dX1_redo_1 hT1 (fun hr2 => ?_)
  refine x_if_ne (μ := mu_x1_redo) (pc := 4) (tgt := 15) dX1_redo_4 rfl hr2 ?_ ?_
  · refine x_aload_n (μ := mu_x1_redo) (pc := 15) 0 dX1_redo_15 rfl ?_
    refine x_fgr (μ := mu_x1_redo) (pc := 16) fX1_11 (by first | exact Or.inl ⟨_, rfl⟩ | exact Or.inr ⟨_, rfl⟩) q656 dX1_redo_16 hT1 ?_
    refine x_aload_n (μ := mu_x1_redo) (pc := 19) 0 dX1_redo_19 rfl ?_
    refine x_fgi (μ := mu_x1_redo) (pc := 20) fX1_13 q658 dX1_redo_20 hT1 (fun hr3 => ?_)
    refine x_aload_n (μ := mu_x1_redo) (pc := 23) 0 dX1_redo_23 rfl ?_
    refine x_fgr (μ := mu_x1_redo) (pc := 24) fX1_8 (by first | exact Or.inl ⟨_, rfl⟩ | exact Or.inr ⟨_, rfl⟩) q653 dX1_redo_24 hT1 ?_
    refine x_if (fun hT4 => ?_)
    refine x_if (fun hz5 => ?_)
    refine x_aast (μ := mu_x1_redo) (pc := 27) 5 ⟨fun _ => rfl, rfl, rfl⟩ dX1_redo_27 hT4 rfl hz5 (fun _ _ q => gE_wR q) ?_
    refine x_let (fun s6 e7 => ?_)
    refine x_aload_n (μ := mu_x1_redo) (pc := 28) 0 dX1_redo_28 rfl ?_
    refine x_dup (μ := mu_x1_redo) (pc := 29) dX1_redo_29 rfl ?_
    refine x_fgi (μ := mu_x1_redo) (pc := 30) fX1_13 q658 dX1_redo_30 (gT_R e7 hT1) (fun hr8 => ?_)
    refine x_iconst (μ := mu_x1_redo) (pc := 33) dX1_redo_33 ?_
    refine x_iadd (μ := mu_x1_redo) (pc := 34) dX1_redo_34 ?_
    refine x_w1 ?_
    refine x_fpi (μ := mu_x1_redo) (pc := 35) fX1_13 q658 dX1_redo_35 (gT_R e7 hT1) (fun _ q => gE_wI q) ?_
    refine x_let (fun s9 e10 => ?_)
    refine x_aload_n (μ := mu_x1_redo) (pc := 38) 0 dX1_redo_38 rfl ?_
    refine x_dup (μ := mu_x1_redo) (pc := 39) dX1_redo_39 rfl ?_
    refine x_fgi (μ := mu_x1_redo) (pc := 40) fX1_14 q659 dX1_redo_40 (gT_I e10 (gT_R e7 hT1)) (fun hr11 => ?_)
    refine x_iconst (μ := mu_x1_redo) (pc := 43) dX1_redo_43 ?_
    refine x_isub (μ := mu_x1_redo) (pc := 44) dX1_redo_44 ?_
    refine x_w1 ?_
    refine x_fpi (μ := mu_x1_redo) (pc := 45) fX1_14 q659 dX1_redo_45 (gT_I e10 (gT_R e7 hT1)) (fun _ q => gE_wI q) ?_
    refine x_let (fun s12 e13 => ?_)
    refine x_aload_n (μ := mu_x1_redo) (pc := 48) 0 dX1_redo_48 rfl ?_
    refine x_aload_n (μ := mu_x1_redo) (pc := 49) 0 dX1_redo_49 rfl ?_
    refine x_fgr (μ := mu_x1_redo) (pc := 50) fX1_12 (by first | exact Or.inl ⟨_, rfl⟩ | exact Or.inr ⟨_, rfl⟩) q657 dX1_redo_50 (gT_I e13 (gT_I e10 (gT_R e7 hT1))) ?_
    refine x_aload_n (μ := mu_x1_redo) (pc := 53) 0 dX1_redo_53 rfl ?_
    refine x_fgi (μ := mu_x1_redo) (pc := 54) fX1_14 q659 dX1_redo_54 (gT_I e13 (gT_I e10 (gT_R e7 hT1))) (fun hr14 => ?_)
    refine x_if (fun hT15 => ?_)
    refine x_aald (μ := mu_x1_redo) (pc := 57) 5 (fun _ => rfl) rfl rfl dX1_redo_57 hT15 rfl ?_
    refine x_fpr (μ := mu_x1_redo) (pc := 58) fX1_8 q653 (by first | exact Or.inl ⟨_, rfl⟩ | exact Or.inr ⟨_, rfl⟩) dX1_redo_58 (gT_I e13 (gT_I e10 (gT_R e7 hT1))) (fun _ q => gE_wR q) ?_
    refine x_let (fun s16 e17 => ?_)
    refine x_aload_n (μ := mu_x1_redo) (pc := 61) 0 dX1_redo_61 rfl ?_
    refine x_iconst (μ := mu_x1_redo) (pc := 62) dX1_redo_62 ?_
    refine x_fpz (μ := mu_x1_redo) (pc := 63) fX1_10 q655 (by decide) dX1_redo_63 (gT_R e17 (gT_I e13 (gT_I e10 (gT_R e7 hT1)))) (fun _ q => gE_wI q) ?_
    refine x_let (fun s18 e19 => ?_)
    refine x_aload_n (μ := mu_x1_redo) (pc := 66) 0 dX1_redo_66 rfl ?_
    refine x_fgi (μ := mu_x1_redo) (pc := 67) fX1_14 q659 dX1_redo_67 (gT_I e19 (gT_R e17 (gT_I e13 (gT_I e10 (gT_R e7 hT1))))) (fun hr20 => ?_)
    exact x_iret (μ := mu_x1_redo) (pc := 70) (a1 := ((.inl (some (vI (mI s18 v0 14))), s18) : gR)) dX1_redo_70 rfl rfl (gRel_E.1 _) (show g32 (mI s18 v0 14) from hr20)
  · exact x_throw0 (μ := mu_x1_redo) (pc := 7) hl gex_NoSuchElementException (by decide) rfl q2397 q265 dX1_redo_7 dX1_redo_10 dX1_redo_11 dX1_redo_14 (by decide) (by omega) (Nat.le_of_ble_eq_true rfl)
def x1_isBranch (v0 : Int) (σ : gMem) : Option Int := if v0 < 0 then some 0 else if 6 ≤ v0 then some 0 else some 1
set_option maxRecDepth 100000 in
theorem ok_x1_isBranch {ω : gW} {l : Launch} {d : Nat} {σ : gMem} {v0 : Int} (hl : l.stackTraces = false) (hdp : 0 ≤ d) (hv0 : g32 v0) : gK (fun x : Int => (.inl (some (vI x)), σ)) gE ω l d mu_x1_isBranch [vI v0] σ (x1_isBranch v0 σ) := by
  refine gK.of hp_X1 (Nat.le_of_ble_eq_true rfl) ?_
  unfold x1_isBranch
  refine x_iload_n (μ := mu_x1_isBranch) (pc := 0) 0 dX1_isBranch_0 rfl ?_
  refine x_if_lt (μ := mu_x1_isBranch) (pc := 1) (tgt := 14) dX1_isBranch_1 rfl hv0 ?_ ?_
  · refine x_iconst (μ := mu_x1_isBranch) (pc := 14) dX1_isBranch_14 ?_
    exact x_zret (μ := mu_x1_isBranch) (pc := 15) dX1_isBranch_15 rfl (by decide) rfl (gRel_E.1 _) (show g32 0 from (by decide))
  · refine x_iload_n (μ := mu_x1_isBranch) (pc := 4) 0 dX1_isBranch_4 rfl ?_
    refine x_bipush (μ := mu_x1_isBranch) (pc := 5) dX1_isBranch_5 (by decide) ?_
    refine x_icmp_ge (μ := mu_x1_isBranch) (pc := 7) (tgt := 14) dX1_isBranch_7 rfl hv0 (by decide) ?_ ?_
    · refine x_iconst (μ := mu_x1_isBranch) (pc := 14) dX1_isBranch_14 ?_
      exact x_zret (μ := mu_x1_isBranch) (pc := 15) dX1_isBranch_15 rfl (by decide) rfl (gRel_E.1 _) (show g32 0 from (by decide))
    · refine x_iconst (μ := mu_x1_isBranch) (pc := 10) dX1_isBranch_10 ?_
      refine x_goto (μ := mu_x1_isBranch) (pc := 11) (tgt := 15) dX1_isBranch_11 rfl ?_
      exact x_zret (μ := mu_x1_isBranch) (pc := 15) dX1_isBranch_15 rfl (by decide) rfl (gRel_E.1 _) (show g32 1 from (by decide))
def x1_isBusy (N : Nat) (v0 : Nat) (σ : gMem) : Option Int := if mT σ v0 = 1 then if mI σ v0 15 ≠ (-1) then some 1 else (x1_unsettled N v0 σ).bind (fun x3 => if x3 ≤ 0 then some 0 else some 1) else none
set_option maxRecDepth 100000 in
theorem ok_x1_isBusy {ω : gW} {l : Launch} {d : Nat} {N : Nat} {σ : gMem} {v0 : Nat} (hl : l.stackTraces = false) (hdp : 1 ≤ d) : gK (fun x : Int => (.inl (some (vI x)), σ)) gE ω l d mu_x1_isBusy [vR v0] σ (x1_isBusy N v0 σ) := by
  refine gK.of hp_X1 (Nat.le_of_ble_eq_true rfl) ?_
  unfold x1_isBusy
  refine x_aload_n (μ := mu_x1_isBusy) (pc := 0) 0 dX1_isBusy_0 rfl ?_
  refine x_if (fun hT1 => ?_)
  refine x_fgi (μ := mu_x1_isBusy) (pc := 1) fX1_15 q660 dX1_isBusy_1 hT1 (fun hr2 => ?_)
  refine x_iconst (μ := mu_x1_isBusy) (pc := 4) dX1_isBusy_4 ?_
  refine x_icmp_ne (μ := mu_x1_isBusy) (pc := 5) (tgt := 15) dX1_isBusy_5 rfl hr2 (by decide) ?_ ?_
  · refine x_iconst (μ := mu_x1_isBusy) (pc := 15) dX1_isBusy_15 ?_
    refine x_goto (μ := mu_x1_isBusy) (pc := 16) (tgt := 20) dX1_isBusy_16 rfl ?_
    exact x_zret (μ := mu_x1_isBusy) (pc := 20) dX1_isBusy_20 rfl (by decide) rfl (gRel_E.1 _) (show g32 1 from (by decide))
  · refine x_aload_n (μ := mu_x1_isBusy) (pc := 8) 0 dX1_isBusy_8 rfl ?_
    refine x_callV_pi (μ := mu_x1_isBusy) (pc := 9) (ok_x1_unsettled (ω := ω) (l := l) (d := d - 1) hl (by omega) ) gRel_E gRel_E (fun _ q => q) q1560 q1562 qs25 q221 q1563 dX1_isBusy_9 rfl hT1 hy_x1_unsettled (by omega) (Nat.le_of_ble_eq_true rfl) rfl (Nat.le_of_ble_eq_true rfl) (fun x3 hr4 => ?_)
    refine x_if_le (μ := mu_x1_isBusy) (pc := 12) (tgt := 19) dX1_isBusy_12 rfl hr4 ?_ ?_
    · refine x_iconst (μ := mu_x1_isBusy) (pc := 19) dX1_isBusy_19 ?_
      exact x_zret (μ := mu_x1_isBusy) (pc := 20) dX1_isBusy_20 rfl (by decide) rfl (gRel_E.1 _) (show g32 0 from (by decide))
    · refine x_iconst (μ := mu_x1_isBusy) (pc := 15) dX1_isBusy_15 ?_
      refine x_goto (μ := mu_x1_isBusy) (pc := 16) (tgt := 20) dX1_isBusy_16 rfl ?_
      exact x_zret (μ := mu_x1_isBusy) (pc := 20) dX1_isBusy_20 rfl (by decide) rfl (gRel_E.1 _) (show g32 1 from (by decide))
def x1_differ (v0 : Nat) (v1 : Int) (v2 : Int) (v3 : Int) (σ : gMem) : Option gMem := if mT σ v0 = 1 then if mT σ (mR σ v0 26) = 100 then if 0 ≤ (mI σ v0 29) ∧ (mI σ v0 29) < (mN σ (mR σ v0 26) : Int) then gLet (wI σ (mR σ v0 26) (mI σ v0 29).toNat v1) (fun s4 => if mT s4 (mR s4 v0 27) = 100 then if 0 ≤ (mI s4 v0 29) ∧ (mI s4 v0 29) < (mN s4 (mR s4 v0 27) : Int) then gLet (wI s4 (mR s4 v0 27) (mI s4 v0 29).toNat v2) (fun s8 => if mT s8 (mR s8 v0 28) = 100 then if 0 ≤ (mI s8 v0 29) ∧ (mI s8 v0 29) < (mN s8 (mR s8 v0 28) : Int) then gLet (wI s8 (mR s8 v0 28) (mI s8 v0 29).toNat v3) (fun s12 => gLet (wI s12 v0 29 (w32 ((mI s12 v0 29) + 1))) (fun s15 => some s15)) else none else none) else none else none) else none else none else none
set_option maxRecDepth 100000 in
theorem ok_x1_differ {ω : gW} {l : Launch} {d : Nat} {σ : gMem} {v0 : Nat} {v1 : Int} {v2 : Int} {v3 : Int} (hl : l.stackTraces = false) (hdp : 0 ≤ d) (hv1 : g32 v1) (hv2 : g32 v2) (hv3 : g32 v3) : gK (fun p : gMem => (.inl none, p)) gE ω l d mu_x1_differ [vR v0, vI v1, vI v2, vI v3] σ (x1_differ v0 v1 v2 v3 σ) := by
  refine gK.of hp_X1 (Nat.le_of_ble_eq_true rfl) ?_
  unfold x1_differ
  refine x_aload_n (μ := mu_x1_differ) (pc := 0) 0 dX1_differ_0 rfl ?_
  refine x_if (fun hT1 => ?_)
  refine x_fgr (μ := mu_x1_differ) (pc := 1) fX1_26 (by first | exact Or.inl ⟨_, rfl⟩ | exact Or.inr ⟨_, rfl⟩) q671 dX1_differ_1 hT1 ?_
  refine x_aload_n (μ := mu_x1_differ) (pc := 4) 0 dX1_differ_4 rfl ?_
  refine x_fgi (μ := mu_x1_differ) (pc := 5) fX1_29 q674 dX1_differ_5 hT1 (fun hr2 => ?_)
  refine x_iload_n (μ := mu_x1_differ) (pc := 8) 1 dX1_differ_8 rfl ?_
  refine x_if (fun hT3 => ?_)
  refine x_iast (μ := mu_x1_differ) (pc := 9) dX1_differ_9 hT3 rfl (fun _ _ q => gE_wI q) ?_
  refine x_let (fun s4 e5 => ?_)
  refine x_aload_n (μ := mu_x1_differ) (pc := 10) 0 dX1_differ_10 rfl ?_
  refine x_fgr (μ := mu_x1_differ) (pc := 11) fX1_27 (by first | exact Or.inl ⟨_, rfl⟩ | exact Or.inr ⟨_, rfl⟩) q672 dX1_differ_11 (gT_I e5 hT1) ?_
  refine x_aload_n (μ := mu_x1_differ) (pc := 14) 0 dX1_differ_14 rfl ?_
  refine x_fgi (μ := mu_x1_differ) (pc := 15) fX1_29 q674 dX1_differ_15 (gT_I e5 hT1) (fun hr6 => ?_)
  refine x_iload_n (μ := mu_x1_differ) (pc := 18) 2 dX1_differ_18 rfl ?_
  refine x_if (fun hT7 => ?_)
  refine x_iast (μ := mu_x1_differ) (pc := 19) dX1_differ_19 hT7 rfl (fun _ _ q => gE_wI q) ?_
  refine x_let (fun s8 e9 => ?_)
  refine x_aload_n (μ := mu_x1_differ) (pc := 20) 0 dX1_differ_20 rfl ?_
  refine x_fgr (μ := mu_x1_differ) (pc := 21) fX1_28 (by first | exact Or.inl ⟨_, rfl⟩ | exact Or.inr ⟨_, rfl⟩) q673 dX1_differ_21 (gT_I e9 (gT_I e5 hT1)) ?_
  refine x_aload_n (μ := mu_x1_differ) (pc := 24) 0 dX1_differ_24 rfl ?_
  refine x_fgi (μ := mu_x1_differ) (pc := 25) fX1_29 q674 dX1_differ_25 (gT_I e9 (gT_I e5 hT1)) (fun hr10 => ?_)
  refine x_iload_n (μ := mu_x1_differ) (pc := 28) 3 dX1_differ_28 rfl ?_
  refine x_if (fun hT11 => ?_)
  refine x_iast (μ := mu_x1_differ) (pc := 29) dX1_differ_29 hT11 rfl (fun _ _ q => gE_wI q) ?_
  refine x_let (fun s12 e13 => ?_)
  refine x_aload_n (μ := mu_x1_differ) (pc := 30) 0 dX1_differ_30 rfl ?_
  refine x_dup (μ := mu_x1_differ) (pc := 31) dX1_differ_31 rfl ?_
  refine x_fgi (μ := mu_x1_differ) (pc := 32) fX1_29 q674 dX1_differ_32 (gT_I e13 (gT_I e9 (gT_I e5 hT1))) (fun hr14 => ?_)
  refine x_iconst (μ := mu_x1_differ) (pc := 35) dX1_differ_35 ?_
  refine x_iadd (μ := mu_x1_differ) (pc := 36) dX1_differ_36 ?_
  refine x_w1 ?_
  refine x_fpi (μ := mu_x1_differ) (pc := 37) fX1_29 q674 dX1_differ_37 (gT_I e13 (gT_I e9 (gT_I e5 hT1))) (fun _ q => gE_wI q) ?_
  refine x_let (fun s15 e16 => ?_)
  exact x_vret (μ := mu_x1_differ) (pc := 40) (a1 := s15) dX1_differ_40 rfl rfl (gRel_E.1 _) trivial
def tw_copySheet_l26 (N : Nat) (h : Nat) (v1 : Int) (v2 : Int) (K : gMem → Option gMem) : Nat → Int → gMem → Option gMem
  | 0, _, _ => none
  | n + 1, v3, s => if 32 ≤ v3 then K s else if 0 ≤ ((32 * v1) + v3) ∧ ((32 * v1) + v3) < ((3904 : Nat) : Int) then if 0 ≤ ((32 * v2) + v3) ∧ ((32 * v2) + v3) < ((3904 : Nat) : Int) then gLet (wI s (h + 3) ((32 * v2) + v3).toNat (mI s (h + 3) ((32 * v1) + v3).toNat)) (fun s10 => tw_copySheet_l26 N h v1 v2 K n (w32 (v3 + 1)) s10) else none else none
set_option maxRecDepth 100000 in
theorem okl_tw_copySheet_l26 {ω : gW} {l : Launch} {d : Nat} {N : Nat} {h : Nat} {σ0 : gMem} {v1 : Int} {v2 : Int} {K : gMem → Option gMem} (hdp : 0 ≤ d) (hv1 : g32 v1) (hv2 : g32 v2) (hK : ∀ (s : gMem) , TM s h → GG (fun p : gMem => (.inl none, p)) gTw ω l d mu_tw_copySheet σ0 60 [(0, vR h), (1, vI v1), (2, vI v2)] [] s (K s)) : ∀ (n : Nat) (v3 : Int) (s : gMem) , g32 v3 → TM s h → GG (fun p : gMem => (.inl none, p)) gTw ω l d mu_tw_copySheet σ0 26 [(0, vR h), (1, vI v1), (2, vI v2), (3, vI v3)] [] s (tw_copySheet_l26 N h v1 v2 K n v3 s) := by
  intro n
  induction n with
  | zero => intros; exact x_none
  | succ n ih =>
    intro v3 s hv3 hM
    unfold tw_copySheet_l26
    refine x_iload_n (μ := mu_tw_copySheet) (pc := 26) 3 dX11_copySheet_26 rfl ?_
    refine x_bipush (μ := mu_tw_copySheet) (pc := 27) dX11_copySheet_27 (by decide) ?_
    refine x_icmp_ge (μ := mu_tw_copySheet) (pc := 29) (tgt := 60) dX11_copySheet_29 rfl hv3 (by decide) ?_ ?_
    · refine x_loc (lv' := [(0, vR h), (1, vI v1), (2, vI v2)]) [0, 1, 2] rfl ?_
      exact hK s hM
    · refine x_aload_n (μ := mu_tw_copySheet) (pc := 32) 0 dX11_copySheet_32 rfl ?_
      refine x_fgrE (μ := mu_tw_copySheet) (pc := 33) fX11_3 (Or.inr ⟨_, rfl⟩) q2639 (hM.a3).1 dX11_copySheet_33 hM.1 ?_
      refine x_bipush (μ := mu_tw_copySheet) (pc := 36) dX11_copySheet_36 (by decide) ?_
      refine x_iload_n (μ := mu_tw_copySheet) (pc := 38) 2 dX11_copySheet_38 rfl ?_
      refine x_imul (μ := mu_tw_copySheet) (pc := 39) dX11_copySheet_39 ?_
      refine x_iload_n (μ := mu_tw_copySheet) (pc := 40) 3 dX11_copySheet_40 rfl ?_
      refine x_iadd (μ := mu_tw_copySheet) (pc := 41) dX11_copySheet_41 ?_
      refine x_aload_n (μ := mu_tw_copySheet) (pc := 42) 0 dX11_copySheet_42 rfl ?_
      refine x_fgrE (μ := mu_tw_copySheet) (pc := 43) fX11_3 (Or.inr ⟨_, rfl⟩) q2639 (hM.a3).1 dX11_copySheet_43 hM.1 ?_
      refine x_bipush (μ := mu_tw_copySheet) (pc := 46) dX11_copySheet_46 (by decide) ?_
      refine x_iload_n (μ := mu_tw_copySheet) (pc := 48) 1 dX11_copySheet_48 rfl ?_
      refine x_imul (μ := mu_tw_copySheet) (pc := 49) dX11_copySheet_49 ?_
      refine x_iload_n (μ := mu_tw_copySheet) (pc := 50) 3 dX11_copySheet_50 rfl ?_
      refine x_iadd (μ := mu_tw_copySheet) (pc := 51) dX11_copySheet_51 ?_
      refine x_iald (μ := mu_tw_copySheet) (pc := 52) dX11_copySheet_52 (hM.a3).2.1 (hM.a3).2.2 (fun hr9 => ?_)
      refine x_iast (μ := mu_tw_copySheet) (pc := 53) dX11_copySheet_53 (hM.a3).2.1 (hM.a3).2.2 (fun _ _ q => gTw_wI q) ?_
      refine x_let (fun s10 e11 => ?_)
      have hM12 := TM.eI e11 hM
      refine x_iincw (μ := mu_tw_copySheet) (pc := 54) (lv' := [(3, vI (w32 (v3 + 1))), (0, vR h), (1, vI v1), (2, vI v2)]) 3 dX11_copySheet_54 rfl (by decide) rfl ?_
      refine x_goto (μ := mu_tw_copySheet) (pc := 57) (tgt := 26) dX11_copySheet_57 rfl ?_
      refine x_loc (lv' := [(0, vR h), (1, vI v1), (2, vI v2), (3, vI (w32 (v3 + 1)))]) [1, 2, 3, 0] rfl ?_
      exact ih (w32 (v3 + 1)) s10 (w32_rng _) hM12
def tw_copySheet_l62 (N : Nat) (h : Nat) (v1 : Int) (v2 : Int) (K : gMem → Option gMem) : Nat → Int → gMem → Option gMem
  | 0, _, _ => none
  | n + 1, v3, s => if 10 ≤ v3 then K s else if 0 ≤ ((10 * v1) + v3) ∧ ((10 * v1) + v3) < ((1220 : Nat) : Int) then if 0 ≤ ((10 * v2) + v3) ∧ ((10 * v2) + v3) < ((1220 : Nat) : Int) then gLet (wI s (h + 4) ((10 * v2) + v3).toNat (mI s (h + 4) ((10 * v1) + v3).toNat)) (fun s16 => tw_copySheet_l62 N h v1 v2 K n (w32 (v3 + 1)) s16) else none else none
set_option maxRecDepth 100000 in
theorem okl_tw_copySheet_l62 {ω : gW} {l : Launch} {d : Nat} {N : Nat} {h : Nat} {σ0 : gMem} {v1 : Int} {v2 : Int} {K : gMem → Option gMem} (hdp : 0 ≤ d) (hv1 : g32 v1) (hv2 : g32 v2) (hK : ∀ (s : gMem) , TM s h → GG (fun p : gMem => (.inl none, p)) gTw ω l d mu_tw_copySheet σ0 96 [(0, vR h), (1, vI v1), (2, vI v2)] [] s (K s)) : ∀ (n : Nat) (v3 : Int) (s : gMem) , g32 v3 → TM s h → GG (fun p : gMem => (.inl none, p)) gTw ω l d mu_tw_copySheet σ0 62 [(0, vR h), (1, vI v1), (2, vI v2), (3, vI v3)] [] s (tw_copySheet_l62 N h v1 v2 K n v3 s) := by
  intro n
  induction n with
  | zero => intros; exact x_none
  | succ n ih =>
    intro v3 s hv3 hM
    unfold tw_copySheet_l62
    refine x_iload_n (μ := mu_tw_copySheet) (pc := 62) 3 dX11_copySheet_62 rfl ?_
    refine x_bipush (μ := mu_tw_copySheet) (pc := 63) dX11_copySheet_63 (by decide) ?_
    refine x_icmp_ge (μ := mu_tw_copySheet) (pc := 65) (tgt := 96) dX11_copySheet_65 rfl hv3 (by decide) ?_ ?_
    · refine x_loc (lv' := [(0, vR h), (1, vI v1), (2, vI v2)]) [0, 1, 2] rfl ?_
      exact hK s hM
    · refine x_aload_n (μ := mu_tw_copySheet) (pc := 68) 0 dX11_copySheet_68 rfl ?_
      refine x_fgrE (μ := mu_tw_copySheet) (pc := 69) fX11_4 (Or.inr ⟨_, rfl⟩) q2640 (hM.a4).1 dX11_copySheet_69 hM.1 ?_
      refine x_bipush (μ := mu_tw_copySheet) (pc := 72) dX11_copySheet_72 (by decide) ?_
      refine x_iload_n (μ := mu_tw_copySheet) (pc := 74) 2 dX11_copySheet_74 rfl ?_
      refine x_imul (μ := mu_tw_copySheet) (pc := 75) dX11_copySheet_75 ?_
      refine x_iload_n (μ := mu_tw_copySheet) (pc := 76) 3 dX11_copySheet_76 rfl ?_
      refine x_iadd (μ := mu_tw_copySheet) (pc := 77) dX11_copySheet_77 ?_
      refine x_aload_n (μ := mu_tw_copySheet) (pc := 78) 0 dX11_copySheet_78 rfl ?_
      refine x_fgrE (μ := mu_tw_copySheet) (pc := 79) fX11_4 (Or.inr ⟨_, rfl⟩) q2640 (hM.a4).1 dX11_copySheet_79 hM.1 ?_
      refine x_bipush (μ := mu_tw_copySheet) (pc := 82) dX11_copySheet_82 (by decide) ?_
      refine x_iload_n (μ := mu_tw_copySheet) (pc := 84) 1 dX11_copySheet_84 rfl ?_
      refine x_imul (μ := mu_tw_copySheet) (pc := 85) dX11_copySheet_85 ?_
      refine x_iload_n (μ := mu_tw_copySheet) (pc := 86) 3 dX11_copySheet_86 rfl ?_
      refine x_iadd (μ := mu_tw_copySheet) (pc := 87) dX11_copySheet_87 ?_
      refine x_iald (μ := mu_tw_copySheet) (pc := 88) dX11_copySheet_88 (hM.a4).2.1 (hM.a4).2.2 (fun hr15 => ?_)
      refine x_iast (μ := mu_tw_copySheet) (pc := 89) dX11_copySheet_89 (hM.a4).2.1 (hM.a4).2.2 (fun _ _ q => gTw_wI q) ?_
      refine x_let (fun s16 e17 => ?_)
      have hM18 := TM.eI e17 hM
      refine x_iincw (μ := mu_tw_copySheet) (pc := 90) (lv' := [(3, vI (w32 (v3 + 1))), (0, vR h), (1, vI v1), (2, vI v2)]) 3 dX11_copySheet_90 rfl (by decide) rfl ?_
      refine x_goto (μ := mu_tw_copySheet) (pc := 93) (tgt := 62) dX11_copySheet_93 rfl ?_
      refine x_loc (lv' := [(0, vR h), (1, vI v1), (2, vI v2), (3, vI (w32 (v3 + 1)))]) [1, 2, 3, 0] rfl ?_
      exact ih (w32 (v3 + 1)) s16 (w32_rng _) hM18
def tw_copySheet_l98 (N : Nat) (h : Nat) (v1 : Int) (v2 : Int) (K : gMem → Option gMem) : Nat → Int → gMem → Option gMem
  | 0, _, _ => none
  | n + 1, v3, s => if 320 ≤ v3 then K s else if 0 ≤ ((320 * v1) + v3) ∧ ((320 * v1) + v3) < ((39040 : Nat) : Int) then if 0 ≤ ((320 * v2) + v3) ∧ ((320 * v2) + v3) < ((39040 : Nat) : Int) then gLet (wI s (h + 5) ((320 * v2) + v3).toNat (mI s (h + 5) ((320 * v1) + v3).toNat)) (fun s22 => tw_copySheet_l98 N h v1 v2 K n (w32 (v3 + 1)) s22) else none else none
set_option maxRecDepth 100000 in
theorem okl_tw_copySheet_l98 {ω : gW} {l : Launch} {d : Nat} {N : Nat} {h : Nat} {σ0 : gMem} {v1 : Int} {v2 : Int} {K : gMem → Option gMem} (hdp : 0 ≤ d) (hv1 : g32 v1) (hv2 : g32 v2) (hK : ∀ (s : gMem) , TM s h → GG (fun p : gMem => (.inl none, p)) gTw ω l d mu_tw_copySheet σ0 135 [(0, vR h), (2, vI v2)] [] s (K s)) : ∀ (n : Nat) (v3 : Int) (s : gMem) , g32 v3 → TM s h → GG (fun p : gMem => (.inl none, p)) gTw ω l d mu_tw_copySheet σ0 98 [(0, vR h), (1, vI v1), (2, vI v2), (3, vI v3)] [] s (tw_copySheet_l98 N h v1 v2 K n v3 s) := by
  intro n
  induction n with
  | zero => intros; exact x_none
  | succ n ih =>
    intro v3 s hv3 hM
    unfold tw_copySheet_l98
    refine x_iload_n (μ := mu_tw_copySheet) (pc := 98) 3 dX11_copySheet_98 rfl ?_
    refine x_sipush (μ := mu_tw_copySheet) (pc := 99) dX11_copySheet_99 (by decide) ?_
    refine x_icmp_ge (μ := mu_tw_copySheet) (pc := 102) (tgt := 135) dX11_copySheet_102 rfl hv3 (by decide) ?_ ?_
    · refine x_loc (lv' := [(0, vR h), (2, vI v2)]) [0, 2] rfl ?_
      exact hK s hM
    · refine x_aload_n (μ := mu_tw_copySheet) (pc := 105) 0 dX11_copySheet_105 rfl ?_
      refine x_fgrE (μ := mu_tw_copySheet) (pc := 106) fX11_5 (Or.inr ⟨_, rfl⟩) q2641 (hM.a5).1 dX11_copySheet_106 hM.1 ?_
      refine x_sipush (μ := mu_tw_copySheet) (pc := 109) dX11_copySheet_109 (by decide) ?_
      refine x_iload_n (μ := mu_tw_copySheet) (pc := 112) 2 dX11_copySheet_112 rfl ?_
      refine x_imul (μ := mu_tw_copySheet) (pc := 113) dX11_copySheet_113 ?_
      refine x_iload_n (μ := mu_tw_copySheet) (pc := 114) 3 dX11_copySheet_114 rfl ?_
      refine x_iadd (μ := mu_tw_copySheet) (pc := 115) dX11_copySheet_115 ?_
      refine x_aload_n (μ := mu_tw_copySheet) (pc := 116) 0 dX11_copySheet_116 rfl ?_
      refine x_fgrE (μ := mu_tw_copySheet) (pc := 117) fX11_5 (Or.inr ⟨_, rfl⟩) q2641 (hM.a5).1 dX11_copySheet_117 hM.1 ?_
      refine x_sipush (μ := mu_tw_copySheet) (pc := 120) dX11_copySheet_120 (by decide) ?_
      refine x_iload_n (μ := mu_tw_copySheet) (pc := 123) 1 dX11_copySheet_123 rfl ?_
      refine x_imul (μ := mu_tw_copySheet) (pc := 124) dX11_copySheet_124 ?_
      refine x_iload_n (μ := mu_tw_copySheet) (pc := 125) 3 dX11_copySheet_125 rfl ?_
      refine x_iadd (μ := mu_tw_copySheet) (pc := 126) dX11_copySheet_126 ?_
      refine x_iald (μ := mu_tw_copySheet) (pc := 127) dX11_copySheet_127 (hM.a5).2.1 (hM.a5).2.2 (fun hr21 => ?_)
      refine x_iast (μ := mu_tw_copySheet) (pc := 128) dX11_copySheet_128 (hM.a5).2.1 (hM.a5).2.2 (fun _ _ q => gTw_wI q) ?_
      refine x_let (fun s22 e23 => ?_)
      have hM24 := TM.eI e23 hM
      refine x_iincw (μ := mu_tw_copySheet) (pc := 129) (lv' := [(3, vI (w32 (v3 + 1))), (0, vR h), (1, vI v1), (2, vI v2)]) 3 dX11_copySheet_129 rfl (by decide) rfl ?_
      refine x_goto (μ := mu_tw_copySheet) (pc := 132) (tgt := 98) dX11_copySheet_132 rfl ?_
      refine x_loc (lv' := [(0, vR h), (1, vI v1), (2, vI v2), (3, vI (w32 (v3 + 1)))]) [1, 2, 3, 0] rfl ?_
      exact ih (w32 (v3 + 1)) s22 (w32_rng _) hM24
def tw_copySheet (N : Nat) (h : Nat) (v1 : Int) (v2 : Int) (σ : gMem) : Option gMem := if 0 ≤ v1 ∧ v1 < ((122 : Nat) : Int) then if 0 ≤ v2 ∧ v2 < ((122 : Nat) : Int) then gLet (wI σ (h + 1) v2.toNat (mI σ (h + 1) v1.toNat)) (fun s2 => if 0 ≤ v1 ∧ v1 < ((122 : Nat) : Int) then if 0 ≤ v2 ∧ v2 < ((122 : Nat) : Int) then gLet (wI s2 (h + 2) v2.toNat (mI s2 (h + 2) v1.toNat)) (fun s6 => tw_copySheet_l26 N h v1 v2 (fun s13 => tw_copySheet_l62 N h v1 v2 (fun s19 => tw_copySheet_l98 N h v1 v2 (fun s25 => if v2 ≠ 40 then some s25 else gLet (wI s25 h 65 0) (fun s27 => some s27)) N 0 s19) N 0 s13) N 0 s6) else none else none) else none else none
set_option maxRecDepth 100000 in
theorem ok_tw_copySheet {ω : gW} {l : Launch} {d : Nat} {N : Nat} {h : Nat} {σ : gMem} {v1 : Int} {v2 : Int} (hdp : 0 ≤ d) (hM : TM σ h) (hv1 : g32 v1) (hv2 : g32 v2) : gK (fun p : gMem => (.inl none, p)) gTw ω l d mu_tw_copySheet [vR h, vI v1, vI v2] σ (tw_copySheet N h v1 v2 σ) := by
  refine gK.of hp_X11 (Nat.le_of_ble_eq_true rfl) ?_
  unfold tw_copySheet
  refine x_aload_n (μ := mu_tw_copySheet) (pc := 0) 0 dX11_copySheet_0 rfl ?_
  refine x_fgrE (μ := mu_tw_copySheet) (pc := 1) fX11_1 (Or.inr ⟨_, rfl⟩) q2637 (hM.a1).1 dX11_copySheet_1 hM.1 ?_
  refine x_iload_n (μ := mu_tw_copySheet) (pc := 4) 2 dX11_copySheet_4 rfl ?_
  refine x_aload_n (μ := mu_tw_copySheet) (pc := 5) 0 dX11_copySheet_5 rfl ?_
  refine x_fgrE (μ := mu_tw_copySheet) (pc := 6) fX11_1 (Or.inr ⟨_, rfl⟩) q2637 (hM.a1).1 dX11_copySheet_6 hM.1 ?_
  refine x_iload_n (μ := mu_tw_copySheet) (pc := 9) 1 dX11_copySheet_9 rfl ?_
  refine x_iald (μ := mu_tw_copySheet) (pc := 10) dX11_copySheet_10 (hM.a1).2.1 (hM.a1).2.2 (fun hr1 => ?_)
  refine x_iast (μ := mu_tw_copySheet) (pc := 11) dX11_copySheet_11 (hM.a1).2.1 (hM.a1).2.2 (fun _ _ q => gTw_wI q) ?_
  refine x_let (fun s2 e3 => ?_)
  have hM4 := TM.eI e3 hM
  refine x_aload_n (μ := mu_tw_copySheet) (pc := 12) 0 dX11_copySheet_12 rfl ?_
  refine x_fgrE (μ := mu_tw_copySheet) (pc := 13) fX11_2 (Or.inr ⟨_, rfl⟩) q2638 (hM4.a2).1 dX11_copySheet_13 hM4.1 ?_
  refine x_iload_n (μ := mu_tw_copySheet) (pc := 16) 2 dX11_copySheet_16 rfl ?_
  refine x_aload_n (μ := mu_tw_copySheet) (pc := 17) 0 dX11_copySheet_17 rfl ?_
  refine x_fgrE (μ := mu_tw_copySheet) (pc := 18) fX11_2 (Or.inr ⟨_, rfl⟩) q2638 (hM4.a2).1 dX11_copySheet_18 hM4.1 ?_
  refine x_iload_n (μ := mu_tw_copySheet) (pc := 21) 1 dX11_copySheet_21 rfl ?_
  refine x_iald (μ := mu_tw_copySheet) (pc := 22) dX11_copySheet_22 (hM4.a2).2.1 (hM4.a2).2.2 (fun hr5 => ?_)
  refine x_iast (μ := mu_tw_copySheet) (pc := 23) dX11_copySheet_23 (hM4.a2).2.1 (hM4.a2).2.2 (fun _ _ q => gTw_wI q) ?_
  refine x_let (fun s6 e7 => ?_)
  have hM8 := TM.eI e7 hM4
  refine x_iconst (μ := mu_tw_copySheet) (pc := 24) dX11_copySheet_24 ?_
  refine x_istore_n (μ := mu_tw_copySheet) (pc := 25) (lv' := [(3, vI 0), (0, vR h), (1, vI v1), (2, vI v2)]) dX11_copySheet_25 rfl (by decide) rfl ?_
  refine x_loc (lv' := [(0, vR h), (1, vI v1), (2, vI v2), (3, vI 0)]) [1, 2, 3, 0] rfl ?_
  refine okl_tw_copySheet_l26 hdp hv1 hv2 (fun s13 hM14 => ?_) N 0 s6 (by decide) hM8
  refine x_iconst (μ := mu_tw_copySheet) (pc := 60) dX11_copySheet_60 ?_
  refine x_istore_n (μ := mu_tw_copySheet) (pc := 61) (lv' := [(3, vI 0), (0, vR h), (1, vI v1), (2, vI v2)]) dX11_copySheet_61 rfl (by decide) rfl ?_
  refine x_loc (lv' := [(0, vR h), (1, vI v1), (2, vI v2), (3, vI 0)]) [1, 2, 3, 0] rfl ?_
  refine okl_tw_copySheet_l62 hdp hv1 hv2 (fun s19 hM20 => ?_) N 0 s13 (by decide) hM14
  refine x_iconst (μ := mu_tw_copySheet) (pc := 96) dX11_copySheet_96 ?_
  refine x_istore_n (μ := mu_tw_copySheet) (pc := 97) (lv' := [(3, vI 0), (0, vR h), (1, vI v1), (2, vI v2)]) dX11_copySheet_97 rfl (by decide) rfl ?_
  refine x_loc (lv' := [(0, vR h), (1, vI v1), (2, vI v2), (3, vI 0)]) [1, 2, 3, 0] rfl ?_
  refine okl_tw_copySheet_l98 hdp hv1 hv2 (fun s25 hM26 => ?_) N 0 s19 (by decide) hM20
  refine x_iload_n (μ := mu_tw_copySheet) (pc := 135) 1 dX11_copySheet_135 rfl ?_
  refine x_bipush (μ := mu_tw_copySheet) (pc := 136) dX11_copySheet_136 (by decide) ?_
  refine x_icmp_ne (μ := mu_tw_copySheet) (pc := 138) (tgt := 146) dX11_copySheet_138 rfl hv2 (by decide) ?_ ?_
  · exact x_vret (μ := mu_tw_copySheet) (pc := 146) (a1 := s25) dX11_copySheet_146 rfl rfl (gRel_Tw.1 _) trivial
  · refine x_aload_n (μ := mu_tw_copySheet) (pc := 141) 0 dX11_copySheet_141 rfl ?_
    refine x_iconst (μ := mu_tw_copySheet) (pc := 142) dX11_copySheet_142 ?_
    refine x_fpz (μ := mu_tw_copySheet) (pc := 143) fX11_65 q2701 (by decide) dX11_copySheet_143 hM26.1 (fun _ q => gTw_wI q) ?_
    refine x_let (fun s27 e28 => ?_)
    have hM29 := TM.eI e28 hM26
    exact x_vret (μ := mu_tw_copySheet) (pc := 146) (a1 := s27) dX11_copySheet_146 rfl rfl (gRel_Tw.1 _) trivial
def tw_thrown (h : Nat) (σ : gMem) : Option Int := some (mI σ h 0)
set_option maxRecDepth 100000 in
theorem ok_tw_thrown {ω : gW} {l : Launch} {d : Nat} {h : Nat} {σ : gMem} (hdp : 0 ≤ d) (hM : TM σ h) : gK (fun x : Int => (.inl (some (vI x)), σ)) gTw ω l d mu_tw_thrown [vR h] σ (tw_thrown h σ) := by
  refine gK.of hp_X11 (Nat.le_of_ble_eq_true rfl) ?_
  unfold tw_thrown
  refine x_aload_n (μ := mu_tw_thrown) (pc := 0) 0 dX11_thrown_0 rfl ?_
  refine x_fgi (μ := mu_tw_thrown) (pc := 1) fX11_0 q2636 dX11_thrown_1 hM.1 (fun hr1 => ?_)
  exact x_iret (μ := mu_tw_thrown) (pc := 4) dX11_thrown_4 rfl rfl (gRel_Tw.1 _) (show g32 (mI σ h 0) from hr1)
def tw_throwing (h : Nat) (v1 : Int) (σ : gMem) : Option (Int × gMem) := gLet (wI σ h 0 v1) (fun s1 => some (0, s1))
set_option maxRecDepth 100000 in
theorem ok_tw_throwing {ω : gW} {l : Launch} {d : Nat} {h : Nat} {σ : gMem} {v1 : Int} (hdp : 0 ≤ d) (hM : TM σ h) (hv1 : g32 v1) : gK (fun p : Int × gMem => (.inl (some (vI p.1)), p.2)) gTw ω l d mu_tw_throwing [vR h, vI v1] σ (tw_throwing h v1 σ) := by
  refine gK.of hp_X11 (Nat.le_of_ble_eq_true rfl) ?_
  unfold tw_throwing
  refine x_aload_n (μ := mu_tw_throwing) (pc := 0) 0 dX11_throwing_0 rfl ?_
  refine x_iload_n (μ := mu_tw_throwing) (pc := 1) 1 dX11_throwing_1 rfl ?_
  refine x_fpi (μ := mu_tw_throwing) (pc := 2) fX11_0 q2636 dX11_throwing_2 hM.1 (fun _ q => gTw_wI q) ?_
  refine x_let (fun s1 e2 => ?_)
  have hM3 := TM.eI e2 hM
  refine x_iconst (μ := mu_tw_throwing) (pc := 5) dX11_throwing_5 ?_
  exact x_iret (μ := mu_tw_throwing) (pc := 6) dX11_throwing_6 rfl rfl (gRel_Tw.1 _) (show g32 0 from (by decide))
def tw_stepAt (h : Nat) (v1 : Int) (σ : gMem) : Option Int := some (w32 (41 + (Int.tmod (w32 ((mI σ h 15) + v1)) 40)))
set_option maxRecDepth 100000 in
theorem ok_tw_stepAt {ω : gW} {l : Launch} {d : Nat} {h : Nat} {σ : gMem} {v1 : Int} (hdp : 0 ≤ d) (hM : TM σ h) (hv1 : g32 v1) : gK (fun x : Int => (.inl (some (vI x)), σ)) gTw ω l d mu_tw_stepAt [vR h, vI v1] σ (tw_stepAt h v1 σ) := by
  refine gK.of hp_X11 (Nat.le_of_ble_eq_true rfl) ?_
  unfold tw_stepAt
  refine x_bipush (μ := mu_tw_stepAt) (pc := 0) dX11_stepAt_0 (by decide) ?_
  refine x_aload_n (μ := mu_tw_stepAt) (pc := 2) 0 dX11_stepAt_2 rfl ?_
  refine x_fgi (μ := mu_tw_stepAt) (pc := 3) fX11_15 q2651 dX11_stepAt_3 hM.1 (fun hr1 => ?_)
  refine x_iload_n (μ := mu_tw_stepAt) (pc := 6) 1 dX11_stepAt_6 rfl ?_
  refine x_iadd (μ := mu_tw_stepAt) (pc := 7) dX11_stepAt_7 ?_
  refine x_bipush (μ := mu_tw_stepAt) (pc := 8) dX11_stepAt_8 (by decide) ?_
  refine x_w2 ?_
  refine x_iremc (μ := mu_tw_stepAt) (pc := 10) dX11_stepAt_10 (w32_rng _) (by decide) (by decide) ?_
  refine x_iadd (μ := mu_tw_stepAt) (pc := 11) dX11_stepAt_11 ?_
  refine x_w1 ?_
  exact x_iret (μ := mu_tw_stepAt) (pc := 12) dX11_stepAt_12 rfl rfl (gRel_Tw.1 _) (show g32 (w32 (41 + (Int.tmod (w32 ((mI σ h 15) + v1)) 40))) from (w32_rng _))
def tw_redo (N : Nat) (h : Nat) (σ : gMem) : Option (Int × gMem) := gLet (wI σ h 0 0) (fun s1 => if mI s1 h 17 ≠ 0 then gLet (wI s1 h 16 (w32 ((mI s1 h 16) + 1))) (fun s6 => (tw_stepAt h (w32 ((mI s6 h 16) - 1)) s6).bind (fun x10 => (tw_copySheet N h 40 x10 s6).bind (fun x12 => gLet (wI x12 h 17 (w32 ((mI x12 h 17) - 1))) (fun s16 => (tw_copySheet N h (w32 (81 + (mI s16 h 17))) 40 s16).bind (fun x20 => some (mI x20 h 17, x20)))))) else (tw_throwing h 1 s1).bind (fun x24 => some (x24.1, x24.2)))
set_option maxRecDepth 100000 in
theorem ok_tw_redo {ω : gW} {l : Launch} {d : Nat} {N : Nat} {h : Nat} {σ : gMem} (hdp : 1 ≤ d) (hM : TM σ h) : gK (fun p : Int × gMem => (.inl (some (vI p.1)), p.2)) gTw ω l d mu_tw_redo [vR h] σ (tw_redo N h σ) := by
  refine gK.of hp_X11 (Nat.le_of_ble_eq_true rfl) ?_
  unfold tw_redo
  refine x_aload_n (μ := mu_tw_redo) (pc := 0) 0 dX11_redo_0 rfl ?_
  refine x_iconst (μ := mu_tw_redo) (pc := 1) dX11_redo_1 ?_
  refine x_fpi (μ := mu_tw_redo) (pc := 2) fX11_0 q2636 dX11_redo_2 hM.1 (fun _ q => gTw_wI q) ?_
  refine x_let (fun s1 e2 => ?_)
  have hM3 := TM.eI e2 hM
  refine x_aload_n (μ := mu_tw_redo) (pc := 5) 0 dX11_redo_5 rfl ?_
  refine x_fgi (μ := mu_tw_redo) (pc := 6) fX11_17 q2653 dX11_redo_6 hM3.1 (fun hr4 => ?_)
  refine x_if_ne (μ := mu_tw_redo) (pc := 9) (tgt := 18) dX11_redo_9 rfl hr4 ?_ ?_
  · refine x_aload_n (μ := mu_tw_redo) (pc := 18) 0 dX11_redo_18 rfl ?_
    refine x_dup (μ := mu_tw_redo) (pc := 19) dX11_redo_19 rfl ?_
    refine x_fgi (μ := mu_tw_redo) (pc := 20) fX11_16 q2652 dX11_redo_20 hM3.1 (fun hr5 => ?_)
    refine x_iconst (μ := mu_tw_redo) (pc := 23) dX11_redo_23 ?_
    refine x_iadd (μ := mu_tw_redo) (pc := 24) dX11_redo_24 ?_
    refine x_w1 ?_
    refine x_fpi (μ := mu_tw_redo) (pc := 25) fX11_16 q2652 dX11_redo_25 hM3.1 (fun _ q => gTw_wI q) ?_
    refine x_let (fun s6 e7 => ?_)
    have hM8 := TM.eI e7 hM3
    refine x_aload_n (μ := mu_tw_redo) (pc := 28) 0 dX11_redo_28 rfl ?_
    refine x_bipush (μ := mu_tw_redo) (pc := 29) dX11_redo_29 (by decide) ?_
    refine x_aload_n (μ := mu_tw_redo) (pc := 31) 0 dX11_redo_31 rfl ?_
    refine x_aload_n (μ := mu_tw_redo) (pc := 32) 0 dX11_redo_32 rfl ?_
    refine x_fgi (μ := mu_tw_redo) (pc := 33) fX11_16 q2652 dX11_redo_33 hM8.1 (fun hr9 => ?_)
    refine x_iconst (μ := mu_tw_redo) (pc := 36) dX11_redo_36 ?_
    refine x_isub (μ := mu_tw_redo) (pc := 37) dX11_redo_37 ?_
    refine x_w1 ?_
    refine x_callV_pi (μ := mu_tw_redo) (pc := 38) (ok_tw_stepAt (ω := ω) (l := l) (d := d - 1) (by omega) hM8 (w32_rng _)) gRel_Tw gRel_Tw (fun _ q => q) q2964 q2966 qs79 q232 q2967 dX11_redo_38 rfl hM8.1 hy_tw_stepAt (by omega) (Nat.le_of_ble_eq_true rfl) rfl (Nat.le_of_ble_eq_true rfl) (fun x10 hr11 => ?_)
    refine x_callV_mv (μ := mu_tw_redo) (pc := 41) (ok_tw_copySheet (ω := ω) (l := l) (d := d - 1) (by omega) hM8 (by decide) hr11) gRel_Tw gRel_Tw (fun _ q => q) q2632 q2634 qs77 q232 q2635 dX11_redo_41 rfl hM8.1 hy_tw_copySheet (by omega) (Nat.le_of_ble_eq_true rfl) rfl (Nat.le_of_ble_eq_true rfl) (fun x12 k13 => ?_)
    have hM14 : TM x12 h := hM8.tw k13
    refine x_aload_n (μ := mu_tw_redo) (pc := 44) 0 dX11_redo_44 rfl ?_
    refine x_dup (μ := mu_tw_redo) (pc := 45) dX11_redo_45 rfl ?_
    refine x_fgi (μ := mu_tw_redo) (pc := 46) fX11_17 q2653 dX11_redo_46 hM14.1 (fun hr15 => ?_)
    refine x_iconst (μ := mu_tw_redo) (pc := 49) dX11_redo_49 ?_
    refine x_isub (μ := mu_tw_redo) (pc := 50) dX11_redo_50 ?_
    refine x_w1 ?_
    refine x_fpi (μ := mu_tw_redo) (pc := 51) fX11_17 q2653 dX11_redo_51 hM14.1 (fun _ q => gTw_wI q) ?_
    refine x_let (fun s16 e17 => ?_)
    have hM18 := TM.eI e17 hM14
    refine x_aload_n (μ := mu_tw_redo) (pc := 54) 0 dX11_redo_54 rfl ?_
    refine x_bipush (μ := mu_tw_redo) (pc := 55) dX11_redo_55 (by decide) ?_
    refine x_aload_n (μ := mu_tw_redo) (pc := 57) 0 dX11_redo_57 rfl ?_
    refine x_fgi (μ := mu_tw_redo) (pc := 58) fX11_17 q2653 dX11_redo_58 hM18.1 (fun hr19 => ?_)
    refine x_iadd (μ := mu_tw_redo) (pc := 61) dX11_redo_61 ?_
    refine x_bipush (μ := mu_tw_redo) (pc := 62) dX11_redo_62 (by decide) ?_
    refine x_w2 ?_
    refine x_callV_mv (μ := mu_tw_redo) (pc := 64) (ok_tw_copySheet (ω := ω) (l := l) (d := d - 1) (by omega) hM18 (w32_rng _) (by decide)) gRel_Tw gRel_Tw (fun _ q => q) q2632 q2634 qs77 q232 q2635 dX11_redo_64 rfl hM18.1 hy_tw_copySheet (by omega) (Nat.le_of_ble_eq_true rfl) rfl (Nat.le_of_ble_eq_true rfl) (fun x20 k21 => ?_)
    have hM22 : TM x20 h := hM18.tw k21
    refine x_aload_n (μ := mu_tw_redo) (pc := 67) 0 dX11_redo_67 rfl ?_
    refine x_fgi (μ := mu_tw_redo) (pc := 68) fX11_17 q2653 dX11_redo_68 hM22.1 (fun hr23 => ?_)
    exact x_iret (μ := mu_tw_redo) (pc := 71) dX11_redo_71 rfl rfl (gRel_Tw.1 _) (show g32 (mI x20 h 17) from hr23)
  · refine x_aload_n (μ := mu_tw_redo) (pc := 12) 0 dX11_redo_12 rfl ?_
    refine x_iconst (μ := mu_tw_redo) (pc := 13) dX11_redo_13 ?_
    refine x_callV_mi (μ := mu_tw_redo) (pc := 14) (ok_tw_throwing (ω := ω) (l := l) (d := d - 1) (by omega) hM3 (by decide)) gRel_Tw gRel_Tw (fun _ q => q) q2960 q2962 qs78 q232 q2963 dX11_redo_14 rfl hM3.1 hy_tw_throwing (by omega) (Nat.le_of_ble_eq_true rfl) rfl (Nat.le_of_ble_eq_true rfl) (fun x24 k26 hr25 => ?_)
    have hM27 : TM (x24.2) h := hM3.tw k26
    exact x_iret (μ := mu_tw_redo) (pc := 17) dX11_redo_17 rfl rfl (gRel_Tw.1 _) (show g32 (x24.1) from hr25)
def tw_feed_l23_j76 (N : Nat) (h : Nat) (v1 : Int) (v2 : Int) (v3 : Int) (v4 : Int) (v5 : Int) (v6 : Int) (t0 : Int) (Kh : Int → gMem → Option (Int × gMem)) (K : gMem → Option (Int × gMem)) (s : gMem) : Option (Int × gMem) := if 0 ≤ ((mI s h 40) + v6) ∧ ((mI s h 40) + v6) < ((400 : Nat) : Int) then gLet (wI s (h + 27) ((mI s h 40) + v6).toNat (bAnd (bShr t0 (24 - (8 * (bAnd v6 3)))) 255)) (fun s6 => Kh (w32 (v6 + 1)) s6) else none
set_option maxRecDepth 100000 in
theorem okj_tw_feed_l23_j76 {ω : gW} {l : Launch} {d : Nat} {N : Nat} {h : Nat} {σ0 : gMem} {s : gMem} {v1 : Int} {v2 : Int} {v3 : Int} {v4 : Int} {v5 : Int} {v6 : Int} {t0 : Int} {Kh : Int → gMem → Option (Int × gMem)} {K : gMem → Option (Int × gMem)} (hdp : 0 ≤ d) (hM : TM s h) (hv1 : g32 v1) (hv2 : g32 v2) (hv3 : g32 v3) (hv4 : g32 v4) (hv5 : g32 v5) (hv6 : g32 v6) (ht0 : g32 t0) (hKh : ∀ (v6 : Int) (s : gMem) , g32 v6 → TM s h → GG (fun p : Int × gMem => (.inl (some (vI p.1)), p.2)) gTw ω l d mu_tw_feed σ0 23 [(0, vR h), (1, vI v1), (2, vI v2), (3, vI v3), (4, vI v4), (5, vI v5), (6, vI v6)] [] s (Kh v6 s)) (hK : ∀ (s : gMem) , TM s h → GG (fun p : Int × gMem => (.inl (some (vI p.1)), p.2)) gTw ω l d mu_tw_feed σ0 113 [(0, vR h)] [] s (K s)) : GG (fun p : Int × gMem => (.inl (some (vI p.1)), p.2)) gTw ω l d mu_tw_feed σ0 76 [(0, vR h), (1, vI v1), (2, vI v2), (3, vI v3), (4, vI v4), (5, vI v5), (6, vI v6)] [vI t0] s (tw_feed_l23_j76 N h v1 v2 v3 v4 v5 v6 t0 Kh K s) := by
  unfold tw_feed_l23_j76
  refine x_istore (μ := mu_tw_feed) (pc := 76) (lv' := [(7, vI t0), (0, vR h), (1, vI v1), (2, vI v2), (3, vI v3), (4, vI v4), (5, vI v5), (6, vI v6)]) dX11_feed_76 (by decide) rfl ?_
  refine x_aload_n (μ := mu_tw_feed) (pc := 78) 1 dX11_feed_78 rfl ?_
  refine x_fgrE (μ := mu_tw_feed) (pc := 79) fX11_39 (Or.inr ⟨_, rfl⟩) q2675 (hM.a39).1 dX11_feed_79 hM.1 ?_
  refine x_aload_n (μ := mu_tw_feed) (pc := 82) 1 dX11_feed_82 rfl ?_
  refine x_fgi (μ := mu_tw_feed) (pc := 83) fX11_40 q2676 dX11_feed_83 hM.1 (fun hr5 => ?_)
  refine x_iload (μ := mu_tw_feed) (pc := 86) 7 dX11_feed_86 rfl ?_
  refine x_iadd (μ := mu_tw_feed) (pc := 88) dX11_feed_88 ?_
  refine x_iload (μ := mu_tw_feed) (pc := 89) 0 dX11_feed_89 rfl ?_
  refine x_bipush (μ := mu_tw_feed) (pc := 91) dX11_feed_91 (by decide) ?_
  refine x_bipush (μ := mu_tw_feed) (pc := 93) dX11_feed_93 (by decide) ?_
  refine x_iload (μ := mu_tw_feed) (pc := 95) 7 dX11_feed_95 rfl ?_
  refine x_iconst (μ := mu_tw_feed) (pc := 97) dX11_feed_97 ?_
  refine x_iand (μ := mu_tw_feed) (pc := 98) dX11_feed_98 ?_
  refine x_imul (μ := mu_tw_feed) (pc := 99) dX11_feed_99 ?_
  refine x_isub (μ := mu_tw_feed) (pc := 100) dX11_feed_100 ?_
  refine x_ishr (μ := mu_tw_feed) (pc := 101) dX11_feed_101 ?_
  refine x_sipush (μ := mu_tw_feed) (pc := 102) dX11_feed_102 (by decide) ?_
  refine x_iand (μ := mu_tw_feed) (pc := 105) dX11_feed_105 ?_
  refine x_iast (μ := mu_tw_feed) (pc := 106) dX11_feed_106 (hM.a39).2.1 (hM.a39).2.2 (fun _ _ q => gTw_wI q) ?_
  refine x_let (fun s6 e7 => ?_)
  have hM8 := TM.eI e7 hM
  refine x_iincw (μ := mu_tw_feed) (pc := 107) (lv' := [(6, vI (w32 (v6 + 1))), (7, vI t0), (0, vR h), (1, vI v1), (2, vI v2), (3, vI v3), (4, vI v4), (5, vI v5)]) 7 dX11_feed_107 rfl (by decide) rfl ?_
  refine x_goto (μ := mu_tw_feed) (pc := 110) (tgt := 23) dX11_feed_110 rfl ?_
  refine x_loc (lv' := [(0, vR h), (1, vI v1), (2, vI v2), (3, vI v3), (4, vI v4), (5, vI v5), (6, vI (w32 (v6 + 1)))]) [2, 3, 4, 5, 6, 7, 0] rfl ?_
  exact hKh (w32 (v6 + 1)) s6 (w32_rng _) hM8
def tw_feed_l23 (N : Nat) (h : Nat) (v1 : Int) (v2 : Int) (v3 : Int) (v4 : Int) (v5 : Int) (K : gMem → Option (Int × gMem)) : Nat → Int → gMem → Option (Int × gMem)
  | 0, _, _ => none
  | n + 1, v6, s => if 20 ≤ v6 then K s else if 4 ≤ v6 then if 8 ≤ v6 then if 12 ≤ v6 then if 16 ≤ v6 then tw_feed_l23_j76 N h v1 v2 v3 v4 v5 v6 v5 (tw_feed_l23 N h v1 v2 v3 v4 v5 K n) K s else tw_feed_l23_j76 N h v1 v2 v3 v4 v5 v6 v4 (tw_feed_l23 N h v1 v2 v3 v4 v5 K n) K s else tw_feed_l23_j76 N h v1 v2 v3 v4 v5 v6 v3 (tw_feed_l23 N h v1 v2 v3 v4 v5 K n) K s else tw_feed_l23_j76 N h v1 v2 v3 v4 v5 v6 v2 (tw_feed_l23 N h v1 v2 v3 v4 v5 K n) K s else tw_feed_l23_j76 N h v1 v2 v3 v4 v5 v6 v1 (tw_feed_l23 N h v1 v2 v3 v4 v5 K n) K s
set_option maxRecDepth 100000 in
theorem okl_tw_feed_l23 {ω : gW} {l : Launch} {d : Nat} {N : Nat} {h : Nat} {σ0 : gMem} {v1 : Int} {v2 : Int} {v3 : Int} {v4 : Int} {v5 : Int} {K : gMem → Option (Int × gMem)} (hdp : 0 ≤ d) (hv1 : g32 v1) (hv2 : g32 v2) (hv3 : g32 v3) (hv4 : g32 v4) (hv5 : g32 v5) (hK : ∀ (s : gMem) , TM s h → GG (fun p : Int × gMem => (.inl (some (vI p.1)), p.2)) gTw ω l d mu_tw_feed σ0 113 [(0, vR h)] [] s (K s)) : ∀ (n : Nat) (v6 : Int) (s : gMem) , g32 v6 → TM s h → GG (fun p : Int × gMem => (.inl (some (vI p.1)), p.2)) gTw ω l d mu_tw_feed σ0 23 [(0, vR h), (1, vI v1), (2, vI v2), (3, vI v3), (4, vI v4), (5, vI v5), (6, vI v6)] [] s (tw_feed_l23 N h v1 v2 v3 v4 v5 K n v6 s) := by
  intro n
  induction n with
  | zero => intros; exact x_none
  | succ n ih =>
    intro v6 s hv6 hM
    unfold tw_feed_l23
    refine x_iload (μ := mu_tw_feed) (pc := 23) 6 dX11_feed_23 rfl ?_
    refine x_bipush (μ := mu_tw_feed) (pc := 25) dX11_feed_25 (by decide) ?_
    refine x_icmp_ge (μ := mu_tw_feed) (pc := 27) (tgt := 113) dX11_feed_27 rfl hv6 (by decide) ?_ ?_
    · refine x_loc (lv' := [(0, vR h)]) [0] rfl ?_
      exact hK s hM
    · refine x_iload (μ := mu_tw_feed) (pc := 30) 6 dX11_feed_30 rfl ?_
      refine x_iconst (μ := mu_tw_feed) (pc := 32) dX11_feed_32 ?_
      refine x_icmp_ge (μ := mu_tw_feed) (pc := 33) (tgt := 40) dX11_feed_33 rfl hv6 (by decide) ?_ ?_
      · refine x_iload (μ := mu_tw_feed) (pc := 40) 6 dX11_feed_40 rfl ?_
        refine x_bipush (μ := mu_tw_feed) (pc := 42) dX11_feed_42 (by decide) ?_
        refine x_icmp_ge (μ := mu_tw_feed) (pc := 44) (tgt := 51) dX11_feed_44 rfl hv6 (by decide) ?_ ?_
        · refine x_iload (μ := mu_tw_feed) (pc := 51) 6 dX11_feed_51 rfl ?_
          refine x_bipush (μ := mu_tw_feed) (pc := 53) dX11_feed_53 (by decide) ?_
          refine x_icmp_ge (μ := mu_tw_feed) (pc := 55) (tgt := 62) dX11_feed_55 rfl hv6 (by decide) ?_ ?_
          · refine x_iload (μ := mu_tw_feed) (pc := 62) 6 dX11_feed_62 rfl ?_
            refine x_bipush (μ := mu_tw_feed) (pc := 64) dX11_feed_64 (by decide) ?_
            refine x_icmp_ge (μ := mu_tw_feed) (pc := 66) (tgt := 74) dX11_feed_66 rfl hv6 (by decide) ?_ ?_
            · refine x_iload (μ := mu_tw_feed) (pc := 74) 5 dX11_feed_74 rfl ?_
              exact okj_tw_feed_l23_j76 hdp hM hv1 hv2 hv3 hv4 hv5 hv6 hv5 ih hK
            · refine x_iload (μ := mu_tw_feed) (pc := 69) 4 dX11_feed_69 rfl ?_
              refine x_goto (μ := mu_tw_feed) (pc := 71) (tgt := 76) dX11_feed_71 rfl ?_
              exact okj_tw_feed_l23_j76 hdp hM hv1 hv2 hv3 hv4 hv5 hv6 hv4 ih hK
          · refine x_iload_n (μ := mu_tw_feed) (pc := 58) 3 dX11_feed_58 rfl ?_
            refine x_goto (μ := mu_tw_feed) (pc := 59) (tgt := 76) dX11_feed_59 rfl ?_
            exact okj_tw_feed_l23_j76 hdp hM hv1 hv2 hv3 hv4 hv5 hv6 hv3 ih hK
        · refine x_iload_n (μ := mu_tw_feed) (pc := 47) 2 dX11_feed_47 rfl ?_
          refine x_goto (μ := mu_tw_feed) (pc := 48) (tgt := 76) dX11_feed_48 rfl ?_
          exact okj_tw_feed_l23_j76 hdp hM hv1 hv2 hv3 hv4 hv5 hv6 hv2 ih hK
      · refine x_iload_n (μ := mu_tw_feed) (pc := 36) 1 dX11_feed_36 rfl ?_
        refine x_goto (μ := mu_tw_feed) (pc := 37) (tgt := 76) dX11_feed_37 rfl ?_
        exact okj_tw_feed_l23_j76 hdp hM hv1 hv2 hv3 hv4 hv5 hv6 hv1 ih hK
def tw_feed (N : Nat) (h : Nat) (v1 : Int) (v2 : Int) (v3 : Int) (v4 : Int) (v5 : Int) (σ : gMem) : Option (Int × gMem) := gLet (wI σ h 0 0) (fun s1 => if w32 ((mI s1 h 40) + 20) ≤ 400 then tw_feed_l23 N h v1 v2 v3 v4 v5 (fun s9 => gLet (wI s9 h 40 (w32 ((mI s9 h 40) + 20))) (fun s12 => some (mI s12 h 40, s12))) N 0 s1 else some ((-1), s1))
set_option maxRecDepth 100000 in
theorem ok_tw_feed {ω : gW} {l : Launch} {d : Nat} {N : Nat} {h : Nat} {σ : gMem} {v1 : Int} {v2 : Int} {v3 : Int} {v4 : Int} {v5 : Int} (hdp : 0 ≤ d) (hM : TM σ h) (hv1 : g32 v1) (hv2 : g32 v2) (hv3 : g32 v3) (hv4 : g32 v4) (hv5 : g32 v5) : gK (fun p : Int × gMem => (.inl (some (vI p.1)), p.2)) gTw ω l d mu_tw_feed [vR h, vI v1, vI v2, vI v3, vI v4, vI v5] σ (tw_feed N h v1 v2 v3 v4 v5 σ) := by
  refine gK.of hp_X11 (Nat.le_of_ble_eq_true rfl) ?_
  unfold tw_feed
  refine x_aload_n (μ := mu_tw_feed) (pc := 0) 0 dX11_feed_0 rfl ?_
  refine x_iconst (μ := mu_tw_feed) (pc := 1) dX11_feed_1 ?_
  refine x_fpi (μ := mu_tw_feed) (pc := 2) fX11_0 q2636 dX11_feed_2 hM.1 (fun _ q => gTw_wI q) ?_
  refine x_let (fun s1 e2 => ?_)
  have hM3 := TM.eI e2 hM
  refine x_aload_n (μ := mu_tw_feed) (pc := 5) 0 dX11_feed_5 rfl ?_
  refine x_fgi (μ := mu_tw_feed) (pc := 6) fX11_40 q2676 dX11_feed_6 hM3.1 (fun hr4 => ?_)
  refine x_bipush (μ := mu_tw_feed) (pc := 9) dX11_feed_9 (by decide) ?_
  refine x_iadd (μ := mu_tw_feed) (pc := 11) dX11_feed_11 ?_
  refine x_sipush (μ := mu_tw_feed) (pc := 12) dX11_feed_12 (by decide) ?_
  refine x_w2 ?_
  refine x_icmp_le (μ := mu_tw_feed) (pc := 15) (tgt := 20) dX11_feed_15 rfl (w32_rng _) (by decide) ?_ ?_
  · refine x_iconst (μ := mu_tw_feed) (pc := 20) dX11_feed_20 ?_
    refine x_istore (μ := mu_tw_feed) (pc := 21) (lv' := [(6, vI 0), (0, vR h), (1, vI v1), (2, vI v2), (3, vI v3), (4, vI v4), (5, vI v5)]) dX11_feed_21 (by decide) rfl ?_
    refine x_loc (lv' := [(0, vR h), (1, vI v1), (2, vI v2), (3, vI v3), (4, vI v4), (5, vI v5), (6, vI 0)]) [1, 2, 3, 4, 5, 6, 0] rfl ?_
    refine okl_tw_feed_l23 hdp hv1 hv2 hv3 hv4 hv5 (fun s9 hM10 => ?_) N 0 s1 (by decide) hM3
    refine x_aload_n (μ := mu_tw_feed) (pc := 113) 0 dX11_feed_113 rfl ?_
    refine x_aload_n (μ := mu_tw_feed) (pc := 114) 0 dX11_feed_114 rfl ?_
    refine x_fgi (μ := mu_tw_feed) (pc := 115) fX11_40 q2676 dX11_feed_115 hM10.1 (fun hr11 => ?_)
    refine x_bipush (μ := mu_tw_feed) (pc := 118) dX11_feed_118 (by decide) ?_
    refine x_iadd (μ := mu_tw_feed) (pc := 120) dX11_feed_120 ?_
    refine x_w1 ?_
    refine x_fpi (μ := mu_tw_feed) (pc := 121) fX11_40 q2676 dX11_feed_121 hM10.1 (fun _ q => gTw_wI q) ?_
    refine x_let (fun s12 e13 => ?_)
    have hM14 := TM.eI e13 hM10
    refine x_aload_n (μ := mu_tw_feed) (pc := 124) 0 dX11_feed_124 rfl ?_
    refine x_fgi (μ := mu_tw_feed) (pc := 125) fX11_40 q2676 dX11_feed_125 hM14.1 (fun hr15 => ?_)
    exact x_iret (μ := mu_tw_feed) (pc := 128) dX11_feed_128 rfl rfl (gRel_Tw.1 _) (show g32 (mI s12 h 40) from hr15)
  · refine x_iconst (μ := mu_tw_feed) (pc := 18) dX11_feed_18 ?_
    exact x_iret (μ := mu_tw_feed) (pc := 19) dX11_feed_19 rfl rfl (gRel_Tw.1 _) (show g32 (-1) from (by decide))
def tw_in (v0 : Int) (v1 : Int) (v2 : Int) (σ : gMem) : Option Int := if v0 < v1 then some 0 else if v2 < v0 then some 0 else some 1
set_option maxRecDepth 100000 in
theorem ok_tw_in {ω : gW} {l : Launch} {d : Nat} {σ : gMem} {v0 : Int} {v1 : Int} {v2 : Int} (hdp : 0 ≤ d) (hv0 : g32 v0) (hv1 : g32 v1) (hv2 : g32 v2) : gK (fun x : Int => (.inl (some (vI x)), σ)) gTw ω l d mu_tw_in [vI v0, vI v1, vI v2] σ (tw_in v0 v1 v2 σ) := by
  refine gK.of hp_X11 (Nat.le_of_ble_eq_true rfl) ?_
  unfold tw_in
  refine x_iload_n (μ := mu_tw_in) (pc := 0) 0 dX11_in_0 rfl ?_
  refine x_iload_n (μ := mu_tw_in) (pc := 1) 1 dX11_in_1 rfl ?_
  refine x_icmp_lt (μ := mu_tw_in) (pc := 2) (tgt := 14) dX11_in_2 rfl hv0 hv1 ?_ ?_
  · refine x_iconst (μ := mu_tw_in) (pc := 14) dX11_in_14 ?_
    exact x_zret (μ := mu_tw_in) (pc := 15) dX11_in_15 rfl (by decide) rfl (gRel_Tw.1 _) (show g32 0 from (by decide))
  · refine x_iload_n (μ := mu_tw_in) (pc := 5) 0 dX11_in_5 rfl ?_
    refine x_iload_n (μ := mu_tw_in) (pc := 6) 2 dX11_in_6 rfl ?_
    refine x_icmp_gt (μ := mu_tw_in) (pc := 7) (tgt := 14) dX11_in_7 rfl hv0 hv2 ?_ ?_
    · refine x_iconst (μ := mu_tw_in) (pc := 14) dX11_in_14 ?_
      exact x_zret (μ := mu_tw_in) (pc := 15) dX11_in_15 rfl (by decide) rfl (gRel_Tw.1 _) (show g32 0 from (by decide))
    · refine x_iconst (μ := mu_tw_in) (pc := 10) dX11_in_10 ?_
      refine x_goto (μ := mu_tw_in) (pc := 11) (tgt := 15) dX11_in_11 rfl ?_
      exact x_zret (μ := mu_tw_in) (pc := 15) dX11_in_15 rfl (by decide) rfl (gRel_Tw.1 _) (show g32 1 from (by decide))
def tw_isCell (h : Nat) (v1 : Int) (v2 : Int) (v3 : Int) (σ : gMem) : Option Int := if 0 ≤ v1 ∧ v1 < ((122 : Nat) : Int) then (tw_in v2 1 (mI σ (h + 1) v1.toNat) σ).bind (fun x2 => if x2 = 0 then some 0 else if 0 ≤ v1 ∧ v1 < ((122 : Nat) : Int) then (tw_in v3 1 (mI σ (h + 2) v1.toNat) σ).bind (fun x5 => if x5 = 0 then some 0 else some 1) else none) else none
set_option maxRecDepth 100000 in
theorem ok_tw_isCell {ω : gW} {l : Launch} {d : Nat} {h : Nat} {σ : gMem} {v1 : Int} {v2 : Int} {v3 : Int} (hdp : 1 ≤ d) (hM : TM σ h) (hv1 : g32 v1) (hv2 : g32 v2) (hv3 : g32 v3) : gK (fun x : Int => (.inl (some (vI x)), σ)) gTw ω l d mu_tw_isCell [vR h, vI v1, vI v2, vI v3] σ (tw_isCell h v1 v2 v3 σ) := by
  refine gK.of hp_X11 (Nat.le_of_ble_eq_true rfl) ?_
  unfold tw_isCell
  refine x_iload_n (μ := mu_tw_isCell) (pc := 0) 2 dX11_isCell_0 rfl ?_
  refine x_iconst (μ := mu_tw_isCell) (pc := 1) dX11_isCell_1 ?_
  refine x_aload_n (μ := mu_tw_isCell) (pc := 2) 0 dX11_isCell_2 rfl ?_
  refine x_fgrE (μ := mu_tw_isCell) (pc := 3) fX11_1 (Or.inr ⟨_, rfl⟩) q2637 (hM.a1).1 dX11_isCell_3 hM.1 ?_
  refine x_iload_n (μ := mu_tw_isCell) (pc := 6) 1 dX11_isCell_6 rfl ?_
  refine x_iald (μ := mu_tw_isCell) (pc := 7) dX11_isCell_7 (hM.a1).2.1 (hM.a1).2.2 (fun hr1 => ?_)
  refine x_callS_pi (μ := mu_tw_isCell) (pc := 8) (ok_tw_in (ω := ω) (l := l) (d := d - 1) (by omega) hv2 (by decide) hr1) gRel_Tw gRel_Tw (fun _ q => q) q2980 q2981 q232 q2982 dX11_isCell_8 hy_tw_in (by omega) (Nat.le_of_ble_eq_true rfl) rfl (Nat.le_of_ble_eq_true rfl) (fun x2 hr3 => ?_)
  refine x_if_eq (μ := mu_tw_isCell) (pc := 11) (tgt := 32) dX11_isCell_11 rfl hr3 ?_ ?_
  · refine x_iconst (μ := mu_tw_isCell) (pc := 32) dX11_isCell_32 ?_
    exact x_zret (μ := mu_tw_isCell) (pc := 33) dX11_isCell_33 rfl (by decide) rfl (gRel_Tw.1 _) (show g32 0 from (by decide))
  · refine x_iload_n (μ := mu_tw_isCell) (pc := 14) 3 dX11_isCell_14 rfl ?_
    refine x_iconst (μ := mu_tw_isCell) (pc := 15) dX11_isCell_15 ?_
    refine x_aload_n (μ := mu_tw_isCell) (pc := 16) 0 dX11_isCell_16 rfl ?_
    refine x_fgrE (μ := mu_tw_isCell) (pc := 17) fX11_2 (Or.inr ⟨_, rfl⟩) q2638 (hM.a2).1 dX11_isCell_17 hM.1 ?_
    refine x_iload_n (μ := mu_tw_isCell) (pc := 20) 1 dX11_isCell_20 rfl ?_
    refine x_iald (μ := mu_tw_isCell) (pc := 21) dX11_isCell_21 (hM.a2).2.1 (hM.a2).2.2 (fun hr4 => ?_)
    refine x_callS_pi (μ := mu_tw_isCell) (pc := 22) (ok_tw_in (ω := ω) (l := l) (d := d - 1) (by omega) hv3 (by decide) hr4) gRel_Tw gRel_Tw (fun _ q => q) q2980 q2981 q232 q2982 dX11_isCell_22 hy_tw_in (by omega) (Nat.le_of_ble_eq_true rfl) rfl (Nat.le_of_ble_eq_true rfl) (fun x5 hr6 => ?_)
    refine x_if_eq (μ := mu_tw_isCell) (pc := 25) (tgt := 32) dX11_isCell_25 rfl hr6 ?_ ?_
    · refine x_iconst (μ := mu_tw_isCell) (pc := 32) dX11_isCell_32 ?_
      exact x_zret (μ := mu_tw_isCell) (pc := 33) dX11_isCell_33 rfl (by decide) rfl (gRel_Tw.1 _) (show g32 0 from (by decide))
    · refine x_iconst (μ := mu_tw_isCell) (pc := 28) dX11_isCell_28 ?_
      refine x_goto (μ := mu_tw_isCell) (pc := 29) (tgt := 33) dX11_isCell_29 rfl ?_
      exact x_zret (μ := mu_tw_isCell) (pc := 33) dX11_isCell_33 rfl (by decide) rfl (gRel_Tw.1 _) (show g32 1 from (by decide))
def tw_byteAt (h : Nat) (v1 : Int) (σ : gMem) : Option Int := if mI σ h 44 ≤ v1 then some (-1) else if 0 ≤ v1 ∧ v1 < ((400 : Nat) : Int) then some (mI σ (h + 27) v1.toNat) else none
set_option maxRecDepth 100000 in
theorem ok_tw_byteAt {ω : gW} {l : Launch} {d : Nat} {h : Nat} {σ : gMem} {v1 : Int} (hdp : 0 ≤ d) (hM : TM σ h) (hv1 : g32 v1) : gK (fun x : Int => (.inl (some (vI x)), σ)) gTw ω l d mu_tw_byteAt [vR h, vI v1] σ (tw_byteAt h v1 σ) := by
  refine gK.of hp_X11 (Nat.le_of_ble_eq_true rfl) ?_
  unfold tw_byteAt
  refine x_iload_n (μ := mu_tw_byteAt) (pc := 0) 1 dX11_byteAt_0 rfl ?_
  refine x_aload_n (μ := mu_tw_byteAt) (pc := 1) 0 dX11_byteAt_1 rfl ?_
  refine x_fgi (μ := mu_tw_byteAt) (pc := 2) fX11_44 q2680 dX11_byteAt_2 hM.1 (fun hr1 => ?_)
  refine x_icmp_ge (μ := mu_tw_byteAt) (pc := 5) (tgt := 17) dX11_byteAt_5 rfl hv1 hr1 ?_ ?_
  · refine x_iconst (μ := mu_tw_byteAt) (pc := 17) dX11_byteAt_17 ?_
    exact x_iret (μ := mu_tw_byteAt) (pc := 18) dX11_byteAt_18 rfl rfl (gRel_Tw.1 _) (show g32 (-1) from (by decide))
  · refine x_aload_n (μ := mu_tw_byteAt) (pc := 8) 0 dX11_byteAt_8 rfl ?_
    refine x_fgrE (μ := mu_tw_byteAt) (pc := 9) fX11_39 (Or.inr ⟨_, rfl⟩) q2675 (hM.a39).1 dX11_byteAt_9 hM.1 ?_
    refine x_iload_n (μ := mu_tw_byteAt) (pc := 12) 1 dX11_byteAt_12 rfl ?_
    refine x_iald (μ := mu_tw_byteAt) (pc := 13) dX11_byteAt_13 (hM.a39).2.1 (hM.a39).2.2 (fun hr2 => ?_)
    refine x_goto (μ := mu_tw_byteAt) (pc := 14) (tgt := 18) dX11_byteAt_14 rfl ?_
    exact x_iret (μ := mu_tw_byteAt) (pc := 18) dX11_byteAt_18 rfl rfl (gRel_Tw.1 _) (show g32 (mI σ (h + 27) v1.toNat) from hr2)
def tw_is (h : Nat) (v1 : Int) (v2 : Int) (σ : gMem) : Option gMem := gLet (wI σ h 47 v1) (fun s1 => gLet (wI s1 h 49 v2) (fun s4 => some s4))
set_option maxRecDepth 100000 in
theorem ok_tw_is {ω : gW} {l : Launch} {d : Nat} {h : Nat} {σ : gMem} {v1 : Int} {v2 : Int} (hdp : 0 ≤ d) (hM : TM σ h) (hv1 : g32 v1) (hv2 : g32 v2) : gK (fun p : gMem => (.inl none, p)) gTw ω l d mu_tw_is [vR h, vI v1, vI v2] σ (tw_is h v1 v2 σ) := by
  refine gK.of hp_X11 (Nat.le_of_ble_eq_true rfl) ?_
  unfold tw_is
  refine x_aload_n (μ := mu_tw_is) (pc := 0) 0 dX11_is_0 rfl ?_
  refine x_iload_n (μ := mu_tw_is) (pc := 1) 1 dX11_is_1 rfl ?_
  refine x_fpi (μ := mu_tw_is) (pc := 2) fX11_47 q2683 dX11_is_2 hM.1 (fun _ q => gTw_wI q) ?_
  refine x_let (fun s1 e2 => ?_)
  have hM3 := TM.eI e2 hM
  refine x_aload_n (μ := mu_tw_is) (pc := 5) 0 dX11_is_5 rfl ?_
  refine x_iload_n (μ := mu_tw_is) (pc := 6) 2 dX11_is_6 rfl ?_
  refine x_fpi (μ := mu_tw_is) (pc := 7) fX11_49 q2685 dX11_is_7 hM3.1 (fun _ q => gTw_wI q) ?_
  refine x_let (fun s4 e5 => ?_)
  have hM6 := TM.eI e5 hM3
  exact x_vret (μ := mu_tw_is) (pc := 10) (a1 := s4) dX11_is_10 rfl rfl (gRel_Tw.1 _) trivial
def tw_isDigit (v0 : Int) (σ : gMem) : Option Int := (tw_in v0 48 57 σ).bind (fun x1 => if x1 = 0 ∨ x1 = 1 then some x1 else none)
set_option maxRecDepth 100000 in
theorem ok_tw_isDigit {ω : gW} {l : Launch} {d : Nat} {σ : gMem} {v0 : Int} (hdp : 1 ≤ d) (hv0 : g32 v0) : gK (fun x : Int => (.inl (some (vI x)), σ)) gTw ω l d mu_tw_isDigit [vI v0] σ (tw_isDigit v0 σ) := by
  refine gK.of hp_X11 (Nat.le_of_ble_eq_true rfl) ?_
  unfold tw_isDigit
  refine x_iload_n (μ := mu_tw_isDigit) (pc := 0) 0 dX11_isDigit_0 rfl ?_
  refine x_bipush (μ := mu_tw_isDigit) (pc := 1) dX11_isDigit_1 (by decide) ?_
  refine x_bipush (μ := mu_tw_isDigit) (pc := 3) dX11_isDigit_3 (by decide) ?_
  refine x_callS_pi (μ := mu_tw_isDigit) (pc := 5) (ok_tw_in (ω := ω) (l := l) (d := d - 1) (by omega) hv0 (by decide) (by decide)) gRel_Tw gRel_Tw (fun _ q => q) q2980 q2981 q232 q2982 dX11_isDigit_5 hy_tw_in (by omega) (Nat.le_of_ble_eq_true rfl) rfl (Nat.le_of_ble_eq_true rfl) (fun x1 hr2 => ?_)
  exact x_if (μ := mu_tw_isDigit) (pc := 8) (fun hz => x_zret dX11_isDigit_8 rfl hz rfl (gRel_Tw.1 _) (show g32 x1 from hr2))
def tw_numberToken_l5 (N : Nat) (h : Nat) (K : Int → gMem → Option gMem) : Nat → Int → gMem → Option gMem
  | 0, _, _ => none
  | n + 1, v1, s => (tw_byteAt h v1 s).bind (fun x2 => (tw_isDigit x2 s).bind (fun x4 => if x4 = 0 then K v1 s else tw_numberToken_l5 N h K n (w32 (v1 + 1)) s))
set_option maxRecDepth 100000 in
theorem okl_tw_numberToken_l5 {ω : gW} {l : Launch} {d : Nat} {N : Nat} {h : Nat} {σ0 : gMem} {K : Int → gMem → Option gMem} (hdp : 2 ≤ d) (hK : ∀ (v1 : Int) (s : gMem) , g32 v1 → TM s h → GG (fun p : gMem => (.inl none, p)) gTw ω l d mu_tw_numberToken σ0 22 [(0, vR h), (1, vI v1)] [] s (K v1 s)) : ∀ (n : Nat) (v1 : Int) (s : gMem) , g32 v1 → TM s h → GG (fun p : gMem => (.inl none, p)) gTw ω l d mu_tw_numberToken σ0 5 [(0, vR h), (1, vI v1)] [] s (tw_numberToken_l5 N h K n v1 s) := by
  intro n
  induction n with
  | zero => intros; exact x_none
  | succ n ih =>
    intro v1 s hv1 hM
    unfold tw_numberToken_l5
    refine x_aload_n (μ := mu_tw_numberToken) (pc := 5) 0 dX11_numberToken_5 rfl ?_
    refine x_iload_n (μ := mu_tw_numberToken) (pc := 6) 1 dX11_numberToken_6 rfl ?_
    refine x_callV_pi (μ := mu_tw_numberToken) (pc := 7) (ok_tw_byteAt (ω := ω) (l := l) (d := d - 1) (by omega) hM hv1) gRel_Tw gRel_Tw (fun _ q => q) q2999 q3001 qs83 q232 q3002 dX11_numberToken_7 rfl hM.1 hy_tw_byteAt (by omega) (Nat.le_of_ble_eq_true rfl) rfl (Nat.le_of_ble_eq_true rfl) (fun x2 hr3 => ?_)
    refine x_callS_pi (μ := mu_tw_numberToken) (pc := 10) (ok_tw_isDigit (ω := ω) (l := l) (d := d - 1) (by omega) hr3) gRel_Tw gRel_Tw (fun _ q => q) q3007 q3008 q232 q3009 dX11_numberToken_10 hy_tw_isDigit (by omega) (Nat.le_of_ble_eq_true rfl) rfl (Nat.le_of_ble_eq_true rfl) (fun x4 hr5 => ?_)
    refine x_if_eq (μ := mu_tw_numberToken) (pc := 13) (tgt := 22) dX11_numberToken_13 rfl hr5 ?_ ?_
    · exact hK v1 s hv1 hM
    · refine x_iincw (μ := mu_tw_numberToken) (pc := 16) (lv' := [(1, vI (w32 (v1 + 1))), (0, vR h)]) 1 dX11_numberToken_16 rfl (by decide) rfl ?_
      refine x_goto (μ := mu_tw_numberToken) (pc := 19) (tgt := 5) dX11_numberToken_19 rfl ?_
      refine x_loc (lv' := [(0, vR h), (1, vI (w32 (v1 + 1)))]) [1, 0] rfl ?_
      exact ih (w32 (v1 + 1)) s (w32_rng _) hM
def tw_numberToken (N : Nat) (h : Nat) (σ : gMem) : Option gMem := tw_numberToken_l5 N h (fun y6 s7 => if w32 (y6 - (mI s7 h 46)) ≤ 15 then (tw_is h 1 y6 s7).bind (fun x10 => some x10) else gLet (wI s7 h 51 (w32 ((mI s7 h 46) + 15))) (fun s14 => (tw_is h 1 y6 s14).bind (fun x17 => some x17))) N (mI σ h 46) σ
set_option maxRecDepth 100000 in
theorem ok_tw_numberToken {ω : gW} {l : Launch} {d : Nat} {N : Nat} {h : Nat} {σ : gMem} (hdp : 2 ≤ d) (hM : TM σ h) : gK (fun p : gMem => (.inl none, p)) gTw ω l d mu_tw_numberToken [vR h] σ (tw_numberToken N h σ) := by
  refine gK.of hp_X11 (Nat.le_of_ble_eq_true rfl) ?_
  unfold tw_numberToken
  refine x_aload_n (μ := mu_tw_numberToken) (pc := 0) 0 dX11_numberToken_0 rfl ?_
  refine x_fgi (μ := mu_tw_numberToken) (pc := 1) fX11_46 q2682 dX11_numberToken_1 hM.1 (fun hr1 => ?_)
  refine x_istore_n (μ := mu_tw_numberToken) (pc := 4) (lv' := [(1, vI (mI σ h 46)), (0, vR h)]) dX11_numberToken_4 rfl (by decide) rfl ?_
  refine x_loc (lv' := [(0, vR h), (1, vI (mI σ h 46))]) [1, 0] rfl ?_
  refine okl_tw_numberToken_l5 hdp (fun y6 s7 hy6 hM8 => ?_) N (mI σ h 46) σ hr1 hM
  refine x_iload_n (μ := mu_tw_numberToken) (pc := 22) 1 dX11_numberToken_22 rfl ?_
  refine x_aload_n (μ := mu_tw_numberToken) (pc := 23) 0 dX11_numberToken_23 rfl ?_
  refine x_fgi (μ := mu_tw_numberToken) (pc := 24) fX11_46 q2682 dX11_numberToken_24 hM8.1 (fun hr9 => ?_)
  refine x_isub (μ := mu_tw_numberToken) (pc := 27) dX11_numberToken_27 ?_
  refine x_bipush (μ := mu_tw_numberToken) (pc := 28) dX11_numberToken_28 (by decide) ?_
  refine x_w2 ?_
  refine x_icmp_le (μ := mu_tw_numberToken) (pc := 30) (tgt := 44) dX11_numberToken_30 rfl (w32_rng _) (by decide) ?_ ?_
  · refine x_aload_n (μ := mu_tw_numberToken) (pc := 44) 0 dX11_numberToken_44 rfl ?_
    refine x_iconst (μ := mu_tw_numberToken) (pc := 45) dX11_numberToken_45 ?_
    refine x_iload_n (μ := mu_tw_numberToken) (pc := 46) 1 dX11_numberToken_46 rfl ?_
    refine x_callV_mv (μ := mu_tw_numberToken) (pc := 47) (ok_tw_is (ω := ω) (l := l) (d := d - 1) (by omega) hM8 (by decide) hy6) gRel_Tw gRel_Tw (fun _ q => q) q3003 q3005 qs84 q232 q3006 dX11_numberToken_47 rfl hM8.1 hy_tw_is (by omega) (Nat.le_of_ble_eq_true rfl) rfl (Nat.le_of_ble_eq_true rfl) (fun x10 k11 => ?_)
    have hM12 : TM x10 h := hM8.tw k11
    exact x_vret (μ := mu_tw_numberToken) (pc := 50) (a1 := x10) dX11_numberToken_50 rfl rfl (gRel_Tw.1 _) trivial
  · refine x_aload_n (μ := mu_tw_numberToken) (pc := 33) 0 dX11_numberToken_33 rfl ?_
    refine x_aload_n (μ := mu_tw_numberToken) (pc := 34) 0 dX11_numberToken_34 rfl ?_
    refine x_fgi (μ := mu_tw_numberToken) (pc := 35) fX11_46 q2682 dX11_numberToken_35 hM8.1 (fun hr13 => ?_)
    refine x_bipush (μ := mu_tw_numberToken) (pc := 38) dX11_numberToken_38 (by decide) ?_
    refine x_iadd (μ := mu_tw_numberToken) (pc := 40) dX11_numberToken_40 ?_
    refine x_w1 ?_
    refine x_fpi (μ := mu_tw_numberToken) (pc := 41) fX11_51 q2687 dX11_numberToken_41 hM8.1 (fun _ q => gTw_wI q) ?_
    refine x_let (fun s14 e15 => ?_)
    have hM16 := TM.eI e15 hM8
    refine x_aload_n (μ := mu_tw_numberToken) (pc := 44) 0 dX11_numberToken_44 rfl ?_
    refine x_iconst (μ := mu_tw_numberToken) (pc := 45) dX11_numberToken_45 ?_
    refine x_iload_n (μ := mu_tw_numberToken) (pc := 46) 1 dX11_numberToken_46 rfl ?_
    refine x_callV_mv (μ := mu_tw_numberToken) (pc := 47) (ok_tw_is (ω := ω) (l := l) (d := d - 1) (by omega) hM16 (by decide) hy6) gRel_Tw gRel_Tw (fun _ q => q) q3003 q3005 qs84 q232 q3006 dX11_numberToken_47 rfl hM16.1 hy_tw_is (by omega) (Nat.le_of_ble_eq_true rfl) rfl (Nat.le_of_ble_eq_true rfl) (fun x17 k18 => ?_)
    have hM19 : TM x17 h := hM16.tw k18
    exact x_vret (μ := mu_tw_numberToken) (pc := 50) (a1 := x17) dX11_numberToken_50 rfl rfl (gRel_Tw.1 _) trivial
def tw_isSign (v0 : Int) (σ : gMem) : Option Int := (tw_in v0 32 126 σ).bind (fun x1 => if x1 = 0 ∨ x1 = 1 then some x1 else none)
set_option maxRecDepth 100000 in
theorem ok_tw_isSign {ω : gW} {l : Launch} {d : Nat} {σ : gMem} {v0 : Int} (hdp : 1 ≤ d) (hv0 : g32 v0) : gK (fun x : Int => (.inl (some (vI x)), σ)) gTw ω l d mu_tw_isSign [vI v0] σ (tw_isSign v0 σ) := by
  refine gK.of hp_X11 (Nat.le_of_ble_eq_true rfl) ?_
  unfold tw_isSign
  refine x_iload_n (μ := mu_tw_isSign) (pc := 0) 0 dX11_isSign_0 rfl ?_
  refine x_bipush (μ := mu_tw_isSign) (pc := 1) dX11_isSign_1 (by decide) ?_
  refine x_bipush (μ := mu_tw_isSign) (pc := 3) dX11_isSign_3 (by decide) ?_
  refine x_callS_pi (μ := mu_tw_isSign) (pc := 5) (ok_tw_in (ω := ω) (l := l) (d := d - 1) (by omega) hv0 (by decide) (by decide)) gRel_Tw gRel_Tw (fun _ q => q) q2980 q2981 q232 q2982 dX11_isSign_5 hy_tw_in (by omega) (Nat.le_of_ble_eq_true rfl) rfl (Nat.le_of_ble_eq_true rfl) (fun x1 hr2 => ?_)
  exact x_if (μ := mu_tw_isSign) (pc := 8) (fun hz => x_zret dX11_isSign_8 rfl hz rfl (gRel_Tw.1 _) (show g32 x1 from hr2))
def tw_isLetter (v0 : Int) (σ : gMem) : Option Int := (tw_in v0 65 90 σ).bind (fun x1 => if x1 = 0 ∨ x1 = 1 then some x1 else none)
set_option maxRecDepth 100000 in
theorem ok_tw_isLetter {ω : gW} {l : Launch} {d : Nat} {σ : gMem} {v0 : Int} (hdp : 1 ≤ d) (hv0 : g32 v0) : gK (fun x : Int => (.inl (some (vI x)), σ)) gTw ω l d mu_tw_isLetter [vI v0] σ (tw_isLetter v0 σ) := by
  refine gK.of hp_X11 (Nat.le_of_ble_eq_true rfl) ?_
  unfold tw_isLetter
  refine x_iload_n (μ := mu_tw_isLetter) (pc := 0) 0 dX11_isLetter_0 rfl ?_
  refine x_bipush (μ := mu_tw_isLetter) (pc := 1) dX11_isLetter_1 (by decide) ?_
  refine x_bipush (μ := mu_tw_isLetter) (pc := 3) dX11_isLetter_3 (by decide) ?_
  refine x_callS_pi (μ := mu_tw_isLetter) (pc := 5) (ok_tw_in (ω := ω) (l := l) (d := d - 1) (by omega) hv0 (by decide) (by decide)) gRel_Tw gRel_Tw (fun _ q => q) q2980 q2981 q232 q2982 dX11_isLetter_5 hy_tw_in (by omega) (Nat.le_of_ble_eq_true rfl) rfl (Nat.le_of_ble_eq_true rfl) (fun x1 hr2 => ?_)
  exact x_if (μ := mu_tw_isLetter) (pc := 8) (fun hz => x_zret dX11_isLetter_8 rfl hz rfl (gRel_Tw.1 _) (show g32 x1 from hr2))
def tw_corner_l66 (N : Nat) (h : Nat) (v3 : Int) (v4 : Int) (K : Int → Int → Int → gMem → Option (Int × gMem)) : Nat → Int → Int → Int → gMem → Option (Int × gMem)
  | 0, _, _, _, _ => none
  | n + 1, v2, v5, v6, s => if 2 ≤ v5 then K v2 v5 v6 s else (tw_byteAt h v2 s).bind (fun x9 => (tw_isDigit x9 s).bind (fun x11 => if x11 = 0 then K v2 v5 v6 s else (tw_byteAt h v2 s).bind (fun x13 => tw_corner_l66 N h v3 v4 K n (w32 (v2 + 1)) (w32 (v5 + 1)) (w32 (((10 * v6) + x13) - 48)) s)))
set_option maxRecDepth 100000 in
theorem okl_tw_corner_l66 {ω : gW} {l : Launch} {d : Nat} {N : Nat} {h : Nat} {σ0 : gMem} {v3 : Int} {v4 : Int} {K : Int → Int → Int → gMem → Option (Int × gMem)} (hdp : 2 ≤ d) (hv3 : g32 v3) (hv4 : g32 v4) (hK : ∀ (v2 : Int) (v5 : Int) (v6 : Int) (s : gMem) , g32 v2 → g32 v5 → g32 v6 → TM s h → GG (fun p : Int × gMem => (.inl (some (vI p.1)), p.2)) gTw ω l d mu_tw_corner σ0 108 [(0, vR h), (2, vI v2), (3, vI v3), (4, vI v4), (5, vI v5), (6, vI v6)] [] s (K v2 v5 v6 s)) : ∀ (n : Nat) (v2 : Int) (v5 : Int) (v6 : Int) (s : gMem) , g32 v2 → g32 v5 → g32 v6 → TM s h → GG (fun p : Int × gMem => (.inl (some (vI p.1)), p.2)) gTw ω l d mu_tw_corner σ0 66 [(0, vR h), (2, vI v2), (3, vI v3), (4, vI v4), (5, vI v5), (6, vI v6)] [] s (tw_corner_l66 N h v3 v4 K n v2 v5 v6 s) := by
  intro n
  induction n with
  | zero => intros; exact x_none
  | succ n ih =>
    intro v2 v5 v6 s hv2 hv5 hv6 hM
    unfold tw_corner_l66
    refine x_iload (μ := mu_tw_corner) (pc := 66) 4 dX11_corner_66 rfl ?_
    refine x_iconst (μ := mu_tw_corner) (pc := 68) dX11_corner_68 ?_
    refine x_icmp_ge (μ := mu_tw_corner) (pc := 69) (tgt := 108) dX11_corner_69 rfl hv5 (by decide) ?_ ?_
    · exact hK v2 v5 v6 s hv2 hv5 hv6 hM
    · refine x_aload_n (μ := mu_tw_corner) (pc := 72) 0 dX11_corner_72 rfl ?_
      refine x_iload_n (μ := mu_tw_corner) (pc := 73) 1 dX11_corner_73 rfl ?_
      refine x_callV_pi (μ := mu_tw_corner) (pc := 74) (ok_tw_byteAt (ω := ω) (l := l) (d := d - 1) (by omega) hM hv2) gRel_Tw gRel_Tw (fun _ q => q) q2999 q3001 qs83 q232 q3002 dX11_corner_74 rfl hM.1 hy_tw_byteAt (by omega) (Nat.le_of_ble_eq_true rfl) rfl (Nat.le_of_ble_eq_true rfl) (fun x9 hr10 => ?_)
      refine x_callS_pi (μ := mu_tw_corner) (pc := 77) (ok_tw_isDigit (ω := ω) (l := l) (d := d - 1) (by omega) hr10) gRel_Tw gRel_Tw (fun _ q => q) q3007 q3008 q232 q3009 dX11_corner_77 hy_tw_isDigit (by omega) (Nat.le_of_ble_eq_true rfl) rfl (Nat.le_of_ble_eq_true rfl) (fun x11 hr12 => ?_)
      refine x_if_eq (μ := mu_tw_corner) (pc := 80) (tgt := 108) dX11_corner_80 rfl hr12 ?_ ?_
      · exact hK v2 v5 v6 s hv2 hv5 hv6 hM
      · refine x_bipush (μ := mu_tw_corner) (pc := 83) dX11_corner_83 (by decide) ?_
        refine x_iload (μ := mu_tw_corner) (pc := 85) 5 dX11_corner_85 rfl ?_
        refine x_imul (μ := mu_tw_corner) (pc := 87) dX11_corner_87 ?_
        refine x_aload_n (μ := mu_tw_corner) (pc := 88) 0 dX11_corner_88 rfl ?_
        refine x_iload_n (μ := mu_tw_corner) (pc := 89) 1 dX11_corner_89 rfl ?_
        refine x_callV_pi (μ := mu_tw_corner) (pc := 90) (ok_tw_byteAt (ω := ω) (l := l) (d := d - 1) (by omega) hM hv2) gRel_Tw gRel_Tw (fun _ q => q) q2999 q3001 qs83 q232 q3002 dX11_corner_90 rfl hM.1 hy_tw_byteAt (by omega) (Nat.le_of_ble_eq_true rfl) rfl (Nat.le_of_ble_eq_true rfl) (fun x13 hr14 => ?_)
        refine x_iadd (μ := mu_tw_corner) (pc := 93) dX11_corner_93 ?_
        refine x_bipush (μ := mu_tw_corner) (pc := 94) dX11_corner_94 (by decide) ?_
        refine x_isub (μ := mu_tw_corner) (pc := 96) dX11_corner_96 ?_
        refine x_w1 ?_
        refine x_istore (μ := mu_tw_corner) (pc := 97) (lv' := [(6, vI (w32 (((10 * v6) + x13) - 48))), (0, vR h), (2, vI v2), (3, vI v3), (4, vI v4), (5, vI v5)]) dX11_corner_97 (by decide) rfl ?_
        refine x_iincw (μ := mu_tw_corner) (pc := 99) (lv' := [(2, vI (w32 (v2 + 1))), (6, vI (w32 (((10 * v6) + x13) - 48))), (0, vR h), (3, vI v3), (4, vI v4), (5, vI v5)]) 2 dX11_corner_99 rfl (by decide) rfl ?_
        refine x_iincw (μ := mu_tw_corner) (pc := 102) (lv' := [(5, vI (w32 (v5 + 1))), (2, vI (w32 (v2 + 1))), (6, vI (w32 (((10 * v6) + x13) - 48))), (0, vR h), (3, vI v3), (4, vI v4)]) 5 dX11_corner_102 rfl (by decide) rfl ?_
        refine x_goto (μ := mu_tw_corner) (pc := 105) (tgt := 66) dX11_corner_105 rfl ?_
        refine x_loc (lv' := [(0, vR h), (2, vI (w32 (v2 + 1))), (3, vI v3), (4, vI v4), (5, vI (w32 (v5 + 1))), (6, vI (w32 (((10 * v6) + x13) - 48)))]) [3, 1, 4, 5, 0, 2] rfl ?_
        exact ih (w32 (v2 + 1)) (w32 (v5 + 1)) (w32 (((10 * v6) + x13) - 48)) s (w32_rng _) (w32_rng _) (w32_rng _) hM
def tw_corner_j108 (N : Nat) (h : Nat) (v2 : Int) (v3 : Int) (v4 : Int) (v5 : Int) (v6 : Int) (s : gMem) : Option (Int × gMem) := if v5 = 0 then some (0, s) else (tw_byteAt h v2 s).bind (fun x20 => (tw_isDigit x20 s).bind (fun x22 => if x22 ≠ 0 then some (0, s) else (tw_byteAt h v2 s).bind (fun x24 => (tw_isLetter x24 s).bind (fun x26 => if x26 = 0 then gLet (wI s h 52 v6) (fun s28 => gLet (wI s28 h 53 (w32 (v4 - 64))) (fun s31 => gLet (wI s31 h 54 v3) (fun s34 => gLet (wI s34 h 55 v2) (fun s37 => some (1, s37))))) else some (0, s)))))
set_option maxRecDepth 100000 in
theorem okj_tw_corner_j108 {ω : gW} {l : Launch} {d : Nat} {N : Nat} {h : Nat} {σ0 : gMem} {s : gMem} {v2 : Int} {v3 : Int} {v4 : Int} {v5 : Int} {v6 : Int} (hdp : 2 ≤ d) (hM : TM s h) (hv2 : g32 v2) (hv3 : g32 v3) (hv4 : g32 v4) (hv5 : g32 v5) (hv6 : g32 v6) : GG (fun p : Int × gMem => (.inl (some (vI p.1)), p.2)) gTw ω l d mu_tw_corner σ0 108 [(0, vR h), (2, vI v2), (3, vI v3), (4, vI v4), (5, vI v5), (6, vI v6)] [] s (tw_corner_j108 N h v2 v3 v4 v5 v6 s) := by
  unfold tw_corner_j108
  refine x_iload (μ := mu_tw_corner) (pc := 108) 4 dX11_corner_108 rfl ?_
  refine x_if_eq (μ := mu_tw_corner) (pc := 110) (tgt := 135) dX11_corner_110 rfl hv5 ?_ ?_
  · refine x_iconst (μ := mu_tw_corner) (pc := 135) dX11_corner_135 ?_
    exact x_zret (μ := mu_tw_corner) (pc := 136) dX11_corner_136 rfl (by decide) rfl (gRel_Tw.1 _) (show g32 0 from (by decide))
  · refine x_aload_n (μ := mu_tw_corner) (pc := 113) 0 dX11_corner_113 rfl ?_
    refine x_iload_n (μ := mu_tw_corner) (pc := 114) 1 dX11_corner_114 rfl ?_
    refine x_callV_pi (μ := mu_tw_corner) (pc := 115) (ok_tw_byteAt (ω := ω) (l := l) (d := d - 1) (by omega) hM hv2) gRel_Tw gRel_Tw (fun _ q => q) q2999 q3001 qs83 q232 q3002 dX11_corner_115 rfl hM.1 hy_tw_byteAt (by omega) (Nat.le_of_ble_eq_true rfl) rfl (Nat.le_of_ble_eq_true rfl) (fun x20 hr21 => ?_)
    refine x_callS_pi (μ := mu_tw_corner) (pc := 118) (ok_tw_isDigit (ω := ω) (l := l) (d := d - 1) (by omega) hr21) gRel_Tw gRel_Tw (fun _ q => q) q3007 q3008 q232 q3009 dX11_corner_118 hy_tw_isDigit (by omega) (Nat.le_of_ble_eq_true rfl) rfl (Nat.le_of_ble_eq_true rfl) (fun x22 hr23 => ?_)
    refine x_if_ne (μ := mu_tw_corner) (pc := 121) (tgt := 135) dX11_corner_121 rfl hr23 ?_ ?_
    · refine x_iconst (μ := mu_tw_corner) (pc := 135) dX11_corner_135 ?_
      exact x_zret (μ := mu_tw_corner) (pc := 136) dX11_corner_136 rfl (by decide) rfl (gRel_Tw.1 _) (show g32 0 from (by decide))
    · refine x_aload_n (μ := mu_tw_corner) (pc := 124) 0 dX11_corner_124 rfl ?_
      refine x_iload_n (μ := mu_tw_corner) (pc := 125) 1 dX11_corner_125 rfl ?_
      refine x_callV_pi (μ := mu_tw_corner) (pc := 126) (ok_tw_byteAt (ω := ω) (l := l) (d := d - 1) (by omega) hM hv2) gRel_Tw gRel_Tw (fun _ q => q) q2999 q3001 qs83 q232 q3002 dX11_corner_126 rfl hM.1 hy_tw_byteAt (by omega) (Nat.le_of_ble_eq_true rfl) rfl (Nat.le_of_ble_eq_true rfl) (fun x24 hr25 => ?_)
      refine x_callS_pi (μ := mu_tw_corner) (pc := 129) (ok_tw_isLetter (ω := ω) (l := l) (d := d - 1) (by omega) hr25) gRel_Tw gRel_Tw (fun _ q => q) q3021 q3022 q232 q3023 dX11_corner_129 hy_tw_isLetter (by omega) (Nat.le_of_ble_eq_true rfl) rfl (Nat.le_of_ble_eq_true rfl) (fun x26 hr27 => ?_)
      refine x_if_eq (μ := mu_tw_corner) (pc := 132) (tgt := 137) dX11_corner_132 rfl hr27 ?_ ?_
      · refine x_aload_n (μ := mu_tw_corner) (pc := 137) 0 dX11_corner_137 rfl ?_
        refine x_iload (μ := mu_tw_corner) (pc := 138) 5 dX11_corner_138 rfl ?_
        refine x_fpi (μ := mu_tw_corner) (pc := 140) fX11_52 q2688 dX11_corner_140 hM.1 (fun _ q => gTw_wI q) ?_
        refine x_let (fun s28 e29 => ?_)
        have hM30 := TM.eI e29 hM
        refine x_aload_n (μ := mu_tw_corner) (pc := 143) 0 dX11_corner_143 rfl ?_
        refine x_iload (μ := mu_tw_corner) (pc := 144) 3 dX11_corner_144 rfl ?_
        refine x_bipush (μ := mu_tw_corner) (pc := 146) dX11_corner_146 (by decide) ?_
        refine x_isub (μ := mu_tw_corner) (pc := 148) dX11_corner_148 ?_
        refine x_w1 ?_
        refine x_fpi (μ := mu_tw_corner) (pc := 149) fX11_53 q2689 dX11_corner_149 hM30.1 (fun _ q => gTw_wI q) ?_
        refine x_let (fun s31 e32 => ?_)
        have hM33 := TM.eI e32 hM30
        refine x_aload_n (μ := mu_tw_corner) (pc := 152) 0 dX11_corner_152 rfl ?_
        refine x_iload_n (μ := mu_tw_corner) (pc := 153) 2 dX11_corner_153 rfl ?_
        refine x_fpi (μ := mu_tw_corner) (pc := 154) fX11_54 q2690 dX11_corner_154 hM33.1 (fun _ q => gTw_wI q) ?_
        refine x_let (fun s34 e35 => ?_)
        have hM36 := TM.eI e35 hM33
        refine x_aload_n (μ := mu_tw_corner) (pc := 157) 0 dX11_corner_157 rfl ?_
        refine x_iload_n (μ := mu_tw_corner) (pc := 158) 1 dX11_corner_158 rfl ?_
        refine x_fpi (μ := mu_tw_corner) (pc := 159) fX11_55 q2691 dX11_corner_159 hM36.1 (fun _ q => gTw_wI q) ?_
        refine x_let (fun s37 e38 => ?_)
        have hM39 := TM.eI e38 hM36
        refine x_iconst (μ := mu_tw_corner) (pc := 162) dX11_corner_162 ?_
        exact x_zret (μ := mu_tw_corner) (pc := 163) dX11_corner_163 rfl (by decide) rfl (gRel_Tw.1 _) (show g32 1 from (by decide))
      · refine x_iconst (μ := mu_tw_corner) (pc := 135) dX11_corner_135 ?_
        exact x_zret (μ := mu_tw_corner) (pc := 136) dX11_corner_136 rfl (by decide) rfl (gRel_Tw.1 _) (show g32 0 from (by decide))
def tw_corner_j60 (N : Nat) (h : Nat) (v2 : Int) (v3 : Int) (v4 : Int) (s : gMem) : Option (Int × gMem) := tw_corner_l66 N h v3 v4 (fun y15 y16 y17 s18 => tw_corner_j108 N h y15 v3 v4 y16 y17  s18) N v2 0 0 s
set_option maxRecDepth 100000 in
theorem okj_tw_corner_j60 {ω : gW} {l : Launch} {d : Nat} {N : Nat} {h : Nat} {σ0 : gMem} {s : gMem} {v2 : Int} {v3 : Int} {v4 : Int} (hdp : 2 ≤ d) (hM : TM s h) (hv2 : g32 v2) (hv3 : g32 v3) (hv4 : g32 v4) : GG (fun p : Int × gMem => (.inl (some (vI p.1)), p.2)) gTw ω l d mu_tw_corner σ0 60 [(0, vR h), (2, vI v2), (3, vI v3), (4, vI v4)] [] s (tw_corner_j60 N h v2 v3 v4 s) := by
  unfold tw_corner_j60
  refine x_iconst (μ := mu_tw_corner) (pc := 60) dX11_corner_60 ?_
  refine x_istore (μ := mu_tw_corner) (pc := 61) (lv' := [(5, vI 0), (0, vR h), (2, vI v2), (3, vI v3), (4, vI v4)]) dX11_corner_61 (by decide) rfl ?_
  refine x_iconst (μ := mu_tw_corner) (pc := 63) dX11_corner_63 ?_
  refine x_istore (μ := mu_tw_corner) (pc := 64) (lv' := [(6, vI 0), (5, vI 0), (0, vR h), (2, vI v2), (3, vI v3), (4, vI v4)]) dX11_corner_64 (by decide) rfl ?_
  refine x_loc (lv' := [(0, vR h), (2, vI v2), (3, vI v3), (4, vI v4), (5, vI 0), (6, vI 0)]) [2, 3, 4, 5, 1, 0] rfl ?_
  refine okl_tw_corner_l66 hdp hv3 hv4 (fun y15 y16 y17 s18 hy15 hy16 hy17 hM19 => ?_) N v2 0 0 s hv2 (by decide) (by decide) hM
  exact okj_tw_corner_j108 hdp hM19 hy15 hv3 hv4 hy16 hy17
def tw_corner_j19 (N : Nat) (h : Nat) (v2 : Int) (v3 : Int) (s : gMem) : Option (Int × gMem) := (tw_byteAt h v2 s).bind (fun x3 => (tw_in x3 65 74 s).bind (fun x5 => if x5 ≠ 0 then (tw_byteAt h (w32 (v2 + 1)) s).bind (fun x7 => if x7 ≠ 36 then tw_corner_j60 N h (w32 (v2 + 1)) v3 x3  s else tw_corner_j60 N h (w32 (w32 (v2 + 1) + 1)) (bOr v3 2) x3  s) else some (0, s)))
set_option maxRecDepth 100000 in
theorem okj_tw_corner_j19 {ω : gW} {l : Launch} {d : Nat} {N : Nat} {h : Nat} {σ0 : gMem} {s : gMem} {v2 : Int} {v3 : Int} (hdp : 2 ≤ d) (hM : TM s h) (hv2 : g32 v2) (hv3 : g32 v3) : GG (fun p : Int × gMem => (.inl (some (vI p.1)), p.2)) gTw ω l d mu_tw_corner σ0 19 [(0, vR h), (2, vI v2), (3, vI v3)] [] s (tw_corner_j19 N h v2 v3 s) := by
  unfold tw_corner_j19
  refine x_aload_n (μ := mu_tw_corner) (pc := 19) 0 dX11_corner_19 rfl ?_
  refine x_iload_n (μ := mu_tw_corner) (pc := 20) 1 dX11_corner_20 rfl ?_
  refine x_callV_pi (μ := mu_tw_corner) (pc := 21) (ok_tw_byteAt (ω := ω) (l := l) (d := d - 1) (by omega) hM hv2) gRel_Tw gRel_Tw (fun _ q => q) q2999 q3001 qs83 q232 q3002 dX11_corner_21 rfl hM.1 hy_tw_byteAt (by omega) (Nat.le_of_ble_eq_true rfl) rfl (Nat.le_of_ble_eq_true rfl) (fun x3 hr4 => ?_)
  refine x_istore (μ := mu_tw_corner) (pc := 24) (lv' := [(4, vI x3), (0, vR h), (2, vI v2), (3, vI v3)]) dX11_corner_24 (by decide) rfl ?_
  refine x_iload (μ := mu_tw_corner) (pc := 26) 0 dX11_corner_26 rfl ?_
  refine x_bipush (μ := mu_tw_corner) (pc := 28) dX11_corner_28 (by decide) ?_
  refine x_bipush (μ := mu_tw_corner) (pc := 30) dX11_corner_30 (by decide) ?_
  refine x_callS_pi (μ := mu_tw_corner) (pc := 32) (ok_tw_in (ω := ω) (l := l) (d := d - 1) (by omega) hr4 (by decide) (by decide)) gRel_Tw gRel_Tw (fun _ q => q) q2980 q2981 q232 q2982 dX11_corner_32 hy_tw_in (by omega) (Nat.le_of_ble_eq_true rfl) rfl (Nat.le_of_ble_eq_true rfl) (fun x5 hr6 => ?_)
  refine x_if_ne (μ := mu_tw_corner) (pc := 35) (tgt := 40) dX11_corner_35 rfl hr6 ?_ ?_
  · refine x_iincw (μ := mu_tw_corner) (pc := 40) (lv' := [(2, vI (w32 (v2 + 1))), (4, vI x3), (0, vR h), (3, vI v3)]) 2 dX11_corner_40 rfl (by decide) rfl ?_
    refine x_aload_n (μ := mu_tw_corner) (pc := 43) 2 dX11_corner_43 rfl ?_
    refine x_iload_n (μ := mu_tw_corner) (pc := 44) 0 dX11_corner_44 rfl ?_
    refine x_callV_pi (μ := mu_tw_corner) (pc := 45) (ok_tw_byteAt (ω := ω) (l := l) (d := d - 1) (by omega) hM (w32_rng _)) gRel_Tw gRel_Tw (fun _ q => q) q2999 q3001 qs83 q232 q3002 dX11_corner_45 rfl hM.1 hy_tw_byteAt (by omega) (Nat.le_of_ble_eq_true rfl) rfl (Nat.le_of_ble_eq_true rfl) (fun x7 hr8 => ?_)
    refine x_bipush (μ := mu_tw_corner) (pc := 48) dX11_corner_48 (by decide) ?_
    refine x_icmp_ne (μ := mu_tw_corner) (pc := 50) (tgt := 60) dX11_corner_50 rfl hr8 (by decide) ?_ ?_
    · refine x_loc (lv' := [(0, vR h), (2, vI (w32 (v2 + 1))), (3, vI v3), (4, vI x3)]) [2, 0, 3, 1] rfl ?_
      exact okj_tw_corner_j60 hdp hM (w32_rng _) hv3 hr4
    · refine x_iload_n (μ := mu_tw_corner) (pc := 53) 3 dX11_corner_53 rfl ?_
      refine x_iconst (μ := mu_tw_corner) (pc := 54) dX11_corner_54 ?_
      refine x_ior (μ := mu_tw_corner) (pc := 55) dX11_corner_55 ?_
      refine x_istore_n (μ := mu_tw_corner) (pc := 56) (lv' := [(3, vI (bOr v3 2)), (2, vI (w32 (v2 + 1))), (4, vI x3), (0, vR h)]) dX11_corner_56 rfl (by decide) rfl ?_
      refine x_iincw (μ := mu_tw_corner) (pc := 57) (lv' := [(2, vI (w32 (w32 (v2 + 1) + 1))), (3, vI (bOr v3 2)), (4, vI x3), (0, vR h)]) 1 dX11_corner_57 rfl (by decide) rfl ?_
      refine x_loc (lv' := [(0, vR h), (2, vI (w32 (w32 (v2 + 1) + 1))), (3, vI (bOr v3 2)), (4, vI x3)]) [3, 0, 1, 2] rfl ?_
      exact okj_tw_corner_j60 hdp hM (w32_rng _) (bOr_rng _ _) hr4
  · refine x_iconst (μ := mu_tw_corner) (pc := 38) dX11_corner_38 ?_
    exact x_zret (μ := mu_tw_corner) (pc := 39) dX11_corner_39 rfl (by decide) rfl (gRel_Tw.1 _) (show g32 0 from (by decide))
def tw_corner (N : Nat) (h : Nat) (v1 : Int) (σ : gMem) : Option (Int × gMem) := (tw_byteAt h v1 σ).bind (fun x1 => if x1 ≠ 36 then tw_corner_j19 N h v1 0  σ else tw_corner_j19 N h (w32 (v1 + 1)) 1  σ)
set_option maxRecDepth 100000 in
theorem ok_tw_corner {ω : gW} {l : Launch} {d : Nat} {N : Nat} {h : Nat} {σ : gMem} {v1 : Int} (hdp : 2 ≤ d) (hM : TM σ h) (hv1 : g32 v1) : gK (fun p : Int × gMem => (.inl (some (vI p.1)), p.2)) gTw ω l d mu_tw_corner [vR h, vI v1] σ (tw_corner N h v1 σ) := by
  refine gK.of hp_X11 (Nat.le_of_ble_eq_true rfl) ?_
  unfold tw_corner
  refine x_iload_n (μ := mu_tw_corner) (pc := 0) 1 dX11_corner_0 rfl ?_
  refine x_istore_n (μ := mu_tw_corner) (pc := 1) (lv' := [(2, vI v1), (0, vR h), (1, vI v1)]) dX11_corner_1 rfl (by decide) rfl ?_
  refine x_iconst (μ := mu_tw_corner) (pc := 2) dX11_corner_2 ?_
  refine x_istore_n (μ := mu_tw_corner) (pc := 3) (lv' := [(3, vI 0), (2, vI v1), (0, vR h), (1, vI v1)]) dX11_corner_3 rfl (by decide) rfl ?_
  refine x_aload_n (μ := mu_tw_corner) (pc := 4) 2 dX11_corner_4 rfl ?_
  refine x_iload_n (μ := mu_tw_corner) (pc := 5) 1 dX11_corner_5 rfl ?_
  refine x_callV_pi (μ := mu_tw_corner) (pc := 6) (ok_tw_byteAt (ω := ω) (l := l) (d := d - 1) (by omega) hM hv1) gRel_Tw gRel_Tw (fun _ q => q) q2999 q3001 qs83 q232 q3002 dX11_corner_6 rfl hM.1 hy_tw_byteAt (by omega) (Nat.le_of_ble_eq_true rfl) rfl (Nat.le_of_ble_eq_true rfl) (fun x1 hr2 => ?_)
  refine x_bipush (μ := mu_tw_corner) (pc := 9) dX11_corner_9 (by decide) ?_
  refine x_icmp_ne (μ := mu_tw_corner) (pc := 11) (tgt := 19) dX11_corner_11 rfl hr2 (by decide) ?_ ?_
  · refine x_loc (lv' := [(0, vR h), (2, vI v1), (3, vI 0)]) [2, 1, 0] rfl ?_
    exact okj_tw_corner_j19 hdp hM hv1 (by decide)
  · refine x_iconst (μ := mu_tw_corner) (pc := 14) dX11_corner_14 ?_
    refine x_istore_n (μ := mu_tw_corner) (pc := 15) (lv' := [(3, vI 1), (2, vI v1), (0, vR h), (1, vI v1)]) dX11_corner_15 rfl (by decide) rfl ?_
    refine x_iincw (μ := mu_tw_corner) (pc := 16) (lv' := [(2, vI (w32 (v1 + 1))), (3, vI 1), (0, vR h), (1, vI v1)]) 1 dX11_corner_16 rfl (by decide) rfl ?_
    refine x_loc (lv' := [(0, vR h), (2, vI (w32 (v1 + 1))), (3, vI 1)]) [2, 0, 1] rfl ?_
    exact okj_tw_corner_j19 hdp hM (w32_rng _) (by decide)
def tw_isWord_l13 (N : Nat) (h : Nat) (σ : gMem) (v1 : Int) (v2 : Int) (v3 : Nat) (K : Option Int) : Nat → Int → Option Int
  | 0, _ => none
  | n + 1, v4 => if v2 ≤ v4 then K else (tw_byteAt h (w32 (v1 + v4)) σ).bind (fun x3 => if mT σ v3 = 90 then if 0 ≤ v4 ∧ v4 < (mN σ v3 : Int) then if x3 = mI σ v3 v4.toNat then tw_isWord_l13 N h σ v1 v2 v3 K n (w32 (v4 + 1)) else some 0 else none else none)
set_option maxRecDepth 100000 in
theorem okl_tw_isWord_l13 {ω : gW} {l : Launch} {d : Nat} {N : Nat} {h : Nat} {σ : gMem} {v1 : Int} {v2 : Int} {v3 : Nat} {K : Option Int} (hdp : 5 ≤ d) (hM : TM σ h) (hv1 : g32 v1) (hv2 : g32 v2) (hK : GG (fun x : Int => (.inl (some (vI x)), σ)) gTw ω l d mu_tw_isWord σ 44 [] [] σ (K)) : ∀ (n : Nat) (v4 : Int) , g32 v4 → GG (fun x : Int => (.inl (some (vI x)), σ)) gTw ω l d mu_tw_isWord σ 13 [(0, vR h), (1, vI v1), (2, vI v2), (3, vR v3), (4, vI v4)] [] σ (tw_isWord_l13 N h σ v1 v2 v3 K n v4) := by
  intro n
  induction n with
  | zero => intros; exact x_none
  | succ n ih =>
    intro v4 hv4
    unfold tw_isWord_l13
    refine x_iload (μ := mu_tw_isWord) (pc := 13) 4 dX11_isWord_13 rfl ?_
    refine x_iload_n (μ := mu_tw_isWord) (pc := 15) 2 dX11_isWord_15 rfl ?_
    refine x_icmp_ge (μ := mu_tw_isWord) (pc := 16) (tgt := 44) dX11_isWord_16 rfl hv4 hv2 ?_ ?_
    · refine x_loc (lv' := []) [] rfl ?_
      exact hK
    · refine x_aload_n (μ := mu_tw_isWord) (pc := 19) 0 dX11_isWord_19 rfl ?_
      refine x_iload_n (μ := mu_tw_isWord) (pc := 20) 1 dX11_isWord_20 rfl ?_
      refine x_iload (μ := mu_tw_isWord) (pc := 21) 4 dX11_isWord_21 rfl ?_
      refine x_iadd (μ := mu_tw_isWord) (pc := 23) dX11_isWord_23 ?_
      refine x_w1 ?_
      refine x_callV_pi (μ := mu_tw_isWord) (pc := 24) (ok_tw_byteAt (ω := ω) (l := l) (d := d - 1) (by omega) hM (w32_rng _)) gRel_Tw gRel_Tw (fun _ q => q) q2999 q3001 qs83 q232 q3002 dX11_isWord_24 rfl hM.1 hy_tw_byteAt (by omega) (Nat.le_of_ble_eq_true rfl) rfl (Nat.le_of_ble_eq_true rfl) (fun x3 hr4 => ?_)
      refine x_aload_n (μ := mu_tw_isWord) (pc := 27) 3 dX11_isWord_27 rfl ?_
      refine x_iload (μ := mu_tw_isWord) (pc := 28) 4 dX11_isWord_28 rfl ?_
      refine x_if (fun hT5 => ?_)
      refine x_schar (μ := mu_tw_isWord) (pc := 30) q3038 dX11_isWord_30 hT5 hv4 (by omega) (Nat.le_of_ble_eq_true rfl) (fun hr6 => ?_)
      refine x_icmp_eq (μ := mu_tw_isWord) (pc := 33) (tgt := 38) dX11_isWord_33 rfl hr4 hr6 ?_ ?_
      · refine x_iincw (μ := mu_tw_isWord) (pc := 38) (lv' := [(4, vI (w32 (v4 + 1))), (0, vR h), (1, vI v1), (2, vI v2), (3, vR v3)]) 4 dX11_isWord_38 rfl (by decide) rfl ?_
        refine x_goto (μ := mu_tw_isWord) (pc := 41) (tgt := 13) dX11_isWord_41 rfl ?_
        refine x_loc (lv' := [(0, vR h), (1, vI v1), (2, vI v2), (3, vR v3), (4, vI (w32 (v4 + 1)))]) [1, 2, 3, 4, 0] rfl ?_
        exact ih (w32 (v4 + 1)) (w32_rng _)
      · refine x_iconst (μ := mu_tw_isWord) (pc := 36) dX11_isWord_36 ?_
        exact x_zret (μ := mu_tw_isWord) (pc := 37) dX11_isWord_37 rfl (by decide) rfl (gRel_Tw.1 _) (show g32 0 from (by decide))
def tw_isWord (N : Nat) (h : Nat) (v1 : Int) (v2 : Int) (v3 : Nat) (σ : gMem) : Option Int := if mT σ v3 = 90 then if w32 (mN σ v3 : Int) = v2 then tw_isWord_l13 N h σ v1 v2 v3 (some 1) N 0 else some 0 else none
set_option maxRecDepth 100000 in
theorem ok_tw_isWord {ω : gW} {l : Launch} {d : Nat} {N : Nat} {h : Nat} {σ : gMem} {v1 : Int} {v2 : Int} {v3 : Nat} (hdp : 5 ≤ d) (hM : TM σ h) (hv1 : g32 v1) (hv2 : g32 v2) : gK (fun x : Int => (.inl (some (vI x)), σ)) gTw ω l d mu_tw_isWord [vR h, vI v1, vI v2, vR v3] σ (tw_isWord N h v1 v2 v3 σ) := by
  refine gK.of hp_X11 (Nat.le_of_ble_eq_true rfl) ?_
  unfold tw_isWord
  refine x_aload_n (μ := mu_tw_isWord) (pc := 0) 3 dX11_isWord_0 rfl ?_
  refine x_if (fun hT1 => ?_)
  refine x_slen (μ := mu_tw_isWord) (pc := 1) q3037 dX11_isWord_1 hT1 (by omega) (Nat.le_of_ble_eq_true rfl) ?_
  refine x_iload_n (μ := mu_tw_isWord) (pc := 4) 2 dX11_isWord_4 rfl ?_
  refine x_w2 ?_
  refine x_icmp_eq (μ := mu_tw_isWord) (pc := 5) (tgt := 10) dX11_isWord_5 rfl (w32_rng _) hv2 ?_ ?_
  · refine x_iconst (μ := mu_tw_isWord) (pc := 10) dX11_isWord_10 ?_
    refine x_istore (μ := mu_tw_isWord) (pc := 11) (lv' := [(4, vI 0), (0, vR h), (1, vI v1), (2, vI v2), (3, vR v3)]) dX11_isWord_11 (by decide) rfl ?_
    refine x_loc (lv' := [(0, vR h), (1, vI v1), (2, vI v2), (3, vR v3), (4, vI 0)]) [1, 2, 3, 4, 0] rfl ?_
    refine okl_tw_isWord_l13 hdp hM hv1 hv2 ?_ N 0 (by decide)
    refine x_iconst (μ := mu_tw_isWord) (pc := 44) dX11_isWord_44 ?_
    exact x_zret (μ := mu_tw_isWord) (pc := 45) dX11_isWord_45 rfl (by decide) rfl (gRel_Tw.1 _) (show g32 1 from (by decide))
  · refine x_iconst (μ := mu_tw_isWord) (pc := 8) dX11_isWord_8 ?_
    exact x_zret (μ := mu_tw_isWord) (pc := 9) dX11_isWord_9 rfl (by decide) rfl (gRel_Tw.1 _) (show g32 0 from (by decide))
def tw_sign (h : Nat) (v1 : Int) (v2 : Int) (σ : gMem) : Option gMem := gLet (wI σ h 47 9) (fun s1 => gLet (wI s1 h 50 v1) (fun s4 => gLet (wI s4 h 49 v2) (fun s7 => some s7)))
set_option maxRecDepth 100000 in
theorem ok_tw_sign {ω : gW} {l : Launch} {d : Nat} {h : Nat} {σ : gMem} {v1 : Int} {v2 : Int} (hdp : 0 ≤ d) (hM : TM σ h) (hv1 : g32 v1) (hv2 : g32 v2) : gK (fun p : gMem => (.inl none, p)) gTw ω l d mu_tw_sign [vR h, vI v1, vI v2] σ (tw_sign h v1 v2 σ) := by
  refine gK.of hp_X11 (Nat.le_of_ble_eq_true rfl) ?_
  unfold tw_sign
  refine x_aload_n (μ := mu_tw_sign) (pc := 0) 0 dX11_sign_0 rfl ?_
  refine x_bipush (μ := mu_tw_sign) (pc := 1) dX11_sign_1 (by decide) ?_
  refine x_fpi (μ := mu_tw_sign) (pc := 3) fX11_47 q2683 dX11_sign_3 hM.1 (fun _ q => gTw_wI q) ?_
  refine x_let (fun s1 e2 => ?_)
  have hM3 := TM.eI e2 hM
  refine x_aload_n (μ := mu_tw_sign) (pc := 6) 0 dX11_sign_6 rfl ?_
  refine x_iload_n (μ := mu_tw_sign) (pc := 7) 1 dX11_sign_7 rfl ?_
  refine x_fpi (μ := mu_tw_sign) (pc := 8) fX11_50 q2686 dX11_sign_8 hM3.1 (fun _ q => gTw_wI q) ?_
  refine x_let (fun s4 e5 => ?_)
  have hM6 := TM.eI e5 hM3
  refine x_aload_n (μ := mu_tw_sign) (pc := 11) 0 dX11_sign_11 rfl ?_
  refine x_iload_n (μ := mu_tw_sign) (pc := 12) 2 dX11_sign_12 rfl ?_
  refine x_fpi (μ := mu_tw_sign) (pc := 13) fX11_49 q2685 dX11_sign_13 hM6.1 (fun _ q => gTw_wI q) ?_
  refine x_let (fun s7 e8 => ?_)
  have hM9 := TM.eI e8 hM6
  exact x_vret (μ := mu_tw_sign) (pc := 16) (a1 := s7) dX11_sign_16 rfl rfl (gRel_Tw.1 _) trivial
def tw_isSignOf (h : Nat) (v1 : Int) (v2 : Int) (σ : gMem) : Option Int := if mI σ h 41 ≠ 0 then some 0 else if mI σ h 47 ≠ 9 then some 0 else (tw_in (mI σ h 50) v1 v2 σ).bind (fun x4 => if x4 = 0 then some 0 else some 1)
set_option maxRecDepth 100000 in
theorem ok_tw_isSignOf {ω : gW} {l : Launch} {d : Nat} {h : Nat} {σ : gMem} {v1 : Int} {v2 : Int} (hdp : 1 ≤ d) (hM : TM σ h) (hv1 : g32 v1) (hv2 : g32 v2) : gK (fun x : Int => (.inl (some (vI x)), σ)) gTw ω l d mu_tw_isSignOf [vR h, vI v1, vI v2] σ (tw_isSignOf h v1 v2 σ) := by
  refine gK.of hp_X11 (Nat.le_of_ble_eq_true rfl) ?_
  unfold tw_isSignOf
  refine x_aload_n (μ := mu_tw_isSignOf) (pc := 0) 0 dX11_isSignOf_0 rfl ?_
  refine x_fgi (μ := mu_tw_isSignOf) (pc := 1) fX11_41 q2677 dX11_isSignOf_1 hM.1 (fun hr1 => ?_)
  refine x_if_ne (μ := mu_tw_isSignOf) (pc := 4) (tgt := 32) dX11_isSignOf_4 rfl hr1 ?_ ?_
  · refine x_iconst (μ := mu_tw_isSignOf) (pc := 32) dX11_isSignOf_32 ?_
    exact x_zret (μ := mu_tw_isSignOf) (pc := 33) dX11_isSignOf_33 rfl (by decide) rfl (gRel_Tw.1 _) (show g32 0 from (by decide))
  · refine x_aload_n (μ := mu_tw_isSignOf) (pc := 7) 0 dX11_isSignOf_7 rfl ?_
    refine x_fgi (μ := mu_tw_isSignOf) (pc := 8) fX11_47 q2683 dX11_isSignOf_8 hM.1 (fun hr2 => ?_)
    refine x_bipush (μ := mu_tw_isSignOf) (pc := 11) dX11_isSignOf_11 (by decide) ?_
    refine x_icmp_ne (μ := mu_tw_isSignOf) (pc := 13) (tgt := 32) dX11_isSignOf_13 rfl hr2 (by decide) ?_ ?_
    · refine x_iconst (μ := mu_tw_isSignOf) (pc := 32) dX11_isSignOf_32 ?_
      exact x_zret (μ := mu_tw_isSignOf) (pc := 33) dX11_isSignOf_33 rfl (by decide) rfl (gRel_Tw.1 _) (show g32 0 from (by decide))
    · refine x_aload_n (μ := mu_tw_isSignOf) (pc := 16) 0 dX11_isSignOf_16 rfl ?_
      refine x_fgi (μ := mu_tw_isSignOf) (pc := 17) fX11_50 q2686 dX11_isSignOf_17 hM.1 (fun hr3 => ?_)
      refine x_iload_n (μ := mu_tw_isSignOf) (pc := 20) 1 dX11_isSignOf_20 rfl ?_
      refine x_iload_n (μ := mu_tw_isSignOf) (pc := 21) 2 dX11_isSignOf_21 rfl ?_
      refine x_callS_pi (μ := mu_tw_isSignOf) (pc := 22) (ok_tw_in (ω := ω) (l := l) (d := d - 1) (by omega) hr3 hv1 hv2) gRel_Tw gRel_Tw (fun _ q => q) q2980 q2981 q232 q2982 dX11_isSignOf_22 hy_tw_in (by omega) (Nat.le_of_ble_eq_true rfl) rfl (Nat.le_of_ble_eq_true rfl) (fun x4 hr5 => ?_)
      refine x_if_eq (μ := mu_tw_isSignOf) (pc := 25) (tgt := 32) dX11_isSignOf_25 rfl hr5 ?_ ?_
      · refine x_iconst (μ := mu_tw_isSignOf) (pc := 32) dX11_isSignOf_32 ?_
        exact x_zret (μ := mu_tw_isSignOf) (pc := 33) dX11_isSignOf_33 rfl (by decide) rfl (gRel_Tw.1 _) (show g32 0 from (by decide))
      · refine x_iconst (μ := mu_tw_isSignOf) (pc := 28) dX11_isSignOf_28 ?_
        refine x_goto (μ := mu_tw_isSignOf) (pc := 29) (tgt := 33) dX11_isSignOf_29 rfl ?_
        exact x_zret (μ := mu_tw_isSignOf) (pc := 33) dX11_isSignOf_33 rfl (by decide) rfl (gRel_Tw.1 _) (show g32 1 from (by decide))
def tw_fail (h : Nat) (v1 : Int) (v2 : Int) (σ : gMem) : Option gMem := if mI σ h 41 ≠ 0 then some σ else gLet (wI σ h 41 v1) (fun s2 => gLet (wI s2 h 42 v2) (fun s5 => some s5))
set_option maxRecDepth 100000 in
theorem ok_tw_fail {ω : gW} {l : Launch} {d : Nat} {h : Nat} {σ : gMem} {v1 : Int} {v2 : Int} (hdp : 0 ≤ d) (hM : TM σ h) (hv1 : g32 v1) (hv2 : g32 v2) : gK (fun p : gMem => (.inl none, p)) gTw ω l d mu_tw_fail [vR h, vI v1, vI v2] σ (tw_fail h v1 v2 σ) := by
  refine gK.of hp_X11 (Nat.le_of_ble_eq_true rfl) ?_
  unfold tw_fail
  refine x_aload_n (μ := mu_tw_fail) (pc := 0) 0 dX11_fail_0 rfl ?_
  refine x_fgi (μ := mu_tw_fail) (pc := 1) fX11_41 q2677 dX11_fail_1 hM.1 (fun hr1 => ?_)
  refine x_if_ne (μ := mu_tw_fail) (pc := 4) (tgt := 17) dX11_fail_4 rfl hr1 ?_ ?_
  · exact x_vret (μ := mu_tw_fail) (pc := 17) (a1 := σ) dX11_fail_17 rfl rfl (gRel_Tw.1 _) trivial
  · refine x_aload_n (μ := mu_tw_fail) (pc := 7) 0 dX11_fail_7 rfl ?_
    refine x_iload_n (μ := mu_tw_fail) (pc := 8) 1 dX11_fail_8 rfl ?_
    refine x_fpi (μ := mu_tw_fail) (pc := 9) fX11_41 q2677 dX11_fail_9 hM.1 (fun _ q => gTw_wI q) ?_
    refine x_let (fun s2 e3 => ?_)
    have hM4 := TM.eI e3 hM
    refine x_aload_n (μ := mu_tw_fail) (pc := 12) 0 dX11_fail_12 rfl ?_
    refine x_iload_n (μ := mu_tw_fail) (pc := 13) 2 dX11_fail_13 rfl ?_
    refine x_fpi (μ := mu_tw_fail) (pc := 14) fX11_42 q2678 dX11_fail_14 hM4.1 (fun _ q => gTw_wI q) ?_
    refine x_let (fun s5 e6 => ?_)
    have hM7 := TM.eI e6 hM4
    exact x_vret (μ := mu_tw_fail) (pc := 17) (a1 := s5) dX11_fail_17 rfl rfl (gRel_Tw.1 _) trivial
def tw_part_l54 (N : Nat) (h : Nat) (v2 : Int) (v3 : Int) (K : Int → gMem → Option (Int × gMem)) : Nat → Int → Int → Int → gMem → Option (Int × gMem)
  | 0, _, _, _, _ => none
  | n + 1, v4, v5, v6, s => if v2 ≤ v6 then K v4 s else if 0 ≤ v5 ∧ v5 < ((60420 : Nat) : Int) then if 0 ≤ v5 ∧ v5 < ((60420 : Nat) : Int) then tw_part_l54 N h v2 v3 K n (w32 (v4 + (mI s (h + 16) v5.toNat))) (w32 (v5 - (mI s (h + 16) v5.toNat))) (w32 (v6 + 1)) s else none else none
set_option maxRecDepth 100000 in
theorem okl_tw_part_l54 {ω : gW} {l : Launch} {d : Nat} {N : Nat} {h : Nat} {σ0 : gMem} {v2 : Int} {v3 : Int} {K : Int → gMem → Option (Int × gMem)} (hdp : 0 ≤ d) (hv2 : g32 v2) (hv3 : g32 v3) (hK : ∀ (v4 : Int) (s : gMem) , g32 v4 → TM s h → GG (fun p : Int × gMem => (.inl (some (vI p.1)), p.2)) gTw ω l d mu_tw_part σ0 90 [(0, vR h), (3, vI v3), (4, vI v4)] [] s (K v4 s)) : ∀ (n : Nat) (v4 : Int) (v5 : Int) (v6 : Int) (s : gMem) , g32 v4 → g32 v5 → g32 v6 → TM s h → GG (fun p : Int × gMem => (.inl (some (vI p.1)), p.2)) gTw ω l d mu_tw_part σ0 54 [(0, vR h), (2, vI v2), (3, vI v3), (4, vI v4), (5, vI v5), (6, vI v6)] [] s (tw_part_l54 N h v2 v3 K n v4 v5 v6 s) := by
  intro n
  induction n with
  | zero => intros; exact x_none
  | succ n ih =>
    intro v4 v5 v6 s hv4 hv5 hv6 hM
    unfold tw_part_l54
    refine x_iload (μ := mu_tw_part) (pc := 54) 5 dX11_part_54 rfl ?_
    refine x_iload_n (μ := mu_tw_part) (pc := 56) 1 dX11_part_56 rfl ?_
    refine x_icmp_ge (μ := mu_tw_part) (pc := 57) (tgt := 90) dX11_part_57 rfl hv6 hv2 ?_ ?_
    · refine x_loc (lv' := [(0, vR h), (3, vI v3), (4, vI v4)]) [0, 2, 3] rfl ?_
      exact hK v4 s hv4 hM
    · refine x_iload (μ := mu_tw_part) (pc := 60) 3 dX11_part_60 rfl ?_
      refine x_aload_n (μ := mu_tw_part) (pc := 62) 0 dX11_part_62 rfl ?_
      refine x_fgrE (μ := mu_tw_part) (pc := 63) fX11_28 (Or.inr ⟨_, rfl⟩) q2664 (hM.a28).1 dX11_part_63 hM.1 ?_
      refine x_iload (μ := mu_tw_part) (pc := 66) 4 dX11_part_66 rfl ?_
      refine x_iald (μ := mu_tw_part) (pc := 68) dX11_part_68 (hM.a28).2.1 (hM.a28).2.2 (fun hr14 => ?_)
      refine x_iadd (μ := mu_tw_part) (pc := 69) dX11_part_69 ?_
      refine x_w1 ?_
      refine x_istore (μ := mu_tw_part) (pc := 70) (lv' := [(4, vI (w32 (v4 + (mI s (h + 16) v5.toNat)))), (0, vR h), (2, vI v2), (3, vI v3), (5, vI v5), (6, vI v6)]) dX11_part_70 (by decide) rfl ?_
      refine x_iload (μ := mu_tw_part) (pc := 72) 4 dX11_part_72 rfl ?_
      refine x_aload_n (μ := mu_tw_part) (pc := 74) 1 dX11_part_74 rfl ?_
      refine x_fgrE (μ := mu_tw_part) (pc := 75) fX11_28 (Or.inr ⟨_, rfl⟩) q2664 (hM.a28).1 dX11_part_75 hM.1 ?_
      refine x_iload (μ := mu_tw_part) (pc := 78) 4 dX11_part_78 rfl ?_
      refine x_iald (μ := mu_tw_part) (pc := 80) dX11_part_80 (hM.a28).2.1 (hM.a28).2.2 (fun hr15 => ?_)
      refine x_isub (μ := mu_tw_part) (pc := 81) dX11_part_81 ?_
      refine x_w1 ?_
      refine x_istore (μ := mu_tw_part) (pc := 82) (lv' := [(5, vI (w32 (v5 - (mI s (h + 16) v5.toNat)))), (4, vI (w32 (v4 + (mI s (h + 16) v5.toNat)))), (0, vR h), (2, vI v2), (3, vI v3), (6, vI v6)]) dX11_part_82 (by decide) rfl ?_
      refine x_iincw (μ := mu_tw_part) (pc := 84) (lv' := [(6, vI (w32 (v6 + 1))), (5, vI (w32 (v5 - (mI s (h + 16) v5.toNat)))), (4, vI (w32 (v4 + (mI s (h + 16) v5.toNat)))), (0, vR h), (2, vI v2), (3, vI v3)]) 5 dX11_part_84 rfl (by decide) rfl ?_
      refine x_goto (μ := mu_tw_part) (pc := 87) (tgt := 54) dX11_part_87 rfl ?_
      refine x_loc (lv' := [(0, vR h), (2, vI v2), (3, vI v3), (4, vI (w32 (v4 + (mI s (h + 16) v5.toNat)))), (5, vI (w32 (v5 - (mI s (h + 16) v5.toNat)))), (6, vI (w32 (v6 + 1)))]) [3, 4, 5, 2, 1, 0] rfl ?_
      exact ih (w32 (v4 + (mI s (h + 16) v5.toNat))) (w32 (v5 - (mI s (h + 16) v5.toNat))) (w32 (v6 + 1)) s (w32_rng _) (w32_rng _) (w32_rng _) hM
set_option maxRecDepth 100000 in
def tw_part (N : Nat) (h : Nat) (v1 : Int) (v2 : Int) (σ : gMem) : Option (Int × gMem) := if mI σ h 41 ≤ 0 then gLet (wI σ h 56 (w32 ((mI σ h 56) + 1))) (fun s5 => if 0 ≤ (w32 ((mI σ h 25) + (mI σ h 56))) ∧ (w32 ((mI σ h 25) + (mI σ h 56))) < ((60420 : Nat) : Int) then gLet (wI s5 (h + 14) (w32 ((mI σ h 25) + (mI σ h 56))).toNat v1) (fun s8 => if 0 ≤ (w32 ((mI σ h 25) + (mI σ h 56))) ∧ (w32 ((mI σ h 25) + (mI σ h 56))) < ((60420 : Nat) : Int) then gLet (wI s8 (h + 15) (w32 ((mI σ h 25) + (mI σ h 56))).toNat v2) (fun s11 => tw_part_l54 N h v2 (w32 ((mI σ h 25) + (mI σ h 56))) (fun y16 s17 => if 0 ≤ (w32 ((mI σ h 25) + (mI σ h 56))) ∧ (w32 ((mI σ h 25) + (mI σ h 56))) < ((60420 : Nat) : Int) then gLet (wI s17 (h + 16) (w32 ((mI σ h 25) + (mI σ h 56))).toNat y16) (fun s19 => if 0 ≤ (w32 ((mI σ h 25) + (mI σ h 56))) ∧ (w32 ((mI σ h 25) + (mI σ h 56))) < ((60420 : Nat) : Int) then gLet (wL s19 (h + 17) (w32 ((mI σ h 25) + (mI σ h 56))).toNat (((0 : Fin 2) : Nat) : Int)) (fun s22 => if 0 ≤ (w32 ((mI σ h 25) + (mI σ h 56))) ∧ (w32 ((mI σ h 25) + (mI σ h 56))) < ((60420 : Nat) : Int) then gLet (wI s22 (h + 18) (w32 ((mI σ h 25) + (mI σ h 56))).toNat 0) (fun s25 => if 0 ≤ (w32 ((mI σ h 25) + (mI σ h 56))) ∧ (w32 ((mI σ h 25) + (mI σ h 56))) < ((60420 : Nat) : Int) then gLet (wI s25 (h + 19) (w32 ((mI σ h 25) + (mI σ h 56))).toNat 0) (fun s28 => if 0 ≤ (w32 ((mI σ h 25) + (mI σ h 56))) ∧ (w32 ((mI σ h 25) + (mI σ h 56))) < ((60420 : Nat) : Int) then gLet (wI s28 (h + 20) (w32 ((mI σ h 25) + (mI σ h 56))).toNat (-1)) (fun s31 => if 0 ≤ (w32 ((mI σ h 25) + (mI σ h 56))) ∧ (w32 ((mI σ h 25) + (mI σ h 56))) < ((60420 : Nat) : Int) then gLet (wI s31 (h + 21) (w32 ((mI σ h 25) + (mI σ h 56))).toNat (-1)) (fun s34 => if 0 ≤ (w32 ((mI σ h 25) + (mI σ h 56))) ∧ (w32 ((mI σ h 25) + (mI σ h 56))) < ((60420 : Nat) : Int) then gLet (wI s34 (h + 22) (w32 ((mI σ h 25) + (mI σ h 56))).toNat (-1)) (fun s37 => if 0 ≤ (w32 ((mI σ h 25) + (mI σ h 56))) ∧ (w32 ((mI σ h 25) + (mI σ h 56))) < ((60420 : Nat) : Int) then gLet (wI s37 (h + 23) (w32 ((mI σ h 25) + (mI σ h 56))).toNat (-1)) (fun s40 => if 0 ≤ (w32 ((mI σ h 25) + (mI σ h 56))) ∧ (w32 ((mI σ h 25) + (mI σ h 56))) < ((60420 : Nat) : Int) then gLet (wI s40 (h + 24) (w32 ((mI σ h 25) + (mI σ h 56))).toNat 0) (fun s43 => if 0 ≤ (w32 ((mI σ h 25) + (mI σ h 56))) ∧ (w32 ((mI σ h 25) + (mI σ h 56))) < ((60420 : Nat) : Int) then gLet (wI s43 (h + 25) (w32 ((mI σ h 25) + (mI σ h 56))).toNat (-1)) (fun s46 => some (w32 ((mI σ h 25) + (mI σ h 56)), s46)) else none) else none) else none) else none) else none) else none) else none) else none) else none) else none) N 1 (w32 ((w32 ((mI σ h 25) + (mI σ h 56))) - 1)) 0 s11) else none) else none) else some (w32 ((mI σ h 25) + (mI σ h 56)), σ)
set_option maxRecDepth 100000 in
theorem ok_tw_part {ω : gW} {l : Launch} {d : Nat} {N : Nat} {h : Nat} {σ : gMem} {v1 : Int} {v2 : Int} (hdp : 0 ≤ d) (hM : TM σ h) (hv1 : g32 v1) (hv2 : g32 v2) : gK (fun p : Int × gMem => (.inl (some (vI p.1)), p.2)) gTw ω l d mu_tw_part [vR h, vI v1, vI v2] σ (tw_part N h v1 v2 σ) := by
  refine gK.of hp_X11 (Nat.le_of_ble_eq_true rfl) ?_
  unfold tw_part
  refine x_aload_n (μ := mu_tw_part) (pc := 0) 0 dX11_part_0 rfl ?_
  refine x_fgi (μ := mu_tw_part) (pc := 1) fX11_25 q2661 dX11_part_1 hM.1 (fun hr1 => ?_)
  refine x_aload_n (μ := mu_tw_part) (pc := 4) 0 dX11_part_4 rfl ?_
  refine x_fgi (μ := mu_tw_part) (pc := 5) fX11_56 q2692 dX11_part_5 hM.1 (fun hr2 => ?_)
  refine x_iadd (μ := mu_tw_part) (pc := 8) dX11_part_8 ?_
  refine x_w1 ?_
  refine x_istore_n (μ := mu_tw_part) (pc := 9) (lv' := [(3, vI (w32 ((mI σ h 25) + (mI σ h 56)))), (0, vR h), (1, vI v1), (2, vI v2)]) dX11_part_9 rfl (by decide) rfl ?_
  refine x_aload_n (μ := mu_tw_part) (pc := 10) 1 dX11_part_10 rfl ?_
  refine x_fgi (μ := mu_tw_part) (pc := 11) fX11_41 q2677 dX11_part_11 hM.1 (fun hr3 => ?_)
  refine x_if_le (μ := mu_tw_part) (pc := 14) (tgt := 19) dX11_part_14 rfl hr3 ?_ ?_
  · refine x_aload_n (μ := mu_tw_part) (pc := 19) 1 dX11_part_19 rfl ?_
    refine x_dup (μ := mu_tw_part) (pc := 20) dX11_part_20 rfl ?_
    refine x_fgi (μ := mu_tw_part) (pc := 21) fX11_56 q2692 dX11_part_21 hM.1 (fun hr4 => ?_)
    refine x_iconst (μ := mu_tw_part) (pc := 24) dX11_part_24 ?_
    refine x_iadd (μ := mu_tw_part) (pc := 25) dX11_part_25 ?_
    refine x_w1 ?_
    refine x_fpi (μ := mu_tw_part) (pc := 26) fX11_56 q2692 dX11_part_26 hM.1 (fun _ q => gTw_wI q) ?_
    refine x_let (fun s5 e6 => ?_)
    have hM7 := TM.eI e6 hM
    refine x_aload_n (μ := mu_tw_part) (pc := 29) 1 dX11_part_29 rfl ?_
    refine x_fgrE (μ := mu_tw_part) (pc := 30) fX11_26 (Or.inr ⟨_, rfl⟩) q2662 (hM7.a26).1 dX11_part_30 hM7.1 ?_
    refine x_iload_n (μ := mu_tw_part) (pc := 33) 0 dX11_part_33 rfl ?_
    refine x_iload_n (μ := mu_tw_part) (pc := 34) 2 dX11_part_34 rfl ?_
    refine x_iast (μ := mu_tw_part) (pc := 35) dX11_part_35 (hM7.a26).2.1 (hM7.a26).2.2 (fun _ _ q => gTw_wI q) ?_
    refine x_let (fun s8 e9 => ?_)
    have hM10 := TM.eI e9 hM7
    refine x_aload_n (μ := mu_tw_part) (pc := 36) 1 dX11_part_36 rfl ?_
    refine x_fgrE (μ := mu_tw_part) (pc := 37) fX11_27 (Or.inr ⟨_, rfl⟩) q2663 (hM10.a27).1 dX11_part_37 hM10.1 ?_
    refine x_iload_n (μ := mu_tw_part) (pc := 40) 0 dX11_part_40 rfl ?_
    refine x_iload_n (μ := mu_tw_part) (pc := 41) 3 dX11_part_41 rfl ?_
    refine x_iast (μ := mu_tw_part) (pc := 42) dX11_part_42 (hM10.a27).2.1 (hM10.a27).2.2 (fun _ _ q => gTw_wI q) ?_
    refine x_let (fun s11 e12 => ?_)
    have hM13 := TM.eI e12 hM10
    refine x_iconst (μ := mu_tw_part) (pc := 43) dX11_part_43 ?_
    refine x_istore (μ := mu_tw_part) (pc := 44) (lv' := [(4, vI 1), (3, vI (w32 ((mI σ h 25) + (mI σ h 56)))), (0, vR h), (1, vI v1), (2, vI v2)]) dX11_part_44 (by decide) rfl ?_
    refine x_iload_n (μ := mu_tw_part) (pc := 46) 1 dX11_part_46 rfl ?_
    refine x_iconst (μ := mu_tw_part) (pc := 47) dX11_part_47 ?_
    refine x_isub (μ := mu_tw_part) (pc := 48) dX11_part_48 ?_
    refine x_w1 ?_
    refine x_istore (μ := mu_tw_part) (pc := 49) (lv' := [(5, vI (w32 ((w32 ((mI σ h 25) + (mI σ h 56))) - 1))), (4, vI 1), (3, vI (w32 ((mI σ h 25) + (mI σ h 56)))), (0, vR h), (1, vI v1), (2, vI v2)]) dX11_part_49 (by decide) rfl ?_
    refine x_iconst (μ := mu_tw_part) (pc := 51) dX11_part_51 ?_
    refine x_istore (μ := mu_tw_part) (pc := 52) (lv' := [(6, vI 0), (5, vI (w32 ((w32 ((mI σ h 25) + (mI σ h 56))) - 1))), (4, vI 1), (3, vI (w32 ((mI σ h 25) + (mI σ h 56)))), (0, vR h), (1, vI v1), (2, vI v2)]) dX11_part_52 (by decide) rfl ?_
    refine x_loc (lv' := [(0, vR h), (2, vI v2), (3, vI (w32 ((mI σ h 25) + (mI σ h 56)))), (4, vI 1), (5, vI (w32 ((w32 ((mI σ h 25) + (mI σ h 56))) - 1))), (6, vI 0)]) [4, 6, 3, 2, 1, 0] rfl ?_
    refine okl_tw_part_l54 hdp hv2 (w32_rng _) (fun y16 s17 hy16 hM18 => ?_) N 1 (w32 ((w32 ((mI σ h 25) + (mI σ h 56))) - 1)) 0 s11 (by decide) (w32_rng _) (by decide) hM13
    refine x_aload_n (μ := mu_tw_part) (pc := 90) 0 dX11_part_90 rfl ?_
    refine x_fgrE (μ := mu_tw_part) (pc := 91) fX11_28 (Or.inr ⟨_, rfl⟩) q2664 (hM18.a28).1 dX11_part_91 hM18.1 ?_
    refine x_iload_n (μ := mu_tw_part) (pc := 94) 1 dX11_part_94 rfl ?_
    refine x_iload (μ := mu_tw_part) (pc := 95) 2 dX11_part_95 rfl ?_
    refine x_iast (μ := mu_tw_part) (pc := 97) dX11_part_97 (hM18.a28).2.1 (hM18.a28).2.2 (fun _ _ q => gTw_wI q) ?_
    refine x_let (fun s19 e20 => ?_)
    have hM21 := TM.eI e20 hM18
    refine x_aload_n (μ := mu_tw_part) (pc := 98) 0 dX11_part_98 rfl ?_
    refine x_fgrE (μ := mu_tw_part) (pc := 99) fX11_29 (Or.inr ⟨_, rfl⟩) q2665 (hM21.a29).1 dX11_part_99 hM21.1 ?_
    refine x_iload_n (μ := mu_tw_part) (pc := 102) 1 dX11_part_102 rfl ?_
    refine x_lconst (μ := mu_tw_part) (pc := 103) dX11_part_103 ?_
    refine x_last (μ := mu_tw_part) (pc := 104) dX11_part_104 (hM21.a29).2.1 (hM21.a29).2.2 (fun _ _ q => gTw_wL q) ?_
    refine x_let (fun s22 e23 => ?_)
    have hM24 := TM.eL e23 hM21
    refine x_aload_n (μ := mu_tw_part) (pc := 105) 0 dX11_part_105 rfl ?_
    refine x_fgrE (μ := mu_tw_part) (pc := 106) fX11_30 (Or.inr ⟨_, rfl⟩) q2666 (hM24.a30).1 dX11_part_106 hM24.1 ?_
    refine x_iload_n (μ := mu_tw_part) (pc := 109) 1 dX11_part_109 rfl ?_
    refine x_iconst (μ := mu_tw_part) (pc := 110) dX11_part_110 ?_
    refine x_iast (μ := mu_tw_part) (pc := 111) dX11_part_111 (hM24.a30).2.1 (hM24.a30).2.2 (fun _ _ q => gTw_wI q) ?_
    refine x_let (fun s25 e26 => ?_)
    have hM27 := TM.eI e26 hM24
    refine x_aload_n (μ := mu_tw_part) (pc := 112) 0 dX11_part_112 rfl ?_
    refine x_fgrE (μ := mu_tw_part) (pc := 113) fX11_31 (Or.inr ⟨_, rfl⟩) q2667 (hM27.a31).1 dX11_part_113 hM27.1 ?_
    refine x_iload_n (μ := mu_tw_part) (pc := 116) 1 dX11_part_116 rfl ?_
    refine x_iconst (μ := mu_tw_part) (pc := 117) dX11_part_117 ?_
    refine x_iast (μ := mu_tw_part) (pc := 118) dX11_part_118 (hM27.a31).2.1 (hM27.a31).2.2 (fun _ _ q => gTw_wI q) ?_
    refine x_let (fun s28 e29 => ?_)
    have hM30 := TM.eI e29 hM27
    refine x_aload_n (μ := mu_tw_part) (pc := 119) 0 dX11_part_119 rfl ?_
    refine x_fgrE (μ := mu_tw_part) (pc := 120) fX11_32 (Or.inr ⟨_, rfl⟩) q2668 (hM30.a32).1 dX11_part_120 hM30.1 ?_
    refine x_iload_n (μ := mu_tw_part) (pc := 123) 1 dX11_part_123 rfl ?_
    refine x_iconst (μ := mu_tw_part) (pc := 124) dX11_part_124 ?_
    refine x_iast (μ := mu_tw_part) (pc := 125) dX11_part_125 (hM30.a32).2.1 (hM30.a32).2.2 (fun _ _ q => gTw_wI q) ?_
    refine x_let (fun s31 e32 => ?_)
    have hM33 := TM.eI e32 hM30
    refine x_aload_n (μ := mu_tw_part) (pc := 126) 0 dX11_part_126 rfl ?_
    refine x_fgrE (μ := mu_tw_part) (pc := 127) fX11_33 (Or.inr ⟨_, rfl⟩) q2669 (hM33.a33).1 dX11_part_127 hM33.1 ?_
    refine x_iload_n (μ := mu_tw_part) (pc := 130) 1 dX11_part_130 rfl ?_
    refine x_iconst (μ := mu_tw_part) (pc := 131) dX11_part_131 ?_
    refine x_iast (μ := mu_tw_part) (pc := 132) dX11_part_132 (hM33.a33).2.1 (hM33.a33).2.2 (fun _ _ q => gTw_wI q) ?_
    refine x_let (fun s34 e35 => ?_)
    have hM36 := TM.eI e35 hM33
    refine x_aload_n (μ := mu_tw_part) (pc := 133) 0 dX11_part_133 rfl ?_
    refine x_fgrE (μ := mu_tw_part) (pc := 134) fX11_34 (Or.inr ⟨_, rfl⟩) q2670 (hM36.a34).1 dX11_part_134 hM36.1 ?_
    refine x_iload_n (μ := mu_tw_part) (pc := 137) 1 dX11_part_137 rfl ?_
    refine x_iconst (μ := mu_tw_part) (pc := 138) dX11_part_138 ?_
    refine x_iast (μ := mu_tw_part) (pc := 139) dX11_part_139 (hM36.a34).2.1 (hM36.a34).2.2 (fun _ _ q => gTw_wI q) ?_
    refine x_let (fun s37 e38 => ?_)
    have hM39 := TM.eI e38 hM36
    refine x_aload_n (μ := mu_tw_part) (pc := 140) 0 dX11_part_140 rfl ?_
    refine x_fgrE (μ := mu_tw_part) (pc := 141) fX11_35 (Or.inr ⟨_, rfl⟩) q2671 (hM39.a35).1 dX11_part_141 hM39.1 ?_
    refine x_iload_n (μ := mu_tw_part) (pc := 144) 1 dX11_part_144 rfl ?_
    refine x_iconst (μ := mu_tw_part) (pc := 145) dX11_part_145 ?_
    refine x_iast (μ := mu_tw_part) (pc := 146) dX11_part_146 (hM39.a35).2.1 (hM39.a35).2.2 (fun _ _ q => gTw_wI q) ?_
    refine x_let (fun s40 e41 => ?_)
    have hM42 := TM.eI e41 hM39
    refine x_aload_n (μ := mu_tw_part) (pc := 147) 0 dX11_part_147 rfl ?_
    refine x_fgrE (μ := mu_tw_part) (pc := 148) fX11_36 (Or.inr ⟨_, rfl⟩) q2672 (hM42.a36).1 dX11_part_148 hM42.1 ?_
    refine x_iload_n (μ := mu_tw_part) (pc := 151) 1 dX11_part_151 rfl ?_
    refine x_iconst (μ := mu_tw_part) (pc := 152) dX11_part_152 ?_
    refine x_iast (μ := mu_tw_part) (pc := 153) dX11_part_153 (hM42.a36).2.1 (hM42.a36).2.2 (fun _ _ q => gTw_wI q) ?_
    refine x_let (fun s43 e44 => ?_)
    have hM45 := TM.eI e44 hM42
    refine x_aload_n (μ := mu_tw_part) (pc := 154) 0 dX11_part_154 rfl ?_
    refine x_fgrE (μ := mu_tw_part) (pc := 155) fX11_37 (Or.inr ⟨_, rfl⟩) q2673 (hM45.a37).1 dX11_part_155 hM45.1 ?_
    refine x_iload_n (μ := mu_tw_part) (pc := 158) 1 dX11_part_158 rfl ?_
    refine x_iconst (μ := mu_tw_part) (pc := 159) dX11_part_159 ?_
    refine x_iast (μ := mu_tw_part) (pc := 160) dX11_part_160 (hM45.a37).2.1 (hM45.a37).2.2 (fun _ _ q => gTw_wI q) ?_
    refine x_let (fun s46 e47 => ?_)
    have hM48 := TM.eI e47 hM45
    refine x_iload_n (μ := mu_tw_part) (pc := 161) 1 dX11_part_161 rfl ?_
    exact x_iret (μ := mu_tw_part) (pc := 162) dX11_part_162 rfl rfl (gRel_Tw.1 _) (show g32 (w32 ((mI σ h 25) + (mI σ h 56))) from (w32_rng _))
  · refine x_iload_n (μ := mu_tw_part) (pc := 17) 0 dX11_part_17 rfl ?_
    exact x_iret (μ := mu_tw_part) (pc := 18) dX11_part_18 rfl rfl (gRel_Tw.1 _) (show g32 (w32 ((mI σ h 25) + (mI σ h 56))) from (w32_rng _))
def tw_numberFrom_l5 (N : Nat) (h : Nat) (σ : gMem) (v2 : Int) (K : Int → Option Int) : Nat → Int → Int → Option Int
  | 0, _, _ => none
  | n + 1, v3, v5 => if v2 ≤ v5 then K v3 else if 0 ≤ v5 ∧ v5 < ((400 : Nat) : Int) then tw_numberFrom_l5 N h σ v2 K n (w64 (((10 * v3) + (mI σ (h + 27) v5.toNat)) - 48)) (w32 (v5 + 1)) else none
set_option maxRecDepth 100000 in
theorem okl_tw_numberFrom_l5 {ω : gW} {l : Launch} {d : Nat} {N : Nat} {h : Nat} {σ : gMem} {v2 : Int} {K : Int → Option Int} (hdp : 0 ≤ d) (hM : TM σ h) (hv2 : g32 v2) (hK : ∀ (v3 : Int) , g64 v3 → GG (fun x : Int => (.inl (some (vL x)), σ)) gTw ω l d mu_tw_numberFrom σ 36 [(3, vL v3)] [] σ (K v3)) : ∀ (n : Nat) (v3 : Int) (v5 : Int) , g64 v3 → g32 v5 → GG (fun x : Int => (.inl (some (vL x)), σ)) gTw ω l d mu_tw_numberFrom σ 5 [(0, vR h), (2, vI v2), (3, vL v3), (5, vI v5)] [] σ (tw_numberFrom_l5 N h σ v2 K n v3 v5) := by
  intro n
  induction n with
  | zero => intros; exact x_none
  | succ n ih =>
    intro v3 v5 hv3 hv5
    unfold tw_numberFrom_l5
    refine x_iload (μ := mu_tw_numberFrom) (pc := 5) 3 dX11_numberFrom_5 rfl ?_
    refine x_iload_n (μ := mu_tw_numberFrom) (pc := 7) 1 dX11_numberFrom_7 rfl ?_
    refine x_icmp_ge (μ := mu_tw_numberFrom) (pc := 8) (tgt := 36) dX11_numberFrom_8 rfl hv5 hv2 ?_ ?_
    · refine x_loc (lv' := [(3, vL v3)]) [2] rfl ?_
      exact hK v3 hv3
    · refine x_ldc2 (μ := mu_tw_numberFrom) (pc := 11) (n := 10) dX11_numberFrom_11 q3091 ?_
      refine x_lload_n (μ := mu_tw_numberFrom) (pc := 14) 2 dX11_numberFrom_14 rfl ?_
      refine x_lmul (μ := mu_tw_numberFrom) (pc := 15) dX11_numberFrom_15 ?_
      refine x_aload_n (μ := mu_tw_numberFrom) (pc := 16) 0 dX11_numberFrom_16 rfl ?_
      refine x_fgrE (μ := mu_tw_numberFrom) (pc := 17) fX11_39 (Or.inr ⟨_, rfl⟩) q2675 (hM.a39).1 dX11_numberFrom_17 hM.1 ?_
      refine x_iload (μ := mu_tw_numberFrom) (pc := 20) 3 dX11_numberFrom_20 rfl ?_
      refine x_iald (μ := mu_tw_numberFrom) (pc := 22) dX11_numberFrom_22 (hM.a39).2.1 (hM.a39).2.2 (fun hr1 => ?_)
      refine x_i2l (μ := mu_tw_numberFrom) (pc := 23) dX11_numberFrom_23 hr1 ?_
      refine x_ladd (μ := mu_tw_numberFrom) (pc := 24) dX11_numberFrom_24 ?_
      refine x_ldc2 (μ := mu_tw_numberFrom) (pc := 25) (n := 48) dX11_numberFrom_25 q3092 ?_
      refine x_lsub (μ := mu_tw_numberFrom) (pc := 28) dX11_numberFrom_28 ?_
      refine x_W1 ?_
      refine x_lstore_n (μ := mu_tw_numberFrom) (pc := 29) (lv' := [(3, vL (w64 (((10 * v3) + (mI σ (h + 27) v5.toNat)) - 48))), (0, vR h), (2, vI v2), (5, vI v5)]) dX11_numberFrom_29 rfl (by decide) rfl ?_
      refine x_iincw (μ := mu_tw_numberFrom) (pc := 30) (lv' := [(5, vI (w32 (v5 + 1))), (3, vL (w64 (((10 * v3) + (mI σ (h + 27) v5.toNat)) - 48))), (0, vR h), (2, vI v2)]) 3 dX11_numberFrom_30 rfl (by decide) rfl ?_
      refine x_goto (μ := mu_tw_numberFrom) (pc := 33) (tgt := 5) dX11_numberFrom_33 rfl ?_
      refine x_loc (lv' := [(0, vR h), (2, vI v2), (3, vL (w64 (((10 * v3) + (mI σ (h + 27) v5.toNat)) - 48))), (5, vI (w32 (v5 + 1)))]) [2, 3, 1, 0] rfl ?_
      exact ih (w64 (((10 * v3) + (mI σ (h + 27) v5.toNat)) - 48)) (w32 (v5 + 1)) (w64_rng _) (w32_rng _)
def tw_numberFrom (N : Nat) (h : Nat) (v1 : Int) (v2 : Int) (σ : gMem) : Option Int := tw_numberFrom_l5 N h σ v2 (fun y2 => some y2) N (((0 : Fin 2) : Nat) : Int) v1
set_option maxRecDepth 100000 in
theorem ok_tw_numberFrom {ω : gW} {l : Launch} {d : Nat} {N : Nat} {h : Nat} {σ : gMem} {v1 : Int} {v2 : Int} (hdp : 0 ≤ d) (hM : TM σ h) (hv1 : g32 v1) (hv2 : g32 v2) : gK (fun x : Int => (.inl (some (vL x)), σ)) gTw ω l d mu_tw_numberFrom [vR h, vI v1, vI v2] σ (tw_numberFrom N h v1 v2 σ) := by
  refine gK.of hp_X11 (Nat.le_of_ble_eq_true rfl) ?_
  unfold tw_numberFrom
  refine x_lconst (μ := mu_tw_numberFrom) (pc := 0) dX11_numberFrom_0 ?_
  refine x_lstore_n (μ := mu_tw_numberFrom) (pc := 1) (lv' := [(3, vL (((0 : Fin 2) : Nat) : Int)), (0, vR h), (1, vI v1), (2, vI v2)]) dX11_numberFrom_1 rfl (by decide) rfl ?_
  refine x_iload_n (μ := mu_tw_numberFrom) (pc := 2) 2 dX11_numberFrom_2 rfl ?_
  refine x_istore (μ := mu_tw_numberFrom) (pc := 3) (lv' := [(5, vI v1), (3, vL (((0 : Fin 2) : Nat) : Int)), (0, vR h), (1, vI v1), (2, vI v2)]) dX11_numberFrom_3 (by decide) rfl ?_
  refine x_loc (lv' := [(0, vR h), (2, vI v2), (3, vL (((0 : Fin 2) : Nat) : Int)), (5, vI v1)]) [2, 4, 1, 0] rfl ?_
  refine okl_tw_numberFrom_l5 hdp hM hv2 (fun y2 hy2 => ?_) N (((0 : Fin 2) : Nat) : Int) v1 (by decide) hv1
  refine x_lload_n (μ := mu_tw_numberFrom) (pc := 36) 0 dX11_numberFrom_36 rfl ?_
  exact x_lret (μ := mu_tw_numberFrom) (pc := 37) dX11_numberFrom_37 rfl rfl (gRel_Tw.1 _) (show g64 y2 from hy2)
def tw_kept_l8 (N : Nat) (h : Nat) (v2 : Int) (v3 : Int) (K : gMem → Option (Int × gMem)) : Nat → Int → gMem → Option (Int × gMem)
  | 0, _, _ => none
  | n + 1, v4, s => if v2 ≤ v4 then K s else if 0 ≤ v4 ∧ v4 < ((400 : Nat) : Int) then if 0 ≤ (mI s h 19) ∧ (mI s h 19) < ((82400 : Nat) : Int) then gLet (wI s (h + 9) (mI s h 19).toNat (bByte (mI s (h + 27) v4.toNat))) (fun s4 => gLet (wI s4 h 19 (w32 ((mI s4 h 19) + 1))) (fun s8 => tw_kept_l8 N h v2 v3 K n (w32 (v4 + 1)) s8)) else none else none
set_option maxRecDepth 100000 in
theorem okl_tw_kept_l8 {ω : gW} {l : Launch} {d : Nat} {N : Nat} {h : Nat} {σ0 : gMem} {v2 : Int} {v3 : Int} {K : gMem → Option (Int × gMem)} (hdp : 0 ≤ d) (hv2 : g32 v2) (hv3 : g32 v3) (hK : ∀ (s : gMem) , TM s h → GG (fun p : Int × gMem => (.inl (some (vI p.1)), p.2)) gTw ω l d mu_tw_kept σ0 47 [(3, vI v3)] [] s (K s)) : ∀ (n : Nat) (v4 : Int) (s : gMem) , g32 v4 → TM s h → GG (fun p : Int × gMem => (.inl (some (vI p.1)), p.2)) gTw ω l d mu_tw_kept σ0 8 [(0, vR h), (2, vI v2), (3, vI v3), (4, vI v4)] [] s (tw_kept_l8 N h v2 v3 K n v4 s) := by
  intro n
  induction n with
  | zero => intros; exact x_none
  | succ n ih =>
    intro v4 s hv4 hM
    unfold tw_kept_l8
    refine x_iload (μ := mu_tw_kept) (pc := 8) 3 dX11_kept_8 rfl ?_
    refine x_iload_n (μ := mu_tw_kept) (pc := 10) 1 dX11_kept_10 rfl ?_
    refine x_icmp_ge (μ := mu_tw_kept) (pc := 11) (tgt := 47) dX11_kept_11 rfl hv4 hv2 ?_ ?_
    · refine x_loc (lv' := [(3, vI v3)]) [2] rfl ?_
      exact hK s hM
    · refine x_aload_n (μ := mu_tw_kept) (pc := 14) 0 dX11_kept_14 rfl ?_
      refine x_fgrE (μ := mu_tw_kept) (pc := 15) fX11_18 (Or.inr ⟨_, rfl⟩) q2654 (hM.a18).1 dX11_kept_15 hM.1 ?_
      refine x_aload_n (μ := mu_tw_kept) (pc := 18) 0 dX11_kept_18 rfl ?_
      refine x_fgi (μ := mu_tw_kept) (pc := 19) fX11_19 q2655 dX11_kept_19 hM.1 (fun hr2 => ?_)
      refine x_aload_n (μ := mu_tw_kept) (pc := 22) 0 dX11_kept_22 rfl ?_
      refine x_fgrE (μ := mu_tw_kept) (pc := 23) fX11_39 (Or.inr ⟨_, rfl⟩) q2675 (hM.a39).1 dX11_kept_23 hM.1 ?_
      refine x_iload (μ := mu_tw_kept) (pc := 26) 3 dX11_kept_26 rfl ?_
      refine x_iald (μ := mu_tw_kept) (pc := 28) dX11_kept_28 (hM.a39).2.1 (hM.a39).2.2 (fun hr3 => ?_)
      refine x_i2b (μ := mu_tw_kept) (pc := 29) dX11_kept_29 ?_
      refine x_bast (μ := mu_tw_kept) (pc := 30) dX11_kept_30 (hM.a18).2.1 (hM.a18).2.2 (bByte_b _) (fun _ _ q => gTw_wI q) ?_
      refine x_let (fun s4 e5 => ?_)
      have hM6 := TM.eI e5 hM
      refine x_aload_n (μ := mu_tw_kept) (pc := 31) 0 dX11_kept_31 rfl ?_
      refine x_dup (μ := mu_tw_kept) (pc := 32) dX11_kept_32 rfl ?_
      refine x_fgi (μ := mu_tw_kept) (pc := 33) fX11_19 q2655 dX11_kept_33 hM6.1 (fun hr7 => ?_)
      refine x_iconst (μ := mu_tw_kept) (pc := 36) dX11_kept_36 ?_
      refine x_iadd (μ := mu_tw_kept) (pc := 37) dX11_kept_37 ?_
      refine x_w1 ?_
      refine x_fpi (μ := mu_tw_kept) (pc := 38) fX11_19 q2655 dX11_kept_38 hM6.1 (fun _ q => gTw_wI q) ?_
      refine x_let (fun s8 e9 => ?_)
      have hM10 := TM.eI e9 hM6
      refine x_iincw (μ := mu_tw_kept) (pc := 41) (lv' := [(4, vI (w32 (v4 + 1))), (0, vR h), (2, vI v2), (3, vI v3)]) 3 dX11_kept_41 rfl (by decide) rfl ?_
      refine x_goto (μ := mu_tw_kept) (pc := 44) (tgt := 8) dX11_kept_44 rfl ?_
      refine x_loc (lv' := [(0, vR h), (2, vI v2), (3, vI v3), (4, vI (w32 (v4 + 1)))]) [1, 2, 3, 0] rfl ?_
      exact ih (w32 (v4 + 1)) s8 (w32_rng _) hM10
def tw_kept (N : Nat) (h : Nat) (v1 : Int) (v2 : Int) (σ : gMem) : Option (Int × gMem) := tw_kept_l8 N h v2 (mI σ h 19) (fun s11 => some (mI σ h 19, s11)) N v1 σ
set_option maxRecDepth 100000 in
theorem ok_tw_kept {ω : gW} {l : Launch} {d : Nat} {N : Nat} {h : Nat} {σ : gMem} {v1 : Int} {v2 : Int} (hdp : 0 ≤ d) (hM : TM σ h) (hv1 : g32 v1) (hv2 : g32 v2) : gK (fun p : Int × gMem => (.inl (some (vI p.1)), p.2)) gTw ω l d mu_tw_kept [vR h, vI v1, vI v2] σ (tw_kept N h v1 v2 σ) := by
  refine gK.of hp_X11 (Nat.le_of_ble_eq_true rfl) ?_
  unfold tw_kept
  refine x_aload_n (μ := mu_tw_kept) (pc := 0) 0 dX11_kept_0 rfl ?_
  refine x_fgi (μ := mu_tw_kept) (pc := 1) fX11_19 q2655 dX11_kept_1 hM.1 (fun hr1 => ?_)
  refine x_istore_n (μ := mu_tw_kept) (pc := 4) (lv' := [(3, vI (mI σ h 19)), (0, vR h), (1, vI v1), (2, vI v2)]) dX11_kept_4 rfl (by decide) rfl ?_
  refine x_iload_n (μ := mu_tw_kept) (pc := 5) 2 dX11_kept_5 rfl ?_
  refine x_istore (μ := mu_tw_kept) (pc := 6) (lv' := [(4, vI v1), (3, vI (mI σ h 19)), (0, vR h), (1, vI v1), (2, vI v2)]) dX11_kept_6 (by decide) rfl ?_
  refine x_loc (lv' := [(0, vR h), (2, vI v2), (3, vI (mI σ h 19)), (4, vI v1)]) [2, 4, 1, 0] rfl ?_
  refine okl_tw_kept_l8 hdp hv2 hr1 (fun s11 hM12 => ?_) N v1 σ hv1 hM
  refine x_iload_n (μ := mu_tw_kept) (pc := 47) 0 dX11_kept_47 rfl ?_
  exact x_iret (μ := mu_tw_kept) (pc := 48) dX11_kept_48 rfl rfl (gRel_Tw.1 _) (show g32 (mI σ h 19) from hr1)
def tw_nameOf (v0 : Int) (σ : gMem) : Option Nat := if v0 = 30 then some (mR σ 0 103) else if v0 = 31 then some (mR σ 0 104) else if v0 = 32 then some (mR σ 0 105) else if v0 = 33 then some (mR σ 0 106) else if v0 = 34 then some (mR σ 0 107) else if v0 = 35 then some (mR σ 0 108) else if v0 = 36 then some (mR σ 0 109) else if v0 = 37 then some (mR σ 0 110) else if v0 = 38 then some (mR σ 0 111) else if v0 = 39 then some (mR σ 0 112) else if v0 = 40 then some (mR σ 0 113) else if v0 = 41 then some (mR σ 0 114) else if v0 = 42 then some (mR σ 0 115) else if v0 = 43 then some (mR σ 0 116) else if v0 = 44 then some (mR σ 0 117) else if v0 = 45 then some (mR σ 0 118) else if v0 = 46 then some (mR σ 0 119) else some (mR σ 0 120)
set_option maxRecDepth 100000 in
theorem ok_tw_nameOf {ω : gW} {l : Launch} {d : Nat} {σ : gMem} {v0 : Int} (hdp : 0 ≤ d) (hv0 : g32 v0) : gK (fun x : Nat => (.inl (some (vR x)), σ)) gTw ω l d mu_tw_nameOf [vI v0] σ (tw_nameOf v0 σ) := by
  refine gK.of hp_X11 (Nat.le_of_ble_eq_true rfl) ?_
  unfold tw_nameOf
  refine x_iload_n (μ := mu_tw_nameOf) (pc := 0) 0 dX11_nameOf_0 rfl ?_
  refine x_tab (μ := mu_tw_nameOf) (pc := 1) (tgt := 84) 30 dX11_nameOf_1 (by decide) (by decide) (by decide) rfl rfl ?_ (fun hn1 => ?_)
  · refine x_ldcwS (μ := mu_tw_nameOf) (pc := 84) (j := 103) (List.mem_of_getElem? (i := 14) rfl) dX11_nameOf_84 ?_
    exact x_aret (μ := mu_tw_nameOf) (pc := 87) dX11_nameOf_87 rfl (by first | exact Or.inl ⟨_, rfl⟩ | exact Or.inr ⟨_, rfl⟩) rfl (gRel_Tw.1 _) trivial
  refine x_tab (μ := mu_tw_nameOf) (pc := 1) (tgt := 88) 31 dX11_nameOf_1 (by decide) (by decide) (by decide) rfl rfl ?_ (fun hn2 => ?_)
  · refine x_ldcwS (μ := mu_tw_nameOf) (pc := 88) (j := 104) (List.mem_of_getElem? (i := 16) rfl) dX11_nameOf_88 ?_
    exact x_aret (μ := mu_tw_nameOf) (pc := 91) dX11_nameOf_91 rfl (by first | exact Or.inl ⟨_, rfl⟩ | exact Or.inr ⟨_, rfl⟩) rfl (gRel_Tw.1 _) trivial
  refine x_tab (μ := mu_tw_nameOf) (pc := 1) (tgt := 92) 32 dX11_nameOf_1 (by decide) (by decide) (by decide) rfl rfl ?_ (fun hn3 => ?_)
  · refine x_ldcwS (μ := mu_tw_nameOf) (pc := 92) (j := 105) (List.mem_of_getElem? (i := 18) rfl) dX11_nameOf_92 ?_
    exact x_aret (μ := mu_tw_nameOf) (pc := 95) dX11_nameOf_95 rfl (by first | exact Or.inl ⟨_, rfl⟩ | exact Or.inr ⟨_, rfl⟩) rfl (gRel_Tw.1 _) trivial
  refine x_tab (μ := mu_tw_nameOf) (pc := 1) (tgt := 96) 33 dX11_nameOf_1 (by decide) (by decide) (by decide) rfl rfl ?_ (fun hn4 => ?_)
  · refine x_ldcwS (μ := mu_tw_nameOf) (pc := 96) (j := 106) (List.mem_of_getElem? (i := 20) rfl) dX11_nameOf_96 ?_
    exact x_aret (μ := mu_tw_nameOf) (pc := 99) dX11_nameOf_99 rfl (by first | exact Or.inl ⟨_, rfl⟩ | exact Or.inr ⟨_, rfl⟩) rfl (gRel_Tw.1 _) trivial
  refine x_tab (μ := mu_tw_nameOf) (pc := 1) (tgt := 100) 34 dX11_nameOf_1 (by decide) (by decide) (by decide) rfl rfl ?_ (fun hn5 => ?_)
  · refine x_ldcwS (μ := mu_tw_nameOf) (pc := 100) (j := 107) (List.mem_of_getElem? (i := 22) rfl) dX11_nameOf_100 ?_
    exact x_aret (μ := mu_tw_nameOf) (pc := 103) dX11_nameOf_103 rfl (by first | exact Or.inl ⟨_, rfl⟩ | exact Or.inr ⟨_, rfl⟩) rfl (gRel_Tw.1 _) trivial
  refine x_tab (μ := mu_tw_nameOf) (pc := 1) (tgt := 104) 35 dX11_nameOf_1 (by decide) (by decide) (by decide) rfl rfl ?_ (fun hn6 => ?_)
  · refine x_ldcwS (μ := mu_tw_nameOf) (pc := 104) (j := 108) (List.mem_of_getElem? (i := 24) rfl) dX11_nameOf_104 ?_
    exact x_aret (μ := mu_tw_nameOf) (pc := 107) dX11_nameOf_107 rfl (by first | exact Or.inl ⟨_, rfl⟩ | exact Or.inr ⟨_, rfl⟩) rfl (gRel_Tw.1 _) trivial
  refine x_tab (μ := mu_tw_nameOf) (pc := 1) (tgt := 108) 36 dX11_nameOf_1 (by decide) (by decide) (by decide) rfl rfl ?_ (fun hn7 => ?_)
  · refine x_ldcwS (μ := mu_tw_nameOf) (pc := 108) (j := 109) (List.mem_of_getElem? (i := 26) rfl) dX11_nameOf_108 ?_
    exact x_aret (μ := mu_tw_nameOf) (pc := 111) dX11_nameOf_111 rfl (by first | exact Or.inl ⟨_, rfl⟩ | exact Or.inr ⟨_, rfl⟩) rfl (gRel_Tw.1 _) trivial
  refine x_tab (μ := mu_tw_nameOf) (pc := 1) (tgt := 112) 37 dX11_nameOf_1 (by decide) (by decide) (by decide) rfl rfl ?_ (fun hn8 => ?_)
  · refine x_ldcwS (μ := mu_tw_nameOf) (pc := 112) (j := 110) (List.mem_of_getElem? (i := 28) rfl) dX11_nameOf_112 ?_
    exact x_aret (μ := mu_tw_nameOf) (pc := 115) dX11_nameOf_115 rfl (by first | exact Or.inl ⟨_, rfl⟩ | exact Or.inr ⟨_, rfl⟩) rfl (gRel_Tw.1 _) trivial
  refine x_tab (μ := mu_tw_nameOf) (pc := 1) (tgt := 116) 38 dX11_nameOf_1 (by decide) (by decide) (by decide) rfl rfl ?_ (fun hn9 => ?_)
  · refine x_ldcwS (μ := mu_tw_nameOf) (pc := 116) (j := 111) (List.mem_of_getElem? (i := 30) rfl) dX11_nameOf_116 ?_
    exact x_aret (μ := mu_tw_nameOf) (pc := 119) dX11_nameOf_119 rfl (by first | exact Or.inl ⟨_, rfl⟩ | exact Or.inr ⟨_, rfl⟩) rfl (gRel_Tw.1 _) trivial
  refine x_tab (μ := mu_tw_nameOf) (pc := 1) (tgt := 120) 39 dX11_nameOf_1 (by decide) (by decide) (by decide) rfl rfl ?_ (fun hn10 => ?_)
  · refine x_ldcwS (μ := mu_tw_nameOf) (pc := 120) (j := 112) (List.mem_of_getElem? (i := 32) rfl) dX11_nameOf_120 ?_
    exact x_aret (μ := mu_tw_nameOf) (pc := 123) dX11_nameOf_123 rfl (by first | exact Or.inl ⟨_, rfl⟩ | exact Or.inr ⟨_, rfl⟩) rfl (gRel_Tw.1 _) trivial
  refine x_tab (μ := mu_tw_nameOf) (pc := 1) (tgt := 124) 40 dX11_nameOf_1 (by decide) (by decide) (by decide) rfl rfl ?_ (fun hn11 => ?_)
  · refine x_ldcwS (μ := mu_tw_nameOf) (pc := 124) (j := 113) (List.mem_of_getElem? (i := 34) rfl) dX11_nameOf_124 ?_
    exact x_aret (μ := mu_tw_nameOf) (pc := 127) dX11_nameOf_127 rfl (by first | exact Or.inl ⟨_, rfl⟩ | exact Or.inr ⟨_, rfl⟩) rfl (gRel_Tw.1 _) trivial
  refine x_tab (μ := mu_tw_nameOf) (pc := 1) (tgt := 128) 41 dX11_nameOf_1 (by decide) (by decide) (by decide) rfl rfl ?_ (fun hn12 => ?_)
  · refine x_ldcwS (μ := mu_tw_nameOf) (pc := 128) (j := 114) (List.mem_of_getElem? (i := 36) rfl) dX11_nameOf_128 ?_
    exact x_aret (μ := mu_tw_nameOf) (pc := 131) dX11_nameOf_131 rfl (by first | exact Or.inl ⟨_, rfl⟩ | exact Or.inr ⟨_, rfl⟩) rfl (gRel_Tw.1 _) trivial
  refine x_tab (μ := mu_tw_nameOf) (pc := 1) (tgt := 132) 42 dX11_nameOf_1 (by decide) (by decide) (by decide) rfl rfl ?_ (fun hn13 => ?_)
  · refine x_ldcwS (μ := mu_tw_nameOf) (pc := 132) (j := 115) (List.mem_of_getElem? (i := 38) rfl) dX11_nameOf_132 ?_
    exact x_aret (μ := mu_tw_nameOf) (pc := 135) dX11_nameOf_135 rfl (by first | exact Or.inl ⟨_, rfl⟩ | exact Or.inr ⟨_, rfl⟩) rfl (gRel_Tw.1 _) trivial
  refine x_tab (μ := mu_tw_nameOf) (pc := 1) (tgt := 136) 43 dX11_nameOf_1 (by decide) (by decide) (by decide) rfl rfl ?_ (fun hn14 => ?_)
  · refine x_ldcwS (μ := mu_tw_nameOf) (pc := 136) (j := 116) (List.mem_of_getElem? (i := 40) rfl) dX11_nameOf_136 ?_
    exact x_aret (μ := mu_tw_nameOf) (pc := 139) dX11_nameOf_139 rfl (by first | exact Or.inl ⟨_, rfl⟩ | exact Or.inr ⟨_, rfl⟩) rfl (gRel_Tw.1 _) trivial
  refine x_tab (μ := mu_tw_nameOf) (pc := 1) (tgt := 140) 44 dX11_nameOf_1 (by decide) (by decide) (by decide) rfl rfl ?_ (fun hn15 => ?_)
  · refine x_ldcwS (μ := mu_tw_nameOf) (pc := 140) (j := 117) (List.mem_of_getElem? (i := 42) rfl) dX11_nameOf_140 ?_
    exact x_aret (μ := mu_tw_nameOf) (pc := 143) dX11_nameOf_143 rfl (by first | exact Or.inl ⟨_, rfl⟩ | exact Or.inr ⟨_, rfl⟩) rfl (gRel_Tw.1 _) trivial
  refine x_tab (μ := mu_tw_nameOf) (pc := 1) (tgt := 144) 45 dX11_nameOf_1 (by decide) (by decide) (by decide) rfl rfl ?_ (fun hn16 => ?_)
  · refine x_ldcwS (μ := mu_tw_nameOf) (pc := 144) (j := 118) (List.mem_of_getElem? (i := 44) rfl) dX11_nameOf_144 ?_
    exact x_aret (μ := mu_tw_nameOf) (pc := 147) dX11_nameOf_147 rfl (by first | exact Or.inl ⟨_, rfl⟩ | exact Or.inr ⟨_, rfl⟩) rfl (gRel_Tw.1 _) trivial
  refine x_tab (μ := mu_tw_nameOf) (pc := 1) (tgt := 148) 46 dX11_nameOf_1 (by decide) (by decide) (by decide) rfl rfl ?_ (fun hn17 => ?_)
  · refine x_ldcwS (μ := mu_tw_nameOf) (pc := 148) (j := 119) (List.mem_of_getElem? (i := 46) rfl) dX11_nameOf_148 ?_
    exact x_aret (μ := mu_tw_nameOf) (pc := 151) dX11_nameOf_151 rfl (by first | exact Or.inl ⟨_, rfl⟩ | exact Or.inr ⟨_, rfl⟩) rfl (gRel_Tw.1 _) trivial
  refine x_tabOut (μ := mu_tw_nameOf) (pc := 1) (tgt := 152) dX11_nameOf_1 hv0 (by omega) rfl ?_
  refine x_ldcwS (μ := mu_tw_nameOf) (pc := 152) (j := 120) (List.mem_of_getElem? (i := 48) rfl) dX11_nameOf_152 ?_
  exact x_aret (μ := mu_tw_nameOf) (pc := 155) dX11_nameOf_155 rfl (by first | exact Or.inl ⟨_, rfl⟩ | exact Or.inr ⟨_, rfl⟩) rfl (gRel_Tw.1 _) trivial
def tw_opens (h : Nat) (σ : gMem) : Option (Int × gMem) := if mI σ h 57 ≠ 20 then gLet (wI σ h 57 (w32 ((mI σ h 57) + 1))) (fun s3 => some (1, s3)) else (tw_fail h 2 (mI σ h 48) σ).bind (fun x7 => some (0, x7))
set_option maxRecDepth 100000 in
theorem ok_tw_opens {ω : gW} {l : Launch} {d : Nat} {h : Nat} {σ : gMem} (hdp : 1 ≤ d) (hM : TM σ h) : gK (fun p : Int × gMem => (.inl (some (vI p.1)), p.2)) gTw ω l d mu_tw_opens [vR h] σ (tw_opens h σ) := by
  refine gK.of hp_X11 (Nat.le_of_ble_eq_true rfl) ?_
  unfold tw_opens
  refine x_aload_n (μ := mu_tw_opens) (pc := 0) 0 dX11_opens_0 rfl ?_
  refine x_fgi (μ := mu_tw_opens) (pc := 1) fX11_57 q2693 dX11_opens_1 hM.1 (fun hr1 => ?_)
  refine x_bipush (μ := mu_tw_opens) (pc := 4) dX11_opens_4 (by decide) ?_
  refine x_icmp_ne (μ := mu_tw_opens) (pc := 6) (tgt := 20) dX11_opens_6 rfl hr1 (by decide) ?_ ?_
  · refine x_aload_n (μ := mu_tw_opens) (pc := 20) 0 dX11_opens_20 rfl ?_
    refine x_dup (μ := mu_tw_opens) (pc := 21) dX11_opens_21 rfl ?_
    refine x_fgi (μ := mu_tw_opens) (pc := 22) fX11_57 q2693 dX11_opens_22 hM.1 (fun hr2 => ?_)
    refine x_iconst (μ := mu_tw_opens) (pc := 25) dX11_opens_25 ?_
    refine x_iadd (μ := mu_tw_opens) (pc := 26) dX11_opens_26 ?_
    refine x_w1 ?_
    refine x_fpi (μ := mu_tw_opens) (pc := 27) fX11_57 q2693 dX11_opens_27 hM.1 (fun _ q => gTw_wI q) ?_
    refine x_let (fun s3 e4 => ?_)
    have hM5 := TM.eI e4 hM
    refine x_iconst (μ := mu_tw_opens) (pc := 30) dX11_opens_30 ?_
    exact x_zret (μ := mu_tw_opens) (pc := 31) dX11_opens_31 rfl (by decide) rfl (gRel_Tw.1 _) (show g32 1 from (by decide))
  · refine x_aload_n (μ := mu_tw_opens) (pc := 9) 0 dX11_opens_9 rfl ?_
    refine x_iconst (μ := mu_tw_opens) (pc := 10) dX11_opens_10 ?_
    refine x_aload_n (μ := mu_tw_opens) (pc := 11) 0 dX11_opens_11 rfl ?_
    refine x_fgi (μ := mu_tw_opens) (pc := 12) fX11_48 q2684 dX11_opens_12 hM.1 (fun hr6 => ?_)
    refine x_callV_mv (μ := mu_tw_opens) (pc := 15) (ok_tw_fail (ω := ω) (l := l) (d := d - 1) (by omega) hM (by decide) hr6) gRel_Tw gRel_Tw (fun _ q => q) q3079 q3081 qs100 q232 q3082 dX11_opens_15 rfl hM.1 hy_tw_fail (by omega) (Nat.le_of_ble_eq_true rfl) rfl (Nat.le_of_ble_eq_true rfl) (fun x7 k8 => ?_)
    have hM9 : TM x7 h := hM.tw k8
    refine x_iconst (μ := mu_tw_opens) (pc := 18) dX11_opens_18 ?_
    exact x_zret (μ := mu_tw_opens) (pc := 19) dX11_opens_19 rfl (by decide) rfl (gRel_Tw.1 _) (show g32 0 from (by decide))
def tw_readVersion_l42 (N : Nat) (h : Nat) (v1 : Int) (K : Int → Int → gMem → Option (Int × gMem)) : Nat → Int → Int → gMem → Option (Int × gMem)
  | 0, _, _, _ => none
  | n + 1, v2, v3, s => (tw_byteAt h v2 s).bind (fun x10 => (tw_isDigit x10 s).bind (fun x12 => if x12 = 0 then K v2 v3 s else if v2 ≠ w32 (v1 + 3) then (tw_byteAt h v2 s).bind (fun x14 => tw_readVersion_l42 N h v1 K n (w32 (v2 + 1)) (w32 (((10 * v3) + x14) - 48)) s) else (tw_fail h 1 v2 s).bind (fun x16 => some ((-1), x16))))
set_option maxRecDepth 100000 in
theorem okl_tw_readVersion_l42 {ω : gW} {l : Launch} {d : Nat} {N : Nat} {h : Nat} {σ0 : gMem} {v1 : Int} {K : Int → Int → gMem → Option (Int × gMem)} (hdp : 2 ≤ d) (hv1 : g32 v1) (hK : ∀ (v2 : Int) (v3 : Int) (s : gMem) , g32 v2 → g32 v3 → TM s h → GG (fun p : Int × gMem => (.inl (some (vI p.1)), p.2)) gTw ω l d mu_tw_readVersion σ0 88 [(0, vR h), (2, vI v2), (3, vI v3)] [] s (K v2 v3 s)) : ∀ (n : Nat) (v2 : Int) (v3 : Int) (s : gMem) , g32 v2 → g32 v3 → TM s h → GG (fun p : Int × gMem => (.inl (some (vI p.1)), p.2)) gTw ω l d mu_tw_readVersion σ0 42 [(0, vR h), (1, vI v1), (2, vI v2), (3, vI v3)] [] s (tw_readVersion_l42 N h v1 K n v2 v3 s) := by
  intro n
  induction n with
  | zero => intros; exact x_none
  | succ n ih =>
    intro v2 v3 s hv2 hv3 hM
    unfold tw_readVersion_l42
    refine x_aload_n (μ := mu_tw_readVersion) (pc := 42) 0 dX11_readVersion_42 rfl ?_
    refine x_iload_n (μ := mu_tw_readVersion) (pc := 43) 2 dX11_readVersion_43 rfl ?_
    refine x_callV_pi (μ := mu_tw_readVersion) (pc := 44) (ok_tw_byteAt (ω := ω) (l := l) (d := d - 1) (by omega) hM hv2) gRel_Tw gRel_Tw (fun _ q => q) q2999 q3001 qs83 q232 q3002 dX11_readVersion_44 rfl hM.1 hy_tw_byteAt (by omega) (Nat.le_of_ble_eq_true rfl) rfl (Nat.le_of_ble_eq_true rfl) (fun x10 hr11 => ?_)
    refine x_callS_pi (μ := mu_tw_readVersion) (pc := 47) (ok_tw_isDigit (ω := ω) (l := l) (d := d - 1) (by omega) hr11) gRel_Tw gRel_Tw (fun _ q => q) q3007 q3008 q232 q3009 dX11_readVersion_47 hy_tw_isDigit (by omega) (Nat.le_of_ble_eq_true rfl) rfl (Nat.le_of_ble_eq_true rfl) (fun x12 hr13 => ?_)
    refine x_if_eq (μ := mu_tw_readVersion) (pc := 50) (tgt := 88) dX11_readVersion_50 rfl hr13 ?_ ?_
    · refine x_loc (lv' := [(0, vR h), (2, vI v2), (3, vI v3)]) [0, 2, 3] rfl ?_
      exact hK v2 v3 s hv2 hv3 hM
    · refine x_iload_n (μ := mu_tw_readVersion) (pc := 53) 2 dX11_readVersion_53 rfl ?_
      refine x_iload_n (μ := mu_tw_readVersion) (pc := 54) 1 dX11_readVersion_54 rfl ?_
      refine x_iconst (μ := mu_tw_readVersion) (pc := 55) dX11_readVersion_55 ?_
      refine x_iadd (μ := mu_tw_readVersion) (pc := 56) dX11_readVersion_56 ?_
      refine x_w1 ?_
      refine x_icmp_ne (μ := mu_tw_readVersion) (pc := 57) (tgt := 68) dX11_readVersion_57 rfl hv2 (w32_rng _) ?_ ?_
      · refine x_bipush (μ := mu_tw_readVersion) (pc := 68) dX11_readVersion_68 (by decide) ?_
        refine x_iload_n (μ := mu_tw_readVersion) (pc := 70) 3 dX11_readVersion_70 rfl ?_
        refine x_imul (μ := mu_tw_readVersion) (pc := 71) dX11_readVersion_71 ?_
        refine x_aload_n (μ := mu_tw_readVersion) (pc := 72) 0 dX11_readVersion_72 rfl ?_
        refine x_iload_n (μ := mu_tw_readVersion) (pc := 73) 2 dX11_readVersion_73 rfl ?_
        refine x_callV_pi (μ := mu_tw_readVersion) (pc := 74) (ok_tw_byteAt (ω := ω) (l := l) (d := d - 1) (by omega) hM hv2) gRel_Tw gRel_Tw (fun _ q => q) q2999 q3001 qs83 q232 q3002 dX11_readVersion_74 rfl hM.1 hy_tw_byteAt (by omega) (Nat.le_of_ble_eq_true rfl) rfl (Nat.le_of_ble_eq_true rfl) (fun x14 hr15 => ?_)
        refine x_iadd (μ := mu_tw_readVersion) (pc := 77) dX11_readVersion_77 ?_
        refine x_bipush (μ := mu_tw_readVersion) (pc := 78) dX11_readVersion_78 (by decide) ?_
        refine x_isub (μ := mu_tw_readVersion) (pc := 80) dX11_readVersion_80 ?_
        refine x_w1 ?_
        refine x_istore_n (μ := mu_tw_readVersion) (pc := 81) (lv' := [(3, vI (w32 (((10 * v3) + x14) - 48))), (0, vR h), (1, vI v1), (2, vI v2)]) dX11_readVersion_81 rfl (by decide) rfl ?_
        refine x_iincw (μ := mu_tw_readVersion) (pc := 82) (lv' := [(2, vI (w32 (v2 + 1))), (3, vI (w32 (((10 * v3) + x14) - 48))), (0, vR h), (1, vI v1)]) 3 dX11_readVersion_82 rfl (by decide) rfl ?_
        refine x_goto (μ := mu_tw_readVersion) (pc := 85) (tgt := 42) dX11_readVersion_85 rfl ?_
        refine x_loc (lv' := [(0, vR h), (1, vI v1), (2, vI (w32 (v2 + 1))), (3, vI (w32 (((10 * v3) + x14) - 48)))]) [2, 3, 0, 1] rfl ?_
        exact ih (w32 (v2 + 1)) (w32 (((10 * v3) + x14) - 48)) s (w32_rng _) (w32_rng _) hM
      · refine x_aload_n (μ := mu_tw_readVersion) (pc := 60) 0 dX11_readVersion_60 rfl ?_
        refine x_iconst (μ := mu_tw_readVersion) (pc := 61) dX11_readVersion_61 ?_
        refine x_iload_n (μ := mu_tw_readVersion) (pc := 62) 2 dX11_readVersion_62 rfl ?_
        refine x_callV_mv (μ := mu_tw_readVersion) (pc := 63) (ok_tw_fail (ω := ω) (l := l) (d := d - 1) (by omega) hM (by decide) hv2) gRel_Tw gRel_Tw (fun _ q => q) q3079 q3081 qs100 q232 q3082 dX11_readVersion_63 rfl hM.1 hy_tw_fail (by omega) (Nat.le_of_ble_eq_true rfl) rfl (Nat.le_of_ble_eq_true rfl) (fun x16 k17 => ?_)
        have hM18 : TM x16 h := hM.tw k17
        refine x_iconst (μ := mu_tw_readVersion) (pc := 66) dX11_readVersion_66 ?_
        exact x_iret (μ := mu_tw_readVersion) (pc := 67) dX11_readVersion_67 rfl rfl (gRel_Tw.1 _) (show g32 (-1) from (by decide))
def tw_readVersion (N : Nat) (h : Nat) (v1 : Int) (σ : gMem) : Option (Int × gMem) := gLet (wI σ h 46 v1) (fun s1 => (tw_byteAt h v1 s1).bind (fun x4 => if x4 = 64 then (tw_byteAt h (w32 (v1 + 1)) s1).bind (fun x6 => (tw_isDigit x6 s1).bind (fun x8 => if x8 ≠ 0 then tw_readVersion_l42 N h v1 (fun y19 y20 s21 => gLet (wI s21 h 46 y19) (fun s23 => some (y20, s23))) N (w32 (v1 + 1)) 0 s1 else (tw_fail h 1 (w32 (v1 + 1)) s1).bind (fun x26 => some ((-1), x26)))) else some ((-1), s1)))
set_option maxRecDepth 100000 in
theorem ok_tw_readVersion {ω : gW} {l : Launch} {d : Nat} {N : Nat} {h : Nat} {σ : gMem} {v1 : Int} (hdp : 2 ≤ d) (hM : TM σ h) (hv1 : g32 v1) : gK (fun p : Int × gMem => (.inl (some (vI p.1)), p.2)) gTw ω l d mu_tw_readVersion [vR h, vI v1] σ (tw_readVersion N h v1 σ) := by
  refine gK.of hp_X11 (Nat.le_of_ble_eq_true rfl) ?_
  unfold tw_readVersion
  refine x_aload_n (μ := mu_tw_readVersion) (pc := 0) 0 dX11_readVersion_0 rfl ?_
  refine x_iload_n (μ := mu_tw_readVersion) (pc := 1) 1 dX11_readVersion_1 rfl ?_
  refine x_fpi (μ := mu_tw_readVersion) (pc := 2) fX11_46 q2682 dX11_readVersion_2 hM.1 (fun _ q => gTw_wI q) ?_
  refine x_let (fun s1 e2 => ?_)
  have hM3 := TM.eI e2 hM
  refine x_aload_n (μ := mu_tw_readVersion) (pc := 5) 0 dX11_readVersion_5 rfl ?_
  refine x_iload_n (μ := mu_tw_readVersion) (pc := 6) 1 dX11_readVersion_6 rfl ?_
  refine x_callV_pi (μ := mu_tw_readVersion) (pc := 7) (ok_tw_byteAt (ω := ω) (l := l) (d := d - 1) (by omega) hM3 hv1) gRel_Tw gRel_Tw (fun _ q => q) q2999 q3001 qs83 q232 q3002 dX11_readVersion_7 rfl hM3.1 hy_tw_byteAt (by omega) (Nat.le_of_ble_eq_true rfl) rfl (Nat.le_of_ble_eq_true rfl) (fun x4 hr5 => ?_)
  refine x_bipush (μ := mu_tw_readVersion) (pc := 10) dX11_readVersion_10 (by decide) ?_
  refine x_icmp_eq (μ := mu_tw_readVersion) (pc := 12) (tgt := 17) dX11_readVersion_12 rfl hr5 (by decide) ?_ ?_
  · refine x_iload_n (μ := mu_tw_readVersion) (pc := 17) 1 dX11_readVersion_17 rfl ?_
    refine x_iconst (μ := mu_tw_readVersion) (pc := 18) dX11_readVersion_18 ?_
    refine x_iadd (μ := mu_tw_readVersion) (pc := 19) dX11_readVersion_19 ?_
    refine x_w1 ?_
    refine x_istore_n (μ := mu_tw_readVersion) (pc := 20) (lv' := [(2, vI (w32 (v1 + 1))), (0, vR h), (1, vI v1)]) dX11_readVersion_20 rfl (by decide) rfl ?_
    refine x_aload_n (μ := mu_tw_readVersion) (pc := 21) 1 dX11_readVersion_21 rfl ?_
    refine x_iload_n (μ := mu_tw_readVersion) (pc := 22) 0 dX11_readVersion_22 rfl ?_
    refine x_callV_pi (μ := mu_tw_readVersion) (pc := 23) (ok_tw_byteAt (ω := ω) (l := l) (d := d - 1) (by omega) hM3 (w32_rng _)) gRel_Tw gRel_Tw (fun _ q => q) q2999 q3001 qs83 q232 q3002 dX11_readVersion_23 rfl hM3.1 hy_tw_byteAt (by omega) (Nat.le_of_ble_eq_true rfl) rfl (Nat.le_of_ble_eq_true rfl) (fun x6 hr7 => ?_)
    refine x_callS_pi (μ := mu_tw_readVersion) (pc := 26) (ok_tw_isDigit (ω := ω) (l := l) (d := d - 1) (by omega) hr7) gRel_Tw gRel_Tw (fun _ q => q) q3007 q3008 q232 q3009 dX11_readVersion_26 hy_tw_isDigit (by omega) (Nat.le_of_ble_eq_true rfl) rfl (Nat.le_of_ble_eq_true rfl) (fun x8 hr9 => ?_)
    refine x_if_ne (μ := mu_tw_readVersion) (pc := 29) (tgt := 40) dX11_readVersion_29 rfl hr9 ?_ ?_
    · refine x_iconst (μ := mu_tw_readVersion) (pc := 40) dX11_readVersion_40 ?_
      refine x_istore_n (μ := mu_tw_readVersion) (pc := 41) (lv' := [(3, vI 0), (2, vI (w32 (v1 + 1))), (0, vR h), (1, vI v1)]) dX11_readVersion_41 rfl (by decide) rfl ?_
      refine x_loc (lv' := [(0, vR h), (1, vI v1), (2, vI (w32 (v1 + 1))), (3, vI 0)]) [2, 3, 1, 0] rfl ?_
      refine okl_tw_readVersion_l42 hdp hv1 (fun y19 y20 s21 hy19 hy20 hM22 => ?_) N (w32 (v1 + 1)) 0 s1 (w32_rng _) (by decide) hM3
      refine x_aload_n (μ := mu_tw_readVersion) (pc := 88) 0 dX11_readVersion_88 rfl ?_
      refine x_iload_n (μ := mu_tw_readVersion) (pc := 89) 1 dX11_readVersion_89 rfl ?_
      refine x_fpi (μ := mu_tw_readVersion) (pc := 90) fX11_46 q2682 dX11_readVersion_90 hM22.1 (fun _ q => gTw_wI q) ?_
      refine x_let (fun s23 e24 => ?_)
      have hM25 := TM.eI e24 hM22
      refine x_iload_n (μ := mu_tw_readVersion) (pc := 93) 2 dX11_readVersion_93 rfl ?_
      exact x_iret (μ := mu_tw_readVersion) (pc := 94) dX11_readVersion_94 rfl rfl (gRel_Tw.1 _) (show g32 y20 from hy20)
    · refine x_aload_n (μ := mu_tw_readVersion) (pc := 32) 1 dX11_readVersion_32 rfl ?_
      refine x_iconst (μ := mu_tw_readVersion) (pc := 33) dX11_readVersion_33 ?_
      refine x_iload_n (μ := mu_tw_readVersion) (pc := 34) 0 dX11_readVersion_34 rfl ?_
      refine x_callV_mv (μ := mu_tw_readVersion) (pc := 35) (ok_tw_fail (ω := ω) (l := l) (d := d - 1) (by omega) hM3 (by decide) (w32_rng _)) gRel_Tw gRel_Tw (fun _ q => q) q3079 q3081 qs100 q232 q3082 dX11_readVersion_35 rfl hM3.1 hy_tw_fail (by omega) (Nat.le_of_ble_eq_true rfl) rfl (Nat.le_of_ble_eq_true rfl) (fun x26 k27 => ?_)
      have hM28 : TM x26 h := hM3.tw k27
      refine x_iconst (μ := mu_tw_readVersion) (pc := 38) dX11_readVersion_38 ?_
      exact x_iret (μ := mu_tw_readVersion) (pc := 39) dX11_readVersion_39 rfl rfl (gRel_Tw.1 _) (show g32 (-1) from (by decide))
  · refine x_iconst (μ := mu_tw_readVersion) (pc := 15) dX11_readVersion_15 ?_
    exact x_iret (μ := mu_tw_readVersion) (pc := 16) dX11_readVersion_16 rfl rfl (gRel_Tw.1 _) (show g32 (-1) from (by decide))
def tw_isThere_j19 (h : Nat) (σ : gMem) (v2 : Int) (v3 : Int) (t0 : Int) : Option Int := (tw_isCell h t0 v2 v3 σ).bind (fun x2 => if x2 = 0 then some 0 else some 1)
set_option maxRecDepth 100000 in
theorem okj_tw_isThere_j19 {ω : gW} {l : Launch} {d : Nat} {h : Nat} {σ : gMem} {v2 : Int} {v3 : Int} {t0 : Int} (hdp : 2 ≤ d) (hM : TM σ h) (hv2 : g32 v2) (hv3 : g32 v3) (ht0 : g32 t0) : GG (fun x : Int => (.inl (some (vI x)), σ)) gTw ω l d mu_tw_isThere σ 19 [(2, vI v2), (3, vI v3)] [vI t0, vR h] σ (tw_isThere_j19 h σ v2 v3 t0 ) := by
  unfold tw_isThere_j19
  refine x_iload_n (μ := mu_tw_isThere) (pc := 19) 0 dX11_isThere_19 rfl ?_
  refine x_iload_n (μ := mu_tw_isThere) (pc := 20) 1 dX11_isThere_20 rfl ?_
  refine x_callV_pi (μ := mu_tw_isThere) (pc := 21) (ok_tw_isCell (ω := ω) (l := l) (d := d - 1) (by omega) hM ht0 hv2 hv3) gRel_Tw gRel_Tw (fun _ q => q) q2987 q2989 qs80 q232 q2990 dX11_isThere_21 rfl hM.1 hy_tw_isCell (by omega) (Nat.le_of_ble_eq_true rfl) rfl (Nat.le_of_ble_eq_true rfl) (fun x2 hr3 => ?_)
  refine x_if_eq (μ := mu_tw_isThere) (pc := 24) (tgt := 31) dX11_isThere_24 rfl hr3 ?_ ?_
  · refine x_iconst (μ := mu_tw_isThere) (pc := 31) dX11_isThere_31 ?_
    exact x_zret (μ := mu_tw_isThere) (pc := 32) dX11_isThere_32 rfl (by decide) rfl (gRel_Tw.1 _) (show g32 0 from (by decide))
  · refine x_iconst (μ := mu_tw_isThere) (pc := 27) dX11_isThere_27 ?_
    refine x_goto (μ := mu_tw_isThere) (pc := 28) (tgt := 32) dX11_isThere_28 rfl ?_
    exact x_zret (μ := mu_tw_isThere) (pc := 32) dX11_isThere_32 rfl (by decide) rfl (gRel_Tw.1 _) (show g32 1 from (by decide))
def tw_isThere (h : Nat) (v1 : Int) (v2 : Int) (v3 : Int) (σ : gMem) : Option Int := if mI σ h 8 ≤ v1 then some 0 else if 0 ≤ v1 then tw_isThere_j19 h σ v2 v3 v1 else tw_isThere_j19 h σ v2 v3 40
set_option maxRecDepth 100000 in
theorem ok_tw_isThere {ω : gW} {l : Launch} {d : Nat} {h : Nat} {σ : gMem} {v1 : Int} {v2 : Int} {v3 : Int} (hdp : 2 ≤ d) (hM : TM σ h) (hv1 : g32 v1) (hv2 : g32 v2) (hv3 : g32 v3) : gK (fun x : Int => (.inl (some (vI x)), σ)) gTw ω l d mu_tw_isThere [vR h, vI v1, vI v2, vI v3] σ (tw_isThere h v1 v2 v3 σ) := by
  refine gK.of hp_X11 (Nat.le_of_ble_eq_true rfl) ?_
  unfold tw_isThere
  refine x_iload_n (μ := mu_tw_isThere) (pc := 0) 1 dX11_isThere_0 rfl ?_
  refine x_aload_n (μ := mu_tw_isThere) (pc := 1) 0 dX11_isThere_1 rfl ?_
  refine x_fgi (μ := mu_tw_isThere) (pc := 2) fX11_8 q2644 dX11_isThere_2 hM.1 (fun hr1 => ?_)
  refine x_icmp_ge (μ := mu_tw_isThere) (pc := 5) (tgt := 31) dX11_isThere_5 rfl hv1 hr1 ?_ ?_
  · refine x_iconst (μ := mu_tw_isThere) (pc := 31) dX11_isThere_31 ?_
    exact x_zret (μ := mu_tw_isThere) (pc := 32) dX11_isThere_32 rfl (by decide) rfl (gRel_Tw.1 _) (show g32 0 from (by decide))
  · refine x_aload_n (μ := mu_tw_isThere) (pc := 8) 0 dX11_isThere_8 rfl ?_
    refine x_iload_n (μ := mu_tw_isThere) (pc := 9) 1 dX11_isThere_9 rfl ?_
    refine x_if_ge (μ := mu_tw_isThere) (pc := 10) (tgt := 18) dX11_isThere_10 rfl hv1 ?_ ?_
    · refine x_iload_n (μ := mu_tw_isThere) (pc := 18) 1 dX11_isThere_18 rfl ?_
      refine x_loc (lv' := [(2, vI v2), (3, vI v3)]) [2, 3] rfl ?_
      exact okj_tw_isThere_j19 hdp hM hv2 hv3 hv1
    · refine x_bipush (μ := mu_tw_isThere) (pc := 13) dX11_isThere_13 (by decide) ?_
      refine x_goto (μ := mu_tw_isThere) (pc := 15) (tgt := 19) dX11_isThere_15 rfl ?_
      refine x_loc (lv' := [(2, vI v2), (3, vI v3)]) [2, 3] rfl ?_
      exact okj_tw_isThere_j19 hdp hM hv2 hv3 (by decide)
def tw_lineAt (h : Nat) (v1 : Int) (v2 : Int) (v3 : Int) (σ : gMem) : Option Int := if v2 ≠ 0 then if 0 ≤ ((10 * v1) + v3) ∧ ((10 * v1) + v3) < ((1220 : Nat) : Int) then some (mI σ (h + 4) ((10 * v1) + v3).toNat) else none else if 0 ≤ ((32 * v1) + v3) ∧ ((32 * v1) + v3) < ((3904 : Nat) : Int) then some (mI σ (h + 3) ((32 * v1) + v3).toNat) else none
set_option maxRecDepth 100000 in
theorem ok_tw_lineAt {ω : gW} {l : Launch} {d : Nat} {h : Nat} {σ : gMem} {v1 : Int} {v2 : Int} {v3 : Int} (hdp : 0 ≤ d) (hM : TM σ h) (hv1 : g32 v1) (hv2 : g32 v2) (hv3 : g32 v3) : gK (fun x : Int => (.inl (some (vI x)), σ)) gTw ω l d mu_tw_lineAt [vR h, vI v1, vI v2, vI v3] σ (tw_lineAt h v1 v2 v3 σ) := by
  refine gK.of hp_X11 (Nat.le_of_ble_eq_true rfl) ?_
  unfold tw_lineAt
  refine x_iload_n (μ := mu_tw_lineAt) (pc := 0) 2 dX11_lineAt_0 rfl ?_
  refine x_if_ne (μ := mu_tw_lineAt) (pc := 1) (tgt := 18) dX11_lineAt_1 rfl hv2 ?_ ?_
  · refine x_aload_n (μ := mu_tw_lineAt) (pc := 18) 0 dX11_lineAt_18 rfl ?_
    refine x_fgrE (μ := mu_tw_lineAt) (pc := 19) fX11_4 (Or.inr ⟨_, rfl⟩) q2640 (hM.a4).1 dX11_lineAt_19 hM.1 ?_
    refine x_bipush (μ := mu_tw_lineAt) (pc := 22) dX11_lineAt_22 (by decide) ?_
    refine x_iload_n (μ := mu_tw_lineAt) (pc := 24) 1 dX11_lineAt_24 rfl ?_
    refine x_imul (μ := mu_tw_lineAt) (pc := 25) dX11_lineAt_25 ?_
    refine x_iload_n (μ := mu_tw_lineAt) (pc := 26) 3 dX11_lineAt_26 rfl ?_
    refine x_iadd (μ := mu_tw_lineAt) (pc := 27) dX11_lineAt_27 ?_
    refine x_iald (μ := mu_tw_lineAt) (pc := 28) dX11_lineAt_28 (hM.a4).2.1 (hM.a4).2.2 (fun hr1 => ?_)
    exact x_iret (μ := mu_tw_lineAt) (pc := 29) dX11_lineAt_29 rfl rfl (gRel_Tw.1 _) (show g32 (mI σ (h + 4) ((10 * v1) + v3).toNat) from hr1)
  · refine x_aload_n (μ := mu_tw_lineAt) (pc := 4) 0 dX11_lineAt_4 rfl ?_
    refine x_fgrE (μ := mu_tw_lineAt) (pc := 5) fX11_3 (Or.inr ⟨_, rfl⟩) q2639 (hM.a3).1 dX11_lineAt_5 hM.1 ?_
    refine x_bipush (μ := mu_tw_lineAt) (pc := 8) dX11_lineAt_8 (by decide) ?_
    refine x_iload_n (μ := mu_tw_lineAt) (pc := 10) 1 dX11_lineAt_10 rfl ?_
    refine x_imul (μ := mu_tw_lineAt) (pc := 11) dX11_lineAt_11 ?_
    refine x_iload_n (μ := mu_tw_lineAt) (pc := 12) 3 dX11_lineAt_12 rfl ?_
    refine x_iadd (μ := mu_tw_lineAt) (pc := 13) dX11_lineAt_13 ?_
    refine x_iald (μ := mu_tw_lineAt) (pc := 14) dX11_lineAt_14 (hM.a3).2.1 (hM.a3).2.2 (fun hr2 => ?_)
    refine x_goto (μ := mu_tw_lineAt) (pc := 15) (tgt := 29) dX11_lineAt_15 rfl ?_
    exact x_iret (μ := mu_tw_lineAt) (pc := 29) dX11_lineAt_29 rfl rfl (gRel_Tw.1 _) (show g32 (mI σ (h + 3) ((32 * v1) + v3).toNat) from hr2)
def tw_later_j15 (h : Nat) (v1 : Int) (v2 : Int) (s : gMem) : Option gMem := gLet (wI s h 58 v1) (fun s2 => gLet (wI s2 h 59 v2) (fun s5 => some s5))
set_option maxRecDepth 100000 in
theorem okj_tw_later_j15 {ω : gW} {l : Launch} {d : Nat} {h : Nat} {σ0 : gMem} {s : gMem} {v1 : Int} {v2 : Int} (hdp : 0 ≤ d) (hM : TM s h) (hv1 : g32 v1) (hv2 : g32 v2) : GG (fun p : gMem => (.inl none, p)) gTw ω l d mu_tw_later σ0 15 [(0, vR h), (1, vI v1), (2, vI v2)] [] s (tw_later_j15 h v1 v2 s) := by
  unfold tw_later_j15
  refine x_aload_n (μ := mu_tw_later) (pc := 15) 0 dX11_later_15 rfl ?_
  refine x_iload_n (μ := mu_tw_later) (pc := 16) 1 dX11_later_16 rfl ?_
  refine x_fpi (μ := mu_tw_later) (pc := 17) fX11_58 q2694 dX11_later_17 hM.1 (fun _ q => gTw_wI q) ?_
  refine x_let (fun s2 e3 => ?_)
  have hM4 := TM.eI e3 hM
  refine x_aload_n (μ := mu_tw_later) (pc := 20) 0 dX11_later_20 rfl ?_
  refine x_iload_n (μ := mu_tw_later) (pc := 21) 2 dX11_later_21 rfl ?_
  refine x_fpi (μ := mu_tw_later) (pc := 22) fX11_59 q2695 dX11_later_22 hM4.1 (fun _ q => gTw_wI q) ?_
  refine x_let (fun s5 e6 => ?_)
  have hM7 := TM.eI e6 hM4
  exact x_vret (μ := mu_tw_later) (pc := 25) (a1 := s5) dX11_later_25 rfl rfl (gRel_Tw.1 _) trivial
def tw_later (h : Nat) (v1 : Int) (v2 : Int) (σ : gMem) : Option gMem := if mI σ h 58 = 0 then tw_later_j15 h v1 v2  σ else if mI σ h 59 ≤ v2 then some σ else tw_later_j15 h v1 v2  σ
set_option maxRecDepth 100000 in
theorem ok_tw_later {ω : gW} {l : Launch} {d : Nat} {h : Nat} {σ : gMem} {v1 : Int} {v2 : Int} (hdp : 0 ≤ d) (hM : TM σ h) (hv1 : g32 v1) (hv2 : g32 v2) : gK (fun p : gMem => (.inl none, p)) gTw ω l d mu_tw_later [vR h, vI v1, vI v2] σ (tw_later h v1 v2 σ) := by
  refine gK.of hp_X11 (Nat.le_of_ble_eq_true rfl) ?_
  unfold tw_later
  refine x_aload_n (μ := mu_tw_later) (pc := 0) 0 dX11_later_0 rfl ?_
  refine x_fgi (μ := mu_tw_later) (pc := 1) fX11_58 q2694 dX11_later_1 hM.1 (fun hr1 => ?_)
  refine x_if_eq (μ := mu_tw_later) (pc := 4) (tgt := 15) dX11_later_4 rfl hr1 ?_ ?_
  · exact okj_tw_later_j15 hdp hM hv1 hv2
  · refine x_iload_n (μ := mu_tw_later) (pc := 7) 2 dX11_later_7 rfl ?_
    refine x_aload_n (μ := mu_tw_later) (pc := 8) 0 dX11_later_8 rfl ?_
    refine x_fgi (μ := mu_tw_later) (pc := 9) fX11_59 q2695 dX11_later_9 hM.1 (fun hr8 => ?_)
    refine x_icmp_ge (μ := mu_tw_later) (pc := 12) (tgt := 25) dX11_later_12 rfl hv2 hr8 ?_ ?_
    · exact x_vret (μ := mu_tw_later) (pc := 25) (a1 := σ) dX11_later_25 rfl rfl (gRel_Tw.1 _) trivial
    · exact okj_tw_later_j15 hdp hM hv1 hv2
def tw_isMany (v0 : Int) (σ : gMem) : Option Int := (tw_in v0 31 36 σ).bind (fun x1 => if x1 = 0 ∨ x1 = 1 then some x1 else none)
set_option maxRecDepth 100000 in
theorem ok_tw_isMany {ω : gW} {l : Launch} {d : Nat} {σ : gMem} {v0 : Int} (hdp : 1 ≤ d) (hv0 : g32 v0) : gK (fun x : Int => (.inl (some (vI x)), σ)) gTw ω l d mu_tw_isMany [vI v0] σ (tw_isMany v0 σ) := by
  refine gK.of hp_X11 (Nat.le_of_ble_eq_true rfl) ?_
  unfold tw_isMany
  refine x_iload_n (μ := mu_tw_isMany) (pc := 0) 0 dX11_isMany_0 rfl ?_
  refine x_bipush (μ := mu_tw_isMany) (pc := 1) dX11_isMany_1 (by decide) ?_
  refine x_bipush (μ := mu_tw_isMany) (pc := 3) dX11_isMany_3 (by decide) ?_
  refine x_callS_pi (μ := mu_tw_isMany) (pc := 5) (ok_tw_in (ω := ω) (l := l) (d := d - 1) (by omega) hv0 (by decide) (by decide)) gRel_Tw gRel_Tw (fun _ q => q) q2980 q2981 q232 q2982 dX11_isMany_5 hy_tw_in (by omega) (Nat.le_of_ble_eq_true rfl) rfl (Nat.le_of_ble_eq_true rfl) (fun x1 hr2 => ?_)
  exact x_if (μ := mu_tw_isMany) (pc := 8) (fun hz => x_zret dX11_isMany_8 rfl hz rfl (gRel_Tw.1 _) (show g32 x1 from hr2))
def tw_leastArgs (v0 : Int) (σ : gMem) : Option Int := if v0 ≠ 30 then (tw_isMany v0 σ).bind (fun x1 => if x1 ≠ 0 then some 1 else (tw_in v0 37 42 σ).bind (fun x3 => if x3 = 0 then some 2 else some 1)) else some 3
set_option maxRecDepth 100000 in
theorem ok_tw_leastArgs {ω : gW} {l : Launch} {d : Nat} {σ : gMem} {v0 : Int} (hdp : 2 ≤ d) (hv0 : g32 v0) : gK (fun x : Int => (.inl (some (vI x)), σ)) gTw ω l d mu_tw_leastArgs [vI v0] σ (tw_leastArgs v0 σ) := by
  refine gK.of hp_X11 (Nat.le_of_ble_eq_true rfl) ?_
  unfold tw_leastArgs
  refine x_iload_n (μ := mu_tw_leastArgs) (pc := 0) 0 dX11_leastArgs_0 rfl ?_
  refine x_bipush (μ := mu_tw_leastArgs) (pc := 1) dX11_leastArgs_1 (by decide) ?_
  refine x_icmp_ne (μ := mu_tw_leastArgs) (pc := 3) (tgt := 10) dX11_leastArgs_3 rfl hv0 (by decide) ?_ ?_
  · refine x_iload_n (μ := mu_tw_leastArgs) (pc := 10) 0 dX11_leastArgs_10 rfl ?_
    refine x_callS_pi (μ := mu_tw_leastArgs) (pc := 11) (ok_tw_isMany (ω := ω) (l := l) (d := d - 1) (by omega) hv0) gRel_Tw gRel_Tw (fun _ q => q) q3160 q3161 q232 q3162 dX11_leastArgs_11 hy_tw_isMany (by omega) (Nat.le_of_ble_eq_true rfl) rfl (Nat.le_of_ble_eq_true rfl) (fun x1 hr2 => ?_)
    refine x_if_ne (μ := mu_tw_leastArgs) (pc := 14) (tgt := 28) dX11_leastArgs_14 rfl hr2 ?_ ?_
    · refine x_iconst (μ := mu_tw_leastArgs) (pc := 28) dX11_leastArgs_28 ?_
      refine x_goto (μ := mu_tw_leastArgs) (pc := 29) (tgt := 33) dX11_leastArgs_29 rfl ?_
      exact x_iret (μ := mu_tw_leastArgs) (pc := 33) dX11_leastArgs_33 rfl rfl (gRel_Tw.1 _) (show g32 1 from (by decide))
    · refine x_iload_n (μ := mu_tw_leastArgs) (pc := 17) 0 dX11_leastArgs_17 rfl ?_
      refine x_bipush (μ := mu_tw_leastArgs) (pc := 18) dX11_leastArgs_18 (by decide) ?_
      refine x_bipush (μ := mu_tw_leastArgs) (pc := 20) dX11_leastArgs_20 (by decide) ?_
      refine x_callS_pi (μ := mu_tw_leastArgs) (pc := 22) (ok_tw_in (ω := ω) (l := l) (d := d - 1) (by omega) hv0 (by decide) (by decide)) gRel_Tw gRel_Tw (fun _ q => q) q2980 q2981 q232 q2982 dX11_leastArgs_22 hy_tw_in (by omega) (Nat.le_of_ble_eq_true rfl) rfl (Nat.le_of_ble_eq_true rfl) (fun x3 hr4 => ?_)
      refine x_if_eq (μ := mu_tw_leastArgs) (pc := 25) (tgt := 32) dX11_leastArgs_25 rfl hr4 ?_ ?_
      · refine x_iconst (μ := mu_tw_leastArgs) (pc := 32) dX11_leastArgs_32 ?_
        exact x_iret (μ := mu_tw_leastArgs) (pc := 33) dX11_leastArgs_33 rfl rfl (gRel_Tw.1 _) (show g32 2 from (by decide))
      · refine x_iconst (μ := mu_tw_leastArgs) (pc := 28) dX11_leastArgs_28 ?_
        refine x_goto (μ := mu_tw_leastArgs) (pc := 29) (tgt := 33) dX11_leastArgs_29 rfl ?_
        exact x_iret (μ := mu_tw_leastArgs) (pc := 33) dX11_leastArgs_33 rfl rfl (gRel_Tw.1 _) (show g32 1 from (by decide))
  · refine x_iconst (μ := mu_tw_leastArgs) (pc := 6) dX11_leastArgs_6 ?_
    refine x_goto (μ := mu_tw_leastArgs) (pc := 7) (tgt := 33) dX11_leastArgs_7 rfl ?_
    exact x_iret (μ := mu_tw_leastArgs) (pc := 33) dX11_leastArgs_33 rfl rfl (gRel_Tw.1 _) (show g32 3 from (by decide))
def tw_mostArgs (v0 : Int) (σ : gMem) : Option Int := (tw_isMany v0 σ).bind (fun x1 => if x1 = 0 then (tw_leastArgs v0 σ).bind (fun x3 => some x3) else some 8)
set_option maxRecDepth 100000 in
theorem ok_tw_mostArgs {ω : gW} {l : Launch} {d : Nat} {σ : gMem} {v0 : Int} (hdp : 3 ≤ d) (hv0 : g32 v0) : gK (fun x : Int => (.inl (some (vI x)), σ)) gTw ω l d mu_tw_mostArgs [vI v0] σ (tw_mostArgs v0 σ) := by
  refine gK.of hp_X11 (Nat.le_of_ble_eq_true rfl) ?_
  unfold tw_mostArgs
  refine x_iload_n (μ := mu_tw_mostArgs) (pc := 0) 0 dX11_mostArgs_0 rfl ?_
  refine x_callS_pi (μ := mu_tw_mostArgs) (pc := 1) (ok_tw_isMany (ω := ω) (l := l) (d := d - 1) (by omega) hv0) gRel_Tw gRel_Tw (fun _ q => q) q3160 q3161 q232 q3162 dX11_mostArgs_1 hy_tw_isMany (by omega) (Nat.le_of_ble_eq_true rfl) rfl (Nat.le_of_ble_eq_true rfl) (fun x1 hr2 => ?_)
  refine x_if_eq (μ := mu_tw_mostArgs) (pc := 4) (tgt := 12) dX11_mostArgs_4 rfl hr2 ?_ ?_
  · refine x_iload_n (μ := mu_tw_mostArgs) (pc := 12) 0 dX11_mostArgs_12 rfl ?_
    refine x_callS_pi (μ := mu_tw_mostArgs) (pc := 13) (ok_tw_leastArgs (ω := ω) (l := l) (d := d - 1) (by omega) hv0) gRel_Tw gRel_Tw (fun _ q => q) q3167 q3168 q232 q3169 dX11_mostArgs_13 hy_tw_leastArgs (by omega) (Nat.le_of_ble_eq_true rfl) rfl (Nat.le_of_ble_eq_true rfl) (fun x3 hr4 => ?_)
    exact x_iret (μ := mu_tw_mostArgs) (pc := 16) dX11_mostArgs_16 rfl rfl (gRel_Tw.1 _) (show g32 x3 from hr4)
  · refine x_bipush (μ := mu_tw_mostArgs) (pc := 7) dX11_mostArgs_7 (by decide) ?_
    refine x_goto (μ := mu_tw_mostArgs) (pc := 9) (tgt := 16) dX11_mostArgs_9 rfl ?_
    exact x_iret (μ := mu_tw_mostArgs) (pc := 16) dX11_mostArgs_16 rfl rfl (gRel_Tw.1 _) (show g32 8 from (by decide))
def tw_isNumber_l36 (N : Nat) (h : Nat) (σ : gMem) (v2 : Int) (K : Option Int) : Nat → Int → Option Int
  | 0, _ => none
  | n + 1, v4 => if v2 ≤ v4 then K else if 0 ≤ v4 ∧ v4 < ((400 : Nat) : Int) then (tw_isDigit (mI σ (h + 27) v4.toNat) σ).bind (fun x5 => if x5 ≠ 0 then tw_isNumber_l36 N h σ v2 K n (w32 (v4 + 1)) else some 0) else none
set_option maxRecDepth 100000 in
theorem okl_tw_isNumber_l36 {ω : gW} {l : Launch} {d : Nat} {N : Nat} {h : Nat} {σ : gMem} {v2 : Int} {K : Option Int} (hdp : 2 ≤ d) (hM : TM σ h) (hv2 : g32 v2) (hK : GG (fun x : Int => (.inl (some (vI x)), σ)) gTw ω l d mu_tw_isNumber σ 63 [] [] σ (K)) : ∀ (n : Nat) (v4 : Int) , g32 v4 → GG (fun x : Int => (.inl (some (vI x)), σ)) gTw ω l d mu_tw_isNumber σ 36 [(0, vR h), (2, vI v2), (4, vI v4)] [] σ (tw_isNumber_l36 N h σ v2 K n v4) := by
  intro n
  induction n with
  | zero => intros; exact x_none
  | succ n ih =>
    intro v4 hv4
    unfold tw_isNumber_l36
    refine x_iload (μ := mu_tw_isNumber) (pc := 36) 2 dX11_isNumber_36 rfl ?_
    refine x_iload_n (μ := mu_tw_isNumber) (pc := 38) 1 dX11_isNumber_38 rfl ?_
    refine x_icmp_ge (μ := mu_tw_isNumber) (pc := 39) (tgt := 63) dX11_isNumber_39 rfl hv4 hv2 ?_ ?_
    · refine x_loc (lv' := []) [] rfl ?_
      exact hK
    · refine x_aload_n (μ := mu_tw_isNumber) (pc := 42) 0 dX11_isNumber_42 rfl ?_
      refine x_fgrE (μ := mu_tw_isNumber) (pc := 43) fX11_39 (Or.inr ⟨_, rfl⟩) q2675 (hM.a39).1 dX11_isNumber_43 hM.1 ?_
      refine x_iload (μ := mu_tw_isNumber) (pc := 46) 2 dX11_isNumber_46 rfl ?_
      refine x_iald (μ := mu_tw_isNumber) (pc := 48) dX11_isNumber_48 (hM.a39).2.1 (hM.a39).2.2 (fun hr4 => ?_)
      refine x_callS_pi (μ := mu_tw_isNumber) (pc := 49) (ok_tw_isDigit (ω := ω) (l := l) (d := d - 1) (by omega) hr4) gRel_Tw gRel_Tw (fun _ q => q) q3007 q3008 q232 q3009 dX11_isNumber_49 hy_tw_isDigit (by omega) (Nat.le_of_ble_eq_true rfl) rfl (Nat.le_of_ble_eq_true rfl) (fun x5 hr6 => ?_)
      refine x_if_ne (μ := mu_tw_isNumber) (pc := 52) (tgt := 57) dX11_isNumber_52 rfl hr6 ?_ ?_
      · refine x_iincw (μ := mu_tw_isNumber) (pc := 57) (lv' := [(4, vI (w32 (v4 + 1))), (0, vR h), (2, vI v2)]) 2 dX11_isNumber_57 rfl (by decide) rfl ?_
        refine x_goto (μ := mu_tw_isNumber) (pc := 60) (tgt := 36) dX11_isNumber_60 rfl ?_
        refine x_loc (lv' := [(0, vR h), (2, vI v2), (4, vI (w32 (v4 + 1)))]) [1, 2, 0] rfl ?_
        exact ih (w32 (v4 + 1)) (w32_rng _)
      · refine x_iconst (μ := mu_tw_isNumber) (pc := 55) dX11_isNumber_55 ?_
        exact x_zret (μ := mu_tw_isNumber) (pc := 56) dX11_isNumber_56 rfl (by decide) rfl (gRel_Tw.1 _) (show g32 0 from (by decide))
def tw_isNumber_j18 (N : Nat) (h : Nat) (σ : gMem) (v2 : Int) (t0 : Int) : Option Int := (tw_in (w32 (v2 - t0)) 1 15 σ).bind (fun x2 => if x2 ≠ 0 then tw_isNumber_l36 N h σ v2 (some 1) N t0 else some 0)
set_option maxRecDepth 100000 in
theorem okj_tw_isNumber_j18 {ω : gW} {l : Launch} {d : Nat} {N : Nat} {h : Nat} {σ : gMem} {v2 : Int} {t0 : Int} (hdp : 2 ≤ d) (hM : TM σ h) (hv2 : g32 v2) (ht0 : g32 t0) : GG (fun x : Int => (.inl (some (vI x)), σ)) gTw ω l d mu_tw_isNumber σ 18 [(0, vR h), (2, vI v2)] [vI t0] σ (tw_isNumber_j18 N h σ v2 t0 ) := by
  unfold tw_isNumber_j18
  refine x_istore_n (μ := mu_tw_isNumber) (pc := 18) (lv' := [(3, vI t0), (0, vR h), (2, vI v2)]) dX11_isNumber_18 rfl (by decide) rfl ?_
  refine x_iload_n (μ := mu_tw_isNumber) (pc := 19) 2 dX11_isNumber_19 rfl ?_
  refine x_iload_n (μ := mu_tw_isNumber) (pc := 20) 0 dX11_isNumber_20 rfl ?_
  refine x_isub (μ := mu_tw_isNumber) (pc := 21) dX11_isNumber_21 ?_
  refine x_iconst (μ := mu_tw_isNumber) (pc := 22) dX11_isNumber_22 ?_
  refine x_bipush (μ := mu_tw_isNumber) (pc := 23) dX11_isNumber_23 (by decide) ?_
  refine x_stk (st2 := [vI 15, vI 1, vI (w32 (v2 - t0))]) (by simp only [List.map_cons, gval_w32, gval_w64]) ?_
  refine x_callS_pi (μ := mu_tw_isNumber) (pc := 25) (ok_tw_in (ω := ω) (l := l) (d := d - 1) (by omega) (w32_rng _) (by decide) (by decide)) gRel_Tw gRel_Tw (fun _ q => q) q2980 q2981 q232 q2982 dX11_isNumber_25 hy_tw_in (by omega) (Nat.le_of_ble_eq_true rfl) rfl (Nat.le_of_ble_eq_true rfl) (fun x2 hr3 => ?_)
  refine x_if_ne (μ := mu_tw_isNumber) (pc := 28) (tgt := 33) dX11_isNumber_28 rfl hr3 ?_ ?_
  · refine x_iload_n (μ := mu_tw_isNumber) (pc := 33) 0 dX11_isNumber_33 rfl ?_
    refine x_istore (μ := mu_tw_isNumber) (pc := 34) (lv' := [(4, vI t0), (3, vI t0), (0, vR h), (2, vI v2)]) dX11_isNumber_34 (by decide) rfl ?_
    refine x_loc (lv' := [(0, vR h), (2, vI v2), (4, vI t0)]) [2, 3, 0] rfl ?_
    refine okl_tw_isNumber_l36 hdp hM hv2 ?_ N t0 ht0
    refine x_iconst (μ := mu_tw_isNumber) (pc := 63) dX11_isNumber_63 ?_
    exact x_zret (μ := mu_tw_isNumber) (pc := 64) dX11_isNumber_64 rfl (by decide) rfl (gRel_Tw.1 _) (show g32 1 from (by decide))
  · refine x_iconst (μ := mu_tw_isNumber) (pc := 31) dX11_isNumber_31 ?_
    exact x_zret (μ := mu_tw_isNumber) (pc := 32) dX11_isNumber_32 rfl (by decide) rfl (gRel_Tw.1 _) (show g32 0 from (by decide))
def tw_isNumber (N : Nat) (h : Nat) (v1 : Int) (v2 : Int) (σ : gMem) : Option Int := if 0 ≤ v1 ∧ v1 < ((400 : Nat) : Int) then if mI σ (h + 27) v1.toNat ≠ 45 then tw_isNumber_j18 N h σ v2 v1 else tw_isNumber_j18 N h σ v2 (w32 (v1 + 1)) else none
set_option maxRecDepth 100000 in
theorem ok_tw_isNumber {ω : gW} {l : Launch} {d : Nat} {N : Nat} {h : Nat} {σ : gMem} {v1 : Int} {v2 : Int} (hdp : 2 ≤ d) (hM : TM σ h) (hv1 : g32 v1) (hv2 : g32 v2) : gK (fun x : Int => (.inl (some (vI x)), σ)) gTw ω l d mu_tw_isNumber [vR h, vI v1, vI v2] σ (tw_isNumber N h v1 v2 σ) := by
  refine gK.of hp_X11 (Nat.le_of_ble_eq_true rfl) ?_
  unfold tw_isNumber
  refine x_aload_n (μ := mu_tw_isNumber) (pc := 0) 0 dX11_isNumber_0 rfl ?_
  refine x_fgrE (μ := mu_tw_isNumber) (pc := 1) fX11_39 (Or.inr ⟨_, rfl⟩) q2675 (hM.a39).1 dX11_isNumber_1 hM.1 ?_
  refine x_iload_n (μ := mu_tw_isNumber) (pc := 4) 1 dX11_isNumber_4 rfl ?_
  refine x_iald (μ := mu_tw_isNumber) (pc := 5) dX11_isNumber_5 (hM.a39).2.1 (hM.a39).2.2 (fun hr1 => ?_)
  refine x_bipush (μ := mu_tw_isNumber) (pc := 6) dX11_isNumber_6 (by decide) ?_
  refine x_icmp_ne (μ := mu_tw_isNumber) (pc := 8) (tgt := 17) dX11_isNumber_8 rfl hr1 (by decide) ?_ ?_
  · refine x_iload_n (μ := mu_tw_isNumber) (pc := 17) 1 dX11_isNumber_17 rfl ?_
    refine x_loc (lv' := [(0, vR h), (2, vI v2)]) [0, 2] rfl ?_
    exact okj_tw_isNumber_j18 hdp hM hv2 hv1
  · refine x_iload_n (μ := mu_tw_isNumber) (pc := 11) 1 dX11_isNumber_11 rfl ?_
    refine x_iconst (μ := mu_tw_isNumber) (pc := 12) dX11_isNumber_12 ?_
    refine x_iadd (μ := mu_tw_isNumber) (pc := 13) dX11_isNumber_13 ?_
    refine x_goto (μ := mu_tw_isNumber) (pc := 14) (tgt := 18) dX11_isNumber_14 rfl ?_
    refine x_w1 ?_
    refine x_loc (lv' := [(0, vR h), (2, vI v2)]) [0, 2] rfl ?_
    exact okj_tw_isNumber_j18 hdp hM hv2 (w32_rng _)
def tw_plain (h : Nat) (v1 : Int) (v2 : Int) (v4 : Int) (v5 : Int) (σ : gMem) : Option (Int × gMem) := if 0 ≤ (mI σ h 24) ∧ (mI σ h 24) < ((4200 : Nat) : Int) then gLet (wI σ (h + 10) (mI σ h 24).toNat v1) (fun s2 => if 0 ≤ (mI s2 h 24) ∧ (mI s2 h 24) < ((4200 : Nat) : Int) then gLet (wL s2 (h + 11) (mI s2 h 24).toNat v2) (fun s6 => if 0 ≤ (mI s6 h 24) ∧ (mI s6 h 24) < ((4200 : Nat) : Int) then gLet (wI s6 (h + 12) (mI s6 h 24).toNat v4) (fun s10 => if 0 ≤ (mI s10 h 24) ∧ (mI s10 h 24) < ((4200 : Nat) : Int) then gLet (wI s10 (h + 13) (mI s10 h 24).toNat v5) (fun s14 => gLet (wI s14 h 24 (w32 ((mI s14 h 24) + 1))) (fun s18 => some (w32 ((100000 + (mI s18 h 24)) - 1), s18))) else none) else none) else none) else none
set_option maxRecDepth 100000 in
theorem ok_tw_plain {ω : gW} {l : Launch} {d : Nat} {h : Nat} {σ : gMem} {v1 : Int} {v2 : Int} {v4 : Int} {v5 : Int} (hdp : 0 ≤ d) (hM : TM σ h) (hv1 : g32 v1) (hv2 : g64 v2) (hv4 : g32 v4) (hv5 : g32 v5) : gK (fun p : Int × gMem => (.inl (some (vI p.1)), p.2)) gTw ω l d mu_tw_plain [vR h, vI v1, vL v2, vI v4, vI v5] σ (tw_plain h v1 v2 v4 v5 σ) := by
  refine gK.of hp_X11 (Nat.le_of_ble_eq_true rfl) ?_
  unfold tw_plain
  refine x_aload_n (μ := mu_tw_plain) (pc := 0) 0 dX11_plain_0 rfl ?_
  refine x_fgrE (μ := mu_tw_plain) (pc := 1) fX11_20 (Or.inr ⟨_, rfl⟩) q2656 (hM.a20).1 dX11_plain_1 hM.1 ?_
  refine x_aload_n (μ := mu_tw_plain) (pc := 4) 0 dX11_plain_4 rfl ?_
  refine x_fgi (μ := mu_tw_plain) (pc := 5) fX11_24 q2660 dX11_plain_5 hM.1 (fun hr1 => ?_)
  refine x_iload_n (μ := mu_tw_plain) (pc := 8) 1 dX11_plain_8 rfl ?_
  refine x_iast (μ := mu_tw_plain) (pc := 9) dX11_plain_9 (hM.a20).2.1 (hM.a20).2.2 (fun _ _ q => gTw_wI q) ?_
  refine x_let (fun s2 e3 => ?_)
  have hM4 := TM.eI e3 hM
  refine x_aload_n (μ := mu_tw_plain) (pc := 10) 0 dX11_plain_10 rfl ?_
  refine x_fgrE (μ := mu_tw_plain) (pc := 11) fX11_21 (Or.inr ⟨_, rfl⟩) q2657 (hM4.a21).1 dX11_plain_11 hM4.1 ?_
  refine x_aload_n (μ := mu_tw_plain) (pc := 14) 0 dX11_plain_14 rfl ?_
  refine x_fgi (μ := mu_tw_plain) (pc := 15) fX11_24 q2660 dX11_plain_15 hM4.1 (fun hr5 => ?_)
  refine x_lload_n (μ := mu_tw_plain) (pc := 18) 2 dX11_plain_18 rfl ?_
  refine x_last (μ := mu_tw_plain) (pc := 19) dX11_plain_19 (hM4.a21).2.1 (hM4.a21).2.2 (fun _ _ q => gTw_wL q) ?_
  refine x_let (fun s6 e7 => ?_)
  have hM8 := TM.eL e7 hM4
  refine x_aload_n (μ := mu_tw_plain) (pc := 20) 0 dX11_plain_20 rfl ?_
  refine x_fgrE (μ := mu_tw_plain) (pc := 21) fX11_22 (Or.inr ⟨_, rfl⟩) q2658 (hM8.a22).1 dX11_plain_21 hM8.1 ?_
  refine x_aload_n (μ := mu_tw_plain) (pc := 24) 0 dX11_plain_24 rfl ?_
  refine x_fgi (μ := mu_tw_plain) (pc := 25) fX11_24 q2660 dX11_plain_25 hM8.1 (fun hr9 => ?_)
  refine x_iload (μ := mu_tw_plain) (pc := 28) 3 dX11_plain_28 rfl ?_
  refine x_iast (μ := mu_tw_plain) (pc := 30) dX11_plain_30 (hM8.a22).2.1 (hM8.a22).2.2 (fun _ _ q => gTw_wI q) ?_
  refine x_let (fun s10 e11 => ?_)
  have hM12 := TM.eI e11 hM8
  refine x_aload_n (μ := mu_tw_plain) (pc := 31) 0 dX11_plain_31 rfl ?_
  refine x_fgrE (μ := mu_tw_plain) (pc := 32) fX11_23 (Or.inr ⟨_, rfl⟩) q2659 (hM12.a23).1 dX11_plain_32 hM12.1 ?_
  refine x_aload_n (μ := mu_tw_plain) (pc := 35) 0 dX11_plain_35 rfl ?_
  refine x_fgi (μ := mu_tw_plain) (pc := 36) fX11_24 q2660 dX11_plain_36 hM12.1 (fun hr13 => ?_)
  refine x_iload (μ := mu_tw_plain) (pc := 39) 4 dX11_plain_39 rfl ?_
  refine x_iast (μ := mu_tw_plain) (pc := 41) dX11_plain_41 (hM12.a23).2.1 (hM12.a23).2.2 (fun _ _ q => gTw_wI q) ?_
  refine x_let (fun s14 e15 => ?_)
  have hM16 := TM.eI e15 hM12
  refine x_aload_n (μ := mu_tw_plain) (pc := 42) 0 dX11_plain_42 rfl ?_
  refine x_dup (μ := mu_tw_plain) (pc := 43) dX11_plain_43 rfl ?_
  refine x_fgi (μ := mu_tw_plain) (pc := 44) fX11_24 q2660 dX11_plain_44 hM16.1 (fun hr17 => ?_)
  refine x_iconst (μ := mu_tw_plain) (pc := 47) dX11_plain_47 ?_
  refine x_iadd (μ := mu_tw_plain) (pc := 48) dX11_plain_48 ?_
  refine x_w1 ?_
  refine x_fpi (μ := mu_tw_plain) (pc := 49) fX11_24 q2660 dX11_plain_49 hM16.1 (fun _ q => gTw_wI q) ?_
  refine x_let (fun s18 e19 => ?_)
  have hM20 := TM.eI e19 hM16
  refine x_ldc (μ := mu_tw_plain) (pc := 52) (n := 100000) dX11_plain_52 q3189 ?_
  refine x_aload_n (μ := mu_tw_plain) (pc := 54) 0 dX11_plain_54 rfl ?_
  refine x_fgi (μ := mu_tw_plain) (pc := 55) fX11_24 q2660 dX11_plain_55 hM20.1 (fun hr21 => ?_)
  refine x_iadd (μ := mu_tw_plain) (pc := 58) dX11_plain_58 ?_
  refine x_iconst (μ := mu_tw_plain) (pc := 59) dX11_plain_59 ?_
  refine x_isub (μ := mu_tw_plain) (pc := 60) dX11_plain_60 ?_
  refine x_w1 ?_
  exact x_iret (μ := mu_tw_plain) (pc := 61) dX11_plain_61 rfl rfl (gRel_Tw.1 _) (show g32 (w32 ((100000 + (mI s18 h 24)) - 1)) from (w32_rng _))
def tw_step_j35 (N : Nat) (h : Nat) (s : gMem) : Option (Int × gMem) := gLet (wI s h 17 0) (fun s6 => (tw_stepAt h (w32 ((mI s6 h 16) - 1)) s6).bind (fun x10 => (tw_copySheet N h 40 x10 s6).bind (fun x12 => gLet (wI x12 h 65 0) (fun s15 => some (x10, s15)))))
set_option maxRecDepth 100000 in
theorem okj_tw_step_j35 {ω : gW} {l : Launch} {d : Nat} {N : Nat} {h : Nat} {σ0 : gMem} {s : gMem} (hdp : 1 ≤ d) (hM : TM s h) : GG (fun p : Int × gMem => (.inl (some (vI p.1)), p.2)) gTw ω l d mu_tw_step σ0 35 [(0, vR h)] [] s (tw_step_j35 N h s) := by
  unfold tw_step_j35
  refine x_aload_n (μ := mu_tw_step) (pc := 35) 0 dX11_step_35 rfl ?_
  refine x_iconst (μ := mu_tw_step) (pc := 36) dX11_step_36 ?_
  refine x_fpi (μ := mu_tw_step) (pc := 37) fX11_17 q2653 dX11_step_37 hM.1 (fun _ q => gTw_wI q) ?_
  refine x_let (fun s6 e7 => ?_)
  have hM8 := TM.eI e7 hM
  refine x_aload_n (μ := mu_tw_step) (pc := 40) 0 dX11_step_40 rfl ?_
  refine x_aload_n (μ := mu_tw_step) (pc := 41) 0 dX11_step_41 rfl ?_
  refine x_fgi (μ := mu_tw_step) (pc := 42) fX11_16 q2652 dX11_step_42 hM8.1 (fun hr9 => ?_)
  refine x_iconst (μ := mu_tw_step) (pc := 45) dX11_step_45 ?_
  refine x_isub (μ := mu_tw_step) (pc := 46) dX11_step_46 ?_
  refine x_w1 ?_
  refine x_callV_pi (μ := mu_tw_step) (pc := 47) (ok_tw_stepAt (ω := ω) (l := l) (d := d - 1) (by omega) hM8 (w32_rng _)) gRel_Tw gRel_Tw (fun _ q => q) q2964 q2966 qs79 q232 q2967 dX11_step_47 rfl hM8.1 hy_tw_stepAt (by omega) (Nat.le_of_ble_eq_true rfl) rfl (Nat.le_of_ble_eq_true rfl) (fun x10 hr11 => ?_)
  refine x_istore_n (μ := mu_tw_step) (pc := 50) (lv' := [(1, vI x10), (0, vR h)]) dX11_step_50 rfl (by decide) rfl ?_
  refine x_aload_n (μ := mu_tw_step) (pc := 51) 1 dX11_step_51 rfl ?_
  refine x_bipush (μ := mu_tw_step) (pc := 52) dX11_step_52 (by decide) ?_
  refine x_iload_n (μ := mu_tw_step) (pc := 54) 0 dX11_step_54 rfl ?_
  refine x_callV_mv (μ := mu_tw_step) (pc := 55) (ok_tw_copySheet (ω := ω) (l := l) (d := d - 1) (by omega) hM8 (by decide) hr11) gRel_Tw gRel_Tw (fun _ q => q) q2632 q2634 qs77 q232 q2635 dX11_step_55 rfl hM8.1 hy_tw_copySheet (by omega) (Nat.le_of_ble_eq_true rfl) rfl (Nat.le_of_ble_eq_true rfl) (fun x12 k13 => ?_)
  have hM14 : TM x12 h := hM8.tw k13
  refine x_aload_n (μ := mu_tw_step) (pc := 58) 1 dX11_step_58 rfl ?_
  refine x_iconst (μ := mu_tw_step) (pc := 59) dX11_step_59 ?_
  refine x_fpz (μ := mu_tw_step) (pc := 60) fX11_65 q2701 (by decide) dX11_step_60 hM14.1 (fun _ q => gTw_wI q) ?_
  refine x_let (fun s15 e16 => ?_)
  have hM17 := TM.eI e16 hM14
  refine x_iload_n (μ := mu_tw_step) (pc := 63) 0 dX11_step_63 rfl ?_
  exact x_iret (μ := mu_tw_step) (pc := 64) dX11_step_64 rfl rfl (gRel_Tw.1 _) (show g32 x10 from hr11)
def tw_step (N : Nat) (h : Nat) (σ : gMem) : Option (Int × gMem) := if mI σ h 16 ≠ 40 then gLet (wI σ h 16 (w32 ((mI σ h 16) + 1))) (fun s3 => tw_step_j35 N h  s3) else gLet (wI σ h 15 (w32 (Int.tmod (w32 ((mI σ h 15) + 1)) 40))) (fun s19 => tw_step_j35 N h  s19)
set_option maxRecDepth 100000 in
theorem ok_tw_step {ω : gW} {l : Launch} {d : Nat} {N : Nat} {h : Nat} {σ : gMem} (hdp : 1 ≤ d) (hM : TM σ h) : gK (fun p : Int × gMem => (.inl (some (vI p.1)), p.2)) gTw ω l d mu_tw_step [vR h] σ (tw_step N h σ) := by
  refine gK.of hp_X11 (Nat.le_of_ble_eq_true rfl) ?_
  unfold tw_step
  refine x_aload_n (μ := mu_tw_step) (pc := 0) 0 dX11_step_0 rfl ?_
  refine x_fgi (μ := mu_tw_step) (pc := 1) fX11_16 q2652 dX11_step_1 hM.1 (fun hr1 => ?_)
  refine x_bipush (μ := mu_tw_step) (pc := 4) dX11_step_4 (by decide) ?_
  refine x_icmp_ne (μ := mu_tw_step) (pc := 6) (tgt := 25) dX11_step_6 rfl hr1 (by decide) ?_ ?_
  · refine x_aload_n (μ := mu_tw_step) (pc := 25) 0 dX11_step_25 rfl ?_
    refine x_dup (μ := mu_tw_step) (pc := 26) dX11_step_26 rfl ?_
    refine x_fgi (μ := mu_tw_step) (pc := 27) fX11_16 q2652 dX11_step_27 hM.1 (fun hr2 => ?_)
    refine x_iconst (μ := mu_tw_step) (pc := 30) dX11_step_30 ?_
    refine x_iadd (μ := mu_tw_step) (pc := 31) dX11_step_31 ?_
    refine x_w1 ?_
    refine x_fpi (μ := mu_tw_step) (pc := 32) fX11_16 q2652 dX11_step_32 hM.1 (fun _ q => gTw_wI q) ?_
    refine x_let (fun s3 e4 => ?_)
    have hM5 := TM.eI e4 hM
    exact okj_tw_step_j35 hdp hM5
  · refine x_aload_n (μ := mu_tw_step) (pc := 9) 0 dX11_step_9 rfl ?_
    refine x_aload_n (μ := mu_tw_step) (pc := 10) 0 dX11_step_10 rfl ?_
    refine x_fgi (μ := mu_tw_step) (pc := 11) fX11_15 q2651 dX11_step_11 hM.1 (fun hr18 => ?_)
    refine x_iconst (μ := mu_tw_step) (pc := 14) dX11_step_14 ?_
    refine x_iadd (μ := mu_tw_step) (pc := 15) dX11_step_15 ?_
    refine x_bipush (μ := mu_tw_step) (pc := 16) dX11_step_16 (by decide) ?_
    refine x_w2 ?_
    refine x_iremc (μ := mu_tw_step) (pc := 18) dX11_step_18 (w32_rng _) (by decide) (by decide) ?_
    refine x_w1 ?_
    refine x_fpi (μ := mu_tw_step) (pc := 19) fX11_15 q2651 dX11_step_19 hM.1 (fun _ q => gTw_wI q) ?_
    refine x_let (fun s19 e20 => ?_)
    have hM21 := TM.eI e20 hM
    refine x_goto (μ := mu_tw_step) (pc := 22) (tgt := 35) dX11_step_22 rfl ?_
    exact okj_tw_step_j35 hdp hM21
def tw_setCell (h : Nat) (v1 : Int) (v2 : Int) (v3 : Int) (σ : gMem) : Option gMem := if 0 ≤ (((12800 + (10 * (v1 - 1))) + v2) - 1) ∧ (((12800 + (10 * (v1 - 1))) + v2) - 1) < ((39040 : Nat) : Int) then gLet (wI σ (h + 5) (((12800 + (10 * (v1 - 1))) + v2) - 1).toNat v3) (fun s1 => some s1) else none
set_option maxRecDepth 100000 in
theorem ok_tw_setCell {ω : gW} {l : Launch} {d : Nat} {h : Nat} {σ : gMem} {v1 : Int} {v2 : Int} {v3 : Int} (hdp : 0 ≤ d) (hM : TM σ h) (hv1 : g32 v1) (hv2 : g32 v2) (hv3 : g32 v3) : gK (fun p : gMem => (.inl none, p)) gTw ω l d mu_tw_setCell [vR h, vI v1, vI v2, vI v3] σ (tw_setCell h v1 v2 v3 σ) := by
  refine gK.of hp_X11 (Nat.le_of_ble_eq_true rfl) ?_
  unfold tw_setCell
  refine x_aload_n (μ := mu_tw_setCell) (pc := 0) 0 dX11_setCell_0 rfl ?_
  refine x_fgrE (μ := mu_tw_setCell) (pc := 1) fX11_5 (Or.inr ⟨_, rfl⟩) q2641 (hM.a5).1 dX11_setCell_1 hM.1 ?_
  refine x_sipush (μ := mu_tw_setCell) (pc := 4) dX11_setCell_4 (by decide) ?_
  refine x_bipush (μ := mu_tw_setCell) (pc := 7) dX11_setCell_7 (by decide) ?_
  refine x_iload_n (μ := mu_tw_setCell) (pc := 9) 1 dX11_setCell_9 rfl ?_
  refine x_iconst (μ := mu_tw_setCell) (pc := 10) dX11_setCell_10 ?_
  refine x_isub (μ := mu_tw_setCell) (pc := 11) dX11_setCell_11 ?_
  refine x_imul (μ := mu_tw_setCell) (pc := 12) dX11_setCell_12 ?_
  refine x_iadd (μ := mu_tw_setCell) (pc := 13) dX11_setCell_13 ?_
  refine x_iload_n (μ := mu_tw_setCell) (pc := 14) 2 dX11_setCell_14 rfl ?_
  refine x_iadd (μ := mu_tw_setCell) (pc := 15) dX11_setCell_15 ?_
  refine x_iconst (μ := mu_tw_setCell) (pc := 16) dX11_setCell_16 ?_
  refine x_isub (μ := mu_tw_setCell) (pc := 17) dX11_setCell_17 ?_
  refine x_iload_n (μ := mu_tw_setCell) (pc := 18) 3 dX11_setCell_18 rfl ?_
  refine x_iast (μ := mu_tw_setCell) (pc := 19) dX11_setCell_19 (hM.a5).2.1 (hM.a5).2.2 (fun _ _ q => gTw_wI q) ?_
  refine x_let (fun s1 e2 => ?_)
  have hM3 := TM.eI e2 hM
  exact x_vret (μ := mu_tw_setCell) (pc := 20) (a1 := s1) dX11_setCell_20 rfl rfl (gRel_Tw.1 _) trivial
def tw_fault (h : Nat) (v1 : Int) (σ : gMem) : Option (Int × gMem) := gLet (wI σ h 0 0) (fun s1 => if v1 ≠ 0 then if v1 ≠ 1 then some ((-1), s1) else some (mI s1 h 42, s1) else some (mI s1 h 41, s1))
set_option maxRecDepth 100000 in
theorem ok_tw_fault {ω : gW} {l : Launch} {d : Nat} {h : Nat} {σ : gMem} {v1 : Int} (hdp : 0 ≤ d) (hM : TM σ h) (hv1 : g32 v1) : gK (fun p : Int × gMem => (.inl (some (vI p.1)), p.2)) gTw ω l d mu_tw_fault [vR h, vI v1] σ (tw_fault h v1 σ) := by
  refine gK.of hp_X11 (Nat.le_of_ble_eq_true rfl) ?_
  unfold tw_fault
  refine x_aload_n (μ := mu_tw_fault) (pc := 0) 0 dX11_fault_0 rfl ?_
  refine x_iconst (μ := mu_tw_fault) (pc := 1) dX11_fault_1 ?_
  refine x_fpi (μ := mu_tw_fault) (pc := 2) fX11_0 q2636 dX11_fault_2 hM.1 (fun _ q => gTw_wI q) ?_
  refine x_let (fun s1 e2 => ?_)
  have hM3 := TM.eI e2 hM
  refine x_iload_n (μ := mu_tw_fault) (pc := 5) 1 dX11_fault_5 rfl ?_
  refine x_if_ne (μ := mu_tw_fault) (pc := 6) (tgt := 16) dX11_fault_6 rfl hv1 ?_ ?_
  · refine x_iload_n (μ := mu_tw_fault) (pc := 16) 1 dX11_fault_16 rfl ?_
    refine x_iconst (μ := mu_tw_fault) (pc := 17) dX11_fault_17 ?_
    refine x_icmp_ne (μ := mu_tw_fault) (pc := 18) (tgt := 28) dX11_fault_18 rfl hv1 (by decide) ?_ ?_
    · refine x_iconst (μ := mu_tw_fault) (pc := 28) dX11_fault_28 ?_
      exact x_iret (μ := mu_tw_fault) (pc := 29) dX11_fault_29 rfl rfl (gRel_Tw.1 _) (show g32 (-1) from (by decide))
    · refine x_aload_n (μ := mu_tw_fault) (pc := 21) 0 dX11_fault_21 rfl ?_
      refine x_fgi (μ := mu_tw_fault) (pc := 22) fX11_42 q2678 dX11_fault_22 hM3.1 (fun hr4 => ?_)
      refine x_goto (μ := mu_tw_fault) (pc := 25) (tgt := 29) dX11_fault_25 rfl ?_
      exact x_iret (μ := mu_tw_fault) (pc := 29) dX11_fault_29 rfl rfl (gRel_Tw.1 _) (show g32 (mI s1 h 42) from hr4)
  · refine x_aload_n (μ := mu_tw_fault) (pc := 9) 0 dX11_fault_9 rfl ?_
    refine x_fgi (μ := mu_tw_fault) (pc := 10) fX11_41 q2677 dX11_fault_10 hM3.1 (fun hr5 => ?_)
    refine x_goto (μ := mu_tw_fault) (pc := 13) (tgt := 29) dX11_fault_13 rfl ?_
    exact x_iret (μ := mu_tw_fault) (pc := 29) dX11_fault_29 rfl rfl (gRel_Tw.1 _) (show g32 (mI s1 h 41) from hr5)
def tw_isSheet (h : Nat) (v1 : Int) (σ : gMem) : Option Int := (tw_in v1 (-1) (w32 ((mI σ h 8) - 1)) σ).bind (fun x2 => if x2 = 0 ∨ x2 = 1 then some x2 else none)
set_option maxRecDepth 100000 in
theorem ok_tw_isSheet {ω : gW} {l : Launch} {d : Nat} {h : Nat} {σ : gMem} {v1 : Int} (hdp : 1 ≤ d) (hM : TM σ h) (hv1 : g32 v1) : gK (fun x : Int => (.inl (some (vI x)), σ)) gTw ω l d mu_tw_isSheet [vR h, vI v1] σ (tw_isSheet h v1 σ) := by
  refine gK.of hp_X11 (Nat.le_of_ble_eq_true rfl) ?_
  unfold tw_isSheet
  refine x_iload_n (μ := mu_tw_isSheet) (pc := 0) 1 dX11_isSheet_0 rfl ?_
  refine x_iconst (μ := mu_tw_isSheet) (pc := 1) dX11_isSheet_1 ?_
  refine x_aload_n (μ := mu_tw_isSheet) (pc := 2) 0 dX11_isSheet_2 rfl ?_
  refine x_fgi (μ := mu_tw_isSheet) (pc := 3) fX11_8 q2644 dX11_isSheet_3 hM.1 (fun hr1 => ?_)
  refine x_iconst (μ := mu_tw_isSheet) (pc := 6) dX11_isSheet_6 ?_
  refine x_isub (μ := mu_tw_isSheet) (pc := 7) dX11_isSheet_7 ?_
  refine x_w1 ?_
  refine x_callS_pi (μ := mu_tw_isSheet) (pc := 8) (ok_tw_in (ω := ω) (l := l) (d := d - 1) (by omega) hv1 (by decide) (w32_rng _)) gRel_Tw gRel_Tw (fun _ q => q) q2980 q2981 q232 q2982 dX11_isSheet_8 hy_tw_in (by omega) (Nat.le_of_ble_eq_true rfl) rfl (Nat.le_of_ble_eq_true rfl) (fun x2 hr3 => ?_)
  exact x_if (μ := mu_tw_isSheet) (pc := 11) (fun hz => x_zret dX11_isSheet_11 rfl hz rfl (gRel_Tw.1 _) (show g32 x2 from hr3))
def tw_sheetAt (v0 : Int) (σ : gMem) : Option Int := if 0 ≤ v0 then some v0 else some 40
set_option maxRecDepth 100000 in
theorem ok_tw_sheetAt {ω : gW} {l : Launch} {d : Nat} {σ : gMem} {v0 : Int} (hdp : 0 ≤ d) (hv0 : g32 v0) : gK (fun x : Int => (.inl (some (vI x)), σ)) gTw ω l d mu_tw_sheetAt [vI v0] σ (tw_sheetAt v0 σ) := by
  refine gK.of hp_X11 (Nat.le_of_ble_eq_true rfl) ?_
  unfold tw_sheetAt
  refine x_iload_n (μ := mu_tw_sheetAt) (pc := 0) 0 dX11_sheetAt_0 rfl ?_
  refine x_if_ge (μ := mu_tw_sheetAt) (pc := 1) (tgt := 9) dX11_sheetAt_1 rfl hv0 ?_ ?_
  · refine x_iload_n (μ := mu_tw_sheetAt) (pc := 9) 0 dX11_sheetAt_9 rfl ?_
    exact x_iret (μ := mu_tw_sheetAt) (pc := 10) dX11_sheetAt_10 rfl rfl (gRel_Tw.1 _) (show g32 v0 from hv0)
  · refine x_bipush (μ := mu_tw_sheetAt) (pc := 4) dX11_sheetAt_4 (by decide) ?_
    refine x_goto (μ := mu_tw_sheetAt) (pc := 6) (tgt := 10) dX11_sheetAt_6 rfl ?_
    exact x_iret (μ := mu_tw_sheetAt) (pc := 10) dX11_sheetAt_10 rfl rfl (gRel_Tw.1 _) (show g32 40 from (by decide))
def tw_isFormula (v0 : Int) (σ : gMem) : Option Int := if v0 ≤ 0 then some 0 else if 100000 ≤ v0 then some 0 else some 1
set_option maxRecDepth 100000 in
theorem ok_tw_isFormula {ω : gW} {l : Launch} {d : Nat} {σ : gMem} {v0 : Int} (hdp : 0 ≤ d) (hv0 : g32 v0) : gK (fun x : Int => (.inl (some (vI x)), σ)) gTw ω l d mu_tw_isFormula [vI v0] σ (tw_isFormula v0 σ) := by
  refine gK.of hp_X11 (Nat.le_of_ble_eq_true rfl) ?_
  unfold tw_isFormula
  refine x_iload_n (μ := mu_tw_isFormula) (pc := 0) 0 dX11_isFormula_0 rfl ?_
  refine x_if_le (μ := mu_tw_isFormula) (pc := 1) (tgt := 14) dX11_isFormula_1 rfl hv0 ?_ ?_
  · refine x_iconst (μ := mu_tw_isFormula) (pc := 14) dX11_isFormula_14 ?_
    exact x_zret (μ := mu_tw_isFormula) (pc := 15) dX11_isFormula_15 rfl (by decide) rfl (gRel_Tw.1 _) (show g32 0 from (by decide))
  · refine x_iload_n (μ := mu_tw_isFormula) (pc := 4) 0 dX11_isFormula_4 rfl ?_
    refine x_ldc (μ := mu_tw_isFormula) (pc := 5) (n := 100000) dX11_isFormula_5 q3189 ?_
    refine x_icmp_ge (μ := mu_tw_isFormula) (pc := 7) (tgt := 14) dX11_isFormula_7 rfl hv0 (by decide) ?_ ?_
    · refine x_iconst (μ := mu_tw_isFormula) (pc := 14) dX11_isFormula_14 ?_
      exact x_zret (μ := mu_tw_isFormula) (pc := 15) dX11_isFormula_15 rfl (by decide) rfl (gRel_Tw.1 _) (show g32 0 from (by decide))
    · refine x_iconst (μ := mu_tw_isFormula) (pc := 10) dX11_isFormula_10 ?_
      refine x_goto (μ := mu_tw_isFormula) (pc := 11) (tgt := 15) dX11_isFormula_11 rfl ?_
      exact x_zret (μ := mu_tw_isFormula) (pc := 15) dX11_isFormula_15 rfl (by decide) rfl (gRel_Tw.1 _) (show g32 1 from (by decide))
def tw_sheetOf (h : Nat) (v1 : Int) (v2 : Int) (σ : gMem) : Option Int := if 0 ≤ v1 ∧ v1 < ((60420 : Nat) : Int) then if 0 ≤ mI σ (h + 25) v1.toNat then if 0 ≤ v1 ∧ v1 < ((60420 : Nat) : Int) then some (mI σ (h + 25) v1.toNat) else none else some v2 else none
set_option maxRecDepth 100000 in
theorem ok_tw_sheetOf {ω : gW} {l : Launch} {d : Nat} {h : Nat} {σ : gMem} {v1 : Int} {v2 : Int} (hdp : 0 ≤ d) (hM : TM σ h) (hv1 : g32 v1) (hv2 : g32 v2) : gK (fun x : Int => (.inl (some (vI x)), σ)) gTw ω l d mu_tw_sheetOf [vR h, vI v1, vI v2] σ (tw_sheetOf h v1 v2 σ) := by
  refine gK.of hp_X11 (Nat.le_of_ble_eq_true rfl) ?_
  unfold tw_sheetOf
  refine x_aload_n (μ := mu_tw_sheetOf) (pc := 0) 0 dX11_sheetOf_0 rfl ?_
  refine x_fgrE (μ := mu_tw_sheetOf) (pc := 1) fX11_37 (Or.inr ⟨_, rfl⟩) q2673 (hM.a37).1 dX11_sheetOf_1 hM.1 ?_
  refine x_iload_n (μ := mu_tw_sheetOf) (pc := 4) 1 dX11_sheetOf_4 rfl ?_
  refine x_iald (μ := mu_tw_sheetOf) (pc := 5) dX11_sheetOf_5 (hM.a37).2.1 (hM.a37).2.2 (fun hr1 => ?_)
  refine x_if_ge (μ := mu_tw_sheetOf) (pc := 6) (tgt := 13) dX11_sheetOf_6 rfl hr1 ?_ ?_
  · refine x_aload_n (μ := mu_tw_sheetOf) (pc := 13) 0 dX11_sheetOf_13 rfl ?_
    refine x_fgrE (μ := mu_tw_sheetOf) (pc := 14) fX11_37 (Or.inr ⟨_, rfl⟩) q2673 (hM.a37).1 dX11_sheetOf_14 hM.1 ?_
    refine x_iload_n (μ := mu_tw_sheetOf) (pc := 17) 1 dX11_sheetOf_17 rfl ?_
    refine x_iald (μ := mu_tw_sheetOf) (pc := 18) dX11_sheetOf_18 (hM.a37).2.1 (hM.a37).2.2 (fun hr2 => ?_)
    exact x_iret (μ := mu_tw_sheetOf) (pc := 19) dX11_sheetOf_19 rfl rfl (gRel_Tw.1 _) (show g32 (mI σ (h + 25) v1.toNat) from hr2)
  · refine x_iload_n (μ := mu_tw_sheetOf) (pc := 9) 2 dX11_sheetOf_9 rfl ?_
    refine x_goto (μ := mu_tw_sheetOf) (pc := 10) (tgt := 19) dX11_sheetOf_10 rfl ?_
    exact x_iret (μ := mu_tw_sheetOf) (pc := 19) dX11_sheetOf_19 rfl rfl (gRel_Tw.1 _) (show g32 v2 from hv2)
def tw_linesOf (h : Nat) (v1 : Int) (v2 : Int) (σ : gMem) : Option Int := if v2 ≠ 0 then if 0 ≤ v1 ∧ v1 < ((122 : Nat) : Int) then some (mI σ (h + 2) v1.toNat) else none else if 0 ≤ v1 ∧ v1 < ((122 : Nat) : Int) then some (mI σ (h + 1) v1.toNat) else none
set_option maxRecDepth 100000 in
theorem ok_tw_linesOf {ω : gW} {l : Launch} {d : Nat} {h : Nat} {σ : gMem} {v1 : Int} {v2 : Int} (hdp : 0 ≤ d) (hM : TM σ h) (hv1 : g32 v1) (hv2 : g32 v2) : gK (fun x : Int => (.inl (some (vI x)), σ)) gTw ω l d mu_tw_linesOf [vR h, vI v1, vI v2] σ (tw_linesOf h v1 v2 σ) := by
  refine gK.of hp_X11 (Nat.le_of_ble_eq_true rfl) ?_
  unfold tw_linesOf
  refine x_iload_n (μ := mu_tw_linesOf) (pc := 0) 2 dX11_linesOf_0 rfl ?_
  refine x_if_ne (μ := mu_tw_linesOf) (pc := 1) (tgt := 13) dX11_linesOf_1 rfl hv2 ?_ ?_
  · refine x_aload_n (μ := mu_tw_linesOf) (pc := 13) 0 dX11_linesOf_13 rfl ?_
    refine x_fgrE (μ := mu_tw_linesOf) (pc := 14) fX11_2 (Or.inr ⟨_, rfl⟩) q2638 (hM.a2).1 dX11_linesOf_14 hM.1 ?_
    refine x_iload_n (μ := mu_tw_linesOf) (pc := 17) 1 dX11_linesOf_17 rfl ?_
    refine x_iald (μ := mu_tw_linesOf) (pc := 18) dX11_linesOf_18 (hM.a2).2.1 (hM.a2).2.2 (fun hr1 => ?_)
    exact x_iret (μ := mu_tw_linesOf) (pc := 19) dX11_linesOf_19 rfl rfl (gRel_Tw.1 _) (show g32 (mI σ (h + 2) v1.toNat) from hr1)
  · refine x_aload_n (μ := mu_tw_linesOf) (pc := 4) 0 dX11_linesOf_4 rfl ?_
    refine x_fgrE (μ := mu_tw_linesOf) (pc := 5) fX11_1 (Or.inr ⟨_, rfl⟩) q2637 (hM.a1).1 dX11_linesOf_5 hM.1 ?_
    refine x_iload_n (μ := mu_tw_linesOf) (pc := 8) 1 dX11_linesOf_8 rfl ?_
    refine x_iald (μ := mu_tw_linesOf) (pc := 9) dX11_linesOf_9 (hM.a1).2.1 (hM.a1).2.2 (fun hr2 => ?_)
    refine x_goto (μ := mu_tw_linesOf) (pc := 10) (tgt := 19) dX11_linesOf_10 rfl ?_
    exact x_iret (μ := mu_tw_linesOf) (pc := 19) dX11_linesOf_19 rfl rfl (gRel_Tw.1 _) (show g32 (mI σ (h + 1) v1.toNat) from hr2)
def tw_lead (h : Nat) (v1 : Int) (v2 : Int) (σ : gMem) : Option gMem := if 0 ≤ ((5 * v1) + (Int.tdiv v2 64)) ∧ ((5 * v1) + (Int.tdiv v2 64)) < ((1600 : Nat) : Int) then if 0 ≤ ((5 * v1) + (Int.tdiv v2 64)) ∧ ((5 * v1) + (Int.tdiv v2 64)) < ((1600 : Nat) : Int) then gLet (wL σ (h + 38) ((5 * v1) + (Int.tdiv v2 64)).toNat (lOr (mL σ (h + 38) ((5 * v1) + (Int.tdiv v2 64)).toNat) (lShl (((1 : Fin 2) : Nat) : Int) (Int.tmod v2 64)))) (fun s2 => some s2) else none else none
set_option maxRecDepth 100000 in
theorem ok_tw_lead {ω : gW} {l : Launch} {d : Nat} {h : Nat} {σ : gMem} {v1 : Int} {v2 : Int} (hdp : 0 ≤ d) (hM : TM σ h) (hv1 : g32 v1) (hv2 : g32 v2) : gK (fun p : gMem => (.inl none, p)) gTw ω l d mu_tw_lead [vR h, vI v1, vI v2] σ (tw_lead h v1 v2 σ) := by
  refine gK.of hp_X11 (Nat.le_of_ble_eq_true rfl) ?_
  unfold tw_lead
  refine x_aload_n (μ := mu_tw_lead) (pc := 0) 0 dX11_lead_0 rfl ?_
  refine x_fgrE (μ := mu_tw_lead) (pc := 1) fX11_82 (Or.inr ⟨_, rfl⟩) q2718 (hM.a82).1 dX11_lead_1 hM.1 ?_
  refine x_iconst (μ := mu_tw_lead) (pc := 4) dX11_lead_4 ?_
  refine x_iload_n (μ := mu_tw_lead) (pc := 5) 1 dX11_lead_5 rfl ?_
  refine x_imul (μ := mu_tw_lead) (pc := 6) dX11_lead_6 ?_
  refine x_iload_n (μ := mu_tw_lead) (pc := 7) 2 dX11_lead_7 rfl ?_
  refine x_bipush (μ := mu_tw_lead) (pc := 8) dX11_lead_8 (by decide) ?_
  refine x_idivc (μ := mu_tw_lead) (pc := 10) dX11_lead_10 hv2 (by decide) (by decide) ?_
  refine x_iadd (μ := mu_tw_lead) (pc := 11) dX11_lead_11 ?_
  refine x_dup2 (μ := mu_tw_lead) (pc := 12) dX11_lead_12 rfl rfl ?_
  refine x_lald (μ := mu_tw_lead) (pc := 13) dX11_lead_13 (hM.a82).2.1 (hM.a82).2.2 (fun hr1 => ?_)
  refine x_lconst (μ := mu_tw_lead) (pc := 14) dX11_lead_14 ?_
  refine x_iload_n (μ := mu_tw_lead) (pc := 15) 2 dX11_lead_15 rfl ?_
  refine x_bipush (μ := mu_tw_lead) (pc := 16) dX11_lead_16 (by decide) ?_
  refine x_iremc (μ := mu_tw_lead) (pc := 18) dX11_lead_18 hv2 (by decide) (by decide) ?_
  refine x_lshl (μ := mu_tw_lead) (pc := 19) dX11_lead_19 ?_
  refine x_lor (μ := mu_tw_lead) (pc := 20) dX11_lead_20 ?_
  refine x_last (μ := mu_tw_lead) (pc := 21) dX11_lead_21 (hM.a82).2.1 (hM.a82).2.2 (fun _ _ q => gTw_wL q) ?_
  refine x_let (fun s2 e3 => ?_)
  have hM4 := TM.eL e3 hM
  exact x_vret (μ := mu_tw_lead) (pc := 22) (a1 := s2) dX11_lead_22 rfl rfl (gRel_Tw.1 _) trivial
def tw_least (v0 : Int) (v1 : Int) (σ : gMem) : Option Int := if v1 ≤ v0 then some v1 else some v0
set_option maxRecDepth 100000 in
theorem ok_tw_least {ω : gW} {l : Launch} {d : Nat} {σ : gMem} {v0 : Int} {v1 : Int} (hdp : 0 ≤ d) (hv0 : g32 v0) (hv1 : g32 v1) : gK (fun x : Int => (.inl (some (vI x)), σ)) gTw ω l d mu_tw_least [vI v0, vI v1] σ (tw_least v0 v1 σ) := by
  refine gK.of hp_X11 (Nat.le_of_ble_eq_true rfl) ?_
  unfold tw_least
  refine x_iload_n (μ := mu_tw_least) (pc := 0) 0 dX11_least_0 rfl ?_
  refine x_iload_n (μ := mu_tw_least) (pc := 1) 1 dX11_least_1 rfl ?_
  refine x_icmp_ge (μ := mu_tw_least) (pc := 2) (tgt := 9) dX11_least_2 rfl hv0 hv1 ?_ ?_
  · refine x_iload_n (μ := mu_tw_least) (pc := 9) 1 dX11_least_9 rfl ?_
    exact x_iret (μ := mu_tw_least) (pc := 10) dX11_least_10 rfl rfl (gRel_Tw.1 _) (show g32 v1 from hv1)
  · refine x_iload_n (μ := mu_tw_least) (pc := 5) 0 dX11_least_5 rfl ?_
    refine x_goto (μ := mu_tw_least) (pc := 6) (tgt := 10) dX11_least_6 rfl ?_
    exact x_iret (μ := mu_tw_least) (pc := 10) dX11_least_10 rfl rfl (gRel_Tw.1 _) (show g32 v0 from hv0)
def tw_most (v0 : Int) (v1 : Int) (σ : gMem) : Option Int := if v0 ≤ v1 then some v1 else some v0
set_option maxRecDepth 100000 in
theorem ok_tw_most {ω : gW} {l : Launch} {d : Nat} {σ : gMem} {v0 : Int} {v1 : Int} (hdp : 0 ≤ d) (hv0 : g32 v0) (hv1 : g32 v1) : gK (fun x : Int => (.inl (some (vI x)), σ)) gTw ω l d mu_tw_most [vI v0, vI v1] σ (tw_most v0 v1 σ) := by
  refine gK.of hp_X11 (Nat.le_of_ble_eq_true rfl) ?_
  unfold tw_most
  refine x_iload_n (μ := mu_tw_most) (pc := 0) 0 dX11_most_0 rfl ?_
  refine x_iload_n (μ := mu_tw_most) (pc := 1) 1 dX11_most_1 rfl ?_
  refine x_icmp_le (μ := mu_tw_most) (pc := 2) (tgt := 9) dX11_most_2 rfl hv0 hv1 ?_ ?_
  · refine x_iload_n (μ := mu_tw_most) (pc := 9) 1 dX11_most_9 rfl ?_
    exact x_iret (μ := mu_tw_most) (pc := 10) dX11_most_10 rfl rfl (gRel_Tw.1 _) (show g32 v1 from hv1)
  · refine x_iload_n (μ := mu_tw_most) (pc := 5) 0 dX11_most_5 rfl ?_
    refine x_goto (μ := mu_tw_most) (pc := 6) (tgt := 10) dX11_most_6 rfl ?_
    exact x_iret (μ := mu_tw_most) (pc := 10) dX11_most_10 rfl rfl (gRel_Tw.1 _) (show g32 v0 from hv0)
def tw_areaSize (h : Nat) (σ : gMem) : Option Int := some (w32 ((((mI σ h 73) - (mI σ h 72)) + 1) * (((mI σ h 75) - (mI σ h 74)) + 1)))
set_option maxRecDepth 100000 in
theorem ok_tw_areaSize {ω : gW} {l : Launch} {d : Nat} {h : Nat} {σ : gMem} (hdp : 0 ≤ d) (hM : TM σ h) : gK (fun x : Int => (.inl (some (vI x)), σ)) gTw ω l d mu_tw_areaSize [vR h] σ (tw_areaSize h σ) := by
  refine gK.of hp_X11 (Nat.le_of_ble_eq_true rfl) ?_
  unfold tw_areaSize
  refine x_aload_n (μ := mu_tw_areaSize) (pc := 0) 0 dX11_areaSize_0 rfl ?_
  refine x_fgi (μ := mu_tw_areaSize) (pc := 1) fX11_73 q2709 dX11_areaSize_1 hM.1 (fun hr1 => ?_)
  refine x_aload_n (μ := mu_tw_areaSize) (pc := 4) 0 dX11_areaSize_4 rfl ?_
  refine x_fgi (μ := mu_tw_areaSize) (pc := 5) fX11_72 q2708 dX11_areaSize_5 hM.1 (fun hr2 => ?_)
  refine x_isub (μ := mu_tw_areaSize) (pc := 8) dX11_areaSize_8 ?_
  refine x_iconst (μ := mu_tw_areaSize) (pc := 9) dX11_areaSize_9 ?_
  refine x_iadd (μ := mu_tw_areaSize) (pc := 10) dX11_areaSize_10 ?_
  refine x_aload_n (μ := mu_tw_areaSize) (pc := 11) 0 dX11_areaSize_11 rfl ?_
  refine x_fgi (μ := mu_tw_areaSize) (pc := 12) fX11_75 q2711 dX11_areaSize_12 hM.1 (fun hr3 => ?_)
  refine x_aload_n (μ := mu_tw_areaSize) (pc := 15) 0 dX11_areaSize_15 rfl ?_
  refine x_fgi (μ := mu_tw_areaSize) (pc := 16) fX11_74 q2710 dX11_areaSize_16 hM.1 (fun hr4 => ?_)
  refine x_isub (μ := mu_tw_areaSize) (pc := 19) dX11_areaSize_19 ?_
  refine x_iconst (μ := mu_tw_areaSize) (pc := 20) dX11_areaSize_20 ?_
  refine x_iadd (μ := mu_tw_areaSize) (pc := 21) dX11_areaSize_21 ?_
  refine x_imul (μ := mu_tw_areaSize) (pc := 22) dX11_areaSize_22 ?_
  refine x_w1 ?_
  exact x_iret (μ := mu_tw_areaSize) (pc := 23) dX11_areaSize_23 rfl rfl (gRel_Tw.1 _) (show g32 (w32 ((((mI σ h 73) - (mI σ h 72)) + 1) * (((mI σ h 75) - (mI σ h 74)) + 1))) from (w32_rng _))
def tw_areaCell (h : Nat) (v1 : Int) (σ : gMem) : Option Int := if w32 (((mI σ h 75) - (mI σ h 74)) + 1) ≠ 0 then if w32 (((mI σ h 75) - (mI σ h 74)) + 1) ≠ 0 then some (w32 ((((320 * (mI σ h 71)) + (10 * ((mI σ h 72) + (Int.tdiv v1 (w32 (((mI σ h 75) - (mI σ h 74)) + 1)))))) + (mI σ h 74)) + (Int.tmod v1 (w32 (((mI σ h 75) - (mI σ h 74)) + 1))))) else none else none
set_option maxRecDepth 100000 in
theorem ok_tw_areaCell {ω : gW} {l : Launch} {d : Nat} {h : Nat} {σ : gMem} {v1 : Int} (hdp : 0 ≤ d) (hM : TM σ h) (hv1 : g32 v1) : gK (fun x : Int => (.inl (some (vI x)), σ)) gTw ω l d mu_tw_areaCell [vR h, vI v1] σ (tw_areaCell h v1 σ) := by
  refine gK.of hp_X11 (Nat.le_of_ble_eq_true rfl) ?_
  unfold tw_areaCell
  refine x_aload_n (μ := mu_tw_areaCell) (pc := 0) 0 dX11_areaCell_0 rfl ?_
  refine x_fgi (μ := mu_tw_areaCell) (pc := 1) fX11_75 q2711 dX11_areaCell_1 hM.1 (fun hr1 => ?_)
  refine x_aload_n (μ := mu_tw_areaCell) (pc := 4) 0 dX11_areaCell_4 rfl ?_
  refine x_fgi (μ := mu_tw_areaCell) (pc := 5) fX11_74 q2710 dX11_areaCell_5 hM.1 (fun hr2 => ?_)
  refine x_isub (μ := mu_tw_areaCell) (pc := 8) dX11_areaCell_8 ?_
  refine x_iconst (μ := mu_tw_areaCell) (pc := 9) dX11_areaCell_9 ?_
  refine x_iadd (μ := mu_tw_areaCell) (pc := 10) dX11_areaCell_10 ?_
  refine x_w1 ?_
  refine x_istore_n (μ := mu_tw_areaCell) (pc := 11) (lv' := [(2, vI (w32 (((mI σ h 75) - (mI σ h 74)) + 1))), (0, vR h), (1, vI v1)]) dX11_areaCell_11 rfl (by decide) rfl ?_
  refine x_sipush (μ := mu_tw_areaCell) (pc := 12) dX11_areaCell_12 (by decide) ?_
  refine x_aload_n (μ := mu_tw_areaCell) (pc := 15) 1 dX11_areaCell_15 rfl ?_
  refine x_fgi (μ := mu_tw_areaCell) (pc := 16) fX11_71 q2707 dX11_areaCell_16 hM.1 (fun hr3 => ?_)
  refine x_imul (μ := mu_tw_areaCell) (pc := 19) dX11_areaCell_19 ?_
  refine x_bipush (μ := mu_tw_areaCell) (pc := 20) dX11_areaCell_20 (by decide) ?_
  refine x_aload_n (μ := mu_tw_areaCell) (pc := 22) 1 dX11_areaCell_22 rfl ?_
  refine x_fgi (μ := mu_tw_areaCell) (pc := 23) fX11_72 q2708 dX11_areaCell_23 hM.1 (fun hr4 => ?_)
  refine x_iload_n (μ := mu_tw_areaCell) (pc := 26) 2 dX11_areaCell_26 rfl ?_
  refine x_iload_n (μ := mu_tw_areaCell) (pc := 27) 0 dX11_areaCell_27 rfl ?_
  refine x_idiv (μ := mu_tw_areaCell) (pc := 28) dX11_areaCell_28 hv1 (w32_rng _) ?_
  refine x_iadd (μ := mu_tw_areaCell) (pc := 29) dX11_areaCell_29 ?_
  refine x_imul (μ := mu_tw_areaCell) (pc := 30) dX11_areaCell_30 ?_
  refine x_iadd (μ := mu_tw_areaCell) (pc := 31) dX11_areaCell_31 ?_
  refine x_aload_n (μ := mu_tw_areaCell) (pc := 32) 1 dX11_areaCell_32 rfl ?_
  refine x_fgi (μ := mu_tw_areaCell) (pc := 33) fX11_74 q2710 dX11_areaCell_33 hM.1 (fun hr5 => ?_)
  refine x_iadd (μ := mu_tw_areaCell) (pc := 36) dX11_areaCell_36 ?_
  refine x_iload_n (μ := mu_tw_areaCell) (pc := 37) 2 dX11_areaCell_37 rfl ?_
  refine x_iload_n (μ := mu_tw_areaCell) (pc := 38) 0 dX11_areaCell_38 rfl ?_
  refine x_irem (μ := mu_tw_areaCell) (pc := 39) dX11_areaCell_39 hv1 (w32_rng _) ?_
  refine x_iadd (μ := mu_tw_areaCell) (pc := 40) dX11_areaCell_40 ?_
  refine x_w1 ?_
  exact x_iret (μ := mu_tw_areaCell) (pc := 41) dX11_areaCell_41 rfl rfl (gRel_Tw.1 _) (show g32 (w32 ((((320 * (mI σ h 71)) + (10 * ((mI σ h 72) + (Int.tdiv v1 (w32 (((mI σ h 75) - (mI σ h 74)) + 1)))))) + (mI σ h 74)) + (Int.tmod v1 (w32 (((mI σ h 75) - (mI σ h 74)) + 1))))) from (w32_rng _))
def tw_goesThrough (h : Nat) (v1 : Int) (σ : gMem) : Option gMem := if 0 ≤ v1 ∧ v1 < ((320 : Nat) : Int) then gLet (wI σ (h + 40) v1.toNat 1) (fun s1 => if 0 ≤ (Int.tdiv v1 64) ∧ (Int.tdiv v1 64) < ((5 : Nat) : Int) then if 0 ≤ (Int.tdiv v1 64) ∧ (Int.tdiv v1 64) < ((5 : Nat) : Int) then gLet (wL s1 (h + 41) (Int.tdiv v1 64).toNat (lOr (mL s1 (h + 41) (Int.tdiv v1 64).toNat) (lShl (((1 : Fin 2) : Nat) : Int) (Int.tmod v1 64)))) (fun s5 => some s5) else none else none) else none
set_option maxRecDepth 100000 in
theorem ok_tw_goesThrough {ω : gW} {l : Launch} {d : Nat} {h : Nat} {σ : gMem} {v1 : Int} (hdp : 0 ≤ d) (hM : TM σ h) (hv1 : g32 v1) : gK (fun p : gMem => (.inl none, p)) gTw ω l d mu_tw_goesThrough [vR h, vI v1] σ (tw_goesThrough h v1 σ) := by
  refine gK.of hp_X11 (Nat.le_of_ble_eq_true rfl) ?_
  unfold tw_goesThrough
  refine x_aload_n (μ := mu_tw_goesThrough) (pc := 0) 0 dX11_goesThrough_0 rfl ?_
  refine x_fgrE (μ := mu_tw_goesThrough) (pc := 1) fX11_84 (Or.inr ⟨_, rfl⟩) q2720 (hM.a84).1 dX11_goesThrough_1 hM.1 ?_
  refine x_iload_n (μ := mu_tw_goesThrough) (pc := 4) 1 dX11_goesThrough_4 rfl ?_
  refine x_iconst (μ := mu_tw_goesThrough) (pc := 5) dX11_goesThrough_5 ?_
  refine x_zast (μ := mu_tw_goesThrough) (pc := 6) dX11_goesThrough_6 (hM.a84).2.1 (hM.a84).2.2 (by decide) (fun _ _ q => gTw_wI q) ?_
  refine x_let (fun s1 e2 => ?_)
  have hM3 := TM.eI e2 hM
  refine x_aload_n (μ := mu_tw_goesThrough) (pc := 7) 0 dX11_goesThrough_7 rfl ?_
  refine x_fgrE (μ := mu_tw_goesThrough) (pc := 8) fX11_85 (Or.inr ⟨_, rfl⟩) q2721 (hM3.a85).1 dX11_goesThrough_8 hM3.1 ?_
  refine x_iload_n (μ := mu_tw_goesThrough) (pc := 11) 1 dX11_goesThrough_11 rfl ?_
  refine x_bipush (μ := mu_tw_goesThrough) (pc := 12) dX11_goesThrough_12 (by decide) ?_
  refine x_idivc (μ := mu_tw_goesThrough) (pc := 14) dX11_goesThrough_14 hv1 (by decide) (by decide) ?_
  refine x_dup2 (μ := mu_tw_goesThrough) (pc := 15) dX11_goesThrough_15 rfl rfl ?_
  refine x_lald (μ := mu_tw_goesThrough) (pc := 16) dX11_goesThrough_16 (hM3.a85).2.1 (hM3.a85).2.2 (fun hr4 => ?_)
  refine x_lconst (μ := mu_tw_goesThrough) (pc := 17) dX11_goesThrough_17 ?_
  refine x_iload_n (μ := mu_tw_goesThrough) (pc := 18) 1 dX11_goesThrough_18 rfl ?_
  refine x_bipush (μ := mu_tw_goesThrough) (pc := 19) dX11_goesThrough_19 (by decide) ?_
  refine x_iremc (μ := mu_tw_goesThrough) (pc := 21) dX11_goesThrough_21 hv1 (by decide) (by decide) ?_
  refine x_lshl (μ := mu_tw_goesThrough) (pc := 22) dX11_goesThrough_22 ?_
  refine x_lor (μ := mu_tw_goesThrough) (pc := 23) dX11_goesThrough_23 ?_
  refine x_last (μ := mu_tw_goesThrough) (pc := 24) dX11_goesThrough_24 (hM3.a85).2.1 (hM3.a85).2.2 (fun _ _ q => gTw_wL q) ?_
  refine x_let (fun s5 e6 => ?_)
  have hM7 := TM.eL e6 hM3
  exact x_vret (μ := mu_tw_goesThrough) (pc := 25) (a1 := s5) dX11_goesThrough_25 rfl rfl (gRel_Tw.1 _) trivial
def tw_text_l18 (N : Nat) (h : Nat) (v1 : Int) (v2 : Nat) (v3 : Int) (v4 : Int) (K : gMem → Option gMem) : Nat → Int → gMem → Option gMem
  | 0, _, _ => none
  | n + 1, v5, s => if v4 ≤ v5 then K s else if mT s v2 = 102 then if 0 ≤ (v3 + v5) ∧ (v3 + v5) < (mN s v2 : Int) then if -128 ≤ mI s v2 (v3 + v5).toNat ∧ mI s v2 (v3 + v5).toNat ≤ 127 then if 0 ≤ ((24 * v1) + v5) ∧ ((24 * v1) + v5) < ((4800 : Nat) : Int) then gLet (wI s (h + 36) ((24 * v1) + v5).toNat (mI s v2 (v3 + v5).toNat)) (fun s10 => tw_text_l18 N h v1 v2 v3 v4 K n (w32 (v5 + 1)) s10) else none else none else none else none
set_option maxRecDepth 100000 in
theorem okl_tw_text_l18 {ω : gW} {l : Launch} {d : Nat} {N : Nat} {h : Nat} {σ0 : gMem} {v1 : Int} {v2 : Nat} {v3 : Int} {v4 : Int} {K : gMem → Option gMem} (hdp : 0 ≤ d) (hv1 : g32 v1) (hv3 : g32 v3) (hv4 : g32 v4) (hK : ∀ (s : gMem) , TM s h → GG (fun p : gMem => (.inl none, p)) gTw ω l d mu_tw_text σ0 49 [] [] s (K s)) : ∀ (n : Nat) (v5 : Int) (s : gMem) , g32 v5 → TM s h → GG (fun p : gMem => (.inl none, p)) gTw ω l d mu_tw_text σ0 18 [(0, vR h), (1, vI v1), (2, vR v2), (3, vI v3), (4, vI v4), (5, vI v5)] [] s (tw_text_l18 N h v1 v2 v3 v4 K n v5 s) := by
  intro n
  induction n with
  | zero => intros; exact x_none
  | succ n ih =>
    intro v5 s hv5 hM
    unfold tw_text_l18
    refine x_iload (μ := mu_tw_text) (pc := 18) 5 dX11_text_18 rfl ?_
    refine x_iload (μ := mu_tw_text) (pc := 20) 4 dX11_text_20 rfl ?_
    refine x_icmp_ge (μ := mu_tw_text) (pc := 22) (tgt := 49) dX11_text_22 rfl hv5 hv4 ?_ ?_
    · refine x_loc (lv' := []) [] rfl ?_
      exact hK s hM
    · refine x_aload_n (μ := mu_tw_text) (pc := 25) 0 dX11_text_25 rfl ?_
      refine x_fgrE (μ := mu_tw_text) (pc := 26) fX11_69 (Or.inr ⟨_, rfl⟩) q2705 (hM.a69).1 dX11_text_26 hM.1 ?_
      refine x_bipush (μ := mu_tw_text) (pc := 29) dX11_text_29 (by decide) ?_
      refine x_iload_n (μ := mu_tw_text) (pc := 31) 1 dX11_text_31 rfl ?_
      refine x_imul (μ := mu_tw_text) (pc := 32) dX11_text_32 ?_
      refine x_iload (μ := mu_tw_text) (pc := 33) 5 dX11_text_33 rfl ?_
      refine x_iadd (μ := mu_tw_text) (pc := 35) dX11_text_35 ?_
      refine x_aload_n (μ := mu_tw_text) (pc := 36) 2 dX11_text_36 rfl ?_
      refine x_iload_n (μ := mu_tw_text) (pc := 37) 3 dX11_text_37 rfl ?_
      refine x_iload (μ := mu_tw_text) (pc := 38) 5 dX11_text_38 rfl ?_
      refine x_iadd (μ := mu_tw_text) (pc := 40) dX11_text_40 ?_
      refine x_if (fun hT7 => ?_)
      refine x_bald (μ := mu_tw_text) (pc := 41) dX11_text_41 hT7 rfl (fun hr8 => ?_)
      refine x_if (fun hz9 => ?_)
      refine x_bast (μ := mu_tw_text) (pc := 42) dX11_text_42 (hM.a69).2.1 (hM.a69).2.2 hz9 (fun _ _ q => gTw_wI q) ?_
      refine x_let (fun s10 e11 => ?_)
      have hM12 := TM.eI e11 hM
      refine x_iincw (μ := mu_tw_text) (pc := 43) (lv' := [(5, vI (w32 (v5 + 1))), (0, vR h), (1, vI v1), (2, vR v2), (3, vI v3), (4, vI v4)]) 5 dX11_text_43 rfl (by decide) rfl ?_
      refine x_goto (μ := mu_tw_text) (pc := 46) (tgt := 18) dX11_text_46 rfl ?_
      refine x_loc (lv' := [(0, vR h), (1, vI v1), (2, vR v2), (3, vI v3), (4, vI v4), (5, vI (w32 (v5 + 1)))]) [1, 2, 3, 4, 5, 0] rfl ?_
      exact ih (w32 (v5 + 1)) s10 (w32_rng _) hM12
def tw_text (N : Nat) (h : Nat) (v1 : Int) (v2 : Nat) (v3 : Int) (v4 : Int) (σ : gMem) : Option gMem := if 0 ≤ v1 ∧ v1 < ((200 : Nat) : Int) then gLet (wI σ (h + 33) v1.toNat 2) (fun s1 => if 0 ≤ v1 ∧ v1 < ((200 : Nat) : Int) then gLet (wI s1 (h + 35) v1.toNat v4) (fun s4 => tw_text_l18 N h v1 v2 v3 v4 (fun s13 => some s13) N 0 s4) else none) else none
set_option maxRecDepth 100000 in
theorem ok_tw_text {ω : gW} {l : Launch} {d : Nat} {N : Nat} {h : Nat} {σ : gMem} {v1 : Int} {v2 : Nat} {v3 : Int} {v4 : Int} (hdp : 0 ≤ d) (hM : TM σ h) (hv1 : g32 v1) (hv3 : g32 v3) (hv4 : g32 v4) : gK (fun p : gMem => (.inl none, p)) gTw ω l d mu_tw_text [vR h, vI v1, vR v2, vI v3, vI v4] σ (tw_text N h v1 v2 v3 v4 σ) := by
  refine gK.of hp_X11 (Nat.le_of_ble_eq_true rfl) ?_
  unfold tw_text
  refine x_aload_n (μ := mu_tw_text) (pc := 0) 0 dX11_text_0 rfl ?_
  refine x_fgrE (μ := mu_tw_text) (pc := 1) fX11_66 (Or.inr ⟨_, rfl⟩) q2702 (hM.a66).1 dX11_text_1 hM.1 ?_
  refine x_iload_n (μ := mu_tw_text) (pc := 4) 1 dX11_text_4 rfl ?_
  refine x_iconst (μ := mu_tw_text) (pc := 5) dX11_text_5 ?_
  refine x_iast (μ := mu_tw_text) (pc := 6) dX11_text_6 (hM.a66).2.1 (hM.a66).2.2 (fun _ _ q => gTw_wI q) ?_
  refine x_let (fun s1 e2 => ?_)
  have hM3 := TM.eI e2 hM
  refine x_aload_n (μ := mu_tw_text) (pc := 7) 0 dX11_text_7 rfl ?_
  refine x_fgrE (μ := mu_tw_text) (pc := 8) fX11_68 (Or.inr ⟨_, rfl⟩) q2704 (hM3.a68).1 dX11_text_8 hM3.1 ?_
  refine x_iload_n (μ := mu_tw_text) (pc := 11) 1 dX11_text_11 rfl ?_
  refine x_iload (μ := mu_tw_text) (pc := 12) 4 dX11_text_12 rfl ?_
  refine x_iast (μ := mu_tw_text) (pc := 14) dX11_text_14 (hM3.a68).2.1 (hM3.a68).2.2 (fun _ _ q => gTw_wI q) ?_
  refine x_let (fun s4 e5 => ?_)
  have hM6 := TM.eI e5 hM3
  refine x_iconst (μ := mu_tw_text) (pc := 15) dX11_text_15 ?_
  refine x_istore (μ := mu_tw_text) (pc := 16) (lv' := [(5, vI 0), (0, vR h), (1, vI v1), (2, vR v2), (3, vI v3), (4, vI v4)]) dX11_text_16 (by decide) rfl ?_
  refine x_loc (lv' := [(0, vR h), (1, vI v1), (2, vR v2), (3, vI v3), (4, vI v4), (5, vI 0)]) [1, 2, 3, 4, 5, 0] rfl ?_
  refine okl_tw_text_l18 hdp hv1 hv3 hv4 (fun s13 hM14 => ?_) N 0 s4 (by decide) hM6
  exact x_vret (μ := mu_tw_text) (pc := 49) (a1 := s13) dX11_text_49 rfl rfl (gRel_Tw.1 _) trivial
def tw_store_l52 (N : Nat) (h : Nat) (v1 : Int) (v2 : Int) (K : gMem → Option gMem) : Nat → Int → gMem → Option gMem
  | 0, _, _ => none
  | n + 1, v3, s => if 24 ≤ v3 then K s else if 0 ≤ ((24 * v1) + v3) ∧ ((24 * v1) + v3) < ((4800 : Nat) : Int) then if -128 ≤ mI s (h + 36) ((24 * v1) + v3).toNat ∧ mI s (h + 36) ((24 * v1) + v3).toNat ≤ 127 then if 0 ≤ ((24 * v2) + v3) ∧ ((24 * v2) + v3) < ((314880 : Nat) : Int) then gLet (wI s (h + 31) ((24 * v2) + v3).toNat (mI s (h + 36) ((24 * v1) + v3).toNat)) (fun s15 => tw_store_l52 N h v1 v2 K n (w32 (v3 + 1)) s15) else none else none else none
set_option maxRecDepth 100000 in
theorem okl_tw_store_l52 {ω : gW} {l : Launch} {d : Nat} {N : Nat} {h : Nat} {σ0 : gMem} {v1 : Int} {v2 : Int} {K : gMem → Option gMem} (hdp : 0 ≤ d) (hv1 : g32 v1) (hv2 : g32 v2) (hK : ∀ (s : gMem) , TM s h → GG (fun p : gMem => (.inl none, p)) gTw ω l d mu_tw_store σ0 86 [] [] s (K s)) : ∀ (n : Nat) (v3 : Int) (s : gMem) , g32 v3 → TM s h → GG (fun p : gMem => (.inl none, p)) gTw ω l d mu_tw_store σ0 52 [(0, vR h), (1, vI v1), (2, vI v2), (3, vI v3)] [] s (tw_store_l52 N h v1 v2 K n v3 s) := by
  intro n
  induction n with
  | zero => intros; exact x_none
  | succ n ih =>
    intro v3 s hv3 hM
    unfold tw_store_l52
    refine x_iload_n (μ := mu_tw_store) (pc := 52) 3 dX11_store_52 rfl ?_
    refine x_bipush (μ := mu_tw_store) (pc := 53) dX11_store_53 (by decide) ?_
    refine x_icmp_ge (μ := mu_tw_store) (pc := 55) (tgt := 86) dX11_store_55 rfl hv3 (by decide) ?_ ?_
    · refine x_loc (lv' := []) [] rfl ?_
      exact hK s hM
    · refine x_aload_n (μ := mu_tw_store) (pc := 58) 0 dX11_store_58 rfl ?_
      refine x_fgrE (μ := mu_tw_store) (pc := 59) fX11_63 (Or.inr ⟨_, rfl⟩) q2699 (hM.a63).1 dX11_store_59 hM.1 ?_
      refine x_bipush (μ := mu_tw_store) (pc := 62) dX11_store_62 (by decide) ?_
      refine x_iload_n (μ := mu_tw_store) (pc := 64) 2 dX11_store_64 rfl ?_
      refine x_imul (μ := mu_tw_store) (pc := 65) dX11_store_65 ?_
      refine x_iload_n (μ := mu_tw_store) (pc := 66) 3 dX11_store_66 rfl ?_
      refine x_iadd (μ := mu_tw_store) (pc := 67) dX11_store_67 ?_
      refine x_aload_n (μ := mu_tw_store) (pc := 68) 0 dX11_store_68 rfl ?_
      refine x_fgrE (μ := mu_tw_store) (pc := 69) fX11_69 (Or.inr ⟨_, rfl⟩) q2705 (hM.a69).1 dX11_store_69 hM.1 ?_
      refine x_bipush (μ := mu_tw_store) (pc := 72) dX11_store_72 (by decide) ?_
      refine x_iload_n (μ := mu_tw_store) (pc := 74) 1 dX11_store_74 rfl ?_
      refine x_imul (μ := mu_tw_store) (pc := 75) dX11_store_75 ?_
      refine x_iload_n (μ := mu_tw_store) (pc := 76) 3 dX11_store_76 rfl ?_
      refine x_iadd (μ := mu_tw_store) (pc := 77) dX11_store_77 ?_
      refine x_bald (μ := mu_tw_store) (pc := 78) dX11_store_78 (hM.a69).2.1 (hM.a69).2.2 (fun hr13 => ?_)
      refine x_if (fun hz14 => ?_)
      refine x_bast (μ := mu_tw_store) (pc := 79) dX11_store_79 (hM.a63).2.1 (hM.a63).2.2 hz14 (fun _ _ q => gTw_wI q) ?_
      refine x_let (fun s15 e16 => ?_)
      have hM17 := TM.eI e16 hM
      refine x_iincw (μ := mu_tw_store) (pc := 80) (lv' := [(3, vI (w32 (v3 + 1))), (0, vR h), (1, vI v1), (2, vI v2)]) 3 dX11_store_80 rfl (by decide) rfl ?_
      refine x_goto (μ := mu_tw_store) (pc := 83) (tgt := 52) dX11_store_83 rfl ?_
      refine x_loc (lv' := [(0, vR h), (1, vI v1), (2, vI v2), (3, vI (w32 (v3 + 1)))]) [1, 2, 3, 0] rfl ?_
      exact ih (w32 (v3 + 1)) s15 (w32_rng _) hM17
def tw_store_j49 (N : Nat) (h : Nat) (v1 : Int) (v2 : Int) (t0 : Int) (t1 : Int) (s : gMem) : Option gMem := if 0 ≤ t1 ∧ t1 < ((13120 : Nat) : Int) then gLet (wI s (h + 30) t1.toNat t0) (fun s10 => tw_store_l52 N h v1 v2 (fun s18 => some s18) N 0 s10) else none
set_option maxRecDepth 100000 in
theorem okj_tw_store_j49 {ω : gW} {l : Launch} {d : Nat} {N : Nat} {h : Nat} {σ0 : gMem} {s : gMem} {v1 : Int} {v2 : Int} {t0 : Int} {t1 : Int} (hdp : 0 ≤ d) (hM : TM s h) (hv1 : g32 v1) (hv2 : g32 v2) (ht0 : g32 t0) (ht1 : g32 t1) : GG (fun p : gMem => (.inl none, p)) gTw ω l d mu_tw_store σ0 49 [(0, vR h), (1, vI v1), (2, vI v2)] [vI t0, vI t1, vR (h + 30)] s (tw_store_j49 N h v1 v2 t0 t1 s) := by
  unfold tw_store_j49
  refine x_iast (μ := mu_tw_store) (pc := 49) dX11_store_49 (hM.a62).2.1 (hM.a62).2.2 (fun _ _ q => gTw_wI q) ?_
  refine x_let (fun s10 e11 => ?_)
  have hM12 := TM.eI e11 hM
  refine x_iconst (μ := mu_tw_store) (pc := 50) dX11_store_50 ?_
  refine x_istore_n (μ := mu_tw_store) (pc := 51) (lv' := [(3, vI 0), (0, vR h), (1, vI v1), (2, vI v2)]) dX11_store_51 rfl (by decide) rfl ?_
  refine x_loc (lv' := [(0, vR h), (1, vI v1), (2, vI v2), (3, vI 0)]) [1, 2, 3, 0] rfl ?_
  refine okl_tw_store_l52 hdp hv1 hv2 (fun s18 hM19 => ?_) N 0 s10 (by decide) hM12
  exact x_vret (μ := mu_tw_store) (pc := 86) (a1 := s18) dX11_store_86 rfl rfl (gRel_Tw.1 _) trivial
def tw_store (N : Nat) (h : Nat) (v1 : Int) (v2 : Int) (σ : gMem) : Option gMem := if 0 ≤ v1 ∧ v1 < ((200 : Nat) : Int) then if 0 ≤ v2 ∧ v2 < ((13120 : Nat) : Int) then gLet (wI σ (h + 28) v2.toNat (mI σ (h + 33) v1.toNat)) (fun s2 => if 0 ≤ v1 ∧ v1 < ((200 : Nat) : Int) then if 0 ≤ v2 ∧ v2 < ((13120 : Nat) : Int) then gLet (wL s2 (h + 29) v2.toNat (mL s2 (h + 34) v1.toNat)) (fun s6 => if 0 ≤ v1 ∧ v1 < ((200 : Nat) : Int) then if mI s6 (h + 33) v1.toNat ≠ 2 then tw_store_j49 N h v1 v2 0 v2 s6 else if 0 ≤ v1 ∧ v1 < ((200 : Nat) : Int) then tw_store_j49 N h v1 v2 (mI s6 (h + 35) v1.toNat) v2 s6 else none else none) else none else none) else none else none
set_option maxRecDepth 100000 in
theorem ok_tw_store {ω : gW} {l : Launch} {d : Nat} {N : Nat} {h : Nat} {σ : gMem} {v1 : Int} {v2 : Int} (hdp : 0 ≤ d) (hM : TM σ h) (hv1 : g32 v1) (hv2 : g32 v2) : gK (fun p : gMem => (.inl none, p)) gTw ω l d mu_tw_store [vR h, vI v1, vI v2] σ (tw_store N h v1 v2 σ) := by
  refine gK.of hp_X11 (Nat.le_of_ble_eq_true rfl) ?_
  unfold tw_store
  refine x_aload_n (μ := mu_tw_store) (pc := 0) 0 dX11_store_0 rfl ?_
  refine x_fgrE (μ := mu_tw_store) (pc := 1) fX11_60 (Or.inr ⟨_, rfl⟩) q2696 (hM.a60).1 dX11_store_1 hM.1 ?_
  refine x_iload_n (μ := mu_tw_store) (pc := 4) 2 dX11_store_4 rfl ?_
  refine x_aload_n (μ := mu_tw_store) (pc := 5) 0 dX11_store_5 rfl ?_
  refine x_fgrE (μ := mu_tw_store) (pc := 6) fX11_66 (Or.inr ⟨_, rfl⟩) q2702 (hM.a66).1 dX11_store_6 hM.1 ?_
  refine x_iload_n (μ := mu_tw_store) (pc := 9) 1 dX11_store_9 rfl ?_
  refine x_iald (μ := mu_tw_store) (pc := 10) dX11_store_10 (hM.a66).2.1 (hM.a66).2.2 (fun hr1 => ?_)
  refine x_iast (μ := mu_tw_store) (pc := 11) dX11_store_11 (hM.a60).2.1 (hM.a60).2.2 (fun _ _ q => gTw_wI q) ?_
  refine x_let (fun s2 e3 => ?_)
  have hM4 := TM.eI e3 hM
  refine x_aload_n (μ := mu_tw_store) (pc := 12) 0 dX11_store_12 rfl ?_
  refine x_fgrE (μ := mu_tw_store) (pc := 13) fX11_61 (Or.inr ⟨_, rfl⟩) q2697 (hM4.a61).1 dX11_store_13 hM4.1 ?_
  refine x_iload_n (μ := mu_tw_store) (pc := 16) 2 dX11_store_16 rfl ?_
  refine x_aload_n (μ := mu_tw_store) (pc := 17) 0 dX11_store_17 rfl ?_
  refine x_fgrE (μ := mu_tw_store) (pc := 18) fX11_67 (Or.inr ⟨_, rfl⟩) q2703 (hM4.a67).1 dX11_store_18 hM4.1 ?_
  refine x_iload_n (μ := mu_tw_store) (pc := 21) 1 dX11_store_21 rfl ?_
  refine x_lald (μ := mu_tw_store) (pc := 22) dX11_store_22 (hM4.a67).2.1 (hM4.a67).2.2 (fun hr5 => ?_)
  refine x_last (μ := mu_tw_store) (pc := 23) dX11_store_23 (hM4.a61).2.1 (hM4.a61).2.2 (fun _ _ q => gTw_wL q) ?_
  refine x_let (fun s6 e7 => ?_)
  have hM8 := TM.eL e7 hM4
  refine x_aload_n (μ := mu_tw_store) (pc := 24) 0 dX11_store_24 rfl ?_
  refine x_fgrE (μ := mu_tw_store) (pc := 25) fX11_62 (Or.inr ⟨_, rfl⟩) q2698 (hM8.a62).1 dX11_store_25 hM8.1 ?_
  refine x_iload_n (μ := mu_tw_store) (pc := 28) 2 dX11_store_28 rfl ?_
  refine x_aload_n (μ := mu_tw_store) (pc := 29) 0 dX11_store_29 rfl ?_
  refine x_fgrE (μ := mu_tw_store) (pc := 30) fX11_66 (Or.inr ⟨_, rfl⟩) q2702 (hM8.a66).1 dX11_store_30 hM8.1 ?_
  refine x_iload_n (μ := mu_tw_store) (pc := 33) 1 dX11_store_33 rfl ?_
  refine x_iald (μ := mu_tw_store) (pc := 34) dX11_store_34 (hM8.a66).2.1 (hM8.a66).2.2 (fun hr9 => ?_)
  refine x_iconst (μ := mu_tw_store) (pc := 35) dX11_store_35 ?_
  refine x_icmp_ne (μ := mu_tw_store) (pc := 36) (tgt := 48) dX11_store_36 rfl hr9 (by decide) ?_ ?_
  · refine x_iconst (μ := mu_tw_store) (pc := 48) dX11_store_48 ?_
    exact okj_tw_store_j49 hdp hM8 hv1 hv2 (by decide) hv2
  · refine x_aload_n (μ := mu_tw_store) (pc := 39) 0 dX11_store_39 rfl ?_
    refine x_fgrE (μ := mu_tw_store) (pc := 40) fX11_68 (Or.inr ⟨_, rfl⟩) q2704 (hM8.a68).1 dX11_store_40 hM8.1 ?_
    refine x_iload_n (μ := mu_tw_store) (pc := 43) 1 dX11_store_43 rfl ?_
    refine x_iald (μ := mu_tw_store) (pc := 44) dX11_store_44 (hM8.a68).2.1 (hM8.a68).2.2 (fun hr20 => ?_)
    refine x_goto (μ := mu_tw_store) (pc := 45) (tgt := 49) dX11_store_45 rfl ?_
    exact okj_tw_store_j49 hdp hM8 hv1 hv2 hr20 hv2
def tw_bit (v0 : Nat) (v1 : Int) (v2 : Int) (σ : gMem) : Option Int := if mT σ v0 = 101 then if 0 ≤ ((5 * v1) + (Int.tdiv v2 64)) ∧ ((5 * v1) + (Int.tdiv v2 64)) < (mN σ v0 : Int) then if gcmp (lAnd (lShr (mL σ v0 ((5 * v1) + (Int.tdiv v2 64)).toNat) (Int.tmod v2 64)) (((1 : Fin 2) : Nat) : Int)) (((1 : Fin 2) : Nat) : Int) ≠ 0 then some 0 else some 1 else none else none
set_option maxRecDepth 100000 in
theorem ok_tw_bit {ω : gW} {l : Launch} {d : Nat} {σ : gMem} {v0 : Nat} {v1 : Int} {v2 : Int} (hdp : 0 ≤ d) (hv1 : g32 v1) (hv2 : g32 v2) : gK (fun x : Int => (.inl (some (vI x)), σ)) gTw ω l d mu_tw_bit [vR v0, vI v1, vI v2] σ (tw_bit v0 v1 v2 σ) := by
  refine gK.of hp_X11 (Nat.le_of_ble_eq_true rfl) ?_
  unfold tw_bit
  refine x_aload_n (μ := mu_tw_bit) (pc := 0) 0 dX11_bit_0 rfl ?_
  refine x_iconst (μ := mu_tw_bit) (pc := 1) dX11_bit_1 ?_
  refine x_iload_n (μ := mu_tw_bit) (pc := 2) 1 dX11_bit_2 rfl ?_
  refine x_imul (μ := mu_tw_bit) (pc := 3) dX11_bit_3 ?_
  refine x_iload_n (μ := mu_tw_bit) (pc := 4) 2 dX11_bit_4 rfl ?_
  refine x_bipush (μ := mu_tw_bit) (pc := 5) dX11_bit_5 (by decide) ?_
  refine x_idivc (μ := mu_tw_bit) (pc := 7) dX11_bit_7 hv2 (by decide) (by decide) ?_
  refine x_iadd (μ := mu_tw_bit) (pc := 8) dX11_bit_8 ?_
  refine x_if (fun hT1 => ?_)
  refine x_lald (μ := mu_tw_bit) (pc := 9) dX11_bit_9 hT1 rfl (fun hr2 => ?_)
  refine x_iload_n (μ := mu_tw_bit) (pc := 10) 2 dX11_bit_10 rfl ?_
  refine x_bipush (μ := mu_tw_bit) (pc := 11) dX11_bit_11 (by decide) ?_
  refine x_iremc (μ := mu_tw_bit) (pc := 13) dX11_bit_13 hv2 (by decide) (by decide) ?_
  refine x_lshr (μ := mu_tw_bit) (pc := 14) dX11_bit_14 ?_
  refine x_lconst (μ := mu_tw_bit) (pc := 15) dX11_bit_15 ?_
  refine x_land (μ := mu_tw_bit) (pc := 16) dX11_bit_16 ?_
  refine x_lconst (μ := mu_tw_bit) (pc := 17) dX11_bit_17 ?_
  refine x_lcmp (μ := mu_tw_bit) (pc := 18) dX11_bit_18 (lAnd_rng _ _) (by decide) ?_
  refine x_if_ne (μ := mu_tw_bit) (pc := 19) (tgt := 26) dX11_bit_19 rfl (gcmp_rng _ _) ?_ ?_
  · refine x_iconst (μ := mu_tw_bit) (pc := 26) dX11_bit_26 ?_
    exact x_zret (μ := mu_tw_bit) (pc := 27) dX11_bit_27 rfl (by decide) rfl (gRel_Tw.1 _) (show g32 0 from (by decide))
  · refine x_iconst (μ := mu_tw_bit) (pc := 22) dX11_bit_22 ?_
    refine x_goto (μ := mu_tw_bit) (pc := 23) (tgt := 27) dX11_bit_23 rfl ?_
    exact x_zret (μ := mu_tw_bit) (pc := 27) dX11_bit_27 rfl (by decide) rfl (gRel_Tw.1 _) (show g32 1 from (by decide))
def tw_error (h : Nat) (v1 : Int) (v2 : Int) (σ : gMem) : Option gMem := if 0 ≤ v1 ∧ v1 < ((200 : Nat) : Int) then gLet (wI σ (h + 33) v1.toNat 4) (fun s1 => if 0 ≤ v1 ∧ v1 < ((200 : Nat) : Int) then gLet (wL s1 (h + 34) v1.toNat v2) (fun s4 => some s4) else none) else none
set_option maxRecDepth 100000 in
theorem ok_tw_error {ω : gW} {l : Launch} {d : Nat} {h : Nat} {σ : gMem} {v1 : Int} {v2 : Int} (hdp : 0 ≤ d) (hM : TM σ h) (hv1 : g32 v1) (hv2 : g32 v2) : gK (fun p : gMem => (.inl none, p)) gTw ω l d mu_tw_error [vR h, vI v1, vI v2] σ (tw_error h v1 v2 σ) := by
  refine gK.of hp_X11 (Nat.le_of_ble_eq_true rfl) ?_
  unfold tw_error
  refine x_aload_n (μ := mu_tw_error) (pc := 0) 0 dX11_error_0 rfl ?_
  refine x_fgrE (μ := mu_tw_error) (pc := 1) fX11_66 (Or.inr ⟨_, rfl⟩) q2702 (hM.a66).1 dX11_error_1 hM.1 ?_
  refine x_iload_n (μ := mu_tw_error) (pc := 4) 1 dX11_error_4 rfl ?_
  refine x_iconst (μ := mu_tw_error) (pc := 5) dX11_error_5 ?_
  refine x_iast (μ := mu_tw_error) (pc := 6) dX11_error_6 (hM.a66).2.1 (hM.a66).2.2 (fun _ _ q => gTw_wI q) ?_
  refine x_let (fun s1 e2 => ?_)
  have hM3 := TM.eI e2 hM
  refine x_aload_n (μ := mu_tw_error) (pc := 7) 0 dX11_error_7 rfl ?_
  refine x_fgrE (μ := mu_tw_error) (pc := 8) fX11_67 (Or.inr ⟨_, rfl⟩) q2703 (hM3.a67).1 dX11_error_8 hM3.1 ?_
  refine x_iload_n (μ := mu_tw_error) (pc := 11) 1 dX11_error_11 rfl ?_
  refine x_iload_n (μ := mu_tw_error) (pc := 12) 2 dX11_error_12 rfl ?_
  refine x_i2l (μ := mu_tw_error) (pc := 13) dX11_error_13 hv2 ?_
  refine x_last (μ := mu_tw_error) (pc := 14) dX11_error_14 (hM3.a67).2.1 (hM3.a67).2.2 (fun _ _ q => gTw_wL q) ?_
  refine x_let (fun s4 e5 => ?_)
  have hM6 := TM.eL e5 hM3
  exact x_vret (μ := mu_tw_error) (pc := 15) (a1 := s4) dX11_error_15 rfl rfl (gRel_Tw.1 _) trivial
def tw_isReady_l2 (N : Nat) (h : Nat) (σ : gMem) (v1 : Int) (K : Option Int) : Nat → Int → Option Int
  | 0, _ => none
  | n + 1, v2 => if 5 ≤ v2 then K else if 0 ≤ ((5 * v1) + v2) ∧ ((5 * v1) + v2) < ((1600 : Nat) : Int) then if 0 ≤ v2 ∧ v2 < ((5 : Nat) : Int) then if gcmp (lAnd (mL σ (h + 38) ((5 * v1) + v2).toNat) (lXor (mL σ (h + 41) v2.toNat) (-1))) (((0 : Fin 2) : Nat) : Int) = 0 then tw_isReady_l2 N h σ v1 K n (w32 (v2 + 1)) else some 0 else none else none
set_option maxRecDepth 100000 in
theorem okl_tw_isReady_l2 {ω : gW} {l : Launch} {d : Nat} {N : Nat} {h : Nat} {σ : gMem} {v1 : Int} {K : Option Int} (hdp : 0 ≤ d) (hM : TM σ h) (hv1 : g32 v1) (hK : GG (fun x : Int => (.inl (some (vI x)), σ)) gTw ω l d mu_tw_isReady σ 41 [] [] σ (K)) : ∀ (n : Nat) (v2 : Int) , g32 v2 → GG (fun x : Int => (.inl (some (vI x)), σ)) gTw ω l d mu_tw_isReady σ 2 [(0, vR h), (1, vI v1), (2, vI v2)] [] σ (tw_isReady_l2 N h σ v1 K n v2) := by
  intro n
  induction n with
  | zero => intros; exact x_none
  | succ n ih =>
    intro v2 hv2
    unfold tw_isReady_l2
    refine x_iload_n (μ := mu_tw_isReady) (pc := 2) 2 dX11_isReady_2 rfl ?_
    refine x_iconst (μ := mu_tw_isReady) (pc := 3) dX11_isReady_3 ?_
    refine x_icmp_ge (μ := mu_tw_isReady) (pc := 4) (tgt := 41) dX11_isReady_4 rfl hv2 (by decide) ?_ ?_
    · refine x_loc (lv' := []) [] rfl ?_
      exact hK
    · refine x_aload_n (μ := mu_tw_isReady) (pc := 7) 0 dX11_isReady_7 rfl ?_
      refine x_fgrE (μ := mu_tw_isReady) (pc := 8) fX11_82 (Or.inr ⟨_, rfl⟩) q2718 (hM.a82).1 dX11_isReady_8 hM.1 ?_
      refine x_iconst (μ := mu_tw_isReady) (pc := 11) dX11_isReady_11 ?_
      refine x_iload_n (μ := mu_tw_isReady) (pc := 12) 1 dX11_isReady_12 rfl ?_
      refine x_imul (μ := mu_tw_isReady) (pc := 13) dX11_isReady_13 ?_
      refine x_iload_n (μ := mu_tw_isReady) (pc := 14) 2 dX11_isReady_14 rfl ?_
      refine x_iadd (μ := mu_tw_isReady) (pc := 15) dX11_isReady_15 ?_
      refine x_lald (μ := mu_tw_isReady) (pc := 16) dX11_isReady_16 (hM.a82).2.1 (hM.a82).2.2 (fun hr1 => ?_)
      refine x_aload_n (μ := mu_tw_isReady) (pc := 17) 0 dX11_isReady_17 rfl ?_
      refine x_fgrE (μ := mu_tw_isReady) (pc := 18) fX11_85 (Or.inr ⟨_, rfl⟩) q2721 (hM.a85).1 dX11_isReady_18 hM.1 ?_
      refine x_iload_n (μ := mu_tw_isReady) (pc := 21) 2 dX11_isReady_21 rfl ?_
      refine x_lald (μ := mu_tw_isReady) (pc := 22) dX11_isReady_22 (hM.a85).2.1 (hM.a85).2.2 (fun hr2 => ?_)
      refine x_ldc2 (μ := mu_tw_isReady) (pc := 23) (n := -1) dX11_isReady_23 ((by decide : (-1 : Int64) = Int64.ofInt (-1)) ▸ q3302) ?_
      refine x_lxor (μ := mu_tw_isReady) (pc := 26) dX11_isReady_26 ?_
      refine x_land (μ := mu_tw_isReady) (pc := 27) dX11_isReady_27 ?_
      refine x_lconst (μ := mu_tw_isReady) (pc := 28) dX11_isReady_28 ?_
      refine x_lcmp (μ := mu_tw_isReady) (pc := 29) dX11_isReady_29 (lAnd_rng _ _) (by decide) ?_
      refine x_if_eq (μ := mu_tw_isReady) (pc := 30) (tgt := 35) dX11_isReady_30 rfl (gcmp_rng _ _) ?_ ?_
      · refine x_iincw (μ := mu_tw_isReady) (pc := 35) (lv' := [(2, vI (w32 (v2 + 1))), (0, vR h), (1, vI v1)]) 2 dX11_isReady_35 rfl (by decide) rfl ?_
        refine x_goto (μ := mu_tw_isReady) (pc := 38) (tgt := 2) dX11_isReady_38 rfl ?_
        refine x_loc (lv' := [(0, vR h), (1, vI v1), (2, vI (w32 (v2 + 1)))]) [1, 2, 0] rfl ?_
        exact ih (w32 (v2 + 1)) (w32_rng _)
      · refine x_iconst (μ := mu_tw_isReady) (pc := 33) dX11_isReady_33 ?_
        exact x_zret (μ := mu_tw_isReady) (pc := 34) dX11_isReady_34 rfl (by decide) rfl (gRel_Tw.1 _) (show g32 0 from (by decide))
def tw_isReady (N : Nat) (h : Nat) (v1 : Int) (σ : gMem) : Option Int := tw_isReady_l2 N h σ v1 (some 1) N 0
set_option maxRecDepth 100000 in
theorem ok_tw_isReady {ω : gW} {l : Launch} {d : Nat} {N : Nat} {h : Nat} {σ : gMem} {v1 : Int} (hdp : 0 ≤ d) (hM : TM σ h) (hv1 : g32 v1) : gK (fun x : Int => (.inl (some (vI x)), σ)) gTw ω l d mu_tw_isReady [vR h, vI v1] σ (tw_isReady N h v1 σ) := by
  refine gK.of hp_X11 (Nat.le_of_ble_eq_true rfl) ?_
  unfold tw_isReady
  refine x_iconst (μ := mu_tw_isReady) (pc := 0) dX11_isReady_0 ?_
  refine x_istore_n (μ := mu_tw_isReady) (pc := 1) (lv' := [(2, vI 0), (0, vR h), (1, vI v1)]) dX11_isReady_1 rfl (by decide) rfl ?_
  refine x_loc (lv' := [(0, vR h), (1, vI v1), (2, vI 0)]) [1, 2, 0] rfl ?_
  refine okl_tw_isReady_l2 hdp hM hv1 ?_ N 0 (by decide)
  refine x_iconst (μ := mu_tw_isReady) (pc := 41) dX11_isReady_41 ?_
  exact x_zret (μ := mu_tw_isReady) (pc := 42) dX11_isReady_42 rfl (by decide) rfl (gRel_Tw.1 _) (show g32 1 from (by decide))
def tw_wholeOf (h : Nat) (v1 : Int) (σ : gMem) : Option Int := if 0 ≤ (v1 - 1) ∧ (v1 - 1) < ((60420 : Nat) : Int) then some (w32 (((v1 - 1) + (mI σ (h + 26) (v1 - 1).toNat)) - 1)) else none
set_option maxRecDepth 100000 in
theorem ok_tw_wholeOf {ω : gW} {l : Launch} {d : Nat} {h : Nat} {σ : gMem} {v1 : Int} (hdp : 0 ≤ d) (hM : TM σ h) (hv1 : g32 v1) : gK (fun x : Int => (.inl (some (vI x)), σ)) gTw ω l d mu_tw_wholeOf [vR h, vI v1] σ (tw_wholeOf h v1 σ) := by
  refine gK.of hp_X11 (Nat.le_of_ble_eq_true rfl) ?_
  unfold tw_wholeOf
  refine x_iload_n (μ := mu_tw_wholeOf) (pc := 0) 1 dX11_wholeOf_0 rfl ?_
  refine x_iconst (μ := mu_tw_wholeOf) (pc := 1) dX11_wholeOf_1 ?_
  refine x_isub (μ := mu_tw_wholeOf) (pc := 2) dX11_wholeOf_2 ?_
  refine x_aload_n (μ := mu_tw_wholeOf) (pc := 3) 0 dX11_wholeOf_3 rfl ?_
  refine x_fgrE (μ := mu_tw_wholeOf) (pc := 4) fX11_38 (Or.inr ⟨_, rfl⟩) q2674 (hM.a38).1 dX11_wholeOf_4 hM.1 ?_
  refine x_iload_n (μ := mu_tw_wholeOf) (pc := 7) 1 dX11_wholeOf_7 rfl ?_
  refine x_iconst (μ := mu_tw_wholeOf) (pc := 8) dX11_wholeOf_8 ?_
  refine x_isub (μ := mu_tw_wholeOf) (pc := 9) dX11_wholeOf_9 ?_
  refine x_iald (μ := mu_tw_wholeOf) (pc := 10) dX11_wholeOf_10 (hM.a38).2.1 (hM.a38).2.2 (fun hr1 => ?_)
  refine x_iadd (μ := mu_tw_wholeOf) (pc := 11) dX11_wholeOf_11 ?_
  refine x_iconst (μ := mu_tw_wholeOf) (pc := 12) dX11_wholeOf_12 ?_
  refine x_isub (μ := mu_tw_wholeOf) (pc := 13) dX11_wholeOf_13 ?_
  refine x_w1 ?_
  exact x_iret (μ := mu_tw_wholeOf) (pc := 14) dX11_wholeOf_14 rfl rfl (gRel_Tw.1 _) (show g32 (w32 (((v1 - 1) + (mI σ (h + 26) (v1 - 1).toNat)) - 1)) from (w32_rng _))
def tw_number_j38 (h : Nat) (v1 : Int) (v2 : Int) (v4 : Int) (t0 : Int) (t1 : Int) (s : gMem) : Option gMem := if 0 ≤ t1 ∧ t1 < ((200 : Nat) : Int) then gLet (wI s (h + 33) t1.toNat t0) (fun s1 => if v4 = 0 then if 0 ≤ v1 ∧ v1 < ((200 : Nat) : Int) then gLet (wL s1 (h + 34) v1.toNat v2) (fun s4 => some s4) else none else if 0 ≤ v1 ∧ v1 < ((200 : Nat) : Int) then gLet (wL s1 (h + 34) v1.toNat 4) (fun s7 => some s7) else none) else none
set_option maxRecDepth 100000 in
theorem okj_tw_number_j38 {ω : gW} {l : Launch} {d : Nat} {h : Nat} {σ0 : gMem} {s : gMem} {v1 : Int} {v2 : Int} {v4 : Int} {t0 : Int} {t1 : Int} (hdp : 0 ≤ d) (hM : TM s h) (hv1 : g32 v1) (hv2 : g64 v2) (hv4 : g32 v4) (ht0 : g32 t0) (ht1 : g32 t1) : GG (fun p : gMem => (.inl none, p)) gTw ω l d mu_tw_number σ0 38 [(0, vR h), (1, vI v1), (2, vL v2), (4, vI v4)] [vI t0, vI t1, vR (h + 33)] s (tw_number_j38 h v1 v2 v4 t0 t1 s) := by
  unfold tw_number_j38
  refine x_iast (μ := mu_tw_number) (pc := 38) dX11_number_38 (hM.a66).2.1 (hM.a66).2.2 (fun _ _ q => gTw_wI q) ?_
  refine x_let (fun s1 e2 => ?_)
  have hM3 := TM.eI e2 hM
  refine x_aload_n (μ := mu_tw_number) (pc := 39) 0 dX11_number_39 rfl ?_
  refine x_fgrE (μ := mu_tw_number) (pc := 40) fX11_67 (Or.inr ⟨_, rfl⟩) q2703 (hM3.a67).1 dX11_number_40 hM3.1 ?_
  refine x_iload_n (μ := mu_tw_number) (pc := 43) 1 dX11_number_43 rfl ?_
  refine x_iload (μ := mu_tw_number) (pc := 44) 3 dX11_number_44 rfl ?_
  refine x_if_eq (μ := mu_tw_number) (pc := 46) (tgt := 55) dX11_number_46 rfl hv4 ?_ ?_
  · refine x_lload_n (μ := mu_tw_number) (pc := 55) 2 dX11_number_55 rfl ?_
    refine x_last (μ := mu_tw_number) (pc := 56) dX11_number_56 (hM3.a67).2.1 (hM3.a67).2.2 (fun _ _ q => gTw_wL q) ?_
    refine x_let (fun s4 e5 => ?_)
    have hM6 := TM.eL e5 hM3
    exact x_vret (μ := mu_tw_number) (pc := 57) (a1 := s4) dX11_number_57 rfl rfl (gRel_Tw.1 _) trivial
  · refine x_ldc2 (μ := mu_tw_number) (pc := 49) (n := 4) dX11_number_49 q3321 ?_
    refine x_goto (μ := mu_tw_number) (pc := 52) (tgt := 56) dX11_number_52 rfl ?_
    refine x_last (μ := mu_tw_number) (pc := 56) dX11_number_56 (hM3.a67).2.1 (hM3.a67).2.2 (fun _ _ q => gTw_wL q) ?_
    refine x_let (fun s7 e8 => ?_)
    have hM9 := TM.eL e8 hM3
    exact x_vret (μ := mu_tw_number) (pc := 57) (a1 := s7) dX11_number_57 rfl rfl (gRel_Tw.1 _) trivial
def tw_number_j21 (h : Nat) (v1 : Int) (v2 : Int) (t0 : Int) (s : gMem) : Option gMem := if t0 = 0 then tw_number_j38 h v1 v2 t0 1 v1 s else tw_number_j38 h v1 v2 t0 4 v1 s
set_option maxRecDepth 100000 in
theorem okj_tw_number_j21 {ω : gW} {l : Launch} {d : Nat} {h : Nat} {σ0 : gMem} {s : gMem} {v1 : Int} {v2 : Int} {t0 : Int} (hdp : 0 ≤ d) (hM : TM s h) (hv1 : g32 v1) (hv2 : g64 v2) (ht0 : g32 t0) : GG (fun p : gMem => (.inl none, p)) gTw ω l d mu_tw_number σ0 21 [(0, vR h), (1, vI v1), (2, vL v2)] [vI t0] s (tw_number_j21 h v1 v2 t0 s) := by
  unfold tw_number_j21
  refine x_istore (μ := mu_tw_number) (pc := 21) (lv' := [(4, vI t0), (0, vR h), (1, vI v1), (2, vL v2)]) dX11_number_21 (by decide) rfl ?_
  refine x_aload_n (μ := mu_tw_number) (pc := 23) 1 dX11_number_23 rfl ?_
  refine x_fgrE (μ := mu_tw_number) (pc := 24) fX11_66 (Or.inr ⟨_, rfl⟩) q2702 (hM.a66).1 dX11_number_24 hM.1 ?_
  refine x_iload_n (μ := mu_tw_number) (pc := 27) 2 dX11_number_27 rfl ?_
  refine x_iload (μ := mu_tw_number) (pc := 28) 0 dX11_number_28 rfl ?_
  refine x_if_eq (μ := mu_tw_number) (pc := 30) (tgt := 37) dX11_number_30 rfl ht0 ?_ ?_
  · refine x_iconst (μ := mu_tw_number) (pc := 37) dX11_number_37 ?_
    refine x_loc (lv' := [(0, vR h), (1, vI v1), (2, vL v2), (4, vI t0)]) [1, 2, 3, 0] rfl ?_
    exact okj_tw_number_j38 hdp hM hv1 hv2 ht0 (by decide) hv1
  · refine x_iconst (μ := mu_tw_number) (pc := 33) dX11_number_33 ?_
    refine x_goto (μ := mu_tw_number) (pc := 34) (tgt := 38) dX11_number_34 rfl ?_
    refine x_loc (lv' := [(0, vR h), (1, vI v1), (2, vL v2), (4, vI t0)]) [1, 2, 3, 0] rfl ?_
    exact okj_tw_number_j38 hdp hM hv1 hv2 ht0 (by decide) hv1
def tw_number_j16 (h : Nat) (v1 : Int) (v2 : Int) (s : gMem) : Option gMem := tw_number_j21 h v1 v2 1 s
set_option maxRecDepth 100000 in
theorem okj_tw_number_j16 {ω : gW} {l : Launch} {d : Nat} {h : Nat} {σ0 : gMem} {s : gMem} {v1 : Int} {v2 : Int} (hdp : 0 ≤ d) (hM : TM s h) (hv1 : g32 v1) (hv2 : g64 v2) : GG (fun p : gMem => (.inl none, p)) gTw ω l d mu_tw_number σ0 16 [(0, vR h), (1, vI v1), (2, vL v2)] [] s (tw_number_j16 h v1 v2 s) := by
  unfold tw_number_j16
  refine x_iconst (μ := mu_tw_number) (pc := 16) dX11_number_16 ?_
  refine x_goto (μ := mu_tw_number) (pc := 17) (tgt := 21) dX11_number_17 rfl ?_
  exact okj_tw_number_j21 hdp hM hv1 hv2 (by decide)
def tw_number (h : Nat) (v1 : Int) (v2 : Int) (σ : gMem) : Option gMem := if 0 < gcmp v2 1000000000000000 then tw_number_j16 h v1 v2  σ else if 0 ≤ gcmp v2 (-1000000000000000) then tw_number_j21 h v1 v2 0 σ else tw_number_j16 h v1 v2  σ
set_option maxRecDepth 100000 in
theorem ok_tw_number {ω : gW} {l : Launch} {d : Nat} {h : Nat} {σ : gMem} {v1 : Int} {v2 : Int} (hdp : 0 ≤ d) (hM : TM σ h) (hv1 : g32 v1) (hv2 : g64 v2) : gK (fun p : gMem => (.inl none, p)) gTw ω l d mu_tw_number [vR h, vI v1, vL v2] σ (tw_number h v1 v2 σ) := by
  refine gK.of hp_X11 (Nat.le_of_ble_eq_true rfl) ?_
  unfold tw_number
  refine x_lload_n (μ := mu_tw_number) (pc := 0) 2 dX11_number_0 rfl ?_
  refine x_ldc2 (μ := mu_tw_number) (pc := 1) (n := 1000000000000000) dX11_number_1 q3319 ?_
  refine x_lcmp (μ := mu_tw_number) (pc := 4) dX11_number_4 hv2 (by decide) ?_
  refine x_if_gt (μ := mu_tw_number) (pc := 5) (tgt := 16) dX11_number_5 rfl (gcmp_rng _ _) ?_ ?_
  · exact okj_tw_number_j16 hdp hM hv1 hv2
  · refine x_lload_n (μ := mu_tw_number) (pc := 8) 2 dX11_number_8 rfl ?_
    refine x_ldc2 (μ := mu_tw_number) (pc := 9) (n := -1000000000000000) dX11_number_9 ((by decide : (-1000000000000000 : Int64) = Int64.ofInt (-1000000000000000)) ▸ q3320) ?_
    refine x_lcmp (μ := mu_tw_number) (pc := 12) dX11_number_12 hv2 (by decide) ?_
    refine x_if_ge (μ := mu_tw_number) (pc := 13) (tgt := 20) dX11_number_13 rfl (gcmp_rng _ _) ?_ ?_
    · refine x_iconst (μ := mu_tw_number) (pc := 20) dX11_number_20 ?_
      exact okj_tw_number_j21 hdp hM hv1 hv2 (by decide)
    · exact okj_tw_number_j16 hdp hM hv1 hv2
def tw_truth (h : Nat) (v1 : Int) (v2 : Int) (σ : gMem) : Option gMem := if 0 ≤ v1 ∧ v1 < ((200 : Nat) : Int) then gLet (wI σ (h + 33) v1.toNat 3) (fun s1 => if v2 = 0 then if 0 ≤ v1 ∧ v1 < ((200 : Nat) : Int) then gLet (wL s1 (h + 34) v1.toNat (((0 : Fin 2) : Nat) : Int)) (fun s4 => some s4) else none else if 0 ≤ v1 ∧ v1 < ((200 : Nat) : Int) then gLet (wL s1 (h + 34) v1.toNat (((1 : Fin 2) : Nat) : Int)) (fun s7 => some s7) else none) else none
set_option maxRecDepth 100000 in
theorem ok_tw_truth {ω : gW} {l : Launch} {d : Nat} {h : Nat} {σ : gMem} {v1 : Int} {v2 : Int} (hdp : 0 ≤ d) (hM : TM σ h) (hv1 : g32 v1) (hv2 : g32 v2) : gK (fun p : gMem => (.inl none, p)) gTw ω l d mu_tw_truth [vR h, vI v1, vI v2] σ (tw_truth h v1 v2 σ) := by
  refine gK.of hp_X11 (Nat.le_of_ble_eq_true rfl) ?_
  unfold tw_truth
  refine x_aload_n (μ := mu_tw_truth) (pc := 0) 0 dX11_truth_0 rfl ?_
  refine x_fgrE (μ := mu_tw_truth) (pc := 1) fX11_66 (Or.inr ⟨_, rfl⟩) q2702 (hM.a66).1 dX11_truth_1 hM.1 ?_
  refine x_iload_n (μ := mu_tw_truth) (pc := 4) 1 dX11_truth_4 rfl ?_
  refine x_iconst (μ := mu_tw_truth) (pc := 5) dX11_truth_5 ?_
  refine x_iast (μ := mu_tw_truth) (pc := 6) dX11_truth_6 (hM.a66).2.1 (hM.a66).2.2 (fun _ _ q => gTw_wI q) ?_
  refine x_let (fun s1 e2 => ?_)
  have hM3 := TM.eI e2 hM
  refine x_aload_n (μ := mu_tw_truth) (pc := 7) 0 dX11_truth_7 rfl ?_
  refine x_fgrE (μ := mu_tw_truth) (pc := 8) fX11_67 (Or.inr ⟨_, rfl⟩) q2703 (hM3.a67).1 dX11_truth_8 hM3.1 ?_
  refine x_iload_n (μ := mu_tw_truth) (pc := 11) 1 dX11_truth_11 rfl ?_
  refine x_iload_n (μ := mu_tw_truth) (pc := 12) 2 dX11_truth_12 rfl ?_
  refine x_if_eq (μ := mu_tw_truth) (pc := 13) (tgt := 20) dX11_truth_13 rfl hv2 ?_ ?_
  · refine x_lconst (μ := mu_tw_truth) (pc := 20) dX11_truth_20 ?_
    refine x_last (μ := mu_tw_truth) (pc := 21) dX11_truth_21 (hM3.a67).2.1 (hM3.a67).2.2 (fun _ _ q => gTw_wL q) ?_
    refine x_let (fun s4 e5 => ?_)
    have hM6 := TM.eL e5 hM3
    exact x_vret (μ := mu_tw_truth) (pc := 22) (a1 := s4) dX11_truth_22 rfl rfl (gRel_Tw.1 _) trivial
  · refine x_lconst (μ := mu_tw_truth) (pc := 16) dX11_truth_16 ?_
    refine x_goto (μ := mu_tw_truth) (pc := 17) (tgt := 21) dX11_truth_17 rfl ?_
    refine x_last (μ := mu_tw_truth) (pc := 21) dX11_truth_21 (hM3.a67).2.1 (hM3.a67).2.2 (fun _ _ q => gTw_wL q) ?_
    refine x_let (fun s7 e8 => ?_)
    have hM9 := TM.eL e8 hM3
    exact x_vret (μ := mu_tw_truth) (pc := 22) (a1 := s7) dX11_truth_22 rfl rfl (gRel_Tw.1 _) trivial
def tw_load (N : Nat) (h : Nat) (v1 : Int) (v2 : Int) (σ : gMem) : Option gMem := if 0 ≤ v2 ∧ v2 < ((13120 : Nat) : Int) then if 0 ≤ v1 ∧ v1 < ((200 : Nat) : Int) then gLet (wI σ (h + 33) v1.toNat (mI σ (h + 28) v2.toNat)) (fun s2 => if 0 ≤ v2 ∧ v2 < ((13120 : Nat) : Int) then if 0 ≤ v1 ∧ v1 < ((200 : Nat) : Int) then gLet (wL s2 (h + 34) v1.toNat (mL s2 (h + 29) v2.toNat)) (fun s6 => if 0 ≤ v2 ∧ v2 < ((13120 : Nat) : Int) then if mI s6 (h + 28) v2.toNat ≠ 2 then some s6 else if 0 ≤ v2 ∧ v2 < ((13120 : Nat) : Int) then (tw_text N h v1 (h + 31) (w32 (24 * v2)) (mI s6 (h + 30) v2.toNat) s6).bind (fun x11 => some x11) else none else none) else none else none) else none else none
set_option maxRecDepth 100000 in
theorem ok_tw_load {ω : gW} {l : Launch} {d : Nat} {N : Nat} {h : Nat} {σ : gMem} {v1 : Int} {v2 : Int} (hdp : 1 ≤ d) (hM : TM σ h) (hv1 : g32 v1) (hv2 : g32 v2) : gK (fun p : gMem => (.inl none, p)) gTw ω l d mu_tw_load [vR h, vI v1, vI v2] σ (tw_load N h v1 v2 σ) := by
  refine gK.of hp_X11 (Nat.le_of_ble_eq_true rfl) ?_
  unfold tw_load
  refine x_aload_n (μ := mu_tw_load) (pc := 0) 0 dX11_load_0 rfl ?_
  refine x_fgrE (μ := mu_tw_load) (pc := 1) fX11_66 (Or.inr ⟨_, rfl⟩) q2702 (hM.a66).1 dX11_load_1 hM.1 ?_
  refine x_iload_n (μ := mu_tw_load) (pc := 4) 1 dX11_load_4 rfl ?_
  refine x_aload_n (μ := mu_tw_load) (pc := 5) 0 dX11_load_5 rfl ?_
  refine x_fgrE (μ := mu_tw_load) (pc := 6) fX11_60 (Or.inr ⟨_, rfl⟩) q2696 (hM.a60).1 dX11_load_6 hM.1 ?_
  refine x_iload_n (μ := mu_tw_load) (pc := 9) 2 dX11_load_9 rfl ?_
  refine x_iald (μ := mu_tw_load) (pc := 10) dX11_load_10 (hM.a60).2.1 (hM.a60).2.2 (fun hr1 => ?_)
  refine x_iast (μ := mu_tw_load) (pc := 11) dX11_load_11 (hM.a66).2.1 (hM.a66).2.2 (fun _ _ q => gTw_wI q) ?_
  refine x_let (fun s2 e3 => ?_)
  have hM4 := TM.eI e3 hM
  refine x_aload_n (μ := mu_tw_load) (pc := 12) 0 dX11_load_12 rfl ?_
  refine x_fgrE (μ := mu_tw_load) (pc := 13) fX11_67 (Or.inr ⟨_, rfl⟩) q2703 (hM4.a67).1 dX11_load_13 hM4.1 ?_
  refine x_iload_n (μ := mu_tw_load) (pc := 16) 1 dX11_load_16 rfl ?_
  refine x_aload_n (μ := mu_tw_load) (pc := 17) 0 dX11_load_17 rfl ?_
  refine x_fgrE (μ := mu_tw_load) (pc := 18) fX11_61 (Or.inr ⟨_, rfl⟩) q2697 (hM4.a61).1 dX11_load_18 hM4.1 ?_
  refine x_iload_n (μ := mu_tw_load) (pc := 21) 2 dX11_load_21 rfl ?_
  refine x_lald (μ := mu_tw_load) (pc := 22) dX11_load_22 (hM4.a61).2.1 (hM4.a61).2.2 (fun hr5 => ?_)
  refine x_last (μ := mu_tw_load) (pc := 23) dX11_load_23 (hM4.a67).2.1 (hM4.a67).2.2 (fun _ _ q => gTw_wL q) ?_
  refine x_let (fun s6 e7 => ?_)
  have hM8 := TM.eL e7 hM4
  refine x_aload_n (μ := mu_tw_load) (pc := 24) 0 dX11_load_24 rfl ?_
  refine x_fgrE (μ := mu_tw_load) (pc := 25) fX11_60 (Or.inr ⟨_, rfl⟩) q2696 (hM8.a60).1 dX11_load_25 hM8.1 ?_
  refine x_iload_n (μ := mu_tw_load) (pc := 28) 2 dX11_load_28 rfl ?_
  refine x_iald (μ := mu_tw_load) (pc := 29) dX11_load_29 (hM8.a60).2.1 (hM8.a60).2.2 (fun hr9 => ?_)
  refine x_iconst (μ := mu_tw_load) (pc := 30) dX11_load_30 ?_
  refine x_icmp_ne (μ := mu_tw_load) (pc := 31) (tgt := 53) dX11_load_31 rfl hr9 (by decide) ?_ ?_
  · exact x_vret (μ := mu_tw_load) (pc := 53) (a1 := s6) dX11_load_53 rfl rfl (gRel_Tw.1 _) trivial
  · refine x_aload_n (μ := mu_tw_load) (pc := 34) 0 dX11_load_34 rfl ?_
    refine x_iload_n (μ := mu_tw_load) (pc := 35) 1 dX11_load_35 rfl ?_
    refine x_aload_n (μ := mu_tw_load) (pc := 36) 0 dX11_load_36 rfl ?_
    refine x_fgrE (μ := mu_tw_load) (pc := 37) fX11_63 (Or.inr ⟨_, rfl⟩) q2699 (hM8.a63).1 dX11_load_37 hM8.1 ?_
    refine x_bipush (μ := mu_tw_load) (pc := 40) dX11_load_40 (by decide) ?_
    refine x_iload_n (μ := mu_tw_load) (pc := 42) 2 dX11_load_42 rfl ?_
    refine x_imul (μ := mu_tw_load) (pc := 43) dX11_load_43 ?_
    refine x_aload_n (μ := mu_tw_load) (pc := 44) 0 dX11_load_44 rfl ?_
    refine x_fgrE (μ := mu_tw_load) (pc := 45) fX11_62 (Or.inr ⟨_, rfl⟩) q2698 (hM8.a62).1 dX11_load_45 hM8.1 ?_
    refine x_iload_n (μ := mu_tw_load) (pc := 48) 2 dX11_load_48 rfl ?_
    refine x_iald (μ := mu_tw_load) (pc := 49) dX11_load_49 (hM8.a62).2.1 (hM8.a62).2.2 (fun hr10 => ?_)
    refine x_w2 ?_
    refine x_callV_mv (μ := mu_tw_load) (pc := 50) (ok_tw_text (ω := ω) (l := l) (d := d - 1) (by omega) hM8 hv1 (w32_rng _) hr10) gRel_Tw gRel_Tw (fun _ q => q) q3279 q3281 qs136 q232 q3282 dX11_load_50 rfl hM8.1 hy_tw_text (by omega) (Nat.le_of_ble_eq_true rfl) rfl (Nat.le_of_ble_eq_true rfl) (fun x11 k12 => ?_)
    have hM13 : TM x11 h := hM8.tw k12
    exact x_vret (μ := mu_tw_load) (pc := 53) (a1 := x11) dX11_load_53 rfl rfl (gRel_Tw.1 _) trivial
def tw_wantsNumber_j31 (h : Nat) (v1 : Int) (s : gMem) : Option (Int × gMem) := if 0 ≤ v1 ∧ v1 < ((200 : Nat) : Int) then if mI s (h + 33) v1.toNat ≠ 1 then some (0, s) else some (1, s) else none
set_option maxRecDepth 100000 in
theorem okj_tw_wantsNumber_j31 {ω : gW} {l : Launch} {d : Nat} {h : Nat} {σ0 : gMem} {s : gMem} {v1 : Int} (hdp : 1 ≤ d) (hM : TM s h) (hv1 : g32 v1) : GG (fun p : Int × gMem => (.inl (some (vI p.1)), p.2)) gTw ω l d mu_tw_wantsNumber σ0 31 [(0, vR h), (1, vI v1)] [] s (tw_wantsNumber_j31 h v1 s) := by
  unfold tw_wantsNumber_j31
  refine x_aload_n (μ := mu_tw_wantsNumber) (pc := 31) 0 dX11_wantsNumber_31 rfl ?_
  refine x_fgrE (μ := mu_tw_wantsNumber) (pc := 32) fX11_66 (Or.inr ⟨_, rfl⟩) q2702 (hM.a66).1 dX11_wantsNumber_32 hM.1 ?_
  refine x_iload_n (μ := mu_tw_wantsNumber) (pc := 35) 1 dX11_wantsNumber_35 rfl ?_
  refine x_iald (μ := mu_tw_wantsNumber) (pc := 36) dX11_wantsNumber_36 (hM.a66).2.1 (hM.a66).2.2 (fun hr3 => ?_)
  refine x_iconst (μ := mu_tw_wantsNumber) (pc := 37) dX11_wantsNumber_37 ?_
  refine x_icmp_ne (μ := mu_tw_wantsNumber) (pc := 38) (tgt := 45) dX11_wantsNumber_38 rfl hr3 (by decide) ?_ ?_
  · refine x_iconst (μ := mu_tw_wantsNumber) (pc := 45) dX11_wantsNumber_45 ?_
    exact x_zret (μ := mu_tw_wantsNumber) (pc := 46) dX11_wantsNumber_46 rfl (by decide) rfl (gRel_Tw.1 _) (show g32 0 from (by decide))
  · refine x_iconst (μ := mu_tw_wantsNumber) (pc := 41) dX11_wantsNumber_41 ?_
    refine x_goto (μ := mu_tw_wantsNumber) (pc := 42) (tgt := 46) dX11_wantsNumber_42 rfl ?_
    exact x_zret (μ := mu_tw_wantsNumber) (pc := 46) dX11_wantsNumber_46 rfl (by decide) rfl (gRel_Tw.1 _) (show g32 1 from (by decide))
def tw_wantsNumber_j15 (h : Nat) (v1 : Int) (s : gMem) : Option (Int × gMem) := if 0 ≤ v1 ∧ v1 < ((200 : Nat) : Int) then if mI s (h + 33) v1.toNat = 1 then tw_wantsNumber_j31 h v1  s else (tw_error h v1 3 s).bind (fun x4 => tw_wantsNumber_j31 h v1  x4) else none
set_option maxRecDepth 100000 in
theorem okj_tw_wantsNumber_j15 {ω : gW} {l : Launch} {d : Nat} {h : Nat} {σ0 : gMem} {s : gMem} {v1 : Int} (hdp : 1 ≤ d) (hM : TM s h) (hv1 : g32 v1) : GG (fun p : Int × gMem => (.inl (some (vI p.1)), p.2)) gTw ω l d mu_tw_wantsNumber σ0 15 [(0, vR h), (1, vI v1)] [] s (tw_wantsNumber_j15 h v1 s) := by
  unfold tw_wantsNumber_j15
  refine x_aload_n (μ := mu_tw_wantsNumber) (pc := 15) 0 dX11_wantsNumber_15 rfl ?_
  refine x_fgrE (μ := mu_tw_wantsNumber) (pc := 16) fX11_66 (Or.inr ⟨_, rfl⟩) q2702 (hM.a66).1 dX11_wantsNumber_16 hM.1 ?_
  refine x_iload_n (μ := mu_tw_wantsNumber) (pc := 19) 1 dX11_wantsNumber_19 rfl ?_
  refine x_iald (μ := mu_tw_wantsNumber) (pc := 20) dX11_wantsNumber_20 (hM.a66).2.1 (hM.a66).2.2 (fun hr2 => ?_)
  refine x_iconst (μ := mu_tw_wantsNumber) (pc := 21) dX11_wantsNumber_21 ?_
  refine x_icmp_eq (μ := mu_tw_wantsNumber) (pc := 22) (tgt := 31) dX11_wantsNumber_22 rfl hr2 (by decide) ?_ ?_
  · exact okj_tw_wantsNumber_j31 hdp hM hv1
  · refine x_aload_n (μ := mu_tw_wantsNumber) (pc := 25) 0 dX11_wantsNumber_25 rfl ?_
    refine x_iload_n (μ := mu_tw_wantsNumber) (pc := 26) 1 dX11_wantsNumber_26 rfl ?_
    refine x_iconst (μ := mu_tw_wantsNumber) (pc := 27) dX11_wantsNumber_27 ?_
    refine x_callV_mv (μ := mu_tw_wantsNumber) (pc := 28) (ok_tw_error (ω := ω) (l := l) (d := d - 1) (by omega) hM hv1 (by decide)) gRel_Tw gRel_Tw (fun _ q => q) q3294 q3296 qs139 q232 q3297 dX11_wantsNumber_28 rfl hM.1 hy_tw_error (by omega) (Nat.le_of_ble_eq_true rfl) rfl (Nat.le_of_ble_eq_true rfl) (fun x4 k5 => ?_)
    have hM6 : TM x4 h := hM.tw k5
    exact okj_tw_wantsNumber_j31 hdp hM6 hv1
def tw_wantsNumber (h : Nat) (v1 : Int) (σ : gMem) : Option (Int × gMem) := if 0 ≤ v1 ∧ v1 < ((200 : Nat) : Int) then if mI σ (h + 33) v1.toNat ≠ 0 then tw_wantsNumber_j15 h v1  σ else (tw_number h v1 (((0 : Fin 2) : Nat) : Int) σ).bind (fun x7 => tw_wantsNumber_j15 h v1  x7) else none
set_option maxRecDepth 100000 in
theorem ok_tw_wantsNumber {ω : gW} {l : Launch} {d : Nat} {h : Nat} {σ : gMem} {v1 : Int} (hdp : 1 ≤ d) (hM : TM σ h) (hv1 : g32 v1) : gK (fun p : Int × gMem => (.inl (some (vI p.1)), p.2)) gTw ω l d mu_tw_wantsNumber [vR h, vI v1] σ (tw_wantsNumber h v1 σ) := by
  refine gK.of hp_X11 (Nat.le_of_ble_eq_true rfl) ?_
  unfold tw_wantsNumber
  refine x_aload_n (μ := mu_tw_wantsNumber) (pc := 0) 0 dX11_wantsNumber_0 rfl ?_
  refine x_fgrE (μ := mu_tw_wantsNumber) (pc := 1) fX11_66 (Or.inr ⟨_, rfl⟩) q2702 (hM.a66).1 dX11_wantsNumber_1 hM.1 ?_
  refine x_iload_n (μ := mu_tw_wantsNumber) (pc := 4) 1 dX11_wantsNumber_4 rfl ?_
  refine x_iald (μ := mu_tw_wantsNumber) (pc := 5) dX11_wantsNumber_5 (hM.a66).2.1 (hM.a66).2.2 (fun hr1 => ?_)
  refine x_if_ne (μ := mu_tw_wantsNumber) (pc := 6) (tgt := 15) dX11_wantsNumber_6 rfl hr1 ?_ ?_
  · exact okj_tw_wantsNumber_j15 hdp hM hv1
  · refine x_aload_n (μ := mu_tw_wantsNumber) (pc := 9) 0 dX11_wantsNumber_9 rfl ?_
    refine x_iload_n (μ := mu_tw_wantsNumber) (pc := 10) 1 dX11_wantsNumber_10 rfl ?_
    refine x_lconst (μ := mu_tw_wantsNumber) (pc := 11) dX11_wantsNumber_11 ?_
    refine x_callV_mv (μ := mu_tw_wantsNumber) (pc := 12) (ok_tw_number (ω := ω) (l := l) (d := d - 1) (by omega) hM hv1 (by decide)) gRel_Tw gRel_Tw (fun _ q => q) q3315 q3317 qs144 q232 q3318 dX11_wantsNumber_12 rfl hM.1 hy_tw_number (by omega) (Nat.le_of_ble_eq_true rfl) rfl (Nat.le_of_ble_eq_true rfl) (fun x7 k8 => ?_)
    have hM9 : TM x7 h := hM.tw k8
    exact okj_tw_wantsNumber_j15 hdp hM9 hv1
def tw_under_l14 (N : Nat) (h : Nat) (σ : gMem) (v2 : Int) (K : Int → Option Int) : Nat → Int → Int → Option Int
  | 0, _, _ => none
  | n + 1, v3, v4 => if v4 ≤ v2 then K v3 else if 0 ≤ v3 ∧ v3 < ((60420 : Nat) : Int) then tw_under_l14 N h σ v2 K n (w32 (v3 - (mI σ (h + 16) v3.toNat))) (w32 (v4 + (-1))) else none
set_option maxRecDepth 100000 in
theorem okl_tw_under_l14 {ω : gW} {l : Launch} {d : Nat} {N : Nat} {h : Nat} {σ : gMem} {v2 : Int} {K : Int → Option Int} (hdp : 0 ≤ d) (hM : TM σ h) (hv2 : g32 v2) (hK : ∀ (v3 : Int) , g32 v3 → GG (fun x : Int => (.inl (some (vI x)), σ)) gTw ω l d mu_tw_under σ 35 [(3, vI v3)] [] σ (K v3)) : ∀ (n : Nat) (v3 : Int) (v4 : Int) , g32 v3 → g32 v4 → GG (fun x : Int => (.inl (some (vI x)), σ)) gTw ω l d mu_tw_under σ 14 [(0, vR h), (2, vI v2), (3, vI v3), (4, vI v4)] [] σ (tw_under_l14 N h σ v2 K n v3 v4) := by
  intro n
  induction n with
  | zero => intros; exact x_none
  | succ n ih =>
    intro v3 v4 hv3 hv4
    unfold tw_under_l14
    refine x_iload (μ := mu_tw_under) (pc := 14) 3 dX11_under_14 rfl ?_
    refine x_iload_n (μ := mu_tw_under) (pc := 16) 1 dX11_under_16 rfl ?_
    refine x_icmp_le (μ := mu_tw_under) (pc := 17) (tgt := 35) dX11_under_17 rfl hv4 hv2 ?_ ?_
    · refine x_loc (lv' := [(3, vI v3)]) [2] rfl ?_
      exact hK v3 hv3
    · refine x_iload_n (μ := mu_tw_under) (pc := 20) 2 dX11_under_20 rfl ?_
      refine x_aload_n (μ := mu_tw_under) (pc := 21) 0 dX11_under_21 rfl ?_
      refine x_fgrE (μ := mu_tw_under) (pc := 22) fX11_28 (Or.inr ⟨_, rfl⟩) q2664 (hM.a28).1 dX11_under_22 hM.1 ?_
      refine x_iload_n (μ := mu_tw_under) (pc := 25) 2 dX11_under_25 rfl ?_
      refine x_iald (μ := mu_tw_under) (pc := 26) dX11_under_26 (hM.a28).2.1 (hM.a28).2.2 (fun hr2 => ?_)
      refine x_isub (μ := mu_tw_under) (pc := 27) dX11_under_27 ?_
      refine x_w1 ?_
      refine x_istore_n (μ := mu_tw_under) (pc := 28) (lv' := [(3, vI (w32 (v3 - (mI σ (h + 16) v3.toNat)))), (0, vR h), (2, vI v2), (4, vI v4)]) dX11_under_28 rfl (by decide) rfl ?_
      refine x_iincw (μ := mu_tw_under) (pc := 29) (lv' := [(4, vI (w32 (v4 + (-1)))), (3, vI (w32 (v3 - (mI σ (h + 16) v3.toNat)))), (0, vR h), (2, vI v2)]) 3 dX11_under_29 rfl (by decide) rfl ?_
      refine x_goto (μ := mu_tw_under) (pc := 32) (tgt := 14) dX11_under_32 rfl ?_
      refine x_loc (lv' := [(0, vR h), (2, vI v2), (3, vI (w32 (v3 - (mI σ (h + 16) v3.toNat)))), (4, vI (w32 (v4 + (-1))))]) [2, 3, 1, 0] rfl ?_
      exact ih (w32 (v3 - (mI σ (h + 16) v3.toNat))) (w32 (v4 + (-1))) (w32_rng _) (w32_rng _)
def tw_under (N : Nat) (h : Nat) (v1 : Int) (v2 : Int) (σ : gMem) : Option Int := if 0 ≤ v1 ∧ v1 < ((60420 : Nat) : Int) then tw_under_l14 N h σ v2 (fun y3 => some y3) N (w32 (v1 - 1)) (w32 ((mI σ (h + 15) v1.toNat) - 1)) else none
set_option maxRecDepth 100000 in
theorem ok_tw_under {ω : gW} {l : Launch} {d : Nat} {N : Nat} {h : Nat} {σ : gMem} {v1 : Int} {v2 : Int} (hdp : 0 ≤ d) (hM : TM σ h) (hv1 : g32 v1) (hv2 : g32 v2) : gK (fun x : Int => (.inl (some (vI x)), σ)) gTw ω l d mu_tw_under [vR h, vI v1, vI v2] σ (tw_under N h v1 v2 σ) := by
  refine gK.of hp_X11 (Nat.le_of_ble_eq_true rfl) ?_
  unfold tw_under
  refine x_iload_n (μ := mu_tw_under) (pc := 0) 1 dX11_under_0 rfl ?_
  refine x_iconst (μ := mu_tw_under) (pc := 1) dX11_under_1 ?_
  refine x_isub (μ := mu_tw_under) (pc := 2) dX11_under_2 ?_
  refine x_w1 ?_
  refine x_istore_n (μ := mu_tw_under) (pc := 3) (lv' := [(3, vI (w32 (v1 - 1))), (0, vR h), (1, vI v1), (2, vI v2)]) dX11_under_3 rfl (by decide) rfl ?_
  refine x_aload_n (μ := mu_tw_under) (pc := 4) 1 dX11_under_4 rfl ?_
  refine x_fgrE (μ := mu_tw_under) (pc := 5) fX11_27 (Or.inr ⟨_, rfl⟩) q2663 (hM.a27).1 dX11_under_5 hM.1 ?_
  refine x_iload_n (μ := mu_tw_under) (pc := 8) 2 dX11_under_8 rfl ?_
  refine x_iald (μ := mu_tw_under) (pc := 9) dX11_under_9 (hM.a27).2.1 (hM.a27).2.2 (fun hr1 => ?_)
  refine x_iconst (μ := mu_tw_under) (pc := 10) dX11_under_10 ?_
  refine x_isub (μ := mu_tw_under) (pc := 11) dX11_under_11 ?_
  refine x_w1 ?_
  refine x_istore (μ := mu_tw_under) (pc := 12) (lv' := [(4, vI (w32 ((mI σ (h + 15) v1.toNat) - 1))), (3, vI (w32 (v1 - 1))), (0, vR h), (1, vI v1), (2, vI v2)]) dX11_under_12 (by decide) rfl ?_
  refine x_loc (lv' := [(0, vR h), (2, vI v2), (3, vI (w32 (v1 - 1))), (4, vI (w32 ((mI σ (h + 15) v1.toNat) - 1)))]) [2, 4, 1, 0] rfl ?_
  refine okl_tw_under_l14 hdp hM hv2 (fun y3 hy3 => ?_) N (w32 (v1 - 1)) (w32 ((mI σ (h + 15) v1.toNat) - 1)) (w32_rng _) (w32_rng _)
  refine x_iload_n (μ := mu_tw_under) (pc := 35) 0 dX11_under_35 rfl ?_
  exact x_iret (μ := mu_tw_under) (pc := 36) dX11_under_36 rfl rfl (gRel_Tw.1 _) (show g32 y3 from hy3)
def tw_bring_l38 (N : Nat) (h : Nat) (v1 : Int) (v2 : Int) (K : gMem → Option gMem) : Nat → Int → gMem → Option gMem
  | 0, _, _ => none
  | n + 1, v3, s => if 24 ≤ v3 then K s else if 0 ≤ ((24 * v1) + v3) ∧ ((24 * v1) + v3) < ((4800 : Nat) : Int) then if -128 ≤ mI s (h + 36) ((24 * v1) + v3).toNat ∧ mI s (h + 36) ((24 * v1) + v3).toNat ≤ 127 then if 0 ≤ ((24 * v2) + v3) ∧ ((24 * v2) + v3) < ((4800 : Nat) : Int) then gLet (wI s (h + 36) ((24 * v2) + v3).toNat (mI s (h + 36) ((24 * v1) + v3).toNat)) (fun s15 => tw_bring_l38 N h v1 v2 K n (w32 (v3 + 1)) s15) else none else none else none
set_option maxRecDepth 100000 in
theorem okl_tw_bring_l38 {ω : gW} {l : Launch} {d : Nat} {N : Nat} {h : Nat} {σ0 : gMem} {v1 : Int} {v2 : Int} {K : gMem → Option gMem} (hdp : 0 ≤ d) (hv1 : g32 v1) (hv2 : g32 v2) (hK : ∀ (s : gMem) , TM s h → GG (fun p : gMem => (.inl none, p)) gTw ω l d mu_tw_bring σ0 72 [] [] s (K s)) : ∀ (n : Nat) (v3 : Int) (s : gMem) , g32 v3 → TM s h → GG (fun p : gMem => (.inl none, p)) gTw ω l d mu_tw_bring σ0 38 [(0, vR h), (1, vI v1), (2, vI v2), (3, vI v3)] [] s (tw_bring_l38 N h v1 v2 K n v3 s) := by
  intro n
  induction n with
  | zero => intros; exact x_none
  | succ n ih =>
    intro v3 s hv3 hM
    unfold tw_bring_l38
    refine x_iload_n (μ := mu_tw_bring) (pc := 38) 3 dX11_bring_38 rfl ?_
    refine x_bipush (μ := mu_tw_bring) (pc := 39) dX11_bring_39 (by decide) ?_
    refine x_icmp_ge (μ := mu_tw_bring) (pc := 41) (tgt := 72) dX11_bring_41 rfl hv3 (by decide) ?_ ?_
    · refine x_loc (lv' := []) [] rfl ?_
      exact hK s hM
    · refine x_aload_n (μ := mu_tw_bring) (pc := 44) 0 dX11_bring_44 rfl ?_
      refine x_fgrE (μ := mu_tw_bring) (pc := 45) fX11_69 (Or.inr ⟨_, rfl⟩) q2705 (hM.a69).1 dX11_bring_45 hM.1 ?_
      refine x_bipush (μ := mu_tw_bring) (pc := 48) dX11_bring_48 (by decide) ?_
      refine x_iload_n (μ := mu_tw_bring) (pc := 50) 2 dX11_bring_50 rfl ?_
      refine x_imul (μ := mu_tw_bring) (pc := 51) dX11_bring_51 ?_
      refine x_iload_n (μ := mu_tw_bring) (pc := 52) 3 dX11_bring_52 rfl ?_
      refine x_iadd (μ := mu_tw_bring) (pc := 53) dX11_bring_53 ?_
      refine x_aload_n (μ := mu_tw_bring) (pc := 54) 0 dX11_bring_54 rfl ?_
      refine x_fgrE (μ := mu_tw_bring) (pc := 55) fX11_69 (Or.inr ⟨_, rfl⟩) q2705 (hM.a69).1 dX11_bring_55 hM.1 ?_
      refine x_bipush (μ := mu_tw_bring) (pc := 58) dX11_bring_58 (by decide) ?_
      refine x_iload_n (μ := mu_tw_bring) (pc := 60) 1 dX11_bring_60 rfl ?_
      refine x_imul (μ := mu_tw_bring) (pc := 61) dX11_bring_61 ?_
      refine x_iload_n (μ := mu_tw_bring) (pc := 62) 3 dX11_bring_62 rfl ?_
      refine x_iadd (μ := mu_tw_bring) (pc := 63) dX11_bring_63 ?_
      refine x_bald (μ := mu_tw_bring) (pc := 64) dX11_bring_64 (hM.a69).2.1 (hM.a69).2.2 (fun hr13 => ?_)
      refine x_if (fun hz14 => ?_)
      refine x_bast (μ := mu_tw_bring) (pc := 65) dX11_bring_65 (hM.a69).2.1 (hM.a69).2.2 hz14 (fun _ _ q => gTw_wI q) ?_
      refine x_let (fun s15 e16 => ?_)
      have hM17 := TM.eI e16 hM
      refine x_iincw (μ := mu_tw_bring) (pc := 66) (lv' := [(3, vI (w32 (v3 + 1))), (0, vR h), (1, vI v1), (2, vI v2)]) 3 dX11_bring_66 rfl (by decide) rfl ?_
      refine x_goto (μ := mu_tw_bring) (pc := 69) (tgt := 38) dX11_bring_69 rfl ?_
      refine x_loc (lv' := [(0, vR h), (1, vI v1), (2, vI v2), (3, vI (w32 (v3 + 1)))]) [1, 2, 3, 0] rfl ?_
      exact ih (w32 (v3 + 1)) s15 (w32_rng _) hM17
def tw_bring (N : Nat) (h : Nat) (v1 : Int) (v2 : Int) (σ : gMem) : Option gMem := if 0 ≤ v1 ∧ v1 < ((200 : Nat) : Int) then if 0 ≤ v2 ∧ v2 < ((200 : Nat) : Int) then gLet (wI σ (h + 33) v2.toNat (mI σ (h + 33) v1.toNat)) (fun s2 => if 0 ≤ v1 ∧ v1 < ((200 : Nat) : Int) then if 0 ≤ v2 ∧ v2 < ((200 : Nat) : Int) then gLet (wL s2 (h + 34) v2.toNat (mL s2 (h + 34) v1.toNat)) (fun s6 => if 0 ≤ v1 ∧ v1 < ((200 : Nat) : Int) then if 0 ≤ v2 ∧ v2 < ((200 : Nat) : Int) then gLet (wI s6 (h + 35) v2.toNat (mI s6 (h + 35) v1.toNat)) (fun s10 => tw_bring_l38 N h v1 v2 (fun s18 => some s18) N 0 s10) else none else none) else none else none) else none else none
set_option maxRecDepth 100000 in
theorem ok_tw_bring {ω : gW} {l : Launch} {d : Nat} {N : Nat} {h : Nat} {σ : gMem} {v1 : Int} {v2 : Int} (hdp : 0 ≤ d) (hM : TM σ h) (hv1 : g32 v1) (hv2 : g32 v2) : gK (fun p : gMem => (.inl none, p)) gTw ω l d mu_tw_bring [vR h, vI v1, vI v2] σ (tw_bring N h v1 v2 σ) := by
  refine gK.of hp_X11 (Nat.le_of_ble_eq_true rfl) ?_
  unfold tw_bring
  refine x_aload_n (μ := mu_tw_bring) (pc := 0) 0 dX11_bring_0 rfl ?_
  refine x_fgrE (μ := mu_tw_bring) (pc := 1) fX11_66 (Or.inr ⟨_, rfl⟩) q2702 (hM.a66).1 dX11_bring_1 hM.1 ?_
  refine x_iload_n (μ := mu_tw_bring) (pc := 4) 2 dX11_bring_4 rfl ?_
  refine x_aload_n (μ := mu_tw_bring) (pc := 5) 0 dX11_bring_5 rfl ?_
  refine x_fgrE (μ := mu_tw_bring) (pc := 6) fX11_66 (Or.inr ⟨_, rfl⟩) q2702 (hM.a66).1 dX11_bring_6 hM.1 ?_
  refine x_iload_n (μ := mu_tw_bring) (pc := 9) 1 dX11_bring_9 rfl ?_
  refine x_iald (μ := mu_tw_bring) (pc := 10) dX11_bring_10 (hM.a66).2.1 (hM.a66).2.2 (fun hr1 => ?_)
  refine x_iast (μ := mu_tw_bring) (pc := 11) dX11_bring_11 (hM.a66).2.1 (hM.a66).2.2 (fun _ _ q => gTw_wI q) ?_
  refine x_let (fun s2 e3 => ?_)
  have hM4 := TM.eI e3 hM
  refine x_aload_n (μ := mu_tw_bring) (pc := 12) 0 dX11_bring_12 rfl ?_
  refine x_fgrE (μ := mu_tw_bring) (pc := 13) fX11_67 (Or.inr ⟨_, rfl⟩) q2703 (hM4.a67).1 dX11_bring_13 hM4.1 ?_
  refine x_iload_n (μ := mu_tw_bring) (pc := 16) 2 dX11_bring_16 rfl ?_
  refine x_aload_n (μ := mu_tw_bring) (pc := 17) 0 dX11_bring_17 rfl ?_
  refine x_fgrE (μ := mu_tw_bring) (pc := 18) fX11_67 (Or.inr ⟨_, rfl⟩) q2703 (hM4.a67).1 dX11_bring_18 hM4.1 ?_
  refine x_iload_n (μ := mu_tw_bring) (pc := 21) 1 dX11_bring_21 rfl ?_
  refine x_lald (μ := mu_tw_bring) (pc := 22) dX11_bring_22 (hM4.a67).2.1 (hM4.a67).2.2 (fun hr5 => ?_)
  refine x_last (μ := mu_tw_bring) (pc := 23) dX11_bring_23 (hM4.a67).2.1 (hM4.a67).2.2 (fun _ _ q => gTw_wL q) ?_
  refine x_let (fun s6 e7 => ?_)
  have hM8 := TM.eL e7 hM4
  refine x_aload_n (μ := mu_tw_bring) (pc := 24) 0 dX11_bring_24 rfl ?_
  refine x_fgrE (μ := mu_tw_bring) (pc := 25) fX11_68 (Or.inr ⟨_, rfl⟩) q2704 (hM8.a68).1 dX11_bring_25 hM8.1 ?_
  refine x_iload_n (μ := mu_tw_bring) (pc := 28) 2 dX11_bring_28 rfl ?_
  refine x_aload_n (μ := mu_tw_bring) (pc := 29) 0 dX11_bring_29 rfl ?_
  refine x_fgrE (μ := mu_tw_bring) (pc := 30) fX11_68 (Or.inr ⟨_, rfl⟩) q2704 (hM8.a68).1 dX11_bring_30 hM8.1 ?_
  refine x_iload_n (μ := mu_tw_bring) (pc := 33) 1 dX11_bring_33 rfl ?_
  refine x_iald (μ := mu_tw_bring) (pc := 34) dX11_bring_34 (hM8.a68).2.1 (hM8.a68).2.2 (fun hr9 => ?_)
  refine x_iast (μ := mu_tw_bring) (pc := 35) dX11_bring_35 (hM8.a68).2.1 (hM8.a68).2.2 (fun _ _ q => gTw_wI q) ?_
  refine x_let (fun s10 e11 => ?_)
  have hM12 := TM.eI e11 hM8
  refine x_iconst (μ := mu_tw_bring) (pc := 36) dX11_bring_36 ?_
  refine x_istore_n (μ := mu_tw_bring) (pc := 37) (lv' := [(3, vI 0), (0, vR h), (1, vI v1), (2, vI v2)]) dX11_bring_37 rfl (by decide) rfl ?_
  refine x_loc (lv' := [(0, vR h), (1, vI v1), (2, vI v2), (3, vI 0)]) [1, 2, 3, 0] rfl ?_
  refine okl_tw_bring_l38 hdp hv1 hv2 (fun s18 hM19 => ?_) N 0 s10 (by decide) hM12
  exact x_vret (μ := mu_tw_bring) (pc := 72) (a1 := s18) dX11_bring_72 rfl rfl (gRel_Tw.1 _) trivial
def tw_word_l19 (N : Nat) (h : Nat) (v1 : Int) (v2 : Nat) (K : gMem → Option gMem) : Nat → Int → gMem → Option gMem
  | 0, _, _ => none
  | n + 1, v3, s => if mT s v2 = 90 then if w32 (mN s v2 : Int) ≤ v3 then K s else if 0 ≤ v3 ∧ v3 < (mN s v2 : Int) then if 0 ≤ ((24 * v1) + v3) ∧ ((24 * v1) + v3) < ((4800 : Nat) : Int) then gLet (wI s (h + 36) ((24 * v1) + v3).toNat (bByte (mI s v2 v3.toNat))) (fun s12 => tw_word_l19 N h v1 v2 K n (w32 (v3 + 1)) s12) else none else none else none
set_option maxRecDepth 100000 in
theorem okl_tw_word_l19 {ω : gW} {l : Launch} {d : Nat} {N : Nat} {h : Nat} {σ0 : gMem} {v1 : Int} {v2 : Nat} {K : gMem → Option gMem} (hdp : 5 ≤ d) (hv1 : g32 v1) (hK : ∀ (s : gMem) , TM s h → GG (fun p : gMem => (.inl none, p)) gTw ω l d mu_tw_word σ0 50 [] [] s (K s)) : ∀ (n : Nat) (v3 : Int) (s : gMem) , g32 v3 → TM s h → GG (fun p : gMem => (.inl none, p)) gTw ω l d mu_tw_word σ0 19 [(0, vR h), (1, vI v1), (2, vR v2), (3, vI v3)] [] s (tw_word_l19 N h v1 v2 K n v3 s) := by
  intro n
  induction n with
  | zero => intros; exact x_none
  | succ n ih =>
    intro v3 s hv3 hM
    unfold tw_word_l19
    refine x_iload_n (μ := mu_tw_word) (pc := 19) 3 dX11_word_19 rfl ?_
    refine x_aload_n (μ := mu_tw_word) (pc := 20) 2 dX11_word_20 rfl ?_
    refine x_if (fun hT9 => ?_)
    refine x_slen (μ := mu_tw_word) (pc := 21) q3037 dX11_word_21 hT9 (by omega) (Nat.le_of_ble_eq_true rfl) ?_
    refine x_w1 ?_
    refine x_icmp_ge (μ := mu_tw_word) (pc := 24) (tgt := 50) dX11_word_24 rfl hv3 (w32_rng _) ?_ ?_
    · refine x_loc (lv' := []) [] rfl ?_
      exact hK s hM
    · refine x_aload_n (μ := mu_tw_word) (pc := 27) 0 dX11_word_27 rfl ?_
      refine x_fgrE (μ := mu_tw_word) (pc := 28) fX11_69 (Or.inr ⟨_, rfl⟩) q2705 (hM.a69).1 dX11_word_28 hM.1 ?_
      refine x_bipush (μ := mu_tw_word) (pc := 31) dX11_word_31 (by decide) ?_
      refine x_iload_n (μ := mu_tw_word) (pc := 33) 1 dX11_word_33 rfl ?_
      refine x_imul (μ := mu_tw_word) (pc := 34) dX11_word_34 ?_
      refine x_iload_n (μ := mu_tw_word) (pc := 35) 3 dX11_word_35 rfl ?_
      refine x_iadd (μ := mu_tw_word) (pc := 36) dX11_word_36 ?_
      refine x_aload_n (μ := mu_tw_word) (pc := 37) 2 dX11_word_37 rfl ?_
      refine x_iload_n (μ := mu_tw_word) (pc := 38) 3 dX11_word_38 rfl ?_
      refine x_schar (μ := mu_tw_word) (pc := 39) q3038 dX11_word_39 hT9 hv3 (by omega) (Nat.le_of_ble_eq_true rfl) (fun hr11 => ?_)
      refine x_i2b (μ := mu_tw_word) (pc := 42) dX11_word_42 ?_
      refine x_bast (μ := mu_tw_word) (pc := 43) dX11_word_43 (hM.a69).2.1 (hM.a69).2.2 (bByte_b _) (fun _ _ q => gTw_wI q) ?_
      refine x_let (fun s12 e13 => ?_)
      have hM14 := TM.eI e13 hM
      refine x_iincw (μ := mu_tw_word) (pc := 44) (lv' := [(3, vI (w32 (v3 + 1))), (0, vR h), (1, vI v1), (2, vR v2)]) 3 dX11_word_44 rfl (by decide) rfl ?_
      refine x_goto (μ := mu_tw_word) (pc := 47) (tgt := 19) dX11_word_47 rfl ?_
      refine x_loc (lv' := [(0, vR h), (1, vI v1), (2, vR v2), (3, vI (w32 (v3 + 1)))]) [1, 2, 3, 0] rfl ?_
      exact ih (w32 (v3 + 1)) s12 (w32_rng _) hM14
def tw_word (N : Nat) (h : Nat) (v1 : Int) (v2 : Nat) (σ : gMem) : Option gMem := if 0 ≤ v1 ∧ v1 < ((200 : Nat) : Int) then gLet (wI σ (h + 33) v1.toNat 2) (fun s1 => if mT s1 v2 = 90 then if 0 ≤ v1 ∧ v1 < ((200 : Nat) : Int) then gLet (wI s1 (h + 35) v1.toNat (w32 (mN s1 v2 : Int))) (fun s6 => tw_word_l19 N h v1 v2 (fun s15 => some s15) N 0 s6) else none else none) else none
set_option maxRecDepth 100000 in
theorem ok_tw_word {ω : gW} {l : Launch} {d : Nat} {N : Nat} {h : Nat} {σ : gMem} {v1 : Int} {v2 : Nat} (hdp : 5 ≤ d) (hM : TM σ h) (hv1 : g32 v1) : gK (fun p : gMem => (.inl none, p)) gTw ω l d mu_tw_word [vR h, vI v1, vR v2] σ (tw_word N h v1 v2 σ) := by
  refine gK.of hp_X11 (Nat.le_of_ble_eq_true rfl) ?_
  unfold tw_word
  refine x_aload_n (μ := mu_tw_word) (pc := 0) 0 dX11_word_0 rfl ?_
  refine x_fgrE (μ := mu_tw_word) (pc := 1) fX11_66 (Or.inr ⟨_, rfl⟩) q2702 (hM.a66).1 dX11_word_1 hM.1 ?_
  refine x_iload_n (μ := mu_tw_word) (pc := 4) 1 dX11_word_4 rfl ?_
  refine x_iconst (μ := mu_tw_word) (pc := 5) dX11_word_5 ?_
  refine x_iast (μ := mu_tw_word) (pc := 6) dX11_word_6 (hM.a66).2.1 (hM.a66).2.2 (fun _ _ q => gTw_wI q) ?_
  refine x_let (fun s1 e2 => ?_)
  have hM3 := TM.eI e2 hM
  refine x_aload_n (μ := mu_tw_word) (pc := 7) 0 dX11_word_7 rfl ?_
  refine x_fgrE (μ := mu_tw_word) (pc := 8) fX11_68 (Or.inr ⟨_, rfl⟩) q2704 (hM3.a68).1 dX11_word_8 hM3.1 ?_
  refine x_iload_n (μ := mu_tw_word) (pc := 11) 1 dX11_word_11 rfl ?_
  refine x_aload_n (μ := mu_tw_word) (pc := 12) 2 dX11_word_12 rfl ?_
  refine x_if (fun hT4 => ?_)
  refine x_slen (μ := mu_tw_word) (pc := 13) q3037 dX11_word_13 hT4 (by omega) (Nat.le_of_ble_eq_true rfl) ?_
  refine x_w1 ?_
  refine x_iast (μ := mu_tw_word) (pc := 16) dX11_word_16 (hM3.a68).2.1 (hM3.a68).2.2 (fun _ _ q => gTw_wI q) ?_
  refine x_let (fun s6 e7 => ?_)
  have hM8 := TM.eI e7 hM3
  refine x_iconst (μ := mu_tw_word) (pc := 17) dX11_word_17 ?_
  refine x_istore_n (μ := mu_tw_word) (pc := 18) (lv' := [(3, vI 0), (0, vR h), (1, vI v1), (2, vR v2)]) dX11_word_18 rfl (by decide) rfl ?_
  refine x_loc (lv' := [(0, vR h), (1, vI v1), (2, vR v2), (3, vI 0)]) [1, 2, 3, 0] rfl ?_
  refine okl_tw_word_l19 hdp hv1 (fun s15 hM16 => ?_) N 0 s6 (by decide) hM8
  exact x_vret (μ := mu_tw_word) (pc := 50) (a1 := s15) dX11_word_50 rfl rfl (gRel_Tw.1 _) trivial
def tw_order_l94 (N : Nat) (h : Nat) (σ : gMem) (v1 : Int) (v2 : Int) (v3 : Int) (K : Option Int) : Nat → Int → Option Int
  | 0, _ => none
  | n + 1, v4 => if v3 ≤ v4 then K else if 0 ≤ ((24 * v1) + v4) ∧ ((24 * v1) + v4) < ((4800 : Nat) : Int) then if 0 ≤ ((24 * v2) + v4) ∧ ((24 * v2) + v4) < ((4800 : Nat) : Int) then if mI σ (h + 36) ((24 * v1) + v4).toNat = mI σ (h + 36) ((24 * v2) + v4).toNat then tw_order_l94 N h σ v1 v2 v3 K n (w32 (v4 + 1)) else if mI σ (h + 36) ((24 * v2) + v4).toNat ≤ mI σ (h + 36) ((24 * v1) + v4).toNat then some 1 else some (-1) else none else none
set_option maxRecDepth 100000 in
theorem okl_tw_order_l94 {ω : gW} {l : Launch} {d : Nat} {N : Nat} {h : Nat} {σ : gMem} {v1 : Int} {v2 : Int} {v3 : Int} {K : Option Int} (hdp : 1 ≤ d) (hM : TM σ h) (hv1 : g32 v1) (hv2 : g32 v2) (hv3 : g32 v3) (hK : GG (fun x : Int => (.inl (some (vI x)), σ)) gTw ω l d mu_tw_order σ 154 [(0, vR h), (1, vI v1), (2, vI v2)] [] σ (K)) : ∀ (n : Nat) (v4 : Int) , g32 v4 → GG (fun x : Int => (.inl (some (vI x)), σ)) gTw ω l d mu_tw_order σ 94 [(0, vR h), (1, vI v1), (2, vI v2), (3, vI v3), (4, vI v4)] [] σ (tw_order_l94 N h σ v1 v2 v3 K n v4) := by
  intro n
  induction n with
  | zero => intros; exact x_none
  | succ n ih =>
    intro v4 hv4
    unfold tw_order_l94
    refine x_iload (μ := mu_tw_order) (pc := 94) 4 dX11_order_94 rfl ?_
    refine x_iload_n (μ := mu_tw_order) (pc := 96) 3 dX11_order_96 rfl ?_
    refine x_icmp_ge (μ := mu_tw_order) (pc := 97) (tgt := 154) dX11_order_97 rfl hv4 hv3 ?_ ?_
    · refine x_loc (lv' := [(0, vR h), (1, vI v1), (2, vI v2)]) [0, 1, 2] rfl ?_
      exact hK
    · refine x_aload_n (μ := mu_tw_order) (pc := 100) 0 dX11_order_100 rfl ?_
      refine x_fgrE (μ := mu_tw_order) (pc := 101) fX11_69 (Or.inr ⟨_, rfl⟩) q2705 (hM.a69).1 dX11_order_101 hM.1 ?_
      refine x_bipush (μ := mu_tw_order) (pc := 104) dX11_order_104 (by decide) ?_
      refine x_iload_n (μ := mu_tw_order) (pc := 106) 1 dX11_order_106 rfl ?_
      refine x_imul (μ := mu_tw_order) (pc := 107) dX11_order_107 ?_
      refine x_iload (μ := mu_tw_order) (pc := 108) 4 dX11_order_108 rfl ?_
      refine x_iadd (μ := mu_tw_order) (pc := 110) dX11_order_110 ?_
      refine x_bald (μ := mu_tw_order) (pc := 111) dX11_order_111 (hM.a69).2.1 (hM.a69).2.2 (fun hr6 => ?_)
      refine x_istore (μ := mu_tw_order) (pc := 112) (lv' := [(5, vI (mI σ (h + 36) ((24 * v1) + v4).toNat)), (0, vR h), (1, vI v1), (2, vI v2), (3, vI v3), (4, vI v4)]) dX11_order_112 (by decide) rfl ?_
      refine x_aload_n (μ := mu_tw_order) (pc := 114) 1 dX11_order_114 rfl ?_
      refine x_fgrE (μ := mu_tw_order) (pc := 115) fX11_69 (Or.inr ⟨_, rfl⟩) q2705 (hM.a69).1 dX11_order_115 hM.1 ?_
      refine x_bipush (μ := mu_tw_order) (pc := 118) dX11_order_118 (by decide) ?_
      refine x_iload_n (μ := mu_tw_order) (pc := 120) 3 dX11_order_120 rfl ?_
      refine x_imul (μ := mu_tw_order) (pc := 121) dX11_order_121 ?_
      refine x_iload (μ := mu_tw_order) (pc := 122) 5 dX11_order_122 rfl ?_
      refine x_iadd (μ := mu_tw_order) (pc := 124) dX11_order_124 ?_
      refine x_bald (μ := mu_tw_order) (pc := 125) dX11_order_125 (hM.a69).2.1 (hM.a69).2.2 (fun hr7 => ?_)
      refine x_istore (μ := mu_tw_order) (pc := 126) (lv' := [(6, vI (mI σ (h + 36) ((24 * v2) + v4).toNat)), (5, vI (mI σ (h + 36) ((24 * v1) + v4).toNat)), (0, vR h), (1, vI v1), (2, vI v2), (3, vI v3), (4, vI v4)]) dX11_order_126 (by decide) rfl ?_
      refine x_iload (μ := mu_tw_order) (pc := 128) 1 dX11_order_128 rfl ?_
      refine x_iload (μ := mu_tw_order) (pc := 130) 0 dX11_order_130 rfl ?_
      refine x_icmp_eq (μ := mu_tw_order) (pc := 132) (tgt := 148) dX11_order_132 rfl hr6 hr7 ?_ ?_
      · refine x_iincw (μ := mu_tw_order) (pc := 148) (lv' := [(4, vI (w32 (v4 + 1))), (6, vI (mI σ (h + 36) ((24 * v2) + v4).toNat)), (5, vI (mI σ (h + 36) ((24 * v1) + v4).toNat)), (0, vR h), (1, vI v1), (2, vI v2), (3, vI v3)]) 6 dX11_order_148 rfl (by decide) rfl ?_
        refine x_goto (μ := mu_tw_order) (pc := 151) (tgt := 94) dX11_order_151 rfl ?_
        refine x_loc (lv' := [(0, vR h), (1, vI v1), (2, vI v2), (3, vI v3), (4, vI (w32 (v4 + 1)))]) [3, 4, 5, 6, 0] rfl ?_
        exact ih (w32 (v4 + 1)) (w32_rng _)
      · refine x_iload (μ := mu_tw_order) (pc := 135) 1 dX11_order_135 rfl ?_
        refine x_iload (μ := mu_tw_order) (pc := 137) 0 dX11_order_137 rfl ?_
        refine x_icmp_ge (μ := mu_tw_order) (pc := 139) (tgt := 146) dX11_order_139 rfl hr6 hr7 ?_ ?_
        · refine x_iconst (μ := mu_tw_order) (pc := 146) dX11_order_146 ?_
          exact x_iret (μ := mu_tw_order) (pc := 147) dX11_order_147 rfl rfl (gRel_Tw.1 _) (show g32 1 from (by decide))
        · refine x_iconst (μ := mu_tw_order) (pc := 142) dX11_order_142 ?_
          refine x_goto (μ := mu_tw_order) (pc := 143) (tgt := 147) dX11_order_143 rfl ?_
          exact x_iret (μ := mu_tw_order) (pc := 147) dX11_order_147 rfl rfl (gRel_Tw.1 _) (show g32 (-1) from (by decide))
def tw_order_j49 (N : Nat) (h : Nat) (σ : gMem) (v3 : Int) (t0 : Int) : Option Int := if 0 ≤ gcmp v3 t0 then if gcmp v3 t0 ≤ 0 then some 0 else some 1 else some (-1)
set_option maxRecDepth 100000 in
theorem okj_tw_order_j49 {ω : gW} {l : Launch} {d : Nat} {N : Nat} {h : Nat} {σ : gMem} {v3 : Int} {t0 : Int} (hdp : 1 ≤ d) (hM : TM σ h) (hv3 : g64 v3) (ht0 : g64 t0) : GG (fun x : Int => (.inl (some (vI x)), σ)) gTw ω l d mu_tw_order σ 49 [(3, vL v3)] [vL t0] σ (tw_order_j49 N h σ v3 t0 ) := by
  unfold tw_order_j49
  refine x_lstore (μ := mu_tw_order) (pc := 49) (lv' := [(5, vL t0), (3, vL v3)]) dX11_order_49 (by decide) rfl ?_
  refine x_lload_n (μ := mu_tw_order) (pc := 51) 1 dX11_order_51 rfl ?_
  refine x_lload (μ := mu_tw_order) (pc := 52) 0 dX11_order_52 rfl ?_
  refine x_lcmp (μ := mu_tw_order) (pc := 54) dX11_order_54 hv3 ht0 ?_
  refine x_if_ge (μ := mu_tw_order) (pc := 55) (tgt := 62) dX11_order_55 rfl (gcmp_rng _ _) ?_ ?_
  · refine x_lload_n (μ := mu_tw_order) (pc := 62) 1 dX11_order_62 rfl ?_
    refine x_lload (μ := mu_tw_order) (pc := 63) 0 dX11_order_63 rfl ?_
    refine x_lcmp (μ := mu_tw_order) (pc := 65) dX11_order_65 hv3 ht0 ?_
    refine x_if_le (μ := mu_tw_order) (pc := 66) (tgt := 73) dX11_order_66 rfl (gcmp_rng _ _) ?_ ?_
    · refine x_iconst (μ := mu_tw_order) (pc := 73) dX11_order_73 ?_
      exact x_iret (μ := mu_tw_order) (pc := 74) dX11_order_74 rfl rfl (gRel_Tw.1 _) (show g32 0 from (by decide))
    · refine x_iconst (μ := mu_tw_order) (pc := 69) dX11_order_69 ?_
      refine x_goto (μ := mu_tw_order) (pc := 70) (tgt := 74) dX11_order_70 rfl ?_
      exact x_iret (μ := mu_tw_order) (pc := 74) dX11_order_74 rfl rfl (gRel_Tw.1 _) (show g32 1 from (by decide))
  · refine x_iconst (μ := mu_tw_order) (pc := 58) dX11_order_58 ?_
    refine x_goto (μ := mu_tw_order) (pc := 59) (tgt := 74) dX11_order_59 rfl ?_
    exact x_iret (μ := mu_tw_order) (pc := 74) dX11_order_74 rfl rfl (gRel_Tw.1 _) (show g32 (-1) from (by decide))
def tw_order_j29 (N : Nat) (h : Nat) (σ : gMem) (v2 : Int) (t0 : Int) : Option Int := if 0 ≤ v2 ∧ v2 < ((200 : Nat) : Int) then if mI σ (h + 33) v2.toNat ≠ 0 then if 0 ≤ v2 ∧ v2 < ((200 : Nat) : Int) then tw_order_j49 N h σ t0 (mL σ (h + 34) v2.toNat) else none else tw_order_j49 N h σ t0 (((0 : Fin 2) : Nat) : Int) else none
set_option maxRecDepth 100000 in
theorem okj_tw_order_j29 {ω : gW} {l : Launch} {d : Nat} {N : Nat} {h : Nat} {σ : gMem} {v2 : Int} {t0 : Int} (hdp : 1 ≤ d) (hM : TM σ h) (hv2 : g32 v2) (ht0 : g64 t0) : GG (fun x : Int => (.inl (some (vI x)), σ)) gTw ω l d mu_tw_order σ 29 [(0, vR h), (2, vI v2)] [vL t0] σ (tw_order_j29 N h σ v2 t0 ) := by
  unfold tw_order_j29
  refine x_lstore_n (μ := mu_tw_order) (pc := 29) (lv' := [(3, vL t0), (0, vR h), (2, vI v2)]) dX11_order_29 rfl (by decide) rfl ?_
  refine x_aload_n (μ := mu_tw_order) (pc := 30) 1 dX11_order_30 rfl ?_
  refine x_fgrE (μ := mu_tw_order) (pc := 31) fX11_66 (Or.inr ⟨_, rfl⟩) q2702 (hM.a66).1 dX11_order_31 hM.1 ?_
  refine x_iload_n (μ := mu_tw_order) (pc := 34) 2 dX11_order_34 rfl ?_
  refine x_iald (μ := mu_tw_order) (pc := 35) dX11_order_35 (hM.a66).2.1 (hM.a66).2.2 (fun hr14 => ?_)
  refine x_if_ne (μ := mu_tw_order) (pc := 36) (tgt := 43) dX11_order_36 rfl hr14 ?_ ?_
  · refine x_aload_n (μ := mu_tw_order) (pc := 43) 1 dX11_order_43 rfl ?_
    refine x_fgrE (μ := mu_tw_order) (pc := 44) fX11_67 (Or.inr ⟨_, rfl⟩) q2703 (hM.a67).1 dX11_order_44 hM.1 ?_
    refine x_iload_n (μ := mu_tw_order) (pc := 47) 2 dX11_order_47 rfl ?_
    refine x_lald (μ := mu_tw_order) (pc := 48) dX11_order_48 (hM.a67).2.1 (hM.a67).2.2 (fun hr15 => ?_)
    refine x_loc (lv' := [(3, vL t0)]) [0] rfl ?_
    exact okj_tw_order_j49 hdp hM ht0 hr15
  · refine x_lconst (μ := mu_tw_order) (pc := 39) dX11_order_39 ?_
    refine x_goto (μ := mu_tw_order) (pc := 40) (tgt := 49) dX11_order_40 rfl ?_
    refine x_loc (lv' := [(3, vL t0)]) [0] rfl ?_
    exact okj_tw_order_j49 hdp hM ht0 (by decide)
def tw_order (N : Nat) (h : Nat) (v1 : Int) (v2 : Int) (σ : gMem) : Option Int := if 0 ≤ v1 ∧ v1 < ((200 : Nat) : Int) then if mI σ (h + 33) v1.toNat = 2 then if 0 ≤ v1 ∧ v1 < ((200 : Nat) : Int) then if 0 ≤ v2 ∧ v2 < ((200 : Nat) : Int) then (tw_least (mI σ (h + 35) v1.toNat) (mI σ (h + 35) v2.toNat) σ).bind (fun x4 => tw_order_l94 N h σ v1 v2 x4 (if 0 ≤ v1 ∧ v1 < ((200 : Nat) : Int) then if 0 ≤ v2 ∧ v2 < ((200 : Nat) : Int) then if mI σ (h + 35) v2.toNat ≤ mI σ (h + 35) v1.toNat then if 0 ≤ v1 ∧ v1 < ((200 : Nat) : Int) then if 0 ≤ v2 ∧ v2 < ((200 : Nat) : Int) then if mI σ (h + 35) v1.toNat ≤ mI σ (h + 35) v2.toNat then some 0 else some 1 else none else none else some (-1) else none else none) N 0) else none else none else if 0 ≤ v1 ∧ v1 < ((200 : Nat) : Int) then if mI σ (h + 33) v1.toNat ≠ 0 then if 0 ≤ v1 ∧ v1 < ((200 : Nat) : Int) then tw_order_j29 N h σ v2 (mL σ (h + 34) v1.toNat) else none else tw_order_j29 N h σ v2 (((0 : Fin 2) : Nat) : Int) else none else none
set_option maxRecDepth 100000 in
theorem ok_tw_order {ω : gW} {l : Launch} {d : Nat} {N : Nat} {h : Nat} {σ : gMem} {v1 : Int} {v2 : Int} (hdp : 1 ≤ d) (hM : TM σ h) (hv1 : g32 v1) (hv2 : g32 v2) : gK (fun x : Int => (.inl (some (vI x)), σ)) gTw ω l d mu_tw_order [vR h, vI v1, vI v2] σ (tw_order N h v1 v2 σ) := by
  refine gK.of hp_X11 (Nat.le_of_ble_eq_true rfl) ?_
  unfold tw_order
  refine x_aload_n (μ := mu_tw_order) (pc := 0) 0 dX11_order_0 rfl ?_
  refine x_fgrE (μ := mu_tw_order) (pc := 1) fX11_66 (Or.inr ⟨_, rfl⟩) q2702 (hM.a66).1 dX11_order_1 hM.1 ?_
  refine x_iload_n (μ := mu_tw_order) (pc := 4) 1 dX11_order_4 rfl ?_
  refine x_iald (μ := mu_tw_order) (pc := 5) dX11_order_5 (hM.a66).2.1 (hM.a66).2.2 (fun hr1 => ?_)
  refine x_iconst (μ := mu_tw_order) (pc := 6) dX11_order_6 ?_
  refine x_icmp_eq (μ := mu_tw_order) (pc := 7) (tgt := 75) dX11_order_7 rfl hr1 (by decide) ?_ ?_
  · refine x_aload_n (μ := mu_tw_order) (pc := 75) 0 dX11_order_75 rfl ?_
    refine x_fgrE (μ := mu_tw_order) (pc := 76) fX11_68 (Or.inr ⟨_, rfl⟩) q2704 (hM.a68).1 dX11_order_76 hM.1 ?_
    refine x_iload_n (μ := mu_tw_order) (pc := 79) 1 dX11_order_79 rfl ?_
    refine x_iald (μ := mu_tw_order) (pc := 80) dX11_order_80 (hM.a68).2.1 (hM.a68).2.2 (fun hr2 => ?_)
    refine x_aload_n (μ := mu_tw_order) (pc := 81) 0 dX11_order_81 rfl ?_
    refine x_fgrE (μ := mu_tw_order) (pc := 82) fX11_68 (Or.inr ⟨_, rfl⟩) q2704 (hM.a68).1 dX11_order_82 hM.1 ?_
    refine x_iload_n (μ := mu_tw_order) (pc := 85) 2 dX11_order_85 rfl ?_
    refine x_iald (μ := mu_tw_order) (pc := 86) dX11_order_86 (hM.a68).2.1 (hM.a68).2.2 (fun hr3 => ?_)
    refine x_callS_pi (μ := mu_tw_order) (pc := 87) (ok_tw_least (ω := ω) (l := l) (d := d - 1) (by omega) hr2 hr3) gRel_Tw gRel_Tw (fun _ q => q) q3257 q3258 q232 q3259 dX11_order_87 hy_tw_least (by omega) (Nat.le_of_ble_eq_true rfl) rfl (Nat.le_of_ble_eq_true rfl) (fun x4 hr5 => ?_)
    refine x_istore_n (μ := mu_tw_order) (pc := 90) (lv' := [(3, vI x4), (0, vR h), (1, vI v1), (2, vI v2)]) dX11_order_90 rfl (by decide) rfl ?_
    refine x_iconst (μ := mu_tw_order) (pc := 91) dX11_order_91 ?_
    refine x_istore (μ := mu_tw_order) (pc := 92) (lv' := [(4, vI 0), (3, vI x4), (0, vR h), (1, vI v1), (2, vI v2)]) dX11_order_92 (by decide) rfl ?_
    refine x_loc (lv' := [(0, vR h), (1, vI v1), (2, vI v2), (3, vI x4), (4, vI 0)]) [2, 3, 4, 1, 0] rfl ?_
    refine okl_tw_order_l94 hdp hM hv1 hv2 hr5 ?_ N 0 (by decide)
    refine x_aload_n (μ := mu_tw_order) (pc := 154) 0 dX11_order_154 rfl ?_
    refine x_fgrE (μ := mu_tw_order) (pc := 155) fX11_68 (Or.inr ⟨_, rfl⟩) q2704 (hM.a68).1 dX11_order_155 hM.1 ?_
    refine x_iload_n (μ := mu_tw_order) (pc := 158) 1 dX11_order_158 rfl ?_
    refine x_iald (μ := mu_tw_order) (pc := 159) dX11_order_159 (hM.a68).2.1 (hM.a68).2.2 (fun hr8 => ?_)
    refine x_aload_n (μ := mu_tw_order) (pc := 160) 0 dX11_order_160 rfl ?_
    refine x_fgrE (μ := mu_tw_order) (pc := 161) fX11_68 (Or.inr ⟨_, rfl⟩) q2704 (hM.a68).1 dX11_order_161 hM.1 ?_
    refine x_iload_n (μ := mu_tw_order) (pc := 164) 2 dX11_order_164 rfl ?_
    refine x_iald (μ := mu_tw_order) (pc := 165) dX11_order_165 (hM.a68).2.1 (hM.a68).2.2 (fun hr9 => ?_)
    refine x_icmp_ge (μ := mu_tw_order) (pc := 166) (tgt := 173) dX11_order_166 rfl hr8 hr9 ?_ ?_
    · refine x_aload_n (μ := mu_tw_order) (pc := 173) 0 dX11_order_173 rfl ?_
      refine x_fgrE (μ := mu_tw_order) (pc := 174) fX11_68 (Or.inr ⟨_, rfl⟩) q2704 (hM.a68).1 dX11_order_174 hM.1 ?_
      refine x_iload_n (μ := mu_tw_order) (pc := 177) 1 dX11_order_177 rfl ?_
      refine x_iald (μ := mu_tw_order) (pc := 178) dX11_order_178 (hM.a68).2.1 (hM.a68).2.2 (fun hr10 => ?_)
      refine x_aload_n (μ := mu_tw_order) (pc := 179) 0 dX11_order_179 rfl ?_
      refine x_fgrE (μ := mu_tw_order) (pc := 180) fX11_68 (Or.inr ⟨_, rfl⟩) q2704 (hM.a68).1 dX11_order_180 hM.1 ?_
      refine x_iload_n (μ := mu_tw_order) (pc := 183) 2 dX11_order_183 rfl ?_
      refine x_iald (μ := mu_tw_order) (pc := 184) dX11_order_184 (hM.a68).2.1 (hM.a68).2.2 (fun hr11 => ?_)
      refine x_icmp_le (μ := mu_tw_order) (pc := 185) (tgt := 192) dX11_order_185 rfl hr10 hr11 ?_ ?_
      · refine x_iconst (μ := mu_tw_order) (pc := 192) dX11_order_192 ?_
        exact x_iret (μ := mu_tw_order) (pc := 193) dX11_order_193 rfl rfl (gRel_Tw.1 _) (show g32 0 from (by decide))
      · refine x_iconst (μ := mu_tw_order) (pc := 188) dX11_order_188 ?_
        refine x_goto (μ := mu_tw_order) (pc := 189) (tgt := 193) dX11_order_189 rfl ?_
        exact x_iret (μ := mu_tw_order) (pc := 193) dX11_order_193 rfl rfl (gRel_Tw.1 _) (show g32 1 from (by decide))
    · refine x_iconst (μ := mu_tw_order) (pc := 169) dX11_order_169 ?_
      refine x_goto (μ := mu_tw_order) (pc := 170) (tgt := 193) dX11_order_170 rfl ?_
      exact x_iret (μ := mu_tw_order) (pc := 193) dX11_order_193 rfl rfl (gRel_Tw.1 _) (show g32 (-1) from (by decide))
  · refine x_aload_n (μ := mu_tw_order) (pc := 10) 0 dX11_order_10 rfl ?_
    refine x_fgrE (μ := mu_tw_order) (pc := 11) fX11_66 (Or.inr ⟨_, rfl⟩) q2702 (hM.a66).1 dX11_order_11 hM.1 ?_
    refine x_iload_n (μ := mu_tw_order) (pc := 14) 1 dX11_order_14 rfl ?_
    refine x_iald (μ := mu_tw_order) (pc := 15) dX11_order_15 (hM.a66).2.1 (hM.a66).2.2 (fun hr12 => ?_)
    refine x_if_ne (μ := mu_tw_order) (pc := 16) (tgt := 23) dX11_order_16 rfl hr12 ?_ ?_
    · refine x_aload_n (μ := mu_tw_order) (pc := 23) 0 dX11_order_23 rfl ?_
      refine x_fgrE (μ := mu_tw_order) (pc := 24) fX11_67 (Or.inr ⟨_, rfl⟩) q2703 (hM.a67).1 dX11_order_24 hM.1 ?_
      refine x_iload_n (μ := mu_tw_order) (pc := 27) 1 dX11_order_27 rfl ?_
      refine x_lald (μ := mu_tw_order) (pc := 28) dX11_order_28 (hM.a67).2.1 (hM.a67).2.2 (fun hr13 => ?_)
      refine x_loc (lv' := [(0, vR h), (2, vI v2)]) [0, 2] rfl ?_
      exact okj_tw_order_j29 hdp hM hv2 hr13
    · refine x_lconst (μ := mu_tw_order) (pc := 19) dX11_order_19 ?_
      refine x_goto (μ := mu_tw_order) (pc := 20) (tgt := 29) dX11_order_20 rfl ?_
      refine x_loc (lv' := [(0, vR h), (2, vI v2)]) [0, 2] rfl ?_
      exact okj_tw_order_j29 hdp hM hv2 (by decide)
def tw_holds (v0 : Int) (v1 : Int) (σ : gMem) : Option Int := if v1 = 0 then if v0 ≠ 0 then some 0 else some 1 else if v1 = 1 then if v0 = 0 then some 0 else some 1 else if v1 = 2 then if 0 ≤ v0 then some 0 else some 1 else if v1 = 3 then if 0 < v0 then some 0 else some 1 else if v1 = 4 then if v0 ≤ 0 then some 0 else some 1 else if v0 < 0 then some 0 else some 1
set_option maxRecDepth 100000 in
theorem ok_tw_holds {ω : gW} {l : Launch} {d : Nat} {σ : gMem} {v0 : Int} {v1 : Int} (hdp : 0 ≤ d) (hv0 : g32 v0) (hv1 : g32 v1) : gK (fun x : Int => (.inl (some (vI x)), σ)) gTw ω l d mu_tw_holds [vI v0, vI v1] σ (tw_holds v0 v1 σ) := by
  refine gK.of hp_X11 (Nat.le_of_ble_eq_true rfl) ?_
  unfold tw_holds
  refine x_iload_n (μ := mu_tw_holds) (pc := 0) 1 dX11_holds_0 rfl ?_
  refine x_tab (μ := mu_tw_holds) (pc := 1) (tgt := 36) 0 dX11_holds_1 (by decide) (by decide) (by decide) rfl rfl ?_ (fun hn1 => ?_)
  · refine x_iload_n (μ := mu_tw_holds) (pc := 36) 0 dX11_holds_36 rfl ?_
    refine x_if_ne (μ := mu_tw_holds) (pc := 37) (tgt := 44) dX11_holds_37 rfl hv0 ?_ ?_
    · refine x_iconst (μ := mu_tw_holds) (pc := 44) dX11_holds_44 ?_
      exact x_zret (μ := mu_tw_holds) (pc := 45) dX11_holds_45 rfl (by decide) rfl (gRel_Tw.1 _) (show g32 0 from (by decide))
    · refine x_iconst (μ := mu_tw_holds) (pc := 40) dX11_holds_40 ?_
      refine x_goto (μ := mu_tw_holds) (pc := 41) (tgt := 45) dX11_holds_41 rfl ?_
      exact x_zret (μ := mu_tw_holds) (pc := 45) dX11_holds_45 rfl (by decide) rfl (gRel_Tw.1 _) (show g32 1 from (by decide))
  refine x_tab (μ := mu_tw_holds) (pc := 1) (tgt := 46) 1 dX11_holds_1 (by decide) (by decide) (by decide) rfl rfl ?_ (fun hn2 => ?_)
  · refine x_iload_n (μ := mu_tw_holds) (pc := 46) 0 dX11_holds_46 rfl ?_
    refine x_if_eq (μ := mu_tw_holds) (pc := 47) (tgt := 54) dX11_holds_47 rfl hv0 ?_ ?_
    · refine x_iconst (μ := mu_tw_holds) (pc := 54) dX11_holds_54 ?_
      exact x_zret (μ := mu_tw_holds) (pc := 55) dX11_holds_55 rfl (by decide) rfl (gRel_Tw.1 _) (show g32 0 from (by decide))
    · refine x_iconst (μ := mu_tw_holds) (pc := 50) dX11_holds_50 ?_
      refine x_goto (μ := mu_tw_holds) (pc := 51) (tgt := 55) dX11_holds_51 rfl ?_
      exact x_zret (μ := mu_tw_holds) (pc := 55) dX11_holds_55 rfl (by decide) rfl (gRel_Tw.1 _) (show g32 1 from (by decide))
  refine x_tab (μ := mu_tw_holds) (pc := 1) (tgt := 56) 2 dX11_holds_1 (by decide) (by decide) (by decide) rfl rfl ?_ (fun hn3 => ?_)
  · refine x_iload_n (μ := mu_tw_holds) (pc := 56) 0 dX11_holds_56 rfl ?_
    refine x_if_ge (μ := mu_tw_holds) (pc := 57) (tgt := 64) dX11_holds_57 rfl hv0 ?_ ?_
    · refine x_iconst (μ := mu_tw_holds) (pc := 64) dX11_holds_64 ?_
      exact x_zret (μ := mu_tw_holds) (pc := 65) dX11_holds_65 rfl (by decide) rfl (gRel_Tw.1 _) (show g32 0 from (by decide))
    · refine x_iconst (μ := mu_tw_holds) (pc := 60) dX11_holds_60 ?_
      refine x_goto (μ := mu_tw_holds) (pc := 61) (tgt := 65) dX11_holds_61 rfl ?_
      exact x_zret (μ := mu_tw_holds) (pc := 65) dX11_holds_65 rfl (by decide) rfl (gRel_Tw.1 _) (show g32 1 from (by decide))
  refine x_tab (μ := mu_tw_holds) (pc := 1) (tgt := 66) 3 dX11_holds_1 (by decide) (by decide) (by decide) rfl rfl ?_ (fun hn4 => ?_)
  · refine x_iload_n (μ := mu_tw_holds) (pc := 66) 0 dX11_holds_66 rfl ?_
    refine x_if_gt (μ := mu_tw_holds) (pc := 67) (tgt := 74) dX11_holds_67 rfl hv0 ?_ ?_
    · refine x_iconst (μ := mu_tw_holds) (pc := 74) dX11_holds_74 ?_
      exact x_zret (μ := mu_tw_holds) (pc := 75) dX11_holds_75 rfl (by decide) rfl (gRel_Tw.1 _) (show g32 0 from (by decide))
    · refine x_iconst (μ := mu_tw_holds) (pc := 70) dX11_holds_70 ?_
      refine x_goto (μ := mu_tw_holds) (pc := 71) (tgt := 75) dX11_holds_71 rfl ?_
      exact x_zret (μ := mu_tw_holds) (pc := 75) dX11_holds_75 rfl (by decide) rfl (gRel_Tw.1 _) (show g32 1 from (by decide))
  refine x_tab (μ := mu_tw_holds) (pc := 1) (tgt := 76) 4 dX11_holds_1 (by decide) (by decide) (by decide) rfl rfl ?_ (fun hn5 => ?_)
  · refine x_iload_n (μ := mu_tw_holds) (pc := 76) 0 dX11_holds_76 rfl ?_
    refine x_if_le (μ := mu_tw_holds) (pc := 77) (tgt := 84) dX11_holds_77 rfl hv0 ?_ ?_
    · refine x_iconst (μ := mu_tw_holds) (pc := 84) dX11_holds_84 ?_
      exact x_zret (μ := mu_tw_holds) (pc := 85) dX11_holds_85 rfl (by decide) rfl (gRel_Tw.1 _) (show g32 0 from (by decide))
    · refine x_iconst (μ := mu_tw_holds) (pc := 80) dX11_holds_80 ?_
      refine x_goto (μ := mu_tw_holds) (pc := 81) (tgt := 85) dX11_holds_81 rfl ?_
      exact x_zret (μ := mu_tw_holds) (pc := 85) dX11_holds_85 rfl (by decide) rfl (gRel_Tw.1 _) (show g32 1 from (by decide))
  refine x_tabOut (μ := mu_tw_holds) (pc := 1) (tgt := 86) dX11_holds_1 hv1 (by omega) rfl ?_
  refine x_iload_n (μ := mu_tw_holds) (pc := 86) 0 dX11_holds_86 rfl ?_
  refine x_if_lt (μ := mu_tw_holds) (pc := 87) (tgt := 94) dX11_holds_87 rfl hv0 ?_ ?_
  · refine x_iconst (μ := mu_tw_holds) (pc := 94) dX11_holds_94 ?_
    exact x_zret (μ := mu_tw_holds) (pc := 95) dX11_holds_95 rfl (by decide) rfl (gRel_Tw.1 _) (show g32 0 from (by decide))
  · refine x_iconst (μ := mu_tw_holds) (pc := 90) dX11_holds_90 ?_
    refine x_goto (μ := mu_tw_holds) (pc := 91) (tgt := 95) dX11_holds_91 rfl ?_
    exact x_zret (μ := mu_tw_holds) (pc := 95) dX11_holds_95 rfl (by decide) rfl (gRel_Tw.1 _) (show g32 1 from (by decide))
