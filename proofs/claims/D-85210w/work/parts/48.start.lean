/-! ===== the start: addresses of constants ===== -/
section GStart2
variable {args : Array Value} {s : State}
def evR (args : Array Value) (s : State) (t : Term) : Nat := match t.eval args s none [] s with
  | some (.ref a) => a
  | _ => 0
theorem evR_eq {t : Term} {a : Nat} (h : t.eval args s none [] s = some (.ref a)) : evR args s t = a := by unfold evR; rw [h]
def tVs : Term := .static "SheetBranches$Name" "$VALUES" "[LSheetBranches$Name;"
def st0 (args : Array Value) (s : State) (b L : Nat) : Nat → Nat := fun j =>
  if j < 20 then evR args s (tN j) else if j < 40 then evR args s (tG (j - 20)) else if j = 40 then evR args s tVs else if j = 50 then b else if j = 51 then L else if j < 100 then 0 else if j < 200 then evR args s (tS (j - 100)) else evR args s (.field (tS (j - 200)) "java/lang/String" "value" "[B")
theorem st0_N {b L k : Nat} (h : k < 20) : st0 args s b L k = evR args s (tN k) := by unfold st0; rw [if_pos h]
theorem st0_G {b L k : Nat} (h : k < 20) : st0 args s b L (20 + k) = evR args s (tG k) := by unfold st0; rw [if_neg (by omega), if_pos (by omega), Nat.add_sub_cancel_left]
theorem st0_V {b L : Nat} : st0 args s b L 40 = evR args s tVs := by unfold st0; rw [if_neg (by omega), if_neg (by omega), if_pos rfl]
theorem st0_b {b L : Nat} : st0 args s b L 50 = b := by unfold st0; rw [if_neg (by omega), if_neg (by omega), if_neg (by omega), if_pos rfl]
theorem st0_L {b L : Nat} : st0 args s b L 51 = L := by unfold st0; rw [if_neg (by omega), if_neg (by omega), if_neg (by omega), if_neg (by omega), if_pos rfl]
theorem st0_S {b L i : Nat} (h : i < 34) : st0 args s b L (100 + i) = evR args s (tS i) := by unfold st0; rw [if_neg (by omega), if_neg (by omega), if_neg (by omega), if_neg (by omega), if_neg (by omega), if_neg (by omega), if_pos (by omega), Nat.add_sub_cancel_left]
theorem st0_W {b L i : Nat} (h : i < 34) : st0 args s b L (200 + i) = evR args s (.field (tS i) "java/lang/String" "value" "[B") := by unfold st0; rw [if_neg (by omega), if_neg (by omega), if_neg (by omega), if_neg (by omega), if_neg (by omega), if_neg (by omega), if_neg (by omega), Nat.add_sub_cancel_left]
theorem st_s {b L : Nat} (h : nar.before args s = true) {A : Nat → Prop} (hA : ∀ a : Nat, a < s.heap.size → ¬ A a) (i : Nat) (hi : i < 34) : (tS i).eval args s none [] s = some (.ref (st0 args s b L (100 + i))) ∧ va_O "java/lang/String" (st0 args s b L (100 + i)) A s s.heap ∧ va_OF "java/lang/String" "coder" "B" (.int 0) (st0 args s b L (100 + i)) A s s.heap ∧ va_OF "java/lang/String" "value" "[B" (.ref (st0 args s b L (200 + i))) (st0 args s b L (100 + i)) A s s.heap ∧ va_T .byte (st0 args s b L (200 + i)) (gtx.getD i []).length (fun j => .int (Int32.ofInt ((gtx.getD i []).getD j 0))) A s s.heap := by
  obtain ⟨a, v, h1, h2, h3, h4, h5, h6⟩ := st_str h hA i hi
  rw [st0_S hi, st0_W hi, evR_eq h1, evR_eq h2]
  exact ⟨h1, h3, h4, h5, h6⟩
theorem st_ref {b L : Nat} (h : nar.before args s = true) : ∀ q ∈ gstab, (Term.string q.1 q.2.1).eval args s none [] s = some (.ref (st0 args s b L q.2.2.2)) := by
  intro q hq
  obtain ⟨i, hi⟩ := List.mem_iff_getElem?.mp hq
  have hl : i < 74 := (List.getElem?_eq_some_iff.mp hi).1
  have c := List.all_eq_true.mp chk_st i (List.mem_range.mpr hl)
  rw [hi] at c
  simp only [Bool.and_eq_true, Bool.or_eq_true, decide_eq_true_eq] at c
  obtain ⟨⟨c1, c2⟩, c3⟩ := c
  have e := (st_s (b := b) (L := L) h (A := fun _ => False) (fun _ _ f => f) (q.2.2.2 - 100) (by omega)).1
  rw [Nat.add_sub_cancel' c1] at e
  rcases c3 with c3 | c3
  · rw [c3]; exact e
  · exact va_eqv (cAt_at h _ c3) e
theorem st_n {b L : Nat} (h : nar.before args s = true) {A : Nat → Prop} (hA : ∀ a : Nat, a < s.heap.size → ¬ A a) (k : Nat) (hk : k < 18) : (tN k).eval args s none [] s = some (.ref (st0 args s b L k)) ∧ va_O "SheetBranches$Name" (st0 args s b L k) A s s.heap ∧ (∀ q ∈ gnf, va_OF q.1 q.2.1 q.2.2.1 (.int (Int32.ofInt ((gnm.getD k []).getD q.2.2.2 0))) (st0 args s b L k) A s s.heap) ∧ va_OF "SheetBranches$Name" "text" "Ljava/lang/String;" (.ref (st0 args s b L (100 + ((gnm.getD k []).getD 1 0).toNat))) (st0 args s b L k) A s s.heap := by
  have c := List.all_eq_true.mp chk_N k (List.mem_range.mpr hk)
  simp only [Bool.and_eq_true, decide_eq_true_eq] at c
  obtain ⟨c1, c2, c3⟩ := c
  have e1 := cAt_at h _ c1
  obtain ⟨a, cc, cA, kA, q1, -⟩ := Cond.exactly_spec (args := args) (first := s) (o := none) (s := s) (idx := []) (t := tN k) (cls := "SheetBranches$Name") e1
  rw [st0_N (by omega), evR_eq q1]
  refine ⟨q1, va_Oof e1 q1 hA, fun q hq => ?_, ?_⟩
  · obtain ⟨j, hj⟩ := List.mem_iff_getElem?.mp hq
    have c := List.all_eq_true.mp c2 j (List.mem_range.mpr (List.getElem?_eq_some_iff.mp hj).1)
    rw [hj] at c
    exact vk_OFof q1 (va_eqt (cAt_at h _ (of_decide_eq_true c))) hA
  · cases hg : gstab[(pNt.getD k ([], 0)).2]? with
    | none => rw [hg] at c3; cases c3
    | some q =>
      rw [hg] at c3
      simp only [Bool.and_eq_true, decide_eq_true_eq] at c3
      have e := st_ref (b := b) (L := L) h q (List.mem_of_getElem? hg)
      rw [c3.1] at e
      exact vk_OFof q1 (va_eqv (cAt_at h _ c3.2) e) hA
theorem st_g {b L : Nat} (h : nar.before args s = true) {A : Nat → Prop} (hA : ∀ a : Nat, a < s.heap.size → ¬ A a) (k : Nat) (hk : k < 12) : (tG k).eval args s none [] s = some (.ref (st0 args s b L (20 + k))) ∧ va_O "SheetBranches$Sign" (st0 args s b L (20 + k)) A s s.heap ∧ (∀ q ∈ gsf, va_OF q.1 q.2.1 q.2.2.1 (.int (Int32.ofInt ((gsg.getD k []).getD q.2.2.2 0))) (st0 args s b L (20 + k)) A s s.heap) ∧ va_OF "SheetBranches$Sign" "text" "Ljava/lang/String;" (.ref (st0 args s b L (100 + ((gsg.getD k []).getD 1 0).toNat))) (st0 args s b L (20 + k)) A s s.heap := by
  have c := List.all_eq_true.mp chk_G k (List.mem_range.mpr hk)
  simp only [Bool.and_eq_true, decide_eq_true_eq] at c
  obtain ⟨c1, c2, c3⟩ := c
  have e1 := cAt_at h _ c1
  obtain ⟨a, cc, cA, kA, q1, -⟩ := Cond.exactly_spec (args := args) (first := s) (o := none) (s := s) (idx := []) (t := tG k) (cls := "SheetBranches$Sign") e1
  rw [st0_G (by omega), evR_eq q1]
  refine ⟨q1, va_Oof e1 q1 hA, fun q hq => ?_, ?_⟩
  · obtain ⟨j, hj⟩ := List.mem_iff_getElem?.mp hq
    have c := List.all_eq_true.mp c2 j (List.mem_range.mpr (List.getElem?_eq_some_iff.mp hj).1)
    rw [hj] at c
    exact vk_OFof q1 (va_eqt (cAt_at h _ (of_decide_eq_true c))) hA
  · cases hg : gstab[(pGt.getD k ([], 0)).2]? with
    | none => rw [hg] at c3; cases c3
    | some q =>
      rw [hg] at c3
      simp only [Bool.and_eq_true, decide_eq_true_eq] at c3
      have e := st_ref (b := b) (L := L) h q (List.mem_of_getElem? hg)
      rw [c3.1] at e
      exact vk_OFof q1 (va_eqv (cAt_at h _ c3.2) e) hA
end GStart2
