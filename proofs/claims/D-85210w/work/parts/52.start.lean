/-! ===== the start: what the law's function begins with; the claim out of its answer ===== -/
section GStart6
/-- the memory at the law's begin: constants, the script at v of L ints; nothing else -/
def Start (σ : gMem) (v L : Nat) : Prop :=
  (∀ i, i < 34 → mT σ (mR σ 0 (100 + i)) = 90 ∧ mN σ (mR σ 0 (100 + i)) = (gtx.getD i []).length ∧ ∀ j, mI σ (mR σ 0 (100 + i)) j = (gtx.getD i []).getD j 0) ∧
  (∀ k, k < 18 → mT σ (mR σ 0 k) = 91 ∧ (∀ j, mI σ (mR σ 0 k) j = (gnm.getD k []).getD j 0) ∧ mR σ (mR σ 0 k) 1 = mR σ 0 (100 + ((gnm.getD k []).getD 1 0).toNat)) ∧
  (∀ k, k < 12 → mT σ (mR σ 0 (20 + k)) = 92 ∧ (∀ j, mI σ (mR σ 0 (20 + k)) j = (gsg.getD k []).getD j 0) ∧ mR σ (mR σ 0 (20 + k)) 1 = mR σ 0 (100 + ((gsg.getD k []).getD 1 0).toNat)) ∧
  (mT σ (mR σ 0 40) = 93 ∧ mN σ (mR σ 0 40) = 18 ∧ ∀ j, mR σ (mR σ 0 40) j = mR σ 0 j) ∧
  (mT σ v = 94 ∧ mN σ v = L ∧ L ≤ 448) ∧
  (∀ a, mT σ a ≠ 0 → 90 ≤ mT σ a ∧ mT σ a ≤ 94 ∧ 0 < a ∧ a < mZ σ) ∧ 0 < mZ σ
/-- PHASE 2's theorem: the law's function answers 1, in its room -/
def Answers : Prop := ∀ (σ : gMem) (v L : Nat), Start σ v L → ∃ (N : Nat) (σ1 : gMem), l_law N v σ = some (1, σ1) ∧ mZ σ1 - mZ σ ≤ 785023 ∧ mS σ1 - mS σ ≤ 6732844
variable {args : Array Value} {s : State}
theorem mem0_R (st : Nat → Nat) (sc : Nat → Int) (z a j : Nat) : mR (mem0 st sc z) a j = r0 st a j := rfl
theorem mem0_N (st : Nat → Nat) (sc : Nat → Int) (z a : Nat) : mN (mem0 st sc z) a = n0 st a := rfl
theorem st_lt {A : Nat → Prop} {E : String} {t : Nat} (h : va_O E t A s s.heap) : t < s.heap.size := by
  obtain ⟨c, h1, -⟩ := h
  exact (Array.getElem?_eq_some_iff.mp h1).1
theorem st_start {b L : Nat} {xs : Nat → Int32} {cA : ClassId} (h : nar.before args s = true) (hX : va_X b L xs s s.heap) (hL : L ≤ 448) (h9 : s.vm.findClass "[LSheetBranches$Name;" = some cA) : Start (mem0 (st0 args s b L) (fun j => (xs j).toInt) (s.heap.size + 1)) (b + 1) L := by
  have hA : ∀ a : Nat, a < s.heap.size → ¬ (fun _ : Nat => False) a := fun _ _ f => f
  have hsc : ∀ j, g32 ((fun j => (xs j).toInt) j) := fun j => ⟨Int32.le_toInt _, Int.le_of_lt_add_one (Int32.toInt_lt _)⟩
  obtain ⟨dS, dN, dG, dV, dB⟩ := st_dis (b := b) (L := L) h hX h9
  have lS := fun i hi => st_lt (st_s (b := b) (L := L) h hA i hi).2.1
  have lN := fun k hk => st_lt (st_n (b := b) (L := L) h hA k hk).2.1
  have lG := fun k hk => st_lt (st_g (b := b) (L := L) h hA k hk).2.1
  have lV := (st_v (b := b) (L := L) h h9).2.2
  have hb : st0 args s b L 50 = b := st0_b
  have hL' : st0 args s b L 51 = L := st0_L
  have lB : b < s.heap.size := by
    obtain ⟨c, h1, -⟩ := hX
    exact (Array.getElem?_eq_some_iff.mp h1).1
  generalize st0 args s b L = st at *
  have R0 : ∀ j, mR (mem0 st (fun j => (xs j).toInt) (s.heap.size + 1)) 0 j = st j + 1 := fun j => by rw [mem0_R]; unfold r0; rw [if_pos rfl]
  refine ⟨fun i hi => ?_, fun k hk => ?_, fun k hk => ?_, ?_, ⟨?_, ?_, hL⟩, fun a ha => ?_, Nat.succ_pos _⟩
  · rw [R0]
    refine ⟨congrArg Prod.fst (dS i hi), ?_, fun j => ?_⟩
    · rw [mem0_N]; unfold n0; rw [dS i hi]; rfl
    · rw [mem0_I hsc]; unfold i0; rw [dS i hi]; rfl
  · rw [R0]
    refine ⟨congrArg Prod.fst (dN k hk), fun j => ?_, ?_⟩
    · rw [mem0_I hsc]; unfold i0; rw [dN k hk]; rfl
    · rw [R0, mem0_R]; unfold r0; rw [dN k hk]; rfl
  · rw [R0]
    refine ⟨congrArg Prod.fst (dG k hk), fun j => ?_, ?_⟩
    · rw [mem0_I hsc]; unfold i0; rw [dG k hk]; rfl
    · rw [R0, mem0_R]; unfold r0; rw [dG k hk]; rfl
  · rw [R0]
    refine ⟨congrArg Prod.fst dV, ?_, fun j => ?_⟩
    · rw [mem0_N]; unfold n0; rw [dV]; rfl
    · rw [R0, mem0_R]; unfold r0; rw [dV]; rfl
  · exact congrArg Prod.fst dB
  · rw [mem0_N]; unfold n0; rw [dB]; exact hL'
  · show 90 ≤ (kd st a).1 ∧ (kd st a).1 ≤ 94 ∧ 0 < a ∧ a < s.heap.size + 1
    have ha' : (kd st a).1 ≠ 0 := ha
    rcases kd_spec st a with ⟨h1, h2, h3⟩ | ⟨h1, h2, h3⟩ | ⟨h1, h2, h3⟩ | ⟨h1, h3⟩ | ⟨h1, h3⟩ | h1
    · have := lS _ h2; omega
    · have := lN _ h2; omega
    · have := lG _ h2; omega
    · omega
    · omega
    · exact absurd h1 ha'
theorem whole_of (PH : Answers) {p : Program} {e : Env} {s : State} {m : MethodId} {below : List Frame} {meth : Method} {c : Code} (l : Launch) (hl : l.stackTraces = false) {b L : Nat} {xs : Nat → Int32} (hL : L ≤ 448) (C0 : lw_At p s m meth c b L xs) (hn : meth.name = x.name) (ht : c.exceptionTable.toList = []) : W p l e room_1 s m #[Value.ref b] below meth c s.heap [] 0 0 (lw_Z below #[Value.ref b] s) (entryFrame m ([Value.ref b] : List Value).toArray 7) := by
  obtain ⟨h1, h2, h3, h4, h5, hts, hX, hb, h9, hgv⟩ := C0
  obtain ⟨D, cA, hK⟩ := st_KK (b := b) (L := L) (xs := xs) hgv hts hX hL
  obtain ⟨kA, comp, -, -, -, hf⟩ := (hK.1.2 9 _ rfl).2
  obtain ⟨N, σ1, q1, q2, q3⟩ := PH _ _ _ (st_start hgv hX hL hf)
  have hA : ∀ a : Nat, a < s.heap.size → ¬ (fun _ : Nat => False) a := fun _ _ f => f
  have hsc : ∀ j, g32 ((fun j => (xs j).toInt) j) := fun j => ⟨Int32.le_toInt _, Int.le_of_lt_add_one (Int32.toInt_lt _)⟩
  refine law_top hl ⟨h1, h2, h4, h3, h9, h5, fun w hw => hts w (lw_all_tbl hw), hn, ht⟩ hK (st_sim hsc (fun i hi => st_lt (st_s hgv hA i hi).2.1) (fun k hk => st_lt (st_n hgv hA k hk).2.1) (fun k hk => st_lt (st_g hgv hA k hk).2.1) (st_v hgv hf).2.2 (by rw [st0_b]; exact hb) (by rw [st0_L]; exact hL)) rfl hb q1 q2 q3
end GStart6
