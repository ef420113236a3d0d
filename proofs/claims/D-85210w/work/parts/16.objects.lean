/-! ===== stores of references, clones, copies, casts, constants ===== -/
/-- which tags may lie in an array of references -/
def gAsgL : Nat → List Nat
  | 4 => [9]
  | 5 => [8]
  | 6 => [24]
  | 7 => [5]
  | 8 => [11, 12, 13, 15, 16, 17, 18, 19, 20]
  | 10 => [11, 12, 16, 21]
  | 11 => [110]
  | _ => []
def gAsg (j t : Nat) : Bool := (gAsgL j).contains t
def gPart (t : Nat) : Bool := [11, 12, 13, 15, 16, 17, 18, 19, 20].contains t
def gNode (t : Nat) : Bool := [11, 12, 13, 15, 16, 17, 18, 19, 20, 21].contains t
theorem gnc_tab : ∀ t ∈ [11, 12, 13, 15, 16, 17, 18, 19, 20, 21], ∀ u ∈ [11, 12, 13, 15, 16, 17, 18, 19, 20, 21], t ≠ u → ((gcl.getD (t - 1) ("", TX15, 0)).1, (gcl.getD (u - 1) ("", TX15, 0)).1) ∈ gnc := by decide +kernel
section GObj2
variable {ω : gW} {l : Launch} {d kc ks : Nat} {μ : gM} {σ0 σ : gMem} {PR : Option gV → gMem → Prop} {PX : String → gMem → Prop} {pc : Nat} {lv lv' : List (Nat × gV)} {st : List gV}
/-- a cell of a class: its own, and what the tables say -/
theorem gcellC {s : State} {H : Heap} {a ci : Nat} {r : vw_C} (hK : gKK ω s) (hS : gSim ω σ H) (ht : mT σ a = ci + 1) (hc : gcl[ci]? = some r) : a ≠ 0 ∧ ∃ cell : Cell, H[a - 1]? = some cell ∧ cell.vm = .none ∧ ClassAt s r.1 cell.cls := by
  obtain ⟨⟨hO, -⟩, ha0, -⟩ := hS.2.1 a (by rw [ht]; omega)
  obtain ⟨cell, q1, q2, q3, -⟩ := hO ci _ ht hc
  exact ⟨ha0, cell, q1, q3, by rw [q2]; exact (hK.1.1 ci _ hc).2⟩
def gSto (ω : gW) (s : State) (H : Heap) (v j : Nat) : Prop := v ≠ 0 ∧ ∃ (cv : Cell) (kv kA kc : Class) (comp : ClassId) (t : FieldType), H[v - 1]? = some cv ∧ cv.vm = .none ∧ s.vm.classes[cv.cls]? = some kv ∧ s.vm.classes[ω.A j]? = some kA ∧ kA.kind = .array comp t ∧ t.isReference = true ∧ s.vm.classes[comp]? = some kc ∧ s.vm.assignable cv.cls comp = true
theorem gasgO {s : State} {H : Heap} {v j ci : Nat} {C : String} {r : vw_C} (hK : gKK ω s) (hS : gSim ω σ H) (hj : (gtys ω)[j]? = some (ω.A j, .object C)) (ht : mT σ v = ci + 1) (hc : gcl[ci]? = some r) (hcast : r.1 = C ∨ Cond.castable r.1 C ∈ lw_tbl) : gSto ω s H v j := by
  obtain ⟨h0, cell, q1, q2, hat⟩ := gcellC hK hS ht hc
  obtain ⟨kA, comp, r1, r2, r3, -⟩ := (hK.1.2 j _ hj).2
  obtain ⟨kE, hkE, -⟩ := Vm.findClass_spec r3
  obtain ⟨kC, hkC, -⟩ := hat.2
  refine ⟨h0, cell, kC, kA, kE, comp, _, q1, q2, hkC, r1, r2, rfl, hkE, ?_⟩
  rcases hcast with h | h
  · have e : comp = cell.cls := Option.some.inj (r3.symm.trans (h ▸ hat.1))
    rw [e]
    exact va_asg _ _
  · obtain ⟨c0, t0, f1, f2, f3⟩ := Cond.castable_spec (va_Nw.use (A := #[]) rfl (hK.2.1 _ h rfl))
    cases Option.some.inj (f1.symm.trans hat.1)
    cases Option.some.inj (f2.symm.trans r3)
    exact f3
theorem gasgA {s : State} {H : Heap} {v : Nat} (hK : gKK ω s) (hS : gSim ω σ H) (ht : mT σ v = 110) : gSto ω s H v 11 := by
  obtain ⟨q1, q2, q3⟩ := gArr (j := 10) hS ht
  obtain ⟨comp, c, k, h1, -, h3, h4, h5⟩ := va_AM.spec hK.2.2.2.1.2.2.2
  have e1 : c = ω.A 11 := Option.some.inj (h5.symm.trans (hK.1.2 11 _ rfl).2)
  obtain ⟨-, -, -, -, -, hA10⟩ := (hK.1.2 10 _ rfl).2
  have e2 : comp = ω.A 10 := Option.some.inj (h1.symm.trans hA10)
  subst e1; subst e2
  obtain ⟨kE, hkE, -⟩ := Vm.findClass_spec h1
  exact ⟨q2, _, kE, k, kE, ω.A 10, _, q1, rfl, hkE, h3, h4, rfl, hkE, va_asg _ _⟩
theorem gasg {s : State} {H : Heap} {v j : Nat} (hK : gKK ω s) (hS : gSim ω σ H) (h : gAsg j (mT σ v) = true) : gSto ω s H v j := by
  have h1 : mT σ v ∈ gAsgL j := by simpa [gAsg] using h
  match j, h1 with
  | 0, h1 => simp [gAsgL] at h1
  | 1, h1 => simp [gAsgL] at h1
  | 2, h1 => simp [gAsgL] at h1
  | 3, h1 => simp [gAsgL] at h1
  | 4, h1 =>
    simp only [gAsgL, List.mem_cons, List.not_mem_nil, or_false] at h1
    skip
    · exact gasgO (C := "SheetBranches$Version") (ci := 8) hK hS rfl h1 rfl (Or.inl rfl)
  | 5, h1 =>
    simp only [gAsgL, List.mem_cons, List.not_mem_nil, or_false] at h1
    skip
    · exact gasgO (C := "SheetBranches$Sheet") (ci := 7) hK hS rfl h1 rfl (Or.inl rfl)
  | 6, h1 =>
    simp only [gAsgL, List.mem_cons, List.not_mem_nil, or_false] at h1
    skip
    · exact gasgO (C := "SheetBranches$Conflict") (ci := 23) hK hS rfl h1 rfl (Or.inl rfl)
  | 7, h1 =>
    simp only [gAsgL, List.mem_cons, List.not_mem_nil, or_false] at h1
    skip
    · exact gasgO (C := "SheetBranches$Worth") (ci := 4) hK hS rfl h1 rfl (Or.inl rfl)
  | 8, h1 =>
    simp only [gAsgL, List.mem_cons, List.not_mem_nil, or_false] at h1
    rcases h1 with h1 | h1 | h1 | h1 | h1 | h1 | h1 | h1 | h1
    · exact gasgO (C := "SheetBranches$Part") (ci := 10) hK hS rfl h1 rfl (Or.inr q924)
    · exact gasgO (C := "SheetBranches$Part") (ci := 11) hK hS rfl h1 rfl (Or.inr q930)
    · exact gasgO (C := "SheetBranches$Part") (ci := 12) hK hS rfl h1 rfl (Or.inr q886)
    · exact gasgO (C := "SheetBranches$Part") (ci := 14) hK hS rfl h1 rfl (Or.inr q900)
    · exact gasgO (C := "SheetBranches$Part") (ci := 15) hK hS rfl h1 rfl (Or.inr q910)
    · exact gasgO (C := "SheetBranches$Part") (ci := 16) hK hS rfl h1 rfl (Or.inr q845)
    · exact gasgO (C := "SheetBranches$Part") (ci := 17) hK hS rfl h1 rfl (Or.inr q869)
    · exact gasgO (C := "SheetBranches$Part") (ci := 18) hK hS rfl h1 rfl (Or.inr q892)
    · exact gasgO (C := "SheetBranches$Part") (ci := 19) hK hS rfl h1 rfl (Or.inr q916)
  | 9, h1 => simp [gAsgL] at h1
  | 10, h1 =>
    simp only [gAsgL, List.mem_cons, List.not_mem_nil, or_false] at h1
    rcases h1 with h1 | h1 | h1 | h1
    · exact gasgO (C := "SheetBranches$Content") (ci := 10) hK hS rfl h1 rfl (Or.inr q1552)
    · exact gasgO (C := "SheetBranches$Content") (ci := 11) hK hS rfl h1 rfl (Or.inr q1554)
    · exact gasgO (C := "SheetBranches$Content") (ci := 15) hK hS rfl h1 rfl (Or.inr q1550)
    · exact gasgO (C := "SheetBranches$Content") (ci := 20) hK hS rfl h1 rfl (Or.inr q1355)
  | 11, h1 =>
    simp only [gAsgL, List.mem_cons, List.not_mem_nil, or_false] at h1
    exact gasgA hK hS h1
  | n + 12, h1 => simp [gAsgL] at h1
theorem gpart {s : State} {H : Heap} {a : Nat} (hK : gKK ω s) (hS : gSim ω σ H) (h : gPart (mT σ a) = true) : a ≠ 0 ∧ ∃ C : String, va_Nw (.castable C "SheetBranches$Part") s ∧ ∃ cell : Cell, H[a - 1]? = some cell ∧ cell.vm.isStatics = false ∧ s.vm.findClass C = some cell.cls := by
  have h1 : mT σ a ∈ [11, 12, 13, 15, 16, 17, 18, 19, 20] := by simpa [gPart] using h
  simp only [List.mem_cons, List.not_mem_nil, or_false] at h1
  rcases h1 with h1 | h1 | h1 | h1 | h1 | h1 | h1 | h1 | h1
  · obtain ⟨h0, cell, q1, q2, hat⟩ := gcellC (ci := 10) (r := gcl[10]) hK hS h1 rfl
    exact ⟨h0, "SheetBranches$Whole", hK.2.1 _ q924 rfl, cell, q1, by rw [q2]; rfl, hat.1⟩
  · obtain ⟨h0, cell, q1, q2, hat⟩ := gcellC (ci := 11) (r := gcl[11]) hK hS h1 rfl
    exact ⟨h0, "SheetBranches$Words", hK.2.1 _ q930 rfl, cell, q1, by rw [q2]; rfl, hat.1⟩
  · obtain ⟨h0, cell, q1, q2, hat⟩ := gcellC (ci := 12) (r := gcl[12]) hK hS h1 rfl
    exact ⟨h0, "SheetBranches$Gone", hK.2.1 _ q886 rfl, cell, q1, by rw [q2]; rfl, hat.1⟩
  · obtain ⟨h0, cell, q1, q2, hat⟩ := gcellC (ci := 14) (r := gcl[14]) hK hS h1 rfl
    exact ⟨h0, "SheetBranches$Spot", hK.2.1 _ q900 rfl, cell, q1, by rw [q2]; rfl, hat.1⟩
  · obtain ⟨h0, cell, q1, q2, hat⟩ := gcellC (ci := 15) (r := gcl[15]) hK hS h1 rfl
    exact ⟨h0, "SheetBranches$Truth", hK.2.1 _ q910 rfl, cell, q1, by rw [q2]; rfl, hat.1⟩
  · obtain ⟨h0, cell, q1, q2, hat⟩ := gcellC (ci := 16) (r := gcl[16]) hK hS h1 rfl
    exact ⟨h0, "SheetBranches$Area", hK.2.1 _ q845 rfl, cell, q1, by rw [q2]; rfl, hat.1⟩
  · obtain ⟨h0, cell, q1, q2, hat⟩ := gcellC (ci := 17) (r := gcl[17]) hK hS h1 rfl
    exact ⟨h0, "SheetBranches$Call", hK.2.1 _ q869 rfl, cell, q1, by rw [q2]; rfl, hat.1⟩
  · obtain ⟨h0, cell, q1, q2, hat⟩ := gcellC (ci := 18) (r := gcl[18]) hK hS h1 rfl
    exact ⟨h0, "SheetBranches$Minus", hK.2.1 _ q892 rfl, cell, q1, by rw [q2]; rfl, hat.1⟩
  · obtain ⟨h0, cell, q1, q2, hat⟩ := gcellC (ci := 19) (r := gcl[19]) hK hS h1 rfl
    exact ⟨h0, "SheetBranches$Two", hK.2.1 _ q916 rfl, cell, q1, by rw [q2]; rfl, hat.1⟩
theorem gnode {s : State} {H : Heap} {a ci : Nat} (hK : gKK ω s) (hS : gSim ω σ H) (h : gNode (mT σ a) = true) (hci : gNode (ci + 1) = true) (hne : mT σ a ≠ ci + 1) : a ≠ 0 ∧ ∃ C : String, va_Nc C (gcl.getD ci ("", TX15, 0)).1 s ∧ ∃ cell : Cell, H[a - 1]? = some cell ∧ cell.vm.isStatics = false ∧ s.vm.findClass C = some cell.cls := by
  have h1 : mT σ a ∈ [11, 12, 13, 15, 16, 17, 18, 19, 20, 21] := by simpa [gNode] using h
  have h2 : ci + 1 ∈ [11, 12, 13, 15, 16, 17, 18, 19, 20, 21] := by simpa [gNode] using hci
  simp only [List.mem_cons, List.not_mem_nil, or_false] at h1
  rcases h1 with h1 | h1 | h1 | h1 | h1 | h1 | h1 | h1 | h1 | h1
  · obtain ⟨h0, cell, q1, q2, hat⟩ := gcellC (ci := 10) (r := gcl[10]) hK hS h1 rfl
    refine ⟨h0, "SheetBranches$Whole", hK.2.2.2.1.1 ("SheetBranches$Whole", _) (gnc_tab 11 (by decide) (ci + 1) h2 (fun e => hne (h1.trans e))), cell, q1, by rw [q2]; rfl, hat.1⟩
  · obtain ⟨h0, cell, q1, q2, hat⟩ := gcellC (ci := 11) (r := gcl[11]) hK hS h1 rfl
    refine ⟨h0, "SheetBranches$Words", hK.2.2.2.1.1 ("SheetBranches$Words", _) (gnc_tab 12 (by decide) (ci + 1) h2 (fun e => hne (h1.trans e))), cell, q1, by rw [q2]; rfl, hat.1⟩
  · obtain ⟨h0, cell, q1, q2, hat⟩ := gcellC (ci := 12) (r := gcl[12]) hK hS h1 rfl
    refine ⟨h0, "SheetBranches$Gone", hK.2.2.2.1.1 ("SheetBranches$Gone", _) (gnc_tab 13 (by decide) (ci + 1) h2 (fun e => hne (h1.trans e))), cell, q1, by rw [q2]; rfl, hat.1⟩
  · obtain ⟨h0, cell, q1, q2, hat⟩ := gcellC (ci := 14) (r := gcl[14]) hK hS h1 rfl
    refine ⟨h0, "SheetBranches$Spot", hK.2.2.2.1.1 ("SheetBranches$Spot", _) (gnc_tab 15 (by decide) (ci + 1) h2 (fun e => hne (h1.trans e))), cell, q1, by rw [q2]; rfl, hat.1⟩
  · obtain ⟨h0, cell, q1, q2, hat⟩ := gcellC (ci := 15) (r := gcl[15]) hK hS h1 rfl
    refine ⟨h0, "SheetBranches$Truth", hK.2.2.2.1.1 ("SheetBranches$Truth", _) (gnc_tab 16 (by decide) (ci + 1) h2 (fun e => hne (h1.trans e))), cell, q1, by rw [q2]; rfl, hat.1⟩
  · obtain ⟨h0, cell, q1, q2, hat⟩ := gcellC (ci := 16) (r := gcl[16]) hK hS h1 rfl
    refine ⟨h0, "SheetBranches$Area", hK.2.2.2.1.1 ("SheetBranches$Area", _) (gnc_tab 17 (by decide) (ci + 1) h2 (fun e => hne (h1.trans e))), cell, q1, by rw [q2]; rfl, hat.1⟩
  · obtain ⟨h0, cell, q1, q2, hat⟩ := gcellC (ci := 17) (r := gcl[17]) hK hS h1 rfl
    refine ⟨h0, "SheetBranches$Call", hK.2.2.2.1.1 ("SheetBranches$Call", _) (gnc_tab 18 (by decide) (ci + 1) h2 (fun e => hne (h1.trans e))), cell, q1, by rw [q2]; rfl, hat.1⟩
  · obtain ⟨h0, cell, q1, q2, hat⟩ := gcellC (ci := 18) (r := gcl[18]) hK hS h1 rfl
    refine ⟨h0, "SheetBranches$Minus", hK.2.2.2.1.1 ("SheetBranches$Minus", _) (gnc_tab 19 (by decide) (ci + 1) h2 (fun e => hne (h1.trans e))), cell, q1, by rw [q2]; rfl, hat.1⟩
  · obtain ⟨h0, cell, q1, q2, hat⟩ := gcellC (ci := 19) (r := gcl[19]) hK hS h1 rfl
    refine ⟨h0, "SheetBranches$Two", hK.2.2.2.1.1 ("SheetBranches$Two", _) (gnc_tab 20 (by decide) (ci + 1) h2 (fun e => hne (h1.trans e))), cell, q1, by rw [q2]; rfl, hat.1⟩
  · obtain ⟨h0, cell, q1, q2, hat⟩ := gcellC (ci := 20) (r := gcl[20]) hK hS h1 rfl
    refine ⟨h0, "SheetBranches$Formula", hK.2.2.2.1.1 ("SheetBranches$Formula", _) (gnc_tab 21 (by decide) (ci + 1) h2 (fun e => hne (h1.trans e))), cell, q1, by rw [q2]; rfl, hat.1⟩
end GObj2
