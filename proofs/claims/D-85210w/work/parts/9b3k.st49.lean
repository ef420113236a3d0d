/-! ===== PHASE 2: one memory for both: the other acts with their codes (written by gen_rx.py) -/
section State49
variable {N x h t : Nat} {m : gMem}
theorem r_redo (hN : 2000 ≤ N) (M : M1 x h t m) : RX x h t m (x0_redo x (h + 57) m) (tw_redo N h) :=
  run_x0 (cd := cdN) (F := x1_redo x) (C := fun E6 s7 => if E6 = "java/util/NoSuchElementException" then some (1, s7) else none) (fun σ τ R => op_redo hN R) (fun E k s hm => by
    simp only [cdN, List.mem_cons, Prod.mk.injEq, List.not_mem_nil, or_false] at hm
    rcases hm with ⟨e1, e2⟩ <;> subst e1 e2 <;> simp) M
theorem r_branch {a : Int} (M : M1 x h t m) : RX x h t m (x0_branch x a (h + 57) m) (tw_branch h a) :=
  run_x0 (cd := cdB) (F := x1_branch x a) (C := fun E6 s7 => if E6 = "java/lang/IndexOutOfBoundsException" then some (1, s7) else if E6 = "java/lang/IllegalStateException" then some (2, s7) else none) (fun σ τ R => op_branch R) (fun E k s hm => by
    simp only [cdB, List.mem_cons, Prod.mk.injEq, List.not_mem_nil, or_false] at hm
    rcases hm with ⟨e1, e2⟩ | ⟨e1, e2⟩ <;> subst e1 e2 <;> simp) M
theorem r_erase {a b c d : Int} (hN : 2000 ≤ N) (ga : g32 a) (gb : g32 b) (gc : g32 c) (gd : g32 d) (M : M1 x h t m) : RX x h t m (x0_erase N x a b c d (h + 57) m) (tw_erase N h a b c d) :=
  run_x0 (cd := cdIA) (F := x1_erase N x a b c d) (C := fun E6 s7 => if E6 = "java/lang/IndexOutOfBoundsException" then some (1, s7) else if E6 = "java/lang/IllegalArgumentException" then some (2, s7) else none) (fun σ τ R => op_erase hN R ga gb gc gd) (fun E k s hm => by
    simp only [cdIA, List.mem_cons, Prod.mk.injEq, List.not_mem_nil, or_false] at hm
    rcases hm with ⟨e1, e2⟩ | ⟨e1, e2⟩ <;> subst e1 e2 <;> simp) M
theorem r_diff {a b : Int} (hN : 2000 ≤ N) (M : M1 x h t m) : RX x h t m (x0_diff N x a b (h + 57) m) (tw_diff N h a b) :=
  run_x0 (cd := cdDf) (F := x1_diff N x a b) (C := fun E6 s7 => if E6 = "java/util/NoSuchElementException" then some (1, s7) else none) (fun σ τ R => op_diff hN R) (fun E k s hm => by
    simp only [cdDf, List.mem_cons, Prod.mk.injEq, List.not_mem_nil, or_false] at hm
    rcases hm with ⟨e1, e2⟩ <;> subst e1 e2 <;> simp) M
theorem r_remove {a b : Int} (hN : 2000 ≤ N) (M : M1 x h t m) : RX x h t m (x0_remove N x a b (h + 57) m) (tw_remove N h a b) :=
  run_x0 (cd := cdI) (F := x1_remove N x a b) (C := fun E6 s7 => if E6 = "java/lang/IllegalArgumentException" then some (1, s7) else if E6 = "java/lang/IndexOutOfBoundsException" then some (2, s7) else if E6 = "java/lang/IllegalStateException" then some (3, s7) else none) (fun σ τ R => op_remove hN R) (fun E k s hm => by
    simp only [cdI, List.mem_cons, Prod.mk.injEq, List.not_mem_nil, or_false] at hm
    rcases hm with ⟨e1, e2⟩ | ⟨e1, e2⟩ | ⟨e1, e2⟩ <;> subst e1 e2 <;> simp) M
theorem r_move {a b c : Int} (hN : 2000 ≤ N) (M : M1 x h t m) : RX x h t m (x0_move N x a b c (h + 57) m) (tw_move N h a b c) :=
  run_x0 (cd := cdM) (F := x1_move N x a b c) (C := fun E6 s7 => if E6 = "java/lang/IllegalArgumentException" then some (1, s7) else if E6 = "java/lang/IndexOutOfBoundsException" then some (2, s7) else none) (fun σ τ R => op_move hN R) (fun E k s hm => by
    simp only [cdM, List.mem_cons, Prod.mk.injEq, List.not_mem_nil, or_false] at hm
    rcases hm with ⟨e1, e2⟩ | ⟨e1, e2⟩ <;> subst e1 e2 <;> simp) M
theorem r_go {a : Int} (hN : 2000 ≤ N) (M : M1 x h t m) : RX x h t m (x0_go N x a (h + 57) m) (tw_go N h a) :=
  run_x0 (cd := cdG) (F := x1_go N x a) (C := fun E6 s7 => if E6 = "java/lang/IndexOutOfBoundsException" then some (1, s7) else if E6 = "java/util/NoSuchElementException" then some (2, s7) else if E6 = "java/lang/IllegalStateException" then some (3, s7) else none) (fun σ τ R => op_go hN R) (fun E k s hm => by
    simp only [cdG, List.mem_cons, Prod.mk.injEq, List.not_mem_nil, or_false] at hm
    rcases hm with ⟨e1, e2⟩ | ⟨e1, e2⟩ | ⟨e1, e2⟩ <;> subst e1 e2 <;> simp) M
theorem r_choose {a b : Int} (hN : 2000 ≤ N) (M : M1 x h t m) : RX x h t m (x0_choose N x a b (h + 57) m) (tw_choose N h a b) :=
  run_x0 (cd := cdCh) (F := x1_choose N x a b) (C := fun E6 s7 => if E6 = "java/lang/IndexOutOfBoundsException" then some (1, s7) else none) (fun σ τ R => op_choose hN R) (fun E k s hm => by
    simp only [cdCh, List.mem_cons, Prod.mk.injEq, List.not_mem_nil, or_false] at hm
    rcases hm with ⟨e1, e2⟩ <;> subst e1 e2 <;> simp) M
theorem r_blame {a b : Int} (hN : 2000 ≤ N) (ga : g32 a) (gb : g32 b) (M : M1 x h t m) : RX x h t m (x0_blame N x a b (h + 57) m) (tw_blame N h a b) :=
  run_x0 (cd := cdBl) (F := x1_blame N x a b) (C := fun E6 s7 => if E6 = "java/lang/IndexOutOfBoundsException" then some (1, s7) else none) (fun σ τ R => op_blame hN R ga gb) (fun E k s hm => by
    simp only [cdBl, List.mem_cons, Prod.mk.injEq, List.not_mem_nil, or_false] at hm
    rcases hm with ⟨e1, e2⟩ <;> subst e1 e2 <;> simp) M
theorem r_sort {a b c d : Int} (hN : 200000 ≤ N) (ga : g32 a) (gb : g32 b) (gc : g32 c) (hd : d = 0 ∨ d = 1) (M : M1 x h t m) : RX x h t m (x0_sort N x a b c d (h + 57) m) (tw_sort N h a b c d) :=
  run_x0 (cd := cdIA) (F := x1_sort N x a b c d) (C := fun E6 s7 => if E6 = "java/lang/IndexOutOfBoundsException" then some (1, s7) else if E6 = "java/lang/IllegalArgumentException" then some (2, s7) else none) (fun σ τ R => op_sort hN R ga gb gc hd) (fun E k s hm => by
    simp only [cdIA, List.mem_cons, Prod.mk.injEq, List.not_mem_nil, or_false] at hm
    rcases hm with ⟨e1, e2⟩ | ⟨e1, e2⟩ <;> subst e1 e2 <;> simp) M
theorem r_commit (hN : 200000 ≤ N) (M : M1 x h t m) : RX x h t m (x0_commit N x (h + 57) m) (tw_commit N h) :=
  run_x0 (cd := cdCo) (F := x1_commit N x) (C := fun E6 s7 => if E6 = "java/lang/IllegalStateException" then some (1, s7) else if E6 = "java/lang/UnsupportedOperationException" then some (2, s7) else none) (fun σ τ R => op_commit hN R) (fun E k s hm => by
    simp only [cdCo, List.mem_cons, Prod.mk.injEq, List.not_mem_nil, or_false] at hm
    rcases hm with ⟨e1, e2⟩ | ⟨e1, e2⟩ <;> subst e1 e2 <;> simp) M
end State49
