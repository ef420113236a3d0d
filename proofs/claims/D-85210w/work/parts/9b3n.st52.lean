/-! ===== PHASE 2: one memory for both: the acts with a number alone, each -/
section State52
variable {N x h t : Nat} {m : gMem} {a b c d e : Int}
theorem q_end (M : M1 x h t m) : RQ x h t m (x1_end x a m) (tw_end h a) := run_qx (F := x1_end x a) (fun _ _ R => op_end R) M
theorem q_feed (hN : 2000 ≤ N) (M : M1 x h t m) : RQ x h t m (x1_feed N x a b c d e m) (tw_feed N h a b c d e) := run_qx (F := x1_feed N x a b c d e) (fun _ _ R => op_feed hN R) M
theorem q_kind (hN : 200000 ≤ N) (gb : g32 b) (gc : g32 c) (M : M1 x h t m) : RQ x h t m (x1_kind N x a b c m) (tw_kind N h a b c) := run_qx (F := x1_kind N x a b c) (fun _ _ R => op_kind hN R gb gc) M
theorem q_value (hN : 200000 ≤ N) (gb : g32 b) (gc : g32 c) (M : M1 x h t m) : RQ x h t m (x1_value N x a b c m) (tw_value N h a b c) := run_qx (F := x1_value N x a b c) (fun _ _ R => op_value hN R gb gc) M
theorem q_letter (hN : 200000 ≤ N) (gb : g32 b) (gc : g32 c) (M : M1 x h t m) : RQ x h t m (x1_letter N x a b c d m) (tw_letter N h a b c d) := run_qx (F := x1_letter N x a b c d) (fun _ _ R => op_letter hN R gb gc) M
theorem q_drop (hN : 2000 ≤ N) (M : M1 x h t m) : RQ x h t m (x1_drop N x m) (tw_drop N h) := run_qx (F := x1_drop N x) (fun _ _ R => op_drop hN R) M
theorem q_fault (M : M1 x h t m) : RA x h t m (x1_fault x a m) (tw_fault h a) := run_ax (F := x1_fault x a) (fun _ _ R => op_fault R) M
theorem q_sheet (M : M1 x h t m) : RA x h t m (x1_sheet x a b m) (tw_sheet h a b) := run_ax (F := x1_sheet x a b) (fun _ _ R => op_sheet R) M
theorem q_difference (M : M1 x h t m) : RA x h t m (x1_difference x a b m) (tw_difference h a b) := run_ax (F := x1_difference x a b) (fun _ _ R => op_difference R) M
theorem q_conflict (hN : 2000 ≤ N) (M : M1 x h t m) : RA x h t m (x1_conflict N x a b m) (tw_conflict N h a b) := run_ax (F := x1_conflict N x a b) (fun _ _ R => op_conflict hN R) M
theorem q_total (hN : 2000 ≤ N) (M : M1 x h t m) : RA x h t m (x1_total N x a m) (tw_total N h a) := run_ax (F := x1_total N x a) (fun _ _ R => op_total hN R) M
theorem q_base (hN : 500 ≤ N) (M : M1 x h t m) : RA x h t m (x1_base x a b m) (tw_base N h a b) := run_ax (F := x1_base x a b) (fun _ _ R => op_base hN R) M
end State52
