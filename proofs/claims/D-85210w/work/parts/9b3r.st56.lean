/-! ===== PHASE 2: one turn of the law's loop (written by gen_step.py) -/
section State56
variable {N x h t n : Nat} {m : gMem} {K : gMem → Option (Int × gMem)} {Φ : Int × gMem → Prop}
theorem law_step {sc v : Nat} (hN : 200000 ≤ N) (ht : t ≤ 1000) (M : M1 x h t m) (ok : gOk m) (hx : 0 < x) (hm : 0 < mZ m) (ts : mT m sc = 94) (hs : sc < x) (hv : v + 7 ≤ mN m sc) (hL : mN m sc ≤ 100000) (hK : ∀ m', M1 x h (t + 1) m' → Rm x m m' → Kz (fun a => x ≤ a) m m' → Ev ((l_law_l23_j1884 N sc x h (h + 57) v (l_law_l23 N sc x h (h + 57) K n) K) m') Φ) (hK0 : Ev ((l_law_l23_j1884 N sc x h (h + 57) v (l_law_l23 N sc x h (h + 57) K n) K) m) Φ) (H2 : Ev (if 0 ≤ ((v : Int) + 1) ∧ ((v : Int) + 1) < (mN m sc : Int) then if 0 ≤ ((v : Int) + 2) ∧ ((v : Int) + 2) < (mN m sc : Int) then (x0_enter N x (mI m sc ((v : Int) + 1).toNat) (mI m sc ((v : Int) + 2).toNat) (h + 57) m).bind (fun x50 => if 0 ≤ ((v : Int) + 1) ∧ ((v : Int) + 1) < (mN (x50.2) sc : Int) then if 0 ≤ ((v : Int) + 2) ∧ ((v : Int) + 2) < (mN (x50.2) sc : Int) then if TMb (x50.2) h = true then (tw_enter N h (mI (x50.2) sc ((v : Int) + 1).toNat) (mI (x50.2) sc ((v : Int) + 2).toNat) (x50.2)).bind (fun x56 => if TMb (x56.2) h = true then (tw_thrown h (x56.2)).bind (fun x60 => if x60 = x50.1 then if x50.1 ≠ 0 then (l_law_l23_j1884 N sc x h (h + 57) v (l_law_l23 N sc x h (h + 57) K n) K) (x56.2) else if mT (x56.2) (h + 57) = 101 then if 0 ≤ (0 : Int) ∧ (0 : Int) < (mN (x56.2) (h + 57) : Int) then if gcmp (mL (x56.2) (h + 57) (0 : Int).toNat) (x56.1) = 0 then (l_law_l23_j1884 N sc x h (h + 57) v (l_law_l23 N sc x h (h + 57) K n) K) (x56.2) else some (0, x56.2) else none else none else some (0, x56.2)) else none) else none else none else none) else none else none) Φ) (H8 : Ev (if 0 ≤ ((v : Int) + 1) ∧ ((v : Int) + 1) < (mN m sc : Int) then if 0 ≤ ((v : Int) + 2) ∧ ((v : Int) + 2) < (mN m sc : Int) then if 0 ≤ ((v : Int) + 3) ∧ ((v : Int) + 3) < (mN m sc : Int) then if 0 ≤ ((v : Int) + 4) ∧ ((v : Int) + 4) < (mN m sc : Int) then if 0 ≤ ((v : Int) + 5) ∧ ((v : Int) + 5) < (mN m sc : Int) then if 0 ≤ ((v : Int) + 6) ∧ ((v : Int) + 6) < (mN m sc : Int) then (x0_copy N x (mI m sc ((v : Int) + 1).toNat) (mI m sc ((v : Int) + 2).toNat) (mI m sc ((v : Int) + 3).toNat) (mI m sc ((v : Int) + 4).toNat) (mI m sc ((v : Int) + 5).toNat) (mI m sc ((v : Int) + 6).toNat) (h + 57) m).bind (fun x155 => if 0 ≤ ((v : Int) + 1) ∧ ((v : Int) + 1) < (mN (x155.2) sc : Int) then if 0 ≤ ((v : Int) + 2) ∧ ((v : Int) + 2) < (mN (x155.2) sc : Int) then if 0 ≤ ((v : Int) + 3) ∧ ((v : Int) + 3) < (mN (x155.2) sc : Int) then if 0 ≤ ((v : Int) + 4) ∧ ((v : Int) + 4) < (mN (x155.2) sc : Int) then if 0 ≤ ((v : Int) + 5) ∧ ((v : Int) + 5) < (mN (x155.2) sc : Int) then if 0 ≤ ((v : Int) + 6) ∧ ((v : Int) + 6) < (mN (x155.2) sc : Int) then if TMb (x155.2) h = true then (tw_copy N h (mI (x155.2) sc ((v : Int) + 1).toNat) (mI (x155.2) sc ((v : Int) + 2).toNat) (mI (x155.2) sc ((v : Int) + 3).toNat) (mI (x155.2) sc ((v : Int) + 4).toNat) (mI (x155.2) sc ((v : Int) + 5).toNat) (mI (x155.2) sc ((v : Int) + 6).toNat) (x155.2)).bind (fun x165 => if TMb (x165.2) h = true then (tw_thrown h (x165.2)).bind (fun x169 => if x169 = x155.1 then if x155.1 ≠ 0 then (l_law_l23_j1884 N sc x h (h + 57) v (l_law_l23 N sc x h (h + 57) K n) K) (x165.2) else if mT (x165.2) (h + 57) = 101 then if 0 ≤ (0 : Int) ∧ (0 : Int) < (mN (x165.2) (h + 57) : Int) then if gcmp (mL (x165.2) (h + 57) (0 : Int).toNat) (x165.1) = 0 then (l_law_l23_j1884 N sc x h (h + 57) v (l_law_l23 N sc x h (h + 57) K n) K) (x165.2) else some (0, x165.2) else none else none else some (0, x165.2)) else none) else none else none else none else none else none else none else none) else none else none else none else none else none else none) Φ) (H16 : Ev (if 0 ≤ ((v : Int) + 1) ∧ ((v : Int) + 1) < (mN m sc : Int) then (x0_merge N x (mI m sc ((v : Int) + 1).toNat) (h + 57) m).bind (fun x275 => if 0 ≤ ((v : Int) + 1) ∧ ((v : Int) + 1) < (mN (x275.2) sc : Int) then if TMb (x275.2) h = true then (tw_merge N h (mI (x275.2) sc ((v : Int) + 1).toNat) (x275.2)).bind (fun x280 => if TMb (x280.2) h = true then (tw_thrown h (x280.2)).bind (fun x284 => if x284 = x275.1 then if x275.1 ≠ 0 then (l_law_l23_j1884 N sc x h (h + 57) v (l_law_l23 N sc x h (h + 57) K n) K) (x280.2) else if mT (x280.2) (h + 57) = 101 then if 0 ≤ (0 : Int) ∧ (0 : Int) < (mN (x280.2) (h + 57) : Int) then if gcmp (mL (x280.2) (h + 57) (0 : Int).toNat) (x280.1) = 0 then (l_law_l23_j1884 N sc x h (h + 57) v (l_law_l23 N sc x h (h + 57) K n) K) (x280.2) else some (0, x280.2) else none else none else some (0, x280.2)) else none) else none else none) else none) Φ) (H17 : Ev (if 0 ≤ ((v : Int) + 1) ∧ ((v : Int) + 1) < (mN m sc : Int) then (x0_pick N x (mI m sc ((v : Int) + 1).toNat) (h + 57) m).bind (fun x290 => if 0 ≤ ((v : Int) + 1) ∧ ((v : Int) + 1) < (mN (x290.2) sc : Int) then if TMb (x290.2) h = true then (tw_pick N h (mI (x290.2) sc ((v : Int) + 1).toNat) (x290.2)).bind (fun x295 => if TMb (x295.2) h = true then (tw_thrown h (x295.2)).bind (fun x299 => if x299 = x290.1 then if x290.1 ≠ 0 then (l_law_l23_j1884 N sc x h (h + 57) v (l_law_l23 N sc x h (h + 57) K n) K) (x295.2) else if mT (x295.2) (h + 57) = 101 then if 0 ≤ (0 : Int) ∧ (0 : Int) < (mN (x295.2) (h + 57) : Int) then if gcmp (mL (x295.2) (h + 57) (0 : Int).toNat) (x295.1) = 0 then (l_law_l23_j1884 N sc x h (h + 57) v (l_law_l23 N sc x h (h + 57) K n) K) (x295.2) else some (0, x295.2) else none else none else some (0, x295.2)) else none) else none else none) else none) Φ) (H28 : Ev (if 0 ≤ ((v : Int) + 1) ∧ ((v : Int) + 1) < (mN m sc : Int) then if 0 ≤ ((v : Int) + 2) ∧ ((v : Int) + 2) < (mN m sc : Int) then if 0 ≤ ((v : Int) + 3) ∧ ((v : Int) + 3) < (mN m sc : Int) then if 0 ≤ ((v : Int) + 4) ∧ ((v : Int) + 4) < (mN m sc : Int) then if mT m x = 1 then (x1_written N x (mI m sc ((v : Int) + 1).toNat) (mI m sc ((v : Int) + 2).toNat) (mI m sc ((v : Int) + 3).toNat) (mI m sc ((v : Int) + 4).toNat) m).bind (fun x456 => if 0 ≤ ((v : Int) + 1) ∧ ((v : Int) + 1) < (mN (x456.2) sc : Int) then if 0 ≤ ((v : Int) + 2) ∧ ((v : Int) + 2) < (mN (x456.2) sc : Int) then if 0 ≤ ((v : Int) + 3) ∧ ((v : Int) + 3) < (mN (x456.2) sc : Int) then if 0 ≤ ((v : Int) + 4) ∧ ((v : Int) + 4) < (mN (x456.2) sc : Int) then if TMb (x456.2) h = true then (tw_written N h (mI (x456.2) sc ((v : Int) + 1).toNat) (mI (x456.2) sc ((v : Int) + 2).toNat) (mI (x456.2) sc ((v : Int) + 3).toNat) (mI (x456.2) sc ((v : Int) + 4).toNat) (x456.2)).bind (fun x464 => if x456.1 = x464.1 then (l_law_l23_j1884 N sc x h (h + 57) v (l_law_l23 N sc x h (h + 57) K n) K) (x464.2) else some (0, x464.2)) else none else none else none else none else none) else none else none else none else none else none) Φ) : Ev (l_law_l23 N sc x h (h + 57) K (n + 1) (v : Int) m) Φ := by
  unfold l_law_l23
  rw [w32_i (x := (mN m sc : Int) - 7) (by omega) (by omega)]
  refine Ev.g ts (Ev.f (by omega) (Ev.g (by omega) ?_))
  by_cases c0 : bAnd (mI m sc (v : Int).toNat) 31 = 0
  · refine Ev.g c0 ?_
    exact a_feed (by omega) M ok ts hs hv hK
  refine Ev.f c0 ?_
  by_cases c1 : bAnd (mI m sc (v : Int).toNat) 31 = 1
  · refine Ev.g c1 ?_
    exact a_end M ok ts hs hv hK
  refine Ev.f c1 ?_
  by_cases c2 : bAnd (mI m sc (v : Int).toNat) 31 = 2
  · refine Ev.g c2 ?_
    exact H2
  refine Ev.f c2 ?_
  by_cases c3 : bAnd (mI m sc (v : Int).toNat) 31 = 3
  · refine Ev.g c3 ?_
    exact a_fault M ok ts hs hv hK
  refine Ev.f c3 ?_
  by_cases c4 : bAnd (mI m sc (v : Int).toNat) 31 = 4
  · refine Ev.g c4 ?_
    exact a_erase (by omega) M ok hx hm ts hs hv hK
  refine Ev.f c4 ?_
  by_cases c5 : bAnd (mI m sc (v : Int).toNat) 31 = 5
  · refine Ev.g c5 ?_
    exact a_insert (by omega) ht M ok hx hm ts hs hv hK
  refine Ev.f c5 ?_
  by_cases c6 : bAnd (mI m sc (v : Int).toNat) 31 = 6
  · refine Ev.g c6 ?_
    exact a_remove (by omega) M ok hx hm ts hs hv hK
  refine Ev.f c6 ?_
  by_cases c7 : bAnd (mI m sc (v : Int).toNat) 31 = 7
  · refine Ev.g c7 ?_
    exact a_move (by omega) M ok hx hm ts hs hv hK
  refine Ev.f c7 ?_
  by_cases c8 : bAnd (mI m sc (v : Int).toNat) 31 = 8
  · refine Ev.g c8 ?_
    exact H8
  refine Ev.f c8 ?_
  by_cases c9 : bAnd (mI m sc (v : Int).toNat) 31 = 9
  · refine Ev.g c9 ?_
    refine Ev.g (by omega) (Ev.g (by omega) (Ev.g (by omega) (Ev.g (by omega) ?_)))
    by_cases w : mI m sc ((v : Int) + 4).toNat = 0
    · exact Ev.g w (a_sort hN M ok hx hm ts hs hv (Or.inl ⟨w, rfl⟩) hK)
    · exact Ev.f w (a_sort hN M ok hx hm ts hs hv (Or.inr ⟨w, rfl⟩) hK)
  refine Ev.f c9 ?_
  by_cases c10 : bAnd (mI m sc (v : Int).toNat) 31 = 10
  · refine Ev.g c10 ?_
    exact a_undo (by omega) M ok hx hm ts hs hv hK
  refine Ev.f c10 ?_
  by_cases c11 : bAnd (mI m sc (v : Int).toNat) 31 = 11
  · refine Ev.g c11 ?_
    exact a_redo (by omega) M ok hx hm ts hs hv hK
  refine Ev.f c11 ?_
  by_cases c12 : bAnd (mI m sc (v : Int).toNat) 31 = 12
  · refine Ev.g c12 ?_
    exact a_commit hN M ok hx hm ts hs hv hK
  refine Ev.f c12 ?_
  by_cases c13 : bAnd (mI m sc (v : Int).toNat) 31 = 13
  · refine Ev.g c13 ?_
    exact a_branch M ok hx hm ts hs hv hK
  refine Ev.f c13 ?_
  by_cases c14 : bAnd (mI m sc (v : Int).toNat) 31 = 14
  · refine Ev.g c14 ?_
    exact a_go (by omega) M ok hx hm ts hs hv hK
  refine Ev.f c14 ?_
  by_cases c15 : bAnd (mI m sc (v : Int).toNat) 31 = 15
  · refine Ev.g c15 ?_
    exact a_drop (by omega) M ok ts hs hv hK
  refine Ev.f c15 ?_
  by_cases c16 : bAnd (mI m sc (v : Int).toNat) 31 = 16
  · refine Ev.g c16 ?_
    exact H16
  refine Ev.f c16 ?_
  by_cases c17 : bAnd (mI m sc (v : Int).toNat) 31 = 17
  · refine Ev.g c17 ?_
    exact H17
  refine Ev.f c17 ?_
  by_cases c18 : bAnd (mI m sc (v : Int).toNat) 31 = 18
  · refine Ev.g c18 ?_
    exact a_conflict (by omega) M ok ts hs hv hK
  refine Ev.f c18 ?_
  by_cases c19 : bAnd (mI m sc (v : Int).toNat) 31 = 19
  · refine Ev.g c19 ?_
    refine Ev.g (by omega) (Ev.g (by omega) ?_)
    by_cases w : mI m sc ((v : Int) + 2).toNat = 0
    · exact Ev.g w (a_choose (by omega) M ok hx hm ts hs hv (Or.inl ⟨w, rfl⟩) hK)
    · exact Ev.f w (a_choose (by omega) M ok hx hm ts hs hv (Or.inr ⟨w, rfl⟩) hK)
  refine Ev.f c19 ?_
  by_cases c20 : bAnd (mI m sc (v : Int).toNat) 31 = 20
  · refine Ev.g c20 ?_
    exact a_base (by omega) M ok ts hs hv hK
  refine Ev.f c20 ?_
  by_cases c21 : bAnd (mI m sc (v : Int).toNat) 31 = 21
  · refine Ev.g c21 ?_
    exact a_diff (by omega) M ok hx hm ts hs hv hK
  refine Ev.f c21 ?_
  by_cases c22 : bAnd (mI m sc (v : Int).toNat) 31 = 22
  · refine Ev.g c22 ?_
    exact a_difference M ok ts hs hv hK
  refine Ev.f c22 ?_
  by_cases c23 : bAnd (mI m sc (v : Int).toNat) 31 = 23
  · refine Ev.g c23 ?_
    exact a_blame (by omega) M ok hx hm ts hs hv hK
  refine Ev.f c23 ?_
  by_cases c24 : bAnd (mI m sc (v : Int).toNat) 31 = 24
  · refine Ev.g c24 ?_
    exact a_sheet M ok ts hs hv hK
  refine Ev.f c24 ?_
  by_cases c25 : bAnd (mI m sc (v : Int).toNat) 31 = 25
  · refine Ev.g c25 ?_
    exact a_kind hN M ok ts hs hv hK
  refine Ev.f c25 ?_
  by_cases c26 : bAnd (mI m sc (v : Int).toNat) 31 = 26
  · refine Ev.g c26 ?_
    exact a_value hN M ok ts hs hv hK
  refine Ev.f c26 ?_
  by_cases c27 : bAnd (mI m sc (v : Int).toNat) 31 = 27
  · refine Ev.g c27 ?_
    exact a_letter hN M ok ts hs hv hK
  refine Ev.f c27 ?_
  by_cases c28 : bAnd (mI m sc (v : Int).toNat) 31 = 28
  · refine Ev.g c28 ?_
    exact H28
  refine Ev.f c28 ?_
  by_cases c29 : bAnd (mI m sc (v : Int).toNat) 31 = 29
  · refine Ev.g c29 ?_
    exact a_total (by omega) M ok ts hs hv hK
  refine Ev.f c29 ?_
  exact hK0
end State56
