/-! ===== PHASE 2: the law's loop: acts with a number alone (written by gen_act2.py) -/
section State54
variable {N x h t : Nat} {m : gMem} {KK : gMem → Option (Int × gMem)} {Φ : Int × gMem → Prop} {G : gMem → Option (Int × gMem)}
theorem M1.tx (M : M1 x h t m) : mT m x = 1 := by
  obtain ⟨⟨nv, pa, un, fs, Gs, g, own, rt, R⟩, -, -⟩ := M
  exact R.1.1.1.1
/-- the law's act 0 -/
theorem a_feed {sc v : Nat} (hN : 2000 ≤ N) (M : M1 x h t m) (ok : gOk m) (ts : mT m sc = 94) (hs : sc < x) (hv : v + 7 ≤ mN m sc) (hK : ∀ m', M1 x h (t + 1) m' → Rm x m m' → Kz (fun a => x ≤ a) m m' → Ev (KK m') Φ) : Ev (if 0 ≤ ((v : Int) + 1) ∧ ((v : Int) + 1) < (mN m sc : Int) then if 0 ≤ ((v : Int) + 2) ∧ ((v : Int) + 2) < (mN m sc : Int) then if 0 ≤ ((v : Int) + 3) ∧ ((v : Int) + 3) < (mN m sc : Int) then if 0 ≤ ((v : Int) + 4) ∧ ((v : Int) + 4) < (mN m sc : Int) then if 0 ≤ ((v : Int) + 5) ∧ ((v : Int) + 5) < (mN m sc : Int) then if mT m x = 1 then (x1_feed N x (mI m sc ((v : Int) + 1).toNat) (mI m sc ((v : Int) + 2).toNat) (mI m sc ((v : Int) + 3).toNat) (mI m sc ((v : Int) + 4).toNat) (mI m sc ((v : Int) + 5).toNat) m).bind (fun x24 => if 0 ≤ ((v : Int) + 1) ∧ ((v : Int) + 1) < (mN (x24.2) sc : Int) then if 0 ≤ ((v : Int) + 2) ∧ ((v : Int) + 2) < (mN (x24.2) sc : Int) then if 0 ≤ ((v : Int) + 3) ∧ ((v : Int) + 3) < (mN (x24.2) sc : Int) then if 0 ≤ ((v : Int) + 4) ∧ ((v : Int) + 4) < (mN (x24.2) sc : Int) then if 0 ≤ ((v : Int) + 5) ∧ ((v : Int) + 5) < (mN (x24.2) sc : Int) then if TMb (x24.2) h = true then (tw_feed N h (mI (x24.2) sc ((v : Int) + 1).toNat) (mI (x24.2) sc ((v : Int) + 2).toNat) (mI (x24.2) sc ((v : Int) + 3).toNat) (mI (x24.2) sc ((v : Int) + 4).toNat) (mI (x24.2) sc ((v : Int) + 5).toNat) (x24.2)).bind (fun x33 => if x24.1 = x33.1 then KK (x33.2) else some (0, x33.2)) else none else none else none else none else none else none) else none else none else none else none else none else none) Φ := by
  refine Ev.g (by omega) (Ev.g (by omega) (Ev.g (by omega) (Ev.g (by omega) (Ev.g (by omega) (Ev.g M.tx ?_)))))
  obtain ⟨a, b, e1, e2, e3, ⟨e4, e5⟩, e6, e7, e8⟩ := q_feed (a := mI m sc ((v : Int) + 1).toNat) (b := mI m sc ((v : Int) + 2).toNat) (c := mI m sc ((v : Int) + 3).toNat) (d := mI m sc ((v : Int) + 4).toNat) (e := mI m sc ((v : Int) + 5).toNat) hN M
  obtain ⟨z1, z2, z3⟩ := sc_kp e7 ok ts hs
  refine Ev.e e1 ?_
  rw [z2, z3]
  exact Ev.g (by omega) (Ev.g (by omega) (Ev.g (by omega) (Ev.g (by omega) (Ev.g (by omega) (Ev.g e6 (Ev.e e2 (Ev.g e3 (hK b.2 e4 e5 (e7.tr e8)))))))))
/-- the law's act 1 -/
theorem a_end {sc v : Nat}  (M : M1 x h t m) (ok : gOk m) (ts : mT m sc = 94) (hs : sc < x) (hv : v + 7 ≤ mN m sc) (hK : ∀ m', M1 x h (t + 1) m' → Rm x m m' → Kz (fun a => x ≤ a) m m' → Ev (KK m') Φ) : Ev (if 0 ≤ ((v : Int) + 1) ∧ ((v : Int) + 1) < (mN m sc : Int) then if mT m x = 1 then (x1_end x (mI m sc ((v : Int) + 1).toNat) m).bind (fun x39 => if 0 ≤ ((v : Int) + 1) ∧ ((v : Int) + 1) < (mN (x39.2) sc : Int) then if TMb (x39.2) h = true then (tw_end h (mI (x39.2) sc ((v : Int) + 1).toNat) (x39.2)).bind (fun x44 => if x39.1 = x44.1 then KK (x44.2) else some (0, x44.2)) else none else none) else none else none) Φ := by
  refine Ev.g (by omega) (Ev.g M.tx ?_)
  obtain ⟨a, b, e1, e2, e3, ⟨e4, e5⟩, e6, e7, e8⟩ := q_end (a := mI m sc ((v : Int) + 1).toNat)  M
  obtain ⟨z1, z2, z3⟩ := sc_kp e7 ok ts hs
  refine Ev.e e1 ?_
  rw [z2, z3]
  exact Ev.g (by omega) (Ev.g e6 (Ev.e e2 (Ev.g e3 (hK b.2 e4 e5 (e7.tr e8)))))
/-- the law's act 3 -/
theorem a_fault {sc v : Nat}  (M : M1 x h t m) (ok : gOk m) (ts : mT m sc = 94) (hs : sc < x) (hv : v + 7 ≤ mN m sc) (hK : ∀ m', M1 x h (t + 1) m' → Rm x m m' → Kz (fun a => x ≤ a) m m' → Ev (KK m') Φ) : Ev (if 0 ≤ ((v : Int) + 1) ∧ ((v : Int) + 1) < (mN m sc : Int) then if mT m x = 1 then (x1_fault x (mI m sc ((v : Int) + 1).toNat) m).bind (fun x67 => if 0 ≤ ((v : Int) + 1) ∧ ((v : Int) + 1) < (mN m sc : Int) then if TMb m h = true then (tw_fault h (mI m sc ((v : Int) + 1).toNat) m).bind (fun x71 => if x67 = x71.1 then KK (x71.2) else some (0, x71.2)) else none else none) else none else none) Φ := by
  refine Ev.g (by omega) (Ev.g M.tx ?_)
  obtain ⟨a, b, e1, e2, e3, ⟨e4, e5⟩, e6, e7⟩ := q_fault (a := mI m sc ((v : Int) + 1).toNat)  M
  refine Ev.e e1 ?_
  exact Ev.g (by omega) (Ev.g e6 (Ev.e e2 (Ev.g e3 (hK b.2 e4 e5 e7))))
/-- the law's act 15 -/
theorem a_drop {sc v : Nat} (hN : 2000 ≤ N) (M : M1 x h t m) (ok : gOk m) (ts : mT m sc = 94) (hs : sc < x) (hv : v + 7 ≤ mN m sc) (hK : ∀ m', M1 x h (t + 1) m' → Rm x m m' → Kz (fun a => x ≤ a) m m' → Ev (KK m') Φ) : Ev (if mT m x = 1 then (x1_drop N x m).bind (fun x266 => if TMb (x266.2) h = true then (tw_drop N h (x266.2)).bind (fun x270 => if x266.1 = x270.1 then KK (x270.2) else some (0, x270.2)) else none) else none) Φ := by
  refine Ev.g M.tx ?_
  obtain ⟨a, b, e1, e2, e3, ⟨e4, e5⟩, e6, e7, e8⟩ := q_drop  hN M
  obtain ⟨z1, z2, z3⟩ := sc_kp e7 ok ts hs
  refine Ev.e e1 ?_
  exact Ev.g e6 (Ev.e e2 (Ev.g e3 (hK b.2 e4 e5 (e7.tr e8))))
/-- the law's act 18 -/
theorem a_conflict {sc v : Nat} (hN : 2000 ≤ N) (M : M1 x h t m) (ok : gOk m) (ts : mT m sc = 94) (hs : sc < x) (hv : v + 7 ≤ mN m sc) (hK : ∀ m', M1 x h (t + 1) m' → Rm x m m' → Kz (fun a => x ≤ a) m m' → Ev (KK m') Φ) : Ev (if 0 ≤ ((v : Int) + 1) ∧ ((v : Int) + 1) < (mN m sc : Int) then if 0 ≤ ((v : Int) + 2) ∧ ((v : Int) + 2) < (mN m sc : Int) then if mT m x = 1 then (x1_conflict N x (mI m sc ((v : Int) + 1).toNat) (mI m sc ((v : Int) + 2).toNat) m).bind (fun x307 => if 0 ≤ ((v : Int) + 1) ∧ ((v : Int) + 1) < (mN m sc : Int) then if 0 ≤ ((v : Int) + 2) ∧ ((v : Int) + 2) < (mN m sc : Int) then if TMb m h = true then (tw_conflict N h (mI m sc ((v : Int) + 1).toNat) (mI m sc ((v : Int) + 2).toNat) m).bind (fun x312 => if x307 = x312.1 then KK (x312.2) else some (0, x312.2)) else none else none else none) else none else none else none) Φ := by
  refine Ev.g (by omega) (Ev.g (by omega) (Ev.g M.tx ?_))
  obtain ⟨a, b, e1, e2, e3, ⟨e4, e5⟩, e6, e7⟩ := q_conflict (a := mI m sc ((v : Int) + 1).toNat) (b := mI m sc ((v : Int) + 2).toNat) hN M
  refine Ev.e e1 ?_
  exact Ev.g (by omega) (Ev.g (by omega) (Ev.g e6 (Ev.e e2 (Ev.g e3 (hK b.2 e4 e5 e7)))))
/-- the law's act 20 -/
theorem a_base {sc v : Nat} (hN : 500 ≤ N) (M : M1 x h t m) (ok : gOk m) (ts : mT m sc = 94) (hs : sc < x) (hv : v + 7 ≤ mN m sc) (hK : ∀ m', M1 x h (t + 1) m' → Rm x m m' → Kz (fun a => x ≤ a) m m' → Ev (KK m') Φ) : Ev (if 0 ≤ ((v : Int) + 1) ∧ ((v : Int) + 1) < (mN m sc : Int) then if 0 ≤ ((v : Int) + 2) ∧ ((v : Int) + 2) < (mN m sc : Int) then if mT m x = 1 then (x1_base x (mI m sc ((v : Int) + 1).toNat) (mI m sc ((v : Int) + 2).toNat) m).bind (fun x337 => if 0 ≤ ((v : Int) + 1) ∧ ((v : Int) + 1) < (mN m sc : Int) then if 0 ≤ ((v : Int) + 2) ∧ ((v : Int) + 2) < (mN m sc : Int) then if TMb m h = true then (tw_base N h (mI m sc ((v : Int) + 1).toNat) (mI m sc ((v : Int) + 2).toNat) m).bind (fun x342 => if x337 = x342.1 then KK (x342.2) else some (0, x342.2)) else none else none else none) else none else none else none) Φ := by
  refine Ev.g (by omega) (Ev.g (by omega) (Ev.g M.tx ?_))
  obtain ⟨a, b, e1, e2, e3, ⟨e4, e5⟩, e6, e7⟩ := q_base (a := mI m sc ((v : Int) + 1).toNat) (b := mI m sc ((v : Int) + 2).toNat) hN M
  refine Ev.e e1 ?_
  exact Ev.g (by omega) (Ev.g (by omega) (Ev.g e6 (Ev.e e2 (Ev.g e3 (hK b.2 e4 e5 e7)))))
/-- the law's act 22 -/
theorem a_difference {sc v : Nat}  (M : M1 x h t m) (ok : gOk m) (ts : mT m sc = 94) (hs : sc < x) (hv : v + 7 ≤ mN m sc) (hK : ∀ m', M1 x h (t + 1) m' → Rm x m m' → Kz (fun a => x ≤ a) m m' → Ev (KK m') Φ) : Ev (if 0 ≤ ((v : Int) + 1) ∧ ((v : Int) + 1) < (mN m sc : Int) then if 0 ≤ ((v : Int) + 2) ∧ ((v : Int) + 2) < (mN m sc : Int) then if mT m x = 1 then (x1_difference x (mI m sc ((v : Int) + 1).toNat) (mI m sc ((v : Int) + 2).toNat) m).bind (fun x366 => if 0 ≤ ((v : Int) + 1) ∧ ((v : Int) + 1) < (mN m sc : Int) then if 0 ≤ ((v : Int) + 2) ∧ ((v : Int) + 2) < (mN m sc : Int) then if TMb m h = true then (tw_difference h (mI m sc ((v : Int) + 1).toNat) (mI m sc ((v : Int) + 2).toNat) m).bind (fun x371 => if x366 = x371.1 then KK (x371.2) else some (0, x371.2)) else none else none else none) else none else none else none) Φ := by
  refine Ev.g (by omega) (Ev.g (by omega) (Ev.g M.tx ?_))
  obtain ⟨a, b, e1, e2, e3, ⟨e4, e5⟩, e6, e7⟩ := q_difference (a := mI m sc ((v : Int) + 1).toNat) (b := mI m sc ((v : Int) + 2).toNat)  M
  refine Ev.e e1 ?_
  exact Ev.g (by omega) (Ev.g (by omega) (Ev.g e6 (Ev.e e2 (Ev.g e3 (hK b.2 e4 e5 e7)))))
/-- the law's act 24 -/
theorem a_sheet {sc v : Nat}  (M : M1 x h t m) (ok : gOk m) (ts : mT m sc = 94) (hs : sc < x) (hv : v + 7 ≤ mN m sc) (hK : ∀ m', M1 x h (t + 1) m' → Rm x m m' → Kz (fun a => x ≤ a) m m' → Ev (KK m') Φ) : Ev (if 0 ≤ ((v : Int) + 1) ∧ ((v : Int) + 1) < (mN m sc : Int) then if 0 ≤ ((v : Int) + 2) ∧ ((v : Int) + 2) < (mN m sc : Int) then if mT m x = 1 then (x1_sheet x (mI m sc ((v : Int) + 1).toNat) (mI m sc ((v : Int) + 2).toNat) m).bind (fun x395 => if 0 ≤ ((v : Int) + 1) ∧ ((v : Int) + 1) < (mN m sc : Int) then if 0 ≤ ((v : Int) + 2) ∧ ((v : Int) + 2) < (mN m sc : Int) then if TMb m h = true then (tw_sheet h (mI m sc ((v : Int) + 1).toNat) (mI m sc ((v : Int) + 2).toNat) m).bind (fun x400 => if x395 = x400.1 then KK (x400.2) else some (0, x400.2)) else none else none else none) else none else none else none) Φ := by
  refine Ev.g (by omega) (Ev.g (by omega) (Ev.g M.tx ?_))
  obtain ⟨a, b, e1, e2, e3, ⟨e4, e5⟩, e6, e7⟩ := q_sheet (a := mI m sc ((v : Int) + 1).toNat) (b := mI m sc ((v : Int) + 2).toNat)  M
  refine Ev.e e1 ?_
  exact Ev.g (by omega) (Ev.g (by omega) (Ev.g e6 (Ev.e e2 (Ev.g e3 (hK b.2 e4 e5 e7)))))
/-- the law's act 25 -/
theorem a_kind {sc v : Nat} (hN : 200000 ≤ N) (M : M1 x h t m) (ok : gOk m) (ts : mT m sc = 94) (hs : sc < x) (hv : v + 7 ≤ mN m sc) (hK : ∀ m', M1 x h (t + 1) m' → Rm x m m' → Kz (fun a => x ≤ a) m m' → Ev (KK m') Φ) : Ev (if 0 ≤ ((v : Int) + 1) ∧ ((v : Int) + 1) < (mN m sc : Int) then if 0 ≤ ((v : Int) + 2) ∧ ((v : Int) + 2) < (mN m sc : Int) then if 0 ≤ ((v : Int) + 3) ∧ ((v : Int) + 3) < (mN m sc : Int) then if mT m x = 1 then (x1_kind N x (mI m sc ((v : Int) + 1).toNat) (mI m sc ((v : Int) + 2).toNat) (mI m sc ((v : Int) + 3).toNat) m).bind (fun x408 => if 0 ≤ ((v : Int) + 1) ∧ ((v : Int) + 1) < (mN (x408.2) sc : Int) then if 0 ≤ ((v : Int) + 2) ∧ ((v : Int) + 2) < (mN (x408.2) sc : Int) then if 0 ≤ ((v : Int) + 3) ∧ ((v : Int) + 3) < (mN (x408.2) sc : Int) then if TMb (x408.2) h = true then (tw_kind N h (mI (x408.2) sc ((v : Int) + 1).toNat) (mI (x408.2) sc ((v : Int) + 2).toNat) (mI (x408.2) sc ((v : Int) + 3).toNat) (x408.2)).bind (fun x415 => if x408.1 = x415.1 then KK (x415.2) else some (0, x415.2)) else none else none else none else none) else none else none else none else none) Φ := by
  refine Ev.g (by omega) (Ev.g (by omega) (Ev.g (by omega) (Ev.g M.tx ?_)))
  obtain ⟨a, b, e1, e2, e3, ⟨e4, e5⟩, e6, e7, e8⟩ := q_kind (a := mI m sc ((v : Int) + 1).toNat) (b := mI m sc ((v : Int) + 2).toNat) (c := mI m sc ((v : Int) + 3).toNat) hN (mI_rng _ _ _) (mI_rng _ _ _) M
  obtain ⟨z1, z2, z3⟩ := sc_kp e7 ok ts hs
  refine Ev.e e1 ?_
  rw [z2, z3]
  exact Ev.g (by omega) (Ev.g (by omega) (Ev.g (by omega) (Ev.g e6 (Ev.e e2 (Ev.g e3 (hK b.2 e4 e5 (e7.tr e8)))))))
/-- the law's act 26 -/
theorem a_value {sc v : Nat} (hN : 200000 ≤ N) (M : M1 x h t m) (ok : gOk m) (ts : mT m sc = 94) (hs : sc < x) (hv : v + 7 ≤ mN m sc) (hK : ∀ m', M1 x h (t + 1) m' → Rm x m m' → Kz (fun a => x ≤ a) m m' → Ev (KK m') Φ) : Ev (if 0 ≤ ((v : Int) + 1) ∧ ((v : Int) + 1) < (mN m sc : Int) then if 0 ≤ ((v : Int) + 2) ∧ ((v : Int) + 2) < (mN m sc : Int) then if 0 ≤ ((v : Int) + 3) ∧ ((v : Int) + 3) < (mN m sc : Int) then if mT m x = 1 then (x1_value N x (mI m sc ((v : Int) + 1).toNat) (mI m sc ((v : Int) + 2).toNat) (mI m sc ((v : Int) + 3).toNat) m).bind (fun x423 => if 0 ≤ ((v : Int) + 1) ∧ ((v : Int) + 1) < (mN (x423.2) sc : Int) then if 0 ≤ ((v : Int) + 2) ∧ ((v : Int) + 2) < (mN (x423.2) sc : Int) then if 0 ≤ ((v : Int) + 3) ∧ ((v : Int) + 3) < (mN (x423.2) sc : Int) then if TMb (x423.2) h = true then (tw_value N h (mI (x423.2) sc ((v : Int) + 1).toNat) (mI (x423.2) sc ((v : Int) + 2).toNat) (mI (x423.2) sc ((v : Int) + 3).toNat) (x423.2)).bind (fun x430 => if gcmp (x423.1) (x430.1) = 0 then KK (x430.2) else some (0, x430.2)) else none else none else none else none) else none else none else none else none) Φ := by
  refine Ev.g (by omega) (Ev.g (by omega) (Ev.g (by omega) (Ev.g M.tx ?_)))
  obtain ⟨a, b, e1, e2, e3, ⟨e4, e5⟩, e6, e7, e8⟩ := q_value (a := mI m sc ((v : Int) + 1).toNat) (b := mI m sc ((v : Int) + 2).toNat) (c := mI m sc ((v : Int) + 3).toNat) hN (mI_rng _ _ _) (mI_rng _ _ _) M
  obtain ⟨z1, z2, z3⟩ := sc_kp e7 ok ts hs
  refine Ev.e e1 ?_
  rw [z2, z3]
  exact Ev.g (by omega) (Ev.g (by omega) (Ev.g (by omega) (Ev.g e6 (Ev.e e2 (Ev.g (by rw [e3]; exact gcmp_rf _) (hK b.2 e4 e5 (e7.tr e8)))))))
/-- the law's act 27 -/
theorem a_letter {sc v : Nat} (hN : 200000 ≤ N) (M : M1 x h t m) (ok : gOk m) (ts : mT m sc = 94) (hs : sc < x) (hv : v + 7 ≤ mN m sc) (hK : ∀ m', M1 x h (t + 1) m' → Rm x m m' → Kz (fun a => x ≤ a) m m' → Ev (KK m') Φ) : Ev (if 0 ≤ ((v : Int) + 1) ∧ ((v : Int) + 1) < (mN m sc : Int) then if 0 ≤ ((v : Int) + 2) ∧ ((v : Int) + 2) < (mN m sc : Int) then if 0 ≤ ((v : Int) + 3) ∧ ((v : Int) + 3) < (mN m sc : Int) then if 0 ≤ ((v : Int) + 4) ∧ ((v : Int) + 4) < (mN m sc : Int) then if mT m x = 1 then (x1_letter N x (mI m sc ((v : Int) + 1).toNat) (mI m sc ((v : Int) + 2).toNat) (mI m sc ((v : Int) + 3).toNat) (mI m sc ((v : Int) + 4).toNat) m).bind (fun x439 => if 0 ≤ ((v : Int) + 1) ∧ ((v : Int) + 1) < (mN (x439.2) sc : Int) then if 0 ≤ ((v : Int) + 2) ∧ ((v : Int) + 2) < (mN (x439.2) sc : Int) then if 0 ≤ ((v : Int) + 3) ∧ ((v : Int) + 3) < (mN (x439.2) sc : Int) then if 0 ≤ ((v : Int) + 4) ∧ ((v : Int) + 4) < (mN (x439.2) sc : Int) then if TMb (x439.2) h = true then (tw_letter N h (mI (x439.2) sc ((v : Int) + 1).toNat) (mI (x439.2) sc ((v : Int) + 2).toNat) (mI (x439.2) sc ((v : Int) + 3).toNat) (mI (x439.2) sc ((v : Int) + 4).toNat) (x439.2)).bind (fun x447 => if x439.1 = x447.1 then KK (x447.2) else some (0, x447.2)) else none else none else none else none else none) else none else none else none else none else none) Φ := by
  refine Ev.g (by omega) (Ev.g (by omega) (Ev.g (by omega) (Ev.g (by omega) (Ev.g M.tx ?_))))
  obtain ⟨a, b, e1, e2, e3, ⟨e4, e5⟩, e6, e7, e8⟩ := q_letter (a := mI m sc ((v : Int) + 1).toNat) (b := mI m sc ((v : Int) + 2).toNat) (c := mI m sc ((v : Int) + 3).toNat) (d := mI m sc ((v : Int) + 4).toNat) hN (mI_rng _ _ _) (mI_rng _ _ _) M
  obtain ⟨z1, z2, z3⟩ := sc_kp e7 ok ts hs
  refine Ev.e e1 ?_
  rw [z2, z3]
  exact Ev.g (by omega) (Ev.g (by omega) (Ev.g (by omega) (Ev.g (by omega) (Ev.g e6 (Ev.e e2 (Ev.g e3 (hK b.2 e4 e5 (e7.tr e8))))))))
/-- the law's act 29 -/
theorem a_total {sc v : Nat} (hN : 2000 ≤ N) (M : M1 x h t m) (ok : gOk m) (ts : mT m sc = 94) (hs : sc < x) (hv : v + 7 ≤ mN m sc) (hK : ∀ m', M1 x h (t + 1) m' → Rm x m m' → Kz (fun a => x ≤ a) m m' → Ev (KK m') Φ) : Ev (if 0 ≤ ((v : Int) + 1) ∧ ((v : Int) + 1) < (mN m sc : Int) then if mT m x = 1 then (x1_total N x (mI m sc ((v : Int) + 1).toNat) m).bind (fun x470 => if 0 ≤ ((v : Int) + 1) ∧ ((v : Int) + 1) < (mN m sc : Int) then if TMb m h = true then (tw_total N h (mI m sc ((v : Int) + 1).toNat) m).bind (fun x474 => if x470 = x474.1 then KK (x474.2) else some (0, x474.2)) else none else none) else none else none) Φ := by
  refine Ev.g (by omega) (Ev.g M.tx ?_)
  obtain ⟨a, b, e1, e2, e3, ⟨e4, e5⟩, e6, e7⟩ := q_total (a := mI m sc ((v : Int) + 1).toNat) hN M
  refine Ev.e e1 ?_
  exact Ev.g (by omega) (Ev.g e6 (Ev.e e2 (Ev.g e3 (hK b.2 e4 e5 e7))))
end State54
