/-! ===== PHASE 2: the law's loop: acts with codes (written by gen_act.py) -/
section State53
variable {N x h t : Nat} {m : gMem} {KK : gMem → Option (Int × gMem)} {Φ : Int × gMem → Prop}
/-- the law's act 5 -/
theorem a_insert {sc v : Nat} (hN : 2000 ≤ N) (ht : t ≤ 1000) (M : M1 x h t m) (ok : gOk m) (hx : 0 < x) (hm : 0 < mZ m) (ts : mT m sc = 94) (hs : sc < x) (hv : v + 7 ≤ mN m sc) (hK : ∀ m', M1 x h (t + 1) m' → Rm x m m' → Kz (fun a => x ≤ a) m m' → Ev (KK m') Φ) : Ev (if 0 ≤ ((v : Int) + 1) ∧ ((v : Int) + 1) < (mN m sc : Int) then if 0 ≤ ((v : Int) + 2) ∧ ((v : Int) + 2) < (mN m sc : Int) then (x0_insert N x (mI m sc ((v : Int) + 1).toNat) (mI m sc ((v : Int) + 2).toNat) (h + 57) m).bind (fun x98 => if 0 ≤ ((v : Int) + 1) ∧ ((v : Int) + 1) < (mN (x98.2) sc : Int) then if 0 ≤ ((v : Int) + 2) ∧ ((v : Int) + 2) < (mN (x98.2) sc : Int) then if TMb (x98.2) h = true then (tw_insert N h (mI (x98.2) sc ((v : Int) + 1).toNat) (mI (x98.2) sc ((v : Int) + 2).toNat) (x98.2)).bind (fun x104 => if TMb (x104.2) h = true then (tw_thrown h (x104.2)).bind (fun x108 => if x108 = x98.1 then if x98.1 ≠ 0 then KK (x104.2) else if mT (x104.2) (h + 57) = 101 then if 0 ≤ (0 : Int) ∧ (0 : Int) < (mN (x104.2) (h + 57) : Int) then if gcmp (mL (x104.2) (h + 57) (0 : Int).toNat) (x104.1) = 0 then KK (x104.2) else some (0, x104.2) else none else none else some (0, x104.2)) else none) else none else none else none) else none else none) Φ := by
  refine Ev.g (by omega) (Ev.g (by omega) ?_)
  obtain ⟨kc, m1, b, eu, T1, eG, K1, EV⟩ := (r_insert (a := mI m sc ((v : Int) + 1).toNat) (b := mI m sc ((v : Int) + 2).toNat) hN ht M).ev hx hm hK
  obtain ⟨z1, z2, z3⟩ := sc_kp K1 ok ts hs
  refine Ev.e eu ?_
  (try dsimp only)
  rw [z2, z3]
  exact Ev.g (by omega) (Ev.g (by omega) (Ev.g T1 (Ev.e eG EV)))
/-- the law's act 6 -/
theorem a_remove {sc v : Nat} (hN : 2000 ≤ N) (M : M1 x h t m) (ok : gOk m) (hx : 0 < x) (hm : 0 < mZ m) (ts : mT m sc = 94) (hs : sc < x) (hv : v + 7 ≤ mN m sc) (hK : ∀ m', M1 x h (t + 1) m' → Rm x m m' → Kz (fun a => x ≤ a) m m' → Ev (KK m') Φ) : Ev (if 0 ≤ ((v : Int) + 1) ∧ ((v : Int) + 1) < (mN m sc : Int) then if 0 ≤ ((v : Int) + 2) ∧ ((v : Int) + 2) < (mN m sc : Int) then (x0_remove N x (mI m sc ((v : Int) + 1).toNat) (mI m sc ((v : Int) + 2).toNat) (h + 57) m).bind (fun x115 => if 0 ≤ ((v : Int) + 1) ∧ ((v : Int) + 1) < (mN (x115.2) sc : Int) then if 0 ≤ ((v : Int) + 2) ∧ ((v : Int) + 2) < (mN (x115.2) sc : Int) then if TMb (x115.2) h = true then (tw_remove N h (mI (x115.2) sc ((v : Int) + 1).toNat) (mI (x115.2) sc ((v : Int) + 2).toNat) (x115.2)).bind (fun x121 => if TMb (x121.2) h = true then (tw_thrown h (x121.2)).bind (fun x125 => if x125 = x115.1 then if x115.1 ≠ 0 then KK (x121.2) else if mT (x121.2) (h + 57) = 101 then if 0 ≤ (0 : Int) ∧ (0 : Int) < (mN (x121.2) (h + 57) : Int) then if gcmp (mL (x121.2) (h + 57) (0 : Int).toNat) (x121.1) = 0 then KK (x121.2) else some (0, x121.2) else none else none else some (0, x121.2)) else none) else none else none else none) else none else none) Φ := by
  refine Ev.g (by omega) (Ev.g (by omega) ?_)
  obtain ⟨kc, m1, b, eu, T1, eG, K1, EV⟩ := (r_remove (a := mI m sc ((v : Int) + 1).toNat) (b := mI m sc ((v : Int) + 2).toNat) hN M).ev hx hm hK
  obtain ⟨z1, z2, z3⟩ := sc_kp K1 ok ts hs
  refine Ev.e eu ?_
  (try dsimp only)
  rw [z2, z3]
  exact Ev.g (by omega) (Ev.g (by omega) (Ev.g T1 (Ev.e eG EV)))
/-- the law's act 7 -/
theorem a_move {sc v : Nat} (hN : 2000 ≤ N) (M : M1 x h t m) (ok : gOk m) (hx : 0 < x) (hm : 0 < mZ m) (ts : mT m sc = 94) (hs : sc < x) (hv : v + 7 ≤ mN m sc) (hK : ∀ m', M1 x h (t + 1) m' → Rm x m m' → Kz (fun a => x ≤ a) m m' → Ev (KK m') Φ) : Ev (if 0 ≤ ((v : Int) + 1) ∧ ((v : Int) + 1) < (mN m sc : Int) then if 0 ≤ ((v : Int) + 2) ∧ ((v : Int) + 2) < (mN m sc : Int) then if 0 ≤ ((v : Int) + 3) ∧ ((v : Int) + 3) < (mN m sc : Int) then (x0_move N x (mI m sc ((v : Int) + 1).toNat) (mI m sc ((v : Int) + 2).toNat) (mI m sc ((v : Int) + 3).toNat) (h + 57) m).bind (fun x133 => if 0 ≤ ((v : Int) + 1) ∧ ((v : Int) + 1) < (mN (x133.2) sc : Int) then if 0 ≤ ((v : Int) + 2) ∧ ((v : Int) + 2) < (mN (x133.2) sc : Int) then if 0 ≤ ((v : Int) + 3) ∧ ((v : Int) + 3) < (mN (x133.2) sc : Int) then if TMb (x133.2) h = true then (tw_move N h (mI (x133.2) sc ((v : Int) + 1).toNat) (mI (x133.2) sc ((v : Int) + 2).toNat) (mI (x133.2) sc ((v : Int) + 3).toNat) (x133.2)).bind (fun x140 => if TMb (x140.2) h = true then (tw_thrown h (x140.2)).bind (fun x144 => if x144 = x133.1 then if x133.1 ≠ 0 then KK (x140.2) else if mT (x140.2) (h + 57) = 101 then if 0 ≤ (0 : Int) ∧ (0 : Int) < (mN (x140.2) (h + 57) : Int) then if gcmp (mL (x140.2) (h + 57) (0 : Int).toNat) (x140.1) = 0 then KK (x140.2) else some (0, x140.2) else none else none else some (0, x140.2)) else none) else none else none else none else none) else none else none else none) Φ := by
  refine Ev.g (by omega) (Ev.g (by omega) (Ev.g (by omega) ?_))
  obtain ⟨kc, m1, b, eu, T1, eG, K1, EV⟩ := (r_move (a := mI m sc ((v : Int) + 1).toNat) (b := mI m sc ((v : Int) + 2).toNat) (c := mI m sc ((v : Int) + 3).toNat) hN M).ev hx hm hK
  obtain ⟨z1, z2, z3⟩ := sc_kp K1 ok ts hs
  refine Ev.e eu ?_
  (try dsimp only)
  rw [z2, z3]
  exact Ev.g (by omega) (Ev.g (by omega) (Ev.g (by omega) (Ev.g T1 (Ev.e eG EV))))
/-- the law's act 10 -/
theorem a_undo {sc v : Nat} (hN : 2000 ≤ N) (M : M1 x h t m) (ok : gOk m) (hx : 0 < x) (hm : 0 < mZ m) (ts : mT m sc = 94) (hs : sc < x) (hv : v + 7 ≤ mN m sc) (hK : ∀ m', M1 x h (t + 1) m' → Rm x m m' → Kz (fun a => x ≤ a) m m' → Ev (KK m') Φ) : Ev ((x0_undo x (h + 57) m).bind (fun x196 => if TMb (x196.2) h = true then (tw_undo N h (x196.2)).bind (fun x200 => if TMb (x200.2) h = true then (tw_thrown h (x200.2)).bind (fun x204 => if x204 = x196.1 then if x196.1 ≠ 0 then KK (x200.2) else if mT (x200.2) (h + 57) = 101 then if 0 ≤ (0 : Int) ∧ (0 : Int) < (mN (x200.2) (h + 57) : Int) then if gcmp (mL (x200.2) (h + 57) (0 : Int).toNat) (x200.1) = 0 then KK (x200.2) else some (0, x200.2) else none else none else some (0, x200.2)) else none) else none)) Φ := by
  obtain ⟨kc, m1, b, eu, T1, eG, K1, EV⟩ := (r_undo  hN M).ev hx hm hK
  obtain ⟨z1, z2, z3⟩ := sc_kp K1 ok ts hs
  refine Ev.e eu ?_
  (try dsimp only)
  exact Ev.g T1 (Ev.e eG EV)
/-- the law's act 11 -/
theorem a_redo {sc v : Nat} (hN : 2000 ≤ N) (M : M1 x h t m) (ok : gOk m) (hx : 0 < x) (hm : 0 < mZ m) (ts : mT m sc = 94) (hs : sc < x) (hv : v + 7 ≤ mN m sc) (hK : ∀ m', M1 x h (t + 1) m' → Rm x m m' → Kz (fun a => x ≤ a) m m' → Ev (KK m') Φ) : Ev ((x0_redo x (h + 57) m).bind (fun x209 => if TMb (x209.2) h = true then (tw_redo N h (x209.2)).bind (fun x213 => if TMb (x213.2) h = true then (tw_thrown h (x213.2)).bind (fun x217 => if x217 = x209.1 then if x209.1 ≠ 0 then KK (x213.2) else if mT (x213.2) (h + 57) = 101 then if 0 ≤ (0 : Int) ∧ (0 : Int) < (mN (x213.2) (h + 57) : Int) then if gcmp (mL (x213.2) (h + 57) (0 : Int).toNat) (x213.1) = 0 then KK (x213.2) else some (0, x213.2) else none else none else some (0, x213.2)) else none) else none)) Φ := by
  obtain ⟨kc, m1, b, eu, T1, eG, K1, EV⟩ := (r_redo  hN M).ev hx hm hK
  obtain ⟨z1, z2, z3⟩ := sc_kp K1 ok ts hs
  refine Ev.e eu ?_
  (try dsimp only)
  exact Ev.g T1 (Ev.e eG EV)
/-- the law's act 12 -/
theorem a_commit {sc v : Nat} (hN : 200000 ≤ N) (M : M1 x h t m) (ok : gOk m) (hx : 0 < x) (hm : 0 < mZ m) (ts : mT m sc = 94) (hs : sc < x) (hv : v + 7 ≤ mN m sc) (hK : ∀ m', M1 x h (t + 1) m' → Rm x m m' → Kz (fun a => x ≤ a) m m' → Ev (KK m') Φ) : Ev ((x0_commit N x (h + 57) m).bind (fun x222 => if TMb (x222.2) h = true then (tw_commit N h (x222.2)).bind (fun x226 => if TMb (x226.2) h = true then (tw_thrown h (x226.2)).bind (fun x230 => if x230 = x222.1 then if x222.1 ≠ 0 then KK (x226.2) else if mT (x226.2) (h + 57) = 101 then if 0 ≤ (0 : Int) ∧ (0 : Int) < (mN (x226.2) (h + 57) : Int) then if gcmp (mL (x226.2) (h + 57) (0 : Int).toNat) (x226.1) = 0 then KK (x226.2) else some (0, x226.2) else none else none else some (0, x226.2)) else none) else none)) Φ := by
  obtain ⟨kc, m1, b, eu, T1, eG, K1, EV⟩ := (r_commit  hN M).ev hx hm hK
  obtain ⟨z1, z2, z3⟩ := sc_kp K1 ok ts hs
  refine Ev.e eu ?_
  (try dsimp only)
  exact Ev.g T1 (Ev.e eG EV)
/-- the law's act 13 -/
theorem a_branch {sc v : Nat}  (M : M1 x h t m) (ok : gOk m) (hx : 0 < x) (hm : 0 < mZ m) (ts : mT m sc = 94) (hs : sc < x) (hv : v + 7 ≤ mN m sc) (hK : ∀ m', M1 x h (t + 1) m' → Rm x m m' → Kz (fun a => x ≤ a) m m' → Ev (KK m') Φ) : Ev (if 0 ≤ ((v : Int) + 1) ∧ ((v : Int) + 1) < (mN m sc : Int) then (x0_branch x (mI m sc ((v : Int) + 1).toNat) (h + 57) m).bind (fun x236 => if 0 ≤ ((v : Int) + 1) ∧ ((v : Int) + 1) < (mN (x236.2) sc : Int) then if TMb (x236.2) h = true then (tw_branch h (mI (x236.2) sc ((v : Int) + 1).toNat) (x236.2)).bind (fun x241 => if TMb (x241.2) h = true then (tw_thrown h (x241.2)).bind (fun x245 => if x245 = x236.1 then if x236.1 ≠ 0 then KK (x241.2) else if mT (x241.2) (h + 57) = 101 then if 0 ≤ (0 : Int) ∧ (0 : Int) < (mN (x241.2) (h + 57) : Int) then if gcmp (mL (x241.2) (h + 57) (0 : Int).toNat) (x241.1) = 0 then KK (x241.2) else some (0, x241.2) else none else none else some (0, x241.2)) else none) else none else none) else none) Φ := by
  refine Ev.g (by omega) ?_
  obtain ⟨kc, m1, b, eu, T1, eG, K1, EV⟩ := (r_branch (a := mI m sc ((v : Int) + 1).toNat)  M).ev hx hm hK
  obtain ⟨z1, z2, z3⟩ := sc_kp K1 ok ts hs
  refine Ev.e eu ?_
  (try dsimp only)
  rw [z2, z3]
  exact Ev.g (by omega) (Ev.g T1 (Ev.e eG EV))
/-- the law's act 14 -/
theorem a_go {sc v : Nat} (hN : 2000 ≤ N) (M : M1 x h t m) (ok : gOk m) (hx : 0 < x) (hm : 0 < mZ m) (ts : mT m sc = 94) (hs : sc < x) (hv : v + 7 ≤ mN m sc) (hK : ∀ m', M1 x h (t + 1) m' → Rm x m m' → Kz (fun a => x ≤ a) m m' → Ev (KK m') Φ) : Ev (if 0 ≤ ((v : Int) + 1) ∧ ((v : Int) + 1) < (mN m sc : Int) then (x0_go N x (mI m sc ((v : Int) + 1).toNat) (h + 57) m).bind (fun x251 => if 0 ≤ ((v : Int) + 1) ∧ ((v : Int) + 1) < (mN (x251.2) sc : Int) then if TMb (x251.2) h = true then (tw_go N h (mI (x251.2) sc ((v : Int) + 1).toNat) (x251.2)).bind (fun x256 => if TMb (x256.2) h = true then (tw_thrown h (x256.2)).bind (fun x260 => if x260 = x251.1 then if x251.1 ≠ 0 then KK (x256.2) else if mT (x256.2) (h + 57) = 101 then if 0 ≤ (0 : Int) ∧ (0 : Int) < (mN (x256.2) (h + 57) : Int) then if gcmp (mL (x256.2) (h + 57) (0 : Int).toNat) (x256.1) = 0 then KK (x256.2) else some (0, x256.2) else none else none else some (0, x256.2)) else none) else none else none) else none) Φ := by
  refine Ev.g (by omega) ?_
  obtain ⟨kc, m1, b, eu, T1, eG, K1, EV⟩ := (r_go (a := mI m sc ((v : Int) + 1).toNat) hN M).ev hx hm hK
  obtain ⟨z1, z2, z3⟩ := sc_kp K1 ok ts hs
  refine Ev.e eu ?_
  (try dsimp only)
  rw [z2, z3]
  exact Ev.g (by omega) (Ev.g T1 (Ev.e eG EV))
/-- the law's act 21 -/
theorem a_diff {sc v : Nat} (hN : 2000 ≤ N) (M : M1 x h t m) (ok : gOk m) (hx : 0 < x) (hm : 0 < mZ m) (ts : mT m sc = 94) (hs : sc < x) (hv : v + 7 ≤ mN m sc) (hK : ∀ m', M1 x h (t + 1) m' → Rm x m m' → Kz (fun a => x ≤ a) m m' → Ev (KK m') Φ) : Ev (if 0 ≤ ((v : Int) + 1) ∧ ((v : Int) + 1) < (mN m sc : Int) then if 0 ≤ ((v : Int) + 2) ∧ ((v : Int) + 2) < (mN m sc : Int) then (x0_diff N x (mI m sc ((v : Int) + 1).toNat) (mI m sc ((v : Int) + 2).toNat) (h + 57) m).bind (fun x348 => if 0 ≤ ((v : Int) + 1) ∧ ((v : Int) + 1) < (mN (x348.2) sc : Int) then if 0 ≤ ((v : Int) + 2) ∧ ((v : Int) + 2) < (mN (x348.2) sc : Int) then if TMb (x348.2) h = true then (tw_diff N h (mI (x348.2) sc ((v : Int) + 1).toNat) (mI (x348.2) sc ((v : Int) + 2).toNat) (x348.2)).bind (fun x354 => if TMb (x354.2) h = true then (tw_thrown h (x354.2)).bind (fun x358 => if x358 = x348.1 then if x348.1 ≠ 0 then KK (x354.2) else if mT (x354.2) (h + 57) = 101 then if 0 ≤ (0 : Int) ∧ (0 : Int) < (mN (x354.2) (h + 57) : Int) then if gcmp (mL (x354.2) (h + 57) (0 : Int).toNat) (x354.1) = 0 then KK (x354.2) else some (0, x354.2) else none else none else some (0, x354.2)) else none) else none else none else none) else none else none) Φ := by
  refine Ev.g (by omega) (Ev.g (by omega) ?_)
  obtain ⟨kc, m1, b, eu, T1, eG, K1, EV⟩ := (r_diff (a := mI m sc ((v : Int) + 1).toNat) (b := mI m sc ((v : Int) + 2).toNat) hN M).ev hx hm hK
  obtain ⟨z1, z2, z3⟩ := sc_kp K1 ok ts hs
  refine Ev.e eu ?_
  (try dsimp only)
  rw [z2, z3]
  exact Ev.g (by omega) (Ev.g (by omega) (Ev.g T1 (Ev.e eG EV)))
/-- the law's act 23 -/
theorem a_blame {sc v : Nat} (hN : 2000 ≤ N) (M : M1 x h t m) (ok : gOk m) (hx : 0 < x) (hm : 0 < mZ m) (ts : mT m sc = 94) (hs : sc < x) (hv : v + 7 ≤ mN m sc) (hK : ∀ m', M1 x h (t + 1) m' → Rm x m m' → Kz (fun a => x ≤ a) m m' → Ev (KK m') Φ) : Ev (if 0 ≤ ((v : Int) + 1) ∧ ((v : Int) + 1) < (mN m sc : Int) then if 0 ≤ ((v : Int) + 2) ∧ ((v : Int) + 2) < (mN m sc : Int) then (x0_blame N x (mI m sc ((v : Int) + 1).toNat) (mI m sc ((v : Int) + 2).toNat) (h + 57) m).bind (fun x377 => if 0 ≤ ((v : Int) + 1) ∧ ((v : Int) + 1) < (mN (x377.2) sc : Int) then if 0 ≤ ((v : Int) + 2) ∧ ((v : Int) + 2) < (mN (x377.2) sc : Int) then if TMb (x377.2) h = true then (tw_blame N h (mI (x377.2) sc ((v : Int) + 1).toNat) (mI (x377.2) sc ((v : Int) + 2).toNat) (x377.2)).bind (fun x383 => if TMb (x383.2) h = true then (tw_thrown h (x383.2)).bind (fun x387 => if x387 = x377.1 then if x377.1 ≠ 0 then KK (x383.2) else if mT (x383.2) (h + 57) = 101 then if 0 ≤ (0 : Int) ∧ (0 : Int) < (mN (x383.2) (h + 57) : Int) then if gcmp (mL (x383.2) (h + 57) (0 : Int).toNat) (x383.1) = 0 then KK (x383.2) else some (0, x383.2) else none else none else some (0, x383.2)) else none) else none else none else none) else none else none) Φ := by
  refine Ev.g (by omega) (Ev.g (by omega) ?_)
  obtain ⟨kc, m1, b, eu, T1, eG, K1, EV⟩ := (r_blame (a := mI m sc ((v : Int) + 1).toNat) (b := mI m sc ((v : Int) + 2).toNat) hN (mI_rng _ _ _) (mI_rng _ _ _) M).ev hx hm hK
  obtain ⟨z1, z2, z3⟩ := sc_kp K1 ok ts hs
  refine Ev.e eu ?_
  (try dsimp only)
  rw [z2, z3]
  exact Ev.g (by omega) (Ev.g (by omega) (Ev.g T1 (Ev.e eG EV)))
end State53
