/-! ===== PHASE 2: the law's loop: enter (written by gen_act3.py) -/
section State59a
variable {N x h t : Nat} {m : gMem} {KK : gMem → Option (Int × gMem)} {Φ : Int × gMem → Prop}
theorem r_enter {a b : Int} (hN : 2000 ≤ N) (ht : t ≤ 150) (ga : g32 a) (gb : g32 b) (M : M1 x h t m) : RX x h t m (x0_enter N x a b (h + 57) m) (tw_enter N h a b) :=
  run_x0 (cd := cdEn) (F := x1_enter N x a b) (C := fun E6 s7 => if E6 = "java/lang/IndexOutOfBoundsException" then some (1, s7) else if E6 = "java/lang/IllegalArgumentException" then some (2, s7) else if E6 = "java/lang/UnsupportedOperationException" then some (3, s7) else none) (fun σ τ R => op_enter hN ht R ga gb) (fun E k s hm => by
    simp only [cdEn, List.mem_cons, Prod.mk.injEq, List.not_mem_nil, or_false] at hm
    rcases hm with ⟨e1, e2⟩ | ⟨e1, e2⟩ | ⟨e1, e2⟩ <;> subst e1 e2 <;> simp) M
/-- the law's act 2 -/
theorem a_enter {sc v : Nat} (hN : 2000 ≤ N) (ht : t ≤ 150) (M : M1 x h t m) (ok : gOk m) (hx : 0 < x) (hm : 0 < mZ m) (ts : mT m sc = 94) (hs : sc < x) (hv : v + 7 ≤ mN m sc) (hK : ∀ m', M1 x h (t + 1) m' → Rm x m m' → Kz (fun a => x ≤ a) m m' → Ev (KK m') Φ) : Ev (if 0 ≤ ((v : Int) + 1) ∧ ((v : Int) + 1) < (mN m sc : Int) then if 0 ≤ ((v : Int) + 2) ∧ ((v : Int) + 2) < (mN m sc : Int) then (x0_enter N x (mI m sc ((v : Int) + 1).toNat) (mI m sc ((v : Int) + 2).toNat) (h + 57) m).bind (fun x50 => if 0 ≤ ((v : Int) + 1) ∧ ((v : Int) + 1) < (mN (x50.2) sc : Int) then if 0 ≤ ((v : Int) + 2) ∧ ((v : Int) + 2) < (mN (x50.2) sc : Int) then if TMb (x50.2) h = true then (tw_enter N h (mI (x50.2) sc ((v : Int) + 1).toNat) (mI (x50.2) sc ((v : Int) + 2).toNat) (x50.2)).bind (fun x56 => if TMb (x56.2) h = true then (tw_thrown h (x56.2)).bind (fun x60 => if x60 = x50.1 then if x50.1 ≠ 0 then KK (x56.2) else if mT (x56.2) (h + 57) = 101 then if 0 ≤ (0 : Int) ∧ (0 : Int) < (mN (x56.2) (h + 57) : Int) then if gcmp (mL (x56.2) (h + 57) (0 : Int).toNat) (x56.1) = 0 then KK (x56.2) else some (0, x56.2) else none else none else some (0, x56.2)) else none) else none else none else none) else none else none) Φ := by
  refine Ev.g (by omega) (Ev.g (by omega) ?_)
  obtain ⟨kc, m1, b, eu, T1, eG, K1, EV⟩ := (r_enter (a := mI m sc ((v : Int) + 1).toNat) (b := mI m sc ((v : Int) + 2).toNat) hN ht (mI_rng _ _ _) (mI_rng _ _ _) M).ev hx hm hK
  obtain ⟨z1, z2, z3⟩ := sc_kp K1 ok ts hs
  refine Ev.e eu ?_
  (try dsimp only)
  rw [z2, z3]
  exact Ev.g (by omega) (Ev.g (by omega) (Ev.g T1 (Ev.e eG EV)))
end State59a
