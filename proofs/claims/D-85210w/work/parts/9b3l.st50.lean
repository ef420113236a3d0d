/-! ===== PHASE 2: the law's loop: what follows an act with a code -/
section State50
variable {N x h t : Nat} {m : gMem} {KK : gMem → Option (Int × gMem)} {Φ : Int × gMem → Prop} {u : Option (Int × gMem)} {G : gMem → Option (Int × gMem)}
def tlX (h o : Nat) (kc : Int) (KK : gMem → Option (Int × gMem)) (b : Int × gMem) : Option (Int × gMem) := if TMb b.2 h = true then (tw_thrown h b.2).bind (fun x91 => if x91 = kc then if kc ≠ 0 then KK b.2 else if mT b.2 o = 101 then if 0 ≤ (0 : Int) ∧ (0 : Int) < (mN b.2 o : Int) then if gcmp (mL b.2 o (0 : Int).toNat) b.1 = 0 then KK b.2 else some (0, b.2) else none else none else some (0, b.2)) else none
theorem gcmp_rf (v : Int) : gcmp v v = 0 := by unfold gcmp; rw [if_neg (by omega), if_pos rfl]
/-- where an act ends well, the law goes on -/
theorem RX.ev (r : RX x h t m u G) (hx : 0 < x) (hm : 0 < mZ m) (hK : ∀ m', M1 x h (t + 1) m' → Rm x m m' → Kz (fun a => x ≤ a) m m' → Ev (KK m') Φ) : ∃ kc m1 b, u = some (kc, m1) ∧ TMb m1 h = true ∧ G m1 = some b ∧ Kz (fun a => x ≤ a) m m1 ∧ Ev (tlX h (h + 57) kc KK b) Φ := by
  obtain ⟨kc, m1, b, e1, e2, e3, e4, ⟨o1, o2⟩, ⟨M, rm⟩, ⟨T1, T2⟩, K1, K2⟩ := r
  refine ⟨kc, m1, b, e1, T1, e2, K1, ?_⟩
  have go := hK b.2 M rm (K1.tr K2)
  unfold tlX tw_thrown
  refine Ev.g T2 (Ev.e rfl (Ev.g e3 ?_))
  by_cases c : kc ≠ 0
  · exact Ev.g c go
  · refine Ev.f c (Ev.g o1 (Ev.g ⟨by decide, by omega⟩ (Ev.g ?_ go)))
    have z := e4 (by omega)
    show gcmp (mL b.2 (h + 57) 0) b.1 = 0
    rw [z]; exact gcmp_rf _
/-- a row of numbers below the class's object stays -/
theorem sc_kp {sc : Nat} {m1 : gMem} (K : Kz (fun a => x ≤ a) m m1) (ok : gOk m) (ts : mT m sc = 94) (hs : sc < x) : mT m1 sc = 94 ∧ mN m1 sc = mN m sc ∧ mI m1 sc = mI m sc := by
  have t : mT m sc ≠ 0 := by rw [ts]; decide
  exact ⟨by rw [K.tag ok t]; exact ts, K.len ok t, funext fun j => K.rI ok t (by omega) j⟩
/-- the law's act 4 -/
theorem a_erase {sc v : Nat} (hN : 2000 ≤ N) (M : M1 x h t m) (ok : gOk m) (hx : 0 < x) (hm : 0 < mZ m) (ts : mT m sc = 94) (hs : sc < x) (hv : v + 7 ≤ mN m sc) (hK : ∀ m', M1 x h (t + 1) m' → Rm x m m' → Kz (fun a => x ≤ a) m m' → Ev (KK m') Φ) : Ev (if 0 ≤ ((v : Int) + 1) ∧ ((v : Int) + 1) < (mN m sc : Int) then if 0 ≤ ((v : Int) + 2) ∧ ((v : Int) + 2) < (mN m sc : Int) then if 0 ≤ ((v : Int) + 3) ∧ ((v : Int) + 3) < (mN m sc : Int) then if 0 ≤ ((v : Int) + 4) ∧ ((v : Int) + 4) < (mN m sc : Int) then (x0_erase N x (mI m sc ((v : Int) + 1).toNat) (mI m sc ((v : Int) + 2).toNat) (mI m sc ((v : Int) + 3).toNat) (mI m sc ((v : Int) + 4).toNat) (h + 57) m).bind (fun x79 => if 0 ≤ ((v : Int) + 1) ∧ ((v : Int) + 1) < (mN (x79.2) sc : Int) then if 0 ≤ ((v : Int) + 2) ∧ ((v : Int) + 2) < (mN (x79.2) sc : Int) then if 0 ≤ ((v : Int) + 3) ∧ ((v : Int) + 3) < (mN (x79.2) sc : Int) then if 0 ≤ ((v : Int) + 4) ∧ ((v : Int) + 4) < (mN (x79.2) sc : Int) then if TMb (x79.2) h = true then (tw_erase N h (mI (x79.2) sc ((v : Int) + 1).toNat) (mI (x79.2) sc ((v : Int) + 2).toNat) (mI (x79.2) sc ((v : Int) + 3).toNat) (mI (x79.2) sc ((v : Int) + 4).toNat) (x79.2)).bind (fun x87 => tlX h (h + 57) x79.1 KK x87) else none else none else none else none else none) else none else none else none else none) Φ := by
  refine Ev.g (by omega) (Ev.g (by omega) (Ev.g (by omega) (Ev.g (by omega) ?_)))
  obtain ⟨kc, m1, b, eu, T1, eG, K1, EV⟩ := (r_erase (a := mI m sc ((v : Int) + 1).toNat) (b := mI m sc ((v : Int) + 2).toNat) (c := mI m sc ((v : Int) + 3).toNat) (d := mI m sc ((v : Int) + 4).toNat) hN (mI_rng _ _ _) (mI_rng _ _ _) (mI_rng _ _ _) (mI_rng _ _ _) M).ev hx hm hK
  obtain ⟨z1, z2, z3⟩ := sc_kp K1 ok ts hs
  refine Ev.e eu ?_
  (try dsimp only)
  rw [z2, z3]
  exact Ev.g (by omega) (Ev.g (by omega) (Ev.g (by omega) (Ev.g (by omega) (Ev.g T1 (Ev.e eG EV)))))
end State50
