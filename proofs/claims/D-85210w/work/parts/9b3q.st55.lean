/-! ===== PHASE 2: the law's loop: sort, choose (their flag is read out of the script) -/
section State55
variable {N x h t : Nat} {m : gMem} {Φ : Int × gMem → Prop} {Kh : Int → gMem → Option (Int × gMem)} {K : gMem → Option (Int × gMem)}
theorem a_sort {sc v : Nat} {w : Int} (hN : 200000 ≤ N) (M : M1 x h t m) (ok : gOk m) (hx : 0 < x) (hm : 0 < mZ m) (ts : mT m sc = 94) (hs : sc < x) (hv : v + 7 ≤ mN m sc) (hw : (mI m sc ((v : Int) + 4).toNat = 0 ∧ w = 0) ∨ (mI m sc ((v : Int) + 4).toNat ≠ 0 ∧ w = 1)) (hK : ∀ m', M1 x h (t + 1) m' → Rm x m m' → Kz (fun a => x ≤ a) m m' → Ev (l_law_l23_j1884 N sc x h (h + 57) v Kh K m') Φ) : Ev (l_law_l23_j826 N sc x h (h + 57) v w (mI m sc ((v : Int) + 3).toNat) (mI m sc ((v : Int) + 2).toNat) (mI m sc ((v : Int) + 1).toNat) x Kh K m) Φ := by
  unfold l_law_l23_j826
  obtain ⟨kc, m1, b, eu, T1, eG, K1, EV⟩ := (r_sort (a := mI m sc ((v : Int) + 1).toNat) (b := mI m sc ((v : Int) + 2).toNat) (c := mI m sc ((v : Int) + 3).toNat) (d := w) hN (mI_rng _ _ _) (mI_rng _ _ _) (mI_rng _ _ _) (by omega) M).ev hx hm hK
  obtain ⟨z1, z2, z3⟩ := sc_kp K1 ok ts hs
  refine Ev.e eu ?_
  (try dsimp only)
  rw [z2, z3]
  refine Ev.g z1 (Ev.g (by omega) (Ev.g (by omega) (Ev.g (by omega) (Ev.g (by omega) ?_))))
  unfold l_law_l23_j865
  rcases hw with ⟨w1, w2⟩ | ⟨w1, w2⟩
  · rw [w2] at eG
    exact Ev.g w1 (Ev.g T1 (Ev.e eG EV))
  · rw [w2] at eG
    exact Ev.f w1 (Ev.g T1 (Ev.e eG EV))
theorem a_choose {sc v : Nat} {w : Int} (hN : 2000 ≤ N) (M : M1 x h t m) (ok : gOk m) (hx : 0 < x) (hm : 0 < mZ m) (ts : mT m sc = 94) (hs : sc < x) (hv : v + 7 ≤ mN m sc) (hw : (mI m sc ((v : Int) + 2).toNat = 0 ∧ w = 0) ∨ (mI m sc ((v : Int) + 2).toNat ≠ 0 ∧ w = 1)) (hK : ∀ m', M1 x h (t + 1) m' → Rm x m m' → Kz (fun a => x ≤ a) m m' → Ev (l_law_l23_j1884 N sc x h (h + 57) v Kh K m') Φ) : Ev (l_law_l23_j1328 N sc x h (h + 57) v w (mI m sc ((v : Int) + 1).toNat) x Kh K m) Φ := by
  unfold l_law_l23_j1328
  obtain ⟨kc, m1, b, eu, T1, eG, K1, EV⟩ := (r_choose (a := mI m sc ((v : Int) + 1).toNat) (b := w) hN M).ev hx hm hK
  obtain ⟨z1, z2, z3⟩ := sc_kp K1 ok ts hs
  refine Ev.e eu ?_
  (try dsimp only)
  rw [z2, z3]
  refine Ev.g z1 (Ev.g (by omega) (Ev.g (by omega) ?_))
  unfold l_law_l23_j1355
  rcases hw with ⟨w1, w2⟩ | ⟨w1, w2⟩
  · rw [w2] at eG
    exact Ev.g w1 (Ev.g T1 (Ev.e eG EV))
  · rw [w2] at eG
    exact Ev.f w1 (Ev.g T1 (Ev.e eG EV))
end State55
