/-! ===== PHASE 2: the act choose ===== -/
section State38
variable {N x h u b nv nv' pa un fs i j t s k n q a : Nat} {σ σ' τ τ' τ'' r f : gMem} {P : Nat → Nat → Prop} {W : Nat → Prop} {own rt : Nat → Nat} {S S' : Sh} {Gs : Nat → Sh} {g : Nat → Nat → Vl} {v w p : Int} {ax : Int} {ct : Ct}
def cdCh : List (String × Int) := [("java/lang/IndexOutOfBoundsException", 1)]
/-- one cell of the working sheet, on both sides -/
theorem both_cell {rr cc : Nat} {c' : Int} {A : Nat} (R : Rl x h t nv pa un fs Gs g own rt σ τ) (i10 : mI σ x 10 = 0) (h65 : mI τ h 65 = 0) (hr : rr < (Gs 0).1.1.length) (hc : cc < (Gs 0).1.2.length) (kA : CtC σ A ct) (kc : CtB τ h nv c' ct) : (∃ Gs', Rl x h t nv pa un fs Gs' g own rt (wR σ (mR σ (mR σ (rt 0) 2) rr) cc A) (wI τ (h + 5) (12800 + 10 * rr + cc) c')) ∧ Kz (NoT x h) σ (wR σ (mR σ (mR σ (rt 0) 2) rr) cc A) ∧ Ex (TwA h) τ (wI τ (h + 5) (12800 + 10 * rr + cc) c') := by
  have l := R.1.1
  obtain ⟨d1, d2, d3⟩ := R.1.2.2.2.1.1 0 (Or.inl rfl)
  have w := (Wk.rf R.c0.2 R.s0).set (rr := rr) (cc := cc) (A := A) (ct := ct) (c' := c') R.c0.2 l.ok l.z l.z0 d2.2.2.2 hr hc kA kc
  obtain ⟨z1, z2, z3⟩ := w.fin R i10 h65 (R.p0.set (ct := ct) (j := 10 * rr + cc) (fun p hp => kc.pw p hp))
  exact ⟨⟨_, z1⟩, z2, z3⟩
/-- choose -/
theorem op_choose {v1 v2 : Int} (hN : 2000 ≤ N) (R : RL x h t σ τ) : E2 (x1_choose N x v1 v2 σ) (tw_choose N h v1 v2 τ) (OpO x h t cdCh σ τ) := by
  obtain ⟨nv, pa, un, fs, Gs, g, own, rt, R⟩ := R
  have l := R.1.1
  have hh := R.1.2.1.1
  have Rt := R.t0 (v := 0)
  have i0 : mI (wI τ h 0 0) h 0 = 0 := by rw [mIwI2 ⟨rfl, rfl⟩, w32_i (by omega) (by omega)]
  obtain ⟨n, c1, c2, c3, c4, c5, c6, c7, c8, c9⟩ := Rt.cf
  unfold x1_choose tw_choose
  refine E2.rl (E2.re (t_in v1 0 _) ?_)
  rw [c3, w32_i (x := (n : Int) - 1) (by omega) (by omega)]
  by_cases cn : v1 < 0
  · exact E2.lg cn (E2.rf (by rw [if_neg (by omega)]; decide) (E2.r (OpO.ex R (by decide) (by decide))))
  refine E2.lf cn (E2.lg l.1.1 ?_)
  rw [c2]
  by_cases cl : v1 < n
  · obtain ⟨i, rfl⟩ : ∃ i : Nat, v1 = (i : Int) := ⟨v1.toNat, by omega⟩
    have hi : i < n := by omega
    obtain ⟨o18, o19⟩ := c8 (by omega)
    refine E2.lg cl (E2.rg (by rw [if_pos (by omega)]; decide) (E2.lg c4 (E2.lg (by omega) ?_)))
    obtain ⟨own', rt', fs', r, er, b, eb, b1, R2, b3, b4, b5, b6⟩ := both_step (N := N) (by omega) Rt
    refine E2.le er (E2.re eb ?_)
    obtain ⟨n', d1, d2, d3, d4, d5, d6, d7, d8, d9⟩ := R2.cf
    have lr := R2.1.1
    have x18 : mR r x 18 = mR σ x 18 := by rw [b3.2.1]
    have x19 : mR r x 19 = mR σ x 19 := by rw [b3.2.1]
    have e20 : mI r x 20 = mI σ x 20 := b3.2.2.1 20 (by decide) (by decide) (by decide)
    have en : n' = n := by omega
    subst en
    refine E2.lg d6 (E2.lg (by omega) (E2.ll (E2.rg (by omega) (E2.rl (E2.rg (by omega) (E2.rg (by omega) ?_))))))
    rw [tn]
    have R3 := R2.cho (i := i) (by omega)
    have w18 : ¬ StW x (mR σ x 18) := by unfold StW; unfold OutS at o18; omega
    have eC : mR r (mR σ x 18) i = mR σ (mR σ x 18) i := b3.1.rR l.ok (by rw [c4]; decide) w18 i
    obtain ⟨s, hs⟩ : ∃ s, s = wI r (mR r x 19) i 1 := ⟨_, rfl⟩
    obtain ⟨τ3, hτ⟩ : ∃ τ3, τ3 = wI b.2 (h + 52) i 1 := ⟨_, rfl⟩
    obtain ⟨cA, hcA⟩ : ∃ cA, cA = mR σ (mR σ x 18) i := ⟨_, rfl⟩
    have K3 : Kz (NoT x h) r s := by
      rw [hs]
      have K00 : Kz (NoT x h) r r := Kz.rf lr.ok
      exact K00.wI (Or.inr (by rw [x19]; unfold OutS at o19; unfold NoT; omega))
    have Y3 : Ex (TwA h) b.2 τ3 := by rw [hτ]; exact Ex.rf.I (by unfold TwA; omega)
    have ne19 : ¬ x = mR r x 19 := by rw [x19]; unfold OutS at o19; omega
    have s17 : ∀ j, mI s x j = mI r x j := fun j => by rw [hs, mIwI1 (by omega)]
    have s65 : mI τ3 h 65 = 0 := by rw [hτ, mIwI1 (by omega)]; exact b6
    have s0 : mI τ3 h 0 = 0 := by rw [hτ, mIwI1 (by omega), b4.rI (fun p => by have := p.out; omega)]; exact i0
    have eC3 : mR s (mR s x 18) i = cA := by rw [hs, mR_wI, mR_wI, x18, eC, hcA]
    have zs : mZ s = mZ r ∧ mS s = mS r := by rw [hs]; exact ⟨rfl, rfl⟩
    rw [← hs, ← hτ] at R3
    rw [← hs, ← hτ, ← hcA]
    obtain ⟨n3, f1, f2, f3, f4, f5, f6, f7, f8, f9⟩ := R3.cf
    have en3 : n3 = n' := by rw [s17] at f2; omega
    subst en3
    obtain ⟨q1, q2, q3, ⟨q4, q4b, q4c, q4d, q4e, q4f, q4g⟩, q5, ⟨ct4, q6, q7⟩, ct5, q8, q9⟩ := f9 i hi
    rw [eC3] at q1 q2 q3 q6 q8
    have z0 : mI s cA 0 = mI τ3 (h + 46) i := q3 0 (by decide)
    have z1 : mI s cA 1 = mI τ3 (h + 47) i := q3 1 (by decide)
    have z2 : mI s cA 2 = mI τ3 (h + 48) i := q3 2 (by decide)
    have z3 : mI s cA 3 = mI τ3 (h + 51) i := q3 3 (by decide)
    have l3 := R3.1.1
    have C3 := R3.c0
    have T3 := R3.s0
    have n32 := C3.2.1.2.1.2.2.1
    have m10 := C3.2.1.2.2.2
    have pT := T3.pl (N := N) (by decide) (by omega) n32 m10
    have fin : ∀ (Gs' : Nat → Sh) (own4 rt4 : Nat → Nat) (f r3 : gMem), Rl x h t nv (if pa = 40 then 40 else pa + 1) 0 fs' Gs' g own4 rt4 f r3 → Kz (NoT x h) s f → mI f x 17 = mI s x 17 → mZ f ≤ mZ s + 200 → mS f ≤ mS s + 2000 → Ex (TwA h) τ3 r3 → mI r3 h 0 = 0 → E2 ((x1_unsettled N x f).bind fun w => some ((.inl (some (vI w)), f) : gR)) ((tw_unsettled N h r3).bind fun w => some (w, r3)) (OpO x h t cdCh σ τ) := by
      intro Gs' own4 rt4 f r3 R4 Kf e17 zf sf Y4 r0
      obtain ⟨w, ew, fw⟩ := R4.uns hN
      refine E2.le ew (E2.re fw (E2.r ⟨⟨_, _, _, _, _, _, _, _, R4.t1⟩, ⟨((b3.nt hh).tr K3).tr Kf, 0, ?_, ?_, ?_⟩, (((Ex.rf.I (by unfold TwA; omega)).tr (b4.mono (fun a k p => p.ta))).tr Y3).tr Y4, Or.inl ⟨w, rfl, rfl, r0, R4.unsB ew⟩⟩))
      · show mI f x 17 = _
        rw [e17, s17, b3.2.2.1 17 (by decide) (by decide) (by decide)]; omega
      · show mZ f ≤ _; have := b3.2.2.2.2.1; omega
      · show mS f ≤ _; have := b3.2.2.2.2.2; omega
    have same := fin _ _ _ s τ3 R3 (Kz.rf l3.ok) rfl (by omega) (by omega) Ex.rf s0
    refine E2.lg q1 (E2.re (pT _).1 (E2.rg (by omega) (E2.re (pT _).2 ?_)))
    rw [z0, z1, z2, z3, C3.1]
    by_cases k3 : mI τ3 (h + 46) i ≠ 3
    · refine E2.lg k3 (E2.rg k3 (E2.rg (by omega) ?_))
      by_cases k4 : v2 ≠ mI τ3 (h + 51) i
      · exact E2.lg k4 (E2.rg k4 same)
      · refine E2.lf k4 (E2.rf k4 (E2.lg C3.2.1.1 (E2.le (c_mk9 C3.2) ?_)))
        obtain ⟨ax, hax⟩ : ∃ ax, ax = w32 (mI τ3 (h + 46) i - 1) := ⟨_, rfl⟩
        have ha : ax = 0 ∨ ax = 1 := by rw [hax, w32_i (by omega) (by omega)]; omega
        rw [← hax]
        have kA := axA_ls (ax := ax) C3.2
        have n32' := kA.2.2.1
        obtain ⟨kk, k40, k122⟩ := kept_k R3
        have g0 := stG_0 pa Gs
        rw [← g0] at kk
        have J : ∀ id : Int, E2 (x1_choose_j156 N x ax id (axA s (rt' 0) ax) s) (tw_choose_j153 N h b.1 ax (pl (axL (stG pa Gs 0) ax) id) τ3) (OpO x h t cdCh σ τ) := by
          intro id
          have pg := pl_ge (axL (stG pa Gs 0) ax) id
          unfold x1_choose_j156 tw_choose_j153
          refine E2.le (c_placeOf (by omega) kA id) ?_
          by_cases p1 : pl (axL (stG pa Gs 0) ax) id = -1
          · exact E2.lg p1 (E2.rg (by omega) (E2.lg l3.1.1 same))
          · rw [C3.1]
            refine E2.lf p1 (E2.rf (by omega) (E2.lg l3.1.1 (E2.lg C3.2.1.1 (E2.le (c_mk9 C3.2) (E2.lg kA.1 (E2.re (T3.axn (by decide)) ?_))))))
            rw [kA.2.1, w32_i (x := ((axL (stG pa Gs 0) ax).length : Int)) (by omega) (by omega)]
            by_cases p2 : ((axL (stG pa Gs 0) ax).length : Int) ≤ 1
            · exact E2.lg p2 (E2.rg p2 same)
            · obtain ⟨q, eq⟩ : ∃ q : Nat, pl (axL (stG pa Gs 0) ax) id = (q : Int) := ⟨(pl (axL (stG pa Gs 0) ax) id).toNat, by omega⟩
              obtain ⟨m, f, r3, em, em8, ef, er3, ⟨Gs4, own4, R4⟩, y1, y2, y3, y4, y5⟩ := both_goLine (q := q) (ax := ax) (kp := tsN fs' (if pa = 40 then 40 else pa + 1)) hN R3 (by rw [s17]; exact b5) s65 kk k122 k40 (by omega) (by omega)
              rw [eq, b1, inc32 (by omega)]
              refine E2.lf p2 (E2.rf p2 (E2.le (c_mk9 C3.2) (E2.le em (E2.le ef (E2.re er3 ?_)))))
              exact fin _ _ _ f r3 R4 y1 (by rw [y2]) y3 y4 (y5.mono (fun a k p => by have := p.out; unfold TwA; omega)) (by rw [y5.rI (fun p => by have := p.out; omega)]; exact s0)
        by_cases c0 : ax ≠ 0
        · have e1 : ax = 1 := ha.resolve_left c0
          have J2 := J (mI τ3 (h + 48) i)
          subst e1
          exact E2.lg c0 (E2.rg c0 J2)
        · have e1 : ax = 0 := by omega
          have J2 := J (mI τ3 (h + 47) i)
          subst e1
          exact E2.lf c0 (E2.rf c0 J2)
    · refine E2.lf k3 (E2.rf k3 (E2.lg C3.2.1.1 (E2.le (c_row (by omega) C3.2.1 _) (E2.le (c_column (by omega) C3.2.1 _) ?_))))
      have pg1 := pl_ge (stG pa Gs 0).1.1 (mI τ3 (h + 47) i)
      have pg2 := pl_ge (stG pa Gs 0).1.2 (mI τ3 (h + 48) i)
      by_cases p1 : pl (stG pa Gs 0).1.1 (mI τ3 (h + 47) i) = -1
      · exact E2.lg p1 (E2.rg (by omega) same)
      · refine E2.lf p1 (E2.rf (by omega) ?_)
        by_cases p2 : pl (stG pa Gs 0).1.2 (mI τ3 (h + 48) i) = -1
        · exact E2.lg p2 (E2.rg (by omega) same)
        · obtain ⟨rr, er⟩ : ∃ q : Nat, pl (stG pa Gs 0).1.1 (mI τ3 (h + 47) i) = (q : Int) := ⟨(pl (stG pa Gs 0).1.1 (mI τ3 (h + 47) i)).toNat, by omega⟩
          obtain ⟨cc, ec⟩ : ∃ q : Nat, pl (stG pa Gs 0).1.2 (mI τ3 (h + 48) i) = (q : Int) := ⟨(pl (stG pa Gs 0).1.2 (mI τ3 (h + 48) i)).toNat, by omega⟩
          have rw0 := C3.2.2.2.2 rr (by omega)
          rw [er, ec, tn, tn]
          refine E2.lf (by omega) (E2.rf (by omega) (E2.lg C3.2.2.1 (E2.lg (by rw [C3.2.2.2.1]; omega) ?_)))
          have CELL : ∀ (A : Nat) (c' : Int) (ct : Ct), CtC s A ct → CtB τ3 h nv c' ct → E2 (if mT s (mR s (mR s (rt' 0) 2) rr) = 110 then (if A = 0 ∨ gAsg 10 (mT s A) = true then (if 0 ≤ (cc : Int) ∧ (cc : Int) < (mN s (mR s (mR s (rt' 0) 2) rr) : Int) then gLet (wR s (mR s (mR s (rt' 0) 2) rr) cc A) (fun s51 => (x1_unsettled N x s51).bind fun w => some ((.inl (some (vI w)), s51) : gR)) else none) else none) else none) ((tw_setCell h (w32 ((rr : Int) + 1)) (w32 ((cc : Int) + 1)) c' τ3).bind fun x40 => (tw_unsettled N h x40).bind fun w => some (w, x40)) (OpO x h t cdCh σ τ) := by
            intro A c' ct kA kc
            obtain ⟨⟨Gs4, R4⟩, y1, y2⟩ := both_cell (rr := rr) (cc := cc) R3 (by rw [s17]; exact b5) s65 (by omega) (by omega) kA kc
            refine E2.lg rw0.1 (E2.lg kA.asg (E2.lg (by rw [rw0.2.1]; omega) (E2.ll ?_)))
            unfold tw_setCell
            rw [inc32 (by omega), inc32 (by omega), if_pos (by omega), show (12800 + 10 * (((rr + 1 : Nat) : Int) - 1) + ((cc + 1 : Nat) : Int) - 1).toNat = 12800 + 10 * rr + cc by omega]
            exact fin _ _ _ _ _ R4 y1 rfl (by show mZ s ≤ _; omega) (by show mS s ≤ _; omega) y2 (by rw [mIwI1 (by omega)]; exact s0)
          by_cases p3 : v2 = 0
          · exact E2.lg p3 (E2.rg p3 (E2.rg (by omega) (CELL _ _ ct4 q6 q7)))
          · exact E2.lf p3 (E2.rf p3 (E2.rg (by omega) (CELL _ _ ct5 q8 q9)))
  · exact E2.lf cl (E2.rf (by rw [if_neg (by omega)]; decide) (E2.r (OpO.ex R (by decide) (by decide))))
end State38
