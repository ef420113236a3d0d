/-! ===== PHASE 2: the act copy ===== -/
section State69
variable {N x h t u nv nv' pa un fs i j k q0 q1 u0 u1 C Rr kp mv M0 : Nat} {σ σ' s τ τ' τ'' r f m sB rB : gMem} {P : Nat → Nat → Prop} {W : Nat → Prop} {own rt : Nat → Nat} {S S' S0 : Sh} {Gs Gs' : Nat → Sh} {g : Nat → Nat → Vl} {a A : Nat} {ct : Ct} {c c' v5 v6 : Int} {fl : Int → List Int × List Int} {dr dc : Int}
theorem cp_n {K : Int → gMem → Option gR} {Kt : Int → gMem → Option (Int × gMem)} {Φ : gR → Int × gMem → Prop} (hN : 400 ≤ N) (R : Rl x h t nv pa un fs Gs g own rt s r) (hR : q0 + Rr ≤ (Gs 0).1.1.length) (hC : q1 + C ≤ (Gs 0).1.2.length) (hK : E2 (K (cntS (Gs 0) q0 q1 C (Rr * C)) s) (Kt (cntS (Gs 0) q0 q1 C (Rr * C)) r) Φ) : E2 (x1_copy_l88 N x ((q0 + 1 : Nat) : Int) ((q1 + 1 : Nat) : Int) v5 v6 Rr C K N 0 0 s) (tw_copy_l111 N h ((q0 + 1 : Nat) : Int) ((q1 + 1 : Nat) : Int) v5 v6 Rr C Kt N 0 0 r) Φ := by
  have c0 := R.c0.2
  have n32 := c0.1.2.1.2.2.1
  have m10 := c0.1.2.2.2
  have mul3 : Rr * C ≤ 32 * 10 := Nat.mul_le_mul (by omega) (by omega)
  have := cp_n_out (v5 := v5) (v6 := v6) (K := K) (Kt := Kt) (Φ := Φ) hN R hR hC hK Rr 0 N N (by omega) (by omega) (by omega)
  rw [Nat.zero_mul] at this
  exact this
theorem cp_c_out {K : gMem → Option gR} {Kt : gMem → Option (Int × gMem)} {Φ : gR → Int × gMem → Prop} (hN : 400 ≤ N) (hkp : rtV nv pa un kp) (hkp0 : kp ≠ 0) (fn : FN nv fl) (hR : q0 + Rr ≤ S0.1.1.length) (hC : q1 + C ≤ S0.1.2.length) (hU : u0 + Rr ≤ S0.1.1.length) (hV : u1 + C ≤ S0.1.2.length) (n32 : S0.1.1.length ≤ 32) (m10 : S0.1.2.length ≤ 10) (tot : M0 + cntS S0 q0 q1 C (Rr * C) ≤ 60000)
    (hK : ∀ s r, CpI x h t nv pa un fs g own rt kp mv S0 fl (w32 (((u0 + 1 : Nat) : Int) - ((q0 + 1 : Nat) : Int))) (w32 (((u1 + 1 : Nat) : Int) - ((q1 + 1 : Nat) : Int))) M0 sB rB (cntS S0 q0 q1 C (Rr * C)) s r → E2 (K s) (Kt r) Φ) :
    ∀ (m i fu fu' : Nat) (s r : gMem), i + m = Rr → m < fu → m * C < fu' → CpI x h t nv pa un fs g own rt kp mv S0 fl (w32 (((u0 + 1 : Nat) : Int) - ((q0 + 1 : Nat) : Int))) (w32 (((u1 + 1 : Nat) : Int) - ((q1 + 1 : Nat) : Int))) M0 sB rB (cntS S0 q0 q1 C (i * C)) s r → E2 (x1_copy_l236 N x ((q0 + 1 : Nat) : Int) ((q1 + 1 : Nat) : Int) ((u0 + 1 : Nat) : Int) ((u1 + 1 : Nat) : Int) Rr C (rt kp) mv K fu i s) (tw_copy_l203 N h ((q0 + 1 : Nat) : Int) ((q1 + 1 : Nat) : Int) ((u0 + 1 : Nat) : Int) ((u1 + 1 : Nat) : Int) Rr C (tsN fs kp : Nat) Kt fu' ((i * C : Nat) : Int) r) Φ := by
  have mul3 : Rr * C ≤ 32 * 10 := Nat.mul_le_mul (by omega) (by omega)
  have mulI : ((Rr : Int) * (C : Int)) = ((Rr * C : Nat) : Int) := by push_cast; rfl
  intro m
  induction m with
  | zero =>
    intro i fu fu' s r h1 h2 h3 I
    obtain ⟨fu, rfl⟩ : ∃ j, fu = j + 1 := ⟨fu - 1, by omega⟩
    obtain ⟨fu', rfl⟩ : ∃ j, fu' = j + 1 := ⟨fu' - 1, by omega⟩
    obtain rfl : i = Rr := by omega
    unfold x1_copy_l236 tw_copy_l203
    rw [mulI, w32_i (x := ((i * C : Nat) : Int)) (by omega) (by omega)]
    exact E2.lg (Int.le_refl _) (E2.rg (Int.le_refl _) (hK s r I))
  | succ m ih =>
    intro i fu fu' s r h1 h2 h3 I
    obtain ⟨fu, rfl⟩ : ∃ j, fu = j + 1 := ⟨fu - 1, by omega⟩
    have mul4 : (m + 1) * C = m * C + C := Nat.succ_mul m C
    unfold x1_copy_l236
    refine E2.lf (by omega) ?_
    exact cp_c_in hN hkp hkp0 fn hR hC hU hV n32 m10 tot (by omega) (fun s r fu'' hf I' => by
      rw [inc32 (by omega)]
      have e : Rr - (i + 1) = m := by omega
      rw [e] at hf
      exact ih (i + 1) fu fu'' s r (by omega) (by omega) hf I') C 0 N fu' s r (by omega) (by omega) (by rw [show Rr - (i + 1) = m by omega]; omega) I
theorem cp_c {K : gMem → Option gR} {Kt : gMem → Option (Int × gMem)} {Φ : gR → Int × gMem → Prop} (hN : 400 ≤ N) (hkp : rtV nv pa un kp) (hkp0 : kp ≠ 0) (fn : FN nv fl) (hR : q0 + Rr ≤ S0.1.1.length) (hC : q1 + C ≤ S0.1.2.length) (hU : u0 + Rr ≤ S0.1.1.length) (hV : u1 + C ≤ S0.1.2.length) (n32 : S0.1.1.length ≤ 32) (m10 : S0.1.2.length ≤ 10) (tot : M0 + cntS S0 q0 q1 C (Rr * C) ≤ 60000) (I : CpI x h t nv pa un fs g own rt kp mv S0 fl (w32 (((u0 + 1 : Nat) : Int) - ((q0 + 1 : Nat) : Int))) (w32 (((u1 + 1 : Nat) : Int) - ((q1 + 1 : Nat) : Int))) M0 sB rB 0 s r)
    (hK : ∀ s r, CpI x h t nv pa un fs g own rt kp mv S0 fl (w32 (((u0 + 1 : Nat) : Int) - ((q0 + 1 : Nat) : Int))) (w32 (((u1 + 1 : Nat) : Int) - ((q1 + 1 : Nat) : Int))) M0 sB rB (cntS S0 q0 q1 C (Rr * C)) s r → E2 (K s) (Kt r) Φ) : E2 (x1_copy_l236 N x ((q0 + 1 : Nat) : Int) ((q1 + 1 : Nat) : Int) ((u0 + 1 : Nat) : Int) ((u1 + 1 : Nat) : Int) Rr C (rt kp) mv K N 0 s) (tw_copy_l203 N h ((q0 + 1 : Nat) : Int) ((q1 + 1 : Nat) : Int) ((u0 + 1 : Nat) : Int) ((u1 + 1 : Nat) : Int) Rr C (tsN fs kp : Nat) Kt N 0 r) Φ := by
  have mul3 : Rr * C ≤ 32 * 10 := Nat.mul_le_mul (by omega) (by omega)
  have := cp_c_out (K := K) (Kt := Kt) (Φ := Φ) hN hkp hkp0 fn hR hC hU hV n32 m10 tot hK Rr 0 N N s r (by omega) (by omega) (by omega) (by rw [Nat.zero_mul]; exact I)
  rw [Nat.zero_mul] at this
  exact this
theorem kz_w17s {v : Int} (K : Kz (fun _ => False) s f) : Kz (fun _ => False) (wI s x 17 v) (wI f x 17 v) := by
  obtain ⟨k1, k2, k3, k4⟩ := K
  refine ⟨k1, k2, k3, fun a ha hw j => ?_⟩
  have := k4 a ha (fun f => f) j
  refine ⟨?_, this.2.1, this.2.2⟩
  by_cases c : a = x ∧ j = 17
  · rw [mIwI2 c, mIwI2 c]
  · rw [mIwI1 c, mIwI1 c]; exact this.1
theorem op_copy {p1 p2 p3 p4 p5 p6 : Int} (hN : 2000 ≤ N) (R : RL x h t σ τ) (g1 : g32 p1) (g2 : g32 p2) (g3 : g32 p3) (g4 : g32 p4) (g5 : g32 p5) (g6 : g32 p6) : E2 (x1_copy N x p1 p2 p3 p4 p5 p6 σ) (tw_copy N h p1 p2 p3 p4 p5 p6 τ) (OpO x h t cdEn σ τ) := by
  obtain ⟨nv, pa, un, fs, Gs, g, own, rt, R⟩ := R
  have l := R.1.1
  have hh := R.1.2.1.1
  obtain ⟨e8, c⟩ := R.c0
  have Rt := R.t0 (v := 0)
  have s0 := Rt.s0
  have i0 : mI (wI τ h 0 0) h 0 = 0 := by rw [mIwI2 ⟨rfl, rfl⟩, w32_i (by omega) (by omega)]
  have m10 := c.1.2.2.2
  have n32 := c.1.2.1.2.2.1
  have hL := c_look l e8 c g1 g2 g3 g4
  unfold x1_copy tw_copy
  refine E2.lg l.1.1 (E2.lg (by rw [e8]; exact c.1.1) (E2.rl ?_))
  rw [e8]
  refine E2.le (c_hasS c g5 g6) (E2.re (t_cell40 s0) ?_)
  by_cases a3 : inS (Gs 0) p5 p6
  · rw [if_pos a3]
    refine E2.lg (by decide) ?_
    by_cases a1 : inS (Gs 0) p1 p2
    · rw [if_pos a1]
      refine E2.rf (by decide) (E2.re (t_cell40 s0) ?_)
      by_cases a2 : inS (Gs 0) p3 p4
      · rw [if_pos ⟨a1, a2⟩] at hL
        rw [if_pos a2]
        refine E2.rf (by decide) (E2.re (t_cell40 s0) ?_)
        rw [if_pos a3]
        refine E2.rg (by decide) ?_
        by_cases a4 : p3 < p1 ∨ p4 < p2
        · rw [if_pos a4] at hL
          refine E2.le hL ?_
          rw [thrVE]
          by_cases a5 : p3 < p1
          · exact E2.rg a5 (E2.r (OpO.ex R (by decide) (by decide)))
          · exact E2.rf a5 (E2.rf (by omega) (E2.r (OpO.ex R (by decide) (by decide))))
        · rw [if_neg a4] at hL
          refine E2.le hL ?_
          rw [thrV]
          refine E2.rf (by omega) (E2.rg (by omega) (E2.rg (by decide) ?_))
          unfold inS at a1 a2 a3
          obtain ⟨q0, rfl⟩ : ∃ n : Nat, p1 = ((n + 1 : Nat) : Int) := ⟨(p1 - 1).toNat, by omega⟩
          obtain ⟨q1, rfl⟩ : ∃ n : Nat, p2 = ((n + 1 : Nat) : Int) := ⟨(p2 - 1).toNat, by omega⟩
          obtain ⟨q2, rfl⟩ : ∃ n : Nat, p3 = ((n + 1 : Nat) : Int) := ⟨(p3 - 1).toNat, by omega⟩
          obtain ⟨q3, rfl⟩ : ∃ n : Nat, p4 = ((n + 1 : Nat) : Int) := ⟨(p4 - 1).toNat, by omega⟩
          obtain ⟨u0, rfl⟩ : ∃ n : Nat, p5 = ((n + 1 : Nat) : Int) := ⟨(p5 - 1).toNat, by omega⟩
          obtain ⟨u1, rfl⟩ : ∃ n : Nat, p6 = ((n + 1 : Nat) : Int) := ⟨(p6 - 1).toNat, by omega⟩
          obtain ⟨Rr, hRr⟩ : ∃ Rr : Nat, Rr = if (Gs 0).1.1.length - u0 < q2 - q0 + 1 then (Gs 0).1.1.length - u0 else q2 - q0 + 1 := ⟨_, rfl⟩
          obtain ⟨C, hCc⟩ : ∃ C : Nat, C = if (Gs 0).1.2.length - u1 < q3 - q1 + 1 then (Gs 0).1.2.length - u1 else q3 - q1 + 1 := ⟨_, rfl⟩
          have nR : mN σ (mR σ (rt 0) 0) = (Gs 0).1.1.length := c.1.2.1.2.1
          have nC : mN σ (mR σ (rt 0) 1) = (Gs 0).1.2.length := c.1.2.2.1.2.1
          have eR : w32 (if w32 ((((Gs 0).1.1.length : Nat) : Int) - ((u0 + 1 : Nat) : Int) + 1) < w32 (((q2 + 1 : Nat) : Int) - ((q0 + 1 : Nat) : Int) + 1) then w32 ((((Gs 0).1.1.length : Nat) : Int) - ((u0 + 1 : Nat) : Int) + 1) else w32 (((q2 + 1 : Nat) : Int) - ((q0 + 1 : Nat) : Int) + 1)) = (Rr : Int) := by
            rw [w32_i (x := (((Gs 0).1.1.length : Nat) : Int) - ((u0 + 1 : Nat) : Int) + 1) (by omega) (by omega), w32_i (x := ((q2 + 1 : Nat) : Int) - ((q0 + 1 : Nat) : Int) + 1) (by omega) (by omega), hRr]
            by_cases y : (Gs 0).1.1.length - u0 < q2 - q0 + 1
            · rw [if_pos y, if_pos (by omega), w32_i (by omega) (by omega)]; omega
            · rw [if_neg y, if_neg (by omega), w32_i (by omega) (by omega)]; omega
          have eC : w32 (if w32 ((((Gs 0).1.2.length : Nat) : Int) - ((u1 + 1 : Nat) : Int) + 1) < w32 (((q3 + 1 : Nat) : Int) - ((q1 + 1 : Nat) : Int) + 1) then w32 ((((Gs 0).1.2.length : Nat) : Int) - ((u1 + 1 : Nat) : Int) + 1) else w32 (((q3 + 1 : Nat) : Int) - ((q1 + 1 : Nat) : Int) + 1)) = (C : Int) := by
            rw [w32_i (x := (((Gs 0).1.2.length : Nat) : Int) - ((u1 + 1 : Nat) : Int) + 1) (by omega) (by omega), w32_i (x := ((q3 + 1 : Nat) : Int) - ((q1 + 1 : Nat) : Int) + 1) (by omega) (by omega), hCc]
            by_cases y : (Gs 0).1.2.length - u1 < q3 - q1 + 1
            · rw [if_pos y, if_pos (by omega), w32_i (by omega) (by omega)]; omega
            · rw [if_neg y, if_neg (by omega), w32_i (by omega) (by omega)]; omega
          have bR : q0 + Rr ≤ (Gs 0).1.1.length ∧ u0 + Rr ≤ (Gs 0).1.1.length := by rw [hRr]; split <;> omega
          have bC : q1 + C ≤ (Gs 0).1.2.length ∧ u1 + C ≤ (Gs 0).1.2.length := by rw [hCc]; split <;> omega
          have k1 : mI (wI τ h 0 0) (h + 1) 40 = (((Gs 0).1.1.length : Nat) : Int) := s0.1
          have k2 : mI (wI τ h 0 0) (h + 2) 40 = (((Gs 0).1.2.length : Nat) : Int) := s0.2.1
          obtain ⟨y1, hy1, hy1'⟩ : ∃ y1, tw_least (w32 (((q2 + 1 : Nat) : Int) - ((q0 + 1 : Nat) : Int))) (w32 (mI (wI τ h 0 0) (h + 1) (40 : Int).toNat - ((u0 + 1 : Nat) : Int))) (wI τ h 0 0) = some y1 ∧ w32 (y1 + 1) = (Rr : Int) := by
            unfold tw_least
            rw [show (40 : Int).toNat = 40 from rfl, k1, w32_i (x := ((q2 + 1 : Nat) : Int) - ((q0 + 1 : Nat) : Int)) (by omega) (by omega), w32_i (x := (((Gs 0).1.1.length : Nat) : Int) - ((u0 + 1 : Nat) : Int)) (by omega) (by omega)]
            by_cases y : (Gs 0).1.1.length - u0 < q2 - q0 + 1
            · rw [if_pos (by omega)]
              exact ⟨_, rfl, by rw [hRr, if_pos y, w32_i (by omega) (by omega)]; omega⟩
            · by_cases y' : (Gs 0).1.1.length - u0 = q2 - q0 + 1
              · rw [if_pos (by omega)]
                exact ⟨_, rfl, by rw [hRr, if_neg y, w32_i (by omega) (by omega)]; omega⟩
              · rw [if_neg (by omega)]
                exact ⟨_, rfl, by rw [hRr, if_neg y, w32_i (by omega) (by omega)]; omega⟩
          obtain ⟨y2, hy2, hy2'⟩ : ∃ y2, tw_least (w32 (((q3 + 1 : Nat) : Int) - ((q1 + 1 : Nat) : Int))) (w32 (mI (wI τ h 0 0) (h + 2) (40 : Int).toNat - ((u1 + 1 : Nat) : Int))) (wI τ h 0 0) = some y2 ∧ w32 (y2 + 1) = (C : Int) := by
            unfold tw_least
            rw [show (40 : Int).toNat = 40 from rfl, k2, w32_i (x := ((q3 + 1 : Nat) : Int) - ((q1 + 1 : Nat) : Int)) (by omega) (by omega), w32_i (x := (((Gs 0).1.2.length : Nat) : Int) - ((u1 + 1 : Nat) : Int)) (by omega) (by omega)]
            by_cases y : (Gs 0).1.2.length - u1 < q3 - q1 + 1
            · rw [if_pos (by omega)]
              exact ⟨_, rfl, by rw [hCc, if_pos y, w32_i (by omega) (by omega)]; omega⟩
            · by_cases y' : (Gs 0).1.2.length - u1 = q3 - q1 + 1
              · rw [if_pos (by omega)]
                exact ⟨_, rfl, by rw [hCc, if_neg y, w32_i (by omega) (by omega)]; omega⟩
              · rw [if_neg (by omega)]
                exact ⟨_, rfl, by rw [hCc, if_neg y, w32_i (by omega) (by omega)]; omega⟩
          refine E2.re hy1 (E2.rg (by decide) (E2.re hy2 ?_))
          rw [hy1', hy2', e8, nR, nC, eR, eC]
          refine E2.lg c.1.1 (E2.lg c.1.2.1.1 (E2.lg c.1.2.2.1.1 ?_))
          refine cp_n (by omega) Rt bR.1 bC.1 ?_
          (try dsimp only)
          have pt : mI σ x 17 = mI τ h 25 := R.2.2.1.2.2.2.1
          have bd := R.2.1.2.2.2.1
          have j25 : mI (wI τ h 0 0) h 25 = mI τ h 25 := mIwI1 (by omega)
          have mul3 : Rr * C ≤ 32 * 10 := Nat.mul_le_mul (by omega) (by omega)
          obtain ⟨tot, htot⟩ : ∃ tot, tot = cntS (Gs 0) q0 q1 C (Rr * C) := ⟨_, rfl⟩
          have t60 : tot ≤ 20000 := by
            rw [htot]
            have := cntS_60 (S := Gs 0) (q0 := q0) (q1 := q1) (C := C) (k := Rr * C) (fun e he => by
              have hC0 : 0 < C := Nat.pos_of_ne_zero (fun z => by rw [z] at he; simp at he)
              have d1 : e / C < Rr := Nat.div_lt_of_lt_mul (by rw [Nat.mul_comm]; omega)
              have d2 := Nat.mod_lt e hC0
              exact ((c.2.2.2 (q0 + e / C) (by omega)).2.2 (q1 + e % C) (by omega)).l60)
            omega
          rw [← htot]
          refine E2.lg l.1.1 ?_
          rw [pt, j25, w32_i (x := mI τ h 25 + (tot : Int)) (by omega) (by omega)]
          by_cases big : mI τ h 25 + (tot : Int) ≤ 60000
          · refine E2.lg big (E2.rg big (E2.ll ?_))
            obtain ⟨s24, hs24⟩ : ∃ s24, s24 = wI σ x 17 (mI τ h 25 + (tot : Int)) := ⟨_, rfl⟩
            have X24 : Ex (fun a k => a = x ∧ k = 17) σ s24 := by rw [hs24]; exact Ex.rf.I ⟨rfl, rfl⟩
            have i24 : mI s24 x 17 = mI τ h 25 + (tot : Int) := by rw [hs24, mIwI2 ⟨rfl, rfl⟩, w32_i (by omega) (by omega)]
            have R17 : Rl x h t nv pa un fs Gs g own rt (wI s24 x 17 (mI σ x 17)) (wI τ h 0 0) := by rw [hs24, wI_back]; exact Rt
            rw [← hs24]
            obtain ⟨own', rt', fs', r1, er, b, eb, b1, R2, b3, b4, b5, b6⟩ := both_step17 (N := N) (by omega) R17
            refine E2.le er (E2.re eb ?_)
            obtain ⟨kp, hkp⟩ : ∃ kp, kp = if pa = 40 then 40 else pa + 1 := ⟨_, rfl⟩
            rw [← hkp] at R2 b1
            have c5 := R.c5
            have kpR : 1 ≤ kp ∧ kp ≤ 40 := by rw [hkp]; split <;> omega
            have kpV : rtV nv kp 0 kp := by unfold rtV; omega
            have lr := R2.1.1
            have ok1 : gOk r1 := lr.ok
            have z1 : 0 < mZ r1 := lr.z
            have tx1 : mT r1 x = 1 := lr.1.1
            have z01 : mT r1 0 = 0 := lr.z0
            have e11 : mR r1 x 11 = x + 9 := lr.R (11, 9) (by decide)
            have e4 : mR r1 x 4 = x + 2 := lr.R (4, 2) (by decide)
            have T9 : mT r1 (x + 9) = 105 ∧ mN r1 (x + 9) = 40 := lr.T (9, 105, 40) (by decide)
            have T2 : mT r1 (x + 2) = 104 ∧ mN r1 (x + 2) = 40 := lr.T (2, 104, 40) (by decide)
            have e13 : mI r1 x 13 = (kp : Int) := by
              have := R2.1.2.2.1.2.1
              rwa [mIwI1 (by omega)] at this
            have ekp : mR r1 (x + 9) (kp - 1) = rt' kp := by
              have := R2.rpa (q := kp - 1) (by omega)
              rw [show kp - 1 + 1 = kp by omega] at this
              exact this
            have lx : x < mZ r1 := gOk_lt ok1 (by omega)
            rw [e11, e13, show ((kp : Int) - 1).toNat = kp - 1 by omega, ekp]
            refine E2.lg T9.1 (E2.lg (by rw [T9.2]; omega) (E2.ll ?_))
            rw [show mR (wN r1 22 4) x 4 = x + 2 by rw [mR_wN, if_neg (by omega)]; exact e4]
            obtain ⟨dr, hdr⟩ : ∃ dr, dr = w32 (((u0 + 1 : Nat) : Int) - ((q0 + 1 : Nat) : Int)) := ⟨_, rfl⟩
            obtain ⟨dc, hdc⟩ : ∃ dc, dc = w32 (((u1 + 1 : Nat) : Int) - ((q1 + 1 : Nat) : Int)) := ⟨_, rfl⟩
            have dr' : -100 ≤ dr ∧ dr ≤ 100 := by rw [hdr, w32_i (by omega) (by omega)]; omega
            have dc' : -100 ≤ dc ∧ dc ≤ 100 := by rw [hdc, w32_i (by omega) (by omega)]; omega
            rw [← hdr, ← hdc]
            obtain ⟨sB, hsB⟩ : ∃ sB, sB = wR (wR (wI (wI (wN r1 22 4) (mZ r1) 0 dr) (mZ r1) 1 dc) (mZ r1) 2 (rt' kp)) (mZ r1) 3 (x + 2) := ⟨_, rfl⟩
            refine E2.le (show x24_init (mZ r1) dr dc (rt' kp) (x + 2) (wN r1 22 4) = some sB by
              unfold x24_init
              rw [if_pos (by rw [mT_wN, if_pos rfl]), hsB]; rfl) ?_
            have KB : Kz (fun _ => False) r1 sB := by
              rw [hsB]
              have K0 : Kz (fun _ => False) r1 r1 := Kz.rf ok1
              exact ((((K0.wN).wI (Or.inl (Nat.le_refl _))).wI (Or.inl (Nat.le_refl _))).wR (Or.inl (Nat.le_refl _))).wR (Or.inl (Nat.le_refl _))
            have tB : mT sB (mZ r1) = 22 := by rw [hsB, mT_wR, mT_wR, mT_wI, mT_wI, mT_wN, if_pos rfl]
            have B0 : mI sB (mZ r1) 0 = dr := by rw [hsB, mI_wR, mI_wR, mIwI1 (by omega), mIwI2 ⟨rfl, rfl⟩, w32_i (by omega) (by omega)]
            have B1 : mI sB (mZ r1) 1 = dc := by rw [hsB, mI_wR, mI_wR, mIwI2 ⟨rfl, rfl⟩, w32_i (by omega) (by omega)]
            have B2 : mR sB (mZ r1) 2 = rt' kp := by rw [hsB, mR_wR, if_neg (by omega), mR_wR, if_pos ⟨rfl, rfl⟩]
            have B3 : mR sB (mZ r1) 3 = x + 2 := by rw [hsB, mR_wR, if_pos ⟨rfl, rfl⟩]
            have BZ : mZ sB = mZ r1 + 1 ∧ mS sB = mS r1 + 4 := by rw [hsB]; exact ⟨rfl, rfl⟩
            have B18 : ∀ q, mZ r1 ≤ q → mT sB q ≠ 18 := fun q hq e => by
              rw [hsB, mT_wR, mT_wR, mT_wI, mT_wI, mT_wN] at e
              by_cases y : q = mZ r1
              · rw [if_pos y] at e; cases e
              · rw [if_neg y, ok1 q hq] at e; cases e
            have g0 : stG pa Gs 0 = Gs 0 := stG_0 pa Gs
            have gk : stG pa Gs kp = Gs 0 := by unfold stG; rw [if_pos hkp]
            have b25 : mI b.2 h 25 = mI τ h 25 := by rw [b4.rI (fun p => by have := p.out; omega)]; exact j25
            have R3 : Rl x h t nv kp 0 fs' (stG pa Gs) g own' rt' (wI sB x 17 (mI b.2 h 25)) b.2 := by
              rw [b25, ← pt]
              exact R2.new (kz_w17s KB) (fun q hq ht => absurd ht (B18 q hq))
            have mc : MvC sB (mZ r1) nv (frV (stG pa Gs)) dr dc := by
              have uS : ∀ {a R C}, ShL (wI r1 x 17 (mI σ x 17)) a R C → ShL sB a R C := fun {a R C} k => by
                have k1 : ShL r1 a R C := k.kp (W := fun a => a = x) (kz_un17 ok1) ok1 (fun e => by
                  have := k.1
                  rw [show a = x from e] at this
                  have this : mT r1 x = 8 := this
                  omega) (fun e => by
                  have := k.2.1.1
                  rw [show mR (wI r1 x 17 (mI σ x 17)) a 0 = x from e] at this
                  have this : mT r1 x = 100 := this
                  omega) (fun e => by
                  have := k.2.2.1.1
                  rw [show mR (wI r1 x 17 (mI σ x 17)) a 1 = x from e] at this
                  have this : mT r1 x = 100 := this
                  omega)
                exact k1.kp KB ok1 (fun f => f) (fun f => f) (fun f => f)
              refine ⟨tB, B0, B1, ?_, by rw [B3, KB.tag ok1 (by omega)]; exact T2.1, by rw [B3, KB.len ok1 (by omega)]; exact T2.2, c5.2.2.1, fun v hv => ?_⟩
              · rw [B2]
                have := (R2.shC kpV).1
                rw [gk] at this
                have e : frV (stG pa Gs) (-1) = (Gs 0).1 := by
                  unfold frV rix
                  rw [if_pos (by decide), g0]
                rw [e]
                exact uS this
              · obtain ⟨v1, v2⟩ := R2.ver hv
                have v1 : mT r1 (mR r1 (x + 2) v) = 9 := v1
                have v2 : mR r1 (mR r1 (x + 2) v) 0 = rt' (81 + v) := v2
                rw [B3, KB.rR ok1 (by omega) (fun f => f), KB.tag ok1 (by omega), KB.rR ok1 (by omega) (fun f => f), v2]
                refine ⟨v1, ?_⟩
                have e : frV (stG pa Gs) (v : Int) = (stG pa Gs (81 + v)).1 := by
                  unfold frV rix
                  rw [if_neg (by omega), show (v : Int).toNat = v by omega]
                rw [e]
                exact uS (R2.shC (show rtV nv kp 0 (81 + v) by unfold rtV; omega)).1
            have I0 : CpI x h t nv kp 0 fs' g own' rt' kp (mZ r1) (Gs 0) (frV (stG pa Gs)) dr dc (mI τ h 25).toNat sB b.2 0 sB b.2 := by
              refine ⟨stG pa Gs, R3, ⟨by rw [g0], gk, rfl⟩, ⟨?_, b6, ?_⟩, mc, by rw [b25]; omega, ⟨Kz.rf KB.ok, rfl, by omega, by omega⟩, Ex.rf⟩
              · rw [KB.rI ok1 (by omega) (fun f => f)]; exact b5
              · rw [b4.rI (fun p => by have := p.out; omega)]; exact i0
            rw [hdr, hdc] at I0
            rw [b1]
            refine cp_c (M0 := (mI τ h 25).toNat) (S0 := Gs 0) (by omega) kpV (by omega) (R3.fn) bR.1 bC.1 bR.2 bC.2 n32 (by omega) (by rw [← htot]; omega) I0 (fun s r I => ?_)
            rw [← htot] at I
            obtain ⟨Gs4, R4, -, ⟨w1, w2, w3⟩, -, w25, ⟨w4, w5, w6, w7⟩, w8⟩ := I
            have s17 : mI s x 17 = mI r h 25 := by
              rw [w5, KB.rI ok1 (by omega) (fun f => f), b3.2.2.1 17 (by decide) (by decide) (by decide), i24, w25]; omega
            rw [← s17, wI_self] at R4
            refine E2.r ⟨⟨_, _, _, _, _, _, _, _, R4.t1⟩, ⟨(((X24.kp l.ok (fun a k p => by unfold NoT; omega)).tr (b3.nt hh)).tr (KB.mono (fun a f => f.elim))).tr w4, tot, by rw [s17, w25]; omega, ?_, ?_⟩, (((Ex.rf.I (by unfold TwA; omega)).tr (b4.mono (fun a k p => p.ta)))).tr w8, Or.inl ⟨_, rfl, rfl, w3, ?_⟩⟩
            · have := b3.2.2.2.2.1
              have := X24.rZ
              show mZ s ≤ _; omega
            · have := b3.2.2.2.2.2
              have := X24.rS
              show mS s ≤ _; omega
            · rw [show ((Rr : Int) * (C : Int)) = ((Rr * C : Nat) : Int) by push_cast; rfl, w32_i (by omega) (by omega)]
              unfold g32; omega
          · exact E2.lf big (E2.rf big (E2.r (OpO.ex R (by decide) (by decide))))
      · rw [if_neg (fun z => a2 z.2)] at hL
        rw [if_neg a2]
        refine E2.le hL ?_
        rw [thrVE]
        exact E2.rg rfl (E2.r (OpO.ex R (by decide) (by decide)))
    · rw [if_neg (fun z => a1 z.1)] at hL
      rw [if_neg a1]
      refine E2.le hL ?_
      rw [thrVE]
      exact E2.rg rfl (E2.r (OpO.ex R (by decide) (by decide)))
  · rw [if_neg a3]
    refine E2.lf (by decide) ?_
    by_cases a1 : inS (Gs 0) p1 p2
    · rw [if_pos a1]
      refine E2.rf (by decide) (E2.re (t_cell40 s0) ?_)
      by_cases a2 : inS (Gs 0) p3 p4
      · rw [if_pos a2]
        refine E2.rf (by decide) (E2.re (t_cell40 s0) ?_)
        rw [if_neg a3]
        exact E2.rf (by decide) (E2.r (OpO.ex R (by decide) (by decide)))
      · rw [if_neg a2]
        exact E2.rg rfl (E2.r (OpO.ex R (by decide) (by decide)))
    · rw [if_neg a1]
      exact E2.rg rfl (E2.r (OpO.ex R (by decide) (by decide)))
end State69
