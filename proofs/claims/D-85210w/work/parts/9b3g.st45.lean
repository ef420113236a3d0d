/-! ===== PHASE 2: the act sort, whole -/
section State45
variable {N x h u nv pa un fs i t s k n a A j L f0 : Nat} {σ σ' τ τ' r f : gMem} {P : Nat → Nat → Prop} {W : Nat → Prop} {own rt : Nat → Nat} {S S' : Sh} {Gs : Nat → Sh} {g : Nat → Nat → Vl} {v w p : Int} {ax : Int}
/-- the class's scratch values are nothing to the state -/
theorem Rl.scr (R : Rl x h t nv pa un fs Gs g own rt σ τ) (K : Kz (fun a => x + 1437 ≤ a ∧ a ≤ x + 1440) σ σ') (eR : ∀ a j, x + 1437 ≤ a → a ≤ x + 1440 → mR σ' a j = mR σ a j) (np : ∀ q, mZ σ ≤ q → mT σ' q = 18 → mR σ' q 1 ≠ x + 1430) : Rl x h t nv pa un fs Gs g own rt σ' τ := by
  have l := R.1.1
  have hh := R.1.2.1.1
  have lx : x < mZ σ := gOk_lt l.ok (by rw [l.1.1]; decide)
  have w1 := l.2.2.2.2.1.1
  have w2 := l.2.2.2.2.1.2
  have tg : ∀ a, (x + 1437 ≤ a ∧ a ≤ x + 1440) → (mT σ a = 5) ∨ (mT σ a = 102 ∧ mT σ (a - 1) = 5) := fun a w => by
    have : a = x + 1437 ∨ a = x + 1438 ∨ a = x + 1439 ∨ a = x + 1440 := by omega
    rcases this with e | e | e | e
    · rw [e]; exact Or.inl w1.1
    · rw [e]; exact Or.inr ⟨w1.2.2.1, w1.1⟩
    · rw [e]; exact Or.inl w2.1
    · rw [e]; exact Or.inr ⟨w2.2.2.1, w2.1⟩
  have w0 : ¬ (x + 1437 ≤ 0 ∧ 0 ≤ x + 1440) := by omega
  have xR : mR σ' x = mR σ x := funext fun j => (K.2.2.2 x lx (by omega) j).2.2
  have xI : mI σ' x = mI σ x := funext fun j => (K.2.2.2 x lx (by omega) j).1
  have ly : LYc x σ' := l.kp K w0 (fun a w => by have := tg a w; omega) (fun a j w _ => eR a j w.1 w.2) (fun q hq ht => by
    rcases hq with hq | hq
    · exact np q hq ht
    · exfalso
      have z := tg q hq
      rw [K.tag l.ok (by omega)] at ht
      omega)
  obtain ⟨V, hV⟩ := R.1.2.2.2.2.2.2
  refine R.upd K ⟨w0, fun a w => by have := tg a w; exact ⟨by omega, by omega, fun e => by omega⟩⟩ (fun a w => by unfold OutS; omega) (by omega) ly xR (fun j _ => by rw [xI]) ⟨V, hV.kp K l.ok (fun i hi => by omega)⟩ (R.2.2.2.2.1.kp K l.ok (fun i hi => by omega) (by rw [xI])) (Ex.rf (P := fun _ _ => False)) (fun _ _ f => f.elim) ?_ ?_
  · obtain ⟨n, a1, a2, a3, a4⟩ := R.2.2.1.1
    exact ⟨n, a1, by rw [xI]; exact a2, a3, fun j hj => by rw [K.rI l.ok (by rw [(l.T (1, 102, 400) (by decide)).1]; decide) (by omega)]; exact a4 j hj⟩
  · have := R.2.2.1.2.1
    unfold Rfl at this ⊢
    rw [xI]; exact this
/-- sort -/
theorem op_sort {v1 v2 v3 way : Int} (hN : 200000 ≤ N) (R : RL x h t σ τ) (g1 : g32 v1) (g2 : g32 v2) (g3 : g32 v3) (hw : way = 0 ∨ way = 1) : E2 (x1_sort N x v1 v2 v3 way σ) (tw_sort N h v1 v2 v3 way τ) (OpO x h t cdIA σ τ) := by
  obtain ⟨nv, pa, un, fs, Gs, g, own, rt, R⟩ := R
  have l := R.1.1
  have ok := l.ok
  have hh := R.1.2.1.1
  obtain ⟨e8, c⟩ := R.c0
  have i0 : mI (wI τ h 0 0) h 0 = 0 := by rw [mIwI2 ⟨rfl, rfl⟩, w32_i (by omega) (by omega)]
  have Rt := R.t0 (v := 0)
  have m10 := c.1.2.2.2
  have n32 := c.1.2.1.2.2.1
  have s0 := Rt.s0
  unfold x1_sort tw_sort
  rw [e8]
  refine E2.lg l.1.1 (E2.lg c.1.1 (E2.le (c_hasS c g2 g1) (E2.rl (E2.rg (by decide) ?_))))
  rw [show mI (wI τ h 0 0) (h + 2) ((40 : Int)).toNat = ((Gs 0).1.2.length : Int) from s0.2.1, show mI (wI τ h 0 0) (h + 1) ((40 : Int)).toNat = ((Gs 0).1.1.length : Int) from s0.1]
  refine E2.re (t_in v1 1 _) ?_
  by_cases hc : 1 ≤ v1 ∧ v1 ≤ ((Gs 0).1.2.length : Int)
  · rw [if_pos hc]
    refine E2.rf (by decide) (E2.rg (by decide) (E2.re (t_in v2 1 _) ?_))
    by_cases h2 : 1 ≤ v2 ∧ v2 ≤ ((Gs 0).1.1.length : Int)
    · rw [if_pos h2, if_pos (show inS (Gs 0) v2 v1 from ⟨h2.1, h2.2, hc.1, hc.2⟩)]
      refine E2.lf (by decide) (E2.rf (by decide) (E2.rg (by decide) (E2.le (c_hasS c g3 g1) (E2.re (t_in v3 1 _) ?_))))
      by_cases h3 : 1 ≤ v3 ∧ v3 ≤ ((Gs 0).1.1.length : Int)
      · rw [if_pos h3, if_pos (show inS (Gs 0) v3 v1 from ⟨h3.1, h3.2, hc.1, hc.2⟩)]
        refine E2.lg (by decide) (E2.rg (by decide) ?_)
        by_cases le : v2 ≤ v3
        · refine E2.lg le (E2.rg le ?_)
          obtain ⟨cc, rfl⟩ : ∃ q : Nat, v1 = ((q + 1 : Nat) : Int) := ⟨(v1 - 1).toNat, by omega⟩
          obtain ⟨f0, rfl⟩ : ∃ q : Nat, v2 = ((q + 1 : Nat) : Int) := ⟨(v2 - 1).toNat, by omega⟩
          obtain ⟨n, rfl, n0⟩ : ∃ n : Nat, v3 = ((f0 + n : Nat) : Int) ∧ 1 ≤ n := ⟨(v3 - f0).toNat, by omega, by omega⟩
          have hn : f0 + n ≤ (Gs 0).1.1.length := by omega
          have hcc : cc < (Gs 0).1.2.length := by omega
          refine E2.lc (Rt.rdy hN) (fun a za => ?_)
          obtain ⟨-, R', K', z4, z5, z6, z7⟩ := za
          obtain ⟨V, v1', iv⟩ := R'.2.2.2.2.1.2 z7
          refine E2.rc (P := fun r => Rl x h t nv pa un fs Gs g own rt a.2 r ∧ Ex (Vp h) (wI τ h 0 0) r ∧ ∀ c, inB (Gs 0).1.1.length (Gs 0).1.2.length c → VC r h (12800 + c) (V c)) ((t_need (s := 40) (by omega) R' (Or.inl rfl)).m (fun b y => ?_)) (fun b zb => ?_)
          · obtain ⟨Rb, X, y3, -⟩ := y
            obtain ⟨V', w1, w2⟩ := Rb.2.2.2.2.2.2.2 (y3 rfl)
            refine ⟨Rb, X, fun c hc => ?_⟩
            have v0 : rtV nv pa un 0 := Or.inl rfl
            have sP := Rb.shP v0
            have vi : Vi nv 0 = (nv : Int) := by unfold Vi; rw [if_neg (by decide)]
            rw [vi] at sP
            have sT := Rb.s0
            have len := Rb.2.1.len v0
            unfold IsV at iv w1
            have K := val_uniq (V := (nv : Int)) (fun c hc ne => ⟨(sT.2.2.2.2 c hc).wf ne, sP.2.2.2.2.2.2 c hc⟩) (by (try dsimp only); rw [if_pos rfl]) (by (try dsimp only); rw [if_pos rfl]) len.1 len.2 (fun ver a1 _ => by (try dsimp only); rw [if_neg (by omega), if_neg (by omega)]) iv w1 c hc
            (try dsimp only at K)
            rw [if_pos rfl, if_pos rfl] at K
            rw [K]
            exact w2 c hc
          obtain ⟨Rb, Xb, vcb⟩ := zb
          have lb := Rb.1.1
          have okb := lb.ok
          obtain ⟨e8b, cb⟩ := Rb.c0
          have M0 := cb.1.2.1
          have lA0 : rt 0 < mZ a.2 := gOk_lt okb (by rw [cb.1.1]; decide)
          have lM0 : mR a.2 (rt 0) 0 < mZ a.2 := gOk_lt okb (by rw [M0.1]; decide)
          have lxb : x < mZ a.2 := gOk_lt okb (by rw [lb.1.1]; decide)
          have zh := Rb.1.2.1.2
          rw [e8b, M0.2.1, w32_i (x := ((Gs 0).1.1.length : Int)) (by omega) (by omega), tn]
          refine E2.lg cb.1.1 (E2.lg M0.1 (E2.lg (by omega) (E2.ll ?_)))
          obtain ⟨A, hA⟩ : ∃ A, A = mZ a.2 := ⟨_, rfl⟩
          obtain ⟨s13, h13⟩ : ∃ s, s = wN a.2 100 (Gs 0).1.1.length := ⟨_, rfl⟩
          rw [← hA, ← h13]
          have K13 : Kz (fun _ => False) a.2 s13 := by rw [h13]; exact (Kz.rf okb).wN
          have tA : mT s13 A = 100 := by rw [h13, mT_wN, if_pos hA]
          have nA : mN s13 A = (Gs 0).1.1.length := by rw [h13, mN_wN, if_pos hA]
          have z13 : mZ s13 = A + 1 := by rw [h13, hA]; rfl
          have R13 := Rb.new K13 (fun q hq ht => by
            rw [h13, mT_wN] at ht
            by_cases c : q = mZ a.2
            · rw [if_pos c] at ht; cases ht
            · rw [if_neg c, okb q hq] at ht; cases ht)
          have l13 := R13.1.1
          have e9 := l13.R (9, 4) (by decide)
          have e30 := l13.R (30, 1437) (by decide)
          have e31 := l13.R (31, 1439) (by decide)
          (try dsimp only at e9 e30 e31)
          have v13 : VV s13 (x + 4) V := v1'.kp K13 okb (fun _ _ f => f)
          have T31 := (TMb.tags Rb.2.1.1.1).2 (63, 31, 102, 314880) (by decide)
          (try dsimp only at T31)
          refine sort_id (s0 := s13) tA nA n32 (fun s18 X18 I18 => ?_) (Gs 0).1.1.length 0 N s13 (by omega) (by omega) Ex.rf (fun j hj => absurd hj (by omega))
          have wc := R13.1.1.2.2.2.2.1
          have SB : SoB x h A (Gs 0).1.1.length cc s13 b V := ⟨⟨l13.1.1, e9, e30, e31, wc.1, wc.2, v13⟩, ⟨tA, nA, by omega, n32, by omega⟩, T31.2.1, T31.2.2, fun e he => vcb (10 * e + cc) ⟨by omega, by omega⟩⟩
          have w1n : w32 (((f0 + n : Nat) : Int) - ((f0 + 1 : Nat) : Int) + 1) = (n : Int) := by rw [w32_i (by omega) (by omega)]; omega
          have w1f : w32 (12800 + 10 * (((f0 + 1 : Nat) : Int) - 1) + ((cc + 1 : Nat) : Int) - 1) = ((12800 + (10 * f0 + cc) : Nat) : Int) := by rw [w32_i (by omega) (by omega)]; omega
          rw [w1n, w1f]
          -- the twin's first one
          obtain ⟨N', eN⟩ : ∃ N', N = N' + 1 := ⟨N - 1, by omega⟩
          have first : ∀ K' : gMem → Option (Int × gMem), tw_sort_l99 N h ((f0 + 1 : Nat) : Int) way (n : Int) ((12800 + (10 * f0 + cc) : Nat) : Int) K' N 0 b = tw_sort_l99 N h ((f0 + 1 : Nat) : Int) way (n : Int) ((12800 + (10 * f0 + cc) : Nat) : Int) K' N' ((1 : Nat) : Int) (wI b (h + 43) 0 0) := by
            intro K'
            have st : ∀ f : Nat, tw_sort_l99 N h ((f0 + 1 : Nat) : Int) way (n : Int) ((12800 + (10 * f0 + cc) : Nat) : Int) K' (f + 1) 0 b = if (n : Int) ≤ 0 then K' b else tw_sort_l110 N h ((f0 + 1 : Nat) : Int) way (n : Int) ((12800 + (10 * f0 + cc) : Nat) : Int) 0 (fun y33 s34 => tw_sort_l99_j169 N h ((f0 + 1 : Nat) : Int) way (n : Int) ((12800 + (10 * f0 + cc) : Nat) : Int) 0 y33 (tw_sort_l99 N h ((f0 + 1 : Nat) : Int) way (n : Int) ((12800 + (10 * f0 + cc) : Nat) : Int) K' f) K' s34) N 0 b := fun f => rfl
            have s2 : ∀ (f : Nat) (K2 : Int → gMem → Option (Int × gMem)), tw_sort_l110 N h ((f0 + 1 : Nat) : Int) way (n : Int) ((12800 + (10 * f0 + cc) : Nat) : Int) 0 K2 (f + 1) 0 b = if (0 : Int) ≤ 0 then K2 0 b else _ := fun f K2 => rfl
            have e1 : tw_sort_l99 N h ((f0 + 1 : Nat) : Int) way (n : Int) ((12800 + (10 * f0 + cc) : Nat) : Int) K' N 0 b = tw_sort_l99 N h ((f0 + 1 : Nat) : Int) way (n : Int) ((12800 + (10 * f0 + cc) : Nat) : Int) K' (N' + 1) 0 b := by rw [← eN]
            have e2 : ∀ K2, tw_sort_l110 N h ((f0 + 1 : Nat) : Int) way (n : Int) ((12800 + (10 * f0 + cc) : Nat) : Int) 0 K2 N 0 b = K2 0 b := fun K2 => by
              have e3 : tw_sort_l110 N h ((f0 + 1 : Nat) : Int) way (n : Int) ((12800 + (10 * f0 + cc) : Nat) : Int) 0 K2 N 0 b = tw_sort_l110 N h ((f0 + 1 : Nat) : Int) way (n : Int) ((12800 + (10 * f0 + cc) : Nat) : Int) 0 K2 (N' + 1) 0 b := by rw [← eN]
              rw [e3, s2, if_pos (by decide)]
            rw [e1, st, if_neg (by omega), e2]
            unfold tw_sort_l99_j169
            rw [if_pos (by decide), show w32 ((0 : Int) + 1) = ((1 : Nat) : Int) from (w32_i (by omega) (by omega)).trans (by omega)]
            rfl
          rw [first]
          have Y1 : Ex (fun a _ => (h + 33 ≤ a ∧ a ≤ h + 37) ∨ a = h + 43) b (wI b (h + 43) 0 0) := Ex.rf.I (Or.inr rfl)
          have F1 : SoF x h A f0 (Gs 0).1.1.length 1 s13 b (fun _ => 0) s18 (wI b (h + 43) 0 0) := by
            refine ⟨X18.mono (fun a k p => Or.inl p), Y1, Rb.2.1.1.2.1.I (fun z => by omega), fun j hj => ?_, fun j h1 h2 => I18 j h1, fun j hj => (show (0 : Nat) < 1 by decide), fun j j' hj hj' _ => by omega⟩
            have : j = 0 := by omega
            subst this
            exact ⟨I18 (f0 + 0) (by omega), by rw [mIwI2 ⟨rfl, rfl⟩, w32_i (by omega) (by omega)]; rfl⟩
          refine sort_out (s0 := s13) (r0 := b) (V := V) (L := (Gs 0).1.1.length) (c := cc) (n := n) (A := A) (by omega) SB hn hw (fun s35 r39 q F => ?_) (n - 1) 1 N N' s18 (wI b (h + 43) 0 0) (fun _ => 0) (by omega) (by omega) (by omega) F1
          obtain ⟨X35, Y39, tb39, ar, rs, p1, p2⟩ := F
          rw [X35.rT, X35.rN, nA, w32_i (x := ((Gs 0).1.1.length : Int)) (by omega) (by omega), tn]
          refine E2.lg tA (E2.lg (by omega) (E2.ll ?_))
          obtain ⟨Bq, hB⟩ : ∃ B, B = mZ s35 := ⟨_, rfl⟩
          have eB : Bq = A + 1 := by rw [hB, X35.rZ, z13]
          obtain ⟨s39, h39⟩ : ∃ s, s = wN s35 100 (Gs 0).1.1.length := ⟨_, rfl⟩
          rw [← hB, ← h39]
          have K35 : Kz (fun a => a = A ∨ (x + 1437 ≤ a ∧ a ≤ x + 1440)) s13 s35 := X35.kp l13.ok (fun a k p => by unfold SrC at p; exact p)
          have K39 : Kz (fun a => a = A ∨ (x + 1437 ≤ a ∧ a ≤ x + 1440)) s13 s39 := by rw [h39]; exact K35.wN
          have T39 : ∀ b, b ≠ Bq → mT s39 b = mT s13 b ∧ mN s39 b = mN s13 b ∧ (∀ j, mR s39 b j = mR s13 b j) ∧ ∀ j, mI s39 b j = mI s35 b j := fun b hb => by
            rw [h39, mT_wN, mN_wN, ← hB, if_neg hb, if_neg hb, X35.rT, X35.rN]
            exact ⟨rfl, rfl, fun j => by rw [mR_wN, ← hB, if_neg hb, X35.rR], fun j => by rw [mI_wN, ← hB, if_neg hb]⟩
          have e8s := R13.c0.1
          have cs := R13.c0.2
          have nx1 : x ≠ Bq := by omega
          have na1 : rt 0 ≠ Bq := by omega
          have M0s := cs.1.2.1
          have eM0 : mR s13 (rt 0) 0 = mR a.2 (rt 0) 0 := K13.rR okb (by rw [cb.1.1]; decide) (fun f => f) 0
          have nm1 : mR s13 (rt 0) 0 ≠ Bq := by rw [eM0]; omega
          have o0 : OutS x h (mR s13 (rt 0) 0) := (R13.1.2.2.2.1.1 0 (Or.inl rfl)).2.2 _ (Or.inr (Or.inl rfl))
          have nm2 : mR s13 (rt 0) 0 ≠ A := by rw [eM0]; omega
          have lm : LsC s39 (mR s39 (rt 0) 0) (Gs 0).1.1 := by
            rw [(T39 (rt 0) na1).2.2.1 0]
            refine ⟨by rw [(T39 _ nm1).1]; exact M0s.1, by rw [(T39 _ nm1).2.1]; exact M0s.2.1, M0s.2.2.1, fun j hj => ?_⟩
            rw [(T39 _ nm1).2.2.2 j, X35.rI (fun p => by unfold SrC at p; unfold OutS at o0; omega)]
            exact M0s.2.2.2 j hj
          have iA : ∀ j, j < (Gs 0).1.1.length → mI s39 A j = (srQ f0 n q j : Nat) := fun j hj => by
            rw [(T39 A (by omega)).2.2.2 j]
            unfold srQ
            by_cases c : f0 ≤ j ∧ j < f0 + n
            · rw [if_pos c]
              have := (ar (j - f0) (by omega)).1
              rw [show f0 + (j - f0) = j by omega] at this
              exact this
            · rw [if_neg c]; exact rs j hj (by omega)
          have lQ : ∀ j, j < (Gs 0).1.1.length → srQ f0 n q j < (Gs 0).1.1.length := fun j hj => srQ_lt p1 hn hj
          have tB : mT s39 Bq = 100 ∧ mN s39 Bq = (Gs 0).1.1.length := by rw [h39, mT_wN, mN_wN, if_pos hB, if_pos hB]; exact ⟨rfl, rfl⟩
          have c0z : (cqN q (min n (0 - f0)) : Nat) = 0 := by rw [show min n (0 - f0) = 0 by omega]; rfl
          suffices Z : E2 (x1_sort_l186 N x A Bq (fun y51 s52 => if mT s52 x = 1 then (x1_step N x s52).bind fun x54 => if mT x54 (mR x54 x 8) = 8 then (x9_lay N (mR x54 x 8) 0 Bq x54).bind fun x57 => some ((.inl (some (vI y51)), x57) : gR) else none else none) N (cqN q (min n (0 - f0)) : Nat) ((0 : Nat) : Int) s39) ((tw_step N h r39).bind fun x41 => tw_sort_l196 N h ((f0 + 1 : Nat) : Int) (n : Int) x41.1 (fun y50 s51 => some (y50, s51)) N 0 0 x41.2) (OpO x h t cdIA σ τ) by
            rw [c0z] at Z
            exact Z
          refine sort_mk (s0 := s39) (q := q) (n := n) (f0 := f0) (rows := (Gs 0).1.1) (by rw [(T39 x nx1).1]; exact l13.1.1) (by rw [(T39 x nx1).2.2.1]; exact e8s) (by rw [(T39 _ na1).1]; exact cs.1.1) lm (by rw [(T39 A (by omega)).1]; exact tA) (by rw [(T39 A (by omega)).2.1]; exact nA) tB.1 tB.2 (by omega) (by rw [(T39 _ na1).2.2.1]; exact nm1.symm) iA lQ hn (fun s52 X52 I52 => ?_) (Gs 0).1.1.length 0 N s39 (by omega) (by omega) Ex.rf (fun j hj => absurd hj (by omega))
          -- the state before the step
          have ok39 := K39.ok
          have K52' : Kz (fun a => a = Bq) s39 s52 := X52.kp ok39 (fun a k p => p)
          have K52 : Kz (fun a => x + 1437 ≤ a ∧ a ≤ x + 1440) a.2 s52 := (((K13.mono (fun _ f => f.elim)).trN K39 (fun a ha w => by omega)).trN K52' (fun a ha w => by omega))
          have rA : ∀ b j, b ≠ Bq → mR s52 b j = mR s13 b j := fun b j hb => by rw [X52.rR]; exact (T39 b hb).2.2.1 j
          have R52 := Rb.scr K52 (fun a0 j h1 h2 => by
            rw [rA a0 j (by omega), h13, mR_wN, if_neg (by omega)]) (fun q hq ht => by
            exfalso
            rw [X52.rT] at ht
            by_cases c1 : q = Bq
            · rw [c1, tB.1] at ht; cases ht
            · rw [(T39 q c1).1] at ht
              by_cases c2 : q = A
              · rw [c2, tA] at ht; cases ht
              · rw [h13, mT_wN, if_neg (by omega), okb q hq] at ht; cases ht)
          have vc39 : ∀ c, c < 13120 → ∃ v, VC r39 h c v := fun c hc => by
            obtain ⟨v, hv⟩ := Rb.2.1.2.2.2.2.2 c hc
            exact ⟨v, VG.ex Y39 hv (by omega) (by omega) (by omega) (fun i hi => by omega)⟩
          have R4 := R52.vpt Y39 (fun a k p => by unfold Vp TSc; omega) tb39 vc39 ⟨fun k hk z c hc => by
              rw [Y39.rI (by omega)] at z
              exact VG.ex Y39 (Rb.2.2.2.2.2.1 k hk z c hc) (by omega) (by omega) (by omega) (fun i hi => by omega), fun k h1 h2 => by rw [Y39.rI (by omega)]; exact Rb.2.2.2.2.2.2.1 k h1 h2, fun z => by
              rw [Y39.rI (by omega)] at z
              obtain ⟨V', q1, q2⟩ := Rb.2.2.2.2.2.2.2 z
              exact ⟨V', q1, fun c hc => VG.ex Y39 (q2 c hc) (by omega) (by omega) (by omega) (fun i hi => by omega)⟩⟩
          have l52 := R4.1.1
          refine E2.lg l52.1.1 ?_
          obtain ⟨own5, rt5, fs5, r5, er, b5', eb, b1, R5, b3, b4, b5, b6⟩ := both_step (N := N) (by omega) R4
          refine E2.le er (E2.re eb ?_)
          have g0 := stG_0 pa Gs
          obtain ⟨kk, k40, k122⟩ := kept_k R5
          rw [b1]
          have s5 := R5.c0
          have lr := R5.1.1
          have p5 := R5.p0.axs (ax := 0)
          rw [s5.1]
          refine E2.lg s5.2.1.1 ?_
          have tB52 : mT s52 Bq = 100 := by rw [X52.rT]; exact tB.1
          have nB52 : mN s52 Bq = (Gs 0).1.1.length := by rw [X52.rN]; exact tB.2
          have lsB : LsC r5 Bq (lst (Gs 0).1.1.length (fun j => gl (Gs 0).1.1 (srQ f0 n q j))) := by
            have : LsC s52 Bq (lst (Gs 0).1.1.length (fun j => gl (Gs 0).1.1 (srQ f0 n q j))) := ⟨tB52, by rw [nB52, lst_len], by rw [lst_len]; exact n32, fun j hj => by
              rw [lst_len] at hj
              rw [I52 j hj, gl_lst hj]⟩
            exact this.kp b3.1 l52.ok (by unfold StW; omega)
          have lok : LnOk (stG pa Gs 0) 0 (Gs 0).1.1.length (fun j => gl (Gs 0).1.1 (srQ f0 n q j)) (fun j => some (srQ f0 n q j)) (if (0 : Int) ≠ 0 then mI b5'.2 h 7 else mI b5'.2 h 6) := by
            rw [g0] at p5 ⊢
            exact ok_pl (S := Gs 0) (ax := 0) (c := srQ f0 n q) p5.1 p5.2.1 (by omega) n32 (fun j hj => lQ j hj) (fun i j _ _ e => srQ_inj p1 p2 e)
          obtain ⟨f, ef, f1, f2, f3, f4, f5, own6, FF⟩ := both_layO (N := N) (by omega) R5 b5 (Kz.rf lr.ok) lsB (show OutS x h Bq from Or.inr (by omega)) (fun q hq => Or.inl (lr.ok q hq)) lok
          refine E2.le ef (E2.lv rfl ?_)
          have kS := R5.s0
          rw [g0] at kS FF
          have L0 := kS.lines (ax := 0) m10
          have i43 : ∀ j, j < n → mI b5'.2 (h + 43) j = (q j : Int) := fun j hj => by
            rw [b4.rI (fun p => by have := p.out; omega)]; exact (ar j hj).2
          refine sort_ln (τ := b5'.2) (S := Gs 0) (nv := nv) (f0 := f0) (n := n) (q := q) (by omega) n32 m10 k122 k40 hn p1 i43 (fun r6 X6 L6 => Ev.r ?_) n 0 N b5'.2 (by omega) (by omega) Ex.rf kk (L0.cg (fun j hj => ?_))
          · have XX : Ex (LnQ h 0) b5'.2 r6 := X6.mono (fun a k p => Or.inl p)
            have cn : mI r6 (if (0 : Int) ≠ 0 then h + 2 else h + 1) 40 = ((Gs 0).1.1.length : Int) := by
              rw [if_neg (by decide), X6.rI (fun p => by unfold LnP at p; omega)]
              exact kS.1
            have sh6 := ln_sh (n := (Gs 0).1.1.length) (mk := fun j => gl (Gs 0).1.1 (srQ f0 n q j)) (fl := fun j => some (srQ f0 n q j)) kS n32 m10 XX L6 n32 cn
            have R7 := FF _ (LnQ h 0) XX (fun a k p => Or.inl p.sl) sh6 (by rw [XX.rI (fun p => by have := p.out; omega)]; exact b6)
            have nt0 : Kz (NoT x h) σ a.2 := K'.mono (fun a w => by unfold RdyW RqW at w; unfold NoT; omega)
            have nt1 : Kz (NoT x h) a.2 s52 := K52.mono (fun a w => by unfold NoT; omega)
            have z52 : mZ s52 = mZ a.2 + 2 := by rw [X52.rZ, h39]; show mZ s35 + 1 = _; rw [← hB]; omega
            have S52 : mS s52 ≤ mS a.2 + 64 := by
              rw [X52.rS, h39]
              show mS s35 + (Gs 0).1.1.length ≤ _
              rw [X35.rS, h13]
              show mS a.2 + (Gs 0).1.1.length + (Gs 0).1.1.length ≤ _
              omega
            have i17 : mI s52 x 17 = mI a.2 x 17 := (K52.2.2.2 x lxb (by omega) 17).1
            refine ⟨⟨_, _, _, _, _, _, _, _, R7.t1⟩, ⟨((nt0.tr nt1).tr (b3.nt hh)).tr f1, 0, ?_, ?_, ?_⟩, ?_, Or.inl ⟨_, rfl, rfl, ?_, by have := cqN_le q n; exact ⟨by omega, by omega⟩⟩⟩
            · show mI f x 17 = _
              rw [f2, b3.2.2.1 17 (by decide) (by decide) (by decide), i17, z6 17 (by decide)]; omega
            · show mZ f ≤ _; have := b3.2.2.2.2.1; omega
            · show mS f ≤ _; have := b3.2.2.2.2.2; omega
            · exact (((((Ex.rf.I (by unfold TwA; omega)).tr (Xb.mono (fun a k p => by unfold Vp at p; unfold TwA; omega))).tr (Y39.mono (fun a k p => by unfold TwA; omega))).tr (b4.mono (fun a k p => p.ta))).tr (XX.mono (fun a k p => by have := p.out; unfold TwA; omega)))
            · show mI r6 h 0 = 0
              rw [XX.rI (fun p => by have := p.out; omega), b4.rI (fun p => by have := p.out; omega), Y39.rI (by omega), Xb.rI (by unfold Vp; omega)]; exact i0
          · have e : (if f0 ≤ j ∧ j < f0 + 0 then srQ f0 n q j else j) = j := if_neg (by omega)
            exact ⟨hj, by rw [e]; rfl, by rw [e]⟩
        · exact E2.lf le (E2.rf le (E2.r (OpO.ex R (by decide) (by decide))))
      · rw [if_neg h3, if_neg (fun z : inS (Gs 0) v3 v1 => h3 ⟨z.1, z.2.1⟩)]
        exact E2.lf (by decide) (E2.rf (by decide) (E2.r (OpO.ex R (by decide) (by decide))))
    · rw [if_neg h2, if_neg (fun z : inS (Gs 0) v2 v1 => h2 ⟨z.1, z.2.1⟩)]
      exact E2.lg rfl (E2.rg rfl (E2.r (OpO.ex R (by decide) (by decide))))
  · rw [if_neg hc, if_neg (fun z : inS (Gs 0) v2 v1 => hc ⟨z.2.2.1, z.2.2.2⟩)]
    exact E2.lg rfl (E2.rg rfl (E2.r (OpO.ex R (by decide) (by decide))))
end State45
