/-! ===== PHASE 2: the act commit, whole ===== -/
section State41
variable {N x h t nv pa un fs vA sA hd : Nat} {σ τ m : gMem} {own rt : Nat → Nat} {Gs : Nat → Sh} {g : Nat → Nat → Vl} {v w : Int}
theorem c_init10 {v1 : Nat} {v2 v3 v4 : Int} (t9 : mT σ vA = 9) : x10_init vA v1 v2 v3 v4 σ = some (wL (wI (wI (wR (wR (mkV σ) vA 1 (mZ σ)) vA 0 v1) vA 2 v2) vA 3 v3) vA 4 v4) := by
  unfold x10_init
  rw [if_pos t9]
  show (x2_init (mZ σ) (wN σ 2 4)).bind _ = _
  rw [c_init2, Option.bind_some]
  rfl
def cdCo : List (String × Int) := [("java/lang/IllegalStateException", 1), ("java/lang/UnsupportedOperationException", 2)]
/-- commit -/
theorem op_commit (hN : 200000 ≤ N) (R : RL x h t σ τ) : E2 (x1_commit N x σ) (tw_commit N h τ) (OpO x h t cdCo σ τ) := by
  obtain ⟨nv, pa, un, fs, Gs, g, own, rt, R⟩ := R
  have l := R.1.1
  have ok := l.ok
  have hh := R.1.2.1.1
  have Rt := (R.t0 (v := 0)).ownC (own' := fun b => if mZ σ ≤ b then mZ σ + 1 else own b) (fun b hb => if_neg (by omega))
  have i0 : mI (wI τ h 0 0) h 0 = 0 := by rw [mIwI2 ⟨rfl, rfl⟩, w32_i (by omega) (by omega)]
  obtain ⟨τ0, hτ0⟩ : ∃ τ0, τ0 = wI τ h 0 0 := ⟨_, rfl⟩
  have Y0 : Ex (TwA h) τ τ0 := by rw [hτ0]; exact Ex.rf.I (by unfold TwA; omega)
  rw [← hτ0] at Rt i0
  obtain ⟨c5, n1, n4, pu, c8, p4, u4⟩ := Rt.c5
  have e4 := l.R (4, 2) (by decide)
  have e6 := l.R (6, 3) (by decide)
  have t2 := l.T (2, 104, 40) (by decide)
  have t3 := l.T (3, 100, 6) (by decide)
  (try dsimp only at e4 e6 t2 t3)
  obtain ⟨un0, eu, fu⟩ := Rt.uns (N := N) (by omega)
  obtain ⟨hd, hl, h1, h2⟩ := Rt.head
  obtain ⟨bb1, ⟨br, bb2, bb3, bb4, bb5⟩, bb6, bb7⟩ := Rt.br
  have ehd : mI τ0 (h + 8) br = hd := by
    have z := h2
    unfold tw_head at z
    rw [bb4, if_pos (by omega), tn] at z
    exact Option.some.inj z
  unfold x1_commit tw_commit
  refine E2.lg l.1.1 (E2.le eu (E2.rl ?_))
  rw [← hτ0]
  refine E2.re fu ?_
  by_cases cu : (un0 : Int) ≤ 0
  · refine E2.lg cu (E2.rg cu ?_)
    rw [c5, c8]
    by_cases cn : (nv : Int) ≠ 40
    · have hn : nv < 40 := by omega
      have wh := Rt.ver hl
      refine E2.lg cn (E2.rg cn (E2.le h1 ?_))
      rw [e4, t2.2, tn]
      refine E2.lg t2.1 (E2.lg (by omega) (E2.lg wh.1 ?_))
      have JJ : ∀ B : Int, (∀ j, j < 64 → (tb B j = true ↔ (tb (mL σ (mR σ (x + 2) hd) 4) j = true ∨ ∃ p : Nat, mI τ0 h 13 = p ∧ tb (mL σ (mR σ (x + 2) p) 4) j = true))) → E2 (x1_commit_j68 N x B σ) ((tw_copySheet N h 40 nv τ0).bind fun x8 => (tw_head h x8).bind fun x11 => if 0 ≤ (nv : Int) ∧ (nv : Int) < ((40 : Nat) : Int) then gLet (wI x8 (h + 6) (nv : Int).toNat x11) (fun s13 => if 0 ≤ (nv : Int) ∧ (nv : Int) < ((40 : Nat) : Int) then gLet (wI s13 (h + 7) (nv : Int).toNat (mI s13 h 13)) (fun s17 => gLet (wI s17 h 13 (-1)) (fun s20 => gLet (wI s20 h 98 0) (fun s23 => if 0 ≤ mI s23 h 12 ∧ mI s23 h 12 < ((6 : Nat) : Int) then gLet (wI s23 (h + 8) (mI s23 h 12).toNat (nv : Int)) (fun s27 => gLet (wI s27 h 8 (w32 (mI s27 h 8 + 1))) (fun s31 => some ((nv : Int), s31))) else none))) else none) else none) (OpO x h t cdCo σ τ) := by
        intro B hB
        unfold x1_commit_j68
        refine E2.ll ?_
        have K12 : Kz (fun _ => False) σ (wN σ 9 5) := (Kz.rf ok).wN
        have R12 := Rt.new K12 (fun q hq ht => by
          rw [mT_wN] at ht
          by_cases c : q = mZ σ
          · rw [if_pos c] at ht; cases ht
          · rw [if_neg c, ok q hq] at ht; cases ht)
        have C12 := R12.c0
        have l12 := R12.1.1
        have z12 : mZ (wN σ 9 5) = mZ σ + 1 := rfl
        rw [C12.1]
        refine E2.lg l12.1.1 (E2.lg C12.2.1.1 ?_)
        obtain ⟨r0, er0, a1, K0, a3, a4, a5, a6⟩ := c_twin (N := N) (by omega) l12.ok l12.z C12.2
        rw [z12] at a1 a3 a5 a6
        have t9r : mT r0.2 (mZ σ) = 9 := by rw [(K0.2.2.1 (mZ σ) (by rw [z12]; omega)).1, mT_wN, if_pos rfl]
        have Kσ0 : Kz (fun _ => False) σ r0.2 := K12.tr K0
        have np0 : ∀ q, mZ σ ≤ q → mT r0.2 q = 9 ∨ mT r0.2 q = 0 ∨ mT r0.2 q = 8 ∨ mT r0.2 q = 100 ∨ mT r0.2 q = 110 ∨ mT r0.2 q = 111 := fun q hq => by
          by_cases c : q = mZ σ
          · rw [c]; exact Or.inl t9r
          · exact Or.inr (a6 q (by omega))
        have R0 := Rt.new Kσ0 (fun q hq ht => by have := np0 q hq; omega)
        obtain ⟨hd', -, hh1, hh2⟩ := R0.head
        have ehh : hd' = hd := by rw [hh2] at h2; have := Option.some.inj h2; omega
        rw [ehh] at hh1
        refine E2.le er0 (E2.le hh1 (E2.le (c_init10 t9r) ?_))
        obtain ⟨c50, -⟩ := R0.c5
        obtain ⟨-, -, ⟨b15, -⟩, -⟩ := R0.br
        rw [c50, b15, a1]
        obtain ⟨qA, hqA⟩ : ∃ qA, qA = mZ r0.2 := ⟨_, rfl⟩
        obtain ⟨bits, hbits⟩ : ∃ b, b = lOr B (lShl (((1 : Fin 2) : Nat) : Int) (nv : Int)) := ⟨_, rfl⟩
        rw [← hqA, ← hbits]
        obtain ⟨m0, hm0⟩ : ∃ m0, m0 = wL (wI (wI (wR (wR (mkV r0.2) (mZ σ) 1 qA) (mZ σ) 0 (mZ σ + 1)) (mZ σ) 2 (hd : Int)) (mZ σ) 3 (mI τ0 h 13)) (mZ σ) 4 bits := ⟨_, rfl⟩
        rw [← hm0]
        have zq : mZ σ + 1 < qA := by
          have : mT r0.2 (mZ σ + 1) ≠ 0 := by rw [a5.1.1.1]; decide
          rw [hqA]; exact gOk_lt Kσ0.ok this
        have Km0 : Kz (fun _ => False) σ m0 := by
          rw [hm0]
          exact ((((((mkV_K Kσ0).wR (Or.inl (Nat.le_refl _))).wR (Or.inl (Nat.le_refl _))).wI (Or.inl (Nat.le_refl _))).wI (Or.inl (Nat.le_refl _))).wL (Or.inl (Nat.le_refl _)))
        have Kr0 : Kz (fun a => a = mZ σ) r0.2 m0 := by
          have K00 : Kz (fun a => a = mZ σ) r0.2 r0.2 := Kz.rf Kσ0.ok
          rw [hm0]
          exact ((((((mkV_K K00).wR (Or.inr rfl)).wR (Or.inr rfl)).wI (Or.inr rfl)).wI (Or.inr rfl)).wL (Or.inr rfl))
        have KmV : Kz (fun a => a = mZ σ) (mkV r0.2) m0 := by
          have K00 : Kz (fun a => a = mZ σ) (mkV r0.2) (mkV r0.2) := Kz.rf (mkV_K Kσ0).ok
          rw [hm0]
          exact (((((K00.wR (Or.inr rfl)).wR (Or.inr rfl)).wI (Or.inr rfl)).wI (Or.inr rfl)).wL (Or.inr rfl))
        have eTm : mT m0 = mT (mkV r0.2) := by rw [hm0]; rfl
        have zm0 : mZ m0 = mZ r0.2 + 5 ∧ mS m0 = mS r0.2 + 4 + 320 + 320 + 7680 + 320 := by rw [hm0]; exact mkV_Z
        have R00 := Rt.new Km0 (fun q hq ht => by
          rw [eTm, mkV_T] at ht
          have := np0 q hq
          repeat' split at ht
          all_goals omega)
        -- what lies in the new memory
        have v9 : mT m0 (mZ σ) = 9 := by rw [Kr0.tag Kσ0.ok (by rw [t9r]; decide)]; exact t9r
        have vr0 : mR m0 (mZ σ) 0 = mZ σ + 1 := by rw [hm0, mR_wL, mR_wI, mR_wI, mR_wR, if_pos ⟨rfl, rfl⟩]
        have vr1 : mR m0 (mZ σ) 1 = qA := by rw [hm0, mR_wL, mR_wI, mR_wI, mR_wR, if_neg (by omega), mR_wR, if_pos ⟨rfl, rfl⟩]
        have vi2 : mI m0 (mZ σ) 2 = hd := by rw [hm0, mI_wL, mIwI1 (by omega), mIwI2 ⟨rfl, rfl⟩, w32_i (by omega) (by omega)]
        have vi3 : mI m0 (mZ σ) 3 = mI τ0 h 13 := by rw [hm0, mI_wL, mIwI2 ⟨rfl, rfl⟩, mI_w32]
        have vl4 : mL m0 (mZ σ) 4 = w64 bits := by rw [hm0, mL_wL, if_pos ⟨rfl, rfl⟩]
        have vly : VLy m0 qA := by
          have z := mkV_ly (σ := r0.2)
          rw [← hqA] at z
          exact z.kp KmV (mkV_K Kσ0).ok (by omega)
        have sfar : ∀ b, ShA r0.2 (mZ σ + 1) (Gs 0).1.1.length b → ¬ b = mZ σ := fun b hb e => by have := a5.2.1 b hb; omega
        have wnr : WN r0.2 (fun a => a = mZ σ) := ⟨(fun w => by have e : 0 = mZ σ := w; have := l.z; omega), fun a w => by
          have e : a = mZ σ := w
          rw [e, t9r]; omega⟩
        have z0r : 0 < mZ r0.2 := by have := Kσ0.1; have := l.z; omega
        have sC0 : ShC m0 (mZ σ + 1) (Gs 0) := a5.1.kp Kr0 Kσ0.ok z0r wnr sfar
        have ow0 : OwS (fun b => if mZ σ ≤ b then mZ σ + 1 else own b) r0.2 (mZ σ + 1) (Gs 0).1.1.length := a5.ow ⟨if_pos (by omega), if_pos (by omega), fun k hk => if_pos (by omega)⟩
        have fa0 := sfar _ (Or.inl rfl)
        have fc0 := sfar _ (Or.inr (Or.inr (Or.inr (Or.inl rfl))))
        have sO0 := ow0.kp Kr0 Kσ0.ok a5.1 fa0 fc0
        have sF0 : ∀ b, ShA m0 (mZ σ + 1) (Gs 0).1.1.length b → mZ σ + 1 ≤ b := fun b hb => a5.2.1 b ((ShA.kp Kr0 Kσ0.ok a5.1 fa0 fc0).mp hb)
        have zh := R.1.2.1.2
        -- ready
        obtain ⟨m1, em1, d1, R1, KR, d4, d5, d6, d7⟩ := R00.rdy hN
        refine E2.le em1 ?_
        have okm := R00.1.1.ok
        have rw' : ∀ a, mZ σ ≤ a → ¬ RdyW x a := fun a ha => by unfold RdyW RqW; omega
        have rn9 := rw' (mZ σ) (Nat.le_refl _)
        have t9m : mT m0 (mZ σ) ≠ 0 := by rw [v9]; decide
        have v9' : mT m1.2 (mZ σ) = 9 := by rw [KR.tag okm t9m]; exact v9
        have vr0' : mR m1.2 (mZ σ) 0 = mZ σ + 1 := by rw [KR.rR okm t9m rn9]; exact vr0
        have vr1' : mR m1.2 (mZ σ) 1 = qA := by rw [KR.rR okm t9m rn9]; exact vr1
        have vi2' : mI m1.2 (mZ σ) 2 = hd := by rw [KR.rI okm t9m rn9]; exact vi2
        have vi3' : mI m1.2 (mZ σ) 3 = mI τ0 h 13 := by rw [KR.rI okm t9m rn9]; exact vi3
        have vl4' : mL m1.2 (mZ σ) 4 = w64 bits := by rw [KR.rL okm t9m rn9]; exact vl4
        have vly' : VLy m1.2 qA := vly.kp KR okm (rw' qA (by omega))
        have wnm : WN m0 (RdyW x) := by
          obtain ⟨V0, vv0⟩ := R00.1.2.2.2.2.2.2
          have l0 := R00.1.1
          refine ⟨fun w => ?_, fun a w => ?_⟩
          · rcases w with w | w
            · have := l0.1.1; rw [← w, l0.z0] at this; omega
            · unfold RqW at w; omega
          · rcases w with w | w
            · rw [w, l0.1.1]; omega
            · have := rqW_t l0 vv0 w; exact ⟨by omega, by omega, this.2⟩
        have sCm : ShC m1.2 (mZ σ + 1) (Gs 0) := sC0.kp KR okm R00.1.1.z wnm (fun b hb => rw' b (by have := sF0 b hb; omega))
        have rs1 := rw' (mZ σ + 1) (by omega)
        have rs2 := rw' (mR m0 (mZ σ + 1) 2) (by have := sF0 _ (Or.inr (Or.inr (Or.inr (Or.inl rfl)))); omega)
        have sOm := sO0.kp KR okm sC0 rs1 rs2
        obtain ⟨V, vv, iv⟩ := R1.2.2.2.2.1.2 d7
        have l1 := R1.1.1
        have e41 := l1.R (4, 2) (by decide)
        have e61 := l1.R (6, 3) (by decide)
        have t21 := l1.T (2, 104, 40) (by decide)
        have t31 := l1.T (3, 100, 6) (by decide)
        (try dsimp only at e41 e61 t21 t31)
        obtain ⟨m2, em2, v2, K2, z2, s2, eR2, eT2⟩ := c_copy2 vv vly' (by omega) l1.ok
        obtain ⟨c51, -⟩ := R1.c5
        obtain ⟨-, ⟨br1, bq2, bq3, bq4, -⟩, -, -⟩ := R1.br
        have ebr : br1 = br := by omega
        rw [ebr] at bq3
        have i5 : mI m2 x 5 = nv := by rw [K2.rI l1.ok (by rw [l1.1.1]; decide) (by omega)]; exact c51
        have i7 : mI m2 x 7 = br := by rw [K2.rI l1.ok (by rw [l1.1.1]; decide) (by omega)]; exact bq3
        have n2m : mN m2 (x + 2) = 40 := by rw [K2.len l1.ok (by rw [t21.1]; decide)]; exact t21.2
        have n3m : mN m2 (x + 3) = 6 := by rw [K2.len l1.ok (by rw [t31.1]; decide)]; exact t31.2
        rw [vr1, d1]
        refine E2.lg vly'.1 (E2.le em2 ?_)
        rw [show mR m2 x 4 = x + 2 by rw [eR2]; exact e41, i5, tn]
        refine E2.lg (by rw [eT2]; exact t21.1) (E2.lg (Or.inr (by rw [eT2, v9']; decide)) (E2.lg (by rw [n2m]; omega) (E2.ll ?_)))
        have f6 : mR (wR m2 (x + 2) nv (mZ σ)) x 6 = x + 3 := by rw [mR_wR, if_neg (by omega), eR2]; exact e61
        have f7 : mI (wR m2 (x + 2) nv (mZ σ)) x 7 = br := i7
        have f5 : mI (wR m2 (x + 2) nv (mZ σ)) x 5 = nv := i5
        rw [f6, f7, f5, tn]
        refine E2.lg (by show mT m2 (x + 3) = 100; rw [eT2]; exact t31.1) (E2.lg (by show 0 ≤ (br : Int) ∧ (br : Int) < ((mN m2 (x + 3) : Nat) : Int); rw [n3m]; omega) (E2.ll (E2.ll (E2.ll (E2.ll ?_)))))
        have g5 : mI (wI (wR m2 (x + 2) nv (mZ σ)) (x + 3) br nv) x 5 = nv := by rw [mIwI1 (by omega)]; exact f5
        have wn1 : w32 ((nv : Int) + 1) = ((nv + 1 : Nat) : Int) := by rw [w32_i (by omega) (by omega)]; omega
        rw [g5, wn1]
        obtain ⟨m3, hm3⟩ : ∃ m3, m3 = wI (wI (wI (wI (wR m2 (x + 2) nv (mZ σ)) (x + 3) br nv) x 5 ((nv + 1 : Nat) : Int)) x 15 (-1)) x 20 0 := ⟨_, rfl⟩
        rw [← hm3]
        have h5 : mI m3 x 5 = ((nv + 1 : Nat) : Int) := by rw [hm3, mIwI1 (by omega), mIwI1 (by omega), mIwI2 ⟨rfl, rfl⟩, w32_i (by omega) (by omega)]
        rw [h5, show w32 (((nv + 1 : Nat) : Int) - 1) = (nv : Int) by rw [w32_i (by omega) (by omega)]; omega]
        refine E2.rc (t_copySheet (N := N) (h := h) (τ := τ0) (t := 40) (u := nv) (by omega) (by decide) (by omega) (by omega)) (fun r1 cp => ?_)
        have y12 : mI r1 h 12 = br := by rw [cp.1.rI (by unfold CpP; omega)]; exact bb4
        have y8b : mI r1 (h + 8) br = hd := by rw [cp.1.rI (by unfold CpP; omega)]; exact ehd
        have y13 : mI r1 h 13 = mI τ0 h 13 := cp.1.rI (by unfold CpP; omega)
        have y8 : mI r1 h 8 = nv := by rw [cp.1.rI (by unfold CpP; omega)]; exact c8
        have eh1 : tw_head h r1 = some (hd : Int) := by
          unfold tw_head
          rw [y12, if_pos (by omega), tn, y8b]
        refine E2.re eh1 (E2.rg (by omega) (E2.rl (E2.rg (by omega) (E2.rl (E2.rl (E2.rl ?_))))))
        have y13' : mI (wI r1 (h + 6) nv (hd : Int)) h 13 = mI τ0 h 13 := by rw [mIwI1 (by omega)]; exact y13
        rw [y13']
        have y12' : mI (wI (wI (wI (wI r1 (h + 6) nv (hd : Int)) (h + 7) nv (mI τ0 h 13)) h 13 (-1)) h 98 0) h 12 = br := by rw [mIwI1 (by omega), mIwI1 (by omega), mIwI1 (by omega), mIwI1 (by omega)]; exact y12
        rw [y12', tn]
        refine E2.rg (by omega) (E2.rl (E2.rl ?_))
        have y8' : mI (wI (wI (wI (wI (wI r1 (h + 6) nv (hd : Int)) (h + 7) nv (mI τ0 h 13)) h 13 (-1)) h 98 0) (h + 8) br nv) h 8 = nv := by rw [mIwI1 (by omega), mIwI1 (by omega), mIwI1 (by omega), mIwI1 (by omega), mIwI1 (by omega)]; exact y8
        rw [y8', wn1]
        obtain ⟨r2, hr2⟩ : ∃ r2, r2 = wI (wI (wI (wI (wI (wI r1 (h + 6) nv (hd : Int)) (h + 7) nv (mI τ0 h 13)) h 13 (-1)) h 98 0) (h + 8) br nv) h 8 ((nv + 1 : Nat) : Int) := ⟨_, rfl⟩
        rw [← hr2]
        have ver1 : ∀ k, k < nv → mR m1.2 (x + 2) k = mR σ (x + 2) k := fun k hk => by
          rw [KR.rR okm (by rw [(R00.1.1.T (2, 104, 40) (by decide)).1]; decide) (by unfold RdyW RqW; omega), Km0.rR ok (by rw [t2.1]; decide) (fun f => f)]
        have verL : ∀ k, k < nv → ∀ j, mR m1.2 (mR σ (x + 2) k) j = mR σ (mR σ (x + 2) k) j ∧ mL m1.2 (mR σ (x + 2) k) j = mL σ (mR σ (x + 2) k) j := fun k hk j => by
          have v := R.1.vo k hk
          have nr : ¬ RdyW x (mR σ (x + 2) k) := by have := v.2; unfold OutS at this; unfold RdyW RqW; omega
          have tm : mT m0 (mR σ (x + 2) k) ≠ 0 := by rw [Km0.tag ok (by rw [v.1]; decide), v.1]; decide
          exact ⟨by rw [KR.rR okm tm nr, Km0.rR ok (by rw [v.1]; decide) (fun f => f)], by rw [KR.rL okm tm nr, Km0.rL ok (by rw [v.1]; decide) (fun f => f)]⟩
        have gb : w64 bits = bits := by rw [hbits]; exact w64_id (lOr_rng _ _)
        obtain ⟨R5, K5, X5⟩ := R1.more (vA := mZ σ) (sA := mZ σ + 1) (qA := qA) (br := br) (hd := hd) (m2 := m2) (m3 := m3) (r1 := r1) (r2 := r2) (V := V) hn v9' zh vr0' vr1' sCm sOm (fun b hb => by have := sF0 b ((ShA.kp KR okm sC0 rs1 rs2).mp hb); omega) (fun i hi e => by
            have := gOk_lt ok (a := rt i) (by rw [(R.shC hi).1.1]; decide)
            omega) (by omega) (fun k hk i hi => by
            have v3 := (R.1.2.2.2.2.2.1 k hk).2.2.1
            rw [ver1 k hk, (verL k hk 1).1]
            obtain ⟨k1, k2, k3, k4, k5, k6, k7, k8, k9, k10, k11, k12, k13, -⟩ := v3
            have z1 := gOk_lt ok (a := mR σ (mR σ (x + 2) k) 1 + 4) (by rw [k12]; decide)
            omega) K2 v2 iv eR2 eT2 vi2' vi3' bb2 bq3 bb4 ehd hl (fun j hj => by
            rw [vl4', gb, hbits, tb_or, Bool.or_eq_true, hB j hj, ver1 hd hl, (verL hd hl 4).2]
            have sh1 : tb (lShl (((1 : Fin 2) : Nat) : Int) (nv : Int)) j = decide (j = nv) := by
              have z := tb_one (n := nv) (i := j) (by omega) hj
              rw [Nat.mod_eq_of_lt (by omega)] at z
              exact z
            rw [sh1, decide_eq_true_eq]
            constructor
            · rintro ((z | ⟨p, z1, z2⟩) | z)
              · exact Or.inr (Or.inl z)
              · exact Or.inr (Or.inr ⟨p, z1, by rw [ver1 p (by omega), (verL p (by omega) 4).2]; exact z2⟩)
              · exact Or.inl z
            · rintro (z | z | ⟨p, z1, z2⟩)
              · exact Or.inr z
              · exact Or.inl (Or.inl z)
              · rw [ver1 p (by omega), (verL p (by omega) 4).2] at z2
                exact Or.inl (Or.inr ⟨p, z1, z2⟩)) hm3 cp hr2
        have ntR : Kz (NoT x h) m0 m1.2 := KR.mono (fun a w => by unfold RdyW RqW at w; unfold NoT; omega)
        have nt5 : Kz (NoT x h) m1.2 m3 := K5.mono (fun a w => by unfold NoT; omega)
        have zz5 : mZ m3 = mZ m2 ∧ mS m3 = mS m2 := by rw [hm3]; exact ⟨rfl, rfl⟩
        have lx0 : x < mZ σ := gOk_lt ok (by rw [l.1.1]; decide)
        refine E2.r ⟨⟨_, _, _, _, _, _, _, _, R5.t1⟩, ⟨((Km0.mono (fun _ f => f.elim)).tr ntR).tr nt5, 0, ?_, ?_, ?_⟩, Y0.tr (X5.mono (fun a k p => by unfold ComP CpP at p; unfold TwA; omega)), Or.inl ⟨(nv : Int), rfl, rfl, ?_, ⟨by omega, by omega⟩⟩⟩
        · show mI m3 x 17 = _
          rw [hm3, mIwI1 (by omega), mIwI1 (by omega), mIwI1 (by omega), mIwI1 (by omega)]
          show mI m2 x 17 = _
          rw [K2.rI l1.ok (by rw [l1.1.1]; decide) (by omega), d6 17 (by decide), (Km0.2.2.2 x lx0 (fun f => f) 17).1]; omega
        · show mZ m3 ≤ _; omega
        · show mS m3 ≤ _
          have : mS (wN σ 9 5) = mS σ + 5 := rfl
          omega
        · show mI r2 h 0 = 0
          rw [X5.rI (by unfold ComP CpP; omega)]; exact i0
      by_cases c15 : mI σ x 15 = -1
      · have b15 : mI τ0 h 13 = -1 := by rw [← bb6.1]; exact c15
        exact E2.lg c15 (JJ _ (fun j hj => ⟨fun z => Or.inl z, fun z => z.elim id (fun ⟨p, a1, _⟩ => by omega)⟩))
      · obtain ⟨p, ep⟩ : ∃ p : Nat, mI τ0 h 13 = (p : Int) := ⟨(mI τ0 h 13).toNat, by have := bb6; omega⟩
        have wp := Rt.ver (k := p) (by omega)
        have e15 : mI σ x 15 = (p : Int) := by rw [bb6.1]; exact ep
        rw [e15, tn]
        refine E2.lf (by omega) (E2.lg (by omega) (E2.lg wp.1 (JJ _ (fun j hj => ?_))))
        rw [tb_or, Bool.or_eq_true]
        constructor
        · rintro (z | z)
          · exact Or.inl z
          · exact Or.inr ⟨p, ep, z⟩
        · rintro (z | ⟨p', a1, a2⟩)
          · exact Or.inl z
          · have : p' = p := by omega
            rw [this] at a2
            exact Or.inr a2
    · exact E2.lf cn (E2.rf cn (E2.r (by rw [hτ0]; exact OpO.ex R (by decide) (by decide))))
  · exact E2.lf cu (E2.rf cu (E2.r (by rw [hτ0]; exact OpO.ex R (by decide) (by decide))))
end State41
