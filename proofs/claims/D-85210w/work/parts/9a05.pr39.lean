/-! ===== PHASE 2: reading: the end of a call ===== -/
section Read39
variable {N x h hi all nv sh M lu0 b b' p q op pa pi : Nat} {bA : Nat → Int} {f : Int → List Int × List Int} {σ σ' σ'' τ τ' τ'' s r σ0 τ0 σ1 τ2 : gMem} {p0 pa0 nd k kk lu : Nat} {W : Nat → gMem → Option gR} {Wt : gMem → Option gMem}
/-- the new node of a call -/
theorem node18 {A a : Nat} (c : CF x σ0 s k) (hA : A ≠ x + 1430) : ∃ fin, x20_init (mZ s) a A (wN s 18 2) = some fin ∧ CF x σ0 fin (k + 1) ∧ (∀ b, b ≠ mZ s → mT fin b = mT s b ∧ mN fin b = mN s b ∧ ∀ j, mI fin b j = mI s b j ∧ mL fin b j = mL s b j ∧ mR fin b j = mR s b j) ∧ mT fin (mZ s) = 18 ∧ mR fin (mZ s) 0 = a ∧ mR fin (mZ s) 1 = A ∧ mZ fin = mZ s + 1 := by
  have zz : mZ σ0 ≤ mZ s := c.1.1
  have tt : mT (wN s 18 2) (mZ s) = 18 := by rw [mT_wN, if_pos rfl]
  have lt := c.2.2.2.2.2.1
  refine ⟨wR (wR (wN s 18 2) (mZ s) 0 a) (mZ s) 1 A, ?_, ?_, fun b hb => ⟨?_, ?_, fun j => ⟨?_, ?_, ?_⟩⟩, ?_, ?_, ?_, rfl⟩
  · unfold x20_init; rw [if_pos tt]; rfl
  · exact ((c.wN' (t := 18) (n := 2) (Or.inr trivial) (fun _ => by omega) (by decide)).wR' zz (fun _ z => by omega)).wR' zz (fun _ _ => hA)
  · rw [mT_wR, mT_wR, mT_wN, if_neg hb]
  · rw [mN_wR, mN_wR, mN_wN, if_neg hb]
  · rw [mI_wR, mI_wR, mI_wN, if_neg hb]
  · rw [mL_wR, mL_wR, mL_wN, if_neg hb]
  · rw [mR_wR, if_neg (fun z => hb z.1), mR_wR, if_neg (fun z => hb z.1), mR_wN, if_neg hb]
  · rw [mT_wR, mT_wR]; exact tt
  · rw [mR_wR, if_neg (by omega), mR_wR, if_pos ⟨rfl, rfl⟩]
  · rw [mR_wR, if_pos ⟨rfl, rfl⟩]
theorem nmk_hi : ∀ k, k < 18 → nmk k ≠ 7 ∧ 30 ≤ nmk k ∧ nmk k ≤ 47 := by decide
theorem call_ok {ls : List Fm} (hk : kk < 18) (h1 : leastA (nmk kk) ≤ ls.length) (h2 : ls.length ≤ mostA (nmk kk)) (h3 : ∀ i (hi : i < ls.length), takes (nmk kk) i (lab ls[i]) = true) : PtOk (mkO (nmk kk) ls.length) ∧ argsOk (mkO (nmk kk) ls.length) (ls.map lab) := by
  obtain ⟨n1, n2, n3⟩ := nmk_hi kk hk
  refine ⟨Or.inr (Or.inr (Or.inr (Or.inr (Or.inr (Or.inr ⟨nmk kk, ls.length, rfl, Or.inr ⟨n2, n3⟩⟩))))), ?_⟩
  unfold argsOk
  rw [if_neg (show ¬ pK (mkO (nmk kk) ls.length) ≤ 6 by show ¬ nmk kk ≤ 6; omega), if_neg (show ¬ pK (mkO (nmk kk) ls.length) = 7 from n1), if_neg (show ¬ pK (mkO (nmk kk) ls.length) < 30 by show ¬ nmk kk < 30; omega)]
  refine ⟨h1, h2, fun i hi => ?_⟩
  rw [List.getElem_map]
  exact h3 i (by simpa using hi)
/-- the twin's row of a call, all its parts being taken -/
theorem PL.row {LZ : Prop} {ms : List Nat} (l : PL kk LZ x σ τ h nv b pi ms true) (z : LZ) (hk : kk < 18) (h1 : leastA (nmk kk) ≤ ms.length) (h2 : ms.length ≤ mostA (nmk kk)) (pt : PAt τ h (b + ms.sum) (nmk kk) (ms.length : Nat) ((1 + ms.sum : Nat) : Int)) (hb : b + ms.sum < 60420) (lu : 0 ≤ mI τ h 19) :
    ∃ ls : List Fm, ls.length = ms.length ∧ ls.flatten.length = ms.sum ∧ PtOk (mkO (nmk kk) ls.length) ∧ argsOk (mkO (nmk kk) ls.length) (ls.map lab) ∧ RwT τ h b nv (ls.flatten ++ [mkO (nmk kk) ls.length]) ∧ ∀ i (hi : i < ls.length), IsP σ ms.sum (mR σ (x + 1430) (pi + i)) ls[i] := by
  obtain ⟨l1, l2, l3⟩ := l
  have tk := tkAll_t _ _ l3.symm
  have hm : ∀ k, k < 18 → ((nmk k = 41 ∨ nmk k = 42) ↔ (k = 16 ∨ k = 17)) := by decide
  by_cases zz : kk = 16 ∨ kk = 17
  · have h41 : nmk kk = 41 ∨ nmk kk = 42 := (hm kk hk).mpr zz
    have l1' : ms.length = 1 := by
      have a1 : leastA (nmk kk) = 1 := by rcases h41 with e | e <;> (rw [e]; rfl)
      have a2 : mostA (nmk kk) = 1 := by rcases h41 with e | e <;> (rw [e]; rfl)
      omega
    obtain ⟨m, rfl⟩ : ∃ m, ms = [m] := List.length_eq_one_iff.mp l1'
    obtain ⟨u, nd, n2, n3⟩ := l2 zz rfl m rfl
    have sm : [m].sum = m := by simp
    rw [sm] at pt hb ⊢
    obtain ⟨⟨y1, y2⟩, ⟨y3, y4, y5, y6⟩, y7⟩ := nd
    obtain ⟨l, u1, u2, u3⟩ := y7 z
    have kl : mI (wI τ (h + 24) (b + m - 1) u) (h + 14) (b + m - 1) = ((pK (lab l) : Nat) : Int) := by have := u3.lab; rw [u1] at this; exact this
    have t0 : tkC kk 0 (mT σ (mR σ (x + 1430) pi)) = true := tk 0 (Nat.le_refl _) Nat.zero_lt_one
    have t1 : takes (nmk kk) 0 (lab l) = true := by
      rw [← tkT_takes, ← kl, ← tk_both hk y4 y5 y6]; exact t0
    have k56 : pK (lab l) = 5 ∨ pK (lab l) = 4 := by
      unfold takes at t1
      rw [if_neg (by omega), if_pos h41] at t1
      exact of_decide_eq_true t1
    -- the row is one part
    have w := u3.wf
    obtain ⟨pt', ls', e1, e2, e3, e4, e5⟩ : ∃ (p : Pt) (ls : List Fm), l = ls.flatten ++ [p] ∧ ls.length = pA p ∧ PtOk p ∧ argsOk p (ls.map lab) ∧ True := by
      cases hn : l.length with
      | zero => rw [hn] at w; exact w.elim
      | succ n => rw [hn] at w; obtain ⟨p, ls, w1, w2, w3, w4, w5⟩ := w; exact ⟨p, ls, w1, w2, w3, w4, trivial⟩
    have el : lab l = pt' := by rw [e1, lab_app]
    have a0 : pA pt' = 0 := by
      unfold argsOk at e4
      rw [if_pos (by rw [← el]; omega)] at e4
      exact e4
    have lp : l = [pt'] := by
      have : ls' = [] := List.length_eq_zero_iff.mp (by omega)
      rw [this] at e1; exact e1
    subst lp
    have m1 : m = 1 := u1.symm
    subst m1
    rw [show b + 1 - 1 = b by omega] at *
    have k56' : pK pt' = 5 ∨ pK pt' = 4 := by rw [← el]; exact k56
    have i14 : mI τ (h + 14) b = ((pK pt' : Nat) : Int) := by rw [mIwI1 (by omega), el] at kl; exact kl
    have KEY : SpT τ h 1 b [pt'] ∧ RwI τ h b nv ([pt'] ++ [mkO (nmk kk) 1]) 0 := by
      rcases k56' with k5 | k4
      · have X : Ex (fun a j => a = h + 24 ∧ j = b) (wI τ (h + 24) b u) τ := by
          have : τ = wI (wI τ (h + 24) b u) (h + 24) b (mI τ (h + 24) b) := by rw [wI_over, wI_self]
          conv => rhs; rw [this]
          exact Ex.rf.I ⟨rfl, rfl⟩
        refine mark_rw u3 k5 h41 X ?_
        rw [n3, if_pos (by rw [i14, k5]; rfl), mIwI2 ⟨rfl, rfl⟩, n2]
      · have eq' : wI τ (h + 24) b u = τ := by
          rw [if_neg (by rw [i14, k4]; decide)] at n3
          rw [← n3, wI_self]
        rw [eq'] at u3
        refine ⟨by have := u3.1; rwa [show b + [pt'].length - 1 = b from rfl] at this, ?_⟩
        have := u3.2.2 0 (Nat.zero_lt_one)
        unfold RwI
        have a1 : askd [pt'] 0 = false := by unfold askd; exact Bool.and_false _
        have a2 : askd ([pt'] ++ [mkO (nmk kk) 1]) 0 = false := by
          show (decide (pK pt' = 5) && nextRC [mkO (nmk kk) 1]) = false
          rw [decide_eq_false (by omega), Bool.false_and]
        rw [a1] at this
        rw [a2]
        exact this
    obtain ⟨po, ao⟩ := call_ok (ls := [[pt']]) hk (by exact h1) (by exact h2) (fun i hi => by
      obtain rfl : i = 0 := by have : i < 1 := hi; omega
      exact t1)
    refine ⟨[[pt']], rfl, rfl, po, ao, ?_, fun i hi => ?_⟩
    · refine RwT.mk (ls := [[pt']]) (k := nmk kk) (fun i hi => ?_) (fun i hi => ?_) pt po ao hb lu
      · obtain rfl : i = 0 := by have : i < 1 := hi; omega
        exact KEY.1
      · obtain rfl : i = 0 := by have : i < 1 := hi; omega
        exact KEY.2
    · obtain rfl : i = 0 := by have : i < 1 := hi; omega
      exact u2
  · have hn : ¬ (nmk kk = 41 ∨ nmk kk = 42) := fun y => zz ((hm kk hk).mp y)
    obtain ⟨ls, a1, a2, a3, a4⟩ := NDs.rows ⟨z, zz⟩ ms b pi l1
    obtain ⟨po, ao⟩ := call_ok (ls := ls) hk (by omega) (by omega) (fun i hi => by
      rw [← (a4 i hi).2 kk i hk]
      exact tk i (Nat.zero_le _) (by omega))
    refine ⟨ls, a1, a2, po, ao, ?_, fun i hi => (a4 i hi).1⟩
    exact RwT.op a3 ⟨fun e => hn (Or.inl e), fun e => hn (Or.inr e)⟩ (by rw [a2, a1]; exact pt) po ao (by rw [a2]; exact hb) lu
end Read39
