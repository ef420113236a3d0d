/-! ===== PHASE 2: reading: the loop over a call's parts ===== -/
section Read36
variable {N x h hi all nv sh M lu0 b b' p q op pa pi : Nat} {bA : Nat → Int} {f : Int → List Int × List Int} {σ σ' σ'' τ τ' τ'' s r σ0 τ0 σ1 τ2 : gMem} {p0 pa0 nd k kk lu : Nat} {LZ LZ' : Prop} {W : Nat → gMem → Option gR} {Wt : gMem → Option gMem}
theorem E2.er {α β : Type} {Φ : α → β → Prop} {x : Option α} {y y' : Option β} (e : y = y') (k : E2 x y' Φ) : E2 x y Φ := by rw [e]; exact k
theorem E2.el {α β : Type} {Φ : α → β → Prop} {x x' : Option α} {y : Option β} (e : x = x') (k : E2 x' y Φ) : E2 x y Φ := by rw [e]; exact k
/-- a part of the twin is marked -/
theorem S2.mark {P : Nat} {v : Int} (S : S2 x h hi all nv sh M lu0 bA f σ τ p q op pa pi) (hP : b ≤ P) : S2 x h hi all nv sh M lu0 bA f σ (wI τ (h + 24) P v) p q op pa pi ∧ TF (lu0 + hi) h τ (wI τ (h + 24) P v) b := by
  obtain ⟨c, t, ⟨s1, s2, s3, s4⟩, ⟨t1, t2, t3, t4, t5⟩, ⟨l1, l2, l3⟩, b1, b2, b3, b4, b5, b6, b7⟩ := S
  have e' : Ex (fun a k => a = h + 24 ∧ k = P) τ (wI τ (h + 24) P v) := Ex.rf.I ⟨rfl, rfl⟩
  have tf : TF (lu0 + hi) h τ (wI τ (h + 24) P v) b := TF.ex e' b5 (fun a j y => Or.inr ⟨24, by omega, by omega, y.1, by omega⟩)
  have ft : ∀ k, mI (wI τ (h + 24) P v) h k = mI τ h k := fun k => e'.rI (fun y => by omega)
  generalize wI τ (h + 24) P v = τ' at e' tf ft ⊢
  exact ⟨⟨c, t.tf tf, ⟨s1, s2, s3, s4⟩, ⟨t1, t2.ex e' (fun k k1 k2 y => by omega), by rw [ft]; exact t3, by rw [ft]; exact t4, by rw [ft]; exact t5⟩, ⟨by rw [ft]; exact l1, by rw [ft]; exact l2, l3⟩, b1, b2, b3, b4, by rw [ft]; exact b5, by rw [ft]; exact b6, b7⟩, tf⟩
theorem wI_self {a i : Nat} : wI s a i (mI s a i) = s := by
  show ((gu2 s.1 a i (Int32.ofInt (s.1 a i).toInt), s.2) : gMem) = s
  have : gu2 s.1 a i (Int32.ofInt (s.1 a i).toInt) = s.1 := by
    funext y k
    unfold gu2
    by_cases e : y = a ∧ k = i
    · rw [if_pos e, e.1, e.2, Int32.ofInt_toInt]
    · rw [if_neg e]
  rw [this]
theorem wI_over {a i : Nat} {u v : Int} : wI (wI s a i u) a i v = wI s a i v := by
  show ((gu2 (gu2 s.1 a i _) a i _, s.2) : gMem) = (gu2 s.1 a i _, s.2)
  have : gu2 (gu2 s.1 a i (Int32.ofInt u)) a i (Int32.ofInt v) = gu2 s.1 a i (Int32.ofInt v) := by
    funext y k
    unfold gu2
    by_cases e : y = a ∧ k = i
    · rw [if_pos e, if_pos e]
    · rw [if_neg e, if_neg e, if_neg e]
  rw [this]
theorem mI_w32 {a i : Nat} : w32 (mI s a i) = mI s a i := by
  show (Int32.ofInt (s.1 a i).toInt).toInt = (s.1 a i).toInt
  rw [Int32.ofInt_toInt]
/-- what the twin does behind a part, whether it is taken or not -/
theorem t_took {v2 : Int} {n P : Nat} {v : Bool} {Kh : Int → Int → Int → gMem → Option gMem} {K : Int → Int → gMem → Option gMem} (hk : kk < 18) (h41 : mI τ h 41 = 0) (hP : w32 (mI τ h 25 + mI τ h 56 - 1) = (P : Int)) (P6 : P < 60420) (n4 : n ≤ 400) (gp : mT σ nd = 17 ↔ mI τ (h + 14) P = 6) (gp2 : mT σ nd = 15 ↔ mI τ (h + 14) P = 5) (gp3 : mT σ nd = 13 ↔ mI τ (h + 14) P = 4) (h47 : ∀ v, mI (wI τ (h + 24) P v) h 47 = mI τ h 47) :
    ∃ τ', tw_readCall_l44_j92 N Wt h (nmk kk) v2 n (if v then 1 else 0) 1 Kh K τ = Kh ((n + 1 : Nat) : Int) (if v && tkC kk n (mT σ nd) then 1 else 0) (if mI τ h 47 = 8 then 1 else 0) τ' ∧
      (τ' = if v = true ∧ (kk = 16 ∨ kk = 17) ∧ mI τ (h + 14) P = 5 then wI τ (h + 24) P (bOr (mI τ (h + 24) P) 16) else τ) := by
  have nb := nm_cnt kk hk
  have hm : (nmk kk = 41 ∨ nmk kk = 42) ↔ (kk = 16 ∨ kk = 17) := by
    have z : ∀ k, k < 18 → ((nmk k = 41 ∨ nmk k = 42) ↔ (k = 16 ∨ k = 17)) := by decide
    exact z kk hk
  have J : ∀ (t0 : Bool) (s : gMem), mI s h 47 = mI τ h 47 → tw_readCall_l44_j129 N Wt h (nmk kk) v2 n (if t0 then 1 else 0) Kh K s = Kh ((n + 1 : Nat) : Int) (if t0 then 1 else 0) (if mI τ h 47 = 8 then 1 else 0) s := by
    intro t0 s e
    unfold tw_readCall_l44_j129 tw_readCall_l44_j148
    rw [e, inc32 (by omega)]
    by_cases z : mI τ h 47 = 8
    · rw [if_neg (fun y => y z), if_pos z]
    · rw [if_pos z, if_neg z]
  unfold tw_readCall_l44_j92
  rw [if_neg (fun z => z h41)]
  cases v with
  | false =>
    refine ⟨τ, ?_, ?_⟩
    · rw [if_pos (show (if false = true then (1 : Int) else 0) = 0 from rfl)]
      unfold tw_readCall_l44_j128
      exact J false τ rfl
    · rw [if_neg (fun z => by cases z.1)]
  | true =>
    have tb : tkC kk n (mT σ nd) = tkT (nmk kk) n (mI τ (h + 14) P) := tk_both hk gp gp2 gp3
    rw [if_neg (by decide), hP, t_isArg nb.2.2.2 P6, Option.bind_some, Bool.true_and, tb]
    refine ⟨_, ?_, rfl⟩
    have e47 : mI (if (nmk kk = 41 ∨ nmk kk = 42) ∧ mI τ (h + 14) P = 5 then wI τ (h + 24) P (bOr (mI τ (h + 24) P) 16) else τ) h 47 = mI τ h 47 := by
      by_cases z : (nmk kk = 41 ∨ nmk kk = 42) ∧ mI τ (h + 14) P = 5
      · rw [if_pos z]; exact h47 _
      · rw [if_neg z]
    have eτ : (if true = true ∧ (kk = 16 ∨ kk = 17) ∧ mI τ (h + 14) P = 5 then wI τ (h + 24) P (bOr (mI τ (h + 24) P) 16) else τ) = (if (nmk kk = 41 ∨ nmk kk = 42) ∧ mI τ (h + 14) P = 5 then wI τ (h + 24) P (bOr (mI τ (h + 24) P) 16) else τ) := by
      by_cases z : (nmk kk = 41 ∨ nmk kk = 42) ∧ mI τ (h + 14) P = 5
      · rw [if_pos z, if_pos ⟨rfl, hm.mp z.1, z.2⟩]
      · rw [if_neg z, if_neg (fun y => z ⟨hm.mpr y.2.1, y.2.2⟩)]
    rw [eτ]
    generalize (if (nmk kk = 41 ∨ nmk kk = 42) ∧ mI τ (h + 14) P = 5 then wI τ (h + 24) P (bOr (mI τ (h + 24) P) 16) else τ) = τ9 at e47 ⊢
    cases z : tkT (nmk kk) n (mI τ (h + 14) P) with
    | false =>
      refine (if_pos (show (if false = true then (1 : Int) else 0) = 0 from rfl)).trans ?_
      unfold tw_readCall_l44_j128
      exact J false _ e47
    | true =>
      refine (if_neg (show ¬ (if true = true then (1 : Int) else 0) = 0 by decide)).trans ?_
      exact J true _ e47
end Read36
