/-! ===== PHASE 2: reading: a part of a call ===== -/
section Read27
variable {N x h hi all nv sh M lu0 b b' p q op pa pi : Nat} {bA : Nat → Int} {f : Int → List Int × List Int} {σ σ' σ'' τ τ' τ'' s r σ0 τ0 σ1 τ2 : gMem} {p0 pa0 nd k lu : Nat} {W : Nat → gMem → Option gR} {Wt : gMem → Option gMem}
theorem tk3 (hd : isC bA q = true) : tkK bA q = 3 := by
  have hl := isC_L hd
  have n1 : bA q ≠ -1 ∧ ¬ isD (bA q) = true ∧ bA q ≠ 34 := by
    rcases hl with u | u
    · have := of_decide_eq_true u
      exact ⟨by omega, fun z => by have := of_decide_eq_true z; omega, by omega⟩
    · exact ⟨by omega, fun z => by have := of_decide_eq_true z; omega, by omega⟩
  unfold tkK
  rw [if_neg n1.1, if_neg n1.2.1, if_neg n1.2.2, if_pos hl, if_pos hd]
theorem tk3' (hk : tkK bA q = 3) : isC bA q = true := by
  by_cases hc : isC bA q = true
  · exact hc
  exfalso
  unfold tkK at hk
  by_cases z : bA q = -1
  · rw [if_pos z] at hk; omega
  rw [if_neg z] at hk
  by_cases z : isD (bA q) = true
  · rw [if_pos z] at hk; omega
  rw [if_neg z] at hk
  by_cases z : bA q = 34
  · rw [if_pos z] at hk; omega
  rw [if_neg z] at hk
  by_cases z : isL (bA q) = true ∨ bA q = 36
  · rw [if_pos z, if_neg hc] at hk
    by_cases z : bA q = 36
    · rw [if_pos z] at hk; omega
    · rw [if_neg z] at hk; omega
  rw [if_neg z] at hk
  by_cases z : isRf bA q = true
  · rw [if_pos z] at hk; omega
  rw [if_neg z] at hk
  by_cases c1 : bA q = 40
  · have := sgO_678 (c := bA q) (d := bA (q + 1)) |>.1.mpr c1; omega
  by_cases c2 : bA q = 41
  · have := sgO_678 (c := bA q) (d := bA (q + 1)) |>.2.1.mpr c2; omega
  by_cases c3 : bA q = 44
  · have := sgO_678 (c := bA q) (d := bA (q + 1)) |>.2.2.mpr c3; omega
  have := sgO_els (d := bA (q + 1)) c1 c2 c3
  omega
theorem OutN.ar {a : gR} {r2 : gMem} (o : OutN x h hi all nv sh M lu0 bA f σ τ p op pa pi False a r2) : OutN x h hi all nv sh M lu0 bA f σ τ p op pa pi True a r2 := by
  rcases o with ⟨nd, p, q, pa, e1, S, a1, a2, a3, a4, a5, a6, a7, a8⟩ | o
  · exact Or.inl ⟨nd, p, q, pa, e1, S, a1, a2, a3, a4, a5, a6, a7, fun _ => trivial⟩
  · exact Or.inr o
theorem thr_id1 {ar : Prop} {a : gR} {r2 : gMem} (o : OutN x h hi all nv sh M lu0 bA f σ τ p op pa pi ar a r2) : gThrR a (fun x16 s18 => some ((.inl (some (vR x16)), s18) : gR)) = some a := by
  obtain ⟨a1, a2⟩ := a
  rcases o with ⟨nd, p, q, pa, e1, o⟩ | ⟨e1, o⟩
  · have e' : a1 = .inl (some (vR nd)) := e1
    subst e'; rfl
  · have e' : a1 = .inr "SheetBranches$Wrong" := e1
    subst e'; rfl
/-- one part of a call is read -/
theorem rd_arg (hN : 500 ≤ N) (fn : FN nv f) (hT : RdG x h hi all nv sh M lu0 bA f op (x6_test N W (x + 1429)) (tw_readTest N Wt h)) (S : S2 x h hi all nv sh M lu0 bA f σ τ p q op pa pi) :
    ∃ a r2, x6_arg N W (x + 1429) σ = some a ∧ (∀ K : gMem → Option gMem, (if mI τ h 47 ≠ 3 then (tw_readTest N Wt h τ).bind K else (tw_byteAt h (mI τ h 49) τ).bind (fun x27 => if x27 ≠ 58 then (tw_readTest N Wt h τ).bind K else (tw_readArea N h τ).bind K)) = K r2) ∧ OutN x h hi all nv sh M lu0 bA f σ τ p op pa pi True a r2 := by
  have c := S.1
  have tx := c.1.2.2.2.2.2.2.2
  have h4 : hi ≤ 400 := by have := tx.2.2.1; have := tx.2.2.2; omega
  obtain ⟨r, er, e1, S', cf, fk, pq, qh⟩ := S.pk hN
  have b5 := S.2.2.2.2.2.2.2.2.2.1
  have t2 := S'.2.2.2.1.2.1
  have t1 := S'.2.1.1
  have c' := S'.1
  have s6 := S'.2.2.1.1
  have RE : ∀ {a : gR} {r2 : gMem}, OutN x h hi all nv sh M lu0 bA f r.2 τ q op pa pi True a r2 → OutN x h hi all nv sh M lu0 bA f σ τ p op pa pi True a r2 := fun o => OutN.re o pq (by omega) (cf.mono (by omega)) (TF.rf b5) (fk 14 (by decide))
  obtain ⟨a, r2, ea, eb, o⟩ := hT _ _ _ _ _ _ S'
  have o' := RE (OutN.ar o)
  unfold x6_arg
  rw [if_pos c.1.1, er, Option.bind_some, s6, c_corner c'.1 (by omega), Option.bind_some, t2.1]
  by_cases hc : isC bA q = true
  · have L := ck_le bA q
    have k3 := tk3 hc
    obtain ⟨e49, e52, e53, e54⟩ := t2.2.2.2.2.2.2.2.1 k3
    have w1 : w32 ((q : Int) + ((ck3 bA q - q : Nat) : Int)) = ((ck3 bA q : Nat) : Int) := by rw [w32_i (by omega) (by omega)]; omega
    rw [if_pos hc, if_neg (by omega), w1, c_here c'.1, Option.bind_some, k3, e49]
    by_cases h58 : bA (ck3 bA q) = 58
    · obtain ⟨a', r2', ea', eb', oA⟩ := rd_area hN fn S' k3 hc h58
      refine ⟨a', r2', ?_, fun K => ?_, RE oA⟩
      · rw [if_neg (fun z => z h58), ea', Option.bind_some]; exact thr_id1 oA
      · rw [if_neg (fun z => z rfl), t_byteAt t1, Option.bind_some, if_neg (fun z => z h58), eb', Option.bind_some]
    · refine ⟨a, r2, ?_, fun K => ?_, o'⟩
      · rw [if_pos h58, ea, Option.bind_some]; exact thr_id1 o
      · rw [if_neg (fun z => z rfl), t_byteAt t1, Option.bind_some, if_pos h58, eb, Option.bind_some]
  · refine ⟨a, r2, ?_, fun K => ?_, o'⟩
    · rw [if_neg hc, if_pos (by decide), ea, Option.bind_some]; exact thr_id1 o
    · rw [if_pos (fun z => hc (tk3' z)), eb, Option.bind_some]
end Read27
