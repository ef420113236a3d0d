/-! ===== PHASE 2: reading: the recursion closes, given calls ===== -/
section Read34
variable {N x h hi all nv sh M lu0 : Nat} {bA : Nat → Int} {f : Int → List Int × List Int}
/-- what is owed of calls (still to be proved): where tests one deeper agree, calls agree -/
def ClOk (N x h hi all nv sh M lu0 : Nat) (bA : Nat → Int) (f : Int → List Int × List Int) : Prop :=
  ∀ (op : Nat) (W : Nat → gMem → Option gR) (Wt : gMem → Option gMem), (op + 1 ≤ 20 → RdG x h hi all nv sh M lu0 bA f (op + 1) (x6_test N W (x + 1429)) (tw_readTest N Wt h)) →
    ∀ (σ τ : gMem) (q pa pi : Nat), S2 x h hi all nv sh M lu0 bA f σ τ q q op pa pi → ∀ (k e : Nat) (s : gMem), k < 18 → Ex (Rq x 6) σ s → mI s (x + 1429) 6 = e → mI τ h 49 = e → q < e → e ≤ hi → WdA bA q e (gtx.getD (nmI k) []) → E2 (x6_call N W (x + 1429) (mR s 0 k) q s) (tw_readCall N Wt h (nmk k) τ) (Out2 x h hi all nv sh M lu0 bA f σ τ q op pa pi)
theorem rd_sign (hN : 500 ≤ N) (fn : FN nv f) (hC : ClOk N x h hi all nv sh M lu0 bA f) : ∀ (n op : Nat), op ≤ 20 → 20 - op < n → RdG x h hi all nv sh M lu0 bA f op (x6_sign N n (x + 1429)) (tw_readSign N h n) := by
  intro n
  induction n with
  | zero => intro op _ h2; omega
  | succ n ih =>
    intro op h1 h2
    have hW : op + 1 ≤ 20 → RdG x h hi all nv sh M lu0 bA f (op + 1) (x6_sign N n (x + 1429)) (tw_readSign N h n) := fun z => ih (op + 1) z (by omega)
    have hT : op + 1 ≤ 20 → RdG x h hi all nv sh M lu0 bA f (op + 1) (x6_test N (x6_sign N n) (x + 1429)) (tw_readTest N (tw_readSign N h n) h) := fun z => rd_test hN (hW z)
    have hA : RdG x h hi all nv sh M lu0 bA f op (x6_atom N (x6_sign N n) (x + 1429)) (tw_readAtom N (tw_readSign N h n) h) := rd_atom hN fn hT (fun σ τ q pa pi S k4 hl => rd_word hN S k4 hl (fun k e s => hC op _ _ hT σ τ q pa pi S k e s))
    exact rd_sign_o (W := x6_sign N n) (Wt := tw_readSign N h n) hN hW hA
/-- a whole formula's test, given calls -/
theorem rd_top (hN : 500 ≤ N) (fn : FN nv f) (hC : ClOk N x h hi all nv sh M lu0 bA f) {n : Nat} (hn : 20 < n) : RdG x h hi all nv sh M lu0 bA f 0 (x6_test N (x6_sign N n) (x + 1429)) (tw_readTest N (tw_readSign N h n) h) := rd_test hN (rd_sign hN fn hC n 0 (by omega) (by omega))
end Read34
