/-! ===== PHASE 2: the acts: feed ===== -/
section State15
variable {N x h u b nv nv' pa un fs i t q n : Nat} {σ σ' τ τ' τ'' r s : gMem} {P : Nat → Nat → Prop} {W : Nat → Prop} {own own' rt rt' : Nat → Nat} {S S' S0 : Sh} {Gs Gs' : Nat → Sh} {g : Nat → Nat → Vl} {ct : Ct} {a A : Nat}
theorem by_and (x : Int) : 0 ≤ bAnd x 255 ∧ bAnd x 255 < 256 ∧ bByte x = sby (bAnd x 255) := by
  have e1 : bAnd x 255 = (((Int32.ofInt x).toBitVec.toNat % 256 : Nat) : Int) := by
    unfold bAnd
    show ((Int32.ofInt x &&& Int32.ofInt 255).toBitVec).toInt = _
    rw [Int32.toBitVec_and, BitVec.toInt_eq_toNat_cond, BitVec.toNat_and]
    have e : ((Int32.ofInt 255).toBitVec).toNat = 2 ^ 8 - 1 := by decide
    rw [e, Nat.and_two_pow_sub_one_eq_mod]
    have := Nat.mod_lt (Int32.ofInt x).toBitVec.toNat (show 0 < 2 ^ 8 by decide)
    rw [if_pos (by omega)]
  have e2 : bByte x = (((Int32.ofInt x).toBitVec.toNat : Nat) : Int).bmod 256 := by
    unfold bByte
    rw [Int8.toInt_toInt32, Int32.toInt_toInt8]
    show Int.bmod ((Int32.ofInt x).toBitVec.toInt) (2 ^ 8) = _
    rw [BitVec.toInt_eq_toNat_bmod]
    exact Int.bmod_bmod_of_dvd (by decide)
  have lt := Nat.mod_lt (Int32.ofInt x).toBitVec.toNat (show 0 < 256 by decide)
  refine ⟨by omega, by omega, ?_⟩
  rw [e1, e2, Int.bmod_def]
  unfold sby
  have e3 : (((Int32.ofInt x).toBitVec.toNat : Nat) : Int) % ((256 : Nat) : Int) = (((Int32.ofInt x).toBitVec.toNat % 256 : Nat) : Int) := by omega
  rw [e3]
  generalize (Int32.ofInt x).toBitVec.toNat % 256 = m at lt ⊢
  split <;> split <;> omega
def fdv (a b c d e : Int) (k : Nat) : Int := if k < 4 then a else if k < 8 then b else if k < 12 then c else if k < 16 then d else e
theorem and3 : ∀ k : Nat, k < 20 → bAnd (k : Int) 3 = ((k % 4 : Nat) : Int) := by decide
/-- so many bytes of what is fed are on the class's tape -/
def FdC (x n m : Nat) (f : Nat → Int) (σ r : gMem) : Prop := Ex (fun a j => (a = x ∧ j = 1) ∨ (a = x + 1 ∧ n ≤ j ∧ j < n + 20)) σ r ∧ mI r x 1 = ((n + m : Nat) : Int) ∧ ∀ j, j < m → mI r (x + 1) (n + j) = bByte (bShr (f j) (24 - 8 * ((j % 4 : Nat) : Int)))
theorem c_wordT_l {K : gMem → Option gMem} {Φ : gMem → Prop} {f : Nat → Int} {v : Int} {w : Nat} (l1 : mT σ x = 1) (l2 : mR σ x 0 = x + 1) (l3 : mT σ (x + 1) = 102) (l4 : mN σ (x + 1) = 400) (hn : n + 20 ≤ 400) (hw : w < 5) (hf : ∀ j, 4 * w ≤ j → j < 4 * w + 4 → f j = v) (hK : ∀ r, FdC x n (4 * w + 4) f σ r → Ev (K r) Φ) : ∀ (m i fu : Nat) (r : gMem), i + m = 4 → m < fu → FdC x n (4 * w + i) f σ r → Ev (x1_word_l3 N x v K fu (24 - 8 * (i : Int)) r) Φ := by
  intro m
  induction m with
  | zero =>
    intro i fu r h1 h2 F
    obtain ⟨fu, rfl⟩ : ∃ j, fu = j + 1 := ⟨fu - 1, by omega⟩
    obtain rfl : i = 4 := by omega
    unfold x1_word_l3
    exact Ev.g (by decide) (hK r F)
  | succ m ih =>
    intro i fu r h1 h2 F
    obtain ⟨fu, rfl⟩ : ∃ j, fu = j + 1 := ⟨fu - 1, by omega⟩
    obtain ⟨X, F1, F2⟩ := F
    unfold x1_word_l3
    rw [X.rR, X.rT, X.rN, l2, l4, F1, tn]
    refine Ev.f (by omega) (Ev.g l1 (Ev.g l3 (Ev.g (by omega) (Ev.l ?_))))
    rw [mIwI1 (by omega), F1, inc32 (by omega), show w32 (24 - 8 * (i : Int) + -8) = 24 - 8 * ((i + 1 : Nat) : Int) by rw [w32_i (by omega) (by omega)]; omega]
    refine Ev.l (ih (i + 1) fu _ (by omega) (by omega) ⟨(X.I (Or.inr ⟨rfl, by omega, by omega⟩)).I (Or.inl ⟨rfl, rfl⟩), ?_, fun j hj => ?_⟩)
    · rw [mIwI2 ⟨rfl, rfl⟩, w32_i (by omega) (by omega)]; omega
    · rw [mIwI1 (by omega)]
      by_cases c : j = 4 * w + i
      · rw [mIwI2 ⟨rfl, by omega⟩, w32_id (bByte_rng _), hf j (by omega) (by omega), show ((j % 4 : Nat) : Int) = (i : Int) by omega]
      · rw [mIwI1 (by omega)]; exact F2 j (by omega)
theorem c_wordT {f : Nat → Int} {v : Int} {w : Nat} (hN : 10 ≤ N) (l1 : mT σ x = 1) (l2 : mR σ x 0 = x + 1) (l3 : mT σ (x + 1) = 102) (l4 : mN σ (x + 1) = 400) (hn : n + 20 ≤ 400) (hw : w < 5) (hf : ∀ j, 4 * w ≤ j → j < 4 * w + 4 → f j = v) (F : FdC x n (4 * w) f σ r) : Ev (x1_word N x v r) (FdC x n (4 * w + 4) f σ) := by
  unfold x1_word
  exact c_wordT_l (K := fun s9 => some s9) (w := w) l1 l2 l3 l4 hn hw hf (fun r F => Ev.r F) 4 0 N r (by omega) (by omega) F
/-- the same on the twin's tape -/
def FdT (h n m : Nat) (f : Nat → Int) (τ r : gMem) : Prop := Ex (fun a j => a = h + 27 ∧ n ≤ j ∧ j < n + 20) τ r ∧ ∀ j, j < m → mI r (h + 27) (n + j) = bAnd (bShr (f j) (24 - 8 * ((j % 4 : Nat) : Int))) 255
theorem t_feed_l {K : gMem → Option (Int × gMem)} {Φ : Int × gMem → Prop} {a b c d e : Int} (i40 : mI τ h 40 = n) (hn : n + 20 ≤ 400) (hK : ∀ r, FdT h n 20 (fdv a b c d e) τ r → Ev (K r) Φ) : ∀ (m k fu : Nat) (r : gMem), k + m = 20 → m < fu → FdT h n k (fdv a b c d e) τ r → Ev (tw_feed_l23 N h a b c d e K fu (k : Int) r) Φ := by
  intro m
  induction m with
  | zero =>
    intro k fu r h1 h2 F
    obtain ⟨fu, rfl⟩ : ∃ j, fu = j + 1 := ⟨fu - 1, by omega⟩
    obtain rfl : k = 20 := by omega
    unfold tw_feed_l23
    exact Ev.g (by decide) (hK r F)
  | succ m ih =>
    intro k fu r h1 h2 F
    obtain ⟨fu, rfl⟩ : ∃ j, fu = j + 1 := ⟨fu - 1, by omega⟩
    obtain ⟨X, F2⟩ := F
    have J : ∀ t0, t0 = fdv a b c d e k → Ev (tw_feed_l23_j76 N h a b c d e (k : Int) t0 (tw_feed_l23 N h a b c d e K fu) K r) Φ := by
      intro t0 ht
      have e40 : mI r h 40 = n := by rw [X.rI (by omega)]; exact i40
      unfold tw_feed_l23_j76
      rw [e40, and3 k (by omega), show ((n : Int) + (k : Int)).toNat = n + k by omega, inc32 (by omega), ht]
      refine Ev.g (by omega) (Ev.l (ih (k + 1) fu _ (by omega) (by omega) ⟨X.I ⟨rfl, by omega, by omega⟩, fun j hj => ?_⟩))
      by_cases cj : j = k
      · rw [cj, mIwI2 ⟨rfl, rfl⟩, w32_i (by have := (by_and (bShr (fdv a b c d e k) (24 - 8 * ((k % 4 : Nat) : Int)))).1; omega) (by have := (by_and (bShr (fdv a b c d e k) (24 - 8 * ((k % 4 : Nat) : Int)))).2.1; omega)]
      · rw [mIwI1 (by omega)]; exact F2 j (by omega)
    unfold tw_feed_l23
    refine Ev.f (by omega) ?_
    unfold fdv at J
    by_cases c1 : 4 ≤ (k : Int)
    · rw [if_pos c1]
      by_cases c2 : 8 ≤ (k : Int)
      · rw [if_pos c2]
        by_cases c3 : 12 ≤ (k : Int)
        · rw [if_pos c3]
          by_cases c4 : 16 ≤ (k : Int)
          · rw [if_pos c4]
            exact J e (by rw [if_neg (by omega), if_neg (by omega), if_neg (by omega), if_neg (by omega)])
          · rw [if_neg c4]
            exact J d (by rw [if_neg (by omega), if_neg (by omega), if_neg (by omega), if_pos (by omega)])
        · rw [if_neg c3]
          exact J c (by rw [if_neg (by omega), if_neg (by omega), if_pos (by omega)])
      · rw [if_neg c2]
        exact J b (by rw [if_neg (by omega), if_pos (by omega)])
    · rw [if_neg c1]
      exact J a (by rw [if_pos (by omega)])
/-- feed -/
theorem op_feed {a b c d e : Int} (hN : 2000 ≤ N) (R : RL x h t σ τ) : E2 (x1_feed N x a b c d e σ) (tw_feed N h a b c d e τ) (OpQ x h t σ τ) := by
  obtain ⟨nv, pa, un, fs, Gs, g, own, rt, R⟩ := R
  have l := R.1.1
  have hh := R.1.2.1.1
  obtain ⟨n, a1, a2, a3, a4⟩ := R.2.2.1.1
  have l2 := l.R (0, 1) (by decide)
  have l3 := l.T (1, 102, 400) (by decide)
  (try dsimp only at l2 l3)
  have j40 : mI (wI τ h 0 0) h 40 = n := by rw [mIwI1 (by omega)]; exact a3
  unfold x1_feed tw_feed
  refine E2.lg l.1.1 (E2.rl ?_)
  rw [a2, j40, w32_i (x := (n : Int) + 20) (by omega) (by omega)]
  by_cases cc : n + 20 ≤ 400
  · refine E2.lg (by omega) (E2.rg (by omega) ?_)
    obtain ⟨m, hm, F⟩ : Ev ((x1_word N x a σ).bind fun x3 => (x1_word N x b x3).bind fun x5 => (x1_word N x c x5).bind fun x7 => (x1_word N x d x7).bind fun x9 => (x1_word N x e x9).bind fun x11 => some (mI x11 x 1, x11)) (fun r => r.1 = ((n + 20 : Nat) : Int) ∧ FdC x n 20 (fdv a b c d e) σ r.2) := by
      refine Ev.c (c_wordT (w := 0) (f := fdv a b c d e) (by omega) l.1.1 l2 l3.1 l3.2 cc (by decide) (fun j h1 h2 => by unfold fdv; rw [if_pos (by omega)]) ⟨Ex.rf, by omega, fun j hj => by omega⟩) (fun r1 _ F1 => ?_)
      refine Ev.c (c_wordT (w := 1) (f := fdv a b c d e) (by omega) l.1.1 l2 l3.1 l3.2 cc (by decide) (fun j h1 h2 => by unfold fdv; rw [if_neg (by omega), if_pos (by omega)]) F1) (fun r2 _ F2 => ?_)
      refine Ev.c (c_wordT (w := 2) (f := fdv a b c d e) (by omega) l.1.1 l2 l3.1 l3.2 cc (by decide) (fun j h1 h2 => by unfold fdv; rw [if_neg (by omega), if_neg (by omega), if_pos (by omega)]) F2) (fun r3 _ F3 => ?_)
      refine Ev.c (c_wordT (w := 3) (f := fdv a b c d e) (by omega) l.1.1 l2 l3.1 l3.2 cc (by decide) (fun j h1 h2 => by unfold fdv; rw [if_neg (by omega), if_neg (by omega), if_neg (by omega), if_pos (by omega)]) F3) (fun r4 _ F4 => ?_)
      refine Ev.c (c_wordT (w := 4) (f := fdv a b c d e) (by omega) l.1.1 l2 l3.1 l3.2 cc (by decide) (fun j h1 h2 => by unfold fdv; rw [if_neg (by omega), if_neg (by omega), if_neg (by omega), if_neg (by omega)]) F4) (fun r5 _ F5 => ?_)
      exact Ev.r ⟨F5.2.1, F5⟩
    refine E2.lv hm ?_
    obtain ⟨m1, m⟩ := m
    obtain ⟨F1, X, F2, F3⟩ := F
    dsimp only at F1 X F2 F3
    refine t_feed_l (K := fun s9 => gLet (wI s9 h 40 (w32 (mI s9 h 40 + 20))) fun s12 => some (mI s12 h 40, s12)) (n := n) j40 cc (fun r G => ?_) 20 0 N _ (by omega) (by omega) ⟨Ex.rf, fun j hj => by omega⟩
    obtain ⟨Y, G2⟩ := G
    have k40 : mI r h 40 = n := by rw [Y.rI (by omega)]; exact j40
    refine Ev.l ?_
    rw [k40, w32_i (x := (n : Int) + 20) (by omega) (by omega)]
    refine Ev.r ?_
    have Y' : Ex (fun a k => (a = h ∧ (k = 0 ∨ k = 40)) ∨ a = h + 27) τ (wI r h 40 ((n : Int) + 20)) := (((Ex.rf.I (Or.inl ⟨rfl, Or.inl rfl⟩)).tr (Y.mono (fun a k p => Or.inr p.1)))).I (Or.inl ⟨rfl, Or.inr rfl⟩)
    obtain ⟨K, ly, wn⟩ := l.int X (fun a k p => by omega)
    obtain ⟨V, hV⟩ := R.1.2.2.2.2.2.2
    have ei : ∀ j, j ≠ 1 → mI m x j = mI σ x j := fun j hj => X.rI (by omega)
    have i40 : mI (wI r h 40 ((n : Int) + 20)) h 40 = (n : Int) + 20 := by rw [mIwI2 ⟨rfl, rfl⟩, w32_i (by omega) (by omega)]
    have U := R.upd K wn (fun a w => by unfold OutS; omega) (by omega) ly (by rw [X.rR]) (fun j hj => ei j (by omega)) ⟨V, hV.kp K l.ok (fun i hi => by omega)⟩ (R.2.2.2.2.1.kp K l.ok (fun i hi => by omega) (ei 10 (by decide))) Y' (fun a k p => by unfold UsP TSc; omega) ⟨n + 20, cc, F2, by rw [i40]; omega, fun k hk => ?_⟩ ?_
    · refine ⟨⟨_, _, _, _, _, _, _, _, U.t1⟩, ⟨K.mono (fun a w => by unfold NoT; omega), 0, ?_, ?_, ?_⟩, Y'.mono (fun a k p => by unfold TwA; omega), ?_, ?_⟩
      · show mI m x 17 = _; rw [ei 17 (by decide)]; omega
      · show mZ m ≤ _; rw [X.rZ]; omega
      · show mS m ≤ _; rw [X.rS]; omega
      · show m1 = mI (wI r h 40 ((n : Int) + 20)) h 40; rw [i40, F1]; omega
      · show mI (wI r h 40 ((n : Int) + 20)) h 0 = 0
        rw [mIwI1 (by omega), Y.rI (by omega), mIwI2 ⟨rfl, rfl⟩, w32_i (by omega) (by omega)]
    · rw [mIwI1 (by omega)]
      by_cases c2 : k < n
      · rw [Y.rI (by omega), X.rI (by omega), mIwI1 (by omega)]; exact a4 k c2
      · have e1 := G2 (k - n) (by omega)
        have e2 := F3 (k - n) (by omega)
        rw [show n + (k - n) = k by omega] at e1 e2
        rw [e1, e2]
        exact by_and _
    · unfold Rfl
      rw [ei 2 (by decide), ei 3 (by decide), mIwI1 (by omega), mIwI1 (by omega), Y.rI (by omega), Y.rI (by omega), mIwI1 (by omega), mIwI1 (by omega)]
      exact R.2.2.1.2.1
  · exact E2.lf (by omega) (E2.rf (by omega) (E2.r (OpQ.same R)))
end State15
