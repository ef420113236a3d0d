/-! ===== PHASE 2: the acts: base ===== -/
section LastBit
variable {σ : gMem}
theorem bUshr_n {v k : Nat} (hv : v < 2147483648) (hk : k = 1 ∨ k = 2 ∨ k = 4 ∨ k = 8 ∨ k = 16) : bUshr (v : Int) (k : Int) = ((v / 2 ^ k : Nat) : Int) := by
  have ek : (((Int32.ofInt (k : Int)).toUInt32 &&& Int32.toUInt32 31).toBitVec % 32) = BitVec.ofNat 32 k := by
    rcases hk with e | e | e | e | e <;> subst e <;> decide +kernel
  have en : (BitVec.ofNat 32 k).toNat = k := by
    rcases hk with e | e | e | e | e <;> subst e <;> rfl
  have ev : (Int32.ofInt (v : Int)).toBitVec.toNat = v := by
    show (BitVec.ofInt 32 (v : Int)).toNat = v
    rw [BitVec.toNat_ofInt]; omega
  unfold bUshr
  show ((Int32.ofInt (v : Int)).toUInt32 >>> ((Int32.ofInt (k : Int)).toUInt32 &&& Int32.toUInt32 31)).toBitVec.toInt = _
  rw [UInt32.toBitVec_shiftRight]
  show ((Int32.ofInt (v : Int)).toBitVec >>> (((Int32.ofInt (k : Int)).toUInt32 &&& Int32.toUInt32 31).toBitVec % 32)).toInt = _
  rw [ek, BitVec.ushiftRight_eq', BitVec.toInt_eq_toNat_cond, BitVec.toNat_ushiftRight, en, ev, Nat.shiftRight_eq_div_pow]
  have := Nat.div_le_self v (2 ^ k)
  rw [if_pos (by omega)]
theorem shp {v n s : Nat} (h1 : 2 ^ n ≤ v) (h2 : v < 2 ^ (n + 1)) (hs : 2 ^ s ≤ v) : ∃ m, n = m + s ∧ 2 ^ m ≤ v / 2 ^ s ∧ v / 2 ^ s < 2 ^ (m + 1) := by
  have ns : s ≤ n := by
    by_cases c : s ≤ n
    · exact c
    · have := Nat.pow_le_pow_right (show 0 < 2 by decide) (show n + 1 ≤ s by omega)
      omega
  have ps := Nat.two_pow_pos s
  refine ⟨n - s, by omega, (Nat.le_div_iff_mul_le ps).mpr ?_, (Nat.div_lt_iff_lt_mul ps).mpr ?_⟩
  · rw [← Nat.pow_add, show n - s + s = n by omega]; exact h1
  · rw [← Nat.pow_add, show n - s + 1 + s = n + 1 by omega]; exact h2
theorem nlz61 {v n c : Nat} (h1 : 2 ^ n ≤ v) (h2 : v < 2 ^ (n + 1)) (h16 : v < 16) (hc : 3 ≤ c) (hc2 : c ≤ 31) : j16_numberOfLeadingZeros_j61 σ v c = some ((c - n : Nat) : Int) := by
  have hn : n < 4 := by
    by_cases q : n < 4
    · exact q
    · have := Nat.pow_le_pow_right (show 0 < 2 by decide) (show 4 ≤ n by omega)
      omega
  have u1 : ∀ w : Nat, w < 16 → bUshr (w : Int) 1 = ((w / 2 : Nat) : Int) := fun w hw => bUshr_n (k := 1) (by omega) (by decide)
  have u2 : bUshr (v : Int) 2 = ((v / 4 : Nat) : Int) := bUshr_n (k := 2) (by omega) (by decide)
  unfold j16_numberOfLeadingZeros_j61
  rcases (by omega : n = 0 ∨ n = 1 ∨ n = 2 ∨ n = 3) with e | e | e | e <;> subst e
  · have a : 1 ≤ v := h1
    have b : v < 2 := h2
    rw [if_pos (by omega), u1 v h16, w32_i (by omega) (by omega)]
    exact congrArg some (by omega)
  · have a : 2 ≤ v := h1
    have b : v < 4 := h2
    rw [if_pos (by omega), u1 v h16, w32_i (by omega) (by omega)]
    exact congrArg some (by omega)
  · have a : 4 ≤ v := h1
    have b : v < 8 := h2
    rw [if_neg (by omega), u2, u1 _ (by omega), w32_i (x := (c : Int) + -2) (by omega) (by omega), w32_i (by omega) (by omega)]
    exact congrArg some (by omega)
  · have a : 8 ≤ v := h1
    have b : v < 16 := h2
    rw [if_neg (by omega), u2, u1 _ (by omega), w32_i (x := (c : Int) + -2) (by omega) (by omega), w32_i (by omega) (by omega)]
    exact congrArg some (by omega)
theorem nlz48 {v n c : Nat} (h1 : 2 ^ n ≤ v) (h2 : v < 2 ^ (n + 1)) (h16 : v < 256) (hc : 7 ≤ c) (hc2 : c ≤ 31) : j16_numberOfLeadingZeros_j48 σ v c = some ((c - n : Nat) : Int) := by
  unfold j16_numberOfLeadingZeros_j48
  by_cases q : v < 16
  · rw [if_pos (by omega)]; exact nlz61 h1 h2 q (by omega) hc2
  · obtain ⟨m, e, m1, m2⟩ := shp (s := 4) h1 h2 (show 16 ≤ v by omega)
    have u : bUshr (v : Int) 4 = ((v / 2 ^ 4 : Nat) : Int) := bUshr_n (k := 4) (by omega) (by decide)
    rw [if_neg (by omega), u, show w32 ((c : Int) + -4) = ((c - 4 : Nat) : Int) by rw [w32_i (by omega) (by omega)]; omega, nlz61 m1 m2 (show v / 16 < 16 by omega) (by omega) (by omega)]
    exact congrArg some (by omega)
theorem nlz33 {v n c : Nat} (h1 : 2 ^ n ≤ v) (h2 : v < 2 ^ (n + 1)) (h16 : v < 65536) (hc : 15 ≤ c) (hc2 : c ≤ 31) : j16_numberOfLeadingZeros_j33 σ v c = some ((c - n : Nat) : Int) := by
  unfold j16_numberOfLeadingZeros_j33
  by_cases q : v < 256
  · rw [if_pos (by omega)]; exact nlz48 h1 h2 q (by omega) hc2
  · obtain ⟨m, e, m1, m2⟩ := shp (s := 8) h1 h2 (show 256 ≤ v by omega)
    have u : bUshr (v : Int) 8 = ((v / 2 ^ 8 : Nat) : Int) := bUshr_n (k := 8) (by omega) (by decide)
    rw [if_neg (by omega), u, show w32 ((c : Int) + -8) = ((c - 8 : Nat) : Int) by rw [w32_i (by omega) (by omega)]; omega, nlz48 m1 m2 (show v / 256 < 256 by omega) (by omega) (by omega)]
    exact congrArg some (by omega)
theorem nlz32 {v n : Nat} (h1 : 2 ^ n ≤ v) (h2 : v < 2 ^ (n + 1)) (h31 : v < 2147483648) : j16_numberOfLeadingZeros v σ = some ((31 - n : Nat) : Int) := by
  have pn := Nat.two_pow_pos n
  unfold j16_numberOfLeadingZeros
  rw [if_pos (show 0 < (v : Int) by omega)]
  by_cases q : v < 65536
  · rw [if_pos (show (v : Int) < 65536 by omega)]
    exact nlz33 (c := 31) h1 h2 q (by decide) (by decide)
  · obtain ⟨m, e, m1, m2⟩ := shp (s := 16) h1 h2 (show 65536 ≤ v by omega)
    have u : bUshr (v : Int) 16 = ((v / 2 ^ 16 : Nat) : Int) := bUshr_n (k := 16) h31 (by decide)
    rw [if_neg (show ¬ (v : Int) < 65536 by omega), u, show w32 (31 + -16) = ((15 : Nat) : Int) by decide, nlz33 (c := 15) m1 m2 (show v / 65536 < 65536 by omega) (by decide) (by decide)]
    exact congrArg some (by omega)
/-- of a long the last bit -/
theorem nlz64 {x : Int} {n : Nat} (hx : g64 x) (hn : n < 63) (h1 : tb x n = true) (h2 : ∀ i, n < i → i < 64 → tb x i = false) : j15_numberOfLeadingZeros x σ = some ((63 - n : Nat) : Int) := by
  obtain ⟨X, hX⟩ : ∃ X, X = (Int64.ofInt x).toBitVec.toNat := ⟨_, rfl⟩
  have tX : ∀ i, tb x i = X.testBit i := fun i => by rw [hX]; unfold tb; rw [BitVec.testBit_toNat]
  have lX : X < 2 ^ 64 := by rw [hX]; exact (Int64.ofInt x).toBitVec.isLt
  have p1 : 2 ^ n ≤ X := Nat.ge_two_pow_of_testBit (by rw [← tX]; exact h1)
  have p2 : X < 2 ^ (n + 1) := Nat.lt_pow_two_of_testBit _ (fun i hi => by
    by_cases c : i < 64
    · rw [← tX]; exact h2 i (by omega) c
    · exact Nat.testBit_lt_two_pow (Nat.lt_of_lt_of_le lX (Nat.pow_le_pow_right (by decide) (by omega))))
  have p63 : 2 ^ (n + 1) ≤ 2 ^ 63 := Nat.pow_le_pow_right (by decide) (by omega)
  have eX : x = (X : Int) := by
    have a := w64_id hx
    unfold w64 at a
    rw [← a, hX]
    show (Int64.ofInt x).toBitVec.toInt = _
    rw [BitVec.toInt_eq_toNat_cond, ← hX, if_pos (by omega)]
  have eU : lUshr x 32 = ((X / 4294967296 : Nat) : Int) := by
    have ek : (((Int32.ofInt 32).toInt64.toUInt64 &&& Int64.toUInt64 63).toBitVec % 64) = 32#64 := by decide +kernel
    unfold lUshr
    show ((Int64.ofInt x).toUInt64 >>> ((Int32.ofInt 32).toInt64.toUInt64 &&& Int64.toUInt64 63)).toBitVec.toInt = _
    rw [UInt64.toBitVec_shiftRight]
    show ((Int64.ofInt x).toBitVec >>> (((Int32.ofInt 32).toInt64.toUInt64 &&& Int64.toUInt64 63).toBitVec % 64)).toInt = _
    rw [ek, BitVec.ushiftRight_eq', BitVec.toInt_eq_toNat_cond, BitVec.toNat_ushiftRight, ← hX]
    show (if 2 * (X >>> 32) < 2 ^ 64 then ((X >>> 32 : Nat) : Int) else _) = _
    rw [Nat.shiftRight_eq_div_pow]
    rw [if_pos (by omega)]
  unfold j15_numberOfLeadingZeros
  rw [eU, w32_i (x := ((X / 4294967296 : Nat) : Int)) (by omega) (by omega)]
  by_cases c : 4294967296 ≤ X
  · obtain ⟨m, e, m1, m2⟩ := shp (s := 32) p1 p2 (show 2 ^ 32 ≤ X by omega)
    rw [if_pos (by omega), nlz32 (n := m) m1 m2 (by omega), Option.bind_some]
    exact congrArg some (by omega)
  · have n31 : n < 32 := by
      by_cases q : n < 32
      · exact q
      · have := Nat.pow_le_pow_right (show 0 < 2 by decide) (show 32 ≤ n by omega)
        omega
    rw [if_neg (by omega), eX]
    by_cases d : X < 2147483648
    · rw [w32_i (x := (X : Int)) (by omega) (by omega), nlz32 p1 p2 d, Option.bind_some, w32_i (by omega) (by omega)]
      have n30 : n < 31 := by
        by_cases q : n < 31
        · exact q
        · have := Nat.pow_le_pow_right (show 0 < 2 by decide) (show 31 ≤ n by omega)
          omega
      exact congrArg some (by omega)
    · have e31 : n = 31 := by
        by_cases q : n < 31
        · have := Nat.pow_le_pow_right (show 0 < 2 by decide) (show n + 1 ≤ 31 by omega)
          omega
        · omega
      have ew : w32 (X : Int) = (X : Int) - 4294967296 := by
        unfold w32
        rw [Int32.toInt_ofInt]
        show Int.bmod (X : Int) 4294967296 = _
        rw [Int.bmod_def]
        have em : (X : Int) % ((4294967296 : Nat) : Int) = (X : Int) := Int.emod_eq_of_lt (by omega) (by omega)
        rw [em, if_neg (by omega)]
        rfl
      have ez : j16_numberOfLeadingZeros ((X : Int) - 4294967296) σ = some 0 := by
        unfold j16_numberOfLeadingZeros
        rw [if_neg (by omega), if_pos (by omega)]
      rw [ew, ez, Option.bind_some, e31]
      rfl
end LastBit
section State26
variable {N x h u b nv nv' pa un fs i t s k n j : Nat} {σ σ' τ τ' τ'' r : gMem} {own rt : Nat → Nat} {S : Sh} {Gs : Nat → Sh} {g : Nat → Nat → Vl} {v w p q : Int}
/-- j is one that version k comes from -/
def An (x : Nat) (σ : gMem) (k j : Nat) : Prop := tb (mL σ (mR σ (x + 2) k) 4) j = true
theorem An.iff (R : Rvr x h nv σ τ) (hk : k < nv) (hj : j < 64) : An x σ k j ↔ (j = k ∨ (∃ p : Nat, mI τ (h + 6) k = p ∧ An x σ p j) ∨ ∃ p : Nat, mI τ (h + 7) k = p ∧ An x σ p j) := (R k hk).2.2.2.2.2.2.2 j hj
theorem An.le (R : Rvr x h nv σ τ) : ∀ k, k < nv → ∀ j, j < 64 → An x σ k j → j ≤ k := by
  intro k
  induction k using Nat.strongRecOn with
  | ind k ih =>
    intro hk j hj a
    obtain ⟨-, -, q3, q4, q5, q6, -⟩ := R k hk
    rcases (An.iff R hk hj).mp a with e | ⟨p, e, a'⟩ | ⟨p, e, a'⟩
    · omega
    · have := ih p (by omega) (by omega) j hj a'; omega
    · have := ih p (by omega) (by omega) j hj a'; omega
theorem An.cl (R : Rvr x h nv σ τ) (h4 : nv ≤ 40) : ∀ k, k < nv → ∀ i p : Nat, i < 64 → An x σ k i → (mI τ (h + 6) i = p ∨ mI τ (h + 7) i = p) → An x σ k p := by
  intro k
  induction k using Nat.strongRecOn with
  | ind k ih =>
    intro hk i p hi a hp
    have ik := An.le R k hk i hi a
    obtain ⟨-, -, -, i4, -, i6, -⟩ := R i (by omega)
    have p64 : p < 64 := by omega
    have pp : An x σ p p := (An.iff R (by omega) p64).mpr (Or.inl rfl)
    obtain ⟨-, -, q3, q4, q5, q6, -⟩ := R k hk
    rcases (An.iff R hk hi).mp a with e | ⟨o, e, a'⟩ | ⟨o, e, a'⟩
    · subst e
      rcases hp with hp | hp
      · exact (An.iff R hk p64).mpr (Or.inr (Or.inl ⟨p, hp, pp⟩))
      · exact (An.iff R hk p64).mpr (Or.inr (Or.inr ⟨p, hp, pp⟩))
    · exact (An.iff R hk p64).mpr (Or.inr (Or.inl ⟨o, e, ih o (by omega) (by omega) i p hi a' hp⟩))
    · exact (An.iff R hk p64).mpr (Or.inr (Or.inr ⟨o, e, ih o (by omega) (by omega) i p hi a' hp⟩))
theorem An.zero (R : Rvr x h nv σ τ) : ∀ k, k < nv → An x σ k 0 := by
  intro k
  induction k using Nat.strongRecOn with
  | ind k ih =>
    intro hk
    obtain ⟨-, -, q3, q4, q5, q6, q7, -⟩ := R k hk
    by_cases c : k = 0
    · exact (An.iff R hk (by decide)).mpr (Or.inl c.symm)
    · have := q7 (by omega)
      exact (An.iff R hk (by decide)).mpr (Or.inr (Or.inl ⟨(mI τ (h + 6) k).toNat, by omega, ih _ (by omega) (by omega)⟩))
theorem t_anc1 {K : gMem → Option gMem} {Φ : gMem → Prop} {V ro : Nat} (t1 : mT τ ro = 103) (n1 : mN τ ro = 40) (hK : ∀ r, Ex (fun a _ => a = ro) τ r → (∀ j, j < 40 → mI r ro j = if j = V then 1 else 0) → Ev (K r) Φ) : ∀ (m i f : Nat) (r : gMem), i + m = 40 → m < f → Ex (fun a _ => a = ro) τ r → (∀ j, j < i → mI r ro j = if j = V then 1 else 0) → Ev (tw_ancestors_l2 N h V ro K f i r) Φ := by
  intro m
  induction m with
  | zero =>
    intro i f r h1 h2 X I
    obtain ⟨f, rfl⟩ : ∃ j, f = j + 1 := ⟨f - 1, by omega⟩
    unfold tw_ancestors_l2
    exact Ev.g (by omega) (hK r X (fun j hj => I j (by omega)))
  | succ m ih =>
    intro i f r h1 h2 X I
    obtain ⟨f, rfl⟩ : ∃ j, f = j + 1 := ⟨f - 1, by omega⟩
    have J : ∀ d : Int, d = (if i = V then 1 else 0) → Ev (tw_ancestors_l2_j20 N h V ro i d i ro (tw_ancestors_l2 N h V ro K f) K r) Φ := by
      intro d hd
      have d01 : d = 0 ∨ d = 1 := by rw [hd]; split <;> omega
      unfold tw_ancestors_l2_j20
      rw [X.rT, X.rN, tn, inc32 (by omega)]
      refine Ev.g t1 (Ev.g d01 (Ev.g (by omega) (Ev.l (ih (i + 1) f _ (by omega) (by omega) (X.I rfl) (fun j hj => ?_)))))
      by_cases c : j = i
      · rw [c, mIwI2 ⟨rfl, rfl⟩, w32_i (by omega) (by omega), hd]
      · rw [mIwI1 (by omega)]; exact I j (by omega)
    unfold tw_ancestors_l2
    refine Ev.f (by omega) ?_
    by_cases c : i = V
    · exact Ev.f (fun z => z (by omega)) (J 1 (if_pos c).symm)
    · exact Ev.g (fun z => c (by omega)) (J 0 (if_neg c).symm)
/-- so far: what is set comes, what comes of those above is set -/
def AcI (x h : Nat) (σ τ r : gMem) (ro V k : Nat) : Prop := Ex (fun a _ => a = ro) τ r ∧ (∀ j, j < 40 → mI r ro j ≠ 0 → An x σ V j) ∧ mI r ro V ≠ 0 ∧ ∀ i, k < i → i ≤ V → mI r ro i ≠ 0 → ∀ p : Nat, (mI τ (h + 6) i = p ∨ mI τ (h + 7) i = p) → mI r ro p ≠ 0
theorem t_anc2 {K : gMem → Option gMem} {Φ : gMem → Prop} {V ro : Nat} (R : Rvr x h nv σ τ) (h4 : nv ≤ 40) (hV : V < nv) (hr : h + 7 < ro) (t1 : mT τ ro = 103) (n1 : mN τ ro = 40) (hK : ∀ r, AcI x h σ τ r ro V 0 → Ev (K r) Φ) : ∀ (k f : Nat) (r : gMem), k ≤ V → k < f → AcI x h σ τ r ro V k → Ev (tw_ancestors_l29 N h ro K f k r) Φ := by
  intro k
  induction k with
  | zero =>
    intro f r h1 h2 A
    obtain ⟨f, rfl⟩ : ∃ j, f = j + 1 := ⟨f - 1, by omega⟩
    unfold tw_ancestors_l29
    exact Ev.g (by omega) (hK r A)
  | succ k ih =>
    intro f r h1 h2 A
    obtain ⟨f, rfl⟩ : ∃ j, f = j + 1 := ⟨f - 1, by omega⟩
    obtain ⟨X, A1, A2, A3⟩ := A
    have dk : w32 (((k + 1 : Nat) : Int) + -1) = (k : Int) := by rw [w32_i (by omega) (by omega)]; omega
    obtain ⟨-, -, q3, q4, q5, q6, q7, -⟩ := R (k + 1) (by omega)
    have q7' := q7 (by omega)
    unfold tw_ancestors_l29
    unfold tw_ancestors_l29_j66
    rw [X.rT, X.rN, n1, tn, dk]
    refine Ev.f (by omega) (Ev.g t1 (Ev.g (by omega) ?_))
    by_cases c : mI r ro (k + 1) = 0
    · refine Ev.g c (ih f r (by omega) (by omega) ⟨X, A1, A2, fun i h3 h4' z p hp => ?_⟩)
      by_cases e : i = k + 1
      · rw [e] at z; exact absurd c z
      · exact A3 i (by omega) h4' z p hp
    · have an := A1 (k + 1) (by omega) c
      obtain ⟨P, hP⟩ : ∃ P : Nat, mI τ (h + 6) (k + 1) = P := ⟨(mI τ (h + 6) (k + 1)).toNat, by omega⟩
      have eP : mI r (h + 6) (k + 1) = P := by rw [X.rI (by omega)]; exact hP
      rw [eP, tn]
      refine Ev.f c (Ev.g (by omega) (Ev.g (by omega) (Ev.l ?_)))
      have X1 : Ex (fun a _ => a = ro) τ (wI r ro P 1) := X.I rfl
      have s1 : ∀ j, mI (wI r ro P 1) ro j = if j = P then 1 else mI r ro j := fun j => by
        by_cases e : j = P
        · rw [if_pos e, e, mIwI2 ⟨rfl, rfl⟩, w32_i (by omega) (by omega)]
        · rw [if_neg e, mIwI1 (by omega)]
      have nz1 : ∀ j, mI r ro j ≠ 0 → mI (wI r ro P 1) ro j ≠ 0 := fun j z => by rw [s1]; split; decide; exact z
      have o7 : mI (wI r ro P 1) (h + 7) (k + 1) = mI τ (h + 7) (k + 1) := X1.rI (by omega)
      rw [o7]
      refine Ev.g (by omega) ?_
      by_cases d : mI τ (h + 7) (k + 1) < 0
      · refine Ev.g d (ih f _ (by omega) (by omega) ⟨X1, fun j hj z => ?_, nz1 _ A2, fun i h3 h4' z p hp => ?_⟩)
        · rw [s1] at z
          by_cases e : j = P
          · rw [e]; exact An.cl R h4 V hV (k + 1) P (by omega) an (Or.inl hP)
          · rw [if_neg e] at z; exact A1 j hj z
        · by_cases e : i = k + 1
          · subst e
            rcases hp with hp | hp
            · rw [s1, if_pos (by omega)]; decide
            · omega
          · rw [s1] at z
            by_cases e2 : i = P
            · omega
            · rw [if_neg e2] at z
              exact nz1 p (A3 i (by omega) h4' z p hp)
      · obtain ⟨O, hO⟩ : ∃ O : Nat, mI τ (h + 7) (k + 1) = O := ⟨(mI τ (h + 7) (k + 1)).toNat, by omega⟩
        rw [hO, tn, X1.rN, n1]
        refine Ev.f (by omega) (Ev.g (by omega) (Ev.g (by omega) (Ev.l ?_)))
        have X2 : Ex (fun a _ => a = ro) τ (wI (wI r ro P 1) ro O 1) := X1.I rfl
        have s2 : ∀ j, mI (wI (wI r ro P 1) ro O 1) ro j = if j = O then 1 else if j = P then 1 else mI r ro j := fun j => by
          by_cases e : j = O
          · rw [if_pos e, e, mIwI2 ⟨rfl, rfl⟩, w32_i (by omega) (by omega)]
          · rw [if_neg e, mIwI1 (by omega), s1]
        have nz2 : ∀ j, mI r ro j ≠ 0 → mI (wI (wI r ro P 1) ro O 1) ro j ≠ 0 := fun j z => by rw [s2]; split; decide; split; decide; exact z
        refine ih f _ (by omega) (by omega) ⟨X2, fun j hj z => ?_, nz2 _ A2, fun i h3 h4' z p hp => ?_⟩
        · rw [s2] at z
          by_cases e0 : j = O
          · rw [e0]; exact An.cl R h4 V hV (k + 1) O (by omega) an (Or.inr hO)
          · rw [if_neg e0] at z
            by_cases e : j = P
            · rw [e]; exact An.cl R h4 V hV (k + 1) P (by omega) an (Or.inl hP)
            · rw [if_neg e] at z; exact A1 j hj z
        · by_cases e : i = k + 1
          · subst e
            rcases hp with hp | hp
            · rw [s2]
              by_cases eo : p = O
              · rw [if_pos eo]; decide
              · rw [if_neg eo, if_pos (by omega)]; decide
            · rw [s2, if_pos (by omega)]; decide
          · rw [s2] at z
            rw [if_neg (by omega), if_neg (by omega)] at z
            exact nz2 p (A3 i (by omega) h4' z p hp)
theorem t_anc {V ro : Nat} (hN : 500 ≤ N) (R : Rvr x h nv σ τ) (h4 : nv ≤ 40) (hV : V < nv) (hr : h + 7 < ro) (t1 : mT τ ro = 103) (n1 : mN τ ro = 40) : Ev (tw_ancestors N h V ro τ) (fun r => Ex (fun a _ => a = ro) τ r ∧ ∀ j, j < 40 → (mI r ro j ≠ 0 ↔ An x σ V j)) := by
  unfold tw_ancestors
  refine t_anc1 t1 n1 (fun r1 X1 I1 => ?_) 40 0 N τ (by omega) (by omega) Ex.rf (fun j hj => by omega)
  refine t_anc2 (σ := σ) (τ := τ) (nv := nv) (V := V) R h4 hV hr t1 n1 (fun r A => Ev.r ?_) V N r1 (Nat.le_refl _) (by omega) ⟨X1, fun j hj z => ?_, ?_, fun i h3 h4' => by omega⟩
  · obtain ⟨X, A1, A2, A3⟩ := A
    refine ⟨X, fun j hj => ⟨A1 j hj, ?_⟩⟩
    have G : ∀ k, k ≤ V → mI r ro k ≠ 0 → ∀ j, j < 64 → An x σ k j → mI r ro j ≠ 0 := by
      intro k
      induction k using Nat.strongRecOn with
      | ind k ih =>
        intro kV z j hj a
        obtain ⟨-, -, q3, q4, q5, q6, q7, -⟩ := R k (by omega)
        rcases (An.iff R (by omega) hj).mp a with e | ⟨p, e, a'⟩ | ⟨p, e, a'⟩
        · rw [e]; exact z
        · exact ih p (by omega) (by omega) (A3 k (by omega) kV z p (Or.inl e)) j hj a'
        · exact ih p (by omega) (by omega) (A3 k (by omega) kV z p (Or.inr e)) j hj a'
    exact G V (Nat.le_refl _) A2 j (by omega)
  · rw [I1 j hj] at z
    by_cases e : j = V
    · rw [e]; exact (An.iff R hV (by omega)).mpr (Or.inl rfl)
    · rw [if_neg e] at z; exact absurd rfl z
  · rw [I1 V (by omega), if_pos rfl]; decide
theorem t_base_l {A B : Nat} {K : Int → gMem → Option (Int × gMem)} {Φ : Int × gMem → Prop} (R : Rvr x h nv σ τ) (hA : A < nv) (hB : B < nv) (h4 : nv ≤ 40) (rA : ∀ j, j < 40 → (mI r (h + 44) j ≠ 0 ↔ An x σ A j)) (rB : ∀ j, j < 40 → (mI r (h + 45) j ≠ 0 ↔ An x σ B j)) (hK : ∀ b, b < nv → An x σ A b → An x σ B b → (∀ j, b < j → j < nv → ¬ (An x σ A j ∧ An x σ B j)) → Ev (K b r) Φ) : ∀ (k f : Nat), k < nv → k < f → (∀ j, k < j → j < nv → ¬ (An x σ A j ∧ An x σ B j)) → Ev (tw_base_l60 N h K f k r) Φ := by
  intro k
  induction k with
  | zero =>
    intro f h1 h2 I
    obtain ⟨f, rfl⟩ : ∃ j, f = j + 1 := ⟨f - 1, by omega⟩
    unfold tw_base_l60
    have a := (rA 0 (by omega)).mpr (An.zero R A hA)
    have b := (rB 0 (by omega)).mpr (An.zero R B hB)
    exact Ev.g (by decide) (Ev.f a (Ev.g (by decide) (Ev.g b (hK 0 h1 (An.zero R A hA) (An.zero R B hB) I))))
  | succ k ih =>
    intro f h1 h2 I
    obtain ⟨f, rfl⟩ : ∃ j, f = j + 1 := ⟨f - 1, by omega⟩
    have dk : w32 (((k + 1 : Nat) : Int) + -1) = (k : Int) := by rw [w32_i (by omega) (by omega)]; omega
    have NX : ¬ (An x σ A (k + 1) ∧ An x σ B (k + 1)) → Ev (tw_base_l60 N h K f k r) Φ := fun z => ih f (by omega) (by omega) (fun j hj hn => by
      by_cases e : j = k + 1
      · rw [e]; exact z
      · exact I j (by omega) hn)
    unfold tw_base_l60
    unfold tw_base_l60_j78
    rw [tn, dk]
    refine Ev.g (by omega) ?_
    by_cases a : mI r (h + 44) (k + 1) = 0
    · exact Ev.g a (NX (fun z => (rA (k + 1) (by omega)).mpr z.1 a))
    · refine Ev.f a (Ev.g (by omega) ?_)
      by_cases b : mI r (h + 45) (k + 1) = 0
      · exact Ev.f (fun z => z b) (NX (fun z => (rB (k + 1) (by omega)).mpr z.2 b))
      · exact Ev.g b (hK (k + 1) h1 ((rA (k + 1) (by omega)).mp a) ((rB (k + 1) (by omega)).mp b) I)
/-- the twin finds the last one that both come from, as the class does -/
theorem both_base {A B : Nat} (hN : 500 ≤ N) (R : Rl x h t nv pa un fs Gs g own rt σ τ) (hA : A < nv) (hB : B < nv) : ∃ b : Nat, b < nv ∧ x1_base x A B σ = some (b : Int) ∧ An x σ A b ∧ Ev (tw_base N h A B τ) (fun a => a.1 = (b : Int) ∧ Rl x h t nv pa un fs Gs g own rt σ a.2 ∧ Ex (fun a k => (a = h ∧ k = 0) ∨ a = h + 44 ∨ a = h + 45) τ a.2 ∧ mI a.2 h 0 = 0) := by
  have l := R.1.1
  have Rt := R.t0 (v := 0)
  have rv := Rt.vr
  obtain ⟨c5, n1, n4, pu, c8, p4, u4⟩ := Rt.c5
  have T44 := (TMb.tags Rt.2.1.1.1).2 (89, 44, 103, 40) (by decide)
  have T45 := (TMb.tags Rt.2.1.1.1).2 (90, 45, 103, 40) (by decide)
  have i0 : mI (wI τ h 0 0) h 0 = 0 := by rw [mIwI2 ⟨rfl, rfl⟩, w32_i (by omega) (by omega)]
  obtain ⟨f, hf, b, hb, e1, e2, e3⟩ : Ev (tw_base N h A B τ) (fun a => ∃ b : Nat, b < nv ∧ An x σ A b ∧ An x σ B b ∧ (∀ j, b < j → j < nv → ¬ (An x σ A j ∧ An x σ B j)) ∧ a.1 = (b : Int) ∧ Rl x h t nv pa un fs Gs g own rt σ a.2 ∧ Ex (fun a k => (a = h ∧ k = 0) ∨ a = h + 44 ∨ a = h + 45) τ a.2 ∧ mI a.2 h 0 = 0) := by
    unfold tw_base
    refine Ev.l ?_
    rw [c8, t_in, w32_i (by omega) (by omega), Option.bind_some, if_pos (show 0 ≤ (A : Int) ∧ (A : Int) ≤ (nv : Int) - 1 by omega)]
    refine Ev.f (by decide) ?_
    rw [t_in, Option.bind_some, if_pos (show 0 ≤ (B : Int) ∧ (B : Int) ≤ (nv : Int) - 1 by omega)]
    refine Ev.g (by decide) (Ev.c (t_anc (ro := h + 44) hN rv n4 hA (by omega) T44.2.1 T44.2.2) (fun r1 _ z1 => ?_))
    obtain ⟨X1, I1⟩ := z1
    have rv1 : Rvr x h nv σ r1 := rv.mv (W := fun _ => False) (Kz.rf l.ok) l.ok l.t5.1 (fun f => f) (fun k hk => ⟨(R.1.vo k hk).1, fun f => f⟩) (fun k => ⟨X1.rI (by omega), X1.rI (by omega)⟩)
    refine Ev.c (t_anc (ro := h + 45) (τ := r1) hN rv1 n4 hB (by omega) (by rw [X1.rT]; exact T45.2.1) (by rw [X1.rN]; exact T45.2.2)) (fun r2 _ z2 => ?_)
    obtain ⟨X2, I2⟩ := z2
    have XX : Ex (fun a _ => a = h + 44 ∨ a = h + 45) (wI τ h 0 0) r2 := (X1.mono (fun a k p => Or.inl p)).tr (X2.mono (fun a k p => Or.inr p))
    have j8 : mI r2 h 8 = nv := by rw [XX.rI (by omega)]; exact c8
    rw [j8, show w32 ((nv : Int) - 1) = ((nv - 1 : Nat) : Int) by rw [w32_i (by omega) (by omega)]; omega]
    refine t_base_l (r := r2) (σ := σ) (K := fun y19 s20 => some (y19, s20)) rv hA hB n4 (fun j hj => by rw [X2.rI (by omega)]; exact I1 j hj) I2 (fun b hb aA aB up => Ev.r ⟨b, hb, aA, aB, up, rfl, Rt.tsc XX (fun a k p => by unfold TSc; omega), (Ex.rf.I (Or.inl ⟨rfl, rfl⟩)).tr (XX.mono (fun a k p => Or.inr p)), ?_⟩) (nv - 1) N (by omega) (by omega) (fun j hj hn => by omega)
    rw [XX.rI (by omega)]; exact i0
  obtain ⟨e4, e5, e6⟩ := e3
  refine ⟨b, hb, ?_, e1, f, hf, e5, e6⟩
  have e4' := l.R (4, 2) (by decide)
  have t2 := l.T (2, 104, 40) (by decide)
  dsimp only at e4' t2
  have wA := R.ver hA
  have wB := R.ver hB
  have nl := nlz64 (σ := σ) (x := lAnd (mL σ (mR σ (x + 2) A) 4) (mL σ (mR σ (x + 2) B) 4)) (n := b) (lAnd_rng _ _) (by omega) (by rw [tb_and]; exact Bool.and_eq_true_iff.mpr ⟨e1, e2⟩) (fun i h1 h2 => by
    rw [tb_and]
    cases ea : tb (mL σ (mR σ (x + 2) A) 4) i with
    | false => rfl
    | true =>
      cases eb : tb (mL σ (mR σ (x + 2) B) 4) i with
      | false => rfl
      | true =>
        have := An.le rv A hA i h2 ea
        exact absurd ⟨ea, eb⟩ (e4 i h1 (by omega)))
  unfold x1_base
  rw [if_neg (by omega), if_pos l.1.1, c5, if_neg (by omega), if_neg (by omega), if_pos (by omega), e4', if_pos t2.1, t2.2, if_pos (by omega), tn, tn, if_pos wA.1, if_pos (by omega), if_pos wB.1, nl, Option.bind_some, w32_i (by omega) (by omega)]
  exact congrArg some (by omega)
/-- base -/
theorem op_base (hN : 500 ≤ N) (R : RL x h t σ τ) : E2 (x1_base x v w σ) (tw_base N h v w τ) (OpA x h t σ τ) := by
  obtain ⟨nv, pa, un, fs, Gs, g, own, rt, R⟩ := R
  have l := R.1.1
  have Rt := R.t0 (v := 0)
  obtain ⟨c5, n1, n4, pu, c8, p4, u4⟩ := Rt.c5
  by_cases c : (0 ≤ v ∧ v < nv) ∧ 0 ≤ w ∧ w < nv
  · obtain ⟨A, rfl⟩ : ∃ A : Nat, v = (A : Int) := ⟨v.toNat, by omega⟩
    obtain ⟨B, rfl⟩ : ∃ B : Nat, w = (B : Int) := ⟨w.toNat, by omega⟩
    obtain ⟨b, hb, e1, -, f, hf, e2, e3, e4, e5⟩ := both_base (N := N) hN R (show A < nv by omega) (show B < nv by omega)
    exact ⟨b, f, e1, hf, ⟨_, _, _, _, _, _, _, _, e3.t1⟩, FrL.rf l, e4.mono (fun a k p => by unfold TwA; omega), e2.symm, e5⟩
  · unfold x1_base tw_base
    refine E2.rl ?_
    rw [c8, t_in, w32_i (by omega) (by omega), Option.bind_some, t_in, Option.bind_some, c5]
    by_cases c0 : 0 ≤ v ∧ v ≤ (nv : Int) - 1
    · rw [if_pos c0, if_neg (show ¬ (0 ≤ w ∧ w ≤ (nv : Int) - 1) by omega)]
      refine E2.rf (by decide) (E2.rf (fun z => z rfl) (E2.lf (by omega) (E2.lg l.1.1 (E2.lf (by omega) ?_))))
      by_cases w0 : w < 0
      · exact E2.lg w0 (E2.r (OpQ.same R))
      · exact E2.lf w0 (E2.lf (by omega) (E2.r (OpQ.same R)))
    · rw [if_neg c0]
      refine E2.rg rfl ?_
      by_cases v0 : v < 0
      · exact E2.lg v0 (E2.r (OpQ.same R))
      · exact E2.lf v0 (E2.lg l.1.1 (E2.lg (by omega) (E2.r (OpQ.same R))))
end State26
