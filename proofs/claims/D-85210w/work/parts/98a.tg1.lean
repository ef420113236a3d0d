/-! ===== PHASE 2: the twin's graph: bits, all ways ===== -/
section TwGraph
variable {N h : Nat} {σ σ' s : gMem}
/-- a bit of a row of five longs -/
def BT (σ : gMem) (a i j : Nat) : Bool := tb (mL σ a (5 * i + j / 64)) (j % 64)
theorem c1L : ((((1 : Fin 2) : Nat) : Int)) = 1 := rfl
theorem c0L : ((((0 : Fin 2) : Nat) : Int)) = 0 := rfl
theorem t_bit {a i j : Nat} (hT : mT σ a = 101) (hN : mN σ a = 1600) (hi : i < 320) (hj : j < 320) : tw_bit a i j σ = some (if BT σ a i j then 1 else 0) := by
  unfold tw_bit BT
  have e1 : 5 * (i : Int) + Int.tdiv (j : Int) 64 = ((5 * i + j / 64 : Nat) : Int) := by rw [Int.tdiv_eq_ediv_of_nonneg (by omega)]; omega
  have e2 : Int.tmod (j : Int) 64 = ((j % 64 : Nat) : Int) := by rw [Int.tmod_eq_emod_of_nonneg (by omega)]; omega
  rw [if_pos hT, e1, hN, if_pos (by omega), tn, e2, c1L, bit_at _ (show j % 64 < 320 by omega), Nat.mod_mod]
  cases tb (mL σ a (5 * i + j / 64)) (j % 64) with
  | true => rw [if_neg (fun q => q rfl)]; rfl
  | false => rw [if_pos (by decide)]; rfl
theorem BT.ex {P : Nat → Nat → Prop} {a i j : Nat} (x : Ex P σ σ') (n : ∀ k, ¬ P a k) : BT σ' a i j = BT σ a i j := by unfold BT; rw [x.rL (n _)]
/-- a bit is set -/
theorem BT_set {a i j : Nat} (hj : j < 320) (p q : Nat) (hq : q < 320) : BT (wL σ a (5 * i + j / 64) (lOr (mL σ a (5 * i + j / 64)) (lShl 1 (j % 64 : Nat)))) a p q = (BT σ a p q || decide (p = i ∧ q = j)) := by
  unfold BT
  rw [mL_wL]
  by_cases e : 5 * p + q / 64 = 5 * i + j / 64
  · rw [if_pos ⟨rfl, e⟩, w64_id (lOr_rng _ _), tb_or, tb_one (by omega) (by omega), e, Nat.mod_mod]
    congr 1
    by_cases c : q % 64 = j % 64
    · rw [decide_eq_true c, decide_eq_true (by omega)]
    · rw [decide_eq_false c, decide_eq_false (by omega)]
  · rw [if_neg (fun z => e z.2), decide_eq_false (fun z => e (by rw [z.1, z.2])), Bool.or_false]
def Lp (h a : Nat) (_ : Nat) : Prop := a = h + 38
theorem t_lead {i j : Nat} (hi : i < 320) (hj : j < 320) : Ev (tw_lead h i j σ) (fun r => Ex (Lp h) σ r ∧ ∀ p q, q < 320 → BT r (h + 38) p q = (BT σ (h + 38) p q || decide (p = i ∧ q = j))) := by
  have e1 : 5 * (i : Int) + Int.tdiv (j : Int) 64 = ((5 * i + j / 64 : Nat) : Int) := by rw [Int.tdiv_eq_ediv_of_nonneg (by omega)]; omega
  have e2 : Int.tmod (j : Int) 64 = ((j % 64 : Nat) : Int) := by rw [Int.tmod_eq_emod_of_nonneg (by omega)]; omega
  unfold tw_lead
  rw [e1, tn, e2, c1L]
  refine Ev.g (by omega) (Ev.g (by omega) (Ev.l (Ev.r ⟨Ex.rf.L rfl, fun p q hq => BT_set hj p q hq⟩)))
/-- which cells are through: in a row, in bits -/
def ThT (σ : gMem) (h : Nat) (T : Nat → Bool) : Prop := ∀ k, k < 320 → mI σ (h + 40) k = (if T k then 1 else 0) ∧ tb (mL σ (h + 41) (k / 64)) (k % 64) = T k
def Tp (h a : Nat) (_ : Nat) : Prop := a = h + 40 ∨ a = h + 41
theorem t_goesThrough {k : Nat} {T : Nat → Bool} (hk : k < 320) (g : ∀ j, j < 320 → j ≠ k → mI σ (h + 40) j = (if T j then 1 else 0)) (g' : ∀ j, j < 320 → tb (mL σ (h + 41) (j / 64)) (j % 64) = (T j && decide (j ≠ k))) : Ev (tw_goesThrough h k σ) (fun r => Ex (Tp h) σ r ∧ ThT r h (fun j => T j || decide (j = k))) := by
  have e1 : Int.tdiv (k : Int) 64 = ((k / 64 : Nat) : Int) := by rw [Int.tdiv_eq_ediv_of_nonneg (by omega)]; omega
  have e2 : Int.tmod (k : Int) 64 = ((k % 64 : Nat) : Int) := by rw [Int.tmod_eq_emod_of_nonneg (by omega)]; omega
  unfold tw_goesThrough
  refine Ev.g (by omega) (Ev.l ?_)
  rw [e1, tn, tn, e2, c1L]
  refine Ev.g (by omega) (Ev.g (by omega) (Ev.l (Ev.r ⟨(Ex.rf.I (Or.inl rfl)).L (Or.inr rfl), fun j hj => ⟨?_, ?_⟩⟩)))
  · show _ = (if (T j || decide (j = k)) = true then (1 : Int) else 0)
    rw [mI_wL, mI_wI]
    by_cases c : j = k
    · rw [if_pos ⟨rfl, c⟩, decide_eq_true c, Bool.or_true, if_pos rfl]; exact w32_id (by decide)
    · rw [if_neg (fun z => c z.2), decide_eq_false c, Bool.or_false]; exact g j hj c
  · show _ = (T j || decide (j = k))
    rw [mL_wL]
    by_cases e : j / 64 = k / 64
    · rw [if_pos ⟨rfl, e⟩, w64_id (lOr_rng _ _), tb_or, tb_one (by omega) (by omega), Nat.mod_mod, mL_wI, ← e, g' j hj]
      by_cases c : j = k
      · rw [decide_eq_true c, decide_eq_false (show ¬ j ≠ k from fun z => z c), decide_eq_true (by omega)]; simp
      · rw [decide_eq_false c, decide_eq_true (show j ≠ k from c), decide_eq_false (by omega)]; simp
    · rw [if_neg (fun z => e z.2), mL_wI, g' j hj, decide_eq_false (show ¬ j = k from fun z => e (by rw [z])), decide_eq_true (show j ≠ k from fun z => e (by rw [z]))]; simp
theorem t_isReady_l {k : Nat} {T : Nat → Bool} (hk : k < 320) (th : ThT σ h T) : ∀ (m i f : Nat), i + m = 5 → m < f → (∀ j, j < 64 * i → BT σ (h + 38) k j = true → T j = true) → ∃ b : Bool, tw_isReady_l2 N h σ k (some 1) f i = some (if b then 1 else 0) ∧ (b = true ↔ ∀ j, j < 320 → BT σ (h + 38) k j = true → T j = true) := by
  intro m
  induction m with
  | zero =>
    intro i f h1 h2 h3
    obtain ⟨f, rfl⟩ : ∃ j, f = j + 1 := ⟨f - 1, by omega⟩
    unfold tw_isReady_l2
    rw [if_pos (by omega)]
    exact ⟨true, rfl, fun _ j hj => h3 j (by omega), fun _ => rfl⟩
  | succ m ih =>
    intro i f h1 h2 h3
    obtain ⟨f, rfl⟩ : ∃ j, f = j + 1 := ⟨f - 1, by omega⟩
    unfold tw_isReady_l2
    have e1 : (5 * (k : Int) + (i : Int)).toNat = 5 * k + i := by omega
    rw [if_neg (by omega), if_pos (by omega), if_pos (by omega), e1, tn, c0L]
    have key : lAnd (mL σ (h + 38) (5 * k + i)) (lXor (mL σ (h + 41) i) (-1)) = 0 ↔ ∀ j, 64 * i ≤ j → j < 64 * (i + 1) → BT σ (h + 38) k j = true → T j = true := by
      rw [tb_zero (lAnd_rng _ _)]
      constructor
      · intro z j j1 j2 j3
        have := z (j % 64) (by omega)
        rw [tb_and, tb_not _ (by omega)] at this
        unfold BT at j3
        rw [show j / 64 = i by omega] at j3
        have t := (th j (by omega)).2
        rw [show j / 64 = i by omega] at t
        rw [j3, t] at this
        cases hT : T j with
        | true => rfl
        | false => rw [hT] at this; cases this
      · intro z b hb
        rw [tb_and, tb_not _ hb]
        have zz := z (64 * i + b) (by omega) (by omega)
        unfold BT at zz
        rw [show (64 * i + b) / 64 = i by omega, show (64 * i + b) % 64 = b by omega] at zz
        have t := (th (64 * i + b) (by omega)).2
        rw [show (64 * i + b) / 64 = i by omega, show (64 * i + b) % 64 = b by omega] at t
        rw [t]
        cases hB : tb (mL σ (h + 38) (5 * k + i)) b with
        | false => rfl
        | true => rw [zz hB]; rfl
    by_cases c : lAnd (mL σ (h + 38) (5 * k + i)) (lXor (mL σ (h + 41) i) (-1)) = 0
    · rw [if_pos (gcmp_eq.mpr c), inc32 (by omega)]
      refine ih (i + 1) f (by omega) (by omega) (fun j hj => ?_)
      by_cases q : j < 64 * i
      · exact h3 j q
      · exact key.mp c j (by omega) hj
    · rw [if_neg (fun q => c (gcmp_eq.mp q))]
      refine ⟨false, rfl, fun z => (by cases z), fun z => ?_⟩
      exact absurd (key.mpr (fun j _ j2 => z j (by omega))) c
theorem t_isReady {k : Nat} {T : Nat → Bool} (hN : 10 ≤ N) (hk : k < 320) (th : ThT σ h T) : ∃ b : Bool, tw_isReady N h k σ = some (if b then 1 else 0) ∧ (b = true ↔ ∀ j, j < 320 → BT σ (h + 38) k j = true → T j = true) :=
  t_isReady_l hk th 5 0 N (by omega) (by omega) (fun j hj => by omega)
def Kp (h a : Nat) (_ : Nat) : Prop := a = h + 39
theorem t_close_c {K : gMem → Option gMem} {Φ : gMem → Prop} {σ0 : gMem} (hK : ∀ s, Ex (Kp h) σ0 s → (∀ k, k < 1600 → mL s (h + 39) k = mL σ0 (h + 38) k) → Ev (K s) Φ) : ∀ (m i f : Nat) (s : gMem), i + m = 1600 → m < f → Ex (Kp h) σ0 s → (∀ k, k < i → mL s (h + 39) k = mL σ0 (h + 38) k) → Ev (tw_close_l2 N h K f i s) Φ := by
  intro m
  induction m with
  | zero =>
    intro i f s h1 h2 X g
    obtain ⟨f, rfl⟩ : ∃ j, f = j + 1 := ⟨f - 1, by omega⟩
    unfold tw_close_l2
    exact Ev.g (by omega) (hK s X (fun k hk => g k (by omega)))
  | succ m ih =>
    intro i f s h1 h2 X g
    obtain ⟨f, rfl⟩ : ∃ j, f = j + 1 := ⟨f - 1, by omega⟩
    unfold tw_close_l2
    refine Ev.f (by omega) (Ev.g (by omega) (Ev.g (by omega) (Ev.l ?_)))
    rw [tn, inc32 (by omega)]
    refine ih (i + 1) f _ (by omega) (by omega) (X.L rfl) (fun k hk => ?_)
    rw [mL_wL]
    by_cases e : k = i
    · rw [if_pos ⟨rfl, e⟩, mL64, X.rL (by unfold Kp; omega), e]
    · rw [if_neg (fun z => e z.2)]; exact g k (by omega)
/-- row i takes up row m -/
theorem t_close_r {by' fr : Nat} {K : gMem → Option gMem} {Φ : gMem → Prop} {σ0 : gMem} (hb : by' < 320) (hf : fr < 320) (hK : ∀ s, Ex (Kp h) σ0 s → (∀ p q, q < 320 → BT s (h + 39) p q = if p = fr then (BT σ0 (h + 39) fr q || BT σ0 (h + 39) by' q) else BT σ0 (h + 39) p q) → Ev (K s) Φ) : ∀ (m i f : Nat) (s : gMem), i + m = 5 → m < f → Ex (Kp h) σ0 s → (∀ p q, q < 320 → BT s (h + 39) p q = if p = fr ∧ q < 64 * i then (BT σ0 (h + 39) fr q || BT σ0 (h + 39) by' q) else BT σ0 (h + 39) p q) → Ev (tw_close_l59 N h by' fr K f i s) Φ := by
  intro m
  induction m with
  | zero =>
    intro i f s h1 h2 X g
    obtain ⟨f, rfl⟩ : ∃ j, f = j + 1 := ⟨f - 1, by omega⟩
    unfold tw_close_l59
    refine Ev.g (by omega) (hK s X (fun p q hq => ?_))
    rw [g p q hq]
    by_cases e : p = fr
    · rw [if_pos ⟨e, by omega⟩, if_pos e]
    · rw [if_neg (fun z => e z.1), if_neg e]
  | succ m ih =>
    intro i f s h1 h2 X g
    obtain ⟨f, rfl⟩ : ∃ j, f = j + 1 := ⟨f - 1, by omega⟩
    unfold tw_close_l59
    have e1 : (5 * (fr : Int) + (i : Int)).toNat = 5 * fr + i := by omega
    have e2 : (5 * (by' : Int) + (i : Int)).toNat = 5 * by' + i := by omega
    refine Ev.f (by omega) (Ev.g (by omega) (Ev.g (by omega) (Ev.g (by omega) (Ev.l ?_))))
    rw [e1, e2, inc32 (by omega)]
    refine ih (i + 1) f _ (by omega) (by omega) (X.L rfl) (fun p q hq => ?_)
    have gp := g p q hq
    unfold BT at gp ⊢
    rw [mL_wL]
    by_cases e : 5 * p + q / 64 = 5 * fr + i
    · have ep : p = fr := by omega
      have eq : q / 64 = i := by omega
      have g1 := g fr q hq
      have g2 := g by' q hq
      unfold BT at g1 g2
      rw [if_neg (by omega), eq] at g1
      have g2' : tb (mL s (h + 39) (5 * by' + i)) (q % 64) = tb (mL σ0 (h + 39) (5 * by' + i)) (q % 64) := by
        rw [eq] at g2
        rw [if_neg (by omega)] at g2; exact g2
      rw [if_pos ⟨rfl, e⟩, w64_id (lOr_rng _ _), tb_or, g1, g2', if_pos ⟨ep, by omega⟩, eq]
    · rw [if_neg (fun z => e z.2), gp]
      by_cases c : p = fr ∧ q < 64 * i
      · rw [if_pos c, if_pos ⟨c.1, by omega⟩]
      · rw [if_neg c, if_neg (fun z => c ⟨z.1, by omega⟩)]
theorem t_close_f {by' : Nat} {L : Nat → Nat → Prop} {K : gMem → Option gMem} {Φ : gMem → Prop} {σ0 : gMem} (hN : 10 ≤ N) (hb : by' < 320) (hK : ∀ s, Ex (Kp h) σ0 s → (∀ p q, p < 320 → q < 320 → (BT s (h + 39) p q = true ↔ RC L (by' + 1) p q)) → Ev (K s) Φ) : ∀ (m i f : Nat) (s : gMem), i + m = 320 → m < f → Ex (Kp h) σ0 s → mT s (h + 39) = 101 → mN s (h + 39) = 1600 → (∀ p q, p < 320 → q < 320 → (BT s (h + 39) p q = true ↔ if p < i then RC L (by' + 1) p q else RC L by' p q)) → Ev (tw_close_l38 N h by' K f i s) Φ := by
  intro m
  induction m with
  | zero =>
    intro i f s h1 h2 X hT hL g
    obtain ⟨f, rfl⟩ : ∃ j, f = j + 1 := ⟨f - 1, by omega⟩
    unfold tw_close_l38
    exact Ev.g (by omega) (hK s X (fun p q hp hq => by rw [g p q hp hq, if_pos (by omega)]))
  | succ m ih =>
    intro i f s h1 h2 X hT hL g
    obtain ⟨f, rfl⟩ : ∃ j, f = j + 1 := ⟨f - 1, by omega⟩
    have hi : i < 320 := by omega
    unfold tw_close_l38 tw_close_l38_j93
    have rowb : ∀ q, q < 320 → (BT s (h + 39) by' q = true ↔ RC L by' by' q) := by
      intro q hq
      rw [g by' q hb hq]
      by_cases c : by' < i
      · rw [if_pos c]
        exact ⟨fun z => z.elim id (fun z => z.2), fun z => Or.inl z⟩
      · rw [if_neg c]
    have bi : BT s (h + 39) i by' = true ↔ RC L by' i by' := by rw [g i by' hi hb, if_neg (by omega)]
    refine Ev.f (by omega) (Ev.e (t_bit hT hL hi hb) ?_)
    rw [inc32 (by omega)]
    cases hB : BT s (h + 39) i by' with
    | false =>
      refine Ev.g rfl (ih (i + 1) f s (by omega) (by omega) X hT hL (fun p q hp hq => ?_))
      rw [g p q hp hq]
      by_cases c : p < i
      · rw [if_pos c, if_pos (by omega)]
      · rw [if_neg c]
        by_cases e : p = i
        · rw [if_pos (by omega)]
          subst e
          constructor
          · intro z; exact Or.inl z
          · intro z
            rcases z with z | ⟨z1, z2⟩
            · exact z
            · rw [bi.mpr z1] at hB; cases hB
        · rw [if_neg (by omega)]
    | true =>
      refine Ev.f (by decide) (t_close_r (σ0 := s) hb hi (fun s2 X2 g2 => ?_) 5 0 N s (by omega) (by omega) Ex.rf (fun p q hq => by rw [if_neg (by omega)]))
      refine ih (i + 1) f s2 (by omega) (by omega) (X.tr X2) (by rw [X2.rT]; exact hT) (by rw [X2.rN]; exact hL) (fun p q hp hq => ?_)
      rw [g2 p q hq]
      by_cases e : p = i
      · rw [if_pos e, if_pos (by omega), Bool.or_eq_true, g i q hi hq, if_neg (by omega), rowb q hq, e]
        have z1 := bi.mp hB
        constructor
        · intro z
          rcases z with z | z
          · exact Or.inl z
          · exact Or.inr ⟨z1, z⟩
        · intro z
          rcases z with z | ⟨_, z⟩
          · exact Or.inl z
          · exact Or.inr z
      · rw [if_neg e, g p q hp hq]
        by_cases c : p < i
        · rw [if_pos c, if_pos (by omega)]
        · rw [if_neg c, if_neg (by omega)]
theorem t_close_b {L : Nat → Nat → Prop} {K : gMem → Option gMem} {Φ : gMem → Prop} {σ0 : gMem} (hN : 400 ≤ N) (hK : ∀ s, Ex (Kp h) σ0 s → (∀ p q, p < 320 → q < 320 → (BT s (h + 39) p q = true ↔ RC L 320 p q)) → Ev (K s) Φ) : ∀ (m i f : Nat) (s : gMem), i + m = 320 → m < f → Ex (Kp h) σ0 s → mT s (h + 39) = 101 → mN s (h + 39) = 1600 → (∀ p q, p < 320 → q < 320 → (BT s (h + 39) p q = true ↔ RC L i p q)) → Ev (tw_close_l29 N h K f i s) Φ := by
  intro m
  induction m with
  | zero =>
    intro i f s h1 h2 X hT hL g
    obtain ⟨f, rfl⟩ : ∃ j, f = j + 1 := ⟨f - 1, by omega⟩
    unfold tw_close_l29
    have hi : i = 320 := by omega
    subst hi
    exact Ev.g (by decide) (hK s X g)
  | succ m ih =>
    intro i f s h1 h2 X hT hL g
    obtain ⟨f, rfl⟩ : ∃ j, f = j + 1 := ⟨f - 1, by omega⟩
    unfold tw_close_l29
    refine Ev.f (by omega) (t_close_f (σ0 := s) (L := L) (by omega) (by omega) (fun s2 X2 g2 => ?_) 320 0 N s (by omega) (by omega) Ex.rf hT hL (fun p q hp hq => by rw [g p q hp hq, if_neg (by omega)]))
    rw [inc32 (by omega)]
    exact ih (i + 1) f s2 (by omega) (by omega) (X.tr X2) (by rw [X2.rT]; exact hT) (by rw [X2.rN]; exact hL) g2
/-- all ways are found -/
theorem t_close (hN : 2000 ≤ N) (hT : mT σ (h + 39) = 101) (hL : mN σ (h + 39) = 1600) : Ev (tw_close N h σ) (fun r => Ex (Kp h) σ r ∧ ∀ p q, p < 320 → q < 320 → (BT r (h + 39) p q = true ↔ Relation.TransGen (fun i j => i < 320 ∧ j < 320 ∧ BT σ (h + 38) i j = true) p q)) := by
  unfold tw_close
  refine t_close_c (σ0 := σ) (fun s X g => ?_) 1600 0 N σ (by omega) (by omega) Ex.rf (fun k hk => by omega)
  refine t_close_b (σ0 := s) (L := fun i j => i < 320 ∧ j < 320 ∧ BT σ (h + 38) i j = true) (by omega) (fun s2 X2 g2 => Ev.r ⟨X.tr X2, fun p q hp hq => ?_⟩) 320 0 N s (by omega) (by omega) Ex.rf (by rw [X.rT]; exact hT) (by rw [X.rN]; exact hL) (fun p q hp hq => ?_)
  · have : BT s (h + 39) p q = BT σ (h + 38) p q := by unfold BT; rw [g _ (by omega)]
    rw [this]
    exact ⟨fun z => ⟨hp, hq, z⟩, fun z => z.2.2⟩
  · rw [g2 p q hp hq, RC.iff (n := 320) (fun i j h => h.2.1)]
end TwGraph
