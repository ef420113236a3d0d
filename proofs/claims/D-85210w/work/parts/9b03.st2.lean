/-! ===== PHASE 2: the state: a sheet's twin is made ===== -/
section State2
variable {N x h : Nat} {σ σ' s : gMem} {W : Nat → Prop} {own own' rt rt' : Nat → Nat} {va va' : Nat → Prop} {Gs Gs' : Nat → Sh} {S S' : Sh} {a A i k : Nat}
theorem WNF : WN σ (fun _ => False) := ⟨fun f => f, fun _ f => f.elim⟩
/-- so far: k rows are cloned -/
def TwJ (σ s : gMem) (a A n m k : Nat) : Prop :=
  Kz (fun _ => False) σ s ∧ mZ s = A + 4 + k ∧ mS s ≤ mS σ + (3 + 32 + 10 + n + k * m) ∧ (mT s A = 8 ∧ mR s A 0 = A + 1 ∧ mR s A 1 = A + 2 ∧ mR s A 2 = A + 3) ∧
  (mT s (A + 1) = 100 ∧ mN s (A + 1) = mN σ (mR σ a 0) ∧ ∀ i, mI s (A + 1) i = mI σ (mR σ a 0) i) ∧ (mT s (A + 2) = 100 ∧ mN s (A + 2) = mN σ (mR σ a 1) ∧ ∀ i, mI s (A + 2) i = mI σ (mR σ a 1) i) ∧
  (mT s (A + 3) = 111 ∧ mN s (A + 3) = n ∧ ∀ r, mR s (A + 3) r = if r < k then A + 4 + r else mR σ (mR σ a 2) r) ∧
  ∀ r, r < k → mT s (A + 4 + r) = 110 ∧ mN s (A + 4 + r) = m ∧ ∀ j, mR s (A + 4 + r) j = mR σ (mR σ (mR σ a 2) r) j
theorem c_twin_l {K : gMem → Option (Nat × gMem)} {Φ : Nat × gMem → Prop} (g : gOk σ) (c : ShC σ a S) (hA : A = mZ σ) (hK : ∀ s, TwJ σ s a A S.1.1.length S.1.2.length S.1.1.length → Ev (K s) Φ) : ∀ (m k f : Nat) (s : gMem), k + m = S.1.1.length → m < f → TwJ σ s a A S.1.1.length S.1.2.length k → Ev (x9_twin_l40 N a A K f k s) Φ := by
  have n32 := c.1.2.1.2.2.1
  have ta : a < mZ σ := gOk_lt g (by rw [c.1.1]; decide)
  have tc : mR σ a 2 < mZ σ := gOk_lt g (by rw [c.2.1]; decide)
  intro m
  induction m with
  | zero =>
    intro k f s h1 h2 J
    obtain ⟨f, rfl⟩ : ∃ j, f = j + 1 := ⟨f - 1, by omega⟩
    obtain rfl : k = S.1.1.length := by omega
    obtain ⟨K1, J2, J3, ⟨J4, J5, J6, J7⟩, J8, J9, ⟨J10, J11, J12⟩, J13⟩ := J
    unfold x9_twin_l40
    rw [J7, J11]
    exact Ev.g J4 (Ev.g J10 (Ev.g (by rw [w32_i (by omega) (by omega)]; omega) (hK s ⟨K1, J2, J3, ⟨J4, J5, J6, J7⟩, J8, J9, ⟨J10, J11, J12⟩, J13⟩)))
  | succ m ih =>
    intro k f s h1 h2 J
    obtain ⟨f, rfl⟩ : ∃ j, f = j + 1 := ⟨f - 1, by omega⟩
    obtain ⟨K1, J2, J3, ⟨J4, J5, J6, J7⟩, ⟨J8, J8a, J8b⟩, ⟨J9, J9a, J9b⟩, ⟨J10, J11, J12⟩, J13⟩ := J
    have rw' := c.2.2.2 k (by omega)
    have c3 := c.2.2.1
    have eT : mT s a = 8 := by rw [(K1.2.2.1 a ta).1]; exact c.1.1
    have eR : mR s a 2 = mR σ a 2 := (K1.2.2.2 a ta (fun f => f) 2).2.2
    have eC : mT s (mR σ a 2) = 111 := by rw [(K1.2.2.1 _ tc).1]; exact c.2.1
    have eN : mN s (mR σ a 2) = S.1.1.length := by rw [(K1.2.2.1 _ tc).2]; exact c3
    have eK : mR s (mR σ a 2) k = mR σ (mR σ a 2) k := (K1.2.2.2 _ tc (fun f => f) k).2.2
    have tr : mR σ (mR σ a 2) k < mZ σ := gOk_lt g (by rw [rw'.1]; decide)
    have eT' : mT s (mR σ (mR σ a 2) k) = 110 := by rw [(K1.2.2.1 _ tr).1]; exact rw'.1
    have eN' : mN s (mR σ (mR σ a 2) k) = S.1.2.length := by rw [(K1.2.2.1 _ tr).2]; exact rw'.2.1
    have ne : mZ s ≠ A + 3 := by omega
    unfold x9_twin_l40
    rw [J7, J11, eR, eN, tn, eK]
    refine Ev.g J4 (Ev.g J10 (Ev.f (by rw [w32_i (by omega) (by omega)]; omega) (Ev.g eT (Ev.g eC (Ev.g (by omega) (Ev.g eT' (Ev.l ?_)))))))
    have tK : mT (wK s (mR σ (mR σ a 2) k) 110) (mZ s) = 110 := by rw [mT_wK, if_pos rfl]
    have nK : mN (wK s (mR σ (mR σ a 2) k) 110) (A + 3) = S.1.1.length := by rw [mN_wK, if_neg (by omega)]; exact J11
    rw [tK, nK, inc32 (by omega)]
    refine Ev.g (Or.inr (by decide)) (Ev.g (by omega) (Ev.l (ih (k + 1) f _ (by omega) (by omega) ?_)))
    have old : ∀ b, b ≠ mZ s → b ≠ A + 3 → mT (wR (wK s (mR σ (mR σ a 2) k) 110) (A + 3) k (mZ s)) b = mT s b ∧ mN (wR (wK s (mR σ (mR σ a 2) k) 110) (A + 3) k (mZ s)) b = mN s b ∧ ∀ j, mI (wR (wK s (mR σ (mR σ a 2) k) 110) (A + 3) k (mZ s)) b j = mI s b j ∧ mR (wR (wK s (mR σ (mR σ a 2) k) 110) (A + 3) k (mZ s)) b j = mR s b j := fun b hb hb' => ⟨by rw [mT_wR, mT_wK, if_neg hb], by rw [mN_wR, mN_wK, if_neg hb], fun j => ⟨by rw [mI_wR, mI_wK, if_neg hb], by rw [mR_wR, if_neg (fun z => hb' z.1), mR_wK, if_neg hb]⟩⟩
    refine ⟨(K1.wK).wR (Or.inl (by omega)), by rw [mZ_wR, mZ_wK]; omega, ?_, ?_, ?_, ?_, ⟨?_, ?_, fun r => ?_⟩, fun r hr => ?_⟩
    · rw [mS_wR, mS_wK, eN', Nat.add_mul]; omega
    · obtain ⟨q1, q2, q3⟩ := old A (by omega) (by omega)
      rw [q1, (q3 0).2, (q3 1).2, (q3 2).2]; exact ⟨J4, J5, J6, J7⟩
    · obtain ⟨q1, q2, q3⟩ := old (A + 1) (by omega) (by omega)
      exact ⟨by rw [q1]; exact J8, by rw [q2]; exact J8a, fun i => by rw [(q3 i).1]; exact J8b i⟩
    · obtain ⟨q1, q2, q3⟩ := old (A + 2) (by omega) (by omega)
      exact ⟨by rw [q1]; exact J9, by rw [q2]; exact J9a, fun i => by rw [(q3 i).1]; exact J9b i⟩
    · rw [mT_wR, mT_wK, if_neg (by omega)]; exact J10
    · rw [mN_wR, mN_wK, if_neg (by omega)]; exact J11
    · rw [mR_wR]
      by_cases e : r = k
      · rw [if_pos ⟨rfl, e⟩, if_pos (by omega)]; omega
      · rw [if_neg (fun z => e z.2), mR_wK, if_neg (by omega), J12]
        by_cases e2 : r < k
        · rw [if_pos e2, if_pos (by omega)]
        · rw [if_neg e2, if_neg (by omega)]
    · by_cases e : r = k
      · rw [e, show A + 4 + k = mZ s by omega]
        refine ⟨by rw [mT_wR]; exact tK, by rw [mN_wR, mN_wK, if_pos rfl]; exact eN', fun j => ?_⟩
        rw [mR_wR, if_neg (fun z => ne z.1), mR_wK, if_pos rfl]
        exact (K1.2.2.2 _ tr (fun f => f) j).2.2
      · obtain ⟨q1, q2, q3⟩ := old (A + 4 + r) (by omega) (by omega)
        obtain ⟨p1, p2, p3⟩ := J13 r (by omega)
        exact ⟨by rw [q1]; exact p1, by rw [q2]; exact p2, fun j => by rw [(q3 j).2]; exact p3 j⟩
/-- a sheet like another one, of cells that are new -/
def NewS (σ s : gMem) (A : Nat) (S : Sh) : Prop := ShC s A S ∧ (∀ b, ShA s A S.1.1.length b → A ≤ b) ∧ mR s A 2 = A + 3 ∧ ∀ k, k < S.1.1.length → mR s (A + 3) k = A + 4 + k
theorem NewS.ow (c : NewS σ s A S) (he : own' A = A ∧ own' (A + 3) = A ∧ ∀ k, k < S.1.1.length → own' (A + 4 + k) = A) : OwS own' s A S.1.1.length := by
  obtain ⟨c1, c2, c3, c4⟩ := c
  refine ⟨he.1, by rw [c3]; exact he.2.1, fun r hr => by rw [c3, c4 r hr]; exact he.2.2 r hr, fun r r' hr hr' e => ?_⟩
  rw [c3, c4 r hr, c4 r' hr'] at e; omega
theorem c_twin (hN : 100 ≤ N) (g : gOk σ) (z : 0 < mZ σ) (c : ShC σ a S) : Ev (x9_twin N a σ) (fun r => r.1 = mZ σ ∧ Kz (fun _ => False) σ r.2 ∧ mZ r.2 ≤ mZ σ + 36 ∧ mS r.2 ≤ mS σ + 397 ∧ NewS σ r.2 (mZ σ) S ∧ ∀ q, mZ σ ≤ q → mT r.2 q = 0 ∨ mT r.2 q = 8 ∨ mT r.2 q = 100 ∨ mT r.2 q = 110 ∨ mT r.2 q = 111) := by
  have n32 := c.1.2.1.2.2.1
  have m10 := c.1.2.2.2
  have ta : a < mZ σ := gOk_lt g (by rw [c.1.1]; decide)
  have t0 : mR σ a 0 < mZ σ := gOk_lt g (by rw [c.1.2.1.1]; decide)
  have t1 : mR σ a 1 < mZ σ := gOk_lt g (by rw [c.1.2.2.1.1]; decide)
  have tc : mR σ a 2 < mZ σ := gOk_lt g (by rw [c.2.1]; decide)
  have K0 : Kz (fun _ => False) σ (wN σ 8 3) := (Kz.rf g).wN
  have Z0 : mZ (wN σ 8 3) = mZ σ + 1 := rfl
  have S0 : mS (wN σ 8 3) = mS σ + 3 := rfl
  have A0 : mT (wN σ 8 3) (mZ σ) = 8 := by rw [mT_wN, if_pos rfl]
  unfold x9_twin
  refine Ev.l ?_
  generalize wN σ 8 3 = s2 at K0 Z0 S0 A0 ⊢
  have q0 := K0.2.2.2 a ta (fun f => f)
  refine Ev.g (by rw [(K0.2.2.1 a ta).1]; exact c.1.1) ?_
  rw [(q0 0).2.2]
  refine Ev.g (by rw [(K0.2.2.1 _ t0).1]; exact c.1.2.1.1) (Ev.l ?_)
  have K1 : Kz (fun _ => False) σ (wK s2 (mR σ a 0) 100) := K0.wK
  have Z1 : mZ (wK s2 (mR σ a 0) 100) = mZ σ + 2 := by rw [mZ_wK]; omega
  have S1 : mS (wK s2 (mR σ a 0) 100) ≤ mS σ + 3 + 32 := by rw [mS_wK, (K0.2.2.1 _ t0).2, c.1.2.1.2.1]; omega
  have A1 : mT (wK s2 (mR σ a 0) 100) (mZ σ) = 8 := by rw [mT_wK, if_neg (by omega)]; exact A0
  have B1 : mT (wK s2 (mR σ a 0) 100) (mZ σ + 1) = 100 ∧ mN (wK s2 (mR σ a 0) 100) (mZ σ + 1) = mN σ (mR σ a 0) ∧ ∀ i, mI (wK s2 (mR σ a 0) 100) (mZ σ + 1) i = mI σ (mR σ a 0) i := ⟨by rw [mT_wK, if_pos Z0.symm], by rw [mN_wK, if_pos Z0.symm]; exact (K0.2.2.1 _ t0).2, fun i => by rw [mI_wK, if_pos Z0.symm]; exact (K0.2.2.2 _ t0 (fun f => f) i).1⟩
  generalize wK s2 (mR σ a 0) 100 = s7 at K1 Z1 S1 A1 B1 ⊢
  rw [(K1.2.2.2 a ta (fun f => f) 1).2.2]
  refine Ev.g (by rw [(K1.2.2.1 _ t1).1]; exact c.1.2.2.1.1) (Ev.l ?_)
  have K2 : Kz (fun _ => False) σ (wK s7 (mR σ a 1) 100) := K1.wK
  have Z2 : mZ (wK s7 (mR σ a 1) 100) = mZ σ + 3 := by rw [mZ_wK]; omega
  have S2 : mS (wK s7 (mR σ a 1) 100) ≤ mS σ + 3 + 32 + 10 := by rw [mS_wK, (K1.2.2.1 _ t1).2, c.1.2.2.1.2.1]; omega
  have A2 : mT (wK s7 (mR σ a 1) 100) (mZ σ) = 8 := by rw [mT_wK, if_neg (by omega)]; exact A1
  have B2 : mT (wK s7 (mR σ a 1) 100) (mZ σ + 1) = 100 ∧ mN (wK s7 (mR σ a 1) 100) (mZ σ + 1) = mN σ (mR σ a 0) ∧ ∀ i, mI (wK s7 (mR σ a 1) 100) (mZ σ + 1) i = mI σ (mR σ a 0) i := ⟨by rw [mT_wK, if_neg (by omega)]; exact B1.1, by rw [mN_wK, if_neg (by omega)]; exact B1.2.1, fun i => by rw [mI_wK, if_neg (by omega)]; exact B1.2.2 i⟩
  have C2 : mT (wK s7 (mR σ a 1) 100) (mZ σ + 2) = 100 ∧ mN (wK s7 (mR σ a 1) 100) (mZ σ + 2) = mN σ (mR σ a 1) ∧ ∀ i, mI (wK s7 (mR σ a 1) 100) (mZ σ + 2) i = mI σ (mR σ a 1) i := ⟨by rw [mT_wK, if_pos Z1.symm], by rw [mN_wK, if_pos Z1.symm]; exact (K1.2.2.1 _ t1).2, fun i => by rw [mI_wK, if_pos Z1.symm]; exact (K1.2.2.2 _ t1 (fun f => f) i).1⟩
  generalize wK s7 (mR σ a 1) 100 = s11 at K2 Z2 S2 A2 B2 C2 ⊢
  rw [(K2.2.2.2 a ta (fun f => f) 2).2.2]
  refine Ev.g (by rw [(K2.2.2.1 _ tc).1]; exact c.2.1) (Ev.l ?_)
  have K3 : Kz (fun _ => False) σ (wK s11 (mR σ a 2) 111) := K2.wK
  have Z3 : mZ (wK s11 (mR σ a 2) 111) = mZ σ + 4 := by rw [mZ_wK]; omega
  have S3 : mS (wK s11 (mR σ a 2) 111) ≤ mS σ + 3 + 32 + 10 + S.1.1.length := by rw [mS_wK, (K2.2.2.1 _ tc).2, c.2.2.1]; omega
  have A3 : mT (wK s11 (mR σ a 2) 111) (mZ σ) = 8 := by rw [mT_wK, if_neg (by omega)]; exact A2
  have B3 : mT (wK s11 (mR σ a 2) 111) (mZ σ + 1) = 100 ∧ mN (wK s11 (mR σ a 2) 111) (mZ σ + 1) = mN σ (mR σ a 0) ∧ ∀ i, mI (wK s11 (mR σ a 2) 111) (mZ σ + 1) i = mI σ (mR σ a 0) i := ⟨by rw [mT_wK, if_neg (by omega)]; exact B2.1, by rw [mN_wK, if_neg (by omega)]; exact B2.2.1, fun i => by rw [mI_wK, if_neg (by omega)]; exact B2.2.2 i⟩
  have C3 : mT (wK s11 (mR σ a 2) 111) (mZ σ + 2) = 100 ∧ mN (wK s11 (mR σ a 2) 111) (mZ σ + 2) = mN σ (mR σ a 1) ∧ ∀ i, mI (wK s11 (mR σ a 2) 111) (mZ σ + 2) i = mI σ (mR σ a 1) i := ⟨by rw [mT_wK, if_neg (by omega)]; exact C2.1, by rw [mN_wK, if_neg (by omega)]; exact C2.2.1, fun i => by rw [mI_wK, if_neg (by omega)]; exact C2.2.2 i⟩
  have D3 : mT (wK s11 (mR σ a 2) 111) (mZ σ + 3) = 111 ∧ mN (wK s11 (mR σ a 2) 111) (mZ σ + 3) = S.1.1.length ∧ ∀ r, mR (wK s11 (mR σ a 2) 111) (mZ σ + 3) r = mR σ (mR σ a 2) r := ⟨by rw [mT_wK, if_pos Z2.symm], by rw [mN_wK, if_pos Z2.symm, (K2.2.2.1 _ tc).2]; exact c.2.2.1, fun r => by rw [mR_wK, if_pos Z2.symm]; exact (K2.2.2.2 _ tc (fun f => f) r).2.2⟩
  generalize wK s11 (mR σ a 2) 111 = s15 at K3 Z3 S3 A3 B3 C3 D3 ⊢
  rw [Z0, Z1, Z2]
  have eI : x9_init_2 (mZ σ) (mZ σ + 1) (mZ σ + 2) (mZ σ + 3) s15 = some (wR (wR (wR s15 (mZ σ) 0 (mZ σ + 1)) (mZ σ) 1 (mZ σ + 2)) (mZ σ) 2 (mZ σ + 3)) := by unfold x9_init_2; rw [if_pos A3]; rfl
  have rA : ∀ j, mR (wR (wR (wR s15 (mZ σ) 0 (mZ σ + 1)) (mZ σ) 1 (mZ σ + 2)) (mZ σ) 2 (mZ σ + 3)) (mZ σ) j = if j = 2 then mZ σ + 3 else if j = 1 then mZ σ + 2 else if j = 0 then mZ σ + 1 else mR s15 (mZ σ) j := fun j => by
    rw [mR_wR, mR_wR, mR_wR]
    by_cases e : j = 2
    · rw [if_pos ⟨rfl, e⟩, if_pos e]
    · rw [if_neg (fun z => e z.2), if_neg e]
      by_cases e : j = 1
      · rw [if_pos ⟨rfl, e⟩, if_pos e]
      · rw [if_neg (fun z => e z.2), if_neg e]
        by_cases e : j = 0
        · rw [if_pos ⟨rfl, e⟩, if_pos e]
        · rw [if_neg (fun z => e z.2), if_neg e]
  have rB : ∀ b j, b ≠ mZ σ → mR (wR (wR (wR s15 (mZ σ) 0 (mZ σ + 1)) (mZ σ) 1 (mZ σ + 2)) (mZ σ) 2 (mZ σ + 3)) b j = mR s15 b j := fun b j hb => by
    rw [mR_wR, if_neg (fun z => hb z.1), mR_wR, if_neg (fun z => hb z.1), mR_wR, if_neg (fun z => hb z.1)]
  have KK : Kz (fun _ => False) σ (wR (wR (wR s15 (mZ σ) 0 (mZ σ + 1)) (mZ σ) 1 (mZ σ + 2)) (mZ σ) 2 (mZ σ + 3)) := ((K3.wR (Or.inl (Nat.le_refl _))).wR (Or.inl (Nat.le_refl _))).wR (Or.inl (Nat.le_refl _))
  refine Ev.e eI (c_twin_l (N := N) (S := S) g c rfl (fun s J => Ev.r ?_) S.1.1.length 0 N _ (by omega) (by omega) ⟨KK, Z3, ?_, ⟨A3, by rw [rA]; rfl, by rw [rA]; rfl, by rw [rA]; rfl⟩, B3, C3, ⟨D3.1, D3.2.1, fun r => ?_⟩, fun r hr => absurd hr (Nat.not_lt_zero _)⟩)
  · obtain ⟨K4, J2, J3, ⟨J4, J5, J6, J7⟩, J8, J9, ⟨J10, J11, J12⟩, J13⟩ := J
    have nm : S.1.1.length * S.1.2.length ≤ 320 := Nat.le_trans (Nat.mul_le_mul n32 m10) (by decide)
    refine ⟨rfl, K4, by show mZ s ≤ _; omega, by show mS s ≤ _; omega, ⟨⟨⟨J4, ?_, ?_, m10⟩, by rw [J7]; exact J10, by rw [J7]; exact J11, fun r hr => ?_⟩, fun b hb => ?_, J7, fun k hk => by rw [J12, if_pos hk]⟩, fun q hq => ?_⟩
    · rw [J5]; exact ⟨J8.1, by rw [J8.2.1]; exact c.1.2.1.2.1, n32, fun i hi => by rw [J8.2.2]; exact c.1.2.1.2.2.2 i hi⟩
    · rw [J6]; exact ⟨J9.1, by rw [J9.2.1]; exact c.1.2.2.1.2.1, c.1.2.2.1.2.2.1, fun i hi => by rw [J9.2.2]; exact c.1.2.2.1.2.2.2 i hi⟩
    · rw [J7, J12, if_pos hr]
      obtain ⟨p1, p2, p3⟩ := J13 r hr
      refine ⟨p1, p2, fun cc hc => ?_⟩
      rw [p3]
      exact ((c.2.2.2 r hr).2.2 cc hc).kp K4 g z WNF
    · rcases hb with rfl | rfl | rfl | rfl | ⟨r, hr, rfl⟩
      · exact Nat.le_refl _
      · rw [J5]; omega
      · rw [J6]; omega
      · rw [J7]; omega
      · rw [J7, J12, if_pos hr]; omega
    · show mT s q = 0 ∨ mT s q = 8 ∨ mT s q = 100 ∨ mT s q = 110 ∨ mT s q = 111
      rcases (by omega : q = mZ σ ∨ q = mZ σ + 1 ∨ q = mZ σ + 2 ∨ q = mZ σ + 3 ∨ (mZ σ + 4 ≤ q ∧ q < mZ σ + 4 + S.1.1.length) ∨ mZ s ≤ q) with e | e | e | e | e | e
      · rw [e, J4]; decide
      · rw [e, J8.1]; decide
      · rw [e, J9.1]; decide
      · rw [e, J10]; decide
      · have := (J13 (q - (mZ σ + 4)) (by omega)).1
        rw [show mZ σ + 4 + (q - (mZ σ + 4)) = q by omega] at this
        rw [this]; decide
      · rw [K4.ok q e]; decide
  · show mS s15 ≤ _; omega
  · rw [rB _ _ (by omega), if_neg (by omega)]; exact D3.2.2 r
end State2
