/-! ===== PHASE 2: the act commit: new values, a copy of values, new things beside the old -/
section State39
variable {N x h u b nv nv' pa un fs i j t s k n q p a : Nat} {σ σ' m τ τ' r f : gMem} {P : Nat → Nat → Prop} {W : Nat → Prop} {own own' rt : Nat → Nat} {S S' : Sh} {Gs Gs' : Nat → Sh} {g g' : Nat → Nat → Vl} {V : Nat → Vl} {va : Nat → Prop}
theorem Kz.wCL {s : gMem} {b sp dp : Nat} (K : Kz W σ s) (h : mZ σ ≤ b ∨ W b) : Kz W σ (wCL s a sp b dp n) :=
  ⟨K.1, K.2.1, K.2.2.1, fun q hq hw k => ⟨(K.2.2.2 q hq hw k).1, by rw [mL_wCL, if_neg (fun z => by rcases h with h | h; omega; exact hw (by rw [z.1]; exact h))]; exact (K.2.2.2 q hq hw k).2.1, (K.2.2.2 q hq hw k).2.2⟩⟩
/-- new values -/
def mkV (σ : gMem) : gMem := wR (wN (wR (wN (wR (wN (wR (wN (wN σ 2 4) 102 320) (mZ σ) 0 (mZ σ + 1)) 102 320) (mZ σ) 1 (mZ σ + 2)) 102 7680) (mZ σ) 2 (mZ σ + 3)) 101 320) (mZ σ) 3 (mZ σ + 4)
theorem mkV_T (b : Nat) : mT (mkV σ) b = if b = mZ σ + 4 then 101 else if b = mZ σ + 3 then 102 else if b = mZ σ + 2 then 102 else if b = mZ σ + 1 then 102 else if b = mZ σ then 2 else mT σ b := rfl
theorem mkV_N (b : Nat) : mN (mkV σ) b = if b = mZ σ + 4 then 320 else if b = mZ σ + 3 then 7680 else if b = mZ σ + 2 then 320 else if b = mZ σ + 1 then 320 else if b = mZ σ then 4 else mN σ b := rfl
theorem mkV_Z : mZ (mkV σ) = mZ σ + 5 ∧ mS (mkV σ) = mS σ + 4 + 320 + 320 + 7680 + 320 := by
  unfold mkV
  rw [mS_wR, mS_wN, mS_wR, mS_wN, mS_wR, mS_wN, mS_wR, mS_wN, mS_wN]
  exact ⟨rfl, rfl⟩
theorem mkV_K (K : Kz W σ m) : Kz W σ (mkV m) :=
  have h : mZ σ ≤ mZ m ∨ W (mZ m) := Or.inl K.1
  (((((((K.wN.wN).wR h).wN).wR h).wN).wR h).wN).wR h
theorem c_init2 : x2_init (mZ σ) (wN σ 2 4) = some (mkV σ) := by
  unfold x2_init
  rw [if_pos (show mT (wN σ 2 4) (mZ σ) = 2 by rw [mT_wN, if_pos rfl]), if_pos (by decide)]
  rfl
/-- what values look like, unfilled -/
def VLy (σ : gMem) (q : Nat) : Prop := mT σ q = 2 ∧ mR σ q 0 = q + 1 ∧ mR σ q 1 = q + 2 ∧ mR σ q 2 = q + 3 ∧ mR σ q 3 = q + 4 ∧ mT σ (q + 1) = 102 ∧ mN σ (q + 1) = 320 ∧ mT σ (q + 2) = 102 ∧ mN σ (q + 2) = 320 ∧ mT σ (q + 3) = 102 ∧ mN σ (q + 3) = 7680 ∧ mT σ (q + 4) = 101 ∧ mN σ (q + 4) = 320
theorem mkV_ly : VLy (mkV σ) (mZ σ) := by
  have a1 : ¬ mZ σ = mZ σ + 1 := by omega
  have a2 : ¬ mZ σ = mZ σ + 1 + 1 := by omega
  have a3 : ¬ mZ σ = mZ σ + 1 + 1 + 1 := by omega
  have a4 : ¬ mZ σ = mZ σ + 1 + 1 + 1 + 1 := by omega
  refine ⟨?_, ?_, ?_, ?_, ?_, ?_, ?_, ?_, ?_, ?_, ?_, ?_, ?_⟩
  · rw [mkV_T]; simp
  · unfold mkV; simp [mR_wR, mR_wN, mZ_wN, mZ_wR, a1, a2, a3, a4]
  · unfold mkV; simp [mR_wR, mR_wN, mZ_wN, mZ_wR, a1, a2, a3, a4]
  · unfold mkV; simp [mR_wR, mR_wN, mZ_wN, mZ_wR, a1, a2, a3, a4]
  · unfold mkV; simp [mR_wR, mR_wN, mZ_wN, mZ_wR, a1, a2, a3, a4]
  · rw [mkV_T]; simp
  · rw [mkV_N]; simp
  · rw [mkV_T]; simp
  · rw [mkV_N]; simp
  · rw [mkV_T]; simp
  · rw [mkV_N]; simp
  · rw [mkV_T]; simp
  · rw [mkV_N]; simp
theorem VLy.kp (k : VLy σ q) (K : Kz W σ m) (ok : gOk σ) (w : ¬ W q) : VLy m q := by
  obtain ⟨k1, k2, k3, k4, k5, k6, k7, k8, k9, k10, k11, k12, k13⟩ := k
  have t : mT σ q ≠ 0 := by rw [k1]; decide
  exact ⟨by rw [K.tag ok t]; exact k1, by rw [K.rR ok t w]; exact k2, by rw [K.rR ok t w]; exact k3, by rw [K.rR ok t w]; exact k4, by rw [K.rR ok t w]; exact k5, by rw [K.tag ok (by rw [k6]; decide)]; exact k6, by rw [K.len ok (by rw [k6]; decide)]; exact k7, by rw [K.tag ok (by rw [k8]; decide)]; exact k8, by rw [K.len ok (by rw [k8]; decide)]; exact k9, by rw [K.tag ok (by rw [k10]; decide)]; exact k10, by rw [K.len ok (by rw [k10]; decide)]; exact k11, by rw [K.tag ok (by rw [k12]; decide)]; exact k12, by rw [K.len ok (by rw [k12]; decide)]; exact k13⟩
theorem VOk.l24 {v : Vl} (k : VOk v) : v.2.2.length ≤ 24 := by
  rcases k with e | ⟨n, e, -⟩ | ⟨t, e, h, -⟩ | ⟨b, e⟩ | ⟨n, e, -⟩
  · rw [e]; decide
  · rw [e]; show (0 : Nat) ≤ 24; decide
  · rw [e]; exact h
  · rw [e]; cases b <;> decide
  · rw [e]; show (0 : Nat) ≤ 24; decide
/-- values are copied -/
theorem c_copy2 (v : VV m p V) (k : VLy m q) (d : p + 4 < q) (ok : gOk m) : Ev (x2_copy q p m) (fun s => VV s q V ∧ Kz (fun a => q + 1 ≤ a ∧ a ≤ q + 4) m s ∧ mZ s = mZ m ∧ mS s = mS m ∧ mR s = mR m ∧ mT s = mT m) := by
  obtain ⟨v1, v2, v3, v4, v5, v6, v7, v8, v9, v10, v11, v12, v13, v14⟩ := v
  obtain ⟨k1, k2, k3, k4, k5, k6, k7, k8, k9, k10, k11, k12, k13⟩ := k
  obtain ⟨s, hs⟩ : ∃ s, s = wCI (wCL (wCI (wCI m (p + 1) 0 (q + 1) 0 320) (p + 2) 0 (q + 2) 0 320) (p + 4) 0 (q + 4) 0 320) (p + 3) 0 (q + 3) 0 7680 := ⟨_, rfl⟩
  unfold x2_copy
  refine Ev.g v1 (Ev.g k1 (Ev.g (by rw [v2]; exact v6) (Ev.g (by rw [k2]; exact k6) (Ev.g (by show ((0 : Int) ≤ 0 ∧ (0 : Int) ≤ 0 ∧ (0 : Int) ≤ 320) ∧ (0 : Int) + 320 ≤ ((mN m (mR m p 0) : Nat) : Int) ∧ (0 : Int) + 320 ≤ ((mN m (mR m q 0) : Nat) : Int); rw [v2, k2, v7, k7]; decide) (Ev.l ?_)))))
  refine Ev.g (by show mT m (mR m p 1) = 102; rw [v3]; exact v8) (Ev.g (by show mT m (mR m q 1) = 102; rw [k3]; exact k8) (Ev.g (by show ((0 : Int) ≤ 0 ∧ (0 : Int) ≤ 0 ∧ (0 : Int) ≤ 320) ∧ (0 : Int) + 320 ≤ ((mN m (mR m p 1) : Nat) : Int) ∧ (0 : Int) + 320 ≤ ((mN m (mR m q 1) : Nat) : Int); rw [v3, k3, v9, k9]; decide) (Ev.l ?_)))
  refine Ev.g (by show mT m (mR m p 3) = 101; rw [v5]; exact v12) (Ev.g (by show mT m (mR m q 3) = 101; rw [k5]; exact k12) (Ev.g (by show ((0 : Int) ≤ 0 ∧ (0 : Int) ≤ 0 ∧ (0 : Int) ≤ 320) ∧ (0 : Int) + 320 ≤ ((mN m (mR m p 3) : Nat) : Int) ∧ (0 : Int) + 320 ≤ ((mN m (mR m q 3) : Nat) : Int); rw [v5, k5, v13, k13]; decide) (Ev.l ?_)))
  refine Ev.g (by show mT m (mR m p 2) = 102; rw [v4]; exact v10) (Ev.g (by show mT m (mR m q 2) = 102; rw [k4]; exact k10) (Ev.g (by show ((0 : Int) ≤ 0 ∧ (0 : Int) ≤ 0 ∧ (0 : Int) ≤ 7680) ∧ (0 : Int) + 7680 ≤ ((mN m (mR m p 2) : Nat) : Int) ∧ (0 : Int) + 7680 ≤ ((mN m (mR m q 2) : Nat) : Int); rw [v4, k4, v11, k11]; decide) (Ev.l ?_)))
  show Ev (some (wCI (wCL (wCI (wCI m (mR m p 0) 0 (mR m q 0) 0 320) (mR m p 1) 0 (mR m q 1) 0 320) (mR m p 3) 0 (mR m q 3) 0 320) (mR m p 2) 0 (mR m q 2) 0 7680)) _
  rw [v2, k2, v3, k3, v4, k4, v5, k5, ← hs]
  refine Ev.r ⟨?_, ?_, ?_, by rw [hs]; rfl, by rw [hs]; rfl, by rw [hs]; rfl⟩
  · refine ⟨by rw [hs]; exact k1, by rw [hs]; exact k2, by rw [hs]; exact k3, by rw [hs]; exact k4, by rw [hs]; exact k5, by rw [hs]; exact k6, by rw [hs]; exact k7, by rw [hs]; exact k8, by rw [hs]; exact k9, by rw [hs]; exact k10, by rw [hs]; exact k11, by rw [hs]; exact k12, by rw [hs]; exact k13, fun k hk => ?_⟩
    obtain ⟨o, z1, z2, z3, z4⟩ := v14 k hk
    have l24 := o.l24
    refine ⟨o, ?_, ?_, ?_, fun i hi => ?_⟩
    · rw [hs, mI_wCI, if_neg (by omega), mI_wCL, mI_wCI, if_neg (by omega), mI_wCI, if_pos (by omega), Nat.zero_add, Nat.sub_zero]; exact z1
    · rw [hs, mI_wCI, if_neg (by omega), mI_wCL, mI_wCI, if_pos (by omega), Nat.zero_add, Nat.sub_zero, mI_wCI, if_neg (by omega)]; exact z2
    · rw [hs, mL_wCI, mL_wCL, if_pos (by omega), Nat.zero_add, Nat.sub_zero, mL_wCI, mL_wCI]; exact z3
    · rw [hs, mI_wCI, if_pos (by omega), Nat.zero_add, Nat.sub_zero, mI_wCL, mI_wCI, if_neg (by omega), mI_wCI, if_neg (by omega)]; exact z4 i hi
  · rw [hs]
    have K0 : Kz (fun a => q + 1 ≤ a ∧ a ≤ q + 4) m m := Kz.rf ok
    exact ((((K0.wCI (Or.inr ⟨by omega, by omega⟩)).wCI (Or.inr ⟨by omega, by omega⟩)).wCL (Or.inr ⟨by omega, by omega⟩)).wCI (Or.inr ⟨by omega, by omega⟩))
  · rw [hs]; rfl
/-- who owns what is not there yet -/
theorem Rl.ownC (R : Rl x h t nv pa un fs Gs g own rt σ τ) (eo : ∀ b, b < mZ σ → own' b = own b) : Rl x h t nv pa un fs Gs g own' rt σ τ := by
  have ok := R.1.1.ok
  obtain ⟨⟨r1, r2, r3, ⟨s1, s2⟩, r5⟩, R'⟩ := R
  refine ⟨⟨r1, r2, r3, ⟨fun i hi => ?_, s2⟩, r5⟩, R'⟩
  obtain ⟨c1, ⟨o1, o2, o3, o4⟩, c3⟩ := s1 i hi
  exact ⟨c1, ⟨by rw [eo _ (gOk_lt ok (by rw [c1.1.1]; decide))]; exact o1, by rw [eo _ (gOk_lt ok (by rw [c1.2.1]; decide))]; exact o2, fun r hr => by rw [eo _ (gOk_lt ok (by rw [(c1.2.2.2 r hr).1]; decide))]; exact o3 r hr, o4⟩, c3⟩
/-- new things beside the old ones change nothing -/
theorem Rl.new (R : Rl x h t nv pa un fs Gs g own rt σ τ) (K : Kz (fun _ => False) σ σ') (np : ∀ q, mZ σ ≤ q → mT σ' q = 18 → mR σ' q 1 ≠ x + 1430) : Rl x h t nv pa un fs Gs g own rt σ' τ := by
  have l := R.1.1
  have lx : x < mZ σ := gOk_lt l.ok (by rw [l.1.1]; decide)
  have eR : mR σ' x = mR σ x := funext fun j => (K.2.2.2 x lx (fun f => f) j).2.2
  have eI : mI σ' x = mI σ x := funext fun j => (K.2.2.2 x lx (fun f => f) j).1
  have ly : LYc x σ' := l.kp K (fun f => f) (fun _ f => f.elim) (fun _ _ f => f.elim) (fun q hq ht => np q (hq.resolve_right (fun f => f)) ht)
  obtain ⟨V, hV⟩ := R.1.2.2.2.2.2.2
  refine R.upd K WNF (fun _ f => f.elim) ⟨fun f => f, fun f => f, fun f => f, fun f => f, fun f => f, fun f => f, fun f => f⟩ ly eR (fun j _ => by rw [eI]) ⟨V, hV.kp K l.ok (fun _ _ f => f)⟩ (R.2.2.2.2.1.kp K l.ok (fun _ _ f => f) (by rw [eI])) (Ex.rf (P := fun _ _ => False)) (fun _ _ f => f.elim) ?_ ?_
  · obtain ⟨n, a1, a2, a3, a4⟩ := R.2.2.1.1
    exact ⟨n, a1, by rw [eI]; exact a2, a3, fun j hj => by rw [K.rI l.ok (by rw [(l.T (1, 102, 400) (by decide)).1]; decide) (fun f => f)]; exact a4 j hj⟩
  · have := R.2.2.1.2.1
    unfold Rfl at this ⊢
    rw [eI]; exact this
/-- sheets stay, where what is written has other tags -/
theorem SC.kpG (K : Kz W σ σ') (ok : gOk σ) (z : 0 < mZ σ) (n : WN σ W) (o : ∀ a, W a → OutS x h a → mT σ a ≠ 8 ∧ mT σ a ≠ 100 ∧ mT σ a ≠ 110 ∧ mT σ a ≠ 111) (c : SC x h own rt va Gs σ) : SC x h own rt va Gs σ' := by
  refine ⟨fun i hi => ?_, c.2⟩
  obtain ⟨c1, c2, c3⟩ := c.1 i hi
  have wn : ∀ b, ShA σ (rt i) (Gs i).1.1.length b → ¬ W b := fun b hb w => by
    have := o b w (c3 b hb)
    have := shA_tag c1 hb
    omega
  have wa := wn _ (Or.inl rfl)
  have wc := wn _ (Or.inr (Or.inr (Or.inr (Or.inl rfl))))
  exact ⟨c1.kp K ok z n wn, c2.kp K ok c1 wa wc, fun b hb => c3 b ((ShA.kp K ok c1 wa wc).mp hb)⟩
/-- values stay what they should be, when a version more is there -/
theorem IsV.nw {i' : Nat} (k : IsV Gs g i V) (R : Rl x h t nv pa un fs Gs g own rt σ τ) (hi : rtV nv pa un i) (e : Gs' i' = Gs i) (e2 : ∀ k, k < nv → Gs' (81 + k) = Gs (81 + k)) (e3 : ∀ k, k < nv → g' k = g k) : IsV Gs' g' i' V := by
  unfold IsV at k ⊢
  rw [e]
  have sT := R.shT hi
  have sP := R.shP hi
  have len := R.2.1.len hi
  obtain ⟨-, n1, n4, pu, -⟩ := R.c5
  have vle : Vi nv i ≤ nv := by unfold Vi; unfold rtV at hi; split <;> omega
  refine IsVal.cg (V := (nv : Int)) (f := fun ver : Int => if ver = -1 then (Gs i).1 else (Gs (81 + ver.toNat)).1) (g := fun ver : Int => if ver = -1 then V else g ver.toNat) (fun c hc ne => ⟨(sT.2.2.2.2 c hc).wf ne, fun p hp => by have := sP.2.2.2.2.2.2 c hc p hp; omega⟩) ?_ ?_ (fun ver h1 h2 => ?_) (fun ver h1 h2 => ?_) (fun ver h1 h2 c hc => ?_) ?_ k
  · (try dsimp only)
    rw [if_pos rfl]; exact len.2
  · (try dsimp only)
    rw [if_pos rfl, if_pos rfl]
  · (try dsimp only)
    rw [if_neg (by omega), if_neg (by omega), e2 _ (by omega)]
  · (try dsimp only)
    rw [if_neg (by omega)]
    exact (R.2.1.len (show rtV nv pa un (81 + ver.toNat) by unfold rtV; omega)).2
  · (try dsimp only)
    rw [if_neg (by omega), if_neg (by omega), e3 _ (by omega)]
  · (try dsimp only)
    rw [if_pos rfl, if_pos rfl]
end State39
