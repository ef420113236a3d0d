/-! ===== PHASE 2: reading: sums, chains, tests ===== -/
section Read10
variable {N x h hi all nv sh M lu0 b b' p q op pa pi : Nat} {bA : Nat → Int} {f : Int → List Int × List Int} {σ σ' σ'' τ τ' τ'' s σ0 τ0 : gMem} {p0 pa0 nd : Nat} {W : Nat → gMem → Option gR} {Wt : gMem → Option gMem}
theorem sum_l (hN : 500 ≤ N) (hW : RdG x h hi all nv sh M lu0 bA f op (x6_product N W (x + 1429)) (tw_readProduct N Wt h)) : ∀ (m fu fu' nd q pa : Nat) (σ τ : gMem), OkN x h hi all nv sh M lu0 bA f σ0 τ0 p0 op pa0 pi False nd q q pa σ τ → hi ≤ q + m → m < fu → m < fu' → E2 (x6_sum_l10 N W (x + 1429) (fun y22 s23 => some (.inl (some (vR y22)), s23)) fu nd (bA q) σ) (tw_readSum_l4 N Wt h (fun s17 => some s17) fu' τ) (Out2 x h hi all nv sh M lu0 bA f σ0 τ0 p0 op pa0 pi) := by
  intro m
  induction m with
  | zero =>
    intro fu fu' nd q pa σ τ o h1 h2 h3
    obtain ⟨fu, rfl⟩ : ∃ j, fu = j + 1 := ⟨fu - 1, by omega⟩
    obtain ⟨fu', rfl⟩ : ∃ j, fu' = j + 1 := ⟨fu' - 1, by omega⟩
    have bq : bA q = -1 := o.1.1.1.2.2.2.2.2.2.2.2.1 q (by omega)
    unfold x6_sum_l10 tw_readSum_l4
    rw [t_isSignOf o.1.2.2.2.1.2.1 o.1.2.2.2.1.2.2.2.2]
    rw [if_neg (show ¬ ((sgO (bA q) (bA (q + 1))).1 = 9 ∧ 17 ≤ (sgO (bA q) (bA (q + 1))).2.1 ∧ (sgO (bA q) (bA (q + 1))).2.1 ≤ 18) from fun z => by have := sgO_inv z.1; omega)]
    exact E2.lf (by omega) (E2.lg (by omega) (E2.re rfl (E2.rg rfl (E2.r (OutN.ok o)))))
  | succ m ih =>
    intro fu fu' nd q pa σ τ o h1 h2 h3
    obtain ⟨fu, rfl⟩ : ∃ j, fu = j + 1 := ⟨fu - 1, by omega⟩
    obtain ⟨fu', rfl⟩ : ∃ j, fu' = j + 1 := ⟨fu' - 1, by omega⟩
    have S := o.1
    have tx := S.1.1.2.2.2.2.2.2.2
    have h4 : hi ≤ 400 := by have := tx.2.2.1; have := tx.2.2.2; omega
    have t2 := S.2.2.2.1.2.1
    unfold x6_sum_l10 tw_readSum_l4
    rw [t_isSignOf t2 S.2.2.2.1.2.2.2.2]
    by_cases c : bA q = 43 ∨ bA q = 45
    · have hq : q < hi := tx.lt (by omega)
      have GO : ∀ (k : Nat) (v2 : Int), k < 12 → bA q = v2 → sgO v2 (bA (q + 1)) = (9, (((10 + k : Nat) : Int), 1)) → E2 (x6_sum_l10_j48 N W (x + 1429) nd (mR (wI σ (x + 1429) 6 ((q + 1 : Nat) : Int)) 0 (20 + k)) (x + 1429) (x6_sum_l10 N W (x + 1429) (fun y22 s23 => some (.inl (some (vR y22)), s23)) fu) (fun y22 s23 => some (.inl (some (vR y22)), s23)) (wI σ (x + 1429) 6 ((q + 1 : Nat) : Int))) ((tw_next N h τ).bind (fun x7 => (tw_readProduct N Wt h x7).bind (fun x10 => (tw_part N h (mI τ h 50) 2 x10).bind (fun x13 => tw_readSum_l4 N Wt h (fun s17 => some s17) fu' (x13.2))))) (Out2 x h hi all nv sh M lu0 bA f σ0 τ0 p0 op pa0 pi) := by
        intro k v2 hk hv e
        obtain ⟨e50, e49⟩ := sg_at hv e t2
        unfold x6_sum_l10_j48
        rw [e50]
        refine E2.lg S.1.1.1 ?_
        refine bin_step (Kc := fun nd' s' => (x6_peek N (x + 1429) s').bind (fun x19 => x6_sum_l10 N W (x + 1429) (fun y22 s23 => some (.inl (some (vR y22)), s23)) fu nd' x19.1 x19.2)) (Kt := fun s => tw_readSum_l4 N Wt h (fun s17 => some s17) fu' s) hN o e49 (by omega) (by omega) hk (fun σ τ p q pa S => hW σ τ p q pa pi S) (fun y s hs hr => ?_) (fun nd' p' q' pa' σ' τ' o' hp' => ?_) (fun σ' τ' e => ?_)
        · rw [if_pos hs]; rfl
        · refine E2.lc (o'.pk hN) (fun r z => ?_)
          obtain ⟨z1, z2⟩ := z
          rw [z1]
          exact ih fu fu' nd' q' pa' r.2 τ' z2 (by have := o'.1.2.2.2.1.1.1; omega) (by omega) (by omega)
        · obtain ⟨fu', rfl⟩ : ∃ j, fu' = j + 1 := ⟨fu' - 1, by omega⟩
          unfold tw_readSum_l4
          rw [fl_sg e.2.2.1]
          exact E2.re rfl (E2.rg rfl (E2.r (OutN.er e)))
      have TW : ∀ {k : Int}, sgO (bA q) (bA (q + 1)) = (9, (k, 1)) → 17 ≤ k ∧ k ≤ 18 → E2 (x6_sum_l10_j22 N W (x + 1429) nd (bA q) (x6_sum_l10 N W (x + 1429) (fun y22 s23 => some (.inl (some (vR y22)), s23)) fu) (fun y22 s23 => some (.inl (some (vR y22)), s23)) σ) ((tw_next N h τ).bind (fun x7 => (tw_readProduct N Wt h x7).bind (fun x10 => (tw_part N h (mI τ h 50) 2 x10).bind (fun x13 => tw_readSum_l4 N Wt h (fun s17 => some s17) fu' (x13.2))))) (Out2 x h hi all nv sh M lu0 bA f σ0 τ0 p0 op pa0 pi) → E2 (x6_sum_l10_j22 N W (x + 1429) nd (bA q) (x6_sum_l10 N W (x + 1429) (fun y22 s23 => some (.inl (some (vR y22)), s23)) fu) (fun y22 s23 => some (.inl (some (vR y22)), s23)) σ) ((some (if (sgO (bA q) (bA (q + 1))).1 = 9 ∧ 17 ≤ (sgO (bA q) (bA (q + 1))).2.1 ∧ (sgO (bA q) (bA (q + 1))).2.1 ≤ 18 then (1 : Int) else 0)).bind (fun x4 => if x4 = 0 then some τ else (tw_next N h τ).bind (fun x7 => (tw_readProduct N Wt h x7).bind (fun x10 => (tw_part N h (mI τ h 50) 2 x10).bind (fun x13 => tw_readSum_l4 N Wt h (fun s17 => some s17) fu' (x13.2)))))) (Out2 x h hi all nv sh M lu0 bA f σ0 τ0 p0 op pa0 pi) := by
        intro k e r y
        rw [e, if_pos ⟨rfl, r⟩]
        exact E2.re rfl (E2.rf (by decide) y)
      have J : ∀ (v2 : Int), bA q = v2 → E2 (x6_sum_l10_j22 N W (x + 1429) nd (bA q) (x6_sum_l10 N W (x + 1429) (fun y22 s23 => some (.inl (some (vR y22)), s23)) fu) (fun y22 s23 => some (.inl (some (vR y22)), s23)) σ) ((tw_next N h τ).bind (fun x7 => (tw_readProduct N Wt h x7).bind (fun x10 => (tw_part N h (mI τ h 50) 2 x10).bind (fun x13 => tw_readSum_l4 N Wt h (fun s17 => some s17) fu' (x13.2))))) (Out2 x h hi all nv sh M lu0 bA f σ0 τ0 p0 op pa0 pi) := by
        intro v2 hv
        unfold x6_sum_l10_j22
        rw [S.2.2.1.1, inc32 (by omega)]
        refine E2.lg S.1.1.1 (E2.ll ?_)
        by_cases c1 : bA q = 43
        · exact E2.lf (fun z => z c1) (GO 7 43 (by decide) c1 rfl)
        · exact E2.lg c1 (GO 8 45 (by decide) (by omega) rfl)
      by_cases c1 : bA q = 43
      · exact E2.lg c1 (TW (k := 17) (by rw [c1]; rfl) (by decide) (J _ rfl))
      · have c3 : bA q = 45 := by omega
        exact E2.lf c1 (E2.lf (fun z => z c3) (TW (k := 18) (by rw [c3]; rfl) (by decide) (J _ rfl)))
    · have n9 : ¬ ((sgO (bA q) (bA (q + 1))).1 = 9 ∧ 17 ≤ (sgO (bA q) (bA (q + 1))).2.1 ∧ (sgO (bA q) (bA (q + 1))).2.1 ≤ 18) := fun z => by have := sgO_inv z.1; omega
      rw [if_neg n9]
      exact E2.lf (by omega) (E2.lg (by omega) (E2.re rfl (E2.rg rfl (E2.r (OutN.ok o)))))
theorem rd_sum (hN : 500 ≤ N) (hW : RdG x h hi all nv sh M lu0 bA f op (W (x + 1429)) Wt) : RdG x h hi all nv sh M lu0 bA f op (x6_sum N W (x + 1429)) (tw_readSum N Wt h) := by
  intro σ τ p q pa pi S
  have tx := S.1.1.2.2.2.2.2.2.2
  have h4 : hi ≤ 400 := by have := tx.2.2.1; have := tx.2.2.2; omega
  unfold x6_sum tw_readSum
  refine E2.lg S.1.1.1 (E2.cc (rd_product hN hW _ _ _ _ _ _ S) (fun a r2 o => o.on (fun nd p1 q1 pa1 o1 => ?_) (fun e => ?_)))
  · refine E2.lc (o1.pk hN) (fun r z => ?_)
    rw [z.1]
    exact sum_l hN (rd_product hN hW) 400 N N nd q1 pa1 r.2 r2 z.2 (by omega) (by omega) (by omega)
  · obtain ⟨N', rfl⟩ : ∃ j, N = j + 1 := ⟨N - 1, by omega⟩
    unfold tw_readSum_l4
    rw [fl_sg e.2.2.1]
    exact E2.re rfl (E2.rg rfl (E2.r (OutN.er e)))
theorem chain_l (hN : 500 ≤ N) (hW : RdG x h hi all nv sh M lu0 bA f op (x6_sum N W (x + 1429)) (tw_readSum N Wt h)) : ∀ (m fu fu' nd p q pa : Nat) (σ τ : gMem), OkN x h hi all nv sh M lu0 bA f σ0 τ0 p0 op pa0 pi False nd p q pa σ τ → hi ≤ q + m → m < fu → m < fu' → E2 (x6_chain_l5 N W (x + 1429) (fun y17 s18 => some (.inl (some (vR y17)), s18)) fu nd σ) (tw_readChain_l4 N Wt h (fun s16 => some s16) fu' τ) (Out2 x h hi all nv sh M lu0 bA f σ0 τ0 p0 op pa0 pi) := by
  have NO : ∀ (fu fu' nd p q pa : Nat) (σ τ : gMem), OkN x h hi all nv sh M lu0 bA f σ0 τ0 p0 op pa0 pi False nd p q pa σ τ → bA q ≠ 38 → E2 (x6_chain_l5 N W (x + 1429) (fun y17 s18 => some (.inl (some (vR y17)), s18)) (fu + 1) nd σ) (tw_readChain_l4 N Wt h (fun s16 => some s16) (fu' + 1) τ) (Out2 x h hi all nv sh M lu0 bA f σ0 τ0 p0 op pa0 pi) := by
    intro fu fu' nd p q pa σ τ o ne
    unfold x6_chain_l5 tw_readChain_l4
    rw [t_isSignOf o.1.2.2.2.1.2.1 o.1.2.2.2.1.2.2.2.2]
    rw [if_neg (show ¬ ((sgO (bA q) (bA (q + 1))).1 = 9 ∧ 16 ≤ (sgO (bA q) (bA (q + 1))).2.1 ∧ (sgO (bA q) (bA (q + 1))).2.1 ≤ 16) from fun z => by have := sgO_inv z.1; omega)]
    refine E2.lg o.1.1.1.1 (E2.lc (o.pk hN) (fun r z => E2.lg (by rw [z.1]; exact ne) (E2.re rfl (E2.rg rfl (E2.r (OutN.ok z.2))))))
  intro m
  induction m with
  | zero =>
    intro fu fu' nd p q pa σ τ o h1 h2 h3
    obtain ⟨fu, rfl⟩ : ∃ j, fu = j + 1 := ⟨fu - 1, by omega⟩
    obtain ⟨fu', rfl⟩ : ∃ j, fu' = j + 1 := ⟨fu' - 1, by omega⟩
    have bq : bA q = -1 := o.1.1.1.2.2.2.2.2.2.2.2.1 q (by omega)
    exact NO fu fu' nd p q pa σ τ o (by omega)
  | succ m ih =>
    intro fu fu' nd p q pa σ τ o h1 h2 h3
    obtain ⟨fu, rfl⟩ : ∃ j, fu = j + 1 := ⟨fu - 1, by omega⟩
    obtain ⟨fu', rfl⟩ : ∃ j, fu' = j + 1 := ⟨fu' - 1, by omega⟩
    by_cases c : bA q = 38
    · have S := o.1
      have tx := S.1.1.2.2.2.2.2.2.2
      have h4 : hi ≤ 400 := by have := tx.2.2.1; have := tx.2.2.2; omega
      have t2 := S.2.2.2.1.2.1
      have hq : q < hi := tx.lt (by omega)
      obtain ⟨e50, e49⟩ := sg_at c (k := 16) (l := 1) rfl t2
      unfold x6_chain_l5 tw_readChain_l4
      rw [t_isSignOf t2 S.2.2.2.1.2.2.2.2]
      rw [if_pos (show (sgO (bA q) (bA (q + 1))).1 = 9 ∧ 16 ≤ (sgO (bA q) (bA (q + 1))).2.1 ∧ (sgO (bA q) (bA (q + 1))).2.1 ≤ 16 by rw [c]; exact ⟨rfl, show (16 : Int) ≤ 16 by decide, show (16 : Int) ≤ 16 by decide⟩)]
      refine E2.lg S.1.1.1 (E2.lc (o.pk hN) (fun r z => E2.lf (by rw [z.1]; exact fun y => y c) (E2.ll (E2.re rfl (E2.rf (by decide) ?_)))))
      have o2 := z.2
      rw [o2.1.2.2.1.1, inc32 (by omega)]
      refine bin_step (k := 6) (Kc := fun nd' s' => x6_chain_l5 N W (x + 1429) (fun y17 s18 => some (.inl (some (vR y17)), s18)) fu nd' s') (Kt := fun s => tw_readChain_l4 N Wt h (fun s16 => some s16) fu' s) hN o2 e49 (by omega) (by omega) (by decide) (fun σ τ p q pa S => hW σ τ p q pa pi S) (fun y s hs hr => rfl) (fun nd' p' q' pa' σ' τ' o' hp' => ?_) (fun σ' τ' e => ?_)
      · exact ih fu fu' nd' p' q' pa' σ' τ' o' (by have := o'.1.2.2.2.1.1.1; omega) (by omega) (by omega)
      · obtain ⟨fu', rfl⟩ : ∃ j, fu' = j + 1 := ⟨fu' - 1, by omega⟩
        unfold tw_readChain_l4
        rw [fl_sg e.2.2.1]
        exact E2.re rfl (E2.rg rfl (E2.r (OutN.er e)))
    · exact NO fu fu' nd p q pa σ τ o c
theorem rd_chain (hN : 500 ≤ N) (hW : RdG x h hi all nv sh M lu0 bA f op (W (x + 1429)) Wt) : RdG x h hi all nv sh M lu0 bA f op (x6_chain N W (x + 1429)) (tw_readChain N Wt h) := by
  intro σ τ p q pa pi S
  have tx := S.1.1.2.2.2.2.2.2.2
  have h4 : hi ≤ 400 := by have := tx.2.2.1; have := tx.2.2.2; omega
  unfold x6_chain tw_readChain
  refine E2.lg S.1.1.1 (E2.cc (rd_sum hN hW _ _ _ _ _ _ S) (fun a r2 o => o.on (fun nd p1 q1 pa1 o1 => ?_) (fun e => ?_)))
  · exact chain_l hN (rd_sum hN hW) 400 N N nd p1 q1 pa1 a.2 r2 o1 (by omega) (by omega) (by omega)
  · obtain ⟨N', rfl⟩ : ∃ j, N = j + 1 := ⟨N - 1, by omega⟩
    unfold tw_readChain_l4
    rw [fl_sg e.2.2.1]
    exact E2.re rfl (E2.rg rfl (E2.r (OutN.er e)))
theorem wI_wI {a k : Nat} {u v : Int} : wI (wI s a k u) a k v = wI s a k v := by
  unfold wI gu2
  dsimp only
  congr 1
  funext b j
  by_cases e : b = a ∧ j = k
  · rw [if_pos e, if_pos e]
  · rw [if_neg e, if_neg e, if_neg e]
/-- which sign compares -/
theorem c_comparing {ar : Prop} (hN : 500 ≤ N) (o : OkN x h hi all nv sh M lu0 bA f σ0 τ0 p0 op pa0 pi ar nd p q pa σ τ) : Ev (x6_comparing N (x + 1429) σ) (fun r => (¬ (bA q = 61 ∨ bA q = 60 ∨ bA q = 62) ∧ r.1 = 0 ∧ OkN x h hi all nv sh M lu0 bA f σ0 τ0 p0 op pa0 pi ar nd q q pa r.2 τ) ∨ (∃ (k l : Nat) (σ1 : gMem), k < 6 ∧ sgO (bA q) (bA (q + 1)) = (9, (((10 + k : Nat) : Int), l)) ∧ 1 ≤ l ∧ q + l ≤ hi ∧ OkN x h hi all nv sh M lu0 bA f σ0 τ0 p0 op pa0 pi ar nd q q pa σ1 τ ∧ r.1 = mR σ1 0 (20 + k) ∧ r.2 = wI σ1 (x + 1429) 6 ((q + l : Nat) : Int))) := by
  unfold x6_comparing
  refine Ev.g o.1.1.1.1 (Ev.c (o.pk hN) (fun r0 _ z => ?_))
  obtain ⟨z1, z2⟩ := z
  rw [z1]
  have S := z2.1
  have c1 := S.1.1
  have tx := c1.2.2.2.2.2.2.2
  have h4 : hi ≤ 400 := by have := tx.2.2.1; have := tx.2.2.2; omega
  have a6 := S.2.2.1.1
  have J : bA q = 61 ∨ bA q = 60 ∨ bA q = 62 → Ev (x6_comparing_j25 N (x + 1429) (bA q) r0.2) (fun r => (¬ (bA q = 61 ∨ bA q = 60 ∨ bA q = 62) ∧ r.1 = 0 ∧ OkN x h hi all nv sh M lu0 bA f σ0 τ0 p0 op pa0 pi ar nd q q pa r.2 τ) ∨ (∃ (k l : Nat) (σ1 : gMem), k < 6 ∧ sgO (bA q) (bA (q + 1)) = (9, (((10 + k : Nat) : Int), l)) ∧ 1 ≤ l ∧ q + l ≤ hi ∧ OkN x h hi all nv sh M lu0 bA f σ0 τ0 p0 op pa0 pi ar nd q q pa σ1 τ ∧ r.1 = mR σ1 0 (20 + k) ∧ r.2 = wI σ1 (x + 1429) 6 ((q + l : Nat) : Int))) := by
    intro hc
    have hq : q < hi := tx.lt (by omega)
    have e : Ex (Rq x 6) r0.2 (wI r0.2 (x + 1429) 6 ((q + 1 : Nat) : Int)) := Ex.rf.I ⟨rfl, rfl⟩
    have c1' : CSt (wI r0.2 (x + 1429) 6 ((q + 1 : Nat) : Int)) x bA hi all := c1.ex e (fun i hi z => by unfold Rq at z; omega) (fun i z => by unfold Rq at z; omega)
    have e6 : mI (wI r0.2 (x + 1429) 6 ((q + 1 : Nat) : Int)) (x + 1429) 6 = ((q + 1 : Nat) : Int) := by rw [mI_wI, if_pos ⟨rfl, rfl⟩, w32_i (by omega) (by omega)]
    have FIN : ∀ (k l : Nat) (a : Nat × gMem), k < 6 → sgO (bA q) (bA (q + 1)) = (9, (((10 + k : Nat) : Int), l)) → 1 ≤ l → q + l ≤ hi → a = (mR r0.2 0 (20 + k), wI r0.2 (x + 1429) 6 ((q + l : Nat) : Int)) → Ev (some a) (fun r => (¬ (bA q = 61 ∨ bA q = 60 ∨ bA q = 62) ∧ r.1 = 0 ∧ OkN x h hi all nv sh M lu0 bA f σ0 τ0 p0 op pa0 pi ar nd q q pa r.2 τ) ∨ (∃ (k l : Nat) (σ1 : gMem), k < 6 ∧ sgO (bA q) (bA (q + 1)) = (9, (((10 + k : Nat) : Int), l)) ∧ 1 ≤ l ∧ q + l ≤ hi ∧ OkN x h hi all nv sh M lu0 bA f σ0 τ0 p0 op pa0 pi ar nd q q pa σ1 τ ∧ r.1 = mR σ1 0 (20 + k) ∧ r.2 = wI σ1 (x + 1429) 6 ((q + l : Nat) : Int))) := by
      intro k l a hk hs h1 h2 ea
      subst ea
      exact Ev.r (Or.inr ⟨k, l, r0.2, hk, hs, h1, h2, z2, rfl, rfl⟩)
    unfold x6_comparing_j25
    rw [a6, inc32 (by omega)]
    refine Ev.g c1.1 (Ev.l ?_)
    by_cases d1 : bA q = 61
    · exact Ev.f (fun z => z d1) (FIN 0 1 _ (by decide) (by rw [d1]; rfl) (by omega) (by omega) rfl)
    · refine Ev.g d1 ?_
      rw [e6]
      refine Ev.e (c_here c1' (q + 1)) ?_
      have J72 : ∀ {v1 : Int}, (bA (q + 1) = 61 ∨ bA (q + 1) = 62) → x6_comparing_j72 N (x + 1429) v1 (bA (q + 1)) (wI r0.2 (x + 1429) 6 ((q + 1 : Nat) : Int)) = x6_comparing_j82 N v1 (bA (q + 1)) (wI r0.2 (x + 1429) 6 ((q + 2 : Nat) : Int)) := by
        intro v1 hd
        have hq1 : q + 1 < hi := tx.lt (by omega)
        unfold x6_comparing_j72
        rw [if_pos c1'.1, e6, inc32 (by omega), gLet_eq, wI_wI]
      by_cases d2 : bA (q + 1) = 61
      · have hq1 : q + 1 < hi := tx.lt (by omega)
        refine Ev.g d2 ?_
        rw [J72 (Or.inl d2)]
        unfold x6_comparing_j82
        refine Ev.f (fun z => z d2) ?_
        by_cases d3 : bA q = 60
        · exact Ev.f (fun z => z d3) (FIN 3 2 _ (by decide) (by rw [d3, d2]; rfl) (by omega) (by omega) rfl)
        · have d4 : bA q = 62 := by omega
          exact Ev.g d3 (FIN 5 2 _ (by decide) (by rw [d4, d2]; rfl) (by omega) (by omega) rfl)
      · refine Ev.f d2 ?_
        by_cases d3 : bA q = 60
        · refine Ev.f (fun z => z d3) ?_
          by_cases d4 : bA (q + 1) = 62
          · have hq1 : q + 1 < hi := tx.lt (by omega)
            refine Ev.f (fun z => z d4) ?_
            rw [J72 (Or.inr d4)]
            unfold x6_comparing_j82
            exact Ev.g d2 (Ev.g (by omega) (Ev.f (fun z => z d4) (FIN 1 2 _ (by decide) (by rw [d3, d4]; rfl) (by omega) (by omega) rfl)))
          · refine Ev.g d4 ?_
            unfold x6_comparing_j82
            refine Ev.g d2 (Ev.g (by omega) (Ev.g d4 (FIN 2 1 _ (by decide) ?_ (by omega) (by omega) rfl)))
            unfold sgO
            rw [if_neg d1, if_pos d3, if_neg d4, if_neg d2]; rfl
        · have d4 : bA q = 62 := by omega
          refine Ev.g d3 ?_
          unfold x6_comparing_j82
          refine Ev.g d2 (Ev.f (fun z => z d4) (FIN 4 1 _ (by decide) ?_ (by omega) (by omega) rfl))
          unfold sgO
          rw [if_neg d1, if_neg d3, if_pos d4, if_neg d2]; rfl
  by_cases d1 : bA q = 61
  · exact Ev.g d1 (J (Or.inl d1))
  · refine Ev.f d1 ?_
    by_cases d2 : bA q = 60
    · exact Ev.g d2 (J (Or.inr (Or.inl d2)))
    · refine Ev.f d2 ?_
      by_cases d3 : bA q = 62
      · exact Ev.g d3 (J (Or.inr (Or.inr d3)))
      · exact Ev.f d3 (Ev.r (Or.inl ⟨by omega, rfl, z2⟩))
theorem rd_test (hN : 500 ≤ N) (hW : RdG x h hi all nv sh M lu0 bA f op (W (x + 1429)) Wt) : RdG x h hi all nv sh M lu0 bA f op (x6_test N W (x + 1429)) (tw_readTest N Wt h) := by
  intro σ τ p q pa pi S
  unfold x6_test tw_readTest
  refine E2.lg S.1.1.1 (E2.cc (rd_chain hN hW _ _ _ _ _ _ S) (fun a r2 o => o.on (fun nd p1 q1 pa1 o1 => ?_) (fun e => ?_)))
  · refine E2.lc (c_comparing hN o1) (fun r z => ?_)
    rw [t_isSignOf o1.1.2.2.2.1.2.1 o1.1.2.2.2.1.2.2.2.2]
    rcases z with ⟨z1, z2, z3⟩ | ⟨k, l, σ1, k6, hs, l1, l2, z3, z4, z5⟩
    · rw [if_neg (show ¬ ((sgO (bA q1) (bA (q1 + 1))).1 = 9 ∧ 10 ≤ (sgO (bA q1) (bA (q1 + 1))).2.1 ∧ (sgO (bA q1) (bA (q1 + 1))).2.1 ≤ 15) from fun z => by have := sgO_inv z.1; omega)]
      exact E2.lf (fun y => y z2) (E2.re rfl (E2.rg rfl (E2.r (OutN.ok z3))))
    · rw [if_pos (show (sgO (bA q1) (bA (q1 + 1))).1 = 9 ∧ 10 ≤ (sgO (bA q1) (bA (q1 + 1))).2.1 ∧ (sgO (bA q1) (bA (q1 + 1))).2.1 ≤ 15 by rw [hs]; exact ⟨rfl, by show (10 : Int) ≤ ((10 + k : Nat) : Int); omega, by show ((10 + k : Nat) : Int) ≤ 15; omega⟩)]
      have nz : r.1 ≠ 0 := fun e => by
        have cr := z3.1.1
        have := (cr.2.2.2.1.2.2 k (by omega)).1
        rw [← z4, e, cr.2.2.2.2.2.2.1] at this; cases this
      obtain ⟨e50, e49⟩ := sg_at rfl hs z3.1.2.2.2.1.2.1
      refine E2.lg nz (E2.re rfl (E2.rf (by decide) ?_))
      rw [z5, e50]
      refine bin_step (k := k) (α := gMem) (Kc := fun nd' s' => some (.inl (some (vR nd')), s')) (Kt := fun s => some s) hN z3 e49 (by omega) l2 (by omega) (fun σ τ p q pa S => rd_chain hN hW σ τ p q pa pi S) (fun y s hs hr => by rw [z4]) (fun nd' p' q' pa' σ' τ' o' hp' => E2.r (OutN.ok o')) (fun σ' τ' e => E2.r (OutN.er e))
  · rw [fl_sg e.2.2.1]
    exact E2.re rfl (E2.rg rfl (E2.r (OutN.er e)))
end Read10
