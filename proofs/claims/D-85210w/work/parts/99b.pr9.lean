/-! ===== PHASE 2: reading: products, sums, chains, tests ===== -/
section Read9
variable {N x h hi all nv sh M lu0 b b' p q op pa pi : Nat} {bA : Nat → Int} {f : Int → List Int × List Int} {σ σ' σ'' τ τ' τ'' s σ0 τ0 : gMem} {p0 pa0 nd : Nat} {W : Nat → gMem → Option gR} {Wt : gMem → Option gMem}
theorem OkN.pk {ar : Prop} (hN : 500 ≤ N) (o : OkN x h hi all nv sh M lu0 bA f σ0 τ0 p0 op pa0 pi ar nd p q pa σ τ) : Ev (x6_peek N (x + 1429) σ) (fun r => r.1 = bA q ∧ OkN x h hi all nv sh M lu0 bA f σ0 τ0 p0 op pa0 pi ar nd q q pa r.2 τ) := by
  obtain ⟨S, a1, a2, a3, a4, a5, a6, a7, a8⟩ := o
  have b5 := S.2.2.2.2.2.2.2.2.2.1
  refine (S.pk hN).m (fun r z => ?_)
  obtain ⟨z1, z2, z3, z4, z5, z6⟩ := z
  exact ⟨z1, z2, by omega, a2, by omega, (a4.tr z3).mono (by omega), a5, a6.mv S.1 z3 (TF.rf (lu0 := lu0) (hi := hi) (b := M + pa) b5) (by omega) (fun y => by rw [← z4 14 (by decide)]; exact y), fun y => a7 (by rw [← z4 14 (by decide)]; exact y), a8⟩
/-- one more operand -/
theorem bin_step {α : Type} {G : gMem → Option gR} {Gt : gMem → Option gMem} {Kc : Nat → gMem → Option gR} {Kt : gMem → Option α} {Φ : gR → α → Prop} {kf : Nat → gMem → Option gR} {k p1 : Nat} (hN : 500 ≤ N) (o1 : OkN x h hi all nv sh M lu0 bA f σ0 τ0 p0 op pa0 pi False nd p q pa σ τ) (h49 : mI τ h 49 = p1) (hp : p < p1) (h1 : p1 ≤ hi) (hk : k < 12)
    (hG : ∀ σ τ p q pa, S2 x h hi all nv sh M lu0 bA f σ τ p q op pa pi → E2 (G σ) (Gt τ) (Out2 x h hi all nv sh M lu0 bA f σ τ p op pa pi))
    (hkf : ∀ y s, mT s (x + 1429) = 6 → mR s 0 = mR σ 0 → kf y s = (x6_two (x + 1429) (mR σ 0 (20 + k)) nd y s).bind (fun x17 => Kc x17.1 x17.2))
    (hK : ∀ nd' p' q' pa' σ' τ', OkN x h hi all nv sh M lu0 bA f σ0 τ0 p0 op pa0 pi False nd' p' q' pa' σ' τ' → p1 ≤ p' → E2 (Kc nd' σ') (Kt τ') Φ)
    (hE : ∀ σ' τ', ErN x h hi M lu0 σ0 τ0 p0 pa0 σ' τ' → E2 (some (.inr "SheetBranches$Wrong", σ')) (Kt τ') Φ) :
    E2 ((G (wI σ (x + 1429) 6 p1)).bind (fun p => gThrR p kf)) ((tw_next N h τ).bind (fun x7 => (Gt x7).bind (fun x10 => (tw_part N h ((10 + k : Nat) : Int) 2 x10).bind (fun x13 => Kt x13.2)))) Φ := by
  have o0 := o1
  obtain ⟨S, a1, a2, a3, a4, a5, a6, a7, a8⟩ := o1
  have b1 := S.2.2.2.2.2.1
  refine E2.rc (S.adv hN (by omega) h1 h49) (fun τ1 z => ?_)
  obtain ⟨q1, z1, z2, z3, z4⟩ := z
  have l1 : mI (wI σ (x + 1429) 6 p1) (x + 1429) 14 = mI σ (x + 1429) 14 := mIwI1 (by omega)
  refine E2.cc (hG _ _ _ _ _ z1) (fun a r2 o => o.on (fun nd2 p2 q2 pa2 o2 => ?_) (fun e => ?_))
  · have c2 := o2.1.1
    have m0 := z1.1.2.2.2.2.2.1
    have e0 : mR a.2 0 = mR σ 0 := by
      funext j
      have := (o2.2.2.2.2.1.1.2.2.2 0 m0 z1.1.w0 j).2.2
      rw [this]; rfl
    rw [hkf nd2 a.2 c2.1.1 e0]
    exact E2.cc (bin_join (ar := False) hN o0 z4 z2 l1 hp (fun j hj => z3 _ _ ⟨14, by omega, by omega, rfl⟩) z1.1 o2 hk (by rw [e0])) (fun a' a2' o3 => hK _ _ _ _ _ _ o3 (by have := o2.2.1; omega))
  · obtain ⟨e1, e2, e3, e4, e5⟩ := e
    obtain ⟨v, hv⟩ := fl_part (N := N) (k := ((10 + k : Nat) : Int)) (n := 2) e3
    rw [hv]
    exact hE _ _ ⟨e1, e2, e3, ((a4.tr z4).tr e4).mono (by omega), (a5.tr z2 (by omega)).tr e5 (by omega)⟩
/-- what reads a part from where both stand -/
def RdG (x h hi all nv sh M lu0 : Nat) (bA : Nat → Int) (f : Int → List Int × List Int) (op : Nat) (G : gMem → Option gR) (Gt : gMem → Option gMem) : Prop :=
  ∀ σ τ p q pa pi, S2 x h hi all nv sh M lu0 bA f σ τ p q op pa pi → E2 (G σ) (Gt τ) (Out2 x h hi all nv sh M lu0 bA f σ τ p op pa pi)
theorem sg_at {c : Int} (hc : bA q = c) {k : Int} {l : Nat} (e : sgO c (bA (q + 1)) = (9, (k, l))) (t2 : LX τ h bA all q) : mI τ h 50 = k ∧ mI τ h 49 = ((q + l : Nat) : Int) := by
  have k9 : tkK bA q = 9 := tk9.mpr (by rw [hc, e])
  have := t2.2.2.2.1 k9
  rw [hc, e] at this
  exact this
theorem sgO_inv {c d : Int} (e : (sgO c d).1 = 9) : (c = 61 ∧ (sgO c d).2.1 = 10) ∨ (c = 60 ∧ 11 ≤ (sgO c d).2.1 ∧ (sgO c d).2.1 ≤ 13) ∨ (c = 62 ∧ 14 ≤ (sgO c d).2.1 ∧ (sgO c d).2.1 ≤ 15) ∨ (c = 38 ∧ (sgO c d).2.1 = 16) ∨ (c = 43 ∧ (sgO c d).2.1 = 17) ∨ (c = 45 ∧ (sgO c d).2.1 = 18) ∨ (c = 42 ∧ (sgO c d).2.1 = 19) ∨ (c = 47 ∧ (sgO c d).2.1 = 20) ∨ (c = 37 ∧ (sgO c d).2.1 = 21) := by
  unfold sgO at e ⊢
  by_cases c1 : c = 61
  · rw [if_pos c1]; exact Or.inl ⟨c1, rfl⟩
  rw [if_neg c1] at e ⊢
  by_cases c2 : c = 60
  · rw [if_pos c2]
    refine Or.inr (Or.inl ⟨c2, ?_⟩)
    by_cases d1 : d = 62
    · rw [if_pos d1]; decide
    · rw [if_neg d1]
      by_cases d2 : d = 61
      · rw [if_pos d2]; decide
      · rw [if_neg d2]; decide
  rw [if_neg c2] at e ⊢
  by_cases c3 : c = 62
  · rw [if_pos c3]
    refine Or.inr (Or.inr (Or.inl ⟨c3, ?_⟩))
    by_cases d2 : d = 61
    · rw [if_pos d2]; decide
    · rw [if_neg d2]; decide
  rw [if_neg c3] at e ⊢
  by_cases c4 : c = 38
  · rw [if_pos c4]; exact Or.inr (Or.inr (Or.inr (Or.inl ⟨c4, rfl⟩)))
  rw [if_neg c4] at e ⊢
  by_cases c5 : c = 43
  · rw [if_pos c5]; exact Or.inr (Or.inr (Or.inr (Or.inr (Or.inl ⟨c5, rfl⟩))))
  rw [if_neg c5] at e ⊢
  by_cases c6 : c = 45
  · rw [if_pos c6]; exact Or.inr (Or.inr (Or.inr (Or.inr (Or.inr (Or.inl ⟨c6, rfl⟩)))))
  rw [if_neg c6] at e ⊢
  by_cases c7 : c = 42
  · rw [if_pos c7]; exact Or.inr (Or.inr (Or.inr (Or.inr (Or.inr (Or.inr (Or.inl ⟨c7, rfl⟩))))))
  rw [if_neg c7] at e ⊢
  by_cases c8 : c = 47
  · rw [if_pos c8]; exact Or.inr (Or.inr (Or.inr (Or.inr (Or.inr (Or.inr (Or.inr (Or.inl ⟨c8, rfl⟩)))))))
  rw [if_neg c8] at e ⊢
  by_cases c9 : c = 37
  · rw [if_pos c9]; exact Or.inr (Or.inr (Or.inr (Or.inr (Or.inr (Or.inr (Or.inr (Or.inr ⟨c9, rfl⟩)))))))
  rw [if_neg c9] at e
  exfalso
  by_cases d1 : c = 40
  · rw [if_pos d1] at e; cases e
  rw [if_neg d1] at e
  by_cases d2 : c = 41
  · rw [if_pos d2] at e; cases e
  rw [if_neg d2] at e
  by_cases d3 : c = 44
  · rw [if_pos d3] at e; cases e
  rw [if_neg d3] at e; cases e
theorem prod_l (hN : 500 ≤ N) (hW : RdG x h hi all nv sh M lu0 bA f op (W (x + 1429)) Wt) : ∀ (m fu fu' nd q pa : Nat) (σ τ : gMem), OkN x h hi all nv sh M lu0 bA f σ0 τ0 p0 op pa0 pi False nd q q pa σ τ → hi ≤ q + m → m < fu → m < fu' → E2 (x6_product_l10 N W (x + 1429) (fun y22 s23 => some (.inl (some (vR y22)), s23)) fu nd (bA q) σ) (tw_readProduct_l4 N Wt h (fun s17 => some s17) fu' τ) (Out2 x h hi all nv sh M lu0 bA f σ0 τ0 p0 op pa0 pi) := by
  intro m
  induction m with
  | zero =>
    intro fu fu' nd q pa σ τ o h1 h2 h3
    obtain ⟨fu, rfl⟩ : ∃ j, fu = j + 1 := ⟨fu - 1, by omega⟩
    obtain ⟨fu', rfl⟩ : ∃ j, fu' = j + 1 := ⟨fu' - 1, by omega⟩
    have bq : bA q = -1 := o.1.1.1.2.2.2.2.2.2.2.2.1 q (by omega)
    unfold x6_product_l10 tw_readProduct_l4
    rw [t_isSignOf o.1.2.2.2.1.2.1 o.1.2.2.2.1.2.2.2.2]
    rw [if_neg (show ¬ ((sgO (bA q) (bA (q + 1))).1 = 9 ∧ 19 ≤ (sgO (bA q) (bA (q + 1))).2.1 ∧ (sgO (bA q) (bA (q + 1))).2.1 ≤ 21) from fun z => by have := sgO_inv z.1; omega)]
    exact E2.lf (by omega) (E2.lf (by omega) (E2.lg (by omega) (E2.re rfl (E2.rg rfl (E2.r (OutN.ok o))))))
  | succ m ih =>
    intro fu fu' nd q pa σ τ o h1 h2 h3
    obtain ⟨fu, rfl⟩ : ∃ j, fu = j + 1 := ⟨fu - 1, by omega⟩
    obtain ⟨fu', rfl⟩ : ∃ j, fu' = j + 1 := ⟨fu' - 1, by omega⟩
    have S := o.1
    have tx := S.1.1.2.2.2.2.2.2.2
    have h4 : hi ≤ 400 := by have := tx.2.2.1; have := tx.2.2.2; omega
    have t2 := S.2.2.2.1.2.1
    unfold x6_product_l10 tw_readProduct_l4
    rw [t_isSignOf t2 S.2.2.2.1.2.2.2.2]
    by_cases c : bA q = 42 ∨ bA q = 47 ∨ bA q = 37
    · have hq : q < hi := tx.lt (by omega)
      have GO : ∀ (k : Nat) (v2 : Int), k < 12 → bA q = v2 → sgO v2 (bA (q + 1)) = (9, (((10 + k : Nat) : Int), 1)) → E2 (x6_product_l10_j66 N W (x + 1429) nd (mR (wI σ (x + 1429) 6 ((q + 1 : Nat) : Int)) 0 (20 + k)) (x + 1429) (x6_product_l10 N W (x + 1429) (fun y22 s23 => some (.inl (some (vR y22)), s23)) fu) (fun y22 s23 => some (.inl (some (vR y22)), s23)) (wI σ (x + 1429) 6 ((q + 1 : Nat) : Int))) ((tw_next N h τ).bind (fun x7 => (Wt x7).bind (fun x10 => (tw_part N h (mI τ h 50) 2 x10).bind (fun x13 => tw_readProduct_l4 N Wt h (fun s17 => some s17) fu' (x13.2))))) (Out2 x h hi all nv sh M lu0 bA f σ0 τ0 p0 op pa0 pi) := by
        intro k v2 hk hv e
        obtain ⟨e50, e49⟩ := sg_at hv e t2
        unfold x6_product_l10_j66
        rw [e50]
        refine E2.lg S.1.1.1 ?_
        refine bin_step (Kc := fun nd' s' => (x6_peek N (x + 1429) s').bind (fun x19 => x6_product_l10 N W (x + 1429) (fun y22 s23 => some (.inl (some (vR y22)), s23)) fu nd' x19.1 x19.2)) (Kt := fun s => tw_readProduct_l4 N Wt h (fun s17 => some s17) fu' s) hN o e49 (by omega) (by omega) hk (fun σ τ p q pa S => hW σ τ p q pa pi S) (fun y s hs hr => ?_) (fun nd' p' q' pa' σ' τ' o' hp' => ?_) (fun σ' τ' e => ?_)
        · rw [if_pos hs]; rfl
        · refine E2.lc (o'.pk hN) (fun r z => ?_)
          obtain ⟨z1, z2⟩ := z
          rw [z1]
          exact ih fu fu' nd' q' pa' r.2 τ' z2 (by have := o'.1.2.2.2.1.1.1; omega) (by omega) (by omega)
        · obtain ⟨fu', rfl⟩ : ∃ j, fu' = j + 1 := ⟨fu' - 1, by omega⟩
          unfold tw_readProduct_l4
          rw [fl_sg e.2.2.1]
          exact E2.re rfl (E2.rg rfl (E2.r (OutN.er e)))
      have TW : ∀ {k : Int}, sgO (bA q) (bA (q + 1)) = (9, (k, 1)) → 19 ≤ k ∧ k ≤ 21 → E2 (x6_product_l10_j28 N W (x + 1429) nd (bA q) (x6_product_l10 N W (x + 1429) (fun y22 s23 => some (.inl (some (vR y22)), s23)) fu) (fun y22 s23 => some (.inl (some (vR y22)), s23)) σ) ((tw_next N h τ).bind (fun x7 => (Wt x7).bind (fun x10 => (tw_part N h (mI τ h 50) 2 x10).bind (fun x13 => tw_readProduct_l4 N Wt h (fun s17 => some s17) fu' (x13.2))))) (Out2 x h hi all nv sh M lu0 bA f σ0 τ0 p0 op pa0 pi) → E2 (x6_product_l10_j28 N W (x + 1429) nd (bA q) (x6_product_l10 N W (x + 1429) (fun y22 s23 => some (.inl (some (vR y22)), s23)) fu) (fun y22 s23 => some (.inl (some (vR y22)), s23)) σ) ((some (if (sgO (bA q) (bA (q + 1))).1 = 9 ∧ 19 ≤ (sgO (bA q) (bA (q + 1))).2.1 ∧ (sgO (bA q) (bA (q + 1))).2.1 ≤ 21 then (1 : Int) else 0)).bind (fun x4 => if x4 = 0 then some τ else (tw_next N h τ).bind (fun x7 => (Wt x7).bind (fun x10 => (tw_part N h (mI τ h 50) 2 x10).bind (fun x13 => tw_readProduct_l4 N Wt h (fun s17 => some s17) fu' (x13.2)))))) (Out2 x h hi all nv sh M lu0 bA f σ0 τ0 p0 op pa0 pi) := by
        intro k e r y
        rw [e, if_pos ⟨rfl, r⟩]
        exact E2.re rfl (E2.rf (by decide) y)
      have J : ∀ (v2 : Int), bA q = v2 → E2 (x6_product_l10_j28 N W (x + 1429) nd (bA q) (x6_product_l10 N W (x + 1429) (fun y22 s23 => some (.inl (some (vR y22)), s23)) fu) (fun y22 s23 => some (.inl (some (vR y22)), s23)) σ) ((tw_next N h τ).bind (fun x7 => (Wt x7).bind (fun x10 => (tw_part N h (mI τ h 50) 2 x10).bind (fun x13 => tw_readProduct_l4 N Wt h (fun s17 => some s17) fu' (x13.2))))) (Out2 x h hi all nv sh M lu0 bA f σ0 τ0 p0 op pa0 pi) := by
        intro v2 hv
        unfold x6_product_l10_j28
        rw [S.2.2.1.1, inc32 (by omega)]
        refine E2.lg S.1.1.1 (E2.ll ?_)
        by_cases c1 : bA q = 42
        · exact E2.lf (fun z => z c1) (GO 9 42 (by decide) c1 rfl)
        · refine E2.lg c1 ?_
          by_cases c2 : bA q = 47
          · exact E2.lf (fun z => z c2) (GO 10 47 (by decide) c2 rfl)
          · exact E2.lg c2 (GO 11 37 (by decide) (by omega) rfl)
      by_cases c1 : bA q = 42
      · exact E2.lg c1 (TW (k := 19) (by rw [c1]; rfl) (by decide) (J _ rfl))
      · refine E2.lf c1 ?_
        by_cases c2 : bA q = 47
        · exact E2.lg c2 (TW (k := 20) (by rw [c2]; rfl) (by decide) (J _ rfl))
        · have c3 : bA q = 37 := by omega
          exact E2.lf c2 (E2.lf (fun z => z c3) (TW (k := 21) (by rw [c3]; rfl) (by decide) (J _ rfl)))
    · have n9 : ¬ ((sgO (bA q) (bA (q + 1))).1 = 9 ∧ 19 ≤ (sgO (bA q) (bA (q + 1))).2.1 ∧ (sgO (bA q) (bA (q + 1))).2.1 ≤ 21) := fun z => by have := sgO_inv z.1; omega
      rw [if_neg n9]
      exact E2.lf (by omega) (E2.lf (by omega) (E2.lg (by omega) (E2.re rfl (E2.rg rfl (E2.r (OutN.ok o))))))
theorem rd_product (hN : 500 ≤ N) (hW : RdG x h hi all nv sh M lu0 bA f op (W (x + 1429)) Wt) : RdG x h hi all nv sh M lu0 bA f op (x6_product N W (x + 1429)) (tw_readProduct N Wt h) := by
  intro σ τ p q pa pi S
  have tx := S.1.1.2.2.2.2.2.2.2
  have h4 : hi ≤ 400 := by have := tx.2.2.1; have := tx.2.2.2; omega
  unfold x6_product tw_readProduct
  refine E2.lg S.1.1.1 (E2.cc (hW _ _ _ _ _ _ S) (fun a r2 o => o.on (fun nd p1 q1 pa1 o1 => ?_) (fun e => ?_)))
  · refine E2.lc (o1.pk hN) (fun r z => ?_)
    rw [z.1]
    exact prod_l hN hW 400 N N nd q1 pa1 r.2 r2 z.2 (by omega) (by omega) (by omega)
  · obtain ⟨N', rfl⟩ : ∃ j, N = j + 1 := ⟨N - 1, by omega⟩
    unfold tw_readProduct_l4
    rw [fl_sg e.2.2.1]
    exact E2.re rfl (E2.rg rfl (E2.r (OutN.er e)))
end Read9
