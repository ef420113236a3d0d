/-! ===== PHASE 2: reading: what a formula is made of ===== -/
section Read20
variable {N x h hi all nv sh M lu0 b b' p q op pa pi : Nat} {bA : Nat → Int} {f : Int → List Int × List Int} {σ σ' σ'' τ τ' τ'' s r σ0 τ0 σ1 τ2 : gMem} {p0 pa0 nd k lu : Nat} {W : Nat → gMem → Option gR} {Wt : gMem → Option gMem}
theorem thr_id {ar : Prop} {X : Option gR} {Y : Option gMem} (k : E2 X Y (OutN x h hi all nv sh M lu0 bA f σ τ p op pa pi ar)) : E2 (X.bind (fun p => gThrR p (fun x16 s18 => some ((.inl (some (vR x16)), s18) : gR)))) (Y.bind (fun z => some z)) (OutN x h hi all nv sh M lu0 bA f σ τ p op pa pi ar) := by
  obtain ⟨a, r2, ea, eb, o⟩ := k
  rw [ea, eb]
  exact o.on (fun nd p q pa o => E2.r (OutN.ok o)) (fun e => E2.r (OutN.er e))
/-- as it is seen from further ahead -/
theorem OutN.re {ar : Prop} {p1 : Nat} {a : gR} {r2 : gMem} (o : OutN x h hi all nv sh M lu0 bA f σ' τ' p1 op pa0 pi ar a r2) (hp : p0 ≤ p1) (h1 : p1 ≤ hi + 2) (e : CF x σ0 σ' (p1 - p0)) (t : TF (lu0 + hi) h τ0 τ' (M + pa0)) (l : mI σ' (x + 1429) 14 = mI σ0 (x + 1429) 14) : OutN x h hi all nv sh M lu0 bA f σ0 τ0 p0 op pa0 pi ar a r2 := by
  rcases o with ⟨nd, p, q, pa, e1, o⟩ | ⟨e1, e2, e3, e4, e5, e6⟩
  · exact Or.inl ⟨nd, p, q, pa, e1, OkN.re (pa' := 0) o hp e t l⟩
  · exact Or.inr ⟨e1, e2, e3, e4, (e.tr e5).mono (by omega), t.tr e6 (Nat.le_refl _)⟩
theorem isC_L (hc : isC bA q = true) : isL (bA q) = true ∨ bA q = 36 := by
  obtain ⟨i1, -⟩ := isC_inv hc
  by_cases e : bA q = 36
  · exact Or.inr e
  · left
    have : ck1 bA q = q := by unfold ck1; rw [if_neg e]
    rw [this] at i1
    exact decide_eq_true (by omega)
theorem sgO_els {c d : Int} (c1 : c ≠ 40) (c2 : c ≠ 41) (c3 : c ≠ 44) : (sgO c d).1 = 9 ∨ (sgO c d).1 = 10 := by
  unfold sgO
  by_cases e : c = 61
  · rw [if_pos e]; exact Or.inl rfl
  rw [if_neg e]
  by_cases e : c = 60
  · rw [if_pos e]
    by_cases e : d = 62
    · rw [if_pos e]; exact Or.inl rfl
    rw [if_neg e]
    by_cases e : d = 61
    · rw [if_pos e]; exact Or.inl rfl
    rw [if_neg e]; exact Or.inl rfl
  rw [if_neg e]
  by_cases e : c = 62
  · rw [if_pos e]
    by_cases e : d = 61
    · rw [if_pos e]; exact Or.inl rfl
    rw [if_neg e]; exact Or.inl rfl
  rw [if_neg e]
  by_cases e : c = 38
  · rw [if_pos e]; exact Or.inl rfl
  rw [if_neg e]
  by_cases e : c = 43
  · rw [if_pos e]; exact Or.inl rfl
  rw [if_neg e]
  by_cases e : c = 45
  · rw [if_pos e]; exact Or.inl rfl
  rw [if_neg e]
  by_cases e : c = 42
  · rw [if_pos e]; exact Or.inl rfl
  rw [if_neg e]
  by_cases e : c = 47
  · rw [if_pos e]; exact Or.inl rfl
  rw [if_neg e]
  by_cases e : c = 37
  · rw [if_pos e]; exact Or.inl rfl
  rw [if_neg e, if_neg c1, if_neg c2, if_neg c3]; exact Or.inr rfl
theorem rd_atom (hN : 500 ≤ N) (fn : FN nv f) (hT : op + 1 ≤ 20 → RdG x h hi all nv sh M lu0 bA f (op + 1) (x6_test N W (x + 1429)) (tw_readTest N Wt h))
    (hWd : ∀ σ τ q pa pi, S2 x h hi all nv sh M lu0 bA f σ τ q q op pa pi → tkK bA q = 4 → isL (bA q) = true → E2 (x6_word N W (x + 1429) σ) (tw_readWord N Wt h τ) (Out2 x h hi all nv sh M lu0 bA f σ τ q op pa pi)) : RdG x h hi all nv sh M lu0 bA f op (x6_atom N W (x + 1429)) (tw_readAtom N Wt h) := by
  intro σ τ p q pa pi S
  have c := S.1
  have tx := c.1.2.2.2.2.2.2.2
  have h4 : hi ≤ 400 := by have := tx.2.2.1; have := tx.2.2.2; omega
  obtain ⟨r, er, e1, S', cf, fk, pq, qh⟩ := S.pk hN
  have b5 := S.2.2.2.2.2.2.2.2.2.1
  suffices G : E2 (x6_atom N W (x + 1429) σ) (tw_readAtom N Wt h τ) (Out2 x h hi all nv sh M lu0 bA f r.2 τ q op pa pi) from G.m (fun a r2 o => OutN.re o pq (by omega) (cf.mono (by omega)) (TF.rf b5) (fk 14 (by decide)))
  have t2 := S'.2.2.2.1.2.1
  have t5 := S'.2.2.2.1.2.2.2.2
  have c' := S'.1
  have s6 := S'.2.2.1.1
  unfold x6_atom tw_readAtom
  rw [t5, t2.1, er]
  refine E2.lg c.1.1 (E2.rg (by decide) ?_)
  rw [Option.bind_some, e1]
  by_cases e40 : bA q = 40
  · have k6 := tk678.1.mpr e40
    rw [k6]
    refine E2.lf (fun z => z e40) (E2.rf (by decide) (E2.rg (by decide) (E2.rg (by decide) (E2.rg (by decide) (E2.rg (by decide) (E2.rf (by decide) ?_))))))
    exact rd_paren hN S' e40 hT
  refine E2.lg e40 (E2.le (c_isDigit _) ?_)
  by_cases hd : isD (bA q) = true
  · have D := of_decide_eq_true hd
    have k1 : tkK bA q = 1 := by unfold tkK; rw [if_neg (by omega), if_pos hd]
    rw [k1, if_pos hd]
    exact E2.lf (by decide) (E2.rg rfl (thr_id (rd_number hN S' hd)))
  rw [if_neg hd]
  refine E2.lg rfl ?_
  by_cases e34 : bA q = 34
  · have k2 : tkK bA q = 2 := by unfold tkK; rw [if_neg (by omega), if_neg hd, if_pos e34]
    rw [k2]
    exact E2.lf (fun z => z e34) (E2.rf (by decide) (E2.rf (fun z => z rfl) (thr_id (rd_quoted hN S' e34))))
  refine E2.lg e34 ?_
  by_cases e35 : bA q = 35
  · have nl : ¬ (isL (bA q) = true ∨ bA q = 36) := fun z => by
      rcases z with z | z
      · have := of_decide_eq_true z; omega
      · omega
    by_cases hr : isRf bA q = true
    · have k5 : tkK bA q = 5 := by unfold tkK; rw [if_neg (by omega), if_neg hd, if_neg e34, if_neg nl, if_pos hr]
      rw [k5]
      refine E2.lf (fun z => z e35) (E2.rf (by decide) (E2.rg (by decide) (E2.rg (by decide) (E2.rf (fun z => z rfl) ?_))))
      have K := thr_id (rd_gone hN S' hr)
      rw [bnd_id] at K
      exact K
    · have hr' : isRf bA q = false := by cases z : isRf bA q with
        | false => rfl
        | true => exact absurd z hr
      have k10 : tkK bA q = 10 := by unfold tkK; rw [if_neg (by omega), if_neg hd, if_neg e34, if_neg nl, if_neg hr, e35]; rfl
      rw [k10]
      have qh' : q < hi := tx.lt (fun z => by omega)
      have e48 : mI τ h 48 = q := by rw [t2.2.1, if_neg (by omega)]
      refine E2.lf (fun z => z e35) (E2.rf (by decide) (E2.rg (by decide) (E2.rg (by decide) (E2.rg (by decide) (E2.rg (by decide) (E2.rg (by decide) (thr_id ?_)))))))
      rw [e48]
      exact E2.vv (er_gone hN S' e35 hr') (t_fail (lu0 := lu0) (hi := hi) (b := M + pa) (k := 1) (w := (q : Int)) b5 t5 (by decide) (by omega)) (fun a r2 y z => OutN.fault y.1 y.2.1 y.2.2.1 (y.2.2.2.mono (by omega)) (by decide) z.1 z.2.1 z.2.2.1)
  refine E2.lg e35 ?_
  rw [s6]
  refine E2.le (c_corner c'.1 (by omega)) ?_
  by_cases hc : isC bA q = true
  · have L := ck_le bA q
    have hl := isC_L hc
    have k3 : tkK bA q = 3 := by
      have : bA q ≠ -1 := fun z => by
        rcases hl with u | u
        · have := of_decide_eq_true u; omega
        · omega
      unfold tkK; rw [if_neg this, if_neg hd, if_neg e34, if_pos hl, if_pos hc]
    rw [if_pos hc, k3]
    exact E2.lf (by omega) (E2.rf (by decide) (E2.rg (by decide) (E2.rg (by decide) (E2.rg (by decide) (E2.rf (fun z => z rfl) (thr_id (rd_spot hN fn S' k3 hc)))))))
  rw [if_neg hc]
  refine E2.lg (by decide) (E2.le (c_isLetter _) ?_)
  by_cases hl : isL (bA q) = true
  · have Lr := of_decide_eq_true hl
    have k4 : tkK bA q = 4 := by unfold tkK; rw [if_neg (by omega), if_neg hd, if_neg e34, if_pos (Or.inl hl), if_neg hc, if_neg (by omega)]
    rw [if_pos hl, k4]
    exact E2.lf (by decide) (E2.rf (by decide) (E2.rg (by decide) (E2.rf (fun z => z rfl) (thr_id (hWd _ _ _ _ _ S' k4 hl)))))
  · rw [if_neg hl]
    have kn : tkK bA q ≠ 1 ∧ tkK bA q ≠ 2 ∧ tkK bA q ≠ 4 ∧ tkK bA q ≠ 5 ∧ tkK bA q ≠ 3 ∧ tkK bA q ≠ 6 := by
      have n6 : tkK bA q ≠ 6 := fun z => e40 (tk678.1.mp z)
      have J : (sgO (bA q) (bA (q + 1))).1 = 9 ∨ (sgO (bA q) (bA (q + 1))).1 = 10 ∨ (sgO (bA q) (bA (q + 1))).1 = 7 ∨ (sgO (bA q) (bA (q + 1))).1 = 8 := by
        by_cases e41 : bA q = 41
        · exact Or.inr (Or.inr (Or.inl (sgO_678.2.1.mpr e41)))
        by_cases e44 : bA q = 44
        · exact Or.inr (Or.inr (Or.inr (sgO_678.2.2.mpr e44)))
        rcases sgO_els (d := bA (q + 1)) e40 e41 e44 with z | z
        · exact Or.inl z
        · exact Or.inr (Or.inl z)
      have K : tkK bA q = 0 ∨ tkK bA q = 10 ∨ tkK bA q = (sgO (bA q) (bA (q + 1))).1 := by
        unfold tkK
        by_cases z : bA q = -1
        · rw [if_pos z]; exact Or.inl rfl
        rw [if_neg z, if_neg hd, if_neg e34]
        by_cases z : bA q = 36
        · rw [if_pos (Or.inr z), if_neg hc, if_pos z]; exact Or.inr (Or.inl rfl)
        rw [if_neg (fun y => y.elim hl z), if_neg (fun y => by have := of_decide_eq_true y; omega)]
        exact Or.inr (Or.inr rfl)
      omega
    refine E2.lg rfl (E2.rf kn.1 (E2.rg kn.2.1 (E2.rg kn.2.2.1 (E2.rg kn.2.2.2.1 (E2.rg kn.2.2.2.2.1 (E2.rg kn.2.2.2.2.2 ?_))))))
    exact (S'.wrong (k := 1) (kt := fun z => some z) (p0 := q) (pa0 := pa) ((CF.rf c').mono (by omega)) (TF.rf b5) (Nat.le_refl _) (Nat.le_refl _) (by decide) (fun r _ => rfl)).m (fun a r2 z => Or.inr ⟨z.1, z.2⟩)
end Read20
