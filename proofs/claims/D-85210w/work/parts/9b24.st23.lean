/-! ===== PHASE 2: the acts: kind, value, letter ===== -/
section State23
variable {N x h u b nv nv' pa un fs i t s k n : Nat} {σ σ' τ τ' τ'' r : gMem} {P : Nat → Nat → Prop} {own rt : Nat → Nat} {S : Sh} {Gs : Nat → Sh} {g : Nat → Nat → Vl} {v p q : Int}
/-- place in a sheet, from rows and columns from 1 on -/
def cpl (p q : Int) : Nat := 10 * (p - 1).toNat + (q - 1).toNat
theorem cpl_in (c : inS S p q) (m10 : S.1.2.length ≤ 10) : inB S.1.1.length S.1.2.length (cpl p q) ∧ ((cpl p q : Nat) : Int) = 10 * (p - 1) + (q - 1) := by
  obtain ⟨c1, c2, c3, c4⟩ := c
  unfold inB cpl
  omega
theorem Rl.hasCell (R : Rl x h t nv pa un fs Gs g own rt σ τ) (hp : g32 p) (hq : g32 q) : x1_hasCell x v p q σ = some (if (-1 ≤ v ∧ v < nv) ∧ inS (Gs (rix v)) p q then 1 else 0) := by
  unfold x1_hasCell
  rw [if_pos R.1.1.1.1, R.sheetOf v, Option.bind_some]
  by_cases c : -1 ≤ v ∧ v < nv
  · have hv := rix_v (pa := pa) (un := un) c.1 c.2
    have sC := R.shC hv
    rw [if_pos c, if_neg (R.rt0 hv), if_pos sC.1.1, c_hasS sC hp hq, Option.bind_some]
    by_cases d : inS (Gs (rix v)) p q
    · rw [if_pos d, if_neg (by decide), if_pos ⟨c, d⟩]
    · rw [if_neg d, if_pos rfl, if_neg (fun z => d z.2)]
  · rw [if_neg c, if_pos rfl, if_neg (fun z => c z.1)]
theorem Rl.asked (R : Rl x h t nv pa un fs Gs g own rt σ τ) : tw_asked h v p q τ = some (if (-1 ≤ v ∧ v < nv) ∧ inS (Gs (rix v)) p q then ((320 * tsN fs (rix v) + cpl p q : Nat) : Int) else -1) := by
  obtain ⟨c5, n1, n4, pu, c8, p4, u4⟩ := R.c5
  unfold tw_asked
  rw [R.isSheet v, Option.bind_some]
  by_cases c : -1 ≤ v ∧ v < nv
  · have hv := rix_v (pa := pa) (un := un) c.1 c.2
    have sT := R.shT hv
    have lt := tsN_lt (fs := fs) hv n4 p4 u4
    have len := R.2.1.len hv
    rw [if_pos c, if_neg (by decide), t_sheetAt (fs := fs) v, Option.bind_some, t_isCellS sT (by omega), Option.bind_some]
    by_cases d : inS (Gs (rix v)) p q
    · have e := (cpl_in d len.2).2
      have d' := d
      obtain ⟨d1, d2, d3, d4⟩ := d'
      rw [if_pos d, if_pos (by decide), Option.bind_some, if_pos ⟨c, d⟩, w32_i (by omega) (by omega)]
      exact congrArg some (by omega)
    · rw [if_neg d, if_neg (fun z => z rfl), if_neg (fun z => d z.2)]
  · rw [if_neg c, if_pos rfl, if_neg (fun z => c z.1)]
/-- the frame of what values the working sheet -/
def RyF (x : Nat) (σ r : gMem) : Prop := Kz (RdyW x) σ r ∧ mZ r = mZ σ ∧ mS r = mS σ ∧ ∀ j, j ≠ 10 → mI r x j = mI σ x j
theorem RyF.fr (f : RyF x σ r) (hh : h = x + 1471) : FrL x h σ r := by
  obtain ⟨f1, f2, f3, f4⟩ := f
  exact ⟨f1.mono (fun a w => by unfold RdyW RqW at w; unfold NoT; omega), 0, by rw [f4 17 (by decide)]; omega, by omega, by omega⟩
/-- both value a sheet: the same -/
theorem both_val (hN : 200000 ≤ N) (R : Rl x h t nv pa un fs Gs g own rt σ τ) (h1 : -1 ≤ v) (h2 : v < nv) : Ev (x1_valuesOf N x v σ) (fun a => ∃ V, VV a.2 a.1 V ∧ RyF x σ a.2 ∧ Ev (tw_needValues N h ((tsN fs (rix v) : Nat) : Int) τ) (fun b => Rl x h t nv pa un fs Gs g own rt a.2 b ∧ Ex (Vp h) τ b ∧ ∀ c, inB (Gs (rix v)).1.1.length (Gs (rix v)).1.2.length c → VC b h (320 * tsN fs (rix v) + c) (V c))) := by
  obtain ⟨c5, n1, n4, pu, c8, p4, u4⟩ := R.c5
  have l := R.1.1
  unfold x1_valuesOf
  by_cases c : v = -1
  · subst c
    refine Ev.f (fun z => z rfl) (Ev.g l.1.1 (Ev.c (R.rdy hN) (fun a _ z => Ev.r ?_)))
    obtain ⟨z1, R', z3, z4, z5, z6, z7⟩ := z
    obtain ⟨V, v1, v2⟩ := R'.2.2.2.2.1.2 z7
    have e0 : rix (-1) = 0 := rfl
    rw [e0, tsN0]
    refine ⟨V, by rw [z1]; exact v1, ⟨z3, z4, z5, z6⟩, (t_need (s := 40) (by omega) R' (Or.inl rfl)).m (fun b y => ?_)⟩
    obtain ⟨Rb, X, y3, -⟩ := y
    obtain ⟨V', w1, w2⟩ := Rb.2.2.2.2.2.2.2 (y3 rfl)
    refine ⟨Rb, X, fun c hc => ?_⟩
    have v0 : rtV nv pa un 0 := Or.inl rfl
    have sP := Rb.shP v0
    have vi : Vi nv 0 = (nv : Int) := by unfold Vi; rw [if_neg (by decide)]
    rw [vi] at sP
    have sT := Rb.s0
    have len := Rb.2.1.len v0
    unfold IsV at v2 w1
    have K := val_uniq (V := (nv : Int)) (fun c hc ne => ⟨(sT.2.2.2.2 c hc).wf ne, sP.2.2.2.2.2.2 c hc⟩) (by (try dsimp only); rw [if_pos rfl]) (by (try dsimp only); rw [if_pos rfl]) len.1 len.2 (fun ver a1 _ => by (try dsimp only); rw [if_neg (by omega), if_neg (by omega)]) v2 w1 c hc
    (try dsimp only at K)
    rw [if_pos rfl, if_pos rfl] at K
    rw [K]
    exact w2 c hc
  · obtain ⟨k, rfl⟩ : ∃ k : Nat, v = (k : Int) := ⟨v.toNat, by omega⟩
    have e4 := l.R (4, 2) (by decide)
    have t2 := l.T (2, 104, 40) (by decide)
    (try dsimp only at e4 t2)
    have w := R.ver (k := k) (by omega)
    have vc := R.1.2.2.2.2.2.1 k (by omega)
    rw [e4, tn, rix_k, tsN_k]
    refine Ev.g c (Ev.g l.1.1 (Ev.g t2.1 (Ev.g (by rw [t2.2]; omega) (Ev.g w.1 (Ev.r ⟨g k, vc.2.2.1, ⟨Kz.rf l.ok, rfl, rfl, fun _ _ => rfl⟩, (t_need (s := k) (by omega) R (Or.inr (by omega))).m (fun b y => ?_)⟩)))))
    obtain ⟨Rb, X, -, y4⟩ := y
    exact ⟨Rb, X, fun c hc => Rb.2.2.2.2.2.1 k (by omega) (y4 (by omega)) c hc⟩
theorem OpQ.val {a b : Int × gMem} (hh : h = x + 1471) (R : Rl x h t nv pa un fs Gs g own rt a.2 b.2) (f : RyF x σ a.2) (X : Ex (Vp h) (wI τ h 0 0) b.2) (e : a.1 = b.1) : OpQ x h t σ τ a b :=
  ⟨⟨_, _, _, _, _, _, _, _, R.t1⟩, f.fr hh, (Ex.rf.I (by unfold TwA; omega)).tr (X.mono (fun a k p => by unfold Vp at p; unfold TwA; omega)), e, by rw [X.rI (by unfold Vp; omega), mIwI2 ⟨rfl, rfl⟩, w32_i (by omega) (by omega)]⟩
/-- kind -/
theorem op_kind (hN : 200000 ≤ N) (R : RL x h t σ τ) (hp : g32 p) (hq : g32 q) : E2 (x1_kind N x v p q σ) (tw_kind N h v p q τ) (OpQ x h t σ τ) := by
  obtain ⟨nv, pa, un, fs, Gs, g, own, rt, R⟩ := R
  have l := R.1.1
  have hh := R.1.2.1.1
  have Rt := R.t0 (v := 0)
  unfold x1_kind tw_kind
  refine E2.lg l.1.1 (E2.rl (E2.le (Rt.hasCell hp hq) (E2.re Rt.asked ?_)))
  by_cases c : (-1 ≤ v ∧ v < nv) ∧ inS (Gs (rix v)) p q
  · obtain ⟨c5, n1, n4, pu, c8, p4, u4⟩ := R.c5
    have hv := rix_v (pa := pa) (un := un) c.1.1 c.1.2
    have len := R.2.1.len hv
    have lt := tsN_lt (fs := fs) hv n4 p4 u4
    have ci := cpl_in c.2 len.2
    have h40 : tsN fs (rix v) ≤ 40 := by have e := tsN_rix (v := v) (fs := fs); split at e <;> omega
    rw [if_pos c, if_pos c]
    refine E2.lg (by decide) (E2.rg (by omega) ?_)
    obtain ⟨a, ea, V, v1, f, T⟩ := both_val hN Rt c.1.1 c.1.2
    refine E2.le ea (E2.re (t_sheetAt (fs := fs) v) (E2.rc T (fun b z => ?_)))
    obtain ⟨Rb, X, vc⟩ := z
    have vk := vc _ ci.1
    obtain ⟨k1, k2, k3, k4, k5, k6, k7, k8, k9, k10, k11, k12, k13, k14⟩ := v1
    have c320 : cpl p q < 320 := by unfold inB at ci; omega
    rw [k2, show (10 * (p - 1) + q - 1).toNat = cpl p q by omega, tn, (k14 _ c320).2.1, vk.2.1]
    exact E2.lg k1 (E2.lg k6 (E2.lg (by rw [k7]; omega) (E2.rg (by omega) (E2.r (OpQ.val hh Rb f X rfl)))))
  · rw [if_neg c, if_neg c]
    exact E2.lf (fun z => z rfl) (E2.rf (by decide) (E2.r (OpQ.same R)))
/-- value -/
theorem op_value (hN : 200000 ≤ N) (R : RL x h t σ τ) (hp : g32 p) (hq : g32 q) : E2 (x1_value N x v p q σ) (tw_value N h v p q τ) (OpQ x h t σ τ) := by
  obtain ⟨nv, pa, un, fs, Gs, g, own, rt, R⟩ := R
  have l := R.1.1
  have hh := R.1.2.1.1
  have Rt := R.t0 (v := 0)
  unfold x1_value tw_value
  refine E2.lg l.1.1 (E2.rl (E2.le (Rt.hasCell hp hq) (E2.re Rt.asked ?_)))
  by_cases c : (-1 ≤ v ∧ v < nv) ∧ inS (Gs (rix v)) p q
  · obtain ⟨c5, n1, n4, pu, c8, p4, u4⟩ := R.c5
    have hv := rix_v (pa := pa) (un := un) c.1.1 c.1.2
    have len := R.2.1.len hv
    have lt := tsN_lt (fs := fs) hv n4 p4 u4
    have ci := cpl_in c.2 len.2
    have h40 : tsN fs (rix v) ≤ 40 := by have e := tsN_rix (v := v) (fs := fs); split at e <;> omega
    rw [if_pos c, if_pos c]
    refine E2.lg (by decide) (E2.rg (by omega) ?_)
    obtain ⟨a, ea, V, v1, f, T⟩ := both_val hN Rt c.1.1 c.1.2
    refine E2.le ea (E2.re (t_sheetAt (fs := fs) v) (E2.rc T (fun b z => ?_)))
    obtain ⟨Rb, X, vc⟩ := z
    have vk := vc _ ci.1
    obtain ⟨k1, k2, k3, k4, k5, k6, k7, k8, k9, k10, k11, k12, k13, k14⟩ := v1
    have c320 : cpl p q < 320 := by unfold inB at ci; omega
    obtain ⟨m1, m2, m3, m4, m5⟩ := k14 _ c320
    have ew : w32 (10 * (p - 1) + q - 1) = ((cpl p q : Nat) : Int) := by rw [w32_i (by omega) (by omega)]; omega
    obtain ⟨-, j1, j2, j3⟩ := vk
    rw [k2, k3, k5, ew, tn, tn, m2, m3, m4, j1]
    refine E2.lg k1 (E2.lg k6 (E2.lg (by rw [k7]; omega) (E2.rg (by omega) ?_)))
    have nm := m1.norm
    by_cases z0 : (V (cpl p q)).1 = 0
    · refine E2.lg (by rw [z0]; decide) (E2.lg k12 (E2.lg (by rw [k13]; omega) (E2.rf (fun z => z z0) (E2.r ?_))))
      rw [nm.1 (Or.inl z0)]
      exact OpQ.val hh Rb f X rfl
    · by_cases z2 : (V (cpl p q)).1 = 2
      · refine E2.lf (fun z => z z2) (E2.lg k8 (E2.lg (by rw [k9]; omega) (E2.rg z0 (E2.rg (by omega) (E2.rf (fun z => z z2) (E2.rg (by omega) (E2.r ?_)))))))
        rw [(j3 z2).1]
        exact OpQ.val hh Rb f X rfl
      · refine E2.lg z2 (E2.lg k12 (E2.lg (by rw [k13]; omega) (E2.rg z0 (E2.rg (by omega) (E2.rg z2 (E2.rg (by omega) (E2.r ?_)))))))
        rw [j2 z0 z2]
        exact OpQ.val hh Rb f X rfl
  · rw [if_neg c, if_neg c]
    exact E2.lf (fun z => z rfl) (E2.rf (by decide) (E2.r (OpQ.same R)))
/-- letter -/
theorem op_letter {w : Int} (hN : 200000 ≤ N) (R : RL x h t σ τ) (hp : g32 p) (hq : g32 q) : E2 (x1_letter N x v p q w σ) (tw_letter N h v p q w τ) (OpQ x h t σ τ) := by
  obtain ⟨nv, pa, un, fs, Gs, g, own, rt, R⟩ := R
  have l := R.1.1
  have hh := R.1.2.1.1
  have Rt := R.t0 (v := 0)
  unfold x1_letter tw_letter
  refine E2.lg l.1.1 (E2.rl (E2.le (Rt.hasCell hp hq) (E2.re Rt.asked ?_)))
  by_cases c : (-1 ≤ v ∧ v < nv) ∧ inS (Gs (rix v)) p q
  · obtain ⟨c5, n1, n4, pu, c8, p4, u4⟩ := R.c5
    have hv := rix_v (pa := pa) (un := un) c.1.1 c.1.2
    have len := R.2.1.len hv
    have lt := tsN_lt (fs := fs) hv n4 p4 u4
    have ci := cpl_in c.2 len.2
    have h40 : tsN fs (rix v) ≤ 40 := by have e := tsN_rix (v := v) (fs := fs); split at e <;> omega
    rw [if_pos c, if_pos c]
    refine E2.lg (by decide) (E2.rg (by omega) ?_)
    obtain ⟨a, ea, V, v1, f, T⟩ := both_val hN Rt c.1.1 c.1.2
    refine E2.le ea (E2.re (t_sheetAt (fs := fs) v) (E2.rc T (fun b z => ?_)))
    obtain ⟨Rb, X, vc⟩ := z
    have vk := vc _ ci.1
    obtain ⟨k1, k2, k3, k4, k5, k6, k7, k8, k9, k10, k11, k12, k13, k14⟩ := v1
    have c320 : cpl p q < 320 := by unfold inB at ci; omega
    obtain ⟨m1, m2, m3, m4, m5⟩ := k14 _ c320
    have ew : w32 (10 * (p - 1) + q - 1) = ((cpl p q : Nat) : Int) := by rw [w32_i (by omega) (by omega)]; omega
    obtain ⟨-, j1, j2, j3⟩ := vk
    have t24 := m1.txt.1
    rw [k2, k3, k4, ew, tn, tn, m2, m3, j1]
    refine E2.lg k1 (E2.lg k6 (E2.lg (by rw [k7]; omega) (E2.rg (by omega) ?_)))
    by_cases z2 : (V (cpl p q)).1 = 2
    · have j4 := j3 z2
      rw [j4.1, t_in, w32_i (by omega) (by omega), Option.bind_some]
      refine E2.lf (fun z => z z2) (E2.rf (fun z => z z2) (E2.rg (by omega) ?_))
      by_cases w0 : w < 0
      · rw [if_neg (show ¬ (0 ≤ w ∧ w ≤ ((V (cpl p q)).2.2.length : Int) - 1) by omega)]
        exact E2.lg w0 (E2.rg rfl (E2.r (OpQ.val hh Rb f X rfl)))
      · refine E2.lf w0 (E2.lg k8 (E2.lg (by rw [k9]; omega) ?_))
        by_cases w1 : (V (cpl p q)).2.2.length ≤ w
        · rw [if_neg (show ¬ (0 ≤ w ∧ w ≤ ((V (cpl p q)).2.2.length : Int) - 1) by omega)]
          exact E2.lg w1 (E2.rg rfl (E2.r (OpQ.val hh Rb f X rfl)))
        · obtain ⟨j, rfl⟩ : ∃ j : Nat, w = (j : Int) := ⟨w.toNat, by omega⟩
          rw [if_pos (show 0 ≤ (j : Int) ∧ (j : Int) ≤ ((V (cpl p q)).2.2.length : Int) - 1 by omega), show (24 * ((cpl p q : Nat) : Int) + (j : Int)).toNat = 24 * cpl p q + j by omega, show (24 * ((320 * tsN fs (rix v) + cpl p q : Nat) : Int) + (j : Int)).toNat = 24 * (320 * tsN fs (rix v) + cpl p q) + j by omega, m5 j (by omega), j4.2 j (by omega)]
          refine E2.lf w1 (E2.lg k10 (E2.lg (by rw [k11]; omega) (E2.rf (by decide) (E2.rg (by omega) (E2.r (OpQ.val hh Rb f X rfl))))))
    · exact E2.lg z2 (E2.rg z2 (E2.r (OpQ.val hh Rb f X rfl)))
  · rw [if_neg c, if_neg c]
    exact E2.lf (fun z => z rfl) (E2.rf (by decide) (E2.r (OpQ.same R)))
end State23
