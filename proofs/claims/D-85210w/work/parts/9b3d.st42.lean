/-! ===== PHASE 2: the act sort: who goes ahead ===== -/
section State42
variable {N x h k : Nat} {σ τ r : gMem} {V : Nat → Vl} {a b : Vl} {w : Int}
def rkV (v : Vl) : Int := if v.1 = 0 then 5 else v.1
/-- a goes ahead of b -/
def aheadP (w : Int) (a b : Vl) : Prop := rkV a ≠ 5 ∧ (rkV b = 5 ∨ (rkV b ≠ 5 ∧ ((rkV a = rkV b ∧ rkV a ≠ 4 ∧ (if w = 0 then ordV a b < 0 else 0 < ordV a b)) ∨ (rkV a ≠ rkV b ∧ (if w = 0 then rkV a < rkV b else rkV b < rkV a)))))
theorem rkV_r (k : VOk a) : 1 ≤ rkV a ∧ rkV a ≤ 5 := by
  have := k.k
  unfold rkV; split <;> omega
theorem c_rankOf (k : VOk a) : x1_rankOf a.1 σ = some (rkV a - 1) := by
  have z := k.k
  unfold x1_rankOf rkV
  have : a.1 = 0 ∨ a.1 = 1 ∨ a.1 = 2 ∨ a.1 = 3 ∨ a.1 = 4 := by omega
  rcases this with e | e | e | e | e <;> rw [e] <;> rfl
theorem t_rank : tw_rank a.1 τ = some (rkV a) := by
  unfold tw_rank rkV
  by_cases c : a.1 = 0
  · rw [if_neg (fun z => z c), if_pos c]
  · rw [if_pos c, if_neg c]
theorem sgn_v {y : Int} : (sgnI y < 0 ↔ y < 0) ∧ (0 < sgnI y ↔ 0 < y) := by
  unfold sgnI
  by_cases c : y < 0
  · rw [if_pos c]; omega
  · rw [if_neg c]
    by_cases c2 : 0 < y
    · rw [if_pos c2]; omega
    · rw [if_neg c2]; omega
/-- a text against a text: not far from 0 -/
theorem c_ag_l {w0 u0 : Nat} {K : Option Int} (ya : VW σ w0 a) (yb : VW σ u0 b) (ha : ∀ c ∈ a.2.2, 32 ≤ c ∧ c ≤ 126) (hb : ∀ c ∈ b.2.2, 32 ≤ c ∧ c ≤ 126) (la : a.2.2.length ≤ 24) (e1 : mR σ w0 3 = w0 + 1) (e2 : mR σ u0 3 = u0 + 1) (hK : ∀ z, K = some z → -1000 ≤ z ∧ z ≤ 1000) : ∀ (f i : Nat) (z : Int), x5_against_l22 N σ w0 u0 K f (i : Int) = some z → -1000 ≤ z ∧ z ≤ 1000 := by
  intro f
  induction f with
  | zero => intro i z hz; cases hz
  | succ f ih =>
    intro i z hz
    rw [x5_against_l22, e1, e2, tn, ya.2.2.1, yb.2.2.1] at hz
    split at hz
    · split at hz
      · exact hK z hz
      · rename_i c1
        split at hz
        · split at hz
          · exact hK z hz
          · rename_i c2
            have gi := ya.2.2.2.2 i (by omega)
            have gj := yb.2.2.2.2 i (by omega)
            have m1 := ha _ (gl_mm (show i < a.2.2.length by omega))
            have m2 := hb _ (gl_mm (show i < b.2.2.length by omega))
            rw [gi, gj] at hz
            repeat' split at hz
            all_goals first
              | (rw [inc32 (by omega)] at hz; exact ih (i + 1) z hz)
              | (have e := Option.some.inj hz
                 rw [w32_i (by omega) (by omega)] at e; omega)
              | cases hz
        · cases hz
    · cases hz
theorem c_ag_r {w0 u0 : Nat} {y : Int} (ws : WS σ w0) (us : WS σ u0) (ya : VW σ w0 a) (yb : VW σ u0 b) (ey : x5_against N w0 u0 σ = some y) : -1000 ≤ y ∧ y ≤ 1000 := by
  have ta := ya.1.txt
  have tb := yb.1.txt
  unfold x5_against at ey
  rw [if_pos ws.1] at ey
  by_cases c : mI σ w0 0 = 2
  · rw [if_pos c] at ey
    refine c_ag_l ya yb ta.2 tb.2 ta.1 ws.2.1 us.2.1 (fun z hz => ?_) N 0 y ey
    rw [if_pos us.1, ya.2.2.1, yb.2.2.1] at hz
    have e := Option.some.inj hz
    rw [w32_i (by omega) (by omega)] at e; omega
  · rw [if_neg c, if_pos us.1] at ey
    unfold j15_compare at ey
    split at ey
    · split at ey <;> (have e := Option.some.inj ey; omega)
    · have e := Option.some.inj ey; omega
theorem VV.exx {P : Nat → Nat → Prop} {q : Nat} (v : VV σ q V) (X : Ex P σ τ) (hP : ∀ i, i ≤ 4 → ∀ k, ¬ P (q + i) k) : VV τ q V := by
  obtain ⟨k1, k2, k3, k4, k5, k6, k7, k8, k9, k10, k11, k12, k13, k14⟩ := v
  unfold VV
  rw [X.rT, X.rR, X.rN]
  refine ⟨k1, k2, k3, k4, k5, k6, k7, k8, k9, k10, k11, k12, k13, fun k hk => ?_⟩
  obtain ⟨o, z1, z2, z3, z4⟩ := k14 k hk
  exact ⟨o, by rw [X.rI (hP 1 (by decide) k)]; exact z1, by rw [X.rI (hP 2 (by decide) k)]; exact z2, by rw [X.rL (hP 4 (by decide) k)]; exact z3, fun i hi => by rw [X.rI (hP 3 (by decide) _)]; exact z4 i hi⟩
def SrC (x a _k : Nat) : Prop := x + 1437 ≤ a ∧ a ≤ x + 1440
/-- the class compares two values of a column -/
theorem c_ahead {p q c : Nat} (hN : 2000 ≤ N) (t1 : mT σ x = 1) (e9 : mR σ x 9 = x + 4) (e30 : mR σ x 30 = x + 1437) (e31 : mR σ x 31 = x + 1439) (w1 : WS σ (x + 1437)) (w2 : WS σ (x + 1439)) (vv : VV σ (x + 4) V) (hp : p < 32) (hq : q < 32) (hc : c < 10) (hw : w = 0 ∨ w = 1) : Ev (x1_against N x p q c w σ) (fun r => (r.1 < 0 ↔ aheadP w (V (10 * p + c)) (V (10 * q + c))) ∧ Ex (SrC x) σ r.2) := by
  have t4 : mT σ (x + 4) = 2 := vv.1
  unfold x1_against
  rw [e9, e30, show w32 (10 * (p : Int) + (c : Int)) = ((10 * p + c : Nat) : Int) by rw [w32_i (by omega) (by omega)]; omega, show w32 (10 * (q : Int) + (c : Int)) = ((10 * q + c : Nat) : Int) by rw [w32_i (by omega) (by omega)]; omega]
  refine Ev.g t1 (Ev.g t4 (Ev.c (c_giveV (k := 10 * p + c) w1 vv (by omega) (fun i hi => by omega)) (fun r1 _ z1 => ?_)))
  obtain ⟨X1, y1⟩ := z1
  have vv1 : VV r1 (x + 4) V := vv.exx X1 (fun i hi k p => by unfold Wp at p; omega)
  rw [X1.rT, X1.rR, e9, e31]
  refine Ev.g t4 (Ev.c (c_giveV (k := 10 * q + c) (w2.ex X1) vv1 (by omega) (fun i hi => by omega)) (fun r2 _ z2 => ?_))
  obtain ⟨X2, y2⟩ := z2
  have y1' : VW r2 (x + 1437) (V (10 * p + c)) := y1.ex X2 (by unfold Wp; omega) (by unfold Wp; omega)
  have XX : Ex (SrC x) σ r2 := (X1.mono (fun a k p => by unfold Wp at p; unfold SrC; omega)).tr (X2.mono (fun a k p => by unfold Wp at p; unfold SrC; omega))
  have rR : mR r2 = mR σ := XX.rR
  have rT : mT r2 = mT σ := XX.rT
  have w1' := w1.ex XX
  have w2' := w2.ex XX
  generalize V (10 * p + c) = a at y1' ⊢
  generalize V (10 * q + c) = b at y2 ⊢
  have ka := rkV_r y1'.1
  have kb := rkV_r y2.1
  have a0 : mI r2 (x + 1437) 0 = a.1 := y1'.2.1
  have b0 : mI r2 (x + 1439) 0 = b.1 := y2.2.1
  have ra : (a.1 = 0 ↔ rkV a = 5) := by have := y1'.1.k; unfold rkV; split <;> omega
  have rb : (b.1 = 0 ↔ rkV b = 5) := by have := y2.1.k; unfold rkV; split <;> omega
  have ra4 : (a.1 = 4 ↔ rkV a = 4) := by have := y1'.1.k; unfold rkV; split <;> omega
  have rab : rkV a = rkV b → a.1 = b.1 := by have := y1'.1.k; have := y2.1.k; unfold rkV; split <;> split <;> omega
  rw [rR, rT, e30, e31, a0, b0, c_rankOf y1'.1, Option.bind_some, c_rankOf y2.1, Option.bind_some]
  refine Ev.g w1.1 (Ev.g w2.1 ?_)
  -- the end
  have J : ∀ v5 : Int, -1000 ≤ v5 → v5 ≤ 1000 → Ev (x1_against_j102 N x w v5 r2) (fun r => (r.1 = if w = 0 ∨ rkV a = 5 ∨ rkV b = 5 then v5 else 0 - v5) ∧ r.2 = r2) := by
    intro v5 g1 g2
    unfold x1_against_j102 x1_against_j122 x1_against_j127
    rw [rR, rT, e30, e31, a0, b0]
    refine Ev.g t1 (Ev.g w1.1 ?_)
    by_cases c1 : a.1 = 0
    · refine Ev.g c1 ?_
      rw [if_pos (Or.inr (Or.inl (ra.mp c1)))]
      by_cases cw : w = 0
      · exact Ev.g cw (Ev.r ⟨rfl, rfl⟩)
      · exact Ev.f cw (Ev.g (by decide) (Ev.r ⟨rfl, rfl⟩))
    · refine Ev.f c1 (Ev.g w2.1 ?_)
      by_cases c2 : b.1 ≠ 0
      · refine Ev.g c2 ?_
        by_cases cw : w = 0
        · rw [if_pos (Or.inl cw)]
          exact Ev.g cw (Ev.r ⟨rfl, rfl⟩)
        · rw [if_neg (show ¬ (w = 0 ∨ rkV a = 5 ∨ rkV b = 5) by omega)]
          exact Ev.f cw (Ev.f (by decide) (Ev.r ⟨(w32_i (by omega) (by omega)).trans (by omega), rfl⟩))
      · refine Ev.f c2 ?_
        rw [if_pos (Or.inr (Or.inr (by omega)))]
        by_cases cw : w = 0
        · exact Ev.g cw (Ev.r ⟨rfl, rfl⟩)
        · exact Ev.f cw (Ev.g (by decide) (Ev.r ⟨rfl, rfl⟩))
  have cmp : j16_compare (rkV a - 1) (rkV b - 1) r2 = some (if rkV b ≤ rkV a then (if rkV a ≠ rkV b then 1 else 0) else -1) := by
    unfold j16_compare
    by_cases c1 : rkV b ≤ rkV a
    · rw [if_pos (by omega), if_pos c1]
      by_cases c2 : rkV a ≠ rkV b
      · rw [if_pos (by omega), if_pos c2]
      · rw [if_neg (by omega), if_neg c2]
    · rw [if_neg (by omega), if_neg c1]
  rw [cmp, Option.bind_some]
  by_cases e : rkV a = rkV b
  · have cv : (if rkV b ≤ rkV a then (if rkV a ≠ rkV b then (1 : Int) else 0) else -1) = 0 := by rw [if_pos (by omega), if_neg (fun z => z e)]
    rw [cv]
    refine Ev.f (fun z => z rfl) ?_
    unfold x1_against_j85 x1_against_j100
    by_cases c1 : a.1 = 0
    · refine Ev.g c1 ((J 0 (by decide) (by decide)).m (fun r z => ⟨?_, by rw [z.2]; exact XX⟩))
      rw [z.1]
      constructor
      · intro y; split at y <;> omega
      · intro y; exact absurd (ra.mp c1) y.1
    · refine Ev.f c1 ?_
      by_cases c4 : a.1 ≠ 4
      · obtain ⟨y, ey, hy⟩ := c_against (N := N) (by omega) w1' w2' y1' y2 (rab e)
        have sv := sgn_v (y := y)
        rw [hy] at sv
        refine Ev.g c4 (Ev.e ey ?_)
        have J2 : Ev (x1_against_j102 N x w y r2) (fun r => ((w = 0 ∧ r.1 = y) ∨ (w ≠ 0 ∧ r.1 = 0 - y)) ∧ r.2 = r2) := by
          have hy32 := c_ag_r w1' w2' y1' y2 ey
          unfold x1_against_j102 x1_against_j122 x1_against_j127
          rw [rR, rT, e30, e31, a0, b0]
          refine Ev.g t1 (Ev.g w1.1 (Ev.f c1 (Ev.g w2.1 (Ev.g (by omega) ?_))))
          by_cases cw : w = 0
          · exact Ev.g cw (Ev.r ⟨Or.inl ⟨cw, rfl⟩, rfl⟩)
          · exact Ev.f cw (Ev.f (by decide) (Ev.r ⟨Or.inr ⟨cw, (w32_i (by omega) (by omega)).trans (by omega)⟩, rfl⟩))
        refine J2.m (fun r z => ⟨?_, by rw [z.2]; exact XX⟩)
        obtain ⟨z, -⟩ := z
        unfold aheadP
        by_cases cw : w = 0
        · rw [if_pos cw, if_pos cw]; omega
        · rw [if_neg cw, if_neg cw]; omega
      · refine Ev.f c4 ((J 0 (by decide) (by decide)).m (fun r z => ⟨?_, by rw [z.2]; exact XX⟩))
        rw [z.1]
        constructor
        · intro y; split at y <;> omega
        · intro y
          unfold aheadP at y
          omega
  · have ne : (if rkV b ≤ rkV a then (if rkV a ≠ rkV b then (1 : Int) else 0) else -1) = if rkV b < rkV a then 1 else -1 := by
      by_cases c1 : rkV b < rkV a
      · rw [if_pos (by omega), if_pos e, if_pos c1]
      · rw [if_neg (by omega), if_neg c1]
    rw [ne]
    refine Ev.g (by split <;> decide) ((J _ (by split <;> decide) (by split <;> decide)).m (fun r z => ⟨?_, by rw [z.2]; exact XX⟩))
    rw [z.1]
    unfold aheadP
    by_cases c1 : rkV b < rkV a
    · rw [if_pos c1]
      by_cases cw : w = 0
      · rw [if_pos (Or.inl cw), if_pos cw, if_pos cw]; omega
      · rw [if_neg cw, if_neg cw]
        by_cases c2 : w = 0 ∨ rkV a = 5 ∨ rkV b = 5
        · rw [if_pos c2]; omega
        · rw [if_neg c2]; omega
    · rw [if_neg c1]
      by_cases cw : w = 0
      · rw [if_pos (Or.inl cw), if_pos cw, if_pos cw]; omega
      · rw [if_neg cw, if_neg cw]
        by_cases c2 : w = 0 ∨ rkV a = 5 ∨ rkV b = 5
        · rw [if_pos c2]; omega
        · rw [if_neg c2]; omega
/-- the twin compares two values -/
theorem t_ahead {p q : Nat} (hN : 2000 ≤ N) (hT : mT τ (h + 31) = 102) (hL : mN τ (h + 31) = 314880) (tb : TB τ h) (ga : VC τ h p a) (gb : VC τ h q b) (hp : p < 13120) (hq : q < 13120) (hw : w = 0 ∨ w = 1) : Ev (tw_isAhead N h p q w τ) (fun r => (r.1 = 0 ∨ r.1 = 1) ∧ (r.1 ≠ 0 ↔ aheadP w a b) ∧ Ex (fun a _ => h + 33 ≤ a ∧ a ≤ h + 37) τ r.2 ∧ TB r.2 h) := by
  have ka := rkV_r ga.1
  have kb := rkV_r gb.1
  unfold tw_isAhead
  rw [tn, tn, ga.2.1, gb.2.1, t_rank, Option.bind_some, t_rank, Option.bind_some]
  refine Ev.g (by omega) (Ev.g (by omega) ?_)
  unfold tw_isAhead_j34 tw_isAhead_j66
  by_cases c1 : rkV a = 5
  · refine Ev.g c1 (Ev.g (by omega) (Ev.r ⟨Or.inl rfl, ⟨fun z => absurd rfl z, fun z => absurd c1 z.1⟩, Ex.rf, tb⟩))
  · refine Ev.f c1 ?_
    by_cases c2 : rkV b ≠ 5
    · refine Ev.g c2 ?_
      by_cases c3 : rkV a = rkV b
      · refine Ev.g c3 ?_
        by_cases c4 : rkV a ≠ 4
        · have hk : a.1 = b.1 := by unfold rkV at c3 c1 c2; split at c3 <;> split at c3 <;> omega
          refine Ev.g c4 (Ev.c (t_load (d := 0) (by decide) hp (by omega) hT hL tb ga) (fun r1 _ z1 => ?_))
          obtain ⟨X1, tb1, h1⟩ := z1
          have gb1 : VC r1 h q b := VG.ex X1 gb (by unfold Hp; omega) (by unfold Hp; omega) (by unfold Hp; omega) (fun i hi => by unfold Hp; omega)
          refine Ev.c (t_load (d := 1) (by decide) hq (by omega) (by rw [X1.rT]; exact hT) (by rw [X1.rN]; exact hL) (tb1 tb) gb1) (fun r2 _ z2 => ?_)
          obtain ⟨X2, tb2, h2⟩ := z2
          have h1' : VH r2 h 0 a := VG.ex X2 h1 (by unfold Hp; omega) (by unfold Hp; omega) (by unfold Hp; omega) (fun i hi => by unfold Hp; omega)
          have XX : Ex (fun a _ => h + 33 ≤ a ∧ a ≤ h + 37) τ r2 := (X1.mono (fun a k p => by unfold Hp at p; omega)).tr (X2.mono (fun a k p => by unfold Hp at p; omega))
          have TB2 := tb2 (tb1 tb)
          refine Ev.e (t_order (d := 0) (e := 1) (by decide) (by decide) (by omega) h1' h2 hk) ?_
          by_cases cw : w = 0
          · refine Ev.g cw ?_
            by_cases c5 : 0 ≤ ordV a b
            · exact Ev.g c5 (Ev.r ⟨Or.inl rfl, ⟨fun z => absurd rfl z, fun z => by unfold aheadP at z; rw [if_pos cw, if_pos cw] at z; omega⟩, XX, TB2⟩)
            · exact Ev.f c5 (Ev.r ⟨Or.inr rfl, ⟨fun _ => by unfold aheadP; rw [if_pos cw, if_pos cw]; omega, fun _ => (show (1 : Int) ≠ 0 by decide)⟩, XX, TB2⟩)
          · refine Ev.f cw ?_
            by_cases c5 : ordV a b ≤ 0
            · exact Ev.g c5 (Ev.r ⟨Or.inl rfl, ⟨fun z => absurd rfl z, fun z => by unfold aheadP at z; rw [if_neg cw, if_neg cw] at z; omega⟩, XX, TB2⟩)
            · exact Ev.f c5 (Ev.r ⟨Or.inr rfl, ⟨fun _ => by unfold aheadP; rw [if_neg cw, if_neg cw]; omega, fun _ => (show (1 : Int) ≠ 0 by decide)⟩, XX, TB2⟩)
        · exact Ev.f c4 (Ev.r ⟨Or.inl rfl, ⟨fun z => absurd rfl z, fun z => by unfold aheadP at z; omega⟩, Ex.rf, tb⟩)
      · refine Ev.f c3 ?_
        by_cases c5 : rkV b ≤ rkV a
        · refine Ev.g c5 ?_
          rcases hw with cw | cw
          · exact Ev.g cw.symm (Ev.r ⟨Or.inl rfl, ⟨fun z => absurd rfl z, fun z => by unfold aheadP at z; rw [if_pos cw, if_pos cw] at z; omega⟩, Ex.rf, tb⟩)
          · exact Ev.f (by omega) (Ev.r ⟨Or.inr rfl, ⟨fun _ => by unfold aheadP; rw [if_neg (by omega), if_neg (by omega)]; omega, fun _ => (show (1 : Int) ≠ 0 by decide)⟩, Ex.rf, tb⟩)
        · refine Ev.f c5 ?_
          rcases hw with cw | cw
          · exact Ev.f (by omega) (Ev.r ⟨Or.inr rfl, ⟨fun _ => by unfold aheadP; rw [if_pos cw, if_pos cw]; omega, fun _ => (show (1 : Int) ≠ 0 by decide)⟩, Ex.rf, tb⟩)
          · exact Ev.g cw.symm (Ev.r ⟨Or.inl rfl, ⟨fun z => absurd rfl z, fun z => by unfold aheadP at z; rw [if_neg (by omega), if_neg (by omega)] at z; omega⟩, Ex.rf, tb⟩)
    · exact Ev.f c2 (Ev.f (by omega) (Ev.r ⟨Or.inr rfl, ⟨fun _ => ⟨c1, Or.inl (by omega)⟩, fun _ => (show (1 : Int) ≠ 0 by decide)⟩, Ex.rf, tb⟩))
end State42
