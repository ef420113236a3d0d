/-! ===== PHASE 2: the component's graph: where a formula leads to ===== -/
section CoGraph4
variable {N L sh k : Nat} {σ σ' s : gMem} {R C : List Int} {cx : Cx}
def L1 (L a : Nat) (_ : Nat) : Prop := a = L + 1
/-- what leads are put by -/
def LQ (s : gMem) (L sh k : Nat) (R C : List Int) : Prop := LK s L ∧ mI s L 9 = k ∧ k < 320 ∧ ShL s sh R C ∧ KN s ∧ gOk s ∧ 0 < mZ s
theorem LQ.wn (h : LQ s L sh k R C) : WN s (fun a => a = L + 1) := by
  have t : mT s (L + 1) = 101 := h.1.2.2.1
  refine ⟨by omega, fun a ha => ?_⟩
  have ha' : a = L + 1 := ha
  rw [ha', t]; omega
theorem LQ.ex (h : LQ s L sh k R C) (x : Ex (L1 L) s σ') : LQ σ' L sh k R C := by
  obtain ⟨h1, h2, h2b, h3, h4, h5, h6⟩ := h
  have t : mT s (L + 1) = 101 := h1.2.2.1
  have K : Kz (fun a => a = L + 1) s σ' := x.kp h5 (fun a _ p => p)
  refine ⟨h1.ex x, by rw [x.rI (by unfold L1; omega)]; exact h2, h2b, ?_, fun j hj => ?_, K.ok, by rw [x.rZ]; exact h6⟩
  · refine h3.kp K h5 (fun e => ?_) (fun e => ?_) (fun e => ?_)
    · have e' : sh = L + 1 := e
      rw [e'] at h3; rw [h3.1] at t; cases t
    · have e' : mR s sh 0 = L + 1 := e
      have q := h3.2.1.1; rw [e', t] at q; cases q
    · have e' : mR s sh 1 = L + 1 := e
      have q := h3.2.2.1.1; rw [e', t] at q; cases q
  · have q := h4 j hj
    rw [x.rR, x.rT, x.rI (fun e => by have e' : mR s 0 j = L + 1 := e; rw [e', t] at q; omega)]; exact q
/-- ways are put to S -/
def LdP (s r : gMem) (L k : Nat) (S : Nat → Prop) : Prop := Ex (L1 L) s r ∧ ∀ p q, q < 320 → (BT r (L + 1) p q = true ↔ BT s (L + 1) p q = true ∨ (p = k ∧ S q))
theorem LdP.rf {S : Nat → Prop} (h : ∀ q, ¬ S q) : LdP s s L k S := ⟨Ex.rf, fun p q _ => ⟨Or.inl, fun z => z.elim id (fun z => absurd z.2 (h q))⟩⟩
theorem LdP.tr {S S' S'' : Nat → Prop} {r r' : gMem} (x : LdP s r L k S) (y : LdP r r' L k S') (h : ∀ q, S'' q ↔ S q ∨ S' q) : LdP s r' L k S'' := by
  refine ⟨x.1.tr y.1, fun p q hq => ?_⟩
  rw [y.2 p q hq, x.2 p q hq, h q]
  constructor
  · rintro ((z | z) | z)
    · exact Or.inl z
    · exact Or.inr ⟨z.1, Or.inl z.2⟩
    · exact Or.inr ⟨z.1, Or.inr z.2⟩
  · rintro (z | ⟨z1, z2 | z2⟩)
    · exact Or.inl (Or.inl z)
    · exact Or.inl (Or.inr ⟨z1, z2⟩)
    · exact Or.inr ⟨z1, z2⟩
theorem LdP.cg {S S' : Nat → Prop} {r : gMem} (x : LdP s r L k S) (h : ∀ q, q < 320 → (S' q ↔ S q)) : LdP s r L k S' := ⟨x.1, fun p q hq => by rw [x.2 p q hq, h q hq]⟩
theorem c_addP {r c : Nat} (h : LQ s L sh k R C) (hr : r < 32) (hc : c < 10) : Ev (x4_add L r c s) (fun r' => LdP s r' L k (fun q => q = 10 * r + c)) := by
  refine (c_add h.1 h.2.1 h.2.2.1 hr hc).m (fun r' z => ⟨z.1, fun p q hq => ?_⟩)
  rw [z.2 p q hq, Bool.or_eq_true, decide_eq_true_iff]
def HL (L sh k : Nat) (R C : List Int) (cx : Cx) (n : Nat) (W : Nat → Nat → Nat → gMem → Option gMem) : Prop :=
  ∀ (q : Nat) (l : Fm) (s : gMem), IsP s n q l → LQ s L sh k R C → Ev (W q L sh s) (fun r => LdP s r L k (fun j => j ∈ leadsF cx l))
theorem c_area_in {s0 : gMem} {r c2 : Nat} {v5 v4 : Int} {S : Nat → Prop} {K : gMem → Option gMem} {Φ : gMem → Prop} (hr : r < 32) (hc2 : c2 < 10) (S' : Nat → Prop) (hS : ∀ q, S' q ↔ S q ∨ ∃ c : Nat, v5 ≤ (c : Int) ∧ c ≤ c2 ∧ q = 10 * r + c) (hK : ∀ s, LdP s0 s L k S' → LQ s L sh k R C → Ev (K s) Φ) : ∀ (m c f : Nat) (s : gMem), c + m = c2 + 1 → m < f → v5 ≤ (c : Int) → LQ s L sh k R C → LdP s0 s L k (fun q => S q ∨ ∃ c' : Nat, v5 ≤ (c' : Int) ∧ c' < c ∧ q = 10 * r + c') → Ev (x19_leads_l152 N L v4 v5 c2 r K f c s) Φ := by
  intro m
  induction m with
  | zero =>
    intro c f s h1 h2 h3 h4 h5
    obtain ⟨f, rfl⟩ : ∃ j, f = j + 1 := ⟨f - 1, by omega⟩
    unfold x19_leads_l152
    refine Ev.g (by omega) (hK s (h5.cg (fun q _ => ?_)) h4)
    rw [hS q]
    exact ⟨fun z => z.imp id (fun ⟨c', z1, z2, z3⟩ => ⟨c', z1, by omega, z3⟩), fun z => z.imp id (fun ⟨c', z1, z2, z3⟩ => ⟨c', z1, by omega, z3⟩)⟩
  | succ m ih =>
    intro c f s h1 h2 h3 h4 h5
    obtain ⟨f, rfl⟩ : ∃ j, f = j + 1 := ⟨f - 1, by omega⟩
    unfold x19_leads_l152
    refine Ev.f (by omega) (Ev.g h4.1.1 (Ev.c (c_addP h4 hr (by omega)) (fun s2 _ z => ?_)))
    rw [inc32 (by omega)]
    refine ih (c + 1) f s2 (by omega) (by omega) (by omega) (h4.ex z.1) (h5.tr z (fun q => ?_))
    constructor
    · rintro (y | ⟨c', y1, y2, y3⟩)
      · exact Or.inl (Or.inl y)
      · by_cases e : c' = c
        · exact Or.inr (by rw [y3, e])
        · exact Or.inl (Or.inr ⟨c', y1, by omega, y3⟩)
    · rintro ((y | ⟨c', y1, y2, y3⟩) | y)
      · exact Or.inl y
      · exact Or.inr ⟨c', y1, by omega, y3⟩
      · exact Or.inr ⟨c, h3, by omega, y⟩
theorem c_area_out {s0 : gMem} {r1 r2 c1 c2 : Nat} {S' : Nat → Prop} {K : gMem → Option gMem} {Φ : gMem → Prop} (hN : 50 ≤ N) (hr2 : r2 < 32) (hc2 : c2 < 10) (hc : c1 ≤ c2) (hS : ∀ q, S' q ↔ ∃ r c, r1 ≤ r ∧ r ≤ r2 ∧ c1 ≤ c ∧ c ≤ c2 ∧ q = 10 * r + c) (hK : ∀ s, LdP s0 s L k S' → Ev (K s) Φ) : ∀ (m r f : Nat) (s : gMem), r + m = r2 + 1 → m < f → r1 ≤ r → LQ s L sh k R C → LdP s0 s L k (fun q => ∃ r' c, r1 ≤ r' ∧ r' < r ∧ c1 ≤ c ∧ c ≤ c2 ∧ q = 10 * r' + c) → Ev (x19_leads_l141 N L r2 c1 c2 K f r s) Φ := by
  intro m
  induction m with
  | zero =>
    intro r f s h1 h2 h3 h4 h5
    obtain ⟨f, rfl⟩ : ∃ j, f = j + 1 := ⟨f - 1, by omega⟩
    unfold x19_leads_l141
    refine Ev.g (by omega) (hK s (h5.cg (fun q _ => ?_)))
    rw [hS q]
    exact ⟨fun ⟨r', c, z1, z2, z3⟩ => ⟨r', c, z1, by omega, z3⟩, fun ⟨r', c, z1, z2, z3⟩ => ⟨r', c, z1, by omega, z3⟩⟩
  | succ m ih =>
    intro r f s h1 h2 h3 h4 h5
    obtain ⟨f, rfl⟩ : ∃ j, f = j + 1 := ⟨f - 1, by omega⟩
    unfold x19_leads_l141
    refine Ev.f (by omega) (c_area_in (s0 := s0) (sh := sh) (k := k) (R := R) (C := C) (S := fun q => ∃ r' c, r1 ≤ r' ∧ r' < r ∧ c1 ≤ c ∧ c ≤ c2 ∧ q = 10 * r' + c) (by omega) hc2 (fun q => ∃ r' c, r1 ≤ r' ∧ r' < r + 1 ∧ c1 ≤ c ∧ c ≤ c2 ∧ q = 10 * r' + c) (fun q => ?_) (fun s2 z2 q2 => ?_) (c2 + 1 - c1) c1 N s (by omega) (by omega) (by omega) h4 (h5.cg (fun q _ => ?_)))
    · constructor
      · rintro ⟨r', c, z1, z2, z3, z4, z5⟩
        by_cases e : r' = r
        · exact Or.inr ⟨c, by omega, z4, by rw [z5, e]⟩
        · exact Or.inl ⟨r', c, z1, by omega, z3, z4, z5⟩
      · rintro (⟨r', c, z1, z2, z3⟩ | ⟨c, z1, z2, z3⟩)
        · exact ⟨r', c, z1, by omega, z3⟩
        · exact ⟨r, c, h3, by omega, by omega, z2, z3⟩
    · rw [inc32 (by omega)]
      exact ih (r + 1) f s2 (by omega) (by omega) (by omega) q2 z2
    · exact ⟨fun z => z.elim id (fun ⟨c, z1, z2, z3⟩ => absurd z1 (by omega)), Or.inl⟩
theorem arL_mem {r c r' c' : Int} (h1 : 0 ≤ r) (h2 : 0 ≤ c) (h3 : 0 ≤ r') (h4 : 0 ≤ c') (j : Nat) : j ∈ arL r c r' c' ↔ ∃ a b : Nat, (min r r').toNat ≤ a ∧ a ≤ (max r r').toNat ∧ (min c c').toNat ≤ b ∧ b ≤ (max c c').toNat ∧ j = 10 * a + b := by
  unfold arL lst
  rw [List.mem_map]
  generalize hW : (max c c').toNat + 1 - (min c c').toNat = W
  generalize hH : (max r r').toNat + 1 - (min r r').toNat = H
  have W0 : 0 < W := by omega
  constructor
  · rintro ⟨k, hk, e⟩
    have hk' := List.mem_range.mp hk
    have m1 : k / W < H := (Nat.div_lt_iff_lt_mul W0).mpr hk'
    have m2 : k % W < W := Nat.mod_lt _ W0
    exact ⟨_, _, Nat.le_add_right _ _, by omega, Nat.le_add_right _ _, by omega, e.symm⟩
  · rintro ⟨a, b, z1, z2, z3, z4, rfl⟩
    refine ⟨W * (a - (min r r').toNat) + (b - (min c c').toNat), List.mem_range.mpr ?_, ?_⟩
    · have : W * (a - (min r r').toNat) + W ≤ H * W := by
        rw [Nat.mul_comm H W, ← Nat.mul_succ]
        exact Nat.mul_le_mul_left _ (by omega)
      omega
    · rw [Nat.mul_add_div W0, Nat.mul_add_mod, Nat.div_eq_of_lt (by omega), Nat.mod_eq_of_lt (by omega)]; omega
theorem c_spotL {n q : Nat} {p : Pt} (hN : 50 ≤ N) (hcx : cx.1 (-1) = (R, C)) (O : PtOk p) (h : LQ s L sh k R C) (kp : pK p = 5) (k1 : mT s q = 15) (kT : mT s (mR s q 0) = 14) (k2 : p = mkS (mI s (mR s q 0) 0) (mI s (mR s q 0) 1) (cfx s (mR s q 0)) (mI s q 1)) : Ev (x17_leads N q L sh s) (fun r => LdP s r L k (fun j => j ∈ leadL cx p [])) := by
  have eW : mI s q 1 = pW p := by rw [k2]; rfl
  have e1 : mI s (mR s q 0) 0 = pR1 p := by rw [k2]; rfl
  have e2 : mI s (mR s q 0) 1 = pC1 p := by rw [k2]; rfl
  have pv := O.ver
  have h0 := h
  obtain ⟨h1, h2, h3, h4, h5, h6, h7⟩ := h
  have b1 := pl_ge R (pR1 p)
  have b2 := pl_ge C (pC1 p)
  have lR := h4.2.1.2.2.1
  have lC := h4.2.2.2
  unfold x17_leads leadL
  rw [if_pos kp, eW]
  refine Ev.g k1 ?_
  by_cases cw : pW p = -1
  · have es : cxSpot cx p = if pl R (pR1 p) < 0 ∨ pl C (pC1 p) < 0 then -1 else 10 * pl R (pR1 p) + pl C (pC1 p) := by unfold cxSpot spotAt; rw [cw, hcx]
    refine Ev.f (fun z => z cw) (Ev.g kT (Ev.e (c_isIn (by omega) kT h4) ?_))
    rw [e1, e2, es]
    by_cases c : pl R (pR1 p) < 0 ∨ pl C (pC1 p) < 0
    · rw [if_pos c, if_pos c, if_neg (show ¬ (pW p < 0 ∧ (0 : Int) ≤ -1) by omega)]
      exact Ev.g rfl (Ev.r (LdP.rf (fun j (z : j ∈ ([] : List Nat)) => by cases z)))
    · rw [if_neg c, if_neg c, if_pos (show pW p < 0 ∧ 0 ≤ 10 * pl R (pR1 p) + pl C (pC1 p) by omega)]
      refine Ev.f (by decide) (Ev.g h4.1 (Ev.e (c_row (by omega) h4 _) (Ev.e (c_column (by omega) h4 _) (Ev.g h1.1 ?_))))
      obtain ⟨a, ha⟩ : ∃ a : Nat, pl R (pR1 p) = a := ⟨(pl R (pR1 p)).toNat, by omega⟩
      obtain ⟨b, hb⟩ : ∃ b : Nat, pl C (pC1 p) = b := ⟨(pl C (pC1 p)).toNat, by omega⟩
      rw [ha, hb]
      refine Ev.c (c_addP h0 (by omega) (by omega)) (fun r _ z => Ev.r (z.cg (fun j _ => ?_)))
      rw [List.mem_singleton]; omega
  · refine Ev.g cw (Ev.r (LdP.rf (fun j z => ?_)))
    rw [if_neg (by omega)] at z; cases z
theorem c_areaL {n q : Nat} {p : Pt} (hN : 50 ≤ N) (hcx : cx.1 (-1) = (R, C)) (O : PtOk p) (h : LQ s L sh k R C) (kp : pK p = 6) (k1 : mT s q = 17) (kT : mT s (mR s q 0) = 14) (kT' : mT s (mR s q 1) = 14) (k2 : p = mkA (mI s (mR s q 0) 0) (mI s (mR s q 0) 1) (mI s (mR s q 1) 0) (mI s (mR s q 1) 1) (cfx s (mR s q 0) + 4 * cfx s (mR s q 1)) (mI s q 2)) : Ev (x19_leads N q L sh s) (fun r => LdP s r L k (fun j => j ∈ leadL cx p [])) := by
  have eW : mI s q 2 = pW p := by rw [k2]; rfl
  have e1 : mI s (mR s q 0) 0 = pR1 p := by rw [k2]; rfl
  have e2 : mI s (mR s q 0) 1 = pC1 p := by rw [k2]; rfl
  have e3 : mI s (mR s q 1) 0 = pR2 p := by rw [k2]; rfl
  have e4 : mI s (mR s q 1) 1 = pC2 p := by rw [k2]; rfl
  have pv := O.ver
  have h0 := h
  obtain ⟨h1, h2, h3, h4, h5, h6, h7⟩ := h
  have b1 := pl_ge R (pR1 p)
  have b2 := pl_ge C (pC1 p)
  have b3 := pl_ge R (pR2 p)
  have b4 := pl_ge C (pC2 p)
  have lR := h4.2.1.2.2.1
  have lC := h4.2.2.2
  unfold x19_leads leadL
  rw [if_neg (show ¬ pK p = 5 by omega), if_pos kp, eW]
  refine Ev.g k1 ?_
  by_cases cw : pW p = -1
  · have es : cxArea cx p = if pl R (pR1 p) < 0 ∨ pl C (pC1 p) < 0 ∨ pl R (pR2 p) < 0 ∨ pl C (pC2 p) < 0 then none else some (arL (pl R (pR1 p)) (pl C (pC1 p)) (pl R (pR2 p)) (pl C (pC2 p))) := by unfold cxArea areaAt; rw [cw, hcx]
    refine Ev.f (fun z => z cw) (Ev.g kT (Ev.e (c_isIn (by omega) kT h4) ?_))
    rw [e1, e2, es, if_pos (show pW p < 0 by omega)]
    by_cases c : pl R (pR1 p) < 0 ∨ pl C (pC1 p) < 0
    · rw [if_pos c, if_pos (show pl R (pR1 p) < 0 ∨ pl C (pC1 p) < 0 ∨ pl R (pR2 p) < 0 ∨ pl C (pC2 p) < 0 by omega)]
      exact Ev.g rfl (Ev.r (LdP.rf (fun j (z : j ∈ ([] : List Nat)) => by cases z)))
    · rw [if_neg c]
      refine Ev.f (by decide) (Ev.g kT' (Ev.e (c_isIn (by omega) kT' h4) ?_))
      rw [e3, e4]
      by_cases c' : pl R (pR2 p) < 0 ∨ pl C (pC2 p) < 0
      · rw [if_pos c', if_pos (show pl R (pR1 p) < 0 ∨ pl C (pC1 p) < 0 ∨ pl R (pR2 p) < 0 ∨ pl C (pC2 p) < 0 by omega)]
        exact Ev.f (by decide) (Ev.r (LdP.rf (fun j (z : j ∈ ([] : List Nat)) => by cases z)))
      · rw [if_neg c', if_neg (show ¬ (pl R (pR1 p) < 0 ∨ pl C (pC1 p) < 0 ∨ pl R (pR2 p) < 0 ∨ pl C (pC2 p) < 0) by omega)]
        refine Ev.g (by decide) (Ev.g h4.1 (Ev.e (c_row (by omega) h4 _) (Ev.e (c_row (by omega) h4 _) (Ev.e (c_row (by omega) h4 _) (Ev.e (c_row (by omega) h4 _) (Ev.e (c_column (by omega) h4 _) (Ev.e (c_column (by omega) h4 _) (Ev.e (c_column (by omega) h4 _) (Ev.e (c_column (by omega) h4 _) ?_)))))))))
        generalize pl R (pR1 p) = a1 at *
        generalize pl R (pR2 p) = a2 at *
        generalize pl C (pC1 p) = d1 at *
        generalize pl C (pC2 p) = d2 at *
        have w1 : w32 (if a1 < a2 then a2 else a1) = (((max a1 a2).toNat : Nat) : Int) := by rw [w32_i (by split <;> omega) (by split <;> omega)]; split <;> omega
        have w2 : w32 (if d2 < d1 then d2 else d1) = (((min d1 d2).toNat : Nat) : Int) := by rw [w32_i (by split <;> omega) (by split <;> omega)]; split <;> omega
        have w3 : w32 (if d1 < d2 then d2 else d1) = (((max d1 d2).toNat : Nat) : Int) := by rw [w32_i (by split <;> omega) (by split <;> omega)]; split <;> omega
        have w4 : w32 (if a2 < a1 then a2 else a1) = (((min a1 a2).toNat : Nat) : Int) := by rw [w32_i (by split <;> omega) (by split <;> omega)]; split <;> omega
        rw [w1, w2, w3, w4]
        refine c_area_out (s0 := s) (sh := sh) (R := R) (C := C) (r1 := (min a1 a2).toNat) (S' := fun j => j ∈ arL a1 d1 a2 d2) hN (by omega) (by omega) (by omega) (fun j => ?_) (fun r z => Ev.r z) ((max a1 a2).toNat + 1 - (min a1 a2).toNat) (min a1 a2).toNat N s (by omega) (by omega) (Nat.le_refl _) h0 (LdP.rf (fun j z => ?_))
        · exact arL_mem (by omega) (by omega) (by omega) (by omega) j
        · obtain ⟨r', c, z1, z2, -⟩ := z; omega
  · refine Ev.g cw (Ev.r (LdP.rf (fun j z => ?_)))
    rw [if_neg (by omega)] at z; cases z
theorem nmk_sp : ∀ j, j < 18 → ((nmk j = 41 ∨ nmk j = 42) ↔ (j = 16 ∨ j = 17)) := by decide
theorem c_args_l {n q : Nat} {ls : List Fm} {s0 : gMem} {W : Nat → Nat → Nat → gMem → Option gMem} (hW : HL L sh k R C cx n W) (k1 : mT s0 q = 18) (kT : mT s0 (mR s0 q 1) = 108) (kn : mN s0 (mR s0 q 1) = ls.length) (h8 : ls.length ≤ 8) (hc : ∀ i (hi : i < ls.length), IsP s0 n (mR s0 (mR s0 q 1) i) ls[i]) (g0 : LQ s0 L sh k R C) : ∀ (m i f : Nat) (s : gMem), i + m = ls.length → m < f → LdP s0 s L k (fun j => ∃ y ∈ ls.take i, j ∈ leadsF cx y) → Ev (x20_leads_l13 N W q L sh (fun s9 => some s9) f i s) (fun r => LdP s0 r L k (fun j => ∃ y ∈ ls, j ∈ leadsF cx y)) := by
  intro m
  induction m with
  | zero =>
    intro i f s h1 h2 h3
    obtain ⟨f, rfl⟩ : ∃ j, f = j + 1 := ⟨f - 1, by omega⟩
    have X := h3.1
    unfold x20_leads_l13
    rw [X.rT, X.rR, X.rN, kn, w32_i (by omega) (by omega)]
    refine Ev.g k1 (Ev.g kT (Ev.g (by omega) (Ev.r ?_)))
    rw [List.take_of_length_le (by omega)] at h3; exact h3
  | succ m ih =>
    intro i f s h1 h2 h3
    obtain ⟨f, rfl⟩ : ∃ j, f = j + 1 := ⟨f - 1, by omega⟩
    have X := h3.1
    have K : Kz (fun a => a = L + 1) s0 s := X.kp g0.2.2.2.2.2.1 (fun a _ p => p)
    have hi : i < ls.length := by omega
    unfold x20_leads_l13
    rw [X.rT, X.rR, X.rN, kn, w32_i (by omega) (by omega), tn]
    refine Ev.g k1 (Ev.g kT (Ev.f (by omega) (Ev.g (by omega) (Ev.c (hW _ _ s ((hc i hi).kp K g0.2.2.2.2.2.1 g0.2.2.2.2.2.2 g0.wn _ _ _) (g0.ex X)) (fun s2 _ z => ?_)))))
    rw [inc32 (by omega)]
    refine ih (i + 1) f s2 (by omega) (by omega) (h3.tr z (fun j => ?_))
    rw [List.take_succ_eq_append_getElem hi]
    simp only [List.mem_append, List.mem_singleton]
    constructor
    · rintro ⟨y, y1 | y1, y2⟩
      · exact Or.inl ⟨y, y1, y2⟩
      · exact Or.inr (y1 ▸ y2)
    · rintro (⟨y, y1, y2⟩ | y2)
      · exact ⟨y, Or.inl y1, y2⟩
      · exact ⟨_, Or.inr rfl, y2⟩
/-- the component puts all that a formula leads to -/
theorem c_leadsP (hN : 50 ≤ N) (hcx : cx.1 (-1) = (R, C)) : ∀ (n m : Nat), n ≤ m → HL L sh k R C cx n (dp_Part_leads N m) := by
  intro n
  induction n with
  | zero => intro m _ q l s sp; exact sp.elim
  | succ n ih =>
    intro m hm q l s sp h
    obtain ⟨m, rfl⟩ : ∃ j, m = j + 1 := ⟨m - 1, by omega⟩
    have hW := ih m (by omega)
    obtain ⟨p, ls, e1, e2, LC, O, ao, e8⟩ := sp
    have wf : ∀ y ∈ ls, Wf n y := fun y hy => by
      obtain ⟨i, hi, e⟩ := List.getElem_of_mem hy
      rw [← e]; exact IsP.wf _ _ _ (e8 i hi)
    have ee : leadsF cx l = leadL cx p (ls.map (fun y => (lab y, leadsF cx y))) := by
      rw [e1]; exact fv_eq _ e2 wf
    have NO : ∀ {S : List Nat}, S = [] → LdP s s L k (fun j => j ∈ S) := fun e => LdP.rf (fun j z => by rw [e] at z; cases z)
    have leaf : pA p = 0 → leadL cx p (ls.map (fun y => (lab y, leadsF cx y))) = leadL cx p [] := fun e => by
      have : ls = [] := List.eq_nil_of_length_eq_zero (by omega)
      rw [this]; rfl
    have inner : ¬ pK p = 5 → ¬ pK p = 6 → ¬ (pK p = 41 ∨ pK p = 42) → ∀ j, j ∈ leadL cx p (ls.map (fun y => (lab y, leadsF cx y))) ↔ ∃ y ∈ ls, j ∈ leadsF cx y := fun c5 c6 c7 j => by
      unfold leadL
      rw [if_neg c5, if_neg c6, if_neg c7, List.map_map, List.mem_flatten]
      constructor
      · rintro ⟨z, z1, z2⟩
        obtain ⟨y, y1, y2⟩ := List.mem_map.mp z1
        exact ⟨y, y1, by rw [← y2] at z2; exact z2⟩
      · rintro ⟨y, y1, y2⟩
        exact ⟨_, List.mem_map.mpr ⟨y, y1, rfl⟩, y2⟩
    rw [ee]
    show Ev ((dp_Part_leads N (m + 1)) q L sh s) _
    unfold dp_Part_leads
    rcases LC with ⟨k1, k2⟩ | ⟨k1, kR, kT, k2⟩ | ⟨k1, k2, -⟩ | ⟨k1, k2⟩ | ⟨k1, kT, k2, -⟩ | ⟨k1, kT, kT', k2, -⟩ | ⟨k1, k2⟩ | ⟨k1, j, kj, kR, k2⟩ | ⟨k1, j, kj, kR, kT, k2⟩
    · exact Ev.g k1 (Ev.r (NO (by rw [leaf (by rw [k2]; rfl), k2]; rfl)))
    · exact Ev.f (by omega) (Ev.g k1 (Ev.r (NO (by rw [leaf (by rw [k2]; rfl), k2]; rfl))))
    · exact Ev.f (by omega) (Ev.f (by omega) (Ev.g k1 (Ev.r (NO (by rw [leaf (by rw [k2]; rfl), k2]; rfl)))))
    · exact Ev.f (by omega) (Ev.f (by omega) (Ev.f (by omega) (Ev.g k1 (Ev.r (NO (by rw [leaf (by rw [k2]; rfl), k2]; rfl))))))
    · rw [leaf (by rw [k2]; rfl)]
      exact Ev.f (by omega) (Ev.f (by omega) (Ev.f (by omega) (Ev.f (by omega) (Ev.g k1 (c_spotL (n := n) hN hcx O h (by rw [k2]; rfl) k1 kT k2)))))
    · rw [leaf (by rw [k2]; rfl)]
      exact Ev.f (by omega) (Ev.f (by omega) (Ev.f (by omega) (Ev.f (by omega) (Ev.f (by omega) (Ev.g k1 (c_areaL (n := n) hN hcx O h (by rw [k2]; rfl) k1 kT kT' k2))))))
    · have kp : pK p = 7 := by rw [k2]; rfl
      have hl : ls.length = 1 := by rw [e2, k2]; rfl
      refine Ev.f (by omega) (Ev.f (by omega) (Ev.f (by omega) (Ev.f (by omega) (Ev.f (by omega) (Ev.f (by omega) (Ev.g k1 ?_))))))
      have ec : chd s q 0 = mR s q 0 := by unfold chd; rw [if_pos k1]
      have e80 := e8 0 (by omega)
      rw [ec] at e80
      unfold x21_leads
      refine Ev.g k1 (Ev.c (hW _ _ s e80 h) (fun r _ z => Ev.r (z.cg (fun j _ => ?_))))
      rw [inner (by omega) (by omega) (by omega)]
      constructor
      · rintro ⟨y, y1, y2⟩
        obtain ⟨i, hi, e⟩ := List.getElem_of_mem y1
        obtain rfl : i = 0 := by omega
        rw [e]; exact y2
      · exact fun y2 => ⟨_, List.getElem_mem (by omega), y2⟩
    · have kp : pK p = 10 + j := by rw [k2]; rfl
      have hl : ls.length = 2 := by rw [e2, k2]; rfl
      refine Ev.f (by omega) (Ev.f (by omega) (Ev.f (by omega) (Ev.f (by omega) (Ev.f (by omega) (Ev.f (by omega) (Ev.f (by omega) (Ev.g k1 ?_)))))))
      have ec : ∀ i, chd s q i = mR s q (1 + i) := fun i => by unfold chd; rw [if_neg (by omega), if_pos k1]
      have e80 := e8 0 (by omega)
      have e81 := e8 1 (by omega)
      rw [ec] at e80 e81
      unfold x22_leads
      refine Ev.g k1 (Ev.c (hW _ _ s e80 h) (fun r _ z => ?_))
      have K : Kz (fun a => a = L + 1) s r := z.1.kp h.2.2.2.2.2.1 (fun a _ p => p)
      rw [z.1.rR]
      refine Ev.c (hW _ _ r (e81.kp K h.2.2.2.2.2.1 h.2.2.2.2.2.2 h.wn _ _ _) (h.ex z.1)) (fun r2 _ z2 => Ev.r ((z.tr z2 (S'' := fun j => j ∈ leadsF cx ls[0] ∨ j ∈ leadsF cx ls[1]) (fun j => Iff.rfl)).cg (fun j _ => ?_)))
      rw [inner (by omega) (by omega) (by omega)]
      constructor
      · rintro ⟨y, y1, y2⟩
        obtain ⟨i, hi, e⟩ := List.getElem_of_mem y1
        rcases (by omega : i = 0 ∨ i = 1) with c | c
        · subst c; left; rw [e]; exact y2
        · subst c; right; rw [e]; exact y2
      · rintro (y2 | y2)
        · exact ⟨_, List.getElem_mem (by omega), y2⟩
        · exact ⟨_, List.getElem_mem (by omega), y2⟩
    · have kp : pK p = nmk j := by rw [k2]; rfl
      have nr := nmk_rng j kj
      have hl : ls.length ≤ 8 := by
        unfold argsOk at ao
        rw [if_neg (by omega), if_neg (by omega), if_neg (by omega)] at ao
        have := ao.2.1
        unfold mostA leastA at this
        rw [e2]
        split at this
        · omega
        · split at this
          · omega
          · split at this <;> omega
      have kn : mN s (mR s q 1) = ls.length := by rw [e2, k2]; rfl
      refine Ev.f (by omega) (Ev.f (by omega) (Ev.f (by omega) (Ev.f (by omega) (Ev.f (by omega) (Ev.f (by omega) (Ev.f (by omega) (Ev.f (by omega) (Ev.g k1 ?_))))))))
      have kk := h.2.2.2.2.1
      unfold x20_leads
      refine Ev.g k1 (Ev.g (by rw [kR]; exact (kk j kj).1) ?_)
      have sp := nmk_sp j kj
      have ws : x7_wantsSpot (mR s q 0) s = some (if j = 16 ∨ j = 17 then 1 else 0) := by
        unfold x7_wantsSpot
        rw [kR]
        by_cases c : j = 16
        · rw [c, if_pos rfl, if_pos (Or.inl rfl)]
        · rw [if_neg (kk.ne kj (by omega) c)]
          by_cases c' : j = 17
          · rw [c', if_neg (fun z => z rfl), if_pos (Or.inr rfl)]
          · rw [if_pos (kk.ne kj (by omega) c'), if_neg (by omega)]
      refine Ev.e ws ?_
      by_cases c : j = 16 ∨ j = 17
      · rw [if_pos c]
        refine Ev.f (by decide) (Ev.r (NO ?_))
        unfold leadL
        rw [if_neg (by omega), if_neg (by omega), if_pos (by rw [kp]; exact sp.mpr c)]
      · rw [if_neg c]
        refine Ev.g rfl ((c_args_l (n := n) (s0 := s) (ls := ls) hW k1 kT kn hl (fun i hi => ?_) h ls.length 0 N s (by omega) (by omega) (LdP.rf (fun j z => ?_))).m (fun r z => z.cg (fun j _ => ?_)))
        · have := e8 i hi
          unfold chd at this
          rw [if_neg (by omega), if_neg (by omega)] at this; exact this
        · obtain ⟨y, y1, -⟩ := z
          rw [List.take_zero] at y1; cases y1
        · rw [inner (by omega) (by omega) (by rw [kp]; exact fun z => c (sp.mp z))]
end CoGraph4
