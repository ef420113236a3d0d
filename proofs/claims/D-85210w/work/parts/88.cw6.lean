/-! ===== PHASE 2: the component's formulas: areas at hand, signs of two ===== -/
section CoEv3
variable {N w u x n t nv : Nat} {σ σ' s : gMem} {v a b : Vl} {cx : Cx}
/-- an area is gone over, i cells of it are through -/
def ArC (σ : gMem) (x va : Nat) (cs : List Nat) (i : Nat) : Prop :=
  mR σ (x + 13) 8 = va ∧ ∃ T B L R : Nat, mI σ (x + 13) 9 = T ∧ mI σ (x + 13) 10 = L ∧ mI σ (x + 13) 11 = B ∧ mI σ (x + 13) 12 = R ∧ T ≤ B ∧ B < 32 ∧ L ≤ R ∧ R < 10 ∧
    mI σ (x + 13) 13 = ((T + i / (R + 1 - L) : Nat) : Int) ∧ mI σ (x + 13) 14 = ((L + i % (R + 1 - L) : Nat) : Int) ∧ i ≤ (B + 1 - T) * (R + 1 - L) ∧
    cs = lst ((B + 1 - T) * (R + 1 - L)) (fun k => 10 * (T + k / (R + 1 - L)) + (L + k % (R + 1 - L)))
theorem ArC.len {va i : Nat} {cs : List Nat} (g : ArC σ x va cs i) : cs.length ≤ 320 ∧ (∀ c ∈ cs, c < 320) ∧ i ≤ cs.length := by
  obtain ⟨-, T, B, L, R, -, -, -, -, h1, h2, h3, h4, -, -, h5, rfl⟩ := g
  refine ⟨by rw [lst_len]; exact mul_le_320 (by omega) (by omega), fun c hc => ?_, by rw [lst_len]; exact h5⟩
  unfold lst at hc
  obtain ⟨k, hk, rfl⟩ := List.mem_map.mp hc
  have hk' := List.mem_range.mp hk
  have m1 : k / (R + 1 - L) < B + 1 - T := (Nat.div_lt_iff_lt_mul (by omega)).mpr hk'
  have m2 : k % (R + 1 - L) < R + 1 - L := Nat.mod_lt _ (by omega)
  omega
theorem ArC.same {va i : Nat} {cs : List Nat} (h8 : mR σ' (x + 13) 8 = mR σ (x + 13) 8) (h : ∀ k, 9 ≤ k → k ≤ 14 → mI σ' (x + 13) k = mI σ (x + 13) k) (g : ArC σ x va cs i) : ArC σ' x va cs i := by
  obtain ⟨g0, T, B, L, R, g1, g2, g3, g4, g5, g6, g7, g8, g9, g10, g11⟩ := g
  exact ⟨by rw [h8]; exact g0, T, B, L, R, by rw [h 9 (by omega) (by omega)]; exact g1, by rw [h 10 (by omega) (by omega)]; exact g2, by rw [h 11 (by omega) (by omega)]; exact g3, by rw [h 12 (by omega) (by omega)]; exact g4, g5, g6, g7, g8, by rw [h 13 (by omega) (by omega)]; exact g9, by rw [h 14 (by omega) (by omega)]; exact g10, g11⟩
theorem divS {i W : Nat} (hW : 0 < W) : (i % W + 1 < W → (i + 1) / W = i / W ∧ (i + 1) % W = i % W + 1) ∧ (¬ i % W + 1 < W → (i + 1) / W = i / W + 1 ∧ (i + 1) % W = 0) := by
  have e := Nat.div_add_mod i W
  have m := Nat.mod_lt i hW
  constructor
  · intro h
    have a : i + 1 = (i % W + 1) + W * (i / W) := by omega
    constructor
    · rw [a, Nat.add_mul_div_left _ _ hW, Nat.div_eq_of_lt h]; omega
    · rw [a, Nat.add_mul_mod_self_left, Nat.mod_eq_of_lt h]
  · intro h
    have a : i + 1 = 0 + W * (i / W + 1) := by rw [Nat.mul_add]; omega
    constructor
    · rw [a, Nat.add_mul_div_left _ _ hW, Nat.zero_div]; omega
    · rw [a, Nat.add_mul_mod_self_left, Nat.zero_mod]
/-- what going over an area changes -/
def Pn (x a : Nat) (_ : Nat) : Prop := a = x + 13 ∨ a = x + 25 ∨ a = x + 26
theorem Pn.pe {q k : Nat} (p : Pn x q k) : Pe x t u q k := by unfold Pn at p; unfold Pe; omega
theorem c_next {va i : Nat} {cs : List Nat} {V : Nat → Vl} (g : WL σ x) (ar : ArC σ x va cs i) (vv : VV σ va V) (hv : va = x + 4 ∨ x + 1429 ≤ va) : Ev (x3_next (x + 13) σ) (fun r => (i = cs.length → r = (0, σ)) ∧ (∀ h : i < cs.length, r.1 = 1 ∧ Ex (Pn x) σ r.2 ∧ VW r.2 (x + 25) (V cs[i]) ∧ ArC r.2 x va cs (i + 1) ∧ ∀ k, k < 13 ∨ 15 ≤ k → mI r.2 (x + 13) k = mI σ (x + 13) k ∧ mL r.2 (x + 13) k = mL σ (x + 13) k)) := by
  have hl := ar.len
  obtain ⟨g0, T, B, L, R, g1, g2, g3, g4, g5, g6, g7, g8, g9, g10, g11, hcs⟩ := ar
  have hlen : cs.length = (B + 1 - T) * (R + 1 - L) := by rw [hcs, lst_len]
  have ws := g.2.2.2.2.2.2.2.2.1
  unfold x3_next
  refine Ev.g g.1 ?_
  rw [g9, g3]
  by_cases c : i < cs.length
  · have m1 : i / (R + 1 - L) < B + 1 - T := (Nat.div_lt_iff_lt_mul (by omega)).mpr (by omega)
    have m2 : i % (R + 1 - L) < R + 1 - L := Nat.mod_lt _ (by omega)
    have dS := divS (i := i) (W := R + 1 - L) (by omega)
    rw [g10]
    generalize hdd : i / (R + 1 - L) = dd at m1 g9 dS ⊢
    generalize hee : i % (R + 1 - L) = ee at m2 g10 dS ⊢
    refine Ev.g (by omega) ?_
    rw [g0, g.2.2.2.1, show w32 (10 * ((T + dd : Nat) : Int) + ((L + ee : Nat) : Int)) = ((10 * (T + dd) + (L + ee) : Nat) : Int) by rw [w32_i (by omega) (by omega)]; omega]
    refine Ev.g vv.1 (Ev.c (c_giveV ws vv (by omega) (fun j hj => by omega)) (fun s1 _ q1 => Ev.l ?_))
    have X1 : Ex (Pn x) σ s1 := q1.1.mono (fun a k p => by unfold Wp at p; unfold Pn; omega)
    have nk : ∀ j, ¬ Wp (x + 25) (x + 13) j := fun j p => by unfold Wp at p; omega
    have e14 : mI s1 (x + 13) 14 = ((L + ee : Nat) : Int) := by rw [q1.1.rI (nk _)]; exact g10
    rw [e14, inc32 (by omega)]
    have vw1 : VW s1 (x + 25) (V cs[i]) := by
      have e : cs[i] = 10 * (T + dd) + (L + ee) := by
        rw [← hdd, ← hee]
        have : ∀ (l : List Nat) (h : i < l.length), l = lst ((B + 1 - T) * (R + 1 - L)) (fun k => 10 * (T + k / (R + 1 - L)) + (L + k % (R + 1 - L))) → l[i] = 10 * (T + i / (R + 1 - L)) + (L + i % (R + 1 - L)) := by
          intro l h e; subst e; exact lst_getE h
        exact this cs c hcs
      rw [e]; exact q1.2
    have X2 : Ex (Pn x) σ (wI s1 (x + 13) 14 ((L + ee + 1 : Nat) : Int)) := X1.I (Or.inl rfl)
    have z14 : mI (wI s1 (x + 13) 14 ((L + ee + 1 : Nat) : Int)) (x + 13) 14 = ((L + ee + 1 : Nat) : Int) := by rw [mI_wI, if_pos ⟨rfl, rfl⟩, w32_i (by omega) (by omega)]
    have zo : ∀ k, k ≠ 14 → mI (wI s1 (x + 13) 14 ((L + ee + 1 : Nat) : Int)) (x + 13) k = mI σ (x + 13) k ∧ mL (wI s1 (x + 13) 14 ((L + ee + 1 : Nat) : Int)) (x + 13) k = mL σ (x + 13) k := fun k hk => ⟨by rw [mI_wI, if_neg (fun q => hk q.2), q1.1.rI (nk _)], by rw [mL_wI, q1.1.rL (nk _)]⟩
    have vw2 : VW (wI s1 (x + 13) 14 ((L + ee + 1 : Nat) : Int)) (x + 25) (V cs[i]) := vw1.ex (P := fun a _ => a = x + 13) (Ex.rf.I rfl) (fun k q => by omega) (fun k q => by omega)
    generalize wI s1 (x + 13) 14 ((L + ee + 1 : Nat) : Int) = s2 at *
    rw [z14, (zo 12 (by decide)).1, g4]
    by_cases c2 : ee + 1 < R + 1 - L
    · obtain ⟨d1, d2⟩ := dS.1 c2
      refine Ev.g (by omega) (Ev.r ⟨fun q => by omega, fun _ => ⟨rfl, X2, vw2, ⟨by rw [X2.rR]; exact g0, T, B, L, R, by rw [(zo 9 (by decide)).1]; exact g1, by rw [(zo 10 (by decide)).1]; exact g2, by rw [(zo 11 (by decide)).1]; exact g3, by rw [(zo 12 (by decide)).1]; exact g4, g5, g6, g7, g8, ?_, ?_, by omega, hcs⟩, fun k hk => zo k (by omega)⟩⟩)
      · rw [(zo 13 (by decide)).1, d1]; exact g9
      · rw [z14, d2]; congr 1
    · obtain ⟨d1, d2⟩ := dS.2 c2
      refine Ev.f (by omega) (Ev.l (Ev.l (Ev.r ?_)))
      rw [(zo 10 (by decide)).1, g2]
      have X3 : Ex (Pn x) σ (wI s2 (x + 13) 14 (L : Int)) := X2.I (Or.inl rfl)
      have y13 : mI (wI s2 (x + 13) 14 (L : Int)) (x + 13) 13 = ((T + dd : Nat) : Int) := by rw [mI_wI, if_neg (by omega), (zo 13 (by decide)).1]; exact g9
      rw [y13, inc32 (by omega)]
      have yo : ∀ k, k < 13 ∨ 15 ≤ k → mI (wI (wI s2 (x + 13) 14 (L : Int)) (x + 13) 13 ((T + dd + 1 : Nat) : Int)) (x + 13) k = mI σ (x + 13) k ∧ mL (wI (wI s2 (x + 13) 14 (L : Int)) (x + 13) 13 ((T + dd + 1 : Nat) : Int)) (x + 13) k = mL σ (x + 13) k := fun k hk => ⟨by rw [mI_wI, if_neg (by omega), mI_wI, if_neg (by omega)]; exact (zo k (by omega)).1, by rw [mL_wI, mL_wI]; exact (zo k (by omega)).2⟩
      refine ⟨fun q => by omega, fun _ => ⟨rfl, X3.I (Or.inl rfl), ?_, ⟨by show mR s2 (x + 13) 8 = va; rw [X2.rR]; exact g0, T, B, L, R, by rw [(yo 9 (by omega)).1]; exact g1, by rw [(yo 10 (by omega)).1]; exact g2, by rw [(yo 11 (by omega)).1]; exact g3, by rw [(yo 12 (by omega)).1]; exact g4, g5, g6, g7, g8, ?_, ?_, by omega, hcs⟩, yo⟩⟩
      · have Z : Ex (fun a _ => a = x + 13) s2 (wI (wI s2 (x + 13) 14 (L : Int)) (x + 13) 13 ((T + dd + 1 : Nat) : Int)) := Ex.I (P := fun a _ => a = x + 13) (Ex.I (P := fun a _ => a = x + 13) Ex.rf rfl) rfl
        exact vw2.ex Z (fun k q => by omega) (fun k q => by omega)
      · rw [mI_wI, if_pos ⟨rfl, rfl⟩, w32_i (by omega) (by omega), d1]; congr 1
      · rw [mI_wI, if_neg (by omega), mI_wI, if_pos ⟨rfl, rfl⟩, w32_i (by omega) (by omega), d2]; congr 1
  · have hi : i = cs.length := by omega
    have d : i / (R + 1 - L) = B + 1 - T := by rw [hi, hlen, Nat.mul_div_cancel _ (by omega)]
    refine Ev.f (by omega) (Ev.r ⟨fun _ => rfl, fun q => absurd q c⟩)
theorem c_size {va i : Nat} {cs : List Nat} (g : WL σ x) (ar : ArC σ x va cs i) : x3_size (x + 13) σ = some ((cs.length : Nat) : Int) := by
  obtain ⟨g0, T, B, L, R, g1, g2, g3, g4, g5, g6, g7, g8, g9, g10, g11, hcs⟩ := ar
  unfold x3_size
  have m := mul_le_320 (a := B + 1 - T) (b := R + 1 - L) (by omega) (by omega)
  rw [if_pos g.1, g1, g2, g3, g4, hcs, lst_len, show (B : Int) - T + 1 = ((B + 1 - T : Nat) : Int) by omega, show (R : Int) - L + 1 = ((R + 1 - L : Nat) : Int) by omega, ← Int.natCast_mul, w32_i (by omega) (by omega)]
theorem wif {c : Prop} [Decidable c] {a b : Int} : w32 (if c then a else b) = if c then w32 a else w32 b := by split <;> rfl
/-- an area part is opened -/
theorem c_opens {q : Nat} {p : Pt} (hN : 40 ≤ N) (g : WL σ x) (k : CCx σ x nv cx) (ws : WS σ w) (hL : LabC σ q p) (hp : PtOk p) (h6 : mT σ q = 17) (hn : pW p < nv) (hw : w ≠ x + 13) : Ev (x3_opens N (x + 13) q w σ) (fun r => match cxArea cx p with
    | none => r.1 = 0 ∧ HSw w σ r.2 (vErr 1)
    | some cs => r.1 = 1 ∧ Ey x (fun a k => a = x + 13 ∧ 9 ≤ k ∧ k ≤ 14) σ r.2 ∧ ArC r.2 x (vaA σ x (pW p)) cs 0) := by
  have hv := hp.ver
  rcases hL with ⟨k1, -⟩ | ⟨k1, -⟩ | ⟨k1, -⟩ | ⟨k1, -⟩ | ⟨k1, -⟩ | ⟨k1, k2, k3, k4, -⟩ | ⟨k1, -⟩ | ⟨k1, -⟩ | ⟨k1, -⟩
  all_goals first | (exfalso; omega) | skip
  have eW : pW p = mI σ q 2 := by rw [k4]; rfl
  have e1 : pR1 p = mI σ (mR σ q 0) 0 := by rw [k4]; rfl
  have e2 : pC1 p = mI σ (mR σ q 0) 1 := by rw [k4]; rfl
  have e3 : pR2 p = mI σ (mR σ q 1) 0 := by rw [k4]; rfl
  have e4 : pC2 p = mI σ (mR σ q 1) 1 := by rw [k4]; rfl
  obtain ⟨-, sh, -, -⟩ := k.2.2.2.2 (pW p) hv.1 hn
  have b1 := pl_ge (cx.1 (pW p)).1 (pR1 p)
  have b2 := pl_ge (cx.1 (pW p)).2 (pC1 p)
  have b3 := pl_ge (cx.1 (pW p)).1 (pR2 p)
  have b4 := pl_ge (cx.1 (pW p)).2 (pC2 p)
  have lR := sh.2.1.2.2.1
  have lC := sh.2.2.2
  have wf : ∀ {s : gMem}, WS s w → Ev ((x5_fail w 1 s).bind (fun r => some ((0 : Int), r))) (fun r => r.1 = 0 ∧ HSw w s r.2 (vErr 1)) := fun ws => Ev.c (c_fail ws (by decide) (by decide)) (fun r _ q => Ev.r ⟨rfl, q⟩)
  unfold x3_opens
  refine Ev.g k1 (Ev.g g.1 ?_)
  rw [← eW]
  refine Ev.e (c_sheetOf g k hv.1 hn) (Ev.g k2 (Ev.e (c_isIn hN k2 sh) ?_))
  rw [← e1, ← e2]
  by_cases o1 : pl (cx.1 (pW p)).1 (pR1 p) < 0 ∨ pl (cx.1 (pW p)).2 (pC1 p) < 0
  · have : cxArea cx p = none := by unfold cxArea areaAt; rw [if_pos (by omega)]
    rw [if_pos o1, this]
    exact Ev.g rfl (Ev.g ws.1 (wf ws))
  · rw [if_neg o1]
    refine Ev.f (by decide) (Ev.g k3 (Ev.e (c_isIn hN k3 sh) ?_))
    rw [← e3, ← e4]
    by_cases o2 : pl (cx.1 (pW p)).1 (pR2 p) < 0 ∨ pl (cx.1 (pW p)).2 (pC2 p) < 0
    · have : cxArea cx p = none := by unfold cxArea areaAt; rw [if_pos (by omega)]
      rw [if_pos o2, this]
      exact Ev.f (fun q => q rfl) (Ev.g ws.1 (wf ws))
    · have ea : cxArea cx p = some (arL (pl (cx.1 (pW p)).1 (pR1 p)) (pl (cx.1 (pW p)).2 (pC1 p)) (pl (cx.1 (pW p)).1 (pR2 p)) (pl (cx.1 (pW p)).2 (pC2 p))) := by
        unfold cxArea areaAt; rw [if_neg (by omega)]
      rw [if_neg o2, ea]
      refine Ev.g (by decide) (Ev.e (c_valuesOf g k hv.1 hn) (Ev.l ?_))
      generalize hs1 : wR σ (x + 13) 8 (vaA σ x (pW p)) = s1
      have Y1 : Ey x (fun a k => a = x + 13 ∧ 9 ≤ k ∧ k ≤ 14) σ s1 := by
        rw [← hs1]
        exact ⟨rfl, fun a j h => by rw [mR_wR, if_neg h], fun a j _ => ⟨rfl, rfl⟩⟩
      have f8 : mR s1 (x + 13) 8 = vaA σ x (pW p) := by rw [← hs1, mR_wR, if_pos ⟨rfl, rfl⟩]
      have nq : q ≠ x + 13 := fun e => by rw [e, g.1] at k1; cases k1
      have sh1 : ShL s1 (shA σ x (pW p)) (cx.1 (pW p)).1 (cx.1 (pW p)).2 := by
        have n : shA σ x (pW p) ≠ x + 13 := fun e => by have := sh.1; rw [e, g.1] at this; cases this
        have lc : ∀ {y : Nat} {l : List Int}, LsC σ y l → LsC s1 y l := fun k => ⟨by rw [Y1.rT]; exact k.1, by rw [Y1.rN]; exact k.2.1, k.2.2.1, fun i hi => by rw [Y1.rI (fun p => by have := k.1; rw [p.1, g.1] at this; cases this)]; exact k.2.2.2 i hi⟩
        exact ⟨by rw [Y1.rT]; exact sh.1, by rw [Y1.rR (Or.inl n)]; exact lc sh.2.1, by rw [Y1.rR (Or.inl n)]; exact lc sh.2.2.1, sh.2.2.2⟩
      have m1 : ∀ i, mI s1 (mR s1 q 0) i = mI σ (mR σ q 0) i := fun i => by rw [Y1.rR (Or.inl nq), Y1.rI (fun p => by have := k2; rw [p.1, g.1] at this; cases this)]
      have m2 : ∀ i, mI s1 (mR s1 q 1) i = mI σ (mR σ q 1) i := fun i => by rw [Y1.rR (Or.inl nq), Y1.rI (fun p => by have := k3; rw [p.1, g.1] at this; cases this)]
      have t1 : mT s1 (mR s1 q 0) = 14 := by rw [Y1.rR (Or.inl nq), Y1.rT]; exact k2
      have t2 : mT s1 (mR s1 q 1) = 14 := by rw [Y1.rR (Or.inl nq), Y1.rT]; exact k3
      refine Ev.g t1 (Ev.g sh1.1 ?_)
      rw [m1, m1, m2, m2, ← e1, ← e2, ← e3, ← e4]
      refine Ev.e (c_row hN sh1 _) (Ev.e (c_column hN sh1 _) (Ev.g t2 (Ev.e (c_row hN sh1 _) (Ev.e (c_column hN sh1 _) ?_))))
      generalize pl (cx.1 (pW p)).1 (pR1 p) = r at *
      generalize pl (cx.1 (pW p)).2 (pC1 p) = c at *
      generalize pl (cx.1 (pW p)).1 (pR2 p) = r' at *
      generalize pl (cx.1 (pW p)).2 (pC2 p) = c' at *
      have q1 : w32 (if r' < r then r' else r) = (((min r r').toNat : Nat) : Int) := by rw [wif, w32_i (by omega) (by omega), w32_i (by omega) (by omega)]; split <;> omega
      have q2 : w32 (if r < r' then r' else r) = (((max r r').toNat : Nat) : Int) := by rw [wif, w32_i (by omega) (by omega), w32_i (by omega) (by omega)]; split <;> omega
      have q3 : w32 (if c' < c then c' else c) = (((min c c').toNat : Nat) : Int) := by rw [wif, w32_i (by omega) (by omega), w32_i (by omega) (by omega)]; split <;> omega
      have q4 : w32 (if c < c' then c' else c) = (((max c c').toNat : Nat) : Int) := by rw [wif, w32_i (by omega) (by omega), w32_i (by omega) (by omega)]; split <;> omega
      rw [q1, q2, q3, q4]
      refine Ev.l (Ev.l (Ev.l (Ev.l (Ev.l (Ev.l (Ev.r ?_))))))
      generalize hT : (min r r').toNat = T at *
      generalize hB : (max r r').toNat = B at *
      generalize hLl : (min c c').toNat = L at *
      generalize hR : (max c c').toNat = R at *
      have X : Ex (fun a k => a = x + 13 ∧ 9 ≤ k ∧ k ≤ 14) s1 (wI (wI (wI (wI s1 (x + 13) 9 T) (x + 13) 11 B) (x + 13) 10 L) (x + 13) 12 R) := (((Ex.rf.I ⟨rfl, by decide, by decide⟩).I ⟨rfl, by decide, by decide⟩).I ⟨rfl, by decide, by decide⟩).I ⟨rfl, by decide, by decide⟩
      have z9 : mI (wI (wI (wI (wI s1 (x + 13) 9 T) (x + 13) 11 B) (x + 13) 10 L) (x + 13) 12 R) (x + 13) 9 = T := by rw [mI_wI, if_neg (by omega), mI_wI, if_neg (by omega), mI_wI, if_neg (by omega), mI_wI, if_pos ⟨rfl, rfl⟩, w32_i (by omega) (by omega)]
      have z10 : mI (wI (wI (wI (wI s1 (x + 13) 9 T) (x + 13) 11 B) (x + 13) 10 L) (x + 13) 12 R) (x + 13) 10 = L := by rw [mI_wI, if_neg (by omega), mI_wI, if_pos ⟨rfl, rfl⟩, w32_i (by omega) (by omega)]
      have z11 : mI (wI (wI (wI (wI s1 (x + 13) 9 T) (x + 13) 11 B) (x + 13) 10 L) (x + 13) 12 R) (x + 13) 11 = B := by rw [mI_wI, if_neg (by omega), mI_wI, if_neg (by omega), mI_wI, if_pos ⟨rfl, rfl⟩, w32_i (by omega) (by omega)]
      have z12 : mI (wI (wI (wI (wI s1 (x + 13) 9 T) (x + 13) 11 B) (x + 13) 10 L) (x + 13) 12 R) (x + 13) 12 = R := by rw [mI_wI, if_pos ⟨rfl, rfl⟩, w32_i (by omega) (by omega)]
      generalize wI (wI (wI (wI s1 (x + 13) 9 T) (x + 13) 11 B) (x + 13) 10 L) (x + 13) 12 R = s2 at *
      have y10 : mI (wI s2 (x + 13) 13 T) (x + 13) 10 = L := by rw [mI_wI, if_neg (by omega), z10]
      rw [z9, y10]
      have X3 : Ex (fun a k => a = x + 13 ∧ 9 ≤ k ∧ k ≤ 14) s1 (wI (wI s2 (x + 13) 13 T) (x + 13) 14 L) := (X.I ⟨rfl, by decide, by decide⟩).I ⟨rfl, by decide, by decide⟩
      refine ⟨rfl, Y1.tr X3.y, ?_, T, B, L, R, ?_, ?_, ?_, ?_, by omega, by omega, by omega, by omega, ?_, ?_, Nat.zero_le _, ?_⟩
      · show mR s2 (x + 13) 8 = _
        rw [X.rR]; exact f8
      · rw [mI_wI, if_neg (by omega), mI_wI, if_neg (by omega)]; exact z9
      · rw [mI_wI, if_neg (by omega)]; exact y10
      · rw [mI_wI, if_neg (by omega), mI_wI, if_neg (by omega)]; exact z11
      · rw [mI_wI, if_neg (by omega), mI_wI, if_neg (by omega)]; exact z12
      · rw [mI_wI, if_neg (by omega), mI_wI, if_pos ⟨rfl, rfl⟩, w32_i (by omega) (by omega), Nat.zero_div]; rfl
      · rw [mI_wI, if_pos ⟨rfl, rfl⟩, w32_i (by omega) (by omega), Nat.zero_mod]; rfl
      · unfold arL
        rw [hT, hB, hLl, hR]
end CoEv3
