/-! ===== PHASE 2: the twin's formulas: areas, counting ===== -/
section TwEv2
variable {N h d : Nat} {σ σ' s : gMem} {v w a b : Vl}
theorem TB.ex {P : Nat → Nat → Prop} (x : Ex P σ σ') (hP : ∀ o k, (o = 36 ∨ o = 31 ∨ o = 9 ∨ o = 37) → ¬ P (h + o) k) (t : TB σ h) : TB σ' h := by
  refine ⟨fun i => ?_, fun i => ?_, fun i => ?_, fun i => ?_⟩
  · rw [x.rI (hP 36 i (by omega))]; exact t.1 i
  · rw [x.rI (hP 31 i (by omega))]; exact t.2.1 i
  · rw [x.rI (hP 9 i (by omega))]; exact t.2.2.1 i
  · rw [x.rI (hP 37 i (by omega))]; exact t.2.2.2 i
/-- fields of an area and of a count -/
def Fp (h q k : Nat) : Prop := q = h ∧ 71 ≤ k ∧ k ≤ 80
/-- fields of an area -/
def Ap (h q k : Nat) : Prop := q = h ∧ 71 ≤ k ∧ k ≤ 75
theorem Ap.f {q k : Nat} (x : Ap h q k) : Fp h q k := ⟨x.1, x.2.1, by have := x.2; omega⟩
theorem Fp.tv {q k : Nat} (x : Fp h q k) : Pv h d q k := Or.inr ⟨x.1, x.2.1, by have := x.2; omega⟩
/-- one value and the fields -/
def Pw (h d q k : Nat) : Prop := Hp h d q k ∨ Fp h q k
theorem Hp.tw {q k : Nat} (x : Hp h d q k) : Pw h d q k := Or.inl x
theorem Fp.tw {q k : Nat} (x : Fp h q k) : Pw h d q k := Or.inr x
theorem Pw.tv {e q k : Nat} (x : Pw h e q k) (hd : d ≤ e) : Pv h d q k := by
  rcases x with x | x
  · exact Or.inl (x.g hd)
  · exact x.tv
theorem VH.fp {e : Nat} (x : Ex (Fp h) σ σ') (g : VH σ h e w) : VH σ' h e w :=
  VG.ex x g (by unfold Fp; omega) (by unfold Fp; omega) (by unfold Fp; omega) (fun i hi => by unfold Fp; omega)
theorem VH.pw {e : Nat} (x : Ex (Pw h d) σ σ') (g : VH σ h e w) (n : e ≠ d) : VH σ' h e w :=
  VG.ex x g (by unfold Pw Hp Fp; omega) (by unfold Pw Hp Fp; omega) (by unfold Pw Hp Fp; omega) (fun i hi => by unfold Pw Hp Fp; omega)
theorem VH.pv {e : Nat} (x : Ex (Pv h d) σ σ') (g : VH σ h e w) (n : e < d) : VH σ' h e w :=
  VG.ex x g (by unfold Pv Hg; omega) (by unfold Pv Hg; omega) (by unfold Pv Hg; omega) (fun i hi => by unfold Pv Hg; omega)
theorem TB.fp (x : Ex (Fp h) σ σ') (t : TB σ h) : TB σ' h := t.ex x (fun o k _ => by unfold Fp; omega)
/-- an area is at hand: its sheet, its places -/
def ArT (σ : gMem) (h t : Nat) (cs : List Nat) : Prop :=
  ∃ T B L R : Nat, mI σ h 71 = t ∧ mI σ h 72 = T ∧ mI σ h 73 = B ∧ mI σ h 74 = L ∧ mI σ h 75 = R ∧ T ≤ B ∧ B < 32 ∧ L ≤ R ∧ R < 10 ∧ t ≤ 40 ∧
    cs = lst ((B + 1 - T) * (R + 1 - L)) (fun k => 10 * (T + k / (R + 1 - L)) + (L + k % (R + 1 - L)))
theorem ArT.ex {P : Nat → Nat → Prop} {t : Nat} {cs : List Nat} (x : Ex P σ σ') (hP : ∀ k, 71 ≤ k → k ≤ 75 → ¬ P h k) (g : ArT σ h t cs) : ArT σ' h t cs := by
  obtain ⟨T, B, L, R, g1, g2, g3, g4, g5, g6⟩ := g
  refine ⟨T, B, L, R, ?_, ?_, ?_, ?_, ?_, g6⟩
  · rw [x.rI (hP 71 (by omega) (by omega))]; exact g1
  · rw [x.rI (hP 72 (by omega) (by omega))]; exact g2
  · rw [x.rI (hP 73 (by omega) (by omega))]; exact g3
  · rw [x.rI (hP 74 (by omega) (by omega))]; exact g4
  · rw [x.rI (hP 75 (by omega) (by omega))]; exact g5
theorem t_least {x y : Nat} : tw_least x y σ = some ((min x y : Nat) : Int) := by
  unfold tw_least
  by_cases q : (y : Int) ≤ x
  · rw [if_pos q]; congr 1; omega
  · rw [if_neg q]; congr 1; omega
theorem t_leastI {x y : Int} : tw_least x y σ = some (min x y) := by
  unfold tw_least
  by_cases q : y ≤ x
  · rw [if_pos q]; congr 1; omega
  · rw [if_neg q]; congr 1; omega
theorem t_mostI {x y : Int} : tw_most x y σ = some (max x y) := by
  unfold tw_most
  by_cases q : x ≤ y
  · rw [if_pos q]; congr 1; omega
  · rw [if_neg q]; congr 1; omega
theorem mul_le_320 {a b : Nat} (ha : a ≤ 32) (hb : b ≤ 10) : a * b ≤ 320 := Nat.mul_le_mul ha hb
theorem ArT.len {t : Nat} {cs : List Nat} (g : ArT σ h t cs) : cs.length ≤ 320 ∧ ∀ c ∈ cs, c < 320 := by
  obtain ⟨T, B, L, R, -, -, -, -, -, h1, h2, h3, h4, -, rfl⟩ := g
  refine ⟨by rw [lst_len]; exact mul_le_320 (by omega) (by omega), fun c hc => ?_⟩
  unfold lst at hc
  obtain ⟨k, hk, rfl⟩ := List.mem_map.mp hc
  have hk' := List.mem_range.mp hk
  have m1 : k / (R + 1 - L) < B + 1 - T := (Nat.div_lt_iff_lt_mul (by omega)).mpr hk'
  have m2 : k % (R + 1 - L) < R + 1 - L := Nat.mod_lt _ (by omega)
  omega
theorem lst_getE {α : Type} {n : Nat} {f : Nat → α} {k : Nat} (h : k < (lst n f).length) : (lst n f)[k] = f k :=
  Option.some.inj ((List.getElem?_eq_getElem h).symm.trans (lst_get? (by rw [lst_len] at h; exact h)))
theorem t_areaSize {t : Nat} {cs : List Nat} (g : ArT σ h t cs) : tw_areaSize h σ = some ((cs.length : Nat) : Int) := by
  have gl := g.len
  obtain ⟨T, B, L, R, g1, g2, g3, g4, g5, h1, h2, h3, h4, h5, rfl⟩ := g
  unfold tw_areaSize
  rw [lst_len] at *
  have m := mul_le_320 (a := B + 1 - T) (b := R + 1 - L) (by omega) (by omega)
  rw [g2, g3, g4, g5, show (B : Int) - T + 1 = ((B + 1 - T : Nat) : Int) by omega, show (R : Int) - L + 1 = ((R + 1 - L : Nat) : Int) by omega, ← Int.natCast_mul, w32_i (by omega) (by omega)]
theorem t_areaCell {t k : Nat} {cs : List Nat} (g : ArT σ h t cs) (hk : k < cs.length) : tw_areaCell h k σ = some ((320 * t + cs[k] : Nat) : Int) := by
  have gl := g.len
  have gc := gl.2 _ (List.getElem_mem hk)
  obtain ⟨T, B, L, R, g1, g2, g3, g4, g5, h1, h2, h3, h4, h5, rfl⟩ := g
  rw [lst_getE] at gc ⊢
  unfold tw_areaCell
  have ew : w32 ((R : Int) - L + 1) = ((R + 1 - L : Nat) : Int) := by rw [w32_i (by omega) (by omega)]; omega
  rw [g1, g2, g4, g5, ew, if_pos (by omega), if_pos (by omega), ← Int.ofNat_tdiv, ← Int.ofNat_tmod, w32_i (by omega) (by omega)]
  congr 1; omega
theorem t_area {q s : Nat} {p : Pt} {cx : Cx} (hN : 40 ≤ N) (hs : s ≤ 40) (g : TCx σ h s cx) (hL : LabT σ h q p) (hp : PtOk p) : Ev (tw_area N h q s σ) (fun r => Ex (Ap h) σ r.2 ∧ (pK p = 6 → match cxArea cx p with
    | none => r.1 = 0
    | some cs => r.1 = 1 ∧ ArT r.2 h (shn s (pW p)) cs) ∧ (pK p ≠ 6 → r.1 = 0)) := by
  obtain ⟨v1, v2⟩ := hp.ver
  obtain ⟨p1, -, p3, p4⟩ := g.place hN hs v1 v2 (pR1 p)
  obtain ⟨-, p2, -, -⟩ := g.place hN hs v1 v2 (pC1 p)
  obtain ⟨p5, -, -, -⟩ := g.place hN hs v1 v2 (pR2 p)
  obtain ⟨-, p6, -, -⟩ := g.place hN hs v1 v2 (pC2 p)
  have hl := shn_lt (ver := pW p) hs v2
  have hq := hL.1
  have hQ : (0 : Int) ≤ (q : Int) ∧ (q : Int) < ((60420 : Nat) : Int) := by omega
  unfold tw_area
  refine Ev.g hQ ?_
  rw [tn, hL.2.1]
  by_cases h6 : pK p = 6
  · refine Ev.g (by omega) (Ev.e (t_sheetOf hL) (Ev.g hQ ?_))
    rw [hL.2.2.2.2.2.2.1, hL.2.2.2.2.2.2.2.1, hL.2.2.2.2.2.2.2.2.1, hL.2.2.2.2.2.2.2.2.2.1]
    refine Ev.e p1 (Ev.g hQ (Ev.e p2 (Ev.g hQ (Ev.e p5 (Ev.g hQ (Ev.e p6 (Ev.l (Ev.e t_leastI (Ev.l (Ev.e t_mostI (Ev.l (Ev.e t_leastI (Ev.l (Ev.e t_mostI (Ev.l ?_)))))))))))))))
    generalize e1 : wI σ h 71 _ = s1
    generalize e2 : wI s1 h 72 _ = s2
    generalize e3 : wI s2 h 73 _ = s3
    generalize e4 : wI s3 h 74 _ = s4
    generalize e5 : wI s4 h 75 _ = s5
    have X : Ex (Ap h) σ s5 := by
      rw [← e5, ← e4, ← e3, ← e2, ← e1]
      exact ((((Ex.rf.I ⟨rfl, by decide, by decide⟩).I ⟨rfl, by decide, by decide⟩).I ⟨rfl, by decide, by decide⟩).I ⟨rfl, by decide, by decide⟩).I ⟨rfl, by decide, by decide⟩
    have b1 := pl_ge (cx.1 (pW p)).1 (pR1 p)
    have b2 := pl_ge (cx.1 (pW p)).2 (pC1 p)
    have b3 := pl_ge (cx.1 (pW p)).1 (pR2 p)
    have b4 := pl_ge (cx.1 (pW p)).2 (pC2 p)
    have Z : ∀ r : Int, (pl (cx.1 (pW p)).1 (pR1 p) < 0 ∨ pl (cx.1 (pW p)).2 (pC1 p) < 0 ∨ pl (cx.1 (pW p)).1 (pR2 p) < 0 ∨ pl (cx.1 (pW p)).2 (pC2 p) < 0) → r = 0 → Ex (Ap h) σ s5 ∧ (pK p = 6 → match cxArea cx p with
        | none => r = 0
        | some cs => r = 1 ∧ ArT s5 h (shn s (pW p)) cs) ∧ (pK p ≠ 6 → r = 0) := by
      intro r hn hr
      refine ⟨X, fun _ => ?_, fun q => absurd h6 q⟩
      have : cxArea cx p = none := by unfold cxArea areaAt; rw [if_pos hn]
      rw [this]; exact hr
    refine Ev.i (fun c1 => Ev.r (Z 0 (Or.inl c1) rfl)) (fun c1 => Ev.i (fun c2 => Ev.r (Z 0 (Or.inr (Or.inl c2)) rfl)) (fun c2 => Ev.i (fun c3 => Ev.r (Z 0 (Or.inr (Or.inr (Or.inl c3))) rfl)) (fun c3 => Ev.i (fun c4 => Ev.r (Z 0 (Or.inr (Or.inr (Or.inr c4))) rfl)) (fun c4 => Ev.r ?_))))
    refine ⟨X, fun _ => ?_, fun q => absurd h6 q⟩
    have ea : cxArea cx p = some (arL (pl (cx.1 (pW p)).1 (pR1 p)) (pl (cx.1 (pW p)).2 (pC1 p)) (pl (cx.1 (pW p)).1 (pR2 p)) (pl (cx.1 (pW p)).2 (pC2 p))) := by
      unfold cxArea areaAt; rw [if_neg (by omega)]
    clear Z
    generalize pl (cx.1 (pW p)).1 (pR1 p) = r at *
    generalize pl (cx.1 (pW p)).2 (pC1 p) = c at *
    generalize pl (cx.1 (pW p)).1 (pR2 p) = r' at *
    generalize pl (cx.1 (pW p)).2 (pC2 p) = c' at *
    rw [ea]
    refine ⟨rfl, (min r r').toNat, (max r r').toNat, (min c c').toNat, (max c c').toNat, ?_, ?_, ?_, ?_, ?_, by omega, by omega, by omega, by omega, hl, rfl⟩
    · rw [← e5, mI_wI, if_neg (by omega), ← e4, mI_wI, if_neg (by omega), ← e3, mI_wI, if_neg (by omega), ← e2, mI_wI, if_neg (by omega), ← e1, mI_wI, if_pos ⟨rfl, rfl⟩, w32_i (by omega) (by omega)]
    · rw [← e5, mI_wI, if_neg (by omega), ← e4, mI_wI, if_neg (by omega), ← e3, mI_wI, if_neg (by omega), ← e2, mI_wI, if_pos ⟨rfl, rfl⟩, w32_i (by omega) (by omega)]; omega
    · rw [← e5, mI_wI, if_neg (by omega), ← e4, mI_wI, if_neg (by omega), ← e3, mI_wI, if_pos ⟨rfl, rfl⟩, w32_i (by omega) (by omega)]; omega
    · rw [← e5, mI_wI, if_neg (by omega), ← e4, mI_wI, if_pos ⟨rfl, rfl⟩, w32_i (by omega) (by omega)]; omega
    · rw [← e5, mI_wI, if_pos ⟨rfl, rfl⟩, w32_i (by omega) (by omega)]; omega
  · refine Ev.f (by omega) (Ev.r ⟨Ex.rf, fun q => absurd q h6, fun _ => rfl⟩)
end TwEv2
