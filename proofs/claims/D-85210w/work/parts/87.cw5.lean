/-! ===== PHASE 2: the component's formulas: looks, areas, tallies ===== -/
section CoEv2
variable {N w u x n t nv : Nat} {σ σ' s : gMem} {v a b : Vl} {cx : Cx}
theorem LabC.pe (g : WL σ x) (ht : Tg x u t) (hu : u ≤ 700) (h : Ey x (Pe x t u) σ σ') {q : Nat} {p : Pt} (k : LabC σ q p) : LabC σ' q p := by
  have np : ∀ y i, mT σ y ≠ 3 → mT σ y ≠ 5 → mT σ y ≠ 102 → ¬ Pe x t u y i := fun y i h1 h2 h3 p => by have e := Pe.tag g ht hu p; omega
  have nr : ∀ y j, mT σ y ≠ 3 → mR σ' y j = mR σ y j := fun y j h1 => h.rR (Or.inl (fun e => h1 (by rw [e]; exact g.1)))
  unfold LabC at k ⊢
  rw [h.rT]
  rcases k with ⟨k1, k2⟩ | ⟨k1, k2, k3, k4⟩ | ⟨k1, k2, kB⟩ | ⟨k1, k2⟩ | ⟨k1, k2, k3, kB⟩ | ⟨k1, k2, k3, k4, kB⟩ | ⟨k1, k2⟩ | ⟨k1, j, k2, k3, k4⟩ | ⟨k1, j, k2, k3, k4, k5⟩
  · exact Or.inl ⟨k1, by rw [h.rL (np q _ (by omega) (by omega) (by omega))]; exact k2⟩
  · refine Or.inr (Or.inl ⟨k1, by rw [nr q 0 (by omega)]; exact k2, k3, ?_⟩)
    rw [h.rN, k4]
    congr 1
    exact (lst_congr (fun i _ => h.rI (Pe.words g ht hu k1 k3))).symm
  · exact Or.inr (Or.inr (Or.inl ⟨k1, by rw [h.rI (np q _ (by omega) (by omega) (by omega))]; exact ⟨k2, kB⟩⟩))
  · exact Or.inr (Or.inr (Or.inr (Or.inl ⟨k1, k2⟩)))
  · refine Or.inr (Or.inr (Or.inr (Or.inr (Or.inl ⟨k1, ?_⟩))))
    have m := fun i => np (mR σ q 0) i (by omega) (by omega) (by omega)
    unfold cfx at k3 ⊢
    rw [nr q 0 (by omega), h.rI (m 0), h.rI (m 1), h.rI (m 2), h.rI (m 3), h.rI (np q _ (by omega) (by omega) (by omega))]
    exact ⟨k2, k3, kB⟩
  · refine Or.inr (Or.inr (Or.inr (Or.inr (Or.inr (Or.inl ⟨k1, ?_⟩)))))
    have m := fun i => np (mR σ q 0) i (by omega) (by omega) (by omega)
    have m' := fun i => np (mR σ q 1) i (by omega) (by omega) (by omega)
    unfold cfx at k4 ⊢
    rw [nr q 0 (by omega), nr q 1 (by omega), h.rI (m 0), h.rI (m 1), h.rI (m 2), h.rI (m 3), h.rI (m' 0), h.rI (m' 1), h.rI (m' 2), h.rI (m' 3), h.rI (np q _ (by omega) (by omega) (by omega))]
    exact ⟨k2, k3, k4, kB⟩
  · exact Or.inr (Or.inr (Or.inr (Or.inr (Or.inr (Or.inr (Or.inl ⟨k1, k2⟩))))))
  · refine Or.inr (Or.inr (Or.inr (Or.inr (Or.inr (Or.inr (Or.inr (Or.inl ⟨k1, j, k2, ?_, k4⟩)))))))
    rw [nr q 0 (by omega), h.rR (by omega)]; exact k3
  · refine Or.inr (Or.inr (Or.inr (Or.inr (Or.inr (Or.inr (Or.inr (Or.inr ⟨k1, j, k2, ?_, ?_, ?_⟩)))))))
    · rw [nr q 0 (by omega), h.rR (by omega)]; exact k3
    · rw [nr q 1 (by omega)]; exact k4
    · rw [nr q 1 (by omega), h.rN]; exact k5
theorem LabC.tag {q : Nat} {p : Pt} (k : LabC σ q p) : 11 ≤ mT σ q ∧ mT σ q ≤ 20 ∧ (pA p ≠ 0 → mT σ q = 19 ∨ mT σ q = 20 ∨ (mT σ q = 18 ∧ mT σ (mR σ q 1) = 108)) := by
  rcases k with ⟨k1, k2⟩ | ⟨k1, k2, k3, k4⟩ | ⟨k1, k2, kB⟩ | ⟨k1, k2⟩ | ⟨k1, k2, k3, kB⟩ | ⟨k1, k2, k3, k4, kB⟩ | ⟨k1, k2⟩ | ⟨k1, j, k2, k3, k4⟩ | ⟨k1, j, k2, k3, k4, k5⟩
  · exact ⟨by omega, by omega, fun q => absurd (by rw [k2]; rfl) q⟩
  · exact ⟨by omega, by omega, fun q => absurd (by rw [k4]; rfl) q⟩
  · exact ⟨by omega, by omega, fun q => absurd (by rw [k2]; rfl) q⟩
  · exact ⟨by omega, by omega, fun q => absurd (by rw [k2]; rfl) q⟩
  · exact ⟨by omega, by omega, fun q => absurd (by rw [k3]; rfl) q⟩
  · exact ⟨by omega, by omega, fun q => absurd (by rw [k4]; rfl) q⟩
  · exact ⟨by omega, by omega, fun _ => Or.inl k1⟩
  · exact ⟨by omega, by omega, fun _ => Or.inr (Or.inl k1)⟩
  · exact ⟨by omega, by omega, fun _ => Or.inr (Or.inr ⟨k1, k4⟩)⟩
theorem chd_pe (g : WL σ x) (h : Ey x (Pe x t u) σ σ') {q : Nat} {p : Pt} (k : LabC σ q p) (hp : pA p ≠ 0) (i : Nat) : chd σ' q i = chd σ q i := by
  have nr : ∀ y j, mT σ y ≠ 3 → mR σ' y j = mR σ y j := fun y j h1 => h.rR (Or.inl (fun e => h1 (by rw [e]; exact g.1)))
  unfold chd
  rw [h.rT]
  rcases k.tag.2.2 hp with e | e | ⟨e, e'⟩
  · rw [if_pos e, if_pos e, nr q 0 (by omega)]
  · have h19 : ¬ mT σ q = 19 := by omega
    rw [if_neg h19, if_neg h19, if_pos e, if_pos e, nr q _ (by omega)]
  · have h19 : ¬ mT σ q = 19 := by omega
    have h20 : ¬ mT σ q = 20 := by omega
    rw [if_neg h19, if_neg h19, if_neg h20, if_neg h20, nr q 1 (by omega), nr _ i (by omega)]
theorem IsP.pe (g : WL σ x) (ht : Tg x u t) (hu : u ≤ 700) (h : Ey x (Pe x t u) σ σ') : ∀ (n q : Nat) (l : Fm), IsP σ n q l → IsP σ' n q l := by
  intro n
  induction n with
  | zero => intro q l k; exact k.elim
  | succ n ih =>
    intro q l k
    obtain ⟨p, ls, k1, k2, k3, k4, k5, k6⟩ := k
    refine ⟨p, ls, k1, k2, k3.pe g ht hu h, k4, k5, fun i hi => ?_⟩
    rw [chd_pe g h k3 (by omega) i]
    exact ih _ _ (k6 i hi)
theorem IsP.wf : ∀ (n q : Nat) (l : Fm), IsP σ n q l → Wf n l := by
  intro n
  induction n with
  | zero => intro q l g; exact g.elim
  | succ n ih =>
    intro q l g
    obtain ⟨p, ls, g1, g2, g3, g4, g5, g8⟩ := g
    refine ⟨p, ls, g1, g2, g4, g5, fun y hy => ?_⟩
    obtain ⟨i, hi, e⟩ := List.getElem_of_mem hy
    rw [← e]; exact ih _ _ (g8 i hi)
theorem IsP.lab {n q : Nat} {l : Fm} (g : IsP σ n q l) : LabC σ q (lab l) ∧ PtOk (lab l) := by
  cases n with
  | zero => exact g.elim
  | succ n =>
    obtain ⟨p, ls, g1, g2, g3, g4, g5, g8⟩ := g
    rw [g1, lab_app]; exact ⟨g3, g4⟩
theorem c_placeOf_l {q : Nat} {l : List Int} {m : Int} (k : LsC σ q l) : ∀ (j i f : Nat), i + j = l.length → j < f → x9_placeOf_l2 N σ q m (some (-1)) f i = some (plG (gl l) m j i) := by
  intro j
  induction j with
  | zero =>
    intro i f h1 h2
    obtain ⟨f, rfl⟩ : ∃ g, f = g + 1 := ⟨f - 1, by omega⟩
    have := k.2.2.1
    unfold x9_placeOf_l2
    rw [if_pos k.1, k.2.1, w32_i (by omega) (by omega), if_pos (by omega)]; rfl
  | succ j ih =>
    intro i f h1 h2
    obtain ⟨f, rfl⟩ : ∃ g, f = g + 1 := ⟨f - 1, by omega⟩
    have := k.2.2.1
    unfold x9_placeOf_l2 plG
    rw [if_pos k.1, k.2.1, w32_i (by omega) (by omega), if_neg (by omega), if_pos (by omega), tn, k.2.2.2 i (by omega)]
    by_cases he : gl l i = m
    · rw [if_neg (fun q => q he), if_pos he]
    · rw [if_pos he, if_neg he, inc32 (by omega), ih (i + 1) f (by omega) (by omega)]
theorem c_placeOf {q : Nat} {l : List Int} (hN : 40 ≤ N) (k : LsC σ q l) (m : Int) : x9_placeOf N q m σ = some (pl l m) := by
  unfold x9_placeOf
  have := k.2.2.1
  have e := c_placeOf_l (N := N) (m := m) k l.length 0 N (by omega) (by omega)
  exact e
theorem c_row {q : Nat} {R C : List Int} (hN : 40 ≤ N) (k : ShL σ q R C) (m : Int) : x9_row N q m σ = some (pl R m) := by
  unfold x9_row; rw [if_pos k.1, c_placeOf hN k.2.1]; rfl
theorem c_column {q : Nat} {R C : List Int} (hN : 40 ≤ N) (k : ShL σ q R C) (m : Int) : x9_column N q m σ = some (pl C m) := by
  unfold x9_column; rw [if_pos k.1, c_placeOf hN k.2.2.1]; rfl
theorem c_isIn {c q : Nat} {R C : List Int} (hN : 40 ≤ N) (hc : mT σ c = 14) (k : ShL σ q R C) : x16_isIn N c q σ = some (if pl R (mI σ c 0) < 0 ∨ pl C (mI σ c 1) < 0 then 0 else 1) := by
  unfold x16_isIn
  have a := pl_ge R (mI σ c 0)
  have b := pl_ge C (mI σ c 1)
  rw [if_pos hc, if_pos k.1, c_row hN k, Option.bind_some]
  by_cases h1 : pl R (mI σ c 0) < 0
  · rw [if_pos (by omega), if_pos (Or.inl h1)]
  · rw [if_neg (by omega), c_column hN k, Option.bind_some]
    by_cases h2 : pl C (mI σ c 1) < 0
    · rw [if_pos (by omega), if_pos (Or.inr h2)]
    · rw [if_neg (by omega), if_neg (by omega)]
theorem c_sheetOf {ver : Int} (g : WL σ x) (k : CCx σ x nv cx) (h1 : -1 ≤ ver) (h2 : ver < nv) : x3_sheetOf (x + 13) ver σ = some (shA σ x ver) := by
  have hn := k.1
  unfold x3_sheetOf shA
  by_cases c : ver = -1
  · rw [if_neg (fun q => q c), if_pos g.1, if_pos c]
  · have q := (k.2.2.2.2 ver h1 h2).1 (by omega)
    rw [if_pos c, if_pos g.1, g.2.1, if_pos g.2.2.2.2.2.2.2.2.2.2.2.1, if_pos (by rw [g.2.2.2.2.2.2.2.2.2.2.2.2]; omega), if_pos q, if_neg c]
theorem c_valuesOf {ver : Int} (g : WL σ x) (k : CCx σ x nv cx) (h1 : -1 ≤ ver) (h2 : ver < nv) : x3_valuesOf (x + 13) ver σ = some (vaA σ x ver) := by
  have hn := k.1
  unfold x3_valuesOf vaA
  by_cases c : ver = -1
  · rw [if_neg (fun q => q c), if_pos g.1, if_pos c]
  · have q := (k.2.2.2.2 ver h1 h2).1 (by omega)
    rw [if_pos c, if_pos g.1, g.2.1, if_pos g.2.2.2.2.2.2.2.2.2.2.2.1, if_pos (by rw [g.2.2.2.2.2.2.2.2.2.2.2.2]; omega), if_pos q, if_neg c]
/-- a cell's value comes to a Worth -/
theorem c_giveV {q k : Nat} {V : Nat → Vl} (ws : WS σ w) (vv : VV σ q V) (hk : k < 320) (hq : ∀ i, i ≤ 4 → q + i ≠ w ∧ q + i ≠ w + 1) : Ev (x2_give q k w σ) (fun r => HSw w σ r (V k)) := by
  obtain ⟨k1, k2, k3, k4, k5, k6, k7, k8, k9, k10, k11, k12, k13, k14⟩ := vv
  obtain ⟨v1, v2, v3, v4, v5⟩ := k14 k hk
  have ht := v1.txt
  have q0 := hq 0 (by omega)
  have q1 := hq 1 (by omega)
  have q2 := hq 2 (by omega)
  have q3 := hq 3 (by omega)
  have q4 := hq 4 (by omega)
  unfold x2_give
  rw [k2, tn, v2]
  refine Ev.g k1 (Ev.g k6 (Ev.g (by rw [k7]; omega) (Ev.g ws.1 (Ev.l ?_))))
  have r1 : ∀ i, mR (wI σ w 0 (V k).1) q i = mR σ q i := fun _ => rfl
  rw [r1, k3, mI_wI, if_neg (show ¬ (q + 2 = w ∧ k = 0) from fun e => q2.1 e.1), v3]
  refine Ev.g k8 (Ev.g (by show _ ∧ _ < ((mN σ (q + 2) : Nat) : Int); rw [k9]; omega) (Ev.l ?_))
  have r2 : ∀ i, mR (wI (wI σ w 0 (V k).1) w 1 ((V k).2.2.length : Int)) q i = mR σ q i := fun _ => rfl
  rw [r2, k5, mL_wI, mL_wI, v4]
  refine Ev.g k12 (Ev.g (by show _ ∧ _ < ((mN σ (q + 4) : Nat) : Int); rw [k13]; omega) (Ev.l ?_))
  have X : Ex (Wp w) σ (wL (wI (wI σ w 0 (V k).1) w 1 ((V k).2.2.length : Int)) w 2 (V k).2.1) := ((Ex.rf.I Wp.o).I Wp.o).L Wp.o
  have f0 : mI (wL (wI (wI σ w 0 (V k).1) w 1 ((V k).2.2.length : Int)) w 2 (V k).2.1) w 0 = (V k).1 := by
    rw [mI_wL, mI_wI, if_neg (by omega), mI_wI, if_pos ⟨rfl, rfl⟩]
    have := v1.k
    exact w32_i (by omega) (by omega)
  have f1 : mI (wL (wI (wI σ w 0 (V k).1) w 1 ((V k).2.2.length : Int)) w 2 (V k).2.1) w 1 = (V k).2.2.length := by
    rw [mI_wL, mI_wI, if_pos ⟨rfl, rfl⟩]; exact w32_i (by omega) (by omega)
  have f2 : mL (wL (wI (wI σ w 0 (V k).1) w 1 ((V k).2.2.length : Int)) w 2 (V k).2.1) w 2 = (V k).2.1 := by
    rw [mL_wL, if_pos ⟨rfl, rfl⟩]
    have := mL64 σ (q + 4) k
    rw [v4] at this; exact this
  generalize wL (wI (wI σ w 0 (V k).1) w 1 ((V k).2.2.length : Int)) w 2 (V k).2.1 = s3 at *
  have ws3 := ws.ex X
  have np : ∀ i j, q + i ≠ w ∧ q + i ≠ w + 1 → ¬ Wp w (q + i) j := fun i j e p => by unfold Wp at p; omega
  rw [X.rR, k3, k4, ws.2.1, X.rI (np 2 _ q2), v3, show w32 (24 * (k : Int)) = ((24 * k : Nat) : Int) by rw [w32_i (by omega) (by omega)]; omega, X.rT, X.rN, k9, k11, ws.2.2.2]
  refine Ev.g k8 (Ev.g (by omega) (Ev.g k10 (Ev.g ws.2.2.1 (Ev.g (by omega) (Ev.l (Ev.r ?_))))))
  rw [tn, tn, show ((0 : Int)).toNat = 0 from rfl]
  refine ⟨X.CI (fun j _ _ => Wp.t), v1, ?_, ?_, ?_, fun i hi => ?_⟩
  · rw [mI_wCI, if_neg (by omega)]; exact f0
  · rw [mI_wCI, if_neg (by omega)]; exact f1
  · rw [mL_wCI]; exact f2
  · rw [mI_wCI, if_pos ⟨rfl, by omega, by omega⟩, X.rI (np 3 _ q3), show 24 * k + (i - 0) = 24 * k + i by omega]
    exact v5 i hi
theorem c_take (g : WL σ x) (hu : mI σ (x + 13) 3 = u) (h7 : u < 700) : Ev (x3_take (x + 13) σ) (fun r => r.1 = x + 29 + 2 * u ∧ Ex (fun a _ => a = x + 13 ∨ a = x + 29 + 2 * u ∨ a = x + 29 + 2 * u + 1) σ r.2 ∧ mI r.2 (x + 13) 3 = ((u + 1 : Nat) : Int) ∧ VW r.2 (x + 29 + 2 * u) vE ∧ ∀ k, k ≠ 3 → mI r.2 (x + 13) k = mI σ (x + 13) k ∧ mL r.2 (x + 13) k = mL σ (x + 13) k) := by
  obtain ⟨g1, g2, g3, g4, g5, g6, g7, g8, g9, g10, g11, g12, g13⟩ := g
  have ws := g11 u h7
  unfold x3_take
  refine Ev.g g1 (Ev.l ?_)
  rw [hu, inc32 (by omega)]
  have e3 : mI (wI σ (x + 13) 3 ((u + 1 : Nat) : Int)) (x + 13) 3 = ((u + 1 : Nat) : Int) := by rw [mI_wI, if_pos ⟨rfl, rfl⟩, w32_i (by omega) (by omega)]
  have eo : ∀ k, k ≠ 3 → mI (wI σ (x + 13) 3 ((u + 1 : Nat) : Int)) (x + 13) k = mI σ (x + 13) k ∧ mL (wI σ (x + 13) 3 ((u + 1 : Nat) : Int)) (x + 13) k = mL σ (x + 13) k := fun k hk => ⟨by rw [mI_wI, if_neg (fun q => hk q.2)], rfl⟩
  have X1 : Ex (fun a _ => a = x + 13 ∨ a = x + 29 + 2 * u ∨ a = x + 29 + 2 * u + 1) σ (wI σ (x + 13) 3 ((u + 1 : Nat) : Int)) := Ex.rf.I (Or.inl rfl)
  generalize wI σ (x + 13) 3 ((u + 1 : Nat) : Int) = s1 at *
  have eu : (((u + 1 : Nat) : Int) - 1).toNat = u := by omega
  rw [e3, eu, X1.rR, g3, X1.rT, g6, X1.rN, g7, g8 u h7]
  refine Ev.g rfl (Ev.g (by omega) (Ev.g ws.1 (Ev.c (c_none (ws.ex X1)) (fun s2 _ q2 => ?_))))
  have e3' : mI s2 (x + 13) 3 = ((u + 1 : Nat) : Int) := by rw [q2.1.rI (by unfold Wp; omega)]; exact e3
  rw [e3', eu, q2.1.rR, X1.rR, g3, q2.1.rT, X1.rT, g6, q2.1.rN, X1.rN, g7, g8 u h7]
  refine Ev.g rfl (Ev.g (by omega) (Ev.r ⟨rfl, X1.tr (q2.1.mono (fun a _ p => by unfold Wp at p; omega)), e3', q2.2, fun k hk => ?_⟩))
  have := eo k hk
  exact ⟨by rw [q2.1.rI (by unfold Wp; omega)]; exact this.1, by rw [q2.1.rL (by unfold Wp; omega)]; exact this.2⟩
theorem c_give (g : WL σ x) (hu : mI σ (x + 13) 3 = ((u + 1 : Nat) : Int)) (h7 : u < 700) : Ev (x3_give (x + 13) σ) (fun r => Ex (fun a k => a = x + 13 ∧ k = 3) σ r ∧ mI r (x + 13) 3 = u) := by
  unfold x3_give
  refine Ev.g g.1 (Ev.l (Ev.r ⟨Ex.rf.I ⟨rfl, rfl⟩, ?_⟩))
  have e : w32 (((u + 1 : Nat) : Int) - 1) = u := by rw [w32_i (by omega) (by omega)]; omega
  rw [hu, e, mI_wI, if_pos ⟨rfl, rfl⟩, w32_i (by omega) (by omega)]
end CoEv2
