/-! ===== PHASE 2: the component's formulas: parts worked out ===== -/
section CoEv4
variable {N w u x n t nv : Nat} {σ σ' s : gMem} {v a b : Vl} {cx : Cx}
def EC (x t u : Nat) (σ r : gMem) (v : Vl) : Prop := Ey x (Pe x t u) σ r ∧ mI r (x + 13) 3 = u ∧ VW r t v
/-- what works parts out, those at most n deep -/
def HC (x nv : Nat) (cx : Cx) (n : Nat) (W : Nat → Nat → Nat → gMem → Option gMem) : Prop :=
  ∀ (q t u : Nat) (l : Fm) (σ : gMem), IsP σ n q l → (∀ p ∈ l, pW p < nv) → WL σ x → CCx σ x nv cx → Tg x u t → mI σ (x + 13) 3 = u → u + l.length + 3 ≤ 700 → Ev (W q (x + 13) t σ) (fun r => EC x t u σ r (ev cx l))
/-- a part with what is under it -/
def NC (σ : gMem) (nv n q : Nat) (p : Pt) (ls : List Fm) : Prop :=
  LabC σ q p ∧ PtOk p ∧ argsOk p (ls.map lab) ∧ ls.length = pA p ∧ (∀ i (hi : i < ls.length), IsP σ n (chd σ q i) ls[i]) ∧ pW p < nv ∧ ∀ y ∈ ls, ∀ z ∈ y, pW z < nv
theorem NC.pe {q : Nat} {p : Pt} {ls : List Fm} (g : WL σ x) (ht : Tg x u t) (hu : u ≤ 700) (h : Ey x (Pe x t u) σ σ') (k : NC σ nv n q p ls) : NC σ' nv n q p ls := by
  refine ⟨k.1.pe g ht hu h, k.2.1, k.2.2.1, k.2.2.2.1, fun i hi => ?_, k.2.2.2.2.2⟩
  have h0 : pA p ≠ 0 := by have := k.2.2.2.1; omega
  rw [chd_pe g h k.1 h0 i]
  exact IsP.pe g ht hu h _ _ _ (k.2.2.2.2.1 i hi)
theorem NC.nz {q i : Nat} {p : Pt} {ls : List Fm} (g : NC σ nv n q p ls) (hi : i < ls.length) : 0 < ls[i].length := by
  have := g.2.2.2.2.1 i hi
  cases n with
  | zero => exact this.elim
  | succ n => obtain ⟨p, ls, e, -⟩ := this; rw [e]; simp
theorem NC.fit {q i : Nat} {p : Pt} {ls : List Fm} (g : NC σ nv n q p ls) (hi : i < ls.length) : i + ls[i].length ≤ ls.flatten.length := idx_le ls i hi (fun _ hj => g.nz hj)
theorem NC.ver {q i : Nat} {p : Pt} {ls : List Fm} (g : NC σ nv n q p ls) (hi : i < ls.length) : ∀ z ∈ ls[i], pW z < nv := g.2.2.2.2.2.2 _ (List.getElem_mem hi)
theorem NC.tk {q i : Nat} {p : Pt} {ls : List Fm} (g : NC σ nv n q p ls) (h2 : 30 ≤ pK p) (hi : i < ls.length) : takes (pK p) i (lab ls[i]) = true := by
  have := (g.2.2.1.call h2).2.2 i (by rw [List.length_map]; exact hi)
  rwa [List.getElem_map] at this
theorem VW.ey {P : Nat → Nat → Prop} (h : Ey x P σ σ') (g : VW σ w v) (n0 : ∀ k, ¬ P w k) (n1 : ∀ k, ¬ P (w + 1) k) : VW σ' w v :=
  ⟨g.1, by rw [h.rI (n0 _)]; exact g.2.1, by rw [h.rI (n0 _)]; exact g.2.2.1, by rw [h.rL (n0 _)]; exact g.2.2.2.1, fun i hi => by rw [h.rI (n1 _)]; exact g.2.2.2.2 i hi⟩
/-- a Worth ahead of those in use stays -/
theorem VW.pe {y : Nat} (h : Ey x (Pe x t u) σ σ') (ht : Tg x u t) (g : VW σ y v) (hy : Tg x u y) (hne : y ≠ t) : VW σ' y v :=
  g.ey h (fun k p => by unfold Pe at p; unfold Tg at ht hy; omega) (fun k p => by unfold Pe at p; unfold Tg at ht hy; omega)
theorem Pe.up {w q k : Nat} (p : Pe x w (u + 1) q k) (hw : w = x + 29 + 2 * u) (hu : u < 700) : Pe x t u q k := by unfold Pe at *; omega
theorem Wp.pe {q k : Nat} (p : Wp t q k) : Pe x t u q k := by unfold Wp at p; unfold Pe; omega
theorem Wq.pe {w q k : Nat} (p : Wq t w q k) (hw : w = x + 29 + 2 * u) (hu : u < 700) : Pe x t u q k := by unfold Wq at p; unfold Pe; omega
theorem Tg.up {y : Nat} (h : Tg x u y) : Tg x (u + 1) y := by unfold Tg at *; omega
theorem Tg.new (w : Nat) (hw : w = x + 29 + 2 * u) : Tg x (u + 1) w := by unfold Tg; omega
/-- all that a step needs, and keeps -/
def AC (σ : gMem) (x nv : Nat) (cx : Cx) (n q : Nat) (p : Pt) (ls : List Fm) : Prop := WL σ x ∧ CCx σ x nv cx ∧ NC σ nv n q p ls
theorem AC.pe {q : Nat} {p : Pt} {ls : List Fm} (ht : Tg x u t) (hu : u ≤ 700) (h : Ey x (Pe x t u) σ σ') (k : AC σ x nv cx n q p ls) : AC σ' x nv cx n q p ls :=
  ⟨k.1.ey h, k.2.1.pe k.1 ht hu h, k.2.2.pe k.1 ht hu h⟩
/-- a Worth is taken -/
theorem AC.take {α : Type} {q : Nat} {p : Pt} {ls : List Fm} {f : Nat × gMem → Option α} {Φ : α → Prop} (k : AC σ x nv cx n q p ls) (ht : Tg x u t) (h3 : mI σ (x + 13) 3 = u) (hu : u < 700)
    (K : ∀ s, Ey x (Pe x t u) σ s → AC s x nv cx n q p ls → mI s (x + 13) 3 = ((u + 1 : Nat) : Int) → VW s (x + 29 + 2 * u) vE → (∀ y v, Tg x u y → VW σ y v → VW s y v) → (∀ k, k ≠ 3 → mI s (x + 13) k = mI σ (x + 13) k ∧ mL s (x + 13) k = mL σ (x + 13) k) → Ev (f (x + 29 + 2 * u, s)) Φ) : Ev ((x3_take (x + 13) σ).bind f) Φ := by
  refine Ev.c (c_take k.1 h3 hu) (fun r _ q => ?_)
  obtain ⟨q1, q2, q3, q4, q5⟩ := q
  have Y : Ey x (Pe x t u) σ r.2 := (q2.mono (fun a k p => by unfold Pe; omega)).y
  have := K r.2 Y (k.pe ht (by omega) Y) q3 q4 (fun y v hy g => g.ex q2 (fun k p => by unfold Tg at hy; omega) (fun k p => by unfold Tg at hy; omega)) q5
  rw [← q1] at this
  exact this
/-- the k-th one under a part is worked out -/
theorem AC.go {q k c : Nat} {p : Pt} {ls : List Fm} {W : Nat → Nat → Nat → gMem → Option gMem} (A : AC σ x nv cx n q p ls) (hW : HC x nv cx n W) (hk : k < ls.length) (hc : c = chd σ q k) (ht : Tg x u t) (h3 : mI σ (x + 13) 3 = u) (hu : u + ls.flatten.length + 3 ≤ 700) : Ev (W c (x + 13) t σ) (fun r => EC x t u σ r (ev cx ls[k])) := by
  rw [hc]
  have := A.2.2.fit hk
  exact hW _ t u _ σ (A.2.2.2.2.2.2.1 k hk) (A.2.2.ver hk) A.1 A.2.1 ht h3 (by omega)
theorem LabC.k7 {q : Nat} {p : Pt} (k : LabC σ q p) (h : mT σ q = 19) : p = mkO 7 1 := by
  rcases k with ⟨k1, -⟩ | ⟨k1, -⟩ | ⟨k1, -⟩ | ⟨k1, -⟩ | ⟨k1, -⟩ | ⟨k1, -⟩ | ⟨k1, k2⟩ | ⟨k1, -⟩ | ⟨k1, -⟩
  all_goals first | (exfalso; omega) | exact k2
theorem LabC.k2 {q : Nat} {p : Pt} (k : LabC σ q p) (h : mT σ q = 20) : ∃ j, j < 12 ∧ mR σ q 0 = mR σ 0 (20 + j) ∧ p = mkO (10 + j) 2 := by
  rcases k with ⟨k1, -⟩ | ⟨k1, -⟩ | ⟨k1, -⟩ | ⟨k1, -⟩ | ⟨k1, -⟩ | ⟨k1, -⟩ | ⟨k1, k2⟩ | ⟨k1, k2⟩ | ⟨k1, -⟩
  all_goals first | (exfalso; omega) | exact k2
theorem LabC.kC {q : Nat} {p : Pt} (k : LabC σ q p) (h : mT σ q = 18) : ∃ j, j < 18 ∧ mR σ q 0 = mR σ 0 j ∧ mT σ (mR σ q 1) = 108 ∧ p = mkO (nmk j) (mN σ (mR σ q 1)) := by
  rcases k with ⟨k1, -⟩ | ⟨k1, -⟩ | ⟨k1, -⟩ | ⟨k1, -⟩ | ⟨k1, -⟩ | ⟨k1, -⟩ | ⟨k1, k2⟩ | ⟨k1, -⟩ | ⟨k1, k2⟩
  all_goals first | (exfalso; omega) | exact k2
theorem c_workTwo {q : Nat} {p : Pt} {ls : List Fm} {W : Nat → Nat → Nat → gMem → Option gMem} (A : AC σ x nv cx n q p ls) (hW : HC x nv cx n W) (hN : 70 ≤ N) (hT : mT σ q = 20) (ht : Tg x u t) (h3 : mI σ (x + 13) 3 = u) (hu : u + ls.flatten.length + 4 ≤ 700) : Ev (x22_work N W q (x + 13) t σ) (fun r => EC x t u σ r (evA cx p (ls.map (fun y => (lab y, ev cx y))))) := by
  obtain ⟨j, hj, hs, hp⟩ := A.2.2.1.k2 hT
  have kp : pK p = 10 + j := by rw [hp]; rfl
  have ap : pA p = 2 := by rw [hp]; rfl
  have hl : ls.length = 2 := by have := A.2.2.2.2.2.1; omega
  have f0 := A.2.2.fit (i := 0) (by omega)
  have f1 := A.2.2.fit (i := 1) (by omega)
  have z0 := A.2.2.nz (i := 0) (by omega)
  rw [evA_two (by omega) (by omega), xv_at (by omega), xv_at (by omega), kp]
  unfold x22_work
  have cd : ∀ {s : gMem}, mT s q = 20 → ∀ i, chd s q i = mR s q (1 + i) := fun e i => by unfold chd; rw [if_neg (by omega), if_pos e]
  refine Ev.g hT (Ev.c (A.go (k := 0) hW (by omega) (cd hT 0).symm ht h3 (by omega)) (fun s1 _ q1 => ?_))
  have A1 := A.pe ht (by omega) q1.1
  refine Ev.g A1.1.1 (A1.take ht q1.2.1 (by omega) (fun s2 Y2 A2 u2 _ k2 _ => ?_))
  have hT2 : mT s2 q = 20 := by rw [Y2.rT, q1.1.rT]; exact hT
  dsimp only
  have tw : Tg x (u + 1) (x + 29 + 2 * u) := Tg.new _ rfl
  refine Ev.c (A2.go (k := 1) hW (by omega) (cd hT2 1).symm tw u2 (by omega)) (fun s3 _ q3 => ?_)
  have A3 := A2.pe tw (by omega) q3.1
  have Y3 : Ey x (Pe x t u) σ s3 := (q1.1.tr Y2).tr (q3.1.mono (fun _ _ p => p.up rfl (by omega)))
  have tne : t ≠ x + 29 + 2 * u := by unfold Tg at ht; omega
  have g0 : VW s3 t (ev cx ls[0]) := (k2 t _ ht q1.2.2).pe q3.1 tw ht.up tne
  have g1 := q3.2.2
  have ws := Tg.ws A3.1 ht (by omega)
  have us := Tg.ws A3.1 tw (by omega)
  have GV : ∀ (s4 : gMem) (v : Vl), WL s4 x → Ex (Wq t (x + 29 + 2 * u)) s3 s4 → VW s4 t v → Ev ((x3_give (x + 13) s4).bind (fun r => some r)) (fun r => EC x t u σ r v) := by
    intro s4 v wl X4 g4
    have e3 : mI s4 (x + 13) 3 = ((u + 1 : Nat) : Int) := by rw [X4.rI (by unfold Wq; unfold Tg at ht; omega)]; exact q3.2.1
    refine Ev.c (c_give wl e3 (by omega)) (fun r _ q5 => Ev.r ⟨?_, q5.2, ?_⟩)
    · exact (Y3.tr (X4.mono (fun _ _ p => p.pe rfl (by omega))).y).tr (q5.1.mono (fun a k p => Or.inl p.1)).y
    · exact g4.ex q5.1 (fun k p => by unfold Tg at ht; omega) (fun k p => by unfold Tg at ht; omega)
  refine Ev.g ws.1 ?_
  rw [c_failed ws g0, Option.bind_some]
  by_cases e0 : (ev cx ls[0]).1 = 4
  · rw [if_pos e0, if_pos e0]
    exact Ev.g (by decide) (GV s3 _ A3.1 Ex.rf g0)
  · rw [if_neg e0, if_neg e0]
    refine Ev.f (fun q => q rfl) (Ev.g us.1 ?_)
    rw [c_failed us g1, Option.bind_some]
    by_cases e1 : (ev cx ls[1]).1 = 4
    · rw [if_pos e1, if_pos e1]
      refine Ev.f (by decide) (Ev.c (c_copy ws us g1 tne) (fun s4 _ q4 => GV s4 _ (A3.1.ey q4.1.y) (q4.1.mono (fun _ _ p => p.q1)) q4.2))
    · rw [if_neg e1, if_neg e1]
      have er : mR s3 q 0 = mR s3 0 (20 + j) := by
        have nq : q ≠ x + 13 := fun e => by have := A.1.1; rw [← e, hT] at this; cases this
        rw [Y3.rR (Or.inl nq), Y3.rR (by omega)]; exact hs
      rw [er]
      refine Ev.g rfl (Ev.c (c_two (by omega) A3.2.1.2.1 A3.2.1.2.2.1 ws us g0 g1 tne hj e0 e1) (fun s4 _ q4 => GV s4 _ (A3.1.ey q4.1.y) q4.1 q4.2))
end CoEv4
