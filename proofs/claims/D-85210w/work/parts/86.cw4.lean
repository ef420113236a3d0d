/-! ===== PHASE 2: the component's formulas: what is looked at ===== -/
section CoEv1
variable {N w u x n : Nat} {σ σ' s : gMem} {v a b : Vl} {cx : Cx}
theorem c_two {k : Nat} (hN : 30 ≤ N) (ks : KS σ) (ck : Ck σ) (ws : WS σ w) (us : WS σ u) (ga : VW σ w a) (gb : VW σ u b) (hne : w ≠ u) (hk : k < 12) (h4 : a.1 ≠ 4) (h4' : b.1 ≠ 4) : Ev (x1_two N (mR σ 0 (20 + k)) w u σ) (fun r => Ex (Wq w u) σ r ∧ VW r w (vTwo (10 + k) a b)) := by
  have kk := ks k hk
  have nt : ∀ {q w k : Nat} {σ : gMem}, WS σ w → Wp w q k → mT σ q ≠ 92 := fun ws p => by rcases Wp.nt ws p with e | e <;> rw [e] <;> decide
  unfold x1_two vTwo
  refine Ev.g kk.1 ?_
  rw [kk.2.2]
  by_cases c6 : k < 6
  · rw [if_pos (show 10 + k < 16 by omega)]
    refine Ev.f (fun q => q (by unfold sgRank; rw [if_pos c6]; rfl)) ?_
    rw [show 10 + k - 10 = k by omega]
    exact Ev.c (c_compare hN ks ws us ga gb hne c6) (fun r _ q => Ev.r q)
  · rw [if_neg (show ¬ 10 + k < 16 by omega)]
    refine Ev.g (by unfold sgRank; rw [if_neg c6]; split; decide; split <;> decide) ?_
    by_cases c : k = 6
    · rw [if_pos (show 10 + k = 16 by omega)]
      refine Ev.f (fun q => q (by rw [c])) (Ev.g ws.1 (Ev.c (c_wantText ws hN ck ga h4) (fun s1 _ q1 => Ev.g (us.ex q1.1).1 ?_)))
      have ck1 : Ck s1 := by unfold Ck; rw [q1.1.rR]; exact ⟨ck.1.wp q1.1 ws, ck.2.wp q1.1 ws⟩
      refine Ev.c (c_wantText (us.ex q1.1) hN ck1 (gb.nw q1.1 us ws hne.symm) h4') (fun s2 _ q2 => ?_)
      have ga2 := q1.2.nw q2.1 (ws.ex q1.1) (us.ex q1.1) hne
      refine Ev.c (c_join ((ws.ex q1.1).ex q2.1) ((us.ex q1.1).ex q2.1) ga2 q2.2 hne (wantT_2 ga.1) (wantT_2 gb.1)) (fun r _ q => Ev.r ⟨?_, q.2⟩)
      exact ((q1.1.mono (fun _ _ p => p.q1)).tr (q2.1.mono (fun _ _ p => p.q2))).tr (q.1.mono (fun _ _ p => p.q1))
    · rw [if_neg (show ¬ 10 + k = 16 by omega)]
      refine Ev.g (ks.ne hk (j := 6) (by omega) c) (Ev.g ws.1 (Ev.c (c_wantNumber ws ga) (fun x3 _ q3 => ?_)))
      rw [q3.1]
      by_cases w1 : (wantN a).1 = 1
      · rw [if_pos w1, if_neg (show ¬ ¬ (wantN a).1 = 1 from fun q => q w1)]
        have us3 := us.ex q3.2.1
        refine Ev.f (by decide) (Ev.g us3.1 (Ev.c (c_wantNumber us3 (gb.nw q3.2.1 us ws hne.symm)) (fun x4 _ q4 => ?_)))
        rw [q4.1]
        have X : Ex (Wq w u) σ x4.2 := (q3.2.1.mono (fun _ _ p => p.q1)).tr (q4.2.1.mono (fun _ _ p => p.q2))
        have ws4 := (ws.ex q3.2.1).ex q4.2.1
        have us4 := us3.ex q4.2.1
        by_cases w2 : (wantN b).1 = 1
        · rw [if_pos w2, if_neg (show ¬ ¬ (wantN b).1 = 1 from fun q => q w2)]
          refine Ev.f (by decide) ?_
          obtain ⟨-, b1, b2⟩ := q4.2.2.1.k1 w2
          rw [q4.2.2.2.2.2.1]
          have ks4 : KS x4.2 := (ks.ex q3.2.1 (fun q k p => nt ws p)).ex q4.2.1 (fun q k p => nt us3 p)
          have er : mR σ 0 (20 + k) = mR x4.2 0 (20 + k) := by rw [X.rR]
          rw [er]
          refine Ev.c (c_reckon ks4 ws4 (q3.2.2.nw q4.2.1 (ws.ex q3.2.1) us3 hne) w1 (by omega) (by omega) hk) (fun r _ q => Ev.r ⟨X.tr (q.1.mono (fun _ _ p => p.q1)), q.2⟩)
        · rw [if_neg w2, if_pos (show ¬ (wantN b).1 = 1 from w2)]
          exact Ev.g rfl (Ev.c (c_copy ws4 us4 q4.2.2 hne) (fun r _ q => Ev.r ⟨X.tr (q.1.mono (fun _ _ p => p.q1)), q.2⟩))
      · rw [if_neg w1, if_pos (show ¬ (wantN a).1 = 1 from w1)]
        exact Ev.g rfl (Ev.r ⟨q3.2.1.mono (fun _ _ p => p.q1), q3.2.2⟩)
/-- as Ex, and one reference may have changed -/
def Ey (x : Nat) (P : Nat → Nat → Prop) (σ σ' : gMem) : Prop := σ'.2.2.2 = σ.2.2.2 ∧ (∀ a j, ¬ (a = x + 13 ∧ j = 8) → mR σ' a j = mR σ a j) ∧ ∀ a k, ¬ P a k → mI σ' a k = mI σ a k ∧ mL σ' a k = mL σ a k
section EyLemmas
variable {P Q : Nat → Nat → Prop} {σ'' : gMem}
theorem Ex.y (h : Ex P σ σ') : Ey x P σ σ' := ⟨by rw [h.1], fun a j _ => by rw [h.rR], fun a k n => ⟨h.rI n, h.rL n⟩⟩
theorem Ey.rf : Ey x P σ σ := ⟨rfl, fun _ _ _ => rfl, fun _ _ _ => ⟨rfl, rfl⟩⟩
theorem Ey.tr (h : Ey x P σ σ') (k : Ey x P σ' σ'') : Ey x P σ σ'' := ⟨k.1.trans h.1, fun a j n => (k.2.1 a j n).trans (h.2.1 a j n), fun a j n => ⟨(k.2.2 a j n).1.trans (h.2.2 a j n).1, (k.2.2 a j n).2.trans (h.2.2 a j n).2⟩⟩
theorem Ey.mono (h : Ey x P σ σ') (g : ∀ a k, P a k → Q a k) : Ey x Q σ σ' := ⟨h.1, h.2.1, fun a k n => h.2.2 a k (fun p => n (g a k p))⟩
theorem Ey.rT (h : Ey x P σ σ') : mT σ' = mT σ := by show σ'.2.2.2.1 = σ.2.2.2.1; rw [h.1]
theorem Ey.rN (h : Ey x P σ σ') : mN σ' = mN σ := by show σ'.2.2.2.2.1 = σ.2.2.2.2.1; rw [h.1]
theorem Ey.rZ (h : Ey x P σ σ') : mZ σ' = mZ σ := by show σ'.2.2.2.2.2.1 = σ.2.2.2.2.2.1; rw [h.1]
theorem Ey.rS (h : Ey x P σ σ') : mS σ' = mS σ := by show σ'.2.2.2.2.2.2 = σ.2.2.2.2.2.2; rw [h.1]
theorem Ey.rR (h : Ey x P σ σ') {a j : Nat} (n : a ≠ x + 13 ∨ j ≠ 8) : mR σ' a j = mR σ a j := h.2.1 a j (by omega)
theorem Ey.rI (h : Ey x P σ σ') {a k : Nat} (n : ¬ P a k) : mI σ' a k = mI σ a k := (h.2.2 a k n).1
theorem Ey.rL (h : Ey x P σ σ') {a k : Nat} (n : ¬ P a k) : mL σ' a k = mL σ a k := (h.2.2 a k n).2
end EyLemmas
/-- the place where values are worked out -/
def WL (σ : gMem) (x : Nat) : Prop :=
  mT σ (x + 13) = 3 ∧ mR σ (x + 13) 0 = x + 2 ∧ mR σ (x + 13) 2 = x + 24 ∧ mR σ (x + 13) 4 = x + 25 ∧ mR σ (x + 13) 5 = x + 27 ∧ mT σ (x + 24) = 107 ∧ mN σ (x + 24) = 700 ∧ (∀ i, i < 700 → mR σ (x + 24) i = x + 29 + 2 * i) ∧
  WS σ (x + 25) ∧ WS σ (x + 27) ∧ (∀ i, i < 700 → WS σ (x + 29 + 2 * i)) ∧ mT σ (x + 2) = 104 ∧ mN σ (x + 2) = 40
theorem WS.ey {P : Nat → Nat → Prop} (h : Ey x P σ σ') (g : WS σ w) (n : w ≠ x + 13) : WS σ' w := by unfold WS; rw [h.rT, h.rN, h.rR (Or.inl n)]; exact g
theorem WL.ey {P : Nat → Nat → Prop} (h : Ey x P σ σ') (g : WL σ x) : WL σ' x := by
  obtain ⟨g1, g2, g3, g4, g5, g6, g7, g8, g9, g10, g11, g12, g13⟩ := g
  exact ⟨by rw [h.rT]; exact g1, by rw [h.rR (by omega)]; exact g2, by rw [h.rR (by omega)]; exact g3, by rw [h.rR (by omega)]; exact g4, by rw [h.rR (by omega)]; exact g5, by rw [h.rT]; exact g6, by rw [h.rN]; exact g7,
    fun i hi => by rw [h.rR (by omega)]; exact g8 i hi, g9.ey h (by omega), g10.ey h (by omega), fun i hi => (g11 i hi).ey h (by omega), by rw [h.rT]; exact g12, by rw [h.rN]; exact g13⟩
/-- what working out into t may change, u values being in use -/
def Pe (x t u a : Nat) (_ : Nat) : Prop := a = x + 13 ∨ a = x + 25 ∨ a = x + 26 ∨ a = t ∨ a = t + 1 ∨ (x + 29 + 2 * u ≤ a ∧ a < x + 1429)
/-- where a value may come to -/
def Tg (x u t : Nat) : Prop := t = x + 27 ∨ (x + 29 ≤ t ∧ t < x + 29 + 2 * u ∧ (t - x - 29) % 2 = 0)
theorem Tg.ws {t : Nat} (g : WL σ x) (h : Tg x u t) (hu : u ≤ 700) : WS σ t := by
  rcases h with rfl | ⟨h1, h2, h3⟩
  · exact g.2.2.2.2.2.2.2.2.2.1
  · have := g.2.2.2.2.2.2.2.2.2.2.1 ((t - x - 29) / 2) (by omega)
    rwa [show x + 29 + 2 * ((t - x - 29) / 2) = t by omega] at this
/-- the tags of what may be changed -/
theorem Pe.tag {t k q : Nat} (g : WL σ x) (ht : Tg x u t) (hu : u ≤ 700) (p : Pe x t u q k) : mT σ q = 3 ∨ mT σ q = 5 ∨ mT σ q = 102 := by
  have tt := Tg.ws g ht hu
  obtain ⟨g1, g2, g3, g4, g5, g6, g7, g8, g9, g10, g11, -⟩ := g
  rcases p with rfl | rfl | rfl | rfl | rfl | ⟨h1, h2⟩
  · exact Or.inl g1
  · exact Or.inr (Or.inl g9.1)
  · exact Or.inr (Or.inr g9.2.2.1)
  · exact Or.inr (Or.inl tt.1)
  · exact Or.inr (Or.inr tt.2.2.1)
  · have hi := g11 ((q - x - 29) / 2) (by omega)
    rcases (by omega : (q - x - 29) % 2 = 0 ∨ (q - x - 29) % 2 = 1) with e | e
    · rw [show x + 29 + 2 * ((q - x - 29) / 2) = q by omega] at hi; exact Or.inr (Or.inl hi.1)
    · have := hi.2.2.1
      rw [show x + 29 + 2 * ((q - x - 29) / 2) + 1 = q by omega] at this; exact Or.inr (Or.inr this)
/-- the bytes of a text part are not among them -/
theorem Pe.words {t k q : Nat} (g : WL σ x) (ht : Tg x u t) (hu : u ≤ 700) (h1 : mT σ q = 12) (h2 : mT σ (q + 1) = 102) : ¬ Pe x t u (q + 1) k := by
  intro p
  have tt := Tg.ws g ht hu
  obtain ⟨g1, g2, g3, g4, g5, g6, g7, g8, g9, g10, g11, -⟩ := g
  rcases p with e | e | e | e | e | ⟨e1, e2⟩
  · rw [e, g1] at h2; cases h2
  · rw [e, g9.1] at h2; cases h2
  · rw [show q = x + 25 by omega, g9.1] at h1; cases h1
  · rw [e, tt.1] at h2; cases h2
  · rw [show q = t by omega, tt.1] at h1; cases h1
  · have hi := g11 ((q + 1 - x - 29) / 2) (by omega)
    rcases (by omega : (q + 1 - x - 29) % 2 = 0 ∨ (q + 1 - x - 29) % 2 = 1) with e | e
    · rw [show x + 29 + 2 * ((q + 1 - x - 29) / 2) = q + 1 by omega] at hi
      rw [hi.1] at h2; cases h2
    · have := hi.1
      rw [show x + 29 + 2 * ((q + 1 - x - 29) / 2) = q by omega] at this
      rw [this] at h1; cases h1
/-- a row of marks -/
def LsC (σ : gMem) (q : Nat) (l : List Int) : Prop := mT σ q = 100 ∧ mN σ q = l.length ∧ l.length ≤ 32 ∧ ∀ i, i < l.length → mI σ q i = gl l i
def ShL (σ : gMem) (q : Nat) (R C : List Int) : Prop := mT σ q = 8 ∧ LsC σ (mR σ q 0) R ∧ LsC σ (mR σ q 1) C ∧ C.length ≤ 10
/-- all values of a sheet -/
def VV (σ : gMem) (q : Nat) (V : Nat → Vl) : Prop :=
  mT σ q = 2 ∧ mR σ q 0 = q + 1 ∧ mR σ q 1 = q + 2 ∧ mR σ q 2 = q + 3 ∧ mR σ q 3 = q + 4 ∧ mT σ (q + 1) = 102 ∧ mN σ (q + 1) = 320 ∧ mT σ (q + 2) = 102 ∧ mN σ (q + 2) = 320 ∧ mT σ (q + 3) = 102 ∧ mN σ (q + 3) = 7680 ∧ mT σ (q + 4) = 101 ∧ mN σ (q + 4) = 320 ∧
  ∀ k, k < 320 → VOk (V k) ∧ mI σ (q + 1) k = (V k).1 ∧ mI σ (q + 2) k = (V k).2.2.length ∧ mL σ (q + 4) k = (V k).2.1 ∧ ∀ i, i < (V k).2.2.length → mI σ (q + 3) (24 * k + i) = gl (V k).2.2 i
def KN (σ : gMem) : Prop := ∀ k, k < 18 → mT σ (mR σ 0 k) = 91 ∧ mI σ (mR σ 0 k) 0 = k
theorem KN.ne (g : KN σ) {k j : Nat} (hk : k < 18) (hj : j < 18) (h : k ≠ j) : mR σ 0 k ≠ mR σ 0 j := by
  intro e
  have a := (g k hk).2
  rw [e, (g j hj).2] at a
  omega
def shA (σ : gMem) (x : Nat) (ver : Int) : Nat := if ver = -1 then mR σ (x + 13) 6 else mR σ (mR σ (x + 2) ver.toNat) 0
def vaA (σ : gMem) (x : Nat) (ver : Int) : Nat := if ver = -1 then mR σ (x + 13) 7 else mR σ (mR σ (x + 2) ver.toNat) 1
/-- what formulas look at -/
def CCx (σ : gMem) (x nv : Nat) (cx : Cx) : Prop :=
  nv ≤ 40 ∧ KS σ ∧ Ck σ ∧ KN σ ∧ ∀ ver : Int, -1 ≤ ver → ver < nv → (0 ≤ ver → mT σ (mR σ (x + 2) ver.toNat) = 9) ∧ ShL σ (shA σ x ver) (cx.1 ver).1 (cx.1 ver).2 ∧ (vaA σ x ver = x + 4 ∨ x + 1429 ≤ vaA σ x ver) ∧ VV σ (vaA σ x ver) (cx.2 ver)
section CxEy
variable {t : Nat}
theorem LsC.pe (g : WL σ x) (ht : Tg x u t) (hu : u ≤ 700) (h : Ey x (Pe x t u) σ σ') {q : Nat} {l : List Int} (k : LsC σ q l) : LsC σ' q l :=
  ⟨by rw [h.rT]; exact k.1, by rw [h.rN]; exact k.2.1, k.2.2.1, fun i hi => by
    rw [h.rI (fun p => by have e := Pe.tag g ht hu p; rw [k.1] at e; omega)]; exact k.2.2.2 i hi⟩
theorem ShL.pe (g : WL σ x) (ht : Tg x u t) (hu : u ≤ 700) (h : Ey x (Pe x t u) σ σ') {q : Nat} {R C : List Int} (k : ShL σ q R C) : ShL σ' q R C := by
  have n : q ≠ x + 13 := fun e => by have := k.1; rw [e, g.1] at this; cases this
  refine ⟨by rw [h.rT]; exact k.1, ?_, ?_, k.2.2.2⟩
  · rw [h.rR (Or.inl n)]; exact k.2.1.pe g ht hu h
  · rw [h.rR (Or.inl n)]; exact k.2.2.1.pe g ht hu h
theorem VV.pe (ht : Tg x u t) (hu : u ≤ 700) (h : Ey x (Pe x t u) σ σ') {q : Nat} {V : Nat → Vl} (hq : q = x + 4 ∨ x + 1429 ≤ q) (k : VV σ q V) : VV σ' q V := by
  have np : ∀ i j, 1 ≤ i → i ≤ 4 → ¬ Pe x t u (q + i) j := fun i j h1 h2 p => by unfold Pe at p; unfold Tg at ht; omega
  unfold VV at k ⊢
  rw [h.rT, h.rN, h.rR (a := q) (by omega), h.rR (a := q) (by omega), h.rR (a := q) (by omega), h.rR (a := q) (by omega)]
  obtain ⟨k1, k2, k3, k4, k5, k6, k7, k8, k9, k10, k11, k12, k13, k14⟩ := k
  refine ⟨k1, k2, k3, k4, k5, k6, k7, k8, k9, k10, k11, k12, k13, fun j hj => ?_⟩
  rw [h.rI (np 1 _ (by omega) (by omega)), h.rI (np 2 _ (by omega) (by omega)), h.rL (np 4 _ (by omega) (by omega))]
  obtain ⟨a1, a2, a3, a4, a5⟩ := k14 j hj
  exact ⟨a1, a2, a3, a4, fun i hi => by rw [h.rI (np 3 _ (by omega) (by omega))]; exact a5 i hi⟩
theorem Kx.pe (g : WL σ x) (ht : Tg x u t) (hu : u ≤ 700) (h : Ey x (Pe x t u) σ σ') {q : Nat} {l : List Int} (k : Kx σ q l) : Kx σ' q l :=
  ⟨by rw [h.rT]; exact k.1, by rw [h.rN]; exact k.2.1, fun i hi => by
    rw [h.rI (fun p => by have e := Pe.tag g ht hu p; rw [k.1] at e; omega)]; exact k.2.2 i hi⟩
theorem CCx.pe {nv : Nat} (g : WL σ x) (ht : Tg x u t) (hu : u ≤ 700) (h : Ey x (Pe x t u) σ σ') (k : CCx σ x nv cx) : CCx σ' x nv cx := by
  obtain ⟨k0, k1, k2, k3, k4⟩ := k
  refine ⟨k0, fun j hj => ?_, ?_, fun j hj => ?_, fun ver h1 h2 => ?_⟩
  · have q := k1 j hj
    have np : ∀ i, ¬ Pe x t u (mR σ 0 (20 + j)) i := fun i p => by have e := Pe.tag g ht hu p; rw [q.1] at e; omega
    rw [h.rR (by omega), h.rT, h.rI (np _), h.rI (np _)]; exact q
  · unfold Ck
    rw [h.rR (by omega), h.rR (by omega)]
    exact ⟨k2.1.pe g ht hu h, k2.2.pe g ht hu h⟩
  · have q := k3 j hj
    have np : ∀ i, ¬ Pe x t u (mR σ 0 j) i := fun i p => by have e := Pe.tag g ht hu p; rw [q.1] at e; omega
    rw [h.rR (by omega), h.rT, h.rI (np _)]; exact q
  · obtain ⟨a1, a2, a3, a4⟩ := k4 ver h1 h2
    have es : shA σ' x ver = shA σ x ver ∧ vaA σ' x ver = vaA σ x ver := by
      unfold shA vaA
      by_cases c : ver = -1
      · rw [if_pos c, if_pos c, if_pos c, if_pos c, h.rR (by omega), h.rR (by omega)]; exact ⟨rfl, rfl⟩
      · rw [if_neg c, if_neg c, if_neg c, if_neg c, h.rR (a := x + 2) (by omega)]
        have n : mR σ (x + 2) ver.toNat ≠ x + 13 := fun e => by have := a1 (by omega); rw [e, g.1] at this; cases this
        rw [h.rR (Or.inl n), h.rR (Or.inl n)]; exact ⟨rfl, rfl⟩
    rw [es.1, es.2]
    exact ⟨fun h0 => by rw [h.rR (a := x + 2) (by omega), h.rT]; exact a1 h0, a2.pe g ht hu h, a3, a4.pe ht hu h a3⟩
end CxEy
/-- corners: what is fixed -/
def cfx (σ : gMem) (q : Nat) : Nat := (if mI σ q 3 ≠ 0 then 1 else 0) + (if mI σ q 2 ≠ 0 then 2 else 0)
/-- kinds of names -/
def nmk (k : Nat) : Nat := [30, 31, 32, 37, 38, 33, 34, 35, 36, 39, 43, 44, 46, 45, 47, 40, 41, 42].getD k 0
/-- a truth's number -/
def bz1 (v : Int) : Prop := v = 0 ∨ v = 1
/-- a part lies at a -/
def LabC (σ : gMem) (q : Nat) (p : Pt) : Prop :=
  (mT σ q = 11 ∧ p = mkN (mL σ q 0)) ∨
  (mT σ q = 12 ∧ mR σ q 0 = q + 1 ∧ mT σ (q + 1) = 102 ∧ p = mkT (lst (mN σ (q + 1)) (mI σ (q + 1)))) ∨
  (mT σ q = 16 ∧ p = mkB (decide (mI σ q 0 ≠ 0)) ∧ bz1 (mI σ q 0)) ∨
  (mT σ q = 13 ∧ p = mkR) ∨
  (mT σ q = 15 ∧ mT σ (mR σ q 0) = 14 ∧ p = mkS (mI σ (mR σ q 0) 0) (mI σ (mR σ q 0) 1) (cfx σ (mR σ q 0)) (mI σ q 1) ∧ bz1 (mI σ (mR σ q 0) 2) ∧ bz1 (mI σ (mR σ q 0) 3)) ∨
  (mT σ q = 17 ∧ mT σ (mR σ q 0) = 14 ∧ mT σ (mR σ q 1) = 14 ∧ p = mkA (mI σ (mR σ q 0) 0) (mI σ (mR σ q 0) 1) (mI σ (mR σ q 1) 0) (mI σ (mR σ q 1) 1) (cfx σ (mR σ q 0) + 4 * cfx σ (mR σ q 1)) (mI σ q 2) ∧ (bz1 (mI σ (mR σ q 0) 2) ∧ bz1 (mI σ (mR σ q 0) 3)) ∧ bz1 (mI σ (mR σ q 1) 2) ∧ bz1 (mI σ (mR σ q 1) 3)) ∨
  (mT σ q = 19 ∧ p = mkO 7 1) ∨
  (mT σ q = 20 ∧ ∃ k, k < 12 ∧ mR σ q 0 = mR σ 0 (20 + k) ∧ p = mkO (10 + k) 2) ∨
  (mT σ q = 18 ∧ ∃ k, k < 18 ∧ mR σ q 0 = mR σ 0 k ∧ mT σ (mR σ q 1) = 108 ∧ p = mkO (nmk k) (mN σ (mR σ q 1)))
/-- what is under it -/
def chd (σ : gMem) (q i : Nat) : Nat := if mT σ q = 19 then mR σ q 0 else if mT σ q = 20 then mR σ q (1 + i) else mR σ (mR σ q 1) i
/-- a formula's part lies at a, at most n deep -/
def IsP (σ : gMem) : Nat → Nat → Fm → Prop
  | 0, _, _ => False
  | n + 1, q, l => ∃ (p : Pt) (ls : List Fm), l = ls.flatten ++ [p] ∧ ls.length = pA p ∧ LabC σ q p ∧ PtOk p ∧ argsOk p (ls.map lab) ∧ ∀ i (hi : i < ls.length), IsP σ n (chd σ q i) ls[i]
end CoEv1
