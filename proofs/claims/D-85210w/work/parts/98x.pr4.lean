/-! ===== PHASE 2: reading: what is kept, what holds between two steps ===== -/
section Read4
variable {N x h hi all nv sh M lu0 : Nat} {bA : Nat → Int} {f : Int → List Int × List Int} {σ σ' σ'' τ τ' τ'' s : gMem}
/-- constants -/
def KC (σ : gMem) : Prop :=
  (∀ i, i < 34 → Kx σ (mR σ 0 (100 + i)) (gtx.getD i [])) ∧
  (∀ k, k < 18 → mT σ (mR σ 0 k) = 91 ∧ (∀ j, mI σ (mR σ 0 k) j = (gnm.getD k []).getD j 0) ∧ mR σ (mR σ 0 k) 1 = mR σ 0 (100 + ((gnm.getD k []).getD 1 0).toNat)) ∧
  (∀ k, k < 12 → mT σ (mR σ 0 (20 + k)) = 92 ∧ (∀ j, mI σ (mR σ 0 (20 + k)) j = (gsg.getD k []).getD j 0) ∧ mR σ (mR σ 0 (20 + k)) 1 = mR σ 0 (100 + ((gsg.getD k []).getD 1 0).toNat))
theorem KC.kp {W : Nat → Prop} (x : Kz W σ σ') (g : gOk σ) (z : 0 < mZ σ) (w0 : ¬ W 0) (wt : ∀ a, W a → mT σ a < 90 ∨ 100 ≤ mT σ a) (h : KC σ) : KC σ' := by
  have e0 : ∀ k, mR σ' 0 k = mR σ 0 k := fun k => (x.2.2.2 0 z w0 k).2.2
  refine ⟨fun i hi => ?_, fun k hk => ?_, fun k hk => ?_⟩
  · rw [e0]; exact (h.1 i hi).kp x g wt
  · obtain ⟨q1, q2, q3⟩ := h.2.1 k hk
    have n : ¬ W (mR σ 0 k) := fun w => by have := wt _ w; omega
    rw [e0, e0, x.tag g (by omega), x.rR g (by omega) n]
    exact ⟨q1, fun j => by rw [x.rI g (by omega) n]; exact q2 j, q3⟩
  · obtain ⟨q1, q2, q3⟩ := h.2.2 k hk
    have n : ¬ W (mR σ 0 (20 + k)) := fun w => by have := wt _ w; omega
    rw [e0, e0, x.tag g (by omega), x.rR g (by omega) n]
    exact ⟨q1, fun j => by rw [x.rI g (by omega) n]; exact q2 j, q3⟩
theorem KC.ex {P : Nat → Nat → Prop} (x : Ex P σ σ') (wt : ∀ a k, P a k → mT σ a < 90 ∨ 100 ≤ mT σ a) (h : KC σ) : KC σ' := by
  have nI : ∀ a k, 90 ≤ mT σ a → mT σ a < 100 → mI σ' a k = mI σ a k := fun a k h1 h2 => x.rI (fun p => by have := wt a k p; omega)
  refine ⟨fun i hi => ?_, fun k hk => ?_, fun k hk => ?_⟩
  · obtain ⟨q1, q2, q3⟩ := h.1 i hi
    rw [x.rR]
    exact ⟨by rw [x.rT]; exact q1, by rw [x.rN]; exact q2, fun j hj => by rw [nI _ _ (by omega) (by omega)]; exact q3 j hj⟩
  · obtain ⟨q1, q2, q3⟩ := h.2.1 k hk
    rw [x.rR, x.rT]
    exact ⟨q1, fun j => by rw [nI _ _ (by omega) (by omega)]; exact q2 j, q3⟩
  · obtain ⟨q1, q2, q3⟩ := h.2.2 k hk
    rw [x.rR, x.rT]
    exact ⟨q1, fun j => by rw [nI _ _ (by omega) (by omega)]; exact q2 j, q3⟩
theorem KC.ref (k : KC σ) : Kx σ (mR σ 0 100) refT := k.1 0 (by decide)
theorem KC.ck (k : KC σ) : Ck σ := ⟨k.1 1 (by decide), k.1 2 (by decide)⟩
theorem KC.kn (h : KC σ) : KN σ := fun k hk => by
  obtain ⟨q1, q2, -⟩ := h.2.1 k hk
  refine ⟨q1, ?_⟩
  rw [q2 0]
  have : ∀ k, k < 18 → (gnm.getD k []).getD 0 0 = (k : Int) := by decide
  exact this k hk
theorem KC.ks (h : KC σ) : KS σ := fun k hk => by
  obtain ⟨q1, q2, -⟩ := h.2.2 k hk
  refine ⟨q1, ?_, ?_⟩
  · rw [q2 0]
    have : ∀ k, k < 12 → (gsg.getD k []).getD 0 0 = (k : Int) := by decide
    exact this k hk
  · rw [q2 2]
    have : ∀ k, k < 12 → (gsg.getD k []).getD 2 0 = sgRank k := by decide
    exact this k hk
/-- what the reader may change -/
def RdW (x a : Nat) : Prop := a = x + 1429 ∨ a = x + 1430
/-- what lies on the pile below its own begin is kept -/
def CFp (x : Nat) (σ r : gMem) : Prop := mI σ (x + 1429) 11 ≤ mI r (x + 1429) 11 ∧ ∀ j : Nat, (j : Int) < mI σ (x + 1429) 11 → mR r (x + 1430) j = mR σ (x + 1430) j
theorem CFp.tr (a : CFp x σ σ') (b : CFp x σ' σ'') : CFp x σ σ'' := ⟨by have := a.1; have := b.1; omega, fun j hj => by rw [b.2 j (by have := a.1; omega)]; exact a.2 j hj⟩
def CF (x : Nat) (σ r : gMem) (k : Nat) : Prop :=
  Kz (RdW x) σ r ∧ (∀ j, mR r (x + 1429) j = mR σ (x + 1429) j) ∧ (mI r (x + 1429) 1 = mI σ (x + 1429) 1 ∧ mI r (x + 1429) 4 = mI σ (x + 1429) 4 ∧ mI r (x + 1429) 5 = mI σ (x + 1429) 5 ∧ (mI r (x + 1429) 15 = mI σ (x + 1429) 15 ∨ mI r (x + 1429) 15 < mI σ (x + 1429) 5)) ∧ mZ r ≤ mZ σ + 3 * k ∧ mS r ≤ mS σ + 40 * k ∧ x + 1430 < mZ σ ∧ (∀ q, mZ σ ≤ q → mT r q = 18 → mR r q 1 ≠ x + 1430) ∧ CFp x σ r
theorem CF.tr {j k : Nat} (a : CF x σ σ' j) (b : CF x σ' σ'' k) : CF x σ σ'' (j + k) :=
  ⟨a.1.tr b.1, fun i => (b.2.1 i).trans (a.2.1 i), ⟨b.2.2.1.1.trans a.2.2.1.1, b.2.2.1.2.1.trans a.2.2.1.2.1, b.2.2.1.2.2.1.trans a.2.2.1.2.2.1, by have := b.2.2.1.2.2.2; have := a.2.2.1.2.2.1; have := a.2.2.1.2.2.2; omega⟩, by have := a.2.2.2.1; have := b.2.2.2.1; omega, by have := a.2.2.2.2.1; have := b.2.2.2.2.1; omega, a.2.2.2.2.2.1, fun q hq ht => by
    by_cases c : q < mZ σ'
    · have lt := a.2.2.2.2.2.1
      have nw : ¬ RdW x q := fun w => by unfold RdW at w; omega
      rw [(b.1.2.2.1 q c).1] at ht
      rw [(b.1.2.2.2 q c nw 1).2.2]
      exact a.2.2.2.2.2.2.1 q hq ht
    · exact b.2.2.2.2.2.2.1 q (by omega) ht, a.2.2.2.2.2.2.2.tr b.2.2.2.2.2.2.2⟩
theorem CF.mono {j k : Nat} (a : CF x σ σ' j) (h : j ≤ k) : CF x σ σ' k := ⟨a.1, a.2.1, a.2.2.1, by have := a.2.2.2.1; omega, by have := a.2.2.2.2.1; omega, a.2.2.2.2.2⟩
theorem CF.ex {P : Nat → Nat → Prop} (e : Ex P σ σ') (g : gOk σ) (lt : x + 1430 < mZ σ) (h : ∀ a k, P a k → a = x + 1429 ∧ k ≠ 1 ∧ k ≠ 4 ∧ k ≠ 5 ∧ k ≠ 11) (h15 : mI σ' (x + 1429) 15 = mI σ (x + 1429) 15 ∨ mI σ' (x + 1429) 15 < mI σ (x + 1429) 5) : CF x σ σ' 0 :=
  ⟨e.kp g (fun a k p => Or.inl (h a k p).1), fun j => by rw [e.rR], ⟨e.rI (fun p => (h _ _ p).2.1 rfl), e.rI (fun p => (h _ _ p).2.2.1 rfl), e.rI (fun p => (h _ _ p).2.2.2.1 rfl), h15⟩, by rw [e.rZ]; omega, by rw [e.rS]; omega, lt, fun q hq ht => (by rw [e.rT, g q hq] at ht; cases ht), by rw [e.rI (fun p => (h _ _ p).2.2.2.2 rfl)]; exact Int.le_refl _, fun j _ => by rw [e.rR]⟩
/-- the reader's place -/
def CR (x hi all nv sh : Nat) (bA : Nat → Int) (f : Int → List Int × List Int) (σ : gMem) : Prop :=
  CSt σ x bA hi all ∧
  (mR σ (x + 1429) 0 = x + 2 ∧ mT σ (x + 2) = 104 ∧ mN σ (x + 2) = 40 ∧ mI σ (x + 1429) 1 = nv ∧ nv ≤ 40 ∧ (∀ ver, ver < nv → mT σ (mR σ (x + 2) ver) = 9 ∧ ShL σ (mR σ (mR σ (x + 2) ver) 0) (f ver).1 (f ver).2) ∧ mR σ (x + 1429) 2 = sh ∧ ShL σ sh (f (-1)).1 (f (-1)).2) ∧
  (mR σ (x + 1429) 9 = x + 1430 ∧ mT σ (x + 1430) = 108 ∧ mN σ (x + 1430) = 400 ∧ mR σ (x + 1429) 10 = x + 1431 ∧ mT σ (x + 1431) = 109 ∧ mN σ (x + 1431) = 18 ∧ ∀ k, k < 18 → mR σ (x + 1431) k = mR σ 0 k) ∧
  KC σ ∧ gOk σ ∧ 0 < mZ σ ∧ mT σ 0 = 0 ∧ ∀ q, mT σ q = 18 → mR σ q 1 ≠ x + 1430
theorem CR.lt (c : CR x hi all nv sh bA f σ) : x + 1430 < mZ σ := gOk_lt c.2.2.2.2.1 (by rw [c.2.2.1.2.1]; decide)
theorem CR.w (c : CR x hi all nv sh bA f σ) {a : Nat} (w : RdW x a) : mT σ a = 6 ∨ mT σ a = 108 := by
  rcases w with w | w
  · left; rw [w]; exact c.1.1
  · right; rw [w]; exact c.2.2.1.2.1
theorem CR.w0 (c : CR x hi all nv sh bA f σ) : ¬ RdW x 0 := fun w => by unfold RdW at w; omega
theorem CR.nw (c : CR x hi all nv sh bA f σ) {a : Nat} (h : mT σ a ≠ 6) (h' : mT σ a ≠ 108) : ¬ RdW x a := fun w => by have := c.w w; omega
/-- nodes are kept; the row of parts that is read is none -/
theorem CR.nd (c : CR x hi all nv sh bA f σ) {a : Nat} (h : 11 ≤ mT σ a ∧ mT σ a ≤ 21) : ¬ RdW x a := c.nw (by omega) (by omega)
theorem CR.cf {k : Nat} (c : CR x hi all nv sh bA f σ) (e : CF x σ σ' k) : CR x hi all nv sh bA f σ' := by
  have c0 := c
  obtain ⟨⟨a1, a2, a3, a4, a5, a6, a7, a8⟩, ⟨b1, b2, b3, b4, b5, b6, b7, b8⟩, ⟨d1, d2, d3, d4, d5, d6, d7⟩, e1, e2, e3, e4, e5⟩ := c
  obtain ⟨K, kr, ⟨k1, k4, k5, -⟩, -, -, lt, np, -⟩ := e
  have tg : ∀ a, mT σ a ≠ 0 → mT σ' a = mT σ a := fun a ha => K.tag e2 ha
  have LS : ∀ {q : Nat} {l : List Int}, LsC σ q l → LsC σ' q l := fun z => z.kp K e2 (c0.nw (by rw [z.1]; decide) (by rw [z.1]; decide))
  have SL : ∀ {q : Nat} {R C : List Int}, ShL σ q R C → ShL σ' q R C := fun z => z.kp K e2 (c0.nw (by rw [z.1]; decide) (by rw [z.1]; decide)) (c0.nw (by rw [z.2.1.1]; decide) (by rw [z.2.1.1]; decide)) (c0.nw (by rw [z.2.2.1.1]; decide) (by rw [z.2.2.1.1]; decide))
  have w1 : ¬ RdW x (x + 1) := by unfold RdW; omega
  have w2 : ¬ RdW x (x + 2) := by unfold RdW; omega
  have w3 : ¬ RdW x (x + 1431) := by unfold RdW; omega
  refine ⟨⟨by rw [tg _ (by omega)]; exact a1, by rw [k5]; exact a2, by rw [k4]; exact a3, by rw [kr]; exact a4, by rw [tg _ (by omega)]; exact a5, by rw [K.len e2 (by omega)]; exact a6, fun k hk => by rw [K.rI e2 (by omega) w1]; exact a7 k hk, a8⟩,
    ⟨by rw [kr]; exact b1, by rw [tg _ (by omega)]; exact b2, by rw [K.len e2 (by omega)]; exact b3, by rw [k1]; exact b4, b5, fun ver hv => ?_, by rw [kr]; exact b7, SL b8⟩,
    ⟨by rw [kr]; exact d1, by rw [tg _ (by omega)]; exact d2, by rw [K.len e2 (by omega)]; exact d3, by rw [kr]; exact d4, by rw [tg _ (by omega)]; exact d5, by rw [K.len e2 (by omega)]; exact d6, fun k hk => ?_⟩, e1.kp K e2 e3 c0.w0 (fun a w => by have := c0.w w; omega), K.ok, by have := K.1; omega, ?_, fun q ht => ?_⟩
  · obtain ⟨v1, v2⟩ := b6 ver hv
    have n9 : ¬ RdW x (mR σ (x + 2) ver) := c0.nw (by omega) (by omega)
    rw [K.rR e2 (by omega) w2, tg _ (by omega), K.rR e2 (by omega) n9]
    exact ⟨v1, SL v2⟩
  · rw [K.rR e2 (by omega) w3, (K.2.2.2 0 e3 c0.w0 k).2.2]; exact d7 k hk
  · rw [(K.2.2.1 0 e3).1]; exact e4
  · by_cases c : q < mZ σ
    · rw [(K.2.2.1 q c).1] at ht
      rw [(K.2.2.2 q c (c0.nw (by omega) (by omega)) 1).2.2]
      exact e5 q ht
    · exact np q (by omega) ht
theorem IsP.mono : ∀ (n m q : Nat) (l : Fm), IsP σ n q l → n ≤ m → IsP σ m q l := by
  intro n
  induction n with
  | zero => intro m q l k _; exact k.elim
  | succ n ih =>
    intro m q l k hm
    obtain ⟨m, rfl⟩ : ∃ j, m = j + 1 := ⟨m - 1, by omega⟩
    obtain ⟨p, ls, k1, k2, k3, k4, k5, k6⟩ := k
    exact ⟨p, ls, k1, k2, k3, k4, k5, fun i hi => ih m _ _ (k6 i hi) (by omega)⟩
/-- parts of formulas lie outside of what the reader may change, but for the row of a call's parts -/
theorem CR.isp {k : Nat} (c : CR x hi all nv sh bA f σ) (e : CF x σ σ' k) : ∀ (m q : Nat) (l : Fm), IsP σ m q l → IsP σ' m q l := by
  intro m
  induction m with
  | zero => intro q l k; exact k.elim
  | succ m ih =>
    intro q l k
    obtain ⟨p, ls, k1, k2, k3, k4, k5, k6⟩ := k
    have K := e.1
    have g := c.2.2.2.2.1
    have z := c.2.2.2.2.2.1
    -- as if nothing were written that is looked at
    have kt := k3.tag
    have nq : ¬ RdW x q := c.nd ⟨kt.1, by omega⟩
    have cor : ∀ a, mT σ a = 14 → mT σ' a = 14 ∧ ∀ i, mI σ' a i = mI σ a i := fun a hc => ⟨by rw [K.tag g (by omega), hc], fun i => K.rI g (by omega) (c.nd ⟨by omega, by omega⟩) i⟩
    have tq : mT σ q ≠ 0 := by omega
    have eT := K.tag g tq
    have eI := K.rI g tq nq
    have eR := K.rR g tq nq
    have e0 : ∀ j, mR σ' 0 j = mR σ 0 j := fun j => (K.2.2.2 0 z c.w0 j).2.2
    have L' : LabC σ' q p := by
      unfold LabC at k3 ⊢
      rw [eT]
      rcases k3 with ⟨k1, k2⟩ | ⟨k1, k2, k3, k4⟩ | ⟨k1, k2, kB⟩ | ⟨k1, k2⟩ | ⟨k1, k2, k3, kB⟩ | ⟨k1, k2, k3, k4, kB⟩ | ⟨k1, k2⟩ | ⟨k1, j, k2, k3, k4⟩ | ⟨k1, j, k2, k3, k4, k5⟩
      · exact Or.inl ⟨k1, by rw [K.rL g tq nq]; exact k2⟩
      · have n1 : ¬ RdW x (q + 1) := c.nw (by omega) (by omega)
        refine Or.inr (Or.inl ⟨k1, by rw [eR]; exact k2, by rw [K.tag g (by omega)]; exact k3, ?_⟩)
        rw [K.len g (by omega), k4]
        congr 1
        exact (lst_congr (fun i _ => K.rI g (by omega) n1 i)).symm
      · exact Or.inr (Or.inr (Or.inl ⟨k1, by rw [eI]; exact ⟨k2, kB⟩⟩))
      · exact Or.inr (Or.inr (Or.inr (Or.inl ⟨k1, k2⟩)))
      · refine Or.inr (Or.inr (Or.inr (Or.inr (Or.inl ⟨k1, ?_⟩))))
        have m := cor _ k2
        unfold cfx at k3 ⊢
        rw [eR 0, m.2 0, m.2 1, m.2 2, m.2 3, eI]
        exact ⟨m.1, k3, kB⟩
      · refine Or.inr (Or.inr (Or.inr (Or.inr (Or.inr (Or.inl ⟨k1, ?_⟩)))))
        have m := cor _ k2
        have m' := cor _ k3
        unfold cfx at k4 ⊢
        rw [eR 0, eR 1, m.2 0, m.2 1, m.2 2, m.2 3, m'.2 0, m'.2 1, m'.2 2, m'.2 3, eI]
        exact ⟨m.1, m'.1, k4, kB⟩
      · exact Or.inr (Or.inr (Or.inr (Or.inr (Or.inr (Or.inr (Or.inl ⟨k1, k2⟩))))))
      · refine Or.inr (Or.inr (Or.inr (Or.inr (Or.inr (Or.inr (Or.inr (Or.inl ⟨k1, j, k2, ?_, k4⟩)))))))
        rw [eR 0, e0]; exact k3
      · refine Or.inr (Or.inr (Or.inr (Or.inr (Or.inr (Or.inr (Or.inr (Or.inr ⟨k1, j, k2, ?_, ?_, ?_⟩)))))))
        · rw [eR 0, e0]; exact k3
        · rw [eR 1, K.tag g (by omega)]; exact k4
        · rw [eR 1, K.len g (by omega)]; exact k5
    refine ⟨p, ls, k1, k2, L', k4, k5, fun i hi => ?_⟩
    have ec : chd σ' q i = chd σ q i := by
      unfold chd
      rw [eT]
      rcases kt.2.2 (by omega) with e | e | ⟨e, e'⟩
      · rw [if_pos e, if_pos e, eR]
      · have h19 : ¬ mT σ q = 19 := by omega
        rw [if_neg h19, if_neg h19, if_pos e, if_pos e, eR]
      · have h19 : ¬ mT σ q = 19 := by omega
        have h20 : ¬ mT σ q = 20 := by omega
        have nw : ¬ RdW x (mR σ q 1) := fun w => by
          rcases w with w | w
          · rw [w, c.1.1] at e'; cases e'
          · exact c.2.2.2.2.2.2.2 q e w
        rw [if_neg h19, if_neg h19, if_neg h20, if_neg h20, eR 1, K.rR g (by omega) nw]
    rw [ec]
    exact ih _ _ (k6 i hi)
end Read4
