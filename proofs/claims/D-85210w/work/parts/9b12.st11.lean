/-! ===== PHASE 2: the state: cells of the working sheet are written ===== -/
section State11
variable {N x h s t u b nv nv' pa un fs i : Nat} {σ σ' τ τ' τ'' r : gMem} {P : Nat → Nat → Prop} {W : Nat → Prop} {own own' rt rt' : Nat → Nat} {S S' S0 : Sh} {Gs Gs' : Nat → Sh} {g : Nat → Nat → Vl} {c : Int} {ct : Ct} {a A : Nat} {s : gMem}
theorem CtB.rng (k : CtB τ h nv c ct) : 0 ≤ c ∧ c < 200000 := by
  rcases k with k | ⟨q, k1, k2, k3, k4, k5, -⟩ | ⟨q, k1, k2, k3, -⟩
  · omega
  · have := (k5.2.2 0 k5.2.1).1.1; omega
  · have := k3.2.1; omega
theorem CtB.pw (k : CtB τ h nv c ct) : ∀ p ∈ ct.2, pW p < nv := by
  intro p hp
  rcases k with k | ⟨q, k1, k2, k3, k4, k5, -⟩ | ⟨q, k1, k2, k3, -⟩
  · rw [k.2] at hp; cases hp
  · obtain ⟨i, hi, rfl⟩ := List.mem_iff_getElem.mp hp
    have := (k5.2.2 i hi).2.2.2.2.2
    rw [List.getD_eq_getElem?_getD, List.getElem?_eq_getElem hi] at this
    exact this
  · rw [k2] at hp; cases hp
theorem ShP.set {nr nc V : Int} (k : ShP nr nc V S) (hp : ∀ p ∈ ct.2, pW p < V) {j : Nat} : ShP nr nc V (setC S j ct) := by
  obtain ⟨k1, k2, k3, k4, k5, k6, k7⟩ := k
  refine ⟨k1, k2, k3, k4, k5, k6, fun q hq p hp' => ?_⟩
  have hp2 : p ∈ (if q = j then ct else S.2 q).2 := hp'
  by_cases e : q = j
  · rw [if_pos e] at hp2; exact hp p hp2
  · rw [if_neg e] at hp2; exact k7 q hq p hp2
/-- cells of the working sheet were written, on both sides the same -/
def Wk (h nv : Nat) (σ τ s r : gMem) (a : Nat) (S0 S' : Sh) : Prop :=
  (s.1 = σ.1 ∧ s.2.1 = σ.2.1 ∧ mT s = mT σ ∧ mN s = mN σ ∧ mZ s = mZ σ ∧ mS s = mS σ) ∧ (∀ b j, (∀ q, q < S0.1.1.length → b ≠ mR σ (mR σ a 2) q) → mR s b j = mR σ b j) ∧ ShC s a S' ∧ S'.1 = S0.1 ∧ Ex (fun b k => b = h + 5 ∧ 12800 ≤ k ∧ k < 13120) τ r ∧ ShT r h nv 40 S'
theorem Wk.rf (c : ShC σ a S) (k : ShT τ h nv 40 S) : Wk h nv σ τ σ τ a S S := ⟨⟨rfl, rfl, rfl, rfl, rfl, rfl⟩, fun _ _ _ => rfl, c, rfl, Ex.rf, k⟩
theorem Wk.addr (w : Wk h nv σ τ s r a S0 S') (c : ShC σ a S0) : mR s a 2 = mR σ a 2 ∧ (∀ q, mR s (mR σ a 2) q = mR σ (mR σ a 2) q) ∧ mR s a 0 = mR σ a 0 ∧ mR s a 1 = mR σ a 1 := by
  have n1 : ∀ q, q < S0.1.1.length → a ≠ mR σ (mR σ a 2) q := fun q hq e => by
    have := c.2.2.2 q hq; have h1 := c.1.1; rw [e, this.1] at h1; cases h1
  have n2 : ∀ q, q < S0.1.1.length → mR σ a 2 ≠ mR σ (mR σ a 2) q := fun q hq e => by
    have := c.2.2.2 q hq; have h1 := c.2.1; rw [e, this.1] at h1; cases h1
  exact ⟨w.2.1 a 2 n1, fun q => w.2.1 _ q n2, w.2.1 a 0 n1, w.2.1 a 1 n1⟩
theorem Wk.kz (w : Wk h nv σ τ s r a S0 S') (ok : gOk σ) : Kz (fun b => ∃ q, q < S0.1.1.length ∧ b = mR σ (mR σ a 2) q) σ s := by
  obtain ⟨⟨e1, e2, e3, e4, e5, e6⟩, e7, -⟩ := w
  refine ⟨by omega, fun b hb => by rw [e3]; exact ok b (by omega), fun b _ => by rw [e3, e4]; exact ⟨rfl, rfl⟩, fun b _ hw j => ⟨by unfold mI; rw [e1], by unfold mL; rw [e2], e7 b j (fun q hq e => hw ⟨q, hq, e⟩)⟩⟩
/-- one more cell -/
theorem Wk.set {rr cc : Nat} {c' : Int} (w : Wk h nv σ τ s r a S0 S') (c : ShC σ a S0) (ok : gOk σ) (z : 0 < mZ σ) (z0 : mT σ 0 = 0) (inj : ∀ q q', q < S0.1.1.length → q' < S0.1.1.length → mR σ (mR σ a 2) q = mR σ (mR σ a 2) q' → q = q') (hr : rr < S0.1.1.length) (hc : cc < S0.1.2.length) (kA : CtC s A ct) (kc : CtB r h nv c' ct) : Wk h nv σ τ (wR s (mR σ (mR σ a 2) rr) cc A) (wI r (h + 5) (12800 + 10 * rr + cc) c') a S0 (setC S' (10 * rr + cc) ct) := by
  obtain ⟨a2, aq, a0, a1⟩ := w.addr c
  obtain ⟨⟨e1, e2, e3, e4, e5, e6⟩, e7, e8, e9, e10, e11⟩ := w
  have n32 := c.1.2.1.2.2.1
  have m10 := c.1.2.2.2
  have okS : gOk s := fun b hb => by rw [e3]; exact ok b (by omega)
  have K : Kz (fun b => b = mR σ (mR σ a 2) rr) s (wR s (mR σ (mR σ a 2) rr) cc A) := (Kz.rf okS).wR (Or.inr rfl)
  have t110 : mT s (mR σ (mR σ a 2) rr) = 110 := by rw [e3]; exact (c.2.2.2 rr hr).1
  have wn : WN s (fun b => b = mR σ (mR σ a 2) rr) := ⟨(fun e => by rw [← show (0 : Nat) = mR σ (mR σ a 2) rr from e, e3, z0] at t110; cases t110), (fun b e => by rw [show b = mR σ (mR σ a 2) rr from e, t110]; exact ⟨by omega, by omega, fun e => by omega⟩)⟩
  have zS : 0 < mZ s := by omega
  have ne : ∀ {b}, mT s b ≠ 110 → b ≠ mR σ (mR σ a 2) rr := fun hb e => hb (by rw [e]; exact t110)
  have na : a ≠ mR σ (mR σ a 2) rr := ne (by rw [e8.1.1]; decide)
  have nc : mR σ a 2 ≠ mR σ (mR σ a 2) rr := ne (by rw [← a2, e8.2.1]; decide)
  have s9 : S'.1.1 = S0.1.1 ∧ S'.1.2 = S0.1.2 := by rw [e9]; exact ⟨rfl, rfl⟩
  generalize hrow : mR σ (mR σ a 2) rr = row at *
  have nR : ∀ b j, b ≠ row → mR (wR s row cc A) b j = mR s b j := fun b j hb => by rw [mR_wR, if_neg (fun y => hb y.1)]
  have g0 : Grw r (wI r (h + 5) (12800 + 10 * rr + cc) c') h := by
    unfold Grw
    rw [mIwI1 (by omega), mIwI1 (by omega), mIwI1 (by omega)]
    exact ⟨Int.le_refl _, Int.le_refl _, Int.le_refl _⟩
  have X5 : Ex (fun b k => b = h + 5 ∧ k = 12800 + 10 * rr + cc) r (wI r (h + 5) (12800 + 10 * rr + cc) c') := Ex.rf.I ⟨rfl, rfl⟩
  have co5 : ∀ b k, (b = h + 5 ∧ k = 12800 + 10 * rr + cc) → ¬ CoP r h b k := fun b k p => Qt.co (by unfold Qt; omega)
  obtain ⟨k1, k2, k3, k4, k5⟩ := e11
  have rg := kc.rng
  refine ⟨⟨e1, e2, e3, e4, e5, e6⟩, fun b j hb => ?_, ⟨?_, ?_, ?_, fun q hq => ?_⟩, e9, e10.I ⟨rfl, by omega, by omega⟩, ⟨?_, ?_, fun q hq => ?_, fun q hq => ?_, fun k hk => ?_⟩⟩
  · rw [nR b j (by rw [← hrow]; exact hb rr hr)]; exact e7 b j hb
  · exact e8.1.kp K okS na (ne (by rw [e8.1.2.1.1]; decide)) (ne (by rw [e8.1.2.2.1.1]; decide))
  · rw [nR a 2 na]; exact e8.2.1
  · rw [nR a 2 na]; exact e8.2.2.1
  · rw [nR a 2 na, a2, nR _ q nc, aq]
    have rw0 := e8.2.2.2 q hq
    rw [a2, aq] at rw0
    have hq' : q < S0.1.1.length := by have : q < S'.1.1.length := hq; rw [s9.1] at this; exact this
    refine ⟨rw0.1, rw0.2.1, fun c0 hc0 => ?_⟩
    have hc1 : c0 < S0.1.2.length := by have : c0 < S'.1.2.length := hc0; rw [s9.2] at this; exact this
    show CtC _ _ (if 10 * q + c0 = 10 * rr + cc then ct else S'.2 (10 * q + c0))
    by_cases eq : q = rr
    · rw [eq, hrow] at rw0 ⊢
      by_cases ec : c0 = cc
      · rw [ec, if_pos rfl, mR_wR, if_pos ⟨rfl, rfl⟩]
        exact kA.kp K okS zS wn
      · rw [if_neg (by omega), mR_wR, if_neg (fun y => ec y.2)]
        exact (rw0.2.2 c0 hc0).kp K okS zS wn
    · have nq : mR σ (mR σ a 2) q ≠ row := fun e => eq (inj q rr hq' hr (by rw [hrow]; exact e))
      rw [if_neg (by omega), nR _ _ nq]
      exact (rw0.2.2 c0 hc0).kp K okS zS wn
  · rw [mIwI1 (by omega)]; exact k1
  · rw [mIwI1 (by omega)]; exact k2
  · rw [mIwI1 (by omega)]; exact k3 q hq
  · rw [mIwI1 (by omega)]; exact k4 q hq
  · show CtB _ _ _ _ (if k = 10 * rr + cc then ct else S'.2 k)
    by_cases e : k = 10 * rr + cc
    · rw [if_pos e, e, mIwI2 ⟨rfl, by omega⟩, w32_i (by omega) (by omega)]
      exact kc.ex X5 co5 g0 (Nat.le_refl _)
    · rw [if_neg e, mIwI1 (by omega)]
      exact (k5 k hk).ex X5 co5 g0 (Nat.le_refl _)
/-- the state behind such writes -/
theorem Wk.fin (w : Wk h nv σ τ s r (rt 0) (Gs 0) S') (R : Rl x h t nv pa un fs Gs g own rt σ τ) (h10 : mI σ x 10 = 0) (h65 : mI τ h 65 = 0) (sp : ShP (mI τ h 6) (mI τ h 7) nv S') : Rl x h t nv pa un fs (fun j => if j = 0 then S' else Gs j) g own rt s r ∧ Kz (NoT x h) σ s ∧ Ex (TwA h) τ r := by
  have l := R.1.1
  have hh := R.1.2.1.1
  have v0 : rtV nv pa un 0 := Or.inl rfl
  obtain ⟨d1, d2, d3⟩ := R.1.2.2.2.1.1 0 v0
  have K := w.kz l.ok
  obtain ⟨a2, aq, a0, a1⟩ := w.addr d1
  obtain ⟨⟨e1, e2, e3, e4, e5, e6⟩, e7, e8, e9, e10, e11⟩ := w
  have eI : ∀ b, mI s b = mI σ b := fun b => by unfold mI; rw [e1]
  have e9' : S'.1.1.length = (Gs 0).1.1.length := by rw [e9]
  refine ⟨both_set R own (fun _ _ => rfl) K (fun b ⟨q, hq, e⟩ => Or.inr (Or.inr ⟨q, hq, e⟩)) ⟨?_, eI x⟩ (fun q hq ht => ?_) e8 ?_ (fun b hb => ?_) h10 e10 (fun a k p => Or.inl (Or.inr (Or.inr (Or.inr ⟨p.1, by omega, by omega⟩)))) ?_ e11 sp, K.mono (fun b ⟨q, hq, e⟩ => ?_), e10.mono (fun a k p => by unfold TwA; omega)⟩
  · funext j
    refine e7 x j (fun q hq e => ?_)
    have := (d1.2.2.2 q hq).1
    rw [← e, l.1.1] at this; cases this
  · exact absurd ht (by rw [e3, l.ok q hq]; decide)
  · rw [e9']
    obtain ⟨o1, o2, o3, o4⟩ := d2
    refine ⟨o1, by rw [a2]; exact o2, fun q hq => by rw [a2, aq]; exact o3 q hq, fun q q' hq hq' => by rw [a2, aq, aq]; exact o4 q q' hq hq'⟩
  · refine d3 b ?_
    rw [e9'] at hb
    unfold ShA at hb ⊢
    rw [a0, a1, a2] at hb
    rcases hb with y | y | y | y | ⟨q, y1, y2⟩
    · exact Or.inl y
    · exact Or.inr (Or.inl y)
    · exact Or.inr (Or.inr (Or.inl y))
    · exact Or.inr (Or.inr (Or.inr (Or.inl y)))
    · exact Or.inr (Or.inr (Or.inr (Or.inr ⟨q, y1, by rw [aq] at y2; exact y2⟩)))
  · rw [e10.rI (by omega)]; exact h65
  · have := d3 b (Or.inr (Or.inr (Or.inr (Or.inr ⟨q, hq, e⟩))))
    unfold OutS at this; unfold NoT; omega
end State11
