/-! ===== PHASE 2: the act commit: a version more -/
section State40
variable {N x h t nv pa un fs vA sA qA br hd : Nat} {m1 m2 m3 τ r1 r2 : gMem} {own rt : Nat → Nat} {Gs : Nat → Sh} {g : Nat → Nat → Vl} {V : Nat → Vl}
def GsN (nv : Nat) (Gs : Nat → Sh) (i : Nat) : Sh := if i = 81 + nv then Gs 0 else Gs i
def gN (nv : Nat) (g : Nat → Nat → Vl) (V : Nat → Vl) (k : Nat) : Nat → Vl := if k = nv then V else g k
def rtN (nv sA : Nat) (rt : Nat → Nat) (i : Nat) : Nat := if i = 81 + nv then sA else rt i
def ComP (h nv br a k : Nat) : Prop := CpP h nv a k ∨ ((a = h + 6 ∨ a = h + 7) ∧ k = nv) ∨ (a = h ∧ (k = 13 ∨ k = 98 ∨ k = 8)) ∨ (a = h + 8 ∧ k = br)
theorem Rl.more (R1 : Rl x h t nv pa un fs Gs g own rt m1 τ) (hn : nv < 40) (tv : mT m1 vA = 9) (oV : h + 57 < vA) (rv0 : mR m1 vA 0 = sA) (rv1 : mR m1 vA 1 = qA) (sC : ShC m1 sA (Gs 0)) (sO : OwS own m1 sA (Gs 0).1.1.length) (sF : ∀ b, ShA m1 sA (Gs 0).1.1.length b → h + 57 < b) (sN : ∀ i, rtV nv pa un i → rt i ≠ sA) (oQ : h + 57 < qA) (sep : ∀ k, k < nv → ∀ i, i ≤ 4 → mR m1 (mR m1 (x + 2) k) 1 + i < qA)
    (K2 : Kz (fun a => qA + 1 ≤ a ∧ a ≤ qA + 4) m1 m2) (v2 : VV m2 qA V) (iv : IsV Gs g 0 V) (eR2 : mR m2 = mR m1) (eT2 : mT m2 = mT m1) (i2 : mI m1 vA 2 = hd) (i3 : mI m1 vA 3 = mI τ h 13) (hbr : br < 6) (e7 : mI m1 x 7 = br) (e12 : mI τ h 12 = br) (ehd : mI τ (h + 8) br = hd) (hhd : hd < nv)
    (bits : ∀ j, j < 64 → (tb (mL m1 vA 4) j = true ↔ (j = nv ∨ tb (mL m1 (mR m1 (x + 2) hd) 4) j = true ∨ ∃ p : Nat, mI τ h 13 = p ∧ tb (mL m1 (mR m1 (x + 2) p) 4) j = true)))
    (hm3 : m3 = wI (wI (wI (wI (wR m2 (x + 2) nv vA) (x + 3) br nv) x 5 ((nv + 1 : Nat) : Int)) x 15 (-1)) x 20 0) (cp : CpT τ r1 h 40 nv) (hr2 : r2 = wI (wI (wI (wI (wI (wI r1 (h + 6) nv hd) (h + 7) nv (mI τ h 13)) h 13 (-1)) h 98 0) (h + 8) br nv) h 8 ((nv + 1 : Nat) : Int)) : Rl x h t (nv + 1) pa un fs (GsN nv Gs) (gN nv g V) own (rtN nv sA rt) m3 r2 ∧ Kz (fun a => a = x ∨ a = x + 2 ∨ a = x + 3 ∨ (qA + 1 ≤ a ∧ a ≤ qA + 4)) m1 m3 ∧ Ex (ComP h nv br) τ r2 := by
  have l := R1.1.1
  have ok := l.ok
  have hh := R1.1.2.1.1
  obtain ⟨c5, n1, n4, pu, c8, p4, u4⟩ := R1.c5
  have t5 := l.t5
  obtain ⟨b1, -, b6, b7⟩ := R1.br
  obtain ⟨k1, k2, k3, k4, k5, k6, k7, k8, k9, k10, k11, k12, k13, -⟩ := id v2
  rw [eT2] at k1 k6 k8 k10 k12
  have lx : x < mZ m1 := gOk_lt ok (by rw [l.1.1]; decide)
  -- the class's memory
  have tg : ∀ a, (a = x ∨ a = x + 2 ∨ a = x + 3 ∨ (qA + 1 ≤ a ∧ a ≤ qA + 4)) → (mT m1 a = 1 ∧ a = x) ∨ (mT m1 a = 104 ∧ a = x + 2) ∨ (mT m1 a = 100 ∧ a = x + 3) ∨ mT m1 a = 101 ∨ mT m1 a = 102 := fun a w => by
    rcases w with w | w | w | w
    · rw [w]; exact Or.inl ⟨l.1.1, rfl⟩
    · rw [w]; exact Or.inr (Or.inl ⟨t5.1, rfl⟩)
    · rw [w]; exact Or.inr (Or.inr (Or.inl ⟨t5.2.1, rfl⟩))
    · have : a = qA + 1 ∨ a = qA + 2 ∨ a = qA + 3 ∨ a = qA + 4 := by omega
      rcases this with e | e | e | e
      · rw [e]; exact Or.inr (Or.inr (Or.inr (Or.inr k6)))
      · rw [e]; exact Or.inr (Or.inr (Or.inr (Or.inr k8)))
      · rw [e]; exact Or.inr (Or.inr (Or.inr (Or.inr k10)))
      · rw [e]; exact Or.inr (Or.inr (Or.inr (Or.inl k12)))
  have K3 : Kz (fun a => a = x ∨ a = x + 2 ∨ a = x + 3 ∨ (qA + 1 ≤ a ∧ a ≤ qA + 4)) m1 m3 := by
    have K20 : Kz (fun a => a = x ∨ a = x + 2 ∨ a = x + 3 ∨ (qA + 1 ≤ a ∧ a ≤ qA + 4)) m1 m2 := K2.mono (fun a w => Or.inr (Or.inr (Or.inr w)))
    rw [hm3]
    exact ((((K20.wR (Or.inr (Or.inr (Or.inl rfl)))).wI (Or.inr (Or.inr (Or.inr (Or.inl rfl))))).wI (Or.inr (Or.inl rfl))).wI (Or.inr (Or.inl rfl))).wI (Or.inr (Or.inl rfl))
  have w0 : ¬ (0 = x ∨ 0 = x + 2 ∨ 0 = x + 3 ∨ (qA + 1 ≤ 0 ∧ 0 ≤ qA + 4)) := fun w => by have := tg 0 w; rw [l.z0] at this; omega
  have wn : WN m1 (fun a => a = x ∨ a = x + 2 ∨ a = x + 3 ∨ (qA + 1 ≤ a ∧ a ≤ qA + 4)) := ⟨w0, fun a w => by
    have z := tg a w
    refine ⟨by omega, by omega, fun e => ?_⟩
    have ea : a = qA + 1 ∨ a = qA + 2 ∨ a = qA + 3 := by
      rcases w with w | w | w | w
      · rw [w, l.1.1] at e; cases e
      · rw [w, t5.1] at e; cases e
      · rw [w, t5.2.1] at e; cases e
      · by_cases c : a = qA + 4
        · rw [c, k12] at e; cases e
        · omega
    rcases ea with e | e | e
    · rw [e, Nat.add_sub_cancel, k1]; decide
    · rw [e, show qA + 2 - 1 = qA + 1 by omega, k6]; decide
    · rw [e, show qA + 3 - 1 = qA + 2 by omega, k8]; decide⟩
  have eT : mT m3 = mT m1 := by rw [hm3]; exact eT2
  have eRR : ∀ a j, (a ≠ x + 2 ∨ j ≠ nv) → mR m3 a j = mR m1 a j := fun a j hj => by
    rw [hm3]
    show mR (wR m2 (x + 2) nv vA) a j = _
    rw [mR_wR, if_neg (by omega), eR2]
  have eRn : mR m3 (x + 2) nv = vA := by
    rw [hm3]
    show mR (wR m2 (x + 2) nv vA) (x + 2) nv = _
    rw [mR_wR, if_pos ⟨rfl, rfl⟩]
  have i0 : ∀ j, mI (wR m2 (x + 2) nv vA) x j = mI m1 x j := fun j => (K2.2.2.2 x lx (by omega) j).1
  have eIx : ∀ j, j ≠ 5 → j ≠ 15 → j ≠ 20 → mI m3 x j = mI m1 x j := fun j a1 a2 a3 => by rw [hm3, mIwI1 (by omega), mIwI1 (by omega), mIwI1 (by omega), mIwI1 (by omega)]; exact i0 j
  have e5 : mI m3 x 5 = ((nv + 1 : Nat) : Int) := by rw [hm3, mIwI1 (by omega), mIwI1 (by omega), mIwI2 ⟨rfl, rfl⟩, w32_i (by omega) (by omega)]
  have e15 : mI m3 x 15 = -1 := by rw [hm3, mIwI1 (by omega), mIwI2 ⟨rfl, rfl⟩, w32_i (by omega) (by omega)]
  have e20 : mI m3 x 20 = 0 := by rw [hm3, mIwI2 ⟨rfl, rfl⟩, w32_i (by omega) (by omega)]
  have l3 : x + 3 < mZ m1 := gOk_lt ok (by rw [t5.2.1]; decide)
  have e3 : ∀ j, mI m3 (x + 3) j = if j = br then (nv : Int) else mI m1 (x + 3) j := fun j => by
    rw [hm3, mIwI1 (by omega), mIwI1 (by omega), mIwI1 (by omega)]
    by_cases c : j = br
    · rw [if_pos c, c, mIwI2 ⟨rfl, rfl⟩, w32_i (by omega) (by omega)]
    · rw [if_neg c, mIwI1 (by omega)]
      exact (K2.2.2.2 (x + 3) l3 (by omega) j).1
  have ly : LYc x m3 := l.kp K3 w0 (fun a w => by have := tg a w; omega) (fun a j w rk => eRR a j (by unfold RK at rk; omega)) (fun q hq ht => by
    exfalso
    rw [eT] at ht
    rcases hq with hq | hq
    · rw [ok q hq] at ht; cases ht
    · have := tg q hq; omega)
  have notW : ∀ a, h + 57 < a ∨ (x + 1440 < a ∧ a < h) → (a ≤ qA ∨ qA + 4 < a) → ¬ (a = x ∨ a = x + 2 ∨ a = x + 3 ∨ (qA + 1 ≤ a ∧ a ≤ qA + 4)) := fun a h1 h2 => by omega
  have vne : vA ≠ qA + 1 ∧ vA ≠ qA + 2 ∧ vA ≠ qA + 3 ∧ vA ≠ qA + 4 := ⟨(fun e => by rw [e, k6] at tv; cases tv), (fun e => by rw [e, k8] at tv; cases tv), (fun e => by rw [e, k10] at tv; cases tv), (fun e => by rw [e, k12] at tv; cases tv)⟩
  have nvA : ¬ (vA = x ∨ vA = x + 2 ∨ vA = x + 3 ∨ (qA + 1 ≤ vA ∧ vA ≤ qA + 4)) := by omega
  -- old versions
  have ver : ∀ k, k < nv → mR m3 (x + 2) k = mR m1 (x + 2) k ∧ mT m1 (mR m1 (x + 2) k) = 9 ∧ OutS x h (mR m1 (x + 2) k) ∧ ¬ (mR m1 (x + 2) k = x ∨ mR m1 (x + 2) k = x + 2 ∨ mR m1 (x + 2) k = x + 3 ∨ (qA + 1 ≤ mR m1 (x + 2) k ∧ mR m1 (x + 2) k ≤ qA + 4)) := fun k hk => by
    have v := R1.1.vo k hk
    refine ⟨eRR _ _ (Or.inr (by omega)), v.1, v.2, fun w => ?_⟩
    have := tg _ w
    have t9 := v.1
    omega
  have SC1 := SC.kpG K3 ok l.z wn (fun a w o => by
    have := tg a w
    unfold OutS at o
    omega) R1.1.2.2.2.1
  have sW : ∀ b, ShA m1 sA (Gs 0).1.1.length b → ¬ (b = x ∨ b = x + 2 ∨ b = x + 3 ∨ (qA + 1 ≤ b ∧ b ≤ qA + 4)) := fun b hb w => by
    have := tg b w
    have := shA_tag sC hb
    have := sF b hb
    omega
  have sWa := sW _ (Or.inl rfl)
  have sWc := sW _ (Or.inr (Or.inr (Or.inr (Or.inl rfl))))
  have rtA' : ∀ i, i ≠ 81 + nv → rtA x m3 i = rtA x m1 i := fun i hi => by
    unfold rtA
    rw [eRR x 8 (Or.inl (by omega)), eRR (x + 9) _ (Or.inl (by omega)), eRR (x + 10) _ (Or.inl (by omega))]
    by_cases c : i ≤ 80
    · by_cases c0 : i = 0
      · rw [if_pos c0, if_pos c0]
      · rw [if_neg c0, if_neg c0]
        by_cases c1 : i ≤ 40
        · rw [if_pos c1, if_pos c1]
        · rw [if_neg c1, if_neg c1, if_pos c, if_pos c]
    · rw [if_neg (by omega), if_neg (by omega), if_neg c, if_neg (by omega), if_neg (by omega), if_neg c]
      rw [eRR (x + 2) (i - 81) (Or.inr (by omega))]
      by_cases c2 : i - 81 < nv
      · exact eRR _ 0 (Or.inl (by have := (ver (i - 81) c2).2.2.1; unfold OutS at this; omega))
      · by_cases c3 : mR m1 (x + 2) (i - 81) = x + 2
        · exact eRR _ 0 (Or.inr (by omega))
        · exact eRR _ 0 (Or.inl c3)
  have old : ∀ i, rtV (nv + 1) pa un i → i ≠ 81 + nv → rtV nv pa un i := fun i hi hne => by unfold rtV at hi ⊢; omega
  obtain ⟨V0, hV0⟩ := R1.1.2.2.2.2.2.2
  have RC : RCl x h (nv + 1) pa un (GsN nv Gs) (gN nv g V) own (rtN nv sA rt) m3 := by
    refine ⟨ly, ⟨hh, by have := R1.1.2.1.2; have := K3.1; omega⟩, ⟨e5, by rw [eIx 13 (by decide) (by decide) (by decide)]; exact R1.1.2.2.1.2.1, by rw [eIx 14 (by decide) (by decide) (by decide)]; exact R1.1.2.2.1.2.2.1, by omega, by omega, pu⟩, ⟨fun i hi => ?_, fun i j hi hj e => ?_⟩, fun i hi => ?_, fun k hk => ?_, V0, hV0.kp K3 ok (fun i hi => by omega)⟩
    · unfold rtN GsN
      by_cases c : i = 81 + nv
      · rw [if_pos c, if_pos c]
        exact ⟨sC.kp K3 ok l.z wn sW, sO.kp K3 ok sC sWa sWc, fun b hb => Or.inr (sF b ((ShA.kp K3 ok sC sWa sWc).mp hb))⟩
      · rw [if_neg c, if_neg c]
        exact SC1.1 i (old i hi c)
    · unfold rtN at e
      by_cases ci : i = 81 + nv
      · by_cases cj : j = 81 + nv
        · omega
        · rw [if_pos ci, if_neg cj] at e
          exact absurd e.symm (sN j (old j hj cj))
      · by_cases cj : j = 81 + nv
        · rw [if_neg ci, if_pos cj] at e
          exact absurd e (sN i (old i hi ci))
        · rw [if_neg ci, if_neg cj] at e
          exact SC1.2 i j (old i hi ci) (old j hj cj) e
    · unfold rtN
      by_cases c : i = 81 + nv
      · rw [if_pos c, c]
        unfold rtA
        rw [if_neg (by omega), if_neg (by omega), if_neg (by omega), show 81 + nv - 81 = nv by omega, eRn, eRR vA 0 (Or.inl (by omega)), rv0]
      · rw [if_neg c, rtA' i c]
        exact R1.1.2.2.2.2.1 i (old i hi c)
    · unfold gN
      by_cases c : k = nv
      · rw [if_pos c, c]
        have K23 : Kz (fun a => a = x ∨ a = x + 2 ∨ a = x + 3) m2 m3 := by
          have K00 : Kz (fun a => a = x ∨ a = x + 2 ∨ a = x + 3) m2 m2 := Kz.rf K2.ok
          rw [hm3]
          exact ((((K00.wR (Or.inr (Or.inr (Or.inl rfl)))).wI (Or.inr (Or.inr (Or.inr rfl)))).wI (Or.inr (Or.inl rfl))).wI (Or.inr (Or.inl rfl))).wI (Or.inr (Or.inl rfl))
        unfold VcO
        rw [eRn, eT, eRR vA 1 (Or.inl (by omega)), rv1]
        exact ⟨tv, Or.inr oV, v2.kp K23 K2.ok (fun i hi => by omega), fun i hi => Or.inr (by omega)⟩
      · rw [if_neg c]
        obtain ⟨v1, v2', v3, v4⟩ := R1.1.2.2.2.2.2.1 k (by omega)
        have e := ver k (by omega)
        have e1 : mR m3 (mR m1 (x + 2) k) 1 = mR m1 (mR m1 (x + 2) k) 1 := eRR _ _ (Or.inl (by have := e.2.2.1; unfold OutS at this; omega))
        unfold VcO
        rw [e.1, eT, e1]
        refine ⟨v1, v2', v3.kp K3 ok (fun i hi => notW _ (by have := v4 i hi; unfold OutS at this; omega) (Or.inl (by have := sep k (by omega) i hi; omega))), v4⟩
  -- the twin's memory
  have XW : Ex (fun a k => ((a = h + 6 ∨ a = h + 7) ∧ k = nv) ∨ (a = h ∧ (k = 13 ∨ k = 98 ∨ k = 8)) ∨ (a = h + 8 ∧ k = br)) r1 r2 := by
    rw [hr2]
    exact (((((Ex.rf.I (Or.inl ⟨Or.inl rfl, rfl⟩)).I (Or.inl ⟨Or.inr rfl, rfl⟩)).I (Or.inr (Or.inl ⟨rfl, Or.inl rfl⟩))).I (Or.inr (Or.inl ⟨rfl, Or.inr (Or.inl rfl)⟩))).I (Or.inr (Or.inr ⟨rfl, rfl⟩))).I (Or.inr (Or.inl ⟨rfl, Or.inr (Or.inr rfl)⟩))
  have XX : Ex (ComP h nv br) τ r2 := (cp.1.mono (fun a k p => Or.inl p)).tr (XW.mono (fun a k p => Or.inr p))
  have n40 : nv ≠ 40 := by omega
  have eh : ∀ k, k ≠ 13 → k ≠ 98 → k ≠ 8 → mI r2 h k = mI τ h k := fun k a1 a2 a3 => XX.rI (by unfold ComP CpP; omega)
  have eo : ∀ o k, 9 ≤ o → mI r2 (h + o) k = mI τ (h + o) k := fun o k ho => XX.rI (by unfold ComP CpP; omega)
  have f8 : mI r2 h 8 = ((nv + 1 : Nat) : Int) := by rw [hr2, mIwI2 ⟨rfl, rfl⟩, w32_i (by omega) (by omega)]
  have f13 : mI r2 h 13 = -1 := by rw [hr2, mIwI1 (by omega), mIwI1 (by omega), mIwI1 (by omega), mIwI2 ⟨rfl, rfl⟩, w32_i (by omega) (by omega)]
  have f98 : mI r2 h 98 = 0 := by rw [hr2, mIwI1 (by omega), mIwI1 (by omega), mIwI2 ⟨rfl, rfl⟩, w32_i (by omega) (by omega)]
  have f6 : ∀ k, mI r2 (h + 6) k = if k = nv then (hd : Int) else mI τ (h + 6) k := fun k => by
    by_cases c : k = nv
    · rw [if_pos c, c, hr2, mIwI1 (by omega), mIwI1 (by omega), mIwI1 (by omega), mIwI1 (by omega), mIwI1 (by omega), mIwI2 ⟨rfl, rfl⟩, w32_i (by omega) (by omega)]
    · rw [if_neg c]; exact XX.rI (by unfold ComP CpP; omega)
  have f7 : ∀ k, mI r2 (h + 7) k = if k = nv then mI τ h 13 else mI τ (h + 7) k := fun k => by
    by_cases c : k = nv
    · rw [if_pos c, c, hr2, mIwI1 (by omega), mIwI1 (by omega), mIwI1 (by omega), mIwI1 (by omega), mIwI2 ⟨rfl, rfl⟩, mI_w32]
    · rw [if_neg c]; exact XX.rI (by unfold ComP CpP; omega)
  have fb : ∀ k, mI r2 (h + 8) k = if k = br then (nv : Int) else mI τ (h + 8) k := fun k => by
    by_cases c : k = br
    · rw [if_pos c, c, hr2, mIwI1 (by omega), mIwI2 ⟨rfl, rfl⟩, w32_i (by omega) (by omega)]
    · rw [if_neg c]; exact XX.rI (by unfold ComP CpP; omega)
  have qt : ∀ a k, ComP h nv br a k → Qt h a := fun a k p => by unfold ComP CpP at p; unfold Qt; omega
  have gw : Grw τ r2 h := ⟨by rw [eh 25 (by decide) (by decide) (by decide)]; exact Int.le_refl _, by rw [eh 19 (by decide) (by decide) (by decide)]; exact Int.le_refl _, by rw [eh 24 (by decide) (by decide) (by decide)]; exact Int.le_refl _⟩
  have base := R1.2.1.base XX qt
  have sh0 := R1.s0
  have len0 := R1.2.1.len (show rtV nv pa un 0 from Or.inl rfl)
  have bdd := cp.bd (by decide) R1.2.1.2.2.1
  obtain ⟨r1', ⟨q2, q3, q4, q5, q6, q7, q8⟩, q9, q10, q11, q12⟩ := R1.2.1
  have RT : RTw h t (nv + 1) pa un fs (GsN nv Gs) r2 := by
    refine ⟨base.1, ⟨f8, by rw [eh 16 (by decide) (by decide) (by decide)]; exact q3, by rw [eh 17 (by decide) (by decide) (by decide)]; exact q4, by rw [eh 15 (by decide) (by decide) (by decide)]; exact q5, q6, by omega, q8⟩, fun s hs => ?_, by rw [eh 25 (by decide) (by decide) (by decide), eh 19 (by decide) (by decide) (by decide), eh 24 (by decide) (by decide) (by decide)]; exact q10, fun i hi => ?_, base.2⟩
    · rw [XW.rI (by omega), XW.rI (by omega)]; exact bdd s hs
    · unfold GsN
      by_cases c : i = 81 + nv
      · rw [if_pos c, c, tsN_k]
        have gw1 : Grw r1 r2 h := by
          unfold Grw
          rw [XW.rI (by omega), XW.rI (by omega), XW.rI (by omega)]
          exact ⟨Int.le_refl _, Int.le_refl _, Int.le_refl _⟩
        exact (sh0.cp cp len0.1 len0.2).ex XW (fun a k p q => by unfold SlP at q; omega) (fun a k p => Qt.co (by unfold Qt; omega)) gw1 (by omega) len0.1 len0.2
      · rw [if_neg c]
        have hv := old i hi c
        have len := R1.2.1.len hv
        have ne : tsN fs i ≠ nv := fun e => by
          have := tsN_inj (fs := fs) hi (show rtV (nv + 1) pa un (81 + nv) by unfold rtV; omega) (by omega) p4 u4 (by rw [tsN_k]; exact e)
          exact c this
        exact (q11 i hv).ex XX (fun a k p q => by unfold ComP CpP at p; unfold SlP at q; omega) (fun a k p => (qt a k p).co) gw (by omega) len.1 len.2
  have eIn : ∀ {a : Nat}, mT m1 a ≠ 0 → ¬ (a = x ∨ a = x + 2 ∨ a = x + 3 ∨ (qA + 1 ≤ a ∧ a ≤ qA + 4)) → ∀ k, mI m3 a k = mI m1 a k := fun ta wa k => K3.rI ok ta wa k
  have bit : ∀ k, k < nv → mL m3 (mR m1 (x + 2) k) 4 = mL m1 (mR m1 (x + 2) k) 4 := fun k hk => by
    have e := ver k hk
    exact K3.rL ok (by rw [e.2.1]; decide) e.2.2.2 4
  refine ⟨⟨RC, RT, ⟨?_, ?_, ?_, ?_, ⟨⟨fun k hk => ?_, ⟨br, hbr, ?_, ?_, ?_⟩, ?_, ?_⟩, fun k hk => ?_, ?_, ?_⟩⟩, fun i hi => ?_, ⟨fun k hk => ?_, fun z => ?_⟩, ⟨fun k hk z c hc => ?_, fun k h1 h2 => ?_, fun z => ?_⟩⟩, K3, XX⟩
  · obtain ⟨n, a1, a2, a3, a4⟩ := R1.2.2.1.1
    exact ⟨n, a1, by rw [eIx 1 (by decide) (by decide) (by decide)]; exact a2, by rw [eh 40 (by decide) (by decide) (by decide)]; exact a3, fun j hj => by rw [eIn (by rw [(l.T (1, 102, 400) (by decide)).1]; decide) (by omega), eo 27 j (by decide)]; exact a4 j hj⟩
  · have := R1.2.2.1.2.1
    unfold Rfl at this ⊢
    rw [eIx 2 (by decide) (by decide) (by decide), eIx 3 (by decide) (by decide) (by decide), eh 41 (by decide) (by decide) (by decide), eh 42 (by decide) (by decide) (by decide)]; exact this
  · have := R1.2.2.1.2.2.1
    unfold Rnx at this ⊢
    rw [eIx 21 (by decide) (by decide) (by decide), eIx 22 (by decide) (by decide) (by decide), eh 6 (by decide) (by decide) (by decide), eh 7 (by decide) (by decide) (by decide)]; exact this
  · have := R1.2.2.1.2.2.2.1
    unfold Rpt at this ⊢
    rw [eIx 17 (by decide) (by decide) (by decide), eh 25 (by decide) (by decide) (by decide)]; exact this
  · rw [e3, fb]
    have := b1 k hk
    by_cases c : k = br
    · rw [if_pos c, if_pos c]; omega
    · rw [if_neg c, if_neg c]; omega
  · rw [eIx 7 (by decide) (by decide) (by decide)]; exact e7
  · rw [eh 12 (by decide) (by decide) (by decide)]; exact e12
  · rw [fb, if_pos rfl]; omega
  · rw [e15, f13]; omega
  · rw [eIx 16 (by decide) (by decide) (by decide), eh 14 (by decide) (by decide) (by decide)]; exact b7
  · rw [f6, f7]
    by_cases c : k = nv
    · rw [if_pos c, if_pos c, c, eRn, eIn (by rw [tv]; decide) nvA, eIn (by rw [tv]; decide) nvA, K3.rL ok (by rw [tv]; decide) nvA 4, i2, i3]
      refine ⟨rfl, rfl, by omega, by omega, by omega, by omega, fun _ => by omega, fun j hj => ?_⟩
      rw [bits j hj]
      have eh2 : mL m3 (mR m3 (x + 2) hd) 4 = mL m1 (mR m1 (x + 2) hd) 4 := by rw [(ver hd hhd).1]; exact bit hd hhd
      constructor
      · rintro (a | a | ⟨p, a1, a2⟩)
        · exact Or.inl a
        · exact Or.inr (Or.inl ⟨hd, rfl, by rw [eh2]; exact a⟩)
        · exact Or.inr (Or.inr ⟨p, a1, by rw [(ver p (by omega)).1, bit p (by omega)]; exact a2⟩)
      · rintro (a | ⟨p, a1, a2⟩ | ⟨p, a1, a2⟩)
        · exact Or.inl a
        · have : p = hd := by omega
          subst this
          rw [eh2] at a2
          exact Or.inr (Or.inl a2)
        · rw [(ver p (by omega)).1, bit p (by omega)] at a2
          exact Or.inr (Or.inr ⟨p, a1, a2⟩)
    · rw [if_neg c, if_neg c]
      have hk' : k < nv := by omega
      have e := ver k hk'
      obtain ⟨z1, z2, z3, z4, z5, z6, z7, z8⟩ := R1.vr k hk'
      rw [e.1, eIn (by rw [e.2.1]; decide) e.2.2.2, eIn (by rw [e.2.1]; decide) e.2.2.2, bit k hk']
      refine ⟨z1, z2, z3, z4, z5, z6, z7, fun j hj => ?_⟩
      rw [z8 j hj]
      constructor
      · rintro (a | ⟨p, a1, a2⟩ | ⟨p, a1, a2⟩)
        · exact Or.inl a
        · exact Or.inr (Or.inl ⟨p, a1, by rw [(ver p (by omega)).1, bit p (by omega)]; exact a2⟩)
        · exact Or.inr (Or.inr ⟨p, a1, by rw [(ver p (by omega)).1, bit p (by omega)]; exact a2⟩)
      · rintro (a | ⟨p, a1, a2⟩ | ⟨p, a1, a2⟩)
        · exact Or.inl a
        · exact Or.inr (Or.inl ⟨p, a1, by rw [(ver p (by omega)).1, bit p (by omega)] at a2; exact a2⟩)
        · exact Or.inr (Or.inr ⟨p, a1, by rw [(ver p (by omega)).1, bit p (by omega)] at a2; exact a2⟩)
  · obtain ⟨n, z1, z2, z3, z4, z5, z6, z7, z8, z9⟩ := R1.cf
    refine ⟨0, by omega, e20, f98, by rw [eT, eRR x 18 (Or.inl (by omega))]; exact z4, Nat.zero_le _, by rw [eT, eRR x 19 (Or.inl (by omega))]; exact z6, Nat.zero_le _, fun z => absurd z (by omega), fun i hi => absurd hi (by omega)⟩
  · exact R1.df.mv K3 ok t5.2.2 (by omega) (eIx 29 (by decide) (by decide) (by decide)) ⟨eh 104 (by decide) (by decide) (by decide), fun o k h1 h2 => eo o k (by omega)⟩
  · rw [eh 6 (by decide) (by decide) (by decide), eh 7 (by decide) (by decide) (by decide)]
    unfold GsN
    by_cases c : i = 81 + nv
    · rw [if_pos c]
      have sp := R1.p0
      refine ⟨sp.1, sp.2.1, sp.2.2.1, sp.2.2.2.1, sp.2.2.2.2.1, sp.2.2.2.2.2.1, fun k hk p hp => ?_⟩
      have := sp.2.2.2.2.2.2 k hk p hp
      unfold Vi
      rw [if_pos (by omega)]; omega
    · rw [if_neg c]
      have sp := R1.shP (old i hi c)
      refine ⟨sp.1, sp.2.1, sp.2.2.1, sp.2.2.2.1, sp.2.2.2.2.1, sp.2.2.2.2.2.1, fun k hk p hp => ?_⟩
      have := sp.2.2.2.2.2.2 k hk p hp
      unfold Vi at this ⊢
      split at this <;> rename_i c2
      · rw [if_pos c2]; exact this
      · rw [if_neg c2]; omega
  · unfold gN
    by_cases c : k = nv
    · rw [if_pos c, c]
      exact iv.nw R1 (Or.inl rfl) (by unfold GsN; rw [if_pos rfl]) (fun k hk => by unfold GsN; rw [if_neg (by omega)]) (fun k hk => by rw [if_neg (by omega)])
    · rw [if_neg c]
      exact (R1.2.2.2.2.1.1 k (by omega)).nw R1 (show rtV nv pa un (81 + k) by unfold rtV; omega) (by unfold GsN; rw [if_neg (by omega)]) (fun k hk => by unfold GsN; rw [if_neg (by omega)]) (fun k hk => by rw [if_neg (by omega)])
  · rw [eIx 10 (by decide) (by decide) (by decide)] at z
    obtain ⟨V', v1, v2'⟩ := R1.2.2.2.2.1.2 z
    exact ⟨V', v1.kp K3 ok (fun i hi => by omega), v2'.nw R1 (Or.inl rfl) (by unfold GsN; rw [if_neg (by omega)]) (fun k hk => by unfold GsN; rw [if_neg (by omega)]) (fun k hk => by unfold gN; rw [if_neg (by omega)])⟩
  · rw [eo 32 k (by decide)] at z
    by_cases c2 : k = nv
    · exact absurd (R1.2.2.2.2.2.2.1 k (by omega) (by omega)) z
    · unfold GsN at hc
      rw [if_neg (by omega)] at hc
      unfold gN
      rw [if_neg c2]
      exact VG.ex XX (R1.2.2.2.2.2.1 k (by omega) z c hc) (fun p => by unfold ComP CpP at p; omega) (fun p => by unfold ComP CpP at p; omega) (fun p => by unfold ComP CpP at p; omega) (fun i _ p => by unfold ComP CpP at p; omega)
  · rw [eo 32 k (by decide)]; exact R1.2.2.2.2.2.2.1 k (by omega) h2
  · rw [eh 65 (by decide) (by decide) (by decide)] at z
    obtain ⟨V', v1, v2'⟩ := R1.2.2.2.2.2.2.2 z
    have g0 : GsN nv Gs 0 = Gs 0 := by unfold GsN; rw [if_neg (by omega)]
    refine ⟨V', v1.nw R1 (Or.inl rfl) g0 (fun k hk => by unfold GsN; rw [if_neg (by omega)]) (fun k hk => by unfold gN; rw [if_neg (by omega)]), fun c hc => ?_⟩
    rw [g0] at hc
    exact VG.ex XX (v2' c hc) (fun p => by unfold ComP CpP at p; omega) (fun p => by unfold ComP CpP at p; omega) (fun p => by unfold ComP CpP at p; omega) (fun i _ p => by unfold ComP CpP at p; omega)
end State40
