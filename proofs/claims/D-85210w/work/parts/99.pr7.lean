/-! ===== PHASE 2: reading: what holds between two steps; a sign of two ===== -/
section Read7
variable {N x h hi all nv sh M lu0 b b' p q op pa pi : Nat} {bA : Nat → Int} {f : Int → List Int × List Int} {σ σ' σ'' τ τ' τ'' s : gMem}
theorem LX.ex {P : Nat → Nat → Prop} (l : LX τ h bA all q) (e : Ex P τ τ') (n : ∀ k, 46 ≤ k → k ≤ 55 → ¬ P h k) : LX τ' h bA all q := by
  have f : ∀ k, 46 ≤ k → k ≤ 55 → mI τ' h k = mI τ h k := fun k h1 h2 => e.rI (n k h1 h2)
  unfold LX at l ⊢
  rw [f 46 (by decide) (by decide), f 47 (by decide) (by decide), f 48 (by decide) (by decide), f 49 (by decide) (by decide), f 50 (by decide) (by decide), f 51 (by decide) (by decide), f 52 (by decide) (by decide), f 53 (by decide) (by decide), f 54 (by decide) (by decide)]
  exact l
/-- the two readers stand at one place -/
def S2 (x h hi all nv sh M lu0 : Nat) (bA : Nat → Int) (f : Int → List Int × List Int) (σ τ : gMem) (p q op pa pi : Nat) : Prop :=
  CR x hi all nv sh bA f σ ∧ TR h hi all nv M bA f τ ∧
  (mI σ (x + 1429) 6 = p ∧ mI σ (x + 1429) 7 = op ∧ mI σ (x + 1429) 8 = pa ∧ mI σ (x + 1429) 11 = pi) ∧
  (Fst isBl bA p q ∧ LX τ h bA all q ∧ mI τ h 57 = op ∧ mI τ h 56 = pa ∧ mI τ h 41 = 0) ∧
  (mI τ h 58 = mI σ (x + 1429) 14 ∧ (mI σ (x + 1429) 14 ≠ 0 → mI τ h 59 = mI σ (x + 1429) 15) ∧ 0 ≤ mI σ (x + 1429) 14) ∧
  (p ≤ hi ∧ op ≤ 20 ∧ pa ≤ p ∧ pi ≤ p ∧ 0 ≤ mI τ h 19 ∧ mI τ h 19 ≤ lu0 + p ∧ lu0 ≤ 80000)
/-- what comes out of reading a part: a node and a row, or one fault -/
def OutN (x h hi all nv sh M lu0 : Nat) (bA : Nat → Int) (f : Int → List Int × List Int) (σ τ : gMem) (p op pa pi : Nat) (ar : Prop) (r : gR) (r2 : gMem) : Prop :=
  (∃ nd p' q' pa', r.1 = .inl (some (vR nd)) ∧ S2 x h hi all nv sh M lu0 bA f r.2 r2 p' q' op pa' pi ∧ p < p' ∧ pa < pa' ∧ pa' + p ≤ p' + pa ∧ CF x σ r.2 (p' - p) ∧ TF (lu0 + hi) h τ r2 (M + pa) ∧
    ND (mI r.2 (x + 1429) 14 = 0) r.2 nd r2 h nv (M + pa) (pa' - pa) ∧ (mI r.2 (x + 1429) 14 = 0 → mI σ (x + 1429) 14 = 0) ∧ (mI r2 (h + 14) (M + pa' - 1) = 6 → ar)) ∨
  (r.1 = .inr "SheetBranches$Wrong" ∧ mI r2 h 41 = mI r.2 (x + 1429) 12 ∧ mI r2 h 42 = mI r.2 (x + 1429) 13 ∧ 0 < mI r2 h 41 ∧ CF x σ r.2 (hi + 2 - p) ∧ TF (lu0 + hi) h τ r2 (M + pa))
abbrev Out2 (x h hi all nv sh M lu0 : Nat) (bA : Nat → Int) (f : Int → List Int × List Int) (σ τ : gMem) (p op pa pi : Nat) : gR → gMem → Prop := OutN x h hi all nv sh M lu0 bA f σ τ p op pa pi False
theorem Rq.cf (c : CR x hi all nv sh bA f σ) {k : Nat} (e : Ex (Rq x k) σ σ') (hk : k ≠ 1 ∧ k ≠ 4 ∧ k ≠ 5 ∧ k ≠ 11 ∧ k ≠ 15) : CF x σ σ' 0 := CF.ex e c.2.2.2.2.1 c.lt (fun a j p => by unfold Rq at p; omega) (Or.inl (e.rI (fun p => by unfold Rq at p; omega)))
/-- the component looks at the next byte -/
theorem S2.pk (hN : 500 ≤ N) (S : S2 x h hi all nv sh M lu0 bA f σ τ p q op pa pi) : Ev (x6_peek N (x + 1429) σ) (fun r => r.1 = bA q ∧ S2 x h hi all nv sh M lu0 bA f r.2 τ q q op pa pi ∧ CF x σ r.2 0 ∧ (∀ k, k ≠ 6 → mI r.2 (x + 1429) k = mI σ (x + 1429) k) ∧ p ≤ q ∧ q ≤ hi) := by
  obtain ⟨c, t, ⟨s1, s2, s3, s4⟩, ⟨t1, t2, t3, t4, t5⟩, ⟨l1, l2, l3⟩, b1, b2, b3, b4, b5, b6, b7⟩ := S
  have tx := c.1.2.2.2.2.2.2.2
  have ql := t1.le tx rfl
  have q1 := t1.1
  refine (c_peek hN c.1 s1 t1).m (fun r z => ?_)
  obtain ⟨z1, z2, z3, z4⟩ := z
  have e := Rq.cf c z2 (by omega)
  have fk : ∀ k, k ≠ 6 → mI r.2 (x + 1429) k = mI σ (x + 1429) k := fun k hk => z2.rI (fun y => hk y.2)
  exact ⟨z1, ⟨c.cf e, t, ⟨z3, by rw [fk 7 (by decide)]; exact s2, by rw [fk 8 (by decide)]; exact s3, by rw [fk 11 (by decide)]; exact s4⟩, ⟨Fst.rf t1.2.2, t2, t3, t4, t5⟩, ⟨by rw [fk 14 (by decide)]; exact l1, by rw [fk 14 (by decide), fk 15 (by decide)]; exact l2, by rw [fk 14 (by decide)]; exact l3⟩, by omega, b2, by omega, by omega, b5, by omega, b7⟩, e, fk, q1, by omega⟩
/-- one new cell, and ints of the reader -/
theorem CF.one {r : gMem} {t : Nat} (c : CR x hi all nv sh bA f σ) (t0 : t ≠ 0) (hZ : mZ r = mZ σ + 1) (hS : mS r ≤ mS σ + 40) (hT : ∀ a, mT r a = if a = mZ σ then t else mT σ a) (hN : ∀ a, a ≠ mZ σ → mN r a = mN σ a) (hI : ∀ a k, a ≠ mZ σ → a ≠ x + 1429 → mI r a k = mI σ a k) (hL : ∀ a k, a ≠ mZ σ → mL r a k = mL σ a k) (hR : ∀ a k, a ≠ mZ σ → mR r a k = mR σ a k) (h145 : ∀ k, (k = 1 ∨ k = 4 ∨ k = 5 ∨ k = 11 ∨ k = 15) → mI r (x + 1429) k = mI σ (x + 1429) k) (ht : t = 18 → mR r (mZ σ) 1 ≠ x + 1430) : CF x σ r 1 := by
  have lt := c.lt
  have ok := c.2.2.2.2.1
  refine ⟨⟨by omega, fun a ha => ?_, fun a ha => ⟨by rw [hT, if_neg (by omega)], hN a (by omega)⟩, fun a ha hw k => ⟨hI a k (by omega) (fun e => hw (Or.inl e)), hL a k (by omega), hR a k (by omega)⟩⟩, fun j => hR _ j (by omega), ⟨h145 1 (by omega), h145 4 (by omega), h145 5 (by omega), Or.inl (h145 15 (by omega))⟩, by omega, by omega, lt, fun q hq h18 => ?_, by rw [h145 11 (by omega)]; exact Int.le_refl _, fun j _ => hR _ j (by omega)⟩
  · rw [hT, if_neg (by omega)]; exact ok a (by omega)
  · rw [hT] at h18
    by_cases e : q = mZ σ
    · rw [if_pos e] at h18
      rw [e]; exact ht h18
    · rw [if_neg e, ok q hq] at h18; cases h18
theorem RwT.lab {l : Fm} (k : RwT τ h b nv l) : mI τ (h + 14) (b + l.length - 1) = pK (lab l) := (SpT.lab k.1).2.1
theorem two_ok {k : Nat} (hk : k < 12) {l1 l2 : Fm} (h1 : pK (lab l1) ≠ 6) (h2 : pK (lab l2) ≠ 6) : PtOk (mkO (10 + k) [l1, l2].length) ∧ argsOk (mkO (10 + k) [l1, l2].length) ([l1, l2].map lab) := by
  refine ⟨Or.inr (Or.inr (Or.inr (Or.inr (Or.inr (Or.inr ⟨10 + k, 2, rfl, Or.inl (by omega)⟩))))), ?_⟩
  unfold argsOk
  rw [if_neg (show ¬ pK (mkO (10 + k) [l1, l2].length) ≤ 6 by show ¬ 10 + k ≤ 6; omega), if_neg (show ¬ pK (mkO (10 + k) [l1, l2].length) = 7 by show ¬ 10 + k = 7; omega), if_pos (show pK (mkO (10 + k) [l1, l2].length) < 30 by show 10 + k < 30; omega)]
  refine ⟨rfl, fun y hy => ?_⟩
  rcases List.mem_cons.mp hy with e | hy
  · rw [e]; exact h1
  · rw [List.mem_singleton.mp hy]; exact h2
/-- a sign of two is made of two parts -/
theorem op_two {k nd1 nd2 m1 m2 sg : Nat} (hN : 500 ≤ N) (S : S2 x h hi all nv sh M lu0 bA f σ τ p q op pa pi) (hk : k < 12) (hsg : sg = mR σ 0 (20 + k)) (hpa : pa < p) (hb : b + m1 + m2 = M + pa) (n1 : ND (mI σ (x + 1429) 14 = 0) σ nd1 τ h nv b m1) (n2 : ND (mI σ (x + 1429) 14 = 0) σ nd2 τ h nv (b + m1) m2) (na1 : mI τ (h + 14) (b + m1 - 1) ≠ 6) (na2 : mI τ (h + 14) (b + m1 + m2 - 1) ≠ 6) : E2 (x6_two (x + 1429) sg nd1 nd2 σ) (tw_part N h ((10 + k : Nat) : Int) 2 τ) (fun a a2 => S2 x h hi all nv sh M lu0 bA f a.2 a2.2 p q op (pa + 1) pi ∧ CF x σ a.2 1 ∧ TF (lu0 + hi) h τ a2.2 (M + pa) ∧ ND (mI a.2 (x + 1429) 14 = 0) a.2 a.1 a2.2 h nv b (m1 + m2 + 1) ∧ mI a.2 (x + 1429) 14 = mI σ (x + 1429) 14 ∧ mI a2.2 (h + 14) (M + pa) = ((10 + k : Nat) : Int)) := by
  have S0 := S
  obtain ⟨c, t, ⟨s1, s2, s3, s4⟩, ⟨t1, t2, t3, t4, t5⟩, ⟨l1, l2, l3⟩, b1, b2, b3, b4, b5, b6, b7⟩ := S
  have tx := c.1.2.2.2.2.2.2.2
  have h4 : hi ≤ 400 := by have := tx.2.2.1; have := tx.2.2.2; omega
  have ok := c.2.2.2.2.1
  have lt := c.lt
  -- the component
  have eA : x6_two (x + 1429) sg nd1 nd2 σ = some (mZ σ, wR (wR (wR (wN (wI σ (x + 1429) 8 ((pa + 1 : Nat) : Int)) 20 3) (mZ σ) 0 sg) (mZ σ) 1 nd1) (mZ σ) 2 nd2) := by
    have e1 : mT (wN (wI σ (x + 1429) 8 ((pa + 1 : Nat) : Int)) 20 3) (mZ σ) = 20 := by rw [mT_wN, mZ_wI, if_pos rfl]
    unfold x6_two x22_init
    rw [if_pos c.1.1, s3, inc32 (by omega)]
    simp only [gLet, mZ_wI, e1, eq_self, if_true, Option.bind_some]
  obtain ⟨r, hr⟩ : ∃ r, r = wR (wR (wR (wN (wI σ (x + 1429) 8 ((pa + 1 : Nat) : Int)) 20 3) (mZ σ) 0 sg) (mZ σ) 1 nd1) (mZ σ) 2 nd2 := ⟨_, rfl⟩
  rw [← hr] at eA
  have rT : ∀ a, mT r a = if a = mZ σ then 20 else mT σ a := fun a => by rw [hr, mT_wR, mT_wR, mT_wR, mT_wN, mZ_wI]; rfl
  have rN : ∀ a, a ≠ mZ σ → mN r a = mN σ a := fun a ha => by rw [hr, mN_wR, mN_wR, mN_wR, mN_wN, mZ_wI, if_neg (show ¬ a = mZ σ from ha)]; rfl
  have rI : ∀ a j, a ≠ mZ σ → mI r a j = if a = x + 1429 ∧ j = 8 then ((pa + 1 : Nat) : Int) else mI σ a j := fun a j ha => by
    rw [hr, mI_wR, mI_wR, mI_wR, mI_wN, mZ_wI, if_neg (show ¬ a = mZ σ from ha), mI_wI]
    split
    · exact w32_i (by omega) (by omega)
    · rfl
  have rL : ∀ a j, a ≠ mZ σ → mL r a j = mL σ a j := fun a j ha => by rw [hr, mL_wR, mL_wR, mL_wR, mL_wN, mZ_wI, if_neg (show ¬ a = mZ σ from ha)]; rfl
  have rR : ∀ a j, a ≠ mZ σ → mR r a j = mR σ a j := fun a j ha => by rw [hr, mR_wR, if_neg (fun z => ha z.1), mR_wR, if_neg (fun z => ha z.1), mR_wR, if_neg (fun z => ha z.1), mR_wN, mZ_wI, if_neg (show ¬ a = mZ σ from ha)]; rfl
  have r0 : mR r (mZ σ) 0 = sg := by rw [hr, mR_wR, if_neg (by omega), mR_wR, if_neg (by omega), mR_wR, if_pos ⟨rfl, rfl⟩]
  have r1 : mR r (mZ σ) 1 = nd1 := by rw [hr, mR_wR, if_neg (by omega), mR_wR, if_pos ⟨rfl, rfl⟩]
  have r2 : mR r (mZ σ) 2 = nd2 := by rw [hr, mR_wR, if_pos ⟨rfl, rfl⟩]
  have rZ : mZ r = mZ σ + 1 := by rw [hr]; rfl
  have rS : mS r = mS σ + 3 := by rw [hr]; rfl
  have cf : CF x σ r 1 := CF.one c (t := 20) (by decide) rZ (by omega) rT rN (fun a j h1 h2 => by rw [rI a j h1, if_neg (fun z => h2 z.1)]) rL rR (fun j hj => by rw [rI _ _ (by omega), if_neg (by omega)]) (fun z => by cases z)
  have ri : ∀ j, j ≠ 8 → mI r (x + 1429) j = mI σ (x + 1429) j := fun j hj => by rw [rI _ _ (by omega), if_neg (fun z => hj z.2)]
  -- the twin
  have sc : SpC τ h (M + pa) [m2, m1] := by
    obtain ⟨⟨y1, y2⟩, -⟩ := n1
    obtain ⟨⟨y3, y4⟩, -⟩ := n2
    refine ⟨y4, by omega, by rw [← hb]; exact y3, y2, by omega, ?_, trivial⟩
    rw [← hb, show b + m1 + m2 - m2 - 1 = b + m1 - 1 by omega]; exact y1
  refine E2.lv eA ((t_part (ms := [m2, m1]) hN t.2.2.2.2.1 t.2.2.2.2.2 t4 (by omega) t5 (by omega) (show 2 ≤ 400 by decide) sc).m (fun a2 z => ?_))
  obtain ⟨z1, z2, z3, z4⟩ := z
  have tf : TF (lu0 + hi) h τ a2.2 (M + pa) := TF.ex z2 b5 (fun a j y => by
    rcases y with y | ⟨o, o1, o2, o3, o4⟩
    · exact Or.inl ⟨y.1, by omega⟩
    · exact Or.inr ⟨o, o1, o2, o3, by omega⟩)
  have nP : ∀ j, j ≠ 56 → ¬ PtP h (M + pa) h j := fun j hj y => by
    rcases y with y | ⟨o, o1, o2, o3, o4⟩ <;> omega
  have i19 : mI a2.2 h 19 = mI τ h 19 := z2.rI (nP 19 (by decide))
  refine ⟨⟨c.cf cf, t.tf tf, ⟨by rw [ri 6 (by decide)]; exact s1, by rw [ri 7 (by decide)]; exact s2, by rw [rI _ _ (by omega), if_pos ⟨rfl, rfl⟩], by rw [ri 11 (by decide)]; exact s4⟩, ⟨t1, t2.ex z2 (fun j j1 j2 => nP j (by omega)), by rw [z2.rI (nP 57 (by decide))]; exact t3, z3, by rw [z2.rI (nP 41 (by decide))]; exact t5⟩, ⟨by rw [z2.rI (nP 58 (by decide)), ri 14 (by decide)]; exact l1, by rw [z2.rI (nP 59 (by decide)), ri 14 (by decide), ri 15 (by decide)]; exact l2, by rw [ri 14 (by decide)]; exact l3⟩, b1, b2, by omega, b4, by omega, by omega, b7⟩, cf, tf, ⟨⟨?_, by omega⟩, ⟨?_, ?_, ?_, ?_⟩, fun lz => ?_⟩, ri 14 (by decide), z4.1⟩
  · have e3 := z4.2.2.1
    rw [show b + (m1 + m2 + 1) - 1 = M + pa by omega, e3]
    simp only [List.sum_cons, List.sum_nil]; omega
  · show gPart (mT r (mZ σ)) = true
    rw [rT, if_pos rfl]; decide
  · rw [show b + (m1 + m2 + 1) - 1 = M + pa by omega, z4.1]
    show mT r (mZ σ) = 17 ↔ _
    rw [rT, if_pos rfl]; omega
  · rw [show b + (m1 + m2 + 1) - 1 = M + pa by omega, z4.1]
    show mT r (mZ σ) = 15 ↔ _
    rw [rT, if_pos rfl]; omega
  · rw [show b + (m1 + m2 + 1) - 1 = M + pa by omega, z4.1]
    show mT r (mZ σ) = 13 ↔ _
    rw [rT, if_pos rfl]; omega
  · have lz' : mI σ (x + 1429) 14 = 0 := by rw [← ri 14 (by decide)]; exact lz
    obtain ⟨y1, u1, u2, u3⟩ := n1.2.2 lz'
    obtain ⟨y2, v1, v2, v3⟩ := n2.2.2 lz'
    have w3 := u3.tf tf (b := M + pa) (by omega)
    have w4 := v3.tf tf (b := M + pa) (by omega)
    have k1 : pK (lab y1) ≠ 6 := fun e => na1 (by have := u3.lab; rw [u1, e] at this; exact this)
    have k2 : pK (lab y2) ≠ 6 := fun e => na2 (by have := v3.lab; rw [v1, e] at this; exact this)
    obtain ⟨po, ao⟩ := two_ok hk k1 k2
    have fl : [y1, y2].flatten.length = m1 + m2 := by simp [u1, v1]
    have rs : RwS a2.2 h nv b [y1, y2] := ⟨w3, by rw [u1]; exact w4, trivial⟩
    refine ⟨[y1, y2].flatten ++ [mkO (10 + k) [y1, y2].length], ?_, ?_, ?_⟩
    · rw [List.length_append, fl]; rfl
    · refine ⟨mkO (10 + k) 2, [y1, y2], rfl, rfl, ?_, po, ao, fun i hi => ?_⟩
      · refine Or.inr (Or.inr (Or.inr (Or.inr (Or.inr (Or.inr (Or.inr (Or.inl ⟨?_, k, hk, ?_, rfl⟩)))))))
        · show mT r (mZ σ) = 20
          rw [rT, if_pos rfl]
        · show mR r (mZ σ) 0 = mR r 0 (20 + k)
          have z0 := c.2.2.2.2.2.1
          rw [r0, hsg, rR 0 _ (by omega)]
      · have e20 : ∀ i, chd r (mZ σ) i = mR r (mZ σ) (1 + i) := fun i => by unfold chd; rw [if_neg (by rw [rT, if_pos rfl]; decide), if_pos (by rw [rT, if_pos rfl])]
        show IsP r (m1 + m2) (chd r (mZ σ) i) [y1, y2][i]
        rw [e20]
        have hi' : i < 2 := hi
        rcases (by omega : i = 0 ∨ i = 1) with e | e
        · subst e
          rw [show 1 + 0 = 1 from rfl, r1]
          exact IsP.mono _ _ _ _ (c.isp cf _ _ _ u2) (by omega)
        · subst e
          rw [show 1 + 1 = 2 from rfl, r2]
          exact IsP.mono _ _ _ _ (c.isp cf _ _ _ v2) (by omega)
    · refine RwT.op rs (by omega) ?_ po ao (by rw [fl]; have := t.2.2.2.2.2; omega) (by omega)
      rw [fl, show b + (m1 + m2) = M + pa by omega]
      have e := z4
      simp only [List.sum_cons, List.sum_nil] at e
      have e2 : ((1 + (m2 + (m1 + 0)) : Nat) : Int) = ((1 + (m1 + m2) : Nat) : Int) := by omega
      rw [e2] at e
      exact e
end Read7
