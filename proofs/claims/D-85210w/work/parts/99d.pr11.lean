/-! ===== PHASE 2: reading: parts that stand alone: numbers ===== -/
section Read11
variable {N x h hi all nv sh M lu0 b b' p q op pa pi : Nat} {bA : Nat → Int} {f : Int → List Int × List Int} {σ σ' σ'' τ τ' τ'' s σ0 τ0 σ1 τ2 : gMem} {p0 pa0 nd : Nat}
theorem adv2 {p1 : Nat} (hN : 500 ≤ N) (t : TR h hi all nv M bA f τ) (g : 0 ≤ mI τ h 19) (e46 : mI τ h 46 = p1) (h1 : p1 ≤ hi) : Ev (tw_next N h τ) (fun τ3 => ∃ q1, Fst isBl bA p1 q1 ∧ LX τ3 h bA all q1 ∧ TF (lu0 + hi) h τ τ3 b ∧ (∀ j, (j < 46 ∨ 55 < j) → mI τ3 h j = mI τ h j) ∧ TR h hi all nv M bA f τ3 ∧ Ex (Tk h) τ τ3) := by
  have tx := t.1.2.2.2
  have h4 : hi ≤ 400 := by have := tx.2.2.1; have := tx.2.2.2; omega
  obtain ⟨q1, F⟩ := Fst.ex (P := isBl) tx rfl p1
  have c0 : mR τ 0 100 ≠ h := fun e => by
    have := t.2.1.ref.1
    rw [e, t.2.2.1.1] at this; cases this
  refine (t_next hN t.1 t.2.1.ref c0 e46 F (by omega)).m (fun τ1 z => ?_)
  obtain ⟨z1, z2⟩ := z
  have tf : ∀ b, TF (lu0 + hi) h τ τ1 b := fun b => TF.ex z1 g (fun a j y => Or.inl ⟨y.1, by unfold Tk at y; omega⟩)
  exact ⟨q1, F, z2, tf b, fun j hj => z1.rI (fun y => by unfold Tk at y; omega), t.tf (tf 0), z1⟩
/-- a row of one part -/
theorem RwT.one {pt : Pt} (L : LabT τ h b pt) (le : ∃ at' : Nat, mI τ (h + 18) b = at' ∧ ((at' + (pX pt).length : Nat) : Int) ≤ mI τ h 19) (po : PtOk pt) (h24 : mI τ (h + 24) b = pF pt) (hF : pF pt < 16) (hW : pW pt < nv) (sp : mI τ (h + 16) b = 1) (h0 : pA pt = 0) (hk : pK pt ≤ 6) : RwT τ h b nv [pt] := by
  have ao : argsOk pt [] := by unfold argsOk; rw [if_pos hk]; exact h0
  refine ⟨⟨pt, [], rfl, h0.symm, L, po, ao, by rw [show b + [pt].length - 1 = b by rfl, sp]; rfl, by show 1 ≤ b + 1 - 1 + 1; omega, fun i hi => absurd hi (Nat.not_lt_zero _)⟩, Nat.zero_lt_one, fun i hi => ?_⟩
  obtain rfl : i = 0 := by have : i < 1 := hi; omega
  have ea : askd [pt] 0 = false := by unfold askd; exact Bool.and_false _
  rw [ea]
  exact ⟨L, le, po, h24, hF, hW⟩
theorem IsP.one {pt : Pt} (L : LabC σ nd pt) (po : PtOk pt) (h0 : pA pt = 0) (hk : pK pt ≤ 6) : IsP σ 1 nd [pt] := by
  refine ⟨pt, [], rfl, h0.symm, L, po, ?_, fun i hi => absurd hi (Nat.not_lt_zero _)⟩
  unfold argsOk; rw [if_pos hk]; exact h0
/-- a part that stands alone is made; both go on -/
theorem leaf_fin {ar : Prop} {p1 : Nat} (hN : 500 ≤ N) (S : S2 x h hi all nv sh M lu0 bA f σ τ p q op pa pi) (hp : p < p1) (h1 : p1 ≤ hi) (cf : CF x σ σ1 (p1 - p)) (i6 : mI σ1 (x + 1429) 6 = p1) (i7 : mI σ1 (x + 1429) 7 = mI σ (x + 1429) 7) (i8 : mI σ1 (x + 1429) 8 = ((pa + 1 : Nat) : Int)) (i11 : mI σ1 (x + 1429) 11 = mI σ (x + 1429) 11)
    (tf : TF (lu0 + hi) h τ τ2 (M + pa)) (e46 : mI τ2 h 46 = p1) (e56 : mI τ2 h 56 = ((pa + 1 : Nat) : Int)) (e57 : mI τ2 h 57 = mI τ h 57) (e41 : mI τ2 h 41 = 0) (e19 : mI τ2 h 19 ≤ ((lu0 + p1 : Nat) : Int))
    (lt : mI τ2 h 58 = mI σ1 (x + 1429) 14 ∧ (mI σ1 (x + 1429) 14 ≠ 0 → mI τ2 h 59 = mI σ1 (x + 1429) 15) ∧ 0 ≤ mI σ1 (x + 1429) 14) (lz : mI σ1 (x + 1429) 14 = 0 → mI σ (x + 1429) 14 = 0)
    (sp : mI τ2 (h + 16) (M + pa) = 1) (gp : gPart (mT σ1 nd) = true ∧ (mT σ1 nd = 17 ↔ mI τ2 (h + 14) (M + pa) = 6) ∧ (mT σ1 nd = 15 ↔ mI τ2 (h + 14) (M + pa) = 5) ∧ (mT σ1 nd = 13 ↔ mI τ2 (h + 14) (M + pa) = 4)) (har : mI τ2 (h + 14) (M + pa) = 6 → ar)
    (rw : mI σ1 (x + 1429) 14 = 0 → ∃ pt, IsP σ1 1 nd [pt] ∧ RwT τ2 h (M + pa) nv [pt]) : Ev (tw_next N h τ2) (fun τ3 => ∃ q1, OkN x h hi all nv sh M lu0 bA f σ τ p op pa pi ar nd p1 q1 (pa + 1) σ1 τ3) := by
  obtain ⟨c, t, ⟨s1, s2, s3, s4⟩, ⟨t1, t2, t3, t4, t5⟩, ⟨l1, l2, l3⟩, b1, b2, b3, b4, b5, b6, b7⟩ := S
  have tr2 := t.tf tf
  have g2 : 0 ≤ mI τ2 h 19 := by have := tf.2.2; omega
  refine (adv2 (lu0 := lu0) (b := M + pa + 1) hN tr2 g2 e46 h1).m (fun τ3 z => ?_)
  obtain ⟨q1, z1, z2, z3, z4, z5, z6⟩ := z
  have na : ∀ o k, 1 ≤ o → ¬ Tk h (h + o) k := fun o k h1 y => by unfold Tk at y; omega
  refine ⟨q1, ⟨c.cf cf, z5, ⟨i6, by rw [i7]; exact s2, i8, by rw [i11]; exact s4⟩, ⟨z1, z2, by rw [z4 57 (by omega), e57]; exact t3, by rw [z4 56 (by omega)]; exact e56, by rw [z4 41 (by omega)]; exact e41⟩, ⟨by rw [z4 58 (by omega)]; exact lt.1, by rw [z4 59 (by omega)]; exact lt.2.1, lt.2.2⟩, h1, b2, by omega, by omega, by rw [z4 19 (by omega)]; exact g2, by rw [z4 19 (by omega)]; omega, b7⟩, hp, by omega, by omega, cf, tf.tr z3 (by omega), ⟨⟨?_, by omega⟩, ?_, fun y => ?_⟩, lz, fun y => ?_⟩
  · rw [show M + pa + (pa + 1 - pa) - 1 = M + pa by omega, z6.rI (na 16 _ (by omega)), sp]; omega
  · rw [show M + pa + (pa + 1 - pa) - 1 = M + pa by omega, z6.rI (na 14 _ (by omega))]; exact gp
  · obtain ⟨pt, y1, y2⟩ := rw y
    rw [show pa + 1 - pa = 1 by omega]
    exact ⟨[pt], rfl, y1, y2.tf z3 (Nat.le_refl _)⟩
  · rw [show M + (pa + 1) - 1 = M + pa by omega, z6.rI (na 14 _ (by omega))] at y
    exact har y
theorem c_num_ok {K : gMem → Option gR} {Φ : gR → Prop} {e : Nat} (c : CSt σ x bA hi all) (he : e - q ≤ 15) (h4 : e ≤ 401) (hK : ∀ s, Ex (Rq x 6) σ s → mI s (x + 1429) 6 = e → Ev (K s) Φ) : ∀ (m p f : Nat) (s : gMem), p + m = e → m < f → q ≤ p → Fst isD bA p e → Ex (Rq x 6) σ s → mI s (x + 1429) 6 = p → Ev (x6_number_l5 N (x + 1429) q K f s) Φ := by
  intro m
  induction m with
  | zero =>
    intro p f s h1 h2 h3 F X g
    obtain ⟨f, rfl⟩ : ∃ j, f = j + 1 := ⟨f - 1, by omega⟩
    obtain rfl : p = e := by omega
    have cs : CSt s x bA hi all := c.ex X (fun i hi z => by unfold Rq at z; omega) (fun i z => by unfold Rq at z; omega)
    unfold x6_number_l5
    rw [g]
    refine Ev.g cs.1 (Ev.e (c_here cs p) (Ev.e (c_isDigit _) ?_))
    rw [F.2.2]
    exact Ev.g rfl (hK s X g)
  | succ m ih =>
    intro p f s h1 h2 h3 F X g
    obtain ⟨f, rfl⟩ : ∃ j, f = j + 1 := ⟨f - 1, by omega⟩
    have cs : CSt s x bA hi all := c.ex X (fun i hi z => by unfold Rq at z; omega) (fun i z => by unfold Rq at z; omega)
    unfold x6_number_l5
    rw [g, inc32 (by omega)]
    refine Ev.g cs.1 (Ev.e (c_here cs p) (Ev.e (c_isDigit _) ?_))
    rw [F.2.1 p (Nat.le_refl _) (by omega), w32_i (by omega) (by omega)]
    refine Ev.f (by decide) (Ev.g (by omega) (Ev.l (ih (p + 1) f _ (by omega) (by omega) (by omega) ⟨by omega, fun k k1 k2 => F.2.1 k (by omega) k2, F.2.2⟩ (X.I ⟨rfl, rfl⟩) ?_)))
    rw [mI_wI, if_pos ⟨rfl, rfl⟩, w32_i (by omega) (by omega)]
theorem c_num_er {K : gMem → Option gR} {e : Nat} (c : CR x hi all nv sh bA f σ) (he : 15 < e - q) (h4 : e ≤ 400) : ∀ (m p fu : Nat) (s : gMem), p + m = q + 15 → m < fu → q ≤ p → Fst isD bA p e → Ex (Rq x 6) σ s → mI s (x + 1429) 6 = p → Ev (x6_number_l5 N (x + 1429) q K fu s) (fun r => r.1 = .inr "SheetBranches$Wrong" ∧ mI r.2 (x + 1429) 12 = 1 ∧ mI r.2 (x + 1429) 13 = ((q + 15 : Nat) : Int) ∧ CF x σ r.2 1) := by
  intro m
  induction m with
  | zero =>
    intro p fu s h1 h2 h3 F X g
    obtain ⟨fu, rfl⟩ : ∃ j, fu = j + 1 := ⟨fu - 1, by omega⟩
    have cf := Rq.cf c X (by omega)
    have cr := c.cf cf
    have hd := F.2.1 p (Nat.le_refl _) (by omega)
    have ph : p < hi := cr.1.2.2.2.2.2.2.2.lt (fun z => by rw [z] at hd; cases hd)
    unfold x6_number_l5
    rw [g, w32_i (by omega) (by omega)]
    refine Ev.g cr.1.1 (Ev.e (c_here cr.1 p) (Ev.e (c_isDigit _) ?_))
    rw [hd]
    refine Ev.f (by decide) (Ev.f (fun z => z (by omega)) ((c_throw cr (by decide) (by omega)).m (fun r z => ⟨z.1, z.2.1, ?_, (cf.tr z.2.2.2).mono (by omega)⟩)))
    rw [z.2.2.1, if_neg (by omega)]; omega
  | succ m ih =>
    intro p fu s h1 h2 h3 F X g
    obtain ⟨fu, rfl⟩ : ∃ j, fu = j + 1 := ⟨fu - 1, by omega⟩
    have cs : CSt s x bA hi all := c.1.ex X (fun i hi z => by unfold Rq at z; omega) (fun i z => by unfold Rq at z; omega)
    unfold x6_number_l5
    rw [g, inc32 (by omega), w32_i (x := (p : Int) - (q : Int)) (by omega) (by omega)]
    refine Ev.g cs.1 (Ev.e (c_here cs p) (Ev.e (c_isDigit _) ?_))
    rw [F.2.1 p (Nat.le_refl _) (by omega)]
    refine Ev.f (by decide) (Ev.g (by omega) (Ev.l (ih (p + 1) fu _ (by omega) (by omega) (by omega) ⟨by omega, fun k k1 k2 => F.2.1 k (by omega) k2, F.2.2⟩ (X.I ⟨rfl, rfl⟩) ?_)))
    rw [mI_wI, if_pos ⟨rfl, rfl⟩, w32_i (by omega) (by omega)]
/-- a fault that both tell -/
theorem OutN.fault {k w : Int} {r : gR} {r2 : gMem} (h1 : r.1 = .inr "SheetBranches$Wrong") (h2 : mI r.2 (x + 1429) 12 = k) (h3 : mI r.2 (x + 1429) 13 = w) (h4 : CF x σ r.2 (hi + 2 - p)) (k0 : 0 < k) (h5 : mI r2 h 41 = k) (h6 : mI r2 h 42 = w) (h7 : TF (lu0 + hi) h τ r2 (M + pa)) {ar : Prop} : OutN x h hi all nv sh M lu0 bA f σ τ p op pa pi ar r r2 :=
  Or.inr ⟨h1, by rw [h5, h2], by rw [h6, h3], by rw [h5]; exact k0, h4, h7⟩
theorem rd_number (hN : 500 ≤ N) (S : S2 x h hi all nv sh M lu0 bA f σ τ q q op pa pi) (hd : isD (bA q) = true) : E2 (x6_number N (x + 1429) σ) (tw_readPlain N h τ) (Out2 x h hi all nv sh M lu0 bA f σ τ q op pa pi) := by
  have S0 := S
  obtain ⟨c, t, ⟨s1, s2, s3, s4⟩, ⟨t1, t2, t3, t4, t5⟩, ⟨l1, l2, l3⟩, b1, b2, b3, b4, b5, b6, b7⟩ := S
  have tx := c.1.2.2.2.2.2.2.2
  have h4 : hi ≤ 400 := by have := tx.2.2.1; have := tx.2.2.2; omega
  have lt := c.lt
  have kk : tkK bA q = 1 := by unfold tkK; rw [if_neg (fun z => by rw [z] at hd; cases hd), hd, if_pos rfl]
  obtain ⟨e, F, e49, e51⟩ := t2.2.2.2.2.2.2.2.2.1 kk
  have el := F.le tx rfl
  have q1 := F.1
  have qe : q < e := by
    have : q ≠ e := fun z => by have := F.2.2; rw [← z, hd] at this; cases this
    omega
  have eh : e ≤ hi := by omega
  have e47 : mI τ h 47 = 1 := by rw [t2.1, kk]
  have e48 : mI τ h 48 = q := by rw [t2.2.1, if_neg (fun z => by rw [z] at hd; cases hd)]
  unfold x6_number tw_readPlain
  rw [s1]
  refine E2.lg c.1.1 ?_
  by_cases d : e - q ≤ 15
  · rw [if_pos d] at e51
    rw [e51, e47]
    refine E2.rg (by decide) (E2.rf (fun z => z rfl) ?_)
    -- the twin
    have TW := t_part (k := 1) (ms := []) hN t.2.2.2.2.1 t.2.2.2.2.2 t4 (by omega) t5 (by decide) (by decide) trivial
    refine E2.rc TW (fun x24 z => ?_)
    obtain ⟨z1, z2, z3, z4⟩ := z
    have nP : ∀ j, j ≠ 56 → mI x24.2 h j = mI τ h j := fun j hj => z2.rI (fun y => by rcases y with y | ⟨o, o1, o2, o3, o4⟩ <;> omega)
    have tf1 : TF (lu0 + hi) h τ x24.2 (M + pa) := TF.ex z2 b5 (fun a j y => by
      rcases y with y | ⟨o, o1, o2, o3, o4⟩
      · exact Or.inl ⟨y.1, by omega⟩
      · exact Or.inr ⟨o, o1, o2, o3, by omega⟩)
    have tr1 := t.tf tf1
    rw [nP 48 (by decide), nP 49 (by decide), e48, e49, z1]
    refine E2.re (t_numberFrom hN tr1.1 eh (by omega) (fun k k1 k2 => F.2.1 k k1 k2) d) (E2.rg (by have := t.2.2.2.2.2; omega) (E2.rl ?_))
    rw [tn]
    have db := dgN_b (bA := bA) (p := q) (q := e) (fun k k1 k2 => F.2.1 k k1 k2) d
    have XL : Ex (fun a j => a = h + 17 ∧ j = M + pa) x24.2 (wL x24.2 (h + 17) (M + pa) (dgN bA q e)) := Ex.rf.L ⟨rfl, rfl⟩
    have tf2 : TF (lu0 + hi) h τ (wL x24.2 (h + 17) (M + pa) (dgN bA q e)) (M + pa) := tf1.tr (TF.ex (b := M + pa) XL (by rw [nP 19 (by decide)]; exact b5) (fun a j y => Or.inr ⟨17, by omega, by omega, y.1, by omega⟩)) (Nat.le_refl _)
    generalize hτ2 : wL x24.2 (h + 17) (M + pa) (dgN bA q e) = τ2 at XL tf2 ⊢
    have nX : ∀ j, j ≠ 56 → mI τ2 h j = mI τ h j := fun j hj => by rw [XL.rI (by omega)]; exact nP j hj
    obtain ⟨p1, p2, p3, p4, p5, p6, p7, p8, p9, p10, p11, p12⟩ := z4
    have aI : ∀ o, o ≠ 17 → mI τ2 (h + o) (M + pa) = mI x24.2 (h + o) (M + pa) := fun o ho => XL.rI (by omega)
    have a17 : mL τ2 (h + 17) (M + pa) = dgN bA q e := by rw [← hτ2, mL_wL, if_pos ⟨rfl, rfl⟩, w64_i (by omega) (by omega)]
    -- the component
    have CO : ∀ s17, Ex (Rq x 6) σ s17 → mI s17 (x + 1429) 6 = e → Ev (if mT s17 (x + 1429) = 6 then gLet (wI s17 (x + 1429) 8 (w32 ((mI s17 (x + 1429) 8) + 1))) (fun s20 => gLet (wN s20 11 1) (fun s23 => (x6_digits N (x + 1429) q (mI s23 (x + 1429) 6) s23).bind (fun x26 => (x13_init (mZ s20) x26 s23).bind (fun x28 => some ((.inl (some (vR (mZ s20))), x28) : gR))))) else none) (fun r => ∃ nd σ1, r = (.inl (some (vR nd)), σ1) ∧ CF x σ σ1 (e - q) ∧ mI σ1 (x + 1429) 6 = e ∧ mI σ1 (x + 1429) 8 = ((pa + 1 : Nat) : Int) ∧ (∀ j, j ≠ 6 → j ≠ 8 → mI σ1 (x + 1429) j = mI σ (x + 1429) j) ∧ mT σ1 nd = 11 ∧ mL σ1 nd 0 = dgN bA q e) := by
      intro s17 X g6
      have cf17 := Rq.cf c X (by omega)
      have c17 := c.cf cf17
      have g8 : mI s17 (x + 1429) 8 = pa := by rw [X.rI (fun y => by unfold Rq at y; omega)]; exact s3
      have Z17 : mZ s17 = mZ σ := X.rZ
      refine Ev.g c17.1.1 ?_
      rw [g8, inc32 (by omega)]
      refine Ev.l (Ev.l ?_)
      have ONE : ∀ r : gMem, (∀ a, mT r a = if a = mZ σ then 11 else mT s17 a) → (∀ a, a ≠ mZ σ → mN r a = mN s17 a) → (∀ a k, a ≠ mZ σ → mI r a k = mI (wI s17 (x + 1429) 8 ((pa + 1 : Nat) : Int)) a k) → (∀ a k, a ≠ mZ σ → mL r a k = mL s17 a k) → (∀ a k, a ≠ mZ σ → mR r a k = mR s17 a k) → mZ r = mZ σ + 1 → mS r = mS s17 + 1 → CF x s17 r 1 := by
        intro r r1 r2 r3 r4 r5 r6 r7
        exact CF.one c17 (t := 11) (by decide) (by rw [r6, Z17]) (by omega) (fun a => by rw [r1, Z17]) (fun a ha => r2 a (by rw [← Z17]; exact ha)) (fun a k h1 h2 => by rw [r3 a k (by rw [← Z17]; exact h1), mIwI1 (by omega)]) (fun a k ha => r4 a k (by rw [← Z17]; exact ha)) (fun a k ha => r5 a k (by rw [← Z17]; exact ha)) (fun k hk => by rw [r3 _ _ (by omega), mIwI1 (by omega)]) (fun z => by cases z)
      have zz : mZ (wI s17 (x + 1429) 8 ((pa + 1 : Nat) : Int)) = mZ σ := by rw [mZ_wI]; exact Z17
      have cf23 : CF x s17 (wN (wI s17 (x + 1429) 8 ((pa + 1 : Nat) : Int)) 11 1) 1 := ONE _ (fun a => by rw [mT_wN, zz]; rfl) (fun a ha => by rw [mN_wN, zz, if_neg ha]; rfl) (fun a k ha => by rw [mI_wN, zz, if_neg ha]) (fun a k ha => by rw [mL_wN, zz, if_neg ha]; rfl) (fun a k ha => by rw [mR_wN, zz, if_neg ha]; rfl) (by rw [mZ_wN, zz]) rfl
      have c23 := c17.cf cf23
      have i23 : ∀ j, mI (wN (wI s17 (x + 1429) 8 ((pa + 1 : Nat) : Int)) 11 1) (x + 1429) j = mI (wI s17 (x + 1429) 8 ((pa + 1 : Nat) : Int)) (x + 1429) j := fun j => by rw [mI_wN, zz, if_neg (by omega)]
      have e6 : mI (wN (wI s17 (x + 1429) 8 ((pa + 1 : Nat) : Int)) 11 1) (x + 1429) 6 = e := by rw [i23, mIwI1 (by omega)]; exact g6
      rw [e6]
      refine Ev.e (c_dig hN c23.1 eh (by omega) (fun k k1 k2 => F.2.1 k k1 k2) d) ?_
      have t11 : mT (wN (wI s17 (x + 1429) 8 ((pa + 1 : Nat) : Int)) 11 1) (mZ σ) = 11 := by rw [mT_wN, zz, if_pos rfl]
      have ei : x13_init (mZ (wI s17 (x + 1429) 8 ((pa + 1 : Nat) : Int))) (dgN bA q e) (wN (wI s17 (x + 1429) 8 ((pa + 1 : Nat) : Int)) 11 1) = some (wL (wN (wI s17 (x + 1429) 8 ((pa + 1 : Nat) : Int)) 11 1) (mZ σ) 0 (dgN bA q e)) := by
        unfold x13_init
        rw [zz, if_pos t11]; rfl
      refine Ev.e ei (Ev.r ⟨mZ σ, _, by rw [zz], ?_, ?_, ?_, fun j j1 j2 => ?_, ?_, ?_⟩)
      · have := ONE (wL (wN (wI s17 (x + 1429) 8 ((pa + 1 : Nat) : Int)) 11 1) (mZ σ) 0 (dgN bA q e)) (fun a => by rw [mT_wL, mT_wN, zz]; rfl) (fun a ha => by rw [mN_wL, mN_wN, zz, if_neg ha]; rfl) (fun a k ha => by rw [mI_wL, mI_wN, zz, if_neg ha]) (fun a k ha => by rw [mL_wL, if_neg (fun z => ha z.1), mL_wN, zz, if_neg ha]; rfl) (fun a k ha => by rw [mR_wL, mR_wN, zz, if_neg ha]; rfl) (by rw [mZ_wL, mZ_wN, zz]) rfl
        exact (cf17.tr this).mono (by omega)
      · rw [mI_wL]; exact e6
      · rw [mI_wL, i23, mI_wI, if_pos ⟨rfl, rfl⟩, w32_i (by omega) (by omega)]
      · rw [mI_wL, i23, mIwI1 (by omega)]; exact X.rI (fun y => by unfold Rq at y; omega)
      · rw [mT_wL]; exact t11
      · rw [mL_wL, if_pos ⟨rfl, rfl⟩, w64_i (by omega) (by omega)]
    refine E2.vv (P := fun r => ∃ nd σ1, r = (.inl (some (vR nd)), σ1) ∧ CF x σ σ1 (e - q) ∧ mI σ1 (x + 1429) 6 = e ∧ mI σ1 (x + 1429) 8 = ((pa + 1 : Nat) : Int) ∧ (∀ j, j ≠ 6 → j ≠ 8 → mI σ1 (x + 1429) j = mI σ (x + 1429) j) ∧ mT σ1 nd = 11 ∧ mL σ1 nd 0 = dgN bA q e) (Q := fun τ3 => ∀ nd σ1, CF x σ σ1 (e - q) ∧ mI σ1 (x + 1429) 6 = e ∧ mI σ1 (x + 1429) 8 = ((pa + 1 : Nat) : Int) ∧ (∀ j, j ≠ 6 → j ≠ 8 → mI σ1 (x + 1429) j = mI σ (x + 1429) j) ∧ mT σ1 nd = 11 ∧ mL σ1 nd 0 = dgN bA q e → ∃ q1, OkN x h hi all nv sh M lu0 bA f σ τ q op pa pi False nd e q1 (pa + 1) σ1 τ3) ?_ ?_ ?_
    · exact c_num_ok (q := q) (e := e) c.1 d (by omega) (fun s X g => CO s X g) (e - q) q N σ (by omega) (by omega) (by omega) F Ex.rf s1
    · -- one answer for all
      have L : LabT τ2 h (M + pa) (mkN (dgN bA q e)) := by
        refine ⟨by have := t.2.2.2.2.2; omega, by rw [aI 14 (by decide)]; exact p1, by rw [aI 15 (by decide)]; exact p2, a17, ⟨0, by rw [aI 18 (by decide)]; exact p5, Nat.zero_le _, fun i hi => absurd hi (Nat.not_lt_zero _)⟩, by rw [aI 19 (by decide)]; exact p6, by rw [aI 20 (by decide)]; exact p7, by rw [aI 21 (by decide)]; exact p8, by rw [aI 22 (by decide)]; exact p9, by rw [aI 23 (by decide)]; exact p10, Or.inl (by rw [aI 24 (by decide)]; exact p11), by rw [aI 25 (by decide)]; exact p12⟩
      have po : PtOk (mkN (dgN bA q e)) := Or.inl ⟨_, rfl, db.1, db.2⟩
      have R1 : RwT τ2 h (M + pa) nv [mkN (dgN bA q e)] := RwT.one L ⟨0, by rw [aI 18 (by decide)]; exact p5, by have := nX 19 (by decide); show ((0 + 0 : Nat) : Int) ≤ _; omega⟩ po (by rw [aI 24 (by decide)]; exact p11) (show 0 < 16 by decide) (show (-1 : Int) < nv by omega) (by rw [aI 16 (by decide)]; exact p3) rfl (show 1 ≤ 6 by decide)
      have k1 : mI τ2 (h + 14) (M + pa) = 1 := by rw [aI 14 (by decide)]; exact p1
      have A : ∀ nd σ1, CF x σ σ1 (e - q) ∧ mI σ1 (x + 1429) 6 = e ∧ mI σ1 (x + 1429) 8 = ((pa + 1 : Nat) : Int) ∧ (∀ j, j ≠ 6 → j ≠ 8 → mI σ1 (x + 1429) j = mI σ (x + 1429) j) ∧ mT σ1 nd = 11 ∧ mL σ1 nd 0 = dgN bA q e → Ev (tw_next N h τ2) (fun τ3 => ∃ q1, OkN x h hi all nv sh M lu0 bA f σ τ q op pa pi False nd e q1 (pa + 1) σ1 τ3) := by
        rintro nd σ1 ⟨y1, y2, y3, y4, y5, y6⟩
        exact leaf_fin hN S0 qe eh y1 y2 (y4 7 (by decide) (by decide)) y3 (y4 11 (by decide) (by decide)) tf2 (by rw [nX 46 (by decide), t2.2.2.1]; exact e49) (by rw [XL.rI (by omega)]; exact z3) (nX 57 (by decide)) (by rw [nX 41 (by decide)]; exact t5) (by rw [nX 19 (by decide)]; omega) ⟨by rw [nX 58 (by decide), y4 14 (by decide) (by decide)]; exact l1, by rw [nX 59 (by decide), y4 14 (by decide) (by decide), y4 15 (by decide) (by decide)]; exact l2, by rw [y4 14 (by decide) (by decide)]; exact l3⟩ (fun w => by rw [← y4 14 (by decide) (by decide)]; exact w) (by rw [aI 16 (by decide)]; exact p3) ⟨by rw [y5]; decide, by rw [y5, k1]; decide, by rw [y5, k1]; decide, by rw [y5, k1]; decide⟩ (fun w => by rw [k1] at w; cases w) (fun _ => ⟨mkN (dgN bA q e), IsP.one (Or.inl ⟨y5, by rw [y6]⟩) po rfl (show 1 ≤ 6 by decide), R1⟩)
      obtain ⟨q1', F', -⟩ := adv2 (lu0 := lu0) (b := 0) hN (t.tf tf2) (by rw [nX 19 (by decide)]; exact b5) (p1 := e) (by rw [nX 46 (by decide), t2.2.2.1]; exact e49) eh
      refine Ev.c (Ψ := fun _ => True) ⟨q1', F', trivial⟩ (fun τ3 e3 _ => Ev.r (fun nd σ1 y => ?_))
      obtain ⟨r, r1, r2⟩ := A nd σ1 y
      rw [e3] at r1
      rw [Option.some.inj r1]; exact r2
    · rintro a b ⟨nd, σ1, rfl, y⟩ Q
      obtain ⟨q1', o⟩ := Q nd σ1 y
      exact OutN.ok o
  · rw [if_neg d] at e51
    rw [e51]
    refine E2.rf (by omega) ?_
    refine E2.vv (c_num_er (q := q) (e := e) c (by omega) (by omega) 15 q N σ (by omega) (by omega) (by omega) F Ex.rf s1) (Ev.c (t_fail (lu0 := lu0) (hi := hi) (b := M + pa) (k := 1) (w := ((q + 15 : Nat) : Int)) b5 t5 (by decide) (by omega)) (fun r _ z => Ev.r z)) (fun a r2 y z => OutN.fault y.1 y.2.1 y.2.2.1 (y.2.2.2.mono (by omega)) (by decide) z.1 z.2.1 z.2.2.1)
end Read11
