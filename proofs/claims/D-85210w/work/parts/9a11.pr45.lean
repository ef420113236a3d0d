/-! ===== PHASE 2: reading: what is no formula, the class's side ===== -/
section Read45
variable {N x h hi all nv sh M lu0 b b' p q op pa pi n la fi : Nat} {bA bB g : Nat → Int} {f : Int → List Int × List Int} {σ σ' σ'' τ τ' τ'' s r σ0 τ0 σ1 τ2 : gMem}
def FrC (x : Nat) (σ s : gMem) (k : Nat) : Prop := Kz (RdW x) σ s ∧ (∀ j, j ≠ 16 → mR s (x + 1429) j = mR σ (x + 1429) j) ∧ mZ s ≤ mZ σ + 3 * k ∧ mS s ≤ mS σ + 40 * k ∧ ∀ q, mZ σ ≤ q → mT s q = 18 → mR s q 1 ≠ x + 1430
theorem sby_g {u : Int} (h : isG u = true) : sby u = u := by have := of_decide_eq_true h; unfold sby; rw [if_pos (by omega)]
theorem c_plain_l {K : gMem → Option gR} (c : CR x n n nv sh bA f σ) : ∀ (m i fu : Nat), i + m = n → m < fu → (∀ k, i ≤ k → k < n → isG (bA k) = true) → x6_plain_l2 N (x + 1429) fi la K fu i σ = K σ := by
  intro m
  induction m with
  | zero =>
    intro i fu h1 h2 _
    obtain ⟨fu, rfl⟩ : ∃ j, fu = j + 1 := ⟨fu - 1, by omega⟩
    unfold x6_plain_l2
    rw [if_pos c.1.1, c.1.2.1, if_pos (by omega)]
  | succ m ih =>
    intro i fu h1 h2 hg
    obtain ⟨fu, rfl⟩ : ∃ j, fu = j + 1 := ⟨fu - 1, by omega⟩
    have c0 := c
    obtain ⟨⟨a1, a2, a3, a4, a5, a6, a7, a8⟩, -⟩ := c
    have h4 := a8.2.2.2
    have gi := hg i (Nat.le_refl _) (by omega)
    unfold x6_plain_l2
    rw [if_pos a1, a2, if_neg (by omega), a4, if_pos a5, a6, if_pos (by omega), tn, a7 i (by omega), sby_g gi, c_isSign, Option.bind_some, gi, if_pos (by decide), inc32 (by omega)]
    exact ih (i + 1) fu (by omega) (by omega) (fun k h1 h2 => hg k (by omega) h2)
theorem sby_ng {u : Int} (h1 : 0 ≤ u) (h2 : u < 256) (h : isG u = false) : isG (sby u) = false := by
  have := of_decide_eq_false h
  unfold isG sby
  by_cases z : u < 128
  · rw [if_pos z]; exact decide_eq_false this
  · rw [if_neg z]; exact decide_eq_false (by omega)
theorem c_plain_w {K : gMem → Option gR} {w : Nat} (c : CR x n n nv sh bA f σ) (hw : w < n) (ew : isG (bA w) = false) : ∀ (m i fu : Nat), i + m = w → m < fu → (∀ k, i ≤ k → k < w → isG (bA k) = true) → Ev (x6_plain_l2 N (x + 1429) fi la K fu i σ) (fun a => a.1 = .inr "SheetBranches$Wrong" ∧ mI a.2 (x + 1429) 12 = 1 ∧ mI a.2 (x + 1429) 13 = w ∧ CF x σ a.2 1) := by
  intro m
  induction m with
  | zero =>
    intro i fu h1 h2 _
    obtain ⟨fu, rfl⟩ : ∃ j, fu = j + 1 := ⟨fu - 1, by omega⟩
    obtain rfl : i = w := by omega
    have c0 := c
    obtain ⟨⟨a1, a2, a3, a4, a5, a6, a7, a8⟩, -⟩ := c
    have h4 := a8.2.2.2
    have b := a8.1 i hw
    unfold x6_plain_l2
    rw [if_pos a1, a2, if_neg (by omega), a4, if_pos a5, a6, if_pos (by omega), tn, a7 i hw, c_isSign, Option.bind_some, sby_ng b.1 b.2 ew, if_neg (by decide)]
    refine (c_throw c0 (k := 1) (w := (i : Int)) (by decide) (by omega)).m (fun r z => ?_)
    rw [if_neg (by omega)] at z
    exact z
  | succ m ih =>
    intro i fu h1 h2 hg
    obtain ⟨fu, rfl⟩ : ∃ j, fu = j + 1 := ⟨fu - 1, by omega⟩
    have c0 := c
    obtain ⟨⟨a1, a2, a3, a4, a5, a6, a7, a8⟩, -⟩ := c
    have h4 := a8.2.2.2
    have gi := hg i (Nat.le_refl _) (by omega)
    unfold x6_plain_l2
    rw [if_pos a1, a2, if_neg (by omega), a4, if_pos a5, a6, if_pos (by omega), tn, a7 i (by omega), sby_g gi, c_isSign, Option.bind_some, gi, if_pos (by decide), inc32 (by omega)]
    exact ih (i + 1) fu (by omega) (by omega) (fun k h1 h2 => hg k (by omega) h2)
/-- what a row of signs that is no formula means -/
def plV (bA : Nat → Int) (fi la : Nat) : Int := if bA fi = 45 then -(dgN bA (fi + 1) la) else dgN bA fi la
def plF (bA : Nat → Int) (fi : Nat) : Nat := if bA fi = 39 then fi + 1 else fi
def plTx (bA : Nat → Int) (fi la : Nat) : List Int := lst (la - plF bA fi) (fun i => bA (plF bA fi + i))
theorem c_plain_num (hN : 500 ≤ N) (c : CR x n n nv sh bA f σ) (hl : la ≤ n) (hf : fi < la) (hg : ∀ k, k < n → isG (bA k) = true) (hw : whB bA fi la = true) : Ev (x6_plain N (x + 1429) fi la σ) (fun a => a.1 = .inl none ∧ FrC x σ a.2 403 ∧ CtC a.2 (mR a.2 (x + 1429) 16) ((1, (plV bA fi la, [])), [])) := by
  unfold x6_plain
  rw [show ((0 : Int) = ((0 : Nat) : Int)) from rfl, c_plain_l c n 0 N (by omega) (by have := c.1.2.2.2.2.2.2.2.2.2.2; omega) (fun k _ hk => hg k hk)]
  have c0 := c
  obtain ⟨⟨a1, a2, a3, a4, a5, a6, a7, a8⟩, -⟩ := c
  have h4 := a8.2.2.2
  have lt := c0.lt
  refine Ev.g a1 ?_
  rw [a4, c_isWhole hN a5 a6 (by decide) (by omega) (by omega) (fun k hk => by rw [a7 k (by omega), sby_g (hg k (by omega))]) (fun z => by omega), Option.bind_some, hw]
  refine Ev.f (by decide) (Ev.g a5 (Ev.g (by rw [a6]; omega) ?_))
  rw [tn, a7 fi (by omega), sby_g (hg fi (by omega))]
  unfold whB at hw
  obtain ⟨w1, w2⟩ := Bool.and_eq_true_iff.mp hw
  have w1 := of_decide_eq_true w1
  have w3 := (allD_iff _ _).mp w2
  have DG := dgN_b (bA := bA) (p := whF bA fi) (q := la) (fun k k1 k2 => w3 k k1 (by omega)) (by omega)
  have eD : x6_digits N (x + 1429) (whF bA fi) la σ = some (dgN bA (whF bA fi) la) := c_dig hN c0.1 (by omega) (by omega) (fun k k1 k2 => w3 k k1 (by omega)) (by omega)
  have FIN : ∀ v : Int, -1000000000000000 < v → v < 1000000000000000 → Ev ((x13_init (mZ σ) v (wN σ 11 1)).bind (fun x53 => if mT x53 (x + 1429) = 6 then gLet (wR x53 (x + 1429) 16 (mZ σ)) (fun s56 => some ((.inl none, s56) : gR)) else none)) (fun a => a.1 = .inl none ∧ FrC x σ a.2 403 ∧ CtC a.2 (mR a.2 (x + 1429) 16) ((1, (v, [])), [])) := by
    intro v v1 v2
    have tt : mT (wN σ 11 1) (mZ σ) = 11 := by rw [mT_wN, if_pos rfl]
    have cf := ((CF.rf c0).wN' (t := 11) (n := 1) (Or.inr trivial) (fun z => by cases z) (by decide)).wL' (nd := mZ σ) (i := 0) (v := v) (Nat.le_refl _)
    have e : x13_init (mZ σ) v (wN σ 11 1) = some (wL (wN σ 11 1) (mZ σ) 0 v) := by unfold x13_init; rw [if_pos tt]; rfl
    refine Ev.e e (Ev.g ?_ (Ev.l (Ev.r ⟨rfl, (cf.mono (by omega)).r16, ?_⟩)))
    · show mT (wN σ 11 1) (x + 1429) = 6
      rw [mT_wN, if_neg (by omega)]; exact a1
    · show CtC (wR (wL (wN σ 11 1) (mZ σ) 0 v) (x + 1429) 16 (mZ σ)) (mR (wR (wL (wN σ 11 1) (mZ σ) 0 v) (x + 1429) 16 (mZ σ)) (x + 1429) 16) _
      rw [mR_wR, if_pos ⟨rfl, rfl⟩]
      have el : mL (wR (wL (wN σ 11 1) (mZ σ) 0 v) (x + 1429) 16 (mZ σ)) (mZ σ) 0 = v := by
        show mL (wL (wN σ 11 1) (mZ σ) 0 v) (mZ σ) 0 = v
        rw [mL_wL, if_pos ⟨rfl, rfl⟩]; exact w64_id ⟨by omega, by omega⟩
      refine Or.inr (Or.inl ⟨tt, ?_, ?_, ?_⟩)
      · rw [el]
      · rw [el]; exact v1
      · rw [el]; exact v2
  have ts : mT σ (x + 1429) = 6 := a1
  unfold x6_plain_j63 x6_plain_j76
  by_cases e : bA fi = 45
  · have eF : whF bA fi = fi + 1 := by unfold whF; rw [if_pos e]
    rw [eF] at eD DG
    refine Ev.f (fun z => z e) (Ev.f (by decide) (Ev.g ts ?_))
    rw [inc32 (by omega), eD, Option.bind_some]
    refine Ev.l (Ev.f (by decide) ?_)
    have en : w64 (-(dgN bA (fi + 1) la)) = -(dgN bA (fi + 1) la) := w64_id ⟨by omega, by omega⟩
    rw [en]
    have := FIN (-(dgN bA (fi + 1) la)) (by omega) (by omega)
    unfold plV
    rw [if_pos e]; exact this
  · have eF : whF bA fi = fi := by unfold whF; rw [if_neg e]
    rw [eF] at eD DG
    refine Ev.g e (Ev.g rfl (Ev.g ts ?_))
    rw [eD, Option.bind_some]
    refine Ev.l (Ev.g rfl ?_)
    have := FIN (dgN bA fi la) (by omega) (by omega)
    unfold plV
    rw [if_neg e]; exact this
theorem c_plain_tru {bT bF : Bool} (hN : 500 ≤ N) (c : CR x n n nv sh bA f σ) (hl : la ≤ n) (hf : fi < la) (hg : ∀ k, k < n → isG (bA k) = true) (hw : whB bA fi la = false) (eT : bT = true ↔ WdA bA fi la tTRUE) (eF : bF = true ↔ WdA bA fi la tFALSE) (hb : bT = true ∨ bF = true) : Ev (x6_plain N (x + 1429) fi la σ) (fun a => a.1 = .inl none ∧ FrC x σ a.2 403 ∧ CtC a.2 (mR a.2 (x + 1429) 16) (vIs bT, [])) := by
  unfold x6_plain
  rw [show ((0 : Int) = ((0 : Nat) : Int)) from rfl, c_plain_l c n 0 N (by omega) (by have := c.1.2.2.2.2.2.2.2.2.2.2; omega) (fun k _ hk => hg k hk)]
  have c0 := c
  have kc := c.2.2.2.1
  obtain ⟨⟨a1, a2, a3, a4, a5, a6, a7, a8⟩, -⟩ := c
  have h4 := a8.2.2.2
  have lt := c0.lt
  obtain ⟨b1, u1, u2⟩ := c_spells (p := fi) (q := la) hN c0.1 (kc.1 1 (by decide)) (by decide) (by decide) (by omega) hl
  obtain ⟨b2, v1, v2⟩ := c_spells (p := fi) (q := la) hN c0.1 (kc.1 2 (by decide)) (by decide) (by decide) (by omega) hl
  have iT : x6_isTruth N (x + 1) (fi : Int) (la : Int) σ = some 1 := by
    unfold x6_isTruth
    rw [u1, Option.bind_some]
    cases z1 : b1 with
    | true => rfl
    | false =>
      have : b2 = true := by
        rcases hb with hb | hb
        · have := u2.mpr (eT.mp hb); rw [z1] at this; cases this
        · exact v2.mpr (eF.mp hb)
      rw [if_neg (by decide), v1, this]; rfl
  refine Ev.g a1 ?_
  rw [a4, c_isWhole hN a5 a6 (by decide) (by omega) (by omega) (fun k hk => by rw [a7 k (by omega), sby_g (hg k (by omega))]) (fun z => by omega), Option.bind_some, hw]
  refine Ev.g (by decide) ?_
  rw [iT, Option.bind_some]
  have tt : mT (wN σ 16 1) (mZ σ) = 16 := by rw [mT_wN, if_pos rfl]
  have r3 : mR (wN σ 16 1) (x + 1429) 3 = x + 1 := by rw [mR_wN, if_neg (by omega)]; exact a4
  have t1 : mT (wN σ 16 1) (x + 1) = 102 := by rw [mT_wN, if_neg (by omega)]; exact a5
  have n1 : mN (wN σ 16 1) (x + 1) = 400 := by rw [mN_wN, if_neg (by omega)]; exact a6
  have i1 : mI (wN σ 16 1) (x + 1) fi = bA fi := by rw [mI_wN, if_neg (by omega), a7 fi (by omega), sby_g (hg fi (by omega))]
  refine Ev.f (by decide) (Ev.l ?_)
  rw [r3, n1, tn, i1]
  refine Ev.g t1 (Ev.g (by omega) ?_)
  have FIN : ∀ v : Bool, Ev ((x18_init (mZ σ) (if v then 1 else 0) (wN σ 16 1)).bind (fun x37 => gLet (wR x37 (x + 1429) 16 (mZ σ)) (fun s39 => some ((.inl none, s39) : gR)))) (fun a => a.1 = .inl none ∧ FrC x σ a.2 403 ∧ CtC a.2 (mR a.2 (x + 1429) 16) (vIs v, [])) := by
    intro v
    have cf := ((CF.rf c0).wN' (t := 16) (n := 1) (Or.inr trivial) (fun z => by cases z) (by decide)).wI' (nd := mZ σ) (i := 0) (v := if v then 1 else 0) (Nat.le_refl _)
    have e : x18_init (mZ σ) (if v then 1 else 0) (wN σ 16 1) = some (wI (wN σ 16 1) (mZ σ) 0 (if v then 1 else 0)) := by
      unfold x18_init; rw [if_pos tt, if_pos (by cases v; exact Or.inl rfl; exact Or.inr rfl)]; rfl
    refine Ev.e e (Ev.l (Ev.r ⟨rfl, (cf.mono (by omega)).r16, ?_⟩))
    show CtC (wR (wI (wN σ 16 1) (mZ σ) 0 (if v then 1 else 0)) (x + 1429) 16 (mZ σ)) (mR (wR (wI (wN σ 16 1) (mZ σ) 0 (if v then 1 else 0)) (x + 1429) 16 (mZ σ)) (x + 1429) 16) _
    have r16 : mR (wR (wI (wN σ 16 1) (mZ σ) 0 (if v then 1 else 0)) (x + 1429) 16 (mZ σ)) (x + 1429) 16 = mZ σ := by rw [mR_wR]; exact if_pos ⟨rfl, rfl⟩
    rw [r16]
    have ei : mI (wR (wI (wN σ 16 1) (mZ σ) 0 (if v then 1 else 0)) (x + 1429) 16 (mZ σ)) (mZ σ) 0 = if v then 1 else 0 := by
      show mI (wI (wN σ 16 1) (mZ σ) 0 (if v then 1 else 0)) (mZ σ) 0 = _
      rw [mIwI2 ⟨rfl, rfl⟩]
      cases v
      · show w32 0 = 0
        exact w32_i (by omega) (by omega)
      · show w32 1 = 1
        exact w32_i (by omega) (by omega)
    refine Or.inr (Or.inr (Or.inr (Or.inl ⟨tt, ?_, ?_⟩)))
    · rw [ei]
      cases v <;> rfl
    · rw [ei]
      cases v
      · exact Or.inl rfl
      · exact Or.inr rfl
  cases z1 : bT with
  | true =>
    have w := eT.mp z1
    have b0 : bA fi = 84 := w.2 0 (by decide)
    exact Ev.f (fun z => z b0) (FIN true)
  | false =>
    have z2 : bF = true := by
      rcases hb with hb | hb
      · rw [z1] at hb; cases hb
      · exact hb
    have w := eF.mp z2
    have b0 : bA fi = 70 := w.2 0 (by decide)
    exact Ev.g (by omega) (FIN false)
theorem c_plain_txt (hN : 500 ≤ N) (c : CR x n n nv sh bA f σ) (hl : la ≤ n) (hf : fi < la) (hg : ∀ k, k < n → isG (bA k) = true) (hw : whB bA fi la = false) (eT : ¬ WdA bA fi la tTRUE) (eF : ¬ WdA bA fi la tFALSE) : Ev (x6_plain N (x + 1429) fi la σ) (fun a => FrC x σ a.2 403 ∧ ((a.1 = .inl none ∧ la ≤ plF bA fi + 24 ∧ CtC a.2 (mR a.2 (x + 1429) 16) (vTx (plTx bA fi la), [])) ∨ (a.1 = .inr "SheetBranches$Wrong" ∧ plF bA fi + 24 < la ∧ mI a.2 (x + 1429) 12 = 6 ∧ mI a.2 (x + 1429) 13 = ((plF bA fi + 24 : Nat) : Int)))) := by
  unfold x6_plain
  rw [show ((0 : Int) = ((0 : Nat) : Int)) from rfl, c_plain_l c n 0 N (by omega) (by have := c.1.2.2.2.2.2.2.2.2.2.2; omega) (fun k _ hk => hg k hk)]
  have c0 := c
  have kc := c.2.2.2.1
  obtain ⟨⟨a1, a2, a3, a4, a5, a6, a7, a8⟩, -⟩ := c
  have h4 := a8.2.2.2
  have lt := c0.lt
  obtain ⟨b1, u1, u2⟩ := c_spells (p := fi) (q := la) hN c0.1 (kc.1 1 (by decide)) (by decide) (by decide) (by omega) hl
  obtain ⟨b2, v1, v2⟩ := c_spells (p := fi) (q := la) hN c0.1 (kc.1 2 (by decide)) (by decide) (by decide) (by omega) hl
  have z1 : b1 = false := by cases z : b1 with
    | false => rfl
    | true => exact absurd (u2.mp z) eT
  have z2 : b2 = false := by cases z : b2 with
    | false => rfl
    | true => exact absurd (v2.mp z) eF
  have iT : x6_isTruth N (x + 1) (fi : Int) (la : Int) σ = some 0 := by
    unfold x6_isTruth
    rw [u1, Option.bind_some, z1, if_neg (by decide), v1, Option.bind_some, z2]; rfl
  refine Ev.g a1 ?_
  rw [a4, c_isWhole hN a5 a6 (by decide) (by omega) (by omega) (fun k hk => by rw [a7 k (by omega), sby_g (hg k (by omega))]) (fun z => by omega), Option.bind_some, hw]
  refine Ev.g (by decide) ?_
  rw [iT, Option.bind_some]
  refine Ev.g rfl (Ev.g a5 (Ev.g (by rw [a6]; omega) ?_))
  rw [tn, a7 fi (by omega), sby_g (hg fi (by omega))]
  have FIN : ∀ F : Nat, F = plF bA fi → F ≤ la → Ev (x6_plain_j168 N (x + 1429) la F σ) (fun a => FrC x σ a.2 403 ∧ ((a.1 = .inl none ∧ la ≤ plF bA fi + 24 ∧ CtC a.2 (mR a.2 (x + 1429) 16) (vTx (plTx bA fi la), [])) ∨ (a.1 = .inr "SheetBranches$Wrong" ∧ plF bA fi + 24 < la ∧ mI a.2 (x + 1429) 12 = 6 ∧ mI a.2 (x + 1429) 13 = ((plF bA fi + 24 : Nat) : Int)))) := by
    intro F hF F1
    unfold x6_plain_j168
    rw [← hF, w32_i (by omega) (by omega)]
    by_cases l24 : (la : Int) - (F : Int) ≤ 24
    · refine Ev.g l24 (Ev.l ?_)
      have t41 : mT (wN σ 12 1) (mZ σ) = 12 := by rw [mT_wN, if_pos rfl]
      have cfa := (CF.rf c0).wN' (t := 12) (n := 1) (Or.inr trivial) (fun z => by cases z) (by decide)
      have ca := c0.cf cfa
      have Z41 : mZ (wN σ 12 1) = mZ σ + 1 := rfl
      have i41 : ∀ a j, a ≠ mZ σ → mI (wN σ 12 1) a j = mI σ a j := fun a j ha => by rw [mI_wN, if_neg ha]
      generalize wN σ 12 1 = s41 at t41 cfa ca Z41 i41 ⊢
      refine Ev.g ca.1.1 ?_
      have wn : w32 ((la : Int) - (F : Int)) = ((la - F : Nat) : Int) := by rw [w32_i (by omega) (by omega)]; omega
      have cfb := cfa.wN' (t := 102) (n := la - F) (Or.inr trivial) (fun z => by cases z) (by omega)
      have crb := c0.cf cfb
      have nl : mN (wN s41 102 (la - F)) (mZ s41) = la - F := by rw [mN_wN, if_pos rfl]
      have eP : x6_part (x + 1429) (F : Int) la s41 = some (mZ s41, wCI (wN s41 102 (la - F)) (x + 1) F (mZ s41) 0 (la - F)) := by
        unfold x6_part
        rw [wn, tn, tn, if_pos (by omega)]
        simp only [gLet]
        rw [if_pos crb.1.1, crb.1.2.2.2.1, if_pos crb.1.2.2.2.2.1, nl, w32_i (by omega) (by omega), crb.1.2.2.2.2.2.1, if_pos (by omega), tn]
        rfl
      refine Ev.e eP ?_
      have cfc := cfb.wCI' (nd := mZ s41) (a := x + 1) (sp := F) (dp := 0) (n := la - F) (by omega)
      have cfd := cfc.wR' (nd := mZ σ) (i := 0) (v := mZ s41) (Nat.le_refl _) (fun _ z => by cases z)
      have tr12 : mT (wCI (wN s41 102 (la - F)) (x + 1) F (mZ s41) 0 (la - F)) (mZ σ) = 12 := by rw [mT_wCI, mT_wN, if_neg (by omega)]; exact t41
      obtain ⟨r, hr⟩ : ∃ r, r = wR (wCI (wN s41 102 (la - F)) (x + 1) F (mZ s41) 0 (la - F)) (mZ σ) 0 (mZ s41) := ⟨_, rfl⟩
      have eI : x14_init (mZ σ) (mZ s41) (wCI (wN s41 102 (la - F)) (x + 1) F (mZ s41) 0 (la - F)) = some r := by
        unfold x14_init
        rw [if_pos tr12, hr]; rfl
      rw [← hr] at cfd
      refine Ev.e eI (Ev.l (Ev.r ⟨(cfd.mono (by omega)).r16, Or.inl ⟨rfl, by omega, ?_⟩⟩))
      show CtC (wR r (x + 1429) 16 (mZ σ)) (mR (wR r (x + 1429) 16 (mZ σ)) (x + 1429) 16) _
      rw [mR_wR, if_pos ⟨rfl, rfl⟩]
      have en : mN (wR r (x + 1429) 16 (mZ σ)) (mZ σ + 1) = la - F := by
        rw [mN_wR, hr, mN_wR, mN_wCI, ← Z41]; exact nl
      have ei : ∀ i, i < la - F → mI (wR r (x + 1429) 16 (mZ σ)) (mZ σ + 1) i = bA (F + i) := fun i hi => by
        have tb := crb.1.2.2.2.2.2.2.1 (F + i) (by omega)
        rw [mI_wR, hr, mI_wR, mI_wCI, if_pos ⟨Z41.symm, by omega, by omega⟩, show F + (i - 0) = F + i by omega, tb]
        exact sby_g (hg (F + i) (by omega))
      refine Or.inr (Or.inr (Or.inl ⟨?_, ?_, ?_, ?_, ?_, ?_⟩))
      · rw [mT_wR, hr, mT_wR]; exact tr12
      · rw [mR_wR, if_neg (by omega), hr, mR_wR, if_pos ⟨rfl, rfl⟩]; exact Z41
      · rw [mT_wR, hr, mT_wR, mT_wCI, mT_wN, if_pos Z41.symm]
      · rw [en]
        unfold plTx
        rw [← hF]
        exact congrArg (fun z => (vTx z, ([] : Fm))) (lst_congr (fun i hi => (ei i hi).symm))
      · rw [en]; omega
      · rw [en]
        intro i hi
        rw [ei i hi]
        have := of_decide_eq_true (hg (F + i) (by omega))
        exact this
    · refine Ev.f l24 (Ev.g a1 ?_)
      have e24 : w32 ((F : Int) + 24) = ((F + 24 : Nat) : Int) := by rw [w32_i (by omega) (by omega)]; omega
      rw [e24]
      refine (c_throw c0 (k := 6) (w := ((F + 24 : Nat) : Int)) (by decide) (by omega)).m (fun r z => ?_)
      obtain ⟨y1, y2, y3, y4⟩ := z
      rw [if_neg (by omega)] at y3
      exact ⟨(y4.mono (by omega)).kz, Or.inr ⟨y1, by omega, y2, y3⟩⟩
  by_cases e : bA fi = 39
  · refine Ev.f (fun z => z e) ?_
    rw [inc32 (by omega)]
    exact FIN (fi + 1) (by unfold plF; rw [if_pos e]) (by omega)
  · exact Ev.g e (FIN fi (by unfold plF; rw [if_neg e]) (by omega))
end Read45
