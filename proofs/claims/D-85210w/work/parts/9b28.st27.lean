/-! ===== PHASE 2: sheets laid anew: the class ===== -/
section Lay1
variable {N x h u nv a A B R C at' : Nat} {σ σ' s f : gMem} {S : Sh} {rs cs l : List Int} {rm cm v : Int} {own : Nat → Nat}
/-- the content at two marks -/
def atS (S : Sh) (rm cm : Int) : Ct := if pl S.1.1 rm < 0 ∨ pl S.1.2 cm < 0 then (vE, []) else S.2 (10 * (pl S.1.1 rm).toNat + (pl S.1.2 cm).toNat)
def adS (σ : gMem) (a : Nat) (S : Sh) (rm cm : Int) : Nat := if pl S.1.1 rm < 0 ∨ pl S.1.2 cm < 0 then 0 else mR σ (mR σ (mR σ a 2) (pl S.1.1 rm).toNat) (pl S.1.2 cm).toNat
/-- a sheet with other lines -/
def layS (S : Sh) (rs cs : List Int) : Sh := ((rs, cs), fun k => atS S (gl rs (k / 10)) (gl cs (k % 10)))
theorem c_of (hN : 40 ≤ N) (c : ShC σ a S) (rm cm : Int) : x9_of N a rm cm σ = some (adS σ a S rm cm) := by
  have b1 := pl_ge S.1.1 rm
  have b2 := pl_ge S.1.2 cm
  unfold x9_of adS
  rw [if_pos c.1.1, c_row hN c.1, Option.bind_some, c_column hN c.1, Option.bind_some]
  by_cases c1 : pl S.1.1 rm = -1
  · rw [if_pos c1, if_pos (Or.inl (by omega))]
  · rw [if_neg c1]
    by_cases c2 : pl S.1.2 cm = -1
    · rw [if_neg (fun z => z c2), if_pos (Or.inr (by omega))]
    · have rw0 := c.2.2.2 (pl S.1.1 rm).toNat (by omega)
      rw [if_pos c2, if_neg (show ¬ (pl S.1.1 rm < 0 ∨ pl S.1.2 cm < 0) by omega), if_pos c.2.1, c.2.2.1, if_pos (by omega), if_pos rw0.1, rw0.2.1, if_pos (by omega)]
theorem adS_ct (c : ShC σ a S) (rm cm : Int) : CtC σ (adS σ a S rm cm) (atS S rm cm) := by
  have b1 := pl_ge S.1.1 rm
  have b2 := pl_ge S.1.2 cm
  unfold adS atS
  by_cases c1 : pl S.1.1 rm < 0 ∨ pl S.1.2 cm < 0
  · rw [if_pos c1, if_pos c1]; exact Or.inl ⟨rfl, rfl⟩
  · rw [if_neg c1, if_neg c1]
    exact (c.2.2.2 (pl S.1.1 rm).toNat (by omega)).2.2 (pl S.1.2 cm).toNat (by omega)
theorem adS_kp (K : Kz (fun _ => False) σ s) (ok : gOk σ) (c : ShC σ a S) (rm cm : Int) : adS s a S rm cm = adS σ a S rm cm := by
  have b1 := pl_ge S.1.1 rm
  unfold adS
  by_cases c1 : pl S.1.1 rm < 0 ∨ pl S.1.2 cm < 0
  · rw [if_pos c1, if_pos c1]
  · rw [if_neg c1, if_neg c1]
    have rw0 := c.2.2.2 (pl S.1.1 rm).toNat (by omega)
    rw [K.rR ok (a := a) (by rw [c.1.1]; decide) (fun f => f), K.rR ok (a := mR σ a 2) (by rw [c.2.1]; decide) (fun f => f), K.rR ok (by rw [rw0.1]; decide) (fun f => f)]
/-- so far: these cells are laid -/
def LyI (σ s : gMem) (a : Nat) (S : Sh) (rs cs : List Int) (rr cc : Nat) : Prop :=
  Kz (fun _ => False) σ s ∧ (mT s = mT (wM σ rs.length cs.length) ∧ mN s = mN (wM σ rs.length cs.length) ∧ mZ s = mZ σ + 1 + rs.length ∧ mS s = mS σ + (rs.length + rs.length * cs.length)) ∧ (∀ j, j < rs.length → mR s (mZ σ) j = mZ σ + 1 + j) ∧
  ∀ r c, r < rs.length → c < cs.length → (r < rr ∨ (r = rr ∧ c < cc)) → mR s (mZ σ + 1 + r) c = adS σ a S (gl rs r) (gl cs c)
section Loops
variable {K : gMem → Option gMem} {Φ : gMem → Prop}
theorem lay_in {rr : Nat} (hN : 100 ≤ N) (ok : gOk σ) (z : 0 < mZ σ) (c : ShC σ a S) (kR : LsC σ R rs) (kC : LsC σ C cs) (c10 : cs.length ≤ 10) (hr : rr < rs.length) (hK : ∀ s, LyI σ s a S rs cs rr cs.length → Ev (K s) Φ) : ∀ (m cc fu : Nat) (s : gMem), cc + m = cs.length → m < fu → LyI σ s a S rs cs rr cc → Ev (x9_lay_2_l22 N a R C (mZ σ) rr K fu cc s) Φ := by
  have tR : mT σ R ≠ 0 := by rw [kR.1]; decide
  have tC : mT σ C ≠ 0 := by rw [kC.1]; decide
  have ta : mT σ a ≠ 0 := by rw [c.1.1]; decide
  have n32 := kR.2.2.1
  intro m
  induction m with
  | zero =>
    intro cc fu s h1 h2 I
    obtain ⟨fu, rfl⟩ : ∃ j, fu = j + 1 := ⟨fu - 1, by omega⟩
    obtain rfl : cc = cs.length := by omega
    unfold x9_lay_2_l22
    have K0 := I.1
    rw [K0.tag ok tC, K0.len ok tC, kC.2.1, w32_i (by omega) (by omega)]
    exact Ev.g kC.1 (Ev.g (by omega) (hK s I))
  | succ m ih =>
    intro cc fu s h1 h2 I
    obtain ⟨fu, rfl⟩ : ∃ j, fu = j + 1 := ⟨fu - 1, by omega⟩
    obtain ⟨K0, ⟨T, L, Z, ZS⟩, I1, I2⟩ := I
    have cs' : ShC s a S := c.kp K0 ok z WNF (fun _ _ f => f)
    have tA : mT s (mZ σ) = 111 := by rw [T, mT_wM, if_pos rfl]
    have nA : mN s (mZ σ) = rs.length := by rw [L, mN_wM, if_pos rfl]
    have tW : mT s (mZ σ + 1 + rr) = 110 := by rw [T, mT_wM, if_neg (by omega), if_pos (by omega)]
    have nW : mN s (mZ σ + 1 + rr) = cs.length := by rw [L, mN_wM, if_neg (by omega), if_pos (by omega)]
    have eR : mI s R rr = gl rs rr := by rw [K0.rI ok tR (fun f => f)]; exact kR.2.2.2 rr hr
    have eC : mI s C cc = gl cs cc := by rw [K0.rI ok tC (fun f => f)]; exact kC.2.2.2 cc (by omega)
    unfold x9_lay_2_l22
    rw [K0.tag ok tC, K0.len ok tC, kC.2.1, w32_i (by omega) (by omega), K0.tag ok tR, K0.len ok tR, kR.2.1, tn, tn, eR, eC, nA, K0.tag ok ta]
    refine Ev.g kC.1 (Ev.f (by omega) (Ev.g tA (Ev.g (by omega) (Ev.g kR.1 (Ev.g (by omega) (Ev.g (by omega) (Ev.g c.1.1 (Ev.e (c_of (by omega) cs' _ _) ?_))))))))
    rw [I1 rr hr, nW, inc32 (by omega)]
    have ct := adS_ct cs' (gl rs rr) (gl cs cc)
    refine Ev.g tW (Ev.g ct.asg (Ev.g (by omega) (Ev.l (ih (cc + 1) fu _ (by omega) (by omega) ⟨K0.wR (Or.inl (by omega)), ⟨T, L, Z, ZS⟩, fun j hj => ?_, fun r c' h3 h4 h5 => ?_⟩))))
    · rw [mR_wR, if_neg (fun y => by omega)]; exact I1 j hj
    · rw [mR_wR]
      by_cases e : r = rr ∧ c' = cc
      · rw [if_pos ⟨by omega, e.2⟩, e.1, e.2]
        exact adS_kp K0 ok c _ _
      · rw [if_neg (fun y => e ⟨by omega, y.2⟩)]
        exact I2 r c' h3 h4 (by omega)
theorem lay_out (hN : 100 ≤ N) (ok : gOk σ) (z : 0 < mZ σ) (c : ShC σ a S) (kR : LsC σ R rs) (kC : LsC σ C cs) (c10 : cs.length ≤ 10) (hK : ∀ s, LyI σ s a S rs cs rs.length 0 → Ev (K s) Φ) : ∀ (m rr fu : Nat) (s : gMem), rr + m = rs.length → m < fu → LyI σ s a S rs cs rr 0 → Ev (x9_lay_2_l12 N a R C (mZ σ) K fu rr s) Φ := by
  have tR : mT σ R ≠ 0 := by rw [kR.1]; decide
  have n32 := kR.2.2.1
  intro m
  induction m with
  | zero =>
    intro rr fu s h1 h2 I
    obtain ⟨fu, rfl⟩ : ∃ j, fu = j + 1 := ⟨fu - 1, by omega⟩
    obtain rfl : rr = rs.length := by omega
    unfold x9_lay_2_l12
    have K0 := I.1
    rw [K0.tag ok tR, K0.len ok tR, kR.2.1, w32_i (by omega) (by omega)]
    exact Ev.g kR.1 (Ev.g (by omega) (hK s I))
  | succ m ih =>
    intro rr fu s h1 h2 I
    obtain ⟨fu, rfl⟩ : ∃ j, fu = j + 1 := ⟨fu - 1, by omega⟩
    unfold x9_lay_2_l12
    have K0 := I.1
    rw [K0.tag ok tR, K0.len ok tR, kR.2.1, w32_i (by omega) (by omega)]
    refine Ev.g kR.1 (Ev.f (by omega) (lay_in hN ok z c kR kC c10 (by omega) (fun s' I' => ?_) cs.length 0 N s (by omega) (by omega) I))
    rw [inc32 (by omega)]
    refine ih (rr + 1) fu s' (by omega) (by omega) ⟨I'.1, I'.2.1, I'.2.2.1, fun r c' h3 h4 h5 => ?_⟩
    exact I'.2.2.2 r c' h3 h4 (by omega)
end Loops
/-- what laying anew leaves -/
def LyF (σ f : gMem) (a R C : Nat) (S : Sh) (rs cs : List Int) : Prop := ShC f a (layS S rs cs) ∧ Kz (fun b => b = a) σ f ∧ (mR f a 0 = R ∧ mR f a 1 = C ∧ mR f a 2 = mZ σ ∧ ∀ r, r < rs.length → mR f (mZ σ) r = mZ σ + 1 + r) ∧ mZ f ≤ mZ σ + 33 ∧ mS f ≤ mS σ + 352 ∧ ∀ q, mZ σ ≤ q → mT f q = 0 ∨ mT f q = 110 ∨ mT f q = 111
theorem c_lay2 (hN : 100 ≤ N) (ok : gOk σ) (z : 0 < mZ σ) (z0 : mT σ 0 = 0) (c : ShC σ a S) (kR : LsC σ R rs) (kC : LsC σ C cs) (c10 : cs.length ≤ 10) : Ev (x9_lay_2 N a R C σ) (fun f => LyF σ f a R C S rs cs) := by
  have tR : mT σ R ≠ 0 := by rw [kR.1]; decide
  have tC : mT σ C ≠ 0 := by rw [kC.1]; decide
  have ta : mT σ a ≠ 0 := by rw [c.1.1]; decide
  have n32 := kR.2.2.1
  have la : a < mZ σ := gOk_lt ok ta
  have lR : R < mZ σ := gOk_lt ok tR
  have lC : C < mZ σ := gOk_lt ok tC
  unfold x9_lay_2
  rw [kR.2.1, kC.2.1, w32_i (x := (rs.length : Int)) (by omega) (by omega), w32_i (x := (cs.length : Int)) (by omega) (by omega), tn, tn]
  refine Ev.g kR.1 (Ev.g kC.1 (Ev.g (by omega) (Ev.l ?_)))
  have okM : gOk (wM σ rs.length cs.length) := fun b hb => by
    rw [mZ_wM] at hb
    rw [mT_wM, if_neg (by omega), if_neg (by omega)]; exact ok b (by omega)
  have KM : Kz (fun _ => False) σ (wM σ rs.length cs.length) := by
    refine ⟨by rw [mZ_wM]; omega, okM, fun b hb => ⟨?_, ?_⟩, fun b hb _ k => ⟨?_, ?_, ?_⟩⟩
    · rw [mT_wM, if_neg (by omega), if_neg (by omega)]
    · rw [mN_wM, if_neg (by omega), if_neg (by omega)]
    · rw [mI_wM, if_neg (by omega)]
    · rw [mL_wM, if_neg (by omega)]
    · rw [mR_wM, if_neg (by omega), if_neg (by omega)]
  refine lay_out hN ok z c kR kC c10 (fun s I => ?_) rs.length 0 N _ (by omega) (by omega) ⟨KM, ⟨rfl, rfl, by rw [mZ_wM]; omega, by rw [mS_wM]⟩, fun j hj => by rw [mR_wM, if_pos rfl, if_pos hj], fun r c' h3 h4 h5 => by omega⟩
  obtain ⟨K0, ⟨T, L, Z, ZS⟩, I1, I2⟩ := I
  have tas : mT s a = 8 := by rw [K0.tag ok ta]; exact c.1.1
  refine Ev.g tas (Ev.l (Ev.l (Ev.l (Ev.r ?_))))
  have mm : rs.length * cs.length ≤ 32 * 10 := Nat.mul_le_mul n32 c10
  have Kf : Kz (fun b => b = a) s (wR (wR (wR s a 0 R) a 1 C) a 2 (mZ σ)) := by
    have K00 : Kz (fun b => b = a) s s := Kz.rf K0.ok
    exact ((K00.wR (Or.inr rfl)).wR (Or.inr rfl)).wR (Or.inr rfl)
  have KF : Kz (fun b => b = a) σ (wR (wR (wR s a 0 R) a 1 C) a 2 (mZ σ)) := (K0.mono (fun _ f => f.elim)).tr Kf
  have r0 : mR (wR (wR (wR s a 0 R) a 1 C) a 2 (mZ σ)) a 0 = R := by rw [mR_wR, if_neg (by omega), mR_wR, if_neg (by omega), mR_wR, if_pos ⟨rfl, rfl⟩]
  have r1 : mR (wR (wR (wR s a 0 R) a 1 C) a 2 (mZ σ)) a 1 = C := by rw [mR_wR, if_neg (by omega), mR_wR, if_pos ⟨rfl, rfl⟩]
  have r2 : mR (wR (wR (wR s a 0 R) a 1 C) a 2 (mZ σ)) a 2 = mZ σ := by rw [mR_wR, if_pos ⟨rfl, rfl⟩]
  have ro : ∀ b j, b ≠ a → mR (wR (wR (wR s a 0 R) a 1 C) a 2 (mZ σ)) b j = mR s b j := fun b j hb => by rw [mR_wR, if_neg (fun y => hb y.1), mR_wR, if_neg (fun y => hb y.1), mR_wR, if_neg (fun y => hb y.1)]
  have tF : mT (wR (wR (wR s a 0 R) a 1 C) a 2 (mZ σ)) = mT s := rfl
  have nF : mN (wR (wR (wR s a 0 R) a 1 C) a 2 (mZ σ)) = mN s := rfl
  have zF : mZ (wR (wR (wR s a 0 R) a 1 C) a 2 (mZ σ)) = mZ s := rfl
  have sF : mS (wR (wR (wR s a 0 R) a 1 C) a 2 (mZ σ)) = mS s := rfl
  generalize wR (wR (wR s a 0 R) a 1 C) a 2 (mZ σ) = f at Kf KF r0 r1 r2 ro tF nF zF sF ⊢
  have zs : 0 < mZ s := by omega
  have z0s : mT s 0 = 0 := by rw [(K0.2.2.1 0 z).1]; exact z0
  have wnS : WN s (fun b => b = a) := ⟨fun e => by rw [← show (0 : Nat) = a from e] at ta; exact ta z0, fun b e => by rw [show b = a from e, tas]; omega⟩
  have neR : R ≠ a := fun e => by have := kR.1; rw [e, c.1.1] at this; cases this
  have neC : C ≠ a := fun e => by have := kC.1; rw [e, c.1.1] at this; cases this
  refine ⟨⟨⟨by rw [tF]; exact tas, ?_, ?_, c10⟩, ?_, ?_, fun r hr => ?_⟩, KF, ⟨r0, r1, r2, fun r hr => by rw [ro _ _ (by omega)]; exact I1 r hr⟩, by omega, by omega, fun q hq => ?_⟩
  · rw [r0]; exact kR.kp KF ok neR
  · rw [r1]; exact kC.kp KF ok neC
  · rw [r2, tF, T, mT_wM, if_pos rfl]
  · rw [r2, nF, L, mN_wM, if_pos rfl]; rfl
  · have hr' : r < rs.length := hr
    rw [r2, ro _ _ (by omega), I1 r hr']
    refine ⟨by rw [tF, T, mT_wM, if_neg (by omega), if_pos (by omega)], by rw [nF, L, mN_wM, if_neg (by omega), if_pos (by omega)]; rfl, fun cc hc => ?_⟩
    have hc' : cc < cs.length := hc
    rw [ro _ _ (by omega), I2 r cc hr' hc' (Or.inl hr')]
    show CtC f _ (atS S (gl rs ((10 * r + cc) / 10)) (gl cs ((10 * r + cc) % 10)))
    rw [show (10 * r + cc) / 10 = r by omega, show (10 * r + cc) % 10 = cc by omega]
    have ct := adS_ct c (gl rs r) (gl cs cc)
    exact (ct.kp K0 ok z WNF).kp Kf K0.ok zs wnS
  · rw [tF, T, mT_wM]
    by_cases e : q = mZ σ
    · rw [if_pos e]; exact Or.inr (Or.inr rfl)
    · rw [if_neg e]
      by_cases e2 : mZ σ ≤ q ∧ q < mZ σ + (1 + rs.length)
      · rw [if_pos e2]; exact Or.inr (Or.inl rfl)
      · rw [if_neg e2]; exact Or.inl (ok q hq)
/-- a line more -/
def insL (l : List Int) (at' : Nat) (v : Int) : List Int := lst (l.length + 1) (fun j => if j < at' then gl l j else if j = at' then v else gl l (j - 1))
/-- a line less -/
def delL (l : List Int) (at' : Nat) : List Int := lst (l.length - 1) (fun j => if j < at' then gl l j else gl l (j + 1))
/-- a new row of marks -/
def NwL (σ r : gMem) (l : List Int) : Prop := LsC r (mZ σ) l ∧ Kz (fun _ => False) σ r ∧ mZ r = mZ σ + 1 ∧ mS r ≤ mS σ + 32 ∧ ∀ q, mZ σ ≤ q → mT r q = 0 ∨ mT r q = 100
theorem c_with (ok : gOk σ) (k : LsC σ A l) (ha : at' ≤ l.length) (h31 : l.length < 32) (hv : g32 v) : Ev (x1_with A at' v σ) (fun r => r.1 = mZ σ ∧ NwL σ r.2 (insL l at' v)) := by
  have tA : mT σ A ≠ 0 := by rw [k.1]; decide
  have lA : A < mZ σ := gOk_lt ok tA
  have k2 := k.2.1
  unfold x1_with
  rw [k2, show w32 ((l.length : Int) + 1) = ((l.length + 1 : Nat) : Int) by rw [w32_i (by omega) (by omega)]; omega, tn]
  refine Ev.g k.1 (Ev.g (by omega) (Ev.l ?_))
  have nA : mN (wN σ 100 (l.length + 1)) A = l.length := by rw [mN_wN, if_neg (by omega)]; exact k2
  have nZ : mN (wN σ 100 (l.length + 1)) (mZ σ) = l.length + 1 := by rw [mN_wN, if_pos rfl]
  rw [nA, nZ, tn]
  refine Ev.g (by omega) (Ev.l ?_)
  rw [show mN (wCI (wN σ 100 (l.length + 1)) A (0 : Int).toNat (mZ σ) (0 : Int).toNat at') (mZ σ) = l.length + 1 from nZ]
  refine Ev.g (by omega) (Ev.l ?_)
  rw [show mN (wI (wCI (wN σ 100 (l.length + 1)) A (0 : Int).toNat (mZ σ) (0 : Int).toNat at') (mZ σ) at' v) A = l.length from nA, show mN (wI (wCI (wN σ 100 (l.length + 1)) A (0 : Int).toNat (mZ σ) (0 : Int).toNat at') (mZ σ) at' v) (mZ σ) = l.length + 1 from nZ, inc32 (by omega), show w32 ((l.length : Int) - (at' : Int)) = ((l.length - at' : Nat) : Int) by rw [w32_i (by omega) (by omega)]; omega, tn, tn]
  refine Ev.g (by omega) (Ev.l (Ev.r ⟨rfl, ⟨?_, ?_, ?_, fun i hi => ?_⟩, ?_, rfl, ?_, fun q hq => ?_⟩))
  · show mT (wN σ 100 (l.length + 1)) (mZ σ) = 100
    rw [mT_wN, if_pos rfl]
  · show mN (wN σ 100 (l.length + 1)) (mZ σ) = _
    unfold insL
    rw [nZ, lst_len]
  · unfold insL; rw [lst_len]; omega
  · unfold insL at hi ⊢
    rw [lst_len] at hi
    rw [gl_lst hi, mI_wCI]
    have lt : ∀ j, mI (wI (wCI (wN σ 100 (l.length + 1)) A (0 : Int).toNat (mZ σ) (0 : Int).toNat at') (mZ σ) at' v) A j = mI σ A j := fun j => by
      rw [mIwI1 (by omega), mI_wCI, if_neg (by omega), mI_wN, if_neg (by omega)]
    by_cases c1 : i < at'
    · rw [if_neg (by omega), if_pos c1, mIwI1 (by omega), mI_wCI, if_pos ⟨rfl, by show (0 : Int).toNat ≤ i; exact Nat.zero_le _, by show i < (0 : Int).toNat + at'; have : (0 : Int).toNat = 0 := rfl; omega⟩, mI_wN, if_neg (by omega), show (0 : Int).toNat + (i - (0 : Int).toNat) = i from by have : (0 : Int).toNat = 0 := rfl; omega]
      exact k.2.2.2 i (by omega)
    · rw [if_neg c1]
      by_cases c2 : i = at'
      · rw [if_neg (by omega), if_pos c2, c2, mIwI2 ⟨rfl, rfl⟩, w32_id hv]
      · rw [if_pos ⟨rfl, by omega, by omega⟩, if_neg c2, lt, show at' + (i - (at' + 1)) = i - 1 by omega]
        exact k.2.2.2 (i - 1) (by omega)
  · exact (((Kz.rf ok).wN.wCI (Or.inl (Nat.le_refl _))).wI (Or.inl (Nat.le_refl _))).wCI (Or.inl (Nat.le_refl _))
  · show mS σ + (l.length + 1) ≤ _; omega
  · show mT (wN σ 100 (l.length + 1)) q = 0 ∨ mT (wN σ 100 (l.length + 1)) q = 100
    rw [mT_wN]
    by_cases e : q = mZ σ
    · rw [if_pos e]; exact Or.inr rfl
    · rw [if_neg e]; exact Or.inl (ok q hq)
theorem c_without (ok : gOk σ) (k : LsC σ A l) (ha : at' < l.length) : Ev (x1_without A at' σ) (fun r => r.1 = mZ σ ∧ NwL σ r.2 (delL l at')) := by
  have tA : mT σ A ≠ 0 := by rw [k.1]; decide
  have lA : A < mZ σ := gOk_lt ok tA
  have k2 := k.2.1
  have h32 := k.2.2.1
  unfold x1_without
  rw [k2, show w32 ((l.length : Int) - 1) = ((l.length - 1 : Nat) : Int) by rw [w32_i (by omega) (by omega)]; omega, tn]
  refine Ev.g k.1 (Ev.g (by omega) (Ev.l ?_))
  have nA : mN (wN σ 100 (l.length - 1)) A = l.length := by rw [mN_wN, if_neg (by omega)]; exact k2
  have nZ : mN (wN σ 100 (l.length - 1)) (mZ σ) = l.length - 1 := by rw [mN_wN, if_pos rfl]
  rw [nA, nZ, tn]
  refine Ev.g (by omega) (Ev.l ?_)
  rw [show mN (wCI (wN σ 100 (l.length - 1)) A (0 : Int).toNat (mZ σ) (0 : Int).toNat at') (mZ σ) = l.length - 1 from nZ, show mN (wCI (wN σ 100 (l.length - 1)) A (0 : Int).toNat (mZ σ) (0 : Int).toNat at') A = l.length from nA, inc32 (by omega), show w32 (((l.length - 1 : Nat) : Int) - (at' : Int)) = ((l.length - 1 - at' : Nat) : Int) by rw [w32_i (by omega) (by omega)]; omega, tn, tn]
  refine Ev.g (by omega) (Ev.l (Ev.r ⟨rfl, ⟨?_, ?_, ?_, fun i hi => ?_⟩, ?_, rfl, ?_, fun q hq => ?_⟩))
  · show mT (wN σ 100 (l.length - 1)) (mZ σ) = 100
    rw [mT_wN, if_pos rfl]
  · show mN (wN σ 100 (l.length - 1)) (mZ σ) = _
    unfold delL
    rw [nZ, lst_len]
  · unfold delL; rw [lst_len]; omega
  · unfold delL at hi ⊢
    rw [lst_len] at hi
    rw [gl_lst hi, mI_wCI]
    by_cases c1 : i < at'
    · rw [if_neg (by omega), if_pos c1, mI_wCI, if_pos ⟨rfl, by show (0 : Int).toNat ≤ i; exact Nat.zero_le _, by show i < (0 : Int).toNat + at'; have : (0 : Int).toNat = 0 := rfl; omega⟩, mI_wN, if_neg (by omega), show (0 : Int).toNat + (i - (0 : Int).toNat) = i from by have : (0 : Int).toNat = 0 := rfl; omega]
      exact k.2.2.2 i (by omega)
    · rw [if_neg c1, if_pos ⟨rfl, by omega, by omega⟩, mI_wCI, if_neg (by omega), mI_wN, if_neg (by omega), show at' + 1 + (i - at') = i + 1 by omega]
      exact k.2.2.2 (i + 1) (by omega)
  · exact ((Kz.rf ok).wN.wCI (Or.inl (Nat.le_refl _))).wCI (Or.inl (Nat.le_refl _))
  · show mS σ + (l.length - 1) ≤ _; omega
  · show mT (wN σ 100 (l.length - 1)) q = 0 ∨ mT (wN σ 100 (l.length - 1)) q = 100
    rw [mT_wN]
    by_cases e : q = mZ σ
    · rw [if_pos e]; exact Or.inr rfl
    · rw [if_neg e]; exact Or.inl (ok q hq)
end Lay1
