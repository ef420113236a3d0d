/-! ===== PHASE 2: the working sheet gets other lines, on both sides -/
section State29
variable {N x h u b nv nv' pa un fs i t s k n a A j : Nat} {σ σ' σ1 τ τ' τ'' r f : gMem} {P : Nat → Nat → Prop} {W : Nat → Prop} {own rt : Nat → Nat} {S S' : Sh} {Gs : Nat → Sh} {g : Nat → Nat → Vl} {v w p q : Int} {ax : Int} {mk : Nat → Int} {fl : Nat → Option Nat}
theorem ShP.nx {nr nc nr' nc' V : Int} (k : ShP nr nc V S) (h1 : nr ≤ nr') (h2 : nc ≤ nc') : ShP nr' nc' V S :=
  ⟨k.1, k.2.1, fun m hm => by have := k.2.2.1 m hm; omega, fun m hm => by have := k.2.2.2.1 m hm; omega, k.2.2.2.2⟩
/-- a mark is used up, on both sides -/
theorem Rl.nx (R : Rl x h t nv pa un fs Gs g own rt σ τ) (hk : k = 6 ∨ k = 7) (hv : v = mI τ h k + 1) (ht : t ≤ 1000) : Rl x h (t + 1) nv pa un fs Gs g own rt (wI σ x (k + 15) v) (wI τ h k v) := by
  have R0 := R
  obtain ⟨RC0, RT0, ⟨q1, q2, q3, q4, q5⟩, q6, q7, q8⟩ := R
  obtain ⟨r1, ⟨r2, r3, r4, r5, r6, r7, r8⟩, r9, r10, r11, r12⟩ := RT0
  have l := RC0.1
  have hh := RC0.2.1.1
  have X : Ex (fun a j => a = x ∧ j = k + 15) σ (wI σ x (k + 15) v) := Ex.rf.I ⟨rfl, rfl⟩
  have Y : Ex (fun a j => a = h ∧ j = k) τ (wI τ h k v) := Ex.rf.I ⟨rfl, rfl⟩
  obtain ⟨K, ly, wn⟩ := l.int X (fun a k p => Or.inl p.1)
  obtain ⟨V, hV⟩ := RC0.2.2.2.2.2.2
  have q3' := q3
  unfold Rnx at q3'
  have v32 : w32 v = v := w32_i (by rcases hk with e | e <;> subst e <;> omega) (by rcases hk with e | e <;> subst e <;> omega)
  have iX : ∀ j, j ≠ k + 15 → mI (wI σ x (k + 15) v) x j = mI σ x j := fun j hj => X.rI (by omega)
  have iX1 : mI (wI σ x (k + 15) v) x (k + 15) = v := by rw [mIwI2 ⟨rfl, rfl⟩, v32]
  have iY : ∀ j, j ≠ k → mI (wI τ h k v) h j = mI τ h j := fun j hj => Y.rI (by omega)
  have iY1 : mI (wI τ h k v) h k = v := by rw [mIwI2 ⟨rfl, rfl⟩, v32]
  have eo : ∀ o j, 1 ≤ o → mI (wI τ h k v) (h + o) j = mI τ (h + o) j := fun o j ho => Y.rI (by omega)
  have qt : ∀ a j, (a = h ∧ j = k) → Qt h a := fun a j p => Or.inl p.1
  have gw : Grw τ (wI τ h k v) h := ⟨by rw [iY 25 (by omega)]; exact Int.le_refl _, by rw [iY 19 (by omega)]; exact Int.le_refl _, by rw [iY 24 (by omega)]; exact Int.le_refl _⟩
  have fr : FrS x h (fun a => a = x ∨ a = x + 1) σ (wI σ x (k + 15) v) := ⟨K, l.ok, l.z, wn, fun a w o => by unfold OutS at o; omega, by omega, fun j hj => iX j (by omega), by rw [X.rR], by rw [X.rR]⟩
  have ge : mI τ h 6 ≤ mI (wI τ h k v) h 6 ∧ mI τ h 7 ≤ mI (wI τ h k v) h 7 := by
    rcases hk with e | e
    · subst e; rw [iY1, iY 7 (by omega)]; omega
    · subst e; rw [iY1, iY 6 (by omega)]; omega
  refine ⟨RC0.kp K wn (fun a w => by unfold OutS; omega) (by omega) ly (by rw [X.rR]) ⟨iX 5 (by omega), iX 13 (by omega), iX 14 (by omega)⟩ ⟨V, hV.kp K l.ok (fun i hi => by omega)⟩, ⟨(R0.2.1.base Y qt).1, ⟨by rw [iY 8 (by omega)]; exact r2, by rw [iY 16 (by omega)]; exact r3, by rw [iY 17 (by omega)]; exact r4, by rw [iY 15 (by omega)]; exact r5, r6, r7, r8⟩, fun s hs => ?_, ?_, fun i hi => ?_, (R0.2.1.base Y qt).2⟩, ⟨?_, ?_, ?_, ?_, q5.mv fr l.t5 RC0.vo Y (fun a j p => ⟨fun q => by unfold FtP at q; omega, (qt a j p).co⟩) gw⟩, fun i hi => ?_, q7.kp K l.ok (fun i hi => by omega) (iX 10 (by omega)), ⟨fun j hj z c hc => ?_, fun j h1 h2 => by rw [eo 32 j (by omega)]; exact q8.2.1 j h1 h2, fun z => ?_⟩⟩
  · rw [eo 1 s (by omega), eo 2 s (by omega)]; exact r9 s hs
  · rw [iY 25 (by omega), iY 19 (by omega), iY 24 (by omega)]; omega
  · have n := R0.2.1.len hi
    exact (r11 i hi).eh Y (fun a j p => ⟨p.1, by omega, by omega, by omega⟩) n.1 n.2
  · obtain ⟨n, a1, a2, a3, a4⟩ := q1
    exact ⟨n, a1, by rw [iX 1 (by omega)]; exact a2, by rw [iY 40 (by omega)]; exact a3, fun j hj => by rw [X.rI (by omega), eo 27 j (by omega)]; exact a4 j hj⟩
  · unfold Rfl at q2 ⊢; rw [iX 2 (by omega), iX 3 (by omega), iY 41 (by omega), iY 42 (by omega)]; exact q2
  · unfold Rnx
    rcases hk with e | e
    · subst e
      have e21 : mI (wI σ x (6 + 15) v) x 21 = v := iX1
      rw [e21, iX 22 (by omega), iY1, iY 7 (by omega)]; omega
    · subst e
      have e22 : mI (wI σ x (7 + 15) v) x 22 = v := iX1
      rw [e22, iX 21 (by omega), iY1, iY 6 (by omega)]; omega
  · unfold Rpt at q4 ⊢; rw [iX 17 (by omega), iY 25 (by omega)]; exact q4
  · exact (q6 i hi).nx ge.1 ge.2
  · rw [eo 32 j (by omega)] at z
    exact VG.ex Y (q8.1 j hj z c hc) (by omega) (by omega) (by omega) (fun m hm => by omega)
  · rw [iY 65 (by omega)] at z
    obtain ⟨V, v1, v2⟩ := q8.2.2 z
    exact ⟨V, v1, fun c hc => VG.ex Y (v2 c hc) (by omega) (by omega) (by omega) (fun m hm => by omega)⟩
theorem ShC.cgI (c : ShC σ a S) (e1 : S.1 = S'.1) (e2 : ∀ k, inB S'.1.1.length S'.1.2.length k → S.2 k = S'.2 k) : ShC σ a S' := by
  have c10 := c.1.2.2.2
  unfold ShC at c ⊢
  rw [e1] at c c10
  obtain ⟨c1, c2, c3, c4⟩ := c
  refine ⟨c1, c2, c3, fun r hr => ?_⟩
  obtain ⟨d1, d2, d3⟩ := c4 r hr
  refine ⟨d1, d2, fun cc hc => ?_⟩
  have := d3 cc hc
  (try dsimp only at this ⊢)
  rw [e2 (10 * r + cc) (by unfold inB; omega)] at this
  exact this
theorem nodup_lst {n : Nat} {mk : Nat → Int} (inj : ∀ i j, i < n → j < n → mk i = mk j → i = j) : (lst n mk).Nodup := by
  unfold lst
  refine List.pairwise_map.mpr (List.Pairwise.imp_of_mem (R := fun a b => a ≠ b) (fun {a b} ha hb ne e => ?_) List.nodup_range)
  exact ne (inj a b (List.mem_range.mp ha) (List.mem_range.mp hb) e)
/-- lines as they may be laid -/
def LnOk (S : Sh) (ax : Int) (n : Nat) (mk : Nat → Int) (fl : Nat → Option Nat) (nx : Int) : Prop := 0 < n ∧ n ≤ axM ax ∧ (∀ i j, i < n → j < n → mk i = mk j → i = j) ∧ (∀ j, j < n → 0 ≤ mk j ∧ mk j < nx) ∧ ∀ j, j < n → (∀ q, fl j = some q → q < (axL S ax).length ∧ mk j = gl (axL S ax) q) ∧ (fl j = none → mk j ∉ axL S ax)
theorem LnOk.shp {nr nc V : Int} (k : LnOk S ax n mk fl (if ax ≠ 0 then nc else nr)) (s : ShP nr nc V S) (n1 : S.1.1.length ≤ 32) (n2 : S.1.2.length ≤ 10) : ShP nr nc V (lnS S ax n mk fl) := by
  obtain ⟨k1, k2, k3, k4, k5⟩ := k
  obtain ⟨s1, s2, s3, s4, s5, s6, s7⟩ := s
  have nd := nodup_lst k3
  have mem : ∀ m ∈ lst n mk, ∃ j, j < n ∧ mk j = m := fun m hm => by
    obtain ⟨j, hj, e⟩ := mem_gl hm
    rw [lst_len] at hj
    rw [gl_lst hj] at e
    exact ⟨j, hj, e⟩
  have cts : ∀ q i, (∀ y, fl q = some y → y < (axL S ax).length) → i < crL S ax → ∀ p ∈ (lnC S ax (fl q) i).2, pW p < V := fun q i hq hi p hp => by
    cases e : fl q with
    | none => rw [e] at hp; cases hp
    | some y =>
      rw [e] at hp
      exact s7 (onl ax y i) (onl_in (hq y e) hi n2) p hp
  unfold lnS
  unfold axM at k2
  by_cases c : ax ≠ 0
  · rw [if_pos c] at k2 k4 ⊢
    refine ⟨s1, nd, s3, fun m hm => ?_, s5, by show 0 < (lst n mk).length; rw [lst_len]; exact k1, fun k hk p hp => ?_⟩
    · obtain ⟨j, hj, e⟩ := mem m hm
      rw [← e]; exact k4 j hj
    · have hk' : k / 10 < S.1.1.length ∧ k % 10 < n := by
        have : k / 10 < S.1.1.length ∧ k % 10 < (lst n mk).length := hk
        rw [lst_len] at this; exact this
      exact cts (k % 10) (k / 10) (fun y hy => ((k5 _ hk'.2).1 y hy).1) (by unfold crL; rw [if_pos c]; exact hk'.1) p hp
  · rw [if_neg c] at k2 k4 ⊢
    refine ⟨nd, s2, fun m hm => ?_, s4, by show 0 < (lst n mk).length; rw [lst_len]; exact k1, s6, fun k hk p hp => ?_⟩
    · obtain ⟨j, hj, e⟩ := mem m hm
      rw [← e]; exact k4 j hj
    · have hk' : k / 10 < n ∧ k % 10 < S.1.2.length := by
        have : k / 10 < (lst n mk).length ∧ k % 10 < S.1.2.length := hk
        rw [lst_len] at this; exact this
      exact cts (k / 10) (k % 10) (fun y hy => ((k5 _ hk'.1).1 y hy).1) (by unfold crL; rw [if_neg c]; exact hk'.2) p hp
/-- what is laid by marks is laid by lines -/
theorem lay_ln {nx : Int} (k : LnOk S ax n mk fl nx) (d1 : S.1.1.Nodup) (d2 : S.1.2.Nodup) (n2 : S.1.2.length ≤ 10) : (if ax ≠ 0 then layS S S.1.1 (lst n mk) else layS S (lst n mk) S.1.2).1 = (lnS S ax n mk fl).1 ∧ ∀ k, inB (lnS S ax n mk fl).1.1.length (lnS S ax n mk fl).1.2.length k → (if ax ≠ 0 then layS S S.1.1 (lst n mk) else layS S (lst n mk) S.1.2).2 k = (lnS S ax n mk fl).2 k := by
  obtain ⟨k1, k2, k3, k4, k5⟩ := k
  unfold lnS
  unfold axM at k2
  by_cases c : ax ≠ 0
  · rw [if_pos c] at k2
    rw [if_pos c, if_pos c]
    refine ⟨rfl, fun k hk => ?_⟩
    have hk' : k / 10 < S.1.1.length ∧ k % 10 < n := by
      have : k / 10 < S.1.1.length ∧ k % 10 < (lst n mk).length := hk
      rw [lst_len] at this; exact this
    show atS S (gl S.1.1 (k / 10)) (gl (lst n mk) (k % 10)) = lnC S ax (fl (k % 10)) (k / 10)
    rw [gl_lst hk'.2]
    have k5' := k5 _ hk'.2
    unfold axL at k5'
    rw [if_pos c] at k5'
    have p1 := pl_gl d1 hk'.1
    unfold atS
    cases e : fl (k % 10) with
    | none => rw [if_pos (Or.inr (pl_neg.mpr (k5'.2 e)))]; rfl
    | some q =>
      obtain ⟨q1, q2⟩ := k5'.1 q e
      have p2 := pl_gl d2 q1
      rw [q2, p1, p2, if_neg (by omega), tn, tn]
      show S.2 (10 * (k / 10) + q) = S.2 (onl ax q (k / 10))
      unfold onl
      rw [if_pos c]
  · rw [if_neg c] at k2
    rw [if_neg c, if_neg c]
    refine ⟨rfl, fun k hk => ?_⟩
    have hk' : k / 10 < n ∧ k % 10 < S.1.2.length := by
      have : k / 10 < (lst n mk).length ∧ k % 10 < S.1.2.length := hk
      rw [lst_len] at this; exact this
    show atS S (gl (lst n mk) (k / 10)) (gl S.1.2 (k % 10)) = lnC S ax (fl (k / 10)) (k % 10)
    rw [gl_lst hk'.1]
    have k5' := k5 _ hk'.1
    unfold axL at k5'
    rw [if_neg c] at k5'
    have p2 := pl_gl d2 hk'.2
    unfold atS
    cases e : fl (k / 10) with
    | none => rw [if_pos (Or.inl (pl_neg.mpr (k5'.2 e)))]; rfl
    | some q =>
      obtain ⟨q1, q2⟩ := k5'.1 q e
      have p1 := pl_gl d1 q1
      rw [q2, p1, p2, if_neg (by omega), tn, tn]
      show S.2 (10 * q + k % 10) = S.2 (onl ax q (k % 10))
      unfold onl
      rw [if_neg c]
/-- the class lays the lines; the twin has them laid -/
theorem both_lay (hN : 200 ≤ N) (R : Rl x h t nv pa un fs Gs g own rt σ τ) (i10 : mI σ x 10 = 0) (K1 : Kz (fun _ => False) σ σ1) (kA : LsC σ1 A (lst n mk)) (hA : mZ σ ≤ A) (t1 : ∀ q, mZ σ ≤ q → mT σ1 q = 0 ∨ mT σ1 q = 100) (ok : LnOk (Gs 0) ax n mk fl (if ax ≠ 0 then mI τ h 7 else mI τ h 6)) : Ev (x9_lay N (rt 0) ax A σ1) (fun f => Kz (NoT x h) σ f ∧ mI f x = mI σ x ∧ mZ f ≤ mZ σ1 + 33 ∧ mS f ≤ mS σ1 + 352 ∧ (∀ y, mT σ y = 100 → mN f y = mN σ y ∧ mT f y = 100) ∧ ∃ own', ∀ r P, Ex P τ r → (∀ a k, P a k → SlP h 40 a k ∨ (a = h ∧ k = 65)) → ShT r h nv 40 (lnS (Gs 0) ax n mk fl) → mI r h 65 = 0 → Rl x h t nv pa un fs (fun j => if j = 0 then lnS (Gs 0) ax n mk fl else Gs j) g own' rt f r) := by
  have l := R.1.1
  have hh := R.1.2.1
  have okσ := l.ok
  have v0 : rtV nv pa un 0 := Or.inl rfl
  obtain ⟨c0, o0, f0⟩ := R.1.2.2.2.1.1 0 v0
  have sP := R.p0
  have n1 := c0.1.2.1.2.2.1
  have n2 := c0.1.2.2.2
  have ok1 := K1.ok
  have c1 : ShC σ1 (rt 0) (Gs 0) := c0.kp K1 okσ l.z WNF (fun _ _ f => f)
  have z1 : 0 < mZ σ1 := by have := K1.1; have := l.z; omega
  have z01 : mT σ1 0 = 0 := by rw [(K1.2.2.1 0 l.z).1]; exact l.z0
  have ta : mT σ (rt 0) ≠ 0 := by rw [c0.1.1]; decide
  have la : rt 0 < mZ σ := gOk_lt okσ ta
  have lA : A < mZ σ1 := gOk_lt ok1 (by rw [kA.1]; decide)
  have e0 : mR σ1 (rt 0) 0 = mR σ (rt 0) 0 := K1.rR okσ ta (fun f => f) 0
  have e1 : mR σ1 (rt 0) 1 = mR σ (rt 0) 1 := K1.rR okσ ta (fun f => f) 1
  have oks := ok
  obtain ⟨k1, k2, k3, k4, k5⟩ := ok
  have nl : (lst n mk).length = n := lst_len n mk
  have LY := lay_ln oks sP.1 sP.2.1 n2
  -- either axis
  obtain ⟨R0, C0, rs, cs, eL, hR0, hC0, eS, hs1, hs2⟩ : ∃ R0 C0 rs cs, Ev (x9_lay N (rt 0) ax A σ1) (fun f => LyF σ1 f (rt 0) R0 C0 (Gs 0) rs cs) ∧ (R0 = A ∨ R0 = mR σ (rt 0) 0) ∧ (C0 = A ∨ C0 = mR σ (rt 0) 1) ∧ layS (Gs 0) rs cs = (if ax ≠ 0 then layS (Gs 0) (Gs 0).1.1 (lst n mk) else layS (Gs 0) (lst n mk) (Gs 0).1.2) ∧ rs.length ≤ 32 ∧ cs.length ≤ 10 := by
    unfold axM at k2
    by_cases c : ax ≠ 0
    · rw [if_pos c] at k2
      refine ⟨mR σ (rt 0) 0, A, (Gs 0).1.1, lst n mk, ?_, Or.inr rfl, Or.inl rfl, by rw [if_pos c], n1, by rw [nl]; exact k2⟩
      unfold x9_lay
      rw [e0]
      refine Ev.g c (Ev.g c1.1.1 (Ev.c (c_lay2 (by omega) ok1 z1 z01 c1 (by rw [← e0]; exact c1.1.2.1) kA (by rw [nl]; exact k2)) (fun f _ z => Ev.r z)))
    · rw [if_neg c] at k2
      refine ⟨A, mR σ (rt 0) 1, lst n mk, (Gs 0).1.2, ?_, Or.inl rfl, Or.inr rfl, by rw [if_neg c], by rw [nl]; exact k2, n2⟩
      unfold x9_lay
      rw [e1]
      refine Ev.f c (Ev.g c1.1.1 (Ev.c (c_lay2 (by omega) ok1 z1 z01 c1 kA (by rw [← e1]; exact c1.1.2.2.1) n2) (fun f _ z => Ev.r z)))
  refine eL.m (fun f F => ?_)
  obtain ⟨F1, F2, ⟨F3, F4, F5, F6⟩, F7, F8, F9⟩ := F
  have KF : Kz (fun b => b = rt 0) σ f := (K1.mono (fun _ f => f.elim)).tr F2
  have nf : ShC f (rt 0) (lnS (Gs 0) ax n mk fl) := F1.cgI (by rw [eS]; exact LY.1) (fun k hk => by rw [eS]; exact LY.2 k hk)
  have lnl : (lnS (Gs 0) ax n mk fl).1.1.length = rs.length := by
    rw [← LY.1, ← eS]; rfl
  have lx : x < mZ σ := gOk_lt okσ (by rw [l.1.1]; decide)
  have xa : ¬ x = rt 0 := fun e => by have := l.1.1; rw [e, c0.1.1] at this; cases this
  have aO : OutS x h (rt 0) := f0 _ (Or.inl rfl)
  have xR : mR f x = mR σ x := by funext j; exact (KF.2.2.2 x lx xa j).2.2
  have xI : mI f x = mI σ x := by funext j; exact (KF.2.2.2 x lx xa j).1
  refine ⟨KF.mono (fun b e => by rw [show b = rt 0 from e]; unfold OutS at aO; unfold NoT; omega), xI, by omega, by omega, fun y hy => ?_, fun b => if mZ σ1 ≤ b then rt 0 else own b, fun r P X hP tS h65 => ?_⟩
  · have ly : y < mZ σ := gOk_lt okσ (by rw [hy]; decide)
    have := KF.2.2.1 y ly
    exact ⟨this.2, by rw [this.1]; exact hy⟩
  · refine both_set R (fun b => if mZ σ1 ≤ b then rt 0 else own b) (fun b hb => if_neg (by have := K1.1; omega)) KF (fun b e => Or.inl e) ⟨xR, xI⟩ (fun q hq ht => ?_) nf ?_ (fun b hb => ?_) i10 X hP h65 tS (oks.shp sP n1 n2)
    · exfalso
      by_cases c : q < mZ σ1
      · rw [(F2.2.2.1 q c).1] at ht
        have := t1 q hq; omega
      · have := F9 q (by omega); omega
    · rw [lnl]
      have la1 : ¬ mZ σ1 ≤ rt 0 := by have := K1.1; omega
      refine ⟨(if_neg la1).trans o0.1, by rw [F5]; exact if_pos (Nat.le_refl _), fun r hr => by rw [F5, F6 r hr]; exact if_pos (show mZ σ1 ≤ mZ σ1 + 1 + r by omega), fun r r' hr hr' e => ?_⟩
      rw [F5, F6 r hr, F6 r' hr'] at e; omega
    · rw [lnl] at hb
      have big : ∀ y, mZ σ ≤ y → OutS x h y := fun y hy => by unfold OutS; omega
      rcases hb with e | e | e | e | ⟨r, hr, e⟩
      · rw [e]; exact aO
      · rw [e, F3]
        rcases hR0 with e' | e'
        · rw [e']; exact big _ hA
        · rw [e']; exact f0 _ (Or.inr (Or.inl rfl))
      · rw [e, F4]
        rcases hC0 with e' | e'
        · rw [e']; exact big _ hA
        · rw [e']; exact f0 _ (Or.inr (Or.inr (Or.inl rfl)))
      · rw [e, F5]; exact big _ K1.1
      · rw [e, F5, F6 r hr]; exact big _ (by have := K1.1; omega)
end State29
