/-! ===== PHASE 2: the twin's values: words, decimals, comparing, reckoning ===== -/
section TwVal3
variable {N h d : Nat} {σ σ' s : gMem} {v w : Vl}
theorem bByte_i {x : Int} (h1 : -128 ≤ x) (h2 : x ≤ 127) : bByte x = x := by
  unfold bByte
  have a : (Int32.ofInt x).toInt = x := g32_of ⟨by omega, by omega⟩
  rw [Int8.toInt_toInt32, Int32.toInt_toInt8, a]
  exact Int.bmod_eq_of_le (by omega) (by omega)
/-- a text constant at a -/
def Tx (σ : gMem) (h a : Nat) (t : List Int) : Prop := mT σ a = 90 ∧ mN σ a = t.length ∧ (∀ j, j < t.length → mI σ a j = gl t j) ∧ a < h
theorem t_word_l {a : Nat} {t : List Int} {K : gMem → Option gMem} (hd : d < 200) (h24 : t.length ≤ 24) (hr : ∀ c ∈ t, 32 ≤ c ∧ c ≤ 126) : ∀ (m i f : Nat) (s : gMem), i + m = t.length → m < f → Tx s h a t → tw_word_l19 N h d a K f i s = K (wCI s a i (h + 36) (24 * d + i) m) := by
  intro m
  induction m with
  | zero =>
    intro i f s h1 h2 hx
    obtain ⟨f, rfl⟩ : ∃ g, f = g + 1 := ⟨f - 1, by omega⟩
    unfold tw_word_l19
    rw [if_pos hx.1, hx.2.1, w32_i (by omega) (by omega), if_pos (by omega), wCI_zero]
  | succ m ih =>
    intro i f s h1 h2 hx
    obtain ⟨f, rfl⟩ : ∃ g, f = g + 1 := ⟨f - 1, by omega⟩
    unfold tw_word_l19
    have e2 : (24 * (d : Int) + (i : Int)).toNat = 24 * d + i := by omega
    have hc := hr _ (gl_mem (l := t) (i := i) (by omega))
    have e3 : mI s a i = gl t i := hx.2.2.1 i (by omega)
    rw [if_pos hx.1, hx.2.1, w32_i (by omega) (by omega), if_neg (by omega), if_pos (by omega), if_pos (by omega), tn, e2, inc32 (by omega), bByte_i (by omega) (by omega)]
    unfold gLet
    dsimp only
    have ha := hx.2.2.2
    rw [ih (i + 1) f (wI s (h + 36) (24 * d + i) (mI s a i)) (by omega) (by omega) ⟨hx.1, hx.2.1, fun j hj => by rw [mI_wI, if_neg (by omega)]; exact hx.2.2.1 j hj, ha⟩]
    congr 1
    exact wCI_front (by omega)
theorem t_word {a : Nat} {t : List Int} (hd : d < 200) (hN : 30 ≤ N) (h24 : t.length ≤ 24) (hr : ∀ c ∈ t, 32 ≤ c ∧ c ≤ 126) (hx : Tx σ h a t) : Ev (tw_word N h d a σ) (fun r => HS h d σ r (vTx t)) := by
  unfold tw_word
  have ha := hx.2.2.2
  refine Ev.g (dG hd) (Ev.l (Ev.g hx.1 (Ev.g (dG hd) (Ev.l ?_))))
  rw [tn, show mN (wI σ (h + 33) d 2) a = t.length from hx.2.1, w32_i (by omega) (by omega)]
  have X : Ex (Hp h d) σ (wI (wI σ (h + 33) d 2) (h + 35) d (t.length : Int)) := (Ex.rf.I Hp.k).I Hp.l
  have x2 : Tx (wI (wI σ (h + 33) d 2) (h + 35) d (t.length : Int)) h a t := ⟨hx.1, hx.2.1, fun j hj => by rw [X.rI (by unfold Hp; omega)]; exact hx.2.2.1 j hj, ha⟩
  have e := t_word_l (N := N) (K := fun s15 => some s15) hd h24 hr t.length 0 N _ (by omega) (by omega) x2
  rw [show ((0 : Nat) : Int) = 0 from rfl] at e
  rw [e]
  refine Ev.r ⟨X.CI (fun j h1 h2 => Hp.t (by omega) (by omega)), fun tb => ?_, ?_⟩
  · refine ((tb.I (fun e => by omega)).I (fun e => by omega)).CI (fun i hi => ?_)
    rw [x2.2.2.1 (0 + i) (by omega)]
    have := hr _ (gl_mem (l := t) (i := 0 + i) (by omega))
    omega
  · refine VG.tx h24 hr ?_ ?_ (fun i hi => ?_)
    · rw [mI_wCI, if_neg (by omega), mI_wI, if_neg (by omega), mI_wI, if_pos ⟨rfl, rfl⟩]; exact w32_id (by decide)
    · rw [mI_wCI, if_neg (by omega), mI_wI, if_pos ⟨rfl, rfl⟩, w32_i (by omega) (by omega)]
    · rw [mI_wCI, if_pos ⟨rfl, by omega, by omega⟩, x2.2.2.1 _ (by omega)]
      congr 1; omega
/-- the row of digits alone -/
def Dp (h a : Nat) (_ : Nat) : Prop := a = h + 37
theorem t_decimal_l {x : Int} {K : Int → gMem → Option (Int × gMem)} {Φ : Int × gMem → Prop} : ∀ (f n : Nat) (left : Nat) (s : gMem), n + f = 20 → left < 10 ^ (17 - n) → (left ≠ 0 ∨ n = 0) → n ≤ 16 → TB s h →
    (∀ s', Ex (Dp h) s s' → TB s' h → (∀ i, i < (dg f left).length → mI s' (h + 37) (20 - n - (dg f left).length + i) = gl (dg f left) i) → (∀ i, 20 - n ≤ i → mI s' (h + 37) i = mI s (h + 37) i) → n + (dg f left).length ≤ 17 → Ev (K ((n + (dg f left).length : Nat) : Int) s') Φ) →
    ∀ g, 20 - n < g → Ev (tw_decimal_l16 N h x K g left n s) Φ := by
  intro f
  induction f with
  | zero => intro n left s h1 h2 h3 h4; omega
  | succ f ih =>
    intro n left s h1 h2 h3 h4 tb hK g hg
    obtain ⟨g, rfl⟩ : ∃ j, g = j + 1 := ⟨g - 1, by omega⟩
    have hb : (48 : Int) + Int.tmod (left : Int) 10 = ((48 + left % 10 : Nat) : Int) := by rw [Int.tmod_eq_emod_of_nonneg (by omega)]; omega
    have B : Ev (tw_decimal_l16_j27 N h x left n (tw_decimal_l16 N h x K g) K s) Φ := by
      unfold tw_decimal_l16_j27
      have e1 : (20 - w32 ((n : Int) + 1)).toNat = 20 - n - 1 := by rw [w32_i (by omega) (by omega)]; omega
      have e2 : w64 (Int.tdiv (left : Int) 10) = ((left / 10 : Nat) : Int) := by
        rw [Int.tdiv_eq_ediv_of_nonneg (by omega)]
        have : left < 10 ^ 17 := Nat.lt_of_lt_of_le h2 (Nat.pow_le_pow_right (by decide) (by omega))
        rw [w64_i (by omega) (by omega)]; omega
      refine Ev.g (by rw [w32_i (by omega) (by omega)]; omega) (Ev.l ?_)
      rw [e1, hb, bByte_i (by omega) (by omega), e2, inc32 (by omega)]
      have X : Ex (Dp h) s (wI s (h + 37) (20 - n - 1) ((48 + left % 10 : Nat) : Int)) := Ex.rf.I rfl
      have T : TB (wI s (h + 37) (20 - n - 1) ((48 + left % 10 : Nat) : Int)) h := tb.I (fun _ => by omega)
      by_cases h10 : left < 10
      · -- the last digit
        obtain ⟨g, rfl⟩ : ∃ j, g = j + 1 := ⟨g - 1, by omega⟩
        have hd : dg (f + 1) left = [48 + (left : Int)] := by unfold dg; rw [if_pos h10]
        have ez : left / 10 = 0 := Nat.div_eq_of_lt h10
        unfold tw_decimal_l16
        rw [ez]
        refine Ev.f (fun q => by have := gcmp_pos.mp q; omega) (Ev.g (by omega) ?_)
        have k := hK _ X T (fun i hi => by
          rw [hd] at hi ⊢
          have : i = 0 := by simp at hi; exact hi
          subst this
          rw [mI_wI, if_pos ⟨rfl, by simp⟩, w32_i (by omega) (by omega)]
          show _ = 48 + (left : Int)
          omega) (fun i hi => by rw [mI_wI, if_neg (by omega)]) (by rw [hd]; simp; omega)
        rw [hd] at k
        exact k
      · have hn : n ≤ 15 := by
          by_cases q : n ≤ 15
          · exact q
          · have : n = 16 := by omega
            rw [this] at h2
            exact absurd h2 (by omega)
        have hd : dg (f + 1) left = dg f (left / 10) ++ [48 + ((left % 10 : Nat) : Int)] := by
          conv => lhs; unfold dg
          rw [if_neg h10]
        have hlt : left / 10 < 10 ^ (17 - (n + 1)) := by
          rw [Nat.div_lt_iff_lt_mul (by decide)]
          have : 10 ^ (17 - n) = 10 ^ (17 - (n + 1)) * 10 := by rw [← Nat.pow_succ]; congr 1; omega
          omega
        refine ih (n + 1) (left / 10) _ (by omega) hlt (Or.inl (by omega)) (by omega) T (fun s' X' T' p1 p2 p3 => ?_) g (by omega)
        have k := hK s' (X.tr X') T' (fun i hi => by
          rw [hd] at hi ⊢
          rw [List.length_append, List.length_singleton] at hi ⊢
          by_cases hl : i < (dg f (left / 10)).length
          · have := p1 i hl
            rw [show 20 - n - ((dg f (left / 10)).length + 1) + i = 20 - (n + 1) - (dg f (left / 10)).length + i by omega, this]
            unfold gl
            rw [List.getElem?_append_left hl]
          · have hi' : i = (dg f (left / 10)).length := by omega
            rw [hi', show 20 - n - ((dg f (left / 10)).length + 1) + (dg f (left / 10)).length = 20 - n - 1 by omega, p2 _ (by omega), mI_wI, if_pos ⟨rfl, rfl⟩, w32_i (by omega) (by omega)]
            unfold gl
            rw [List.getElem?_append_right (Nat.le_refl _), Nat.sub_self]
            show _ = 48 + ((left % 10 : Nat) : Int)
            omega) (fun i hi => by rw [p2 i (by omega), mI_wI, if_neg (by omega)]) (by rw [hd, List.length_append, List.length_singleton]; omega)
        rw [hd, List.length_append, List.length_singleton] at k
        rw [show ((n + 1 + (dg f (left / 10)).length : Nat) : Int) = ((n + ((dg f (left / 10)).length + 1) : Nat) : Int) by omega]
        exact k
    unfold tw_decimal_l16
    by_cases hz : left = 0
    · refine Ev.f (fun q => by have := gcmp_pos.mp q; omega) (Ev.f (fun q => q ?_) B)
      rcases h3 with h3 | h3
      · exact absurd hz h3
      · omega
    · exact Ev.g (gcmp_pos.mpr (by omega)) B
theorem t_decimal {x : Int} (hN : 30 ≤ N) (h1 : -1000000000000000 ≤ x) (h2 : x ≤ 1000000000000000) (tb : TB σ h) : Ev (tw_decimal N h x σ) (fun r => r.1 = ((decs x).length : Int) ∧ Ex (Dp h) σ r.2 ∧ TB r.2 h ∧ ∀ i, i < (decs x).length → mI r.2 (h + 37) (20 - (decs x).length + i) = gl (decs x) i) := by
  have hl := decs_len h1 h2
  unfold tw_decimal
  by_cases hn : 0 ≤ x
  · refine Ev.g (gcmp_nn.mpr hn) ?_
    unfold tw_decimal_j12
    obtain ⟨m, rfl⟩ : ∃ m : Nat, x = (m : Int) := ⟨x.toNat, by omega⟩
    have hd : decs (m : Int) = dg 20 m := by unfold decs; rw [if_neg (by omega), tn]
    refine t_decimal_l 20 0 m σ rfl (by omega) (Or.inr rfl) (by omega) tb (fun s' X T p1 _ p3 => ?_) N (by omega)
    refine Ev.g (gcmp_nn.mpr hn) (Ev.r ⟨?_, X, T, fun i hi => ?_⟩)
    · rw [hd]; simp
    · rw [hd] at hi ⊢; exact p1 i hi
  · refine Ev.f (fun q => hn (gcmp_nn.mp q)) ?_
    unfold tw_decimal_j12
    obtain ⟨m, hm⟩ : ∃ m : Nat, -x = (m : Int) := ⟨(-x).toNat, by omega⟩
    have hd : decs x = 45 :: dg 20 m := by unfold decs; rw [if_pos (by omega), hm, tn]
    rw [hm, w64_i (by omega) (by omega)]
    refine t_decimal_l 20 0 m σ rfl (by omega) (Or.inr rfl) (by omega) tb (fun s' X T p1 _ p3 => ?_) N (by omega)
    rw [hd, List.length_cons] at hl
    have e1 : w32 (((0 + (dg 20 m).length : Nat) : Int) + 1) = (((dg 20 m).length + 1 : Nat) : Int) := by rw [w32_i (by omega) (by omega)]; omega
    refine Ev.f (fun q => hn (gcmp_nn.mp q)) ?_
    rw [e1]
    refine Ev.g (by omega) (Ev.l (Ev.r ⟨by rw [hd, List.length_cons], X.I rfl, T.I (fun _ => by omega), fun i hi => ?_⟩))
    rw [hd, List.length_cons] at hi ⊢
    by_cases h0 : i = 0
    · subst h0
      rw [mI_wI, if_pos ⟨rfl, by omega⟩]
      exact w32_id (by decide)
    · obtain ⟨j, rfl⟩ : ∃ j, i = j + 1 := ⟨i - 1, by omega⟩
      rw [mI_wI, if_neg (by omega)]
      have := p1 j (by omega)
      rw [show 20 - ((dg 20 m).length + 1) + (j + 1) = 20 - 0 - (dg 20 m).length + j by omega, this]
      rfl
theorem Dp.hp {σ' : gMem} (x : Ex (Dp h) σ σ') : Ex (Hp h d) σ σ' := x.mono (fun a k e => Or.inr (Or.inr (Or.inr (Or.inr e))))
/-- the words that values are told by -/
def Cw (σ : gMem) (h : Nat) : Prop := Tx σ h (mR σ 0 101) tTRUE ∧ Tx σ h (mR σ 0 102) tFALSE ∧ Tx σ h (mR σ 0 121) []
theorem Tx.ex {P : Nat → Nat → Prop} {a : Nat} {t : List Int} (x : Ex P σ σ') (hP : ∀ b k, P b k → h ≤ b) (g : Tx σ h a t) : Tx σ' h a t :=
  ⟨by rw [x.rT]; exact g.1, by rw [x.rN]; exact g.2.1, fun j hj => by rw [x.rI (fun q => by have := hP _ _ q; have := g.2.2.2; omega)]; exact g.2.2.1 j hj, g.2.2.2⟩
theorem Cw.ex {P : Nat → Nat → Prop} (x : Ex P σ σ') (hP : ∀ b k, P b k → h ≤ b) (g : Cw σ h) : Cw σ' h := by
  unfold Cw
  rw [x.rR]
  exact ⟨g.1.ex x hP, g.2.1.ex x hP, g.2.2.ex x hP⟩
theorem Hp.le {a k : Nat} (q : Hp h d a k) : h ≤ a := by unfold Hp at q; omega
/-- the twin's arrays of bytes -/
def TA (σ : gMem) (h : Nat) : Prop := mT σ (h + 31) = 102 ∧ mN σ (h + 31) = 314880 ∧ mT σ (h + 9) = 102 ∧ mN σ (h + 9) = 82400 ∧ mT σ (h + 37) = 102 ∧ mN σ (h + 37) = 20
theorem TA.ex {P : Nat → Nat → Prop} (x : Ex P σ σ') (g : TA σ h) : TA σ' h := by unfold TA; rw [x.rT, x.rN]; exact g
theorem t_wantsText (hd : d < 200) (hN : 30 ≤ N) (tb : TB σ h) (ta : TA σ h) (cw : Cw σ h) (g : VH σ h d v) (h4 : v.1 ≠ 4) : Ev (tw_wantsText N h d σ) (fun r => HS h d σ r (wantT v)) := by
  unfold tw_wantsText
  refine Ev.g (dG hd) ?_
  rw [tn, g.2.1]
  have hk := g.1.k
  by_cases h0 : v.1 = 0
  · refine Ev.f (fun q => q h0) (Ev.c (t_word hd hN (by decide) (by decide) cw.2.2) (fun r _ q => Ev.r ?_))
    rw [show wantT v = vTx [] by unfold wantT; rw [if_neg (by omega), if_neg (by omega), if_neg (by omega)]]
    exact q
  · refine Ev.g h0 (Ev.g (dG hd) ?_)
    by_cases h3 : v.1 = 3
    · refine Ev.f (fun q => q h3) (Ev.g (dG hd) ?_)
      rw [g.2.2.1 h0 (by omega)]
      have e : wantT v = vTx (if v.2.1 = 1 then tTRUE else tFALSE) := by unfold wantT; rw [if_neg (by omega), if_pos h3]
      rw [e]
      by_cases h1 : v.2.1 = 1
      · refine Ev.f (fun q => q (gcmp_eq.mpr h1)) (Ev.c (t_word hd hN (by decide) (by decide) cw.1) (fun r _ q => Ev.r ?_))
        rw [if_pos h1]; exact q
      · refine Ev.g (fun q => h1 (gcmp_eq.mp q)) (Ev.c (t_word hd hN (by decide) (by decide) cw.2.1) (fun r _ q => Ev.r ?_))
        rw [if_neg h1]; exact q
    · refine Ev.g h3 (Ev.g (dG hd) ?_)
      by_cases h1 : v.1 = 1
      · refine Ev.f (fun q => q h1) (Ev.g (dG hd) ?_)
        obtain ⟨-, b1, b2⟩ := g.1.k1 h1
        have hl := decs_len b1 b2
        rw [g.2.2.1 h0 (by omega), show wantT v = vTx (decs v.2.1) by unfold wantT; rw [if_neg (by omega), if_neg h3, if_pos h1]]
        refine Ev.c (t_decimal hN b1 b2 tb) (fun r _ q => ?_)
        obtain ⟨q1, q2, q3, q4⟩ := q
        rw [q1, show w32 (20 - ((decs v.2.1).length : Int)) = ((20 - (decs v.2.1).length : Nat) : Int) by rw [w32_i (by omega) (by omega)]; omega]
        have ta' := ta.ex q2
        refine Ev.c (t_text hd hN rfl (by omega) (decs_rng _) (by omega) (by omega) (by omega) ta'.2.2.2.2.1 (by rw [ta'.2.2.2.2.2]; omega) q3.2.2.2 q4) (fun r' _ q' => Ev.r (HS.tr (Dp.hp q2) (fun _ => q3) q'))
      · refine Ev.g h1 (Ev.r ?_)
        rw [show wantT v = v by unfold wantT; rw [if_pos (by omega)]]
        exact HS.rf g
/-- the twin's way: two that are nothing stay so -/
def asO (a b : Vl) : Vl := if a.1 = 0 ∧ b.1 = 0 then a else adapt a b
theorem t_asOther {e : Nat} {a b : Vl} (hd : d < 200) (he : e < 200) (hN : 30 ≤ N) (cw : Cw σ h) (ga : VH σ h d a) (gb : VH σ h e b) (h4 : b.1 ≠ 4) : Ev (tw_asOther N h d e σ) (fun r => HS h d σ r (asO a b)) := by
  have hk := gb.1.k
  unfold tw_asOther
  refine Ev.g (dG hd) ?_
  rw [tn, ga.2.1]
  have Z : a.1 ≠ 0 → asO a b = a := fun q => by unfold asO adapt; rw [if_neg (by omega), if_pos q]
  have J58 : (a.1 ≠ 0 ∨ b.1 = 0 ∨ b.1 = 3) → Ev (tw_asOther_j58 N h d e σ) (fun r => HS h d σ r (asO a b)) := by
    intro hh
    unfold tw_asOther_j58
    refine Ev.g (dG hd) ?_
    rw [tn, ga.2.1]
    by_cases h0 : a.1 = 0
    · refine Ev.f (fun q => q h0) (Ev.g (dG he) ?_)
      rw [tn, gb.2.1]
      by_cases h3 : b.1 = 3
      · refine Ev.f (fun q => q h3) (Ev.c (t_truth hd) (fun r _ q => Ev.r ?_))
        rw [show asO a b = vIs false by unfold asO adapt; rw [if_neg (by omega), if_neg (by omega), if_neg (by omega), if_pos h3]]
        exact q
      · refine Ev.g h3 (Ev.r ?_)
        rw [show asO a b = a by unfold asO; rw [if_pos (by omega)]]
        exact HS.rf ga
    · refine Ev.g h0 (Ev.r ?_)
      rw [Z h0]; exact HS.rf ga
  have J28 : (a.1 ≠ 0 ∨ b.1 ≠ 1) → Ev (tw_asOther_j28 N h d e σ) (fun r => HS h d σ r (asO a b)) := by
    intro hh
    unfold tw_asOther_j28
    refine Ev.g (dG hd) ?_
    rw [tn, ga.2.1]
    by_cases h0 : a.1 = 0
    · refine Ev.f (fun q => q h0) (Ev.g (dG he) ?_)
      rw [tn, gb.2.1]
      by_cases h2 : b.1 = 2
      · refine Ev.f (fun q => q h2) (Ev.c (t_word hd hN (by decide) (by decide) cw.2.2) (fun r _ q => Ev.r ?_))
        rw [show asO a b = vTx [] by unfold asO adapt; rw [if_neg (by omega), if_neg (by omega), if_pos h2]]
        exact q
      · exact Ev.g h2 (J58 (by omega))
    · exact Ev.g h0 (J58 (Or.inl h0))
  by_cases h0 : a.1 = 0
  · refine Ev.f (fun q => q h0) (Ev.g (dG he) ?_)
    rw [tn, gb.2.1]
    by_cases h1 : b.1 = 1
    · refine Ev.f (fun q => q h1) (Ev.c (t_number hd (by decide)) (fun r _ q => Ev.r ?_))
      rw [show asO a b = vBe 0 by unfold asO adapt; rw [if_neg (by omega), if_neg (by omega), if_neg (by omega), if_neg (by omega)]]
      exact q
    · exact Ev.g h1 (J28 (Or.inr h1))
  · exact Ev.g h0 (J28 (Or.inl h0))
end TwVal3
