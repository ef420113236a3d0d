/-! ===== PHASE 2: copying: a formula of the class elsewhere, whole ===== -/
section State63
variable {N nv k q a n : Nat} {σ σ' s : gMem} {W : Nat → Prop} {f : Int → List Int × List Int} {dr dc : Int} {l : Fm} {p : Pt} {A : Nat → Prop}
theorem IsA.ne : ∀ (n q : Nat) (l : Fm), IsA A σ n q l → l ≠ [] := by
  intro n q l k
  cases n with
  | zero => exact k.elim
  | succ n =>
    obtain ⟨p, ls, rfl, -⟩ := k
    simp
theorem IsA.tag : ∀ (n q : Nat) (l : Fm), IsA A σ n q l → gAsg 8 (mT σ q) = true ∧ mT σ q ≠ 0 := by
  intro n q l k
  cases n with
  | zero => exact k.elim
  | succ n =>
    obtain ⟨p, ls, -, -, lc, -⟩ := k
    exact ⟨lc.gas, by have := lc.tag; omega⟩
/-- a sign or a call: its part is as it was -/
theorem sh_op (po : PtOk p) (h : 7 ≤ pK p) : shP f dr dc p = p := shP_same (by omega) (by omega)
theorem lsN {n : Nat} {ls : List Fm} (ch : ∀ i (hi : i < ls.length), IsA A σ n (chd σ q i) ls[i]) : ∀ l ∈ ls, l ≠ [] := by
  intro l hl
  obtain ⟨i, hi, rfl⟩ := List.getElem_of_mem hl
  exact IsA.ne _ _ _ (ch i hi)
/-- the loop over the parts of a call -/
theorem sh_call {W : Nat → Nat → gMem → Option (Nat × gMem)} {K : gMem → Option (Nat × gMem)} {Φ : Nat × gMem → Prop} {ls : List Fm} {A' : Nat → Prop} (g : gOk σ) (z0 : 0 < mZ σ) (m : MvC σ k nv f dr dc) (t : mT σ q = 18) (t1 : mT σ (mR σ q 1) = 108) (ln : mN σ (mR σ q 1) = ls.length) (l8 : ls.length ≤ 8) (ha : A' (mZ σ)) (hA : ∀ b, A' b → b < mZ σ + 1) (ch : ∀ i (hi : i < ls.length), IsA A' σ n (mR σ (mR σ q 1) i) ls[i])
    (hW : ∀ i (hi : i < ls.length) (s : gMem), gOk s → 0 < mZ s → (∀ b, A' b → b < mZ s) → MvC s k nv f dr dc → IsA A' s n (mR σ (mR σ q 1) i) ls[i] → Ev (W (mR σ (mR σ q 1) i) k s) (ShO A' s f dr dc n ls[i]))
    (hK : ∀ s, Kz (fun _ => False) σ s → mT s (mZ σ) = 108 → mN s (mZ σ) = ls.length → (∀ j (hj : j < ls.length), IsA A' s n (mR s (mZ σ) j) (ls[j].map (shP f dr dc))) → mZ s ≤ mZ σ + 1 + 3 * ls.flatten.length → mS s ≤ mS σ + ls.length + 11 * ls.flatten.length → (∀ b, mZ σ ≤ b → mT s b = 18 → mZ σ ≤ mR s b 1) → mZ σ < mZ s → Ev (K s) Φ) :
    ∀ (c i fu : Nat) (s : gMem), i + c = ls.length → c < fu → Kz (fun _ => False) σ s → mT s (mZ σ) = 108 → mN s (mZ σ) = ls.length → (∀ j (hj : j < ls.length), j < i → IsA A' s n (mR s (mZ σ) j) (ls[j].map (shP f dr dc))) → mZ s ≤ mZ σ + 1 + 3 * (ls.take i).flatten.length → mS s ≤ mS σ + ls.length + 11 * (ls.take i).flatten.length → (∀ b, mZ σ ≤ b → mT s b = 18 → mZ σ ≤ mR s b 1) → Ev (x20_shifted_l11 N W q k (mZ σ) K fu i s) Φ := by
  intro c
  induction c with
  | zero =>
    intro i fu s h1 h2 KS ts ns hd hz hs h18
    obtain ⟨fu, rfl⟩ : ∃ j, fu = j + 1 := ⟨fu - 1, by omega⟩
    have lt : mZ σ < mZ s := gOk_lt KS.ok (by omega)
    unfold x20_shifted_l11
    rw [KS.rR g (by omega) (fun f => f), KS.len g (by omega), ln]
    rw [List.take_of_length_le (by omega)] at hz hs
    exact Ev.g (by rw [KS.tag g (by omega)]; exact t) (Ev.g (by rw [KS.tag g (by omega)]; exact t1) (Ev.g (by rw [w32_i (by omega) (by omega)]; omega) (hK s KS ts ns (fun j hj => hd j hj (by omega)) hz hs h18 lt)))
  | succ c ih =>
    intro i fu s h1 h2 KS ts ns hd hz hs h18
    obtain ⟨fu, rfl⟩ : ∃ j, fu = j + 1 := ⟨fu - 1, by omega⟩
    have lt : mZ σ < mZ s := gOk_lt KS.ok (by omega)
    have zs : 0 < mZ s := by omega
    have hi : i < ls.length := by omega
    have r1 : mR s q 1 = mR σ q 1 := KS.rR g (by omega) (fun f => f) 1
    have ri : mR s (mR σ q 1) i = mR σ (mR σ q 1) i := KS.rR g (by omega) (fun f => f) i
    unfold x20_shifted_l11
    rw [r1, KS.len g (by omega), ln]
    refine Ev.g (by rw [KS.tag g (by omega)]; exact t) (Ev.g (by rw [KS.tag g (by omega)]; exact t1) (Ev.f (by rw [w32_i (by omega) (by omega)]; omega) (Ev.g (by omega) ?_)))
    rw [tn, ri]
    refine Ev.c (hW i hi s KS.ok zs (fun b hb => by have := hA b hb; omega) (m.kp KS g) (IsA.kp KS g z0 _ _ _ (ch i hi))) (fun x9 _ o => ?_)
    obtain ⟨o1, o2, o3, o4, o5⟩ := o
    have t9 : mT x9.2 (mZ σ) = 108 := by rw [o1.tag KS.ok (by omega)]; exact ts
    have n9 : mN x9.2 (mZ σ) = ls.length := by rw [o1.len KS.ok (by omega)]; exact ns
    refine Ev.g t9 (Ev.g (Or.inr o2.tag.1) (Ev.g (by omega) (Ev.l ?_)))
    rw [inc32 (by omega)]
    have a0 : mZ σ ≠ 0 := by omega
    have tk : (ls.take (i + 1)).flatten.length = (ls.take i).flatten.length + ls[i].length := by
      rw [List.take_succ_eq_append_getElem hi, List.flatten_append, List.length_append]; simp
    refine ih (i + 1) fu (wR x9.2 (mZ σ) i x9.1) (by omega) (by omega) ((KS.tr o1).wR (Or.inl (Nat.le_refl _))) t9 n9 (fun j hj hji => ?_) ?_ ?_ (fun b hb ht => ?_)
    · rw [mR_wR]
      by_cases e : j = i
      · subst e
        rw [if_pos ⟨rfl, rfl⟩]
        exact IsA.wrR ha a0 _ _ _ o2
      · rw [if_neg (fun z => e z.2), o1.rR KS.ok (by omega) (fun f => f)]
        exact IsA.wrR ha a0 _ _ _ (IsA.kp o1 KS.ok zs _ _ _ (hd j hj (by omega)))
    · show mZ x9.2 ≤ _; omega
    · show mS x9.2 ≤ _; omega
    · have ht : mT x9.2 b = 18 := ht
      rw [mR_wR]
      have nb : b ≠ mZ σ := fun e => by rw [e, t9] at ht; cases ht
      rw [if_neg (fun z => nb z.1)]
      by_cases y : b < mZ s
      · rw [(o1.2.2.1 b y).1] at ht
        rw [(o1.2.2.2 b y (fun f => f) 1).2.2]
        exact h18 b hb ht
      · have := o5 b (by omega) ht; omega
theorem c_shifted (hN : 100 ≤ N) (fn : FN nv f) : ∀ (n m q : Nat) (l : Fm) (σ : gMem) (A : Nat → Prop), n ≤ m → gOk σ → 0 < mZ σ → (∀ b, A b → b < mZ σ) → MvC σ k nv f dr dc → (∀ p ∈ l, pW p < nv) → IsA A σ n q l → Ev (dp_Part_shifted N m q k σ) (ShO A σ f dr dc n l) := by
  intro n
  induction n with
  | zero => intro m q l σ A _ _ _ _ _ _ i; exact i.elim
  | succ n ih =>
    intro m q l σ A hm g z0 hA mv hw i
    obtain ⟨m, rfl⟩ : ∃ j, m = j + 1 := ⟨m - 1, by omega⟩
    obtain ⟨p, ls, rfl, e2, lc, po, ao, ⟨na, na'⟩, ch⟩ := i
    have lt : q < mZ σ := gOk_lt g (by have := lc.tag; omega)
    have wp : pW p < nv := hw p (by simp)
    have wl : ∀ i (hi : i < ls.length), ∀ p ∈ ls[i], pW p < nv := fun i hi p hp => hw p (List.mem_append_left _ (List.mem_flatten.mpr ⟨ls[i], List.getElem_mem hi, hp⟩))
    unfold dp_Part_shifted
    (try dsimp only)
    -- the new cell's own place
    have A1 : ∀ b, (A b ∨ b = mZ σ) → A b ∨ mT σ b = 0 := fun b hb => hb.imp id (fun e => by rw [e]; exact g _ (Nat.le_refl _))
    have hA1 : ∀ b, (A b ∨ b = mZ σ) → b < mZ σ + 1 := fun b hb => by
      rcases hb with y | y
      · have := hA b y; omega
      · omega
    have lc0 := lc
    rcases lc with ⟨k1, k2⟩ | ⟨k1, k2, k3, k4⟩ | ⟨k1, k2, kB⟩ | ⟨k1, k2⟩ | ⟨k1, k2, k3, kB⟩ | ⟨k1, k2, k3, k4, kB⟩ | ⟨k1, k2⟩ | ⟨k1, j, k2, k3, k4⟩ | ⟨k1, j, k2, k3, k4, k5⟩
    · have a0 : pA p = 0 := by rw [k2]; rfl
      obtain rfl : ls = [] := List.length_eq_zero_iff.mp (by omega)
      exact Ev.g k1 (Ev.r (sh_leaf g lc0 po ao a0 (fun z => by rw [k2] at z; cases z) (fun z => by rw [k2] at z; cases z) (by omega) na))
    · have a0 : pA p = 0 := by rw [k4]; rfl
      obtain rfl : ls = [] := List.length_eq_zero_iff.mp (by omega)
      exact Ev.f (by omega) (Ev.g k1 (Ev.r (sh_leaf g lc0 po ao a0 (fun z => by rw [k4] at z; cases z) (fun z => by rw [k4] at z; cases z) (by omega) na)))
    · have a0 : pA p = 0 := by rw [k2]; rfl
      obtain rfl : ls = [] := List.length_eq_zero_iff.mp (by omega)
      exact Ev.f (by omega) (Ev.f (by omega) (Ev.g k1 (Ev.r (sh_leaf g lc0 po ao a0 (fun z => by rw [k2] at z; cases z) (fun z => by rw [k2] at z; cases z) (by omega) na))))
    · have a0 : pA p = 0 := by rw [k2]; rfl
      obtain rfl : ls = [] := List.length_eq_zero_iff.mp (by omega)
      exact Ev.f (by omega) (Ev.f (by omega) (Ev.f (by omega) (Ev.g k1 (Ev.r (sh_leaf g lc0 po ao a0 (fun z => by rw [k2] at z; cases z) (fun z => by rw [k2] at z; cases z) (by omega) na)))))
    · have a0 : pA p = 0 := by rw [k3]; rfl
      obtain rfl : ls = [] := List.length_eq_zero_iff.mp (by omega)
      exact Ev.f (by omega) (Ev.f (by omega) (Ev.f (by omega) (Ev.f (by omega) (Ev.g k1 (sh_spot (by omega) fn g z0 hA mv k1 k2 k3 kB.1 kB.2 po wp)))))
    · have a0 : pA p = 0 := by rw [k4]; rfl
      obtain rfl : ls = [] := List.length_eq_zero_iff.mp (by omega)
      exact Ev.f (by omega) (Ev.f (by omega) (Ev.f (by omega) (Ev.f (by omega) (Ev.f (by omega) (Ev.g k1 (sh_area (by omega) fn g z0 hA mv k1 k2 k3 k4 kB.1 kB.2 po wp))))))
    · -- a minus
      have hp : pK p = 7 := by rw [k2]; rfl
      have ep := sh_op (f := f) (dr := dr) (dc := dc) po (by omega)
      have e1 : ls.length = 1 := by rw [e2, k2]; rfl
      obtain ⟨l0, rfl⟩ := List.length_eq_one_iff.mp e1
      have c0 := ch 0 Nat.zero_lt_one
      have ec : chd σ q 0 = mR σ q 0 := by unfold chd; rw [if_pos k1]
      rw [ec] at c0
      have K2 : Kz (fun _ => False) σ (wN σ 19 1) := (Kz.rf g).wN
      refine Ev.f (by omega) (Ev.f (by omega) (Ev.f (by omega) (Ev.f (by omega) (Ev.f (by omega) (Ev.f (by omega) (Ev.g k1 ?_))))))
      unfold x21_shifted
      refine Ev.l (Ev.g (by rw [mT_wN, if_neg (by omega)]; exact k1) ?_)
      have r0 : mR (wN σ 19 1) q 0 = mR σ q 0 := by rw [mR_wN, if_neg (by omega)]
      rw [r0]
      refine Ev.c (ih m _ l0 (wN σ 19 1) (fun b => A b ∨ b = mZ σ) (by omega) K2.ok (by show 0 < mZ σ + 1; omega) (fun b hb => by have := hA1 b hb; exact this) (mv.kp K2 g) (wl 0 Nat.zero_lt_one) (IsA.kp K2 g z0 _ _ _ (IsA.ext A1 _ _ _ c0))) (fun x5 _ o => ?_)
      obtain ⟨o1, o2, o3, o4, o5⟩ := o
      have o3 : mZ x5.2 ≤ mZ σ + 1 + 3 * l0.length := o3
      have o4 : mS x5.2 ≤ mS σ + 1 + 11 * l0.length := o4
      have t5 : mT x5.2 (mZ σ) = 19 := by rw [o1.tag K2.ok (by rw [mT_wN, if_pos rfl]; decide), mT_wN, if_pos rfl]
      refine Ev.e (r := wR x5.2 (mZ σ) 0 x5.1) (by unfold x21_init; rw [if_pos t5]; rfl) (Ev.r ⟨(K2.tr o1).wR (Or.inl (Nat.le_refl _)), ⟨p, [l0.map (shP f dr dc)], ?_, by rw [k2]; rfl, Or.inr (Or.inr (Or.inr (Or.inr (Or.inr (Or.inr (Or.inl ⟨t5, k2⟩)))))), po, ?_, ⟨fun z => by have := hA _ z; omega, fun z => ?_⟩, fun i hi => ?_⟩, ?_, ?_, fun b hb ht => ?_⟩)
      · rw [map_row, ep]; rfl
      · have := argsOk_sh (f := f) (dr := dr) (dc := dc) po ao
        rw [ep, ← lab_maps (lsN ch)] at this
        exact this
      · have z : mT x5.2 (mZ σ) = 18 := z
        omega
      · obtain rfl : i = 0 := by
          have : i < 1 := hi
          omega
        have ec2 : chd (wR x5.2 (mZ σ) 0 x5.1) (mZ σ) 0 = x5.1 := by
          unfold chd
          rw [mT_wR, if_pos t5, mR_wR, if_pos ⟨rfl, rfl⟩]
        rw [ec2]
        exact IsA.ext (fun b hb => Or.inl (Or.inl hb)) _ _ _ (IsA.wrR (A := fun b => A b ∨ b = mZ σ) (Or.inr rfl) (by omega) _ _ _ o2)
      · show mZ x5.2 ≤ _
        rw [show ([l0].flatten ++ [p]).length = l0.length + 1 by simp]; omega
      · show mS x5.2 ≤ _
        rw [show ([l0].flatten ++ [p]).length = l0.length + 1 by simp]; omega
      · have ht : mT x5.2 b = 18 := ht
        have nb : b ≠ mZ σ := fun e => by rw [e, t5] at ht; cases ht
        show mZ σ ≤ mR (wR x5.2 (mZ σ) 0 x5.1) b 1
        rw [mR_wR, if_neg (fun z => nb z.1)]
        have := o5 b (by show mZ σ + 1 ≤ b; omega) ht
        have this : mZ σ + 1 ≤ mR x5.2 b 1 := this
        omega
    · -- a sign between two
      have hp : pK p = 10 + j := by rw [k4]; rfl
      have ep := sh_op (f := f) (dr := dr) (dc := dc) po (by omega)
      have e1 : ls.length = 2 := by rw [e2, k4]; rfl
      obtain ⟨l0, l1, rfl⟩ : ∃ a b, ls = [a, b] := by
        match ls, e1 with
        | [a, b], _ => exact ⟨a, b, rfl⟩
      have c0 := ch 0 (by simp)
      have c1 := ch 1 (by simp)
      have ec : ∀ i, chd σ q i = mR σ q (1 + i) := fun i => by unfold chd; rw [if_neg (by omega), if_pos k1]
      rw [ec] at c0 c1
      have K2 : Kz (fun _ => False) σ (wN σ 20 3) := (Kz.rf g).wN
      refine Ev.f (by omega) (Ev.f (by omega) (Ev.f (by omega) (Ev.f (by omega) (Ev.f (by omega) (Ev.f (by omega) (Ev.f (by omega) (Ev.g k1 ?_)))))))
      unfold x22_shifted
      refine Ev.l (Ev.g (by rw [mT_wN, if_neg (by omega)]; exact k1) ?_)
      have r0 : ∀ i, mR (wN σ 20 3) q i = mR σ q i := fun i => by rw [mR_wN, if_neg (by omega)]
      rw [r0, r0]
      have d0 := IsA.kp K2 g z0 _ _ _ (IsA.ext (A' := fun b => A b ∨ b = mZ σ) A1 _ _ _ c0)
      have d1 := IsA.kp K2 g z0 _ _ _ (IsA.ext (A' := fun b => A b ∨ b = mZ σ) A1 _ _ _ c1)
      have zs : 0 < mZ (wN σ 20 3) := by show 0 < mZ σ + 1; omega
      have tz : mT (wN σ 20 3) (mZ σ) = 20 := by rw [mT_wN, if_pos rfl]
      refine Ev.c (ih m _ l0 (wN σ 20 3) (fun b => A b ∨ b = mZ σ) (by omega) K2.ok zs (fun b hb => by have := hA1 b hb; exact this) (mv.kp K2 g) (wl 0 (by simp)) d0) (fun x5 _ o => ?_)
      obtain ⟨o1, o2, o3, o4, o5⟩ := o
      have o3 : mZ x5.2 ≤ mZ σ + 1 + 3 * l0.length := o3
      have o4 : mS x5.2 ≤ mS σ + 3 + 11 * l0.length := o4
      have z5 : mZ σ + 1 ≤ mZ x5.2 := o1.1
      have r2 : mR x5.2 q 2 = mR σ q 2 := by rw [o1.rR K2.ok (by rw [mT_wN, if_neg (by omega)]; omega) (fun f => f)]; exact r0 2
      rw [r2]
      refine Ev.c (ih m _ l1 x5.2 (fun b => A b ∨ b = mZ σ) (by omega) o1.ok (by omega) (fun b hb => by have := hA1 b hb; omega) ((mv.kp K2 g).kp o1 K2.ok) (wl 1 (by simp)) (IsA.kp o1 K2.ok zs _ _ _ d1)) (fun x7 _ u => ?_)
      obtain ⟨u1, u2, u3, u4, u5⟩ := u
      have t5 : mT x5.2 (mZ σ) = 20 := by rw [o1.tag K2.ok (by omega)]; exact tz
      have t7 : mT x7.2 (mZ σ) = 20 := by rw [u1.tag o1.ok (by omega)]; exact t5
      have K7 : Kz (fun _ => False) σ x7.2 := (K2.tr o1).tr u1
      have z7 := u1.1
      obtain ⟨fin, hf⟩ : ∃ fin, fin = wR (wR (wR x7.2 (mZ σ) 0 (mR σ q 0)) (mZ σ) 1 x5.1) (mZ σ) 2 x7.1 := ⟨_, rfl⟩
      have fT : mT fin = mT x7.2 := by rw [hf]; rfl
      have f0 : mR fin (mZ σ) 0 = mR σ q 0 := by rw [hf, mR_wR, if_neg (by omega), mR_wR, if_neg (by omega), mR_wR, if_pos ⟨rfl, rfl⟩]
      have f1 : mR fin (mZ σ) 1 = x5.1 := by rw [hf, mR_wR, if_neg (by omega), mR_wR, if_pos ⟨rfl, rfl⟩]
      have f2 : mR fin (mZ σ) 2 = x7.1 := by rw [hf, mR_wR, if_pos ⟨rfl, rfl⟩]
      have fo : ∀ b i, b ≠ mZ σ → mR fin b i = mR x7.2 b i := fun b i hb => by rw [hf, mR_wR, if_neg (fun z => hb z.1), mR_wR, if_neg (fun z => hb z.1), mR_wR, if_neg (fun z => hb z.1)]
      refine Ev.e (r := fin) (by unfold x22_init; rw [if_pos t7, hf]; rfl) (Ev.r ⟨?_, ⟨p, [l0.map (shP f dr dc), l1.map (shP f dr dc)], ?_, by rw [k4]; rfl, Or.inr (Or.inr (Or.inr (Or.inr (Or.inr (Or.inr (Or.inr (Or.inl ⟨by rw [fT]; exact t7, j, k2, ?_, k4⟩))))))), po, ?_, ⟨fun z => by have := hA _ z; omega, fun z => ?_⟩, fun i hi => ?_⟩, ?_, ?_, fun b hb ht => ?_⟩)
      · show Kz (fun _ => False) σ fin
        rw [hf]
        exact ((K7.wR (Or.inl (Nat.le_refl _))).wR (Or.inl (Nat.le_refl _))).wR (Or.inl (Nat.le_refl _))
      · rw [map_row, ep]; rfl
      · show mR fin (mZ σ) 0 = mR fin 0 (20 + j)
        rw [f0, fo 0 _ (by omega), (K7.2.2.2 0 z0 (fun f => f) _).2.2]; exact k3
      · have := argsOk_sh (f := f) (dr := dr) (dc := dc) po ao
        rw [ep, ← lab_maps (lsN ch)] at this
        exact this
      · have z : mT fin (mZ σ) = 18 := z
        rw [fT] at z
        omega
      · have E : ∀ q' l', IsA (fun b => A b ∨ b = mZ σ) x7.2 n q' l' → IsA A fin n q' l' := fun q' l' y => by
          rw [hf]
          have ha : (fun b => A b ∨ b = mZ σ) (mZ σ) := Or.inr rfl
          exact IsA.ext (fun b hb => Or.inl (Or.inl hb)) _ _ _ (IsA.wrR ha (by omega) _ _ _ (IsA.wrR ha (by omega) _ _ _ (IsA.wrR ha (by omega) _ _ _ y)))
        have ec2 : ∀ i, chd fin (mZ σ) i = mR fin (mZ σ) (1 + i) := fun i => by
          unfold chd
          rw [fT, if_neg (by omega), if_pos t7]
        show IsA A fin n (chd fin (mZ σ) i) _
        rw [ec2]
        have hi2 : i < 2 := hi
        by_cases i0 : i = 0
        · subst i0
          rw [show 1 + 0 = 1 from rfl, f1]
          exact E _ _ (IsA.kp u1 o1.ok (by omega) _ _ _ o2)
        · obtain rfl : i = 1 := by omega
          rw [show 1 + 1 = 2 from rfl, f2]
          exact E _ _ u2
      · show mZ fin ≤ _
        rw [hf]
        show mZ x7.2 ≤ _
        rw [show ([l0, l1].flatten ++ [p]).length = l0.length + l1.length + 1 by simp; omega]; omega
      · show mS fin ≤ _
        rw [hf]
        show mS x7.2 ≤ _
        rw [show ([l0, l1].flatten ++ [p]).length = l0.length + l1.length + 1 by simp; omega]; omega
      · have ht : mT fin b = 18 := ht
        rw [fT] at ht
        have nb : b ≠ mZ σ := fun e => by rw [e, t7] at ht; cases ht
        show mZ σ ≤ mR fin b 1
        rw [fo b 1 nb]
        by_cases y : b < mZ x5.2
        · rw [(u1.2.2.1 b y).1] at ht
          rw [(u1.2.2.2 b y (fun f => f) 1).2.2]
          have := o5 b (by show mZ σ + 1 ≤ b; omega) ht
          have this : mZ σ + 1 ≤ mR x5.2 b 1 := this
          omega
        · have := u5 b (by omega) ht; omega
    · -- a call
      have hp : pK p = nmk j := by rw [k5]; rfl
      have kk : 7 ≤ pK p := by have := nmk_rng j k2; omega
      have ep := sh_op (f := f) (dr := dr) (dc := dc) po kk
      have e1 : ls.length = mN σ (mR σ q 1) := by rw [e2, k5]; rfl
      have l8 : ls.length ≤ 8 := by
        have := ao.le
        omega
      have ec : ∀ i, chd σ q i = mR σ (mR σ q 1) i := fun i => by unfold chd; rw [if_neg (by omega), if_neg (by omega)]
      refine Ev.f (by omega) (Ev.f (by omega) (Ev.f (by omega) (Ev.f (by omega) (Ev.f (by omega) (Ev.f (by omega) (Ev.f (by omega) (Ev.f (by omega) (Ev.g k1 ?_))))))))
      unfold x20_shifted
      rw [← e1, w32_i (x := (ls.length : Int)) (by omega) (by omega), tn]
      refine Ev.g k1 (Ev.g k4 (Ev.g (by omega) (Ev.l ?_)))
      have K2 : Kz (fun _ => False) σ (wN σ 108 ls.length) := (Kz.rf g).wN
      have tz : mT (wN σ 108 ls.length) (mZ σ) = 108 := by rw [mT_wN, if_pos rfl]
      have nz : mN (wN σ 108 ls.length) (mZ σ) = ls.length := by rw [mN_wN, if_pos rfl]
      refine sh_call (n := n) (ls := ls) (A' := fun b => A b ∨ b = mZ σ) g z0 mv k1 k4 e1.symm l8 (Or.inr rfl) hA1 (fun i hi => by rw [← ec]; exact IsA.ext A1 _ _ _ (ch i hi)) (fun i hi s gs zs has ms is => ih m _ _ s _ (by omega) gs zs has ms (wl i hi) is) (fun s KS ts ns hd hz hs h18 lz => ?_) ls.length 0 N _ (by omega) (by omega) K2 tz nz (fun j hj h0 => absurd h0 (Nat.not_lt_zero _)) (by show mZ σ + 1 ≤ _; omega) (by show mS σ + ls.length ≤ _; omega) (fun b hb ht => ?_)
      · refine Ev.l (Ev.g (by rw [mT_wN, if_neg (by have := KS.1; omega), KS.tag g (by omega)]; exact k1) ?_)
        have r0 : mR (wN s 18 2) q 0 = mR σ q 0 := by rw [mR_wN, if_neg (by have := KS.1; omega), KS.rR g (by omega) (fun f => f)]
        rw [r0]
        obtain ⟨fin, hf⟩ : ∃ fin, fin = wR (wR (wN s 18 2) (mZ s) 0 (mR σ q 0)) (mZ s) 1 (mZ σ) := ⟨_, rfl⟩
        have t7 : mT (wN s 18 2) (mZ s) = 18 := by rw [mT_wN, if_pos rfl]
        have fT : ∀ b, mT fin b = if b = mZ s then 18 else mT s b := fun b => by rw [hf, mT_wR, mT_wR, mT_wN]
        have f0 : mR fin (mZ s) 0 = mR σ q 0 := by rw [hf, mR_wR, if_neg (by omega), mR_wR, if_pos ⟨rfl, rfl⟩]
        have f1 : mR fin (mZ s) 1 = mZ σ := by rw [hf, mR_wR, if_pos ⟨rfl, rfl⟩]
        have Kf : Kz (fun _ => False) s fin := by
          rw [hf]
          exact (((Kz.rf KS.ok).wN).wR (Or.inl (Nat.le_refl _))).wR (Or.inl (Nat.le_refl _))
        have tf1 : mT fin (mZ σ) = 108 := by rw [fT, if_neg (by omega)]; exact ts
        have nf1 : mN fin (mZ σ) = ls.length := by rw [Kf.len KS.ok (by omega)]; exact ns
        have K8 : Kz (fun _ => False) σ fin := KS.tr Kf
        refine Ev.e (r := fin) (by unfold x20_init; rw [if_pos t7, hf]; rfl) (Ev.r ⟨K8, ⟨p, ls.map (fun l => l.map (shP f dr dc)), ?_, by rw [List.length_map]; exact e2, Or.inr (Or.inr (Or.inr (Or.inr (Or.inr (Or.inr (Or.inr (Or.inr ⟨by rw [fT, if_pos rfl], j, k2, ?_, ?_, ?_⟩))))))), po, ?_, ⟨fun z => by have := hA _ z; omega, fun z y => ?_⟩, fun i hi => ?_⟩, ?_, ?_, fun b hb ht => ?_⟩)
        · rw [map_row, ep]
        · show mR fin (mZ s) 0 = mR fin 0 j
          rw [f0, (K8.2.2.2 0 z0 (fun f => f) _).2.2]; exact k3
        · rw [f1]; exact tf1
        · rw [f1, nf1, e1]; exact k5
        · have := argsOk_sh (f := f) (dr := dr) (dc := dc) po ao
          rw [ep, ← lab_maps (lsN ch)] at this
          exact this
        · have y : A (mR fin (mZ s) 1) := y
          rw [f1] at y
          have := hA _ y; omega
        · have hi' : i < ls.length := by rw [List.length_map] at hi; exact hi
          have ec2 : chd fin (mZ s) i = mR fin (mZ σ) i := by
            unfold chd
            rw [fT, if_pos rfl, if_neg (by decide), if_neg (by decide), f1]
          show IsA A fin n (chd fin (mZ s) i) _
          rw [ec2, Kf.rR KS.ok (by omega) (fun f => f), List.getElem_map]
          exact IsA.kp Kf KS.ok (by omega) _ _ _ (IsA.ext (fun b hb => Or.inl (Or.inl hb)) _ _ _ (hd i hi'))
        · show mZ fin ≤ _
          rw [hf]
          show mZ s + 1 ≤ _
          rw [List.length_append]
          show _ ≤ mZ σ + 3 * (ls.flatten.length + 1)
          omega
        · show mS fin ≤ _
          rw [hf]
          show mS s + 2 ≤ _
          rw [List.length_append]
          show _ ≤ mS σ + 11 * (ls.flatten.length + 1)
          omega
        · have ht : mT fin b = 18 := ht
          show mZ σ ≤ mR fin b 1
          by_cases y : b = mZ s
          · rw [y, f1]; exact Nat.le_refl _
          · rw [fT, if_neg y] at ht
            rw [hf, mR_wR, if_neg (fun z => y z.1), mR_wR, if_neg (fun z => y z.1), mR_wN, if_neg y]
            exact h18 b hb ht
      · rw [mT_wN] at ht
        by_cases y : b = mZ σ
        · rw [if_pos y] at ht; cases ht
        · rw [if_neg y, g b hb] at ht; cases ht
end State63
