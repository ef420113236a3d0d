/-! ===== PHASE 2: one memory for both: an act of the class, then the act of the reference -/
section State47
variable {x h t : Nat} {m m1 m2 : gMem} {cd : List (String × Int)} {v : Int}
/-- between two acts -/
def M1 (x h t : Nat) (m : gMem) : Prop := RL x h t m m ∧ mT m (h + 57) = 101 ∧ 0 < mN m (h + 57)
/-- the room that an act takes -/
def Rm (x : Nat) (m m2 : gMem) : Prop := ∃ d : Nat, mI m2 x 17 = mI m x 17 + d ∧ mZ m2 ≤ mZ m + 2000 + 4 * d ∧ mS m2 ≤ mS m + 20000 + 20 * d
theorem M1.tg (M : M1 x h t m) : (∀ a, h ≤ a → a ≤ h + 57 → mT m a = 10 ∨ (100 ≤ mT m a ∧ mT m a ≤ 103)) ∧ mT m h = 10 := by
  obtain ⟨⟨nv, pa, un, fs, Gs, g, own, rt, R⟩, M2, -⟩ := M
  obtain ⟨T0, T⟩ := TMb.tags R.2.1.1.1
  refine ⟨fun a h1 h2 => ?_, T0⟩
  by_cases c : a = h
  · rw [c]; exact Or.inl T0
  · by_cases c2 : a = h + 57
    · rw [c2, M2]; exact Or.inr (by decide)
    · obtain ⟨q, hq, e, g1, g2⟩ := tarr_all (a - h) (by omega) (by omega)
      have z := (T q hq).2.1
      rw [e, show h + (a - h) = a by omega] at z
      rw [z]; exact Or.inr ⟨g1, g2⟩
/-- where the class has run, the reference's half is as it was -/
theorem M1.ag (M : M1 x h t m) (K : Kz (NoT x h) m m1) : AgT h m m1 ∧ (∀ k, mR m1 0 k = mR m 0 k) ∧ (∀ a, h ≤ a → a ≤ h + 57 → mT m1 a = mT m a ∧ mN m1 a = mN m a) := by
  have tg := M.tg
  obtain ⟨⟨nv, pa, un, fs, Gs, g, own, rt, R⟩, M2, -⟩ := M
  have l := R.1.1
  have x0 : 0 < x := by
    rcases Nat.eq_zero_or_pos x with e | e
    · have := l.1.1; rw [e, l.z0] at this; cases this
    · exact e
  have hh := R.1.2.1.1
  have tz : ∀ a, h ≤ a → a ≤ h + 57 → mT m1 a = mT m a ∧ mN m1 a = mN m a := fun a h1 h2 => by
    have z := tg.1 a h1 h2
    exact ⟨K.tag l.ok (by omega), K.len l.ok (by omega)⟩
  refine ⟨fun a h1 h2 => ?_, fun k => (K.2.2.2 0 l.z (by unfold NoT; omega) k).2.2, tz⟩
  have z := tg.1 a h1 (by omega)
  have la : a < mZ m := gOk_lt l.ok (by omega)
  have nn : ¬ NoT x h a := by unfold NoT; omega
  exact ⟨(tz a h1 (by omega)).1, (tz a h1 (by omega)).2, funext fun j => (K.2.2.2 a la nn j).1, funext fun j => (K.2.2.2 a la nn j).2.1, funext fun j => (K.2.2.2 a la nn j).2.2⟩
theorem AgT.wL {k : Nat} (A : AgT h m m1) : AgT h m (wL m1 (h + 57) k v) := fun a h1 h2 => by
  obtain ⟨z1, z2, z3, z4, z5⟩ := A a h1 h2
  refine ⟨z1, z2, z3, ?_, z5⟩
  rw [← z4]
  funext j
  rw [mL_wL, if_neg (by omega)]
/-- both have run -/
theorem M1.fin {P : Nat → Nat → Prop} (M : M1 x h t m) (K : Kz (NoT x h) m m1) (R : RL x h (t + 1) m1 m2) (e : Ex P m1 m2) (hP : ∀ a k, P a k → h ≤ a ∧ a ≤ h + 57) : M1 x h (t + 1) m2 := by
  have tg := M.tg
  obtain ⟨A, -, tz⟩ := M.ag K
  obtain ⟨nv, pa, un, fs, Gs, g, own, rt, R⟩ := R
  refine ⟨⟨nv, pa, un, fs, Gs, g, own, rt, R.clk (fun a h1 h2 => by rw [(tz a h1 h2).1]; exact tg.1 a h1 h2) (by rw [(tz h (by omega) (by omega)).1]; exact tg.2) e hP⟩, ?_, ?_⟩
  · rw [e.rT, (tz _ (by omega) (by omega)).1]; exact M.2.1
  · rw [e.rN, (tz _ (by omega) (by omega)).2]; exact M.2.2
theorem RL.tw (R : RL x h t m m) (A : AgT h m m1) (e0 : ∀ k, mR m1 0 k = mR m 0 k) (kc : KC m1) : RL x h t m m1 := by
  obtain ⟨nv, pa, un, fs, Gs, g, own, rt, R⟩ := R
  exact ⟨nv, pa, un, fs, Gs, g, own, rt, R.twk A e0 kc⟩
theorem RL.kc (R : RL x h t m m1) : KC m := by
  obtain ⟨nv, pa, un, fs, Gs, g, own, rt, R⟩ := R
  exact R.1.1.kc
theorem RL.hx (R : RL x h t m m1) : h = x + 1471 := by
  obtain ⟨nv, pa, un, fs, Gs, g, own, rt, R⟩ := R
  exact R.1.2.1.1
/-- an act with an answer or an exception -/
theorem run_op {F : gMem → Option gR} {G : gMem → Option (Int × gMem)} (hFG : ∀ σ τ, RL x h t σ τ → E2 (F σ) (G τ) (OpO x h t cd σ τ)) (M : M1 x h t m) : ∃ a, F m = some a ∧
    ((∃ v b, a.1 = .inl (some (vI v)) ∧ g32 v ∧ mT a.2 (h + 57) = 101 ∧ 0 < mN a.2 (h + 57) ∧ G (wL a.2 (h + 57) 0 v) = some b ∧ b.1 = v ∧ mI b.2 h 0 = 0 ∧ mL b.2 (h + 57) 0 = v ∧ M1 x h (t + 1) b.2 ∧ Rm x m b.2) ∨
     ∃ E k b, a.1 = .inr E ∧ (E, k) ∈ cd ∧ G a.2 = some b ∧ mI b.2 h 0 = k ∧ k ≠ 0 ∧ M1 x h (t + 1) b.2 ∧ Rm x m b.2) := by
  obtain ⟨a, b0, ea, eb0, R0, ⟨K, d, d1, d2, d3⟩, -, out⟩ := hFG m m M.1
  obtain ⟨A, e0, tz⟩ := M.ag K
  have hh := M.1.hx
  have kc := R0.kc
  have rm : ∀ m2 : gMem, mI m2 x 17 = mI a.2 x 17 → mZ m2 = mZ a.2 → mS m2 = mS a.2 → Rm x m m2 := fun m2 z1 z2 z3 => ⟨d, by omega, by omega, by omega⟩
  refine ⟨a, ea, ?_⟩
  rcases out with ⟨v, o1, -, -, gv⟩ | ⟨E, k, o1, o2, -, -⟩
  · left
    obtain ⟨a', b, ea', eb, R1, -, X, out⟩ := hFG m (wL a.2 (h + 57) 0 v) (M.1.tw A.wL e0 kc)
    rw [ea] at ea'
    obtain rfl := Option.some.inj ea'
    rcases out with ⟨v', p1, p2, p3, -⟩ | ⟨E, k, p1, -⟩
    · have ev : v' = v := by rw [o1] at p1; injection p1 with p1; injection p1 with p1; injection p1 with p1; exact p1.symm
      rw [ev] at p2
      have XX : Ex (fun a k => TwA h a k ∨ (a = h + 57 ∧ k = 0)) a.2 b.2 := (Ex.rf.L (P := fun a k => TwA h a k ∨ (a = h + 57 ∧ k = 0)) (v := v) (Or.inr ⟨rfl, rfl⟩)).tr (X.mono (fun a k p => Or.inl p))
      refine ⟨v, b, o1, gv, by rw [(tz _ (by omega) (by omega)).1]; exact M.2.1, by rw [(tz _ (by omega) (by omega)).2]; exact M.2.2, eb, p2, p3, ?_, M.fin K R1 XX (fun a k p => by unfold TwA at p; omega), rm _ (XX.rI (by unfold TwA; omega)) XX.rZ XX.rS⟩
      obtain ⟨gv1, gv2⟩ := gv
      rw [X.rL (by unfold TwA; omega), mL_wL, if_pos ⟨rfl, rfl⟩]
      exact w64_i (by omega) (by omega)
    · rw [o1] at p1; cases p1
  · right
    obtain ⟨a', b, ea', eb, R1, -, X, out⟩ := hFG m a.2 (M.1.tw A e0 kc)
    rw [ea] at ea'
    obtain rfl := Option.some.inj ea'
    rcases out with ⟨v', p1, -⟩ | ⟨E', k', p1, p2, p3, p4⟩
    · rw [o1] at p1; cases p1
    · have eE : E' = E := by rw [o1] at p1; injection p1 with p1; exact p1.symm
      rw [eE] at p2
      exact ⟨E, k', b, o1, p2, eb, p3, p4, M.fin K R1 X (fun a k p => by unfold TwA at p; omega), rm _ (X.rI (by unfold TwA; omega)) X.rZ X.rS⟩
/-- an act with a number alone -/
theorem run_q {F : gMem → Option (Int × gMem)} {G : gMem → Option (Int × gMem)} (hFG : ∀ σ τ, RL x h t σ τ → E2 (F σ) (G τ) (OpQ x h t σ τ)) (M : M1 x h t m) : ∃ a b, F m = some a ∧ G a.2 = some b ∧ a.1 = b.1 ∧ mI b.2 h 0 = 0 ∧ M1 x h (t + 1) b.2 ∧ Rm x m b.2 := by
  obtain ⟨a, b0, ea, eb0, R0, ⟨K, d, d1, d2, d3⟩, -, -⟩ := hFG m m M.1
  obtain ⟨A, e0, tz⟩ := M.ag K
  have hh := M.1.hx
  obtain ⟨a', b, ea', eb, R1, -, X, p1, p2⟩ := hFG m a.2 (M.1.tw A e0 R0.kc)
  rw [ea] at ea'
  obtain rfl := Option.some.inj ea'
  have e17 : mI b.2 x 17 = mI a.2 x 17 := X.rI (by unfold TwA; omega)
  have ez := X.rZ
  have es := X.rS
  exact ⟨a, b, ea, eb, p1, p2, M.fin K R1 X (fun a k p => by unfold TwA at p; omega), d, by omega, by omega, by omega⟩
/-- an act that asks -/
theorem run_a {F : gMem → Option Int} {G : gMem → Option (Int × gMem)} (hFG : ∀ σ τ, RL x h t σ τ → E2 (F σ) (G τ) (OpA x h t σ τ)) (M : M1 x h t m) : ∃ a b, F m = some a ∧ G m = some b ∧ a = b.1 ∧ mI b.2 h 0 = 0 ∧ M1 x h (t + 1) b.2 ∧ Rm x m b.2 := by
  obtain ⟨a, b, ea, eb, R0, ⟨K, d, d1, d2, d3⟩, X, p1, p2⟩ := hFG m m M.1
  have hh := M.1.hx
  have e17 : mI b.2 x 17 = mI m x 17 := X.rI (by unfold TwA; omega)
  have ez := X.rZ
  have es := X.rS
  exact ⟨a, b, ea, eb, p1, p2, M.fin K R0 X (fun a k p => by unfold TwA at p; omega), 0, by omega, by omega, by omega⟩
end State47
