/-! ===== PHASE 2: one memory for both: the acts with their codes -/
section State48
variable {N x h t : Nat} {m m1 m2 : gMem} {cd : List (String × Int)} {v : Int}
/-- what the class's act with a code and the reference's act behind it leave -/
def RX (x h t : Nat) (m : gMem) (u : Option (Int × gMem)) (G : gMem → Option (Int × gMem)) : Prop :=
  ∃ kc m1 b, u = some (kc, m1) ∧ G m1 = some b ∧ mI b.2 h 0 = kc ∧ (kc = 0 → mL b.2 (h + 57) 0 = b.1) ∧ (mT b.2 (h + 57) = 101 ∧ 0 < mN b.2 (h + 57)) ∧ (M1 x h (t + 1) b.2 ∧ Rm x m b.2) ∧ (TMb m1 h = true ∧ TMb b.2 h = true) ∧ Kz (fun a => x ≤ a) m m1 ∧ Kz (fun a => x ≤ a) m1 b.2
def x0W (x o : Nat) (F : gMem → Option gR) (C : String → gMem → Option (Int × gMem)) (m : gMem) : Option (Int × gMem) := if mT m x = 1 then (F m).bind (fun p => gTryI p (fun x2 s5 => if mT s5 o = 101 then if 0 ≤ (0 : Int) ∧ (0 : Int) < (mN s5 o : Int) then gLet (wL s5 o (0 : Int).toNat x2) (fun s11 => some (0, s11)) else none else none) C) else none
theorem run_x0 {F : gMem → Option gR} {G : gMem → Option (Int × gMem)} {C : String → gMem → Option (Int × gMem)} (hFG : ∀ σ τ, RL x h t σ τ → E2 (F σ) (G τ) (OpO x h t cd σ τ)) (hC : ∀ E k s, (E, k) ∈ cd → C E s = some (k, s)) (M : M1 x h t m) : RX x h t m (x0W x (h + 57) F C m) G := by
  obtain ⟨a, b0, ea, eb0, R0, ⟨K, d, d1, d2, d3⟩, -, out⟩ := hFG m m M.1
  obtain ⟨A, e0, tz⟩ := M.ag K
  have hh := M.1.hx
  have kc := R0.kc
  have t1 : mT m x = 1 := by
    obtain ⟨⟨nv, pa, un, fs, Gs, g, own, rt, R⟩, -, -⟩ := M
    exact R.1.1.1.1
  have TM : TMb m h = true := by
    obtain ⟨⟨nv, pa, un, fs, Gs, g, own, rt, R⟩, -, -⟩ := M
    exact R.2.1.1.1
  have KK : Kz (fun a => x ≤ a) m a.2 := K.mono (fun a w => by unfold NoT at w; omega)
  have o1' : mT a.2 (h + 57) = 101 := by rw [(tz _ (by omega) (by omega)).1]; exact M.2.1
  have o2' : 0 < mN a.2 (h + 57) := by rw [(tz _ (by omega) (by omega)).2]; exact M.2.2
  unfold x0W
  rw [if_pos t1, ea, Option.bind_some]
  rcases out with ⟨v, o1, -, -, gv⟩ | ⟨E, k, o1, o2, -, -⟩
  · obtain ⟨a', b, ea', eb, R1, -, X, out⟩ := hFG m (wL a.2 (h + 57) 0 v) (M.1.tw A.wL e0 kc)
    rw [ea] at ea'
    obtain rfl := Option.some.inj ea'
    rcases out with ⟨v', p1, p2, p3, -⟩ | ⟨E, k, p1, -⟩
    · have ev : v' = v := by rw [o1] at p1; injection p1 with p1; injection p1 with p1; injection p1 with p1; exact p1.symm
      rw [ev] at p2
      have XX : Ex (fun a k => TwA h a k ∨ (a = h + 57 ∧ k = 0)) a.2 b.2 := (Ex.rf.L (P := fun a k => TwA h a k ∨ (a = h + 57 ∧ k = 0)) (v := v) (Or.inr ⟨rfl, rfl⟩)).tr (X.mono (fun a k p => Or.inl p))
      have K1 : Kz (fun a => x ≤ a) m (wL a.2 (h + 57) 0 v) := KK.wL (Or.inr (by omega))
      have Mf := M.fin K R1 XX (fun a k p => by unfold TwA at p; omega)
      have e17 : mI b.2 x 17 = mI a.2 x 17 := XX.rI (by unfold TwA; omega)
      have ez := XX.rZ
      have es := XX.rS
      have TMf : TMb b.2 h = true := by
        obtain ⟨⟨nv, pa, un, fs, Gs, g, own, rt, R⟩, -, -⟩ := Mf
        exact R.2.1.1.1
      obtain ⟨gv1, gv2⟩ := gv
      refine ⟨0, wL a.2 (h + 57) 0 v, b, ?_, eb, p3, fun _ => ?_, ⟨Mf.2.1, Mf.2.2⟩, ⟨Mf, d, by omega, by omega, by omega⟩, ⟨TMb.ag TM A.wL, TMf⟩, K1, X.kp K1.ok (fun a k p => by unfold TwA at p; omega)⟩
      · obtain ⟨a1, a2⟩ := a
        have o1'' : a1 = .inl (some (vI v)) := o1
        subst o1''
        show (if mT a2 (h + 57) = 101 then _ else none) = _
        rw [if_pos o1', if_pos (show (0 : Int) ≤ 0 ∧ (0 : Int) < ((mN a2 (h + 57) : Nat) : Int) from ⟨by decide, by have : 0 < mN a2 (h + 57) := o2'; omega⟩)]
        rfl
      · rw [X.rL (by unfold TwA; omega), mL_wL, if_pos ⟨rfl, rfl⟩, p2]
        exact w64_i (by omega) (by omega)
    · rw [o1] at p1; cases p1
  · obtain ⟨a', b, ea', eb, R1, -, X, out⟩ := hFG m a.2 (M.1.tw A e0 kc)
    rw [ea] at ea'
    obtain rfl := Option.some.inj ea'
    rcases out with ⟨v', p1, -⟩ | ⟨E', k', p1, p2, p3, p4⟩
    · rw [o1] at p1; cases p1
    · have eE : E' = E := by rw [o1] at p1; injection p1 with p1; exact p1.symm
      rw [eE] at p2
      have Mf := M.fin K R1 X (fun a k p => by unfold TwA at p; omega)
      have e17 : mI b.2 x 17 = mI a.2 x 17 := X.rI (by unfold TwA; omega)
      have ez := X.rZ
      have es := X.rS
      have TMf : TMb b.2 h = true := by
        obtain ⟨⟨nv, pa, un, fs, Gs, g, own, rt, R⟩, -, -⟩ := Mf
        exact R.2.1.1.1
      refine ⟨k', a.2, b, ?_, eb, p3, fun z => absurd z p4, ⟨Mf.2.1, Mf.2.2⟩, ⟨Mf, d, by omega, by omega, by omega⟩, ⟨TMb.ag TM A, TMf⟩, KK, X.kp KK.ok (fun a k p => by unfold TwA at p; omega)⟩
      obtain ⟨a1, a2⟩ := a
      have o1'' : a1 = .inr E := o1
      subst o1''
      exact hC E k' a2 p2
theorem r_insert {a b : Int} (hN : 2000 ≤ N) (ht : t ≤ 1000) (M : M1 x h t m) : RX x h t m (x0_insert N x a b (h + 57) m) (tw_insert N h a b) :=
  run_x0 (cd := cdI) (F := x1_insert N x a b) (C := fun E6 s7 => if E6 = "java/lang/IllegalArgumentException" then some (1, s7) else if E6 = "java/lang/IndexOutOfBoundsException" then some (2, s7) else if E6 = "java/lang/IllegalStateException" then some (3, s7) else none) (fun σ τ R => op_insert hN ht R) (fun E k s hm => by
    simp only [cdI, List.mem_cons, Prod.mk.injEq, List.not_mem_nil, or_false] at hm
    rcases hm with ⟨e1, e2⟩ | ⟨e1, e2⟩ | ⟨e1, e2⟩ <;> subst e1 e2 <;> simp) M
theorem r_undo (hN : 2000 ≤ N) (M : M1 x h t m) : RX x h t m (x0_undo x (h + 57) m) (tw_undo N h) :=
  run_x0 (cd := cdN) (F := x1_undo x) (C := fun E6 s7 => if E6 = "java/util/NoSuchElementException" then some (1, s7) else none) (fun σ τ R => op_undo hN R) (fun E k s hm => by
    simp only [cdN, List.mem_cons, Prod.mk.injEq, List.not_mem_nil, or_false] at hm
    obtain ⟨e1, e2⟩ := hm
    subst e1 e2
    simp) M
end State48
