/-! ===== PHASE 2: one memory for both: the acts with a number alone -/
section State51
variable {x h t : Nat} {m : gMem}
/-- an act with a number, the memory may change -/
def RQ (x h t : Nat) (m : gMem) (u : Option (Int × gMem)) (G : gMem → Option (Int × gMem)) : Prop :=
  ∃ a b, u = some a ∧ G a.2 = some b ∧ a.1 = b.1 ∧ (M1 x h (t + 1) b.2 ∧ Rm x m b.2) ∧ TMb a.2 h = true ∧ Kz (fun a => x ≤ a) m a.2 ∧ Kz (fun a => x ≤ a) a.2 b.2
/-- an act that asks: the class's memory stays -/
def RA (x h t : Nat) (m : gMem) (u : Option Int) (G : gMem → Option (Int × gMem)) : Prop :=
  ∃ a b, u = some a ∧ G m = some b ∧ a = b.1 ∧ (M1 x h (t + 1) b.2 ∧ Rm x m b.2) ∧ TMb m h = true ∧ Kz (fun a => x ≤ a) m b.2
theorem M1.tm (M : M1 x h t m) : TMb m h = true := by
  obtain ⟨⟨nv, pa, un, fs, Gs, g, own, rt, R⟩, -, -⟩ := M
  exact R.2.1.1.1
theorem run_qx {F : gMem → Option (Int × gMem)} {G : gMem → Option (Int × gMem)} (hFG : ∀ σ τ, RL x h t σ τ → E2 (F σ) (G τ) (OpQ x h t σ τ)) (M : M1 x h t m) : RQ x h t m (F m) G := by
  obtain ⟨a, b0, ea, eb0, R0, ⟨K, d, d1, d2, d3⟩, -, -⟩ := hFG m m M.1
  obtain ⟨A, e0, tz⟩ := M.ag K
  have hh := M.1.hx
  obtain ⟨a', b, ea', eb, R1, -, X, p1, p2⟩ := hFG m a.2 (M.1.tw A e0 R0.kc)
  rw [ea] at ea'
  obtain rfl := Option.some.inj ea'
  have e17 : mI b.2 x 17 = mI a.2 x 17 := X.rI (by unfold TwA; omega)
  have ez := X.rZ
  have es := X.rS
  exact ⟨a, b, ea, eb, p1, ⟨M.fin K R1 X (fun a k p => by unfold TwA at p; omega), d, by omega, by omega, by omega⟩, TMb.ag M.tm A, K.mono (fun a w => by unfold NoT at w; omega), X.kp K.ok (fun a k p => by unfold TwA at p; omega)⟩
theorem run_ax {F : gMem → Option Int} {G : gMem → Option (Int × gMem)} (hFG : ∀ σ τ, RL x h t σ τ → E2 (F σ) (G τ) (OpA x h t σ τ)) (M : M1 x h t m) : RA x h t m (F m) G := by
  obtain ⟨a, b, ea, eb, R0, ⟨K, d, d1, d2, d3⟩, X, p1, p2⟩ := hFG m m M.1
  have hh := M.1.hx
  have e17 : mI b.2 x 17 = mI m x 17 := X.rI (by unfold TwA; omega)
  have ez := X.rZ
  have es := X.rS
  exact ⟨a, b, ea, eb, p1, ⟨M.fin K R0 X (fun a k p => by unfold TwA at p; omega), 0, by omega, by omega, by omega⟩, M.tm, X.kp K.ok (fun a k p => by unfold TwA at p; omega)⟩
end State51
