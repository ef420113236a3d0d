/-! ===== PHASE 2: reading: brackets ===== -/
section Read18
variable {N x h hi all nv sh M lu0 b b' p q op pa pi : Nat} {bA : Nat → Int} {f : Int → List Int × List Int} {σ σ' σ'' τ τ' τ'' s r σ0 τ0 σ1 τ2 : gMem} {p0 pa0 nd k lu : Nat}
theorem gu2_comm {α : Type} {g : Nat → Nat → α} {a c i j : Nat} {u v : α} (n : ¬ (a = c ∧ i = j)) : gu2 (gu2 g a i u) c j v = gu2 (gu2 g c j v) a i u := by
  funext y k
  unfold gu2
  by_cases e : y = c ∧ k = j
  · rw [if_pos e]
    by_cases e2 : y = a ∧ k = i
    · exact absurd ⟨e2.1.symm.trans e.1, e2.2.symm.trans e.2⟩ n
    · rw [if_neg e2, if_pos e]
  · rw [if_neg e]
    by_cases e2 : y = a ∧ k = i
    · rw [if_pos e2, if_pos e2]
    · rw [if_neg e2, if_neg e2, if_neg e]
theorem wI_comm {a c i j : Nat} {u v : Int} (n : ¬ (a = c ∧ i = j)) : wI (wI s a i u) c j v = wI (wI s c j v) a i u := by
  show ((gu2 (gu2 s.1 a i _) c j _, s.2) : gMem) = (gu2 (gu2 s.1 c j _) a i _, s.2)
  rw [gu2_comm n]
theorem thrV {s : gMem} {k : gMem → Option gR} : gThrV ((.inl none, s) : gR) k = k s := rfl
theorem thrVE {E : String} {s : gMem} {k : gMem → Option gR} : gThrV ((.inr E, s) : gR) k = some (.inr E, s) := rfl
theorem sgO_678 {c d : Int} : ((sgO c d).1 = 6 ↔ c = 40) ∧ ((sgO c d).1 = 7 ↔ c = 41) ∧ ((sgO c d).1 = 8 ↔ c = 44) := by
  by_cases c1 : c = 40
  · have e : (sgO c d).1 = 6 := by rw [c1]; rfl
    rw [e, c1]; decide
  by_cases c2 : c = 41
  · have e : (sgO c d).1 = 7 := by rw [c2]; rfl
    rw [e, c2]; decide
  by_cases c3 : c = 44
  · have e : (sgO c d).1 = 8 := by rw [c3]; rfl
    rw [e, c3]; decide
  have J : (sgO c d).1 = 9 ∨ (sgO c d).1 = 10 := by
    unfold sgO
    by_cases e : c = 61
    · rw [if_pos e]; exact Or.inl rfl
    rw [if_neg e]
    by_cases e : c = 60
    · rw [if_pos e]
      by_cases e : d = 62
      · rw [if_pos e]; exact Or.inl rfl
      rw [if_neg e]
      by_cases e : d = 61
      · rw [if_pos e]; exact Or.inl rfl
      rw [if_neg e]; exact Or.inl rfl
    rw [if_neg e]
    by_cases e : c = 62
    · rw [if_pos e]
      by_cases e : d = 61
      · rw [if_pos e]; exact Or.inl rfl
      rw [if_neg e]; exact Or.inl rfl
    rw [if_neg e]
    by_cases e : c = 38
    · rw [if_pos e]; exact Or.inl rfl
    rw [if_neg e]
    by_cases e : c = 43
    · rw [if_pos e]; exact Or.inl rfl
    rw [if_neg e]
    by_cases e : c = 45
    · rw [if_pos e]; exact Or.inl rfl
    rw [if_neg e]
    by_cases e : c = 42
    · rw [if_pos e]; exact Or.inl rfl
    rw [if_neg e]
    by_cases e : c = 47
    · rw [if_pos e]; exact Or.inl rfl
    rw [if_neg e]
    by_cases e : c = 37
    · rw [if_pos e]; exact Or.inl rfl
    rw [if_neg e, if_neg c1, if_neg c2, if_neg c3]; exact Or.inr rfl
  exact ⟨⟨fun z => by omega, fun z => absurd z c1⟩, ⟨fun z => by omega, fun z => absurd z c2⟩, fun z => by omega, fun z => absurd z c3⟩
theorem tk678 : (tkK bA q = 6 ↔ bA q = 40) ∧ (tkK bA q = 7 ↔ bA q = 41) ∧ (tkK bA q = 8 ↔ bA q = 44) := by
  have J : (tkK bA q = (sgO (bA q) (bA (q + 1))).1) ∨ ((tkK bA q ≤ 5 ∨ tkK bA q = 10) ∧ bA q ≠ 40 ∧ bA q ≠ 41 ∧ bA q ≠ 44) := by
    unfold tkK
    by_cases e : bA q = -1
    · rw [if_pos e]; exact Or.inr ⟨Or.inl (by decide), by omega, by omega, by omega⟩
    rw [if_neg e]
    by_cases e : isD (bA q) = true
    · have := of_decide_eq_true e
      rw [if_pos e]; exact Or.inr ⟨Or.inl (by decide), by omega, by omega, by omega⟩
    rw [if_neg e]
    by_cases e : bA q = 34
    · rw [if_pos e]; exact Or.inr ⟨Or.inl (by decide), by omega, by omega, by omega⟩
    rw [if_neg e]
    by_cases e : isL (bA q) = true ∨ bA q = 36
    · have z : bA q ≠ 40 ∧ bA q ≠ 41 ∧ bA q ≠ 44 := by
        rcases e with e | e
        · have := of_decide_eq_true e; omega
        · omega
      rw [if_pos e]
      by_cases e : isC bA q = true
      · rw [if_pos e]; exact Or.inr ⟨Or.inl (by decide), z⟩
      rw [if_neg e]
      by_cases e : bA q = 36
      · rw [if_pos e]; exact Or.inr ⟨Or.inr rfl, z⟩
      rw [if_neg e]; exact Or.inr ⟨Or.inl (by decide), z⟩
    rw [if_neg e]
    by_cases e : isRf bA q = true
    · have := of_decide_eq_true e
      rw [if_pos e]; exact Or.inr ⟨Or.inl (by decide), by omega, by omega, by omega⟩
    rw [if_neg e]; exact Or.inl rfl
  rcases J with J | ⟨J, j1, j2, j3⟩
  · rw [J]; exact sgO_678
  · exact ⟨⟨fun z => by omega, fun z => absurd z j1⟩, ⟨fun z => by omega, fun z => absurd z j2⟩, fun z => by omega, fun z => absurd z j3⟩
/-- both count what is open -/
theorem S2.opn (S : S2 x h hi all nv sh M lu0 bA f σ τ p q op pa pi) {op' : Nat} (ho : op' ≤ 20) : S2 x h hi all nv sh M lu0 bA f (wI σ (x + 1429) 7 (op' : Int)) (wI τ h 57 (op' : Int)) p q op' pa pi ∧ CF x σ (wI σ (x + 1429) 7 (op' : Int)) 0 ∧ TF (lu0 + hi) h τ (wI τ h 57 (op' : Int)) (M + pa) := by
  obtain ⟨c, t, ⟨s1, s2, s3, s4⟩, ⟨t1, t2, t3, t4, t5⟩, ⟨l1, l2, l3⟩, b1, b2, b3, b4, b5, b6, b7⟩ := S
  have e : Ex (Rq x 7) σ (wI σ (x + 1429) 7 (op' : Int)) := Ex.rf.I ⟨rfl, rfl⟩
  have e' : Ex (fun a k => a = h ∧ k = 57) τ (wI τ h 57 (op' : Int)) := Ex.rf.I ⟨rfl, rfl⟩
  have i1 : mI (wI σ (x + 1429) 7 (op' : Int)) (x + 1429) 7 = op' := by rw [mIwI2 ⟨rfl, rfl⟩, w32_i (by omega) (by omega)]
  have i2 : mI (wI τ h 57 (op' : Int)) h 57 = op' := by rw [mIwI2 ⟨rfl, rfl⟩, w32_i (by omega) (by omega)]
  generalize wI σ (x + 1429) 7 (op' : Int) = σ' at e i1 ⊢
  generalize wI τ h 57 (op' : Int) = τ' at e' i2 ⊢
  have cf := Rq.cf c e (by omega)
  have tf : TF (lu0 + hi) h τ τ' (M + pa) := TF.ex e' b5 (fun a j y => Or.inl ⟨y.1, by omega⟩)
  have fk : ∀ k, k ≠ 7 → mI σ' (x + 1429) k = mI σ (x + 1429) k := fun k hk => e.rI (fun y => hk y.2)
  have ft : ∀ k, k ≠ 57 → mI τ' h k = mI τ h k := fun k hk => e'.rI (fun y => hk y.2)
  exact ⟨⟨c.cf cf, t.tf tf, ⟨by rw [fk 6 (by decide)]; exact s1, i1, by rw [fk 8 (by decide)]; exact s3, by rw [fk 11 (by decide)]; exact s4⟩, ⟨t1, t2.ex e' (fun k k1 k2 y => by omega), i2, by rw [ft 56 (by decide)]; exact t4, by rw [ft 41 (by decide)]; exact t5⟩, ⟨by rw [ft 58 (by decide), fk 14 (by decide)]; exact l1, by rw [ft 59 (by decide), fk 14 (by decide), fk 15 (by decide)]; exact l2, by rw [fk 14 (by decide)]; exact l3⟩, b1, ho, b3, b4, by rw [ft 19 (by decide)]; exact b5, by rw [ft 19 (by decide)]; exact b6, b7⟩, cf, tf⟩
/-- a fault told where both stand -/
theorem S2.wrong {kt : gMem → Option gMem} (S : S2 x h hi all nv sh M lu0 bA f σ τ q q op pa pi) (o0 : CF x σ0 σ (q - p0)) (oT : TF (lu0 + hi) h τ0 τ (M + pa0)) (hp : p0 ≤ q) (hpa : pa0 ≤ pa) (hk : 0 < k ∧ k ≤ 100) (hkt : ∀ r, 0 < mI r h 41 → kt r = some r) : E2 ((x6_wrong (x + 1429) (k : Int) q σ).bind (fun x9 => if mT (x9.2) (x9.1) = 25 then some ((.inr "SheetBranches$Wrong", x9.2) : gR) else none)) ((tw_fail h (k : Int) (mI τ h 48) τ).bind kt) (fun a r2 => a.1 = .inr "SheetBranches$Wrong" ∧ ErN x h hi M lu0 σ0 τ0 p0 pa0 a.2 r2) := by
  obtain ⟨c, t, ⟨s1, s2, s3, s4⟩, ⟨t1, t2, t3, t4, t5⟩, ⟨l1, l2, l3⟩, b1, b2, b3, b4, b5, b6, b7⟩ := S
  have tx := c.1.2.2.2.2.2.2.2
  have h4 : hi ≤ 400 ∧ all ≤ 400 := by have := tx.2.2.1; have := tx.2.2.2; omega
  have e48 : mI τ h 48 = if (q : Int) = hi then (all : Int) else q := by
    rw [t2.2.1]
    by_cases z : q = hi
    · rw [if_pos (tx.2.1 q (by omega)), if_pos (by omega)]
    · have := (tx.1 q (by omega)).1
      rw [if_neg (by omega), if_neg (by omega)]
  refine E2.vv (c_throw c (k := (k : Int)) (w := (q : Int)) (by omega) (by omega)) (Ev.c (t_fail (lu0 := lu0) (hi := hi) (b := M + pa) (k := (k : Int)) (w := mI τ h 48) b5 t5 (by omega) (by rw [e48]; split <;> omega)) (fun r _ z => by rw [hkt r (by rw [z.1]; omega)]; exact Ev.r z)) (fun a r2 y z => ?_)
  exact ⟨y.1, by rw [z.1, y.2.1], by rw [z.2.1, e48, y.2.2.1], by rw [z.1]; omega, (o0.tr y.2.2.2).mono (by omega), oT.tr z.2.2.1 (by omega)⟩
end Read18
