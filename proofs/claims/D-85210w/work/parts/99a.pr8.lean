/-! ===== PHASE 2: reading: faults, products, sums, joins, tests ===== -/
section Read8
variable {N x h hi all nv sh M lu0 b b' p q op pa pi : Nat} {bA : Nat → Int} {f : Int → List Int × List Int} {σ σ' σ'' τ τ' τ'' s : gMem}
/-- a fault is thrown -/
theorem c_throwJ {k w : Int} (c : CR x hi all nv sh bA f σ) (hk : -2147483648 ≤ k ∧ k ≤ 2147483647) (hw : -2147483648 ≤ w ∧ w ≤ 2147483647) : Ev ((x6_wrongJust (x + 1429) k w σ).bind (fun x9 => if mT (x9.2) (x9.1) = 25 then some ((.inr "SheetBranches$Wrong", x9.2) : gR) else none)) (fun r => r.1 = .inr "SheetBranches$Wrong" ∧ mI r.2 (x + 1429) 12 = k ∧ mI r.2 (x + 1429) 13 = w ∧ CF x σ r.2 1) := by
  have lt := c.lt
  have eA : x6_wrongJust (x + 1429) k w σ = some (mZ σ, wN (wI (wI σ (x + 1429) 12 k) (x + 1429) 13 w) 25 6) := by
    unfold x6_wrongJust
    rw [if_pos c.1.1]
    simp only [gLet, mZ_wI]
  obtain ⟨r, hr⟩ : ∃ r, r = wN (wI (wI σ (x + 1429) 12 k) (x + 1429) 13 w) 25 6 := ⟨_, rfl⟩
  rw [eA, ← hr, Option.bind_some]
  have rT : ∀ a, mT r a = if a = mZ σ then 25 else mT σ a := fun a => by rw [hr, mT_wN, mZ_wI, mZ_wI]; rfl
  have rI : ∀ a j, a ≠ mZ σ → mI r a j = mI (wI (wI σ (x + 1429) 12 k) (x + 1429) 13 w) a j := fun a j ha => by rw [hr, mI_wN, mZ_wI, mZ_wI, if_neg ha]
  refine Ev.g (by show mT r (mZ σ) = 25; rw [rT, if_pos rfl]) (Ev.r ⟨rfl, ?_, ?_, ?_⟩)
  · show mI r (x + 1429) 12 = k
    rw [rI _ _ (by omega)]
    simp (disch := omega) only [mIwI1, mIwI2, w32_i]
  · show mI r (x + 1429) 13 = w
    rw [rI _ _ (by omega)]
    simp (disch := omega) only [mIwI1, mIwI2, w32_i]
  · refine CF.one c (t := 25) (by decide) (by rw [hr]; rfl) (by rw [hr]; show mS σ + 6 ≤ _; omega) rT (fun a ha => by rw [hr, mN_wN, mZ_wI, mZ_wI, if_neg ha]; rfl) (fun a j h1 h2 => by rw [rI a j h1, mIwI1 (by omega), mIwI1 (by omega)]) (fun a j ha => by rw [hr, mL_wN, mZ_wI, mZ_wI, if_neg ha]; rfl) (fun a j ha => by rw [hr, mR_wN, mZ_wI, mZ_wI, if_neg ha]; rfl) (fun j hj => by rw [rI _ _ (by omega), mIwI1 (by omega), mIwI1 (by omega)]) (fun z => by cases z)
theorem c_throw {k w : Int} (c : CR x hi all nv sh bA f σ) (hk : -2147483648 ≤ k ∧ k ≤ 2147483647) (hw : -2147483648 ≤ w ∧ w ≤ 2147483647) : Ev ((x6_wrong (x + 1429) k w σ).bind (fun x9 => if mT (x9.2) (x9.1) = 25 then some ((.inr "SheetBranches$Wrong", x9.2) : gR) else none)) (fun r => r.1 = .inr "SheetBranches$Wrong" ∧ mI r.2 (x + 1429) 12 = k ∧ mI r.2 (x + 1429) 13 = (if w = hi then (all : Int) else w) ∧ CF x σ r.2 1) := by
  have tx := c.1.2.2.2.2.2.2.2
  have h4 := tx.2.2.2
  unfold x6_wrong
  rw [if_pos c.1.1, c.1.2.1, c.1.2.2.1]
  by_cases e : w = hi
  · rw [if_neg (fun z => z e), if_pos e]
    have := c_throwJ (k := k) (w := (all : Int)) c hk (by omega)
    cases hx : x6_wrongJust (x + 1429) k all σ with
    | none => rw [hx] at this; obtain ⟨r, h1, -⟩ := this; cases h1
    | some y => rw [hx] at this; exact this
  · rw [if_pos e, if_neg e]
    have := c_throwJ (k := k) (w := w) c hk hw
    cases hx : x6_wrongJust (x + 1429) k w σ with
    | none => rw [hx] at this; obtain ⟨r, h1, -⟩ := this; cases h1
    | some y => rw [hx] at this; exact this
theorem t_fail {k w : Int} (g : 0 ≤ mI τ h 19) (f0 : mI τ h 41 = 0) (hk : 0 < k ∧ k ≤ 2147483647) (hw : -2147483648 ≤ w ∧ w ≤ 2147483647) : Ev (tw_fail h k w τ) (fun r => mI r h 41 = k ∧ mI r h 42 = w ∧ TF (lu0 + hi) h τ r b ∧ Ex (fun a j => a = h ∧ (j = 41 ∨ j = 42)) τ r) := by
  unfold tw_fail
  have X : Ex (fun a j => a = h ∧ (j = 41 ∨ j = 42)) τ (wI (wI τ h 41 k) h 42 w) := (Ex.rf.I (by omega)).I (by omega)
  refine Ev.f (fun z => z f0) (Ev.l (Ev.l (Ev.r ⟨?_, ?_, ⟨X.mono (fun a j y => Or.inl ⟨y.1, by omega⟩), g, by rw [X.rI (by omega)]; exact Int.le_refl _, Or.inl (X.rI (by omega)), fun z => z.ex X (fun k y => by omega), fun z => ?_⟩, X⟩)))
  · simp (disch := omega) only [mIwI1, mIwI2, w32_i]
  · simp (disch := omega) only [mIwI1, mIwI2, w32_i]
  · exfalso
    have z' : mI (wI (wI τ h 41 k) h 42 w) h 41 = k := by simp (disch := omega) only [mIwI1, mIwI2, w32_i]
    omega
/-- behind a fault nothing is done -/
theorem fl_sg {l m : Int} (g : 0 < mI τ h 41) : tw_isSignOf h l m τ = some 0 := by
  unfold tw_isSignOf; rw [if_pos (by omega)]
theorem fl_part {k n : Int} (g : 0 < mI τ h 41) : ∃ v, tw_part N h k n τ = some (v, τ) := by
  unfold tw_part; rw [if_neg (by omega)]; exact ⟨_, rfl⟩
theorem fl_shut (g : 0 < mI τ h 41) : tw_readShut N h τ = some τ := by
  unfold tw_readShut; rw [if_neg (by omega)]
/-- a part and its row, as they were read from a place on -/
def OkN (x h hi all nv sh M lu0 : Nat) (bA : Nat → Int) (f : Int → List Int × List Int) (σ0 τ0 : gMem) (p0 op pa0 pi : Nat) (ar : Prop) (nd p q pa : Nat) (σ τ : gMem) : Prop :=
  S2 x h hi all nv sh M lu0 bA f σ τ p q op pa pi ∧ p0 < p ∧ pa0 < pa ∧ pa + p0 ≤ p + pa0 ∧ CF x σ0 σ (p - p0) ∧ TF (lu0 + hi) h τ0 τ (M + pa0) ∧
    ND (mI σ (x + 1429) 14 = 0) σ nd τ h nv (M + pa0) (pa - pa0) ∧ (mI σ (x + 1429) 14 = 0 → mI σ0 (x + 1429) 14 = 0) ∧ (mI τ (h + 14) (M + pa - 1) = 6 → ar)
def ErN (x h hi M lu0 : Nat) (σ0 τ0 : gMem) (p0 pa0 : Nat) (σ τ : gMem) : Prop :=
  mI τ h 41 = mI σ (x + 1429) 12 ∧ mI τ h 42 = mI σ (x + 1429) 13 ∧ 0 < mI τ h 41 ∧ CF x σ0 σ (hi + 2 - p0) ∧ TF (lu0 + hi) h τ0 τ (M + pa0)
theorem OutN.ok {σ0 τ0 : gMem} {p0 pa0 nd : Nat} {ar : Prop} (o : OkN x h hi all nv sh M lu0 bA f σ0 τ0 p0 op pa0 pi ar nd p q pa σ τ) : OutN x h hi all nv sh M lu0 bA f σ0 τ0 p0 op pa0 pi ar (.inl (some (vR nd)), σ) τ :=
  Or.inl ⟨nd, p, q, pa, rfl, o⟩
theorem OutN.er {σ0 τ0 : gMem} {p0 pa0 : Nat} {ar : Prop} (o : ErN x h hi M lu0 σ0 τ0 p0 pa0 σ τ) : OutN x h hi all nv sh M lu0 bA f σ0 τ0 p0 op pa0 pi ar (.inr "SheetBranches$Wrong", σ) τ :=
  Or.inr ⟨rfl, o⟩
/-- what comes of an answer that may be a fault -/
theorem OutN.on {α : Type} {σ0 τ0 : gMem} {p0 pa0 : Nat} {ar : Prop} {a : gR} {r2 : gMem} {k : Nat → gMem → Option gR} {y : Option α} {Φ : gR → α → Prop} (o : OutN x h hi all nv sh M lu0 bA f σ0 τ0 p0 op pa0 pi ar a r2) (hk : ∀ nd p q pa, OkN x h hi all nv sh M lu0 bA f σ0 τ0 p0 op pa0 pi ar nd p q pa a.2 r2 → E2 (k nd a.2) y Φ) (he : ErN x h hi M lu0 σ0 τ0 p0 pa0 a.2 r2 → E2 (some (.inr "SheetBranches$Wrong", a.2)) y Φ) : E2 (gThrR a k) y Φ := by
  obtain ⟨a1, a2⟩ := a
  rcases o with ⟨nd, p, q, pa, e, o⟩ | ⟨e, o⟩
  · have e' : a1 = .inl (some (vR nd)) := e
    subst e'
    exact hk nd p q pa o
  · have e' : a1 = .inr "SheetBranches$Wrong" := e
    subst e'
    exact he o
/-- the component goes on behind a token, the twin takes the next one -/
theorem S2.adv {p1 : Nat} (hN : 500 ≤ N) (S : S2 x h hi all nv sh M lu0 bA f σ τ p q op pa pi) (hp : p ≤ p1) (h1 : p1 ≤ hi) (e49 : mI τ h 49 = p1) : Ev (tw_next N h τ) (fun τ1 => ∃ q1, S2 x h hi all nv sh M lu0 bA f (wI σ (x + 1429) 6 p1) τ1 p1 q1 op pa pi ∧ TF (lu0 + hi) h τ τ1 (M + pa) ∧ (∀ a k, (∃ o, 1 ≤ o ∧ o ≤ 56 ∧ a = h + o) → mI τ1 a k = mI τ a k) ∧ CF x σ (wI σ (x + 1429) 6 p1) 0) := by
  obtain ⟨c, t, ⟨s1, s2, s3, s4⟩, ⟨t1, t2, t3, t4, t5⟩, ⟨l1, l2, l3⟩, b1, b2, b3, b4, b5, b6, b7⟩ := S
  have tx := t.1.2.2.2
  have h4 : hi ≤ 400 := by have := tx.2.2.1; have := tx.2.2.2; omega
  obtain ⟨q1, F⟩ := Fst.ex (P := isBl) tx rfl p1
  have c0 : mR τ 0 100 ≠ h := fun e => by
    have := t.2.1.ref.1
    rw [e, t.2.2.1.1] at this; cases this
  refine (t_next hN t.1 t.2.1.ref c0 (by rw [t2.2.2.1]; exact e49) F (by omega)).m (fun τ1 z => ?_)
  obtain ⟨z1, z2⟩ := z
  have e : Ex (Rq x 6) σ (wI σ (x + 1429) 6 p1) := Ex.rf.I ⟨rfl, rfl⟩
  have cf := Rq.cf c e (by omega)
  have tf : TF (lu0 + hi) h τ τ1 (M + pa) := TF.ex z1 b5 (fun a j y => Or.inl ⟨y.1, by unfold Tk at y; omega⟩)
  have nT : ∀ j, (j < 46 ∨ 55 < j) → mI τ1 h j = mI τ h j := fun j hj => z1.rI (fun y => by unfold Tk at y; omega)
  have fk : ∀ k, k ≠ 6 → mI (wI σ (x + 1429) 6 p1) (x + 1429) k = mI σ (x + 1429) k := fun k hk => e.rI (fun y => hk y.2)
  refine ⟨q1, ⟨c.cf cf, t.tf tf, ⟨by rw [mI_wI, if_pos ⟨rfl, rfl⟩, w32_i (by omega) (by omega)], by rw [fk 7 (by decide)]; exact s2, by rw [fk 8 (by decide)]; exact s3, by rw [fk 11 (by decide)]; exact s4⟩, ⟨F, z2, by rw [nT 57 (by omega)]; exact t3, by rw [nT 56 (by omega)]; exact t4, by rw [nT 41 (by omega)]; exact t5⟩, ⟨by rw [nT 58 (by omega), fk 14 (by decide)]; exact l1, by rw [nT 59 (by omega), fk 14 (by decide), fk 15 (by decide)]; exact l2, by rw [fk 14 (by decide)]; exact l3⟩, h1, b2, by omega, by omega, by rw [nT 19 (by omega)]; exact b5, by rw [nT 19 (by omega)]; omega, b7⟩, tf, fun a k ⟨o, o1, o2, o3⟩ => z1.rI (fun y => by unfold Tk at y; omega), cf⟩
theorem tk9 : tkK bA q = 9 ↔ (sgO (bA q) (bA (q + 1))).1 = 9 := by
  constructor
  · intro e
    unfold tkK at e
    split at e
    · cases e
    · split at e
      · cases e
      · split at e
        · cases e
        · split at e
          · split at e
            · cases e
            · split at e <;> cases e
          · split at e
            · cases e
            · exact e
  · intro e
    have sp : bA q = 61 ∨ bA q = 60 ∨ bA q = 62 ∨ bA q = 38 ∨ bA q = 43 ∨ bA q = 45 ∨ bA q = 42 ∨ bA q = 47 ∨ bA q = 37 := by
      by_cases z : bA q = 61 ∨ bA q = 60 ∨ bA q = 62 ∨ bA q = 38 ∨ bA q = 43 ∨ bA q = 45 ∨ bA q = 42 ∨ bA q = 47 ∨ bA q = 37
      · exact z
      · exfalso
        unfold sgO at e
        rw [if_neg (by omega), if_neg (by omega), if_neg (by omega), if_neg (by omega), if_neg (by omega), if_neg (by omega), if_neg (by omega), if_neg (by omega), if_neg (by omega)] at e
        split at e
        · cases e
        · split at e
          · cases e
          · split at e <;> cases e
    unfold tkK
    rw [if_neg (by omega), if_neg (by unfold isD; rw [decide_eq_true_iff]; omega), if_neg (by omega), if_neg (by unfold isL; rw [decide_eq_true_iff]; omega), if_neg (by unfold isRf; rw [decide_eq_true_iff]; omega)]
    exact e
/-- whether the twin sees such a sign -/
theorem t_isSignOf {l m : Int} (t2 : LX τ h bA all q) (t5 : mI τ h 41 = 0) : tw_isSignOf h l m τ = some (if (sgO (bA q) (bA (q + 1))).1 = 9 ∧ l ≤ (sgO (bA q) (bA (q + 1))).2.1 ∧ (sgO (bA q) (bA (q + 1))).2.1 ≤ m then 1 else 0) := by
  unfold tw_isSignOf
  rw [if_neg (fun z => z t5), t2.1]
  by_cases e : tkK bA q = 9
  · have e' := tk9.mp e
    rw [if_neg (fun z => z e), (t2.2.2.2.1 e).1, t_in, Option.bind_some]
    by_cases r : l ≤ (sgO (bA q) (bA (q + 1))).2.1 ∧ (sgO (bA q) (bA (q + 1))).2.1 ≤ m
    · rw [if_pos r, if_neg (by decide), if_pos ⟨e', r⟩]
    · rw [if_neg r, if_pos rfl, if_neg (fun z => r z.2)]
  · rw [if_pos e, if_neg (fun z => e (tk9.mpr z.1))]
/-- two parts of a sign join -/
theorem bin_join {σ0 τ0 σ1 τ1 σ2 τ2 : gMem} {p0 pa0 nd nd2 p1 p2 q2 pa2 sg k : Nat} {ar : Prop} (hN : 500 ≤ N) (o1 : OkN x h hi all nv sh M lu0 bA f σ0 τ0 p0 op pa0 pi False nd p q pa σ τ) (c01 : CF x σ σ1 0) (t01 : TF (lu0 + hi) h τ τ1 (M + pa)) (lt1 : mI σ1 (x + 1429) 14 = mI σ (x + 1429) 14) (hp1 : p < p1) (kk : ∀ j, j < M + pa → mI τ1 (h + 14) j = mI τ (h + 14) j) (cr1 : CR x hi all nv sh bA f σ1)
    (o2 : OkN x h hi all nv sh M lu0 bA f σ1 τ1 p1 op pa pi False nd2 p2 q2 pa2 σ2 τ2) (hk : k < 12) (hsg : sg = mR σ2 0 (20 + k)) : E2 (x6_two (x + 1429) sg nd nd2 σ2) (tw_part N h ((10 + k : Nat) : Int) 2 τ2) (fun a a2 => OkN x h hi all nv sh M lu0 bA f σ0 τ0 p0 op pa0 pi ar a.1 p2 q2 (pa2 + 1) a.2 a2.2) := by
  obtain ⟨S, a1, a2, a3, a4, a5, a6, a7, a8⟩ := o1
  obtain ⟨S', d1, d2, d3, d4, d5, d6, d7, d8⟩ := o2
  have b3 := S.2.2.2.2.2.2.2.1
  have n1' := (a6.mv (LZ' := mI σ1 (x + 1429) 14 = 0) S.1 c01 t01 (by omega) (fun z => by rw [← lt1]; exact z)).mv (LZ' := mI σ2 (x + 1429) 14 = 0) cr1 d4 d5 (by omega) d7
  have n2' : ND (mI σ2 (x + 1429) 14 = 0) σ2 nd2 τ2 h nv (M + pa0 + (pa - pa0)) (pa2 - pa) := by rw [show M + pa0 + (pa - pa0) = M + pa by omega]; exact d6
  have k1 : mI τ2 (h + 14) (M + pa0 + (pa - pa0) - 1) ≠ 6 := by
    rw [show M + pa0 + (pa - pa0) - 1 = M + pa - 1 by omega, d5.1.rI (fun y => by rcases y with y | ⟨o, z1, z2, z3, z4⟩ | y <;> omega), kk _ (by omega)]
    exact fun e => a8 e
  have k2 : mI τ2 (h + 14) (M + pa0 + (pa - pa0) + (pa2 - pa) - 1) ≠ 6 := by
    rw [show M + pa0 + (pa - pa0) + (pa2 - pa) - 1 = M + pa2 - 1 by omega]
    exact fun e => d8 e
  refine (op_two hN S' hk hsg (by omega) (b := M + pa0) (by omega) n1' n2' k1 k2).m (fun a a2' z => ?_)
  obtain ⟨z1, z2, z3, z4, z5, z6⟩ := z
  refine ⟨z1, by omega, by omega, by omega, ((a4.tr c01).tr (d4.tr z2)).mono (by omega), ((a5.tr t01 (by omega)).tr d5 (by omega)).tr z3 (by omega), ?_, fun e => ?_, fun e => ?_⟩
  · rw [show pa2 + 1 - pa0 = pa - pa0 + (pa2 - pa) + 1 by omega]; exact z4
  · rw [z5] at e
    have := d7 e
    rw [lt1] at this
    exact a7 this
  · rw [show M + (pa2 + 1) - 1 = M + pa2 by omega, z6] at e; omega
end Read8
