/-! ===== PHASE 2: frames of the component, the base ===== -/
section FcBase
abbrev FQ : Type := List Nat × (List (Nat × Nat) × (List (Nat × Nat) × List Nat))
/-- q: tags of cells that may be written; arrays that may be, by owner's tag and field; reference fields that may be; tags of new cells -/
abbrev FD (q : FQ) : Prop := ∀ p, p ∈ q.2.1 → p ∉ q.2.2.1 ∧ p.1 ∉ q.2.2.2 ∧ p.1 < 100 ∧ 0 < p.1
abbrev FL (a b : FQ) : Prop := a.1 ⊆ b.1 ∧ a.2.1 ⊆ b.2.1 ∧ a.2.2.1 ⊆ b.2.2.1 ∧ a.2.2.2 ⊆ b.2.2.2
theorem FL.tr {a b c : FQ} (x : FL a b) (y : FL b c) : FL a c := ⟨fun _ h => y.1 (x.1 h), fun _ h => y.2.1 (x.2.1 h), fun _ h => y.2.2.1 (x.2.2.1 h), fun _ h => y.2.2.2 (x.2.2.2 h)⟩
theorem FL.rf {a : FQ} : FL a a := ⟨fun _ h => h, fun _ h => h, fun _ h => h, fun _ h => h⟩
/-- no owner in wa leads to the cell -/
def Pd (wa : List (Nat × Nat)) (σ : gMem) (b : Nat) : Prop := ∀ p, p ∈ wa → ∀ o, o < mZ σ → mT σ o = p.1 → mR σ o p.2 ≠ b
def FC (q : FQ) (σ σ' : gMem) : Prop :=
  mZ σ ≤ mZ σ' ∧ mS σ ≤ mS σ' ∧ gOk σ' ∧
  (∀ a, a < mZ σ → mT σ' a = mT σ a ∧ mN σ' a = mN σ a) ∧
  (∀ a, mZ σ ≤ a → a < mZ σ' → mT σ' a = 0 ∨ mT σ' a ∈ q.2.2.2) ∧
  (∀ a, a < mZ σ → mT σ a < 100 → ∀ j, (mT σ a, j) ∉ q.2.2.1 → mR σ' a j = mR σ a j) ∧
  (∀ a, a < mZ σ → mT σ a ∉ q.1 → Pd q.2.1 σ' a → ∀ j, mI σ' a j = mI σ a j ∧ mL σ' a j = mL σ a j ∧ (100 ≤ mT σ a → mR σ' a j = mR σ a j))
def TE (s s' : gMem) : Prop := ∀ a t, t ≠ 0 → mT s a = t → mT s' a = t
theorem TE.rf {s : gMem} : TE s s := fun _ _ _ h => h
theorem TE.tr {a b c : gMem} (x : TE a b) (y : TE b c) : TE a c := fun q t h k => y q t h (x q t h k)
theorem TE.x {s : gMem} {n : Nat} : TE s (wX s n) := fun _ _ _ h => h
theorem FC.rf {q : FQ} {σ : gMem} (h : gOk σ) : FC q σ σ :=
  ⟨Nat.le_refl _, Nat.le_refl _, h, fun _ _ => ⟨rfl, rfl⟩, fun a h1 h2 => absurd h2 (Nat.not_lt.mpr h1), fun _ _ _ _ _ => rfl, fun _ _ _ _ _ => ⟨rfl, rfl, fun _ => rfl⟩⟩
variable {q : FQ} {σ0 s s' : gMem}
theorem FC.le (h : FC q σ0 s) : mZ σ0 ≤ mZ s := h.1
theorem FC.ok (h : FC q σ0 s) : gOk s := h.2.2.1
theorem FC.tag (h : FC q σ0 s) {a : Nat} (ha : a < mZ σ0) : mT s a = mT σ0 a := (h.2.2.2.1 a ha).1
theorem FC.len (h : FC q σ0 s) {a : Nat} (ha : a < mZ σ0) : mN s a = mN σ0 a := (h.2.2.2.1 a ha).2
theorem FC.ref (h : FC q σ0 s) {a : Nat} (ha : a < mZ σ0) (ht : mT σ0 a < 100) {j : Nat} (hj : (mT σ0 a, j) ∉ q.2.2.1) : mR s a j = mR σ0 a j := h.2.2.2.2.2.1 a ha ht j hj
theorem FC.new (h : FC q σ0 s) {a : Nat} (h1 : mZ σ0 ≤ a) (h2 : a < mZ s) : mT s a = 0 ∨ mT s a ∈ q.2.2.2 := h.2.2.2.2.1 a h1 h2
theorem FC.cel (h : FC q σ0 s) {a : Nat} (ha : a < mZ σ0) (ht : mT σ0 a ∉ q.1) (hp : Pd q.2.1 s a) (j : Nat) : mI s a j = mI σ0 a j ∧ mL s a j = mL σ0 a j ∧ (100 ≤ mT σ0 a → mR s a j = mR σ0 a j) := h.2.2.2.2.2.2 a ha ht hp j
theorem gOk_lt (h : gOk s) {a : Nat} (ha : mT s a ≠ 0) : a < mZ s := Nat.lt_of_not_le (fun k => ha (h a k))
/-- ints or longs of one cell are written -/
theorem FC.wr1 (hs : FC q σ0 s) (a : Nat) (e : s'.2.2 = s.2.2) (h1 : ∀ b, b ≠ a → ∀ j, mI s' b j = mI s b j ∧ mL s' b j = mL s b j) (J : mZ σ0 ≤ a ∨ mT s a ∈ q.1 ∨ ∃ o t k, t ≠ 0 ∧ mT s o = t ∧ mR s o k = a ∧ (t, k) ∈ q.2.1) : FC q σ0 s' := by
  have eZ : mZ s' = mZ s := by unfold mZ; rw [e]
  have eS : mS s' = mS s := by unfold mS; rw [e]
  have eT : mT s' = mT s := by funext b; unfold mT; rw [e]
  have eN : mN s' = mN s := by funext b; unfold mN; rw [e]
  have eR : mR s' = mR s := by funext b j; unfold mR; rw [e]
  obtain ⟨g1, g2, g3, g4, g5, g6, g7⟩ := hs
  refine ⟨by rw [eZ]; exact g1, by rw [eS]; exact g2, fun b hb => by rw [eT]; exact g3 b (by rw [eZ] at hb; exact hb), fun b hb => by rw [eT, eN]; exact g4 b hb, fun b hb hc => by rw [eT]; exact g5 b hb (by rw [eZ] at hc; exact hc), fun b hb hc j hj => by rw [eR]; exact g6 b hb hc j hj, fun b hb hc hp j => ?_⟩
  have hp' : Pd q.2.1 s b := fun p hp1 o ho hT => by
    have := hp p hp1 o (by rw [eZ]; exact ho) (by rw [eT]; exact hT)
    rw [eR] at this; exact this
  have k := g7 b hb hc hp' j
  by_cases hab : b = a
  · exfalso
    rcases J with J | J | ⟨o, t, i, ht, hT, hR, hm⟩
    · omega
    · rw [← hab, (g4 b hb).1] at J; exact hc J
    · exact hp' (t, i) hm o (gOk_lt g3 (by rw [hT]; exact ht)) hT (by rw [hab]; exact hR)
  · have w := h1 b hab j
    exact ⟨w.1.trans k.1, w.2.trans k.2.1, fun hh => by rw [eR]; exact k.2.2 hh⟩
/-- references of one cell are written that is no owner -/
theorem FC.wr2 (D : FD q) (hs : FC q σ0 s) (a : Nat) (e1 : s'.1 = s.1) (e2 : s'.2.1 = s.2.1) (e : s'.2.2.2 = s.2.2.2) (h1 : ∀ b, b ≠ a → ∀ j, mR s' b j = mR s b j) (J : mZ σ0 ≤ a ∨ (100 ≤ mT s a ∧ (mT s a ∈ q.1 ∨ ∃ o t k, t ≠ 0 ∧ mT s o = t ∧ mR s o k = a ∧ (t, k) ∈ q.2.1))) : FC q σ0 s' := by
  have eZ : mZ s' = mZ s := by unfold mZ; rw [e]
  have eS : mS s' = mS s := by unfold mS; rw [e]
  have eT : mT s' = mT s := by funext b; unfold mT; rw [e]
  have eN : mN s' = mN s := by funext b; unfold mN; rw [e]
  have eI : mI s' = mI s := by funext b j; unfold mI; rw [e1]
  have eL : mL s' = mL s := by funext b j; unfold mL; rw [e2]
  have hs0 := hs
  obtain ⟨g1, g2, g3, g4, g5, g6, g7⟩ := hs
  -- the cell is no owner
  have hno : ∀ p, p ∈ q.2.1 → mT s a ≠ p.1 := by
    intro p hp hT
    have d := D p hp
    rcases J with J | J
    · by_cases hz : a < mZ s
      · rcases g5 a J hz with h0 | h0
        · omega
        · rw [hT] at h0; exact d.2.1 h0
      · have := g3 a (by omega); omega
    · omega
  refine ⟨by rw [eZ]; exact g1, by rw [eS]; exact g2, fun b hb => by rw [eT]; exact g3 b (by rw [eZ] at hb; exact hb), fun b hb => by rw [eT, eN]; exact g4 b hb, fun b hb hc => by rw [eT]; exact g5 b hb (by rw [eZ] at hc; exact hc), fun b hb hc j hj => ?_, fun b hb hc hp j => ?_⟩
  · by_cases hab : b = a
    · exfalso
      rcases J with J | ⟨J, -⟩
      · omega
      · rw [← hab, (g4 b hb).1] at J; omega
    · rw [h1 b hab]; exact g6 b hb hc j hj
  have hp' : Pd q.2.1 s b := fun p hp1 o ho hT => by
    have := hp p hp1 o (by rw [eZ]; exact ho) (by rw [eT]; exact hT)
    rw [h1 o (fun hh => hno p hp1 (by rw [← hh]; exact hT))] at this; exact this
  have k := g7 b hb hc hp' j
  refine ⟨by rw [eI]; exact k.1, by rw [eL]; exact k.2.1, fun hh => ?_⟩
  by_cases hab : b = a
  · exfalso
    rcases J with J | ⟨-, J | ⟨o, t, i, ht, hT, hR, hm⟩⟩
    · omega
    · rw [← hab, (g4 b hb).1] at J; exact hc J
    · exact hp' (t, i) hm o (gOk_lt g3 (by rw [hT]; exact ht)) hT (by rw [hab]; exact hR)
  · rw [h1 b hab]; exact k.2.2 hh
/-- a reference field of an object is written -/
theorem FC.wr3 (D : FD q) (hs : FC q σ0 s) (a i t v : Nat) (hT : mT s a = t) (ht : t < 100) (hm : (t, i) ∈ q.2.2.1) : FC q σ0 (wR s a i v) := by
  obtain ⟨g1, g2, g3, g4, g5, g6, g7⟩ := hs
  refine ⟨g1, g2, g3, g4, g5, fun b hb hc j hj => ?_, fun b hb hc hp j => ?_⟩
  · rw [mR_wR]
    by_cases hab : b = a ∧ j = i
    · exfalso; apply hj
      rw [← (g4 b hb).1, hab.1, hab.2, hT]; exact hm
    · rw [if_neg hab]; exact g6 b hb hc j hj
  have hp' : Pd q.2.1 s b := fun p hp1 o ho hT' => by
    have := hp p hp1 o ho hT'
    rw [mR_wR] at this
    by_cases hab : o = a ∧ p.2 = i
    · exfalso
      have d := D p hp1
      apply d.1
      have : p = (t, i) := by
        rw [← hab.2, ← hT, ← hab.1]
        show p = (mT s o, p.2)
        rw [show mT s o = p.1 from hT']
      rw [this]; exact hm
    · rw [if_neg hab] at this; exact this
  have k := g7 b hb hc hp' j
  refine ⟨k.1, k.2.1, fun hh => ?_⟩
  rw [mR_wR]
  by_cases hab : b = a ∧ j = i
  · exfalso
    have := (g4 b hb).1
    rw [hab.1, hT] at this
    rw [hab.1] at hh; omega
  · rw [if_neg hab]; exact k.2.2 hh
/-- new cells -/
theorem FC.wr4 (hs : FC q σ0 s) (hz : mZ s ≤ mZ s') (hS : mS s ≤ mS s') (hok : gOk s') (h1 : ∀ b, b < mZ s → mT s' b = mT s b ∧ mN s' b = mN s b ∧ ∀ j, mI s' b j = mI s b j ∧ mL s' b j = mL s b j ∧ mR s' b j = mR s b j) (h2 : ∀ b, mZ s ≤ b → b < mZ s' → mT s' b = 0 ∨ mT s' b ∈ q.2.2.2) : FC q σ0 s' := by
  obtain ⟨g1, g2, g3, g4, g5, g6, g7⟩ := hs
  refine ⟨by omega, by omega, hok, fun b hb => ?_, fun b hb hc => ?_, fun b hb hc j hj => ?_, fun b hb hc hp j => ?_⟩
  · have w := h1 b (by omega)
    exact ⟨w.1.trans (g4 b hb).1, w.2.1.trans (g4 b hb).2⟩
  · by_cases hl : b < mZ s
    · rw [(h1 b hl).1]; exact g5 b hb hl
    · exact h2 b (by omega) hc
  · rw [((h1 b (by omega)).2.2 j).2.2]; exact g6 b hb hc j hj
  have hp' : Pd q.2.1 s b := fun p hp1 o ho hT' => by
    have := hp p hp1 o (by omega) (by rw [(h1 o ho).1]; exact hT')
    rw [((h1 o ho).2.2 p.2).2.2] at this; exact this
  have k := g7 b hb hc hp' j
  have w := (h1 b (by omega)).2.2 j
  exact ⟨w.1.trans k.1, w.2.1.trans k.2.1, fun hh => w.2.2.trans (k.2.2 hh)⟩
theorem FC.x {n : Nat} (hs : FC q σ0 s) : FC q σ0 (wX s n) := by
  refine FC.wr4 hs (by rw [mZ_wX]; omega) (by rw [mS_wX]; omega) (fun b hb => hs.ok b (by rw [mZ_wX] at hb; omega)) (fun b hb => ⟨rfl, rfl, fun j => ⟨rfl, rfl, rfl⟩⟩) (fun b hb hc => Or.inl (hs.ok b hb))
theorem FC.aN {t n : Nat} (hs : FC q σ0 s) (ht : t ∈ q.2.2.2) : FC q σ0 (wN s t n) := by
  refine FC.wr4 hs (by rw [mZ_wN]; omega) (by rw [mS_wN]; omega) (fun b hb => ?_) (fun b hb => ?_) (fun b hb hc => ?_)
  · rw [mZ_wN] at hb; rw [mT_wN, if_neg (by omega)]; exact hs.ok b (by omega)
  · have e : ¬ b = mZ s := by omega
    refine ⟨by rw [mT_wN, if_neg e], by rw [mN_wN, if_neg e], fun j => ⟨by rw [mI_wN, if_neg e], by rw [mL_wN, if_neg e], by rw [mR_wN, if_neg e]⟩⟩
  · rw [mZ_wN] at hc; rw [mT_wN, if_pos (by omega)]; exact Or.inr ht
theorem FC.aK {a t : Nat} (hs : FC q σ0 s) (ht : t ∈ q.2.2.2) : FC q σ0 (wK s a t) := by
  refine FC.wr4 hs (by rw [mZ_wK]; omega) (by rw [mS_wK]; omega) (fun b hb => ?_) (fun b hb => ?_) (fun b hb hc => ?_)
  · rw [mZ_wK] at hb; rw [mT_wK, if_neg (by omega)]; exact hs.ok b (by omega)
  · have e : ¬ b = mZ s := by omega
    refine ⟨by rw [mT_wK, if_neg e], by rw [mN_wK, if_neg e], fun j => ⟨by rw [mI_wK, if_neg e], by rw [mL_wK, if_neg e], by rw [mR_wK, if_neg e]⟩⟩
  · rw [mZ_wK] at hc; rw [mT_wK, if_pos (by omega)]; exact Or.inr ht
theorem mZ_wM (σ : gMem) (r c : Nat) : mZ (wM σ r c) = mZ σ + (1 + r) := rfl
theorem mS_wM (σ : gMem) (r c : Nat) : mS (wM σ r c) = mS σ + (r + r * c) := rfl
theorem mT_wM (σ : gMem) (r c b : Nat) : mT (wM σ r c) b = if b = mZ σ then 111 else if mZ σ ≤ b ∧ b < mZ σ + (1 + r) then 110 else mT σ b := rfl
theorem mN_wM (σ : gMem) (r c b : Nat) : mN (wM σ r c) b = if b = mZ σ then r else if mZ σ ≤ b ∧ b < mZ σ + (1 + r) then c else mN σ b := rfl
theorem mR_wM (σ : gMem) (r c b j : Nat) : mR (wM σ r c) b j = if b = mZ σ then (if j < r then mZ σ + 1 + j else 0) else if mZ σ ≤ b ∧ b < mZ σ + (1 + r) then 0 else mR σ b j := rfl
theorem mI_wM (σ : gMem) (r c b j : Nat) : mI (wM σ r c) b j = if mZ σ ≤ b ∧ b < mZ σ + (1 + r) then 0 else mI σ b j := by
  unfold mI wM; dsimp only; split <;> rfl
theorem mL_wM (σ : gMem) (r c b j : Nat) : mL (wM σ r c) b j = if mZ σ ≤ b ∧ b < mZ σ + (1 + r) then 0 else mL σ b j := by
  unfold mL wM; dsimp only; split <;> rfl
theorem FC.aM {r c : Nat} (hs : FC q σ0 s) (h1 : 110 ∈ q.2.2.2) (h2 : 111 ∈ q.2.2.2) : FC q σ0 (wM s r c) := by
  refine FC.wr4 hs (by rw [mZ_wM]; omega) (by rw [mS_wM]; omega) (fun b hb => ?_) (fun b hb => ?_) (fun b hb hc => ?_)
  · rw [mZ_wM] at hb; rw [mT_wM, if_neg (by omega), if_neg (by omega)]; exact hs.ok b (by omega)
  · have e : ¬ b = mZ s := by omega
    have e2 : ¬ (mZ s ≤ b ∧ b < mZ s + (1 + r)) := by omega
    refine ⟨by rw [mT_wM, if_neg e, if_neg e2], by rw [mN_wM, if_neg e, if_neg e2], fun j => ⟨by rw [mI_wM, if_neg e2], by rw [mL_wM, if_neg e2], by rw [mR_wM, if_neg e, if_neg e2]⟩⟩
  · rw [mZ_wM] at hc; rw [mT_wM]
    by_cases e : b = mZ s
    · rw [if_pos e]; exact Or.inr h2
    · rw [if_neg e, if_pos ⟨hb, hc⟩]; exact Or.inr h1
theorem TE.aN {t n : Nat} (hs : gOk s) : TE s (wN s t n) := fun a u h0 h1 => by rw [mT_wN, if_neg (fun e => h0 (by rw [← h1, e]; exact hs _ (Nat.le_refl _)))]; exact h1
theorem TE.aK {b t : Nat} (hs : gOk s) : TE s (wK s b t) := fun a u h0 h1 => by rw [mT_wK, if_neg (fun e => h0 (by rw [← h1, e]; exact hs _ (Nat.le_refl _)))]; exact h1
theorem TE.aM {r c : Nat} (hs : gOk s) : TE s (wM s r c) := fun a u h0 h1 => by
  have ha : a < mZ s := gOk_lt hs (by rw [h1]; exact h0)
  rw [mT_wM, if_neg (by omega), if_neg (by omega)]; exact h1
variable {α : Type} {Φ : α → Prop} {K : gMem → Option α}
theorem FC.lN {t n : Nat} (hs : FC q σ0 s) (ht : t ∈ q.2.2.2) (k : ∀ s', FC q σ0 s' → TE s s' → Fo Φ (K s')) : Fo Φ (gLet (wN s t n) K) := k _ (FC.aN hs ht) (TE.aN hs.ok)
theorem FC.lK {a t : Nat} (hs : FC q σ0 s) (ht : t ∈ q.2.2.2) (k : ∀ s', FC q σ0 s' → TE s s' → Fo Φ (K s')) : Fo Φ (gLet (wK s a t) K) := k _ (FC.aK hs ht) (TE.aK hs.ok)
theorem FC.lM {r c : Nat} (hs : FC q σ0 s) (h1 : 110 ∈ q.2.2.2) (h2 : 111 ∈ q.2.2.2) (k : ∀ s', FC q σ0 s' → TE s s' → Fo Φ (K s')) : Fo Φ (gLet (wM s r c) K) := k _ (FC.aM hs h1 h2) (TE.aM hs.ok)
theorem smI {a i : Nat} {v : Int} : ∀ b, b ≠ a → ∀ j, mI (wI s a i v) b j = mI s b j ∧ mL (wI s a i v) b j = mL s b j := fun b hb j => ⟨by rw [mI_wI, if_neg (fun e => hb e.1)], rfl⟩
theorem smL {a i : Nat} {v : Int} : ∀ b, b ≠ a → ∀ j, mI (wL s a i v) b j = mI s b j ∧ mL (wL s a i v) b j = mL s b j := fun b hb j => ⟨rfl, by rw [mL_wL, if_neg (fun e => hb e.1)]⟩
theorem smR {a i v : Nat} : ∀ b, b ≠ a → ∀ j, mR (wR s a i v) b j = mR s b j := fun b hb j => by rw [mR_wR, if_neg (fun e => hb e.1)]
theorem smCI {c x a y n : Nat} : ∀ b, b ≠ a → ∀ j, mI (wCI s c x a y n) b j = mI s b j ∧ mL (wCI s c x a y n) b j = mL s b j := fun b hb j => ⟨by rw [mI_wCI, if_neg (fun e => hb e.1)], rfl⟩
theorem smCL {c x a y n : Nat} : ∀ b, b ≠ a → ∀ j, mI (wCL s c x a y n) b j = mI s b j ∧ mL (wCL s c x a y n) b j = mL s b j := fun b hb j => ⟨rfl, by rw [mL_wCL, if_neg (fun e => hb e.1)]⟩
theorem smCR {c x a y n : Nat} : ∀ b, b ≠ a → ∀ j, mR (wCR s c x a y n) b j = mR s b j := fun b hb j => by rw [mR_wCR, if_neg (fun e => hb e.1)]
theorem FC.lIf {a i : Nat} {v : Int} (_ : FD q) (hs : FC q σ0 s) (g : mZ σ0 ≤ a) (k : ∀ s', FC q σ0 s' → TE s s' → Fo Φ (K s')) : Fo Φ (gLet (wI s a i v) K) := k _ (FC.wr1 hs a rfl smI (Or.inl g)) TE.rf
theorem FC.lLf {a i : Nat} {v : Int} (_ : FD q) (hs : FC q σ0 s) (g : mZ σ0 ≤ a) (k : ∀ s', FC q σ0 s' → TE s s' → Fo Φ (K s')) : Fo Φ (gLet (wL s a i v) K) := k _ (FC.wr1 hs a rfl smL (Or.inl g)) TE.rf
theorem FC.lCIf {c x a y n : Nat} (_ : FD q) (hs : FC q σ0 s) (g : mZ σ0 ≤ a) (k : ∀ s', FC q σ0 s' → TE s s' → Fo Φ (K s')) : Fo Φ (gLet (wCI s c x a y n) K) := k _ (FC.wr1 hs a rfl smCI (Or.inl g)) TE.rf
theorem FC.lRf {a i v : Nat} (D : FD q) (hs : FC q σ0 s) (g : mZ σ0 ≤ a) (k : ∀ s', FC q σ0 s' → TE s s' → Fo Φ (K s')) : Fo Φ (gLet (wR s a i v) K) := k _ (FC.wr2 D hs a rfl rfl rfl smR (Or.inl g)) TE.rf
theorem FC.lCRf {c x a y n : Nat} (D : FD q) (hs : FC q σ0 s) (g : mZ σ0 ≤ a) (k : ∀ s', FC q σ0 s' → TE s s' → Fo Φ (K s')) : Fo Φ (gLet (wCR s c x a y n) K) := k _ (FC.wr2 D hs a rfl rfl rfl smCR (Or.inl g)) TE.rf
theorem FC.lIp {o f i t : Nat} {v : Int} (D : FD q) (hs : FC q σ0 s) (hT : mT s o = t) (hm : (t, f) ∈ q.2.1) (k : ∀ s', FC q σ0 s' → TE s s' → Fo Φ (K s')) : Fo Φ (gLet (wI s (mR s o f) i v) K) := k _ (FC.wr1 hs (mR s o f) rfl smI (Or.inr (Or.inr ⟨o, t, f, Nat.ne_of_gt (D _ hm).2.2.2, hT, rfl, hm⟩))) TE.rf
theorem FC.lLp {o f i t : Nat} {v : Int} (D : FD q) (hs : FC q σ0 s) (hT : mT s o = t) (hm : (t, f) ∈ q.2.1) (k : ∀ s', FC q σ0 s' → TE s s' → Fo Φ (K s')) : Fo Φ (gLet (wL s (mR s o f) i v) K) := k _ (FC.wr1 hs (mR s o f) rfl smL (Or.inr (Or.inr ⟨o, t, f, Nat.ne_of_gt (D _ hm).2.2.2, hT, rfl, hm⟩))) TE.rf
theorem FC.lCIp {c x o f y n t : Nat} (D : FD q) (hs : FC q σ0 s) (hT : mT s o = t) (hm : (t, f) ∈ q.2.1) (k : ∀ s', FC q σ0 s' → TE s s' → Fo Φ (K s')) : Fo Φ (gLet (wCI s c x (mR s o f) y n) K) := k _ (FC.wr1 hs (mR s o f) rfl smCI (Or.inr (Or.inr ⟨o, t, f, Nat.ne_of_gt (D _ hm).2.2.2, hT, rfl, hm⟩))) TE.rf
theorem FC.lCLp {c x o f y n t : Nat} (D : FD q) (hs : FC q σ0 s) (hT : mT s o = t) (hm : (t, f) ∈ q.2.1) (k : ∀ s', FC q σ0 s' → TE s s' → Fo Φ (K s')) : Fo Φ (gLet (wCL s c x (mR s o f) y n) K) := k _ (FC.wr1 hs (mR s o f) rfl smCL (Or.inr (Or.inr ⟨o, t, f, Nat.ne_of_gt (D _ hm).2.2.2, hT, rfl, hm⟩))) TE.rf
theorem FC.lRp {o f i t u v : Nat} (D : FD q) (hs : FC q σ0 s) (hT : mT s o = t) (hm : (t, f) ∈ q.2.1) (hu : mT s (mR s o f) = u) (h1 : 100 ≤ u) (k : ∀ s', FC q σ0 s' → TE s s' → Fo Φ (K s')) : Fo Φ (gLet (wR s (mR s o f) i v) K) := k _ (FC.wr2 D hs (mR s o f) rfl rfl rfl smR (Or.inr ⟨by rw [hu]; exact h1, Or.inr ⟨o, t, f, Nat.ne_of_gt (D _ hm).2.2.2, hT, rfl, hm⟩⟩)) TE.rf
theorem FC.lIo {a i t : Nat} {v : Int} (hs : FC q σ0 s) (hT : mT s a = t) (hm : t ∈ q.1) (k : ∀ s', FC q σ0 s' → TE s s' → Fo Φ (K s')) : Fo Φ (gLet (wI s a i v) K) := k _ (FC.wr1 hs a rfl smI (Or.inr (Or.inl (by rw [hT]; exact hm)))) TE.rf
theorem FC.lLo {a i t : Nat} {v : Int} (hs : FC q σ0 s) (hT : mT s a = t) (hm : t ∈ q.1) (k : ∀ s', FC q σ0 s' → TE s s' → Fo Φ (K s')) : Fo Φ (gLet (wL s a i v) K) := k _ (FC.wr1 hs a rfl smL (Or.inr (Or.inl (by rw [hT]; exact hm)))) TE.rf
theorem FC.lCIo {c x a y n t : Nat} (hs : FC q σ0 s) (hT : mT s a = t) (hm : t ∈ q.1) (k : ∀ s', FC q σ0 s' → TE s s' → Fo Φ (K s')) : Fo Φ (gLet (wCI s c x a y n) K) := k _ (FC.wr1 hs a rfl smCI (Or.inr (Or.inl (by rw [hT]; exact hm)))) TE.rf
theorem FC.lRo {a i t v : Nat} (D : FD q) (hs : FC q σ0 s) (hT : mT s a = t) (h1 : 100 ≤ t) (hm : t ∈ q.1) (k : ∀ s', FC q σ0 s' → TE s s' → Fo Φ (K s')) : Fo Φ (gLet (wR s a i v) K) := k _ (FC.wr2 D hs a rfl rfl rfl smR (Or.inr ⟨by rw [hT]; exact h1, Or.inl (by rw [hT]; exact hm)⟩)) TE.rf
theorem FC.lRr {a i t v : Nat} (D : FD q) (hs : FC q σ0 s) (hT : mT s a = t) (ht : t < 100) (hm : (t, i) ∈ q.2.2.1) (k : ∀ s', FC q σ0 s' → TE s s' → Fo Φ (K s')) : Fo Φ (gLet (wR s a i v) K) := k _ (FC.wr3 D hs a i t v hT ht hm) TE.rf
end FcBase
section FcThr
variable {q : FQ} {σ0 τ : gMem} {α : Type} {Φ : α → Prop}
theorem Fo.te {m m' : gMem} {π : α → gMem} {x : Option α} (h : TE m m') (k : Fo (fun r => FC q σ0 (π r) ∧ TE m' (π r)) x) : Fo (fun r => FC q σ0 (π r) ∧ TE m (π r)) x := fun r e => ⟨(k r e).1, TE.tr h (k r e).2⟩
theorem Fo.gThrI {p : gR} {K : Int → gMem → Option gR} (h : FC q σ0 p.2 ∧ TE τ p.2) (k : ∀ x s, s = p.2 → Fo (fun r => FC q σ0 r.2 ∧ TE τ r.2) (K x s)) : Fo (fun r => FC q σ0 r.2 ∧ TE τ r.2) (gThrI p K) := by
  obtain ⟨r, s⟩ := p
  rcases r with (_ | x | x | x) | E
  · exact Fo.none
  · exact k x s rfl
  · exact Fo.none
  · exact Fo.none
  · exact Fo.some h
theorem Fo.gThrR {p : gR} {K : Nat → gMem → Option gR} (h : FC q σ0 p.2 ∧ TE τ p.2) (k : ∀ x s, s = p.2 → Fo (fun r => FC q σ0 r.2 ∧ TE τ r.2) (K x s)) : Fo (fun r => FC q σ0 r.2 ∧ TE τ r.2) (gThrR p K) := by
  obtain ⟨r, s⟩ := p
  rcases r with (_ | x | x | x) | E
  · exact Fo.none
  · exact Fo.none
  · exact Fo.none
  · exact k x s rfl
  · exact Fo.some h
theorem Fo.gThrV {p : gR} {K : gMem → Option gR} (h : FC q σ0 p.2 ∧ TE τ p.2) (k : ∀ s, s = p.2 → Fo (fun r => FC q σ0 r.2 ∧ TE τ r.2) (K s)) : Fo (fun r => FC q σ0 r.2 ∧ TE τ r.2) (gThrV p K) := by
  obtain ⟨r, s⟩ := p
  rcases r with (_ | x | x | x) | E
  · exact k s rfl
  · exact Fo.none
  · exact Fo.none
  · exact Fo.none
  · exact Fo.some h
theorem Fo.gTryI {p : gR} {K : Int → gMem → Option α} {H : String → gMem → Option α} (k : ∀ x s, s = p.2 → Fo Φ (K x s)) (h : ∀ E s, s = p.2 → Fo Φ (H E s)) : Fo Φ (gTryI p K H) := by
  obtain ⟨r, s⟩ := p
  rcases r with (_ | x | x | x) | E
  · exact Fo.none
  · exact k x s rfl
  · exact Fo.none
  · exact Fo.none
  · exact h E s rfl
theorem Fo.gTryV {p : gR} {K : gMem → Option α} {H : String → gMem → Option α} (k : ∀ s, s = p.2 → Fo Φ (K s)) (h : ∀ E s, s = p.2 → Fo Φ (H E s)) : Fo Φ (gTryV p K H) := by
  obtain ⟨r, s⟩ := p
  rcases r with (_ | x | x | x) | E
  · exact k s rfl
  · exact Fo.none
  · exact Fo.none
  · exact Fo.none
  · exact h E s rfl
end FcThr
