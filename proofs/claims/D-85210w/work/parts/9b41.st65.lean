/-! ===== PHASE 2: copying: a formula of the reference elsewhere ===== -/
section State65
variable {N h nv q d M q0 n i : Nat} {τ τ' r s : gMem} {P : Nat → Nat → Prop} {f : Int → List Int × List Int} {dr dc : Int} {l : Fm} {p : Pt}
theorem Eg {α : Type} {c : Prop} [Decidable c] {x y z : α} (h : c) (k : x = z) : (if c then x else y) = z := by rw [if_pos h]; exact k
theorem El {α : Type} {m : gMem} {f : gMem → α} {z : α} (k : f m = z) : f m = z := k
theorem Elt {α : Type} {m : gMem} {f : gMem → Option α} {z : Option α} (k : f m = z) : gLet m f = z := k
def CpC (h d a k : Nat) : Prop := h + 14 ≤ a ∧ a ≤ h + 25 ∧ k = d
/-- columns are copied, one by one -/
def CpK (h q d k : Nat) (s t : gMem) : Prop := Ex (CpC h d) s t ∧ (∀ o, 14 ≤ o → o < k → o ≠ 17 → mI t (h + o) d = mI s (h + o) q) ∧ (17 < k → mL t (h + 17) d = mL s (h + 17) q)
theorem CpK.nI {t : gMem} {o : Nat} (k : CpK h q d o s t) (ne : q ≠ d) (h1 : 14 ≤ o) (h2 : o ≤ 25) (h3 : o ≠ 17) : CpK h q d (o + 1) s (wI t (h + o) d (mI t (h + o) q)) := by
  obtain ⟨k1, k2, k3⟩ := k
  refine ⟨k1.I (by unfold CpC; omega), fun o' a1 a2 a3 => ?_, fun z => k3 (by omega)⟩
  by_cases c : o' = o
  · subst c
    rw [mIwI2 ⟨rfl, rfl⟩, w32_id (mI_rng _ _ _)]
    exact k1.rI (by unfold CpC; omega)
  · rw [mIwI1 (by omega)]; exact k2 o' a1 (by omega) a3
theorem CpK.nL {t : gMem} (k : CpK h q d 17 s t) (ne : q ≠ d) : CpK h q d 18 s (wL t (h + 17) d (mL t (h + 17) q)) := by
  obtain ⟨k1, k2, k3⟩ := k
  refine ⟨k1.L (by unfold CpC; omega), fun o' a1 a2 a3 => ?_, fun z => ?_⟩
  · rw [mI_wL]; exact k2 o' a1 (by omega) a3
  · rw [mL_wL, if_pos ⟨rfl, rfl⟩]
    have g2 : w64 (mL t (h + 17) q) = mL t (h + 17) q := w64_id (mL_rng _ _ _)
    rw [g2]; exact k1.rL (by unfold CpC; omega)
/-- one part's columns -/
theorem t_cp12 {v2 v3 : Int} {K : gMem → Option (Int × gMem)} {fu : Nat} {Φ : Int × gMem → Prop} (i25 : mI s h 25 = (M : Int)) (hq : q0 + i < 60420) (hd : M + i < 60420) (hn : i < n) (ne : q0 + i ≠ M + i)
    (hx : ∀ t, CpK h (q0 + i) (M + i) 26 s t → Ev (if mI t (h + 14) (M + i) = 5 ∨ mI t (h + 14) (M + i) = 6 then tw_copyFormula_l13_j228 N h ((q0 + 1 : Nat) : Int) v2 v3 (n : Int) (i : Int) ((M + i : Nat) : Int) (tw_copyFormula_l13 N h ((q0 + 1 : Nat) : Int) v2 v3 (n : Int) K fu) K t else tw_copyFormula_l13_j236 N h ((q0 + 1 : Nat) : Int) v2 v3 (n : Int) (i : Int) (tw_copyFormula_l13 N h ((q0 + 1 : Nat) : Int) v2 v3 (n : Int) K fu) K t) Φ) : Ev (tw_copyFormula_l13 N h ((q0 + 1 : Nat) : Int) v2 v3 (n : Int) K (fu + 1) (i : Int) s) Φ := by
  have e1 : w32 (((q0 + 1 : Nat) : Int) - 1 + (i : Int)) = ((q0 + i : Nat) : Int) := by rw [w32_i (by omega) (by omega)]; omega
  have e2 : w32 ((M : Int) + (i : Int)) = ((M + i : Nat) : Int) := by rw [w32_i (by omega) (by omega)]; omega
  have b1 : 0 ≤ ((q0 + i : Nat) : Int) ∧ ((q0 + i : Nat) : Int) < ((60420 : Nat) : Int) := by omega
  have b2 : 0 ≤ ((M + i : Nat) : Int) ∧ ((M + i : Nat) : Int) < ((60420 : Nat) : Int) := by omega
  have k14 : CpK h (q0 + i) (M + i) 14 s s := ⟨Ex.rf, fun o a1 a2 => by omega, fun z => by omega⟩
  unfold tw_copyFormula_l13
  rw [i25, e1, e2, tn, tn]
  refine Ev.f (by omega) ?_
  refine Ev.g b1 (Ev.g b2 (Ev.l ?_))
  have k15 := k14.nI (o := 14) ne (by decide) (by decide) (by decide)
  generalize wI s (h + 14) (M + i) (mI s (h + 14) (q0 + i)) = s14 at k15 ⊢
  refine Ev.g b1 (Ev.g b2 (Ev.l ?_))
  have k16 := k15.nI (o := 15) ne (by decide) (by decide) (by decide)
  generalize wI s14 (h + 15) (M + i) (mI s14 (h + 15) (q0 + i)) = s15 at k16 ⊢
  refine Ev.g b1 (Ev.g b2 (Ev.l ?_))
  have k17 := k16.nI (o := 16) ne (by decide) (by decide) (by decide)
  generalize wI s15 (h + 16) (M + i) (mI s15 (h + 16) (q0 + i)) = s16 at k17 ⊢
  refine Ev.g b1 (Ev.g b2 (Ev.l ?_))
  have k18 := k17.nL ne
  generalize wL s16 (h + 17) (M + i) (mL s16 (h + 17) (q0 + i)) = s17 at k18 ⊢
  refine Ev.g b1 (Ev.g b2 (Ev.l ?_))
  have k19 := k18.nI (o := 18) ne (by decide) (by decide) (by decide)
  generalize wI s17 (h + 18) (M + i) (mI s17 (h + 18) (q0 + i)) = s18 at k19 ⊢
  refine Ev.g b1 (Ev.g b2 (Ev.l ?_))
  have k20 := k19.nI (o := 19) ne (by decide) (by decide) (by decide)
  generalize wI s18 (h + 19) (M + i) (mI s18 (h + 19) (q0 + i)) = s19 at k20 ⊢
  refine Ev.g b1 (Ev.g b2 (Ev.l ?_))
  have k21 := k20.nI (o := 20) ne (by decide) (by decide) (by decide)
  generalize wI s19 (h + 20) (M + i) (mI s19 (h + 20) (q0 + i)) = s20 at k21 ⊢
  refine Ev.g b1 (Ev.g b2 (Ev.l ?_))
  have k22 := k21.nI (o := 21) ne (by decide) (by decide) (by decide)
  generalize wI s20 (h + 21) (M + i) (mI s20 (h + 21) (q0 + i)) = s21 at k22 ⊢
  refine Ev.g b1 (Ev.g b2 (Ev.l ?_))
  have k23 := k22.nI (o := 22) ne (by decide) (by decide) (by decide)
  generalize wI s21 (h + 22) (M + i) (mI s21 (h + 22) (q0 + i)) = s22 at k23 ⊢
  refine Ev.g b1 (Ev.g b2 (Ev.l ?_))
  have k24 := k23.nI (o := 23) ne (by decide) (by decide) (by decide)
  generalize wI s22 (h + 23) (M + i) (mI s22 (h + 23) (q0 + i)) = s23 at k24 ⊢
  refine Ev.g b1 (Ev.g b2 (Ev.l ?_))
  have k25 := k24.nI (o := 24) ne (by decide) (by decide) (by decide)
  generalize wI s23 (h + 24) (M + i) (mI s23 (h + 24) (q0 + i)) = s24 at k25 ⊢
  refine Ev.g b1 (Ev.g b2 (Ev.l ?_))
  have k26 := k25.nI (o := 25) ne (by decide) (by decide) (by decide)
  generalize wI s24 (h + 25) (M + i) (mI s24 (h + 25) (q0 + i)) = s25 at k26 ⊢
  refine Ev.g b2 ?_
  have H := hx s25 k26
  by_cases c5 : mI s25 (h + 14) (M + i) = 5
  · rw [if_pos (Or.inl c5)] at H
    exact Ev.g c5 H
  · refine Ev.f c5 (Ev.g b2 ?_)
    by_cases c6 : mI s25 (h + 14) (M + i) = 6
    · rw [if_pos (Or.inr c6)] at H
      exact Ev.f (fun z => z c6) H
    · rw [if_neg (fun z => z.elim c5 c6)] at H
      exact Ev.g c6 H
/-- a part is copied and moved -/
def PtM (τ : gMem) (h q : Nat) (r : gMem) (d : Nat) (f : Int → List Int × List Int) (dr dc : Int) (p : Pt) : Prop :=
  LabT r h d (shP f dr dc p) ∧ mI r (h + 16) d = mI τ (h + 16) q ∧ mI r (h + 18) d = mI τ (h + 18) q ∧ mI r (h + 24) d = (if (pK p = 5 ∨ pK p = 6) ∧ pK (shP f dr dc p) = 4 then 0 else mI τ (h + 24) q)
def CpR (h M n a k : Nat) : Prop := h + 14 ≤ a ∧ a ≤ h + 25 ∧ M ≤ k ∧ k < M + n
theorem PtM.ex (k : PtM τ h q r d f dr dc p) (e : Ex P r s) (hP : ∀ o, (o = 9 ∨ (14 ≤ o ∧ o ≤ 25)) → ∀ k, (o = 9 ∨ k = d) → ¬ P (h + o) k) : PtM τ h q s d f dr dc p := by
  obtain ⟨⟨l1, l2, l3, l4, ⟨at2, l5, l6, l7⟩, l8, l9, l10, l11, l12, l13, l14⟩, k2, k3, k4⟩ := k
  have nI : ∀ (o : Nat), 14 ≤ o → o ≤ 25 → mI s (h + o) d = mI r (h + o) d := fun o h1 h2 => e.rI (hP o (Or.inr ⟨h1, h2⟩) d (Or.inr rfl))
  refine ⟨⟨l1, by rw [nI 14 (by omega) (by omega)]; exact l2, by rw [nI 15 (by omega) (by omega)]; exact l3, by rw [e.rL (hP 17 (by omega) d (Or.inr rfl))]; exact l4, ⟨at2, by rw [nI 18 (by omega) (by omega)]; exact l5, l6, fun i hi => by rw [e.rI (hP 9 (Or.inl rfl) _ (Or.inl rfl))]; exact l7 i hi⟩, by rw [nI 19 (by omega) (by omega)]; exact l8, by rw [nI 20 (by omega) (by omega)]; exact l9, by rw [nI 21 (by omega) (by omega)]; exact l10, by rw [nI 22 (by omega) (by omega)]; exact l11, by rw [nI 23 (by omega) (by omega)]; exact l12, ?_, by rw [nI 25 (by omega) (by omega)]; exact l14⟩, by rw [nI 16 (by omega) (by omega)]; exact k2, by rw [nI 18 (by omega) (by omega)]; exact k3, by rw [nI 24 (by omega) (by omega)]; exact k4⟩
  rw [nI 24 (by omega) (by omega)]; exact l13
theorem t_cpF_l {K : gMem → Option (Int × gMem)} {Φ : Int × gMem → Prop} (hN : 40 ≤ N) (L : LnF τ h nv f) (i25 : mI τ h 25 = (M : Int)) (hn : n ≤ 60) (hq : q0 + n ≤ M) (hM : M ≤ 60000) (hl : ∀ i, i < n → LabT τ h (q0 + i) (l.getD i mkR) ∧ PtOk (l.getD i mkR) ∧ (∃ F : Nat, mI τ (h + 24) (q0 + i) = (F : Int) ∧ (F = pF (l.getD i mkR) ∨ F = pF (l.getD i mkR) + 16)) ∧ pW (l.getD i mkR) < nv)
    (hK : ∀ s, Ex (CpR h M n) τ s → (∀ i, i < n → PtM τ h (q0 + i) s (M + i) f dr dc (l.getD i mkR)) → Ev (K s) Φ) : ∀ (c i fu : Nat) (s : gMem), i + c = n → c < fu → Ex (CpR h M n) τ s → (∀ j, j < i → PtM τ h (q0 + j) s (M + j) f dr dc (l.getD j mkR)) → Ev (tw_copyFormula_l13 N h ((q0 + 1 : Nat) : Int) dr dc (n : Int) K fu (i : Int) s) Φ := by
  intro c
  induction c with
  | zero =>
    intro i fu s h1 h2 X hd
    obtain ⟨fu, rfl⟩ : ∃ j, fu = j + 1 := ⟨fu - 1, by omega⟩
    unfold tw_copyFormula_l13
    exact Ev.g (by omega) (hK s X (fun j hj => hd j (by omega)))
  | succ c ih =>
    intro i fu s h1 h2 X hd
    obtain ⟨fu, rfl⟩ : ∃ j, fu = j + 1 := ⟨fu - 1, by omega⟩
    obtain ⟨l1, l2, ⟨F, l3, l4⟩, l5⟩ := hl i (by omega)
    have j25 : mI s h 25 = (M : Int) := by rw [X.rI (by unfold CpR; omega)]; exact i25
    refine t_cp12 j25 (by omega) (by omega) (by omega) (by omega) (fun t k => ?_)
    obtain ⟨T1, T2', T3'⟩ := k
    have T2 : ∀ o, 14 ≤ o → o ≤ 25 → o ≠ 17 → mI t (h + o) (M + i) = mI s (h + o) (q0 + i) := fun o o1 o2 o3 => T2' o o1 (by omega) o3
    have T3 := T3' (by decide)
    -- the row that is copied lies below
    have lo : ∀ o, 14 ≤ o → o ≤ 25 → mI s (h + o) (q0 + i) = mI τ (h + o) (q0 + i) := fun o o1 o2 => X.rI (by unfold CpR; omega)
    have loL : mL s (h + 17) (q0 + i) = mL τ (h + 17) (q0 + i) := X.rL (by unfold CpR; omega)
    have t9 : ∀ k, mI t (h + 9) k = mI τ (h + 9) k := fun k => by rw [T1.rI (by unfold CpC; omega), X.rI (by unfold CpR; omega)]
    obtain ⟨a1, a2, a3, a4, ⟨at', a5, a6, a7⟩, a8, a9, a10, a11, a12, a13, a14⟩ := l1
    have V : ∀ o, 14 ≤ o → o ≤ 25 → o ≠ 17 → mI t (h + o) (M + i) = mI τ (h + o) (q0 + i) := fun o o1 o2 o3 => by rw [T2 o o1 o2 o3, lo o o1 o2]
    have lt : LabT t h (M + i) (l.getD i mkR) := ⟨by omega, by rw [V 14 (by decide) (by decide) (by decide)]; exact a2, by rw [V 15 (by decide) (by decide) (by decide)]; exact a3, by rw [T3, loL]; exact a4, ⟨at', by rw [V 18 (by decide) (by decide) (by decide)]; exact a5, a6, fun j hj => by rw [t9]; exact a7 j hj⟩, by rw [V 19 (by decide) (by decide) (by decide)]; exact a8, by rw [V 20 (by decide) (by decide) (by decide)]; exact a9, by rw [V 21 (by decide) (by decide) (by decide)]; exact a10, by rw [V 22 (by decide) (by decide) (by decide)]; exact a11, by rw [V 23 (by decide) (by decide) (by decide)]; exact a12, by rw [V 24 (by decide) (by decide) (by decide)]; exact a13, by rw [V 25 (by decide) (by decide) (by decide)]; exact a14⟩
    have Lt : LnF t h nv f := (L.ex X (fun o k o1 o2 => by unfold CpR; omega)).ex T1 (fun o k o1 o2 => by unfold CpC; omega)
    have NX : ∀ r, Ex (fun a k => h + 14 ≤ a ∧ a ≤ h + 25 ∧ k = M + i) t r → PtM τ h (q0 + i) r (M + i) f dr dc (l.getD i mkR) → Ev (tw_copyFormula_l13 N h ((q0 + 1 : Nat) : Int) dr dc (n : Int) K fu (w32 ((i : Int) + 1)) r) Φ := by
      intro r Y pm
      rw [inc32 (by omega)]
      have Z : Ex (CpC h (M + i)) s r := T1.tr Y
      refine ih (i + 1) fu r (by omega) (by omega) (X.tr (Z.mono (fun a k p => by unfold CpC at p; unfold CpR; omega))) (fun j hj => ?_)
      by_cases e : j = i
      · rw [e]; exact pm
      · exact (hd j (by omega)).ex Z (fun o ho k hk => by unfold CpC; omega)
    by_cases k56 : pK (l.getD i mkR) = 5 ∨ pK (l.getD i mkR) = 6
    · refine Ev.g (by rw [V 14 (by decide) (by decide) (by decide), a2]; omega) ?_
      unfold tw_copyFormula_l13_j228
      refine Ev.c (t_shift hN Lt lt l2 k56 (by rw [V 24 (by decide) (by decide) (by decide)]; exact l3) l4 l5) (fun r _ y => ?_)
      obtain ⟨y1, y2, y3⟩ := y
      unfold tw_copyFormula_l13_j236
      refine NX r (y1.mono (fun a k p => by unfold ShPl at p; omega)) ⟨y2, ?_, ?_, ?_⟩
      · rw [y1.rI (by unfold ShPl; omega)]; exact V 16 (by decide) (by decide) (by decide)
      · rw [y1.rI (by unfold ShPl; omega)]; exact V 18 (by decide) (by decide) (by decide)
      · rw [y3]
        by_cases c4 : pK (shP f dr dc (l.getD i mkR)) = 4
        · rw [if_pos c4, if_pos ⟨k56, c4⟩]
        · rw [if_neg c4, if_neg (fun z => c4 z.2)]; exact l3.symm
    · refine Ev.f (by rw [V 14 (by decide) (by decide) (by decide), a2]; omega) ?_
      unfold tw_copyFormula_l13_j236
      refine NX t Ex.rf ⟨?_, V 16 (by decide) (by decide) (by decide), V 18 (by decide) (by decide) (by decide), ?_⟩
      · rw [shP_same (fun z => k56 (Or.inl z)) (fun z => k56 (Or.inr z))]; exact lt
      · rw [if_neg (fun z => k56 z.1)]; exact V 24 (by decide) (by decide) (by decide)
theorem PtOk.f16 (po : PtOk p) : pF p < 16 := by
  rcases po with ⟨n, rfl, -⟩ | ⟨t, rfl, -⟩ | ⟨b, rfl⟩ | rfl | ⟨r, c, f, v, rfl, b1, b2, b3, b4⟩ | ⟨r, c, r', c', f, v, rfl, b1, b2, b3, b4, b5, b6⟩ | ⟨k, n, rfl, kk⟩
  · exact (show (0 : Nat) < 16 by decide)
  · exact (show (0 : Nat) < 16 by decide)
  · exact (show (0 : Nat) < 16 by decide)
  · exact (show (0 : Nat) < 16 by decide)
  · show f < 16; omega
  · exact b5
  · exact (show (0 : Nat) < 16 by decide)
/-- rows that end at e and at e': part by part the same -/
theorem SpT.map {b b' : Nat} : ∀ (n : Nat) (l : Fm) (i : Nat), SpT τ h n (b + i + l.length - 1) l → (∀ j p, i ≤ j → j < i + l.length → LabT τ h (b + j) p → PtOk p → LabT r h (b' + j) (shP f dr dc p)) → (∀ j, i ≤ j → j < i + l.length → mI r (h + 16) (b' + j) = mI τ (h + 16) (b + j)) → SpT r h n (b' + i + l.length - 1) (l.map (shP f dr dc)) := by
  intro n
  induction n with
  | zero => intro l i k _ _; exact k.elim
  | succ n ih =>
    intro l i k hL h16
    obtain ⟨p, ls, rfl, k2, k3, k4, k5, k6, k7, k8⟩ := k
    have len : (ls.flatten ++ [p]).length = ls.flatten.length + 1 := by simp
    have nz : ∀ x ∈ ls, x ≠ [] := by
      intro x hx
      obtain ⟨j, hj, rfl⟩ := List.getElem_of_mem hx
      have := k8 j hj
      cases n with
      | zero => exact this.elim
      | succ n =>
        obtain ⟨p', ls', e, -⟩ := this
        rw [e]; simp
    rw [len] at hL h16 k3 k6 k7 k8 ⊢
    have e1 : b + i + (ls.flatten.length + 1) - 1 = b + (i + ls.flatten.length) := by omega
    have e2 : b' + i + (ls.flatten.length + 1) - 1 = b' + (i + ls.flatten.length) := by omega
    rw [e1] at k3 k6 k7 k8
    rw [e2]
    have ml : ((ls.map (fun l => l.map (shP f dr dc))).flatten).length = ls.flatten.length := by
      rw [← List.map_flatten, List.length_map]
    refine ⟨shP f dr dc p, ls.map (fun l => l.map (shP f dr dc)), map_row, by rw [List.length_map, shP_a k4]; exact k2, hL _ p (by omega) (by omega) k3 k4, shP_ok k4, ?_, ?_, ?_, fun j hj => ?_⟩
    · rw [lab_maps nz]; exact argsOk_sh k4 k5
    · rw [h16 _ (by omega) (by omega), List.length_map, len]; exact k6
    · rw [List.length_map, len]; omega
    · have hj' : j < ls.length := by rw [List.length_map] at hj; exact hj
      have K := k8 j hj'
      rw [List.getElem_map]
      have dl : ((ls.map (fun l => l.map (shP f dr dc))).drop (j + 1)).flatten.length = (ls.drop (j + 1)).flatten.length := by
        rw [← List.map_drop, ← List.map_flatten, List.length_map]
      rw [dl]
      have sp : ls.flatten.length = (ls.take j).flatten.length + ls[j].length + (ls.drop (j + 1)).flatten.length := by
        conv => lhs; rw [← List.take_append_drop j ls]
        rw [List.drop_eq_getElem_cons hj', List.flatten_append, List.flatten_cons, List.length_append, List.length_append]; omega
      have n0 : 0 < ls[j].length := List.length_pos_iff.mpr (nz _ (List.getElem_mem hj'))
      have q1 : b + (i + ls.flatten.length) - 1 - (ls.drop (j + 1)).flatten.length = b + (i + (ls.take j).flatten.length) + ls[j].length - 1 := by omega
      have q2 : b' + (i + ls.flatten.length) - 1 - (ls.drop (j + 1)).flatten.length = b' + (i + (ls.take j).flatten.length) + ls[j].length - 1 := by omega
      rw [q1] at K
      rw [q2]
      exact ih ls[j] (i + (ls.take j).flatten.length) K (fun j' p' h1 h2 => hL j' p' (by omega) (by omega)) (fun j' h1 h2 => h16 j' (by omega) (by omega))
/-- a formula of the reference is copied -/
def CyP (h M n a k : Nat) : Prop := CpR h M n a k ∨ (a = h + 26 ∧ k = M) ∨ (a = h ∧ k = 25)
theorem t_copyFormula (hN : 100 ≤ N) (L : LnF τ h nv f) (i25 : mI τ h 25 = (M : Int)) (hM : M + l.length ≤ 60000) (hb : q0 + l.length ≤ M) (l60 : l.length ≤ 60) (h26 : mI τ (h + 26) q0 = ((l.length : Nat) : Int)) (rw0 : RwT τ h q0 nv l) (nv0 : 0 < nv) : Ev (tw_copyFormula N h ((q0 + 1 : Nat) : Int) dr dc τ) (fun r => r.1 = ((M + 1 : Nat) : Int) ∧ Ex (CyP h M l.length) τ r.2 ∧ mI r.2 h 25 = ((M + l.length : Nat) : Int) ∧ mI r.2 (h + 26) M = ((l.length : Nat) : Int) ∧ RwT r.2 h M nv (l.map (shP f dr dc))) := by
  obtain ⟨k1, k2, k3⟩ := rw0
  unfold tw_copyFormula
  rw [show (((q0 + 1 : Nat) : Int) - 1).toNat = q0 by omega, h26]
  refine Ev.g (by omega) ?_
  refine t_cpF_l (l := l) (n := l.length) (by omega) L i25 l60 hb (by omega) (fun i hi => ?_) (fun s X pm => ?_) l.length 0 N τ (by omega) (by omega) Ex.rf (fun j hj => absurd hj (Nat.not_lt_zero _))
  · obtain ⟨m1, m2, m3, m4, m5, m6⟩ := k3 i hi
    refine ⟨m1, m3, ⟨_, m4, ?_⟩, m6⟩
    split
    · exact Or.inr rfl
    · exact Or.inl rfl
  · have s25 : mI s h 25 = (M : Int) := by rw [X.rI (by unfold CpR; omega)]; exact i25
    rw [s25, tn]
    refine Ev.g (by omega) (Ev.l ?_)
    rw [mIwI1 (show ¬ (h = h + 26 ∧ 25 = M) by omega), s25, show w32 ((M : Int) + ((l.length : Nat) : Int)) = ((M + l.length : Nat) : Int) by rw [w32_i (by omega) (by omega)]; omega]
    refine Ev.l (Ev.r ?_)
    obtain ⟨r, hr⟩ : ∃ r, r = wI (wI s (h + 26) M ((l.length : Nat) : Int)) h 25 ((M + l.length : Nat) : Int) := ⟨_, rfl⟩
    have Y : Ex (fun a k => (a = h + 26 ∧ k = M) ∨ (a = h ∧ k = 25)) s r := by rw [hr]; exact (Ex.rf.I (Or.inl ⟨rfl, rfl⟩)).I (Or.inr ⟨rfl, rfl⟩)
    have r25 : mI r h 25 = ((M + l.length : Nat) : Int) := by rw [hr, mIwI2 ⟨rfl, rfl⟩, w32_i (by omega) (by omega)]
    have r26 : mI r (h + 26) M = ((l.length : Nat) : Int) := by rw [hr, mIwI1 (by omega), mIwI2 ⟨rfl, rfl⟩, w32_i (by omega) (by omega)]
    have pm' : ∀ i, i < l.length → PtM τ h (q0 + i) r (M + i) f dr dc (l.getD i mkR) := fun i hi => (pm i hi).ex Y (fun o ho k hk => by omega)
    rw [← hr, r25]
    refine ⟨?_, (X.mono (fun a k p => Or.inl p)).tr (Y.mono (fun a k p => Or.inr p)), rfl, r26, ?_, by rw [List.length_map]; exact k2, fun i hi => ?_⟩
    · show w32 (((M + l.length : Nat) : Int) - ((l.length : Nat) : Int) + 1) = _
      rw [w32_i (by omega) (by omega)]; omega
    · have := SpT.map (r := r) (f := f) (dr := dr) (dc := dc) (b := q0) (b' := M) l.length l 0 (by rw [Nat.add_zero]; exact k1) (fun j p _ hj lp po => ?_) (fun j _ hj => (pm' j (by omega)).2.1)
      · rw [Nat.add_zero] at this; rw [List.length_map]; exact this
      · have a := (pm' j (by omega)).1
        have b := (k3 j (by omega)).1
        rw [LabT.uniq lp b po.f16 (k3 j (by omega)).2.2.2.2.1]
        exact a
    · rw [List.length_map] at hi
      obtain ⟨m1, ⟨at', m2, m2'⟩, m3, m4, m5, m6⟩ := k3 i hi
      obtain ⟨p1, p2, p3, p4⟩ := pm' i hi
      have nk := shP_k (f := f) (dr := dr) (dc := dc) (l.getD i mkR)
      have x0 : (pX (shP f dr dc (l.getD i mkR))).length ≤ (pX (l.getD i mkR)).length := by
        unfold shP
        split
        · split
          · exact Nat.zero_le _
          · exact Nat.zero_le _
        · split
          · split
            · exact Nat.zero_le _
            · exact Nat.zero_le _
          · exact Nat.le_refl _
      have r19 : mI r h 19 = mI τ h 19 := by rw [Y.rI (by omega), X.rI (by unfold CpR; omega)]
      have rt := getD_map (f := f) (dr := dr) (dc := dc) hi
      rw [rt]
      refine ⟨p1, ⟨at', by rw [p3]; exact m2, by rw [r19]; omega⟩, shP_ok m3, ?_, ?_, shP_w (by omega) m6⟩
      · rw [p4, askd_map hi, m4]
        unfold askd
        rcases nk with ⟨n1, n2⟩ | ⟨n1, n2⟩
        · have pf : pF (shP f dr dc (l.getD i mkR)) = pF (l.getD i mkR) := by
            unfold shP at n1 ⊢
            split
            · split
              · rename_i c5 c6; rw [if_pos c5, if_pos c6, c5] at n1; exact absurd n1 (by decide)
              · rfl
            · split
              · split
                · rename_i c5 c6 c7; rw [if_neg c5, if_pos c6, if_pos c7, c6] at n1; exact absurd n1 (by decide)
                · rfl
              · rfl
          rw [if_neg (by omega), n1, pf]
        · rw [n1, if_pos ⟨n2, rfl⟩]
          rfl
      · rcases nk with ⟨n1, n2⟩ | ⟨n1, n2⟩
        · unfold shP
          split
          · split
            · exact (show (0 : Nat) < 16 by decide)
            · exact m5
          · split
            · split
              · exact (show (0 : Nat) < 16 by decide)
              · exact m5
            · exact m5
        · rw [n1]; exact (show (0 : Nat) < 16 by decide)
end State65
