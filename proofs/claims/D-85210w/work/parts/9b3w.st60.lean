/-! ===== PHASE 2: copying: what a formula becomes elsewhere ===== -/
section State60
variable {f : Int → List Int × List Int} {dr dc : Int}
/-- the mark so many lines further on, -1 if there is none -/
def mvd (L : List Int) (m d : Int) : Int := if pl L m = -1 then -1 else if 0 ≤ w32 (pl L m + d) ∧ w32 (pl L m + d) < L.length then gl L (w32 (pl L m + d)).toNat else -1
def fxR1 (k : Nat) : Bool := decide (k / 2 % 2 = 1)
def fxC1 (k : Nat) : Bool := decide (k % 2 = 1)
def mvx (b : Bool) (L : List Int) (m d : Int) : Int := if b then m else mvd L m d
/-- a part elsewhere -/
def shP (f : Int → List Int × List Int) (dr dc : Int) (p : Pt) : Pt :=
  if pK p = 5 then (if mvx (fxR1 (pF p)) (f (pW p)).1 (pR1 p) dr < 0 ∨ mvx (fxC1 (pF p)) (f (pW p)).2 (pC1 p) dc < 0 then mkR
    else mkS (mvx (fxR1 (pF p)) (f (pW p)).1 (pR1 p) dr) (mvx (fxC1 (pF p)) (f (pW p)).2 (pC1 p) dc) (pF p) (pW p))
  else if pK p = 6 then (if mvx (fxR1 (pF p)) (f (pW p)).1 (pR1 p) dr < 0 ∨ mvx (fxC1 (pF p)) (f (pW p)).2 (pC1 p) dc < 0 ∨ mvx (fxR1 (pF p / 4)) (f (pW p)).1 (pR2 p) dr < 0 ∨ mvx (fxC1 (pF p / 4)) (f (pW p)).2 (pC2 p) dc < 0 then mkR
    else mkA (mvx (fxR1 (pF p)) (f (pW p)).1 (pR1 p) dr) (mvx (fxC1 (pF p)) (f (pW p)).2 (pC1 p) dc) (mvx (fxR1 (pF p / 4)) (f (pW p)).1 (pR2 p) dr) (mvx (fxC1 (pF p / 4)) (f (pW p)).2 (pC2 p) dc) (pF p) (pW p))
  else p
theorem shP_k (p : Pt) : (pK (shP f dr dc p) = pK p ∧ (pK p ≠ 5 → pK p ≠ 6 → shP f dr dc p = p)) ∨ (shP f dr dc p = mkR ∧ (pK p = 5 ∨ pK p = 6)) := by
  unfold shP
  by_cases c5 : pK p = 5
  · rw [if_pos c5]
    split
    · exact Or.inr ⟨rfl, Or.inl c5⟩
    · exact Or.inl ⟨c5.symm, fun z => absurd c5 z⟩
  · rw [if_neg c5]
    by_cases c6 : pK p = 6
    · rw [if_pos c6]
      split
      · exact Or.inr ⟨rfl, Or.inr c6⟩
      · exact Or.inl ⟨c6.symm, fun _ z => absurd c6 z⟩
    · rw [if_neg c6]; exact Or.inl ⟨rfl, fun _ _ => rfl⟩
theorem shP_same {p : Pt} (h5 : pK p ≠ 5) (h6 : pK p ≠ 6) : shP f dr dc p = p := by
  unfold shP; rw [if_neg h5, if_neg h6]
theorem shP_a {p : Pt} (po : PtOk p) : pA (shP f dr dc p) = pA p := by
  rcases shP_k (f := f) (dr := dr) (dc := dc) p with ⟨k1, k2⟩ | ⟨k1, k2⟩
  · by_cases c : pK p = 5 ∨ pK p = 6
    · have e : pA p = 0 := by
        rcases po with ⟨n, rfl, -⟩ | ⟨t, rfl, -⟩ | ⟨b, rfl⟩ | rfl | ⟨r, c, f, v, rfl, -⟩ | ⟨r, c, r', c', f, v, rfl, -⟩ | ⟨k, n, rfl, kk⟩
        · rfl
        · rfl
        · rfl
        · rfl
        · rfl
        · rfl
        · have : pK (mkO k n) = k := rfl
          omega
      rw [e]
      unfold shP
      rcases c with c | c
      · rw [if_pos c]; split <;> rfl
      · rw [if_neg (by omega), if_pos c]; split <;> rfl
    · rw [k2 (fun z => c (Or.inl z)) (fun z => c (Or.inr z))]
  · rw [k1]
    rcases po with ⟨n, rfl, -⟩ | ⟨t, rfl, -⟩ | ⟨b, rfl⟩ | rfl | ⟨r, c, f, v, rfl, -⟩ | ⟨r, c, r', c', f, v, rfl, -⟩ | ⟨k, n, rfl, kk⟩
    · rfl
    · rfl
    · rfl
    · rfl
    · rfl
    · rfl
    · have : pK (mkO k n) = k := rfl
      omega
theorem shP_kk {p : Pt} : pK (shP f dr dc p) = 6 → pK p = 6 := by
  intro e
  rcases shP_k (f := f) (dr := dr) (dc := dc) p with ⟨k1, -⟩ | ⟨k1, -⟩
  · rw [← k1]; exact e
  · rw [k1] at e; cases e
theorem shP_nk {p : Pt} : pK (shP f dr dc p) = pK p ∨ (pK (shP f dr dc p) = 4 ∧ (pK p = 5 ∨ pK p = 6)) := by
  rcases shP_k (f := f) (dr := dr) (dc := dc) p with ⟨k1, -⟩ | ⟨k1, k2⟩
  · exact Or.inl k1
  · rw [k1]; exact Or.inr ⟨rfl, k2⟩
theorem mvx_lt {b : Bool} {L : List Int} {m d : Int} (hm : 0 ≤ m) (hL : ∀ i, 0 ≤ gl L i) : (mvx b L m d < 0 ↔ mvx b L m d = -1) := by
  unfold mvx mvd
  split
  · omega
  · split
    · omega
    · split
      · have := hL (w32 (pl L m + d)).toNat; omega
      · omega
theorem shP_ok {p : Pt} (po : PtOk p) : PtOk (shP f dr dc p) := by
  by_cases c5 : pK p = 5
  · unfold shP
    rw [if_pos c5]
    split
    · exact Or.inr (Or.inr (Or.inr (Or.inl rfl)))
    · rename_i hc
      rcases po with ⟨n, rfl, -⟩ | ⟨t, rfl, -⟩ | ⟨b, rfl⟩ | rfl | ⟨r, c, f, v, rfl, b1, b2, b3, b4, b5⟩ | ⟨r, c, r', c', f, v, rfl, -⟩ | ⟨k, n, rfl, kk⟩
      · cases c5
      · cases c5
      · cases c5
      · cases c5
      · exact Or.inr (Or.inr (Or.inr (Or.inr (Or.inl ⟨_, _, _, _, rfl, by omega, by omega, b3, b4, b5⟩))))
      · cases c5
      · have : pK (mkO k n) = k := rfl
        omega
  · by_cases c6 : pK p = 6
    · unfold shP
      rw [if_neg c5, if_pos c6]
      split
      · exact Or.inr (Or.inr (Or.inr (Or.inl rfl)))
      · rename_i hc
        rcases po with ⟨n, rfl, -⟩ | ⟨t, rfl, -⟩ | ⟨b, rfl⟩ | rfl | ⟨r, c, f, v, rfl, -⟩ | ⟨r, c, r', c', f, v, rfl, b1, b2, b3, b4, b5, b6, b7⟩ | ⟨k, n, rfl, kk⟩
        · cases c6
        · cases c6
        · cases c6
        · cases c6
        · cases c6
        · exact Or.inr (Or.inr (Or.inr (Or.inr (Or.inr (Or.inl ⟨_, _, _, _, _, _, rfl, by omega, by omega, by omega, by omega, b5, b6, b7⟩)))))
        · have : pK (mkO k n) = k := rfl
          omega
    · rw [shP_same c5 c6]; exact po
theorem shP_w {p : Pt} {nv : Int} (h0 : 0 < nv) (h : pW p < nv) : pW (shP f dr dc p) < nv := by
  unfold shP
  split
  · split
    · show (-1 : Int) < nv; omega
    · exact h
  · split
    · split
      · show (-1 : Int) < nv; omega
      · exact h
    · exact h
theorem takes_sh {k i : Nat} {p : Pt} (h : takes k i p = true) : takes k i (shP f dr dc p) = true := by
  have e := shP_nk (f := f) (dr := dr) (dc := dc) (p := p)
  unfold takes at h ⊢
  by_cases c1 : ((k = 45 ∨ k = 47) ∧ i = 0) ∨ (k = 46 ∧ i = 1)
  · rw [if_pos c1] at h ⊢
    have := of_decide_eq_true h
    exact decide_eq_true (by omega)
  · rw [if_neg c1] at h ⊢
    by_cases c2 : k = 41 ∨ k = 42
    · rw [if_pos c2] at h ⊢
      have := of_decide_eq_true h
      exact decide_eq_true (by omega)
    · rw [if_neg c2] at h ⊢
      rcases Bool.or_eq_true_iff.mp h with h | h
      · have := of_decide_eq_true h
        exact Bool.or_eq_true_iff.mpr (Or.inl (decide_eq_true (by omega)))
      · exact Bool.or_eq_true_iff.mpr (Or.inr h)
theorem argsOk_sh {p : Pt} {qs : List Pt} (po : PtOk p) (h : argsOk p qs) : argsOk (shP f dr dc p) (qs.map (shP f dr dc)) := by
  have ea := shP_a (f := f) (dr := dr) (dc := dc) po
  rcases shP_k (f := f) (dr := dr) (dc := dc) p with ⟨k1, k2⟩ | ⟨k1, k2⟩
  · by_cases c : pK p ≤ 6
    · unfold argsOk at h ⊢
      rw [if_pos c] at h
      rw [if_pos (by omega), ea]; exact h
    · have e := k2 (by omega) (by omega)
      have nk : ∀ q ∈ qs.map (shP f dr dc), (∀ q ∈ qs, pK q ≠ 6) → pK q ≠ 6 := fun q hq hh => by
        obtain ⟨q', hq', rfl⟩ := List.mem_map.mp hq
        exact fun z => hh q' hq' (shP_kk z)
      rw [e]
      unfold argsOk at h ⊢
      rw [if_neg c] at h ⊢
      by_cases c7 : pK p = 7
      · rw [if_pos c7] at h ⊢
        exact ⟨h.1, fun q hq => nk q hq h.2⟩
      · rw [if_neg c7] at h ⊢
        by_cases c30 : pK p < 30
        · rw [if_pos c30] at h ⊢
          exact ⟨h.1, fun q hq => nk q hq h.2⟩
        · rw [if_neg c30] at h ⊢
          refine ⟨h.1, h.2.1, fun i hi => ?_⟩
          rw [List.length_map] at hi
          rw [List.getElem_map]
          exact takes_sh (h.2.2 i hi)
  · unfold argsOk at h ⊢
    rw [if_pos (by omega)] at h
    rw [k1]
    rfl
theorem lab_map {l : Fm} (h : l ≠ []) : lab (l.map (shP f dr dc)) = shP f dr dc (lab l) := by
  unfold lab
  rw [List.getLast?_map]
  cases e : l.getLast? with
  | none => exact absurd (List.getLast?_eq_none_iff.mp e) h
  | some p => rfl
theorem map_row {ls : List Fm} {p : Pt} : (ls.flatten ++ [p]).map (shP f dr dc) = (ls.map (fun l => l.map (shP f dr dc))).flatten ++ [shP f dr dc p] := by
  rw [List.map_append, List.map_flatten]; rfl
theorem lab_maps {ls : List Fm} (h : ∀ l ∈ ls, l ≠ []) : (ls.map (fun l => l.map (shP f dr dc))).map lab = (ls.map lab).map (shP f dr dc) := by
  rw [List.map_map, List.map_map]
  exact List.map_congr_left (fun l hl => lab_map (h l hl))
theorem nextRC_map (l : Fm) : nextRC (l.map (shP f dr dc)) = nextRC l := by
  cases l with
  | nil => rfl
  | cons p l =>
    show decide (pK (shP f dr dc p) = 41 ∨ pK (shP f dr dc p) = 42) = decide (pK p = 41 ∨ pK p = 42)
    have e := shP_nk (f := f) (dr := dr) (dc := dc) (p := p)
    exact decide_eq_decide.mpr (by omega)
theorem getD_map {l : Fm} {i : Nat} (h : i < l.length) : (l.map (shP f dr dc)).getD i mkR = shP f dr dc (l.getD i mkR) := by
  rw [List.getD_eq_getElem?_getD, List.getD_eq_getElem?_getD, List.getElem?_map, List.getElem?_eq_getElem h]; rfl
theorem askd_map {l : Fm} {i : Nat} (h : i < l.length) : askd (l.map (shP f dr dc)) i = (decide (pK (shP f dr dc (l.getD i mkR)) = 5) && nextRC (l.drop (i + 1))) := by
  unfold askd
  rw [getD_map h, ← List.map_drop, nextRC_map]
end State60
