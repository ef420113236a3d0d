/-! ===== PHASE 2, the plain law: values of a sheet ===== -/
section SpecSheetVal
/-- a content: a plain value, or a formula; nothing is (vE, []) -/
abbrev Ct : Type := Vl × Fm
def leadL (cx : Cx) (p : Pt) (xs : List (Pt × List Nat)) : List Nat :=
  if pK p = 5 then (if pW p < 0 ∧ 0 ≤ cxSpot cx p then [(cxSpot cx p).toNat] else [])
  else if pK p = 6 then (if pW p < 0 then (cxArea cx p).getD [] else [])
  else if pK p = 41 ∨ pK p = 42 then [] else (xs.map Prod.snd).flatten
/-- cells of the own sheet that a formula looks at -/
def leadsF (cx : Cx) (l : Fm) : List Nat := fv (leadL cx) l
def Ag (cx cx' : Cx) (q : Pt) : Prop := pK q = 6 → ∀ cs, cxArea cx q = some cs → cs.map (cx.2 (pW q)) = cs.map (cx'.2 (pW q))
variable {f : Int → List Int × List Int} {g g' : Int → Nat → Vl}
theorem mStep_eq {k : Nat} {x : Pt × Vl} {acc : List Int} (h : Ag (f, g) (f, g') x.1) : mStep (f, g) k x acc = mStep (f, g') k x acc := by
  unfold mStep
  by_cases c : pK x.1 = 6
  · rw [if_pos c, if_pos c]
    have e : cxArea (f, g') x.1 = cxArea (f, g) x.1 := rfl
    rw [e]
    cases hc : cxArea (f, g) x.1 with
    | none => rfl
    | some cs =>
      have := h c cs hc
      dsimp only at this ⊢
      rw [this]
  · rw [if_neg c, if_neg c]; rfl
theorem mArgs_eq {k : Nat} : ∀ (xs : List (Pt × Vl)) (acc : List Int), (∀ x ∈ xs, Ag (f, g) (f, g') x.1) → mArgs (f, g) k xs acc = mArgs (f, g') k xs acc := by
  intro xs
  induction xs with
  | nil => intro acc _; rfl
  | cons x xs ih =>
    intro acc h
    unfold mArgs
    rw [mStep_eq (h x List.mem_cons_self)]
    cases mStep (f, g') k x acc with
    | inl e => rfl
    | inr a => exact ih a (fun y hy => h y (List.mem_cons_of_mem _ hy))
theorem evLook_eq {k : Nat} {q : Pt} {key : Vl} (h : Ag (f, g) (f, g') q) : evLook (f, g) k q key = evLook (f, g') k q key := by
  unfold evLook
  by_cases c4 : key.1 = 4
  · rw [if_pos c4, if_pos c4]
  · rw [if_neg c4, if_neg c4]
    by_cases c : pK q = 6
    · rw [if_neg (show ¬ pK q ≠ 6 from fun z => z c), if_neg (show ¬ pK q ≠ 6 from fun z => z c)]
      have e : cxArea (f, g') q = cxArea (f, g) q := rfl
      rw [e]
      cases hc : cxArea (f, g) q with
      | none => rfl
      | some cs =>
        have := h c cs hc
        dsimp only at this ⊢
        rw [this]
    · rw [if_pos (show pK q ≠ 6 from c), if_pos (show pK q ≠ 6 from c)]
theorem xp_ag {xs : List (Pt × Vl)} (h : ∀ x ∈ xs, Ag (f, g) (f, g') x.1) (i : Nat) : Ag (f, g) (f, g') (xp xs i) := by
  unfold xp
  by_cases c : i < xs.length
  · rw [getD_at _ c]; exact h _ (List.getElem_mem c)
  · rw [List.getD_eq_getElem?_getD, List.getElem?_eq_none (by omega)]
    intro e; exact absurd e (by show ¬ pK mkR = 6; decide)
theorem evCall_eq {k : Nat} {xs : List (Pt × Vl)} (h : ∀ x ∈ xs, Ag (f, g) (f, g') x.1) : evCall (f, g) k xs = evCall (f, g') k xs := by
  unfold evCall
  rw [evLook_eq (xp_ag h 1), evLook_eq (xp_ag h 0)]
  have : evMany (f, g) k xs = evMany (f, g') k xs := by unfold evMany; rw [mArgs_eq xs [] h]
  rw [this]; rfl
theorem leads_area {cx : Cx} {n : Nat} {y : Fm} (w : Wf n y) (h6 : pK (lab y) = 6) : leadsF cx y = if pW (lab y) < 0 then (cxArea cx (lab y)).getD [] else [] := by
  cases n with
  | zero => exact w.elim
  | succ n =>
    obtain ⟨p, ls, rfl, h2, h3, h4, h5⟩ := w
    rw [lab_app] at h6 ⊢
    unfold leadsF
    rw [fv_eq _ h2 h5]
    unfold leadL
    rw [if_neg (by omega), if_pos h6]
theorem Wf.ptok {n : Nat} {y : Fm} (w : Wf n y) : PtOk (lab y) := by
  cases n with
  | zero => exact w.elim
  | succ n =>
    obtain ⟨p, ls, rfl, h2, h3, h4, h5⟩ := w
    rw [lab_app]; exact h3
theorem evPlace_eq {k : Nat} {q : Pt} : evPlace (f, g) k q = evPlace (f, g') k q := rfl
theorem evCall_pl {cx : Cx} {k : Nat} {xs : List (Pt × Vl)} (c : k = 41 ∨ k = 42) : evCall cx k xs = evPlace cx k (xp xs 0) := by
  unfold evCall
  rw [if_neg (show ¬ k = 30 by omega), if_neg (show ¬ (31 ≤ k ∧ k ≤ 36) by omega), if_pos c]
theorem xp0_lab {F G : Fm → Vl} (ls : List Fm) : xp (ls.map (fun y => (lab y, F y))) 0 = xp (ls.map (fun y => (lab y, G y))) 0 := by cases ls <;> rfl
theorem evA_5 {cx : Cx} {p : Pt} {xs : List (Pt × Vl)} (c : pK p = 5) : evA cx p xs = if cxSpot cx p < 0 then vErr 1 else cx.2 (pW p) (cxSpot cx p).toNat := by
  unfold evA
  rw [if_neg (show ¬ pK p = 1 by omega), if_neg (show ¬ pK p = 2 by omega), if_neg (show ¬ pK p = 3 by omega), if_neg (show ¬ pK p = 4 by omega), if_pos c]
theorem evA_6 {cx : Cx} {p : Pt} {xs : List (Pt × Vl)} (c : pK p = 6) : evA cx p xs = vE := by
  unfold evA
  rw [if_neg (show ¬ pK p = 1 by omega), if_neg (show ¬ pK p = 2 by omega), if_neg (show ¬ pK p = 3 by omega), if_neg (show ¬ pK p = 4 by omega), if_neg (show ¬ pK p = 5 by omega), if_pos c]
theorem evA_eq {p : Pt} {xs : List (Pt × Vl)} (c5 : ¬ pK p = 5) (c6 : ¬ pK p = 6) (e : evCall (f, g) (pK p) xs = evCall (f, g') (pK p) xs) : evA (f, g) p xs = evA (f, g') p xs := by
  unfold evA
  rw [if_neg c5, if_neg c5, if_neg c6, if_neg c6, e]
theorem Wf.labin {n : Nat} {y : Fm} (w : Wf n y) : lab y ∈ y := by
  cases n with
  | zero => exact w.elim
  | succ n =>
    obtain ⟨p, ls, rfl, h2, h3, h4, h5⟩ := w
    rw [lab_app]; exact List.mem_append_right _ List.mem_cons_self
/-- a formula's value is told by what it looks at -/
theorem ev_local {V : Int} (hg : ∀ ver, 0 ≤ ver → ver < V → g ver = g' ver) : ∀ (n : Nat) (l : Fm), Wf n l → (∀ p ∈ l, pW p < V) → (∀ j ∈ leadsF (f, g) l, g (-1) j = g' (-1) j) → ev (f, g) l = ev (f, g') l := by
  intro n
  induction n with
  | zero => intro l w; exact w.elim
  | succ n ih =>
    intro l w hv hl
    obtain ⟨p, ls, rfl, h2, h3, h4, h5⟩ := w
    have pv := h3.ver
    have pv2 : pW p < V := hv p (List.mem_append_right _ List.mem_cons_self)
    have hvy : ∀ y ∈ ls, ∀ q ∈ y, pW q < V := fun y hy q hq => hv q (List.mem_append_left _ (List.mem_flatten.mpr ⟨y, hy, hq⟩))
    unfold leadsF at hl
    rw [fv_eq _ h2 h5] at hl
    unfold ev
    rw [fv_eq _ h2 h5, fv_eq _ h2 h5]
    unfold leadL at hl
    by_cases c5 : pK p = 5
    · rw [evA_5 c5, evA_5 c5]
      have e : cxSpot (f, g') p = cxSpot (f, g) p := rfl
      rw [e]
      by_cases c0 : cxSpot (f, g) p < 0
      · rw [if_pos c0, if_pos c0]
      · rw [if_neg c0, if_neg c0]
        by_cases cw : pW p < 0
        · rw [if_pos c5, if_pos ⟨cw, by omega⟩] at hl
          have ew : pW p = -1 := by omega
          show g (pW p) _ = g' (pW p) _
          rw [ew]
          exact hl _ List.mem_cons_self
        · show g (pW p) _ = g' (pW p) _
          rw [hg _ (by omega) pv2]
    · rw [if_neg c5] at hl
      by_cases c6 : pK p = 6
      · rw [evA_6 c6, evA_6 c6]
      · rw [if_neg c6] at hl
        by_cases cp : pK p = 41 ∨ pK p = 42
        · rw [evA_call (by omega), evA_call (by omega)]
          rw [evCall_pl cp, evCall_pl cp, xp0_lab (F := fv (evA (f, g))) (G := fv (evA (f, g')))]
          exact evPlace_eq
        · rw [if_neg cp, List.map_map] at hl
          have hy : ∀ y ∈ ls, ∀ j ∈ leadsF (f, g) y, g (-1) j = g' (-1) j := fun y hy j hj => hl j (List.mem_flatten.mpr ⟨_, List.mem_map.mpr ⟨y, hy, rfl⟩, hj⟩)
          have exs : ls.map (fun y => (lab y, fv (evA (f, g)) y)) = ls.map (fun y => (lab y, fv (evA (f, g')) y)) := List.map_congr_left (fun y hy' => by
            have := ih y (h5 y hy') (hvy y hy') (hy y hy')
            unfold ev at this
            rw [this])
          rw [exs]
          have ag : ∀ x ∈ ls.map (fun y => (lab y, fv (evA (f, g')) y)), Ag (f, g) (f, g') x.1 := by
            intro x hx
            obtain ⟨y, hy', rfl⟩ := List.mem_map.mp hx
            intro k6 cs hcs
            have la := leads_area (cx := (f, g)) (h5 y hy') k6
            have pv' := (h5 y hy').ptok.ver
            refine List.map_congr_left (fun j hj => ?_)
            show g (pW (lab y)) j = g' (pW (lab y)) j
            by_cases cw : pW (lab y) < 0
            · rw [if_pos cw, hcs] at la
              have ew : pW (lab y) = -1 := by omega
              rw [ew]
              exact hy y hy' j (by rw [la]; exact hj)
            · rw [hg _ (by omega) (hvy y hy' _ (h5 y hy').labin)]
          exact evA_eq c5 c6 (evCall_eq ag)
def fix0 (v : Vl) : Vl := if v.1 = 0 then vBe 0 else v
def inB (nr nc k : Nat) : Prop := k / 10 < nr ∧ k % 10 < nc
/-- which cell looks at which -/
def LDr (cx : Cx) (nr nc : Nat) (P : Nat → Ct) (k j : Nat) : Prop := inB nr nc k ∧ (P k).2 ≠ [] ∧ j ∈ leadsF cx (P k).2
/-- values of a sheet as they should be -/
def IsVal (cx : Cx) (nr nc : Nat) (P : Nat → Ct) : Prop := ∀ k, inB nr nc k → ((P k).2 = [] → cx.2 (-1) k = (P k).1) ∧ ((P k).2 ≠ [] → (Relation.TransGen (LDr cx nr nc P) k k → cx.2 (-1) k = vErr 6) ∧ (¬ Relation.TransGen (LDr cx nr nc P) k k → cx.2 (-1) k = fix0 (ev cx (P k).2)))
theorem arL_in {r c r' c' : Int} {nr nc : Nat} (h1 : 0 ≤ r) (h2 : 0 ≤ c) (h3 : 0 ≤ r') (h4 : 0 ≤ c') (a1 : r < nr) (a2 : c < nc) (a3 : r' < nr) (a4 : c' < nc) (hn : nc ≤ 10) : ∀ j ∈ arL r c r' c', inB nr nc j := by
  intro j hj
  unfold arL lst at hj
  obtain ⟨k, hk, rfl⟩ := List.mem_map.mp hj
  have hk' := List.mem_range.mp hk
  generalize hW : (max c c').toNat + 1 - (min c c').toNat = W at *
  have W0 : 0 < W := by omega
  have m1 : k / W < (max r r').toNat + 1 - (min r r').toNat := (Nat.div_lt_iff_lt_mul W0).mpr hk'
  have m2 : k % W < W := Nat.mod_lt _ W0
  generalize k / W = dd at *
  generalize k % W = ee at *
  unfold inB
  omega
theorem leads_inB {cx : Cx} {nr nc : Nat} (hr : (cx.1 (-1)).1.length = nr) (hc : (cx.1 (-1)).2.length = nc) (hn : nc ≤ 10) : ∀ (n : Nat) (l : Fm), Wf n l → ∀ j ∈ leadsF cx l, inB nr nc j := by
  intro n
  induction n with
  | zero => intro l w; exact w.elim
  | succ n ih =>
    intro l w j hj
    obtain ⟨p, ls, rfl, h2, h3, h4, h5⟩ := w
    have pv := h3.ver
    unfold leadsF at hj
    rw [fv_eq _ h2 h5] at hj
    unfold leadL at hj
    by_cases c5 : pK p = 5
    · rw [if_pos c5] at hj
      by_cases cc : pW p < 0 ∧ 0 ≤ cxSpot cx p
      · rw [if_pos cc] at hj
        rw [List.mem_singleton.mp hj]
        have ew : pW p = -1 := by omega
        have c2 := cc.2
        unfold cxSpot spotAt at c2 ⊢
        rw [ew] at c2 ⊢
        have a := pl_ge (cx.1 (-1)).1 (pR1 p)
        have b := pl_ge (cx.1 (-1)).2 (pC1 p)
        by_cases q : pl (cx.1 (-1)).1 (pR1 p) < 0 ∨ pl (cx.1 (-1)).2 (pC1 p) < 0
        · rw [if_pos q] at c2; omega
        · rw [if_neg q]
          unfold inB
          omega
      · rw [if_neg cc] at hj; cases hj
    · rw [if_neg c5] at hj
      by_cases c6 : pK p = 6
      · rw [if_pos c6] at hj
        by_cases cw : pW p < 0
        · rw [if_pos cw] at hj
          have ew : pW p = -1 := by omega
          unfold cxArea areaAt at hj
          rw [ew] at hj
          have b1 := pl_ge (cx.1 (-1)).1 (pR1 p)
          have b2 := pl_ge (cx.1 (-1)).2 (pC1 p)
          have b3 := pl_ge (cx.1 (-1)).1 (pR2 p)
          have b4 := pl_ge (cx.1 (-1)).2 (pC2 p)
          by_cases q : pl (cx.1 (-1)).1 (pR1 p) < 0 ∨ pl (cx.1 (-1)).2 (pC1 p) < 0 ∨ pl (cx.1 (-1)).1 (pR2 p) < 0 ∨ pl (cx.1 (-1)).2 (pC2 p) < 0
          · rw [if_pos q] at hj; cases hj
          · rw [if_neg q] at hj
            exact arL_in (by omega) (by omega) (by omega) (by omega) (by omega) (by omega) (by omega) (by omega) hn j hj
        · rw [if_neg cw] at hj; cases hj
      · rw [if_neg c6] at hj
        by_cases cp : pK p = 41 ∨ pK p = 42
        · rw [if_pos cp] at hj; cases hj
        · rw [if_neg cp, List.map_map] at hj
          obtain ⟨z, hz, hj⟩ := List.mem_flatten.mp hj
          obtain ⟨y, hy, rfl⟩ := List.mem_map.mp hz
          exact ih y (h5 y hy) j hj
/-- there is one way alone to value a sheet -/
theorem val_uniq {nr nc : Nat} {P : Nat → Ct} {V : Int} (hw : ∀ k, inB nr nc k → (P k).2 ≠ [] → (∃ n, Wf n (P k).2) ∧ ∀ p ∈ (P k).2, pW p < V) (hr : (f (-1)).1.length = nr) (hc : (f (-1)).2.length = nc) (h1 : nr ≤ 32) (h2 : nc ≤ 10) (hg : ∀ ver, 0 ≤ ver → ver < V → g ver = g' ver) (a : IsVal (f, g) nr nc P) (b : IsVal (f, g') nr nc P) : ∀ k, inB nr nc k → g (-1) k = g' (-1) k := by
  have el : ∀ l, leadsF (f, g') l = leadsF (f, g) l := fun l => rfl
  have er : LDr (f, g') nr nc P = LDr (f, g) nr nc P := rfl
  intro k hk
  by_cases e : g (-1) k = g' (-1) k
  · exact e
  · exfalso
    obtain ⟨i, hi, hcyc⟩ := cycle (R := LDr (f, g) nr nc P) (n := 320) (D := fun k => inB nr nc k ∧ g (-1) k ≠ g' (-1) k ∧ (P k).2 ≠ [] ∧ ¬ Relation.TransGen (LDr (f, g) nr nc P) k k) (k := k) (fun i hi => by
      obtain ⟨b1, b2, b3, b4⟩ := hi
      refine ⟨by unfold inB at b1; omega, ?_⟩
      obtain ⟨⟨n, w⟩, wv⟩ := hw i b1 b3
      have ai := ((a i b1).2 b3).2 b4
      have bi := ((b i b1).2 b3).2 (by rw [er]; exact b4)
      by_cases q : ∃ j, j ∈ leadsF (f, g) (P i).2 ∧ g (-1) j ≠ g' (-1) j
      · obtain ⟨j, j1, j2⟩ := q
        have jin : inB nr nc j := leads_inB (cx := (f, g)) hr hc h2 n _ w j j1
        refine ⟨j, ⟨jin, j2, ?_, ?_⟩, b1, b3, j1⟩
        · intro z; exact j2 (((a j jin).1 z).trans ((b j jin).1 z).symm)
        · intro z
          have j3 : (P j).2 ≠ [] := fun z' => j2 (((a j jin).1 z').trans ((b j jin).1 z').symm)
          exact j2 ((((a j jin).2 j3).1 z).trans (((b j jin).2 j3).1 (by rw [er]; exact z)).symm)
      · exfalso
        apply b2
        have := ev_local (f := f) hg n _ w wv (fun j hj => by
          by_cases z : g (-1) j = g' (-1) j
          · exact z
          · exact absurd ⟨j, hj, z⟩ q)
        show (f, g).2 (-1) i = (f, g').2 (-1) i
        rw [ai, bi, this]) (by
      refine ⟨hk, e, ?_, ?_⟩
      · intro z; exact e (((a k hk).1 z).trans ((b k hk).1 z).symm)
      · intro z
        have k3 : (P k).2 ≠ [] := fun z' => e (((a k hk).1 z').trans ((b k hk).1 z').symm)
        exact e ((((a k hk).2 k3).1 z).trans (((b k hk).2 k3).1 (by rw [er]; exact z)).symm))
    exact hi.2.2.2 hcyc
end SpecSheetVal
