/-! ===== PHASE 2, the plain law: what a valuation rests on ===== -/
section SpecSheetVal2
variable {f f' : Int → List Int × List Int} {g g' : Int → Nat → Vl} {V : Int}
theorem cxA_f {q : Pt} (h : f (pW q) = f' (pW q)) : cxArea (f, g) q = cxArea (f', g') q := by
  show areaAt (f (pW q)).1 (f (pW q)).2 q = areaAt (f' (pW q)).1 (f' (pW q)).2 q
  rw [h]
theorem cxS_f {q : Pt} (h : f (pW q) = f' (pW q)) : cxSpot (f, g) q = cxSpot (f', g') q := by
  show spotAt (f (pW q)).1 (f (pW q)).2 (pR1 q) (pC1 q) = spotAt (f' (pW q)).1 (f' (pW q)).2 (pR1 q) (pC1 q)
  rw [h]
theorem mStep_f {k : Nat} {x : Pt × Vl} {acc : List Int} (h : f (pW x.1) = f' (pW x.1)) : mStep (f, g) k x acc = mStep (f', g) k x acc := by
  have e1 : cxArea (f, g) x.1 = cxArea (f', g) x.1 := cxA_f h
  have e2 : isGone (f, g) x.1 = isGone (f', g) x.1 := by
    unfold isGone
    rw [show cxSpot (f, g) x.1 = cxSpot (f', g) x.1 from cxS_f h]
  unfold mStep
  rw [e2, e1]
theorem mArgs_f {k : Nat} : ∀ (xs : List (Pt × Vl)) (acc : List Int), (∀ x ∈ xs, f (pW x.1) = f' (pW x.1)) → mArgs (f, g) k xs acc = mArgs (f', g) k xs acc := by
  intro xs
  induction xs with
  | nil => intro acc _; rfl
  | cons x xs ih =>
    intro acc h
    unfold mArgs
    rw [mStep_f (h x List.mem_cons_self)]
    cases mStep (f', g) k x acc with
    | inl e => rfl
    | inr a => exact ih a (fun y hy => h y (List.mem_cons_of_mem _ hy))
theorem evLook_f {k : Nat} {q : Pt} {key : Vl} (h : f (pW q) = f' (pW q)) : evLook (f, g) k q key = evLook (f', g) k q key := by
  have e1 : cxArea (f, g) q = cxArea (f', g) q := cxA_f h
  unfold evLook
  rw [e1]
theorem evPlace_f {k : Nat} {q : Pt} (h : f (pW q) = f' (pW q)) : evPlace (f, g) k q = evPlace (f', g) k q := by
  have e2 : cxSpot (f, g) q = cxSpot (f', g) q := cxS_f h
  have e3 : (f, g).1 (pW q) = (f', g).1 (pW q) := h
  unfold evPlace
  rw [e2, e3]
theorem xp_f {xs : List (Pt × Vl)} (h0 : f (-1) = f' (-1)) (h : ∀ x ∈ xs, f (pW x.1) = f' (pW x.1)) (i : Nat) : f (pW (xp xs i)) = f' (pW (xp xs i)) := by
  unfold xp
  by_cases c : i < xs.length
  · rw [getD_at _ c]; exact h _ (List.getElem_mem c)
  · rw [List.getD_eq_getElem?_getD, List.getElem?_eq_none (by omega)]
    exact h0
theorem evCall_f {k : Nat} {xs : List (Pt × Vl)} (h0 : f (-1) = f' (-1)) (h : ∀ x ∈ xs, f (pW x.1) = f' (pW x.1)) : evCall (f, g) k xs = evCall (f', g) k xs := by
  have e : evMany (f, g) k xs = evMany (f', g) k xs := by unfold evMany; rw [mArgs_f xs [] h]
  unfold evCall
  rw [evLook_f (xp_f h0 h 1), evLook_f (xp_f h0 h 0), evPlace_f (xp_f h0 h 0), e]
theorem evA_f {p : Pt} {xs : List (Pt × Vl)} (h0 : f (-1) = f' (-1)) (hp : f (pW p) = f' (pW p)) (h : ∀ x ∈ xs, f (pW x.1) = f' (pW x.1)) : evA (f, g) p xs = evA (f', g) p xs := by
  have e2 : cxSpot (f, g) p = cxSpot (f', g) p := cxS_f hp
  have e3 : evCall (f, g) (pK p) xs = evCall (f', g) (pK p) xs := evCall_f h0 h
  unfold evA
  rw [e2, e3]
/-- marks of versions that are not looked at mean nothing -/
theorem ev_marks (h0 : f (-1) = f' (-1)) (hf : ∀ ver, 0 ≤ ver → ver < V → f ver = f' ver) : ∀ (n : Nat) (l : Fm), Wf n l → (∀ p ∈ l, pW p < V) → ev (f, g) l = ev (f', g) l ∧ leadsF (f, g) l = leadsF (f', g) l := by
  have hA : ∀ q : Pt, -1 ≤ pW q → pW q < V → f (pW q) = f' (pW q) := fun q h1 h2 => by
    by_cases c : pW q = -1
    · rw [c]; exact h0
    · exact hf _ (by omega) h2
  intro n
  induction n with
  | zero => intro l w; exact w.elim
  | succ n ih =>
    intro l w hv
    obtain ⟨p, ls, rfl, h2, h3, h4, h5⟩ := w
    have pv := h3.ver
    have hvy : ∀ y ∈ ls, ∀ q ∈ y, pW q < V := fun y hy q hq => hv q (List.mem_append_left _ (List.mem_flatten.mpr ⟨y, hy, hq⟩))
    have hp := hA p pv.1 (hv p (List.mem_append_right _ List.mem_cons_self))
    constructor
    · unfold ev
      rw [fv_eq _ h2 h5, fv_eq _ h2 h5]
      have exs : ls.map (fun y => (lab y, fv (evA (f, g)) y)) = ls.map (fun y => (lab y, fv (evA (f', g)) y)) := List.map_congr_left (fun y hy => by
        have := (ih y (h5 y hy) (hvy y hy)).1
        unfold ev at this
        rw [this])
      rw [exs]
      refine evA_f h0 hp (fun z hz => ?_)
      obtain ⟨y, hy, rfl⟩ := List.mem_map.mp hz
      exact hA (lab y) (h5 y hy).ptok.ver.1 (hvy y hy _ (h5 y hy).labin)
    · unfold leadsF
      rw [fv_eq _ h2 h5, fv_eq _ h2 h5]
      have exs : ls.map (fun y => (lab y, fv (leadL (f, g)) y)) = ls.map (fun y => (lab y, fv (leadL (f', g)) y)) := List.map_congr_left (fun y hy => by
        have := (ih y (h5 y hy) (hvy y hy)).2
        unfold leadsF at this
        rw [this])
      rw [exs]
      unfold leadL
      rw [show cxSpot (f, g) p = cxSpot (f', g) p from cxS_f hp, show cxArea (f, g) p = cxArea (f', g) p from cxA_f hp]
theorem cxA_in {q : Pt} {cs : List Nat} (hc : (f (pW q)).2.length ≤ 10) (h : cxArea (f, g) q = some cs) : ∀ c ∈ cs, inB (f (pW q)).1.length (f (pW q)).2.length c := by
  have h' : areaAt (f (pW q)).1 (f (pW q)).2 q = some cs := h
  unfold areaAt at h'
  have b1 := pl_ge (f (pW q)).1 (pR1 q)
  have b2 := pl_ge (f (pW q)).2 (pC1 q)
  have b3 := pl_ge (f (pW q)).1 (pR2 q)
  have b4 := pl_ge (f (pW q)).2 (pC2 q)
  split at h'
  · cases h'
  · rw [← Option.some.inj h']
    exact arL_in (by omega) (by omega) (by omega) (by omega) (by omega) (by omega) (by omega) (by omega) hc
/-- values of cells that are not in their sheets mean nothing -/
theorem ev_cells (hc : ∀ ver, -1 ≤ ver → ver < V → (f ver).2.length ≤ 10) (hg : ∀ ver, -1 ≤ ver → ver < V → ∀ c, inB (f ver).1.length (f ver).2.length c → g ver c = g' ver c) : ∀ (n : Nat) (l : Fm), Wf n l → (∀ p ∈ l, pW p < V) → ev (f, g) l = ev (f, g') l := by
  intro n
  induction n with
  | zero => intro l w; exact w.elim
  | succ n ih =>
    intro l w hv
    obtain ⟨p, ls, rfl, h2, h3, h4, h5⟩ := w
    have pv := h3.ver
    have pv2 : pW p < V := hv p (List.mem_append_right _ List.mem_cons_self)
    have hvy : ∀ y ∈ ls, ∀ q ∈ y, pW q < V := fun y hy q hq => hv q (List.mem_append_left _ (List.mem_flatten.mpr ⟨y, hy, hq⟩))
    unfold ev
    rw [fv_eq _ h2 h5, fv_eq _ h2 h5]
    by_cases c5 : pK p = 5
    · rw [evA_5 c5, evA_5 c5]
      have e : cxSpot (f, g') p = cxSpot (f, g) p := rfl
      rw [e]
      by_cases c0 : cxSpot (f, g) p < 0
      · rw [if_pos c0, if_pos c0]
      · rw [if_neg c0, if_neg c0]
        refine hg (pW p) pv.1 pv2 _ ?_
        have h10 := hc (pW p) pv.1 pv2
        have c1 : ¬ spotAt (f (pW p)).1 (f (pW p)).2 (pR1 p) (pC1 p) < 0 := c0
        show inB _ _ (spotAt (f (pW p)).1 (f (pW p)).2 (pR1 p) (pC1 p)).toNat
        have b1 := pl_ge (f (pW p)).1 (pR1 p)
        have b2 := pl_ge (f (pW p)).2 (pC1 p)
        unfold spotAt at c1 ⊢
        split at c1
        · exact absurd (show (-1 : Int) < 0 by decide) c1
        · rw [if_neg (by assumption)]
          unfold inB
          omega
    · by_cases c6 : pK p = 6
      · rw [evA_6 c6, evA_6 c6]
      · have exs : ls.map (fun y => (lab y, fv (evA (f, g)) y)) = ls.map (fun y => (lab y, fv (evA (f, g')) y)) := List.map_congr_left (fun y hy => by
          have := ih y (h5 y hy) (hvy y hy)
          unfold ev at this
          rw [this])
        rw [exs]
        refine evA_eq c5 c6 (evCall_eq (fun z hz => ?_))
        obtain ⟨y, hy, rfl⟩ := List.mem_map.mp hz
        intro k6 cs hcs
        have pv' := (h5 y hy).ptok.ver
        have pw' := hvy y hy _ (h5 y hy).labin
        refine List.map_congr_left (fun j hj => ?_)
        exact hg (pW (lab y)) pv'.1 pw' j (cxA_in (hc _ pv'.1 pw') hcs j hj)
/-- a valuation stays one where marks and values that are looked at are the same -/
theorem IsVal.cg {nr nc : Nat} {P : Nat → Ct} (hw : ∀ k, inB nr nc k → (P k).2 ≠ [] → (∃ n, Wf n (P k).2) ∧ ∀ p ∈ (P k).2, pW p < V) (hn : (f (-1)).2.length ≤ 10) (h0 : f (-1) = f' (-1)) (hf : ∀ ver, 0 ≤ ver → ver < V → f ver = f' ver) (hc : ∀ ver, 0 ≤ ver → ver < V → (f ver).2.length ≤ 10) (hg : ∀ ver, 0 ≤ ver → ver < V → ∀ c, inB (f ver).1.length (f ver).2.length c → g ver c = g' ver c) (hm : g (-1) = g' (-1)) (a : IsVal (f, g) nr nc P) : IsVal (f', g') nr nc P := by
  have M : ∀ k, inB nr nc k → (P k).2 ≠ [] → ev (f, g) (P k).2 = ev (f', g') (P k).2 ∧ leadsF (f, g) (P k).2 = leadsF (f', g') (P k).2 := by
    intro k hk hne
    obtain ⟨⟨n, wf⟩, wv⟩ := hw k hk hne
    have e1 := ev_marks (g := g') h0 hf n _ wf wv
    have e2 := ev_cells (f := f) (g := g) (g' := g') (V := V) (fun ver h1' h2' => by
      by_cases c : ver = -1
      · rw [c]; exact hn
      · exact hc ver (by omega) h2') (fun ver h1' h2' c hcc => by
      by_cases e : ver = -1
      · rw [e, hm]
      · exact hg ver (by omega) h2' c hcc) n _ wf wv
    exact ⟨by rw [e2, e1.1], by rw [← e1.2]; rfl⟩
  have LD : LDr (f', g') nr nc P = LDr (f, g) nr nc P := by
    funext i j
    refine propext ⟨fun z => ⟨z.1, z.2.1, ?_⟩, fun z => ⟨z.1, z.2.1, ?_⟩⟩
    · rw [(M i z.1 z.2.1).2]; exact z.2.2
    · rw [← (M i z.1 z.2.1).2]; exact z.2.2
  intro k hk
  obtain ⟨b1, b2⟩ := a k hk
  have hm' : (f', g').2 (-1) k = (f, g).2 (-1) k := by show g' (-1) k = g (-1) k; rw [hm]
  refine ⟨fun z => by rw [hm']; exact b1 z, fun z => ⟨fun y => by rw [hm']; exact (b2 z).1 (by rw [← LD]; exact y), fun y => ?_⟩⟩
  rw [hm', ← (M k hk z).1]
  exact (b2 z).2 (by rw [← LD]; exact y)
/-- a sheet's values are told by its own marks, those of versions it looks at, and their values -/
theorem val_same {nr nc : Nat} {P : Nat → Ct} (hw : ∀ k, inB nr nc k → (P k).2 ≠ [] → (∃ n, Wf n (P k).2) ∧ ∀ p ∈ (P k).2, pW p < V) (hr : (f (-1)).1.length = nr) (hn : (f (-1)).2.length = nc) (h1 : nr ≤ 32) (h2 : nc ≤ 10) (h0 : f (-1) = f' (-1)) (hf : ∀ ver, 0 ≤ ver → ver < V → f ver = f' ver) (hc : ∀ ver, 0 ≤ ver → ver < V → (f ver).2.length ≤ 10) (hg : ∀ ver, 0 ≤ ver → ver < V → ∀ c, inB (f ver).1.length (f ver).2.length c → g ver c = g' ver c) (a : IsVal (f, g) nr nc P) (b : IsVal (f', g') nr nc P) : ∀ k, inB nr nc k → g (-1) k = g' (-1) k := by
  have b' : IsVal (f, fun ver => if ver = -1 then g' (-1) else g ver) nr nc P := by
    refine IsVal.cg (V := V) hw (by rw [← h0]; omega) h0.symm (fun ver a1 a2 => (hf ver a1 a2).symm) (fun ver a1 a2 => by rw [← hf ver a1 a2]; exact hc ver a1 a2) (fun ver a1 a2 c hcc => ?_) (if_pos rfl).symm b
    rw [← hf ver a1 a2] at hcc
    (try dsimp only)
    rw [if_neg (by omega)]
    exact (hg ver a1 a2 c hcc).symm
  intro k hk
  have := val_uniq (f := f) (g := g) (g' := fun ver => if ver = -1 then g' (-1) else g ver) hw hr hn h1 h2 (fun ver h1' _ => by
    (try dsimp only)
    rw [if_neg (by omega)]) a b' k hk
  rw [this]
  exact congrFun (if_pos rfl) k
end SpecSheetVal2
