/-! ===== PHASE 2: the twin's graph: what a cell looks at ===== -/
section TwLeads2
variable {N h s j q : Nat} {σ σ' σ0 s' : gMem} {cx : Cx} {l : Fm} {acc : List Nat}
def Lf (h a k : Nat) : Prop := a = h + 38 ∨ Ap h a k
theorem Lf.out {a k : Nat} (x : Lf h a k) : h + 33 ≤ a ∨ a = h := by unfold Lf Ap at x; omega
/-- leads of a cell, so far -/
def LB (h j : Nat) (σ0 s' : gMem) (acc : List Nat) : Prop :=
  Ex (Lf h) σ0 s' ∧ ∀ p k, k < 320 → (BT s' (h + 38) p k = true ↔ BT σ0 (h + 38) p k = true ∨ (p = j ∧ k ∈ acc))
theorem LB.lead {x : Nat} (hj : j < 320) (hx : x < 320) (g : LB h j σ0 s' acc) : Ev (tw_lead h j x s') (fun r => LB h j σ0 r (acc ++ [x]) ∧ Ex (Lp h) s' r) := by
  refine (t_lead hj hx).m (fun r y => ⟨⟨g.1.tr (y.1.mono (fun _ _ p => Or.inl p)), fun p k hk => ?_⟩, y.1⟩)
  rw [y.2 p k hk, Bool.or_eq_true, g.2 p k hk, decide_eq_true_iff, List.mem_append, List.mem_singleton]
  constructor
  · rintro ((z | z) | z)
    · exact Or.inl z
    · exact Or.inr ⟨z.1, Or.inl z.2⟩
    · exact Or.inr ⟨z.1, Or.inr z.2⟩
  · rintro (z | ⟨z1, z | z⟩)
    · exact Or.inl (Or.inl z)
    · exact Or.inl (Or.inr ⟨z1, z⟩)
    · exact Or.inr ⟨z1, z⟩
theorem LB.ap {s2 : gMem} (x : Ex (Ap h) s' s2) (g : LB h j σ0 s' acc) : LB h j σ0 s2 acc :=
  ⟨g.1.tr (x.mono (fun _ _ p => Or.inr p)), fun p k hk => by rw [BT.ex x (fun _ => by unfold Ap; omega)]; exact g.2 p k hk⟩
theorem take_one {α : Type} {cs : List α} {i : Nat} (h : i < cs.length) : cs.take (i + 1) = cs.take i ++ [cs[i]] := by
  rw [List.take_succ, List.getElem?_eq_getElem h]; rfl
theorem t_leads_a {v3 v4 : Int} {cs : List Nat} {K : gMem → Option gMem} {Φ : gMem → Prop} (hj : j < 320) (hs : s ≤ 40) (hK : ∀ r, LB h j σ0 r (acc ++ cs) → Ev (K r) Φ) : ∀ (m i f : Nat) (s' : gMem), i + m = cs.length → m < f → LB h j σ0 s' (acc ++ cs.take i) → ArT s' h s cs → Ev (tw_leadsOf_l117 N h s j v3 v4 K f i s') Φ := by
  intro m
  induction m with
  | zero =>
    intro i f s' h1 h2 g ar
    obtain ⟨f, rfl⟩ : ∃ j, f = j + 1 := ⟨f - 1, by omega⟩
    unfold tw_leadsOf_l117
    refine Ev.e (t_areaSize ar) (Ev.g (by omega) (hK s' ?_))
    rw [List.take_of_length_le (by omega)] at g; exact g
  | succ m ih =>
    intro i f s' h1 h2 g ar
    obtain ⟨f, rfl⟩ : ∃ j, f = j + 1 := ⟨f - 1, by omega⟩
    have hi : i < cs.length := by omega
    have hl := ar.len
    have hc := hl.2 _ (List.getElem_mem hi)
    unfold tw_leadsOf_l117
    refine Ev.e (t_areaSize ar) (Ev.f (by omega) (Ev.e (t_areaCell ar hi) ?_))
    have e1 : w32 (((320 * s + cs[i] : Nat) : Int) - 320 * (s : Int)) = ((cs[i] : Nat) : Int) := by rw [w32_i (by omega) (by omega)]; omega
    rw [e1]
    refine Ev.c (g.lead hj hc) (fun r _ y => ?_)
    rw [inc32 (by omega)]
    refine ih (i + 1) f r (by omega) (by omega) ?_ (ar.ex y.2 (fun k _ _ => by unfold Lp; omega))
    rw [take_one hi, ← List.append_assoc]; exact y.1
theorem t_leads_l {c : Int} {K : gMem → Option gMem} {Φ : gMem → Prop} (hN : 400 ≤ N) (hc : c = ((q + 1 : Nat) : Int)) (hj : j < 320) (hs : s ≤ 40) (tc : TCx σ0 h s cx) (fm : FmT σ0 h q l) (hK : ∀ r acc, LB h j σ0 r acc → (∀ x, x ∈ linL cx l ↔ x ∈ acc) → Ev (K r) Φ) : ∀ (m i f : Nat) (s' : gMem) (acc : List Nat), i + m = l.length → m < f → LB h j σ0 s' acc → (∀ x, x ∈ linL cx l ↔ x ∈ acc ∨ x ∈ linL cx (l.drop i)) → Ev (tw_leadsOf_l16 N h s j c K f i s') Φ := by
  obtain ⟨f1, f2, f3, f4, -, -, f6⟩ := fm
  have ec : c - 1 = (q : Int) := by omega
  intro m
  induction m with
  | zero =>
    intro i f s' acc h1 h2 g ga
    obtain ⟨f, rfl⟩ : ∃ j, f = j + 1 := ⟨f - 1, by omega⟩
    unfold tw_leadsOf_l16
    rw [ec, tn, g.1.rI (by unfold Lf Ap; omega), f4]
    refine Ev.g (by omega) (Ev.g (by omega) (hK s' acc g (fun x => ?_)))
    rw [ga x, List.drop_of_length_le (by omega)]
    exact ⟨fun z => z.elim id (fun z => by cases z), Or.inl⟩
  | succ m ih =>
    intro i f s' acc h1 h2 g ga
    obtain ⟨f, rfl⟩ : ∃ j, f = j + 1 := ⟨f - 1, by omega⟩
    have hi : i < l.length := by omega
    obtain ⟨L0, ok, F, F16⟩ := f6 i hi
    have L : LabT s' h (q + i) (l.getD i mkR) := L0.ex g.1 (fun o k _ => by unfold Lf Ap; omega)
    have tc' : TCx s' h s cx := tc.ex g.1 (fun _ _ p => p.out)
    have ed : l.drop i = l.getD i mkR :: l.drop (i + 1) := by
      rw [getD_at _ hi]; exact List.drop_eq_getElem_cons hi
    have F' : mI s' (h + 24) (q + i) = ((pF (l.getD i mkR) + (if askd l i then 16 else 0) : Nat) : Int) := by rw [g.1.rI (by unfold Lf Ap; omega)]; exact F
    have ew : w32 ((q : Int) + (i : Int)) = ((q + i : Nat) : Int) := by rw [w32_i (by omega) (by omega)]; omega
    generalize hp : l.getD i mkR = p at *
    have J : ∀ s2, LB h j σ0 s2 (acc ++ (if pK p = 5 ∧ nextRC (l.drop (i + 1)) = true then [] else ownL cx p)) → Ev (tw_leadsOf_l16 N h s j c K f (w32 ((i : Int) + 1)) s2) Φ := by
      intro s2 g2
      rw [inc32 (by omega)]
      refine ih (i + 1) f s2 _ (by omega) (by omega) g2 (fun x => ?_)
      rw [ga x, ed]
      show _ ∨ x ∈ (if pK p = 5 ∧ nextRC (l.drop (i + 1)) = true then [] else ownL cx p) ++ linL cx (l.drop (i + 1)) ↔ _
      rw [List.mem_append, List.mem_append, or_assoc]
    unfold tw_leadsOf_l16 tw_leadsOf_l16_j104 tw_leadsOf_l16_j149
    rw [ec, tn, g.1.rI (by unfold Lf Ap; omega), f4, ew, tn, L.2.2.2.2.2.2.2.2.2.2.2, L.2.1, F']
    have hq : (0 : Int) ≤ ((q + i : Nat) : Int) ∧ ((q + i : Nat) : Int) < 60420 := by have := L.1; omega
    refine Ev.g (by omega) (Ev.f (by omega) (Ev.g hq ?_))
    have own0 : ¬ pW p < 0 → ownL cx p = [] := fun z => by unfold ownL; rw [if_neg z]
    have ar := t_area (N := N) (by omega) hs tc' L ok
    by_cases cw : pW p < 0
    · refine Ev.g cw (Ev.g hq ?_)
      have esh : shn s (pW p) = s := by unfold shn; rw [if_pos cw]
      by_cases c5 : pK p = 5
      · refine Ev.f (by omega) (Ev.g hq ?_)
        have ea : askd l i = nextRC (l.drop (i + 1)) := by unfold askd; rw [hp, decide_eq_true c5, Bool.true_and]
        rw [ea, bAnd16 _ (by split <;> omega)]
        cases hR : nextRC (l.drop (i + 1)) with
        | true =>
          rw [hR] at J
          refine Ev.g (by rw [if_pos rfl, if_pos (by omega)]; decide) (Ev.c ar (fun r _ y => ?_))
          refine Ev.g (y.2.2 (by omega)) (J r.2 ?_)
          rw [if_pos ⟨c5, rfl⟩, List.append_nil]; exact g.ap y.1
        | false =>
          rw [hR] at J
          rw [if_neg (show ¬ (pK p = 5 ∧ false = true) from fun z => by cases z.2)] at J
          refine Ev.f (by rw [if_neg (show ¬ false = true from fun z => by cases z), if_neg (by omega)]; exact fun z => z rfl) ?_
          refine Ev.e (t_spotCell (by omega) hs tc' L ok) ?_
          have eo : ownL cx p = if cxSpot cx p < 0 then [] else [(cxSpot cx p).toNat] := by unfold ownL; rw [if_pos cw, if_pos c5]
          rw [eo] at J
          by_cases c0 : cxSpot cx p < 0
          · rw [if_pos c0] at J ⊢
            refine Ev.g (by decide) (J s' ?_)
            rw [List.append_nil]; exact g
          · rw [if_neg c0] at J ⊢
            rw [esh]
            have hr : (cxSpot cx p).toNat < 320 := by
              obtain ⟨v1, v2⟩ := ok.ver
              obtain ⟨-, -, p3, p4⟩ := tc'.place (N := N) (by omega) hs v1 v2 (pR1 p)
              have := spotAt_rng p3 p4 (r := pR1 p) (c := pC1 p) (by unfold cxSpot at c0; omega)
              unfold cxSpot; omega
            generalize (cxSpot cx p).toNat = x at *
            have e1 : w32 (((320 * s + x : Nat) : Int) - 320 * (s : Int)) = (x : Int) := by rw [w32_i (by omega) (by omega)]; omega
            refine Ev.f (by omega) ?_
            rw [e1]
            exact Ev.c (g.lead hj hr) (fun r _ y => J r y.1)
      · rw [if_neg (show ¬ (pK p = 5 ∧ nextRC (l.drop (i + 1)) = true) from fun z => c5 z.1)] at J
        refine Ev.g (by omega) (Ev.c ar (fun r _ y => ?_))
        by_cases c6 : pK p = 6
        · have eo : ownL cx p = (cxArea cx p).getD [] := by unfold ownL; rw [if_pos cw, if_neg c5, if_pos c6]
          rw [eo] at J
          have y2 := y.2.1 c6
          cases hA : cxArea cx p with
          | none =>
            rw [hA] at y2 J
            refine Ev.g y2 (J r.2 ?_)
            show LB h j σ0 r.2 (acc ++ [])
            rw [List.append_nil]; exact g.ap y.1
          | some cs =>
            rw [hA] at y2 J
            rw [esh] at y2
            have y4 : ArT r.2 h s cs := y2.2
            have hl := y4.len
            refine Ev.f (by rw [y2.1]; decide) (t_leads_a (σ0 := σ0) (acc := acc) (cs := cs) hj hs (fun r3 g3 => J r3 g3) cs.length 0 N r.2 (by omega) (by omega) ?_ y4)
            rw [List.take_zero, List.append_nil]; exact g.ap y.1
        · have eo : ownL cx p = [] := by unfold ownL; rw [if_pos cw, if_neg c5, if_neg c6]
          refine Ev.g (y.2.2 c6) (J r.2 ?_)
          rw [eo, List.append_nil]; exact g.ap y.1
    · refine Ev.f cw (J s' ?_)
      rw [own0 cw, ite_self, List.append_nil]; exact g
/-- what a cell's formula looks at is led -/
theorem t_leadsOf {n : Nat} (hN : 400 ≤ N) (hj : j < 320) (hs : s ≤ 40) (hc : mI σ (h + 5) (320 * s + j) = ((q + 1 : Nat) : Int)) (tc : TCx σ h s cx) (fm : FmT σ h q l) (wf : Wf n l) : Ev (tw_leadsOf N h s j σ) (fun r => Ex (Lf h) σ r ∧ ∀ p k, k < 320 → (BT r (h + 38) p k = true ↔ BT σ (h + 38) p k = true ∨ (p = j ∧ k ∈ leadsF cx l))) := by
  unfold tw_leadsOf
  have e : (320 * (s : Int) + (j : Int)).toNat = 320 * s + j := by omega
  refine Ev.g (by omega) ?_
  rw [e]
  have f2 := fm.2.1
  refine t_leads_l (σ0 := σ) (l := l) (cx := cx) (q := q) hN hc hj hs tc fm (fun r acc g ga => Ev.r ⟨g.1, fun p k hk => ?_⟩) l.length 0 N σ [] (by omega) (by omega) ⟨Ex.rf, fun p k hk => ?_⟩ (fun x => ?_)
  · exact ⟨Or.inl, fun z => z.elim id (fun z => by cases z.2)⟩
  · rw [List.drop_zero]
    exact ⟨Or.inr, fun z => z.elim (fun z => by cases z) id⟩
  · rw [g.2 p k hk, ← ga k, lin_leads wf k]
end TwLeads2
