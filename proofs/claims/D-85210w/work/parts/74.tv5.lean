/-! ===== PHASE 2: the twin's formulas: where parts lie, what they look at ===== -/
section TwEv1
variable {N h d : Nat} {σ σ' s : gMem} {v w a b : Vl}
/-- a part lies at q -/
def LabT (σ : gMem) (h q : Nat) (p : Pt) : Prop :=
  q < 60420 ∧ mI σ (h + 14) q = pK p ∧ mI σ (h + 15) q = pA p ∧ mL σ (h + 17) q = pV p ∧
  (∃ at' : Nat, mI σ (h + 18) q = at' ∧ at' + (pX p).length ≤ 82400 ∧ ∀ i, i < (pX p).length → mI σ (h + 9) (at' + i) = gl (pX p) i) ∧
  mI σ (h + 19) q = (pX p).length ∧ mI σ (h + 20) q = pR1 p ∧ mI σ (h + 21) q = pC1 p ∧ mI σ (h + 22) q = pR2 p ∧ mI σ (h + 23) q = pC2 p ∧
  (mI σ (h + 24) q = pF p ∨ mI σ (h + 24) q = ((pF p + 16 : Nat) : Int)) ∧ mI σ (h + 25) q = pW p
/-- a row of parts ends at q -/
def SpT (σ : gMem) (h : Nat) : Nat → Nat → Fm → Prop
  | 0, _, _ => False
  | n + 1, q, l => ∃ (p : Pt) (ls : List Fm), l = ls.flatten ++ [p] ∧ ls.length = pA p ∧ LabT σ h q p ∧ PtOk p ∧ argsOk p (ls.map lab) ∧ mI σ (h + 16) q = l.length ∧ l.length ≤ q + 1 ∧
    ∀ i (hi : i < ls.length), SpT σ h n (q - 1 - (ls.drop (i + 1)).flatten.length) ls[i]
/-- what a formula that is worked out may change -/
def Pv (h d q k : Nat) : Prop := Hg h d q k ∨ (q = h ∧ 71 ≤ k ∧ k ≤ 81)
theorem Hg.tv {q k : Nat} (x : Hg h d q k) : Pv h d q k := Or.inl x
theorem Pv.le {q k : Nat} (x : Pv h d q k) : h ≤ q := by unfold Pv Hg at x; omega
theorem Pv.mono {e q k : Nat} (x : Pv h e q k) (hd : d ≤ e) : Pv h d q k := by unfold Pv Hg at *; omega
theorem LabT.ex {P : Nat → Nat → Prop} {q : Nat} {p : Pt} (x : Ex P σ σ') (hP : ∀ o k, (o = 9 ∨ (14 ≤ o ∧ o ≤ 25)) → ¬ P (h + o) k) (g : LabT σ h q p) : LabT σ' h q p := by
  obtain ⟨g0, g1, g2, g3, ⟨at', g4, g5, g6⟩, g7, g8, g9, g10, g11, g12, g13⟩ := g
  refine ⟨g0, ?_, ?_, ?_, ⟨at', ?_, g5, fun i hi => ?_⟩, ?_, ?_, ?_, ?_, ?_, ?_, ?_⟩
  · rw [x.rI (hP 14 _ (by omega))]; exact g1
  · rw [x.rI (hP 15 _ (by omega))]; exact g2
  · rw [x.rL (hP 17 _ (by omega))]; exact g3
  · rw [x.rI (hP 18 _ (by omega))]; exact g4
  · rw [x.rI (hP 9 _ (by omega))]; exact g6 i hi
  · rw [x.rI (hP 19 _ (by omega))]; exact g7
  · rw [x.rI (hP 20 _ (by omega))]; exact g8
  · rw [x.rI (hP 21 _ (by omega))]; exact g9
  · rw [x.rI (hP 22 _ (by omega))]; exact g10
  · rw [x.rI (hP 23 _ (by omega))]; exact g11
  · rw [x.rI (hP 24 _ (by omega))]; exact g12
  · rw [x.rI (hP 25 _ (by omega))]; exact g13
theorem SpT.ex {P : Nat → Nat → Prop} (x : Ex P σ σ') (hP : ∀ o k, (o = 9 ∨ (14 ≤ o ∧ o ≤ 25)) → ¬ P (h + o) k) : ∀ (n q : Nat) (l : Fm), SpT σ h n q l → SpT σ' h n q l := by
  intro n
  induction n with
  | zero => intro q l g; exact g.elim
  | succ n ih =>
    intro q l g
    obtain ⟨p, ls, g1, g2, g3, g4, g5, g6, g7, g8⟩ := g
    exact ⟨p, ls, g1, g2, g3.ex x hP, g4, g5, by rw [x.rI (hP 16 _ (by omega))]; exact g6, g7, fun i hi => ih _ _ (g8 i hi)⟩
theorem SpT.wf : ∀ (n q : Nat) (l : Fm), SpT σ h n q l → Wf n l := by
  intro n
  induction n with
  | zero => intro q l g; exact g.elim
  | succ n ih =>
    intro q l g
    obtain ⟨p, ls, g1, g2, g3, g4, g5, g6, g7, g8⟩ := g
    refine ⟨p, ls, g1, g2, g4, g5, fun y hy => ?_⟩
    obtain ⟨i, hi, e⟩ := List.getElem_of_mem hy
    rw [← e]; exact ih _ _ (g8 i hi)
theorem SpT.span {n q : Nat} {l : Fm} (g : SpT σ h n q l) : mI σ (h + 16) q = l.length ∧ q < 60420 ∧ l.length ≤ q + 1 ∧ 0 < l.length := by
  cases n with
  | zero => exact g.elim
  | succ n =>
    obtain ⟨p, ls, g1, g2, g3, g4, g5, g6, g7, g8⟩ := g
    exact ⟨g6, g3.1, g7, by rw [g1]; simp⟩
theorem SpT.lab {n q : Nat} {l : Fm} (g : SpT σ h n q l) : LabT σ h q (lab l) := by
  cases n with
  | zero => exact g.elim
  | succ n =>
    obtain ⟨p, ls, g1, g2, g3, g4, g5, g6, g7, g8⟩ := g
    rw [g1, lab_app]; exact g3
theorem drop_flat {ls : List Fm} {i : Nat} (hi : i < ls.length) : (ls.drop i).flatten.length = ls[i].length + (ls.drop (i + 1)).flatten.length := by
  rw [List.drop_eq_getElem_cons hi, List.flatten_cons, List.length_append]
theorem flat_le {ls : List Fm} (i : Nat) : (ls.drop i).flatten.length ≤ ls.flatten.length := by
  conv => rhs; rw [← List.take_append_drop i ls, List.flatten_append, List.length_append]
  omega
theorem t_under_l {q : Nat} {ls : List Fm} {n : Nat} {k : Nat} {K : Int → Option Int} (hm : ls.length ≤ 60) (hq : q < 60420) (hl : ls.flatten.length ≤ q) (g : ∀ i (hi : i < ls.length), SpT σ h n (q - 1 - (ls.drop (i + 1)).flatten.length) ls[i]) : ∀ (m i f : Nat), k + m = i → i < ls.length → m < f → tw_under_l14 N h σ k K f ((q - 1 - (ls.drop (i + 1)).flatten.length : Nat) : Int) i = K ((q - 1 - (ls.drop (k + 1)).flatten.length : Nat) : Int) := by
  intro m
  induction m with
  | zero =>
    intro i f h1 h2 h3
    obtain ⟨f, rfl⟩ : ∃ j, f = j + 1 := ⟨f - 1, by omega⟩
    unfold tw_under_l14
    rw [if_pos (by omega)]
    have : i = k := by omega
    rw [this]
  | succ m ih =>
    intro i f h1 h2 h3
    obtain ⟨f, rfl⟩ : ∃ j, f = j + 1 := ⟨f - 1, by omega⟩
    unfold tw_under_l14
    have sp := (g i h2).span
    have df := drop_flat h2
    have fl := flat_le (ls := ls) i
    have hi1 : i - 1 < ls.length := by omega
    have sp1 := (g (i - 1) hi1).span
    have df1 := drop_flat hi1
    have fl1 := flat_le (ls := ls) (i - 1)
    rw [show i - 1 + 1 = i by omega] at df1
    rw [if_neg (by omega), if_pos (by omega), tn, sp.1]
    have e1 : w32 (((q - 1 - (ls.drop (i + 1)).flatten.length : Nat) : Int) - (ls[i].length : Int)) = ((q - 1 - (ls.drop (i - 1 + 1)).flatten.length : Nat) : Int) := by
      rw [show i - 1 + 1 = i by omega, w32_i (by omega) (by omega)]; omega
    have e2 : w32 ((i : Int) + -1) = ((i - 1 : Nat) : Int) := by rw [w32_i (by omega) (by omega)]; omega
    rw [e1, e2]
    exact ih (i - 1) f (by omega) (by omega) (by omega)
theorem t_under {q k n : Nat} {p : Pt} {ls : List Fm} (hN : 70 ≤ N) (hL : LabT σ h q p) (h2 : ls.length = pA p) (hm : ls.length ≤ 60) (hl : ls.flatten.length ≤ q) (g : ∀ i (hi : i < ls.length), SpT σ h n (q - 1 - (ls.drop (i + 1)).flatten.length) ls[i]) (hk : k < ls.length) : tw_under N h q k σ = some ((q - 1 - (ls.drop (k + 1)).flatten.length : Nat) : Int) := by
  unfold tw_under
  have hq := hL.1
  have s0 := (g k hk).span
  have fl := flat_le (ls := ls) k
  have df := drop_flat hk
  rw [if_pos (by omega), tn, hL.2.2.1, ← h2]
  have e1 : w32 ((q : Int) - 1) = ((q - 1 - (ls.drop (ls.length - 1 + 1)).flatten.length : Nat) : Int) := by
    rw [show ls.length - 1 + 1 = ls.length by omega, List.drop_length, w32_i (by omega) (by omega)]
    simp; omega
  have e2 : w32 ((ls.length : Int) - 1) = ((ls.length - 1 : Nat) : Int) := by rw [w32_i (by omega) (by omega)]; omega
  rw [e1, e2]
  exact t_under_l hm hq hl g (ls.length - 1 - k) (ls.length - 1) N (by omega) (by omega) (by omega)
/-- the sheet that a version means in sheet s -/
def shn (s : Nat) (ver : Int) : Nat := if ver < 0 then s else ver.toNat
theorem shn_lt {s : Nat} {ver : Int} (hs : s ≤ 40) (hv : ver < 40) : shn s ver ≤ 40 := by unfold shn; split <;> omega
/-- what a formula of sheet s looks at -/
def TCx (σ : gMem) (h s : Nat) (cx : Cx) : Prop :=
  TA σ h ∧ Cw σ h ∧ (∀ t, t < 122 → 0 ≤ tLn σ h t 0 ∧ tLn σ h t 0 ≤ 32 ∧ 0 ≤ tLn σ h t 1 ∧ tLn σ h t 1 ≤ 10) ∧
  (∀ ver : Int, -1 ≤ ver → ver < 40 → cx.1 ver = (tLs σ h (shn s ver) 0, tLs σ h (shn s ver) 1)) ∧
  (∀ ver : Int, -1 ≤ ver → ver < 40 → ∀ k, k < 320 → VC σ h (320 * shn s ver + k) (cx.2 ver k))
theorem tLn.ex {P : Nat → Nat → Prop} (x : Ex P σ σ') (hP : ∀ o k, 1 ≤ o → o ≤ 4 → ¬ P (h + o) k) (s : Nat) (ax : Int) : tLn σ' h s ax = tLn σ h s ax := by
  unfold tLn
  split
  · exact x.rI (hP 2 _ (by omega) (by omega))
  · exact x.rI (hP 1 _ (by omega) (by omega))
theorem tLi.ex {P : Nat → Nat → Prop} (x : Ex P σ σ') (hP : ∀ o k, 1 ≤ o → o ≤ 4 → ¬ P (h + o) k) (s : Nat) (ax : Int) : tLi σ' h s ax = tLi σ h s ax := by
  unfold tLi
  funext k
  split
  · exact x.rI (hP 4 _ (by omega) (by omega))
  · exact x.rI (hP 3 _ (by omega) (by omega))
theorem tLs.ex {P : Nat → Nat → Prop} (x : Ex P σ σ') (hP : ∀ o k, 1 ≤ o → o ≤ 4 → ¬ P (h + o) k) (s : Nat) (ax : Int) : tLs σ' h s ax = tLs σ h s ax := by
  unfold tLs; rw [tLn.ex x hP, tLi.ex x hP]
theorem TCx.ex {P : Nat → Nat → Prop} {s : Nat} {cx : Cx} (x : Ex P σ σ') (hP : ∀ o k, P o k → (h + 33 ≤ o ∨ o = h)) (g : TCx σ h s cx) : TCx σ' h s cx := by
  obtain ⟨g1, g2, g3, g4, g5⟩ := g
  have hQ : ∀ o k, 1 ≤ o → o ≤ 32 → ¬ P (h + o) k := fun o k h1 h2 q => by have := hP _ _ q; omega
  refine ⟨g1.ex x, g2.ex x (fun b k q => by have := hP _ _ q; omega), fun t ht => ?_, fun ver h1 h2 => ?_, fun ver h1 h2 k hk => ?_⟩
  · rw [tLn.ex x (fun o k a b => hQ o k a (by omega)), tLn.ex x (fun o k a b => hQ o k a (by omega))]; exact g3 t ht
  · rw [tLs.ex x (fun o k a b => hQ o k a (by omega)), tLs.ex x (fun o k a b => hQ o k a (by omega))]; exact g4 ver h1 h2
  · exact VG.ex x (g5 ver h1 h2 k hk) (hQ 28 _ (by omega) (by omega)) (hQ 29 _ (by omega) (by omega)) (hQ 30 _ (by omega) (by omega)) (fun i _ => hQ 31 _ (by omega) (by omega))
theorem Pv.out {q k : Nat} (x : Pv h d q k) : h + 33 ≤ q ∨ q = h := by unfold Pv Hg at x; omega
theorem TCx.pv {s : Nat} {cx : Cx} (x : Ex (Pv h d) σ σ') (g : TCx σ h s cx) : TCx σ' h s cx := g.ex x (fun _ _ q => q.out)
theorem SpT.pv {n q : Nat} {l : Fm} (x : Ex (Pv h d) σ σ') (g : SpT σ h n q l) : SpT σ' h n q l := SpT.ex x (fun o k hh q' => by have := q'.out; omega) _ _ _ g
theorem LabT.pv {q : Nat} {p : Pt} (x : Ex (Pv h d) σ σ') (g : LabT σ h q p) : LabT σ' h q p := g.ex x (fun o k hh q' => by have := q'.out; omega)
theorem PtOk.ver {p : Pt} (g : PtOk p) : -1 ≤ pW p ∧ pW p < 40 := by
  rcases g with ⟨n, rfl, -⟩ | ⟨t, rfl, -⟩ | ⟨b, rfl⟩ | rfl | ⟨r, c, f, v, rfl, -, -, -, h1, h2⟩ | ⟨r, c, r', c', f, v, rfl, -, -, -, -, -, h1, h2⟩ | ⟨k, n, rfl, -⟩
  · exact ⟨by show (-1 : Int) ≤ -1; decide, by show (-1 : Int) < 40; decide⟩
  · exact ⟨by show (-1 : Int) ≤ -1; decide, by show (-1 : Int) < 40; decide⟩
  · exact ⟨by show (-1 : Int) ≤ -1; decide, by show (-1 : Int) < 40; decide⟩
  · exact ⟨by show (-1 : Int) ≤ -1; decide, by show (-1 : Int) < 40; decide⟩
  · exact ⟨h1, h2⟩
  · exact ⟨h1, h2⟩
  · exact ⟨by show (-1 : Int) ≤ -1; decide, by show (-1 : Int) < 40; decide⟩
theorem t_sheetOf {q s : Nat} {p : Pt} (hL : LabT σ h q p) : tw_sheetOf h q s σ = some ((shn s (pW p) : Nat) : Int) := by
  unfold tw_sheetOf
  have hq := hL.1
  rw [if_pos (by omega), tn, hL.2.2.2.2.2.2.2.2.2.2.2]
  unfold shn
  by_cases h0 : 0 ≤ pW p
  · rw [if_pos h0, if_pos (by omega), if_neg (by omega)]; congr 1; omega
  · rw [if_neg h0, if_pos (by omega)]
theorem TCx.place {s : Nat} {cx : Cx} (g : TCx σ h s cx) (hN : 40 ≤ N) (hs : s ≤ 40) {ver : Int} (h1 : -1 ≤ ver) (h2 : ver < 40) (m : Int) : tw_placeOf N h (shn s ver : Nat) 0 m σ = some (pl (cx.1 ver).1 m) ∧ tw_placeOf N h (shn s ver : Nat) 1 m σ = some (pl (cx.1 ver).2 m) ∧ (cx.1 ver).1.length ≤ 32 ∧ (cx.1 ver).2.length ≤ 10 := by
  have hl := shn_lt (ver := ver) hs h2
  have b := g.2.2.1 (shn s ver) (by omega)
  rw [g.2.2.2.1 ver h1 h2]
  refine ⟨t_placeOf (by omega) b.1 (by show _ ≤ ((32 : Nat) : Int); omega) hN, t_placeOf (by omega) b.2.2.1 (by show _ ≤ ((10 : Nat) : Int); omega) hN, ?_, ?_⟩
  · unfold tLs; rw [lst_len]; omega
  · unfold tLs; rw [lst_len]; omega
theorem spotAt_rng {R C : List Int} {r c : Int} (hR : R.length ≤ 32) (hC : C.length ≤ 10) (h : 0 ≤ spotAt R C r c) : spotAt R C r c < 320 ∧ spotAt R C r c = 10 * pl R r + pl C c ∧ 0 ≤ pl R r ∧ 0 ≤ pl C c := by
  unfold spotAt at *
  have a := pl_ge R r
  have b := pl_ge C c
  by_cases q : pl R r < 0 ∨ pl C c < 0
  · rw [if_pos q] at h; omega
  · rw [if_neg q] at *; omega
theorem t_spotCell {q s : Nat} {p : Pt} {cx : Cx} (hN : 40 ≤ N) (hs : s ≤ 40) (g : TCx σ h s cx) (hL : LabT σ h q p) (hp : PtOk p) : tw_spotCell N h q s σ = some (if cxSpot cx p < 0 then -1 else ((320 * shn s (pW p) + (cxSpot cx p).toNat : Nat) : Int)) := by
  obtain ⟨v1, v2⟩ := hp.ver
  obtain ⟨p1, -, p3, p4⟩ := g.place hN hs v1 v2 (pR1 p)
  obtain ⟨-, p2, -, -⟩ := g.place hN hs v1 v2 (pC1 p)
  have hl := shn_lt (ver := pW p) hs v2
  have hq := hL.1
  unfold tw_spotCell
  rw [t_sheetOf hL, Option.bind_some, if_pos (by omega), tn, hL.2.2.2.2.2.2.1, p1, Option.bind_some, if_pos (by omega), hL.2.2.2.2.2.2.2.1, p2, Option.bind_some]
  have a := pl_ge (cx.1 (pW p)).1 (pR1 p)
  have b := pl_ge (cx.1 (pW p)).2 (pC1 p)
  unfold cxSpot spotAt
  by_cases q1 : pl (cx.1 (pW p)).1 (pR1 p) < 0
  · rw [if_pos q1, if_pos (Or.inl q1), if_pos (by decide)]
  · rw [if_neg q1]
    by_cases q2 : pl (cx.1 (pW p)).2 (pC1 p) < 0
    · rw [if_neg (by omega), if_pos (Or.inr q2), if_pos (by decide)]
    · rw [if_pos (by omega), if_neg (by omega), if_neg (by omega), w32_i (by omega) (by omega)]
      congr 1; omega
end TwEv1
