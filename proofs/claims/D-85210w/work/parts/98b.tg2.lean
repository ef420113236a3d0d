/-! ===== PHASE 2: what formulas look at, part by part; the twin's contents ===== -/
section TwLeads
variable {N h s : Nat} {σ σ' : gMem} {cx : Cx}
def nextRC (m : Fm) : Bool := match m with
  | [] => false
  | p :: _ => decide (pK p = 41 ∨ pK p = 42)
def ownL (cx : Cx) (p : Pt) : List Nat :=
  if pW p < 0 then (if pK p = 5 then (if cxSpot cx p < 0 then [] else [(cxSpot cx p).toNat]) else if pK p = 6 then (cxArea cx p).getD [] else []) else []
/-- the same part by part -/
def linL (cx : Cx) : Fm → List Nat
  | [] => []
  | p :: m => (if pK p = 5 ∧ nextRC m = true then [] else ownL cx p) ++ linL cx m
theorem wf_head : ∀ (n : Nat) (l : Fm), Wf n l → ∃ p m, l = p :: m ∧ pK p ≤ 6 := by
  intro n
  induction n with
  | zero => intro l w; exact w.elim
  | succ n ih =>
    intro l w
    obtain ⟨p, ls, rfl, h2, h3, h4, h5⟩ := w
    cases ls with
    | nil =>
      refine ⟨p, [], rfl, ?_⟩
      have hA : pA p = 0 := by rw [← h2]; rfl
      rcases h3 with ⟨y, hp, -⟩ | ⟨y, hp, -⟩ | ⟨y, hp⟩ | hp | ⟨r, c, f, v, hp, -⟩ | ⟨r, c, r', c', f, v, hp, -⟩ | ⟨k, j, hp, hk⟩
      · rw [hp]; show 1 ≤ 6; omega
      · rw [hp]; show 2 ≤ 6; omega
      · rw [hp]; show 3 ≤ 6; omega
      · rw [hp]; show 4 ≤ 6; omega
      · rw [hp]; show 5 ≤ 6; omega
      · rw [hp]; show 6 ≤ 6; omega
      · exfalso
        have ek : pK p = k := by rw [hp]; rfl
        unfold argsOk at h4
        rw [if_neg (by omega)] at h4
        by_cases c7 : pK p = 7
        · rw [if_pos c7] at h4; omega
        · rw [if_neg c7] at h4
          by_cases c30 : pK p < 30
          · rw [if_pos c30] at h4; omega
          · rw [if_neg c30] at h4
            have : 1 ≤ leastA (pK p) := by unfold leastA; split; omega; split <;> omega
            omega
    | cons y ls =>
      obtain ⟨q, m, e, hq⟩ := ih y (h5 y List.mem_cons_self)
      exact ⟨q, m ++ ls.flatten ++ [p], by rw [List.flatten_cons, e]; simp, hq⟩
theorem nextRC_wf {n : Nat} {l : Fm} (w : Wf n l) (m : Fm) : nextRC (l ++ m) = false := by
  obtain ⟨p, m', e, hp⟩ := wf_head n l w
  rw [e]
  show decide (pK p = 41 ∨ pK p = 42) = false
  exact decide_eq_false (by omega)
theorem wf_leaf {n : Nat} {l : Fm} (w : Wf n l) (h : pK (lab l) = 5 ∨ pK (lab l) = 4) : l = [lab l] := by
  cases n with
  | zero => exact w.elim
  | succ n =>
    obtain ⟨p, ls, rfl, h2, h3, h4, h5⟩ := w
    rw [lab_app] at h ⊢
    have hA : pA p = 0 := by unfold argsOk at h4; rw [if_pos (by omega)] at h4; exact h4
    have : ls = [] := List.eq_nil_of_length_eq_zero (by omega)
    rw [this]; rfl
theorem lin_app : ∀ (n : Nat) (l : Fm), Wf n l → ∀ m, nextRC m = false → ∀ j, j ∈ linL cx (l ++ m) ↔ (j ∈ leadsF cx l ∨ j ∈ linL cx m) := by
  intro n
  induction n with
  | zero => intro l w; exact w.elim
  | succ n ih =>
    intro l w m hm j
    obtain ⟨p, ls, rfl, h2, h3, h4, h5⟩ := w
    have pv := h3.ver
    have F : ∀ (ks : List Fm), (∀ y ∈ ks, Wf n y) → ∀ m', nextRC m' = false → (j ∈ linL cx (ks.flatten ++ m') ↔ ((∃ y ∈ ks, j ∈ leadsF cx y) ∨ j ∈ linL cx m')) := by
      intro ks
      induction ks with
      | nil =>
        intro _ m' _
        constructor
        · intro z; exact Or.inr z
        · rintro (⟨y, hy, _⟩ | z)
          · cases hy
          · exact z
      | cons y ks ik =>
        intro hk m' hm'
        have nk : nextRC (ks.flatten ++ m') = false := by
          cases ks with
          | nil => exact hm'
          | cons z ks =>
            rw [List.flatten_cons, List.append_assoc]
            exact nextRC_wf (hk z (List.mem_cons_of_mem _ List.mem_cons_self)) _
        rw [List.flatten_cons, List.append_assoc, ih y (hk y List.mem_cons_self) _ nk j, ik (fun z hz => hk z (List.mem_cons_of_mem _ hz)) m' hm']
        constructor
        · rintro (z | ⟨w, hw, z⟩ | z)
          · exact Or.inl ⟨y, List.mem_cons_self, z⟩
          · exact Or.inl ⟨w, List.mem_cons_of_mem _ hw, z⟩
          · exact Or.inr z
        · rintro (⟨w, hw, z⟩ | z)
          · rcases List.mem_cons.mp hw with e | e
            · rw [← e]; exact Or.inl z
            · exact Or.inr (Or.inl ⟨w, e, z⟩)
          · exact Or.inr (Or.inr z)
    unfold leadsF
    rw [fv_eq _ h2 h5]
    have e0 : ls.flatten ++ [p] ++ m = ls.flatten ++ (p :: m) := by rw [List.append_assoc]; rfl
    rw [e0]
    have ep : linL cx (p :: m) = ownL cx p ++ linL cx m := by
      show (if pK p = 5 ∧ nextRC m = true then [] else ownL cx p) ++ linL cx m = _
      rw [if_neg (fun z => by rw [hm] at z; exact Bool.false_ne_true z.2)]
    by_cases cp : pK p = 41 ∨ pK p = 42
    · -- ROW, COL
      have hA : pA p = 1 ∧ ls.length = 1 := by
        have ca := h4.call (by omega)
        have := mostA_1 (k := pK p) (by omega) (by omega)
        omega
      obtain ⟨y, rfl⟩ : ∃ y, ls = [y] := by
        cases ls with
        | nil => simp at hA
        | cons y ls =>
          cases ls with
          | nil => exact ⟨y, rfl⟩
          | cons z ls => simp at hA
      have tk := (h4.call (by omega)).2.2 0 (by simp)
      have ky : pK (lab y) = 5 ∨ pK (lab y) = 4 := by
        unfold takes at tk
        rw [if_neg (by omega), if_pos cp] at tk
        exact of_decide_eq_true tk
      have ey := wf_leaf (h5 y List.mem_cons_self) ky
      have el : ([y] : List Fm).flatten ++ (p :: m) = lab y :: p :: m := by
        conv => lhs; rw [ey]
        rfl
      have own0 : ownL cx p = [] := by
        unfold ownL
        by_cases cw : pW p < 0
        · rw [if_pos cw, if_neg (by omega), if_neg (by omega)]
        · rw [if_neg cw]
      have l0 : linL cx (lab y :: p :: m) = linL cx m := by
        show (if pK (lab y) = 5 ∧ nextRC (p :: m) = true then [] else ownL cx (lab y)) ++ linL cx (p :: m) = _
        rw [ep, own0, List.nil_append]
        by_cases c5 : pK (lab y) = 5
        · rw [if_pos ⟨c5, decide_eq_true cp⟩]; rfl
        · rw [if_neg (fun z => c5 z.1)]
          have : ownL cx (lab y) = [] := by
            unfold ownL
            by_cases cw : pW (lab y) < 0
            · rw [if_pos cw, if_neg c5, if_neg (by omega)]
            · rw [if_neg cw]
          rw [this]; rfl
      rw [el, l0]
      have ll : leadL cx p (([y] : List Fm).map (fun y => (lab y, fv (leadL cx) y))) = [] := by
        unfold leadL; rw [if_neg (by omega), if_neg (by omega), if_pos cp]
      rw [ll]
      exact ⟨fun z => Or.inr z, fun z => z.elim (fun z => by cases z) id⟩
    · rw [F ls h5 (p :: m) (decide_eq_false cp), ep, List.mem_append]
      have hown : (j ∈ leadL cx p (ls.map (fun y => (lab y, fv (leadL cx) y)))) ↔ ((∃ y ∈ ls, j ∈ leadsF cx y) ∨ j ∈ ownL cx p) := by
        unfold leadL ownL
        by_cases c5 : pK p = 5
        · have hl : ls = [] := by
            have hA : pA p = 0 := by unfold argsOk at h4; rw [if_pos (by omega)] at h4; exact h4
            exact List.eq_nil_of_length_eq_zero (by omega)
          rw [if_pos c5, if_pos c5, hl]
          by_cases cw : pW p < 0
          · rw [if_pos cw]
            by_cases c0 : cxSpot cx p < 0
            · rw [if_neg (fun z => by omega), if_pos c0]
              exact ⟨fun z => (by cases z), fun z => z.elim (fun ⟨_, hy, _⟩ => by cases hy) id⟩
            · rw [if_pos ⟨cw, by omega⟩, if_neg c0]
              exact ⟨fun z => Or.inr z, fun z => z.elim (fun ⟨_, hy, _⟩ => by cases hy) id⟩
          · rw [if_neg cw, if_neg (fun z => cw z.1)]
            exact ⟨fun z => (by cases z), fun z => z.elim (fun ⟨_, hy, _⟩ => by cases hy) id⟩
        · rw [if_neg c5, if_neg c5]
          by_cases c6 : pK p = 6
          · have hl : ls = [] := by
              have hA : pA p = 0 := by unfold argsOk at h4; rw [if_pos (by omega)] at h4; exact h4
              exact List.eq_nil_of_length_eq_zero (by omega)
            rw [if_pos c6, if_pos c6, hl]
            exact ⟨fun z => Or.inr z, fun z => z.elim (fun ⟨_, hy, _⟩ => by cases hy) id⟩
          · rw [if_neg c6, if_neg c6, if_neg cp, List.map_map, List.mem_flatten]
            constructor
            · rintro ⟨z, hz, hj⟩
              obtain ⟨y, hy, rfl⟩ := List.mem_map.mp hz
              exact Or.inl ⟨y, hy, hj⟩
            · rintro (⟨y, hy, hj⟩ | z)
              · exact ⟨_, List.mem_map.mpr ⟨y, hy, rfl⟩, hj⟩
              · split at z <;> cases z
      rw [hown, or_assoc]
theorem lin_leads {n : Nat} {l : Fm} (w : Wf n l) (j : Nat) : j ∈ linL cx l ↔ j ∈ leadsF cx l := by
  have := lin_app (cx := cx) n l w [] rfl j
  rw [List.append_nil] at this
  rw [this]
  exact ⟨fun z => z.elim id (fun z => by cases z), Or.inl⟩
/-- what is asked for its place -/
def askd (l : Fm) (i : Nat) : Bool := decide (pK (l.getD i mkR) = 5) && nextRC (l.drop (i + 1))
/-- a formula lies from q on -/
def FmT (σ : gMem) (h q : Nat) (l : Fm) : Prop :=
  0 < l.length ∧ l.length ≤ 60 ∧ q + l.length ≤ 60420 ∧ mI σ (h + 26) q = l.length ∧ (∃ n, n ≤ 62 ∧ SpT σ h n (q + l.length - 1) l) ∧ pK (lab l) ≠ 6 ∧
  ∀ i, i < l.length → LabT σ h (q + i) (l.getD i mkR) ∧ PtOk (l.getD i mkR) ∧ mI σ (h + 24) (q + i) = ((pF (l.getD i mkR) + (if askd l i then 16 else 0) : Nat) : Int) ∧ pF (l.getD i mkR) < 16
/-- a plain value's row -/
def VP (σ : gMem) (h q : Nat) (v : Vl) : Prop :=
  VOk v ∧ q < 4200 ∧ 1 ≤ v.1 ∧ v.1 ≤ 3 ∧ mI σ (h + 10) q = v.1 ∧ mL σ (h + 11) q = v.2.1 ∧ mI σ (h + 13) q = v.2.2.length ∧ ∃ at' : Nat, mI σ (h + 12) q = at' ∧ at' + v.2.2.length ≤ 82400 ∧ ∀ i, i < v.2.2.length → mI σ (h + 9) (at' + i) = gl v.2.2 i
/-- a content by its number -/
def CtT (σ : gMem) (h : Nat) (c : Int) (ct : Ct) : Prop :=
  (c = 0 ∧ ct = (vE, [])) ∨ (∃ q : Nat, c = ((q + 1 : Nat) : Int) ∧ q < 60420 ∧ ct.1 = vE ∧ FmT σ h q ct.2) ∨ (∃ q : Nat, c = ((100000 + q : Nat) : Int) ∧ ct.2 = [] ∧ VP σ h q ct.1)
theorem bAnd16 : ∀ n, n < 32 → bAnd ((n : Nat) : Int) 16 = if 16 ≤ n then 16 else 0 := by decide
end TwLeads
