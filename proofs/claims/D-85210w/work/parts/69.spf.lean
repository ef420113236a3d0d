/-! ===== PHASE 2, the plain law: formulas as rows of parts, what is under a part ahead of it ===== -/
section SpecFm
/-- kind, how many are under it, number, text, marks of one corner and the other, what is fixed, version -/
abbrev Pt : Type := Nat × (Nat × (Int × (List Int × ((Int × (Int × (Int × Int))) × (Nat × Int)))))
abbrev Fm : Type := List Pt
def pK (p : Pt) : Nat := p.1
def pA (p : Pt) : Nat := p.2.1
def pV (p : Pt) : Int := p.2.2.1
def pX (p : Pt) : List Int := p.2.2.2.1
def pR1 (p : Pt) : Int := p.2.2.2.2.1.1
def pC1 (p : Pt) : Int := p.2.2.2.2.1.2.1
def pR2 (p : Pt) : Int := p.2.2.2.2.1.2.2.1
def pC2 (p : Pt) : Int := p.2.2.2.2.1.2.2.2
def pF (p : Pt) : Nat := p.2.2.2.2.2.1
def pW (p : Pt) : Int := p.2.2.2.2.2.2
def mkN (n : Int) : Pt := (1, (0, (n, ([], ((-1, (-1, (-1, -1))), (0, -1))))))
def mkT (t : List Int) : Pt := (2, (0, (0, (t, ((-1, (-1, (-1, -1))), (0, -1))))))
def mkB (b : Bool) : Pt := (3, (0, (if b then 1 else 0, ([], ((-1, (-1, (-1, -1))), (0, -1))))))
def mkR : Pt := (4, (0, (0, ([], ((-1, (-1, (-1, -1))), (0, -1))))))
def mkS (r c : Int) (f : Nat) (v : Int) : Pt := (5, (0, (0, ([], ((r, (c, (-1, -1))), (f, v))))))
def mkA (r c r' c' : Int) (f : Nat) (v : Int) : Pt := (6, (0, (0, ([], ((r, (c, (r', c'))), (f, v))))))
/-- a sign or a call: kind, how many -/
def mkO (k n : Nat) : Pt := (k, (n, (0, ([], ((-1, (-1, (-1, -1))), (0, -1))))))
def lab (l : Fm) : Pt := l.getLast?.getD mkR
theorem lab_app (l : Fm) (p : Pt) : lab (l ++ [p]) = p := by unfold lab; rw [List.getLast?_append]; rfl
theorem lab_one (p : Pt) : lab [p] = p := rfl
/-- whether a part may be the i-th one of a call -/
def takes (k i : Nat) (p : Pt) : Bool :=
  if ((k = 45 ∨ k = 47) ∧ i = 0) ∨ (k = 46 ∧ i = 1) then decide (pK p = 6 ∨ pK p = 4)
  else if k = 41 ∨ k = 42 then decide (pK p = 5 ∨ pK p = 4)
  else decide (pK p ≠ 6) || decide (31 ≤ k ∧ k ≤ 36)
def leastA (k : Nat) : Nat := if k = 30 then 3 else if 31 ≤ k ∧ k ≤ 42 then 1 else 2
def mostA (k : Nat) : Nat := if 31 ≤ k ∧ k ≤ 36 then 8 else leastA k
def argsOk (p : Pt) (qs : List Pt) : Prop :=
  if pK p ≤ 6 then pA p = 0
  else if pK p = 7 then pA p = 1 ∧ ∀ q ∈ qs, pK q ≠ 6
  else if pK p < 30 then pA p = 2 ∧ ∀ q ∈ qs, pK q ≠ 6
  else leastA (pK p) ≤ pA p ∧ pA p ≤ mostA (pK p) ∧ ∀ i (h : i < qs.length), takes (pK p) i qs[i] = true
/-- what one part alone is like -/
def PtOk (p : Pt) : Prop :=
  (∃ n, p = mkN n ∧ 0 ≤ n ∧ n < 1000000000000000) ∨ (∃ t, p = mkT t ∧ t.length ≤ 24 ∧ ∀ c ∈ t, 32 ≤ c ∧ c ≤ 126 ∧ c ≠ 34) ∨ (∃ b, p = mkB b) ∨ p = mkR ∨
  (∃ r c f v, p = mkS r c f v ∧ 0 ≤ r ∧ 0 ≤ c ∧ f < 4 ∧ -1 ≤ v ∧ v < 40) ∨ (∃ r c r' c' f v, p = mkA r c r' c' f v ∧ 0 ≤ r ∧ 0 ≤ c ∧ 0 ≤ r' ∧ 0 ≤ c' ∧ f < 16 ∧ -1 ≤ v ∧ v < 40) ∨
  (∃ k n, p = mkO k n ∧ ((7 ≤ k ∧ k ≤ 21 ∧ k ≠ 8 ∧ k ≠ 9) ∨ (30 ≤ k ∧ k ≤ 47)))
/-- a row of parts is one formula, at most n deep -/
def Wf : Nat → Fm → Prop
  | 0, _ => False
  | n + 1, l => ∃ (p : Pt) (ls : List Fm), l = ls.flatten ++ [p] ∧ ls.length = pA p ∧ PtOk p ∧ argsOk p (ls.map lab) ∧ ∀ x ∈ ls, Wf n x
theorem Wf.mono {n : Nat} : ∀ {m : Nat} {l : Fm}, Wf n l → n ≤ m → Wf m l := by
  induction n with
  | zero => intro m l h _; exact h.elim
  | succ n ih =>
    intro m l h hm
    obtain ⟨m, rfl⟩ : ∃ j, m = j + 1 := ⟨m - 1, by omega⟩
    obtain ⟨p, ls, h1, h2, h3, h4, h5⟩ := h
    exact ⟨p, ls, h1, h2, h3, h4, fun x hx => ih (h5 x hx) (by omega)⟩
def fstp {X : Type} (alg : Pt → List (Pt × X) → X) (st : List (Pt × X)) (p : Pt) : List (Pt × X) := (p, alg p (st.take (pA p)).reverse) :: st.drop (pA p)
def frun {X : Type} (alg : Pt → List (Pt × X) → X) (l : Fm) (st : List (Pt × X)) : List (Pt × X) := l.foldl (fstp alg) st
def fv {X : Type} [Inhabited X] (alg : Pt → List (Pt × X) → X) (l : Fm) : X := ((frun alg l []).head?.getD (mkR, default)).2
theorem frun_app {X : Type} (alg : Pt → List (Pt × X) → X) (l m : Fm) (st : List (Pt × X)) : frun alg (l ++ m) st = frun alg m (frun alg l st) := by unfold frun; rw [List.foldl_append]
theorem frun_ex {X : Type} [Inhabited X] (alg : Pt → List (Pt × X) → X) : ∀ (n : Nat) (l : Fm), Wf n l → ∀ st, frun alg l st = (lab l, fv alg l) :: st := by
  intro n
  induction n with
  | zero => intro l h; exact h.elim
  | succ n ih =>
    intro l h
    obtain ⟨p, ls, rfl, h2, -, -, h5⟩ := h
    have A : ∀ (ms : List Fm), (∀ x ∈ ms, Wf n x) → ∀ st, frun alg ms.flatten st = (ms.map (fun y => (lab y, fv alg y))).reverse ++ st := by
      intro ms
      induction ms with
      | nil => intro _ st; rfl
      | cons m ms im =>
        intro hm st
        rw [List.flatten_cons, frun_app, ih m (hm m List.mem_cons_self), im (fun x hx => hm x (List.mem_cons_of_mem _ hx)), List.map_cons, List.reverse_cons, List.append_assoc]
        rfl
    have B : ∀ st, frun alg (ls.flatten ++ [p]) st = (p, alg p (ls.map (fun y => (lab y, fv alg y)))) :: st := by
      intro st
      rw [frun_app, A ls h5]
      show fstp alg _ p = _
      unfold fstp
      have hl : (ls.map (fun y => (lab y, fv alg y))).reverse.length = pA p := by rw [List.length_reverse, List.length_map, h2]
      rw [← hl, List.take_left, List.drop_left, List.reverse_reverse]
    intro st
    rw [B, lab_app]
    unfold fv
    rw [B]; rfl
theorem frun_flat {X : Type} [Inhabited X] (alg : Pt → List (Pt × X) → X) {n : Nat} : ∀ (ms : List Fm), (∀ x ∈ ms, Wf n x) → ∀ st, frun alg ms.flatten st = (ms.map (fun y => (lab y, fv alg y))).reverse ++ st := by
  intro ms
  induction ms with
  | nil => intro _ st; rfl
  | cons m ms im =>
    intro hm st
    rw [List.flatten_cons, frun_app, frun_ex alg n m (hm m List.mem_cons_self), im (fun x hx => hm x (List.mem_cons_of_mem _ hx)), List.map_cons, List.reverse_cons, List.append_assoc]
    rfl
/-- a function of formulas, part by part -/
theorem fv_eq {X : Type} [Inhabited X] (alg : Pt → List (Pt × X) → X) {n : Nat} {p : Pt} {ls : List Fm} (h2 : ls.length = pA p) (h5 : ∀ x ∈ ls, Wf n x) : fv alg (ls.flatten ++ [p]) = alg p (ls.map (fun y => (lab y, fv alg y))) := by
  have e : frun alg (ls.flatten ++ [p]) [] = [(p, alg p (ls.map (fun y => (lab y, fv alg y))))] := by
    rw [frun_app, frun_flat alg ls h5]
    show fstp alg _ p = _
    unfold fstp
    have hl : (ls.map (fun y => (lab y, fv alg y))).reverse.length = pA p := by rw [List.length_reverse, List.length_map, h2]
    rw [← hl, List.take_left, List.drop_left, List.reverse_reverse]
  unfold fv
  rw [e]; rfl
/-- the row itself, made anew -/
def algI (p : Pt) (xs : List (Pt × Fm)) : Fm := (xs.map Prod.snd).flatten ++ [p]
theorem fv_algI : ∀ (n : Nat) (l : Fm), Wf n l → fv algI l = l := by
  intro n
  induction n with
  | zero => intro l h; exact h.elim
  | succ n ih =>
    intro l h
    obtain ⟨p, ls, rfl, h2, -, -, h5⟩ := h
    rw [fv_eq algI h2 h5]
    unfold algI
    rw [List.map_map]
    have : ls.map (Prod.snd ∘ fun y => (lab y, fv algI y)) = ls := by
      conv => rhs; rw [← List.map_id ls]
      exact List.map_congr_left (fun x hx => ih x (h5 x hx))
    rw [show (fun p xs => (List.map Prod.snd xs).flatten ++ [p] : Pt → List (Pt × Fm) → Fm) = algI from rfl]
    rw [this]
theorem flat_uniq {n : Nat} {ls ms : List Fm} (h1 : ∀ x ∈ ls, Wf n x) (h2 : ∀ x ∈ ms, Wf n x) (h : ls.flatten = ms.flatten) : ls = ms := by
  have a := frun_flat algI ls h1 []
  have b := frun_flat algI ms h2 []
  rw [h, b] at a
  have c := congrArg (fun l => (List.map Prod.snd l).reverse) a
  simp only [List.append_nil, List.map_reverse, List.reverse_reverse, List.map_map] at c
  have e : ∀ ks : List Fm, (∀ x ∈ ks, Wf n x) → ks.map (Prod.snd ∘ fun y => (lab y, fv algI y)) = ks := by
    intro ks hk
    conv => rhs; rw [← List.map_id ks]
    exact List.map_congr_left (fun x hx => fv_algI n x (hk x hx))
  rw [e ms h2, e ls h1] at c
  exact c.symm
/-- what is under the last part is told by the row -/
theorem wf_uniq {n m : Nat} {ls ms : List Fm} {p q : Pt} (h1 : ∀ x ∈ ls, Wf n x) (h2 : ∀ x ∈ ms, Wf m x) (h : ls.flatten ++ [p] = ms.flatten ++ [q]) : ls = ms ∧ p = q := by
  obtain ⟨a, b⟩ := List.append_inj' h rfl
  refine ⟨flat_uniq (n := max n m) (fun x hx => (h1 x hx).mono (Nat.le_max_left _ _)) (fun x hx => (h2 x hx).mono (Nat.le_max_right _ _)) a, ?_⟩
  exact List.cons.inj b |>.1
/-- marks of rows and columns of a version (-1: the formula's own sheet), values by place -/
abbrev Cx : Type := (Int → List Int × List Int) × (Int → Nat → Vl)
def spotAt (R C : List Int) (r c : Int) : Int := if pl R r < 0 ∨ pl C c < 0 then -1 else 10 * pl R r + pl C c
/-- places between two corners, row by row -/
def arL (r c r' c' : Int) : List Nat := lst (((max r r').toNat + 1 - (min r r').toNat) * ((max c c').toNat + 1 - (min c c').toNat)) (fun k => 10 * ((min r r').toNat + k / ((max c c').toNat + 1 - (min c c').toNat)) + ((min c c').toNat + k % ((max c c').toNat + 1 - (min c c').toNat)))
/-- places of an area -/
def areaAt (R C : List Int) (p : Pt) : Option (List Nat) :=
  if pl R (pR1 p) < 0 ∨ pl C (pC1 p) < 0 ∨ pl R (pR2 p) < 0 ∨ pl C (pC2 p) < 0 then none
  else some (arL (pl R (pR1 p)) (pl C (pC1 p)) (pl R (pR2 p)) (pl C (pC2 p)))
def cxSpot (cx : Cx) (p : Pt) : Int := spotAt (cx.1 (pW p)).1 (cx.1 (pW p)).2 (pR1 p) (pC1 p)
def cxArea (cx : Cx) (p : Pt) : Option (List Nat) := areaAt (cx.1 (pW p)).1 (cx.1 (pW p)).2 p
def wantK (k : Nat) : Int := if k = 31 ∨ k = 32 then 3 else 1
def wantM (k : Nat) (v : Vl) : Vl := if k = 31 ∨ k = 32 then wantB v else wantN v
/-- cells of an area counted: an error, or the numbers met -/
def mArea (k : Nat) : List Vl → List Int → Vl ⊕ List Int
  | [], acc => .inr acc
  | v :: vs, acc => if v.1 = 4 ∧ k ≠ 36 then .inl v else if v.1 = wantK k then mArea k vs (acc ++ [v.2.1]) else mArea k vs acc
def isGone (cx : Cx) (p : Pt) : Bool := decide (pK p = 4) || (decide (pK p = 5) && decide (cxSpot cx p < 0))
/-- one argument counted -/
def mStep (cx : Cx) (k : Nat) (x : Pt × Vl) (acc : List Int) : Vl ⊕ List Int :=
  if pK x.1 = 6 then (match cxArea cx x.1 with
    | none => .inl (vErr 1)
    | some cs => mArea k (cs.map (cx.2 (pW x.1))) acc)
  else if k = 36 then (if isGone cx x.1 then .inl (vErr 1) else .inr (if x.2.1 = 1 then acc ++ [x.2.2.1] else acc))
  else if (wantM k x.2).1 = wantK k then .inr (acc ++ [(wantM k x.2).2.1]) else .inl (wantM k x.2)
def mArgs (cx : Cx) (k : Nat) : List (Pt × Vl) → List Int → Vl ⊕ List Int
  | [], acc => .inr acc
  | x :: xs, acc => match mStep cx k x acc with
    | .inl e => .inl e
    | .inr acc' => mArgs cx k xs acc'
def lMin : List Int → Int
  | [] => 0
  | [x] => x
  | x :: y :: s => min x (lMin (y :: s))
def lMax : List Int → Int
  | [] => 0
  | [x] => x
  | x :: y :: s => max x (lMax (y :: s))
def mCome (k : Nat) (acc : List Int) : Vl :=
  if k = 31 then vIs (acc.all (fun x => decide (x = 1))) else if k = 32 then vIs (acc.any (fun x => decide (x = 1)))
  else if k = 36 then vBe acc.length else if k = 33 then vBe acc.sum
  else if acc.length = 0 then vErr 7 else if k = 34 then vBe (lMin acc) else vBe (lMax acc)
def firstErr : List (Pt × Vl) → Option Vl
  | [] => none
  | x :: xs => if x.2.1 = 4 then some x.2 else firstErr xs
def evMany (cx : Cx) (k : Nat) (xs : List (Pt × Vl)) : Vl :=
  match (if k = 36 then none else firstErr xs) with
  | some e => e
  | none => match mArgs cx k xs [] with
    | .inl e => e
    | .inr acc => mCome k acc
def likeV (key v : Vl) : Bool := decide (v.1 ≠ 4) && decide ((vCmp 0 key v).2.1 = 1)
def firstLike (key : Vl) : List Vl → Nat → Nat
  | [], _ => 0
  | v :: vs, i => if likeV key v then i + 1 else firstLike key vs (i + 1)
def evLook (cx : Cx) (k : Nat) (ap : Pt) (key : Vl) : Vl :=
  if key.1 = 4 then key else if pK ap ≠ 6 then vErr 1 else match cxArea cx ap with
  | none => vErr 1
  | some cs =>
    let vs := cs.map (cx.2 (pW ap))
    if k = 45 then
      (if (wantN key).1 ≠ 1 then wantN key else if (wantN key).2.1 < 1 ∨ vs.length < (wantN key).2.1 then vErr 1 else vs.getD ((wantN key).2.1.toNat - 1) vE)
    else if k = 47 then vBe (vs.countP (likeV key))
    else if firstLike key vs 0 = 0 then vErr 7 else vBe (firstLike key vs 0)
def evEnd (k : Nat) (a b : Vl) : Vl :=
  if a.1 = 4 then a else if b.1 = 4 then b else if (wantN b).1 ≠ 1 then wantN b else if (wantN b).2.1 < 0 then vErr 3
  else vTx (vCut (wantN b).2.1 (decide (k = 44)) (wantT a).2.2)
def evOne (k : Nat) (a : Vl) : Vl :=
  if k = 40 then vIs (decide (a.1 = 4)) else if a.1 = 4 then a
  else if k = 39 then vBe (wantT a).2.2.length
  else if k = 37 then (if (wantB a).1 ≠ 3 then wantB a else vIs (decide ((wantB a).2.1 = 0)))
  else if (wantN a).1 ≠ 1 then wantN a else vBe (if (wantN a).2.1 < 0 then -(wantN a).2.1 else (wantN a).2.1)
def xv (xs : List (Pt × Vl)) (i : Nat) : Vl := (xs.getD i (mkR, vE)).2
def xp (xs : List (Pt × Vl)) (i : Nat) : Pt := (xs.getD i (mkR, vE)).1
def evIf (xs : List (Pt × Vl)) : Vl :=
  if (xv xs 0).1 = 4 then xv xs 0 else if (wantB (xv xs 0)).1 ≠ 3 then wantB (xv xs 0) else if (wantB (xv xs 0)).2.1 = 1 then xv xs 1 else xv xs 2
def evPlace (cx : Cx) (k : Nat) (p : Pt) : Vl :=
  if pK p ≠ 5 then vErr 1 else if cxSpot cx p < 0 then vErr 1
  else if k = 41 then vBe (pl (cx.1 (pW p)).1 (pR1 p) + 1) else vBe (pl (cx.1 (pW p)).2 (pC1 p) + 1)
def evCall (cx : Cx) (k : Nat) (xs : List (Pt × Vl)) : Vl :=
  if k = 30 then evIf xs else if 31 ≤ k ∧ k ≤ 36 then evMany cx k xs else if k = 41 ∨ k = 42 then evPlace cx k (xp xs 0)
  else if 37 ≤ k ∧ k ≤ 40 then evOne k (xv xs 0) else if k = 43 ∨ k = 44 then evEnd k (xv xs 0) (xv xs 1)
  else if k = 46 then evLook cx k (xp xs 1) (xv xs 0) else evLook cx k (xp xs 0) (xv xs 1)
def evA (cx : Cx) (p : Pt) (xs : List (Pt × Vl)) : Vl :=
  if pK p = 1 then vBe (pV p) else if pK p = 2 then vTx (pX p) else if pK p = 3 then vIs (decide (pV p = 1)) else if pK p = 4 then vErr 1
  else if pK p = 5 then (if cxSpot cx p < 0 then vErr 1 else cx.2 (pW p) (cxSpot cx p).toNat)
  else if pK p = 6 then vE
  else if pK p = 7 then (if (xv xs 0).1 = 4 then xv xs 0 else if (wantN (xv xs 0)).1 ≠ 1 then wantN (xv xs 0) else vBe (-(wantN (xv xs 0)).2.1))
  else if pK p < 30 then (if (xv xs 0).1 = 4 then xv xs 0 else if (xv xs 1).1 = 4 then xv xs 1 else vTwo (pK p) (xv xs 0) (xv xs 1))
  else evCall cx (pK p) xs
/-- the value of a formula -/
def ev (cx : Cx) (l : Fm) : Vl := fv (evA cx) l
end SpecFm
