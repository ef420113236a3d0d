/-! ===== PHASE 2, the plain law: a walk that finds what leads to itself ===== -/
section Tarj
theorem tg_trans {E : Nat → Nat → Prop} {a b c : Nat} (h : Relation.TransGen E a b) (k : Relation.TransGen E b c) : Relation.TransGen E a c := by
  induction k with
  | single e => exact Relation.TransGen.tail h e
  | tail _ e ih => exact Relation.TransGen.tail ih e
/-- the first step of a way -/
theorem tg_head {E : Nat → Nat → Prop} {a b : Nat} (h : Relation.TransGen E a b) : ∃ c, E a c ∧ (c = b ∨ Relation.TransGen E c b) := by
  induction h with
  | single e => exact ⟨_, e, Or.inl rfl⟩
  | tail _ e ih =>
    obtain ⟨c, h1, h2⟩ := ih
    refine ⟨c, h1, Or.inr ?_⟩
    rcases h2 with rfl | h2
    · exact Relation.TransGen.single e
    · exact Relation.TransGen.tail h2 e
/-- what is closed is not left -/
theorem tg_closed {E : Nat → Nat → Prop} {D : Nat → Prop} (hD : ∀ v w, D v → E v w → D w) {a b : Nat} (h : Relation.TransGen E a b) (ha : D a) : D b := by
  induction h with
  | single e => exact hD _ _ ha e
  | tail _ e ih => exact hD _ _ ih e
/-- the walk's state: numbers, lows, next ones; how many met; open ones (last first), the path (last first), those that are through (in order), who is on a way to itself -/
def TI (E : Nat → Nat → Prop) (n : Nat) (nu lo nx : Nat → Int) (met : Int) (op pa od : List Nat) (ci : Nat → Bool) : Prop :=
  (∀ v, v ∈ op → v < n ∧ 0 ≤ nu v ∧ nu v < met ∧ 0 ≤ lo v ∧ lo v ≤ nu v) ∧
  List.Pairwise (fun a b => nu b < nu a) op ∧ List.Pairwise (fun a b => nu b < nu a) pa ∧ (∀ p, p ∈ pa → p ∈ op) ∧
  (∀ p, p ∈ pa → ∀ v, v ∈ op → nu p < nu v → Relation.TransGen E p v) ∧
  (∀ v, v ∈ op → v ∉ pa → lo v < nu v) ∧
  (∀ v, v ∈ op → lo v < nu v → ∃ w, w ∈ op ∧ nu w = lo v ∧ Relation.TransGen E v w) ∧
  (∀ v, v ∈ op → ∀ w, E v w → ((w : Int) < nx v ∨ v ∉ pa) → w ∈ od ∨ (w ∈ op ∧ lo v ≤ nu w)) ∧
  (∀ v, v ∈ op → v ∉ pa → ∀ p, p ∈ pa → nu p < nu v → (∀ p', p' ∈ pa → nu p < nu p' → ¬ nu p' < nu v) → lo p ≤ lo v) ∧
  (∀ v, v < n → (nu v ≠ -1 ↔ v ∈ op ∨ v ∈ od)) ∧
  (∀ v, v ∈ od → v < n ∧ v ∉ op ∧ ∀ w, E v w → w ∈ od) ∧
  (∀ v, v ∈ od → (ci v = true ↔ Relation.TransGen E v v)) ∧
  (∀ l1 v l2, od = l1 ++ v :: l2 → ci v = false → ∀ w, E v w → w ∈ l1) ∧
  (∀ v, v ∈ op → ∃ p, p ∈ pa ∧ nu p ≤ nu v) ∧ od.Nodup ∧ 0 ≤ met ∧ (met : Int) = op.length + od.length
variable {E : Nat → Nat → Prop} {n : Nat} {nu lo nx : Nat → Int} {met : Int} {op pa od : List Nat} {ci : Nat → Bool}
def fu {α : Type} (f : Nat → α) (k : Nat) (x : α) : Nat → α := fun j => if j = k then x else f j
theorem fu_at {α : Type} {f : Nat → α} {k : Nat} {x : α} : fu f k x k = x := if_pos rfl
theorem fu_ne {α : Type} {f : Nat → α} {k j : Nat} {x : α} (h : j ≠ k) : fu f k x j = f j := if_neg h
theorem TI.notod {v : Nat} (t : TI E n nu lo nx met op pa od ci) (h : v ∈ op) : v ∉ od := fun q => (t.2.2.2.2.2.2.2.2.2.2.1 v q).2.1 h
/-- a new one is met -/
theorem TI.meet {b : Nat} {nx' : Nat → Int} (t : TI E n nu lo nx met op pa od ci) (hb : b < n) (h0 : nu b = -1) (hpa : ∀ p, p ∈ pa → Relation.TransGen E p b) (hnx : ∀ v, v ∈ op → v ≠ b → ∀ w, E v w → (w : Int) < nx' v → v ∈ pa → (w : Int) < nx v ∨ w = b) (h1 : nx' b = 0) : TI E n (fu nu b met) (fu lo b met) nx' (met + 1) (b :: op) (b :: pa) od ci := by
  obtain ⟨a1, a2, a3, a4, a5, a6, a7, a8, a9, a10, a11, a12, a13, a14, a15, a16, a17⟩ := t
  have bo : b ∉ op := fun q => by have := (a1 b q).2.1; omega
  have bd : b ∉ od := fun q => ((a10 b hb).mpr (Or.inr q)) h0
  have ne : ∀ {v}, v ∈ op → v ≠ b := fun q e => bo (e ▸ q)
  have nup : ∀ {v}, v ∈ op → fu nu b met v = nu v := fun q => fu_ne (ne q)
  have lop : ∀ {v}, v ∈ op → fu lo b met v = lo v := fun q => fu_ne (ne q)
  refine ⟨fun v hv => ?_, ?_, ?_, fun p hp => ?_, fun p hp v hv hl => ?_, fun v hv hn => ?_, fun v hv hl => ?_, fun v hv w e hw => ?_, fun v hv hn p hp hl hm => ?_, fun v hv => ?_, fun v hv => ?_, fun v hv => a12 v hv, a13, fun v hv => ?_, a15, by omega, by rw [List.length_cons]; omega⟩
  · rcases List.mem_cons.mp hv with rfl | hv
    · rw [fu_at, fu_at]; omega
    · rw [nup hv, lop hv]; have := a1 v hv; omega
  · rw [List.pairwise_cons]
    refine ⟨fun v hv => by rw [fu_at, nup hv]; exact (a1 v hv).2.2.1, ?_⟩
    exact a2.imp_of_mem (fun ha hb h => by rw [nup ha, nup hb]; exact h)
  · rw [List.pairwise_cons]
    refine ⟨fun v hv => by rw [fu_at, nup (a4 v hv)]; exact (a1 v (a4 v hv)).2.2.1, ?_⟩
    exact a3.imp_of_mem (fun ha hb h => by rw [nup (a4 _ ha), nup (a4 _ hb)]; exact h)
  · rcases List.mem_cons.mp hp with rfl | hp
    · exact List.mem_cons_self
    · exact List.mem_cons_of_mem _ (a4 p hp)
  · rcases List.mem_cons.mp hp with rfl | hp
    · exfalso
      rw [fu_at] at hl
      rcases List.mem_cons.mp hv with rfl | hv
      · rw [fu_at] at hl; omega
      · rw [nup hv] at hl; have := (a1 v hv).2.2.1; omega
    · rcases List.mem_cons.mp hv with e | hv
      · rw [e]; exact hpa p hp
      · rw [nup hv, nup (a4 p hp)] at hl; exact a5 p hp v hv hl
  · rcases List.mem_cons.mp hv with rfl | hv
    · exact absurd List.mem_cons_self hn
    · rw [nup hv, lop hv]; exact a6 v hv (fun q => hn (List.mem_cons_of_mem _ q))
  · rcases List.mem_cons.mp hv with rfl | hv
    · rw [fu_at, fu_at] at hl; omega
    · rw [nup hv, lop hv] at hl
      obtain ⟨w, h2, h3, h4⟩ := a7 v hv hl
      exact ⟨w, List.mem_cons_of_mem _ h2, by rw [nup h2, lop hv]; exact h3, h4⟩
  · rcases List.mem_cons.mp hv with rfl | hv
    · rcases hw with hw | hw
      · rw [h1] at hw; omega
      · exact absurd List.mem_cons_self hw
    · have K : ((w : Int) < nx v ∨ v ∉ pa) ∨ w = b := by
        by_cases hvp : v ∈ pa
        · rcases hw with hw | hw
          · rcases hnx v hv (ne hv) w e hw hvp with q | q
            · exact Or.inl (Or.inl q)
            · exact Or.inr q
          · exact absurd (List.mem_cons_of_mem _ hvp) hw
        · exact Or.inl (Or.inr hvp)
      rcases K with K | K
      · rcases a8 v hv w e K with q | ⟨q1, q2⟩
        · exact Or.inl q
        · exact Or.inr ⟨List.mem_cons_of_mem _ q1, by rw [lop hv, nup q1]; exact q2⟩
      · rw [K]
        refine Or.inr ⟨List.mem_cons_self, ?_⟩
        rw [lop hv, fu_at]; have := a1 v hv; omega
  · rcases List.mem_cons.mp hv with rfl | hv
    · exact absurd List.mem_cons_self hn
    · have hn' : v ∉ pa := fun q => hn (List.mem_cons_of_mem _ q)
      rcases List.mem_cons.mp hp with e | hp
      · rw [e, fu_at, nup hv] at hl; have := (a1 v hv).2.2.1; omega
      · rw [nup hv, nup (a4 p hp)] at hl
        rw [lop hv, lop (a4 p hp)]
        refine a9 v hv hn' p hp hl (fun p' h2 h3 h4 => ?_)
        exact hm p' (List.mem_cons_of_mem _ h2) (by rw [nup (a4 p hp), nup (a4 p' h2)]; exact h3) (by rw [nup (a4 p' h2), nup hv]; exact h4)
  · by_cases e : v = b
    · rw [e, fu_at]; exact ⟨fun _ => Or.inl List.mem_cons_self, fun _ => by omega⟩
    · rw [fu_ne e, a10 v hv]
      exact ⟨fun q => q.elim (fun q => Or.inl (List.mem_cons_of_mem _ q)) Or.inr, fun q => q.elim (fun q => Or.inl ((List.mem_cons.mp q).resolve_left e)) Or.inr⟩
  · obtain ⟨q1, q2, q3⟩ := a11 v hv
    exact ⟨q1, fun q => (List.mem_cons.mp q).elim (fun e => bd (e ▸ hv)) q2, q3⟩
  · rcases List.mem_cons.mp hv with rfl | hv
    · exact ⟨v, List.mem_cons_self, by omega⟩
    · obtain ⟨p, h2, h3⟩ := a14 v hv
      exact ⟨p, List.mem_cons_of_mem _ h2, by rw [nup hv, nup (a4 p h2)]; exact h3⟩
/-- one that has been met already is looked at -/
theorem TI.seen {a b : Nat} {lo' nx' : Nat → Int} (t : TI E n nu lo nx met op (a :: pa) od ci) (e : E a b) (h0 : b ∈ od ∨ b ∈ op) (hlo : ∀ v, v ≠ a → lo' v = lo v) (hla : lo' a = if b ∈ op ∧ nu b < lo a then nu b else lo a) (hnx : ∀ v, v ≠ a → nx' v = nx v) (hna : ∀ w, E a w → (w : Int) < nx' a → (w : Int) < nx a ∨ w = b) : TI E n nu lo' nx' met op (a :: pa) od ci := by
  obtain ⟨a1, a2, a3, a4, a5, a6, a7, a8, a9, a10, a11, a12, a13, a14, a15, a16, a17⟩ := t
  have ao : a ∈ op := a4 a List.mem_cons_self
  have le : ∀ v, lo' v ≤ lo v := fun v => by
    by_cases c : v = a
    · rw [c, hla]; split <;> omega
    · rw [hlo v c]; omega
  have np : ∀ {v}, v ∉ a :: pa → v ≠ a := fun h c => h (c ▸ List.mem_cons_self)
  refine ⟨fun v hv => ?_, a2, a3, a4, a5, fun v hv hn => ?_, fun v hv hl => ?_, fun v hv w ew hw => ?_, fun v hv hn p hp hl hm => ?_, a10, a11, a12, a13, a14, a15, a16, a17⟩
  · have := a1 v hv; have := le v
    refine ⟨by omega, by omega, by omega, ?_, by omega⟩
    by_cases c : v = a
    · rw [c, hla]; split
      · next q => have := a1 b q.1; omega
      · have := a1 a ao; omega
    · rw [hlo v c]; omega
  · rw [hlo v (np hn)]; exact a6 v hv hn
  · by_cases c : v = a
    · subst c
      rw [hla] at hl ⊢
      by_cases q : b ∈ op ∧ nu b < lo v
      · rw [if_pos q]; exact ⟨b, q.1, rfl, Relation.TransGen.single e⟩
      · rw [if_neg q] at hl ⊢; exact a7 v hv hl
    · rw [hlo v c] at hl ⊢; exact a7 v hv hl
  · have K : w ∈ od ∨ (w ∈ op ∧ lo v ≤ nu w) ∨ (v = a ∧ w = b) := by
      by_cases c : v = a
      · subst c
        rcases hw with hw | hw
        · rcases hna w ew hw with q | q
          · exact (a8 v hv w ew (Or.inl q)).elim Or.inl (fun z => Or.inr (Or.inl z))
          · exact Or.inr (Or.inr ⟨rfl, q⟩)
        · exact absurd List.mem_cons_self hw
      · rw [hnx v c] at hw
        exact (a8 v hv w ew hw).elim Or.inl (fun z => Or.inr (Or.inl z))
    rcases K with K | ⟨K1, K2⟩ | ⟨rfl, rfl⟩
    · exact Or.inl K
    · exact Or.inr ⟨K1, by have := le v; omega⟩
    · rcases h0 with h0 | h0
      · exact Or.inl h0
      · refine Or.inr ⟨h0, ?_⟩
        rw [hla]; split
        · omega
        · next q => exact Int.not_lt.mp (fun z => q ⟨h0, z⟩)
  · rw [hlo v (np hn)]
    have := le p
    have := a9 v hv hn p hp hl hm
    omega
/-- one is left that leads further back: the one ahead of it on the path takes its low -/
theorem TI.back {a : Nat} {lo' : Nat → Int} (t : TI E n nu lo nx met op (a :: pa) od ci) (hn : ∀ w, E a w → (w : Int) < nx a) (hl : lo a < nu a) (hlo : ∀ v, (∀ q, pa ≠ v :: q) → lo' v = lo v) (hla : ∀ v q, pa = v :: q → lo' v = if lo a < lo v then lo a else lo v) : TI E n nu lo' nx met op pa od ci ∧ pa ≠ [] := by
  obtain ⟨a1, a2, a3, a4, a5, a6, a7, a8, a9, a10, a11, a12, a13, a14, a15, a16, a17⟩ := t
  have ao : a ∈ op := a4 a List.mem_cons_self
  obtain ⟨a3h, a3t⟩ := List.pairwise_cons.mp a3
  have anp : a ∉ pa := fun q => by have := a3h a q; omega
  have pne : pa ≠ [] := by
    rintro rfl
    obtain ⟨w, h1, h2, -⟩ := a7 a ao hl
    obtain ⟨p, h3, h4⟩ := a14 w h1
    rw [List.mem_singleton.mp h3] at h4; omega
  obtain ⟨p0, pt, rfl⟩ : ∃ p q, pa = p :: q := by cases pa with
    | nil => exact absurd rfl pne
    | cons p q => exact ⟨p, q, rfl⟩
  have hlo' : ∀ v, v ≠ p0 → lo' v = lo v := fun v h => hlo v (fun q e => h (List.cons.inj e).1.symm)
  have hl0 : lo' p0 = if lo a < lo p0 then lo a else lo p0 := hla p0 pt rfl
  have p0o : p0 ∈ op := a4 p0 (List.mem_cons_of_mem _ List.mem_cons_self)
  have p0a : nu p0 < nu a := a3h p0 List.mem_cons_self
  have le : ∀ v, lo' v ≤ lo v := fun v => by
    by_cases c : v = p0
    · rw [c, hl0]; split <;> omega
    · rw [hlo' v c]; omega
  refine ⟨⟨fun v hv => ?_, a2, a3t, fun p hp => a4 p (List.mem_cons_of_mem _ hp), fun p hp => a5 p (List.mem_cons_of_mem _ hp), fun v hv hvn => ?_, fun v hv hlv => ?_, fun v hv w ew hw => ?_, fun v hv hvn p hp hlp hm => ?_, a10, a11, a12, a13, fun v hv => ?_, a15, a16, a17⟩, pne⟩
  · have := a1 v hv; have := le v; have := a1 a ao
    refine ⟨by omega, by omega, by omega, ?_, by omega⟩
    by_cases c : v = p0
    · rw [c, hl0]; have := a1 p0 p0o; split <;> omega
    · rw [hlo' v c]; omega
  · have : lo v < nu v := by
      by_cases c : v = a
      · rw [c]; exact hl
      · exact a6 v hv (fun q => (List.mem_cons.mp q).elim c hvn)
    have := le v; omega
  · by_cases c : v = p0
    · subst c
      rw [hl0] at hlv ⊢
      by_cases q : lo a < lo v
      · rw [if_pos q]
        obtain ⟨w, h1, h2, h3⟩ := a7 a ao hl
        exact ⟨w, h1, h2, tg_trans (a5 v (List.mem_cons_of_mem _ List.mem_cons_self) a ao p0a) h3⟩
      · rw [if_neg q] at hlv ⊢; exact a7 v hv hlv
    · rw [hlo' v c] at hlv ⊢; exact a7 v hv hlv
  · have K : w ∈ od ∨ (w ∈ op ∧ lo v ≤ nu w) := by
      by_cases c : v = a
      · rw [c] at ew; rw [c]; exact a8 a ao w ew (Or.inl (hn w ew))
      · refine a8 v hv w ew (hw.imp id (fun q z => (List.mem_cons.mp z).elim c q))
    rcases K with K | ⟨K1, K2⟩
    · exact Or.inl K
    · exact Or.inr ⟨K1, by have := le v; omega⟩
  · have vp : lo' v = lo v := hlo' v (fun c => hvn (c ▸ List.mem_cons_self))
    rw [vp]
    by_cases c : v = a
    · subst c
      have : p = p0 := by
        rcases List.mem_cons.mp hp with q | q
        · exact q
        · exfalso
          have a3t' := (List.pairwise_cons.mp a3t).1 p q
          exact hm p0 List.mem_cons_self a3t' p0a
      subst this
      rw [hl0]; split <;> omega
    · have hvn' : v ∉ a :: p0 :: pt := fun z => (List.mem_cons.mp z).elim c hvn
      by_cases ca : nu a < nu v ∧ p = p0
      · obtain ⟨ca, rfl⟩ := ca
        have := a9 v hv hvn' a List.mem_cons_self ca (fun p' h1 h2 h3 => by
          rcases List.mem_cons.mp h1 with q | q
          · rw [q] at h2; omega
          · have := a3h p' q; omega)
        rw [hl0]; split <;> omega
      · have := a9 v hv hvn' p (List.mem_cons_of_mem _ hp) hlp (fun p' h1 h2 h3 => by
          rcases List.mem_cons.mp h1 with q | q
          · subst q
            rcases List.mem_cons.mp hp with z | z
            · exact ca ⟨h3, z⟩
            · have a3t' := (List.pairwise_cons.mp a3t).1 p z
              exact hm p0 List.mem_cons_self a3t' (by omega)
          · exact hm p' q h2 h3)
        have := le p; omega
  · obtain ⟨p, h1, h2⟩ := a14 v hv
    rcases List.mem_cons.mp h1 with q | q
    · exact ⟨p0, List.mem_cons_self, by rw [q] at h2; omega⟩
    · exact ⟨p, q, h2⟩
/-- one is left that leads no further back: all behind it go with it -/
theorem TI.pop {a : Nat} {l op2 : List Nat} {ci' : Nat → Bool} {lo' : Nat → Int} (t : TI E n nu lo nx met op (a :: pa) od ci) (hn : ∀ w, E a w → (w : Int) < nx a) (hl : lo a = nu a) (hop : op = l ++ a :: op2) (hc : ∀ v, v ∉ l → v ≠ a → ci' v = ci v) (hr : ∀ v, v ∈ l ∨ v = a → (ci' v = true ↔ l ≠ [] ∨ E a a)) (hlo : ∀ v, (∀ q, pa ≠ v :: q) → lo' v = lo v) (hla : ∀ v q, pa = v :: q → lo' v = if lo a < lo v then lo a else lo v) : TI E n nu lo' nx met op2 pa (od ++ (l ++ [a])) ci' := by
  have TT := t
  obtain ⟨a1, a2, a3, a4, a5, a6, a7, a8, a9, a10, a11, a12, a13, a14, a15, a16, a17⟩ := t
  have ao : a ∈ op := a4 a List.mem_cons_self
  obtain ⟨a3h, a3t⟩ := List.pairwise_cons.mp a3
  subst hop
  obtain ⟨b1, b2, b3⟩ := List.pairwise_append.mp a2
  obtain ⟨b4, b5⟩ := List.pairwise_cons.mp b2
  have lb : ∀ v, v ∈ l → nu a < nu v := fun v hv => b3 v hv a List.mem_cons_self
  have inl : ∀ v, v ∈ l → v ∈ l ++ a :: op2 := fun v hv => List.mem_append_left _ hv
  have in2 : ∀ v, v ∈ op2 → v ∈ l ++ a :: op2 := fun v hv => List.mem_append_right _ (List.mem_cons_of_mem _ hv)
  have o2 : ∀ v, v ∈ op2 → v ∉ l ∧ v ≠ a := fun v hv => ⟨fun q => by have := b4 v hv; have := lb v q; omega, fun q => by have := b4 v hv; rw [q] at this; omega⟩
  have up : ∀ v, v ∈ l ++ a :: op2 → nu a ≤ nu v → v ∈ l ∨ v = a := fun v hv h => by
    rcases List.mem_append.mp hv with q | q
    · exact Or.inl q
    · rcases List.mem_cons.mp q with q | q
      · exact Or.inr q
      · have := b4 v q; omega
  have dn : ∀ v, v ∈ l ++ a :: op2 → nu v < nu a → v ∈ op2 := fun v hv h => by
    rcases List.mem_append.mp hv with q | q
    · have := lb v q; omega
    · rcases List.mem_cons.mp q with q | q
      · rw [q] at h; omega
      · exact q
  have lnp : ∀ v, v ∈ l → v ∉ a :: pa := fun v hv q => by
    have := lb v hv
    rcases List.mem_cons.mp q with q | q
    · rw [q] at this; omega
    · have := a3h v q; omega
  have loeq : ∀ v, v ∈ l ++ a :: op2 → lo' v = lo v := fun v hv => by
    by_cases c : ∃ q, pa = v :: q
    · obtain ⟨q, c⟩ := c
      rw [hla v q c, if_neg]
      have := a3h v (c ▸ List.mem_cons_self)
      have := (a1 v hv).2.2.2.2
      omega
    · exact hlo v (fun q e => c ⟨q, e⟩)
  have low : ∀ v, v ∈ l → nu a ≤ lo v := fun v hv => by
    have := a9 v (inl v hv) (lnp v hv) a List.mem_cons_self (lb v hv) (fun p' h1 h2 h3 => by
      rcases List.mem_cons.mp h1 with q | q
      · rw [q] at h2; omega
      · have := a3h p' q; omega)
    omega
  -- closed
  have cl : ∀ v, v ∈ l ∨ v = a → ∀ w, E v w → w ∈ od ∨ w ∈ l ∨ w = a := fun v hv w e => by
    have K : w ∈ od ∨ (w ∈ l ++ a :: op2 ∧ nu a ≤ nu w) := by
      rcases hv with hv | rfl
      · rcases a8 v (inl v hv) w e (Or.inr (lnp v hv)) with q | ⟨q1, q2⟩
        · exact Or.inl q
        · exact Or.inr ⟨q1, by have := low v hv; omega⟩
      · rcases a8 v ao w e (Or.inl (hn w e)) with q | ⟨q1, q2⟩
        · exact Or.inl q
        · exact Or.inr ⟨q1, by omega⟩
    rcases K with K | ⟨K1, K2⟩
    · exact Or.inl K
    · exact Or.inr (up w K1 K2)
  -- each behind leads back to it
  have ret : ∀ (m : Nat) v, v ∈ l → (nu v - nu a).toNat ≤ m → Relation.TransGen E v a := by
    intro m
    induction m with
    | zero => intro v hv h; have := lb v hv; omega
    | succ m ih =>
      intro v hv h
      obtain ⟨w, h1, h2, h3⟩ := a7 v (inl v hv) (a6 v (inl v hv) (lnp v hv))
      have h4 := low v hv
      have h5 := a6 v (inl v hv) (lnp v hv)
      rcases up w h1 (by omega) with q | q
      · exact tg_trans h3 (ih w q (by omega))
      · rw [← q]; exact h3
  have go : ∀ v, v ∈ l → Relation.TransGen E a v := fun v hv => a5 a List.mem_cons_self v (inl v hv) (lb v hv)
  have dcl : ∀ v w, v ∈ od → E v w → w ∈ od := fun v w hv e => (a11 v hv).2.2 w e
  have noda : ∀ v, v ∈ l ++ a :: op2 → v ∉ od := fun v hv q => (a11 v q).2.1 hv
  have circ : ∀ v, v ∈ l ∨ v = a → (Relation.TransGen E v v ↔ l ≠ [] ∨ E a a) := fun v hv => by
    constructor
    · intro h
      by_cases c : l = []
      · right
        rcases hv with hv | rfl
        · rw [c] at hv; cases hv
        · obtain ⟨w, e, k⟩ := tg_head h
          rcases cl v (Or.inr rfl) w e with q | q | q
          · exfalso
            rcases k with k | k
            · exact noda v ao (k ▸ q)
            · exact noda v ao (tg_closed dcl k q)
          · rw [c] at q; cases q
          · rw [q] at e; exact e
      · exact Or.inl c
    · intro h
      rcases hv with hv | rfl
      · exact tg_trans (ret _ v hv (Nat.le_refl _)) (go v hv)
      · rcases h with h | h
        · obtain ⟨u, hu⟩ := List.exists_mem_of_ne_nil l h
          exact tg_trans (go u hu) (ret _ u hu (Nat.le_refl _))
        · exact Relation.TransGen.single h
  have mS : ∀ v, v ∈ l ++ [a] ↔ v ∈ l ∨ v = a := fun v => by rw [List.mem_append, List.mem_singleton]
  have mD : ∀ v, v ∈ od ++ (l ++ [a]) ↔ v ∈ od ∨ v ∈ l ∨ v = a := fun v => by rw [List.mem_append, mS]
  refine ⟨fun v hv => ?_, b5, a3t, fun p hp => dn p (a4 p (List.mem_cons_of_mem _ hp)) (a3h p hp), fun p hp v hv => a5 p (List.mem_cons_of_mem _ hp) v (in2 v hv), fun v hv hvn => ?_, fun v hv hlv => ?_, fun v hv w ew hw => ?_, fun v hv hvn p hp hlp hm => ?_, fun v hv => ?_, fun v hv => ?_, fun v hv => ?_, fun l1 v l2 e hcv w ew => ?_, fun v hv => ?_, ?_, a16, ?_⟩
  · rw [loeq v (in2 v hv)]; exact a1 v (in2 v hv)
  · rw [loeq v (in2 v hv)]; exact a6 v (in2 v hv) (fun q => (List.mem_cons.mp q).elim (o2 v hv).2 hvn)
  · rw [loeq v (in2 v hv)] at hlv ⊢
    obtain ⟨w, h1, h2, h3⟩ := a7 v (in2 v hv) hlv
    exact ⟨w, dn w h1 (by have := b4 v hv; omega), h2, h3⟩
  · rw [loeq v (in2 v hv)]
    rcases a8 v (in2 v hv) w ew (hw.imp id (fun q z => (List.mem_cons.mp z).elim (o2 v hv).2 q)) with q | ⟨q1, q2⟩
    · exact Or.inl ((mD w).mpr (Or.inl q))
    · by_cases c : nu a ≤ nu w
      · exact Or.inl ((mD w).mpr (Or.inr (up w q1 c)))
      · exact Or.inr ⟨dn w q1 (by omega), q2⟩
  · rw [loeq v (in2 v hv), loeq p (a4 p (List.mem_cons_of_mem _ hp))]
    refine a9 v (in2 v hv) (fun q => (List.mem_cons.mp q).elim (o2 v hv).2 hvn) p (List.mem_cons_of_mem _ hp) hlp (fun p' h1 h2 h3 => ?_)
    rcases List.mem_cons.mp h1 with q | q
    · rw [q] at h3; have := b4 v hv; omega
    · exact hm p' q h2 h3
  · rw [a10 v hv, mD, List.mem_append, List.mem_cons]
    constructor
    · rintro ((q | q | q) | q)
      · exact Or.inr (Or.inr (Or.inl q))
      · exact Or.inr (Or.inr (Or.inr q))
      · exact Or.inl q
      · exact Or.inr (Or.inl q)
    · rintro (q | q | q | q)
      · exact Or.inl (Or.inr (Or.inr q))
      · exact Or.inr q
      · exact Or.inl (Or.inl q)
      · exact Or.inl (Or.inr (Or.inl q))
  · rcases (mD v).mp hv with q | q
    · obtain ⟨q1, q2, q3⟩ := a11 v q
      exact ⟨q1, fun z => q2 (in2 v z), fun w e => (mD w).mpr (Or.inl (q3 w e))⟩
    · have vo : v ∈ l ++ a :: op2 := q.elim (inl v) (fun e => e ▸ ao)
      exact ⟨(a1 v vo).1, fun z => q.elim (o2 v z).1 (o2 v z).2, fun w e => (mD w).mpr (cl v q w e)⟩
  · rcases (mD v).mp hv with q | q
    · rw [hc v (fun z => noda v (inl v z) q) (fun z => noda a ao (z ▸ q))]; exact a12 v q
    · rw [hr v q, circ v q]
  · rcases List.append_eq_append_iff.mp e with ⟨as, h1, h2⟩ | ⟨bs, h1, h2⟩
    · -- l1 = od ++ as, l ++ [a] = as ++ v :: l2
      have vs : v ∈ l ∨ v = a := (mS v).mp (h2 ▸ List.mem_append_right _ List.mem_cons_self)
      have hr' : ¬ (l ≠ [] ∨ E a a) := fun z => by rw [(hr v vs).mpr z] at hcv; cases hcv
      have le : l = [] := by
        cases l with
        | nil => rfl
        | cons x y => exact absurd (Or.inl (by simp)) hr'
      rw [h1]
      refine List.mem_append_left _ ?_
      have va : v = a := vs.elim (fun z => by rw [le] at z; cases z) id
      rw [va] at ew
      rcases cl a (Or.inr rfl) w ew with q | q | q
      · exact q
      · rw [le] at q; cases q
      · rw [q] at ew; exact absurd (Or.inr ew) hr'
    · cases bs with
      | nil =>
        have vs : v ∈ l ∨ v = a := (mS v).mp (by rw [List.nil_append] at h2; rw [← h2]; exact List.mem_cons_self)
        have hr' : ¬ (l ≠ [] ∨ E a a) := fun z => by rw [(hr v vs).mpr z] at hcv; cases hcv
        have le : l = [] := by
          cases l with
          | nil => rfl
          | cons x y => exact absurd (Or.inl (by simp)) hr'
        rw [List.append_nil] at h1
        rw [← h1]
        have va : v = a := vs.elim (fun z => by rw [le] at z; cases z) id
        rw [va] at ew
        rcases cl a (Or.inr rfl) w ew with q | q | q
        · exact q
        · rw [le] at q; cases q
        · rw [q] at ew; exact absurd (Or.inr ew) hr'
      | cons x y =>
        rw [List.cons_append] at h2
        obtain ⟨h3, h4⟩ := List.cons.inj h2
        subst h3
        have vd : v ∈ od := by rw [h1]; exact List.mem_append_right _ List.mem_cons_self
        refine a13 l1 v y h1 ?_ w ew
        rw [← hc v (fun z => noda v (inl v z) vd) (fun z => noda a ao (z ▸ vd))]; exact hcv
  · obtain ⟨p, h1, h2⟩ := a14 v (in2 v hv)
    rcases List.mem_cons.mp h1 with q | q
    · rw [q] at h2; have := b4 v hv; omega
    · exact ⟨p, q, h2⟩
  · rw [List.nodup_append]
    refine ⟨a15, ?_, fun x hx y hy e => ?_⟩
    · rw [List.nodup_append]
      refine ⟨b1.imp (fun h e => by rw [e] at h; omega), by simp, fun x hx y hy e => ?_⟩
      rw [List.mem_singleton] at hy
      have := lb x hx
      rw [e, hy] at this; omega
    · rw [← e] at hy
      exact noda x (((mS x).mp hy).elim (inl x) (fun z => z ▸ ao)) hx
  · rw [a17]; simp only [List.length_append, List.length_cons, List.length_nil]; omega
/-- without a path nothing is open -/
theorem TI.none (t : TI E n nu lo nx met op [] od ci) : op = [] := by
  cases op with
  | nil => rfl
  | cons v r =>
    obtain ⟨p, h, -⟩ := t.2.2.2.2.2.2.2.2.2.2.2.2.2.1 v List.mem_cons_self
    cases h
end Tarj
