/-! ===== PHASE 2: the component's graph: one is met, is left ===== -/
section CoGraph2
variable {N L : Nat} {σ σ' s : gMem} {E : Nat → Nat → Prop} {op pa od : List Nat}
theorem mIwI1 {a k b j : Nat} {x : Int} (h : ¬ (b = a ∧ j = k)) : mI (wI σ a k x) b j = mI σ b j := by rw [mI_wI, if_neg h]
theorem mIwI2 {a k b j : Nat} {x : Int} (h : b = a ∧ j = k) : mI (wI σ a k x) b j = w32 x := by rw [mI_wI, if_pos h]
theorem tn' {n : Nat} {x : Int} (h : x = n) : x.toNat = n := by omega
theorem LK.f (lk : LK σ L) : (mT σ L = 4 ∧ mR σ L 0 = L + 1 ∧ mR σ L 1 = L + 2 ∧ mR σ L 2 = L + 3 ∧ mR σ L 3 = L + 4 ∧ mR σ L 4 = L + 5 ∧ mR σ L 5 = L + 6 ∧ mR σ L 6 = L + 7 ∧ mR σ L 7 = L + 8 ∧ mR σ L 8 = L + 9) ∧
  (mT σ (L + 1) = 101 ∧ mT σ (L + 2) = 100 ∧ mT σ (L + 3) = 100 ∧ mT σ (L + 4) = 100 ∧ mT σ (L + 5) = 100 ∧ mT σ (L + 6) = 100 ∧ mT σ (L + 7) = 100 ∧ mT σ (L + 8) = 103 ∧ mT σ (L + 9) = 103) ∧
  (mN σ (L + 1) = 1600 ∧ mN σ (L + 2) = 320 ∧ mN σ (L + 3) = 320 ∧ mN σ (L + 4) = 320 ∧ mN σ (L + 5) = 320 ∧ mN σ (L + 6) = 320 ∧ mN σ (L + 7) = 320 ∧ mN σ (L + 8) = 320 ∧ mN σ (L + 9) = 320) :=
  ⟨⟨lk.1, lk.r (i := 0) (by omega), lk.r (i := 1) (by omega), lk.r (i := 2) (by omega), lk.r (i := 3) (by omega), lk.r (i := 4) (by omega), lk.r (i := 5) (by omega), lk.r (i := 6) (by omega), lk.r (i := 7) (by omega), lk.r (i := 8) (by omega)⟩,
   ⟨lk.2.2.1, lk.t (i := 2) (by omega) (by omega), lk.t (i := 3) (by omega) (by omega), lk.t (i := 4) (by omega) (by omega), lk.t (i := 5) (by omega) (by omega), lk.t (i := 6) (by omega) (by omega), lk.t (i := 7) (by omega) (by omega), lk.2.2.2.2.2.1, lk.2.2.2.2.2.2.1⟩,
   ⟨lk.2.2.2.1, lk.n (i := 2) (by omega) (by omega), lk.n (i := 3) (by omega) (by omega), lk.n (i := 4) (by omega) (by omega), lk.n (i := 5) (by omega) (by omega), lk.n (i := 6) (by omega) (by omega), lk.n (i := 7) (by omega) (by omega), lk.n (i := 8) (by omega) (by omega), lk.n (i := 9) (by omega) (by omega)⟩⟩
/-- a row that is kept last first -/
def AsR (σ : gMem) (a : Nat) : List Nat → Prop
  | [] => True
  | v :: r => mI σ a r.length = (v : Int) ∧ AsR σ a r
theorem AsR.cg {a : Nat} : ∀ {l : List Nat}, AsR σ a l → (∀ i, i < l.length → mI σ' a i = mI σ a i) → AsR σ' a l := by
  intro l
  induction l with
  | nil => intro _ _; trivial
  | cons v r ih =>
    intro h k
    rw [List.length_cons] at k
    exact ⟨(k _ (by omega)).trans h.1, ih h.2 (fun i hi => k i (by omega))⟩
def AsF (σ : gMem) (a : Nat) (l : List Nat) : Prop := ∀ i, i < l.length → mI σ a i = ((l.getD i 0 : Nat) : Int)
theorem AsF.cg {a : Nat} {l : List Nat} (h : AsF σ a l) (k : ∀ i, i < l.length → mI σ' a i = mI σ a i) : AsF σ' a l := fun i hi => (k i hi).trans (h i hi)
theorem AsF.push {a v : Nat} {l : List Nat} (h : AsF σ a l) (k : ∀ i, i < l.length → mI σ' a i = mI σ a i) (e : mI σ' a l.length = (v : Int)) : AsF σ' a (l ++ [v]) := by
  intro i hi
  rw [List.length_append, List.length_singleton] at hi
  by_cases c : i < l.length
  · rw [k i c, h i c]
    rw [show (l ++ [v]).getD i 0 = l.getD i 0 from by simp [List.getD_eq_getElem?_getD, List.getElem?_append_left c]]
  · have : i = l.length := by omega
    subst this
    rw [e]
    simp [List.getD_eq_getElem?_getD]
/-- what is open, what is through -/
def TGm (σ : gMem) (L : Nat) (E : Nat → Nat → Prop) (op od : List Nat) : Prop :=
  LK σ L ∧ AsR σ (L + 7) op ∧ mI σ L 12 = op.length ∧ (∀ v, v < 320 → mI σ (L + 8) v = if v ∈ op then 1 else 0) ∧ AsF σ (L + 2) od ∧ mI σ L 10 = od.length ∧ ∀ a b, a < 320 → b < 320 → (BT σ (L + 1) a b = true ↔ E a b)
def ciM (σ : gMem) (L v : Nat) : Bool := decide (mI σ (L + 9) v ≠ 0)
def TGj (σ : gMem) (L : Nat) (E : Nat → Nat → Prop) (op pa od : List Nat) : Prop := TI E 320 (mI σ (L + 3)) (mI σ (L + 4)) (mI σ (L + 5)) (mI σ L 11) op pa od (ciM σ L)
def TGs (σ : gMem) (L : Nat) (E : Nat → Nat → Prop) (op pa od : List Nat) : Prop :=
  TGm σ L E op od ∧ AsR σ (L + 6) pa ∧ TGj σ L E op pa od ∧ ∀ v, v ∈ op → 0 ≤ mI σ (L + 5) v ∧ mI σ (L + 5) v ≤ 320
/-- how many there may be -/
theorem nd_len : ∀ (n : Nat) (l : List Nat), l.Nodup → (∀ v, v ∈ l → v < n) → l.length ≤ n := by
  intro n
  induction n with
  | zero =>
    intro l _ h
    cases l with
    | nil => exact Nat.le_refl _
    | cons v r => exact absurd (h v List.mem_cons_self) (by omega)
  | succ n ih =>
    intro l nd h
    have a := ih (l.erase n) (nd.erase n) (fun v hv => by
      have b := (List.Nodup.mem_erase_iff nd).mp hv
      have := h v b.2
      have := b.1
      omega)
    have := List.length_erase (a := n) (l := l)
    split at this <;> omega
theorem TI.len {n : Nat} {nu lo nx : Nat → Int} {met : Int} {ci : Nat → Bool} (t : TI E n nu lo nx met op pa od ci) : op.length + od.length ≤ n ∧ op.Nodup ∧ pa.length ≤ n ∧ pa.Nodup := by
  obtain ⟨a1, a2, a3, a4, a5, a6, a7, a8, a9, a10, a11, a12, a13, a14, a15, a16, a17⟩ := t
  have nd : op.Nodup := a2.imp (fun h e => by rw [e] at h; omega)
  have nd2 : pa.Nodup := a3.imp (fun h e => by rw [e] at h; omega)
  refine ⟨?_, nd, nd_len n pa nd2 (fun v hv => (a1 v (a4 v hv)).1), nd2⟩
  have := nd_len n (op ++ od) (by
    rw [List.nodup_append]
    exact ⟨nd, a15, fun x hx y hy e => (a11 y hy).2.1 (e ▸ hx)⟩) (fun v hv => by
    rcases List.mem_append.mp hv with q | q
    · exact (a1 v q).1
    · exact (a11 v q).1)
  rwa [List.length_append] at this
theorem c_meet {b : Nat} (tm : TGm σ L E op od) (ap : AsR σ (L + 6) (b :: pa)) (ti : TI E 320 (fu (mI σ (L + 3)) b (mI σ L 11)) (fu (mI σ (L + 4)) b (mI σ L 11)) (fu (mI σ (L + 5)) b 0) (mI σ L 11 + 1) (b :: op) (b :: pa) od (ciM σ L)) (nx : ∀ v, v ∈ op → 0 ≤ mI σ (L + 5) v ∧ mI σ (L + 5) v ≤ 320) : Ev (x4_meet L b σ) (fun r => Ex (Lq L) σ r ∧ TGs r L E (b :: op) (b :: pa) od ∧ (∀ v, v ≠ b → mI r (L + 3) v = mI σ (L + 3) v ∧ mI r (L + 5) v = mI σ (L + 5) v) ∧ mI r (L + 3) b ≠ -1 ∧ mI r (L + 5) b = 0) := by
  obtain ⟨lk, ao, ho, io, ad, hd, bt⟩ := tm
  have hl := ti.len
  have hb : b < 320 := (ti.1 b List.mem_cons_self).1
  have hm0 : 0 ≤ mI σ L 11 := by have := (ti.1 b List.mem_cons_self).2.1; rw [fu_at] at this; exact this
  have hm1 := ti.2.2.2.2.2.2.2.2.2.2.2.2.2.2.2.2
  rw [List.length_cons] at hm1 hl
  obtain ⟨m, hm⟩ : ∃ m : Nat, mI σ L 11 = m := ⟨(mI σ L 11).toNat, by omega⟩
  have m3 : m < 320 := by omega
  have o3 : op.length < 320 := by omega
  obtain ⟨⟨t0, r0, r1, r2, r3, r4, r5, r6, r7, r8⟩, ⟨t1, t2, t3, t4, t5, t6, t7, t8, t9⟩, n1, n2, n3, n4, n5, n6, n7, n8, n9⟩ := lk.f
  have e : x4_meet L b σ = some (wI (wI (wI (wI (wI (wI (wI σ (L + 3) b (m : Int)) (L + 4) b (m : Int)) L 11 ((m : Int) + 1)) (L + 5) b 0) (L + 7) op.length (b : Int)) L 12 ((op.length : Int) + 1)) (L + 8) b 1) := by
    unfold x4_meet
    simp (disch := omega) only [gLet, mT_wI, mN_wI, mR_wI, mIwI1, mIwI2, t0, r2, r3, r4, r6, r7, t3, t4, t5, t7, t8, n3, n4, n5, n7, n8, hm, ho, if_pos, if_true, tn, tn', w32_i]
  refine ⟨_, e, ?_, ?_, fun v hv => ⟨?_, ?_⟩, ?_, ?_⟩
  · refine Ex.I (Ex.I (Ex.I (Ex.I (Ex.I (Ex.I (Ex.I Ex.rf ?_) ?_) ?_) ?_) ?_) ?_) ?_ <;> (unfold Lq; omega)
  · have f3 : mI (wI (wI (wI (wI (wI (wI (wI σ (L + 3) b (m : Int)) (L + 4) b (m : Int)) L 11 ((m : Int) + 1)) (L + 5) b 0) (L + 7) op.length (b : Int)) L 12 ((op.length : Int) + 1)) (L + 8) b 1) (L + 3) = fu (mI σ (L + 3)) b (mI σ L 11) := by
      funext v
      by_cases c : v = b
      · rw [c, fu_at]; simp (disch := omega) only [mIwI1, mIwI2, w32_i, hm]
      · rw [fu_ne c]; simp (disch := omega) only [mIwI1]
    have f4 : mI (wI (wI (wI (wI (wI (wI (wI σ (L + 3) b (m : Int)) (L + 4) b (m : Int)) L 11 ((m : Int) + 1)) (L + 5) b 0) (L + 7) op.length (b : Int)) L 12 ((op.length : Int) + 1)) (L + 8) b 1) (L + 4) = fu (mI σ (L + 4)) b (mI σ L 11) := by
      funext v
      by_cases c : v = b
      · rw [c, fu_at]; simp (disch := omega) only [mIwI1, mIwI2, w32_i, hm]
      · rw [fu_ne c]; simp (disch := omega) only [mIwI1]
    have f5 : mI (wI (wI (wI (wI (wI (wI (wI σ (L + 3) b (m : Int)) (L + 4) b (m : Int)) L 11 ((m : Int) + 1)) (L + 5) b 0) (L + 7) op.length (b : Int)) L 12 ((op.length : Int) + 1)) (L + 8) b 1) (L + 5) = fu (mI σ (L + 5)) b 0 := by
      funext v
      by_cases c : v = b
      · rw [c, fu_at]; simp (disch := omega) only [mIwI1, mIwI2, w32_i]
      · rw [fu_ne c]; simp (disch := omega) only [mIwI1]
    have f9 : ciM (wI (wI (wI (wI (wI (wI (wI σ (L + 3) b (m : Int)) (L + 4) b (m : Int)) L 11 ((m : Int) + 1)) (L + 5) b 0) (L + 7) op.length (b : Int)) L 12 ((op.length : Int) + 1)) (L + 8) b 1) L = ciM σ L := by
      funext v
      unfold ciM
      simp (disch := omega) only [mIwI1]
    refine ⟨⟨?_, ?_, ?_, fun v hv => ?_, ?_, ?_, fun a' b' ha' hb' => ?_⟩, ?_, ?_, fun v hv => ?_⟩
    · unfold LK
      simp only [mT_wI, mN_wI, mR_wI]
      exact lk
    · refine ⟨?_, ao.cg (fun i hi => ?_)⟩
      · simp (disch := omega) only [mIwI1, mIwI2, w32_i]
      · simp (disch := omega) only [mIwI1]
    · rw [List.length_cons]
      simp (disch := omega) only [mIwI1, mIwI2, w32_i]
      omega
    · by_cases c : v = b
      · rw [c, if_pos List.mem_cons_self]; simp (disch := omega) only [mIwI2, w32_i]
      · have := io v hv
        simp (disch := omega) only [mIwI1]
        rw [this]
        by_cases q : v ∈ op
        · rw [if_pos q, if_pos (List.mem_cons_of_mem _ q)]
        · rw [if_neg q, if_neg (fun z => q ((List.mem_cons.mp z).resolve_left c))]
    · exact ad.cg (fun i hi => by simp (disch := omega) only [mIwI1])
    · simp (disch := omega) only [mIwI1]; exact hd
    · have := bt a' b' ha' hb'
      unfold BT at this ⊢
      simp only [mL_wI]; exact this
    · exact ap.cg (fun i hi => by simp (disch := omega) only [mIwI1])
    · unfold TGj
      rw [f3, f4, f5, f9]
      have e11 : mI (wI (wI (wI (wI (wI (wI (wI σ (L + 3) b (m : Int)) (L + 4) b (m : Int)) L 11 ((m : Int) + 1)) (L + 5) b 0) (L + 7) op.length (b : Int)) L 12 ((op.length : Int) + 1)) (L + 8) b 1) L 11 = mI σ L 11 + 1 := by
        simp (disch := omega) only [mIwI1, mIwI2, w32_i, hm]
      rw [e11]; exact ti
    · rw [f5]
      by_cases c : v = b
      · rw [c, fu_at]; omega
      · rw [fu_ne c]; exact nx v ((List.mem_cons.mp hv).resolve_left c)
  · simp (disch := omega) only [mIwI1]
  · simp (disch := omega) only [mIwI1]
  · simp (disch := omega) only [mIwI1, mIwI2, w32_i]; omega
  · simp (disch := omega) only [mIwI1, mIwI2, w32_i]
/-- cells are taken off the open ones -/
def PLv (σ0 s : gMem) (L : Nat) (t : Int) (od d cur : List Nat) : Prop :=
  Ex (fun a k => a = L + 2 ∨ a = L + 8 ∨ a = L + 9 ∨ (a = L ∧ (k = 10 ∨ k = 12))) σ0 s ∧ AsR s (L + 7) cur ∧ mI s L 12 = cur.length ∧ (∀ v, v < 320 → mI s (L + 8) v = if v ∈ cur then 1 else 0) ∧ AsF s (L + 2) (od ++ d) ∧ mI s L 10 = (od ++ d).length ∧ (∀ v, mI s (L + 9) v = if v ∈ d then t else mI σ0 (L + 9) v) ∧ cur.Nodup ∧ (∀ v, v ∈ cur → v < 320) ∧ cur.length + (od ++ d).length ≤ 320
theorem c_leave_l {a : Nat} {t : Int} {op2 : List Nat} (lk : LK σ L) (ht : t = 0 ∨ t = 1) : ∀ (l d : List Nat) (s : gMem) (f : Nat), PLv σ s L t od d (l ++ a :: op2) → a ∉ l → l.length < f → Ev (x4_leave_l46 N L a t (fun s30 => some s30) f s) (fun r => PLv σ r L t od (d ++ (l ++ [a])) op2) := by
  have ST : ∀ (v : Nat) (rest d : List Nat) (s : gMem) (f : Nat), PLv σ s L t od d (v :: rest) → ∃ s', x4_leave_l46 N L a t (fun s30 => some s30) (f + 1) s = (if (v : Int) ≠ (a : Int) then x4_leave_l46 N L a t (fun s30 => some s30) f s' else some s') ∧ PLv σ s' L t od (d ++ [v]) rest := by
    intro v rest d s f p
    obtain ⟨X, ao, ho, io, ad, hd, ci, nd, vb, le⟩ := p
    have vb' := vb v List.mem_cons_self
    have ndv := (List.nodup_cons.mp nd).1
    rw [List.length_cons] at ho le
    obtain ⟨⟨t0, r0, r1, r2, r3, r4, r5, r6, r7, r8⟩, ⟨t1, t2, t3, t4, t5, t6, t7, t8, t9⟩, n1, n2, n3, n4, n5, n6, n7, n8, n9⟩ := (lk.ex X).f
    have hv := ao.1
    have ho' : mI s L 12 = ((rest.length + 1 : Nat) : Int) := ho
    have ht' : -2147483648 ≤ t ∧ t ≤ 2147483647 := by omega
    generalize hD : (od ++ d).length = D at *
    refine ⟨wI (wI (wI (wI (wI s L 12 (rest.length : Int)) (L + 8) v 0) (L + 9) v t) (L + 2) D (v : Int)) L 10 ((D : Int) + 1), ?_, ?_⟩
    · rw [x4_leave_l46]
      have e1 : w32 (((rest.length + 1 : Nat) : Int) - 1) = (rest.length : Int) := by rw [w32_i (by omega) (by omega)]; omega
      simp (disch := omega) only [gLet, mT_wI, mN_wI, mR_wI, mIwI1, mIwI2, t0, r1, r6, r7, r8, t2, t7, t8, t9, n2, n7, n8, n9, hd, ho', e1, hv, ht, if_pos, if_true, tn, tn', w32_i]
    · refine ⟨?_, ao.2.cg (fun i hi => ?_), ?_, fun u hu => ?_, ?_, ?_, fun u => ?_, (List.nodup_cons.mp nd).2, fun u hu => vb u (List.mem_cons_of_mem _ hu), ?_⟩
      · refine Ex.I (Ex.I (Ex.I (Ex.I (Ex.I X ?_) ?_) ?_) ?_) ?_ <;> omega
      · simp (disch := omega) only [mIwI1]
      · simp (disch := omega) only [mIwI1, mIwI2, w32_i]
      · by_cases c : u = v
        · rw [c, if_neg ndv]; simp (disch := omega) only [mIwI1, mIwI2, w32_i]
        · have := io u hu
          simp (disch := omega) only [mIwI1]
          rw [this]
          by_cases q : u ∈ rest
          · rw [if_pos q, if_pos (List.mem_cons_of_mem _ q)]
          · rw [if_neg q, if_neg (fun z => q ((List.mem_cons.mp z).resolve_left c))]
      · rw [← List.append_assoc]
        refine ad.push (fun i hi => ?_) ?_
        · rw [hD] at hi
          simp (disch := omega) only [mIwI1]
        · rw [hD]
          simp (disch := omega) only [mIwI1, mIwI2, w32_i]
      · rw [← List.append_assoc, List.length_append, hD, List.length_singleton]
        simp (disch := omega) only [mIwI2, w32_i]
        omega
      · by_cases c : u = v
        · rw [c, if_pos (List.mem_append_right _ List.mem_cons_self)]
          simp (disch := omega) only [mIwI1, mIwI2, w32_i]
        · have := ci u
          simp (disch := omega) only [mIwI1]
          rw [this]
          by_cases q : u ∈ d
          · rw [if_pos q, if_pos (List.mem_append_left _ q)]
          · rw [if_neg q, if_neg (fun z => (List.mem_append.mp z).elim q (fun z => c (List.mem_singleton.mp z)))]
      · rw [← List.append_assoc, List.length_append, hD, List.length_singleton]; omega
  intro l
  induction l with
  | nil =>
    intro d s f p na hf
    obtain ⟨f, rfl⟩ : ∃ j, f = j + 1 := ⟨f - 1, by omega⟩
    obtain ⟨s', e, p'⟩ := ST a op2 d s f p
    rw [e]
    exact Ev.f (fun z => z rfl) (Ev.r p')
  | cons v r ih =>
    intro d s f p na hf
    obtain ⟨f, rfl⟩ : ∃ j, f = j + 1 := ⟨f - 1, by omega⟩
    rw [List.length_cons] at hf
    obtain ⟨s', e, p'⟩ := ST v (r ++ a :: op2) d s f p
    rw [e]
    refine Ev.g (fun z => na (by rw [Int.ofNat.inj z]; exact List.mem_cons_self)) ?_
    have := ih (d ++ [v]) s' f p' (fun z => na (List.mem_cons_of_mem _ z)) (by omega)
    rwa [List.append_assoc, List.singleton_append] at this
end CoGraph2
