/-! ===== the start: the constants lie apart ===== -/
section GStart5
theorem ix_at {f : Nat → Nat} {n k : Nat} (hk : k < n) (inj : ∀ i, i < n → f i = f k → i = k) : ix f n (f k + 1) = some k := by
  cases h : ix f n (f k + 1) with
  | none => exact absurd rfl (ix_none h k hk)
  | some i =>
    obtain ⟨h1, h2⟩ := ix_some h
    rw [inj i h1 (by omega)]
theorem ix_no {f : Nat → Nat} {n a : Nat} (h : ∀ i, i < n → a ≠ f i) : ix f n (a + 1) = none := by
  cases q : ix f n (a + 1) with
  | none => rfl
  | some i =>
    obtain ⟨h1, h2⟩ := ix_some q
    exact absurd (by omega) (h i h1)
theorem va_O_ne {s : State} {H : Heap} {A : Nat → Prop} {E E' : String} {t t' : Nat} (h : va_O E t A s H) (h' : va_O E' t' A s H) (ne : E ≠ E') : t ≠ t' := by
  intro e
  subst e
  obtain ⟨c, h1, -, h2, -⟩ := h
  obtain ⟨c', h1', -, h2', -⟩ := h'
  cases h1.symm.trans h1'
  obtain ⟨k, k1, k2⟩ := Vm.findClass_spec h2
  obtain ⟨k', k1', k2'⟩ := Vm.findClass_spec h2'
  cases k1.symm.trans k1'
  exact ne (k2.symm.trans k2')
theorem va_OF_fn {s : State} {H : Heap} {A : Nat → Prop} {o n d : String} {v v' : Value} {t : Nat} (h : va_OF o n d v t A s H) (h' : va_OF o n d v' t A s H) : v = v' := by
  obtain ⟨cf, k, i, f, cell, h1, -, h3, -, h5, -⟩ := h
  obtain ⟨cf', k', i', f', cell', h1', -, h3', -, h5', -⟩ := h'
  cases h1.symm.trans h1'
  cases h3.symm.trans h3'
  exact Option.some.inj (h5.symm.trans h5')
theorem va_X_ne {s : State} {H : Heap} {A : Nat → Prop} {o n d : String} {v t b L : Nat} {xs : Nat → Int32} (h : va_OF o n d (.ref v) t A s H) (hX : va_X b L xs s H) : t ≠ b := by
  intro e
  subst e
  obtain ⟨cf, k, i, f, cell, h1, -, h3, -, h5, -⟩ := h
  obtain ⟨scr, x1, -, -, x4, x5⟩ := hX
  cases h3.symm.trans x1
  have hl : f.slot < L := by rw [← x4]; exact (Array.getElem?_eq_some_iff.mp h5).1
  rw [x5 _ hl] at h5
  cases h5
theorem gnm_inj : ∀ k, k < 18 → ∀ k', k' < 18 → Int32.ofInt ((gnm.getD k []).getD 0 0) = Int32.ofInt ((gnm.getD k' []).getD 0 0) → k = k' := by decide +kernel
theorem gsg_inj : ∀ k, k < 12 → ∀ k', k' < 12 → Int32.ofInt ((gsg.getD k []).getD 0 0) = Int32.ofInt ((gsg.getD k' []).getD 0 0) → k = k' := by decide +kernel
theorem gtx_inj : ∀ i, i < 34 → ∀ i', i' < 34 → (gtx.getD i []).length = (gtx.getD i' []).length → (∀ j, j < (gtx.getD i []).length → Int32.ofInt ((gtx.getD i []).getD j 0) = Int32.ofInt ((gtx.getD i' []).getD j 0)) → i = i' := by decide +kernel
theorem gtx_100 (i : Nat) : (gtx.getD i []).length < 100 := by
  have h : ∀ x ∈ gtx, x.length < 100 := by decide
  rw [List.getD_eq_getElem?_getD]
  cases hx : gtx[i]? with
  | none => decide
  | some y => exact h y (List.mem_of_getElem? hx)
variable {args : Array Value} {s : State}
theorem st_dis {b L : Nat} {xs : Nat → Int32} {cA : ClassId} (h : nar.before args s = true) (hX : va_X b L xs s s.heap) (h9 : s.vm.findClass "[LSheetBranches$Name;" = some cA) :
    (∀ i, i < 34 → kd (st0 args s b L) (st0 args s b L (100 + i) + 1) = (90, i)) ∧ (∀ k, k < 18 → kd (st0 args s b L) (st0 args s b L k + 1) = (91, k)) ∧ (∀ k, k < 12 → kd (st0 args s b L) (st0 args s b L (20 + k) + 1) = (92, k)) ∧ kd (st0 args s b L) (st0 args s b L 40 + 1) = (93, 0) ∧ kd (st0 args s b L) (b + 1) = (94, 0) := by
  have hA : ∀ a : Nat, a < s.heap.size → ¬ (fun _ : Nat => False) a := fun _ _ f => f
  have S := fun i hi => (st_s (b := b) (L := L) h hA i hi).2
  have N := fun k hk => (st_n (b := b) (L := L) h hA k hk).2
  have G := fun k hk => (st_g (b := b) (L := L) h hA k hk).2
  obtain ⟨-, ⟨cv, v1, v2, v3, v4, v5⟩, -⟩ := st_v (b := b) (L := L) h h9
  have hb : st0 args s b L 50 = b := st0_b
  generalize st0 args s b L = st at *
  have V : va_O "[LSheetBranches$Name;" (st 40) (fun _ => False) s s.heap := ⟨cv, v1, by cases q : cv.vm.isStatics with | false => rfl | true => (cases w : cv.vm <;> rw [w] at q <;> first | (cases q; done) | exact absurd w (v3 _)), by rw [v2]; exact h9, fun f => f⟩
  have iS : ∀ i, i < 34 → ∀ i', i' < 34 → st (100 + i) = st (100 + i') → i = i' := fun i hi i' hi' e => by
    obtain ⟨-, -, a3, a4⟩ := S i hi
    obtain ⟨-, -, b3, b4⟩ := S i' hi'
    rw [e] at a3
    have ev : st (200 + i) = st (200 + i') := Value.ref.inj (va_OF_fn a3 b3)
    rw [ev] at a4
    obtain ⟨c1, p1, -, -, p4, p5, p6, -⟩ := a4
    obtain ⟨c2, r1, -, -, r4, r5, r6, -⟩ := b4
    cases p1.symm.trans r1
    have hl : (gtx.getD i []).length = (gtx.getD i' []).length := by
      have e2 : Int32.ofNat (gtx.getD i []).length = Int32.ofNat (gtx.getD i' []).length := p5.symm.trans r5
      have g1 := gtx_100 i
      have g2 := gtx_100 i'
      have e3 := congrArg Int32.toInt e2
      rw [Int32.toInt_ofNat_of_lt (by omega), Int32.toInt_ofNat_of_lt (by omega)] at e3
      omega
    exact gtx_inj i hi i' hi' hl (fun j hj => Value.int.inj (Option.some.inj ((p6 j hj).symm.trans (r6 j (hl ▸ hj)))))
  have iN : ∀ k, k < 18 → ∀ k', k' < 18 → st k = st k' → k = k' := fun k hk k' hk' e => by
    have a := (N k hk).2.1 _ (List.mem_of_getElem? (i := 0) rfl)
    have c := (N k' hk').2.1 _ (List.mem_of_getElem? (i := 0) rfl)
    rw [e] at a
    exact gnm_inj k hk k' hk' (Value.int.inj (va_OF_fn a c))
  have iG : ∀ k, k < 12 → ∀ k', k' < 12 → st (20 + k) = st (20 + k') → k = k' := fun k hk k' hk' e => by
    have a := (G k hk).2.1 _ (List.mem_of_getElem? (i := 0) rfl)
    have c := (G k' hk').2.1 _ (List.mem_of_getElem? (i := 0) rfl)
    rw [e] at a
    exact gsg_inj k hk k' hk' (Value.int.inj (va_OF_fn a c))
  have bV : st 40 ≠ b := by
    intro e
    obtain ⟨scr, x1, -, -, x4, x5⟩ := hX
    rw [← e] at x1
    cases v1.symm.trans x1
    have h0 : cv.slots[0]? = some (.ref (st 0)) := by rw [v5]; exact arrV_read _ _ (by decide)
    have hl : 0 < L := by rw [← x4]; exact (Array.getElem?_eq_some_iff.mp h0).1
    rw [x5 0 hl] at h0
    cases h0
  have bS : ∀ i, i < 34 → b ≠ st (100 + i) := fun i hi => (va_X_ne (S i hi).2.2.1 hX).symm
  have bN : ∀ k, k < 18 → b ≠ st k := fun k hk => (va_X_ne (N k hk).2.2 hX).symm
  have bG : ∀ k, k < 12 → b ≠ st (20 + k) := fun k hk => (va_X_ne (G k hk).2.2 hX).symm
  refine ⟨fun i hi => ?_, fun k hk => ?_, fun k hk => ?_, ?_, ?_⟩
  · unfold kd
    rw [ix_at (f := fun i => st (100 + i)) hi (fun j hj e => iS j hj i hi e)]
  · unfold kd
    rw [ix_no (f := fun i => st (100 + i)) (fun j hj => va_O_ne (N k hk).1 (S j hj).1 (by decide))]
    rw [ix_at (f := st) hk (fun j hj e => iN j hj k hk e)]
  · unfold kd
    rw [ix_no (f := fun i => st (100 + i)) (fun j hj => va_O_ne (G k hk).1 (S j hj).1 (by decide))]
    rw [ix_no (f := st) (fun j hj => va_O_ne (G k hk).1 (N j hj).1 (by decide))]
    rw [ix_at (f := fun k => st (20 + k)) hk (fun j hj e => iG j hj k hk e)]
  · unfold kd
    rw [ix_no (f := fun i => st (100 + i)) (fun j hj => va_O_ne V (S j hj).1 (by decide))]
    rw [ix_no (f := st) (fun j hj => va_O_ne V (N j hj).1 (by decide))]
    rw [ix_no (f := fun k => st (20 + k)) (fun j hj => va_O_ne V (G j hj).1 (by decide))]
    exact if_pos rfl
  · unfold kd
    rw [ix_no (f := fun i => st (100 + i)) bS, ix_no (f := st) bN, ix_no (f := fun k => st (20 + k)) bG]
    show (if b + 1 = st 40 + 1 then _ else if b + 1 = st 50 + 1 then _ else _) = _
    rw [if_neg (by omega), if_pos (by omega)]
end GStart5
