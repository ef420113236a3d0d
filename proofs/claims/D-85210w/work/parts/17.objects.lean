/-! ===== rows: stores of references, clones, copies, casts, constants ===== -/
theorem wR_at (σ : gMem) (a k x j : Nat) : gfv (wR σ a k x) (gaty j) a k = gfv (wR σ a k x) (gaty j) a k := rfl
section GObj3
variable {ω : gW} {l : Launch} {d kc ks : Nat} {μ : gM} {σ0 σ : gMem} {PR : Option gV → gMem → Prop} {PX : String → gMem → Prop} {pc : Nat} {lv lv' : List (Nat × gV)} {st : List gV}
theorem g_aast {i : Int} {a v : Nat} (j : Nat) {ty : FieldType} (hg : gaty j = ty) (hty : ty.isReference = true) (hj : ∀ ω : gW, (gtys ω)[j]? = some (ω.A j, ty)) (hd : decode μ.2.1 pc = .ok (.aastore, 1)) (ht : mT σ a = 100 + j) (hi : 0 ≤ i ∧ i < mN σ a) (hv : v = 0 ∨ gAsg j (mT σ v) = true) (kk : G ω l d kc ks μ σ0 PR PX (pc + 1) lv st (wR σ a i.toNat v)) : G ω l d kc ks μ σ0 PR PX pc lv (vR v :: vI i :: vR a :: st) σ := by
  intro p e s m args below meth c H locs cells slots mc ms ls hC hK hS hA hE hz hr hl
  have hT0 : mT σ a ≠ 0 := by rw [ht]; omega
  have hT1 : ¬ gOld (mT σ a) := by rw [ht]; omega
  obtain ⟨q1, q2, q3⟩ := gArr (j := j) hS ht
  obtain ⟨g1, g2⟩ := gidx hi (hS.2.2.1 a)
  have h1 := gOne_wR σ a i.toNat v
  have hval : gfv (wR σ a i.toNat v) (gaty j) a i.toNat = grv v := by
    rw [hg]
    cases ty <;> first | (cases hty; done) | (show grv (gu2 _ _ _ _ _ _) = _; rw [gu2_s])
  have fin : ∀ (H' : Heap) (locs' : List Loc), H'[a - 1]? = some ((arrV (ω.A j) (mN σ a) (fun i => gfv σ (gaty j) a i)).setSlot i.toNat (grv v)) → H'.size = H.size → (∀ q, q ≠ a - 1 → H'[q]? = H[q]?) → locs' = locs ++ [⟨a - 1, i.toNat⟩] → W p l e (gRm d mc ms) s m args below meth c H' locs' cells slots (vx_MQ below (gQ ω σ0 PR) (gX ω σ0 PX) args s mc ms (fun q => ω.lo ≤ q)) (F0 m (pc + 1) ls (st.map gval)) := by
    intro H' locs' e1 e2 e3 e4
    subst e4
    exact kk p e s m args below meth c H' _ cells slots mc ms ls hC hK (gSim_one h1 hS e2 e3 hT0 hT1 (gAt_ast (j := j) h1 ht e1 hval) (fun z => by
      have e5 : j = 2 := by omega
      subst e5
      have : ty = .byte := hg.symm
      subst this
      cases hty)) (gS_put hA e2 e3 (hS.lo hT0 hT1)) (h1.E hE) hz hr hl
  rw [List.map_cons, List.map_cons, List.map_cons, show gval (vR a) = .ref (a - 1) from grv_pos q2]
  by_cases v0 : v = 0
  · subst v0
    intro T hT X
    obtain ⟨-, kA, hkA, comp, hkind⟩ := (hK.1.2 j _ (hj ω)).1 (mN σ a) (fun i => gfv σ (gaty j) a i)
    obtain ⟨X', stp⟩ := X.aastoreNullIn hC.1 (cell := arrV (ω.A j) (mN σ a) (fun i => gfv σ (gaty j) a i)) (a := a - 1) (j := Int32.ofInt i) (by rw [hT]; exact q1) (fun q h => by cases h) (fun h => by cases h) hkA hkind hty ⟨fun h => g2 (Or.inl h), by rw [arrV_size, g1]; omega⟩ (g := F0 m pc ls (.null :: .int (Int32.ofInt i) :: .ref (a - 1) :: st.map gval)) rfl rfl (by rw [hC.2.1]; exact hd)
    have hlt : a - 1 < T.heap.size := by rw [hT]; exact q3
    rw [g1] at X' stp
    obtain ⟨t', a1, b1⟩ := fin _ _ (heapAt_setCell_self _ hlt) (by rw [size_setCell, hT]) (fun q hq => by rw [heapAt_setCell_ne _ (Ne.symm hq), hT]) rfl (T.setCell (a - 1) _) rfl X'
    exact ⟨t', stp t' a1, b1⟩
  · obtain ⟨-, cv, kv, kA, kcp, comp, t, s1, s2, s3, s4, s5, s6, s7, s8⟩ := gasg hK hS (hv.resolve_left v0)
    rw [show gval (vR v) = .ref (v - 1) from grv_pos v0]
    refine W.aast hC.1 hC.2.1 q1 (fun q h => by cases h) (fun h => by cases h) s4 s5 s6 s7 ⟨fun h => g2 (Or.inl h), by rw [arrV_size, g1]; omega⟩ s1 (fun q h => by rw [s2] at h; cases h) s3 s8 rfl rfl hd fun H' e1 e2 e3 => ?_
    rw [g1] at e1 ⊢
    exact fin H' _ (by rw [grv_pos v0]; exact e1) e2 e3 rfl
theorem g_clone {a j : Nat} {ad : String} {idx t : Nat} {ty : FieldType} (q1 : Cond.methodLink μ.1.cls idx ⟨ad, "clone", "()Ljava/lang/Object;"⟩ ∈ lw_all) (q2 : Cond.sameMethod ad "java/lang/Object" "clone" "()Ljava/lang/Object;" ∈ lw_all) (q3 : Cond.native ⟨"java/lang/Object", "clone", "()Ljava/lang/Object;"⟩ ∈ lw_all) (q4 : Cond.instanceMethod ⟨"java/lang/Object", "clone", "()Ljava/lang/Object;"⟩ ∈ lw_all) (q5 : Cond.selects ad ⟨ad, "clone", "()Ljava/lang/Object;"⟩ ⟨"java/lang/Object", "clone", "()Ljava/lang/Object;"⟩ ∈ lw_all) (q6 : Cond.castable ad "java/lang/Cloneable" ∈ lw_tbl)
    (hd : decode μ.2.1 pc = .ok (.invokevirtual idx, 3)) (hj : ∀ ω : gW, (gtys ω)[j]? = some (ω.A j, ty)) (hg : gaty j = ty) (hj2 : j ≠ 2) (had : ∀ (U : State) (cA : ClassId), va_RA U cA ty → U.vm.findClass ad = some cA) (hfit : ∀ (σ : gMem) (a i : Nat), fits ty (gfv σ ty a i) = true)
    (hcell : ∀ (s : State) (H : Heap) (locs : List Loc), gKK ω s → gSim ω σ H → va_S (gA ω) s.heap H locs → a ≠ 0 ∧ gLikeA H (a - 1) (ω.A j) (mN σ a) (fun i => gfv σ (gaty j) a i))
    (hdm : 1 ≤ d) (hcat : (st.map gcat).sum ≤ 8) (hkc : 1 ≤ kc) (hks : mN σ a ≤ ks) (hT : t = 100 + j)
    (kk : G ω l d (kc - 1) (ks - mN σ a) μ σ0 PR PX (pc + 3) lv (vR (mZ σ) :: st) (wK σ a t)) : G ω l d kc ks μ σ0 PR PX pc lv (vR a :: st) σ := by
  intro p e s m args below meth c H locs cells slots mc ms ls hC hK hS hA hE hz hr hl
  subst hT
  obtain ⟨ha0, cell, hcl, hcls, hvs, hvu, hslots⟩ := hcell s H locs hK hS hA
  have hZ : mZ σ = H.size + 1 := hS.1
  have hZ1 : mZ σ - 1 = H.size := by omega
  have hts := hC.2.2.2.2.2.2.1
  obtain ⟨c0, t0', f1, f2, f3⟩ := Cond.castable_spec (va_Nw.use (A := args) rfl (hK.2.1 _ q6 rfl))
  have hnm := had s _ (hK.1.2 j _ (hj ω)).2
  cases Option.some.inj (hnm.symm.trans f1)
  rw [List.map_cons, show gval (vR a) = .ref (a - 1) from grv_pos ha0]
  have hsz : cell.slots.size = mN σ a := by rw [hslots]; exact arrV_size _ _ _
  have hcellE : ({ cls := cell.cls, slots := cell.slots } : Cell) = arrV (ω.A j) (mN σ a) (fun i => gfv σ (gaty j) a i) := by rw [hcls, hslots]; rfl
  intro T hT X
  have hcellT : T.heap[a - 1]? = some cell := by rw [hT]; exact hcl
  obtain ⟨-, kA, hkA, comp, hkind⟩ := State.isArrayOf_alike X.warmed.alike ((hK.1.2 j _ (hj ω)).1 0 (fun _ => .null))
  obtain ⟨-, kS, hkS, compS, hkindS⟩ := (hK.1.2 j _ (hj ω)).1 0 (fun _ => .null)
  have hlsz : ls.size = c.maxLocals := by rw [hC.2.2.1]; exact hl.1
  obtain ⟨vm', X', stp⟩ := X.cloneArray hC.1 hC.2.2.2.2.2.1 (hts _ q1) (hts _ q2) (hts _ q3) (hts _ q4) (hts _ q5) (a := a - 1) (cell := cell) hcellT hvs hvu (by rw [hcls]; exact hnm) f2 (by rw [hcls]; exact f3)
    (fun i v hv => by
      rw [hcls]
      have hk' : T.vm.classes[ω.A j]? = some kA := hkA
      have hv2 : v = gfv σ (gaty j) a i := by
        rw [hslots] at hv
        have hlt : i < mN σ a := by
          have := (Array.getElem?_eq_some_iff.mp hv).1
          rwa [arrV_size] at this
        rw [arrV_read _ _ hlt] at hv
        exact (Option.some.inj hv).symm
      have := hfit σ a i
      rw [hv2, hg]
      simpa [State.fitsSlot, State.slotType?, hk', hkind] using this)
    (g := F0 m pc ls (.ref (a - 1) :: st.map gval)) rfl hlsz rfl (by rw [hC.2.1]; exact hd) hdm (by show 2 * 0 + _ + 14 ≤ 64 * d; rw [gcats]; omega) (show cells + 1 ≤ mc by omega) (by rw [hsz]; show slots + mN σ a ≤ ms; omega) (hloader := by rw [hcls]; exact Vm.clonesLoader_of_array hkS hkindS)
  rw [hcellE, hsz] at X'
  generalize hH1 : H.push (arrV (ω.A j) (mN σ a) (fun i => gfv σ (gaty j) a i)) = H1
  have z1 : H1.size = H.size + 1 := by rw [← hH1, Array.size_push]
  have e1 : H1[H.size]? = some (arrV (ω.A j) (mN σ a) (fun i => gfv σ (gaty j) a i)) := by rw [← hH1, Array.getElem?_push_size]
  have o1 : ∀ q : Nat, q < H.size → H1[q]? = H[q]? := fun q hq => by rw [← hH1, Array.getElem?_push, if_neg (Nat.ne_of_lt hq)]
  have hT2 : mT (wK σ a (100 + j)) (mZ σ) = 100 + j := by show (if mZ σ = mZ σ then _ else _) = _; rw [if_pos rfl]
  have hNN : mN (wK σ a (100 + j)) (mZ σ) = mN σ a := by show (if mZ σ = mZ σ then mN σ a else _) = _; rw [if_pos rfl]
  have w := kk p e s m args below meth c H1 locs (cells + 1) (slots + mN σ a) mc ms ls hC hK
    (gSim_news (gNew_K σ _ _) hS (Nat.le_trans hz hA.1) z1 o1 (fun b h1 h2 => by
      have eb : b = mZ σ := by omega
      subst eb
      refine ⟨by rw [hT2]; omega, fun _ => gAt_arr hT2 hNN (by rw [hZ1, e1]) (fun i hi => ?_), by rw [hNN]; exact hS.2.2.1 a, fun h => by rw [hT2] at h; omega⟩
      unfold gfv mR wK
      simp))
    (gS_new hA z1 o1) (hE.tr ((gNew_K σ _ _).E hS.ok)) hz ⟨by omega, by omega⟩ hl
  rw [List.map_cons, gref hS] at w
  obtain ⟨t, b1, b2⟩ := w ((T.setVm vm').pushCell (arrV (ω.A j) (mN σ a) (fun i => gfv σ (gaty j) a i))) (by rw [← hH1, ← hT]; rfl) X'
  exact ⟨t, stp t (by rw [hcellE]; rw [← hT] at b1; exact b1), b2⟩
theorem g_copy {a b j idx : Nat} {sp dp n : Int} {ty : FieldType} {σ' : gMem} (q1 : Cond.methodLink μ.1.cls idx arraycopyName ∈ lw_all) (q2 : Cond.native arraycopyName ∈ lw_all) (q3 : Cond.static arraycopyName ∈ lw_all) (q4 : Cond.initialized "java/lang/System" ∈ lw_all) (hd : decode μ.2.1 pc = .ok (.invokestatic idx, 3)) (hj : ∀ ω : gW, (gtys ω)[j]? = some (ω.A j, ty)) (hg : gaty j = ty)
    (h1 : mT σ a = 100 + j) (h2 : mT σ b = 100 + j) (h : (0 ≤ sp ∧ 0 ≤ dp ∧ 0 ≤ n) ∧ sp + n ≤ (mN σ a : Int) ∧ dp + n ≤ (mN σ b : Int)) (hdm : 1 ≤ d) (hcat : (st.map gcat).sum ≤ 8)
    (hfit : ∀ (s : State) (H : Heap), gKK ω s → gSim ω σ H → ∀ i, i < n.toNat → fits ty (gfv σ ty a (sp.toNat + i)) = true ∧ (refKind ty = true → ∀ y, gfv σ ty a (sp.toNat + i) = .ref y → ∃ cell : Cell, H[y]? = some cell ∧ cell.vm.isStatics = false ∧ (∃ kC, s.vm.classes[cell.cls]? = some kC) ∧ ∀ (comp : ClassId) (k1 : Class), s.vm.classes[ω.A j]? = some k1 → k1.kind = .array comp ty → (∃ kE, s.vm.classes[comp]? = some kE) ∧ s.vm.assignable cell.cls comp = true))
    (hm : gMany σ σ' b) (hv : ∀ i, gfv σ' ty b i = va_cpy (fun i => gfv σ ty a i) (fun i => gfv σ ty b i) sp.toNat dp.toNat n.toNat i) (hby : mT σ b = 102 → gBy σ → ∀ i, -128 ≤ mI σ' b i ∧ mI σ' b i ≤ 127)
    (kk : G ω l d kc ks μ σ0 PR PX (pc + 3) lv st σ') : G ω l d kc ks μ σ0 PR PX pc lv (vI n :: vI dp :: vR b :: vI sp :: vR a :: st) σ := by
  intro p e s m args below meth c H locs cells slots mc ms ls hC hK hS hA hE hz hr hl
  have hts := hC.2.2.2.2.2.2.1
  have hT0 : mT σ b ≠ 0 := by rw [h2]; omega
  have hT1 : ¬ gOld (mT σ b) := by rw [h2]; omega
  obtain ⟨p1, p2, p3⟩ := gArr (j := j) hS h1
  obtain ⟨r1, r2, r3⟩ := gArr (j := j) hS h2
  have hNa := hS.2.2.1 a
  have hNb := hS.2.2.1 b
  have cl : ∀ z : Int, 0 ≤ z → z < 2147483648 → (Int32.ofInt z).toNatClampNeg = z.toNat ∧ ¬ Int32.ofInt z < 0 ∧ (Int32.ofInt z).toInt = z := fun z z0 z1 => by
    refine ⟨Int32.toNatClampNeg_ofInt_of_le (by omega) (by omega), fun q => ?_, g32_of (by omega)⟩
    rw [Int32.lt_iff_toInt_lt, g32_of (by omega)] at q
    have : (0 : Int32).toInt = 0 := rfl
    omega
  obtain ⟨cs1, cs2, cs3⟩ := cl sp (by omega) (by omega)
  obtain ⟨cd1, cd2, cd3⟩ := cl dp (by omega) (by omega)
  obtain ⟨cn1, cn2, cn3⟩ := cl n (by omega) (by omega)
  have hlsz : ls.size = c.maxLocals := by rw [hC.2.2.1]; exact hl.1
  rw [List.map_cons, List.map_cons, List.map_cons, List.map_cons, List.map_cons, show gval (vR a) = .ref (a - 1) from grv_pos p2, show gval (vR b) = .ref (b - 1) from grv_pos r2]
  intro T hT X
  obtain ⟨-, k0, hk0, cm0, hkk0⟩ := (hK.1.2 j _ (hj ω)).1 (mN σ a) (fun i => gfv σ (gaty j) a i)
  obtain ⟨-, k1, hk1, cm1, hkk1⟩ := (hK.1.2 j _ (hj ω)).1 (mN σ b) (fun i => gfv σ (gaty j) b i)
  have hcsz : nativeFrameWords "java/lang/System" "arraycopy" 5 + 11 ≤ 50 := by decide
  obtain ⟨vm', X', stp⟩ := X.arraycopy hC.1 hC.2.2.2.2.2.1 (hts _ q1) (hts _ q2) (hts _ q3) (hts _ q4) (src := a - 1) (dst := b - 1) (cs := arrV (ω.A j) (mN σ a) (fun i => gfv σ (gaty j) a i)) (cd := arrV (ω.A j) (mN σ b) (fun i => gfv σ (gaty j) b i)) (srcPos := Int32.ofInt sp) (destPos := Int32.ofInt dp) (n := Int32.ofInt n) (by rw [hT]; exact p1) (by rw [hT]; exact r1)
    (fun _ h => by cases h) (fun _ h => by cases h) (fun h => by cases h) (fun h => by cases h) hk0 hk1 hkk0 hkk1 (by simp) cs2 cd2 cn2
    (by rw [cs3, cn3, arrV_size]; omega)
    (by rw [cd3, cn3, arrV_size]; omega)
    (fun vm₁ hal i hi => by
      rw [cn1] at hi
      have ee : (arrV (ω.A j) (mN σ a) (fun i => gfv σ (gaty j) a i)).slots.getD ((Int32.ofInt sp).toNatClampNeg + i) .null = gfv σ (gaty j) a (sp.toNat + i) := by
        rw [cs1, Array.getD_eq_getD_getElem?, arrV_read _ _ (by omega)]
        rfl
      rw [ee, hg]
      obtain ⟨f1, f2⟩ := hfit s H hK hS i hi
      refine ⟨f1, ?_⟩
      cases hy : gfv σ ty a (sp.toNat + i) with
      | ref y =>
        have hrk : refKind ty = true := by
          cases ty <;> first | rfl | (simp [gfv] at hy)
        obtain ⟨cellV, g1, g2, ⟨kC, hkC⟩, hasg⟩ := f2 hrk y hy
        obtain ⟨⟨kE, hkE⟩, has2⟩ := hasg cm1 k1 hk1 hkk1
        obtain ⟨kC', hkC', -⟩ := hal.2.2 _ _ hkC
        obtain ⟨kE', hkE', -⟩ := hal.2.2 _ _ hkE
        refine ⟨cellV, (show T.heap[y]? = some cellV by rw [hT]; exact g1), (fun q h => by rw [h] at g2; cases g2), ⟨kC', hkC'⟩, ?_, ?_⟩
        · exact ⟨kE', hkE'⟩
        · show vm₁.assignable _ _ = true
          rw [hal.assignable]
          exact has2
      | _ => trivial)
    (g := F0 m pc ls (.int (Int32.ofInt n) :: .int (Int32.ofInt dp) :: .ref (b - 1) :: .int (Int32.ofInt sp) :: .ref (a - 1) :: st.map gval)) rfl hlsz (rest := st.map gval) rfl (by rw [hC.2.1]; exact hd) hdm (by show 2 * 0 + _ + _ ≤ 64 * d; rw [gcats]; omega)
  have e1 : copied (arrV (ω.A j) (mN σ a) (fun i => gfv σ (gaty j) a i)) (arrV (ω.A j) (mN σ b) (fun i => gfv σ (gaty j) b i)) (Int32.ofInt sp) (Int32.ofInt dp) (Int32.ofInt n) = arrV (ω.A j) (mN σ b) (fun i => va_cpy (fun i => gfv σ (gaty j) a i) (fun i => gfv σ (gaty j) b i) (Int32.ofInt sp).toNatClampNeg (Int32.ofInt dp).toNatClampNeg (Int32.ofInt n).toNatClampNeg i) := va_copied (fun z => z) (ω.A j) (ω.A j) (fun i => gfv σ (gaty j) a i) (fun i => gfv σ (gaty j) b i) (by rw [cs1, cn1]; omega)
  rw [cs1, cd1, cn1] at e1
  rw [e1] at X' stp
  have hlt : b - 1 < T.heap.size := by rw [hT]; exact r3
  obtain ⟨t, a1, b1⟩ := kk p e s m args below meth c ((T.setVm vm').setCell (b - 1) (arrV (ω.A j) (mN σ b) (fun i => va_cpy (fun i => gfv σ (gaty j) a i) (fun i => gfv σ (gaty j) b i) sp.toNat dp.toNat n.toNat i))).heap _ cells slots mc ms ls hC hK
    (gSim_many hm hS (by rw [size_setCell]; exact congrArg Array.size hT) (fun q hq => by rw [heapAt_setCell_ne _ (Ne.symm hq)]; exact congrArg (·[q]?) hT) hT0 hT1 (gAt_arr (j := j) (by rw [hm.T]; exact h2) (hm.N b) (heapAt_setCell_self _ hlt) (fun i _ => by rw [hg]; exact (hv i).symm)) (fun z => hby z hS.2.2.2.2.2.2))
    ⟨by rw [size_setCell]; exact Nat.le_trans hA.1 (Nat.le_of_eq (congrArg Array.size hT.symm)), fun q g1 g2 => by
      rw [heapAt_setCell_ne _ (fun ee => g2 (by rw [← ee]; exact hS.lo hT0 hT1))]
      exact (congrArg (·[q]?) hT).trans (hA.2.1 q g1 g2), fun z hz' => by
      rcases List.mem_append.mp hz' with g | g
      · exact hA.2.2 z g
      · obtain ⟨i, -, rfl⟩ := List.mem_map.mp g
        exact hS.lo hT0 hT1⟩ (hm.E hE) hz hr hl _ rfl X'
  exact ⟨t, stp t a1, b1⟩
end GObj3
