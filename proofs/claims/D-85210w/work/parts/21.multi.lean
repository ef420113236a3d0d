/-! ===== an array of arrays ===== -/
theorem gouterI (cA : ClassId) (N h0 : Nat) : ∀ i, Jvm.Free.Multi.outerC cA N h0 i = arrV cA N (fun j => if j < i then .ref (h0 + 1 + j) else .null)
  | 0 => by
    unfold Jvm.Free.Multi.outerC
    have e : (fun j : Nat => if j < 0 then Value.ref (h0 + 1 + j) else Value.null) = fun _ => Value.null := by
      funext j; rw [if_neg (Nat.not_lt_zero j)]
    rw [e, ← arrV_new]
  | i + 1 => by
    unfold Jvm.Free.Multi.outerC
    rw [gouterI cA N h0 i, arrV_store]
    congr 1
    funext j
    unfold updV
    by_cases h1 : j = i
    · subst h1; rw [if_pos rfl, if_pos (by omega)]
    · rw [if_neg h1]
      show (if j < i then Value.ref (h0 + 1 + j) else Value.null) = _
      by_cases h2 : j < i
      · rw [if_pos h2, if_pos (by omega)]
      · rw [if_neg h2, if_neg (by omega)]
theorem garr_ext {cA : ClassId} {N : Nat} {f g : Nat → Value} (h : ∀ j, j < N → f j = g j) : arrV cA N f = arrV cA N g := by
  unfold arrV
  congr 1
  apply Array.ext
  · simp
  · intro i h1 h2
    simp only [Array.getElem_ofFn]
    exact h i (by simpa using h1)
theorem gouter (cA : ClassId) (N h0 : Nat) : Jvm.Free.Multi.outerC cA N h0 N = arrV cA N (fun i => .ref (h0 + 1 + i)) := by
  rw [gouterI]
  exact garr_ext (fun j hj => by rw [if_pos hj])
theorem ginner (comp : ClassId) (M : Nat) (dv : Value) : Jvm.Free.Multi.innerC comp M dv = arrV comp M (fun _ => dv) := by
  unfold Jvm.Free.Multi.innerC arrV
  congr 1
  apply Array.ext_getElem?
  intro i
  by_cases hi : i < M <;> simp [hi]
section GMulti
variable {ω : gW} {l : Launch} {d kc ks : Nat} {μ : gM} {σ0 σ : gMem} {PR : Option gV → gMem → Prop} {PX : String → gMem → Prop} {pc : Nat} {lv lv' : List (Nat × gV)} {st : List gV}
theorem g_multi {idx : Nat} {r c0 : Int} (q1 : Cond.classLink μ.1.cls idx "[[LSheetBranches$Content;" ∈ lw_all) (hd : decode μ.2.1 pc = .ok (.multianewarray idx 2, 4)) (h : (0 ≤ r ∧ r < 1000) ∧ 0 ≤ c0 ∧ c0 < 1000) (hkc : 1 + r.toNat ≤ kc) (hks : r.toNat + r.toNat * c0.toNat ≤ ks)
    (kk : G ω l d (kc - (1 + r.toNat)) (ks - (r.toNat + r.toNat * c0.toNat)) μ σ0 PR PX (pc + 4) lv (vR (mZ σ) :: st) (wM σ r.toNat c0.toNat)) : G ω l d kc ks μ σ0 PR PX pc lv (vI c0 :: vI r :: st) σ := by
  intro p e s m args below meth c H locs cells slots mc ms ls hC hK hS hA hE hz hr hl
  have hts := hC.2.2.2.2.2.2.1
  have hZ : mZ σ = H.size + 1 := hS.1
  have cl : ∀ z : Int, 0 ≤ z → z < 1000 → (Int32.ofInt z).toNatClampNeg = z.toNat ∧ ¬ Int32.ofInt z < 0 := fun z z0 z1 => by
    refine ⟨Int32.toNatClampNeg_ofInt_of_le (by omega) (by omega), fun q => ?_⟩
    rw [Int32.lt_iff_toInt_lt, g32_of (by omega)] at q
    have : (0 : Int32).toInt = 0 := rfl
    omega
  obtain ⟨cr1, cr2⟩ := cl r (by omega) (by omega)
  obtain ⟨cc1, cc2⟩ := cl c0 (by omega) (by omega)
  intro T hT X
  obtain ⟨vm₁, cA, comp, hW1, hfA, hfC, -, -, X1, step⟩ := X.multianewarray2F hC.1 (index := idx) (ty := .object "SheetBranches$Content") hC.2.2.2.2.2.1 (hts _ q1) hK.2.2.2.1.2.2.2 (hts _ q567)
    (g := F0 m pc ls (.int (Int32.ofInt c0) :: .int (Int32.ofInt r) :: st.map gval)) rfl (by rw [hC.2.1]; exact hd) (n := Int32.ofInt r) (k := Int32.ofInt c0) (rest := st.map gval) rfl cr2 cc2
    (by rw [cr1]; omega) (by rw [cc1]; show c0.toNat * 4 ≤ _; omega) (by rw [cc1]; omega) rfl rfl (by rw [cr1]; show cells + (1 + r.toNat) ≤ mc; omega) (by rw [cr1, cc1]; show slots + (r.toNat + r.toNat * c0.toNat) ≤ ms; omega)
  rw [cr1, cc1] at X1 step
  have hdv : defaultValue (.object "SheetBranches$Content") = .null := rfl
  rw [hdv] at X1 step
  obtain ⟨f1, f2, f3, f4⟩ := Jvm.Free.Multi.fill_facts (T.setVm vm₁) cA comp r.toNat c0.toNat .null r.toNat
  have fo : ∀ q, q < H.size → (Jvm.Free.Multi.fill (T.setVm vm₁) cA comp r.toNat c0.toNat .null r.toNat).heap[q]? = H[q]? := fun q hq => by
    rw [Jvm.Free.Multi.fill_old (T.setVm vm₁) cA comp _ _ _ (by show q < T.heap.size; rw [hT]; exact hq)]
    show T.heap[q]? = _
    rw [hT]
  have fi := Jvm.Free.Multi.fill_inner (T.setVm vm₁) cA comp r.toNat c0.toNat .null r.toNat
  have hsz : (T.setVm vm₁).heap.size = H.size := by show T.heap.size = _; rw [hT]
  rw [hsz] at f1 f2 fi
  have hTs : T.heap.size = H.size := by rw [hT]
  rw [hTs] at step
  generalize hU : Jvm.Free.Multi.fill (T.setVm vm₁) cA comp r.toNat c0.toNat .null r.toNat = U at X1 step f1 f2 fi fo
  have eA : cA = ω.A 11 := Option.some.inj (hfA.symm.trans (hK.1.2 11 _ rfl).2)
  obtain ⟨-, -, -, -, -, hA10⟩ := (hK.1.2 10 _ rfl).2
  have eC : comp = ω.A 10 := Option.some.inj (hfC.symm.trans hA10)
  subst eA; subst eC
  have z1 : U.heap.size = H.size + (1 + r.toNat) := by rw [f1]; omega
  have w := kk p e s m args below meth c U.heap locs (cells + (1 + r.toNat)) (slots + (r.toNat + r.toNat * c0.toNat)) mc ms ls hC hK
    (gSim_news (gNew_M σ r.toNat c0.toNat) hS (Nat.le_trans hz hA.1) z1 fo (fun b h1 h2 => by
      by_cases e0 : b = mZ σ
      · subst e0
        have hT2 : mT (wM σ r.toNat c0.toNat) (mZ σ) = 111 := by show (if mZ σ = mZ σ then _ else _) = _; rw [if_pos rfl]
        have hN2 : mN (wM σ r.toNat c0.toNat) (mZ σ) = r.toNat := by show (if mZ σ = mZ σ then r.toNat else _) = _; rw [if_pos rfl]
        refine ⟨by rw [hT2]; omega, fun _ => gAt_arr (j := 11) hT2 hN2 (f := fun i => .ref (H.size + 1 + i)) (by rw [hZ, Nat.add_sub_cancel, f2, gouter]) (fun i hi => ?_), by rw [hN2]; omega, fun h => by rw [hT2] at h; omega⟩
        show Value.ref (H.size + 1 + i) = grv (if mZ σ = mZ σ then (if i < r.toNat then mZ σ + 1 + i else 0) else _)
        rw [if_pos rfl, if_pos hi, hZ]
        show _ = grv (H.size + 1 + 1 + i)
        rw [show H.size + 1 + 1 + i = (H.size + 1 + i) + 1 by omega]
        rfl
      · have hT2 : mT (wM σ r.toNat c0.toNat) b = 110 := by show (if b = mZ σ then _ else if mZ σ ≤ b ∧ b < mZ σ + (1 + r.toNat) then _ else _) = _; rw [if_neg e0, if_pos ⟨h1, h2⟩]
        have hN2 : mN (wM σ r.toNat c0.toNat) b = c0.toNat := by show (if b = mZ σ then _ else if mZ σ ≤ b ∧ b < mZ σ + (1 + r.toNat) then _ else _) = _; rw [if_neg e0, if_pos ⟨h1, h2⟩]
        have hb : b - 1 = H.size + 1 + (b - 1 - H.size - 1) := by omega
        refine ⟨by rw [hT2]; omega, fun _ => gAt_arr (j := 10) hT2 hN2 (f := fun _ => .null) (by rw [hb, fi _ (by omega), ginner]) (fun i hi => ?_), by rw [hN2]; omega, fun h => by rw [hT2] at h; omega⟩
        show Value.null = grv (if b = mZ σ then _ else if mZ σ ≤ b ∧ b < mZ σ + (1 + r.toNat) then 0 else _)
        rw [if_neg e0, if_pos ⟨h1, h2⟩]
        rfl))
    (gS_new hA z1 fo) (hE.tr ((gNew_M σ _ _).E hS.ok)) hz ⟨by omega, by omega⟩ hl
  rw [List.map_cons, gref hS] at w
  have X2 : Stand p l e (gRm d mc ms) s m args below meth c U locs (cells + (1 + r.toNat)) (slots + (r.toNat + r.toNat * c0.toNat)) := by
    have e1 : cells + 1 + r.toNat = cells + (1 + r.toNat) := by omega
    have e2 : slots + r.toNat + r.toNat * c0.toNat = slots + (r.toNat + r.toNat * c0.toNat) := by omega
    rw [e1, e2] at X1
    exact X1
  obtain ⟨t, a1, b1⟩ := w U rfl X2
  exact ⟨t, step t a1, b1⟩
end GMulti
section GCallW
variable {ω : gW} {l : Launch} {d d' kc ks kc' ks' : Nat} {μ : gM} {σ0 σ : gMem} {PR PR' : Option gV → gMem → Prop} {PX : String → gMem → Prop} {pc : Nat} {lv lv' : List (Nat × gV)} {st st0 : List gV}
theorem g_callSW {y' : MethodName} {cc' : ByteArray} {nL' idx : Nat} {ret' : Option FieldType} {As : List gV} {hh0 : Nat × Nat × Nat × Nat} {hh : List (Nat × Nat × Nat × Nat)} (hM : gC ω l d' kc' ks' (y', cc', nL', ret', hh0 :: hh) As σ PR' gNo) (q1 : Cond.methodLink μ.1.cls idx y' ∈ lw_all) (q2 : Cond.static y' ∈ lw_all) (q4 : Cond.initialized y'.cls ∈ lw_all) (q5 : Cond.codeWith y' cc' nL' ret' (hh0 :: hh) ∈ lw_all) (hd : decode μ.2.1 pc = .ok (.invokestatic idx, 3))
    (hy : y'.cls ≠ "java/lang/invoke/MethodHandle" ∧ y'.cls ≠ "java/lang/invoke/VarHandle" ∧ (parseMethodDescriptor y'.desc).map (fun d => d.parameters.length) = some As.length) (hdm : d' + 1 ≤ d) (hnl : nL' ≤ 45) (hkc : kc' ≤ kc ∧ ks' ≤ ks) (hs : st0 = As.reverse ++ st) (hcat : (st.map gcat).sum ≤ 8)
    (kk : ∀ (v : Option gV) (σ' : gMem), PR' v σ' → gE σ σ' → G ω l d (kc - kc') (ks - ks') μ σ0 PR PX (pc + 3) lv (v.toList ++ st) σ') : G ω l d kc ks μ σ0 PR PX pc lv st0 σ := by
  intro p e s m args below meth c H locs cells slots mc ms ls hC hK hS hA hE hz hr hl
  refine g_after hC hK hA hE hz hr hl hkc (vx_runSW (As := As.map gval) (rest := st.map gval) ⟨hC.1, hC.2.1, hC.2.2.1, hC.2.2.2.2.2.1, hC.2.2.2.2.2.2.1⟩ hM.met (vx_cwSW As.length hC.2.2.2.2.2.2.1 (lw_SW q1 q2 q4 q5) rfl rfl rfl hy ⟨hdm, ?_⟩) ⟨gP_blind _ _ _, gPre hK hS hA hz As⟩ rfl (List.length_map _) hl.1 (gss hs) (lv_room (by rw [gcats]; exact hcat)) hd ⟨?_, ?_⟩) kk
  · show 8 + (nL' + 11) + 64 * d' ≤ 64 * d
    omega
  · show cells + kc' ≤ mc
    omega
  · show slots + ks' ≤ ms
    omega
end GCallW
