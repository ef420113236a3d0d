/-! ===== texts: String.length, String.charAt; Enum.ordinal ===== -/
section GStr
variable {ω : gW} {l : Launch} {d d' kc ks kc' ks' : Nat} {μ : gM} {σ0 σ : gMem} {PR PR' : Option gV → gMem → Prop} {PX : String → gMem → Prop} {pc : Nat} {lv lv' : List (Nat × gV)} {st st0 : List gV}
theorem g_nret {x : Int} {ty : FieldType} (hd : decode μ.2.1 pc = .ok (.ireturn, 1)) (hr0 : μ.2.2.2.1 = some ty) (hn : narrow ty (.int (Int32.ofInt x)) = .int (Int32.ofInt x)) (hp : PR (some (vI x)) σ) : G ω l d kc ks μ σ0 PR PX pc lv [vI x] σ := by
  intro p e s m args below meth c H locs cells slots mc ms ls hC hK hS hA hE hz hr hl
  refine W.widen (k := mc) (n := ms) (by omega) (by omega) ?_
  refine vx_ret ?_
  exact W.zret hC.1 hC.2.1 (hC.2.2.2.1.trans hr0) hn (fun t ht _ => ⟨_, _, rfl, hp, hE, by rw [ht]; exact hS, hA.F ht⟩) hA.2.2 hd (hlocks := hC.2.2.2.2.1)
theorem g_sval {i idx : Nat} (hi : i < 34) (q1 : Cond.fieldLink μ.1.cls idx "java/lang/String" "value" "[B" ∈ lw_all) (hd : decode μ.2.1 pc = .ok (.getfield idx, 3)) (kk : G ω l d kc ks μ σ0 PR PX (pc + 3) lv (vR (ω.st (200 + i) + 1) :: st) σ) : G ω l d kc ks μ σ0 PR PX pc lv (vR (ω.st (100 + i) + 1) :: st) σ := by
  intro p e s m args below meth c H locs cells slots mc ms ls hC hK hS hA hE hz hr hl
  have w := kk p e s m args below meth c H locs cells slots mc ms ls hC hK hS hA hE hz hr hl
  exact vk_getf hC.1 hC.2.1 (hK.2.2.1.2.1 i hi).2.2.1 hA hC.2.2.2.2.2.1 (hC.2.2.2.2.2.2.1 _ q1) (fun x h => h) hd w
theorem g_scod {i idx : Nat} (hi : i < 34) (q1 : Cond.fieldLink μ.1.cls idx "java/lang/String" "coder" "B" ∈ lw_all) (hd : decode μ.2.1 pc = .ok (.getfield idx, 3)) (kk : G ω l d kc ks μ σ0 PR PX (pc + 3) lv (vI 0 :: st) σ) : G ω l d kc ks μ σ0 PR PX pc lv (vR (ω.st (100 + i) + 1) :: st) σ := by
  intro p e s m args below meth c H locs cells slots mc ms ls hC hK hS hA hE hz hr hl
  have w := kk p e s m args below meth c H locs cells slots mc ms ls hC hK hS hA hE hz hr hl
  exact vk_getf hC.1 hC.2.1 (hK.2.2.1.2.1 i hi).2.1 hA hC.2.2.2.2.2.1 (hC.2.2.2.2.2.2.1 _ q1) (fun x h => h) hd w
theorem g_slenA {i : Nat} (hi : i < 34) (hd : decode μ.2.1 pc = .ok (.arraylength, 1)) (kk : G ω l d kc ks μ σ0 PR PX (pc + 1) lv (vI ((gtx.getD i []).length : Int) :: st) σ) : G ω l d kc ks μ σ0 PR PX pc lv (vR (ω.st (200 + i) + 1) :: st) σ := by
  intro p e s m args below meth c H locs cells slots mc ms ls hC hK hS hA hE hz hr hl
  have w := kk p e s m args below meth c H locs cells slots mc ms ls hC hK hS hA hE hz hr hl
  obtain ⟨cell, h1, h2, h3, h4, h5, h6, h7⟩ := (hK.2.2.1.2.1 i hi).2.2.2.kept hA.2.1
  exact W.alen hC.1 hC.2.1 h1 h2 (h5.trans (Int32.ofInt_eq_ofNat).symm) rfl rfl hd w
theorem g_sald {i : Nat} {k : Int} (hi : i < 34) (hk : 0 ≤ k ∧ k < ((gtx.getD i []).length : Int)) (hd : decode μ.2.1 pc = .ok (.baload, 1)) (kk : G ω l d kc ks μ σ0 PR PX (pc + 1) lv (vI ((gtx.getD i []).getD k.toNat 0) :: st) σ) : G ω l d kc ks μ σ0 PR PX pc lv (vI k :: vR (ω.st (200 + i) + 1) :: st) σ := by
  intro p e s m args below meth c H locs cells slots mc ms ls hC hK hS hA hE hz hr hl
  have w := kk p e s m args below meth c H locs cells slots mc ms ls hC hK hS hA hE hz hr hl
  obtain ⟨cell, h1, h2, h3, h4, h5, h6, h7⟩ := (hK.2.2.1.2.1 i hi).2.2.2.kept hA.2.1
  have hlen : (gtx.getD i []).length < 100 := by
    have : ∀ x ∈ gtx, x.length < 100 := by decide
    rw [List.getD_eq_getElem?_getD]
    cases hx : gtx[i]? with
    | none => simp
    | some x => exact this x (List.mem_of_getElem? hx)
  obtain ⟨g1, g2⟩ := gidx (n := (gtx.getD i []).length) hk (by omega)
  refine W.bald (v := gval (vI ((gtx.getD i []).getD k.toNat 0))) hC.1 hC.2.1 h1 h2 h3 (fun q => ?_) ?_ rfl rfl hd w
  · rcases q with q | q
    · exact g2 (Or.inl q)
    · exact g2 (Or.inr (Nat.le_trans h4 q))
  · rw [g1, h6 _ (by omega)]
    rfl
theorem g_compact {idx : Nat} (q1 : Cond.fieldLink μ.1.cls idx "java/lang/String" "COMPACT_STRINGS" "Z" ∈ lw_all) (hd : decode μ.2.1 pc = .ok (.getstatic idx, 3)) (kk : G ω l d kc ks μ σ0 PR PX (pc + 3) lv (vI 1 :: st) σ) : G ω l d kc ks μ σ0 PR PX pc lv st σ := by
  intro p e s m args below meth c H locs cells slots mc ms ls hC hK hS hA hE hz hr hl
  have w := kk p e s m args below meth c H locs cells slots mc ms ls hC hK hS hA hE hz hr hl
  exact va_gets hC.1 hC.2.1 hK.2.2.1.2.2.2.2.2.1.2.2.1 hA hC.2.2.2.2.2.1 (hC.2.2.2.2.2.2.1 _ q1) (fun x h => h) hd w
theorem g_sioobe {idx : Nat} (q1 : Cond.fieldLink μ.1.cls idx "jdk/internal/util/Preconditions" "SIOOBE_FORMATTER" "Ljava/util/function/BiFunction;" ∈ lw_all) (hd : decode μ.2.1 pc = .ok (.getstatic idx, 3)) (kk : ∀ x : Nat, G ω l d kc ks μ σ0 PR PX (pc + 3) lv (vR x :: st) σ) : G ω l d kc ks μ σ0 PR PX pc lv st σ := by
  intro p e s m args below meth c H locs cells slots mc ms ls hC hK hS hA hE hz hr hl
  rcases hK.2.2.1.2.2.2.2.2.1.2.2.2 with h | ⟨t, h⟩
  · exact va_gets hC.1 hC.2.1 h hA hC.2.2.2.2.2.1 (hC.2.2.2.2.2.2.1 _ q1) (fun x h => h) hd (kk 0 p e s m args below meth c H locs cells slots mc ms ls hC hK hS hA hE hz hr hl)
  · exact va_gets hC.1 hC.2.1 h hA hC.2.2.2.2.2.1 (hC.2.2.2.2.2.2.1 _ q1) (fun x h => h) hd (kk (t + 1) p e s m args below meth c H locs cells slots mc ms ls hC hK hS hA hE hz hr hl)
theorem g_i2c {x y : Int} (hd : decode μ.2.1 pc = .ok (.i2c, 1)) (hv : ((Int32.ofInt x).toUInt32 % 65536).toInt32 = Int32.ofInt y) (k : G ω l d kc ks μ σ0 PR PX (pc + 1) lv (vI y :: st) σ) : G ω l d kc ks μ σ0 PR PX pc lv (vI x :: st) σ := by
  intro p e s m args below meth c H locs cells slots mc ms ls hC hK hS hA hE hz hr hl
  exact lv_i2c hC.1 hC.2.1 hd hv (k p e s m args below meth c H locs cells slots mc ms ls hC hK hS hA hE hz hr hl)
variable {y' : MethodName} {cc' : ByteArray} {nL' idx b : Nat} {ret' : Option FieldType} {As : List gV}
theorem g_callVr (hM : gC ω l d' kc' ks' (y', cc', nL', ret', []) (vR b :: As) σ PR' gNo) (q1 : Cond.methodLink μ.1.cls idx y' ∈ lw_all) (q2 : Cond.instanceMethod y' ∈ lw_all) (q3 : Cond.selects y'.cls y' y' ∈ lw_all) (q4 : Cond.initialized y'.cls ∈ lw_all) (q5 : Cond.code y' cc' nL' ret' ∈ lw_all) (hd : decode μ.2.1 pc = .ok (.invokevirtual idx, 3))
    (hrec : ∀ (s : State) (H : Heap) (locs : List Loc), gKK ω s → gSim ω σ H → va_S (gA ω) s.heap H locs → b ≠ 0 ∧ ∃ cellB : Cell, H[b - 1]? = some cellB ∧ cellB.vm.isStatics = false ∧ s.vm.findClass y'.cls = some cellB.cls) (hy : y'.cls ≠ "java/lang/invoke/MethodHandle" ∧ y'.cls ≠ "java/lang/invoke/VarHandle" ∧ (parseMethodDescriptor y'.desc).map (fun d => d.parameters.length) = some As.length) (hdm : d' + 1 ≤ d) (hnl : nL' ≤ 45) (hkc : kc' ≤ kc ∧ ks' ≤ ks) (hs : st0 = As.reverse ++ vR b :: st) (hcat : (st.map gcat).sum ≤ 8)
    (kk : ∀ (v : Option gV) (σ' : gMem), PR' v σ' → gE σ σ' → G ω l d (kc - kc') (ks - ks') μ σ0 PR PX (pc + 3) lv (v.toList ++ st) σ') : G ω l d kc ks μ σ0 PR PX pc lv st0 σ := by
  intro p e s m args below meth c H locs cells slots mc ms ls hC hK hS hA hE hz hr hl
  obtain ⟨hb0, hrec⟩ := hrec s H locs hK hS hA
  refine g_after hC hK hA hE hz hr hl hkc (va_runV (As := As.map gval) (rest := st.map gval) ⟨hC.1, hC.2.1, hC.2.2.1, hC.2.2.2.2.2.1, hC.2.2.2.2.2.2.1⟩ hM.met (cwV As.length hC.2.2.2.2.2.2.1 (lw_V q1 q2 q3 q4 q5) rfl rfl rfl ⟨rfl, hy⟩ ⟨hdm, ?_⟩) ⟨gP_blind _ _ _, hrec, ?_⟩ rfl (List.length_map _) hl.1 (gsd hb0 hs) (lv_room (by rw [gcats]; exact hcat)) hd ⟨?_, ?_⟩) kk
  · show 8 + (nL' + 11) + 64 * d' ≤ 64 * d
    omega
  · have := gPre hK hS hA hz (vR b :: As)
    rw [List.map_cons, show gval (vR b) = .ref (b - 1) from grv_pos hb0] at this
    exact this
  · show cells + kc' ≤ mc
    omega
  · show slots + ks' ≤ ms
    omega
theorem grecS {i : Nat} (hi : i < 34) : ∀ (s : State) (H : Heap) (locs : List Loc), gKK ω s → gSim ω σ H → va_S (gA ω) s.heap H locs → ω.st (100 + i) + 1 ≠ 0 ∧ ∃ cellB : Cell, H[ω.st (100 + i) + 1 - 1]? = some cellB ∧ cellB.vm.isStatics = false ∧ s.vm.findClass "java/lang/String" = some cellB.cls := fun s H locs hK hS hA => by
  obtain ⟨cell, h1, h2, h3, h4⟩ := (hK.2.2.1.2.1 i hi).1.kept hA.2.1
  exact ⟨Nat.succ_ne_zero _, cell, h1, h2, h3⟩
theorem grecN {a : Nat} (ht : mT σ a = 91) : ∀ (s : State) (H : Heap) (locs : List Loc), gKK ω s → gSim ω σ H → va_S (gA ω) s.heap H locs → a ≠ 0 ∧ ∃ cellB : Cell, H[a - 1]? = some cellB ∧ cellB.vm.isStatics = false ∧ s.vm.findClass "SheetBranches$Name" = some cellB.cls := fun s H locs hK hS hA => by
  obtain ⟨i, hi, rfl, -, -⟩ := (gold hS ht (by decide)).2.1 ht
  obtain ⟨cell, h1, h2, h3, h4⟩ := (hK.2.2.1.2.2.1 i hi).1.kept hA.2.1
  exact ⟨Nat.succ_ne_zero _, cell, h1, h2, h3⟩
theorem grecG {a : Nat} (ht : mT σ a = 92) : ∀ (s : State) (H : Heap) (locs : List Loc), gKK ω s → gSim ω σ H → va_S (gA ω) s.heap H locs → a ≠ 0 ∧ ∃ cellB : Cell, H[a - 1]? = some cellB ∧ cellB.vm.isStatics = false ∧ s.vm.findClass "SheetBranches$Sign" = some cellB.cls := fun s H locs hK hS hA => by
  obtain ⟨i, hi, rfl, -, -⟩ := (gold hS ht (by decide)).2.2.1 ht
  obtain ⟨cell, h1, h2, h3, h4⟩ := (hK.2.2.1.2.2.2.1 i hi).1.kept hA.2.1
  exact ⟨Nat.succ_ne_zero _, cell, h1, h2, h3⟩
end GStr
theorem gslen0 (vs : List gV) : (lg_sl (vs.map gval)).length = (vs.map gcat).sum := by
  induction vs with
  | nil => rfl
  | cons v vs ih =>
    have e : lg_sl ((v :: vs).map gval) = (if (gval v).category = 2 then [Slot.val (gval v), Slot.second] else [Slot.val (gval v)]) ++ lg_sl (vs.map gval) := rfl
    rw [e, List.length_append, ih, gval_cat, List.map_cons, List.sum_cons]
    rcases v with x | x | a <;> rfl
theorem hy_precI : yJ9_checkIndex.cls ≠ "java/lang/invoke/MethodHandle" ∧ yJ9_checkIndex.cls ≠ "java/lang/invoke/VarHandle" ∧ (parseMethodDescriptor yJ9_checkIndex.desc).map (fun d => d.parameters.length) = some 3 := by decide +kernel
theorem hy_checkI : yJ6_checkIndex.cls ≠ "java/lang/invoke/MethodHandle" ∧ yJ6_checkIndex.cls ≠ "java/lang/invoke/VarHandle" ∧ (parseMethodDescriptor yJ6_checkIndex.desc).map (fun d => d.parameters.length) = some 2 := by decide +kernel
theorem hy_lcharAt : yJ8_charAt.cls ≠ "java/lang/invoke/MethodHandle" ∧ yJ8_charAt.cls ≠ "java/lang/invoke/VarHandle" ∧ (parseMethodDescriptor yJ8_charAt.desc).map (fun d => d.parameters.length) = some 2 := by decide +kernel
theorem hy_scharAt : yJ6_charAt.cls ≠ "java/lang/invoke/MethodHandle" ∧ yJ6_charAt.cls ≠ "java/lang/invoke/VarHandle" ∧ (parseMethodDescriptor yJ6_charAt.desc).map (fun d => d.parameters.length) = some 1 := by decide +kernel
theorem hy_slength : yJ6_length.cls ≠ "java/lang/invoke/MethodHandle" ∧ yJ6_length.cls ≠ "java/lang/invoke/VarHandle" ∧ (parseMethodDescriptor yJ6_length.desc).map (fun d => d.parameters.length) = some 0 := by decide +kernel
theorem gnr0 : narrow .byte (.int (Int32.ofInt 0)) = .int (Int32.ofInt 0) := by decide
section GStr2
variable {ω : gW} {l : Launch} {d : Nat} {σ : gMem}
abbrev mu_coder : gM := (yJ6_coder, cJ6_coder, 1, some .byte, [])
abbrev mu_length : gM := (yJ6_length, cJ6_length, 1, some .int, [])
abbrev mu_isLatin1 : gM := (yJ6_isLatin1, cJ6_isLatin1, 1, some .boolean, [])
abbrev mu_scharAt : gM := (yJ6_charAt, cJ6_charAt, 2, some .char, [])
abbrev mu_lcharAt : gM := (yJ8_charAt, cJ8_charAt, 2, some .char, [])
abbrev mu_checkI : gM := (yJ6_checkIndex, cJ6_checkIndex, 2, none, [])
abbrev mu_precI : gM := (yJ9_checkIndex, cJ9_checkIndex, 3, some .int, [])
theorem gC_coder {i : Nat} (hi : i < 34) : gC ω l 0 0 0 mu_coder [vR (ω.st (100 + i) + 1)] σ (fun v s => v = some (vI 0) ∧ s = σ) gNo := by
  refine gC.of (by decide) (by rw [gslen0]; exact Nat.le_of_ble_eq_true rfl) ?_
  refine g_compact (μ := mu_coder) (pc := 0) q1128 dJ6_coder_0 ?_
  refine g_if_eq (μ := mu_coder) (pc := 3) (tgt := 13) dJ6_coder_3 rfl (by decide) (fun h => absurd h (by decide)) (fun _ => ?_)
  refine g_aload_n (μ := mu_coder) (pc := 6) 0 dJ6_coder_6 rfl ?_
  refine g_scod (μ := mu_coder) (pc := 7) hi q3789 dJ6_coder_7 ?_
  refine g_goto (μ := mu_coder) (pc := 10) (tgt := 14) dJ6_coder_10 rfl ?_
  exact g_nret (μ := mu_coder) (pc := 14) dJ6_coder_14 rfl gnr0 ⟨rfl, rfl⟩
theorem gC_length {i : Nat} (hi : i < 34) : gC ω l 1 0 0 mu_length [vR (ω.st (100 + i) + 1)] σ (fun v s => v = some (vI (bShr ((gtx.getD i []).length : Int) 0)) ∧ s = σ) gNo := by
  refine gC.of (by decide) (by rw [gslen0]; exact Nat.le_of_ble_eq_true rfl) ?_
  refine g_aload_n (μ := mu_length) (pc := 0) 0 dJ6_length_0 rfl ?_
  refine g_sval (μ := mu_length) (pc := 1) hi q3788 dJ6_length_1 ?_
  refine g_slenA (μ := mu_length) (pc := 4) hi dJ6_length_4 ?_
  refine g_aload_n (μ := mu_length) (pc := 5) 0 dJ6_length_5 rfl ?_
  refine g_callVr (μ := mu_length) (pc := 6) (gC_coder hi) q1124 q1125 q1126 q238 q1127 dJ6_length_6 (grecS hi) (by decide +kernel) (Nat.le_refl _) (by decide) ⟨Nat.le_refl _, Nat.le_refl _⟩ rfl (Nat.le_of_ble_eq_true rfl) (fun v s h _ => ?_)
  obtain ⟨rfl, rfl⟩ := h
  refine g_ishr (μ := mu_length) (pc := 9) dJ6_length_9 ?_
  exact g_iret (μ := mu_length) (pc := 10) dJ6_length_10 rfl ⟨rfl, rfl⟩
theorem gC_isLatin1 {i : Nat} (hi : i < 34) : gC ω l 0 0 0 mu_isLatin1 [vR (ω.st (100 + i) + 1)] σ (fun v s => v = some (vI 1) ∧ s = σ) gNo := by
  refine gC.of (by decide) (by rw [gslen0]; exact Nat.le_of_ble_eq_true rfl) ?_
  refine g_compact (μ := mu_isLatin1) (pc := 0) q1128 dJ6_isLatin1_0 ?_
  refine g_if_eq (μ := mu_isLatin1) (pc := 3) (tgt := 17) dJ6_isLatin1_3 rfl (by decide) (fun h => absurd h (by decide)) (fun _ => ?_)
  refine g_aload_n (μ := mu_isLatin1) (pc := 6) 0 dJ6_isLatin1_6 rfl ?_
  refine g_scod (μ := mu_isLatin1) (pc := 7) hi q3789 dJ6_isLatin1_7 ?_
  refine g_if_ne (μ := mu_isLatin1) (pc := 10) (tgt := 17) dJ6_isLatin1_10 rfl (by decide) (fun h => absurd rfl h) (fun _ => ?_)
  refine g_iconst (μ := mu_isLatin1) (pc := 13) dJ6_isLatin1_13 ?_
  refine g_goto (μ := mu_isLatin1) (pc := 14) (tgt := 18) dJ6_isLatin1_14 rfl ?_
  exact g_zret (μ := mu_isLatin1) (pc := 18) dJ6_isLatin1_18 rfl (Or.inr rfl) ⟨rfl, rfl⟩
theorem gC_precI {k n : Int} {x : Nat} (hk : 0 ≤ k ∧ k < n) (hn : n < 1000) : gC ω l 0 0 0 mu_precI [vI k, vI n, vR x] σ (fun v s => v = some (vI k) ∧ s = σ) gNo := by
  refine gC.of (by decide) (by rw [gslen0]; exact Nat.le_of_ble_eq_true rfl) ?_
  refine g_iload_n (μ := mu_precI) (pc := 0) 0 dJ9_checkIndex_0 rfl ?_
  refine g_if_lt (μ := mu_precI) (pc := 1) (tgt := 9) dJ9_checkIndex_1 rfl (by omega) (fun h => absurd h (by omega)) (fun _ => ?_)
  refine g_iload_n (μ := mu_precI) (pc := 4) 0 dJ9_checkIndex_4 rfl ?_
  refine g_iload_n (μ := mu_precI) (pc := 5) 1 dJ9_checkIndex_5 rfl ?_
  refine g_icmp_lt (μ := mu_precI) (pc := 6) (tgt := 16) dJ9_checkIndex_6 rfl (by omega) (by omega) (fun _ => ?_) (fun h => absurd h (by omega))
  refine g_iload_n (μ := mu_precI) (pc := 16) 0 dJ9_checkIndex_16 rfl ?_
  exact g_iret (μ := mu_precI) (pc := 17) dJ9_checkIndex_17 rfl ⟨rfl, rfl⟩
theorem gC_checkI {k n : Int} (hk : 0 ≤ k ∧ k < n) (hn : n < 1000) : gC ω l 1 0 0 mu_checkI [vI k, vI n] σ (fun v s => v = none ∧ s = σ) gNo := by
  refine gC.of (by decide) (by rw [gslen0]; exact Nat.le_of_ble_eq_true rfl) ?_
  refine g_iload_n (μ := mu_checkI) (pc := 0) 0 dJ6_checkIndex_0 rfl ?_
  refine g_iload_n (μ := mu_checkI) (pc := 1) 1 dJ6_checkIndex_1 rfl ?_
  refine g_sioobe (μ := mu_checkI) (pc := 2) q1144 dJ6_checkIndex_2 (fun x => ?_)
  refine g_callS (μ := mu_checkI) (pc := 5) (gC_precI (x := x) hk hn) q1146 q1147 q245 q1148 dJ6_checkIndex_5 hy_precI (Nat.le_refl _) (by decide) ⟨Nat.le_refl _, Nat.le_refl _⟩ rfl (Nat.le_of_ble_eq_true rfl) (fun v s h _ => ?_)
  obtain ⟨rfl, rfl⟩ := h
  refine g_pop (μ := mu_checkI) (pc := 8) dJ6_checkIndex_8 rfl ?_
  exact g_vret (μ := mu_checkI) (pc := 9) dJ6_checkIndex_9 rfl ⟨rfl, rfl⟩
theorem gtx_ok : ∀ x ∈ gtx, (bShr (x.length : Int) 0 = (x.length : Int)) ∧ x.length < 100 ∧ ∀ y ∈ x, ((Int32.ofInt (bAnd y 255)).toUInt32 % 65536).toInt32 = Int32.ofInt y ∧ narrow .char (.int (Int32.ofInt y)) = .int (Int32.ofInt y) := by decide +kernel
theorem gtx_i {i : Nat} : (bShr ((gtx.getD i []).length : Int) 0 = ((gtx.getD i []).length : Int)) ∧ (gtx.getD i []).length < 100 := by
  rw [List.getD_eq_getElem?_getD]
  cases hx : gtx[i]? with
  | none => decide
  | some x => exact ⟨(gtx_ok x (List.mem_of_getElem? hx)).1, (gtx_ok x (List.mem_of_getElem? hx)).2.1⟩
theorem gtx_c {i k : Nat} (hk : k < (gtx.getD i []).length) : ((Int32.ofInt (bAnd ((gtx.getD i []).getD k 0) 255)).toUInt32 % 65536).toInt32 = Int32.ofInt ((gtx.getD i []).getD k 0) ∧ narrow .char (.int (Int32.ofInt ((gtx.getD i []).getD k 0))) = .int (Int32.ofInt ((gtx.getD i []).getD k 0)) := by
  generalize hL : gtx.getD i [] = L at hk ⊢
  rw [List.getD_eq_getElem?_getD] at hL
  cases hx : gtx[i]? with
  | none => rw [hx] at hL; simp at hL; rw [hL] at hk; simp at hk
  | some x =>
    rw [hx] at hL
    simp only [Option.getD_some] at hL
    subst hL
    have e : x.getD k 0 = x[k] := by rw [List.getD_eq_getElem?_getD, List.getElem?_eq_getElem hk]; rfl
    rw [e]
    exact (gtx_ok x (List.mem_of_getElem? hx)).2.2 _ (List.getElem_mem hk)
theorem gC_lcharAt {i : Nat} {k : Int} (hi : i < 34) (hk : 0 ≤ k ∧ k < ((gtx.getD i []).length : Int)) : gC ω l 2 0 0 mu_lcharAt [vR (ω.st (200 + i) + 1), vI k] σ (fun v s => v = some (vI ((gtx.getD i []).getD k.toNat 0)) ∧ s = σ) gNo := by
  have hl := (gtx_i (i := i)).2
  have hc := gtx_c (i := i) (k := k.toNat) (by omega)
  refine gC.of (by decide) (by rw [gslen0]; exact Nat.le_of_ble_eq_true rfl) ?_
  refine g_iload_n (μ := mu_lcharAt) (pc := 0) 1 dJ8_charAt_0 rfl ?_
  refine g_aload_n (μ := mu_lcharAt) (pc := 1) 0 dJ8_charAt_1 rfl ?_
  refine g_slenA (μ := mu_lcharAt) (pc := 2) hi dJ8_charAt_2 ?_
  refine g_callS (μ := mu_lcharAt) (pc := 3) (gC_checkI hk (by omega)) q1141 q1142 q238 q1143 dJ8_charAt_3 hy_checkI (Nat.le_refl _) (by decide) ⟨Nat.le_refl _, Nat.le_refl _⟩ rfl (Nat.le_of_ble_eq_true rfl) (fun v s h _ => ?_)
  obtain ⟨rfl, rfl⟩ := h
  refine g_aload_n (μ := mu_lcharAt) (pc := 6) 0 dJ8_charAt_6 rfl ?_
  refine g_iload_n (μ := mu_lcharAt) (pc := 7) 1 dJ8_charAt_7 rfl ?_
  refine g_sald (μ := mu_lcharAt) (pc := 8) hi hk dJ8_charAt_8 ?_
  refine g_sipush (μ := mu_lcharAt) (pc := 9) dJ8_charAt_9 (by decide) ?_
  refine g_iand (μ := mu_lcharAt) (pc := 12) dJ8_charAt_12 ?_
  refine g_i2c (μ := mu_lcharAt) (pc := 13) dJ8_charAt_13 hc.1 ?_
  exact g_nret (μ := mu_lcharAt) (pc := 14) dJ8_charAt_14 rfl hc.2 ⟨rfl, rfl⟩
theorem gC_scharAt {i : Nat} {k : Int} (hi : i < 34) (hk : 0 ≤ k ∧ k < ((gtx.getD i []).length : Int)) : gC ω l 3 0 0 mu_scharAt [vR (ω.st (100 + i) + 1), vI k] σ (fun v s => v = some (vI ((gtx.getD i []).getD k.toNat 0)) ∧ s = σ) gNo := by
  have hl := (gtx_i (i := i)).2
  have hc := gtx_c (i := i) (k := k.toNat) (by omega)
  refine gC.of (by decide) (by rw [gslen0]; exact Nat.le_of_ble_eq_true rfl) ?_
  refine g_aload_n (μ := mu_scharAt) (pc := 0) 0 dJ6_charAt_0 rfl ?_
  refine g_callVr (μ := mu_scharAt) (pc := 1) (gC_isLatin1 hi) q1134 q1135 q1136 q238 q1137 dJ6_charAt_1 (grecS hi) (by decide +kernel) (by decide) (by decide) ⟨Nat.le_refl _, Nat.le_refl _⟩ rfl (Nat.le_of_ble_eq_true rfl) (fun v s h _ => ?_)
  obtain ⟨rfl, rfl⟩ := h
  refine g_if_eq (μ := mu_scharAt) (pc := 4) (tgt := 16) dJ6_charAt_4 rfl (by decide) (fun h => absurd h (by decide)) (fun _ => ?_)
  refine g_aload_n (μ := mu_scharAt) (pc := 7) 0 dJ6_charAt_7 rfl ?_
  refine g_sval (μ := mu_scharAt) (pc := 8) hi q3788 dJ6_charAt_8 ?_
  refine g_iload_n (μ := mu_scharAt) (pc := 11) 1 dJ6_charAt_11 rfl ?_
  refine g_callS (μ := mu_scharAt) (pc := 12) (gC_lcharAt hi hk) q1138 q1139 q244 q1140 dJ6_charAt_12 hy_lcharAt (by decide) (by decide) ⟨Nat.le_refl _, Nat.le_refl _⟩ rfl (Nat.le_of_ble_eq_true rfl) (fun v s h _ => ?_)
  obtain ⟨rfl, rfl⟩ := h
  exact g_nret (μ := mu_scharAt) (pc := 15) dJ6_charAt_15 rfl hc.2 ⟨rfl, rfl⟩
end GStr2
section GStr3
variable {ω : gW} {l : Launch} {d kc ks : Nat} {μ : gM} {σ0 σ : gMem} {PR : Option gV → gMem → Prop} {PX : String → gMem → Prop} {pc : Nat} {lv lv' : List (Nat × gV)} {st : List gV}
theorem gstr {H : Heap} {a : Nat} (hS : gSim ω σ H) (ht : mT σ a = 90) : ∃ i, i < 34 ∧ a = ω.st (100 + i) + 1 ∧ mN σ a = (gtx.getD i []).length ∧ ∀ j, mI σ a j = (gtx.getD i []).getD j 0 := (gold hS ht (by decide)).1 ht
theorem g_slen {a idx : Nat} (q1 : Cond.methodLink μ.1.cls idx yJ6_length ∈ lw_all) (hd : decode μ.2.1 pc = .ok (.invokevirtual idx, 3)) (ht : mT σ a = 90) (hdm : 2 ≤ d) (hcat : (st.map gcat).sum ≤ 8) (kk : g32 (mN σ a : Int) → G ω l d kc ks μ σ0 PR PX (pc + 3) lv (vI (mN σ a : Int) :: st) σ) : G ω l d kc ks μ σ0 PR PX pc lv (vR a :: st) σ := by
  intro p e s m args below meth c H locs cells slots mc ms ls hC hK hS hA hE hz hr hl
  obtain ⟨i, hi, rfl, hN, -⟩ := gstr hS ht
  have hx := gtx_i (i := i)
  have kk' := kk (by rw [hN]; omega)
  rw [hN] at kk'
  refine g_callVr (d' := 1) (gC_length hi) q1 q1121 q1122 q238 q1123 hd (grecS hi) hy_slength hdm (by decide) ⟨Nat.zero_le _, Nat.zero_le _⟩ (As := []) rfl hcat (fun v σ' h _ => ?_) p e s m args below meth c H locs cells slots mc ms ls hC hK hS hA hE hz hr hl
  obtain ⟨rfl, rfl⟩ := h
  rw [hx.1]
  exact kk'
theorem g_schar {a idx : Nat} {k : Int} (q1 : Cond.methodLink μ.1.cls idx yJ6_charAt ∈ lw_all) (hd : decode μ.2.1 pc = .ok (.invokevirtual idx, 3)) (ht : mT σ a = 90) (hk : 0 ≤ k ∧ k < (mN σ a : Int)) (hdm : 4 ≤ d) (hcat : (st.map gcat).sum ≤ 8) (kk : G ω l d kc ks μ σ0 PR PX (pc + 3) lv (vI (mI σ a k.toNat) :: st) σ) : G ω l d kc ks μ σ0 PR PX pc lv (vI k :: vR a :: st) σ := by
  intro p e s m args below meth c H locs cells slots mc ms ls hC hK hS hA hE hz hr hl
  obtain ⟨i, hi, rfl, hN, hv⟩ := gstr hS ht
  rw [hN] at hk
  rw [hv] at kk
  refine g_callVr (d' := 3) (gC_scharAt hi hk) q1 q1131 q1132 q238 q1133 hd (grecS hi) hy_scharAt hdm (by decide) ⟨Nat.zero_le _, Nat.zero_le _⟩ (As := [vI k]) rfl hcat (fun v σ' h _ => ?_) p e s m args below meth c H locs cells slots mc ms ls hC hK hS hA hE hz hr hl
  obtain ⟨rfl, rfl⟩ := h
  exact kk
end GStr3
section GStr4
variable {ω : gW} {l : Launch} {d : Nat} {σ : gMem}
abbrev mu_ordinal : gM := (yJ0_ordinal, cJ0_ordinal, 1, some .int, [])
theorem gC_ordN {a : Nat} (ht : mT σ a = 91) : gC ω l 0 0 0 mu_ordinal [vR a] σ (fun v s => v = some (vI (mI σ a 0)) ∧ s = σ) gNo := by
  refine gC.of (by decide) (by rw [gslen0]; exact Nat.le_of_ble_eq_true rfl) ?_
  refine g_aload_n (μ := mu_ordinal) (pc := 0) 0 dJ0_ordinal_0 rfl ?_
  refine g_ei (μ := mu_ordinal) (pc := 1) (C := "java/lang/Enum") (n := "ordinal") (k := 0) (by decide) (by decide) q3795 dJ0_ordinal_1 ht (fun _ => ?_)
  exact g_iret (μ := mu_ordinal) (pc := 4) dJ0_ordinal_4 rfl ⟨rfl, rfl⟩
theorem gC_ordS {a : Nat} (ht : mT σ a = 92) : gC ω l 0 0 0 mu_ordinal [vR a] σ (fun v s => v = some (vI (mI σ a 0)) ∧ s = σ) gNo := by
  refine gC.of (by decide) (by rw [gslen0]; exact Nat.le_of_ble_eq_true rfl) ?_
  refine g_aload_n (μ := mu_ordinal) (pc := 0) 0 dJ0_ordinal_0 rfl ?_
  refine g_es (μ := mu_ordinal) (pc := 1) (C := "java/lang/Enum") (n := "ordinal") (k := 0) (by decide) (by decide) q3795 dJ0_ordinal_1 ht (fun _ => ?_)
  exact g_iret (μ := mu_ordinal) (pc := 4) dJ0_ordinal_4 rfl ⟨rfl, rfl⟩
end GStr4
section GStr5
variable {ω : gW} {l : Launch} {d kc ks : Nat} {μ : gM} {σ0 σ : gMem} {PR : Option gV → gMem → Prop} {PX : String → gMem → Prop} {pc : Nat} {lv lv' : List (Nat × gV)} {st : List gV}
theorem hy_ord : yJ0_ordinal.cls ≠ "java/lang/invoke/MethodHandle" ∧ yJ0_ordinal.cls ≠ "java/lang/invoke/VarHandle" ∧ (parseMethodDescriptor yJ0_ordinal.desc).map (fun d => d.parameters.length) = some 0 := by decide +kernel
theorem g_ord {a idx : Nat} {C : String} (hM : gC ω l 0 0 0 mu_ordinal [vR a] σ (fun v s => v = some (vI (mI σ a 0)) ∧ s = σ) gNo) (q1 : Cond.methodLink μ.1.cls idx ⟨C, "ordinal", "()I"⟩ ∈ lw_all) (q2 : Cond.sameMethod C "java/lang/Enum" "ordinal" "()I" ∈ lw_all) (q3 : Cond.selects C ⟨C, "ordinal", "()I"⟩ ⟨"java/lang/Enum", "ordinal", "()I"⟩ ∈ lw_all) (hd : decode μ.2.1 pc = .ok (.invokevirtual idx, 3))
    (hrec : ∀ (s : State) (H : Heap) (locs : List Loc), gKK ω s → gSim ω σ H → va_S (gA ω) s.heap H locs → a ≠ 0 ∧ ∃ cellB : Cell, H[a - 1]? = some cellB ∧ cellB.vm.isStatics = false ∧ s.vm.findClass C = some cellB.cls) (hdm : 1 ≤ d) (hcat : (st.map gcat).sum ≤ 8) (kk : g32 (mI σ a 0) → G ω l d kc ks μ σ0 PR PX (pc + 3) lv (vI (mI σ a 0) :: st) σ) : G ω l d kc ks μ σ0 PR PX pc lv (vR a :: st) σ := by
  intro p e s m args below meth c H locs cells slots mc ms ls hC hK hS hA hE hz hr hl
  obtain ⟨hb0, hrec⟩ := hrec s H locs hK hS hA
  have hts := hC.2.2.2.2.2.2.1
  have hcd := hts _ q993
  refine g_after (kc' := 0) (ks' := 0) hC hK hA hE hz hr hl ⟨Nat.zero_le _, Nat.zero_le _⟩ (va_runU (x := ⟨C, "ordinal", "()I"⟩) (y := yJ0_ordinal) (owner := "java/lang/Enum") (As := []) (b := a - 1) (rest := st.map gval) ⟨hC.1, hC.2.1, hC.2.2.1, hC.2.2.2.2.2.1, hts⟩ hM.met
    ⟨⟨rfl, rfl, hdm, ?_, ?_, List.mem_cons_self⟩, hcd, hts _ q227, ⟨by decide, by decide⟩, ?_, hts _ q1, hts _ q2, va_Decl.of (hts _ q992) hcd, hts _ q3, hts _ q992⟩ ⟨gP_blind _ _ _, hrec, ?_⟩ rfl rfl hl.1 ?_ (lv_room (by rw [gcats]; exact hcat)) hd ⟨by show cells + 0 ≤ mc; omega, by show slots + 0 ≤ ms; omega⟩) (fun v σ' h _ => ?_)
  · show 8 + (1 + 11) + 64 * 0 ≤ 64 * d
    omega
  · exact pay_in hts (lw_meth q993)
  · intro sig hsig
    have h2 := hy_ord.2.2
    have e : parseMethodDescriptor yJ0_ordinal.desc = some sig := hsig
    rw [e] at h2
    exact (Option.some.inj h2).symm
  · have := gPre hK hS hA hz [vR a]
    rw [List.map_cons, show gval (vR a) = .ref (a - 1) from grv_pos hb0] at this
    exact this
  · show gval (vR a) :: st.map gval = _
    rw [show gval (vR a) = .ref (a - 1) from grv_pos hb0]
    rfl
  · obtain ⟨rfl, rfl⟩ := h
    exact kk (mI_rng _ _ _)
end GStr5
section GScr
variable {ω : gW} {l : Launch} {d kc ks : Nat} {μ : gM} {σ0 σ : gMem} {PR : Option gV → gMem → Prop} {PX : String → gMem → Prop} {pc : Nat} {lv lv' : List (Nat × gV)} {st : List gV}
theorem g_sclen {a : Nat} (hd : decode μ.2.1 pc = .ok (.arraylength, 1)) (ht : mT σ a = 94) (kk : G ω l d kc ks μ σ0 PR PX (pc + 1) lv (vI (mN σ a : Int) :: st) σ) : G ω l d kc ks μ σ0 PR PX pc lv (vR a :: st) σ := by
  intro p e s m args below meth c H locs cells slots mc ms ls hC hK hS hA hE hz hr hl
  have w := kk p e s m args below meth c H locs cells slots mc ms ls hC hK hS hA hE hz hr hl
  obtain ⟨rfl, hN, -⟩ := (gold hS ht (by decide)).2.2.2.2 ht
  obtain ⟨cell, h1, h2, h3, h4, h5, h6, h7⟩ := hK.2.2.1.2.2.2.2.2.2.kept hA.2.1
  rw [hN] at w
  exact W.alen hC.1 hC.2.1 h1 h2 (h5.trans (Int32.ofInt_eq_ofNat).symm) rfl rfl hd w
theorem g_scald {a : Nat} {i : Int} (hd : decode μ.2.1 pc = .ok (.iaload, 1)) (ht : mT σ a = 94) (hi : 0 ≤ i ∧ i < (mN σ a : Int)) (kk : G ω l d kc ks μ σ0 PR PX (pc + 1) lv (vI (mI σ a i.toNat) :: st) σ) : G ω l d kc ks μ σ0 PR PX pc lv (vI i :: vR a :: st) σ := by
  intro p e s m args below meth c H locs cells slots mc ms ls hC hK hS hA hE hz hr hl
  have w := kk p e s m args below meth c H locs cells slots mc ms ls hC hK hS hA hE hz hr hl
  have hN2 := hS.2.2.1 a
  obtain ⟨rfl, hN, hv⟩ := (gold hS ht (by decide)).2.2.2.2 ht
  obtain ⟨cell, h1, h2, h3, h4, h5, h6, h7⟩ := hK.2.2.1.2.2.2.2.2.2.kept hA.2.1
  rw [hN] at hi hN2
  rw [hv _ (by omega)] at w
  obtain ⟨g1, g2⟩ := gidx (n := ω.st 51) hi hN2
  refine W.iald (v := gval (vI (ω.sc i.toNat))) hC.1 hC.2.1 h1 h2 h3 (fun q => ?_) ?_ rfl rfl hd w
  · rcases q with q | q
    · exact g2 (Or.inl q)
    · exact g2 (Or.inr (Nat.le_trans h4 q))
  · rw [g1, h6 _ (by omega)]
    rfl
end GScr
