/-! ===== calls ===== -/
theorem gC.met {ω : gW} {l : Launch} {d kc ks : Nat} {μ : gM} {args : List gV} {σ : gMem} {PR : Option gV → gMem → Prop} (h : gC ω l d kc ks μ args σ PR (fun _ _ => False)) : Met l μ.1 (gWs μ) (gRm d kc ks) (gP ω σ args) (gQ ω σ PR) kc ks (fun q => ω.lo ≤ q) := by
  intro p e h1 h2 h3 s m a below h4 h5 h6 h7
  obtain ⟨n, o, k1, k2, k3, k4⟩ := h p e h1 h2 h3 s m a below h4 h5 h6 h7
  refine ⟨n, o, k1, k2, k3, ?_⟩
  rcases k4 with k4 | ⟨q, -, E, ce, L, ⟨σ', hf, -⟩, -⟩
  · exact k4
  · exact hf.elim
/-- nothing is thrown -/
abbrev gNo : String → gMem → Prop := fun _ _ => False
theorem gtoList (v : Option gV) (st : List gV) : (v.map gval).toList ++ st.map gval = (v.toList ++ st).map gval := by cases v <;> rfl
section GCalls
variable {ω : gW} {l : Launch} {d d' kc ks kc' ks' : Nat} {μ : gM} {σ0 σ : gMem} {PR PR' : Option gV → gMem → Prop} {PX PX' : String → gMem → Prop} {pc : Nat} {lv lv' : List (Nat × gV)} {st st0 : List gV}
theorem g_after {p : Program} {e : Env} {s : State} {m : MethodId} {args a' : Array Value} {below : List Frame} {meth : Method} {c : Code} {H : Heap} {locs : List Loc} {cells slots mc ms : Nat} {ls : Array Slot}
    (hC : gCx μ p s m args meth c) (hK : gKK ω s) (hA : va_S (fun q => ω.lo ≤ q) s.heap H locs) (hE : gE σ0 σ) (hz : ω.lo ≤ s.heap.size) (hr : cells + kc ≤ mc ∧ slots + ks ≤ ms) (hl : lv_has ls μ.2.2.1 (lv.map (fun q => (q.1, gval q.2))))
    (hkc : kc' ≤ kc ∧ ks' ≤ ks)
    (hrun : va_Run p l e (gRm d mc ms) s m args below meth c H locs cells slots kc' ks' (F0 m pc ls (st0.map gval)) (st.map gval) (gQ ω σ PR' a') (fun q => ω.lo ≤ q))
    (kk : ∀ (v : Option gV) (σ' : gMem), PR' v σ' → gE σ σ' → G ω l d (kc - kc') (ks - ks') μ σ0 PR PX (pc + 3) lv (v.toList ++ st) σ') :
    W p l e (gRm d mc ms) s m args below meth c H locs cells slots (vx_MQ below (gQ ω σ0 PR) (gX ω σ0 PX) args s mc ms (fun q => ω.lo ≤ q)) (F0 m pc ls (st0.map gval)) := by
  intro T hT X
  obtain ⟨v, st₀, t, T', L, h0, X', hL, e1, e2, ⟨v', σ', hv, hp, hEE, hS', hF⟩, stp⟩ := hrun T hT X
  have hv : v = v'.map gval := by injection hv
  subst hv
  obtain ⟨-, -, k3⟩ := vx_keep h0 e1 hA (fun q _ h => h) (fun q h => h) hL hF
  have w := kk v' σ' hp hEE p e s m args below meth c T'.heap (locs ++ L) (cells + kc') (slots + ks') mc ms ls hC hK (by rw [e1]; exact hS') k3 (hE.tr hEE) hz ⟨by omega, by omega⟩ hl T' rfl X'
  rw [← gtoList] at w
  obtain ⟨t2, a1, b1⟩ := w
  exact ⟨t2, stp t2 a1, b1⟩
variable {y' : MethodName} {cc' : ByteArray} {nL' idx b ci N : Nat} {ret' : Option FieldType} {T : u_T} {As : List gV} {host : String}
theorem gsd {As : List gV} {b : Nat} {st st0 : List gV} (hb : b ≠ 0) (hs : st0 = As.reverse ++ vR b :: st) : st0.map gval = (As.map gval).reverse ++ .ref (b - 1) :: st.map gval := by
  subst hs
  rw [List.map_append, List.map_cons, List.map_reverse, show gval (vR b) = .ref (b - 1) from grv_pos hb]
theorem gss {As : List gV} {st st0 : List gV} (hs : st0 = As.reverse ++ st) : st0.map gval = (As.map gval).reverse ++ st.map gval := by
  subst hs
  rw [List.map_append, List.map_reverse]
theorem gcats (st : List gV) : ((st.map gval).map fun v => v.category).sum = (st.map gcat).sum := by
  rw [List.map_map]
  congr 1
  apply List.map_congr_left
  intro v _
  exact gval_cat v
/-- the receiver's class -/
theorem grecv {s : State} {H : Heap} {C : String} (hK : gKK ω s) (hS : gSim ω σ H) (ht : mT σ b = ci + 1) (hc : gcl[ci]? = some (C, T, N)) : b ≠ 0 ∧ ∃ cellB : Cell, H[b - 1]? = some cellB ∧ cellB.vm.isStatics = false ∧ s.vm.findClass C = some cellB.cls := by
  obtain ⟨⟨hO, -⟩, ha0, -⟩ := hS.2.1 b (by rw [ht]; omega)
  obtain ⟨cell, q1, q2, q3, q4⟩ := hO ci _ ht hc
  obtain ⟨hSl, hfc, -⟩ := hK.1.1 ci _ hc
  exact ⟨ha0, cell, q1, by rw [q3]; rfl, by rw [q2]; exact hfc⟩
theorem gPre {s : State} {H : Heap} {locs : List Loc} (hK : gKK ω s) (hS : gSim ω σ H) (hA : va_S (fun q => ω.lo ≤ q) s.heap H locs) (hz : ω.lo ≤ s.heap.size) (args : List gV) : ∀ U : State, U.heap = H → s.WarmedH U.vm → gP ω σ args (args.map gval).toArray U := fun U hU hW =>
  ⟨rfl, by rw [hU]; exact hS, hK.warm hW (fun a h1 h2 => by rw [hU]; exact hA.2.1 a h1 h2), by rw [hU]; exact Nat.le_trans hz hA.1⟩
theorem g_callV (hM : gC ω l d' kc' ks' (y', cc', nL', ret', []) (vR b :: As) σ PR' gNo) (q1 : Cond.methodLink μ.1.cls idx y' ∈ lw_all) (q2 : Cond.instanceMethod y' ∈ lw_all) (q3 : Cond.selects y'.cls y' y' ∈ lw_all) (q4 : Cond.initialized y'.cls ∈ lw_all) (q5 : Cond.code y' cc' nL' ret' ∈ lw_all) (hd : decode μ.2.1 pc = .ok (.invokevirtual idx, 3))
    (hc : gcl[ci]? = some (y'.cls, T, N)) (ht : mT σ b = ci + 1) (hy : y'.cls ≠ "java/lang/invoke/MethodHandle" ∧ y'.cls ≠ "java/lang/invoke/VarHandle" ∧ (parseMethodDescriptor y'.desc).map (fun d => d.parameters.length) = some As.length) (hdm : d' + 1 ≤ d) (hnl : nL' ≤ 45) (hkc : kc' ≤ kc ∧ ks' ≤ ks) (hs : st0 = As.reverse ++ vR b :: st) (hcat : (st.map gcat).sum ≤ 8)
    (kk : ∀ (v : Option gV) (σ' : gMem), PR' v σ' → gE σ σ' → G ω l d (kc - kc') (ks - ks') μ σ0 PR PX (pc + 3) lv (v.toList ++ st) σ') : G ω l d kc ks μ σ0 PR PX pc lv st0 σ := by
  intro p e s m args below meth c H locs cells slots mc ms ls hC hK hS hA hE hz hr hl
  obtain ⟨hb0, hrec⟩ := grecv hK hS ht hc
  refine g_after hC hK hA hE hz hr hl hkc (va_runV (As := As.map gval) (rest := st.map gval) ⟨hC.1, hC.2.1, hC.2.2.1, hC.2.2.2.2.2.1, hC.2.2.2.2.2.2.1⟩ hM.met (cwV As.length hC.2.2.2.2.2.2.1 (lw_V q1 q2 q3 q4 q5) rfl rfl rfl ⟨rfl, hy⟩ ⟨hdm, ?_⟩) ⟨gP_blind _ _ _, hrec, ?_⟩ rfl (List.length_map _) hl.1 (gsd hb0 hs) (lv_room (by rw [gcats]; exact hcat)) hd ⟨?_, ?_⟩) kk
  · show 8 + (nL' + 11) + 64 * d' ≤ 64 * d
    omega
  · have := gPre hK hS hA hz (vR b :: As)
    rw [List.map_cons, show gval (vR b) = .ref (b - 1) from grv_pos hb0] at this
    exact this
  · show cells + kc' ≤ mc
    omega
  · show slots + ks' ≤ ms
    omega
theorem g_callS (hM : gC ω l d' kc' ks' (y', cc', nL', ret', []) As σ PR' gNo) (q1 : Cond.methodLink μ.1.cls idx y' ∈ lw_all) (q2 : Cond.static y' ∈ lw_all) (q4 : Cond.initialized y'.cls ∈ lw_all) (q5 : Cond.code y' cc' nL' ret' ∈ lw_all) (hd : decode μ.2.1 pc = .ok (.invokestatic idx, 3))
    (hy : y'.cls ≠ "java/lang/invoke/MethodHandle" ∧ y'.cls ≠ "java/lang/invoke/VarHandle" ∧ (parseMethodDescriptor y'.desc).map (fun d => d.parameters.length) = some As.length) (hdm : d' + 1 ≤ d) (hnl : nL' ≤ 45) (hkc : kc' ≤ kc ∧ ks' ≤ ks) (hs : st0 = As.reverse ++ st) (hcat : (st.map gcat).sum ≤ 8)
    (kk : ∀ (v : Option gV) (σ' : gMem), PR' v σ' → gE σ σ' → G ω l d (kc - kc') (ks - ks') μ σ0 PR PX (pc + 3) lv (v.toList ++ st) σ') : G ω l d kc ks μ σ0 PR PX pc lv st0 σ := by
  intro p e s m args below meth c H locs cells slots mc ms ls hC hK hS hA hE hz hr hl
  refine g_after hC hK hA hE hz hr hl hkc (va_runS (As := As.map gval) (rest := st.map gval) ⟨hC.1, hC.2.1, hC.2.2.1, hC.2.2.2.2.2.1, hC.2.2.2.2.2.2.1⟩ hM.met (va_cwS As.length hC.2.2.2.2.2.2.1 (lw_S q1 q2 q4 q5) rfl rfl rfl hy ⟨hdm, ?_⟩) ⟨gP_blind _ _ _, gPre hK hS hA hz As⟩ rfl (List.length_map _) hl.1 (gss hs) (lv_room (by rw [gcats]; exact hcat)) hd ⟨?_, ?_⟩) kk
  · show 8 + (nL' + 11) + 64 * d' ≤ 64 * d
    omega
  · show cells + kc' ≤ mc
    omega
  · show slots + ks' ≤ ms
    omega
theorem g_callI (hM : gC ω l d' kc' ks' (y', cc', nL', none, []) (vR b :: As) σ PR' gNo) (q1 : Cond.methodLink μ.1.cls idx y' ∈ lw_all) (q2 : Cond.instanceMethod y' ∈ lw_all) (q4 : Cond.initialized y'.cls ∈ lw_all) (q5 : Cond.code y' cc' nL' none ∈ lw_all) (hd : decode μ.2.1 pc = .ok (.invokespecial idx, 3))
    (hbT : mT σ b ≠ 0) (hy1 : y'.name = "<init>") (hy : y'.cls ≠ "java/lang/invoke/MethodHandle" ∧ y'.cls ≠ "java/lang/invoke/VarHandle" ∧ (parseMethodDescriptor y'.desc).map (fun d => d.parameters.length) = some As.length) (hdm : d' + 1 ≤ d) (hnl : nL' ≤ 45) (hkc : kc' ≤ kc ∧ ks' ≤ ks) (hs : st0 = As.reverse ++ vR b :: st) (hcat : (st.map gcat).sum ≤ 8)
    (kk : ∀ (v : Option gV) (σ' : gMem), PR' v σ' → gE σ σ' → G ω l d (kc - kc') (ks - ks') μ σ0 PR PX (pc + 3) lv (v.toList ++ st) σ') : G ω l d kc ks μ σ0 PR PX pc lv st0 σ := by
  intro p e s m args below meth c H locs cells slots mc ms ls hC hK hS hA hE hz hr hl
  have hb0 : b ≠ 0 := (hS.2.1 b hbT).2.1
  refine g_after hC hK hA hE hz hr hl hkc (va_runI (b := b - 1) (As := As.map gval) (rest := st.map gval) ⟨hC.1, hC.2.1, hC.2.2.1, hC.2.2.2.2.2.1, hC.2.2.2.2.2.2.1⟩ hM.met (cwI As.length hC.2.2.2.2.2.2.1 (lw_meth q5) rfl rfl rfl (hC.2.2.2.2.2.2.1 _ q4) (hC.2.2.2.2.2.2.1 _ q1) (hC.2.2.2.2.2.2.1 _ q2) hy1 hy ⟨hdm, ?_⟩) ⟨gP_blind _ _ _, ?_⟩ rfl (List.length_map _) hl.1 (gsd hb0 hs) (lv_room (by rw [gcats]; exact hcat)) hd ⟨?_, ?_⟩) kk
  · show 8 + (nL' + 11) + 64 * d' ≤ 64 * d
    omega
  · have := gPre hK hS hA hz (vR b :: As)
    rw [List.map_cons, show gval (vR b) = .ref (b - 1) from grv_pos hb0] at this
    exact this
  · show cells + kc' ≤ mc
    omega
  · show slots + ks' ≤ ms
    omega
theorem g_callVN (hM : gC ω l d' kc' ks' (y', cc', nL', ret', []) (vR b :: As) σ PR' gNo) (q1 : Cond.methodLinkNest μ.1.cls idx y' host ∈ lw_tbl) (q2 : Cond.instanceMethod y' ∈ lw_all) (q3 : Cond.selects y'.cls y' y' ∈ lw_all) (q4 : Cond.initialized y'.cls ∈ lw_all) (q5 : Cond.code y' cc' nL' ret' ∈ lw_all) (hd : decode μ.2.1 pc = .ok (.invokevirtual idx, 3))
    (hc : gcl[ci]? = some (y'.cls, T, N)) (ht : mT σ b = ci + 1) (hy : y'.cls ≠ "java/lang/invoke/MethodHandle" ∧ y'.cls ≠ "java/lang/invoke/VarHandle" ∧ (parseMethodDescriptor y'.desc).map (fun d => d.parameters.length) = some As.length) (hdm : d' + 1 ≤ d) (hnl : nL' ≤ 45) (hkc : kc' ≤ kc ∧ ks' ≤ ks) (hs : st0 = As.reverse ++ vR b :: st) (hcat : (st.map gcat).sum ≤ 8)
    (kk : ∀ (v : Option gV) (σ' : gMem), PR' v σ' → gE σ σ' → G ω l d (kc - kc') (ks - ks') μ σ0 PR PX (pc + 3) lv (v.toList ++ st) σ') : G ω l d kc ks μ σ0 PR PX pc lv st0 σ := by
  intro p e s m args below meth c H locs cells slots mc ms ls hC hK hS hA hE hz hr hl
  obtain ⟨hb0, hrec⟩ := grecv hK hS ht hc
  refine g_after hC hK hA hE hz hr hl hkc (va_runVN (As := As.map gval) (rest := st.map gval) ⟨hC.1, hC.2.1, hC.2.2.1, hC.2.2.2.2.2.1, hC.2.2.2.2.2.2.1⟩ hM.met ⟨va_cnB As.length hC.2.2.2.2.2.2.1 (lw_meth q5) rfl rfl rfl (hK.2.1 _ q1 rfl) (hC.2.2.2.2.2.2.1 _ q4) hy ⟨hdm, ?_⟩, hC.2.2.2.2.2.2.1 _ q2, hC.2.2.2.2.2.2.1 _ q3⟩ ⟨gP_blind _ _ _, hrec, ?_⟩ rfl (List.length_map _) hl.1 (gsd hb0 hs) (lv_room (by rw [gcats]; exact hcat)) hd ⟨?_, ?_⟩) kk
  · show 8 + (nL' + 11) + 64 * d' ≤ 64 * d
    omega
  · have := gPre hK hS hA hz (vR b :: As)
    rw [List.map_cons, show gval (vR b) = .ref (b - 1) from grv_pos hb0] at this
    exact this
  · show cells + kc' ≤ mc
    omega
  · show slots + ks' ≤ ms
    omega
theorem g_callSN (hM : gC ω l d' kc' ks' (y', cc', nL', ret', []) As σ PR' gNo) (q1 : Cond.methodLinkNest μ.1.cls idx y' host ∈ lw_tbl) (q2 : Cond.static y' ∈ lw_all) (q4 : Cond.initialized y'.cls ∈ lw_all) (q5 : Cond.code y' cc' nL' ret' ∈ lw_all) (hd : decode μ.2.1 pc = .ok (.invokestatic idx, 3))
    (hy : y'.cls ≠ "java/lang/invoke/MethodHandle" ∧ y'.cls ≠ "java/lang/invoke/VarHandle" ∧ (parseMethodDescriptor y'.desc).map (fun d => d.parameters.length) = some As.length) (hdm : d' + 1 ≤ d) (hnl : nL' ≤ 45) (hkc : kc' ≤ kc ∧ ks' ≤ ks) (hs : st0 = As.reverse ++ st) (hcat : (st.map gcat).sum ≤ 8)
    (kk : ∀ (v : Option gV) (σ' : gMem), PR' v σ' → gE σ σ' → G ω l d (kc - kc') (ks - ks') μ σ0 PR PX (pc + 3) lv (v.toList ++ st) σ') : G ω l d kc ks μ σ0 PR PX pc lv st0 σ := by
  intro p e s m args below meth c H locs cells slots mc ms ls hC hK hS hA hE hz hr hl
  refine g_after hC hK hA hE hz hr hl hkc (va_runSN (As := As.map gval) (rest := st.map gval) ⟨hC.1, hC.2.1, hC.2.2.1, hC.2.2.2.2.2.1, hC.2.2.2.2.2.2.1⟩ hM.met ⟨va_cnB As.length hC.2.2.2.2.2.2.1 (lw_meth q5) rfl rfl rfl (hK.2.1 _ q1 rfl) (hC.2.2.2.2.2.2.1 _ q4) hy ⟨hdm, ?_⟩, hC.2.2.2.2.2.2.1 _ q2, trivial⟩ ⟨gP_blind _ _ _, gPre hK hS hA hz As⟩ rfl (List.length_map _) hl.1 (gss hs) (lv_room (by rw [gcats]; exact hcat)) hd ⟨?_, ?_⟩) kk
  · show 8 + (nL' + 11) + 64 * d' ≤ 64 * d
    omega
  · show cells + kc' ≤ mc
    omega
  · show slots + ks' ≤ ms
    omega
theorem g_callIN (hM : gC ω l d' kc' ks' (y', cc', nL', none, []) (vR b :: As) σ PR' gNo) (q1 : Cond.methodLinkNest μ.1.cls idx y' host ∈ lw_tbl) (q2 : Cond.instanceMethod y' ∈ lw_all) (q4 : Cond.initialized y'.cls ∈ lw_all) (q5 : Cond.code y' cc' nL' none ∈ lw_all) (hd : decode μ.2.1 pc = .ok (.invokespecial idx, 3))
    (hbT : mT σ b ≠ 0) (hy1 : y'.name = "<init>") (hy : y'.cls ≠ "java/lang/invoke/MethodHandle" ∧ y'.cls ≠ "java/lang/invoke/VarHandle" ∧ (parseMethodDescriptor y'.desc).map (fun d => d.parameters.length) = some As.length) (hdm : d' + 1 ≤ d) (hnl : nL' ≤ 45) (hkc : kc' ≤ kc ∧ ks' ≤ ks) (hs : st0 = As.reverse ++ vR b :: st) (hcat : (st.map gcat).sum ≤ 8)
    (kk : ∀ (v : Option gV) (σ' : gMem), PR' v σ' → gE σ σ' → G ω l d (kc - kc') (ks - ks') μ σ0 PR PX (pc + 3) lv (v.toList ++ st) σ') : G ω l d kc ks μ σ0 PR PX pc lv st0 σ := by
  intro p e s m args below meth c H locs cells slots mc ms ls hC hK hS hA hE hz hr hl
  have hb0 : b ≠ 0 := (hS.2.1 b hbT).2.1
  refine g_after hC hK hA hE hz hr hl hkc (va_runIN (b := b - 1) (As := As.map gval) (rest := st.map gval) ⟨hC.1, hC.2.1, hC.2.2.1, hC.2.2.2.2.2.1, hC.2.2.2.2.2.2.1⟩ hM.met ⟨va_cnB As.length hC.2.2.2.2.2.2.1 (lw_meth q5) rfl rfl rfl (hK.2.1 _ q1 rfl) (hC.2.2.2.2.2.2.1 _ q4) hy ⟨hdm, ?_⟩, hy1, hC.2.2.2.2.2.2.1 _ q2⟩ ⟨gP_blind _ _ _, ?_⟩ rfl (List.length_map _) hl.1 (gsd hb0 hs) (lv_room (by rw [gcats]; exact hcat)) hd ⟨?_, ?_⟩) kk
  · show 8 + (nL' + 11) + 64 * d' ≤ 64 * d
    omega
  · have := gPre hK hS hA hz (vR b :: As)
    rw [List.map_cons, show gval (vR b) = .ref (b - 1) from grv_pos hb0] at this
    exact this
  · show cells + kc' ≤ mc
    omega
  · show slots + ks' ≤ ms
    omega
end GCalls
