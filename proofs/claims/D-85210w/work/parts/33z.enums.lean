/-! ===== an enum's private method, called by a nestmate ===== -/
section GEn1
variable {ω : gW} {l : Launch} {d d' kc ks kc' ks' : Nat} {μ : gM} {σ0 σ : gMem} {PR PR' : Option gV → gMem → Prop} {PX : String → gMem → Prop} {pc : Nat} {lv lv' : List (Nat × gV)} {st st0 : List gV}
variable {y' : MethodName} {cc' : ByteArray} {nL' idx b : Nat} {ret' : Option FieldType} {As : List gV} {host : String}
theorem g_callVNr (hM : gC ω l d' kc' ks' (y', cc', nL', ret', []) (vR b :: As) σ PR' gNo) (q1 : Cond.methodLinkNest μ.1.cls idx y' host ∈ lw_tbl) (q2 : Cond.instanceMethod y' ∈ lw_all) (q3 : Cond.selects y'.cls y' y' ∈ lw_all) (q4 : Cond.initialized y'.cls ∈ lw_all) (q5 : Cond.code y' cc' nL' ret' ∈ lw_all) (hd : decode μ.2.1 pc = .ok (.invokevirtual idx, 3))
    (hrec : ∀ (s : State) (H : Heap) (locs : List Loc), gKK ω s → gSim ω σ H → va_S (gA ω) s.heap H locs → b ≠ 0 ∧ ∃ cellB : Cell, H[b - 1]? = some cellB ∧ cellB.vm.isStatics = false ∧ s.vm.findClass y'.cls = some cellB.cls) (hy : y'.cls ≠ "java/lang/invoke/MethodHandle" ∧ y'.cls ≠ "java/lang/invoke/VarHandle" ∧ (parseMethodDescriptor y'.desc).map (fun d => d.parameters.length) = some As.length) (hdm : d' + 1 ≤ d) (hnl : nL' ≤ 45) (hkc : kc' ≤ kc ∧ ks' ≤ ks) (hs : st0 = As.reverse ++ vR b :: st) (hcat : (st.map gcat).sum ≤ 8)
    (kk : ∀ (v : Option gV) (σ' : gMem), PR' v σ' → gE σ σ' → G ω l d (kc - kc') (ks - ks') μ σ0 PR PX (pc + 3) lv (v.toList ++ st) σ') : G ω l d kc ks μ σ0 PR PX pc lv st0 σ := by
  intro p e s m args below meth c H locs cells slots mc ms ls hC hK hS hA hE hz hr hl
  obtain ⟨hb0, hrec⟩ := hrec s H locs hK hS hA
  refine g_after hC hK hA hE hz hr hl hkc (va_runVN (As := As.map gval) (rest := st.map gval) ⟨hC.1, hC.2.1, hC.2.2.1, hC.2.2.2.2.2.1, hC.2.2.2.2.2.2.1⟩ hM.met ⟨va_cnB As.length hC.2.2.2.2.2.2.1 (lw_meth q5) rfl rfl rfl (hK.2.1 _ q1 rfl) (hC.2.2.2.2.2.2.1 _ q4) hy ⟨hdm, ?_⟩, hC.2.2.2.2.2.2.1 _ q2, hC.2.2.2.2.2.2.1 _ q3⟩ ⟨gP_blind _ _ _, hrec, ?_⟩ rfl (List.length_map _) hl.1 (gsd hb0 hs) (lv_room (by rw [gcats]; exact hcat)) hd ⟨?_, ?_⟩) kk
  · show 8 + (nL' + 11) + 64 * d' ≤ 64 * d
    omega
  · have := gPre hK hS hA hz (vR b :: As)
    rw [List.map_cons, show gval (vR b) = .ref (b - 1) from grv_pos hb0] at this
    exact this
  · show cells + kc' ≤ mc
    omega
  · show slots + ks' ≤ ms
    omega
end GEn1
section GEn2
variable {α : Type} {F : α → gR} {Rl : gMem → gMem → Prop} {ω : gW} {l : Launch} {d : Nat} {μ : gM} {σ0 σ : gMem} {pc : Nat} {lv lv' : List (Nat × gV)} {st : List gV} {t t1 t2 : Option α}
variable {d' idx b ci N nL' : Nat} {As st0 : List gV} {y' : MethodName} {cc' : ByteArray} {ret' : Option FieldType} {T : u_T} {Rl' : gMem → gMem → Prop}
theorem x_callEN_pi {f : Option (Int)} {tc : Int → Option α} (hM : gK (fun x => (.inl (some (vI x)), σ)) Rl' ω l d' (y', cc', nL', ret', []) (vR b :: As) σ f) (hRl : gRel Rl) (hRl' : gRel Rl') (hw : ∀ s, Rl' σ s → Rl σ s) {host : String} (q1 : Cond.methodLinkNest μ.1.cls idx y' host ∈ lw_tbl) (q2 : Cond.instanceMethod y' ∈ lw_all) (q3 : Cond.selects y'.cls y' y' ∈ lw_all) (q4 : Cond.initialized y'.cls ∈ lw_all) (q5 : Cond.code y' cc' nL' ret' ∈ lw_all) (hd : decode μ.2.1 pc = .ok (.invokevirtual idx, 3)) (hn : y'.cls = "SheetBranches$Name") (ht : mT σ b = 91) (hy : y'.cls ≠ "java/lang/invoke/MethodHandle" ∧ y'.cls ≠ "java/lang/invoke/VarHandle" ∧ (parseMethodDescriptor y'.desc).map (fun d => d.parameters.length) = some As.length) (hdm : d' + 1 ≤ d) (hnl : nL' ≤ 45) (hs : st0 = As.reverse ++ vR b :: st) (hcat : (st.map gcat).sum ≤ 8) (kk : ∀ x, g32 x → GG F Rl ω l d μ σ0 (pc + 3) lv (vI x :: st) (σ) (tc x)) : GG F Rl ω l d μ σ0 pc lv st0 σ (f.bind tc) := by
  intro ok a0 h
  obtain ⟨x, hb, hq⟩ := Option.bind_eq_some_iff.mp h
  obtain ⟨⟨k1, k0⟩, k2⟩ := hM ok x hb
  have m1 := hRl'.2.2 _ _ k1
  have k3 := kk x k0 (m1.2.2 ok) a0 hq
  have m2 := hRl.2.2 _ _ k3.1.1
  refine ⟨⟨hRl.2.1 _ _ _ (hw _ k1) k3.1.1, k3.1.2⟩, fun kc ks h1 h2 => ?_⟩
  dsimp only at m1 m2 k3 k2
  refine g_callVNr k2.no q1 q2 q3 q4 q5 hd (by rw [hn]; exact grecN ht) hy hdm hnl ⟨by omega, by omega⟩ hs hcat (fun v' σ' hp hE => ?_)
  obtain ⟨e1, e2⟩ := hp
  injection e1 with e1
  subst e1; subst e2
  exact k3.2 _ _ (by omega) (by omega)
end GEn2
