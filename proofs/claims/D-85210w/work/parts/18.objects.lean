/-! ===== rows: casts, constants, texts ===== -/
section GObj4
variable {ω : gW} {l : Launch} {d kc ks : Nat} {μ : gM} {σ0 σ : gMem} {PR : Option gV → gMem → Prop} {PX : String → gMem → Prop} {pc : Nat} {lv lv' : List (Nat × gV)} {st : List gV}
theorem g_castC {a ci idx : Nat} {r : vw_C} (hc : gcl[ci]? = some r) (q1 : Cond.classLink μ.1.cls idx r.1 ∈ lw_all) (hd : decode μ.2.1 pc = .ok (.checkcast idx, 3)) (h : a = 0 ∨ mT σ a = ci + 1) (kk : G ω l d kc ks μ σ0 PR PX (pc + 3) lv (vR a :: st) σ) : G ω l d kc ks μ σ0 PR PX pc lv (vR a :: st) σ := by
  intro p e s m args below meth c H locs cells slots mc ms ls hC hK hS hA hE hz hr hl
  have w := kk p e s m args below meth c H locs cells slots mc ms ls hC hK hS hA hE hz hr hl
  rw [List.map_cons] at w ⊢
  by_cases a0 : a = 0
  · subst a0
    exact lv_castN hC.1 hC.2.1 hd w
  · obtain ⟨h0, cell, g1, g2, hat⟩ := gcellC hK hS (h.resolve_left a0) hc
    rw [show gval (vR a) = .ref (a - 1) from grv_pos a0] at w ⊢
    exact va_castE hC.1 hC.2.1 hC.2.2.2.2.2.1 (hC.2.2.2.2.2.2.1 _ q1) ⟨cell, g1, by rw [g2]; rfl, hat.1⟩ hd w
theorem g_castP {a idx : Nat} (q1 : Cond.classLink μ.1.cls idx "SheetBranches$Part" ∈ lw_all) (hd : decode μ.2.1 pc = .ok (.checkcast idx, 3)) (h : a = 0 ∨ gPart (mT σ a) = true) (kk : G ω l d kc ks μ σ0 PR PX (pc + 3) lv (vR a :: st) σ) : G ω l d kc ks μ σ0 PR PX pc lv (vR a :: st) σ := by
  intro p e s m args below meth c H locs cells slots mc ms ls hC hK hS hA hE hz hr hl
  have w := kk p e s m args below meth c H locs cells slots mc ms ls hC hK hS hA hE hz hr hl
  rw [List.map_cons] at w ⊢
  by_cases a0 : a = 0
  · subst a0
    exact lv_castN hC.1 hC.2.1 hd w
  · obtain ⟨h0, C, hn, hcell⟩ := gpart hK hS (h.resolve_left a0)
    rw [show gval (vR a) = .ref (a - 1) from grv_pos a0] at w ⊢
    exact va_castY hC.1 hC.2.1 hC.2.2.2.2.2.1 (hC.2.2.2.2.2.2.1 _ q1) hn hcell hd w
theorem g_castA {a idx : Nat} (j : Nat) {nm : String} {ty : FieldType} (hj : ∀ ω : gW, (gtys ω)[j]? = some (ω.A j, ty)) (had : ∀ (U : State) (cA : ClassId), va_RA U cA ty → U.vm.findClass nm = some cA) (q1 : Cond.classLink μ.1.cls idx nm ∈ lw_all) (hd : decode μ.2.1 pc = .ok (.checkcast idx, 3)) (ht : mT σ a = 100 + j) (kk : G ω l d kc ks μ σ0 PR PX (pc + 3) lv (vR a :: st) σ) : G ω l d kc ks μ σ0 PR PX pc lv (vR a :: st) σ := by
  intro p e s m args below meth c H locs cells slots mc ms ls hC hK hS hA hE hz hr hl
  have w := kk p e s m args below meth c H locs cells slots mc ms ls hC hK hS hA hE hz hr hl
  obtain ⟨q1', q2, q3⟩ := gArr (j := j) hS ht
  have hnm := had s _ (hK.1.2 j _ (hj ω)).2
  rw [List.map_cons, show gval (vR a) = .ref (a - 1) from grv_pos q2] at w ⊢
  intro T hT X
  obtain ⟨vm', X', stp⟩ := X.checkcastYes hC.1 hC.2.2.2.2.2.1 (hC.2.2.2.2.2.2.1 _ q1) (by rw [hT]; exact q1') rfl hnm (va_asg _ _) (g := F0 m pc ls (.ref (a - 1) :: st.map gval)) rfl rfl (by rw [hC.2.1]; exact hd)
  obtain ⟨t, a1, b1⟩ := w (T.setVm vm') hT X'
  exact ⟨t, stp t a1, b1⟩
theorem g_inst {a ci idx : Nat} {r : vw_C} (hci : gNode (ci + 1) = true) (hc : gcl[ci]? = some r) (q1 : Cond.classLink μ.1.cls idx r.1 ∈ lw_all) (hd : decode μ.2.1 pc = .ok (.instanceof idx, 3)) (h : a = 0 ∨ gNode (mT σ a) = true) (kt : mT σ a = ci + 1 → G ω l d kc ks μ σ0 PR PX (pc + 3) lv (vI 1 :: st) σ) (kf : mT σ a ≠ ci + 1 → G ω l d kc ks μ σ0 PR PX (pc + 3) lv (vI 0 :: st) σ) : G ω l d kc ks μ σ0 PR PX pc lv (vR a :: st) σ := by
  intro p e s m args below meth c H locs cells slots mc ms ls hC hK hS hA hE hz hr hl
  by_cases ht : mT σ a = ci + 1
  · have w := kt ht p e s m args below meth c H locs cells slots mc ms ls hC hK hS hA hE hz hr hl
    obtain ⟨h0, cell, g1, g2, hat⟩ := gcellC hK hS ht hc
    rw [List.map_cons] at w ⊢
    rw [show gval (vR a) = .ref (a - 1) from grv_pos h0]
    exact va_instE hC.1 hC.2.1 hC.2.2.2.2.2.1 (hC.2.2.2.2.2.2.1 _ q1) ⟨cell, g1, by rw [g2]; rfl, hat.1⟩ hd w
  · have w := kf ht p e s m args below meth c H locs cells slots mc ms ls hC hK hS hA hE hz hr hl
    rw [List.map_cons] at w ⊢
    by_cases a0 : a = 0
    · subst a0
      exact lv_instN hC.1 hC.2.1 hd w
    · obtain ⟨h0, C, hn, hcell⟩ := gnode hK hS (h.resolve_left a0) hci ht
      have er : (gcl.getD ci ("", TX15, 0)) = r := by
        rw [List.getD_eq_getElem?_getD, hc]; rfl
      rw [er] at hn
      rw [show gval (vR a) = .ref (a - 1) from grv_pos a0]
      exact va_instNo hC.1 hC.2.1 hC.2.2.2.2.2.1 (hC.2.2.2.2.2.2.1 _ q1) hn hcell hd w
theorem gst_val {H : Heap} (hS : gSim ω σ H) (j : Nat) : gval (vR (mR σ 0 j)) = .ref (ω.st j) := by
  rw [show mR σ 0 j = ω.st j + 1 from hS.2.2.2.2.2.1.1 j]
  rfl
theorem g_gst {idx j : Nat} {C n dd : String} (hz0 : (C, n, dd, j) ∈ gztab) (q1 : Cond.fieldLink μ.1.cls idx C n dd ∈ lw_all) (hd : decode μ.2.1 pc = .ok (.getstatic idx, 3)) (kk : G ω l d kc ks μ σ0 PR PX (pc + 3) lv (vR (mR σ 0 j) :: st) σ) : G ω l d kc ks μ σ0 PR PX pc lv st σ := by
  intro p e s m args below meth c H locs cells slots mc ms ls hC hK hS hA hE hz hr hl
  have w := kk p e s m args below meth c H locs cells slots mc ms ls hC hK hS hA hE hz hr hl
  rw [List.map_cons, gst_val hS] at w
  exact va_gets hC.1 hC.2.1 (hK.2.2.1.1 _ hz0) hA hC.2.2.2.2.2.1 (hC.2.2.2.2.2.2.1 _ q1) (fun x h => h) hd w
theorem g_gstN {idx j : Nat} {C n dd host : String} (hz0 : (C, n, dd, j) ∈ gztab) (q1 : Cond.fieldLinkNest μ.1.cls idx C n dd host ∈ lw_tbl) (hd : decode μ.2.1 pc = .ok (.getstatic idx, 3)) (kk : G ω l d kc ks μ σ0 PR PX (pc + 3) lv (vR (mR σ 0 j) :: st) σ) : G ω l d kc ks μ σ0 PR PX pc lv st σ := by
  intro p e s m args below meth c H locs cells slots mc ms ls hC hK hS hA hE hz hr hl
  have w := kk p e s m args below meth c H locs cells slots mc ms ls hC hK hS hA hE hz hr hl
  rw [List.map_cons, gst_val hS] at w
  exact va_getsN hC.1 hC.2.1 (hK.2.2.1.1 _ hz0) hA hC.2.2.2.2.2.1 (va_Nw.use rfl (hK.2.1 _ q1 rfl)) (fun x h => h) hd w
theorem g_ldcS {idx j : Nat} {tx : String} (hz0 : (μ.1.cls, idx, tx, j) ∈ gstab) (hd : decode μ.2.1 pc = .ok (.ldc idx, 2)) (kk : G ω l d kc ks μ σ0 PR PX (pc + 2) lv (vR (mR σ 0 j) :: st) σ) : G ω l d kc ks μ σ0 PR PX pc lv st σ := by
  intro p e s m args below meth c H locs cells slots mc ms ls hC hK hS hA hE hz hr hl
  have w := kk p e s m args below meth c H locs cells slots mc ms ls hC hK hS hA hE hz hr hl
  rw [List.map_cons, gst_val hS] at w
  exact va_ldcS hC.1 hC.2.1 hC.2.2.2.2.2.1 (hK.2.2.2.2 _ hz0) hd w
theorem g_ldcwS {idx j : Nat} {tx : String} (hz0 : (μ.1.cls, idx, tx, j) ∈ gstab) (hd : decode μ.2.1 pc = .ok (.ldc_w idx, 3)) (kk : G ω l d kc ks μ σ0 PR PX (pc + 3) lv (vR (mR σ 0 j) :: st) σ) : G ω l d kc ks μ σ0 PR PX pc lv st σ := by
  intro p e s m args below meth c H locs cells slots mc ms ls hC hK hS hA hE hz hr hl
  have w := kk p e s m args below meth c H locs cells slots mc ms ls hC hK hS hA hE hz hr hl
  rw [List.map_cons, gst_val hS] at w
  have hZ := hK.2.2.2.2 _ hz0
  intro T hT X
  obtain ⟨t, a1, b1⟩ := w T hT X
  obtain ⟨k, cf, i, a', hk, hcf, hcp, -, hrr, hev'⟩ := Cond.stringRef_spec hC.2.2.2.2.2.1 hZ.1
  have hev := hZ.2
  cases hev.symm.trans hev'
  obtain ⟨k', hk', he⟩ := X.warmed.alike.2.2 _ _ hk
  have hr' : k'.resolved[idx]? = some (some (.string (ω.st j))) := by
    rcases X.warmed.entry hk hk' idx with h | ⟨h, -⟩
    · rw [h]; exact hrr
    · rw [hrr] at h; cases h
  refine ⟨t, ?_, b1⟩
  have hdg' : decode c.code pc = .ok (.ldc_w idx, 3) := by rw [hC.2.1]; exact hd
  jvm_step X.here [hC.1, hdg', ldc_w.wp_string (e := e) (s := T) (f := F0 m pc ls (st.map gval)) X.here.top hk' (by rw [he]; exact hcf) hcp hr']
  exact a1
theorem gold {H : Heap} {a t : Nat} (hS : gSim ω σ H) (ht : mT σ a = t) (h1 : gOld t) : gOAt ω σ a := (hS.2.2.2.2.2.1.2 a (by rw [ht]; exact h1)).2
theorem g_ei {a idx k : Nat} {C n : String} (hf : (C, n, "I", k) ∈ gnf) (hk : k ≠ 1) (q1 : Cond.fieldLink μ.1.cls idx C n "I" ∈ lw_all) (hd : decode μ.2.1 pc = .ok (.getfield idx, 3)) (ht : mT σ a = 91) (kk : g32 (mI σ a k) → G ω l d kc ks μ σ0 PR PX (pc + 3) lv (vI (mI σ a k) :: st) σ) : G ω l d kc ks μ σ0 PR PX pc lv (vR a :: st) σ := by
  intro p e s m args below meth c H locs cells slots mc ms ls hC hK hS hA hE hz hr hl
  have w := kk (mI_rng σ a k) p e s m args below meth c H locs cells slots mc ms ls hC hK hS hA hE hz hr hl
  obtain ⟨i, hi, rfl, hv, -⟩ := (gold hS ht (by decide)).2.1 ht
  have hF := (hK.2.2.1.2.2.1 i hi).2.1 _ hf
  rw [List.map_cons] at w ⊢
  rw [hv k hk] at w
  exact vk_getf hC.1 hC.2.1 hF hA hC.2.2.2.2.2.1 (hC.2.2.2.2.2.2.1 _ q1) (fun x h => h) hd w
theorem g_eiN {a idx k : Nat} {C n host : String} (hf : (C, n, "I", k) ∈ gnf) (hk : k ≠ 1) (q1 : Cond.fieldLinkNest μ.1.cls idx C n "I" host ∈ lw_tbl) (hd : decode μ.2.1 pc = .ok (.getfield idx, 3)) (ht : mT σ a = 91) (kk : g32 (mI σ a k) → G ω l d kc ks μ σ0 PR PX (pc + 3) lv (vI (mI σ a k) :: st) σ) : G ω l d kc ks μ σ0 PR PX pc lv (vR a :: st) σ := by
  intro p e s m args below meth c H locs cells slots mc ms ls hC hK hS hA hE hz hr hl
  have w := kk (mI_rng σ a k) p e s m args below meth c H locs cells slots mc ms ls hC hK hS hA hE hz hr hl
  obtain ⟨i, hi, rfl, hv, -⟩ := (gold hS ht (by decide)).2.1 ht
  have hF := (hK.2.2.1.2.2.1 i hi).2.1 _ hf
  rw [List.map_cons] at w ⊢
  rw [hv k hk] at w
  obtain ⟨cf, kf, fi, f, cell, h1, h2, h3, h4, h5, h6⟩ := hF.kept hA.2.1
  exact va_Wgetf hC.1 hC.2.1 hC.2.2.2.2.2.1 (va_Nw.use rfl (hK.2.1 _ q1 rfl)) h1 h2 h3 h4 (v := .int _) h5 rfl rfl hd w
theorem g_es {a idx k : Nat} {C n : String} (hf : (C, n, "I", k) ∈ gsf) (hk : k ≠ 1) (q1 : Cond.fieldLink μ.1.cls idx C n "I" ∈ lw_all) (hd : decode μ.2.1 pc = .ok (.getfield idx, 3)) (ht : mT σ a = 92) (kk : g32 (mI σ a k) → G ω l d kc ks μ σ0 PR PX (pc + 3) lv (vI (mI σ a k) :: st) σ) : G ω l d kc ks μ σ0 PR PX pc lv (vR a :: st) σ := by
  intro p e s m args below meth c H locs cells slots mc ms ls hC hK hS hA hE hz hr hl
  have w := kk (mI_rng σ a k) p e s m args below meth c H locs cells slots mc ms ls hC hK hS hA hE hz hr hl
  obtain ⟨i, hi, rfl, hv, -⟩ := (gold hS ht (by decide)).2.2.1 ht
  have hF := (hK.2.2.1.2.2.2.1 i hi).2.1 _ hf
  rw [List.map_cons] at w ⊢
  rw [hv k hk] at w
  exact vk_getf hC.1 hC.2.1 hF hA hC.2.2.2.2.2.1 (hC.2.2.2.2.2.2.1 _ q1) (fun x h => h) hd w
theorem g_esN {a idx k : Nat} {C n host : String} (hf : (C, n, "I", k) ∈ gsf) (hk : k ≠ 1) (q1 : Cond.fieldLinkNest μ.1.cls idx C n "I" host ∈ lw_tbl) (hd : decode μ.2.1 pc = .ok (.getfield idx, 3)) (ht : mT σ a = 92) (kk : g32 (mI σ a k) → G ω l d kc ks μ σ0 PR PX (pc + 3) lv (vI (mI σ a k) :: st) σ) : G ω l d kc ks μ σ0 PR PX pc lv (vR a :: st) σ := by
  intro p e s m args below meth c H locs cells slots mc ms ls hC hK hS hA hE hz hr hl
  have w := kk (mI_rng σ a k) p e s m args below meth c H locs cells slots mc ms ls hC hK hS hA hE hz hr hl
  obtain ⟨i, hi, rfl, hv, -⟩ := (gold hS ht (by decide)).2.2.1 ht
  have hF := (hK.2.2.1.2.2.2.1 i hi).2.1 _ hf
  rw [List.map_cons] at w ⊢
  rw [hv k hk] at w
  obtain ⟨cf, kf, fi, f, cell, h1, h2, h3, h4, h5, h6⟩ := hF.kept hA.2.1
  exact va_Wgetf hC.1 hC.2.1 hC.2.2.2.2.2.1 (va_Nw.use rfl (hK.2.1 _ q1 rfl)) h1 h2 h3 h4 (v := .int _) h5 rfl rfl hd w
theorem gtext {H : Heap} {s : State} {a : Nat} {C : String} (hK : gKK ω s) (hS : gSim ω σ H) (h : (C = "SheetBranches$Name" ∧ mT σ a = 91) ∨ (C = "SheetBranches$Sign" ∧ mT σ a = 92)) : a ≠ 0 ∧ mR σ a 1 ≠ 0 ∧ va_OF C "text" "Ljava/lang/String;" (.ref (mR σ a 1 - 1)) (a - 1) (gA ω) s s.heap := by
  rcases h with ⟨rfl, ht⟩ | ⟨rfl, ht⟩
  · obtain ⟨i, hi, rfl, -, hv⟩ := (gold hS ht (by decide)).2.1 ht
    rw [hv]
    exact ⟨Nat.succ_ne_zero _, Nat.succ_ne_zero _, (hK.2.2.1.2.2.1 i hi).2.2⟩
  · obtain ⟨i, hi, rfl, -, hv⟩ := (gold hS ht (by decide)).2.2.1 ht
    rw [hv]
    exact ⟨Nat.succ_ne_zero _, Nat.succ_ne_zero _, (hK.2.2.1.2.2.2.1 i hi).2.2⟩
theorem g_erN {a idx : Nat} {C host : String} (q1 : Cond.fieldLinkNest μ.1.cls idx C "text" "Ljava/lang/String;" host ∈ lw_tbl) (hd : decode μ.2.1 pc = .ok (.getfield idx, 3)) (h : (C = "SheetBranches$Name" ∧ mT σ a = 91) ∨ (C = "SheetBranches$Sign" ∧ mT σ a = 92)) (kk : G ω l d kc ks μ σ0 PR PX (pc + 3) lv (vR (mR σ a 1) :: st) σ) : G ω l d kc ks μ σ0 PR PX pc lv (vR a :: st) σ := by
  intro p e s m args below meth c H locs cells slots mc ms ls hC hK hS hA hE hz hr hl
  have w := kk p e s m args below meth c H locs cells slots mc ms ls hC hK hS hA hE hz hr hl
  obtain ⟨a0, r0, hF⟩ := gtext hK hS h
  rw [List.map_cons] at w ⊢
  rw [show gval (vR (mR σ a 1)) = .ref (mR σ a 1 - 1) from grv_pos r0] at w
  rw [show gval (vR a) = .ref (a - 1) from grv_pos a0]
  obtain ⟨cf, kf, fi, f, cell, h1, h2, h3, h4, h5, h6⟩ := hF.kept hA.2.1
  exact va_Wgetf hC.1 hC.2.1 hC.2.2.2.2.2.1 (va_Nw.use rfl (hK.2.1 _ q1 rfl)) h1 h2 h3 h4 h5 rfl rfl hd w
theorem g_objI {b ci idx : Nat} {r : vw_C} (hc : gcl[ci]? = some r) (q1 : Cond.methodLink μ.1.cls idx Lib.objectInit ∈ lw_all) (q2 : Cond.instanceMethod Lib.objectInit ∈ lw_all) (q3 : Cond.code Lib.objectInit ⟨#[0xb1]⟩ 1 none ∈ lw_all) (hd : decode μ.2.1 pc = .ok (.invokespecial idx, 3)) (ht : mT σ b = ci + 1) (hdm : 1 ≤ d) (hcat : (st.map gcat).sum ≤ 8) (kk : G ω l d kc ks μ σ0 PR PX (pc + 3) lv st σ) : G ω l d kc ks μ σ0 PR PX pc lv (vR b :: st) σ := by
  intro p e s m args below meth c H locs cells slots mc ms ls hC hK hS hA hE hz hr hl
  have w := kk p e s m args below meth c H locs cells slots mc ms ls hC hK hS hA hE hz hr hl
  have hts := hC.2.2.2.2.2.2.1
  obtain ⟨h0, -⟩ := gcellC hK hS ht hc
  rw [List.map_cons, show gval (vR b) = .ref (b - 1) from grv_pos h0]
  exact W.objInit hC.1 hC.2.1 hC.2.2.2.2.2.1 (hts _ q1) (hts _ q2) (hts _ q3) rfl (by rw [hC.2.2.1]; exact hl.1) rfl hd hdm (by show 2 * 0 + _ + 12 ≤ 64 * d; rw [gcats]; omega) w
end GObj4
