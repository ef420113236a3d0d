/-! ===== exceptions ===== -/
section GExcK
variable {p : Program} {l : Launch} {e : Env} {R : Room} {s : State} {m : MethodId} {args : Array Value} {below : List Frame} {meth : Method} {c : Code} {H : Heap} {locs : List Loc} {cells slots : Nat} {Q : State → Prop}
variable {mc ms : Nat} {free : Addr → Prop} {A0 A1 : Nat → Prop} {H0 : Heap} {a : Array Value} {ls : Array Slot} {st0 rest : List Value}
variable {Qc : Array Value → State → Outcome → State → Prop} {XC : String → State → State → Prop}
theorem gx_throw0 {cc : ByteArray} {pc : Nat} (hexec : p.tables.exec = Jvm.exec) (hb : c.code = cc) (hl : l.stackTraces = false) {own cls : String} {names : List String} {ik ic mc ms : Nat} {A : Nat → Prop}
    (hown : s.vm.findClass own = some m.cls) (hcls : Bundle.fit cls = true) (hnames : ∀ n ∈ names, Bundle.fit n = true)
    (hk : (Cond.classLink own ik cls).before args s = true) (hini : (Cond.initialized cls).before args s = true) (hat : ∀ w ∈ vx_at0 own ic cls names, w.before args s = true)
    (hgood : ∀ w ∈ Cond.classLink own ik cls :: Cond.initialized cls :: vx_at0 own ic cls names, vx_ot w = true)
    (hU : vx_Zq Bundle.tN "UNASSIGNED_STACK" Bundle.steD A s s.heap) (hN : vx_Zq Bundle.tN "SUPPRESSED_SENTINEL" Bundle.listD A s s.heap) (hS : va_S A s.heap H locs) (hsize : ls.size = c.maxLocals)
    (d0 : decode cc pc = .ok (.new ik, 3)) (d3 : decode cc (pc + 3) = .ok (.dup, 1)) (d4 : decode cc (pc + 4) = .ok (.invokespecial ic, 3)) (d7 : decode cc (pc + 7) = .ok (.athrow, 1))
    (hout : ∀ x ∈ c.exceptionTable.toList, covers x (pc + 7) = false)
    (hRframes : names.length + 3 < R.frames) (hRlocals : (rest.map fun v => v.category).sum + (13 * (names.length + 1) + 42) ≤ R.locals) (hRcells : cells + 1 ≤ R.cells) (hRslots : slots + 6 ≤ R.slots) (hlocks : meth.locks = false)
    (hx : ∀ t : State, s.vm.Alike t.vm → t.heap.size = H.size + 1 → (∀ q : Nat, q < H.size → t.heap[q]? = H[q]?) → XC cls s t)
    (hf : ∀ z ∈ locs, free z.base) (hc : cells + 1 ≤ mc) (hs : slots + 6 ≤ ms) :
    W p l e R s m args below meth c H locs cells slots (vx_MQ below Qc XC args s mc ms free) (F0 m pc ls rest) := by
  intro T hT X
  have htr : e.platform.stackTraces = false := (show e.platform.stackTraces = l.stackTraces by rw [X.admits.platform]).trans hl
  have Y := vx_rebase X (R' := { frames := R.frames, locals := R.locals, cells := 1, slots := 6 }) (Nat.le_refl _) (Nat.le_refl _) hRcells hRslots
  obtain ⟨s', hA⟩ : ∃ z, z = (T.setVm s.vm).setFrames (.invoking m args :: below) := ⟨_, rfl⟩
  rw [← hA] at Y
  have hvm : s'.vm = s.vm := by rw [hA]; rfl
  have hhp : s'.heap = H := by rw [hA]; exact hT
  have hW0 : s.WarmedH s'.vm := by rw [hvm]; exact State.WarmedH.refl s
  have hat' : ∀ w ∈ vx_at0 own ic cls names, w.before args s' = true := fun w hw => vx_ot_at hW0 hvm.symm (hgood w (List.mem_cons_of_mem _ (List.mem_cons_of_mem _ hw))) (hat w hw)
  have hk' : (Cond.classLink own ik cls).before args s' = true := vx_ot_at hW0 hvm.symm (hgood _ List.mem_cons_self) hk
  have hini' : (Cond.initialized cls).before args s' = true := vx_ot_at hW0 hvm.symm (hgood _ (List.mem_cons_of_mem _ List.mem_cons_self)) hini
  have hU' : vx_Zq Bundle.tN "UNASSIGNED_STACK" Bundle.steD A s' s'.heap := by rw [hhp]; exact vx_Zq.moved hW0.alike (hU.kept hS.2.1)
  have hN' : vx_Zq Bundle.tN "SUPPRESSED_SENTINEL" Bundle.listD A s' s'.heap := by rw [hhp]; exact vx_Zq.moved hW0.alike (hN.kept hS.2.1)
  have h : ∀ w ∈ Bundle.ownAtoms0 own ic cls names, w.before args s' = true := vx_own hat' (vx_isRefq hU'.1) (vx_isRefq hN'.1) hU'.2.word hN'.2.word
  have hown' : s'.vm.findClass own = some m.cls := by rw [hvm]; exact hown
  have hins : (Cond.instantiable cls 6).before args s' = true := h _ (by simp [Bundle.ownAtoms0])
  obtain ⟨vm₁, cX, kX, hfX, hkX, -, -, X₁, st1⟩ := Y.newCold hexec (own := own) (C := cls) (index := ik) (n := 6) hown' hk' hins hini'
    (g := F0 m pc ls rest) rfl (by rw [hb]; exact d0) (Nat.le_refl _) (Nat.le_refl _)
  generalize hT1 : (T.setVm vm₁).pushCell { cls := cX, slots := kX.instanceTypes.map defaultValue, vm := .none } = T1 at X₁ st1
  have hcat : (Value.ref T.heap.size).category = 1 := rfl
  have hcellA : T1.heap[T.heap.size]? = some (freshCell cX kX) := by rw [← hT1]; exact State.heap_pushCell_size _ _
  have d3' : decode c.code (pc + 3) = .ok (.dup, 1) := by rw [hb]; exact d3
  obtain ⟨U, hsteps, hrun, hend, hW, hsame, ce, hce, hO⟩ := X₁.ctorThrow0 hexec htr (own := own) (cls := cls) (names := names) (ic := ic) hown' hcls hnames h (fun x hx => nomatch hx) hfX hkX hcellA (by rw [hhp, hT]; exact Nat.le_refl _)
    (g := { method := m, pc := pc + 4, locals := ls, stack := .ref T.heap.size :: .ref T.heap.size :: rest, locked := none }) rfl hsize rfl rfl (rest := rest) rfl
    (by rw [hb]; exact d4) (by rw [hb]; exact d7) hout hRframes (by simp only [List.map_cons, List.sum_cons, hcat]; omega) hlocks
  obtain ⟨f1, f2⟩ := vx_frame hsame
  rw [hhp] at f1 f2
  have hWs : s.WarmedH U.vm := State.WarmedH.trans hW0 hW
  have hsz1 : U.heap.size = H.size + 1 := by
    have g1 : U.heap.size ≤ s'.heap.size + (0 + 1) := hsame.2.2.1
    have g2 : T.heap.size < U.heap.size := (Array.getElem?_eq_some_iff.mp hce).1
    rw [hhp] at g1
    rw [hT] at g2
    omega
  have hcl : s.vm.findClass cls = some ce.cls := by
    have h9 := hO.cls
    rw [hvm] at h9
    exact h9
  have hall : s.sameButNew ({ U with vm := s.vm } : State) locs mc ms := by
    subst hA
    obtain ⟨e1, e2⟩ := hsame
    rw [State.setFrames_setFrames] at e1
    have h2 : (T.setVm s.vm).sameButNew ({ U with vm := s.vm } : State) [] (0 + 1) (0 + 6) := ⟨e1, e2⟩
    have h3 := X.same.trans h2
    rw [List.append_nil] at h3
    exact h3.mono hc hs
  refine ⟨U, ?_, .threw T.heap.size, hrun, hend, Or.inr ⟨T.heap.size, rfl, cls, ce, locs, hx U hWs.alike hsz1 (fun q hq => f2 q hq (fun z hz => nomatch hz)), hce, hO.vm, hcl, hWs, hall, hf⟩⟩
  refine st1 _ ?_
  show Steps p.tables e below (T1.setTop { method := m, pc := pc + 3, locals := ls, stack := .ref T.heap.size :: rest, locked := none }) _
  jvm_step X₁.here [X₁.here.top, hexec, d3', Value.category]
  exact hsteps

end GExcK
section GExcK2
variable {p : Program} {l : Launch} {e : Env} {R : Room} {s : State} {m : MethodId} {args : Array Value} {below : List Frame} {meth : Method} {c : Code} {H : Heap} {locs : List Loc} {cells slots : Nat} {Q : State → Prop}
variable {ls : Array Slot} {rest : List Value}
theorem gx_make0 {cc : ByteArray} {pc : Nat} (hexec : p.tables.exec = Jvm.exec) (hb : c.code = cc) (hl : l.stackTraces = false) {own cls : String} {names : List String} {ik ic : Nat} {A : Nat → Prop}
    (hown : s.vm.findClass own = some m.cls) (hcls : Bundle.fit cls = true) (hnames : ∀ n ∈ names, Bundle.fit n = true)
    (hk : (Cond.classLink own ik cls).before args s = true) (hini : (Cond.initialized cls).before args s = true) (hat : ∀ w ∈ vx_at0 own ic cls names, w.before args s = true)
    (hgood : ∀ w ∈ Cond.classLink own ik cls :: Cond.initialized cls :: vx_at0 own ic cls names, vx_ot w = true)
    (hU : vx_Zq Bundle.tN "UNASSIGNED_STACK" Bundle.steD A s s.heap) (hN : vx_Zq Bundle.tN "SUPPRESSED_SENTINEL" Bundle.listD A s s.heap) (hS : va_S A s.heap H locs) (hsize : ls.size = c.maxLocals)
    (d0 : decode cc pc = .ok (.new ik, 3)) (d3 : decode cc (pc + 3) = .ok (.dup, 1)) (d4 : decode cc (pc + 4) = .ok (.invokespecial ic, 3))
    {cX0 : ClassId} (hfc : s.vm.findClass cls = some cX0)
    (hRframes : names.length + 3 < R.frames) (hRlocals : (rest.map fun v => v.category).sum + (13 * (names.length + 1) + 42) ≤ R.locals) (hRcells : cells + 1 ≤ R.cells) (hRslots : slots + 6 ≤ R.slots)
    (kk : ∀ (H1 : Heap) (ce : Cell), H1.size = H.size + 1 → (∀ q, q < H.size → H1[q]? = H[q]?) → H1[H.size]? = some ce → ce.cls = cX0 → ce.vm = .none → W p l e R s m args below meth c H1 locs (cells + 1) (slots + 6) Q (F0 m (pc + 7) ls (.ref H.size :: rest))) :
    W p l e R s m args below meth c H locs cells slots Q (F0 m pc ls rest) := by
  intro T hT X
  subst hT
  have htr : e.platform.stackTraces = false := (show e.platform.stackTraces = l.stackTraces by rw [X.admits.platform]).trans hl
  have Y := vx_rebase X (R' := { frames := R.frames, locals := R.locals, cells := 1, slots := 6 }) (Nat.le_refl _) (Nat.le_refl _) hRcells hRslots
  obtain ⟨s', hA'⟩ : ∃ z, z = (T.setVm s.vm).setFrames (.invoking m args :: below) := ⟨_, rfl⟩
  rw [← hA'] at Y
  have hvm : s'.vm = s.vm := by rw [hA']; rfl
  have hhp : s'.heap = T.heap := by rw [hA']; rfl
  have hW0 : s.WarmedH s'.vm := by rw [hvm]; exact State.WarmedH.refl s
  have hat' : ∀ w ∈ vx_at0 own ic cls names, w.before args s' = true := fun w hw => vx_ot_at hW0 hvm.symm (hgood w (List.mem_cons_of_mem _ (List.mem_cons_of_mem _ hw))) (hat w hw)
  have hk' : (Cond.classLink own ik cls).before args s' = true := vx_ot_at hW0 hvm.symm (hgood _ List.mem_cons_self) hk
  have hini' : (Cond.initialized cls).before args s' = true := vx_ot_at hW0 hvm.symm (hgood _ (List.mem_cons_of_mem _ List.mem_cons_self)) hini
  have hU' : vx_Zq Bundle.tN "UNASSIGNED_STACK" Bundle.steD A s' s'.heap := by rw [hhp]; exact vx_Zq.moved hW0.alike (hU.kept hS.2.1)
  have hN' : vx_Zq Bundle.tN "SUPPRESSED_SENTINEL" Bundle.listD A s' s'.heap := by rw [hhp]; exact vx_Zq.moved hW0.alike (hN.kept hS.2.1)
  have h : ∀ w ∈ Bundle.ownAtoms0 own ic cls names, w.before args s' = true := vx_own hat' (vx_isRefq hU'.1) (vx_isRefq hN'.1) hU'.2.word hN'.2.word
  have hown' : s'.vm.findClass own = some m.cls := by rw [hvm]; exact hown
  have hins : (Cond.instantiable cls 6).before args s' = true := h _ (by simp [Bundle.ownAtoms0])
  obtain ⟨vm₁, cX, kX, hfX, hkX, -, -, X₁, st1⟩ := Y.newCold hexec (own := own) (C := cls) (index := ik) (n := 6) hown' hk' hins hini'
    (g := F0 m pc ls rest) rfl (by rw [hb]; exact d0) (Nat.le_refl _) (Nat.le_refl _)
  generalize hT1 : (T.setVm vm₁).pushCell { cls := cX, slots := kX.instanceTypes.map defaultValue, vm := .none } = T1 at X₁ st1
  have hcat : (Value.ref T.heap.size).category = 1 := rfl
  have hcellA : T1.heap[T.heap.size]? = some (freshCell cX kX) := by rw [← hT1]; exact State.heap_pushCell_size _ _
  have d3' : decode c.code (pc + 3) = .ok (.dup, 1) := by rw [hb]; exact d3
  obtain ⟨V, ce, L, Z, hL, hlt, hcl9, hvm9, st⟩ := vx_ctorMade0 X₁ hexec htr (own := own) (cls := cls) (names := names) (ic := ic) hown' hcls hnames h (fun x hx => nomatch hx) hfX hkX hcellA (by rw [hhp]; exact Nat.le_refl _)
    (g := { method := m, pc := pc + 4, locals := ls, stack := .ref T.heap.size :: .ref T.heap.size :: rest, locked := none }) rfl hsize (rest := rest) rfl
    (by rw [hb]; exact d4) hRframes (by simp only [List.map_cons, List.sum_cons, hcat]; omega)
  have Z0 := Stand.forget (locs := []) Z (fun y hy => by rw [hL y hy, hhp]; exact Nat.le_refl _)
  obtain ⟨f1, f2⟩ := vx_frame Z0.same
  rw [hhp] at f1 f2
  have hcid : ce.cls = cX0 := by
    rw [hcl9]
    rw [hvm] at hfX
    exact Option.some.inj (hfX.symm.trans hfc)
  have hh : (V.setCell T.heap.size ce).heap[T.heap.size]? = some ce := heapAt_setCell_self (s := V) ce hlt
  subst hA'
  have X5 := vx_back9 X Y Z0
  have X6 : Stand p l e R s m args below meth c (V.setCell T.heap.size ce) locs (cells + 1) (slots + 6) := { X5 with same := X5.same.mono (by omega) (by omega) }
  have hsz1 : (V.setCell T.heap.size ce).heap.size = T.heap.size + 1 := by
    have g1 := Z0.same.2.2.1
    have g2 : T.heap.size < (V.setCell T.heap.size ce).heap.size := (Array.getElem?_eq_some_iff.mp hh).1
    have g3 : (V.setCell T.heap.size ce).heap.size ≤ T.heap.size + (0 + 1) := g1
    omega
  obtain ⟨t, a1, b1⟩ := kk (V.setCell T.heap.size ce).heap ce hsz1 (fun q hq => f2 q hq (fun z hz => nomatch hz)) hh hcid hvm9 _ rfl X6
  refine ⟨t, st1 _ ?_, b1⟩
  show Steps p.tables e below (T1.setTop { method := m, pc := pc + 3, locals := ls, stack := .ref T.heap.size :: rest, locked := none }) _
  jvm_step X₁.here [X₁.here.top, hexec, d3', Value.category]
  exact st _ a1

end GExcK2
/-- the words of a throw are among the tables' -/
def gexOk (own : String) (ic : Nat) (X : String) (names : List String) : Bool := (vx_at0 own ic X names).all (fun w => decide (w ∈ lw_tbl) && (goodWord w || gNk w)) && (Bundle.fit X && (names.all Bundle.fit && (Cond.initialized X :: vx_at0 own ic X names).all vx_ot))
theorem gex_IllegalArgumentException : gexOk "SheetBranches" 260 "java/lang/IllegalArgumentException" ["java/lang/RuntimeException", "java/lang/Exception"] = true := by decide +kernel
theorem gex_IllegalStateException : gexOk "SheetBranches" 300 "java/lang/IllegalStateException" ["java/lang/RuntimeException", "java/lang/Exception"] = true := by decide +kernel
theorem gex_IndexOutOfBoundsException : gexOk "SheetBranches" 241 "java/lang/IndexOutOfBoundsException" ["java/lang/RuntimeException", "java/lang/Exception"] = true := by decide +kernel
theorem gex_UnsupportedOperationException : gexOk "SheetBranches" 273 "java/lang/UnsupportedOperationException" ["java/lang/RuntimeException", "java/lang/Exception"] = true := by decide +kernel
theorem gex_NoSuchElementException : gexOk "SheetBranches" 234 "java/util/NoSuchElementException" ["java/lang/RuntimeException", "java/lang/Exception"] = true := by decide +kernel
theorem gex_Wrong : gexOk "SheetBranches$Reader" 50 "SheetBranches$Wrong" ["java/lang/Exception"] = true := by decide +kernel
theorem gex_at {ω : gW} {own X : String} {ic : Nat} {names : List String} {args : Array Value} {s : State} (h : gexOk own ic X names = true) (hts : ∀ w ∈ lw_all, w.before args s = true) (hK : gKK ω s) : (∀ w ∈ vx_at0 own ic X names, w.before args s = true) ∧ Bundle.fit X = true ∧ (∀ n ∈ names, Bundle.fit n = true) ∧ ∀ w ∈ Cond.initialized X :: vx_at0 own ic X names, vx_ot w = true := by
  simp only [gexOk, Bool.and_eq_true] at h
  obtain ⟨h1, h2, h3, h4⟩ := h
  refine ⟨fun w hw => ?_, h2, List.all_eq_true.mp h3, List.all_eq_true.mp h4⟩
  have h5 := List.all_eq_true.mp h1 w hw
  simp only [Bool.and_eq_true, Bool.or_eq_true, decide_eq_true_eq] at h5
  rcases h5.2 with g | g
  · exact hts _ (lw_g h5.1 g)
  · exact va_Nw.use (gNk_tab g) (hK.2.1 w h5.1 g)
/-- THE JUDGEMENT of an exception under way at a place: of class E -/
def GX (ω : gW) (l : Launch) (d kc ks : Nat) (μ : gM) (σ0 : gMem) (PR : Option gV → gMem → Prop) (PX : String → gMem → Prop) (pc : Nat) (lv : List (Nat × gV)) (st : List gV) (E : String) (σ : gMem) : Prop :=
  ∀ (p : Program) (e : Env) (s : State) (m : MethodId) (args : Array Value) (below : List Frame) (meth : Method) (c : Code) (H : Heap) (locs : List Loc) (cells slots mc ms : Nat) (ls : Array Slot),
    gCx μ p s m args meth c → gKK ω s → gSim ω σ H → va_S (fun q => ω.lo ≤ q) s.heap H locs → gE σ0 σ → ω.lo ≤ s.heap.size → cells + kc ≤ mc ∧ slots + ks ≤ ms → lv_has ls μ.2.2.1 (lv.map (fun q => (q.1, gval q.2))) →
    ∀ (q : Addr) (ce : Cell), H[q]? = some ce → ce.vm = .none → s.vm.findClass E = some ce.cls →
    vx_W p l e (gRm d mc ms) s m args below meth c H locs cells slots (vx_MQ below (gQ ω σ0 PR) (gX ω σ0 PX) args s mc ms (fun q => ω.lo ≤ q)) (F0 m pc ls (st.map gval)) q
section GExc
variable {ω : gW} {l : Launch} {d d' kc ks kc' ks' : Nat} {μ : gM} {σ0 σ : gMem} {PR PR' : Option gV → gMem → Prop} {PX PX' : String → gMem → Prop} {pc : Nat} {lv lv' : List (Nat × gV)} {st st0 : List gV}
/-- no handler is here: it leaves the method -/
theorem gx_out {E : String} (hout : ∀ x ∈ tableOf μ.2.2.2.2, covers x pc = false) (hp : PX E σ) : GX ω l d kc ks μ σ0 PR PX pc lv st E σ := by
  intro p e s m args below meth c H locs cells slots mc ms ls hC hK hS hA hE hz hr hl q ce hq hv hcl
  exact vx_out (by rw [hC.2.2.2.2.2.2.2.2]; exact hout) hC.2.2.2.2.1 hq hv hcl (fun t ht _ => ⟨σ, hp, hE, by rw [ht]; exact hS, hA.F ht⟩) hA.2.2 (by omega) (by omega)
theorem gx_catch {E nm : String} {tgt : Nat} (pre : List ExceptionTableEntry) (x : ExceptionTableEntry) (suf : List ExceptionTableEntry) (hsplit : tableOf μ.2.2.2.2 = pre ++ x :: suf) (hpass : ∀ z ∈ pre, z.catchType ≠ 0 ∧ ∃ nm2 : String, Cond.classLink μ.1.cls z.catchType nm2 ∈ lw_all ∧ (E, nm2) ∈ gnc) (hx : covers x pc = true) (h0 : x.catchType ≠ 0) (q1 : Cond.classLink μ.1.cls x.catchType nm ∈ lw_all) (q2 : Cond.castable E nm ∈ lw_tbl) (ht : x.handlerPc = tgt)
    (kk : ∀ q : Nat, G ω l d kc ks μ σ0 PR PX tgt lv [vR q] σ) : GX ω l d kc ks μ σ0 PR PX pc lv st E σ := by
  intro p e s m args below meth c H locs cells slots mc ms ls hC hK hS hA hE hz hr hl q ce hq hv hcl
  subst ht
  have hts := hC.2.2.2.2.2.2.1
  have w := kk (q + 1) p e s m args below meth c H locs cells slots mc ms ls hC hK hS hA hE hz hr hl
  exact vx_catch hC.2.2.2.2.2.1 pre x suf (by rw [hC.2.2.2.2.2.2.2.2]; exact hsplit) (fun z hz' => Or.inr ⟨(hpass z hz').1, (hpass z hz').2.choose, hts _ (hpass z hz').2.choose_spec.1, hK.2.2.2.1.1 _ (hpass z hz').2.choose_spec.2⟩) hx h0 (hts _ q1) (va_Nw.use rfl (hK.2.1 _ q2 rfl)) hq hv hcl w
theorem g_throw0 {own X : String} {ik ic : Nat} {names : List String} (hl0 : l.stackTraces = false) (hex : gexOk own ic X names = true) (hnl : names.length ≤ 3) (hown : μ.1.cls = own) (q1 : Cond.classLink own ik X ∈ lw_all) (q2 : Cond.initialized X ∈ lw_all) (d0 : decode μ.2.1 pc = .ok (.new ik, 3)) (d3 : decode μ.2.1 (pc + 3) = .ok (.dup, 1)) (d4 : decode μ.2.1 (pc + 4) = .ok (.invokespecial ic, 3)) (d7 : decode μ.2.1 (pc + 7) = .ok (.athrow, 1)) (hout : ∀ x ∈ tableOf μ.2.2.2.2, covers x (pc + 7) = false) (hdm : 8 ≤ d) (hcat : (st.map gcat).sum ≤ 8) (hkc : 1 ≤ kc) (hks : 6 ≤ ks) (hp : PX X (wX σ 6)) : G ω l d kc ks μ σ0 PR PX pc lv st σ := by
  intro p e s m args below meth c H locs cells slots mc ms ls hC hK hS hA hE hz hr hl
  subst hown
  have hts := hC.2.2.2.2.2.2.1
  obtain ⟨x1, x2, x3, x4⟩ := gex_at (ω := ω) hex hts hK
  have hg1 : vx_ot (Cond.classLink μ.1.cls ik X) = true := rfl
  refine gx_throw0 hC.1 hC.2.1 hl0 (A := gA ω) hC.2.2.2.2.2.1 x2 x3 (hts _ q1) (hts _ q2) x1 (fun w hw => ?_) hK.2.2.1.2.2.2.2.2.1.1 hK.2.2.1.2.2.2.2.2.1.2.1 hA (by rw [hC.2.2.1]; exact hl.1) d0 d3 d4 d7 (by rw [hC.2.2.2.2.2.2.2.2]; exact hout) (by show names.length + 3 < d; omega) ?_ (show cells + 1 ≤ mc by omega) (show slots + 6 ≤ ms by omega) hC.2.2.2.2.1 (fun t hal hsz hold => ?_) hA.2.2 (by omega) (by omega)
  · rcases List.mem_cons.mp hw with rfl | hw
    · exact hg1
    · exact x4 w hw
  · show _ + _ ≤ 64 * d
    rw [gcats]
    omega
  · refine ⟨wX σ 6, hp, hE.tr ((gNew_X σ 6).E hS.ok), gSim_news (gNew_X σ 6) hS (Nat.le_trans hz hA.1) hsz hold (fun b h1 h2 => ?_), ⟨by rw [hsz]; exact Nat.le_trans hA.1 (Nat.le_succ _), fun q g1 g2 => (hold q (Nat.lt_of_lt_of_le g1 hA.1)).trans (hA.2.1 q g1 g2)⟩⟩
    have e0 : mT (wX σ 6) b = 0 := hS.ok b h1
    refine ⟨by rw [e0]; decide, fun h => absurd e0 h, hS.2.2.1 b, fun h => by rw [e0] at h; cases h⟩
theorem g_makeW {ik ic : Nat} {names : List String} (hl0 : l.stackTraces = false) (hex : gexOk μ.1.cls ic "SheetBranches$Wrong" names = true) (hnl : names.length ≤ 3) (q1 : Cond.classLink μ.1.cls ik "SheetBranches$Wrong" ∈ lw_all) (q2 : Cond.initialized "SheetBranches$Wrong" ∈ lw_all) (d0 : decode μ.2.1 pc = .ok (.new ik, 3)) (d3 : decode μ.2.1 (pc + 3) = .ok (.dup, 1)) (d4 : decode μ.2.1 (pc + 4) = .ok (.invokespecial ic, 3)) (hdm : 8 ≤ d) (hcat : (st.map gcat).sum ≤ 8) (hkc : 1 ≤ kc) (hks : 6 ≤ ks) (kk : G ω l d (kc - 1) (ks - 6) μ σ0 PR PX (pc + 7) lv (vR (mZ σ) :: st) (wN σ 25 6)) : G ω l d kc ks μ σ0 PR PX pc lv st σ := by
  intro p e s m args below meth c H locs cells slots mc ms ls hC hK hS hA hE hz hr hl
  have hts := hC.2.2.2.2.2.2.1
  obtain ⟨x1, x2, x3, x4⟩ := gex_at (ω := ω) hex hts hK
  have hg1 : vx_ot (Cond.classLink μ.1.cls ik "SheetBranches$Wrong") = true := rfl
  have hKn := hK.1.1 24 _ rfl
  refine gx_make0 hC.1 hC.2.1 hl0 (A := gA ω) hC.2.2.2.2.2.1 x2 x3 (hts _ q1) (hts _ q2) x1 (fun w hw => ?_) hK.2.2.1.2.2.2.2.2.1.1 hK.2.2.1.2.2.2.2.2.1.2.1 hA (by rw [hC.2.2.1]; exact hl.1) d0 d3 d4 hKn.2.1 (by show names.length + 3 < d; omega) ?_ (show cells + 1 ≤ mc by omega) (show slots + 6 ≤ ms by omega) (fun H1 ce z1 o1 e1 hcl hv => ?_)
  · rcases List.mem_cons.mp hw with rfl | hw
    · exact hg1
    · exact x4 w hw
  · show _ + _ ≤ 64 * d
    rw [gcats]
    omega
  · have hZ : mZ σ = H.size + 1 := hS.1
    have hZ1 : mZ σ - 1 = H.size := by omega
    have hT : mT (wN σ 25 6) (mZ σ) = 25 := by show (if mZ σ = mZ σ then _ else _) = _; rw [if_pos rfl]
    have w := kk p e s m args below meth c H1 locs (cells + 1) (slots + 6) mc ms ls hC hK
      (gSim_news (gNew_N σ _ _) hS (Nat.le_trans hz hA.1) z1 o1 (fun b h1 h2 => by
        have eb : b = mZ σ := by omega
        subst eb
        refine ⟨by rw [hT]; decide, fun _ => ⟨fun cj r hj hr => ?_, fun j hj => ?_⟩, ?_, fun h => by rw [hT] at h; omega⟩
        · rw [hT] at hj
          have e2 : cj = 24 := by omega
          subst e2
          have er : r = (RX12, TX12, 0) := (Option.some.inj hr).symm
          subst er
          rw [hZ1]
          exact ⟨ce, e1, hcl, hv, fun k hk => absurd hk (Nat.not_lt_zero k)⟩
        · rw [hT] at hj; omega
        · show (if mZ σ = mZ σ then 6 else _) < _; rw [if_pos rfl]; decide))
      (gS_new hA z1 o1) (hE.tr ((gNew_N σ _ _).E hS.ok)) hz ⟨by omega, by omega⟩ hl
    rw [List.map_cons, gref hS] at w
    exact w
theorem g_athrow {a : Nat} (hd : decode μ.2.1 pc = .ok (.athrow, 1)) (ht : mT σ a = 25) (kx : GX ω l d kc ks μ σ0 PR PX pc lv st "SheetBranches$Wrong" σ) : G ω l d kc ks μ σ0 PR PX pc lv (vR a :: st) σ := by
  intro p e s m args below meth c H locs cells slots mc ms ls hC hK hS hA hE hz hr hl
  obtain ⟨h0, cell, g1, g2, hat⟩ := gcellC (ci := 24) hK hS ht rfl
  rw [List.map_cons, show gval (vR a) = .ref (a - 1) from grv_pos h0]
  exact vx_athrow hC.1 hC.2.1 hd (kx p e s m args below meth c H locs cells slots mc ms ls hC hK hS hA hE hz hr hl (a - 1) cell g1 g2 hat.1)
theorem g_afterX {p : Program} {e : Env} {s : State} {m : MethodId} {args a' : Array Value} {below : List Frame} {meth : Method} {c : Code} {H : Heap} {locs : List Loc} {cells slots mc ms : Nat} {ls : Array Slot}
    (hC : gCx μ p s m args meth c) (hK : gKK ω s) (hA : va_S (fun q => ω.lo ≤ q) s.heap H locs) (hE : gE σ0 σ) (hz : ω.lo ≤ s.heap.size) (hr : cells + kc ≤ mc ∧ slots + ks ≤ ms) (hl : lv_has ls μ.2.2.1 (lv.map (fun q => (q.1, gval q.2))))
    (hkc : kc' ≤ kc ∧ ks' ≤ ks)
    (hrun : vx_Run p l e (gRm d mc ms) s m args below meth c H locs cells slots kc' ks' (F0 m pc ls (st0.map gval)) (st.map gval) (gQ ω σ PR' a') (gX ω σ PX') (fun q => ω.lo ≤ q))
    (kk : ∀ (v : Option gV) (σ' : gMem), PR' v σ' → gE σ σ' → G ω l d (kc - kc') (ks - ks') μ σ0 PR PX (pc + 3) lv (v.toList ++ st) σ')
    (kx : ∀ (E : String) (σ' : gMem), PX' E σ' → gE σ σ' → GX ω l d (kc - kc') (ks - ks') μ σ0 PR PX pc lv st E σ') :
    W p l e (gRm d mc ms) s m args below meth c H locs cells slots (vx_MQ below (gQ ω σ0 PR) (gX ω σ0 PX) args s mc ms (fun q => ω.lo ≤ q)) (F0 m pc ls (st0.map gval)) := by
  intro T hT X
  rcases hrun T hT X with ⟨v, st₀, t, T', L, h0, X', hL, e1, e2, ⟨v', σ', hv, hp, hEE, hS', hF⟩, stp⟩ | ⟨q, st₀, t, T', L, E, ce, h0, X', hL, e1, e2, ⟨σ', hp, hEE, hS', hF⟩, hq, hcv, hcl, stp⟩
  · have hv : v = v'.map gval := by injection hv
    subst hv
    obtain ⟨-, -, k3⟩ := vx_keep h0 e1 hA (fun q _ h => h) (fun q h => h) hL hF
    have w := kk v' σ' hp hEE p e s m args below meth c T'.heap (locs ++ L) (cells + kc') (slots + ks') mc ms ls hC hK (by rw [e1]; exact hS') k3 (hE.tr hEE) hz ⟨by omega, by omega⟩ hl T' rfl X'
    rw [← gtoList] at w
    obtain ⟨t2, a1, b1⟩ := w
    exact ⟨t2, stp t2 a1, b1⟩
  · obtain ⟨-, -, k3⟩ := vx_keep h0 e1 hA (fun q _ h => h) (fun q h => h) hL hF
    have w := kx E σ' hp hEE p e s m args below meth c T'.heap (locs ++ L) (cells + kc') (slots + ks') mc ms ls hC hK (by rw [e1]; exact hS') k3 (hE.tr hEE) hz ⟨by omega, by omega⟩ hl q ce (by rw [e1]; exact hq) hcv hcl T' rfl X'
    obtain ⟨t2, a1, b1⟩ := w
    exact ⟨t2, stp.trans a1, b1⟩
variable {y' : MethodName} {cc' : ByteArray} {nL' idx b ci N : Nat} {ret' : Option FieldType} {T : u_T} {As : List gV} {host : String}
theorem g_xcallV (hM : gC ω l d' kc' ks' (y', cc', nL', ret', []) (vR b :: As) σ PR' PX') (q1 : Cond.methodLink μ.1.cls idx y' ∈ lw_all) (q2 : Cond.instanceMethod y' ∈ lw_all) (q3 : Cond.selects y'.cls y' y' ∈ lw_all) (q4 : Cond.initialized y'.cls ∈ lw_all) (q5 : Cond.code y' cc' nL' ret' ∈ lw_all) (hd : decode μ.2.1 pc = .ok (.invokevirtual idx, 3))
    (hc : gcl[ci]? = some (y'.cls, T, N)) (ht : mT σ b = ci + 1) (hy : y'.cls ≠ "java/lang/invoke/MethodHandle" ∧ y'.cls ≠ "java/lang/invoke/VarHandle" ∧ (parseMethodDescriptor y'.desc).map (fun d => d.parameters.length) = some As.length) (hdm : d' + 1 ≤ d) (hnl : nL' ≤ 45) (hkc : kc' ≤ kc ∧ ks' ≤ ks) (hs : st0 = As.reverse ++ vR b :: st) (hcat : (st.map gcat).sum ≤ 8)
    (kk : ∀ (v : Option gV) (σ' : gMem), PR' v σ' → gE σ σ' → G ω l d (kc - kc') (ks - ks') μ σ0 PR PX (pc + 3) lv (v.toList ++ st) σ')
    (kx : ∀ (E : String) (σ' : gMem), PX' E σ' → gE σ σ' → GX ω l d (kc - kc') (ks - ks') μ σ0 PR PX pc lv st E σ') : G ω l d kc ks μ σ0 PR PX pc lv st0 σ := by
  intro p e s m args below meth c H locs cells slots mc ms ls hC hK hS hA hE hz hr hl
  obtain ⟨hb0, hrec⟩ := grecv hK hS ht hc
  refine g_afterX hC hK hA hE hz hr hl hkc (vx_runV (As := As.map gval) (rest := st.map gval) ⟨hC.1, hC.2.1, hC.2.2.1, hC.2.2.2.2.2.1, hC.2.2.2.2.2.2.1⟩ hM (cwV As.length hC.2.2.2.2.2.2.1 (lw_V q1 q2 q3 q4 q5) rfl rfl rfl ⟨rfl, hy⟩ ⟨hdm, ?_⟩) ⟨gP_blind _ _ _, hrec, ?_⟩ rfl (List.length_map _) hl.1 (gsd hb0 hs) (lv_room (by rw [gcats]; exact hcat)) hd ⟨?_, ?_⟩) kk kx
  · show 8 + (nL' + 11) + 64 * d' ≤ 64 * d
    omega
  · have := gPre hK hS hA hz (vR b :: As)
    rw [List.map_cons, show gval (vR b) = .ref (b - 1) from grv_pos hb0] at this
    exact this
  · show cells + kc' ≤ mc
    omega
  · show slots + ks' ≤ ms
    omega
theorem g_xcallVW {hh0 : Nat × Nat × Nat × Nat} {hh : List (Nat × Nat × Nat × Nat)} (hM : gC ω l d' kc' ks' (y', cc', nL', ret', hh0 :: hh) (vR b :: As) σ PR' PX') (q1 : Cond.methodLink μ.1.cls idx y' ∈ lw_all) (q2 : Cond.instanceMethod y' ∈ lw_all) (q3 : Cond.selects y'.cls y' y' ∈ lw_all) (q4 : Cond.initialized y'.cls ∈ lw_all) (q5 : Cond.codeWith y' cc' nL' ret' (hh0 :: hh) ∈ lw_all) (hd : decode μ.2.1 pc = .ok (.invokevirtual idx, 3))
    (hc : gcl[ci]? = some (y'.cls, T, N)) (ht : mT σ b = ci + 1) (hy : y'.cls ≠ "java/lang/invoke/MethodHandle" ∧ y'.cls ≠ "java/lang/invoke/VarHandle" ∧ (parseMethodDescriptor y'.desc).map (fun d => d.parameters.length) = some As.length) (hdm : d' + 1 ≤ d) (hnl : nL' ≤ 45) (hkc : kc' ≤ kc ∧ ks' ≤ ks) (hs : st0 = As.reverse ++ vR b :: st) (hcat : (st.map gcat).sum ≤ 8)
    (kk : ∀ (v : Option gV) (σ' : gMem), PR' v σ' → gE σ σ' → G ω l d (kc - kc') (ks - ks') μ σ0 PR PX (pc + 3) lv (v.toList ++ st) σ')
    (kx : ∀ (E : String) (σ' : gMem), PX' E σ' → gE σ σ' → GX ω l d (kc - kc') (ks - ks') μ σ0 PR PX pc lv st E σ') : G ω l d kc ks μ σ0 PR PX pc lv st0 σ := by
  intro p e s m args below meth c H locs cells slots mc ms ls hC hK hS hA hE hz hr hl
  obtain ⟨hb0, hrec⟩ := grecv hK hS ht hc
  refine g_afterX hC hK hA hE hz hr hl hkc (vx_runVX (As := As.map gval) (rest := st.map gval) ⟨hC.1, hC.2.1, hC.2.2.1, hC.2.2.2.2.2.1, hC.2.2.2.2.2.2.1⟩ hM (vx_cwVW As.length hC.2.2.2.2.2.2.1 (lw_VW q1 q2 q3 q4 q5) rfl rfl rfl ⟨rfl, hy⟩ ⟨hdm, ?_⟩) ⟨gP_blind _ _ _, hrec, ?_⟩ rfl (List.length_map _) hl.1 (gsd hb0 hs) (lv_room (by rw [gcats]; exact hcat)) hd ⟨?_, ?_⟩) kk kx
  · show 8 + (nL' + 11) + 64 * d' ≤ 64 * d
    omega
  · have := gPre hK hS hA hz (vR b :: As)
    rw [List.map_cons, show gval (vR b) = .ref (b - 1) from grv_pos hb0] at this
    exact this
  · show cells + kc' ≤ mc
    omega
  · show slots + ks' ≤ ms
    omega
end GExc

