/-! ===== memory: fields, arrays ===== -/
/-- a class of the table: its fields' words, types, names apart -/
def gCk (ci : Nat) (C : String) (T : u_T) (N : Nat) : Prop := gcl[ci]? = some (C, T, N) ∧ (∀ w ∈ u_ws C T N, w ∈ lw_all) ∧ (∀ k, k < N → parseFieldDescriptor (T k).2.2.1 = some (gfty ci k)) ∧ (∀ a, a < N → ∀ b, b < N → a ≠ b → (T a).2.1 ≠ (T b).2.1)
theorem gcl_lt {ci : Nat} {r : vw_C} (h : gcl[ci]? = some r) : ci < 25 := by
  have := (List.getElem?_eq_some_iff.mp h).1
  simpa [gcl] using this
/-- one slot of one cell is another -/
def gOne (σ σ' : gMem) (a k : Nat) : Prop := (∀ (b j : Nat), ¬ (b = a ∧ j = k) → σ'.1 b j = σ.1 b j ∧ σ'.2.1 b j = σ.2.1 b j ∧ σ'.2.2.1 b j = σ.2.2.1 b j) ∧ σ'.2.2.2 = σ.2.2.2
theorem gOne_wI (σ : gMem) (a k : Nat) (x : Int) : gOne σ (wI σ a k x) a k := ⟨fun b j h => ⟨by show gu2 _ _ _ _ _ _ = _; unfold gu2; rw [if_neg h], rfl, rfl⟩, rfl⟩
theorem gOne_wL (σ : gMem) (a k : Nat) (x : Int) : gOne σ (wL σ a k x) a k := ⟨fun b j h => ⟨rfl, by show gu2 _ _ _ _ _ _ = _; unfold gu2; rw [if_neg h], rfl⟩, rfl⟩
theorem gOne_wR (σ : gMem) (a k x : Nat) : gOne σ (wR σ a k x) a k := ⟨fun b j h => ⟨rfl, rfl, by show gu2 _ _ _ _ _ _ = _; unfold gu2; rw [if_neg h]⟩, rfl⟩
theorem gfv_eq {σ σ' : gMem} {b j : Nat} (h : σ'.1 b j = σ.1 b j ∧ σ'.2.1 b j = σ.2.1 b j ∧ σ'.2.2.1 b j = σ.2.2.1 b j) (ty : FieldType) : gfv σ' ty b j = gfv σ ty b j := by
  obtain ⟨h1, h2, h3⟩ := h
  unfold gfv mR
  rw [h1, h2, h3]
theorem gOne.v {σ σ' : gMem} {a k : Nat} (h : gOne σ σ' a k) (ty : FieldType) (b j : Nat) (q : ¬ (b = a ∧ j = k)) : gfv σ' ty b j = gfv σ ty b j := gfv_eq (h.1 b j q) ty
theorem gOne.T {σ σ' : gMem} {a k : Nat} (h : gOne σ σ' a k) (b : Nat) : mT σ' b = mT σ b := by unfold mT; rw [h.2]
theorem gOne.N {σ σ' : gMem} {a k : Nat} (h : gOne σ σ' a k) (b : Nat) : mN σ' b = mN σ b := by unfold mN; rw [h.2]
theorem gOne.Z {σ σ' : gMem} {a k : Nat} (h : gOne σ σ' a k) : mZ σ' = mZ σ := by unfold mZ; rw [h.2]
theorem gOne.ok {σ σ' : gMem} {a k : Nat} (h : gOne σ σ' a k) (o : gOk σ) : gOk σ' := fun b hb => by rw [h.T]; exact o b (by rw [← h.Z]; exact hb)
theorem gOne.E {σ0 σ σ' : gMem} {a k : Nat} (h : gOne σ σ' a k) (hE : gE σ0 σ) : gE σ0 σ' := ⟨by rw [h.Z]; exact hE.1, by unfold mS; rw [h.2]; exact hE.2.1, fun b hb => by rw [h.T, h.N]; exact hE.2.2.1 b hb, fun o => h.ok (hE.2.2.2 o)⟩
/-- cells of some addresses have changed, their tags and lengths not -/
def gMany (σ σ' : gMem) (a : Nat) : Prop := (∀ (b j : Nat), b ≠ a → σ'.1 b j = σ.1 b j ∧ σ'.2.1 b j = σ.2.1 b j ∧ σ'.2.2.1 b j = σ.2.2.1 b j) ∧ σ'.2.2.2 = σ.2.2.2
theorem gOne.many {σ σ' : gMem} {a k : Nat} (h : gOne σ σ' a k) : gMany σ σ' a := ⟨fun b j q => h.1 b j (fun z => q z.1), h.2⟩
theorem gMany.T {σ σ' : gMem} {a : Nat} (h : gMany σ σ' a) (b : Nat) : mT σ' b = mT σ b := by unfold mT; rw [h.2]
theorem gMany.N {σ σ' : gMem} {a : Nat} (h : gMany σ σ' a) (b : Nat) : mN σ' b = mN σ b := by unfold mN; rw [h.2]
theorem gMany.Z {σ σ' : gMem} {a : Nat} (h : gMany σ σ' a) : mZ σ' = mZ σ := by unfold mZ; rw [h.2]
theorem gMany.ok {σ σ' : gMem} {a : Nat} (h : gMany σ σ' a) (o : gOk σ) : gOk σ' := fun b hb => by rw [h.T]; exact o b (by rw [← h.Z]; exact hb)
theorem gMany.E {σ0 σ σ' : gMem} {a : Nat} (h : gMany σ σ' a) (hE : gE σ0 σ) : gE σ0 σ' := ⟨by rw [h.Z]; exact hE.1, by unfold mS; rw [h.2]; exact hE.2.1, fun b hb => by rw [h.T, h.N]; exact hE.2.2.1 b hb, fun o => h.ok (hE.2.2.2 o)⟩
theorem gAt_off {ω : gW} {σ σ' : gMem} {H H' : Heap} {b : Nat} (hv : ∀ j, σ'.1 b j = σ.1 b j ∧ σ'.2.1 b j = σ.2.1 b j ∧ σ'.2.2.1 b j = σ.2.2.1 b j) (hT : mT σ' b = mT σ b) (hN : mN σ' b = mN σ b) (hH : H'[b - 1]? = H[b - 1]?) (hA : gAt ω σ H b) : gAt ω σ' H' b := by
  refine ⟨fun ci r ht hc => ?_, fun j ht => ?_⟩
  · rw [hT] at ht
    exact ((hA.1 ci r ht hc).kept hH).to (fun j _ => (gfv_eq (hv j) _).symm)
  · rw [hT] at ht
    rw [hH, hA.2 j ht, hN]
    congr 2
    funext i
    exact (gfv_eq (hv i) _).symm
theorem gOAt_off {ω : gW} {σ σ' : gMem} {b : Nat} (hv : ∀ j, σ'.1 b j = σ.1 b j ∧ σ'.2.1 b j = σ.2.1 b j ∧ σ'.2.2.1 b j = σ.2.2.1 b j) (hT : mT σ' b = mT σ b) (hN : mN σ' b = mN σ b) (hA : gOAt ω σ b) : gOAt ω σ' b := by
  have e1 : ∀ j, mI σ' b j = mI σ b j := fun j => congrArg Int32.toInt (hv j).1
  have e2 : ∀ j, mR σ' b j = mR σ b j := fun j => (hv j).2.2
  unfold gOAt at *
  rw [hT, hN]
  simp only [e1, e2]
  exact hA
theorem gSim_many {ω : gW} {σ σ' : gMem} {H H' : Heap} {a : Nat} (h : gMany σ σ' a) (hS : gSim ω σ H) (hz : H'.size = H.size) (ho : ∀ q, q ≠ a - 1 → H'[q]? = H[q]?) (h1 : mT σ a ≠ 0) (h2 : ¬ gOld (mT σ a)) (ha : gAt ω σ' H' a) (hb : mT σ a = 102 → ∀ i, -128 ≤ mI σ' a i ∧ mI σ' a i ≤ 127) : gSim ω σ' H' := by
  refine ⟨by rw [h.Z, hz]; exact hS.1, fun b hb => ?_, fun b => by rw [h.N]; exact hS.2.2.1 b, by rw [hz]; exact hS.2.2.2.1, fun b p q => by rw [h.T] at p q; exact hS.2.2.2.2.1 b p q, ⟨fun j => ?_, fun b q => ?_⟩, fun b i q => ?_⟩
  · rw [h.T] at hb
    obtain ⟨k1, k2, k3⟩ := hS.2.1 b hb
    refine ⟨?_, k2, by rw [hz]; exact k3⟩
    by_cases q : b = a
    · subst q; exact ha
    · exact gAt_off (fun j => h.1 b j q) (h.T b) (h.N b) (ho (b - 1) (by have := (hS.2.1 a h1).2.1; omega)) k1
  · have q : (0 : Nat) ≠ a := fun e => (hS.2.1 a h1).2.1 e.symm
    show σ'.2.2.1 0 j = _
    rw [(h.1 0 j q).2.2]
    exact hS.2.2.2.2.2.1.1 j
  · rw [h.T] at q
    obtain ⟨k1, k2⟩ := hS.2.2.2.2.2.1.2 b q
    have n : b ≠ a := fun e => h2 (by rw [← e]; exact q)
    exact ⟨k1, gOAt_off (fun j => h.1 b j n) (h.T b) (h.N b) k2⟩
  · rw [h.T] at q
    by_cases n : b = a
    · subst n; exact hb q i
    · have e : mI σ' b i = mI σ b i := congrArg Int32.toInt (h.1 b i n).1
      rw [e]
      exact hS.2.2.2.2.2.2 b i q
theorem gSim_one {ω : gW} {σ σ' : gMem} {H H' : Heap} {a k : Nat} (h : gOne σ σ' a k) (hS : gSim ω σ H) (hz : H'.size = H.size) (ho : ∀ q, q ≠ a - 1 → H'[q]? = H[q]?) (h1 : mT σ a ≠ 0) (h2 : ¬ gOld (mT σ a)) (ha : gAt ω σ' H' a) (hb : mT σ a = 102 → ∀ i, -128 ≤ mI σ' a i ∧ mI σ' a i ≤ 127) : gSim ω σ' H' := gSim_many h.many hS hz ho h1 h2 ha hb
/-- a field of an object is written -/
theorem gAt_put {ω : gW} {σ σ' : gMem} {H' : Heap} {a k ci : Nat} {C : String} {T : u_T} {N : Nat} {cell : Cell} {v : Value} (hk : k < N) (h : gOne σ σ' a k) (hc : gcl[ci]? = some (C, T, N)) (ht : mT σ a = ci + 1)
    (hap : ∀ x y, x < N → y < N → x ≠ y → (ω.D.2 ci) x ≠ (ω.D.2 ci) y) (q2 : cell.cls = ω.D.1 ci) (q3 : cell.vm = .none) (q4 : ∀ j, j < N → cell.slots[ω.D.2 ci j]? = some (gfv σ (gfty ci j) a j))
    (e1 : H'[a - 1]? = some (cell.setSlot (ω.D.2 ci k) v)) (hv : gfv σ' (gfty ci k) a k = v) : gAt ω σ' H' a := by
  have hlt := gcl_lt hc
  refine ⟨fun cj r hj hr => ?_, fun j hj => ?_⟩
  · rw [h.T, ht] at hj
    have e : cj = ci := by omega
    subst e
    have er : r = (C, T, N) := Option.some.inj (hr.symm.trans hc)
    subst er
    refine t_OB.to (V := updV (fun j => gfv σ (gfty cj j) a j) k v) ⟨_, e1, q2, q3, t_set q4 hap hk v⟩ (fun j _ => ?_)
    unfold updV
    by_cases q : j = k
    · subst q; rw [if_pos rfl]; exact hv.symm
    · rw [if_neg q]; exact (h.v _ a j (fun z => q z.2)).symm
  · rw [h.T, ht] at hj
    omega
theorem gS_put {ω : gW} {H0 H H' : Heap} {locs : List Loc} {a i : Nat} (hA : va_S (fun q => ω.lo ≤ q) H0 H locs) (z : H'.size = H.size) (ho : ∀ q, q ≠ a → H'[q]? = H[q]?) (ha : ω.lo ≤ a) : va_S (fun q => ω.lo ≤ q) H0 H' (locs ++ [⟨a, i⟩]) := by
  refine ⟨by rw [z]; exact hA.1, fun q h1 h2 => ?_, fun q hq => ?_⟩
  · rw [ho q (fun e => h2 (by rw [e]; exact ha))]
    exact hA.2.1 q h1 h2
  · rcases List.mem_append.mp hq with h | h
    · exact hA.2.2 q h
    · rw [List.mem_singleton.mp h]; exact ha
section GMem
variable {ω : gW} {l : Launch} {d kc ks : Nat} {μ : gM} {σ0 σ : gMem} {PR : Option gV → gMem → Prop} {PX : String → gMem → Prop} {pc : Nat} {lv lv' : List (Nat × gV)} {st : List gV}
variable {ci k idx a : Nat} {C : String} {T : u_T} {N : Nat}
theorem g_get {v : gV} (hk : gCk ci C T N) (hn : k < N) (hq : Cond.fieldLink μ.1.cls idx (T k).1 (T k).2.1 (T k).2.2.1 ∈ lw_all) (hv : gfv σ (gfty ci k) a k = gval v) (hd : decode μ.2.1 pc = .ok (.getfield idx, 3)) (ht : mT σ a = ci + 1)
    (kk : G ω l d kc ks μ σ0 PR PX (pc + 3) lv (v :: st) σ) : G ω l d kc ks μ σ0 PR PX pc lv (vR a :: st) σ := by
  intro p e s m args below meth c H locs cells slots mc ms ls hC hK hS hA hE hz hr hl
  have w := kk p e s m args below meth c H locs cells slots mc ms ls hC hK hS hA hE hz hr hl
  obtain ⟨hc, hin, -, -⟩ := hk
  have hT0 : mT σ a ≠ 0 := by rw [ht]; omega
  have hT1 : ¬ gOld (mT σ a) := by rw [ht]; have := gcl_lt hc; omega
  obtain ⟨⟨hO, -⟩, ha0, -⟩ := hS.2.1 a hT0
  obtain ⟨cell, q1, q2, q3, q4⟩ := hO ci _ ht hc
  obtain ⟨hSl, hfc, kC, hkC, hkind⟩ := hK.1.1 ci _ hc
  obtain ⟨cf, kf, fi, f, hi, hsl⟩ := hSl k hn
  rw [List.map_cons, show gval (vR a) = .ref (a - 1) from grv_pos ha0]
  refine W.getf hC.1 hC.2.1 hC.2.2.2.2.2.1 (hC.2.2.2.2.2.2.1 _ hq) hi (u_facts hfc hkC (u_lays hC.2.2.2.2.2.2.1 hin hn) hi).1 q1 (by rw [q3]; exact fun h => by cases h) (v := gval v) ?_ rfl rfl hd w
  rw [hsl]; exact (q4 k hn).trans (congrArg some hv)
theorem g_getN {v : gV} {host : String} (hk : gCk ci C T N) (hn : k < N) (hq : Cond.fieldLinkNest μ.1.cls idx (T k).1 (T k).2.1 (T k).2.2.1 host ∈ lw_tbl) (hv : gfv σ (gfty ci k) a k = gval v) (hd : decode μ.2.1 pc = .ok (.getfield idx, 3)) (ht : mT σ a = ci + 1)
    (kk : G ω l d kc ks μ σ0 PR PX (pc + 3) lv (v :: st) σ) : G ω l d kc ks μ σ0 PR PX pc lv (vR a :: st) σ := by
  intro p e s m args below meth c H locs cells slots mc ms ls hC hK hS hA hE hz hr hl
  have w := kk p e s m args below meth c H locs cells slots mc ms ls hC hK hS hA hE hz hr hl
  obtain ⟨hc, hin, -, -⟩ := hk
  have hT0 : mT σ a ≠ 0 := by rw [ht]; omega
  have hT1 : ¬ gOld (mT σ a) := by rw [ht]; have := gcl_lt hc; omega
  obtain ⟨⟨hO, -⟩, ha0, -⟩ := hS.2.1 a hT0
  obtain ⟨cell, q1, q2, q3, q4⟩ := hO ci _ ht hc
  obtain ⟨hSl, hfc, kC, hkC, hkind⟩ := hK.1.1 ci _ hc
  obtain ⟨cf, kf, fi, f, hi, hsl⟩ := hSl k hn
  rw [List.map_cons, show gval (vR a) = .ref (a - 1) from grv_pos ha0]
  refine va_Wgetf hC.1 hC.2.1 hC.2.2.2.2.2.1 (va_Nw.use rfl (hK.2.1 _ hq rfl)) hi (u_facts hfc hkC (u_lays hC.2.2.2.2.2.2.1 hin hn) hi).1 q1 (by rw [q3]; exact fun h => by cases h) (v := gval v) ?_ rfl rfl hd w
  rw [hsl]; exact (q4 k hn).trans (congrArg some hv)
theorem g_put {v : gV} {σ' : gMem} (hk : gCk ci C T N) (hn : k < N) (hq : Cond.fieldLink μ.1.cls idx (T k).1 (T k).2.1 (T k).2.2.1 ∈ lw_all) (hf : (T k).2.2.2 = false) (h1 : gOne σ σ' a k) (hv : gfv σ' (gfty ci k) a k = gval v) (hw : narrow (gfty ci k) (gval v) = gval v) (hfit : fits (gfty ci k) (gval v) = true) (hd : decode μ.2.1 pc = .ok (.putfield idx, 3)) (ht : mT σ a = ci + 1)
    (kk : G ω l d kc ks μ σ0 PR PX (pc + 3) lv st σ') : G ω l d kc ks μ σ0 PR PX pc lv (v :: vR a :: st) σ := by
  intro p e s m args below meth c H locs cells slots mc ms ls hC hK hS hA hE hz hr hl
  obtain ⟨hc, hin, hty, hnm⟩ := hk
  have hap := va_apart (own := C) hC.2.2.2.2.2.2.1 hin (gfty ci) hty hnm hK.1 hc
  have hT0 : mT σ a ≠ 0 := by rw [ht]; omega
  have hT1 : ¬ gOld (mT σ a) := by rw [ht]; have := gcl_lt hc; omega
  obtain ⟨⟨hO, -⟩, ha0, -⟩ := hS.2.1 a hT0
  obtain ⟨cell, q1, q2, q3, q4⟩ := hO ci _ ht hc
  obtain ⟨hSl, hfc, kC, hkC, hkind⟩ := hK.1.1 ci _ hc
  obtain ⟨cf, kf, fi, f, hi, hsl⟩ := hSl k hn
  have hlay := hC.2.2.2.2.2.2.1 _ (hin _ (u_in_lay hn))
  unfold u_lay at hlay
  rw [if_neg (by rw [hf]; decide)] at hlay
  have hst := (u_facts hfc hkC (u_lays hC.2.2.2.2.2.2.1 hin hn) hi).1
  have h6 := u_store hfc hkC hkind hlay hi (hty k hn) hw hfit
  rw [List.map_cons, List.map_cons, show gval (vR a) = .ref (a - 1) from grv_pos ha0]
  refine W.putK hC.1 hC.2.1 (f := f) ⟨hC.2.2.2.2.2.1, hC.2.2.2.2.2.2.1 _ hq, ⟨_, _, _, hi⟩, hst⟩ (by rw [q2]; exact h6) q1 q3 (by rw [hsl]; exact k2_hasslot (q4 k hn)) rfl rfl hd fun H' e1 e2 e3 => ?_
  rw [hsl] at e1
  exact kk p e s m args below meth c H' _ cells slots mc ms ls hC hK (gSim_one h1 hS e2 e3 hT0 hT1 (gAt_put hn h1 hc ht hap q2 q3 q4 e1 hv) (fun z => by rw [ht] at z; have := gcl_lt hc; omega)) (gS_put hA e2 e3 (hS.lo hT0 hT1)) (h1.E hE) hz hr hl
theorem g_putN {v : gV} {σ' : gMem} {host : String} (hk : gCk ci C T N) (hn : k < N) (hq : Cond.fieldLinkNest μ.1.cls idx (T k).1 (T k).2.1 (T k).2.2.1 host ∈ lw_tbl) (hf : (T k).2.2.2 = false) (h1 : gOne σ σ' a k) (hv : gfv σ' (gfty ci k) a k = gval v) (hw : narrow (gfty ci k) (gval v) = gval v) (hfit : fits (gfty ci k) (gval v) = true) (hd : decode μ.2.1 pc = .ok (.putfield idx, 3)) (ht : mT σ a = ci + 1)
    (kk : G ω l d kc ks μ σ0 PR PX (pc + 3) lv st σ') : G ω l d kc ks μ σ0 PR PX pc lv (v :: vR a :: st) σ := by
  intro p e s m args below meth c H locs cells slots mc ms ls hC hK hS hA hE hz hr hl
  obtain ⟨hc, hin, hty, hnm⟩ := hk
  have hap := va_apart (own := C) hC.2.2.2.2.2.2.1 hin (gfty ci) hty hnm hK.1 hc
  have hT0 : mT σ a ≠ 0 := by rw [ht]; omega
  have hT1 : ¬ gOld (mT σ a) := by rw [ht]; have := gcl_lt hc; omega
  obtain ⟨⟨hO, -⟩, ha0, -⟩ := hS.2.1 a hT0
  obtain ⟨cell, q1, q2, q3, q4⟩ := hO ci _ ht hc
  obtain ⟨hSl, hfc, kC, hkC, hkind⟩ := hK.1.1 ci _ hc
  obtain ⟨cf, kf, fi, f, hi, hsl⟩ := hSl k hn
  have hlay := hC.2.2.2.2.2.2.1 _ (hin _ (u_in_lay hn))
  unfold u_lay at hlay
  rw [if_neg (by rw [hf]; decide)] at hlay
  have hst := (u_facts hfc hkC (u_lays hC.2.2.2.2.2.2.1 hin hn) hi).1
  have h6 := u_store hfc hkC hkind hlay hi (hty k hn) hw hfit
  rw [List.map_cons, List.map_cons, show gval (vR a) = .ref (a - 1) from grv_pos ha0]
  refine va_WputK hC.1 hC.2.1 hC.2.2.2.2.2.1 (va_Nw.use rfl (hK.2.1 _ hq rfl)) hi hst (by rw [q2]; exact h6) q1 q3 (by rw [hsl]; exact k2_hasslot (q4 k hn)) rfl rfl hd fun H' e1 e2 e3 => ?_
  rw [hsl] at e1
  exact kk p e s m args below meth c H' _ cells slots mc ms ls hC hK (gSim_one h1 hS e2 e3 hT0 hT1 (gAt_put hn h1 hc ht hap q2 q3 q4 e1 hv) (fun z => by rw [ht] at z; have := gcl_lt hc; omega)) (gS_put hA e2 e3 (hS.lo hT0 hT1)) (h1.E hE) hz hr hl
theorem g_putF {v : gV} {σ' : gMem} (hk : gCk ci C T N) (hn : k < N) (hq : Cond.fieldLink μ.1.cls idx (T k).1 (T k).2.1 (T k).2.2.1 ∈ lw_all) (hf : (T k).2.2.2 = true) (hnm : μ.1.name = "<init>") (hdecl : (T k).1 = μ.1.cls) (h1 : gOne σ σ' a k) (hv : gfv σ' (gfty ci k) a k = gval v) (hw : narrow (gfty ci k) (gval v) = gval v) (hfit : fits (gfty ci k) (gval v) = true) (hd : decode μ.2.1 pc = .ok (.putfield idx, 3)) (ht : mT σ a = ci + 1)
    (kk : G ω l d kc ks μ σ0 PR PX (pc + 3) lv st σ') : G ω l d kc ks μ σ0 PR PX pc lv (v :: vR a :: st) σ := by
  intro p e s m args below meth c H locs cells slots mc ms ls hC hK hS hA hE hz hr hl
  obtain ⟨hc, hin, hty, hnm2⟩ := hk
  have hap := va_apart (own := C) hC.2.2.2.2.2.2.1 hin (gfty ci) hty hnm2 hK.1 hc
  have hT0 : mT σ a ≠ 0 := by rw [ht]; omega
  have hT1 : ¬ gOld (mT σ a) := by rw [ht]; have := gcl_lt hc; omega
  obtain ⟨⟨hO, -⟩, ha0, -⟩ := hS.2.1 a hT0
  obtain ⟨cell, q1, q2, q3, q4⟩ := hO ci _ ht hc
  obtain ⟨hSl, hfc, kC, hkC, hkind⟩ := hK.1.1 ci _ hc
  obtain ⟨cf, kf, fi, f, hi, hsl⟩ := hSl k hn
  have hlay := hC.2.2.2.2.2.2.1 _ (hin _ (u_in_lay hn))
  unfold u_lay at hlay
  rw [if_pos hf] at hlay
  have hst := (u_facts hfc hkC (u_lays hC.2.2.2.2.2.2.1 hin hn) hi).1
  have hcf : m.cls = cf := by
    obtain ⟨_, _, c', _, _, _, -, -, hf', -, -, -, hown2, -⟩ := Cond.laysFinal_spec hlay
    have e1 : c' = cf := by have := hi.symm.trans hf'; simp at this; exact this.1.symm
    rw [hdecl] at hown2
    rw [← e1]; exact Option.some.inj (hC.2.2.2.2.2.1.symm.trans hown2)
  have h6 := u_fits hfc hkC hkind (Or.inr hlay) hi (hty k hn) hw hfit
  rw [List.map_cons, List.map_cons, show gval (vR a) = .ref (a - 1) from grv_pos ha0]
  refine W.putFinK hC.1 hC.2.1 hC.2.2.2.2.2.1 (hC.2.2.2.2.2.2.1 _ hq) hi hst hcf (hC.2.2.2.2.2.2.2.1.trans hnm) (by rw [q2]; exact h6) q1 q3 (by rw [hsl]; exact k2_hasslot (q4 k hn)) rfl rfl hd fun H' e1 e2 e3 => ?_
  rw [hsl] at e1
  exact kk p e s m args below meth c H' _ cells slots mc ms ls hC hK (gSim_one h1 hS e2 e3 hT0 hT1 (gAt_put hn h1 hc ht hap q2 q3 q4 e1 hv) (fun z => by rw [ht] at z; have := gcl_lt hc; omega)) (gS_put hA e2 e3 (hS.lo hT0 hT1)) (h1.E hE) hz hr hl
end GMem
