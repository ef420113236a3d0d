/-! ===== new cells, casts, constants ===== -/
def wX (σ : gMem) (n : Nat) : gMem := (σ.1, (σ.2.1, (σ.2.2.1, (σ.2.2.2.1, (σ.2.2.2.2.1, (mZ σ + 1, mS σ + n))))))
/-- a cell cloned, with a tag -/
def wK (σ : gMem) (a t : Nat) : gMem := ((fun b j => if b = mZ σ then σ.1 a j else σ.1 b j), ((fun b j => if b = mZ σ then σ.2.1 a j else σ.2.1 b j), ((fun b j => if b = mZ σ then σ.2.2.1 a j else σ.2.2.1 b j), ((fun b => if b = mZ σ then t else σ.2.2.2.1 b), ((fun b => if b = mZ σ then mN σ a else σ.2.2.2.2.1 b), (mZ σ + 1, mS σ + mN σ a))))))
/-- an array of r arrays of c contents -/
def wM (σ : gMem) (r c : Nat) : gMem := ((fun b j => if mZ σ ≤ b ∧ b < mZ σ + (1 + r) then 0 else σ.1 b j), ((fun b j => if mZ σ ≤ b ∧ b < mZ σ + (1 + r) then 0 else σ.2.1 b j), ((fun b j => if b = mZ σ then (if j < r then mZ σ + 1 + j else 0) else if mZ σ ≤ b ∧ b < mZ σ + (1 + r) then 0 else σ.2.2.1 b j), ((fun b => if b = mZ σ then 111 else if mZ σ ≤ b ∧ b < mZ σ + (1 + r) then 110 else σ.2.2.2.1 b), ((fun b => if b = mZ σ then r else if mZ σ ≤ b ∧ b < mZ σ + (1 + r) then c else σ.2.2.2.2.1 b), (mZ σ + (1 + r), mS σ + (r + r * c)))))))
/-- n places are copied -/
def wCI (σ : gMem) (a sp b dp n : Nat) : gMem := ((fun q j => if q = b ∧ dp ≤ j ∧ j < dp + n then σ.1 a (sp + (j - dp)) else σ.1 q j), σ.2)
def wCL (σ : gMem) (a sp b dp n : Nat) : gMem := (σ.1, ((fun q j => if q = b ∧ dp ≤ j ∧ j < dp + n then σ.2.1 a (sp + (j - dp)) else σ.2.1 q j), σ.2.2))
def wCR (σ : gMem) (a sp b dp n : Nat) : gMem := (σ.1, (σ.2.1, ((fun q j => if q = b ∧ dp ≤ j ∧ j < dp + n then σ.2.2.1 a (sp + (j - dp)) else σ.2.2.1 q j), σ.2.2.2)))
/-- m new cells, all else as it was -/
def gNew (σ σ' : gMem) (m : Nat) : Prop := (∀ b, (b < mZ σ ∨ mZ σ + m ≤ b) → (∀ j, σ'.1 b j = σ.1 b j ∧ σ'.2.1 b j = σ.2.1 b j ∧ σ'.2.2.1 b j = σ.2.2.1 b j) ∧ mT σ' b = mT σ b ∧ mN σ' b = mN σ b) ∧ mZ σ' = mZ σ + m ∧ mS σ ≤ mS σ'
theorem gNew_N (σ : gMem) (t n : Nat) : gNew σ (wN σ t n) 1 := by
  refine ⟨fun b hb => ?_, rfl, Nat.le_add_right _ _⟩
  have q : ¬ b = mZ σ := by omega
  simp [wN, mT, mN, q]
theorem gNew_X (σ : gMem) (n : Nat) : gNew σ (wX σ n) 1 := ⟨fun b _ => ⟨fun _ => ⟨rfl, rfl, rfl⟩, rfl, rfl⟩, rfl, Nat.le_add_right _ _⟩
theorem gNew_K (σ : gMem) (a t : Nat) : gNew σ (wK σ a t) 1 := by
  refine ⟨fun b hb => ?_, rfl, Nat.le_add_right _ _⟩
  have q : ¬ b = mZ σ := by omega
  simp [wK, mT, mN, q]
theorem gNew_M (σ : gMem) (r c : Nat) : gNew σ (wM σ r c) (1 + r) := by
  refine ⟨fun b hb => ?_, rfl, Nat.le_add_right _ _⟩
  have q : ¬ b = mZ σ := by omega
  have q2 : ¬ (mZ σ ≤ b ∧ b < mZ σ + (1 + r)) := by omega
  simp [wM, mT, mN, q, q2]
theorem gNew.E {σ σ' : gMem} {m : Nat} (h : gNew σ σ' m) (o : gOk σ) : gE σ σ' := by
  refine ⟨by rw [h.2.1]; omega, h.2.2, fun a ha => ?_, fun _ b hb => ?_⟩
  · have : a < mZ σ := Nat.lt_of_not_le fun q => ha (o a q)
    exact (h.1 a (Or.inl this)).2
  · rw [h.2.1] at hb
    exact (h.1 b (Or.inr hb)).2.1.trans (o b (by omega))
theorem gSim_news {ω : gW} {σ σ' : gMem} {H H' : Heap} {m : Nat} (h : gNew σ σ' m) (hS : gSim ω σ H) (hlo : ω.lo ≤ H.size) (hz : H'.size = H.size + m) (ho : ∀ q, q < H.size → H'[q]? = H[q]?)
    (hnew : ∀ b, mZ σ ≤ b → b < mZ σ + m → ¬ gOld (mT σ' b) ∧ (mT σ' b ≠ 0 → gAt ω σ' H' b) ∧ mN σ' b < 2147483648 ∧ (mT σ' b = 102 → ∀ i, -128 ≤ mI σ' b i ∧ mI σ' b i ≤ 127)) : gSim ω σ' H' := by
  have hZ0 := hS.1
  have hpos := hS.2.2.2.1
  refine ⟨by rw [h.2.1, hz, hZ0]; omega, fun b hb => ?_, fun b => ?_, by omega, fun b p q => ?_, ⟨fun j => ?_, fun b q => ?_⟩, fun b i q => ?_⟩
  · by_cases c : mZ σ ≤ b ∧ b < mZ σ + m
    · exact ⟨(hnew b c.1 c.2).2.1 hb, by omega, by omega⟩
    · have u := h.1 b (by omega)
      rw [u.2.1] at hb
      obtain ⟨k1, k2, k3⟩ := hS.2.1 b hb
      exact ⟨gAt_off u.1 u.2.1 u.2.2 (ho (b - 1) k3) k1, k2, by omega⟩
  · by_cases c : mZ σ ≤ b ∧ b < mZ σ + m
    · exact (hnew b c.1 c.2).2.2.1
    · rw [(h.1 b (by omega)).2.2]; exact hS.2.2.1 b
  · by_cases c : mZ σ ≤ b ∧ b < mZ σ + m
    · omega
    · rw [(h.1 b (by omega)).2.1] at p q; exact hS.2.2.2.2.1 b p q
  · show σ'.2.2.1 0 j = _
    rw [((h.1 0 (by omega)).1 j).2.2]
    exact hS.2.2.2.2.2.1.1 j
  · by_cases c : mZ σ ≤ b ∧ b < mZ σ + m
    · exact absurd q (hnew b c.1 c.2).1
    · have u := h.1 b (by omega)
      rw [u.2.1] at q
      obtain ⟨k1, k2⟩ := hS.2.2.2.2.2.1.2 b q
      exact ⟨k1, gOAt_off u.1 u.2.1 u.2.2 k2⟩
  · by_cases c : mZ σ ≤ b ∧ b < mZ σ + m
    · exact (hnew b c.1 c.2).2.2.2 q i
    · have u := h.1 b (by omega)
      rw [u.2.1] at q
      have e : mI σ' b i = mI σ b i := congrArg Int32.toInt (u.1 i).1
      rw [e]
      exact hS.2.2.2.2.2.2 b i q
theorem gS_new {ω : gW} {H0 H H' : Heap} {locs : List Loc} {m : Nat} (hA : va_S (gA ω) H0 H locs) (z : H'.size = H.size + m) (ho : ∀ q, q < H.size → H'[q]? = H[q]?) : va_S (gA ω) H0 H' locs :=
  ⟨Nat.le_trans hA.1 (by omega), fun x h1 h2 => (ho x (Nat.lt_of_lt_of_le h1 hA.1)).trans (hA.2.1 x h1 h2), hA.2.2⟩
def gtyok : FieldType → Bool
  | .int => true
  | .long => true
  | .boolean => true
  | .byte => true
  | .object _ => true
  | .array _ => true
  | _ => false
theorem gfv_zero {σ : gMem} {ty : FieldType} {a k : Nat} (h : gtyok ty = true) (h1 : σ.1 a k = 0) (h2 : σ.2.1 a k = 0) (h3 : σ.2.2.1 a k = 0) : defaultValue ty = gfv σ ty a k := by
  unfold gfv mR
  rw [h1, h2, h3]
  cases ty <;> first | rfl | (simp [gtyok] at h)
section GObj
variable {ω : gW} {l : Launch} {d kc ks : Nat} {μ : gM} {σ0 σ : gMem} {PR : Option gV → gMem → Prop} {PX : String → gMem → Prop} {pc : Nat} {lv lv' : List (Nat × gV)} {st : List gV}
theorem gref {H : Heap} (hS : gSim ω σ H) : gval (vR (mZ σ)) = .ref H.size := by
  rw [hS.1]
  rfl
theorem g_new {ci idx N : Nat} {C : String} {T : u_T} (hk : gCk ci C T N) (hty : (List.range N).all (fun k => gtyok (gfty ci k)) = true) (q1 : Cond.classLink μ.1.cls idx C ∈ lw_all) (q2 : Cond.instantiable C N ∈ lw_all) (q3 : Cond.initialized C ∈ lw_all) (hd : decode μ.2.1 pc = .ok (.new idx, 3)) (hkc : 1 ≤ kc) (hks : N ≤ ks) (hN : N < 2147483648)
    (kk : G ω l d (kc - 1) (ks - N) μ σ0 PR PX (pc + 3) lv (vR (mZ σ) :: st) (wN σ (ci + 1) N)) : G ω l d kc ks μ σ0 PR PX pc lv st σ := by
  intro p e s m args below meth c H locs cells slots mc ms ls hC hK hS hA hE hz hr hl
  obtain ⟨hc, hin, hfd, hnm⟩ := hk
  have hKn := hK.1.1 ci _ hc
  have hci := gcl_lt hc
  refine W.newcK hC.1 hC.2.1 hC.2.2.2.2.2.1 (hC.2.2.2.2.2.2.1 _ q1) (hC.2.2.2.2.2.2.1 _ q2) (hC.2.2.2.2.2.2.1 _ q3) rfl hd (show cells + 1 ≤ mc by omega) (show slots + N ≤ ms by omega) hKn.2.1 rfl fun H1 kC hkC e1 z1 o1 => ?_
  have ob := u_born (gfty ci) hC.2.2.2.2.2.2.1 hin hKn hkC e1 hfd
  have hZ : mZ σ = H.size + 1 := hS.1
  have hZ1 : mZ σ - 1 = H.size := by omega
  have hT : mT (wN σ (ci + 1) N) (mZ σ) = ci + 1 := by show (if mZ σ = mZ σ then _ else _) = _; rw [if_pos rfl]
  have w := kk p e s m args below meth c H1 locs (cells + 1) (slots + N) mc ms ls hC hK
    (gSim_news (gNew_N σ _ _) hS (Nat.le_trans hz hA.1) z1 o1 (fun b h1 h2 => by
      have eb : b = mZ σ := by omega
      subst eb
      refine ⟨by rw [hT]; omega, fun _ => ⟨fun cj r hj hr => ?_, fun j hj => ?_⟩, ?_, fun h => by rw [hT] at h; omega⟩
      · rw [hT] at hj
        have e2 : cj = ci := by omega
        subst e2
        have er : r = (C, T, N) := Option.some.inj (hr.symm.trans hc)
        subst er
        rw [hZ1]
        refine ob.to (fun j hj => ?_)
        have hok : gtyok (gfty cj j) = true := List.all_eq_true.mp hty j (List.mem_range.mpr hj)
        refine gfv_zero hok ?_ ?_ ?_ <;> simp [wN]
      · rw [hT] at hj; omega
      · show (if mZ σ = mZ σ then N else _) < _; rw [if_pos rfl]; exact hN))
    (gS_new hA z1 o1) (hE.tr ((gNew_N σ _ _).E hS.ok)) hz ⟨by omega, by omega⟩ hl
  rw [List.map_cons, gref hS] at w
  exact w
theorem gAt_arr {σ' : gMem} {H' : Heap} {a j n : Nat} {f : Nat → Value} (hT : mT σ' a = 100 + j) (hN : mN σ' a = n) (e1 : H'[a - 1]? = some (arrV (ω.A j) n f)) (hf : ∀ i, i < n → f i = gfv σ' (gaty j) a i) : gAt ω σ' H' a := by
  refine ⟨fun ci r h hr => ?_, fun j2 h => ?_⟩
  · have := gcl_lt hr
    omega
  · have e : j2 = j := by omega
    subst e
    rw [e1, hN]
    refine congrArg some ?_
    unfold arrV
    congr 1
    apply Array.ext
    · simp
    · intro i h1 h2
      simp only [Array.getElem_ofFn]
      exact hf i (by simpa using h1)
theorem g_newarr {j idx : Nat} {n : Int} {ty : FieldType} {atype : ArrayType} (hj : newarray.typeOf atype = ty) (hg : gaty j = ty) (hjl : (∀ ω : gW, (gtys ω)[j]? = some (ω.A j, ty)) ∧ j < 4) (hrf : refKind ty = false) (hok : gtyok ty = true) (hcb : componentBytes ty ≤ 8) (q1 : Cond.arrayClass ty ∈ lw_all) (hd : decode μ.2.1 pc = .ok (.newarray atype, 2)) (hn : 0 ≤ n ∧ n < 1000000) (hkc : 1 ≤ kc) (hks : n.toNat ≤ ks)
    (hra : ∀ (U : State) (cA : ClassId), va_RA U cA ty → U.vm.findClass ("[" ++ ty.toString) = some cA)
    (kk : G ω l d (kc - 1) (ks - n.toNat) μ σ0 PR PX (pc + 2) lv (vR (mZ σ) :: st) (wN σ (100 + j) n.toNat)) : G ω l d kc ks μ σ0 PR PX pc lv (vI n :: st) σ := by
  intro p e s m args below meth c H locs cells slots mc ms ls hC hK hS hA hE hz hr hl
  subst hj
  have hZ : mZ σ = H.size + 1 := hS.1
  have hZ1 : mZ σ - 1 = H.size := by omega
  have hcl : (Int32.ofInt n).toNatClampNeg = n.toNat := Int32.toNatClampNeg_ofInt_of_le (by omega) (by omega)
  have hneg : ¬ Int32.ofInt n < 0 := fun q => by
    rw [Int32.lt_iff_toInt_lt, g32_of (by omega)] at q
    have : (0 : Int32).toInt = 0 := rfl
    omega
  have hbytes : n.toNat * componentBytes (newarray.typeOf atype) ≤ 536870912 := Nat.le_trans (Nat.mul_le_mul (show n.toNat ≤ 1000000 by omega) hcb) (by decide)
  refine va_newaK hC.1 hC.2.1 (hC.2.2.2.2.2.2.1 _ q1) rfl hd (n := Int32.ofInt n) rfl hneg hcl hbytes (show cells + 1 ≤ mc by omega) (show slots + n.toNat ≤ ms by omega) rfl fun H1 cA e1 z1 o1 hAr hfc => ?_
  have hA2 := hra s _ (hK.1.2 j _ (hjl.1 ω)).2
  have ecA : cA = ω.A j := Option.some.inj (hfc.symm.trans hA2)
  subst ecA
  have hT : mT (wN σ (100 + j) n.toNat) (mZ σ) = 100 + j := by show (if mZ σ = mZ σ then _ else _) = _; rw [if_pos rfl]
  have hNN : mN (wN σ (100 + j) n.toNat) (mZ σ) = n.toNat := by show (if mZ σ = mZ σ then n.toNat else _) = _; rw [if_pos rfl]
  have w := kk p e s m args below meth c H1 locs (cells + 1) (slots + n.toNat) mc ms ls hC hK
    (gSim_news (gNew_N σ _ _) hS (Nat.le_trans hz hA.1) z1 o1 (fun b h1 h2 => by
      have eb : b = mZ σ := by omega
      subst eb
      refine ⟨by rw [hT]; omega, fun _ => gAt_arr hT hNN (by rw [hZ1]; exact e1) (fun i hi => ?_), by rw [hNN]; omega, fun _ i => ?_⟩
      · rw [hg]
        refine gfv_zero hok ?_ ?_ ?_ <;> simp [wN]
      · have : mI (wN σ (100 + j) n.toNat) (mZ σ) i = 0 := by unfold mI wN; simp
        rw [this]; decide))
    (gS_new hA z1 o1) (hE.tr ((gNew_N σ _ _).E hS.ok)) hz ⟨by omega, by omega⟩ hl
  rw [List.map_cons, gref hS] at w
  exact w
theorem g_anew {j idx : Nat} {n : Int} {C : String} (hg : gaty j = .object C) (hjl : ∀ ω : gW, (gtys ω)[j]? = some (ω.A j, .object C)) (hC0 : C ∈ gao) (q1 : Cond.classLink μ.1.cls idx C ∈ lw_all) (hd : decode μ.2.1 pc = .ok (.anewarray idx, 3)) (hn : 0 ≤ n ∧ n < 1000000) (hkc : 1 ≤ kc) (hks : n.toNat ≤ ks)
    (kk : G ω l d (kc - 1) (ks - n.toNat) μ σ0 PR PX (pc + 3) lv (vR (mZ σ) :: st) (wN σ (100 + j) n.toNat)) : G ω l d kc ks μ σ0 PR PX pc lv (vI n :: st) σ := by
  intro p e s m args below meth c H locs cells slots mc ms ls hC hK hS hA hE hz hr hl
  have hZ : mZ σ = H.size + 1 := hS.1
  have hZ1 : mZ σ - 1 = H.size := by omega
  have hcl : (Int32.ofInt n).toNatClampNeg = n.toNat := Int32.toNatClampNeg_ofInt_of_le (by omega) (by omega)
  have hneg : ¬ Int32.ofInt n < 0 := fun q => by
    rw [Int32.lt_iff_toInt_lt, g32_of (by omega)] at q
    have : (0 : Int32).toInt = 0 := rfl
    omega
  refine W.anew hC.1 hC.2.1 hC.2.2.2.2.2.1 (hC.2.2.2.2.2.2.1 _ q1) (va_AO.use (hK.2.2.2.1.2.1 C hC0)) rfl hd (n := Int32.ofInt n) rfl hneg (by rw [hcl]; omega) (show cells + 1 ≤ mc by omega) (by rw [hcl]; show slots + n.toNat ≤ ms; omega) fun cA kA comp f1 f2 f3 f4 => ?_
  rw [hcl]
  obtain ⟨-, -, -, -, -, hA2⟩ := (hK.1.2 j _ (hjl ω)).2
  have ecA : cA = ω.A j := Option.some.inj (f1.symm.trans hA2)
  subst ecA
  generalize hH1 : H.push ({ cls := ω.A j, slots := Array.replicate n.toNat .null, vm := .none } : Cell) = H1
  have z1 : H1.size = H.size + 1 := by rw [← hH1, Array.size_push]
  have e1 : H1[H.size]? = some (arrV (ω.A j) n.toNat (fun _ => .null)) := by rw [← hH1, Array.getElem?_push_size, ← arrV_new]
  have o1 : ∀ q : Nat, q < H.size → H1[q]? = H[q]? := fun q hq => by rw [← hH1, Array.getElem?_push, if_neg (Nat.ne_of_lt hq)]
  have hT : mT (wN σ (100 + j) n.toNat) (mZ σ) = 100 + j := by show (if mZ σ = mZ σ then _ else _) = _; rw [if_pos rfl]
  have hNN : mN (wN σ (100 + j) n.toNat) (mZ σ) = n.toNat := by show (if mZ σ = mZ σ then n.toNat else _) = _; rw [if_pos rfl]
  have w := kk p e s m args below meth c H1 locs (cells + 1) (slots + n.toNat) mc ms ls hC hK
    (gSim_news (gNew_N σ _ _) hS (Nat.le_trans hz hA.1) z1 o1 (fun b h1 h2 => by
      have eb : b = mZ σ := by omega
      subst eb
      refine ⟨by rw [hT]; omega, fun _ => gAt_arr hT hNN (by rw [hZ1]; exact e1) (fun i hi => ?_), by rw [hNN]; omega, fun _ i => ?_⟩
      · rw [hg]
        refine gfv_zero (ty := .object C) rfl ?_ ?_ ?_ <;> simp [wN]
      · have : mI (wN σ (100 + j) n.toNat) (mZ σ) i = 0 := by unfold mI wN; simp
        rw [this]; decide))
    (gS_new hA z1 o1) (hE.tr ((gNew_N σ _ _).E hS.ok)) hz ⟨by omega, by omega⟩ hl
  rw [List.map_cons, gref hS] at w
  exact w
end GObj
