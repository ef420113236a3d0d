theorem gidx {i : Int} {n : Nat} (h : 0 ≤ i ∧ i < n) (hn : n < 2147483648) : (Int32.ofInt i).toNatClampNeg = i.toNat ∧ ¬ (Int32.ofInt i < 0 ∨ n ≤ (Int32.ofInt i).toNatClampNeg) := by
  have e : (Int32.ofInt i).toNatClampNeg = i.toNat := Int32.toNatClampNeg_ofInt_of_le (by omega) (by omega)
  refine ⟨e, fun q => ?_⟩
  rcases q with q | q
  · rw [Int32.lt_iff_toInt_lt, g32_of (by omega)] at q
    have : (0 : Int32).toInt = 0 := rfl
    omega
  · rw [e] at q; omega
theorem gAt_ast {ω : gW} {σ σ' : gMem} {H' : Heap} {a k j : Nat} {v : Value} (h : gOne σ σ' a k) (ht : mT σ a = 100 + j) (e1 : H'[a - 1]? = some ((arrV (ω.A j) (mN σ a) (fun i => gfv σ (gaty j) a i)).setSlot k v)) (hv : gfv σ' (gaty j) a k = v) : gAt ω σ' H' a := by
  refine ⟨fun ci r hj hr => ?_, fun j2 hj => ?_⟩
  · rw [h.T, ht] at hj
    have := gcl_lt hr
    omega
  · rw [h.T, ht] at hj
    have e : j2 = j := by omega
    subst e
    rw [e1, arrV_store, h.N]
    congr 2
    funext i
    unfold updV
    by_cases q : i = k
    · subst q; rw [if_pos rfl]; exact hv.symm
    · rw [if_neg q]; exact (h.v _ a i (fun z => q z.2)).symm
theorem gArr {ω : gW} {σ : gMem} {H : Heap} {a j : Nat} (hS : gSim ω σ H) (ht : mT σ a = 100 + j) : H[a - 1]? = some (arrV (ω.A j) (mN σ a) (fun i => gfv σ (gaty j) a i)) ∧ a ≠ 0 ∧ a - 1 < H.size := by
  obtain ⟨⟨-, h⟩, h2, h3⟩ := hS.2.1 a (by rw [ht]; omega)
  exact ⟨h j ht, h2, h3⟩
section GMem2
variable {ω : gW} {l : Launch} {d kc ks : Nat} {μ : gM} {σ0 σ : gMem} {PR : Option gV → gMem → Prop} {PX : String → gMem → Prop} {pc : Nat} {lv lv' : List (Nat × gV)} {st : List gV}
variable {ci k idx a : Nat} {C : String} {T : u_T} {N : Nat}
theorem g_geti (hk : gCk ci C T N) (hn : k < N) (hq : Cond.fieldLink μ.1.cls idx (T k).1 (T k).2.1 (T k).2.2.1 ∈ lw_all) (hy : ∀ σ : gMem, gfv σ (gfty ci k) a k = .int (σ.1 a k)) (hd : decode μ.2.1 pc = .ok (.getfield idx, 3)) (ht : mT σ a = ci + 1) (kk : g32 (mI σ a k) → G ω l d kc ks μ σ0 PR PX (pc + 3) lv (vI (mI σ a k) :: st) σ) : G ω l d kc ks μ σ0 PR PX pc lv (vR a :: st) σ := g_get (v := vI (mI σ a k)) hk hn hq ((hy σ).trans (congrArg Value.int (mI_of σ a k).symm)) hd ht (kk (mI_rng σ a k))
theorem g_getl (hk : gCk ci C T N) (hn : k < N) (hq : Cond.fieldLink μ.1.cls idx (T k).1 (T k).2.1 (T k).2.2.1 ∈ lw_all) (hy : ∀ σ : gMem, gfv σ (gfty ci k) a k = .long (σ.2.1 a k)) (hd : decode μ.2.1 pc = .ok (.getfield idx, 3)) (ht : mT σ a = ci + 1) (kk : g64 (mL σ a k) → G ω l d kc ks μ σ0 PR PX (pc + 3) lv (vL (mL σ a k) :: st) σ) : G ω l d kc ks μ σ0 PR PX pc lv (vR a :: st) σ := g_get (v := vL (mL σ a k)) hk hn hq ((hy σ).trans (congrArg Value.long (mL_of σ a k).symm)) hd ht (kk (mL_rng σ a k))
theorem g_getr (hk : gCk ci C T N) (hn : k < N) (hq : Cond.fieldLink μ.1.cls idx (T k).1 (T k).2.1 (T k).2.2.1 ∈ lw_all) (hy : ∀ σ : gMem, gfv σ (gfty ci k) a k = grv (mR σ a k)) (hd : decode μ.2.1 pc = .ok (.getfield idx, 3)) (ht : mT σ a = ci + 1) (kk : G ω l d kc ks μ σ0 PR PX (pc + 3) lv (vR (mR σ a k) :: st) σ) : G ω l d kc ks μ σ0 PR PX pc lv (vR a :: st) σ := g_get (v := vR (mR σ a k)) hk hn hq (hy σ) hd ht kk
theorem g_getiN (hk : gCk ci C T N) (hn : k < N) {host : String} (hq : Cond.fieldLinkNest μ.1.cls idx (T k).1 (T k).2.1 (T k).2.2.1 host ∈ lw_tbl) (hy : ∀ σ : gMem, gfv σ (gfty ci k) a k = .int (σ.1 a k)) (hd : decode μ.2.1 pc = .ok (.getfield idx, 3)) (ht : mT σ a = ci + 1) (kk : g32 (mI σ a k) → G ω l d kc ks μ σ0 PR PX (pc + 3) lv (vI (mI σ a k) :: st) σ) : G ω l d kc ks μ σ0 PR PX pc lv (vR a :: st) σ := g_getN (v := vI (mI σ a k)) hk hn hq ((hy σ).trans (congrArg Value.int (mI_of σ a k).symm)) hd ht (kk (mI_rng σ a k))
theorem g_getlN (hk : gCk ci C T N) (hn : k < N) {host : String} (hq : Cond.fieldLinkNest μ.1.cls idx (T k).1 (T k).2.1 (T k).2.2.1 host ∈ lw_tbl) (hy : ∀ σ : gMem, gfv σ (gfty ci k) a k = .long (σ.2.1 a k)) (hd : decode μ.2.1 pc = .ok (.getfield idx, 3)) (ht : mT σ a = ci + 1) (kk : g64 (mL σ a k) → G ω l d kc ks μ σ0 PR PX (pc + 3) lv (vL (mL σ a k) :: st) σ) : G ω l d kc ks μ σ0 PR PX pc lv (vR a :: st) σ := g_getN (v := vL (mL σ a k)) hk hn hq ((hy σ).trans (congrArg Value.long (mL_of σ a k).symm)) hd ht (kk (mL_rng σ a k))
theorem g_getrN (hk : gCk ci C T N) (hn : k < N) {host : String} (hq : Cond.fieldLinkNest μ.1.cls idx (T k).1 (T k).2.1 (T k).2.2.1 host ∈ lw_tbl) (hy : ∀ σ : gMem, gfv σ (gfty ci k) a k = grv (mR σ a k)) (hd : decode μ.2.1 pc = .ok (.getfield idx, 3)) (ht : mT σ a = ci + 1) (kk : G ω l d kc ks μ σ0 PR PX (pc + 3) lv (vR (mR σ a k) :: st) σ) : G ω l d kc ks μ σ0 PR PX pc lv (vR a :: st) σ := g_getN (v := vR (mR σ a k)) hk hn hq (hy σ) hd ht kk
theorem gu2_s {α : Type} (f : Nat → Nat → α) (a k : Nat) (x : α) : gu2 f a k x a k = x := by unfold gu2; rw [if_pos ⟨rfl, rfl⟩]
theorem gnz {x : Int} (h : x = 0 ∨ x = 1) : narrow .boolean (.int (Int32.ofInt x)) = .int (Int32.ofInt x) ∧ fits .boolean (.int (Int32.ofInt x)) = true := by
  rcases h with rfl | rfl <;> decide
theorem gnr (ty : FieldType) (b : Nat) (h : (∃ n, ty = .object n) ∨ ∃ t, ty = .array t) : narrow ty (grv b) = grv b ∧ fits ty (grv b) = true := by
  rcases h with ⟨n, rfl⟩ | ⟨t, rfl⟩ <;> cases b <;> exact ⟨rfl, rfl⟩
theorem g_puti {x : Int} (hk : gCk ci C T N) (hn : k < N) (hq : Cond.fieldLink μ.1.cls idx (T k).1 (T k).2.1 (T k).2.2.1 ∈ lw_all) (hf : (T k).2.2.2 = false) (hy : gfty ci k = .int) (hd : decode μ.2.1 pc = .ok (.putfield idx, 3)) (ht : mT σ a = ci + 1) (kk : G ω l d kc ks μ σ0 PR PX (pc + 3) lv st (wI σ a k x)) : G ω l d kc ks μ σ0 PR PX pc lv (vI x :: vR a :: st) σ := g_put hk hn hq hf (gOne_wI σ a k x) (by rw [hy]; exact congrArg Value.int (gu2_s _ _ _ _)) (by rw [hy]; rfl) (by rw [hy]; rfl) hd ht kk
theorem g_putz {x : Int} (hk : gCk ci C T N) (hn : k < N) (hq : Cond.fieldLink μ.1.cls idx (T k).1 (T k).2.1 (T k).2.2.1 ∈ lw_all) (hf : (T k).2.2.2 = false) (hy : gfty ci k = .boolean) (hx : x = 0 ∨ x = 1) (hd : decode μ.2.1 pc = .ok (.putfield idx, 3)) (ht : mT σ a = ci + 1) (kk : G ω l d kc ks μ σ0 PR PX (pc + 3) lv st (wI σ a k x)) : G ω l d kc ks μ σ0 PR PX pc lv (vI x :: vR a :: st) σ := g_put hk hn hq hf (gOne_wI σ a k x) (by rw [hy]; exact congrArg Value.int (gu2_s _ _ _ _)) (by rw [hy]; exact (gnz hx).1) (by rw [hy]; exact (gnz hx).2) hd ht kk
theorem g_putl {x : Int} (hk : gCk ci C T N) (hn : k < N) (hq : Cond.fieldLink μ.1.cls idx (T k).1 (T k).2.1 (T k).2.2.1 ∈ lw_all) (hf : (T k).2.2.2 = false) (hy : gfty ci k = .long) (hd : decode μ.2.1 pc = .ok (.putfield idx, 3)) (ht : mT σ a = ci + 1) (kk : G ω l d kc ks μ σ0 PR PX (pc + 3) lv st (wL σ a k x)) : G ω l d kc ks μ σ0 PR PX pc lv (vL x :: vR a :: st) σ := g_put hk hn hq hf (gOne_wL σ a k x) (by rw [hy]; exact congrArg Value.long (gu2_s _ _ _ _)) (by rw [hy]; rfl) (by rw [hy]; rfl) hd ht kk
theorem g_putr {b : Nat} (hk : gCk ci C T N) (hn : k < N) (hq : Cond.fieldLink μ.1.cls idx (T k).1 (T k).2.1 (T k).2.2.1 ∈ lw_all) (hf : (T k).2.2.2 = false) (hy : (∃ n, gfty ci k = .object n) ∨ ∃ t, gfty ci k = .array t) (hd : decode μ.2.1 pc = .ok (.putfield idx, 3)) (ht : mT σ a = ci + 1) (kk : G ω l d kc ks μ σ0 PR PX (pc + 3) lv st (wR σ a k b)) : G ω l d kc ks μ σ0 PR PX pc lv (vR b :: vR a :: st) σ := g_put hk hn hq hf (gOne_wR σ a k b) (by rcases hy with ⟨n, hy⟩ | ⟨n, hy⟩ <;> rw [hy] <;> exact congrArg grv (gu2_s _ _ _ _)) (gnr _ b hy).1 (gnr _ b hy).2 hd ht kk
theorem g_putiN {x : Int} (hk : gCk ci C T N) (hn : k < N) {host : String} (hq : Cond.fieldLinkNest μ.1.cls idx (T k).1 (T k).2.1 (T k).2.2.1 host ∈ lw_tbl) (hf : (T k).2.2.2 = false) (hy : gfty ci k = .int) (hd : decode μ.2.1 pc = .ok (.putfield idx, 3)) (ht : mT σ a = ci + 1) (kk : G ω l d kc ks μ σ0 PR PX (pc + 3) lv st (wI σ a k x)) : G ω l d kc ks μ σ0 PR PX pc lv (vI x :: vR a :: st) σ := g_putN hk hn hq hf (gOne_wI σ a k x) (by rw [hy]; exact congrArg Value.int (gu2_s _ _ _ _)) (by rw [hy]; rfl) (by rw [hy]; rfl) hd ht kk
theorem g_putzN {x : Int} (hk : gCk ci C T N) (hn : k < N) {host : String} (hq : Cond.fieldLinkNest μ.1.cls idx (T k).1 (T k).2.1 (T k).2.2.1 host ∈ lw_tbl) (hf : (T k).2.2.2 = false) (hy : gfty ci k = .boolean) (hx : x = 0 ∨ x = 1) (hd : decode μ.2.1 pc = .ok (.putfield idx, 3)) (ht : mT σ a = ci + 1) (kk : G ω l d kc ks μ σ0 PR PX (pc + 3) lv st (wI σ a k x)) : G ω l d kc ks μ σ0 PR PX pc lv (vI x :: vR a :: st) σ := g_putN hk hn hq hf (gOne_wI σ a k x) (by rw [hy]; exact congrArg Value.int (gu2_s _ _ _ _)) (by rw [hy]; exact (gnz hx).1) (by rw [hy]; exact (gnz hx).2) hd ht kk
theorem g_putlN {x : Int} (hk : gCk ci C T N) (hn : k < N) {host : String} (hq : Cond.fieldLinkNest μ.1.cls idx (T k).1 (T k).2.1 (T k).2.2.1 host ∈ lw_tbl) (hf : (T k).2.2.2 = false) (hy : gfty ci k = .long) (hd : decode μ.2.1 pc = .ok (.putfield idx, 3)) (ht : mT σ a = ci + 1) (kk : G ω l d kc ks μ σ0 PR PX (pc + 3) lv st (wL σ a k x)) : G ω l d kc ks μ σ0 PR PX pc lv (vL x :: vR a :: st) σ := g_putN hk hn hq hf (gOne_wL σ a k x) (by rw [hy]; exact congrArg Value.long (gu2_s _ _ _ _)) (by rw [hy]; rfl) (by rw [hy]; rfl) hd ht kk
theorem g_putrN {b : Nat} (hk : gCk ci C T N) (hn : k < N) {host : String} (hq : Cond.fieldLinkNest μ.1.cls idx (T k).1 (T k).2.1 (T k).2.2.1 host ∈ lw_tbl) (hf : (T k).2.2.2 = false) (hy : (∃ n, gfty ci k = .object n) ∨ ∃ t, gfty ci k = .array t) (hd : decode μ.2.1 pc = .ok (.putfield idx, 3)) (ht : mT σ a = ci + 1) (kk : G ω l d kc ks μ σ0 PR PX (pc + 3) lv st (wR σ a k b)) : G ω l d kc ks μ σ0 PR PX pc lv (vR b :: vR a :: st) σ := g_putN hk hn hq hf (gOne_wR σ a k b) (by rcases hy with ⟨n, hy⟩ | ⟨n, hy⟩ <;> rw [hy] <;> exact congrArg grv (gu2_s _ _ _ _)) (gnr _ b hy).1 (gnr _ b hy).2 hd ht kk
theorem g_putiF {x : Int} (hk : gCk ci C T N) (hn : k < N) (hq : Cond.fieldLink μ.1.cls idx (T k).1 (T k).2.1 (T k).2.2.1 ∈ lw_all) (hf : (T k).2.2.2 = true) (hnm : μ.1.name = "<init>") (hdecl : (T k).1 = μ.1.cls) (hy : gfty ci k = .int) (hd : decode μ.2.1 pc = .ok (.putfield idx, 3)) (ht : mT σ a = ci + 1) (kk : G ω l d kc ks μ σ0 PR PX (pc + 3) lv st (wI σ a k x)) : G ω l d kc ks μ σ0 PR PX pc lv (vI x :: vR a :: st) σ := g_putF hk hn hq hf hnm hdecl (gOne_wI σ a k x) (by rw [hy]; exact congrArg Value.int (gu2_s _ _ _ _)) (by rw [hy]; rfl) (by rw [hy]; rfl) hd ht kk
theorem g_putzF {x : Int} (hk : gCk ci C T N) (hn : k < N) (hq : Cond.fieldLink μ.1.cls idx (T k).1 (T k).2.1 (T k).2.2.1 ∈ lw_all) (hf : (T k).2.2.2 = true) (hnm : μ.1.name = "<init>") (hdecl : (T k).1 = μ.1.cls) (hy : gfty ci k = .boolean) (hx : x = 0 ∨ x = 1) (hd : decode μ.2.1 pc = .ok (.putfield idx, 3)) (ht : mT σ a = ci + 1) (kk : G ω l d kc ks μ σ0 PR PX (pc + 3) lv st (wI σ a k x)) : G ω l d kc ks μ σ0 PR PX pc lv (vI x :: vR a :: st) σ := g_putF hk hn hq hf hnm hdecl (gOne_wI σ a k x) (by rw [hy]; exact congrArg Value.int (gu2_s _ _ _ _)) (by rw [hy]; exact (gnz hx).1) (by rw [hy]; exact (gnz hx).2) hd ht kk
theorem g_putlF {x : Int} (hk : gCk ci C T N) (hn : k < N) (hq : Cond.fieldLink μ.1.cls idx (T k).1 (T k).2.1 (T k).2.2.1 ∈ lw_all) (hf : (T k).2.2.2 = true) (hnm : μ.1.name = "<init>") (hdecl : (T k).1 = μ.1.cls) (hy : gfty ci k = .long) (hd : decode μ.2.1 pc = .ok (.putfield idx, 3)) (ht : mT σ a = ci + 1) (kk : G ω l d kc ks μ σ0 PR PX (pc + 3) lv st (wL σ a k x)) : G ω l d kc ks μ σ0 PR PX pc lv (vL x :: vR a :: st) σ := g_putF hk hn hq hf hnm hdecl (gOne_wL σ a k x) (by rw [hy]; exact congrArg Value.long (gu2_s _ _ _ _)) (by rw [hy]; rfl) (by rw [hy]; rfl) hd ht kk
theorem g_putrF {b : Nat} (hk : gCk ci C T N) (hn : k < N) (hq : Cond.fieldLink μ.1.cls idx (T k).1 (T k).2.1 (T k).2.2.1 ∈ lw_all) (hf : (T k).2.2.2 = true) (hnm : μ.1.name = "<init>") (hdecl : (T k).1 = μ.1.cls) (hy : (∃ n, gfty ci k = .object n) ∨ ∃ t, gfty ci k = .array t) (hd : decode μ.2.1 pc = .ok (.putfield idx, 3)) (ht : mT σ a = ci + 1) (kk : G ω l d kc ks μ σ0 PR PX (pc + 3) lv st (wR σ a k b)) : G ω l d kc ks μ σ0 PR PX pc lv (vR b :: vR a :: st) σ := g_putF hk hn hq hf hnm hdecl (gOne_wR σ a k b) (by rcases hy with ⟨n, hy⟩ | ⟨n, hy⟩ <;> rw [hy] <;> exact congrArg grv (gu2_s _ _ _ _)) (gnr _ b hy).1 (gnr _ b hy).2 hd ht kk
theorem g_iald {i : Int} (hd : decode μ.2.1 pc = .ok (.iaload, 1)) (ht : mT σ a = 100) (hi : 0 ≤ i ∧ i < mN σ a) (kk : g32 (mI σ a i.toNat) → G ω l d kc ks μ σ0 PR PX (pc + 1) lv (vI (mI σ a i.toNat) :: st) σ) : G ω l d kc ks μ σ0 PR PX pc lv (vI i :: vR a :: st) σ := by
  intro p e s m args below meth c H locs cells slots mc ms ls hC hK hS hA hE hz hr hl
  have w := kk (mI_rng σ a i.toNat) p e s m args below meth c H locs cells slots mc ms ls hC hK hS hA hE hz hr hl
  obtain ⟨q1, q2, q3⟩ := gArr (j := 0) hS ht
  obtain ⟨g1, g2⟩ := gidx hi (hS.2.2.1 a)
  rw [List.map_cons, List.map_cons, show gval (vR a) = .ref (a - 1) from grv_pos q2]
  refine W.iald (v := gval (vI (mI σ a i.toNat))) hC.1 hC.2.1 q1 ((hK.1.2 0 _ rfl).1 _ _) (fun q => by cases q) (by rw [arrV_size]; exact g2) ?_ rfl rfl hd w
  rw [g1, arrV_read _ _ (by omega)]
  exact congrArg some (congrArg Value.int (mI_of σ a i.toNat).symm)
theorem g_bald {i : Int} (hd : decode μ.2.1 pc = .ok (.baload, 1)) (ht : mT σ a = 102) (hi : 0 ≤ i ∧ i < mN σ a) (kk : g32 (mI σ a i.toNat) → G ω l d kc ks μ σ0 PR PX (pc + 1) lv (vI (mI σ a i.toNat) :: st) σ) : G ω l d kc ks μ σ0 PR PX pc lv (vI i :: vR a :: st) σ := by
  intro p e s m args below meth c H locs cells slots mc ms ls hC hK hS hA hE hz hr hl
  have w := kk (mI_rng σ a i.toNat) p e s m args below meth c H locs cells slots mc ms ls hC hK hS hA hE hz hr hl
  obtain ⟨q1, q2, q3⟩ := gArr (j := 2) hS ht
  obtain ⟨g1, g2⟩ := gidx hi (hS.2.2.1 a)
  rw [List.map_cons, List.map_cons, show gval (vR a) = .ref (a - 1) from grv_pos q2]
  refine W.bald (v := gval (vI (mI σ a i.toNat))) hC.1 hC.2.1 q1 ((hK.1.2 2 _ rfl).1 _ _) (fun q => by cases q) (by rw [arrV_size]; exact g2) ?_ rfl rfl hd w
  rw [g1, arrV_read _ _ (by omega)]
  exact congrArg some (congrArg Value.int (mI_of σ a i.toNat).symm)
theorem g_zald {i : Int} (hd : decode μ.2.1 pc = .ok (.baload, 1)) (ht : mT σ a = 103) (hi : 0 ≤ i ∧ i < mN σ a) (kk : g32 (mI σ a i.toNat) → G ω l d kc ks μ σ0 PR PX (pc + 1) lv (vI (mI σ a i.toNat) :: st) σ) : G ω l d kc ks μ σ0 PR PX pc lv (vI i :: vR a :: st) σ := by
  intro p e s m args below meth c H locs cells slots mc ms ls hC hK hS hA hE hz hr hl
  have w := kk (mI_rng σ a i.toNat) p e s m args below meth c H locs cells slots mc ms ls hC hK hS hA hE hz hr hl
  obtain ⟨q1, q2, q3⟩ := gArr (j := 3) hS ht
  obtain ⟨g1, g2⟩ := gidx hi (hS.2.2.1 a)
  rw [List.map_cons, List.map_cons, show gval (vR a) = .ref (a - 1) from grv_pos q2]
  refine W.zald (v := gval (vI (mI σ a i.toNat))) hC.1 hC.2.1 q1 ((hK.1.2 3 _ rfl).1 _ _) (fun q => by cases q) (by rw [arrV_size]; exact g2) ?_ rfl rfl hd w
  rw [g1, arrV_read _ _ (by omega)]
  exact congrArg some (congrArg Value.int (mI_of σ a i.toNat).symm)
theorem g_lald {i : Int} (hd : decode μ.2.1 pc = .ok (.laload, 1)) (ht : mT σ a = 101) (hi : 0 ≤ i ∧ i < mN σ a) (kk : g64 (mL σ a i.toNat) → G ω l d kc ks μ σ0 PR PX (pc + 1) lv (vL (mL σ a i.toNat) :: st) σ) : G ω l d kc ks μ σ0 PR PX pc lv (vI i :: vR a :: st) σ := by
  intro p e s m args below meth c H locs cells slots mc ms ls hC hK hS hA hE hz hr hl
  have w := kk (mL_rng σ a i.toNat) p e s m args below meth c H locs cells slots mc ms ls hC hK hS hA hE hz hr hl
  obtain ⟨q1, q2, q3⟩ := gArr (j := 1) hS ht
  obtain ⟨g1, g2⟩ := gidx hi (hS.2.2.1 a)
  rw [List.map_cons, List.map_cons, show gval (vR a) = .ref (a - 1) from grv_pos q2]
  refine W.lald (v := gval (vL (mL σ a i.toNat))) hC.1 hC.2.1 q1 ((hK.1.2 1 _ rfl).1 _ _) (fun q => by cases q) (by rw [arrV_size]; exact g2) ?_ rfl rfl hd w
  rw [g1, arrV_read _ _ (by omega)]
  exact congrArg some (congrArg Value.long (mL_of σ a i.toNat).symm)
theorem g_aald {i : Int} (j : Nat) {ty : FieldType} (hd : decode μ.2.1 pc = .ok (.aaload, 1)) (ht : mT σ a = 100 + j) (hj : ∀ ω : gW, (gtys ω)[j]? = some (ω.A j, ty)) (hty : ty.isReference = true) (hg : gaty j = ty) (hi : 0 ≤ i ∧ i < mN σ a) (kk : G ω l d kc ks μ σ0 PR PX (pc + 1) lv (vR (mR σ a i.toNat) :: st) σ) : G ω l d kc ks μ σ0 PR PX pc lv (vI i :: vR a :: st) σ := by
  intro p e s m args below meth c H locs cells slots mc ms ls hC hK hS hA hE hz hr hl
  have w := kk p e s m args below meth c H locs cells slots mc ms ls hC hK hS hA hE hz hr hl
  obtain ⟨q1, q2, q3⟩ := gArr (j := j) hS ht
  obtain ⟨g1, g2⟩ := gidx hi (hS.2.2.1 a)
  rw [List.map_cons, List.map_cons, show gval (vR a) = .ref (a - 1) from grv_pos q2]
  refine W.aald (v := gval (vR (mR σ a i.toNat))) hC.1 hC.2.1 q1 ((hK.1.2 j _ (hj ω)).1 _ _) hty (fun q => by cases q) (by rw [arrV_size]; exact g2) ?_ rfl rfl hd w
  rw [g1, arrV_read _ _ (by omega), hg]
  cases ty <;> first | rfl | cases hty
theorem g_iast {i x : Int} (hd : decode μ.2.1 pc = .ok (.iastore, 1)) (ht : mT σ a = 100) (hi : 0 ≤ i ∧ i < mN σ a) (kk : G ω l d kc ks μ σ0 PR PX (pc + 1) lv st (wI σ a i.toNat x)) : G ω l d kc ks μ σ0 PR PX pc lv (vI x :: vI i :: vR a :: st) σ := by
  intro p e s m args below meth c H locs cells slots mc ms ls hC hK hS hA hE hz hr hl
  have hT0 : mT σ a ≠ 0 := by rw [ht]; omega
  have hT1 : ¬ gOld (mT σ a) := by rw [ht]; omega
  obtain ⟨q1, q2, q3⟩ := gArr (j := 0) hS ht
  obtain ⟨g1, g2⟩ := gidx hi (hS.2.2.1 a)
  rw [List.map_cons, List.map_cons, List.map_cons, show gval (vR a) = .ref (a - 1) from grv_pos q2]
  refine W.iast hC.1 hC.2.1 q1 ((hK.1.2 0 _ rfl).1 _ _) (fun q => by cases q) (by rw [arrV_size]; exact g2) rfl rfl hd fun H' e1 e2 e3 => ?_
  rw [g1] at e1
  have h1 := gOne_wI σ a i.toNat x
  exact kk p e s m args below meth c H' _ cells slots mc ms ls hC hK (gSim_one h1 hS e2 e3 hT0 hT1 (gAt_ast (j := 0) h1 ht e1 (congrArg Value.int (gu2_s _ _ _ _))) (fun z => by rw [ht] at z; omega)) (gS_put hA e2 e3 (hS.lo hT0 hT1)) (h1.E hE) hz hr hl
theorem gby_w {σ : gMem} {a k i : Nat} {x : Int} (h : -128 ≤ mI σ a i ∧ mI σ a i ≤ 127) (hx : -128 ≤ x ∧ x ≤ 127) : -128 ≤ mI (wI σ a k x) a i ∧ mI (wI σ a k x) a i ≤ 127 := by
  unfold mI wI gu2 at *
  by_cases q : i = k
  · simp only [q, and_self, if_true]; rw [g32_of (by omega)]; exact hx
  · simp only [q, and_false, if_false]; exact h
theorem gnb {x : Int} (h : -128 ≤ x ∧ x ≤ 127) : narrow .byte (.int (Int32.ofInt x)) = .int (Int32.ofInt x) := by
  show Value.int (Int32.ofInt x).toInt8.toInt32 = _
  congr 1
  rw [show (Int32.ofInt x).toInt8 = Int8.ofInt x from Int32.toInt8_ofInt]
  exact gb8 h
theorem g_bast {i x : Int} (hd : decode μ.2.1 pc = .ok (.bastore, 1)) (ht : mT σ a = 102) (hi : 0 ≤ i ∧ i < mN σ a) (hx : -128 ≤ x ∧ x ≤ 127) (kk : G ω l d kc ks μ σ0 PR PX (pc + 1) lv st (wI σ a i.toNat x)) : G ω l d kc ks μ σ0 PR PX pc lv (vI x :: vI i :: vR a :: st) σ := by
  intro p e s m args below meth c H locs cells slots mc ms ls hC hK hS hA hE hz hr hl
  have hT0 : mT σ a ≠ 0 := by rw [ht]; omega
  have hT1 : ¬ gOld (mT σ a) := by rw [ht]; omega
  obtain ⟨q1, q2, q3⟩ := gArr (j := 2) hS ht
  obtain ⟨g1, g2⟩ := gidx hi (hS.2.2.1 a)
  rw [List.map_cons, List.map_cons, List.map_cons, show gval (vR a) = .ref (a - 1) from grv_pos q2]
  refine W.bast hC.1 hC.2.1 q1 ((hK.1.2 2 _ rfl).1 _ _) (fun q => by cases q) (by rw [arrV_size]; exact g2) rfl rfl hd fun H' e1 e2 e3 => ?_
  rw [gnb hx] at e1
  rw [g1] at e1
  have h1 := gOne_wI σ a i.toNat x
  exact kk p e s m args below meth c H' _ cells slots mc ms ls hC hK (gSim_one h1 hS e2 e3 hT0 hT1 (gAt_ast (j := 2) h1 ht e1 (congrArg Value.int (gu2_s _ _ _ _))) (fun _ i2 => gby_w (hS.2.2.2.2.2.2 a i2 ht) hx)) (gS_put hA e2 e3 (hS.lo hT0 hT1)) (h1.E hE) hz hr hl
theorem g_zast {i x : Int} (hd : decode μ.2.1 pc = .ok (.bastore, 1)) (ht : mT σ a = 103) (hi : 0 ≤ i ∧ i < mN σ a) (hx : x = 0 ∨ x = 1) (kk : G ω l d kc ks μ σ0 PR PX (pc + 1) lv st (wI σ a i.toNat x)) : G ω l d kc ks μ σ0 PR PX pc lv (vI x :: vI i :: vR a :: st) σ := by
  intro p e s m args below meth c H locs cells slots mc ms ls hC hK hS hA hE hz hr hl
  have hT0 : mT σ a ≠ 0 := by rw [ht]; omega
  have hT1 : ¬ gOld (mT σ a) := by rw [ht]; omega
  obtain ⟨q1, q2, q3⟩ := gArr (j := 3) hS ht
  obtain ⟨g1, g2⟩ := gidx hi (hS.2.2.1 a)
  rw [List.map_cons, List.map_cons, List.map_cons, show gval (vR a) = .ref (a - 1) from grv_pos q2]
  refine W.zast hC.1 hC.2.1 q1 ((hK.1.2 3 _ rfl).1 _ _) (fun q => by cases q) (by rw [arrV_size]; exact g2) rfl rfl hd fun H' e1 e2 e3 => ?_
  rw [(gnz hx).1] at e1
  rw [g1] at e1
  have h1 := gOne_wI σ a i.toNat x
  exact kk p e s m args below meth c H' _ cells slots mc ms ls hC hK (gSim_one h1 hS e2 e3 hT0 hT1 (gAt_ast (j := 3) h1 ht e1 (congrArg Value.int (gu2_s _ _ _ _))) (fun z => by rw [ht] at z; omega)) (gS_put hA e2 e3 (hS.lo hT0 hT1)) (h1.E hE) hz hr hl
theorem g_last {i x : Int} (hd : decode μ.2.1 pc = .ok (.lastore, 1)) (ht : mT σ a = 101) (hi : 0 ≤ i ∧ i < mN σ a) (kk : G ω l d kc ks μ σ0 PR PX (pc + 1) lv st (wL σ a i.toNat x)) : G ω l d kc ks μ σ0 PR PX pc lv (vL x :: vI i :: vR a :: st) σ := by
  intro p e s m args below meth c H locs cells slots mc ms ls hC hK hS hA hE hz hr hl
  have hT0 : mT σ a ≠ 0 := by rw [ht]; omega
  have hT1 : ¬ gOld (mT σ a) := by rw [ht]; omega
  obtain ⟨q1, q2, q3⟩ := gArr (j := 1) hS ht
  obtain ⟨g1, g2⟩ := gidx hi (hS.2.2.1 a)
  rw [List.map_cons, List.map_cons, List.map_cons, show gval (vR a) = .ref (a - 1) from grv_pos q2]
  refine W.last hC.1 hC.2.1 q1 ((hK.1.2 1 _ rfl).1 _ _) (fun q => by cases q) (by rw [arrV_size]; exact g2) rfl rfl hd fun H' e1 e2 e3 => ?_
  rw [g1] at e1
  have h1 := gOne_wL σ a i.toNat x
  exact kk p e s m args below meth c H' _ cells slots mc ms ls hC hK (gSim_one h1 hS e2 e3 hT0 hT1 (gAt_ast (j := 1) h1 ht e1 (congrArg Value.long (gu2_s _ _ _ _))) (fun z => by rw [ht] at z; omega)) (gS_put hA e2 e3 (hS.lo hT0 hT1)) (h1.E hE) hz hr hl
theorem g_alen (j : Nat) {ty : FieldType} (hj : ∀ ω : gW, (gtys ω)[j]? = some (ω.A j, ty)) (hd : decode μ.2.1 pc = .ok (.arraylength, 1)) (ht : mT σ a = 100 + j) (kk : mN σ a < 2147483648 → G ω l d kc ks μ σ0 PR PX (pc + 1) lv (vI (mN σ a) :: st) σ) : G ω l d kc ks μ σ0 PR PX pc lv (vR a :: st) σ := by
  intro p e s m args below meth c H locs cells slots mc ms ls hC hK hS hA hE hz hr hl
  have w := kk (hS.2.2.1 a) p e s m args below meth c H locs cells slots mc ms ls hC hK hS hA hE hz hr hl
  obtain ⟨q1, q2, q3⟩ := gArr (j := j) hS ht
  rw [List.map_cons, show gval (vR a) = .ref (a - 1) from grv_pos q2]
  exact W.alen hC.1 hC.2.1 q1 ((hK.1.2 j _ (hj ω)).1 _ _) (by rw [arrV_size]; exact (Int32.ofInt_eq_ofNat).symm) rfl rfl hd w
theorem g_iret {x : Int} (hd : decode μ.2.1 pc = .ok (.ireturn, 1)) (hr0 : μ.2.2.2.1 = some .int) (hp : PR (some (vI x)) σ) : G ω l d kc ks μ σ0 PR PX pc lv [vI x] σ := by
  intro p e s m args below meth c H locs cells slots mc ms ls hC hK hS hA hE hz hr hl
  refine W.widen (k := mc) (n := ms) (by omega) (by omega) ?_
  refine vx_ret ?_
  exact W.iret hC.1 hC.2.1 (hC.2.2.2.1.trans hr0) (fun t ht _ => ⟨_, _, rfl, hp, hE, by rw [ht]; exact hS, hA.F ht⟩) hA.2.2 hd (hlocks := hC.2.2.2.2.1)
theorem g_zret {x : Int} (hd : decode μ.2.1 pc = .ok (.ireturn, 1)) (hr0 : μ.2.2.2.1 = some .boolean) (hx : x = 0 ∨ x = 1) (hp : PR (some (vI x)) σ) : G ω l d kc ks μ σ0 PR PX pc lv [vI x] σ := by
  intro p e s m args below meth c H locs cells slots mc ms ls hC hK hS hA hE hz hr hl
  refine W.widen (k := mc) (n := ms) (by omega) (by omega) ?_
  refine vx_ret ?_
  exact W.zret hC.1 hC.2.1 (hC.2.2.2.1.trans hr0) (gnz hx).1 (fun t ht _ => ⟨_, _, rfl, hp, hE, by rw [ht]; exact hS, hA.F ht⟩) hA.2.2 hd (hlocks := hC.2.2.2.2.1)
theorem g_lret {x : Int} (hd : decode μ.2.1 pc = .ok (.lreturn, 1)) (hr0 : μ.2.2.2.1 = some .long) (hp : PR (some (vL x)) σ) : G ω l d kc ks μ σ0 PR PX pc lv [vL x] σ := by
  intro p e s m args below meth c H locs cells slots mc ms ls hC hK hS hA hE hz hr hl
  refine W.widen (k := mc) (n := ms) (by omega) (by omega) ?_
  refine vx_ret ?_
  exact W.lret hC.1 hC.2.1 (hC.2.2.2.1.trans hr0) (fun t ht _ => ⟨_, _, rfl, hp, hE, by rw [ht]; exact hS, hA.F ht⟩) hA.2.2 hd (hlocks := hC.2.2.2.2.1)
theorem g_vret (hd : decode μ.2.1 pc = .ok (.return_, 1)) (hr0 : μ.2.2.2.1 = none) (hp : PR none σ) : G ω l d kc ks μ σ0 PR PX pc lv [] σ := by
  intro p e s m args below meth c H locs cells slots mc ms ls hC hK hS hA hE hz hr hl
  refine W.widen (k := mc) (n := ms) (by omega) (by omega) ?_
  refine vx_ret ?_
  exact W.vret hC.1 hC.2.1 (hC.2.2.2.1.trans hr0) (fun t ht _ => ⟨none, _, rfl, hp, hE, by rw [ht]; exact hS, hA.F ht⟩) hA.2.2 hd (hlocks := hC.2.2.2.2.1)
theorem g_aret {b : Nat} {rt : FieldType} (hd : decode μ.2.1 pc = .ok (.areturn, 1)) (hr0 : μ.2.2.2.1 = some rt) (hrt : (∃ n, rt = .object n) ∨ ∃ t, rt = .array t) (hp : PR (some (vR b)) σ) : G ω l d kc ks μ σ0 PR PX pc lv [vR b] σ := by
  intro p e s m args below meth c H locs cells slots mc ms ls hC hK hS hA hE hz hr hl
  refine W.widen (k := mc) (n := ms) (by omega) (by omega) ?_
  refine vx_ret ?_
  exact W.aret hC.1 hC.2.1 (hC.2.2.2.1.trans hr0) hrt (by cases b with | zero => exact Or.inl rfl | succ n => exact Or.inr ⟨_, rfl⟩) (fun t ht _ => ⟨some (vR b), _, rfl, hp, hE, by rw [ht]; exact hS, hA.F ht⟩) hA.2.2 hd (hlocks := hC.2.2.2.2.1)
theorem gP_blind (ω : gW) (σ : gMem) (args : List gV) : FrameBlind (gP ω σ args) := by
  intro a U g mk h
  obtain ⟨h1, h2, h3, h4⟩ := h
  exact ⟨h1, h2, gKK.same (s := U) (U := U.calling g mk a) rfl rfl h3, h4⟩
theorem gC.of {args : List gV} {y : MethodName} {cc : ByteArray} {nL : Nat} {ret : Option FieldType} (hy : plainName y.cls = true) (hn : (lg_sl (args.map gval)).length ≤ nL) (k : G ω l d kc ks (y, cc, nL, ret, []) σ PR PX 0 (gent 0 args) [] σ) : gC ω l d kc ks (y, cc, nL, ret, []) args σ PR PX := by
  refine vx_ofW (cc := cc) (maxL := nL) (ret := ret) hy rfl ?_
  intro p e s m args' below meth c s₁ B hml ht hP
  obtain ⟨rfl, hS, hK, hz⟩ := hP
  have hts := atoms_spec (ws := Cond.code y cc nL ret :: lw_all) B.pre
  have hts : ∀ w ∈ lw_all, w.before _ s = true := fun w h => hts w (List.mem_cons_of_mem _ h)
  have hown : s.vm.findClass y.cls = some m.cls := findClass_of_methodNamed B.named
  have hin : meth.name = y.name := (name_of_methodNamed B.named B.method).1
  have hl := lv_entry (args.map gval) (n := nL) hn
  rw [lg_entry_eq]
  rw [gent_map] at hl
  exact k p e s m _ below meth c s.heap [] 0 0 kc ks _ ⟨B.exec, B.bytes, hml, B.returns, B.notSynchronized, hown, hts, hin, by cases h : c.exceptionTable.toList with | nil => rfl | cons x xs => exact (ht x (by rw [h]; exact List.mem_cons_self)).elim⟩ hK hS va_S.rf gE.rf hz ⟨by omega, by omega⟩ hl
theorem gC.ofH {args : List gV} {y : MethodName} {cc : ByteArray} {nL : Nat} {ret : Option FieldType} {h0 : Nat × Nat × Nat × Nat} {hh : List (Nat × Nat × Nat × Nat)} (hy : plainName y.cls = true) (hn : (lg_sl (args.map gval)).length ≤ nL) (k : G ω l d kc ks (y, cc, nL, ret, h0 :: hh) σ PR PX 0 (gent 0 args) [] σ) : gC ω l d kc ks (y, cc, nL, ret, h0 :: hh) args σ PR PX := by
  refine vx_ofWH (cc := cc) (maxL := nL) (ret := ret) (hh := h0 :: hh) hy rfl ?_
  intro p e s m args' below meth c s₁ B hml hP
  obtain ⟨rfl, hS, hK, hz⟩ := hP
  have hts0 := atoms_spec (ws := Cond.codeWith y cc nL ret (h0 :: hh) :: lw_all) B.pre
  have hts : ∀ w ∈ lw_all, w.before _ s = true := fun w h => hts0 w (List.mem_cons_of_mem _ h)
  have htab : c.exceptionTable.toList = tableOf (h0 :: hh) := vx_table (x := y) B (hts0 _ List.mem_cons_self)
  have hown : s.vm.findClass y.cls = some m.cls := findClass_of_methodNamed B.named
  have hin : meth.name = y.name := (name_of_methodNamed B.named B.method).1
  have hl := lv_entry (args.map gval) (n := nL) hn
  rw [lg_entry_eq]
  rw [gent_map] at hl
  exact k p e s m _ below meth c s.heap [] 0 0 kc ks _ ⟨B.exec, B.bytes, hml, B.returns, B.notSynchronized, hown, hts, hin, htab⟩ hK hS va_S.rf gE.rf hz ⟨by omega, by omega⟩ hl
end GMem2
