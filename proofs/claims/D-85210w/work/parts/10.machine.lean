/-! ===== the pure machine: a flat typed memory, and the judgement G that hides the machine ===== -/
abbrev gMem : Type := (Nat → Nat → Int32) × ((Nat → Nat → Int64) × ((Nat → Nat → Nat) × ((Nat → Nat) × ((Nat → Nat) × (Nat × Nat)))))
abbrev gV : Type := Int ⊕ (Int ⊕ Nat)
abbrev vI (x : Int) : gV := Sum.inl x
abbrev vL (x : Int) : gV := Sum.inr (Sum.inl x)
abbrev vR (a : Nat) : gV := Sum.inr (Sum.inr a)
def grv : Nat → Value
  | 0 => .null
  | a + 1 => .ref a
def gval : gV → Value
  | .inl x => .int (Int32.ofInt x)
  | .inr (.inl x) => .long (Int64.ofInt x)
  | .inr (.inr a) => grv a
def gcat : gV → Nat
  | .inr (.inl _) => 2
  | _ => 1
theorem grv_cat (a : Nat) : (grv a).category = 1 := by cases a <;> rfl
theorem gval_cat (v : gV) : (gval v).category = gcat v := by
  rcases v with x | x | a
  · rfl
  · rfl
  · exact grv_cat a
theorem grv_pos {a : Nat} (h : a ≠ 0) : grv a = .ref (a - 1) := by cases a with
  | zero => exact absurd rfl h
  | succ n => rfl
/-- memory: ints, longs, references by address and slot; the tag (class) and the length of a cell; the next address -/
def mI (σ : gMem) (a k : Nat) : Int := (σ.1 a k).toInt
def mL (σ : gMem) (a k : Nat) : Int := (σ.2.1 a k).toInt
def mR (σ : gMem) (a k : Nat) : Nat := σ.2.2.1 a k
def mT (σ : gMem) (a : Nat) : Nat := σ.2.2.2.1 a
def mN (σ : gMem) (a : Nat) : Nat := σ.2.2.2.2.1 a
def mZ (σ : gMem) : Nat := σ.2.2.2.2.2.1
/-- how many slots have been made -/
def mS (σ : gMem) : Nat := σ.2.2.2.2.2.2
def gu2 {α : Type} (f : Nat → Nat → α) (a k : Nat) (x : α) : Nat → Nat → α := fun b j => if b = a ∧ j = k then x else f b j
def wI (σ : gMem) (a k : Nat) (x : Int) : gMem := (gu2 σ.1 a k (Int32.ofInt x), σ.2)
def wL (σ : gMem) (a k : Nat) (x : Int) : gMem := (σ.1, (gu2 σ.2.1 a k (Int64.ofInt x), σ.2.2))
def wR (σ : gMem) (a k x : Nat) : gMem := (σ.1, (σ.2.1, (gu2 σ.2.2.1 a k x, σ.2.2.2)))
/-- a new cell, of a tag and a length, all slots zero -/
def wN (σ : gMem) (t n : Nat) : gMem := ((fun b j => if b = mZ σ then 0 else σ.1 b j), ((fun b j => if b = mZ σ then 0 else σ.2.1 b j), ((fun b j => if b = mZ σ then 0 else σ.2.2.1 b j), ((fun b => if b = mZ σ then t else σ.2.2.2.1 b), ((fun b => if b = mZ σ then n else σ.2.2.2.2.1 b), (mZ σ + 1, mS σ + n))))))
abbrev g32 (x : Int) : Prop := -2147483648 ≤ x ∧ x ≤ 2147483647
abbrev g64 (x : Int) : Prop := -9223372036854775808 ≤ x ∧ x ≤ 9223372036854775807
theorem mI_rng (σ : gMem) (a k : Nat) : g32 (mI σ a k) := ⟨Int32.le_toInt _, by have := Int32.toInt_lt (σ.1 a k); unfold mI; omega⟩
theorem mL_rng (σ : gMem) (a k : Nat) : g64 (mL σ a k) := ⟨Int64.le_toInt _, by have := Int64.toInt_lt (σ.2.1 a k); unfold mL; omega⟩
theorem g32_of {x : Int} (h : g32 x) : (Int32.ofInt x).toInt = x := Int32.toInt_ofInt_of_le (by omega) (by omega)
theorem g64_of {x : Int} (h : g64 x) : (Int64.ofInt x).toInt = x := Int64.toInt_ofInt_of_le (by omega) (by omega)
theorem mI_of (σ : gMem) (a k : Nat) : Int32.ofInt (mI σ a k) = σ.1 a k := Int32.ofInt_toInt _
theorem mL_of (σ : gMem) (a k : Nat) : Int64.ofInt (mL σ a k) = σ.2.1 a k := Int64.ofInt_toInt _
/-! the classes and arrays by their numbers: tag ci + 1 is the class gcl[ci], tag 100 + j the array class gaty j -/
def TX15 : u_T := fun _ => ("SheetBranches$Gone", "", "I", false)
def tyX15 : Nat → FieldType := fun _ => .int
abbrev gcl : List vw_C := [(RX1, TX1, 32), (RX2, TX2, 4), (RX3, TX3, 19), (RX4, TX4, 13), (RX5, TX5, 4), (RX6, TX6, 17), (RX8, TX8, 4), (RX9, TX9, 3), (RX10, TX10, 5), (RX11, TX11, 105), (RX13, TX13, 1), (RX14, TX14, 1), (RX15, TX15, 0), (RX16, TX16, 4), (RX17, TX17, 2), (RX18, TX18, 1), (RX19, TX19, 3), (RX20, TX20, 2), (RX21, TX21, 1), (RX22, TX22, 3), (RX23, TX23, 2), (RX24, TX24, 4), (RX25, TX25, 6), (RX26, TX26, 6), (RX12, TX12, 0)]
abbrev gtyl : List (Nat → FieldType) := [tyX1, tyX2, tyX3, tyX4, tyX5, tyX6, tyX8, tyX9, tyX10, tyX11, tyX13, tyX14, tyX15, tyX16, tyX17, tyX18, tyX19, tyX20, tyX21, tyX22, tyX23, tyX24, tyX25, tyX26, tyX12]
def gfty (ci k : Nat) : FieldType := gtyl.getD ci (fun _ => .int) k
abbrev gatl : List FieldType := [.int, .long, .byte, .boolean, .object "SheetBranches$Version", .object "SheetBranches$Sheet", .object "SheetBranches$Conflict", .object "SheetBranches$Worth", .object "SheetBranches$Part", .object "SheetBranches$Name", .object "SheetBranches$Content", .array (.object "SheetBranches$Content")]
def gaty (j : Nat) : FieldType := gatl.getD j .int
/-- the world of a run: class numbers and slots, array classes, the heap's size at the law's start -/
abbrev gW : Type := va_G × ((Nat → ClassId) × (Nat × ((Nat → Nat) × (Nat → Int))))
abbrev gW.D (ω : gW) : va_G := ω.1
abbrev gW.A (ω : gW) : Nat → ClassId := ω.2.1
abbrev gW.lo (ω : gW) : Nat := ω.2.2.1
abbrev gW.st (ω : gW) : Nat → Nat := ω.2.2.2.1
abbrev gW.sc (ω : gW) : Nat → Int := ω.2.2.2.2
/-- the texts, names, signs that were there before -/
def gtx : List (List Int) := [[35, 82, 69, 70], [84, 82, 85, 69], [70, 65, 76, 83, 69], [73, 70], [65, 78, 68], [79, 82], [83, 85, 77], [77, 73, 78], [77, 65, 88], [67, 79, 85, 78, 84], [78, 79, 84], [65, 66, 83], [76, 69, 78], [73, 83, 69, 82, 82], [82, 79, 87], [67, 79, 76], [76, 69, 70, 84], [82, 73, 71, 72, 84], [73, 78, 68, 69, 88], [77, 65, 84, 67, 72], [67, 79, 85, 78, 84, 73, 70], [], [61], [60, 62], [60], [60, 61], [62], [62, 61], [38], [43], [45], [42], [47], [37]]
def gnm : List (List Int) := [[0, 3, 3, 3, 0, 0], [1, 4, 1, 8, 0, -1], [2, 5, 1, 8, 0, -1], [3, 10, 1, 1, 0, 0], [4, 11, 1, 1, 0, 0], [5, 6, 1, 8, 0, -1], [6, 7, 1, 8, 0, -1], [7, 8, 1, 8, 0, -1], [8, 9, 1, 8, 0, -1], [9, 12, 1, 1, 0, 0], [10, 16, 2, 2, 0, 0], [11, 17, 2, 2, 0, 0], [12, 19, 2, 2, 2, 2], [13, 18, 2, 2, 1, 1], [14, 20, 2, 2, 1, 1], [15, 13, 1, 1, 0, 0], [16, 14, 1, 1, 0, 0], [17, 15, 1, 1, 0, 0]]
def gsg : List (List Int) := [[0, 22, 1], [1, 23, 1], [2, 24, 1], [3, 25, 1], [4, 26, 1], [5, 27, 1], [6, 28, 2], [7, 29, 3], [8, 30, 3], [9, 31, 4], [10, 32, 4], [11, 33, 4]]
/-- what a slot of a type holds -/
def gfv (σ : gMem) (ty : FieldType) (a k : Nat) : Value := match ty with
  | .long => .long (σ.2.1 a k)
  | .object _ => grv (mR σ a k)
  | .array _ => grv (mR σ a k)
  | _ => .int (σ.1 a k)
def gAt (ω : gW) (σ : gMem) (H : Heap) (a : Nat) : Prop :=
  (∀ (ci : Nat) (r : vw_C), mT σ a = ci + 1 → gcl[ci]? = some r → t_OB (a - 1) (ω.D.1 ci) r.2.2 (ω.D.2 ci) H (fun k => gfv σ (gfty ci k) a k)) ∧
  (∀ j : Nat, mT σ a = 100 + j → H[a - 1]? = some (arrV (ω.A j) (mN σ a) (fun i => gfv σ (gaty j) a i)))
/-- tags of what was there before the run: 90 a text, 91 a name, 92 a sign, 93 the array of all names, 94 the script -/
abbrev gOld (t : Nat) : Prop := 90 ≤ t ∧ t < 100
def gOAt (ω : gW) (σ : gMem) (a : Nat) : Prop :=
  (mT σ a = 90 → ∃ i, i < 34 ∧ a = ω.st (100 + i) + 1 ∧ mN σ a = (gtx.getD i []).length ∧ ∀ j, mI σ a j = (gtx.getD i []).getD j 0) ∧
  (mT σ a = 91 → ∃ k, k < 18 ∧ a = ω.st k + 1 ∧ (∀ j, j ≠ 1 → mI σ a j = (gnm.getD k []).getD j 0) ∧ mR σ a 1 = ω.st (100 + ((gnm.getD k []).getD 1 0).toNat) + 1) ∧
  (mT σ a = 92 → ∃ k, k < 12 ∧ a = ω.st (20 + k) + 1 ∧ (∀ j, j ≠ 1 → mI σ a j = (gsg.getD k []).getD j 0) ∧ mR σ a 1 = ω.st (100 + ((gsg.getD k []).getD 1 0).toNat) + 1) ∧
  (mT σ a = 93 → a = ω.st 40 + 1 ∧ mN σ a = 18 ∧ ∀ j, j < 18 → mR σ a j = ω.st j + 1) ∧
  (mT σ a = 94 → a = ω.st 50 + 1 ∧ mN σ a = ω.st 51 ∧ ∀ j, j < ω.st 51 → mI σ a j = ω.sc j)
def gOl (ω : gW) (σ : gMem) : Prop := (∀ j, mR σ 0 j = ω.st j + 1) ∧ ∀ a, gOld (mT σ a) → a ≤ ω.lo ∧ gOAt ω σ a
def gBy (σ : gMem) : Prop := ∀ a i, mT σ a = 102 → -128 ≤ mI σ a i ∧ mI σ a i ≤ 127
def gSim (ω : gW) (σ : gMem) (H : Heap) : Prop := mZ σ = H.size + 1 ∧ (∀ a, mT σ a ≠ 0 → gAt ω σ H a ∧ a ≠ 0 ∧ a - 1 < H.size) ∧ (∀ a, mN σ a < 2147483648) ∧ 0 < H.size ∧ (∀ a, mT σ a ≠ 0 → ¬ gOld (mT σ a) → ω.lo ≤ a - 1) ∧ gOl ω σ ∧ gBy σ
/-- what is not made yet has no tag -/
def gOk (σ : gMem) : Prop := ∀ a, mZ σ ≤ a → mT σ a = 0
theorem gSim.ok {ω : gW} {σ : gMem} {H : Heap} (h : gSim ω σ H) : gOk σ := fun a ha => by
  by_cases q : mT σ a = 0
  · exact q
  · have := (h.2.1 a q).2.2
    have := h.1
    omega
theorem gSim.lo {ω : gW} {σ : gMem} {H : Heap} (h : gSim ω σ H) {a : Nat} (h1 : mT σ a ≠ 0) (h2 : ¬ gOld (mT σ a)) : ω.lo ≤ a - 1 := h.2.2.2.2.1 a h1 h2
abbrev gtys (ω : gW) : List (ClassId × FieldType) := [(ω.A 0, .int), (ω.A 1, .long), (ω.A 2, .byte), (ω.A 3, .boolean), (ω.A 4, .object "SheetBranches$Version"), (ω.A 5, .object "SheetBranches$Sheet"), (ω.A 6, .object "SheetBranches$Conflict"), (ω.A 7, .object "SheetBranches$Worth"), (ω.A 8, .object "SheetBranches$Part"), (ω.A 9, .object "SheetBranches$Name"), (ω.A 10, .object "SheetBranches$Content"), (ω.A 11, .array (.object "SheetBranches$Content"))]
/-- words of the tables that ride in no list, and hold all through a run -/
def gNk : Cond → Bool
  | .fieldLinkNest .. => true
  | .methodLinkNest .. => true
  | .castable .. => true
  | .declares .. => true
  | _ => false
theorem gNk_warm {w : Cond} (h : gNk w = true) {s U : State} (hW : s.WarmedH U.vm) (hZ : va_Nw w s) : va_Nw w U := by
  cases w <;> first | exact va_Nw.warmF hW hZ | exact va_Nw.warmM hW hZ | exact va_Nw.warmC hW hZ | exact va_Nw.warmD hW hZ | (simp [gNk] at h)
theorem gNk_tab {w : Cond} (h : gNk w = true) : w.onTables = true := by
  cases w <;> first | rfl | (simp [gNk] at h)
/-- interface methods: the method named, the method run, its class -/
def gfw : List (MethodName × MethodName × String) := [((⟨"SheetBranches$Content", "isAlike", "(LSheetBranches$Content;)Z"⟩ : MethodName), (⟨"SheetBranches$Whole", "isAlike", "(LSheetBranches$Content;)Z"⟩ : MethodName), "SheetBranches$Whole"), ((⟨"SheetBranches$Content", "isAlike", "(LSheetBranches$Content;)Z"⟩ : MethodName), (⟨"SheetBranches$Words", "isAlike", "(LSheetBranches$Content;)Z"⟩ : MethodName), "SheetBranches$Words"), ((⟨"SheetBranches$Content", "isAlike", "(LSheetBranches$Content;)Z"⟩ : MethodName), (⟨"SheetBranches$Truth", "isAlike", "(LSheetBranches$Content;)Z"⟩ : MethodName), "SheetBranches$Truth"), ((⟨"SheetBranches$Content", "isAlike", "(LSheetBranches$Content;)Z"⟩ : MethodName), (⟨"SheetBranches$Formula", "isAlike", "(LSheetBranches$Content;)Z"⟩ : MethodName), "SheetBranches$Formula"), ((⟨"SheetBranches$Content", "parts", "()I"⟩ : MethodName), (⟨"SheetBranches$Whole", "parts", "()I"⟩ : MethodName), "SheetBranches$Whole"), ((⟨"SheetBranches$Content", "parts", "()I"⟩ : MethodName), (⟨"SheetBranches$Words", "parts", "()I"⟩ : MethodName), "SheetBranches$Words"), ((⟨"SheetBranches$Content", "parts", "()I"⟩ : MethodName), (⟨"SheetBranches$Truth", "parts", "()I"⟩ : MethodName), "SheetBranches$Truth"), ((⟨"SheetBranches$Content", "parts", "()I"⟩ : MethodName), (⟨"SheetBranches$Formula", "parts", "()I"⟩ : MethodName), "SheetBranches$Formula"), ((⟨"SheetBranches$Content", "write", "(LSheetBranches$Pen;LSheetBranches$Sheet;)V"⟩ : MethodName), (⟨"SheetBranches$Whole", "write", "(LSheetBranches$Pen;LSheetBranches$Sheet;)V"⟩ : MethodName), "SheetBranches$Whole"), ((⟨"SheetBranches$Content", "write", "(LSheetBranches$Pen;LSheetBranches$Sheet;)V"⟩ : MethodName), (⟨"SheetBranches$Words", "write", "(LSheetBranches$Pen;LSheetBranches$Sheet;)V"⟩ : MethodName), "SheetBranches$Words"), ((⟨"SheetBranches$Content", "write", "(LSheetBranches$Pen;LSheetBranches$Sheet;)V"⟩ : MethodName), (⟨"SheetBranches$Truth", "write", "(LSheetBranches$Pen;LSheetBranches$Sheet;)V"⟩ : MethodName), "SheetBranches$Truth"), ((⟨"SheetBranches$Content", "write", "(LSheetBranches$Pen;LSheetBranches$Sheet;)V"⟩ : MethodName), (⟨"SheetBranches$Formula", "write", "(LSheetBranches$Pen;LSheetBranches$Sheet;)V"⟩ : MethodName), "SheetBranches$Formula"), ((⟨"SheetBranches$Part", "leads", "(LSheetBranches$Links;LSheetBranches$Sheet;)V"⟩ : MethodName), (⟨"SheetBranches$Whole", "leads", "(LSheetBranches$Links;LSheetBranches$Sheet;)V"⟩ : MethodName), "SheetBranches$Whole"), ((⟨"SheetBranches$Part", "leads", "(LSheetBranches$Links;LSheetBranches$Sheet;)V"⟩ : MethodName), (⟨"SheetBranches$Words", "leads", "(LSheetBranches$Links;LSheetBranches$Sheet;)V"⟩ : MethodName), "SheetBranches$Words"), ((⟨"SheetBranches$Part", "leads", "(LSheetBranches$Links;LSheetBranches$Sheet;)V"⟩ : MethodName), (⟨"SheetBranches$Truth", "leads", "(LSheetBranches$Links;LSheetBranches$Sheet;)V"⟩ : MethodName), "SheetBranches$Truth"), ((⟨"SheetBranches$Part", "leads", "(LSheetBranches$Links;LSheetBranches$Sheet;)V"⟩ : MethodName), (⟨"SheetBranches$Gone", "leads", "(LSheetBranches$Links;LSheetBranches$Sheet;)V"⟩ : MethodName), "SheetBranches$Gone"), ((⟨"SheetBranches$Part", "leads", "(LSheetBranches$Links;LSheetBranches$Sheet;)V"⟩ : MethodName), (⟨"SheetBranches$Spot", "leads", "(LSheetBranches$Links;LSheetBranches$Sheet;)V"⟩ : MethodName), "SheetBranches$Spot"), ((⟨"SheetBranches$Part", "leads", "(LSheetBranches$Links;LSheetBranches$Sheet;)V"⟩ : MethodName), (⟨"SheetBranches$Area", "leads", "(LSheetBranches$Links;LSheetBranches$Sheet;)V"⟩ : MethodName), "SheetBranches$Area"), ((⟨"SheetBranches$Part", "leads", "(LSheetBranches$Links;LSheetBranches$Sheet;)V"⟩ : MethodName), (⟨"SheetBranches$Minus", "leads", "(LSheetBranches$Links;LSheetBranches$Sheet;)V"⟩ : MethodName), "SheetBranches$Minus"), ((⟨"SheetBranches$Part", "leads", "(LSheetBranches$Links;LSheetBranches$Sheet;)V"⟩ : MethodName), (⟨"SheetBranches$Two", "leads", "(LSheetBranches$Links;LSheetBranches$Sheet;)V"⟩ : MethodName), "SheetBranches$Two"), ((⟨"SheetBranches$Part", "leads", "(LSheetBranches$Links;LSheetBranches$Sheet;)V"⟩ : MethodName), (⟨"SheetBranches$Call", "leads", "(LSheetBranches$Links;LSheetBranches$Sheet;)V"⟩ : MethodName), "SheetBranches$Call"), ((⟨"SheetBranches$Part", "rank", "()I"⟩ : MethodName), (⟨"SheetBranches$Whole", "rank", "()I"⟩ : MethodName), "SheetBranches$Whole"), ((⟨"SheetBranches$Part", "rank", "()I"⟩ : MethodName), (⟨"SheetBranches$Words", "rank", "()I"⟩ : MethodName), "SheetBranches$Words"), ((⟨"SheetBranches$Part", "rank", "()I"⟩ : MethodName), (⟨"SheetBranches$Truth", "rank", "()I"⟩ : MethodName), "SheetBranches$Truth"), ((⟨"SheetBranches$Part", "rank", "()I"⟩ : MethodName), (⟨"SheetBranches$Gone", "rank", "()I"⟩ : MethodName), "SheetBranches$Gone"), ((⟨"SheetBranches$Part", "rank", "()I"⟩ : MethodName), (⟨"SheetBranches$Spot", "rank", "()I"⟩ : MethodName), "SheetBranches$Spot"), ((⟨"SheetBranches$Part", "rank", "()I"⟩ : MethodName), (⟨"SheetBranches$Area", "rank", "()I"⟩ : MethodName), "SheetBranches$Area"), ((⟨"SheetBranches$Part", "rank", "()I"⟩ : MethodName), (⟨"SheetBranches$Minus", "rank", "()I"⟩ : MethodName), "SheetBranches$Minus"), ((⟨"SheetBranches$Part", "rank", "()I"⟩ : MethodName), (⟨"SheetBranches$Two", "rank", "()I"⟩ : MethodName), "SheetBranches$Two"), ((⟨"SheetBranches$Part", "rank", "()I"⟩ : MethodName), (⟨"SheetBranches$Call", "rank", "()I"⟩ : MethodName), "SheetBranches$Call"), ((⟨"SheetBranches$Part", "same", "(LSheetBranches$Part;)Z"⟩ : MethodName), (⟨"SheetBranches$Whole", "same", "(LSheetBranches$Part;)Z"⟩ : MethodName), "SheetBranches$Whole"), ((⟨"SheetBranches$Part", "same", "(LSheetBranches$Part;)Z"⟩ : MethodName), (⟨"SheetBranches$Words", "same", "(LSheetBranches$Part;)Z"⟩ : MethodName), "SheetBranches$Words"), ((⟨"SheetBranches$Part", "same", "(LSheetBranches$Part;)Z"⟩ : MethodName), (⟨"SheetBranches$Truth", "same", "(LSheetBranches$Part;)Z"⟩ : MethodName), "SheetBranches$Truth"), ((⟨"SheetBranches$Part", "same", "(LSheetBranches$Part;)Z"⟩ : MethodName), (⟨"SheetBranches$Gone", "same", "(LSheetBranches$Part;)Z"⟩ : MethodName), "SheetBranches$Gone"), ((⟨"SheetBranches$Part", "same", "(LSheetBranches$Part;)Z"⟩ : MethodName), (⟨"SheetBranches$Spot", "same", "(LSheetBranches$Part;)Z"⟩ : MethodName), "SheetBranches$Spot"), ((⟨"SheetBranches$Part", "same", "(LSheetBranches$Part;)Z"⟩ : MethodName), (⟨"SheetBranches$Area", "same", "(LSheetBranches$Part;)Z"⟩ : MethodName), "SheetBranches$Area"), ((⟨"SheetBranches$Part", "same", "(LSheetBranches$Part;)Z"⟩ : MethodName), (⟨"SheetBranches$Minus", "same", "(LSheetBranches$Part;)Z"⟩ : MethodName), "SheetBranches$Minus"), ((⟨"SheetBranches$Part", "same", "(LSheetBranches$Part;)Z"⟩ : MethodName), (⟨"SheetBranches$Two", "same", "(LSheetBranches$Part;)Z"⟩ : MethodName), "SheetBranches$Two"), ((⟨"SheetBranches$Part", "same", "(LSheetBranches$Part;)Z"⟩ : MethodName), (⟨"SheetBranches$Call", "same", "(LSheetBranches$Part;)Z"⟩ : MethodName), "SheetBranches$Call"), ((⟨"SheetBranches$Part", "shifted", "(LSheetBranches$Shift;)LSheetBranches$Part;"⟩ : MethodName), (⟨"SheetBranches$Whole", "shifted", "(LSheetBranches$Shift;)LSheetBranches$Part;"⟩ : MethodName), "SheetBranches$Whole"), ((⟨"SheetBranches$Part", "shifted", "(LSheetBranches$Shift;)LSheetBranches$Part;"⟩ : MethodName), (⟨"SheetBranches$Words", "shifted", "(LSheetBranches$Shift;)LSheetBranches$Part;"⟩ : MethodName), "SheetBranches$Words"), ((⟨"SheetBranches$Part", "shifted", "(LSheetBranches$Shift;)LSheetBranches$Part;"⟩ : MethodName), (⟨"SheetBranches$Truth", "shifted", "(LSheetBranches$Shift;)LSheetBranches$Part;"⟩ : MethodName), "SheetBranches$Truth"), ((⟨"SheetBranches$Part", "shifted", "(LSheetBranches$Shift;)LSheetBranches$Part;"⟩ : MethodName), (⟨"SheetBranches$Gone", "shifted", "(LSheetBranches$Shift;)LSheetBranches$Part;"⟩ : MethodName), "SheetBranches$Gone"), ((⟨"SheetBranches$Part", "shifted", "(LSheetBranches$Shift;)LSheetBranches$Part;"⟩ : MethodName), (⟨"SheetBranches$Spot", "shifted", "(LSheetBranches$Shift;)LSheetBranches$Part;"⟩ : MethodName), "SheetBranches$Spot"), ((⟨"SheetBranches$Part", "shifted", "(LSheetBranches$Shift;)LSheetBranches$Part;"⟩ : MethodName), (⟨"SheetBranches$Area", "shifted", "(LSheetBranches$Shift;)LSheetBranches$Part;"⟩ : MethodName), "SheetBranches$Area"), ((⟨"SheetBranches$Part", "shifted", "(LSheetBranches$Shift;)LSheetBranches$Part;"⟩ : MethodName), (⟨"SheetBranches$Minus", "shifted", "(LSheetBranches$Shift;)LSheetBranches$Part;"⟩ : MethodName), "SheetBranches$Minus"), ((⟨"SheetBranches$Part", "shifted", "(LSheetBranches$Shift;)LSheetBranches$Part;"⟩ : MethodName), (⟨"SheetBranches$Two", "shifted", "(LSheetBranches$Shift;)LSheetBranches$Part;"⟩ : MethodName), "SheetBranches$Two"), ((⟨"SheetBranches$Part", "shifted", "(LSheetBranches$Shift;)LSheetBranches$Part;"⟩ : MethodName), (⟨"SheetBranches$Call", "shifted", "(LSheetBranches$Shift;)LSheetBranches$Part;"⟩ : MethodName), "SheetBranches$Call"), ((⟨"SheetBranches$Part", "work", "(LSheetBranches$Works;LSheetBranches$Worth;)V"⟩ : MethodName), (⟨"SheetBranches$Whole", "work", "(LSheetBranches$Works;LSheetBranches$Worth;)V"⟩ : MethodName), "SheetBranches$Whole"), ((⟨"SheetBranches$Part", "work", "(LSheetBranches$Works;LSheetBranches$Worth;)V"⟩ : MethodName), (⟨"SheetBranches$Words", "work", "(LSheetBranches$Works;LSheetBranches$Worth;)V"⟩ : MethodName), "SheetBranches$Words"), ((⟨"SheetBranches$Part", "work", "(LSheetBranches$Works;LSheetBranches$Worth;)V"⟩ : MethodName), (⟨"SheetBranches$Truth", "work", "(LSheetBranches$Works;LSheetBranches$Worth;)V"⟩ : MethodName), "SheetBranches$Truth"), ((⟨"SheetBranches$Part", "work", "(LSheetBranches$Works;LSheetBranches$Worth;)V"⟩ : MethodName), (⟨"SheetBranches$Gone", "work", "(LSheetBranches$Works;LSheetBranches$Worth;)V"⟩ : MethodName), "SheetBranches$Gone"), ((⟨"SheetBranches$Part", "work", "(LSheetBranches$Works;LSheetBranches$Worth;)V"⟩ : MethodName), (⟨"SheetBranches$Spot", "work", "(LSheetBranches$Works;LSheetBranches$Worth;)V"⟩ : MethodName), "SheetBranches$Spot"), ((⟨"SheetBranches$Part", "work", "(LSheetBranches$Works;LSheetBranches$Worth;)V"⟩ : MethodName), (⟨"SheetBranches$Area", "work", "(LSheetBranches$Works;LSheetBranches$Worth;)V"⟩ : MethodName), "SheetBranches$Area"), ((⟨"SheetBranches$Part", "work", "(LSheetBranches$Works;LSheetBranches$Worth;)V"⟩ : MethodName), (⟨"SheetBranches$Minus", "work", "(LSheetBranches$Works;LSheetBranches$Worth;)V"⟩ : MethodName), "SheetBranches$Minus"), ((⟨"SheetBranches$Part", "work", "(LSheetBranches$Works;LSheetBranches$Worth;)V"⟩ : MethodName), (⟨"SheetBranches$Two", "work", "(LSheetBranches$Works;LSheetBranches$Worth;)V"⟩ : MethodName), "SheetBranches$Two"), ((⟨"SheetBranches$Part", "work", "(LSheetBranches$Works;LSheetBranches$Worth;)V"⟩ : MethodName), (⟨"SheetBranches$Call", "work", "(LSheetBranches$Works;LSheetBranches$Worth;)V"⟩ : MethodName), "SheetBranches$Call"), ((⟨"SheetBranches$Part", "write", "(LSheetBranches$Pen;LSheetBranches$Sheet;)V"⟩ : MethodName), (⟨"SheetBranches$Whole", "write", "(LSheetBranches$Pen;LSheetBranches$Sheet;)V"⟩ : MethodName), "SheetBranches$Whole"), ((⟨"SheetBranches$Part", "write", "(LSheetBranches$Pen;LSheetBranches$Sheet;)V"⟩ : MethodName), (⟨"SheetBranches$Words", "write", "(LSheetBranches$Pen;LSheetBranches$Sheet;)V"⟩ : MethodName), "SheetBranches$Words"), ((⟨"SheetBranches$Part", "write", "(LSheetBranches$Pen;LSheetBranches$Sheet;)V"⟩ : MethodName), (⟨"SheetBranches$Truth", "write", "(LSheetBranches$Pen;LSheetBranches$Sheet;)V"⟩ : MethodName), "SheetBranches$Truth"), ((⟨"SheetBranches$Part", "write", "(LSheetBranches$Pen;LSheetBranches$Sheet;)V"⟩ : MethodName), (⟨"SheetBranches$Gone", "write", "(LSheetBranches$Pen;LSheetBranches$Sheet;)V"⟩ : MethodName), "SheetBranches$Gone"), ((⟨"SheetBranches$Part", "write", "(LSheetBranches$Pen;LSheetBranches$Sheet;)V"⟩ : MethodName), (⟨"SheetBranches$Spot", "write", "(LSheetBranches$Pen;LSheetBranches$Sheet;)V"⟩ : MethodName), "SheetBranches$Spot"), ((⟨"SheetBranches$Part", "write", "(LSheetBranches$Pen;LSheetBranches$Sheet;)V"⟩ : MethodName), (⟨"SheetBranches$Area", "write", "(LSheetBranches$Pen;LSheetBranches$Sheet;)V"⟩ : MethodName), "SheetBranches$Area"), ((⟨"SheetBranches$Part", "write", "(LSheetBranches$Pen;LSheetBranches$Sheet;)V"⟩ : MethodName), (⟨"SheetBranches$Minus", "write", "(LSheetBranches$Pen;LSheetBranches$Sheet;)V"⟩ : MethodName), "SheetBranches$Minus"), ((⟨"SheetBranches$Part", "write", "(LSheetBranches$Pen;LSheetBranches$Sheet;)V"⟩ : MethodName), (⟨"SheetBranches$Two", "write", "(LSheetBranches$Pen;LSheetBranches$Sheet;)V"⟩ : MethodName), "SheetBranches$Two"), ((⟨"SheetBranches$Part", "write", "(LSheetBranches$Pen;LSheetBranches$Sheet;)V"⟩ : MethodName), (⟨"SheetBranches$Call", "write", "(LSheetBranches$Pen;LSheetBranches$Sheet;)V"⟩ : MethodName), "SheetBranches$Call")]
theorem gfw_all : ∀ q ∈ gfw, q.1.cls ≠ "java/lang/invoke/MethodHandle" ∧ q.1.cls ≠ "java/lang/invoke/VarHandle" := by decide +kernel
theorem gfw_ok {x y : MethodName} {C : String} (h : (x, y, C) ∈ gfw) : x.cls ≠ "java/lang/invoke/MethodHandle" ∧ x.cls ≠ "java/lang/invoke/VarHandle" := gfw_all _ h
/-- the array of arrays -/
def va_AM (U : State) : Prop := (Cond.arrayOver (.array (.object "SheetBranches$Content"))).before #[] U = true
theorem va_AM.spec {s : State} {t : FieldType} (h : (Cond.arrayOver (.array t)).before #[] s = true) :
    ∃ comp c k, s.vm.findClass (FieldType.array t).toString = some comp ∧ (s.vm.classes.findIdx? fun (x : Class) => match x.kind with | .array component _ => component == comp | _ => false) = some c ∧ s.vm.classes[c]? = some k ∧ k.kind = .array comp (.array t) ∧ s.vm.findClass ("[" ++ (FieldType.array t).toString) = some c := by
  simp only [Cond.before, Cond.holds, Cond.value, beq_iff_eq] at h
  cases hc : s.vm.findClass (FieldType.array t).toString with
  | none => simp [hc] at h
  | some comp =>
    simp only [hc, Option.bind_some, Option.bind_eq_some_iff, Option.map_eq_some_iff] at h
    obtain ⟨c, hi, k, hk, hb⟩ := h
    obtain ⟨hlt, hp, -⟩ := Array.findIdx?_eq_some_iff_getElem.mp hi
    have hkk : s.vm.classes[c] = k := (Array.getElem?_eq_some_iff.mp hk).2
    rw [hkk] at hp
    cases hkind : k.kind with
    | array component ty =>
      rw [hkind] at hb hp
      simp at hb hp
      exact ⟨comp, c, k, rfl, hi, hk, by rw [hkind, hp, hb.1], hb.2⟩
    | _ => rw [hkind] at hb; simp at hb
theorem va_AM.moved {u U : State} (hvm : u.vm.Alike U.vm) (h : va_AM u) : va_AM U := by
  obtain ⟨comp, c, k, h1, h2, h3, h4, h5⟩ := va_AM.spec h
  obtain ⟨k', hk', he⟩ := hvm.2.2 _ _ h3
  have hi : (U.vm.classes.findIdx? fun (x : Class) => match x.kind with | .array component _ => component == comp | _ => false) = some c := by
    have e1 := va_idx_bare U.vm comp
    have e2 := va_idx_bare u.vm comp
    rw [hvm.bare_eq] at e1
    exact e1.symm.trans (e2.trans h2)
  have hkind : k'.kind = .array comp (.array (.object "SheetBranches$Content")) := by rw [he]; exact h4
  have f1 : U.vm.findClass (FieldType.array (.object "SheetBranches$Content")).toString = some comp := by rw [hvm.findClass]; exact h1
  have f2 : U.vm.findClass ("[" ++ (FieldType.array (.object "SheetBranches$Content")).toString) = some c := by rw [hvm.findClass]; exact h5
  unfold va_AM Cond.before Cond.holds
  simp only [Cond.value]
  rw [f1, Option.bind_some]
  refine (congrArg (fun o : Option Nat => (o.bind (fun c => (U.vm.classes[c]?).map fun (k : Class) => match k.kind with | .array _ ty => decide (ty = FieldType.array (.object "SheetBranches$Content")) && decide (U.vm.findClass ("[" ++ (FieldType.array (.object "SheetBranches$Content")).toString) = some c) | _ => false) == some true)) hi).trans ?_
  simp [hk', hkind, f2]
abbrev gA (ω : gW) : Nat → Prop := fun q => ω.lo ≤ q
/-- texts by class and entry; statics that hold a constant; pairs that cannot be cast; arrays of references -/
def gstab : List (String × Nat × String × Nat) := [("SheetBranches$Area", 43, "#REF", 100), ("SheetBranches$Gone", 17, "#REF", 100), ("SheetBranches$Reader", 275, "#REF", 100), ("SheetBranches$Spot", 69, "#REF", 100), ("SheetBranchesModel", 399, "#REF", 100), ("SheetBranches$Reader", 93, "TRUE", 101), ("SheetBranches$Truth", 18, "TRUE", 101), ("SheetBranches$Worth", 48, "TRUE", 101), ("SheetBranchesModel", 310, "TRUE", 101), ("SheetBranches$Reader", 99, "FALSE", 102), ("SheetBranches$Truth", 20, "FALSE", 102), ("SheetBranches$Worth", 50, "FALSE", 102), ("SheetBranchesModel", 316, "FALSE", 102), ("SheetBranches$Name", 104, "IF", 103), ("SheetBranchesModel", 456, "IF", 103), ("SheetBranches$Name", 108, "AND", 104), ("SheetBranchesModel", 458, "AND", 104), ("SheetBranches$Name", 109, "OR", 105), ("SheetBranchesModel", 460, "OR", 105), ("SheetBranches$Name", 112, "SUM", 106), ("SheetBranchesModel", 462, "SUM", 106), ("SheetBranches$Name", 113, "MIN", 107), ("SheetBranchesModel", 464, "MIN", 107), ("SheetBranches$Name", 114, "MAX", 108), ("SheetBranchesModel", 466, "MAX", 108), ("SheetBranches$Name", 115, "COUNT", 109), ("SheetBranchesModel", 468, "COUNT", 109), ("SheetBranches$Name", 110, "NOT", 110), ("SheetBranchesModel", 470, "NOT", 110), ("SheetBranches$Name", 111, "ABS", 111), ("SheetBranchesModel", 472, "ABS", 111), ("SheetBranches$Name", 116, "LEN", 112), ("SheetBranchesModel", 474, "LEN", 112), ("SheetBranches$Name", 122, "ISERR", 113), ("SheetBranchesModel", 476, "ISERR", 113), ("SheetBranches$Name", 123, "ROW", 114), ("SheetBranchesModel", 478, "ROW", 114), ("SheetBranches$Name", 124, "COL", 115), ("SheetBranchesModel", 480, "COL", 115), ("SheetBranches$Name", 117, "LEFT", 116), ("SheetBranchesModel", 482, "LEFT", 116), ("SheetBranches$Name", 118, "RIGHT", 117), ("SheetBranchesModel", 484, "RIGHT", 117), ("SheetBranches$Name", 120, "INDEX", 118), ("SheetBranchesModel", 486, "INDEX", 118), ("SheetBranches$Name", 119, "MATCH", 119), ("SheetBranchesModel", 488, "MATCH", 119), ("SheetBranches$Name", 121, "COUNTIF", 120), ("SheetBranchesModel", 490, "COUNTIF", 120), ("SheetBranchesModel", 548, "", 121), ("SheetBranches$Sign", 68, "=", 122), ("SheetBranchesModel", 755, "=", 122), ("SheetBranches$Sign", 74, "<>", 123), ("SheetBranchesModel", 757, "<>", 123), ("SheetBranches$Sign", 77, "<", 124), ("SheetBranchesModel", 759, "<", 124), ("SheetBranches$Sign", 80, "<=", 125), ("SheetBranchesModel", 761, "<=", 125), ("SheetBranches$Sign", 83, ">", 126), ("SheetBranchesModel", 763, ">", 126), ("SheetBranches$Sign", 86, ">=", 127), ("SheetBranchesModel", 765, ">=", 127), ("SheetBranches$Sign", 89, "&", 128), ("SheetBranchesModel", 767, "&", 128), ("SheetBranches$Sign", 92, "+", 129), ("SheetBranchesModel", 769, "+", 129), ("SheetBranches$Sign", 95, "-", 130), ("SheetBranchesModel", 771, "-", 130), ("SheetBranches$Sign", 98, "*", 131), ("SheetBranchesModel", 773, "*", 131), ("SheetBranches$Sign", 101, "/", 132), ("SheetBranchesModel", 775, "/", 132), ("SheetBranches$Sign", 104, "%", 133), ("SheetBranchesModel", 777, "%", 133)]
def gztab : List (String × String × String × Nat) := [("SheetBranches$Name", "IF", "LSheetBranches$Name;", 0), ("SheetBranches$Name", "AND", "LSheetBranches$Name;", 1), ("SheetBranches$Name", "OR", "LSheetBranches$Name;", 2), ("SheetBranches$Name", "NOT", "LSheetBranches$Name;", 3), ("SheetBranches$Name", "ABS", "LSheetBranches$Name;", 4), ("SheetBranches$Name", "SUM", "LSheetBranches$Name;", 5), ("SheetBranches$Name", "MIN", "LSheetBranches$Name;", 6), ("SheetBranches$Name", "MAX", "LSheetBranches$Name;", 7), ("SheetBranches$Name", "COUNT", "LSheetBranches$Name;", 8), ("SheetBranches$Name", "LEN", "LSheetBranches$Name;", 9), ("SheetBranches$Name", "LEFT", "LSheetBranches$Name;", 10), ("SheetBranches$Name", "RIGHT", "LSheetBranches$Name;", 11), ("SheetBranches$Name", "MATCH", "LSheetBranches$Name;", 12), ("SheetBranches$Name", "INDEX", "LSheetBranches$Name;", 13), ("SheetBranches$Name", "COUNTIF", "LSheetBranches$Name;", 14), ("SheetBranches$Name", "ISERR", "LSheetBranches$Name;", 15), ("SheetBranches$Name", "ROW", "LSheetBranches$Name;", 16), ("SheetBranches$Name", "COL", "LSheetBranches$Name;", 17), ("SheetBranches$Sign", "SAME", "LSheetBranches$Sign;", 20), ("SheetBranches$Sign", "UNLIKE", "LSheetBranches$Sign;", 21), ("SheetBranches$Sign", "LESS", "LSheetBranches$Sign;", 22), ("SheetBranches$Sign", "UP_TO", "LSheetBranches$Sign;", 23), ("SheetBranches$Sign", "MORE", "LSheetBranches$Sign;", 24), ("SheetBranches$Sign", "FROM", "LSheetBranches$Sign;", 25), ("SheetBranches$Sign", "JOIN", "LSheetBranches$Sign;", 26), ("SheetBranches$Sign", "PLUS", "LSheetBranches$Sign;", 27), ("SheetBranches$Sign", "TAKE", "LSheetBranches$Sign;", 28), ("SheetBranches$Sign", "TIMES", "LSheetBranches$Sign;", 29), ("SheetBranches$Sign", "OVER", "LSheetBranches$Sign;", 30), ("SheetBranches$Sign", "REST", "LSheetBranches$Sign;", 31), ("SheetBranches$Name", "$VALUES", "[LSheetBranches$Name;", 40)]
def gnc : List (String × String) := [("SheetBranches$Whole", "SheetBranches$Words"), ("SheetBranches$Whole", "SheetBranches$Gone"), ("SheetBranches$Whole", "SheetBranches$Spot"), ("SheetBranches$Whole", "SheetBranches$Truth"), ("SheetBranches$Whole", "SheetBranches$Area"), ("SheetBranches$Whole", "SheetBranches$Call"), ("SheetBranches$Whole", "SheetBranches$Minus"), ("SheetBranches$Whole", "SheetBranches$Two"), ("SheetBranches$Whole", "SheetBranches$Formula"), ("SheetBranches$Words", "SheetBranches$Whole"), ("SheetBranches$Words", "SheetBranches$Gone"), ("SheetBranches$Words", "SheetBranches$Spot"), ("SheetBranches$Words", "SheetBranches$Truth"), ("SheetBranches$Words", "SheetBranches$Area"), ("SheetBranches$Words", "SheetBranches$Call"), ("SheetBranches$Words", "SheetBranches$Minus"), ("SheetBranches$Words", "SheetBranches$Two"), ("SheetBranches$Words", "SheetBranches$Formula"), ("SheetBranches$Gone", "SheetBranches$Whole"), ("SheetBranches$Gone", "SheetBranches$Words"), ("SheetBranches$Gone", "SheetBranches$Spot"), ("SheetBranches$Gone", "SheetBranches$Truth"), ("SheetBranches$Gone", "SheetBranches$Area"), ("SheetBranches$Gone", "SheetBranches$Call"), ("SheetBranches$Gone", "SheetBranches$Minus"), ("SheetBranches$Gone", "SheetBranches$Two"), ("SheetBranches$Gone", "SheetBranches$Formula"), ("SheetBranches$Spot", "SheetBranches$Whole"), ("SheetBranches$Spot", "SheetBranches$Words"), ("SheetBranches$Spot", "SheetBranches$Gone"), ("SheetBranches$Spot", "SheetBranches$Truth"), ("SheetBranches$Spot", "SheetBranches$Area"), ("SheetBranches$Spot", "SheetBranches$Call"), ("SheetBranches$Spot", "SheetBranches$Minus"), ("SheetBranches$Spot", "SheetBranches$Two"), ("SheetBranches$Spot", "SheetBranches$Formula"), ("SheetBranches$Truth", "SheetBranches$Whole"), ("SheetBranches$Truth", "SheetBranches$Words"), ("SheetBranches$Truth", "SheetBranches$Gone"), ("SheetBranches$Truth", "SheetBranches$Spot"), ("SheetBranches$Truth", "SheetBranches$Area"), ("SheetBranches$Truth", "SheetBranches$Call"), ("SheetBranches$Truth", "SheetBranches$Minus"), ("SheetBranches$Truth", "SheetBranches$Two"), ("SheetBranches$Truth", "SheetBranches$Formula"), ("SheetBranches$Area", "SheetBranches$Whole"), ("SheetBranches$Area", "SheetBranches$Words"), ("SheetBranches$Area", "SheetBranches$Gone"), ("SheetBranches$Area", "SheetBranches$Spot"), ("SheetBranches$Area", "SheetBranches$Truth"), ("SheetBranches$Area", "SheetBranches$Call"), ("SheetBranches$Area", "SheetBranches$Minus"), ("SheetBranches$Area", "SheetBranches$Two"), ("SheetBranches$Area", "SheetBranches$Formula"), ("SheetBranches$Call", "SheetBranches$Whole"), ("SheetBranches$Call", "SheetBranches$Words"), ("SheetBranches$Call", "SheetBranches$Gone"), ("SheetBranches$Call", "SheetBranches$Spot"), ("SheetBranches$Call", "SheetBranches$Truth"), ("SheetBranches$Call", "SheetBranches$Area"), ("SheetBranches$Call", "SheetBranches$Minus"), ("SheetBranches$Call", "SheetBranches$Two"), ("SheetBranches$Call", "SheetBranches$Formula"), ("SheetBranches$Minus", "SheetBranches$Whole"), ("SheetBranches$Minus", "SheetBranches$Words"), ("SheetBranches$Minus", "SheetBranches$Gone"), ("SheetBranches$Minus", "SheetBranches$Spot"), ("SheetBranches$Minus", "SheetBranches$Truth"), ("SheetBranches$Minus", "SheetBranches$Area"), ("SheetBranches$Minus", "SheetBranches$Call"), ("SheetBranches$Minus", "SheetBranches$Two"), ("SheetBranches$Minus", "SheetBranches$Formula"), ("SheetBranches$Two", "SheetBranches$Whole"), ("SheetBranches$Two", "SheetBranches$Words"), ("SheetBranches$Two", "SheetBranches$Gone"), ("SheetBranches$Two", "SheetBranches$Spot"), ("SheetBranches$Two", "SheetBranches$Truth"), ("SheetBranches$Two", "SheetBranches$Area"), ("SheetBranches$Two", "SheetBranches$Call"), ("SheetBranches$Two", "SheetBranches$Minus"), ("SheetBranches$Two", "SheetBranches$Formula"), ("SheetBranches$Formula", "SheetBranches$Whole"), ("SheetBranches$Formula", "SheetBranches$Words"), ("SheetBranches$Formula", "SheetBranches$Gone"), ("SheetBranches$Formula", "SheetBranches$Spot"), ("SheetBranches$Formula", "SheetBranches$Truth"), ("SheetBranches$Formula", "SheetBranches$Area"), ("SheetBranches$Formula", "SheetBranches$Call"), ("SheetBranches$Formula", "SheetBranches$Minus"), ("SheetBranches$Formula", "SheetBranches$Two"), ("java/lang/IndexOutOfBoundsException", "java/lang/IllegalArgumentException"), ("java/lang/IndexOutOfBoundsException", "java/lang/IllegalStateException"), ("java/lang/IndexOutOfBoundsException", "java/lang/UnsupportedOperationException"), ("java/lang/IndexOutOfBoundsException", "java/util/NoSuchElementException"), ("java/lang/IllegalArgumentException", "java/lang/IndexOutOfBoundsException"), ("java/lang/IllegalArgumentException", "java/lang/IllegalStateException"), ("java/lang/IllegalArgumentException", "java/lang/UnsupportedOperationException"), ("java/lang/IllegalArgumentException", "java/util/NoSuchElementException"), ("java/lang/IllegalStateException", "java/lang/IndexOutOfBoundsException"), ("java/lang/IllegalStateException", "java/lang/IllegalArgumentException"), ("java/lang/IllegalStateException", "java/lang/UnsupportedOperationException"), ("java/lang/IllegalStateException", "java/util/NoSuchElementException"), ("java/lang/UnsupportedOperationException", "java/lang/IndexOutOfBoundsException"), ("java/lang/UnsupportedOperationException", "java/lang/IllegalArgumentException"), ("java/lang/UnsupportedOperationException", "java/lang/IllegalStateException"), ("java/lang/UnsupportedOperationException", "java/util/NoSuchElementException"), ("java/util/NoSuchElementException", "java/lang/IndexOutOfBoundsException"), ("java/util/NoSuchElementException", "java/lang/IllegalArgumentException"), ("java/util/NoSuchElementException", "java/lang/IllegalStateException"), ("java/util/NoSuchElementException", "java/lang/UnsupportedOperationException")]
def gao : List String := ["SheetBranches$Version", "SheetBranches$Sheet", "SheetBranches$Conflict", "SheetBranches$Worth", "SheetBranches$Part", "SheetBranches$Name", "SheetBranches$Content"]
/-- fields of the constants: owner, name, descriptor; number of it in the table -/
def gnf : List (String × String × String × Nat) := [("java/lang/Enum", "ordinal", "I", 0), ("SheetBranches$Name", "least", "I", 2), ("SheetBranches$Name", "most", "I", 3), ("SheetBranches$Name", "must", "I", 4), ("SheetBranches$Name", "may", "I", 5)]
def gsf : List (String × String × String × Nat) := [("java/lang/Enum", "ordinal", "I", 0), ("SheetBranches$Sign", "rank", "I", 2)]
/-- an array's cell as one that was made: its monitor and hash may be others -/
def gLikeA (H : Heap) (q : Nat) (cA : ClassId) (n : Nat) (f : Nat → Value) : Prop := ∃ cell : Cell, H[q]? = some cell ∧ cell.cls = cA ∧ (∀ k, cell.vm ≠ .statics k) ∧ cell.vm ≠ .unknown ∧ cell.slots = (arrV cA n f).slots
theorem gLikeA.of {H : Heap} {q : Nat} {cA : ClassId} {n : Nat} {f : Nat → Value} (h : H[q]? = some (arrV cA n f)) : gLikeA H q cA n f := ⟨_, h, rfl, fun _ h => (by cases h), fun h => (by cases h), rfl⟩
/-- what stands in the heap from before the run, and stays -/
def gHp (ω : gW) (U : State) (H : Heap) : Prop :=
  (∀ q ∈ gztab, va_Z q.1 q.2.1 q.2.2.1 (.ref (ω.st q.2.2.2)) (gA ω) U H) ∧
  (∀ i, i < 34 → va_O "java/lang/String" (ω.st (100 + i)) (gA ω) U H ∧ va_OF "java/lang/String" "coder" "B" (.int 0) (ω.st (100 + i)) (gA ω) U H ∧ va_OF "java/lang/String" "value" "[B" (.ref (ω.st (200 + i))) (ω.st (100 + i)) (gA ω) U H ∧ va_T .byte (ω.st (200 + i)) (gtx.getD i []).length (fun j => .int (Int32.ofInt ((gtx.getD i []).getD j 0))) (gA ω) U H) ∧
  (∀ k, k < 18 → va_O "SheetBranches$Name" (ω.st k) (gA ω) U H ∧ (∀ q ∈ gnf, va_OF q.1 q.2.1 q.2.2.1 (.int (Int32.ofInt ((gnm.getD k []).getD q.2.2.2 0))) (ω.st k) (gA ω) U H) ∧ va_OF "SheetBranches$Name" "text" "Ljava/lang/String;" (.ref (ω.st (100 + ((gnm.getD k []).getD 1 0).toNat))) (ω.st k) (gA ω) U H) ∧
  (∀ k, k < 12 → va_O "SheetBranches$Sign" (ω.st (20 + k)) (gA ω) U H ∧ (∀ q ∈ gsf, va_OF q.1 q.2.1 q.2.2.1 (.int (Int32.ofInt ((gsg.getD k []).getD q.2.2.2 0))) (ω.st (20 + k)) (gA ω) U H) ∧ va_OF "SheetBranches$Sign" "text" "Ljava/lang/String;" (.ref (ω.st (100 + ((gsg.getD k []).getD 1 0).toNat))) (ω.st (20 + k)) (gA ω) U H) ∧
  (gLikeA H (ω.st 40) (ω.A 9) 18 (fun j => .ref (ω.st j)) ∧ ¬ gA ω (ω.st 40)) ∧
  (vx_Zq Bundle.tN "UNASSIGNED_STACK" Bundle.steD (gA ω) U H ∧ vx_Zq Bundle.tN "SUPPRESSED_SENTINEL" Bundle.listD (gA ω) U H ∧ va_Z "java/lang/String" "COMPACT_STRINGS" "Z" (.int 1) (gA ω) U H ∧ va_Zq "jdk/internal/util/Preconditions" "SIOOBE_FORMATTER" "Ljava/util/function/BiFunction;" (gA ω) U H) ∧
  va_T .int (ω.st 50) (ω.st 51) (fun j => .int (Int32.ofInt (ω.sc j))) (gA ω) U H
/-- what the tables say, and go on saying -/
def gTb (ω : gW) (U : State) : Prop :=
  (∀ q ∈ gnc, va_Nc q.1 q.2 U) ∧ (∀ C ∈ gao, va_AO C U) ∧ (∀ x y C, (x, y, C) ∈ gfw → va_Fw C x y U) ∧ va_AM U
theorem gHp.moved {ω : gW} {u U : State} {H : Heap} (hvm : u.vm.Alike U.vm) (h : gHp ω u H) : gHp ω U H := by
  obtain ⟨h1, h2, h3, h4, h5, ⟨h6, h7, h8, h9⟩, h10⟩ := h
  refine ⟨fun q hq => (h1 q hq).moved hvm, fun i hi => ⟨(h2 i hi).1.moved hvm, (h2 i hi).2.1.moved hvm, (h2 i hi).2.2.1.moved hvm, (h2 i hi).2.2.2.moved hvm⟩, fun k hk => ⟨(h3 k hk).1.moved hvm, fun q hq => ((h3 k hk).2.1 q hq).moved hvm, (h3 k hk).2.2.moved hvm⟩, fun k hk => ⟨(h4 k hk).1.moved hvm, fun q hq => ((h4 k hk).2.1 q hq).moved hvm, (h4 k hk).2.2.moved hvm⟩, h5, ⟨h6.moved hvm, h7.moved hvm, h8.moved hvm, va_Zq.moved hvm h9⟩, h10.moved hvm⟩
theorem gHp.kept {ω : gW} {U : State} {H H1 : Heap} (h : gHp ω U H) (hq : ∀ a : Nat, a < H.size → ¬ gA ω a → H1[a]? = H[a]?) : gHp ω U H1 := by
  obtain ⟨h1, h2, h3, h4, h5, ⟨h6, h7, h8, h9⟩, h10⟩ := h
  refine ⟨fun q hq' => (h1 q hq').kept hq, fun i hi => ⟨(h2 i hi).1.kept hq, (h2 i hi).2.1.kept hq, (h2 i hi).2.2.1.kept hq, (h2 i hi).2.2.2.kept hq⟩, fun k hk => ⟨(h3 k hk).1.kept hq, fun q hq' => ((h3 k hk).2.1 q hq').kept hq, (h3 k hk).2.2.kept hq⟩, fun k hk => ⟨(h4 k hk).1.kept hq, fun q hq' => ((h4 k hk).2.1 q hq').kept hq, (h4 k hk).2.2.kept hq⟩, ⟨?_, h5.2⟩, ⟨h6.kept hq, h7.kept hq, h8.kept hq, va_Zq.kept h9 hq⟩, h10.kept hq⟩
  · obtain ⟨cell, c1, c2⟩ := h5.1
    exact ⟨cell, by rw [hq _ (Array.getElem?_eq_some_iff.mp c1).1 h5.2]; exact c1, c2⟩
theorem gTb.moved {ω : gW} {u U : State} (hvm : u.vm.Alike U.vm) (h : gTb ω u) : gTb ω U :=
  ⟨fun q hq => (h.1 q hq).moved hvm, fun C hC => (h.2.1 C hC).moved hvm, fun x y C hq => va_Fw.moved (gfw_ok hq) hvm (h.2.2.1 x y C hq), h.2.2.2.moved hvm⟩
def gKK (ω : gW) (U : State) : Prop := va_K ω.D gcl (gtys ω) U ∧ (∀ w ∈ lw_tbl, gNk w = true → va_Nw w U) ∧ gHp ω U U.heap ∧ gTb ω U ∧ ∀ q ∈ gstab, vk_R q.1 q.2.1 q.2.2.1 (ω.st q.2.2.2) U
theorem gKK.warm {ω : gW} {s U : State} (hW : s.WarmedH U.vm) (hq : ∀ a : Nat, a < s.heap.size → ¬ gA ω a → U.heap[a]? = s.heap[a]?) (h : gKK ω s) : gKK ω U :=
  ⟨va_K.moved hW.alike h.1, fun w h1 h2 => gNk_warm h2 hW (h.2.1 w h1 h2), (h.2.2.1.kept hq).moved hW.alike, h.2.2.2.1.moved hW.alike, fun q hq => (h.2.2.2.2 q hq).warm hW⟩
theorem gKK.same {ω : gW} {s U : State} (hv : s.vm = U.vm) (hh : s.heap = U.heap) (h : gKK ω s) : gKK ω U :=
  ⟨va_K.moved (hv ▸ Vm.Alike.refl s.vm) h.1, fun w h1 h2 => va_Nw.same (gNk_tab h2) hv (h.2.1 w h1 h2), hh ▸ h.2.2.1.moved (hv ▸ Vm.Alike.refl s.vm), h.2.2.2.1.moved (hv ▸ Vm.Alike.refl s.vm), fun q hq => (h.2.2.2.2 q hq).same hv.symm⟩
/-- a method: its name, code, locals, answer, handlers -/
abbrev gM : Type := MethodName × (ByteArray × (Nat × (Option FieldType × List (Nat × Nat × Nat × Nat))))
def gCx (μ : gM) (p : Program) (s : State) (m : MethodId) (args : Array Value) (meth : Method) (c : Code) : Prop :=
  p.tables.exec = Jvm.exec ∧ c.code = μ.2.1 ∧ c.maxLocals = μ.2.2.1 ∧ meth.sig.returnType = μ.2.2.2.1 ∧ meth.locks = false ∧ s.vm.findClass μ.1.cls = some m.cls ∧ (∀ w ∈ lw_all, w.before args s = true) ∧ meth.name = μ.1.name ∧ c.exceptionTable.toList = tableOf μ.2.2.2.2
/-- cells stay cells of their tag and length; addresses grow -/
def gE (σ0 σ : gMem) : Prop := mZ σ0 ≤ mZ σ ∧ mS σ0 ≤ mS σ ∧ (∀ a, mT σ0 a ≠ 0 → mT σ a = mT σ0 a ∧ mN σ a = mN σ0 a) ∧ (gOk σ0 → gOk σ)
theorem gE.rf {σ : gMem} : gE σ σ := ⟨Nat.le_refl _, Nat.le_refl _, fun _ _ => ⟨rfl, rfl⟩, fun h => h⟩
theorem gE.tr {σ0 σ1 σ2 : gMem} (h : gE σ0 σ1) (k : gE σ1 σ2) : gE σ0 σ2 :=
  ⟨Nat.le_trans h.1 k.1, Nat.le_trans h.2.1 k.2.1, fun a ha => by
    have h1 := h.2.2.1 a ha
    have h2 := k.2.2.1 a (by rw [h1.1]; exact ha)
    exact ⟨h2.1.trans h1.1, h2.2.trans h1.2⟩, fun o => k.2.2.2 (h.2.2.2 o)⟩
def gQ (ω : gW) (σ0 : gMem) (PR : Option gV → gMem → Prop) : Array Value → State → Outcome → State → Prop := fun _ st o t =>
  ∃ (v : Option gV) (σ' : gMem), o = .returned (v.map gval) ∧ PR v σ' ∧ gE σ0 σ' ∧ gSim ω σ' t.heap ∧ va_F (fun q => ω.lo ≤ q) st t
def gX (ω : gW) (σ0 : gMem) (PX : String → gMem → Prop) : String → State → State → Prop := fun E st t =>
  ∃ σ' : gMem, PX E σ' ∧ gE σ0 σ' ∧ gSim ω σ' t.heap ∧ va_F (fun q => ω.lo ≤ q) st t
abbrev gRm (d mc ms : Nat) : Room := { frames := d, cells := mc, slots := ms, locals := 64 * d }
/-- THE JUDGEMENT: the method μ, begun in memory σ0, now at pc with locals lv, stack st, memory σ, room for kc cells of ks slots, comes to its end as PR (returned) or PX (thrown) says -/
def G (ω : gW) (l : Launch) (d kc ks : Nat) (μ : gM) (σ0 : gMem) (PR : Option gV → gMem → Prop) (PX : String → gMem → Prop) (pc : Nat) (lv : List (Nat × gV)) (st : List gV) (σ : gMem) : Prop :=
  ∀ (p : Program) (e : Env) (s : State) (m : MethodId) (args : Array Value) (below : List Frame) (meth : Method) (c : Code) (H : Heap) (locs : List Loc) (cells slots mc ms : Nat) (ls : Array Slot),
    gCx μ p s m args meth c → gKK ω s → gSim ω σ H → va_S (fun q => ω.lo ≤ q) s.heap H locs → gE σ0 σ → ω.lo ≤ s.heap.size → cells + kc ≤ mc ∧ slots + ks ≤ ms → lv_has ls μ.2.2.1 (lv.map (fun q => (q.1, gval q.2))) →
    W p l e (gRm d mc ms) s m args below meth c H locs cells slots (vx_MQ below (gQ ω σ0 PR) (gX ω σ0 PX) args s mc ms (fun q => ω.lo ≤ q)) (F0 m pc ls (st.map gval))
/-- a contract: called with args in memory σ -/
def gP (ω : gW) (σ : gMem) (args : List gV) : Array Value → State → Prop := fun av U => av = (args.map gval).toArray ∧ gSim ω σ U.heap ∧ gKK ω U ∧ ω.lo ≤ U.heap.size
def gWs (μ : gM) : List Cond := if μ.2.2.2.2 = [] then Cond.code μ.1 μ.2.1 μ.2.2.1 μ.2.2.2.1 :: lw_all else Cond.codeWith μ.1 μ.2.1 μ.2.2.1 μ.2.2.2.1 μ.2.2.2.2 :: lw_all
def gC (ω : gW) (l : Launch) (d kc ks : Nat) (μ : gM) (args : List gV) (σ : gMem) (PR : Option gV → gMem → Prop) (PX : String → gMem → Prop) : Prop :=
  vx_Met l μ.1 (gWs μ) (gRm d kc ks) (gP ω σ args) (gQ ω σ PR) (gX ω σ PX) kc ks (fun q => ω.lo ≤ q)
theorem gat {ls : Array Slot} {nL : Nat} {lv : List (Nat × gV)} (h : lv_has ls nL (lv.map (fun q => (q.1, gval q.2)))) (j : Nat) {i : Nat} {v : gV} (hj : lv[j]? = some (i, v)) : ls[i]? = some (.val (gval v)) :=
  lv_at h j (by rw [List.getElem?_map, hj]; rfl)
theorem gatv {lv : List (Nat × gV)} {j i : Nat} {v : gV} (hj : lv[j]? = some (i, v)) : (lv.map (fun q => (q.1, gval q.2)))[j]? = some (i, gval v) := by
  rw [List.getElem?_map, hj]; rfl
theorem gpick {ls : Array Slot} {nL : Nat} {lv lv' : List (Nat × gV)} (h : lv_has ls nL (lv.map (fun q => (q.1, gval q.2)))) (js : List Nat) (hv : js.filterMap (fun j => lv[j]?) = lv') : lv_has ls nL (lv'.map (fun q => (q.1, gval q.2))) := by
  refine ⟨h.1, h.2.1, fun q hq => ?_⟩
  subst hv
  obtain ⟨x, hx, rfl⟩ := List.mem_map.mp hq
  obtain ⟨j, -, hj⟩ := List.mem_filterMap.mp hx
  exact gat h j hj
def gsto1 (lv : List (Nat × gV)) (i : Nat) (v : gV) : List (Nat × gV) := (i, v) :: lv.filter (fun q => !(q.1 == i) && !(q.1 + 1 == i && gcat q.2 == 2))
def gsto2 (lv : List (Nat × gV)) (i : Nat) (v : gV) : List (Nat × gV) := (i, v) :: lv.filter (fun q => !(q.1 == i) && (!(q.1 == i + 1) && !(q.1 + 1 == i && gcat q.2 == 2)))
theorem gsto1_map (lv : List (Nat × gV)) (i : Nat) (v : gV) {lv' : List (Nat × gV)} (h : gsto1 lv i v = lv') : (i, gval v) :: (lv.map (fun q => (q.1, gval q.2))).filter (fun q => !(q.1 == i) && !(q.1 + 1 == i && q.2.category == 2)) = lv'.map (fun q => (q.1, gval q.2)) := by
  subst h
  unfold gsto1
  rw [List.map_cons, List.filter_map]
  congr 2
  apply List.filter_congr
  intro q _
  simp [gval_cat]
theorem gsto2_map (lv : List (Nat × gV)) (i : Nat) (v : gV) {lv' : List (Nat × gV)} (h : gsto2 lv i v = lv') : (i, gval v) :: (lv.map (fun q => (q.1, gval q.2))).filter (fun q => !(q.1 == i) && (!(q.1 == i + 1) && !(q.1 + 1 == i && q.2.category == 2))) = lv'.map (fun q => (q.1, gval q.2)) := by
  subst h
  unfold gsto2
  rw [List.map_cons, List.filter_map]
  congr 2
  apply List.filter_congr
  intro q _
  simp [gval_cat]
theorem gb8 {n : Int} (h : -128 ≤ n ∧ n ≤ 127) : (Int8.ofInt n).toInt32 = Int32.ofInt n := Int8.toInt32_ofInt h.1 h.2
theorem gb16 {n : Int} (h : -32768 ≤ n ∧ n ≤ 32767) : (Int16.ofInt n).toInt32 = Int32.ofInt n := Int16.toInt32_ofInt h.1 h.2
theorem g32_eq {x y : Int} (hx : g32 x) (hy : g32 y) : Int32.ofInt x = Int32.ofInt y ↔ x = y := by
  rw [← Int32.toInt_inj, g32_of hx, g32_of hy]
theorem g32_lt {x y : Int} (hx : g32 x) (hy : g32 y) : Int32.ofInt x < Int32.ofInt y ↔ x < y := by
  rw [Int32.lt_iff_toInt_lt, g32_of hx, g32_of hy]
theorem g32_le {x y : Int} (hx : g32 x) (hy : g32 y) : Int32.ofInt x ≤ Int32.ofInt y ↔ x ≤ y := by
  rw [Int32.le_iff_toInt_le, g32_of hx, g32_of hy]
theorem g64_eq {x y : Int} (hx : g64 x) (hy : g64 y) : Int64.ofInt x = Int64.ofInt y ↔ x = y := by
  rw [← Int64.toInt_inj, g64_of hx, g64_of hy]
theorem g64_lt {x y : Int} (hx : g64 x) (hy : g64 y) : Int64.ofInt x < Int64.ofInt y ↔ x < y := by
  rw [Int64.lt_iff_toInt_lt, g64_of hx, g64_of hy]
theorem g32_ne {y : Int} (hy : g32 y) (h0 : y ≠ 0) : ¬ Int32.ofInt y = 0 := fun q => h0 ((g32_eq hy (by decide)).mp (q.trans rfl))
theorem g64_ne {y : Int} (hy : g64 y) (h0 : y ≠ 0) : ¬ Int64.ofInt y = 0 := fun q => h0 ((g64_eq hy (by decide)).mp (q.trans rfl))
theorem g32_rem {x y : Int} (hx : g32 x) (hy : g32 y) : Int32.ofInt (x.tmod y) = Int32.ofInt x - Int32.ofInt x / Int32.ofInt y * Int32.ofInt y := by
  rw [← Int32.ofInt_tdiv hx.1 hx.2 hy.1 hy.2, ← Int32.ofInt_mul, ← Int32.ofInt_sub]
  congr 1
  have := Int.tmod_def x y
  rw [this, Int.mul_comm]
theorem g64_rem {x y : Int} (hx : g64 x) (hy : g64 y) : Int64.ofInt (x.tmod y) = Int64.ofInt x - Int64.ofInt x / Int64.ofInt y * Int64.ofInt y := by
  rw [← Int64.ofInt_tdiv hx.1 hx.2 hy.1 hy.2, ← Int64.ofInt_mul, ← Int64.ofInt_sub]
  congr 1
  have := Int.tmod_def x y
  rw [this, Int.mul_comm]
theorem gcmp_of {x y : Int} (hx : g64 x) (hy : g64 y) : Int32.ofInt (if y < x then 1 else if x = y then 0 else -1) = lg_cmp (Int64.ofInt x) (Int64.ofInt y) := by
  unfold lg_cmp
  have e1 : (Int64.ofInt x > Int64.ofInt y) ↔ y < x := g64_lt hy hx
  have e2 : (Int64.ofInt x = Int64.ofInt y) ↔ x = y := g64_eq hx hy
  by_cases h1 : y < x
  · rw [if_pos h1, if_pos (e1.mpr h1)]; rfl
  · rw [if_neg h1, if_neg (fun q => h1 (e1.mp q))]
    by_cases h2 : x = y
    · rw [if_pos h2, if_pos (e2.mpr h2)]; rfl
    · rw [if_neg h2, if_neg (fun q => h2 (e2.mp q))]; rfl
def gopt : Nat → Option Nat
  | 0 => none
  | n + 1 => some n
theorem gopt_rf (x : Nat) : grv x = va_rf (gopt x) := by cases x <;> rfl
theorem gopt_eq {x y : Nat} : gopt x = gopt y ↔ x = y := by
  cases x <;> cases y <;> simp [gopt]
def gent : Nat → List gV → List (Nat × gV)
  | _, [] => []
  | i, v :: vs => (i, v) :: gent (i + gcat v) vs
theorem gent_map (vs : List gV) : ∀ i, lv_args i (vs.map gval) = (gent i vs).map (fun q => (q.1, gval q.2)) := by
  induction vs with
  | nil => intro i; rfl
  | cons v vs ih =>
    intro i
    simp only [List.map_cons, lv_args, gent, gval_cat]
    congr 1
    rw [← ih]
    congr 1
    rcases v with x | x | a <;> rfl
section GRows
variable {ω : gW} {l : Launch} {d kc ks : Nat} {μ : gM} {σ0 σ : gMem} {PR : Option gV → gMem → Prop} {PX : String → gMem → Prop} {pc : Nat} {lv lv' : List (Nat × gV)} {st : List gV}
theorem g_iconst {n : Int} (hd : decode μ.2.1 pc = .ok (.iconst n, 1)) (k : G ω l d kc ks μ σ0 PR PX (pc + 1) lv (vI n :: st) σ) : G ω l d kc ks μ σ0 PR PX pc lv (st) σ := by
  intro p e s m args below meth c H locs cells slots mc ms ls hC hK hS hA hE hz hr hl
  exact lv_iconst hC.1 hC.2.1 hd rfl (k p e s m args below meth c H locs cells slots mc ms ls hC hK hS hA hE hz hr hl)
theorem g_bipush {n : Int} (hd : decode μ.2.1 pc = .ok (.bipush n, 2)) (hv : -128 ≤ n ∧ n ≤ 127) (k : G ω l d kc ks μ σ0 PR PX (pc + 2) lv (vI n :: st) σ) : G ω l d kc ks μ σ0 PR PX pc lv (st) σ := by
  intro p e s m args below meth c H locs cells slots mc ms ls hC hK hS hA hE hz hr hl
  exact lv_bipush hC.1 hC.2.1 hd (gb8 hv) (k p e s m args below meth c H locs cells slots mc ms ls hC hK hS hA hE hz hr hl)
theorem g_sipush {n : Int} (hd : decode μ.2.1 pc = .ok (.sipush n, 3)) (hv : -32768 ≤ n ∧ n ≤ 32767) (k : G ω l d kc ks μ σ0 PR PX (pc + 3) lv (vI n :: st) σ) : G ω l d kc ks μ σ0 PR PX pc lv (st) σ := by
  intro p e s m args below meth c H locs cells slots mc ms ls hC hK hS hA hE hz hr hl
  exact lv_sipush hC.1 hC.2.1 hd (gb16 hv) (k p e s m args below meth c H locs cells slots mc ms ls hC hK hS hA hE hz hr hl)
theorem g_lconst {n : Fin 2} (hd : decode μ.2.1 pc = .ok (.lconst n, 1)) (k : G ω l d kc ks μ σ0 PR PX (pc + 1) lv (vL ((n : Nat) : Int) :: st) σ) : G ω l d kc ks μ σ0 PR PX pc lv (st) σ := by
  intro p e s m args below meth c H locs cells slots mc ms ls hC hK hS hA hE hz hr hl
  exact lv_lconst hC.1 hC.2.1 hd (Int64.ofInt_eq_ofNat).symm (k p e s m args below meth c H locs cells slots mc ms ls hC hK hS hA hE hz hr hl)
theorem g_null (hd : decode μ.2.1 pc = .ok (.aconst_null, 1)) (k : G ω l d kc ks μ σ0 PR PX (pc + 1) lv (vR 0 :: st) σ) : G ω l d kc ks μ σ0 PR PX pc lv (st) σ := by
  intro p e s m args below meth c H locs cells slots mc ms ls hC hK hS hA hE hz hr hl
  exact lv_null hC.1 hC.2.1 hd (k p e s m args below meth c H locs cells slots mc ms ls hC hK hS hA hE hz hr hl)
theorem g_ldc {i : Nat} {n : Int} (hd : decode μ.2.1 pc = .ok (.ldc i, 2)) (hq : Cond.constant μ.1.cls i (Int32.ofInt n) ∈ lw_all) (k : G ω l d kc ks μ σ0 PR PX (pc + 2) lv (vI n :: st) σ) : G ω l d kc ks μ σ0 PR PX pc lv (st) σ := by
  intro p e s m args below meth c H locs cells slots mc ms ls hC hK hS hA hE hz hr hl
  exact lv_ldc hC.1 hC.2.1 hC.2.2.2.2.2.1 (hC.2.2.2.2.2.2.1 _ hq) hd (k p e s m args below meth c H locs cells slots mc ms ls hC hK hS hA hE hz hr hl)
theorem g_ldcw {i : Nat} {n : Int} (hd : decode μ.2.1 pc = .ok (.ldc_w i, 3)) (hq : Cond.constant μ.1.cls i (Int32.ofInt n) ∈ lw_all) (k : G ω l d kc ks μ σ0 PR PX (pc + 3) lv (vI n :: st) σ) : G ω l d kc ks μ σ0 PR PX pc lv (st) σ := by
  intro p e s m args below meth c H locs cells slots mc ms ls hC hK hS hA hE hz hr hl
  exact lv_ldcw hC.1 hC.2.1 hC.2.2.2.2.2.1 (hC.2.2.2.2.2.2.1 _ hq) hd (k p e s m args below meth c H locs cells slots mc ms ls hC hK hS hA hE hz hr hl)
theorem g_ldc2 {i : Nat} {n : Int} (hd : decode μ.2.1 pc = .ok (.ldc2_w i, 3)) (hq : Cond.constantLong μ.1.cls i (Int64.ofInt n) ∈ lw_all) (k : G ω l d kc ks μ σ0 PR PX (pc + 3) lv (vL n :: st) σ) : G ω l d kc ks μ σ0 PR PX pc lv (st) σ := by
  intro p e s m args below meth c H locs cells slots mc ms ls hC hK hS hA hE hz hr hl
  exact lv_ldc2 hC.1 hC.2.1 hC.2.2.2.2.2.1 (hC.2.2.2.2.2.2.1 _ hq) hd (k p e s m args below meth c H locs cells slots mc ms ls hC hK hS hA hE hz hr hl)
theorem g_iload_n {k0 : Fin 4} {x : Int} (j : Nat) (hd : decode μ.2.1 pc = .ok (.iload_n k0, 1)) (hj : lv[j]? = some ((k0 : Nat), vI x)) (k : G ω l d kc ks μ σ0 PR PX (pc + 1) lv (vI x :: st) σ) : G ω l d kc ks μ σ0 PR PX pc lv (st) σ := by
  intro p e s m args below meth c H locs cells slots mc ms ls hC hK hS hA hE hz hr hl
  exact lv_iload_n hC.1 hC.2.1 hd rfl (gat hl j hj) (k p e s m args below meth c H locs cells slots mc ms ls hC hK hS hA hE hz hr hl)
theorem g_iload {i : Nat} {x : Int} (j : Nat) (hd : decode μ.2.1 pc = .ok (.iload i, 2)) (hj : lv[j]? = some (i, vI x)) (k : G ω l d kc ks μ σ0 PR PX (pc + 2) lv (vI x :: st) σ) : G ω l d kc ks μ σ0 PR PX pc lv (st) σ := by
  intro p e s m args below meth c H locs cells slots mc ms ls hC hK hS hA hE hz hr hl
  exact lv_iload hC.1 hC.2.1 hd (gat hl j hj) (k p e s m args below meth c H locs cells slots mc ms ls hC hK hS hA hE hz hr hl)
theorem g_lload_n {k0 : Fin 4} {x : Int} (j : Nat) (hd : decode μ.2.1 pc = .ok (.lload_n k0, 1)) (hj : lv[j]? = some ((k0 : Nat), vL x)) (k : G ω l d kc ks μ σ0 PR PX (pc + 1) lv (vL x :: st) σ) : G ω l d kc ks μ σ0 PR PX pc lv (st) σ := by
  intro p e s m args below meth c H locs cells slots mc ms ls hC hK hS hA hE hz hr hl
  exact lv_lload_n hC.1 hC.2.1 hd rfl (gat hl j hj) (k p e s m args below meth c H locs cells slots mc ms ls hC hK hS hA hE hz hr hl)
theorem g_lload {i : Nat} {x : Int} (j : Nat) (hd : decode μ.2.1 pc = .ok (.lload i, 2)) (hj : lv[j]? = some (i, vL x)) (k : G ω l d kc ks μ σ0 PR PX (pc + 2) lv (vL x :: st) σ) : G ω l d kc ks μ σ0 PR PX pc lv (st) σ := by
  intro p e s m args below meth c H locs cells slots mc ms ls hC hK hS hA hE hz hr hl
  exact lv_lload hC.1 hC.2.1 hd (gat hl j hj) (k p e s m args below meth c H locs cells slots mc ms ls hC hK hS hA hE hz hr hl)
theorem g_aload_n {k0 : Fin 4} {x : Nat} (j : Nat) (hd : decode μ.2.1 pc = .ok (.aload_n k0, 1)) (hj : lv[j]? = some ((k0 : Nat), vR x)) (k : G ω l d kc ks μ σ0 PR PX (pc + 1) lv (vR x :: st) σ) : G ω l d kc ks μ σ0 PR PX pc lv st σ := by
  intro p e s m args below meth c H locs cells slots mc ms ls hC hK hS hA hE hz hr hl
  have w := k p e s m args below meth c H locs cells slots mc ms ls hC hK hS hA hE hz hr hl
  have h2 := gat hl j hj
  cases x with
  | zero => exact lv_aload_nN hC.1 hC.2.1 hd rfl h2 w
  | succ n => exact lv_aload_n hC.1 hC.2.1 hd rfl h2 w
theorem g_aload {i x : Nat} (j : Nat) (hd : decode μ.2.1 pc = .ok (.aload i, 2)) (hj : lv[j]? = some (i, vR x)) (k : G ω l d kc ks μ σ0 PR PX (pc + 2) lv (vR x :: st) σ) : G ω l d kc ks μ σ0 PR PX pc lv st σ := by
  intro p e s m args below meth c H locs cells slots mc ms ls hC hK hS hA hE hz hr hl
  have w := k p e s m args below meth c H locs cells slots mc ms ls hC hK hS hA hE hz hr hl
  have h2 := gat hl j hj
  cases x with
  | zero => exact lv_aloadN hC.1 hC.2.1 hd h2 w
  | succ n => exact lv_aload hC.1 hC.2.1 hd h2 w
theorem g_istore_n {k0 : Fin 4} {i : Nat} {x : Int} (hd : decode μ.2.1 pc = .ok (.istore_n k0, 1)) (hi : (k0 : Nat) = i) (hn : i < μ.2.2.1) (hv : gsto1 lv i (vI x) = lv') (k : G ω l d kc ks μ σ0 PR PX (pc + 1) lv' st σ) : G ω l d kc ks μ σ0 PR PX pc lv (vI x :: st) σ := by
  intro p e s m args below meth c H locs cells slots mc ms ls hC hK hS hA hE hz hr hl
  exact lv_istore_n hC.1 hC.2.1 hd hi hl hn (gsto1_map lv i _ hv) (fun ls1 h1 => k p e s m args below meth c H locs cells slots mc ms ls1 hC hK hS hA hE hz hr h1)
theorem g_istore {i : Nat} {x : Int} (hd : decode μ.2.1 pc = .ok (.istore i, 2)) (hn : i < μ.2.2.1) (hv : gsto1 lv i (vI x) = lv') (k : G ω l d kc ks μ σ0 PR PX (pc + 2) lv' st σ) : G ω l d kc ks μ σ0 PR PX pc lv (vI x :: st) σ := by
  intro p e s m args below meth c H locs cells slots mc ms ls hC hK hS hA hE hz hr hl
  exact lv_istore hC.1 hC.2.1 hd hl hn (gsto1_map lv i _ hv) (fun ls1 h1 => k p e s m args below meth c H locs cells slots mc ms ls1 hC hK hS hA hE hz hr h1)
theorem g_lstore_n {k0 : Fin 4} {i : Nat} {x : Int} (hd : decode μ.2.1 pc = .ok (.lstore_n k0, 1)) (hi : (k0 : Nat) = i) (hn : i + 1 < μ.2.2.1) (hv : gsto2 lv i (vL x) = lv') (k : G ω l d kc ks μ σ0 PR PX (pc + 1) lv' st σ) : G ω l d kc ks μ σ0 PR PX pc lv (vL x :: st) σ := by
  intro p e s m args below meth c H locs cells slots mc ms ls hC hK hS hA hE hz hr hl
  exact lv_lstore_n hC.1 hC.2.1 hd hi hl hn (gsto2_map lv i _ hv) (fun ls1 h1 => k p e s m args below meth c H locs cells slots mc ms ls1 hC hK hS hA hE hz hr h1)
theorem g_lstore {i : Nat} {x : Int} (hd : decode μ.2.1 pc = .ok (.lstore i, 2)) (hn : i + 1 < μ.2.2.1) (hv : gsto2 lv i (vL x) = lv') (k : G ω l d kc ks μ σ0 PR PX (pc + 2) lv' st σ) : G ω l d kc ks μ σ0 PR PX pc lv (vL x :: st) σ := by
  intro p e s m args below meth c H locs cells slots mc ms ls hC hK hS hA hE hz hr hl
  exact lv_lstore hC.1 hC.2.1 hd hl hn (gsto2_map lv i _ hv) (fun ls1 h1 => k p e s m args below meth c H locs cells slots mc ms ls1 hC hK hS hA hE hz hr h1)
theorem g_astore_n {k0 : Fin 4} {i : Nat} {x : Nat} (hd : decode μ.2.1 pc = .ok (.astore_n k0, 1)) (hi : (k0 : Nat) = i) (hn : i < μ.2.2.1) (hv : gsto1 lv i (vR x) = lv') (k : G ω l d kc ks μ σ0 PR PX (pc + 1) lv' st σ) : G ω l d kc ks μ σ0 PR PX pc lv (vR x :: st) σ := by
  intro p e s m args below meth c H locs cells slots mc ms ls hC hK hS hA hE hz hr hl
  have q := gsto1_map lv i _ hv
  cases x with
  | zero => exact lv_astore_nN hC.1 hC.2.1 hd hi hl hn q (fun ls1 h1 => k p e s m args below meth c H locs cells slots mc ms ls1 hC hK hS hA hE hz hr h1)
  | succ n => exact lv_astore_n hC.1 hC.2.1 hd hi hl hn q (fun ls1 h1 => k p e s m args below meth c H locs cells slots mc ms ls1 hC hK hS hA hE hz hr h1)
theorem g_astore {i x : Nat} (hd : decode μ.2.1 pc = .ok (.astore i, 2)) (hn : i < μ.2.2.1) (hv : gsto1 lv i (vR x) = lv') (k : G ω l d kc ks μ σ0 PR PX (pc + 2) lv' st σ) : G ω l d kc ks μ σ0 PR PX pc lv (vR x :: st) σ := by
  intro p e s m args below meth c H locs cells slots mc ms ls hC hK hS hA hE hz hr hl
  have q := gsto1_map lv i _ hv
  cases x with
  | zero => exact lv_astoreN hC.1 hC.2.1 hd hl hn q (fun ls1 h1 => k p e s m args below meth c H locs cells slots mc ms ls1 hC hK hS hA hE hz hr h1)
  | succ n => exact lv_astore hC.1 hC.2.1 hd hl hn q (fun ls1 h1 => k p e s m args below meth c H locs cells slots mc ms ls1 hC hK hS hA hE hz hr h1)
theorem g_iinc {i : Nat} {n x y : Int} (j : Nat) (hd : decode μ.2.1 pc = .ok (.iinc i n, 3)) (hj : lv[j]? = some (i, vI x)) (hy : x + n = y) (hn : i < μ.2.2.1) (hv : gsto1 lv i (vI y) = lv') (k : G ω l d kc ks μ σ0 PR PX (pc + 3) lv' st σ) : G ω l d kc ks μ σ0 PR PX pc lv st σ := by
  intro p e s m args below meth c H locs cells slots mc ms ls hC hK hS hA hE hz hr hl
  subst hy
  exact lv_iinc hC.1 hC.2.1 hd hl (k := j) (gatv hj) (Int32.ofInt_add x n).symm hn (gsto1_map lv i _ hv) (fun ls1 h1 => k p e s m args below meth c H locs cells slots mc ms ls1 hC hK hS hA hE hz hr h1)
theorem g_loc (js : List Nat) (hv : js.filterMap (fun j => lv[j]?) = lv') (k : G ω l d kc ks μ σ0 PR PX pc lv' st σ) : G ω l d kc ks μ σ0 PR PX pc lv st σ := by
  intro p e s m args below meth c H locs cells slots mc ms ls hC hK hS hA hE hz hr hl
  exact k p e s m args below meth c H locs cells slots mc ms ls hC hK hS hA hE hz hr (gpick hl js hv)
theorem g_iadd {x y : Int} (hd : decode μ.2.1 pc = .ok (.iadd, 1)) (k : G ω l d kc ks μ σ0 PR PX (pc + 1) lv (vI (x + y) :: st) σ) : G ω l d kc ks μ σ0 PR PX pc lv (vI y :: vI x :: st) σ := by
  intro p e s m args below meth c H locs cells slots mc ms ls hC hK hS hA hE hz hr hl
  have w := k p e s m args below meth c H locs cells slots mc ms ls hC hK hS hA hE hz hr hl
  rw [List.map_cons, show gval (vI (x + y)) = Value.int (Int32.ofInt x + Int32.ofInt y) from congrArg _ (Int32.ofInt_add x y)] at w
  exact lv_iadd hC.1 hC.2.1 hd w
theorem g_isub {x y : Int} (hd : decode μ.2.1 pc = .ok (.isub, 1)) (k : G ω l d kc ks μ σ0 PR PX (pc + 1) lv (vI (x - y) :: st) σ) : G ω l d kc ks μ σ0 PR PX pc lv (vI y :: vI x :: st) σ := by
  intro p e s m args below meth c H locs cells slots mc ms ls hC hK hS hA hE hz hr hl
  have w := k p e s m args below meth c H locs cells slots mc ms ls hC hK hS hA hE hz hr hl
  rw [List.map_cons, show gval (vI (x - y)) = Value.int (Int32.ofInt x - Int32.ofInt y) from congrArg _ (Int32.ofInt_sub x y)] at w
  exact lv_isub hC.1 hC.2.1 hd w
theorem g_imul {x y : Int} (hd : decode μ.2.1 pc = .ok (.imul, 1)) (k : G ω l d kc ks μ σ0 PR PX (pc + 1) lv (vI (x * y) :: st) σ) : G ω l d kc ks μ σ0 PR PX pc lv (vI y :: vI x :: st) σ := by
  intro p e s m args below meth c H locs cells slots mc ms ls hC hK hS hA hE hz hr hl
  have w := k p e s m args below meth c H locs cells slots mc ms ls hC hK hS hA hE hz hr hl
  rw [List.map_cons, show gval (vI (x * y)) = Value.int (Int32.ofInt x * Int32.ofInt y) from congrArg _ (Int32.ofInt_mul x y)] at w
  exact lv_imul hC.1 hC.2.1 hd w
theorem g_ladd {x y : Int} (hd : decode μ.2.1 pc = .ok (.ladd, 1)) (k : G ω l d kc ks μ σ0 PR PX (pc + 1) lv (vL (x + y) :: st) σ) : G ω l d kc ks μ σ0 PR PX pc lv (vL y :: vL x :: st) σ := by
  intro p e s m args below meth c H locs cells slots mc ms ls hC hK hS hA hE hz hr hl
  have w := k p e s m args below meth c H locs cells slots mc ms ls hC hK hS hA hE hz hr hl
  rw [List.map_cons, show gval (vL (x + y)) = Value.long (Int64.ofInt x + Int64.ofInt y) from congrArg _ (Int64.ofInt_add x y)] at w
  exact lv_ladd hC.1 hC.2.1 hd w
theorem g_lsub {x y : Int} (hd : decode μ.2.1 pc = .ok (.lsub, 1)) (k : G ω l d kc ks μ σ0 PR PX (pc + 1) lv (vL (x - y) :: st) σ) : G ω l d kc ks μ σ0 PR PX pc lv (vL y :: vL x :: st) σ := by
  intro p e s m args below meth c H locs cells slots mc ms ls hC hK hS hA hE hz hr hl
  have w := k p e s m args below meth c H locs cells slots mc ms ls hC hK hS hA hE hz hr hl
  rw [List.map_cons, show gval (vL (x - y)) = Value.long (Int64.ofInt x - Int64.ofInt y) from congrArg _ (Int64.ofInt_sub x y)] at w
  exact lv_lsub hC.1 hC.2.1 hd w
theorem g_lmul {x y : Int} (hd : decode μ.2.1 pc = .ok (.lmul, 1)) (k : G ω l d kc ks μ σ0 PR PX (pc + 1) lv (vL (x * y) :: st) σ) : G ω l d kc ks μ σ0 PR PX pc lv (vL y :: vL x :: st) σ := by
  intro p e s m args below meth c H locs cells slots mc ms ls hC hK hS hA hE hz hr hl
  have w := k p e s m args below meth c H locs cells slots mc ms ls hC hK hS hA hE hz hr hl
  rw [List.map_cons, show gval (vL (x * y)) = Value.long (Int64.ofInt x * Int64.ofInt y) from congrArg _ (Int64.ofInt_mul x y)] at w
  exact lv_lmul hC.1 hC.2.1 hd w
theorem g_ineg {x : Int} (hd : decode μ.2.1 pc = .ok (.ineg, 1)) (k : G ω l d kc ks μ σ0 PR PX (pc + 1) lv (vI (-x) :: st) σ) : G ω l d kc ks μ σ0 PR PX pc lv (vI x :: st) σ := by
  intro p e s m args below meth c H locs cells slots mc ms ls hC hK hS hA hE hz hr hl
  have w := k p e s m args below meth c H locs cells slots mc ms ls hC hK hS hA hE hz hr hl
  rw [List.map_cons, show gval (vI (-x)) = Value.int (-Int32.ofInt x) from congrArg _ (Int32.ofInt_neg x)] at w
  exact lv_ineg hC.1 hC.2.1 hd w
theorem g_lneg {x : Int} (hd : decode μ.2.1 pc = .ok (.lneg, 1)) (k : G ω l d kc ks μ σ0 PR PX (pc + 1) lv (vL (-x) :: st) σ) : G ω l d kc ks μ σ0 PR PX pc lv (vL x :: st) σ := by
  intro p e s m args below meth c H locs cells slots mc ms ls hC hK hS hA hE hz hr hl
  have w := k p e s m args below meth c H locs cells slots mc ms ls hC hK hS hA hE hz hr hl
  rw [List.map_cons, show gval (vL (-x)) = Value.long (-Int64.ofInt x) from congrArg _ (Int64.ofInt_neg x)] at w
  exact lv_lneg hC.1 hC.2.1 hd w
theorem g_idiv {x y : Int} (hd : decode μ.2.1 pc = .ok (.idiv, 1)) (hx : g32 x) (hy : g32 y) (h0 : y ≠ 0) (k : G ω l d kc ks μ σ0 PR PX (pc + 1) lv (vI (x.tdiv y) :: st) σ) : G ω l d kc ks μ σ0 PR PX pc lv (vI y :: vI x :: st) σ := by
  intro p e s m args below meth c H locs cells slots mc ms ls hC hK hS hA hE hz hr hl
  have w := k p e s m args below meth c H locs cells slots mc ms ls hC hK hS hA hE hz hr hl
  rw [List.map_cons, show gval (vI (x.tdiv y)) = Value.int (Int32.ofInt x / Int32.ofInt y) from congrArg _ (Int32.ofInt_tdiv hx.1 hx.2 hy.1 hy.2)] at w
  exact lv_idiv hC.1 hC.2.1 hd (g32_ne hy h0) w
theorem g_ldiv {x y : Int} (hd : decode μ.2.1 pc = .ok (.ldiv, 1)) (hx : g64 x) (hy : g64 y) (h0 : y ≠ 0) (k : G ω l d kc ks μ σ0 PR PX (pc + 1) lv (vL (x.tdiv y) :: st) σ) : G ω l d kc ks μ σ0 PR PX pc lv (vL y :: vL x :: st) σ := by
  intro p e s m args below meth c H locs cells slots mc ms ls hC hK hS hA hE hz hr hl
  have w := k p e s m args below meth c H locs cells slots mc ms ls hC hK hS hA hE hz hr hl
  rw [List.map_cons, show gval (vL (x.tdiv y)) = Value.long (Int64.ofInt x / Int64.ofInt y) from congrArg _ (Int64.ofInt_tdiv hx.1 hx.2 hy.1 hy.2)] at w
  exact lv_ldiv hC.1 hC.2.1 hd (g64_ne hy h0) w
theorem g_irem {x y : Int} (hd : decode μ.2.1 pc = .ok (.irem, 1)) (hx : g32 x) (hy : g32 y) (h0 : y ≠ 0) (k : G ω l d kc ks μ σ0 PR PX (pc + 1) lv (vI (x.tmod y) :: st) σ) : G ω l d kc ks μ σ0 PR PX pc lv (vI y :: vI x :: st) σ := by
  intro p e s m args below meth c H locs cells slots mc ms ls hC hK hS hA hE hz hr hl
  have w := k p e s m args below meth c H locs cells slots mc ms ls hC hK hS hA hE hz hr hl
  rw [List.map_cons, show gval (vI (x.tmod y)) = Value.int (Int32.ofInt x - Int32.ofInt x / Int32.ofInt y * Int32.ofInt y) from congrArg _ (g32_rem hx hy)] at w
  exact lv_irem hC.1 hC.2.1 hd (g32_ne hy h0) w
theorem g_lrem {x y : Int} (hd : decode μ.2.1 pc = .ok (.lrem, 1)) (hx : g64 x) (hy : g64 y) (h0 : y ≠ 0) (k : G ω l d kc ks μ σ0 PR PX (pc + 1) lv (vL (x.tmod y) :: st) σ) : G ω l d kc ks μ σ0 PR PX pc lv (vL y :: vL x :: st) σ := by
  intro p e s m args below meth c H locs cells slots mc ms ls hC hK hS hA hE hz hr hl
  have w := k p e s m args below meth c H locs cells slots mc ms ls hC hK hS hA hE hz hr hl
  rw [List.map_cons, show gval (vL (x.tmod y)) = Value.long (Int64.ofInt x - Int64.ofInt x / Int64.ofInt y * Int64.ofInt y) from congrArg _ (g64_rem hx hy)] at w
  exact lv_lrem hC.1 hC.2.1 hd (g64_ne hy h0) w
def bAnd (x y : Int) : Int := (Int32.ofInt x &&& Int32.ofInt y).toInt
theorem g_iand {x y : Int} (hd : decode μ.2.1 pc = .ok (.iand, 1)) (k : G ω l d kc ks μ σ0 PR PX (pc + 1) lv (vI (bAnd x y) :: st) σ) : G ω l d kc ks μ σ0 PR PX pc lv (vI y :: vI x :: st) σ := by
  intro p e s m args below meth c H locs cells slots mc ms ls hC hK hS hA hE hz hr hl
  have w := k p e s m args below meth c H locs cells slots mc ms ls hC hK hS hA hE hz hr hl
  rw [List.map_cons, show gval (vI (bAnd x y)) = Value.int (Int32.ofInt x &&& Int32.ofInt y) from congrArg _ (Int32.ofInt_toInt _)] at w
  exact lv_iand hC.1 hC.2.1 hd w
def bOr (x y : Int) : Int := (Int32.ofInt x ||| Int32.ofInt y).toInt
theorem g_ior {x y : Int} (hd : decode μ.2.1 pc = .ok (.ior, 1)) (k : G ω l d kc ks μ σ0 PR PX (pc + 1) lv (vI (bOr x y) :: st) σ) : G ω l d kc ks μ σ0 PR PX pc lv (vI y :: vI x :: st) σ := by
  intro p e s m args below meth c H locs cells slots mc ms ls hC hK hS hA hE hz hr hl
  have w := k p e s m args below meth c H locs cells slots mc ms ls hC hK hS hA hE hz hr hl
  rw [List.map_cons, show gval (vI (bOr x y)) = Value.int (Int32.ofInt x ||| Int32.ofInt y) from congrArg _ (Int32.ofInt_toInt _)] at w
  exact lv_ior hC.1 hC.2.1 hd w
def bXor (x y : Int) : Int := (Int32.ofInt x ^^^ Int32.ofInt y).toInt
theorem g_ixor {x y : Int} (hd : decode μ.2.1 pc = .ok (.ixor, 1)) (k : G ω l d kc ks μ σ0 PR PX (pc + 1) lv (vI (bXor x y) :: st) σ) : G ω l d kc ks μ σ0 PR PX pc lv (vI y :: vI x :: st) σ := by
  intro p e s m args below meth c H locs cells slots mc ms ls hC hK hS hA hE hz hr hl
  have w := k p e s m args below meth c H locs cells slots mc ms ls hC hK hS hA hE hz hr hl
  rw [List.map_cons, show gval (vI (bXor x y)) = Value.int (Int32.ofInt x ^^^ Int32.ofInt y) from congrArg _ (Int32.ofInt_toInt _)] at w
  exact lv_ixor hC.1 hC.2.1 hd w
def bShl (x y : Int) : Int := (Int32.ofInt x <<< (Int32.ofInt y &&& 31)).toInt
theorem g_ishl {x y : Int} (hd : decode μ.2.1 pc = .ok (.ishl, 1)) (k : G ω l d kc ks μ σ0 PR PX (pc + 1) lv (vI (bShl x y) :: st) σ) : G ω l d kc ks μ σ0 PR PX pc lv (vI y :: vI x :: st) σ := by
  intro p e s m args below meth c H locs cells slots mc ms ls hC hK hS hA hE hz hr hl
  have w := k p e s m args below meth c H locs cells slots mc ms ls hC hK hS hA hE hz hr hl
  rw [List.map_cons, show gval (vI (bShl x y)) = Value.int (Int32.ofInt x <<< (Int32.ofInt y &&& 31)) from congrArg _ (Int32.ofInt_toInt _)] at w
  exact lv_ishl hC.1 hC.2.1 hd w
def bShr (x y : Int) : Int := (Int32.ofInt x >>> (Int32.ofInt y &&& 31)).toInt
theorem g_ishr {x y : Int} (hd : decode μ.2.1 pc = .ok (.ishr, 1)) (k : G ω l d kc ks μ σ0 PR PX (pc + 1) lv (vI (bShr x y) :: st) σ) : G ω l d kc ks μ σ0 PR PX pc lv (vI y :: vI x :: st) σ := by
  intro p e s m args below meth c H locs cells slots mc ms ls hC hK hS hA hE hz hr hl
  have w := k p e s m args below meth c H locs cells slots mc ms ls hC hK hS hA hE hz hr hl
  rw [List.map_cons, show gval (vI (bShr x y)) = Value.int (Int32.ofInt x >>> (Int32.ofInt y &&& 31)) from congrArg _ (Int32.ofInt_toInt _)] at w
  exact lv_ishr hC.1 hC.2.1 hd w
def lAnd (x y : Int) : Int := (Int64.ofInt x &&& Int64.ofInt y).toInt
theorem g_land {x y : Int} (hd : decode μ.2.1 pc = .ok (.land, 1)) (k : G ω l d kc ks μ σ0 PR PX (pc + 1) lv (vL (lAnd x y) :: st) σ) : G ω l d kc ks μ σ0 PR PX pc lv (vL y :: vL x :: st) σ := by
  intro p e s m args below meth c H locs cells slots mc ms ls hC hK hS hA hE hz hr hl
  have w := k p e s m args below meth c H locs cells slots mc ms ls hC hK hS hA hE hz hr hl
  rw [List.map_cons, show gval (vL (lAnd x y)) = Value.long (Int64.ofInt x &&& Int64.ofInt y) from congrArg _ (Int64.ofInt_toInt _)] at w
  exact lv_land hC.1 hC.2.1 hd w
def lOr (x y : Int) : Int := (Int64.ofInt x ||| Int64.ofInt y).toInt
theorem g_lor {x y : Int} (hd : decode μ.2.1 pc = .ok (.lor, 1)) (k : G ω l d kc ks μ σ0 PR PX (pc + 1) lv (vL (lOr x y) :: st) σ) : G ω l d kc ks μ σ0 PR PX pc lv (vL y :: vL x :: st) σ := by
  intro p e s m args below meth c H locs cells slots mc ms ls hC hK hS hA hE hz hr hl
  have w := k p e s m args below meth c H locs cells slots mc ms ls hC hK hS hA hE hz hr hl
  rw [List.map_cons, show gval (vL (lOr x y)) = Value.long (Int64.ofInt x ||| Int64.ofInt y) from congrArg _ (Int64.ofInt_toInt _)] at w
  exact lv_lor hC.1 hC.2.1 hd w
def lXor (x y : Int) : Int := (Int64.ofInt x ^^^ Int64.ofInt y).toInt
theorem g_lxor {x y : Int} (hd : decode μ.2.1 pc = .ok (.lxor, 1)) (k : G ω l d kc ks μ σ0 PR PX (pc + 1) lv (vL (lXor x y) :: st) σ) : G ω l d kc ks μ σ0 PR PX pc lv (vL y :: vL x :: st) σ := by
  intro p e s m args below meth c H locs cells slots mc ms ls hC hK hS hA hE hz hr hl
  have w := k p e s m args below meth c H locs cells slots mc ms ls hC hK hS hA hE hz hr hl
  rw [List.map_cons, show gval (vL (lXor x y)) = Value.long (Int64.ofInt x ^^^ Int64.ofInt y) from congrArg _ (Int64.ofInt_toInt _)] at w
  exact lv_lxor hC.1 hC.2.1 hd w
def bUshr (x y : Int) : Int := ((Int32.ofInt x).toUInt32 >>> ((Int32.ofInt y).toUInt32 &&& Int32.toUInt32 31)).toInt32.toInt
theorem g_iushr {x y : Int} (hd : decode μ.2.1 pc = .ok (.iushr, 1)) (k : G ω l d kc ks μ σ0 PR PX (pc + 1) lv (vI (bUshr x y) :: st) σ) : G ω l d kc ks μ σ0 PR PX pc lv (vI y :: vI x :: st) σ := by
  intro p e s m args below meth c H locs cells slots mc ms ls hC hK hS hA hE hz hr hl
  have w := k p e s m args below meth c H locs cells slots mc ms ls hC hK hS hA hE hz hr hl
  exact lv_iushr hC.1 hC.2.1 hd (Int32.ofInt_toInt _).symm w
def lShl (x y : Int) : Int := (Int64.ofInt x <<< ((Int32.ofInt y).toInt64 &&& 63)).toInt
theorem g_lshl {x y : Int} (hd : decode μ.2.1 pc = .ok (.lshl, 1)) (k : G ω l d kc ks μ σ0 PR PX (pc + 1) lv (vL (lShl x y) :: st) σ) : G ω l d kc ks μ σ0 PR PX pc lv (vI y :: vL x :: st) σ := by
  intro p e s m args below meth c H locs cells slots mc ms ls hC hK hS hA hE hz hr hl
  have w := k p e s m args below meth c H locs cells slots mc ms ls hC hK hS hA hE hz hr hl
  exact lv_lshl hC.1 hC.2.1 hd (Int64.ofInt_toInt _).symm w
def lShr (x y : Int) : Int := (Int64.ofInt x >>> ((Int32.ofInt y).toInt64 &&& 63)).toInt
theorem g_lshr {x y : Int} (hd : decode μ.2.1 pc = .ok (.lshr, 1)) (k : G ω l d kc ks μ σ0 PR PX (pc + 1) lv (vL (lShr x y) :: st) σ) : G ω l d kc ks μ σ0 PR PX pc lv (vI y :: vL x :: st) σ := by
  intro p e s m args below meth c H locs cells slots mc ms ls hC hK hS hA hE hz hr hl
  have w := k p e s m args below meth c H locs cells slots mc ms ls hC hK hS hA hE hz hr hl
  exact lv_lshr hC.1 hC.2.1 hd (Int64.ofInt_toInt _).symm w
def lUshr (x y : Int) : Int := (((Int64.ofInt x).toUInt64 >>> ((Int32.ofInt y).toInt64.toUInt64 &&& Int64.toUInt64 63)).toInt64).toInt
theorem g_lushr {x y : Int} (hd : decode μ.2.1 pc = .ok (.lushr, 1)) (k : G ω l d kc ks μ σ0 PR PX (pc + 1) lv (vL (lUshr x y) :: st) σ) : G ω l d kc ks μ σ0 PR PX pc lv (vI y :: vL x :: st) σ := by
  intro p e s m args below meth c H locs cells slots mc ms ls hC hK hS hA hE hz hr hl
  have w := k p e s m args below meth c H locs cells slots mc ms ls hC hK hS hA hE hz hr hl
  exact lv_lushr hC.1 hC.2.1 hd (Int64.ofInt_toInt _).symm w
def bByte (x : Int) : Int := (Int32.ofInt x).toInt8.toInt32.toInt
theorem g_i2b {x : Int} (hd : decode μ.2.1 pc = .ok (.i2b, 1)) (k : G ω l d kc ks μ σ0 PR PX (pc + 1) lv (vI (bByte x) :: st) σ) : G ω l d kc ks μ σ0 PR PX pc lv (vI x :: st) σ := by
  intro p e s m args below meth c H locs cells slots mc ms ls hC hK hS hA hE hz hr hl
  have w := k p e s m args below meth c H locs cells slots mc ms ls hC hK hS hA hE hz hr hl
  exact lv_i2b hC.1 hC.2.1 hd (Int32.ofInt_toInt _).symm w
theorem g_i2l {x : Int} (hd : decode μ.2.1 pc = .ok (.i2l, 1)) (hx : g32 x) (k : G ω l d kc ks μ σ0 PR PX (pc + 1) lv (vL x :: st) σ) : G ω l d kc ks μ σ0 PR PX pc lv (vI x :: st) σ := by
  intro p e s m args below meth c H locs cells slots mc ms ls hC hK hS hA hE hz hr hl
  have w := k p e s m args below meth c H locs cells slots mc ms ls hC hK hS hA hE hz hr hl
  exact lv_i2l hC.1 hC.2.1 hd (Int32.toInt64_ofInt hx.1 hx.2) w
theorem g_l2i {x : Int} (hd : decode μ.2.1 pc = .ok (.l2i, 1)) (k : G ω l d kc ks μ σ0 PR PX (pc + 1) lv (vI x :: st) σ) : G ω l d kc ks μ σ0 PR PX pc lv (vL x :: st) σ := by
  intro p e s m args below meth c H locs cells slots mc ms ls hC hK hS hA hE hz hr hl
  have w := k p e s m args below meth c H locs cells slots mc ms ls hC hK hS hA hE hz hr hl
  exact lv_l2i hC.1 hC.2.1 hd Int64.toInt32_ofInt w
def gcmp (x y : Int) : Int := if y < x then 1 else if x = y then 0 else -1
theorem g_lcmp {x y : Int} (hd : decode μ.2.1 pc = .ok (.lcmp, 1)) (hx : g64 x) (hy : g64 y) (k : G ω l d kc ks μ σ0 PR PX (pc + 1) lv (vI (gcmp x y) :: st) σ) : G ω l d kc ks μ σ0 PR PX pc lv (vL y :: vL x :: st) σ := by
  intro p e s m args below meth c H locs cells slots mc ms ls hC hK hS hA hE hz hr hl
  have w := k p e s m args below meth c H locs cells slots mc ms ls hC hK hS hA hE hz hr hl
  rw [List.map_cons, show gval (vI (gcmp x y)) = Value.int (lg_cmp (Int64.ofInt x) (Int64.ofInt y)) from congrArg _ (gcmp_of hx hy)] at w
  exact W.lcmp hC.1 hC.2.1 hd w
theorem g_dup {v : gV} (hd : decode μ.2.1 pc = .ok (.dup, 1)) (hv : gcat v = 1) (k : G ω l d kc ks μ σ0 PR PX (pc + 1) lv (v :: v :: st) σ) : G ω l d kc ks μ σ0 PR PX pc lv (v :: st) σ := by
  intro p e s m args below meth c H locs cells slots mc ms ls hC hK hS hA hE hz hr hl
  exact lv_dup hC.1 hC.2.1 hd ((gval_cat v).trans hv) (k p e s m args below meth c H locs cells slots mc ms ls hC hK hS hA hE hz hr hl)
theorem g_pop {v : gV} (hd : decode μ.2.1 pc = .ok (.pop, 1)) (hv : gcat v = 1) (k : G ω l d kc ks μ σ0 PR PX (pc + 1) lv (st) σ) : G ω l d kc ks μ σ0 PR PX pc lv (v :: st) σ := by
  intro p e s m args below meth c H locs cells slots mc ms ls hC hK hS hA hE hz hr hl
  exact lv_pop hC.1 hC.2.1 hd ((gval_cat v).trans hv) (k p e s m args below meth c H locs cells slots mc ms ls hC hK hS hA hE hz hr hl)
theorem g_dup2 {v u : gV} (hd : decode μ.2.1 pc = .ok (.dup2, 1)) (hv : gcat v = 1) (hu : gcat u = 1) (k : G ω l d kc ks μ σ0 PR PX (pc + 1) lv (v :: u :: v :: u :: st) σ) : G ω l d kc ks μ σ0 PR PX pc lv (v :: u :: st) σ := by
  intro p e s m args below meth c H locs cells slots mc ms ls hC hK hS hA hE hz hr hl
  exact lv_dup2_11 hC.1 hC.2.1 hd ((gval_cat v).trans hv) ((gval_cat u).trans hu) (k p e s m args below meth c H locs cells slots mc ms ls hC hK hS hA hE hz hr hl)
theorem g_icmp_eq {x y off : Int} {tgt : Nat} (hd : decode μ.2.1 pc = .ok (.if_icmp .eq off, 3)) (ht : (pc : Int) + off = (tgt : Int)) (hx : g32 x) (hy : g32 y) (kt : x = y → G ω l d kc ks μ σ0 PR PX tgt lv st σ) (kf : x ≠ y → G ω l d kc ks μ σ0 PR PX (pc + 3) lv st σ) : G ω l d kc ks μ σ0 PR PX pc lv (vI y :: vI x :: st) σ := by
  intro p e s m args below meth c H locs cells slots mc ms ls hC hK hS hA hE hz hr hl
  refine lv_icmp_eq hC.1 hC.2.1 hd ht (fun q => ?_) (fun q => ?_)
  · exact kt (by simpa [g32_eq hx hy, g32_lt hx hy, g32_lt hy hx, g32_le hx hy, g32_le hy hx] using q) p e s m args below meth c H locs cells slots mc ms ls hC hK hS hA hE hz hr hl
  · exact kf (by simp only [g32_eq hx hy, g32_lt hx hy, g32_lt hy hx, g32_le hx hy, g32_le hy hx] at q; omega) p e s m args below meth c H locs cells slots mc ms ls hC hK hS hA hE hz hr hl
theorem g_if_eq {x off : Int} {tgt : Nat} (hd : decode μ.2.1 pc = .ok (.ifCond .eq off, 3)) (ht : (pc : Int) + off = (tgt : Int)) (hx : g32 x) (kt : x = 0 → G ω l d kc ks μ σ0 PR PX tgt lv st σ) (kf : x ≠ 0 → G ω l d kc ks μ σ0 PR PX (pc + 3) lv st σ) : G ω l d kc ks μ σ0 PR PX pc lv (vI x :: st) σ := by
  intro p e s m args below meth c H locs cells slots mc ms ls hC hK hS hA hE hz hr hl
  have hy : g32 0 := by decide
  have e0 : (0 : Int32) = Int32.ofInt 0 := rfl
  refine lv_if_eq hC.1 hC.2.1 hd ht (fun q => ?_) (fun q => ?_)
  · rw [e0] at q; exact kt (by simpa only [ne_eq, g32_eq hx hy, g32_lt hx hy, g32_lt hy hx, g32_le hx hy, g32_le hy hx] using q) p e s m args below meth c H locs cells slots mc ms ls hC hK hS hA hE hz hr hl
  · rw [e0] at q; exact kf (by simp only [ne_eq, g32_eq hx hy, g32_lt hx hy, g32_lt hy hx, g32_le hx hy, g32_le hy hx] at q; omega) p e s m args below meth c H locs cells slots mc ms ls hC hK hS hA hE hz hr hl
theorem g_icmp_ne {x y off : Int} {tgt : Nat} (hd : decode μ.2.1 pc = .ok (.if_icmp .ne off, 3)) (ht : (pc : Int) + off = (tgt : Int)) (hx : g32 x) (hy : g32 y) (kt : x ≠ y → G ω l d kc ks μ σ0 PR PX tgt lv st σ) (kf : x = y → G ω l d kc ks μ σ0 PR PX (pc + 3) lv st σ) : G ω l d kc ks μ σ0 PR PX pc lv (vI y :: vI x :: st) σ := by
  intro p e s m args below meth c H locs cells slots mc ms ls hC hK hS hA hE hz hr hl
  refine lv_icmp_ne hC.1 hC.2.1 hd ht (fun q => ?_) (fun q => ?_)
  · exact kt (by simpa [g32_eq hx hy, g32_lt hx hy, g32_lt hy hx, g32_le hx hy, g32_le hy hx] using q) p e s m args below meth c H locs cells slots mc ms ls hC hK hS hA hE hz hr hl
  · exact kf (by simp only [g32_eq hx hy, g32_lt hx hy, g32_lt hy hx, g32_le hx hy, g32_le hy hx] at q; omega) p e s m args below meth c H locs cells slots mc ms ls hC hK hS hA hE hz hr hl
theorem g_if_ne {x off : Int} {tgt : Nat} (hd : decode μ.2.1 pc = .ok (.ifCond .ne off, 3)) (ht : (pc : Int) + off = (tgt : Int)) (hx : g32 x) (kt : x ≠ 0 → G ω l d kc ks μ σ0 PR PX tgt lv st σ) (kf : x = 0 → G ω l d kc ks μ σ0 PR PX (pc + 3) lv st σ) : G ω l d kc ks μ σ0 PR PX pc lv (vI x :: st) σ := by
  intro p e s m args below meth c H locs cells slots mc ms ls hC hK hS hA hE hz hr hl
  have hy : g32 0 := by decide
  have e0 : (0 : Int32) = Int32.ofInt 0 := rfl
  refine lv_if_ne hC.1 hC.2.1 hd ht (fun q => ?_) (fun q => ?_)
  · rw [e0] at q; exact kt (by simpa only [ne_eq, g32_eq hx hy, g32_lt hx hy, g32_lt hy hx, g32_le hx hy, g32_le hy hx] using q) p e s m args below meth c H locs cells slots mc ms ls hC hK hS hA hE hz hr hl
  · rw [e0] at q; exact kf (by simp only [ne_eq, g32_eq hx hy, g32_lt hx hy, g32_lt hy hx, g32_le hx hy, g32_le hy hx] at q; omega) p e s m args below meth c H locs cells slots mc ms ls hC hK hS hA hE hz hr hl
theorem g_icmp_lt {x y off : Int} {tgt : Nat} (hd : decode μ.2.1 pc = .ok (.if_icmp .lt off, 3)) (ht : (pc : Int) + off = (tgt : Int)) (hx : g32 x) (hy : g32 y) (kt : x < y → G ω l d kc ks μ σ0 PR PX tgt lv st σ) (kf : y ≤ x → G ω l d kc ks μ σ0 PR PX (pc + 3) lv st σ) : G ω l d kc ks μ σ0 PR PX pc lv (vI y :: vI x :: st) σ := by
  intro p e s m args below meth c H locs cells slots mc ms ls hC hK hS hA hE hz hr hl
  refine lv_icmp_lt hC.1 hC.2.1 hd ht (fun q => ?_) (fun q => ?_)
  · exact kt (by simpa [g32_eq hx hy, g32_lt hx hy, g32_lt hy hx, g32_le hx hy, g32_le hy hx] using q) p e s m args below meth c H locs cells slots mc ms ls hC hK hS hA hE hz hr hl
  · exact kf (by simp only [g32_eq hx hy, g32_lt hx hy, g32_lt hy hx, g32_le hx hy, g32_le hy hx] at q; omega) p e s m args below meth c H locs cells slots mc ms ls hC hK hS hA hE hz hr hl
theorem g_if_lt {x off : Int} {tgt : Nat} (hd : decode μ.2.1 pc = .ok (.ifCond .lt off, 3)) (ht : (pc : Int) + off = (tgt : Int)) (hx : g32 x) (kt : x < 0 → G ω l d kc ks μ σ0 PR PX tgt lv st σ) (kf : 0 ≤ x → G ω l d kc ks μ σ0 PR PX (pc + 3) lv st σ) : G ω l d kc ks μ σ0 PR PX pc lv (vI x :: st) σ := by
  intro p e s m args below meth c H locs cells slots mc ms ls hC hK hS hA hE hz hr hl
  have hy : g32 0 := by decide
  have e0 : (0 : Int32) = Int32.ofInt 0 := rfl
  refine lv_if_lt hC.1 hC.2.1 hd ht (fun q => ?_) (fun q => ?_)
  · rw [e0] at q; exact kt (by simpa only [ne_eq, g32_eq hx hy, g32_lt hx hy, g32_lt hy hx, g32_le hx hy, g32_le hy hx] using q) p e s m args below meth c H locs cells slots mc ms ls hC hK hS hA hE hz hr hl
  · rw [e0] at q; exact kf (by simp only [ne_eq, g32_eq hx hy, g32_lt hx hy, g32_lt hy hx, g32_le hx hy, g32_le hy hx] at q; omega) p e s m args below meth c H locs cells slots mc ms ls hC hK hS hA hE hz hr hl
theorem g_icmp_ge {x y off : Int} {tgt : Nat} (hd : decode μ.2.1 pc = .ok (.if_icmp .ge off, 3)) (ht : (pc : Int) + off = (tgt : Int)) (hx : g32 x) (hy : g32 y) (kt : y ≤ x → G ω l d kc ks μ σ0 PR PX tgt lv st σ) (kf : x < y → G ω l d kc ks μ σ0 PR PX (pc + 3) lv st σ) : G ω l d kc ks μ σ0 PR PX pc lv (vI y :: vI x :: st) σ := by
  intro p e s m args below meth c H locs cells slots mc ms ls hC hK hS hA hE hz hr hl
  refine lv_icmp_ge hC.1 hC.2.1 hd ht (fun q => ?_) (fun q => ?_)
  · exact kt (by simpa [g32_eq hx hy, g32_lt hx hy, g32_lt hy hx, g32_le hx hy, g32_le hy hx] using q) p e s m args below meth c H locs cells slots mc ms ls hC hK hS hA hE hz hr hl
  · exact kf (by simp only [g32_eq hx hy, g32_lt hx hy, g32_lt hy hx, g32_le hx hy, g32_le hy hx] at q; omega) p e s m args below meth c H locs cells slots mc ms ls hC hK hS hA hE hz hr hl
theorem g_if_ge {x off : Int} {tgt : Nat} (hd : decode μ.2.1 pc = .ok (.ifCond .ge off, 3)) (ht : (pc : Int) + off = (tgt : Int)) (hx : g32 x) (kt : 0 ≤ x → G ω l d kc ks μ σ0 PR PX tgt lv st σ) (kf : x < 0 → G ω l d kc ks μ σ0 PR PX (pc + 3) lv st σ) : G ω l d kc ks μ σ0 PR PX pc lv (vI x :: st) σ := by
  intro p e s m args below meth c H locs cells slots mc ms ls hC hK hS hA hE hz hr hl
  have hy : g32 0 := by decide
  have e0 : (0 : Int32) = Int32.ofInt 0 := rfl
  refine lv_if_ge hC.1 hC.2.1 hd ht (fun q => ?_) (fun q => ?_)
  · rw [e0] at q; exact kt (by simpa only [ne_eq, g32_eq hx hy, g32_lt hx hy, g32_lt hy hx, g32_le hx hy, g32_le hy hx] using q) p e s m args below meth c H locs cells slots mc ms ls hC hK hS hA hE hz hr hl
  · rw [e0] at q; exact kf (by simp only [ne_eq, g32_eq hx hy, g32_lt hx hy, g32_lt hy hx, g32_le hx hy, g32_le hy hx] at q; omega) p e s m args below meth c H locs cells slots mc ms ls hC hK hS hA hE hz hr hl
theorem g_icmp_gt {x y off : Int} {tgt : Nat} (hd : decode μ.2.1 pc = .ok (.if_icmp .gt off, 3)) (ht : (pc : Int) + off = (tgt : Int)) (hx : g32 x) (hy : g32 y) (kt : y < x → G ω l d kc ks μ σ0 PR PX tgt lv st σ) (kf : x ≤ y → G ω l d kc ks μ σ0 PR PX (pc + 3) lv st σ) : G ω l d kc ks μ σ0 PR PX pc lv (vI y :: vI x :: st) σ := by
  intro p e s m args below meth c H locs cells slots mc ms ls hC hK hS hA hE hz hr hl
  refine lv_icmp_gt hC.1 hC.2.1 hd ht (fun q => ?_) (fun q => ?_)
  · exact kt (by simpa [g32_eq hx hy, g32_lt hx hy, g32_lt hy hx, g32_le hx hy, g32_le hy hx] using q) p e s m args below meth c H locs cells slots mc ms ls hC hK hS hA hE hz hr hl
  · exact kf (by simp only [g32_eq hx hy, g32_lt hx hy, g32_lt hy hx, g32_le hx hy, g32_le hy hx] at q; omega) p e s m args below meth c H locs cells slots mc ms ls hC hK hS hA hE hz hr hl
theorem g_if_gt {x off : Int} {tgt : Nat} (hd : decode μ.2.1 pc = .ok (.ifCond .gt off, 3)) (ht : (pc : Int) + off = (tgt : Int)) (hx : g32 x) (kt : 0 < x → G ω l d kc ks μ σ0 PR PX tgt lv st σ) (kf : x ≤ 0 → G ω l d kc ks μ σ0 PR PX (pc + 3) lv st σ) : G ω l d kc ks μ σ0 PR PX pc lv (vI x :: st) σ := by
  intro p e s m args below meth c H locs cells slots mc ms ls hC hK hS hA hE hz hr hl
  have hy : g32 0 := by decide
  have e0 : (0 : Int32) = Int32.ofInt 0 := rfl
  refine lv_if_gt hC.1 hC.2.1 hd ht (fun q => ?_) (fun q => ?_)
  · rw [e0] at q; exact kt (by simpa only [ne_eq, g32_eq hx hy, g32_lt hx hy, g32_lt hy hx, g32_le hx hy, g32_le hy hx] using q) p e s m args below meth c H locs cells slots mc ms ls hC hK hS hA hE hz hr hl
  · rw [e0] at q; exact kf (by simp only [ne_eq, g32_eq hx hy, g32_lt hx hy, g32_lt hy hx, g32_le hx hy, g32_le hy hx] at q; omega) p e s m args below meth c H locs cells slots mc ms ls hC hK hS hA hE hz hr hl
theorem g_icmp_le {x y off : Int} {tgt : Nat} (hd : decode μ.2.1 pc = .ok (.if_icmp .le off, 3)) (ht : (pc : Int) + off = (tgt : Int)) (hx : g32 x) (hy : g32 y) (kt : x ≤ y → G ω l d kc ks μ σ0 PR PX tgt lv st σ) (kf : y < x → G ω l d kc ks μ σ0 PR PX (pc + 3) lv st σ) : G ω l d kc ks μ σ0 PR PX pc lv (vI y :: vI x :: st) σ := by
  intro p e s m args below meth c H locs cells slots mc ms ls hC hK hS hA hE hz hr hl
  refine lv_icmp_le hC.1 hC.2.1 hd ht (fun q => ?_) (fun q => ?_)
  · exact kt (by simpa [g32_eq hx hy, g32_lt hx hy, g32_lt hy hx, g32_le hx hy, g32_le hy hx] using q) p e s m args below meth c H locs cells slots mc ms ls hC hK hS hA hE hz hr hl
  · exact kf (by simp only [g32_eq hx hy, g32_lt hx hy, g32_lt hy hx, g32_le hx hy, g32_le hy hx] at q; omega) p e s m args below meth c H locs cells slots mc ms ls hC hK hS hA hE hz hr hl
theorem g_if_le {x off : Int} {tgt : Nat} (hd : decode μ.2.1 pc = .ok (.ifCond .le off, 3)) (ht : (pc : Int) + off = (tgt : Int)) (hx : g32 x) (kt : x ≤ 0 → G ω l d kc ks μ σ0 PR PX tgt lv st σ) (kf : 0 < x → G ω l d kc ks μ σ0 PR PX (pc + 3) lv st σ) : G ω l d kc ks μ σ0 PR PX pc lv (vI x :: st) σ := by
  intro p e s m args below meth c H locs cells slots mc ms ls hC hK hS hA hE hz hr hl
  have hy : g32 0 := by decide
  have e0 : (0 : Int32) = Int32.ofInt 0 := rfl
  refine lv_if_le hC.1 hC.2.1 hd ht (fun q => ?_) (fun q => ?_)
  · rw [e0] at q; exact kt (by simpa only [ne_eq, g32_eq hx hy, g32_lt hx hy, g32_lt hy hx, g32_le hx hy, g32_le hy hx] using q) p e s m args below meth c H locs cells slots mc ms ls hC hK hS hA hE hz hr hl
  · rw [e0] at q; exact kf (by simp only [ne_eq, g32_eq hx hy, g32_lt hx hy, g32_lt hy hx, g32_le hx hy, g32_le hy hx] at q; omega) p e s m args below meth c H locs cells slots mc ms ls hC hK hS hA hE hz hr hl
theorem g_goto {off : Int} {tgt : Nat} (hd : decode μ.2.1 pc = .ok (.goto off, 3)) (ht : (pc : Int) + off = (tgt : Int)) (k : G ω l d kc ks μ σ0 PR PX tgt lv st σ) : G ω l d kc ks μ σ0 PR PX pc lv st σ := by
  intro p e s m args below meth c H locs cells slots mc ms ls hC hK hS hA hE hz hr hl
  exact lv_goto hC.1 hC.2.1 hd ht (k p e s m args below meth c H locs cells slots mc ms ls hC hK hS hA hE hz hr hl)
theorem g_acmp_eq {x y : Nat} {off : Int} {tgt : Nat} (hd : decode μ.2.1 pc = .ok (.if_acmp .eq off, 3)) (ht : (pc : Int) + off = (tgt : Int)) (kt : x = y → G ω l d kc ks μ σ0 PR PX tgt lv st σ) (kf : x ≠ y → G ω l d kc ks μ σ0 PR PX (pc + 3) lv st σ) : G ω l d kc ks μ σ0 PR PX pc lv (vR y :: vR x :: st) σ := by
  intro p e s m args below meth c H locs cells slots mc ms ls hC hK hS hA hE hz hr hl
  have hx : gval (vR x) = va_rf (gopt x) := gopt_rf x
  have hy : gval (vR y) = va_rf (gopt y) := gopt_rf y
  rw [List.map_cons, List.map_cons, hx, hy]
  refine lv_acmp_eq hC.1 hC.2.1 hd ht (fun q => ?_) (fun q => ?_)
  · exact kt (by simpa only [ne_eq, gopt_eq] using q) p e s m args below meth c H locs cells slots mc ms ls hC hK hS hA hE hz hr hl
  · exact kf (by simp only [ne_eq, gopt_eq] at q; omega) p e s m args below meth c H locs cells slots mc ms ls hC hK hS hA hE hz hr hl
theorem g_acmp_ne {x y : Nat} {off : Int} {tgt : Nat} (hd : decode μ.2.1 pc = .ok (.if_acmp .ne off, 3)) (ht : (pc : Int) + off = (tgt : Int)) (kt : x ≠ y → G ω l d kc ks μ σ0 PR PX tgt lv st σ) (kf : x = y → G ω l d kc ks μ σ0 PR PX (pc + 3) lv st σ) : G ω l d kc ks μ σ0 PR PX pc lv (vR y :: vR x :: st) σ := by
  intro p e s m args below meth c H locs cells slots mc ms ls hC hK hS hA hE hz hr hl
  have hx : gval (vR x) = va_rf (gopt x) := gopt_rf x
  have hy : gval (vR y) = va_rf (gopt y) := gopt_rf y
  rw [List.map_cons, List.map_cons, hx, hy]
  refine lv_acmp_ne hC.1 hC.2.1 hd ht (fun q => ?_) (fun q => ?_)
  · exact kt (by simpa only [ne_eq, gopt_eq] using q) p e s m args below meth c H locs cells slots mc ms ls hC hK hS hA hE hz hr hl
  · exact kf (by simp only [ne_eq, gopt_eq] at q; omega) p e s m args below meth c H locs cells slots mc ms ls hC hK hS hA hE hz hr hl
theorem g_ifnull {x : Nat} {off : Int} {tgt : Nat} (hd : decode μ.2.1 pc = .ok (.ifnull off, 3)) (ht : (pc : Int) + off = (tgt : Int)) (kt : x = 0 → G ω l d kc ks μ σ0 PR PX tgt lv st σ) (kf : x ≠ 0 → G ω l d kc ks μ σ0 PR PX (pc + 3) lv st σ) : G ω l d kc ks μ σ0 PR PX pc lv (vR x :: st) σ := by
  intro p e s m args below meth c H locs cells slots mc ms ls hC hK hS hA hE hz hr hl
  cases x with
  | zero => exact lv_ifnullN hC.1 hC.2.1 hd ht (kt rfl p e s m args below meth c H locs cells slots mc ms ls hC hK hS hA hE hz hr hl)
  | succ n => exact lv_ifnull hC.1 hC.2.1 hd (kf (Nat.succ_ne_zero n) p e s m args below meth c H locs cells slots mc ms ls hC hK hS hA hE hz hr hl)
theorem g_ifnonnull {x : Nat} {off : Int} {tgt : Nat} (hd : decode μ.2.1 pc = .ok (.ifnonnull off, 3)) (ht : (pc : Int) + off = (tgt : Int)) (kt : x ≠ 0 → G ω l d kc ks μ σ0 PR PX tgt lv st σ) (kf : x = 0 → G ω l d kc ks μ σ0 PR PX (pc + 3) lv st σ) : G ω l d kc ks μ σ0 PR PX pc lv (vR x :: st) σ := by
  intro p e s m args below meth c H locs cells slots mc ms ls hC hK hS hA hE hz hr hl
  cases x with
  | zero => exact lv_ifnonnullN hC.1 hC.2.1 hd (kf rfl p e s m args below meth c H locs cells slots mc ms ls hC hK hS hA hE hz hr hl)
  | succ n => exact lv_ifnonnull hC.1 hC.2.1 hd ht (kt (Nat.succ_ne_zero n) p e s m args below meth c H locs cells slots mc ms ls hC hK hS hA hE hz hr hl)
theorem g_tableOut {dflt lo hi : Int} {offs : Array Int} {len : Nat} {x : Int} {tgt : Nat} (hd : decode μ.2.1 pc = .ok (.tableswitch dflt lo hi offs, len)) (hx : g32 x) (h : x < lo ∨ hi < x) (ht : (pc : Int) + dflt = (tgt : Int)) (k : G ω l d kc ks μ σ0 PR PX tgt lv st σ) : G ω l d kc ks μ σ0 PR PX pc lv (vI x :: st) σ := by
  intro p e s m args below meth c H locs cells slots mc ms ls hC hK hS hA hE hz hr hl
  exact lv_tableOut hC.1 hC.2.1 hd (by rw [g32_of hx]; exact h) ht (k p e s m args below meth c H locs cells slots mc ms ls hC hK hS hA hE hz hr hl)
theorem g_tableIn {dflt lo hi : Int} {offs : Array Int} {len : Nat} {x off : Int} {tgt : Nat} (hd : decode μ.2.1 pc = .ok (.tableswitch dflt lo hi offs, len)) (hx : g32 x) (h1 : lo ≤ x) (h2 : x ≤ hi) (ho : offs[(x - lo).toNat]? = some off) (ht : (pc : Int) + off = (tgt : Int)) (k : G ω l d kc ks μ σ0 PR PX tgt lv st σ) : G ω l d kc ks μ σ0 PR PX pc lv (vI x :: st) σ := by
  intro p e s m args below meth c H locs cells slots mc ms ls hC hK hS hA hE hz hr hl
  exact lv_tableIn hC.1 hC.2.1 hd (by rw [g32_of hx]; omega) (by rw [g32_of hx]; omega) (by rw [g32_of hx]; exact ho) ht (k p e s m args below meth c H locs cells slots mc ms ls hC hK hS hA hE hz hr hl)
theorem g_topw {x y : Int} (h : Int32.ofInt y = Int32.ofInt x) (k : G ω l d kc ks μ σ0 PR PX pc lv (vI y :: st) σ) : G ω l d kc ks μ σ0 PR PX pc lv (vI x :: st) σ := by
  intro p e s m args below meth c H locs cells slots mc ms ls hC hK hS hA hE hz hr hl
  have w := k p e s m args below meth c H locs cells slots mc ms ls hC hK hS hA hE hz hr hl
  rw [List.map_cons, show gval (vI y) = gval (vI x) from congrArg Value.int h] at w
  exact w
theorem g_st {st2 : List gV} (h : st2 = st) (k : G ω l d kc ks μ σ0 PR PX pc lv st2 σ) : G ω l d kc ks μ σ0 PR PX pc lv st σ := h ▸ k
end GRows
