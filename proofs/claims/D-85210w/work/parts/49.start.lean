section GStart3
variable {args : Array Value} {s : State}
theorem chk_V : decide (cAt nar [1, 0, 0, 0, 0, 0, 0, 0, 0, 1, 0] = .exactly tVs "[LSheetBranches$Name;") && (decide (cAt nar [1, 0, 0, 0, 0, 0, 0, 0, 0, 1, 1, 0] = .arrayOf tVs (.object "SheetBranches$Name")) && (decide (cAt nar [1, 0, 0, 0, 0, 0, 0, 0, 0, 1, 1, 1] = .eq (.length tVs) (.int 18)) && decide (cAt nar [1, 0, 0, 0, 0, 0, 0, 0, 1, 0, 0] = .all tVs (.le (.index 0) (.int 17))))) = true := by decide +kernel
def pVe : List (List Nat) := [[1, 0, 0, 0, 0, 0, 0, 0, 1, 0, 1, 0], [1, 0, 0, 0, 0, 0, 0, 0, 1, 0, 1, 1], [1, 0, 0, 0, 0, 0, 0, 0, 1, 1, 0], [1, 0, 0, 0, 0, 0, 0, 0, 1, 1, 1, 0], [1, 0, 0, 0, 0, 0, 0, 0, 1, 1, 1, 1], [1, 0, 0, 0, 0, 0, 0, 1, 0, 0, 0], [1, 0, 0, 0, 0, 0, 0, 1, 0, 0, 1, 0], [1, 0, 0, 0, 0, 0, 0, 1, 0, 0, 1, 1], [1, 0, 0, 0, 0, 0, 0, 1, 0, 1, 0], [1, 0, 0, 0, 0, 0, 0, 1, 0, 1, 1, 0], [1, 0, 0, 0, 0, 0, 0, 1, 0, 1, 1, 1], [1, 0, 0, 0, 0, 0, 0, 1, 1, 0, 0], [1, 0, 0, 0, 0, 0, 0, 1, 1, 0, 1, 0], [1, 0, 0, 0, 0, 0, 0, 1, 1, 0, 1, 1], [1, 0, 0, 0, 0, 0, 0, 1, 1, 1, 0, 0], [1, 0, 0, 0, 0, 0, 0, 1, 1, 1, 0, 1], [1, 0, 0, 0, 0, 0, 0, 1, 1, 1, 1, 0], [1, 0, 0, 0, 0, 0, 0, 1, 1, 1, 1, 1]]
theorem chk_Ve : (List.range 18).all (fun k => decide (cAt nar (pVe.getD k []) = .eq (.elem tVs (.int (Int32.ofNat k))) (tN k))) = true := by decide +kernel
theorem st_v {b L : Nat} {cA : ClassId} (h : nar.before args s = true) (hcA : s.vm.findClass "[LSheetBranches$Name;" = some cA) : tVs.eval args s none [] s = some (.ref (st0 args s b L 40)) ∧ gLikeA s.heap (st0 args s b L 40) cA 18 (fun j => .ref (st0 args s b L j)) ∧ st0 args s b L 40 < s.heap.size := by
  have c := chk_V
  simp only [Bool.and_eq_true, decide_eq_true_eq] at c
  obtain ⟨c1, c2, c3, c4⟩ := c
  obtain ⟨a, cc, cell, kA, q1, q2, q3, q4, q5, q6, -⟩ := Cond.exactly_spec (args := args) (first := s) (o := none) (s := s) (idx := []) (t := tVs) (cls := "[LSheetBranches$Name;") (cAt_at h _ c1)
  have hlen : (Term.length tVs).eval args s none [] s = some (.int (Int32.ofNat 18)) := va_eqt (cAt_at h _ c3)
  obtain ⟨t, ht, cell2, g1, g2, g3, g4, g5, g6, -⟩ := va_Tof (f := fun j => .ref (st0 args s b L j)) (N := 18) (A := fun _ => False) (by decide) (cAt_at h _ c2) hlen (fun j hj => va_eqv (cAt_at h _ (of_decide_eq_true (List.all_eq_true.mp chk_Ve j (List.mem_range.mpr hj)))) (st_n h (A := fun _ => False) (fun _ _ f => f) j hj).1) (fun _ _ f => f)
  cases q1.symm.trans ht
  cases q3.symm.trans g1
  obtain ⟨a2, cell3, e1, e2, e3⟩ := Term.length_spec hlen
  cases q1.symm.trans e1
  have e2' := (State.arrayAt?_spec e2).1
  cases q3.symm.trans e2'
  have hsz : cell.slots.size = 18 := by
    by_cases hn : cell.slots.size ≤ 18
    · omega
    · have hall : (Cond.all tVs (.le (.index 0) (.int 17))).value args s none s [] = some true := by
        have := cAt_at h _ c4
        simpa [Cond.before, Cond.holds] using this
      have := Cond.all_elim q1 e2 hall 18 (by omega)
      have e9 : Cond.value args s none s [18] (.le (.index 0) (.int 17)) = some false := rfl
      rw [e9] at this
      cases this
  rw [st0_V, evR_eq q1]
  have hlt := (Array.getElem?_eq_some_iff.mp q3).1
  refine ⟨q1, ⟨cell, q3, ?_, fun k hk => ?_, g3, ?_⟩, hlt⟩
  · rw [q6]; exact Option.some.inj (q2.symm.trans hcA)
  · rw [hk] at q5; cases q5
  · apply Array.ext_getElem?
    intro i
    by_cases hi : i < 18
    · rw [g6 i hi, arrV_read _ _ hi]
    · rw [Array.getElem?_eq_none (by omega), Array.getElem?_eq_none (by rw [arrV_size]; omega)]
theorem st_z {b L : Nat} (h : nar.before args s = true) (hts : ∀ w ∈ lw_tbl, w.before args s = true) {A : Nat → Prop} (hA : ∀ a : Nat, a < s.heap.size → ¬ A a) (hv : tVs.eval args s none [] s = some (.ref (st0 args s b L 40))) : ∀ q ∈ gztab, va_Z q.1 q.2.1 q.2.2.1 (.ref (st0 args s b L q.2.2.2)) A s s.heap := (fa_c (va_Zref (hts _ q3800) (hts _ (lw_all_tbl q228)) (st_n (b := b) (L := L) h hA 0 (by decide)).1 hA) (fa_c (va_Zref (hts _ q1211) (hts _ (lw_all_tbl q228)) (st_n (b := b) (L := L) h hA 1 (by decide)).1 hA) (fa_c (va_Zref (hts _ q3801) (hts _ (lw_all_tbl q228)) (st_n (b := b) (L := L) h hA 2 (by decide)).1 hA) (fa_c (va_Zref (hts _ q1325) (hts _ (lw_all_tbl q228)) (st_n (b := b) (L := L) h hA 3 (by decide)).1 hA) (fa_c (va_Zref (hts _ q1327) (hts _ (lw_all_tbl q228)) (st_n (b := b) (L := L) h hA 4 (by decide)).1 hA) (fa_c (va_Zref (hts _ q1265) (hts _ (lw_all_tbl q228)) (st_n (b := b) (L := L) h hA 5 (by decide)).1 hA) (fa_c (va_Zref (hts _ q1268) (hts _ (lw_all_tbl q228)) (st_n (b := b) (L := L) h hA 6 (by decide)).1 hA) (fa_c (va_Zref (hts _ q3802) (hts _ (lw_all_tbl q228)) (st_n (b := b) (L := L) h hA 7 (by decide)).1 hA) (fa_c (va_Zref (hts _ q1241) (hts _ (lw_all_tbl q228)) (st_n (b := b) (L := L) h hA 8 (by decide)).1 hA) (fa_c (va_Zref (hts _ q3803) (hts _ (lw_all_tbl q228)) (st_n (b := b) (L := L) h hA 9 (by decide)).1 hA) (fa_c (va_Zref (hts _ q1307) (hts _ (lw_all_tbl q228)) (st_n (b := b) (L := L) h hA 10 (by decide)).1 hA) (fa_c (va_Zref (hts _ q1309) (hts _ (lw_all_tbl q228)) (st_n (b := b) (L := L) h hA 11 (by decide)).1 hA) (fa_c (va_Zref (hts _ q1274) (hts _ (lw_all_tbl q228)) (st_n (b := b) (L := L) h hA 12 (by decide)).1 hA) (fa_c (va_Zref (hts _ q1276) (hts _ (lw_all_tbl q228)) (st_n (b := b) (L := L) h hA 13 (by decide)).1 hA) (fa_c (va_Zref (hts _ q1292) (hts _ (lw_all_tbl q228)) (st_n (b := b) (L := L) h hA 14 (by decide)).1 hA) (fa_c (va_Zref (hts _ q1305) (hts _ (lw_all_tbl q228)) (st_n (b := b) (L := L) h hA 15 (by decide)).1 hA) (fa_c (va_Zref (hts _ q881) (hts _ (lw_all_tbl q228)) (st_n (b := b) (L := L) h hA 16 (by decide)).1 hA) (fa_c (va_Zref (hts _ q883) (hts _ (lw_all_tbl q228)) (st_n (b := b) (L := L) h hA 17 (by decide)).1 hA) (fa_c (va_Zref (hts _ q1093) (hts _ (lw_all_tbl q254)) (st_g (b := b) (L := L) h hA 0 (by decide)).1 hA) (fa_c (va_Zref (hts _ q1095) (hts _ (lw_all_tbl q254)) (st_g (b := b) (L := L) h hA 1 (by decide)).1 hA) (fa_c (va_Zref (hts _ q2100) (hts _ (lw_all_tbl q254)) (st_g (b := b) (L := L) h hA 2 (by decide)).1 hA) (fa_c (va_Zref (hts _ q2093) (hts _ (lw_all_tbl q254)) (st_g (b := b) (L := L) h hA 3 (by decide)).1 hA) (fa_c (va_Zref (hts _ q2097) (hts _ (lw_all_tbl q254)) (st_g (b := b) (L := L) h hA 4 (by decide)).1 hA) (fa_c (va_Zref (hts _ q2095) (hts _ (lw_all_tbl q254)) (st_g (b := b) (L := L) h hA 5 (by decide)).1 hA) (fa_c (va_Zref (hts _ q1109) (hts _ (lw_all_tbl q254)) (st_g (b := b) (L := L) h hA 6 (by decide)).1 hA) (fa_c (va_Zref (hts _ q2083) (hts _ (lw_all_tbl q254)) (st_g (b := b) (L := L) h hA 7 (by decide)).1 hA) (fa_c (va_Zref (hts _ q2085) (hts _ (lw_all_tbl q254)) (st_g (b := b) (L := L) h hA 8 (by decide)).1 hA) (fa_c (va_Zref (hts _ q2058) (hts _ (lw_all_tbl q254)) (st_g (b := b) (L := L) h hA 9 (by decide)).1 hA) (fa_c (va_Zref (hts _ q1191) (hts _ (lw_all_tbl q254)) (st_g (b := b) (L := L) h hA 10 (by decide)).1 hA) (fa_c (va_Zref (hts _ q2061) (hts _ (lw_all_tbl q254)) (st_g (b := b) (L := L) h hA 11 (by decide)).1 hA) (fa_c (va_Zref (hts _ q472) (hts _ (lw_all_tbl q228)) hv hA) (fun _ h => absurd h (List.not_mem_nil)))))))))))))))))))))))))))))))))
theorem st_w (hts : ∀ w ∈ lw_tbl, w.before args s = true) : ∀ q ∈ gstab, (Cond.stringRef q.1 q.2.1 q.2.2.1).before args s = true := (fa_c (hts _ q1382) (fa_c (hts _ q1421) (fa_c (hts _ q1902) (fa_c (hts _ q1490) (fa_c (hts _ q3032) (fa_c (hts _ q1543) (fa_c (hts _ q1499) (fa_c (hts _ q1114) (fa_c (hts _ q3101) (fa_c (hts _ q1549) (fa_c (hts _ q1500) (fa_c (hts _ q1115) (fa_c (hts _ q3102) (fa_c (hts _ q3830) (fa_c (hts _ q3106) (fa_c (hts _ q3810) (fa_c (hts _ q3107) (fa_c (hts _ q3831) (fa_c (hts _ q3108) (fa_c (hts _ q3812) (fa_c (hts _ q3109) (fa_c (hts _ q3813) (fa_c (hts _ q3110) (fa_c (hts _ q3832) (fa_c (hts _ q3111) (fa_c (hts _ q3811) (fa_c (hts _ q3112) (fa_c (hts _ q3820) (fa_c (hts _ q3113) (fa_c (hts _ q3821) (fa_c (hts _ q3114) (fa_c (hts _ q3833) (fa_c (hts _ q3115) (fa_c (hts _ q3817) (fa_c (hts _ q3116) (fa_c (hts _ q3804) (fa_c (hts _ q3117) (fa_c (hts _ q3805) (fa_c (hts _ q3118) (fa_c (hts _ q3818) (fa_c (hts _ q3119) (fa_c (hts _ q3819) (fa_c (hts _ q3120) (fa_c (hts _ q3815) (fa_c (hts _ q3121) (fa_c (hts _ q3814) (fa_c (hts _ q3122) (fa_c (hts _ q3816) (fa_c (hts _ q3123) (fa_c (hts _ q3354) (fa_c (hts _ q3806) (fa_c (hts _ q3499) (fa_c (hts _ q3807) (fa_c (hts _ q3500) (fa_c (hts _ q3829) (fa_c (hts _ q3501) (fa_c (hts _ q3826) (fa_c (hts _ q3502) (fa_c (hts _ q3828) (fa_c (hts _ q3503) (fa_c (hts _ q3827) (fa_c (hts _ q3504) (fa_c (hts _ q3808) (fa_c (hts _ q3505) (fa_c (hts _ q3824) (fa_c (hts _ q3506) (fa_c (hts _ q3825) (fa_c (hts _ q3507) (fa_c (hts _ q3822) (fa_c (hts _ q3508) (fa_c (hts _ q3809) (fa_c (hts _ q3509) (fa_c (hts _ q3823) (fa_c (hts _ q3510) (fun _ h => absurd h (List.not_mem_nil))))))))))))))))))))))))))))))))))))))))))))))))))))))))))))))))))))))))))))
theorem st_r {b L : Nat} (h : nar.before args s = true) (hts : ∀ w ∈ lw_tbl, w.before args s = true) : ∀ q ∈ gstab, vk_R q.1 q.2.1 q.2.2.1 (st0 args s b L q.2.2.2) s := fun q hq => vk_R.of (st_w hts q hq) (st_ref h q hq)
theorem st_hp {b L : Nat} {xs : Nat → Int32} {D : va_G} {cA : Nat → ClassId} (h : nar.before args s = true) (hts : ∀ w ∈ lw_tbl, w.before args s = true) (hX : va_X b L xs s s.heap) (h9 : s.vm.findClass "[LSheetBranches$Name;" = some (cA 9)) (hL : L ≤ 448) : gHp (D, (cA, (s.heap.size, (st0 args s b L, fun j => (xs j).toInt)))) s s.heap := by
  have hA : ∀ a : Nat, a < s.heap.size → ¬ gA (D, (cA, (s.heap.size, (st0 args s b L, fun j => (xs j).toInt)))) a := fun a ha q => Nat.not_le.mpr ha q
  obtain ⟨v1, v2, v3⟩ := st_v (b := b) (L := L) h h9
  refine ⟨st_z h hts hA v1, fun i hi => (st_s h hA i hi).2, fun k hk => (st_n h hA k hk).2, fun k hk => (st_g h hA k hk).2, ⟨v2, hA _ v3⟩, ⟨?_, ?_, ?_, ?_⟩, ?_⟩
  · exact vx_Zqof (hts _ q1694) (hts _ (lw_all_tbl q233)) (cAt_at h [1, 0, 0, 0, 1, 0, 1, 1, 1, 1, 0, 1] rfl) hA
  · exact vx_Zqof (hts _ q1696) (hts _ (lw_all_tbl q233)) (cAt_at h [1, 0, 0, 0, 1, 0, 1, 1, 1, 1, 1, 0] rfl) hA
  · exact va_Zof (hts _ q1129) (hts _ (lw_all_tbl q238)) (va_eqt (cAt_at h [1, 0, 0, 0, 0, 1, 0, 0, 0, 0, 1, 0] rfl)) hA
  · exact va_Zqof (hts _ q1145) (hts _ (lw_all_tbl q245)) (cAt_at h [1, 0, 0, 0, 0, 1, 0, 0, 0, 0, 1, 1] rfl) hA
  · obtain ⟨scr, x1, x2, x3, x4, x5⟩ := hX
    show va_T .int (st0 args s b L 50) (st0 args s b L 51) _ _ _ _
    rw [st0_b, st0_L]
    exact ⟨scr, x1, x2, x3, by omega, by rw [x4], fun j hj => by rw [x5 j hj]; exact congrArg (fun z => some (Value.int z)) (Int32.ofInt_toInt _).symm, hA b (Array.getElem?_eq_some_iff.mp x1).1⟩
theorem st_KK {b L : Nat} {xs : Nat → Int32} (h : nar.before args s = true) (hts : ∀ w ∈ lw_tbl, w.before args s = true) (hX : va_X b L xs s s.heap) (hL : L ≤ 448) : ∃ (D : va_G) (cA : Nat → ClassId), gKK (D, (cA, (s.heap.size, (st0 args s b L, fun j => (xs j).toInt)))) s := by
  obtain ⟨D, hD⟩ := st_D hts
  obtain ⟨cA, hcA⟩ := st_A hts
  have hK := hcA (D, (cA, (s.heap.size, (st0 args s b L, fun j => (xs j).toInt)))) rfl
  obtain ⟨kA, comp, -, -, -, h9⟩ := (hK 9 _ rfl).2
  exact ⟨D, cA, ⟨hD, hK⟩, fun w h1 h2 => va_Nw.of (gNk_tab h2) (hts w h1), st_hp h hts hX h9 hL, ⟨st_nc h, st_ao hts, fun x y C hq => st_fw hts _ hq, st_am hts⟩, st_r h hts⟩
end GStart3
