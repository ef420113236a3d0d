/-! ===== PHASE 2: reading: calls, their end ===== -/
section Read41
variable {N x h hi all nv sh M lu0 b b' p q op pa pi : Nat} {bA : Nat → Int} {f : Int → List Int × List Int} {σ σ' σ'' τ τ' τ'' s r σ0 τ0 σ1 τ2 : gMem} {p0 pa0 nd k kk lu : Nat} {W : Nat → gMem → Option gR} {Wt : gMem → Option gMem}
theorem rd_callEnd {kf a : Nat} {ms : List Nat} {v : Bool} (hN : 500 ≤ N) (hk : kk < 18) (h20 : op + 1 ≤ 20) (n0 : 0 < ms.length) (S : S2 x h hi all nv sh M lu0 bA f σ τ q q (op + 1) pa (pi + ms.length)) (I : ArI x h hi nv M lu0 kk p0 pa0 pi σ0 τ0 σ τ q pa kf ms v) (c0 : CR x hi all nv sh bA f σ0) (pi0 : mI σ0 (x + 1429) 11 = pi) (pip : pi ≤ p0) (ha : a = mR σ0 0 kk) :
    E2 (if mT σ (x + 1429) = 6 then (x6_expect N (x + 1429) 41 σ).bind (fun p => gThrV p (fun s32 => gLet (wI s32 (x + 1429) 7 (w32 ((mI s32 (x + 1429) 7) - 1))) (fun s34 => gLet (wI s34 (x + 1429) 8 (w32 ((mI s34 (x + 1429) 8) + 1))) (fun s37 => if 0 ≤ (w32 ((mI s37 (x + 1429) 11) - (pi : Int))) ∧ (w32 ((mI s37 (x + 1429) 11) - (pi : Int))) < 1000000 then gLet (wN s37 108 (w32 ((mI s37 (x + 1429) 11) - (pi : Int))).toNat) (fun s42 => if mT s42 a = 91 then if w32 (mN s42 (mZ s37) : Int) < mI s42 a 2 then x6_call_j158 N W (x + 1429) a p0 (pi : Int) (mZ s37) s42 else if mI s42 a 3 < w32 (mN s42 (mZ s37) : Int) then x6_call_j158 N W (x + 1429) a p0 (pi : Int) (mZ s37) s42 else x6_call_j159 N W (x + 1429) a p0 (pi : Int) (mZ s37) 1 s42 else none) else none)))) else none) (tw_readCall_j153 N Wt h (nmk kk) p0 (ms.length : Nat) (if v then 1 else 0) τ) (Out2 x h hi all nv sh M lu0 bA f σ0 τ0 p0 op pa0 pi) := by
  obtain ⟨i1, i2, i3, i4, i5, i6, i7⟩ := I
  have c := S.1
  have tx := c.1.2.2.2.2.2.2.2
  have h4 : hi ≤ 400 := by have := tx.2.2.1; have := tx.2.2.2; omega
  have qh : q ≤ hi := S.2.2.2.2.2.1
  have b4 := S.2.2.2.2.2.2.2.2.1
  have b3 := S.2.2.2.2.2.2.2.1
  refine E2.lg c.1.1 ?_
  unfold tw_readCall_j153
  rcases S.shut hN h20 with ⟨s, r2, e1, e2, e3, e4, e5, e6, e7⟩ | ⟨s, τ3, q1, qlt, e1, s7, e2, S3, cf3, tf3, l14⟩
  · refine E2.le e1 (E2.re e2 ?_)
    rw [thrVE]
    refine E2.rf (by omega) (E2.r (OutN.er ⟨e3, e4, e5, (i1.tr e6).mono (by omega), i3.tr e7 (by omega)⟩))
  refine E2.le e1 (E2.re e2 ?_)
  rw [thrV]
  refine E2.ll ?_
  have w7 : w32 (((op + 1 : Nat) : Int) - 1) = (op : Int) := by rw [w32_i (by omega) (by omega)]; omega
  rw [show mI (wI s (x + 1429) 6 ((q + 1 : Nat) : Int)) (x + 1429) 7 = ((op + 1 : Nat) : Int) by rw [mIwI1 (by omega)]; exact s7, w7]
  generalize wI (wI s (x + 1429) 6 ((q + 1 : Nat) : Int)) (x + 1429) 7 (op : Int) = σ3 at S3 cf3 l14 ⊢
  have t41 : mI τ3 h 41 = 0 := S3.2.2.2.1.2.2.2.2
  refine E2.rg (by omega) ?_
  have pl3 := i6.mv (LZ' := mI σ3 (x + 1429) 14 = 0) (b2 := M + pa) c cf3 tf3 (fun z => by rw [← l14]; exact z) (by omega) (by have := S.2.2.1.2.2.2; omega)
  have sc : SpC τ3 h (M + pa) ms.reverse := by
    have := NDs.spc ms [] _ _ pl3.1 trivial
    rw [List.append_nil, show M + pa0 + ms.sum = M + pa by omega] at this; exact this
  obtain ⟨x40, e40, S4, cf4, tf4, pt, f41⟩ := S3.prt (K := nmk kk) (ms := ms.reverse) hN (by omega) (by have := nmk_hi kk hk; omega) (by rw [List.length_reverse]; omega) sc
  rw [List.length_reverse] at e40 pt
  rw [List.sum_reverse] at pt
  refine E2.re e40 ?_
  refine E2.ll ?_
  rw [S3.2.2.1.2.2.1, inc32 (by omega)]
  have l37 : mI (wI σ3 (x + 1429) 8 ((pa + 1 : Nat) : Int)) (x + 1429) 14 = mI σ3 (x + 1429) 14 := mIwI1 (by omega)
  generalize wI σ3 (x + 1429) 8 ((pa + 1 : Nat) : Int) = s37 at S4 cf4 l37 ⊢
  have c37 := S4.1
  have s11 : mI s37 (x + 1429) 11 = ((pi + ms.length : Nat) : Int) := S4.2.2.1.2.2.2
  have wn : w32 (((pi + ms.length : Nat) : Int) - (pi : Int)) = (ms.length : Int) := by rw [w32_i (by omega) (by omega)]; omega
  rw [s11, wn, tn]
  refine E2.lg (by omega) (E2.ll ?_)
  have cfA : CF x s37 (wN s37 108 ms.length) ms.length := ((CF.rf c37).wN2 (t := 108) (n := ms.length) (j := ms.length) n0 (by omega)).mono (by omega)
  have A108 : mT (wN s37 108 ms.length) (mZ s37) = 108 := by rw [mT_wN, if_pos rfl]
  have An : mN (wN s37 108 ms.length) (mZ s37) = ms.length := by rw [mN_wN, if_pos rfl]
  have AI : ∀ b j, b ≠ mZ s37 → mI (wN s37 108 ms.length) b j = mI s37 b j := fun b j hb => by rw [mI_wN, if_neg hb]
  have AR : ∀ b j, b ≠ mZ s37 → mR (wN s37 108 ms.length) b j = mR s37 b j := fun b j hb => by rw [mR_wN, if_neg hb]
  have AT : ∀ b, b ≠ mZ s37 → mT (wN s37 108 ms.length) b = mT s37 b := fun b hb => by rw [mT_wN, if_neg hb]
  have AZ : mZ (wN s37 108 ms.length) = mZ s37 + 1 := rfl
  generalize wN s37 108 ms.length = s42 at cfA A108 An AI AR AT AZ ⊢
  have c42 := c37.cf cfA
  have cfT : CF x σ0 s37 kf := ((i1.tr cf3).tr cf4).mono (by omega)
  have K0 : ∀ s, CF x σ0 s kf → ∀ j, mR s 0 j = mR σ0 0 j := fun s z j => (z.1.2.2.2 0 c0.2.2.2.2.2.1 c0.w0 j).2.2
  have k37 : ∀ j, mR s37 0 j = mR σ0 0 j := K0 s37 cfT
  have lt37 := c37.lt
  have k42 : ∀ j, mR s42 0 j = mR σ0 0 j := fun j => by rw [AR 0 j (by omega)]; exact k37 j
  have ha42 : a = mR s42 0 kk := by rw [k42]; exact ha
  have ha37 : a = mR s37 0 kk := by rw [k37]; exact ha
  obtain ⟨y1, y2, -⟩ := c42.2.2.2.1.2.1 kk hk
  obtain ⟨m1, m2, m3, m4⟩ := nm_cnt kk hk
  rw [← ha42] at y1 y2
  refine E2.lg y1 ?_
  rw [An, y2, y2, m1, m2, w32_i (by omega) (by omega)]
  -- whether there are as many as are wanted
  have ONE : ∀ (cnt : Bool) (Y : Option gMem), (cnt = true ↔ (leastA (nmk kk) ≤ ms.length ∧ ms.length ≤ mostA (nmk kk))) → (Y = if (cnt && v) = true then some x40.2 else (tw_later h 4 (p0 : Int) x40.2).bind (fun x => some x)) → E2 (x6_call_j159 N W (x + 1429) a p0 (pi : Int) (mZ s37) (if cnt then 1 else 0) s42) Y (Out2 x h hi all nv sh M lu0 bA f σ0 τ0 p0 op pa0 pi) := by
    intro cnt Y hc hY
    unfold x6_call_j159
    have pl4 := pl3.mv (LZ' := mI s37 (x + 1429) 14 = 0) (b2 := M + pa) S3.1 cf4 tf4 (fun z => by rw [← l37]; exact z) (by omega) (by have := S3.2.2.1.2.2.2; omega)
    have tgN := NDs.tag ms _ _ pl4.1
    have PN : x + 1430 ≠ mZ s37 := by omega
    have ne37 : ∀ i, i < ms.length → mR s37 (x + 1430) (pi + i) ≠ mZ s37 := fun i hi e => by
      have g := gPart_t (tgN i hi)
      rw [e, c37.2.2.2.2.1 _ (Nat.le_refl _)] at g; omega
    obtain ⟨s', g1, g2, g3, g4, g5, g6, g7, g8⟩ := c_offPile (N := N) (W := W) (σ0 := s37) (x := x) (a := mZ s37) (n := ms.length) (kk := kk) (v2 := (p0 : Int)) (pi := pi) (k := ms.length) (nds := fun i => mR s37 (x + 1430) (pi + i)) (tg := fun i => mT s37 (mR s37 (x + 1430) (pi + i))) (K := fun y55 s56 => if mT s56 (x + 1429) = 6 then gLet (wI s56 (x + 1429) 11 (pi : Int)) (fun s58 => if y55 ≠ 0 then gLet (wN s58 18 2) (fun s61 => (x20_init (mZ s58) a (mZ s37) s61).bind (fun x63 => some ((.inl (some (vR (mZ s58))), x63) : gR))) else (x6_late (x + 1429) 4 (p0 : Int) s58).bind (fun x65 => gLet (wN x65 18 2) (fun s68 => (x20_init (mZ x65) a (mZ s37) s68).bind (fun x70 => some ((.inl (some (vR (mZ x65))), x70) : gR))))) else none) c37 (Nat.le_refl _) hk (by omega) ms.length 0 N cnt s42 cfA A108 An (by omega) (by omega) (by
        cases cnt with
        | false => exact Or.inr rfl
        | true => exact Or.inl (by have := (hc.mp rfl).2; omega)) (fun i hi => ⟨AR _ _ PN, AT _ (ne37 i hi), tgN i hi⟩) (fun i hi => absurd hi (Nat.not_lt_zero _))
    rw [← ha37] at g1
    refine E2.el g1 ?_
    have S5 := S4.keep g2 (fun j => by rw [g6, AI _ _ (by omega)])
    have c5 := S5.1
    have cf5 : CF x σ0 s' (kf + ms.length) := cfT.tr g2
    obtain ⟨S6, cf6⟩ := S2.pop (σ0 := σ0) (pi := pi) c0 cf5 pi0 S5 (by omega)
    have X6 : Ex (fun a k => a = x + 1429) s' (wI s' (x + 1429) 11 (pi : Int)) := Ex.rf.I rfl
    have l6 : mI (wI s' (x + 1429) 11 (pi : Int)) (x + 1429) 14 = mI s37 (x + 1429) 14 := by rw [mIwI1 (by omega), g6, AI _ _ (by omega)]
    refine E2.lg c5.1.1 (E2.ll ?_)
    have z6 : mZ (wI s' (x + 1429) 11 (pi : Int)) = mZ s37 + 1 := by rw [mZ_wI, g7, AZ]
    have ok' := c5.2.2.2.2.1
    generalize wI s' (x + 1429) 11 (pi : Int) = s58 at S6 cf6 X6 l6 z6 ⊢
    have vg : tkAll kk (fun i => mT s37 (mR s37 (x + 1430) (pi + i))) ms.length 0 cnt = (cnt && v) := by
      cases cnt with
      | false => exact tkAll_f _ _
      | true => rw [Bool.true_and, pl4.2.2]
    rw [vg]
    have c6 := S6.1
    have lt6 := c6.lt
    -- the new node, whatever was late
    have FIN : ∀ (s9 τ9 : gMem) (good : Bool), S2 x h hi all nv sh M lu0 bA f s9 τ9 (q + 1) q1 op (pa + 1) pi → CF x σ0 s9 (kf + ms.length) → Ex (fun a k => a = x + 1429) s58 s9 → TF (lu0 + hi) h x40.2 τ9 (M + pa + 1) → (mI s9 (x + 1429) 14 = 0 → good = true ∧ mI s37 (x + 1429) 14 = 0) → (good = true → cnt = true ∧ v = true) → 
        E2 (gLet (wN s9 18 2) (fun s61 => (x20_init (mZ s9) a (mZ s37) s61).bind (fun x63 => some ((.inl (some (vR (mZ s9))), x63) : gR)))) (some τ9) (Out2 x h hi all nv sh M lu0 bA f σ0 τ0 p0 op pa0 pi) := by
      intro s9 τ9 good S9 cf9 X9 tf9 lz9 gt
      have c9 := S9.1
      have lt9 := c9.lt
      have z9 : mZ s9 = mZ s37 + 1 := by rw [X9.rZ, z6]
      obtain ⟨fin, n1, n2, n3, n4, n5, n6, n7⟩ := node18 (x := x) (A := mZ s37) (a := a) cf9 (by omega)
      refine E2.ll (E2.le n1 (E2.r ?_))
      have cfF := c0.cf n2
      have nI : ∀ j, mI fin (x + 1429) j = mI s9 (x + 1429) j := fun j => ((n3 _ (by omega)).2.2 j).1
      have SF : S2 x h hi all nv sh M lu0 bA f fin τ9 (q + 1) q1 op (pa + 1) pi := by
        obtain ⟨u1, u2, ⟨s1, s2, s3, s4⟩, ⟨t1, t2, t3, t4, t5⟩, ⟨l1, l2, l3⟩, b1, b2, b3, b4, b5, b6, b7⟩ := S9
        exact ⟨cfF, u2, ⟨by rw [nI]; exact s1, by rw [nI]; exact s2, by rw [nI]; exact s3, by rw [nI]; exact s4⟩, ⟨t1, t2, t3, t4, t5⟩, ⟨by rw [nI]; exact l1, by rw [nI, nI]; exact l2, by rw [nI]; exact l3⟩, b1, b2, b3, b4, b5, b6, b7⟩
      have m6 := S4.2.1.2.2.2.2.2
      have tfA : TF (lu0 + hi) h τ0 τ9 (M + pa0) := ((i3.tr tf3 (by omega)).tr tf4 (by omega)).tr tf9 (by omega)
      have pl9 := pl4.mv (LZ' := mI s37 (x + 1429) 14 = 0) (b2 := M + pa + 1) c37 (CF.rf c37) tf9 (fun z => z) (by omega) (by omega)
      have nf9 : ∀ o, 14 ≤ o → o ≤ 25 → ¬ TFP h (M + pa + 1) (mI x40.2 h 19).toNat (h + o) (M + pa) := fun o h1 h2 p => by
        rcases p with p | ⟨o', z1, z2, z3, z4⟩ | p <;> omega
      have pt9 : PAt τ9 h (M + (pa0 + ms.sum)) (nmk kk) (ms.length : Nat) ((1 + ms.sum : Nat) : Int) := by
        rw [show M + (pa0 + ms.sum) = M + pa by omega]
        obtain ⟨P1, P2, P3, P4, P5, P6, P7, P8, P9, P10, P11, P12⟩ := pt
        have X := tf9.1
        exact ⟨by rw [X.rI (nf9 14 (by omega) (by omega))]; exact P1, by rw [X.rI (nf9 15 (by omega) (by omega))]; exact P2, by rw [X.rI (nf9 16 (by omega) (by omega))]; exact P3, by rw [X.rL (nf9 17 (by omega) (by omega))]; exact P4, by rw [X.rI (nf9 18 (by omega) (by omega))]; exact P5, by rw [X.rI (nf9 19 (by omega) (by omega))]; exact P6, by rw [X.rI (nf9 20 (by omega) (by omega))]; exact P7, by rw [X.rI (nf9 21 (by omega) (by omega))]; exact P8, by rw [X.rI (nf9 22 (by omega) (by omega))]; exact P9, by rw [X.rI (nf9 23 (by omega) (by omega))]; exact P10, by rw [X.rI (nf9 24 (by omega) (by omega))]; exact P11, by rw [X.rI (nf9 25 (by omega) (by omega))]; exact P12⟩
      have XX : Ex (fun a k => a = x + 1429) s' s9 := X6.tr X9
      have Kf : Kz (fun a => a = x + 1429) s' fin := by
        have K1 : Kz (fun a => a = x + 1429) s' s9 := XX.kp ok' (fun a k p => p)
        have K2 : Kz (fun a => a = x + 1429) s9 fin := ⟨by omega, n2.1.2.1, fun b hb => ⟨(n3 b (by omega)).1, (n3 b (by omega)).2.1⟩, fun b hb _ j => ⟨((n3 b (by omega)).2.2 j).1, ((n3 b (by omega)).2.2 j).2.1, ((n3 b (by omega)).2.2 j).2.2⟩⟩
        exact K1.tr K2
      have rA : ∀ j, mR fin (mZ s37) j = mR s' (mZ s37) j := fun j => by rw [((n3 _ (by omega)).2.2 j).2.2, XX.rR]
      have tA : mT fin (mZ s37) = 108 := by rw [(n3 _ (by omega)).1, XX.rT]; exact g3
      have nA : mN fin (mZ s37) = ms.length := by rw [(n3 _ (by omega)).2.1, XX.rN]; exact g4
      have k0f : mR fin 0 kk = a := by
        rw [((n3 0 (by omega)).2.2 kk).2.2, XX.rR]
        have := (g2.1.2.2.2 0 c37.2.2.2.2.2.1 c37.w0 kk).2.2
        rw [this, ← ha37]
      have nd9 := call_nd (fin := fin) (A := mZ s37) (B := mZ s9) (good := v) (s := s') (k := ms.length) (ms := ms) (kk := kk) (pi := pi) (τ := τ9) (h := h) (M := M) (pa0 := pa0) c37 pl9 hk g2 Kf m6 (by omega) S9.2.2.2.2.2.2.2.2.2.1 (fun z => by
          have z' : mI s9 (x + 1429) 14 = 0 := by rw [← nI]; exact z
          obtain ⟨y1, y2⟩ := lz9 z'
          exact ⟨(gt y1).2, y2, hc.mp (gt y1).1⟩) pt9 n4 (by rw [n5, k0f]) n6 tA nA (fun i hi => by rw [rA]; exact g5 i hi)
      refine OutN.ok (q := q1) ⟨SF, by omega, by omega, by omega, n2.mono (by omega), tfA, ?_, fun z => ?_, fun z => ?_⟩
      · rw [show pa + 1 - pa0 = ms.sum + 1 by omega]; exact nd9
      · have z' : mI s9 (x + 1429) 14 = 0 := by rw [← nI]; exact z
        exact i7 (by rw [← l14, ← l37]; exact (lz9 z').2)
      · rw [show M + (pa + 1) - 1 = M + (pa0 + ms.sum) by omega, pt9.1] at z
        have := nmk_hi kk hk
        omega
    rw [hY]
    by_cases gd : (cnt && v) = true
    · rw [if_pos gd, gd]
      obtain ⟨gd1, gd2⟩ := Bool.and_eq_true_iff.mp gd
      refine E2.lg (by decide) (FIN s58 x40.2 true S6 (cf6.mono (by omega)) Ex.rf (TF.rf ?_) (fun z => ⟨rfl, by rw [← l6]; exact z⟩) (fun _ => ⟨gd1, gd2⟩))
      exact S4.2.2.2.2.2.2.2.2.2.1
    · have gf : (cnt && v) = false := by cases z : (cnt && v) with
        | true => exact absurd z gd
        | false => rfl
      rw [if_neg gd, gf]
      obtain ⟨s', τ', u1, u2, u3, u4, u5, u6, u7, u8⟩ := S6.lt (w := p0) (by omega) h4
      exact E2.lf (fun z => z rfl) (E2.le u1 (E2.er (y' := some τ') (by rw [u2]; rfl) (FIN s' τ' false u3 ((cf6.tr u4).mono (by omega)) u8 (u5.mono (by omega)) (fun z => absurd z u6) (fun z => by cases z))))
  -- the counts
  have hY : ∀ cnt : Bool, (cnt = true ↔ (leastA (nmk kk) ≤ ms.length ∧ ms.length ≤ mostA (nmk kk))) → (if (if v then (1 : Int) else 0) = 0 then (tw_later h 4 (p0 : Int) x40.2).bind (fun x44 => some x44) else (tw_leastArgs (nmk kk) x40.2).bind (fun x47 => (tw_mostArgs (nmk kk) x40.2).bind (fun x49 => (tw_in (ms.length : Nat) x47 x49 x40.2).bind (fun x51 => if x51 ≠ 0 then some x40.2 else (tw_later h 4 (p0 : Int) x40.2).bind (fun x53 => some x53))))) = if (cnt && v) = true then some x40.2 else (tw_later h 4 (p0 : Int) x40.2).bind (fun x => some x) := by
    intro cnt hc
    cases v with
    | false => rw [Bool.and_false]; rfl
    | true =>
      rw [if_neg (show ¬ (if true = true then (1 : Int) else 0) = 0 by decide), t_leastK m4, Option.bind_some, t_mostK m4, Option.bind_some, t_in, Option.bind_some, Bool.and_true]
      by_cases z : leastA (nmk kk) ≤ ms.length ∧ ms.length ≤ mostA (nmk kk)
      · rw [if_pos (show ((leastA (nmk kk) : Nat) : Int) ≤ (ms.length : Nat) ∧ ((ms.length : Nat) : Int) ≤ (mostA (nmk kk) : Nat) by omega), if_pos (by decide), if_pos (hc.mpr z)]
      · rw [if_neg (show ¬ (((leastA (nmk kk) : Nat) : Int) ≤ (ms.length : Nat) ∧ ((ms.length : Nat) : Int) ≤ (mostA (nmk kk) : Nat)) by omega), if_neg (fun y => y rfl), if_neg (fun y => z (hc.mp y))]
  by_cases g1 : ((ms.length : Nat) : Int) < ((leastA (nmk kk) : Nat) : Int)
  · have hc : (false = true ↔ (leastA (nmk kk) ≤ ms.length ∧ ms.length ≤ mostA (nmk kk))) := Iff.intro (fun z => by cases z) (fun z => by omega)
    exact E2.lg g1 (ONE false _ hc (hY false hc))
  · refine E2.lf g1 ?_
    by_cases g2 : ((mostA (nmk kk) : Nat) : Int) < ((ms.length : Nat) : Int)
    · have hc : (false = true ↔ (leastA (nmk kk) ≤ ms.length ∧ ms.length ≤ mostA (nmk kk))) := Iff.intro (fun z => by cases z) (fun z => by omega)
      exact E2.lg g2 (ONE false _ hc (hY false hc))
    · have hc : (true = true ↔ (leastA (nmk kk) ≤ ms.length ∧ ms.length ≤ mostA (nmk kk))) := Iff.intro (fun _ => by omega) (fun _ => rfl)
      exact E2.lf g2 (ONE true _ hc (hY true hc))
end Read41
