/-! ===== PHASE 2: the component values a sheet ===== -/
section CoReckon
variable {N x sh nv : Nat} {σ σ' σ0 s : gMem} {S : Sh} {f : Int → List Int × List Int} {g : Int → Nat → Vl} {V : Nat → Vl} {od : List Nat} {ci : Nat → Bool}
/-- a value is put into its place -/
def Pq (q k a i : Nat) : Prop := (a = q + 1 ∧ i = k) ∨ (a = q + 2 ∧ i = k) ∨ (a = q + 4 ∧ i = k) ∨ (a = q + 3 ∧ 24 * k ≤ i ∧ i < 24 * k + 24)
theorem c_put {w q k : Nat} {v : Vl} (ws : WS σ w) (gv : VW σ w v) (vv : VV σ q V) (hk : k < 320) (hq : ∀ i, i ≤ 4 → q + i ≠ w ∧ q + i ≠ w + 1) : Ev (x2_put q k w σ) (fun r => Ex (Pq q k) σ r ∧ VV r q (newVl V k v)) := by
  obtain ⟨k1, k2, k3, k4, k5, k6, k7, k8, k9, k10, k11, k12, k13, k14⟩ := vv
  obtain ⟨v1, v2, v3, v4, v5⟩ := gv
  have ht := v1.txt
  have vk : 0 ≤ v.1 ∧ v.1 ≤ 4 := by
    rcases v1 with h | ⟨n, h, -⟩ | ⟨t, h, -⟩ | ⟨b, h⟩ | ⟨n, h, -⟩ <;> rw [h]
    · exact ⟨by decide, by decide⟩
    · exact ⟨show (0 : Int) ≤ 1 by decide, show (1 : Int) ≤ 4 by decide⟩
    · exact ⟨show (0 : Int) ≤ 2 by decide, show (2 : Int) ≤ 4 by decide⟩
    · exact ⟨show (0 : Int) ≤ 3 by decide, show (3 : Int) ≤ 4 by decide⟩
    · exact ⟨show (0 : Int) ≤ 4 by decide, show (4 : Int) ≤ 4 by decide⟩
  have v24 : v.2.2.length ≤ 24 := ht.1
  have q0 := hq 0 (by omega)
  have q1 := hq 1 (by omega)
  have q2 := hq 2 (by omega)
  have q3 := hq 3 (by omega)
  have q4 := hq 4 (by omega)
  obtain ⟨w1, w2, w3, w4⟩ := ws
  have eb1 : bByte v.1 = v.1 := bByte_i (by omega) (by omega)
  have eb2 : bByte (v.2.2.length : Int) = (v.2.2.length : Int) := bByte_i (by omega) (by omega)
  have e24 : w32 (24 * (k : Int)) = ((24 * k : Nat) : Int) := by rw [w32_i (by omega) (by omega)]; omega
  have e : x2_put q k w σ = some (wCI (wL (wI (wI σ (q + 1) k v.1) (q + 2) k v.2.2.length) (q + 4) k v.2.1) (w + 1) 0 (q + 3) (24 * k) v.2.2.length) := by
    unfold x2_put
    simp (disch := omega) only [gLet, mT_wI, mN_wI, mR_wI, mT_wL, mN_wL, mR_wL, mI_wL, mL_wI, mIwI1, mIwI2, k1, k2, k3, k4, k5, k6, k7, k8, k9, k10, k11, k12, k13, w1, w2, w3, w4, v2, v3, v4, eb1, eb2, e24, if_pos, if_true, tn, tn', show ((0 : Int)).toNat = 0 from rfl]
  refine ⟨_, e, ?_, ?_⟩
  · exact Ex.CI (((Ex.rf.I (Or.inl ⟨rfl, rfl⟩)).I (Or.inr (Or.inl ⟨rfl, rfl⟩))).L (Or.inr (Or.inr (Or.inl ⟨rfl, rfl⟩)))) (fun j h1 h2 => Or.inr (Or.inr (Or.inr ⟨rfl, h1, by omega⟩)))
  · unfold VV
    simp only [mT_wCI, mN_wCI, mR_wCI, mT_wL, mN_wL, mR_wL, mT_wI, mN_wI, mR_wI]
    refine ⟨k1, k2, k3, k4, k5, k6, k7, k8, k9, k10, k11, k12, k13, fun j hj => ?_⟩
    unfold newVl
    have hL : mL (wCI (wL (wI (wI σ (q + 1) k v.1) (q + 2) k v.2.2.length) (q + 4) k v.2.1) (w + 1) 0 (q + 3) (24 * k) v.2.2.length) (q + 4) j = if j = k then v.2.1 else mL σ (q + 4) j := by
      rw [mL_wCI, mL_wL, mL_wI, mL_wI]
      by_cases c : j = k
      · rw [if_pos ⟨rfl, c⟩, if_pos c, ← v4]; exact mL64 _ _ _
      · rw [if_neg (fun z => c z.2), if_neg c]
    rw [hL]
    simp only [mI_wCI, mI_wL]
    by_cases c : j = k
    · subst c
      rw [if_pos rfl, if_neg (by omega), if_neg (by omega), if_pos rfl]
      refine ⟨v1, ?_, ?_, rfl, fun i hi => ?_⟩
      · simp (disch := omega) only [mIwI1, mIwI2, w32_i]
      · simp (disch := omega) only [mIwI1, mIwI2, w32_i]
      · rw [if_pos ⟨trivial, by omega, by omega⟩]
        simp (disch := omega) only [mIwI1]
        rw [show 0 + (24 * j + i - 24 * j) = i by omega]; exact v5 i hi
    · obtain ⟨a1, a2, a3, a4, a5⟩ := k14 j hj
      have h24 := a1.txt.1
      rw [if_neg c, if_neg (by omega), if_neg (by omega), if_neg c]
      refine ⟨a1, ?_, ?_, a4, fun i hi => ?_⟩
      · simp (disch := omega) only [mIwI1]; exact a2
      · simp (disch := omega) only [mIwI1]; exact a3
      · rw [if_neg (by omega)]
        simp (disch := omega) only [mIwI1]; exact a5 i hi
def Gx (f : Int → List Int × List Int) (g : Int → Nat → Vl) (V : Nat → Vl) : Cx := (f, fun ver => if ver = -1 then V else g ver)
/-- what may be written while a sheet is valued -/
def RqW (x a : Nat) : Prop := (x + 5 ≤ a ∧ a ≤ x + 8) ∨ (x + 13 ≤ a ∧ a ≤ x + 1428)
def RKn (σ0 s : gMem) (x sh nv : Nat) (S : Sh) (f : Int → List Int × List Int) (g : Int → Nat → Vl) (od : List Nat) (ci : Nat → Bool) (V : Nat → Vl) : Prop :=
  (WL s x ∧ LK s (x + 14) ∧ mR s (x + 13) 1 = x + 14 ∧ CCx s x nv (Gx f g V) ∧ mR s (x + 13) 6 = sh ∧ mR s (x + 13) 7 = x + 4) ∧ (AsF s (x + 16) od ∧ mI s (x + 14) 10 = od.length ∧ ∀ v, ciM s (x + 14) v = ci v) ∧
  (ShC s sh S ∧ mI s (x + 13) 3 = 0 ∧ Kz (RqW x) σ0 s ∧ mZ s = mZ σ0 ∧ mS s = mS σ0 ∧ 0 < mZ s ∧ mT s 0 = 0 ∧ ∀ ver : Int, 0 ≤ ver → ver < nv → x + 1429 ≤ vaA s x ver)
theorem Pe.wn {t u : Nat} (wl : WL s x) (ht : Tg x u t) (hu : u ≤ 700) : WN s (fun a => Pe x t u a 0 ∨ a = x + 13) := by
  refine ⟨fun z => ?_, fun a ha => ?_⟩
  · unfold Pe at z; unfold Tg at ht; omega
  · rcases ha with p | p
    · have := Pe.tag wl ht hu p
      refine ⟨by omega, by omega, fun h2 h1 => ?_⟩
      have a0 : a ≠ 0 := fun e => by rw [e] at p; unfold Pe at p; unfold Tg at ht; omega
      have := Pe.words (k := 0) wl ht hu h1 (by rw [show a - 1 + 1 = a by omega]; exact h2)
      rw [show a - 1 + 1 = a by omega] at this
      exact this p
    · have := wl.1
      have e : mT s a = 3 := by rw [p]; exact this
      exact ⟨by omega, by omega, fun h => by omega⟩
theorem RKn.pe (rc : RKn σ0 s x sh nv S f g od ci V) (h : Ey x (Pe x (x + 27) 0) s σ') (h3 : mI σ' (x + 13) 3 = 0) : RKn σ0 σ' x sh nv S f g od ci V := by
  obtain ⟨⟨a1, a2, a3, a4, a5, a6⟩, ⟨b1, b2, b3⟩, c1, c2, c3, c4, c5, c6, c7, c8⟩ := rc
  have ht : Tg x 0 (x + 27) := Or.inl rfl
  have np : ∀ a k, x + 14 ≤ a → a ≤ x + 23 → ¬ Pe x (x + 27) 0 a k := fun a k h1 h2 p => by unfold Pe at p; omega
  have ok := c3.ok
  have K : Kz (fun a => Pe x (x + 27) 0 a 0 ∨ a = x + 13) s σ' := h.kp ok (fun a k p => Or.inl p) (Or.inr rfl)
  have n := Pe.wn a1 ht (by omega)
  refine ⟨⟨a1.ey h, ?_, by rw [h.rR (by omega)]; exact a3, a4.pe a1 ht (by omega) h, by rw [h.rR (by omega)]; exact a5, by rw [h.rR (by omega)]; exact a6⟩, ⟨b1.cg (fun i _ => h.rI (np _ _ (by omega) (by omega))), by rw [h.rI (np _ _ (by omega) (by omega))]; exact b2, fun v => ?_⟩, ?_, h3, ?_, by rw [h.rZ]; exact c4, by rw [h.rS]; exact c5, by rw [h.rZ]; exact c6, by rw [h.rT]; exact c7, fun ver v1 v2 => ?_⟩
  · obtain ⟨z1, z2, z3⟩ := a2
    unfold LK
    rw [h.rT, h.rN]
    exact ⟨z1, fun i hi => by rw [h.rR (by omega)]; exact z2 i hi, z3⟩
  · unfold ciM
    rw [h.rI (np _ _ (by omega) (by omega))]; exact b3 v
  · refine c1.kp K ok c6 n (fun b hb w => ?_)
    have t1 := ShA.tag c1 hb
    rcases w with w | w
    · have := Pe.tag a1 ht (by omega) w; omega
    · have := a1.1; rw [w] at t1; omega
  · refine c3.tr2 K (fun a _ w => ?_)
    unfold RqW
    rcases w with w | w
    · unfold Pe at w; omega
    · omega
  · have q := c8 ver v1 v2
    have q9 := (a4.2.2.2.2 ver (by omega) v2).1 v1
    unfold vaA at q ⊢
    rw [if_neg (by omega)] at q ⊢
    have n9 : mR s (x + 2) ver.toNat ≠ x + 13 := fun e => by rw [e, a1.1] at q9; cases q9
    rw [h.rR (a := x + 2) (by omega), h.rR (Or.inl n9)]; exact q
theorem Gx_own : (Gx f g V).2 (-1) = V := by show (if (-1 : Int) = -1 then V else g (-1)) = V; rw [if_pos rfl]
theorem CCx.put {k : Nat} {V' : Nat → Vl} (wl : WL s x) (h : CCx s x nv (Gx f g V)) (ok : gOk s) (e : Ex (Pq (x + 4) k) s σ') (vv : VV σ' (x + 4) V') (h7 : mR s (x + 13) 7 = x + 4) (hv : ∀ ver : Int, 0 ≤ ver → ver < nv → x + 1429 ≤ vaA s x ver) : CCx σ' x nv (Gx f g V') := by
  obtain ⟨k0, k1, k2, k3, k4⟩ := h
  have h7' := h7
  have hv1 := (k4 (-1) (by decide) (by omega)).2.2.2
  have e7 : vaA s x (-1) = x + 4 := by unfold vaA; rw [if_pos rfl, h7]
  rw [e7] at hv1
  have tg : ∀ q i, Pq (x + 4) k q i → mT s q = 101 ∨ mT s q = 102 := fun q i p => by
    unfold VV at hv1
    unfold Pq at p
    rcases p with p | p | p | p
    · right; rw [p.1]; exact hv1.2.2.2.2.2.1
    · right; rw [p.1]; exact hv1.2.2.2.2.2.2.2.1
    · left; rw [p.1]; exact hv1.2.2.2.2.2.2.2.2.2.2.2.1
    · right; rw [p.1]; exact hv1.2.2.2.2.2.2.2.2.2.1
  have nI : ∀ q i, mT s q ≠ 101 → mT s q ≠ 102 → mI σ' q i = mI s q i := fun q i t1 t2 => e.rI (fun p => by have := tg q i p; omega)
  have es : shA σ' x = shA s x ∧ vaA σ' x = vaA s x := by
    constructor
    · funext ver; unfold shA; rw [e.rR]
    · funext ver; unfold vaA; rw [e.rR]
  have lsc : ∀ q l, LsC s q l → LsC σ' q l := fun q l z => ⟨by rw [e.rT]; exact z.1, by rw [e.rN]; exact z.2.1, z.2.2.1, fun i hi => by rw [nI q i (by have := z.1; omega) (by have := z.1; omega)]; exact z.2.2.2 i hi⟩
  have kx : ∀ q l, Kx s q l → Kx σ' q l := fun q l z => ⟨by rw [e.rT]; exact z.1, by rw [e.rN]; exact z.2.1, fun i hi => by rw [nI q i (by have := z.1; omega) (by have := z.1; omega)]; exact z.2.2 i hi⟩
  refine ⟨k0, fun j hj => ?_, ?_, fun j hj => ?_, fun ver h1 h2 => ?_⟩
  · have q := k1 j hj
    rw [e.rR, e.rT, nI _ _ (by omega) (by omega), nI _ _ (by omega) (by omega)]; exact q
  · unfold Ck
    rw [e.rR]
    exact ⟨kx _ _ k2.1, kx _ _ k2.2⟩
  · have q := k3 j hj
    rw [e.rR, e.rT, nI _ _ (by omega) (by omega)]; exact q
  · obtain ⟨q1, q2, q3, q4⟩ := k4 ver h1 h2
    rw [es.1, es.2, e.rR, e.rT]
    refine ⟨q1, ⟨by rw [e.rT]; exact q2.1, by rw [e.rR]; exact lsc _ _ q2.2.1, by rw [e.rR]; exact lsc _ _ q2.2.2.1, q2.2.2.2⟩, q3, ?_⟩
    by_cases c : ver = -1
    · subst c
      rw [e7]
      show VV σ' (x + 4) (if (-1 : Int) = -1 then V' else g (-1))
      rw [if_pos rfl]; exact vv
    · have q4' : VV s (vaA s x ver) (g ver) := by
        have : (Gx f g V).2 ver = g ver := if_neg c
        rw [← this]; exact q4
      show VV σ' (vaA s x ver) (if ver = -1 then V' else g ver)
      rw [if_neg c]
      have far := hv ver (by omega) h2
      unfold VV at q4' ⊢
      rw [e.rT, e.rN, e.rR]
      obtain ⟨m1, m2, m3, m4, m5, m6, m7, m8, m9, m10, m11, m12, m13, m14⟩ := q4'
      refine ⟨m1, m2, m3, m4, m5, m6, m7, m8, m9, m10, m11, m12, m13, fun j hj => ?_⟩
      have np : ∀ i y, ¬ Pq (x + 4) k (vaA s x ver + i) y := fun i y p => by unfold Pq at p; omega
      rw [e.rI (np 1 _), e.rI (np 2 _), e.rL (np 4 _)]
      obtain ⟨a1, a2, a3, a4, a5⟩ := m14 j hj
      exact ⟨a1, a2, a3, a4, fun i hi => by rw [e.rI (np 3 _)]; exact a5 i hi⟩
theorem RKn.put {k : Nat} {v : Vl} (rc : RKn σ0 s x sh nv S f g od ci V) (e : Ex (Pq (x + 4) k) s σ') (vv : VV σ' (x + 4) (newVl V k v)) : RKn σ0 σ' x sh nv S f g od ci (newVl V k v) := by
  obtain ⟨⟨a1, a2, a3, a4, a5, a6⟩, ⟨b1, b2, b3⟩, c1, c2, c3, c4, c5, c6, c7, c8⟩ := rc
  have ok := c3.ok
  have np : ∀ a i, x + 9 ≤ a → ¬ Pq (x + 4) k a i := fun a i h p => by unfold Pq at p; omega
  have K : Kz (fun a => x + 5 ≤ a ∧ a ≤ x + 8) s σ' := e.kp ok (fun a i p => by unfold Pq at p; omega)
  have hv1 := (a4.2.2.2.2 (-1) (by decide) (by have := a4.1; omega)).2.2.2
  have e7 : vaA s x (-1) = x + 4 := by unfold vaA; rw [if_pos rfl, a6]
  rw [e7] at hv1
  have tg : ∀ a, x + 5 ≤ a → a ≤ x + 8 → mT s a = 101 ∨ (mT s a = 102 ∧ mT s (a - 1) ≠ 12) := fun a h1 h2 => by
    unfold VV at hv1
    obtain ⟨m1, -, -, -, -, m6, -, m8, -, m10, -, m12, -⟩ := hv1
    rcases (by omega : a = x + 5 ∨ a = x + 6 ∨ a = x + 7 ∨ a = x + 8) with c | c | c | c <;> subst c
    · right; exact ⟨m6, by rw [show x + 5 - 1 = x + 4 by omega, m1]; decide⟩
    · right; exact ⟨m8, by rw [show x + 6 - 1 = x + 4 + 1 by omega, m6]; decide⟩
    · right; exact ⟨m10, by rw [show x + 7 - 1 = x + 4 + 2 by omega, m8]; decide⟩
    · left; exact m12
  have n : WN s (fun a => x + 5 ≤ a ∧ a ≤ x + 8) := ⟨by omega, fun a ha => by have := tg a ha.1 ha.2; omega⟩
  refine ⟨⟨?_, a2.ex e, by rw [e.rR]; exact a3, a4.put a1 ok e vv a6 c8, by rw [e.rR]; exact a5, by rw [e.rR]; exact a6⟩, ⟨b1.cg (fun i _ => e.rI (np _ _ (by omega))), by rw [e.rI (np _ _ (by omega))]; exact b2, fun v => ?_⟩, ?_, by rw [e.rI (np _ _ (by omega))]; exact c2, ?_, by rw [e.rZ]; exact c4, by rw [e.rS]; exact c5, by rw [e.rZ]; exact c6, by rw [e.rT]; exact c7, fun ver v1 v2 => ?_⟩
  · unfold WL WS
    rw [e.rT, e.rR, e.rN]; exact a1
  · unfold ciM
    rw [e.rI (np _ _ (by omega))]; exact b3 v
  · refine c1.kp K ok c6 n (fun b hb w => ?_)
    have t1 := ShA.tag c1 hb
    have := tg b w.1 w.2
    omega
  · exact c3.tr2 K (fun a _ w => by unfold RqW; omega)
  · have q := c8 ver v1 v2
    unfold vaA at q ⊢
    rw [e.rR]; exact q
/-- what a cell's value is to be -/
def vlOf (S : Sh) (f : Int → List Int × List Int) (g : Int → Nat → Vl) (ci : Nat → Bool) (V : Nat → Vl) (v : Nat) : Vl :=
  if (S.2 v).2 = [] then (S.2 v).1 else if ci v then vErr 6 else fix0 (ev (Gx f g V) (S.2 v).2)
theorem c_reckon_p {i v : Nat} {w : Vl} {K : gMem → Option gMem} {Kh : Int → gMem → Option gMem} {Φ : gMem → Prop} (rc : RKn σ0 s x sh nv S f g od ci V) (hv : v < 320) (gw : VW s (x + 27) w) (hK : ∀ s', RKn σ0 s' x sh nv S f g od ci (newVl V v w) → Ev (Kh (w32 ((i : Int) + 1)) s') Φ) : Ev (x3_reckon_l25_j172 N (x + 13) sh (x + 4) i v Kh K s) Φ := by
  have rc0 := rc
  obtain ⟨⟨a1, a2, a3, a4, a5, a6⟩, -, -⟩ := rc
  have hv1 := (a4.2.2.2.2 (-1) (by decide) (by have := a4.1; omega)).2.2.2
  have e7 : vaA s x (-1) = x + 4 := by unfold vaA; rw [if_pos rfl, a6]
  rw [e7, Gx_own] at hv1
  unfold x3_reckon_l25_j172
  rw [a1.2.2.2.2.1]
  exact Ev.g a1.1 (Ev.g hv1.1 (Ev.c (c_put a1.2.2.2.2.2.2.2.2.2.1 gw hv1 hv (fun i hi => by omega)) (fun r _ z => hK r (rc0.put z.1 z.2))))
theorem HSw.pe {w : Vl} (z : HSw (x + 27) s σ' w) : Ey x (Pe x (x + 27) 0) s σ' := (z.1.mono (fun a k p => by unfold Wp at p; unfold Pe; omega)).y
theorem HSw.i3 {w : Vl} (z : HSw (x + 27) s σ' w) : mI σ' (x + 13) 3 = mI s (x + 13) 3 := z.1.rI (fun p => by unfold Wp at p; omega)
theorem c_reckon_q {i v a : Nat} {w : Vl} {K : gMem → Option gMem} {Kh : Int → gMem → Option gMem} {Φ : gMem → Prop} (rc : RKn σ0 s x sh nv S f g od ci V) (hv : v < 320) (gw : VW s (x + 27) w) (ct : CtC s a (S.2 v)) (hK : ∀ s', RKn σ0 s' x sh nv S f g od ci (newVl V v (if (S.2 v).2 = [] then w else fix0 w)) → Ev (Kh (w32 ((i : Int) + 1)) s') Φ) : Ev (x3_reckon_l25_j146 N (x + 13) sh (x + 4) i v a Kh K s) Φ := by
  have rc0 := rc
  obtain ⟨⟨a1, a2, a3, a4, a5, a6⟩, b, c1, c2, c3, c4, c5, c6, c7, c8⟩ := rc
  have ws : WS s (x + 27) := a1.2.2.2.2.2.2.2.2.2.1
  unfold x3_reckon_l25_j146
  rw [a1.2.2.2.2.1]
  refine Ev.g ct.node ?_
  by_cases t : mT s a = 21
  · have ne := (ct.form c7).mp t
    rw [if_neg ne] at hK
    refine Ev.g t (Ev.g a1.1 (Ev.g ws.1 ?_))
    unfold fix0 at hK
    rw [gw.2.1]
    by_cases k0 : w.1 = 0
    · rw [if_pos k0] at hK
      refine Ev.f (fun z => z k0) (Ev.c (c_be ws (by decide)) (fun r _ z => ?_))
      exact c_reckon_p (rc0.pe z.pe (by rw [z.i3]; exact c2)) hv z.2 hK
    · rw [if_neg k0] at hK
      exact Ev.g k0 (c_reckon_p rc0 hv gw hK)
  · have e : (S.2 v).2 = [] := by
      by_cases q : (S.2 v).2 = []
      · exact q
      · exact absurd ((ct.form c7).mpr q) t
    rw [if_pos e] at hK
    exact Ev.f t (c_reckon_p rc0 hv gw hK)
theorem c_reckon_s {i v F : Nat} {K : gMem → Option gMem} {Φ : gMem → Prop} (hN : 400 ≤ N) (rc : RKn σ0 s x sh nv S f g od ci V) (hi : i < od.length) (ov : od.getD i 0 = v) (ib : inB S.1.1.length S.1.2.length v) (hpl : (S.2 v).2 = [] → ci v = false) (hpw : ∀ p ∈ (S.2 v).2, pW p < nv) (ho : od.length ≤ 320) (hK : ∀ s', RKn σ0 s' x sh nv S f g od ci (newVl V v (vlOf S f g ci V v)) → Ev (x3_reckon_l25 N (x + 13) sh (x + 4) K F ((i + 1 : Nat) : Int) s') Φ) : Ev (x3_reckon_l25 N (x + 13) sh (x + 4) K (F + 1) i s) Φ := by
  have rc0 := rc
  obtain ⟨⟨a1, a2, a3, a4, a5, a6⟩, ⟨b1, b2, b3⟩, c1, c2, c3, c4, c5, c6, c7, c8⟩ := rc
  have ws : WS s (x + 27) := a1.2.2.2.2.2.2.2.2.2.1
  have lC := c1.1.2.2.2
  have lR := c1.1.2.1.2.2.1
  have v3 : v < 320 := by unfold inB at ib; omega
  obtain ⟨⟨t0, r0, r1, r2, r3, r4, r5, r6, r7, r8⟩, ⟨t1, t2, t3, t4, t5, t6, t7, t8, t9⟩, n1, n2, n3, n4, n5, n6, n7, n8, n9⟩ := a2.f
  simp only [Nat.add_assoc, Nat.reduceAdd] at t0 r1 r8 t2 t9 n2 n9
  have eo : mI s (x + 16) i = (v : Int) := by rw [b1 i hi, ov]
  obtain ⟨⟨s1, -⟩, s2, s3, s4⟩ := c1
  obtain ⟨w1, w2, w3⟩ := s4 (v / 10) ib.1
  have ct := w3 (v % 10) ib.2
  dsimp only at ct
  rw [show 10 * (v / 10) + v % 10 = v by omega] at ct
  generalize ha : mR s (mR s (mR s sh 2) (v / 10)) (v % 10) = a at ct
  have ed : Int.tdiv (v : Int) 10 = ((v / 10 : Nat) : Int) := by rw [Int.tdiv_eq_ediv_of_nonneg (by omega)]; omega
  have em : Int.tmod (v : Int) 10 = ((v % 10 : Nat) : Int) := by rw [Int.tmod_eq_emod_of_nonneg (by omega)]; omega
  have ib1 := ib.1
  have ib2 := ib.2
  unfold x3_reckon_l25
  rw [a3, r1, b2, tn, eo, ed, em, tn, tn, tn, a1.2.2.2.2.1, n2, s3, w2, ha]
  refine Ev.g a1.1 (Ev.g t0 (Ev.f (by omega) (Ev.g t2 (Ev.g (by omega) (Ev.g s1 (Ev.g s2 (Ev.g (by omega) (Ev.g w1 (Ev.g (by omega) (Ev.g ws.1 (Ev.c (c_none ws) (fun x20 _ z => ?_))))))))))))
  have X := z.1
  have rc1 := rc0.pe z.pe (by rw [z.i3]; exact c2)
  have ok := c3.ok
  have K1 : Kz (fun a => Pe x (x + 27) 0 a 0 ∨ a = x + 13) s x20 := z.pe.kp ok (fun a k p => Or.inl p) (Or.inr rfl)
  have ct1 := ct.kp K1 ok c6 (Pe.wn a1 (Or.inl rfl) (by omega))
  have ws1 := ws.ex X
  have c7' : mT x20 0 = 0 := by rw [X.rT]; exact c7
  rw [X.rR, a3, r8]
  refine Ev.g (by rw [X.rT]; exact t0) (Ev.g (by rw [X.rT]; exact t9) (Ev.g (by rw [X.rN, n9]; omega) ?_))
  have cb := b3 v
  have cb1 : ciM x20 (x + 14) v = ci v := rc1.2.1.2.2 v
  unfold ciM at cb1
  cases hci : ci v with
  | true =>
    rw [hci] at cb1
    have nz := of_decide_eq_true cb1
    have ne : (S.2 v).2 ≠ [] := fun q => by rw [hpl q] at hci; cases hci
    refine Ev.f nz ?_
    rw [a1.2.2.2.2.1]
    refine Ev.g ws1.1 (Ev.c (c_fail ws1 (by decide) (by decide)) (fun r _ y => ?_))
    have K2 : Kz (fun a => Pe x (x + 27) 0 a 0 ∨ a = x + 13) x20 r := y.pe.kp K1.ok (fun a k p => Or.inl p) (Or.inr rfl)
    refine c_reckon_q (rc1.pe y.pe (by rw [y.i3]; exact rc1.2.2.2.1)) v3 y.2 (ct1.kp K2 K1.ok rc1.2.2.2.2.2.2.2.1 (Pe.wn rc1.1.1 (Or.inl rfl) (by omega))) (fun s' h => ?_)
    rw [inc32 (by omega)]
    rw [if_neg ne] at h
    refine hK s' ?_
    unfold vlOf
    rw [if_neg ne, hci, if_pos rfl]
    exact h
  | false =>
    rw [hci] at cb1
    have nz : mI x20 (x + 14 + 9) v = 0 := by
      by_cases q : mI x20 (x + 14 + 9) v = 0
      · exact q
      · exact absurd (decide_eq_true (show mI x20 (x + 14 + 9) v ≠ 0 from q)) (by rw [cb1]; decide)
    refine Ev.g nz (Ev.g ct1.node ?_)
    by_cases t : mT x20 a = 21
    · have ne := (ct1.form c7').mp t
      obtain ⟨-, -, d3, d4, -⟩ := ct1.fm ne
      refine Ev.g t (Ev.g (Or.inr t) (Ev.g t ?_))
      rw [a1.2.2.2.2.1, ← X.rR]
      have hC := c_work (x := x) (nv := nv) (cx := Gx f g V) hN 60 64 (by omega) _ (x + 27) 0 _ x20 d4 hpw rc1.1.1 rc1.1.2.2.2.1 (Or.inl rfl) (by rw [rc1.2.2.2.1]; rfl) (by omega)
      refine Ev.c hC (fun r _ y => ?_)
      have K2 : Kz (fun a => Pe x (x + 27) 0 a 0 ∨ a = x + 13) x20 r := y.1.kp K1.ok (fun a k p => Or.inl p) (Or.inr rfl)
      refine c_reckon_q (rc1.pe y.1 (by rw [y.2.1]; rfl)) v3 y.2.2 (ct1.kp K2 K1.ok rc1.2.2.2.2.2.2.2.1 (Pe.wn rc1.1.1 (Or.inl rfl) (by omega))) (fun s' h => ?_)
      rw [inc32 (by omega)]
      rw [if_neg ne] at h
      refine hK s' ?_
      unfold vlOf
      rw [if_neg ne, hci, if_neg (show ¬ false = true from fun z => by cases z)]
      exact h
    · have e0 : (S.2 v).2 = [] := by
        by_cases q : (S.2 v).2 = []
        · exact q
        · exact absurd ((ct1.form c7').mpr q) t
      refine Ev.f t ?_
      have FIN : ∀ r, HSw (x + 27) x20 r (S.2 v).1 → Ev (x3_reckon_l25_j146 N (x + 13) sh (x + 4) i v a (x3_reckon_l25 N (x + 13) sh (x + 4) K F) K r) Φ := by
        intro r y
        have K2 : Kz (fun a => Pe x (x + 27) 0 a 0 ∨ a = x + 13) x20 r := y.pe.kp K1.ok (fun a k p => Or.inl p) (Or.inr rfl)
        refine c_reckon_q (rc1.pe y.pe (by rw [y.i3]; exact rc1.2.2.2.1)) v3 y.2 (ct1.kp K2 K1.ok rc1.2.2.2.2.2.2.2.1 (Pe.wn rc1.1.1 (Or.inl rfl) (by omega))) (fun s' h => ?_)
        rw [inc32 (by omega)]
        rw [if_pos e0] at h
        refine hK s' ?_
        unfold vlOf
        rw [if_pos e0]
        exact h
      rcases ct1 with ⟨h1, h2⟩ | ⟨h1, h2, h3⟩ | ⟨h1, h2, h3, h4, h5, h6⟩ | ⟨h1, h2, -⟩ | h
      · refine Ev.g h1 (FIN x20 (HSw.rf ?_))
        rw [h2]; exact z.2
      · have na : ¬ a = 0 := fun e => by rw [e, c7'] at h1; cases h1
        refine Ev.f na (Ev.g (Or.inr (by rw [h1]; decide)) ?_)
        rw [a1.2.2.2.2.1]
        refine Ev.c (Ψ := fun r => HSw (x + 27) x20 r (S.2 v).1) ?_ (fun r _ y => FIN r y)
        show Ev ((dp_Part_work N 64) a (x + 13) (x + 27) x20) _
        unfold dp_Part_work
        refine Ev.g h1 ?_
        unfold x13_work
        refine Ev.g h1 (Ev.g ws1.1 (Ev.c (c_be ws1 (mL_rng _ _ _)) (fun r _ y => Ev.r ?_)))
        unfold vBe at y
        rw [if_neg (by omega)] at y
        rw [h2]; exact y
      · have na : ¬ a = 0 := fun e => by rw [e, c7'] at h1; cases h1
        refine Ev.f na (Ev.g (Or.inr (by rw [h1]; decide)) ?_)
        rw [a1.2.2.2.2.1]
        refine Ev.c (Ψ := fun r => HSw (x + 27) x20 r (S.2 v).1) ?_ (fun r _ y => FIN r y)
        show Ev ((dp_Part_work N 64) a (x + 13) (x + 27) x20) _
        unfold dp_Part_work
        refine Ev.f (by omega) (Ev.g h1 ?_)
        unfold x14_work
        rw [h2, w32_i (by omega) (by omega)]
        have nw : a + 1 ≠ x + 27 := fun e => by rw [e, ws1.1] at h3; cases h3
        have nw1 : a + 1 ≠ x + 27 + 1 := fun e => by rw [show a = x + 27 by omega, ws1.1] at h1; cases h1
        refine Ev.g h1 (Ev.g h3 (Ev.g ws1.1 (Ev.c (c_words (t := lst (mN x20 (a + 1)) (mI x20 (a + 1))) ws1 (by rw [lst_len]) h5 (fun c hc => ?_) nw nw1 h3 (Nat.le_refl _) (fun i hi => lst_len_gl hi)) (fun r _ y => Ev.r ?_))))
        · obtain ⟨i, hi, e⟩ := mem_gl hc
          rw [lst_len] at hi
          rw [gl_lst hi] at e
          rw [← e]; exact h6 i hi
        · rw [h4]; exact y
      · have na : ¬ a = 0 := fun e => by rw [e, c7'] at h1; cases h1
        refine Ev.f na (Ev.g (Or.inr (by rw [h1]; decide)) ?_)
        rw [a1.2.2.2.2.1]
        refine Ev.c (Ψ := fun r => HSw (x + 27) x20 r (S.2 v).1) ?_ (fun r _ y => FIN r y)
        show Ev ((dp_Part_work N 64) a (x + 13) (x + 27) x20) _
        unfold dp_Part_work
        refine Ev.f (by omega) (Ev.f (by omega) (Ev.g h1 ?_))
        unfold x18_work
        refine Ev.g h1 (Ev.g ws1.1 (Ev.c (c_is ws1) (fun r _ y => Ev.r ?_)))
        rw [h2]; exact y
      · exact absurd h.1 t
/-- values so far -/
def GdC (S : Sh) (f : Int → List Int × List Int) (g : Int → Nat → Vl) (ci : Nat → Bool) (V : Nat → Vl) (v : Nat) : Prop :=
  V v = vlOf S f g ci V v
/-- one that is done keeps its value -/
theorem vlOf_keep {k v : Nat} {w : Vl} (hw : (S.2 v).2 ≠ [] → (∃ n, Wf n (S.2 v).2) ∧ ∀ p ∈ (S.2 v).2, pW p < nv) (hl : ci v = false → (S.2 v).2 ≠ [] → ∀ V, ∀ j ∈ leadsF (Gx f g V) (S.2 v).2, j ≠ k) : vlOf S f g ci (newVl V k w) v = vlOf S f g ci V v := by
  unfold vlOf
  by_cases e : (S.2 v).2 = []
  · rw [if_pos e, if_pos e]
  · rw [if_neg e, if_neg e]
    cases hc : ci v with
    | true => rw [if_pos rfl, if_pos rfl]
    | false =>
      rw [if_neg (show ¬ false = true from fun z => by cases z), if_neg (show ¬ false = true from fun z => by cases z)]
      obtain ⟨⟨n, wf⟩, wv⟩ := hw e
      have key : ∀ (g1 g2 : Int → Nat → Vl), g1 = (Gx f g (newVl V k w)).2 → g2 = (Gx f g V).2 → ev (f, g1) (S.2 v).2 = ev (f, g2) (S.2 v).2 := by
        intro g1 g2 e1 e2
        refine ev_local (f := f) (V := nv) (fun ver h1 h2 => ?_) n _ wf wv (fun j hj => ?_)
        · rw [e1, e2]
          unfold Gx
          show (if ver = -1 then _ else _) = (if ver = -1 then _ else _)
          rw [if_neg (by omega), if_neg (by omega)]
        · rw [e1, e2, Gx_own, Gx_own]
          unfold newVl
          have e1' : (f, g1) = Gx f g (newVl V k w) := by rw [e1]; rfl
          rw [e1'] at hj
          rw [if_neg (hl hc e _ j hj)]
      have e3 := key _ _ rfl rfl
      have q1 : Gx f g (newVl V k w) = (f, (Gx f g (newVl V k w)).2) := rfl
      have q2 : Gx f g V = (f, (Gx f g V).2) := rfl
      rw [q1, q2, e3]
theorem c_reckon_l {K : gMem → Option gMem} {Φ : gMem → Prop} (hN : 400 ≤ N) (nd : od.Nodup) (ho : od.length ≤ 320) (ib : ∀ v, v ∈ od → inB S.1.1.length S.1.2.length v) (hpl : ∀ v, v ∈ od → (S.2 v).2 = [] → ci v = false) (hw : ∀ v, v ∈ od → (S.2 v).2 ≠ [] → (∃ n, Wf n (S.2 v).2) ∧ ∀ p ∈ (S.2 v).2, pW p < nv)
    (hor : ∀ l1 v l2, od = l1 ++ v :: l2 → ci v = false → (S.2 v).2 ≠ [] → ∀ V, ∀ j ∈ leadsF (Gx f g V) (S.2 v).2, j ∈ l1)
    (hK : ∀ s V, RKn σ0 s x sh nv S f g od ci V → (∀ v, v ∈ od → GdC S f g ci V v) → Ev (K s) Φ) : ∀ (m i F : Nat) (s : gMem) (V : Nat → Vl), i + m = od.length → m < F → RKn σ0 s x sh nv S f g od ci V → (∀ v, v ∈ od.take i → GdC S f g ci V v) → Ev (x3_reckon_l25 N (x + 13) sh (x + 4) K F i s) Φ := by
  intro m
  induction m with
  | zero =>
    intro i F s V h1 h2 rc gd
    obtain ⟨F, rfl⟩ : ∃ j, F = j + 1 := ⟨F - 1, by omega⟩
    rw [List.take_of_length_le (by omega)] at gd
    have rc0 := rc
    obtain ⟨⟨a1, a2, a3, -⟩, ⟨b1, b2, -⟩, -⟩ := rc
    have t0 := a2.1
    unfold x3_reckon_l25
    rw [a3, b2]
    exact Ev.g a1.1 (Ev.g t0 (Ev.g (by omega) (hK s V rc0 gd)))
  | succ m ih =>
    intro i F s V h1 h2 rc gd
    obtain ⟨F, rfl⟩ : ∃ j, F = j + 1 := ⟨F - 1, by omega⟩
    have hi : i < od.length := by omega
    have eg : od.getD i 0 = od[i] := by rw [List.getD_eq_getElem?_getD, List.getElem?_eq_getElem hi]; rfl
    have vm : od[i] ∈ od := List.getElem_mem hi
    have sp : od = od.take i ++ od[i] :: od.drop (i + 1) := by
      have := List.take_append_drop i od
      rw [List.drop_eq_getElem_cons hi] at this; exact this.symm
    refine c_reckon_s hN rc hi eg (ib _ vm) (hpl _ vm) (fun p hp => ?_) ho (fun s' rc' => ih (i + 1) F s' _ (by omega) (by omega) rc' (fun v hv => ?_))
    · by_cases e : (S.2 od[i]).2 = []
      · rw [e] at hp; cases hp
      · exact (hw _ vm e).2 p hp
    · -- the ones done keep their values
      have nd2 : od[i] ∉ od.take i := fun q => by
        rw [sp] at nd
        exact (List.nodup_append.mp nd).2.2 _ q _ List.mem_cons_self rfl
      rw [List.take_succ_eq_append_getElem hi] at hv
      rcases List.mem_append.mp hv with q | q
      · have vo := List.mem_of_mem_take q
        have vne : v ≠ od[i] := fun e => nd2 (e ▸ q)
        unfold GdC
        rw [vlOf_keep (nv := nv) (k := od[i]) (w := vlOf S f g ci V od[i]) (V := V) (v := v) (hw v vo) (fun hc he V' j hj e => ?_)]
        · unfold newVl
          rw [if_neg vne]; exact gd v q
        · -- leads lie ahead of v
          obtain ⟨l1, l2, e2⟩ := List.append_of_mem q
          have e3 : od = l1 ++ v :: (l2 ++ od[i] :: od.drop (i + 1)) := by
            have := sp
            rw [e2, List.append_assoc] at this; exact this
          have := hor _ _ _ e3 hc he V' j hj
          rw [e] at this
          exact nd2 (by rw [e2]; exact List.mem_append_left _ this)
      · have ev' := List.mem_singleton.mp q
        rw [ev']
        unfold GdC
        rw [vlOf_keep (nv := nv) (k := od[i]) (w := vlOf S f g ci V od[i]) (V := V) (v := od[i]) (hw _ vm) (fun hc he V' j hj e => ?_)]
        · unfold newVl; rw [if_pos rfl]
        · have := hor _ _ _ sp hc he V' j hj
          rw [e] at this
          exact nd2 this
/-- away from the place where values are worked out -/
def Fa (x a : Nat) : Prop := a < x + 4 ∨ x + 1428 < a
set_option maxRecDepth 100000 in
/-- the component values a sheet as it should be -/
theorem c_reckonS (hN : 200000 ≤ N) (wl : WL σ x) (lk : LK σ (x + 14)) (r1 : mR σ (x + 13) 1 = x + 14) (vv : VV σ (x + 4) V) (k0 : nv ≤ 40) (ks : KS σ) (ck : Ck σ) (kn : KN σ)
    (vers : ∀ ver : Int, 0 ≤ ver → ver < nv → mT σ (mR σ (x + 2) ver.toNat) = 9 ∧ ShL σ (mR σ (mR σ (x + 2) ver.toNat) 0) (f ver).1 (f ver).2 ∧ x + 1429 ≤ mR σ (mR σ (x + 2) ver.toNat) 1 ∧ VV σ (mR σ (mR σ (x + 2) ver.toNat) 1) (g ver) ∧ Fa x (mR σ (mR σ (x + 2) ver.toNat) 0) ∧ Fa x (mR σ (mR σ (mR σ (x + 2) ver.toNat) 0) 0) ∧ Fa x (mR σ (mR σ (mR σ (x + 2) ver.toNat) 0) 1))
    (shc : ShC σ sh S) (hf : f (-1) = S.1) (ok : gOk σ) (mz : 0 < mZ σ) (z0 : mT σ 0 = 0) (far : ∀ b, ShA σ sh S.1.1.length b → Fa x b)
    (hw : ∀ k, inB S.1.1.length S.1.2.length k → (S.2 k).2 ≠ [] → ∀ p ∈ (S.2 k).2, pW p < nv) : Ev (x3_reckon N (x + 13) sh (x + 4) σ) (fun r => Kz (RqW x) σ r ∧ (WL r x ∧ LK r (x + 14) ∧ mR r (x + 13) 1 = x + 14) ∧ mZ r = mZ σ ∧ mS r = mS σ ∧ ∃ V', VV r (x + 4) V' ∧ IsVal (Gx f g V') S.1.1.length S.1.2.length S.2) := by
  have lR := shc.1.2.1.2.2.1
  have lC := shc.1.2.2.2
  have lkf := lk.f
  obtain ⟨⟨t0, -⟩, ⟨t1, t2, t3, t4, t5, t6, t7, t8, t9⟩, -⟩ := lkf
  simp only [Nat.add_assoc, Nat.reduceAdd] at t1 t2 t3 t4 t5 t6 t7 t8 t9
  have ST : ∀ s6, s6 = wI (wR (wR σ (x + 13) 6 sh) (x + 13) 7 (x + 4)) (x + 13) 3 0 → Kz (fun a => a = x + 13) σ s6 ∧ mT s6 = mT σ ∧ mN s6 = mN σ ∧ mZ s6 = mZ σ ∧ mS s6 = mS σ ∧ mR s6 (x + 13) 6 = sh ∧ mR s6 (x + 13) 7 = x + 4 ∧ mI s6 (x + 13) 3 = 0 ∧ ∀ a j, a ≠ x + 13 ∨ (j ≠ 6 ∧ j ≠ 7) → mR s6 a j = mR σ a j := by
    rintro s6 rfl
    have hR : ∀ a j, mR (wI (wR (wR σ (x + 13) 6 sh) (x + 13) 7 (x + 4)) (x + 13) 3 0) a j = if a = x + 13 ∧ j = 7 then x + 4 else if a = x + 13 ∧ j = 6 then sh else mR σ a j := fun a j => by rw [mR_wI, mR_wR, mR_wR]
    refine ⟨⟨Nat.le_refl _, ok, fun a _ => ⟨rfl, rfl⟩, fun a _ hw k => ⟨?_, rfl, ?_⟩⟩, rfl, rfl, rfl, rfl, ?_, ?_, ?_, fun a j h => ?_⟩
    · rw [mIwI1 (fun z => hw z.1)]; rfl
    · rw [hR, if_neg (fun z => hw z.1), if_neg (fun z => hw z.1)]
    · rw [hR, if_neg (by omega), if_pos ⟨rfl, rfl⟩]
    · rw [hR, if_pos ⟨rfl, rfl⟩]
    · rw [mI_wI, if_pos ⟨rfl, rfl⟩]; rfl
    · rw [hR, if_neg (by omega), if_neg (by omega)]
  unfold x3_reckon
  refine Ev.g wl.1 (Ev.l (Ev.l (Ev.l ?_)))
  obtain ⟨K6, T6, N6, Z6, S6, a6, a7, a3, R6⟩ := ST _ rfl
  generalize wI (wR (wR σ (x + 13) 6 sh) (x + 13) 7 (x + 4)) (x + 13) 3 0 = s6 at K6 T6 N6 Z6 S6 a6 a7 a3 R6 ⊢
  have t3' : mT σ (x + 13) = 3 := wl.1
  have n6 : WN σ (fun a => a = x + 13) := ⟨by omega, fun a ha => by have e : mT σ a = 3 := by rw [show a = x + 13 from ha]; exact t3'
                                                                    omega⟩
  have w6 : ∀ a, a = x + 13 → mT σ a < 90 ∨ 100 ≤ mT σ a := fun a ha => by rw [ha, t3']; omega
  have lk6 : LK s6 (x + 14) := by
    obtain ⟨z1, z2, z3⟩ := lk
    unfold LK
    rw [T6, N6]
    exact ⟨z1, fun i hi => by rw [R6 _ _ (by omega)]; exact z2 i hi, z3⟩
  have shc6 : ShC s6 sh S := shc.kp K6 ok mz n6 (fun b hb z => by have := far b hb; unfold Fa at this; have e : b = x + 13 := z; omega)
  have far6 : ∀ b, ShA s6 sh S.1.1.length b → Fa x b := fun b hb => by
    refine far b ?_
    have e1 : sh ≠ x + 13 := fun e => by have := far sh (Or.inl rfl); unfold Fa at this; omega
    have e2 : mR σ sh 2 ≠ x + 13 := fun e => by have := far _ (Or.inr (Or.inr (Or.inr (Or.inl rfl)))); unfold Fa at this; omega
    unfold ShA at hb ⊢
    rw [R6 sh 0 (Or.inl e1), R6 sh 1 (Or.inl e1), R6 sh 2 (Or.inl e1)] at hb
    rcases hb with h | h | h | h | ⟨r, h1, h2⟩
    · exact Or.inl h
    · exact Or.inr (Or.inl h)
    · exact Or.inr (Or.inr (Or.inl h))
    · exact Or.inr (Or.inr (Or.inr (Or.inl h)))
    · exact Or.inr (Or.inr (Or.inr (Or.inr ⟨r, h1, by rw [R6 _ _ (Or.inl e2)] at h2; exact h2⟩)))
  have fq : FQd s6 (x + 14) sh S := ⟨lk6, shc6, kn.kp K6 ok mz (by omega) w6, K6.ok, by rw [Z6]; exact mz, by rw [T6]; exact z0, fun b hb => by have := far6 b hb; unfold Fa at this; omega⟩
  rw [R6 _ _ (Or.inr (by omega)), r1, T6]
  refine Ev.g lk.1 (Ev.c (c_find (cx := Gx f g V) hN fq hf) (fun x9 _ z => ?_))
  obtain ⟨X, od, ts, om⟩ := z
  have ti := ts.2.2.1
  -- all in one
  have K9 : Kz (fun a => x + 13 ≤ a ∧ a ≤ x + 23) σ x9 := by
    refine (K6.mono (fun a z => ?_)).tr2 (X.kp K6.ok (W := fun a => x + 14 ≤ a ∧ a ≤ x + 14 + 9) (fun a k p => p)) (fun a _ p => ?_)
    · have e : a = x + 13 := z; omega
    · omega
  have wt : ∀ a, (x + 13 ≤ a ∧ a ≤ x + 23) → mT σ a = 3 ∨ mT σ a = 4 ∨ mT σ a = 100 ∨ mT σ a = 101 ∨ mT σ a = 103 := fun a ha => by
    rcases (by omega : a = x + 13 ∨ a = x + 14 ∨ a = x + 15 ∨ a = x + 16 ∨ a = x + 17 ∨ a = x + 18 ∨ a = x + 19 ∨ a = x + 20 ∨ a = x + 21 ∨ a = x + 22 ∨ a = x + 23) with c | c | c | c | c | c | c | c | c | c | c <;> subst c <;> omega
  have n9 : WN σ (fun a => x + 13 ≤ a ∧ a ≤ x + 23) := ⟨by omega, fun a ha => by have := wt a ha; omega⟩
  have w9 : ∀ a, (x + 13 ≤ a ∧ a ≤ x + 23) → mT σ a < 90 ∨ 100 ≤ mT σ a := fun a ha => by have := wt a ha; omega
  have R9 : ∀ a j, a ≠ x + 13 ∨ (j ≠ 6 ∧ j ≠ 7) → mR x9 a j = mR σ a j := fun a j h => by rw [X.rR]; exact R6 a j h
  have T9 : mT x9 = mT σ := by rw [X.rT, T6]
  have N9 : mN x9 = mN σ := by rw [X.rN, N6]
  have b6 : mR x9 (x + 13) 6 = sh := by rw [X.rR]; exact a6
  have b7 : mR x9 (x + 13) 7 = x + 4 := by rw [X.rR]; exact a7
  have b3 : mI x9 (x + 13) 3 = 0 := by rw [X.rI (by unfold Lq; omega)]; exact a3
  have wl9 : WL x9 x := by
    unfold WL WS
    rw [T9, N9]
    obtain ⟨q1, q2, q3, q4, q5, q6, q7, q8, q9, q10, q11, q12, q13⟩ := wl
    refine ⟨q1, by rw [R9 _ _ (by omega)]; exact q2, by rw [R9 _ _ (by omega)]; exact q3, by rw [R9 _ _ (by omega)]; exact q4, by rw [R9 _ _ (by omega)]; exact q5, q6, q7, fun i hi => by rw [R9 _ _ (by omega)]; exact q8 i hi, ⟨q9.1, by rw [R9 _ _ (by omega)]; exact q9.2.1, q9.2.2⟩, ⟨q10.1, by rw [R9 _ _ (by omega)]; exact q10.2.1, q10.2.2⟩, fun i hi => ⟨(q11 i hi).1, by rw [R9 _ _ (by omega)]; exact (q11 i hi).2.1, (q11 i hi).2.2⟩, q12, q13⟩
  have tv : ∀ ver : Int, 0 ≤ ver → ver < nv → mR σ (x + 2) ver.toNat ≠ x + 13 := fun ver h1 h2 e => by have := (vers ver h1 h2).1; rw [e, t3'] at this; cases this
  have vA : ∀ ver : Int, 0 ≤ ver → ver < nv → shA x9 x ver = mR σ (mR σ (x + 2) ver.toNat) 0 ∧ vaA x9 x ver = mR σ (mR σ (x + 2) ver.toNat) 1 := fun ver h1 h2 => by
    unfold shA vaA
    rw [if_neg (by omega), if_neg (by omega), R9 (x + 2) _ (by omega), R9 _ _ (Or.inl (tv ver h1 h2)), R9 _ _ (Or.inl (tv ver h1 h2))]
    exact ⟨rfl, rfl⟩
  have fa : ∀ {b}, Fa x b → ¬ (x + 13 ≤ b ∧ b ≤ x + 23) := fun h z => by unfold Fa at h; omega
  have shc9 : ShC x9 sh S := shc.kp K9 ok mz n9 (fun b hb => fa (far b hb))
  have ccx9 : CCx x9 x nv (Gx f g V) := by
    refine ⟨k0, ks.kp K9 ok mz (by omega) w9, ck.kp K9 ok mz (by omega) w9, kn.kp K9 ok mz (by omega) w9, fun ver h1 h2 => ?_⟩
    by_cases c : ver = -1
    · subst c
      have e1 : shA x9 x (-1) = sh := by unfold shA; rw [if_pos rfl, b6]
      have e2 : vaA x9 x (-1) = x + 4 := by unfold vaA; rw [if_pos rfl, b7]
      rw [e1, e2, Gx_own]
      refine ⟨fun h => absurd h (by decide), ?_, Or.inl rfl, vv.kp K9 ok (fun i hi => by omega)⟩
      have : (Gx f g V).1 (-1) = S.1 := hf
      rw [this]; exact shc9.1
    · have h0 : 0 ≤ ver := by omega
      obtain ⟨v1, v2, v3, v4, v5, v6, v7⟩ := vers ver h0 h2
      rw [(vA ver h0 h2).1, (vA ver h0 h2).2, R9 (x + 2) _ (by omega), T9]
      refine ⟨fun _ => v1, v2.kp K9 ok (fa v5) (fa v6) (fa v7), Or.inr v3, ?_⟩
      have : (Gx f g V).2 ver = g ver := if_neg c
      rw [this]
      exact v4.kp K9 ok (fun i hi => by omega)
  have len := ti.len
  have nd : od.Nodup := ti.2.2.2.2.2.2.2.2.2.2.2.2.2.2.1
  have c12 := ti.2.2.2.2.2.2.2.2.2.2.2.1
  have c13 := ti.2.2.2.2.2.2.2.2.2.2.2.2.1
  have wf : ∀ v, v ∈ od → (S.2 v).2 ≠ [] → (∃ n, Wf n (S.2 v).2) ∧ ∀ p ∈ (S.2 v).2, pW p < nv := fun v hv e => by
    have ib := (om v).mp hv
    have ct := (shc.2.2.2 (v / 10) ib.1).2.2 (v % 10) ib.2
    dsimp only at ct
    rw [show 10 * (v / 10) + v % 10 = v by omega] at ct
    exact ⟨⟨60, IsP.wf _ _ _ (ct.fm e).2.2.2.1⟩, hw v ib e⟩
  refine (c_reckon_l (σ0 := σ) (S := S) (f := f) (g := g) (nv := nv) (sh := sh) (ci := ciM x9 (x + 14)) (by omega) nd (by omega) (fun v hv => (om v).mp hv) (fun v hv e => ?_) wf (fun l1 v l2 e hc he V' j hj => ?_) (fun s V' rc gd => Ev.r ?_) od.length 0 N x9 V (by omega) (by omega) ⟨⟨wl9, ts.1.1, ?_, ccx9, b6, b7⟩, ⟨ts.1.2.2.2.2.1, ts.1.2.2.2.2.2.1, fun v => ?_⟩, shc9, b3, ?_, by rw [X.rZ, Z6], by rw [X.rS, S6], by rw [X.rZ, Z6]; exact mz, by rw [T9]; exact z0, fun ver h1 h2 => ?_⟩ (fun v hv => by rw [List.take_zero] at hv; cases hv))
  · cases h : ciM x9 (x + 14) v with
    | false => rfl
    | true =>
      obtain ⟨c, z, -⟩ := tg_head ((c12 v hv).mp h)
      exact absurd e z.2.1
  · exact c13 l1 v l2 e hc j ⟨(om v).mp (by rw [e]; exact List.mem_append_right _ List.mem_cons_self), he, hj⟩
  · obtain ⟨⟨d7, d8, d9, d4, -, d6⟩, -, d1, d2, d3, dz, ds, -⟩ := rc
    refine ⟨d3, ⟨d7, d8, d9⟩, dz, ds, V', ?_, fun k hk => ?_⟩
    · have hv1 := (d4.2.2.2.2 (-1) (by decide) (by omega)).2.2.2
      have e7 : vaA s x (-1) = x + 4 := by unfold vaA; rw [if_pos rfl, d6]
      rw [e7, Gx_own] at hv1; exact hv1
    · have q := gd k ((om k).mpr hk)
      unfold GdC vlOf at q
      rw [Gx_own]
      refine ⟨fun e => by rw [if_pos e] at q; exact q, fun e => ⟨fun cy => ?_, fun cy => ?_⟩⟩
      · rw [if_neg e] at q
        have := (c12 k ((om k).mpr hk)).mpr cy
        rw [this, if_pos rfl] at q; exact q
      · rw [if_neg e] at q
        have hc : ciM x9 (x + 14) k = false := by
          cases h : ciM x9 (x + 14) k with
          | false => rfl
          | true => exact absurd ((c12 k ((om k).mpr hk)).mp h) cy
        rw [hc, if_neg (show ¬ false = true from fun z => by cases z)] at q; exact q
  · rw [R9 _ _ (Or.inr (by omega))]; exact r1
  · rfl
  · exact K9.mono (fun a z => by unfold RqW; omega)
  · rw [(vA ver h1 h2).2]; exact (vers ver h1 h2).2.2.1
end CoReckon
