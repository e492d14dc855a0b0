set_option maxRecDepth 100000
/-! ===== weeks ===== -/
def nxG (st : Nat) : Nat := (st * 1103 + 12345) % 1000003
theorem nxG_l (st : Nat) : nxG st < 1000003 := Nat.mod_lt _ (by decide)
/-- what a draw does to the kept row -/
def wkA (q : Nat) (m : mS) (st : Nat) : mS := if nxG (nxG (nxG st)) % 4 = 2 then mI m 2 (nI (12 + nxG st % q)) (nI (nxG (nxG st) % 25)) else if nxG (nxG (nxG st)) % 4 = 3 then exI q 0 m else mI m 2 (nI (nxG st % q)) (nI (nxG (nxG st) % 25))
def wkD (m : mS) : mS := mI m 2 (nI 24) (m.2.1 2 24 + 1)
def wkF (lw : Option (List cL)) (q : Nat) : Nat → mS → Nat → Int32 → mS × Int32
  | 0, m, _, sm => (m, sm)
  | c + 1, m, st, sm => if 999 ≤ m.2.1 2 24 then (m, sm) else wkF lw q c (wkD (wkA q m st)) (nxG (nxG (nxG st))) (sm + sumI (mOne 2 ((wkA q m st).2.1 2) lw) q)
theorem wkA_o {q : Nat} (hq : q ≤ 12) (hq0 : 0 < q) (m : mS) (st : Nat) : ∀ i, 24 ≤ i → (wkA q m st).2.1 2 i = m.2.1 2 i := fun i hi => by
  have := Nat.mod_lt (nxG st) hq0
  unfold wkA
  by_cases c2 : nxG (nxG (nxG st)) % 4 = 2
  · rw [if_pos c2, mI_at _ _ _ (by omega), if_neg (by omega)]
  · rw [if_neg c2]
    by_cases c3 : nxG (nxG (nxG st)) % 4 = 3
    · rw [if_pos c3]
      exact exI_o q 0 m (by omega) i hi
    · rw [if_neg c3, mI_at _ _ _ (by omega), if_neg (by omega)]
theorem cE_wkA {m m1 : mS} (h : cE m m1) (q st : Nat) : cE (wkA q m st) (wkA q m1 st) := by
  unfold wkA
  by_cases c2 : nxG (nxG (nxG st)) % 4 = 2
  · rw [if_pos c2, if_pos c2]
    exact cE_I h _ _ _
  · rw [if_neg c2, if_neg c2]
    by_cases c3 : nxG (nxG (nxG st)) % 4 = 3
    · rw [if_pos c3, if_pos c3]
      exact cE_exI q 0 h
    · rw [if_neg c3, if_neg c3]
      exact cE_I h _ _ _
theorem cE_wkD {m m1 : mS} (h : cE m m1) : cE (wkD m) (wkD m1) := by
  unfold wkD
  rw [show m1.2.1 2 24 = m.2.1 2 24 from congrFun (eqP h) 24]
  exact cE_I h _ _ _
theorem inF_o {kp kp' : Nat → Int32} {lw : Option (List cL)} (k : ∀ i, 25 ≤ i → kp' i = kp i) (h : inF kp lw) : inF kp' lw := by
  rcases h with ⟨a1, a2⟩ | ⟨t, cls, t1, t2, t3, t4⟩
  · exact Or.inl ⟨(k 44 (by omega)).trans a1, a2⟩
  · exact Or.inr ⟨t, cls, t1, (k 44 (by omega)).trans t2, txOK_e (fun i hi => k i (by omega)) t3, t4⟩
/-- the sum stays small -/
theorem wkF_s {lw : Option (List cL)} {q : Nat} (hq : q ≤ 12) : ∀ (c : Nat) (m : mS) (st u : Nat), u + 12 * c ≤ 1000 → ∃ v, v ≤ u + 12 * c ∧ (wkF lw q c m st (nI u)).2 = nI v
  | 0, _, _, u, _ => ⟨u, by omega, rfl⟩
  | c + 1, m, st, u, h => by
    have e : wkF lw q (c + 1) m st (nI u) = if 999 ≤ m.2.1 2 24 then (m, nI u) else wkF lw q c (wkD (wkA q m st)) (nxG (nxG (nxG st))) (nI u + sumI (mOne 2 ((wkA q m st).2.1 2) lw) q) := rfl
    rw [e]
    by_cases cc : 999 ≤ m.2.1 2 24
    · rw [if_pos cc]
      exact ⟨u, by omega, rfl⟩
    · rw [if_neg cc]
      obtain ⟨w, w1, w2⟩ := bar_n (kp := (wkA q m st).2.1 2) (lw := lw) q
      rw [w2, nI_add]
      obtain ⟨v, v1, v2⟩ := wkF_s hq c (wkD (wkA q m st)) (nxG (nxG (nxG st))) (u + w) (by omega)
      exact ⟨v, by omega, v2⟩
theorem drw32 {st d : Nat} (hs : st < 1000003) (h0 : 0 < d) (hd : d < 1000) : nI st - nI st / nI d * nI d = nI (st % d) := pk_rem (by omega) h0 (by omega)
theorem nx_l {st : Nat} (hs : st < 1000003) : lN st * 1103 + 12345 - (lN st * 1103 + 12345) / 1000003 * 1000003 = lN (nxG st) := by
  have e : lN st * 1103 + 12345 = lN (st * 1103 + 12345) := by
    rw [show (1103 : Int64) = lN 1103 from rfl, lN_mul, show (12345 : Int64) = lN 12345 from rfl, lN_add]
  rw [e, show (1000003 : Int64) = lN 1000003 from rfl]
  exact pk_lRem (by omega) (by decide) (by decide)
theorem nx_r {st : Nat} (hs : st < 1000003) : ((1103 : Int64) * lN st + 12345 - (1103 * lN st + 12345) / 1000003 * 1000003).toInt32 = nI (nxG st) := by
  rw [show (1103 : Int64) * lN st = lN st * 1103 from Int64.mul_comm _ _, nx_l hs, lN_i]
section WK
variable {N : Nat × Nat} {m : mS} {lw : Option (List cL)}
theorem w_drawS {st d : Nat} (hs : st < 1000003) (h50 : m.1 50 = nI st) (h0 : 0 < d) (hd : d < 1000) {K : Int32 → mS → Prop} (hK : K (nI (nxG st % d)) (mF m 50 (nI (nxG st)))) : w_draws (nI d) m K := by
  unfold w_draws
  intro x hx s2 e2 y hy
  have h1 : (mFd m 50).toInt64 = lN st := by
    rw [show mFd m 50 = nI st from h50]
    exact nI_l (by omega)
  rw [h1] at hx
  rw [hx, nx_r hs] at e2
  have hy2 : y = nI (nxG st) := by
    rw [hy, e2]
    rfl
  rw [hy2, drw32 (nxG_l st) h0 hd, e2]
  refine ⟨fun z => ?_, hK⟩
  rw [show (0 : Int32) = nI 0 from rfl, nI_eq (by omega) (by omega)] at z
  omega
theorem mF_c (m : mS) (v : Int32) : cE m (mF m 50 v) := ⟨fun j hj => by
  have : j ≠ 50 := fun z => by
    rw [z] at hj
    revert hj
    decide
  exact mF_o m v this, fun _ _ => rfl⟩
theorem w_actS (hN : 402 ≤ N.1) {mz : mS} {q st : Nat} (hq : q ≤ 12) (hq0 : 0 < q) (hc : cE mz m) (hqv : mz.2.1 2 41 = nI q) (hs : st < 1000003) (h50 : m.1 50 = nI st) {K : mS → Prop} (hK : ∀ m', cE (wkA q mz st) m' → m'.1 50 = nI (nxG (nxG (nxG st))) → m'.2.1 5 = m.2.1 5 → K m') : w_drawnAct N m K := by
  have e2 := eqP hc
  have hmod := Nat.mod_lt (nxG st) hq0
  have hmod2 := Nat.mod_lt (nxG (nxG st)) (show 0 < 25 by decide)
  have hmod3 := Nat.mod_lt (nxG (nxG (nxG st))) (show 0 < 4 by decide)
  unfold w_drawnAct
  refine w_manyS (v := nI q) (by rw [e2]; exact hqv) (w_drawS hs h50 hq0 (by omega) (w_drawS (d := 25) (nxG_l _) rfl (by decide) (by decide) (w_drawS (d := 4) (nxG_l _) rfl (by decide) (by decide) (fun x hx => ?_))))
  rw [hx]
  have c3 : cE mz (mF (mF (mF m 50 (nI (nxG st))) 50 (nI (nxG (nxG st)))) 50 (nI (nxG (nxG (nxG st))))) := cE_t hc (cE_t (mF_c _ _) (cE_t (mF_c _ _) (mF_c _ _)))
  have e12 : (12 : Int32) + nI (nxG st % q) = nI (12 + nxG st % q) := nI_add 12 _
  rw [show (2 : Int32) = nI 2 from rfl, show (3 : Int32) = nI 3 from rfl, nI_eq (by omega) (by omega), nI_eq (by omega) (by omega), e12, nI_0p]
  generalize hg : mF (mF (mF m 50 (nI (nxG st))) 50 (nI (nxG (nxG st)))) 50 (nI (nxG (nxG (nxG st)))) = g at c3
  have g50 : g.1 50 = nI (nxG (nxG (nxG st))) := by
    rw [← hg]
    rfl
  have g5 : g.2.1 5 = m.2.1 5 := by
    rw [← hg]
    rfl
  refine ⟨fun z => ⟨vpk (by omega) (by decide), fun s1 e1 => hK s1 ?_ ?_ ?_⟩, fun z => ?_, fun z2 z3 => ⟨vpk (by omega) (by decide), fun s1 e1 => hK s1 ?_ ?_ ?_⟩⟩
  · unfold wkA
    rw [if_pos z, e1]
    exact cE_I c3 _ _ _
  · rw [e1]
    exact g50
  · rw [e1, mI_o _ _ _ (by decide)]
    exact g5
  · unfold w_exchanges
    have h41 : g.2.1 2 41 = nI q := by rw [eqP c3]; exact hqv
    have hd : ∀ (k i : Nat) (m : mS), (exI k i m).1 = m.1 ∧ (exI k i m).2.1 5 = m.2.1 5 := by
      intro k
      induction k with
      | zero => exact fun _ _ => ⟨rfl, rfl⟩
      | succ k ih =>
        intro i m
        obtain ⟨a1, a2⟩ := ih (i + 1) (exS i m)
        refine ⟨a1.trans ?_, a2.trans ?_⟩
        · unfold exS
          rw [mI_f1, mI_f1]
        · unfold exS
          rw [mI_o _ _ _ (by decide), mI_o _ _ _ (by decide)]
    refine w_exL hq q N.1 0 h41 (by omega) (by omega) (hK _ ?_ ?_ ?_)
    · unfold wkA
      rw [if_neg (by omega), if_pos z]
      exact cE_exI q 0 c3
    · rw [(hd q 0 g).1]
      exact g50
    · rw [(hd q 0 g).2]
      exact g5
  · unfold wkA
    rw [if_neg z2, if_neg z3, e1]
    exact cE_I c3 _ _ _
  · rw [e1]
    exact g50
  · rw [e1, mI_o _ _ _ (by decide)]
    exact g5
theorem kpN_wkA {q st : Nat} (hq : q ≤ 12) (hq0 : 0 < q) (h : kpN (m.2.1 2)) : kpN ((wkA q m st).2.1 2) := by
  have hmod := Nat.mod_lt (nxG st) hq0
  have hmod2 := Nat.mod_lt (nxG (nxG st)) (show 0 < 25 by decide)
  have ho := wkA_o hq hq0 m st
  refine ⟨fun i hi => ?_, by rw [ho 38 (by decide)]; exact h.2.1, by rw [ho 24 (by decide)]; exact h.2.2⟩
  unfold wkA
  have pn := pI_n (p := nxG (nxG st) % 25) hmod2
  by_cases c2 : nxG (nxG (nxG st)) % 4 = 2
  · rw [if_pos c2, mI_at _ _ _ (by omega)]
    by_cases e : i = 12 + nxG st % q
    · rw [if_pos e]
      exact pn
    · rw [if_neg e]
      exact h.1 i hi
  · rw [if_neg c2]
    by_cases c3 : nxG (nxG (nxG st)) % 4 = 3
    · rw [if_pos c3]
      have key : ∀ (k i0 : Nat) (m : mS), i0 + k ≤ 12 → (∀ i, i < 24 → pI (m.2.1 2 i)) → ∀ i, i < 24 → pI ((exI k i0 m).2.1 2 i) := by
        intro k
        induction k with
        | zero => exact fun _ _ _ hm => hm
        | succ k ih =>
          intro i0 m hk hm
          refine ih (i0 + 1) (exS i0 m) (by omega) (fun j hj => ?_)
          unfold exS
          rw [mI_at _ _ _ (by omega), mI_at _ _ _ (by omega)]
          by_cases a : j = i0
          · rw [if_pos a]
            exact hm _ (by omega)
          · rw [if_neg a]
            by_cases b : j = 12 + i0
            · rw [if_pos b]
              exact hm _ (by omega)
            · rw [if_neg b]
              exact hm j hj
      exact key q 0 m (by omega) h.1 i hi
    · rw [if_neg c3, mI_at _ _ _ (by omega)]
      by_cases e : i = nxG st % q
      · rw [if_pos e]
        exact pn
      · rw [if_neg e]
        exact h.1 i hi
theorem day_u {v : Int32} (h : 0 ≤ v.toInt ∧ v.toInt ≤ 999) (hn : ¬ 999 ≤ v) : 0 ≤ (v + 1).toInt ∧ (v + 1).toInt ≤ 999 := by
  rw [i32_le, show (999 : Int32).toInt = 999 by decide] at hn
  rw [i32_add (by rw [o32_t]; omega) (by rw [o32_t]; omega), o32_t]
  omega
theorem w_wk63 (hN : 402 ≤ N.1) (hN2 : 40 ≤ N.2) {q nn : Nat} (hq : q ≤ 12) (hq0 : 0 < q) (hnn : nn ≤ 60) {Kr : Int32 → mS → Prop} {K : Int32 → mS → Prop} : ∀ (c t k : Nat) (mz m1 : mS) (st : Nat) (sm : Int32), k + c = nn → c < t → cE mz m1 → mz.2.1 2 41 = nI q → inF (mz.2.1 2) lw → kpN (mz.2.1 2) → st < 1000003 → m1.1 50 = nI st → (∀ m', cE (wkF lw q c mz st sm).1 m' → m'.2.1 5 = m1.2.1 5 → K (wkF lw q c mz st sm).2 m') → w_weeks_63 N (nI nn) Kr K t sm (nI k) m1
  | _, 0, _, _, _, _, _, _, h, _, _, _, _, _, _, _ => absurd h (Nat.not_lt_zero _)
  | 0, t + 1, k, mz, m1, st, sm, hk, _, hc, hqv, hF, hkN, hs, h50, hK => by
    unfold w_weeks_63
    rw [nI_lle (by omega) (by omega)]
    exact ⟨fun _ => hK m1 hc rfl, fun z => absurd (by omega) z⟩
  | c + 1, t + 1, k, mz, m1, st, sm, hk, ht, hc, hqv, hF, hkN, hs, h50, hK => by
    have e : wkF lw q (c + 1) mz st sm = if 999 ≤ mz.2.1 2 24 then (mz, sm) else wkF lw q c (wkD (wkA q mz st)) (nxG (nxG (nxG st))) (sm + sumI (mOne 2 ((wkA q mz st).2.1 2) lw) q) := rfl
    rw [e] at hK
    have e2 := eqP hc
    have v24 : vp_in 24 5652 := vpk (k := 24) (by decide) (by decide)
    have a24 : mAt m1 2 24 = mz.2.1 2 24 := (mAt_n (k := 24) (by decide)).trans (by rw [e2])
    have hoA := wkA_o hq hq0 mz st
    unfold w_weeks_63
    rw [nI_lle (by omega) (by omega), a24]
    refine ⟨fun z => by omega, fun _ => ⟨v24, fun z => ?_, fun z => w_actS hN hq hq0 hc hqv hs h50 (fun m2 c2 f2 g2 => ?_)⟩⟩
    · rw [if_pos z] at hK
      exact hK m1 hc rfl
    · rw [if_neg z] at hK
      have k2 := eqP c2
      have hk2 := kpN_wkA (m := mz) (st := st) hq hq0 hkN
      have hF2 : inF ((wkA q mz st).2.1 2) lw := inF_o (fun i hi => hoA i (by omega)) hF
      refine w_allS (m := q) (w := 2) hN hN2 (by rw [k2]; exact hF2) (by rw [k2]; exact hk2) (by rw [k2]; exact (hoA 41 (by decide)).trans hqv) hq (by omega) (fun m3 d3 => ?_)
      intro x hx
      refine ⟨v24, v24, fun m4 e4 y hy => ?_⟩
      rw [k2] at hx
      have c3 : cE (wkA q mz st) m3 := cE_t c2 (cE_D d3 (by decide) (by decide))
      have a3 : mAt m3 2 24 = (wkA q mz st).2.1 2 24 := (mAt_n (k := 24) (by decide)).trans (by rw [eqP c3])
      rw [hx, hy, nI_1]
      have e4' : m4 = mI m3 2 (nI 24) ((wkA q mz st).2.1 2 24 + 1) := by
        rw [e4, a3]
        rfl
      have c4 : cE (wkD (wkA q mz st)) m4 := by
        rw [e4']
        exact cE_I c3 _ _ _
      have o4 : ∀ i, i ≠ 24 → (wkD (wkA q mz st)).2.1 2 i = (wkA q mz st).2.1 2 i := fun i hi => by
        unfold wkD
        rw [mI_at _ _ _ (by decide), if_neg hi]
      have hd := day_u hkN.2.2 z
      refine w_wk63 hN hN2 hq hq0 hnn c t (k + 1) (wkD (wkA q mz st)) m4 (nxG (nxG (nxG st))) _ (by omega) (by omega) c4 ((o4 41 (by decide)).trans ((hoA 41 (by decide)).trans hqv)) (inF_o (fun i hi => o4 i (by omega)) hF2) ⟨fun i hi => by rw [o4 i (by omega)]; exact hk2.1 i hi, by rw [o4 38 (by decide)]; exact hk2.2.1, ?_⟩ (nxG_l _) ?_ (fun m' c' g' => hK m' c' ?_)
      · unfold wkD
        rw [mI_at _ _ _ (by decide), if_pos rfl, hoA 24 (by decide)]
        exact hd
      · rw [e4']
        exact (d3.1 50 (by decide)).trans f2
      · rw [g', e4', mI_o _ _ _ (by decide), d3.2.1 5 (by decide), g2]
/-- 25 places laid aside -/
theorem w_asd {a : Nat} (ha : a < 2) {Kr K : mS → Prop} (hK : ∀ m', mD [] [5] [] m m' → (∀ j, j < 25 → m'.2.1 5 (25 * a + j) = m.2.1 2 j) → (∀ j, (j < 25 * a ∨ 25 * a + 25 ≤ j) → m'.2.1 5 j = m.2.1 5 j) → K m') : ∀ (c t j : Nat) (m1 : mS), mD [] [5] [] m m1 → (∀ i, i < j → m1.2.1 5 (25 * a + i) = m.2.1 2 i) → (∀ j, (j < 25 * a ∨ 25 * a + 25 ≤ j) → m1.2.1 5 j = m.2.1 5 j) → j + c = 25 → c < t → w_laysAside_2 N (nI a) Kr K t (nI j) m1
  | _, 0, _, _, _, _, _, _, h => absurd h (Nat.not_lt_zero _)
  | 0, t + 1, j, m1, h1, h2, h3, hj, _ => by
    unfold w_laysAside_2
    have : j = 25 := by omega
    subst this
    exact ⟨fun _ => hK m1 h1 h2 h3, fun z => absurd (nI_le (Nat.le_refl 25) (by omega)) z⟩
  | c + 1, t + 1, j, m1, h1, h2, h3, hj, ht => by
    have e25 : (25 : Int32) * nI a + nI j = nI (25 * a + j) := by
      rw [show (25 : Int32) * nI a = nI (25 * a) from pk_mul 25 a, nI_add]
    unfold w_laysAside_2
    rw [e25, show (25 : Int32) = nI 25 from rfl, nI_lle (by omega) (by omega), mAt_n (by omega), h1.2.1 2 (by decide)]
    refine ⟨fun z => by omega, fun _ => ⟨vpk (by omega) (by decide), vpk (by omega) (by decide), fun m2 e2 y hy => ?_⟩⟩
    rw [hy, nI_1]
    have at2 : ∀ i, m2.2.1 5 i = if i = 25 * a + j then m.2.1 2 j else m1.2.1 5 i := fun i => by
      rw [e2]
      exact mI_at _ _ _ (by omega) i
    refine w_asd ha hK c t (j + 1) m2 (mD_t h1 (by rw [e2]; exact mD_I m1 _ _ (by decide))) (fun i hi => ?_) (fun i hi => ?_) (by omega) (by omega)
    · rw [at2]
      by_cases e : i = j
      · rw [e, if_pos rfl]
      · rw [if_neg (by omega)]
        exact h2 i (by omega)
    · rw [at2, if_neg (by omega)]
      exact h3 i hi
theorem w_tkb {a : Nat} (ha : a < 2) {sv : Nat → Int32} (hs : ∀ j, j < 25 → m.2.1 5 (25 * a + j) = sv j) {Kr K : mS → Prop} (hK : ∀ m', cE (sA m 2 (fun i => if i < 25 then sv i else m.2.1 2 i)) m' → K m') : ∀ (c t j : Nat) (m1 : mS), m1 = sA m 2 (fun i => if i < j then sv i else m.2.1 2 i) → j + c = 25 → c < t → w_takesBack_2 N (nI a) Kr K t (nI j) m1
  | _, 0, _, _, _, _, h => absurd h (Nat.not_lt_zero _)
  | 0, t + 1, j, m1, h1, hj, _ => by
    unfold w_takesBack_2
    have : j = 25 := by omega
    subst this
    refine ⟨fun _ => hK m1 ?_, fun z => absurd (nI_le (Nat.le_refl 25) (by omega)) z⟩
    rw [h1]
    exact cE_r _
  | c + 1, t + 1, j, m1, h1, hj, ht => by
    have e25 : (25 : Int32) * nI a + nI j = nI (25 * a + j) := by
      rw [show (25 : Int32) * nI a = nI (25 * a) from pk_mul 25 a, nI_add]
    unfold w_takesBack_2
    rw [e25, show (25 : Int32) = nI 25 from rfl, nI_lle (by omega) (by omega), mAt_n (by omega)]
    have h5 : m1.2.1 5 (25 * a + j) = sv j := by
      rw [h1, sA_o _ _ (by decide)]
      exact hs j (by omega)
    rw [h5]
    refine ⟨fun z => by omega, fun _ => ⟨vpk (by omega) (by decide), vpk (by omega) (by decide), fun m2 e2 y hy => ?_⟩⟩
    rw [hy, nI_1]
    refine w_tkb ha hs hK c t (j + 1) m2 ?_ (by omega) (by omega)
    rw [e2, h1]
    refine Prod.ext rfl (Prod.ext (funext fun q => ?_) rfl)
    by_cases e : q = 2
    · subst e
      funext i
      show (mI (sA m 2 _) 2 (nI j) (sv j)).2.1 2 i = (sA m 2 _).2.1 2 i
      rw [mI_at _ _ _ (by omega), sA_at, sA_at]
      by_cases c1 : i = j
      · rw [if_pos c1, if_pos (by omega), c1]
      · rw [if_neg c1]
        by_cases c2 : i < j
        · rw [if_pos c2, if_pos (by omega)]
        · rw [if_neg c2, if_neg (by omega)]
    · show (mI (sA m 2 _) 2 (nI j) (sv j)).2.1 q = (sA m 2 _).2.1 q
      rw [mI_o _ _ _ e, sA_o _ _ e, sA_o _ _ e]
theorem w_114 {x3 : Int32} {Kr : Int32 → mS → Prop} {K : mS → Prop} (hK : ∀ m', mD [] [48] [] m m' → (∀ i, m'.2.1 48 i = if i < 25 then m.2.1 2 i else m.2.1 48 i) → K m') : ∀ (c t j : Nat) (m1 : mS), mD [] [48] [] m m1 → (∀ i, m1.2.1 48 i = if i < j then m.2.1 2 i else m.2.1 48 i) → j + c = 25 → c < t → w_weeks_114 N x3 Kr K t (nI j) m1
  | _, 0, _, _, _, _, _, h => absurd h (Nat.not_lt_zero _)
  | 0, t + 1, j, m1, h1, h2, hj, _ => by
    unfold w_weeks_114
    have : j = 25 := by omega
    subst this
    exact ⟨fun _ => hK m1 h1 h2, fun z => absurd (nI_le (Nat.le_refl 25) (by omega)) z⟩
  | c + 1, t + 1, j, m1, h1, h2, hj, ht => by
    unfold w_weeks_114
    rw [show (25 : Int32) = nI 25 from rfl, nI_lle (by omega) (by omega), mAt_n (by omega), h1.2.1 2 (by decide)]
    refine ⟨fun z => by omega, fun _ => ⟨vpk (by omega) (by decide), vpk (by omega) (by decide), fun m2 e2 y hy => ?_⟩⟩
    rw [hy, nI_1]
    have at2 : ∀ i, m2.2.1 48 i = if i = j then m.2.1 2 j else m1.2.1 48 i := fun i => by
      rw [e2]
      exact mI_at _ _ _ (by omega) i
    refine w_114 hK c t (j + 1) m2 (mD_t h1 (by rw [e2]; exact mD_I m1 _ _ (by decide))) (fun i => ?_) (by omega) (by omega)
    rw [at2, h2 i]
    by_cases e : i = j
    · rw [if_pos e, if_pos (by omega), e]
    · rw [if_neg e]
      by_cases e2 : i < j
      · rw [if_pos e2, if_pos (by omega)]
      · rw [if_neg e2, if_neg (by omega)]
end WK
