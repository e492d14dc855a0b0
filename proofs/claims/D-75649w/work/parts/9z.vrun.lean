set_option maxRecDepth 100000
/-! ===== orders: an act run once, both sides ===== -/
theorem i64_32 {v : Int64} (h : inB v) : v.toInt32.toInt = v.toInt := by
  obtain ⟨h1, h2⟩ := h
  rw [Int64.toInt_toInt32, Int.bmod_def]
  split <;> omega
def smallI (v : Int64) : Int32 := if v < 0 then -1 else if v ≤ 1000000 then v.toInt32 else -1
theorem w_smallS {v : Int64} {K : Int32 → Prop} (h : K (smallI v)) : w_small v K := by
  unfold smallI at h
  unfold w_small
  rw [lgc_neg, lgc_npos]
  refine ⟨fun z => ?_, fun z => ⟨fun z2 => ?_, fun z2 => ?_⟩⟩
  · rw [if_pos z] at h
    exact h
  · rw [if_neg z, if_pos z2] at h
    exact h
  · rw [if_neg z, if_neg z2] at h
    exact h
theorem smallI_R {v : Int64} (h : inB v) : smR v.toInt32 (smallI v) := by
  have e := i64_32 h
  unfold smallI smR
  by_cases c : v < 0
  · rw [if_pos c]
    rw [Int64.lt_iff_toInt_lt, show (0 : Int64).toInt = 0 by decide] at c
    exact Or.inr ⟨rfl, Or.inl (by omega)⟩
  · rw [if_neg c]
    by_cases c2 : v ≤ 1000000
    · rw [if_pos c2]
      exact Or.inl rfl
    · rw [if_neg c2]
      rw [Int64.le_iff_toInt_le, show (1000000 : Int64).toInt = 1000000 by decide] at c2
      exact Or.inr ⟨rfl, Or.inr (by omega)⟩
/-- how the model stands while acts are run -/
def GM (m : mS) (D : Nat) (lt : Int32) (sv5 sv32 : Nat → Int32) (at42 : Int32) (m1 : mS) : Prop := cE m m1 ∧ mFd m1 27 = nI D ∧ mFd m1 28 = lt ∧ mFd m1 42 = at42 ∧ (∀ j, j < 25 → m1.2.1 5 (25 + j) = sv5 j) ∧ ∀ i, i < 416 → m1.2.1 32 i = sv32 i
def gaF : List Nat := [22, 24, 43, 44, 45, 46, 23, 25, 29, 30]
theorem GM_D {m m' g g' : mS} {D D' : Nat} {lt lt' at42 : Int32} {sv5 sv32 : Nat → Int32} (h : GM m D lt sv5 sv32 at42 g) (hc : cE m' g') (h27 : mFd g' 27 = nI D') (h28 : mFd g' 28 = lt') (h42 : mFd g' 42 = mFd g 42) (h5 : g'.2.1 5 = g.2.1 5) (h32 : g'.2.1 32 = g.2.1 32) : GM m' D' lt' sv5 sv32 at42 g' := ⟨hc, h27, h28, h42.trans h.2.2.2.1, fun j hj => by rw [h5]; exact h.2.2.2.2.1 j hj, fun i hi => by rw [h32]; exact h.2.2.2.2.2 i hi⟩
/-- one turn of the model's loop over an act -/
def stepW (N : Nat × Nat) (x1 : Int32) (R Kb : mS → Prop) (m1 : mS) : Prop := w_goesAlong N x1 1 m1 (fun s103 => (¬ mFd s103 46 = 0 → (mFd s103 45 = 0 → Kb s103) ∧ (¬ mFd s103 45 = 0 → w_obeys N s103 (fun x106 s107 => (0 ≤ x106 → ∀ s109 : mS, s109 = mF s107 27 (mFd s107 27 + 1) → R s109) ∧ (¬ 0 ≤ x106 → Kb s107)))) ∧ (mFd s103 46 = 0 → R s103))
/-- the text of orders, laid in the kept row -/
def ordT (kp : Nat → Int32) (T : Nat) (cd vl : Nat → Int32) : Prop := T ≤ 400 ∧ (∀ k, k < T → kp (52 + (2400 + k)) = cd k ∧ kp (2852 + (2400 + k)) = vl k) ∧ (∀ k, T ≤ k → cd k = 0) ∧ ∀ k, 0 ≤ vl k
theorem ordT_v {m m' : mS} (h : vrM m m') {T : Nat} {cd vl : Nat → Int32} (ht : ordT (m.2.1 2) T cd vl) : ordT (m'.2.1 2) T cd vl := ⟨ht.1, fun k hk => by rw [h.2.2 _ (by omega), h.2.2 _ (by omega)]; exact ht.2.1 k hk, ht.2.2⟩
theorem sum0_B {kp : Nat → Int32} (hk : kpN kp) (lw : Option (List cL)) : ∀ q, q ≤ 12 → 0 ≤ (sumI (mOne 0 kp lw) q).toInt ∧ (sumI (mOne 0 kp lw) q).toInt ≤ 999 * q
  | 0, _ => by
    show 0 ≤ (0 : Int32).toInt ∧ (0 : Int32).toInt ≤ 999 * ((0 : Nat) : Int)
    decide
  | q + 1, hq => by
    obtain ⟨h1, h2⟩ := sum0_B hk lw q (by omega)
    have e : sumI (mOne 0 kp lw) (q + 1) = sumI (mOne 0 kp lw) q + mOne 0 kp lw q := rfl
    have p1 := hk.1 q (by omega)
    have hb : 0 ≤ (mOne 0 kp lw q).toInt ∧ (mOne 0 kp lw q).toInt ≤ 999 := by
      have e2 : mOne 0 kp lw q = tellsO (nE kp q (kp q) (prevI kp q)) 1 999 (woC (kp q) (prevI kp q)) lw := rfl
      rw [e2]
      have := tellsOB (e := nE kp q (kp q) (prevI kp q)) (h := 1) (top := 999) (wo := woC (kp q) (prevI kp q)) (lw := lw) (by
        rw [show (999 : Int32).toInt = 999 by decide]
        unfold prevI
        split
        · show 0 ≤ (0 : Int32).toInt ∧ (0 : Int32).toInt ≤ 999
          decide
        · have p2 := hk.1 (q - 1) (by omega)
          show 0 ≤ (absI (kp q - kp (q - 1))).toInt ∧ (absI (kp q - kp (q - 1))).toInt ≤ 999
          have s1 := i32_sub (a := kp q) (b := kp (q - 1)) (by have := p1.1; have := p2.2; omega) (by have := p1.2; have := p2.1; omega)
          unfold absI
          split
          · next hc =>
            rw [i32_le, show (0 : Int32).toInt = 0 by decide] at hc
            have := p1.2
            have := p2.1
            omega
          · next hc =>
            rw [i32_le, show (0 : Int32).toInt = 0 by decide] at hc
            have n1 : (-(kp q - kp (q - 1))).toInt = -(kp q - kp (q - 1)).toInt := by
              rw [Int32.toInt_neg, Int.bmod_def]
              have := p1.1
              have := p2.2
              split <;> omega
            have := p1.1
            have := p2.2
            omega)
      rw [show (999 : Int32).toInt = 999 by decide] at this
      exact this
    rw [e, i32_add (by omega) (by omega)]
    omega
section GA
variable {N : Nat × Nat} {m m1 : mS} {D q T : Nat} {lt at42 : Int32} {sv5 sv32 cd vl : Nat → Int32} {lw : Option (List cL)} {e : Nat → Int64}
/-- a clause gone along live: what it leaves -/
theorem w_go1 (hN : 402 ≤ N.1) (hN2 : 40 ≤ N.2) (hI : invM m) (hF : inF (m.2.1 2) lw) (hq : m.2.1 2 41 = nI q) (hq2 : q ≤ 12) (hD : D < 100000) (hlt : -3 ≤ lt.toInt ∧ lt.toInt ≤ 24) (ht : ordT (m.2.1 2) T cd vl) {i l j l' : Nat} (hi : i ≤ T) {c : cO} (hp : pOrder cd vl true i l = .inr (j, l', c)) (hG : GM m D lt sv5 sv32 (nI (2400 + i)) m1) (he : e = oE (m.2.1 2) q (nI D) lt (sumI (mOne 2 (m.2.1 2) lw) q) (sumI (mOne 0 (m.2.1 2) lw) q)) {K : mS → Prop} (hK : ∀ s', mD gaF [26] [47] m1 s' → cE m s' → mFd s' 44 = c.1 → (mFd s' 45 = 0 ∨ mFd s' 45 = 1) → (c.2.1 = none → mFd s' 45 = 1) → okGo e c s' → K s') : w_goesAlong N (nI (2400 + T)) 1 m1 K := by
  obtain ⟨g1, g27, g28, g42, -, -⟩ := hG
  have e2 : m1.2.1 2 = m.2.1 2 := eqP g1
  obtain ⟨u, u1, u2⟩ := @bar_n (m.2.1 2) lw q
  have s0 := sum0_B hI.1.1 lw q hq2
  unfold w_goesAlong
  refine ⟨fun z => absurd z (by decide), fun _ => ?_⟩
  refine w_allS (w := 2) hN hN2 (s0 := m1) (lw := lw) (by rw [e2]; exact hF) (by rw [e2]; exact hI.1.1) (m := q) (by rw [e2]; exact hq) hq2 (by decide) (fun s2 d2 => ?_)
  have e22 : s2.2.1 2 = m1.2.1 2 := d2.2.1 2 (by decide)
  unfold w_goesAlong_14
  intro s3 e3
  refine ⟨fun z => absurd z (by decide), fun _ => ?_⟩
  have e33 : s3.2.1 2 = m.2.1 2 := by
    rw [e3]
    exact e22.trans e2
  refine w_allS (w := 0) hN hN2 (s0 := s3) (lw := lw) (by rw [e33]; exact hF) (by rw [e33]; exact hI.1.1) (m := q) (by rw [e33]; exact hq) hq2 (by decide) (fun s4 d4 => ?_)
  have d13 : mD gaF [26] [47] m1 s3 := by
    rw [e3]
    exact mD_t (mD_w d2 (by decide) (by decide) (by decide)) (mD_F _ _ (by decide))
  have d14 : mD gaF [26] [47] m1 s4 := mD_t d13 (mD_w d4 (by decide) (by decide) (by decide))
  have e44 : s4.2.1 2 = m.2.1 2 := (d4.2.1 2 (by decide)).trans e33
  have f : ∀ {r}, r ∉ gaF → mFd s4 r = mFd m1 r := fun h => d14.1 _ h
  rw [e33]
  refine w_go31 (kp := m.2.1 2) (q := q) (dn := nI D) (lt := lt) (br := sumI (mOne 2 (m.2.1 2) lw) q) hN hN2 (by have := ht.1; omega) ht.2.1 ht.2.2.1 ht.2.2.2 ht.1 hI.1.1 hq hq2 ⟨by rw [nI_toInt (by omega)]; omega, by rw [nI_toInt (by omega)]; omega⟩ ⟨by omega, by omega⟩ ⟨by rw [u2, nI_toInt (by omega)]; omega, by rw [u2, nI_toInt (by omega)]; omega⟩ ⟨by omega, by omega⟩ e44 ((f (by decide)).trans g27) ((f (by decide)).trans g28) ?_ ((f (by decide)).trans g42) hi hp (fun s' hd h22 h43 h44 h45 h45' hok => hK s' (mD_t d14 (mD_w hd (by decide) (by decide) (by decide))) ?_ h44 (h45 (by decide)) (h45' (by decide)) (by rw [he]; exact hok (by decide)))
  · rw [show mFd s4 29 = mFd s3 29 from d4.1 29 (by decide), e3, e2]
    rfl
  · exact cE_t g1 (cE_D (mD_t d14 (mD_w hd (by decide) (by decide) (by decide)) : mD gaF [26] [47] m1 s') (by decide) (by decide))
/-- a clause gone along, not live: how often, and where it ends -/
theorem w_go0 (hN : 402 ≤ N.1) (hN2 : 40 ≤ N.2) (hI : invM m) (hq : m.2.1 2 41 = nI q) (hq2 : q ≤ 12) (hD : D < 100000) (hlt : -3 ≤ lt.toInt ∧ lt.toInt ≤ 24) (ht : ordT (m.2.1 2) T cd vl) {i l j l' : Nat} (hi : i ≤ T) {c : cO} (hp : pOrder cd vl true i l = .inr (j, l', c)) (hG : GM m D lt sv5 sv32 (nI (2400 + i)) m1) {K : mS → Prop} (hK : ∀ s', GM m D lt sv5 sv32 (nI (2400 + i)) s' → mFd s' 22 = nI (2400 + (j + 1)) → mFd s' 43 = c.2.2.1 → K s') : w_goesAlong N (nI (2400 + T)) 0 m1 K := by
  have hG' := hG
  obtain ⟨g1, g27, g28, g42, -, -⟩ := hG'
  have e2 : m1.2.1 2 = m.2.1 2 := eqP g1
  unfold w_goesAlong
  refine ⟨fun _ => ?_, fun z => absurd rfl z⟩
  unfold w_goesAlong_14
  intro s3 e3
  refine ⟨fun _ => ?_, fun z => absurd rfl z⟩
  have d13 : mD gaF [] [47] m1 s3 := by
    rw [e3]
    exact mD_F _ _ (by decide)
  have e33 : s3.2.1 2 = m.2.1 2 := (d13.2.1 2 (by simp)).trans e2
  have f : ∀ {r}, r ∉ gaF → mFd s3 r = mFd m1 r := fun h => d13.1 _ h
  refine w_go31 (kp := m.2.1 2) (q := q) (dn := nI D) (lt := lt) (br := 0) hN hN2 (by have := ht.1; omega) ht.2.1 ht.2.2.1 ht.2.2.2 ht.1 hI.1.1 hq hq2 ⟨by rw [nI_toInt (by omega)]; omega, by rw [nI_toInt (by omega)]; omega⟩ ⟨by omega, by omega⟩ smB_0 smB_0 e33 ((f (by decide)).trans g27) ((f (by decide)).trans g28) (by rw [e3]; rfl) ((f (by decide)).trans g42) hi hp (fun s' hd h22 h43 _ _ _ _ => ?_)
  have d : mD gaF [] [47] m1 s' := mD_t d13 (mD_w hd (by decide) (by decide) (by decide))
  exact hK s' (GM_D hG (cE_t g1 (cE_D d (by decide) (by decide))) ((d.1 27 (by decide)).trans g27) ((d.1 28 (by decide)).trans g28) (d.1 42 (by decide)) (d.2.1 5 (by simp)) (d.2.1 32 (by simp))) h22 h43
end GA
section RU
variable {N : tP} {s0 s s' : tM} {L0 L L' : Nat → Nat} {P W M : Nat → Prop} {m0 m m' : mS} {q D : Nat} {cs : List cO} {lt : Int32} {a : Nat} {lw : Option (List cL)}
theorem v_setAllS (hN1 : 60 ≤ N.1) (hN2 : 120 ≤ N.2.1) (hX : RX N s L M (fun a => P a ∨ W a) m) (hF : inF (m.2.1 2) lw) (hq : m.2.1 2 41 = nI q) (hq2 : q ≤ 12) (ho : tO s 17 a) (h6 : tR s a 6 = L 0) {dn : Int32} (h24 : tI s (L 0) 24 = dn) (h25 : tI s (L 0) 25 = lt) {Kr : tM → Prop} (hK : ∀ s1, qt L W s s1 → nums s1 L (m.2.1 2) q dn lt (sumI (mOne 2 (m.2.1 2) lw) q) (sumI (mOne 0 (m.2.1 2) lw) q) → Kr (bk s1 (L 7) 0)) : v_X20_setAll N a s Kr := by
  have hS := hX.S
  have fac : ∀ s1 : tM, qt L W s s1 → tO s1 17 a ∧ tO s1 0 (L 0) ∧ tO s1 4 (L 7) ∧ tR s1 a 6 = L 0 ∧ tR s1 (L 0) 7 = L 7 ∧ tR s1 (L 7) 0 = L 34 ∧ tA s1 1 10 (L 34) ∧ tI s1 (L 0) 24 = dn ∧ tI s1 (L 0) 25 = lt := fun s1 h => by
    have r : ∀ b j, tR s1 b j = tR s b j := fun b j => by
      show s1.2.2.2 b j = _
      rw [h.2.1]
    have i : ∀ j, tI s1 (L 0) j = tI s (L 0) j := fun j => h.2.2.1 _ _ (fun z => hS.ne (r := 0) (r' := 7) (by decide) (by decide) (by decide) z.1) (fun z => hS.ne (r := 0) (r' := 6) (by decide) (by decide) (by decide) z.1) (fun z => hS.n2 (r := 0) (by decide) (Or.inr z.1))
    rw [r, r, r, i, i]
    exact ⟨⟨by rw [h.1]; exact ho.1, ho.2⟩, ⟨by rw [h.1]; exact (hS.o (r := 0) rfl).1, (hS.o (r := 0) rfl).2⟩, ⟨by rw [h.1]; exact (hS.o (r := 7) rfl).1, (hS.o (r := 7) rfl).2⟩, h6, hS.t (r := 0) (j := 7) (q := 7) (by decide), hS.t (r := 7) (j := 0) (q := 34) (by decide), ⟨by rw [h.1]; exact (hS.a (r := 34) rfl).1, (hS.a (r := 34) rfl).2⟩, h24, h25⟩
  have t34 : ∀ {s1 s2 : tM}, s1.1 = s.1 → aS L s1 s2 → ∀ j, tJ s2 (L 34) j = tJ s1 (L 34) j := fun {s1 s2} h1 h j => congrFun (h.2.2.2 (L 34) (by rw [h1, (hS.a (r := 34) rfl).1]; intro z; cases z) (hS.ne (r := 34) (r' := 33) (by decide) (by decide) (by decide))) j
  have jw : ∀ (s1 : tM) (w v : Nat) (x : Int64), tJ (tsJ s1 (L 34) w x) (L 34) v = if v = w then x else tJ s1 (L 34) v := fun s1 w v x => by
    show (if L 34 = L 34 ∧ v = w then x else s1.2.2.1 (L 34) v) = _
    by_cases c : v = w
    · rw [if_pos ⟨rfl, c⟩, if_pos c]
    · rw [if_neg fun z => c z.2, if_neg c]
  unfold v_X20_setAll
  obtain ⟨a1, a2, a3, a4, a5, a6, a7, a8, a9⟩ := fac s (qt_r L W s)
  rw [a4, a5, a6]
  refine ⟨a1, a2, a3, v_booksS hS ⟨hS.o (r := 44) rfl, ⟨10, a7, vpk (k := 0) (by decide) (by decide)⟩, fun s1 e1 => ?_⟩⟩
  have q1 : qt L W s s1 := e1 ▸ qt_J
  rw [hX.d] at e1
  obtain ⟨b1, b2, b3, b4, b5, b6, b7, b8, b9⟩ := fac s1 q1
  rw [b4, b5, b6, b8]
  refine ⟨b1, b2, b3, ⟨10, b7, vpk (k := 1) (by decide) (by decide)⟩, fun s2 e2 => ?_⟩
  have q2 : qt L W s s2 := qt_t q1 (e2 ▸ qt_J)
  obtain ⟨c1, c2, c3, c4, c5, c6, c7, c8, c9⟩ := fac s2 q2
  rw [c4, c5, c6, c9]
  refine ⟨c2, c3, ⟨10, c7, vpk (k := 2) (by decide) (by decide)⟩, fun s3 e3 => ?_⟩
  have q3 : qt L W s s3 := qt_t q2 (e3 ▸ qt_J)
  obtain ⟨d1, d2, d3, d4, d5, d6, d7, d8, d9⟩ := fac s3 q3
  rw [d4, d5, d6]
  have X3 := qt_X hX q3
  refine ⟨d2, d3, v_barredS hN2 hN1 X3 hF hq hq2 (fun s4 g4 => ?_)⟩
  have q4 : qt L W s s4 := qt_t q3 (qt_a g4)
  obtain ⟨-, -, -, -, -, -, f7, -, -⟩ := fac s4 q4
  refine ⟨⟨10, f7, vpk (k := 3) (by decide) (by decide)⟩, fun s5 e5 => ?_⟩
  have q5 : qt L W s s5 := qt_t q4 (e5 ▸ qt_J)
  obtain ⟨g1, g2, g3, g4', g5, g6, g7, g8, g9⟩ := fac s5 q5
  rw [g4', g5, g6]
  have X5 := qt_X hX q5
  refine ⟨g1, g2, g3, v_sumOfS (w := 0) hN2 hN1 X5 hF hq hq2 (by decide) (fun s6 h6' => ?_)⟩
  have q6 : qt L W s s6 := qt_t q5 (qt_a h6')
  obtain ⟨-, -, -, -, -, -, i7, -, -⟩ := fac s6 q6
  refine ⟨⟨10, i7, vpk (k := 4) (by decide) (by decide)⟩, fun s7 e7 => ?_⟩
  have q7 : qt L W s s7 := qt_t q6 (e7 ▸ qt_J)
  obtain ⟨j1, j2, j3, j4, j5, j6, j7, j8, j9⟩ := fac s7 q7
  rw [j4, j5]
  refine ⟨j1, j2, j3, fun s8 e8 => ?_⟩
  rw [e8]
  refine hK s7 q7 (fun w hw => ?_)
  have v7 : tJ s7 (L 34) w = if w = 4 then (sumI (mOne 0 (m.2.1 2) lw) q).toInt64 else if w = 3 then (sumI (mOne 2 (m.2.1 2) lw) q).toInt64 else if w = 2 then lt.toInt64 else if w = 1 then dn.toInt64 else if w = 0 then (m.2.1 2 24).toInt64 else tJ s (L 34) w := by
    rw [e7, jw, t34 q5.1 h6', e5, jw, t34 q3.1 g4, e3, jw, e2, jw, e1, jw]
  rw [v7]
  have hw5 : w = 0 ∨ w = 1 ∨ w = 2 ∨ w = 3 ∨ w = 4 := by omega
  rcases hw5 with rfl | rfl | rfl | rfl | rfl <;> rfl
theorem okGo_45 {e : Nat → Int64} {c : cO} {g : mS} (h : okGo e c g) {A : dS × dS} (hc : c.2.1 = some A) (hn : A.1 e = none ∨ A.2 e = none) : mFd g 45 = 0 := by
  rcases h.2 A hc with h | ⟨v, w, h1, h2, -⟩
  · exact h.2
  · rcases hn with hn | hn
    · rw [hn] at h1
      cases h1
    · rw [hn] at h2
      cases h2
theorem v_runS (hN : nOK N) (hIV : IV N s0 L0 m0 P W M q cs s L m D lt) (hF : inF (m.2.1 2) lw) {nq : Nat} (hq : m.2.1 2 41 = nI nq) (hq2 : nq ≤ 12) (hD : D < 100000) {T : Nat} {cd vl : Nat → Int32} (ht : ordT (m.2.1 2) T cd vl) {i l j l' : Nat} (hi : i ≤ T) {k : Nat} (hk : k < cs.length) (hp : pOrder cd vl true i l = .inr (j, l', cs[k])) (ea : a = tR s q k) {sv5 sv32 : Nat → Int32} {Kr : Int32 → tM → Prop} (hok : ∀ s' L' m' D' lt', IV N s0 L0 m0 P W M q cs s' L' m' D' lt' → D' ≤ D + 1 → (∀ m1 R Kb, GM m D lt sv5 sv32 (nI (2400 + i)) m1 → (∀ g, GM m' D' lt' sv5 sv32 (nI (2400 + i)) g → R g) → stepW (nP N) (nI (2400 + T)) R Kb m1) → Kr 0 s') (hbad : ∀ s' L' m', IV N s0 L0 m0 P W M q cs s' L' m' D lt → (∀ m1 R Kb, GM m D lt sv5 sv32 (nI (2400 + i)) m1 → (∀ g, GM m' D lt sv5 sv32 (nI (2400 + i)) g → Kb g) → stepW (nP N) (nI (2400 + T)) R Kb m1) → Kr (-3) s') : v_X20_run N a s Kr := by
  have hIV0 := hIV
  obtain ⟨hX, -, hAs, ⟨h24, h25⟩, -, hrol, -, hlt, -⟩ := hIV0
  have c0 : L0 0 = L 0 := (hrol.lt (by decide)).symm
  rw [c0] at hAs h24 h25
  have hA := hAs.2.2.2 k hk
  rw [← ea] at hA
  obtain ⟨b1, b2, ⟨b3, b3'⟩, b4, b5, b6, b7, b8, b9, b10, b11, b12⟩ := hA
  have hS := hX.S
  have hI := hX.I
  have hN1 : 60 ≤ N.1 := by have := hN.1; omega
  have hN2 : 120 ≤ N.2.1 := by have := hN.2; omega
  have hM1 : 402 ≤ (nP N).1 := by have := hN.1; show 402 ≤ N.1; omega
  have hM2 : 40 ≤ (nP N).2 := by have := hN.2; show 40 ≤ N.2.1; omega
  -- the numbers, as both sides have them
  obtain ⟨e, he⟩ : ∃ e, e = oE (m.2.1 2) nq (nI D) lt (sumI (mOne 2 (m.2.1 2) lw) nq) (sumI (mOne 0 (m.2.1 2) lw) nq) := ⟨_, rfl⟩
  have go : ∀ m1 (K : mS → Prop), GM m D lt sv5 sv32 (nI (2400 + i)) m1 → (∀ s', GM m D lt sv5 sv32 (nI (2400 + i)) s' → mFd s' 44 = cs[k].1 → (mFd s' 45 = 0 ∨ mFd s' 45 = 1) → (cs[k].2.1 = none → mFd s' 45 = 1) → okGo e cs[k] s' → K s') → w_goesAlong (nP N) (nI (2400 + T)) 1 m1 K := fun m1 K hG hK => w_go1 hM1 hM2 hI hF hq hq2 hD hlt ht hi hp hG he (fun s' d hc h44 h45 h45' hok => hK s' (GM_D hG hc ((d.1 27 (by decide)).trans hG.2.1) ((d.1 28 (by decide)).trans hG.2.2.1) (d.1 42 (by decide)) (d.2.1 5 (by decide)) (d.2.1 32 (by decide))) h44 h45 h45' hok)
  have n07 : a ≠ L 7 := fun z => hS.n2 (r := 7) (by decide) (Or.inr (z ▸ b1))
  -- not asked for
  have no : tstOk e cs[k].2.2.2 = false → ∀ s1, qt L W s s1 → Kr 0 s1 := fun hf s1 q1 => hok s1 L m D lt (hIV.qt q1) (Nat.le_succ D) (fun m1 R Kb hG hR => go m1 _ hG (fun g hg h44 h45 h45' hgo => by
    have e46 : mFd g 46 = 0 := by
      rw [hgo.1, hf]
      rfl
    exact ⟨fun z => absurd e46 z, fun _ => hR g hg⟩))
  -- asked for
  have yes : tstOk e cs[k].2.2.2 = true → ∀ s1, qt L W s s1 → nums s1 L (m.2.1 2) nq (nI D) lt (sumI (mOne 2 (m.2.1 2) lw) nq) (sumI (mOne 0 (m.2.1 2) lw) nq) → v_X20_run_43 N a Kr s1 := fun hf s1 q1 hn1 => by
    have o1 : tO s1 17 a := ⟨by rw [q1.1]; exact b2.1, b2.2⟩
    unfold v_X20_run_43
    refine ⟨o1, fun s2 e2 => ?_⟩
    have q2 : qt L W s s2 := qt_t q1 (e2 ▸ qt_5 b1 o1)
    have I2 := hIV.qt q2
    have hX2 := I2.1
    have hA2 : isAct (L 0) s2 W a cs[k] := by
      have := I2.2.2.1.2.2.2 k hk
      rw [c0] at this
      have r : tR s2 q k = a := by
        rw [ea]
        show s2.2.2.2 q k = _
        rw [q2.2.1]
      rw [r] at this
      exact this
    have hn2 : nums s2 L (m.2.1 2) nq (nI D) lt (sumI (mOne 2 (m.2.1 2) lw) nq) (sumI (mOne 0 (m.2.1 2) lw) nq) := by
      rw [e2]
      exact hn1
    have h52 : tI s2 a 5 = 0 := by
      rw [e2]
      exact if_pos ⟨rfl, rfl⟩
    -- behind a hand
    have aft : ∀ (r : Int32) s' L' m' lt', IV N s0 L0 m0 P W M q cs s' L' m' D lt' → (0 ≤ r → ∀ m1 R Kb, GM m D lt sv5 sv32 (nI (2400 + i)) m1 → (∀ g, GM m' (D + 1) lt' sv5 sv32 (nI (2400 + i)) g → R g) → stepW (nP N) (nI (2400 + T)) R Kb m1) → (¬ 0 ≤ r → lt' = lt ∧ ∀ m1 R Kb, GM m D lt sv5 sv32 (nI (2400 + i)) m1 → (∀ g, GM m' D lt sv5 sv32 (nI (2400 + i)) g → Kb g) → stepW (nP N) (nI (2400 + T)) R Kb m1) → (0 ≤ r → (tO s' 17 a ∧ (∀ x108 : Nat, x108 = tR s' a 6 → (tO s' 0 x108 ∧ (∀ s110 : tM, s110 = tsI s' x108 24 ((tI s' x108 24) + 1) → (Kr 0 s110)))))) ∧ (¬ 0 ≤ r → (Kr (-3) s')) := fun r s' L' m' lt' h' p1 p2 => by
      refine ⟨fun hr => ?_, fun hr => ?_⟩
      · have hA' := h'.2.2.1.2.2.2 k hk
        have hR : tR s' q k = a := by
          rw [ea]
          exact tRq h' hIV hk
        rw [hR, c0] at hA'
        obtain ⟨-, d2, ⟨d3, -⟩, -⟩ := hA'
        have c0' : L0 0 = L' 0 := (h'.2.2.2.2.2.1.lt (by decide)).symm
        refine ⟨d2, fun x hx => ?_⟩
        rw [hx, d3, ← c0, h'.2.2.2.1.1, nI_1]
        refine ⟨by rw [c0']; exact h'.1.S.o (r := 0) rfl, fun s3 e3 => ?_⟩
        exact hok s3 L' m' (D + 1) lt' (h'.w (Or.inl ⟨e3, rfl⟩) h'.2.2.2.2.2.2.2.1) (Nat.le_refl _) (p1 hr)
      · obtain ⟨p3, p4⟩ := p2 hr
        rw [p3] at h'
        exact hbad s' L' m' h' p4
    refine v_doesS (c := cs[k]) hN2 hX2 hq hq2 hn2 hA2 h52 (fun A hA' hnone s3 q3 => ?_) (fun A B s3 q3 hv => ?_)
    · refine ⟨fun z => absurd z (by decide), fun _ => hbad s3 L m (I2.qt q3) (fun m1 R Kb hG hR => go m1 _ hG (fun g hg h44 h45 h45' hgo => ?_))⟩
      have e46 : ¬ mFd g 46 = 0 := by
        rw [hgo.1, hf]
        decide
      rw [he] at hgo
      exact ⟨fun _ => ⟨fun _ => hR g hg, fun z => absurd (okGo_45 hgo hA' hnone) z⟩, fun z => absurd z e46⟩
    · have I3 := I2.qt q3
      have X3 := I3.1
      -- the hand's turn of the model
      have turn : ∀ (w : mS → (Int32 → mS → Prop) → Prop) (r : Int32) (m' : mS), (∀ m1 K2, cE m m1 → (∀ g, cE m' g → mD oFF oFA [] m1 g → K2 r g) → w m1 K2) → (∀ g K2, GM m D lt sv5 sv32 (nI (2400 + i)) g → mFd g 44 = cs[k].1 → okGo e cs[k] g → mFd g 45 = 1 → w g K2 → w_obeys (nP N) g K2) → (0 ≤ r → ∀ m1 R Kb, GM m D lt sv5 sv32 (nI (2400 + i)) m1 → (∀ g, GM m' (D + 1) lt sv5 sv32 (nI (2400 + i)) g → R g) → stepW (nP N) (nI (2400 + T)) R Kb m1) ∧ (¬ 0 ≤ r → lt = lt ∧ ∀ m1 R Kb, GM m D lt sv5 sv32 (nI (2400 + i)) m1 → (∀ g, GM m' D lt sv5 sv32 (nI (2400 + i)) g → Kb g) → stepW (nP N) (nI (2400 + T)) R Kb m1) := fun w r m' hp2 hob => by
        have main : ∀ m1 R Kb, GM m D lt sv5 sv32 (nI (2400 + i)) m1 → (∀ g, cE m' g → mFd g 27 = nI D → GM m' D lt sv5 sv32 (nI (2400 + i)) g → (0 ≤ r → ∀ s109 : mS, s109 = mF g 27 (mFd g 27 + 1) → R s109) ∧ (¬ 0 ≤ r → Kb g)) → stepW (nP N) (nI (2400 + T)) R Kb m1 := fun m1 R Kb hG hR => go m1 _ hG (fun g hg h44 h45 h45' hgo => by
          have e46 : ¬ mFd g 46 = 0 := by
            rw [hgo.1, hf]
            decide
          refine ⟨fun _ => ⟨fun z45 => ?_, fun n45 => hob g _ hg h44 hgo (h45.resolve_left n45) (hp2 g _ hg.1 (fun g2 c2 d2 => ?_))⟩, fun z => absurd z e46⟩
          · exfalso
            cases hc : cs[k].2.1 with
            | none =>
              have := h45' hc
              rw [this] at z45
              exact absurd z45 (by decide)
            | some A' =>
              obtain ⟨v, w, v1, v2, -⟩ := hv A' hc
              rw [← he] at v1 v2
              rcases hgo.2 A' hc with ⟨h, -⟩ | ⟨v', w', -, -, h, -⟩
              · rcases h with h | h
                · rw [h] at v1
                  cases v1
                · rw [h] at v2
                  cases v2
              · rw [h] at z45
                exact absurd z45 (by decide)
          · have e27 := (d2.1 27 (by decide)).trans hg.2.1
            exact hR g2 c2 e27 (GM_D hg c2 e27 ((d2.1 28 (by decide)).trans hg.2.2.1) (d2.1 42 (by decide)) (d2.2.1 5 (by decide)) (d2.2.1 32 (by decide))))
        refine ⟨fun hr m1 R Kb hG hR => main m1 R Kb hG (fun g c2 e27 hg => ⟨fun _ s4 e4 => ?_, fun z => absurd hr z⟩), fun hr => ⟨rfl, fun m1 R Kb hG hR => main m1 R Kb hG (fun g c2 e27 hg => ⟨fun z => absurd z hr, fun _ => hR g hg⟩)⟩⟩
        rw [e27, nI_1] at e4
        refine hR s4 (GM_D hg ?_ ?_ ?_ ?_ ?_ ?_)
        · rw [e4]
          exact cE_t c2 (cE_D (mD_F (F := [27]) (A := []) (L := []) g (j := 27) _ (by decide)) (by decide) (by decide))
        · rw [e4]
          rfl
        · rw [e4]
          exact (mF_o _ _ (by decide)).trans hg.2.2.1
        · rw [e4]
          exact mF_o _ _ (by decide)
        · rw [e4]
          rfl
        · rw [e4]
          rfl
      have vals : ∀ g, okGo e cs[k] g → (cs[k].1 = 22 ∨ cs[k].1 = 23) → smR A (smallI (mLt g 47 0)) ∧ smR B (smallI (mLt g 47 1)) := fun g hgo h23 => by
        cases hc : cs[k].2.1 with
        | none => exact absurd hc (b7 h23)
        | some A' =>
          obtain ⟨v, w, v1, v2, v3, v4⟩ := hv A' hc
          rw [← he] at v1 v2
          rcases hgo.2 A' hc with ⟨h, -⟩ | ⟨v', w', g1, g2, -, g3, g4, g5, g6⟩
          · exfalso
            rcases h with h | h
            · rw [h] at v1
              cases v1
            · rw [h] at v2
              cases v2
          · have ev : v = v' := Option.some.inj (v1.symm.trans g1)
            have ew : w = w' := Option.some.inj (v2.symm.trans g2)
            have l0 : mLt g 47 0 = v' := g3
            have l1 : mLt g 47 1 = w' := g4
            rw [v3, v4, l0, l1, ev, ew]
            exact ⟨smallI_R g5, smallI_R g6⟩
      refine ⟨fun h22 => v_setNowF hN X3 A B (fun r s4 L4 m4 r1 r2 r3 r4 r5 r6 r7 => ?_), fun h23 => v_shiftNowF hN X3 A B (fun r s4 L4 m4 r1 r2 r3 r4 r5 r6 r7 => ?_), fun h24' => v_swapNowF hN X3 (fun r s4 L4 m4 r1 r2 r3 r4 r5 r6 r7 => ?_), fun h25' => v_passNowF hN X3 (fun r s4 L4 m4 r1 r2 r3 r4 r5 r6 r7 => ?_)⟩
      · obtain ⟨p1, p2⟩ := turn _ r m4 r7 (fun g K2 hg g44 hgo g45 hw => by
          obtain ⟨w1, w2⟩ := vals g hgo (Or.inl h22)
          unfold w_obeys
          rw [g44, h22]
          intro x hx
          rw [hx]
          exact ⟨fun _ => ⟨vpk (k := 0) (by decide) (by decide), w_smallS ⟨vpk (k := 1) (by decide) (by decide), w_smallS (hw _ _ w1 w2)⟩⟩, fun z => absurd z (by decide), fun z => absurd z (by decide), fun z => absurd rfl z⟩)
        exact aft r s4 L4 m4 lt (I3.n r1 r2 r3 r4 r5) p1 p2
      · obtain ⟨p1, p2⟩ := turn _ r m4 r7 (fun g K2 hg g44 hgo g45 hw => by
          obtain ⟨w1, w2⟩ := vals g hgo (Or.inr h23)
          unfold w_obeys
          rw [g44, h23]
          intro x hx
          rw [hx]
          exact ⟨fun z => absurd z (by decide), fun _ => ⟨vpk (k := 0) (by decide) (by decide), w_smallS ⟨vpk (k := 1) (by decide) (by decide), w_smallS (hw _ _ w1 w2)⟩⟩, fun z => absurd z (by decide), fun _ z => absurd rfl z⟩)
        exact aft r s4 L4 m4 lt (I3.n r1 r2 r3 r4 r5) p1 p2
      · obtain ⟨p1, p2⟩ := turn _ r m4 r7 (fun g K2 hg g44 hgo g45 hw => by
          unfold w_obeys
          rw [g44, h24']
          intro x hx
          rw [hx]
          exact ⟨fun z => absurd z (by decide), fun z => absurd z (by decide), fun _ => hw, fun _ _ z => absurd rfl z⟩)
        exact aft r s4 L4 m4 lt (I3.n r1 r2 r3 r4 r5) p1 p2
      · have I4 := I3.n r1 r2 r3 r4 r5
        have c04 : L0 0 = L4 0 := (I4.2.2.2.2.2.1.lt (by decide)).symm
        have hA4 := I4.2.2.1.2.2.2 k hk
        rw [show tR s4 q k = a by rw [ea]; exact tRq I4 hIV hk] at hA4
        obtain ⟨-, d2, ⟨d3, -⟩, -⟩ := hA4
        have ob : ∀ g K2, mFd g 44 = cs[k].1 → w_passesKept (nP N) g (fun x123 s124 => (0 ≤ x123 → ∀ s126 : mS, s126 = mF s124 28 x123 → K2 x123 s126) ∧ (¬ 0 ≤ x123 → ∀ s127 : mS, s127 = mF s124 28 (mFd s124 28) → K2 x123 s127)) → w_obeys (nP N) g K2 := fun g K2 g44 hw => by
          unfold w_obeys
          rw [g44, h25']
          intro x hx
          rw [hx]
          exact ⟨fun z => absurd z (by decide), fun z => absurd z (by decide), fun z => absurd z (by decide), fun _ _ _ => hw⟩
        have o4 : tO s4 0 (L0 0) := by
          rw [c04]
          exact r2.S.o (r := 0) rfl
        have mF28 : ∀ g : mS, mF g 28 (mFd g 28) = g := fun g => Prod.ext (funext fun j => by
          show (if j = 28 then g.1 28 else g.1 j) = g.1 j
          by_cases c : j = 28
          · rw [if_pos c, c]
          · rw [if_neg c]) rfl
        have main : ∀ m1 R Kb, GM m D lt sv5 sv32 (nI (2400 + i)) m1 → (∀ g, GM m4 D lt sv5 sv32 (nI (2400 + i)) g → (0 ≤ r → ∀ s109 : mS, s109 = mF (mF g 28 r) 27 (mFd (mF g 28 r) 27 + 1) → R s109) ∧ (¬ 0 ≤ r → Kb g)) → stepW (nP N) (nI (2400 + T)) R Kb m1 := fun m1 R Kb hG hR => go m1 _ hG (fun g hg h44 h45 h45' hgo => by
          have e46 : ¬ mFd g 46 = 0 := by
            rw [hgo.1, hf]
            decide
          have hnone := b6 (Or.inr h25')
          refine ⟨fun _ => ⟨fun z45 => absurd z45 (by rw [h45' hnone]; decide), fun n45 => ob g _ h44 (r7 g _ hg.1 (fun g2 c2 d2' => ?_))⟩, fun z => absurd z e46⟩
          obtain ⟨t1, t2⟩ := hR g2 (GM_D hg c2 ((d2'.1 27 (by decide)).trans hg.2.1) ((d2'.1 28 (by decide)).trans hg.2.2.1) (d2'.1 42 (by decide)) (d2'.2.1 5 (by decide)) (d2'.2.1 32 (by decide)))
          refine ⟨fun hr s5 e5 => ⟨fun _ s6 e6 => ?_, fun z => absurd hr z⟩, fun hr s5 e5 => ⟨fun z => absurd z hr, fun _ => ?_⟩⟩
          · rw [e5] at e6
            exact t1 hr s6 e6
          · rw [mF28] at e5
            rw [e5]
            exact t2 hr)
        refine ⟨d2, fun hr => ?_, fun hr => ?_⟩
        · rw [d3]
          refine ⟨o4, fun s5 e5 => aft r s5 L4 m4 r (I4.w (Or.inr ⟨e5, rfl⟩) r6) (fun _ m1 R Kb hG hR => main m1 R Kb hG (fun g hg => ⟨fun _ s6 e6 => hR s6 ?_, fun z => absurd hr z⟩)) (fun z => absurd hr z)⟩
          have e27 : mFd (mF g 28 r) 27 = nI D := (mF_o _ _ (by decide)).trans hg.2.1
          rw [e27, nI_1] at e6
          refine GM_D hg ?_ ?_ ?_ ?_ ?_ ?_
          · rw [e6]
            exact cE_t hg.1 (cE_D (mD_t (mD_F (F := [27, 28]) (A := []) (L := []) g (j := 28) _ (by decide)) (mD_F _ (j := 27) _ (by decide))) (by decide) (by decide))
          · rw [e6]
            rfl
          · rw [e6]
            exact (mF_o _ _ (by decide)).trans rfl
          · rw [e6]
            exact (mF_o _ _ (by decide)).trans (mF_o _ _ (by decide))
          · rw [e6]
            rfl
          · rw [e6]
            rfl
        · rw [d3, I4.2.2.2.1.2]
          refine ⟨o4, fun s5 e5 => aft r s5 L4 m4 lt (I4.w (Or.inr ⟨e5, rfl⟩) hlt) (fun z => absurd z hr) (fun _ => ⟨rfl, fun m1 R Kb hG hR => main m1 R Kb hG (fun g hg => ⟨fun z => absurd z hr, fun _ => hR g hg⟩)⟩)⟩
  unfold v_X20_run
  refine ⟨b2, v_setAllS hN1 hN2 hX hF hq hq2 b2 b3 h24 h25 (fun s1 q1 hn1 => ?_)⟩
  have q2 : qt L W s (bk s1 (L 7) 0) := qt_t q1 qt_7
  have o1 : tO (bk s1 (L 7) 0) 17 a := ⟨by show s1.1 a = _; rw [q1.1]; exact b2.1, b2.2⟩
  have r1 : ∀ b j v, tR (bk s1 (L 7) v) b j = tR s b j := fun b j v => by
    show s1.2.2.2 b j = _
    rw [q1.2.1]
  have o0 : ∀ v, tO (bk s1 (L 7) v) 0 (L 0) := fun v => ⟨by show s1.1 _ = _; rw [q1.1]; exact (hS.o (r := 0) rfl).1, (hS.o (r := 0) rfl).2⟩
  have t7 := hS.t (r := 0) (j := 7) (q := 7) (by decide)
  rw [r1, r1, b3, r1, t7]
  refine ⟨o1, fun z3 => ?_, fun n3 => ⟨o0 0, ?_⟩⟩
  · have hnn : cs[k].2.2.2 = none := by
      cases hc : cs[k].2.2.2 with
      | none => rfl
      | some D' => exact absurd z3 (b12 D' hc).1
    exact yes (by rw [hnn]; rfl) _ q2 hn1
  · cases hc : cs[k].2.2.2 with
    | none => exact absurd (b11 hc) n3
    | some D' =>
      have X1 := qt_X hX q1
      have E := envO X1 hq hq2 hn1
      have hT : isTest s1 (fun b => W b ∧ s.1 b ≠ some (.inl 17)) true (L 0) 30 (tR s a 3) D' := by
        refine isTest_fr (M := fun b => W b ∧ s.1 b ≠ some (.inl 17)) (s := s) (fun b hb => ⟨by rw [q1.1], funext fun j => q1.2.2.1 b j (fun z => hS.n2 (r := 7) (by decide) (Or.inr (z.1 ▸ hb.1))) (fun z => hS.n2 (r := 6) (by decide) (Or.inr (z.1 ▸ hb.1))) (fun z => hb.2 z.2.1), by rw [q1.2.1]⟩) (fun _ h => h) _ _ _ (isTest_17 _ _ _ (b12 D' hc).2)
      have ts : ∀ v, D' e = some v → tstOk e cs[k].2.2.2 = v := fun v hv => by
        rw [hc]
        show (D' e == some true) = v
        rw [hv]
        cases v <;> rfl
      refine v_testS hN2 E hN1 30 _ D' hT N.2.1 (by omega) _ (fun v hv => ?_) (fun hv => ?_)
      · rw [← he] at hv
        cases v with
        | true =>
          refine ⟨fun z => absurd z (by decide), fun _ => ⟨o1, ?_⟩⟩
          rw [r1, b3, r1, t7]
          refine ⟨o0 0, ⟨by show s1.1 _ = _; rw [q1.1]; exact (hS.o (r := 7) rfl).1, (hS.o (r := 7) rfl).2⟩, fun _ => yes (ts true hv) _ q2 hn1, fun z => absurd (bk_at _ _ _) z⟩
        | false => exact ⟨fun _ => no (ts false hv) _ q2, fun z => absurd rfl z⟩
      · rw [← he] at hv
        refine ⟨fun _ => no ?_ _ (qt_t q1 qt_7), fun z => absurd rfl z⟩
        rw [hc]
        show (D' e == some true) = false
        rw [hv]
        rfl
end RU
