set_option maxRecDepth 100000
/-! ===== heard, terms, count ===== -/
theorem mI_comm {m : mS} {j k k2 : Nat} {v w : Int32} (hk : k < 2 ^ 31) (hk2 : k2 < 2 ^ 31) (h : k ≠ k2) : mI (mI m j (nI k) v) j (nI k2) w = mI (mI m j (nI k2) w) j (nI k) v := by
  have h2 : (mI (mI m j (nI k) v) j (nI k2) w).2.1 = (mI (mI m j (nI k2) w) j (nI k) v).2.1 := funext fun q => by
    by_cases e : q = j
    · subst e
      funext i
      rw [mI_at _ _ _ hk2, mI_at _ _ _ hk, mI_at _ _ _ hk, mI_at _ _ _ hk2]
      by_cases c : i = k
      · rw [if_pos c, if_neg (by omega), if_pos c]
      · rw [if_neg c, if_neg c]
    · rw [mI_o _ _ _ e, mI_o _ _ _ e, mI_o _ _ _ e, mI_o _ _ _ e]
  have h1 : (mI (mI m j (nI k) v) j (nI k2) w).1 = (mI (mI m j (nI k2) w) j (nI k) v).1 := by
    rw [mI_f1, mI_f1, mI_f1, mI_f1]
  have h3 : (mI (mI m j (nI k) v) j (nI k2) w).2.2 = (mI (mI m j (nI k2) w) j (nI k) v).2.2 := by
    rw [mI_f3, mI_f3, mI_f3, mI_f3]
  exact Prod.ext h1 (Prod.ext h2 h3)
/-! the terms -/
def tm (k : Nat) : Nat := if k = 0 then 24 else 36 + k
def isTm (a b : Int32) : Bool := if a = 0 then decide ((0 : Int32) ≤ b) && decide (b ≤ 999) else if a = 1 then decide ((0 : Int32) ≤ b) && decide (b ≤ 10) else if a = 2 then decide ((0 : Int32) ≤ b) && decide (b ≤ 9) else if a = 3 ∨ a = 4 then isPI b else false
theorem v_isTermS {a b : Int32} {s : tM} {K : Int32 → tM → Prop} (h : K (bI (isTm a b)) s) : v_X0_isTerm a b s K := by
  unfold v_X0_isTerm
  intro x hx
  subst hx
  unfold isTm at h
  refine ⟨fun z => ?_, fun z => ?_, fun z => ?_, fun z => ?_, fun z => ?_, fun n0 n1 n2 n3 n4 => ?_⟩
  · subst z
    rw [if_pos rfl] at h
    refine v_inS ⟨bI_x _, ?_⟩
    rw [inl (lo' := 0) (hi' := 999) (by decide) (by decide)]
    exact h
  · subst z
    rw [if_neg (by decide), if_pos rfl] at h
    refine v_inS ⟨bI_x _, ?_⟩
    rw [inl (lo' := 0) (hi' := 10) (by decide) (by decide)]
    exact h
  · subst z
    rw [if_neg (by decide), if_neg (by decide), if_pos rfl] at h
    refine v_inS ⟨bI_x _, ?_⟩
    rw [inl (lo' := 0) (hi' := 9) (by decide) (by decide)]
    exact h
  · subst z
    rw [if_neg (by decide), if_neg (by decide), if_neg (by decide), if_pos (Or.inl rfl)] at h
    exact v_isPitchS ⟨bI_x _, h⟩
  · subst z
    rw [if_neg (by decide), if_neg (by decide), if_neg (by decide), if_pos (Or.inr rfl)] at h
    exact v_isPitchS ⟨bI_x _, h⟩
  · have n34 : ¬ (x = 3 ∨ x = 4) := fun z => z.elim n3 n4
    rw [if_neg n0, if_neg n1, if_neg n2, if_neg n34] at h
    exact h
theorem w_isTermS {a b : Int32} {K : Int32 → Prop} (h : K (bI (isTm a b))) : w_isTerm a b K := by
  unfold w_isTerm
  unfold isTm at h
  refine ⟨fun z => ?_, fun z => ?_, fun z => ?_, fun z => ?_, fun z => ?_, fun n0 n1 n2 n3 n4 => ?_⟩
  · subst z
    rw [if_pos rfl] at h
    exact w_liesS ⟨bI_x _, h⟩
  · subst z
    rw [if_neg (by decide), if_pos rfl] at h
    exact w_liesS ⟨bI_x _, h⟩
  · subst z
    rw [if_neg (by decide), if_neg (by decide), if_pos rfl] at h
    exact w_liesS ⟨bI_x _, h⟩
  · subst z
    rw [if_neg (by decide), if_neg (by decide), if_neg (by decide), if_pos (Or.inl rfl)] at h
    exact w_isPitchS ⟨bI_x _, h⟩
  · subst z
    rw [if_neg (by decide), if_neg (by decide), if_neg (by decide), if_pos (Or.inr rfl)] at h
    exact w_isPitchS ⟨bI_x _, h⟩
  · have n34 : ¬ (a = 3 ∨ a = 4) := fun z => z.elim n3 n4
    rw [if_neg n0, if_neg n1, if_neg n2, if_neg n34] at h
    exact h
theorem isTm_t {a b : Int32} {told : Nat} (h : isTm a b = true) : ∃ k, k < 5 ∧ a = nI k ∧ okv told (tm k) b := by
  have z0 : (0 : Int32).toInt = 0 := by decide
  unfold isTm at h
  by_cases c0 : a = 0
  · rw [if_pos c0] at h
    have hr := in_t h
    rw [z0, show (999 : Int32).toInt = 999 by decide] at hr
    exact ⟨0, by decide, c0, by rw [show tm 0 = 24 from rfl]; exact ⟨by omega, fun _ => hr, by omega, by omega, by omega, by omega, by omega, by omega, by omega, by omega⟩⟩
  rw [if_neg c0] at h
  by_cases c1 : a = 1
  · rw [if_pos c1] at h
    have hr := in_t h
    rw [z0, show (10 : Int32).toInt = 10 by decide] at hr
    exact ⟨1, by decide, c1, by rw [show tm 1 = 37 from rfl]; exact ⟨by omega, by omega, fun _ => hr, by omega, by omega, by omega, by omega, by omega, by omega, by omega⟩⟩
  rw [if_neg c1] at h
  by_cases c2 : a = 2
  · rw [if_pos c2] at h
    have hr := in_t h
    rw [z0, show (9 : Int32).toInt = 9 by decide] at hr
    exact ⟨2, by decide, c2, by rw [show tm 2 = 38 from rfl]; exact ⟨by omega, by omega, by omega, fun _ => hr, by omega, by omega, by omega, by omega, by omega, by omega⟩⟩
  rw [if_neg c2] at h
  by_cases c34 : a = 3 ∨ a = 4
  · rw [if_pos c34] at h
    have hr := pI_of h
    rcases c34 with c3 | c4
    · exact ⟨3, by decide, c3, by rw [show tm 3 = 39 from rfl]; exact ⟨by omega, by omega, by omega, by omega, fun _ => hr, by omega, by omega, by omega, by omega, by omega⟩⟩
    · exact ⟨4, by decide, c4, by rw [show tm 4 = 40 from rfl]; exact ⟨by omega, by omega, by omega, by omega, fun _ => hr, by omega, by omega, by omega, by omega, by omega⟩⟩
  · rw [if_neg c34] at h
    cases h
theorem w_termAtS {k : Nat} (hk : k < 5) {K : Int32 → Prop} (h : K (nI (tm k))) : w_termAt (nI k) K := by
  unfold w_termAt
  have : k = 0 ∨ k = 1 ∨ k = 2 ∨ k = 3 ∨ k = 4 := by omega
  rcases this with rfl | rfl | rfl | rfl | rfl
  · exact ⟨fun _ => h, fun z => absurd z (by decide), fun z => absurd z (by decide), fun z => absurd z (by decide), fun z => absurd rfl z⟩
  · exact ⟨fun z => absurd z (by decide), fun _ => h, fun z => absurd z (by decide), fun z => absurd z (by decide), fun _ z => absurd rfl z⟩
  · exact ⟨fun z => absurd z (by decide), fun z => absurd z (by decide), fun _ => h, fun z => absurd z (by decide), fun _ _ z => absurd rfl z⟩
  · exact ⟨fun z => absurd z (by decide), fun z => absurd z (by decide), fun z => absurd z (by decide), fun _ => h, fun _ _ _ z => absurd rfl z⟩
  · exact ⟨fun z => absurd z (by decide), fun z => absurd z (by decide), fun z => absurd z (by decide), fun z => absurd z (by decide), fun _ _ _ _ => h⟩
theorem notin {a : Int32} (h6 : a ≠ 6) (h7 : a ≠ 7) (h8 : a ≠ 8) (h9 : a ≠ 9) (h10 : a ≠ 10) : (decide ((6 : Int32) ≤ a) && decide (a ≤ 10)) = false := by
  refine Bool.eq_false_iff.mpr fun hb => ?_
  have hr := in_t hb
  rw [show (6 : Int32).toInt = 6 by decide, show (10 : Int32).toInt = 10 by decide] at hr
  obtain ⟨j, j1, j2⟩ := i32N (c := a) (by omega)
  have : j = 6 ∨ j = 7 ∨ j = 8 ∨ j = 9 ∨ j = 10 := by omega
  rcases this with rfl | rfl | rfl | rfl | rfl
  · exact h6 j1
  · exact h7 j1
  · exact h8 j1
  · exact h9 j1
  · exact h10 j1
section O7
variable {N : tP} {s : tM} {x o : Nat} {K : tM → Prop} {L : Nat → Nat} {M O : Nat → Prop} {m : mS}
theorem loc42 {k : Nat} (h1 : k ≠ 0) (h5 : k < 5) : loc 42 k = some (2, 36 + k) := by
  unfold loc
  rw [if_neg (by decide), if_neg (by decide), if_neg (by decide), if_neg (by decide), if_pos rfl, if_pos (by omega)]
theorem v_termS (hX : RX N s L M O m) {k : Nat} (hk : k < 5) {K : Int32 → tM → Prop} (h : K (m.2.1 2 (tm k)) s) : v_X0_term (L 0) (nI k) s K := by
  have hS := hX.S
  have h0 : nI k = 0 ↔ k = 0 := by
    rw [show (0 : Int32) = nI 0 from rfl, nI_eq (by omega) (by omega)]
  unfold v_X0_term
  rw [h0]
  unfold tm at h
  refine ⟨fun nk => ⟨hS.o (r := 0) rfl, ?_⟩, fun yk => ⟨hS.o (r := 0) rfl, v_booksS hS ⟨hS.o (r := 44) rfl, ?_⟩⟩⟩
  · rw [hS.t (r := 0) (j := 0) (q := 40) (by decide), hS.t (r := 40) (j := 1) (q := 42) (by decide), nI_clamp (by omega), hX.R 42 k 2 (36 + k) (loc42 nk hk)]
    rw [if_neg nk] at h
    exact ⟨hS.o (r := 40) rfl, ⟨5, hS.a (r := 42) rfl, vpk hk (by decide)⟩, h⟩
  · rw [hX.d]
    rw [if_pos yk] at h
    exact h
theorem op_terms (hX : RXo N s x o) (hK : ∀ s', RXo N s' x o → K s') (a b : Int32) : v_X0_terms x a b s (pK o (w_terms a b) K) := by
  obtain ⟨L, M, rfl, hX, hm⟩ := hX
  have hS := hX.S
  have o0 := hS.o (r := 0) rfl
  obtain ⟨told, k1, k2, -⟩ := hX.told
  unfold v_X0_terms
  refine v_isTermS (bI_d (fun hb => ⟨o0, ?_⟩) (fun hb => ⟨o0, op_ref (k := 1) hX hm rfl hK (by decide) (by decide) (fun m1 K2 hc h2 => ?_)⟩))
  · obtain ⟨k, hk, rfl, ho⟩ := isTm_t (told := told) hb
    have htm : tm k < 45 := by
      unfold tm
      split <;> omega
    have h0 : nI k = 0 ↔ k = 0 := by
      rw [show (0 : Int32) = nI 0 from rfl, nI_eq (by omega) (by omega)]
    have fin : ∀ s1, RX N s1 L M (mO s o) (mI (sM s o) 2 (nI (tm k)) b) → frM (mO s o) s s1 → v_X0_terms_45 (L 0) ((sM s o).2.1 2 (tm k)) (pK o (w_terms (nI k) b) K) s1 := fun s1 X1 f1 => by
      unfold v_X0_terms_45
      have S1 := X1.S
      rw [S1.t (r := 0) (j := 2) (q := 2) (by decide)]
      refine ⟨S1.o (r := 0) rfl, S1.o (r := 2) rfl, fun s2 e2 => ?_⟩
      subst e2
      have X2 := X1.u0
      refine v_hadS X2 (fun s' X' f' => pfin X' hm (frM_t f1 (frM_t (frM_I X1 (by decide)) f')) rfl hK (fun m1 K2 hc h2 => ?_))
      unfold w_terms
      refine w_isTermS ?_
      rw [hb]
      refine ⟨fun _ => w_termAtS hk ⟨vpk (by omega) (by decide), fun v hv => w_termAtS hk ⟨vpk (by omega) (by decide), fun s4 e4 => w_setS ?_⟩⟩, fun z => absurd z (by decide)⟩
      rw [mAt_n (by omega), eqP hc] at hv
      rw [hv, e4]
      exact h2 _ (cE_F (cE_F (cE_I hc _ _ _) _ _) _ _)
    refine v_termS hX hk ?_
    rw [h0]
    refine ⟨fun nk => ⟨o0, ?_⟩, fun yk => ⟨o0, v_booksS hS ⟨hS.o (r := 44) rfl, fun s1 e1 => ?_⟩⟩⟩
    · rw [hS.t (r := 0) (j := 0) (q := 40) (by decide), hS.t (r := 40) (j := 1) (q := 42) (by decide), nI_clamp (by omega)]
      refine ⟨hS.o (r := 40) rfl, ⟨5, hS.a (r := 42) rfl, vpk hk (by decide)⟩, fun s1 e1 => fin s1 ?_ ?_⟩
      · have et : tm k = 36 + k := if_neg nk
        rw [e1]
        exact hX.w (r0 := 42) (j0 := k) (q0 := 2) (i0 := tm k) (by rw [et]; exact loc42 nk hk) (rd_I _ _ (by decide) (by omega)) (by omega) (invM_I hX.I k2 k1 (by omega) ho)
      · rw [e1]
        exact frM_I hX (r := 42) (by decide)
    · have et : tm k = 24 := if_pos yk
      refine fin s1 ?_ ?_
      · rw [e1]
        exact hX.w (r0 := 44) (j0 := 2) (q0 := 2) (i0 := tm k) (by rw [et]; rfl) (rd_I _ _ (by decide) (by omega)) (by omega) (invM_I hX.I k2 k1 (by omega) ho)
      · rw [e1]
        exact frM_I hX (r := 44) (by decide)
  · unfold w_terms
    refine w_isTermS ?_
    rw [hb]
    exact ⟨fun z => absurd rfl z, fun _ => w_refS (k := 1) (by decide) h2⟩
theorem op_heard (hX : RXo N s x o) (hK : ∀ s', RXo N s' x o → K s') (a b : Int32) : v_X0_heard x a b s (pK o (w_heard a b) K) := by
  obtain ⟨L, M, rfl, hX, hm⟩ := hX
  have hS := hX.S
  have o0 := hS.o (r := 0) rfl
  obtain ⟨told, k1, k2, -⟩ := hX.told
  obtain ⟨n, n1, n2⟩ := hX.I.1.2.2.2.2.2.1
  have h6 : nI n = 6 ↔ n = 6 := by
    rw [show (6 : Int32) = nI 6 from rfl, nI_eq (by omega) (by omega)]
  have e5 : tI s (L 40) 5 = nI n := (hX.R 40 5 2 42 rfl).trans n2
  unfold v_X0_heard
  refine v_inS ?_
  rw [inl (lo' := 0) (hi' := 3) (by decide) (by decide)]
  refine bI_c (fun ha => ⟨o0, op_ref (k := 1) hX hm rfl hK (by decide) (by decide) (fun m1 K2 hc h2 => ?_)⟩) (fun ha => v_inS ?_)
  · unfold w_heard
    refine w_liesS ?_
    rw [ha]
    exact ⟨fun _ => w_refS (k := 1) (by decide) h2, fun z => absurd rfl z⟩
  rw [inl (lo' := -24) (hi' := 999) (by decide) (by decide)]
  refine bI_d (fun hb => ⟨o0, ?_⟩) (fun hb => ⟨o0, op_ref (k := 1) hX hm rfl hK (by decide) (by decide) (fun m1 K2 hc h2 => ?_)⟩)
  · rw [hS.t (r := 0) (j := 0) (q := 40) (by decide), hS.t (r := 40) (j := 2) (q := 43) (by decide), e5, h6]
    have har := in_t ha
    rw [show (0 : Int32).toInt = 0 by decide, show (3 : Int32).toInt = 3 by decide] at har
    obtain ⟨ja, ja1, ja2⟩ := i32N (c := a) har.1
    have hw : ∀ m1 (K2 : Int32 → mS → Prop), cE (sM s o) m1 → ((n ≠ 6 → K2 (nI (n + 1)) (mF (mI (mI (mI m1 2 (nI (25 + 2 * n)) a) 2 (nI (25 + 2 * n + 1)) b) 2 (nI 42) (nI (n + 1))) 0 0)) ∧ (n = 6 → K2 (-(nI 5)) (rfM 5 m1))) → w_heard a b m1 K2 := fun m1 K2 hc h2 => by
      have e2 := eqP hc
      have e42 : mAt m1 2 42 = nI n := (mAt_n (k := 42) (by decide)).trans ((congrFun e2 42).trans n2)
      unfold w_heard
      rw [e42, h6, show (2 : Int32) * nI n = nI (2 * n) from pk_mul 2 n, show (25 : Int32) + nI (2 * n) = nI (25 + 2 * n) from nI_add 25 (2 * n)]
      refine w_liesS ?_
      rw [ha]
      refine ⟨fun z => absurd z (by decide), fun _ => w_liesS ?_⟩
      rw [hb]
      refine ⟨fun _ => ⟨vpk (k := 42) (by decide) (by decide), fun y hy => ?_⟩, fun z => absurd z (by decide)⟩
      subst hy
      refine ⟨vpk (k := 42) (by decide) (by decide), fun nn => ⟨vpk (by omega) (by decide), fun s1 e1 => ?_⟩, fun yn => w_refS (k := 5) (by decide) (h2.2 yn)⟩
      rw [nI_1]
      refine ⟨vpk (by omega) (by decide), fun s2 e2' => ⟨vpk (k := 42) (by decide) (by decide), vpk (k := 42) (by decide) (by decide), fun s3 e3 => ⟨vpk (k := 42) (by decide) (by decide), ?_⟩⟩⟩
      have e42' : mAt s2 2 42 = nI n := by
        refine (mAt_n (k := 42) (by decide)).trans ?_
        rw [e2', e1, mI_at _ _ _ (by omega), mI_at _ _ _ (by omega), if_neg (by omega), if_neg (by omega), e2]
        exact n2
      rw [e42', nI_1] at e3
      have e42'' : mAt s3 2 42 = nI (n + 1) := by
        refine (mAt_n (k := 42) (by decide)).trans ?_
        rw [e3]
        exact (mI_at s2 2 (nI (n + 1)) (k := 42) (by decide) 42).trans (if_pos rfl)
      rw [e42'', e3, e2', e1]
      exact w_goodS (h2.1 nn)
    refine ⟨hS.o (r := 40) rfl, fun nn x113 hx => ?_, fun yn => op_ref (k := 5) hX hm rfl hK (by decide) (by decide) (fun m1 K2 hc h2 => hw m1 K2 hc ⟨fun z => absurd yn z, fun _ => h2⟩)⟩
    subst hx
    refine ⟨hS.o (r := 40) rfl, fun v hv s6 e6 => ?_⟩
    have hv' : v = nI n := hv.trans e5
    subst hv'
    rw [nI_1] at e6
    have X6 : RX N s6 L M (mO s o) (mI (sM s o) 2 (nI 42) (nI (n + 1))) := by
      rw [e6]
      exact hX.w (r0 := 40) (j0 := 5) (q0 := 2) (i0 := 42) rfl (rd_I _ _ (by decide) (by decide)) (by omega) (invM_I hX.I k2 k1 (by decide) ⟨by omega, by omega, by omega, by omega, by omega, by omega, fun _ => ⟨n + 1, by omega, rfl⟩, by omega, by omega, by omega⟩)
    have S6 := X6.S
    have r43 := S6.2.2.1.2.2.2.1 n (by omega)
    have h50 : shp (50 + n) = some (.inr (0, 2)) := by
      have : n = 0 ∨ n = 1 ∨ n = 2 ∨ n = 3 ∨ n = 4 ∨ n = 5 := by omega
      rcases this with rfl | rfl | rfl | rfl | rfl | rfl <;> rfl
    rw [nI_clamp (by omega), r43]
    refine ⟨⟨6, S6.a (r := 43) rfl, vpk (by omega) (by decide)⟩, fun q hq => ?_⟩
    subst hq
    have l0 : loc (50 + n) 0 = some (2, 25 + 2 * n) := by
      unfold loc
      rw [if_neg (by omega), if_neg (by omega), if_neg (by omega), if_pos (by omega), if_pos (by omega), show 50 + n - 50 = n by omega, Nat.add_zero]
    have l1 : loc (50 + n) 1 = some (2, 25 + 2 * n + 1) := by
      unfold loc
      rw [if_neg (by omega), if_neg (by omega), if_neg (by omega), if_pos (by omega), if_pos (by omega), show 50 + n - 50 = n by omega]
    refine ⟨⟨2, S6.a h50, vpk (k := 0) (by decide) (by decide)⟩, fun s7 e7 => ?_⟩
    have k6 : (mI (sM s o) 2 (nI 42) (nI (n + 1))).2.1 2 43 = nI told := by
      rw [mI_at _ _ _ (by omega), if_neg (by omega)]
      exact k2
    have X7 : RX N s7 L M (mO s o) (mI (mI (sM s o) 2 (nI 42) (nI (n + 1))) 2 (nI (25 + 2 * n)) a) := by
      rw [e7]
      exact X6.w l0 (rd_I _ _ (by decide) (by omega)) (by omega) (invM_I X6.I k6 k1 (by omega) ⟨by omega, by omega, by omega, by omega, by omega, by omega, by omega, fun _ _ _ => ⟨ja, by omega, ja1⟩, by omega, by omega⟩)
    have S7 := X7.S
    refine ⟨⟨2, S7.a h50, vpk (k := 1) (by decide) (by decide)⟩, fun s8 e8 => ?_⟩
    have k7 : (mI (mI (sM s o) 2 (nI 42) (nI (n + 1))) 2 (nI (25 + 2 * n)) a).2.1 2 43 = nI told := by
      rw [mI_at _ _ _ (by omega), if_neg (by omega)]
      exact k6
    have X8 : RX N s8 L M (mO s o) (mI (mI (mI (sM s o) 2 (nI 42) (nI (n + 1))) 2 (nI (25 + 2 * n)) a) 2 (nI (25 + 2 * n + 1)) b) := by
      rw [e8]
      exact X7.w l1 (rd_I _ _ (by decide) (by omega)) (by omega) (invM_I X7.I k7 k1 (by omega) ⟨by omega, by omega, by omega, by omega, by omega, by omega, by omega, by omega, by omega, by omega⟩)
    have S8 := X8.S
    have em : mI (mI (mI (sM s o) 2 (nI 42) (nI (n + 1))) 2 (nI (25 + 2 * n)) a) 2 (nI (25 + 2 * n + 1)) b = mI (mI (mI (sM s o) 2 (nI (25 + 2 * n)) a) 2 (nI (25 + 2 * n + 1)) b) 2 (nI 42) (nI (n + 1)) := by
      rw [mI_comm (m := sM s o) (k := 42) (k2 := 25 + 2 * n) (by omega) (by omega) (by omega), mI_comm (k := 42) (k2 := 25 + 2 * n + 1) (by omega) (by omega) (by omega)]
    have e8' : tI s8 (L 40) 5 = nI (n + 1) := by
      refine (X8.R 40 5 2 42 rfl).trans ?_
      rw [em]
      exact (mI_at _ 2 (nI (n + 1)) (k := 42) (by decide) 42).trans (if_pos rfl)
    rw [S8.t (r := 0) (j := 0) (q := 40) (by decide), e8']
    rw [em] at X8
    have f8 : frM (mO s o) s s8 := by
      refine frM_t (s' := s6) ?_ (frM_t (s' := s7) ?_ ?_)
      · rw [e6]
        exact frM_I hX (r := 40) (by decide)
      · rw [e7]
        exact frM_I X6 (shp_some h50)
      · rw [e8]
        exact frM_I X7 (shp_some h50)
    refine ⟨S8.o (r := 40) rfl, v_goodS X8 (by rw [nI_toInt (by omega)]; omega) (fun s' X' f' => pfin X' hm (frM_t f8 f') rfl hK (fun m1 K2 hc h2 => hw m1 K2 hc ⟨fun _ => h2 _ ?_, fun z => absurd z nn⟩))⟩
    exact cE_F (cE_I (cE_I (cE_I hc _ _ _) _ _ _) _ _ _) _ _
  · unfold w_heard
    refine w_liesS ?_
    rw [ha]
    refine ⟨fun z => absurd z (by decide), fun _ => w_liesS ?_⟩
    rw [hb]
    exact ⟨fun z => absurd rfl z, fun _ => w_refS (k := 1) (by decide) h2⟩
theorem op_count (hN : nOK N) (hX : RXo N s x o) (hK : ∀ s', RXo N s' x o → K s') (a : Int32) : v_X0_count N x a s (pK o (w_count (nP N) a) K) := by
  obtain ⟨L, M, rfl, hX, hm⟩ := hX
  have hS := hX.S
  have o0 := hS.o (r := 0) rfl
  obtain ⟨told, k1, k2, k3, -⟩ := hX.told
  obtain ⟨n, n1, n2⟩ := hX.I.1.2.2.2.2.1
  obtain ⟨c, c1, c2, c3⟩ := hX.cnt
  obtain ⟨lw, hF⟩ := hX.inF
  have hN1 : 60 ≤ N.1 := by have := hN.1; omega
  have hN2 : 120 ≤ N.2.1 := by have := hN.2; omega
  have w0 : ∀ m1 (K2 : Int32 → mS → Prop), (w_noteMany m1 (fun r g => K2 r g)) → w_count (nP N) 0 m1 K2 := fun m1 K2 hq => by
    unfold w_count
    refine w_liesS ?_
    rw [show (decide ((6 : Int32) ≤ 0) && decide ((0 : Int32) ≤ 10)) = false from by decide]
    refine ⟨fun _ => w_liesS ?_, fun z => absurd rfl z⟩
    rw [show (decide ((12 : Int32) ≤ 0) && decide ((0 : Int32) ≤ 16)) = false from by decide]
    exact ⟨fun _ => ⟨fun _ => hq, fun z => absurd z (by decide), fun z => absurd z (by decide), fun z => absurd z (by decide), fun z => absurd z (by decide), fun z => absurd z (by decide), fun z => absurd z (by decide), fun z => absurd z (by decide), fun z => absurd z (by decide), fun z => absurd z (by decide), fun z => absurd z (by decide), fun z => absurd z (by decide), fun z => absurd rfl z⟩, fun z => absurd rfl z⟩
  have w1 : ∀ m1 (K2 : Int32 → mS → Prop), (w_allOf (nP N) 2 m1 (fun r g => K2 r g)) → w_count (nP N) 1 m1 K2 := fun m1 K2 hq => by
    unfold w_count
    refine w_liesS ?_
    rw [show (decide ((6 : Int32) ≤ 1) && decide ((1 : Int32) ≤ 10)) = false from by decide]
    refine ⟨fun _ => w_liesS ?_, fun z => absurd rfl z⟩
    rw [show (decide ((12 : Int32) ≤ 1) && decide ((1 : Int32) ≤ 16)) = false from by decide]
    exact ⟨fun _ => ⟨fun z => absurd z (by decide), fun _ => hq, fun z => absurd z (by decide), fun z => absurd z (by decide), fun z => absurd z (by decide), fun z => absurd z (by decide), fun z => absurd z (by decide), fun z => absurd z (by decide), fun z => absurd z (by decide), fun z => absurd z (by decide), fun z => absurd z (by decide), fun z => absurd z (by decide), fun _ z => absurd rfl z⟩, fun z => absurd rfl z⟩
  have w2 : ∀ m1 (K2 : Int32 → mS → Prop), (vp_in 42 5652 ∧ K2 (mAt m1 2 42) m1) → w_count (nP N) 2 m1 K2 := fun m1 K2 hq => by
    unfold w_count
    refine w_liesS ?_
    rw [show (decide ((6 : Int32) ≤ 2) && decide ((2 : Int32) ≤ 10)) = false from by decide]
    refine ⟨fun _ => w_liesS ?_, fun z => absurd rfl z⟩
    rw [show (decide ((12 : Int32) ≤ 2) && decide ((2 : Int32) ≤ 16)) = false from by decide]
    exact ⟨fun _ => ⟨fun z => absurd z (by decide), fun z => absurd z (by decide), fun _ => hq, fun z => absurd z (by decide), fun z => absurd z (by decide), fun z => absurd z (by decide), fun z => absurd z (by decide), fun z => absurd z (by decide), fun z => absurd z (by decide), fun z => absurd z (by decide), fun z => absurd z (by decide), fun z => absurd z (by decide), fun _ _ z => absurd rfl z⟩, fun z => absurd rfl z⟩
  have w3 : ∀ m1 (K2 : Int32 → mS → Prop), (vp_in 43 5652 ∧ K2 (mAt m1 2 43) m1) → w_count (nP N) 3 m1 K2 := fun m1 K2 hq => by
    unfold w_count
    refine w_liesS ?_
    rw [show (decide ((6 : Int32) ≤ 3) && decide ((3 : Int32) ≤ 10)) = false from by decide]
    refine ⟨fun _ => w_liesS ?_, fun z => absurd rfl z⟩
    rw [show (decide ((12 : Int32) ≤ 3) && decide ((3 : Int32) ≤ 16)) = false from by decide]
    exact ⟨fun _ => ⟨fun z => absurd z (by decide), fun z => absurd z (by decide), fun z => absurd z (by decide), fun _ => hq, fun z => absurd z (by decide), fun z => absurd z (by decide), fun z => absurd z (by decide), fun z => absurd z (by decide), fun z => absurd z (by decide), fun z => absurd z (by decide), fun z => absurd z (by decide), fun z => absurd z (by decide), fun _ _ _ z => absurd rfl z⟩, fun z => absurd rfl z⟩
  have w4 : ∀ m1 (K2 : Int32 → mS → Prop), (K2 (mFd m1 33) m1) → w_count (nP N) 4 m1 K2 := fun m1 K2 hq => by
    unfold w_count
    refine w_liesS ?_
    rw [show (decide ((6 : Int32) ≤ 4) && decide ((4 : Int32) ≤ 10)) = false from by decide]
    refine ⟨fun _ => w_liesS ?_, fun z => absurd rfl z⟩
    rw [show (decide ((12 : Int32) ≤ 4) && decide ((4 : Int32) ≤ 16)) = false from by decide]
    exact ⟨fun _ => ⟨fun z => absurd z (by decide), fun z => absurd z (by decide), fun z => absurd z (by decide), fun z => absurd z (by decide), fun _ => hq, fun z => absurd z (by decide), fun z => absurd z (by decide), fun z => absurd z (by decide), fun z => absurd z (by decide), fun z => absurd z (by decide), fun z => absurd z (by decide), fun z => absurd z (by decide), fun _ _ _ _ z => absurd rfl z⟩, fun z => absurd rfl z⟩
  have w5 : ∀ m1 (K2 : Int32 → mS → Prop), (K2 (mFd m1 13) m1) → w_count (nP N) 5 m1 K2 := fun m1 K2 hq => by
    unfold w_count
    refine w_liesS ?_
    rw [show (decide ((6 : Int32) ≤ 5) && decide ((5 : Int32) ≤ 10)) = false from by decide]
    refine ⟨fun _ => w_liesS ?_, fun z => absurd rfl z⟩
    rw [show (decide ((12 : Int32) ≤ 5) && decide ((5 : Int32) ≤ 16)) = false from by decide]
    exact ⟨fun _ => ⟨fun z => absurd z (by decide), fun z => absurd z (by decide), fun z => absurd z (by decide), fun z => absurd z (by decide), fun z => absurd z (by decide), fun _ => hq, fun z => absurd z (by decide), fun z => absurd z (by decide), fun z => absurd z (by decide), fun z => absurd z (by decide), fun z => absurd z (by decide), fun z => absurd z (by decide), fun _ _ _ _ _ z => absurd rfl z⟩, fun z => absurd rfl z⟩
  have w11 : ∀ m1 (K2 : Int32 → mS → Prop), (vp_in 44 5652 ∧ K2 (mAt m1 2 44) m1) → w_count (nP N) 11 m1 K2 := fun m1 K2 hq => by
    unfold w_count
    refine w_liesS ?_
    rw [show (decide ((6 : Int32) ≤ 11) && decide ((11 : Int32) ≤ 10)) = false from by decide]
    refine ⟨fun _ => w_liesS ?_, fun z => absurd rfl z⟩
    rw [show (decide ((12 : Int32) ≤ 11) && decide ((11 : Int32) ≤ 16)) = false from by decide]
    exact ⟨fun _ => ⟨fun z => absurd z (by decide), fun z => absurd z (by decide), fun z => absurd z (by decide), fun z => absurd z (by decide), fun z => absurd z (by decide), fun z => absurd z (by decide), fun z => absurd z (by decide), fun z => absurd z (by decide), fun z => absurd z (by decide), fun z => absurd z (by decide), fun z => absurd z (by decide), fun _ => hq, fun _ _ _ _ _ _ _ _ _ _ _ z => absurd rfl z⟩, fun z => absurd rfl z⟩
  have w6 : ∀ m1 (K2 : Int32 → mS → Prop), K2 (mAt m1 1 (nI 1)) m1 → w_count (nP N) 6 m1 K2 := fun m1 K2 hq => by
    unfold w_count
    refine w_liesS ?_
    rw [show (decide ((6 : Int32) ≤ 6) && decide ((6 : Int32) ≤ 10)) = true from by decide]
    refine ⟨fun z => absurd z (by decide), fun _ => ?_⟩
    unfold w_refusals
    exact ⟨fun z => absurd z (by decide), fun _ => ⟨vpk (k := 1) (by decide) (by decide), hq⟩⟩
  have w7 : ∀ m1 (K2 : Int32 → mS → Prop), K2 (mAt m1 1 (nI 2)) m1 → w_count (nP N) 7 m1 K2 := fun m1 K2 hq => by
    unfold w_count
    refine w_liesS ?_
    rw [show (decide ((6 : Int32) ≤ 7) && decide ((7 : Int32) ≤ 10)) = true from by decide]
    refine ⟨fun z => absurd z (by decide), fun _ => ?_⟩
    unfold w_refusals
    exact ⟨fun z => absurd z (by decide), fun _ => ⟨vpk (k := 2) (by decide) (by decide), hq⟩⟩
  have w8 : ∀ m1 (K2 : Int32 → mS → Prop), K2 (mAt m1 1 (nI 3)) m1 → w_count (nP N) 8 m1 K2 := fun m1 K2 hq => by
    unfold w_count
    refine w_liesS ?_
    rw [show (decide ((6 : Int32) ≤ 8) && decide ((8 : Int32) ≤ 10)) = true from by decide]
    refine ⟨fun z => absurd z (by decide), fun _ => ?_⟩
    unfold w_refusals
    exact ⟨fun z => absurd z (by decide), fun _ => ⟨vpk (k := 3) (by decide) (by decide), hq⟩⟩
  have w9 : ∀ m1 (K2 : Int32 → mS → Prop), K2 (mAt m1 1 (nI 5)) m1 → w_count (nP N) 9 m1 K2 := fun m1 K2 hq => by
    unfold w_count
    refine w_liesS ?_
    rw [show (decide ((6 : Int32) ≤ 9) && decide ((9 : Int32) ≤ 10)) = true from by decide]
    refine ⟨fun z => absurd z (by decide), fun _ => ?_⟩
    unfold w_refusals
    exact ⟨fun _ => ⟨vpk (k := 5) (by decide) (by decide), hq⟩, fun z => absurd (by decide) z⟩
  have w10 : ∀ m1 (K2 : Int32 → mS → Prop), K2 (mAt m1 1 (nI 6)) m1 → w_count (nP N) 10 m1 K2 := fun m1 K2 hq => by
    unfold w_count
    refine w_liesS ?_
    rw [show (decide ((6 : Int32) ≤ 10) && decide ((10 : Int32) ≤ 10)) = true from by decide]
    refine ⟨fun z => absurd z (by decide), fun _ => ?_⟩
    unfold w_refusals
    exact ⟨fun _ => ⟨vpk (k := 6) (by decide) (by decide), hq⟩, fun z => absurd (by decide) z⟩
  have t40 := hS.t (r := 0) (j := 0) (q := 40) (by decide)
  have t41 := hS.t (r := 40) (j := 0) (q := 41) (by decide)
  have t2 := hS.t (r := 0) (j := 2) (q := 2) (by decide)
  have t9 := hS.t (r := 0) (j := 9) (q := 9) (by decide)
  have l9 : ∀ k, k < 7 → tI s (L 9) k = (sM s o).2.1 1 k := fun k hk => hX.R 9 k 1 k (by
    unfold loc
    rw [if_neg (by decide), if_neg (by decide), if_neg (by decide), if_neg (by decide), if_neg (by decide), if_neg (by decide), if_pos rfl, if_pos hk])
  unfold v_X0_count
  intro y hy
  subst hy
  rw [t40, t41, t2, t9]
  refine ⟨fun z => ?_, fun z => ?_, fun z => ?_, fun z => ?_, fun z => ?_, fun z => ?_, fun z => ?_, fun z => ?_, fun z => ?_, fun z => ?_, fun z => ?_, fun z => ?_, fun n0 n1' n2' n3 n4 n5 n6 n7 n8 n9 n10 n11 => v_inS ?_⟩
  · subst z
    refine ⟨o0, v_nNotesS hS ?_⟩
    refine pfin hX hm (frM_r _ _) rfl hK (fun m1 K2 hc h2 => w0 m1 K2 (w_manyS ?_ (h2 m1 hc)))
    rw [eqP hc]
    exact hX.many.symm
  · subst z
    refine ⟨o0, v_barredS hN2 hN1 hX hF n2 n1 (fun s1 h1 => pfin (hX.a h1) hm (frM_s (aS_M h1 hS) (fun _ => Or.inr)) rfl hK (fun m1 K2 hc h2 => w1 m1 K2 ?_))⟩
    have e2 := eqP hc
    refine w_allS (N := nP N) (w := 2) (by have := hN.1; show 402 ≤ N.1; omega) (by have := hN.2; show 40 ≤ N.2.1; omega) (s0 := m1) (lw := lw) (by rw [e2]; exact hF) (by rw [e2]; exact hX.I.1.1) (m := n) (by rw [e2]; exact n2) n1 (by decide) (fun g hg => ?_)
    rw [e2]
    exact h2 g (cE_t hc (cE_D hg (by decide) (by decide)))
  · subst z
    refine ⟨o0, hS.o (r := 40) rfl, pfin hX hm (frM_r _ _) rfl hK (fun m1 K2 hc h2 => w2 m1 K2 ⟨vpk (k := 42) (by decide) (by decide), ?_⟩)⟩
    rw [show mAt m1 2 42 = tI s (L 40) 5 from (mAt_n (k := 42) (by decide)).trans ((congrFun (eqP hc) 42).trans (hX.R 40 5 2 42 rfl).symm)]
    exact h2 m1 hc
  · subst z
    unfold v_J2_size
    refine ⟨o0, hS.o (r := 40) rfl, hS.o (r := 41) rfl, hS.o (r := 41) rfl, pfin hX hm (frM_r _ _) rfl hK (fun m1 K2 hc h2 => w3 m1 K2 ⟨vpk (k := 43) (by decide) (by decide), ?_⟩)⟩
    rw [show mAt m1 2 43 = tI s (L 41) 2 from (mAt_n (k := 43) (by decide)).trans ((congrFun (eqP hc) 43).trans (k2.trans k3.symm))]
    exact h2 m1 hc
  · subst z
    refine ⟨o0, hS.o (r := 2) rfl, pfin hX hm (frM_r _ _) rfl hK (fun m1 K2 hc h2 => w4 m1 K2 ?_)⟩
    rw [show mFd m1 33 = tI s (L 2) 1 from (hc.1 33 (by decide)).trans (c2.trans c3.symm)]
    exact h2 m1 hc
  · subst z
    refine ⟨o0, pfin hX hm (frM_r _ _) rfl hK (fun m1 K2 hc h2 => w5 m1 K2 ?_)⟩
    rw [show mFd m1 13 = tI s (L 0) 15 from (hc.1 13 (by decide)).trans (hX.R 0 15 60 13 rfl).symm]
    exact h2 m1 hc
  · subst z
    refine ⟨o0, ⟨7, hS.a (r := 9) rfl, vpk (k := 1) (by decide) (by decide)⟩, pfin hX hm (frM_r _ _) rfl hK (fun m1 K2 hc h2 => w6 m1 K2 ?_)⟩
    rw [mAt_n (k := 1) (by decide), show m1.2.1 1 = (sM s o).2.1 1 from hc.2 1 (by decide), ← l9 1 (by decide)]
    exact h2 m1 hc
  · subst z
    refine ⟨o0, ⟨7, hS.a (r := 9) rfl, vpk (k := 2) (by decide) (by decide)⟩, pfin hX hm (frM_r _ _) rfl hK (fun m1 K2 hc h2 => w7 m1 K2 ?_)⟩
    rw [mAt_n (k := 2) (by decide), show m1.2.1 1 = (sM s o).2.1 1 from hc.2 1 (by decide), ← l9 2 (by decide)]
    exact h2 m1 hc
  · subst z
    refine ⟨o0, ⟨7, hS.a (r := 9) rfl, vpk (k := 3) (by decide) (by decide)⟩, pfin hX hm (frM_r _ _) rfl hK (fun m1 K2 hc h2 => w8 m1 K2 ?_)⟩
    rw [mAt_n (k := 3) (by decide), show m1.2.1 1 = (sM s o).2.1 1 from hc.2 1 (by decide), ← l9 3 (by decide)]
    exact h2 m1 hc
  · subst z
    refine ⟨o0, ⟨7, hS.a (r := 9) rfl, vpk (k := 5) (by decide) (by decide)⟩, pfin hX hm (frM_r _ _) rfl hK (fun m1 K2 hc h2 => w9 m1 K2 ?_)⟩
    rw [mAt_n (k := 5) (by decide), show m1.2.1 1 = (sM s o).2.1 1 from hc.2 1 (by decide), ← l9 5 (by decide)]
    exact h2 m1 hc
  · subst z
    refine ⟨o0, ⟨7, hS.a (r := 9) rfl, vpk (k := 6) (by decide) (by decide)⟩, pfin hX hm (frM_r _ _) rfl hK (fun m1 K2 hc h2 => w10 m1 K2 ?_)⟩
    rw [mAt_n (k := 6) (by decide), show m1.2.1 1 = (sM s o).2.1 1 from hc.2 1 (by decide), ← l9 6 (by decide)]
    exact h2 m1 hc
  · subst z
    refine ⟨o0, hS.o (r := 40) rfl, pfin hX hm (frM_r _ _) rfl hK (fun m1 K2 hc h2 => w11 m1 K2 ⟨vpk (k := 44) (by decide) (by decide), ?_⟩)⟩
    rw [show mAt m1 2 44 = tI s (L 40) 6 from (mAt_n (k := 44) (by decide)).trans ((congrFun (eqP hc) 44).trans hX.force.symm)]
    exact h2 m1 hc
  · rw [inl (lo' := 12) (hi' := 16) (by decide) (by decide)]
    have no6 := notin n6 n7 n8 n9 n10
    refine bI_c (fun hb => pfin hX hm (frM_r _ _) rfl hK (fun m1 K2 hc h2 => ?_)) (fun hb => ⟨o0, ?_⟩)
    · unfold w_count
      refine w_liesS ?_
      rw [no6]
      refine ⟨fun _ => w_liesS ?_, fun z => absurd rfl z⟩
      rw [hb]
      exact ⟨fun _ => ⟨fun z => absurd z n0, fun z => absurd z n1', fun z => absurd z n2', fun z => absurd z n3, fun z => absurd z n4, fun z => absurd z n5, fun z => absurd z n6, fun z => absurd z n7, fun z => absurd z n8, fun z => absurd z n9, fun z => absurd z n10, fun z => absurd z n11, fun _ _ _ _ _ _ _ _ _ _ _ _ => h2 m1 hc⟩, fun z => absurd rfl z⟩
    · have hr := in_t hb
      rw [show (12 : Int32).toInt = 12 by decide, show (16 : Int32).toInt = 16 by decide] at hr
      obtain ⟨j, j1, j2⟩ := i32N (c := y) (by omega)
      obtain ⟨k, rfl⟩ : ∃ k, j = 12 + k := ⟨j - 12, by omega⟩
      have hk : k < 5 := by omega
      have ek : y - 12 = nI k := by
        rw [j1]
        have : k = 0 ∨ k = 1 ∨ k = 2 ∨ k = 3 ∨ k = 4 := by omega
        rcases this with rfl | rfl | rfl | rfl | rfl <;> decide
      have htm : tm k < 45 := by
        unfold tm
        split <;> omega
      rw [ek]
      refine v_termS hX hk (pfin hX hm (frM_r _ _) rfl hK (fun m1 K2 hc h2 => ?_))
      unfold w_count
      refine w_liesS ?_
      rw [no6]
      refine ⟨fun _ => w_liesS ?_, fun z => absurd rfl z⟩
      rw [hb, ek]
      refine ⟨fun z => absurd z (by decide), fun _ => w_termAtS hk ⟨vpk (by omega) (by decide), ?_⟩⟩
      rw [mAt_n (by omega), eqP hc]
      exact h2 m1 hc
end O7
