set_option maxRecDepth 100000
/-! ===== the relation at the start ===== -/
/-- the model, new -/
def mI0 : mS := ((fun j => if j = 14 ∨ j = 41 ∨ j = 49 then -1 else 0), (fun q i => if q = 2 then (if i = 37 then 1 else if i = 40 then 24 else if i = 44 then -1 else 0) else if q = 7 then (flatW wrdL).getD i 0 else 0), fun _ _ => 0)
theorem mI0_2 (i : Nat) : mI0.2.1 2 i = if i = 37 then 1 else if i = 40 then 24 else if i = 44 then -1 else 0 := rfl
theorem sg_19 {x : Nat} (h : shp x ≠ none) : Rt 19 x := by
  refine ⟨h, ?_⟩
  have key : ∀ x, x < 56 → sgT.getD x 0 ≤ 19 := by decide
  rcases sg_v h with ⟨c, v⟩ | z
  · rw [v]
    exact key x c
  · omega
theorem par_bk {b : Nat} (hb : isBk b) : par (200 + b) = (b, 0) ∧ par (400 + b) = (b, 1) := by
  refine ⟨?_, ?_⟩
  · unfold par
    rcases hb with rfl | rfl | rfl | rfl | hb | hb
    all_goals first | rfl | (rw [if_neg (by omega), if_neg (by omega), if_neg (by omega), if_pos (by omega)]; exact congrArg (fun z => (z, 0)) (by omega))
  · unfold par
    rcases hb with rfl | rfl | rfl | rfl | hb | hb
    all_goals first | rfl | (rw [if_neg (by omega), if_neg (by omega), if_neg (by omega), if_neg (by omega), if_pos (by omega)]; exact congrArg (fun z => (z, 1)) (by omega))
theorem rd_60 (i : Nat) : rd mI0 60 i = if i = 14 ∨ i = 41 ∨ i = 49 then -1 else 0 := rfl
theorem rd_2 (i : Nat) : rd mI0 2 i = if i = 37 then 1 else if i = 40 then 24 else if i = 44 then -1 else 0 := rfl
theorem rd_o {q : Nat} (i : Nat) (h : q ≠ 60) (h2 : q ≠ 2) (h7 : q ≠ 7) : rd mI0 q i = 0 := by
  unfold rd mI0
  rw [if_neg h]
  dsimp only
  rw [if_neg h2, if_neg h7]
theorem iv0_loc {r j q i : Nat} (h : loc r j = some (q, i)) : iv0 r j = rd mI0 q i := by
  unfold loc at h
  by_cases h1 : r = 444
  · rw [if_pos h1] at h
    split at h
    · cases h
      rw [iv0_z (by omega), rd_2, if_neg (by omega), if_neg (by omega), if_neg (by omega)]
    · cases h
  rw [if_neg h1] at h
  by_cases h2 : r = 244
  · rw [if_pos h2] at h
    split at h
    · cases h
      rw [iv0_z (by omega), rd_2, if_neg (by omega), if_neg (by omega), if_neg (by omega)]
    · cases h
  rw [if_neg h2] at h
  by_cases h3 : r = 44
  · rw [if_pos h3] at h
    split at h
    · cases h
      rw [iv0_z (by omega), rd_2, if_neg (by omega), if_neg (by omega), if_neg (by omega)]
    · cases h
  rw [if_neg h3] at h
  by_cases h4 : 50 ≤ r ∧ r < 56
  · rw [if_pos h4] at h
    split at h
    · cases h
      rw [iv0_z (by omega), rd_2, if_neg (by omega), if_neg (by omega), if_neg (by omega)]
    · cases h
  rw [if_neg h4] at h
  by_cases h5 : r = 42
  · rw [if_pos h5] at h
    split at h
    · next hj =>
      cases h
      have hj4 : j = 1 ∨ j = 2 ∨ j = 3 ∨ j = 4 := by omega
      rw [h5]
      rcases hj4 with rfl | rfl | rfl | rfl <;> rfl
    · cases h
  rw [if_neg h5] at h
  by_cases h6 : r = 40
  · rw [if_pos h6] at h
    split at h
    · next hj =>
      cases h
      rw [h6, hj]
      rfl
    · skip
      split at h
      · next hj =>
        cases h
        rw [h6, hj]
        rfl
      · skip
        split at h
        · next hj =>
          cases h
          rw [h6, hj]
          rfl
        · cases h
  rw [if_neg h6] at h
  by_cases h7 : r = 9
  · rw [if_pos h7] at h
    split at h
    · cases h
      rw [iv0_z (by omega), rd_o _ (by decide) (by decide) (by decide)]
    · cases h
  rw [if_neg h7] at h
  by_cases h8 : r = 0
  · rw [if_pos h8] at h
    split at h
    · next hj =>
      cases h
      rw [h8, hj]
      rfl
    · skip
      split at h
      · next hj =>
        cases h
        rw [h8, hj]
        rfl
      · skip
        split at h
        · next hj =>
          cases h
          rw [h8, hj]
          rfl
        · skip
          split at h
          · next hj =>
            cases h
            rw [h8, hj]
            rfl
          · skip
            split at h
            · next hj =>
              cases h
              rw [h8, hj]
              rfl
            · skip
              split at h
              · next hj =>
                cases h
                rw [h8, hj]
                rfl
              · cases h
  rw [if_neg h8] at h
  by_cases h9 : r = 14
  · rw [if_pos h9] at h
    split at h
    · cases h
      rw [iv0_z (by omega), rd_o _ (by decide) (by decide) (by decide)]
    · cases h
  rw [if_neg h9] at h
  by_cases h10 : r = 226
  · rw [if_pos h10] at h
    split at h
    · cases h
      rw [iv0_z (by omega), rd_o _ (by decide) (by decide) (by decide)]
    · cases h
  rw [if_neg h10] at h
  by_cases h11 : r = 426
  · rw [if_pos h11] at h
    split at h
    · cases h
      rw [iv0_z (by omega), rd_o _ (by decide) (by decide) (by decide)]
    · cases h
  rw [if_neg h11] at h
  by_cases h12 : r = 2
  · rw [if_pos h12] at h
    split at h
    · next hj =>
      cases h
      rw [h12, hj]
      rfl
    · cases h
  rw [if_neg h12] at h
  cases h
theorem mI0_I : invM mI0 := by
  have z0 : (0 : Int32).toInt = 0 := by decide
  have e : ∀ i, i ≠ 37 → i ≠ 40 → i ≠ 44 → mI0.2.1 2 i = 0 := fun i a b c => by rw [mI0_2, if_neg a, if_neg b, if_neg c]
  refine ⟨⟨⟨fun i hi => ?_, ?_, ?_⟩, ?_, ?_, ?_, ⟨0, by decide, ?_⟩, ⟨0, by decide, ?_⟩, fun i hi => ⟨0, by decide, ?_⟩, 0, by decide, ?_, Or.inl ?_⟩, ⟨0, by decide, rfl⟩, fun k hk => ?_, Or.inl rfl, fun j hj => ?_⟩
  · rw [e i (by omega) (by omega) (by omega)]
    exact ⟨by decide, by decide⟩
  · rw [e 38 (by decide) (by decide) (by decide)]
    exact ⟨by decide, by decide⟩
  · rw [e 24 (by decide) (by decide) (by decide)]
    exact ⟨by decide, by decide⟩
  · show 0 ≤ (1 : Int32).toInt ∧ (1 : Int32).toInt ≤ 10
    decide
  · rw [e 39 (by decide) (by decide) (by decide)]
    exact ⟨by decide, by decide⟩
  · show 0 ≤ (24 : Int32).toInt ∧ (24 : Int32).toInt ≤ 24
    decide
  · rfl
  · rfl
  · rw [e _ (by omega) (by omega) (by omega)]
    rfl
  · rfl
  · rfl
  · show -128 ≤ (0 : Int32).toInt ∧ (0 : Int32).toInt ≤ 127
    decide
  · show (flatW wrdL).getD j 0 = _
    rw [List.getD_eq_getElem?_getD, List.getElem?_eq_getElem hj]
    rfl
theorem RX_start {N : tP} {s0 s sQ : tM} {L : Nat → Nat} {t1 t2 : Nat} (h : PC N s0 (Rt 19) L [] [] (fun a => a = t1 ∨ a = t2) sQ t1 s) (h2 : s.1 (N.2.2 200) = none) (ot : tO sQ 5 t1) (ar : tA sQ 6 0 t2) (tr : tR sQ t1 0 = t2) : RX N s L (fun a => a = t1 ∨ a = t2) (fun _ => False) mI0 := by
  have R : ∀ {r}, shp r ≠ none → Rt 19 r := fun hr => sg_19 hr
  have rf : ∀ {r p j}, shp r ≠ none → r ≠ 0 → par r = (p, j) → tR s (L p) j = L r := fun hr h0 hp => h.rf (R hr) h0 hp (by simp)
  have hI : ∀ r j, shp r ≠ none → tI s (L r) j = iv0 r j := fun r j hr => h.1.2.2.2.2.1 r j (R hr) (by simp)
  have hQ := h.1.2.2.2.2.2
  have q1 := hQ t1 (Or.inl rfl)
  have q2 := hQ t2 (Or.inr rfl)
  have mf : mFr (fun a => a = t1 ∨ a = t2) s s := mFr_r _ _
  have o1 : tO s 5 t1 := ⟨q1.1.trans ot.1, ot.2⟩
  have o2 : tA s 6 0 t2 := ⟨q2.1.trans ar.1, ar.2⟩
  have r1 : tR s t1 0 = t2 := (congrFun q1.2.1 0).trans tr
  refine ⟨⟨fun r c hr => ?_, fun r r' hr hr' e => h.1.2.2.1 r r' (R hr) (R hr') e, ⟨fun p hp => ?_, fun b hb => ?_, fun k hk => ?_, fun i hi => ?_, fun n hn => ?_, fun n hn => ?_, fun n b hn hb => ?_⟩, fun a ha => ?_⟩, ⟨h2, fun _ z => z.elim⟩, ?_, fun r j q i hl => ?_, ⟨0, by decide, rfl, fun k hk => by omega⟩, ⟨Or.inl (h.2.1 (R (by decide)) (by simp)), 0, by decide, rfl, ?_, Or.inl ⟨rfl, h.2.1 (R (by decide)) (by simp)⟩, fun t ht => by omega⟩, fun k hk => Or.inl ⟨rfl, h.2.2.2 (R (by decide)) k⟩, mI0_I⟩
  · obtain ⟨c', c1, c2, c3, -, -⟩ := h.1.2.1 r (R (shp_some hr))
    rw [hr] at c1
    cases c1
    refine ⟨c2, c3, fun z => ?_⟩
    rcases z with (z | z) | z
    · exact q1.2.2.2 r (R (shp_some hr)) z
    · exact q2.2.2.2 r (R (shp_some hr)) z
    · exact z
  · have key : ∀ p ∈ rfT, shp p.2.2 ≠ none ∧ p.2.2 ≠ 0 ∧ par p.2.2 = (p.1, p.2.1) := by decide
    obtain ⟨k1, k2, k3⟩ := key p hp
    exact rf k1 k2 k3
  · obtain ⟨b1, b2, b3⟩ := shp_bk hb
    obtain ⟨p1, p2⟩ := par_bk hb
    exact ⟨rf (shp_some b2) (by omega) p1, rf (shp_some b3) (by omega) p2⟩
  · obtain ⟨b1, b2⟩ := (stD_p (Or.inl ⟨rfl, rfl, rfl⟩)).2.2.2.1 k hk
    obtain ⟨d1, d2⟩ := (stD_p (Or.inr ⟨rfl, rfl, rfl⟩)).2.2.2.1 k hk
    exact ⟨rf (shp_some (shp_bk b1).1) (by omega) b2, rf (shp_some (shp_bk d1).1) (by omega) d2⟩
  · have : i = 0 ∨ i = 1 ∨ i = 2 ∨ i = 3 ∨ i = 4 ∨ i = 5 := by omega
    exact rf (shp_some (shp_50 hi)) (by omega) (by rcases this with rfl | rfl | rfl | rfl | rfl | rfl <;> rfl)
  · exact ⟨rf (shp_some (p600 n hn).1) (by omega) (p600 n hn).2.1, rf (shp_some (p620 n hn).1) (by omega) (p620 n hn).2.1, rf (shp_some (p640 n hn).1) (by omega) (p640 n hn).2.1⟩
  · exact ⟨rf (shp_some (p660 n hn).1) (by omega) (p660 n hn).2.1, rf (shp_some (p680 n hn).1) (by omega) (p680 n hn).2.1, rf (shp_some (p700 n hn).1) (by omega) (p700 n hn).2.1, rf (shp_some (p720 n hn).1) (by omega) (p720 n hn).2.1⟩
  · exact ⟨rf (shp_some (p1000 n hn b hb).1) (by omega) (p1000 n hn b hb).2, rf (shp_some (p1400 n hn b hb).1) (by omega) (p1400 n hn b hb).2, rf (shp_some (p1800 n hn b hb).1) (by omega) (p1800 n hn b hb).2⟩
  · rcases ha with (rfl | rfl) | z
    · rw [o1.1]
      exact fun z => by cases z
    · rw [o2.1]
      exact fun z => by cases z
    · exact z.elim
  · rw [h.2.2.1 (R (by decide)) (by simp)]
    refine ⟨Or.inl rfl, o1, ?_, ?_, by decide, fun k hk => absurd hk (Nat.not_lt_zero _)⟩
    · rw [r1]
      exact Or.inr rfl
    · rw [r1]
      exact o2
  · rw [hI r j (loc_u hl)]
    exact iv0_loc hl
  · rw [hI 41 2 (by decide)]
    rfl
