set_option maxRecDepth 100000
/-! ===== the eldest step forgotten: the row turns ===== -/
def ro (r : Nat) : Nat := if 100 ≤ r ∧ r < 116 then (if r = 115 then 100 else r + 1) else if 300 ≤ r ∧ r < 316 then (if r = 315 then 300 else r + 1) else if 500 ≤ r ∧ r < 516 then (if r = 515 then 500 else r + 1) else r
theorem ro_id {r : Nat} (h : ¬ (100 ≤ r ∧ r < 116) ∧ ¬ (300 ≤ r ∧ r < 316) ∧ ¬ (500 ≤ r ∧ r < 516)) : ro r = r := by
  unfold ro
  rw [if_neg h.1, if_neg h.2.1, if_neg h.2.2]
theorem ro_1 {k : Nat} (h : k < 15) : ro (100 + k) = 100 + (k + 1) ∧ ro (300 + k) = 300 + (k + 1) ∧ ro (500 + k) = 500 + (k + 1) := by
  unfold ro
  refine ⟨?_, ?_, ?_⟩
  · rw [if_pos (by omega), if_neg (by omega)]
    omega
  · rw [if_neg (by omega), if_pos (by omega), if_neg (by omega)]
    omega
  · rw [if_neg (by omega), if_neg (by omega), if_pos (by omega), if_neg (by omega)]
    omega
theorem ro_rng {r : Nat} : (100 ≤ r ∧ r < 116 → 100 ≤ ro r ∧ ro r < 116) ∧ (300 ≤ r ∧ r < 316 → 300 ≤ ro r ∧ ro r < 316) ∧ (500 ≤ r ∧ r < 516 → 500 ≤ ro r ∧ ro r < 516) ∧ (¬ (100 ≤ r ∧ r < 116) ∧ ¬ (300 ≤ r ∧ r < 316) ∧ ¬ (500 ≤ r ∧ r < 516) → ro r = r) := by
  refine ⟨fun h => ?_, fun h => ?_, fun h => ?_, ro_id⟩
  · unfold ro
    rw [if_pos h]
    split <;> omega
  · unfold ro
    rw [if_neg (by omega), if_pos h]
    split <;> omega
  · unfold ro
    rw [if_neg (by omega), if_neg (by omega), if_pos h]
    split <;> omega
theorem ro_v1 {r : Nat} (h : 100 ≤ r ∧ r < 116) : (r = 115 ∧ ro r = 100) ∨ (r < 115 ∧ ro r = r + 1) := by
  by_cases c : r = 115
  · exact Or.inl ⟨c, by rw [c]; rfl⟩
  · exact Or.inr ⟨by omega, by unfold ro; rw [if_pos h, if_neg c]⟩
theorem ro_v3 {r : Nat} (h : 300 ≤ r ∧ r < 316) : (r = 315 ∧ ro r = 300) ∨ (r < 315 ∧ ro r = r + 1) := by
  have n1 : ¬ (100 ≤ r ∧ r < 116) := by omega
  by_cases c : r = 315
  · exact Or.inl ⟨c, by rw [c]; rfl⟩
  · exact Or.inr ⟨by omega, by unfold ro; rw [if_neg n1, if_pos h, if_neg c]⟩
theorem ro_v5 {r : Nat} (h : 500 ≤ r ∧ r < 516) : (r = 515 ∧ ro r = 500) ∨ (r < 515 ∧ ro r = r + 1) := by
  have n1 : ¬ (100 ≤ r ∧ r < 116) := by omega
  have n2 : ¬ (300 ≤ r ∧ r < 316) := by omega
  by_cases c : r = 515
  · exact Or.inl ⟨c, by rw [c]; rfl⟩
  · exact Or.inr ⟨by omega, by unfold ro; rw [if_neg n1, if_neg n2, if_pos h, if_neg c]⟩
theorem ro_cases (r : Nat) : (100 ≤ r ∧ r < 116 ∧ ((r = 115 ∧ ro r = 100) ∨ (r < 115 ∧ ro r = r + 1))) ∨ (300 ≤ r ∧ r < 316 ∧ ((r = 315 ∧ ro r = 300) ∨ (r < 315 ∧ ro r = r + 1))) ∨ (500 ≤ r ∧ r < 516 ∧ ((r = 515 ∧ ro r = 500) ∨ (r < 515 ∧ ro r = r + 1))) ∨ ((¬ (100 ≤ r ∧ r < 116) ∧ ¬ (300 ≤ r ∧ r < 316) ∧ ¬ (500 ≤ r ∧ r < 516)) ∧ ro r = r) := by
  by_cases c1 : 100 ≤ r ∧ r < 116
  · exact Or.inl ⟨c1.1, c1.2, ro_v1 c1⟩
  · by_cases c3 : 300 ≤ r ∧ r < 316
    · exact Or.inr (Or.inl ⟨c3.1, c3.2, ro_v3 c3⟩)
    · by_cases c5 : 500 ≤ r ∧ r < 516
      · exact Or.inr (Or.inr (Or.inl ⟨c5.1, c5.2, ro_v5 c5⟩))
      · exact Or.inr (Or.inr (Or.inr ⟨⟨c1, c3, c5⟩, ro_id ⟨c1, c3, c5⟩⟩))
theorem ro_inj {r q : Nat} (h : ro r = ro q) : r = q := by
  have a := ro_cases r
  have b := ro_cases q
  omega
theorem shp_ro (r : Nat) : shp (ro r) = shp r := by
  obtain ⟨h1, h3, h5, h0⟩ := @ro_rng r
  by_cases c1 : 100 ≤ r ∧ r < 116
  · have := h1 c1
    have e : ∀ q, 100 ≤ q → q < 116 → shp q = some (.inl 2) := fun q a b => by
      have := (shp_bk (bk100 (k := q - 100) (by omega))).1
      rw [show 100 + (q - 100) = q by omega] at this
      exact this
    rw [e _ this.1 this.2, e _ c1.1 c1.2]
  · by_cases c3 : 300 ≤ r ∧ r < 316
    · have := h3 c3
      have e : ∀ q, 300 ≤ q → q < 316 → shp q = some (.inr (0, 12)) := fun q a b => by
        have := (shp_bk (bk100 (k := q - 300) (by omega))).2.1
        rw [show 200 + (100 + (q - 300)) = q by omega] at this
        exact this
      rw [e _ this.1 this.2, e _ c3.1 c3.2]
    · by_cases c5 : 500 ≤ r ∧ r < 516
      · have := h5 c5
        have e : ∀ q, 500 ≤ q → q < 516 → shp q = some (.inr (0, 12)) := fun q a b => by
          have := (shp_bk (bk100 (k := q - 500) (by omega))).2.2
          rw [show 400 + (100 + (q - 500)) = q by omega] at this
          exact this
        rw [e _ this.1 this.2, e _ c5.1 c5.2]
      · rw [h0 ⟨c1, c3, c5⟩]
theorem ro_bk {b : Nat} (h : isBk b) : isBk (ro b) ∧ ro (200 + b) = 200 + ro b ∧ ro (400 + b) = 400 + ro b := by
  by_cases c : 100 ≤ b ∧ b < 116
  · have := (@ro_rng b).1 c
    refine ⟨Or.inr (Or.inr (Or.inr (Or.inr (Or.inl this)))), ?_, ?_⟩
    · unfold ro
      rw [if_neg (by omega), if_pos (by omega), if_pos c]
      split <;> split <;> omega
    · unfold ro
      rw [if_neg (by omega), if_neg (by omega), if_pos (by omega), if_pos c]
      split <;> split <;> omega
  · have hb := isBk_lt h
    have hno : ro b = b := ro_id ⟨c, by omega, by omega⟩
    rw [hno]
    rcases h with rfl | rfl | rfl | rfl | h | h
    · exact ⟨Or.inl rfl, rfl, rfl⟩
    · exact ⟨Or.inr (Or.inl rfl), rfl, rfl⟩
    · exact ⟨Or.inr (Or.inr (Or.inl rfl)), rfl, rfl⟩
    · exact ⟨Or.inr (Or.inr (Or.inr (Or.inl rfl))), rfl, rfl⟩
    · exact absurd h c
    · exact ⟨Or.inr (Or.inr (Or.inr (Or.inr (Or.inr h)))), ro_id ⟨by omega, by omega, by omega⟩, ro_id ⟨by omega, by omega, by omega⟩⟩
section RO
variable {N : tP} {s s' : tM} {L : Nat → Nat} {M O : Nat → Prop} {m : mS}
theorem RX.rot (hX : RX N s L M O m) (hc : m.1 33 = nI 16) (h1 : s'.1 = s.1) (hJ : s'.2.2.1 = s.2.2.1) (hI : ∀ a j, ¬ (a = L 2 ∧ j = 1) → tI s' a j = tI s a j) (hI2 : tI s' (L 2) 1 = nI 15) (hR : ∀ a j, a ≠ L 31 → tR s' a j = tR s a j) (hR2 : ∀ k, k < 16 → tR s' (L 31) k = L (ro (100 + k))) : RX N s' (fun r => L (ro r)) M O (kRot m) ∧ frM O s s' := by
  obtain ⟨x1, x2, x3, x4, x5, ⟨x6, x7⟩, x8, x9⟩ := hX
  obtain ⟨k1, k2, ⟨r1, r2, r3, r4, r5, r6, r7⟩, k4⟩ := x1
  have x1' : RS s L (uM M O) := ⟨k1, k2, ⟨r1, r2, r3, r4, r5, r6, r7⟩, k4⟩
  have n31 : ∀ r, shp r ≠ none → r ≠ 31 → L r ≠ L 31 := fun r hr hn => x1'.ne hr (by decide) hn
  have hMc : ∀ a, uM M O a → a ≠ L 31 ∧ a ≠ L 2 := fun a ha => ⟨fun z => x1'.nM (r := 31) (by decide) (z ▸ ha), fun z => x1'.nM (r := 2) (by decide) (z ▸ ha)⟩
  have hfr : ∀ a, uM M O a → s'.1 a = s.1 a ∧ s'.2.1 a = s.2.1 a ∧ s'.2.2.2 a = s.2.2.2 a := fun a ha => ⟨by rw [h1], funext fun j => hI a j fun z => (hMc a ha).2 z.1, funext fun j => hR a j (hMc a ha).1⟩
  have hMf : mFr M s s' := fun a ha => hfr a (Or.inl ha)
  have fx : ∀ r, r < 100 → ro r = r := fun r hr => ro_id ⟨by omega, by omega, by omega⟩
  have fx2 : ∀ r, 516 ≤ r → ro r = r := fun r hr => ro_id ⟨by omega, by omega, by omega⟩
  have fx3 : ∀ r, 116 ≤ r → r < 300 → ro r = r := fun r h1 h2 => ro_id ⟨by omega, by omega, by omega⟩
  have A : ∀ n t a, tA s t n a → tA s' t n a := fun n t a ha => ⟨by rw [h1]; exact ha.1, ha.2⟩
  have hF : ∀ j, j ≠ 33 → (kRot m).1 j = m.1 j := fun j hj => if_neg hj
  have hA : ∀ q, q ≠ 31 → (kRot m).2.1 q = m.2.1 q := fun q hq => sA_o _ _ hq
  have hex : ∀ t, tR s' (tR s (L 41) 1) t = tR s (tR s (L 41) 1) t := fun t => by
    refine hR _ _ fun z => ?_
    obtain ⟨told, -, -, -, t4, -⟩ := x7
    rcases t4 with ⟨-, t4⟩ | t4
    · have := (x1'.a (r := 31) (t := 5) (n := 16) rfl).1
      rw [← z, t4, x2.1] at this
      cases this
    · have := (x1'.a (r := 31) (t := 5) (n := 16) rfl).1
      rw [← z, t4.1] at this
      cases this
  have hRel : Rel s' (fun r => L (ro r)) (kRot m) := by
    intro r j q i hl
    have hlr := loc_r hl
    have er : ro r = r := ro_id ⟨by omega, by omega, by omega⟩
    show tI s' (L (ro r)) j = _
    rw [er]
    by_cases c2 : q = 60 ∧ i = 33
    · have := loc_i hl
      rw [c2.1, c2.2] at this
      have er : r = 2 := (congrArg Prod.fst this).symm
      have ej : j = 1 := (congrArg Prod.snd this).symm
      rw [er, ej, c2.1, c2.2, hI2]
      rfl
    · have h2 := loc_2 hl
      rw [rd_e hF hA c2 (by omega), ← x4 r j q i hl]
      refine hI _ _ fun z => ?_
      have e2 := x1'.2.1 r 2 (loc_u hl) (by decide) z.1
      rw [e2, z.2] at hl
      cases hl
      exact c2 ⟨rfl, rfl⟩
  refine ⟨⟨⟨fun r c hr => ?_, fun r q hr hq e => ?_, ?_, fun a ha => by rw [h1]; exact k4 a ha⟩, ⟨by rw [h1]; exact x2.1, x2.2⟩, ?_, hRel, ?_, ⟨?_, ?_⟩, fun k hk => ?_, invM_e x9 hF hA⟩, ⟨fun a ha => hfr a (Or.inr ha), fun a _ _ => by rw [hJ]⟩⟩
  · rw [h1]
    exact k1 (ro r) c (by rw [shp_ro]; exact hr)
  · exact ro_inj (k2 _ _ (by rw [shp_ro]; exact hr) (by rw [shp_ro]; exact hq) e)
  · refine ⟨fun p hp => ?_, fun b hb => ?_, fun k hk => ⟨?_, ?_⟩, fun i hi => ?_, fun n hn => ⟨?_, ?_, ?_⟩, fun n hn => ⟨?_, ?_, ?_, ?_⟩, fun n b hn hb => ⟨?_, ?_, ?_⟩⟩
    · have hp2 : ∀ p ∈ rfT, p.1 < 100 ∧ p.2.2 < 100 ∧ p.1 ≠ 31 ∧ (shp p.1).isSome = true := by decide
      obtain ⟨a1, a2, a3, a4⟩ := hp2 p hp
      dsimp only
      rw [fx _ a1, fx _ a2, hR _ _ (n31 _ (fun z => by rw [z] at a4; cases a4) a3)]
      exact r1 p hp
    · obtain ⟨b1, b2, b3⟩ := ro_bk hb
      have hs := shp_bk b1
      dsimp only
      rw [b2, b3, hR _ _ (n31 _ (shp_some hs.1) (by intro z; rw [z] at b1; rcases b1 with b1 | b1 | b1 | b1 | b1 | b1 <;> omega)), hR _ _ (n31 _ (shp_some hs.1) (by intro z; rw [z] at b1; rcases b1 with b1 | b1 | b1 | b1 | b1 | b1 <;> omega))]
      exact r2 _ b1
    · dsimp only
      rw [fx 31 (by omega)]
      exact hR2 k hk
    · dsimp only
      rw [fx 32 (by omega), fx3 (120 + k) (by omega) (by omega), hR _ _ (n31 _ (by decide) (by decide))]
      exact (r3 k hk).2
    · dsimp only
      rw [fx 43 (by omega), fx (50 + i) (by omega), hR _ _ (n31 _ (by decide) (by decide))]
      exact r4 i hi
    · dsimp only
      rw [fx 16 (by omega), fx2 (600 + n) (by omega), hR _ _ (n31 _ (by decide) (by decide))]
      exact (r5 n hn).1
    · dsimp only
      rw [fx 17 (by omega), fx2 (620 + n) (by omega), hR _ _ (n31 _ (by decide) (by decide))]
      exact (r5 n hn).2.1
    · dsimp only
      rw [fx 18 (by omega), fx2 (640 + n) (by omega), hR _ _ (n31 _ (by decide) (by decide))]
      exact (r5 n hn).2.2
    · dsimp only
      rw [fx 19 (by omega), fx2 (660 + n) (by omega), hR _ _ (n31 _ (by decide) (by decide))]
      exact (r6 n hn).1
    · dsimp only
      rw [fx 20 (by omega), fx2 (680 + n) (by omega), hR _ _ (n31 _ (by decide) (by decide))]
      exact (r6 n hn).2.1
    · dsimp only
      rw [fx 21 (by omega), fx2 (700 + n) (by omega), hR _ _ (n31 _ (by decide) (by decide))]
      exact (r6 n hn).2.2.1
    · dsimp only
      rw [fx 22 (by omega), fx2 (720 + n) (by omega), hR _ _ (n31 _ (by decide) (by decide))]
      exact (r6 n hn).2.2.2
    · dsimp only
      rw [fx2 (600 + n) (by omega), fx2 (1000 + (26 * n + b)) (by omega), hR _ _ (n31 _ (shp_some (shp_600 hn).1) (by omega))]
      exact (r7 n b hn hb).1
    · dsimp only
      rw [fx2 (620 + n) (by omega), fx2 (1400 + (26 * n + b)) (by omega), hR _ _ (n31 _ (shp_some (shp_600 hn).2.1) (by omega))]
      exact (r7 n b hn hb).2.1
    · dsimp only
      rw [fx2 (640 + n) (by omega), fx2 (1800 + (26 * n + b)) (by omega), hR _ _ (n31 _ (shp_some (shp_600 hn).2.2) (by omega))]
      exact (r7 n b hn hb).2.2
  · dsimp only
    rw [fx 0 (by omega), hR _ _ (n31 _ (by decide) (by decide))]
    exact isText_fr hMf (fun _ z => z) x3
  · obtain ⟨n0, a1, a2, a3⟩ := x5
    have en : n0 = 16 := (nI_eq (by omega) (by omega)).mp (a2.symm.trans hc)
    subst en
    refine ⟨15, by omega, rfl, fun k hk => ?_⟩
    obtain ⟨e1, e3, e5⟩ := ro_1 (k := k) hk
    obtain ⟨b1, b2, b3, b4, b5⟩ := a3 (k + 1) (by omega)
    obtain ⟨u1, u3, u5⟩ := shp100 (k := k + 1) (by omega)
    have e31 : (kRot m).2.1 31 = fun q => if q < 390 then m.2.1 31 (q + 26) else m.2.1 31 q := sA_at _ _ _
    have f : ∀ i, i < 26 → (if 26 * k + i < 390 then m.2.1 31 (26 * k + i + 26) else m.2.1 31 (26 * k + i)) = m.2.1 31 (26 * (k + 1) + i) := fun i hi => by
      rw [if_pos (by omega), show 26 * k + i + 26 = 26 * (k + 1) + i by omega]
    have i2 : ∀ r, shp r ≠ none → r ≠ 2 → ∀ j, tI s' (L r) j = tI s (L r) j := fun r hr hn j => hI _ _ fun z => x1'.ne hr (by decide) hn z.1
    rw [e31]
    dsimp only
    rw [e1, e3, e5]
    refine ⟨fun j hj => ?_, ?_, ?_, ?_, ?_⟩
    · rw [f j (by omega), show 26 * k + 12 + j = 26 * k + (12 + j) by omega, f (12 + j) (by omega), show 26 * (k + 1) + (12 + j) = 26 * (k + 1) + 12 + j by omega, i2 _ u3 (by omega), i2 _ u5 (by omega)]
      exact b1 j hj
    · rw [f 24 (by omega), i2 _ u1 (by omega)]
      exact b2
    · rw [f 24 (by omega)]
      exact b3
    · rw [f 25 (by omega), i2 _ u1 (by omega)]
      exact b4
    · rw [f 25 (by omega)]
      exact b5
  · dsimp only
    rw [fx 41 (by omega), hR _ _ (n31 _ (by decide) (by decide))]
    exact x6
  · dsimp only
    rw [fx 41 (by omega), hA 2 (by decide)]
    exact lstR_fr hMf (fun _ z => z) (fun j => hI _ _ fun z => x1'.ne (r := 41) (r' := 2) (by decide) (by decide) (by decide) z.1) (hR _ _ (n31 _ (by decide) (by decide))) A hex x7
  · have e3 : imK (kRot m) k = imK m k := by
      unfold imK
      rw [hA 3 (by decide)]
    dsimp only
    rw [fx 1 (by omega), hR _ _ (n31 _ (by decide) (by decide)), hA 4 (by decide), e3]
    refine (x8 k hk).imp id fun z => ⟨z.1, z.2.1, deskM_fr hMf (fun _ z => z) A (fun t => hR _ _ fun z => ?_) z.2.2.1, z.2.2.2⟩
    have := (x1'.a (r := 31) (t := 5) (n := 16) rfl).1
    rw [← z, x2.1] at this
    cases this
end RO
