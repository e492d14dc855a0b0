set_option maxRecDepth 100000
/-! ===== orders: steps laid aside and taken back ===== -/
/-- the steps of r1 have become as those of the other row were -/
def a3W (L : Nat → Nat) (r1 B C c : Nat) (s s' : tM) : Prop := s'.1 = s.1 ∧ s'.2.2.2 = s.2.2.2 ∧ s'.2.2.1 = s.2.2.1 ∧ (∀ a, a ≠ L r1 → (∀ k, k < 16 → a ≠ L (B + k) ∧ a ≠ L (200 + (B + k)) ∧ a ≠ L (400 + (B + k))) → s'.2.1 a = s.2.1 a) ∧ tI s' (L r1) 1 = nI c ∧ ∀ k, k < c → (∀ j, j < 12 → tI s' (L (200 + (B + k))) j = tI s (L (200 + (C + k))) j ∧ tI s' (L (400 + (B + k))) j = tI s (L (400 + (C + k))) j) ∧ tI s' (L (B + k)) 2 = tI s (L (C + k)) 2 ∧ tI s' (L (B + k)) 3 = tI s (L (C + k)) 3
/-- which row is copied into which -/
def dir3 (r1 r2 B C : Nat) : Prop := (r1 = 2 ∧ r2 = 3 ∧ B = 100 ∧ C = 120) ∨ (r1 = 3 ∧ r2 = 2 ∧ B = 120 ∧ C = 100)
section A3
variable {N : tP} {s s0 s' : tM} {L : Nat → Nat} {M O A : Nat → Prop} {m m' : mS} {r1 r2 B C c : Nat}
theorem dir3_bk (h : dir3 r1 r2 B C) {k : Nat} (hk : k < 16) : isBk (B + k) ∧ isBk (C + k) := by
  rcases h with ⟨-, -, rfl, rfl⟩ | ⟨-, -, rfl, rfl⟩
  · exact ⟨Or.inr (Or.inr (Or.inr (Or.inr (Or.inl (by omega))))), Or.inr (Or.inr (Or.inr (Or.inr (Or.inr (by omega)))))⟩
  · exact ⟨Or.inr (Or.inr (Or.inr (Or.inr (Or.inr (by omega))))), Or.inr (Or.inr (Or.inr (Or.inr (Or.inl (by omega)))))⟩
/-- as far as k -/
def a3I (L : Nat → Nat) (B C : Nat) (s0 s : tM) (k : Nat) : Prop := s.1 = s0.1 ∧ s.2.2.2 = s0.2.2.2 ∧ s.2.2.1 = s0.2.2.1 ∧ (∀ a, (∀ k, k < 16 → a ≠ L (B + k) ∧ a ≠ L (200 + (B + k)) ∧ a ≠ L (400 + (B + k))) → s.2.1 a = s0.2.1 a) ∧ ∀ i, i < k → (∀ j, j < 12 → tI s (L (200 + (B + i))) j = tI s0 (L (200 + (C + i))) j ∧ tI s (L (400 + (B + i))) j = tI s0 (L (400 + (C + i))) j) ∧ tI s (L (B + i)) 2 = tI s0 (L (C + i)) 2 ∧ tI s (L (B + i)) 3 = tI s0 (L (C + i)) 3
theorem v_as3L (hd : dir3 r1 r2 B C) (hS : RS s0 L A) (hc : c ≤ 16) (h1 : tI s0 (L r1) 1 = nI c) {Kr K : tM → Prop} (hK : ∀ s, a3I L B C s0 s c → K s) : ∀ (f t k : Nat) (s : tM), k + f = c → f < t → a3I L B C s0 s k → v_X3_as_10 N (L r1) (L r2) Kr K t (nI k) s
  | _, 0, _, _, _, h, _ => absurd h (Nat.not_lt_zero _)
  | f, t + 1, k, s, hf, ht, hI => by
    have hI' := hI
    obtain ⟨i1, i2, i3, i4, i5⟩ := hI'
    have hS' : RS s L A := by
      refine ⟨fun r c hr => by rw [i1]; exact hS.1 r c hr, hS.2.1, ?_, fun a ha => by rw [i1]; exact hS.2.2.2 a ha⟩
      have e : ∀ a j, tR s a j = tR s0 a j := fun a j => by
        show s.2.2.2 a j = _
        rw [i2]
      have := hS.2.2.1
      unfold rsR at this ⊢
      simp only [e]
      exact this
    have sh : shp r1 = some (.inl 3) ∧ shp r2 = some (.inl 3) ∧ r1 < 100 := by
      rcases hd with ⟨rfl, rfl, -, -⟩ | ⟨rfl, rfl, -, -⟩ <;> exact ⟨rfl, rfl, by decide⟩
    have e1 : tI s (L r1) 1 = nI c := by
      refine Eq.trans (congrFun (i4 (L r1) fun k hk => ?_) 1) h1
      obtain ⟨b1, b2, b3⟩ := shp_bk (dir3_bk hd hk).1
      have hB : B = 100 ∨ B = 120 := by
        rcases hd with ⟨-, -, rfl, -⟩ | ⟨-, -, rfl, -⟩
        · exact Or.inl rfl
        · exact Or.inr rfl
      exact ⟨hS.ne (shp_some sh.1) (shp_some b1) (by omega), hS.ne (shp_some sh.1) (shp_some b2) (by omega), hS.ne (shp_some sh.1) (shp_some b3) (by omega)⟩
    unfold v_X3_as_10
    rw [e1, nI_lle (by omega) (by omega)]
    refine ⟨hS'.o sh.1, fun z => ?_, fun z => ?_⟩
    · have : k = c := by omega
      subst this
      exact hK s hI
    · have hk : k < 16 := by omega
      obtain ⟨bB, bC⟩ := dir3_bk hd hk
      have rr : ∃ q1 q2, tR s (L r1) 0 = L q1 ∧ tR s (L r2) 0 = L q2 ∧ shp q1 = some (.inr (5, 16)) ∧ shp q2 = some (.inr (5, 16)) ∧ tR s (L q1) k = L (B + k) ∧ tR s (L q2) k = L (C + k) := by
        have h3 := hS'.2.2.1.2.2.1 k hk
        have t2 := hS'.t (r := 2) (j := 0) (q := 31) (by decide)
        have t3 := hS'.t (r := 3) (j := 0) (q := 32) (by decide)
        rcases hd with ⟨rfl, rfl, rfl, rfl⟩ | ⟨rfl, rfl, rfl, rfl⟩
        · exact ⟨31, 32, t2, t3, rfl, rfl, h3.1, h3.2⟩
        · exact ⟨32, 31, t3, t2, rfl, rfl, h3.2, h3.1⟩
      obtain ⟨q1, q2, w1, w2, w3, w4, w5, w6⟩ := rr
      rw [w1, w2, nI_clamp (by omega), w5, w6]
      refine ⟨⟨16, hS'.a w3, vpk hk (by decide)⟩, hS'.o sh.2.1, ⟨16, hS'.a w4, vpk hk (by decide)⟩, hS'.o (shp_bk bB).1, v_asS hS' bB bC (fun s2 hB2 x hx => ?_)⟩
      rw [nI_1] at hx
      rw [hx]
      obtain ⟨g1, g2, g3, g4, g5, g6, g7, g8⟩ := hB2
      have hBC : (B = 100 ∧ C = 120) ∨ (B = 120 ∧ C = 100) := by
        rcases hd with ⟨-, -, rfl, rfl⟩ | ⟨-, -, rfl, rfl⟩
        · exact Or.inl ⟨rfl, rfl⟩
        · exact Or.inr ⟨rfl, rfl⟩
      obtain ⟨b1, b2, b3⟩ := shp_bk bB
      -- cells of the other row are as at first
      have oC : ∀ i, i < 16 → s.2.1 (L (C + i)) = s0.2.1 (L (C + i)) ∧ s.2.1 (L (200 + (C + i))) = s0.2.1 (L (200 + (C + i))) ∧ s.2.1 (L (400 + (C + i))) = s0.2.1 (L (400 + (C + i))) := fun i hi => by
        obtain ⟨d1, d2, d3⟩ := shp_bk (dir3_bk hd hi).2
        refine ⟨i4 _ fun u hu => ?_, i4 _ fun u hu => ?_, i4 _ fun u hu => ?_⟩
        all_goals
          obtain ⟨b1, b2, b3⟩ := shp_bk (dir3_bk hd hu).1
          refine ⟨hS.ne (by first | exact shp_some d1 | exact shp_some d2 | exact shp_some d3) (shp_some b1) (by omega), hS.ne (by first | exact shp_some d1 | exact shp_some d2 | exact shp_some d3) (shp_some b2) (by omega), hS.ne (by first | exact shp_some d1 | exact shp_some d2 | exact shp_some d3) (shp_some b3) (by omega)⟩
      have nb : ∀ r, shp r ≠ none → r ≠ B + k → r ≠ 200 + (B + k) → r ≠ 400 + (B + k) → s2.2.1 (L r) = s.2.1 (L r) := fun r hr h1 h2 h3 => g4 _ (hS.ne hr (shp_some b2) h2) (hS.ne hr (shp_some b3) h3) (hS.ne hr (shp_some b1) h1)
      refine v_as3L hd hS hc h1 hK (f - 1) t (k + 1) s2 (by omega) (by omega) ⟨g1.trans i1, g2.trans i2, g3.trans i3, fun a ha => ?_, fun i hi => ?_⟩
      · obtain ⟨n1, n2, n3⟩ := ha k hk
        exact (g4 a n2 n3 n1).trans (i4 a ha)
      · obtain ⟨c1, c2, c3⟩ := oC k hk
        by_cases ei : i = k
        · subst ei
          refine ⟨fun j hj => ?_, ?_, ?_⟩
          · obtain ⟨a1, a2⟩ := g6 j hj
            exact ⟨a1.trans (congrFun c2 j), a2.trans (congrFun c3 j)⟩
          · exact g7.trans (congrFun c1 2)
          · exact g8.trans (congrFun c1 3)
        · obtain ⟨a1, a2, a3⟩ := i5 i (by omega)
          obtain ⟨d1, d2, d3⟩ := shp_bk (dir3_bk hd (k := i) (by omega)).1
          have e1 := nb (B + i) (shp_some d1) (by omega) (by omega) (by omega)
          have e2 := nb (200 + (B + i)) (shp_some d2) (by omega) (by omega) (by omega)
          have e3 := nb (400 + (B + i)) (shp_some d3) (by omega) (by omega) (by omega)
          refine ⟨fun j hj => ⟨(congrFun e2 j).trans (a1 j hj).1, (congrFun e3 j).trans (a1 j hj).2⟩, (congrFun e1 2).trans a2, (congrFun e1 3).trans a3⟩
theorem v_as3S (hd : dir3 r1 r2 B C) (hS : RS s L A) (hc : c ≤ 16) (h2 : tI s (L r2) 1 = nI c) (hN : 17 ≤ N.1) {K : tM → Prop} (hK : ∀ s', a3W L r1 B C c s s' → K s') : v_X3_as N (L r1) (L r2) s K := by
  have sh : shp r1 = some (.inl 3) ∧ shp r2 = some (.inl 3) ∧ r1 < 100 ∧ r2 < 100 ∧ r1 ≠ r2 := by
    rcases hd with ⟨rfl, rfl, -, -⟩ | ⟨rfl, rfl, -, -⟩ <;> exact ⟨rfl, rfl, by decide, by decide, by decide⟩
  have hB : (B = 100 ∨ B = 120) ∧ (C = 100 ∨ C = 120) := by
    rcases hd with ⟨-, -, rfl, rfl⟩ | ⟨-, -, rfl, rfl⟩
    · exact ⟨Or.inl rfl, Or.inr rfl⟩
    · exact ⟨Or.inr rfl, Or.inl rfl⟩
  unfold v_X3_as
  refine ⟨hS.o sh.2.1, hS.o sh.1, fun s1 e1 => ?_⟩
  rw [h2] at e1
  have S1 : RS s1 L A := by
    rw [e1]
    exact hS.i rfl rfl
  have i1 : tI s1 (L r1) 1 = nI c := by
    rw [e1]
    exact if_pos ⟨rfl, rfl⟩
  have o1 : ∀ r j, shp r ≠ none → r ≠ r1 → tI s1 (L r) j = tI s (L r) j := fun r j hr hn => by
    rw [e1]
    exact if_neg fun z => hS.ne hr (shp_some sh.1) hn z.1
  refine v_as3L hd S1 hc i1 (fun s2 hI => hK s2 ?_) c N.1 0 s1 (by omega) (by omega) ⟨rfl, rfl, rfl, fun _ _ => rfl, fun i hi => absurd hi (Nat.not_lt_zero _)⟩
  obtain ⟨g1, g2, g3, g4, g5⟩ := hI
  refine ⟨by rw [g1, e1]; rfl, by rw [g2, e1]; rfl, by rw [g3, e1]; rfl, fun a h1 h3 => (g4 a h3).trans ?_, ?_, fun k hk => ?_⟩
  · rw [e1]
    exact funext fun j => if_neg fun z => h1 z.1
  · refine Eq.trans (congrFun (g4 (L r1) fun k hk => ?_) 1) i1
    obtain ⟨b1, b2, b3⟩ := shp_bk (dir3_bk hd hk).1
    exact ⟨hS.ne (shp_some sh.1) (shp_some b1) (by omega), hS.ne (shp_some sh.1) (shp_some b2) (by omega), hS.ne (shp_some sh.1) (shp_some b3) (by omega)⟩
  · obtain ⟨a1, a2, a3⟩ := g5 k hk
    obtain ⟨d1, d2, d3⟩ := shp_bk (dir3_bk hd (k := k) (by omega)).2
    have f1 : ∀ j, tI s1 (L (C + k)) j = tI s (L (C + k)) j := fun j => o1 _ j (shp_some d1) (by omega)
    have f2 : ∀ j, tI s1 (L (200 + (C + k))) j = tI s (L (200 + (C + k))) j := fun j => o1 _ j (shp_some d2) (by omega)
    have f3 : ∀ j, tI s1 (L (400 + (C + k))) j = tI s (L (400 + (C + k))) j := fun j => o1 _ j (shp_some d3) (by omega)
    exact ⟨fun j hj => ⟨(a1 j hj).1.trans (f2 j), (a1 j hj).2.trans (f3 j)⟩, a2.trans (f1 2), a3.trans (f1 3)⟩
theorem a3W_off (hS : RS s L A) (hd : dir3 r1 r2 B C) (h : a3W L r1 B C c s s') {r : Nat} (hr : shp r ≠ none) (h1 : r ≠ r1) (h2 : ¬ (B ≤ r ∧ r < B + 16)) (h3 : ¬ (200 + B ≤ r ∧ r < 200 + B + 16)) (h4 : ¬ (400 + B ≤ r ∧ r < 400 + B + 16)) : s'.2.1 (L r) = s.2.1 (L r) := by
  have sh : shp r1 = some (.inl 3) := by
    rcases hd with ⟨rfl, -, -, -⟩ | ⟨rfl, -, -, -⟩ <;> rfl
  refine h.2.2.2.1 _ (hS.ne hr (shp_some sh) h1) fun k hk => ?_
  obtain ⟨b1, b2, b3⟩ := shp_bk (dir3_bk hd hk).1
  exact ⟨hS.ne hr (shp_some b1) (by omega), hS.ne hr (shp_some b2) (by omega), hS.ne hr (shp_some b3) (by omega)⟩
theorem a3W_M (hS : RS s L A) (hd : dir3 r1 r2 B C) (h : a3W L r1 B C c s s') : frM A s s' := by
  have sh : shp r1 = some (.inl 3) := by
    rcases hd with ⟨rfl, -, -, -⟩ | ⟨rfl, -, -, -⟩ <;> rfl
  refine ⟨fun a ha => ⟨by rw [h.1], h.2.2.2.1 a (fun z => hS.nM (shp_some sh) (z ▸ ha)) (fun k hk => ?_), by rw [h.2.1]⟩, fun a _ _ => by rw [h.2.2.1]⟩
  obtain ⟨b1, b2, b3⟩ := shp_bk (dir3_bk hd hk).1
  exact ⟨fun z => hS.nM (shp_some b1) (z ▸ ha), fun z => hS.nM (shp_some b2) (z ▸ ha), fun z => hS.nM (shp_some b3) (z ▸ ha)⟩
theorem RX.save (hX : RX N s L M O m) (h : a3W L 3 120 100 c s s') : RX N s' L M O m ∧ frM O s s' := by
  have hd : dir3 3 2 120 100 := Or.inr ⟨rfl, rfl, rfl, rfl⟩
  have hf := a3W_M hX.1 hd h
  refine ⟨hX.g2 h.1 h.2.1 (fun r j hr hl => ?_) (frM_s hf fun _ => Or.inl).1, frM_s hf fun _ => Or.inr⟩
  have hr2 : r = 444 ∨ r = 244 ∨ r = 44 ∨ (50 ≤ r ∧ r < 56) ∨ r = 42 ∨ r = 40 ∨ r = 9 ∨ r = 0 ∨ r = 14 ∨ r = 226 ∨ r = 426 ∨ r = 2 ∨ 100 ≤ r ∧ r < 116 ∨ 300 ≤ r ∧ r < 316 ∨ 500 ≤ r ∧ r < 516 ∨ r = 41 := by
    rcases hl with ⟨p, h⟩ | h | h | h | h
    · have := loc_r h
      omega
    all_goals omega
  exact congrFun (a3W_off hX.1 hd h hr (by omega) (by omega) (by omega) (by omega)) j
/-- the steps taken back -/
theorem RX.rest (hX : RX N s L M O m) (h : a3W L 2 100 120 c s s') (hc : c ≤ 16) {f row : Nat → Int32} (hs : ∀ k, k < c → (∀ j, j < 12 → tI s (L (320 + k)) j = f (26 * k + 12 + j) ∧ tI s (L (520 + k)) j = f (26 * k + j)) ∧ tI s (L (120 + k)) 2 = f (26 * k + 24) ∧ tI s (L (120 + k)) 3 = f (26 * k + 25)) (hp : ∀ k, k < c → (∀ j, j < 12 → pI (f (26 * k + j)) ∧ pI (f (26 * k + 12 + j))) ∧ (0 ≤ (f (26 * k + 24)).toInt ∧ (f (26 * k + 24)).toInt ≤ 999) ∧ ∃ w, w < 4 ∧ f (26 * k + 25) = nI w) (hrow : ∀ i, i < 416 → row i = f i) : RX N s' L M O (mF (sA m 31 row) 33 (nI c)) ∧ frM O s s' := by
  have hd : dir3 2 3 100 120 := Or.inl ⟨rfl, rfl, rfl, rfl⟩
  have hf := a3W_M hX.1 hd h
  have off : ∀ r j, shp r ≠ none → r ≠ 2 → ¬ (100 ≤ r ∧ r < 116) → ¬ (300 ≤ r ∧ r < 316) → ¬ (500 ≤ r ∧ r < 516) → tI s' (L r) j = tI s (L r) j := fun r j hr h1 h2 h3 h4 => congrFun (a3W_off hX.1 hd h hr h1 (by omega) (by omega) (by omega)) j
  have F1 : ∀ j, j ≠ 33 → (mF (sA m 31 row) 33 (nI c)).1 j = m.1 j := fun j hj => if_neg hj
  have A1 : ∀ q, q ≠ 31 → (mF (sA m 31 row) 33 (nI c)).2.1 q = m.2.1 q := fun q hq => sA_o _ _ hq
  have A31 : (mF (sA m 31 row) 33 (nI c)).2.1 31 = row := sA_at _ _ _
  refine ⟨hX.mk h.1 h.2.1 (frM_s hf fun _ => Or.inl).1 (fun j => off 41 j (by decide) (by decide) (by omega) (by omega) (by omega)) (fun r j q i hl => ?_) ?_ (fun i _ => congrFun (A1 2 (by decide)) i) (congrFun (A1 2 (by decide)) 43) (A1 3 (by decide)) (A1 4 (by decide)) (invM_e hX.I F1 A1), frM_s hf fun _ => Or.inr⟩
  · have hr := loc_r hl
    by_cases c2 : q = 60 ∧ i = 33
    · have := loc_i hl
      rw [c2.1, c2.2] at this
      have er : r = 2 := (congrArg Prod.fst this).symm
      have ej : j = 1 := (congrArg Prod.snd this).symm
      rw [er, ej, c2.1, c2.2]
      exact h.2.2.2.2.1
    · have h2 := loc_2 hl
      rw [rd_e F1 A1 c2 (by omega), ← hX.R r j q i hl]
      by_cases e2 : r = 2
      · subst e2
        unfold loc at hl
        simp at hl
        exact absurd ⟨hl.2.1.symm, hl.2.2.symm⟩ c2
      · exact off r j (loc_u hl) e2 (by omega) (by omega) (by omega)
  · refine ⟨c, hc, rfl, fun k hk => ?_⟩
    obtain ⟨a1, a2, a3⟩ := h.2.2.2.2.2 k hk
    obtain ⟨b1, b2, b3⟩ := hs k hk
    obtain ⟨p1, p2, p3⟩ := hp k hk
    rw [A31, hrow _ (by omega), hrow _ (by omega)]
    refine ⟨fun j hj => ?_, ?_, p2, ?_, p3⟩
    · rw [hrow _ (by omega), hrow _ (by omega)]
      have := a1 j hj
      rw [show 200 + (100 + k) = 300 + k by omega, show 200 + (120 + k) = 320 + k by omega, show 400 + (100 + k) = 500 + k by omega, show 400 + (120 + k) = 520 + k by omega] at this
      exact ⟨this.1.trans (b1 j hj).1, this.2.trans (b1 j hj).2, (p1 j hj).1, (p1 j hj).2⟩
    · exact a2.trans b2
    · exact a3.trans b3
theorem RX.newO (hX : RX N s L M O m) (h : extN N s s') : RX N s' L M (fun a => O a ∨ (s.1 a = none ∧ s'.1 a ≠ none)) m := by
  have hX' := hX.ex h
  have ho : ∀ {r : Nat}, shp r ≠ none → s.1 (L r) ≠ none := fun {r} e => hX.1.al e
  have hex : tR s' (L 41) 1 = N.2.2 200 ∨ s.1 (tR s' (L 41) 1) ≠ none := by
    have e : tR s' (L 41) 1 = tR s (L 41) 1 := congrFun (h _ (Or.inl (ho (r := 41) (by decide)))).2.2.2 1
    obtain ⟨told, -, -, -, t4, -⟩ := hX.2.2.2.2.2.1.2
    rw [e]
    rcases t4 with ⟨-, t4⟩ | t4
    · exact Or.inl t4
    · exact Or.inr (al_A t4)
  obtain ⟨⟨k1, k2, k3, k4⟩, x2, x3, x4, x5, ⟨x6, x7⟩, x8, x9⟩ := hX'
  refine ⟨⟨fun r c hr => ⟨(k1 r c hr).1, (k1 r c hr).2.1, fun z => ?_⟩, k2, k3, fun a ha => ?_⟩, ⟨x2.1, fun a ha z => ?_⟩, x3, x4, x5, ⟨?_, x7⟩, x8, x9⟩
  · rcases z with z | z | z
    · exact (k1 r c hr).2.2 (Or.inl z)
    · exact (k1 r c hr).2.2 (Or.inr z)
    · exact ho (shp_some hr) z.1
  · rcases ha with z | z | z
    · exact k4 a (Or.inl z)
    · exact k4 a (Or.inr z)
    · exact z.2
  · rcases ha with y | y
    · exact x2.2 a y z
    · exact hX.1.2.2.2 a (Or.inl z) y.1
  · rcases hex with z | z
    · exact Or.inl z
    · refine x6.imp id fun w y => ?_
      rcases y with y | y | y
      · exact w (Or.inl y)
      · exact w (Or.inr y)
      · exact z y.1
/-- the text of orders laid in the kept row: nothing else sees it -/
theorem RX.t6 (hX : RX N s L M O m) {T : Nat} {cd vl : Nat → Int32} (hT : T ≤ 400) : RX N s L M O (sA m 2 (layK (m.2.1 2) 6 T cd vl)) := by
  have lo : ∀ i, i < 51 → layK (m.2.1 2) 6 T cd vl i = m.2.1 2 i := fun i hi => by
    unfold layK
    rw [if_neg (by omega), if_neg (by omega), if_neg (by omega)]
  have A1 : ∀ q, q ≠ 2 → (sA m 2 (layK (m.2.1 2) 6 T cd vl)).2.1 q = m.2.1 q := fun q hq => sA_o _ _ hq
  have A2 : ∀ i, i < 51 → (sA m 2 (layK (m.2.1 2) 6 T cd vl)).2.1 2 i = m.2.1 2 i := fun i hi => (congrFun (sA_at _ _ _) i).trans (lo i hi)
  have tx : ∀ t cls, t < 6 → txOK (m.2.1 2) t cls → txOK ((sA m 2 (layK (m.2.1 2) 6 T cd vl)).2.1 2) t cls := fun t cls ht h => by
    rw [sA_at]
    have mid : ∀ i, (52 ≤ i ∧ i < 2452) ∨ (2852 ≤ i ∧ i < 5252) → layK (m.2.1 2) 6 T cd vl i = m.2.1 2 i := fun i hi => by
      unfold layK
      rw [if_neg (by omega), if_neg (by omega), if_neg (by omega)]
    have e1 : txT (layK (m.2.1 2) 6 T cd vl) t = txT (m.2.1 2) t := by
      unfold txT
      rw [lo _ (by omega)]
    obtain ⟨h1, h2, h3, h4⟩ := h
    have eC : txC (layK (m.2.1 2) 6 T cd vl) t = txC (m.2.1 2) t := funext fun k => by
      unfold txC
      rw [e1]
      by_cases hk : k < txT (m.2.1 2) t
      · rw [if_pos hk, if_pos hk]
        exact mid _ (by omega)
      · rw [if_neg hk, if_neg hk]
    have eV : txV (layK (m.2.1 2) 6 T cd vl) t = txV (m.2.1 2) t := funext fun k => by
      unfold txV
      rw [e1]
      by_cases hk : k < txT (m.2.1 2) t
      · rw [if_pos hk, if_pos hk]
        exact mid _ (by omega)
      · rw [if_neg hk, if_neg hk]
    unfold txOK
    rw [e1, eC, eV, lo _ (by omega)]
    exact ⟨h1, h2, h3, h4⟩
  obtain ⟨x1, x2, x3, x4, x5, ⟨x6, x7⟩, x8, x9⟩ := hX
  refine ⟨x1, x2, x3, fun r j q i hl => ?_, ?_, ⟨x6, ?_⟩, fun k hk => ?_, ?_⟩
  · rw [x4 r j q i hl, rd_A (by decide)]
    by_cases e : q = 2
    · rw [if_pos e, lo i (by have := (loc_2 hl).2 e; omega)]
      unfold rd
      rw [if_neg (by omega), e]
    · rw [if_neg e]
  · obtain ⟨n, n1, n2, n3⟩ := x5
    refine ⟨n, n1, n2, fun k hk => ?_⟩
    rw [A1 31 (by decide)]
    exact n3 k hk
  · obtain ⟨told, t1, t2, t3, t4, t5⟩ := x7
    refine ⟨told, t1, (A2 43 (by decide)).trans t2, t3, t4, fun t ht => ?_⟩
    obtain ⟨cls, c1, c2⟩ := t5 t ht
    exact ⟨cls, tx t cls (by omega) c1, c2⟩
  · rw [A1 4 (by decide), show imK (sA m 2 (layK (m.2.1 2) 6 T cd vl)) k = imK m k by unfold imK; rw [A1 3 (by decide)]]
    exact x8 k hk
  · obtain ⟨⟨⟨p1, p2, p3⟩, pb, pc, pd, pe, pf, pg, told, t1, t2, t3⟩, q2, q3, q4, q5⟩ := x9
    unfold invM wdOK
    rw [A1 11 (by decide), A1 7 (by decide)]
    refine ⟨⟨⟨fun i hi => ?_, ?_, ?_⟩, ?_, ?_, ?_, ?_, ?_, fun i hi => ?_, told, t1, ?_, ?_⟩, q2, q3, q4, q5⟩
    all_goals rw [A2 _ (by omega)]
    · exact p1 i hi
    · exact p2
    · exact p3
    · exact pb
    · exact pc
    · exact pd
    · exact pe
    · exact pf
    · exact pg i hi
    · exact t2
    · exact t3
end A3
section A3W
variable {N : Nat × Nat} {m : mS}
theorem w_tkbF {a : Nat} (ha : a < 2) {sv : Nat → Int32} (hs : ∀ j, j < 25 → m.2.1 5 (25 * a + j) = sv j) {Kr K : mS → Prop} (hK : K (sA m 2 (fun i => if i < 25 then sv i else m.2.1 2 i))) : ∀ (c t j : Nat) (m1 : mS), m1 = sA m 2 (fun i => if i < j then sv i else m.2.1 2 i) → j + c = 25 → c < t → w_takesBack_2 N (nI a) Kr K t (nI j) m1
  | _, 0, _, _, _, _, h => absurd h (Nat.not_lt_zero _)
  | 0, t + 1, j, m1, h1, hj, _ => by
    unfold w_takesBack_2
    have : j = 25 := by omega
    subst this
    refine ⟨fun _ => ?_, fun z => absurd (nI_le (Nat.le_refl 25) (by omega)) z⟩
    rw [h1]
    exact hK
  | c + 1, t + 1, j, m1, h1, hj, ht => by
    have e25 : (25 : Int32) * nI a + nI j = nI (25 * a + j) := by
      rw [show (25 : Int32) * nI a = nI (25 * a) from pk_mul 25 a, nI_add]
    unfold w_takesBack_2
    rw [e25, show (25 : Int32) = nI 25 from rfl, nI_lle (by omega) (by omega), mAt_n (by omega)]
    have h5 : m1.2.1 5 (25 * a + j) = sv j := by
      rw [h1, sA_o _ _ (by decide)]
      exact hs j (by omega)
    rw [h5]
    refine ⟨fun z => by omega, fun _ => ⟨vpk (by omega) (by decide), vpk (by omega) (by decide), fun m2 e2 y hy => ?_⟩⟩
    rw [hy, nI_1]
    refine w_tkbF ha hs hK c t (j + 1) m2 ?_ (by omega) (by omega)
    rw [e2, h1]
    refine Prod.ext rfl (Prod.ext (funext fun q => ?_) rfl)
    by_cases e : q = 2
    · subst e
      funext i
      show (mI (sA m 2 _) 2 (nI j) (sv j)).2.1 2 i = (sA m 2 _).2.1 2 i
      rw [mI_at _ _ _ (by omega), sA_at, sA_at]
      by_cases c1 : i = j
      · rw [if_pos c1, if_pos (by omega), c1]
      · rw [if_neg c1]
        by_cases c2 : i < j
        · rw [if_pos c2, if_pos (by omega)]
        · rw [if_neg c2, if_neg (by omega)]
    · show (mI (sA m 2 _) 2 (nI j) (sv j)).2.1 q = (sA m 2 _).2.1 q
      rw [mI_o _ _ _ e, sA_o _ _ e, sA_o _ _ e]
/-- a row copied: the steps laid aside -/
theorem w_o27 {Kr : Int32 → mS → Prop} {K : mS → Prop} (hK : K (sA m 32 (fun i => if i < 416 then m.2.1 31 i else m.2.1 32 i))) : ∀ (c t j : Nat) (m1 : mS), m1 = sA m 32 (fun i => if i < j then m.2.1 31 i else m.2.1 32 i) → j + c = 416 → c < t → w_orders_27 N Kr K t (nI j) m1
  | _, 0, _, _, _, _, h => absurd h (Nat.not_lt_zero _)
  | 0, t + 1, j, m1, h1, hj, _ => by
    unfold w_orders_27
    have : j = 416 := by omega
    subst this
    refine ⟨fun _ => ?_, fun z => absurd (nI_le (Nat.le_refl 416) (by omega)) z⟩
    rw [h1]
    exact hK
  | c + 1, t + 1, j, m1, h1, hj, ht => by
    unfold w_orders_27
    rw [show (416 : Int32) = nI 416 from rfl, nI_lle (by omega) (by omega), mAt_n (by omega)]
    have h5 : m1.2.1 31 j = m.2.1 31 j := by
      rw [h1, sA_o _ _ (by decide)]
    rw [h5]
    refine ⟨fun z => by omega, fun _ => ⟨vpk (by omega) (by decide), vpk (by omega) (by decide), fun m2 e2 y hy => ?_⟩⟩
    rw [hy, nI_1]
    refine w_o27 hK c t (j + 1) m2 ?_ (by omega) (by omega)
    rw [e2, h1]
    exact sA_step (F := m.2.1 31) (B := m.2.1 32) (by omega)
theorem w_o122 {f : Nat → Int32} (hs : ∀ i, i < 416 → m.2.1 32 i = f i) {x1 x3 : Int32} {Kr : Int32 → mS → Prop} {K : mS → Prop} (hK : K (sA m 31 (fun i => if i < 416 then f i else m.2.1 31 i))) : ∀ (c t j : Nat) (m1 : mS), m1 = sA m 31 (fun i => if i < j then f i else m.2.1 31 i) → j + c = 416 → c < t → w_orders_122 N x1 x3 Kr K t (nI j) m1
  | _, 0, _, _, _, _, h => absurd h (Nat.not_lt_zero _)
  | 0, t + 1, j, m1, h1, hj, _ => by
    unfold w_orders_122
    have : j = 416 := by omega
    subst this
    refine ⟨fun _ => ?_, fun z => absurd (nI_le (Nat.le_refl 416) (by omega)) z⟩
    rw [h1]
    exact hK
  | c + 1, t + 1, j, m1, h1, hj, ht => by
    unfold w_orders_122
    rw [show (416 : Int32) = nI 416 from rfl, nI_lle (by omega) (by omega), mAt_n (by omega)]
    have h5 : m1.2.1 32 j = f j := by
      rw [h1, sA_o _ _ (by decide)]
      exact hs j (by omega)
    rw [h5]
    refine ⟨fun z => by omega, fun _ => ⟨vpk (by omega) (by decide), vpk (by omega) (by decide), fun m2 e2 y hy => ?_⟩⟩
    rw [hy, nI_1]
    refine w_o122 hs hK c t (j + 1) m2 ?_ (by omega) (by omega)
    rw [e2, h1]
    exact sA_step (F := f) (B := m.2.1 31) (by omega)
end A3W
