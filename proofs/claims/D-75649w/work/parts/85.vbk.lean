set_option maxRecDepth 100000
/-! ===== books laid aside, and taken back ===== -/
section BK
variable {N : tP} {s s' : tM} {L : Nat → Nat} {M O : Nat → Prop} {m m' : mS} {b c : Nat}
theorem bk_off (hS : RS s L M) (hb : isBk b) (hB : bkW L b c s s') {r : Nat} (hr : shp r ≠ none) (h1 : r ≠ b) (h2 : r ≠ 200 + b) (h3 : r ≠ 400 + b) : s'.2.1 (L r) = s.2.1 (L r) := by
  obtain ⟨sb, sbu, sbh⟩ := shp_bk hb
  exact hB.2.2.2.1 _ (hS.ne hr (shp_some sbu) h2) (hS.ne hr (shp_some sbh) h3) (hS.ne hr (shp_some sb) h1)
theorem bk_M (hS : RS s L M) (hb : isBk b) (hB : bkW L b c s s') : frM M s s' := by
  obtain ⟨sb, sbu, sbh⟩ := shp_bk hb
  exact ⟨fun a ha => ⟨by rw [hB.1], hB.2.2.2.1 a (fun z => hS.nM (shp_some sbu) (z ▸ ha)) (fun z => hS.nM (shp_some sbh) (z ▸ ha)) (fun z => hS.nM (shp_some sb) (z ▸ ha)), by rw [hB.2.1]⟩, fun a _ _ => by rw [hB.2.2.1]⟩
theorem RX.bkG (hX : RX N s L M O m) (hb : isBk b) (hB : bkW L b c s s') (hR : Rel s' L m') (hU : undR s' L m') (hk : ∀ i, 45 ≤ i → m'.2.1 2 i = m.2.1 2 i) (hk2 : m'.2.1 2 43 = m.2.1 2 43) (h3 : m'.2.1 3 = m.2.1 3) (h4 : m'.2.1 4 = m.2.1 4) (hI : invM m') : RX N s' L M O m' ∧ frM O s s' := by
  have hb2 := isBk_lt hb
  have hM := bk_M hX.1 hb hB
  refine ⟨hX.mk hB.1 hB.2.1 (frM_s hM (fun _ => Or.inl)).1 (fun j => congrFun (bk_off hX.1 hb hB (by decide) ?_ (by omega) (by omega)) j) hR hU hk hk2 h3 h4 hI, frM_s hM (fun _ => Or.inr)⟩
  rcases hb with rfl | rfl | rfl | rfl | h | h <;> omega
theorem undR_o (h : undR s L m) (hS : RS s L M) (hI : ∀ r, shp r ≠ none → (100 ≤ r ∧ r < 116 ∨ 300 ≤ r ∧ r < 316 ∨ 500 ≤ r ∧ r < 516) → s'.2.1 (L r) = s.2.1 (L r)) (h33 : m'.1 33 = m.1 33) (h31 : m'.2.1 31 = m.2.1 31) : undR s' L m' := by
  obtain ⟨n, n1, n2, n3⟩ := h
  refine ⟨n, n1, h33.trans n2, fun k hk => ?_⟩
  obtain ⟨u1, u3, u5⟩ := shp100 (k := k) (by omega)
  obtain ⟨k1, k2, k3, k4, k5⟩ := n3 k hk
  rw [h31]
  unfold tI at k1 k2 k4 ⊢
  rw [hI _ u1 (by omega), hI _ u3 (by omega), hI _ u5 (by omega)]
  exact ⟨k1, k2, k3, k4, k5⟩
/-- a book that the relation doesn't look at -/
theorem RX.bk5 (hX : RX N s L M O m) (hb : b = 4 ∨ b = 5 ∨ (120 ≤ b ∧ b < 136)) (hB : bkW L b c s s') : RX N s' L M O m ∧ frM O s s' := by
  have hb1 : isBk b := by
    unfold isBk
    omega
  refine hX.bkG hb1 hB (hX.R.f fun r j p hr => ?_) (undR_o hX.2.2.2.2.1 hX.1 (fun r hr h => bk_off hX.1 hb1 hB hr (by omega) (by omega) (by omega)) rfl rfl) (fun _ _ => rfl) rfl rfl rfl hX.I
  have := loc_r hr
  exact congrFun (bk_off hX.1 hb1 hB (loc_u hr) (by omega) (by omega) (by omega)) j
theorem loc_lt {r j q i : Nat} (h : loc r j = some (q, i)) (hq : q = 2) : (i < 25 → r = 444 ∨ r = 244 ∨ r = 44) ∧ (25 ≤ i → r ≠ 444 ∧ r ≠ 244 ∧ r ≠ 44) := by
  have hi := loc_i h
  subst hq
  unfold loi at hi
  rw [if_pos rfl] at hi
  by_cases d1 : i < 12
  · rw [if_pos d1] at hi
    have := congrArg Prod.fst hi
    dsimp only at this
    omega
  · rw [if_neg d1] at hi
    by_cases d2 : i < 24
    · rw [if_pos d2] at hi
      have := congrArg Prod.fst hi
      dsimp only at this
      omega
    · rw [if_neg d2] at hi
      by_cases d3 : i = 24
      · rw [if_pos d3] at hi
        have := congrArg Prod.fst hi
        dsimp only at this
        omega
      · rw [if_neg d3] at hi
        by_cases d4 : i < 37
        · rw [if_pos d4] at hi
          have := congrArg Prod.fst hi
          dsimp only at this
          omega
        · rw [if_neg d4] at hi
          by_cases d5 : i < 41
          · rw [if_pos d5] at hi
            have := congrArg Prod.fst hi
            dsimp only at this
            omega
          · rw [if_neg d5] at hi
            by_cases d6 : i = 41
            · rw [if_pos d6] at hi
              have := congrArg Prod.fst hi
              dsimp only at this
              omega
            · rw [if_neg d6] at hi
              by_cases d7 : i = 42
              · rw [if_pos d7] at hi
                have := congrArg Prod.fst hi
                dsimp only at this
                omega
              · rw [if_neg d7] at hi
                have := congrArg Prod.fst hi
                dsimp only at this
                omega
theorem loc_48 {r j q i : Nat} (h : loc r j = some (q, i)) : (q = 48 ↔ r = 226 ∨ r = 426) ∧ (q = 48 → i < 24) := by
  unfold loc at h
  by_cases h1 : r = 444
  · rw [if_pos h1] at h
    split at h
    · cases h
      omega
    · cases h
  rw [if_neg h1] at h
  by_cases h2 : r = 244
  · rw [if_pos h2] at h
    split at h
    · cases h
      omega
    · cases h
  rw [if_neg h2] at h
  by_cases h3 : r = 44
  · rw [if_pos h3] at h
    split at h
    · cases h
      omega
    · cases h
  rw [if_neg h3] at h
  by_cases h4 : 50 ≤ r ∧ r < 56
  · rw [if_pos h4] at h
    split at h
    · cases h
      omega
    · cases h
  rw [if_neg h4] at h
  by_cases h5 : r = 42
  · rw [if_pos h5] at h
    split at h
    · cases h
      omega
    · cases h
  rw [if_neg h5] at h
  by_cases h6 : r = 40
  · rw [if_pos h6] at h
    split at h
    · cases h
      omega
    · split at h
      · cases h
        omega
      · split at h
        · cases h
          omega
        · cases h
  rw [if_neg h6] at h
  by_cases h7 : r = 9
  · rw [if_pos h7] at h
    split at h
    · cases h
      omega
    · cases h
  rw [if_neg h7] at h
  by_cases h8 : r = 0
  · rw [if_pos h8] at h
    split at h
    · cases h
      omega
    · split at h
      · cases h
        omega
      · split at h
        · cases h
          omega
        · split at h
          · cases h
            omega
          · split at h
            · cases h
              omega
            · split at h
              · cases h
                omega
              · cases h
  rw [if_neg h8] at h
  by_cases h9 : r = 14
  · rw [if_pos h9] at h
    split at h
    · cases h
      omega
    · cases h
  rw [if_neg h9] at h
  by_cases h10 : r = 226
  · rw [if_pos h10] at h
    split at h
    · cases h
      omega
    · cases h
  rw [if_neg h10] at h
  by_cases h11 : r = 426
  · rw [if_pos h11] at h
    split at h
    · cases h
      omega
    · cases h
  rw [if_neg h11] at h
  by_cases h12 : r = 2
  · rw [if_pos h12] at h
    split at h
    · cases h
      omega
    · cases h
  rw [if_neg h12] at h
  cases h
theorem rd_A {q i : Nat} {f : Nat → Int32} {k : Nat} (hk : k ≠ 60) : rd (sA m k f) q i = if q = k then f i else rd m q i := by
  unfold rd
  by_cases e : q = 60
  · rw [if_pos e, if_pos e, if_neg (by omega)]
    rfl
  · rw [if_neg e, if_neg e]
    by_cases e2 : q = k
    · rw [if_pos e2, e2, sA_at]
    · rw [if_neg e2, sA_o _ _ e2]
/-- the drawn books become as the desk's are -/
theorem RX.bk26 (hX : RX N s L M O m) (hB : bkW L 26 44 s s') {f : Nat → Int32} (hf : ∀ i, i < 24 → f i = m.2.1 2 i) : RX N s' L M O (sA m 48 f) ∧ frM O s s' := by
  have hb1 : isBk 26 := Or.inr (Or.inr (Or.inl rfl))
  have Ao : ∀ q, q ≠ 48 → (sA m 48 f).2.1 q = m.2.1 q := fun q hq => sA_o _ _ hq
  refine hX.bkG hb1 hB (fun r j q i hr => ?_) (undR_o hX.2.2.2.2.1 hX.1 (fun r hr h => bk_off hX.1 hb1 hB hr (by omega) (by omega) (by omega)) rfl (Ao 31 (by decide))) (fun i _ => by rw [Ao 2 (by decide)]) (by rw [Ao 2 (by decide)]) (Ao 3 (by decide)) (Ao 4 (by decide)) ?_
  · rw [rd_A (by decide)]
    have h48 := loc_48 hr
    by_cases e : q = 48
    · rw [if_pos e, hf i (h48.2 e)]
      rcases h48.1.mp e with rfl | rfl
      · unfold loc at hr
        rw [if_neg (by decide), if_neg (by decide), if_neg (by decide), if_neg (by decide), if_neg (by decide), if_neg (by decide), if_neg (by decide), if_neg (by decide), if_neg (by decide), if_pos rfl] at hr
        split at hr
        · next hj =>
          cases hr
          have := (hB.2.2.2.2.2.1 j hj).1
          rw [show 200 + 26 = 226 by decide, show 200 + 44 = 244 by decide] at this
          rw [this, hX.u hj]
        · cases hr
      · unfold loc at hr
        rw [if_neg (by decide), if_neg (by decide), if_neg (by decide), if_neg (by decide), if_neg (by decide), if_neg (by decide), if_neg (by decide), if_neg (by decide), if_neg (by decide), if_neg (by decide), if_pos rfl] at hr
        split at hr
        · next hj =>
          cases hr
          have := (hB.2.2.2.2.2.1 j hj).2
          rw [show 400 + 26 = 426 by decide, show 400 + 44 = 444 by decide] at this
          rw [this, hX.h hj]
        · cases hr
    · rw [if_neg e, ← hX.R r j q i hr]
      have hl := loc_r hr
      have hne : r ≠ 226 ∧ r ≠ 426 := ⟨fun z => e (h48.1.mpr (Or.inl z)), fun z => e (h48.1.mpr (Or.inr z))⟩
      exact congrFun (bk_off hX.1 hb1 hB (loc_u hr) (by omega) (by omega) (by omega)) j
  · obtain ⟨a, b, c, d, e⟩ := hX.I
    unfold invM wdOK
    rw [Ao 2 (by decide), Ao 11 (by decide), Ao 7 (by decide)]
    exact ⟨a, b, c, d, e⟩
/-- the desk's books become as a saved book is -/
theorem RX.bk44 (hX : RX N s L M O m) (hB : bkW L 44 c s s') {sv : Nat → Int32} (h1 : ∀ j, j < 12 → tI s (L (200 + c)) j = sv (12 + j) ∧ tI s (L (400 + c)) j = sv j) (h2 : tI s (L c) 2 = sv 24) (h3 : ∀ i, i < 24 → pI (sv i)) (h4 : 0 ≤ (sv 24).toInt ∧ (sv 24).toInt ≤ 999) : RX N s' L M O (sA m 2 (fun i => if i < 25 then sv i else m.2.1 2 i)) ∧ frM O s s' := by
  have hb1 : isBk 44 := Or.inr (Or.inr (Or.inr (Or.inl rfl)))
  have Ao : ∀ q, q ≠ 2 → (sA m 2 (fun i => if i < 25 then sv i else m.2.1 2 i)).2.1 q = m.2.1 q := fun q hq => sA_o _ _ hq
  have A2 : ∀ i, (sA m 2 (fun i => if i < 25 then sv i else m.2.1 2 i)).2.1 2 i = if i < 25 then sv i else m.2.1 2 i := fun i => congrFun (sA_at _ _ _) i
  have A45 : ∀ i, 25 ≤ i → (sA m 2 (fun i => if i < 25 then sv i else m.2.1 2 i)).2.1 2 i = m.2.1 2 i := fun i hi => (A2 i).trans (if_neg (by omega))
  have Al : ∀ i, i < 25 → (sA m 2 (fun i => if i < 25 then sv i else m.2.1 2 i)).2.1 2 i = sv i := fun i hi => (A2 i).trans (if_pos hi)
  refine hX.bkG hb1 hB (fun r j q i hr => ?_) (undR_o hX.2.2.2.2.1 hX.1 (fun r hr h => bk_off hX.1 hb1 hB hr (by omega) (by omega) (by omega)) rfl (Ao 31 (by decide))) (fun i hi => A45 i (by omega)) (A45 43 (by decide)) (Ao 3 (by decide)) (Ao 4 (by decide)) ?_
  · rw [rd_A (by decide)]
    by_cases e : q = 2
    · rw [if_pos e]
      have hl := loc_lt hr e
      by_cases ei : i < 25
      · rw [if_pos ei]
        rcases hl.1 ei with rfl | rfl | rfl
        · unfold loc at hr
          rw [if_pos rfl] at hr
          split at hr
          · next hj =>
            cases hr
            have := (hB.2.2.2.2.2.1 j hj).2
            rw [show 400 + 44 = 444 by decide] at this
            rw [this, (h1 j hj).2]
          · cases hr
        · unfold loc at hr
          rw [if_neg (by decide), if_pos rfl] at hr
          split at hr
          · next hj =>
            cases hr
            have := (hB.2.2.2.2.2.1 j hj).1
            rw [show 200 + 44 = 244 by decide] at this
            rw [this, (h1 j hj).1]
          · cases hr
        · unfold loc at hr
          rw [if_neg (by decide), if_neg (by decide), if_pos rfl] at hr
          split at hr
          · next hj =>
            cases hr
            subst hj
            rw [hB.2.2.2.2.2.2.1, h2]
          · cases hr
      · rw [if_neg ei]
        have hne := hl.2 (by omega)
        have := hX.R r j q i hr
        rw [e] at this
        refine Eq.trans ?_ this
        exact congrFun (bk_off hX.1 hb1 hB (loc_u hr) hne.2.2 hne.2.1 hne.1) j
    · rw [if_neg e, ← hX.R r j q i hr]
      have hne : r ≠ 444 ∧ r ≠ 244 ∧ r ≠ 44 := by
        refine ⟨fun z => ?_, fun z => ?_, fun z => ?_⟩
        · rw [z] at hr
          unfold loc at hr
          rw [if_pos rfl] at hr
          split at hr
          · cases hr
            exact e rfl
          · cases hr
        · rw [z] at hr
          unfold loc at hr
          rw [if_neg (by decide), if_pos rfl] at hr
          split at hr
          · cases hr
            exact e rfl
          · cases hr
        · rw [z] at hr
          unfold loc at hr
          rw [if_neg (by decide), if_neg (by decide), if_pos rfl] at hr
          split at hr
          · cases hr
            exact e rfl
          · cases hr
      exact congrFun (bk_off hX.1 hb1 hB (loc_u hr) hne.2.2 hne.2.1 hne.1) j
  · obtain ⟨⟨⟨p1, p2, p3⟩, pb, pc, pd, pe, pf, pg, told, t1, t2, t3⟩, q2, q3, q4, q5⟩ := hX.I
    unfold invM wdOK
    rw [Ao 11 (by decide), Ao 7 (by decide)]
    refine ⟨⟨⟨fun i hi => ?_, ?_, ?_⟩, ?_, ?_, ?_, ?_, ?_, fun i hi => ?_, told, t1, ?_, ?_⟩, q2, q3, q4, q5⟩
    · rw [Al _ (by omega)]
      exact h3 i hi
    · rw [A45 _ (by omega)]
      exact p2
    · rw [Al _ (by omega)]
      exact h4
    · rw [A45 _ (by omega)]
      exact pb
    · rw [A45 _ (by omega)]
      exact pc
    · rw [A45 _ (by omega)]
      exact pd
    · rw [A45 _ (by omega)]
      exact pe
    · rw [A45 _ (by omega)]
      exact pf
    · rw [A45 _ (by omega)]
      exact pg i hi
    · rw [A45 _ (by omega)]
      exact t2
    · rw [A45 _ (by omega)]
      exact t3
end BK
/-- voices exchanged; the other roles' cells stay -/
theorem v_exR {N : tP} {L : Nat → Nat} {M O : Nat → Prop} {Kr K : tM → Prop} {n : Nat} (hn : n ≤ 12) : ∀ (k t i : Nat) {s : tM} {m : mS}, RX N s L M O m → k < t → i + k = n → (∀ s', RX N s' L M O (exI k i m) → frM O s s' → (∀ r, shp r ≠ none → r ≠ 244 → r ≠ 444 → s'.2.1 (L r) = s.2.1 (L r)) → K s') → v_X2_exchange_2 N (L 44) (nI n) Kr K t (nI i) s
  | k, 0, _, _, _, _, h, _, _ => absurd h (Nat.not_lt_zero _)
  | 0, t + 1, i, s, m, hX, _, hi, hK => by
    unfold v_X2_exchange_2
    refine ⟨fun _ => hK s hX (frM_r _ _) (fun _ _ _ _ => rfl), fun z => absurd ?_ z⟩
    rw [nI_lle (by omega) (by omega)]
    omega
  | k + 1, t + 1, i, s, m, hX, ht, hi, hK => by
    have hS := hX.S
    obtain ⟨told, k1, k2, -⟩ := hX.told
    have hi12 : i < 12 := by omega
    have b44 := hS.2.2.1.2.1 44 (Or.inr (Or.inr (Or.inr (Or.inl rfl))))
    have l2 : loc 244 i = some (2, 12 + i) := by
      unfold loc
      rw [if_neg (by decide), if_pos rfl, if_pos hi12]
    have l4 : loc 444 i = some (2, i) := by
      unfold loc
      rw [if_pos rfl, if_pos hi12]
    have v2 : tI s (L 244) i = m.2.1 2 (12 + i) := hX.R 244 i 2 (12 + i) l2
    have v4 : tI s (L 444) i = m.2.1 2 i := hX.R 444 i 2 i l4
    have p2 : pI (m.2.1 2 (12 + i)) := hX.I.1.1.1 _ (by omega)
    have p4 : pI (m.2.1 2 i) := hX.I.1.1.1 _ (by omega)
    unfold v_X2_exchange_2
    rw [show tR s (L 44) 0 = L 244 from b44.1, show tR s (L 44) 1 = L 444 from b44.2, nI_clamp (by omega), v2, v4]
    refine ⟨fun z => ?_, fun _ => ⟨hS.o (r := 44) rfl, ⟨12, hS.a (r := 244) rfl, vpk hi12 (by decide)⟩, fun v hv => ⟨⟨12, hS.a (r := 444) rfl, vpk hi12 (by decide)⟩, ⟨12, hS.a (r := 244) rfl, vpk hi12 (by decide)⟩, fun s1 e1 => ?_⟩⟩⟩
    · rw [nI_lle (by omega) (by omega)] at z
      omega
    · have X1 : RX N s1 L M O (mI m 2 (nI (12 + i)) (m.2.1 2 i)) := by
        rw [e1]
        exact hX.w l2 (rd_I _ _ (by decide) (by omega)) (by omega) (invM_I hX.I k2 k1 (by omega) ⟨fun _ => p4, by omega, by omega, by omega, by omega, by omega, by omega, by omega, by omega, by omega⟩)
      have S1 := X1.S
      have b44' := S1.2.2.1.2.1 44 (Or.inr (Or.inr (Or.inr (Or.inl rfl))))
      rw [show tR s1 (L 44) 1 = L 444 from b44'.2]
      refine ⟨⟨12, S1.a (r := 444) rfl, vpk hi12 (by decide)⟩, fun s2 e2 i2 h2 => ?_⟩
      have k2' : (mI m 2 (nI (12 + i)) (m.2.1 2 i)).2.1 2 43 = nI told := by
        rw [mI_at _ _ _ (by omega), if_neg (by omega)]
        exact k2
      have X2 : RX N s2 L M O (exS i m) := by
        rw [e2, hv]
        exact X1.w l4 (rd_I _ _ (by decide) (by omega)) (by omega) (invM_I X1.I k2' k1 (by omega) ⟨fun _ => p2, by omega, by omega, by omega, by omega, by omega, by omega, by omega, by omega, by omega⟩)
      have f2 : frM O s s2 := frM_t (s' := s1) (by rw [e1]; exact frM_I hX (r := 244) (by decide)) (by rw [e2]; exact frM_I X1 (r := 444) (by decide))
      have o2 : ∀ r, shp r ≠ none → r ≠ 244 → r ≠ 444 → s2.2.1 (L r) = s.2.1 (L r) := fun r hr h1 h4 => funext fun j => by
        show tI s2 (L r) j = tI s (L r) j
        rw [e2, tsI_r S1 (r0 := 444) (by decide) hr, if_neg (fun z => h4 z.1), e1, tsI_r hS (r0 := 244) (by decide) hr, if_neg (fun z => h1 z.1)]
      have hi2 : i2 = nI (i + 1) := h2.trans (nI_1 i)
      rw [hi2]
      exact v_exR hn k t (i + 1) X2 (by omega) (by omega) (fun s' X' f' o' => hK s' X' (frM_t f2 f') (fun r hr h1 h4 => (o' r hr h1 h4).trans (o2 r hr h1 h4)))
