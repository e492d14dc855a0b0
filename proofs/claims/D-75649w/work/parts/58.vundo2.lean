set_option maxRecDepth 100000
/-! ===== undo ===== -/
section UN
variable {N : tP} {s s' : tM} {L : Nat → Nat} {M O : Nat → Prop} {m : mS}
/-- a step taken back on the system's side -/
theorem RX.und (hX : RX N s L M O m) {k : Nat} (hk : k < 16) (hc : m.1 33 = nI (k + 1)) (hB : bkW L 44 (100 + k) (tsI s (L 2) 1 (nI k)) s') : RX N s' L M O (undM k m) ∧ frM O s s' ∧ tI s' (L (100 + k)) 3 = m.2.1 31 (26 * k + 25) ∧ ∃ w, w < 4 ∧ m.2.1 31 (26 * k + 25) = nI w := by
  have hS := hX.S
  obtain ⟨g1, g2, g3, g4, g5, g6, g7, g8⟩ := hB
  obtain ⟨u1, u3, u5⟩ := shp100 hk
  have o2 : ∀ r j, shp r ≠ none → ¬ (r = 2 ∧ j = 1) → tI (tsI s (L 2) 1 (nI k)) (L r) j = tI s (L r) j := fun r j hr hn => if_neg fun z => hn ⟨hS.2.1 _ _ hr (by decide) z.1, z.2⟩
  have offa : ∀ a, a ≠ L 244 → a ≠ L 444 → a ≠ L 44 → a ≠ L 2 → s'.2.1 a = s.2.1 a := fun a h1 h2 h3 h4 => (g4 a h1 h2 h3).trans (funext fun j => if_neg fun z => h4 z.1)
  have off : ∀ r j, shp r ≠ none → r ≠ 244 → r ≠ 444 → r ≠ 44 → ¬ (r = 2 ∧ j = 1) → tI s' (L r) j = tI s (L r) j := fun r j hr h1 h2 h3 h4 => (congrFun (g4 _ (hS.ne hr (r' := 244) (by decide) h1) (hS.ne hr (r' := 444) (by decide) h2) (hS.ne hr (r' := 44) (by decide) h3)) j).trans (o2 r j hr h4)
  have hMO : ∀ a, uM M O a → s'.2.1 a = s.2.1 a := fun a ha => offa a (fun z => hS.nM (r := 244) (by decide) (z ▸ ha)) (fun z => hS.nM (r := 444) (by decide) (z ▸ ha)) (fun z => hS.nM (r := 44) (by decide) (z ▸ ha)) (fun z => hS.nM (r := 2) (by decide) (z ▸ ha))
  obtain ⟨n0, a1, a2, a3⟩ := hX.2.2.2.2.1
  have en : n0 = k + 1 := (nI_eq (by omega) (by omega)).mp (a2.symm.trans hc)
  subst en
  obtain ⟨b1, b2, b3, b4, b5⟩ := a3 k (by omega)
  have F1 : ∀ j, j ≠ 33 → (undM k m).1 j = m.1 j := fun j hj => if_neg hj
  have F33 : (undM k m).1 33 = nI k := rfl
  have A2 : ∀ q, (undM k m).2.1 2 q = if q < 25 then m.2.1 31 (26 * k + q) else m.2.1 2 q := fun q => congrFun (sA_at _ _ _) q
  have Ao : ∀ q, q ≠ 2 → (undM k m).2.1 q = m.2.1 q := fun q hq => sA_o _ _ hq
  have A45 : ∀ q, 25 ≤ q → (undM k m).2.1 2 q = m.2.1 2 q := fun q hq => (A2 q).trans (if_neg (by omega))
  have c2 : tI s' (L 2) 1 = nI k := (congrFun (g4 _ (hS.ne (r := 2) (r' := 244) (by decide) (by decide) (by decide)) (hS.ne (r := 2) (r' := 444) (by decide) (by decide) (by decide)) (hS.ne (r := 2) (r' := 44) (by decide) (by decide) (by decide))) 1).trans (if_pos ⟨rfl, rfl⟩)
  refine ⟨hX.mk g1 g2 (fun a ha => ⟨by rw [g1]; rfl, hMO a (Or.inl ha), by rw [g2]; rfl⟩) (fun j => off 41 j (by decide) (by decide) (by decide) (by decide) (by omega)) ?_ ?_ (fun i hi => A45 i (by omega)) (A45 43 (by decide)) (Ao 3 (by decide)) (Ao 4 (by decide)) ?_, ⟨fun a ha => ⟨by rw [g1]; rfl, hMO a (Or.inr ha), by rw [g2]; rfl⟩, fun a _ _ => by rw [g3]; rfl⟩, ?_, b5⟩
  · intro r j q i hl
    have hi := loc_i hl
    by_cases c4 : r = 444
    · subst c4
      unfold loc at hl
      rw [if_pos rfl] at hl
      split at hl
      · next hj =>
        cases hl
        have := (g6 j hj).2
        rw [show 400 + 44 = 444 by decide, show 400 + (100 + k) = 500 + k by omega, o2 _ _ u5 (by omega)] at this
        rw [this, (b1 j hj).2.1]
        show _ = (undM k m).2.1 2 j
        rw [A2, if_pos (by omega)]
      · cases hl
    by_cases c2' : r = 244
    · subst c2'
      unfold loc at hl
      rw [if_neg (by decide), if_pos rfl] at hl
      split at hl
      · next hj =>
        cases hl
        have := (g6 j hj).1
        rw [show 200 + 44 = 244 by decide, show 200 + (100 + k) = 300 + k by omega, o2 _ _ u3 (by omega)] at this
        rw [this, (b1 j hj).1]
        show _ = (undM k m).2.1 2 (12 + j)
        rw [A2, if_pos (by omega), Nat.add_assoc]
      · cases hl
    by_cases c1 : r = 44
    · subst c1
      unfold loc at hl
      rw [if_neg (by decide), if_neg (by decide), if_pos rfl] at hl
      split at hl
      · next hj =>
        cases hl
        subst hj
        rw [g7, o2 _ _ u1 (by omega), b2]
        show _ = (undM k m).2.1 2 24
        rw [A2, if_pos (by omega)]
      · cases hl
    by_cases c0 : r = 2 ∧ j = 1
    · obtain ⟨rfl, rfl⟩ := c0
      cases hl
      exact c2.trans F33.symm
    · rw [off r j (loc_u hl) c2' c4 c1 c0, hX.R r j q i hl]
      unfold rd
      by_cases e6 : q = 60
      · rw [if_pos e6, if_pos e6]
        refine (F1 i fun z => c0 ?_).symm
        rw [e6, z] at hi
        exact ⟨(congrArg Prod.fst hi).symm, (congrArg Prod.snd hi).symm⟩
      · rw [if_neg e6, if_neg e6]
        by_cases e2 : q = 2
        · subst e2
          refine (A45 i ?_).symm
          refine Nat.le_of_not_lt fun hlt => ?_
          unfold loi at hi
          rw [if_pos rfl] at hi
          by_cases d1 : i < 12
          · rw [if_pos d1] at hi
            exact c4 (congrArg Prod.fst hi).symm
          · rw [if_neg d1] at hi
            by_cases d2 : i < 24
            · rw [if_pos d2] at hi
              exact c2' (congrArg Prod.fst hi).symm
            · rw [if_neg d2, if_pos (show i = 24 by omega)] at hi
              exact c1 (congrArg Prod.fst hi).symm
        · rw [Ao q e2]
  · refine ⟨k, by omega, F33, fun j hj => ?_⟩
    obtain ⟨v1, v3, v5⟩ := shp100 (k := j) (by omega)
    obtain ⟨d1, d2, d3, d4, d5⟩ := a3 j (by omega)
    rw [Ao 31 (by decide)]
    refine ⟨fun i hi => ?_, ?_, d3, ?_, d5⟩
    · rw [off _ _ v3 (by omega) (by omega) (by omega) (by omega), off _ _ v5 (by omega) (by omega) (by omega) (by omega)]
      exact d1 i hi
    · rw [off _ _ v1 (by omega) (by omega) (by omega) (by omega)]
      exact d2
    · rw [off _ _ v1 (by omega) (by omega) (by omega) (by omega)]
      exact d4
  · obtain ⟨⟨⟨p1, p2, p3⟩, pb, pc, pd, pe, pf, pg, told, t1, t2, t3⟩, q2, q3, q4, q5⟩ := hX.I
    refine ⟨⟨⟨fun i hi => ?_, ?_, ?_⟩, ?_, ?_, ?_, ?_, ?_, fun i hi => ?_, told, t1, ?_, ?_⟩, ?_, ?_, ?_, ?_⟩
    · rw [A2, if_pos (by omega)]
      by_cases c : i < 12
      · exact (b1 i c).2.2.1
      · have := (b1 (i - 12) (by omega)).2.2.2
        rw [show 26 * k + 12 + (i - 12) = 26 * k + i by omega] at this
        exact this
    · rw [A45 _ (by omega)]
      exact p2
    · rw [A2, if_pos (by omega)]
      exact b3
    · rw [A45 _ (by omega)]
      exact pb
    · rw [A45 _ (by omega)]
      exact pc
    · rw [A45 _ (by omega)]
      exact pd
    · rw [A45 _ (by omega)]
      exact pe
    · rw [A45 _ (by omega)]
      exact pf
    · rw [A45 _ (by omega)]
      exact pg i hi
    · rw [A45 _ (by omega)]
      exact t2
    · rw [A45 _ (by omega)]
      exact t3
    · rw [F1 13 (by decide)]
      exact q2
    · rw [Ao 11 (by decide)]
      exact q3
    · rw [F1 49 (by decide)]
      exact q4
    · unfold wdOK
      rw [Ao 7 (by decide)]
      exact q5
  · rw [off _ _ u1 (by omega) (by omega) (by omega) (by omega)]
    exact b4
end UN
section O6
variable {N : tP} {s : tM} {x o : Nat} {K : tM → Prop}
theorem op_undo (hN : nOK N) (hX : RXo N s x o) (hK : ∀ s', RXo N s' x o → K s') : v_X0_undo x s (pK o (w_undo (nP N)) K) := by
  obtain ⟨L, M, rfl, hX, hm⟩ := hX
  have hS := hX.S
  obtain ⟨n, c1, c2, c3⟩ := hX.cnt
  have o0 := hS.o (r := 0) rfl
  have t2 := hS.t (r := 0) (j := 2) (q := 2) (by decide)
  have h0 : nI n = 0 ↔ n = 0 := by
    rw [show (0 : Int32) = nI 0 from rfl, nI_eq (by omega) (by omega)]
  unfold v_X0_undo
  rw [t2, c3, h0]
  refine ⟨o0, hS.o (r := 2) rfl, fun nn x104 hx => ?_, fun yn => op_ref (k := 3) hX hm rfl hK (by decide) (by decide) (fun m1 K2 hc h2 => ?_)⟩
  · subst hx
    obtain ⟨k, rfl⟩ : ∃ k, n = k + 1 := ⟨n - 1, by omega⟩
    have hk : k < 16 := by omega
    have ep : nI (k + 1) - 1 = nI k := nI_pred k
    refine ⟨hS.o (r := 2) rfl, fun s6 e6 => ?_⟩
    rw [c3, ep] at e6
    subst e6
    have S6 : RS (tsI s (L 2) 1 (nI k)) L (uM M (mO s o)) := hS.i rfl rfl
    have r31 := (S6.2.2.1.2.2.1 k hk).1
    have t31 := S6.t (r := 2) (j := 0) (q := 31) (by decide)
    have i2 : tI (tsI s (L 2) 1 (nI k)) (L 2) 1 = nI k := if_pos ⟨rfl, rfl⟩
    have b44 : isBk 44 := Or.inr (Or.inr (Or.inr (Or.inl rfl)))
    have sb := shp_bk (bk100 hk)
    refine v_booksS S6 ⟨S6.o (r := 0) rfl, ?_⟩
    rw [S6.t (r := 0) (j := 2) (q := 2) (by decide), t31, i2, nI_clamp (by omega), r31]
    refine ⟨S6.o (r := 2) rfl, ⟨16, S6.a (r := 31) rfl, vpk hk (by decide)⟩, S6.o (r := 44) rfl, v_asS S6 b44 (bk100 hk) (fun s' hB => ?_)⟩
    obtain ⟨X', f', v3, w, w1, w2⟩ := hX.und hk c2 hB
    have S' := X'.S
    have r31' := (S'.2.2.1.2.2.1 k hk).1
    have t31' := S'.t (r := 2) (j := 0) (q := 31) (by decide)
    have i2' : tI s' (L 2) 1 = nI k := X'.R 2 1 60 33 rfl
    rw [S'.t (r := 0) (j := 2) (q := 2) (by decide), t31', i2', nI_clamp (by omega), r31', v3]
    refine ⟨S'.o (r := 0) rfl, S'.o (r := 2) rfl, ⟨16, S'.a (r := 31) rfl, vpk hk (by decide)⟩, S'.o sb.1, ?_⟩
    have hv : 0 ≤ ((sM s o).2.1 31 (26 * k + 25)).toInt := by
      rw [w2, nI_toInt (by omega)]
      omega
    refine v_goodS X' hv (fun s2 X2 f2 => pfin X2 hm (frM_t f' f2) rfl hK (fun m1 K2 hc h2 => ?_))
    unfold w_undo
    have e33 : mFd m1 33 = nI (k + 1) := (hc.1 33 (by decide)).trans c2
    rw [e33, h0]
    refine ⟨fun _ s4 e4 y hy => ?_, fun z => absurd z nn⟩
    rw [ep] at e4
    have e4' : mFd s4 33 = nI k := by
      rw [e4]
      rfl
    rw [e4', show (26 : Int32) * nI k = nI (26 * k) from pk_mul 26 k] at hy
    subst hy
    have e31 : s4.2.1 31 = (sM s o).2.1 31 := by
      rw [e4]
      exact hc.2 31 (by decide)
    refine w_undoL hk (m := s4) ?_ 25 (nP N).1 0 (sA_0 s4 2 _) (by have := hN.1; show 25 < N.1; omega) (by omega)
    rw [show (25 : Int32) = nI 25 from rfl, nI_add, mAt_n (by omega), sA_o _ _ (by decide), e31]
    refine ⟨vpk (by omega) (by decide), w_goodS (h2 _ ?_)⟩
    refine cE_F (cE_t (cE_und hc k) ?_) 0 0
    have : undM k m1 = sA s4 2 (fun q => if q < 25 then (sM s o).2.1 31 (26 * k + q) else s4.2.1 2 q) := by
      unfold undM
      rw [e4, hc.2 31 (by decide)]
      rfl
    rw [this]
    exact cE_r _
  · unfold w_undo
    have e33 : mFd m1 33 = nI n := (hc.1 33 (by decide)).trans c2
    rw [e33, h0]
    exact ⟨fun z => absurd yn z, fun _ => w_refS (k := 3) (by decide) h2⟩
end O6
