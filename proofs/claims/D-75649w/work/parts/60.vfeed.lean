set_option maxRecDepth 100000
/-! ===== feed ===== -/
def nB (w : Nat → Int32) (j : Nat) : Int32 := vp_nar .byte ((w (j / 4) >>> (nI (24 - 8 * (j % 4)) &&& 31) : Int32).toInt8.toInt32)
theorem nar_rng (y : Int32) : -128 ≤ (vp_nar .byte (y.toInt8.toInt32)).toInt ∧ (vp_nar .byte (y.toInt8.toInt32)).toInt ≤ 127 := by
  rw [vp_nar_byte, Int8.toInt_toInt32]
  have h1 := Int8.toInt_lt (y.toInt8.toInt32.toInt8)
  have h2 := Int8.le_toInt (y.toInt8.toInt32.toInt8)
  omega
theorem nB_rng (w : Nat → Int32) (j : Nat) : -128 ≤ (nB w j).toInt ∧ (nB w j).toInt ≤ 127 := nar_rng _
/-- c bytes fed from n on -/
def fdM (B : Nat → Int32) (n c : Nat) (m : mS) : mS := mF (sA m 11 (fun q => if n ≤ q ∧ q < n + c then B (q - n) else m.2.1 11 q)) 13 (nI (n + c))
theorem upd_id {f : Nat → Int32} {j : Nat} {v : Int32} (h : f j = v) : upd f j v = f := funext fun i => by
  unfold upd
  by_cases c : i = j
  · rw [if_pos c, c, h]
  · rw [if_neg c]
theorem upd_2 (f : Nat → Int32) (j : Nat) (v w : Int32) : upd (upd f j v) j w = upd f j w := funext fun i => by
  unfold upd
  by_cases c : i = j
  · rw [if_pos c, if_pos c]
  · rw [if_neg c, if_neg c, if_neg c]
theorem fdM_0 {B : Nat → Int32} {n : Nat} {m : mS} (h : m.1 13 = nI n) : fdM B n 0 m = m := by
  have h2 : (fdM B n 0 m).2.1 = m.2.1 := funext fun q => by
    show (sA m 11 _).2.1 q = _
    by_cases e : q = 11
    · subst e
      rw [sA_at]
      funext i
      rw [if_neg (by omega)]
    · rw [sA_o _ _ e]
  exact Prod.ext (upd_id h) (Prod.ext h2 rfl)
theorem fdM_s {B : Nat → Int32} {n c : Nat} {m : mS} (h : n + c < 400) : mF (mI (fdM B n c m) 11 (nI (n + c)) (B c)) 13 (nI (n + c + 1)) = fdM B n (c + 1) m := by
  have h1 : (mF (mI (fdM B n c m) 11 (nI (n + c)) (B c)) 13 (nI (n + c + 1))).1 = (fdM B n (c + 1) m).1 := upd_2 _ _ _ _
  have h2 : (mF (mI (fdM B n c m) 11 (nI (n + c)) (B c)) 13 (nI (n + c + 1))).2.1 = (fdM B n (c + 1) m).2.1 := funext fun q => by
    show (mI (fdM B n c m) 11 (nI (n + c)) (B c)).2.1 q = (sA m 11 _).2.1 q
    by_cases e : q = 11
    · subst e
      funext i
      rw [mI_at _ _ _ (by omega), sA_at]
      show (if i = n + c then B c else (sA m 11 _).2.1 11 i) = _
      rw [sA_at]
      by_cases c1 : i = n + c
      · rw [if_pos c1, if_pos (by omega), c1, show n + c - n = c by omega]
      · rw [if_neg c1]
        by_cases c2 : n ≤ i ∧ i < n + c
        · rw [if_pos c2, if_pos (by omega)]
        · rw [if_neg c2, if_neg (by omega)]
    · rw [mI_o _ _ _ e]
      show (sA m 11 _).2.1 q = _
      rw [sA_o _ _ e, sA_o _ _ e]
  exact Prod.ext h1 (Prod.ext h2 rfl)
theorem invM_11 {m : mS} (h : invM m) {k : Nat} {v : Int32} (hk : k < 400) (hv : -128 ≤ v.toInt ∧ v.toInt ≤ 127) : invM (mI m 11 (nI k) v) := by
  obtain ⟨a, b, c, d, e⟩ := h
  refine ⟨?_, b, fun k' hk' => ?_, d, ?_⟩
  · rw [mI_o _ _ _ (by decide)]
    exact a
  · rw [mI_at _ _ _ (by omega)]
    by_cases z : k' = k
    · rw [if_pos z]
      exact hv
    · rw [if_neg z]
      exact c k' hk'
  · unfold wdOK
    rw [mI_o _ _ _ (by decide)]
    exact e
section FD
variable {N : tP} {L : Nat → Nat} {M O : Nat → Prop} {m : mS} {B : Nat → Int32} {n : Nat}
theorem v_four1 {s : tM} {c : Nat} (hX : RX N s L M O (fdM B n c m)) (hc : n + c < 400) (hB : -128 ≤ (B c).toInt ∧ (B c).toInt ≤ 127) {x1 x2 : Int32} {Kr K : tM → Prop} {t : Nat} (h0 : ¬ x2 < 0) (hv : vp_nar .byte ((x1 >>> (x2 &&& 31) : Int32).toInt8.toInt32) = B c) (hK : ∀ s', RX N s' L M O (fdM B n (c + 1) m) → frM O s s' → v_X0_four_3 N (L 0) x1 Kr K t (x2 + (-8)) s') : v_X0_four_3 N (L 0) x1 Kr K (t + 1) x2 s := by
  have hS := hX.S
  have e15 : tI s (L 0) 15 = nI (n + c) := hX.R 0 15 60 13 rfl
  unfold v_X0_four_3
  rw [hS.t (r := 0) (j := 14) (q := 14) (by decide), e15, nI_clamp (by omega), hv]
  refine ⟨fun z => absurd z h0, fun _ => ⟨hS.o (r := 0) rfl, ⟨400, hS.a (r := 14) rfl, vpk hc (by decide)⟩, fun s1 e1 s2 e2 y hy => ?_⟩⟩
  have l14 : loc 14 (n + c) = some (11, n + c) := by
    unfold loc
    rw [if_neg (by decide), if_neg (by decide), if_neg (by decide), if_neg (by decide), if_neg (by decide), if_neg (by decide), if_neg (by decide), if_neg (by decide), if_pos rfl, if_pos hc]
  have X1 : RX N s1 L M O (mI (fdM B n c m) 11 (nI (n + c)) (B c)) := by
    rw [e1]
    exact hX.w l14 (rd_I _ _ (by decide) (by omega)) (by omega) (invM_11 hX.I hc hB)
  have e15' : tI s1 (L 0) 15 = nI (n + c) := X1.R 0 15 60 13 rfl
  rw [e15', nI_1] at e2
  have X2 : RX N s2 L M O (fdM B n (c + 1) m) := by
    rw [e2, ← fdM_s hc]
    refine X1.w (r0 := 0) (j0 := 15) (q0 := 60) (i0 := 13) rfl (rd_F _ _ _) (by omega) ?_
    obtain ⟨a1, -, a3, a4, a5⟩ := X1.I
    exact ⟨a1, ⟨n + c + 1, by omega, rfl⟩, a3, a4, a5⟩
  rw [hy]
  exact hK s2 X2 (frM_t (s' := s1) (by rw [e1]; exact frM_I hX (r := 14) (by decide)) (by rw [e2]; exact frM_I X1 (r := 0) (by decide)))
theorem v_fourS (hN : 6000 ≤ N.1) {w : Nat → Int32} {s : tM} {i : Nat} (hX : RX N s L M O (fdM (nB w) n (4 * i) m)) (hc : n + 4 * i + 4 ≤ 400) {Kr : tM → Prop} (hK : ∀ s', RX N s' L M O (fdM (nB w) n (4 * (i + 1)) m) → frM O s s' → Kr s') : v_X0_four N (L 0) (w i) s Kr := by
  have hb : ∀ k, k < 4 → vp_nar .byte ((w i >>> (nI (24 - 8 * k) &&& 31) : Int32).toInt8.toInt32) = nB w (4 * i + k) := fun k hk => by
    unfold nB
    rw [show (4 * i + k) / 4 = i by omega, show (4 * i + k) % 4 = k by omega]
  unfold v_X0_four
  obtain ⟨t, ht⟩ : ∃ t, N.1 = t + 5 := ⟨N.1 - 5, by omega⟩
  rw [ht]
  refine v_four1 hX (by omega) (nB_rng _ _) (by decide) (hb 0 (by decide)) (fun s1 X1 f1 => ?_)
  refine v_four1 X1 (by omega) (nB_rng _ _) (by decide) (hb 1 (by decide)) (fun s2 X2 f2 => ?_)
  refine v_four1 X2 (by omega) (nB_rng _ _) (by decide) (hb 2 (by decide)) (fun s3 X3 f3 => ?_)
  refine v_four1 X3 (by omega) (nB_rng _ _) (by decide) (hb 3 (by decide)) (fun s4 X4 f4 => ?_)
  unfold v_X0_four_3
  exact ⟨fun _ => hK s4 X4 (frM_t f1 (frM_t f2 (frM_t f3 f4))), fun z => absurd (by decide) z⟩
end FD
theorem fd_n : ∀ j, j < 20 → nI j / 4 = nI (j / 4) ∧ 24 - 8 * (nI j - nI j / 4 * 4) = nI (24 - 8 * (j % 4)) := by decide
theorem w_feedL {N : Nat × Nat} {Kr : Int32 → mS → Prop} {K : mS → Prop} {m : mS} {n : Nat} (hn : n + 20 ≤ 400) (h13 : m.1 13 = nI n) {w : Nat → Int32} (hw : ∀ k, k < 5 → m.2.1 12 k = w k) (hK : K (sA m 11 (fun q => if n ≤ q ∧ q < n + 20 then nB w (q - n) else m.2.1 11 q))) : ∀ (f t i : Nat) {g : mS}, g = sA m 11 (fun q => if n ≤ q ∧ q < n + i then nB w (q - n) else m.2.1 11 q) → f < t → i + f = 20 → w_feed_55 N Kr K t (nI i) g
  | f, 0, _, _, _, h, _ => absurd h (Nat.not_lt_zero _)
  | 0, t + 1, i, g, hg, _, hi => by
    unfold w_feed_55
    have : i = 20 := by omega
    subst this
    exact ⟨fun _ => by rw [hg]; exact hK, fun z => absurd (nI_le (Nat.le_refl 20) (by omega)) z⟩
  | f + 1, t + 1, i, g, hg, ht, hi => by
    unfold w_feed_55
    obtain ⟨d1, d2⟩ := fd_n i (by omega)
    have g13 : mFd g 13 = nI n := by
      rw [hg]
      exact h13
    have g12 : mAt g 12 (nI (i / 4)) = w (i / 4) := by
      rw [mAt_n (by omega), hg, sA_o _ _ (by decide)]
      exact hw _ (by omega)
    rw [show (20 : Int32) = nI 20 from rfl, nI_leI (by omega) (by omega), d2, d1, g12, g13, nI_add]
    refine ⟨fun z => by omega, fun _ => ⟨vpk (by omega) (by decide), vpk (by omega) (by decide), fun s4 e4 y hy => ?_⟩⟩
    rw [nI_1] at hy
    rw [hy]
    refine w_feedL hn h13 hw hK f t (i + 1) ?_ (by omega) (by omega)
    have h2 : (mI (sA m 11 (fun q => if n ≤ q ∧ q < n + i then nB w (q - n) else m.2.1 11 q)) 11 (nI (n + i)) (nB w i)).2.1 = (sA m 11 (fun q => if n ≤ q ∧ q < n + (i + 1) then nB w (q - n) else m.2.1 11 q)).2.1 := funext fun q => by
      by_cases e : q = 11
      · subst e
        funext k
        rw [mI_at _ _ _ (by omega), sA_at, sA_at]
        by_cases c1 : k = n + i
        · rw [if_pos c1, if_pos (by omega), c1, show n + i - n = i by omega]
        · rw [if_neg c1]
          by_cases c2 : n ≤ k ∧ k < n + i
          · rw [if_pos c2, if_pos (by omega)]
          · rw [if_neg c2, if_neg (by omega)]
      · rw [mI_o _ _ _ e, sA_o _ _ e, sA_o _ _ e]
    rw [e4, hg]
    exact Prod.ext rfl (Prod.ext h2 rfl)
theorem cE_12 (m : mS) (i v : Int32) : cE m (mI m 12 i v) := ⟨fun _ _ => rfl, fun q hq => mI_o _ _ _ (by
  intro z
  subst z
  revert hq
  decide)⟩
section O8
variable {N : tP} {s : tM} {x o : Nat} {K : tM → Prop}
theorem op_feed (hN : nOK N) (hX : RXo N s x o) (hK : ∀ s', RXo N s' x o → K s') (a b c d e : Int32) : v_X0_feed N x a b c d e s (pK o (w_feed (nP N) a b c d e) K) := by
  obtain ⟨L, M, rfl, hX, hm⟩ := hX
  have hS := hX.S
  have o0 := hS.o (r := 0) rfl
  obtain ⟨n, n1, n2⟩ := hX.I.2.1
  have e15 : tI s (L 0) 15 = nI n := (hX.R 0 15 60 13 rfl).trans n2
  have hle : (nI n + 20 ≤ 400) ↔ n + 20 ≤ 400 := by
    rw [show nI n + 20 = nI (n + 20) from nI_add n 20, show (400 : Int32) = nI 400 from rfl, nI_lle (by omega) (by omega)]
  let w : Nat → Int32 := fun k => if k = 0 then a else if k = 1 then b else if k = 2 then c else if k = 3 then d else e
  unfold v_X0_feed
  rw [e15, hle]
  refine ⟨o0, fun yn => ?_, fun nn => pfin hX hm (frM_r _ _) rfl hK (fun m1 K2 hc h2 => ?_)⟩
  · have X0 : RX N s L M (mO s o) (fdM (nB w) n (4 * 0) (sM s o)) := by
      rw [Nat.mul_zero, fdM_0 n2]
      exact hX
    refine v_fourS (w := w) (i := 0) hN.1 X0 (by omega) (fun s1 X1 f1 => ⟨X1.S.o (r := 0) rfl, ?_⟩)
    refine v_fourS (w := w) (i := 1) hN.1 X1 (by omega) (fun s2 X2 f2 => ⟨X2.S.o (r := 0) rfl, ?_⟩)
    refine v_fourS (w := w) (i := 2) hN.1 X2 (by omega) (fun s3 X3 f3 => ⟨X3.S.o (r := 0) rfl, ?_⟩)
    refine v_fourS (w := w) (i := 3) hN.1 X3 (by omega) (fun s4 X4 f4 => ⟨X4.S.o (r := 0) rfl, ?_⟩)
    refine v_fourS (w := w) (i := 4) hN.1 X4 (by omega) (fun s5 X5 f5 => ⟨X5.S.o (r := 0) rfl, ?_⟩)
    rw [show tI s5 (L 0) 15 = nI (n + 20) from X5.R 0 15 60 13 rfl]
    refine pfin X5 hm (frM_t f1 (frM_t f2 (frM_t f3 (frM_t f4 f5)))) rfl hK (fun m1 K2 hc h2 => ?_)
    have e13 : mFd m1 13 = nI n := (hc.1 13 (by decide)).trans n2
    unfold w_feed
    rw [e13, hle]
    refine ⟨fun _ => ⟨vpk (k := 0) (by decide) (by decide), fun g1 h1 => ⟨vpk (k := 1) (by decide) (by decide), fun g2 h2' => ⟨vpk (k := 2) (by decide) (by decide), fun g3 h3 => ⟨vpk (k := 3) (by decide) (by decide), fun g4 h4 => ⟨vpk (k := 4) (by decide) (by decide), fun g5 h5 => ?_⟩⟩⟩⟩⟩, fun z => absurd yn z⟩
    have hc5 : cE m1 g5 := by
      rw [h5]
      refine cE_t ?_ (cE_12 _ _ _)
      rw [h4]
      refine cE_t ?_ (cE_12 _ _ _)
      rw [h3]
      refine cE_t ?_ (cE_12 _ _ _)
      rw [h2']
      refine cE_t ?_ (cE_12 _ _ _)
      rw [h1]
      exact cE_12 _ _ _
    have g13 : g5.1 13 = nI n := (hc5.1 13 (by decide)).trans e13
    have g12 : ∀ k, k < 5 → g5.2.1 12 k = w k := fun k hk => by
      have h1 : g1 = mI m1 12 (nI 0) a := h1
      have h2' : g2 = mI g1 12 (nI 1) b := h2'
      have h3 : g3 = mI g2 12 (nI 2) c := h3
      have h4 : g4 = mI g3 12 (nI 3) d := h4
      have h5 : g5 = mI g4 12 (nI 4) e := h5
      rw [h5, mI_at (k := 4) _ _ _ (by decide), h4, mI_at (k := 3) _ _ _ (by decide), h3, mI_at (k := 2) _ _ _ (by decide), h2', mI_at (k := 1) _ _ _ (by decide), h1, mI_at (k := 0) _ _ _ (by decide)]
      have : k = 0 ∨ k = 1 ∨ k = 2 ∨ k = 3 ∨ k = 4 := by omega
      rcases this with rfl | rfl | rfl | rfl | rfl <;> rfl
    refine w_feedL yn g13 g12 (fun g6 h6 => ?_) 20 (nP N).1 0 (m := g5) ?_ (by have := hN.1; show 20 < N.1; omega) (by omega)
    · rw [show mFd (sA g5 11 (fun q => if n ≤ q ∧ q < n + 20 then nB w (q - n) else g5.2.1 11 q)) 13 = nI n from g13, show nI n + 20 = nI (n + 20) from nI_add n 20] at h6
      have e6 : mFd g6 13 = nI (n + 20) := by
        rw [h6]
        rfl
      rw [e6, h6]
      refine h2 _ ?_
      show cE (fdM (nB w) n 20 (sM s o)) _
      unfold fdM
      rw [show (sM s o).2.1 11 = g5.2.1 11 from ((hc5.2 11 (by decide)).trans (hc.2 11 (by decide))).symm]
      exact cE_F (cE_A (cE_t hc hc5) _ _) _ _
    · have h2 : g5.2.1 = (sA g5 11 (fun q => if n ≤ q ∧ q < n + 0 then nB w (q - n) else g5.2.1 11 q)).2.1 := funext fun q => by
        by_cases e : q = 11
        · subst e
          rw [sA_at]
          funext i
          rw [if_neg (by omega)]
        · rw [sA_o _ _ e]
      exact Prod.ext rfl (Prod.ext h2 rfl)
  · have e13 : mFd m1 13 = nI n := (hc.1 13 (by decide)).trans n2
    unfold w_feed
    rw [e13, hle]
    exact ⟨fun z => absurd z nn, fun _ => h2 m1 hc⟩
end O8
