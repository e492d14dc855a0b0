set_option maxRecDepth 100000
/-! ===== listen's pair ===== -/
section LL
variable {N : tP} {s : tM} {L : Nat → Nat} {M O : Nat → Prop} {m : mS} {lw : Option (List cL)} {W : Int32}
theorem v_lisL (hN : 120 ≤ N.2.1) (hN1 : 60 ≤ N.1) (hX : RX N s L M O m) (hF : inF (m.2.1 2) lw) {q : Nat} (hq : q ≤ 12) (hqv : m.2.1 2 41 = nI q) {x1 : Int32} {Kr : Int32 → tM → Prop} {K : Int32 → Int32 → tM → Prop} {C : Nat → Int32} (hC : ∀ f, C f = mstF (fun n => fct (m.2.1 2) lw n f) W q q) (hK : ∀ s', aT L s s' → K (lsF C 4).1 (lsF C 4).2 s') : ∀ (c t f : Nat) (s1 : tM), aT L s s1 → f + c = 4 → c < t → v_X0_listen_31 N (L 0) x1 W Kr K t (lsF C f).1 (lsF C f).2 (nI f) s1
  | _, 0, _, _, _, _, h => absurd h (Nat.not_lt_zero _)
  | 0, t + 1, f, s1, h1, hf, _ => by
    unfold v_X0_listen_31
    have : f = 4 := by omega
    subst this
    exact ⟨fun _ => hK s1 h1, fun z => absurd (nI_le (Nat.le_refl 4) (by omega)) z⟩
  | c + 1, t + 1, f, s1, h1, hf, ht => by
    have X1 := hX.t h1
    unfold v_X0_listen_31
    rw [show (4 : Int32) = nI 4 from rfl, nI_leI (by omega) (by omega)]
    refine ⟨fun z => by omega, fun _ => ⟨X1.S.o (r := 0) rfl, v_mostAlikeS hN hN1 X1 hF hq (f := f) (by omega) hqv (fun s2 h2 => ?_)⟩⟩
    have next := v_lisL hN hN1 hX hF hq hqv (x1 := x1) (Kr := Kr) hC hK c t (f + 1) s2 (aT_t h1 h2) (by omega) (by omega)
    have e : lsF C (f + 1) = if C f < (lsF C f).1 then (C f, nI f) else lsF C f := rfl
    rw [e] at next
    rw [← hC f]
    refine ⟨fun y z hz => ?_, fun y z hz => ?_⟩
    · rw [if_pos y] at next
      rw [nI_1] at hz
      rw [hz]
      exact next
    · rw [if_neg y] at next
      rw [nI_1] at hz
      rw [hz]
      exact next
end LL
section LW
variable {N : Nat × Nat} {m : mS} {lw : Option (List cL)} {W : Int32}
theorem w_lisL (hN : 402 ≤ N.1) {kp : Nat → Int32} {q : Nat} (hq : q ≤ 12) {g : mS} (ek : g.2.1 2 = kp) (hqv : kp 41 = nI q) (hl : fL kp lw q 0 (g.2.1 39)) (hW : ¬ onesF W 12 ≤ 0) {x1 : Int32} {Kr : Int32 → mS → Prop} {K : Int32 → Int32 → mS → Prop} {C : Nat → Int32} (hC : ∀ f, C f = mstF (fun n => fct kp lw n f) W q q) (hK : K (lsF C 4).2 (lsF C 4).1 g) : ∀ (c t f : Nat), f + c = 4 → c < t → w_listen_26 N x1 W Kr K t (lsF C f).2 (lsF C f).1 (nI f) g
  | _, 0, _, _, h => absurd h (Nat.not_lt_zero _)
  | 0, t + 1, f, hf, _ => by
    unfold w_listen_26
    have : f = 4 := by omega
    subst this
    exact ⟨fun _ => hK, fun z => absurd (nI_le (Nat.le_refl 4) (by omega)) z⟩
  | c + 1, t + 1, f, hf, ht => by
    have next := w_lisL hN hq ek hqv hl hW (x1 := x1) (Kr := Kr) hC hK c t (f + 1) (by omega) (by omega)
    have e : lsF C (f + 1) = if C f < (lsF C f).1 then (C f, nI f) else lsF C f := rfl
    rw [e] at next
    unfold w_listen_26
    rw [show (4 : Int32) = nI 4 from rfl, nI_leI (by omega) (by omega)]
    refine ⟨fun z => by omega, fun _ => ?_⟩
    unfold w_ones
    refine w_onesL ⟨fun z => absurd z hW, fun _ => ?_⟩ 12 N.1 0 (by omega) (by omega)
    unfold w_mostAlike
    refine w_ma5 (lw := lw) hN hq (f := f) (by omega) ek hqv hl ?_ q N.1 0 (by omega) (by omega)
    rw [← hC f]
    refine ⟨fun y z hz => ?_, fun y z hz => ?_⟩
    · rw [if_pos y] at next
      rw [nI_1] at hz
      rw [hz]
      exact next
    · rw [if_neg y] at next
      rw [nI_1] at hz
      rw [hz]
      exact next
theorem w_lis0 (hN : 402 ≤ N.1) {g : mS} (hW : onesF W 12 ≤ 0) {x1 : Int32} {Kr : Int32 → mS → Prop} {K : Int32 → Int32 → mS → Prop} {x3 x4 : Int32} (hK : K x3 x4 g) : w_listen_26 N x1 W Kr K N.1 x3 x4 0 g := by
  obtain ⟨t, ht⟩ : ∃ t, N.1 = t + 1 := ⟨N.1 - 1, by omega⟩
  rw [ht]
  unfold w_listen_26
  refine ⟨fun _ => hK, fun _ => ?_⟩
  unfold w_ones
  exact w_onesL ⟨fun _ => hK, fun z => absurd hW z⟩ 12 N.1 0 (by omega) (by omega)
theorem w_canBeF (hN : 402 ≤ N.1) (hN2 : 40 ≤ N.2) (hF : inF (m.2.1 2) lw) (hk : kpI (m.2.1 2)) {q V : Nat} (hq : q ≤ 12) (hqv : m.2.1 2 41 = nI q) (hV : V ≤ 6) (hVv : m.2.1 2 42 = nI V) {K : Int32 → mS → Prop} (hK : ∀ g, cE m g → fL (m.2.1 2) lw q 0 (g.2.1 39) → K (canB (m.2.1 2) lw V q) g) : w_canBe N m K := by
  unfold w_canBe w_laysFacts
  refine w_facts hN hN2 hF hk hq hqv (fun g hg hl => ?_) q N.1 0 m (cE_r m) ⟨fun j hj => absurd hj (Nat.not_lt_zero _), fun f hf => absurd hf (Nat.not_lt_zero _)⟩ (by omega) (by omega)
  exact w_can8 hN hk hV hVv hq hqv (eqP hg) hl (hK g hg hl) q N.1 0 (by omega) (by omega)
end LW
section OL
variable {N : tP} {s : tM} {x o : Nat} {K : tM → Prop}
theorem op_listen (hN : nOK N) (hX : RXo N s x o) (hK : ∀ s', RXo N s' x o → K s') (a : Int32) : v_X0_listen N x a s (pK o (w_listen (nP N) a) K) := by
  obtain ⟨L, M, rfl, hX, hm⟩ := hX
  have hS := hX.S
  obtain ⟨q, n1, n2⟩ := hX.I.1.2.2.2.2.1
  obtain ⟨V, V1, V2⟩ := hX.I.1.2.2.2.2.2.1
  obtain ⟨lw, hF⟩ := hX.inF
  have hN1 : 60 ≤ N.1 := by have := hN.1; omega
  have hN2 : 120 ≤ N.2.1 := by have := hN.2; omega
  have hM1 : 402 ≤ (nP N).1 := by have := hN.1; show 402 ≤ N.1; omega
  have hM2 : 40 ≤ (nP N).2 := by have := hN.2; show 40 ≤ N.2.1; omega
  obtain ⟨w, w1, w2⟩ := canB_n ((sM s o).2.1 2) lw V q n1
  have w3 : w < 4096 := Nat.lt_of_lt_of_le w1 (by
    have : 2 ^ q ≤ 2 ^ 12 := Nat.pow_le_pow_right (by decide) n1
    exact this)
  have hon : onesF (canB ((sM s o).2.1 2) lw V q) 12 ≤ 0 ↔ canB ((sM s o).2.1 2) lw V q = 0 := by
    rw [w2, show (0 : Int32) = nI 0 from rfl, nI_eq (by omega) (by omega)]
    have := ones_n w w3
    exact decide_eq_decide.mp this
  have aux : ∀ m1 (K2 : Int32 → mS → Prop), cE (sM s o) m1 → (bI (decide ((0 : Int32) ≤ a) && decide (a ≤ 1)) = 0 → K2 (-1) m1) → (¬ bI (decide ((0 : Int32) ≤ a) && decide (a ≤ 1)) = 0 → ∀ g, cE (sM s o) g → fL ((sM s o).2.1 2) lw q 0 (g.2.1 39) → w_listen_26 (nP N) a (canB ((sM s o).2.1 2) lw V q) K2 (fun x106 x107 s108 => ((x106 = (-1) → (K2 x106 s108)) ∧ (¬ x106 = (-1) → ((¬ a = 0 → (K2 x107 s108)) ∧ (a = 0 → (K2 x106 s108)))))) (nP N).1 (-1) 100000000 0 g) → w_listen (nP N) a m1 K2 := fun m1 K2 hc h0 h1 => by
    unfold w_listen
    have e2 := eqP hc
    refine w_liesS ⟨fun z => w_canBeF (lw := lw) hM1 hM2 (by rw [e2]; exact hF) (by rw [e2]; exact hX.I.1) n1 (by rw [e2]; exact n2) V1 (by rw [e2]; exact V2) (fun g hg hl => ?_), h0⟩
    rw [e2] at hl ⊢
    exact h1 z g (cE_t hc hg) hl
  unfold v_X0_listen
  refine ⟨hS.o (r := 0) rfl, v_canBeS hN2 hN1 hX hF n1 n2 V1 V2 (fun s1 h1 => v_inS ?_)⟩
  rw [inl (lo' := 0) (hi' := 1) (by decide) (by decide)]
  have X1 := hX.a h1
  have f1 : frM (mO s o) s s1 := frM_s (aS_M h1 hS) (fun _ => Or.inr)
  refine bI_c (fun hb => pfin X1 hm f1 rfl hK (fun m1 K2 hc h2 => aux m1 K2 hc (fun _ => h2 m1 hc) (fun z => ?_))) (fun hb => ⟨fun nz => ?_, fun yz => pfin X1 hm f1 rfl hK (fun m1 K2 hc h2 => aux m1 K2 hc (fun z => ?_) (fun _ g hg hl => ?_))⟩)
  · rw [hb] at z
    exact absurd rfl z
  · have hone : ¬ onesF (canB ((sM s o).2.1 2) lw V q) 12 ≤ 0 := fun z => nz (hon.mp z)
    refine v_lisL hN2 hN1 X1 hF n1 n2 (W := canB ((sM s o).2.1 2) lw V q) (C := fun f => mstF (fun n => fct ((sM s o).2.1 2) lw n f) (canB ((sM s o).2.1 2) lw V q) q q) (fun _ => rfl) (fun s2 h2 => ?_) 4 N.1 0 s1 (aT_r L s1) (by omega) (by omega)
    have X2 := X1.t h2
    have f2 : frM (mO s o) s s2 := frM_t f1 (frM_s (aT_M h2 X1.S) (fun _ => Or.inr))
    have hn1 : ¬ (lsF (fun f => mstF (fun n => fct ((sM s o).2.1 2) lw n f) (canB ((sM s o).2.1 2) lw V q) q q) 4).2 = -1 := fun z => by
      obtain ⟨j, j1, j2⟩ := lsF_n (C := fun f => mstF (fun n => fct ((sM s o).2.1 2) lw n f) (canB ((sM s o).2.1 2) lw V q) q q) (by
        obtain ⟨u, u1, u2⟩ := mstF_n (fun n => fct ((sM s o).2.1 2) lw n 0) (canB ((sM s o).2.1 2) lw V q) q q
        show mstF (fun n => fct ((sM s o).2.1 2) lw n 0) (canB ((sM s o).2.1 2) lw V q) q q < 100000000
        rw [u2, i32_lt, nI_toInt (by omega), show (100000000 : Int32).toInt = 100000000 by decide]
        omega) 3
      rw [z] at j2
      have := congrArg Int32.toInt j2
      rw [nI_toInt (by omega), m1toI] at this
      omega
    refine ⟨fun na => pfin X2 hm f2 rfl hK (fun m1 K2 hc h2 => aux m1 K2 hc (fun z => ?_) (fun _ g hg hl => ?_)), fun ya => pfin X2 hm f2 rfl hK (fun m1 K2 hc h2 => aux m1 K2 hc (fun z => ?_) (fun _ g hg hl => ?_))⟩
    · rw [hb] at z
      exact absurd z (by decide)
    · refine w_lisL (lw := lw) hM1 n1 (eqP hg) n2 hl hone (C := fun f => mstF (fun n => fct ((sM s o).2.1 2) lw n f) (canB ((sM s o).2.1 2) lw V q) q q) (fun _ => rfl) ?_ 4 (nP N).1 0 (by omega) (by omega)
      exact ⟨fun z => absurd z hn1, fun _ => ⟨fun _ => h2 g hg, fun z => absurd z na⟩⟩
    · rw [hb] at z
      exact absurd z (by decide)
    · refine w_lisL (lw := lw) hM1 n1 (eqP hg) n2 hl hone (C := fun f => mstF (fun n => fct ((sM s o).2.1 2) lw n f) (canB ((sM s o).2.1 2) lw V q) q q) (fun _ => rfl) ?_ 4 (nP N).1 0 (by omega) (by omega)
      exact ⟨fun z => absurd z hn1, fun _ => ⟨fun z => absurd ya z, fun _ => h2 g hg⟩⟩
  · rw [hb] at z
    exact absurd z (by decide)
  · exact w_lis0 hM1 (hon.mpr yz) ⟨fun _ => h2 g hg, fun z => absurd rfl z⟩
end OL
