set_option maxRecDepth 100000
/-! ===== canBe, the reference and both ===== -/
/-- the facts laid: all of the notes before i, and c of i's -/
def fL (kp : Nat → Int32) (lw : Option (List cL)) (i c : Nat) (r : Nat → Int32) : Prop := (∀ j, j < i → ∀ f, f < 4 → r (4 * j + f) = fct kp lw j f) ∧ ∀ f, f < c → r (4 * i + f) = fct kp lw i f
theorem fL_w {kp : Nat → Int32} {lw : Option (List cL)} {i c : Nat} {g : mS} (hi : i < 12) (hc : c < 4) (h : fL kp lw i c (g.2.1 39)) {v : Int32} (hv : v = fct kp lw i c) : fL kp lw i (c + 1) ((mI g 39 (nI (4 * i + c)) v).2.1 39) := by
  refine ⟨fun j hj f hf => ?_, fun f hf => ?_⟩
  · rw [mI_at _ _ _ (by omega), if_neg (by omega)]
    exact h.1 j hj f hf
  · rw [mI_at _ _ _ (by omega)]
    by_cases e : f = c
    · rw [if_pos (by omega), e, hv]
    · rw [if_neg (by omega)]
      exact h.2 f (by omega)
theorem fL_n {kp : Nat → Int32} {lw : Option (List cL)} {i : Nat} {r : Nat → Int32} (h : fL kp lw i 4 r) : fL kp lw (i + 1) 0 r := by
  refine ⟨fun j hj f hf => ?_, fun f hf => absurd hf (Nat.not_lt_zero _)⟩
  by_cases e : j = i
  · rw [e]
    exact h.2 f hf
  · exact h.1 j (by omega) f hf
theorem cE_39 (m : mS) (i v : Int32) : cE m (mI m 39 i v) := ⟨fun _ _ => rfl, fun q hq => mI_o _ _ _ (by
  intro z
  subst z
  revert hq
  decide)⟩
section CW
variable {N : Nat × Nat} {m : mS} {lw : Option (List cL)}
theorem w_facts (hN : 402 ≤ N.1) (hN2 : 40 ≤ N.2) (hF : inF (m.2.1 2) lw) (hk : kpI (m.2.1 2)) {q : Nat} (hq : q ≤ 12) (hqv : m.2.1 2 41 = nI q) {Kr K : mS → Prop} (hK : ∀ g, cE m g → fL (m.2.1 2) lw q 0 (g.2.1 39) → K g) : ∀ (c t i : Nat) (g : mS), cE m g → fL (m.2.1 2) lw i 0 (g.2.1 39) → i + c = q → c < t → w_laysFacts_2 N Kr K t (nI i) g
  | _, 0, _, _, _, _, _, h => absurd h (Nat.not_lt_zero _)
  | 0, t + 1, i, g, hg, hl, hi, _ => by
    have ek := eqP hg
    unfold w_laysFacts_2
    refine w_manyS (v := nI q) (by rw [ek]; exact hqv) ?_
    rw [nI_lle (by omega) (by omega)]
    have : i = q := by omega
    subst this
    exact ⟨fun _ => hK g hg hl, fun z => absurd (Nat.le_refl _) z⟩
  | c + 1, t + 1, i, g, hg, hl, hi, ht => by
    have ek := eqP hg
    have hi12 : i < 12 := by omega
    have hnt := kpN_nt hk.1 hi12
    unfold w_laysFacts_2
    refine w_manyS (v := nI q) (by rw [ek]; exact hqv) ?_
    rw [nI_lle (by omega) (by omega)]
    refine ⟨fun z => by omega, fun _ => w_takesNowS hi12 (fun g1 d1 r1 => ?_)⟩
    have c1 : cE m g1 := cE_t hg (cE_D d1 (by decide) (by decide))
    have ek1 := eqP c1
    rw [ek] at r1
    have l1 : fL (m.2.1 2) lw i 0 (g1.2.1 39) := by
      rw [d1.2.1 39 (by decide)]
      exact hl
    have e12 : (12 : Int32) + nI i = nI (12 + i) := nI_add 12 i
    have e4 : (4 : Int32) * nI i = nI (4 * i) := pk_mul 4 i
    unfold w_apartOf
    rw [nI_0p, e12, mAt_n (by omega), mAt_n (by omega), ek1, e4]
    refine ⟨vpk (by omega) (by decide), vpk (by omega) (by decide), vpk (by omega) (by decide), fun g2 h2 => ?_⟩
    have c2 : cE m g2 := by
      rw [h2]
      exact cE_t c1 (cE_39 _ _ _)
    have l2 : fL (m.2.1 2) lw i 1 (g2.2.1 39) := by
      rw [h2]
      exact fL_w hi12 (by decide) l1 rfl
    have ek2 := eqP c2
    have a41 : nI (4 * i) + 1 = nI (4 * i + 1) := nI_add (4 * i) 1
    have a42 : nI (4 * i) + 2 = nI (4 * i + 2) := nI_add (4 * i) 2
    have a43 : nI (4 * i) + 3 = nI (4 * i + 3) := nI_add (4 * i) 3
    have r2 : askR g2 i (m.2.1 2 i) (prevI (m.2.1 2) i) := fun k hk => by
      have := r1 k hk
      rw [ek1] at this
      rw [ek2, h2, mI_o _ _ _ (by decide)]
      exact this
    have lp : ∀ {K2 : Int32 → mS → Prop}, K2 (fct (m.2.1 2) lw i 1) g2 → w_leapOf (nI i) g2 K2 := fun {K2} h => by
      unfold w_leapOf
      have h0 : nI i = 0 ↔ i = 0 := by
        rw [show (0 : Int32) = nI 0 from rfl, nI_eq (by omega) (by omega)]
      rw [h0]
      refine ⟨fun nn => ?_, fun yn => ?_⟩
      · obtain ⟨k, rfl⟩ : ∃ k, i = k + 1 := ⟨i - 1, by omega⟩
        rw [nI_0p, show nI (k + 1) - 1 = nI k from nI_pred k, mAt_n (by omega), mAt_n (by omega), ek2]
        exact ⟨vpk (by omega) (by decide), vpk (by omega) (by decide), h⟩
      · rw [yn] at h
        exact h
    refine lp ?_
    rw [a41, a42, a43]
    refine ⟨vpk (by omega) (by decide), fun g3 h3 => ?_⟩
    have c3 : cE m g3 := by
      rw [h3]
      exact cE_t c2 (cE_39 _ _ _)
    have l3 : fL (m.2.1 2) lw i 2 (g3.2.1 39) := by
      rw [h3]
      exact fL_w hi12 (by decide) l2 rfl
    have ek3 := eqP c3
    have r3 : askR g3 i (m.2.1 2 i) (prevI (m.2.1 2) i) := fun k hk => by
      have := r2 k hk
      rw [ek2] at this
      rw [ek3, h3, mI_o _ _ _ (by decide)]
      exact this
    refine w_costsS hN hN2 (lw := lw) (by rw [ek3]; exact hF) r3 (by rw [ek3]; exact hnt) (fun g4 d4 => ?_)
    rw [ek3]
    have c4 : cE m g4 := cE_t c3 (cE_D d4 (by decide) (by decide))
    have ek4 := eqP c4
    have l4 : fL (m.2.1 2) lw i 2 (g4.2.1 39) := by
      rw [d4.2.1 39 (by decide)]
      exact l3
    refine ⟨vpk (by omega) (by decide), fun g5 h5 => ?_⟩
    have c5 : cE m g5 := by
      rw [h5]
      exact cE_t c4 (cE_39 _ _ _)
    have l5 : fL (m.2.1 2) lw i 3 (g5.2.1 39) := by
      rw [h5]
      exact fL_w hi12 (by decide) l4 rfl
    have ek5 := eqP c5
    have r5 : askR g5 i (m.2.1 2 i) (prevI (m.2.1 2) i) := fun k hk => by
      have := r3 k hk
      rw [ek3] at this
      rw [ek5, h5, mI_o _ _ _ (by decide), d4.2.1 26 (by decide)]
      exact this
    refine w_earnsS hN hN2 (lw := lw) (by rw [ek5]; exact hF) r5 (by rw [ek5]; exact hnt) (fun g6 d6 => ?_)
    rw [ek5]
    have c6 : cE m g6 := cE_t c5 (cE_D d6 (by decide) (by decide))
    have l6 : fL (m.2.1 2) lw i 3 (g6.2.1 39) := by
      rw [d6.2.1 39 (by decide)]
      exact l5
    refine ⟨vpk (by omega) (by decide), fun g7 h7 y hy => ?_⟩
    have c7 : cE m g7 := by
      rw [h7]
      exact cE_t c6 (cE_39 _ _ _)
    have l7 : fL (m.2.1 2) lw i 4 (g7.2.1 39) := by
      rw [h7]
      exact fL_w hi12 (by decide) l6 rfl
    rw [nI_1] at hy
    rw [hy]
    exact w_facts hN hN2 hF hk hq hqv hK c t (i + 1) g7 c7 (fL_n l7) (by omega) (by omega)
theorem w_isSoL {kp : Nat → Int32} (hk : kpI kp) {V : Nat} (hV : V ≤ 6) (hVv : kp 42 = nI V) {q : Nat} {n : Nat} (hn : n < q) (hq : q ≤ 12) {g : mS} (ek : g.2.1 2 = kp) (hl : fL kp lw q 0 (g.2.1 39)) {Kr K : Int32 → mS → Prop} (hK : K (bI (soB kp lw n V)) g) : ∀ (c t k : Nat), k + c = V → c < t → w_isSo_4 N (nI n) Kr K t (bI (soB kp lw n k)) (nI k) g
  | _, 0, _, _, h => absurd h (Nat.not_lt_zero _)
  | 0, t + 1, k, hk', _ => by
    unfold w_isSo_4
    rw [show mAt g 2 42 = nI V from (mAt_n (k := 42) (by decide)).trans (by rw [ek]; exact hVv), nI_lle (by omega) (by omega)]
    have : k = V := by omega
    subst this
    exact ⟨vpk (k := 42) (by decide) (by decide), fun _ => hK, fun z => absurd (Nat.le_refl _) z⟩
  | c + 1, t + 1, k, hk', ht => by
    obtain ⟨kd1, kd2⟩ := kd_n (k := k) (hk.2.2.2.2.2.2.1 k (by omega))
    have next := w_isSoL hk hV hVv hn hq ek hl hK (Kr := Kr) c t (k + 1) (by omega) (by omega)
    unfold w_isSo_4
    have e0 : (25 : Int32) + 2 * nI k = nI (25 + 2 * k) := by
      rw [show (2 : Int32) * nI k = nI (2 * k) from pk_mul 2 k]
      exact nI_add 25 (2 * k)
    have e1 : nI (25 + 2 * k) + 1 = nI (26 + 2 * k) := (nI_1 _).trans (congrArg nI (by omega))
    have e2 : (4 : Int32) * nI n + nI (kd kp k) = nI (4 * n + kd kp k) := by
      rw [show (4 : Int32) * nI n = nI (4 * n) from pk_mul 4 n]
      exact nI_add _ _
    rw [show mAt g 2 42 = nI V from (mAt_n (k := 42) (by decide)).trans (by rw [ek]; exact hVv), nI_lle (by omega) (by omega), e0, mAt_n (by omega), ek, kd2, e2, e1, mAt_n (by omega), mAt_n (by omega), ek, hl.1 n hn _ kd1]
    refine ⟨vpk (k := 42) (by decide) (by decide), fun z => by omega, fun _ => ⟨fun z y hy => ?_, fun z => ⟨vpk (by omega) (by decide), vpk (by omega) (by decide), vpk (by omega) (by decide), fun ne y hy => ?_, fun eq y hy => ?_⟩⟩⟩
    · rw [nI_1] at hy
      have hb : soB kp lw n k = false := by
        cases hs : soB kp lw n k with
        | false => rfl
        | true =>
          rw [hs] at z
          exact absurd z (by decide)
      have e : soB kp lw n (k + 1) = (soB kp lw n k && decide (fct kp lw n (kd kp k) = kp (26 + 2 * k))) := rfl
      rw [e, hb, Bool.false_and] at next
      rw [hy]
      exact next
    · rw [nI_1] at hy
      have e : soB kp lw n (k + 1) = (soB kp lw n k && false) := congrArg _ (decide_eq_false ne)
      rw [e, Bool.and_false] at next
      rw [hy]
      exact next
    · rw [nI_1] at hy
      have hb : soB kp lw n k = true := by
        cases hs : soB kp lw n k with
        | true => rfl
        | false =>
          rw [hs] at z
          exact absurd rfl z
      have e : soB kp lw n (k + 1) = (soB kp lw n k && true) := congrArg _ (decide_eq_true eq)
      rw [e, hb] at next
      rw [hy]
      exact next
theorem w_can8 (hN : 402 ≤ N.1) {kp : Nat → Int32} (hk : kpI kp) {V : Nat} (hV : V ≤ 6) (hVv : kp 42 = nI V) {q : Nat} (hq : q ≤ 12) (hqv : kp 41 = nI q) {g : mS} (ek : g.2.1 2 = kp) (hl : fL kp lw q 0 (g.2.1 39)) {Kr K : Int32 → mS → Prop} (hK : K (canB kp lw V q) g) : ∀ (c t i : Nat), i + c = q → c < t → w_canBe_8 N Kr K t (canB kp lw V i) (nI i) g
  | _, 0, _, _, h => absurd h (Nat.not_lt_zero _)
  | 0, t + 1, i, hi, _ => by
    unfold w_canBe_8
    refine w_manyS (v := nI q) (by rw [ek]; exact hqv) ?_
    rw [nI_lle (by omega) (by omega)]
    have : i = q := by omega
    subst this
    exact ⟨fun _ => hK, fun z => absurd (Nat.le_refl _) z⟩
  | c + 1, t + 1, i, hi, ht => by
    have next := w_can8 hN hk hV hVv hq hqv ek hl hK (Kr := Kr) c t (i + 1) (by omega) (by omega)
    have e : canB kp lw V (i + 1) = canB kp lw V i ||| (if soB kp lw i V = true then 1 <<< (nI i &&& 31) else 0) := rfl
    rw [e] at next
    unfold w_canBe_8
    refine w_manyS (v := nI q) (by rw [ek]; exact hqv) ?_
    rw [nI_lle (by omega) (by omega)]
    refine ⟨fun z => by omega, fun _ => ?_⟩
    unfold w_isSo
    refine w_isSoL hk hV hVv (n := i) (by omega) hq ek hl ⟨bI_x _, ?_⟩ V N.1 0 (by omega) (by omega)
    refine bI_c (fun hb y hy z hz => ?_) (fun hb y hy z hz => ?_)
    · rw [hb, if_neg (by decide)] at next
      rw [nI_1] at hz
      rw [hy, hz]
      exact next
    · rw [if_pos hb] at next
      rw [nI_1] at hz
      rw [hy, hz]
      exact next
theorem w_canBeS (hN : 402 ≤ N.1) (hN2 : 40 ≤ N.2) (hF : inF (m.2.1 2) lw) (hk : kpI (m.2.1 2)) {q V : Nat} (hq : q ≤ 12) (hqv : m.2.1 2 41 = nI q) (hV : V ≤ 6) (hVv : m.2.1 2 42 = nI V) {K : Int32 → mS → Prop} (hK : ∀ g, cE m g → K (canB (m.2.1 2) lw V q) g) : w_canBe N m K := by
  unfold w_canBe w_laysFacts
  refine w_facts hN hN2 hF hk hq hqv (fun g hg hl => ?_) q N.1 0 m (cE_r m) ⟨fun j hj => absurd hj (Nat.not_lt_zero _), fun f hf => absurd hf (Nat.not_lt_zero _)⟩ (by omega) (by omega)
  exact w_can8 hN hk hV hVv hq hqv (eqP hg) hl (hK g hg) q N.1 0 (by omega) (by omega)
end CW
section OC
variable {N : tP} {s : tM} {x o : Nat} {K : tM → Prop}
theorem op_canBe (hN : nOK N) (hX : RXo N s x o) (hK : ∀ s', RXo N s' x o → K s') : v_X0_canBe N x s (pK o (w_canBe (nP N)) K) := by
  obtain ⟨L, M, rfl, hX, hm⟩ := hX
  have hS := hX.S
  obtain ⟨n, n1, n2⟩ := hX.I.1.2.2.2.2.1
  obtain ⟨V, V1, V2⟩ := hX.I.1.2.2.2.2.2.1
  obtain ⟨lw, hF⟩ := hX.inF
  have hN1 : 60 ≤ N.1 := by have := hN.1; omega
  have hN2 : 120 ≤ N.2.1 := by have := hN.2; omega
  refine v_canBeS hN2 hN1 hX hF n1 n2 V1 V2 (fun s1 h1 => pfin (hX.a h1) hm (frM_s (aS_M h1 hS) (fun _ => Or.inr)) rfl hK (fun m1 K2 hc h2 => ?_))
  have e2 := eqP hc
  refine w_canBeS (N := nP N) (lw := lw) (by have := hN.1; show 402 ≤ N.1; omega) (by have := hN.2; show 40 ≤ N.2.1; omega) (by rw [e2]; exact hF) (by rw [e2]; exact hX.I.1) n1 (by rw [e2]; exact n2) V1 (by rw [e2]; exact V2) (fun g hg => ?_)
  rw [e2]
  exact h2 g (cE_t hc hg)
end OC
