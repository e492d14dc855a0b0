set_option maxRecDepth 100000
/-! ===== parallels, both ===== -/
section PB
variable {N : Nat × Nat} {m : mS}
theorem w_ivS {n : Nat} (hn : n < 12) {kp : Nat → Int32} (ek : m.2.1 2 = kp) {K : Int32 → mS → Prop} (hK : K (ivF kp n) m) : w_interval (nI n) m K := by
  unfold w_interval w_apartOf
  have e12 : (12 : Int32) + nI n = nI (12 + n) := nI_add 12 n
  rw [nI_0p, e12, mAt_n (by omega), mAt_n (by omega), ek]
  refine ⟨vpk (by omega) (by decide), vpk (by omega) (by decide), ?_⟩
  unfold ivF at hK
  unfold w_bare
  refine ⟨fun z => ?_, fun z => ?_⟩
  · dsimp only at hK
    rw [if_pos z] at hK
    exact hK
  · dsimp only at hK
    rw [if_neg z] at hK
    exact hK
theorem w_parL {kp : Nat → Int32} (ek : m.2.1 2 = kp) {q : Nat} (hq : q ≤ 12) (hqv : kp 41 = nI q) {a : Int32} {Kr K : Int32 → mS → Prop} (hK : K (parF kp a (q - 1)) m) : ∀ (c t i : Nat), i + c = q - 1 → c < t → w_parallels_16 N a Kr K t (parF kp a i) (nI (i + 1)) m
  | _, 0, _, _, h => absurd h (Nat.not_lt_zero _)
  | 0, t + 1, i, hi, _ => by
    unfold w_parallels_16
    refine w_manyS (v := nI q) (by rw [ek]; exact hqv) ?_
    rw [nI_lle (by omega) (by omega)]
    have : i = q - 1 := by omega
    subst this
    exact ⟨fun _ => hK, fun z => absurd (by omega) z⟩
  | c + 1, t + 1, i, hi, ht => by
    have next := w_parL ek hq hqv hK (Kr := Kr) c t (i + 1) (by omega) (by omega)
    have e : parF kp a (i + 1) = parF kp a i ||| (if parB kp a (i + 1) = true then 1 <<< (nI (i + 1) &&& 31) else 0) := rfl
    rw [e] at next
    have ep : nI (i + 1) - 1 = nI i := nI_pred i
    have ei : parB kp a (i + 1) = (decide (ivF kp (i + 1) = a) && (decide (ivF kp i = a) && !decide (kp (i + 1) - kp i = 0))) := rfl
    have no : parB kp a (i + 1) = false → ∀ y, y = parF kp a i ||| 0 → ∀ z, z = nI (i + 1) + 1 → w_parallels_16 N a Kr K t y z m := fun hb y hy z hz => by
      rw [hb, if_neg (by decide)] at next
      rw [nI_1] at hz
      rw [hy, hz]
      exact next
    have yes : parB kp a (i + 1) = true → ∀ y, y = parF kp a i ||| (1 <<< (nI (i + 1) &&& 31)) → ∀ z, z = nI (i + 1) + 1 → w_parallels_16 N a Kr K t y z m := fun hb y hy z hz => by
      rw [if_pos hb] at next
      rw [nI_1] at hz
      rw [hy, hz]
      exact next
    have h0 : ¬ nI (i + 1) = 0 := by
      rw [show (0 : Int32) = nI 0 from rfl, nI_eq (by omega) (by omega)]
      omega
    unfold w_parallels_16
    refine w_manyS (v := nI q) (by rw [ek]; exact hqv) ?_
    rw [nI_lle (by omega) (by omega)]
    refine ⟨fun z => by omega, fun _ => ?_⟩
    unfold w_isParallel
    rw [ep]
    refine w_ivS (by omega) ek ⟨fun ne => ⟨fun _ => no (by rw [ei, decide_eq_false ne, Bool.false_and]), fun z => absurd rfl z⟩, fun eq => w_ivS (by omega) ek ⟨fun eq2 => ?_, fun ne => ⟨fun _ => no (by rw [ei, decide_eq_false ne, Bool.false_and, Bool.and_false]), fun z => absurd rfl z⟩⟩⟩
    unfold w_leapOf
    rw [nI_0p, ep, mAt_n (by omega), mAt_n (by omega), ek]
    exact ⟨fun _ => ⟨vpk (by omega) (by decide), vpk (by omega) (by decide), fun z => ⟨fun _ => no (by rw [ei, decide_eq_true z, Bool.not_true, Bool.and_false, Bool.and_false]), fun w => absurd rfl w⟩, fun nz => ⟨fun w => absurd w (by decide), fun _ => yes (by rw [ei, decide_eq_true eq, decide_eq_true eq2, decide_eq_false nz]; rfl)⟩⟩, fun z => absurd z h0⟩
end PB
section OP2
variable {N : tP} {s : tM} {x o : Nat} {K : tM → Prop}
theorem op_parallels (hN : nOK N) (hX : RXo N s x o) (hK : ∀ s', RXo N s' x o → K s') (a : Int32) : v_X0_parallels N x a s (pK o (w_parallels (nP N) a) K) := by
  obtain ⟨L, M, rfl, hX, hm⟩ := hX
  obtain ⟨q, n1, n2⟩ := hX.I.1.2.2.2.2.1
  unfold v_X0_parallels
  refine v_inS ?_
  rw [inl (lo' := 0) (hi' := 11) (by decide) (by decide)]
  refine bI_d (fun hb => ?_) (fun hb => pfin hX hm (frM_r _ _) rfl hK (fun m1 K2 hc h2 => ?_))
  · refine v_parL hX n1 n2 (a := a) ?_ (q - 1) N.1 0 (by omega) (by have := hN.1; omega)
    refine pfin hX hm (frM_r _ _) rfl hK (fun m1 K2 hc h2 => ?_)
    unfold w_parallels
    refine w_liesS ?_
    rw [hb]
    refine ⟨fun _ => ?_, fun z => absurd z (by decide)⟩
    exact w_parL (eqP hc) n1 n2 (h2 m1 hc) (q - 1) (nP N).1 0 (by omega) (by have := hN.1; show q - 1 < N.1; omega)
  · unfold w_parallels
    refine w_liesS ?_
    rw [hb]
    exact ⟨fun z => absurd rfl z, fun _ => h2 m1 hc⟩
end OP2
