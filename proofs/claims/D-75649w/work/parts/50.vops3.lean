set_option maxRecDepth 100000
/-! ===== more small public methods: of, all, drawn, terms, heard ===== -/
abbrev nP (N : tP) : Nat × Nat := (N.1, N.2.1)
/-- the fuels -/
def nOK (N : tP) : Prop := 6000 ≤ N.1 ∧ 200 ≤ N.2.1
section O3
variable {N : tP} {s : tM} {x o : Nat} {K : tM → Prop} {L : Nat → Nat} {M : Nat → Prop}
theorem RX.kI {O : Nat → Prop} {m : mS} (h : RX N s L M O m) : kpI (m.2.1 2) := h.I.1
theorem eqP {m m1 : mS} (h : cE m m1) : m1.2.1 2 = m.2.1 2 := h.2 2 (by decide)
theorem op_all (hN : nOK N) (hX : RXo N s x o) (hK : ∀ s', RXo N s' x o → K s') (a : Int32) : v_X0_all N x a s (pK o (w_all (nP N) a) K) := by
  obtain ⟨L, M, rfl, hX, hm⟩ := hX
  have hS := hX.S
  have o0 := hS.o (r := 0) rfl
  obtain ⟨n, n1, n2⟩ := hX.kI.2.2.2.2.1
  obtain ⟨lw, hF⟩ := hX.inF
  have z0 : (0 : Int32).toInt = 0 := by decide
  have z2 : (2 : Int32).toInt = 2 := by decide
  have fin : ∀ w, w ≤ 2 → a = nI w → ∀ s1, aS L s s1 → pK o (w_all (nP N) a) K (sumI (mOne w ((sM s o).2.1 2) lw) n) s1 := fun w hw ha s1 h1 => by
    refine pfin (hX.a h1) hm (frM_s (aS_M h1 hS) (fun _ => Or.inr)) rfl hK (fun m1 K2 hc h2 => ?_)
    unfold w_all
    have e : (decide ((0 : Int32) ≤ a) && decide (a ≤ 2)) = true := by
      have : w = 0 ∨ w = 1 ∨ w = 2 := by omega
      rcases this with rfl | rfl | rfl <;> rw [ha] <;> decide
    refine w_liesS ?_
    rw [e, ha]
    refine ⟨fun z => absurd z (by decide), fun _ => ?_⟩
    have hF1 : inF (m1.2.1 2) lw := by rw [eqP hc]; exact hF
    refine w_allS (N := nP N) (by have := hN.1; show 402 ≤ N.1; omega) (by have := hN.2; show 40 ≤ N.2.1; omega) hF1 (by rw [eqP hc]; exact hX.kI.1) (m := n) (by rw [eqP hc]; exact n2) n1 hw (fun g hg => ?_)
    rw [eqP hc]
    exact h2 g (cE_t hc (cE_D hg (by decide) (by decide)))
  have hN1 : 60 ≤ N.1 := by have := hN.1; omega
  have hN2 : 120 ≤ N.2.1 := by have := hN.2; omega
  unfold v_X0_all
  refine ⟨fun n2' => v_inS (bI_c (fun hb => ?_) (fun hb => ⟨o0, ?_⟩)), fun y2 => ⟨o0, ?_⟩⟩
  · refine pfin hX hm (frM_r _ _) rfl hK (fun m1 K2 hc h2 => ?_)
    unfold w_all
    have e : (decide ((0 : Int32) ≤ a) && decide (a ≤ 2)) = false := by
      rw [inl (lo' := 0) (hi' := 1) (by decide) (by decide)] at hb
      have z1 : (1 : Int32).toInt = 1 := by decide
      simp only [i32_le, z0, z1, Bool.and_eq_false_iff, decide_eq_false_iff_not] at hb
      simp only [i32_le, z0, z2, Bool.and_eq_false_iff, decide_eq_false_iff_not]
      have hne : a.toInt ≠ 2 := fun z => n2' (Int32.toInt_inj.mp (z.trans z2.symm))
      omega
    refine w_liesS ?_
    rw [e]
    exact ⟨fun _ => h2 m1 hc, fun z => absurd rfl z⟩
  · rw [inl (lo' := 0) (hi' := 1) (by decide) (by decide)] at hb
    have hr := in_t hb
    have z1 : (1 : Int32).toInt = 1 := by decide
    rw [z0, z1] at hr
    obtain ⟨w, w1, w2⟩ := i32N (c := a) (by omega)
    rw [w1]
    have := v_sumOfS (w := w) (K := pK o (w_all (nP N) a) K) hN2 hN1 hX hF n2 n1 (by omega) (fun s1 h1 => fin w (by omega) w1 s1 h1)
    rw [w1] at this
    exact this
  · exact v_barredS hN2 hN1 hX hF n2 n1 (fun s1 h1 => fin 2 (by omega) y2 s1 h1)
theorem op_of (hN : nOK N) (hX : RXo N s x o) (hK : ∀ s', RXo N s' x o → K s') (a b : Int32) : v_X0_of N x a b s (pK o (w_of (nP N) a b) K) := by
  obtain ⟨L, M, rfl, hX, hm⟩ := hX
  have hS := hX.S
  have o0 := hS.o (r := 0) rfl
  have o44 := hS.o (r := 44) rfl
  obtain ⟨n, n1, n2⟩ := hX.kI.2.2.2.2.1
  obtain ⟨lw, hF⟩ := hX.inF
  have hmany := hX.many
  rw [n2] at hmany
  have b44 := hS.2.2.1.2.1 44 (Or.inr (Or.inr (Or.inr (Or.inl rfl))))
  have th : tR s (L 44) 1 = L 444 := b44.2
  have tu : tR s (L 44) 0 = L 244 := b44.1
  have hN1 : 60 ≤ N.1 := by have := hN.1; omega
  have hN2 : 120 ≤ N.2.1 := by have := hN.2; omega
  have hM1 : 402 ≤ (nP N).1 := by have := hN.1; show 402 ≤ N.1; omega
  have hM2 : 40 ≤ (nP N).2 := by have := hN.2; show 40 ≤ N.2.1; omega
  unfold v_X0_of
  refine ⟨o0, v_isNoteS hS hmany n1 (bI_d (fun hb c hc => ?_) (fun hb => ?_))⟩
  · subst hc
    obtain ⟨k, hk, rfl⟩ := isNI_t (by omega) hb
    have hw : ∀ m1 (K2 : Int32 → mS → Prop), cE (sM s o) m1 → (∀ s1, mD [] [26] [] m1 s1 → askR s1 k ((sM s o).2.1 2 k) (prevI ((sM s o).2.1 2) k) → ((c = 0 → K2 ((sM s o).2.1 2 (12 + k)) s1) ∧ (c = 1 → K2 ((sM s o).2.1 2 k) s1) ∧ (c = 2 → w_costsNow (nP N) s1 K2) ∧ (c = 3 → w_earnsNow (nP N) s1 K2) ∧ (c = 4 → w_isBarred (nP N) s1 (fun x117 s118 => (x117 = 0 → K2 0 s118) ∧ (¬ x117 = 0 → K2 1 s118))) ∧ (¬ c = 0 → ¬ c = 1 → ¬ c = 2 → ¬ c = 3 → ¬ c = 4 → K2 (-1) s1))) → w_of (nP N) (nI k) c m1 K2 := fun m1 K2 hc h => by
      unfold w_of
      refine w_isNoteS (by rw [eqP hc]; exact n2) n1 ?_
      rw [hb]
      refine ⟨fun _ => w_takesNowS (by omega) (fun s1 d1 r1 => ?_), fun z => absurd z (by decide)⟩
      rw [eqP hc] at r1
      obtain ⟨g0, g1, g2, g3, g4, g5⟩ := h s1 d1 r1
      have ek : s1.2.1 2 = (sM s o).2.1 2 := (d1.2.1 2 (by decide)).trans (eqP hc)
      have e12 : (12 : Int32) + nI k = nI (12 + k) := nI_add 12 k
      rw [nI_0p, e12, mAt_n (by omega), mAt_n (by omega), ek]
      exact ⟨fun z => ⟨vpk (by omega) (by decide), g0 z⟩, fun z => ⟨vpk (by omega) (by decide), g1 z⟩, g2, g3, g4, g5⟩
    have hcE : ∀ m1 s1, cE (sM s o) m1 → mD [] [26] [] m1 s1 → cE (sM s o) s1 := fun m1 s1 hc d => cE_t hc (cE_D d (by decide) (by decide))
    have hcE2 : ∀ s1 s2, cE (sM s o) s1 → mD teF [] [] s1 s2 → cE (sM s o) s2 := fun s1 s2 hc d => cE_t hc (cE_D d (by decide) (by decide))
    have hFs : ∀ s1, cE (sM s o) s1 → inF (s1.2.1 2) lw := fun s1 hc => by rw [eqP hc]; exact hF
    have hnt : ∀ s1, cE (sM s o) s1 → ntOK (s1.2.1 2) k ((sM s o).2.1 2 k) (prevI ((sM s o).2.1 2) k) := fun s1 hc => by
      rw [eqP hc]
      exact kpN_nt hX.kI.1 (by omega)
    have lit : ∀ p q : Int32, p ≠ q → c = p → ∀ {A : Prop}, c = q → A := fun p q hpq hp A hq => absurd (hp.symm.trans hq) hpq
    refine ⟨fun c0 => ⟨o0, v_booksS hS ⟨o44, ?_⟩⟩, fun c1 => ⟨o0, v_booksS hS ⟨o44, ?_⟩⟩, fun c2 => ⟨o0, ?_⟩, fun c3 => ⟨o0, ?_⟩, fun c4 => ⟨o0, ?_⟩, fun c0 c1 c2 c3 c4 => ?_⟩
    · rw [tu, nI_clamp (by omega), hX.u (n := k) (by omega)]
      refine ⟨⟨12, hS.a (r := 244) rfl, vpk (by omega) (by decide)⟩, pfin hX hm (frM_r _ _) rfl hK (fun m1 K2 hc h2 => hw m1 K2 hc (fun s1 d1 r1 => ?_))⟩
      exact ⟨fun _ => h2 s1 (hcE m1 s1 hc d1), lit 0 1 (by decide) c0, lit 0 2 (by decide) c0, lit 0 3 (by decide) c0, lit 0 4 (by decide) c0, fun z => absurd c0 z⟩
    · rw [th, nI_clamp (by omega), hX.h (n := k) (by omega)]
      refine ⟨⟨12, hS.a (r := 444) rfl, vpk (by omega) (by decide)⟩, pfin hX hm (frM_r _ _) rfl hK (fun m1 K2 hc h2 => hw m1 K2 hc (fun s1 d1 r1 => ?_))⟩
      exact ⟨lit 1 0 (by decide) c1, fun _ => h2 s1 (hcE m1 s1 hc d1), lit 1 2 (by decide) c1, lit 1 3 (by decide) c1, lit 1 4 (by decide) c1, fun _ z => absurd c1 z⟩
    · refine v_costsHS hN2 hN1 hX hF (by omega) (fun s1 a1 => pfin (hX.a a1) hm (frM_s (aS_M a1 hS) (fun _ => Or.inr)) rfl hK (fun m1 K2 hc h2 => hw m1 K2 hc (fun s1 d1 r1 => ?_)))
      have hc1 := hcE m1 s1 hc d1
      refine ⟨lit 2 0 (by decide) c2, lit 2 1 (by decide) c2, fun _ => ?_, lit 2 3 (by decide) c2, lit 2 4 (by decide) c2, fun _ _ z => absurd c2 z⟩
      refine w_costsS hM1 hM2 (hFs s1 hc1) (by rw [← eqP hc1] at r1 ⊢; exact r1) (hnt s1 hc1) (fun s2 d2 => ?_)
      rw [eqP hc1]
      exact h2 s2 (hcE2 s1 s2 hc1 d2)
    · refine v_earnsHS hN2 hN1 hX hF (by omega) (fun s1 a1 => pfin (hX.a a1) hm (frM_s (aS_M a1 hS) (fun _ => Or.inr)) rfl hK (fun m1 K2 hc h2 => hw m1 K2 hc (fun s1 d1 r1 => ?_)))
      have hc1 := hcE m1 s1 hc d1
      refine ⟨lit 3 0 (by decide) c3, lit 3 1 (by decide) c3, lit 3 2 (by decide) c3, fun _ => ?_, lit 3 4 (by decide) c3, fun _ _ _ z => absurd c3 z⟩
      refine w_earnsS hM1 hM2 (hFs s1 hc1) (by rw [← eqP hc1] at r1 ⊢; exact r1) (hnt s1 hc1) (fun s2 d2 => ?_)
      rw [eqP hc1]
      exact h2 s2 (hcE2 s1 s2 hc1 d2)
    · refine v_barHS hN2 hN1 hX hF (by omega) (fun s1 a1 => ?_)
      have key : pK o (w_of (nP N) (nI k) c) K (bI (mBar ((sM s o).2.1 2) lw k ((sM s o).2.1 2 k) (prevI ((sM s o).2.1 2) k))) s1 := by
        refine pfin (hX.a a1) hm (frM_s (aS_M a1 hS) (fun _ => Or.inr)) rfl hK (fun m1 K2 hc h2 => hw m1 K2 hc (fun s1 d1 r1 => ?_))
        have hc1 := hcE m1 s1 hc d1
        refine ⟨lit 4 0 (by decide) c4, lit 4 1 (by decide) c4, lit 4 2 (by decide) c4, lit 4 3 (by decide) c4, fun _ => ?_, fun _ _ _ _ z => absurd c4 z⟩
        refine w_barS hM1 hM2 (hFs s1 hc1) (by rw [← eqP hc1] at r1 ⊢; exact r1) (hnt s1 hc1) (fun s2 d2 => ?_)
        rw [eqP hc1]
        have := h2 s2 (hcE2 s1 s2 hc1 d2)
        exact bI_c (fun hb => by rw [hb] at this; exact this) (fun hb => by rw [hb] at this; exact this)
      exact bI_c (fun hb => by rw [hb] at key; exact key) (fun hb => by rw [hb] at key; exact key)
    · refine pfin hX hm (frM_r _ _) rfl hK (fun m1 K2 hc h2 => hw m1 K2 hc (fun s1 d1 r1 => ?_))
      exact ⟨fun z => absurd z c0, fun z => absurd z c1, fun z => absurd z c2, fun z => absurd z c3, fun z => absurd z c4, fun _ _ _ _ _ => h2 s1 (hcE m1 s1 hc d1)⟩
  · refine pfin hX hm (frM_r _ _) rfl hK (fun m1 K2 hc h2 => ?_)
    unfold w_of
    refine w_isNoteS (by rw [eqP hc]; exact n2) n1 ?_
    rw [hb]
    exact ⟨fun z => absurd rfl z, fun _ => h2 m1 hc⟩
theorem op_drawn (hX : RXo N s x o) (hK : ∀ s', RXo N s' x o → K s') (a b : Int32) : v_X0_drawn x a b s (pK o (w_drawn a b) K) := by
  obtain ⟨L, M, rfl, hX, hm⟩ := hX
  have hS := hX.S
  have o0 := hS.o (r := 0) rfl
  have o26 := hS.o (r := 26) rfl
  have z0 : (0 : Int32).toInt = 0 := by decide
  have e27 : tI s (L 0) 27 = (sM s o).1 49 := hX.R 0 27 60 49 rfl
  have t26 := hS.t (r := 0) (j := 26) (q := 26) (by decide)
  have b26 := hS.2.2.1.2.1 26 (Or.inr (Or.inr (Or.inl rfl)))
  have th : tR s (L 26) 1 = L 426 := b26.2
  have tu : tR s (L 26) 0 = L 226 := b26.1
  have hd : ∃ n, n ≤ 12 ∧ ∀ c : Int32, (decide ((0 : Int32) ≤ c) && decide (c ≤ (sM s o).1 49 - 1)) = isNI n c := by
    rcases hX.I.2.2.2.1 with h | ⟨n, n1, n2⟩
    · refine ⟨0, by omega, fun c => ?_⟩
      rw [h]
      unfold isNI
      have e : ((-1 : Int32) - 1).toInt = -2 := by decide
      simp only [i32_le, z0, e]
      by_cases c1 : 0 ≤ c.toInt
      · rw [decide_eq_true c1]
        congr 1
        rw [decide_eq_decide]
        omega
      · rw [decide_eq_false c1]
        rfl
    · refine ⟨n, n1, fun c => ?_⟩
      rw [n2]
      unfold isNI
      simp only [i32_le, z0, m1s (n := n) (by omega)]
      congr 1
      rw [decide_eq_decide]
      omega
  obtain ⟨n, n1, hd⟩ := hd
  have hw : ∀ m1 (K2 : Int32 → mS → Prop), cE (sM s o) m1 → ((isNI n a = false → K2 (-1) m1) ∧ (isNI n a = true → w_lies b 0 1 (fun x104 => (¬ x104 = 0 → ((¬ b = 0 → (vp_in (0 + a) 25 ∧ K2 (mAt m1 48 (0 + a)) m1)) ∧ (b = 0 → (vp_in (12 + a) 25 ∧ K2 (mAt m1 48 (12 + a)) m1)))) ∧ (x104 = 0 → K2 (-1) m1)))) → w_drawn a b m1 K2 := fun m1 K2 hc h => by
    unfold w_drawn
    have e49 : mFd m1 49 = (sM s o).1 49 := hc.1 49 (by decide)
    rw [e49]
    refine w_liesS ?_
    rw [hd]
    exact bI_c h.1 h.2
  unfold v_X0_drawn
  rw [e27]
  refine ⟨o0, v_inS ?_⟩
  rw [inl (lo' := 0) (hi' := (sM s o).1 49 - 1) (by decide) (Int32.toInt_toInt64 _), hd]
  refine bI_d (fun hb => ?_) (fun hb => pfin hX hm (frM_r _ _) rfl hK (fun m1 K2 hc h2 => hw m1 K2 hc ⟨fun _ => h2 m1 hc, fun z => by rw [hb] at z; cases z⟩))
  obtain ⟨k, hk, rfl⟩ := isNI_t (by omega) hb
  have hno : ∀ m1 (K2 : Int32 → mS → Prop), cE (sM s o) m1 → w_lies b 0 1 (fun x104 => (¬ x104 = 0 → ((¬ b = 0 → (vp_in (0 + nI k) 25 ∧ K2 (mAt m1 48 (0 + nI k)) m1)) ∧ (b = 0 → (vp_in (12 + nI k) 25 ∧ K2 (mAt m1 48 (12 + nI k)) m1)))) ∧ (x104 = 0 → K2 (-1) m1)) → w_drawn (nI k) b m1 K2 := fun m1 K2 hc h => hw m1 K2 hc ⟨fun z => (by rw [hb] at z; cases z), fun _ => h⟩
  refine ⟨fun nb => ⟨fun nb1 => ?_, fun yb => ⟨o0, ?_⟩⟩, fun yb => ⟨o0, ?_⟩⟩
  · refine pfin hX hm (frM_r _ _) rfl hK (fun m1 K2 hc h2 => hno m1 K2 hc (w_liesS ?_))
    have e : (decide ((0 : Int32) ≤ b) && decide (b ≤ 1)) = false := by
      have z1 : (1 : Int32).toInt = 1 := by decide
      have h0 : b.toInt ≠ 0 := fun z => nb (Int32.toInt_inj.mp (z.trans z0.symm))
      have h1 : b.toInt ≠ 1 := fun z => nb1 (Int32.toInt_inj.mp (z.trans z1.symm))
      simp only [i32_le, z0, z1, Bool.and_eq_false_iff, decide_eq_false_iff_not]
      omega
    rw [e]
    exact ⟨fun z => absurd rfl z, fun _ => h2 m1 hc⟩
  · rw [t26, th, nI_clamp (by omega), hX.R 426 k 48 k (by unfold loc; rw [if_neg (by decide), if_neg (by decide), if_neg (by decide), if_neg (by decide), if_neg (by decide), if_neg (by decide), if_neg (by decide), if_neg (by decide), if_neg (by decide), if_neg (by decide), if_pos rfl, if_pos (by omega)])]
    refine ⟨o26, ⟨12, hS.a (r := 426) rfl, vpk (by omega) (by decide)⟩, pfin hX hm (frM_r _ _) rfl hK (fun m1 K2 hc h2 => hno m1 K2 hc (w_liesS ?_))⟩
    subst yb
    refine ⟨fun _ => ⟨fun _ => ?_, fun z => absurd z (by decide)⟩, fun z => absurd z (by decide)⟩
    rw [nI_0p, mAt_n (by omega), hc.2 48 (by decide)]
    exact ⟨vpk (by omega) (by decide), h2 m1 hc⟩
  · rw [t26, tu, nI_clamp (by omega), hX.R 226 k 48 (12 + k) (by unfold loc; rw [if_neg (by decide), if_neg (by decide), if_neg (by decide), if_neg (by decide), if_neg (by decide), if_neg (by decide), if_neg (by decide), if_neg (by decide), if_neg (by decide), if_pos rfl, if_pos (by omega)])]
    refine ⟨o26, ⟨12, hS.a (r := 226) rfl, vpk (by omega) (by decide)⟩, pfin hX hm (frM_r _ _) rfl hK (fun m1 K2 hc h2 => hno m1 K2 hc (w_liesS ?_))⟩
    subst yb
    refine ⟨fun _ => ⟨fun z => absurd rfl z, fun _ => ?_⟩, fun z => absurd z (by decide)⟩
    have e12 : (12 : Int32) + nI k = nI (12 + k) := nI_add 12 k
    rw [e12, mAt_n (by omega), hc.2 48 (by decide)]
    exact ⟨vpk (by omega) (by decide), h2 m1 hc⟩
end O3
