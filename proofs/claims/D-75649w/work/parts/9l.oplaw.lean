set_option maxRecDepth 100000
/-! ===== a law told: both sides ===== -/
section OL
variable {N : tP} {s : tM} {x o : Nat} {K : tM → Prop}
theorem invM_13 {m : mS} (h : invM m) : invM (mF m 13 0) := ⟨h.1, ⟨0, Nat.zero_le _, rfl⟩, h.2.2.1, h.2.2.2.1, h.2.2.2.2⟩
theorem invM_K {m : mS} (h : invM m) {t T : Nat} {cd vl : Nat → Int32} (ht : t < 6) (h43 : m.2.1 2 43 = nI t) : invM (sA m 2 (lawK (m.2.1 2) t T cd vl)) := ⟨lawK_I h.1 ht h43, h.2.1, h.2.2.1, h.2.2.2.1, h.2.2.2.2⟩
theorem op_law (hN : nOK N) (hX : RXo N s x o) (hK : ∀ s', RXo N s' x o → K s') {k n : Nat} (hk : 820 ≤ k) (hn : 1720 ≤ n) : v_X0_law N x k n s (pK o (w_law (nP N)) K) := by
  obtain ⟨L, M, rfl, hX, hm⟩ := hX
  have hS := hX.S
  have hN1 : 402 ≤ N.1 := by have := hN.1; omega
  have hN2 : 60 ≤ N.2.1 := by have := hN.2; omega
  have o0 := hS.o (r := 0) rfl
  have o40 := hS.o (r := 40) rfl
  have o41 := hS.o (r := 41) rfl
  have t40 : tR s (L 0) 0 = L 40 := hS.t (r := 0) (j := 0) (q := 40) (by decide)
  have t41 : tR s (L 40) 0 = L 41 := hS.t (r := 40) (j := 0) (q := 41) (by decide)
  obtain ⟨told, k1, k2, k3, k4, k5⟩ := hX.2.2.2.2.2.1.2
  obtain ⟨n0, n1, n2⟩ := hX.I.2.1
  have hby : ∀ k, k < 400 → byT ((sM s o).2.1 11 k) := fun k hk => hX.I.2.2.1 k hk
  have hT : TPo s (L 0) (L 14) ((sM s o).2.1 11) n0 := ⟨o0, hS.t (r := 0) (j := 14) (q := 14) (by decide), hS.a (r := 14) rfl, fun k hk => hX.R 14 k 11 k (by unfold loc; rw [if_neg (by decide), if_neg (by decide), if_neg (by decide), if_neg (by decide), if_neg (by decide), if_neg (by decide), if_neg (by decide), if_neg (by decide), if_pos rfl, if_pos hk]), (hX.R 0 15 60 13 rfl).trans n2⟩
  have e43 : ∀ {m1 : mS}, cE (sM s o) m1 → mAt m1 2 43 = nI told := fun hc => (mAt_n (k := 43) (by decide)).trans ((congrFun (hc.2 2 (by decide)) 43).trans k2)
  have v43 : vp_in 43 5652 := vpk (k := 43) (by decide) (by decide)
  unfold v_X0_law v_J2_size
  dsimp only
  rw [t40, t41, k3, show (6 : Int32) = nI 6 from rfl, nI_eq (by omega) (by omega)]
  refine ⟨o0, o40, o41, o41, fun hne => ?_, fun he => ?_⟩
  · refine ⟨o0, o40, by omega, by omega, fun q hq hq0 hq2 s1 e1 => ?_⟩
    have x1 : extN N s s1 := e1 ▸ ext_n (ext_r N s) hq hq2
    have h7 : tO s1 7 q := by
      rw [e1]
      exact ⟨if_pos rfl, hq0⟩
    have hz : ∀ j, j < 5 → tI s1 q j = 0 := fun j _ => by
      rw [e1]
      exact if_pos rfl
    refine ⟨4, 75, by omega, by omega, v_X8_initS hT x1 ⟨hq, hq2⟩ h7 hz (Nat.le_refl _) (Nat.le_refl _) (fun s2 pl wd rw h9 hR => ⟨804, 1621, by omega, by omega, hR.2.1.1, v_X8_readS hN1 hN2 n1 hby hR (Nat.le_refl _) (Nat.le_refl _) (fun e he s3 qe x3 oe pe => ?_) (fun cs hcs s3 tx x3 htx => ?_)⟩)⟩
    · have X3 := hX.ex x3
      refine ⟨rfl, oe, X3.S.o (r := 0) rfl, fun s4 e4 => ?_⟩
      rw [pe] at e4
      have X4 : RX N s4 L M (mO s o) (mF (sM s o) 14 (plT ((sM s o).2.1 11) n0 e)) := by
        rw [e4]
        exact X3.w (r0 := 0) (j0 := 11) (q0 := 60) (i0 := 14) rfl (rd_F _ _ _) (by omega) (invM_F X3.I (by decide) (by decide))
      have f4 : frM (mO s o) s s4 := by
        rw [e4]
        exact frM_t (hX.exO x3) (frM_I X3 (by decide))
      refine v_refS (k := 6) X4 (by decide) (by decide) (fun s5 X5 f5 => ⟨X5.S.o (r := 0) rfl, fun s6 e6 => ?_⟩)
      have X6 : RX N s6 L M (mO s o) (mF (rfM 6 (mF (sM s o) 14 (plT ((sM s o).2.1 11) n0 e))) 13 0) := by
        rw [e6]
        exact X5.w (r0 := 0) (j0 := 15) (q0 := 60) (i0 := 13) rfl (rd_F _ _ _) (by omega) (invM_13 X5.I)
      have f6 : frM (mO s o) s s6 := by
        rw [e6]
        exact frM_t (frM_t f4 f5) (frM_I X5 (by decide))
      refine pfin X6 hm f6 rfl hK (fun m1 K2 hc h2 => ?_)
      have e11 : m1.2.1 11 = (sM s o).2.1 11 := hc.2 11 (by decide)
      have e7 : m1.2.1 7 = (sM s o).2.1 7 := hc.2 7 (by decide)
      unfold w_law
      rw [e43 hc]
      refine ⟨v43, fun _ => w_readsS (N := nP N) hN1 (by show 40 ≤ N.2.1; omega) n1 (fun j hj => by rw [e7]; exact hX.I.2.2.2.2 j hj) ((hc.1 13 (by decide)).trans n2) false (fun u g hu _ _ _ _ _ => ?_) (fun e' g he' hD g13 g14 => ⟨fun z => absurd rfl z, fun _ => w_refS (k := 6) (by decide) (h2 _ ?_)⟩), fun z => absurd ((nI_eq (a := told) (b := 6) (by omega) (by decide)).mp z) hne⟩
      · exfalso
        rw [e11] at hu
        unfold pText at hu
        rw [if_neg (by decide), he] at hu
        cases hu
      · rw [e11] at he' g14
        have ee : e' = e := by
          unfold pText at he'
          rw [if_neg (by decide), he] at he'
          cases he'
          rfl
        subst ee
        refine cE_t (s' := rfM 6 (mF (mF (sM s o) 14 (plT ((sM s o).2.1 11) n0 e')) 13 0)) ⟨fun j _ => ?_, fun q _ => rfl⟩ (rfM_c ⟨fun j hj => ?_, fun q hq => ?_⟩ 6)
        · show (if j = 0 then (-(nI 6)) else if j = 13 then 0 else if j = 14 then _ else (sM s o).1 j) = if j = 13 then 0 else if j = 0 then (-(nI 6)) else if j = 14 then _ else (sM s o).1 j
          by_cases c : j = 0
          · rw [if_pos c, if_neg (by omega), if_pos c]
          · rw [if_neg c, if_neg c]
        · show g.1 j = if j = 13 then 0 else if j = 14 then _ else (sM s o).1 j
          by_cases c : j = 13
          · rw [if_pos c, c]
            exact g13
          · rw [if_neg c]
            by_cases c2 : j = 14
            · rw [if_pos c2, c2]
              exact g14
            · rw [if_neg c2, ← hc.1 j hj]
              have key : ∀ j ∈ stF, j ≠ 13 → j ≠ 14 → j ∉ rdF := by decide
              exact hD.1 j (key j hj c c2)
        · show g.2.1 q = (sM s o).2.1 q
          rw [← hc.2 q hq]
          have key : ∀ q ∈ stA, q ∉ rdA := by decide
          exact hD.2.1 q (key q hq)
    · have X3 := hX.newM x3
      have htold : told < 6 := by omega
      have xl := x3 (L 41) (Or.inl (by rw [o41.1]; intro z; cases z))
      have htx3 : isText s3 (fun a => M a ∨ (s.1 a = none ∧ s3.1 a ≠ none)) tx cs := isText_fr (mFr_r _ _) (fun a ha => Or.inr ha) htx
      have tab3 : tabOK N s3 (tR s3 (L 41) 1) told := by
        have e1 : tR s3 (L 41) 1 = tR s (L 41) 1 := congrFun xl.2.2.2 1
        rw [e1]
        exact k4.imp id fun z => ext_A x3 z
      have o41' : tO s3 20 (L 41) := X3.S.o (r := 41) rfl
      refine ⟨1, 10, by omega, by omega, o41', v_addT X3.2.1.1 o41' ((congrFun xl.2.1 2).trans k3) htold tab3 htx3.2.1 (Nat.le_refl _) (Nat.le_refl _) (fun s4 ee hLA => ?_)⟩
      have hTT := tokT_le (tp := (sM s o).2.1 11) n1
      obtain ⟨X5, f5⟩ := X3.addT (m' := sA (sM s o) 2 (lawK ((sM s o).2.1 2) told (tokT ((sM s o).2.1 11) n0) (cdT ((sM s o).2.1 11) n0) (vlT ((sM s o).2.1 11) n0))) htold k2 hLA htx3 rfl (fun q hq => if_neg hq) (fun i h1 h2 => by rw [sA_at]; exact lawK_lo h1 h2) (by rw [sA_at]; exact lawK_43) (fun t cls ht h => by rw [sA_at]; exact lawK_o hTT (by omega) (by omega) (by omega) h) (by rw [sA_at]; exact lawK_n hTT (by omega) (fun k hk => ⟨cdT_z n1 k hk, vlT_e n1 k hk⟩) (vlT_g hby n1) hcs) (invM_K hX.I htold k2) rfl
      generalize tsI (tsR s4 ee told tx) (L 41) 2 (nI (told + 1)) = s5 at X5 f5
      refine ⟨X5.S.o (r := 0) rfl, fun s6 e6 => ?_⟩
      have X6 := X5.w (r0 := 0) (j0 := 11) (q0 := 60) (i0 := 14) (v := -1) rfl (rd_F _ _ _) (by omega) (invM_F X5.I (by decide) (by decide))
      rw [← e6] at X6
      have f6 : frM (mO s o) s s6 := by
        rw [e6]
        exact frM_t (frM_t (hX.exO x3) f5) (frM_I X5 (by decide))
      obtain ⟨told6, l1, l2, l3, -⟩ := X6.told
      have l4 : tI s6 (L 41) 2 = nI (told + 1) := by
        rw [l3, ← l2]
        show (sA (sM s o) 2 _).2.1 2 43 = _
        rw [sA_at]
        exact lawK_43
      have t40' : tR s6 (L 0) 0 = L 40 := X6.S.t (r := 0) (j := 0) (q := 40) (by decide)
      have t41' : tR s6 (L 40) 0 = L 41 := X6.S.t (r := 40) (j := 0) (q := 41) (by decide)
      rw [t40', t41', l4, show nI (told + 1) - 1 = nI told from pk_sub (a := told + 1) (b := 1) (by omega)]
      refine ⟨X6.S.o (r := 40) rfl, X6.S.o (r := 41) rfl, X6.S.o (r := 41) rfl, X6.S.o (r := 0) rfl, v_goodS X6 (by rw [nI_toInt (by omega)]; omega) (fun s7 X7 f7 => ⟨X7.S.o (r := 0) rfl, fun s8 e8 => ?_⟩)⟩
      have X8 := X7.w (r0 := 0) (j0 := 15) (q0 := 60) (i0 := 13) (v := 0) rfl (rd_F _ _ _) (by omega) (invM_13 X7.I)
      rw [← e8] at X8
      have f8 : frM (mO s o) s s8 := by
        rw [e8]
        exact frM_t (frM_t f6 f7) (frM_I X7 (by decide))
      refine pfin X8 hm f8 rfl hK (fun m1 K2 hc h2 => ?_)
      have e11 : m1.2.1 11 = (sM s o).2.1 11 := hc.2 11 (by decide)
      have e7 : m1.2.1 7 = (sM s o).2.1 7 := hc.2 7 (by decide)
      have ew2 : m1.2.1 2 = (sM s o).2.1 2 := hc.2 2 (by decide)
      unfold w_law
      rw [e43 hc]
      refine ⟨v43, fun _ => w_readsS (N := nP N) hN1 (by show 40 ≤ N.2.1; omega) n1 (fun j hj => by rw [e7]; exact hX.I.2.2.2.2 j hj) ((hc.1 13 (by decide)).trans n2) false (fun u g hu hD g13 g14 g18 gr => ?_) (fun e' g he' _ _ _ => ?_), fun z => absurd ((nI_eq (a := told) (b := 6) (by omega) (by decide)).mp z) hne⟩
      · rw [e11] at g18 gr
        have g2 : g.2.1 2 = (sM s o).2.1 2 := (hD.2.1 2 (by decide)).trans ew2
        have g43 : mAt g 2 43 = nI told := (mAt_n (k := 43) (by decide)).trans ((congrFun g2 43).trans k2)
        refine ⟨fun _ => ⟨v43, ?_⟩, fun z => absurd z (by decide)⟩
        rw [g43]
        refine w_laysX (N := nP N) hN1 (by omega) hTT g18 gr (fun g1 hD1 hk1 => ⟨v43, v43, fun g3 eg3 => ⟨v43, ?_⟩⟩)
        rw [g2] at hk1
        have q43 : mAt g1 2 43 = nI told := by
          rw [show mAt g1 2 43 = g1.2.1 2 43 from mAt_n (k := 43) (by decide), hk1]
          unfold layK
          rw [if_neg (by omega), if_neg (by omega), if_neg (by omega)]
          exact k2
        rw [q43, nI_1] at eg3
        have row : g3.2.1 2 = lawK ((sM s o).2.1 2) told (tokT ((sM s o).2.1 11) n0) (cdT ((sM s o).2.1 11) n0) (vlT ((sM s o).2.1 11) n0) := funext fun q => by
          rw [eg3, show (43 : Int32) = nI 43 from rfl, mI_at _ _ _ (by decide), hk1]
          rfl
        have q43' : mAt g3 2 43 = nI (told + 1) := by
          rw [show mAt g3 2 43 = g3.2.1 2 43 from mAt_n (k := 43) (by decide), row]
          exact lawK_43
        rw [q43', show nI (told + 1) - 1 = nI told from pk_sub (a := told + 1) (b := 1) (by omega)]
        refine w_goodS (h2 _ ⟨fun j hj => ?_, fun q hq => ?_⟩)
        · show (if j = 0 then 0 else g3.1 j) = if j = 13 then 0 else if j = 0 then 0 else if j = 14 then -1 else (sM s o).1 j
          have h31 : g3.1 j = g1.1 j := by rw [eg3]; rfl
          have h32 : g1.1 j = g.1 j := hD1.1 j (by simp)
          by_cases c : j = 0
          · rw [if_pos c, if_neg (by omega), if_pos c]
          · rw [if_neg c, if_neg c, h31, h32]
            by_cases c1 : j = 13
            · rw [if_pos c1, c1]
              exact g13
            · rw [if_neg c1]
              by_cases c2 : j = 14
              · rw [if_pos c2, c2]
                exact g14
              · rw [if_neg c2, ← hc.1 j hj]
                have key : ∀ j ∈ stF, j ≠ 13 → j ≠ 14 → j ∉ rdF := by decide
                exact hD.1 j (key j hj c1 c2)
        · show g3.2.1 q = (sA (sM s o) 2 _).2.1 q
          by_cases c : q = 2
          · subst c
            rw [sA_at]
            exact row
          · rw [sA_o _ _ c, eg3, mI_o _ _ _ c, hD1.2.1 q (by simpa using c), ← hc.2 q hq]
            have key : ∀ q ∈ stA, q ∉ rdA := by decide
            exact hD.2.1 q (key q hq)
      · exfalso
        rw [e11] at he'
        unfold pText at he'
        rw [if_neg (by decide), hcs] at he'
        cases he'
  · refine ⟨o0, fun s1 e1 => ?_⟩
    have X1 : RX N s1 L M (mO s o) (mF (sM s o) 13 0) := by
      rw [e1]
      exact hX.w (r0 := 0) (j0 := 15) (q0 := 60) (i0 := 13) rfl (rd_F _ _ _) (by omega) (invM_13 hX.I)
    have f1 : frM (mO s o) s s1 := by
      rw [e1]
      exact frM_I hX (by decide)
    refine v_refS (k := 5) X1 (by decide) (by decide) (fun s2 X2 f2 => pfin X2 hm (frM_t f1 f2) rfl hK (fun m1 K2 hc h2 => ?_))
    unfold w_law
    rw [e43 hc, he]
    exact ⟨v43, fun z => absurd rfl z, fun _ g eg => w_refS (k := 5) (by decide) (h2 _ (by rw [eg]; exact rfM_c (cE_F hc _ _) 5))⟩
end OL
