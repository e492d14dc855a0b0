set_option maxRecDepth 100000
/-! ===== orders: both sides ===== -/
section OO
variable {N : tP} {s : tM} {x o : Nat} {K : tM → Prop}
theorem layK_51 {kp cd vl : Nat → Int32} {T : Nat} : layK kp 6 T cd vl 51 = nI T := by
  unfold layK
  rw [if_neg (by omega), if_neg (by omega), if_pos rfl]
theorem layK_tx {kp cd vl : Nat → Int32} {T : Nat} (hT : T ≤ 400) (hz : ∀ k, T ≤ k → cd k = 0) (hv : ∀ k, 0 ≤ vl k) : ordT (layK kp 6 T cd vl) T cd vl := by
  refine ⟨hT, fun k hk => ⟨?_, ?_⟩, hz, hv⟩
  · unfold layK
    rw [if_pos (by omega), show 52 + (2400 + k) - (52 + 400 * 6) = k by omega]
  · unfold layK
    rw [if_neg (by omega), if_pos (by omega), show 2852 + (2400 + k) - (2852 + 400 * 6) = k by omega]
theorem layK_lo {kp cd vl : Nat → Int32} {T i : Nat} (hi : i < 51) : layK kp 6 T cd vl i = kp i := by
  unfold layK
  rw [if_neg (by omega), if_neg (by omega), if_neg (by omega)]
theorem txOK_6 {kp cd vl : Nat → Int32} {T t : Nat} {cls : List cL} (hT : T ≤ 400) (ht : t < 6) (h : txOK kp t cls) : txOK (layK kp 6 T cd vl) t cls := by
  have mid : ∀ i, (52 ≤ i ∧ i < 2452) ∨ (2852 ≤ i ∧ i < 5252) → layK kp 6 T cd vl i = kp i := fun i hi => by
    unfold layK
    rw [if_neg (by omega), if_neg (by omega), if_neg (by omega)]
  obtain ⟨h1, h2, h3, h4⟩ := h
  have e1 : txT (layK kp 6 T cd vl) t = txT kp t := by
    unfold txT
    rw [layK_lo (by omega)]
  have eC : txC (layK kp 6 T cd vl) t = txC kp t := funext fun k => by
    unfold txC
    rw [e1]
    by_cases hk : k < txT kp t
    · rw [if_pos hk, if_pos hk]
      exact mid _ (by omega)
    · rw [if_neg hk, if_neg hk]
  have eV : txV (layK kp 6 T cd vl) t = txV kp t := funext fun k => by
    unfold txV
    rw [e1]
    by_cases hk : k < txT kp t
    · rw [if_pos hk, if_pos hk]
      exact mid _ (by omega)
    · rw [if_neg hk, if_neg hk]
  unfold txOK
  rw [e1, eC, eV, layK_lo (by omega)]
  exact ⟨h1, h2, h3, h4⟩
/-- one place of a role that the relation doesn't look at -/
theorem RX.i2 {L : Nat → Nat} {M O : Nat → Prop} {m : mS} (hX : RX N s L M O m) {r j : Nat} {v : Int32} (hr : shp r ≠ none) (hl : ¬ lk r j) : RX N (tsI s (L r) j v) L M O m := by
  refine hX.g2 rfl rfl (fun r' j' hr' hl' => if_neg fun z => ?_) (fun b hb => ⟨rfl, funext fun i => if_neg fun (z : b = L r ∧ i = j) => hX.1.n1 hr (z.1 ▸ hb), rfl⟩)
  have := hX.1.2.1 r' r hr' hr z.1
  rw [this, z.2] at hl'
  exact hl hl'
theorem op_orders (hN : nOK N) (hX : RXo N s x o) (hK : ∀ s', RXo N s' x o → K s') {k n : Nat} (hk : 820 ≤ k) (hn : 3400 ≤ n) : v_X0_orders N x k n s (pK o (w_orders (nP N)) K) := by
  obtain ⟨L, M, rfl, hX, hm⟩ := hX
  have hS := hX.S
  have hN6 : 6000 ≤ N.1 := hN.1
  have hN1 : 402 ≤ N.1 := by omega
  have hN2 : 60 ≤ N.2.1 := by have := hN.2; omega
  have o0 := hS.o (r := 0) rfl
  obtain ⟨n0, n1, n2⟩ := hX.I.2.1
  have hby : ∀ k, k < 400 → byT ((sM s o).2.1 11 k) := fun k hk => hX.I.2.2.1 k hk
  obtain ⟨c, c1, c2, c3⟩ := hX.cnt
  obtain ⟨lw, hF⟩ := hX.inF
  obtain ⟨nq, q1, q2⟩ := hX.I.1.2.2.2.2.1
  unfold v_X0_orders
  refine ⟨o0, fun s1 e1 => ⟨by omega, by omega, fun q hq hq0 hq2 s2 e2 => ?_⟩⟩
  -- stopped is told: none
  have X1 : RX N s1 L M (mO s o) (mF (sM s o) 41 (-1)) := by
    rw [e1]
    exact hX.w (r0 := 0) (j0 := 13) (q0 := 60) (i0 := 41) rfl (rd_F _ _ _) (by omega) (invM_F hX.I (by decide) (by decide))
  have f1 : frM (mO s o) s s1 := by
    rw [e1]
    exact frM_I hX (by decide)
  have S1 := X1.S
  have o01 := S1.o (r := 0) rfl
  have hT : TPo s1 (L 0) (L 14) ((sM s o).2.1 11) n0 := ⟨o01, S1.t (r := 0) (j := 14) (q := 14) (by decide), S1.a (r := 14) rfl, fun k hk => X1.R 14 k 11 k (by unfold loc; rw [if_neg (by decide), if_neg (by decide), if_neg (by decide), if_neg (by decide), if_neg (by decide), if_neg (by decide), if_neg (by decide), if_neg (by decide), if_pos rfl, if_pos hk]), (X1.R 0 15 60 13 rfl).trans n2⟩
  have x2 : extN N s1 s2 := e2 ▸ ext_n (ext_r N s1) hq hq2
  have h18 : tO s2 18 q := by
    rw [e2]
    exact ⟨if_pos rfl, hq0⟩
  have hz : ∀ j, j < 5 → tI s2 q j = 0 := fun j _ => by
    rw [e2]
    exact if_pos rfl
  refine ⟨3, 69, by omega, by omega, v_X21_initS hT x2 ⟨hq, hq2⟩ h18 hz (Nat.le_refl _) (Nat.le_refl _) (fun s3 pl wd rw hR => ⟨803, 3220, by omega, by omega, hR.2.1.1, v_X21_readS hN1 hN2 n1 hby hR (Nat.le_refl _) (Nat.le_refl _) (fun e he s4 qe x4 oe pe => ?_) (fun cs hcs s4 tx x4 hacts => ?_)⟩)⟩
  · have X4 := X1.ex x4
    refine ⟨rfl, oe, X4.S.o (r := 0) rfl, fun s5 e5 => ?_⟩
    rw [pe] at e5
    have X5 : RX N s5 L M (mO s o) (mF (mF (sM s o) 41 (-1)) 14 (plT ((sM s o).2.1 11) n0 e)) := by
      rw [e5]
      exact X4.w (r0 := 0) (j0 := 11) (q0 := 60) (i0 := 14) rfl (rd_F _ _ _) (by omega) (invM_F X4.I (by decide) (by decide))
    have f5 : frM (mO s o) s s5 := by
      rw [e5]
      exact frM_t f1 (frM_t (X1.exO x4) (frM_I X4 (by decide)))
    refine v_refS (k := 6) X5 (by decide) (by decide) (fun s6 X6 f6 => ⟨X6.S.o (r := 0) rfl, fun s7 e7 => ?_⟩)
    have X7 : RX N s7 L M (mO s o) (mF (rfM 6 (mF (mF (sM s o) 41 (-1)) 14 (plT ((sM s o).2.1 11) n0 e))) 13 0) := by
      rw [e7]
      exact X6.w (r0 := 0) (j0 := 15) (q0 := 60) (i0 := 13) rfl (rd_F _ _ _) (by omega) (invM_13 X6.I)
    have f7 : frM (mO s o) s s7 := by
      rw [e7]
      exact frM_t (frM_t f5 f6) (frM_I X6 (by decide))
    refine pfin X7 hm f7 rfl hK (fun m1 K2 hc h2 => ?_)
    unfold w_orders
    intro ma ea
    have hca : cE (mF (sM s o) 41 (-1)) ma := by
      rw [ea]
      exact cE_F hc 41 (-1)
    have e11 : ma.2.1 11 = (sM s o).2.1 11 := hca.2 11 (by decide)
    have e7 : ma.2.1 7 = (sM s o).2.1 7 := hca.2 7 (by decide)
    refine w_readsS (N := nP N) hN1 (by show 40 ≤ N.2.1; omega) n1 (fun j hj => by rw [e7]; exact hX.I.2.2.2.2 j hj) ((hca.1 13 (by decide)).trans n2) true (fun u g hu _ _ _ _ _ => ?_) (fun e' g he' hD g13 g14 => ⟨fun z => absurd rfl z, fun _ => w_refS (k := 6) (by decide) (h2 _ ?_)⟩)
    · exfalso
      rw [e11] at hu
      unfold pText at hu
      rw [if_pos rfl, he] at hu
      cases hu
    · rw [e11] at he' g14
      have ee : e' = e := by
        unfold pText at he'
        rw [if_pos rfl, he] at he'
        cases he'
        rfl
      subst ee
      refine cE_t (s' := rfM 6 (mF (mF (mF (sM s o) 41 (-1)) 14 (plT ((sM s o).2.1 11) n0 e')) 13 0)) ⟨fun j _ => ?_, fun q _ => rfl⟩ (rfM_c ⟨fun j hj => ?_, fun q hq => ?_⟩ 6)
      · show (if j = 0 then (-(nI 6)) else if j = 13 then 0 else if j = 14 then _ else (mF (sM s o) 41 (-1)).1 j) = if j = 13 then 0 else if j = 0 then (-(nI 6)) else if j = 14 then _ else (mF (sM s o) 41 (-1)).1 j
        by_cases c : j = 0
        · rw [if_pos c, if_neg (by omega), if_pos c]
        · rw [if_neg c, if_neg c]
      · show g.1 j = if j = 13 then 0 else if j = 14 then _ else (mF (sM s o) 41 (-1)).1 j
        by_cases c : j = 13
        · rw [if_pos c, c]
          exact g13
        · rw [if_neg c]
          by_cases c2 : j = 14
          · rw [if_pos c2, c2]
            exact g14
          · rw [if_neg c2, ← hca.1 j hj]
            have key : ∀ j ∈ stF, j ≠ 13 → j ≠ 14 → j ∉ rdF := by decide
            exact hD.1 j (key j hj c c2)
      · show g.2.1 q = (mF (sM s o) 41 (-1)).2.1 q
        rw [← hca.2 q hq]
        have key : ∀ q ∈ stA, q ∉ rdA := by decide
        exact hD.2.1 q (key q hq)
  · generalize hW : (fun a => s1.1 a = none ∧ s4.1 a ≠ none) = W at hacts
    have X4 : RX N s4 L M (fun a => mO s o a ∨ W a) (mF (sM s o) 41 (-1)) := by
      rw [← hW]
      exact X1.newO x4
    have hPW : ∀ b, W b → ¬ mO s o b := fun b hb hp => by
      rw [← hW] at hb
      exact X1.1.2.2.2 b (Or.inr hp) hb.1
    have f4 : frM (mO s o) s s4 := frM_t f1 (X1.exO x4)
    refine ⟨X4.S.o (r := 0) rfl, fun s5 e5 s6 e6 => ?_⟩
    have X5 : RX N s5 L M (fun a => mO s o a ∨ W a) (mF (mF (sM s o) 41 (-1)) 14 (-1)) := by
      rw [e5]
      exact X4.w (r0 := 0) (j0 := 11) (q0 := 60) (i0 := 14) rfl (rd_F _ _ _) (by omega) (invM_F X4.I (by decide) (by decide))
    have X6 : RX N s6 L M (fun a => mO s o a ∨ W a) (mF (mF (mF (sM s o) 41 (-1)) 14 (-1)) 13 0) := by
      rw [e6]
      exact X5.w (r0 := 0) (j0 := 15) (q0 := 60) (i0 := 13) rfl (rd_F _ _ _) (by omega) (invM_13 X5.I)
    have f6 : frM (fun a => mO s o a ∨ W a) s4 s6 := by
      rw [e6, e5]
      exact frM_t (frM_I X4 (r := 0) (by decide)) (frM_I (X4.w (r0 := 0) (j0 := 11) (q0 := 60) (i0 := 14) (v := -1) rfl (rd_F _ _ _) (by omega) (invM_F X4.I (by decide) (by decide))) (r := 0) (by decide))
    clear e5 e6
    generalize hmB : mF (mF (mF (sM s o) 41 (-1)) 14 (-1)) 13 0 = mB at X6
    have mB2 : mB.2.1 = (sM s o).2.1 := by rw [← hmB]; rfl
    have mBo : ∀ j, j ≠ 41 → j ≠ 14 → j ≠ 13 → mB.1 j = (sM s o).1 j := fun j a b c => by
      rw [← hmB]
      exact (mF_o _ _ c).trans ((mF_o _ _ b).trans (mF_o _ _ a))
    have S6 := X6.S
    have i4 : isBk 4 := Or.inl rfl
    have i44 : isBk 44 := Or.inr (Or.inr (Or.inr (Or.inl rfl)))
    refine v_booksS S6 ?_
    rw [S6.t (r := 0) (j := 4) (q := 4) (by decide)]
    refine ⟨S6.o (r := 4) rfl, v_asS S6 i4 i44 (fun s7 B7 => ?_)⟩
    obtain ⟨X7, f7⟩ := X6.bk5 (Or.inl rfl) B7
    have S7 := X7.S
    have t3 := S7.t (r := 0) (j := 3) (q := 3) (by decide)
    have t2 := S7.t (r := 0) (j := 2) (q := 2) (by decide)
    rw [t3, t2]
    have cB : mB.1 33 = nI c := (mBo 33 (by decide) (by decide) (by decide)).trans c2
    have cnt7 : tI s7 (L 2) 1 = nI c := (X7.R 2 1 60 33 rfl).trans cB
    refine ⟨S7.o (r := 0) rfl, S7.o (r := 3) rfl, v_as3S (r1 := 3) (r2 := 2) (B := 120) (C := 100) (Or.inr ⟨rfl, rfl, rfl, rfl⟩) S7 c1 cnt7 (by omega) (fun s8 A8 => ?_)⟩
    obtain ⟨X8, f8⟩ := X7.save A8
    have d32 : dir3 3 2 120 100 := Or.inr ⟨rfl, rfl, rfl, rfl⟩
    -- what was laid aside
    have sv8 : (∀ j, j < 12 → tI s8 (L 204) j = (sM s o).2.1 2 (12 + j) ∧ tI s8 (L 404) j = (sM s o).2.1 2 j) ∧ tI s8 (L 4) 2 = (sM s o).2.1 2 24 ∧ tI s8 (L 3) 1 = nI c ∧ ∀ k, k < c → (∀ j, j < 12 → tI s8 (L (320 + k)) j = (sM s o).2.1 31 (26 * k + 12 + j) ∧ tI s8 (L (520 + k)) j = (sM s o).2.1 31 (26 * k + j)) ∧ tI s8 (L (120 + k)) 2 = (sM s o).2.1 31 (26 * k + 24) ∧ tI s8 (L (120 + k)) 3 = (sM s o).2.1 31 (26 * k + 25) := by
      have o8 : ∀ r, shp r ≠ none → r = 4 ∨ r = 204 ∨ r = 404 → s8.2.1 (L r) = s7.2.1 (L r) := fun r hr h => a3W_off S7 d32 A8 hr (by omega) (by omega) (by omega) (by omega)
      refine ⟨fun j hj => ?_, ?_, A8.2.2.2.2.1, fun k hk => ?_⟩
      · have := B7.2.2.2.2.2.1 j hj
        rw [show 200 + 4 = 204 by decide, show 200 + 44 = 244 by decide, show 400 + 4 = 404 by decide, show 400 + 44 = 444 by decide, X6.u hj, X6.h hj, mB2] at this
        exact ⟨(congrFun (o8 204 (by decide) (by omega)) j).trans this.1, (congrFun (o8 404 (by decide) (by omega)) j).trans this.2⟩
      · refine (congrFun (o8 4 (by decide) (by omega)) 2).trans (B7.2.2.2.2.2.2.1.trans ?_)
        rw [X6.d, mB2]
      · obtain ⟨a1, a2, a3⟩ := A8.2.2.2.2.2 k hk
        obtain ⟨nn, u1, u2, u3⟩ := X7.2.2.2.2.1
        have en : nn = c := (nI_eq (by omega) (by omega)).mp (u2.symm.trans cB)
        subst en
        obtain ⟨w1, w2, -, w4, -⟩ := u3 k hk
        rw [mB2] at w1 w2 w4
        refine ⟨fun j hj => ?_, a2.trans w2, a3.trans w4⟩
        have := a1 j hj
        rw [show 200 + (120 + k) = 320 + k by omega, show 200 + (100 + k) = 300 + k by omega, show 400 + (120 + k) = 520 + k by omega, show 400 + (100 + k) = 500 + k by omega] at this
        exact ⟨this.1.trans (w1 j hj).1, this.2.trans (w1 j hj).2.1⟩
    have S8 := X8.S
    refine ⟨S8.o (r := 0) rfl, fun s9 e9 s10 e10 => ?_⟩
    have X10 : RX N s10 L M (fun a => mO s o a ∨ W a) mB := by
      rw [e10, e9]
      exact (X8.i2 (r := 0) (by decide) lk_0.1).i2 (r := 0) (by decide) lk_0.2
    have f10 : frM (fun a => mO s o a ∨ W a) s8 s10 := by
      rw [e10, e9]
      exact frM_t (frM_I X8 (r := 0) (by decide)) (frM_I (X8.i2 (r := 0) (j := 24) (v := 0) (by decide) lk_0.1) (r := 0) (by decide))
    have F10 : frM (fun a => mO s o a ∨ W a) s4 s10 := frM_t f6 (frM_t f7 (frM_t f8 f10))
    -- the reference's text
    generalize hTT : tokT ((sM s o).2.1 11) n0 = T at *
    generalize hcd : cdT ((sM s o).2.1 11) n0 = cd at *
    generalize hvl : vlT ((sM s o).2.1 11) n0 = vl at *
    have hT4 : T ≤ 400 := by
      rw [← hTT]
      exact tokT_le n1
    have hz0 : ∀ k, T ≤ k → cd k = 0 := fun k hk => by
      rw [← hcd]
      exact cdT_z n1 k (by rw [hTT]; exact hk)
    have hv0 : ∀ k, 0 ≤ vl k := fun k => by
      rw [← hvl]
      exact vlT_g hby n1 k
    have XC := X10.t6 (cd := cd) (vl := vl) hT4
    generalize hmC : sA mB 2 (layK (mB.2.1 2) 6 T cd vl) = mC at XC
    have mC2 : mC.2.1 2 = layK ((sM s o).2.1 2) 6 T cd vl := by
      rw [← hmC, sA_at, mB2]
    have mCo : ∀ q, q ≠ 2 → mC.2.1 q = (sM s o).2.1 q := fun q hq => by
      rw [← hmC, sA_o _ _ hq, mB2]
    have mC1 : mC.1 = mB.1 := by
      rw [← hmC]
      rfl
    have txC' : ordT (mC.2.1 2) T cd vl := by
      rw [mC2]
      exact layK_tx hT4 hz0 hv0
    have FC : inF (mC.2.1 2) lw := by
      obtain ⟨lw2, h2⟩ := XC.inF
      rcases hF with ⟨z1, rfl⟩ | ⟨t, cls, t1, t2, t3, rfl⟩
      · refine Or.inl ⟨?_, rfl⟩
        rw [mC2, layK_lo (by decide)]
        exact z1
      · refine Or.inr ⟨t, cls, t1, ?_, ?_, rfl⟩
        · rw [mC2, layK_lo (by decide)]
          exact t2
        · rw [mC2]
          exact txOK_6 hT4 t1 t3
    have qC : mC.2.1 2 41 = nI nq := by
      rw [mC2, layK_lo (by decide)]
      exact q2
    have i24 : tI s10 (L 0) 24 = nI 0 := by
      rw [e10, e9]
      exact (if_neg fun z => absurd z.2 (by decide)).trans (if_pos ⟨rfl, rfl⟩)
    have i25 : tI s10 (L 0) 25 = -1 := by
      rw [e10]
      exact if_pos ⟨rfl, rfl⟩
    have acts10 : isActs (L 0) s10 W tx cs := isActs_fr (mFr_s F10.1 fun _ => Or.inr) (fun _ h => h) hacts
    have hIV : IV N s10 L mC (mO s o) W M tx cs s10 L mC 0 (-1) := ⟨XC, frM_r _ _, acts10, ⟨i24, i25⟩, vrM_r mC, rol_r L, fun _ _ => rfl, ⟨by decide, by decide⟩, hPW, fun _ => rfl⟩
    have F0 : frM (mO s o) s s10 := frM_t f4 (frM_s F10 fun _ => Or.inl)
    obtain ⟨rest, hr1, hch⟩ := chn_of (cd := cd) (vl := vl) hz0 12 0 0 0 [] cs hcs (Nat.zero_le _)
    have hr1 : cs = rest := hr1
    subst hr1
    have pc : ∀ k, k < c → (∀ j, j < 12 → pI ((sM s o).2.1 31 (26 * k + j)) ∧ pI ((sM s o).2.1 31 (26 * k + 12 + j))) ∧ (0 ≤ ((sM s o).2.1 31 (26 * k + 24)).toInt ∧ ((sM s o).2.1 31 (26 * k + 24)).toInt ≤ 999) ∧ ∃ w, w < 4 ∧ (sM s o).2.1 31 (26 * k + 25) = nI w := fun k hk => by
      obtain ⟨nn, u1, u2, u3⟩ := hX.2.2.2.2.1
      have en : nn = c := (nI_eq (by omega) (by omega)).mp (u2.symm.trans c2)
      subst en
      obtain ⟨w1, -, w3, -, w5⟩ := u3 k hk
      exact ⟨fun j hj => ⟨(w1 j hj).2.2.1, (w1 j hj).2.2.2⟩, w3, w5⟩
    unfold v_X0_runAll
    refine v_runsL (Y := mS × (Int32 → mS → Prop)) (Tt := fun y => cE (sM s o) y.1 → w_orders (nP N) y.1 y.2) (KrR := fun y => y.2) (KR := fun y s116 => w_good (mFd s116 27) s116 (fun x117 s118 => y.2 x117 s118)) (x1 := nI c) (sv5 := (sM s o).2.1 2) (sv32 := (sM s o).2.1 31) hN FC XC.I qC q1 txC' (fun s11 L1 m1 D lt at42 h11 hD acc => ?_) (fun s11 L1 m1 D lt k at42 h11 hk12 acc s12 e12 => ?_) cs [] 0 N.1 (nP N).1 0 0 s10 L mC 0 (-1) rfl rfl (by have := acts10.2.2.1.2; omega) (by have := acts10.2.2.1.2; show cs.length < N.1; omega) acts10.2.2.1.2 hch hIV (Nat.zero_le _) (fun y hy hc => ?_)
    · have L10 : L1 0 = L 0 := h11.2.2.2.2.2.1.lt (by decide)
      have X11 : RX N s11 L1 M (mO s o) m1 := h11.1.sub (fun _ => Or.inl)
      have o11 := X11.S.o (r := 0) rfl
      rw [h11.2.2.2.1.1, ← L10]
      refine ⟨o11, fun _ => ⟨o11, v_goodS X11 (by rw [nI_toInt (by omega)]; omega) (fun s' X' f' => pfin X' hm (frM_t (frM_t F0 h11.2.1) f') L10 hK (fun mi K2 hc h2 => ?_))⟩, fun z => absurd ?_ z⟩
      · refine acc (mi, K2) (fun g hG => ?_) hc
        show w_good (mFd g 27) g (fun x117 s118 => K2 x117 s118)
        rw [hG.2.1]
        exact w_goodS (h2 _ (cE_F hG.1 0 0))
      · rw [i32_le, nI_toInt (by omega), show (0 : Int32).toInt = 0 by decide]
        omega
    · have L10 : L1 0 = L 0 := h11.2.2.2.2.2.1.lt (by decide)
      have hrol := h11.2.2.2.2.2.1
      have hsv := h11.2.2.2.2.2.2.1
      have hv := h11.2.2.2.2.1
      have X11 : RX N s11 L1 M (mO s o) m1 := h11.1.sub (fun _ => Or.inl)
      rw [← L10] at e12
      have X12 : RX N s12 L1 M (mO s o) (mF m1 41 (nI k)) := by
        rw [e12]
        exact X11.w (r0 := 0) (j0 := 13) (q0 := 60) (i0 := 41) rfl (rd_F _ _ _) (by omega) (invM_F X11.I (by decide) (by decide))
      have f12 : frM (mO s o) s s12 := by
        rw [e12]
        exact frM_t (frM_t F0 h11.2.1) (frM_I X11 (by decide))
      -- what was laid aside is there still
      have keep : ∀ r, svR r → ∀ j, tI s12 (L1 r) j = tI s8 (L r) j := fun r hr j => by
        have hne : r ≠ 0 := by have := hr.2; omega
        have e1 : L1 r = L r := hrol.1 r (by have := hr.2; omega) (by have := hr.2; omega) (by have := hr.2; omega)
        have a1 : tI s12 (L1 r) j = tI s11 (L1 r) j := by
          rw [e12]
          exact if_neg fun z => X11.S.ne hr.1 (r' := 0) (by decide) hne z.1
        have a2 : tI s11 (L r) j = tI s10 (L r) j := congrFun (hsv r hr) j
        have a3 : tI s10 (L r) j = tI s8 (L r) j := by
          rw [e10, e9]
          exact (if_neg fun z => S8.ne hr.1 (r' := 0) (by decide) hne z.1).trans (if_neg fun z => S8.ne hr.1 (r' := 0) (by decide) hne z.1)
        rw [a1, e1, a2, a3]
      have S12 := X12.S
      rw [← L10]
      refine ⟨fun z => absurd z (by decide), fun _ => ⟨S12.o (r := 0) rfl, v_booksS S12 ⟨S12.o (r := 0) rfl, S12.o (r := 44) rfl, ?_⟩⟩⟩
      rw [S12.t (r := 0) (j := 4) (q := 4) (by decide)]
      refine v_asS S12 i44 i4 (fun s13 B13 => ?_)
      obtain ⟨X13, f13⟩ := X12.bk44 B13 (sv := (sM s o).2.1 2) (fun j hj => ⟨(keep 204 ⟨by decide, by omega⟩ j).trans (sv8.1 j hj).1, (keep 404 ⟨by decide, by omega⟩ j).trans (sv8.1 j hj).2⟩) ((keep 4 ⟨by decide, by omega⟩ 2).trans sv8.2.1) (fun i hi => hX.I.1.1.1 i hi) hX.I.1.1.2.2
      have S13 := X13.S
      have keep2 : ∀ r, svR r → r ≠ 4 → r ≠ 204 → r ≠ 404 → ∀ j, tI s13 (L1 r) j = tI s8 (L r) j := fun r hr h1 h2 h3 j => (congrFun (bk_off S12 i44 B13 hr.1 (by have := hr.2; omega) (by have := hr.2; omega) (by have := hr.2; omega)) j).trans (keep r hr j)
      rw [S13.t (r := 0) (j := 2) (q := 2) (by decide), S13.t (r := 0) (j := 3) (q := 3) (by decide)]
      refine ⟨S13.o (r := 0) rfl, S13.o (r := 2) rfl, v_as3S (r1 := 2) (r2 := 3) (B := 100) (C := 120) (Or.inl ⟨rfl, rfl, rfl, rfl⟩) S13 c1 ((keep2 3 ⟨by decide, by omega⟩ (by decide) (by decide) (by decide) 1).trans sv8.2.2.1) (by omega) (fun s14 A14 => ?_)⟩
      have sh120 : ∀ k, k < 16 → shp (120 + k) ≠ none ∧ shp (320 + k) ≠ none ∧ shp (520 + k) ≠ none := fun k hk => by
        obtain ⟨h1, h2, h3⟩ := shp_bk (b := 120 + k) (Or.inr (Or.inr (Or.inr (Or.inr (Or.inr (by omega))))))
        rw [show 200 + (120 + k) = 320 + k by omega] at h2
        rw [show 400 + (120 + k) = 520 + k by omega] at h3
        exact ⟨shp_some h1, shp_some h2, shp_some h3⟩
      generalize hm13 : sA (mF m1 41 (nI k)) 2 (fun i => if i < 25 then (sM s o).2.1 2 i else (mF m1 41 (nI k)).2.1 2 i) = m13 at X13
      obtain ⟨X14, f14⟩ := X13.rest A14 c1 (f := (sM s o).2.1 31) (row := fun i => if i < 416 then (sM s o).2.1 31 i else m13.2.1 31 i) (fun k hk => by
        obtain ⟨u1, u3, u5⟩ := sh120 k (by omega)
        obtain ⟨w1, w2, w3⟩ := sv8.2.2.2 k hk
        exact ⟨fun j hj => ⟨(keep2 _ ⟨u3, by omega⟩ (by omega) (by omega) (by omega) j).trans (w1 j hj).1, (keep2 _ ⟨u5, by omega⟩ (by omega) (by omega) (by omega) j).trans (w1 j hj).2⟩, (keep2 _ ⟨u1, by omega⟩ (by omega) (by omega) (by omega) 2).trans w2, (keep2 _ ⟨u1, by omega⟩ (by omega) (by omega) (by omega) 3).trans w3⟩) pc (fun i hi => if_pos hi)
      refine ⟨X14.S.o (r := 0) rfl, v_refS (k := 3) X14 (by decide) (by decide) (fun s' X' f' => pfin X' hm (frM_t (frM_t f12 (frM_t f13 f14)) f') L10 hK (fun mi K2 hc h2 => ?_))⟩
      refine acc (mi, K2) (fun g hG => ?_) hc
      obtain ⟨g1, -, -, -, g5, g32⟩ := hG
      show failW (nP N) (nI c) K2 k g
      unfold failW w_takesBack
      refine w_tkbF (a := 1) (m := g) (sv := (sM s o).2.1 2) (by decide) (fun j hj => g5 j hj) ?_ 25 (nP N).1 0 g (sA_0 g 2 _) (by omega) (by show 25 < N.1; omega)
      refine w_o122 (m := sA g 2 (fun i => if i < 25 then (sM s o).2.1 2 i else g.2.1 2 i)) (f := (sM s o).2.1 31) (fun i hi => by rw [sA_o _ _ (by decide)]; exact g32 i hi) ?_ 416 (nP N).1 0 _ (sA_0 _ 31 _) (by omega) (by show 416 < N.1; omega)
      intro ma ea mb eb
      rw [eb, ea]
      refine w_refS (k := 3) (by decide) (h2 _ (rfM_c ⟨fun j hj => ?_, fun r hr => ?_⟩ 3))
      · show (if j = 41 then nI k else if j = 33 then nI c else g.1 j) = if j = 33 then nI c else m13.1 j
        by_cases z1 : j = 41
        · rw [if_pos z1, if_neg (by omega), ← hm13, z1]
          rfl
        · rw [if_neg z1]
          by_cases z2 : j = 33
          · rw [if_pos z2, if_pos z2]
          · rw [if_neg z2, if_neg z2, ← hm13]
            exact (g1.1 j hj).trans (mF_o m1 (nI k) z1).symm
      · show (sA (sA g 2 _) 31 _).2.1 r = (sA m13 31 _).2.1 r
        by_cases z1 : r = 31
        · subst z1
          rw [sA_at, sA_at, sA_o _ _ (by decide)]
          funext i
          by_cases ci : i < 416
          · rw [if_pos ci, if_pos ci]
          · rw [if_neg ci, if_neg ci, ← hm13, sA_o _ _ (by decide)]
            exact congrFun (g1.2 31 (by decide)) i
        · rw [sA_o _ _ z1, sA_o _ _ z1]
          by_cases z2 : r = 2
          · subst z2
            rw [← hm13, sA_at, sA_at]
            funext i
            by_cases ci : i < 25
            · rw [if_pos ci, if_pos ci]
            · rw [if_neg ci, if_neg ci]
              exact congrFun (g1.2 2 (by decide)) i
          · rw [sA_o _ _ z2, ← hm13, sA_o _ _ z2]
            exact g1.2 r hr
    · obtain ⟨mi, K2⟩ := y
      show w_orders (nP N) mi K2
      unfold w_orders
      intro ma ea
      have hca : cE (mF (sM s o) 41 (-1)) ma := by
        rw [ea]
        exact cE_F hc 41 (-1)
      have e11 : ma.2.1 11 = (sM s o).2.1 11 := hca.2 11 (by decide)
      have e7 : ma.2.1 7 = (sM s o).2.1 7 := hca.2 7 (by decide)
      refine w_readsS (N := nP N) hN1 (by show 40 ≤ N.2.1; omega) n1 (fun j hj => by rw [e7]; exact hX.I.2.2.2.2 j hj) ((hca.1 13 (by decide)).trans n2) true (fun u g hu hD g13 g14 g18 gr => ⟨fun _ => ?_, fun z => absurd z (by decide)⟩) (fun e' g he' hD g13 g14 => ?_)
      · rw [e11, hTT] at g18 gr
        rw [hcd, hvl] at gr
        have cg : cE mB g := by
          rw [← hmB]
          refine ⟨fun j hj => ?_, fun q hq => ?_⟩
          · show g.1 j = if j = 13 then 0 else if j = 14 then -1 else (mF (sM s o) 41 (-1)).1 j
            by_cases c : j = 13
            · rw [if_pos c, c]
              exact g13
            · rw [if_neg c]
              by_cases c2 : j = 14
              · rw [if_pos c2, c2]
                exact g14
              · rw [if_neg c2, ← hca.1 j hj]
                have key : ∀ j ∈ stF, j ≠ 13 → j ≠ 14 → j ∉ rdF := by decide
                exact hD.1 j (key j hj c c2)
          · show g.2.1 q = (mF (sM s o) 41 (-1)).2.1 q
            rw [← hca.2 q hq]
            have key : ∀ q ∈ stA, q ∉ rdA := by decide
            exact hD.2.1 q (key q hq)
        have g2 : g.2.1 2 = (sM s o).2.1 2 := (cg.2 2 (by decide)).trans (congrFun mB2 2)
        have g31 : g.2.1 31 = (sM s o).2.1 31 := (cg.2 31 (by decide)).trans (congrFun mB2 31)
        unfold w_laysAside
        refine w_asd (a := 1) (by decide) (fun ga da va _ => ?_) 25 (nP N).1 0 g (mD_r g) (fun i hi => absurd hi (Nat.not_lt_zero _)) (fun _ _ => rfl) (by omega) (by show 25 < N.1; omega)
        refine w_o27 (m := ga) ?_ 416 (nP N).1 0 ga (sA_0 ga 32 _) (by omega) (by show 416 < N.1; omega)
        intro x8 hx8
        generalize hgb : sA ga 32 (fun i => if i < 416 then ga.2.1 31 i else ga.2.1 32 i) = gb at hx8 ⊢
        have gbo : ∀ q, q ≠ 32 → gb.2.1 q = ga.2.1 q := fun q hq => by
          rw [← hgb]
          exact sA_o _ _ hq
        have gb1 : gb.1 = ga.1 := by
          rw [← hgb]
          rfl
        have ga1 : ∀ j, ga.1 j = g.1 j := fun j => da.1 j (by simp)
        have gb2 : gb.2.1 2 = (sM s o).2.1 2 := (gbo 2 (by decide)).trans ((da.2.1 2 (by decide)).trans g2)
        have e33 : mFd gb 33 = nI c := by
          show gb.1 33 = nI c
          rw [gb1, ga1, cg.1 33 (by decide)]
          exact cB
        rw [hx8, e33]
        refine w_laysX (N := nP N) (t := 6) hN1 (by decide) hT4 (s0 := gb) (cd := cd) (vl := vl) ?_ (fun k hk => ?_) (fun gc dc kc => ?_)
        · show gb.1 18 = nI T
          rw [gb1, ga1]
          exact g18
        · rw [gbo 15 (by decide), gbo 16 (by decide), da.2.1 15 (by decide), da.2.1 16 (by decide)]
          exact gr k hk
        · rw [gb2] at kc
          intro h1 eh1 h2 eh2 h3 eh3
          have H2 : h3.2.1 = gc.2.1 := by
            rw [eh3, eh2, eh1]
            rfl
          have H1 : ∀ j, j ≠ 27 → j ≠ 28 → j ≠ 42 → h3.1 j = g.1 j := fun j a b c => by
            rw [eh3, eh2, eh1]
            refine (mF_o _ _ c).trans ((mF_o _ _ b).trans ((mF_o _ _ a).trans ?_))
            rw [dc.1 j (by simp), gb1]
            exact ga1 j
          have e42 : mFd h3 42 = nI 2400 := by
            rw [eh3]
            rfl
          refine ⟨vpk (k := 51) (by decide) (by decide), fun x15 hx15 => ?_⟩
          have e51 : mAt h3 2 51 = nI T := by
            rw [show mAt h3 2 51 = h3.2.1 2 51 from mAt_n (k := 51) (by decide), H2, kc]
            exact layK_51
          rw [e42, e51, nI_add] at hx15
          rw [hx15]
          refine hy h3 ⟨⟨fun j hj => ?_, fun q hq => ?_⟩, ?_, ?_, e42, fun j hj => ?_, fun i hi => ?_⟩
          · have key : ∀ j ∈ stF, j ≠ 27 ∧ j ≠ 28 ∧ j ≠ 42 := by decide
            obtain ⟨k1, k2, k3⟩ := key j hj
            rw [H1 j k1 k2 k3, mC1]
            exact cg.1 j hj
          · rw [H2]
            by_cases z2 : q = 2
            · subst z2
              rw [kc, mC2]
            · have key : ∀ q ∈ stA, q ≠ 32 ∧ q ≠ 5 := by decide
              obtain ⟨k1, k2⟩ := key q hq
              rw [dc.2.1 q (by simpa using z2), gbo q k1, da.2.1 q (by simpa using k2), cg.2 q hq, mCo q z2, mB2]
          · rw [eh3, eh2, eh1]
            rfl
          · rw [eh3, eh2]
            rfl
          · rw [H2, dc.2.1 5 (by decide), gbo 5 (by decide), ← g2]
            exact va j hj
          · rw [H2, dc.2.1 32 (by decide), ← hgb, sA_at, if_pos hi, da.2.1 31 (by decide), g31]
      · exfalso
        rw [e11, hcd, hvl, hTT] at he'
        unfold pText at he'
        rw [if_pos rfl, hcs] at he'
        cases he'
end OO
