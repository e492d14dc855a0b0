set_option maxRecDepth 100000
/-! ===== pass and undo ===== -/
theorem sumI_bI {f : Nat → Int32} (h : ∀ k, ∃ b, f k = bI b) : ∀ q, ∃ u, u ≤ q ∧ sumI f q = nI u
  | 0 => ⟨0, Nat.le_refl _, rfl⟩
  | q + 1 => by
    obtain ⟨u, u1, u2⟩ := sumI_bI h q
    obtain ⟨b, hb⟩ := h q
    have e : sumI f (q + 1) = sumI f q + f q := rfl
    rw [e, u2, hb]
    cases b with
    | true => exact ⟨u + 1, by omega, nI_add u 1⟩
    | false => exact ⟨u + 0, by omega, nI_add u 0⟩
theorem bar_n {kp : Nat → Int32} {lw : Option (List cL)} (q : Nat) : ∃ u, u ≤ q ∧ sumI (mOne 2 kp lw) q = nI u := sumI_bI (fun k => ⟨mBar kp lw k (kp k) (prevI kp k), rfl⟩) q
theorem day_1 {x : Int32} (h : 0 ≤ x.toInt ∧ x.toInt ≤ 999) (hn : ¬ x = 999) : 0 ≤ (x + 1).toInt ∧ (x + 1).toInt ≤ 999 := by
  obtain ⟨j, j1, j2⟩ := i32N (c := x) h.1
  have : j ≠ 999 := fun z => hn (by rw [j1, z]; rfl)
  have j3 : j ≤ 999 := by omega
  rw [j1, nI_1, nI_toInt (by omega)]
  omega
section O5
variable {N : tP} {s : tM} {x o : Nat} {K : tM → Prop}
theorem op_pass (hN : nOK N) (hX : RXo N s x o) (hK : ∀ s', RXo N s' x o → K s') : v_X0_pass N x s (pK o (w_pass (nP N)) K) := by
  obtain ⟨L, M, rfl, hX, hm⟩ := hX
  have hS := hX.S
  obtain ⟨told, k1, k2, -⟩ := hX.told
  obtain ⟨n, n1, n2⟩ := hX.I.1.2.2.2.2.1
  obtain ⟨c, c1, c2, c3⟩ := hX.cnt
  obtain ⟨lw, hF⟩ := hX.inF
  have o0 := hS.o (r := 0) rfl
  have h450 : 450 ≤ (nP N).1 := Nat.le_trans (by decide) hN.1
  have hd : 0 ≤ ((sM s o).2.1 2 24).toInt ∧ ((sM s o).2.1 2 24).toInt ≤ 999 := hX.I.1.1.2.2
  have hN1 : 60 ≤ N.1 := by have := hN.1; omega
  have hN2 : 120 ≤ N.2.1 := by have := hN.2; omega
  obtain ⟨u, u1, u2⟩ := @bar_n ((sM s o).2.1 2) lw n
  have hu : 0 ≤ (sumI (mOne 2 ((sM s o).2.1 2) lw) n).toInt := by
    rw [u2, nI_toInt (by omega)]
    omega
  unfold v_X0_pass v_X0_passNow
  refine ⟨o0, o0, v_booksS hS ?_⟩
  rw [hX.d]
  refine ⟨hS.o (r := 44) rfl, fun nn => ⟨o0, v_barredS hN2 hN1 hX hF n2 n1 (fun s1 h1 => ?_)⟩, fun yn => ⟨o0, op_ref (k := 3) hX hm rfl hK (by decide) (by decide) (fun m1 K2 hc h2 => ?_)⟩⟩
  · have X1 := hX.a h1
    have S1 := X1.S
    have f1 : frM (mO s o) s s1 := frM_s (aS_M h1 hS) (fun _ => Or.inr)
    refine ⟨S1.o (r := 0) rfl, v_booksS S1 ?_⟩
    rw [S1.t (r := 0) (j := 2) (q := 2) (by decide)]
    refine ⟨S1.o (r := 2) rfl, v_appS X1 c1 c2 ⟨3, by decide, rfl⟩ (fun s2 L' hL _ X2 f2 => ?_)⟩
    have S2 := X2.S
    have X2' : RX N s2 L' M (mO s o) (kM c 3 (sM s o)) := X2
    have e24 : (kM c 3 (sM s o)).2.1 2 = (sM s o).2.1 2 := (kM_o (n := c) (w := 3) (m := sM s o)).2 2 (by decide)
    rw [← hL 0 (by decide)]
    refine ⟨S2.o (r := 0) rfl, v_booksS S2 ⟨S2.o (r := 44) rfl, fun s3 e3 => ?_⟩⟩
    rw [show tI s2 (L' 44) 2 = (sM s o).2.1 2 24 from X2'.d.trans (congrFun e24 24)] at e3
    have X3 : RX N s3 L' M (mO s o) (mI (kM c 3 (sM s o)) 2 (nI 24) ((sM s o).2.1 2 24 + 1)) := by
      rw [e3]
      refine X2'.w (r0 := 44) (j0 := 2) (q0 := 2) (i0 := 24) rfl (rd_I _ _ (by decide) (by omega)) (by omega) (invM_I X2'.I (told := told) ((congrFun e24 43).trans k2) k1 (by omega) ⟨by omega, fun _ => day_1 hd nn, by omega, by omega, by omega, by omega, by omega, by omega, by omega, by omega⟩)
    have f3 : frM (mO s o) s s3 := frM_t (frM_t f1 f2) (by rw [e3]; exact frM_I X2' (r := 44) (by decide))
    refine ⟨X3.S.o (r := 0) rfl, v_goodS X3 hu (fun s' X' f' => pfin X' hm (frM_t f3 f') (hL 0 (by decide)) hK (fun m1 K2 hc h2 => ?_))⟩
    have e2 := eqP hc
    unfold w_pass w_passesKept
    have d1 : mAt m1 2 24 = (sM s o).2.1 2 24 := (mAt_n (k := 24) (by decide)).trans (congrFun e2 24)
    rw [d1]
    refine ⟨vpk (k := 24) (by decide) (by decide), fun _ => ?_, fun z => absurd z nn⟩
    refine w_allS (N := nP N) (w := 2) (by have := hN.1; show 402 ≤ N.1; omega) (by have := hN.2; show 40 ≤ N.2.1; omega) (s0 := m1) (lw := lw) (by rw [e2]; exact hF) (by rw [e2]; exact hX.I.1.1) (m := n) (by rw [e2]; exact n2) n1 (by decide) (fun g hg => ?_)
    have hg1 : cE m1 g := cE_D hg (by decide) (by decide)
    rw [e2]
    refine w_keepsS h450 c1 ((hg1.1 33 (by decide)).trans ((hc.1 33 (by decide)).trans c2)) (fun g2 hg2 => ⟨vpk (k := 24) (by decide) (by decide), vpk (k := 24) (by decide) (by decide), fun s4 e4 => w_goodOrS hu ?_⟩)
    have hg2' : cE (kM c 3 g) g2 := hg2
    have hk : cE (kM c 3 (sM s o)) g2 := cE_t (cE_kM (cE_t hc hg1) c 3) hg2'
    have d2 : mAt g2 2 24 = (sM s o).2.1 2 24 := (mAt_n (k := 24) (by decide)).trans ((congrFun (hk.2 2 (by decide)) 24).trans (congrFun e24 24))
    rw [d2] at e4
    rw [e4]
    exact h2 _ (cE_F (cE_I hk _ _ _) _ _)
  · have e2 := eqP hc
    unfold w_pass w_passesKept
    have d1 : mAt m1 2 24 = (sM s o).2.1 2 24 := (mAt_n (k := 24) (by decide)).trans (congrFun e2 24)
    rw [d1]
    exact ⟨vpk (k := 24) (by decide) (by decide), fun z => absurd yn z, fun _ => w_goodOrN (k := 3) (by decide) (by decide) h2⟩
end O5
/-- a row filled from the front -/
theorem sA_step {m : mS} {j : Nat} {F B : Nat → Int32} {k : Nat} (hk : k < 2 ^ 31) : mI (sA m j (fun q => if q < k then F q else B q)) j (nI k) (F k) = sA m j (fun q => if q < k + 1 then F q else B q) := by
  have h2 : (mI (sA m j (fun q => if q < k then F q else B q)) j (nI k) (F k)).2.1 = (sA m j (fun q => if q < k + 1 then F q else B q)).2.1 := funext fun q => by
    by_cases e : q = j
    · subst e
      funext i
      rw [mI_at _ _ _ hk, sA_at, sA_at]
      by_cases c1 : i = k
      · rw [if_pos c1, if_pos (by omega), c1]
      · rw [if_neg c1]
        by_cases c2 : i < k
        · rw [if_pos c2, if_pos (by omega)]
        · rw [if_neg c2, if_neg (by omega)]
    · rw [mI_o _ _ _ e, sA_o _ _ e, sA_o _ _ e]
  exact Prod.ext rfl (Prod.ext h2 rfl)
theorem sA_0 (m : mS) (j : Nat) (F : Nat → Int32) : m = sA m j (fun q => if q < 0 then F q else m.2.1 j q) := by
  have h2 : m.2.1 = (sA m j (fun q => if q < 0 then F q else m.2.1 j q)).2.1 := funext fun q => by
    by_cases e : q = j
    · subst e
      rw [sA_at]
      funext i
      rw [if_neg (by omega)]
    · rw [sA_o _ _ e]
  exact Prod.ext rfl (Prod.ext h2 rfl)
/-- the last step taken back -/
def undM (k : Nat) (m : mS) : mS := sA (mF m 33 (nI k)) 2 (fun q => if q < 25 then m.2.1 31 (26 * k + q) else m.2.1 2 q)
theorem cE_und {m m1 : mS} (h : cE m m1) (k : Nat) : cE (undM k m) (undM k m1) := by
  unfold undM
  rw [h.2 31 (by decide), h.2 2 (by decide)]
  exact cE_A (cE_F h _ _) _ _
theorem w_undoL {N : Nat × Nat} {Kr : Int32 → mS → Prop} {K : mS → Prop} {m : mS} {k : Nat} (hk : k < 16) (hK : K (sA m 2 (fun q => if q < 25 then m.2.1 31 (26 * k + q) else m.2.1 2 q))) : ∀ (f t i : Nat) {g : mS}, g = sA m 2 (fun q => if q < i then m.2.1 31 (26 * k + q) else m.2.1 2 q) → f < t → i + f = 25 → w_undo_34 N (nI (26 * k)) Kr K t (nI i) g
  | f, 0, _, _, _, h, _ => absurd h (Nat.not_lt_zero _)
  | 0, t + 1, i, g, hg, _, hi => by
    unfold w_undo_34
    have : i = 25 := by omega
    subst this
    refine ⟨fun _ => by rw [hg]; exact hK, fun z => absurd (nI_le (Nat.le_refl 25) (by omega)) z⟩
  | f + 1, t + 1, i, g, hg, ht, hi => by
    unfold w_undo_34
    rw [nI_add, show (25 : Int32) = nI 25 from rfl, nI_leI (by omega) (by omega)]
    refine ⟨fun z => by omega, fun _ => ⟨vpk (by omega) (by decide), vpk (by omega) (by decide), fun s4 e4 y hy => ?_⟩⟩
    rw [nI_1] at hy
    rw [hy]
    refine w_undoL hk hK f t (i + 1) ?_ (by omega) (by omega)
    have e2 : mAt g 31 (nI (26 * k + i)) = m.2.1 31 (26 * k + i) := by
      rw [mAt_n (by omega), hg, sA_o _ _ (by decide)]
    rw [e4, e2, hg]
    exact sA_step (F := fun q => m.2.1 31 (26 * k + q)) (B := m.2.1 2) (by omega)
