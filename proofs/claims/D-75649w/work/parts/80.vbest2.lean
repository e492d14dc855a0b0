set_option maxRecDepth 100000
/-! ===== best, mend, compare: their pairs (printed by mk80.py) ===== -/
section B2
variable {N : tP} {s : tM} {L : Nat → Nat} {M O : Nat → Prop} {m : mS} {lw : Option (List cL)} {x o : Nat} {K : tM → Prop}
theorem v_best36 (hX : RX N s L M O m) {q lo hi : Nat} (hq : q ≤ 12) (hh : hi < 25) (hl : laid s L (m.2.1 2) lw q lo hi (fnI (-1))) {K : Int32 → tM → Prop} (hK : K (if (sV (goT (m.2.1 2) lw) (prT (m.2.1 2) lw) (gaT (m.2.1 2) lw) (dI (m.2.1 2)) q lo hi (fnI (-1)) q 0).2.2.2 = 0 then -1 else cmp4 false (sV (goT (m.2.1 2) lw) (prT (m.2.1 2) lw) (gaT (m.2.1 2) lw) (dI (m.2.1 2)) q lo hi (fnI (-1)) q 0)) s) : v_X0_best_36 N (L 0) K s := by
  have hS := hX.S
  have l0 := laid_0 hl
  have ok := sV_ok (lo := lo) (hi := hi) (fin := fnI (-1)) (tbB_T (m.2.1 2) lw q) hq hh q (Nat.le_refl _) 0 ⟨by omega, Or.inr (by omega)⟩
  unfold v_X0_best_36
  refine ⟨hS.o (r := 0) rfl, v_isThereS hX (congrArg (fun v : T4 => v.2.2.2) l0) ok ?_⟩
  by_cases cz : (sV (goT (m.2.1 2) lw) (prT (m.2.1 2) lw) (gaT (m.2.1 2) lw) (dI (m.2.1 2)) q lo hi (fnI (-1)) q 0).2.2.2 = 0
  · rw [if_pos cz] at hK
    rw [decide_eq_true cz]
    exact ⟨fun _ => hK, fun z => absurd rfl z⟩
  · rw [if_neg cz] at hK
    rw [decide_eq_false cz]
    have qr := hS.q0.2.2.2.1
    have rr := (hS.q19 (n := 0) (by omega)).1
    have ev : tI s (L (660 + 0)) 0 = cmp4 false (sV (goT (m.2.1 2) lw) (prT (m.2.1 2) lw) (gaT (m.2.1 2) lw) (dI (m.2.1 2)) q lo hi (fnI (-1)) q 0) := congrArg (fun v : T4 => v.1) l0
    refine ⟨fun z => absurd z (by decide), fun _ => ?_⟩
    rw [qr, rr, ev]
    exact ⟨hS.o (r := 0) rfl, (hS.x19 (n := 0) (by omega)).1, (hS.x660 (n := 0) (b := 0) (by omega) (by omega)).1, hK⟩
theorem v_best20 (hN : 120 ≤ N.2.1) (hN1 : 60 ≤ N.1) (hX : RX N s L M O m) (hF : inF (m.2.1 2) lw) {q lo hi : Nat} (hq : q ≤ 12) (hqv : m.2.1 2 41 = nI q) (hh : hi < 25) (hl : lo < 25) (hlv : m.2.1 2 39 = nI lo) (hhv : m.2.1 2 40 = nI hi) {x : Int32} (hx : x = -1 ∨ ∃ i, i < q ∧ x = nI i) {K : Int32 → tM → Prop} (hK : ∀ s1, aT L s s1 → K (bstF false (m.2.1 2) lw q lo hi x) s1) : v_X0_best_20 N (L 0) x K s := by
  unfold v_X0_best_20
  refine ⟨hX.S.o (r := 0) rfl, v_layAllS hN hN1 hX hF hq hqv hh hl hlv hhv (fun s1 a1 l1 => ?_)⟩
  have X1 := hX.t a1
  have hS := X1.S
  have kk := hK s1 a1
  unfold bstF at kk
  have l0 := laid_0 l1
  have ok := sV_ok (lo := lo) (hi := hi) (fin := fnI (-1)) (tbB_T (m.2.1 2) lw q) hq hh q (Nat.le_refl _) 0 ⟨by omega, Or.inr (by omega)⟩
  refine ⟨fun yx => v_best36 X1 hq hh l1 ?_, fun nx => ⟨hS.o (r := 0) rfl, v_isThereS X1 (congrArg (fun v : T4 => v.2.2.2) l0) ok ?_⟩⟩
  · rw [if_pos yx] at kk
    exact kk
  · obtain ⟨i, i1, rfl⟩ := hx.resolve_left nx
    rw [if_neg nx, nI_clamp (by omega)] at kk
    by_cases cz : (sV (goT (m.2.1 2) lw) (prT (m.2.1 2) lw) (gaT (m.2.1 2) lw) (dI (m.2.1 2)) q lo hi (fnI (-1)) q 0).2.2.2 = 0
    · rw [if_pos cz] at kk
      rw [decide_eq_true cz]
      refine ⟨fun z => absurd rfl z, fun _ => v_best36 X1 hq hh l1 ?_⟩
      rw [if_pos cz]
      exact kk
    · rw [if_neg cz] at kk
      rw [decide_eq_false cz]
      refine ⟨fun _ => ?_, fun z => absurd z (by decide)⟩
      exact v_bst60 hN1 X1 hq hh hlv l1 cz i1 kk (i + 1) N.1 0 (by omega) (by omega)
theorem op_best (hN : nOK N) (hX : RXo N s x o) (hK : ∀ s', RXo N s' x o → K s') (a : Int32) : v_X0_best N x a s (pK o (w_best (nP N) a) K) := by
  obtain ⟨L, M, rfl, hX, hm⟩ := hX
  have hS := hX.S
  obtain ⟨q, n1, n2⟩ := hX.I.1.2.2.2.2.1
  obtain ⟨lo, lo1, lo2⟩ := i32N hX.I.1.2.2.1.1
  obtain ⟨hi, hi1, hi2⟩ := i32N hX.I.1.2.2.2.1.1
  have hl : lo < 25 := by have := hX.I.1.2.2.1.2; omega
  have hh : hi < 25 := by have := hX.I.1.2.2.2.1.2; omega
  obtain ⟨lw, hF⟩ := hX.inF
  have hN1 : 60 ≤ N.1 := by have := hN.1; omega
  have hN2 : 120 ≤ N.2.1 := by have := hN.2; omega
  have hM1 : 402 ≤ (nP N).1 := by have := hN.1; show 402 ≤ N.1; omega
  have hM2 : 40 ≤ (nP N).2 := by have := hN.2; show 40 ≤ N.2.1; omega
  have bnd : ¬ a < -1 → a < nI q → a = -1 ∨ ∃ i, i < q ∧ a = nI i := fun z1 z2 => by
    rw [i32_lt, m1toI] at z1
    rw [i32_lt, nI_toInt (by omega)] at z2
    by_cases c : a.toInt = -1
    · exact Or.inl (Int32.toInt_inj.mp (c.trans m1toI.symm))
    · obtain ⟨j, j1, j2⟩ := i32N (c := a) (by omega)
      exact Or.inr ⟨j, by omega, j1⟩
  have bad : a < -1 ∨ (¬ a < nI q ∧ ¬ a = -1) → pK o (w_best (nP N) a) K (-1) s := fun h => by
    refine pfin hX hm (frM_r _ _) rfl hK (fun m1 K2 hc h2 => ?_)
    unfold w_best w_voiceOf
    refine ⟨fun _ => h2 m1 hc, fun z => w_manyS (v := nI q) (by rw [eqP hc]; exact n2) ⟨fun z2 => ?_, fun z2 => ⟨fun z3 => ?_, fun _ => h2 m1 hc⟩⟩⟩
    · exact absurd z2 (h.resolve_left z).1
    · exact absurd z3 (h.resolve_left z).2
  have good : ¬ a < -1 → (a = -1 ∨ ∃ i, i < q ∧ a = nI i) → v_X0_best_20 N (L 0) a (pK o (w_best (nP N) a) K) s := fun hlt ha => by
    refine v_best20 hN2 hN1 hX hF n1 n2 hh hl lo1 hi1 ha (fun s1 a1 => ?_)
    refine pfin (hX.t a1) hm (frM_s (aT_M a1 hS) (fun _ => Or.inr)) rfl hK (fun m1 K2 hc h2 => ?_)
    have e2 := eqP hc
    have core : w_voiceOf_20 (nP N) a (bI false) K2 m1 := by
      refine w_voice20 (lw := lw) (lo := lo) (hi := hi) hM1 hM2 (by rw [e2]; exact hF) (by rw [e2]; exact hX.I.1.1) n1 (by rw [e2]; exact n2) hh hl (by rw [e2]; exact lo1) (by rw [e2]; exact hi1) ha (fun m2 c2 => ?_)
      rw [e2]
      exact h2 m2 (cE_t hc c2)
    unfold w_best w_voiceOf
    refine ⟨fun z => absurd z hlt, fun _ => w_manyS (v := nI q) (by rw [e2]; exact n2) ⟨fun _ => core, fun z => ⟨fun _ => core, fun z2 => ?_⟩⟩⟩
    rcases ha with ha | ⟨i, i1, rfl⟩
    · exact absurd ha z2
    · exact absurd (nI_lt i1 (by omega)) z
  unfold v_X0_best
  refine ⟨fun z => bad (Or.inl z), fun nz => ⟨hS.o (r := 0) rfl, v_nNotesS hS ?_⟩⟩
  rw [show tI s (L 40) 4 = nI q from hX.many.trans n2]
  exact ⟨fun z => good nz (bnd nz z), fun z => ⟨fun z2 => good nz (Or.inl z2), fun z2 => bad (Or.inr ⟨z, z2⟩)⟩⟩
theorem v_mend36 (hX : RX N s L M O m) {q lo hi : Nat} (hq : q ≤ 12) (hh : hi < 25) (hl : laid s L (m.2.1 2) lw q lo hi (fnI (-1))) {K : Int32 → tM → Prop} (hK : K (if (sV (goT (m.2.1 2) lw) (prT (m.2.1 2) lw) (gaT (m.2.1 2) lw) (dI (m.2.1 2)) q lo hi (fnI (-1)) q 0).2.2.2 = 0 then -1 else cmp4 true (sV (goT (m.2.1 2) lw) (prT (m.2.1 2) lw) (gaT (m.2.1 2) lw) (dI (m.2.1 2)) q lo hi (fnI (-1)) q 0)) s) : v_X0_mend_36 N (L 0) K s := by
  have hS := hX.S
  have l0 := laid_0 hl
  have ok := sV_ok (lo := lo) (hi := hi) (fin := fnI (-1)) (tbB_T (m.2.1 2) lw q) hq hh q (Nat.le_refl _) 0 ⟨by omega, Or.inr (by omega)⟩
  unfold v_X0_mend_36
  refine ⟨hS.o (r := 0) rfl, v_isThereS hX (congrArg (fun v : T4 => v.2.2.2) l0) ok ?_⟩
  by_cases cz : (sV (goT (m.2.1 2) lw) (prT (m.2.1 2) lw) (gaT (m.2.1 2) lw) (dI (m.2.1 2)) q lo hi (fnI (-1)) q 0).2.2.2 = 0
  · rw [if_pos cz] at hK
    rw [decide_eq_true cz]
    exact ⟨fun _ => hK, fun z => absurd rfl z⟩
  · rw [if_neg cz] at hK
    rw [decide_eq_false cz]
    have qr := hS.q0.2.2.2.2.2.1
    have rr := (hS.q19 (n := 0) (by omega)).2.2.1
    have ev : tI s (L (700 + 0)) 0 = cmp4 true (sV (goT (m.2.1 2) lw) (prT (m.2.1 2) lw) (gaT (m.2.1 2) lw) (dI (m.2.1 2)) q lo hi (fnI (-1)) q 0) := congrArg (fun v : T4 => v.2.2.1) l0
    refine ⟨fun z => absurd z (by decide), fun _ => ?_⟩
    rw [qr, rr, ev]
    exact ⟨hS.o (r := 0) rfl, (hS.x19 (n := 0) (by omega)).2.2.1, (hS.x660 (n := 0) (b := 0) (by omega) (by omega)).2.2.1, hK⟩
theorem v_mend20 (hN : 120 ≤ N.2.1) (hN1 : 60 ≤ N.1) (hX : RX N s L M O m) (hF : inF (m.2.1 2) lw) {q lo hi : Nat} (hq : q ≤ 12) (hqv : m.2.1 2 41 = nI q) (hh : hi < 25) (hl : lo < 25) (hlv : m.2.1 2 39 = nI lo) (hhv : m.2.1 2 40 = nI hi) {x : Int32} (hx : x = -1 ∨ ∃ i, i < q ∧ x = nI i) {K : Int32 → tM → Prop} (hK : ∀ s1, aT L s s1 → K (bstF true (m.2.1 2) lw q lo hi x) s1) : v_X0_mend_20 N (L 0) x K s := by
  unfold v_X0_mend_20
  refine ⟨hX.S.o (r := 0) rfl, v_layAllS hN hN1 hX hF hq hqv hh hl hlv hhv (fun s1 a1 l1 => ?_)⟩
  have X1 := hX.t a1
  have hS := X1.S
  have kk := hK s1 a1
  unfold bstF at kk
  have l0 := laid_0 l1
  have ok := sV_ok (lo := lo) (hi := hi) (fin := fnI (-1)) (tbB_T (m.2.1 2) lw q) hq hh q (Nat.le_refl _) 0 ⟨by omega, Or.inr (by omega)⟩
  refine ⟨fun yx => v_mend36 X1 hq hh l1 ?_, fun nx => ⟨hS.o (r := 0) rfl, v_isThereS X1 (congrArg (fun v : T4 => v.2.2.2) l0) ok ?_⟩⟩
  · rw [if_pos yx] at kk
    exact kk
  · obtain ⟨i, i1, rfl⟩ := hx.resolve_left nx
    rw [if_neg nx, nI_clamp (by omega)] at kk
    by_cases cz : (sV (goT (m.2.1 2) lw) (prT (m.2.1 2) lw) (gaT (m.2.1 2) lw) (dI (m.2.1 2)) q lo hi (fnI (-1)) q 0).2.2.2 = 0
    · rw [if_pos cz] at kk
      rw [decide_eq_true cz]
      refine ⟨fun z => absurd rfl z, fun _ => v_mend36 X1 hq hh l1 ?_⟩
      rw [if_pos cz]
      exact kk
    · rw [if_neg cz] at kk
      rw [decide_eq_false cz]
      refine ⟨fun _ => ?_, fun z => absurd z (by decide)⟩
      exact v_mnd60 hN1 X1 hq hh hlv l1 cz i1 kk (i + 1) N.1 0 (by omega) (by omega)
theorem op_mend (hN : nOK N) (hX : RXo N s x o) (hK : ∀ s', RXo N s' x o → K s') (a : Int32) : v_X0_mend N x a s (pK o (w_mend (nP N) a) K) := by
  obtain ⟨L, M, rfl, hX, hm⟩ := hX
  have hS := hX.S
  obtain ⟨q, n1, n2⟩ := hX.I.1.2.2.2.2.1
  obtain ⟨lo, lo1, lo2⟩ := i32N hX.I.1.2.2.1.1
  obtain ⟨hi, hi1, hi2⟩ := i32N hX.I.1.2.2.2.1.1
  have hl : lo < 25 := by have := hX.I.1.2.2.1.2; omega
  have hh : hi < 25 := by have := hX.I.1.2.2.2.1.2; omega
  obtain ⟨lw, hF⟩ := hX.inF
  have hN1 : 60 ≤ N.1 := by have := hN.1; omega
  have hN2 : 120 ≤ N.2.1 := by have := hN.2; omega
  have hM1 : 402 ≤ (nP N).1 := by have := hN.1; show 402 ≤ N.1; omega
  have hM2 : 40 ≤ (nP N).2 := by have := hN.2; show 40 ≤ N.2.1; omega
  have bnd : ¬ a < -1 → a < nI q → a = -1 ∨ ∃ i, i < q ∧ a = nI i := fun z1 z2 => by
    rw [i32_lt, m1toI] at z1
    rw [i32_lt, nI_toInt (by omega)] at z2
    by_cases c : a.toInt = -1
    · exact Or.inl (Int32.toInt_inj.mp (c.trans m1toI.symm))
    · obtain ⟨j, j1, j2⟩ := i32N (c := a) (by omega)
      exact Or.inr ⟨j, by omega, j1⟩
  have bad : a < -1 ∨ (¬ a < nI q ∧ ¬ a = -1) → pK o (w_mend (nP N) a) K (-1) s := fun h => by
    refine pfin hX hm (frM_r _ _) rfl hK (fun m1 K2 hc h2 => ?_)
    unfold w_mend w_voiceOf
    refine ⟨fun _ => h2 m1 hc, fun z => w_manyS (v := nI q) (by rw [eqP hc]; exact n2) ⟨fun z2 => ?_, fun z2 => ⟨fun z3 => ?_, fun _ => h2 m1 hc⟩⟩⟩
    · exact absurd z2 (h.resolve_left z).1
    · exact absurd z3 (h.resolve_left z).2
  have good : ¬ a < -1 → (a = -1 ∨ ∃ i, i < q ∧ a = nI i) → v_X0_mend_20 N (L 0) a (pK o (w_mend (nP N) a) K) s := fun hlt ha => by
    refine v_mend20 hN2 hN1 hX hF n1 n2 hh hl lo1 hi1 ha (fun s1 a1 => ?_)
    refine pfin (hX.t a1) hm (frM_s (aT_M a1 hS) (fun _ => Or.inr)) rfl hK (fun m1 K2 hc h2 => ?_)
    have e2 := eqP hc
    have core : w_voiceOf_20 (nP N) a (bI true) K2 m1 := by
      refine w_voice20 (lw := lw) (lo := lo) (hi := hi) hM1 hM2 (by rw [e2]; exact hF) (by rw [e2]; exact hX.I.1.1) n1 (by rw [e2]; exact n2) hh hl (by rw [e2]; exact lo1) (by rw [e2]; exact hi1) ha (fun m2 c2 => ?_)
      rw [e2]
      exact h2 m2 (cE_t hc c2)
    unfold w_mend w_voiceOf
    refine ⟨fun z => absurd z hlt, fun _ => w_manyS (v := nI q) (by rw [e2]; exact n2) ⟨fun _ => core, fun z => ⟨fun _ => core, fun z2 => ?_⟩⟩⟩
    rcases ha with ha | ⟨i, i1, rfl⟩
    · exact absurd ha z2
    · exact absurd (nI_lt i1 (by omega)) z
  unfold v_X0_mend
  refine ⟨fun z => bad (Or.inl z), fun nz => ⟨hS.o (r := 0) rfl, v_nNotesS hS ?_⟩⟩
  rw [show tI s (L 40) 4 = nI q from hX.many.trans n2]
  exact ⟨fun z => good nz (bnd nz z), fun z => ⟨fun z2 => good nz (Or.inl z2), fun z2 => bad (Or.inr ⟨z, z2⟩)⟩⟩
theorem op_compare (hN : nOK N) (hX : RXo N s x o) (hK : ∀ s', RXo N s' x o → K s') (a : Int32) : v_X0_compare N x a s (pK o (w_compare (nP N) a) K) := by
  obtain ⟨L, M, rfl, hX, hm⟩ := hX
  have hS := hX.S
  obtain ⟨q, n1, n2⟩ := hX.I.1.2.2.2.2.1
  obtain ⟨lo, lo1, lo2⟩ := i32N hX.I.1.2.2.1.1
  obtain ⟨hi, hi1, hi2⟩ := i32N hX.I.1.2.2.2.1.1
  have hl : lo < 25 := by have := hX.I.1.2.2.1.2; omega
  have hh : hi < 25 := by have := hX.I.1.2.2.2.1.2; omega
  have hN1 : 60 ≤ N.1 := by have := hN.1; omega
  have hN2 : 120 ≤ N.2.1 := by have := hN.2; omega
  have hM1 : 402 ≤ (nP N).1 := by have := hN.1; show 402 ≤ N.1; omega
  have hM2 : 40 ≤ (nP N).2 := by have := hN.2; show 40 ≤ N.2.1; omega
  obtain ⟨told, k1, k2, k3, -⟩ := hX.told
  unfold v_X0_compare
  refine ⟨hS.o (r := 0) rfl, v_isLawS hX k3 k1 (bI_d (fun hb => ⟨hS.o (r := 0) rfl, ?_⟩) (fun hb => ?_))⟩
  · rw [hS.t (r := 0) (j := 0) (q := 40) (by decide)]
    refine ⟨hS.o (r := 40) rfl, fun was hwas s8 e8 => ?_⟩
    have hwas' : was = (sM s o).2.1 2 44 := hwas.trans hX.force
    have h44 := hX.I.1.2.2.2.2.2.2.2
    have X8 : RX N s8 L M (mO s o) (mI (sM s o) 2 (nI 44) a) := by
      rw [e8]
      exact hX.w (r0 := 40) (j0 := 6) (q0 := 2) (i0 := 44) rfl (rd_I _ _ (by decide) (by decide)) (by omega) (invM_I hX.I k2 k1 (by decide) ⟨by omega, by omega, by omega, by omega, by omega, by omega, by omega, by omega, by omega, fun _ => isLw_t k1 hb⟩)
    have F8 : frM (mO s o) s s8 := by
      rw [e8]
      exact frM_I hX (by decide)
    have at8 : ∀ i, i ≠ 44 → (mI (sM s o) 2 (nI 44) a).2.1 2 i = (sM s o).2.1 2 i := fun i hi => by
      rw [mI_at _ _ _ (by decide), if_neg hi]
    have hqv : (mI (sM s o) 2 (nI 44) a).2.1 2 41 = nI q := (at8 41 (by decide)).trans n2
    have hlv : (mI (sM s o) 2 (nI 44) a).2.1 2 39 = nI lo := (at8 39 (by decide)).trans lo1
    have hhv : (mI (sM s o) 2 (nI 44) a).2.1 2 40 = nI hi := (at8 40 (by decide)).trans hi1
    obtain ⟨lw, hF⟩ := X8.inF
    generalize hm8 : mI (sM s o) 2 (nI 44) a = m8 at X8 hqv hlv hhv hF
    unfold v_X0_bestCosts
    refine ⟨X8.S.o (r := 0) rfl, v_layAllS hN2 hN1 X8 hF n1 hqv hh hl hlv hhv (fun s1 a1 l1 => ?_)⟩
    have X1 := X8.t a1
    have S1 := X1.S
    have l0 := laid_0 l1
    have ok := sV_ok (lo := lo) (hi := hi) (fin := fnI (-1)) (tbB_T (m8.2.1 2) lw q) n1 hh q (Nat.le_refl _) 0 ⟨by omega, Or.inr (by omega)⟩
    have fin : ∀ s9 r, r = bstF false (m8.2.1 2) lw q lo hi (-1) → s9 = tsI s1 (L 40) 6 was → pK o (w_compare (nP N) a) K r s9 := fun s9 r hr e9 => by
      have X9 : RX N s9 L M (mO s o) (mI m8 2 (nI 44) was) := by
        rw [e9]
        refine X1.w (r0 := 40) (j0 := 6) (q0 := 2) (i0 := 44) rfl (rd_I _ _ (by decide) (by decide)) (by omega) (invM_I X1.I (told := told) ?_ k1 (by decide) ⟨by omega, by omega, by omega, by omega, by omega, by omega, by omega, by omega, by omega, fun _ => ?_⟩)
        · rw [← hm8]
          exact (at8 43 (by decide)).trans k2
        · rw [hwas']
          obtain ⟨told', t1, t2, t3⟩ := h44
          have : told' = told := (nI_eq (by omega) (by omega)).mp (t2.symm.trans k2)
          subst this
          exact t3
      have F9 : frM (mO s o) s s9 := by
        rw [e9]
        exact frM_t (frM_t F8 (frM_s (aT_M a1 X8.S) (fun _ => Or.inr))) (frM_I X1 (by decide))
      refine pfin X9 hm F9 rfl hK (fun m1 K2 hc h2 => ?_)
      unfold w_compare
      refine w_isLawS ((congrFun (hc.2 2 (by decide)) 43).trans k2) k1 ?_
      rw [hb]
      refine ⟨fun _ => ⟨vpk (k := 44) (by decide) (by decide), fun r2 hr2 => ⟨vpk (k := 44) (by decide) (by decide), fun s7 e7 => ?_⟩⟩, fun z => absurd z (by decide)⟩
      have er : r2 = was := hr2.trans (((mAt_n (k := 44) (by decide)).trans (congrFun (hc.2 2 (by decide)) 44)).trans hwas'.symm)
      have c7 : cE m8 s7 := by
        rw [e7, ← hm8]
        exact cE_I hc _ _ _
      have e2 := eqP c7
      have core : w_voiceOf_20 (nP N) (-1) (bI false) (fun x108 s109 => (vp_in 44 5652 ∧ (∀ s111 : mS, s111 = mI s109 2 44 r2 → (K2 x108 s111)))) s7 := by
        refine w_voice20 (lw := lw) (lo := lo) (hi := hi) hM1 hM2 (by rw [e2]; exact hF) (by rw [e2]; exact X8.I.1.1) n1 (by rw [e2]; exact hqv) hh hl (by rw [e2]; exact hlv) (by rw [e2]; exact hhv) (Or.inl rfl) (fun m2 c2 => ⟨vpk (k := 44) (by decide) (by decide), fun s11 e11 => ?_⟩)
        rw [e2, ← hr, e11, er]
        exact h2 _ (cE_I (cE_t c7 c2) _ _ _)
      unfold w_voiceOf
      refine ⟨fun z => absurd z (by decide), fun _ => w_manyS (v := nI q) (by rw [e2]; exact hqv) ⟨fun _ => core, fun z => ⟨fun _ => core, fun z2 => absurd rfl z2⟩⟩⟩
    refine ⟨S1.o (r := 0) rfl, v_isThereS X1 (congrArg (fun v : T4 => v.2.2.2) l0) ok ?_⟩
    by_cases cz : (sV (goT (m8.2.1 2) lw) (prT (m8.2.1 2) lw) (gaT (m8.2.1 2) lw) (dI (m8.2.1 2)) q lo hi (fnI (-1)) q 0).2.2.2 = 0
    · rw [decide_eq_true cz]
      refine ⟨fun _ => ⟨S1.o (r := 0) rfl, ?_⟩, fun z => absurd rfl z⟩
      rw [S1.t (r := 0) (j := 0) (q := 40) (by decide)]
      refine ⟨S1.o (r := 40) rfl, fun s9 e9 => fin s9 _ ?_ e9⟩
      unfold bstF
      rw [if_pos cz]
    · rw [decide_eq_false cz]
      have qr := S1.q0.2.2.2.1
      have rr := (S1.q19 (n := 0) (by omega)).1
      have ev : tI s1 (L (660 + 0)) 0 = cmp4 false (sV (goT (m8.2.1 2) lw) (prT (m8.2.1 2) lw) (gaT (m8.2.1 2) lw) (dI (m8.2.1 2)) q lo hi (fnI (-1)) q 0) := congrArg (fun v : T4 => v.1) l0
      refine ⟨fun z => absurd z (by decide), fun _ => ?_⟩
      rw [qr, rr, ev]
      refine ⟨S1.o (r := 0) rfl, (S1.x19 (n := 0) (by omega)).1, (S1.x660 (n := 0) (b := 0) (by omega) (by omega)).1, S1.o (r := 0) rfl, ?_⟩
      rw [S1.t (r := 0) (j := 0) (q := 40) (by decide)]
      refine ⟨S1.o (r := 40) rfl, fun s9 e9 => fin s9 _ ?_ e9⟩
      unfold bstF
      rw [if_neg cz, if_pos rfl]
  · refine pfin hX hm (frM_r _ _) rfl hK (fun m1 K2 hc h2 => ?_)
    unfold w_compare
    refine w_isLawS ((congrFun (hc.2 2 (by decide)) 43).trans k2) k1 ?_
    rw [hb]
    exact ⟨fun z => absurd rfl z, fun _ => h2 m1 hc⟩
end B2
