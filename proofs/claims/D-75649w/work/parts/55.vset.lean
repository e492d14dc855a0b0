set_option maxRecDepth 100000
/-! ===== set and shift ===== -/
def kM (n : Nat) (w : Int32) (m : mS) : mS := if n = 16 then kAt (kRot m) 15 w else kAt m n w
theorem cE_kAt {m m1 : mS} (h : cE m m1) (n : Nat) (w : Int32) : cE (kAt m n w) (kAt m1 n w) := by
  unfold kAt
  rw [h.2 2 (by decide), h.2 31 (by decide)]
  exact cE_F (cE_A h _ _) _ _
theorem cE_kRot {m m1 : mS} (h : cE m m1) : cE (kRot m) (kRot m1) := by
  unfold kRot
  rw [h.2 31 (by decide)]
  exact cE_F (cE_A h _ _) _ _
theorem cE_kM {m m1 : mS} (h : cE m m1) (n : Nat) (w : Int32) : cE (kM n w m) (kM n w m1) := by
  unfold kM
  by_cases c : n = 16
  · rw [if_pos c, if_pos c]
    exact cE_kAt (cE_kRot h) _ _
  · rw [if_neg c, if_neg c]
    exact cE_kAt h _ _
theorem kAt_o {n : Nat} {w : Int32} {m : mS} : (∀ j, j ≠ 33 → (kAt m n w).1 j = m.1 j) ∧ ∀ q, q ≠ 31 → (kAt m n w).2.1 q = m.2.1 q := ⟨fun _ hj => if_neg hj, fun _ hq => sA_o _ _ hq⟩
theorem kRot_o {m : mS} : (∀ j, j ≠ 33 → (kRot m).1 j = m.1 j) ∧ ∀ q, q ≠ 31 → (kRot m).2.1 q = m.2.1 q := ⟨fun _ hj => if_neg hj, fun _ hq => sA_o _ _ hq⟩
theorem kM_o {n : Nat} {w : Int32} {m : mS} : (∀ j, j ≠ 33 → (kM n w m).1 j = m.1 j) ∧ ∀ q, q ≠ 31 → (kM n w m).2.1 q = m.2.1 q := by
  unfold kM
  by_cases c : n = 16
  · rw [if_pos c]
    exact ⟨fun j hj => (kAt_o.1 j hj).trans (kRot_o.1 j hj), fun j hj => (kAt_o.2 j hj).trans (kRot_o.2 j hj)⟩
  · rw [if_neg c]
    exact kAt_o
theorem w_goodOrS {m : mS} {v : Int32} (hv : 0 ≤ v.toInt) {K : Int32 → mS → Prop} (h : K v (mF m 0 0)) : w_goodOr v m K := by
  unfold w_goodOr
  refine ⟨fun _ => w_goodS h, fun z => absurd ?_ z⟩
  rw [i32_le, show (0 : Int32).toInt = 0 from by decide]
  exact hv
theorem w_goodOrN {m : mS} {k : Nat} (h1 : 1 ≤ k) (hk : k < 7) {K : Int32 → mS → Prop} (h : K (-(nI k)) (rfM k m)) : w_goodOr (-(nI k)) m K := by
  unfold w_goodOr
  refine ⟨fun z => ?_, fun _ => w_refS hk h⟩
  rw [i32_le, neg_lt h1 hk, show (0 : Int32).toInt = 0 from by decide] at z
  omega
theorem pI_0 {x : Int32} (h : pI x) : 0 ≤ x.toInt := h.1
section O3
variable {N : tP} {s : tM} {x o : Nat} {K : tM → Prop}
theorem op_set (hN : nOK N) (hX : RXo N s x o) (hK : ∀ s', RXo N s' x o → K s') (a b : Int32) : v_X0_set x a b s (pK o (w_set (nP N) a b) K) := by
  obtain ⟨L, M, rfl, hX, hm⟩ := hX
  have hS := hX.S
  obtain ⟨told, k1, k2, -⟩ := hX.told
  obtain ⟨n, n1, n2⟩ := hX.I.1.2.2.2.2.1
  obtain ⟨c, c1, c2, c3⟩ := hX.cnt
  have o0 := hS.o (r := 0) rfl
  have hmany : tI s (L 40) 4 = nI n := hX.many.trans n2
  have h450 : 450 ≤ (nP N).1 := Nat.le_trans (by decide) hN.1
  unfold v_X0_set v_X0_setNow
  refine ⟨o0, v_isPitchS (bI_d (fun hb => ⟨o0, v_isNoteS hS hmany n1 (bI_d (fun ha => ⟨o0, v_booksS hS ⟨hS.o (r := 44) rfl, ?_⟩⟩) (fun ha => ⟨o0, ?_⟩))⟩) (fun hb => ⟨o0, ?_⟩))⟩
  · obtain ⟨k, hk, rfl⟩ := isNI_t (by omega) ha
    have hk12 : k < 12 := by omega
    have b44 := hS.2.2.1.2.1 44 (Or.inr (Or.inr (Or.inr (Or.inl rfl))))
    have hloc : loc 444 k = some (2, 0 + k) := by
      unfold loc
      rw [if_pos rfl, if_pos (by omega)]
      exact congrArg some (congrArg (Prod.mk 2) (by omega))
    have ek : tI s (L 444) k = (sM s o).2.1 2 (0 + k) := hX.R 444 k 2 (0 + k) hloc
    have epc : (0 : Int32) + nI k = nI (0 + k) := nI_add 0 k
    have hvp : pI ((sM s o).2.1 2 (0 + k)) := hX.I.1.1.1 _ (by omega)
    have hw0 : ∀ m1 (K2 : Int32 → mS → Prop), cE (sM s o) m1 → ((¬ (sM s o).2.1 2 (0 + k) = b → ∀ g, cE (kM c 0 m1) g → K2 ((sM s o).2.1 2 (0 + k)) (mF (mI g 2 (nI (0 + k)) b) 0 0)) ∧ ((sM s o).2.1 2 (0 + k) = b → K2 (-(nI 3)) (rfM 3 m1))) → w_set (nP N) (nI k) b m1 K2 := fun m1 K2 hc h2 => by
      have e2 : m1.2.1 2 = (sM s o).2.1 2 := hc.2 2 (by decide)
      have e41 : m1.2.1 2 41 = nI n := by rw [e2]; exact n2
      unfold w_set w_movesKept
      rw [epc]
      refine w_isPitchS (bI_d (fun _ => w_isNoteS e41 n1 (bI_d (fun _ => ⟨vpk (by omega) (by decide), fun x hx => ?_⟩) (fun z => absurd (z.symm.trans ha) (by decide)))) (fun z => absurd (z.symm.trans hb) (by decide)))
      have hx' : x = (sM s o).2.1 2 (0 + k) := hx.trans ((mAt_n (k := 0 + k) (by omega)).trans (congrFun e2 _))
      rw [hx']
      refine ⟨fun nb => ?_, fun yb => w_goodOrN (k := 3) (by decide) (by decide) (h2.2 yb)⟩
      refine w_keepsS h450 c1 ((hc.1 33 (by decide)).trans c2) (fun g hg => ⟨vpk (by omega) (by decide), fun s4 e4 => w_goodOrS (pI_0 hvp) ?_⟩)
      rw [e4]
      exact h2.1 nb g hg
    rw [show tR s (L 44) 1 = L 444 from b44.2, nI_clamp (by omega)]
    refine ⟨⟨12, hS.a (r := 444) rfl, vpk hk12 (by decide)⟩, fun v hv => ?_⟩
    have hv' : v = (sM s o).2.1 2 (0 + k) := hv.trans ek
    rw [hv']
    refine ⟨fun nb => ⟨o0, v_booksS hS ?_⟩, fun yb => ⟨o0, op_ref (k := 3) hX hm rfl hK (by decide) (by decide) (fun m1 K2 hc h2 => hw0 m1 K2 hc ⟨fun z => absurd yb z, fun _ => h2⟩)⟩⟩
    rw [hS.t (r := 0) (j := 2) (q := 2) (by decide)]
    refine ⟨hS.o (r := 2) rfl, v_appS hX c1 c2 ⟨0, by decide, rfl⟩ (fun s1 L' hL _ X1 f1 => ?_)⟩
    have S1 := X1.S
    rw [← hL 0 (by decide)]
    refine ⟨S1.o (r := 0) rfl, v_booksS S1 ⟨S1.o (r := 44) rfl, ?_⟩⟩
    have b44' := S1.2.2.1.2.1 44 (Or.inr (Or.inr (Or.inr (Or.inl rfl))))
    rw [show tR s1 (L' 44) 1 = L' 444 from b44'.2]
    refine ⟨⟨12, S1.a (r := 444) rfl, vpk hk12 (by decide)⟩, fun s2 e2 => ?_⟩
    have X2 : RX N s2 L' M (mO s o) (mI (kM c 0 (sM s o)) 2 (nI (0 + k)) b) := by
      rw [e2]
      refine X1.w (r0 := 444) (j0 := k) (q0 := 2) (i0 := 0 + k) hloc (rd_I _ _ (by decide) (by omega)) (by omega) (invM_I X1.I (told := told) ?_ k1 (by omega) ⟨fun _ => pI_of hb, by omega, by omega, by omega, by omega, by omega, by omega, by omega, by omega, by omega⟩)
      exact (congrFun ((kM_o (n := c) (w := 0) (m := sM s o)).2 2 (by decide)) 43).trans k2
    have f2 : frM (mO s o) s s2 := frM_t f1 (by rw [e2]; exact frM_I X1 (r := 444) (by decide))
    refine ⟨X2.S.o (r := 0) rfl, v_goodS X2 (pI_0 hvp) (fun s' X' f' => pfin X' hm (frM_t f2 f') (hL 0 (by decide)) hK (fun m1 K2 hc h2 => hw0 m1 K2 hc ⟨fun _ g hg => h2 _ ?_, fun z => absurd z nb⟩))⟩
    exact cE_F (cE_I (cE_t (cE_kM hc c 0) hg) _ _ _) _ _
  · refine op_ref (k := 2) hX hm rfl hK (by decide) (by decide) (fun m1 K2 hc h2 => ?_)
    have e41 : m1.2.1 2 41 = nI n := (congrFun (hc.2 2 (by decide)) 41).trans n2
    unfold w_set w_movesKept
    exact w_isPitchS (bI_d (fun _ => w_isNoteS e41 n1 (bI_d (fun z => absurd (z.symm.trans ha) (by decide)) (fun _ => w_goodOrN (k := 2) (by decide) (by decide) h2))) (fun z => absurd (z.symm.trans hb) (by decide)))
  · refine op_ref (k := 1) hX hm rfl hK (by decide) (by decide) (fun m1 K2 hc h2 => ?_)
    unfold w_set w_movesKept
    exact w_isPitchS (bI_d (fun z => absurd (z.symm.trans hb) (by decide)) (fun _ => w_goodOrN (k := 1) (by decide) (by decide) h2))
theorem op_shift (hN : nOK N) (hX : RXo N s x o) (hK : ∀ s', RXo N s' x o → K s') (a b : Int32) : v_X0_shift x a b s (pK o (w_shift (nP N) a b) K) := by
  obtain ⟨L, M, rfl, hX, hm⟩ := hX
  have hS := hX.S
  obtain ⟨told, k1, k2, -⟩ := hX.told
  obtain ⟨n, n1, n2⟩ := hX.I.1.2.2.2.2.1
  obtain ⟨c, c1, c2, c3⟩ := hX.cnt
  have o0 := hS.o (r := 0) rfl
  have hmany : tI s (L 40) 4 = nI n := hX.many.trans n2
  have h450 : 450 ≤ (nP N).1 := Nat.le_trans (by decide) hN.1
  unfold v_X0_shift v_X0_shiftNow
  refine ⟨o0, v_isPitchS (bI_d (fun hb => ⟨o0, v_isNoteS hS hmany n1 (bI_d (fun ha => ⟨o0, v_booksS hS ⟨hS.o (r := 44) rfl, ?_⟩⟩) (fun ha => ⟨o0, ?_⟩))⟩) (fun hb => ⟨o0, ?_⟩))⟩
  · obtain ⟨k, hk, rfl⟩ := isNI_t (by omega) ha
    have hk12 : k < 12 := by omega
    have b44 := hS.2.2.1.2.1 44 (Or.inr (Or.inr (Or.inr (Or.inl rfl))))
    have hloc : loc 244 k = some (2, 12 + k) := by
      unfold loc
      rw [if_neg (by decide), if_pos rfl, if_pos (by omega)]
    have ek : tI s (L 244) k = (sM s o).2.1 2 (12 + k) := hX.R 244 k 2 (12 + k) hloc
    have epc : (12 : Int32) + nI k = nI (12 + k) := nI_add 12 k
    have hvp : pI ((sM s o).2.1 2 (12 + k)) := hX.I.1.1.1 _ (by omega)
    have hw0 : ∀ m1 (K2 : Int32 → mS → Prop), cE (sM s o) m1 → ((¬ (sM s o).2.1 2 (12 + k) = b → ∀ g, cE (kM c 1 m1) g → K2 ((sM s o).2.1 2 (12 + k)) (mF (mI g 2 (nI (12 + k)) b) 0 0)) ∧ ((sM s o).2.1 2 (12 + k) = b → K2 (-(nI 3)) (rfM 3 m1))) → w_shift (nP N) (nI k) b m1 K2 := fun m1 K2 hc h2 => by
      have e2 : m1.2.1 2 = (sM s o).2.1 2 := hc.2 2 (by decide)
      have e41 : m1.2.1 2 41 = nI n := by rw [e2]; exact n2
      unfold w_shift w_movesKept
      rw [epc]
      refine w_isPitchS (bI_d (fun _ => w_isNoteS e41 n1 (bI_d (fun _ => ⟨vpk (by omega) (by decide), fun x hx => ?_⟩) (fun z => absurd (z.symm.trans ha) (by decide)))) (fun z => absurd (z.symm.trans hb) (by decide)))
      have hx' : x = (sM s o).2.1 2 (12 + k) := hx.trans ((mAt_n (k := 12 + k) (by omega)).trans (congrFun e2 _))
      rw [hx']
      refine ⟨fun nb => ?_, fun yb => w_goodOrN (k := 3) (by decide) (by decide) (h2.2 yb)⟩
      refine w_keepsS h450 c1 ((hc.1 33 (by decide)).trans c2) (fun g hg => ⟨vpk (by omega) (by decide), fun s4 e4 => w_goodOrS (pI_0 hvp) ?_⟩)
      rw [e4]
      exact h2.1 nb g hg
    rw [show tR s (L 44) 0 = L 244 from b44.1, nI_clamp (by omega)]
    refine ⟨⟨12, hS.a (r := 244) rfl, vpk hk12 (by decide)⟩, fun v hv => ?_⟩
    have hv' : v = (sM s o).2.1 2 (12 + k) := hv.trans ek
    rw [hv']
    refine ⟨fun nb => ⟨o0, v_booksS hS ?_⟩, fun yb => ⟨o0, op_ref (k := 3) hX hm rfl hK (by decide) (by decide) (fun m1 K2 hc h2 => hw0 m1 K2 hc ⟨fun z => absurd yb z, fun _ => h2⟩)⟩⟩
    rw [hS.t (r := 0) (j := 2) (q := 2) (by decide)]
    refine ⟨hS.o (r := 2) rfl, v_appS hX c1 c2 ⟨1, by decide, rfl⟩ (fun s1 L' hL _ X1 f1 => ?_)⟩
    have S1 := X1.S
    rw [← hL 0 (by decide)]
    refine ⟨S1.o (r := 0) rfl, v_booksS S1 ⟨S1.o (r := 44) rfl, ?_⟩⟩
    have b44' := S1.2.2.1.2.1 44 (Or.inr (Or.inr (Or.inr (Or.inl rfl))))
    rw [show tR s1 (L' 44) 0 = L' 244 from b44'.1]
    refine ⟨⟨12, S1.a (r := 244) rfl, vpk hk12 (by decide)⟩, fun s2 e2 => ?_⟩
    have X2 : RX N s2 L' M (mO s o) (mI (kM c 1 (sM s o)) 2 (nI (12 + k)) b) := by
      rw [e2]
      refine X1.w (r0 := 244) (j0 := k) (q0 := 2) (i0 := 12 + k) hloc (rd_I _ _ (by decide) (by omega)) (by omega) (invM_I X1.I (told := told) ?_ k1 (by omega) ⟨fun _ => pI_of hb, by omega, by omega, by omega, by omega, by omega, by omega, by omega, by omega, by omega⟩)
      exact (congrFun ((kM_o (n := c) (w := 1) (m := sM s o)).2 2 (by decide)) 43).trans k2
    have f2 : frM (mO s o) s s2 := frM_t f1 (by rw [e2]; exact frM_I X1 (r := 244) (by decide))
    refine ⟨X2.S.o (r := 0) rfl, v_goodS X2 (pI_0 hvp) (fun s' X' f' => pfin X' hm (frM_t f2 f') (hL 0 (by decide)) hK (fun m1 K2 hc h2 => hw0 m1 K2 hc ⟨fun _ g hg => h2 _ ?_, fun z => absurd z nb⟩))⟩
    exact cE_F (cE_I (cE_t (cE_kM hc c 1) hg) _ _ _) _ _
  · refine op_ref (k := 2) hX hm rfl hK (by decide) (by decide) (fun m1 K2 hc h2 => ?_)
    have e41 : m1.2.1 2 41 = nI n := (congrFun (hc.2 2 (by decide)) 41).trans n2
    unfold w_shift w_movesKept
    exact w_isPitchS (bI_d (fun _ => w_isNoteS e41 n1 (bI_d (fun z => absurd (z.symm.trans ha) (by decide)) (fun _ => w_goodOrN (k := 2) (by decide) (by decide) h2))) (fun z => absurd (z.symm.trans hb) (by decide)))
  · refine op_ref (k := 1) hX hm rfl hK (by decide) (by decide) (fun m1 K2 hc h2 => ?_)
    unfold w_shift w_movesKept
    exact w_isPitchS (bI_d (fun z => absurd (z.symm.trans hb) (by decide)) (fun _ => w_goodOrN (k := 1) (by decide) (by decide) h2))
end O3
