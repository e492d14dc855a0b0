set_option maxRecDepth 100000
/-! ===== more small public methods ===== -/
theorem inl {a lo' hi' : Int32} {lo hi : Int64} (h1 : lo.toInt = lo'.toInt) (h2 : hi.toInt = hi'.toInt) : (decide (lo ≤ a.toInt64) && decide (a.toInt64 ≤ hi)) = (decide (lo' ≤ a) && decide (a ≤ hi')) := by
  simp only [i32_le, Int64.le_iff_toInt_le, Int32.toInt_toInt64, h1, h2]
theorem in_t {a lo hi : Int32} (h : (decide (lo ≤ a) && decide (a ≤ hi)) = true) : lo.toInt ≤ a.toInt ∧ a.toInt ≤ hi.toInt := by
  simp only [Bool.and_eq_true, decide_eq_true_eq, i32_le] at h
  exact h
theorem nI_0p (k : Nat) : (0 : Int32) + nI k = nI k := by
  have := nI_add 0 k
  rw [Nat.zero_add] at this
  exact this
theorem pI_of {x : Int32} (h : isPI x = true) : pI x := isPI_t.mp h
def isLw (told : Nat) (a : Int32) : Bool := decide (-1 ≤ a.toInt) && decide (a.toInt < told)
section O2
variable {N : tP} {s : tM} {x o : Nat} {K : tM → Prop} {L : Nat → Nat} {M O : Nat → Prop} {m : mS}
theorem m1toI : (-1 : Int32).toInt = -1 := by decide
theorem v_isLawS (hX : RX N s L M O m) {told : Nat} (ht : tI s (L 41) 2 = nI told) (ht6 : told ≤ 6) {a : Int32} {K : Int32 → tM → Prop} (h : K (bI (isLw told a)) s) : v_X0_isLaw (L 0) a s K := by
  have hS := hX.S
  unfold v_X0_isLaw
  refine ⟨fun z => ?_, fun nz => ?_⟩
  · have e : isLw told a = true := by
      unfold isLw
      rw [z, m1toI]
      simp
      omega
    rw [e] at h
    exact h
  · rw [hS.t (r := 0) (j := 0) (q := 40) (by decide), hS.t (r := 40) (j := 0) (q := 41) (by decide)]
    refine ⟨hS.o (r := 0) rfl, hS.o (r := 40) rfl, hS.o (r := 41) rfl, ?_⟩
    unfold v_J2_size
    refine ⟨hS.o (r := 41) rfl, ?_⟩
    rw [ht]
    refine v_inS ?_
    have e : (decide ((0 : Int64) ≤ a.toInt64) && decide (a.toInt64 ≤ (nI told - 1).toInt64)) = isLw told a := by
      rw [inl (lo' := 0) (hi' := nI told - 1) (by decide) (Int32.toInt_toInt64 _)]
      unfold isLw
      have z0 : (0 : Int32).toInt = 0 := by decide
      have hne : a.toInt ≠ -1 := fun z => nz (Int32.toInt_inj.mp (z.trans m1toI.symm))
      simp only [i32_le, z0, m1s (n := told) (by omega)]
      by_cases c1 : 0 ≤ a.toInt
      · rw [decide_eq_true c1, decide_eq_true (show -1 ≤ a.toInt by omega)]
        congr 1
        rw [decide_eq_decide]
        omega
      · rw [decide_eq_false c1, decide_eq_false (show ¬ -1 ≤ a.toInt by omega)]
        rfl
    rw [e]
    exact bI_c (fun hb => by rw [hb] at h; exact h) (fun hb => by rw [hb] at h; exact h)
theorem w_isLawS {m1 : mS} {told : Nat} (ht : m1.2.1 2 43 = nI told) (ht6 : told ≤ 6) {a : Int32} {K : Int32 → mS → Prop} (h : K (bI (isLw told a)) m1) : w_isLaw a m1 K := by
  unfold w_isLaw
  have e : mAt m1 2 43 = nI told := (mAt_n (k := 43) (by decide)).trans ht
  rw [e]
  refine ⟨vpk (k := 43) (by decide) (by decide), w_liesS ⟨bI_x _, ?_⟩⟩
  have e2 : (decide ((-1 : Int32) ≤ a) && decide (a ≤ nI told - 1)) = isLw told a := by
    unfold isLw
    simp only [i32_le, m1toI, m1s (n := told) (by omega)]
    congr 1
    rw [decide_eq_decide]
    omega
  rw [e2]
  exact h
theorem isLw_t {told : Nat} {a : Int32} (ht : told ≤ 6) (h : isLw told a = true) : a = -1 ∨ ∃ t, t < told ∧ a = nI t := by
  unfold isLw at h
  simp only [Bool.and_eq_true, decide_eq_true_eq] at h
  by_cases c : a.toInt = -1
  · exact Or.inl (Int32.toInt_inj.mp (c.trans m1toI.symm))
  · obtain ⟨j, h1, h2⟩ := i32N (c := a) (by omega)
    exact Or.inr ⟨j, by omega, h1⟩
theorem w_manyS {m1 : mS} {v : Int32} (h : m1.2.1 2 41 = v) {K : Int32 → mS → Prop} (hk : K v m1) : w_noteMany m1 K := by
  unfold w_noteMany
  rw [show mAt m1 2 41 = v from (mAt_n (k := 41) (by decide)).trans h]
  exact ⟨vpk (k := 41) (by decide) (by decide), hk⟩
theorem op_force (hX : RXo N s x o) (hK : ∀ s', RXo N s' x o → K s') (a : Int32) : v_X0_force x a s (pK o (w_force a) K) := by
  obtain ⟨L, M, rfl, hX, hm⟩ := hX
  have hS := hX.S
  obtain ⟨told, k1, k2, k3, -⟩ := hX.told
  unfold v_X0_force
  refine ⟨hS.o (r := 0) rfl, v_isLawS hX k3 k1 (bI_d (fun hb => ⟨hS.o (r := 0) rfl, ?_⟩) (fun hb => ⟨hS.o (r := 0) rfl, ?_⟩))⟩
  · rw [hS.t (r := 0) (j := 0) (q := 40) (by decide)]
    refine ⟨hS.o (r := 40) rfl, fun r hr s8 e8 => ?_⟩
    have hr' : r = (sM s o).2.1 2 44 := hr.trans hX.force
    subst hr' e8
    have X8 : RX N (tsI s (L 40) 6 a) L M (mO s o) (mI (sM s o) 2 (nI 44) a) := hX.w (r0 := 40) (j0 := 6) (q0 := 2) (i0 := 44) rfl (rd_I _ _ (by decide) (by decide)) (by omega) (invM_I hX.I k2 k1 (by decide) ⟨by omega, by omega, by omega, by omega, by omega, by omega, by omega, by omega, by omega, fun _ => isLw_t k1 hb⟩)
    refine v_hadS X8 (fun s' X' f' => pfin X' hm (frM_t (frM_I hX (by decide)) f') rfl hK (fun m1 K2 hc h2 => ?_))
    unfold w_force
    refine w_isLawS ((congrFun (hc.2 2 (by decide)) 43).trans k2) k1 ?_
    rw [hb]
    refine ⟨fun _ => ⟨vpk (k := 44) (by decide) (by decide), fun r hr => ⟨vpk (k := 44) (by decide) (by decide), fun s7 e7 => w_goodS ?_⟩⟩, fun z => absurd z (by decide)⟩
    have er : r = (sM s o).2.1 2 44 := hr.trans ((mAt_n (k := 44) (by decide)).trans (congrFun (hc.2 2 (by decide)) 44))
    rw [er, e7]
    exact h2 _ (cE_F (cE_I hc _ _ _) _ _)
  · refine op_ref (k := 2) hX hm rfl hK (by decide) (by decide) (fun m1 K2 hc h2 => ?_)
    unfold w_force
    refine w_isLawS ((congrFun (hc.2 2 (by decide)) 43).trans k2) k1 ?_
    rw [hb]
    exact ⟨fun z => absurd rfl z, fun _ => w_refS (k := 2) (by decide) h2⟩
theorem op_end (hX : RXo N s x o) (hK : ∀ s', RXo N s' x o → K s') (a : Int32) : v_X0_end x a s (pK o (w_end a) K) := by
  obtain ⟨L, M, rfl, hX, hm⟩ := hX
  have hS := hX.S
  obtain ⟨n, n1, n2⟩ := hX.I.2.1
  have e15 : tI s (L 0) 15 = nI n := (hX.R 0 15 60 13 rfl).trans n2
  unfold v_X0_end
  rw [e15]
  refine ⟨hS.o (r := 0) rfl, v_inS ?_⟩
  rw [inl (lo' := 0) (hi' := nI n) (by decide) (Int32.toInt_toInt64 _)]
  have hw : ∀ m1 (K2 : Int32 → mS → Prop), cE (sM s o) m1 → ((¬ bI (decide ((0 : Int32) ≤ a) && decide (a ≤ nI n)) = 0 → K2 a (mF m1 13 a)) ∧ (bI (decide ((0 : Int32) ≤ a) && decide (a ≤ nI n)) = 0 → K2 (-1) m1)) → w_end a m1 K2 := fun m1 K2 hc h2 => by
    unfold w_end
    have e13 : mFd m1 13 = nI n := (hc.1 13 (by decide)).trans n2
    rw [e13]
    refine w_liesS ⟨fun z s4 e4 => ?_, h2.2⟩
    rw [e4]
    exact h2.1 z
  refine bI_d (fun hb => ⟨hS.o (r := 0) rfl, fun s6 e6 => ?_⟩) (fun hb => ?_)
  · have hr := in_t hb
    rw [nI_toInt (by omega), show (0 : Int32).toInt = 0 from by decide] at hr
    obtain ⟨j, j1, j2⟩ := i32N (c := a) hr.1
    subst e6
    have hI : invM (mF (sM s o) 13 a) := by
      obtain ⟨a1, -, a3, a4, a5⟩ := hX.I
      exact ⟨a1, ⟨j, by omega, j1⟩, a3, a4, a5⟩
    have X6 : RX N (tsI s (L 0) 15 a) L M (mO s o) (mF (sM s o) 13 a) := hX.w (r0 := 0) (j0 := 15) (q0 := 60) (i0 := 13) rfl (rd_F _ _ _) (by omega) hI
    refine pfin X6 hm (frM_I hX (by decide)) rfl hK (fun m1 K2 hc h2 => hw m1 K2 hc ⟨fun _ => h2 _ (cE_F hc _ _), fun z => ?_⟩)
    rw [hb] at z
    exact absurd z (by decide)
  · refine pfin hX hm (frM_r _ _) rfl hK (fun m1 K2 hc h2 => hw m1 K2 hc ⟨fun z => ?_, fun _ => h2 m1 hc⟩)
    rw [hb] at z
    exact absurd rfl z
theorem op_note (hX : RXo N s x o) (hK : ∀ s', RXo N s' x o → K s') (a b : Int32) : v_X0_note x a b s (pK o (w_note a b) K) := by
  obtain ⟨L, M, rfl, hX, hm⟩ := hX
  have hS := hX.S
  obtain ⟨told, k1, k2, -⟩ := hX.told
  obtain ⟨n, n1, n2⟩ := hX.I.1.2.2.2.2.1
  have o0 := hS.o (r := 0) rfl
  have href : ∀ k, 1 ≤ k → k < 7 → (-(nI k)).toInt < 0 → (∀ m1 (K2 : Int32 → mS → Prop), cE (sM s o) m1 → K2 (-(nI k)) (rfM k m1) → w_note a b m1 K2) → v_X0_settled (L 0) (-(nI k)) s (pK o (w_note a b) K) := fun k h1 h7 hn hw => by
    unfold v_X0_settled
    refine ⟨fun _ => ⟨o0, op_ref hX hm rfl hK h1 h7 hw⟩, fun z => absurd ?_ z⟩
    rw [i32_lt, show (0 : Int32).toInt = 0 from by decide]
    exact hn
  unfold v_X0_note v_X0_come
  refine ⟨o0, v_isPitchS (bI_c (fun ha => ⟨o0, ?_⟩) (fun ha => v_isPitchS (bI_d (fun hb => ?_) (fun hb => ⟨o0, ?_⟩))))⟩
  · refine href 1 (by decide) (by decide) (by decide) (fun m1 K2 hc h2 => ?_)
    unfold w_note
    refine w_isPitchS ?_
    rw [ha]
    exact ⟨fun _ => w_refS (k := 1) (by decide) h2, fun z => absurd rfl z⟩
  · refine ⟨o0, v_nNotesS hS ?_⟩
    have hmany : tI s (L 40) 4 = nI n := hX.many.trans n2
    rw [hmany]
    have h12 : nI n = 12 ↔ n = 12 := by
      rw [show (12 : Int32) = nI 12 from rfl, nI_eq (by omega) (by omega)]
    have hw : ∀ m1 (K2 : Int32 → mS → Prop), cE (sM s o) m1 → ((¬ n = 12 → K2 (nI n) (mF (mF (mI (mI (mI m1 2 (nI (12 + n)) a) 2 (nI n) b) 2 (nI 41) (nI (n + 1))) 33 0) 0 0)) ∧ (n = 12 → K2 (-(nI 5)) (rfM 5 m1))) → w_note a b m1 K2 := fun m1 K2 hc h2 => by
      unfold w_note
      refine w_isPitchS ?_
      rw [ha]
      refine ⟨fun z => absurd z (by decide), fun _ => w_isPitchS ?_⟩
      rw [hb]
      refine ⟨fun _ => ?_, fun z => absurd z (by decide)⟩
      have e2 : m1.2.1 2 = (sM s o).2.1 2 := hc.2 2 (by decide)
      have e41 : m1.2.1 2 41 = nI n := by rw [e2]; exact n2
      refine w_manyS e41 ⟨fun nn' => ?_, fun yn' => w_refS (k := 5) (by decide) (h2.2 (h12.mp yn'))⟩
      have nn : ¬ n = 12 := fun z => nn' (h12.mpr z)
      unfold w_adds
      refine w_manyS e41 ?_
      have ea : (12 : Int32) + nI n = nI (12 + n) := nI_add 12 n
      rw [ea]
      refine ⟨vpk (by omega) (by decide), fun s4 e4 => ?_⟩
      have e41b : s4.2.1 2 41 = nI n := by
        rw [e4, mI_at _ _ _ (by omega), if_neg (by omega)]
        exact e41
      refine w_manyS e41b ?_
      rw [nI_0p]
      refine ⟨vpk (by omega) (by decide), fun s8 e8 => ⟨vpk (k := 41) (by decide) (by decide), vpk (k := 41) (by decide) (by decide), fun s11 e11 => ?_⟩⟩
      have e41c : s8.2.1 2 41 = nI n := by
        rw [e8, mI_at _ _ _ (by omega), if_neg (by omega)]
        exact e41b
      rw [show mAt s8 2 41 = nI n from (mAt_n (k := 41) (by decide)).trans e41c, nI_1] at e11
      have e41d : s11.2.1 2 41 = nI (n + 1) := by
        rw [e11]
        exact (mI_at s8 2 (nI (n + 1)) (k := 41) (by decide) 41).trans (if_pos rfl)
      refine w_manyS e41d (w_setS ?_)
      have ep : nI (n + 1) - 1 = nI n := nI_pred n
      rw [ep, e11, e8, e4]
      exact h2.1 nn
    rw [h12]
    refine ⟨fun nn => ⟨o0, v_booksS hS ⟨hS.o (r := 44) rfl, ?_⟩⟩, fun yn => ⟨o0, href 5 (by decide) (by decide) (by decide) (fun m1 K2 hc h2 => hw m1 K2 hc ⟨fun z => absurd yn z, fun _ => h2⟩)⟩⟩
    have b44 := hS.2.2.1.2.1 44 (Or.inr (Or.inr (Or.inr (Or.inl rfl))))
    rw [show tR s (L 44) 0 = L 244 from b44.1, nI_clamp (by omega)]
    refine ⟨⟨12, hS.a (r := 244) rfl, vpk (by omega) (by decide)⟩, fun s6 e6 => ?_⟩
    have l244 : loc 244 n = some (2, 12 + n) := by
      unfold loc
      rw [if_neg (by decide), if_pos rfl, if_pos (by omega)]
    have l444 : loc 444 n = some (2, n) := by
      unfold loc
      rw [if_pos rfl, if_pos (by omega)]
    have X6 : RX N s6 L M (mO s o) (mI (sM s o) 2 (nI (12 + n)) a) := by
      rw [e6]
      exact hX.w l244 (rd_I _ _ (by decide) (by omega)) (by omega) (invM_I hX.I k2 k1 (by omega) ⟨fun _ => pI_of ha, by omega, by omega, by omega, by omega, by omega, by omega, by omega, by omega, by omega⟩)
    have S6 := X6.S
    refine ⟨S6.o (r := 0) rfl, v_booksS S6 ⟨S6.o (r := 44) rfl, ?_⟩⟩
    have b44' := S6.2.2.1.2.1 44 (Or.inr (Or.inr (Or.inr (Or.inl rfl))))
    rw [show tR s6 (L 44) 1 = L 444 from b44'.2]
    refine ⟨⟨12, S6.a (r := 444) rfl, vpk (by omega) (by decide)⟩, fun s23 e23 => ?_⟩
    have k2' : (mI (sM s o) 2 (nI (12 + n)) a).2.1 2 43 = nI told := by
      rw [mI_at _ _ _ (by omega), if_neg (by omega)]
      exact k2
    have X23 : RX N s23 L M (mO s o) (mI (mI (sM s o) 2 (nI (12 + n)) a) 2 (nI n) b) := by
      rw [e23]
      exact X6.w l444 (rd_I _ _ (by decide) (by omega)) (by omega) (invM_I X6.I k2' k1 (by omega) ⟨fun _ => pI_of hb, by omega, by omega, by omega, by omega, by omega, by omega, by omega, by omega, by omega⟩)
    have S23 := X23.S
    refine ⟨S23.o (r := 0) rfl, fun d hd => ?_⟩
    have hd' : d = L 40 := hd.trans (S23.t (r := 0) (j := 0) (q := 40) (by decide))
    subst hd'
    refine ⟨S23.o (r := 40) rfl, fun r hr s29 e29 => ⟨?_, ?_⟩⟩
    all_goals
      have hr' : r = nI n := by
        rw [hr, X23.many, mI_at _ _ _ (by omega), if_neg (by omega), mI_at _ _ _ (by omega), if_neg (by omega)]
        exact n2
      rw [hr', nI_1] at e29
      have k2'' : (mI (mI (sM s o) 2 (nI (12 + n)) a) 2 (nI n) b).2.1 2 43 = nI told := by
        rw [mI_at _ _ _ (by omega), if_neg (by omega)]
        exact k2'
      have X29 : RX N s29 L M (mO s o) (mI (mI (mI (sM s o) 2 (nI (12 + n)) a) 2 (nI n) b) 2 (nI 41) (nI (n + 1))) := by
        rw [e29]
        exact X23.w (r0 := 40) (j0 := 4) (q0 := 2) (i0 := 41) rfl (rd_I _ _ (by decide) (by decide)) (by omega) (invM_I X23.I k2'' k1 (by decide) ⟨by omega, by omega, by omega, by omega, by omega, fun _ => ⟨n + 1, by omega, rfl⟩, by omega, by omega, by omega, by omega⟩)
    · exact X29.S.o (r := 0) rfl
    · rw [hr']
      have f29 : frM (mO s o) s s29 := by
        refine frM_t (s' := s6) ?_ (frM_t (s' := s23) ?_ ?_)
        · rw [e6]
          exact frM_I hX (r := 244) (by decide)
        · rw [e23]
          exact frM_I X6 (by decide)
        · rw [e29]
          exact frM_I X23 (by decide)
      refine v_setlS X29 (by rw [nI_toInt (by omega)]; omega) (fun s' X' f' => pfin X' hm (frM_t f29 f') rfl hK (fun m1 K2 hc h2 => hw m1 K2 hc ⟨fun _ => h2 _ ?_, fun z => absurd z nn⟩))
      exact cE_F (cE_F (cE_I (cE_I (cE_I hc _ _ _) _ _ _) _ _ _) _ _) _ _
  · refine href 1 (by decide) (by decide) (by decide) (fun m1 K2 hc h2 => ?_)
    unfold w_note
    refine w_isPitchS ?_
    rw [ha]
    refine ⟨fun z => absurd z (by decide), fun _ => w_isPitchS ?_⟩
    rw [hb]
    exact ⟨fun z => absurd rfl z, fun _ => w_refS (k := 1) (by decide) h2⟩
end O2
