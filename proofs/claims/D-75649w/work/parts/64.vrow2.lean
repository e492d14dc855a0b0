set_option maxRecDepth 100000
/-! ===== row, both sides ===== -/
theorem par_n : ∀ j, j < 401 → nI j - nI j / 2 * 2 = nI (j % 2) := by decide +kernel
theorem cE_fin {m m1 : mS} (h : cE m m1) (P : Nat) : cE (finP P m) (finP P m1) := by
  unfold finP
  by_cases c : P % 2 = 1
  · rw [if_pos c, if_pos c]
    exact cE_p1 h
  · rw [if_neg c, if_neg c]
    exact h
section O9
variable {N : tP} {s : tM} {x o : Nat} {K : tM → Prop}
theorem w_rowS {N : Nat × Nat} (hN : 6000 ≤ N.1) {P : Nat} (hP : P ≤ 400) (hP0 : P ≠ 0) {m1 : mS} (h13 : m1.1 13 = nI P) {n : Nat} (hn : n ≤ 12) (h41 : m1.2.1 2 41 = nI n) {K : Int32 → mS → Prop} (hK : K (nI (rowP (m1.2.1 11) (P / 2) 0 (0, mF (mF m1 13 0) 6 0)).1) (mF (mF (finP P (rowP (m1.2.1 11) (P / 2) 0 (0, mF (mF m1 13 0) 6 0)).2) 33 0) 0 0)) : w_row N m1 K := by
  have h0 : nI P ≠ 0 := fun z => hP0 ((nI_eq (b := 0) (by omega) (by omega)).mp z)
  unfold w_row
  intro y hy s2 e2
  have hy' : y = nI P := hy.trans h13
  subst hy'
  rw [par_n P (by omega)]
  have hp : nI (P % 2) = 0 ↔ P % 2 = 0 := by
    rw [show (0 : Int32) = nI 0 from rfl, nI_eq (by omega) (by omega)]
  rw [hp]
  have go : ∀ g, g = (if P % 2 = 1 then p1 (mF (mF m1 13 0) 6 0) else mF (mF m1 13 0) 6 0) → w_row_40 N (nI P) K (fun x102 s103 => w_settled x102 s103 (fun x104 s105 => K x104 s105)) N.1 0 0 g := fun g hg => by
    have g11 : g.2.1 = m1.2.1 := by
      rw [hg]
      split <;> rfl
    have := @w_rowL N P hP (m1.2.1 11) K (fun x102 s103 => w_settled x102 s103 (fun x104 s105 => K x104 s105)) (P / 2) N.1 0 0 g n (by rw [g11]; exact h41) hn (fun i _ => by rw [g11]) (by omega) (by omega) ?_
    · exact this
    · have er : rowP (m1.2.1 11) (P / 2) 0 (0, g) = ((rowP (m1.2.1 11) (P / 2) 0 (0, mF (mF m1 13 0) 6 0)).1, finP P (rowP (m1.2.1 11) (P / 2) 0 (0, mF (mF m1 13 0) 6 0)).2) := by
        rw [hg]
        unfold finP
        by_cases c : P % 2 = 1
        · rw [if_pos c, if_pos c, rowP_p1]
        · rw [if_neg c, if_neg c]
      rw [er]
      exact w_setS hK
  refine ⟨fun _ => ⟨fun od => ?_, fun ev => ?_⟩, fun z => absurd z h0⟩
  · unfold w_row_35
    intro s3 e3
    refine go s3 ?_
    rw [if_pos (by omega), e3, e2]
    refine Prod.ext ?_ rfl
    show upd (upd m1.1 13 0) 6 1 = upd (upd (upd m1.1 13 0) 6 0) 6 (upd (upd m1.1 13 0) 6 0 6 + 1)
    rw [upd_2]
    rfl
  · unfold w_row_35
    intro s3 e3
    refine go s3 ?_
    rw [if_neg (by omega), e3, e2]
theorem byte_fit {v : Int32} (h : -128 ≤ v.toInt ∧ v.toInt ≤ 127) : fits .byte (.int v) = true := by
  have h1 : (-128 : Int32) ≤ v := by
    rw [i32_le, show (-128 : Int32).toInt = -128 by decide]
    exact h.1
  have h2 : v ≤ (127 : Int32) := by
    rw [i32_le, show (127 : Int32).toInt = 127 by decide]
    exact h.2
  show (decide ((-128 : Int32) ≤ v) && decide (v ≤ 127)) = true
  rw [decide_eq_true h1, decide_eq_true h2]
  rfl
theorem op_row (hN : nOK N) (hX : RXo N s x o) (hK : ∀ s', RXo N s' x o → K s') {kb nb : Nat} (hk : 4 ≤ kb) (hb : 470 ≤ nb) : v_X0_row N x kb nb s (pK o (w_row (nP N)) K) := by
  obtain ⟨L, M, rfl, hX, hm⟩ := hX
  have hS := hX.S
  have o0 := hS.o (r := 0) rfl
  obtain ⟨P, n1, n2⟩ := hX.I.2.1
  obtain ⟨n, c1, c2⟩ := hX.I.1.2.2.2.2.1
  have hbt := hX.I.2.2.1
  have e15 : tI s (L 0) 15 = nI P := (hX.R 0 15 60 13 rfl).trans n2
  have h0 : nI P = 0 ↔ P = 0 := by
    rw [show (0 : Int32) = nI 0 from rfl, nI_eq (by omega) (by omega)]
  have l14 : ∀ i, i < 400 → tI s (L 14) i = (sM s o).2.1 11 i := fun i hi => hX.R 14 i 11 i (by
    unfold loc
    rw [if_neg (by decide), if_neg (by decide), if_neg (by decide), if_neg (by decide), if_neg (by decide), if_neg (by decide), if_neg (by decide), if_neg (by decide), if_pos rfl, if_pos hi])
  have t14 := hS.t (r := 0) (j := 14) (q := 14) (by decide)
  have cl : (nI P).toNatClampNeg = P := nI_clamp (by omega)
  unfold v_X0_row
  rw [e15, h0]
  refine ⟨o0, fun nP0 y hy => ?_, fun yP0 => op_ref (k := 6) hX hm rfl hK (by decide) (by decide) (fun m1 K2 hc h2 => ?_)⟩
  · subst hy
    rw [cl]
    refine ⟨fun z => ?_, by omega, by omega, by omega, fun q hq hq0 hqN s9 e9 => ?_⟩
    · rw [i32_lt, nI_toInt (by omega), show (0 : Int32).toInt = 0 by decide] at z
      omega
    have E9 : extN N s s9 := by
      rw [e9]
      exact ext_n (ext_r N s) hq hqN
    have X9 := hX.ex E9
    have q9 : s9.1 q = some (.inr (2, P)) := by
      rw [e9]
      exact if_pos rfl
    have e15' : tI s9 (L 0) 15 = nI P := (X9.R 0 15 60 13 rfl).trans n2
    have l9 : ∀ i, i < 400 → tI s9 (L 14) i = (sM s o).2.1 11 i := fun i hi => (congrFun (E9 _ (Or.inl (hS.al (r := 14) (by decide)))).2.1 i).trans (l14 i hi)
    rw [X9.S.t (r := 0) (j := 14) (q := 14) (by decide), e15', cl]
    refine ⟨X9.S.o (r := 0) rfl, ⟨400, P, X9.S.a (r := 14) rfl, ⟨q9, hq0⟩, by decide, by decide, ?_, ?_, ?_⟩, fun i hi => ?_, fun s14 e14 s16 e16 s18 e18 => ?_⟩
    · intro z
      rw [i32_lt, nI_toInt (by omega), show (0 : Int32).toInt = 0 by decide] at z
      omega
    · rw [cl, show (0 : Int32).toNatClampNeg = 0 by decide]
      omega
    · rw [cl, show (0 : Int32).toNatClampNeg = 0 by decide]
      omega
    · rw [Nat.zero_add, l9 i (by omega)]
      exact byte_fit (hbt i (by omega))
    · have E14 : extN N s s14 := by
        rw [e14]
        exact ext_cI E9 hq hqN
      have q14 : s14.1 q = some (.inr (2, P)) := by
        rw [e14]
        exact q9
      have X14 : RX N s14 L M (fun a => mO s o a ∨ a = q) (sM s o) := hX.new E14 hq hqN (by rw [q14]; exact fun z => by cases z)
      have V14 : ∀ i, i < P → tI s14 q i = (sM s o).2.1 11 i := fun i hi => by
        rw [e14]
        refine (if_pos rfl : (if q = q then va_cpy (s9.2.1 (L 14)) (s9.2.1 q) 0 0 P i else s9.2.1 q i) = va_cpy (s9.2.1 (L 14)) (s9.2.1 q) 0 0 P i).trans ?_
        unfold va_cpy
        rw [if_pos (by omega)]
        rw [show 0 + (i - 0) = i by omega]
        exact l9 i (by omega)
      have X16 : RX N s16 L M (fun a => mO s o a ∨ a = q) (mF (sM s o) 13 0) := by
        rw [e16]
        refine X14.w (r0 := 0) (j0 := 15) (q0 := 60) (i0 := 13) rfl (rd_F _ _ _) (by omega) ?_
        obtain ⟨a1, -, a3, a4, a5⟩ := X14.I
        exact ⟨a1, ⟨0, by omega, rfl⟩, a3, a4, a5⟩
      have X18 : RX N s18 L M (fun a => mO s o a ∨ a = q) (mF (mF (sM s o) 13 0) 6 0) := by
        rw [e18]
        exact X16.w (r0 := 0) (j0 := 12) (q0 := 60) (i0 := 6) rfl (rd_F _ _ _) (by omega) (invM_F X16.I (by decide) (by decide))
      have f18 : frM (fun a => mO s o a ∨ a = q) s14 s18 := frM_t (s' := s16) (by rw [e16]; exact frM_I X14 (r := 0) (by decide)) (by rw [e18]; exact frM_I X16 (r := 0) (by decide))
      have := @v_rowL N L M (fun a => mO s o a ∨ a = q) q P n1 ((sM s o).2.1 11) (fun i hi => hbt i (by omega)) (pK o (w_row (nP N)) K) (fun x120 k122 n123 s121 => (tO s121 0 (L 0) ∧ (v_X0_settled (L 0) x120 s121 (fun x124 s125 => pK o (w_row (nP N)) K x124 s125)))) (kb - 1) (nb - P) (by omega) (by omega) (Or.inr rfl) (P / 2) N.1 0 0 s18 (mF (mF (sM s o) 13 0) 6 0) n X18 c2 c1 ⟨by rw [(f18.1 q (Or.inr rfl)).1]; exact q14, hq0⟩ (fun i hi => (congrFun (f18.1 q (Or.inr rfl)).2.1 i).trans (V14 i hi)) (by omega) (by have := hN.1; omega) (fun s' k' n' X' f' => ?_)
      · exact this
      · have XX := X'.sub (O := mO s o) (fun a ha => Or.inl ha)
        have ff : frM (mO s o) s s' := frM_t (hX.exO E14) (frM_s (frM_t f18 f') (fun a ha => Or.inl ha))
        have hle := rowP_le ((sM s o).2.1 11) (P / 2) 0 (0, mF (mF (sM s o) 13 0) 6 0)
        have hle' : (rowP ((sM s o).2.1 11) (P / 2) 0 (0, mF (mF (sM s o) 13 0) 6 0)).1 ≤ 0 + P / 2 := hle
        refine ⟨XX.S.o (r := 0) rfl, v_setlS XX (by rw [nI_toInt (by omega)]; omega) (fun s2 X2 f2 => pfin X2 hm (frM_t ff f2) rfl hK (fun m1 K2 hc h2 => ?_))⟩
        have e2 := eqP hc
        have hcc : cE (mF (mF (sM s o) 13 0) 6 0) (mF (mF m1 13 0) 6 0) := cE_F (cE_F hc _ _) _ _
        obtain ⟨r1, r2⟩ := cE_row ((sM s o).2.1 11) (P / 2) 0 0 hcc
        refine w_rowS hN.1 n1 nP0 ((hc.1 13 (by decide)).trans n2) c1 (by rw [e2]; exact c2) ?_
        rw [hc.2 11 (by decide), r1]
        exact h2 _ (cE_F (cE_F (cE_fin r2 P) _ _) _ _)
  · have e13 : m1.1 13 = 0 := (hc.1 13 (by decide)).trans (n2.trans (by rw [yP0]; rfl))
    have em : mF m1 13 0 = m1 := Prod.ext (upd_id e13) rfl
    unfold w_row
    intro y hy s2 e2
    have hy' : y = 0 := hy.trans e13
    subst hy'
    rw [em] at e2
    subst e2
    exact ⟨fun z => absurd rfl z, fun _ => w_refS (k := 6) (by decide) h2⟩
end O9
