set_option maxRecDepth 100000
/-! ===== row ===== -/
theorem and255_n : ∀ j, j < 256 → isPI ((nI j - 128) &&& 255) = isPI (nI j - 128) ∧ (isPI (nI j - 128) = true → (nI j - 128) &&& 255 = nI j - 128) := by decide +kernel
theorem and255 {x : Int32} (h : -128 ≤ x.toInt ∧ x.toInt ≤ 127) : isPI (x &&& 255) = isPI x ∧ (isPI x = true → x &&& 255 = x) := by
  have e128 : (128 : Int32).toInt = 128 := by decide
  have h1 : (x + 128).toInt = x.toInt + 128 := by
    rw [i32_add (by omega) (by omega), e128]
  obtain ⟨j, j1, j2⟩ := i32N (c := x + 128) (by omega)
  have ex : x = nI j - 128 := by
    rw [← j1, Int32.add_sub_cancel]
  rw [ex]
  exact and255_n j (by omega)
theorem P12 {n : Nat} (h : n ≤ 12) : (12 ≤ nI n) ↔ n = 12 := by
  rw [show (12 : Int32) = nI 12 from rfl, nI_lle (by omega) (by omega)]
  omega
theorem nI_2j (j : Nat) : nI (2 * j) + 2 = nI (2 * (j + 1)) := nI_add (2 * j) 2
/-! the reference's loop -/
theorem w_rowL {N : Nat × Nat} {P : Nat} (hP : P ≤ 400) {V : Nat → Int32} {Kr : Int32 → mS → Prop} {K : Int32 → mS → Prop} : ∀ (f t j c : Nat) {g : mS} {n : Nat}, g.2.1 2 41 = nI n → n ≤ 12 → (∀ i, i < P → g.2.1 11 i = V i) → j + f = P / 2 → f < t → K (nI (rowP V f j (c, g)).1) (rowP V f j (c, g)).2 → w_row_40 N (nI P) Kr K t (nI c) (nI (2 * j)) g
  | _, 0, _, _, _, _, _, _, _, _, h, _ => absurd h (Nat.not_lt_zero _)
  | 0, t + 1, j, c, g, n, h41, hn, hV, hj, _, hK => by
    unfold w_row_40
    rw [nI_2j]
    refine ⟨fun _ => hK, fun z => absurd ?_ z⟩
    rw [i32_lt, nI_toInt (by omega), nI_toInt (by omega)]
    omega
  | f + 1, t + 1, j, c, g, n, h41, hn, hV, hj, ht, hK => by
    have hlt : ¬ nI P < nI (2 * (j + 1)) := by
      rw [i32_lt, nI_toInt (by omega), nI_toInt (by omega)]
      omega
    have a0 : mAt g 11 (nI (2 * j)) = V (2 * j) := (mAt_n (by omega)).trans (hV _ (by omega))
    have a1 : mAt g 11 (nI (2 * j + 1)) = V (2 * j + 1) := (mAt_n (by omega)).trans (hV _ (by omega))
    have v0 : vp_in (nI (2 * j)) 400 := vpk (by omega) (by decide)
    have v1 : vp_in (nI (2 * j + 1)) 400 := vpk (by omega) (by decide)
    obtain ⟨⟨n', q1, q2⟩, q3⟩ := stp_o (V := V) (j := j) (c := c) h41 hn
    have hV' : ∀ i, i < P → (stp V j (c, g)).2.2.1 11 i = V i := fun i hi => (congrFun (q3 11 (by decide)) i).trans (hV i hi)
    have next : w_row_40 N (nI P) Kr K t (nI (stp V j (c, g)).1) (nI (2 * (j + 1))) (stp V j (c, g)).2 := w_rowL hP f t (j + 1) (stp V j (c, g)).1 q2 q1 hV' (by omega) (by omega) hK
    unfold w_row_40
    rw [nI_2j]
    have h12 : n = 12 ↔ g.2.1 2 41 = 12 := by
      rw [h41, show (12 : Int32) = nI 12 from rfl, nI_eq (by omega) (by omega)]
    have blot : ¬ (isPI (V (2 * j)) = true ∧ isPI (V (2 * j + 1)) = true ∧ ¬ g.2.1 2 41 = 12) → w_row_86 N (nI P) (nI c) (nI (2 * j)) Kr K (fun x2 x3 s => w_row_40 N (nI P) Kr K t x2 x3 s) g := fun hn' => by
      have es : stp V j (c, g) = (c, p1 g) := if_neg hn'
      rw [es] at next
      unfold w_row_86 w_row_87
      refine ⟨fun _ => ?_, fun z => absurd rfl z⟩
      unfold w_row_112
      refine ⟨fun _ => ?_, fun z => absurd rfl z⟩
      unfold w_row_123
      intro y hy
      rw [Int32.add_zero] at hy
      subst hy
      refine ⟨fun _ s1 e1 y hy => ?_, fun z => absurd rfl z⟩
      rw [nI_2j] at hy
      rw [hy, e1]
      exact next
    refine ⟨fun z => absurd z hlt, fun _ => w_manyS h41 ⟨fun z => blot fun q => q.2.2 (h12.mp ((P12 hn).mp z)), fun z => ⟨v0, ?_⟩⟩⟩
    have nn : n ≠ 12 := fun w => z ((P12 hn).mpr w)
    rw [a0, nI_1, a1]
    refine w_isPitchS (bI_c (fun ha => blot fun q => ?_) (fun ha => ⟨v1, w_isPitchS (bI_c (fun hb => blot fun q => ?_) (fun hb => ?_))⟩))
    · rw [ha] at q
      exact absurd q.1 (by decide)
    · rw [hb] at q
      exact absurd q.2.1 (by decide)
    · have es : stp V j (c, g) = (c + 1, mF (addM (V (2 * j)) (V (2 * j + 1)) g) 6 (g.1 6 + 0)) := if_pos ⟨ha, hb, fun w => nn (h12.mpr w)⟩
      rw [es] at next
      unfold w_row_87
      refine ⟨fun z => absurd z (by decide), fun _ => ⟨v0, by rw [nI_1]; exact v1, ?_⟩⟩
      rw [nI_1, a0, a1]
      refine w_addsS h41 (by omega) ?_
      unfold w_row_112
      refine ⟨fun z => absurd z (by decide), fun _ => ?_⟩
      unfold w_row_123
      intro y hy
      rw [nI_1] at hy
      subst hy
      refine ⟨fun z => absurd z (by decide), fun _ s1 e1 y hy => ?_⟩
      rw [nI_2j] at hy
      rw [hy, e1]
      exact next
/-! the system's loop -/
section RO2
variable {N : tP} {L : Nat → Nat} {M O : Nat → Prop} {q : Nat}
def finP (P : Nat) (m : mS) : mS := if P % 2 = 1 then p1 m else m
theorem v_rowL {P : Nat} (hP : P ≤ 400) {V : Nat → Int32} (hV0 : ∀ i, i < P → -128 ≤ (V i).toInt ∧ (V i).toInt ≤ 127) {Kr : Int32 → tM → Prop} {K : Int32 → Nat → Nat → tM → Prop} {kb nb : Nat} (hkb : 3 ≤ kb) (hnb : 70 ≤ nb) (hq : O q) : ∀ (f t j c : Nat) {s : tM} {m : mS} {n : Nat}, RX N s L M O m → m.2.1 2 41 = nI n → n ≤ 12 → tA s 2 P q → (∀ i, i < P → tI s q i = V i) → j + f = P / 2 → f + 1 < t → (∀ s' k' n', RX N s' L M O (finP P (rowP V f j (c, m)).2) → frM O s s' → K (nI (rowP V f j (c, m)).1) k' n' s') → v_X0_row_49 N (L 0) q Kr K t (nI c) (nI (2 * j)) kb nb s
  | _, 0, _, _, _, _, _, _, _, _, _, _, _, h, _ => absurd h (Nat.not_lt_zero _)
  | 0, 1, _, _, _, _, _, _, _, _, _, _, _, h, _ => absurd h (by omega)
  | 0, t + 2, j, c, s, m, n, hX, h41, hn, hA, hV, hj, _, hK => by
    have hlen : tLen s q = P := by
      unfold tLen
      rw [hA.1]
    unfold v_X0_row_49
    rw [hlen, show Int32.ofNat P = nI P from rfl, nI_lle (by omega) (by omega)]
    refine ⟨⟨P, hA⟩, fun z => ?_, fun z => ⟨0, 0, by omega, by omega, P, hA, Or.inl ⟨vpk (by omega) (by omega), 3, 70, by omega, by omega, P, hA, Or.inr ⟨?_, hP, by omega, by omega, fun q' => ⟨rfl, fun _ => ?_, fun z => absurd rfl z⟩⟩⟩⟩⟩
    · have ef : finP P (rowP V 0 j (c, m)).2 = m := if_neg (by omega)
      exact hK s kb nb (by rw [ef]; exact hX) (frM_r _ _)
    · rw [nI_1]
      exact congrArg nI (by omega)
    · have ef : finP P (rowP V 0 j (c, m)).2 = p1 m := if_pos (by omega)
      rw [ef] at hK
      unfold v_X0_row_135
      intro y hy
      rw [Int32.add_zero] at hy
      subst hy
      refine ⟨hX.S.o (r := 0) rfl, fun _ s1 e1 y hy => ?_, fun z => absurd rfl z⟩
      rw [nI_2j] at hy
      rw [hy]
      rw [show tI s (L 0) 12 = m.1 6 from hX.R 0 12 60 6 rfl] at e1
      have X1 : RX N s1 L M O (p1 m) := by
        rw [e1]
        exact hX.w (r0 := 0) (j0 := 12) (q0 := 60) (i0 := 6) rfl (rd_F _ _ _) (by omega) (invM_F hX.I (by decide) (by decide))
      have f1 : frM O s s1 := by
        rw [e1]
        exact frM_I hX (r := 0) (by decide)
      have hA1 : tA s1 2 P q := ⟨by rw [(f1.1 q hq).1]; exact hA.1, hA.2⟩
      have hlen1 : tLen s1 q = P := by
        unfold tLen
        rw [hA1.1]
      unfold v_X0_row_49
      rw [hlen1, show Int32.ofNat P = nI P from rfl, nI_lle (by omega) (by omega)]
      exact ⟨⟨P, hA1⟩, fun _ => hK s1 _ _ X1 f1, fun z => absurd (by omega) z⟩
  | f + 1, t + 1, j, c, s, m, n, hX, h41, hn, hA, hV, hj, ht, hK => by
    have hlen : tLen s q = P := by
      unfold tLen
      rw [hA.1]
    obtain ⟨⟨n', q1, q2⟩, q3⟩ := stp_o (V := V) (j := j) (c := c) h41 hn
    have next : ∀ s1, RX N s1 L M O (stp V j (c, m)).2 → frM O s s1 → v_X0_row_49 N (L 0) q Kr K t (nI (stp V j (c, m)).1) (nI (2 * (j + 1))) kb nb s1 := fun s1 X1 f1 => by
      refine v_rowL hP hV0 hkb hnb hq f t (j + 1) (stp V j (c, m)).1 X1 q2 q1 ⟨by rw [(f1.1 q hq).1]; exact hA.1, hA.2⟩ (fun i hi => ?_) (by omega) (by omega) (fun s' k' n' X' f' => hK s' k' n' X' (frM_t f1 f'))
      exact (congrFun (f1.1 q hq).2.1 i).trans (hV i hi)
    have h12 : n = 12 ↔ m.2.1 2 41 = 12 := by
      rw [h41, show (12 : Int32) = nI 12 from rfl, nI_eq (by omega) (by omega)]
    obtain ⟨a1, a2⟩ := and255 (hV0 (2 * j) (by omega))
    obtain ⟨b1, b2⟩ := and255 (hV0 (2 * j + 1) (by omega))
    have z0 : (0 : Int32).toInt = 0 := by decide
    unfold v_X0_row_49
    rw [hlen, show Int32.ofNat P = nI P from rfl, nI_lle (by omega) (by omega), nI_1]
    refine ⟨⟨P, hA⟩, fun z => by omega, fun z => ⟨0, 0, by omega, by omega, P, hA, Or.inl ⟨vpk (by omega) (by omega), 0, 0, by omega, by omega, P, hA, Or.inl ⟨vpk (by omega) (by omega), hX.S.o (r := 0) rfl, ?_⟩⟩⟩⟩
    rw [nI_clamp (by omega), nI_clamp (by omega), hV _ (by omega), hV _ (by omega)]
    refine v_comeS hX hn h41 (fun ha hb nn s1 X1 f1 => ⟨fun z => ?_, fun _ => ?_⟩) (fun hno r hr => ⟨fun _ => ?_, fun z => absurd ?_ z⟩)
    · rw [i32_lt, nI_toInt (by omega), z0] at z
      omega
    · rw [a1] at ha
      rw [b1] at hb
      rw [a2 ha, b2 hb] at X1
      have es : stp V j (c, m) = (c + 1, mF (addM (V (2 * j)) (V (2 * j + 1)) m) 6 (m.1 6 + 0)) := if_pos ⟨ha, hb, fun w => nn (h12.mpr w)⟩
      rw [es] at next
      unfold v_X0_row_82
      refine ⟨fun z => absurd z (by decide), fun _ => ?_⟩
      unfold v_X0_row_95
      intro y hy
      rw [nI_1] at hy
      subst hy
      refine ⟨X1.S.o (r := 0) rfl, fun z => absurd z (by decide), fun _ s2 e2 y hy => ?_⟩
      rw [nI_2j] at hy
      rw [hy]
      rw [show tI s1 (L 0) 12 = m.1 6 from X1.R 0 12 60 6 rfl] at e2
      refine next s2 ?_ (frM_t f1 ?_)
      · rw [e2]
        exact X1.w (r0 := 0) (j0 := 12) (q0 := 60) (i0 := 6) rfl (rd_F _ _ _) (by omega) (invM_F X1.I (by decide) (by decide))
      · rw [e2]
        exact frM_I X1 (r := 0) (by decide)
    · have es : stp V j (c, m) = (c, p1 m) := if_neg fun w => hno ⟨a1.trans w.1, b1.trans w.2.1, fun y => w.2.2 (h12.mp y)⟩
      rw [es] at next
      unfold v_X0_row_82
      refine ⟨fun _ => ?_, fun z => absurd rfl z⟩
      unfold v_X0_row_95
      intro y hy
      rw [Int32.add_zero] at hy
      subst hy
      refine ⟨hX.S.o (r := 0) rfl, fun _ s2 e2 y hy => ?_, fun z => absurd rfl z⟩
      rw [nI_2j] at hy
      rw [hy]
      rw [show tI s (L 0) 12 = m.1 6 from hX.R 0 12 60 6 rfl] at e2
      refine next s2 ?_ ?_
      · rw [e2]
        exact hX.w (r0 := 0) (j0 := 12) (q0 := 60) (i0 := 6) rfl (rd_F _ _ _) (by omega) (invM_F hX.I (by decide) (by decide))
      · rw [e2]
        exact frM_I hX (r := 0) (by decide)
    · rw [i32_lt, z0]
      exact hr
end RO2
