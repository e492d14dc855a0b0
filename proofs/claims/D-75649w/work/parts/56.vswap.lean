set_option maxRecDepth 100000
/-! ===== swap ===== -/
def exS (i : Nat) (m : mS) : mS := mI (mI m 2 (nI (12 + i)) (m.2.1 2 i)) 2 (nI i) (m.2.1 2 (12 + i))
theorem mI_f1 (s : mS) (j : Nat) (i x : Int32) : (mI s j i x).1 = s.1 := rfl
theorem mI_f3 (s : mS) (j : Nat) (i x : Int32) : (mI s j i x).2.2 = s.2.2 := rfl
theorem exS_e {i : Nat} (hi : i < 12) (m : mS) : exS i m = mI (mI m 2 (nI i) (m.2.1 2 (12 + i))) 2 (nI (12 + i)) (m.2.1 2 i) := by
  have h2 : ∀ q, (exS i m).2.1 q = (mI (mI m 2 (nI i) (m.2.1 2 (12 + i))) 2 (nI (12 + i)) (m.2.1 2 i)).2.1 q := fun q => by
    unfold exS
    by_cases c : q = 2
    · subst c
      funext k
      rw [mI_at _ _ _ (by omega), mI_at _ _ _ (by omega), mI_at _ _ _ (by omega), mI_at _ _ _ (by omega)]
      by_cases c1 : k = i
      · rw [if_pos c1, if_neg (by omega), if_pos c1]
      · rw [if_neg c1]
        by_cases c2 : k = 12 + i
        · rw [if_pos c2, if_pos c2]
        · rw [if_neg c2, if_neg c2, if_neg c1]
    · rw [mI_o _ _ _ c, mI_o _ _ _ c, mI_o _ _ _ c, mI_o _ _ _ c]
  have h1 : (exS i m).1 = (mI (mI m 2 (nI i) (m.2.1 2 (12 + i))) 2 (nI (12 + i)) (m.2.1 2 i)).1 := by
    unfold exS
    rw [mI_f1, mI_f1, mI_f1, mI_f1]
  have h3 : (exS i m).2.2 = (mI (mI m 2 (nI i) (m.2.1 2 (12 + i))) 2 (nI (12 + i)) (m.2.1 2 i)).2.2 := by
    unfold exS
    rw [mI_f3, mI_f3, mI_f3, mI_f3]
  exact Prod.ext h1 (Prod.ext (funext h2) h3)
def exI : Nat → Nat → mS → mS
  | 0, _, m => m
  | k + 1, i, m => exI k (i + 1) (exS i m)
theorem cE_exS {m m1 : mS} (h : cE m m1) (i : Nat) : cE (exS i m) (exS i m1) := by
  unfold exS
  rw [h.2 2 (by decide)]
  exact cE_I (cE_I h _ _ _) _ _ _
theorem cE_exI : ∀ (k : Nat) {m m1 : mS} (i : Nat), cE m m1 → cE (exI k i m) (exI k i m1)
  | 0, _, _, _, h => h
  | k + 1, _, _, i, h => cE_exI k (i + 1) (cE_exS h i)
theorem exS_o {i : Nat} (hi : i < 12) (m : mS) : ∀ q, 24 ≤ q → (exS i m).2.1 2 q = m.2.1 2 q := fun q hq => by
  unfold exS
  rw [mI_at _ _ _ (by omega), mI_at _ _ _ (by omega), if_neg (by omega), if_neg (by omega)]
theorem nI_lle {a b : Nat} (ha : a < 2 ^ 31) (hb : b < 2 ^ 31) : nI a ≤ nI b ↔ a ≤ b := by
  rw [i32_le, nI_toInt ha, nI_toInt hb]
  omega
theorem w_exL {N : Nat × Nat} {Kr K : mS → Prop} {n : Nat} (hn : n ≤ 12) : ∀ (k t i : Nat) {m : mS}, m.2.1 2 41 = nI n → k < t → i + k = n → K (exI k i m) → w_exchanges_2 N Kr K t (nI i) m
  | k, 0, _, _, _, h, _, _ => absurd h (Nat.not_lt_zero _)
  | 0, t + 1, i, m, h41, _, hi, hK => by
    unfold w_exchanges_2
    refine w_manyS h41 ⟨fun _ => hK, fun z => absurd ?_ z⟩
    rw [nI_lle (by omega) (by omega)]
    omega
  | k + 1, t + 1, i, m, h41, ht, hi, hK => by
    unfold w_exchanges_2
    have hi12 : i < 12 := by omega
    refine w_manyS h41 ⟨fun z => ?_, fun _ => ?_⟩
    · rw [nI_lle (by omega) (by omega)] at z
      omega
    · rw [nI_0p, show (12 : Int32) + nI i = nI (12 + i) from nI_add 12 i]
      refine ⟨vpk (by omega) (by decide), fun v hv => ⟨vpk (by omega) (by decide), vpk (by omega) (by decide), fun s1 e1 => ⟨vpk (by omega) (by decide), fun s2 e2 i2 h2 => ?_⟩⟩⟩
      rw [mAt_n (by omega)] at hv
      rw [mAt_n (by omega)] at e1
      have e : s2 = exS i m := by
        rw [e2, hv, e1]
        exact (exS_e hi12 m).symm
      have hi2 : i2 = nI (i + 1) := h2.trans (nI_1 i)
      rw [e, hi2]
      exact w_exL hn k t (i + 1) ((exS_o hi12 m 41 (by decide)).trans h41) (by omega) (by omega) hK
section SW
variable {N : tP} {L : Nat → Nat} {M O : Nat → Prop}
theorem v_exL {Kr K : tM → Prop} {n : Nat} (hn : n ≤ 12) : ∀ (k t i : Nat) {s : tM} {m : mS}, RX N s L M O m → k < t → i + k = n → (∀ s', RX N s' L M O (exI k i m) → frM O s s' → K s') → v_X2_exchange_2 N (L 44) (nI n) Kr K t (nI i) s
  | k, 0, _, _, _, _, h, _, _ => absurd h (Nat.not_lt_zero _)
  | 0, t + 1, i, s, m, hX, _, hi, hK => by
    unfold v_X2_exchange_2
    refine ⟨fun _ => hK s hX (frM_r _ _), fun z => absurd ?_ z⟩
    rw [nI_lle (by omega) (by omega)]
    omega
  | k + 1, t + 1, i, s, m, hX, ht, hi, hK => by
    have hS := hX.S
    obtain ⟨told, k1, k2, -⟩ := hX.told
    have hi12 : i < 12 := by omega
    have b44 := hS.2.2.1.2.1 44 (Or.inr (Or.inr (Or.inr (Or.inl rfl))))
    have l2 : loc 244 i = some (2, 12 + i) := by
      unfold loc
      rw [if_neg (by decide), if_pos rfl, if_pos hi12]
    have l4 : loc 444 i = some (2, i) := by
      unfold loc
      rw [if_pos rfl, if_pos hi12]
    have v2 : tI s (L 244) i = m.2.1 2 (12 + i) := hX.R 244 i 2 (12 + i) l2
    have v4 : tI s (L 444) i = m.2.1 2 i := hX.R 444 i 2 i l4
    have p2 : pI (m.2.1 2 (12 + i)) := hX.I.1.1.1 _ (by omega)
    have p4 : pI (m.2.1 2 i) := hX.I.1.1.1 _ (by omega)
    unfold v_X2_exchange_2
    rw [show tR s (L 44) 0 = L 244 from b44.1, show tR s (L 44) 1 = L 444 from b44.2, nI_clamp (by omega), v2, v4]
    refine ⟨fun z => ?_, fun _ => ⟨hS.o (r := 44) rfl, ⟨12, hS.a (r := 244) rfl, vpk hi12 (by decide)⟩, fun v hv => ⟨⟨12, hS.a (r := 444) rfl, vpk hi12 (by decide)⟩, ⟨12, hS.a (r := 244) rfl, vpk hi12 (by decide)⟩, fun s1 e1 => ?_⟩⟩⟩
    · rw [nI_lle (by omega) (by omega)] at z
      omega
    · have X1 : RX N s1 L M O (mI m 2 (nI (12 + i)) (m.2.1 2 i)) := by
        rw [e1]
        exact hX.w l2 (rd_I _ _ (by decide) (by omega)) (by omega) (invM_I hX.I k2 k1 (by omega) ⟨fun _ => p4, by omega, by omega, by omega, by omega, by omega, by omega, by omega, by omega, by omega⟩)
      have S1 := X1.S
      have b44' := S1.2.2.1.2.1 44 (Or.inr (Or.inr (Or.inr (Or.inl rfl))))
      rw [show tR s1 (L 44) 1 = L 444 from b44'.2]
      refine ⟨⟨12, S1.a (r := 444) rfl, vpk hi12 (by decide)⟩, fun s2 e2 i2 h2 => ?_⟩
      have k2' : (mI m 2 (nI (12 + i)) (m.2.1 2 i)).2.1 2 43 = nI told := by
        rw [mI_at _ _ _ (by omega), if_neg (by omega)]
        exact k2
      have X2 : RX N s2 L M O (exS i m) := by
        rw [e2, hv]
        exact X1.w l4 (rd_I _ _ (by decide) (by omega)) (by omega) (invM_I X1.I k2' k1 (by omega) ⟨fun _ => p2, by omega, by omega, by omega, by omega, by omega, by omega, by omega, by omega, by omega⟩)
      have f2 : frM O s s2 := frM_t (s' := s1) (by rw [e1]; exact frM_I hX (r := 244) (by decide)) (by rw [e2]; exact frM_I X1 (r := 444) (by decide))
      have hi2 : i2 = nI (i + 1) := h2.trans (nI_1 i)
      rw [hi2]
      exact v_exL hn k t (i + 1) X2 (by omega) (by omega) (fun s' X' f' => hK s' X' (frM_t f2 f'))
theorem exI_o : ∀ (k i : Nat) (m : mS), i + k ≤ 12 → ∀ q, 24 ≤ q → (exI k i m).2.1 2 q = m.2.1 2 q
  | 0, _, _, _, _, _ => rfl
  | k + 1, i, m, h, q, hq => (exI_o k (i + 1) (exS i m) (by omega) q hq).trans (exS_o (by omega) m q hq)
end SW
section O4
variable {N : tP} {s : tM} {x o : Nat} {K : tM → Prop}
theorem op_swap (hN : nOK N) (hX : RXo N s x o) (hK : ∀ s', RXo N s' x o → K s') : v_X0_swap N x s (pK o (w_swap (nP N)) K) := by
  obtain ⟨L, M, rfl, hX, hm⟩ := hX
  have hS := hX.S
  obtain ⟨n, n1, n2⟩ := hX.I.1.2.2.2.2.1
  obtain ⟨c, c1, c2, c3⟩ := hX.cnt
  have o0 := hS.o (r := 0) rfl
  have hmany : tI s (L 40) 4 = nI n := hX.many.trans n2
  have h450 : 450 ≤ (nP N).1 := Nat.le_trans (by decide) hN.1
  have h0 : nI n = 0 ↔ n = 0 := by
    rw [show (0 : Int32) = nI 0 from rfl, nI_eq (by omega) (by omega)]
  unfold v_X0_swap v_X0_swapNow
  refine ⟨o0, o0, v_nNotesS hS ?_⟩
  rw [hmany, h0]
  refine ⟨fun nn => ⟨o0, v_booksS hS ?_⟩, fun yn => ⟨o0, op_ref (k := 3) hX hm rfl hK (by decide) (by decide) (fun m1 K2 hc h2 => ?_)⟩⟩
  · rw [hS.t (r := 0) (j := 2) (q := 2) (by decide)]
    refine ⟨hS.o (r := 2) rfl, v_appS hX c1 c2 ⟨2, by decide, rfl⟩ (fun s1 L' hL _ X1 f1 => ?_)⟩
    have S1 := X1.S
    have e41 : (kM c 2 (sM s o)).2.1 2 41 = nI n := (congrFun ((kM_o (n := c) (w := 2) (m := sM s o)).2 2 (by decide)) 41).trans n2
    have X1' : RX N s1 L' M (mO s o) (kM c 2 (sM s o)) := X1
    rw [← hL 0 (by decide)]
    refine ⟨S1.o (r := 0) rfl, v_booksS S1 ⟨S1.o (r := 0) rfl, v_nNotesS S1 ⟨S1.o (r := 44) rfl, ?_⟩⟩⟩
    rw [show tI s1 (L' 40) 4 = nI n from X1'.many.trans e41]
    unfold v_X2_exchange
    refine v_exL n1 n N.1 0 X1' (by have := hN.1; omega) (by omega) (fun s2 X2 f2 => ⟨X2.S.o (r := 0) rfl, v_nNotesS X2.S ⟨X2.S.o (r := 0) rfl, ?_⟩⟩)
    have e41' : (exI n 0 (kM c 2 (sM s o))).2.1 2 41 = nI n := (exI_o n 0 _ (by omega) 41 (by decide)).trans e41
    rw [show tI s2 (L' 40) 4 = nI n from X2.many.trans e41']
    refine v_goodS X2 (by rw [nI_toInt (by omega)]; omega) (fun s' X' f' => pfin X' hm (frM_t (frM_t f1 f2) f') (hL 0 (by decide)) hK (fun m1 K2 hc h2 => ?_))
    have e2 : m1.2.1 2 = (sM s o).2.1 2 := hc.2 2 (by decide)
    have e41 : m1.2.1 2 41 = nI n := by rw [e2]; exact n2
    unfold w_swap w_swapsKept
    refine w_manyS e41 ⟨fun _ => w_keepsS h450 c1 ((hc.1 33 (by decide)).trans c2) (fun g hg => ?_), fun z => absurd (h0.mp z) nn⟩
    have hg' : cE (kM c 2 m1) g := hg
    have g41 : g.2.1 2 41 = nI n := (congrFun (hg'.2 2 (by decide)) 41).trans ((congrFun ((kM_o (n := c) (w := 2) (m := m1)).2 2 (by decide)) 41).trans e41)
    unfold w_exchanges
    refine w_exL n1 n (nP N).1 0 g41 (by have := hN.1; show n < N.1; omega) (by omega) (w_manyS ((exI_o n 0 _ (by omega) 41 (by decide)).trans g41) (w_goodOrS (by rw [nI_toInt (by omega)]; omega) (h2 _ ?_)))
    exact cE_F (cE_exI n 0 (cE_t (cE_kM hc c 2) hg')) _ _
  · have e41 : m1.2.1 2 41 = nI n := (congrFun (hc.2 2 (by decide)) 41).trans n2
    unfold w_swap w_swapsKept
    exact w_manyS e41 ⟨fun z => absurd (h0.mpr yn) z, fun _ => w_goodOrN (k := 3) (by decide) (by decide) h2⟩
end O4
