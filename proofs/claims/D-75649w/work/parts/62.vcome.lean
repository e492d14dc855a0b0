set_option maxRecDepth 100000
/-! ===== come, and the tape's pairs ===== -/
def addM (x y : Int32) (m : mS) : mS := mI (mI (mI m 2 (12 + m.2.1 2 41) x) 2 (m.2.1 2 41) y) 2 41 (m.2.1 2 41 + 1)
theorem addM_n {x y : Int32} {m : mS} {n : Nat} (h : m.2.1 2 41 = nI n) : addM x y m = mI (mI (mI m 2 (nI (12 + n)) x) 2 (nI n) y) 2 (nI 41) (nI (n + 1)) := by
  unfold addM
  rw [h, show (12 : Int32) + nI n = nI (12 + n) from nI_add 12 n, nI_1]
  rfl
theorem addM_o {x y : Int32} {m : mS} {n : Nat} (h : m.2.1 2 41 = nI n) (hn : n < 12) : (addM x y m).2.1 2 41 = nI (n + 1) ∧ (∀ q, q ≠ 2 → (addM x y m).2.1 q = m.2.1 q) ∧ (addM x y m).1 = m.1 := by
  rw [addM_n h]
  refine ⟨?_, fun q hq => ?_, rfl⟩
  · exact (mI_at _ 2 (nI (n + 1)) (k := 41) (by decide) 41).trans (if_pos rfl)
  · rw [mI_o _ _ _ hq, mI_o _ _ _ hq, mI_o _ _ _ hq]
section CO
variable {N : tP} {s : tM} {L : Nat → Nat} {M O : Nat → Prop} {m : mS}
theorem v_comeS (hX : RX N s L M O m) {n : Nat} (n1 : n ≤ 12) (n2 : m.2.1 2 41 = nI n) {a b : Int32} {K : Int32 → tM → Prop} (h1 : isPI a = true → isPI b = true → n ≠ 12 → ∀ s', RX N s' L M O (addM a b m) → frM O s s' → K (nI n) s') (h2 : ¬ (isPI a = true ∧ isPI b = true ∧ n ≠ 12) → ∀ r, r.toInt < 0 → K r s) : v_X0_come (L 0) a b s K := by
  have hS := hX.S
  obtain ⟨told, k1, k2, -⟩ := hX.told
  have o0 := hS.o (r := 0) rfl
  unfold v_X0_come
  refine v_isPitchS (bI_c (fun ha => ?_) (fun ha => v_isPitchS (bI_d (fun hb => ?_) (fun hb => ?_))))
  · refine h2 (fun z => ?_) _ (by decide)
    rw [ha] at z
    exact absurd z.1 (by decide)
  · refine ⟨o0, v_nNotesS hS ?_⟩
    have hmany : tI s (L 40) 4 = nI n := hX.many.trans n2
    rw [hmany]
    have h12 : nI n = 12 ↔ n = 12 := by
      rw [show (12 : Int32) = nI 12 from rfl, nI_eq (by omega) (by omega)]
    rw [h12]
    refine ⟨fun nn => ⟨o0, v_booksS hS ⟨hS.o (r := 44) rfl, ?_⟩⟩, fun yn => h2 (fun z => z.2.2 yn) _ (by decide)⟩
    have b44 := hS.2.2.1.2.1 44 (Or.inr (Or.inr (Or.inr (Or.inl rfl))))
    rw [show tR s (L 44) 0 = L 244 from b44.1, nI_clamp (by omega)]
    refine ⟨⟨12, hS.a (r := 244) rfl, vpk (by omega) (by decide)⟩, fun s6 e6 => ?_⟩
    have l244 : loc 244 n = some (2, 12 + n) := by
      unfold loc
      rw [if_neg (by decide), if_pos rfl, if_pos (by omega)]
    have l444 : loc 444 n = some (2, n) := by
      unfold loc
      rw [if_pos rfl, if_pos (by omega)]
    have X6 : RX N s6 L M O (mI m 2 (nI (12 + n)) a) := by
      rw [e6]
      exact hX.w l244 (rd_I _ _ (by decide) (by omega)) (by omega) (invM_I hX.I k2 k1 (by omega) ⟨fun _ => pI_of ha, by omega, by omega, by omega, by omega, by omega, by omega, by omega, by omega, by omega⟩)
    have S6 := X6.S
    refine ⟨S6.o (r := 0) rfl, v_booksS S6 ⟨S6.o (r := 44) rfl, ?_⟩⟩
    have b44' := S6.2.2.1.2.1 44 (Or.inr (Or.inr (Or.inr (Or.inl rfl))))
    rw [show tR s6 (L 44) 1 = L 444 from b44'.2]
    refine ⟨⟨12, S6.a (r := 444) rfl, vpk (by omega) (by decide)⟩, fun s23 e23 => ?_⟩
    have k2' : (mI m 2 (nI (12 + n)) a).2.1 2 43 = nI told := by
      rw [mI_at _ _ _ (by omega), if_neg (by omega)]
      exact k2
    have X23 : RX N s23 L M O (mI (mI m 2 (nI (12 + n)) a) 2 (nI n) b) := by
      rw [e23]
      exact X6.w l444 (rd_I _ _ (by decide) (by omega)) (by omega) (invM_I X6.I k2' k1 (by omega) ⟨fun _ => pI_of hb, by omega, by omega, by omega, by omega, by omega, by omega, by omega, by omega, by omega⟩)
    have S23 := X23.S
    refine ⟨S23.o (r := 0) rfl, fun d hd => ?_⟩
    have hd' : d = L 40 := hd.trans (S23.t (r := 0) (j := 0) (q := 40) (by decide))
    subst hd'
    refine ⟨S23.o (r := 40) rfl, fun r hr s29 e29 => ?_⟩
    have hr' : r = nI n := by
      rw [hr, X23.many, mI_at _ _ _ (by omega), if_neg (by omega), mI_at _ _ _ (by omega), if_neg (by omega)]
      exact n2
    rw [hr', nI_1] at e29
    have k2'' : (mI (mI m 2 (nI (12 + n)) a) 2 (nI n) b).2.1 2 43 = nI told := by
      rw [mI_at _ _ _ (by omega), if_neg (by omega)]
      exact k2'
    rw [hr']
    refine h1 ha hb nn s29 ?_ ?_
    · rw [addM_n n2, e29]
      exact X23.w (r0 := 40) (j0 := 4) (q0 := 2) (i0 := 41) rfl (rd_I _ _ (by decide) (by decide)) (by omega) (invM_I X23.I k2'' k1 (by decide) ⟨by omega, by omega, by omega, by omega, by omega, fun _ => ⟨n + 1, by omega, rfl⟩, by omega, by omega, by omega, by omega⟩)
    · refine frM_t (s' := s6) ?_ (frM_t (s' := s23) ?_ ?_)
      · rw [e6]
        exact frM_I hX (r := 244) (by decide)
      · rw [e23]
        exact frM_I X6 (r := 444) (by decide)
      · rw [e29]
        exact frM_I X23 (r := 40) (by decide)
  · refine h2 (fun z => ?_) _ (by decide)
    rw [hb] at z
    exact absurd z.2.1 (by decide)
end CO
/-! the pairs -/
def p1 (m : mS) : mS := mF m 6 (m.1 6 + 1)
def stp (V : Nat → Int32) (j : Nat) (p : Nat × mS) : Nat × mS := if isPI (V (2 * j)) = true ∧ isPI (V (2 * j + 1)) = true ∧ ¬ p.2.2.1 2 41 = 12 then (p.1 + 1, mF (addM (V (2 * j)) (V (2 * j + 1)) p.2) 6 (p.2.1 6 + 0)) else (p.1, p1 p.2)
def rowP (V : Nat → Int32) : Nat → Nat → Nat × mS → Nat × mS
  | 0, _, p => p
  | f + 1, j, p => rowP V f (j + 1) (stp V j p)
theorem stp_p1 (V : Nat → Int32) (j c : Nat) (m : mS) : stp V j (c, p1 m) = ((stp V j (c, m)).1, p1 (stp V j (c, m)).2) := by
  unfold stp
  by_cases h : isPI (V (2 * j)) = true ∧ isPI (V (2 * j + 1)) = true ∧ ¬ m.2.1 2 41 = 12
  · rw [if_pos h, if_pos (show isPI (V (2 * j)) = true ∧ isPI (V (2 * j + 1)) = true ∧ ¬ (c, p1 m).2.2.1 2 41 = 12 from h)]
    refine Prod.ext rfl (Prod.ext ?_ rfl)
    show upd (upd m.1 6 (m.1 6 + 1)) 6 (upd m.1 6 (m.1 6 + 1) 6 + 0) = upd (upd m.1 6 (m.1 6 + 0)) 6 (upd m.1 6 (m.1 6 + 0) 6 + 1)
    rw [upd_2, upd_2]
    congr 1
    show (m.1 6 + 1) + 0 = (m.1 6 + 0) + 1
    rw [Int32.add_zero, Int32.add_zero]
  · rw [if_neg h, if_neg (show ¬ (isPI (V (2 * j)) = true ∧ isPI (V (2 * j + 1)) = true ∧ ¬ (c, p1 m).2.2.1 2 41 = 12) from h)]
theorem rowP_p1 (V : Nat → Int32) : ∀ f j c m, rowP V f j (c, p1 m) = ((rowP V f j (c, m)).1, p1 (rowP V f j (c, m)).2)
  | 0, _, _, _ => rfl
  | f + 1, j, c, m => by
    show rowP V f (j + 1) (stp V j (c, p1 m)) = ((rowP V f (j + 1) (stp V j (c, m))).1, p1 (rowP V f (j + 1) (stp V j (c, m))).2)
    rw [stp_p1, rowP_p1 V f (j + 1)]
theorem cE_add {m m1 : mS} (h : cE m m1) (x y : Int32) : cE (addM x y m) (addM x y m1) := by
  unfold addM
  rw [h.2 2 (by decide)]
  exact cE_I (cE_I (cE_I h _ _ _) _ _ _) _ _ _
theorem cE_p1 {m m1 : mS} (h : cE m m1) : cE (p1 m) (p1 m1) := by
  unfold p1
  rw [h.1 6 (by decide)]
  exact cE_F h _ _
theorem cE_stp (V : Nat → Int32) (j c : Nat) {m m1 : mS} (h : cE m m1) : (stp V j (c, m1)).1 = (stp V j (c, m)).1 ∧ cE (stp V j (c, m)).2 (stp V j (c, m1)).2 := by
  have e : m1.2.1 2 41 = m.2.1 2 41 := congrFun (h.2 2 (by decide)) 41
  unfold stp
  show ((if isPI (V (2 * j)) = true ∧ isPI (V (2 * j + 1)) = true ∧ ¬ m1.2.1 2 41 = 12 then (c + 1, mF (addM (V (2 * j)) (V (2 * j + 1)) m1) 6 (m1.1 6 + 0)) else (c, p1 m1)).1 = (if isPI (V (2 * j)) = true ∧ isPI (V (2 * j + 1)) = true ∧ ¬ m.2.1 2 41 = 12 then (c + 1, mF (addM (V (2 * j)) (V (2 * j + 1)) m) 6 (m.1 6 + 0)) else (c, p1 m)).1) ∧ cE (if isPI (V (2 * j)) = true ∧ isPI (V (2 * j + 1)) = true ∧ ¬ m.2.1 2 41 = 12 then (c + 1, mF (addM (V (2 * j)) (V (2 * j + 1)) m) 6 (m.1 6 + 0)) else (c, p1 m)).2 (if isPI (V (2 * j)) = true ∧ isPI (V (2 * j + 1)) = true ∧ ¬ m1.2.1 2 41 = 12 then (c + 1, mF (addM (V (2 * j)) (V (2 * j + 1)) m1) 6 (m1.1 6 + 0)) else (c, p1 m1)).2
  rw [e, h.1 6 (by decide)]
  by_cases q : isPI (V (2 * j)) = true ∧ isPI (V (2 * j + 1)) = true ∧ ¬ m.2.1 2 41 = 12
  · rw [if_pos q, if_pos q]
    exact ⟨rfl, cE_F (cE_add h _ _) _ _⟩
  · rw [if_neg q, if_neg q]
    exact ⟨rfl, cE_p1 h⟩
theorem cE_row (V : Nat → Int32) : ∀ f j c {m m1 : mS}, cE m m1 → (rowP V f j (c, m1)).1 = (rowP V f j (c, m)).1 ∧ cE (rowP V f j (c, m)).2 (rowP V f j (c, m1)).2
  | 0, _, _, _, _, h => ⟨rfl, h⟩
  | f + 1, j, c, m, m1, h => by
    obtain ⟨a, b⟩ := cE_stp V j c h
    have e : stp V j (c, m1) = ((stp V j (c, m)).1, (stp V j (c, m1)).2) := Prod.ext a rfl
    show (rowP V f (j + 1) (stp V j (c, m1))).1 = (rowP V f (j + 1) (stp V j (c, m))).1 ∧ cE (rowP V f (j + 1) (stp V j (c, m))).2 (rowP V f (j + 1) (stp V j (c, m1))).2
    rw [e]
    exact cE_row V f (j + 1) _ b
theorem stp_le (V : Nat → Int32) (j : Nat) (p : Nat × mS) : (stp V j p).1 ≤ p.1 + 1 := by
  unfold stp
  split
  · exact Nat.le_refl _
  · exact Nat.le_succ _
theorem rowP_le (V : Nat → Int32) : ∀ f j p, (rowP V f j p).1 ≤ p.1 + f
  | 0, _, _ => Nat.le_refl _
  | f + 1, j, p => by
    have a := rowP_le V f (j + 1) (stp V j p)
    have b := stp_le V j p
    show (rowP V f (j + 1) (stp V j p)).1 ≤ _
    omega
/-- what stays over a pair -/
theorem stp_o {V : Nat → Int32} {j c : Nat} {m : mS} {n : Nat} (h : m.2.1 2 41 = nI n) (hn : n ≤ 12) : (∃ n', n' ≤ 12 ∧ (stp V j (c, m)).2.2.1 2 41 = nI n') ∧ ∀ q, q ≠ 2 → (stp V j (c, m)).2.2.1 q = m.2.1 q := by
  unfold stp
  by_cases q : isPI (V (2 * j)) = true ∧ isPI (V (2 * j + 1)) = true ∧ ¬ m.2.1 2 41 = 12
  · rw [if_pos q]
    have : n ≠ 12 := fun z => q.2.2 (by rw [h, z]; rfl)
    obtain ⟨a, b, -⟩ := addM_o (x := V (2 * j)) (y := V (2 * j + 1)) h (by omega)
    exact ⟨⟨n + 1, by omega, a⟩, b⟩
  · rw [if_neg q]
    exact ⟨⟨n, hn, h⟩, fun _ _ => rfl⟩
theorem w_addsS {m : mS} {n : Nat} (h : m.2.1 2 41 = nI n) (hn : n < 12) {x y : Int32} {K : mS → Prop} (hK : K (addM x y m)) : w_adds x y m K := by
  unfold w_adds
  rw [addM_n h] at hK
  refine w_manyS h ?_
  rw [show (12 : Int32) + nI n = nI (12 + n) from nI_add 12 n]
  refine ⟨vpk (by omega) (by decide), fun s4 e4 => ?_⟩
  have e41b : s4.2.1 2 41 = nI n := by
    rw [e4, mI_at _ _ _ (by omega), if_neg (by omega)]
    exact h
  refine w_manyS e41b ?_
  rw [nI_0p]
  refine ⟨vpk (by omega) (by decide), fun s8 e8 => ⟨vpk (k := 41) (by decide) (by decide), vpk (k := 41) (by decide) (by decide), fun s11 e11 => ?_⟩⟩
  have e41c : s8.2.1 2 41 = nI n := by
    rw [e8, mI_at _ _ _ (by omega), if_neg (by omega)]
    exact e41b
  rw [show mAt s8 2 41 = nI n from (mAt_n (k := 41) (by decide)).trans e41c, nI_1] at e11
  rw [e11, e8, e4]
  exact hK
