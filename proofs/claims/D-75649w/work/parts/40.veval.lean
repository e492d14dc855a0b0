set_option maxRecDepth 100000
/-! ===== the system's trees: what they mean, and that they tell it ===== -/
/-- a word's place in the system's row of words: its token's code -/
def mpc (io : Bool) (w : Nat) : Nat := if io = true then 17 + w else ([8, 15, 16, 9, 10, 11, 12, 13, 17, 14] : List Nat).getD w 0
section TREE
variable (s : tM) (M : Nat → Prop) (io : Bool) (x : Nat)
def isSum : Nat → Nat → dS → Prop
  | 0, _, _ => False
  | n + 1, a, D => M a ∧ ((tO s 9 a ∧ D = fun _ => some (tI s a 0).toInt64) ∨ (tO s 10 a ∧ ∃ w, w < 10 ∧ (io = true → w < 5) ∧ tI s a 0 = nI w ∧ D = fun e => some (e (mpc io w))) ∨ (tO s 11 a ∧ io = true ∧ tR s a 2 = x ∧ ∃ k, k < 12 ∧ tI s a 1 = nI k ∧ ((tI s a 0 = 5 ∧ D = fun e => some (e (100 + k))) ∨ (tI s a 0 = 6 ∧ D = fun e => some (e (200 + k))))) ∨ (tO s 12 a ∧ ∃ c D1 D2, isSum n (tR s a 0) D1 ∧ isSum n (tR s a 1) D2 ∧ (c = 143 ∨ c = 145 ∨ c = 142 ∨ c = 147 ∨ c = 137) ∧ tI s a 2 = c - 100 ∧ D = jD c D1 D2))
def rowD (all : Bool) : List dT → dT
  | [] => fun _ => some all
  | D :: Ds => fun e => match D e with
    | none => none
    | some b => if b = all then rowD all Ds e else some (!all)
def isTest : Nat → Nat → dT → Prop
  | 0, _, _ => False
  | n + 1, a, D => M a ∧ ((tO s 14 a ∧ ∃ c D1 D2, isSum s M io x 60 (tR s a 0) D1 ∧ isSum s M io x 60 (tR s a 1) D2 ∧ (c = 160 ∨ c = 161 ∨ c = 162) ∧ tI s a 2 = c - 100 ∧ D = cD c D1 D2) ∨ (tO s 15 a ∧ ∃ D1, isTest n (tR s a 0) D1 ∧ D = nD true D1) ∨ (tO s 16 a ∧ ∃ all Ds, tI s a 0 = bI all ∧ M (tR s a 1) ∧ tA s 7 Ds.length (tR s a 1) ∧ Ds.length ≤ 50 ∧ (∀ k (hk : k < Ds.length), isTest n (tR s (tR s a 1) k) Ds[k]) ∧ D = rowD all Ds))
end TREE
theorem isSum_up {s : tM} {M : Nat → Prop} {io : Bool} {x : Nat} : ∀ n m a D, n ≤ m → isSum s M io x n a D → isSum s M io x m a D := by
  intro n
  induction n with
  | zero => exact fun m a D _ h => h.elim
  | succ n ih =>
    intro m a D hm h
    obtain ⟨m, rfl⟩ : ∃ u, m = u + 1 := ⟨m - 1, by omega⟩
    refine ⟨h.1, ?_⟩
    rcases h.2 with h | h | h | ⟨h1, c, D1, D2, h2, h3, h4⟩
    · exact Or.inl h
    · exact Or.inr (Or.inl h)
    · exact Or.inr (Or.inr (Or.inl h))
    · exact Or.inr (Or.inr (Or.inr ⟨h1, c, D1, D2, ih _ _ _ (by omega) h2, ih _ _ _ (by omega) h3, h4⟩))
theorem isTest_up {s : tM} {M : Nat → Prop} {io : Bool} {x : Nat} : ∀ n m a D, n ≤ m → isTest s M io x n a D → isTest s M io x m a D := by
  intro n
  induction n with
  | zero => exact fun m a D _ h => h.elim
  | succ n ih =>
    intro m a D hm h
    obtain ⟨m, rfl⟩ : ∃ u, m = u + 1 := ⟨m - 1, by omega⟩
    refine ⟨h.1, ?_⟩
    rcases h.2 with h | ⟨h1, D1, h2, h3⟩ | ⟨h1, all, Ds, h2, h3, h4, h5, h6, h7⟩
    · exact Or.inl h
    · exact Or.inr (Or.inl ⟨h1, D1, ih _ _ _ (by omega) h2, h3⟩)
    · exact Or.inr (Or.inr ⟨h1, all, Ds, h2, h3, h4, h5, fun k hk => ih _ _ _ (by omega) (h6 k hk), h7⟩)
/-- the cells of M are as they were -/
def mFr (M : Nat → Prop) (s s' : tM) : Prop := ∀ a, M a → s'.1 a = s.1 a ∧ s'.2.1 a = s.2.1 a ∧ s'.2.2.2 a = s.2.2.2 a
theorem mFr_r (M : Nat → Prop) (s : tM) : mFr M s s := fun _ _ => ⟨rfl, rfl, rfl⟩
theorem mFr_t {M : Nat → Prop} {s s' s2 : tM} (h : mFr M s s') (h2 : mFr M s' s2) : mFr M s s2 := fun a ha => ⟨(h2 a ha).1.trans (h a ha).1, (h2 a ha).2.1.trans (h a ha).2.1, (h2 a ha).2.2.trans (h a ha).2.2⟩
theorem mFr_O {M : Nat → Prop} {s s' : tM} {c a : Nat} (h : mFr M s s') (ha : M a) (ho : tO s c a) : tO s' c a := ⟨by rw [(h a ha).1]; exact ho.1, ho.2⟩
theorem mFr_A {M : Nat → Prop} {s s' : tM} {t n a : Nat} (h : mFr M s s') (ha : M a) (ho : tA s t n a) : tA s' t n a := ⟨by rw [(h a ha).1]; exact ho.1, ho.2⟩
theorem isSum_fr {s s' : tM} {M M' : Nat → Prop} {io : Bool} {x : Nat} (h : mFr M s s') (hM : ∀ a, M a → M' a) : ∀ n a D, isSum s M io x n a D → isSum s' M' io x n a D := by
  intro n
  induction n with
  | zero => exact fun a D h => h.elim
  | succ n ih =>
    intro a D hs
    obtain ⟨ha, hs⟩ := hs
    have hf := h a ha
    have tI' : ∀ j, tI s' a j = tI s a j := fun j => congrFun hf.2.1 j
    have tR' : ∀ j, tR s' a j = tR s a j := fun j => congrFun hf.2.2 j
    refine ⟨hM a ha, ?_⟩
    rw [tI', tI', tI', tR', tR', tR']
    rcases hs with ⟨h1, h2⟩ | ⟨h1, h2⟩ | ⟨h1, h2⟩ | ⟨h1, c, D1, D2, h2, h3, h4⟩
    · exact Or.inl ⟨mFr_O h ha h1, h2⟩
    · exact Or.inr (Or.inl ⟨mFr_O h ha h1, h2⟩)
    · exact Or.inr (Or.inr (Or.inl ⟨mFr_O h ha h1, h2⟩))
    · exact Or.inr (Or.inr (Or.inr ⟨mFr_O h ha h1, c, D1, D2, ih _ _ h2, ih _ _ h3, h4⟩))
theorem isTest_fr {s s' : tM} {M M' : Nat → Prop} {io : Bool} {x : Nat} (h : mFr M s s') (hM : ∀ a, M a → M' a) : ∀ n a D, isTest s M io x n a D → isTest s' M' io x n a D := by
  intro n
  induction n with
  | zero => exact fun a D h => h.elim
  | succ n ih =>
    intro a D hs
    obtain ⟨ha, hs⟩ := hs
    have hf := h a ha
    have tI' : ∀ j, tI s' a j = tI s a j := fun j => congrFun hf.2.1 j
    have tR' : ∀ j, tR s' a j = tR s a j := fun j => congrFun hf.2.2 j
    refine ⟨hM a ha, ?_⟩
    rw [tI', tI', tR', tR']
    rcases hs with ⟨h1, c, D1, D2, h2, h3, h4⟩ | ⟨h1, D1, h2, h3⟩ | ⟨h1, all, Ds, h2, h3, h4, h5, h6, h7⟩
    · exact Or.inl ⟨mFr_O h ha h1, c, D1, D2, isSum_fr h hM _ _ _ h2, isSum_fr h hM _ _ _ h3, h4⟩
    · exact Or.inr (Or.inl ⟨mFr_O h ha h1, D1, ih _ _ h2, h3⟩)
    · refine Or.inr (Or.inr ⟨mFr_O h ha h1, all, Ds, h2, hM _ h3, mFr_A h h3 h4, h5, fun k hk => ?_, h7⟩)
      have e1 : tR s' (tR s a 1) k = tR s (tR s a 1) k := congrFun (h _ h3).2.2 k
      rw [e1]
      exact ih _ _ (h6 k hk)
/-- whether what is asked is broken, written -/
abbrev bk (s : tM) (c : Nat) (b : Int32) : tM := tsI s c 1 b
theorem bk_at (s : tM) (c : Nat) (b : Int32) : tI (bk s c b) c 1 = b := if_pos ⟨rfl, rfl⟩
theorem bk_o {s : tM} {c a : Nat} (b : Int32) (j : Nat) (h : a ≠ c) : tI (bk s c b) a j = tI s a j := if_neg (fun z => h z.1)
theorem bk_bk (s : tM) (c : Nat) (b b2 : Int32) : tsI (bk s c b) c 1 b2 = bk s c b2 := by
  refine Prod.ext rfl (Prod.ext (funext fun a => funext fun j => ?_) rfl)
  show (if a = c ∧ j = 1 then b2 else if a = c ∧ j = 1 then b else s.2.1 a j) = (if a = c ∧ j = 1 then b2 else s.2.1 a j)
  by_cases h : a = c ∧ j = 1
  · rw [if_pos h, if_pos h]
  · rw [if_neg h, if_neg h, if_neg h]
theorem tO_ne {s : tM} {c1 c2 a b : Nat} (h1 : tO s c1 a) (h2 : tO s c2 b) (hc : c1 ≠ c2) : a ≠ b := fun e => by
  subst e
  have := h1.1.symm.trans h2.1
  injection this with this
  injection this with this
  exact hc this
/-- what is asked tells e -/
def envA (s : tM) (x c : Nat) (io : Bool) (e : Nat → Int64) : Prop := tO s 4 c ∧ tA s 1 10 (tR s c 0) ∧ (∀ w, w < 10 → (io = true → w < 5) → e (mpc io w) = tJ s (tR s c 0) w) ∧ (io = true → ∀ (a k : Nat) (b : Int32) (K : Int64 → tM → Prop), k < 12 → tO s 11 a → a ≠ c → tR s a 2 = x → tI s a 1 = nI k → (tI s a 0 = 5 → K (e (100 + k)) (bk s c b) → v_X13_of a c (bk s c b) K) ∧ (tI s a 0 = 6 → K (e (200 + k)) (bk s c b) → v_X13_of a c (bk s c b) K))
section VE
variable {N : tP} {s : tM} {M : Nat → Prop} {io : Bool} {x c : Nat} {e : Nat → Int64}
theorem v_withinS {v : Int64} {K : Int64 → tM → Prop} (hc : tO s 4 c) (h1 : ∀ w, wiO v = some w → K w (bk s c 0)) (h2 : wiO v = none → K 0 (bk s c 1)) : v_X4_within c v (bk s c 0) K := by
  have e1 : tI (bk s c 0) c 1 = 0 := bk_at s c 0
  have h24 : K 0 (bk s c 1) → v_X4_within_24 c v c K (bk s c 0) := fun hk => by
    unfold v_X4_within_24 v_X4_within_29
    refine ⟨hc, xB1, fun s3 e3 => ?_⟩
    rw [bk_bk] at e3
    subst e3
    rw [bk_at]
    exact ⟨hc, fun z => absurd z (by decide), fun _ => hk⟩
  unfold v_X4_within
  rw [e1, lgc_pos, lgc_nneg]
  refine ⟨hc, fun z => absurd rfl z, fun _ => ⟨fun z => h24 (h2 (if_pos (Or.inl z))), fun z => ⟨fun z2 => ?_, fun z2 => h24 (h2 (if_pos (Or.inr ?_)))⟩⟩⟩
  · unfold v_X4_within_29
    refine ⟨hc, xB0, fun s3 e3 => ?_⟩
    rw [bk_bk] at e3
    subst e3
    rw [bk_at]
    refine ⟨hc, fun _ => h1 v (if_neg ?_), fun z => absurd rfl z⟩
    rintro (z3 | z3)
    · exact z z3
    · simp only [Int64.lt_iff_toInt_lt, Int64.le_iff_toInt_le] at z3 z2
      omega
  · simp only [Int64.lt_iff_toInt_lt, Int64.le_iff_toInt_le] at z2 ⊢
    omega
theorem v_sumS (hE : envA s x c io e) : ∀ n a D, isSum s M io x n a D → ∀ t, 2 * n ≤ t → ∀ K : Int64 → tM → Prop, (∀ v, D e = some v → K v (bk s c 0)) → (D e = none → K 0 (bk s c 1)) → r_U_sum N t 0 a c (bk s c 0) K := by
  obtain ⟨hc, hnb, hw, hof⟩ := hE
  intro n
  induction n with
  | zero => exact fun a D h => h.elim
  | succ n ih =>
    intro a D hs t ht K h1 h2
    obtain ⟨t, rfl⟩ : ∃ u, t = u + 1 + 1 := ⟨t - 2, by omega⟩
    obtain ⟨ha, hs⟩ := hs
    have shp : ∀ {ci j : Nat}, tO s ci a → ci ≠ 4 → tI (bk s c 0) a j = tI s a j := fun ho hne => bk_o 0 _ (tO_ne ho hc hne)
    rcases hs with ⟨o, rfl⟩ | ⟨o, w, hw10, hw5, ew, rfl⟩ | ⟨o, hi, er, k, hk, ek, hD⟩ | ⟨o, cc, D1, D2, s1, s2, hcc, e2, rfl⟩
    · refine Or.inl ⟨o, o, ?_⟩
      rw [shp o (by decide)]
      exact h1 _ rfl
    · refine Or.inr (Or.inl ⟨o, hc, o, ?_⟩)
      rw [shp o (by decide), ew]
      refine ⟨⟨10, hnb, vp_in_nI hw10 (by decide)⟩, ?_⟩
      rw [nI_clamp (by omega)]
      have := h1 _ rfl
      rw [hw w hw10 hw5] at this
      exact this
    · have hne := tO_ne o hc (by decide)
      refine Or.inr (Or.inr (Or.inl ⟨o, ?_⟩))
      rcases hD with ⟨e0, rfl⟩ | ⟨e0, rfl⟩
      · exact (hof hi a k 0 K hk o hne er ek).1 e0 (h1 _ rfl)
      · exact (hof hi a k 0 K hk o hne er ek).2 e0 (h1 _ rfl)
    · refine Or.inr (Or.inr (Or.inr ⟨o, ?_⟩))
      show v_X14_of N (r_U_sum N t) a c (bk s c 0) K
      unfold v_X14_of
      have h28b : ∀ p q, K 0 (bk s c 1) → v_X14_of_28 N (r_U_sum N t) a c p q K (bk s c 1) := fun p q hk => by
        unfold v_X14_of_28
        rw [bk_at]
        exact ⟨hc, fun z => absurd z (by decide), fun _ => hk⟩
      have c47 : (cc - 100 = 47) ↔ cc = 147 := by
        rcases hcc with rfl | rfl | rfl | rfl | rfl <;> decide
      have c37 : (cc - 100 = 37) ↔ cc = 137 := by
        rcases hcc with rfl | rfl | rfl | rfl | rfl <;> decide
      have c43 : (cc - 100 = 43) ↔ cc = 143 := by
        rcases hcc with rfl | rfl | rfl | rfl | rfl <;> decide
      have c45 : (cc - 100 = 45) ↔ cc = 145 := by
        rcases hcc with rfl | rfl | rfl | rfl | rfl <;> decide
      refine ⟨o, ih _ _ s1 t (by omega) _ (fun p hp1 => ?_) (fun hn1 => ?_) ⟩
      · rw [bk_at]
        refine ⟨hc, fun _ => ⟨o, ih _ _ s2 t (by omega) _ (fun q hq1 => ?_) (fun hn2 => ?_) ⟩, fun z => absurd rfl z⟩
        · have hj : jD cc D1 D2 e = if cc = 147 ∨ cc = 137 then (if q = 0 then none else some (if cc = 147 then p / q else p - p / q * q)) else wiO (if cc = 143 then p + q else if cc = 145 then p - q else p * q) := by
            unfold jD
            rw [hp1]
            dsimp only
            rw [hq1]
          rw [hj] at h1 h2
          have h57 : cc = 147 ∨ cc = 137 → v_X14_of_57 N (r_U_sum N t) a c p q K (bk s c 0) := fun hq => by
            rw [if_pos hq] at h1 h2
            unfold v_X14_of_57
            rw [lgc_z]
            have h70 : ∀ y1, xB y1 → (q = 0 ∧ y1 = 1 ∨ ¬ q = 0 ∧ y1 = 0) → v_X14_of_70 N (r_U_sum N t) a p q c y1 K (bk s c 0) := fun y1 hy hy1 => by
              unfold v_X14_of_70
              refine ⟨hc, hy, fun s3 e3 => ?_⟩
              rw [bk_bk] at e3
              subst e3
              rw [lgc_z]
              have hne : tI (bk s c y1) a 2 = cc - 100 := (bk_o y1 2 (tO_ne o hc (by decide))).trans e2
              rw [hne, c47]
              rcases hy1 with ⟨q0, rfl⟩ | ⟨q0, rfl⟩
              · rw [if_pos q0] at h2
                exact ⟨fun z => absurd q0 z, fun _ => h2 rfl⟩
              · rw [if_neg q0] at h1
                refine ⟨fun _ => ⟨o, fun n47 => ⟨q0, ?_⟩, fun y47 => ⟨q0, ?_⟩⟩, fun z => absurd z q0⟩
                · rw [if_neg n47] at h1
                  exact h1 _ rfl
                · rw [if_pos y47] at h1
                  exact h1 _ rfl
            exact ⟨fun n0 => h70 0 xB0 (Or.inr ⟨n0, rfl⟩), fun y0 => h70 1 xB1 (Or.inl ⟨y0, rfl⟩)⟩
          unfold v_X14_of_28
          rw [bk_at]
          refine ⟨hc, fun _ => ⟨o, ?_⟩, fun z => absurd rfl z⟩
          have hne : tI (bk s c 0) a 2 = cc - 100 := (shp o (by decide)).trans e2
          rw [hne, c47, c37, c43, c45]
          refine ⟨fun y47 => h57 (Or.inl y47), fun n47 => ⟨fun n37 => ?_, fun y37 => h57 (Or.inr y37)⟩⟩
          rw [if_neg (fun z => z.elim n47 n37)] at h1 h2
          refine ⟨fun n43 => ⟨fun n45 => ?_, fun y45 => ?_⟩, fun y43 => ?_⟩
          · rw [if_neg n43, if_neg n45] at h1 h2
            exact v_withinS hc h1 h2
          · rw [if_neg n43, if_pos y45] at h1 h2
            exact v_withinS hc h1 h2
          · rw [if_pos y43] at h1 h2
            exact v_withinS hc h1 h2
        · refine h28b _ _ (h2 ?_)
          unfold jD
          rw [hp1]
          dsimp only
          rw [hn2]
      · rw [bk_at]
        refine ⟨hc, fun z => absurd z (by decide), fun _ => h28b _ _ (h2 ?_)⟩
        unfold jD
        rw [hn1]
theorem rowD_c {all : Bool} {D : dT} {Ds : List dT} : rowD all (D :: Ds) = fun e => match D e with
  | none => none
  | some b => if b = all then rowD all Ds e else some (!all) := rfl
theorem v_testS (hN : 120 ≤ N.2.1) (hE : envA s x c io e) (hN1 : 60 ≤ N.1) : ∀ n a D, isTest s M io x n a D → ∀ t, 2 * n ≤ t → ∀ K : Int32 → tM → Prop, (∀ v, D e = some v → K (bI v) (bk s c 0)) → (D e = none → K 0 (bk s c 1)) → r_U_test N t 0 a c (bk s c 0) K := by
  have hE2 := hE
  obtain ⟨hc, hnb, hw, hof⟩ := hE2
  intro n
  induction n with
  | zero => exact fun a D h => h.elim
  | succ n ih =>
    intro a D hs t ht K h1 h2
    obtain ⟨t, rfl⟩ : ∃ u, t = u + 1 + 1 := ⟨t - 2, by omega⟩
    obtain ⟨ha, hs⟩ := hs
    have shp : ∀ {ci j : Nat} (b : Int32), tO s ci a → ci ≠ 4 → tI (bk s c b) a j = tI s a j := fun b ho hne => bk_o b _ (tO_ne ho hc hne)
    rcases hs with ⟨o, cc, D1, D2, s1, s2, hcc, e2, rfl⟩ | ⟨o, D1, s1, rfl⟩ | ⟨o, all, Ds, eall, mA, oA, hl, hds, rfl⟩
    · refine Or.inl ⟨o, ?_⟩
      unfold v_X17_of
      have h28b : ∀ p q, K 0 (bk s c 1) → v_X17_of_28 N a c p q K (bk s c 1) := fun p q hk => by
        unfold v_X17_of_28
        rw [bk_at]
        exact ⟨hc, fun _ => hk, fun z => absurd z (by decide)⟩
      have c60 : (cc - 100 = 60) ↔ cc = 160 := by
        rcases hcc with rfl | rfl | rfl <;> decide
      have c62 : (cc - 100 = 62) ↔ cc = 162 := by
        rcases hcc with rfl | rfl | rfl <;> decide
      refine ⟨o, v_sumS hE 60 _ _ s1 N.2.1 hN _ (fun p hp1 => ?_) (fun hn1 => ?_)⟩
      · rw [bk_at]
        refine ⟨hc, fun _ => ⟨o, v_sumS hE 60 _ _ s2 N.2.1 hN _ (fun q hq1 => ?_) (fun hn2 => ?_)⟩, fun z => absurd rfl z⟩
        · have hj : cD cc D1 D2 e = some (if cc = 160 then decide (p < q) else if cc = 162 then decide (q < p) else decide (p = q)) := by
            unfold cD
            rw [hp1]
            dsimp only
            rw [hq1]
          have hk := h1 _ hj
          unfold v_X17_of_28
          rw [bk_at]
          have hne : tI (bk s c 0) a 2 = cc - 100 := (shp 0 o (by decide)).trans e2
          rw [hne, c60, c62, lgc_z, lgc_npos, lgc_nneg]
          refine ⟨hc, fun z => absurd rfl z, fun _ => ⟨o, fun n60 => ⟨fun n62 => ⟨fun ne => ?_, fun eq => ?_⟩, fun y62 => ⟨fun le => ?_, fun gt => ?_⟩⟩, fun y60 => ⟨fun ge => ?_, fun lt => ?_⟩⟩⟩
          · rw [if_neg n60, if_neg n62, decide_eq_false ne] at hk
            exact hk
          · rw [if_neg n60, if_neg n62, decide_eq_true eq] at hk
            exact hk
          · rw [if_neg n60, if_pos y62, decide_eq_false (by simp only [Int64.lt_iff_toInt_lt, Int64.le_iff_toInt_le] at le ⊢; omega)] at hk
            exact hk
          · rw [if_neg n60, if_pos y62, decide_eq_true (by simp only [Int64.lt_iff_toInt_lt, Int64.le_iff_toInt_le] at gt ⊢; omega)] at hk
            exact hk
          · rw [if_pos y60, decide_eq_false (by simp only [Int64.lt_iff_toInt_lt, Int64.le_iff_toInt_le] at ge ⊢; omega)] at hk
            exact hk
          · rw [if_pos y60, decide_eq_true (by simp only [Int64.lt_iff_toInt_lt, Int64.le_iff_toInt_le] at lt ⊢; omega)] at hk
            exact hk
        · refine h28b _ _ (h2 ?_)
          unfold cD
          rw [hp1]
          dsimp only
          rw [hn2]
      · rw [bk_at]
        refine ⟨hc, fun z => absurd z (by decide), fun _ => h28b _ _ (h2 ?_)⟩
        unfold cD
        rw [hn1]
    · refine Or.inr (Or.inl ⟨o, ?_⟩)
      show v_X18_of N (r_U_test N t) a c (bk s c 0) K
      unfold v_X18_of
      refine ⟨o, ih _ _ s1 t (by omega) _ (fun v hv => ?_) (fun hn => ?_)⟩
      · have hj : nD true D1 e = some (true != v) := by
          unfold nD
          rw [hv]
          rfl
        have hk := h1 _ hj
        rw [bk_at]
        cases v with
        | true => exact ⟨fun _ => hk, fun z => absurd z (by decide)⟩
        | false => exact ⟨fun z => absurd rfl z, fun _ => ⟨hc, fun z => absurd rfl z, fun _ => hk⟩⟩
      · have hk := h2 (by unfold nD; rw [hn]; rfl)
        rw [bk_at]
        exact ⟨fun _ => hk, fun _ => ⟨hc, fun _ => hk, fun z => absurd z (by decide)⟩⟩
    · refine Or.inr (Or.inr ⟨o, ?_⟩)
      show v_X19_of N (r_U_test N t) a c (bk s c 0) K
      unfold v_X19_of
      refine ⟨o, fun ar har => ⟨⟨Ds.length, by rw [har]; exact oA⟩, fun len hlen => ?_⟩⟩
      have har' : ar = tR s a 1 := har
      have hlen' : len = nI Ds.length := by
        rw [hlen, har']
        show Int32.ofNat (match s.1 (tR s a 1) with
          | some (.inr (_, n)) => n
          | _ => 0) = _
        rw [oA.1]
        rfl
      subst har' hlen'
      have loop : ∀ (Es : List dT) (k u : Nat), k + Es.length = Ds.length → (∀ i (hi : i < Es.length), Ds[k + i]? = some Es[i]) → Es.length + 1 ≤ u → (∀ v, rowD all Es e = some v → K (bI v) (bk s c 0)) → (rowD all Es e = none → K 0 (bk s c 1)) → v_X19_of_11 N (r_U_test N t) a c (tR s a 1) (nI Ds.length) K (fun s105 => tO s105 16 a ∧ xB (tI s105 a 0) ∧ K (tI s105 a 0) s105) u (nI k) (bk s c 0) := by
        intro Es
        induction Es with
        | nil =>
          intro k u hk hg hu g1 g2
          obtain ⟨u, rfl⟩ : ∃ v, u = v + 1 := ⟨u - 1, by omega⟩
          have e1 : k = Ds.length := hk
          subst e1
          simp only [v_X19_of_11]
          have e3 : tI (bk s c 0) a 0 = bI all := (shp 0 o (by decide)).trans eall
          refine ⟨fun _ => ⟨o, ?_, ?_⟩, fun z => absurd (nI_le (Nat.le_refl _) (by omega)) z⟩
          · rw [e3]
            exact bI_x all
          · rw [e3]
            exact g1 all rfl
        | cons E Es ihl =>
          intro k u hk hg hu g1 g2
          have hl2 : (E :: Es).length = Es.length + 1 := rfl
          rw [hl2] at hk hu
          obtain ⟨u, rfl⟩ : ∃ v, u = v + 1 := ⟨u - 1, by omega⟩
          simp only [v_X19_of_11]
          rw [nI_leI (by omega) (by omega), nI_clamp (by omega)]
          have hkl : k < Ds.length := by omega
          have hE0 : Ds[k] = E := by
            have := hg 0 (by rw [hl2]; omega)
            rw [Nat.add_zero, List.getElem?_eq_getElem hkl] at this
            exact Option.some.inj this
          refine ⟨fun z => by omega, fun _ => ⟨⟨_, oA, vp_in_nI hkl (by omega)⟩, fun ad had => ?_⟩⟩
          have had' : ad = tR s (tR s a 1) k := had
          subst had'
          rw [rowD_c] at g1 g2
          dsimp only at g1 g2
          have e3 : ∀ b, tI (bk s c b) a 0 = bI all := fun b => (shp b o (by decide)).trans eall
          refine ih _ _ (hds k hkl) t (by omega) _ (fun v hv => ?_) (fun hn => ?_)
          · rw [hE0] at hv
            rw [hv] at g1 g2
            dsimp only at g1 g2
            rw [bk_at, e3]
            refine ⟨hc, fun _ => ⟨o, fun y => ?_, fun ny => ?_⟩, fun z => absurd rfl z⟩
            · have hva : v = all := by
                cases v <;> cases all <;> first | rfl | exact absurd y (by decide)
              intro x' hx'
              rw [nI_1] at hx'
              subst hx'
              rw [if_pos hva] at g1 g2
              refine ihl (k + 1) u (by omega) (fun i hi => ?_) (by omega) g1 g2
              have := hg (i + 1) (by rw [hl2]; omega)
              rw [show k + 1 + i = k + (i + 1) by omega]
              exact this
            · have hva : ¬ v = all := fun z => ny (by rw [z])
              rw [if_neg hva] at g1
              have := g1 _ rfl
              cases all with
              | true => exact ⟨fun _ => this, fun z => absurd z (by decide)⟩
              | false => exact ⟨fun z => absurd rfl z, fun _ => this⟩
          · rw [hE0] at hn
            rw [hn] at g2
            rw [bk_at]
            exact ⟨hc, fun z => absurd z (by decide), fun _ => g2 rfl⟩
      exact loop Ds 0 N.1 (by omega) (fun i hi => by rw [Nat.zero_add]; exact List.getElem?_eq_getElem hi) (by omega) h1 h2
end VE
