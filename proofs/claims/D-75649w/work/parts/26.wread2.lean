set_option maxRecDepth 100000
/-! ===== the reference's reading: recursion, clauses, the whole text ===== -/
section RD3
variable {N : Nat × Nat} {s : mS} {T : Nat} {cd vl pl : Nat → Int32} {io : Bool}
theorem r_termBad {rc : Nat → Int32 → mS → (mS → Prop) → Prop} {x t l b : Int32} {Kr K : mS → Prop} {n : Nat} (hn : 1 ≤ n) (hb : ¬ b = -1) (h : K (pv s t l b)) : w_readTerm_5 N rc x Kr K n (pv s t l b) := by
  obtain ⟨n, rfl⟩ : ∃ u, n = u + 1 := ⟨n - 1, by omega⟩
  simp only [w_readTerm_5, w_sign]
  exact p_takesB hb ⟨fun z => absurd rfl z, fun _ => p_takesB hb ⟨fun z => absurd rfl z, fun _ => p_takesB hb ⟨fun _ => h, fun z => absurd rfl z⟩⟩⟩
theorem r_sumBad {rc : Nat → Int32 → mS → (mS → Prop) → Prop} {x t l b : Int32} {Kr K : mS → Prop} {n : Nat} (hn : 1 ≤ n) (hb : ¬ b = -1) (h : K (pv s t l b)) : w_readSum_5 N rc x Kr K n (pv s t l b) := by
  obtain ⟨n, rfl⟩ : ∃ u, n = u + 1 := ⟨n - 1, by omega⟩
  simp only [w_readSum_5, w_sign]
  exact p_takesB hb ⟨fun z => absurd rfl z, fun _ => p_takesB hb ⟨fun _ => h, fun z => absurd rfl z⟩⟩
theorem r_bothBad {rc : Nat → Int32 → mS → (mS → Prop) → Prop} {x t l b : Int32} {Kr K : mS → Prop} {n : Nat} (hn : 1 ≤ n) (hb : ¬ b = -1) (h : K (pv s t l b)) : w_readBoth_5 N rc x Kr K n (pv s t l b) := by
  obtain ⟨n, rfl⟩ : ∃ u, n = u + 1 := ⟨n - 1, by omega⟩
  simp only [w_readBoth_5]
  exact p_takesB hb ⟨fun _ => h, fun z => absurd rfl z⟩
theorem r_testBad {rc : Nat → Int32 → mS → (mS → Prop) → Prop} {x t l b : Int32} {Kr K : mS → Prop} {n : Nat} (hn : 1 ≤ n) (hb : ¬ b = -1) (h : K (pv s t l b)) : w_readTest_5 N rc x Kr K n (pv s t l b) := by
  obtain ⟨n, rfl⟩ : ∃ u, n = u + 1 := ⟨n - 1, by omega⟩
  simp only [w_readTest_5]
  exact p_takesB hb ⟨fun _ => h, fun z => absurd rfl z⟩
theorem r_term (hN : 401 ≤ N.1) (hC : tkP s T cd vl pl) {x : Int32} {t dp : Nat} (hp : rIt (g_readTest N t) 5 x s T pl (pPart cd vl io dp)) : rIt (g_readTest N (t + 1)) 4 x s T pl (pTerm cd vl io dp) := by
  intro i l K hi hl h
  have hm := pM_part (vl := vl) (io := io) hC.2.2.1 dp
  show w_readTerm N (g_readTest N t) x (pv s (nI i) (nI l) (-1)) K
  unfold w_readTerm
  refine hp i l _ hi hl (rQ_b h (fun z hz q => ?_) (fun e t' l' he hk => r_termBad (by omega) (hC.2.2.2 e) hk))
  have hm1 := (hm i l hi).2 z hz
  have hT := hC.1
  exact r_termLoop hC hm hp 401 N.1 z.1 z.2.1 z.2.2 hm1.2.1 (hm1.2.2.2 hl) (by omega) hN K K q
theorem r_sum (hN : 401 ≤ N.1) (hC : tkP s T cd vl pl) {x : Int32} {t dp : Nat} (hp : rIt (g_readTest N t) 5 x s T pl (pPart cd vl io dp)) : rIt (g_readTest N (t + 2)) 3 x s T pl (pSum cd vl io dp) := by
  intro i l K hi hl h
  have hm := pM_term (vl := vl) (io := io) hC.2.2.1 dp
  have hp2 := r_term hN hC hp
  show w_readSum N (g_readTest N (t + 1)) x (pv s (nI i) (nI l) (-1)) K
  unfold w_readSum
  refine hp2 i l _ hi hl (rQ_b h (fun z hz q => ?_) (fun e t' l' he hk => r_sumBad (by omega) (hC.2.2.2 e) hk))
  have hm1 := (hm i l hi).2 z hz
  have hT := hC.1
  exact r_sumLoop hC hm hp2 401 N.1 z.1 z.2.1 z.2.2 hm1.2.1 (hm1.2.2.2 hl) (by omega) hN K K q
theorem r_part (hN : 401 ≤ N.1) (hC : tkP s T cd vl pl) (hW : wdR s io) : ∀ dp, dp ≤ 8 → ∀ t, 3 * dp + 1 ≤ t → rIt (g_readTest N t) 5 (nI (8 - dp)) s T pl (pPart cd vl io dp) := by
  have e2 : ∀ i l, i ≤ T → mAt (pv s (nI i) (nI l) (-1)) 15 (nI i) = cd i := fun i l hi => by
    have hT := hC.1
    show s.2.1 15 (nI i).toNatClampNeg = cd i
    rw [nI_clamp (by omega)]
    exact (hC.2.1 i hi).1
  intro dp
  induction dp with
  | zero =>
    intro _ t ht i l K hi hl h
    have hT := hC.1
    obtain ⟨t, rfl⟩ : ∃ u, t = u + 1 := ⟨t - 1, by omega⟩
    show w_readPart N (g_readTest N t) (nI 8) (pv s (nI i) (nI l) (-1)) K
    rw [pPart_0] at h
    by_cases hc : cd i = 191
    · rw [if_pos hc] at h
      unfold w_readPart
      refine p_fine ⟨fun _ => ?_, fun z => absurd z (by decide)⟩
      rw [pv_19, e2 i l hi]
      refine ⟨vp_in_nI (by omega) (by decide), fun x' ex => ?_⟩
      subst ex
      simp only [w_sign, qq191]
      refine ⟨fun z => absurd hc z, fun _ => ⟨fun z => absurd rfl z, fun _ => p_faults hC hi ?_⟩⟩
      unfold w_readPart_37
      exact p_fineB (hC.2.2.2 i) ⟨fun z => absurd rfl z, fun _ => h.2 i rfl _ _⟩
    · rw [if_neg hc] at h
      exact r_leaf hC hW hi hl hc h
  | succ dp ih =>
    intro hdp t ht i l K hi hl h
    have hT := hC.1
    obtain ⟨t, rfl⟩ : ∃ u, t = u + 2 + 1 := ⟨t - 3, by omega⟩
    show w_readPart N (g_readTest N (t + 2)) (nI (8 - (dp + 1))) (pv s (nI i) (nI l) (-1)) K
    rw [pPart_s] at h
    by_cases hc : cd i = 191
    · rw [if_pos hc] at h
      have hlt := cd_lt hC.2.2.1 hc (by decide)
      have hd : nI (8 - (dp + 1)) + 1 = nI (8 - dp) := by
        rw [nI_1]
        congr 1
        omega
      unfold w_readPart
      refine p_fine ⟨fun _ => ?_, fun z => absurd z (by decide)⟩
      rw [pv_19, e2 i l hi]
      refine ⟨vp_in_nI (by omega) (by decide), fun x' ex => ?_⟩
      subst ex
      simp only [w_sign, qq191]
      refine ⟨fun z => absurd hc z, fun _ => ⟨fun _ => ?_, fun z => ?_⟩⟩
      · unfold w_readPart_37
        refine p_fine ⟨fun _ s' e' => ?_, fun z => absurd z (by decide)⟩
        rw [pv_19, pv_w19, ← nI_succ] at e'
        subst e'
        simp only [w_sign, qq193]
        rw [hd]
        refine r_sum hN hC (ih (by omega) t (by omega)) (i + 1) l _ hlt hl (rQ_b h (fun z hz q => ?_) (fun e t' l' he hk => p_mustB (hC.2.2.2 e) hk))
        have hm1 := (pM_sum (vl := vl) (io := io) hC.2.2.1 dp (i + 1) l hlt).2 z hz
        refine p_must hC hm1.2.1 (fun c => ?_) (fun c => ?_)
        · rw [if_pos c] at q
          exact q.1 _ rfl
        · rw [if_neg c] at q
          exact q.2 _ rfl _ _
      · exfalso
        have := congrArg Int32.toInt z
        rw [nI_toInt (by omega)] at this
        have e8 : (8 : Int32).toInt = 8 := by decide
        rw [e8] at this
        omega
    · rw [if_neg hc] at h
      exact r_leaf hC hW hi hl hc h
theorem r_nots (hC : tkP s T cd vl pl) {rc : Nat → Int32 → mS → (mS → Prop) → Prop} {x l : Int32} {Kr K : mS → Prop} : ∀ f t i nb, i ≤ T → T + 1 ≤ i + f → f ≤ t → K (pv s (nI (pNots cd f i nb).1) l (-1)) → w_readPlain_2 N rc x Kr K (t + 1) 1 (pv s (nI i) l (-1)) := by
  intro f
  induction f with
  | zero =>
    intro t i nb hi hf
    omega
  | succ f ih =>
    intro t i nb hi hf ht h
    obtain ⟨t, rfl⟩ : ∃ u, t = u + 1 := ⟨t - 1, by omega⟩
    have e1 : pNots cd (f + 1) i nb = if cd i = 7 then pNots cd f (i + 1) (!nb) else (i, nb) := rfl
    rw [e1] at h
    rw [w_readPlain_2]
    refine ⟨fun z => absurd z (by decide), fun _ => p_takes hC hi (fun c => ?_) (fun c => ?_)⟩
    · rw [if_pos c] at h
      exact ih t (i + 1) (!nb) (cd_lt hC.2.2.1 c (by decide)) (by omega) (by omega) h
    · rw [if_neg c] at h
      show w_readPlain_2 N rc x Kr K (t + 1) 0 (pv s (nI i) l (-1))
      rw [w_readPlain_2]
      exact ⟨fun _ => h, fun z => absurd rfl z⟩
theorem r_both (hN : 401 ≤ N.1) (hC : tkP s T cd vl pl) {x : Int32} {t dp : Nat} (hp : rIt (g_readTest N t) 2 x s T pl (pPlain cd vl io dp)) : rIt (g_readTest N (t + 1)) 1 x s T pl (pBothOf cd (pPlain cd vl io dp)) := by
  intro i l K hi hl h
  have hm := pM_plain (vl := vl) (io := io) hC.2.2.1 dp
  show w_readBoth N (g_readTest N t) x (pv s (nI i) (nI l) (-1)) K
  unfold w_readBoth
  refine hp i l _ hi hl (rQ_b h (fun z hz q => ?_) (fun e t' l' he hk => r_bothBad (by omega) (hC.2.2.2 e) hk))
  have hm1 := (hm i l hi).2 z hz
  have hT := hC.1
  exact r_bothLoop hC hm hp 401 N.1 z.1 z.2.1 z.2.2 hm1.2.1 (hm1.2.2.2 hl) (by omega) hN K K q
theorem r_test (hN : 401 ≤ N.1) (hC : tkP s T cd vl pl) {x : Int32} {t dp : Nat} (hp : rIt (g_readTest N t) 2 x s T pl (pPlain cd vl io dp)) : rIt (g_readTest N (t + 2)) 0 x s T pl (pTest cd vl io dp) := by
  intro i l K hi hl h
  have hm := pM_both (vl := vl) (io := io) hC.2.2.1 dp
  have hp2 := r_both hN hC hp
  show w_readTest N (g_readTest N (t + 1)) x (pv s (nI i) (nI l) (-1)) K
  unfold w_readTest
  refine hp2 i l _ hi hl (rQ_b h (fun z hz q => ?_) (fun e t' l' he hk => r_testBad (by omega) (hC.2.2.2 e) hk))
  have hm1 := (hm i l hi).2 z hz
  have hT := hC.1
  exact r_testLoop hC hm hp2 401 N.1 z.1 z.2.1 z.2.2 hm1.2.1 (hm1.2.2.2 hl) (by omega) hN K K q
theorem r_plain (hN : 402 ≤ N.1) (hC : tkP s T cd vl pl) (hW : wdR s io) : ∀ dp, dp ≤ 8 → ∀ t, 3 * dp + 4 ≤ t → rIt (g_readTest N t) 2 (nI (8 - dp)) s T pl (pPlain cd vl io dp) := by
  have e2 : ∀ i l, i ≤ T → mAt (pv s (nI i) (nI l) (-1)) 15 (nI i) = cd i := fun i l hi => by
    have hT := hC.1
    show s.2.1 15 (nI i).toNatClampNeg = cd i
    rw [nI_clamp (by omega)]
    exact (hC.2.1 i hi).1
  have hcomp : ∀ dp t i l nb (K : mS → Prop), dp ≤ 8 → 3 * dp + 3 ≤ t → i ≤ T → l ≤ 50 → rQ s pl (pComp cd vl io dp i l nb) K → g_readTest N t 3 (nI (8 - dp)) (pv s (nI i) (nI l) (-1)) (fun s111 => w_takes0 160 s111 (fun x114 s115 => (¬ x114 = 0 → g_readTest N t 3 (nI (8 - dp)) s115 (fun s118 => K s118)) ∧ (x114 = 0 → w_takes0 162 s115 (fun x121 s122 => (¬ x121 = 0 → g_readTest N t 3 (nI (8 - dp)) s122 (fun s125 => K s125)) ∧ (x121 = 0 → w_must 161 s122 (fun s129 => g_readTest N t 3 (nI (8 - dp)) s129 (fun s131 => K s131))))))) := fun dp t i l nb K hdp ht hi hl h => by
    have hS : rIt (g_readTest N t) 3 (nI (8 - dp)) s T pl (pSum cd vl io dp) := by
      obtain ⟨u, rfl⟩ : ∃ u, t = u + 2 := ⟨t - 2, by omega⟩
      exact r_sum (by omega) hC (r_part (by omega) hC hW dp hdp u (by omega))
    have hB : ∀ e t' l', K (pv s t' l' (pl e)) → g_readTest N t 3 (nI (8 - dp)) (pv s t' l' (pl e)) (fun s => K s) := fun e t' l' hk => (r_bad (by omega) (hC.2.2.2 e) hk).2.2.1 t (by omega)
    refine hS i l _ hi hl (rQ_b h (fun z hz q => ?_) (fun e t' l' he hk => ?_))
    · have hm1 := (pM_sum (vl := vl) (io := io) hC.2.2.1 dp i l hi).2 z hz
      have step : cd z.1 = 160 ∨ cd z.1 = 162 ∨ cd z.1 = 161 → g_readTest N t 3 (nI (8 - dp)) (pv s (nI (z.1 + 1)) (nI z.2.1) (-1)) (fun s => K s) := fun c => by
        have hlt : z.1 < T := c.elim (fun z => cd_lt hC.2.2.1 z (by decide)) fun z => z.elim (fun z => cd_lt hC.2.2.1 z (by decide)) fun z => cd_lt hC.2.2.1 z (by decide)
        rw [if_pos c] at q
        exact hS (z.1 + 1) z.2.1 _ hlt (hm1.2.2.2 hl) (rQ_b q (fun w hw q2 => q2.1 _ rfl) (fun e t' l' he hk => hk))
      refine p_takes hC hm1.2.1 (fun c => ⟨fun _ => step (Or.inl c), fun z => absurd z (by decide)⟩) (fun n1 => ⟨fun z => absurd rfl z, fun _ => ?_⟩)
      refine p_takes hC hm1.2.1 (fun c => ⟨fun _ => step (Or.inr (Or.inl c)), fun z => absurd z (by decide)⟩) (fun n2 => ⟨fun z => absurd rfl z, fun _ => ?_⟩)
      refine p_must hC hm1.2.1 (fun c => step (Or.inr (Or.inr c))) (fun n3 => ?_)
      rw [if_neg (fun z => z.elim n1 fun z => z.elim n2 n3)] at q
      exact hB _ _ _ (q.2 _ rfl _ _)
    · exact p_takesB (hC.2.2.2 e) ⟨fun z => absurd rfl z, fun _ => p_takesB (hC.2.2.2 e) ⟨fun z => absurd rfl z, fun _ => p_mustB (hC.2.2.2 e) (hB _ _ _ hk)⟩⟩
  intro dp
  induction dp with
  | zero =>
    intro hdp t ht i l K hi hl h
    have hT := hC.1
    obtain ⟨t, rfl⟩ : ∃ u, t = u + 1 := ⟨t - 1, by omega⟩
    show w_readPlain N (g_readTest N t) (nI 8) (pv s (nI i) (nI l) (-1)) K
    unfold w_readPlain
    obtain ⟨u, hu⟩ : ∃ u, N.1 = u + 1 := ⟨N.1 - 1, by omega⟩
    rw [hu]
    refine r_nots hC 401 u i false hi (by omega) (by omega) ?_
    have hn := pNots_le hC.2.2.1 401 i false hi
    refine p_fine ⟨fun _ => ?_, fun z => absurd z (by decide)⟩
    rw [pv_19, e2 _ l hn.2]
    refine ⟨vp_in_nI (by omega) (by decide), fun x' ex => ?_⟩
    subst ex
    simp only [w_sign, qq140, qq160, qq161, qq162]
    rw [pPlain_0] at h
    refine ⟨fun c => ?_, fun c => ?_⟩
    · rw [if_neg c] at h
      exact hcomp 0 t _ l _ K (by omega) (by omega) hn.2 hl h
    · rw [if_pos c] at h
      refine ⟨fun z => absurd rfl z, fun _ => p_faults hC hn.2 ?_⟩
      unfold w_readPlain_53
      exact p_fineB (hC.2.2.2 _) ⟨fun z => absurd rfl z, fun _ => h.2 _ rfl _ _⟩
  | succ dp ih =>
    intro hdp t ht i l K hi hl h
    have hT := hC.1
    obtain ⟨t, rfl⟩ : ∃ u, t = u + 2 + 1 := ⟨t - 3, by omega⟩
    show w_readPlain N (g_readTest N (t + 2)) (nI (8 - (dp + 1))) (pv s (nI i) (nI l) (-1)) K
    unfold w_readPlain
    obtain ⟨u, hu⟩ : ∃ u, N.1 = u + 1 := ⟨N.1 - 1, by omega⟩
    rw [hu]
    refine r_nots hC 401 u i false hi (by omega) (by omega) ?_
    have hn := pNots_le hC.2.2.1 401 i false hi
    refine p_fine ⟨fun _ => ?_, fun z => absurd z (by decide)⟩
    rw [pv_19, e2 _ l hn.2]
    refine ⟨vp_in_nI (by omega) (by decide), fun x' ex => ?_⟩
    subst ex
    simp only [w_sign, qq140, qq160, qq161, qq162]
    rw [pPlain_s] at h
    refine ⟨fun c => ?_, fun c => ?_⟩
    · rw [if_neg c] at h
      exact hcomp (dp + 1) (t + 2) _ l _ K (by omega) (by omega) hn.2 hl h
    · rw [if_pos c] at h
      have hlt := cd_lt hC.2.2.1 c (by decide)
      have hd : nI (8 - (dp + 1)) + 1 = nI (8 - dp) := by
        rw [nI_1]
        congr 1
        omega
      refine ⟨fun _ => ?_, fun z => ?_⟩
      · unfold w_readPlain_53
        refine p_fine ⟨fun _ s' e' => ?_, fun z => absurd z (by decide)⟩
        rw [pv_19, pv_w19, ← nI_succ] at e'
        subst e'
        simp only [w_sign, qq141]
        rw [hd]
        refine r_test (by omega) hC (ih (by omega) t (by omega)) _ l _ hlt hl (rQ_b h (fun z hz q => ?_) (fun e t' l' he hk => p_mustB (hC.2.2.2 e) hk))
        have hm1 := (pM_test (vl := vl) (io := io) hC.2.2.1 dp _ l hlt).2 z hz
        refine p_must hC hm1.2.1 (fun c => ?_) (fun c => ?_)
        · rw [if_pos c] at q
          exact q.1 _ rfl
        · rw [if_neg c] at q
          exact q.2 _ rfl _ _
      · exfalso
        have := congrArg Int32.toInt z
        rw [nI_toInt (by omega)] at this
        have e8 : (8 : Int32).toInt = 8 := by decide
        rw [e8] at this
        omega
theorem r_sumT (hN : 402 ≤ N.1) (hN2 : 40 ≤ N.2) (hC : tkP s T cd vl pl) (hW : wdR s io) : rIt (g_readTest N N.2) 3 0 s T pl (pSum cd vl io 8) := by
  have := r_sum (N := N) (by omega) hC (r_part (by omega) hC hW 8 (by omega) (N.2 - 2) (by omega))
  have e2 : N.2 - 2 + 2 = N.2 := by omega
  rw [e2] at this
  exact this
theorem r_testT (hN : 402 ≤ N.1) (hN2 : 40 ≤ N.2) (hC : tkP s T cd vl pl) (hW : wdR s io) : rIt (g_readTest N N.2) 0 0 s T pl (pTest cd vl io 8) := by
  have := r_test (N := N) (by omega) hC (r_plain hN hC hW 8 (by omega) (N.2 - 2) (by omega))
  have e2 : N.2 - 2 + 2 = N.2 := by omega
  rw [e2] at this
  exact this
theorem r_opt (hN : 402 ≤ N.1) (hN2 : 40 ≤ N.2) (hC : tkP s T cd vl pl) (hW : wdR s io) {i l : Nat} {K : mS → Prop} (hi : i ≤ T) (hl : l ≤ 50) (h : rQ s pl (pOpt cd vl io i l) K) : w_takes0 4 (pv s (nI i) (nI l) (-1)) (fun x101 s102 => (x101 = 0 → K s102) ∧ (¬ x101 = 0 → g_readTest N N.2 0 0 s102 (fun s105 => K s105))) := by
  unfold pOpt at h
  refine p_takes hC hi (fun c => ⟨fun z => absurd z (by decide), fun _ => ?_⟩) (fun c => ⟨fun _ => ?_, fun z => absurd rfl z⟩)
  · rw [if_pos c] at h
    exact r_testT hN hN2 hC hW (i + 1) l _ (cd_lt hC.2.2.1 c (by decide)) hl (rQ_b h (fun z hz q => q.1 _ rfl) (fun e t' l' he hk => hk))
  · rw [if_neg c] at h
    exact h.1 _ rfl
theorem r_clause (hN : 402 ≤ N.1) (hN2 : 40 ≤ N.2) (hC : tkP s T cd vl pl) (hW : wdR s io) {i l : Nat} {K : mS → Prop} (hi : i ≤ T) (hl : l ≤ 50) (h : rQ s pl (pClause cd vl io i l) K) : w_readClause N (pv s (nI i) (nI l) (-1)) K := by
  unfold pClause at h
  have hB : ∀ e t' l', K (pv s t' l' (pl e)) → w_readClause_29 N K (pv s t' l' (pl e)) := fun e t' l' hk => by
    unfold w_readClause_29
    exact p_takesB (hC.2.2.2 e) ⟨fun _ => hk, fun z => absurd rfl z⟩
  have h29 : ∀ {α : Type} (i l : Nat) (f : Nat × Nat × Option dT → α), i ≤ T → l ≤ 50 → rQ s pl (pb (pOpt cd vl io i l) (fun w => .inr (w.1, w.2.1, f w))) K → w_readClause_29 N K (pv s (nI i) (nI l) (-1)) := fun i l f hi hl h => by
    unfold w_readClause_29
    exact r_opt hN hN2 hC hW hi hl (rQ_b h (fun z hz q => q.1 _ rfl) (fun e t' l' he hk => hk))
  have h16 : cd i = 1 ∨ cd i = 2 → w_readClause_16 N K (pv s (nI (i + 1)) (nI l) (-1)) := fun c => by
    rw [if_pos c] at h
    unfold w_readClause_16
    have hlt : i < T := c.elim (fun z => cd_lt hC.2.2.1 z (by decide)) fun z => cd_lt hC.2.2.1 z (by decide)
    refine r_sumT hN hN2 hC hW (i + 1) l _ hlt hl (rQ_b h (fun z hz q => ?_) (fun e t' l' he hk => hB _ _ _ hk))
    have hm1 := (pM_sum (vl := vl) (io := io) hC.2.2.1 8 (i + 1) l hlt).2 z hz
    exact h29 _ _ _ hm1.2.1 (hm1.2.2.2 hl) q
  unfold w_readClause
  refine p_takes hC hi (fun c => ⟨fun _ => h16 (Or.inl c), fun z => absurd z (by decide)⟩) (fun n1 => ⟨fun z => absurd rfl z, fun _ => ?_⟩)
  refine p_takes hC hi (fun c => ⟨fun z => absurd z (by decide), fun _ => h16 (Or.inr c)⟩) (fun n2 => ⟨fun _ => ?_, fun z => absurd rfl z⟩)
  rw [if_neg (fun z => z.elim n1 n2)] at h
  refine p_must hC hi (fun c => ?_) (fun c => ?_)
  · rw [if_pos c] at h
    exact h29 _ _ _ (cd_lt hC.2.2.1 c (by decide)) hl h
  · rw [if_neg c] at h
    exact hB _ _ _ (h.2 _ rfl _ _)
theorem r_clauseB (hC : tkP s T cd vl pl) {e : Nat} {t l : Int32} {K : mS → Prop} (hN2 : 40 ≤ N.2) (hN : 402 ≤ N.1) (hk : K (pv s t l (pl e))) : w_readClause N (pv s t l (pl e)) K := by
  have hb := hC.2.2.2 e
  unfold w_readClause
  refine p_takesB hb ⟨fun z => absurd rfl z, fun _ => p_takesB hb ⟨fun _ => p_mustB hb ?_, fun z => absurd rfl z⟩⟩
  unfold w_readClause_29
  exact p_takesB hb ⟨fun _ => hk, fun z => absurd rfl z⟩
theorem r_order (hN : 402 ≤ N.1) (hN2 : 40 ≤ N.2) (hC : tkP s T cd vl pl) (hW : wdR s io) {i l : Nat} {K : mS → Prop} (hi : i ≤ T) (hl : l ≤ 50) (h : rQ s pl (pOrder cd vl io i l) K) : w_readOrder N (pv s (nI i) (nI l) (-1)) K := by
  have hB68 : ∀ e t' l', K (pv s t' l' (pl e)) → w_readOrder_68 N K (pv s t' l' (pl e)) := fun e t' l' hk => by
    unfold w_readOrder_68
    exact p_takesB (hC.2.2.2 e) ⟨fun _ => hk, fun z => absurd rfl z⟩
  have hB : ∀ e t' l', K (pv s t' l' (pl e)) → w_readOrder_52 N K (pv s t' l' (pl e)) := fun e t' l' hk => by
    unfold w_readOrder_52
    exact p_takesB (hC.2.2.2 e) ⟨fun _ => hB68 _ _ _ hk, fun z => absurd rfl z⟩
  have h52 : ∀ (i l : Nat) (hd : Int32) (o : Option (dS × dS)), i ≤ T → l ≤ 50 → rQ s pl (pTail cd vl io i l hd o) K → w_readOrder_52 N K (pv s (nI i) (nI l) (-1)) := fun i l hd o hi hl h => by
    unfold pTail at h
    unfold w_readOrder_52
    refine p_takes hC hi (fun c => ⟨fun z => absurd z (by decide), fun _ => ?_⟩) (fun c => ⟨fun _ => ?_, fun z => absurd rfl z⟩)
    · rw [if_pos c] at h
      have hlt := cd_lt hC.2.2.1 c (by decide)
      refine p_number hC hlt (fun g1 g2 g3 => ?_) (fun g => ?_)
      · rw [if_pos ⟨g1, g2, g3⟩] at h
        unfold w_readOrder_68
        exact r_opt hN hN2 hC hW (cd_lt hC.2.2.1 g1 (by decide)) hl (rQ_b h (fun z hz q => q.1 _ rfl) (fun e t' l' he hk => hk))
      · rw [if_neg g] at h
        exact hB68 _ _ _ (h.2 _ rfl _ _)
    · rw [if_neg c] at h
      unfold w_readOrder_68
      exact r_opt hN hN2 hC hW hi hl (rQ_b h (fun z hz q => q.1 _ rfl) (fun e t' l' he hk => hk))
  unfold pOrder at h
  have h18 : cd i = 22 ∨ cd i = 23 → w_readOrder_18 N K (pv s (nI (i + 1)) (nI l) (-1)) := fun c => by
    rw [if_pos c] at h
    unfold w_readOrder_18
    have hlt : i < T := c.elim (fun z => cd_lt hC.2.2.1 z (by decide)) fun z => cd_lt hC.2.2.1 z (by decide)
    have hB3 : ∀ e t' l', K (pv s t' l' (pl e)) → g_readTest N N.2 3 0 (pv s t' l' (pl e)) (fun s106 => w_readOrder_52 N K s106) := fun e t' l' hk => (r_bad (by omega) (hC.2.2.2 e) (K := fun s106 => w_readOrder_52 N K s106) (hB _ _ _ hk)).2.2.1 N.2 (by omega)
    refine r_sumT hN hN2 hC hW (i + 1) l _ hlt hl (rQ_b h (fun z hz q => ?_) (fun e t' l' he hk => p_mustB (hC.2.2.2 e) (hB3 _ _ _ hk)))
    have hm1 := (pM_sum (vl := vl) (io := io) hC.2.2.1 8 (i + 1) l hlt).2 z hz
    refine p_must hC hm1.2.1 (fun c2 => ?_) (fun c2 => ?_)
    · rw [if_pos c2] at q
      have hlt2 := cd_lt hC.2.2.1 c2 (by decide)
      refine r_sumT hN hN2 hC hW (z.1 + 1) z.2.1 _ hlt2 (hm1.2.2.2 hl) (rQ_b q (fun w hw q2 => ?_) (fun e t' l' he hk => hB _ _ _ hk))
      have hm2 := (pM_sum (vl := vl) (io := io) hC.2.2.1 8 (z.1 + 1) z.2.1 hlt2).2 w hw
      exact h52 _ _ _ _ hm2.2.1 (hm2.2.2.2 (hm1.2.2.2 hl)) q2
    · rw [if_neg c2] at q
      exact hB3 _ _ _ (q.2 _ rfl _ _)
  unfold w_readOrder
  refine p_takes hC hi (fun c => ⟨fun _ => h18 (Or.inl c), fun z => absurd z (by decide)⟩) (fun n1 => ⟨fun z => absurd rfl z, fun _ => ?_⟩)
  refine p_takes hC hi (fun c => ⟨fun z => absurd z (by decide), fun _ => h18 (Or.inr c)⟩) (fun n2 => ⟨fun _ => ?_, fun z => absurd rfl z⟩)
  rw [if_neg (fun z => z.elim n1 n2)] at h
  refine p_takes hC hi (fun c => ⟨fun _ => ?_, fun z => absurd z (by decide)⟩) (fun n3 => ⟨fun z => absurd rfl z, fun _ => ?_⟩)
  · rw [if_pos (Or.inl c)] at h
    exact h52 _ _ _ _ (cd_lt hC.2.2.1 c (by decide)) hl h
  · refine p_must hC hi (fun c => ?_) (fun c => ?_)
    · rw [if_pos (Or.inr c)] at h
      exact h52 _ _ _ _ (cd_lt hC.2.2.1 c (by decide)) hl h
    · rw [if_neg (fun z => z.elim n3 c)] at h
      exact hB _ _ _ (h.2 _ rfl _ _)
end RD3
section RD4
variable {N : Nat × Nat} {s : mS} {T : Nat} {cd vl pl : Nat → Int32} {io : Bool}
/-- a text read: the last token, or where it is wrong -/
def rQA {α : Type} (s : mS) (T : Nat) (pl : Nat → Int32) (r : pR (List α)) (K : mS → Prop) : Prop := (∀ cs, r = .inr cs → ∀ l, K (pv s (nI T) l (-1))) ∧ ∀ e, r = .inl e → ∀ t l, K (pv s t l (pl e))
theorem r_34B {Kr : Int32 → mS → Prop} {KK : mS → Prop} {x t l b : Int32} {n : Nat} (hn : 1 ≤ n) (hb : ¬ b = -1) (h : KK (pv s t l b)) : w_reads_34 N Kr KK n x (pv s t l b) := by
  obtain ⟨n, rfl⟩ : ∃ u, n = u + 1 := ⟨n - 1, by omega⟩
  simp only [w_reads_34, w_sign]
  exact p_takesB hb ⟨fun _ => h, fun z => absurd rfl z⟩
/-- as pM, but a clause may have no leaf -/
def pMc {α : Type} (T : Nat) (item : Nat → Nat → pR (Nat × Nat × α)) : Prop := ∀ i l, i ≤ T → (∀ e, item i l = .inl e → i ≤ e ∧ e ≤ T) ∧ ∀ z, item i l = .inr z → i < z.1 ∧ z.1 ≤ T ∧ l ≤ z.2.1 ∧ (l ≤ 50 → z.2.1 ≤ 50)
theorem r_all {α : Type} {item : Nat → Nat → pR (Nat × Nat × α)} (hC : tkP s T cd vl pl) (hm : pMc T item) (h1 : ∀ i l K, i ≤ T → l ≤ 50 → rQ s pl (item i l) K → w_readOne N (pv s (nI i) (nI l) (-1)) K) {Kr : Int32 → mS → Prop} {KK K : mS → Prop} (hk1 : ∀ j l, j < T → K (pv s (nI j) (nI l) (pl j)) → KK (pv s (nI j) (nI l) (-1))) (hk2 : ∀ l, K (pv s (nI T) (nI l) (-1)) → KK (pv s (nI T) (nI l) (-1))) (hk3 : ∀ t l e, K (pv s t l (pl e)) → KK (pv s t l (pl e))) : ∀ f n i l acc t, n + f = 12 → f + 1 ≤ t → i ≤ T → l ≤ 50 → rQA s T pl (pAll cd T item f n i l acc) K → 1 ≤ f → w_readOne N (pv s (nI i) (nI l) (-1)) (fun s108 => w_reads_34 N Kr KK t (nI (n + 1)) s108) := by
  have hp := hC.2.2.2
  intro f
  induction f with
  | zero =>
    intro n i l acc t _ _ _ _ _ hf
    omega
  | succ f ih =>
    intro n i l acc t hn ht hi hl h _
    have hT := hC.1
    refine h1 i l _ hi hl ⟨fun z hz => ?_, fun e he t' l' => r_34B (by omega) (hp e) (hk3 _ _ _ ?_)⟩
    · have hm1 := (hm i l hi).2 z hz
      have hr : rQA s T pl (if cd z.1 = 159 then (if n + 1 = 12 then .inl (z.1 + 1) else pAll cd T item f (n + 1) (z.1 + 1) z.2.1 (acc ++ [z.2.2])) else if z.1 < T then .inl z.1 else .inr (acc ++ [z.2.2])) K := by
        have e1 : pAll cd T item (f + 1) n i l acc = pb (item i l) (fun z => if cd z.1 = 159 then (if n + 1 = 12 then .inl (z.1 + 1) else pAll cd T item f (n + 1) (z.1 + 1) z.2.1 (acc ++ [z.2.2])) else if z.1 < T then .inl z.1 else .inr (acc ++ [z.2.2])) := rfl
        rw [e1, hz] at h
        exact h
      obtain ⟨t, rfl⟩ : ∃ u, t = u + 1 := ⟨t - 1, by omega⟩
      simp only [w_reads_34, w_sign, qq159]
      refine p_takes hC hm1.2.1 (fun c => ⟨fun z => absurd z (by decide), fun _ => ?_⟩) (fun c => ⟨fun _ => ?_, fun z => absurd rfl z⟩)
      · rw [if_pos c] at hr
        have hlt := cd_lt hC.2.2.1 c (by decide)
        refine ⟨fun n12 => ?_, fun c12 => ?_⟩
        · have hn12 : ¬ n + 1 = 12 := fun z => n12 (by rw [z]; rfl)
          rw [if_neg hn12] at hr
          unfold w_reads_56
          refine p_fine ⟨fun z => absurd z (by decide), fun _ => ?_⟩
          have := ih (n + 1) (z.1 + 1) z.2.1 _ t (by omega) (by omega) hlt (hm1.2.2.2 hl) hr (by omega)
          refine Eq.mp ?_ this
          congr 1
          funext s106
          refine propext ⟨fun q x hx => ?_, fun q => ?_⟩
          · rw [hx, nI_1]
            exact q
          · have := q _ rfl
            rw [nI_1] at this
            exact this
        · have hn12 : n + 1 = 12 := by
            have := congrArg Int32.toInt c12
            rw [nI_toInt (by omega)] at this
            have e12 : (12 : Int32).toInt = 12 := by decide
            rw [e12] at this
            omega
          rw [if_pos hn12] at hr
          refine p_faults hC hlt ?_
          unfold w_reads_56
          refine p_fineB (hp _) ⟨fun _ x hx => r_34B (by omega) (hp _) (hk3 _ _ _ (hr.2 _ rfl _ _)), fun z => absurd rfl z⟩
      · rw [if_neg c] at hr
        by_cases hlt : z.1 < T
        · rw [if_pos hlt] at hr
          exact hk1 _ _ hlt (hr.2 _ rfl _ _)
        · rw [if_neg hlt] at hr
          have : z.1 = T := by omega
          rw [this]
          exact hk2 _ (hr.1 _ rfl _)
    · have e1 : pAll cd T item (f + 1) n i l acc = pb (item i l) (fun z => if cd z.1 = 159 then (if n + 1 = 12 then .inl (z.1 + 1) else pAll cd T item f (n + 1) (z.1 + 1) z.2.1 (acc ++ [z.2.2])) else if z.1 < T then .inl z.1 else .inr (acc ++ [z.2.2])) := rfl
      rw [e1, he] at h
      exact h.2 e rfl t' l'
theorem pMc_of {α : Type} {i i2 l l2 : Nat} {r : pR (Nat × Nat × α)} (h : pM0 T i2 l2 r) (h1 : i < i2) (h3 : l ≤ l2) (h4 : l ≤ 50 → l2 ≤ 50) : (∀ e, r = .inl e → i ≤ e ∧ e ≤ T) ∧ ∀ z, r = .inr z → i < z.1 ∧ z.1 ≤ T ∧ l ≤ z.2.1 ∧ (l ≤ 50 → z.2.1 ≤ 50) := ⟨fun e he => by have := h.1 e he; exact ⟨by omega, this.2⟩, fun z hz => by have := h.2 z hz; exact ⟨by omega, this.2.1, by omega, fun q => this.2.2.2 (h4 q)⟩⟩
theorem pM_clause (hz : ∀ k, T ≤ k → cd k = 0) : pMc T (pClause cd vl io) := by
  intro i l h
  unfold pClause
  by_cases hc : cd i = 1 ∨ cd i = 2
  · rw [if_pos hc]
    have hlt : i < T := hc.elim (fun z => cd_lt hz z (by decide)) fun z => cd_lt hz z (by decide)
    exact pMc_of (pM0_b ((pM_sum hz 8).o hlt) fun z _ _ h2 _ => pM0_b (pM_opt hz h2) fun w _ _ h3 _ => pM0_r h3) (Nat.lt_succ_self i) (Nat.le_refl l) id
  · rw [if_neg hc]
    by_cases h3 : cd i = 3
    · rw [if_pos h3]
      have hlt := cd_lt hz h3 (by decide)
      exact pMc_of (pM0_b (pM_opt hz hlt) fun w _ _ h3 _ => pM0_r h3) (Nat.lt_succ_self i) (Nat.le_refl l) id
    · rw [if_neg h3]
      exact ⟨fun e he => by cases he; exact ⟨Nat.le_refl _, h⟩, fun z hz => by cases hz⟩
theorem pM_tail (hz : ∀ k, T ≤ k → cd k = 0) {i l : Nat} {hd : Int32} {o : Option (dS × dS)} (h : i ≤ T) : pM0 T i l (pTail cd vl io i l hd o) := by
  unfold pTail
  by_cases hc : cd i = 27
  · rw [if_pos hc]
    have hlt := cd_lt hz hc (by decide)
    by_cases h2 : cd (i + 1) = 50 ∧ 1 ≤ vl (i + 1) ∧ vl (i + 1) ≤ 20
    · rw [if_pos h2]
      have hlt2 := cd_lt hz h2.1 (by decide)
      exact pM0_s (pM0_b (pM_opt hz (i := i + 2) hlt2) fun w _ _ h3 _ => pM0_r h3) (by omega) (Nat.le_refl l) id
    · rw [if_neg h2]
      exact pM0_l (Nat.le_succ i) hlt
  · rw [if_neg hc]
    exact pM0_b (pM_opt hz h) fun w _ _ h3 _ => pM0_r h3
theorem pM_order (hz : ∀ k, T ≤ k → cd k = 0) : pMc T (pOrder cd vl io) := by
  intro i l h
  unfold pOrder
  by_cases hc : cd i = 22 ∨ cd i = 23
  · rw [if_pos hc]
    have hlt : i < T := hc.elim (fun z => cd_lt hz z (by decide)) fun z => cd_lt hz z (by decide)
    refine pMc_of (pM0_b ((pM_sum hz 8).o hlt) fun z _ _ h2 _ => ?_) (Nat.lt_succ_self i) (Nat.le_refl l) id
    by_cases h6 : cd z.1 = 26
    · rw [if_pos h6]
      have hlt2 := cd_lt hz h6 (by decide)
      exact pM0_s (pM0_b ((pM_sum hz 8).o hlt2) fun w _ _ h3 _ => pM_tail hz h3) (Nat.le_succ _) (Nat.le_refl _) id
    · rw [if_neg h6]
      exact pM0_l (Nat.le_refl _) h2
  · rw [if_neg hc]
    by_cases h3 : cd i = 24 ∨ cd i = 25
    · rw [if_pos h3]
      have hlt : i < T := h3.elim (fun z => cd_lt hz z (by decide)) fun z => cd_lt hz z (by decide)
      exact pMc_of (pM_tail hz hlt) (Nat.lt_succ_self i) (Nat.le_refl l) id
    · rw [if_neg h3]
      exact ⟨fun e he => by cases he; exact ⟨Nat.le_refl _, h⟩, fun z hz => by cases hz⟩
/-- what is read by one of both languages: clauses of laws or of orders -/
def pText (io : Bool) (cd vl : Nat → Int32) (T : Nat) : pR Unit := if io = true then pb (pOrders cd vl T) (fun _ => .inr ()) else pb (pLaw cd vl T) (fun _ => .inr ())
theorem r_95 {Kr : Int32 → mS → Prop} {t l b : Int32} (h1 : b = -1 → Kr 1 (mF (pv s t l b) 14 b)) (h2 : ¬ b = -1 → Kr 0 (mF (pv s t l b) 14 b)) : w_reads_95 N Kr (pv s t l b) := by
  unfold w_reads_95
  rw [pv_21]
  intro s' e'
  subst e'
  unfold w_fine
  have : mFd (mF (pv s t l b) 14 b) 21 = b := rfl
  rw [this]
  exact ⟨fun z => ⟨xB0, h2 z⟩, fun z => ⟨xB1, h1 z⟩⟩
/-- behind the splitting: the text read, fault and answer -/
theorem r_text (hN : 402 ≤ N.1) (hN2 : 40 ≤ N.2) (hC : tkP s T cd vl pl) (hW : wdR s io) (h18 : mFd s 18 = nI T) {Kr : Int32 → mS → Prop} (h1 : ∀ u, pText io cd vl T = .inr u → ∀ t l, Kr 1 (mF (pv s t l (-1)) 14 (-1))) (h2 : ∀ e, pText io cd vl T = .inl e → ∀ t l, Kr 0 (mF (pv s t l (pl e)) 14 (pl e))) : w_readOne N (pv s 0 0 (-1)) (fun s108 => w_reads_34 N Kr (fun s109 => w_fine s109 (fun x110 s111 => (x110 = 0 → w_reads_95 N Kr s111) ∧ (¬ x110 = 0 → (mFd s111 18 ≤ mFd s111 19 → w_reads_95 N Kr s111) ∧ (¬ mFd s111 18 ≤ mFd s111 19 → w_faults s111 (fun s115 => w_reads_95 N Kr s115))))) N.1 1 s108) := by
  have hp := hC.2.2.2
  have hT := hC.1
  have hk1 : ∀ j l, j < T → w_reads_95 N Kr (pv s (nI j) (nI l) (pl j)) → w_fine (pv s (nI j) (nI l) (-1)) (fun x110 s111 => (x110 = 0 → w_reads_95 N Kr s111) ∧ (¬ x110 = 0 → (mFd s111 18 ≤ mFd s111 19 → w_reads_95 N Kr s111) ∧ (¬ mFd s111 18 ≤ mFd s111 19 → w_faults s111 (fun s115 => w_reads_95 N Kr s115)))) := fun j l hj hk => by
    refine p_fine ⟨fun z => absurd z (by decide), fun _ => ?_⟩
    rw [pv_19, pv_o _ _ _ _ (by decide) (by decide) (by decide), h18, nI_leI (by omega) (by omega)]
    exact ⟨fun z => absurd z (by omega), fun _ => p_faults hC (by omega) hk⟩
  have hk2 : ∀ l, w_reads_95 N Kr (pv s (nI T) (nI l) (-1)) → w_fine (pv s (nI T) (nI l) (-1)) (fun x110 s111 => (x110 = 0 → w_reads_95 N Kr s111) ∧ (¬ x110 = 0 → (mFd s111 18 ≤ mFd s111 19 → w_reads_95 N Kr s111) ∧ (¬ mFd s111 18 ≤ mFd s111 19 → w_faults s111 (fun s115 => w_reads_95 N Kr s115)))) := fun l hk => by
    refine p_fine ⟨fun z => absurd z (by decide), fun _ => ?_⟩
    rw [pv_19, pv_o _ _ _ _ (by decide) (by decide) (by decide), h18, nI_leI (by omega) (by omega)]
    exact ⟨fun _ => hk, fun z => absurd (Nat.le_refl T) z⟩
  have hk3 : ∀ t l e, w_reads_95 N Kr (pv s t l (pl e)) → w_fine (pv s t l (pl e)) (fun x110 s111 => (x110 = 0 → w_reads_95 N Kr s111) ∧ (¬ x110 = 0 → (mFd s111 18 ≤ mFd s111 19 → w_reads_95 N Kr s111) ∧ (¬ mFd s111 18 ≤ mFd s111 19 → w_faults s111 (fun s115 => w_reads_95 N Kr s115)))) := fun t l e hk => p_fineB (hp e) ⟨fun _ => hk, fun z => absurd rfl z⟩
  cases io with
  | false =>
    have hA : rQA s T pl (pLaw cd vl T) (w_reads_95 N Kr) := ⟨fun cs hcs l => r_95 (fun _ => h1 () (by unfold pText; rw [if_neg (by decide), hcs]; rfl) _ _) (fun z => absurd rfl z), fun e he t l => r_95 (fun z => absurd z (hp e)) (fun _ => h2 e (by unfold pText; rw [if_neg (by decide), he]; rfl) _ _)⟩
    refine r_all hC (pM_clause hC.2.2.1) (fun i l K hi hl h => ?_) hk1 hk2 hk3 12 0 0 0 [] N.1 rfl (by omega) (Nat.zero_le _) (Nat.zero_le _) hA (by omega)
    unfold w_readOne
    rw [pv_o _ _ _ _ (by decide) (by decide) (by decide)]
    exact ⟨fun _ => r_clause hN hN2 hC hW hi hl h, fun z => absurd (hW.1 rfl).2.2 z⟩
  | true =>
    have hA : rQA s T pl (pOrders cd vl T) (w_reads_95 N Kr) := ⟨fun cs hcs l => r_95 (fun _ => h1 () (by unfold pText; rw [if_pos rfl, hcs]; rfl) _ _) (fun z => absurd rfl z), fun e he t l => r_95 (fun z => absurd z (hp e)) (fun _ => h2 e (by unfold pText; rw [if_pos rfl, he]; rfl) _ _)⟩
    refine r_all hC (pM_order hC.2.2.1) (fun i l K hi hl h => ?_) hk1 hk2 hk3 12 0 0 0 [] N.1 rfl (by omega) (Nat.zero_le _) (Nat.zero_le _) hA (by omega)
    unfold w_readOne
    rw [pv_o _ _ _ _ (by decide) (by decide) (by decide)]
    exact ⟨fun z => absurd z (hW.2 rfl).2.2, fun _ => r_order hN hN2 hC hW hi hl h⟩
end RD4
