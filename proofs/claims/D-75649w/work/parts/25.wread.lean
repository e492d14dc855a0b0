set_option maxRecDepth 100000
/-! ===== the reference's reading: it goes as the parser goes ===== -/
/-- token, leaves and bad written -/
def pv (s : mS) (t l b : Int32) : mS := mF (mF (mF s 19 t) 20 l) 21 b
theorem pv_o (s : mS) (t l b : Int32) {j : Nat} (h : j ≠ 19) (h2 : j ≠ 20) (h3 : j ≠ 21) : mFd (pv s t l b) j = mFd s j := by
  show (if j = 21 then b else if j = 20 then l else if j = 19 then t else s.1 j) = s.1 j
  rw [if_neg h3, if_neg h2, if_neg h]
theorem pv_w19 (s : mS) (t l b x : Int32) : mF (pv s t l b) 19 x = pv s x l b := by
  refine Prod.ext (funext fun j => ?_) rfl
  show (if j = 19 then x else if j = 21 then b else if j = 20 then l else if j = 19 then t else s.1 j) = (if j = 21 then b else if j = 20 then l else if j = 19 then x else s.1 j)
  by_cases h : j = 19
  · subst h
    rfl
  · rw [if_neg h, if_neg h, if_neg h]
theorem pv_w20 (s : mS) (t l b x : Int32) : mF (pv s t l b) 20 x = pv s t x b := by
  refine Prod.ext (funext fun j => ?_) rfl
  show (if j = 20 then x else if j = 21 then b else if j = 20 then l else if j = 19 then t else s.1 j) = (if j = 21 then b else if j = 20 then x else if j = 19 then t else s.1 j)
  by_cases h : j = 20
  · subst h
    rfl
  · rw [if_neg h, if_neg h, if_neg h]
theorem pv_w21 (s : mS) (t l b x : Int32) : mF (pv s t l b) 21 x = pv s t l x := by
  refine Prod.ext (funext fun j => ?_) rfl
  show (if j = 21 then x else if j = 21 then b else if j = 20 then l else if j = 19 then t else s.1 j) = (if j = 21 then x else if j = 20 then l else if j = 19 then t else s.1 j)
  by_cases h : j = 21
  · rw [if_pos h, if_pos h]
  · rw [if_neg h, if_neg h, if_neg h]
theorem pv_19 (s : mS) (t l b : Int32) : mFd (pv s t l b) 19 = t := rfl
theorem pv_20 (s : mS) (t l b : Int32) : mFd (pv s t l b) 20 = l := rfl
theorem pv_21 (s : mS) (t l b : Int32) : mFd (pv s t l b) 21 = b := rfl
/-- the tokens as they lie in the reader's rows -/
def tkP (s : mS) (T : Nat) (cd vl pl : Nat → Int32) : Prop := T ≤ 400 ∧ (∀ k, k ≤ T → s.2.1 15 k = cd k ∧ s.2.1 16 k = vl k ∧ s.2.1 17 k = pl k) ∧ (∀ k, T ≤ k → cd k = 0) ∧ ∀ k, ¬ pl k = -1
/-- which words are parts -/
def wdR (s : mS) (io : Bool) : Prop := (io = false → mFd s 8 = 8 ∧ mFd s 9 = 17 ∧ mFd s 10 = 0) ∧ (io = true → mFd s 8 = 15 ∧ mFd s 9 = 21 ∧ ¬ mFd s 10 = 0)
def rQ {α : Type} (s : mS) (pl : Nat → Int32) (r : pR (Nat × Nat × α)) (K : mS → Prop) : Prop := (∀ z, r = .inr z → K (pv s (nI z.1) (nI z.2.1) (-1))) ∧ ∀ e, r = .inl e → ∀ t l, K (pv s t l (pl e))
theorem rQ_b {α β : Type} {s : mS} {pl : Nat → Int32} {r : pR (Nat × Nat × α)} {f : Nat × Nat × α → pR (Nat × Nat × β)} {K K2 : mS → Prop} (h : rQ s pl (pb r f) K) (h1 : ∀ z, r = .inr z → rQ s pl (f z) K → K2 (pv s (nI z.1) (nI z.2.1) (-1))) (h2 : ∀ e t l, r = .inl e → K (pv s t l (pl e)) → K2 (pv s t l (pl e))) : rQ s pl r K2 := by
  refine ⟨fun z hz => h1 z hz ?_, fun e he t l => h2 e t l he (h.2 e ?_ t l)⟩
  · rw [hz] at h
    exact h
  · rw [he]
    rfl
section RD
variable {s : mS} {T : Nat} {cd vl pl : Nat → Int32} {io : Bool} {b t l : Int32} {k : Nat}
theorem p_fine {K : Int32 → mS → Prop} (h : K 1 (pv s t l (-1))) : w_fine (pv s t l (-1)) K := by
  unfold w_fine
  rw [pv_21]
  exact ⟨fun z => absurd rfl z, fun _ => h⟩
theorem p_fineB {K : Int32 → mS → Prop} (hb : ¬ b = -1) (h : K 0 (pv s t l b)) : w_fine (pv s t l b) K := by
  unfold w_fine
  rw [pv_21]
  exact ⟨fun _ => h, fun z => absurd z hb⟩
theorem p_faultsB {K : mS → Prop} (hb : ¬ b = -1) (h : K (pv s t l b)) : w_faults (pv s t l b) K := by
  unfold w_faults
  exact p_fineB hb ⟨fun _ => h, fun z => absurd rfl z⟩
theorem p_faults {K : mS → Prop} (hC : tkP s T cd vl pl) (hk : k ≤ T) (h : K (pv s (nI k) l (pl k))) : w_faults (pv s (nI k) l (-1)) K := by
  obtain ⟨hT, h3, -⟩ := hC
  unfold w_faults
  refine p_fine ⟨fun z => absurd z (by decide), fun _ => ?_⟩
  rw [pv_19]
  refine ⟨vp_in_nI (by omega) (by decide), fun s' e' => ?_⟩
  rw [pv_w21] at e'
  have e2 : mAt (pv s (nI k) l (-1)) 17 (nI k) = pl k := by
    show s.2.1 17 (nI k).toNatClampNeg = pl k
    rw [nI_clamp (by omega)]
    exact (h3 k hk).2.2
  rw [e2] at e'
  subst e'
  exact h
theorem p_takesB {c : Int32} {K : Int32 → mS → Prop} (hb : ¬ b = -1) (h : K 0 (pv s t l b)) : w_takes0 c (pv s t l b) K := by
  unfold w_takes0
  exact p_fineB hb ⟨fun _ => ⟨fun _ => ⟨xB0, h⟩, fun z => absurd rfl z⟩, fun z => absurd rfl z⟩
theorem p_takes {c : Int32} {K : Int32 → mS → Prop} (hC : tkP s T cd vl pl) (hk : k ≤ T) (h1 : cd k = c → K 1 (pv s (nI (k + 1)) l (-1))) (h2 : ¬ cd k = c → K 0 (pv s (nI k) l (-1))) : w_takes0 c (pv s (nI k) l (-1)) K := by
  obtain ⟨hT, h3, -⟩ := hC
  unfold w_takes0
  refine p_fine ⟨fun z => absurd z (by decide), fun _ => ?_⟩
  rw [pv_19]
  refine ⟨vp_in_nI (by omega) (by decide), ?_⟩
  have e2 : mAt (pv s (nI k) l (-1)) 15 (nI k) = cd k := by
    show s.2.1 15 (nI k).toNatClampNeg = cd k
    rw [nI_clamp (by omega)]
    exact (h3 k hk).1
  rw [e2]
  refine ⟨fun z => ⟨fun _ => ⟨xB0, h2 z⟩, fun z => absurd rfl z⟩, fun z => ⟨fun z => absurd z (by decide), fun _ s' e' => ?_⟩⟩
  rw [pv_19, pv_w19, ← nI_succ] at e'
  subst e'
  exact ⟨xB1, h1 z⟩
theorem p_mustB {c : Int32} {K : mS → Prop} (hb : ¬ b = -1) (h : K (pv s t l b)) : w_must c (pv s t l b) K := by
  unfold w_must
  exact p_takesB hb ⟨fun z => absurd rfl z, fun _ => p_faultsB hb h⟩
theorem p_must {c : Int32} {K : mS → Prop} (hC : tkP s T cd vl pl) (hk : k ≤ T) (h1 : cd k = c → K (pv s (nI (k + 1)) l (-1))) (h2 : ¬ cd k = c → K (pv s (nI k) l (pl k))) : w_must c (pv s (nI k) l (-1)) K := by
  unfold w_must
  exact p_takes hC hk (fun z => ⟨fun _ => h1 z, fun z => absurd z (by decide)⟩) (fun z => ⟨fun z => absurd rfl z, fun _ => p_faults hC hk (h2 z)⟩)
theorem p_mn42 {K : mS → Prop} (h : K (pv s (nI (k + 1)) l (-1))) : w_mustNumber_42 K (pv s (nI k) l (-1)) := by
  unfold w_mustNumber_42
  refine p_fine ⟨fun z => absurd z (by decide), fun _ s' e' => ?_⟩
  rw [pv_19, pv_w19, ← nI_succ] at e'
  subst e'
  exact h
theorem p_mn42B {K : mS → Prop} (hb : ¬ b = -1) (h : K (pv s t l b)) : w_mustNumber_42 K (pv s t l b) := by
  unfold w_mustNumber_42
  exact p_fineB hb ⟨fun _ => h, fun z => absurd rfl z⟩
theorem p_number {lo hi : Int32} {K : mS → Prop} (hC : tkP s T cd vl pl) (hk : k ≤ T) (h1 : cd k = 50 → lo ≤ vl k → vl k ≤ hi → K (pv s (nI (k + 1)) l (-1))) (h2 : ¬ (cd k = 50 ∧ lo ≤ vl k ∧ vl k ≤ hi) → K (pv s (nI k) l (pl k))) : w_mustNumber lo hi (pv s (nI k) l (-1)) K := by
  have hC2 := hC
  obtain ⟨hT, h3, -, hp⟩ := hC2
  have e2 : mAt (pv s (nI k) l (-1)) 15 (nI k) = cd k := by
    show s.2.1 15 (nI k).toNatClampNeg = cd k
    rw [nI_clamp (by omega)]
    exact (h3 k hk).1
  have e3 : mAt (pv s (nI k) l (-1)) 16 (nI k) = vl k := by
    show s.2.1 16 (nI k).toNatClampNeg = vl k
    rw [nI_clamp (by omega)]
    exact (h3 k hk).2.1
  have h38 : ¬ (cd k = 50 ∧ lo ≤ vl k ∧ vl k ≤ hi) → w_mustNumber_38 K (pv s (nI k) l (-1)) := fun z => by
    unfold w_mustNumber_38
    exact p_faults hC hk (p_mn42B (hp k) (h2 z))
  unfold w_mustNumber
  refine p_fine ⟨fun z => absurd z (by decide), fun _ => ?_⟩
  rw [pv_19, e2, e3]
  have hv := vp_in_nI (n := k) (N := 401) (by omega) (by decide)
  refine ⟨hv, fun z => h38 (fun q => z q.1), fun z => ⟨hv, ?_⟩⟩
  unfold w_lies
  have hle : ∀ a b : Int32, ¬ a < b ↔ b ≤ a := fun a b => by
    rw [Int32.lt_iff_toInt_lt, Int32.le_iff_toInt_le]
    omega
  refine ⟨fun z2 => ⟨fun q => absurd rfl q, fun _ => h38 (fun q => ?_)⟩, fun z2 => ⟨fun z3 => ⟨fun q => absurd rfl q, fun _ => h38 (fun q => ?_)⟩, fun z3 => ⟨fun _ => p_mn42 (h1 z ((hle _ _).mp z2) ((hle _ _).mp z3)), fun q => absurd q (by decide)⟩⟩⟩
  · exact (hle _ _).mpr q.2.1 z2
  · exact (hle _ _).mpr q.2.2 z3
theorem p_numberB {lo hi : Int32} {K : mS → Prop} (hb : ¬ b = -1) (h : K (pv s t l b)) : w_mustNumber lo hi (pv s t l b) K := by
  unfold w_mustNumber
  exact p_fineB hb ⟨fun _ => p_mn42B hb h, fun z => absurd rfl z⟩
end RD
section RD2
variable {N : Nat × Nat} {s : mS} {T : Nat} {cd vl pl : Nat → Int32} {io : Bool}
/-- a reader that has failed goes back -/
theorem r_bad (hN : 2 ≤ N.1) {b : Int32} (hb : ¬ b = -1) {x t l : Int32} {K : mS → Prop} (h : K (pv s t l b)) : (∀ n, 1 ≤ n → g_readTest N n 5 x (pv s t l b) K) ∧ (∀ n, 2 ≤ n → g_readTest N n 4 x (pv s t l b) K) ∧ (∀ n, 3 ≤ n → g_readTest N n 3 x (pv s t l b) K) ∧ (∀ n, 1 ≤ n → g_readTest N n 2 x (pv s t l b) K) ∧ (∀ n, 2 ≤ n → g_readTest N n 1 x (pv s t l b) K) ∧ ∀ n, 3 ≤ n → g_readTest N n 0 x (pv s t l b) K := by
  obtain ⟨u, hu⟩ : ∃ u, N.1 = u + 1 + 1 := ⟨N.1 - 2, by omega⟩
  have h5 : ∀ K : mS → Prop, K (pv s t l b) → ∀ n, 1 ≤ n → g_readTest N n 5 x (pv s t l b) K := fun K h n hn => by
    obtain ⟨n, rfl⟩ : ∃ u, n = u + 1 := ⟨n - 1, by omega⟩
    show w_readPart N (g_readTest N n) x (pv s t l b) K
    unfold w_readPart
    exact p_fineB hb ⟨fun z => absurd rfl z, fun _ => h⟩
  have h4 : ∀ K : mS → Prop, K (pv s t l b) → ∀ n, 2 ≤ n → g_readTest N n 4 x (pv s t l b) K := fun K h n hn => by
    obtain ⟨n, rfl⟩ : ∃ u, n = u + 1 := ⟨n - 1, by omega⟩
    show w_readTerm N (g_readTest N n) x (pv s t l b) K
    unfold w_readTerm
    refine h5 _ ?_ n (by omega)
    rw [hu]
    simp only [w_readTerm_5, w_sign]
    exact p_takesB hb ⟨fun z => absurd rfl z, fun _ => p_takesB hb ⟨fun z => absurd rfl z, fun _ => p_takesB hb ⟨fun _ => h, fun z => absurd rfl z⟩⟩⟩
  have h3 : ∀ K : mS → Prop, K (pv s t l b) → ∀ n, 3 ≤ n → g_readTest N n 3 x (pv s t l b) K := fun K h n hn => by
    obtain ⟨n, rfl⟩ : ∃ u, n = u + 1 := ⟨n - 1, by omega⟩
    show w_readSum N (g_readTest N n) x (pv s t l b) K
    unfold w_readSum
    refine h4 _ ?_ n (by omega)
    rw [hu]
    simp only [w_readSum_5, w_sign]
    exact p_takesB hb ⟨fun z => absurd rfl z, fun _ => p_takesB hb ⟨fun _ => h, fun z => absurd rfl z⟩⟩
  have h2 : ∀ K : mS → Prop, K (pv s t l b) → ∀ n, 1 ≤ n → g_readTest N n 2 x (pv s t l b) K := fun K h n hn => by
    obtain ⟨n, rfl⟩ : ∃ u, n = u + 1 := ⟨n - 1, by omega⟩
    show w_readPlain N (g_readTest N n) x (pv s t l b) K
    unfold w_readPlain
    rw [hu]
    simp only [w_readPlain_2]
    exact ⟨fun z => absurd z (by decide), fun _ => p_takesB hb ⟨fun _ => p_fineB hb ⟨fun z => absurd rfl z, fun _ => h⟩, fun z => absurd rfl z⟩⟩
  have h1 : ∀ K : mS → Prop, K (pv s t l b) → ∀ n, 2 ≤ n → g_readTest N n 1 x (pv s t l b) K := fun K h n hn => by
    obtain ⟨n, rfl⟩ : ∃ u, n = u + 1 := ⟨n - 1, by omega⟩
    show w_readBoth N (g_readTest N n) x (pv s t l b) K
    unfold w_readBoth
    refine h2 _ ?_ n (by omega)
    rw [hu]
    simp only [w_readBoth_5]
    exact p_takesB hb ⟨fun _ => h, fun z => absurd rfl z⟩
  have h0 : ∀ K : mS → Prop, K (pv s t l b) → ∀ n, 3 ≤ n → g_readTest N n 0 x (pv s t l b) K := fun K h n hn => by
    obtain ⟨n, rfl⟩ : ∃ u, n = u + 1 := ⟨n - 1, by omega⟩
    show w_readTest N (g_readTest N n) x (pv s t l b) K
    unfold w_readTest
    refine h1 _ ?_ n (by omega)
    rw [hu]
    simp only [w_readTest_5]
    exact p_takesB hb ⟨fun _ => h, fun z => absurd rfl z⟩
  exact ⟨h5 K h, h4 K h, h3 K h, h2 K h, h1 K h, h0 K h⟩
/-- the reference's member of the recursion goes as the parser's item, d deep -/
def rIt {α : Type} (rc : Nat → Int32 → mS → (mS → Prop) → Prop) (mem : Nat) (x : Int32) (s : mS) (T : Nat) (pl : Nat → Int32) (item : Nat → Nat → pR (Nat × Nat × α)) : Prop := ∀ i l K, i ≤ T → l ≤ 50 → rQ s pl (item i l) K → rc mem x (pv s (nI i) (nI l) (-1)) K
theorem r_termLoop {α : Type} {rc : Nat → Int32 → mS → (mS → Prop) → Prop} {x : Int32} {item : Nat → Nat → pR (Nat × Nat × α)} {cb : Int32 → α → α → α} (hC : tkP s T cd vl pl) (hm : pM T item) (hit : rIt rc 5 x s T pl item) : ∀ f t i l a, i ≤ T → l ≤ 50 → T + 1 ≤ i + f → f ≤ t → ∀ Kr K : mS → Prop, rQ s pl (pLoop cd sepT item cb f i l a) K → w_readTerm_5 N rc x Kr K t (pv s (nI i) (nI l) (-1)) := by
  have hz := hC.2.2.1
  have hp := hC.2.2.2
  intro f
  induction f with
  | zero =>
    intro t i l a hi hl hf
    omega
  | succ f ih =>
    intro t i l a hi hl hf ht Kr K h
    obtain ⟨t, rfl⟩ : ∃ u, t = u + 1 := ⟨t - 1, by omega⟩
    rw [pLoop_s] at h
    simp only [w_readTerm_5, w_sign, qq142, qq147, qq137]
    by_cases hs : sepT (cd i) = true
    · rw [if_pos hs] at h
      have hlt : i < T := Nat.lt_of_not_le fun z => by
        rw [hz i z] at hs
        exact absurd hs (by decide)
      have step : rc 5 x (pv s (nI (i + 1)) (nI l) (-1)) (fun s107 => w_readTerm_5 N rc x Kr K t s107) := by
        refine hit (i + 1) l _ hlt hl (rQ_b h (fun z hz q => ?_) (fun e t' l' he hk => ?_))
        · have hm1 := (hm (i + 1) l hlt).2 z hz
          exact ih t z.1 z.2.1 _ hm1.2.1 (hm1.2.2.2 hl) (by omega) (by omega) Kr K q
        · obtain ⟨t, rfl⟩ : ∃ u, t = u + 1 := ⟨t - 1, by have := ((hm (i + 1) l hlt).1 e he); omega⟩
          simp only [w_readTerm_5, w_sign]
          exact p_takesB (hp e) ⟨fun z => absurd rfl z, fun _ => p_takesB (hp e) ⟨fun z => absurd rfl z, fun _ => p_takesB (hp e) ⟨fun _ => hk, fun z => absurd rfl z⟩⟩⟩
      refine p_takes hC hi (fun _ => ⟨fun _ => step, fun z => absurd z (by decide)⟩) (fun n1 => ⟨fun z => absurd rfl z, fun _ => ?_⟩)
      refine p_takes hC hi (fun _ => ⟨fun _ => step, fun z => absurd z (by decide)⟩) (fun n2 => ⟨fun z => absurd rfl z, fun _ => ?_⟩)
      refine p_takes hC hi (fun _ => ⟨fun z => absurd z (by decide), fun _ => step⟩) (fun n3 => ?_)
      exfalso
      simp only [sepT, Bool.or_eq_true, beq_iff_eq] at hs
      rcases hs with (z | z) | z
      · exact n1 z
      · exact n2 z
      · exact n3 z
    · rw [if_neg hs] at h
      have hs' : ¬ cd i = 142 ∧ ¬ cd i = 147 ∧ ¬ cd i = 137 := by
        simp only [sepT, Bool.or_eq_true, beq_iff_eq] at hs
        exact ⟨fun z => hs (Or.inl (Or.inl z)), fun z => hs (Or.inl (Or.inr z)), fun z => hs (Or.inr z)⟩
      exact p_takes hC hi (fun z => absurd z hs'.1) (fun _ => ⟨fun z => absurd rfl z, fun _ => p_takes hC hi (fun z => absurd z hs'.2.1) (fun _ => ⟨fun z => absurd rfl z, fun _ => p_takes hC hi (fun z => absurd z hs'.2.2) (fun _ => ⟨fun _ => h.1 _ rfl, fun z => absurd rfl z⟩)⟩)⟩)
theorem r_sumLoop {α : Type} {rc : Nat → Int32 → mS → (mS → Prop) → Prop} {x : Int32} {item : Nat → Nat → pR (Nat × Nat × α)} {cb : Int32 → α → α → α} (hC : tkP s T cd vl pl) (hm : pM T item) (hit : rIt rc 4 x s T pl item) : ∀ f t i l a, i ≤ T → l ≤ 50 → T + 1 ≤ i + f → f ≤ t → ∀ Kr K : mS → Prop, rQ s pl (pLoop cd sepS item cb f i l a) K → w_readSum_5 N rc x Kr K t (pv s (nI i) (nI l) (-1)) := by
  have hz := hC.2.2.1
  have hp := hC.2.2.2
  intro f
  induction f with
  | zero =>
    intro t i l a hi hl hf
    omega
  | succ f ih =>
    intro t i l a hi hl hf ht Kr K h
    obtain ⟨t, rfl⟩ : ∃ u, t = u + 1 := ⟨t - 1, by omega⟩
    rw [pLoop_s] at h
    simp only [w_readSum_5, w_sign, qq143, qq145]
    by_cases hs : sepS (cd i) = true
    · rw [if_pos hs] at h
      have hlt : i < T := Nat.lt_of_not_le fun z => by
        rw [hz i z] at hs
        exact absurd hs (by decide)
      have step : rc 4 x (pv s (nI (i + 1)) (nI l) (-1)) (fun s107 => w_readSum_5 N rc x Kr K t s107) := by
        refine hit (i + 1) l _ hlt hl (rQ_b h (fun z hz q => ?_) (fun e t' l' he hk => ?_))
        · have hm1 := (hm (i + 1) l hlt).2 z hz
          exact ih t z.1 z.2.1 _ hm1.2.1 (hm1.2.2.2 hl) (by omega) (by omega) Kr K q
        · obtain ⟨t, rfl⟩ : ∃ u, t = u + 1 := ⟨t - 1, by have := ((hm (i + 1) l hlt).1 e he); omega⟩
          simp only [w_readSum_5, w_sign]
          exact p_takesB (hp e) ⟨fun z => absurd rfl z, fun _ => p_takesB (hp e) ⟨fun _ => hk, fun z => absurd rfl z⟩⟩
      refine p_takes hC hi (fun _ => ⟨fun _ => step, fun z => absurd z (by decide)⟩) (fun n1 => ⟨fun z => absurd rfl z, fun _ => ?_⟩)
      refine p_takes hC hi (fun _ => ⟨fun z => absurd z (by decide), fun _ => step⟩) (fun n2 => ?_)
      exfalso
      simp only [sepS, Bool.or_eq_true, beq_iff_eq] at hs
      exact hs.elim n1 n2
    · rw [if_neg hs] at h
      have hs' : ¬ cd i = 143 ∧ ¬ cd i = 145 := by
        simp only [sepS, Bool.or_eq_true, beq_iff_eq] at hs
        exact ⟨fun z => hs (Or.inl z), fun z => hs (Or.inr z)⟩
      exact p_takes hC hi (fun z => absurd z hs'.1) (fun _ => ⟨fun z => absurd rfl z, fun _ => p_takes hC hi (fun z => absurd z hs'.2) (fun _ => ⟨fun _ => h.1 _ rfl, fun z => absurd rfl z⟩)⟩)
theorem r_bothLoop {α : Type} {rc : Nat → Int32 → mS → (mS → Prop) → Prop} {x : Int32} {item : Nat → Nat → pR (Nat × Nat × α)} {cb : Int32 → α → α → α} (hC : tkP s T cd vl pl) (hm : pM T item) (hit : rIt rc 2 x s T pl item) : ∀ f t i l a, i ≤ T → l ≤ 50 → T + 1 ≤ i + f → f ≤ t → ∀ Kr K : mS → Prop, rQ s pl (pLoop cd (fun c => c == 6) item cb f i l a) K → w_readBoth_5 N rc x Kr K t (pv s (nI i) (nI l) (-1)) := by
  have hz := hC.2.2.1
  have hp := hC.2.2.2
  intro f
  induction f with
  | zero =>
    intro t i l a hi hl hf
    omega
  | succ f ih =>
    intro t i l a hi hl hf ht Kr K h
    obtain ⟨t, rfl⟩ : ∃ u, t = u + 1 := ⟨t - 1, by omega⟩
    rw [pLoop_s] at h
    simp only [w_readBoth_5]
    by_cases hs : cd i = 6
    · rw [if_pos (by rw [hs]; rfl)] at h
      have hlt : i < T := cd_lt hz hs (by decide)
      refine p_takes hC hi (fun _ => ⟨fun z => absurd z (by decide), fun _ => ?_⟩) (fun n1 => absurd hs n1)
      refine hit (i + 1) l _ hlt hl (rQ_b h (fun z hz q => ?_) (fun e t' l' he hk => ?_))
      · have hm1 := (hm (i + 1) l hlt).2 z hz
        exact ih t z.1 z.2.1 _ hm1.2.1 (hm1.2.2.2 hl) (by omega) (by omega) Kr K q
      · obtain ⟨t, rfl⟩ : ∃ u, t = u + 1 := ⟨t - 1, by have := ((hm (i + 1) l hlt).1 e he); omega⟩
        simp only [w_readBoth_5]
        exact p_takesB (hp e) ⟨fun _ => hk, fun z => absurd rfl z⟩
    · rw [if_neg (by simpa using hs)] at h
      exact p_takes hC hi (fun z => absurd z hs) (fun _ => ⟨fun _ => h.1 _ rfl, fun z => absurd rfl z⟩)
theorem r_testLoop {α : Type} {rc : Nat → Int32 → mS → (mS → Prop) → Prop} {x : Int32} {item : Nat → Nat → pR (Nat × Nat × α)} {cb : Int32 → α → α → α} (hC : tkP s T cd vl pl) (hm : pM T item) (hit : rIt rc 1 x s T pl item) : ∀ f t i l a, i ≤ T → l ≤ 50 → T + 1 ≤ i + f → f ≤ t → ∀ Kr K : mS → Prop, rQ s pl (pLoop cd (fun c => c == 5) item cb f i l a) K → w_readTest_5 N rc x Kr K t (pv s (nI i) (nI l) (-1)) := by
  have hz := hC.2.2.1
  have hp := hC.2.2.2
  intro f
  induction f with
  | zero =>
    intro t i l a hi hl hf
    omega
  | succ f ih =>
    intro t i l a hi hl hf ht Kr K h
    obtain ⟨t, rfl⟩ : ∃ u, t = u + 1 := ⟨t - 1, by omega⟩
    rw [pLoop_s] at h
    simp only [w_readTest_5]
    by_cases hs : cd i = 5
    · rw [if_pos (by rw [hs]; rfl)] at h
      have hlt : i < T := cd_lt hz hs (by decide)
      refine p_takes hC hi (fun _ => ⟨fun z => absurd z (by decide), fun _ => ?_⟩) (fun n1 => absurd hs n1)
      refine hit (i + 1) l _ hlt hl (rQ_b h (fun z hz q => ?_) (fun e t' l' he hk => ?_))
      · have hm1 := (hm (i + 1) l hlt).2 z hz
        exact ih t z.1 z.2.1 _ hm1.2.1 (hm1.2.2.2 hl) (by omega) (by omega) Kr K q
      · obtain ⟨t, rfl⟩ : ∃ u, t = u + 1 := ⟨t - 1, by have := ((hm (i + 1) l hlt).1 e he); omega⟩
        simp only [w_readTest_5]
        exact p_takesB (hp e) ⟨fun _ => hk, fun z => absurd rfl z⟩
    · rw [if_neg (by simpa using hs)] at h
      exact p_takes hC hi (fun z => absurd z hs) (fun _ => ⟨fun _ => h.1 _ rfl, fun z => absurd rfl z⟩)
theorem r_leaf (hC : tkP s T cd vl pl) (hW : wdR s io) {rc : Nat → Int32 → mS → (mS → Prop) → Prop} {x : Int32} {i l : Nat} {K : mS → Prop} (hi : i ≤ T) (hl : l ≤ 50) (hn : ¬ cd i = 191) (h : rQ s pl (pLeaf cd vl io i l) K) : w_readPart N rc x (pv s (nI i) (nI l) (-1)) K := by
  have hC2 := hC
  obtain ⟨hT, h3, hz, hp⟩ := hC2
  have hv := vp_in_nI (n := i) (N := 401) (by omega) (by decide)
  have e2 : mAt (pv s (nI i) (nI l) (-1)) 15 (nI i) = cd i := by
    show s.2.1 15 (nI i).toNatClampNeg = cd i
    rw [nI_clamp (by omega)]
    exact (h3 i hi).1
  have e3 : mAt (pv s (nI i) (nI l) (-1)) 16 (nI i) = vl i := by
    show s.2.1 16 (nI i).toNatClampNeg = vl i
    rw [nI_clamp (by omega)]
    exact (h3 i hi).2.1
  unfold pLeaf at h
  have hle : ∀ a b : Int32, ¬ a < b ↔ b ≤ a := fun a b => by
    rw [Int32.lt_iff_toInt_lt, Int32.le_iff_toInt_le]
    omega
  have h111 : ((cd i = 50 ∧ vl i ≤ 1000) ∨ isW io (cd i) = true) → w_readPart_111 N rc (cd i) K (pv s (nI i) (nI l) (-1)) := fun hc => by
    rw [if_pos hc] at h
    have hlt : i < T := hc.elim (fun z => cd_lt hz z.1 (by decide)) (isW_lt hz)
    unfold w_readPart_111 w_leaf
    rw [pv_20]
    refine ⟨fun n50 => ?_, fun l50 => ?_⟩
    · have hl50 : ¬ l = 50 := fun z => n50 (by rw [z]; rfl)
      rw [if_neg hl50] at h
      unfold w_leaf_13
      intro s' e'
      rw [pv_20, pv_w20, ← nI_succ] at e'
      subst e'
      refine p_fine ⟨fun z => absurd z (by decide), fun _ s' e' => ?_⟩
      rw [pv_19, pv_w19, ← nI_succ] at e'
      subst e'
      rw [pv_o _ _ _ _ (by decide) (by decide) (by decide)]
      by_cases h5 : cd i = 50
      · rw [if_pos h5] at h
        have hk := h.1 _ rfl
        exact ⟨fun _ => hk, fun _ => ⟨fun z => absurd (h5.symm.trans z) (by decide), fun _ => ⟨fun _ => hk, fun z => absurd (h5.symm.trans z) (by decide)⟩⟩⟩
      · rw [if_neg h5] at h
        by_cases h6 : io = true ∧ (cd i = 15 ∨ cd i = 16)
        · rw [if_pos h6] at h
          have hnum : w_mustNumber 0 11 (pv s (nI (i + 1)) (nI (l + 1)) (-1)) K := by
            refine p_number hC hlt (fun g1 g2 g3 => ?_) (fun g => ?_)
            · rw [if_pos ⟨g1, g2, g3⟩] at h
              exact h.1 _ rfl
            · rw [if_neg g] at h
              exact h.2 _ rfl _ _
          exact ⟨fun z => absurd z (hW.2 h6.1).2.2, fun _ => ⟨fun _ => hnum, fun n15 => ⟨fun n16 => absurd h6.2 (fun z => z.elim n15 n16), fun _ => hnum⟩⟩⟩
        · rw [if_neg h6] at h
          have hk := h.1 _ rfl
          refine ⟨fun _ => hk, fun h10 => ?_⟩
          have hio : io = true := by
            cases io with
            | true => rfl
            | false => exact absurd (hW.1 rfl).2.2 h10
          exact ⟨fun z => absurd ⟨hio, Or.inl z⟩ h6, fun _ => ⟨fun _ => hk, fun z => absurd ⟨hio, Or.inr z⟩ h6⟩⟩
    · have hl50 : l = 50 := by
        have := congrArg Int32.toInt l50
        rw [nI_toInt (by omega)] at this
        have e50 : (50 : Int32).toInt = 50 := by decide
        rw [e50] at this
        omega
      rw [if_pos hl50] at h
      refine p_faults hC hi ?_
      unfold w_leaf_13
      intro s' e'
      rw [pv_20, pv_w20] at e'
      subst e'
      refine p_fineB (hp i) ⟨fun _ => ?_, fun z => absurd rfl z⟩
      have hk : ∀ l', K (pv s (nI i) l' (pl i)) := fun l' => h.2 i rfl _ _
      exact ⟨fun _ => hk _, fun _ => ⟨fun _ => p_numberB (hp i) (hk _), fun _ => ⟨fun _ => hk _, fun _ => p_numberB (hp i) (hk _)⟩⟩⟩
  have hno : ¬ ((cd i = 50 ∧ vl i ≤ 1000) ∨ isW io (cd i) = true) → w_faults (pv s (nI i) (nI l) (-1)) (fun s => K s) := fun hc => by
    rw [if_neg hc] at h
    exact p_faults hC hi (h.2 i rfl _ _)
  have h95 : ¬ (cd i = 50 ∧ vl i ≤ 1000) → w_readPart_95 N rc (cd i) K (pv s (nI i) (nI l) (-1)) := fun n5 => by
    unfold w_readPart_95
    rw [pv_o _ _ _ _ (by decide) (by decide) (by decide), pv_o _ _ _ _ (by decide) (by decide) (by decide)]
    cases io with
    | false =>
      obtain ⟨g8, g9, -⟩ := hW.1 rfl
      rw [g8, g9]
      refine ⟨fun z => hno (fun q => ?_), fun z => ⟨fun z2 => hno (fun q => ?_), fun z2 => h111 (Or.inr ?_)⟩⟩
      · have := q.resolve_left n5
        simp only [isW, Bool.false_eq_true, if_false, Bool.and_eq_true, decide_eq_true_eq] at this
        exact (hle _ _).mpr this.1 z
      · have := q.resolve_left n5
        simp only [isW, Bool.false_eq_true, if_false, Bool.and_eq_true, decide_eq_true_eq] at this
        exact (hle _ _).mpr this.2 z2
      · simp only [isW, Bool.false_eq_true, if_false, Bool.and_eq_true, decide_eq_true_eq]
        exact ⟨(hle _ _).mp z, (hle _ _).mp z2⟩
    | true =>
      obtain ⟨g8, g9, -⟩ := hW.2 rfl
      rw [g8, g9]
      refine ⟨fun z => hno (fun q => ?_), fun z => ⟨fun z2 => hno (fun q => ?_), fun z2 => h111 (Or.inr ?_)⟩⟩
      · have := q.resolve_left n5
        simp only [isW, if_true, Bool.and_eq_true, decide_eq_true_eq] at this
        exact (hle _ _).mpr this.1 z
      · have := q.resolve_left n5
        simp only [isW, if_true, Bool.and_eq_true, decide_eq_true_eq] at this
        exact (hle _ _).mpr this.2 z2
      · simp only [isW, if_true, Bool.and_eq_true, decide_eq_true_eq]
        exact ⟨(hle _ _).mp z, (hle _ _).mp z2⟩
  unfold w_readPart
  refine p_fine ⟨fun _ => ?_, fun z => absurd z (by decide)⟩
  rw [pv_19, e2]
  refine ⟨hv, fun x' ex => ?_⟩
  subst ex
  simp only [w_sign, qq191]
  rw [e3]
  exact ⟨fun _ => ⟨fun n5 => h95 (fun z => n5 z.1), fun c5 => ⟨hv, fun hle2 => h111 (Or.inl ⟨c5, hle2⟩), fun hg => h95 (fun z => hg z.2)⟩⟩, fun z => absurd z hn⟩
end RD2
