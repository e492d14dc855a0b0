set_option maxRecDepth 100000
/-! ===== the reference's splitting ===== -/
theorem mI_mI (s : mS) (j : Nat) (i x y : Int32) : mI (mI s j i x) j i y = mI s j i y := by
  refine Prod.ext rfl (Prod.ext (funext fun q => funext fun k => ?_) rfl)
  show (if q = j then upd (if j = j then upd (s.2.1 j) i.toNatClampNeg x else s.2.1 j) i.toNatClampNeg y else if q = j then upd (s.2.1 j) i.toNatClampNeg x else s.2.1 q) k = (if q = j then upd (s.2.1 j) i.toNatClampNeg y else s.2.1 q) k
  by_cases h : q = j
  · rw [if_pos h, if_pos h, if_pos rfl]
    unfold upd
    by_cases h2 : k = i.toNatClampNeg
    · rw [if_pos h2, if_pos h2]
    · rw [if_neg h2, if_neg h2, if_neg h2]
  · rw [if_neg h, if_neg h, if_neg h]
theorem mI_at (s : mS) (j : Nat) {k : Nat} (x : Int32) (hk : k < 2 ^ 31) (k2 : Nat) : (mI s j (nI k) x).2.1 j k2 = if k2 = k then x else s.2.1 j k2 := by
  show (if j = j then upd (s.2.1 j) (nI k).toNatClampNeg x else s.2.1 j) k2 = _
  rw [if_pos rfl, nI_clamp hk]
  rfl
theorem mI_o (s : mS) {j q : Nat} (i x : Int32) (h : q ≠ j) : (mI s j i x).2.1 q = s.2.1 q := if_neg h
theorem mF_o (s : mS) {j q : Nat} (x : Int32) (h : q ≠ j) : (mF s j x).1 q = s.1 q := if_neg h
section SPL
variable {N : Nat × Nat} {tp : Nat → Int32} {n : Nat} {s : mS}
theorem w169 (hn : n ≤ 400) {s : mS} (htp : ∀ k, k < 400 → s.2.1 11 k = tp k) {to tk : Nat} {b x1 : Int32} {Kr K : mS → Prop} (hto : to ≤ 400) (htk : tk ≤ 400) (h18 : mFd s 18 = nI tk) (hb : isDg b = true) : ∀ f t k v, k ≤ to → to < k + f → f ≤ t → K (mI s 16 (nI tk) (valW tp to f k v)) → w_splits_169 N x1 b (nI to) Kr K t (nI k) (mI s 16 (nI tk) v) := by
  intro f
  induction f with
  | zero =>
    intro t k v hk hf
    omega
  | succ f ih =>
    intro t k v hk hf ht h
    obtain ⟨t, rfl⟩ : ∃ u, t = u + 1 := ⟨t - 1, by omega⟩
    have e1 : valW tp to (f + 1) k v = if k < to then valW tp to f (k + 1) (if v ≤ 1000000 then ((10 * v) + tp k) - 48 else v) else v := rfl
    rw [e1] at h
    simp only [w_splits_169]
    have e18 : mFd (mI s 16 (nI tk) v) 18 = nI tk := h18
    have eat : mAt (mI s 16 (nI tk) v) 16 (nI tk) = v := by
      rw [mAt_n (by omega), mI_at _ _ _ (by omega), if_pos rfl]
    have hv := vp_in_nI (n := tk) (N := 401) (by omega) (by decide)
    rw [nI_leI (by omega) (by omega), e18, eat]
    refine ⟨fun c => ?_, fun c => wdigit ?_⟩
    · rw [if_neg (by omega)] at h
      exact h
    · rw [if_pos (by omega)] at h
      rw [hb, bI_t]
      refine ⟨fun z => absurd z (by decide), fun _ => ⟨hv, fun le => ⟨hv, vp_in_nI (by omega) (by decide), hv, fun s' e' x hx => ?_⟩, fun gt => ⟨hv, hv, fun s' e' x hx => ?_⟩⟩⟩
      · rw [if_pos le] at h
        rw [nI_1] at hx
        subst hx
        have et : mAt (mI s 16 (nI tk) v) 11 (nI k) = tp k := by
          rw [mAt_n (by omega), mI_o _ _ _ (by decide)]
          exact htp k (by omega)
        rw [et, mI_mI] at e'
        subst e'
        exact ih t (k + 1) _ (by omega) (by omega) (by omega) h
      · rw [if_neg gt] at h
        rw [nI_1] at hx
        subst hx
        rw [mI_mI] at e'
        subst e'
        exact ih t (k + 1) _ (by omega) (by omega) (by omega) h
/-- i tokens are laid; all else is as it was -/
def spI (tp : Nat → Int32) (n : Nat) (s0 : mS) (i : Nat) (s : mS) : Prop := mFd s 18 = nI i ∧ (∀ j, j < i → s.2.1 15 j = cdT tp n j ∧ s.2.1 16 j = vlT tp n j ∧ s.2.1 17 j = plT tp n j) ∧ (∀ j, j ≠ 18 → s.1 j = s0.1 j) ∧ (∀ q, q ≠ 15 → q ≠ 16 → q ≠ 17 → s.2.1 q = s0.2.1 q) ∧ s.2.2 = s0.2.2
theorem w100 (hN : 402 ≤ N.1) (hn : n ≤ 400) {s0 s : mS} (htp : ∀ k, k < 400 → s0.2.1 11 k = tp k) (hwd : ∀ j (hj : j < (flatW wrdL).length), s0.2.1 7 j = (flatW wrdL)[j]) {i : Nat} (hI : spI tp n s0 i s) (hi : tokP tp n i < n) {Kr K : mS → Prop} {R : Int32 → mS → Prop} (h : ∀ s', spI tp n s0 (i + 1) s' → R (nI (en tp n (tokP tp n i))) s') : w_splits_100 N (nI n) (nI (tokP tp n i)) (tp (tokP tp n i)) (nI (en tp n (tokP tp n i))) Kr K R s := by
  obtain ⟨h18, hold, hF, hA, hL⟩ := hI
  have hiT : i < 401 := by
    have := tokP_ge i hi
    omega
  have hen := en_le (tp := tp) hi
  have hv := vp_in_nI (n := i) (N := 401) hiT (by decide)
  have hs : ∀ j, j ≠ 18 → ∀ q, q ≠ j → True := fun _ _ _ _ => trivial
  unfold w_splits_100
  rw [h18]
  refine ⟨hv, fun s2 e2 => ?_⟩
  have f2 : mFd s2 18 = nI i := by rw [e2]; exact h18
  rw [f2]
  refine ⟨hv, fun s4 e4 => ?_⟩
  have f4 : mFd s4 18 = nI i := by rw [e4]; exact f2
  rw [f4]
  have h4 : (∀ j, j ≠ 18 → s4.1 j = s0.1 j) ∧ (∀ q, q ≠ 15 → q ≠ 16 → q ≠ 17 → s4.2.1 q = s0.2.1 q) ∧ s4.2.2 = s0.2.2 := by
    subst e4 e2
    exact ⟨hF, fun q h1 h2 h3 => by rw [mI_o _ _ _ h2, mI_o _ _ _ h3]; exact hA q h1 h2 h3, hL⟩
  have a17 : ∀ k, s4.2.1 17 k = if k = i then plT tp n i else s.2.1 17 k := fun k => by
    subst e4 e2
    rw [mI_o _ _ _ (by decide), mI_at _ _ _ (by omega)]
    rfl
  have a16 : ∀ k, k ≠ i → s4.2.1 16 k = s.2.1 16 k := fun k hk => by
    subst e4 e2
    rw [mI_at _ _ _ (by omega), if_neg hk, mI_o _ _ _ (by decide)]
  have a16i : s4.2.1 16 i = 0 := by
    subst e4 e2
    rw [mI_at _ _ _ (by omega), if_pos rfl]
  have a15 : ∀ k, s4.2.1 15 k = s.2.1 15 k := fun k => by
    subst e4 e2
    rw [mI_o _ _ _ (by decide), mI_o _ _ _ (by decide)]
  have self16 : mI s4 16 (nI i) 0 = s4 := by
    subst e4
    exact mI_mI _ _ _ _ _
  have fin : ∀ c : Int32, c = cdT tp n i → w_splits_165 N (nI n) (nI (tokP tp n i)) (tp (tokP tp n i)) (nI (en tp n (tokP tp n i))) (nI i) c Kr K R s4 := fun c hc => by
    unfold w_splits_165
    refine ⟨hv, fun s5 e5 => ?_⟩
    have f5 : mFd s5 18 = nI i := by rw [e5]; exact f4
    have last : ∀ s6 : mS, s6 = mI s5 16 (nI i) (vlT tp n i) → ∀ s7 : mS, s7 = mF s6 18 (mFd s6 18 + 1) → R (nI (en tp n (tokP tp n i))) s7 := fun s6 e6 s7 e7 => by
      refine h s7 ⟨?_, fun j hj => ?_, fun j hj => ?_, fun q h1 h2 h3 => ?_, ?_⟩
      · subst e7 e6
        show mFd s5 18 + 1 = nI (i + 1)
        rw [f5, nI_1]
      · have b15 : s7.2.1 15 j = if j = i then c else s4.2.1 15 j := by
          subst e7 e6 e5
          show (mI (mI s4 15 (nI i) c) 16 (nI i) (vlT tp n i)).2.1 15 j = _
          rw [mI_o _ _ _ (by decide), mI_at _ _ _ (by omega)]
        have b16 : s7.2.1 16 j = if j = i then vlT tp n i else s4.2.1 16 j := by
          subst e7 e6 e5
          show (mI (mI s4 15 (nI i) c) 16 (nI i) (vlT tp n i)).2.1 16 j = _
          rw [mI_at _ _ _ (by omega), mI_o _ _ _ (by decide)]
        have b17 : s7.2.1 17 j = s4.2.1 17 j := by
          subst e7 e6 e5
          show (mI (mI s4 15 (nI i) c) 16 (nI i) (vlT tp n i)).2.1 17 j = _
          rw [mI_o _ _ _ (by decide), mI_o _ _ _ (by decide)]
        rw [b15, b16, b17, a17, a15]
        by_cases e : j = i
        · rw [if_pos e, if_pos e, if_pos e, e]
          exact ⟨hc, rfl, rfl⟩
        · rw [if_neg e, if_neg e, if_neg e, a16 j e]
          exact hold j (by omega)
      · subst e7 e6 e5
        rw [mF_o _ _ hj]
        exact h4.1 j hj
      · subst e7 e6 e5
        show (mI (mI s4 15 (nI i) c) 16 (nI i) (vlT tp n i)).2.1 q = _
        rw [mI_o _ _ _ h2, mI_o _ _ _ h1]
        exact h4.2.1 q h1 h2 h3
      · subst e7 e6 e5
        exact h4.2.2
    have s5z : mI s5 16 (nI i) 0 = s5 := by
      rw [e5]
      refine Prod.ext rfl (Prod.ext (funext fun q => funext fun k => ?_) rfl)
      by_cases hq : q = 16
      · subst hq
        rw [mI_at _ _ _ (by omega), mI_o _ _ _ (by decide)]
        by_cases hk : k = i
        · rw [if_pos hk, hk, a16i]
        · rw [if_neg hk]
      · rw [mI_o _ _ _ hq]
    cases hb : isDg (tp (tokP tp n i)) with
    | true =>
      have hvl : vlT tp n i = valW tp (en tp n (tokP tp n i)) 401 (tokP tp n i) 0 := by
        unfold vlT
        rw [if_pos ⟨hi, hb⟩]
      have := w169 (N := N) (tp := tp) (s := s5) (x1 := nI n) (Kr := Kr) (K := fun s103 => ∀ s104 : mS, s104 = mF s103 18 (mFd s103 18 + 1) → R (nI (en tp n (tokP tp n i))) s104) hn (fun k hk => by rw [e5, mI_o _ _ _ (by decide), h4.2.1 11 (by decide) (by decide) (by decide)]; exact htp k hk) (to := en tp n (tokP tp n i)) (tk := i) (by omega) (by omega) f5 hb 401 N.1 (tokP tp n i) 0 (by omega) (by omega) (by omega) (by rw [← hvl]; exact last _ rfl)
      rw [s5z] at this
      exact this
    | false =>
      have hvl : vlT tp n i = 0 := by
        unfold vlT
        rw [if_neg (fun z => by rw [hb] at z; exact absurd z.2 (by decide))]
      obtain ⟨u, hu⟩ : ∃ u, N.1 = u + 1 := ⟨N.1 - 1, by omega⟩
      rw [hu]
      simp only [w_splits_169]
      rw [nI_leI (by omega) (by omega)]
      have hl := last s5 (by rw [hvl, s5z])
      refine ⟨fun _ => hl, fun _ => wdigit ?_⟩
      rw [hb]
      exact ⟨fun _ => hl, fun z => absurd rfl z⟩
  refine wsmall ?_
  cases hb : isLt (tp (tokP tp n i)) with
  | true =>
    refine ⟨fun z => absurd z (by decide), fun _ => ?_⟩
    refine w_word hN (tp := tp) (fun k hk => by rw [h4.2.1 11 (by decide) (by decide) (by decide)]; exact htp k hk) (fun j hj => by rw [h4.2.1 7 (by decide) (by decide) (by decide)]; exact hwd j hj) (by omega) (by omega) ?_
    refine fin _ ?_
    unfold cdT
    rw [if_pos hi, if_pos hb]
  | false =>
    refine ⟨fun _ => wdigit ?_, fun z => absurd rfl z⟩
    cases hd : isDg (tp (tokP tp n i)) with
    | true =>
      refine ⟨fun z => absurd z (by decide), fun _ => fin _ ?_⟩
      unfold cdT
      rw [if_pos hi, if_neg (by rw [hb]; decide), if_pos hd]
    | false =>
      refine ⟨fun _ => fin _ ?_, fun z => absurd rfl z⟩
      unfold cdT
      rw [if_pos hi, if_neg (by rw [hb]; decide), if_neg (by rw [hd]; decide)]
theorem w7 (hN : 402 ≤ N.1) (hn : n ≤ 400) {s0 : mS} (htp : ∀ k, k < 400 → s0.2.1 11 k = tp k) (hwd : ∀ j (hj : j < (flatW wrdL).length), s0.2.1 7 j = (flatW wrdL)[j]) {Kr K : mS → Prop} (h : ∀ s', spI tp n s0 (tokT tp n) s' → K s') : ∀ f t k i s, k ≤ n → n < k + f → f ≤ t → sk tp n k = tokP tp n i → (∀ j, j < i → tokP tp n j < n) → spI tp n s0 i s → w_splits_7 N (nI n) Kr K t (nI k) s := by
  intro f
  induction f with
  | zero =>
    intro t k i s hk hf
    omega
  | succ f ih =>
    intro t k i s hk hf ht hsk hol hI
    obtain ⟨t, rfl⟩ : ∃ u, t = u + 1 := ⟨t - 1, by omega⟩
    have htp' : ∀ k, k < 400 → s.2.1 11 k = tp k := fun k hk => by
      rw [hI.2.2.2.1 11 (by decide) (by decide) (by decide)]
      exact htp k hk
    simp only [w_splits_7]
    rw [nI_leI (by omega) (by omega)]
    refine ⟨fun c => ?_, fun c => ⟨vp_in_nI (by omega) (by decide), fun b hb => ?_⟩⟩
    · have hk' : k = n := by omega
      have e1 : sk tp n k = k := sk_no (fun z => by omega)
      have e2 : ¬ tokP tp n i < n := by omega
      have e3 : i = tokT tp n := by
        have a1 : ¬ i < tokT tp n := fun z => e2 ((tokT_iff hn i).mp z)
        have a2 : ¬ tokT tp n < i := fun z => by
          have := hol _ z
          have := tokP_T (tp := tp) hn
          omega
        omega
      rw [e3] at hI
      exact h s hI
    · rw [mAt_n (by omega), htp' k (by omega)] at hb
      subst hb
      refine ⟨fun n32 x hx => ?_, fun c32 x hx => ?_⟩
      · rw [nI_1] at hx
        subst hx
        have e1 : sk tp n k = k := sk_no (fun z => n32 z.2)
        have ek : k = tokP tp n i := by rw [← hsk, e1]
        have hkn : tokP tp n i < n := by omega
        have hen := en_le (tp := tp) hkn
        have cont : ∀ s', spI tp n s0 (i + 1) s' → w_splits_7 N (nI n) Kr K t (nI (en tp n (tokP tp n i))) s' := fun s' hI' => by
          refine ih t (en tp n (tokP tp n i)) (i + 1) s' hen.2 (by omega) (by omega) ?_ (fun j hj => ?_) hI'
          · rw [tokP_s, if_pos hkn]
          · by_cases e : j = i
            · rw [e]
              exact hkn
            · exact hol j (by omega)
        have h100 : w_splits_100 N (nI n) (nI k) (tp k) (nI (en tp n k)) Kr K (fun x2 s => w_splits_7 N (nI n) Kr K t x2 s) s := by
          rw [ek]
          exact w100 hN hn htp hwd hI hkn cont
        refine wsmall ?_
        cases hb : isLt (tp k) with
        | true =>
          refine ⟨fun z => absurd z (by decide), fun _ => ?_⟩
          refine w43 htp' hn 401 N.1 (k + 1) (by omega) (by omega) (by omega) ?_
          have e2 : en tp n k = runW isLt tp n 401 (k + 1) := by
            unfold en
            rw [if_pos hb]
          rw [← e2]
          unfold w_splits_68
          refine wdigit ?_
          rw [lt_dg hb]
          exact ⟨fun _ => h100, fun z => absurd rfl z⟩
        | false =>
          refine ⟨fun _ => ?_, fun z => absurd rfl z⟩
          unfold w_splits_68
          refine wdigit ?_
          cases hd : isDg (tp k) with
          | true =>
            refine ⟨fun z => absurd z (by decide), fun _ => ?_⟩
            refine w75 htp' hn 401 N.1 (k + 1) (by omega) (by omega) (by omega) ?_
            have e2 : en tp n k = runW isDg tp n 401 (k + 1) := by
              unfold en
              rw [if_neg (by rw [hb]; decide), if_pos hd]
            rw [← e2]
            exact h100
          | false =>
            have e2 : en tp n k = k + 1 := by
              unfold en
              rw [if_neg (by rw [hb]; decide), if_neg (by rw [hd]; decide)]
            rw [e2] at h100
            exact ⟨fun _ => h100, fun z => absurd rfl z⟩
      · rw [nI_1] at hx
        subst hx
        exact ih t (k + 1) i s (by omega) (by omega) (by omega) (by rw [← sk_sp hn (by omega) c32]; exact hsk) hol hI
/-- the whole of it: the tokens lie in the reader's rows -/
theorem w_split (hN : 402 ≤ N.1) (hn : n ≤ 400) {s0 : mS} (htp : ∀ k, k < 400 → s0.2.1 11 k = tp k) (hwd : ∀ j (hj : j < (flatW wrdL).length), s0.2.1 7 j = (flatW wrdL)[j]) {K : mS → Prop} (h : ∀ s', tkP s' (tokT tp n) (cdT tp n) (vlT tp n) (plT tp n) → mFd s' 18 = nI (tokT tp n) → (∀ j, j ≠ 18 → s'.1 j = s0.1 j) → (∀ q, q ≠ 15 → q ≠ 16 → q ≠ 17 → s'.2.1 q = s0.2.1 q) → s'.2.2 = s0.2.2 → K s') : w_splits N (nI n) s0 K := by
  unfold w_splits
  intro s1 e1
  have hT := tokT_le (tp := tp) hn
  refine w7 hN hn htp hwd (fun s' hI => ?_) 401 N.1 0 0 s1 (Nat.zero_le _) (by omega) (by omega) rfl (fun j hj => by omega) ?_
  · obtain ⟨h18, hold, hF, hA, hL⟩ := hI
    have hv := vp_in_nI (n := tokT tp n) (N := 401) (by omega) (by decide)
    rw [h18]
    refine ⟨hv, fun s2 e2 => ?_⟩
    have f2 : mFd s2 18 = nI (tokT tp n) := by rw [e2]; exact h18
    rw [f2]
    refine ⟨hv, fun s3 e3 => ?_⟩
    have f3 : mFd s3 18 = nI (tokT tp n) := by rw [e3]; exact f2
    rw [f3]
    refine ⟨hv, fun s4 e4 => h s4 ⟨hT, fun k hk => ?_, cdT_z hn, plT_m1 hn⟩ (by rw [e4]; exact f3) ?_ ?_ ?_⟩
    · have b15 : s4.2.1 15 k = if k = tokT tp n then 0 else s'.2.1 15 k := by
        subst e4 e3 e2
        rw [mI_o _ _ _ (by decide), mI_at _ _ _ (by omega), mI_o _ _ _ (by decide)]
      have b16 : s4.2.1 16 k = if k = tokT tp n then 0 else s'.2.1 16 k := by
        subst e4 e3 e2
        rw [mI_at _ _ _ (by omega), mI_o _ _ _ (by decide), mI_o _ _ _ (by decide)]
      have b17 : s4.2.1 17 k = if k = tokT tp n then nI n else s'.2.1 17 k := by
        subst e4 e3 e2
        rw [mI_o _ _ _ (by decide), mI_o _ _ _ (by decide), mI_at _ _ _ (by omega)]
      rw [b15, b16, b17]
      by_cases e : k = tokT tp n
      · rw [if_pos e, if_pos e, if_pos e, e]
        refine ⟨(cdT_z hn _ (Nat.le_refl _)).symm, ?_, ?_⟩
        · unfold vlT
          rw [if_neg (fun z => by have := tokP_T (tp := tp) hn; omega)]
        · unfold plT
          rw [tokP_T hn]
      · rw [if_neg e, if_neg e, if_neg e]
        exact hold k (by omega)
    · subst e4 e3 e2
      exact hF
    · intro q h1 h2 h3
      subst e4 e3 e2
      rw [mI_o _ _ _ h2, mI_o _ _ _ h1, mI_o _ _ _ h3]
      exact hA q h1 h2 h3
    · subst e4 e3 e2
      exact hL
  · subst e1
    exact ⟨rfl, fun j hj => by omega, fun j hj => mF_o _ _ hj, fun q _ _ _ => rfl, rfl⟩
end SPL
