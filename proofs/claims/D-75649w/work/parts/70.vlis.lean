set_option maxRecDepth 100000
/-! ===== listen ===== -/
def bitI (W : Int32) (n : Nat) : Bool := decide (((W >>> (nI n &&& 31)) &&& 1) = 1)
def cntF (F : Nat → Int32) (W : Int32) (n : Nat) : Nat → Int32
  | 0 => 0
  | k + 1 => cntF F W n k + (if bitI W k = true ∧ F n = F k then 1 else 0)
def maxI (x c : Int32) : Int32 := if x < c then c else x
def mstF (F : Nat → Int32) (W : Int32) (q : Nat) : Nat → Int32
  | 0 => 0
  | i + 1 => if bitI W i = true then maxI (mstF F W q i) (cntF F W i q) else mstF F W q i
theorem cntF_n (F : Nat → Int32) (W : Int32) (n : Nat) : ∀ k, ∃ u, u ≤ k ∧ cntF F W n k = nI u
  | 0 => ⟨0, Nat.le_refl _, rfl⟩
  | k + 1 => by
    obtain ⟨u, u1, u2⟩ := cntF_n F W n k
    have e : cntF F W n (k + 1) = cntF F W n k + (if bitI W k = true ∧ F n = F k then 1 else 0) := rfl
    rw [e, u2]
    by_cases c : bitI W k = true ∧ F n = F k
    · rw [if_pos c]
      exact ⟨u + 1, by omega, nI_1 u⟩
    · rw [if_neg c]
      exact ⟨u, by omega, Int32.add_zero _⟩
theorem mstF_n (F : Nat → Int32) (W : Int32) (q : Nat) : ∀ i, ∃ u, u ≤ q ∧ mstF F W q i = nI u
  | 0 => ⟨0, Nat.zero_le _, rfl⟩
  | i + 1 => by
    obtain ⟨u, u1, u2⟩ := mstF_n F W q i
    obtain ⟨w, w1, w2⟩ := cntF_n F W i q
    have e : mstF F W q (i + 1) = if bitI W i = true then maxI (mstF F W q i) (cntF F W i q) else mstF F W q i := rfl
    rw [e]
    by_cases c : bitI W i = true
    · rw [if_pos c]
      unfold maxI
      by_cases d : mstF F W q i < cntF F W i q
      · rw [if_pos d]
        exact ⟨w, w1, w2⟩
      · rw [if_neg d]
        exact ⟨u, u1, u2⟩
    · rw [if_neg c]
      exact ⟨u, u1, u2⟩
theorem v_bitS {W : Int32} {n : Nat} {s : tM} {K : Int32 → tM → Prop} (h : K (bI (bitI W n)) s) : v_X0_has W (nI n) s K := by
  unfold v_X0_has
  unfold bitI at h
  refine ⟨fun z => ?_, fun z => ?_⟩
  · rw [decide_eq_false z] at h
    exact h
  · rw [decide_eq_true z] at h
    exact h
theorem w_isInS {W : Int32} {n : Nat} {K : Int32 → Prop} (h : K (bI (bitI W n))) : w_isIn W (nI n) K := by
  unfold w_isIn
  unfold bitI at h
  refine ⟨fun z => ?_, fun z => ?_⟩
  · rw [decide_eq_false z] at h
    exact h
  · rw [decide_eq_true z] at h
    exact h
theorem w_greaterS {x c : Int32} {K : Int32 → Prop} (h : K (maxI x c)) : w_greater x c K := by
  unfold w_greater
  unfold maxI at h
  refine ⟨fun z => ?_, fun z => ?_⟩
  · by_cases d : x < c
    · rw [if_pos d] at h
      exact h
    · rw [if_neg d] at h
      have : x = c := Int32.toInt_inj.mp (by
        rw [i32_le] at z
        rw [i32_lt] at d
        omega)
      rw [this] at h
      exact h
  · have d : ¬ x < c := fun d => z (by
      rw [i32_lt] at d
      rw [i32_le]
      omega)
    rw [if_neg d] at h
    exact h
section LI
variable {N : tP} {s : tM} {L : Nat → Nat} {M O : Nat → Prop} {m : mS} {F : Nat → Int32} {W : Int32}
theorem v_ma52 (hX : RX N s L M O m) {q n : Nat} (hq : q ≤ 12) (hn : n < q) (hqv : m.2.1 2 41 = nI q) (h23 : ∀ j, j < q → tI s (L 23) j = F j) {x3 : Int32} {Kr K : Int32 → tM → Prop} (hK : K (if bitI W n = true then cntF F W n q else 0) s) : ∀ (c t k : Nat), k + c = q → c < t → v_X0_mostAlike_52 N (L 0) W x3 (nI n) Kr K t (if bitI W n = true then cntF F W n k else 0) (nI k) s
  | _, 0, _, _, h => absurd h (Nat.not_lt_zero _)
  | 0, t + 1, k, hk, _ => by
    have hS := hX.S
    unfold v_X0_mostAlike_52
    refine ⟨hS.o (r := 0) rfl, v_nNotesS hS ?_⟩
    rw [show tI s (L 40) 4 = nI q from hX.many.trans hqv, nI_lle (by omega) (by omega)]
    have : k = q := by omega
    subst this
    exact ⟨fun _ => hK, fun z => absurd (Nat.le_refl _) z⟩
  | c + 1, t + 1, k, hk, ht => by
    have hS := hX.S
    have next := v_ma52 hX hq hn hqv h23 hK (x3 := x3) (Kr := Kr) c t (k + 1) (by omega) (by omega)
    have e : cntF F W n (k + 1) = cntF F W n k + (if bitI W k = true ∧ F n = F k then 1 else 0) := rfl
    rw [e] at next
    unfold v_X0_mostAlike_52
    refine ⟨hS.o (r := 0) rfl, v_nNotesS hS ?_⟩
    rw [show tI s (L 40) 4 = nI q from hX.many.trans hqv, nI_lle (by omega) (by omega)]
    refine ⟨fun z => by omega, fun _ => v_bitS (bI_c (fun hb y hy z hz => ?_) (fun hb => v_bitS (bI_c (fun hb2 y hy z hz => ?_) (fun hb2 => ?_))))⟩
    · rw [hb, if_neg (by decide)] at next
      rw [hb, if_neg (by decide), Int32.add_zero] at hy
      rw [nI_1] at hz
      rw [hy, hz]
      exact next
    · rw [if_pos hb, if_neg (fun z => by rw [hb2] at z; exact absurd z.1 (by decide))] at next
      rw [if_pos hb] at hy
      rw [nI_1] at hz
      rw [hy, hz]
      exact next
    · have t23 := hS.t (r := 0) (j := 23) (q := 23) (by decide)
      rw [t23, nI_clamp (by omega), nI_clamp (by omega), h23 n hn, h23 k (by omega)]
      refine ⟨hS.o (r := 0) rfl, ⟨12, hS.a (r := 23) rfl, vpk (by omega) (by decide)⟩, ⟨12, hS.a (r := 23) rfl, vpk (by omega) (by decide)⟩, fun ne y hy z hz => ?_, fun eq y hy z hz => ?_⟩
      · rw [if_pos hb, if_neg (fun z => ne z.2)] at next
        rw [if_pos hb] at hy
        rw [nI_1] at hz
        rw [hy, hz]
        exact next
      · rw [if_pos hb, if_pos ⟨hb2, eq⟩] at next
        rw [if_pos hb] at hy
        rw [nI_1] at hz
        rw [hy, hz]
        exact next
theorem v_ma37 (hN1 : 60 ≤ N.1) (hX : RX N s L M O m) {q : Nat} (hq : q ≤ 12) (hqv : m.2.1 2 41 = nI q) (h23 : ∀ j, j < q → tI s (L 23) j = F j) {Kr K : Int32 → tM → Prop} (hK : K (mstF F W q q) s) : ∀ (c t i : Nat), i + c = q → c < t → v_X0_mostAlike_37 N (L 0) W Kr K t (mstF F W q i) (nI i) s
  | _, 0, _, _, h => absurd h (Nat.not_lt_zero _)
  | 0, t + 1, i, hi, _ => by
    have hS := hX.S
    unfold v_X0_mostAlike_37
    refine ⟨hS.o (r := 0) rfl, v_nNotesS hS ?_⟩
    rw [show tI s (L 40) 4 = nI q from hX.many.trans hqv, nI_lle (by omega) (by omega)]
    have : i = q := by omega
    subst this
    exact ⟨fun _ => hK, fun z => absurd (Nat.le_refl _) z⟩
  | c + 1, t + 1, i, hi, ht => by
    have hS := hX.S
    have next := v_ma37 hN1 hX hq hqv h23 hK (Kr := Kr) c t (i + 1) (by omega) (by omega)
    obtain ⟨u, u1, u2⟩ := mstF_n F W q i
    have e : mstF F W q (i + 1) = if bitI W i = true then maxI (mstF F W q i) (cntF F W i q) else mstF F W q i := rfl
    rw [e] at next
    unfold v_X0_mostAlike_37
    refine ⟨hS.o (r := 0) rfl, v_nNotesS hS ?_⟩
    rw [show tI s (L 40) 4 = nI q from hX.many.trans hqv, nI_lle (by omega) (by omega)]
    refine ⟨fun z => by omega, fun _ => ?_⟩
    have go := v_ma52 (W := W) hX hq (n := i) (by omega) hqv h23 (x3 := mstF F W q i) (Kr := Kr) (K := fun x105 s106 => (∀ x107 : Int32, x107 = (if (mstF F W q i) < x105 then x105 else (mstF F W q i)) → (∀ x108 : Int32, x108 = (nI i) + 1 → ((fun x3 x4 s => v_X0_mostAlike_37 N (L 0) W Kr K t x3 x4 s) x107 x108 s106)))) (fun y hy z hz => ?_) q N.1 0 (by omega) (by omega)
    · have e0 : (if bitI W i = true then cntF F W i 0 else 0) = (0 : Int32) := by
        by_cases c : bitI W i = true
        · rw [if_pos c]
          rfl
        · rw [if_neg c]
      rw [e0] at go
      exact go
    · rw [nI_1] at hz
      rw [hy, hz]
      by_cases c : bitI W i = true
      · rw [if_pos c] at next ⊢
        exact next
      · rw [if_neg c] at next ⊢
        have : ¬ mstF F W q i < 0 := by
          rw [u2, i32_lt, nI_toInt (by omega), show (0 : Int32).toInt = 0 by decide]
          omega
        rw [if_neg this]
        exact next
theorem v_ma5 {lw : Option (List cL)} (hN : 120 ≤ N.2.1) (hN1 : 60 ≤ N.1) (hX : RX N s L M O m) (hF : inF (m.2.1 2) lw) {q f : Nat} (hq : q ≤ 12) (hf : f < 4) (hqv : m.2.1 2 41 = nI q) {Kr : Int32 → tM → Prop} {K : tM → Prop} (hK : ∀ s', aT L s s' → (∀ j, j < q → tI s' (L 23) j = fct (m.2.1 2) lw j f) → K s') : ∀ (c t i : Nat) (s1 : tM), aT L s s1 → (∀ j, j < i → tI s1 (L 23) j = fct (m.2.1 2) lw j f) → i + c = q → c < t → v_X0_mostAlike_5 N (L 0) W (nI f) 0 Kr K t (nI i) s1
  | _, 0, _, _, _, _, _, h => absurd h (Nat.not_lt_zero _)
  | 0, t + 1, i, s1, h1, hv, hi, _ => by
    have X1 := hX.t h1
    have hS := X1.S
    unfold v_X0_mostAlike_5
    refine ⟨hS.o (r := 0) rfl, v_nNotesS hS ?_⟩
    rw [show tI s1 (L 40) 4 = nI q from X1.many.trans hqv, nI_lle (by omega) (by omega)]
    have : i = q := by omega
    subst this
    exact ⟨fun _ => hK s1 h1 hv, fun z => absurd (Nat.le_refl _) z⟩
  | c + 1, t + 1, i, s1, h1, hv, hi, ht => by
    have X1 := hX.t h1
    have hS := X1.S
    unfold v_X0_mostAlike_5
    refine ⟨hS.o (r := 0) rfl, v_nNotesS hS ?_⟩
    rw [show tI s1 (L 40) 4 = nI q from X1.many.trans hqv, nI_lle (by omega) (by omega)]
    refine ⟨fun z => by omega, fun _ => ⟨hS.o (r := 0) rfl, v_factS hN hN1 X1 hF (n := i) (by omega) hf (fun s2 h2 => ?_)⟩⟩
    have X2 := X1.a h2
    rw [hS.t (r := 0) (j := 23) (q := 23) (by decide), nI_clamp (by omega)]
    refine ⟨⟨12, X2.S.a (r := 23) rfl, vpk (by omega) (by decide)⟩, fun s3 e3 y hy => ?_⟩
    have f23 : fre 23 := ⟨by decide, Or.inr (Or.inl rfl)⟩
    have a3 : aT L s s3 := by
      rw [e3]
      exact aT_t (aT_t h1 (aT_a h2)) (aT_I f23)
    rw [nI_1] at hy
    rw [hy]
    refine v_ma5 hN hN1 hX hF hq hf hqv hK c t (i + 1) s3 a3 (fun j hj => ?_) (by omega) (by omega)
    rw [e3]
    by_cases e : j = i
    · subst e
      exact (if_pos ⟨rfl, rfl⟩ : tI (tsI s2 (L 23) j (fct (m.2.1 2) lw j f)) (L 23) j = fct (m.2.1 2) lw j f)
    · refine (if_neg fun z => e z.2 : tI (tsI s2 (L 23) i _) (L 23) j = tI s2 (L 23) j).trans ?_
      exact (aS_I h2 X1.1 (r := 23) (by decide) (by decide) j).trans (hv j (by omega))
theorem v_mostAlikeS {lw : Option (List cL)} (hN : 120 ≤ N.2.1) (hN1 : 60 ≤ N.1) (hX : RX N s L M O m) (hF : inF (m.2.1 2) lw) {q f : Nat} (hq : q ≤ 12) (hf : f < 4) (hqv : m.2.1 2 41 = nI q) {K : Int32 → tM → Prop} (hK : ∀ s', aT L s s' → K (mstF (fun n => fct (m.2.1 2) lw n f) W q q) s') : v_X0_mostAlike N (L 0) W (nI f) s K := by
  unfold v_X0_mostAlike
  refine v_ma5 hN hN1 hX hF hq hf hqv (fun s1 h1 hv => ?_) q N.1 0 s (aT_r L s) (fun j hj => absurd hj (Nat.not_lt_zero _)) (by omega) (by omega)
  exact v_ma37 (F := fun n => fct (m.2.1 2) lw n f) (W := W) hN1 (hX.t h1) hq hqv hv (hK s1 h1) q N.1 0 (by omega) (by omega)
end LI
