set_option maxRecDepth 100000
/-! ===== listen, both sides ===== -/
def onesF (W : Int32) : Nat → Int32
  | 0 => 0
  | k + 1 => onesF W k + ((W >>> (nI k &&& 31)) &&& 1)
theorem or_n : ∀ i, i < 12 → ∀ w, w < 2 ^ i → nI w ||| 0 = nI w ∧ nI w ||| (1 <<< (nI i &&& 31)) = nI (w + 2 ^ i) := by decide +kernel
theorem ones_n : ∀ w, w < 4096 → decide (onesF (nI w) 12 ≤ 0) = decide (w = 0) := by decide +kernel
theorem canB_n (kp : Nat → Int32) (lw : Option (List cL)) (V : Nat) : ∀ i, i ≤ 12 → ∃ w, w < 2 ^ i ∧ canB kp lw V i = nI w
  | 0, _ => ⟨0, by decide, rfl⟩
  | i + 1, h => by
    obtain ⟨w, w1, w2⟩ := canB_n kp lw V i (by omega)
    obtain ⟨a, b⟩ := or_n i (by omega) w w1
    have e : canB kp lw V (i + 1) = canB kp lw V i ||| (if soB kp lw i V = true then 1 <<< (nI i &&& 31) else 0) := rfl
    have p2 : 2 ^ (i + 1) = 2 ^ i + 2 ^ i := by rw [Nat.pow_succ]; omega
    rw [e, w2]
    by_cases c : soB kp lw i V = true
    · rw [if_pos c]
      exact ⟨w + 2 ^ i, by omega, b⟩
    · rw [if_neg c]
      exact ⟨w, by omega, a⟩
def lsF (C : Nat → Int32) : Nat → Int32 × Int32
  | 0 => (100000000, -1)
  | f + 1 => if C f < (lsF C f).1 then (C f, nI f) else lsF C f
theorem lsF_n {C : Nat → Int32} (h : C 0 < 100000000) : ∀ f, ∃ j, j ≤ f ∧ (lsF C (f + 1)).2 = nI j
  | 0 => ⟨0, Nat.le_refl _, by
    have e : lsF C (0 + 1) = (C 0, nI 0) := if_pos h
    rw [e]⟩
  | f + 1 => by
    obtain ⟨j, j1, j2⟩ := lsF_n h f
    by_cases c : C (f + 1) < (lsF C (f + 1)).1
    · have e : lsF C (f + 1 + 1) = (C (f + 1), nI (f + 1)) := if_pos c
      rw [e]
      exact ⟨f + 1, Nat.le_refl _, rfl⟩
    · have e : lsF C (f + 1 + 1) = lsF C (f + 1) := if_neg c
      rw [e]
      exact ⟨j, by omega, j2⟩
section WL
variable {N : Nat × Nat} {m : mS} {lw : Option (List cL)} {W : Int32}
theorem w_onesL {Kr K : Int32 → Prop} (hK : K (onesF W 12)) : ∀ (c t k : Nat), k + c = 12 → c < t → w_ones_4 N W Kr K t (onesF W k) (nI k)
  | _, 0, _, _, h => absurd h (Nat.not_lt_zero _)
  | 0, t + 1, k, hk, _ => by
    unfold w_ones_4
    have : k = 12 := by omega
    subst this
    exact ⟨fun _ => hK, fun z => absurd (nI_le (Nat.le_refl 12) (by omega)) z⟩
  | c + 1, t + 1, k, hk, ht => by
    unfold w_ones_4
    rw [show (12 : Int32) = nI 12 from rfl, nI_leI (by omega) (by omega)]
    refine ⟨fun z => by omega, fun _ y hy z hz => ?_⟩
    rw [nI_1] at hz
    rw [hy, hz]
    exact w_onesL hK c t (k + 1) (by omega) (by omega)
theorem w_ma20 {kp : Nat → Int32} {q n f : Nat} (hq : q ≤ 12) (hn : n < q) (hf : f < 4) {g : mS} (ek : g.2.1 2 = kp) (hqv : kp 41 = nI q) (hl : fL kp lw q 0 (g.2.1 39)) {x3 : Int32} {Kr K : Int32 → mS → Prop} (hK : K (cntF (fun n => fct kp lw n f) W n q) g) : ∀ (c t k : Nat), k + c = q → c < t → w_mostAlike_20 N W (nI f) x3 (nI n) Kr K t (cntF (fun n => fct kp lw n f) W n k) (nI k) g
  | _, 0, _, _, h => absurd h (Nat.not_lt_zero _)
  | 0, t + 1, k, hk, _ => by
    unfold w_mostAlike_20
    refine w_manyS (v := nI q) (by rw [ek]; exact hqv) ?_
    rw [nI_lle (by omega) (by omega)]
    have : k = q := by omega
    subst this
    exact ⟨fun _ => hK, fun z => absurd (Nat.le_refl _) z⟩
  | c + 1, t + 1, k, hk, ht => by
    have next := w_ma20 hq hn hf ek hqv hl hK (x3 := x3) (Kr := Kr) c t (k + 1) (by omega) (by omega)
    have e : cntF (fun n => fct kp lw n f) W n (k + 1) = cntF (fun n => fct kp lw n f) W n k + (if bitI W k = true ∧ fct kp lw n f = fct kp lw k f then 1 else 0) := rfl
    rw [e] at next
    unfold w_mostAlike_20
    refine w_manyS (v := nI q) (by rw [ek]; exact hqv) ?_
    have e1 : ∀ a, (4 : Int32) * nI a + nI f = nI (4 * a + f) := fun a => by
      rw [show (4 : Int32) * nI a = nI (4 * a) from pk_mul 4 a]
      exact nI_add _ _
    rw [nI_lle (by omega) (by omega)]
    refine ⟨fun z => by omega, fun _ => w_isInS (bI_c (fun hb y hy z hz => ?_) (fun hb => ?_))⟩
    · rw [if_neg (fun z => by rw [hb] at z; exact absurd z.1 (by decide))] at next
      rw [nI_1] at hz
      rw [hy, hz]
      exact next
    · rw [e1, e1, mAt_n (by omega), mAt_n (by omega), hl.1 n hn f hf, hl.1 k (by omega) f hf]
      refine ⟨vpk (by omega) (by decide), vpk (by omega) (by decide), fun ne y hy z hz => ?_, fun eq y hy z hz => ?_⟩
      · rw [if_neg (fun z => ne z.2)] at next
        rw [nI_1] at hz
        rw [hy, hz]
        exact next
      · rw [if_pos ⟨hb, eq⟩] at next
        rw [nI_1] at hz
        rw [hy, hz]
        exact next
theorem w_ma5 (hN : 402 ≤ N.1) {kp : Nat → Int32} {q f : Nat} (hq : q ≤ 12) (hf : f < 4) {g : mS} (ek : g.2.1 2 = kp) (hqv : kp 41 = nI q) (hl : fL kp lw q 0 (g.2.1 39)) {Kr K : Int32 → mS → Prop} (hK : K (mstF (fun n => fct kp lw n f) W q q) g) : ∀ (c t i : Nat), i + c = q → c < t → w_mostAlike_5 N W (nI f) Kr K t (mstF (fun n => fct kp lw n f) W q i) (nI i) g
  | _, 0, _, _, h => absurd h (Nat.not_lt_zero _)
  | 0, t + 1, i, hi, _ => by
    unfold w_mostAlike_5
    refine w_manyS (v := nI q) (by rw [ek]; exact hqv) ?_
    rw [nI_lle (by omega) (by omega)]
    have : i = q := by omega
    subst this
    exact ⟨fun _ => hK, fun z => absurd (Nat.le_refl _) z⟩
  | c + 1, t + 1, i, hi, ht => by
    have next := w_ma5 hN hq hf ek hqv hl hK (Kr := Kr) c t (i + 1) (by omega) (by omega)
    have e : mstF (fun n => fct kp lw n f) W q (i + 1) = if bitI W i = true then maxI (mstF (fun n => fct kp lw n f) W q i) (cntF (fun n => fct kp lw n f) W i q) else mstF (fun n => fct kp lw n f) W q i := rfl
    rw [e] at next
    unfold w_mostAlike_5
    refine w_manyS (v := nI q) (by rw [ek]; exact hqv) ?_
    rw [nI_lle (by omega) (by omega)]
    refine ⟨fun z => by omega, fun _ => w_ma20 (lw := lw) hq (n := i) (by omega) hf ek hqv hl (w_isInS (bI_c (fun hb z hz => ?_) (fun hb => w_greaterS (fun z hz => ?_)))) q N.1 0 (by omega) (by omega)⟩
    · rw [hb, if_neg (by decide)] at next
      rw [nI_1] at hz
      rw [hz]
      exact next
    · rw [if_pos hb] at next
      rw [nI_1] at hz
      rw [hz]
      exact next
end WL
