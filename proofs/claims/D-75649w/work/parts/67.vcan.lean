set_option maxRecDepth 100000
/-! ===== canBe ===== -/
def fct (kp : Nat → Int32) (lw : Option (List cL)) (n f : Nat) : Int32 := if f = 0 then kp n - kp (12 + n) else if f = 1 then (if n = 0 then 0 else kp n - kp (n - 1)) else if f = 2 then mOne 0 kp lw n else mOne 1 kp lw n
def kd (kp : Nat → Int32) (k : Nat) : Nat := (kp (25 + 2 * k)).toNatClampNeg
def soB (kp : Nat → Int32) (lw : Option (List cL)) (n : Nat) : Nat → Bool
  | 0 => true
  | k + 1 => soB kp lw n k && decide (fct kp lw n (kd kp k) = kp (26 + 2 * k))
def canB (kp : Nat → Int32) (lw : Option (List cL)) (V : Nat) : Nat → Int32
  | 0 => 0
  | i + 1 => canB kp lw V i ||| (if soB kp lw i V = true then 1 <<< (nI i &&& 31) else 0)
theorem kd_n {kp : Nat → Int32} {k : Nat} (h : ∃ f, f < 4 ∧ kp (25 + 2 * k) = nI f) : kd kp k < 4 ∧ kp (25 + 2 * k) = nI (kd kp k) := by
  obtain ⟨f, f1, f2⟩ := h
  have : kd kp k = f := by
    unfold kd
    rw [f2, nI_clamp (by omega)]
  rw [this]
  exact ⟨f1, f2⟩
theorem bI_and0 (b : Bool) : bI b &&& 0 = bI (b && false) := by cases b <;> decide
theorem bI_and1 (b : Bool) : bI b &&& 1 = bI (b && true) := by cases b <;> decide
section CB
variable {N : tP} {s : tM} {L : Nat → Nat} {M O : Nat → Prop} {m : mS} {lw : Option (List cL)}
theorem v_factS (hN : 120 ≤ N.2.1) (hN1 : 60 ≤ N.1) (hX : RX N s L M O m) (hF : inF (m.2.1 2) lw) {n f : Nat} (hn : n < 12) (hf : f < 4) {K : Int32 → tM → Prop} (hK : ∀ s', aS L s s' → K (fct (m.2.1 2) lw n f) s') : v_X0_fact N (L 0) (nI n) (nI f) s K := by
  have hS := hX.S
  have o0 := hS.o (r := 0) rfl
  have o44 := hS.o (r := 44) rfl
  have b44 := hS.2.2.1.2.1 44 (Or.inr (Or.inr (Or.inr (Or.inl rfl))))
  have th : tR s (L 44) 1 = L 444 := b44.2
  have tu : tR s (L 44) 0 = L 244 := b44.1
  have hK0 := hK s (aS_r L s)
  unfold v_X0_fact
  intro x hx
  subst hx
  have h4 : f = 0 ∨ f = 1 ∨ f = 2 ∨ f = 3 := by omega
  rcases h4 with rfl | rfl | rfl | rfl
  · refine ⟨fun _ => ⟨o0, ?_⟩, fun z => absurd z (by decide), fun z => absurd z (by decide), fun z => absurd rfl z⟩
    unfold v_X0_apart
    refine ⟨o0, v_booksS hS ?_⟩
    rw [th, nI_clamp (by omega), hX.h hn]
    refine ⟨o44, ⟨12, hS.a (r := 444) rfl, vpk hn (by decide)⟩, o0, v_booksS hS ?_⟩
    rw [tu, hX.u hn]
    exact ⟨o44, ⟨12, hS.a (r := 244) rfl, vpk hn (by decide)⟩, hK0⟩
  · refine ⟨fun z => absurd z (by decide), fun _ => ⟨o0, ?_⟩, fun z => absurd z (by decide), fun _ z => absurd rfl z⟩
    have h0 : nI n = 0 ↔ n = 0 := by
      rw [show (0 : Int32) = nI 0 from rfl, nI_eq (by omega) (by omega)]
    unfold v_X0_leap
    rw [h0]
    refine ⟨fun nn => ⟨o0, v_booksS hS ?_⟩, fun yn => ?_⟩
    · obtain ⟨k, rfl⟩ : ∃ k, n = k + 1 := ⟨n - 1, by omega⟩
      have ep : nI (k + 1) - 1 = nI k := nI_pred k
      rw [th, nI_clamp (by omega), hX.h hn, ep]
      refine ⟨o44, ⟨12, hS.a (r := 444) rfl, vpk hn (by decide)⟩, o0, v_booksS hS ?_⟩
      rw [th, nI_clamp (by omega), hX.h (n := k) (by omega)]
      refine ⟨o44, ⟨12, hS.a (r := 444) rfl, vpk (by omega) (by decide)⟩, ?_⟩
      exact hK0
    · rw [yn] at hK0
      exact hK0
  · exact ⟨fun z => absurd z (by decide), fun z => absurd z (by decide), fun _ => ⟨o0, v_costsHS hN hN1 hX hF hn hK⟩, fun _ _ z => absurd rfl z⟩
  · exact ⟨fun z => absurd z (by decide), fun z => absurd z (by decide), fun z => absurd z (by decide), fun _ _ _ => ⟨o0, v_earnsHS hN hN1 hX hF hn hK⟩⟩
theorem v_can17 (hN : 120 ≤ N.2.1) (hN1 : 60 ≤ N.1) (hX : RX N s L M O m) (hF : inF (m.2.1 2) lw) {n V : Nat} (hn : n < 12) (hV : V ≤ 6) (hVv : m.2.1 2 42 = nI V) {x1 : Int32} {Kr K : Int32 → tM → Prop} : ∀ (c t k : Nat) (s1 : tM), aS L s s1 → k + c = V → c < t → (∀ s2, aS L s s2 → K (bI (soB (m.2.1 2) lw n V)) s2) → v_X0_canBe_17 N (L 0) x1 (nI n) Kr K t (bI (soB (m.2.1 2) lw n k)) (nI k) s1
  | _, 0, _, _, _, _, h, _ => absurd h (Nat.not_lt_zero _)
  | 0, t + 1, k, s1, h1, hk, _, hK => by
    have X1 := hX.a h1
    have hS := X1.S
    have e5 : tI s1 (L 40) 5 = nI V := (X1.R 40 5 2 42 rfl).trans hVv
    unfold v_X0_canBe_17
    rw [hS.t (r := 0) (j := 0) (q := 40) (by decide), e5, nI_lle (by omega) (by omega)]
    have : k = V := by omega
    subst this
    exact ⟨hS.o (r := 0) rfl, hS.o (r := 40) rfl, fun _ => hK s1 h1, fun z => absurd (Nat.le_refl _) z⟩
  | c + 1, t + 1, k, s1, h1, hk, ht, hK => by
    have X1 := hX.a h1
    have hS := X1.S
    have e5 : tI s1 (L 40) 5 = nI V := (X1.R 40 5 2 42 rfl).trans hVv
    have hk6 : k < 6 := by omega
    obtain ⟨kd1, kd2⟩ := kd_n (k := k) (hX.I.1.2.2.2.2.2.2.1 k hk6)
    have l0 : loc (50 + k) 0 = some (2, 25 + 2 * k) := by
      unfold loc
      rw [if_neg (by omega), if_neg (by omega), if_neg (by omega), if_pos (by omega), if_pos (by omega), show 50 + k - 50 = k by omega, Nat.add_zero]
    have l1 : loc (50 + k) 1 = some (2, 26 + 2 * k) := by
      unfold loc
      rw [if_neg (by omega), if_neg (by omega), if_neg (by omega), if_pos (by omega), if_pos (by omega), show 50 + k - 50 = k by omega, show 25 + 2 * k + 1 = 26 + 2 * k by omega]
    have v0 : tI s1 (L (50 + k)) 0 = nI (kd (m.2.1 2) k) := (X1.R _ _ _ _ l0).trans kd2
    have r43 := hS.2.2.1.2.2.2.1 k hk6
    unfold v_X0_canBe_17
    rw [hS.t (r := 0) (j := 0) (q := 40) (by decide), hS.t (r := 40) (j := 2) (q := 43) (by decide), e5, nI_lle (by omega) (by omega), nI_clamp (by omega), r43, v0]
    refine ⟨hS.o (r := 0) rfl, hS.o (r := 40) rfl, fun z => by omega, fun _ => ⟨⟨6, hS.a (r := 43) rfl, vpk hk6 (by decide)⟩, ⟨2, hS.a (shp_50 hk6), vpk (k := 0) (by decide) (by decide)⟩, v_factS hN hN1 X1 hF hn kd1 (fun s2 h2 => ?_)⟩⟩
    have X2 := X1.a h2
    have hS2 := X2.S
    have r43' := hS2.2.2.1.2.2.2.1 k hk6
    have v1 : tI s2 (L (50 + k)) 1 = m.2.1 2 (26 + 2 * k) := X2.R _ _ _ _ l1
    rw [hS2.t (r := 0) (j := 0) (q := 40) (by decide), hS2.t (r := 40) (j := 2) (q := 43) (by decide), r43', v1]
    have next := v_can17 hN hN1 hX hF hn hV hVv (x1 := x1) (Kr := Kr) c t (k + 1) s2 (aS_t h1 h2) (by omega) (by omega) hK
    refine ⟨hS2.o (r := 0) rfl, hS2.o (r := 40) rfl, ⟨6, hS2.a (r := 43) rfl, vpk hk6 (by decide)⟩, ⟨2, hS2.a (shp_50 hk6), vpk (k := 1) (by decide) (by decide)⟩, fun ne y hy z hz => ?_, fun eq y hy z hz => ?_⟩
    · rw [bI_and0] at hy
      rw [nI_1] at hz
      have e : soB (m.2.1 2) lw n (k + 1) = (soB (m.2.1 2) lw n k && false) := congrArg _ (decide_eq_false ne)
      rw [e] at next
      rw [hy, hz]
      exact next
    · rw [bI_and1] at hy
      rw [nI_1] at hz
      have e : soB (m.2.1 2) lw n (k + 1) = (soB (m.2.1 2) lw n k && true) := congrArg _ (decide_eq_true eq)
      rw [e] at next
      rw [hy, hz]
      exact next
theorem v_can4 (hN : 120 ≤ N.2.1) (hN1 : 60 ≤ N.1) (hX : RX N s L M O m) (hF : inF (m.2.1 2) lw) {q V : Nat} (hq : q ≤ 12) (hqv : m.2.1 2 41 = nI q) (hV : V ≤ 6) (hVv : m.2.1 2 42 = nI V) {Kr K : Int32 → tM → Prop} : ∀ (c t i : Nat) (s1 : tM), aS L s s1 → i + c = q → c < t → (∀ s2, aS L s s2 → K (canB (m.2.1 2) lw V q) s2) → v_X0_canBe_4 N (L 0) Kr K t (canB (m.2.1 2) lw V i) (nI i) s1
  | _, 0, _, _, _, _, h, _ => absurd h (Nat.not_lt_zero _)
  | 0, t + 1, i, s1, h1, hi, _, hK => by
    have X1 := hX.a h1
    have hS := X1.S
    unfold v_X0_canBe_4
    refine ⟨hS.o (r := 0) rfl, v_nNotesS hS ?_⟩
    rw [show tI s1 (L 40) 4 = nI q from X1.many.trans hqv, nI_lle (by omega) (by omega)]
    have : i = q := by omega
    subst this
    exact ⟨fun _ => hK s1 h1, fun z => absurd (Nat.le_refl _) z⟩
  | c + 1, t + 1, i, s1, h1, hi, ht, hK => by
    have X1 := hX.a h1
    have hS := X1.S
    unfold v_X0_canBe_4
    refine ⟨hS.o (r := 0) rfl, v_nNotesS hS ?_⟩
    rw [show tI s1 (L 40) 4 = nI q from X1.many.trans hqv, nI_lle (by omega) (by omega)]
    refine ⟨fun z => by omega, fun _ => ?_⟩
    have := v_can17 hN hN1 X1 hF (n := i) (by omega) hV hVv (x1 := canB (m.2.1 2) lw V i) (Kr := Kr) (K := (fun x105 s106 => ((x105 = 0 → (∀ x108 : Int32, x108 = (canB (m.2.1 2) lw V i) ||| 0 → (∀ x109 : Int32, x109 = (nI i) + 1 → ((fun x1 x2 s => v_X0_canBe_4 N (L 0) Kr K t x1 x2 s) x108 x109 s106)))) ∧ (¬ x105 = 0 → (∀ x110 : Int32, x110 = (canB (m.2.1 2) lw V i) ||| (1 <<< ((nI i) &&& 31)) → (∀ x111 : Int32, x111 = (nI i) + 1 → ((fun x1 x2 s => v_X0_canBe_4 N (L 0) Kr K t x1 x2 s) x110 x111 s106))))))) V N.1 0 s1 (aS_r L s1) (by omega) (by omega) (fun s2 h2 => ?_)
    · exact this
    · have next := v_can4 hN hN1 hX hF hq hqv hV hVv (Kr := Kr) c t (i + 1) s2 (aS_t h1 h2) (by omega) (by omega) hK
      have e : canB (m.2.1 2) lw V (i + 1) = canB (m.2.1 2) lw V i ||| (if soB (m.2.1 2) lw i V = true then 1 <<< (nI i &&& 31) else 0) := rfl
      rw [e] at next
      refine bI_c (fun hb y hy z hz => ?_) (fun hb y hy z hz => ?_)
      · rw [hb, if_neg (by decide)] at next
        rw [nI_1] at hz
        rw [hy, hz]
        exact next
      · rw [if_pos hb] at next
        rw [nI_1] at hz
        rw [hy, hz]
        exact next
theorem v_canBeS (hN : 120 ≤ N.2.1) (hN1 : 60 ≤ N.1) (hX : RX N s L M O m) (hF : inF (m.2.1 2) lw) {q V : Nat} (hq : q ≤ 12) (hqv : m.2.1 2 41 = nI q) (hV : V ≤ 6) (hVv : m.2.1 2 42 = nI V) {K : Int32 → tM → Prop} (hK : ∀ s2, aS L s s2 → K (canB (m.2.1 2) lw V q) s2) : v_X0_canBe N (L 0) s K := by
  unfold v_X0_canBe
  exact v_can4 hN hN1 hX hF hq hqv hV hVv q N.1 0 s (aS_r L s) (by omega) (by omega) hK
end CB
