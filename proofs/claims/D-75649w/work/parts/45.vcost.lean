set_option maxRecDepth 100000
/-! ===== the system: what a note costs, earns, whether it is barred; all notes ===== -/
theorem inF_u {kp : Nat → Int32} {lw lw' : Option (List cL)} (h : inF kp lw) (h' : inF kp lw') : lw = lw' := by
  rcases h with ⟨a1, a2⟩ | ⟨t, cls, t1, t2, t3, t4⟩ <;> rcases h' with ⟨b1, b2⟩ | ⟨u, cls', u1, u2, u3, u4⟩
  · rw [a2, b2]
  · exfalso
    have := congrArg Int32.toInt (a1.symm.trans u2)
    rw [nI_toInt (by omega), show (-1 : Int32).toInt = -1 from by decide] at this
    omega
  · exfalso
    have := congrArg Int32.toInt (b1.symm.trans t2)
    rw [nI_toInt (by omega), show (-1 : Int32).toInt = -1 from by decide] at this
    omega
  · have e1 : t = u := (nI_eq (by omega) (by omega)).mp (t2.symm.trans u2)
    subst e1
    have := t3.2.2.2.symm.trans u3.2.2.2
    rw [t4, u4]
    injection this with this
    rw [this]
section CO
variable {N : tP} {s : tM} {L : Nat → Nat} {M O : Nat → Prop} {m : mS}
theorem RX.told (hX : RX N s L M O m) : ∃ told, told ≤ 6 ∧ m.2.1 2 43 = nI told ∧ tI s (L 41) 2 = nI told ∧ tabOK N s (tR s (L 41) 1) told ∧ lawT s M (tR s (L 41) 1) (m.2.1 2) told ∧ (m.2.1 2 44 = -1 ∨ ∃ t, t < told ∧ m.2.1 2 44 = nI t) := by
  obtain ⟨told, k1, k2, k3, k4, k5⟩ := hX.2.2.2.2.2.1.2
  obtain ⟨told', g1, g2, g3⟩ := hX.I.1.2.2.2.2.2.2.2
  have e : told = told' := (nI_eq (by omega) (by omega)).mp (k2.symm.trans g2)
  subst e
  exact ⟨told, k1, k2, k3, k4, k5, g3⟩
theorem RX.inF (hX : RX N s L M O m) : ∃ lw, inF (m.2.1 2) lw := by
  obtain ⟨told, k1, k2, k3, k4, k5, k6⟩ := hX.told
  rcases k6 with k6 | ⟨t, t1, t2⟩
  · exact ⟨none, Or.inl ⟨k6, rfl⟩⟩
  · obtain ⟨cls, c1, -⟩ := k5 t t1
    exact ⟨some cls, Or.inr ⟨t, cls, by omega, t2, c1, rfl⟩⟩
theorem v_law1S (hX : RX N s L M O m) {lw : Option (List cL)} (hF : inF (m.2.1 2) lw) {K : Nat → tM → Prop} (hK : ∀ a cls, isText s M a cls → (lw = none ∧ cls = [] ∨ lw = some cls) → K a s) : v_X0_law1 (L 0) s K := by
  have hS := hX.S
  obtain ⟨told, k1, k2, k3, k4, k5, k6⟩ := hX.told
  unfold v_X0_law1
  rw [hS.t (r := 0) (j := 0) (q := 40) (by decide), hS.t (r := 40) (j := 0) (q := 41) (by decide), hX.force]
  refine ⟨hS.o (r := 0) rfl, hS.o (r := 40) rfl, fun nf => ?_, fun yf => ?_⟩
  · rcases k6 with k6 | ⟨t, t1, t2⟩
    · exact absurd k6 nf
    · obtain ⟨cls, c1, c2⟩ := k5 t t1
      have hlw : lw = some cls := inF_u hF (Or.inr ⟨t, cls, by omega, t2, c1, rfl⟩)
      have oT := c2.2.1
      have tab : tA s 10 10 (tR s (L 41) 1) := k4.resolve_left (fun z => by omega)
      have o41 := hS.o (r := 41) rfl
      rw [t2]
      refine ⟨o41, ?_⟩
      unfold v_J2_get v_J4_checkIndex v_J5_checkIndex
      rw [k3]
      refine ⟨o41, fun z => nI_pos (by omega) z, fun _ => ⟨fun _ => ⟨o41, ?_⟩, fun z => z (nI_lt t1 (by omega))⟩⟩
      unfold v_J2_elementData
      rw [nI_clamp (by omega)]
      exact ⟨o41, ⟨10, tab, vp_in_nI (by omega) (by decide)⟩, oT, hK _ cls c2 (Or.inr hlw)⟩
  · have hlw : lw = none := inF_u hF (Or.inl ⟨yf, rfl⟩)
    exact hK _ [] hX.2.2.1 (Or.inl ⟨hlw, rfl⟩)
theorem i32_neg (x : Int32) : (0 : Int32) - x = -x := by
  rw [Int32.sub_eq_add_neg, Int32.zero_add]
theorem absI_v (x : Int32) : (if 0 ≤ x then x else 0 - x) = absI x := by
  unfold absI
  rw [i32_neg]
/-- how the pitch ahead is given -/
def paR (pa : Option Int32) (bf : Int32) : Prop := (pa = none ∧ bf = -1) ∨ (pa = some bf ∧ ¬ bf = -1)
theorem v_costsS (hN : 120 ≤ N.2.1) (hN1 : 60 ≤ N.1) (hX : RX N s L M O m) {lw : Option (List cL)} (hF : inF (m.2.1 2) lw) {n : Nat} {here bf : Int32} {pa : Option Int32} (hn : n < 12) (hn1 : pa ≠ none → 1 ≤ n) (hpa : paR pa bf) {K : Int32 → tM → Prop} (hK : ∀ s', aS L s s' → K (mCost (m.2.1 2) lw n here pa) s') : v_X0_costs N (L 0) (nI n) here bf s K := by
  have hS := hX.S
  unfold v_X0_costs
  refine ⟨hS.o (r := 0) rfl, v_aboutS hX hn hn1 hpa (fun s1 a1 hE => ?_)⟩
  have hX1 := hX.a a1
  have hS1 := hX1.S
  have hc : ¬ M (L 6) := hS1.n1 (by decide)
  refine ⟨hS1.o (r := 0) rfl, v_law1S hX1 hF (fun a cls hT hl => ⟨hS1.o (r := 0) rfl, ?_⟩)⟩
  rw [hS1.t (r := 0) (j := 6) (q := 6) (by decide)]
  have hfin : ∀ wo, wo = woC here pa → v_X5_tells N a 0 (L 6) wo 999 s1 K := fun wo hwo => by
    refine v_tellsS hN hN1 hE hT hc (Or.inl ⟨rfl, rfl⟩) (by decide) (fun s' hs' => ?_)
    have := hK s' (aS_t a1 (aS_te hs'))
    unfold mCost tellsO at this
    rcases hl with ⟨rfl, rfl⟩ | rfl
    · have e : (tellsL (nE (m.2.1 2) n here pa) 1 (999 : Int32).toInt64 wo.toInt64 []).toInt32 = woC here pa := by
        rw [← hwo]
        exact Int32.toInt32_toInt64 wo
      rw [e]
      exact this
    · rw [hwo]
      exact this
  refine ⟨fun nb x hx => ⟨hT.2.1, hfin x ?_⟩, fun yb => ⟨hT.2.1, hfin 0 ?_⟩⟩
  · rw [hx, absI_v]
    rcases hpa with ⟨-, z⟩ | ⟨z, -⟩
    · exact absurd z nb
    · rw [z]
      rfl
  · rcases hpa with ⟨z, -⟩ | ⟨-, z⟩
    · rw [z]
      rfl
    · exact absurd yb z
theorem v_earnsS (hN : 120 ≤ N.2.1) (hN1 : 60 ≤ N.1) (hX : RX N s L M O m) {lw : Option (List cL)} (hF : inF (m.2.1 2) lw) {n : Nat} {here bf : Int32} {pa : Option Int32} (hn : n < 12) (hn1 : pa ≠ none → 1 ≤ n) (hpa : paR pa bf) {K : Int32 → tM → Prop} (hK : ∀ s', aS L s s' → K (mEarn (m.2.1 2) lw n here pa) s') : v_X0_earns N (L 0) (nI n) here bf s K := by
  have hS := hX.S
  unfold v_X0_earns
  refine ⟨hS.o (r := 0) rfl, v_aboutS hX hn hn1 hpa (fun s1 a1 hE => ?_)⟩
  have hX1 := hX.a a1
  have hS1 := hX1.S
  have hc : ¬ M (L 6) := hS1.n1 (by decide)
  refine ⟨hS1.o (r := 0) rfl, v_law1S hX1 hF (fun a cls hT hl => ⟨hS1.o (r := 0) rfl, hT.2.1, ?_⟩)⟩
  rw [hS1.t (r := 0) (j := 6) (q := 6) (by decide)]
  refine v_tellsS hN hN1 hE hT hc (Or.inr ⟨rfl, rfl⟩) (by decide) (fun s' hs' => ?_)
  have := hK s' (aS_t a1 (aS_te hs'))
  unfold mEarn tellsO at this
  rcases hl with ⟨rfl, rfl⟩ | rfl
  · have e : (tellsL (nE (m.2.1 2) n here pa) 2 (99 : Int32).toInt64 (1 : Int32).toInt64 []).toInt32 = 1 := Int32.toInt32_toInt64 1
    rw [e]
    exact this
  · exact this
theorem v_barS (hN : 120 ≤ N.2.1) (hN1 : 60 ≤ N.1) (hX : RX N s L M O m) {lw : Option (List cL)} (hF : inF (m.2.1 2) lw) {n : Nat} {here bf : Int32} {pa : Option Int32} (hn : n < 12) (hn1 : pa ≠ none → 1 ≤ n) (hpa : paR pa bf) {K : Int32 → tM → Prop} (hK : ∀ s', aS L s s' → K (bI (mBar (m.2.1 2) lw n here pa)) s') : v_X0_isBarred N (L 0) (nI n) here bf s K := by
  have hS := hX.S
  unfold v_X0_isBarred
  refine ⟨hS.o (r := 0) rfl, v_aboutS hX hn hn1 hpa (fun s1 a1 hE => ?_)⟩
  have hX1 := hX.a a1
  have hS1 := hX1.S
  have hc : ¬ M (L 6) := hS1.n1 (by decide)
  refine ⟨hS1.o (r := 0) rfl, v_law1S hX1 hF (fun a cls hT hl => ⟨hS1.o (r := 0) rfl, hT.2.1, ?_⟩)⟩
  rw [hS1.t (r := 0) (j := 6) (q := 6) (by decide)]
  refine v_hasS hN hN1 hE hT hc (fun s' hs' => ⟨bI_x _, ?_⟩)
  have := hK s' (aS_t a1 (aS_te hs'))
  unfold mBar at this
  rcases hl with ⟨rfl, rfl⟩ | rfl
  · exact this
  · exact this
theorem v_beforeS (hX : RX N s L M O m) {n : Nat} (hn : n < 12) {K : Int32 → tM → Prop} (hK : ∀ bf, paR (prevI (m.2.1 2) n) bf → K bf s) : v_X0_beforeOf (L 0) (nI n) s K := by
  have hS := hX.S
  have z0 : nI n = 0 ↔ n = 0 := by
    rw [show (0 : Int32) = nI 0 from rfl, nI_eq (by omega) (by omega)]
  unfold v_X0_beforeOf
  rw [z0]
  refine ⟨fun n0 => ⟨hS.o (r := 0) rfl, v_booksS hS ⟨hS.o (r := 44) rfl, ?_⟩⟩, fun y0 => hK (-1) (Or.inl ⟨by unfold prevI; rw [if_pos y0], rfl⟩)⟩
  have b44 := hS.2.2.1.2.1 44 (Or.inr (Or.inr (Or.inr (Or.inl rfl))))
  have e1 : nI n - 1 = nI (n - 1) := pk_sub (b := 1) (by omega)
  rw [show tR s (L 44) 1 = L 444 from b44.2, e1, nI_clamp (by omega), hX.h (by omega)]
  refine ⟨⟨12, hS.a (r := 444) rfl, vp_in_nI (by omega) (by decide)⟩, hK _ (Or.inr ⟨by unfold prevI; rw [if_neg n0], fun z => ?_⟩)⟩
  have hp := hX.I.1.1.1 (n - 1) (by omega)
  unfold pI at hp
  rw [z, show (-1 : Int32).toInt = -1 from by decide] at hp
  omega
theorem prevI_n {kp : Nat → Int32} {n : Nat} (h : prevI kp n ≠ none) : 1 ≤ n := by
  unfold prevI at h
  by_cases e : n = 0
  · rw [if_pos e] at h
    exact absurd rfl h
  · omega
theorem v_costsHS (hN : 120 ≤ N.2.1) (hN1 : 60 ≤ N.1) (hX : RX N s L M O m) {lw : Option (List cL)} (hF : inF (m.2.1 2) lw) {n : Nat} (hn : n < 12) {K : Int32 → tM → Prop} (hK : ∀ s', aS L s s' → K (mOne 0 (m.2.1 2) lw n) s') : v_X0_costsHere N (L 0) (nI n) s K := by
  have hS := hX.S
  have b44 := hS.2.2.1.2.1 44 (Or.inr (Or.inr (Or.inr (Or.inl rfl))))
  unfold v_X0_costsHere
  refine ⟨hS.o (r := 0) rfl, v_booksS hS ⟨hS.o (r := 44) rfl, ?_⟩⟩
  rw [show tR s (L 44) 1 = L 444 from b44.2, nI_clamp (by omega), hX.h hn]
  exact ⟨⟨12, hS.a (r := 444) rfl, vp_in_nI (by omega) (by decide)⟩, hS.o (r := 0) rfl, v_beforeS hX hn (fun bf hbf => ⟨hS.o (r := 0) rfl, v_costsS hN hN1 hX hF hn prevI_n hbf hK⟩)⟩
theorem v_earnsHS (hN : 120 ≤ N.2.1) (hN1 : 60 ≤ N.1) (hX : RX N s L M O m) {lw : Option (List cL)} (hF : inF (m.2.1 2) lw) {n : Nat} (hn : n < 12) {K : Int32 → tM → Prop} (hK : ∀ s', aS L s s' → K (mOne 1 (m.2.1 2) lw n) s') : v_X0_earnsHere N (L 0) (nI n) s K := by
  have hS := hX.S
  have b44 := hS.2.2.1.2.1 44 (Or.inr (Or.inr (Or.inr (Or.inl rfl))))
  unfold v_X0_earnsHere
  refine ⟨hS.o (r := 0) rfl, v_booksS hS ⟨hS.o (r := 44) rfl, ?_⟩⟩
  rw [show tR s (L 44) 1 = L 444 from b44.2, nI_clamp (by omega), hX.h hn]
  exact ⟨⟨12, hS.a (r := 444) rfl, vp_in_nI (by omega) (by decide)⟩, hS.o (r := 0) rfl, v_beforeS hX hn (fun bf hbf => ⟨hS.o (r := 0) rfl, v_earnsS hN hN1 hX hF hn prevI_n hbf hK⟩)⟩
theorem v_barHS (hN : 120 ≤ N.2.1) (hN1 : 60 ≤ N.1) (hX : RX N s L M O m) {lw : Option (List cL)} (hF : inF (m.2.1 2) lw) {n : Nat} (hn : n < 12) {K : Int32 → tM → Prop} (hK : ∀ s', aS L s s' → K (bI (mBar (m.2.1 2) lw n (m.2.1 2 n) (prevI (m.2.1 2) n))) s') : v_X0_isBarredHere N (L 0) (nI n) s K := by
  have hS := hX.S
  have b44 := hS.2.2.1.2.1 44 (Or.inr (Or.inr (Or.inr (Or.inl rfl))))
  unfold v_X0_isBarredHere
  refine ⟨hS.o (r := 0) rfl, v_booksS hS ⟨hS.o (r := 44) rfl, ?_⟩⟩
  rw [show tR s (L 44) 1 = L 444 from b44.2, nI_clamp (by omega), hX.h hn]
  exact ⟨⟨12, hS.a (r := 444) rfl, vp_in_nI (by omega) (by decide)⟩, hS.o (r := 0) rfl, v_beforeS hX hn (fun bf hbf => ⟨hS.o (r := 0) rfl, v_barS hN hN1 hX hF hn prevI_n hbf (fun s' hs' => ⟨bI_x _, hK s' hs'⟩)⟩)⟩
theorem v_barredS (hN : 120 ≤ N.2.1) (hN1 : 60 ≤ N.1) (hX : RX N s L M O m) {lw : Option (List cL)} (hF : inF (m.2.1 2) lw) {q : Nat} (hq : m.2.1 2 41 = nI q) (hq2 : q ≤ 12) {K : Int32 → tM → Prop} (hK : ∀ s', aS L s s' → K (sumI (mOne 2 (m.2.1 2) lw) q) s') : v_X0_barredOnes N (L 0) s K := by
  unfold v_X0_barredOnes
  have key : ∀ f t k s1, k + f = q → f + 1 ≤ t → aS L s s1 → v_X0_barredOnes_4 N (L 0) K (fun x101 s102 => K x101 s102) t (sumI (mOne 2 (m.2.1 2) lw) k) (nI k) s1 := by
    intro f
    induction f with
    | zero =>
      intro t k s1 hk ht h1
      obtain ⟨t, rfl⟩ : ∃ u, t = u + 1 := ⟨t - 1, by omega⟩
      have e : k = q := by omega
      subst e
      have hX1 := hX.a h1
      have hS1 := hX1.S
      simp only [v_X0_barredOnes_4]
      refine ⟨hS1.o (r := 0) rfl, v_nNotesS hS1 ?_⟩
      rw [hX1.many, hq]
      exact ⟨fun _ => hK s1 h1, fun z => absurd (nI_le (Nat.le_refl _) (by omega)) z⟩
    | succ f ih =>
      intro t k s1 hk ht h1
      obtain ⟨t, rfl⟩ : ∃ u, t = u + 1 := ⟨t - 1, by omega⟩
      have hX1 := hX.a h1
      have hS1 := hX1.S
      simp only [v_X0_barredOnes_4]
      refine ⟨hS1.o (r := 0) rfl, v_nNotesS hS1 ?_⟩
      rw [hX1.many, hq, nI_leI (by omega) (by omega)]
      refine ⟨fun z => by omega, fun _ => ⟨hS1.o (r := 0) rfl, v_barHS hN hN1 hX1 hF (by omega) (fun s2 h2 => ?_)⟩⟩
      have next : ∀ v, v = mOne 2 (m.2.1 2) lw k → v_X0_barredOnes_4 N (L 0) K (fun x101 s102 => K x101 s102) t (sumI (mOne 2 (m.2.1 2) lw) k + v) (nI k + 1) s2 := fun v hv => by
        rw [hv, nI_1]
        exact ih t (k + 1) s2 (by omega) (by omega) (aS_t h1 h2)
      have hone : bI (mBar (m.2.1 2) lw k (m.2.1 2 k) (prevI (m.2.1 2) k)) = mOne 2 (m.2.1 2) lw k := rfl
      refine ⟨fun z x hx y hy => ?_, fun z x hx y hy => ?_⟩
      · rw [hx, hy]
        exact next 0 (by rw [← hone, z])
      · rw [hx, hy]
        exact next 1 (by rw [← hone]; exact ((bI_x _).resolve_left z).symm)
  exact key q N.1 0 s (by omega) (by omega) (aS_r L s)
theorem v_sumOfS (hN : 120 ≤ N.2.1) (hN1 : 60 ≤ N.1) (hX : RX N s L M O m) {lw : Option (List cL)} (hF : inF (m.2.1 2) lw) {q w : Nat} (hq : m.2.1 2 41 = nI q) (hq2 : q ≤ 12) (hw : w < 2) {K : Int32 → tM → Prop} (hK : ∀ s', aS L s s' → K (sumI (mOne w (m.2.1 2) lw) q) s') : v_X0_sumOf N (L 0) (nI w) s K := by
  unfold v_X0_sumOf
  have w0 : nI w = 0 ↔ w = 0 := by
    rw [show (0 : Int32) = nI 0 from rfl, nI_eq (by omega) (by omega)]
  have key : ∀ f t k s1, k + f = q → f + 1 ≤ t → aS L s s1 → v_X0_sumOf_4 N (L 0) (nI w) K (fun x101 s102 => K x101 s102) t (sumI (mOne w (m.2.1 2) lw) k) (nI k) s1 := by
    intro f
    induction f with
    | zero =>
      intro t k s1 hk ht h1
      obtain ⟨t, rfl⟩ : ∃ u, t = u + 1 := ⟨t - 1, by omega⟩
      have e : k = q := by omega
      subst e
      have hX1 := hX.a h1
      have hS1 := hX1.S
      simp only [v_X0_sumOf_4]
      refine ⟨hS1.o (r := 0) rfl, v_nNotesS hS1 ?_⟩
      rw [hX1.many, hq]
      exact ⟨fun _ => hK s1 h1, fun z => absurd (nI_le (Nat.le_refl _) (by omega)) z⟩
    | succ f ih =>
      intro t k s1 hk ht h1
      obtain ⟨t, rfl⟩ : ∃ u, t = u + 1 := ⟨t - 1, by omega⟩
      have hX1 := hX.a h1
      have hS1 := hX1.S
      simp only [v_X0_sumOf_4]
      refine ⟨hS1.o (r := 0) rfl, v_nNotesS hS1 ?_⟩
      rw [hX1.many, hq, nI_leI (by omega) (by omega), w0]
      have next : ∀ v s2, v = mOne w (m.2.1 2) lw k → aS L s1 s2 → v_X0_sumOf_4 N (L 0) (nI w) K (fun x101 s102 => K x101 s102) t (sumI (mOne w (m.2.1 2) lw) k + v) (nI k + 1) s2 := fun v s2 hv h2 => by
        rw [hv, nI_1]
        exact ih t (k + 1) s2 (by omega) (by omega) (aS_t h1 h2)
      refine ⟨fun z => by omega, fun _ => ⟨fun n0 => ⟨hS1.o (r := 0) rfl, v_earnsHS hN hN1 hX1 hF (by omega) (fun s2 h2 x hx y hy => ?_)⟩, fun y0 => ⟨hS1.o (r := 0) rfl, v_costsHS hN hN1 hX1 hF (by omega) (fun s2 h2 x hx y hy => ?_)⟩⟩⟩
      · rw [hx, hy]
        exact next _ s2 (by rw [show w = 1 by omega]) h2
      · rw [hx, hy]
        exact next _ s2 (by rw [y0]) h2
  exact key q N.1 0 s (by omega) (by omega) (aS_r L s)
end CO
