set_option maxRecDepth 100000
/-! ===== compass, between ===== -/
section CP
variable {N : tP} {s : tM} {L : Nat → Nat} {M O : Nat → Prop} {m : mS} {lw : Option (List cL)}
/-- whether there is a voice between two pitches -/
def thr (kp : Nat → Int32) (lw : Option (List cL)) (q lo hi : Nat) : Bool := !decide ((sV (goT kp lw) (prT kp lw) (gaT kp lw) (dI kp) q lo hi (fnI (-1)) q 0).2.2.2 = 0)
def cpI (th : Nat → Nat → Bool) (w : Nat) : Nat → Nat → Option Nat
  | 0, _ => none
  | c + 1, f => if th f (f + w) = true then some f else cpI th w c (f + 1)
def cpO (th : Nat → Nat → Bool) (lo hi : Nat) : Nat → Nat → Option (Nat × Nat)
  | 0, _ => none
  | c + 1, w => match cpI th w (hi + 1 - w - lo) lo with
    | some f => some (w, f)
    | none => cpO th lo hi c (w + 1)
/-- the goes' table alone is laid -/
def gLd (s : tM) (L : Nat → Nat) (kp : Nat → Int32) (lw : Option (List cL)) (q : Nat) : Prop := ∀ n b h, n < q → okB n b → h < 25 → gS s L n b h = goT kp lw n b h
theorem v_thr (hN1 : 60 ≤ N.1) (hX : RX N s L M O m) {q lo hi : Nat} (hq : q ≤ 12) (hqv : m.2.1 2 41 = nI q) (hh : hi < 25) (hl : lo < 25) (hg : gLd s L (m.2.1 2) lw q) {K : Int32 → tM → Prop} (hK : ∀ s', aT L s s' → gLd s' L (m.2.1 2) lw q → K (bI (thr (m.2.1 2) lw q lo hi)) s') : v_X0_layVoices N (L 0) (nI lo) (nI hi) (-1) s (fun s' => tO s' 0 (L 0) ∧ v_X0_isThere (L 0) s' K) := by
  refine v_layVoicesS hN1 hX hq hqv hh hl (fun s2 a2 r2 v2 => ?_)
  have X2 := hX.t a2
  refine ⟨X2.S.o (r := 0) rfl, ?_⟩
  have g2 : gLd s2 L (m.2.1 2) lw q := fun n b h h1 h2 h3 => by
    obtain ⟨e1, e2, e3⟩ := shp_cell (n := n) (b := b) (by omega) h2.1
    have := hg n b h h1 h2 h3
    unfold gS tI at this ⊢
    rw [r2 _ (shp_some e1) (by omega)]
    exact this
  have v0 := v2 q 0 (Nat.le_refl _) ⟨by omega, Or.inr (by omega)⟩
  rw [Nat.sub_self] at v0
  have e1 : (v4 s2 L 0 0).2.2.2 = (sV (goT (m.2.1 2) lw) (prT (m.2.1 2) lw) (gaT (m.2.1 2) lw) (dI (m.2.1 2)) q lo hi (fnI (-1)) q 0).2.2.2 := by
    rw [v0, ← mWV_x, mWV_x (p := fun _ _ _ => 0) (a := fun _ _ _ => 0) (d := fun _ _ => 0), ← mWV_x (p := prT (m.2.1 2) lw) (a := gaT (m.2.1 2) lw) (d := dI (m.2.1 2)), mWV_x (p := fun _ _ _ => 0) (a := fun _ _ _ => 0) (d := fun _ _ => 0)]
    rw [sV_c (g' := goT (m.2.1 2) lw) (p' := fun _ _ _ => 0) (a' := fun _ _ _ => 0) hh (fun n b i h1 h2 h3 => ⟨hg n b i h1 h2 h3, fun _ => ⟨rfl, rfl⟩⟩) q (Nat.le_refl _) 0 ⟨by omega, Or.inr (by omega)⟩]
  have ok := sV_ok (lo := lo) (hi := hi) (fin := fnI (-1)) (tbB_T (m.2.1 2) lw q) hq hh q (Nat.le_refl _) 0 ⟨by omega, Or.inr (by omega)⟩
  exact v_isThereS X2 e1 ok (hK s2 a2 g2)
theorem v_cp51 (hN1 : 60 ≤ N.1) (hX : RX N s L M O m) {q lo hi w : Nat} (hq : q ≤ 12) (hqv : m.2.1 2 41 = nI q) (hh : hi < 25) (hw : w < 25) {x1 : Int32} {Kr : Int32 → tM → Prop} {K : tM → Prop} : ∀ (c t f : Nat) (s1 : tM), aT L s s1 → gLd s1 L (m.2.1 2) lw q → f < 26 → c = hi + 1 - w - f → (∀ s', aT L s s' → gLd s' L (m.2.1 2) lw q → match cpI (thr (m.2.1 2) lw q) w c f with
    | some f0 => (¬ x1 = 0 → Kr (nI f0) s') ∧ (x1 = 0 → Kr (nI w) s')
    | none => K s') → c < t → v_X0_compass_51 N (L 0) x1 (nI lo) (nI hi) (nI w) Kr K t (nI f) s1
  | _, 0, _, _, _, _, _, _, _, h => absurd h (Nat.not_lt_zero _)
  | 0, t + 1, f, s1, j1, j2, hf, hc, hK, _ => by
    unfold v_X0_compass_51
    rw [nI_add, nI_ltI (by omega) (by omega)]
    exact ⟨fun _ => hK s1 j1 j2, fun z => absurd (by omega) z⟩
  | c + 1, t + 1, f, s1, j1, j2, hf, hc, hK, ht => by
    have X1 := hX.t j1
    have e : cpI (thr (m.2.1 2) lw q) w (c + 1) f = if thr (m.2.1 2) lw q f (f + w) = true then some f else cpI (thr (m.2.1 2) lw q) w c (f + 1) := rfl
    rw [e] at hK
    unfold v_X0_compass_51
    rw [nI_add, nI_ltI (by omega) (by omega)]
    refine ⟨fun z => by omega, fun _ => ⟨X1.S.o (r := 0) rfl, v_thr hN1 X1 hq hqv (by omega) (by omega) j2 (fun s2 a2 g2 => ?_)⟩⟩
    refine bI_c (fun z y hy => ?_) (fun z => ?_)
    · rw [if_neg (by rw [z]; decide)] at hK
      rw [hy, nI_1]
      exact v_cp51 hN1 hX hq hqv hh hw c t (f + 1) s2 (aT_t j1 a2) g2 (by omega) (by omega) hK (by omega)
    · rw [if_pos z] at hK
      exact hK s2 (aT_t j1 a2) g2
theorem v_cp40 (hN1 : 60 ≤ N.1) (hX : RX N s L M O m) {q lo hi : Nat} (hq : q ≤ 12) (hqv : m.2.1 2 41 = nI q) (hh : hi < 25) (hl : lo < 25) {x1 : Int32} {Kr : Int32 → tM → Prop} {K : tM → Prop} : ∀ (c t w : Nat) (s1 : tM), aT L s s1 → gLd s1 L (m.2.1 2) lw q → w < 26 → c = hi + 1 - w - lo → (∀ s', aT L s s' → gLd s' L (m.2.1 2) lw q → match cpO (thr (m.2.1 2) lw q) lo hi c w with
    | some (w0, f0) => (¬ x1 = 0 → Kr (nI f0) s') ∧ (x1 = 0 → Kr (nI w0) s')
    | none => K s') → c < t → v_X0_compass_40 N (L 0) x1 (nI lo) (nI hi) Kr K t (nI w) s1
  | _, 0, _, _, _, _, _, _, _, h => absurd h (Nat.not_lt_zero _)
  | 0, t + 1, w, s1, j1, j2, hf, hc, hK, _ => by
    have tk := pk_sub_toInt (a := hi) (b := lo) (by omega) (by omega)
    unfold v_X0_compass_40
    refine ⟨fun _ => hK s1 j1 j2, fun z => absurd ?_ z⟩
    rw [i32_lt, tk, nI_toInt (by omega)]
    omega
  | c + 1, t + 1, w, s1, j1, j2, hf, hc, hK, ht => by
    have X1 := hX.t j1
    have tk := pk_sub_toInt (a := hi) (b := lo) (by omega) (by omega)
    have e : cpO (thr (m.2.1 2) lw q) lo hi (c + 1) w = match cpI (thr (m.2.1 2) lw q) w (hi + 1 - w - lo) lo with
      | some f => some (w, f)
      | none => cpO (thr (m.2.1 2) lw q) lo hi c (w + 1) := rfl
    rw [e] at hK
    unfold v_X0_compass_40
    refine ⟨fun z => ?_, fun _ => v_cp51 hN1 hX hq hqv hh (w := w) (by omega) (hi + 1 - w - lo) N.1 lo s1 j1 j2 (by omega) rfl (fun s2 a2 g2 => ?_) (by omega)⟩
    · rw [i32_lt, tk, nI_toInt (by omega)] at z
      omega
    · cases hcp : cpI (thr (m.2.1 2) lw q) w (hi + 1 - w - lo) lo with
      | some f0 =>
        rw [hcp] at hK
        exact hK s2 a2 g2
      | none =>
        rw [hcp] at hK
        intro y hy
        rw [hy, nI_1]
        exact v_cp40 hN1 hX hq hqv hh hl c t (w + 1) s2 a2 g2 (by omega) (by omega) hK (by omega)
end CP
section CQ
variable {N : Nat × Nat} {m : mS} {lw : Option (List cL)}
theorem w_hasV (hN : 402 ≤ N.1) {q lo hi : Nat} (hq : q ≤ 12) (hqv : m.2.1 2 41 = nI q) (hh : hi < 25) (hl : lo < 25) (hC : ∀ n b h, n < q → okB n b → h < 25 → mC (m.2.1 2) lw n b h m) {K : Int32 → mS → Prop} (hK : ∀ m2, mD [] [37] [] m m2 → K (bI (thr (m.2.1 2) lw q lo hi)) m2) : w_hasVoice N (nI lo) (nI hi) m K := by
  unfold w_hasVoice
  refine w_manyS (v := nI q) hqv ?_
  rw [show (0 : Int32) = nI 0 from rfl, nI_eq (by omega) (by omega)]
  refine ⟨fun z => w_laysRestS (df := false) hN hq hqv hh hl (mC_gp (lw := lw) hC false) (fun m2 d2 r2 => ?_), fun z => ?_⟩
  · have k2 : m2.2.1 2 = m.2.1 2 := d2.2.1 2 (by decide)
    have hr : rsd m2 lw false q lo hi := by
      unfold rsd
      rw [k2]
      exact r2
    have hC2 : ∀ n b h, n < q → okB n b → h < 25 → mC (m2.2.1 2) lw n b h m2 := fun n b h h1 h2 h3 => by
      have := hC n b h h1 h2 h3
      unfold mC at this ⊢
      rw [k2, d2.2.1 36 (by decide), d2.2.1 34 (by decide), d2.2.1 35 (by decide)]
      exact this
    refine w_lfS (n := 0) (b := 0) (df := false) hN hq (by omega) ⟨by omega, by omega⟩ hh hl hC2 hr ?_
    rw [k2, Nat.sub_zero]
    have ok := sV_ok (lo := lo) (hi := hi) (fin := fnI (-1)) (tbB_T (m.2.1 2) lw q) hq hh q (Nat.le_refl _) 0 ⟨by omega, Or.inr (by omega)⟩
    have kk := hK m2 d2
    unfold thr at kk
    rcases cmp_r (df := false) (by omega) ok with ⟨c1, c2, c3⟩ | ⟨c1, c2⟩
    · rw [decide_eq_false c1] at kk
      refine ⟨fun w => ?_, fun _ => kk⟩
      rw [i32_le, far_t] at w
      omega
    · rw [decide_eq_true (Decidable.not_not.mp c1)] at kk
      refine ⟨fun _ => kk, fun w => absurd ?_ w⟩
      rw [c2, i32_le]
      omega
  · have kk := hK m (mD_r m)
    subst z
    have e0 : thr (m.2.1 2) lw 0 lo hi = true := by
      show (!decide ((ini (fnI (-1) 0)).2.2.2 = 0)) = true
      rw [fnI_m]
      decide
    rw [e0] at kk
    exact kk
theorem w_cp44 (hN : 402 ≤ N.1) {q hi w : Nat} (hq : q ≤ 12) (hqv : m.2.1 2 41 = nI q) (hh : hi < 25) (hw : w < 25) (hhv : m.2.1 2 40 = nI hi) (hC : ∀ n b h, n < q → okB n b → h < 25 → mC (m.2.1 2) lw n b h m) {x1 : Int32} {Kr : Int32 → mS → Prop} {K : mS → Prop} : ∀ (c t f : Nat) (m1 : mS), mD [] [37] [] m m1 → f < 26 → c = hi + 1 - w - f → (∀ m', mD [] [37] [] m m' → match cpI (thr (m.2.1 2) lw q) w c f with
    | some f0 => (¬ x1 = 0 → Kr (nI f0) m') ∧ (x1 = 0 → Kr (nI w) m')
    | none => K m') → c < t → w_compass_44 N x1 (nI w) Kr K t (nI f) m1
  | _, 0, _, _, _, _, _, _, h => absurd h (Nat.not_lt_zero _)
  | 0, t + 1, f, m1, j1, hf, hc, hK, _ => by
    have k1 : m1.2.1 2 = m.2.1 2 := j1.2.1 2 (by decide)
    unfold w_compass_44
    rw [show mAt m1 2 40 = nI hi from (mAt_n (k := 40) (by decide)).trans (by rw [k1]; exact hhv), nI_add, nI_ltI (by omega) (by omega)]
    exact ⟨vpk (k := 40) (by decide) (by decide), fun _ => hK m1 j1, fun z => absurd (by omega) z⟩
  | c + 1, t + 1, f, m1, j1, hf, hc, hK, ht => by
    have k1 : m1.2.1 2 = m.2.1 2 := j1.2.1 2 (by decide)
    have e : cpI (thr (m.2.1 2) lw q) w (c + 1) f = if thr (m.2.1 2) lw q f (f + w) = true then some f else cpI (thr (m.2.1 2) lw q) w c (f + 1) := rfl
    rw [e] at hK
    have hC1 : ∀ n b h, n < q → okB n b → h < 25 → mC (m1.2.1 2) lw n b h m1 := fun n b h h1 h2 h3 => by
      have := hC n b h h1 h2 h3
      unfold mC at this ⊢
      rw [k1, j1.2.1 36 (by decide), j1.2.1 34 (by decide), j1.2.1 35 (by decide)]
      exact this
    unfold w_compass_44
    rw [show mAt m1 2 40 = nI hi from (mAt_n (k := 40) (by decide)).trans (by rw [k1]; exact hhv), nI_add, nI_ltI (by omega) (by omega)]
    refine ⟨vpk (k := 40) (by decide) (by decide), fun z => by omega, fun _ => w_hasV (lw := lw) hN hq (by rw [k1]; exact hqv) (by omega) (by omega) hC1 (fun m2 d2 => ?_)⟩
    rw [k1]
    refine bI_c (fun z y hy => ?_) (fun z => ?_)
    · rw [if_neg (by rw [z]; decide)] at hK
      rw [hy, nI_1]
      exact w_cp44 hN hq hqv hh hw hhv hC c t (f + 1) m2 (mD_t j1 d2) (by omega) (by omega) hK (by omega)
    · rw [if_pos z] at hK
      exact hK m2 (mD_t j1 d2)
theorem w_cp17 (hN : 402 ≤ N.1) {q lo hi : Nat} (hq : q ≤ 12) (hqv : m.2.1 2 41 = nI q) (hh : hi < 25) (hl : lo < 25) (hlv : m.2.1 2 39 = nI lo) (hhv : m.2.1 2 40 = nI hi) (hC : ∀ n b h, n < q → okB n b → h < 25 → mC (m.2.1 2) lw n b h m) {x1 : Int32} {Kr : Int32 → mS → Prop} {K : mS → Prop} : ∀ (c t w : Nat) (m1 : mS), mD [] [37] [] m m1 → w < 26 → c = hi + 1 - w - lo → (∀ m', mD [] [37] [] m m' → match cpO (thr (m.2.1 2) lw q) lo hi c w with
    | some (w0, f0) => (¬ x1 = 0 → Kr (nI f0) m') ∧ (x1 = 0 → Kr (nI w0) m')
    | none => K m') → c < t → w_compass_17 N x1 Kr K t (nI w) m1
  | _, 0, _, _, _, _, _, _, h => absurd h (Nat.not_lt_zero _)
  | 0, t + 1, w, m1, j1, hf, hc, hK, _ => by
    have k1 : m1.2.1 2 = m.2.1 2 := j1.2.1 2 (by decide)
    have tk := pk_sub_toInt (a := hi) (b := lo) (by omega) (by omega)
    unfold w_compass_17
    rw [show mAt m1 2 40 = nI hi from (mAt_n (k := 40) (by decide)).trans (by rw [k1]; exact hhv), show mAt m1 2 39 = nI lo from (mAt_n (k := 39) (by decide)).trans (by rw [k1]; exact hlv)]
    refine ⟨vpk (k := 40) (by decide) (by decide), vpk (k := 39) (by decide) (by decide), fun _ => hK m1 j1, fun z => absurd ?_ z⟩
    rw [i32_lt, tk, nI_toInt (by omega)]
    omega
  | c + 1, t + 1, w, m1, j1, hf, hc, hK, ht => by
    have k1 : m1.2.1 2 = m.2.1 2 := j1.2.1 2 (by decide)
    have tk := pk_sub_toInt (a := hi) (b := lo) (by omega) (by omega)
    have e : cpO (thr (m.2.1 2) lw q) lo hi (c + 1) w = match cpI (thr (m.2.1 2) lw q) w (hi + 1 - w - lo) lo with
      | some f => some (w, f)
      | none => cpO (thr (m.2.1 2) lw q) lo hi c (w + 1) := rfl
    rw [e] at hK
    unfold w_compass_17
    rw [show mAt m1 2 40 = nI hi from (mAt_n (k := 40) (by decide)).trans (by rw [k1]; exact hhv), show mAt m1 2 39 = nI lo from (mAt_n (k := 39) (by decide)).trans (by rw [k1]; exact hlv)]
    refine ⟨vpk (k := 40) (by decide) (by decide), vpk (k := 39) (by decide) (by decide), fun z => ?_, fun _ => ⟨vpk (k := 39) (by decide) (by decide), fun y0 hy0 => ?_⟩⟩
    · rw [i32_lt, tk, nI_toInt (by omega)] at z
      omega
    · rw [hy0]
      refine w_cp44 (lw := lw) hN hq hqv hh (w := w) (by omega) hhv hC (hi + 1 - w - lo) N.1 lo m1 j1 (by omega) rfl (fun m2 d2 => ?_) (by omega)
      cases hcp : cpI (thr (m.2.1 2) lw q) w (hi + 1 - w - lo) lo with
      | some f0 =>
        rw [hcp] at hK
        exact hK m2 d2
      | none =>
        rw [hcp] at hK
        intro y hy
        rw [hy, nI_1]
        exact w_cp17 hN hq hqv hh hl hlv hhv hC c t (w + 1) m2 d2 (by omega) (by omega) hK (by omega)
theorem w_within {lo hi : Nat} (hlv : m.2.1 2 39 = nI lo) (hhv : m.2.1 2 40 = nI hi) {v : Int32} {K : Int32 → mS → Prop} (hK : K (bI (decide (nI lo ≤ v) && decide (v ≤ nI hi))) m) : w_isWithin v m K := by
  unfold w_isWithin
  rw [show mAt m 2 40 = nI hi from (mAt_n (k := 40) (by decide)).trans hhv, show mAt m 2 39 = nI lo from (mAt_n (k := 39) (by decide)).trans hlv]
  exact ⟨vpk (k := 39) (by decide) (by decide), vpk (k := 40) (by decide) (by decide), w_liesS ⟨bI_x _, hK⟩⟩
def btZ (r : Nat) (b : Nat) : Int32 := if fnI (nI r) b = true then 0 else 100000000
theorem fnI_r {r b : Nat} (hr : r < 25) (hb : b < 26) : fnI (nI r) b = decide (b = r + 1) := by
  unfold fnI
  rw [decide_eq_decide, nI_1, nI_eq (by omega) (by omega)]
  refine ⟨fun z => z.resolve_left (fun w => ?_), Or.inr⟩
  have := congrArg Int32.toInt w
  rw [nI_toInt (by omega), m1toI] at this
  omega
theorem w_bt53 (hN : 402 ≤ N.1) {q n lo hi r : Nat} (hq : q ≤ 12) (hn : n < q) (hr25 : r < 25) (hh : hi < 25) (hl : lo < 25) (hlv : m.2.1 2 39 = nI lo) (hhv : m.2.1 2 40 = nI hi) {G : Nat → Nat → Nat → Bool} {P : Nat → Nat → Nat → Int32} (hG : gpR q lo hi false G P m) {x1 : Int32} {Kr : Int32 → mS → Prop} {K : mS → Prop} (hr : n + 1 < q → ∀ h, lo ≤ h → h ≤ hi → m.2.1 37 (25 * (n + 1) + h) = mV G (prD false (m.2.1 2) P) q lo hi (btZ r) (q - (n + 2)) (h + 1)) (hK : ∀ m2, mD [] [37] [] m m2 → (∀ j, ¬ (25 * n + lo ≤ j ∧ j < 25 * n + 25) → m2.2.1 37 j = m.2.1 37 j) → (∀ h, lo ≤ h → h ≤ hi → m2.2.1 37 (25 * n + h) = mV G (prD false (m.2.1 2) P) q lo hi (btZ r) (q - (n + 1)) (h + 1)) → K m2) : ∀ (c t k : Nat) (m1 : mS), mD [] [37] [] m m1 → (∀ j, ¬ (25 * n + lo ≤ j ∧ j < 25 * n + 25) → m1.2.1 37 j = m.2.1 37 j) → (∀ h, lo ≤ h → h < lo + k → h ≤ hi → m1.2.1 37 (25 * n + h) = mV G (prD false (m.2.1 2) P) q lo hi (btZ r) (q - (n + 1)) (h + 1)) → k + c = hi + 1 - lo → c < t → w_between_53 N x1 (nI r) (nI (q - 1)) (nI n) Kr K t (nI (lo + k)) m1
  | _, 0, _, _, _, _, _, _, h => absurd h (Nat.not_lt_zero _)
  | 0, t + 1, k, m1, j1, j2, j3, hk, _ => by
    unfold w_between_53
    have k1 : m1.2.1 2 = m.2.1 2 := j1.2.1 2 (by decide)
    rw [show mAt m1 2 40 = nI hi from (mAt_n (k := 40) (by decide)).trans (by rw [k1]; exact hhv), nI_ltI (by omega) (by omega)]
    exact ⟨vpk (k := 40) (by decide) (by decide), fun _ => hK m1 j1 j2 (fun h z1 z2 => j3 h z1 (by omega) z2), fun z => absurd (by omega) z⟩
  | c + 1, t + 1, k, m1, j1, j2, j3, hk, ht => by
    have k1 : m1.2.1 2 = m.2.1 2 := j1.2.1 2 (by decide)
    have fin : ∀ v, v = mV G (prD false (m.2.1 2) P) q lo hi (btZ r) (q - (n + 1)) (lo + k + 1) → ∀ m2, m2 = mI m1 37 (nI (25 * n + (lo + k))) v → ∀ y : Int32, y = nI (lo + k) + 1 → w_between_53 N x1 (nI r) (nI (q - 1)) (nI n) Kr K t y m2 := fun v hv m2 e2 y hy => by
      rw [hy, nI_1]
      have at2 : ∀ j, m2.2.1 37 j = if j = 25 * n + (lo + k) then v else m1.2.1 37 j := fun j => by
        rw [e2]
        exact mI_at _ _ _ (by omega) j
      refine w_bt53 hN hq hn hr25 hh hl hlv hhv hG hr hK c t (k + 1) m2 (mD_t j1 (by rw [e2]; exact mD_I m1 _ _ (by decide))) (fun j hj => ?_) (fun h z1 z2 z3 => ?_) (by omega) (by omega)
      · rw [at2, if_neg (by omega)]
        exact j2 j hj
      · rw [at2]
        by_cases e : h = lo + k
        · rw [e, if_pos rfl, hv]
        · rw [if_neg (by omega)]
          exact j3 h z1 (by omega) z3
    have eq1 : nI n = nI (q - 1) ↔ n + 1 = q := by
      rw [nI_eq (by omega) (by omega)]
      omega
    unfold w_between_53
    rw [show mAt m1 2 40 = nI hi from (mAt_n (k := 40) (by decide)).trans (by rw [k1]; exact hhv), nI_ltI (by omega) (by omega), eq1, nI_1, r25_e, nI_eq (by omega) (by omega), show mAt m1 2 39 = nI lo from (mAt_n (k := 39) (by decide)).trans (by rw [k1]; exact hlv)]
    refine ⟨vpk (k := 40) (by decide) (by decide), fun z => by omega, fun _ => ⟨fun ne => ⟨vpk (k := 39) (by decide) (by decide), vpk (k := 40) (by decide) (by decide), ?_⟩, fun e => ⟨fun z => ⟨vpk (by omega) (by decide), fin 100000000 ?_⟩, fun z => ⟨vpk (by omega) (by decide), fin 0 ?_⟩⟩⟩⟩
    · have hb : nI (lo + k) = nI (lo + k + 1 - 1) := by rw [Nat.add_sub_cancel]
      have := w_leastFromS (N := N) (m := m1) hN (n := n + 1) (b := lo + k + 1) (by omega) (by omega) hh hl (df := false) (g := G (n + 1) (lo + k + 1)) (P := P) (r := fun h => mV G (prD false (m.2.1 2) P) q lo hi (btZ r) (q - (n + 2)) (h + 1)) (fun h z1 z2 => ?_) (K := fun x105 s106 => (vp_in (nI (25 * n + (lo + k))) 300 ∧ (∀ s108 : mS, s108 = mI s106 37 (nI (25 * n + (lo + k))) x105 → (∀ x109 : Int32, x109 = nI (lo + k) + 1 → w_between_53 N x1 (nI r) (nI (q - 1)) (nI n) Kr K t x109 s108)))) ⟨vpk (by omega) (by decide), fin _ ?_⟩
      · rw [← hb] at this
        exact this
      · obtain ⟨a1, a2⟩ := hG (n + 1) (lo + k + 1) h (by omega) ⟨by omega, by omega⟩ (by omega)
        refine ⟨(by rw [j1.2.1 36 (by decide)]; exact a1), (fun z w => by rw [j1.2.1 34 (by decide)]; exact a2 z w), ?_⟩
        rw [j2 _ (by omega)]
        exact hr (by omega) h z1 z2
      · rw [k1, show q - (n + 1) = q - (n + 2) + 1 by omega]
        show _ = mLf (G (q - (q - (n + 2) + 1)) (lo + k + 1)) (prD false (m.2.1 2) P (q - (q - (n + 2) + 1)) (lo + k + 1)) _ _ _
        rw [show q - (q - (n + 2) + 1) = n + 1 by omega]
    · rw [e, Nat.sub_self]
      show _ = btZ r (lo + k + 1)
      unfold btZ
      rw [fnI_r hr25 (by omega), decide_eq_false (by omega), if_neg (by decide)]
    · rw [e, Nat.sub_self]
      show _ = btZ r (lo + k + 1)
      unfold btZ
      rw [fnI_r hr25 (by omega), decide_eq_true (by omega), if_pos rfl]
theorem w_bt39 (hN : 402 ≤ N.1) {q lo hi r : Nat} (hq : q ≤ 12) (hr25 : r < 25) (hh : hi < 25) (hl : lo < 25) (hlv : m.2.1 2 39 = nI lo) (hhv : m.2.1 2 40 = nI hi) {G : Nat → Nat → Nat → Bool} {P : Nat → Nat → Nat → Int32} (hG : gpR q lo hi false G P m) {x1 : Int32} {Kr : Int32 → mS → Prop} {K : mS → Prop} (hK : ∀ m2, mD [] [37] [] m m2 → (∀ n h, n < q → lo ≤ h → h ≤ hi → m2.2.1 37 (25 * n + h) = mV G (prD false (m.2.1 2) P) q lo hi (btZ r) (q - (n + 1)) (h + 1)) → K m2) : w_between_39 N x1 (nI r) (nI (q - 1)) Kr K N.1 (nI q - 1) m := by
  have key : ∀ k t m1, k ≤ q → k < t → mD [] [37] [] m m1 → (∀ n h, k ≤ n → n < q → lo ≤ h → h ≤ hi → m1.2.1 37 (25 * n + h) = mV G (prD false (m.2.1 2) P) q lo hi (btZ r) (q - (n + 1)) (h + 1)) → w_between_39 N x1 (nI r) (nI (q - 1)) Kr K t (nI k - 1) m1 := by
    intro k
    induction k with
    | zero =>
      intro t m1 hk ht j1 j2
      obtain ⟨t, rfl⟩ : ∃ u, t = u + 1 := ⟨t - 1, by omega⟩
      simp only [w_between_39]
      exact ⟨fun _ => hK m1 j1 (fun n h z1 => j2 n h (Nat.zero_le _) z1), fun z => absurd (by decide) z⟩
    | succ k ih =>
      intro t m1 hk ht j1 j2
      obtain ⟨t, rfl⟩ : ∃ u, t = u + 1 := ⟨t - 1, by omega⟩
      have k1 : m1.2.1 2 = m.2.1 2 := j1.2.1 2 (by decide)
      simp only [w_between_39]
      rw [nI_pred]
      refine ⟨fun z => absurd z (nI_pos (by omega)), fun _ => ⟨vpk (k := 39) (by decide) (by decide), fun y0 hy0 => ?_⟩⟩
      rw [hy0, show mAt m1 2 39 = nI lo from (mAt_n (k := 39) (by decide)).trans (by rw [k1]; exact hlv)]
      refine w_bt53 (m := m1) hN hq (n := k) (by omega) hr25 hh hl (by rw [k1]; exact hlv) (by rw [k1]; exact hhv) (G := G) (P := P) (fun n b h z1 z2 z3 => ?_) (fun z1 h z2 z3 => ?_) (fun m2 i1 i2 i3 y hy => ?_) (hi + 1 - lo) N.1 0 m1 (mD_r m1) (fun _ _ => rfl) (fun h z1 z2 => by omega) (by omega) (by omega)
      · rw [j1.2.1 36 (by decide), j1.2.1 34 (by decide)]
        exact hG n b h z1 z2 z3
      · rw [k1]
        exact j2 (k + 1) h (by omega) z1 z2 z3
      · have ey : y = nI k - 1 := by rw [hy, Int32.sub_eq_add_neg]
        rw [ey]
        refine ih t m2 (by omega) (by omega) (mD_t j1 i1) (fun n h z1 z2 z3 z4 => ?_)
        by_cases e : n = k
        · rw [e, i3 h z3 z4, k1]
        · rw [i2 _ (by omega)]
          exact j2 n h (by omega) z2 z3 z4
  exact key q N.1 m (Nat.le_refl _) (by omega) (mD_r m) (fun n h z1 z2 => by omega)
end CQ
theorem sV_nz {g : Nat → Nat → Nat → Bool} {p a : Nat → Nat → Nat → Int32} {d : Nat → Nat → Int32} {q lo hi : Nat} {fin : Nat → Bool} (hf : ∀ h, lo ≤ h → h ≤ hi → fin (h + 1) = false) : ∀ c h, lo ≤ h → h ≤ hi → (sV g p a d q lo hi fin c (h + 1)).2.2.2 = 0
  | 0, h, h1, h2 => by
    show (ini (fin (h + 1))).2.2.2 = 0
    rw [hf h h1 h2]
    rfl
  | c + 1, h, h1, h2 => by
    have key : ∀ k, k ≤ hi + 1 - lo → (sF (g (q - (c + 1)) (h + 1)) (p (q - (c + 1)) (h + 1)) (a (q - (c + 1)) (h + 1)) (d (q - (c + 1))) (fun j => sV g p a d q lo hi fin c j) lo k).2.2.2 = 0 := by
      intro k
      induction k with
      | zero => intro _; rfl
      | succ k ih =>
        intro hk
        show (sS _ _ _ _ (sV g p a d q lo hi fin c (lo + k + 1)) _).2.2.2 = 0
        unfold sS
        rw [if_neg (fun z => z.2 (sV_nz hf c (lo + k) (by omega) (by omega)))]
        exact ih (by omega)
    exact key _ (Nat.le_refl _)
section CO2
variable {N : tP} {s : tM} {x o : Nat} {K : tM → Prop}
theorem op_compass (hN : nOK N) (hX : RXo N s x o) (hK : ∀ s', RXo N s' x o → K s') (a : Int32) : v_X0_compass N x a s (pK o (w_compass (nP N) a) K) := by
  obtain ⟨L, M, rfl, hX, hm⟩ := hX
  have hS := hX.S
  obtain ⟨q, n1, n2⟩ := hX.I.1.2.2.2.2.1
  obtain ⟨lo, lo1, lo2⟩ := i32N hX.I.1.2.2.1.1
  obtain ⟨hi, hi1, hi2⟩ := i32N hX.I.1.2.2.2.1.1
  have hl : lo < 25 := by have := hX.I.1.2.2.1.2; omega
  have hh : hi < 25 := by have := hX.I.1.2.2.2.1.2; omega
  obtain ⟨lw, hF⟩ := hX.inF
  have hN1 : 60 ≤ N.1 := by have := hN.1; omega
  have hN2 : 120 ≤ N.2.1 := by have := hN.2; omega
  have hM1 : 402 ≤ (nP N).1 := by have := hN.1; show 402 ≤ N.1; omega
  have hM2 : 40 ≤ (nP N).2 := by have := hN.2; show 40 ≤ N.2.1; omega
  unfold v_X0_compass
  refine v_inS ?_
  rw [inl (lo' := 0) (hi' := 1) (by decide) (by decide)]
  refine bI_d (fun hb => ?_) (fun hb => pfin hX hm (frM_r _ _) rfl hK (fun m1 K2 hc h2 => ?_))
  · obtain ⟨t1, t2, t3, t4, t5, t6⟩ := v_lowS hX lo1
    have t7 : tI s (L 42) 4 = nI hi := (hX.R 42 4 2 40 rfl).trans hi1
    rw [t2, t4, t6, t7]
    refine ⟨t1, t3, t5, fun y hy => ⟨⟨5, hS.a (r := 42) rfl, vpk (k := 4) (by decide) (by decide)⟩, fun z hz => v_layNotesS hN2 hN1 hX hF n1 n2 (fun s1 a1 d1 => ?_)⟩⟩
    rw [hy, hz]
    have X1 := hX.t a1
    have g1 : gLd s1 L ((sM s o).2.1 2) lw q := fun n b h h1 h2 h3 => cDt_g (d1 n b h h1 h2 h3)
    have fin : ∀ s2, aT L s s2 → ∀ r, r = (match cpO (thr ((sM s o).2.1 2) lw q) lo hi (hi + 1 - lo) 0 with
        | some (w0, f0) => if a = 0 then nI w0 else nI f0
        | none => -1) → pK o (w_compass (nP N) a) K r s2 := fun s2 a2 r hr => by
      refine pfin (hX.t a2) hm (frM_s (aT_M a2 hS) (fun _ => Or.inr)) rfl hK (fun m1 K2 hc h2 => ?_)
      have e2 := eqP hc
      unfold w_compass
      refine w_liesS ?_
      rw [hb]
      refine ⟨fun _ => w_laysNotesS (lw := lw) hM1 hM2 (by rw [e2]; exact hF) (by rw [e2]; exact hX.I.1.1) n1 (by rw [e2]; exact n2) (fun m2 T2 C2 => ?_), fun w => absurd w (by decide)⟩
      have k2 := mT_2 T2
      rw [← k2] at C2
      have k3 : m2.2.1 2 = (sM s o).2.1 2 := k2.trans e2
      refine w_cp17 (lw := lw) (lo := lo) (hi := hi) hM1 n1 (by rw [k3]; exact n2) hh hl (by rw [k3]; exact lo1) (by rw [k3]; exact hi1) C2 (hi + 1 - lo) (nP N).1 0 m2 (mD_r m2) (by omega) (by omega) (fun m3 d3 => ?_) (by omega)
      have g3 := h2 m3 (cE_t hc (cE_t (mT_cE T2) (cE_D d3 (by decide) (by decide))))
      rw [k3]
      cases hcp : cpO (thr ((sM s o).2.1 2) lw q) lo hi (hi + 1 - lo) 0 with
      | some wf =>
        obtain ⟨w0, f0⟩ := wf
        rw [hcp] at hr
        have hr2 : r = if a = 0 then nI w0 else nI f0 := hr
        refine ⟨fun z => ?_, fun z => ?_⟩
        · rw [if_neg z] at hr2
          rw [← hr2]
          exact g3
        · rw [if_pos z] at hr2
          rw [← hr2]
          exact g3
      | none =>
        rw [hcp] at hr
        have hr2 : r = -1 := hr
        show K2 (-1) m3
        rw [← hr2]
        exact g3
    refine v_cp40 (lw := lw) hN1 hX n1 n2 hh hl (hi + 1 - lo) N.1 0 s1 a1 g1 (by omega) (by omega) (fun s2 a2 g2 => ?_) (by omega)
    cases hcp : cpO (thr ((sM s o).2.1 2) lw q) lo hi (hi + 1 - lo) 0 with
    | some wf =>
      obtain ⟨w0, f0⟩ := wf
      rw [hcp] at fin
      refine ⟨fun z => fin s2 a2 _ ?_, fun z => fin s2 a2 _ ?_⟩
      · show _ = if a = 0 then nI w0 else nI f0
        rw [if_neg z]
      · show _ = if a = 0 then nI w0 else nI f0
        rw [if_pos z]
    | none =>
      rw [hcp] at fin
      exact fin s2 a2 _ rfl
  · unfold w_compass
    refine w_liesS ?_
    rw [hb]
    exact ⟨fun z => absurd rfl z, fun _ => h2 m1 hc⟩
theorem op_between (hN : nOK N) (hX : RXo N s x o) (hK : ∀ s', RXo N s' x o → K s') (a b : Int32) : v_X0_between N x a b s (pK o (w_between (nP N) a b) K) := by
  obtain ⟨L, M, rfl, hX, hm⟩ := hX
  have hS := hX.S
  obtain ⟨q, n1, n2⟩ := hX.I.1.2.2.2.2.1
  obtain ⟨lo, lo1, lo2⟩ := i32N hX.I.1.2.2.1.1
  obtain ⟨hi, hi1, hi2⟩ := i32N hX.I.1.2.2.2.1.1
  have hl : lo < 25 := by have := hX.I.1.2.2.1.2; omega
  have hh : hi < 25 := by have := hX.I.1.2.2.2.1.2; omega
  obtain ⟨lw, hF⟩ := hX.inF
  have hN1 : 60 ≤ N.1 := by have := hN.1; omega
  have hN2 : 120 ≤ N.2.1 := by have := hN.2; omega
  have hM1 : 402 ≤ (nP N).1 := by have := hN.1; show 402 ≤ N.1; omega
  have hM2 : 40 ≤ (nP N).2 := by have := hN.2; show 40 ≤ N.2.1; omega
  have z0 : nI q = 0 ↔ q = 0 := by rw [show (0 : Int32) = nI 0 from rfl, nI_eq (by omega) (by omega)]
  have bad : ∀ s1, aT L s s1 → (q = 0 ∨ (decide (nI lo ≤ a) && decide (a ≤ nI hi)) = false ∨ (decide (nI lo ≤ b) && decide (b ≤ nI hi)) = false) → pK o (w_between (nP N) a b) K (-1) s1 := fun s1 a1 h => by
    refine pfin (hX.t a1) hm (frM_s (aT_M a1 hS) (fun _ => Or.inr)) rfl hK (fun m1 K2 hc h2 => ?_)
    have e2 := eqP hc
    unfold w_between
    refine w_manyS (v := nI q) (by rw [e2]; exact n2) ?_
    rw [z0]
    refine ⟨fun _ => h2 m1 hc, fun nq => w_within (by rw [e2]; exact lo1) (by rw [e2]; exact hi1) (bI_c (fun _ => h2 m1 hc) (fun z1 => w_within (by rw [e2]; exact lo1) (by rw [e2]; exact hi1) (bI_d (fun z2 => ?_) (fun _ => h2 m1 hc))))⟩
    rcases h with h | h | h
    · exact absurd h nq
    · rw [h] at z1
      cases z1
    · rw [h] at z2
      cases z2
  have npi : ∀ v : Int32, isPI v = false → (decide (nI lo ≤ v) && decide (v ≤ nI hi)) = false := fun v hv => by
    have := isPI_f hv
    unfold pI at this
    simp only [i32_le, nI_toInt (n := lo) (by omega), nI_toInt (n := hi) (by omega), Bool.and_eq_false_iff, decide_eq_false_iff_not]
    omega
  unfold v_X0_between
  refine v_isPitchS (bI_c (fun z => bad s (aT_r L s) (Or.inr (Or.inl (npi a z)))) (fun za => v_isPitchS (bI_c (fun z => bad s (aT_r L s) (Or.inr (Or.inr (npi b z)))) (fun zb => ⟨hS.o (r := 0) rfl, v_nNotesS hS ?_⟩))))
  rw [show tI s (L 40) 4 = nI q from hX.many.trans n2, z0]
  refine ⟨fun nq => ?_, fun z => bad s (aT_r L s) (Or.inl z)⟩
  obtain ⟨p, p1, p2⟩ := i32N (isPI_t.mp za).1
  obtain ⟨r, r1, r2⟩ := i32N (isPI_t.mp zb).1
  have pl : p < 25 := by have := (isPI_t.mp za).2; omega
  have rl : r < 25 := by have := (isPI_t.mp zb).2; omega
  obtain ⟨t1, t2, t3, t4, t5, t6⟩ := v_lowS hX lo1
  have t7 : tI s (L 42) 4 = nI hi := (hX.R 42 4 2 40 rfl).trans hi1
  rw [t2, t4, t6, t7]
  refine ⟨t1, t3, t5, fun y hy => ⟨⟨5, hS.a (r := 42) rfl, vpk (k := 4) (by decide) (by decide)⟩, fun z hz => v_layNotesS hN2 hN1 hX hF n1 n2 (fun s1 a1 d1 => ?_)⟩⟩
  have X1 := hX.t a1
  rw [hy, hz]
  refine ⟨X1.S.o (r := 0) rfl, v_layVS hN1 X1 n1 n2 hh hl d1 (fun s2 a2 l2 => v_inS ?_)⟩
  rw [inl (lo' := nI lo) (hi' := nI hi) (Int32.toInt_toInt64 _) (Int32.toInt_toInt64 _)]
  have A2 := aT_t a1 a2
  have X2 := hX.t A2
  have S2 := X2.S
  refine bI_c (fun w => bad s2 A2 (Or.inr (Or.inl w))) (fun wa => ?_)
  subst p1 r1
  have wr := in_t wa
  rw [nI_toInt (by omega), nI_toInt (by omega), nI_toInt (by omega)] at wr
  obtain ⟨q16, q17, -, q19, -, -, q22⟩ := S2.q0
  obtain ⟨r16, r17, -⟩ := S2.q16 (n := 0) (by omega)
  obtain ⟨-, -, -, -⟩ := S2.q19 (n := 0) (by omega)
  obtain ⟨p19, -, -, p22⟩ := S2.q19 (n := 1) (by omega)
  obtain ⟨g16, g17, -⟩ := S2.qg (n := 0) (b := 0) (by omega) (by omega)
  obtain ⟨c1, c2⟩ := l2.1 0 0 p (by omega) ⟨by omega, by omega⟩ pl
  have w1 := laid_n l2 (n := 0 + 1) (b := p + 1) (by omega) (okQ_n (by omega) pl)
  have w1a : tI s2 (L (660 + 1)) (p + 1) = (sV (goT ((sM s o).2.1 2) lw) (prT ((sM s o).2.1 2) lw) (gaT ((sM s o).2.1 2) lw) (dI ((sM s o).2.1 2)) q lo hi (fnI (nI r)) (q - (0 + 1)) (p + 1)).1 := congrArg Prod.fst w1
  have w1d : tJ s2 (L (720 + 1)) (p + 1) = (sV (goT ((sM s o).2.1 2) lw) (prT ((sM s o).2.1 2) lw) (gaT ((sM s o).2.1 2) lw) (dI ((sM s o).2.1 2)) q lo hi (fnI (nI r)) (q - (0 + 1)) (p + 1)).2.2.2 := congrArg (fun v : T4 => v.2.2.2) w1
  have cp : (nI p).toNatClampNeg = p := nI_clamp (by omega)
  have cp1 : (nI (p + 1)).toNatClampNeg = p + 1 := nI_clamp (by omega)
  have ok1 := sV_ok (lo := lo) (hi := hi) (fin := fnI (nI r)) (tbB_T ((sM s o).2.1 2) lw q) n1 hh (q - (0 + 1)) (by omega) (p + 1) (by rw [show q - (q - (0 + 1)) = 0 + 1 by omega]; exact okQ_n (by omega) pl)
  -- what both answer
  have fin : ∀ v, v = (if goT ((sM s o).2.1 2) lw 0 0 p = true ∧ ¬ (sV (goT ((sM s o).2.1 2) lw) (prT ((sM s o).2.1 2) lw) (gaT ((sM s o).2.1 2) lw) (dI ((sM s o).2.1 2)) q lo hi (fnI (nI r)) (q - (0 + 1)) (p + 1)).2.2.2 = 0 then prT ((sM s o).2.1 2) lw 0 0 p + (sV (goT ((sM s o).2.1 2) lw) (prT ((sM s o).2.1 2) lw) (gaT ((sM s o).2.1 2) lw) (dI ((sM s o).2.1 2)) q lo hi (fnI (nI r)) (q - (0 + 1)) (p + 1)).1 else -1) → pK o (w_between (nP N) (nI p) (nI r)) K v s2 := fun v hv => by
    by_cases wb : (decide (nI lo ≤ nI r) && decide (nI r ≤ nI hi)) = true
    · refine pfin X2 hm (frM_s (aT_M A2 hS) (fun _ => Or.inr)) rfl hK (fun m1 K2 hc h2 => ?_)
      have e2 := eqP hc
      unfold w_between
      refine w_manyS (v := nI q) (by rw [e2]; exact n2) ?_
      rw [z0]
      refine ⟨fun z => absurd z nq, fun _ => w_within (by rw [e2]; exact lo1) (by rw [e2]; exact hi1) ?_⟩
      rw [wa]
      refine ⟨fun z => absurd z (by decide), fun _ => w_within (by rw [e2]; exact lo1) (by rw [e2]; exact hi1) ?_⟩
      rw [wb]
      refine ⟨fun _ => w_laysNotesS (lw := lw) hM1 hM2 (by rw [e2]; exact hF) (by rw [e2]; exact hX.I.1.1) n1 (by rw [e2]; exact n2) (fun m2 T2 C2 => w_manyS (v := nI q) (by rw [mT_2 T2, e2]; exact n2) (fun y hy => ?_)), fun z => absurd z (by decide)⟩
      have k2 : m2.2.1 2 = (sM s o).2.1 2 := (mT_2 T2).trans e2
      rw [e2] at C2
      have ey : y = nI (q - 1) := hy.trans (pk_sub (b := 1) (by omega))
      have ey2 : y = nI q - 1 := hy
      have goal39 := w_bt39 (N := nP N) (m := m2) hM1 n1 rl hh hl (by rw [k2]; exact lo1) (by rw [k2]; exact hi1) (G := goT ((sM s o).2.1 2) lw) (P := prT ((sM s o).2.1 2) lw) (mC_gp C2 false) (x1 := nI p) (Kr := K2) (K := fun s115 => w_noteAt 0 0 (nI p) (fun x116 => (vp_in x116 7500 ∧ (((mAt s115 36 x116) = 0 → (w_between_175 (nP N) 100000000 K2 s115)) ∧ (¬ (mAt s115 36 x116) = 0 → (w_noteAt 0 0 (nI p) (fun x120 => (vp_in x120 7500 ∧ (vp_in (nI p) 300 ∧ (w_between_175 (nP N) ((mAt s115 34 x120) + (mAt s115 37 (nI p))) K2 s115)))))))))) (fun m3 d3 r3 => ?_)
      · rw [ey]
        rw [← ey2, ey] at goal39
        exact goal39
      · have g3 := h2 m3 (cE_t hc (cE_t (mT_cE T2) (cE_D d3 (by decide) (by decide))))
        obtain ⟨f1, f2⟩ := C2 0 0 p (by omega) ⟨by omega, by omega⟩ pl
        have f3 := r3 0 p (by omega) (by omega) (by omega)
        rw [k2] at f3
        have mx := mV_x (lo := lo) (hi := hi) (fin := fnI (nI r)) (tbB_T ((sM s o).2.1 2) lw q) n1 hh false (z := btZ r) (fun _ _ => rfl) (q - (0 + 1)) (by omega) (p + 1) (by rw [show q - (q - (0 + 1)) = 0 + 1 by omega]; exact okQ_n (by omega) pl)
        rw [prD_pd, mx] at f3
        have f3' : m3.2.1 37 p = (sV (goT ((sM s o).2.1 2) lw) (prT ((sM s o).2.1 2) lw) (gaT ((sM s o).2.1 2) lw) (dI ((sM s o).2.1 2)) q lo hi (fnI (nI r)) (q - (0 + 1)) (p + 1)).1 := by
          have e0 : 25 * 0 + p = p := by omega
          rw [e0] at f3
          exact f3
        have em : mix 0 0 p = p := by
          unfold mix
          omega
        have ei : (625 : Int32) * 0 + 25 * 0 + nI p = nI p := by
          rw [show (625 : Int32) * 0 + 25 * 0 = 0 by decide, nI_0p]
        unfold w_noteAt w_between_175
        dsimp only
        rw [ei, mAt_n (by omega), mAt_n (by omega), mAt_n (by omega), d3.2.1 36 (by decide), d3.2.1 34 (by decide), f3']
        rw [em] at f1 f2
        rw [f1]
        have pb := prT_B (kp := (sM s o).2.1 2) (lw := lw) (n := 0) (b := 0) (h := p) (by omega) pl
        have vpp : vp_in (nI p) 7500 := vpk (by omega) (by decide)
        refine ⟨vpp, bI_c (fun z => ⟨fun w => absurd w (by decide), fun _ => ?_⟩) (fun z => ⟨vpp, vpk (by omega) (by decide), ?_⟩)⟩
        · rw [if_neg (fun w => by rw [z] at w; exact absurd w.1 (by decide))] at hv
          rw [← hv]
          exact g3
        · rw [(f2 z).1]
          rcases cmp_r (df := false) (by omega) ok1 with ⟨y1, y2, y3⟩ | ⟨y1, y2⟩
          · rw [if_pos ⟨z, y1⟩] at hv
            have y2' : 0 ≤ (sV (goT ((sM s o).2.1 2) lw) (prT ((sM s o).2.1 2) lw) (gaT ((sM s o).2.1 2) lw) (dI ((sM s o).2.1 2)) q lo hi (fnI (nI r)) (q - (0 + 1)) (p + 1)).1.toInt := y2
            have y3' : (sV (goT ((sM s o).2.1 2) lw) (prT ((sM s o).2.1 2) lw) (gaT ((sM s o).2.1 2) lw) (dI ((sM s o).2.1 2)) q lo hi (fnI (nI r)) (q - (0 + 1)) (p + 1)).1.toInt ≤ 99999 := y3
            refine ⟨fun _ => ?_, fun w => absurd ?_ w⟩
            · rw [← hv]
              exact g3
            · rw [i32_lt, far_t, i32_add (by omega) (by omega)]
              omega
          · rw [if_neg (fun w => y1 w.2)] at hv
            have y2' : (sV (goT ((sM s o).2.1 2) lw) (prT ((sM s o).2.1 2) lw) (gaT ((sM s o).2.1 2) lw) (dI ((sM s o).2.1 2)) q lo hi (fnI (nI r)) (q - (0 + 1)) (p + 1)).1 = 100000000 := y2
            refine ⟨fun w => ?_, fun _ => ?_⟩
            · rw [y2', i32_lt, i32_add (by rw [far_t]; omega) (by rw [far_t]; omega), far_t] at w
              omega
            · rw [← hv]
              exact g3
    · have wb' : (decide (nI lo ≤ nI r) && decide (nI r ≤ nI hi)) = false := Bool.eq_false_iff.mpr wb
      have hz2 := sV_nz (g := goT ((sM s o).2.1 2) lw) (p := prT ((sM s o).2.1 2) lw) (a := gaT ((sM s o).2.1 2) lw) (d := dI ((sM s o).2.1 2)) (q := q) (lo := lo) (hi := hi) (fin := fnI (nI r)) (fun h h1 h2 => by
        rw [fnI_r rl (by omega), decide_eq_false_iff_not]
        intro e
        have er : r = h := by omega
        subst er
        rw [decide_eq_true (nI_le h1 (by omega)), decide_eq_true (nI_le h2 (by omega))] at wb'
        cases wb') (q - (0 + 1)) p (by omega) (by omega)
      rw [if_neg (fun w => w.2 hz2)] at hv
      rw [hv]
      exact bad s2 A2 (Or.inr (Or.inr wb'))
  simp only [q16, q17, q19, q22, r16, r17, p19, p22, g16, g17, cp, nI_1, cp1, c1, w1a, w1d, lgc_z]
  have x0 := S2.x600 (n := 0) (b := 0) (by omega) (by omega)
  have x1 := S2.x1000 (n := 0) (b := 0) (i := p) (by omega) (by omega) pl
  have x2 := S2.x16 (n := 0) (by omega)
  have x3 := S2.x19 (n := 1) (by omega)
  have x4 := S2.x660 (n := 1) (b := p + 1) (by omega) (by omega)
  refine ⟨S2.o (r := 0) rfl, x2.1, x0.1, x1.1, bI_c (fun z => fin _ ?_) (fun z => ⟨x3.2.2.2, x4.2.2.2, fun w => ⟨x2.2.1, x0.2.1, x1.2.1, x3.1, x4.1, fin _ ?_⟩, fun w => fin _ ?_⟩)⟩
  · rw [if_neg (fun w => by rw [z] at w; exact absurd w.1 (by decide))]
  · rw [if_pos ⟨z, w⟩, show tI s2 (L (1400 + (26 * 0 + 0))) p = prT ((sM s o).2.1 2) lw 0 0 p from (c2 (by decide) z).1]
  · rw [if_neg (fun y => y.2 w)]
end CO2
