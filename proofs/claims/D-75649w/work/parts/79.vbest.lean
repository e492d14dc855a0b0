set_option maxRecDepth 100000
/-! ===== best, mend, compare ===== -/
section BS
variable {N : tP} {s : tM} {L : Nat → Nat} {M O : Nat → Prop} {m : mS} {lw : Option (List cL)}
/-- the voices' table is laid -/
def laid (s : tM) (L : Nat → Nat) (kp : Nat → Int32) (lw : Option (List cL)) (q lo hi : Nat) (fin : Nat → Bool) : Prop := (∀ n b h, n < q → okB n b → h < 25 → cDt kp lw L 1 n b h s) ∧ ∀ c b, c ≤ q → okQ q (q - c) b → v4 s L (q - c) b = sV (goT kp lw) (prT kp lw) (gaT kp lw) (dI kp) q lo hi fin c b
theorem cDt_g {kp : Nat → Int32} {x2 : Int32} {n b h : Nat} (hd : cDt kp lw L x2 n b h s) : gS s L n b h = goT kp lw n b h := by
  unfold gS
  rw [hd.1]
  cases goT kp lw n b h with
  | true => decide
  | false => decide
theorem tbB_T (kp : Nat → Int32) (lw : Option (List cL)) (q : Nat) : tbB (goT kp lw) (prT kp lw) (gaT kp lw) (dI kp) q := ⟨fun _ _ _ _ hb hh _ => ⟨prT_B hb.1 hh, gaT_B⟩, fun _ _ => dI_B⟩
theorem v_layVS (hN1 : 60 ≤ N.1) (hX : RX N s L M O m) {q lo hi : Nat} (hq : q ≤ 12) (hqv : m.2.1 2 41 = nI q) (hh : hi < 25) (hl : lo < 25) (hd : ∀ n b h, n < q → okB n b → h < 25 → cDt (m.2.1 2) lw L 1 n b h s) {x3 : Int32} {K : tM → Prop} (hK : ∀ s', aT L s s' → laid s' L (m.2.1 2) lw q lo hi (fnI x3) → K s') : v_X0_layVoices N (L 0) (nI lo) (nI hi) x3 s K := by
  refine v_layVoicesS hN1 hX hq hqv hh hl (fun s2 a2 r2 v2 => hK s2 a2 ⟨fun n b h h1 h2 h3 => ?_, fun c b h1 h2 => ?_⟩)
  · obtain ⟨e1, e2, e3⟩ := shp_cell (n := n) (b := b) (by omega) h2.1
    have := hd n b h h1 h2 h3
    unfold cDt tI at this ⊢
    rw [r2 _ (shp_some e1) (by omega), r2 _ (shp_some e2) (by omega), r2 _ (shp_some e3) (by omega)]
    exact this
  · rw [v2 c b h1 h2]
    refine sV_c hh (fun n b i h1 h2 h3 => ?_) c h1 b h2
    have := hd n b i h1 h2 h3
    refine ⟨cDt_g this, fun z => ?_⟩
    rw [cDt_g this] at z
    exact this.2 (by decide) z
theorem v_layAllS (hN : 120 ≤ N.2.1) (hN1 : 60 ≤ N.1) (hX : RX N s L M O m) (hF : inF (m.2.1 2) lw) {q lo hi : Nat} (hq : q ≤ 12) (hqv : m.2.1 2 41 = nI q) (hh : hi < 25) (hl : lo < 25) (hlv : m.2.1 2 39 = nI lo) (hhv : m.2.1 2 40 = nI hi) {K : tM → Prop} (hK : ∀ s', aT L s s' → laid s' L (m.2.1 2) lw q lo hi (fnI (-1)) → K s') : v_X0_layAll N (L 0) s K := by
  unfold v_X0_layAll
  refine ⟨hX.S.o (r := 0) rfl, v_layNotesS hN hN1 hX hF hq hqv (fun s1 a1 d1 => ?_)⟩
  have X1 := hX.t a1
  have S1 := X1.S
  rw [S1.t (r := 0) (j := 0) (q := 40) (by decide), S1.t (r := 40) (j := 1) (q := 42) (by decide), show tI s1 (L 42) 3 = nI lo from (X1.R 42 3 2 39 rfl).trans hlv, show tI s1 (L 42) 4 = nI hi from (X1.R 42 4 2 40 rfl).trans hhv]
  exact ⟨S1.o (r := 0) rfl, S1.o (r := 40) rfl, ⟨5, S1.a (r := 42) rfl, vpk (k := 3) (by decide) (by decide)⟩, ⟨5, S1.a (r := 42) rfl, vpk (k := 4) (by decide) (by decide)⟩, v_layVS hN1 X1 hq hqv hh hl d1 (fun s2 a2 l2 => hK s2 (aT_t a1 a2) l2)⟩
theorem fnI_m (b : Nat) : fnI (-1) b = true := decide_eq_true (Or.inl rfl)
/-- whether there is a voice -/
theorem v_isThereS (hX : RX N s L M O m) {q lo hi : Nat} {g : Nat → Nat → Nat → Bool} {p a : Nat → Nat → Nat → Int32} {d : Nat → Nat → Int32} {fin : Nat → Bool} (hv : (v4 s L 0 0).2.2.2 = (sV g p a d q lo hi fin q 0).2.2.2) {B c : Nat} (ho : vOK B c (sV g p a d q lo hi fin q 0)) {K : Int32 → tM → Prop} (hK : K (bI (!decide ((sV g p a d q lo hi fin q 0).2.2.2 = 0))) s) : v_X0_isThere (L 0) s K := by
  have hS := hX.S
  have hz := vOK_z ho
  obtain ⟨-, -, -, -, -, -, q22⟩ := hS.q0
  obtain ⟨-, -, -, r22⟩ := hS.q19 (n := 0) (by omega)
  have hJ : tJ s (L (720 + 0)) 0 = (sV g p a d q lo hi fin q 0).2.2.2 := hv
  unfold v_X0_isThere
  rw [q22, r22, hJ, lgc_npos, Int64.le_iff_toInt_le, z64_t]
  obtain ⟨W, W1, W2, -⟩ := ho
  refine ⟨hS.o (r := 0) rfl, (hS.x19 (n := 0) (by omega)).2.2.2, (hS.x660 (n := 0) (b := 0) (by omega) (by omega)).2.2.2, fun z => ?_, fun z => ?_⟩
  · rw [decide_eq_true (hz.mpr (by omega))] at hK
    exact hK
  · rw [decide_eq_false (fun w => z (by rw [hz.mp w]; omega))] at hK
    exact hK
/-- a place of the voices' table read -/
theorem laid_0 {kp : Nat → Int32} {q lo hi : Nat} {fin : Nat → Bool} (h : laid s L kp lw q lo hi fin) : v4 s L 0 0 = sV (goT kp lw) (prT kp lw) (gaT kp lw) (dI kp) q lo hi fin q 0 := by
  have := h.2 q 0 (Nat.le_refl _) ⟨by omega, Or.inr (by omega)⟩
  rw [Nat.sub_self] at this
  exact this
theorem laid_n {kp : Nat → Int32} {q lo hi n b : Nat} {fin : Nat → Bool} (h : laid s L kp lw q lo hi fin) (hn : n ≤ q) (hb : okQ q n b) : v4 s L n b = sV (goT kp lw) (prT kp lw) (gaT kp lw) (dI kp) q lo hi fin (q - n) b := by
  have := h.2 (q - n) b (by omega)
  rw [show q - (q - n) = n by omega] at this
  exact this hb
theorem v_bst76 (hX : RX N s L M O m) {q lo hi n b h1 : Nat} (hq : q ≤ 12) (hh : hi < 25) (hn : n < q) (hb : okB n b) (hl : laid s L (m.2.1 2) lw q lo hi (fnI (-1))) (k1 : h1 ≤ hi) (k2 : okP false (goT (m.2.1 2) lw) (prT (m.2.1 2) lw) (gaT (m.2.1 2) lw) (dI (m.2.1 2)) q lo hi (fnI (-1)) n b h1 = true) (k3 : ∀ h, lo ≤ h → h < h1 → okP false (goT (m.2.1 2) lw) (prT (m.2.1 2) lw) (gaT (m.2.1 2) lw) (dI (m.2.1 2)) q lo hi (fnI (-1)) n b h = false) {x1 : Int32} {Kr K : Int32 → tM → Prop} (hK : K (nI h1) s) : ∀ (c t h : Nat), lo ≤ h → h + c = h1 → c < t → v_X0_best_76 N (L 0) x1 (nI b) (nI n) Kr K t (nI h) s
  | _, 0, _, _, _, h => absurd h (Nat.not_lt_zero _)
  | c, t + 1, h, hlo, hc, ht => by
    have hS := hX.S
    have cn : (nI n).toNatClampNeg = n := nI_clamp (by omega)
    have cb : (nI b).toNatClampNeg = b := nI_clamp (by have := hb.1; omega)
    have ch : (nI h).toNatClampNeg = h := nI_clamp (by omega)
    have cn1 : (nI (n + 1)).toNatClampNeg = n + 1 := nI_clamp (by omega)
    have ch1 : (nI (h + 1)).toNatClampNeg = h + 1 := nI_clamp (by omega)
    have hn2 : n < 12 := by omega
    have hn3 : n < 13 := by omega
    have hn1 : n + 1 < 13 := by omega
    have hh1 : h < 25 := by omega
    have hh2 : h + 1 < 26 := by omega
    obtain ⟨q16, q17, -, q19, -, -, q22⟩ := hS.q0
    obtain ⟨r16, r17, -⟩ := hS.q16 hn2
    obtain ⟨r19, -, -, -⟩ := hS.q19 hn3
    obtain ⟨p19, -, -, p22⟩ := hS.q19 hn1
    obtain ⟨g16, g17, -⟩ := hS.qg hn2 hb.1
    obtain ⟨d1, d2⟩ := hl.1 n b h hn hb hh1
    have w1 := laid_n hl (n := n) (b := b) (by omega) ⟨hb.1, Or.inr hb.2⟩
    have w2 := laid_n hl (n := n + 1) (b := h + 1) hn (okQ_n hn hh1)
    have w1a : tI s (L (660 + n)) b = (sV (goT (m.2.1 2) lw) (prT (m.2.1 2) lw) (gaT (m.2.1 2) lw) (dI (m.2.1 2)) q lo hi (fnI (-1)) (q - n) b).1 := congrArg Prod.fst w1
    have w2a : tI s (L (660 + (n + 1))) (h + 1) = (sV (goT (m.2.1 2) lw) (prT (m.2.1 2) lw) (gaT (m.2.1 2) lw) (dI (m.2.1 2)) q lo hi (fnI (-1)) (q - (n + 1)) (h + 1)).1 := congrArg Prod.fst w2
    have w2d : tJ s (L (720 + (n + 1))) (h + 1) = (sV (goT (m.2.1 2) lw) (prT (m.2.1 2) lw) (gaT (m.2.1 2) lw) (dI (m.2.1 2)) q lo hi (fnI (-1)) (q - (n + 1)) (h + 1)).2.2.2 := congrArg (fun v : T4 => v.2.2.2) w2
    have next : okP false (goT (m.2.1 2) lw) (prT (m.2.1 2) lw) (gaT (m.2.1 2) lw) (dI (m.2.1 2)) q lo hi (fnI (-1)) n b h = false → v_X0_best_76 N (L 0) x1 (nI b) (nI n) Kr K t (nI (h + 1)) s := fun hno => by
      have hne : h ≠ h1 := fun z => by
        rw [z, k2] at hno
        cases hno
      exact v_bst76 hX hq hh hn hb hl k1 k2 k3 hK (c - 1) t (h + 1) (by omega) (by omega) (by omega)
    unfold v_X0_best_76
    simp only [q16, q17, q19, q22, cn, cb, ch, nI_1, cn1, ch1, r16, r17, r19, p19, p22, g16, g17, d1, w1a, w2a, w2d, lgc_z]
    refine ⟨hS.o (r := 0) rfl, (hS.x16 hn2).1, (hS.x600 hn2 hb.1).1, (hS.x1000 hn2 hb.1 hh1).1, bI_c (fun z y hy => ?_) (fun z => ⟨(hS.x19 hn1).2.2.2, (hS.x660 hn1 hh2).2.2.2, fun z2 y hy => ?_, fun z2 => ?_⟩)⟩
    · rw [hy]
      exact next (by unfold okP; rw [z, Bool.false_and])
    · rw [hy]
      exact next (by unfold okP; rw [decide_eq_true z2, Bool.not_true, Bool.false_and, Bool.and_false])
    · rw [show tI s (L (1400 + (26 * n + b))) h = prT (m.2.1 2) lw n b h from (d2 (by decide) z).1]
      refine ⟨(hS.x16 hn2).2.1, (hS.x600 hn2 hb.1).2.1, (hS.x1000 hn2 hb.1 hh1).2.1, (hS.x19 hn1).1, (hS.x660 hn1 hh2).1, (hS.x19 hn3).1, (hS.x660 hn3 hb.1).1, fun z3 => ?_, fun z3 y hy => ?_⟩
      · have hyes : okP false (goT (m.2.1 2) lw) (prT (m.2.1 2) lw) (gaT (m.2.1 2) lw) (dI (m.2.1 2)) q lo hi (fnI (-1)) n b h = true := by
          unfold okP
          rw [z, decide_eq_false z2]
          exact decide_eq_true z3
        have e : h = h1 := by
          by_cases e : h = h1
          · exact e
          · have := k3 h hlo (by omega)
            rw [hyes] at this
            cases this
        rw [e]
        exact hK
      · rw [hy]
        refine next ?_
        unfold okP
        have z3' : ¬ (pdS false (prT (m.2.1 2) lw) (dI (m.2.1 2)) n b h + cmp4 false (sV (goT (m.2.1 2) lw) (prT (m.2.1 2) lw) (gaT (m.2.1 2) lw) (dI (m.2.1 2)) q lo hi (fnI (-1)) (q - (n + 1)) (h + 1)) = cmp4 false (sV (goT (m.2.1 2) lw) (prT (m.2.1 2) lw) (gaT (m.2.1 2) lw) (dI (m.2.1 2)) q lo hi (fnI (-1)) (q - n) b)) := z3
        rw [decide_eq_false z3', Bool.and_false, Bool.and_false]
theorem v_mnd76 (hX : RX N s L M O m) {q lo hi n b h1 : Nat} (hq : q ≤ 12) (hh : hi < 25) (hn : n < q) (hb : okB n b) (hl : laid s L (m.2.1 2) lw q lo hi (fnI (-1))) (k1 : h1 ≤ hi) (k2 : okP true (goT (m.2.1 2) lw) (prT (m.2.1 2) lw) (gaT (m.2.1 2) lw) (dI (m.2.1 2)) q lo hi (fnI (-1)) n b h1 = true) (k3 : ∀ h, lo ≤ h → h < h1 → okP true (goT (m.2.1 2) lw) (prT (m.2.1 2) lw) (gaT (m.2.1 2) lw) (dI (m.2.1 2)) q lo hi (fnI (-1)) n b h = false) {x1 : Int32} {Kr K : Int32 → tM → Prop} (hK : K (nI h1) s) : ∀ (c t h : Nat), lo ≤ h → h + c = h1 → c < t → v_X0_mend_76 N (L 0) x1 (nI b) (nI n) Kr K t (nI h) s
  | _, 0, _, _, _, h => absurd h (Nat.not_lt_zero _)
  | c, t + 1, h, hlo, hc, ht => by
    have hS := hX.S
    have cn : (nI n).toNatClampNeg = n := nI_clamp (by omega)
    have cb : (nI b).toNatClampNeg = b := nI_clamp (by have := hb.1; omega)
    have ch : (nI h).toNatClampNeg = h := nI_clamp (by omega)
    have cn1 : (nI (n + 1)).toNatClampNeg = n + 1 := nI_clamp (by omega)
    have ch1 : (nI (h + 1)).toNatClampNeg = h + 1 := nI_clamp (by omega)
    have hn2 : n < 12 := by omega
    have hn3 : n < 13 := by omega
    have hn1 : n + 1 < 13 := by omega
    have hh1 : h < 25 := by omega
    have hh2 : h + 1 < 26 := by omega
    obtain ⟨q16, -, -, -, -, q21, q22⟩ := hS.q0
    obtain ⟨r16, -, -⟩ := hS.q16 hn2
    obtain ⟨-, -, r21, -⟩ := hS.q19 hn3
    obtain ⟨-, -, p21, p22⟩ := hS.q19 hn1
    obtain ⟨g16, -, -⟩ := hS.qg hn2 hb.1
    obtain ⟨d1, d2⟩ := hl.1 n b h hn hb hh1
    have w1 := laid_n hl (n := n) (b := b) (by omega) ⟨hb.1, Or.inr hb.2⟩
    have w2 := laid_n hl (n := n + 1) (b := h + 1) hn (okQ_n hn hh1)
    have w1a : tI s (L (700 + n)) b = (sV (goT (m.2.1 2) lw) (prT (m.2.1 2) lw) (gaT (m.2.1 2) lw) (dI (m.2.1 2)) q lo hi (fnI (-1)) (q - n) b).2.2.1 := congrArg (fun v : T4 => v.2.2.1) w1
    have w2a : tI s (L (700 + (n + 1))) (h + 1) = (sV (goT (m.2.1 2) lw) (prT (m.2.1 2) lw) (gaT (m.2.1 2) lw) (dI (m.2.1 2)) q lo hi (fnI (-1)) (q - (n + 1)) (h + 1)).2.2.1 := congrArg (fun v : T4 => v.2.2.1) w2
    have w2d : tJ s (L (720 + (n + 1))) (h + 1) = (sV (goT (m.2.1 2) lw) (prT (m.2.1 2) lw) (gaT (m.2.1 2) lw) (dI (m.2.1 2)) q lo hi (fnI (-1)) (q - (n + 1)) (h + 1)).2.2.2 := congrArg (fun v : T4 => v.2.2.2) w2
    have next : okP true (goT (m.2.1 2) lw) (prT (m.2.1 2) lw) (gaT (m.2.1 2) lw) (dI (m.2.1 2)) q lo hi (fnI (-1)) n b h = false → v_X0_mend_76 N (L 0) x1 (nI b) (nI n) Kr K t (nI (h + 1)) s := fun hno => by
      have hne : h ≠ h1 := fun z => by
        rw [z, k2] at hno
        cases hno
      exact v_mnd76 hX hq hh hn hb hl k1 k2 k3 hK (c - 1) t (h + 1) (by omega) (by omega) (by omega)
    unfold v_X0_mend_76
    simp only [q16, q22, cn, cb, ch, nI_1, cn1, ch1, r16, p22, g16, d1, w2d, lgc_z]
    refine ⟨hS.o (r := 0) rfl, (hS.x16 hn2).1, (hS.x600 hn2 hb.1).1, (hS.x1000 hn2 hb.1 hh1).1, bI_c (fun z y hy => ?_) (fun z => ⟨(hS.x19 hn1).2.2.2, (hS.x660 hn1 hh2).2.2.2, fun z2 y hy => ?_, fun z2 => v_differsS hX hn2 ?_⟩)⟩
    · rw [hy]
      exact next (by unfold okP; rw [z, Bool.false_and])
    · rw [hy]
      exact next (by unfold okP; rw [decide_eq_true z2, Bool.not_true, Bool.false_and, Bool.and_false])
    · simp only [q21, r21, p21, w1a, w2a]
      refine ⟨hS.o (r := 0) rfl, (hS.x19 hn1).2.2.1, (hS.x660 hn1 hh2).2.2.1, (hS.x19 hn3).2.2.1, (hS.x660 hn3 hb.1).2.2.1, fun z3 => ?_, fun z3 y hy => ?_⟩
      · have hyes : okP true (goT (m.2.1 2) lw) (prT (m.2.1 2) lw) (gaT (m.2.1 2) lw) (dI (m.2.1 2)) q lo hi (fnI (-1)) n b h = true := by
          unfold okP
          rw [z, decide_eq_false z2]
          exact decide_eq_true z3
        have e : h = h1 := by
          by_cases e : h = h1
          · exact e
          · have := k3 h hlo (by omega)
            rw [hyes] at this
            cases this
        rw [e]
        exact hK
      · rw [hy]
        refine next ?_
        unfold okP
        have z3' : ¬ (pdS true (prT (m.2.1 2) lw) (dI (m.2.1 2)) n b h + cmp4 true (sV (goT (m.2.1 2) lw) (prT (m.2.1 2) lw) (gaT (m.2.1 2) lw) (dI (m.2.1 2)) q lo hi (fnI (-1)) (q - (n + 1)) (h + 1)) = cmp4 true (sV (goT (m.2.1 2) lw) (prT (m.2.1 2) lw) (gaT (m.2.1 2) lw) (dI (m.2.1 2)) q lo hi (fnI (-1)) (q - n) b)) := z3
        rw [decide_eq_false z3', Bool.and_false, Bool.and_false]
theorem v_lowS (hX : RX N s L M O m) {lo : Nat} (hlv : m.2.1 2 39 = nI lo) : tO s 0 (L 0) ∧ tR s (L 0) 0 = L 40 ∧ tO s 1 (L 40) ∧ tR s (L 40) 1 = L 42 ∧ tX s 0 (L 42) 3 ∧ tI s (L 42) 3 = nI lo := ⟨hX.S.o (r := 0) rfl, hX.S.t (r := 0) (j := 0) (q := 40) (by decide), hX.S.o (r := 40) rfl, hX.S.t (r := 40) (j := 1) (q := 42) (by decide), ⟨5, hX.S.a (r := 42) rfl, vpk (k := 3) (by decide) (by decide)⟩, (hX.R 42 3 2 39 rfl).trans hlv⟩
theorem v_bst60 (hN1 : 60 ≤ N.1) (hX : RX N s L M O m) {q lo hi i : Nat} (hq : q ≤ 12) (hh : hi < 25) (hlv : m.2.1 2 39 = nI lo) (hl : laid s L (m.2.1 2) lw q lo hi (fnI (-1))) (hz : ¬ (sV (goT (m.2.1 2) lw) (prT (m.2.1 2) lw) (gaT (m.2.1 2) lw) (dI (m.2.1 2)) q lo hi (fnI (-1)) q 0).2.2.2 = 0) (hi' : i < q) {Kr K : Int32 → tM → Prop} (hK : K (nI (pth false (goT (m.2.1 2) lw) (prT (m.2.1 2) lw) (gaT (m.2.1 2) lw) (dI (m.2.1 2)) q lo hi (fnI (-1)) (i + 1))) s) : ∀ (c t n : Nat), n + c = i + 1 → c < t → v_X0_best_60 N (L 0) (nI i) Kr K t (nI (pth false (goT (m.2.1 2) lw) (prT (m.2.1 2) lw) (gaT (m.2.1 2) lw) (dI (m.2.1 2)) q lo hi (fnI (-1)) n)) (nI n) s
  | _, 0, _, _, h => absurd h (Nat.not_lt_zero _)
  | 0, t + 1, n, hn, _ => by
    unfold v_X0_best_60
    rw [nI_ltI (by omega) (by omega)]
    have : n = i + 1 := by omega
    subst this
    exact ⟨fun _ => hK, fun z => absurd (by omega) z⟩
  | c + 1, t + 1, n, hn, ht => by
    have next := v_bst60 hN1 hX hq hh hlv hl hz hi' hK (Kr := Kr) c t (n + 1) (by omega) (by omega)
    obtain ⟨-, -, k3⟩ := pth_ok (tbB_T (m.2.1 2) lw q) hq hh false hz n (by omega)
    obtain ⟨ob, h1, e1, l1, l2, k4, k5⟩ := k3 (by omega)
    obtain ⟨t1, t2, t3, t4, t5, t6⟩ := v_lowS hX hlv
    unfold v_X0_best_60
    rw [nI_ltI (by omega) (by omega), t2, t4, t6]
    refine ⟨fun z => by omega, fun _ => ⟨t1, t3, t5, fun y hy => ?_⟩⟩
    rw [hy]
    refine v_bst76 hX hq hh (by omega) ob hl l2 k4 k5 (fun y hy z hz => ?_) (h1 - lo) N.1 lo (Nat.le_refl _) (by omega) (by omega)
    rw [e1] at next
    rw [hy, hz, nI_1, nI_1]
    exact next
theorem v_mnd60 (hN1 : 60 ≤ N.1) (hX : RX N s L M O m) {q lo hi i : Nat} (hq : q ≤ 12) (hh : hi < 25) (hlv : m.2.1 2 39 = nI lo) (hl : laid s L (m.2.1 2) lw q lo hi (fnI (-1))) (hz : ¬ (sV (goT (m.2.1 2) lw) (prT (m.2.1 2) lw) (gaT (m.2.1 2) lw) (dI (m.2.1 2)) q lo hi (fnI (-1)) q 0).2.2.2 = 0) (hi' : i < q) {Kr K : Int32 → tM → Prop} (hK : K (nI (pth true (goT (m.2.1 2) lw) (prT (m.2.1 2) lw) (gaT (m.2.1 2) lw) (dI (m.2.1 2)) q lo hi (fnI (-1)) (i + 1))) s) : ∀ (c t n : Nat), n + c = i + 1 → c < t → v_X0_mend_60 N (L 0) (nI i) Kr K t (nI (pth true (goT (m.2.1 2) lw) (prT (m.2.1 2) lw) (gaT (m.2.1 2) lw) (dI (m.2.1 2)) q lo hi (fnI (-1)) n)) (nI n) s
  | _, 0, _, _, h => absurd h (Nat.not_lt_zero _)
  | 0, t + 1, n, hn, _ => by
    unfold v_X0_mend_60
    rw [nI_ltI (by omega) (by omega)]
    have : n = i + 1 := by omega
    subst this
    exact ⟨fun _ => hK, fun z => absurd (by omega) z⟩
  | c + 1, t + 1, n, hn, ht => by
    have next := v_mnd60 hN1 hX hq hh hlv hl hz hi' hK (Kr := Kr) c t (n + 1) (by omega) (by omega)
    obtain ⟨-, -, k3⟩ := pth_ok (tbB_T (m.2.1 2) lw q) hq hh true hz n (by omega)
    obtain ⟨ob, h1, e1, l1, l2, k4, k5⟩ := k3 (by omega)
    obtain ⟨t1, t2, t3, t4, t5, t6⟩ := v_lowS hX hlv
    unfold v_X0_mend_60
    rw [nI_ltI (by omega) (by omega), t2, t4, t6]
    refine ⟨fun z => by omega, fun _ => ⟨t1, t3, t5, fun y hy => ?_⟩⟩
    rw [hy]
    refine v_mnd76 hX hq hh (by omega) ob hl l2 k4 k5 (fun y hy z hz => ?_) (h1 - lo) N.1 lo (Nat.le_refl _) (by omega) (by omega)
    rw [e1] at next
    rw [hy, hz, nI_1, nI_1]
    exact next
end BS
/-! the reference's side -/
section WB
variable {N : Nat × Nat} {m : mS} {lw : Option (List cL)}
theorem mC_gp {kp : Nat → Int32} {q lo hi : Nat} (h : ∀ n b h, n < q → okB n b → h < 25 → mC kp lw n b h m) (df : Bool) : gpR q lo hi df (goT kp lw) (prT kp lw) m := fun n b i h1 h2 h3 => ⟨(h n b i h1 h2 h3).1, fun z _ => ((h n b i h1 h2 h3).2 z).1⟩
theorem prD_pd (df : Bool) (kp : Nat → Int32) (P : Nat → Nat → Nat → Int32) : prD df kp P = pdS df P (dI kp) := rfl
/-- what is laid on the reference's side, the rests too -/
def rsd (m : mS) (lw : Option (List cL)) (df : Bool) (q lo hi : Nat) : Prop := ∀ n h, n < q → lo ≤ h → h ≤ hi → m.2.1 37 (25 * n + h) = mV (goT (m.2.1 2) lw) (prD df (m.2.1 2) (prT (m.2.1 2) lw)) q lo hi (fun _ => 0) (q - (n + 1)) (h + 1)
theorem w_lfS (hN : 402 ≤ N.1) {q lo hi n b : Nat} (hq : q ≤ 12) (hn : n < q) (hb : okB n b) (hh : hi < 25) (hl : lo < 25) {df : Bool} (hC : ∀ n b h, n < q → okB n b → h < 25 → mC (m.2.1 2) lw n b h m) (hr : rsd m lw df q lo hi) {K : Int32 → mS → Prop} (hK : K (cmp4 df (sV (goT (m.2.1 2) lw) (prT (m.2.1 2) lw) (gaT (m.2.1 2) lw) (dI (m.2.1 2)) q lo hi (fnI (-1)) (q - n) b)) m) : w_leastFrom N (nI n) (nI (b - 1)) (nI lo) (nI hi) (bI df) m K := by
  have e := mV_x (lo := lo) (hi := hi) (fin := fnI (-1)) (tbB_T (m.2.1 2) lw q) hq hh df (z := fun _ => 0) (fun b _ => (if_pos (fnI_m b)).symm) (q - n) (by omega) b (by rw [show q - (q - n) = n by omega]; exact ⟨hb.1, Or.inr hb.2⟩)
  rw [← e, ← prD_pd, show q - n = q - (n + 1) + 1 by omega] at hK
  have e2 : q - (q - (n + 1) + 1) = n := by omega
  have e3 : mV (goT (m.2.1 2) lw) (prD df (m.2.1 2) (prT (m.2.1 2) lw)) q lo hi (fun _ => 0) (q - (n + 1) + 1) b = mLf (goT (m.2.1 2) lw (q - (q - (n + 1) + 1)) b) (prD df (m.2.1 2) (prT (m.2.1 2) lw) (q - (q - (n + 1) + 1)) b) (fun j => mV (goT (m.2.1 2) lw) (prD df (m.2.1 2) (prT (m.2.1 2) lw)) q lo hi (fun _ => 0) (q - (n + 1)) (j + 1)) lo (hi + 1 - lo) := rfl
  rw [e3, e2] at hK
  refine w_leastFromS hN (by omega) hb.1 hh hl (fun h h1 h2 => ?_) hK
  obtain ⟨c1, c2⟩ := hC n b h hn hb (by omega)
  exact ⟨c1, fun z _ => (c2 z).1, hr n h hn h1 h2⟩
theorem sV_0 {kp : Nat → Int32} {lo hi : Nat} (df : Bool) : cmp4 df (sV (goT kp lw) (prT kp lw) (gaT kp lw) (dI kp) 0 lo hi (fnI (-1)) 0 0) = 0 := by
  show cmp4 df (ini (fnI (-1) 0)) = 0
  rw [cmp_i, if_pos (fnI_m 0)]
theorem w_leastOfS (hN : 402 ≤ N.1) {q lo hi : Nat} (hq : q ≤ 12) (hqv : m.2.1 2 41 = nI q) (hh : hi < 25) (hl : lo < 25) (hlv : m.2.1 2 39 = nI lo) (hhv : m.2.1 2 40 = nI hi) {df : Bool} (hC : ∀ n b h, n < q → okB n b → h < 25 → mC (m.2.1 2) lw n b h m) {K : Int32 → mS → Prop} (hK : ∀ m2, mD [] [37] [] m m2 → rsd m2 lw df q lo hi → K (if (sV (goT (m.2.1 2) lw) (prT (m.2.1 2) lw) (gaT (m.2.1 2) lw) (dI (m.2.1 2)) q lo hi (fnI (-1)) q 0).2.2.2 = 0 then -1 else cmp4 df (sV (goT (m.2.1 2) lw) (prT (m.2.1 2) lw) (gaT (m.2.1 2) lw) (dI (m.2.1 2)) q lo hi (fnI (-1)) q 0)) m2) : w_leastOf N (bI df) m K := by
  have a39 : ∀ m2 : mS, m2.2.1 2 = m.2.1 2 → mAt m2 2 39 = nI lo ∧ mAt m2 2 40 = nI hi := fun m2 h => ⟨(mAt_n (k := 39) (by decide)).trans (by rw [h]; exact hlv), (mAt_n (k := 40) (by decide)).trans (by rw [h]; exact hhv)⟩
  have v39 : vp_in 39 5652 := vpk (k := 39) (by decide) (by decide)
  have v40 : vp_in 40 5652 := vpk (k := 40) (by decide) (by decide)
  unfold w_leastOf
  refine w_manyS (v := nI q) hqv ?_
  rw [show (0 : Int32) = nI 0 from rfl, nI_eq (by omega) (by omega)]
  refine ⟨fun z => ?_, fun z => ?_⟩
  · rw [(a39 m rfl).1, (a39 m rfl).2]
    refine ⟨v39, v40, w_laysRestS hN hq hqv hh hl (mC_gp hC df) (fun m2 d2 r2 => ?_)⟩
    have k2 : m2.2.1 2 = m.2.1 2 := d2.2.1 2 (by decide)
    rw [(a39 m2 k2).1, (a39 m2 k2).2]
    have hr : rsd m2 lw df q lo hi := by
      unfold rsd
      rw [k2]
      exact r2
    have hC2 : ∀ n b h, n < q → okB n b → h < 25 → mC (m2.2.1 2) lw n b h m2 := fun n b h h1 h2 h3 => by
      have := hC n b h h1 h2 h3
      unfold mC at this ⊢
      rw [k2, d2.2.1 36 (by decide), d2.2.1 34 (by decide), d2.2.1 35 (by decide)]
      exact this
    refine ⟨v39, v40, w_lfS (n := 0) (b := 0) hN hq (by omega) ⟨by omega, by omega⟩ hh hl hC2 hr ?_⟩
    rw [k2, Nat.sub_zero]
    have ok := sV_ok (lo := lo) (hi := hi) (fin := fnI (-1)) (tbB_T (m.2.1 2) lw q) hq hh q (Nat.le_refl _) 0 ⟨by omega, Or.inr (by omega)⟩
    have kk := hK m2 d2 hr
    rcases cmp_r (df := df) (by omega) ok with ⟨c1, c2, c3⟩ | ⟨c1, c2⟩
    · rw [if_neg c1] at kk
      refine ⟨fun _ => kk, fun w => absurd ?_ w⟩
      rw [i32_lt, far_t]
      omega
    · rw [if_pos (Decidable.not_not.mp c1)] at kk
      refine ⟨fun w => ?_, fun _ => kk⟩
      rw [c2, i32_lt] at w
      omega
  · have kk := hK m (mD_r m) (fun n h h1 => by omega)
    subst z
    rw [if_neg (by
      show ¬ (ini (fnI (-1) 0)).2.2.2 = 0
      rw [fnI_m]
      decide), sV_0] at kk
    exact kk
theorem w_pit44 (hN : 402 ≤ N.1) {q lo hi n b h1 : Nat} (hq : q ≤ 12) (hh : hi < 25) (hl : lo < 25) (hn : n < q) (hb : okB n b) {df : Bool} (hC : ∀ n b h, n < q → okB n b → h < 25 → mC (m.2.1 2) lw n b h m) (hr : rsd m lw df q lo hi) (hnz : ¬ (sV (goT (m.2.1 2) lw) (prT (m.2.1 2) lw) (gaT (m.2.1 2) lw) (dI (m.2.1 2)) q lo hi (fnI (-1)) (q - n) b).2.2.2 = 0) (k1 : h1 ≤ hi) (k2 : okP df (goT (m.2.1 2) lw) (prT (m.2.1 2) lw) (gaT (m.2.1 2) lw) (dI (m.2.1 2)) q lo hi (fnI (-1)) n b h1 = true) (k3 : ∀ h, lo ≤ h → h < h1 → okP df (goT (m.2.1 2) lw) (prT (m.2.1 2) lw) (gaT (m.2.1 2) lw) (dI (m.2.1 2)) q lo hi (fnI (-1)) n b h = false) {x1 : Int32} {Kr K : Int32 → mS → Prop} (hK : K (nI h1) m) : ∀ (c t h : Nat), lo ≤ h → h + c = h1 → c < t → w_pitchOf_44 N x1 (bI df) (nI (b - 1)) (nI n) (cmp4 df (sV (goT (m.2.1 2) lw) (prT (m.2.1 2) lw) (gaT (m.2.1 2) lw) (dI (m.2.1 2)) q lo hi (fnI (-1)) (q - n) b)) Kr K t (nI h) m
  | _, 0, _, _, _, h => absurd h (Nat.not_lt_zero _)
  | c, t + 1, h, hlo, hc, ht => by
    obtain ⟨c1, c2⟩ := hC n b h hn hb (by omega)
    have ml := mix_l (n := n) (b := b) (h := h) (by omega) hb.1 (by omega)
    have hr1 := hr n h hn hlo (by omega)
    have oQ1 : okQ q (q - (q - (n + 1))) (h + 1) := by
      rw [show q - (q - (n + 1)) = n + 1 by omega]
      exact okQ_n hn (by omega)
    have e := mV_x (lo := lo) (hi := hi) (fin := fnI (-1)) (tbB_T (m.2.1 2) lw q) hq hh df (z := fun _ => 0) (fun b _ => (if_pos (fnI_m b)).symm) (q - (n + 1)) (by omega) (h + 1) oQ1
    rw [← prD_pd] at e
    rw [e] at hr1
    have next : okP df (goT (m.2.1 2) lw) (prT (m.2.1 2) lw) (gaT (m.2.1 2) lw) (dI (m.2.1 2)) q lo hi (fnI (-1)) n b h = false → w_pitchOf_44 N x1 (bI df) (nI (b - 1)) (nI n) (cmp4 df (sV (goT (m.2.1 2) lw) (prT (m.2.1 2) lw) (gaT (m.2.1 2) lw) (dI (m.2.1 2)) q lo hi (fnI (-1)) (q - n) b)) Kr K t (nI (h + 1)) m := fun hno => by
      have hne : h ≠ h1 := fun z => by
        rw [z, k2] at hno
        cases hno
      exact w_pit44 hN hq hh hl hn hb hC hr hnz k1 k2 k3 hK (c - 1) t (h + 1) (by omega) (by omega) (by omega)
    unfold w_pitchOf_44 w_noteAt
    dsimp only
    rw [mix_e, mAt_n (by omega), c1]
    refine ⟨vpk ml (by decide), bI_c (fun z y hy => ?_) (fun z => w_priceS (P := prT (m.2.1 2) lw) (by omega) hb.1 (by omega) (fun _ => (c2 z).1) ?_)⟩
    · rw [hy, nI_1]
      exact next (by unfold okP; rw [z, Bool.false_and])
    · rw [r25_e, mAt_n (by omega), hr1, prD_pd]
      refine ⟨vpk (by omega) (by decide), fun z3 => ?_, fun z3 y hy => ?_⟩
      · by_cases hne : h = h1
        · rw [hne]
          exact hK
        · have hno := k3 h hlo (by omega)
          unfold okP at hno
          rw [z, decide_eq_true z3, Bool.true_and, Bool.and_true, Bool.not_eq_false', decide_eq_true_eq] at hno
          exfalso
          have ok1 := sV_ok (lo := lo) (hi := hi) (fin := fnI (-1)) (tbB_T (m.2.1 2) lw q) hq hh (q - (n + 1)) (by omega) (h + 1) oQ1
          have ok0 := sV_ok (lo := lo) (hi := hi) (fin := fnI (-1)) (tbB_T (m.2.1 2) lw q) hq hh (q - n) (by omega) b (by rw [show q - (q - n) = n by omega]; exact ⟨hb.1, Or.inr hb.2⟩)
          have r1 := (cmp_r (df := df) (by omega) ok1).resolve_left (fun w => w.1 hno)
          have r0 := (cmp_r (df := df) (by omega) ok0).resolve_right (fun w => w.1 hnz)
          rw [r1.2] at z3
          have pb : 0 ≤ (pdS df (prT (m.2.1 2) lw) (dI (m.2.1 2)) n b h).toInt ∧ (pdS df (prT (m.2.1 2) lw) (dI (m.2.1 2)) n b h).toInt ≤ 999 := by
            have t1 := prT_B (kp := m.2.1 2) (lw := lw) (n := n) hb.1 (h := h) (by omega)
            have t2 := dI_B (kp := m.2.1 2) (n := n) (h := h)
            unfold pdS
            cases df with
            | true =>
              show 0 ≤ (dI (m.2.1 2) n h).toInt ∧ (dI (m.2.1 2) n h).toInt ≤ 999
              omega
            | false => exact t1
          have t := i32_add (a := pdS df (prT (m.2.1 2) lw) (dI (m.2.1 2)) n b h) (b := 100000000) (by rw [far_t]; omega) (by rw [far_t]; omega)
          rw [z3, far_t] at t
          omega
      · rw [hy, nI_1]
        refine next ?_
        unfold okP
        rw [decide_eq_false z3, Bool.and_false, Bool.and_false]
theorem w_pit5 (hN : 402 ≤ N.1) {q lo hi i : Nat} (hq : q ≤ 12) (hh : hi < 25) (hl : lo < 25) (hlv : m.2.1 2 39 = nI lo) (hhv : m.2.1 2 40 = nI hi) {df : Bool} (hC : ∀ n b h, n < q → okB n b → h < 25 → mC (m.2.1 2) lw n b h m) (hr : rsd m lw df q lo hi) (hz : ¬ (sV (goT (m.2.1 2) lw) (prT (m.2.1 2) lw) (gaT (m.2.1 2) lw) (dI (m.2.1 2)) q lo hi (fnI (-1)) q 0).2.2.2 = 0) (hi' : i < q) {Kr K : Int32 → mS → Prop} (hK : K (nI (pth df (goT (m.2.1 2) lw) (prT (m.2.1 2) lw) (gaT (m.2.1 2) lw) (dI (m.2.1 2)) q lo hi (fnI (-1)) (i + 1) - 1)) m) : ∀ (c t n : Nat), n + c = i + 1 → c < t → w_pitchOf_5 N (nI i) (bI df) Kr K t (nI (pth df (goT (m.2.1 2) lw) (prT (m.2.1 2) lw) (gaT (m.2.1 2) lw) (dI (m.2.1 2)) q lo hi (fnI (-1)) n - 1)) (nI n) m
  | _, 0, _, _, h => absurd h (Nat.not_lt_zero _)
  | 0, t + 1, n, hn, _ => by
    unfold w_pitchOf_5
    rw [nI_ltI (by omega) (by omega)]
    have : n = i + 1 := by omega
    subst this
    exact ⟨fun _ => hK, fun z => absurd (by omega) z⟩
  | c + 1, t + 1, n, hn, ht => by
    have next := w_pit5 hN hq hh hl hlv hhv hC hr hz hi' hK (Kr := Kr) c t (n + 1) (by omega) (by omega)
    obtain ⟨-, nz, k3⟩ := pth_ok (tbB_T (m.2.1 2) lw q) hq hh df hz n (by omega)
    obtain ⟨ob, h1, e1, l1, l2, k4, k5⟩ := k3 (by omega)
    unfold w_pitchOf_5
    rw [nI_ltI (by omega) (by omega), show mAt m 2 39 = nI lo from (mAt_n (k := 39) (by decide)).trans hlv, show mAt m 2 40 = nI hi from (mAt_n (k := 40) (by decide)).trans hhv]
    refine ⟨fun z => by omega, fun _ => ⟨vpk (k := 39) (by decide) (by decide), vpk (k := 40) (by decide) (by decide), w_lfS hN hq (by omega) ob hh hl hC hr ⟨vpk (k := 39) (by decide) (by decide), fun y hy => ?_⟩⟩⟩
    rw [show mAt m 2 39 = nI lo from (mAt_n (k := 39) (by decide)).trans hlv] at hy
    rw [hy]
    refine w_pit44 hN hq hh hl (by omega) ob hC hr nz l2 k4 k5 (fun y hy => ?_) (h1 - lo) N.1 lo (Nat.le_refl _) (by omega) (by omega)
    rw [e1, Nat.add_sub_cancel] at next
    rw [hy, nI_1]
    exact next
/-- what both sides answer -/
def bstF (df : Bool) (kp : Nat → Int32) (lw : Option (List cL)) (q lo hi : Nat) (x : Int32) : Int32 := if (sV (goT kp lw) (prT kp lw) (gaT kp lw) (dI kp) q lo hi (fnI (-1)) q 0).2.2.2 = 0 then -1 else if x = -1 then cmp4 df (sV (goT kp lw) (prT kp lw) (gaT kp lw) (dI kp) q lo hi (fnI (-1)) q 0) else nI (pth df (goT kp lw) (prT kp lw) (gaT kp lw) (dI kp) q lo hi (fnI (-1)) (x.toNatClampNeg + 1)) - 1
theorem w_voice20 (hN : 402 ≤ N.1) (hN2 : 40 ≤ N.2) (hF : inF (m.2.1 2) lw) (hk : kpN (m.2.1 2)) {q lo hi : Nat} (hq : q ≤ 12) (hqv : m.2.1 2 41 = nI q) (hh : hi < 25) (hl : lo < 25) (hlv : m.2.1 2 39 = nI lo) (hhv : m.2.1 2 40 = nI hi) {df : Bool} {x : Int32} (hx : x = -1 ∨ ∃ i, i < q ∧ x = nI i) {K : Int32 → mS → Prop} (hK : ∀ m2, cE m m2 → K (bstF df (m.2.1 2) lw q lo hi x) m2) : w_voiceOf_20 N x (bI df) K m := by
  unfold w_voiceOf_20
  refine w_laysNotesS hN hN2 hF hk hq hqv (fun m1 T1 C1 => ?_)
  have k1 := mT_2 T1
  rw [← k1] at hqv hlv hhv C1
  refine w_leastOfS (lw := lw) hN hq hqv hh hl hlv hhv C1 (fun m2 d2 r2 => ?_)
  have k2 : m2.2.1 2 = m1.2.1 2 := d2.2.1 2 (by decide)
  have kk := hK m2 (cE_t (mT_cE T1) (cE_D d2 (by decide) (by decide)))
  unfold bstF at kk
  rw [← k1] at kk
  have ok := sV_ok (lo := lo) (hi := hi) (fin := fnI (-1)) (tbB_T (m1.2.1 2) lw q) hq hh q (Nat.le_refl _) 0 ⟨by omega, Or.inr (by omega)⟩
  by_cases cz : (sV (goT (m1.2.1 2) lw) (prT (m1.2.1 2) lw) (gaT (m1.2.1 2) lw) (dI (m1.2.1 2)) q lo hi (fnI (-1)) q 0).2.2.2 = 0
  · rw [if_pos cz] at kk ⊢
    exact ⟨fun _ => kk, fun z => absurd rfl z⟩
  · rw [if_neg cz] at kk ⊢
    have r := (cmp_r (df := df) (by omega) ok).resolve_right (fun w => w.1 cz)
    have hne : ¬ cmp4 df (sV (goT (m1.2.1 2) lw) (prT (m1.2.1 2) lw) (gaT (m1.2.1 2) lw) (dI (m1.2.1 2)) q lo hi (fnI (-1)) q 0) = -1 := fun z => by
      rw [z, m1toI] at r
      omega
    refine ⟨fun z => absurd z hne, fun _ => ⟨fun nx => ?_, fun yx => ?_⟩⟩
    · obtain ⟨i, i1, rfl⟩ := hx.resolve_left nx
      rw [if_neg nx, nI_clamp (by omega)] at kk
      have C2 : ∀ n b h, n < q → okB n b → h < 25 → mC (m2.2.1 2) lw n b h m2 := fun n b h h1 h2 h3 => by
        have := C1 n b h h1 h2 h3
        unfold mC at this ⊢
        rw [k2, d2.2.1 36 (by decide), d2.2.1 34 (by decide), d2.2.1 35 (by decide)]
        exact this
      rw [← k2] at hlv hhv cz kk
      unfold w_pitchOf
      have := w_pit5 (N := N) (K := fun x101 s102 => K x101 s102) hN hq hh hl hlv hhv C2 r2 cz i1 (Kr := K) ?_ (i + 1) N.1 0 (by omega) (by omega)
      · exact this
      · obtain ⟨-, -, k3⟩ := pth_ok (tbB_T (m2.2.1 2) lw q) hq hh df cz i (by omega)
        obtain ⟨-, h1, e1, -⟩ := k3 i1
        rw [e1, Nat.add_sub_cancel]
        rw [e1, nI_pred] at kk
        exact kk
    · rw [if_pos yx] at kk
      exact kk
end WB
