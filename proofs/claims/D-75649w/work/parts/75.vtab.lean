set_option maxRecDepth 100000
/-! ===== the system's tables: what is laid of a note ===== -/
/-- the pitch ahead, one more (0: none) -/
def pab (b : Nat) : Option Int32 := if b = 0 then none else some (nI (b - 1))
def goT (kp : Nat → Int32) (lw : Option (List cL)) (n b h : Nat) : Bool := !mBar kp lw n (nI h) (pab b)
def prT (kp : Nat → Int32) (lw : Option (List cL)) (n b h : Nat) : Int32 := mCost kp lw n (nI h) (pab b)
def gaT (kp : Nat → Int32) (lw : Option (List cL)) (n b h : Nat) : Int32 := mEarn kp lw n (nI h) (pab b)
def okB (n b : Nat) : Prop := b < 26 ∧ (b = 0 ↔ n = 0)
theorem nar_bI (b : Bool) : vp_nar .boolean (bI b) = bI b := by cases b <;> decide
theorem bI_0 {b : Bool} : bI b = 0 ↔ b = false := by cases b <;> decide
theorem nI_m1p (b : Nat) : nI b - 1 + 1 = nI b := Int32.sub_add_cancel _ _
theorem paR_b {b : Nat} (hb : b < 26) : paR (pab b) (nI b - 1) := by
  unfold paR pab
  by_cases e : b = 0
  · rw [if_pos e, e]
    exact Or.inl ⟨rfl, by decide⟩
  · rw [if_neg e]
    have e1 : nI b - 1 = nI (b - 1) := pk_sub (b := 1) (by omega)
    rw [e1]
    refine Or.inr ⟨rfl, fun z => ?_⟩
    have := congrArg Int32.toInt z
    rw [nI_toInt (by omega), m1toI] at this
    omega
theorem pab_n {n b : Nat} (h : b ≠ 0 → 1 ≤ n) : pab b ≠ none → 1 ≤ n := fun z => h fun e => z (by unfold pab; rw [if_pos e])
theorem shp_inr {r : Nat} {c : Nat ⊕ (Nat × Nat)} (h : 600 ≤ r) (e : shp r = some c) : ∃ p, c = .inr p := by
  unfold shp at e
  rw [if_neg (by omega), if_neg (by omega), if_neg (by omega), if_neg (by omega)] at e
  split at e
  · cases e
    exact ⟨_, rfl⟩
  · split at e
    · cases e
      exact ⟨_, rfl⟩
    · split at e
      · cases e
        exact ⟨_, rfl⟩
      · split at e
        · cases e
          exact ⟨_, rfl⟩
        · split at e
          · cases e
            exact ⟨_, rfl⟩
          · split at e
            · cases e
              exact ⟨_, rfl⟩
            · cases e
theorem shp_cell {n b : Nat} (hn : n < 12) (hb : b < 26) : shp (1000 + (26 * n + b)) = some (.inr (3, 25)) ∧ shp (1400 + (26 * n + b)) = some (.inr (0, 25)) ∧ shp (1800 + (26 * n + b)) = some (.inr (0, 25)) := ⟨shp_1000 (by omega), shp_1400 (by omega), shp_1400 (by omega)⟩
section RV
variable {s : tM} {L : Nat → Nat} {M : Nat → Prop}
theorem RS.q16 (h : RS s L M) {n : Nat} (hn : n < 12) : tR s (L 16) n = L (600 + n) ∧ tR s (L 17) n = L (620 + n) ∧ tR s (L 18) n = L (640 + n) := h.2.2.1.2.2.2.2.1 n hn
theorem RS.q19 (h : RS s L M) {n : Nat} (hn : n < 13) : tR s (L 19) n = L (660 + n) ∧ tR s (L 20) n = L (680 + n) ∧ tR s (L 21) n = L (700 + n) ∧ tR s (L 22) n = L (720 + n) := h.2.2.1.2.2.2.2.2.1 n hn
theorem RS.qg (h : RS s L M) {n b : Nat} (hn : n < 12) (hb : b < 26) : tR s (L (600 + n)) b = L (1000 + (26 * n + b)) ∧ tR s (L (620 + n)) b = L (1400 + (26 * n + b)) ∧ tR s (L (640 + n)) b = L (1800 + (26 * n + b)) := h.2.2.1.2.2.2.2.2.2 n b hn hb
theorem RS.q0 (h : RS s L M) : tR s (L 0) 16 = L 16 ∧ tR s (L 0) 17 = L 17 ∧ tR s (L 0) 18 = L 18 ∧ tR s (L 0) 19 = L 19 ∧ tR s (L 0) 20 = L 20 ∧ tR s (L 0) 21 = L 21 ∧ tR s (L 0) 22 = L 22 := ⟨h.t (by decide), h.t (by decide), h.t (by decide), h.t (by decide), h.t (by decide), h.t (by decide), h.t (by decide)⟩
theorem RS.x16 (h : RS s L M) {n : Nat} (hn : n < 12) : tX s 13 (L 16) (nI n) ∧ tX s 14 (L 17) (nI n) ∧ tX s 14 (L 18) (nI n) := ⟨⟨12, h.a (r := 16) rfl, vpk hn (by decide)⟩, ⟨12, h.a (r := 17) rfl, vpk hn (by decide)⟩, ⟨12, h.a (r := 18) rfl, vpk hn (by decide)⟩⟩
theorem RS.x600 (h : RS s L M) {n b : Nat} (hn : n < 12) (hb : b < 26) : tX s 12 (L (600 + n)) (nI b) ∧ tX s 11 (L (620 + n)) (nI b) ∧ tX s 11 (L (640 + n)) (nI b) := ⟨⟨26, h.a (shp_600 hn).1, vpk hb (by decide)⟩, ⟨26, h.a (shp_600 hn).2.1, vpk hb (by decide)⟩, ⟨26, h.a (shp_600 hn).2.2, vpk hb (by decide)⟩⟩
theorem RS.x1000 (h : RS s L M) {n b i : Nat} (hn : n < 12) (hb : b < 26) (hi : i < 25) : tX s 3 (L (1000 + (26 * n + b))) (nI i) ∧ tX s 0 (L (1400 + (26 * n + b))) (nI i) ∧ tX s 0 (L (1800 + (26 * n + b))) (nI i) := ⟨⟨25, h.a (shp_cell hn hb).1, vpk hi (by decide)⟩, ⟨25, h.a (shp_cell hn hb).2.1, vpk hi (by decide)⟩, ⟨25, h.a (shp_cell hn hb).2.2, vpk hi (by decide)⟩⟩
theorem RS.x19 (h : RS s L M) {n : Nat} (hn : n < 13) : tX s 11 (L 19) (nI n) ∧ tX s 11 (L 20) (nI n) ∧ tX s 11 (L 21) (nI n) ∧ tX s 15 (L 22) (nI n) := ⟨⟨13, h.a (r := 19) rfl, vpk hn (by decide)⟩, ⟨13, h.a (r := 20) rfl, vpk hn (by decide)⟩, ⟨13, h.a (r := 21) rfl, vpk hn (by decide)⟩, ⟨13, h.a (r := 22) rfl, vpk hn (by decide)⟩⟩
theorem RS.x660 (h : RS s L M) {n b : Nat} (hn : n < 13) (hb : b < 26) : tX s 0 (L (660 + n)) (nI b) ∧ tX s 0 (L (680 + n)) (nI b) ∧ tX s 0 (L (700 + n)) (nI b) ∧ tX s 1 (L (720 + n)) (nI b) := ⟨⟨26, h.a (shp_660 hn).1, vpk hb (by decide)⟩, ⟨26, h.a (shp_660 hn).2.1, vpk hb (by decide)⟩, ⟨26, h.a (shp_660 hn).2.2.1, vpk hb (by decide)⟩, ⟨26, h.a (shp_660 hn).2.2.2, vpk hb (by decide)⟩⟩
end RV
/-- what a cell of the tables says -/
def cDt (kp : Nat → Int32) (lw : Option (List cL)) (L : Nat → Nat) (x2 : Int32) (n b h : Nat) (s : tM) : Prop := tI s (L (1000 + (26 * n + b))) h = bI (goT kp lw n b h) ∧ (¬ x2 = 0 → goT kp lw n b h = true → tI s (L (1400 + (26 * n + b))) h = prT kp lw n b h ∧ tI s (L (1800 + (26 * n + b))) h = gaT kp lw n b h)
def rowOf (n r : Nat) : Prop := ∃ b, b < 26 ∧ (r = 1000 + (26 * n + b) ∨ r = 1400 + (26 * n + b) ∨ r = 1800 + (26 * n + b))
/-- of the tables note n's alone may change -/
def cF (L : Nat → Nat) (n : Nat) (s s' : tM) : Prop := ∀ r, shp r ≠ none → 600 ≤ r → s'.2.2.1 (L r) = s.2.2.1 (L r) ∧ (¬ rowOf n r → s'.2.1 (L r) = s.2.1 (L r))
def cOt (L : Nat → Nat) (n b h : Nat) (s s' : tM) : Prop := ∀ b' h', b' < 26 → ¬ (b' = b ∧ h' = h) → tI s' (L (1000 + (26 * n + b'))) h' = tI s (L (1000 + (26 * n + b'))) h' ∧ tI s' (L (1400 + (26 * n + b'))) h' = tI s (L (1400 + (26 * n + b'))) h' ∧ tI s' (L (1800 + (26 * n + b'))) h' = tI s (L (1800 + (26 * n + b'))) h'
section CF
variable {s s' s2 : tM} {L : Nat → Nat} {M : Nat → Prop} {n b h : Nat}
theorem cF_r : cF L n s s := fun _ _ _ => ⟨rfl, fun _ => rfl⟩
theorem cF_t (h1 : cF L n s s') (h2 : cF L n s' s2) : cF L n s s2 := fun r hr h6 => ⟨(h2 r hr h6).1.trans (h1 r hr h6).1, fun z => ((h2 r hr h6).2 z).trans ((h1 r hr h6).2 z)⟩
theorem cOt_r : cOt L n b h s s := fun _ _ _ _ => ⟨rfl, rfl, rfl⟩
theorem cOt_t (h1 : cOt L n b h s s') (h2 : cOt L n b h s' s2) : cOt L n b h s s2 := fun b' h' hb hn => by
  obtain ⟨a1, a2, a3⟩ := h1 b' h' hb hn
  obtain ⟨c1, c2, c3⟩ := h2 b' h' hb hn
  exact ⟨c1.trans a1, c2.trans a2, c3.trans a3⟩
theorem aS_c (h : aS L s s') (hR : RS s L M) {r : Nat} (hr : shp r ≠ none) (h6 : 600 ≤ r) : s'.2.1 (L r) = s.2.1 (L r) ∧ s'.2.2.1 (L r) = s.2.2.1 (L r) := by
  refine ⟨funext fun j => aS_I h hR hr (by omega) j, h.2.2.2 _ (fun z => ?_) (hR.ne hr (by decide) (by omega))⟩
  cases hs : shp r with
  | none => exact absurd hs hr
  | some c =>
    obtain ⟨p, rfl⟩ := shp_inr h6 hs
    rw [(hR.1 r _ hs).1] at z
    cases z
theorem aS_cF (h : aS L s s') (hR : RS s L M) (n : Nat) : cF L n s s' := fun r hr h6 => ⟨(aS_c h hR hr h6).2, fun _ => (aS_c h hR hr h6).1⟩
theorem aS_cO (h : aS L s s') (hR : RS s L M) {n : Nat} (hn : n < 12) (b i : Nat) : cOt L n b i s s' := fun b' h' hb _ => by
  obtain ⟨e1, e2, e3⟩ := shp_cell hn hb
  exact ⟨congrFun (aS_c h hR (shp_some e1) (by omega)).1 h', congrFun (aS_c h hR (shp_some e2) (by omega)).1 h', congrFun (aS_c h hR (shp_some e3) (by omega)).1 h'⟩
theorem cF_I {r0 j : Nat} {v : Int32} (hR : RS s L M) (h0 : shp r0 ≠ none) (hr : rowOf n r0) : cF L n s (tsI s (L r0) j v) := fun r hr1 _ => ⟨rfl, fun z => funext fun i => if_neg fun (w : L r = L r0 ∧ i = j) => z ((hR.2.1 r r0 hr1 h0 w.1) ▸ hr)⟩
theorem cOt_I {r0 : Nat} {v : Int32} (hR : RS s L M) (hn : n < 12) (hb : b < 26) (hr : r0 = 1000 + (26 * n + b) ∨ r0 = 1400 + (26 * n + b) ∨ r0 = 1800 + (26 * n + b)) : cOt L n b h s (tsI s (L r0) h v) := by
  have h0 : shp r0 ≠ none := by
    obtain ⟨e1, e2, e3⟩ := shp_cell hn hb
    rcases hr with rfl | rfl | rfl
    · exact shp_some e1
    · exact shp_some e2
    · exact shp_some e3
  intro b' h' hb' hne
  obtain ⟨e1, e2, e3⟩ := shp_cell hn hb'
  have key : ∀ r, shp r ≠ none → (r = 1000 + (26 * n + b') ∨ r = 1400 + (26 * n + b') ∨ r = 1800 + (26 * n + b')) → tI (tsI s (L r0) h v) (L r) h' = tI s (L r) h' := fun r hs hr' => if_neg fun w => by
    have := hR.2.1 r r0 hs h0 w.1
    have := w.2
    omega
  exact ⟨key _ (shp_some e1) (Or.inl rfl), key _ (shp_some e2) (Or.inr (Or.inl rfl)), key _ (shp_some e3) (Or.inr (Or.inr rfl))⟩
theorem cDt_o {kp : Nat → Int32} {lw : Option (List cL)} {x2 : Int32} {b' h' : Nat} (hO : cOt L n b h s s') (hb : b' < 26) (hne : ¬ (b' = b ∧ h' = h)) (hd : cDt kp lw L x2 n b' h' s) : cDt kp lw L x2 n b' h' s' := by
  obtain ⟨a1, a2, a3⟩ := hO b' h' hb hne
  unfold cDt
  rw [a1, a2, a3]
  exact hd
theorem cDt_n {kp : Nat → Int32} {lw : Option (List cL)} {x2 : Int32} {n' b' h' : Nat} (hF : cF L n s s') (hn : n < 12) (hn' : n' < 12) (hb : b' < 26) (hne : n' ≠ n) (hd : cDt kp lw L x2 n' b' h' s) : cDt kp lw L x2 n' b' h' s' := by
  obtain ⟨e1, e2, e3⟩ := shp_cell hn' hb
  have k : ∀ r, (r = 1000 + (26 * n' + b') ∨ r = 1400 + (26 * n' + b') ∨ r = 1800 + (26 * n' + b')) → ¬ rowOf n r := fun r hr z => by
    obtain ⟨c, c1, c2⟩ := z
    omega
  unfold cDt tI
  rw [(hF _ (shp_some e1) (by omega)).2 (k _ (Or.inl rfl)), (hF _ (shp_some e2) (by omega)).2 (k _ (Or.inr (Or.inl rfl))), (hF _ (shp_some e3) (by omega)).2 (k _ (Or.inr (Or.inr rfl)))]
  exact hd
end CF
theorem fre_c {r : Nat} (h : shp r ≠ none) (h6 : 600 ≤ r) : fre r := ⟨h, Or.inr (Or.inr (Or.inr h6))⟩
section LN
variable {N : tP} {s : tM} {L : Nat → Nat} {M O : Nat → Prop} {m : mS} {lw : Option (List cL)}
theorem v_lay62 (hN : 120 ≤ N.2.1) (hN1 : 60 ≤ N.1) (hX : RX N s L M O m) (hF : inF (m.2.1 2) lw) {n b h : Nat} (hn : n < 12) (hb : b < 26) (hbn : b ≠ 0 → 1 ≤ n) (hh : h < 25) {x2 : Int32} {g : Bool} (hg : goT (m.2.1 2) lw n b h = g) {Kr K : tM → Prop} {R : Int32 → tM → Prop} (hR : ∀ s2, aT L s s2 → cF L n s s2 → cOt L n b h s s2 → cDt (m.2.1 2) lw L x2 n b h s2 → R (nI (h + 1)) s2) : v_X0_layNote_62 N (L 0) (nI n) x2 (nI b - 1) (nI h) (L (1000 + (26 * n + b))) (nI h) (bI g) Kr K R s := by
  have hS := hX.S
  have cn : (nI n).toNatClampNeg = n := nI_clamp (by omega)
  have cb : (nI b).toNatClampNeg = b := nI_clamp (by omega)
  have ch : (nI h).toNatClampNeg = h := nI_clamp (by omega)
  obtain ⟨sh1, sh2, sh3⟩ := shp_cell hn hb
  have u1 := shp_some sh1
  have u2 := shp_some sh2
  have u3 := shp_some sh3
  have w1 : rowOf n (1000 + (26 * n + b)) := ⟨b, hb, Or.inl rfl⟩
  have w2 : rowOf n (1400 + (26 * n + b)) := ⟨b, hb, Or.inr (Or.inl rfl)⟩
  have w3 : rowOf n (1800 + (26 * n + b)) := ⟨b, hb, Or.inr (Or.inr rfl)⟩
  unfold v_X0_layNote_62
  rw [nar_bI, ch]
  refine ⟨(hS.x1000 hn hb hh).1, fun s1 e1 => ?_⟩
  have A1 : aT L s s1 := by rw [e1]; exact aT_I (fre_c u1 (by omega))
  have F1 : cF L n s s1 := by rw [e1]; exact cF_I hS u1 w1
  have O1 : cOt L n b h s s1 := by rw [e1]; exact cOt_I hS hn hb (Or.inl rfl)
  have V1 : tI s1 (L (1000 + (26 * n + b))) h = bI g := by rw [e1]; exact if_pos ⟨rfl, rfl⟩
  have X1 := hX.t A1
  have S1 := X1.S
  refine ⟨fun z y hy => ?_, fun nz => ?_⟩
  · rw [hy, nI_1]
    exact hR s1 A1 F1 O1 ⟨by rw [V1, hg], fun z2 => absurd z z2⟩
  · obtain ⟨q16, q17, q18, -⟩ := S1.q0
    obtain ⟨r16, r17, r18⟩ := S1.q16 hn
    obtain ⟨g16, g17, g18⟩ := S1.qg hn hb
    rw [q16, cn, r16, nI_m1p, cb, g16, V1, q17, r17, g17]
    refine ⟨S1.o (r := 0) rfl, (S1.x16 hn).1, (S1.x600 hn hb).1, (S1.x1000 hn hb hh).1, fun gz => ?_, fun gz y hy => ?_⟩
    · have gt : g = true := by
        cases g with
        | true => rfl
        | false => exact absurd rfl gz
      refine ⟨(S1.x16 hn).2.1, (S1.x600 hn hb).2.1, v_costsS hN hN1 X1 hF hn (pab_n hbn) (paR_b hb) (fun s2 a2 => ?_)⟩
      have X2 := X1.a a2
      have S2 := X2.S
      refine ⟨(S2.x1000 hn hb hh).2.1, fun s3 e3 => ?_⟩
      have A3 : aT L s s3 := by
        rw [e3]
        exact aT_t A1 (aT_t (aT_a a2) (aT_I (fre_c u2 (by omega))))
      have F3 : cF L n s s3 := by
        rw [e3]
        exact cF_t F1 (cF_t (aS_cF a2 S1 n) (cF_I S2 u2 w2))
      have O3 : cOt L n b h s s3 := by
        rw [e3]
        exact cOt_t O1 (cOt_t (aS_cO a2 S1 hn b h) (cOt_I S2 hn hb (Or.inr (Or.inl rfl))))
      have V31 : tI s3 (L (1000 + (26 * n + b))) h = bI g := by
        rw [e3]
        refine (if_neg fun z => S2.ne u1 u2 (by omega) z.1).trans ?_
        exact (congrFun (aS_c a2 S1 u1 (by omega)).1 h).trans V1
      have V32 : tI s3 (L (1400 + (26 * n + b))) h = prT (m.2.1 2) lw n b h := by
        rw [e3]
        exact if_pos ⟨rfl, rfl⟩
      have X3 := hX.t A3
      have S3 := X3.S
      obtain ⟨-, -, q18, -⟩ := S3.q0
      obtain ⟨-, -, r18⟩ := S3.q16 hn
      obtain ⟨-, -, g18⟩ := S3.qg hn hb
      rw [q18, r18, g18]
      refine ⟨S3.o (r := 0) rfl, (S3.x16 hn).2.2, (S3.x600 hn hb).2.2, v_earnsS hN hN1 X3 hF hn (pab_n hbn) (paR_b hb) (fun s4 a4 => ?_)⟩
      have X4 := X3.a a4
      have S4 := X4.S
      refine ⟨(S4.x1000 hn hb hh).2.2, fun s5 e5 y hy => ?_⟩
      rw [hy, nI_1]
      refine hR s5 ?_ ?_ ?_ ⟨?_, fun _ _ => ⟨?_, ?_⟩⟩
      · rw [e5]
        exact aT_t A3 (aT_t (aT_a a4) (aT_I (fre_c u3 (by omega))))
      · rw [e5]
        exact cF_t F3 (cF_t (aS_cF a4 S3 n) (cF_I S4 u3 w3))
      · rw [e5]
        exact cOt_t O3 (cOt_t (aS_cO a4 S3 hn b h) (cOt_I S4 hn hb (Or.inr (Or.inr rfl))))
      · rw [e5, hg]
        refine (if_neg fun z => S4.ne u1 u3 (by omega) z.1).trans ?_
        exact (congrFun (aS_c a4 S3 u1 (by omega)).1 h).trans V31
      · rw [e5]
        refine (if_neg fun z => S4.ne u2 u3 (by omega) z.1).trans ?_
        exact (congrFun (aS_c a4 S3 u2 (by omega)).1 h).trans V32
      · rw [e5]
        exact if_pos ⟨rfl, rfl⟩
    · have gt : g = false := bI_0.mp gz
      rw [hy, nI_1]
      refine hR s1 A1 F1 O1 ⟨by rw [V1, hg], fun _ z2 => ?_⟩
      rw [hg, gt] at z2
      cases z2
/-- the loop's state: what is laid of note n -/
def lJ (kp : Nat → Int32) (lw : Option (List cL)) (L : Nat → Nat) (x2 : Int32) (n b0 b h : Nat) (s s1 : tM) : Prop := aT L s s1 ∧ cF L n s s1 ∧ (∀ b' h', b0 ≤ b' → b' < b → b' < 26 → h' < 25 → cDt kp lw L x2 n b' h' s1) ∧ ∀ h', h' < h → cDt kp lw L x2 n b h' s1
theorem v_lay27 (hN : 120 ≤ N.2.1) (hN1 : 60 ≤ N.1) (hX : RX N s L M O m) (hF : inF (m.2.1 2) lw) {n b b0 : Nat} (hn : n < 12) (hb : b < 26) (hbn : b ≠ 0 → 1 ≤ n) {x2 : Int32} {Kr K : tM → Prop} (hK : ∀ s2, lJ (m.2.1 2) lw L x2 n b0 b 25 s s2 → K s2) : ∀ (c t h : Nat) (s1 : tM), lJ (m.2.1 2) lw L x2 n b0 b h s s1 → h + c = 25 → c < t → v_X0_layNote_27 N (L 0) (nI n) x2 (nI b - 1) Kr K t (nI h) s1
  | _, 0, _, _, _, _, h => absurd h (Nat.not_lt_zero _)
  | 0, t + 1, h, s1, h1, hh, _ => by
    unfold v_X0_layNote_27
    have : h = 25 := by omega
    subst this
    exact ⟨fun _ => hK s1 h1, fun z => absurd (nI_le (Nat.le_refl 25) (by omega)) z⟩
  | c + 1, t + 1, h, s1, h1, hh, ht => by
    have X1 := hX.t h1.1
    have S1 := X1.S
    have cn : (nI n).toNatClampNeg = n := nI_clamp (by omega)
    have cb : (nI b).toNatClampNeg = b := nI_clamp (by omega)
    obtain ⟨q16, -⟩ := S1.q0
    obtain ⟨r16, -, -⟩ := S1.q16 hn
    obtain ⟨g16, -, -⟩ := S1.qg hn hb
    unfold v_X0_layNote_27
    rw [show (25 : Int32) = nI 25 from rfl, nI_lle (by omega) (by omega), q16, cn, r16, nI_m1p, cb, g16]
    refine ⟨fun z => by omega, fun _ => ⟨S1.o (r := 0) rfl, (S1.x16 hn).1, (S1.x600 hn hb).1, v_barS hN hN1 X1 hF hn (pab_n hbn) (paR_b hb) (fun s2 a2 => ?_)⟩⟩
    have X2 := X1.a a2
    have next : ∀ g, goT (m.2.1 2) lw n b h = g → v_X0_layNote_62 N (L 0) (nI n) x2 (nI b - 1) (nI h) (L (1000 + (26 * n + b))) (nI h) (bI g) Kr K (fun x4 s => v_X0_layNote_27 N (L 0) (nI n) x2 (nI b - 1) Kr K t x4 s) s2 := fun g hg => by
      refine v_lay62 hN hN1 X2 hF hn hb hbn (by omega) hg (fun s3 a3 f3 o3 d3 => ?_)
      obtain ⟨j1, j2, j3, j4⟩ := h1
      refine v_lay27 hN hN1 hX hF hn hb hbn hK c t (h + 1) s3 ⟨aT_t j1 (aT_t (aT_a a2) a3), cF_t j2 (cF_t (aS_cF a2 S1 n) f3), fun b' h' k1 k2 k3 k4 => ?_, fun h' k => ?_⟩ (by omega) (by omega)
      · exact cDt_o o3 k3 (by omega) (cDt_o (aS_cO a2 S1 hn b h) k3 (by omega) (j3 b' h' k1 k2 k3 k4))
      · by_cases e : h' = h
        · rw [e]
          exact d3
        · exact cDt_o o3 hb (by omega) (cDt_o (aS_cO a2 S1 hn b h) hb (by omega) (j4 h' (by omega)))
    exact bI_d (fun z => next false (by unfold goT; rw [z]; rfl)) (fun z => next true (by unfold goT; rw [z]; rfl))
theorem v_lay10 (hN : 120 ≤ N.2.1) (hN1 : 60 ≤ N.1) (hX : RX N s L M O m) (hF : inF (m.2.1 2) lw) {n b0 : Nat} (hn : n < 12) {x2 : Int32} {Kr K : tM → Prop} (hK : ∀ s2, lJ (m.2.1 2) lw L x2 n b0 (if n = 0 then 1 else 26) 0 s s2 → K s2) : ∀ (c t b : Nat) (s1 : tM), lJ (m.2.1 2) lw L x2 n b0 b 0 s s1 → b + c = (if n = 0 then 1 else 26) → c < t → v_X0_layNote_10 N (L 0) (nI n) x2 Kr K t (nI b - 1) s1
  | _, 0, _, _, _, _, h => absurd h (Nat.not_lt_zero _)
  | 0, t + 1, b, s1, h1, hh, _ => by
    unfold v_X0_layNote_10 v_X0_layNote_21
    have z0 : nI n = 0 ↔ n = 0 := by
      rw [show (0 : Int32) = nI 0 from rfl, nI_eq (by omega) (by omega)]
    have hb : b = if n = 0 then 1 else 26 := by omega
    rw [z0]
    refine ⟨fun z => ⟨fun _ => ?_, fun w => absurd ?_ w⟩, fun z => ⟨fun _ => ?_, fun w => absurd ?_ w⟩⟩
    · rw [← hb] at hK
      exact hK s1 h1
    · rw [if_neg z] at hb
      rw [hb]
      decide
    · rw [← hb] at hK
      exact hK s1 h1
    · rw [if_pos z] at hb
      rw [hb]
      decide
  | c + 1, t + 1, b, s1, h1, hh, ht => by
    unfold v_X0_layNote_10 v_X0_layNote_21
    have z0 : nI n = 0 ↔ n = 0 := by
      rw [show (0 : Int32) = nI 0 from rfl, nI_eq (by omega) (by omega)]
    have hb : b < 26 ∧ (b ≠ 0 → 1 ≤ n) := by
      by_cases e : n = 0
      · rw [if_pos e] at hh
        omega
      · rw [if_neg e] at hh
        omega
    have go : v_X0_layNote_27 N (L 0) (nI n) x2 (nI b - 1) Kr (fun s102 => (∀ x103 : Int32, x103 = nI b - 1 + 1 → v_X0_layNote_10 N (L 0) (nI n) x2 Kr K t x103 s102)) N.1 0 s1 := by
      refine v_lay27 hN hN1 hX hF hn hb.1 hb.2 (fun s2 j2 y hy => ?_) 25 N.1 0 s1 h1 (by omega) (by omega)
      have ey : y = nI (b + 1) - 1 := by
        rw [hy, nI_m1p, nI_pred]
      rw [ey]
      refine v_lay10 hN hN1 hX hF hn hK c t (b + 1) s2 ⟨j2.1, j2.2.1, fun b' h' k1 k2 k3 k4 => ?_, fun h' k => absurd k (Nat.not_lt_zero _)⟩ (by omega) (by omega)
      by_cases e : b' = b
      · rw [e]
        exact j2.2.2.2 h' k4
      · exact j2.2.2.1 b' h' k1 (by omega) k3 k4
    rw [z0]
    have tb := m1s (n := b) (by omega)
    refine ⟨fun z => ⟨fun w => ?_, fun _ => go⟩, fun z => ⟨fun w => ?_, fun _ => go⟩⟩
    · rw [i32_lt, tb, show (24 : Int32).toInt = 24 by decide] at w
      omega
    · rw [i32_lt, tb, m1toI] at w
      rw [if_pos z] at hh
      omega
theorem v_layNoteS (hN : 120 ≤ N.2.1) (hN1 : 60 ≤ N.1) (hX : RX N s L M O m) (hF : inF (m.2.1 2) lw) {n : Nat} (hn : n < 12) {x2 : Int32} {K : tM → Prop} (hK : ∀ s', aT L s s' → cF L n s s' → (∀ b h, okB n b → h < 25 → cDt (m.2.1 2) lw L x2 n b h s') → K s') : v_X0_layNote N (L 0) (nI n) x2 s K := by
  unfold v_X0_layNote v_X0_layNote_9
  have z0 : nI n = 0 ↔ n = 0 := by
    rw [show (0 : Int32) = nI 0 from rfl, nI_eq (by omega) (by omega)]
  rw [z0]
  refine ⟨fun z => ?_, fun z => ?_⟩
  · have := v_lay10 (x2 := x2) (b0 := 1) (Kr := K) (K := K) hN hN1 hX hF hn (fun s2 j => hK s2 j.1 j.2.1 (fun b h hb hh => ?_)) 25 N.1 1 s ⟨aT_r L s, cF_r, fun b' h' k1 k2 => by omega, fun h' k => absurd k (Nat.not_lt_zero _)⟩ (by rw [if_neg z]) (by omega)
    · rw [show (0 : Int32) = nI 1 - 1 by decide]
      exact this
    · have hb2 := hb.2
      rw [if_neg z] at j
      exact j.2.2.1 b h (by omega) (by have := hb.1; omega) hb.1 hh
  · have := v_lay10 (x2 := x2) (b0 := 0) (Kr := K) (K := K) hN hN1 hX hF hn (fun s2 j => hK s2 j.1 j.2.1 (fun b h hb hh => ?_)) 1 N.1 0 s ⟨aT_r L s, cF_r, fun b' h' k1 k2 => by omega, fun h' k => absurd k (Nat.not_lt_zero _)⟩ (by rw [if_pos z]) (by omega)
    · rw [show (-1 : Int32) = nI 0 - 1 by decide]
      exact this
    · have hb2 := hb.2
      rw [if_pos z] at j
      exact j.2.2.1 b h (by omega) (by omega) hb.1 hh
theorem v_layNotesS (hN : 120 ≤ N.2.1) (hN1 : 60 ≤ N.1) (hX : RX N s L M O m) (hF : inF (m.2.1 2) lw) {q : Nat} (hq : q ≤ 12) (hqv : m.2.1 2 41 = nI q) {x2 : Int32} {K : tM → Prop} (hK : ∀ s', aT L s s' → (∀ n b h, n < q → okB n b → h < 25 → cDt (m.2.1 2) lw L x2 n b h s') → K s') : v_X0_layNotes N (L 0) x2 s K := by
  unfold v_X0_layNotes
  have key : ∀ c t n s1, n + c = q → c < t → aT L s s1 → (∀ n' b h, n' < n → okB n' b → h < 25 → cDt (m.2.1 2) lw L x2 n' b h s1) → v_X0_layNotes_2 N (L 0) x2 K (fun s101 => K s101) t (nI n) s1 := by
    intro c
    induction c with
    | zero =>
      intro t n s1 hn ht h1 hd
      obtain ⟨t, rfl⟩ : ∃ u, t = u + 1 := ⟨t - 1, by omega⟩
      have X1 := hX.t h1
      simp only [v_X0_layNotes_2]
      refine ⟨X1.S.o (r := 0) rfl, v_nNotesS X1.S ?_⟩
      rw [show tI s1 (L 40) 4 = nI q from X1.many.trans hqv, nI_lle (by omega) (by omega)]
      have e : n = q := by omega
      subst e
      exact ⟨fun _ => hK s1 h1 hd, fun z => absurd (Nat.le_refl _) z⟩
    | succ c ih =>
      intro t n s1 hn ht h1 hd
      obtain ⟨t, rfl⟩ : ∃ u, t = u + 1 := ⟨t - 1, by omega⟩
      have X1 := hX.t h1
      simp only [v_X0_layNotes_2]
      refine ⟨X1.S.o (r := 0) rfl, v_nNotesS X1.S ?_⟩
      rw [show tI s1 (L 40) 4 = nI q from X1.many.trans hqv, nI_lle (by omega) (by omega)]
      refine ⟨fun z => by omega, fun _ => ⟨X1.S.o (r := 0) rfl, v_layNoteS hN hN1 X1 hF (by omega) (fun s2 a2 f2 d2 y hy => ?_)⟩⟩
      rw [hy, nI_1]
      refine ih t (n + 1) s2 (by omega) (by omega) (aT_t h1 a2) (fun n' b h k1 k2 k3 => ?_)
      by_cases e : n' = n
      · rw [e] at k2 ⊢
        exact d2 b h k2 k3
      · exact cDt_n f2 (by omega) (by omega) k2.1 e (hd n' b h (by omega) k2 k3)
  exact key q N.1 0 s (by omega) (by omega) (aT_r L s) (fun n' b h k => absurd k (Nat.not_lt_zero _))
end LN
