set_option maxRecDepth 100000
/-! ===== the system's reader: plain tests ===== -/
theorem okR_i {α : Type} {N : tP} {rd pl : Nat} {tp : Nat → Int32} {n : Nat} {TR : tM → (Nat → Prop) → Nat → Nat → α → Prop} {d p : Nat} {s : tM} {i l : Nat} {r : pR (Nat × Nat × α)} {k m : Nat} {Kr : Nat → tM → Prop} {Kx : String → Nat → tM → Prop} {j : Nat} (h : okR N rd pl tp n TR d p s i l r k m Kr Kx) (h1 : i ≤ j) : (∀ e, r = .inl e → 2 * (e - j) + 2 ≤ k ∧ 4 * (e - j) + 8 ≤ m ∧ XK N rd pl p tp n Kx s e) ∧ ∀ z, r = .inr z → 2 * (z.1 - j) ≤ k ∧ 4 * (z.1 - j) ≤ m ∧ ∀ s' a, FRp N rd pl p s s' → PSd rd tp n s' z.1 z.2.1 d p → TR s' (NW N s s') (z.2.1 - l) a z.2.2 → Kr a s' := ⟨fun e he => by
  obtain ⟨b1, b2, b3⟩ := h.1 e he
  exact ⟨by omega, by omega, b3⟩, fun z hz => by
  obtain ⟨b1, b2, b3⟩ := h.2 z hz
  exact ⟨by omega, by omega, b3⟩⟩
section PN
variable {N : tP} {io : Bool} {rd x ta pl wd p : Nat} {tp : Nat → Int32} {n : Nat} {s s0 s' : tM} {i l d q : Nat}
theorem v_plainP (hN : 402 ≤ N.1) (hN2 : 60 ≤ N.2.1) (hn : n ≤ 400) (hb : ∀ k, k < 400 → byT (tp k)) {rc : Nat → Nat → Nat → Nat → tM → (Nat → tM → Prop) → (String → Nat → tM → Prop) → Prop} {dp dep : Nat} (hdp : d + dp = 8) (hdep : 2 ≤ dep) (hT : ∀ dp', dp = dp' + 1 → ∃ dep', dep' + 1 ≤ dep ∧ itT N io rd x ta pl wd tp n dep' (d + 1) (pTest (cdT tp n) (vlT tp n) io dp') (fun k m s Kr Kx => rc 2 rd k m s Kr Kx)) : itT N io rd x ta pl wd tp n dep d (pPlain (cdT tp n) (vlT tp n) io dp) (fun k m s Kr Kx => v_X7_plain N rc rd k m s Kr Kx) := fun s0 i0 l p k m Kr Kx g0 hd0 hl hp hi0 hK0 => by
  have hz : ∀ k, tokT tp n ≤ k → cdT tp n k = 0 := fun k hk => cdT_z hn k hk
  have hTt := tokT_le (tp := tp) hn
  obtain ⟨p1, p2, -⟩ := PS0_rd g0
  show v_X7_plain N rc rd k m s0 Kr Kx
  unfold v_X7_plain
  have hnots := pNots_le hz 401 i0 false hi0
  refine v_nots (b := false) hN hn hb 401 N.1 s0 i0 (by omega) (by omega) hi0 g0 hd0 (fun s F0 hd => ?_)
  have h0 := PS0_f g0 F0
  have hE := PS0_E h0
  have hK := okR_i hK0 hnots.1
  generalize ej : (pNots (cdT tp n) 401 i0 false).1 = i at hd hnots hK
  generalize eb : (pNots (cdT tp n) 401 i0 false).2 = b at hK
  refine ⟨hE, v_isWordP hN hn hb h0 hd (by decide) (bI_c (fun c => ?_) (fun c => ?_))⟩
  · have c : ¬ cdT tp n i = 140 := of_decide_eq_false c
    have er : pPlain (cdT tp n) (vlT tp n) io dp i0 l = pComp (cdT tp n) (vlT tp n) io dp i l b := by
      cases dp with
      | zero => rw [pPlain_0, ej, eb, if_neg c]
      | succ dp => rw [pPlain_s, ej, eb, if_neg c]
    rw [er] at hK
    unfold pComp at hK
    have hmi := pM_sum (vl := vlT tp n) (io := io) hz dp i l hnots.2
    have hF : itS N io rd x ta pl wd tp n (trS io x) d (pSum (cdT tp n) (vlT tp n) io dp) (fun k m s Kr Kx => r_X7_part N (N.2.1 - 2 + 2) 1 rd k m s Kr Kx) := (v_sumR hN hn hb dp d hdp (N.2.1 - 2) (by omega)).2.2
    rw [show N.2.1 - 2 + 2 = N.2.1 by omega] at hF
    cases e1 : pSum (cdT tp n) (vlT tp n) io dp i l with
    | inl e =>
      obtain ⟨b1, b2, b3⟩ := hK.1 e (by rw [e1]; rfl)
      refine ⟨k, m, Nat.le_refl _, Nat.le_refl _, hE, hF s i l p _ _ _ _ h0 hd hl hnots.2 ⟨fun e' he => ?_, fun z hz => ?_⟩⟩
      · rw [e1] at he
        cases he
        exact ⟨b1, b2, XK_t b3 F0 (Nat.le_refl _)⟩
      · rw [e1] at hz
        cases hz
    | inr z =>
      have hz1 := hmi.2 z e1
      rw [e1] at hK
      have er2 : ∀ {g : Nat × Nat × dS → pR (Nat × Nat × dT)}, pb (.inr z) g = g z := rfl
      rw [er2] at hK
      have hkm : 2 * (z.1 - i) ≤ k ∧ 4 * (z.1 - i) ≤ m := by
        by_cases c6 : cdT tp n z.1 = 160 ∨ cdT tp n z.1 = 162 ∨ cdT tp n z.1 = 161
        · rw [if_pos c6] at hK
          have hlt : z.1 < tokT tp n := c6.elim (fun z => cd_lt hz z (by decide)) fun z => z.elim (fun z => cd_lt hz z (by decide)) fun z => cd_lt hz z (by decide)
          have hm2 := pM_sum (vl := vlT tp n) (io := io) hz dp (z.1 + 1) z.2.1 (by omega)
          cases e2 : pSum (cdT tp n) (vlT tp n) io dp (z.1 + 1) z.2.1 with
          | inl e =>
            obtain ⟨b1, b2, -⟩ := hK.1 e (by rw [e2]; rfl)
            have := hm2.1 e e2
            exact ⟨by omega, by omega⟩
          | inr w =>
            obtain ⟨b1, b2, -⟩ := hK.2 _ (by rw [e2]; rfl)
            have := hm2.2 w e2
            dsimp only at b1 b2
            exact ⟨by omega, by omega⟩
        · rw [if_neg c6] at hK
          obtain ⟨b1, b2, -⟩ := hK.1 _ rfl
          exact ⟨by omega, by omega⟩
      have hl5 := hz1.2.2.2 hl
      refine ⟨2 * (z.1 - i), 4 * (z.1 - i), hkm.1, hkm.2, hE, hF s i l p _ _ _ _ h0 hd hl hnots.2 ⟨fun e' he => ?_, fun z' hz' => ?_⟩⟩
      · rw [e1] at he
        cases he
      · rw [e1] at hz'
        cases hz'
        refine ⟨Nat.le_refl _, Nat.le_refl _, fun s1 a F1 D1 T1 => ?_⟩
        have F01 := FR_t F0 F1 (Nat.le_refl _)
        have H1 := PS0_f g0 F01
        have ta : isSum s1 (NW N s0 s1) io x (z.2.1 - l) a z.2.2 := isSum_fr (mFr_r _ _) (fun a ha => (NW_f F0 F1).2 ha) _ _ _ T1
        have go : ∀ idx, idx < 27 ∧ 24 ≤ idx → cdT tp n z.1 = cdS idx → (cdT tp n z.1 = 160 ∨ cdT tp n z.1 = 162 ∨ cdT tp n z.1 = 161) → v_X7_plain_84 N rc rd (bI b) a rd Kr Kx (k - 2 * (z.1 - i)) (m - 4 * (z.1 - i)) s1 := fun idx hidx hc c6 => by
          rw [if_pos c6] at hK
          have hlt : z.1 < tokT tp n := c6.elim (fun z => cd_lt hz z (by decide)) fun z => z.elim (fun z => cd_lt hz z (by decide)) fun z => cd_lt hz z (by decide)
          have hm2 := pM_sum (vl := vlT tp n) (io := io) hz dp (z.1 + 1) z.2.1 (by omega)
          refine v_cmp89 hN hN2 hn hb hdp g0 F01 D1 hl5 (by omega) ta hidx hc ⟨fun e he => ?_, fun w hw => ?_⟩
          · obtain ⟨b1, b2, b3⟩ := hK.1 e he
            have hge : z.1 + 1 ≤ e := by
              rcases pb_l he with h | ⟨w, h, h2⟩
              · exact (hm2.1 e h).1
              · cases h2
            exact ⟨by omega, by omega, b3⟩
          · obtain ⟨b1, b2, b3⟩ := hK.2 w hw
            have hge : z.1 + 1 < w.1 := by
              obtain ⟨y, h, h2⟩ := pb_r hw
              cases h2
              exact (hm2.2 y h).1
            exact ⟨by omega, by omega, fun s' a' F' D' T' => b3 s' a' F' D' (isTest_up _ _ _ _ hdep T')⟩
        have E1 := PS0_E H1
        refine ⟨E1, v_isWordP hN hn hb H1 D1 (by decide) (bI_d (fun c2 => ?_) (fun c2 => ⟨E1, v_isWordP hN hn hb H1 D1 (by decide) (bI_d (fun c3 => ?_) (fun c3 => ⟨E1, v_isWordP hN hn hb H1 D1 (by decide) (bI_c (fun c4 => ?_) (fun c4 => ?_))⟩))⟩))⟩
        · have c2 := of_decide_eq_true c2
          exact go 24 (by decide) c2 (Or.inl c2)
        · have c3 := of_decide_eq_true c3
          exact go 25 (by decide) c3 (Or.inr (Or.inl c3))
        · have c2 := of_decide_eq_false c2
          have c3 := of_decide_eq_false c3
          have c4 := of_decide_eq_false c4
          rw [if_neg (fun z => z.elim c2 fun z => z.elim c3 c4)] at hK
          obtain ⟨b1, b2, b3⟩ := hK.1 _ rfl
          unfold v_X7_plain_89
          exact ⟨1, 7, by omega, by omega, E1, v_must0 H1 D1 (Nat.le_refl _) (Nat.le_refl _) (XK_t b3 F01 (Nat.le_refl _))⟩
        · have c4 := of_decide_eq_true c4
          exact go 26 (by decide) c4 (Or.inr (Or.inr c4))
  · have c : cdT tp n i = 140 := of_decide_eq_true c
    have iT : i < tokT tp n := cd_lt (cd := cdT tp n) hz c (by decide)
    by_cases e8 : d = 8
    · have er : pPlain (cdT tp n) (vlT tp n) io dp i0 l = .inl i := by
        have : dp = 0 := by omega
        rw [this, pPlain_0, ej, if_pos c]
      obtain ⟨b1, b2, b3⟩ := hK.1 _ er
      exact ⟨1, 7, by omega, by omega, hE, v_openS hN hn h0 hd (by omega) (fun z => absurd e8 (by omega)) (fun _ => ⟨by omega, by omega, XK_t b3 F0 (Nat.le_refl _)⟩)⟩
    · obtain ⟨dp', edp⟩ : ∃ u, dp = u + 1 := ⟨dp - 1, by omega⟩
      obtain ⟨dep', hdep', hT'⟩ := hT dp' edp
      rw [edp, pPlain_s, ej, eb, if_pos c] at hK
      refine ⟨0, 0, Nat.zero_le _, Nat.zero_le _, hE, v_openS hN hn h0 hd (by omega) (fun _ s1 F1 D1 => ?_) (fun z => absurd z e8)⟩
      have F01 := FR_t F0 F1 (Nat.le_refl _)
      have H1 := PS0_f g0 F01
      have hmi := pM_test (vl := vlT tp n) (io := io) hz dp' (i + 1) l (by omega)
      cases e1 : pTest (cdT tp n) (vlT tp n) io dp' (i + 1) l with
      | inl e =>
        obtain ⟨b1, b2, b3⟩ := hK.1 e (by rw [e1]; rfl)
        have := hmi.1 e e1
        refine ⟨k, m, Nat.le_refl _, Nat.le_refl _, PS0_E H1, hT' s1 (i + 1) l p _ _ _ _ H1 D1 hl hp (by omega) ⟨fun e' he => ?_, fun z hz => ?_⟩⟩
        · rw [e1] at he
          cases he
          exact ⟨by omega, by omega, XK_t b3 F01 (Nat.le_refl _)⟩
        · rw [e1] at hz
          cases hz
      | inr z =>
        have hz1 := hmi.2 z e1
        rw [e1] at hK
        have er2 : ∀ {g : Nat × Nat × dT → pR (Nat × Nat × dT)}, pb (.inr z) g = g z := rfl
        rw [er2] at hK
        have hkm : 2 * (z.1 - i) ≤ k ∧ 4 * (z.1 - i) ≤ m := by
          by_cases c2 : cdT tp n z.1 = 141
          · rw [if_pos c2] at hK
            obtain ⟨b1, b2, -⟩ := hK.2 _ rfl
            dsimp only at b1 b2
            exact ⟨by omega, by omega⟩
          · rw [if_neg c2] at hK
            obtain ⟨b1, b2, -⟩ := hK.1 _ rfl
            exact ⟨by omega, by omega⟩
        refine ⟨2 * (z.1 - (i + 1)), 4 * (z.1 - (i + 1)), by omega, by omega, PS0_E H1, hT' s1 (i + 1) l p _ _ _ _ H1 D1 hl hp (by omega) ⟨fun e' he => ?_, fun z' hz' => ?_⟩⟩
        · rw [e1] at he
          cases he
        · rw [e1] at hz'
          cases hz'
          refine ⟨Nat.le_refl _, Nat.le_refl _, fun s2 a F2 D2 T2 => ?_⟩
          have F02 := FR_t F01 F2 (Nat.le_refl _)
          have H2 := PS0_f g0 F02
          by_cases c2 : cdT tp n z.1 = 141
          · rw [if_pos c2] at hK
            obtain ⟨b1, b2, b3⟩ := hK.2 _ rfl
            dsimp only at b1 b2 b3
            refine ⟨0, 0, Nat.zero_le _, Nat.zero_le _, PS0_E H2, v_closeS hN hn hb H2 D2 (by omega) (by decide) (fun _ s3 F3 D3 => ?_) (fun z => absurd c2 z)⟩
            have F03 := FR_t F02 F3 (Nat.le_refl _)
            obtain ⟨r1, r2, -⟩ := PS0_rd H1
            refine v_notS (dep := dep') g0 F03 D3 (isTest_fr (NW_m F3 r1 r2) (fun a ha => (NW_f F02 F3).1 ((NW_f F01 F2).2 ha)) _ _ _ T2) ⟨by omega, by omega⟩ (fun s' a' F' D' T' => b3 s' a' F' D' (isTest_up _ _ _ _ hdep' T'))
          · rw [if_neg c2] at hK
            obtain ⟨b1, b2, b3⟩ := hK.1 _ rfl
            exact ⟨1, 7, by omega, by omega, PS0_E H2, v_closeS hN hn hb H2 D2 (by omega) (by decide) (fun z _ _ _ => absurd z c2) (fun _ => ⟨by omega, by omega, XK_t b3 F02 (Nat.le_refl _)⟩)⟩
end PN
