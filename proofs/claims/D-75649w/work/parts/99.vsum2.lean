set_option maxRecDepth 100000
/-! ===== the system's reader: sums, terms, parts ===== -/
theorem sepS_f {c : Int32} (h1 : ¬ c = 143) (h2 : ¬ c = 145) : sepS c = false := by
  unfold sepS
  rw [beq_eq_false_iff_ne.mpr h1, beq_eq_false_iff_ne.mpr h2]
  rfl
theorem sepT_f {c : Int32} (h1 : ¬ c = 142) (h2 : ¬ c = 147) (h3 : ¬ c = 137) : sepT c = false := by
  unfold sepT
  rw [beq_eq_false_iff_ne.mpr h1, beq_eq_false_iff_ne.mpr h2, beq_eq_false_iff_ne.mpr h3]
  rfl
section SS
variable {N : tP} {io : Bool} {rd x ta pl wd p : Nat} {tp : Nat → Int32} {n : Nat} {s0 : tM} {d : Nat}
theorem v_sum5 (hN : 402 ≤ N.1) (hn : n ≤ 400) (hb : ∀ k, k < 400 → byT (tp k)) {rc : Nat → Nat → Nat → Nat → tM → (Nat → tM → Prop) → (String → Nat → tM → Prop) → Prop} {item : Nat → Nat → pR (Nat × Nat × dS)} (hM : pM (tokT tp n) item) (hF : itS N io rd x ta pl wd tp n (trS io x) d item (fun k m s Kr Kx => rc 2 rd k m s Kr Kx)) (g0 : PS0 N io rd x ta pl wd tp n s0) {l0 : Nat} {Kr : Nat → tM → Prop} {Kx : String → Nat → tM → Prop} {K : Nat → Nat → Nat → tM → Prop} : ∀ (f u : Nat) (s : tM) (i l a k m : Nat) (D : dS), tokT tp n < i + f → f ≤ u → i ≤ tokT tp n → FRp N rd pl p s0 s → PSd rd tp n s i l d p → l ≤ 50 → l0 < l → isSum s (NW N s0 s) io x (l - l0) a D → okL N rd pl tp n (trS io x) d p s0 l0 i (pLoop (cdT tp n) sepS item jD f i l D) k m K Kx → v_X7_sum_5 N rc rd Kr Kx K u a k m s
  | 0, _, _, i, _, _, _, _, _, h1, _, h2, _, _, _, _, _, _ => absurd h1 (by omega)
  | f + 1, 0, _, _, _, _, _, _, _, _, h, _, _, _, _, _, _, _ => absurd h (Nat.not_succ_le_zero _)
  | f + 1, u + 1, s, i, l, a, k, m, D, h1, hu, h2, F0, hd, hl, hl0, ht, hL => by
    have h0 := PS0_f g0 F0
    have hE := PS0_E h0
    rw [pLoop_s] at hL
    have go : ∀ idx, 15 ≤ idx ∧ idx < 20 → cdT tp n i = cdS idx → sepS (cdT tp n i) = true → v_X7_sum_23 N rc rd a Kr Kx K (fun x1 k n s => v_X7_sum_5 N rc rd Kr Kx K u x1 k n s) k m s := fun idx hi hc hs => by
      rw [if_pos hs] at hL
      refine v_sum23 (f := f) hN hn hb hM hF (sep := sepS) rfl g0 F0 hd hl hl0 ht hi hc hL (fun z ez z1 z2 z3 z4 s4 q k' m' hL' F4 D4 t4 => ?_)
      exact v_sum5 (Kr := Kr) hN hn hb hM hF g0 f u s4 z.1 z.2.1 q k' m' _ (by omega) (by omega) z2 F4 D4 z3 z4 t4 hL'
    unfold v_X7_sum_5
    refine ⟨hE, v_isWordP hN hn hb h0 hd (by decide) (bI_d (fun c => ?_) (fun c => ⟨hE, v_isWordP hN hn hb h0 hd (by decide) (bI_c (fun c2 => ?_) (fun c2 => ?_))⟩))⟩
    · have c := of_decide_eq_true c
      exact go 18 (by decide) c (by rw [c]; rfl)
    · have c := of_decide_eq_false c
      have c2 := of_decide_eq_false c2
      rw [if_neg (by rw [sepS_f c c2]; decide)] at hL
      exact (hL.2 _ rfl).2.2 s a k m F0 hd ht
    · have c2 := of_decide_eq_true c2
      exact go 19 (by decide) c2 (by rw [c2]; rfl)
theorem v_term5 (hN : 402 ≤ N.1) (hn : n ≤ 400) (hb : ∀ k, k < 400 → byT (tp k)) {rc : Nat → Nat → Nat → Nat → tM → (Nat → tM → Prop) → (String → Nat → tM → Prop) → Prop} {item : Nat → Nat → pR (Nat × Nat × dS)} (hM : pM (tokT tp n) item) (hF : itS N io rd x ta pl wd tp n (trS io x) d item (fun k m s Kr Kx => rc 0 rd k m s Kr Kx)) (g0 : PS0 N io rd x ta pl wd tp n s0) {l0 : Nat} {Kr : Nat → tM → Prop} {Kx : String → Nat → tM → Prop} {K : Nat → Nat → Nat → tM → Prop} : ∀ (f u : Nat) (s : tM) (i l a k m : Nat) (D : dS), tokT tp n < i + f → f ≤ u → i ≤ tokT tp n → FRp N rd pl p s0 s → PSd rd tp n s i l d p → l ≤ 50 → l0 < l → isSum s (NW N s0 s) io x (l - l0) a D → okL N rd pl tp n (trS io x) d p s0 l0 i (pLoop (cdT tp n) sepT item jD f i l D) k m K Kx → v_X7_term_5 N rc rd Kr Kx K u a k m s
  | 0, _, _, i, _, _, _, _, _, h1, _, h2, _, _, _, _, _, _ => absurd h1 (by omega)
  | f + 1, 0, _, _, _, _, _, _, _, _, h, _, _, _, _, _, _, _ => absurd h (Nat.not_succ_le_zero _)
  | f + 1, u + 1, s, i, l, a, k, m, D, h1, hu, h2, F0, hd, hl, hl0, ht, hL => by
    have h0 := PS0_f g0 F0
    have hE := PS0_E h0
    rw [pLoop_s] at hL
    have go : ∀ idx, 15 ≤ idx ∧ idx < 20 → cdT tp n i = cdS idx → sepT (cdT tp n i) = true → v_X7_term_32 N rc rd a Kr Kx K (fun x1 k n s => v_X7_term_5 N rc rd Kr Kx K u x1 k n s) k m s := fun idx hi hc hs => by
      rw [if_pos hs] at hL
      have key := v_sum23 (rc := fun _ => rc 0) (Kr := Kr) (R := fun x1 k n s => v_X7_term_5 N rc rd Kr Kx K u x1 k n s) (f := f) hN hn hb hM hF (sep := sepT) rfl g0 F0 hd hl hl0 ht hi hc hL (fun z ez z1 z2 z3 z4 s4 q k' m' hL' F4 D4 t4 => v_term5 (Kr := Kr) hN hn hb hM hF g0 f u s4 z.1 z.2.1 q k' m' _ (by omega) (by omega) z2 F4 D4 z3 z4 t4 hL')
      exact key
    unfold v_X7_term_5
    refine ⟨hE, v_isWordP hN hn hb h0 hd (by decide) (bI_d (fun c => ?_) (fun c => ⟨hE, v_isWordP hN hn hb h0 hd (by decide) (bI_d (fun c2 => ?_) (fun c2 => ⟨hE, v_isWordP hN hn hb h0 hd (by decide) (bI_c (fun c3 => ?_) (fun c3 => ?_))⟩))⟩))⟩
    · have c := of_decide_eq_true c
      exact go 15 (by decide) c (by rw [c]; rfl)
    · have c2 := of_decide_eq_true c2
      exact go 16 (by decide) c2 (by rw [c2]; rfl)
    · have c := of_decide_eq_false c
      have c2 := of_decide_eq_false c2
      have c3 := of_decide_eq_false c3
      rw [if_neg (by rw [sepT_f c c2 c3]; decide)] at hL
      exact (hL.2 _ rfl).2.2 s a k m F0 hd ht
    · have c3 := of_decide_eq_true c3
      exact go 17 (by decide) c3 (by rw [c3]; rfl)
/-- what is behind an item of a row -/
theorem okR_seq {α : Type} {TR : tM → (Nat → Prop) → Nat → Nat → α → Prop} {item : Nat → Nat → pR (Nat × Nat × α)} {sep : Int32 → Bool} {cb : Int32 → α → α → α} {s : tM} {i l p k m : Nat} {Kr : Nat → tM → Prop} {Kx : String → Nat → tM → Prop} (hn : n ≤ 400) (hs0 : sep 0 = false) (hM : pM (tokT tp n) item) (hi : i ≤ tokT tp n) (hK : okR N rd pl tp n TR d p s i l (pSeq (cdT tp n) sep item cb i l) k m Kr Kx) : (∀ e, item i l = .inl e → 2 * (e - i) + 2 ≤ k ∧ 4 * (e - i) + 8 ≤ m ∧ XK N rd pl p tp n Kx s e) ∧ ∀ z, item i l = .inr z → i < z.1 ∧ z.1 ≤ tokT tp n ∧ l < z.2.1 ∧ (l ≤ 50 → z.2.1 ≤ 50) ∧ 2 * (z.1 - i) ≤ k ∧ 4 * (z.1 - i) ≤ m ∧ okL N rd pl tp n TR d p s l z.1 (pLoop (cdT tp n) sep item cb 401 z.1 z.2.1 z.2.2) (k - 2 * (z.1 - i)) (m - 4 * (z.1 - i)) (fun a _ _ s' => Kr a s') Kx := by
  have hz : ∀ k, tokT tp n ≤ k → cdT tp n k = 0 := fun k hk => cdT_z hn k hk
  refine ⟨fun e e1 => hK.1 e (by unfold pSeq; rw [e1]; rfl), fun z e1 => ?_⟩
  have hz1 := (hM i l hi).2 z e1
  have hlp := pM_loop (cd := cdT tp n) (cb := cb) hz hs0 hM 401 z.1 z.2.1 z.2.2 hz1.2.1
  have er : pSeq (cdT tp n) sep item cb i l = pLoop (cdT tp n) sep item cb 401 z.1 z.2.1 z.2.2 := by
    unfold pSeq
    rw [e1]
    rfl
  rw [er] at hK
  have hkm : 2 * (z.1 - i) ≤ k ∧ 4 * (z.1 - i) ≤ m := by
    cases e2 : pLoop (cdT tp n) sep item cb 401 z.1 z.2.1 z.2.2 with
    | inl e =>
      obtain ⟨b1, b2, -⟩ := hK.1 e e2
      have := hlp.1 e e2
      exact ⟨by omega, by omega⟩
    | inr w =>
      obtain ⟨b1, b2, -⟩ := hK.2 w e2
      have := hlp.2 w e2
      exact ⟨by omega, by omega⟩
  refine ⟨hz1.1, hz1.2.1, hz1.2.2.1, hz1.2.2.2, hkm.1, hkm.2, fun e e2 => ?_, fun w e2 => ?_⟩
  · obtain ⟨b1, b2, b3⟩ := hK.1 e e2
    have := hlp.1 e e2
    exact ⟨by omega, by omega, b3⟩
  · obtain ⟨b1, b2, b3⟩ := hK.2 w e2
    have := hlp.2 w e2
    exact ⟨by omega, by omega, fun s' a _ _ => b3 s' a⟩
theorem v_sumP (hN : 402 ≤ N.1) (hn : n ≤ 400) (hb : ∀ k, k < 400 → byT (tp k)) {rc : Nat → Nat → Nat → Nat → tM → (Nat → tM → Prop) → (String → Nat → tM → Prop) → Prop} {item : Nat → Nat → pR (Nat × Nat × dS)} (hM : pM (tokT tp n) item) (hF : itS N io rd x ta pl wd tp n (trS io x) d item (fun k m s Kr Kx => rc 2 rd k m s Kr Kx)) : itS N io rd x ta pl wd tp n (trS io x) d (pSeq (cdT tp n) sepS item jD) (fun k m s Kr Kx => v_X7_sum N rc rd k m s Kr Kx) := fun s i l p k m Kr Kx g0 hd hl hi hK => by
  have hT := tokT_le (tp := tp) hn
  obtain ⟨ka, kb⟩ := okR_seq hn rfl hM hi hK
  show v_X7_sum N rc rd k m s Kr Kx
  unfold v_X7_sum
  cases e1 : item i l with
  | inl e =>
    refine ⟨k, m, Nat.le_refl _, Nat.le_refl _, PS0_E g0, hF s i l p k m _ _ g0 hd hl hi ⟨fun e' he => ka e' he, fun z hz => ?_⟩⟩
    rw [e1] at hz
    cases hz
  | inr z =>
    obtain ⟨z1, z2, z3, z4, b1, b2, b3⟩ := kb z e1
    refine ⟨2 * (z.1 - i), 4 * (z.1 - i), b1, b2, PS0_E g0, hF s i l p _ _ _ _ g0 hd hl hi ⟨fun e' he => ?_, fun z' hz' => ?_⟩⟩
    · rw [e1] at he
      cases he
    · rw [e1] at hz'
      cases hz'
      exact ⟨Nat.le_refl _, Nat.le_refl _, fun s1 a F1 D1 t1 => v_sum5 (Kr := Kr) hN hn hb hM hF g0 401 N.1 s1 z.1 z.2.1 a _ _ z.2.2 (by omega) (by omega) z2 F1 D1 (z4 hl) z3 t1 b3⟩
theorem v_termP (hN : 402 ≤ N.1) (hn : n ≤ 400) (hb : ∀ k, k < 400 → byT (tp k)) {rc : Nat → Nat → Nat → Nat → tM → (Nat → tM → Prop) → (String → Nat → tM → Prop) → Prop} {item : Nat → Nat → pR (Nat × Nat × dS)} (hM : pM (tokT tp n) item) (hF : itS N io rd x ta pl wd tp n (trS io x) d item (fun k m s Kr Kx => rc 0 rd k m s Kr Kx)) : itS N io rd x ta pl wd tp n (trS io x) d (pSeq (cdT tp n) sepT item jD) (fun k m s Kr Kx => v_X7_term N rc rd k m s Kr Kx) := fun s i l p k m Kr Kx g0 hd hl hi hK => by
  have hT := tokT_le (tp := tp) hn
  obtain ⟨ka, kb⟩ := okR_seq hn rfl hM hi hK
  show v_X7_term N rc rd k m s Kr Kx
  unfold v_X7_term
  cases e1 : item i l with
  | inl e =>
    refine ⟨k, m, Nat.le_refl _, Nat.le_refl _, PS0_E g0, hF s i l p k m _ _ g0 hd hl hi ⟨fun e' he => ka e' he, fun z hz => ?_⟩⟩
    rw [e1] at hz
    cases hz
  | inr z =>
    obtain ⟨z1, z2, z3, z4, b1, b2, b3⟩ := kb z e1
    refine ⟨2 * (z.1 - i), 4 * (z.1 - i), b1, b2, PS0_E g0, hF s i l p _ _ _ _ g0 hd hl hi ⟨fun e' he => ?_, fun z' hz' => ?_⟩⟩
    · rw [e1] at he
      cases he
    · rw [e1] at hz'
      cases hz'
      exact ⟨Nat.le_refl _, Nat.le_refl _, fun s1 a F1 D1 t1 => v_term5 (Kr := Kr) hN hn hb hM hF g0 401 N.1 s1 z.1 z.2.1 a _ _ z.2.2 (by omega) (by omega) z2 F1 D1 (z4 hl) z3 t1 b3⟩
theorem v_partP (hN : 402 ≤ N.1) (hn : n ≤ 400) (hb : ∀ k, k < 400 → byT (tp k)) {rc : Nat → Nat → Nat → Nat → tM → (Nat → tM → Prop) → (String → Nat → tM → Prop) → Prop} {dp : Nat} (hdp : d + dp = 8) (hS : ∀ dp', dp = dp' + 1 → itS N io rd x ta pl wd tp n (trS io x) (d + 1) (pSum (cdT tp n) (vlT tp n) io dp') (fun k m s Kr Kx => rc 1 rd k m s Kr Kx)) : itS N io rd x ta pl wd tp n (trS io x) d (pPart (cdT tp n) (vlT tp n) io dp) (fun k m s Kr Kx => v_X7_part N rc rd k m s Kr Kx) := fun s i l p k m Kr Kx h0 hd hl hi hK => by
  have hz : ∀ k, tokT tp n ≤ k → cdT tp n k = 0 := fun k hk => cdT_z hn k hk
  have hE := PS0_E h0
  obtain ⟨t1, t2, t3, t4, t5⟩ := PS0_T h0
  have hle := toP_le (tp := tp) hn i
  have hcd := cd_dg hb hn i
  show v_X7_part N rc rd k m s Kr Kx
  unfold v_X7_part
  refine ⟨hE, v_isWordP hN hn hb h0 hd (by decide) (bI_c (fun c => ?_) (fun c => ?_))⟩
  · have c : ¬ cdT tp n i = 191 := of_decide_eq_false c
    have er : pPart (cdT tp n) (vlT tp n) io dp i l = pLeaf (cdT tp n) (vlT tp n) io i l := by
      cases dp with
      | zero => rw [pPart_0, if_neg c]
      | succ dp => rw [pPart_s, if_neg c]
    rw [er] at hK
    obtain ⟨la, lb⟩ := v_leafP (rc := rc) hN hn hb h0 hd hl hK
    refine ⟨hE, ?_⟩
    rw [h0.2.2.2.1]
    have hl10 := wdI_l io
    refine v_whichS hN hn hb h0 hd (cs := wdI io) h0.2.2.2.2.2.2.1 (fun w hw => isW_w2 io w hw) (by omega) (fun w hw cw => ⟨fun _ => la w hw cw, fun z => absurd z ?_⟩) (fun hno => ⟨fun z => absurd rfl z, fun _ => ?_⟩)
    · have : ∀ w, w < 10 → ¬ nI w = -1 := by decide
      exact this w (by omega)
    · obtain ⟨lb1, lb2⟩ := lb hno
      rw [h0.2.1, t2, t5, hd.1.1, nI_lle (by omega) (by omega), nI_clamp (by omega)]
      refine ⟨hE, t1, fun z => lb2 fun y => by have := (hcd.mp y).1; omega, fun z => ⟨⟨400, t3, vpk (by omega) (by decide)⟩, v_dgS (bI_c (fun y => ?_) (fun y => ?_))⟩⟩
      · rw [t4 _ (by omega)] at y
        exact lb2 fun w => by
          rw [(hcd.mp w).2] at y
          cases y
      · rw [t4 _ (by omega)] at y
        exact lb1 (hcd.mpr ⟨by omega, y⟩)
  · have c : cdT tp n i = 191 := of_decide_eq_true c
    have iT : i < tokT tp n := cd_lt (cd := cdT tp n) hz c (by decide)
    by_cases e8 : d = 8
    · have er : pPart (cdT tp n) (vlT tp n) io dp i l = .inl i := by
        have : dp = 0 := by omega
        rw [this, pPart_0, if_pos c]
      obtain ⟨b1, b2, b3⟩ := hK.1 _ er
      exact ⟨1, 7, by omega, by omega, hE, v_openS hN hn h0 hd (by omega) (fun z => absurd e8 (by omega)) (fun _ => ⟨by omega, by omega, b3⟩)⟩
    · obtain ⟨dp', edp⟩ : ∃ u, dp = u + 1 := ⟨dp - 1, by omega⟩
      have hS' := hS dp' edp
      rw [edp, pPart_s, if_pos c] at hK
      refine ⟨0, 0, Nat.zero_le _, Nat.zero_le _, hE, v_openS hN hn h0 hd (by omega) (fun _ s1 F1 D1 => ?_) (fun z => absurd z e8)⟩
      have H1 := PS0_f h0 F1
      have hmi := pM_sum (vl := vlT tp n) (io := io) hz dp' (i + 1) l (by omega)
      cases e1 : pSum (cdT tp n) (vlT tp n) io dp' (i + 1) l with
      | inl e =>
        obtain ⟨b1, b2, b3⟩ := hK.1 e (by rw [e1]; rfl)
        have := hmi.1 e e1
        refine ⟨k, m, Nat.le_refl _, Nat.le_refl _, PS0_E H1, hS' s1 (i + 1) l p k m _ _ H1 D1 hl (by omega) ⟨fun e' he => ?_, fun z hz => ?_⟩⟩
        · rw [e1] at he
          cases he
          exact ⟨by omega, by omega, XK_t b3 F1 (Nat.le_refl _)⟩
        · rw [e1] at hz
          cases hz
      | inr z =>
        have hz1 := hmi.2 z e1
        have er : pb (pSum (cdT tp n) (vlT tp n) io dp' (i + 1) l) (fun z => if cdT tp n z.1 = 193 then (.inr (z.1 + 1, z.2.1, z.2.2) : pR (Nat × Nat × dS)) else .inl z.1) = if cdT tp n z.1 = 193 then .inr (z.1 + 1, z.2.1, z.2.2) else .inl z.1 := by
          rw [e1]
          rfl
        rw [er] at hK
        have hkm : 2 * (z.1 - i) ≤ k ∧ 4 * (z.1 - i) ≤ m := by
          by_cases c2 : cdT tp n z.1 = 193
          · rw [if_pos c2] at hK
            obtain ⟨b1, b2, -⟩ := hK.2 _ rfl
            dsimp only at b1 b2
            exact ⟨by omega, by omega⟩
          · rw [if_neg c2] at hK
            obtain ⟨b1, b2, -⟩ := hK.1 _ rfl
            exact ⟨by omega, by omega⟩
        refine ⟨2 * (z.1 - (i + 1)), 4 * (z.1 - (i + 1)), by omega, by omega, PS0_E H1, hS' s1 (i + 1) l p _ _ _ _ H1 D1 hl (by omega) ⟨fun e' he => ?_, fun z' hz' => ?_⟩⟩
        · rw [e1] at he
          cases he
        · rw [e1] at hz'
          cases hz'
          refine ⟨Nat.le_refl _, Nat.le_refl _, fun s2 a F2 D2 T2 => ⟨k - 2 * (z.1 - (i + 1)), m - 4 * (z.1 - (i + 1)), by omega, by omega, ?_⟩⟩
          have F02 := FR_t F1 F2 (Nat.le_refl _)
          have H2 := PS0_f h0 F02
          refine ⟨PS0_E H2, v_closeS hN hn hb H2 D2 (by omega) (by decide) (fun c2 s3 F3 D3 => ?_) (fun c2 => ?_)⟩
          · have c2 : cdT tp n z.1 = 193 := c2
            rw [if_pos c2] at hK
            obtain ⟨-, -, b3⟩ := hK.2 _ rfl
            obtain ⟨p1, p2, -⟩ := PS0_rd H1
            exact b3 s3 a (FR_t F02 F3 (Nat.le_refl _)) D3 (isSum_fr (NW_m F3 p1 p2) (fun a ha => (NW_f F02 F3).1 ((NW_f F1 F2).2 ha)) _ _ _ T2)
          · have c2 : ¬ cdT tp n z.1 = 193 := c2
            rw [if_neg c2] at hK
            obtain ⟨b1, b2, b3⟩ := hK.1 _ rfl
            exact ⟨by omega, by omega, XK_t b3 F02 (Nat.le_refl _)⟩
/-- sums, as deep as may be -/
theorem v_sumR (hN : 402 ≤ N.1) (hn : n ≤ 400) (hb : ∀ k, k < 400 → byT (tp k)) : ∀ dp d, d + dp = 8 → ∀ t, 3 * dp + 1 ≤ t → itS N io rd x ta pl wd tp n (trS io x) d (pPart (cdT tp n) (vlT tp n) io dp) (fun k m s Kr Kx => r_X7_part N t 0 rd k m s Kr Kx) ∧ itS N io rd x ta pl wd tp n (trS io x) d (pTerm (cdT tp n) (vlT tp n) io dp) (fun k m s Kr Kx => r_X7_part N (t + 1) 2 rd k m s Kr Kx) ∧ itS N io rd x ta pl wd tp n (trS io x) d (pSum (cdT tp n) (vlT tp n) io dp) (fun k m s Kr Kx => r_X7_part N (t + 2) 1 rd k m s Kr Kx) := fun dp => by
  have hz : ∀ k, tokT tp n ≤ k → cdT tp n k = 0 := fun k hk => cdT_z hn k hk
  induction dp with
  | zero =>
    intro d hd t ht
    obtain ⟨t, rfl⟩ : ∃ u, t = u + 1 := ⟨t - 1, by omega⟩
    have h1 : itS N io rd x ta pl wd tp n (trS io x) d (pPart (cdT tp n) (vlT tp n) io 0) (fun k m s Kr Kx => r_X7_part N (t + 1) 0 rd k m s Kr Kx) := v_partP (rc := r_X7_part N t) hN hn hb hd (fun dp' e => by cases e)
    have h2 : itS N io rd x ta pl wd tp n (trS io x) d (pTerm (cdT tp n) (vlT tp n) io 0) (fun k m s Kr Kx => r_X7_part N (t + 2) 2 rd k m s Kr Kx) := v_termP (rc := r_X7_part N (t + 1)) hN hn hb (pM_part hz 0) h1
    exact ⟨h1, h2, v_sumP (rc := r_X7_part N (t + 2)) hN hn hb (pM_term hz 0) h2⟩
  | succ dp ih =>
    intro d hd t ht
    obtain ⟨t, rfl⟩ : ∃ u, t = u + 2 + 1 := ⟨t - 3, by omega⟩
    have h0 := (ih (d + 1) (by omega) t (by omega)).2.2
    have h1 : itS N io rd x ta pl wd tp n (trS io x) d (pPart (cdT tp n) (vlT tp n) io (dp + 1)) (fun k m s Kr Kx => r_X7_part N (t + 2 + 1) 0 rd k m s Kr Kx) := v_partP (rc := r_X7_part N (t + 2)) hN hn hb hd (fun dp' e => by cases e; exact h0)
    have h2 : itS N io rd x ta pl wd tp n (trS io x) d (pTerm (cdT tp n) (vlT tp n) io (dp + 1)) (fun k m s Kr Kx => r_X7_part N (t + 2 + 2) 2 rd k m s Kr Kx) := v_termP (rc := r_X7_part N (t + 2 + 1)) hN hn hb (pM_part hz (dp + 1)) h1
    exact ⟨h1, h2, v_sumP (rc := r_X7_part N (t + 2 + 2)) hN hn hb (pM_term hz (dp + 1)) h2⟩
end SS
