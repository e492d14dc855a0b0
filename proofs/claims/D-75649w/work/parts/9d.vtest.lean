set_option maxRecDepth 100000
/-! ===== the system's reader: rows of tests ===== -/
section RW
variable {N : tP} {io : Bool} {rd x ta pl wd p : Nat} {tp : Nat → Int32} {n : Nat} {s0 : tM} {d : Nat}
theorem v_bothL (hN : 402 ≤ N.1) (hn : n ≤ 400) (hb : ∀ k, k < 400 → byT (tp k)) {rc : Nat → Nat → Nat → Nat → tM → (Nat → tM → Prop) → (String → Nat → tM → Prop) → Prop} {item : Nat → Nat → pR (Nat × Nat × dT)} {dep : Nat} (hM : pM (tokT tp n) item) (hF : itT N io rd x ta pl wd tp n dep d item (fun k m s Kr Kx => rc 1 rd k m s Kr Kx)) (g0 : PS0 N io rd x ta pl wd tp n s0) {Kr : Nat → tM → Prop} {Kx : String → Nat → tM → Prop} : ∀ (f u : Nat) (s : tM) (i l k m : Nat) (Ds : List dT), tokT tp n < i + f → f ≤ u → i ≤ tokT tp n → FRp N rd pl p s0 s → PSd rd tp n s i l d (p + Ds.length) → l ≤ 50 → p + Ds.length ≤ l → 1 ≤ Ds.length → (∀ k (hk : k < Ds.length), isTest s (NW N s0 s) io x dep (tR s pl (p + k)) Ds[k]) → (∀ e, pLoop (cdT tp n) (fun c => c == 6) item (fun _ => aD) f i l (rowD true Ds) = .inl e → 2 * (e - i) + 2 ≤ k ∧ 4 * (e - i) + 8 ≤ m ∧ XK N rd pl p tp n Kx s0 e) → (∀ z, pLoop (cdT tp n) (fun c => c == 6) item (fun _ => aD) f i l (rowD true Ds) = .inr z → 2 * (z.1 - i) + 2 * (Ds.length - 1) ≤ k ∧ 4 * (z.1 - i) + 4 * (Ds.length - 1) ≤ m ∧ ∀ s' a, FRp N rd pl p s0 s' → PSd rd tp n s' z.1 z.2.1 d p → isTest s' (NW N s0 s') io x (dep + 1) a z.2.2 → Kr a s') → v_X7_both_13 N rc rd (nI p) Kr Kx (fun k113 n114 s112 => (∃ c117 c118 : Nat, c117 ≤ k113 ∧ c118 ≤ n114 ∧ (tE s112 7 18 rd ∧ (v_X7_joined N rd 1 (nI p) c117 c118 s112 (fun x115 s116 => (Kr x115 s116)))))) u k m s
  | 0, _, _, i, _, _, _, _, h1, _, h2, _, _, _, _, _, _, _, _ => absurd h1 (by omega)
  | f + 1, 0, _, _, _, _, _, _, _, h, _, _, _, _, _, _, _, _, _ => absurd h (Nat.not_succ_le_zero _)
  | f + 1, u + 1, s, i, l, k, m, Ds, h1, hu, h2, F0, hd, hl, hp, hD1, hT, hL1, hL2 => by
    have h0 := PS0_f g0 F0
    have hE := PS0_E h0
    have hz : ∀ k, tokT tp n ≤ k → cdT tp n k = 0 := fun k hk => cdT_z hn k hk
    rw [pLoop_s] at hL1 hL2
    unfold v_X7_both_13
    refine ⟨hE, v_acceptP hN hn hb h0 hd (by decide) (fun c => ⟨fun _ => ?_, fun z => absurd rfl z⟩) (fun c s1 F1 D1 => ⟨fun z => absurd z (by decide), fun _ => ?_⟩)⟩
    · have c : ¬ cdT tp n i = 6 := c
      rw [if_neg (fun z => c (eq_of_beq z))] at hL1 hL2
      obtain ⟨b1, b2, b3⟩ := hL2 _ rfl
      dsimp only at b1 b2 b3
      exact ⟨k, m, Nat.le_refl _, Nat.le_refl _, hE, v_joinS (all := true) g0 F0 hd rfl hD1 (by omega) hT (fun _ => ⟨by omega, by omega⟩) b3⟩
    · have c : cdT tp n i = 6 := c
      have iT : i < tokT tp n := cd_lt (cd := cdT tp n) hz c (by decide)
      rw [if_pos (by rw [c]; rfl)] at hL1 hL2
      have hmi := hM (i + 1) l (by omega)
      have F01 : FRp N rd pl p s0 s1 := FR_t F0 F1 (Nat.le_add_right _ _)
      have H1 := PS0_f g0 F01
      cases e1 : item (i + 1) l with
      | inl e =>
        obtain ⟨b1, b2, b3⟩ := hL1 e (by rw [e1]; rfl)
        have := hmi.1 e e1
        refine ⟨k, m, Nat.le_refl _, Nat.le_refl _, PS0_E H1, hF s1 (i + 1) l _ _ _ _ _ H1 D1 hl hp (by omega) ⟨fun e' he => ?_, fun z hz => ?_⟩⟩
        · rw [e1] at he
          cases he
          exact ⟨by omega, by omega, XK_t b3 F01 (Nat.le_add_right _ _)⟩
        · rw [e1] at hz
          cases hz
      | inr z =>
        have hz1 := hmi.2 z e1
        have hl5 := hz1.2.2.2 hl
        rw [e1] at hL1 hL2
        have er2 : ∀ {g : Nat × Nat × dT → pR (Nat × Nat × dT)}, pb (.inr z) g = g z := rfl
        rw [er2] at hL1 hL2
        have hlp := pM_loop (cd := cdT tp n) (cb := fun _ => aD) hz (sep := fun c => c == 6) rfl hM f z.1 z.2.1 (aD (rowD true Ds) z.2.2) hz1.2.1
        have hkm : 2 * (z.1 - i) ≤ k ∧ 4 * (z.1 - i) ≤ m := by
          cases e2 : pLoop (cdT tp n) (fun c => c == 6) item (fun _ => aD) f z.1 z.2.1 (aD (rowD true Ds) z.2.2) with
          | inl e =>
            obtain ⟨b1, b2, -⟩ := hL1 e e2
            have := hlp.1 e e2
            exact ⟨by omega, by omega⟩
          | inr w =>
            obtain ⟨b1, b2, -⟩ := hL2 w e2
            have := hlp.2 w e2
            exact ⟨by omega, by omega⟩
        refine ⟨2 * (z.1 - (i + 1)), 4 * (z.1 - (i + 1)), by omega, by omega, PS0_E H1, hF s1 (i + 1) l _ _ _ _ _ H1 D1 hl hp (by omega) ⟨fun e' he => ?_, fun z' hz' => ?_⟩⟩
        · rw [e1] at he
          cases he
        · rw [e1] at hz'
          cases hz'
          refine ⟨Nat.le_refl _, Nat.le_refl _, fun s2 a F2 D2 T2 => ?_⟩
          have F02 : FRp N rd pl p s0 s2 := FR_t F01 F2 (Nat.le_add_right _ _)
          have H2 := PS0_f g0 F02
          have hlt := hz1.2.2.1
          refine ⟨PS0_E H2, v_addS H2 D2 (by omega) (isTest_T T2) (fun s3 F3 D3 a3 => ?_)⟩
          have F03 : FRp N rd pl p s0 s3 := FR_t F02 F3 (Nat.le_add_right _ _)
          have Fs3 : FRp N rd pl (p + Ds.length) s s3 := FR_t F1 (FR_t F2 F3 (Nat.le_refl _)) (Nat.le_refl _)
          obtain ⟨p1, p2, -⟩ := PS0_rd g0
          obtain ⟨q1, q2, -⟩ := PS0_rd H1
          have hlen : (Ds ++ [z.2.2]).length = Ds.length + 1 := by rw [List.length_append]; rfl
          have eR : rowD true (Ds ++ [z.2.2]) = aD (rowD true Ds) z.2.2 := row_and Ds
          refine v_bothL (rc := rc) (Kr := Kr) (Kx := Kx) hN hn hb hM hF g0 f u s3 z.1 z.2.1 _ _ (Ds ++ [z.2.2]) (by omega) (by omega) hz1.2.1 F03 (by rw [hlen]; exact D3) hl5 (by omega) (by omega) (fun j hj => ?_) (fun e he => ?_) (fun w hw => ?_)
          · by_cases ej : j < Ds.length
            · have e5 : (Ds ++ [z.2.2])[j] = Ds[j] := List.getElem_append_left ej
              rw [e5, Fs3.2 (p + j) (by omega)]
              exact isTest_fr (NW_m Fs3 p1 p2) (fun a ha => (NW_f F0 Fs3).1 ha) _ _ _ (hT j ej)
            · have ej2 : j = Ds.length := by omega
              subst ej2
              have e5 : (Ds ++ [z.2.2])[Ds.length] = z.2.2 := by simp
              rw [e5, a3]
              exact isTest_fr (NW_m F3 q1 q2) (fun a ha => (NW_f F02 F3).1 ((NW_f F01 F2).2 ha)) _ _ _ T2
          · rw [eR] at he
            obtain ⟨b1, b2, b3⟩ := hL1 e he
            have := hlp.1 e he
            exact ⟨by omega, by omega, b3⟩
          · rw [eR] at hw
            obtain ⟨b1, b2, b3⟩ := hL2 w hw
            have := hlp.2 w hw
            rw [hlen]
            exact ⟨by omega, by omega, b3⟩
theorem v_bothP (hN : 402 ≤ N.1) (hn : n ≤ 400) (hb : ∀ k, k < 400 → byT (tp k)) {rc : Nat → Nat → Nat → Nat → tM → (Nat → tM → Prop) → (String → Nat → tM → Prop) → Prop} {item : Nat → Nat → pR (Nat × Nat × dT)} {dep : Nat} (hM : pM (tokT tp n) item) (hF : itT N io rd x ta pl wd tp n dep d item (fun k m s Kr Kx => rc 1 rd k m s Kr Kx)) : itT N io rd x ta pl wd tp n (dep + 1) d (pSeq (cdT tp n) (fun c => c == 6) item (fun _ => aD)) (fun k m s Kr Kx => v_X7_both N rc rd k m s Kr Kx) := fun s i l p k m Kr Kx g0 hd hl hp hi hK => by
  have hT := tokT_le (tp := tp) hn
  obtain ⟨ka, kb⟩ := okR_seq hn rfl hM hi hK
  show v_X7_both N rc rd k m s Kr Kx
  unfold v_X7_both
  refine ⟨PS0_E g0, fun pv epv => ?_⟩
  rw [hd.2.2.2] at epv
  rw [epv]
  cases e1 : item i l with
  | inl e =>
    refine ⟨k, m, Nat.le_refl _, Nat.le_refl _, hF s i l p k m _ _ g0 hd hl hp hi ⟨fun e' he => ka e' he, fun z hz => ?_⟩⟩
    rw [e1] at hz
    cases hz
  | inr z =>
    obtain ⟨z1, z2, z3, z4, b1, b2, b3⟩ := kb z e1
    refine ⟨2 * (z.1 - i), 4 * (z.1 - i), b1, b2, hF s i l p _ _ _ _ g0 hd hl hp hi ⟨fun e' he => ?_, fun z' hz' => ?_⟩⟩
    · rw [e1] at he
      cases he
    · rw [e1] at hz'
      cases hz'
      refine ⟨Nat.le_refl _, Nat.le_refl _, fun s2 a F2 D2 T2 => ?_⟩
      have H2 := PS0_f g0 F2
      have hl5 := z4 hl
      obtain ⟨p1, p2, -⟩ := PS0_rd g0
      refine ⟨PS0_E H2, v_addS H2 D2 (by omega) (isTest_T T2) (fun s3 F3 D3 a3 => ?_)⟩
      refine v_bothL (p := p) (Kr := Kr) hN hn hb hM hF g0 401 N.1 s3 z.1 z.2.1 _ _ [z.2.2] (by omega) (by omega) z2 (FR_t F2 F3 (Nat.le_refl _)) D3 hl5 (by show p + 1 ≤ z.2.1; omega) (Nat.le_refl _) (fun j hj => ?_) (fun e he => ?_) (fun w hw => ?_)
      · have ej : j = 0 := by
          have : ([z.2.2] : List dT).length = 1 := rfl
          omega
        subst ej
        show isTest s3 (NW N s s3) io x dep (tR s3 pl (p + 0)) z.2.2
        rw [Nat.add_zero, a3]
        exact isTest_fr (NW_m F3 p1 p2) (fun a ha => (NW_f F2 F3).1 ha) _ _ _ T2
      · rw [rowD_1] at he
        exact b3.1 e he
      · rw [rowD_1] at hw
        obtain ⟨c1, c2, c3⟩ := b3.2 w hw
        have : ([z.2.2] : List dT).length = 1 := rfl
        exact ⟨by omega, by omega, fun s' a' F' D' T' => c3 s' a' 0 0 F' D' T'⟩
theorem v_testL (hN : 402 ≤ N.1) (hn : n ≤ 400) (hb : ∀ k, k < 400 → byT (tp k)) {rc : Nat → Nat → Nat → Nat → tM → (Nat → tM → Prop) → (String → Nat → tM → Prop) → Prop} {item : Nat → Nat → pR (Nat × Nat × dT)} {dep : Nat} (hM : pM (tokT tp n) item) (hF : itT N io rd x ta pl wd tp n dep d item (fun k m s Kr Kx => rc 0 rd k m s Kr Kx)) (g0 : PS0 N io rd x ta pl wd tp n s0) {Kr : Nat → tM → Prop} {Kx : String → Nat → tM → Prop} : ∀ (f u : Nat) (s : tM) (i l k m : Nat) (Ds : List dT), tokT tp n < i + f → f ≤ u → i ≤ tokT tp n → FRp N rd pl p s0 s → PSd rd tp n s i l d (p + Ds.length) → l ≤ 50 → p + Ds.length ≤ l → 1 ≤ Ds.length → (∀ k (hk : k < Ds.length), isTest s (NW N s0 s) io x dep (tR s pl (p + k)) Ds[k]) → (∀ e, pLoop (cdT tp n) (fun c => c == 5) item (fun _ => oD) f i l (rowD false Ds) = .inl e → 2 * (e - i) + 2 ≤ k ∧ 4 * (e - i) + 8 ≤ m ∧ XK N rd pl p tp n Kx s0 e) → (∀ z, pLoop (cdT tp n) (fun c => c == 5) item (fun _ => oD) f i l (rowD false Ds) = .inr z → 2 * (z.1 - i) + 2 * (Ds.length - 1) ≤ k ∧ 4 * (z.1 - i) + 4 * (Ds.length - 1) ≤ m ∧ ∀ s' a, FRp N rd pl p s0 s' → PSd rd tp n s' z.1 z.2.1 d p → isTest s' (NW N s0 s') io x (dep + 1) a z.2.2 → Kr a s') → v_X7_test_13 N rc rd (nI p) Kr Kx (fun k113 n114 s112 => (∃ c117 c118 : Nat, c117 ≤ k113 ∧ c118 ≤ n114 ∧ (tE s112 7 18 rd ∧ (v_X7_joined N rd 0 (nI p) c117 c118 s112 (fun x115 s116 => (Kr x115 s116)))))) u k m s
  | 0, _, _, i, _, _, _, _, h1, _, h2, _, _, _, _, _, _, _, _ => absurd h1 (by omega)
  | f + 1, 0, _, _, _, _, _, _, _, h, _, _, _, _, _, _, _, _, _ => absurd h (Nat.not_succ_le_zero _)
  | f + 1, u + 1, s, i, l, k, m, Ds, h1, hu, h2, F0, hd, hl, hp, hD1, hT, hL1, hL2 => by
    have h0 := PS0_f g0 F0
    have hE := PS0_E h0
    have hz : ∀ k, tokT tp n ≤ k → cdT tp n k = 0 := fun k hk => cdT_z hn k hk
    rw [pLoop_s] at hL1 hL2
    unfold v_X7_test_13
    refine ⟨hE, v_acceptP hN hn hb h0 hd (by decide) (fun c => ⟨fun _ => ?_, fun z => absurd rfl z⟩) (fun c s1 F1 D1 => ⟨fun z => absurd z (by decide), fun _ => ?_⟩)⟩
    · have c : ¬ cdT tp n i = 5 := c
      rw [if_neg (fun z => c (eq_of_beq z))] at hL1 hL2
      obtain ⟨b1, b2, b3⟩ := hL2 _ rfl
      dsimp only at b1 b2 b3
      exact ⟨k, m, Nat.le_refl _, Nat.le_refl _, hE, v_joinS (all := false) g0 F0 hd rfl hD1 (by omega) hT (fun _ => ⟨by omega, by omega⟩) b3⟩
    · have c : cdT tp n i = 5 := c
      have iT : i < tokT tp n := cd_lt (cd := cdT tp n) hz c (by decide)
      rw [if_pos (by rw [c]; rfl)] at hL1 hL2
      have hmi := hM (i + 1) l (by omega)
      have F01 : FRp N rd pl p s0 s1 := FR_t F0 F1 (Nat.le_add_right _ _)
      have H1 := PS0_f g0 F01
      cases e1 : item (i + 1) l with
      | inl e =>
        obtain ⟨b1, b2, b3⟩ := hL1 e (by rw [e1]; rfl)
        have := hmi.1 e e1
        refine ⟨k, m, Nat.le_refl _, Nat.le_refl _, PS0_E H1, hF s1 (i + 1) l _ _ _ _ _ H1 D1 hl hp (by omega) ⟨fun e' he => ?_, fun z hz => ?_⟩⟩
        · rw [e1] at he
          cases he
          exact ⟨by omega, by omega, XK_t b3 F01 (Nat.le_add_right _ _)⟩
        · rw [e1] at hz
          cases hz
      | inr z =>
        have hz1 := hmi.2 z e1
        have hl5 := hz1.2.2.2 hl
        rw [e1] at hL1 hL2
        have er2 : ∀ {g : Nat × Nat × dT → pR (Nat × Nat × dT)}, pb (.inr z) g = g z := rfl
        rw [er2] at hL1 hL2
        have hlp := pM_loop (cd := cdT tp n) (cb := fun _ => oD) hz (sep := fun c => c == 5) rfl hM f z.1 z.2.1 (oD (rowD false Ds) z.2.2) hz1.2.1
        have hkm : 2 * (z.1 - i) ≤ k ∧ 4 * (z.1 - i) ≤ m := by
          cases e2 : pLoop (cdT tp n) (fun c => c == 5) item (fun _ => oD) f z.1 z.2.1 (oD (rowD false Ds) z.2.2) with
          | inl e =>
            obtain ⟨b1, b2, -⟩ := hL1 e e2
            have := hlp.1 e e2
            exact ⟨by omega, by omega⟩
          | inr w =>
            obtain ⟨b1, b2, -⟩ := hL2 w e2
            have := hlp.2 w e2
            exact ⟨by omega, by omega⟩
        refine ⟨2 * (z.1 - (i + 1)), 4 * (z.1 - (i + 1)), by omega, by omega, PS0_E H1, hF s1 (i + 1) l _ _ _ _ _ H1 D1 hl hp (by omega) ⟨fun e' he => ?_, fun z' hz' => ?_⟩⟩
        · rw [e1] at he
          cases he
        · rw [e1] at hz'
          cases hz'
          refine ⟨Nat.le_refl _, Nat.le_refl _, fun s2 a F2 D2 T2 => ?_⟩
          have F02 : FRp N rd pl p s0 s2 := FR_t F01 F2 (Nat.le_add_right _ _)
          have H2 := PS0_f g0 F02
          have hlt := hz1.2.2.1
          refine ⟨PS0_E H2, v_addS H2 D2 (by omega) (isTest_T T2) (fun s3 F3 D3 a3 => ?_)⟩
          have F03 : FRp N rd pl p s0 s3 := FR_t F02 F3 (Nat.le_add_right _ _)
          have Fs3 : FRp N rd pl (p + Ds.length) s s3 := FR_t F1 (FR_t F2 F3 (Nat.le_refl _)) (Nat.le_refl _)
          obtain ⟨p1, p2, -⟩ := PS0_rd g0
          obtain ⟨q1, q2, -⟩ := PS0_rd H1
          have hlen : (Ds ++ [z.2.2]).length = Ds.length + 1 := by rw [List.length_append]; rfl
          have eR : rowD false (Ds ++ [z.2.2]) = oD (rowD false Ds) z.2.2 := row_or Ds
          refine v_testL (rc := rc) (Kr := Kr) (Kx := Kx) hN hn hb hM hF g0 f u s3 z.1 z.2.1 _ _ (Ds ++ [z.2.2]) (by omega) (by omega) hz1.2.1 F03 (by rw [hlen]; exact D3) hl5 (by omega) (by omega) (fun j hj => ?_) (fun e he => ?_) (fun w hw => ?_)
          · by_cases ej : j < Ds.length
            · have e5 : (Ds ++ [z.2.2])[j] = Ds[j] := List.getElem_append_left ej
              rw [e5, Fs3.2 (p + j) (by omega)]
              exact isTest_fr (NW_m Fs3 p1 p2) (fun a ha => (NW_f F0 Fs3).1 ha) _ _ _ (hT j ej)
            · have ej2 : j = Ds.length := by omega
              subst ej2
              have e5 : (Ds ++ [z.2.2])[Ds.length] = z.2.2 := by simp
              rw [e5, a3]
              exact isTest_fr (NW_m F3 q1 q2) (fun a ha => (NW_f F02 F3).1 ((NW_f F01 F2).2 ha)) _ _ _ T2
          · rw [eR] at he
            obtain ⟨b1, b2, b3⟩ := hL1 e he
            have := hlp.1 e he
            exact ⟨by omega, by omega, b3⟩
          · rw [eR] at hw
            obtain ⟨b1, b2, b3⟩ := hL2 w hw
            have := hlp.2 w hw
            rw [hlen]
            exact ⟨by omega, by omega, b3⟩
theorem v_testP (hN : 402 ≤ N.1) (hn : n ≤ 400) (hb : ∀ k, k < 400 → byT (tp k)) {rc : Nat → Nat → Nat → Nat → tM → (Nat → tM → Prop) → (String → Nat → tM → Prop) → Prop} {item : Nat → Nat → pR (Nat × Nat × dT)} {dep : Nat} (hM : pM (tokT tp n) item) (hF : itT N io rd x ta pl wd tp n dep d item (fun k m s Kr Kx => rc 0 rd k m s Kr Kx)) : itT N io rd x ta pl wd tp n (dep + 1) d (pSeq (cdT tp n) (fun c => c == 5) item (fun _ => oD)) (fun k m s Kr Kx => v_X7_test N rc rd k m s Kr Kx) := fun s i l p k m Kr Kx g0 hd hl hp hi hK => by
  have hT := tokT_le (tp := tp) hn
  obtain ⟨ka, kb⟩ := okR_seq hn rfl hM hi hK
  show v_X7_test N rc rd k m s Kr Kx
  unfold v_X7_test
  refine ⟨PS0_E g0, fun pv epv => ?_⟩
  rw [hd.2.2.2] at epv
  rw [epv]
  cases e1 : item i l with
  | inl e =>
    refine ⟨k, m, Nat.le_refl _, Nat.le_refl _, hF s i l p k m _ _ g0 hd hl hp hi ⟨fun e' he => ka e' he, fun z hz => ?_⟩⟩
    rw [e1] at hz
    cases hz
  | inr z =>
    obtain ⟨z1, z2, z3, z4, b1, b2, b3⟩ := kb z e1
    refine ⟨2 * (z.1 - i), 4 * (z.1 - i), b1, b2, hF s i l p _ _ _ _ g0 hd hl hp hi ⟨fun e' he => ?_, fun z' hz' => ?_⟩⟩
    · rw [e1] at he
      cases he
    · rw [e1] at hz'
      cases hz'
      refine ⟨Nat.le_refl _, Nat.le_refl _, fun s2 a F2 D2 T2 => ?_⟩
      have H2 := PS0_f g0 F2
      have hl5 := z4 hl
      obtain ⟨p1, p2, -⟩ := PS0_rd g0
      refine ⟨PS0_E H2, v_addS H2 D2 (by omega) (isTest_T T2) (fun s3 F3 D3 a3 => ?_)⟩
      refine v_testL (p := p) (Kr := Kr) hN hn hb hM hF g0 401 N.1 s3 z.1 z.2.1 _ _ [z.2.2] (by omega) (by omega) z2 (FR_t F2 F3 (Nat.le_refl _)) D3 hl5 (by show p + 1 ≤ z.2.1; omega) (Nat.le_refl _) (fun j hj => ?_) (fun e he => ?_) (fun w hw => ?_)
      · have ej : j = 0 := by
          have : ([z.2.2] : List dT).length = 1 := rfl
          omega
        subst ej
        show isTest s3 (NW N s s3) io x dep (tR s3 pl (p + 0)) z.2.2
        rw [Nat.add_zero, a3]
        exact isTest_fr (NW_m F3 p1 p2) (fun a ha => (NW_f F2 F3).1 ha) _ _ _ T2
      · rw [rowD_1] at he
        exact b3.1 e he
      · rw [rowD_1] at hw
        obtain ⟨c1, c2, c3⟩ := b3.2 w hw
        have : ([z.2.2] : List dT).length = 1 := rfl
        exact ⟨by omega, by omega, fun s' a' F' D' T' => c3 s' a' 0 0 F' D' T'⟩
/-- tests, as deep as may be -/
theorem v_testR (hN : 402 ≤ N.1) (hN2 : 60 ≤ N.2.1) (hn : n ≤ 400) (hb : ∀ k, k < 400 → byT (tp k)) : ∀ dp d, d + dp = 8 → ∀ t, 3 * dp + 1 ≤ t → itT N io rd x ta pl wd tp n (3 * dp + 2) d (pPlain (cdT tp n) (vlT tp n) io dp) (fun k m s Kr Kx => r_X7_both N t 1 rd k m s Kr Kx) ∧ itT N io rd x ta pl wd tp n (3 * dp + 3) d (pBothOf (cdT tp n) (pPlain (cdT tp n) (vlT tp n) io dp)) (fun k m s Kr Kx => r_X7_both N (t + 1) 0 rd k m s Kr Kx) ∧ itT N io rd x ta pl wd tp n (3 * dp + 4) d (pTest (cdT tp n) (vlT tp n) io dp) (fun k m s Kr Kx => r_X7_both N (t + 2) 2 rd k m s Kr Kx) := fun dp => by
  have hz : ∀ k, tokT tp n ≤ k → cdT tp n k = 0 := fun k hk => cdT_z hn k hk
  induction dp with
  | zero =>
    intro d hd t ht
    obtain ⟨t, rfl⟩ : ∃ u, t = u + 1 := ⟨t - 1, by omega⟩
    have h1 : itT N io rd x ta pl wd tp n (3 * 0 + 2) d (pPlain (cdT tp n) (vlT tp n) io 0) (fun k m s Kr Kx => r_X7_both N (t + 1) 1 rd k m s Kr Kx) := v_plainP (rc := r_X7_both N t) hN hN2 hn hb hd (by omega) (fun dp' e => by cases e)
    have h2 : itT N io rd x ta pl wd tp n (3 * 0 + 3) d (pBothOf (cdT tp n) (pPlain (cdT tp n) (vlT tp n) io 0)) (fun k m s Kr Kx => r_X7_both N (t + 2) 0 rd k m s Kr Kx) := v_bothP (rc := r_X7_both N (t + 1)) hN hn hb (pM_plain hz 0) h1
    exact ⟨h1, h2, v_testP (rc := r_X7_both N (t + 2)) hN hn hb (pM_both hz 0) h2⟩
  | succ dp ih =>
    intro d hd t ht
    obtain ⟨t, rfl⟩ : ∃ u, t = u + 2 + 1 := ⟨t - 3, by omega⟩
    have h0 := (ih (d + 1) (by omega) t (by omega)).2.2
    have h1 : itT N io rd x ta pl wd tp n (3 * (dp + 1) + 2) d (pPlain (cdT tp n) (vlT tp n) io (dp + 1)) (fun k m s Kr Kx => r_X7_both N (t + 2 + 1) 1 rd k m s Kr Kx) := v_plainP (rc := r_X7_both N (t + 2)) hN hN2 hn hb hd (by omega) (fun dp' e => by cases e; exact ⟨3 * dp + 4, by omega, h0⟩)
    have h2 : itT N io rd x ta pl wd tp n (3 * (dp + 1) + 3) d (pBothOf (cdT tp n) (pPlain (cdT tp n) (vlT tp n) io (dp + 1))) (fun k m s Kr Kx => r_X7_both N (t + 2 + 2) 0 rd k m s Kr Kx) := v_bothP (rc := r_X7_both N (t + 2 + 1)) hN hn hb (pM_plain hz (dp + 1)) h1
    exact ⟨h1, h2, v_testP (rc := r_X7_both N (t + 2 + 2)) hN hn hb (pM_both hz (dp + 1)) h2⟩
end RW
