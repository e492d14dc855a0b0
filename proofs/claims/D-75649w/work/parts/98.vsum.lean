set_option maxRecDepth 100000
/-! ===== the system's reader: sums ===== -/
/-- a call of the parser does what the parser says -/
def itS {α : Type} (N : tP) (io : Bool) (rd x ta pl wd : Nat) (tp : Nat → Int32) (n : Nat) (TR : tM → (Nat → Prop) → Nat → Nat → α → Prop) (d : Nat) (item : Nat → Nat → pR (Nat × Nat × α)) (F : Nat → Nat → tM → (Nat → tM → Prop) → (String → Nat → tM → Prop) → Prop) : Prop := ∀ (s : tM) (i l p k m : Nat) (Kr : Nat → tM → Prop) (Kx : String → Nat → tM → Prop), PS0 N io rd x ta pl wd tp n s → PSd rd tp n s i l d p → l ≤ 50 → i ≤ tokT tp n → okR N rd pl tp n TR d p s i l (item i l) k m Kr Kx → F k m s Kr Kx
def trS (io : Bool) (x : Nat) : tM → (Nat → Prop) → Nat → Nat → dS → Prop := fun s M t a D => isSum s M io x t a D
/-- what the rest of a loop must meet -/
def okL {α : Type} (N : tP) (rd pl : Nat) (tp : Nat → Int32) (n : Nat) (TR : tM → (Nat → Prop) → Nat → Nat → α → Prop) (d p : Nat) (s0 : tM) (l0 i : Nat) (r : pR (Nat × Nat × α)) (k m : Nat) (K : Nat → Nat → Nat → tM → Prop) (Kx : String → Nat → tM → Prop) : Prop := (∀ e, r = .inl e → 2 * (e - i) + 2 ≤ k ∧ 4 * (e - i) + 8 ≤ m ∧ XK N rd pl p tp n Kx s0 e) ∧ ∀ z, r = .inr z → 2 * (z.1 - i) ≤ k ∧ 4 * (z.1 - i) ≤ m ∧ ∀ s' a k' m', FRp N rd pl p s0 s' → PSd rd tp n s' z.1 z.2.1 d p → TR s' (NW N s0 s') (z.2.1 - l0) a z.2.2 → K a k' m' s'
theorem ch_t : ∀ idx, idx < 40 → (xbyt.getD idx []).length = 1 → (xbyt.getD idx []).getD 0 0 = cdS idx - 100 := by decide +kernel
section SM
variable {N : tP} {io : Bool} {rd x ta pl wd p : Nat} {tp : Nat → Int32} {n : Nat} {s s' s2 : tM} {i l d q : Nat}
theorem sep_ch (hb : ∀ k, k < 400 → byT (tp k)) (hn : n ≤ 400) {idx : Nat} (hi : idx < 40) (h1 : (xbyt.getD idx []).length = 1) (hc : cdT tp n i = cdS idx) : i < tokT tp n ∧ tokP tp n i < n ∧ tp (tokP tp n i) = cdS idx - 100 := by
  have hT : i < tokT tp n := cd_lt (cd := cdT tp n) (fun k hk => cdT_z hn k hk) hc (cd_50 idx hi).2
  have hk := (tokT_iff hn i).mp hT
  refine ⟨hT, hk, ?_⟩
  have h := (tk_cd hn hb i hi).mpr hc
  rw [← ch_t idx hi h1]
  obtain ⟨u, hu⟩ : ∃ u, toP tp n i - tokP tp n i = u + 1 := by
    unfold toP
    rw [if_pos hk]
    have := en_le (tp := tp) hk
    exact ⟨en tp n (tokP tp n i) - tokP tp n i - 1, by omega⟩
  rw [hu] at h
  rw [h]
  rfl
theorem mFr_q {M : Nat → Prop} {u v w : Nat} {c : Int32} (h : ∀ a, M a → a ≠ q) : mFr M s (tsR (tsI (tsR s q 0 u) q 2 c) q 1 w) := fun a ha => ⟨rfl, funext fun j => if_neg fun z => h a ha z.1, funext fun j => (if_neg fun z => h a ha z.1).trans (if_neg fun z => h a ha z.1)⟩
/-- a sign, and what it joins -/
theorem v_sum23 (hN : 402 ≤ N.1) (hn : n ≤ 400) (hb : ∀ k, k < 400 → byT (tp k)) {rc : Nat → Nat → Nat → Nat → tM → (Nat → tM → Prop) → (String → Nat → tM → Prop) → Prop} {item : Nat → Nat → pR (Nat × Nat × dS)} (hM : pM (tokT tp n) item) (hF : itS N io rd x ta pl wd tp n (trS io x) d item (fun k m s Kr Kx => rc 2 rd k m s Kr Kx)) {sep : Int32 → Bool} (hs0 : sep 0 = false) {s0 : tM} (g0 : PS0 N io rd x ta pl wd tp n s0) (F0 : FRp N rd pl p s0 s) (hd : PSd rd tp n s i l d p) (hl : l ≤ 50) {l0 a f : Nat} {D : dS} (hl0 : l0 < l) (ht : isSum s (NW N s0 s) io x (l - l0) a D) {idx : Nat} (hi : 15 ≤ idx ∧ idx < 20) (hc : cdT tp n i = cdS idx) {k m : Nat} {Kr : Nat → tM → Prop} {Kx : String → Nat → tM → Prop} {K R : Nat → Nat → Nat → tM → Prop} (hL : okL N rd pl tp n (trS io x) d p s0 l0 i (pb (item (i + 1) l) fun z => pLoop (cdT tp n) sep item jD f z.1 z.2.1 (jD (cdT tp n i) D z.2.2)) k m K Kx) (hR : ∀ z, item (i + 1) l = .inr z → i + 1 < z.1 → z.1 ≤ tokT tp n → z.2.1 ≤ 50 → l0 < z.2.1 → ∀ s4 q k' m', okL N rd pl tp n (trS io x) d p s0 l0 z.1 (pLoop (cdT tp n) sep item jD f z.1 z.2.1 (jD (cdT tp n i) D z.2.2)) k' m' K Kx → FRp N rd pl p s0 s4 → PSd rd tp n s4 z.1 z.2.1 d p → isSum s4 (NW N s0 s4) io x (z.2.1 - l0) q (jD (cdT tp n i) D z.2.2) → R q k' m' s4) : v_X7_sum_23 N rc rd a Kr Kx K R k m s := by
  have h0 := PS0_f g0 F0
  have hE := PS0_E h0
  obtain ⟨t1, t2, t3, t4, t5⟩ := PS0_T h0
  have h1 : (xbyt.getD idx []).length = 1 := by
    have key : ∀ idx, idx < 20 → 15 ≤ idx → (xbyt.getD idx []).length = 1 := by decide +kernel
    exact key idx hi.2 hi.1
  obtain ⟨iT, ik, ich⟩ := sep_ch (i := i) hb hn (by omega) h1 hc
  have hz : ∀ k, tokT tp n ≤ k → cdT tp n k = 0 := fun k hk => cdT_z hn k hk
  have hmi := hM (i + 1) l (by omega)
  have hkm : 1 ≤ k ∧ 3 ≤ m := by
    cases e1 : item (i + 1) l with
    | inl e =>
      obtain ⟨b1, b2, -⟩ := hL.1 e (by rw [e1]; rfl)
      exact ⟨by omega, by omega⟩
    | inr z =>
      have hz1 := hmi.2 z e1
      have hlp := pM_loop (cd := cdT tp n) (cb := jD) hz hs0 hM f z.1 z.2.1 (jD (cdT tp n i) D z.2.2) hz1.2.1
      cases e2 : pLoop (cdT tp n) sep item jD f z.1 z.2.1 (jD (cdT tp n i) D z.2.2) with
      | inl e =>
        obtain ⟨b1, b2, -⟩ := hL.1 e (by rw [e1]; exact e2)
        have := hlp.1 e e2
        exact ⟨by omega, by omega⟩
      | inr w =>
        obtain ⟨b1, b2, -⟩ := hL.2 w (by rw [e1]; exact e2)
        have := hlp.2 w e2
        exact ⟨by omega, by omega⟩
  unfold v_X7_sum_23
  rw [h0.2.1, t2, hd.1.1, nI_clamp (by omega), t4 _ (by omega), ich]
  refine ⟨hE, t1, ⟨400, t3, vpk (by omega) (by decide)⟩, fun ch ech => v_nextP hN hn h0 hd fun s1 F1 D1 => ⟨hkm.1, hkm.2, fun q hq hq0 hq2 s2 e2 => ?_⟩⟩
  have F01 := FR_t F0 F1 (Nat.le_refl _)
  have H1 := PS0_f g0 F01
  obtain ⟨u1, u2, u3⟩ := nw_c H1 F01 hq
  have u1' := FR_fr F1 hq
  have F02 : FRp N rd pl p s0 s2 := e2 ▸ FR_n F01 u1 hq2 u3
  have Fs2 : FRp N rd pl p s s2 := e2 ▸ FR_n F1 u1' hq2 u3
  have H2 := PS0_f g0 F02
  have D2 : PSd rd tp n s2 (i + 1) l d p := e2 ▸ PSd_n D1 u2
  have o2 : tO s2 12 q := by
    rw [e2]
    exact ⟨if_pos rfl, hq0⟩
  have q2 : s2.1 q ≠ none := by
    rw [o2.1]
    intro z
    cases z
  have fin : ∀ (k' m' : Nat) (z : Nat × Nat × dS), item (i + 1) l = .inr z → okL N rd pl tp n (trS io x) d p s0 l0 z.1 (pLoop (cdT tp n) sep item jD f z.1 z.2.1 (jD (cdT tp n i) D z.2.2)) k' m' K Kx → ∀ s3 b, FRp N rd pl p s2 s3 → PSd rd tp n s3 z.1 z.2.1 d p → trS io x s3 (NW N s2 s3) (z.2.1 - l) b z.2.2 → tO s3 12 q ∧ v_X14_init q a ch b s3 (fun s4 => R q k' m' s4) := fun k' m' z ez hk' s3 b F3 D3 T3 => by
    have hz1 := hmi.2 z ez
    have o3 : tO s3 12 q := ⟨(F3.1 q (Or.inl q2)).1.trans o2.1, hq0⟩
    unfold v_X14_init v_X10_init
    refine ⟨o3, o3, hq0, o3, fun s4 e4 s5 e5 s6 e6 => ?_⟩
    rw [e5, e4] at e6
    have o6 : tO s6 12 q := by
      rw [e6]
      exact o3
    have F6 : FRp N rd pl p s0 s6 := e6 ▸ FR_R (FR_I (FR_R (FR_t F02 F3 (Nat.le_refl _)) u1 hq2 u3) (Or.inl ⟨u1, hq2⟩)) u1 hq2 u3
    have Fs6 : FRp N rd pl p s s6 := e6 ▸ FR_R (FR_I (FR_R (FR_t Fs2 F3 (Nat.le_refl _)) u1' hq2 u3) (Or.inl ⟨u1', hq2⟩)) u1' hq2 u3
    have D6 : PSd rd tp n s6 z.1 z.2.1 d p := e6 ▸ PSd_q (PSd_I (PSd_q D3 rfl : PSd rd tp n (tsR s3 q 0 a) z.1 z.2.1 d p) u2) rfl
    refine hR z ez (by omega) hz1.2.1 (hz1.2.2.2 hl) (by omega) s6 q k' m' hk' F6 D6 ?_
    obtain ⟨t, et⟩ : ∃ t, z.2.1 - l0 = t + 1 := ⟨z.2.1 - l0 - 1, by omega⟩
    rw [et]
    obtain ⟨p1, p2, -⟩ := PS0_rd g0
    have ta1 : isSum s6 (NW N s0 s6) io x t a D := isSum_up _ _ _ _ (by omega) (isSum_fr (NW_m Fs6 p1 p2) (fun a ha => (NW_f F0 Fs6).1 ha) _ _ _ ht)
    have tb1 : isSum s6 (NW N s0 s6) io x t b z.2.2 := by
      refine isSum_up _ _ _ _ (by omega) (isSum_fr (M := NW N s2 s3) (s := s3) ?_ (fun a ha => ?_) _ _ _ T3)
      · rw [e6]
        exact mFr_q (v := 0) fun a ha z => q2 (z ▸ ha.1)
      · have := (NW_f F02 F3).2 ha
        exact ⟨this.1, this.2.1, by rw [e6]; exact this.2.2⟩
    refine ⟨⟨u1, hq2, by rw [o6.1]; intro z; cases z⟩, Or.inr (Or.inr (Or.inr ⟨o6, cdT tp n i, D, z.2.2, ?_, ?_, ?_, ?_, rfl⟩))⟩
    · have : tR s6 q 0 = a := by
        rw [e6]
        exact (if_neg fun z => absurd z.2 (by decide)).trans (if_pos ⟨rfl, rfl⟩)
      rw [this]
      exact ta1
    · have : tR s6 q 1 = b := by
        rw [e6]
        exact if_pos ⟨rfl, rfl⟩
      rw [this]
      exact tb1
    · rw [hc]
      have key : ∀ idx, idx < 20 → 15 ≤ idx → cdS idx = 143 ∨ cdS idx = 145 ∨ cdS idx = 142 ∨ cdS idx = 147 ∨ cdS idx = 137 := by decide
      exact key idx hi.2 hi.1
    · rw [e6, hc, ← ech]
      exact if_pos ⟨rfl, rfl⟩
  cases e1 : item (i + 1) l with
  | inl e =>
    obtain ⟨b1, b2, b3⟩ := hL.1 e (by rw [e1]; rfl)
    have := hmi.1 e e1
    refine ⟨k - 1, m - 3, Nat.le_refl _, Nat.le_refl _, PS0_E H2, hF s2 (i + 1) l p (k - 1) (m - 3) _ _ H2 D2 hl (by omega) ⟨fun e' he => ?_, fun z hz => ?_⟩⟩
    · rw [e1] at he
      cases he
      exact ⟨by omega, by omega, XK_t b3 F02 (Nat.le_refl _)⟩
    · rw [e1] at hz
      cases hz
  | inr z =>
    have hz1 := hmi.2 z e1
    have hlp := pM_loop (cd := cdT tp n) (cb := jD) hz hs0 hM f z.1 z.2.1 (jD (cdT tp n i) D z.2.2) hz1.2.1
    have hb2 : 2 * (z.1 - i) ≤ k ∧ 4 * (z.1 - i) ≤ m := by
      cases e2 : pLoop (cdT tp n) sep item jD f z.1 z.2.1 (jD (cdT tp n i) D z.2.2) with
      | inl e =>
        obtain ⟨b1, b2, -⟩ := hL.1 e (by rw [e1]; exact e2)
        have := hlp.1 e e2
        exact ⟨by omega, by omega⟩
      | inr w =>
        obtain ⟨b1, b2, -⟩ := hL.2 w (by rw [e1]; exact e2)
        have := hlp.2 w e2
        exact ⟨by omega, by omega⟩
    refine ⟨2 * (z.1 - (i + 1)), 4 * (z.1 - (i + 1)), by omega, by omega, PS0_E H2, hF s2 (i + 1) l p _ _ _ _ H2 D2 hl (by omega) ⟨fun e' he => ?_, fun z' hz' => ?_⟩⟩
    · rw [e1] at he
      cases he
    · rw [e1] at hz'
      cases hz'
      refine ⟨Nat.le_refl _, Nat.le_refl _, fin _ _ z e1 ⟨fun e e2 => ?_, fun w e2 => ?_⟩⟩
      · obtain ⟨b1, b2, b3⟩ := hL.1 e (by rw [e1]; exact e2)
        have := hlp.1 e e2
        exact ⟨by omega, by omega, b3⟩
      · obtain ⟨b1, b2, b3⟩ := hL.2 w (by rw [e1]; exact e2)
        have := hlp.2 w e2
        exact ⟨by omega, by omega, b3⟩
end SM
