set_option maxRecDepth 100000
/-! ===== the system's reader: a test of two sums, nots ===== -/
def trT (io : Bool) (x dep : Nat) : tM → (Nat → Prop) → Nat → Nat → dT → Prop := fun s M _ a D => isTest s M io x dep a D
/-- as itS, for tests: the pile is no higher than the leaves are many -/
def itT (N : tP) (io : Bool) (rd x ta pl wd : Nat) (tp : Nat → Int32) (n : Nat) (dep d : Nat) (item : Nat → Nat → pR (Nat × Nat × dT)) (F : Nat → Nat → tM → (Nat → tM → Prop) → (String → Nat → tM → Prop) → Prop) : Prop := ∀ (s : tM) (i l p k m : Nat) (Kr : Nat → tM → Prop) (Kx : String → Nat → tM → Prop), PS0 N io rd x ta pl wd tp n s → PSd rd tp n s i l d p → l ≤ 50 → p ≤ l → i ≤ tokT tp n → okR N rd pl tp n (trT io x dep) d p s i l (item i l) k m Kr Kx → F k m s Kr Kx
section CP
variable {N : tP} {io : Bool} {rd x ta pl wd p : Nat} {tp : Nat → Int32} {n : Nat} {s s0 s' : tM} {i l d q : Nat}
theorem v_notS {rc : Nat → Nat → Nat → Nat → tM → (Nat → tM → Prop) → (String → Nat → tM → Prop) → Prop} (g0 : PS0 N io rd x ta pl wd tp n s0) (F0 : FRp N rd pl p s0 s) (hd : PSd rd tp n s i l d p) {a dep : Nat} {D : dT} (ht : isTest s (NW N s0 s) io x dep a D) {b : Bool} {k m : Nat} (hkm : 1 ≤ k ∧ 1 ≤ m) {Kr : Nat → tM → Prop} {Kx : String → Nat → tM → Prop} (hK : ∀ s' a, FRp N rd pl p s0 s' → PSd rd tp n s' i l d p → isTest s' (NW N s0 s') io x (dep + 1) a (nD b D) → Kr a s') : v_X7_plain_125 N rc (bI b) a Kr Kx k m s := by
  unfold v_X7_plain_125
  refine bI_c (fun eb => ?_) (fun eb => ?_)
  · rw [eb, nD_f] at hK
    exact hK s a F0 hd (isTest_up _ _ _ _ (Nat.le_succ _) ht)
  · rw [eb] at hK
    refine ⟨hkm.1, hkm.2, fun q hq hq0 hq2 s1 e1 => ?_⟩
    obtain ⟨p1, p2, -⟩ := PS0_rd g0
    obtain ⟨u1, u2, u3⟩ := nw_c (PS0_f g0 F0) F0 hq
    have o1 : tO s1 15 q := by
      rw [e1]
      exact ⟨if_pos rfl, hq0⟩
    unfold v_X18_init v_X16_init
    refine ⟨o1, hq0, o1, fun s2 e2 => ?_⟩
    rw [e1] at e2
    have F2 : FRp N rd pl p s s2 := e2 ▸ FR_R (FR_n FR_r hq hq2 u3) hq hq2 u3
    have o2 : tO s2 15 q := by
      rw [e2, ← e1]
      exact o1
    refine hK s2 q (FR_t F0 F2 (Nat.le_refl _)) (e2 ▸ PSd_q (PSd_n hd u2 : PSd rd tp n (tNew s q (.inl 15)) i l d p) rfl) ⟨⟨u1, hq2, by rw [o2.1]; intro z; cases z⟩, Or.inr (Or.inl ⟨o2, D, ?_, rfl⟩)⟩
    have : tR s2 q 0 = a := by
      rw [e2]
      exact if_pos ⟨rfl, rfl⟩
    rw [this]
    exact isTest_fr (NW_m F2 p1 p2) (fun a ha => (NW_f F0 F2).1 ha) _ _ _ ht
/-- the sign of a test, and the sum behind it -/
theorem v_cmp89 (hN : 402 ≤ N.1) (hN2 : 60 ≤ N.2.1) (hn : n ≤ 400) (hb : ∀ k, k < 400 → byT (tp k)) {rc : Nat → Nat → Nat → Nat → tM → (Nat → tM → Prop) → (String → Nat → tM → Prop) → Prop} {dp : Nat} (hdp : d + dp = 8) (g0 : PS0 N io rd x ta pl wd tp n s0) (F0 : FRp N rd pl p s0 s) (hd : PSd rd tp n s i l d p) (hl : l ≤ 50) {a t : Nat} {D : dS} (hT : t ≤ 50) (ht : isSum s (NW N s0 s) io x t a D) {idx : Nat} (hi : idx < 27 ∧ 24 ≤ idx) (hc : cdT tp n i = cdS idx) {b : Bool} {k m : Nat} {Kr : Nat → tM → Prop} {Kx : String → Nat → tM → Prop} (hK : (∀ e, pb (pSum (cdT tp n) (vlT tp n) io dp (i + 1) l) (fun w => (.inr (w.1, w.2.1, nD b (cD (cdT tp n i) D w.2.2)) : pR (Nat × Nat × dT))) = .inl e → 2 * (e - i) + 2 ≤ k ∧ 4 * (e - i) + 8 ≤ m ∧ XK N rd pl p tp n Kx s0 e) ∧ ∀ z, pb (pSum (cdT tp n) (vlT tp n) io dp (i + 1) l) (fun w => (.inr (w.1, w.2.1, nD b (cD (cdT tp n i) D w.2.2)) : pR (Nat × Nat × dT))) = .inr z → 2 * (z.1 - i) ≤ k ∧ 4 * (z.1 - i) ≤ m ∧ ∀ s' a, FRp N rd pl p s0 s' → PSd rd tp n s' z.1 z.2.1 d p → isTest s' (NW N s0 s') io x 2 a z.2.2 → Kr a s') : v_X7_plain_84 N rc rd (bI b) a rd Kr Kx k m s := by
  have h0 := PS0_f g0 F0
  have hE := PS0_E h0
  obtain ⟨t1, t2, t3, t4, t5⟩ := PS0_T h0
  have h1 : (xbyt.getD idx []).length = 1 := by
    have key : ∀ idx, idx < 27 → 24 ≤ idx → (xbyt.getD idx []).length = 1 := by decide +kernel
    exact key idx hi.1 hi.2
  obtain ⟨iT, ik, ich⟩ := sep_ch (i := i) hb hn (by omega) h1 hc
  have hz : ∀ k, tokT tp n ≤ k → cdT tp n k = 0 := fun k hk => cdT_z hn k hk
  have hmi := pM_sum (vl := vlT tp n) (io := io) hz dp (i + 1) l (by omega)
  have hF : itS N io rd x ta pl wd tp n (trS io x) d (pSum (cdT tp n) (vlT tp n) io dp) (fun k m s Kr Kx => r_X7_part N (N.2.1 - 2 + 2) 1 rd k m s Kr Kx) := (v_sumR hN hn hb dp d hdp (N.2.1 - 2) (by omega)).2.2
  rw [show N.2.1 - 2 + 2 = N.2.1 by omega] at hF
  have hkm : 1 ≤ k ∧ 3 ≤ m := by
    cases e1 : pSum (cdT tp n) (vlT tp n) io dp (i + 1) l with
    | inl e =>
      obtain ⟨b1, b2, -⟩ := hK.1 e (by rw [e1]; rfl)
      exact ⟨by omega, by omega⟩
    | inr z =>
      have hz1 := hmi.2 z e1
      obtain ⟨b1, b2, -⟩ := hK.2 _ (by rw [e1]; rfl)
      dsimp only at b1 b2
      exact ⟨by omega, by omega⟩
  unfold v_X7_plain_84 v_X7_plain_89
  refine ⟨0, 0, Nat.zero_le _, Nat.zero_le _, hE, v_must1 ?_⟩
  rw [h0.2.1, t2, hd.1.1, nI_clamp (by omega), t4 _ (by omega), ich]
  refine ⟨hE, t1, ⟨400, t3, vpk (by omega) (by decide)⟩, fun ch ech => v_nextP hN hn h0 hd fun s1 F1 D1 => ⟨by omega, by omega, fun q hq hq0 hq2 s2 e2 => ?_⟩⟩
  have F01 := FR_t F0 F1 (Nat.le_refl _)
  have H1 := PS0_f g0 F01
  obtain ⟨u1, u2, u3⟩ := nw_c H1 F01 hq
  have u1' := FR_fr F1 hq
  have F02 : FRp N rd pl p s0 s2 := e2 ▸ FR_n F01 u1 hq2 u3
  have Fs2 : FRp N rd pl p s s2 := e2 ▸ FR_n F1 u1' hq2 u3
  have H2 := PS0_f g0 F02
  have D2 : PSd rd tp n s2 (i + 1) l d p := e2 ▸ PSd_n D1 u2
  have o2 : tO s2 14 q := by
    rw [e2]
    exact ⟨if_pos rfl, hq0⟩
  have q2 : s2.1 q ≠ none := by
    rw [o2.1]
    intro z
    cases z
  cases e1 : pSum (cdT tp n) (vlT tp n) io dp (i + 1) l with
  | inl e =>
    obtain ⟨b1, b2, b3⟩ := hK.1 e (by rw [e1]; rfl)
    have := hmi.1 e e1
    refine ⟨k - 0 - 1, m - 0 - 3, Nat.le_refl _, Nat.le_refl _, PS0_E H2, hF s2 (i + 1) l p _ _ _ _ H2 D2 hl (by omega) ⟨fun e' he => ?_, fun z hz => ?_⟩⟩
    · rw [e1] at he
      cases he
      exact ⟨by omega, by omega, XK_t b3 F02 (Nat.le_refl _)⟩
    · rw [e1] at hz
      cases hz
  | inr z =>
    have hz1 := hmi.2 z e1
    obtain ⟨b1, b2, b3⟩ := hK.2 _ (by rw [e1]; rfl)
    dsimp only at b1 b2 b3
    refine ⟨2 * (z.1 - (i + 1)), 4 * (z.1 - (i + 1)), by omega, by omega, PS0_E H2, hF s2 (i + 1) l p _ _ _ _ H2 D2 hl (by omega) ⟨fun e' he => ?_, fun z' hz' => ?_⟩⟩
    · rw [e1] at he
      cases he
    · rw [e1] at hz'
      cases hz'
      refine ⟨Nat.le_refl _, Nat.le_refl _, fun s3 y F3 D3 T3 => ?_⟩
      have o3 : tO s3 14 q := ⟨(F3.1 q (Or.inl q2)).1.trans o2.1, hq0⟩
      unfold v_X17_init v_X16_init
      refine ⟨o3, o3, hq0, o3, fun s4 e4 s5 e5 s6 e6 => ?_⟩
      rw [e5, e4] at e6
      have o6 : tO s6 14 q := by
        rw [e6]
        exact o3
      have F6 : FRp N rd pl p s0 s6 := e6 ▸ FR_R (FR_I (FR_R (FR_t F02 F3 (Nat.le_refl _)) u1 hq2 u3) (Or.inl ⟨u1, hq2⟩)) u1 hq2 u3
      have Fs6 : FRp N rd pl p s s6 := e6 ▸ FR_R (FR_I (FR_R (FR_t Fs2 F3 (Nat.le_refl _)) u1' hq2 u3) (Or.inl ⟨u1', hq2⟩)) u1' hq2 u3
      have D6 : PSd rd tp n s6 z.1 z.2.1 d p := e6 ▸ PSd_q (PSd_I (PSd_q D3 rfl : PSd rd tp n (tsR s3 q 0 a) z.1 z.2.1 d p) u2) rfl
      obtain ⟨p1, p2, -⟩ := PS0_rd g0
      have ta1 : isSum s6 (NW N s0 s6) io x 60 a D := isSum_up _ _ _ _ (by omega) (isSum_fr (NW_m Fs6 p1 p2) (fun a ha => (NW_f F0 Fs6).1 ha) _ _ _ ht)
      have hl5 := hz1.2.2.2 hl
      have tb1 : isSum s6 (NW N s0 s6) io x 60 y z.2.2 := by
        refine isSum_up (z.2.1 - l) _ _ _ (by omega) (isSum_fr (M := NW N s2 s3) (s := s3) ?_ (fun a ha => ?_) _ _ _ T3)
        · rw [e6]
          exact mFr_q (v := 0) fun a ha z => q2 (z ▸ ha.1)
        · have := (NW_f F02 F3).2 ha
          exact ⟨this.1, this.2.1, by rw [e6]; exact this.2.2⟩
      have t6 : isTest s6 (NW N s0 s6) io x 1 q (cD (cdT tp n i) D z.2.2) := by
        refine ⟨⟨u1, hq2, by rw [o6.1]; intro z; cases z⟩, Or.inl ⟨o6, cdT tp n i, D, z.2.2, ?_, ?_, ?_, ?_, rfl⟩⟩
        · have : tR s6 q 0 = a := by
            rw [e6]
            exact (if_neg fun z => absurd z.2 (by decide)).trans (if_pos ⟨rfl, rfl⟩)
          rw [this]
          exact ta1
        · have : tR s6 q 1 = y := by
            rw [e6]
            exact if_pos ⟨rfl, rfl⟩
          rw [this]
          exact tb1
        · rw [hc]
          have key : ∀ idx, idx < 27 → 24 ≤ idx → cdS idx = 160 ∨ cdS idx = 161 ∨ cdS idx = 162 := by decide
          exact key idx hi.1 hi.2
        · rw [e6, hc, ← ech]
          exact if_pos ⟨rfl, rfl⟩
      exact v_notS g0 F6 D6 t6 ⟨by omega, by omega⟩ b3
/-- nots -/
theorem v_nots (hN : 402 ≤ N.1) (hn : n ≤ 400) (hb : ∀ k, k < 400 → byT (tp k)) {rc : Nat → Nat → Nat → Nat → tM → (Nat → tM → Prop) → (String → Nat → tM → Prop) → Prop} {Kr : Nat → tM → Prop} {Kx : String → Nat → tM → Prop} {K : Int32 → Nat → Nat → tM → Prop} {k m : Nat} : ∀ (f u : Nat) (s : tM) (i : Nat) (b : Bool), tokT tp n < i + f → f ≤ u → i ≤ tokT tp n → PS0 N io rd x ta pl wd tp n s → PSd rd tp n s i l d p → (∀ s', FRp N rd pl p s s' → PSd rd tp n s' (pNots (cdT tp n) f i b).1 l d p → K (bI (pNots (cdT tp n) f i b).2) k m s') → v_X7_plain_2 N rc rd Kr Kx K u (bI b) k m s
  | 0, _, _, i, _, h1, _, h2, _, _, _ => absurd h1 (by omega)
  | f + 1, 0, _, _, _, _, h, _, _, _, _ => absurd h (Nat.not_succ_le_zero _)
  | f + 1, u + 1, s, i, b, h1, hu, h2, h0, hd, hK => by
    have hz : ∀ k, tokT tp n ≤ k → cdT tp n k = 0 := fun k hk => cdT_z hn k hk
    have e : pNots (cdT tp n) (f + 1) i b = if cdT tp n i = 7 then pNots (cdT tp n) f (i + 1) (!b) else (i, b) := rfl
    rw [e] at hK
    unfold v_X7_plain_2
    refine ⟨PS0_E h0, v_acceptP hN hn hb h0 hd (by decide) (fun c => ⟨fun _ => ?_, fun z => absurd rfl z⟩) (fun c s1 F1 D1 => ⟨fun z => absurd z (by decide), fun _ => ?_⟩)⟩
    · have c : ¬ cdT tp n i = 7 := c
      rw [if_neg c] at hK
      exact hK s FR_r hd
    · have c : cdT tp n i = 7 := c
      have iT : i < tokT tp n := cd_lt (cd := cdT tp n) hz c (by decide)
      rw [if_pos c] at hK
      have go := v_nots (rc := rc) (Kr := Kr) (Kx := Kx) (K := K) (k := k) (m := m) hN hn hb f u s1 (i + 1) (!b) (by omega) (by omega) (by omega) (PS0_f h0 F1) D1 (fun s' F' D' => hK s' (FR_t F1 F' (Nat.le_refl _)) D')
      cases b with
      | true => exact ⟨fun _ => go, fun z => absurd z (by decide)⟩
      | false => exact ⟨fun z => absurd rfl z, fun _ => go⟩
end CP
