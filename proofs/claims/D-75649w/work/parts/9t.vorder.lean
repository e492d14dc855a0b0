set_option maxRecDepth 100000
/-! ===== the system's reader of orders: an order ===== -/
theorem isSum_17 {s : tM} {M : Nat → Prop} {io : Bool} {x : Nat} : ∀ n a D, isSum s M io x n a D → isSum s (fun b => M b ∧ s.1 b ≠ some (.inl 17)) io x n a D
  | 0, _, _, h => h.elim
  | n + 1, a, D, h => by
    have nn : ∀ {ci : Nat}, tO s ci a → ci ≠ 17 → s.1 a ≠ some (.inl 17) := fun o h z => by
      rw [o.1] at z
      injection z with z
      injection z with z
      exact h z
    obtain ⟨ha, h⟩ := h
    rcases h with h | h | h | ⟨h1, c, D1, D2, h2, h3, h4⟩
    · exact ⟨⟨ha, nn h.1 (by decide)⟩, Or.inl h⟩
    · exact ⟨⟨ha, nn h.1 (by decide)⟩, Or.inr (Or.inl h)⟩
    · exact ⟨⟨ha, nn h.1 (by decide)⟩, Or.inr (Or.inr (Or.inl h))⟩
    · exact ⟨⟨ha, nn h1 (by decide)⟩, Or.inr (Or.inr (Or.inr ⟨h1, c, D1, D2, isSum_17 n _ _ h2, isSum_17 n _ _ h3, h4⟩))⟩
/-- an act, but for when -/
def AC4 (x : Nat) (s : tM) (M : Nat → Prop) (a : Nat) (h : Int32) (o : Option (dS × dS)) (tm : Int32) : Prop := M a ∧ tO s 17 a ∧ tR s a 6 = x ∧ tI s a 0 = h - 22 ∧ tI s a 4 = tm ∧ (∀ D, o = some D → isSum s M true x 60 (tR s a 1) D.1 ∧ isSum s M true x 60 (tR s a 2) D.2) ∧ (tR s a 3 = 0 ∧ (o = none → tR s a 1 = 0 ∧ tR s a 2 = 0))
section OD
variable {N : tP} {rd x ta pl wd rw p q : Nat} {tp : Nat → Int32} {n : Nat} {s s1 s2 sb s' : tM} {i l d : Nat}
theorem AC4_fr {M : Nat → Prop} {M' : Nat → Prop} {a : Nat} {h : Int32} {o : Option (dS × dS)} {tm : Int32} (hf : mFr M s s') (hM : ∀ a, M a → M' a) (hA : AC4 x s M a h o tm) : AC4 x s' M' a h o tm := by
  obtain ⟨a1, a2, a3, a4, a5, a6, a7⟩ := hA
  have hr := hf a a1
  have tI' : ∀ j, tI s' a j = tI s a j := fun j => congrFun hr.2.1 j
  have tR' : ∀ j, tR s' a j = tR s a j := fun j => congrFun hr.2.2 j
  unfold AC4
  rw [tI', tI', tR', tR', tR', tR']
  exact ⟨hM a a1, mFr_O hf a1 a2, a3, a4, a5, fun D hD => ⟨isSum_fr hf hM _ _ _ (a6 D hD).1, isSum_fr hf hM _ _ _ (a6 D hD).2⟩, a7⟩
theorem v_or40 (hN : 402 ≤ N.1) (hN2 : 60 ≤ N.2.1) (hn : n ≤ 400) (hb : ∀ k, k < 400 → byT (tp k)) (r1 : s1.1 rd ≠ none ∧ s1.1 pl ≠ none ∧ s1.1 rw ≠ none) (hpw : pl ≠ rw) {i0 l0 : Nat} (hC : CSt N true rd x ta pl wd rw 8 x tp n s1 sb i0 l0) (Fs : FRp N rd pl 0 sb s) (hd : PSd rd tp n s i l 0 0) (hl : l ≤ 50) (hi : i ≤ tokT tp n) {c : Nat} (hc : c < 12) {a : Nat} {h tm : Int32} {o : Option (dS × dS)} (hA : AC4 x s (NW N sb s) a h o tm) (hh : (h = 22 ∨ h = 23 ∨ h = 24 ∨ h = 25) ∧ ((h = 24 ∨ h = 25) → o = none) ∧ ((h = 22 ∨ h = 23) → ¬ o = none)) (htm : 1 ≤ tm ∧ tm ≤ 20) {k m : Nat} {Kr : tM → Prop} {Kx : String → Nat → tM → Prop} (hK : (∀ e, pOpt (cdT tp n) (vlT tp n) true i l = .inl e → 2 * (e - i) + 2 ≤ k ∧ 8 * (e - i) + 8 ≤ m ∧ XKr N rd pl rw tp n Kx s1 e) ∧ ∀ z, pOpt (cdT tp n) (vlT tp n) true i l = .inr z → 2 * (z.1 - i) ≤ k ∧ 8 * (z.1 - i) ≤ m ∧ ∀ s', CSt N true rd x ta pl wd rw 8 x tp n s1 s' z.1 z.2.1 → (∀ j, j < c → tR s' rw j = tR sb rw j) → mFr (NW N s1 sb) sb s' → isAct x s' (NW N s1 s') (tR s' rw c) (h, o, tm, z.2.2) → Kr s') : v_X21_read_40 N rd (nI c) a Kr Kx k m s := by
  have hz : ∀ k, tokT tp n ≤ k → cdT tp n k = 0 := fun k hk => cdT_z hn k hk
  obtain ⟨F1, h0, hw, hdb, h9e⟩ := hC
  have H := PS0_f h0 Fs
  obtain ⟨p1, p2, p3, -⟩ := PS0_rd h0
  obtain ⟨⟨qa, qa2, qa3⟩, a2, a3, a4, a5, a6, a7⟩ := hA
  have qpl : a ≠ pl := fun z => p2 (z ▸ qa)
  have qrd : rd ≠ a := fun z => p1 (z ▸ qa)
  have qrw : a ≠ rw := fun z => by
    rw [z, hw.2.1.1] at qa
    cases qa
  have fin : ∀ (z : Nat × Nat × Option dT), pOpt (cdT tp n) (vlT tp n) true i l = .inr z → ∀ s3 y k' m', FRp N rd pl 0 s s3 → PSd rd tp n s3 z.1 z.2.1 0 0 → (z.2.2 = none → y = 0) → (∀ D, z.2.2 = some D → isTest s3 (NW N s s3) true x 28 y D) → v_X21_read_58 N rd (nI c) a a y Kr Kx k' m' s3 := fun z ez s3 y k' m' F3 D3 y0' yT => by
    have F03 := FR_t Fs F3 (Nat.le_refl _)
    have fa := F3.1 a (Or.inl qa3)
    have o3 : tO s3 17 a := ⟨fa.1.trans a2.1, a2.2⟩
    unfold v_X21_read_58
    refine ⟨o3, fun s4 e4 => ?_⟩
    have F4 : FRp N rd pl 0 sb s4 := e4 ▸ FR_R F03 qa qa2 qpl
    have H4 := PS0_f h0 F4
    have W4 := RWo_f h0 hw F4
    have D4 : PSd rd tp n s4 z.1 z.2.1 0 0 := e4 ▸ PSd_q D3 rfl
    have o4 : tO s4 17 a := by
      rw [e4]
      exact o3
    rw [W4.1, nI_clamp (by omega)]
    refine ⟨H4.1, ⟨12, W4.2.1, vpk hc (by decide)⟩, o4, fun s5 e5 => ?_⟩
    obtain ⟨-, -, hK2⟩ := hK.2 z ez
    have FR4 := FRr_p F1 F4
    have f5 : ∀ {b j : Nat}, b ≠ rw → tR s5 b j = tR s4 b j := fun h => by
      rw [e5]
      exact if_neg fun z => h z.1
    have g5 : ∀ {b j : Nat}, b ≠ rw → b ≠ a → tR s5 b j = tR s3 b j := fun h h2 => by
      rw [f5 h, e4]
      exact if_neg fun z => h2 z.1
    have i5 : s5.2.1 = s3.2.1 := by
      rw [e5, e4]
      rfl
    have c5 : s5.1 = s3.1 := by
      rw [e5, e4]
      rfl
    have rwb : s.1 rw ≠ none := by
      rw [(Fs.1 rw (Or.inl (by rw [hw.2.1.1]; intro z; cases z))).1, hw.2.1.1]
      intro z
      cases z
    have qc : tR s5 rw c = a := by
      rw [e5]
      exact if_pos ⟨rfl, rfl⟩
    have n5 : NW N s1 s5 a := ⟨FRr_f F1 qa, qa2, by rw [c5, o3.1]; intro z; cases z⟩
    -- what stood when the act was made, but for the act
    have m1 : mFr (fun b => NW N sb s b ∧ s.1 b ≠ some (.inl 17)) s s5 := fun b hb => by
      have hne : b ≠ a := fun z => hb.2 (by rw [z]; exact a2.1)
      have hnw : b ≠ rw := fun z => by
        have := hb.1.1
        rw [z, hw.2.1.1] at this
        cases this
      have fb := F3.1 b (Or.inl hb.1.2.2)
      exact ⟨by rw [c5]; exact fb.1, by rw [i5]; exact fb.2.1 (fun z => p1 (z ▸ hb.1.1)), funext fun j => (g5 hnw hne).trans (congrFun (fb.2.2.2 (fun z => p2 (z ▸ hb.1.1))) j)⟩
    have m1' : ∀ b, (NW N sb s b ∧ s.1 b ≠ some (.inl 17)) → NW N s1 s5 b := fun b hb => by
      have := (NWr F1 (FR_t Fs F3 (Nat.le_refl _))).2 ((NW_f Fs F3).1 hb.1)
      exact ⟨this.1, this.2.1, by rw [c5]; exact this.2.2⟩
    have m2 : mFr (NW N s s3) s3 s5 := fun b hb => by
      have hne : b ≠ a := fun z => qa3 (z ▸ hb.1)
      have hnw : b ≠ rw := fun z => rwb (z ▸ hb.1)
      exact ⟨by rw [c5], by rw [i5], funext fun j => g5 hnw hne⟩
    have m2' : ∀ b, NW N s s3 b → NW N s1 s5 b := fun b hb => by
      have := (NWr F1 F03).2 ((NW_f Fs F3).2 hb)
      exact ⟨this.1, this.2.1, by rw [c5]; exact this.2.2⟩
    have ra : ∀ {j : Nat}, j ≠ 3 → tR s5 a j = tR s a j := fun {j} hj => by
      rw [f5 qrw, e4]
      exact (if_neg fun z => hj z.2).trans (congrFun (fa.2.2.2 qpl) j)
    have ia : ∀ j, tI s5 a j = tI s a j := fun j => by
      show s5.2.1 a j = _
      rw [i5]
      exact congrFun (fa.2.1 qrd.symm) j
    have r3 : tR s5 a 3 = y := by
      rw [f5 qrw, e4]
      exact if_pos ⟨rfl, rfl⟩
    refine hK2 s5 ⟨e5 ▸ FRr_s FR4, e5 ▸ PS0_W H4 W4.2.2.1 W4.2.2.2.1 W4.2.2.2.2, ?_, e5 ▸ PSd_q D4 rfl, ?_⟩ (fun j hj => ?_) (fun b hb => ?_) ?_
    · obtain ⟨x1, x2, x3, x4, x5⟩ := W4
      exact ⟨(f5 x3.symm).trans x1, by rw [e5]; exact x2, x3, x4, x5⟩
    · rw [f5 W4.2.2.1.symm]
      exact (congrFun ((F4.1 rd (Or.inl p1)).2.2.2 p3) 9).trans h9e
    · rw [e5]
      refine (if_neg fun z => by omega).trans ?_
      exact congrFun ((F4.1 rw (Or.inl (by rw [hw.2.1.1]; intro z; cases z))).2.2.2 hpw.symm) j
    · have hne : b ≠ rw := fun z => r1.2.2 (z ▸ hb.1)
      have a1 := NW_m F4 r1.1 r1.2.1 b hb
      rw [e5]
      exact ⟨a1.1, a1.2.1, (funext fun j => if_neg fun z => hne z.1).trans a1.2.2⟩
    · rw [qc]
      refine ⟨n5, ⟨by rw [c5]; exact o3.1, o3.2⟩, ⟨(ra (by decide)).trans a3, fun hn => ⟨(ra (by decide)).trans (a7.2 hn).1, (ra (by decide)).trans (a7.2 hn).2⟩⟩, hh.1, (ia 0).trans a4, hh.2.1, hh.2.2, fun D hD => ?_, (ia 4).trans a5, htm, fun hD => r3.trans (y0' hD), fun D hD => ?_⟩
      · rw [ra (by decide), ra (by decide)]
        exact ⟨isSum_fr m1 m1' _ _ _ (isSum_17 _ _ _ (a6 D hD).1), isSum_fr m1 m1' _ _ _ (isSum_17 _ _ _ (a6 D hD).2)⟩
      · rw [r3]
        have t1 := yT D hD
        exact ⟨isTest_nz t1, isTest_up _ _ _ _ (by decide) (isTest_fr m2 m2' _ _ _ t1)⟩
  unfold v_X21_read_40
  refine ⟨H.1, v_acceptP hN hn hb H hd (by decide) (fun cc => ⟨fun _ => ?_, fun z => absurd rfl z⟩) (fun cc s3 F3 D3 => ⟨fun z => absurd z (by decide), fun _ => ?_⟩)⟩
  · have cc : ¬ cdT tp n i = 4 := cc
    have er : pOpt (cdT tp n) (vlT tp n) true i l = .inr (i, l, none) := by
      unfold pOpt
      rw [if_neg cc]
    exact fin _ er s 0 _ _ FR_r hd (fun _ => rfl) (fun D hD => by cases hD)
  · have cc : cdT tp n i = 4 := cc
    have iT : i < tokT tp n := cd_lt (cd := cdT tp n) hz cc (by decide)
    have er : pOpt (cdT tp n) (vlT tp n) true i l = pb (pTest (cdT tp n) (vlT tp n) true 8 (i + 1) l) (fun z => .inr (z.1, z.2.1, some z.2.2)) := by
      unfold pOpt
      rw [if_pos cc]
    have H3 := PS0_f H F3
    have F13 : FRr N rd pl rw s1 s3 := FRr_p (FRr_p F1 Fs) F3
    have hmi := pM_test (vl := vlT tp n) (io := true) hz 8 (i + 1) l (by omega)
    have hF : itT N true rd x ta pl wd tp n 28 0 (pTest (cdT tp n) (vlT tp n) true 8) (fun k m s Kr Kx => r_X7_both N (N.2.1 - 2 + 2) 2 rd k m s Kr Kx) := (v_testR hN hN2 hn hb 8 0 rfl (N.2.1 - 2) (by omega)).2.2
    rw [show N.2.1 - 2 + 2 = N.2.1 by omega] at hF
    refine ⟨k, m, Nat.le_refl _, Nat.le_refl _, H3.1, hF s3 (i + 1) l 0 _ _ _ _ H3 D3 hl (Nat.zero_le _) (by omega) ⟨fun e he => ?_, fun z hz2 => ?_⟩⟩
    · obtain ⟨b1, b2, b3⟩ := hK.1 e (by rw [er, he]; rfl)
      have := hmi.1 e he
      exact ⟨by omega, by omega, XKr_p b3 F13⟩
    · have er2 : pOpt (cdT tp n) (vlT tp n) true i l = .inr (z.1, z.2.1, some z.2.2) := by
        rw [er, hz2]
        rfl
      obtain ⟨b1, b2, -⟩ := hK.2 _ er2
      have := hmi.2 z hz2
      dsimp only at b1 b2
      refine ⟨by omega, by omega, fun s4 y F4 D4 T4 => fin _ er2 s4 y _ _ (FR_t F3 F4 (Nat.le_refl _)) D4 (fun h => by cases h) (fun D hD => ?_)⟩
      cases hD
      exact isTest_fr (mFr_r _ _) (fun a ha => (NW_f F3 F4).2 ha) _ _ _ T4
theorem pAct_M {cd vl : Nat → Int32} {T : Nat} (hz : ∀ k, T ≤ k → cd k = 0) {i l : Nat} (hi : i ≤ T) : (∀ e, pAct cd vl i l = .inl e → i ≤ e ∧ e ≤ T) ∧ ∀ z, pAct cd vl i l = .inr z → i < z.1 ∧ z.1 ≤ T ∧ l ≤ z.2.1 ∧ (l ≤ 50 → z.2.1 ≤ 50) ∧ (cd i = 22 ∨ cd i = 23 ∨ cd i = 24 ∨ cd i = 25) ∧ ((cd i = 24 ∨ cd i = 25) → z.2.2 = none) ∧ ((cd i = 22 ∨ cd i = 23) → ¬ z.2.2 = none) := by
  by_cases c : cd i = 22 ∨ cd i = 23
  · have iT : i < T := c.elim (fun h => cd_lt (cd := cd) hz h (by decide)) (fun h => cd_lt (cd := cd) hz h (by decide))
    rw [pAct_2 c]
    have hmi := pM_sum (vl := vl) (io := true) hz 8 (i + 1) l (by omega)
    have key : ∀ y : Nat × Nat × dS, y.1 ≤ T → (∀ e, (if cd y.1 = 26 then pSum cd vl true 8 (y.1 + 1) y.2.1 else .inl y.1) = .inl e → y.1 ≤ e ∧ e ≤ T) ∧ ∀ w, (if cd y.1 = 26 then pSum cd vl true 8 (y.1 + 1) y.2.1 else .inl y.1) = .inr w → y.1 < w.1 ∧ w.1 ≤ T ∧ y.2.1 ≤ w.2.1 ∧ (y.2.1 ≤ 50 → w.2.1 ≤ 50) := fun y hy => by
      by_cases c2 : cd y.1 = 26
      · have zT : y.1 < T := cd_lt (cd := cd) hz c2 (by decide)
        have hm2 := pM_sum (vl := vl) (io := true) hz 8 (y.1 + 1) y.2.1 zT
        rw [if_pos c2]
        exact ⟨fun e he => by have := hm2.1 e he; omega, fun w hw => by have := hm2.2 w hw; exact ⟨by omega, by omega, by omega, this.2.2.2⟩⟩
      · rw [if_neg c2]
        exact ⟨fun e he => by cases he; omega, fun w hw => by cases hw⟩
    refine ⟨fun e he => ?_, fun z hz2 => ?_⟩
    · rcases pb_l he with h | ⟨z, h, h3⟩
      · rcases pb_l h with h | ⟨y, h, h3⟩
        · have := hmi.1 e h
          omega
        · have y1 := hmi.2 y h
          rcases pb_l h3 with h4 | ⟨w, h4, h5⟩
          · have := (key y y1.2.1).1 e h4
            omega
          · cases h5
      · cases h3
    · obtain ⟨u, hu, h3⟩ := pb_r hz2
      obtain ⟨y, h, h4⟩ := pb_r hu
      obtain ⟨w, h5, h6⟩ := pb_r h4
      cases h6
      cases h3
      have y1 := hmi.2 y h
      have w1 := (key y y1.2.1).2 w h5
      refine ⟨by show i < w.1; omega, w1.2.1, by show l ≤ w.2.1; omega, fun q => w1.2.2.2 (y1.2.2.2 q), c.elim Or.inl (fun z => Or.inr (Or.inl z)), fun z => ?_, fun _ z => by cases z⟩
      exfalso
      rcases c with c | c <;> rw [c] at z <;> revert z <;> decide
  · by_cases c2 : cd i = 24 ∨ cd i = 25
    · have iT : i < T := c2.elim (fun h => cd_lt (cd := cd) hz h (by decide)) (fun h => cd_lt (cd := cd) hz h (by decide))
      unfold pAct
      rw [if_neg c, if_pos c2]
      refine ⟨fun e he => (by cases he), fun z hz2 => ?_⟩
      cases hz2
      exact ⟨Nat.lt_succ_self _, iT, Nat.le_refl _, id, Or.inr (Or.inr c2), fun _ => rfl, fun z => absurd z c⟩
    · unfold pAct
      rw [if_neg c, if_neg c2]
      exact ⟨fun e he => (by cases he; exact ⟨Nat.le_refl _, hi⟩), fun z hz2 => (by cases hz2)⟩
theorem v_orderS (hN : 402 ≤ N.1) (hN2 : 60 ≤ N.2.1) (hn : n ≤ 400) (hb : ∀ k, k < 400 → byT (tp k)) (r1 : s1.1 rd ≠ none ∧ s1.1 pl ≠ none ∧ s1.1 rw ≠ none) (hpw : pl ≠ rw) (hC : CSt N true rd x ta pl wd rw 8 x tp n s1 s i l) (hl : l ≤ 50) (hi : i ≤ tokT tp n) {c : Nat} (hc : c < 12) {k m : Nat} {Kr : tM → Prop} {Kx : String → Nat → tM → Prop} (hK : okC8 N true rd x ta pl wd rw 8 x tp n (isAct x) s1 s c i (pOrder (cdT tp n) (vlT tp n) true i l) k m Kr Kx) : v_X21_read N rd (nI c) k m s Kr Kx := by
  have hz : ∀ k, tokT tp n ≤ k → cdT tp n k = 0 := fun k hk => cdT_z hn k hk
  have hC' := hC
  obtain ⟨F1, h0, hw, hd, h9e⟩ := hC'
  have hmi := pAct_M (vl := vlT tp n) hz (l := l) hi
  obtain ⟨p1, p2, p3, -⟩ := PS0_rd h0
  have ea := pOrder_a (cd := cdT tp n) (vl := vlT tp n) (i := i) (l := l)
  unfold v_X21_read
  cases e1 : pAct (cdT tp n) (vlT tp n) i l with
  | inl e =>
    obtain ⟨b1, b2, b3⟩ := hK.1 e (by rw [ea, e1]; rfl)
    refine ⟨k, m, Nat.le_refl _, Nat.le_refl _, h0.1, v_actS hN hN2 hn hb h0 hd hl hi (fun e' he => ?_) (fun z hz => ?_)⟩
    · rw [e1] at he
      cases he
      exact ⟨b1, b2, XKr_p b3 F1⟩
    · rw [e1] at hz
      cases hz
  | inr z =>
    obtain ⟨z1, z2, z3, z4, z5, z6, z7⟩ := hmi.2 z e1
    have hl5 := z4 hl
    have ea2 : pOrder (cdT tp n) (vlT tp n) true i l = pTail (cdT tp n) (vlT tp n) true z.1 z.2.1 (cdT tp n i) z.2.2 := by
      rw [ea, e1]
      rfl
    have hmt := pM_tail (vl := vlT tp n) (io := true) hz (l := z.2.1) (hd := cdT tp n i) (o := z.2.2) z2
    have hkm : 2 * (z.1 - i) ≤ k ∧ 8 * (z.1 - i) ≤ m := by
      cases e2 : pTail (cdT tp n) (vlT tp n) true z.1 z.2.1 (cdT tp n i) z.2.2 with
      | inl e =>
        obtain ⟨b1, b2, -⟩ := hK.1 e (by rw [ea2, e2])
        have := hmt.1 e e2
        exact ⟨by omega, by omega⟩
      | inr w =>
        obtain ⟨b1, b2, -⟩ := hK.2 w (by rw [ea2, e2])
        have := hmt.2 w e2
        exact ⟨by omega, by omega⟩
    refine ⟨2 * (z.1 - i), 8 * (z.1 - i), hkm.1, hkm.2, h0.1, v_actS hN hN2 hn hb h0 hd hl hi (fun e' he => ?_) (fun z' hz' => ?_)⟩
    · rw [e1] at he
      cases he
    · rw [e1] at hz'
      cases hz'
      refine ⟨Nat.le_refl _, Nat.le_refl _, fun s2 a F2 D2 A2 => ?_⟩
      have H2 := PS0_f h0 F2
      have A4 : AC4 x s2 (NW N s s2) a (cdT tp n i) z.2.2 1 := A2
      refine ⟨H2.1, v_acceptP hN hn hb H2 D2 (by decide) (fun cc => ⟨fun _ => ?_, fun z => absurd rfl z⟩) (fun cc s3 F3 D3 => ⟨fun z => absurd z (by decide), fun _ => ?_⟩)⟩
      · have cc : ¬ cdT tp n z.1 = 27 := cc
        have et : pTail (cdT tp n) (vlT tp n) true z.1 z.2.1 (cdT tp n i) z.2.2 = pb (pOpt (cdT tp n) (vlT tp n) true z.1 z.2.1) (fun w => .inr (w.1, w.2.1, cdT tp n i, z.2.2, 1, w.2.2)) := by
          unfold pTail
          rw [if_neg cc]
        have hop := pM_opt (vl := vlT tp n) (io := true) hz (l := z.2.1) z2
        refine v_or40 hN hN2 hn hb r1 hpw hC F2 D2 hl5 z2 hc A4 ⟨z5, z6, z7⟩ ⟨by decide, by decide⟩ ⟨fun e he => ?_, fun w hw2 => ?_⟩
        · obtain ⟨b1, b2, b3⟩ := hK.1 e (by rw [ea2, et, he]; rfl)
          have := hop.1 e he
          exact ⟨by omega, by omega, b3⟩
        · obtain ⟨b1, b2, b3⟩ := hK.2 _ (by rw [ea2, et, hw2]; rfl)
          have := hop.2 w hw2
          dsimp only at b1 b2 b3
          exact ⟨by omega, by omega, b3⟩
      · have cc : cdT tp n z.1 = 27 := cc
        have zT : z.1 < tokT tp n := cd_lt (cd := cdT tp n) hz cc (by decide)
        have H3 := PS0_f H2 F3
        have F03 := FR_t F2 F3 (Nat.le_refl _)
        have et : ∀ b : Prop, [Decidable b] → (b ↔ cdT tp n (z.1 + 1) = 50 ∧ 1 ≤ vlT tp n (z.1 + 1) ∧ vlT tp n (z.1 + 1) ≤ 20) → pTail (cdT tp n) (vlT tp n) true z.1 z.2.1 (cdT tp n i) z.2.2 = if b then pb (pOpt (cdT tp n) (vlT tp n) true (z.1 + 2) z.2.1) (fun w => .inr (w.1, w.2.1, cdT tp n i, z.2.2, vlT tp n (z.1 + 1), w.2.2)) else .inl (z.1 + 1) := fun b _ hb => by
          unfold pTail
          rw [if_pos cc]
          by_cases h : b
          · rw [if_pos h, if_pos (hb.mp h)]
          · rw [if_neg h, if_neg (fun y => h (hb.mpr y))]
        have bad : ¬ (cdT tp n (z.1 + 1) = 50 ∧ 1 ≤ vlT tp n (z.1 + 1) ∧ vlT tp n (z.1 + 1) ≤ 20) → 1 ≤ k - 2 * (z.1 - i) ∧ 7 ≤ m - 8 * (z.1 - i) ∧ XKr N rd pl rw tp n Kx s1 (z.1 + 1) := fun h => by
          obtain ⟨b1, b2, b3⟩ := hK.1 (z.1 + 1) (by rw [ea2, et False ⟨False.elim, h⟩, if_neg (fun h => h)])
          exact ⟨by omega, by omega, b3⟩
        refine ⟨H3.1, v_isNoughtS hN hn hb H3 D3 (bI_d (fun hno => ?_) (fun hno => ?_))⟩
        · obtain ⟨b1, b2, b3⟩ := bad (fun y => by
            have := (of_decide_eq_true hno).2
            rw [this] at y
            exact absurd y.2.1 (by decide))
          unfold v_X21_read_27
          exact ⟨1, 7, b1, b2, H3.1, v_must0 H3 D3 (Nat.le_refl _) (Nat.le_refl _) (XKr_p b3 (FRr_p F1 F03))⟩
        · have hno := of_decide_eq_false hno
          unfold v_X21_read_27
          refine ⟨0, 0, Nat.zero_le _, Nat.zero_le _, H3.1, v_must1 ⟨(if cdT tp n (z.1 + 1) = 50 ∧ vlT tp n (z.1 + 1) ≤ 20 then 0 else 1), (if cdT tp n (z.1 + 1) = 50 ∧ vlT tp n (z.1 + 1) ≤ 20 then 0 else 7), ?_, ?_, H3.1, v_numberS hN hn hb H3 D3 (by decide) (fun n1 n2 n3 s4 F4 D4 => ?_) (fun h => ?_)⟩⟩
          · by_cases c : cdT tp n (z.1 + 1) = 50 ∧ vlT tp n (z.1 + 1) ≤ 20
            · rw [if_pos c]
              exact Nat.zero_le _
            · rw [if_neg c]
              exact (bad fun y => c ⟨y.1, y.2.2⟩).1
          · by_cases c : cdT tp n (z.1 + 1) = 50 ∧ vlT tp n (z.1 + 1) ≤ 20
            · rw [if_pos c]
              exact Nat.zero_le _
            · rw [if_neg c]
              exact (bad fun y => c ⟨y.1, y.2.2⟩).2.1
          · have c : cdT tp n (z.1 + 1) = 50 ∧ vlT tp n (z.1 + 1) ≤ 20 := ⟨n1, n2⟩
            rw [if_pos c, if_pos c]
            have v1 : 1 ≤ vlT tp n (z.1 + 1) := by
              rw [i32_le, show (1 : Int32).toInt = 1 by decide]
              have : (vlT tp n (z.1 + 1)).toInt ≠ 0 := fun y => hno ⟨n1, Int32.toInt_inj.mp (by rw [y]; decide)⟩
              omega
            have et2 := et True ⟨fun _ => ⟨n1, v1, n2⟩, fun _ => trivial⟩
            rw [if_pos trivial] at et2
            have F24 := FR_t F3 F4 (Nat.le_refl _)
            have F04 := FR_t F2 F24 (Nat.le_refl _)
            obtain ⟨⟨qa, qa2, qa3⟩, o2, a3, a4, a5, a6, a7⟩ := A4
            have fa := F24.1 a (Or.inl qa3)
            have qpl : a ≠ pl := fun z => p2 (z ▸ qa)
            have qrd : rd ≠ a := fun z => p1 (z ▸ qa)
            have o4 : tO s4 17 a := ⟨fa.1.trans o2.1, o2.2⟩
            refine ⟨o4, fun s5 e5 => ?_⟩
            have F5 : FRp N rd pl 0 s s5 := e5 ▸ FR_I F04 (Or.inl ⟨qa, qa2⟩)
            have D5 : PSd rd tp n s5 (z.1 + 2) z.2.1 0 0 := e5 ▸ PSd_I D4 qrd
            have A5 : AC4 x s5 (NW N s s5) a (cdT tp n i) z.2.2 (vlT tp n (z.1 + 1)) := by
              have m1 : mFr (fun b => NW N s s2 b ∧ s2.1 b ≠ some (.inl 17)) s2 s5 := fun b hb => by
                have hne : b ≠ a := fun z => hb.2 (by rw [z]; exact o2.1)
                have fb := F24.1 b (Or.inl hb.1.2.2)
                rw [e5]
                exact ⟨fb.1, (funext fun j => if_neg fun z => hne z.1).trans (fb.2.1 (fun z => p1 (z ▸ hb.1.1))), fb.2.2.2 (fun z => p2 (z ▸ hb.1.1))⟩
              have m1' : ∀ b, (NW N s s2 b ∧ s2.1 b ≠ some (.inl 17)) → NW N s s5 b := fun b hb => by
                have := (NW_f F2 F24).1 hb.1
                exact ⟨this.1, this.2.1, by rw [e5]; exact this.2.2⟩
              have ra : ∀ {j : Nat}, tR s5 a j = tR s2 a j := fun {j} => by
                rw [e5]
                exact congrFun (fa.2.2.2 qpl) j
              refine ⟨⟨qa, qa2, by rw [e5]; show s4.1 a ≠ none; rw [o4.1]; intro z; cases z⟩, by rw [e5]; exact o4, ra.trans a3, ?_, ?_, fun D hD => ?_, ra.trans a7.1, fun hn => ⟨ra.trans (a7.2 hn).1, ra.trans (a7.2 hn).2⟩⟩
              · rw [e5]
                exact (if_neg fun z => absurd z.2 (by decide)).trans ((congrFun (fa.2.1 qrd.symm) 0).trans a4)
              · rw [e5]
                exact if_pos ⟨rfl, rfl⟩
              · rw [ra, ra]
                exact ⟨isSum_fr m1 m1' _ _ _ (isSum_17 _ _ _ (a6 D hD).1), isSum_fr m1 m1' _ _ _ (isSum_17 _ _ _ (a6 D hD).2)⟩
            have zT2 : z.1 + 1 < tokT tp n := cd_lt (cd := cdT tp n) hz n1 (by decide)
            have hop := pM_opt (vl := vlT tp n) (io := true) hz (l := z.2.1) (by omega : z.1 + 2 ≤ tokT tp n)
            refine v_or40 hN hN2 hn hb r1 hpw hC F5 D5 hl5 (by omega) hc A5 ⟨z5, z6, z7⟩ ⟨v1, n2⟩ ⟨fun e he => ?_, fun w hw2 => ?_⟩
            · obtain ⟨b1, b2, b3⟩ := hK.1 e (by rw [ea2, et2, he]; rfl)
              have := hop.1 e he
              exact ⟨by omega, by omega, b3⟩
            · obtain ⟨b1, b2, b3⟩ := hK.2 _ (by rw [ea2, et2, hw2]; rfl)
              have := hop.2 w hw2
              dsimp only at b1 b2 b3
              exact ⟨by omega, by omega, b3⟩
          · rw [if_neg h, if_neg h]
            exact ⟨Nat.le_refl _, Nat.le_refl _, XKr_p (bad fun y => h ⟨y.1, y.2.2⟩).2.2 (FRr_p F1 F03)⟩
end OD
