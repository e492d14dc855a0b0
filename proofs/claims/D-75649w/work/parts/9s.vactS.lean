set_option maxRecDepth 100000
/-! ===== the system's reader of orders: an act's head ===== -/
section AS
variable {N : tP} {rd x ta pl wd p : Nat} {tp : Nat → Int32} {n : Nat} {s : tM} {i l : Nat}
theorem pAct_2 {cd vl : Nat → Int32} (h : cd i = 22 ∨ cd i = 23) : pAct cd vl i l = pb (pb (pSum cd vl true 8 (i + 1) l) fun z => pb (if cd z.1 = 26 then pSum cd vl true 8 (z.1 + 1) z.2.1 else .inl z.1) fun w => (.inr (w.1, w.2.1, (z.2.2, w.2.2)) : pR (Nat × Nat × (dS × dS)))) fun w => .inr (w.1, w.2.1, some w.2.2) := by
  unfold pAct
  rw [if_pos h]
  cases pSum cd vl true 8 (i + 1) l with
  | inl e => rfl
  | inr z =>
    show pb (if cd z.1 = 26 then _ else _) _ = pb (pb (if cd z.1 = 26 then _ else _) _) _
    by_cases c2 : cd z.1 = 26
    · rw [if_pos c2]
      cases pSum cd vl true 8 (z.1 + 1) z.2.1 with
      | inl e => rfl
      | inr w => rfl
    · rw [if_neg c2]
      rfl
theorem v_actS (hN : 402 ≤ N.1) (hN2 : 60 ≤ N.2.1) (hn : n ≤ 400) (hb : ∀ k, k < 400 → byT (tp k)) (h0 : PS0 N true rd x ta pl wd tp n s) (hd : PSd rd tp n s i l 0 p) (hl : l ≤ 50) (hi : i ≤ tokT tp n) {k m : Nat} {Kr : Nat → tM → Prop} {Kx : String → Nat → tM → Prop} (hK1 : ∀ e, pAct (cdT tp n) (vlT tp n) i l = .inl e → 2 * (e - i) + 2 ≤ k ∧ 8 * (e - i) + 8 ≤ m ∧ XK N rd pl p tp n Kx s e) (hK2 : ∀ z, pAct (cdT tp n) (vlT tp n) i l = .inr z → 2 * (z.1 - i) ≤ k ∧ 8 * (z.1 - i) ≤ m ∧ ∀ s' a, FRp N rd pl p s s' → PSd rd tp n s' z.1 z.2.1 0 p → ACh x s' (NW N s s') a (cdT tp n i) z.2.2 → Kr a s') : v_X21_act N rd k m s Kr Kx := by
  have hz : ∀ k, tokT tp n ≤ k → cdT tp n k = 0 := fun k hk => cdT_z hn k hk
  -- an act alone
  have one : ∀ kind : Int32, (cdT tp n i = 24 ∨ cdT tp n i = 25) → kind = cdT tp n i - 22 → ∀ s1, FRp N rd pl p s s1 → PSd rd tp n s1 (i + 1) l 0 p → 1 ≤ k ∧ (7 ≤ m ∧ (∀ q119 : Nat, s1.1 q119 = none → ¬ q119 = 0 → ¬ q119 = N.2.2 200 → (∀ s120 : tM, s120 = tNew s1 q119 (.inl 17) → (tO s120 18 rd ∧ (v_X20_init q119 (tR s120 rd 9) kind 0 0 s120 (fun s125 => (Kr q119 s125))))))) := fun kind h24 ek s1 F1 D1 => by
    have er : pAct (cdT tp n) (vlT tp n) i l = .inr (i + 1, l, none) := by
      unfold pAct
      rw [if_neg, if_pos h24]
      rcases h24 with h | h <;> rw [h] <;> decide
    obtain ⟨b1, b2, b3⟩ := hK2 _ er
    dsimp only at b1 b2 b3
    refine ⟨by omega, by omega, fun q hq hq0 hq2 s3 e3 => v_actO (p := p) (PS0_f h0 F1) D1 hq hq0 hq2 e3 (fun s' f1 f2 f3 f4 f5 f6 f7 f8 f9 => ?_)⟩
    exact b3 s' q (FR_t F1 f1 (Nat.le_refl _)) f2 ⟨(NW_f F1 f1).2 f3, f4, f5, f6.trans ek, f7, (fun D hD => by cases hD), f8, fun _ => f9⟩
  have two : ∀ b : Bool, cdT tp n i = (if b = true then 22 else 23) → ∀ s1, FRp N rd pl p s s1 → PSd rd tp n s1 (i + 1) l 0 p → v_X21_act_69 N rd (bI b) rd Kr Kx k m s1 := fun b hcb s1 F1 D1 => by
    have h2 : cdT tp n i = 22 ∨ cdT tp n i = 23 := by
      cases b with
      | true => exact Or.inl hcb
      | false => exact Or.inr hcb
    have iT : i < tokT tp n := h2.elim (fun h => cd_lt (cd := cdT tp n) hz h (by decide)) (fun h => cd_lt (cd := cdT tp n) hz h (by decide))
    have er := pAct_2 (vl := vlT tp n) (l := l) h2
    have hmi := pM_sum (vl := vlT tp n) (io := true) hz 8 (i + 1) l (by omega)
    refine v_act69 hN hN2 hn hb (PS0_f h0 F1) D1 hl (by omega) (fun e he => ?_) (fun z hz2 => ?_)
    · obtain ⟨b1, b2, b3⟩ := hK1 e (by rw [er, he]; rfl)
      have hge : i + 1 ≤ e := by
        rcases pb_l he with h | ⟨z, h, h3⟩
        · exact (hmi.1 e h).1
        · have z1 := (hmi.2 z h).1
          rcases pb_l h3 with h4 | ⟨w, h4, h5⟩
          · by_cases c : cdT tp n z.1 = 26
            · rw [if_pos c] at h4
              have zT : z.1 < tokT tp n := cd_lt (cd := cdT tp n) hz c (by decide)
              have := ((pM_sum (vl := vlT tp n) (io := true) hz 8 (z.1 + 1) z.2.1 zT).1 e h4).1
              omega
            · rw [if_neg c] at h4
              cases h4
              omega
          · cases h5
      exact ⟨by omega, by omega, XK_t b3 F1 (Nat.le_refl _)⟩
    · obtain ⟨b1, b2, b3⟩ := hK2 _ (by rw [er, hz2]; rfl)
      dsimp only at b1 b2 b3
      have hge : i + 1 < z.1 := by
        obtain ⟨y, h, h3⟩ := pb_r hz2
        have z1 := (hmi.2 y h).1
        obtain ⟨w, h4, h5⟩ := pb_r h3
        cases h5
        by_cases c : cdT tp n y.1 = 26
        · rw [if_pos c] at h4
          have zT : y.1 < tokT tp n := cd_lt (cd := cdT tp n) hz c (by decide)
          have := ((pM_sum (vl := vlT tp n) (io := true) hz 8 (y.1 + 1) y.2.1 zT).2 w h4).1
          show i + 1 < w.1
          omega
        · rw [if_neg c] at h4
          cases h4
      refine ⟨by omega, by omega, fun s' a f1 f2 ⟨a1, a2, a3, a4, a5, a6, a7, a8⟩ => b3 s' a (FR_t F1 f1 (Nat.le_refl _)) f2 ⟨(NW_f F1 f1).2 a1, a2, a3, ?_, a5, fun D hD => ?_, a8, fun z => by cases z⟩⟩
      · rw [a4, hcb]
        cases b <;> decide
      · cases hD
        exact ⟨isSum_fr (mFr_r _ _) (fun a ha => (NW_f F1 f1).2 ha) _ _ _ a6, isSum_fr (mFr_r _ _) (fun a ha => (NW_f F1 f1).2 ha) _ _ _ a7⟩
  unfold v_X21_act
  refine ⟨h0.1, v_acceptP hN hn hb h0 hd (by decide) (fun c1 => ⟨fun _ => ⟨h0.1, v_acceptP hN hn hb h0 hd (by decide) (fun c2 => ⟨fun _ => ⟨h0.1, v_acceptP hN hn hb h0 hd (by decide) (fun c3 => ⟨fun z => absurd rfl z, fun _ => ⟨h0.1, v_acceptP hN hn hb h0 hd (by decide) (fun c4 => ⟨fun _ => ?_, fun z => absurd rfl z⟩) (fun c4 s1 F1 D1 => ⟨fun z => absurd z (by decide), fun _ => two false c4 s1 F1 D1⟩)⟩⟩) (fun c3 s1 F1 D1 => ⟨fun _ => two true c3 s1 F1 D1, fun z => absurd z (by decide)⟩)⟩, fun z => absurd rfl z⟩) (fun c2 s1 F1 D1 => ⟨fun z => absurd z (by decide), fun _ => one 2 (Or.inl c2) (by rw [show cdT tp n i = 24 from c2]; decide) s1 F1 D1⟩)⟩, fun z => absurd rfl z⟩) (fun c1 s1 F1 D1 => ⟨fun z => absurd z (by decide), fun _ => one 3 (Or.inr c1) (by rw [show cdT tp n i = 25 from c1]; decide) s1 F1 D1⟩)⟩
  have er : pAct (cdT tp n) (vlT tp n) i l = .inl i := by
    unfold pAct
    rw [if_neg (fun z => z.elim c3 c4), if_neg (fun z => z.elim c2 c1)]
  obtain ⟨b1, b2, b3⟩ := hK1 i er
  unfold v_X21_act_74
  exact ⟨1, 7, by omega, by omega, h0.1, v_must0 h0 hd (Nat.le_refl _) (Nat.le_refl _) b3⟩
end AS
