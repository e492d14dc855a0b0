set_option maxRecDepth 100000
/-! ===== the system's reader of orders: an act with two sums ===== -/
/-- an act, but for how often and when -/
def ACt (x : Nat) (s : tM) (M : Nat → Prop) (a : Nat) (kind : Int32) (D : dS × dS) : Prop := M a ∧ tO s 17 a ∧ tR s a 6 = x ∧ tI s a 0 = kind ∧ tI s a 4 = 1 ∧ isSum s M true x 60 (tR s a 1) D.1 ∧ isSum s M true x 60 (tR s a 2) D.2 ∧ tR s a 3 = 0
section AC
variable {N : tP} {rd x ta pl wd p : Nat} {tp : Nat → Int32} {n : Nat} {s : tM} {i l : Nat}
theorem v_act69 (hN : 402 ≤ N.1) (hN2 : 60 ≤ N.2.1) (hn : n ≤ 400) (hb : ∀ k, k < 400 → byT (tp k)) (h0 : PS0 N true rd x ta pl wd tp n s) (hd : PSd rd tp n s i l 0 p) (hl : l ≤ 50) (hi : i ≤ tokT tp n) {b : Bool} {k m : Nat} {Kr : Nat → tM → Prop} {Kx : String → Nat → tM → Prop} (hK1 : ∀ e, (pb (pSum (cdT tp n) (vlT tp n) true 8 i l) fun z => pb (if cdT tp n z.1 = 26 then pSum (cdT tp n) (vlT tp n) true 8 (z.1 + 1) z.2.1 else .inl z.1) fun w => (.inr (w.1, w.2.1, (z.2.2, w.2.2)) : pR (Nat × Nat × (dS × dS)))) = .inl e → 2 * (e - i) + 3 ≤ k ∧ 4 * (e - i) + 15 ≤ m ∧ XK N rd pl p tp n Kx s e) (hK2 : ∀ z, (pb (pSum (cdT tp n) (vlT tp n) true 8 i l) fun z => pb (if cdT tp n z.1 = 26 then pSum (cdT tp n) (vlT tp n) true 8 (z.1 + 1) z.2.1 else .inl z.1) fun w => (.inr (w.1, w.2.1, (z.2.2, w.2.2)) : pR (Nat × Nat × (dS × dS)))) = .inr z → 2 * (z.1 - i) + 1 ≤ k ∧ 4 * (z.1 - i) + 7 ≤ m ∧ ∀ s' a, FRp N rd pl p s s' → PSd rd tp n s' z.1 z.2.1 0 p → ACt x s' (NW N s s') a (if b = true then 0 else 1) z.2.2 → Kr a s') : v_X21_act_69 N rd (bI b) rd Kr Kx k m s := by
  have hz : ∀ k, tokT tp n ≤ k → cdT tp n k = 0 := fun k hk => cdT_z hn k hk
  have hF : itS N true rd x ta pl wd tp n (trS true x) 0 (pSum (cdT tp n) (vlT tp n) true 8) (fun k m s Kr Kx => r_X7_part N (N.2.1 - 2 + 2) 1 rd k m s Kr Kx) := (v_sumR hN hn hb 8 0 rfl (N.2.1 - 2) (by omega)).2.2
  rw [show N.2.1 - 2 + 2 = N.2.1 by omega] at hF
  have hmi := pM_sum (vl := vlT tp n) (io := true) hz 8 i l hi
  obtain ⟨p1, p2, -⟩ := PS0_rd h0
  unfold v_X21_act_69 v_X21_act_74
  refine ⟨0, 0, Nat.zero_le _, Nat.zero_le _, h0.1, v_must1 ?_⟩
  cases e1 : pSum (cdT tp n) (vlT tp n) true 8 i l with
  | inl e =>
    obtain ⟨b1, b2, b3⟩ := hK1 e (by rw [e1]; rfl)
    refine ⟨k - 0, m - 0, Nat.le_refl _, Nat.le_refl _, h0.1, hF s i l p _ _ _ _ h0 hd hl hi ⟨fun e' he => ?_, fun z hz => ?_⟩⟩
    · rw [e1] at he
      cases he
      exact ⟨by omega, by omega, b3⟩
    · rw [e1] at hz
      cases hz
  | inr z =>
    have hz1 := hmi.2 z e1
    have hl5 := hz1.2.2.2 hl
    have er : ∀ {r : pR (Nat × Nat × dS)}, (if cdT tp n z.1 = 26 then pSum (cdT tp n) (vlT tp n) true 8 (z.1 + 1) z.2.1 else .inl z.1) = r → (pb (pSum (cdT tp n) (vlT tp n) true 8 i l) fun z => pb (if cdT tp n z.1 = 26 then pSum (cdT tp n) (vlT tp n) true 8 (z.1 + 1) z.2.1 else .inl z.1) fun w => (.inr (w.1, w.2.1, (z.2.2, w.2.2)) : pR (Nat × Nat × (dS × dS)))) = pb r fun w => .inr (w.1, w.2.1, (z.2.2, w.2.2)) := fun h => by
      rw [e1]
      show pb (if cdT tp n z.1 = 26 then _ else _) _ = _
      rw [h]
    have hge : (∀ e, (if cdT tp n z.1 = 26 then pSum (cdT tp n) (vlT tp n) true 8 (z.1 + 1) z.2.1 else .inl z.1) = .inl e → z.1 ≤ e) ∧ ∀ w, (if cdT tp n z.1 = 26 then pSum (cdT tp n) (vlT tp n) true 8 (z.1 + 1) z.2.1 else .inl z.1) = .inr w → z.1 + 1 < w.1 ∧ z.2.1 < w.2.1 ∧ w.2.1 ≤ 50 := by
      by_cases c : cdT tp n z.1 = 26
      · have zT : z.1 < tokT tp n := cd_lt (cd := cdT tp n) hz c (by decide)
        have hm2 := pM_sum (vl := vlT tp n) (io := true) hz 8 (z.1 + 1) z.2.1 zT
        rw [if_pos c]
        exact ⟨fun e he => by have := (hm2.1 e he).1; omega, fun w hw => by have := hm2.2 w hw; exact ⟨this.1, this.2.2.1, this.2.2.2 hl5⟩⟩
      · rw [if_neg c]
        exact ⟨fun e he => by cases he; exact Nat.le_refl _, fun w hw => by cases hw⟩
    have hkm : 2 * (z.1 - i) + 1 ≤ k ∧ 4 * (z.1 - i) + 7 ≤ m := by
      cases e2 : (if cdT tp n z.1 = 26 then pSum (cdT tp n) (vlT tp n) true 8 (z.1 + 1) z.2.1 else .inl z.1) with
      | inl e =>
        obtain ⟨b1, b2, -⟩ := hK1 e (by rw [er e2]; rfl)
        have := hge.1 e e2
        exact ⟨by omega, by omega⟩
      | inr w =>
        obtain ⟨b1, b2, -⟩ := hK2 _ (by rw [er e2]; rfl)
        have := hge.2 w e2
        dsimp only at b1 b2
        exact ⟨by omega, by omega⟩
    refine ⟨2 * (z.1 - i), 4 * (z.1 - i), by omega, by omega, h0.1, hF s i l p _ _ _ _ h0 hd hl hi ⟨fun e' he => ?_, fun z' hz' => ?_⟩⟩
    · rw [e1] at he
      cases he
    · rw [e1] at hz'
      cases hz'
      refine ⟨Nat.le_refl _, Nat.le_refl _, fun s2 a F2 D2 T2 => ⟨by omega, by omega, fun q hq hq0 hq2 s3 e3 => ?_⟩⟩
      have H2 := PS0_f h0 F2
      obtain ⟨u1, u2, u3⟩ := nw_c H2 F2 hq
      have F3 : FRp N rd pl p s s3 := e3 ▸ FR_n F2 u1 hq2 u3
      have F23 : FRp N rd pl p s2 s3 := e3 ▸ FR_n FR_r hq hq2 u3
      have H3 := PS0_f h0 F3
      have D3 : PSd rd tp n s3 z.1 z.2.1 0 p := e3 ▸ PSd_n D2 u2
      have o3 : tO s3 17 q := by
        rw [e3]
        exact ⟨if_pos rfl, hq0⟩
      have q3 : s3.1 q ≠ none := by
        rw [o3.1]
        intro z
        cases z
      have z3 : tR s3 q 3 = 0 := by
        rw [e3]
        exact if_pos rfl
      have go : ∀ kind : Int32, kind = (if b = true then 0 else 1) → ∃ c d : Nat, c ≤ k - 0 - 2 * (z.1 - i) - 1 ∧ d ≤ m - 0 - 4 * (z.1 - i) - 7 ∧ v_X21_behind N rd (N.2.2 33) c d s3 (fun x123 s124 => (tO s124 17 q ∧ (v_X20_init q (tR s3 rd 9) kind a x123 s124 (fun s130 => (Kr q s130))))) Kx := fun kind ek => by
        refine ⟨_, _, Nat.le_refl _, Nat.le_refl _, v_behindS hN hN2 hn hb H3 D3 hl5 ⟨fun e he => ?_, fun w hw => ?_⟩⟩
        · obtain ⟨b1, b2, b3⟩ := hK1 e (by rw [er he]; rfl)
          have := hge.1 e he
          exact ⟨by omega, by omega, XK_t b3 F3 (Nat.le_refl _)⟩
        · obtain ⟨b1, b2, b3⟩ := hK2 _ (by rw [er hw]; rfl)
          have hw1 := hge.2 w hw
          dsimp only at b1 b2 b3
          refine ⟨by omega, by omega, fun s4 y F4 D4 T4 => ?_⟩
          have o4 : tO s4 17 q := ⟨(F4.1 q (Or.inl q3)).1.trans o3.1, hq0⟩
          have z4 : tR s4 q 3 = 0 := (congrFun ((F4.1 q (Or.inl q3)).2.2.2 u3) 3).trans z3
          have F04 := FR_t F3 F4 (Nat.le_refl _)
          have F24 := FR_t F23 F4 (Nat.le_refl _)
          rw [H3.2.2.2.2.1 rfl]
          unfold v_X20_init
          refine ⟨o4, o4, fun s5 e5 s6 e6 s7 e7 s8 e8 s9 e9 => ?_⟩
          rw [e8, e7, e6, e5] at e9
          have o9 : tO s9 17 q := by
            rw [e9]
            exact o4
          have F9 : FRp N rd pl p s s9 := e9 ▸ FR_R (FR_R (FR_I (FR_I (FR_R F04 u1 hq2 u3) (Or.inl ⟨u1, hq2⟩)) (Or.inl ⟨u1, hq2⟩)) u1 hq2 u3) u1 hq2 u3
          have F29 : FRp N rd pl p s2 s9 := e9 ▸ FR_R (FR_R (FR_I (FR_I (FR_R F24 hq hq2 u3) (Or.inl ⟨hq, hq2⟩)) (Or.inl ⟨hq, hq2⟩)) hq hq2 u3) hq hq2 u3
          have D9 : PSd rd tp n s9 w.1 w.2.1 0 p := PSd_q D4 (by rw [e9]; exact funext fun j => (if_neg fun z => u2 z.1).trans (if_neg fun z => u2 z.1))
          refine b3 s9 q F9 D9 ⟨⟨u1, hq2, by rw [o9.1]; intro z; cases z⟩, o9, ?_, ?_, ?_, ?_, ?_, ?_⟩
          · rw [e9]
            exact (if_neg fun z => absurd z.2 (by decide)).trans ((if_neg fun z => absurd z.2 (by decide)).trans (if_pos ⟨rfl, rfl⟩))
          · rw [e9, ← ek]
            exact if_pos ⟨rfl, rfl⟩
          · rw [e9]
            exact (if_neg fun z => absurd z.2 (by decide)).trans (if_pos ⟨rfl, rfl⟩)
          · have e : tR s9 q 1 = a := by
              rw [e9]
              exact (if_neg fun z => absurd z.2 (by decide)).trans (if_pos ⟨rfl, rfl⟩)
            rw [e]
            exact isSum_up _ _ _ _ (by omega) (isSum_fr (NW_m F29 p1 p2) (fun a ha => (NW_f F2 F29).1 ha) _ _ _ T2)
          · have e : tR s9 q 2 = y := by
              rw [e9]
              exact if_pos ⟨rfl, rfl⟩
            rw [e]
            refine isSum_up (w.2.1 - z.2.1) _ _ _ (by omega) (isSum_fr (M := NW N s3 s4) (s := s4) (fun a ha => ?_) (fun a ha => ?_) _ _ _ T4)
            · have hne : a ≠ q := fun z => q3 (z ▸ ha.1)
              rw [e9]
              exact ⟨rfl, funext fun j => (if_neg fun z => hne z.1).trans (if_neg fun z => hne z.1), funext fun j => (if_neg fun z => hne z.1).trans ((if_neg fun z => hne z.1).trans (if_neg fun z => hne z.1))⟩
            · have := (NW_f F3 F4).2 ha
              exact ⟨this.1, this.2.1, by rw [e9]; exact this.2.2⟩
          · rw [e9]
            exact (if_neg fun z => absurd z.2 (by decide)).trans ((if_neg fun z => absurd z.2 (by decide)).trans ((if_neg fun z => absurd z.2 (by decide)).trans z4))
      refine ⟨H3.1, bI_c (fun eb => go 1 (by rw [eb]; rfl)) (fun eb => go 0 (by rw [eb]; rfl))⟩
end AC
