set_option maxRecDepth 100000
/-! ===== the system's reader of orders: a sum behind a word ===== -/
section BH
variable {N : tP} {rd x ta pl wd p : Nat} {tp : Nat → Int32} {n : Nat} {s : tM} {i l : Nat}
theorem v_behindS (hN : 402 ≤ N.1) (hN2 : 60 ≤ N.2.1) (hn : n ≤ 400) (hb : ∀ k, k < 400 → byT (tp k)) (h0 : PS0 N true rd x ta pl wd tp n s) (hd : PSd rd tp n s i l 0 p) (hl : l ≤ 50) {k m : Nat} {Kr : Nat → tM → Prop} {Kx : String → Nat → tM → Prop} (hK : okR N rd pl tp n (trS true x) 0 p s i l (if cdT tp n i = 26 then pSum (cdT tp n) (vlT tp n) true 8 (i + 1) l else .inl i) k m Kr Kx) : v_X21_behind N rd (N.2.2 33) k m s Kr Kx := by
  have hz : ∀ k, tokT tp n ≤ k → cdT tp n k = 0 := fun k hk => cdT_z hn k hk
  unfold v_X21_behind
  refine ⟨h0.1, v_acceptP hN hn hb h0 hd (by decide) (fun c => ?_) (fun c s1 F1 D1 => ?_)⟩
  · have c : ¬ cdT tp n i = 26 := c
    rw [if_neg c] at hK
    obtain ⟨b1, b2, b3⟩ := hK.1 i rfl
    exact ⟨1, 7, by omega, by omega, h0.1, v_must0 h0 hd (Nat.le_refl _) (Nat.le_refl _) b3⟩
  · have c : cdT tp n i = 26 := c
    rw [if_pos c] at hK
    have iT : i < tokT tp n := cd_lt (cd := cdT tp n) hz c (by decide)
    have H1 := PS0_f h0 F1
    have hmi := pM_sum (vl := vlT tp n) (io := true) hz 8 (i + 1) l (by omega)
    have hF : itS N true rd x ta pl wd tp n (trS true x) 0 (pSum (cdT tp n) (vlT tp n) true 8) (fun k m s Kr Kx => r_X7_part N (N.2.1 - 2 + 2) 1 rd k m s Kr Kx) := (v_sumR hN hn hb 8 0 rfl (N.2.1 - 2) (by omega)).2.2
    rw [show N.2.1 - 2 + 2 = N.2.1 by omega] at hF
    refine ⟨0, 0, Nat.zero_le _, Nat.zero_le _, H1.1, v_must1 ⟨k - 0, m - 0, Nat.le_refl _, Nat.le_refl _, H1.1, hF s1 (i + 1) l p _ _ _ _ H1 D1 hl (by omega) ⟨fun e he => ?_, fun z hz2 => ?_⟩⟩⟩
    · obtain ⟨b1, b2, b3⟩ := hK.1 e he
      have := hmi.1 e he
      exact ⟨by omega, by omega, XK_t b3 F1 (Nat.le_refl _)⟩
    · obtain ⟨b1, b2, b3⟩ := hK.2 z hz2
      have := hmi.2 z hz2
      exact ⟨by omega, by omega, fun s2 a F2 D2 T2 => b3 s2 a (FR_t F1 F2 (Nat.le_refl _)) D2 (isSum_fr (mFr_r _ _) (fun a ha => (NW_f F1 F2).2 ha) _ _ _ T2)⟩
end BH
