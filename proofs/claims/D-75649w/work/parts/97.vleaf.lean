set_option maxRecDepth 100000
/-! ===== the system's reader: a leaf of a sum ===== -/
/-- what a call of the parser must meet: its room, its answer, its wrong -/
def okR {α : Type} (N : tP) (rd pl : Nat) (tp : Nat → Int32) (n : Nat) (TR : tM → (Nat → Prop) → Nat → Nat → α → Prop) (d p : Nat) (s : tM) (i l : Nat) (r : pR (Nat × Nat × α)) (k m : Nat) (Kr : Nat → tM → Prop) (Kx : String → Nat → tM → Prop) : Prop := (∀ e, r = .inl e → 2 * (e - i) + 2 ≤ k ∧ 4 * (e - i) + 8 ≤ m ∧ XK N rd pl p tp n Kx s e) ∧ ∀ z, r = .inr z → 2 * (z.1 - i) ≤ k ∧ 4 * (z.1 - i) ≤ m ∧ ∀ s' a, FRp N rd pl p s s' → PSd rd tp n s' z.1 z.2.1 d p → TR s' (NW N s s') (z.2.1 - l) a z.2.2 → Kr a s'
theorem isW_t {io : Bool} {c : Int32} (h : isW io c = true) : ∃ w, w < (wdI io).length ∧ c = cdS ((wdI io).getD w 0) := by
  have hb : 8 ≤ c.toInt ∧ c.toInt ≤ 21 := by
    unfold isW at h
    cases io with
    | true =>
      rw [if_pos rfl, Bool.and_eq_true, decide_eq_true_eq, decide_eq_true_eq, i32_le, i32_le] at h
      rw [show (15 : Int32).toInt = 15 by decide, show (21 : Int32).toInt = 21 by decide] at h
      omega
    | false =>
      rw [if_neg (by decide), Bool.and_eq_true, decide_eq_true_eq, decide_eq_true_eq, i32_le, i32_le] at h
      rw [show (8 : Int32).toInt = 8 by decide, show (17 : Int32).toInt = 17 by decide] at h
      omega
  obtain ⟨j, j1, j2⟩ := i32N (c := c) (by omega)
  have key : ∀ io : Bool, ∀ j, j < 22 → isW io (nI j) = true → (List.range (wdI io).length).any (fun w => decide (nI j = cdS ((wdI io).getD w 0))) = true := by decide +kernel
  have := key io j (by omega) (by rw [← j1]; exact h)
  rw [List.any_eq_true] at this
  obtain ⟨w, w1, w2⟩ := this
  exact ⟨w, List.mem_range.mp w1, by rw [j1]; exact of_decide_eq_true w2⟩
theorem isW_w1 : ∀ io : Bool, ∀ w, w < (wdI io).length → isW io (cdS ((wdI io).getD w 0)) = true := by decide +kernel
theorem isW_w2 : ∀ io : Bool, ∀ w, w < (wdI io).length → (wdI io).getD w 0 < 40 := by decide +kernel
theorem isW_w3 : ∀ io : Bool, ∀ w, w < (wdI io).length → (io = true → w < 5) → (cdS ((wdI io).getD w 0)).toNatClampNeg = mpc io w := by decide +kernel
theorem isW_w5 : ∀ io : Bool, ∀ w, w < (wdI io).length → (io = true → w < 5) → io = true → cdS ((wdI io).getD w 0) ≠ 15 ∧ cdS ((wdI io).getD w 0) ≠ 16 := by decide +kernel
theorem isW_w4 : ∀ w, w < 7 → 5 ≤ w → (w = 5 ∧ cdS ((wdI true).getD w 0) = 15) ∨ (w = 6 ∧ cdS ((wdI true).getD w 0) = 16) := by decide +kernel
theorem isW_w : ∀ io : Bool, ∀ w, w < (wdI io).length → isW io (cdS ((wdI io).getD w 0)) = true ∧ (wdI io).getD w 0 < 40 ∧ ((io = true → w < 5) → (cdS ((wdI io).getD w 0)).toNatClampNeg = mpc io w ∧ ¬ (io = true ∧ (cdS ((wdI io).getD w 0) = 15 ∨ cdS ((wdI io).getD w 0) = 16))) ∧ (io = true → 5 ≤ w → (w = 5 ∧ cdS ((wdI io).getD w 0) = 15) ∨ (w = 6 ∧ cdS ((wdI io).getD w 0) = 16)) := fun io w hw => ⟨isW_w1 io w hw, isW_w2 io w hw, fun h => ⟨isW_w3 io w hw h, fun z => z.2.elim (isW_w5 io w hw h z.1).1 (isW_w5 io w hw h z.1).2⟩, fun h h5 => by
  subst h
  exact isW_w4 w hw h5⟩
theorem wdI_l : ∀ io : Bool, (wdI io).length ≤ 10 := by decide
section LF
variable {N : tP} {io : Bool} {rd x ta pl wd p : Nat} {tp : Nat → Int32} {n : Nat} {s s' s2 : tM} {i l d q : Nat}
theorem FR_fr (h : FRp N rd pl p s s') (hq : s'.1 q = none) : s.1 q = none := Classical.byContradiction fun y => by
  have := (h.1 q (Or.inl y)).1
  rw [hq] at this
  exact y this.symm
theorem PSd_n {c : Nat ⊕ (Nat × Nat)} (h : PSd rd tp n s i l d p) (hq : rd ≠ q) : PSd rd tp n (tNew s q c) i l d p := PSd_q h (funext fun _ => if_neg hq)
theorem PSd_I {j : Nat} {v : Int32} (h : PSd rd tp n s i l d p) (hq : rd ≠ q) : PSd rd tp n (tsI s q j v) i l d p := PSd_q h (funext fun _ => if_neg fun z => hq z.1)
/-- a new cell behind a reader -/
theorem nw_c (h0 : PS0 N io rd x ta pl wd tp n s') (hf : FRp N rd pl p s s') (hq : s'.1 q = none) : s.1 q = none ∧ rd ≠ q ∧ q ≠ pl := ⟨FR_fr hf hq, fun z => (PS0_rd h0).1 (z ▸ hq), fun z => (PS0_rd h0).2.1 (z ▸ hq)⟩
theorem v_wordS (hN : 402 ≤ N.1) (hn : n ≤ 400) (hb : ∀ k, k < 400 → byT (tp k)) (h0 : PS0 N io rd x ta pl wd tp n s) (hd : PSd rd tp n s (i + 1) (l + 1) d p) {w : Nat} (hw : w < (wdI io).length) {k m : Nat} {Kr : Nat → tM → Prop} {Kx : String → Nat → tM → Prop} (hlow : (io = true → w < 5) → 1 ≤ k ∧ 1 ≤ m ∧ ∀ s' a, FRp N rd pl p s s' → PSd rd tp n s' (i + 1) (l + 1) d p → isSum s' (NW N s s') io x 1 a (fun e => some (e (mpc io w))) → Kr a s') (hok : io = true → 5 ≤ w → cdT tp n (i + 1) = 50 → 0 ≤ vlT tp n (i + 1) → vlT tp n (i + 1) ≤ 11 → 1 ≤ k ∧ 3 ≤ m ∧ ∀ s' a, FRp N rd pl p s s' → PSd rd tp n s' (i + 2) (l + 1) d p → isSum s' (NW N s s') io x 1 a (fun e => some (e (ntI (cdS ((wdI io).getD w 0)) (vlT tp n (i + 1))))) → Kr a s') (hbad : io = true → 5 ≤ w → ¬ (cdT tp n (i + 1) = 50 ∧ 0 ≤ vlT tp n (i + 1) ∧ vlT tp n (i + 1) ≤ 11) → 2 ≤ k ∧ 10 ≤ m ∧ XK N rd pl p tp n Kx s (i + 1)) : v_U_behindWord N rd (nI w) k m s Kr Kx := by
  have hl10 := wdI_l io
  have low : (io = true → w < 5) → 1 ≤ k ∧ 1 ≤ m ∧ ∀ q : Nat, s.1 q = none → ¬ q = 0 → ¬ q = N.2.2 200 → ∀ s1 : tM, s1 = tNew s q (.inl 10) → v_X12_init q (nI w) s1 (fun s108 => Kr q s108) := fun hlw => by
    obtain ⟨k1, k2, k3⟩ := hlow hlw
    refine ⟨k1, k2, fun q hq hq0 hq2 s1 e1 => ?_⟩
    obtain ⟨g1, g2, g3⟩ := nw_c (p := p) h0 FR_r hq
    have o1 : tO s1 10 q := by
      rw [e1]
      exact ⟨if_pos rfl, hq0⟩
    unfold v_X12_init v_X10_init
    refine ⟨o1, hq0, o1, fun s2 e2 => ?_⟩
    rw [e1] at e2
    refine k3 s2 q (e2 ▸ FR_I (FR_n FR_r hq hq2 g3) (Or.inl ⟨hq, hq2⟩)) (e2 ▸ PSd_I (PSd_n hd g2) g2) ⟨⟨hq, hq2, ?_⟩, Or.inr (Or.inl ⟨?_, w, by omega, hlw, ?_, rfl⟩)⟩
    · rw [e2]
      show (if q = q then _ else _) ≠ none
      rw [if_pos rfl]
      intro z
      cases z
    · rw [e2, ← e1]
      exact o1
    · rw [e2]
      exact if_pos ⟨rfl, rfl⟩
  unfold v_U_behindWord v_X7_behindWord v_X21_behindWord
  cases io with
  | false => exact Or.inl ⟨h0.1, low (fun z => by cases z)⟩
  | true =>
    refine Or.inr ⟨h0.1, ?_⟩
    rw [show (5 : Int32) = nI 5 from rfl, nI_lle (by omega) (by omega)]
    refine ⟨fun h5 => ?_, fun h5 => low (fun _ => by omega)⟩
    have hkm : 1 ≤ k ∧ 3 ≤ m := by
      by_cases c : cdT tp n (i + 1) = 50 ∧ 0 ≤ vlT tp n (i + 1) ∧ vlT tp n (i + 1) ≤ 11
      · exact ⟨(hok rfl h5 c.1 c.2.1 c.2.2).1, (hok rfl h5 c.1 c.2.1 c.2.2).2.1⟩
      · have := hbad rfl h5 c
        exact ⟨by omega, by omega⟩
    refine ⟨hkm.1, hkm.2, fun q hq hq0 hq2 s1 e1 => ?_⟩
    obtain ⟨g1, g2, g3⟩ := nw_c (p := p) h0 FR_r hq
    have F1 : FRp N rd pl p s s1 := e1 ▸ FR_n FR_r hq hq2 g3
    have H1 := PS0_f h0 F1
    have D1 : PSd rd tp n s1 (i + 1) (l + 1) d p := e1 ▸ PSd_n hd g2
    have o1 : tO s1 11 q := by
      rw [e1]
      exact ⟨if_pos rfl, hq0⟩
    have q1 : s1.1 q ≠ none := by
      rw [o1.1]
      intro z
      cases z
    refine ⟨H1.1, k - 1, m - 3, Nat.le_refl _, Nat.le_refl _, v_numberS hN hn hb H1 D1 (by decide) (fun c50 cle cge s2 F2 D2 => ?_) (fun y => ?_)⟩
    · obtain ⟨-, -, k3⟩ := hok rfl h5 c50 (i32_le.mpr cge) cle
      have f2 := F2.1 q (Or.inl q1)
      have o2 : tO s2 11 q := ⟨f2.1.trans o1.1, hq0⟩
      rw [H1.2.2.2.2.1 rfl]
      unfold v_X13_init v_X10_init
      refine ⟨o2, o2, fun s3 e3 => ⟨hq0, ?_⟩⟩
      have o3 : tO s3 11 q := by
        rw [e3]
        exact o2
      refine ⟨o3, fun s4 e4 s5 e5 => ?_⟩
      have F5 : FRp N rd pl p s s5 := by
        rw [e5, e4, e3]
        exact FR_I (FR_I (FR_R (FR_t F1 F2 (Nat.le_refl _)) hq hq2 g3) (Or.inl ⟨hq, hq2⟩)) (Or.inl ⟨hq, hq2⟩)
      have D5 : PSd rd tp n s5 (i + 2) (l + 1) d p := by
        rw [e5, e4, e3]
        exact PSd_I (PSd_I (PSd_q D2 rfl) g2) g2
      have o5 : tO s5 11 q := by
        rw [e5, e4]
        exact o3
      obtain ⟨kk, kk1, kk2⟩ := i32N (c := vlT tp n (i + 1)) cge
      have hkk : kk < 12 := by
        rw [i32_le, show (11 : Int32).toInt = 11 by decide] at cle
        omega
      refine k3 s5 q F5 D5 ⟨⟨hq, hq2, by rw [o5.1]; intro z; cases z⟩, Or.inr (Or.inr (Or.inl ⟨o5, rfl, ?_, kk, hkk, ?_, ?_⟩))⟩
      · rw [e5, e4, e3]
        exact if_pos ⟨rfl, rfl⟩
      · rw [e5, ← kk1]
        exact if_pos ⟨rfl, rfl⟩
      · have t0 : tI s5 q 0 = nI w := by
          rw [e5, e4]
          exact (if_neg fun z => absurd z.2 (by decide)).trans (if_pos ⟨rfl, rfl⟩)
        have hk2 : (vlT tp n (i + 1)).toNatClampNeg = kk := by
          rw [kk1]
          exact nI_clamp (by omega)
        rw [t0]
        unfold ntI
        rw [hk2]
        rcases (isW_w true w hw).2.2.2 rfl h5 with ⟨w5, c5⟩ | ⟨w6, c6⟩
        · exact Or.inl ⟨by rw [w5]; rfl, by rw [c5]; rfl⟩
        · exact Or.inr ⟨by rw [w6]; rfl, by rw [c6]; rfl⟩
    · obtain ⟨b1, b2, b3⟩ := hbad rfl h5 (fun z => y ⟨z.1, z.2.2⟩)
      exact ⟨by omega, by omega, XK_t b3 F1 (Nat.le_refl _)⟩
/-- a leaf -/
theorem v_leafP (hN : 402 ≤ N.1) (hn : n ≤ 400) (hb : ∀ k, k < 400 → byT (tp k)) {rc : Nat → Nat → Nat → Nat → tM → (Nat → tM → Prop) → (String → Nat → tM → Prop) → Prop} (h0 : PS0 N io rd x ta pl wd tp n s) (hd : PSd rd tp n s i l d p) (hl : l ≤ 50) {k m : Nat} {Kr : Nat → tM → Prop} {Kx : String → Nat → tM → Prop} (hK : okR N rd pl tp n (fun s M t a D => isSum s M io x t a D) d p s i l (pLeaf (cdT tp n) (vlT tp n) io i l) k m Kr Kx) : (∀ w, w < (wdI io).length → cdT tp n i = cdS ((wdI io).getD w 0) → v_X7_part_73 N rc rd (nI w) rd Kr Kx k m s) ∧ ((∀ w, w < (wdI io).length → ¬ cdT tp n i = cdS ((wdI io).getD w 0)) → (cdT tp n i = 50 → v_X7_part_73 N rc rd (-1) rd Kr Kx k m s) ∧ (¬ cdT tp n i = 50 → v_X7_part_77 N rc rd (-1) rd Kr Kx k m s)) := by
  have hE := PS0_E h0
  refine ⟨fun w hw hc => ?_, fun hno => ⟨fun c50 => ?_, fun c50 => ?_⟩⟩
  · obtain ⟨w1, w2, w3, w4⟩ := isW_w io w hw
    have hl10 := wdI_l io
    have cW : (cdT tp n i = 50 ∧ vlT tp n i ≤ 1000) ∨ isW io (cdT tp n i) = true := Or.inr (by rw [hc]; exact w1)
    have n50 : ¬ cdT tp n i = 50 := by
      rw [hc]
      exact (cd_50 _ w2).1
    unfold v_X7_part_73 v_X7_part_78
    refine ⟨0, 0, Nat.zero_le _, Nat.zero_le _, hE, v_must1 ⟨fun _ => ?_, fun z => absurd z ?_⟩⟩
    · by_cases h50 : l = 50
      · have er : pLeaf (cdT tp n) (vlT tp n) io i l = .inl i := by
          unfold pLeaf
          rw [if_pos cW, if_pos h50]
        obtain ⟨b1, b2, b3⟩ := hK.1 i er
        exact ⟨k, m, Nat.le_refl _, Nat.le_refl _, hE, v_leafS h0 hd hl (fun z => absurd h50 (by omega)) (fun _ => ⟨by omega, by omega, b3⟩)⟩
      · refine ⟨0, 0, Nat.zero_le _, Nat.zero_le _, hE, v_leafS h0 hd hl (fun _ s1 F1 D1 => ?_) (fun z => absurd z h50)⟩
        have H1 := PS0_f h0 F1
        refine ⟨PS0_E H1, v_nextP hN hn H1 D1 fun s2 F2 D2 => ?_⟩
        have F02 := FR_t F1 F2 (Nat.le_refl _)
        have H2 := PS0_f h0 F02
        have up : ∀ {s3 : tM} {a : Nat} {D : dS}, FRp N rd pl p s2 s3 → isSum s3 (NW N s2 s3) io x 1 a D → isSum s3 (NW N s s3) io x (l + 1 - l) a D := fun F3 hs => by
          rw [show l + 1 - l = 1 by omega]
          exact isSum_fr (mFr_r _ _) (fun a ha => (NW_f F02 F3).2 ha) _ _ _ hs
        refine ⟨k, m, Nat.le_refl _, Nat.le_refl _, v_wordS hN hn hb H2 D2 hw (fun hlw => ?_) (fun hio h5 c1 c2 c3 => ?_) (fun hio h5 hx => ?_)⟩
        · obtain ⟨v1, v2⟩ := w3 hlw
          have er : pLeaf (cdT tp n) (vlT tp n) io i l = .inr (i + 1, l + 1, fun e => some (e (cdT tp n i).toNatClampNeg)) := by
            unfold pLeaf
            rw [if_pos cW, if_neg h50, if_neg n50, if_neg (by rw [hc]; exact v2)]
          obtain ⟨b1, b2, b3⟩ := hK.2 _ er
          dsimp only at b1 b2 b3
          rw [hc, v1] at b3
          exact ⟨by omega, by omega, fun s3 a F3 D3 hs => b3 s3 a (FR_t F02 F3 (Nat.le_refl _)) D3 (up F3 hs)⟩
        · have er : pLeaf (cdT tp n) (vlT tp n) io i l = .inr (i + 2, l + 1, fun e => some (e (ntI (cdT tp n i) (vlT tp n (i + 1))))) := by
            unfold pLeaf
            rw [if_pos cW, if_neg h50, if_neg n50, if_pos ⟨hio, by rw [hc]; exact (w4 hio h5).imp And.right And.right⟩, if_pos ⟨c1, c2, c3⟩]
          obtain ⟨b1, b2, b3⟩ := hK.2 _ er
          dsimp only at b1 b2 b3
          rw [hc] at b3
          exact ⟨by omega, by omega, fun s3 a F3 D3 hs => b3 s3 a (FR_t F02 F3 (Nat.le_refl _)) D3 (up F3 hs)⟩
        · have er : pLeaf (cdT tp n) (vlT tp n) io i l = .inl (i + 1) := by
            unfold pLeaf
            rw [if_pos cW, if_neg h50, if_neg n50, if_pos ⟨hio, by rw [hc]; exact (w4 hio h5).imp And.right And.right⟩, if_neg hx]
          obtain ⟨b1, b2, b3⟩ := hK.1 _ er
          exact ⟨by omega, by omega, XK_t b3 F02 (Nat.le_refl _)⟩
    · have : ∀ w, w < 10 → ¬ nI w = -1 := by decide
      exact this w (by omega)
  · unfold v_X7_part_73 v_X7_part_78
    refine ⟨0, 0, Nat.zero_le _, Nat.zero_le _, hE, v_must1 ⟨fun z => absurd rfl z, fun _ => ?_⟩⟩
    have nW : ¬ isW io (cdT tp n i) = true := fun z => by
      obtain ⟨w, w1, w2⟩ := isW_t z
      exact hno w w1 w2
    by_cases h50 : l = 50
    · have er : pLeaf (cdT tp n) (vlT tp n) io i l = .inl i := by
        unfold pLeaf
        by_cases c : (cdT tp n i = 50 ∧ vlT tp n i ≤ 1000) ∨ isW io (cdT tp n i) = true
        · rw [if_pos c, if_pos h50]
        · rw [if_neg c]
      obtain ⟨b1, b2, b3⟩ := hK.1 i er
      exact ⟨k, m, Nat.le_refl _, Nat.le_refl _, hE, v_leafS h0 hd hl (fun z => absurd h50 (by omega)) (fun _ => ⟨by omega, by omega, b3⟩)⟩
    · refine ⟨0, 0, Nat.zero_le _, Nat.zero_le _, hE, v_leafS h0 hd hl (fun _ s1 F1 D1 => ?_) (fun z => absurd z h50)⟩
      have H1 := PS0_f h0 F1
      have rok : vlT tp n i ≤ 1000 → pLeaf (cdT tp n) (vlT tp n) io i l = .inr (i + 1, l + 1, fun _ => some (vlT tp n i).toInt64) := fun c => by
        unfold pLeaf
        rw [if_pos (Or.inl ⟨c50, c⟩), if_neg h50, if_pos c50]
      have rbad : ¬ vlT tp n i ≤ 1000 → pLeaf (cdT tp n) (vlT tp n) io i l = .inl i := fun c => by
        unfold pLeaf
        rw [if_neg (fun z => z.elim (fun y => c y.2) nW)]
      have hkm : 1 ≤ k ∧ 1 ≤ m := by
        by_cases c : vlT tp n i ≤ 1000
        · obtain ⟨b1, b2, -⟩ := hK.2 _ (rok c)
          dsimp only at b1 b2
          exact ⟨by omega, by omega⟩
        · obtain ⟨b1, b2, -⟩ := hK.1 _ (rbad c)
          exact ⟨by omega, by omega⟩
      refine ⟨hkm.1, hkm.2, fun q hq hq0 hq2 s2 e2 => ?_⟩
      obtain ⟨g1, g2, g3⟩ := nw_c H1 F1 hq
      have F2 : FRp N rd pl p s s2 := e2 ▸ FR_n F1 g1 hq2 g3
      have H2 := PS0_f h0 F2
      have D2 : PSd rd tp n s2 i (l + 1) d p := e2 ▸ PSd_n D1 g2
      have o2 : tO s2 9 q := by
        rw [e2]
        exact ⟨if_pos rfl, hq0⟩
      have q2 : s2.1 q ≠ none := by
        rw [o2.1]
        intro z
        cases z
      refine ⟨k - 1, m - 1, Nat.le_refl _, Nat.le_refl _, PS0_E H2, v_numberS hN hn hb H2 D2 (by decide) (fun c c2 c3 s3 F3 D3 => ?_) (fun c => ?_)⟩
      · obtain ⟨b1, b2, b3⟩ := hK.2 _ (rok c2)
        have o3 : tO s3 9 q := ⟨(F3.1 q (Or.inl q2)).1.trans o2.1, hq0⟩
        unfold v_X11_init v_X10_init
        refine ⟨o3, o3, hq0, o3, fun s4 e4 => ?_⟩
        have o4 : tO s4 9 q := by
          rw [e4]
          exact o3
        refine b3 s4 q (e4 ▸ FR_I (FR_t F2 F3 (Nat.le_refl _)) (Or.inl ⟨g1, hq2⟩)) (e4 ▸ PSd_I D3 g2) ?_
        dsimp only
        rw [show l + 1 - l = 0 + 1 by omega]
        refine ⟨⟨g1, hq2, by rw [o4.1]; intro z; cases z⟩, Or.inl ⟨o4, ?_⟩⟩
        rw [e4]
        have : tI (tsI s3 q 0 (vlT tp n i)) q 0 = vlT tp n i := if_pos ⟨rfl, rfl⟩
        rw [this]
      · obtain ⟨b1, b2, b3⟩ := hK.1 _ (rbad fun z => c ⟨c50, z⟩)
        exact ⟨by omega, by omega, XK_t b3 F2 (Nat.le_refl _)⟩
  · have nW : ¬ isW io (cdT tp n i) = true := fun z => by
      obtain ⟨w, w1, w2⟩ := isW_t z
      exact hno w w1 w2
    have er : pLeaf (cdT tp n) (vlT tp n) io i l = .inl i := by
      unfold pLeaf
      rw [if_neg (fun z => z.elim (fun y => c50 y.1) nW)]
    obtain ⟨b1, b2, b3⟩ := hK.1 _ er
    unfold v_X7_part_77 v_X7_part_78
    exact ⟨1, 7, by omega, by omega, hE, v_must0 h0 hd (Nat.le_refl _) (Nat.le_refl _) b3⟩
end LF
