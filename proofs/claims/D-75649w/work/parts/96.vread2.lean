set_option maxRecDepth 100000
/-! ===== the system's reader: number, open, close, leaf, which ===== -/
/-- a number as the reader takes it: no further than beyond the most -/
def valM (most : Int32) (tp : Nat → Int32) (to : Nat) : Nat → Nat → Int32 → Int32
  | 0, _, v => v
  | f + 1, k, v => if k < to then (if most < v then v else valM most tp to f (k + 1) (((10 * v) + tp k) - 48)) else v
section VN
variable {tp : Nat → Int32} {n : Nat}
theorem runW_a {p : Int32 → Bool} : ∀ f k j, k ≤ j → j < runW p tp n f k → p (tp j) = true
  | 0, k, j, h1, h2 => absurd h2 (by show ¬ j < k; omega)
  | f + 1, k, j, h1, h2 => by
    have e : runW p tp n (f + 1) k = if k < n ∧ p (tp k) = true then runW p tp n f (k + 1) else k := rfl
    rw [e] at h2
    by_cases c : k < n ∧ p (tp k) = true
    · rw [if_pos c] at h2
      by_cases ej : j = k
      · rw [ej]
        exact c.2
      · exact runW_a f (k + 1) j (by omega) h2
    · rw [if_neg c] at h2
      omega
theorem dg_to {i : Nat} (h : tokP tp n i < n) (hd : isDg (tp (tokP tp n i)) = true) : ∀ j, tokP tp n i ≤ j → j < toP tp n i → isDg (tp j) = true := fun j h1 h2 => by
  unfold toP en at h2
  have hl : ¬ isLt (tp (tokP tp n i)) = true := fun z => by
    rw [lt_dg z] at hd
    cases hd
  rw [if_pos h, if_neg hl, if_pos hd] at h2
  by_cases ej : j = tokP tp n i
  · rw [ej]
    exact hd
  · exact runW_a 401 (tokP tp n i + 1) j (by omega) h2
theorem dg_b {b : Int32} (h : isDg b = true) : 48 ≤ b.toInt ∧ b.toInt ≤ 57 := by
  simp only [isDg, Bool.and_eq_true, decide_eq_true_eq] at h
  exact ⟨i32_le.mp h.1, i32_le.mp h.2⟩
theorem ten_d {v b : Int32} (h0 : 0 ≤ v.toInt) (h1 : v.toInt ≤ 1000000) (hb : isDg b = true) : (((10 * v) + b) - 48).toInt = 10 * v.toInt + b.toInt - 48 := by
  have hd := dg_b hb
  have e1 : (10 * v).toInt = 10 * v.toInt := by
    rw [Int32.toInt_mul, Int.bmod_def, show (10 : Int32).toInt = 10 by decide]
    split <;> omega
  have e2 : ((10 * v) + b).toInt = 10 * v.toInt + b.toInt := by
    rw [i32_add (by rw [e1]; omega) (by rw [e1]; omega), e1]
  rw [i32_sub (by rw [e2, show (48 : Int32).toInt = 48 by decide]; omega) (by rw [e2, show (48 : Int32).toInt = 48 by decide]; omega), e2, show (48 : Int32).toInt = 48 by decide]
theorem valW_g {to : Nat} : ∀ f k v, (∀ j, k ≤ j → j < to → isDg (tp j) = true) → 0 ≤ v.toInt → v.toInt ≤ (valW tp to f k v).toInt
  | 0, _, v, _, _ => Int.le_refl _
  | f + 1, k, v, hd, h0 => by
    have e1 : valW tp to (f + 1) k v = if k < to then valW tp to f (k + 1) (if v ≤ 1000000 then ((10 * v) + tp k) - 48 else v) else v := rfl
    rw [e1]
    by_cases c : k < to
    · rw [if_pos c]
      by_cases c2 : v ≤ 1000000
      · rw [if_pos c2]
        have h1 : v.toInt ≤ 1000000 := i32_le.mp c2
        have hb := hd k (Nat.le_refl _) c
        have e := ten_d h0 h1 hb
        have hd' := dg_b hb
        have := valW_g f (k + 1) _ (fun j hj => hd j (by omega)) (by rw [e]; omega : 0 ≤ (((10 * v) + tp k) - 48).toInt)
        rw [e] at this
        omega
      · rw [if_neg c2]
        exact valW_g f (k + 1) v (fun j hj => hd j (by omega)) h0
    · rw [if_neg c]
      exact Int.le_refl _
theorem valM_W {to : Nat} {most : Int32} (hm : most.toInt ≤ 1000000) : ∀ f k v, (∀ j, k ≤ j → j < to → isDg (tp j) = true) → 0 ≤ v.toInt → 0 ≤ (valM most tp to f k v).toInt ∧ (most < valM most tp to f k v ↔ most < valW tp to f k v) ∧ (¬ most < valM most tp to f k v → valM most tp to f k v = valW tp to f k v)
  | 0, _, v, _, h0 => ⟨h0, Iff.rfl, fun _ => rfl⟩
  | f + 1, k, v, hd, h0 => by
    have e1 : valW tp to (f + 1) k v = if k < to then valW tp to f (k + 1) (if v ≤ 1000000 then ((10 * v) + tp k) - 48 else v) else v := rfl
    have e2 : valM most tp to (f + 1) k v = if k < to then (if most < v then v else valM most tp to f (k + 1) (((10 * v) + tp k) - 48)) else v := rfl
    by_cases c : k < to
    · by_cases c2 : most < v
      · have g := valW_g (f + 1) k v hd h0
        rw [e2, if_pos c, if_pos c2]
        refine ⟨h0, ⟨fun _ => ?_, fun _ => c2⟩, fun z => absurd c2 z⟩
        rw [i32_lt] at c2 ⊢
        omega
      · have h1 : v.toInt ≤ 1000000 := by
          rw [i32_lt] at c2
          omega
        have c3 : v ≤ 1000000 := i32_le.mpr h1
        have hb := hd k (Nat.le_refl _) c
        have e := ten_d h0 h1 hb
        have hd' := dg_b hb
        rw [e1, e2, if_pos c, if_pos c, if_neg c2, if_pos c3]
        exact valM_W hm f (k + 1) _ (fun j hj => hd j (by omega)) (by rw [e]; omega)
    · rw [e1, e2, if_neg c, if_neg c]
      exact ⟨h0, Iff.rfl, fun _ => rfl⟩
theorem cd_dg (hb : ∀ k, k < 400 → byT (tp k)) (hn : n ≤ 400) (i : Nat) : cdT tp n i = 50 ↔ tokP tp n i < n ∧ isDg (tp (tokP tp n i)) = true := by
  unfold cdT
  by_cases hk : tokP tp n i < n
  · rw [if_pos hk]
    by_cases hl : isLt (tp (tokP tp n i)) = true
    · rw [if_pos hl]
      have hw : wordOf tp (tokP tp n i) (en tp n (tokP tp n i)) = fndL (txL tp (en tp n (tokP tp n i) - tokP tp n i) (tokP tp n i)) 1 wrdL := findW_t _ _ _ _
      have hle : fndL (txL tp (en tp n (tokP tp n i) - tokP tp n i) (tokP tp n i)) 1 wrdL ≤ 27 := by
        rcases fndL_s (txL tp (en tp n (tokP tp n i) - tokP tp n i) (tokP tp n i)) wrdL 1 (Nat.le_refl _) with z | ⟨j, j1, j2, j3⟩
        · omega
        · have : wrdL.length = 27 := rfl
          omega
      rw [hw, show (50 : Int32) = nI 50 from rfl, nI_eq (by omega) (by omega), lt_dg hl]
      exact ⟨fun z => absurd z (by omega), fun z => absurd z.2 (by decide)⟩
    · rw [if_neg hl]
      by_cases hg : isDg (tp (tokP tp n i)) = true
      · rw [if_pos hg]
        exact ⟨fun _ => ⟨hk, hg⟩, fun _ => rfl⟩
      · rw [if_neg hg]
        refine ⟨fun z => ?_, fun z => absurd z.2 hg⟩
        obtain ⟨u, u1, u2⟩ := by_u (hb (tokP tp n i) (by omega))
        have a := and_tab u u1
        have := congrArg Int32.toInt z
        rw [u2, i32_add (by rw [show (100 : Int32).toInt = 100 by decide]; omega) (by rw [show (100 : Int32).toInt = 100 by decide]; omega), show (50 : Int32).toInt = 50 by decide, show (100 : Int32).toInt = 100 by decide] at this
        omega
  · rw [if_neg hk]
    exact ⟨fun z => absurd z (by decide), fun z => absurd z.1 hk⟩
end VN
def WDa (N : tP) (s : tM) (ar : Nat) (cs : List Nat) : Prop := tA s 9 cs.length ar ∧ ∀ w, w < cs.length → tR s ar w = N.2.2 (cs.getD w 0)
section RD
variable {N : tP} {io : Bool} {rd x ta pl wd p : Nat} {tp : Nat → Int32} {n : Nat} {s s' s2 : tM} {i l d : Nat}
theorem v_nextP (hN : 402 ≤ N.1) (hn : n ≤ 400) (h0 : PS0 N io rd x ta pl wd tp n s) (hd : PSd rd tp n s i l d p) {K : tM → Prop} (h : ∀ s', FRp N rd pl p s s' → PSd rd tp n s' (i + 1) l d p → K s') : v_X7_next N rd s K := v_nextK hN (PS0_T h0) (PS0_R h0) hn hd.1 (h _ (FR_w FR_r) (PSd_w hd))
theorem v_acceptP (hN : 402 ≤ N.1) (hn : n ≤ 400) (hb : ∀ k, k < 400 → byT (tp k)) (h0 : PS0 N io rd x ta pl wd tp n s) (hd : PSd rd tp n s i l d p) {idx : Nat} (hi : idx < 40) {K : Int32 → tM → Prop} (hf : ¬ cdT tp n i = cdS idx → K 0 s) (ht : cdT tp n i = cdS idx → ∀ s', FRp N rd pl p s s' → PSd rd tp n s' (i + 1) l d p → K 1 s') : v_X7_accept N rd (N.2.2 idx) s K := v_acceptK hN (PS0_T h0) (PS0_R h0) hn hb hi hd.1 hf (fun z => ht z _ (FR_w FR_r) (PSd_w hd))
theorem v_isWordP (hN : 402 ≤ N.1) (hn : n ≤ 400) (hb : ∀ k, k < 400 → byT (tp k)) (h0 : PS0 N io rd x ta pl wd tp n s) (hd : PSd rd tp n s i l d p) {idx : Nat} (hi : idx < 40) {K : Int32 → tM → Prop} (h : K (bI (decide (cdT tp n i = cdS idx))) s) : v_X7_isWord N rd (N.2.2 idx) s K := v_isWordK hN (PS0_T h0) (PS0_R h0) hn hb hi hd.1 h
theorem v_num48 (hn : n ≤ 400) (h0 : PS0 N io rd x ta pl wd tp n s) {to : Nat} (hto : to ≤ n) (h1 : tI s rd 1 = nI to) {most : Int32} {Kr : Int32 → tM → Prop} {Kx : String → Nat → tM → Prop} {K : Int32 → Nat → Nat → tM → Prop} {k m : Nat} : ∀ (g u j : Nat) (v : Int32), j ≤ to → to < j + g → g ≤ u → K (valM most tp to g j v) k m s → v_X7_number_48 N rd most Kr Kx K u v (nI j) k m s
  | 0, _, _, _, h1, h2, _, _ => absurd h2 (by omega)
  | g + 1, 0, _, _, _, _, h, _ => absurd h (Nat.not_succ_le_zero _)
  | g + 1, u + 1, j, v, j1, j2, hu, hK => by
    have e2 : valM most tp to (g + 1) j v = if j < to then (if most < v then v else valM most tp to g (j + 1) (((10 * v) + tp j) - 48)) else v := rfl
    rw [e2] at hK
    obtain ⟨t1, t2, t3, t4, t5⟩ := PS0_T h0
    unfold v_X7_number_48
    rw [h1, h0.2.1, t2, nI_lle (by omega) (by omega), nI_clamp (by omega)]
    refine ⟨PS0_E h0, fun z => ?_, fun z => ⟨fun y => ?_, fun y => ⟨t1, ⟨400, t3, vpk (by omega) (by decide)⟩, fun v' ev j' ej => ?_⟩⟩⟩
    · rw [if_neg (by omega)] at hK
      exact hK
    · rw [if_pos (by omega), if_pos y] at hK
      exact hK
    · rw [if_pos (by omega), if_neg y] at hK
      rw [ej, ev, nI_1, t4 j (by omega)]
      exact v_num48 hn h0 hto h1 g u (j + 1) _ (by omega) (by omega) (by omega) hK
theorem v_numberS (hN : 402 ≤ N.1) (hn : n ≤ 400) (hb : ∀ k, k < 400 → byT (tp k)) (h0 : PS0 N io rd x ta pl wd tp n s) (hd : PSd rd tp n s i l d p) {most : Int32} (hm : 0 ≤ most.toInt ∧ most.toInt ≤ 1000000) {k m : Nat} {Kr : Int32 → tM → Prop} {Kx : String → Nat → tM → Prop} (hok : cdT tp n i = 50 → vlT tp n i ≤ most → 0 ≤ (vlT tp n i).toInt → ∀ s', FRp N rd pl p s s' → PSd rd tp n s' (i + 1) l d p → Kr (vlT tp n i) s') (hbad : ¬ (cdT tp n i = 50 ∧ vlT tp n i ≤ most) → 1 ≤ k ∧ 7 ≤ m ∧ XK N rd pl p tp n Kx s i) : v_X7_number N rd most k m s Kr Kx := by
  have hE := PS0_E h0
  obtain ⟨t1, t2, t3, t4, t5⟩ := PS0_T h0
  have hc := cd_dg hb hn i
  have hle := toP_le (tp := tp) hn i
  have a37 : ¬ (cdT tp n i = 50) → v_X7_number_37 N rd most rd Kr Kx k m s := fun z => by
    obtain ⟨b1, b2, b3⟩ := hbad (fun y => z y.1)
    unfold v_X7_number_37 v_X7_number_38
    exact ⟨1, 7, b1, b2, hE, v_must0 h0 hd (Nat.le_refl _) (Nat.le_refl _) b3⟩
  unfold v_X7_number
  rw [h0.2.1, t2, t5, hd.1.1, nI_lle (by omega) (by omega), nI_clamp (by omega)]
  refine ⟨hE, t1, fun z => a37 fun y => by have := (hc.mp y).1; omega, fun z => ⟨⟨400, t3, vpk (by omega) (by decide)⟩, v_dgS (bI_c (fun y => ?_) (fun y => ?_))⟩⟩
  · rw [t4 _ (by omega)] at y
    exact a37 fun w => by
      rw [(hc.mp w).2] at y
      cases y
  · rw [t4 _ (by omega)] at y
    have c50 := hc.mpr ⟨by omega, y⟩
    have dg := dg_to (tp := tp) (n := n) (i := i) (by omega) y
    have ev : vlT tp n i = valW tp (toP tp n i) 401 (tokP tp n i) 0 := by
      unfold vlT toP
      rw [if_pos ⟨by omega, y⟩, if_pos (by omega)]
    obtain ⟨w0, w1, w2⟩ := valM_W (tp := tp) (to := toP tp n i) hm.2 401 (tokP tp n i) 0 dg (by decide)
    have hW := valW_g (tp := tp) (to := toP tp n i) 401 (tokP tp n i) 0 dg (by decide)
    rw [← ev] at w1 w2 hW
    unfold v_X7_number_38
    refine ⟨0, 0, Nat.zero_le _, Nat.zero_le _, hE, v_must1 ⟨hE, fun j ej => ?_⟩⟩
    rw [ej, hd.1.1]
    refine v_num48 hn h0 hle.2 hd.1.2 401 N.1 _ 0 hle.1 (by omega) (by omega) ⟨fun z => ?_, fun z => ?_⟩
    · obtain ⟨b1, b2, b3⟩ := hbad (fun q => by
        have := w1.mp z
        have q2 := q.2
        rw [i32_lt] at this
        rw [i32_le] at q2
        omega)
      exact ⟨1, 7, by omega, by omega, hE, v_must0 h0 hd (Nat.le_refl _) (Nat.le_refl _) b3⟩
    · refine ⟨0, 0, Nat.zero_le _, Nat.zero_le _, hE, v_must1 ⟨hE, ?_⟩⟩
      rw [w2 z]
      refine v_nextP hN hn h0 hd (hok c50 ?_ hW)
      have := w2 z
      rw [← this, i32_le]
      rw [i32_lt] at z
      omega
theorem v_openS (hN : 402 ≤ N.1) (hn : n ≤ 400) (h0 : PS0 N io rd x ta pl wd tp n s) (hd : PSd rd tp n s i l d p) (hd8 : d ≤ 8) {k m : Nat} {Kr : tM → Prop} {Kx : String → Nat → tM → Prop} (hok : d < 8 → ∀ s', FRp N rd pl p s s' → PSd rd tp n s' (i + 1) l (d + 1) p → Kr s') (hbad : d = 8 → 1 ≤ k ∧ 7 ≤ m ∧ XK N rd pl p tp n Kx s i) : v_X7_open N rd k m s Kr Kx := by
  have hE := PS0_E h0
  unfold v_X7_open
  rw [hd.2.2.1, show (8 : Int32) = nI 8 from rfl, nI_lle (by omega) (by omega)]
  refine ⟨hE, fun z => ?_, fun z => ?_⟩
  · obtain ⟨b1, b2, b3⟩ := hbad (by omega)
    unfold v_X7_open_15
    exact ⟨1, 7, b1, b2, hE, v_must0 h0 hd (Nat.le_refl _) (Nat.le_refl _) b3⟩
  · unfold v_X7_open_15
    refine ⟨0, 0, Nat.zero_le _, Nat.zero_le _, hE, v_must1 ⟨hE, fun s1 e1 => ?_⟩⟩
    rw [hd.2.2.1, nI_1] at e1
    have F1 : FRp N rd pl p s s1 := e1 ▸ FR_I FR_r (Or.inr rfl)
    have D1 : PSd rd tp n s1 i l (d + 1) p := by
      rw [e1]
      exact ⟨⟨(if_neg fun y => absurd y.2 (by decide)).trans hd.1.1, (if_neg fun y => absurd y.2 (by decide)).trans hd.1.2⟩, (if_neg fun y => absurd y.2 (by decide)).trans hd.2.1, if_pos ⟨rfl, rfl⟩, (if_neg fun y => absurd y.2 (by decide)).trans hd.2.2.2⟩
    exact v_nextP hN hn (PS0_f h0 F1) D1 fun s2 F2 D2 => hok (by omega) s2 (FR_t F1 F2 (Nat.le_refl _)) D2
theorem v_closeS (hN : 402 ≤ N.1) (hn : n ≤ 400) (hb : ∀ k, k < 400 → byT (tp k)) (h0 : PS0 N io rd x ta pl wd tp n s) (hd : PSd rd tp n s i l (d + 1) p) (hd8 : d < 8) {idx : Nat} (hi : idx < 40) {k m : Nat} {Kr : tM → Prop} {Kx : String → Nat → tM → Prop} (hok : cdT tp n i = cdS idx → ∀ s', FRp N rd pl p s s' → PSd rd tp n s' (i + 1) l d p → Kr s') (hbad : ¬ cdT tp n i = cdS idx → 1 ≤ k ∧ 7 ≤ m ∧ XK N rd pl p tp n Kx s i) : v_X7_close N rd (N.2.2 idx) k m s Kr Kx := by
  unfold v_X7_close
  refine ⟨PS0_E h0, v_acceptP hN hn hb h0 hd hi (fun z => ?_) (fun z s1 F1 D1 => ?_)⟩
  · obtain ⟨b1, b2, b3⟩ := hbad z
    exact ⟨1, 7, b1, b2, PS0_E h0, v_must0 h0 hd (Nat.le_refl _) (Nat.le_refl _) b3⟩
  · have E1 := PS0_E (PS0_f h0 F1)
    refine ⟨0, 0, Nat.zero_le _, Nat.zero_le _, E1, v_must1 ⟨E1, fun s2 e2 => ?_⟩⟩
    rw [D1.2.2.1, show nI (d + 1) - 1 = nI d from pk_sub (a := d + 1) (b := 1) (by omega)] at e2
    refine hok z s2 (e2 ▸ FR_I F1 (Or.inr rfl)) ?_
    rw [e2]
    exact ⟨⟨(if_neg fun y => absurd y.2 (by decide)).trans D1.1.1, (if_neg fun y => absurd y.2 (by decide)).trans D1.1.2⟩, (if_neg fun y => absurd y.2 (by decide)).trans D1.2.1, if_pos ⟨rfl, rfl⟩, (if_neg fun y => absurd y.2 (by decide)).trans D1.2.2.2⟩
theorem v_leafS (h0 : PS0 N io rd x ta pl wd tp n s) (hd : PSd rd tp n s i l d p) (hl : l ≤ 50) {k m : Nat} {Kr : tM → Prop} {Kx : String → Nat → tM → Prop} (hok : l < 50 → ∀ s', FRp N rd pl p s s' → PSd rd tp n s' i (l + 1) d p → Kr s') (hbad : l = 50 → 1 ≤ k ∧ 7 ≤ m ∧ XK N rd pl p tp n Kx s i) : v_X7_leaf N rd k m s Kr Kx := by
  have hE := PS0_E h0
  unfold v_X7_leaf
  rw [hd.2.1, show (50 : Int32) = nI 50 from rfl, nI_lle (by omega) (by omega)]
  refine ⟨hE, fun z => ?_, fun z => ?_⟩
  · obtain ⟨b1, b2, b3⟩ := hbad (by omega)
    unfold v_X7_leaf_15
    exact ⟨1, 7, b1, b2, hE, v_must0 h0 hd (Nat.le_refl _) (Nat.le_refl _) b3⟩
  · unfold v_X7_leaf_15
    refine ⟨0, 0, Nat.zero_le _, Nat.zero_le _, hE, v_must1 ⟨hE, fun s1 e1 => ?_⟩⟩
    rw [hd.2.1, nI_1] at e1
    refine hok (by omega) s1 (e1 ▸ FR_I FR_r (Or.inr rfl)) ?_
    rw [e1]
    exact ⟨⟨(if_neg fun y => absurd y.2 (by decide)).trans hd.1.1, (if_neg fun y => absurd y.2 (by decide)).trans hd.1.2⟩, if_pos ⟨rfl, rfl⟩, (if_neg fun y => absurd y.2 (by decide)).trans hd.2.2.1, (if_neg fun y => absurd y.2 (by decide)).trans hd.2.2.2⟩
theorem v_which2 (hN : 402 ≤ N.1) (hn : n ≤ 400) (hb : ∀ k, k < 400 → byT (tp k)) (h0 : PS0 N io rd x ta pl wd tp n s) (hd : PSd rd tp n s i l d p) {ar : Nat} {cs : List Nat} (hw : WDa N s ar cs) (hc : ∀ w, w < cs.length → cs.getD w 0 < 40) (hl : cs.length < 100) {Kr : Int32 → tM → Prop} {K : tM → Prop} (hf : ∀ w, w < cs.length → cdT tp n i = cdS (cs.getD w 0) → Kr (nI w) s) (hno : (∀ w, w < cs.length → ¬ cdT tp n i = cdS (cs.getD w 0)) → K s) : ∀ (g u j : Nat), j + g = cs.length → g < u → (∀ w, w < j → ¬ cdT tp n i = cdS (cs.getD w 0)) → v_X7_which_2 N rd ar Kr K u (nI j) s
  | _, 0, _, _, h, _ => absurd h (Nat.not_lt_zero _)
  | g, u + 1, j, hj, hu, hb2 => by
    have hlen : tLen s ar = cs.length := by
      unfold tLen
      rw [hw.1.1]
    unfold v_X7_which_2
    rw [hlen, show Int32.ofNat cs.length = nI cs.length from rfl, nI_lle (by omega) (by omega), nI_clamp (by omega)]
    refine ⟨⟨_, hw.1⟩, fun z => hno (fun w hw2 => hb2 w (by omega)), fun z => ⟨⟨_, hw.1, vpk (by omega) (by omega)⟩, PS0_E h0, ?_⟩⟩
    rw [hw.2 j (by omega)]
    refine v_isWordP hN hn hb h0 hd (hc j (by omega)) (bI_c (fun y j' ej => ?_) (fun y => hf j (by omega) (of_decide_eq_true y)))
    rw [ej, nI_1]
    refine v_which2 hN hn hb h0 hd hw hc hl hf hno (g - 1) u (j + 1) (by omega) (by omega) (fun w hw2 => ?_)
    by_cases e : w = j
    · rw [e]
      exact of_decide_eq_false y
    · exact hb2 w (by omega)
theorem v_whichS (hN : 402 ≤ N.1) (hn : n ≤ 400) (hb : ∀ k, k < 400 → byT (tp k)) (h0 : PS0 N io rd x ta pl wd tp n s) (hd : PSd rd tp n s i l d p) {ar : Nat} {cs : List Nat} (hw : WDa N s ar cs) (hc : ∀ w, w < cs.length → cs.getD w 0 < 40) (hl : cs.length < 100) {Kr : Int32 → tM → Prop} (hf : ∀ w, w < cs.length → cdT tp n i = cdS (cs.getD w 0) → Kr (nI w) s) (hno : (∀ w, w < cs.length → ¬ cdT tp n i = cdS (cs.getD w 0)) → Kr (-1) s) : v_X7_which N rd ar s Kr := by
  unfold v_X7_which
  exact v_which2 hN hn hb h0 hd hw hc hl hf hno cs.length N.1 0 (by omega) (by omega) (fun w h => absurd h (Nat.not_lt_zero _))
end RD
