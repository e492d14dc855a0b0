set_option maxRecDepth 100000
/-! ===== the system's readers: a law's clause, all clauses ===== -/
/-- how a reader of clauses stands -/
def CSt (N : tP) (io : Bool) (rd x ta pl wd rw t h9 : Nat) (tp : Nat → Int32) (n : Nat) (s1 s : tM) (i l : Nat) : Prop := FRr N rd pl rw s1 s ∧ PS0 N io rd x ta pl wd tp n s ∧ RWo s rd wd x rw t ∧ PSd rd tp n s i l 0 0 ∧ tR s rd 9 = h9
/-- what a reading of a clause must meet -/
def okC {α : Type} (N : tP) (io : Bool) (rd x ta pl wd rw t h9 : Nat) (tp : Nat → Int32) (n : Nat) (IC : tM → (Nat → Prop) → Nat → α → Prop) (s1 s : tM) (c i : Nat) (r : pR (Nat × Nat × α)) (k m : Nat) (Kr : tM → Prop) (Kx : String → Nat → tM → Prop) : Prop := (∀ e, r = .inl e → 2 * (e - i) + 2 ≤ k ∧ 4 * (e - i) + 8 ≤ m ∧ XKr N rd pl rw tp n Kx s1 e) ∧ ∀ z, r = .inr z → 2 * (z.1 - i) ≤ k ∧ 4 * (z.1 - i) ≤ m ∧ ∀ s', CSt N io rd x ta pl wd rw t h9 tp n s1 s' z.1 z.2.1 → (∀ j, j < c → tR s' rw j = tR s rw j) → mFr (NW N s1 s) s s' → IC s' (NW N s1 s') (tR s' rw c) z.2.2 → Kr s'
section RA
variable {N : tP} {io : Bool} {rd x ta pl wd rw t h9 p q : Nat} {tp : Nat → Int32} {n : Nat} {s s1 s2 s' : tM} {i l d : Nat}
theorem v_clauseS (hN : 402 ≤ N.1) (hN2 : 60 ≤ N.2.1) (hn : n ≤ 400) (hb : ∀ k, k < 400 → byT (tp k)) (r1 : s1.1 rd ≠ none ∧ s1.1 pl ≠ none ∧ s1.1 rw ≠ none) (hpw : pl ≠ rw) (hh : WDa N s1 h9 [10, 11, 12]) (hh2 : h9 ≠ pl ∧ h9 ≠ rw) (hC : CSt N false rd x ta pl wd rw 6 h9 tp n s1 s i l) (hl : l ≤ 50) (hi : i ≤ tokT tp n) {c : Nat} (hc : c < 12) {k m : Nat} {Kr : tM → Prop} {Kx : String → Nat → tM → Prop} (hK : okC N false rd x ta pl wd rw 6 h9 tp n isClause s1 s c i (pClause (cdT tp n) (vlT tp n) false i l) k m Kr Kx) : v_X8_read_2 N rd (nI c) k m s Kr Kx := by
  have hz : ∀ k, tokT tp n ≤ k → cdT tp n k = 0 := fun k hk => cdT_z hn k hk
  obtain ⟨F1, h0, hw, hd, h9e⟩ := hC
  have hwd : WDa N s h9 [10, 11, 12] := by
    obtain ⟨a1, a2⟩ := hh
    have f := F1 h9 (Or.inl (by rw [a1.1]; intro z; cases z))
    exact ⟨⟨f.1.trans a1.1, a1.2⟩, fun w hw => (congrFun (f.2.2.2 hh2.1 hh2.2) w).trans (a2 w hw)⟩
  have bad : (∀ w, w < 3 → ¬ cdT tp n i = cdS (([10, 11, 12] : List Nat).getD w 0)) → pClause (cdT tp n) (vlT tp n) false i l = .inl i := fun h => by
    unfold pClause
    rw [if_neg (fun z => z.elim (h 0 (by decide)) (h 1 (by decide))), if_neg (show ¬ cdT tp n i = 3 from h 2 (by decide))]
  unfold v_X8_read_2
  refine ⟨h0.1, ?_⟩
  rw [h9e]
  refine v_whichS hN hn hb h0 hd hwd (by decide) (by decide) (fun w hw3 hcw => ⟨fun z => absurd z ?_, fun _ => ?_⟩) (fun hno => ⟨fun _ => ?_, fun z => absurd rfl z⟩)
  · have : ∀ w, w < 3 → ¬ nI w = -1 := by decide
    exact this w hw3
  · have hw3 : w < 3 := hw3
    have hcw : cdT tp n i = nI (w + 1) := by
      rw [hcw]
      have : ∀ w, w < 3 → cdS (([10, 11, 12] : List Nat).getD w 0) = nI (w + 1) := by decide
      exact this w hw3
    have iT : i < tokT tp n := cd_lt (cd := cdT tp n) hz hcw (by
      have : ∀ w, w < 3 → nI (w + 1) ≠ 0 := by decide
      exact this w hw3)
    unfold v_X8_read_2_20
    refine ⟨0, 0, Nat.zero_le _, Nat.zero_le _, h0.1, v_must1 ⟨h0.1, v_nextP hN hn h0 hd fun s2 F2 D2 => ?_⟩⟩
    have H2 := PS0_f h0 F2
    have W2 := RWo_f h0 hw F2
    rw [show (2 : Int32) = nI 2 from rfl, nI_lle (by omega) (by omega)]
    refine ⟨fun h2 => ?_, fun h2 => ?_⟩
    · have ew : w = 2 := by omega
      have ecl : pClause (cdT tp n) (vlT tp n) false i l = pb (pOpt (cdT tp n) (vlT tp n) false (i + 1) l) (fun w => .inr (w.1, w.2.1, 3, none, w.2.2)) := by
        unfold pClause
        rw [hcw, ew]
        rfl
      refine v_cl40 (s1 := s1) (o := none) hN hN2 hn hb (FRr_p F1 F2) r1 H2 D2 hl (by omega) W2 hpw hc hw3 (fun _ => rfl) (fun z => absurd ew z) ⟨fun _ => rfl, fun D hD => by cases hD⟩ ⟨fun e he => ?_, fun z hz2 => ?_⟩
      · obtain ⟨b1, b2, b3⟩ := hK.1 e (by rw [ecl, he]; rfl)
        have := (pM_opt (vl := vlT tp n) (io := false) hz (l := l) (by omega : i + 1 ≤ tokT tp n)).1 e he
        exact ⟨by omega, by omega, b3⟩
      · obtain ⟨b1, b2, b3⟩ := hK.2 _ (by rw [ecl, hz2]; rfl)
        dsimp only at b1 b2 b3
        have := (pM_opt (vl := vlT tp n) (io := false) hz (l := l) (by omega : i + 1 ≤ tokT tp n)).2 z hz2
        refine ⟨by omega, by omega, fun s' f1 f2 f3 f4 f5 f6 f7 f8 => b3 s' ⟨f1, f4, f5, f6, ?_⟩ (fun j hj => ?_) (fun a ha => ?_) ?_⟩
        · rw [f7]
          exact (congrFun ((F2.1 rd (Or.inl (PS0_rd h0).1)).2.2.2 (PS0_rd h0).2.2.1) 9).trans h9e
        · rw [f2 j hj]
          exact congrFun ((F2.1 rw (Or.inl (by rw [hw.2.1.1]; intro z; cases z))).2.2.2 hpw.symm) j
        · have a1 := NW_m (N := N) F2 r1.1 r1.2.1 a ha
          have a2 := f3 a ((NWr F1 F2).1 ha)
          exact ⟨a2.1.trans a1.1, a2.2.1.trans a1.2.1, a2.2.2.trans a1.2.2⟩
        · rw [ew] at f8
          exact f8
    · have ecl : pClause (cdT tp n) (vlT tp n) false i l = pb (pSum (cdT tp n) (vlT tp n) false 8 (i + 1) l) (fun z => pb (pOpt (cdT tp n) (vlT tp n) false z.1 z.2.1) fun w => .inr (w.1, w.2.1, cdT tp n i, some z.2.2, w.2.2)) := by
        unfold pClause
        rw [if_pos]
        rw [hcw]
        have : ∀ w, w < 2 → nI (w + 1) = 1 ∨ nI (w + 1) = 2 := by decide
        exact this w (by omega)
      have hmi := pM_sum (vl := vlT tp n) (io := false) hz 8 (i + 1) l (by omega)
      have hF : itS N false rd x ta pl wd tp n (trS false x) 0 (pSum (cdT tp n) (vlT tp n) false 8) (fun k m s Kr Kx => r_X7_part N (N.2.1 - 2 + 2) 1 rd k m s Kr Kx) := (v_sumR hN hn hb 8 0 rfl (N.2.1 - 2) (by omega)).2.2
      rw [show N.2.1 - 2 + 2 = N.2.1 by omega] at hF
      have F12 := FRr_p F1 F2
      cases e1 : pSum (cdT tp n) (vlT tp n) false 8 (i + 1) l with
      | inl e =>
        obtain ⟨b1, b2, b3⟩ := hK.1 e (by rw [ecl, e1]; rfl)
        have := hmi.1 e e1
        refine ⟨k - 0, m - 0, Nat.le_refl _, Nat.le_refl _, H2.1, hF s2 (i + 1) l 0 _ _ _ _ H2 D2 hl (by omega) ⟨fun e' he => ?_, fun z hz => ?_⟩⟩
        · rw [e1] at he
          cases he
          exact ⟨by omega, by omega, XKr_p b3 F12⟩
        · rw [e1] at hz
          cases hz
      | inr z =>
        have hz1 := hmi.2 z e1
        have hop := pM_opt (vl := vlT tp n) (io := false) hz (l := z.2.1) hz1.2.1
        have ec2 : ∀ {r : pR (Nat × Nat × Option dT)}, pOpt (cdT tp n) (vlT tp n) false z.1 z.2.1 = r → pClause (cdT tp n) (vlT tp n) false i l = pb r fun w => .inr (w.1, w.2.1, cdT tp n i, some z.2.2, w.2.2) := fun h => by
          rw [ecl, e1]
          show pb (pOpt (cdT tp n) (vlT tp n) false z.1 z.2.1) _ = _
          rw [h]
        have hkm : 2 * (z.1 - i) ≤ k ∧ 4 * (z.1 - i) ≤ m := by
          cases e2 : pOpt (cdT tp n) (vlT tp n) false z.1 z.2.1 with
          | inl e =>
            obtain ⟨b1, b2, -⟩ := hK.1 e (by rw [ec2 e2]; rfl)
            have := hop.1 e e2
            exact ⟨by omega, by omega⟩
          | inr w =>
            obtain ⟨b1, b2, -⟩ := hK.2 _ (by rw [ec2 e2]; rfl)
            have := hop.2 w e2
            dsimp only at b1 b2
            exact ⟨by omega, by omega⟩
        refine ⟨2 * (z.1 - (i + 1)), 4 * (z.1 - (i + 1)), by omega, by omega, H2.1, hF s2 (i + 1) l 0 _ _ _ _ H2 D2 hl (by omega) ⟨fun e' he => ?_, fun z' hz' => ?_⟩⟩
        · rw [e1] at he
          cases he
        · rw [e1] at hz'
          cases hz'
          refine ⟨Nat.le_refl _, Nat.le_refl _, fun s3 a F3 D3 T3 => ?_⟩
          have F03 := FR_t F2 F3 (Nat.le_refl _)
          have H3 := PS0_f h0 F03
          have W3 := RWo_f h0 hw F03
          have hl5 := hz1.2.2.2 hl
          refine v_cl40 (s1 := s1) (o := some z.2.2) hN hN2 hn hb (FRr_p F1 F03) r1 H3 D3 hl5 hz1.2.1 W3 hpw hc hw3 (fun z => absurd z (by omega)) (fun _ h => by cases h) ⟨fun h => (by cases h), fun D hD => ?_⟩ ⟨fun e he => ?_, fun u hu => ?_⟩
          · cases hD
            exact ⟨isSum_nz T3, isSum_up _ _ _ _ (by omega) (isSum_x (x := x) _ _ _ (isSum_fr (mFr_r _ _) (fun a ha => (NWr F12 F3).2 ha) _ _ _ T3))⟩
          · obtain ⟨b1, b2, b3⟩ := hK.1 e (by rw [ec2 he]; rfl)
            have := hop.1 e he
            exact ⟨by omega, by omega, b3⟩
          · obtain ⟨b1, b2, b3⟩ := hK.2 _ (by rw [ec2 hu]; rfl)
            dsimp only at b1 b2 b3
            have := hop.2 u hu
            refine ⟨by omega, by omega, fun s' f1 f2 f3 f4 f5 f6 f7 f8 => b3 s' ⟨f1, f4, f5, f6, ?_⟩ (fun j hj => ?_) (fun a ha => ?_) ?_⟩
            · rw [f7]
              exact (congrFun ((F03.1 rd (Or.inl (PS0_rd h0).1)).2.2.2 (PS0_rd h0).2.2.1) 9).trans h9e
            · rw [f2 j hj]
              exact congrFun ((F03.1 rw (Or.inl (by rw [hw.2.1.1]; intro z; cases z))).2.2.2 hpw.symm) j
            · have a1 := NW_m (N := N) F03 r1.1 r1.2.1 a ha
              have a2 := f3 a ((NWr F1 F03).1 ha)
              exact ⟨a2.1.trans a1.1, a2.2.1.trans a1.2.1, a2.2.2.trans a1.2.2⟩
            · rw [hcw]
              exact f8
  · obtain ⟨b1, b2, b3⟩ := hK.1 i (bad hno)
    unfold v_X8_read_2_20
    exact ⟨1, 7, by omega, by omega, h0.1, v_must0 h0 hd (Nat.le_refl _) (Nat.le_refl _) (XKr_p b3 F1)⟩
/-- all clauses -/
theorem v_readL (hN : 402 ≤ N.1) (hn : n ≤ 400) (hb : ∀ k, k < 400 → byT (tp k)) (hpw : pl ≠ rw) {α : Type} {IC : tM → (Nat → Prop) → Nat → α → Prop} (hIC : ∀ {s s' : tM} {M M' : Nat → Prop} {a : Nat} {c : α}, mFr M s s' → (∀ a, M a → M' a) → IC s M a c → IC s' M' a c) (r1 : s1.1 rd ≠ none ∧ s1.1 pl ≠ none ∧ s1.1 rw ≠ none) {item : Nat → Nat → pR (Nat × Nat × α)} (hM : pMc (tokT tp n) item) (hF : ∀ s i l c k m Kr Kx, CSt N io rd x ta pl wd rw t h9 tp n s1 s i l → l ≤ 50 → i ≤ tokT tp n → c < 12 → okC N io rd x ta pl wd rw t h9 tp n IC s1 s c i (item i l) k m Kr Kx → v_U_read N rd (nI c) k m s Kr Kx) {Kr : Int32 → tM → Prop} {Kx : String → Nat → tM → Prop} : ∀ (f u : Nat) (s : tM) (i l c k m : Nat) (acc : List α), f + c = 12 → c < 12 → f < u → CSt N io rd x ta pl wd rw t h9 tp n s1 s i l → i ≤ tokT tp n → l ≤ 50 → acc.length = c → (∀ j (hj : j < acc.length), IC s (NW N s1 s) (tR s rw j) acc[j]) → 2 * (tokT tp n - i) + 2 ≤ k → 4 * (tokT tp n - i) + 8 ≤ m → (∀ e, pAll (cdT tp n) (tokT tp n) item f c i l acc = .inl e → XKr N rd pl rw tp n Kx s1 e) → (∀ cs, pAll (cdT tp n) (tokT tp n) item f c i l acc = .inr cs → ∀ s' i' l', 1 ≤ cs.length → cs.length ≤ 12 → CSt N io rd x ta pl wd rw t h9 tp n s1 s' i' l' → (∀ j (hj : j < cs.length), IC s' (NW N s1 s') (tR s' rw j) cs[j]) → Kr (nI cs.length) s') → v_X7_readAll_6 N rd Kr Kx (fun x104 k106 n107 s105 => (tE s105 7 18 rd ∧ (tO s105 0 (tR s105 rd 7) ∧ ((¬ (tI s105 rd 0) = (tI s105 (tR s105 rd 7) 15) → (∃ c113 c114 : Nat, c113 ≤ k106 ∧ c114 ≤ n107 ∧ (v_X7_must N rd 0 c113 c114 s105 (fun s112 => (Kr x104 s112)) Kx))) ∧ ((tI s105 rd 0) = (tI s105 (tR s105 rd 7) 15) → (∃ c119 c120 : Nat, c119 ≤ k106 ∧ c120 ≤ n107 ∧ (v_X7_must N rd 1 c119 c120 s105 (fun s118 => (Kr x104 s118)) Kx))))))) u (nI c) k m s
  | _, 0, _, _, _, _, _, _, _, _, _, h, _, _, _, _, _, _, _, _, _ => absurd h (Nat.not_lt_zero _)
  | 0, _ + 1, _, _, _, c, _, _, _, h1, h2, _, _, _, _, _, _, _, _, _, _ => absurd h1 (by omega)
  | f + 1, u + 1, s, i, l, c, k, m, acc, hfc, hc, hu, hC, hi, hl, hacc, hA, hk, hm, hL1, hL2 => by
    have hz : ∀ k, tokT tp n ≤ k → cdT tp n k = 0 := fun k hk => cdT_z hn k hk
    have hE := PS0_E hC.2.1
    have hmi := hM i l hi
    have epA : pAll (cdT tp n) (tokT tp n) item (f + 1) c i l acc = pb (item i l) fun z => if cdT tp n z.1 = 159 then (if c + 1 = 12 then .inl (z.1 + 1) else pAll (cdT tp n) (tokT tp n) item f (c + 1) (z.1 + 1) z.2.1 (acc ++ [z.2.2])) else if z.1 < tokT tp n then .inl z.1 else .inr (acc ++ [z.2.2]) := rfl
    rw [epA] at hL1 hL2
    unfold v_X7_readAll_6
    rw [show (12 : Int32) = nI 12 from rfl, nI_lle (by omega) (by omega)]
    refine ⟨fun z => absurd z (by omega), fun _ => ?_⟩
    unfold v_X7_readAll_18
    refine ⟨0, 0, Nat.zero_le _, Nat.zero_le _, hE, v_must1 ?_⟩
    cases e1 : item i l with
    | inl e =>
      have := hmi.1 e e1
      refine ⟨k - 0, m - 0, Nat.le_refl _, Nat.le_refl _, hF s i l c _ _ _ _ hC hl hi hc ⟨fun e' he => ?_, fun z hz => ?_⟩⟩
      · rw [e1] at he
        cases he
        exact ⟨by omega, by omega, hL1 e (by rw [e1]; rfl)⟩
      · rw [e1] at hz
        cases hz
    | inr z =>
      have hz1 := hmi.2 z e1
      have er2 : ∀ {g : Nat × Nat × α → pR (List α)}, pb (.inr z) g = g z := rfl
      rw [e1, er2] at hL1 hL2
      refine ⟨2 * (z.1 - i), 4 * (z.1 - i), by omega, by omega, hF s i l c _ _ _ _ hC hl hi hc ⟨fun e' he => ?_, fun z' hz' => ?_⟩⟩
      · rw [e1] at he
        cases he
      · rw [e1] at hz'
        cases hz'
        refine ⟨Nat.le_refl _, Nat.le_refl _, fun s3 C3 k3 m3 i3 x1 ex1 => ?_⟩
        rw [nI_1] at ex1
        rw [ex1]
        obtain ⟨F3, H3, W3, D3, N3⟩ := C3
        have hlen : (acc ++ [z.2.2]).length = c + 1 := by rw [List.length_append, hacc]; rfl
        have nk : ∀ a, NW N s1 s a → NW N s1 s3 a := fun a ha => ⟨ha.1, ha.2.1, by
          rw [(m3 a ha).1]
          exact ha.2.2⟩
        have hA3 : ∀ j (hj : j < (acc ++ [z.2.2]).length), IC s3 (NW N s1 s3) (tR s3 rw j) (acc ++ [z.2.2])[j] := fun j hj => by
          by_cases ej : j < acc.length
          · rw [List.getElem_append_left ej, k3 j (by omega)]
            exact hIC m3 nk (hA j ej)
          · have ej2 : j = acc.length := by omega
            subst ej2
            have e5 : (acc ++ [z.2.2])[acc.length] = z.2.2 := by simp
            rw [e5, hacc]
            exact i3
        refine ⟨PS0_E H3, v_acceptP hN hn hb H3 D3 (by decide) (fun cc => ⟨fun z => absurd rfl z, fun _ => ?_⟩) (fun cc s4 F4 D4 => ⟨fun _ => ?_, fun z => absurd z (by decide)⟩)⟩
        · have cc : ¬ cdT tp n z.1 = 159 := cc
          rw [if_neg cc] at hL1 hL2
          obtain ⟨t1, t2, t3, t4, t5⟩ := PS0_T H3
          have hle := tokP_le (tp := tp) (n := n) z.1
          have hTk := tokT_iff (tp := tp) hn z.1
          dsimp only
          rw [H3.2.1, t5, D3.1.1, nI_eq (by omega) (by omega)]
          refine ⟨PS0_E H3, t1, fun ne => ?_, fun eq => ?_⟩
          · rw [if_pos (hTk.mpr (by omega))] at hL1
            exact ⟨1, 7, by omega, by omega, v_must0 H3 D3 (Nat.le_refl _) (Nat.le_refl _) (XKr_p (hL1 _ rfl) F3)⟩
          · rw [if_neg (fun y => by have := hTk.mp y; omega)] at hL2
            refine ⟨0, 0, Nat.zero_le _, Nat.zero_le _, v_must1 ?_⟩
            rw [← hlen]
            exact hL2 _ rfl s3 z.1 z.2.1 (by omega) (by omega) ⟨F3, H3, W3, D3, N3⟩ hA3
        · have cc : cdT tp n z.1 = 159 := cc
          rw [if_pos cc] at hL1 hL2
          have zT : z.1 < tokT tp n := cd_lt (cd := cdT tp n) hz cc (by decide)
          have H4 := PS0_f H3 F4
          have F14 := FRr_p F3 F4
          have r9 : tR s4 rd 9 = h9 := (congrFun ((F4.1 rd (Or.inl (PS0_rd H3).1)).2.2.2 (PS0_rd H3).2.2.1) 9).trans N3
          have rk : ∀ j, tR s4 rw j = tR s3 rw j := fun j => congrFun ((F4.1 rw (Or.inl (by rw [W3.2.1.1]; intro z; cases z))).2.2.2 hpw.symm) j
          by_cases c12 : c + 1 = 12
          · rw [if_pos c12] at hL1
            rw [c12]
            obtain ⟨u, rfl⟩ : ∃ v, u = v + 1 := ⟨u - 1, by omega⟩
            show v_X7_readAll_6 N rd Kr Kx _ (u + 1) (nI 12) _ _ s4
            unfold v_X7_readAll_6
            refine ⟨fun _ => ?_, fun z => absurd (by decide) z⟩
            unfold v_X7_readAll_18
            exact ⟨1, 7, by omega, by omega, PS0_E H4, v_must0 H4 D4 (Nat.le_refl _) (Nat.le_refl _) (XKr_p (hL1 _ rfl) F14)⟩
          · rw [if_neg c12] at hL1 hL2
            refine v_readL (Kr := Kr) (Kx := Kx) (IC := IC) hN hn hb hpw hIC r1 hM hF f u s4 (z.1 + 1) z.2.1 (c + 1) _ _ (acc ++ [z.2.2]) (by omega) (by omega) (by omega) ⟨F14, H4, RWo_f H3 W3 F4, D4, r9⟩ zT (hz1.2.2.2 hl) hlen (fun j hj => ?_) (by omega) (by omega) hL1 hL2
            rw [rk j]
            exact hIC (NW_m F4 r1.1 r1.2.1) (fun a ha => (NWr F3 F4).1 ha) (hA3 j hj)
end RA
