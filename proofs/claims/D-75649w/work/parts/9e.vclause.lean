set_option maxRecDepth 100000
/-! ===== the system's reader of laws: a clause ===== -/
/-- what a reader of clauses keeps -/
def FRr (N : tP) (rd pl rw : Nat) (s s' : tM) : Prop := ∀ a, (s.1 a ≠ none ∨ a = N.2.2 200) → s'.1 a = s.1 a ∧ (a ≠ rd → s'.2.1 a = s.2.1 a) ∧ s'.2.2.1 a = s.2.2.1 a ∧ (a ≠ pl → a ≠ rw → s'.2.2.2 a = s.2.2.2 a)
def XKr (N : tP) (rd pl rw : Nat) (tp : Nat → Int32) (n : Nat) (Kx : String → Nat → tM → Prop) (s : tM) (e : Nat) : Prop := ∀ s' q, FRr N rd pl rw s s' → tO s' 8 q → tI s' q 6 = plT tp n e → Kx "CounterDesk$Wrong" q s'
theorem isSum_nz {s : tM} {M : Nat → Prop} {io : Bool} {x t a : Nat} {D : dS} (h : isSum s M io x t a D) : a ≠ 0 := by
  cases t with
  | zero => exact h.elim
  | succ t => exact h.2.elim (fun z => z.1.2) fun z => z.elim (fun z => z.1.2) fun z => z.elim (fun z => z.1.2) fun z => z.1.2
theorem isTest_nz {s : tM} {M : Nat → Prop} {io : Bool} {x t a : Nat} {D : dT} (h : isTest s M io x t a D) : a ≠ 0 := (isTest_T h).elim (fun z => z.2) fun z => z.elim (fun z => z.2) fun z => z.2
theorem isSum_x {s : tM} {M : Nat → Prop} {x x' : Nat} : ∀ n a D, isSum s M false x n a D → isSum s M false x' n a D
  | 0, _, _, h => h.elim
  | n + 1, a, D, h => ⟨h.1, by
    rcases h.2 with h | h | h | ⟨h1, c, D1, D2, h2, h3, h4⟩
    · exact Or.inl h
    · exact Or.inr (Or.inl h)
    · cases h.2.1
    · exact Or.inr (Or.inr (Or.inr ⟨h1, c, D1, D2, isSum_x n _ _ h2, isSum_x n _ _ h3, h4⟩))⟩
theorem isTest_x {s : tM} {M : Nat → Prop} {x x' : Nat} : ∀ n a D, isTest s M false x n a D → isTest s M false x' n a D
  | 0, _, _, h => h.elim
  | n + 1, a, D, h => ⟨h.1, by
    rcases h.2 with ⟨h1, c, D1, D2, h2, h3, h4⟩ | ⟨h1, D1, h2, h3⟩ | ⟨h1, all, Ds, h2, h3, h4, h5, h6, h7⟩
    · exact Or.inl ⟨h1, c, D1, D2, isSum_x _ _ _ h2, isSum_x _ _ _ h3, h4⟩
    · exact Or.inr (Or.inl ⟨h1, D1, isTest_x n _ _ h2, h3⟩)
    · exact Or.inr (Or.inr ⟨h1, all, Ds, h2, h3, h4, h5, fun k hk => isTest_x n _ _ (h6 k hk), h7⟩)⟩
section CL
variable {N : tP} {io : Bool} {rd x ta pl wd rw p q : Nat} {tp : Nat → Int32} {n : Nat} {s s1 s2 s' : tM} {i l d : Nat}
theorem FRr_r : FRr N rd pl rw s s := fun _ _ => ⟨rfl, fun _ => rfl, rfl, fun _ _ => rfl⟩
theorem FRr_p (h : FRr N rd pl rw s1 s) (h2 : FRp N rd pl p s s') : FRr N rd pl rw s1 s' := fun a ha => by
  obtain ⟨a1, a2, a3, a4⟩ := h a ha
  obtain ⟨b1, b2, b3, b4⟩ := h2.1 a (ha.elim (fun z => Or.inl (by rw [a1]; exact z)) Or.inr)
  exact ⟨b1.trans a1, fun z => (b2 z).trans (a2 z), b3.trans a3, fun z y => (b4 z).trans (a4 z y)⟩
theorem FRr_s (h : FRr N rd pl rw s1 s) {j v : Nat} : FRr N rd pl rw s1 (tsR s rw j v) := fun a ha => by
  obtain ⟨a1, a2, a3, a4⟩ := h a ha
  exact ⟨a1, a2, a3, fun z y => (funext fun i => if_neg fun w => y w.1).trans (a4 z y)⟩
theorem FRr_f (h : FRr N rd pl rw s1 s) (hq : s.1 q = none) : s1.1 q = none := Classical.byContradiction fun y => by
  have := (h q (Or.inl y)).1
  rw [hq] at this
  exact y this.symm
theorem XKr_p {Kx : String → Nat → tM → Prop} {e : Nat} (hx : XKr N rd pl rw tp n Kx s1 e) (h : FRr N rd pl rw s1 s) : XK N rd pl p tp n Kx s e := fun s' q h1 h2 h3 => hx s' q (FRr_p h h1) h2 h3
theorem NWr (h : FRr N rd pl rw s1 s) (h2 : FRp N rd pl p s s') {a : Nat} : (NW N s1 s a → NW N s1 s' a) ∧ (NW N s s' a → NW N s1 s' a) := by
  refine ⟨fun z => ⟨z.1, z.2.1, ?_⟩, fun z => ⟨FRr_f h z.1, z.2.1, z.2.2⟩⟩
  rw [(h2.1 a (Or.inl z.2.2)).1]
  exact z.2.2
theorem PS0_W (h : PS0 N io rd x ta pl wd tp n s) (h1 : rw ≠ rd) (h2 : rw ≠ wd) (h3 : rw ≠ x) {j v : Nat} : PS0 N io rd x ta pl wd tp n (tsR s rw j v) := by
  obtain ⟨a1, a2, a3, a4, a5, a6, ⟨a7, a8⟩, ⟨t1, t2, t3, t4, t5⟩⟩ := h
  have r : ∀ {b i : Nat}, rw ≠ b → tR (tsR s rw j v) b i = tR s b i := fun h => if_neg fun z => h z.1.symm
  exact ⟨a1, (r h1).trans a2, (r h1).trans a3, (r h1).trans a4, fun z => (r h1).trans (a5 z), a6, ⟨a7, fun w hw => (r h2).trans (a8 w hw)⟩, t1, (r h3).trans t2, t3, t4, t5⟩
/-- a reader's row of clauses -/
def RWo (s : tM) (rd wd x rw t : Nat) : Prop := tR s rd 8 = rw ∧ tA s t 12 rw ∧ rw ≠ rd ∧ rw ≠ wd ∧ rw ≠ x
theorem RWo_f (h0 : PS0 N io rd x ta pl wd tp n s) (h : RWo s rd wd x rw q) (hf : FRp N rd pl p s s') : RWo s' rd wd x rw q := by
  obtain ⟨h1, h2, h3, h4, h5⟩ := h
  obtain ⟨r1, -, r3, -⟩ := PS0_rd h0
  exact ⟨(congrFun ((hf.1 rd (Or.inl r1)).2.2.2 r3) 8).trans h1, ⟨(hf.1 rw (Or.inl (by rw [h2.1]; intro z; cases z))).1.trans h2.1, h2.2⟩, h3, h4, h5⟩
theorem v_cl40 (hN : 402 ≤ N.1) (hN2 : 60 ≤ N.2.1) (hn : n ≤ 400) (hb : ∀ k, k < 400 → byT (tp k)) (F1 : FRr N rd pl rw s1 s) (r1 : s1.1 rd ≠ none ∧ s1.1 pl ≠ none ∧ s1.1 rw ≠ none) (h0 : PS0 N false rd x ta pl wd tp n s) (hd : PSd rd tp n s i l 0 0) (hl : l ≤ 50) (hi : i ≤ tokT tp n) (hw : RWo s rd wd x rw 6) (hpw : pl ≠ rw) {c w : Nat} (hc : c < 12) (hw3 : w < 3) {y0 : Nat} {o : Option dS} (ho3 : w = 2 → o = none) (ho1 : ¬ w = 2 → ¬ o = none) (hy : (o = none → y0 = 0) ∧ ∀ D, o = some D → ¬ y0 = 0 ∧ isSum s (NW N s1 s) false 0 60 y0 D) {k m : Nat} {Kr : tM → Prop} {Kx : String → Nat → tM → Prop} (hK : (∀ e, pOpt (cdT tp n) (vlT tp n) false i l = .inl e → 2 * (e - i) + 3 ≤ k ∧ 4 * (e - i) + 12 ≤ m ∧ XKr N rd pl rw tp n Kx s1 e) ∧ ∀ z, pOpt (cdT tp n) (vlT tp n) false i l = .inr z → 2 * (z.1 - i) + 1 ≤ k ∧ 4 * (z.1 - i) + 4 ≤ m ∧ ∀ s', FRr N rd pl rw s1 s' → (∀ j, j < c → tR s' rw j = tR s rw j) → mFr (NW N s1 s) s s' → PS0 N false rd x ta pl wd tp n s' → RWo s' rd wd x rw 6 → PSd rd tp n s' z.1 z.2.1 0 0 → tR s' rd 9 = tR s rd 9 → isClause s' (NW N s1 s') (tR s' rw c) (nI (w + 1), o, z.2.2) → Kr s') : v_X8_read_2_40 N rd (nI c) (nI w) y0 Kr Kx k m s := by
  have hz : ∀ k, tokT tp n ≤ k → cdT tp n k = 0 := fun k hk => cdT_z hn k hk
  have h7 : tO s 7 rd := h0.1
  obtain ⟨wr1, wr2, wr3, wr4, wr5⟩ := hw
  have hkm : 1 ≤ k ∧ 4 ≤ m := by
    cases e1 : pOpt (cdT tp n) (vlT tp n) false i l with
    | inl e =>
      have := hK.1 e e1
      omega
    | inr z =>
      have := hK.2 z e1
      omega
  unfold v_X8_read_2_40
  refine ⟨h7, hkm.1, hkm.2, fun q hq hq0 hq2 s2 e2 => ?_⟩
  obtain ⟨u1, u2, u3⟩ := nw_c (p := 0) h0 FR_r hq
  have F2 : FRp N rd pl 0 s s2 := e2 ▸ FR_n FR_r hq hq2 u3
  have H2 := PS0_f h0 F2
  have D2 : PSd rd tp n s2 i l 0 0 := e2 ▸ PSd_n hd u2
  have o2 : tO s2 13 q := by
    rw [e2]
    exact ⟨if_pos rfl, hq0⟩
  have q2 : s2.1 q ≠ none := by
    rw [o2.1]
    intro z
    cases z
  have qw : q ≠ rw := fun z => by
    rw [z, wr2.1] at hq
    cases hq
  have s1q : s1.1 q = none := FRr_f F1 hq
  have fin : ∀ (z : Nat × Nat × Option dT), pOpt (cdT tp n) (vlT tp n) false i l = .inr z → ∀ s3 y, FRp N rd pl 0 s2 s3 → PSd rd tp n s3 z.1 z.2.1 0 0 → (z.2.2 = none → y = 0) → (∀ D, z.2.2 = some D → isTest s3 (NW N s2 s3) false x 28 y D) → tO s3 13 q ∧ v_X15_init q (nI w) y0 y s3 (fun s113 => (tX s113 6 (tR s rd 8) (nI c) ∧ (tO s113 13 q ∧ (∀ s117 : tM, s117 = tsR s113 (tR s rd 8) (nI c).toNatClampNeg q → (Kr s117))))) := fun z ez s3 y F3 D3 y0' yT => by
    have o3 : tO s3 13 q := ⟨(F3.1 q (Or.inl q2)).1.trans o2.1, hq0⟩
    have F03 := FR_t F2 F3 (Nat.le_refl _)
    unfold v_X15_init
    refine ⟨o3, o3, fun s4 e4 s5 e5 s6 e6 => ?_⟩
    rw [e5, e4] at e6
    have F6 : FRp N rd pl 0 s s6 := e6 ▸ FR_R (FR_R (FR_I F03 (Or.inl ⟨hq, hq2⟩)) hq hq2 u3) hq hq2 u3
    have o6 : tO s6 13 q := by
      rw [e6]
      exact o3
    have D6 : PSd rd tp n s6 z.1 z.2.1 0 0 := e6 ▸ PSd_q (PSd_q (PSd_I D3 u2 : PSd rd tp n (tsI s3 q 0 (nI w)) z.1 z.2.1 0 0) rfl : PSd rd tp n (tsR (tsI s3 q 0 (nI w)) q 1 y0) z.1 z.2.1 0 0) rfl
    have H6 := PS0_f h0 F6
    have W6 := RWo_f h0 ⟨wr1, wr2, wr3, wr4, wr5⟩ F6
    rw [wr1, nI_clamp (by omega)]
    refine ⟨⟨12, W6.2.1, vpk hc (by decide)⟩, o6, fun s7 e7 => ?_⟩
    obtain ⟨-, -, hK2⟩ := hK.2 z ez
    have FR6 := FRr_p F1 F6
    have f7 : ∀ {a j : Nat}, a ≠ rw → tR s7 a j = tR s6 a j := fun h => by
      rw [e7]
      exact if_neg fun z => h z.1
    have m67 : mFr (NW N s1 s6) s6 s7 := fun a ha => by
      have hne : a ≠ rw := fun z => r1.2.2 (z ▸ ha.1)
      rw [e7]
      exact ⟨rfl, rfl, funext fun j => if_neg fun z => hne z.1⟩
    have n67 : ∀ a, NW N s1 s6 a → NW N s1 s7 a := fun a ha => by
      rw [e7]
      exact ha
    have n06 : ∀ a, NW N s1 s a → NW N s1 s6 a := fun a ha => (NWr F1 F6).1 ha
    have m06 : mFr (NW N s1 s) s s6 := NW_m F6 r1.1 r1.2.1
    have qc : tR s7 rw c = q := by
      rw [e7]
      exact if_pos ⟨rfl, rfl⟩
    have i0 : tI s7 q 0 = nI w := by
      rw [e7, e6]
      exact if_pos ⟨rfl, rfl⟩
    have i1 : tR s7 q 1 = y0 := by
      rw [f7 qw, e6]
      exact (if_neg fun z => absurd z.2 (by decide)).trans (if_pos ⟨rfl, rfl⟩)
    have i2 : tR s7 q 2 = y := by
      rw [f7 qw, e6]
      exact if_pos ⟨rfl, rfl⟩
    have n7 : NW N s1 s7 q := ⟨s1q, hq2, by rw [e7]; show s6.1 q ≠ none; rw [o6.1]; intro z; cases z⟩
    refine hK2 s7 (e7 ▸ FRr_s FR6) (fun j hj => ?_) (fun a ha => ?_) (e7 ▸ PS0_W H6 wr3 wr4 wr5) ?_ (e7 ▸ PSd_q D6 rfl) ?_ ?_
    · rw [e7]
      refine (if_neg fun z => by omega).trans ?_
      exact congrFun ((F6.1 rw (Or.inl (by rw [wr2.1]; intro z; cases z))).2.2.2 hpw.symm) j
    · have a1 := m06 a ha
      have a2 := m67 a (n06 a ha)
      exact ⟨a2.1.trans a1.1, a2.2.1.trans a1.2.1, a2.2.2.trans a1.2.2⟩
    · obtain ⟨x1, x2, x3, x4, x5⟩ := W6
      exact ⟨(f7 x3.symm).trans x1, by rw [e7]; exact x2, x3, x4, x5⟩
    · rw [f7 wr3.symm]
      exact congrFun ((F6.1 rd (Or.inl (PS0_rd h0).1)).2.2.2 (PS0_rd h0).2.2.1) 9
    · rw [qc]
      have hcw : nI (w + 1) - 1 = nI w := pk_sub (a := w + 1) (b := 1) (by omega)
      have w12 : (nI (w + 1) = 1 ∨ nI (w + 1) = 2 ∨ nI (w + 1) = 3) ∧ (nI (w + 1) = 3 → w = 2) ∧ (w = 2 → nI (w + 1) = 3) := by
        have key : ∀ w, w < 3 → (nI (w + 1) = 1 ∨ nI (w + 1) = 2 ∨ nI (w + 1) = 3) ∧ (nI (w + 1) = 3 → w = 2) ∧ (w = 2 → nI (w + 1) = 3) := by decide
        exact key w hw3
      refine ⟨n7, ⟨n7.2.2 |> fun _ => by rw [e7]; exact o6.1, hq0⟩, w12.1, by rw [i0, hcw], fun h => ho3 (w12.2.1 h), fun h => ho1 (fun z => h (w12.2.2 z)), fun h => by rw [i1]; exact hy.1 h, fun D hD => ?_, fun h => by rw [i2]; exact y0' h, fun D hD => ?_⟩
      · rw [i1]
        obtain ⟨y1, y2⟩ := hy.2 D hD
        exact ⟨y1, isSum_fr m67 n67 _ _ _ (isSum_fr m06 n06 _ _ _ y2)⟩
      · rw [i2]
        have t1 := yT D hD
        refine ⟨isTest_nz t1, isTest_up _ _ _ _ (by decide) (isTest_x (x := x) _ _ _ (isTest_fr m67 n67 _ _ _ (isTest_fr (M := NW N s2 s3) (s := s3) (fun a ha => ?_) (fun a ha => ?_) _ _ _ t1)))⟩
        · have hne : a ≠ q := fun z => q2 (z ▸ ha.1)
          rw [e6]
          exact ⟨rfl, funext fun j => if_neg fun z => hne z.1, funext fun j => (if_neg fun z => hne z.1).trans (if_neg fun z => hne z.1)⟩
        · have hF12 := FRr_p F1 F2
          have := (NWr hF12 F3).2 ha
          exact ⟨this.1, this.2.1, by rw [e6]; exact this.2.2⟩
  have h72 : tO s2 7 rd := H2.1
  refine ⟨h72, v_acceptP hN hn hb H2 D2 (by decide) (fun cc => ⟨fun _ => ?_, fun z => absurd rfl z⟩) (fun cc s3 F3 D3 => ⟨fun z => absurd z (by decide), fun _ => ?_⟩)⟩
  · have cc : ¬ cdT tp n i = 4 := cc
    have er : pOpt (cdT tp n) (vlT tp n) false i l = .inr (i, l, none) := by
      unfold pOpt
      rw [if_neg cc]
    exact fin _ er s2 0 FR_r D2 (fun _ => rfl) (fun D hD => by cases hD)
  · have cc : cdT tp n i = 4 := cc
    have iT : i < tokT tp n := cd_lt (cd := cdT tp n) hz cc (by decide)
    have er : pOpt (cdT tp n) (vlT tp n) false i l = pb (pTest (cdT tp n) (vlT tp n) false 8 (i + 1) l) (fun z => .inr (z.1, z.2.1, some z.2.2)) := by
      unfold pOpt
      rw [if_pos cc]
    have H3 := PS0_f H2 F3
    have F13 : FRr N rd pl rw s1 s3 := FRr_p (FRr_p F1 F2) F3
    have hmi := pM_test (vl := vlT tp n) (io := false) hz 8 (i + 1) l (by omega)
    have hF : itT N false rd x ta pl wd tp n 28 0 (pTest (cdT tp n) (vlT tp n) false 8) (fun k m s Kr Kx => r_X7_both N (N.2.1 - 2 + 2) 2 rd k m s Kr Kx) := (v_testR hN hN2 hn hb 8 0 rfl (N.2.1 - 2) (by omega)).2.2
    rw [show N.2.1 - 2 + 2 = N.2.1 by omega] at hF
    refine ⟨k - 1, m - 4, Nat.le_refl _, Nat.le_refl _, H3.1, hF s3 (i + 1) l 0 _ _ _ _ H3 D3 hl (Nat.zero_le _) (by omega) ⟨fun e he => ?_, fun z hz2 => ?_⟩⟩
    · obtain ⟨b1, b2, b3⟩ := hK.1 e (by rw [er, he]; rfl)
      have := hmi.1 e he
      exact ⟨by omega, by omega, XKr_p b3 F13⟩
    · have er2 : pOpt (cdT tp n) (vlT tp n) false i l = .inr (z.1, z.2.1, some z.2.2) := by
        rw [er, hz2]
        rfl
      obtain ⟨b1, b2, -⟩ := hK.2 _ er2
      have := hmi.2 z hz2
      dsimp only at b1 b2
      refine ⟨by omega, by omega, fun s4 a F4 D4 T4 => fin _ er2 s4 a (FR_t F3 F4 (Nat.le_refl _)) D4 (fun h => by cases h) (fun D hD => ?_)⟩
      cases hD
      exact isTest_fr (mFr_r _ _) (fun a ha => (NW_f F3 F4).2 ha) _ _ _ T4
end CL
