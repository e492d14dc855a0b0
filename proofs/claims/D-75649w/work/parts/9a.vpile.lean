set_option maxRecDepth 100000
/-! ===== the system's reader: the pile of tests, and their joining ===== -/
theorem rowD_1 {all : Bool} {D : dT} : rowD all [D] = D := funext fun e => by
  rw [rowD_c]
  dsimp only
  cases h : D e with
  | none => rfl
  | some b => cases b <;> cases all <;> rfl
theorem row_and {E : dT} : ∀ Ds : List dT, rowD true (Ds ++ [E]) = aD (rowD true Ds) E
  | [] => by
    rw [List.nil_append, rowD_1]
    rfl
  | D :: Ds => funext fun e => by
    rw [List.cons_append, rowD_c, row_and Ds, rowD_c]
    unfold aD
    cases h : D e with
    | none => simp [h]
    | some b => cases b <;> simp [h]
theorem row_or {E : dT} : ∀ Ds : List dT, rowD false (Ds ++ [E]) = oD (rowD false Ds) E
  | [] => by
    rw [List.nil_append, rowD_1]
    rfl
  | D :: Ds => funext fun e => by
    rw [List.cons_append, rowD_c, row_or Ds, rowD_c]
    unfold oD
    cases h : D e with
    | none => simp [h]
    | some b => cases b <;> simp [h]
theorem nD_f {D : dT} : nD false D = D := funext fun e => by
  unfold nD
  cases D e with
  | none => rfl
  | some b => cases b <;> rfl
theorem cpR_p (s : tM) (a b sp n j : Nat) (hj : j < n) : tR (tCpR s a b sp 0 n) b j = tR s a (sp + j) := by
  show (if b = b then va_cpy (s.2.2.2 a) (s.2.2.2 b) sp 0 n j else s.2.2.2 b j) = _
  rw [if_pos rfl]
  unfold va_cpy
  rw [if_pos ⟨Nat.zero_le _, by omega⟩]
  show s.2.2.2 a (sp + (j - 0)) = s.2.2.2 a (sp + j)
  rw [Nat.sub_zero]
theorem xB_bI : ∀ b, xB (bI b) := fun b => match b with
  | true => xB1
  | false => xB0
section PL
variable {N : tP} {io : Bool} {rd x ta pl wd p q : Nat} {tp : Nat → Int32} {n : Nat} {s s0 s' : tM} {i l d : Nat}
theorem FR_cR (h : FRp N rd pl p s s') {b sp dp m : Nat} (hq : s.1 q = none) (h2 : ¬ q = N.2.2 200) (h3 : q ≠ pl) : FRp N rd pl p s (tCpR s' b q sp dp m) := ⟨fun a ha => by
  obtain ⟨a1, a2, a3, a4⟩ := h.1 a ha
  have hne : a ≠ q := fun z => ha.elim (fun y => y (z ▸ hq)) (fun y => h2 (z ▸ y))
  exact ⟨a1, a2, a3, fun z => (funext fun i => if_neg hne).trans (a4 z)⟩, fun i hi => (if_neg h3.symm).trans (h.2 i hi)⟩
theorem v_addS (h0 : PS0 N io rd x ta pl wd tp n s) (hd : PSd rd tp n s i l d p) (hp : p < 50) {a : Nat} (ha : tT s a) {Kr : tM → Prop} (hK : ∀ s', FRp N rd pl p s s' → PSd rd tp n s' i l d (p + 1) → tR s' pl p = a → Kr s') : v_X7_add rd a s Kr := by
  have hE := PS0_E h0
  unfold v_X7_add
  rw [h0.2.2.1, hd.2.2.2, nI_clamp (by omega)]
  refine ⟨hE, ⟨50, h0.2.2.2.2.2.1, vpk hp (by decide)⟩, ha, fun s1 e1 s2 e2 => ?_⟩
  have e3 : tI s1 rd 4 = nI p := by
    rw [e1]
    exact hd.2.2.2
  rw [e3, nI_1, e1] at e2
  refine hK s2 (e2 ▸ FR_I (FR_pl FR_r (Nat.le_refl _)) (Or.inr rfl)) ?_ ?_
  · rw [e2]
    exact ⟨⟨(if_neg fun y => absurd y.2 (by decide)).trans hd.1.1, (if_neg fun y => absurd y.2 (by decide)).trans hd.1.2⟩, (if_neg fun y => absurd y.2 (by decide)).trans hd.2.1, (if_neg fun y => absurd y.2 (by decide)).trans hd.2.2.1, if_pos ⟨rfl, rfl⟩⟩
  · rw [e2]
    exact if_pos ⟨rfl, rfl⟩
theorem PSd_p {p' : Nat} (hd : PSd rd tp n s i l d p) : PSd rd tp n (tsI s rd 4 (nI p')) i l d p' := ⟨⟨(if_neg fun y => absurd y.2 (by decide)).trans hd.1.1, (if_neg fun y => absurd y.2 (by decide)).trans hd.1.2⟩, (if_neg fun y => absurd y.2 (by decide)).trans hd.2.1, (if_neg fun y => absurd y.2 (by decide)).trans hd.2.2.1, if_pos ⟨rfl, rfl⟩⟩
theorem isTest_T {M : Nat → Prop} {t a : Nat} {D : dT} (h : isTest s M io x t a D) : tT s a := by
  cases t with
  | zero => exact h.elim
  | succ t => exact h.2.elim (fun z => Or.inl z.1) fun z => z.elim (fun y => Or.inr (Or.inl y.1)) fun y => Or.inr (Or.inr y.1)
theorem v_joinS (g0 : PS0 N io rd x ta pl wd tp n s0) (F0 : FRp N rd pl p s0 s) {c : Nat} (hd : PSd rd tp n s i l d (p + c)) {Ds : List dT} (hc : Ds.length = c) (h1 : 1 ≤ c) (hp : p + c ≤ 50) {all : Bool} {dep k m : Nat} (hT : ∀ k (hk : k < Ds.length), isTest s (NW N s0 s) io x dep (tR s pl (p + k)) Ds[k]) (hk2 : 2 ≤ c → 2 ≤ k ∧ c + 2 ≤ m) {Kr : Nat → tM → Prop} (hK : ∀ s' a, FRp N rd pl p s0 s' → PSd rd tp n s' i l d p → isTest s' (NW N s0 s') io x (dep + 1) a (rowD all Ds) → Kr a s') : v_X7_joined N rd (bI all) (nI p) k m s Kr := by
  have h0 := PS0_f g0 F0
  have hE := PS0_E h0
  obtain ⟨p1, p2, p3, -⟩ := PS0_rd g0
  have r1 := (PS0_rd h0).1
  have r2 := (PS0_rd h0).2.1
  unfold v_X7_joined
  have hs : nI (p + c) - nI p = nI c := by
    have := pk_sub (a := p + c) (b := p) (by omega)
    rw [this]
    congr 1
    omega
  rw [h0.2.2.1, hd.2.2.2, hs, nI_clamp (by omega), show (1 : Int32) = nI 1 from rfl, nI_lle (by omega) (by omega)]
  refine ⟨hE, ⟨50, h0.2.2.2.2.2.1, vpk (by omega) (by decide)⟩, fun a ea => ⟨fun z s1 e1 => ?_, fun z cnt ec => ?_⟩⟩
  · have F1 : FRp N rd pl p s s1 := e1 ▸ FR_I FR_r (Or.inr rfl)
    have t0 := hT 0 (by omega)
    have hDs : rowD all Ds = Ds[0] := by
      match Ds, hc with
      | [D], _ => exact rowD_1
      | [], hc => exact absurd hc (by show ¬ 0 = c; omega)
      | D :: D2 :: Ds, hc => exact absurd hc (by show ¬ Ds.length + 1 + 1 = c; omega)
    refine hK s1 a (FR_t F0 F1 (Nat.le_refl _)) (e1 ▸ PSd_p hd) ?_
    rw [hDs, ea]
    exact isTest_up _ _ _ _ (Nat.le_succ _) (isTest_fr (NW_m F1 p1 p2) (fun a ha => (NW_f F0 F1).1 ha) _ _ _ t0)
  · obtain ⟨k2, m2⟩ := hk2 (by omega)
    rw [ec, nI_clamp (by omega)]
    refine ⟨fun y => ?_, by omega, by omega, by omega, fun q hq hq0 hq2 s1 e1 => ?_⟩
    · rw [i32_lt, nI_toInt (by omega)] at y
      rw [show (0 : Int32).toInt = 0 by decide] at y
      omega
    obtain ⟨u1, u2, u3⟩ := nw_c h0 F0 hq
    have F1 : FRp N rd pl p s s1 := e1 ▸ FR_n FR_r hq hq2 u3
    have H1 := PS0_f h0 F1
    have a1 : tA s1 7 c q := by
      rw [e1]
      exact ⟨if_pos rfl, hq0⟩
    have hlen : tLen s1 q = c := by
      unfold tLen
      rw [a1.1]
    rw [hlen, H1.2.2.1, show Int32.ofNat c = nI c from rfl, nI_clamp (by omega)]
    have pls : ∀ j, tR s1 pl j = tR s pl j := fun j => by
      rw [e1]
      exact if_neg u3.symm
    refine ⟨PS0_E H1, ⟨c, a1⟩, ⟨50, c, H1.2.2.2.2.2.1, a1, ?_, by decide, ?_, ?_, ?_⟩, fun j hj => Or.inr ?_, fun s2 e2 => ⟨by omega, by omega, fun q2 hq3 hq4 hq5 s3 e3 => ?_⟩⟩
    · rw [i32_lt, nI_toInt (by omega), show (0 : Int32).toInt = 0 by decide]
      omega
    · rw [i32_lt, nI_toInt (by omega), show (0 : Int32).toInt = 0 by decide]
      omega
    · rw [nI_clamp (by omega), nI_clamp (by omega)]
      exact hp
    · rw [nI_clamp (by omega)]
      show 0 + c ≤ c
      omega
    · rw [pls]
      have tj := isTest_T (hT j (by omega))
      have o : ∀ {ci : Nat}, tO s ci (tR s pl (p + j)) → tO s1 ci (tR s pl (p + j)) := fun h => ⟨by rw [(F1.1 _ (Or.inl (by rw [h.1]; intro z; cases z))).1]; exact h.1, h.2⟩
      rcases tj with h | h | h
      · exact ⟨14, st_7_14, o h⟩
      · exact ⟨15, st_7_15, o h⟩
      · exact ⟨16, st_7_16, o h⟩
    have F2 : FRp N rd pl p s s2 := e2 ▸ FR_cR F1 hq hq2 u3
    have H2 := PS0_f h0 F2
    obtain ⟨w1, w2, w3⟩ := nw_c H2 F2 hq3
    have nqq : q ≠ q2 := fun z => by
      have : s2.1 q = some (.inr (7, c)) := by
        rw [e2]
        exact a1.1
      rw [z, hq3] at this
      cases this
    have F3 : FRp N rd pl p s s3 := e3 ▸ FR_n F2 w1 hq5 w3
    have o3 : tO s3 16 q2 := by
      rw [e3]
      exact ⟨if_pos rfl, hq4⟩
    unfold v_X19_init v_X16_init
    refine ⟨o3, hq4, o3, xB_bI all, fun s4 e4 s5 e5 => ?_⟩
    rw [e4] at e5
    have F5 : FRp N rd pl p s s5 := e5 ▸ FR_R (FR_I F3 (Or.inl ⟨w1, hq5⟩)) w1 hq5 w3
    refine ⟨PS0_E (PS0_f h0 F5), fun s6 e6 => ?_⟩
    have F6 : FRp N rd pl p s s6 := e6 ▸ FR_I F5 (Or.inr rfl)
    have F06 := FR_t F0 F6 (Nat.le_refl _)
    have D5 : PSd rd tp n s5 i l d (p + c) := by
      rw [e5]
      refine PSd_q (PSd_I (s := s3) (q := q2) (j := 0) (v := bI all) ?_ w2) rfl
      rw [e3]
      refine PSd_n ?_ w2
      rw [e2]
      refine PSd_q (s := s1) ?_ rfl
      rw [e1]
      exact PSd_n hd u2
    have o6 : s6.1 q2 = some (.inl 16) := by
      rw [e6, e5]
      exact o3.1
    have a6 : s6.1 q = some (.inr (7, c)) := by
      rw [e6, e5, e3]
      show (if q = q2 then _ else s2.1 q) = _
      rw [if_neg nqq, e2]
      exact a1.1
    have t1 : tR s6 q2 1 = q := by
      rw [e6, e5]
      exact if_pos ⟨rfl, rfl⟩
    refine hK s6 q2 F06 (e6 ▸ PSd_p D5) ⟨⟨FR_fr F0 w1, hq5, by rw [o6]; intro z; cases z⟩, Or.inr (Or.inr ⟨⟨o6, hq4⟩, all, Ds, ?_, ?_, ?_, by omega, fun j hj => ?_, rfl⟩)⟩
    · rw [e6, e5]
      exact (if_neg fun y => w2 y.1.symm).trans (if_pos ⟨rfl, rfl⟩)
    · rw [t1]
      exact ⟨FR_fr F0 hq, hq2, by rw [a6]; intro z; cases z⟩
    · rw [t1, hc]
      exact ⟨a6, hq0⟩
    · have e7 : tR s6 (tR s6 q2 1) j = tR s pl (p + j) := by
        rw [t1, e6, e5, e3]
        have : tR (tNew s2 q2 (.inl 16)) q j = tR s2 q j := if_neg nqq
        refine (if_neg fun y => nqq y.1).trans (this.trans ?_)
        rw [e2, cpR_p _ _ _ _ _ _ (by omega)]
        exact pls _
      rw [e7]
      exact isTest_fr (NW_m F6 p1 p2) (fun a ha => (NW_f F0 F6).1 ha) _ _ _ (hT j hj)
end PL
