set_option maxRecDepth 100000
/-! ===== the system's reader of laws: a whole text ===== -/
section RL
variable {N : tP} {s0 s s1 : tM} {rd x ta pl wd rw h9 : Nat} {tp : Nat → Int32} {n : Nat}
theorem FRr_ext {s' : tM} (hex : extN N s0 s1) (h1 : s0.1 rd = none ∧ rd ≠ N.2.2 200) (h2 : s0.1 pl = none ∧ pl ≠ N.2.2 200) (h3 : s0.1 rw = none ∧ rw ≠ N.2.2 200) (h : FRr N rd pl rw s1 s') : extN N s0 s' := fun a ha => by
  have e := hex a ha
  have f := h a (ha.elim (fun z => Or.inl (by rw [e.1]; exact z)) Or.inr)
  have ne : ∀ {b : Nat}, s0.1 b = none ∧ b ≠ N.2.2 200 → a ≠ b := fun hb z => ha.elim (fun y => y (z ▸ hb.1)) (fun y => hb.2 (z ▸ y))
  exact ⟨f.1.trans e.1, (f.2.1 (ne h1)).trans e.2.1, f.2.2.1.trans e.2.2.1, (f.2.2.2 (ne h2) (ne h3)).trans e.2.2.2⟩
theorem v_readAllS (hN : 402 ≤ N.1) (hN2 : 60 ≤ N.2.1) (hn : n ≤ 400) (hb : ∀ k, k < 400 → byT (tp k)) (hR : RDn N s0 rd x ta tp n s1 pl wd rw h9) {k m : Nat} (hk : 802 ≤ k) (hm : 1608 ≤ m) {Kr : Int32 → tM → Prop} {Kx : String → Nat → tM → Prop} (hW : ∀ e, pLaw (cdT tp n) (vlT tp n) (tokT tp n) = .inl e → XKr N rd pl rw tp n Kx s1 e) (hK : ∀ cs, pLaw (cdT tp n) (vlT tp n) (tokT tp n) = .inr cs → ∀ s' i' l', 1 ≤ cs.length → cs.length ≤ 12 → CSt N false rd x ta pl wd rw 6 h9 tp n s1 s' i' l' → (∀ j (hj : j < cs.length), isClause s' (NW N s1 s') (tR s' rw j) cs[j]) → Kr (nI cs.length) s') : v_X7_readAll N rd k m s1 Kr Kx := by
  obtain ⟨x1, h0, hw, hh, hh2, hpw, r9, iz, g1, g2, g3, g4⟩ := hR
  have hz : ∀ k, tokT tp n ≤ k → cdT tp n k = 0 := fun k hk => cdT_z hn k hk
  have hT := tokT_le (tp := tp) hn
  obtain ⟨r1, r2, r3, -⟩ := PS0_rd h0
  unfold v_X7_readAll
  refine ⟨PS0_E h0, v_nextT hN (PS0_T h0) (PS0_R h0) hn (Nat.zero_le _) (iz 1 (by decide)) ?_⟩
  have e0 : sk tp n 0 = tokP tp n 0 := rfl
  rw [e0]
  have eT : (if tokP tp n 0 < n then en tp n (tokP tp n 0) else tokP tp n 0) = toP tp n 0 := rfl
  rw [eT]
  have F2 : FRp N rd pl 0 s1 (rdW s1 rd (tokP tp n 0) (toP tp n 0)) := FR_w FR_r
  have H2 := PS0_f h0 F2
  have D2 : PSd rd tp n (rdW s1 rd (tokP tp n 0) (toP tp n 0)) 0 0 0 0 := ⟨TKo_w, (rdW_o fun z => by have := z.2; omega).trans (iz 2 (by decide)), (rdW_o fun z => by have := z.2; omega).trans (iz 3 (by decide)), (rdW_o fun z => by have := z.2; omega).trans (iz 4 (by decide))⟩
  have C2 : CSt N false rd x ta pl wd rw 6 h9 tp n s1 (rdW s1 rd (tokP tp n 0) (toP tp n 0)) 0 0 := ⟨FRr_p FRr_r F2, H2, RWo_f h0 hw F2, D2, r9⟩
  exact v_readL (io := false) (IC := isClause) (Kr := Kr) (Kx := Kx) hN hn hb hpw (fun h1 h2 h3 => isClause_fr h1 h2 h3) ⟨r1, r2, g4⟩ (pM_clause (vl := vlT tp n) (io := false) hz) (fun s i l c k m Kr Kx hC hl hi hc hK => Or.inl ⟨hC.2.1.1, v_clauseS hN hN2 hn hb ⟨r1, r2, g4⟩ hpw hh hh2 hC hl hi hc hK⟩) 12 N.1 _ 0 0 0 k m [] rfl (by decide) (by omega) C2 (Nat.zero_le _) (Nat.zero_le _) rfl (fun j hj => absurd hj (Nat.not_lt_zero _)) (by omega) (by omega) hW hK
theorem v_X8_readS (hN : 402 ≤ N.1) (hN2 : 60 ≤ N.2.1) (hn : n ≤ 400) (hb : ∀ k, k < 400 → byT (tp k)) (hR : RDn N s0 rd x ta tp n s1 pl wd rw h9) {k m : Nat} (hk : 804 ≤ k) (hm : 1621 ≤ m) {Kr : Nat → tM → Prop} {Kx : String → Nat → tM → Prop} (hW : ∀ e, pLaw (cdT tp n) (vlT tp n) (tokT tp n) = .inl e → ∀ s' q, extN N s0 s' → tO s' 8 q → tI s' q 6 = plT tp n e → Kx "CounterDesk$Wrong" q s') (hK : ∀ cs, pLaw (cdT tp n) (vlT tp n) (tokT tp n) = .inr cs → ∀ s' q, extN N s0 s' → isText s' (fun a => s0.1 a = none ∧ s'.1 a ≠ none) q cs → Kr q s') : v_X8_read N rd k m s1 Kr Kx := by
  have hR2 := hR
  obtain ⟨x1, h0, hw, hh, hh2, hpw, r9, iz, g1, g2, g3, g4⟩ := hR2
  obtain ⟨r1, r2, r3, -⟩ := PS0_rd h0
  unfold v_X8_read
  refine ⟨802, 1608, by omega, by omega, h0.1, v_readAllS hN hN2 hn hb hR (Nat.le_refl _) (Nat.le_refl _) (fun e he s' q hf ho hp => hW e he s' q (FRr_ext x1 g1 g2 g3 hf) ho hp) (fun cs hcs s i' l' hl1 hl12 hC hA => ?_)⟩
  obtain ⟨F1, H1, W1, D1, N1⟩ := hC
  have ecl : (nI cs.length).toNatClampNeg = cs.length := nI_clamp (by omega)
  rw [ecl]
  refine ⟨fun y => ?_, by omega, by omega, by omega, fun q hq hq0 hq2 s3 e3 => ?_⟩
  · rw [i32_lt, nI_toInt (by omega), show (0 : Int32).toInt = 0 by decide] at y
    omega
  obtain ⟨u1, u2, u3⟩ := nw_c (p := 0) H1 FR_r hq
  have F3 : FRp N rd pl 0 s s3 := e3 ▸ FR_n FR_r hq hq2 u3
  have H3 := PS0_f H1 F3
  have W3 := RWo_f H1 W1 F3
  have a3 : tA s3 6 cs.length q := by
    rw [e3]
    exact ⟨if_pos rfl, hq0⟩
  have hlen : tLen s3 q = cs.length := by
    unfold tLen
    rw [a3.1]
  have qw : q ≠ rw := fun z => by
    rw [z, W1.2.1.1] at hq
    cases hq
  have rws : ∀ j, tR s3 rw j = tR s rw j := fun j => by
    rw [e3]
    exact if_neg qw.symm
  rw [hlen, W3.1, show Int32.ofNat cs.length = nI cs.length from rfl, ecl]
  refine ⟨H3.1, ⟨_, a3⟩, ⟨12, cs.length, W3.2.1, a3, by decide, by decide, ?_, ?_, ?_⟩, fun j hj => Or.inr ⟨13, st_6_13, ?_⟩, fun s4 e4 => ⟨by omega, by omega, fun q2 hq3 hq4 hq5 s5 e5 => ?_⟩⟩
  · rw [i32_lt, nI_toInt (by omega), show (0 : Int32).toInt = 0 by decide]
    omega
  · rw [ecl]
    show 0 + cs.length ≤ 12
    omega
  · rw [ecl]
    show 0 + cs.length ≤ cs.length
    omega
  · rw [Nat.zero_add, rws]
    have o := (hA j hj).2.1
    exact ⟨by rw [(F3.1 _ (Or.inl (by rw [o.1]; intro z; cases z))).1]; exact o.1, o.2⟩
  have F4 : FRp N rd pl 0 s s4 := e4 ▸ FR_cR F3 hq hq2 u3
  have H4 := PS0_f H1 F4
  obtain ⟨w1, w2, w3⟩ := nw_c H4 F4 hq3
  have nqq : q ≠ q2 := fun z => by
    have : s4.1 q = some (.inr (6, cs.length)) := by
      rw [e4]
      exact a3.1
    rw [z, hq3] at this
    cases this
  have F5 : FRp N rd pl 0 s s5 := e5 ▸ FR_n F4 w1 hq5 w3
  have o5 : tO s5 5 q2 := by
    rw [e5]
    exact ⟨if_pos rfl, hq4⟩
  unfold v_X5_init
  refine ⟨o5, fun s6 e6 => ?_⟩
  have F6 : FRp N rd pl 0 s s6 := e6 ▸ FR_R F5 w1 hq5 w3
  have o6 : s6.1 q2 = some (.inl 5) := by
    rw [e6]
    exact o5.1
  have a6 : s6.1 q = some (.inr (6, cs.length)) := by
    rw [e6, e5]
    show (if q = q2 then _ else s4.1 q) = _
    rw [if_neg nqq, e4]
    exact a3.1
  have t0 : tR s6 q2 0 = q := by
    rw [e6]
    exact if_pos ⟨rfl, rfl⟩
  have nn : ∀ {a : Nat} {c : Nat ⊕ (Nat × Nat)}, s6.1 a = some c → s6.1 a ≠ none := fun e z => by
    rw [e] at z
    cases z
  have F16 := FRr_p F1 F6
  have up : ∀ a, NW N s1 s a → s0.1 a = none ∧ s6.1 a ≠ none := fun a ha => by
    have := (NWr F1 F6).1 ha
    exact ⟨ext_fr x1 this.1, this.2.2⟩
  refine hK cs hcs s6 q2 (FRr_ext x1 g1 g2 g3 F16) ⟨⟨ext_fr x1 (FRr_f F1 w1), nn o6⟩, ⟨o6, hq4⟩, ?_, ?_, hl12, fun j hj => ?_⟩
  · rw [t0]
    exact ⟨ext_fr x1 (FRr_f F1 hq), nn a6⟩
  · rw [t0]
    exact ⟨a6, hq0⟩
  · have e7 : tR s6 (tR s6 q2 0) j = tR s rw j := by
      rw [t0, e6, e5]
      refine (if_neg fun y => nqq y.1).trans ((if_neg nqq).trans ?_)
      rw [e4]
      refine (cpR_p _ _ _ _ _ _ hj).trans ?_
      rw [Nat.zero_add]
      exact rws j
    rw [e7]
    exact isClause_fr (NW_m F6 (by exact r1) r2) up (hA j hj)
end RL
