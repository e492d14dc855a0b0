set_option maxRecDepth 100000
/-! ===== the system's reader of orders: a whole text ===== -/
/-- a row of acts means cs -/
def isActs (x : Nat) (s : tM) (M : Nat → Prop) (q : Nat) (cs : List cO) : Prop := M q ∧ tA s 8 cs.length q ∧ (1 ≤ cs.length ∧ cs.length ≤ 12) ∧ ∀ j (hj : j < cs.length), isAct x s M (tR s q j) cs[j]
theorem isActs_fr {x : Nat} {s s' : tM} {M M' : Nat → Prop} (h : mFr M s s') (hM : ∀ a, M a → M' a) {q : Nat} {cs : List cO} (hA : isActs x s M q cs) : isActs x s' M' q cs := by
  obtain ⟨a1, a2, a3, a4⟩ := hA
  refine ⟨hM q a1, mFr_A h a1 a2, a3, fun j hj => ?_⟩
  rw [show tR s' q j = tR s q j from congrFun (h q a1).2.2 j]
  exact isAct_fr h hM (a4 j hj)
section RO2
variable {N : tP} {s0 s s1 : tM} {rd x ta pl wd rw : Nat} {tp : Nat → Int32} {n : Nat}
theorem v_readAllO (hN : 402 ≤ N.1) (hN2 : 60 ≤ N.2.1) (hn : n ≤ 400) (hb : ∀ k, k < 400 → byT (tp k)) (hR : RDq N s0 rd x ta tp n s1 pl wd rw) {k m : Nat} (hk : 802 ≤ k) (hm : 3208 ≤ m) {Kr : Int32 → tM → Prop} {Kx : String → Nat → tM → Prop} (hW : ∀ e, pOrders (cdT tp n) (vlT tp n) (tokT tp n) = .inl e → XKr N rd pl rw tp n Kx s1 e) (hK : ∀ cs, pOrders (cdT tp n) (vlT tp n) (tokT tp n) = .inr cs → ∀ s' i' l', 1 ≤ cs.length → cs.length ≤ 12 → CSt N true rd x ta pl wd rw 8 x tp n s1 s' i' l' → (∀ j (hj : j < cs.length), isAct x s' (NW N s1 s') (tR s' rw j) cs[j]) → Kr (nI cs.length) s') : v_X7_readAll N rd k m s1 Kr Kx := by
  obtain ⟨x1, h0, hw, hpw, r9, iz, g1, g2, g3, g4⟩ := hR
  have hz : ∀ k, tokT tp n ≤ k → cdT tp n k = 0 := fun k hk => cdT_z hn k hk
  have hT := tokT_le (tp := tp) hn
  obtain ⟨r1, r2, r3, -⟩ := PS0_rd h0
  unfold v_X7_readAll
  refine ⟨PS0_E h0, v_nextT hN (PS0_T h0) (PS0_R h0) hn (Nat.zero_le _) (iz 1 (by decide)) ?_⟩
  have e0 : sk tp n 0 = tokP tp n 0 := rfl
  rw [e0]
  have eT : (if tokP tp n 0 < n then en tp n (tokP tp n 0) else tokP tp n 0) = toP tp n 0 := rfl
  rw [eT]
  have F2 : FRp N rd pl 0 s1 (rdW s1 rd (tokP tp n 0) (toP tp n 0)) := FR_w FR_r
  have H2 := PS0_f h0 F2
  have D2 : PSd rd tp n (rdW s1 rd (tokP tp n 0) (toP tp n 0)) 0 0 0 0 := ⟨TKo_w, (rdW_o fun z => by have := z.2; omega).trans (iz 2 (by decide)), (rdW_o fun z => by have := z.2; omega).trans (iz 3 (by decide)), (rdW_o fun z => by have := z.2; omega).trans (iz 4 (by decide))⟩
  have C2 : CSt N true rd x ta pl wd rw 8 x tp n s1 (rdW s1 rd (tokP tp n 0) (toP tp n 0)) 0 0 := ⟨FRr_p FRr_r F2, H2, RWo_f h0 hw F2, D2, r9⟩
  exact v_readL8 (io := true) (IC := isAct x) (Kr := Kr) (Kx := Kx) hN hn hb hpw (fun h1 h2 h3 => isAct_fr h1 h2 h3) ⟨r1, r2, g4⟩ (pM_order (vl := vlT tp n) (io := true) hz) (fun s i l c k m Kr Kx hC hl hi hc hK => Or.inr ⟨hC.2.1.1, v_orderS hN hN2 hn hb ⟨r1, r2, g4⟩ hpw hC hl hi hc hK⟩) 12 N.1 _ 0 0 0 k m [] rfl (by decide) (by omega) C2 (Nat.zero_le _) (Nat.zero_le _) rfl (fun j hj => absurd hj (Nat.not_lt_zero _)) (by omega) (by omega) hW hK
theorem v_X21_readS (hN : 402 ≤ N.1) (hN2 : 60 ≤ N.2.1) (hn : n ≤ 400) (hb : ∀ k, k < 400 → byT (tp k)) (hR : RDq N s0 rd x ta tp n s1 pl wd rw) {k m : Nat} (hk : 803 ≤ k) (hm : 3220 ≤ m) {Kr : Nat → tM → Prop} {Kx : String → Nat → tM → Prop} (hW : ∀ e, pOrders (cdT tp n) (vlT tp n) (tokT tp n) = .inl e → ∀ s' q, extN N s0 s' → tO s' 8 q → tI s' q 6 = plT tp n e → Kx "CounterDesk$Wrong" q s') (hK : ∀ cs, pOrders (cdT tp n) (vlT tp n) (tokT tp n) = .inr cs → ∀ s' q, extN N s0 s' → isActs x s' (fun a => s0.1 a = none ∧ s'.1 a ≠ none) q cs → Kr q s') : v_X21_read_2 N rd k m s1 Kr Kx := by
  have hR2 := hR
  obtain ⟨x1, h0, hw, hpw, r9, iz, g1, g2, g3, g4⟩ := hR2
  obtain ⟨r1, r2, r3, -⟩ := PS0_rd h0
  unfold v_X21_read_2
  refine ⟨802, 3208, by omega, by omega, h0.1, v_readAllO hN hN2 hn hb hR (Nat.le_refl _) (Nat.le_refl _) (fun e he s' q hf ho hp => hW e he s' q (FRr_ext x1 g1 g2 g3 hf) ho hp) (fun cs hcs s i' l' hl1 hl12 hC hA => ?_)⟩
  obtain ⟨F1, H1, W1, D1, N1⟩ := hC
  have ecl : (nI cs.length).toNatClampNeg = cs.length := nI_clamp (by omega)
  rw [ecl]
  refine ⟨fun y => ?_, by omega, by omega, by omega, fun q hq hq0 hq2 s3 e3 => ?_⟩
  · rw [i32_lt, nI_toInt (by omega), show (0 : Int32).toInt = 0 by decide] at y
    omega
  obtain ⟨u1, u2, u3⟩ := nw_c (p := 0) H1 FR_r hq
  have F3 : FRp N rd pl 0 s s3 := e3 ▸ FR_n FR_r hq hq2 u3
  have H3 := PS0_f H1 F3
  have W3 := RWo_f H1 W1 F3
  have a3 : tA s3 8 cs.length q := by
    rw [e3]
    exact ⟨if_pos rfl, hq0⟩
  have hlen : tLen s3 q = cs.length := by
    unfold tLen
    rw [a3.1]
  have qw : q ≠ rw := fun z => by
    rw [z, W1.2.1.1] at hq
    cases hq
  have rws : ∀ j, tR s3 rw j = tR s rw j := fun j => by
    rw [e3]
    exact if_neg qw.symm
  rw [hlen, W3.1, show Int32.ofNat cs.length = nI cs.length from rfl, ecl]
  refine ⟨H3.1, ⟨_, a3⟩, ⟨12, cs.length, W3.2.1, a3, by decide, by decide, ?_, ?_, ?_⟩, fun j hj => Or.inr ⟨17, st_8_17, ?_⟩, fun s4 e4 => ?_⟩
  · rw [i32_lt, nI_toInt (by omega), show (0 : Int32).toInt = 0 by decide]
    omega
  · rw [ecl]
    show 0 + cs.length ≤ 12
    omega
  · rw [ecl]
    show 0 + cs.length ≤ cs.length
    omega
  · rw [Nat.zero_add, rws]
    have o := (hA j hj).2.1
    exact ⟨by rw [(F3.1 _ (Or.inl (by rw [o.1]; intro z; cases z))).1]; exact o.1, o.2⟩
  have F4 : FRp N rd pl 0 s s4 := e4 ▸ FR_cR F3 hq hq2 u3
  have a4 : s4.1 q = some (.inr (8, cs.length)) := by
    rw [e4]
    exact a3.1
  have F14 := FRr_p F1 F4
  have up : ∀ a, NW N s1 s a → s0.1 a = none ∧ s4.1 a ≠ none := fun a ha => by
    have := (NWr F1 F4).1 ha
    exact ⟨ext_fr x1 this.1, this.2.2⟩
  refine hK cs hcs s4 q (FRr_ext x1 g1 g2 g3 F14) ⟨⟨ext_fr x1 (FRr_f F1 hq), by rw [a4]; intro z; cases z⟩, ⟨a4, hq0⟩, ⟨hl1, hl12⟩, fun j hj => ?_⟩
  have e7 : tR s4 q j = tR s rw j := by
    rw [e4]
    refine (cpR_p _ _ _ _ _ _ hj).trans ?_
    rw [Nat.zero_add]
    exact rws j
  rw [e7]
  exact isAct_fr (NW_m F4 (by exact r1) r2) up (hA j hj)
end RO2
