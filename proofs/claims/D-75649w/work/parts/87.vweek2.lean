set_option maxRecDepth 100000
/-! ===== weeks, the system's side and the pair ===== -/
section VW
variable {N : tP} {s : tM} {L : Nat → Nat} {M O : Nat → Prop} {m : mS} {lw : Option (List cL)} {q0 : Nat}
/-- a long of a cell that is no role's -/
theorem RX.J (hX : RX N s L M O m) (a j : Nat) (v : Int64) : RX N (tsJ s a j v) L M O m := hX.g rfl rfl (fun _ _ _ _ => rfl) (fun _ _ => ⟨rfl, rfl, rfl⟩)
theorem v_nextS {st d : Nat} (ho : tO s 19 q0) (hj : tJ s q0 0 = lN st) (hs : st < 1000003) (h0 : 0 < d) (hd : d < 1000) {K : Int32 → tM → Prop} (hK : K (nI (nxG st % d)) (tsJ s q0 0 (lN (nxG st)))) : v_X22_next q0 (nI d) s K := by
  have hl := nxG_l st
  unfold v_X22_next
  refine ⟨ho, fun x hx s2 e2 y hy z hz => ?_⟩
  rw [hj] at hx
  rw [hx, nx_l hs] at e2
  have hz2 : z = lN (nxG st) := by
    rw [hz, e2]
    exact if_pos ⟨rfl, rfl⟩
  rw [nI_l (by omega)] at hy
  rw [hy, hz2, pk_lRem (by omega) h0 (by omega), lN_i, e2]
  refine ⟨fun w => ?_, hK⟩
  rw [show (0 : Int64) = lN 0 from rfl, lN_eq (by omega) (by omega)] at w
  omega
/-- what the weeks' loop keeps on the system's side -/
def wJ (N : tP) (s s1 : tM) (L : Nat → Nat) (M O : Nat → Prop) (mz : mS) (q0 st : Nat) (sv : Nat → Int32) : Prop := RX N s1 L M (fun a => O a ∨ a = q0) mz ∧ frM O s s1 ∧ tO s1 19 q0 ∧ tJ s1 q0 0 = lN st ∧ (∀ j, j < 12 → tI s1 (L 205) j = sv (12 + j) ∧ tI s1 (L 405) j = sv j) ∧ tI s1 (L 5) 2 = sv 24
theorem wJ_f {s1 s2 : tM} {mz mz2 : mS} {st : Nat} {sv : Nat → Int32} (h : wJ N s s1 L M O mz q0 st sv) (hX : RX N s2 L M (fun a => O a ∨ a = q0) mz2) (hf : frM (fun a => O a ∨ a = q0) s1 s2) (hr : ∀ r, r = 205 ∨ r = 405 ∨ r = 5 → s2.2.1 (L r) = s1.2.1 (L r)) : wJ N s s2 L M O mz2 q0 st sv := by
  obtain ⟨h1, h2, h3, h4, h5, h6⟩ := h
  have hq := hf.1 q0 (Or.inr rfl)
  refine ⟨hX, frM_t h2 (frM_s hf (fun _ => Or.inl)), ⟨by rw [hq.1]; exact h3.1, h3.2⟩, ?_, fun j hj => ?_, ?_⟩
  · have := hf.2 q0 (Or.inr rfl) (by rw [h3.1]; intro z; cases z)
    unfold tJ at h4 ⊢
    rw [this]
    exact h4
  · unfold tI at h5 ⊢
    rw [hr 205 (by omega), hr 405 (by omega)]
    exact h5 j hj
  · unfold tI at h6 ⊢
    rw [hr 5 (by omega)]
    exact h6
theorem wJ_J {s1 : tM} {mz : mS} {st st' : Nat} {sv : Nat → Int32} (h : wJ N s s1 L M O mz q0 st sv) (hq : ¬ O q0) : wJ N s (tsJ s1 q0 0 (lN st')) L M O mz q0 st' sv := by
  obtain ⟨h1, h2, h3, h4, h5, h6⟩ := h
  refine ⟨h1.J q0 0 _, frM_t h2 ⟨fun a _ => ⟨rfl, rfl, rfl⟩, fun a ha _ => funext fun j => if_neg fun (z : a = q0 ∧ j = 0) => hq (z.1 ▸ ha)⟩, h3, if_pos ⟨rfl, rfl⟩, h5, h6⟩
theorem wJ_I {s1 : tM} {mz : mS} {st r0 j0 i0 : Nat} {v : Int32} {sv : Nat → Int32} (h : wJ N s s1 L M O mz q0 st sv) (hl : loc r0 j0 = some (2, i0)) (hr0 : r0 = 44 ∨ r0 = 244 ∨ r0 = 444) (hI : invM (mI mz 2 (nI i0) v)) (hi : i0 < 2 ^ 31) : wJ N s (tsI s1 (L r0) j0 v) L M O (mI mz 2 (nI i0) v) q0 st sv := by
  refine wJ_f h (h.1.w hl (rd_I _ _ (by decide) hi) (by omega) hI) (frM_I h.1 (loc_u hl)) (fun r hr => funext fun j => ?_)
  have hs : shp r ≠ none := by rcases hr with rfl | rfl | rfl <;> decide
  exact (tsI_r h.1.S (loc_u hl) hs s1).trans (if_neg (by omega))
theorem loc_244 {n : Nat} (hn : n < 12) : loc 244 n = some (2, 12 + n) := by
  unfold loc
  rw [if_neg (by decide), if_pos rfl, if_pos hn]
theorem loc_444 {n : Nat} (hn : n < 12) : loc 444 n = some (2, n) := by
  unfold loc
  rw [if_pos rfl, if_pos hn]
theorem v_wk168 (hN : 120 ≤ N.2.1) (hN1 : 60 ≤ N.1) {s1 : tM} {mz : mS} {st q : Nat} {sv : Nat → Int32} (h : wJ N s s1 L M O mz q0 st sv) (hq : q ≤ 12) (hqv : mz.2.1 2 41 = nI q) (hF : inF (mz.2.1 2) lw) (hd : ¬ 999 ≤ mz.2.1 2 24) {x2 x4 x5 : Int32} {Kr : Int32 → tM → Prop} {K : Int32 → Nat → Nat → tM → Prop} {R : Int32 → Int32 → Nat → Nat → tM → Prop} {k n : Nat} (hR : ∀ s2, wJ N s s2 L M O (wkD mz) q0 st sv → R (x4 + sumI (mOne 2 (mz.2.1 2) lw) q) (x5 + 1) k n s2) : v_X0_weeks_168 N (L 0) x2 q0 x4 x5 Kr K R k n s1 := by
  have X1 := h.1
  have S1 := X1.S
  unfold v_X0_weeks_168
  refine ⟨S1.o (r := 0) rfl, v_barredS hN hN1 X1 hF hqv hq (fun s2 a2 x hx => ?_)⟩
  have X2 := X1.a a2
  have h2 : wJ N s s2 L M O mz q0 st sv := wJ_f h X2 (frM_s (aS_M a2 S1) (fun _ => Or.inr)) (fun r hr => funext fun j => aS_I a2 S1 (by rcases hr with rfl | rfl | rfl <;> decide) (by omega) j)
  refine ⟨X2.S.o (r := 0) rfl, v_booksS X2.S ⟨X2.S.o (r := 44) rfl, fun s3 e3 y hy => ?_⟩⟩
  obtain ⟨told, k1, k2, -⟩ := X2.told
  have hv : tI s2 (L 44) 2 = mz.2.1 2 24 := X2.d
  rw [hv] at e3
  rw [hx, hy]
  refine hR s3 ?_
  rw [e3]
  have hdd := day_u X2.I.1.1.2.2 hd
  exact wJ_I (r0 := 44) (j0 := 2) (i0 := 24) h2 rfl (Or.inl rfl) (invM_I X2.I k2 k1 (by decide) ⟨by omega, fun _ => hdd, by omega, by omega, by omega, by omega, by omega, by omega, by omega, by omega⟩) (by decide)
theorem v_wk71 (hN : 120 ≤ N.2.1) (hN1 : 60 ≤ N.1) (hqO : ¬ O q0) {q nn : Nat} (hq : q ≤ 12) (hq0 : 0 < q) (hnn : nn ≤ 60) {sv : Nat → Int32} {Kr : Int32 → tM → Prop} {K : Int32 → Nat → Nat → tM → Prop} {bk bn : Nat} : ∀ (c t k : Nat) (mz : mS) (s1 : tM) (st : Nat) (sm : Int32), k + c = nn → c < t → wJ N s s1 L M O mz q0 st sv → mz.2.1 2 41 = nI q → inF (mz.2.1 2) lw → st < 1000003 → (∀ s' st', wJ N s s' L M O (wkF lw q c mz st sm).1 q0 st' sv → K (wkF lw q c mz st sm).2 bk bn s') → v_X0_weeks_71 N (L 0) (nI nn) q0 Kr K t sm (nI k) bk bn s1
  | _, 0, _, _, _, _, _, _, h, _, _, _, _, _ => absurd h (Nat.not_lt_zero _)
  | 0, t + 1, k, mz, s1, st, sm, hk, _, h, hqv, hF, hs, hK => by
    unfold v_X0_weeks_71
    rw [nI_lle (by omega) (by omega)]
    exact ⟨fun _ => hK s1 st h, fun z => absurd (by omega) z⟩
  | c + 1, t + 1, k, mz, s1, st, sm, hk, ht, h, hqv, hF, hs, hK => by
    have e : wkF lw q (c + 1) mz st sm = if 999 ≤ mz.2.1 2 24 then (mz, sm) else wkF lw q c (wkD (wkA q mz st)) (nxG (nxG (nxG st))) (sm + sumI (mOne 2 ((wkA q mz st).2.1 2) lw) q) := rfl
    rw [e] at hK
    have X1 := h.1
    have S1 := X1.S
    have hd : tI s1 (L 44) 2 = mz.2.1 2 24 := X1.d
    have hmod := Nat.mod_lt (nxG st) hq0
    have hmod2 := Nat.mod_lt (nxG (nxG st)) (show 0 < 25 by decide)
    have hmod3 := Nat.mod_lt (nxG (nxG (nxG st))) (show 0 < 4 by decide)
    have hoA := wkA_o hq hq0 mz st
    unfold v_X0_weeks_71
    rw [nI_lle (by omega) (by omega)]
    refine ⟨fun z => by omega, fun _ => ⟨S1.o (r := 0) rfl, v_booksS S1 ⟨S1.o (r := 44) rfl, ?_⟩⟩⟩
    rw [hd]
    refine ⟨fun z => ?_, fun nz => ⟨S1.o (r := 0) rfl, v_nNotesS S1 ?_⟩⟩
    · rw [if_pos z] at hK
      exact hK s1 st h
    rw [if_neg nz] at hK
    rw [show tI s1 (L 40) 4 = nI q from X1.many.trans hqv]
    have h2 := wJ_J (st' := nxG st) h hqO
    have h3 := wJ_J (st' := nxG (nxG st)) h2 hqO
    have h4 := wJ_J (st' := nxG (nxG (nxG st))) h3 hqO
    refine ⟨h.2.2.1, v_nextS h.2.2.1 h.2.2.2.1 hs hq0 (by omega) ⟨h2.2.2.1, v_nextS (d := 25) h2.2.2.1 h2.2.2.2.1 (nxG_l _) (by decide) (by decide) ⟨h3.2.2.1, v_nextS (d := 4) h3.2.2.1 h3.2.2.2.1 (nxG_l _) (by decide) (by decide) ?_⟩⟩⟩
    generalize tsJ (tsJ (tsJ s1 q0 0 (lN (nxG st))) q0 0 (lN (nxG (nxG st)))) q0 0 (lN (nxG (nxG (nxG st)))) = s4 at h4
    have X4 := h4.1
    have S4 := X4.S
    obtain ⟨told, k1, k2, -⟩ := X4.told
    have b44 := S4.2.2.1.2.1 44 (Or.inr (Or.inr (Or.inr (Or.inl rfl))))
    have th : tR s4 (L 44) 1 = L 444 := b44.2
    have tu : tR s4 (L 44) 0 = L 244 := b44.1
    have pn := pI_n (p := nxG (nxG st) % 25) hmod2
    -- behind the act
    have last : ∀ s5, wJ N s s5 L M O (wkA q mz st) q0 (nxG (nxG (nxG st))) sv → v_X0_weeks_168 N (L 0) (nI nn) q0 sm (nI k) Kr K (fun x4 x5 k n s => v_X0_weeks_71 N (L 0) (nI nn) q0 Kr K t x4 x5 k n s) bk bn s5 := fun s5 h5 => by
      have hF5 : inF ((wkA q mz st).2.1 2) lw := inF_o (fun i hi => hoA i (by omega)) hF
      refine v_wk168 hN hN1 h5 hq ((hoA 41 (by decide)).trans hqv) hF5 (by rw [hoA 24 (by decide)]; exact nz) (fun s6 h6 => ?_)
      rw [nI_1]
      have o6 : ∀ i, i ≠ 24 → (wkD (wkA q mz st)).2.1 2 i = (wkA q mz st).2.1 2 i := fun i hi => by
        unfold wkD
        rw [mI_at _ _ _ (by decide), if_neg hi]
      exact v_wk71 hN hN1 hqO hq hq0 hnn c t (k + 1) _ s6 (nxG (nxG (nxG st))) _ (by omega) (by omega) h6 ((o6 41 (by decide)).trans ((hoA 41 (by decide)).trans hqv)) (inF_o (fun i hi => o6 i (by omega)) hF5) (nxG_l _) hK
    -- by what was drawn
    have eq2 : ∀ w v : Nat, w < 4 → v < 4 → (nI w = nI v ↔ w = v) := fun w v hw hv => nI_eq (by omega) (by omega)
    have go133 : ∀ s5 mz5, (wkA q mz st = (if nxG (nxG (nxG st)) % 4 = 2 then mI mz5 2 (nI (12 + nxG st % q)) (nI (nxG (nxG st) % 25)) else if nxG (nxG (nxG st)) % 4 = 3 then exI q 0 mz5 else mz5)) → mz5.2.1 2 41 = nI q → wJ N s s5 L M O mz5 q0 (nxG (nxG (nxG st))) sv → v_X0_weeks_133 N (L 0) (nI nn) q0 sm (nI k) (nI (nxG st % q)) (nI (nxG (nxG st) % 25)) (nI (nxG (nxG (nxG st)) % 4)) Kr K (fun x4 x5 k n s => v_X0_weeks_71 N (L 0) (nI nn) q0 Kr K t x4 x5 k n s) bk bn s5 := fun s5 mz5 hw hqv5 h5 => by
      have X5 := h5.1
      have S5 := X5.S
      obtain ⟨told, k1, k2, -⟩ := X5.told
      have b44 := S5.2.2.1.2.1 44 (Or.inr (Or.inr (Or.inr (Or.inl rfl))))
      have tu : tR s5 (L 44) 0 = L 244 := b44.1
      unfold v_X0_weeks_133 v_X0_weeks_151
      rw [show (2 : Int32) = nI 2 from rfl, show (3 : Int32) = nI 3 from rfl, eq2 _ 2 hmod3 (by decide), eq2 _ 3 hmod3 (by decide)]
      refine ⟨fun n2 => ⟨fun n3 => last s5 ?_, fun y3 => ⟨S5.o (r := 0) rfl, v_booksS S5 ⟨S5.o (r := 0) rfl, v_nNotesS S5 ⟨S5.o (r := 44) rfl, ?_⟩⟩⟩⟩, fun y2 => ⟨S5.o (r := 0) rfl, v_booksS S5 ?_⟩⟩
      · rw [hw, if_neg n2, if_neg n3]
        exact h5
      · rw [show tI s5 (L 40) 4 = nI q from X5.many.trans hqv5]
        unfold v_X2_exchange
        refine v_exR hq q N.1 0 X5 (by omega) (by omega) (fun s6 X6 f6 o6 => last s6 ?_)
        rw [hw, if_neg n2, if_pos y3]
        exact wJ_f h5 X6 f6 (fun r hr => o6 r (by rcases hr with rfl | rfl | rfl <;> decide) (by omega) (by omega))
      · rw [tu, nI_clamp (by omega)]
        refine ⟨S5.o (r := 44) rfl, ⟨12, S5.a (r := 244) rfl, vpk (by omega) (by decide)⟩, fun s6 e6 => ⟨fun _ => last s6 ?_, fun y3 => by omega⟩⟩
        rw [hw, if_pos y2, e6]
        exact wJ_I h5 (loc_244 (by omega)) (Or.inr (Or.inl rfl)) (invM_I X5.I k2 k1 (by omega) ⟨fun _ => pn, by omega, by omega, by omega, by omega, by omega, by omega, by omega, by omega, by omega⟩) (by omega)
    have hwk : wkA q mz st = if nxG (nxG (nxG st)) % 4 = 2 then mI mz 2 (nI (12 + nxG st % q)) (nI (nxG (nxG st) % 25)) else if nxG (nxG (nxG st)) % 4 = 3 then exI q 0 mz else mI mz 2 (nI (nxG st % q)) (nI (nxG (nxG st) % 25)) := rfl
    rw [show (2 : Int32) = nI 2 from rfl, nI_leI (by omega) (by omega)]
    refine ⟨fun z => go133 s4 mz ?_ hqv h4, fun z => ⟨S4.o (r := 0) rfl, v_booksS S4 ?_⟩⟩
    · rw [hwk]
      by_cases c2 : nxG (nxG (nxG st)) % 4 = 2
      · rw [if_pos c2, if_pos c2]
      · rw [if_neg c2, if_neg c2, if_pos (by omega), if_pos (by omega)]
    · rw [th, nI_clamp (by omega)]
      refine ⟨S4.o (r := 44) rfl, ⟨12, S4.a (r := 444) rfl, vpk (by omega) (by decide)⟩, fun s5 e5 => go133 s5 (mI mz 2 (nI (nxG st % q)) (nI (nxG (nxG st) % 25))) ?_ ?_ ?_⟩
      · rw [hwk, if_neg (by omega), if_neg (by omega), if_neg (by omega), if_neg (by omega)]
      · rw [mI_at _ _ _ (by omega), if_neg (by omega)]
        exact hqv
      · rw [e5]
        exact wJ_I h4 (loc_444 (by omega)) (Or.inr (Or.inr rfl)) (invM_I X4.I k2 k1 (by omega) ⟨fun _ => pn, by omega, by omega, by omega, by omega, by omega, by omega, by omega, by omega, by omega⟩) (by omega)
end VW
section OW
variable {N : tP} {s : tM} {x o : Nat} {K : tM → Prop}
theorem inv49 {m : mS} (h : invM m) {q : Nat} (hq : q ≤ 12) : invM (mF m 49 (nI q)) := by
  obtain ⟨a, b, c, d, e⟩ := h
  exact ⟨a, b, c, Or.inr ⟨q, hq, rfl⟩, e⟩
theorem op_weeks (hN : nOK N) (hX : RXo N s x o) (hK : ∀ s', RXo N s' x o → K s') (a b : Int32) {k n : Nat} (hk : 1 ≤ k) (hn : 1 ≤ n) : v_X0_weeks N x a b k n s (pK o (w_weeks (nP N) a b) K) := by
  obtain ⟨L, M, rfl, hX, hm⟩ := hX
  have hS := hX.S
  obtain ⟨q, n1, n2⟩ := hX.I.1.2.2.2.2.1
  obtain ⟨lw, hF⟩ := hX.inF
  have hN1 : 60 ≤ N.1 := by have := hN.1; omega
  have hN2 : 120 ≤ N.2.1 := by have := hN.2; omega
  have hM1 : 402 ≤ (nP N).1 := by have := hN.1; show 402 ≤ N.1; omega
  have hM2 : 40 ≤ (nP N).2 := by have := hN.2; show 40 ≤ N.2.1; omega
  have o0 := hS.o (r := 0) rfl
  have z0 : nI q = 0 ↔ q = 0 := by rw [show (0 : Int32) = nI 0 from rfl, nI_eq (by omega) (by omega)]
  unfold v_X0_weeks
  refine v_inS ?_
  rw [inl (lo' := 0) (hi' := 1000000) (by decide) (by decide)]
  refine bI_c (fun za => ⟨o0, op_ref (k := 1) hX hm rfl hK (by decide) (by decide) (fun m1 K2 hc h2 => ?_)⟩) (fun za => v_inS ?_)
  · unfold w_weeks
    refine w_liesS ?_
    rw [za]
    exact ⟨fun _ => w_refS (k := 1) (by decide) h2, fun z => absurd rfl z⟩
  rw [inl (lo' := 1) (hi' := 60) (by decide) (by decide)]
  refine bI_d (fun zb => ⟨o0, v_nNotesS hS ?_⟩) (fun zb => ⟨o0, op_ref (k := 1) hX hm rfl hK (by decide) (by decide) (fun m1 K2 hc h2 => ?_)⟩)
  · rw [show tI s (L 40) 4 = nI q from hX.many.trans n2, z0]
    refine ⟨fun nq => ⟨hk, hn, fun q0 hq1 hq2 hq3 s1 e1 => ?_⟩, fun yq => ⟨o0, op_ref (k := 3) hX hm rfl hK (by decide) (by decide) (fun m1 K2 hc h2 => ?_)⟩⟩
    · have ra := in_t za
      have rb := in_t zb
      rw [z32_t, show (1000000 : Int32).toInt = 1000000 by decide] at ra
      rw [o32_t, show (60 : Int32).toInt = 60 by decide] at rb
      obtain ⟨sd, sd1, sd2⟩ := i32N (c := a) (by omega)
      obtain ⟨nn, nn1, nn2⟩ := i32N (c := b) (by omega)
      subst sd1 nn1
      have hsd : sd < 1000003 := by omega
      have hnn : nn ≤ 60 := by omega
      have hex : extN N s s1 := by
        rw [e1]
        exact ext_n (ext_r N s) hq1 hq3
      have X1 : RX N s1 L M (fun a => mO s o a ∨ a = q0) (sM s o) := hX.new hex hq1 hq3 (by
        rw [e1]
        show (if q0 = q0 then some (Sum.inl 19) else s.1 q0) ≠ none
        rw [if_pos rfl]
        intro z
        cases z)
      have hqO : ¬ mO s o q0 := fun z => hX.1.2.2.2 q0 (Or.inr z) hq1
      have oq : tO s1 19 q0 := by
        rw [e1]
        exact ⟨if_pos rfl, hq2⟩
      have f1 : frM (mO s o) s s1 := hX.exO hex
      unfold v_X22_init
      refine ⟨oq, fun s2 e2 => ?_⟩
      have X2 : RX N s2 L M (fun a => mO s o a ∨ a = q0) (sM s o) := by
        rw [e2]
        exact X1.J q0 0 _
      have f2 : frM (mO s o) s s2 := by
        rw [e2]
        exact frM_t f1 ⟨fun a _ => ⟨rfl, rfl, rfl⟩, fun a ha _ => funext fun j => if_neg fun (z : a = q0 ∧ j = 0) => hqO (z.1 ▸ ha)⟩
      have J2 : tJ s2 q0 0 = lN sd := by
        rw [e2, ← nI_l (by omega)]
        exact if_pos ⟨rfl, rfl⟩
      have oq2 : tO s2 19 q0 := by
        rw [e2]
        exact oq
      have S2 := X2.S
      refine ⟨S2.o (r := 0) rfl, v_booksS S2 ?_⟩
      have t05 := S2.t (r := 0) (j := 5) (q := 5) (by decide)
      rw [t05]
      have i5 : isBk 5 := Or.inr (Or.inl rfl)
      have i44 : isBk 44 := Or.inr (Or.inr (Or.inr (Or.inl rfl)))
      have i26 : isBk 26 := Or.inr (Or.inr (Or.inl rfl))
      refine ⟨S2.o (r := 5) rfl, v_asS S2 i5 i44 (fun s3 B3 => ?_)⟩
      obtain ⟨X3, f3⟩ := X2.bk5 (Or.inr (Or.inl rfl)) B3
      have h3 : wJ N s s3 L M (mO s o) (sM s o) q0 sd ((sM s o).2.1 2) := by
        have hq := f3.1 q0 (Or.inr rfl)
        refine ⟨X3, frM_t f2 (frM_s f3 (fun _ => Or.inl)), ⟨by rw [hq.1]; exact oq2.1, oq2.2⟩, ?_, fun j hj => ?_, ?_⟩
        · have := f3.2 q0 (Or.inr rfl) (by rw [oq2.1]; intro z; cases z)
          unfold tJ at J2 ⊢
          rw [this]
          exact J2
        · have := B3.2.2.2.2.2.1 j hj
          rw [show 200 + 5 = 205 by decide, show 200 + 44 = 244 by decide, show 400 + 5 = 405 by decide, show 400 + 44 = 444 by decide, X2.u hj, X2.h hj] at this
          exact this
        · exact B3.2.2.2.2.2.2.1.trans X2.d
      have hq0' : 0 < q := by omega
      refine v_wk71 (lw := lw) hN2 hN1 hqO n1 hq0' hnn nn N.1 0 (sM s o) s3 sd 0 (by omega) (by have := hN.1; omega) h3 n2 hF hsd (fun s4 st4 h4 => ?_)
      have X4 := h4.1
      have S4 := X4.S
      obtain ⟨sm, sm1, sm2⟩ := wkF_s (lw := lw) n1 nn (sM s o) sd 0 (by omega)
      have sm3 : (wkF lw q nn (sM s o) sd 0).2 = nI sm := sm2
      have o41 : ∀ (c : Nat) (mz : mS) (st : Nat) (v : Int32), ∀ i, 25 ≤ i → (wkF lw q c mz st v).1.2.1 2 i = mz.2.1 2 i := by
        intro c
        induction c with
        | zero => exact fun _ _ _ _ _ => rfl
        | succ c ih =>
          intro mz st v i hi
          show (if 999 ≤ mz.2.1 2 24 then (mz, v) else wkF lw q c (wkD (wkA q mz st)) (nxG (nxG (nxG st))) (v + sumI (mOne 2 ((wkA q mz st).2.1 2) lw) q)).1.2.1 2 i = _
          by_cases cc : 999 ≤ mz.2.1 2 24
          · rw [if_pos cc]
          · rw [if_neg cc, ih _ _ _ i hi]
            unfold wkD
            rw [mI_at _ _ _ (by decide), if_neg (by omega)]
            exact wkA_o n1 hq0' mz st i (by omega)
      have hqv4 : (wkF lw q nn (sM s o) sd 0).1.2.1 2 41 = nI q := (o41 nn _ _ _ 41 (by decide)).trans n2
      refine ⟨S4.o (r := 0) rfl, v_booksS S4 ?_⟩
      rw [S4.t (r := 0) (j := 26) (q := 26) (by decide)]
      refine ⟨S4.o (r := 26) rfl, v_asS S4 i26 i44 (fun s5 B5 => ?_)⟩
      generalize hmz : (wkF lw q nn (sM s o) sd 0).1 = mz at h4 X4 hqv4
      obtain ⟨X5, f5⟩ := X4.bk26 B5 (f := fun i => if i < 25 then mz.2.1 2 i else mz.2.1 48 i) (fun i hi => if_pos (by omega))
      have h5 : wJ N s s5 L M (mO s o) (sA mz 48 (fun i => if i < 25 then mz.2.1 2 i else mz.2.1 48 i)) q0 st4 ((sM s o).2.1 2) := wJ_f h4 X5 f5 (fun r hr => bk_off X4.1 i26 B5 (by rcases hr with rfl | rfl | rfl <;> decide) (by omega) (by omega) (by omega))
      have S5 := X5.S
      have hqv5 : (sA mz 48 (fun i => if i < 25 then mz.2.1 2 i else mz.2.1 48 i)).2.1 2 41 = nI q := by
        rw [sA_o _ _ (by decide)]
        exact hqv4
      refine ⟨S5.o (r := 0) rfl, v_nNotesS S5 ?_⟩
      rw [show tI s5 (L 40) 4 = nI q from X5.many.trans hqv5]
      refine ⟨S5.o (r := 0) rfl, fun s6 e6 => ?_⟩
      have X6 : RX N s6 L M (fun a => mO s o a ∨ a = q0) (mF (sA mz 48 (fun i => if i < 25 then mz.2.1 2 i else mz.2.1 48 i)) 49 (nI q)) := by
        rw [e6]
        exact X5.w (r0 := 0) (j0 := 27) (q0 := 60) (i0 := 49) rfl (rd_F _ _ _) (by omega) (inv49 X5.I n1)
      have h6 : wJ N s s6 L M (mO s o) (mF (sA mz 48 (fun i => if i < 25 then mz.2.1 2 i else mz.2.1 48 i)) 49 (nI q)) q0 st4 ((sM s o).2.1 2) := by
        refine wJ_f h5 X6 (by rw [e6]; exact frM_I X5 (by decide)) (fun r hr => funext fun j => ?_)
        rw [e6]
        exact (tsI_r S5 (r0 := 0) (by decide) (by rcases hr with rfl | rfl | rfl <;> decide) s5).trans (if_neg (by omega))
      have S6 := X6.S
      refine v_booksS S6 ?_
      rw [S6.t (r := 0) (j := 5) (q := 5) (by decide)]
      refine ⟨S6.o (r := 0) rfl, S6.o (r := 44) rfl, v_asS S6 i44 i5 (fun s7 B7 => ?_)⟩
      obtain ⟨X7, f7⟩ := X6.bk44 B7 (sv := (sM s o).2.1 2) (fun j hj => h6.2.2.2.2.1 j hj) h6.2.2.2.2.2 (fun i hi => hX.I.1.1.1 i hi) hX.I.1.1.2.2
      have F7 : frM (mO s o) s s7 := frM_t h6.2.1 (frM_s f7 (fun _ => Or.inl))
      have X7' : RX N s7 L M (mO s o) (sA (mF (sA mz 48 (fun i => if i < 25 then mz.2.1 2 i else mz.2.1 48 i)) 49 (nI q)) 2 (fun i => if i < 25 then (sM s o).2.1 2 i else (mF (sA mz 48 (fun i => if i < 25 then mz.2.1 2 i else mz.2.1 48 i)) 49 (nI q)).2.1 2 i)) := X7.sub (fun _ => Or.inl)
      rw [sm3]
      refine ⟨X7'.S.o (r := 0) rfl, v_goodS X7' (by rw [nI_toInt (by omega)]; omega) (fun s8 X8 f8 => pfin X8 hm (frM_t F7 f8) rfl hK (fun m1 K2 hc h2 => ?_))⟩
      have e2' := eqP hc
      unfold w_weeks
      refine w_liesS ?_
      rw [za]
      refine ⟨fun z => absurd z (by decide), fun _ => w_liesS ?_⟩
      rw [zb]
      refine ⟨fun _ => w_manyS (v := nI q) (by rw [e2']; exact n2) ?_, fun z => absurd z (by decide)⟩
      rw [z0]
      refine ⟨fun _ g1 eg1 => w_manyS (v := nI q) (by rw [eg1]; show m1.2.1 2 41 = nI q; rw [e2']; exact n2) (fun g2 eg2 => ?_), fun z => absurd z nq⟩
      unfold w_laysAside
      refine w_asd (a := 0) (by decide) (fun g3 d3 v3 _ => ?_) 25 (nP N).1 0 g2 (mD_r g2) (fun i hi => absurd hi (Nat.not_lt_zero _)) (fun _ _ => rfl) (by omega) (by show 25 < N.1; have := hN.1; omega)
      -- the model with the new count of drawn notes
      have c3 : cE (mF (sM s o) 49 (nI q)) g3 := by
        refine cE_t ?_ (cE_D d3 (by decide) (by decide))
        rw [eg2, eg1]
        exact cE_F (cE_t hc (mF_c _ _)) 49 (nI q)
      have g350 : g3.1 50 = nI sd := by
        rw [d3.1 50 (by decide), eg2, eg1]
        rfl
      have g32 : g2.2.1 2 = (sM s o).2.1 2 := by
        rw [eg2, eg1]
        exact e2'
      have wkE : ∀ (c : Nat) (mz m1 : mS) (st : Nat) (v : Int32), cE (mF mz 49 (nI q)) m1 → (wkF lw q c m1 st v).2 = (wkF lw q c mz st v).2 ∧ cE (mF (wkF lw q c mz st v).1 49 (nI q)) (wkF lw q c m1 st v).1 := by
        intro c
        induction c with
        | zero => exact fun _ _ _ _ h => ⟨rfl, h⟩
        | succ c ih =>
          intro mz m1 st v h
          have e : m1.2.1 2 = mz.2.1 2 := h.2 2 (by decide)
          have hA : cE (mF (wkD (wkA q mz st)) 49 (nI q)) (wkD (wkA q m1 st)) := by
            have h1 := cE_wkD (cE_wkA h q st)
            refine cE_t ⟨fun j hj => ?_, fun r hr => ?_⟩ h1
            · have hex : ∀ (k i : Nat) (m : mS), (exI k i m).1 = m.1 := by
                intro k
                induction k with
                | zero => exact fun _ _ => rfl
                | succ k ih =>
                  intro i m
                  refine (ih (i + 1) (exS i m)).trans ?_
                  unfold exS
                  rw [mI_f1, mI_f1]
              have h2 : ∀ m : mS, (wkD (wkA q m st)).1 = m.1 := fun m => by
                unfold wkD
                rw [mI_f1]
                unfold wkA
                by_cases c2 : nxG (nxG (nxG st)) % 4 = 2
                · rw [if_pos c2, mI_f1]
                · rw [if_neg c2]
                  by_cases c3 : nxG (nxG (nxG st)) % 4 = 3
                  · rw [if_pos c3, hex]
                  · rw [if_neg c3, mI_f1]
              rw [h2]
              show (mF mz 49 (nI q)).1 j = (if j = 49 then nI q else (wkD (wkA q mz st)).1 j)
              rw [h2]
              rfl
            · have hs : cE (mF mz 49 (nI q)) (mF mz 49 (nI q)) := cE_r _
              have : ∀ (mm nn : mS), mm.2.1 = nn.2.1 → (wkD (wkA q mm st)).2.1 = (wkD (wkA q nn st)).2.1 := by
                intro mm nn hh
                have hI : ∀ (a b : mS) (j : Nat) (i v : Int32), a.2.1 = b.2.1 → (mI a j i v).2.1 = (mI b j i v).2.1 := fun a b j i v hab => by
                  show (fun q => if q = j then upd (a.2.1 j) i.toNatClampNeg v else a.2.1 q) = _
                  rw [hab]
                  rfl
                have hex : ∀ (k i : Nat) (a b : mS), a.2.1 = b.2.1 → (exI k i a).2.1 = (exI k i b).2.1 := by
                  intro k
                  induction k with
                  | zero => exact fun _ _ _ h => h
                  | succ k ih =>
                    intro i a b hab
                    refine ih (i + 1) _ _ ?_
                    unfold exS
                    rw [hab]
                    exact hI _ _ _ _ _ (hI _ _ _ _ _ hab)
                have hA : (wkA q mm st).2.1 = (wkA q nn st).2.1 := by
                  unfold wkA
                  by_cases c2 : nxG (nxG (nxG st)) % 4 = 2
                  · rw [if_pos c2, if_pos c2]
                    exact hI _ _ _ _ _ hh
                  · rw [if_neg c2, if_neg c2]
                    by_cases c3 : nxG (nxG (nxG st)) % 4 = 3
                    · rw [if_pos c3, if_pos c3]
                      exact hex _ _ _ _ hh
                    · rw [if_neg c3, if_neg c3]
                      exact hI _ _ _ _ _ hh
                unfold wkD
                rw [hA]
                exact hI _ _ _ _ _ hA
              exact congrFun (this (mF mz 49 (nI q)) mz rfl) r
          have e1 : wkF lw q (c + 1) m1 st v = if 999 ≤ m1.2.1 2 24 then (m1, v) else wkF lw q c (wkD (wkA q m1 st)) (nxG (nxG (nxG st))) (v + sumI (mOne 2 ((wkA q m1 st).2.1 2) lw) q) := rfl
          have e2 : wkF lw q (c + 1) mz st v = if 999 ≤ mz.2.1 2 24 then (mz, v) else wkF lw q c (wkD (wkA q mz st)) (nxG (nxG (nxG st))) (v + sumI (mOne 2 ((wkA q mz st).2.1 2) lw) q) := rfl
          have e3 : (wkA q m1 st).2.1 2 = (wkA q mz st).2.1 2 := by
            have := cE_wkA h q st
            have h3 : (wkA q m1 st).2.1 2 = (wkA q (mF mz 49 (nI q)) st).2.1 2 := eqP this
            rw [h3]
            have hs : (mF mz 49 (nI q)).2.1 = mz.2.1 := rfl
            unfold wkA
            by_cases c2 : nxG (nxG (nxG st)) % 4 = 2
            · rw [if_pos c2, if_pos c2]
              rfl
            · rw [if_neg c2, if_neg c2]
              by_cases c3 : nxG (nxG (nxG st)) % 4 = 3
              · rw [if_pos c3, if_pos c3]
                have hex : ∀ (k i : Nat) (a b : mS), a.2.1 2 = b.2.1 2 → (exI k i a).2.1 2 = (exI k i b).2.1 2 := by
                  intro k
                  induction k with
                  | zero => exact fun _ _ _ h => h
                  | succ k ih =>
                    intro i a b hab
                    refine ih (i + 1) _ _ ?_
                    unfold exS
                    rw [hab]
                    show upd ((mI a 2 (nI (12 + i)) (b.2.1 2 i)).2.1 2) _ _ = upd ((mI b 2 (nI (12 + i)) (b.2.1 2 i)).2.1 2) _ _
                    have : (mI a 2 (nI (12 + i)) (b.2.1 2 i)).2.1 2 = (mI b 2 (nI (12 + i)) (b.2.1 2 i)).2.1 2 := by
                      show upd (a.2.1 2) _ _ = upd (b.2.1 2) _ _
                      rw [hab]
                    rw [this]
                exact hex _ _ _ _ rfl
              · rw [if_neg c3, if_neg c3]
                rfl
          rw [e1, e2, e, e3]
          by_cases cc : 999 ≤ mz.2.1 2 24
          · rw [if_pos cc, if_pos cc]
            exact ⟨rfl, h⟩
          · rw [if_neg cc, if_neg cc]
            exact ih _ _ _ _ hA
      obtain ⟨w1, w2⟩ := wkE nn (sM s o) g3 sd 0 c3
      rw [hmz] at w2
      have e3 : g3.2.1 2 = (sM s o).2.1 2 := c3.2 2 (by decide)
      refine w_wk63 (lw := lw) hM1 hM2 n1 hq0' hnn nn (nP N).1 0 g3 g3 sd 0 (by omega) (by show nn < N.1; have := hN.1; omega) (cE_r g3) (by rw [e3]; exact n2) (by rw [e3]; exact hF) (by rw [e3]; exact hX.I.1.1) hsd g350 (fun g4 c4 v4 => ?_)
      rw [w1, sm3]
      have c4' := cE_t w2 c4
      refine w_114 (fun g5 d5 v5 => ?_) 25 (nP N).1 0 g4 (mD_r g4) (fun i => (if_neg (Nat.not_lt_zero _)).symm) (by omega) (by show 25 < N.1; have := hN.1; omega)
      unfold w_takesBack
      have hg5 : ∀ j, j < 25 → g5.2.1 5 (25 * 0 + j) = (sM s o).2.1 2 j := fun j hj => by
        rw [d5.2.1 5 (by decide), v4, v3 j hj, g32]
      refine w_tkb (a := 0) (by decide) hg5 (fun g6 c6 => w_goodS (h2 _ ?_)) 25 (nP N).1 0 g5 (Prod.ext rfl (Prod.ext (funext fun r => ?_) rfl)) (by omega) (by show 25 < N.1; have := hN.1; omega)
      · refine cE_F (cE_t ?_ c6) 0 0
        -- row 48 alone differs beyond the kept row: below place 24 alike
        refine ⟨fun j hj => ?_, fun r hr => ?_⟩
        · show g5.1 j = (mF (sA mz 48 (fun i => if i < 25 then mz.2.1 2 i else mz.2.1 48 i)) 49 (nI q)).1 j
          rw [d5.1 j (by intro z; cases z)]
          exact c4'.1 j hj
        · by_cases r2 : r = 2
          · subst r2
            rw [sA_at, sA_at]
            funext i
            have e5 : g5.2.1 2 = mz.2.1 2 := (d5.2.1 2 (by decide)).trans (c4'.2 2 (by decide))
            rw [e5]
            rfl
          · rw [sA_o _ _ r2, sA_o _ _ r2]
            by_cases r48 : r = 48
            · subst r48
              show g5.2.1 48 = (sA mz 48 (fun i => if i < 25 then mz.2.1 2 i else mz.2.1 48 i)).2.1 48
              rw [sA_at]
              funext i
              have e2 : g4.2.1 2 = mz.2.1 2 := c4'.2 2 (by decide)
              have e48 : g4.2.1 48 = mz.2.1 48 := c4'.2 48 (by decide)
              rw [v5 i, e2, e48]
            · show g5.2.1 r = (sA mz 48 (fun i => if i < 25 then mz.2.1 2 i else mz.2.1 48 i)).2.1 r
              rw [sA_o _ _ r48, d5.2.1 r (by intro z; rw [List.mem_singleton] at z; exact r48 z)]
              exact c4'.2 r hr
      · show g5.2.1 r = (sA g5 2 (fun i => if i < 0 then (sM s o).2.1 2 i else g5.2.1 2 i)).2.1 r
        by_cases r2 : r = 2
        · subst r2
          rw [sA_at]
          rfl
        · rw [sA_o _ _ r2]
    · unfold w_weeks
      refine w_liesS ?_
      rw [za]
      refine ⟨fun z => absurd z (by decide), fun _ => w_liesS ?_⟩
      rw [zb]
      refine ⟨fun _ => w_manyS (v := nI q) (by rw [eqP hc]; exact n2) ?_, fun z => absurd z (by decide)⟩
      rw [z0]
      exact ⟨fun z => absurd yq z, fun _ => w_refS (k := 3) (by decide) h2⟩
  · unfold w_weeks
    refine w_liesS ?_
    rw [za]
    refine ⟨fun z => absurd z (by decide), fun _ => w_liesS ?_⟩
    rw [zb]
    exact ⟨fun z => absurd rfl z, fun _ => w_refS (k := 1) (by decide) h2⟩
end OW
