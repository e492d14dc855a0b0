set_option maxRecDepth 100000
/-! ===== few, the system ===== -/
def qS (s9 : tM) (q : Nat) (f : Nat → Int64) (s' : tM) : Prop := s'.1 = s9.1 ∧ s'.2.1 = s9.2.1 ∧ s'.2.2.2 = s9.2.2.2 ∧ (∀ a, a ≠ q → s'.2.2.1 a = s9.2.2.1 a) ∧ ∀ i, i < 21 → tJ s' q i = f i
theorem qS_J {s9 s' : tM} {q i : Nat} {f : Nat → Int64} (h : qS s9 q f s') (w : Int64) : qS s9 q (vp_updL f i w) (tsJ s' q i w) := by
  obtain ⟨h1, h2, h3, h4, h5⟩ := h
  refine ⟨h1, h2, h3, fun a ha => (funext fun j => if_neg fun z => ha z.1 : (tsJ s' q i w).2.2.1 a = s'.2.2.1 a).trans (h4 a ha), fun j hj => ?_⟩
  show (if q = q ∧ j = i then w else s'.2.2.1 q j) = vp_updL f i w j
  by_cases e : j = i
  · rw [if_pos ⟨rfl, e⟩, e, updL_s]
  · rw [if_neg fun z => e z.2, updL_o _ _ e]
    exact h5 j hj
theorem qS_X {s9 s' : tM} {q i : Nat} {f : Nat → Int64} (h : qS s9 q f s') (hA : tA s9 1 21 q) (hi : i < 21) : tX s' 1 q (nI i) := ⟨21, ⟨by rw [h.1]; exact hA.1, hA.2⟩, vpk hi (by decide)⟩
section FS
variable {N : tP} {s9 : tM} {q : Nat} {v : Int32} {x1 x2 x5 : Int32} {Kr : Int64 → tM → Prop}
theorem v_few64 (hA : tA s9 1 21 q) {kb nb : Nat} {K : Nat → Nat → tM → Prop} : ∀ (c t : Nat) (f : Nat → Int64) (s' : tM), qS s9 q f s' → c ≤ 20 → c < t → (∀ s2, qS s9 q (fwI v c f) s2 → K kb nb s2) → v_X0_few_64 N x1 x2 q v x5 Kr K t (nI c - 1) kb nb s'
  | _, 0, _, _, _, _, h, _ => absurd h (Nat.not_lt_zero _)
  | 0, t + 1, f, s', hq, _, _, hK => by
    unfold v_X0_few_64
    exact ⟨fun _ => hK s' hq, fun z => absurd neg_1 z⟩
  | c + 1, t + 1, f, s', hq, hc, ht, hK => by
    unfold v_X0_few_64
    rw [fw_dn]
    refine ⟨fun z => ?_, fun _ y hy => ?_⟩
    · rw [i32_lt, nI_toInt (by omega), show (0 : Int32).toInt = 0 by decide] at z
      omega
    rw [nI_1] at hy
    subst hy
    rw [nI_clamp (by omega), nI_clamp (by omega), hq.2.2.2.2 c (by omega), hq.2.2.2.2 (c + 1) (by omega)]
    refine ⟨qS_X hq hA (by omega), qS_X hq hA (by omega), fun p hp => ⟨qS_X hq hA (by omega), fun s7 e7 => ?_⟩⟩
    subst hp
    have q7 : qS s9 q (vp_updL f (c + 1) (f (c + 1) + f c * v.toInt64 / 10)) s7 := by
      rw [e7]
      exact qS_J hq _
    rw [q7.2.2.2.2 c (by omega)]
    refine ⟨qS_X q7 hA (by omega), fun p2 hp2 => ⟨qS_X q7 hA (by omega), fun s12 e12 y hy => ?_⟩⟩
    subst hp2
    have q12 : qS s9 q (fwS v c f) s12 := by
      rw [e12]
      exact qS_J q7 _
    rw [fw_m1] at hy
    rw [hy]
    exact v_few64 hA c t _ s12 q12 (by omega) (by omega) hK
theorem v_few53 (hA : tA s9 1 21 q) {a b kb nb : Nat} (ha : a ≤ 20) (hN : 100 ≤ N.1) (hb : b ≤ 99) {K : Nat → Nat → tM → Prop} : ∀ (c t i : Nat) (f : Nat → Int64) (s' : tM), qS s9 q f s' → i + c = b → c < t → (∀ s2, qS s9 q (fwO v a c f) s2 → K kb nb s2) → v_X0_few_53 N (nI a) (nI b) q v Kr K t (nI i) kb nb s'
  | _, 0, _, _, _, _, _, h, _ => absurd h (Nat.not_lt_zero _)
  | 0, t + 1, i, f, s', hq, hi, _, hK => by
    unfold v_X0_few_53
    refine ⟨fun _ => hK s' hq, fun z => absurd ?_ z⟩
    rw [nI_lle (by omega) (by omega)]
    omega
  | c + 1, t + 1, i, f, s', hq, hi, ht, hK => by
    unfold v_X0_few_53
    refine ⟨fun z => ?_, fun _ y hy => ?_⟩
    · rw [nI_lle (by omega) (by omega)] at z
      omega
    subst hy
    refine v_few64 hA a N.1 f s' hq ha (by omega) (fun s2 q2 y hy => ?_)
    rw [nI_1] at hy
    rw [hy]
    exact v_few53 hA ha hN hb c t (i + 1) _ s2 q2 (by omega) (by omega) hK
theorem v_few127 (hA : tA s9 1 21 q) {a kb nb : Nat} (ha : a ≤ 20) {f : Nat → Int64} {s' : tM} (hq : qS s9 q f s') {K : Int64 → Nat → Nat → tM → Prop} : ∀ (c t i : Nat) (x : Int64), i + c = a → c < t → K (fwT f c i x) kb nb s' → v_X0_few_127 N (nI a) q Kr K t x (nI i) kb nb s'
  | _, 0, _, _, _, h, _ => absurd h (Nat.not_lt_zero _)
  | 0, t + 1, i, x, hi, _, hK => by
    unfold v_X0_few_127
    refine ⟨fun _ => hK, fun z => absurd ?_ z⟩
    rw [nI_lle (by omega) (by omega)]
    omega
  | c + 1, t + 1, i, x, hi, ht, hK => by
    unfold v_X0_few_127
    rw [nI_clamp (by omega), hq.2.2.2.2 i (by omega)]
    refine ⟨fun z => ?_, fun _ => ⟨qS_X hq hA (by omega), fun y hy z hz => ?_⟩⟩
    · rw [nI_lle (by omega) (by omega)] at z
      omega
    rw [nI_1] at hz
    rw [hz, hy]
    exact v_few127 hA ha hq c t (i + 1) _ (by omega) (by omega) hK
end FS
theorem ext_q {N : tP} {s s9 s' : tM} {q : Nat} {f : Nat → Int64} (h : extN N s s9) (hq : s.1 q = none) (h2 : ¬ q = N.2.2 200) (hs : qS s9 q f s') : extN N s s' := fun a ha => by
  have hn : a ≠ q := fun z => by
    rcases ha with ha | ha
    · rw [z] at ha
      exact ha hq
    · exact h2 (z.symm.trans ha)
  obtain ⟨a1, a2, a3, a4⟩ := h a ha
  obtain ⟨b1, b2, b3, b4, -⟩ := hs
  exact ⟨by rw [b1]; exact a1, by rw [b2]; exact a2, (b4 a hn).trans a3, by rw [b3]; exact a4⟩
section OF
variable {N : tP} {s : tM} {x o : Nat} {K : tM → Prop}
theorem op_few (hN : nOK N) (hX : RXo N s x o) (hK : ∀ s', RXo N s' x o → K s') {kb nb : Nat} (hk : 1 ≤ kb) (hb : 21 ≤ nb) (a b : Int32) : v_X0_few N x a b kb nb s (pKl o (w_few (nP N) a b) K) := by
  obtain ⟨L, M, rfl, hX, hm⟩ := hX
  have hS := hX.S
  have o0 := hS.o (r := 0) rfl
  unfold v_X0_few
  refine v_inS ?_
  rw [inl (lo' := 1) (hi' := 20) (by decide) (by decide)]
  refine bI_c (fun ha => pfinl hX hm (frM_r _ _) rfl hK (fun m1 K2 hc h2 => ?_)) (fun ha => v_inS ?_)
  · unfold w_few
    refine w_liesS ?_
    rw [ha]
    exact ⟨fun _ => h2 m1 hc, fun z => absurd rfl z⟩
  rw [inl (lo' := 0) (hi' := 99) (by decide) (by decide)]
  refine bI_d (fun hb2 => ⟨hk, hb, fun q hq hq0 hqN s10 e10 => ?_⟩) (fun hb2 => pfinl hX hm (frM_r _ _) rfl hK (fun m1 K2 hc h2 => ?_))
  · have har := in_t ha
    have hbr := in_t hb2
    rw [show (1 : Int32).toInt = 1 by decide, show (20 : Int32).toInt = 20 by decide] at har
    rw [show (0 : Int32).toInt = 0 by decide, show (99 : Int32).toInt = 99 by decide] at hbr
    obtain ⟨ja, ja1, ja2⟩ := i32N (c := a) (by omega)
    obtain ⟨jb, jb1, jb2⟩ := i32N (c := b) (by omega)
    have E10 : extN N s s10 := by
      rw [e10]
      exact ext_n (ext_r N s) hq hqN
    have A10 : tA s10 1 21 q := ⟨by rw [e10]; exact if_pos rfl, hq0⟩
    refine ⟨⟨21, A10, vpk (k := 0) (by decide) (by decide)⟩, fun s13 e13 => ?_⟩
    have q13 : qS s10 q fw0 s13 := by
      rw [e13]
      have : qS s10 q (fun _ => 0) s10 := ⟨rfl, rfl, rfl, fun _ _ => rfl, fun i _ => by
        rw [e10]
        exact if_pos rfl⟩
      have := qS_J (i := 0) this 1000000000000
      refine ⟨this.1, this.2.1, this.2.2.1, this.2.2.2.1, fun i hi => (this.2.2.2.2 i hi).trans ?_⟩
      rfl
    have X13 := hX.ex (ext_q E10 hq hqN q13)
    have S13 := X13.S
    rw [S13.t (r := 0) (j := 0) (q := 40) (by decide), S13.t (r := 40) (j := 1) (q := 42) (by decide)]
    refine ⟨S13.o (r := 0) rfl, S13.o (r := 40) rfl, ⟨5, S13.a (r := 42) rfl, vpk (k := 1) (by decide) (by decide)⟩, fun v hv => ?_⟩
    have hv' : v = (sM s o).2.1 2 37 := hv.trans (X13.R 42 1 2 37 (loc42 (by decide) (by decide)))
    rw [ja1, jb1]
    have h100 : 100 ≤ N.1 := Nat.le_trans (by decide) hN.1
    refine v_few53 A10 (a := ja) (b := jb) (by omega) h100 (by omega) jb N.1 0 fw0 s13 q13 (by omega) (by omega) (fun s2 q2 => ?_)
    refine v_few127 A10 (by omega) q2 ja N.1 0 0 (by omega) (by omega) ?_
    have E2 := ext_q E10 hq hqN q2
    refine pfinl (hX.ex E2) hm (hX.exO E2) rfl hK (fun m1 K2 hc h2 => ?_)
    rw [ja1] at ha
    rw [jb1] at hb2
    unfold w_few
    refine w_liesS ?_
    rw [ha]
    refine ⟨fun z => absurd z (by decide), fun _ => w_liesS ?_⟩
    rw [hb2]
    refine ⟨fun _ => ?_, fun z => absurd z (by decide)⟩
    have h37 : m1.2.1 2 37 = v := (congrFun (eqP hc) 37).trans hv'.symm
    have em := lA_0 m1
    rw [em]
    refine w_few26 (fun f hf => ?_) 21 (nP N).1 0 _ (fun j hj => by omega) (by omega) (by show 21 < N.1; omega)
    refine w_few57 h37 (by omega) h100 (by omega) jb (nP N).1 0 f (by omega) (by show jb < N.1; omega) ?_
    refine w_few151 (by omega) ja (nP N).1 0 0 (by omega) (by show ja < N.1; omega) ?_
    rw [fwT_e (fwO_e (n := 21) (by omega) jb hf) ja 0 0 (by omega)]
    exact h2 _ ⟨fun j hj => hc.1 j hj, fun q hq => hc.2 q hq⟩
  · unfold w_few
    refine w_liesS ?_
    rw [ha]
    refine ⟨fun z => absurd z (by decide), fun _ => w_liesS ?_⟩
    rw [hb2]
    exact ⟨fun z => absurd rfl z, fun _ => h2 m1 hc⟩
end OF
