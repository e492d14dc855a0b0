set_option maxRecDepth 100000
/-! ===== the reference: a clause of orders gone along ===== -/
/-- what orders are asked of, by the words' codes -/
def oE32 (kp : Nat → Int32) (q : Nat) (dn lt br al : Int32) (c : Nat) : Int32 := if c = 17 then kp 24 else if c = 18 then dn else if c = 19 then lt else if c = 20 then br else if c = 21 then al else if 100 ≤ c ∧ c < 200 then (if c - 100 < q then kp (c - 100) else -1) else if 200 ≤ c then (if c - 200 < q then kp (12 + (c - 200)) else -1) else 0
def oE (kp : Nat → Int32) (q : Nat) (dn lt br al : Int32) (c : Nat) : Int64 := (oE32 kp q dn lt br al c).toInt64
/-- within a thousand millions -/
def smB (x : Int32) : Prop := -1000000000 ≤ x.toInt ∧ x.toInt ≤ 1000000000
theorem smB_0 : smB 0 := ⟨by decide, by decide⟩
theorem oE_B {kp : Nat → Int32} (hk : kpN kp) {q : Nat} (hq : q ≤ 12) {dn lt br al : Int32} (h1 : smB dn) (h2 : smB lt) (h3 : smB br) (h4 : smB al) (c : Nat) : inB (oE kp q dn lt br al c) := by
  obtain ⟨k1, k2, k3⟩ := hk
  have hm : smB (-1) := ⟨by decide, by decide⟩
  have hp : ∀ i, i < 24 → smB (kp i) := fun i hi => by
    have := k1 i hi
    exact ⟨by have := this.1; omega, by have := this.2; omega⟩
  have key : smB (oE32 kp q dn lt br al c) := by
    unfold oE32
    by_cases c1 : c = 17
    · rw [if_pos c1]
      exact ⟨by omega, by omega⟩
    rw [if_neg c1]
    by_cases c2 : c = 18
    · rw [if_pos c2]
      exact h1
    rw [if_neg c2]
    by_cases c3 : c = 19
    · rw [if_pos c3]
      exact h2
    rw [if_neg c3]
    by_cases c4 : c = 20
    · rw [if_pos c4]
      exact h3
    rw [if_neg c4]
    by_cases c5 : c = 21
    · rw [if_pos c5]
      exact h4
    rw [if_neg c5]
    by_cases c6 : 100 ≤ c ∧ c < 200
    · rw [if_pos c6]
      by_cases c7 : c - 100 < q
      · rw [if_pos c7]
        exact hp _ (by omega)
      · rw [if_neg c7]
        exact hm
    rw [if_neg c6]
    by_cases c8 : 200 ≤ c
    · rw [if_pos c8]
      by_cases c7 : c - 200 < q
      · rw [if_pos c7]
        exact hp _ (by omega)
      · rw [if_neg c7]
        exact hm
    rw [if_neg c8]
    exact smB_0
  exact inB_i key.1 key.2
theorem oE_h {kp : Nat → Int32} {q : Nat} {dn lt br al : Int32} {k : Nat} (hk : k < 12) : oE kp q dn lt br al (100 + k) = (if k < q then kp k else -1 : Int32).toInt64 ∧ oE kp q dn lt br al (200 + k) = (if k < q then kp (12 + k) else -1 : Int32).toInt64 := by
  refine ⟨?_, ?_⟩
  · unfold oE oE32
    rw [if_neg (by omega), if_neg (by omega), if_neg (by omega), if_neg (by omega), if_neg (by omega), if_pos (by omega), show 100 + k - 100 = k by omega]
  · unfold oE oE32
    rw [if_neg (by omega), if_neg (by omega), if_neg (by omega), if_neg (by omega), if_neg (by omega), if_neg (by omega), if_pos (by omega), show 200 + k - 200 = k by omega]
theorem t64_inj {x y : Int32} (h : x.toInt64 = y.toInt64) : x = y := by
  have := congrArg Int64.toInt h
  rw [Int32.toInt_toInt64, Int32.toInt_toInt64] at this
  exact Int32.toInt_inj.mp this
theorem mF_mF (s : mS) (j : Nat) (x y : Int32) : mF (mF s j x) j y = mF s j y := by
  refine Prod.ext (funext fun i => ?_) rfl
  show (if i = j then y else if i = j then x else s.1 i) = if i = j then y else s.1 i
  by_cases c : i = j
  · rw [if_pos c, if_pos c]
  · rw [if_neg c, if_neg c, if_neg c]
theorem pTail_h {cd vl : Nat → Int32} {i l j l' : Nat} {h : Int32} {o : Option (dS × dS)} {c : cO} (ht : pTail cd vl true i l h o = .inr (j, l', c)) : c.1 = h ∧ c.2.1 = o := by
  unfold pTail at ht
  by_cases c27 : cd i = 27
  · rw [if_pos c27] at ht
    by_cases cn : cd (i + 1) = 50 ∧ 1 ≤ vl (i + 1) ∧ vl (i + 1) ≤ 20
    · rw [if_pos cn] at ht
      obtain ⟨w, h1, h2⟩ := pb_r ht
      cases h2
      exact ⟨rfl, rfl⟩
    · rw [if_neg cn] at ht
      cases ht
  · rw [if_neg c27] at ht
    obtain ⟨w, h1, h2⟩ := pb_r ht
    cases h2
    exact ⟨rfl, rfl⟩
def goF : List Nat := [22, 24, 43, 44, 45, 46]
section GO
variable {N : Nat × Nat} {s s' : mS} {base T q : Nat} {cd vl : Nat → Int32} {kp : Nat → Int32} {dn lt br al live : Int32}
theorem ev_F (s : mS) (g b : Int32) {j : Nat} (x : Int32) (h : j ≠ 22) (h2 : j ≠ 24) : mF (ev s g b) j x = ev (mF s j x) g b := by
  refine Prod.ext (funext fun i => ?_) rfl
  show (if i = j then x else if i = 24 then b else if i = 22 then g else s.1 i) = (if i = 24 then b else if i = 22 then g else if i = j then x else s.1 i)
  by_cases c : i = j
  · rw [if_pos c, if_neg (by omega), if_neg (by omega), if_pos c]
  · rw [if_neg c, if_neg c]
theorem ev_L (s : mS) (g b : Int32) (j : Nat) (i : Int32) (x : Int64) : mL (ev s g b) j i x = ev (mL s j i x) g b := rfl
theorem ev_g (s : mS) (g : Int32) : mF s 22 g = ev s g (mFd s 24) := by
  refine Prod.ext (funext fun i => ?_) rfl
  show (if i = 22 then g else s.1 i) = (if i = 24 then s.1 24 else if i = 22 then g else s.1 i)
  by_cases c : i = 24
  · rw [if_pos c, c]
    rfl
  · rw [if_neg c]
/-- what stands while a clause is gone along -/
def gSt (s : mS) (base T : Nat) (cd vl : Nat → Int32) (kp : Nat → Int32) (dn lt br al : Int32) : Prop := tkC s base T cd vl ∧ s.2.1 2 = kp ∧ mFd s 25 = 1 ∧ mFd s 27 = dn ∧ mFd s 28 = lt ∧ mFd s 29 = br ∧ mFd s 30 = al
theorem gSt_D (h : gSt s base T cd vl kp dn lt br al) (hd : mD goF [] [47] s s') : gSt s' base T cd vl kp dn lt br al := by
  obtain ⟨⟨t1, t2, t3, t4, t5⟩, h2, h3, h4, h5, h6, h7⟩ := h
  have f : ∀ j, j ∉ goF → mFd s' j = mFd s j := fun j hj => hd.1 j hj
  have e2 : s'.2.1 2 = s.2.1 2 := hd.2.1 2 (by simp)
  refine ⟨⟨(f 23 (by decide)).trans t1, t2, fun k hk => ?_, t4, t5⟩, e2.trans h2, (f 25 (by decide)).trans h3, (f 27 (by decide)).trans h4, (f 28 (by decide)).trans h5, (f 29 (by decide)).trans h6, (f 30 (by decide)).trans h7⟩
  rw [e2]
  exact t3 k hk
theorem gSt_E (h : gSt s base T cd vl kp dn lt br al) (hk : kpN kp) (hq : kp 41 = nI q) (hq2 : q ≤ 12) (h1 : smB dn) (h2 : smB lt) (h3 : smB br) (h4 : smB al) : enR s true (oE kp q dn lt br al) := by
  obtain ⟨-, e2, e25, e27, e28, e29, e30⟩ := h
  refine ⟨oE_B hk hq2 h1 h2 h3 h4, fun z => (by cases z), fun _ => ⟨by rw [e25]; decide, fun g b c k K hc1 hc2 hk2 hK => ?_⟩⟩
  have f : ∀ {j : Nat}, j ≠ 22 → j ≠ 24 → mFd (ev s g b) j = mFd s j := fun h h2 => ev_o s g b h h2
  have r2 : (ev s g b).2.1 2 = kp := e2
  have val : ∀ x : Int32, x.toInt64 = oE kp q dn lt br al (wIx c k) → K x (ev s g b) := fun x hx => hK x hx
  have note : (c = 15 ∨ c = 16) → ∃ u, u < 12 ∧ k = nI u := fun h => by
    have := hk2 h
    rw [i32_le, i32_le, show (0 : Int32).toInt = 0 by decide, show (11 : Int32).toInt = 11 by decide] at this
    obtain ⟨u, u1, u2⟩ := i32N (c := k) this.1
    exact ⟨u, by omega, u1⟩
  have no : ∀ {a b : Int32}, a = b → a = b := id
  have w1 : ∀ x, c = x → (x ≠ 15 ∧ x ≠ 16) → wIx c k = x.toNatClampNeg := fun x e h => by
    unfold wIx
    rw [e, if_neg (fun z => z.elim h.1 h.2)]
  unfold w_orderValue
  refine ⟨fun e => ?_, fun e => ?_, fun e => ?_, fun e => ?_, fun e => ?_, fun e => ?_, fun n1 n2 n3 n4 n5 n6 => ?_⟩
  · obtain ⟨u, u1, rfl⟩ := note (Or.inl e)
    have ix : wIx c (nI u) = 100 + u := by
      unfold wIx ntI
      rw [if_pos (Or.inl e), if_pos e, nI_clamp (by omega)]
    have hv := (oE_h (kp := kp) (q := q) (dn := dn) (lt := lt) (br := br) (al := al) u1).1
    rw [show (0 : Int32) + nI u = nI (0 + u) from nI_add 0 u]
    refine w_isNoteS (n := q) (by rw [r2]; exact hq) hq2 ?_
    by_cases cu : u < q
    · have hb : isNI q (nI u) = true := by
        unfold isNI
        rw [nI_toInt (by omega), Bool.and_eq_true, decide_eq_true_eq, decide_eq_true_eq]
        omega
      rw [hb]
      refine ⟨fun z => absurd z (by decide), fun _ => ⟨vpk (by omega) (by decide), val _ ?_⟩⟩
      rw [mAt_n (by omega), r2, ix, hv, if_pos cu, Nat.zero_add]
    · have hb : isNI q (nI u) = false := by
        unfold isNI
        rw [nI_toInt (by omega), Bool.and_eq_false_iff, decide_eq_false_iff_not, decide_eq_false_iff_not]
        omega
      rw [hb]
      refine ⟨fun _ => val _ ?_, fun z => absurd rfl z⟩
      rw [ix, hv, if_neg cu]
  · obtain ⟨u, u1, rfl⟩ := note (Or.inr e)
    have ix : wIx c (nI u) = 200 + u := by
      unfold wIx ntI
      rw [if_pos (Or.inr e), if_neg (by rw [e]; decide), nI_clamp (by omega)]
    have hv := (oE_h (kp := kp) (q := q) (dn := dn) (lt := lt) (br := br) (al := al) u1).2
    rw [show (12 : Int32) + nI u = nI (12 + u) from nI_add 12 u]
    refine w_isNoteS (n := q) (by rw [r2]; exact hq) hq2 ?_
    by_cases cu : u < q
    · have hb : isNI q (nI u) = true := by
        unfold isNI
        rw [nI_toInt (by omega), Bool.and_eq_true, decide_eq_true_eq, decide_eq_true_eq]
        omega
      rw [hb]
      refine ⟨fun z => absurd z (by decide), fun _ => ⟨vpk (by omega) (by decide), val _ ?_⟩⟩
      rw [mAt_n (by omega), r2, ix, hv, if_pos cu]
    · have hb : isNI q (nI u) = false := by
        unfold isNI
        rw [nI_toInt (by omega), Bool.and_eq_false_iff, decide_eq_false_iff_not, decide_eq_false_iff_not]
        omega
      rw [hb]
      refine ⟨fun _ => val _ ?_, fun z => absurd rfl z⟩
      rw [ix, hv, if_neg cu]
  · refine ⟨vpk (k := 24) (by decide) (by decide), val _ ?_⟩
    rw [show mAt (ev s g b) 2 24 = kp 24 from (mAt_n (k := 24) (by decide)).trans (congrFun r2 24), w1 17 e (by decide)]
    rfl
  · refine val _ ?_
    rw [f (by decide) (by decide), e27, w1 18 e (by decide)]
    rfl
  · refine val _ ?_
    rw [f (by decide) (by decide), e28, w1 19 e (by decide)]
    rfl
  · refine val _ ?_
    rw [f (by decide) (by decide), e29, w1 20 e (by decide)]
    rfl
  · refine val _ ?_
    have e21 : c = 21 := by
      rw [i32_le] at hc1 hc2
      rw [show (15 : Int32).toInt = 15 by decide] at hc1
      rw [show (21 : Int32).toInt = 21 by decide] at hc2
      have key : ∀ x : Nat, x < 7 → ∀ c : Int32, c.toInt = 15 + x → c = nI (15 + x) := fun x hx c h => Int32.toInt_inj.mp (by rw [h, nI_toInt (by omega)]; omega)
      have := key (c.toInt - 15).toNat (by omega) c (by omega)
      have hlt : (c.toInt - 15).toNat < 7 := by omega
      generalize (c.toInt - 15).toNat = x at this hlt
      have hx : x = 0 ∨ x = 1 ∨ x = 2 ∨ x = 3 ∨ x = 4 ∨ x = 5 ∨ x = 6 := by omega
      rcases hx with rfl | rfl | rfl | rfl | rfl | rfl | rfl
      · exact absurd this n1
      · exact absurd this n2
      · exact absurd this n3
      · exact absurd this n4
      · exact absurd this n5
      · exact absurd this n6
      · exact this
    rw [f (by decide) (by decide), e30, w1 21 e21 (by decide)]
    rfl
/-- whether asked for -/
theorem w_go214 (hN : 402 ≤ N.1) (hN2 : 40 ≤ N.2) (hG : gSt s base T cd vl kp dn lt br al) (hT : T ≤ 400) {e : Nat → Int64} (hE : ∀ s', mD goF [] [47] s s' → enR s' true e) {i l j l' : Nat} {t : Option dT} {b : Int32} (hi : i ≤ T) (hop : pOpt cd vl true i l = .inr (j, l', t)) {K : mS → Prop} (hK : ∀ s', mD goF [] [47] s s' → mFd s' 22 = nI (base + (j + 1)) → (∀ r, r ≠ 22 → r ≠ 24 → r ≠ 46 → mFd s' r = mFd s r) → s'.2.2 = s.2.2 → (live ≠ 0 → mFd s' 46 = bI (tstOk e t)) → K s') : w_goesAlong_214 N live K (ev s (nI (base + i)) b) := by
  have hC := hG.1
  have fin : ∀ (y y2 b2 : Int32) , xB y → (live ≠ 0 → y = bI (tstOk e t)) → ∀ s2, (∀ r, r ≠ 22 → r ≠ 24 → r ≠ 46 → mFd s2 r = mFd s r) → s2.2 = s.2 → mFd s2 22 = nI (base + j) → w_goesAlong_264 N y K s2 := fun y y2 b2 hy hy2 s2 f2 g2 h22 => by
    unfold w_goesAlong_264
    refine ⟨hy, fun s3 e3 s4 e4 => ?_⟩
    have f4 : ∀ r, r ≠ 22 → r ≠ 24 → r ≠ 46 → mFd s4 r = mFd s r := fun r a b c => by
      rw [e4, e3]
      exact (mF_o _ _ a).trans ((mF_o _ _ c).trans (f2 r a b c))
    have g4 : s4.2 = s.2 := by
      rw [e4, e3]
      exact g2
    refine hK s4 ⟨fun r hr => f4 r (fun z => hr (by rw [z]; decide)) (fun z => hr (by rw [z]; decide)) (fun z => hr (by rw [z]; decide)), fun r _ => by rw [g4], fun r _ => by rw [g4]⟩ ?_ f4 (by rw [g4]) (fun hl => ?_)
    · have h3 : mFd s3 22 = nI (base + j) := by
        rw [e3]
        exact (mF_o _ _ (by decide)).trans h22
      rw [e4, h3, nI_1]
      rfl
    · rw [e4, e3]
      exact hy2 hl
  have m241 : ∀ (y b2 : Int32), xB y → xB b2 → (live ≠ 0 → (y = 1 ∧ b2 = 0 → tstOk e t = true) ∧ (¬ (y = 1 ∧ b2 = 0) → tstOk e t = false)) → w_goesAlong_241 N y K (ev s (nI (base + j)) b2) := fun y b2 hy hb2 hv => by
    have fm : ∀ s2, s2 = mF (ev s (nI (base + j)) b2) 46 y → (∀ r, r ≠ 22 → r ≠ 24 → r ≠ 46 → mFd s2 r = mFd s r) ∧ s2.2 = s.2 ∧ mFd s2 22 = nI (base + j) ∧ mFd s2 46 = y ∧ mFd s2 24 = b2 := fun s2 e2 => by
      rw [e2]
      exact ⟨fun r a b c => (mF_o _ _ c).trans (ev_o _ _ _ a b), rfl, rfl, rfl, rfl⟩
    unfold w_goesAlong_241
    refine ⟨hy, fun s2 e2 => ?_⟩
    obtain ⟨f2, g2, h22, h46, h24⟩ := fm s2 e2
    rw [h46, h24]
    refine ⟨fun z => ?_, fun z => ⟨fun z2 => ?_, fun z2 => ?_⟩⟩
    · unfold w_goesAlong_263
      refine fin 0 0 0 xB0 (fun hl => ?_) s2 f2 g2 h22
      rw [(hv hl).2 (fun q => by rw [z] at q; exact absurd q.1 (by decide))]
      rfl
    · unfold w_goesAlong_263
      refine fin 0 0 0 xB0 (fun hl => ?_) s2 f2 g2 h22
      rw [(hv hl).2 (fun q => z2 q.2)]
      rfl
    · refine fin 1 0 0 xB1 (fun hl => ?_) s2 f2 g2 h22
      rw [(hv hl).1 ⟨hy.resolve_left z, z2⟩]
      rfl
  unfold w_goesAlong_214
  intro s1 e1
  rw [ev_w24] at e1
  subst e1
  unfold pOpt at hop
  by_cases c4 : cd i = 4
  · rw [if_pos c4] at hop
    obtain ⟨⟨j1, l1, D⟩, h1, h2⟩ := pb_r hop
    cases h2
    have hlt := cd_lt hC.2.2.2.1 c4 (by decide)
    refine e_pass hC (by omega) (fun _ => ⟨fun z => absurd z (by decide), fun _ => ?_⟩) (fun z => absurd c4 z)
    refine e_testT (by omega) hN2 hC hT (hE s (mD_r s)) (by omega) hlt h1 live 0 _ xB0 (fun y b2 hy hyx hb2 => ?_)
    have hv : live ≠ 0 → (y = 1 ∧ b2 = 0 → tstOk e (some D) = true) ∧ (¬ (y = 1 ∧ b2 = 0) → tstOk e (some D) = false) := fun hl => by
      rcases hy.1 ⟨hl, rfl⟩ with ⟨n1, e1⟩ | ⟨e1, v, q, e2⟩
      · refine ⟨fun z => ?_, fun _ => ?_⟩
        · rw [e1] at z
          exact absurd z.2 (by decide)
        · show (D e == some true) = false
          rw [n1]
          rfl
      · cases v with
        | true => exact ⟨fun _ => by show (D e == some true) = true; rw [q]; rfl, fun z => absurd ⟨e2, e1⟩ z⟩
        | false =>
          refine ⟨fun z => ?_, fun _ => by show (D e == some true) = false; rw [q]; rfl⟩
          rw [e2] at z
          exact absurd z.1 (by decide)
    refine ⟨fun z => m241 0 b2 xB0 hb2 ?_, fun z => ?_⟩
    · rw [z] at hv
      exact hv
    · unfold w_goesAlong_236
      refine m241 1 b2 xB1 hb2 ?_
      rw [hyx.resolve_left z] at hv
      exact hv
  · rw [if_neg c4] at hop
    cases hop
    refine e_pass hC (by omega) (fun z => absurd z c4) (fun _ => ⟨fun _ => ?_, fun z => absurd rfl z⟩)
    unfold w_goesAlong_236
    exact m241 1 0 xB1 xB0 (fun _ => ⟨fun _ => rfl, fun z => absurd ⟨rfl, rfl⟩ z⟩)
/-- behind the sums -/
theorem w_goTail (hN : 402 ≤ N.1) (hN2 : 40 ≤ N.2) (hG : gSt s base T cd vl kp dn lt br al) (hT : T ≤ 400) {e : Nat → Int64} (hE : ∀ s', mD goF [] [47] s s' → enR s' true e) {i l j l' : Nat} {h : Int32} {o : Option (dS × dS)} {c : cO} {b : Int32} (hi : i ≤ T) (hop : pTail cd vl true i l h o = .inr (j, l', c)) {K : mS → Prop} (hK : ∀ s', mD goF [] [47] s s' → mFd s' 22 = nI (base + (j + 1)) → mFd s' 43 = c.2.2.1 → mFd s' 44 = mFd s 44 → mFd s' 45 = mFd s 45 → s'.2.2 = s.2.2 → (live ≠ 0 → mFd s' 46 = bI (tstOk e c.2.2.2)) → K s') : c.1 = h ∧ c.2.1 = o ∧ ∀ s2, s2 = mF (ev s (nI (base + i)) b) 43 1 → w_passes0 27 s2 (fun x103 s104 => (x103 = 0 → w_goesAlong_214 N live K s104) ∧ (¬ x103 = 0 → vp_in (2852 + mFd s104 22) 5652 ∧ ∀ s107 : mS, s107 = mF s104 43 (mAt s104 2 (2852 + mFd s104 22)) → ∀ s108 : mS, s108 = mF s107 22 (mFd s107 22 + 1) → w_goesAlong_214 N live K s108)) := by
  have d1 : ∀ x, mD goF [] [47] s (mF s 43 x) := fun x => mD_F s x (by decide)
  have rest : ∀ {i' : Nat} {t : Option dT} {b2 x : Int32}, i' ≤ T → pOpt cd vl true i' l = .inr (j, l', t) → c.2.2.1 = x → c.2.2.2 = t → w_goesAlong_214 N live K (ev (mF s 43 x) (nI (base + i')) b2) := fun {i' t b2 x} hi' hp hx ht => by
    refine w_go214 hN hN2 (gSt_D hG (d1 x)) hT (fun s' hd => hE s' (mD_t (d1 x) hd)) hi' hp (fun s' hd h22 hr hl hv => hK s' (mD_t (d1 x) hd) h22 ?_ ?_ ?_ hl (fun q => ?_))
    · rw [hr 43 (by decide) (by decide) (by decide), hx]
      rfl
    · exact (hr 44 (by decide) (by decide) (by decide)).trans (mF_o _ _ (by decide))
    · exact (hr 45 (by decide) (by decide) (by decide)).trans (mF_o _ _ (by decide))
    · rw [ht]
      exact hv q
  unfold pTail at hop
  by_cases c27 : cd i = 27
  · rw [if_pos c27] at hop
    by_cases cn : cd (i + 1) = 50 ∧ 1 ≤ vl (i + 1) ∧ vl (i + 1) ≤ 20
    · rw [if_pos cn] at hop
      obtain ⟨⟨j1, l1, t⟩, h1, h2⟩ := pb_r hop
      cases h2
      refine ⟨rfl, rfl, fun s2 e2 => ?_⟩
      rw [ev_F _ _ _ _ (by decide) (by decide)] at e2
      subst e2
      have hG1 := gSt_D hG (d1 1)
      have hlt := cd_lt hG.1.2.2.2.1 c27 (by decide)
      have hlt2 := cd_lt hG.1.2.2.2.1 cn.1 (by decide)
      have hbT := hG.1.2.1
      refine e_pass hG1.1 (by omega) (fun _ => ⟨fun z => absurd z (by decide), fun _ => ?_⟩) (fun z => absurd c27 z)
      rw [ev_22, show (2852 : Int32) + nI (base + (i + 1)) = nI (2852 + (base + (i + 1))) from nI_add 2852 _]
      refine ⟨vpk (by omega) (by decide), fun s3 e3 s4 e4 => ?_⟩
      rw [mAt_n (by omega), show (ev (mF s 43 1) (nI (base + (i + 1))) b).2.1 2 (2852 + (base + (i + 1))) = vl (i + 1) from (hG.1.2.2.1 (i + 1) hlt2).2, ev_F _ _ _ _ (by decide) (by decide), show mF (mF s 43 1) 43 (vl (i + 1)) = mF s 43 (vl (i + 1)) from mF_mF s 43 1 _] at e3
      subst e3
      rw [e_go] at e4
      subst e4
      exact rest (by omega) h1 rfl rfl
    · rw [if_neg cn] at hop
      cases hop
  · rw [if_neg c27] at hop
    obtain ⟨⟨j1, l1, t⟩, h1, h2⟩ := pb_r hop
    cases h2
    refine ⟨rfl, rfl, fun s2 e2 => ?_⟩
    rw [ev_F _ _ _ _ (by decide) (by decide)] at e2
    subst e2
    refine e_pass (gSt_D hG (d1 1)).1 (by omega) (fun z => absurd z c27) (fun _ => ⟨fun _ => ?_, fun z => absurd rfl z⟩)
    exact rest hi h1 rfl rfl
/-- what a clause, gone along live, leaves -/
def okGo (e : Nat → Int64) (c : cO) (s' : mS) : Prop := mFd s' 46 = bI (tstOk e c.2.2.2) ∧ ∀ D, c.2.1 = some D → ((D.1 e = none ∨ D.2 e = none) ∧ mFd s' 45 = 0) ∨ ∃ v w, D.1 e = some v ∧ D.2 e = some w ∧ mFd s' 45 = 1 ∧ s'.2.2 47 0 = v ∧ s'.2.2 47 1 = w ∧ inB v ∧ inB w
theorem w_go31 (hN : 402 ≤ N.1) (hN2 : 40 ≤ N.2) {m : mS} (h23 : base + T ≤ 2800) (hk : ∀ k, k < T → kp (52 + (base + k)) = cd k ∧ kp (2852 + (base + k)) = vl k) (hz : ∀ k, T ≤ k → cd k = 0) (hvl : ∀ k, 0 ≤ vl k) (hT : T ≤ 400) (hkp : kpN kp) (hq : kp 41 = nI q) (hq2 : q ≤ 12) (b1 : smB dn) (b2 : smB lt) (b3 : smB br) (b4 : smB al) (g2 : m.2.1 2 = kp) (g27 : mFd m 27 = dn) (g28 : mFd m 28 = lt) (g29 : mFd m 29 = br) {i l j l' : Nat} (g42 : mFd m 42 = nI (base + i)) (hi : i ≤ T) {c : cO} (hp : pOrder cd vl true i l = .inr (j, l', c)) {K : mS → Prop} (hK : ∀ s', mD (goF ++ [23, 25, 30]) [] [47] m s' → mFd s' 22 = nI (base + (j + 1)) → mFd s' 43 = c.2.2.1 → mFd s' 44 = c.1 → (live ≠ 0 → mFd s' 45 = 0 ∨ mFd s' 45 = 1) → (live ≠ 0 → c.2.1 = none → mFd s' 45 = 1) → (live ≠ 0 → okGo (oE kp q dn lt br al) c s') → K s') : w_goesAlong_31 N (nI (base + T)) live al K m := by
  unfold w_goesAlong_31
  intro s1 e1 s2 e2 s3 e3 s4 e4
  have m34 : mFd s3 42 = nI (base + i) := by
    rw [e3, e2, e1]
    exact g42
  rw [m34, ev_g] at e4
  have D3 : mD (goF ++ [23, 25, 30]) [] [47] m s3 := by
    rw [e3, e2, e1]
    exact mD_t (mD_t (mD_F m _ (by decide)) (mD_F _ _ (by decide))) (mD_F _ _ (by decide))
  have G3 : gSt s3 base T cd vl kp dn lt br al := by
    have r2 : s3.2.1 2 = kp := by
      rw [e3, e2, e1]
      exact g2
    refine ⟨⟨by rw [e3]; rfl, h23, fun k hk' => by rw [r2]; exact hk k hk', hz, hvl⟩, r2, ?_, ?_, ?_, ?_, ?_⟩
    · rw [e3, e2]
      rfl
    · rw [e3, e2, e1]
      exact g27
    · rw [e3, e2, e1]
      exact g28
    · rw [e3, e2, e1]
      exact g29
    · rw [e3, e2, e1]
      rfl
  have hE : ∀ s', mD goF [] [47] s3 s' → enR s' true (oE kp q dn lt br al) := fun s' hd => gSt_E (gSt_D G3 hd) hkp hq hq2 b1 b2 b3 b4
  clear e1 e2 e3
  subst e4
  refine e_code G3.1 (by omega) (fun s5 e5 s6 e6 s7 e7 => ?_)
  rw [ev_F _ _ _ _ (by decide) (by decide)] at e5
  subst e5
  rw [e_go] at e6
  subst e6
  rw [ev_F _ _ _ _ (by decide) (by decide)] at e7
  subst e7
  generalize hs8 : mF (mF s3 44 (cd i)) 45 1 = s8
  have D8 : mD goF [] [47] s3 s8 := by
    rw [← hs8]
    exact mD_t (mD_F _ _ (by decide)) (mD_F _ _ (by decide))
  have h44 : mFd s8 44 = cd i := by
    rw [← hs8]
    rfl
  have h45 : mFd s8 45 = 1 := by
    rw [← hs8]
    rfl
  have G8 := gSt_D G3 D8
  have hE8 : ∀ s', mD goF [] [47] s8 s' → enR s' true (oE kp q dn lt br al) := fun s' hd => hE s' (mD_t D8 hd)
  have up : ∀ {s'}, mD goF [] [47] s8 s' → mD (goF ++ [23, 25, 30]) [] [47] m s' := fun hd => mD_t D3 (mD_w (mD_t D8 hd) (fun j hj => List.mem_append_left _ hj) (fun _ h => h) (fun _ h => h))
  rw [show mFd (ev s8 (nI (base + (i + 1))) (mFd s3 24)) 44 = cd i from (ev_o _ _ _ (by decide) (by decide)).trans h44]
  clear hs8
  -- two sums
  have two : ∀ y : Nat × Nat × dS, (cd i = 22 ∨ cd i = 23) → pSum cd vl true 8 (i + 1) l = .inr y → cd y.1 = 26 → ∀ w : Nat × Nat × dS, pSum cd vl true 8 (y.1 + 1) y.2.1 = .inr w → pTail cd vl true w.1 w.2.1 (cd i) (some (y.2.2, w.2.2)) = .inr (j, l', c) → w_goesAlong_97 N live K (ev s8 (nI (base + (i + 1))) (mFd s3 24)) := fun y c1 h1 h26 w h2 ht => by
    have iT : i < T := c1.elim (fun h => cd_lt (cd := cd) hz h (by decide)) (fun h => cd_lt (cd := cd) hz h (by decide))
    have y1 := (pM_sum (vl := vl) (io := true) hz 8 (i + 1) l (by omega)).2 y h1
    have yT : y.1 < T := cd_lt (cd := cd) hz h26 (by decide)
    have w1 := (pM_sum (vl := vl) (io := true) hz 8 (y.1 + 1) y.2.1 yT).2 w h2
    have hB := (hE s3 (mD_r s3)).1
    have k1 : dOK y.2.2 := (e_sumT (live := live) (by omega) hN2 G8.1 hT (hE8 s8 (mD_r s8)) (by omega) (by omega) h1).1
    have k2 : dOK w.2.2 := (e_sumT (live := live) (by omega) hN2 G8.1 hT (hE8 s8 (mD_r s8)) (by omega) yT h2).1
    unfold w_goesAlong_97 w_goesAlong_102
    obtain ⟨n0, hn0⟩ : ∃ u, N.1 = u + 1 + 1 + 1 := ⟨N.1 - 3, by omega⟩
    rw [hn0]
    simp only [w_goesAlong_106]
    refine ⟨fun z => absurd z (by decide), fun _ => ⟨fun _ => ?_, fun z => absurd (by decide) z⟩⟩
    unfold w_goesAlong_127
    intro s9 e9
    rw [ev_w24] at e9
    subst e9
    refine (e_sumT (by omega) hN2 G8.1 hT (hE8 s8 (mD_r s8)) (by omega) (by omega) h1).2 0 _ xB0 (fun x bx hx hbx => ⟨vpk (k := 0) (by decide) (by decide), fun s10 e10 => ?_⟩)
    rw [ev_L] at e10
    subst e10
    -- the second sum, from a state s11 with field 45 told
    have second : ∀ s11, mD goF [] [47] s8 s11 → mFd s11 44 = cd i → (mFd s11 45 = 0 ∨ mFd s11 45 = 1) → s11.2.2 47 0 = x → (live ≠ 0 → (y.2.2 (oE kp q dn lt br al) = none ∧ mFd s11 45 = 0) ∨ (y.2.2 (oE kp q dn lt br al) = some x ∧ mFd s11 45 = 1)) → ∀ x4 : Int32, x4 = 0 + 1 → ∀ bb, w_goesAlong_106 N live 2 K (fun s101 => ∀ s102 : mS, s102 = mF s101 43 1 → w_passes0 27 s102 (fun x103 s104 => (x103 = 0 → w_goesAlong_214 N live K s104) ∧ (¬ x103 = 0 → vp_in (2852 + mFd s104 22) 5652 ∧ ∀ s107 : mS, s107 = mF s104 43 (mAt s104 2 (2852 + mFd s104 22)) → ∀ s108 : mS, s108 = mF s107 22 (mFd s107 22 + 1) → w_goesAlong_214 N live K s108))) (n0 + 1 + 1) x4 (ev s11 (nI (base + y.1)) bb) := fun s11 D11 g44 g45 gx hv x4 hx4 bb => by
      have G11 := gSt_D G8 D11
      have hE11 : ∀ s', mD goF [] [47] s11 s' → enR s' true (oE kp q dn lt br al) := fun s' hd => hE8 s' (mD_t D11 hd)
      rw [hx4]
      simp only [w_goesAlong_106]
      refine ⟨fun z => absurd z (by decide), fun _ => ⟨fun z => absurd z (by decide), fun _ s12 e12 => ?_⟩⟩
      rw [e_go] at e12
      subst e12
      unfold w_goesAlong_127
      intro s13 e13
      rw [ev_w24] at e13
      subst e13
      refine (e_sumT (by omega) hN2 G11.1 hT (hE11 s11 (mD_r s11)) (by omega) yT h2).2 0 _ xB0 (fun x2 bx2 hx2 hbx2 => ⟨vpk (k := 1) (by decide) (by decide), fun s14 e14 => ?_⟩)
      rw [ev_L] at e14
      subst e14
      have fin2 : ∀ s15, mD goF [] [47] s11 s15 → mFd s15 44 = cd i → (mFd s15 45 = 0 ∨ mFd s15 45 = 1) → (live ≠ 0 → ((y.2.2 (oE kp q dn lt br al) = none ∨ w.2.2 (oE kp q dn lt br al) = none) ∧ mFd s15 45 = 0) ∨ ∃ v v2, y.2.2 (oE kp q dn lt br al) = some v ∧ w.2.2 (oE kp q dn lt br al) = some v2 ∧ mFd s15 45 = 1 ∧ s15.2.2 47 0 = v ∧ s15.2.2 47 1 = v2 ∧ inB v ∧ inB v2) → ∀ x4 : Int32, x4 = 0 + 1 + 1 → ∀ bb, w_goesAlong_106 N live 2 K (fun s101 => ∀ s102 : mS, s102 = mF s101 43 1 → w_passes0 27 s102 (fun x103 s104 => (x103 = 0 → w_goesAlong_214 N live K s104) ∧ (¬ x103 = 0 → vp_in (2852 + mFd s104 22) 5652 ∧ ∀ s107 : mS, s107 = mF s104 43 (mAt s104 2 (2852 + mFd s104 22)) → ∀ s108 : mS, s108 = mF s107 22 (mFd s107 22 + 1) → w_goesAlong_214 N live K s108))) (n0 + 1) x4 (ev s15 (nI (base + w.1)) bb) := fun s15 D15 k44 k45 hv2 x4 hx4 bb => by
        rw [hx4]
        simp only [w_goesAlong_106]
        refine ⟨fun _ => ?_, fun z => absurd (by decide) z⟩
        have kk : ∀ s', mD goF [] [47] s15 s' → mFd s' 22 = nI (base + (j + 1)) → mFd s' 43 = c.2.2.1 → mFd s' 44 = mFd s15 44 → mFd s' 45 = mFd s15 45 → s'.2.2 = s15.2.2 → (live ≠ 0 → mFd s' 46 = bI (tstOk (oE kp q dn lt br al) c.2.2.2)) → K s' := fun s' hd h22 h43 h44' h45' hl hv3 => by
          refine hK s' (up (mD_t D11 (mD_t D15 hd))) h22 h43 ?_ ?_ ?_ ?_
          · rw [h44', k44]
            exact (pTail_h ht).1.symm
          · intro _
            rw [h45']
            exact k45
          · intro _ z
            have := (pTail_h ht).2
            rw [z] at this
            cases this
          · intro hq
            refine ⟨hv3 hq, fun D hD => ?_⟩
            have := (pTail_h ht).2
            rw [hD] at this
            cases this
            rw [h45', hl]
            exact hv2 hq
        exact (w_goTail (K := K) (live := live) (b := bb) hN hN2 (gSt_D G11 D15) hT (fun s' hd => hE11 s' (mD_t D15 hd)) w1.2.1 ht kk).2.2
      have D14 : mD goF [] [47] s11 (mL s11 47 (0 + 1) x2) := mD_L _ _ _ (by decide)
      have l0 : (mL s11 47 (0 + 1) x2).2.2 47 0 = x := by
        refine Eq.trans ?_ gx
        show (if (47 : Nat) = 47 then (fun i => if i = ((0 : Int32) + 1).toNatClampNeg then x2 else s11.2.2 47 i) else s11.2.2 47) 0 = s11.2.2 47 0
        rw [if_pos rfl]
        exact if_neg (by decide)
      have l1 : (mL s11 47 (0 + 1) x2).2.2 47 1 = x2 := by
        show (if (47 : Nat) = 47 then (fun i => if i = ((0 : Int32) + 1).toNatClampNeg then x2 else s11.2.2 47 i) else s11.2.2 47) 1 = x2
        rw [if_pos rfl]
        exact if_pos (by decide)
      have e45 : mFd (ev (mL s11 47 (0 + 1) x2) (nI (base + w.1)) bx2) 45 = mFd s11 45 := ev_o _ _ _ (by decide) (by decide)
      have e24 : mFd (ev (mL s11 47 (0 + 1) x2) (nI (base + w.1)) bx2) 24 = bx2 := rfl
      rw [e45, e24]
      have h2v : live ≠ 0 → (w.2.2 (oE kp q dn lt br al) = none ∧ bx2 = 1) ∨ (bx2 = 0 ∧ w.2.2 (oE kp q dn lt br al) = some x2) := fun hl => hx2.1 ⟨hl, rfl⟩
      refine ⟨fun z s16 e16 x5 hx5 => ?_, fun z => ⟨fun z2 s16 e16 x5 hx5 => ?_, fun z2 s16 e16 x5 hx5 => ?_⟩⟩
      all_goals rw [ev_F _ _ _ _ (by decide) (by decide)] at e16; subst e16
      · refine fin2 _ (mD_t D14 (mD_F _ _ (by decide))) ((mF_o _ _ (by decide)).trans g44) (Or.inl rfl) (fun hl => Or.inl ⟨?_, rfl⟩) x5 hx5 bx2
        rcases hv hl with ⟨a1, a2⟩ | ⟨a1, a2⟩
        · exact Or.inl a1
        · rw [z] at a2
          exact absurd a2 (by decide)
      · refine fin2 _ (mD_t D14 (mD_F _ _ (by decide))) ((mF_o _ _ (by decide)).trans g44) (Or.inl rfl) (fun hl => Or.inl ⟨?_, rfl⟩) x5 hx5 bx2
        rcases h2v hl with ⟨a1, a2⟩ | ⟨a1, a2⟩
        · exact Or.inr a1
        · exact absurd a1 z2
      · refine fin2 _ (mD_t D14 (mD_F _ _ (by decide))) ((mF_o _ _ (by decide)).trans g44) (Or.inr rfl) (fun hl => Or.inr ?_) x5 hx5 bx2
        rcases hv hl with ⟨a1, a2⟩ | ⟨a1, a2⟩
        · exact absurd a2 z
        · rcases h2v hl with ⟨c1, c2⟩ | ⟨c1, c2⟩
          · rw [c2] at z2
            exact absurd z2 (by decide)
          · exact ⟨x, x2, a1, c2, rfl, l0, l1, k1 _ hB x a1, k2 _ hB x2 c2⟩
    have D10 : mD goF [] [47] s8 (mL s8 47 0 x) := mD_L _ _ _ (by decide)
    have l0 : (mL s8 47 0 x).2.2 47 0 = x := by
      show (if (47 : Nat) = 47 then (fun i => if i = (0 : Int32).toNatClampNeg then x else s8.2.2 47 i) else s8.2.2 47) 0 = x
      rw [if_pos rfl]
      exact if_pos (by decide)
    have e45 : mFd (ev (mL s8 47 0 x) (nI (base + y.1)) bx) 45 = 1 := (ev_o _ _ _ (by decide) (by decide)).trans h45
    have e24 : mFd (ev (mL s8 47 0 x) (nI (base + y.1)) bx) 24 = bx := rfl
    rw [e45, e24]
    have h1v : live ≠ 0 → (y.2.2 (oE kp q dn lt br al) = none ∧ bx = 1) ∨ (bx = 0 ∧ y.2.2 (oE kp q dn lt br al) = some x) := fun hl => hx.1 ⟨hl, rfl⟩
    refine ⟨fun z => absurd z (by decide), fun z => ⟨fun z2 s16 e16 x5 hx5 => ?_, fun z2 s16 e16 x5 hx5 => ?_⟩⟩
    all_goals rw [ev_F _ _ _ _ (by decide) (by decide)] at e16; subst e16
    · refine second _ (mD_t D10 (mD_F _ _ (by decide))) ((mF_o _ _ (by decide)).trans h44) (Or.inl rfl) l0 (fun hl => Or.inl ⟨?_, rfl⟩) x5 hx5 bx
      rcases h1v hl with ⟨a1, a2⟩ | ⟨a1, a2⟩
      · exact a1
      · exact absurd a1 z2
    · refine second _ (mD_t D10 (mD_F _ _ (by decide))) ((mF_o _ _ (by decide)).trans h44) (Or.inr rfl) l0 (fun hl => Or.inr ⟨?_, rfl⟩) x5 hx5 bx
      rcases h1v hl with ⟨a1, a2⟩ | ⟨a1, a2⟩
      · rw [a2] at z2
        exact absurd z2 (by decide)
      · exact a2
  have none' : (cd i = 24 ∨ cd i = 25) → pTail cd vl true (i + 1) l (cd i) none = .inr (j, l', c) → w_goesAlong_102 N live 0 K (ev s8 (nI (base + (i + 1))) (mFd s3 24)) := fun c1 ht => by
    have iT : i < T := c1.elim (fun h => cd_lt (cd := cd) hz h (by decide)) (fun h => cd_lt (cd := cd) hz h (by decide))
    unfold w_goesAlong_102
    obtain ⟨n0, hn0⟩ : ∃ u, N.1 = u + 1 := ⟨N.1 - 1, by omega⟩
    rw [hn0]
    simp only [w_goesAlong_106]
    refine ⟨fun _ => ?_, fun z => absurd (by decide) z⟩
    have kk : ∀ s', mD goF [] [47] s8 s' → mFd s' 22 = nI (base + (j + 1)) → mFd s' 43 = c.2.2.1 → mFd s' 44 = mFd s8 44 → mFd s' 45 = mFd s8 45 → s'.2.2 = s8.2.2 → (live ≠ 0 → mFd s' 46 = bI (tstOk (oE kp q dn lt br al) c.2.2.2)) → K s' := fun s' hd h22 h43 h44' h45' hl hv3 => by
      refine hK s' (up hd) h22 h43 ?_ ?_ ?_ ?_
      · rw [h44', h44]
        exact (pTail_h ht).1.symm
      · intro _
        rw [h45', h45]
        exact Or.inr rfl
      · intro _ _
        rw [h45', h45]
      · intro hq
        refine ⟨hv3 hq, fun D hD => ?_⟩
        have := (pTail_h ht).2
        rw [hD] at this
        cases this
    exact (w_goTail (K := K) (live := live) (b := mFd s3 24) hN hN2 G8 hT hE8 iT ht kk).2.2
  unfold pOrder at hp
  by_cases c1 : cd i = 22 ∨ cd i = 23
  · rw [if_pos c1] at hp
    obtain ⟨y, h1, h3⟩ := pb_r hp
    by_cases h26 : cd y.1 = 26
    · rw [if_pos h26] at h3
      obtain ⟨w, h4, h5⟩ := pb_r h3
      have := two y c1 h1 h26 w h4 h5
      refine ⟨fun _ => this, fun n22 => ⟨fun n23 => absurd c1 (fun z => z.elim n22 n23), fun _ => this⟩⟩
    · rw [if_neg h26] at h3
      cases h3
  · rw [if_neg c1] at hp
    by_cases c2 : cd i = 24 ∨ cd i = 25
    · rw [if_pos c2] at hp
      exact ⟨fun z => absurd (Or.inl z) c1, fun _ => ⟨fun _ => none' c2 hp, fun z => absurd (Or.inr z) c1⟩⟩
    · rw [if_neg c2] at hp
      cases hp
end GO
