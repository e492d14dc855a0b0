set_option maxRecDepth 100000
/-! ===== the system's clauses and laws ===== -/
theorem bk_b2 (s : tM) (c : Nat) (b b2 : Int32) : bk (bk s c b) c b2 = bk s c b2 := bk_bk s c b b2
def isClause (s : tM) (M : Nat → Prop) (a : Nat) (c : cL) : Prop := M a ∧ tO s 13 a ∧ (c.1 = 1 ∨ c.1 = 2 ∨ c.1 = 3) ∧ tI s a 0 = c.1 - 1 ∧ (c.1 = 3 → c.2.1 = none) ∧ (¬ c.1 = 3 → ¬ c.2.1 = none) ∧ (c.2.1 = none → tR s a 1 = 0) ∧ (∀ D, c.2.1 = some D → ¬ tR s a 1 = 0 ∧ isSum s M false 0 60 (tR s a 1) D) ∧ (c.2.2 = none → tR s a 2 = 0) ∧ ∀ D, c.2.2 = some D → ¬ tR s a 2 = 0 ∧ isTest s M false 0 30 (tR s a 2) D
def isText (s : tM) (M : Nat → Prop) (a : Nat) (cls : List cL) : Prop := M a ∧ tO s 5 a ∧ M (tR s a 0) ∧ tA s 6 cls.length (tR s a 0) ∧ cls.length ≤ 12 ∧ ∀ k (hk : k < cls.length), isClause s M (tR s (tR s a 0) k) cls[k]
theorem isClause_fr {s s' : tM} {M M' : Nat → Prop} (h : mFr M s s') (hM : ∀ a, M a → M' a) {a : Nat} {c : cL} (hc : isClause s M a c) : isClause s' M' a c := by
  obtain ⟨ha, o, h1, h2, h3, h4, h5, h6, h7, h8⟩ := hc
  have hf := h a ha
  have tI' : ∀ j, tI s' a j = tI s a j := fun j => congrFun hf.2.1 j
  have tR' : ∀ j, tR s' a j = tR s a j := fun j => congrFun hf.2.2 j
  unfold isClause
  rw [tI', tR', tR']
  exact ⟨hM a ha, mFr_O h ha o, h1, h2, h3, h4, h5, fun D hD => ⟨(h6 D hD).1, isSum_fr h hM _ _ _ (h6 D hD).2⟩, h7, fun D hD => ⟨(h8 D hD).1, isTest_fr h hM _ _ _ (h8 D hD).2⟩⟩
theorem isText_fr {s s' : tM} {M M' : Nat → Prop} (h : mFr M s s') (hM : ∀ a, M a → M' a) {a : Nat} {cls : List cL} (ht : isText s M a cls) : isText s' M' a cls := by
  obtain ⟨ha, o, mA, oA, hl, hk⟩ := ht
  have e1 : tR s' a 0 = tR s a 0 := congrFun (h a ha).2.2 0
  unfold isText
  rw [e1]
  refine ⟨hM a ha, mFr_O h ha o, hM _ mA, mFr_A h mA oA, hl, fun k hk2 => ?_⟩
  have e2 : tR s' (tR s a 0) k = tR s (tR s a 0) k := congrFun (h _ mA).2.2 k
  rw [e2]
  exact isClause_fr h hM (hk k hk2)
/-- what asking changes: whether it is broken, what clauses told last -/
def teS (c : Nat) (s0 s : tM) : Prop := s.1 = s0.1 ∧ s.2.2.2 = s0.2.2.2 ∧ (∀ a j, ¬ (a = c ∧ j = 1) → tI s a j = tI s0 a j) ∧ ∀ a, s0.1 a ≠ some (.inl 13) → s.2.2.1 a = s0.2.2.1 a
theorem teS_r (c : Nat) (s : tM) : teS c s s := ⟨rfl, rfl, fun _ _ _ => rfl, fun _ _ => rfl⟩
theorem teS_t {c : Nat} {s s' s2 : tM} (h : teS c s s') (h2 : teS c s' s2) : teS c s s2 := ⟨h2.1.trans h.1, h2.2.1.trans h.2.1, fun a j hn => (h2.2.2.1 a j hn).trans (h.2.2.1 a j hn), fun a ha => (h2.2.2.2 a (by rw [h.1]; exact ha)).trans (h.2.2.2 a ha)⟩
theorem teS_b (c : Nat) (s : tM) (b : Int32) : teS c s (bk s c b) := ⟨rfl, rfl, fun _ _ hn => if_neg hn, fun _ _ => rfl⟩
theorem teS_J {c a : Nat} {s0 s : tM} (h : teS c s0 s) (ho : tO s 13 a) (v : Int64) : teS c s0 (tsJ s a 3 v) := ⟨h.1, h.2.1, h.2.2.1, fun q hq => by
  refine (funext fun j => ?_ : (tsJ s a 3 v).2.2.1 q = s.2.2.1 q).trans (h.2.2.2 q hq)
  exact if_neg fun z => hq (by rw [← h.1, z.1]; exact ho.1)⟩
theorem teS_M {c : Nat} {s0 s : tM} {M : Nat → Prop} (h : teS c s0 s) (hc : ¬ M c) : mFr M s0 s := fun a ha => ⟨by rw [h.1], funext fun j => h.2.2.1 a j fun z => hc (z.1 ▸ ha), by rw [h.2.1]⟩
def envL (s : tM) (c : Nat) (e : Nat → Int64) : Prop := tO s 4 c ∧ tA s 1 10 (tR s c 0) ∧ ∀ w, w < 10 → e (mpc false w) = tJ s (tR s c 0) w
theorem envL_A {s : tM} {c : Nat} {e : Nat → Int64} (h : envL s c e) (x : Nat) : envA s x c false e := ⟨h.1, h.2.1, fun w hw _ => h.2.2 w hw, fun z => by cases z⟩
theorem envL_te {c : Nat} {s0 s : tM} {e : Nat → Int64} (h : teS c s0 s) (hE : envL s0 c e) : envL s c e := by
  obtain ⟨h1, h2, h3⟩ := hE
  have e1 : tR s c 0 = tR s0 c 0 := congrFun (congrFun h.2.1 c) 0
  unfold envL
  rw [e1]
  refine ⟨⟨by rw [h.1]; exact h1.1, h1.2⟩, ⟨by rw [h.1]; exact h2.1, h2.2⟩, fun w hw => ?_⟩
  rw [h3 w hw]
  have := h.2.2.2 (tR s0 c 0) (by rw [h2.1]; intro z; cases z)
  exact (congrFun this w).symm
/-- what a clause tells when it is asked -/
def chv (e : Nat → Int64) (c : cL) : Option Int64 := if tstOk e c.2.2 = true then (match c.2.1 with
  | none => some 0
  | some D => D e) else none
section VT
variable {N : tP} {M : Nat → Prop} {c : Nat} {e : Nat → Int64}
theorem v_holdsS (hN : 120 ≤ N.2.1) (hN1 : 60 ≤ N.1) {s : tM} (hE : envL s c e) {a : Nat} {cl : cL} (hcl : isClause s M a cl) (hMc : ¬ M c) {K : Int32 → tM → Prop} (h1 : ∀ v s', chv e cl = some v → teS c s s' → tJ s' a 3 = v → K 1 s') (h2 : ∀ s', chv e cl = none → teS c s s' → K 0 s') : v_X15_holds N a c s K := by
  have hE0 := envL_A (envL_te (teS_b c s 0) hE) 0
  have hcl0 := isClause_fr (teS_M (teS_b c s 0) hMc) (fun _ h => h) hcl
  obtain ⟨ha, o, hh, eh, w1, w2, n1, s1, n2, t1⟩ := hcl0
  have hc : tO s 4 c := hE.1
  have h52 : ∀ (y : Int64) (b : Int32), (b = 0 → ∀ s', teS c s s' → tJ s' a 3 = y → K 1 s') → (¬ b = 0 → ∀ s', teS c s s' → K 0 s') → v_X15_holds_52 N c a y K (bk s c b) := fun y b k1 k2 => by
    unfold v_X15_holds_52
    refine ⟨o, fun s2 e2 => ?_⟩
    have hte : teS c s s2 := by
      rw [e2]
      exact teS_J (teS_b c s b) o y
    have eb : tI s2 c 1 = b := by
      rw [e2]
      exact bk_at s c b
    rw [eb]
    refine ⟨by rw [e2]; exact hc, fun nb => k2 nb s2 hte, fun yb => k1 yb s2 hte ?_⟩
    rw [e2]
    exact if_pos ⟨rfl, rfl⟩
  have h23 : tstOk e cl.2.2 = true → v_X15_holds_23 N a c K (bk s c 0) := fun ht => by
    unfold v_X15_holds_23
    rw [bk_at]
    refine ⟨hc, fun _ => ⟨o, fun nn => ?_, fun yn => ?_⟩, fun z => absurd rfl z⟩
    · cases hs : cl.2.1 with
      | none => exact absurd (n1 hs) nn
      | some D =>
        have hch : chv e cl = D e := by
          unfold chv
          rw [if_pos ht, hs]
        have key : r_U_sum N N.2.1 0 (tR (bk s c 0) a 1) c (bk (bk s c 0) c 0) (fun x105 s106 => v_X15_holds_52 N c a x105 K s106) := by
          refine v_sumS hE0 60 _ _ (s1 D hs).2 N.2.1 hN _ (fun v hv => ?_) (fun hn => ?_)
          · rw [bk_b2]
            exact h52 v 0 (fun _ s' hte ht3 => h1 v s' (hch.trans hv) hte ht3) (fun z => absurd rfl z)
          · rw [bk_b2]
            exact h52 0 1 (fun z => absurd z (by decide)) (fun _ s' hte => h2 s' (hch.trans hn) hte)
        rw [bk_b2] at key
        exact key
    · cases hs : cl.2.1 with
      | none =>
        have hch : chv e cl = some 0 := by
          unfold chv
          rw [if_pos ht, hs]
        exact h52 0 0 (fun _ s' hte ht3 => h1 0 s' hch hte ht3) (fun z => absurd rfl z)
      | some D => exact absurd yn (s1 D hs).1
  unfold v_X15_holds
  refine ⟨hc, fun s0 e0 => ?_⟩
  subst e0
  refine ⟨o, fun yn => ?_, fun nn => ?_⟩
  · cases ht : cl.2.2 with
    | none => exact h23 (by rw [ht]; rfl)
    | some D => exact absurd yn (t1 D ht).1
  · cases ht : cl.2.2 with
    | none => exact absurd (n2 ht) nn
    | some D =>
      have htst : tstOk e cl.2.2 = (D e == some true) := by
        rw [ht]
        rfl
      have hno : ¬ D e = some true → chv e cl = none := fun hd => by
        unfold chv
        rw [if_neg]
        rw [htst]
        simpa using hd
      have key : r_U_test N N.2.1 0 (tR (bk s c 0) a 2) c (bk (bk s c 0) c 0) (fun x106 s107 => (x106 = 0 → K 0 s107) ∧ (¬ x106 = 0 → v_X15_holds_23 N a c K s107)) := by
        refine v_testS hN hE0 hN1 30 _ _ (t1 D ht).2 N.2.1 (by omega) _ (fun v hv => ?_) (fun hn => ?_)
        · rw [bk_b2]
          cases v with
          | true => exact ⟨fun z => absurd z (by decide), fun _ => h23 (by rw [htst, hv]; rfl)⟩
          | false => exact ⟨fun _ => h2 _ (hno (by rw [hv]; decide)) (teS_b c s 0), fun z => absurd rfl z⟩
        · rw [bk_b2]
          exact ⟨fun _ => h2 _ (hno (by rw [hn]; decide)) (teS_b c s 1), fun z => absurd rfl z⟩
      rw [bk_b2] at key
      exact key
theorem clamp_eq {top v : Int64} (h : 0 ≤ top) : (if (if v < top then v else top) < 0 then 0 else (if v < top then v else top)) = clamp top v := by
  unfold clamp
  have z0 : (0 : Int64).toInt = 0 := by decide
  simp only [Int64.lt_iff_toInt_lt, Int64.le_iff_toInt_le, z0] at h ⊢
  by_cases h1 : v.toInt < 0
  · rw [if_pos (show v.toInt < top.toInt by omega), if_pos h1, if_pos h1]
  · rw [if_neg h1]
    by_cases h2 : v.toInt < top.toInt
    · rw [if_pos h2, if_neg h1, if_neg (by omega)]
    · rw [if_neg h2, if_neg (by omega)]
      by_cases h3 : top.toInt < v.toInt
      · rw [if_pos h3]
      · rw [if_neg h3]
        exact Int64.toInt_inj.mp (by omega)
theorem tLen_A {s : tM} {t n a : Nat} (h : tA s t n a) : tLen s a = n := by
  unfold tLen
  rw [h.1]
theorem v_tellsS (hN : 120 ≤ N.2.1) (hN1 : 60 ≤ N.1) {s : tM} (hE : envL s c e) {a : Nat} {cls : List cL} (hT : isText s M a cls) (hMc : ¬ M c) {h hc top wo : Int32} (hh : (h = 1 ∧ hc = 0) ∨ (h = 2 ∧ hc = 1)) (htop : 0 ≤ top.toInt64) {K : Int32 → tM → Prop} (hK : ∀ s', teS c s s' → K (tellsL e h top.toInt64 wo.toInt64 cls).toInt32 s') : v_X5_tells N a hc c wo top s K := by
  have loop : ∀ (Es : List cL) (k u : Nat) (s1 : tM) (acc : Int64), k + Es.length = cls.length → (∀ i (hi : i < Es.length), cls[k + i]? = some Es[i]) → Es.length + 1 ≤ u → teS c s s1 → (∀ s', teS c s s' → K (tellsL e h top.toInt64 acc Es).toInt32 s') → v_X5_tells_7 N a hc c top K (fun x102 s103 => K x102.toInt32 s103) u acc (nI k) s1 := by
    intro Es
    induction Es with
    | nil =>
      intro k u s1 acc hk hg hu hte g
      obtain ⟨u, rfl⟩ : ∃ v, u = v + 1 := ⟨u - 1, by omega⟩
      have e1 : k = cls.length := hk
      subst e1
      obtain ⟨mT, oT, mA, oA, hl, hcl⟩ := isText_fr (teS_M hte hMc) (fun _ h => h) hT
      simp only [v_X5_tells_7]
      rw [tLen_A oA]
      exact ⟨oT, ⟨_, oA⟩, fun _ => g s1 hte, fun z => absurd (nI_le (Nat.le_refl _) (by omega)) z⟩
    | cons E Es ih =>
      intro k u s1 acc hk hg hu hte g
      have hl2 : (E :: Es).length = Es.length + 1 := rfl
      rw [hl2] at hk hu
      obtain ⟨u, rfl⟩ : ∃ v, u = v + 1 := ⟨u - 1, by omega⟩
      obtain ⟨mT, oT, mA, oA, hl, hcl⟩ := isText_fr (teS_M hte hMc) (fun _ h => h) hT
      have hkl : k < cls.length := by omega
      have hE0 : cls[k] = E := by
        have := hg 0 (by rw [hl2]; omega)
        rw [Nat.add_zero, List.getElem?_eq_getElem hkl] at this
        exact Option.some.inj this
      have hck := hcl k hkl
      rw [hE0] at hck
      have hck2 := hck
      obtain ⟨ma, oc, h123, eh, w1, w2, -⟩ := hck2
      have hv : tX s1 6 (tR s1 a 0) (nI k) := ⟨_, oA, vp_in_nI hkl (by omega)⟩
      have next : ∀ (acc' : Int64) (s2 : tM), teS c s s2 → (acc' = match clOk e h E with
        | none => acc
        | some v => clamp top.toInt64 v) → ∀ x', x' = nI k + 1 → v_X5_tells_7 N a hc c top K (fun x102 s103 => K x102.toInt32 s103) u acc' x' s2 := fun acc' s2 hte2 hacc x' hx' => by
        rw [hx', nI_1]
        refine ih (k + 1) u s2 acc' (by omega) (fun i hi => ?_) (by omega) hte2 (fun s' hs' => ?_)
        · have := hg (i + 1) (by rw [hl2]; omega)
          rw [show k + 1 + i = k + (i + 1) by omega]
          exact this
        · have := g s' hs'
          rw [hacc]
          exact this
      simp only [v_X5_tells_7]
      rw [tLen_A oA, show Int32.ofNat cls.length = nI cls.length from rfl, nI_leI (by omega) (by omega), nI_clamp (by omega), eh]
      refine ⟨oT, ⟨_, oA⟩, fun z => by omega, fun _ => ⟨hv, oc, fun ne x' hx' => ?_, fun eq => ⟨hv, ?_⟩⟩⟩
      · refine next acc s1 hte ?_ x' hx'
        have hne : ¬ E.1 = h := fun z => ne (by
          rw [z]
          rcases hh with ⟨rfl, rfl⟩ | ⟨rfl, rfl⟩ <;> decide)
        unfold clOk
        rw [if_neg (fun z => hne z.1)]
      · have heq : E.1 = h := by
          rcases h123 with z | z | z <;> rw [z] at eq ⊢ <;> rcases hh with ⟨rfl, rfl⟩ | ⟨rfl, rfl⟩ <;> first | rfl | exact absurd eq (by decide)
        have hn3 : ¬ E.1 = 3 := by
          rw [heq]
          rcases hh with ⟨rfl, -⟩ | ⟨rfl, -⟩ <;> decide
        have hch : chv e E = clOk e h E := by
          unfold chv clOk
          cases hs : E.2.1 with
          | none => exact absurd hs (w2 hn3)
          | some D =>
            by_cases ht : tstOk e E.2.2 = true
            · rw [if_pos ht, if_pos ⟨heq, ht⟩]
            · rw [if_neg ht, if_neg (fun z => ht z.2)]
        refine v_holdsS hN hN1 (envL_te hte hE) hck hMc (fun v s2 hv2 hte2 hj => ?_) (fun s2 hn hte2 => ?_)
        · have hte3 := teS_t hte hte2
          obtain ⟨mT2, oT2, mA2, oA2, hl2, hcl2⟩ := isText_fr (teS_M hte3 hMc) (fun _ h => h) hT
          have er : tR s2 (tR s2 a 0) k = tR s1 (tR s1 a 0) k := by
            have : s2.2.2.2 = s1.2.2.2 := hte2.2.1
            show s2.2.2.2 (s2.2.2.2 a 0) k = s1.2.2.2 (s1.2.2.2 a 0) k
            rw [this]
          have oc2 : tO s2 13 (tR s1 (tR s1 a 0) k) := ⟨by rw [hte2.1]; exact oc.1, oc.2⟩
          rw [er, hj]
          refine ⟨fun z => absurd z (by decide), fun _ => ⟨oT2, ⟨_, oA2, vp_in_nI hkl (by omega)⟩, oc2, fun x6 h6 x7 h7 x8 h8 => ?_⟩⟩
          rw [h6, clamp_eq htop] at h7
          refine next x7 s2 hte3 ?_ x8 h8
          rw [h7, ← hch, hv2]
        · refine ⟨fun _ x' hx' => next acc s2 (teS_t hte hte2) ?_ x' hx', fun z => absurd rfl z⟩
          rw [← hch, hn]
  unfold v_X5_tells
  intro x1 h1
  subst h1
  exact loop cls 0 N.1 s wo.toInt64 (by omega) (fun i hi => by rw [Nat.zero_add]; exact List.getElem?_eq_getElem hi) (by have := hT.2.2.2.2.1; omega) (teS_r c s) hK
theorem v_hasS (hN : 120 ≤ N.2.1) (hN1 : 60 ≤ N.1) {s : tM} (hE : envL s c e) {a : Nat} {cls : List cL} (hT : isText s M a cls) (hMc : ¬ M c) {K : Int32 → tM → Prop} (hK : ∀ s', teS c s s' → K (bI (hasL e cls)) s') : v_X5_has N a 2 c s K := by
  have loop : ∀ (Es : List cL) (k u : Nat) (s1 : tM), k + Es.length = cls.length → (∀ i (hi : i < Es.length), cls[k + i]? = some Es[i]) → Es.length + 1 ≤ u → teS c s s1 → (∀ s', teS c s s' → K (bI (hasL e Es)) s') → v_X5_has_2 N a 2 c K (fun s103 => K 0 s103) u (nI k) s1 := by
    intro Es
    induction Es with
    | nil =>
      intro k u s1 hk hg hu hte g
      obtain ⟨u, rfl⟩ : ∃ v, u = v + 1 := ⟨u - 1, by omega⟩
      have e1 : k = cls.length := hk
      subst e1
      obtain ⟨mT, oT, mA, oA, hl, hcl⟩ := isText_fr (teS_M hte hMc) (fun _ h => h) hT
      simp only [v_X5_has_2]
      rw [tLen_A oA]
      exact ⟨oT, ⟨_, oA⟩, fun _ => g s1 hte, fun z => absurd (nI_le (Nat.le_refl _) (by omega)) z⟩
    | cons E Es ih =>
      intro k u s1 hk hg hu hte g
      have hl2 : (E :: Es).length = Es.length + 1 := rfl
      rw [hl2] at hk hu
      obtain ⟨u, rfl⟩ : ∃ v, u = v + 1 := ⟨u - 1, by omega⟩
      obtain ⟨mT, oT, mA, oA, hl, hcl⟩ := isText_fr (teS_M hte hMc) (fun _ h => h) hT
      have hkl : k < cls.length := by omega
      have hE0 : cls[k] = E := by
        have := hg 0 (by rw [hl2]; omega)
        rw [Nat.add_zero, List.getElem?_eq_getElem hkl] at this
        exact Option.some.inj this
      have hck := hcl k hkl
      rw [hE0] at hck
      have hck2 := hck
      obtain ⟨ma, oc, h123, eh, w1, w2, -⟩ := hck2
      have hv : tX s1 6 (tR s1 a 0) (nI k) := ⟨_, oA, vp_in_nI hkl (by omega)⟩
      have e2 : hasL e (E :: Es) = ((decide (E.1 = 3) && tstOk e E.2.2) || hasL e Es) := rfl
      rw [e2] at g
      have next : (decide (E.1 = 3) && tstOk e E.2.2) = false → ∀ (s2 : tM), teS c s s2 → ∀ x', x' = nI k + 1 → v_X5_has_2 N a 2 c K (fun s103 => K 0 s103) u x' s2 := fun hf s2 hte2 x' hx' => by
        rw [hx', nI_1]
        rw [hf, Bool.false_or] at g
        refine ih (k + 1) u s2 (by omega) (fun i hi => ?_) (by omega) hte2 g
        have := hg (i + 1) (by rw [hl2]; omega)
        rw [show k + 1 + i = k + (i + 1) by omega]
        exact this
      simp only [v_X5_has_2]
      rw [tLen_A oA, show Int32.ofNat cls.length = nI cls.length from rfl, nI_leI (by omega) (by omega), nI_clamp (by omega), eh]
      refine ⟨oT, ⟨_, oA⟩, fun z => by omega, fun _ => ⟨hv, oc, fun ne x' hx' => ?_, fun eq => ⟨hv, ?_⟩⟩⟩
      · have hne : ¬ E.1 = 3 := fun z => ne (by rw [z]; decide)
        exact next (by rw [decide_eq_false hne, Bool.false_and]) s1 hte x' hx'
      · have heq : E.1 = 3 := by
          rcases h123 with z | z | z <;> rw [z] at eq ⊢ <;> first | rfl | exact absurd eq (by decide)
        have hch : chv e E = if tstOk e E.2.2 = true then some 0 else none := by
          unfold chv
          rw [w1 heq]
        refine v_holdsS hN hN1 (envL_te hte hE) hck hMc (fun v s2 hv2 hte2 hj => ?_) (fun s2 hn hte2 => ?_)
        · have ht : tstOk e E.2.2 = true := by
            cases ht : tstOk e E.2.2 with
            | true => rfl
            | false => rw [hch, ht] at hv2; cases hv2
          rw [decide_eq_true heq, ht] at g
          exact ⟨fun z => absurd z (by decide), fun _ => g s2 (teS_t hte hte2)⟩
        · have ht : tstOk e E.2.2 = false := by
            cases ht : tstOk e E.2.2 with
            | false => rfl
            | true => rw [hch, ht] at hn; cases hn
          exact ⟨fun _ x' hx' => next (by rw [ht, Bool.and_false]) s2 (teS_t hte hte2) x' hx', fun z => absurd rfl z⟩
  unfold v_X5_has
  exact loop cls 0 N.1 s (by omega) (fun i hi => by rw [Nat.zero_add]; exact List.getElem?_eq_getElem hi) (by have := hT.2.2.2.2.1; omega) (teS_r c s) hK
end VT
