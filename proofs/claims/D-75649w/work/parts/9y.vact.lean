set_option maxRecDepth 100000
/-! ===== orders: an act run, the system's side ===== -/
theorem isTest_17 {s : tM} {M : Nat → Prop} {io : Bool} {x : Nat} : ∀ n a D, isTest s M io x n a D → isTest s (fun b => M b ∧ s.1 b ≠ some (.inl 17)) io x n a D
  | 0, _, _, h => h.elim
  | n + 1, a, D, h => by
    have nn : ∀ {ci : Nat}, tO s ci a → ci ≠ 17 → s.1 a ≠ some (.inl 17) := fun o h z => by
      rw [o.1] at z
      injection z with z
      injection z with z
      exact h z
    obtain ⟨ha, h⟩ := h
    rcases h with ⟨h1, c, D1, D2, h2, h3, h4⟩ | ⟨h1, D1, h2, h3⟩ | ⟨h1, all, Ds, h2, h3, h4, h5, h6, h7⟩
    · exact ⟨⟨ha, nn h1 (by decide)⟩, Or.inl ⟨h1, c, D1, D2, isSum_17 _ _ _ h2, isSum_17 _ _ _ h3, h4⟩⟩
    · exact ⟨⟨ha, nn h1 (by decide)⟩, Or.inr (Or.inl ⟨h1, D1, isTest_17 n _ _ h2, h3⟩)⟩
    · refine ⟨⟨ha, nn h1 (by decide)⟩, Or.inr (Or.inr ⟨h1, all, Ds, h2, ⟨h3, fun z => ?_⟩, h4, h5, fun k hk => isTest_17 n _ _ (h6 k hk), h7⟩)⟩
      rw [h4.1] at z
      cases z
/-- acts stay where nothing of theirs but whether they were broken is written -/
theorem isActs_q {x : Nat} {s s' : tM} {W : Nat → Prop} {q : Nat} {cs : List cO} (h1 : s'.1 = s.1) (h2 : s'.2.2.2 = s.2.2.2) (hI : ∀ b j, W b → ¬ (s.1 b = some (.inl 17) ∧ j = 5) → tI s' b j = tI s b j) (hA : isActs x s W q cs) : isActs x s' W q cs := by
  have R : ∀ a j, tR s' a j = tR s a j := fun a j => by
    show s'.2.2.2 a j = _
    rw [h2]
  have O : ∀ {c a}, tO s c a → tO s' c a := fun h => ⟨by rw [h1]; exact h.1, h.2⟩
  have hf : mFr (fun b => W b ∧ s.1 b ≠ some (.inl 17)) s s' := fun b hb => ⟨by rw [h1], funext fun j => hI b j hb.1 (fun z => hb.2 z.1), by rw [h2]⟩
  have up : ∀ b, (W b ∧ s.1 b ≠ some (.inl 17)) → W b := fun _ h => h.1
  obtain ⟨a1, a2, a3, a4⟩ := hA
  refine ⟨a1, ⟨by rw [h1]; exact a2.1, a2.2⟩, a3, fun j hj => ?_⟩
  obtain ⟨b1, b2, b3, b4, b5, b6, b7, b8, b9, b10, b11, b12⟩ := a4 j hj
  unfold isAct
  rw [R, R, R, R, R, hI _ 0 b1 (fun z => absurd z.2 (by decide)), hI _ 4 b1 (fun z => absurd z.2 (by decide))]
  exact ⟨b1, O b2, b3, b4, b5, b6, b7, fun D hD => ⟨isSum_fr hf up _ _ _ (isSum_17 _ _ _ (b8 D hD).1), isSum_fr hf up _ _ _ (isSum_17 _ _ _ (b8 D hD).2)⟩, b9, b10, b11, fun D hD => ⟨(b12 D hD).1, isTest_fr hf up _ _ _ (isTest_17 _ _ _ (b12 D hD).2)⟩⟩
theorem lk_7 {j : Nat} : ¬ lk 7 j := by
  rintro (⟨p, h⟩ | h | h | h | h)
  · have := loc_r h
    omega
  all_goals omega
theorem lk_6 {j : Nat} : ¬ lk 6 j := by
  rintro (⟨p, h⟩ | h | h | h | h)
  · have := loc_r h
    omega
  all_goals omega
theorem lk_0 : ¬ lk 0 24 ∧ ¬ lk 0 25 := by
  refine ⟨?_, ?_⟩
  · rintro (⟨p, h⟩ | h | h | h | h)
    · cases h
    all_goals omega
  · rintro (⟨p, h⟩ | h | h | h | h)
    · cases h
    all_goals omega
/-- quiet: only what is asked, and whether it was broken -/
def qt (L : Nat → Nat) (W : Nat → Prop) (s s' : tM) : Prop := s'.1 = s.1 ∧ s'.2.2.2 = s.2.2.2 ∧ (∀ b j, ¬ (b = L 7 ∧ j = 1) → ¬ (b = L 6 ∧ j = 1) → ¬ (W b ∧ s.1 b = some (.inl 17) ∧ j = 5) → tI s' b j = tI s b j) ∧ ∀ b, s.1 b ≠ some (.inl 13) → b ≠ L 33 → b ≠ L 34 → s'.2.2.1 b = s.2.2.1 b
theorem qt_r (L : Nat → Nat) (W : Nat → Prop) (s : tM) : qt L W s s := ⟨rfl, rfl, fun _ _ _ _ _ => rfl, fun _ _ _ _ => rfl⟩
theorem qt_t {L : Nat → Nat} {W : Nat → Prop} {s s' s2 : tM} (h : qt L W s s') (h2 : qt L W s' s2) : qt L W s s2 := ⟨h2.1.trans h.1, h2.2.1.trans h.2.1, fun b j a1 a2 a3 => (h2.2.2.1 b j a1 a2 (by rw [h.1]; exact a3)).trans (h.2.2.1 b j a1 a2 a3), fun b a1 a2 a3 => (h2.2.2.2 b (by rw [h.1]; exact a1) a2 a3).trans (h.2.2.2 b a1 a2 a3)⟩
theorem qt_a {L : Nat → Nat} {W : Nat → Prop} {s s' : tM} (h : aS L s s') : qt L W s s' := ⟨h.1, h.2.1, fun b j _ a2 _ => h.2.2.1 b j a2, fun b a1 a2 _ => h.2.2.2 b a1 a2⟩
theorem qt_7 {L : Nat → Nat} {W : Nat → Prop} {s : tM} {v : Int32} : qt L W s (tsI s (L 7) 1 v) := ⟨rfl, rfl, fun _ _ a1 _ _ => if_neg a1, fun _ _ _ _ => rfl⟩
theorem qt_5 {L : Nat → Nat} {W : Nat → Prop} {s : tM} {a : Nat} {v : Int32} (ha : W a) (h : tO s 17 a) : qt L W s (tsI s a 5 v) := ⟨rfl, rfl, fun b j _ _ a3 => if_neg fun (z : b = a ∧ j = 5) => a3 ⟨by rw [z.1]; exact ha, by rw [z.1]; exact h.1, z.2⟩, fun _ _ _ _ => rfl⟩
theorem qt_J {L : Nat → Nat} {W : Nat → Prop} {s : tM} {j : Nat} {v : Int64} : qt L W s (tsJ s (L 34) j v) := ⟨rfl, rfl, fun _ _ _ _ _ => rfl, fun b _ _ a3 => funext fun i => if_neg fun z => a3 z.1⟩
/-- the roles whose cells keep what was laid aside -/
def svR (r : Nat) : Prop := shp r ≠ none ∧ (r = 3 ∨ r = 4 ∨ r = 204 ∨ r = 404 ∨ 120 ≤ r ∧ r < 136 ∨ 320 ≤ r ∧ r < 336 ∨ 520 ≤ r ∧ r < 536)
/-- how the system stands while acts are run -/
def IV (N : tP) (s0 : tM) (L0 : Nat → Nat) (m0 : mS) (P W M : Nat → Prop) (q : Nat) (cs : List cO) (s : tM) (L : Nat → Nat) (m : mS) (D : Nat) (lt : Int32) : Prop := RX N s L M (fun a => P a ∨ W a) m ∧ frM P s0 s ∧ isActs (L0 0) s W q cs ∧ (tI s (L0 0) 24 = nI D ∧ tI s (L0 0) 25 = lt) ∧ vrM m0 m ∧ rol L0 L ∧ (∀ r, svR r → s.2.1 (L0 r) = s0.2.1 (L0 r)) ∧ (-3 ≤ lt.toInt ∧ lt.toInt ≤ 24) ∧ (∀ b, W b → ¬ P b) ∧ ∀ j, tR s q j = tR s0 q j
section IVS
variable {N : tP} {s0 s s' : tM} {L0 L L' : Nat → Nat} {P W M O : Nat → Prop} {m0 m m' : mS} {q D : Nat} {cs : List cO} {lt : Int32}
theorem qt_X (hX : RX N s L M (fun a => P a ∨ W a) m) (h : qt L W s s') : RX N s' L M (fun a => P a ∨ W a) m := by
  have hS := hX.S
  refine hX.g2 h.1 h.2.1 (fun r j hr hl => h.2.2.1 _ _ (fun z => ?_) (fun z => ?_) (fun z => hS.n2 hr (Or.inr z.1))) (fun b hb => ⟨by rw [h.1], funext fun j => h.2.2.1 b j (fun z => hS.n1 (r := 7) (by decide) (z.1 ▸ hb)) (fun z => hS.n1 (r := 6) (by decide) (z.1 ▸ hb)) (fun z => hX.2.1.2 b (Or.inr z.1) hb), by rw [h.2.1]⟩)
  · have := hS.2.1 r 7 hr (by decide) z.1
    subst this
    exact lk_7 hl
  · have := hS.2.1 r 6 hr (by decide) z.1
    subst this
    exact lk_6 hl
theorem IV.qt (h : IV N s0 L0 m0 P W M q cs s L m D lt) (hq : qt L W s s') : IV N s0 L0 m0 P W M q cs s' L m D lt := by
  obtain ⟨h1, h2, h3, h4, h5, h6, h7, h8, h9, h10⟩ := h
  have hS := h1.S
  have c6 : L0 0 = L 0 := (h6.lt (by decide)).symm
  have nW : ∀ {r}, shp r ≠ none → ¬ W (L r) := fun hr z => hS.n2 hr (Or.inr z)
  have keep : ∀ r, shp r ≠ none → r ≠ 7 → r ≠ 6 → ∀ j, tI s' (L r) j = tI s (L r) j := fun r hr n7 n6 j => hq.2.2.1 _ _ (fun z => hS.ne hr (by decide) n7 z.1) (fun z => hS.ne hr (by decide) n6 z.1) (fun z => nW hr z.1)
  refine ⟨qt_X h1 hq, frM_t h2 ⟨fun b hb => ⟨by rw [hq.1], funext fun j => hq.2.2.1 b j (fun z => hS.n2 (r := 7) (by decide) (Or.inl (z.1 ▸ hb))) (fun z => hS.n2 (r := 6) (by decide) (Or.inl (z.1 ▸ hb))) (fun z => h9 b z.1 hb), by rw [hq.2.1]⟩, fun b hb hn => hq.2.2.2 b hn (fun z => hS.n2 (r := 33) (by decide) (Or.inl (z ▸ hb))) (fun z => hS.n2 (r := 34) (by decide) (Or.inl (z ▸ hb)))⟩, isActs_q hq.1 hq.2.1 (fun b j hb hn => hq.2.2.1 b j (fun z => nW (r := 7) (by decide) (z.1 ▸ hb)) (fun z => nW (r := 6) (by decide) (z.1 ▸ hb)) (fun z => hn z.2)) h3, ?_, h5, h6, fun r hr => ?_, h8, h9, fun j => (show s'.2.2.2 q j = s.2.2.2 q j by rw [hq.2.1]).trans (h10 j)⟩
  · rw [c6, keep 0 (by decide) (by decide) (by decide), keep 0 (by decide) (by decide) (by decide), ← c6]
    exact h4
  · have e : L0 r = L r := (h6.1 r (by have := hr.2; omega) (by have := hr.2; omega) (by have := hr.2; omega)).symm
    refine Eq.trans ?_ (h7 r hr)
    rw [e]
    exact funext fun j => keep r hr.1 (by have := hr.2; omega) (by have := hr.2; omega) j
theorem IV.n (h : IV N s0 L0 m0 P W M q cs s L m D lt) (hr : rol L L') (hX : RX N s' L' M (fun a => P a ∨ W a) m') (hf : frM (fun a => P a ∨ W a) s s') (hn : nF L s s') (hv : vrM m m') : IV N s0 L0 m0 P W M q cs s' L' m' D lt := by
  obtain ⟨h1, h2, h3, h4, h5, h6, h7, h8, h9, h10⟩ := h
  have hS := h1.S
  have c6 : L0 0 = L 0 := (h6.lt (by decide)).symm
  have keep : ∀ r, shp r ≠ none → ¬ nwr r → s'.2.1 (L r) = s.2.1 (L r) := fun r hr hn' => hn _ fun r' hr' z => hn' (by
    have := hS.2.1 r r' hr hr'.1 z
    rw [this]
    exact hr')
  refine ⟨hX, frM_t h2 (frM_s hf fun _ => Or.inl), isActs_fr (mFr_s hf.1 fun _ => Or.inr) (fun _ h => h) h3, ?_, vrM_t h5 hv, rol_t h6 hr, fun r hr' => ?_, h8, h9, fun j => (congrFun (hf.1 q (Or.inr h3.1)).2.2 j).trans (h10 j)⟩
  · unfold tI at h4 ⊢
    rw [c6, keep 0 (by decide) (fun z => by have := z.2; omega), ← c6]
    exact h4
  · have e : L0 r = L r := (h6.1 r (by have := hr'.2; omega) (by have := hr'.2; omega) (by have := hr'.2; omega)).symm
    refine Eq.trans ?_ (h7 r hr')
    rw [e]
    exact keep r hr'.1 (fun z => by have := z.2; have := hr'.2; omega)
/-- how many were run, and what the latest pass told, written -/
theorem IV.w (h : IV N s0 L0 m0 P W M q cs s L m D lt) {D' : Nat} {lt' : Int32} (hs : (s' = tsI s (L0 0) 24 (nI D') ∧ lt' = lt) ∨ (s' = tsI s (L0 0) 25 lt' ∧ D' = D)) (hb : -3 ≤ lt'.toInt ∧ lt'.toInt ≤ 24) : IV N s0 L0 m0 P W M q cs s' L m D' lt' := by
  obtain ⟨h1, h2, h3, h4, h5, h6, h7, h8, h9, h10⟩ := h
  have hS := h1.S
  have c6 : L0 0 = L 0 := (h6.lt (by decide)).symm
  have sh : s'.1 = s.1 ∧ s'.2.2.2 = s.2.2.2 ∧ s'.2.2.1 = s.2.2.1 ∧ ∀ b j, ¬ (b = L 0 ∧ (j = 24 ∨ j = 25)) → tI s' b j = tI s b j := by
    rw [c6] at hs
    rcases hs with ⟨rfl, -⟩ | ⟨rfl, -⟩
    · exact ⟨rfl, rfl, rfl, fun b j hn => if_neg fun z => hn ⟨z.1, Or.inl z.2⟩⟩
    · exact ⟨rfl, rfl, rfl, fun b j hn => if_neg fun z => hn ⟨z.1, Or.inr z.2⟩⟩
  obtain ⟨s1, s2, s3, s4⟩ := sh
  have mf : ∀ {X : Nat → Prop}, (∀ b, X b → b ≠ L 0) → mFr X s s' := fun hX b hb => ⟨by rw [s1], funext fun j => s4 b j fun z => hX b hb z.1, by rw [s2]⟩
  have nP' : ∀ b, P b → b ≠ L 0 := fun b hb z => hS.n2 (r := 0) (by decide) (Or.inl (z ▸ hb))
  have nW' : ∀ b, W b → b ≠ L 0 := fun b hb z => hS.n2 (r := 0) (by decide) (Or.inr (z ▸ hb))
  have nM' : ∀ b, M b → b ≠ L 0 := fun b hb z => hS.n1 (r := 0) (by decide) (z ▸ hb)
  refine ⟨h1.g2 s1 s2 (fun r j hr hl => s4 _ _ fun z => ?_) (mf nM'), frM_t h2 ⟨mf nP', fun b _ _ => by rw [s3]⟩, isActs_fr (mf nW') (fun _ h => h) h3, ?_, h5, h6, fun r hr => ?_, hb, h9, fun j => (show s'.2.2.2 q j = s.2.2.2 q j by rw [s2]).trans (h10 j)⟩
  · have := hS.2.1 r 0 hr (by decide) z.1
    subst this
    rcases z.2 with rfl | rfl
    · exact lk_0.1 hl
    · exact lk_0.2 hl
  · rcases hs with ⟨rfl, rfl⟩ | ⟨rfl, rfl⟩
    · exact ⟨if_pos ⟨rfl, rfl⟩, (if_neg fun z => absurd z.2 (by decide)).trans h4.2⟩
    · exact ⟨(if_neg fun z => absurd z.2 (by decide)).trans h4.1, if_pos ⟨rfl, rfl⟩⟩
  · refine Eq.trans ?_ (h7 r hr)
    have e : L0 r = L r := (h6.1 r (by have := hr.2; omega) (by have := hr.2; omega) (by have := hr.2; omega)).symm
    rw [e]
    exact funext fun j => s4 _ _ fun z => hS.ne hr.1 (r' := 0) (by decide) (by have := hr.2; omega) z.1
theorem tRq {L' : Nat → Nat} {m' : mS} {D' : Nat} {lt' : Int32} (h' : IV N s0 L0 m0 P W M q cs s' L' m' D' lt') (h : IV N s0 L0 m0 P W M q cs s L m D lt) {k : Nat} (_ : k < cs.length) : tR s' q k = tR s q k := (h'.2.2.2.2.2.2.2.2.2 k).trans (h.2.2.2.2.2.2.2.2.2 k).symm
end IVS
section SY
variable {N : tP} {s s' : tM} {L : Nat → Nat} {M O P W : Nat → Prop} {m : mS} {x c q a : Nat} {e : Nat → Int64} {kp : Nat → Int32} {dn lt br al : Int32}
/-- the five numbers, laid -/
def nums (s : tM) (L : Nat → Nat) (kp : Nat → Int32) (q : Nat) (dn lt br al : Int32) : Prop := ∀ w, w < 5 → tJ s (L 34) w = oE kp q dn lt br al (17 + w)
theorem envO (hX : RX N s L M O m) (hq : m.2.1 2 41 = nI q) (hq2 : q ≤ 12) (hn : nums s L (m.2.1 2) q dn lt br al) : envA s (L 0) (L 7) true (oE (m.2.1 2) q dn lt br al) := by
  have hS := hX.S
  have t7 := hS.t (r := 7) (j := 0) (q := 34) (by decide)
  refine ⟨hS.o (r := 7) rfl, by rw [t7]; exact hS.a (r := 34) rfl, fun w _ h5 => ?_, fun _ b k bb K hk ob hb er ek => ?_⟩
  · rw [t7]
    exact (hn w (h5 rfl)).symm
  · have S' : RS (bk s (L 7) bb) L (uM M O) := hS.i rfl rfl
    have o' : tO (bk s (L 7) bb) 11 b := ob
    have r' : tR (bk s (L 7) bb) b 2 = L 0 := er
    have i' : ∀ j, tI (bk s (L 7) bb) b j = tI s b j := fun j => bk_o bb j hb
    have hmany : tI (bk s (L 7) bb) (L 40) 4 = nI q := (bk_o bb 4 (hS.ne (r := 40) (r' := 7) (by decide) (by decide) (by decide))).trans (hX.many.trans hq)
    have hv := oE_h (kp := m.2.1 2) (q := q) (dn := dn) (lt := lt) (br := br) (al := al) hk
    have b44 := S'.2.2.1.2.1 44 (Or.inr (Or.inr (Or.inr (Or.inl rfl))))
    have a44 : tR (bk s (L 7) bb) (L 44) 1 = L 444 := b44.2
    have a44' : tR (bk s (L 7) bb) (L 44) 0 = L 244 := b44.1
    have core : (tI s b 0 = 5 → K (oE (m.2.1 2) q dn lt br al (100 + k)) (bk s (L 7) bb)) → (¬ tI s b 0 = 5 → K (oE (m.2.1 2) q dn lt br al (200 + k)) (bk s (L 7) bb)) → v_X13_of b (L 7) (bk s (L 7) bb) K := fun h5 h6 => by
      unfold v_X13_of
      rw [r', i', ek]
      refine ⟨o', S'.o (r := 0) rfl, v_isNoteS S' hmany hq2 ?_⟩
      by_cases ck : k < q
      · have hb : isNI q (nI k) = true := by
          unfold isNI
          rw [nI_toInt (by omega), Bool.and_eq_true, decide_eq_true_eq, decide_eq_true_eq]
          omega
        rw [hb]
        refine ⟨fun _ => ⟨o', fun n5 => ?_, fun y5 => ?_⟩, fun z => absurd z (by decide)⟩
        · rw [i'] at n5
          rw [r']
          refine ⟨S'.o (r := 0) rfl, v_booksS S' ?_⟩
          rw [a44', i', ek, nI_clamp (by omega)]
          refine ⟨S'.o (r := 44) rfl, o', ⟨12, S'.a (r := 244) rfl, vpk hk (by decide)⟩, ?_⟩
          have := h6 n5
          rw [hv.2, if_pos ck, ← hX.u hk] at this
          rw [bk_o bb k (hS.ne (r := 244) (r' := 7) (by decide) (by decide) (by decide))]
          exact this
        · rw [i'] at y5
          rw [r']
          refine ⟨S'.o (r := 0) rfl, v_booksS S' ?_⟩
          rw [a44, i', ek, nI_clamp (by omega)]
          refine ⟨S'.o (r := 44) rfl, o', ⟨12, S'.a (r := 444) rfl, vpk hk (by decide)⟩, ?_⟩
          have := h5 y5
          rw [hv.1, if_pos ck, ← hX.h hk] at this
          rw [bk_o bb k (hS.ne (r := 444) (r' := 7) (by decide) (by decide) (by decide))]
          exact this
      · have hb : isNI q (nI k) = false := by
          unfold isNI
          rw [nI_toInt (by omega), Bool.and_eq_false_iff, decide_eq_false_iff_not, decide_eq_false_iff_not]
          omega
        rw [hb]
        refine ⟨fun z => absurd rfl z, fun _ => ?_⟩
        by_cases y5 : tI s b 0 = 5
        · have := h5 y5
          rw [hv.1, if_neg ck] at this
          exact this
        · have := h6 y5
          rw [hv.2, if_neg ck] at this
          exact this
    exact ⟨fun y5 hK => core (fun _ => hK) (fun z => absurd y5 z), fun y6 hK => core (fun z => absurd (z.symm.trans y6) (by decide)) (fun _ => hK)⟩
theorem v_reckS (hN2 : 120 ≤ N.2.1) (hE : envA s x c true e) (ho : tO s 17 a) (h6 : tR s a 6 = x) (hx0 : tO s 0 x) (h7 : tR s x 7 = c) (h5 : tI s a 5 = 0) {t : Nat} {D : dS} (ht : isSum s M true x 60 t D) {Kr : Int32 → tM → Prop} (h1 : ∀ v, D e = some v → Kr v.toInt32 (tsI (bk s c 0) a 5 0)) (h2 : D e = none → Kr (-1) (tsI (bk s c 1) a 5 1)) : v_X20_reckoned N a t s Kr := by
  have hc : tO s 4 c := hE.1
  have nac : a ≠ c := tO_ne ho hc (by decide)
  unfold v_X20_reckoned
  rw [h6, h7]
  refine ⟨ho, fun z => absurd h5 z, fun _ => ⟨fun _ => ⟨hx0, hc, fun s1 e1 => ?_⟩, fun z => absurd z (isSum_nz ht)⟩⟩
  subst e1
  have f6 : ∀ b, tR (bk s c b) a 6 = x := fun _ => h6
  have f7 : ∀ b, tR (bk s c b) x 7 = c := fun _ => h7
  rw [f6, f7]
  refine ⟨hx0, v_sumS hE 60 t D ht N.2.1 (by omega) _ (fun v hv => ?_) (fun hn => ?_)⟩
  · rw [f6, f7, bk_at]
    refine ⟨ho, hx0, hc, xB0, fun s2 e2 => ?_⟩
    rw [e2]
    have : tI (tsI (bk s c 0) a 5 0) a 5 = 0 := if_pos ⟨rfl, rfl⟩
    exact ⟨fun _ => h1 v hv, fun z => absurd this z⟩
  · rw [f6, f7, bk_at]
    refine ⟨ho, hx0, hc, xB1, fun s2 e2 => ?_⟩
    rw [e2]
    have : tI (tsI (bk s c 1) a 5 1) a 5 = 1 := if_pos ⟨rfl, rfl⟩
    rw [this]
    exact ⟨fun z => absurd z (by decide), fun _ => h2 hn⟩
theorem v_reck1 (ho : tO s 17 a) (h5 : ¬ tI s a 5 = 0) {t : Nat} {Kr : Int32 → tM → Prop} (h : Kr (-1) s) : v_X20_reckoned N a t s Kr := by
  unfold v_X20_reckoned
  exact ⟨ho, fun _ => h, fun z => absurd z h5⟩
theorem v_reck0 (ho : tO s 17 a) (h5 : tI s a 5 = 0) {Kr : Int32 → tM → Prop} (h : Kr (-1) s) : v_X20_reckoned N a 0 s Kr := by
  unfold v_X20_reckoned
  exact ⟨ho, fun z => absurd h5 z, fun _ => ⟨fun z => absurd rfl z, fun _ => h⟩⟩
/-- the sums reckoned, then the hand -/
theorem v_doesS (hN2 : 120 ≤ N.2.1) (hX : RX N s L M (fun a => P a ∨ W a) m) (hq : m.2.1 2 41 = nI q) (hq2 : q ≤ 12) (hn : nums s L (m.2.1 2) q dn lt br al) {c : cO} (hA : isAct (L 0) s W a c) (h5 : tI s a 5 = 0) {Kr : Int32 → tM → Prop} (hoff : ∀ D, c.2.1 = some D → (D.1 (oE (m.2.1 2) q dn lt br al) = none ∨ D.2 (oE (m.2.1 2) q dn lt br al) = none) → ∀ s', qt L W s s' → Kr (-3) s') (hon : ∀ A B s', qt L W s s' → (∀ D, c.2.1 = some D → ∃ v w, D.1 (oE (m.2.1 2) q dn lt br al) = some v ∧ D.2 (oE (m.2.1 2) q dn lt br al) = some w ∧ A = v.toInt32 ∧ B = w.toInt32) → (c.1 = 22 → v_X0_setNow (L 0) A B s' Kr) ∧ (c.1 = 23 → v_X0_shiftNow (L 0) A B s' Kr) ∧ (c.1 = 24 → v_X0_swapNow N (L 0) s' Kr) ∧ (c.1 = 25 → v_X0_passNow N (L 0) s' (fun r s2 => tO s2 17 a ∧ ((0 ≤ r → (tO s2 0 (tR s2 a 6) ∧ ∀ s3 : tM, s3 = tsI s2 (tR s2 a 6) 25 r → Kr r s3)) ∧ (¬ 0 ≤ r → (tO s2 0 (tR s2 a 6) ∧ ∀ s3 : tM, s3 = tsI s2 (tR s2 a 6) 25 (tI s2 (tR s2 a 6) 25) → Kr r s3)))))) : v_X20_does N a s Kr := by
  obtain ⟨b1, b2, ⟨b3, b3'⟩, b4, b5, b6, b7, b8, b9, b10, b11, b12⟩ := hA
  have hS := hX.S
  have t7 := hS.t (r := 0) (j := 7) (q := 7) (by decide)
  have E := envO hX hq hq2 hn
  have n07 : a ≠ L 7 := fun z => hS.n2 (r := 7) (by decide) (Or.inr (z ▸ b1))
  unfold v_X20_does
  refine ⟨b2, ?_⟩
  -- behind the sums
  have fin : ∀ A B s1, qt L W s s1 → tI s1 a 5 = 0 → (∀ D, c.2.1 = some D → ∃ v w, D.1 (oE (m.2.1 2) q dn lt br al) = some v ∧ D.2 (oE (m.2.1 2) q dn lt br al) = some w ∧ A = v.toInt32 ∧ B = w.toInt32) → tO s1 17 a ∧ ((tI s1 a 5 = 0 → ((¬ tI s1 a 0 = 0 → ((¬ tI s1 a 0 = 1 → ((¬ tI s1 a 0 = 2 → (tO s1 0 (tR s1 a 6) ∧ (v_X0_passNow N (tR s1 a 6) s1 (fun x112 s113 => (tO s113 17 a ∧ ((0 ≤ x112 → (tO s113 0 (tR s113 a 6) ∧ (∀ s118 : tM, s118 = tsI s113 (tR s113 a 6) 25 x112 → (Kr x112 s118)))) ∧ (¬ 0 ≤ x112 → (tO s113 0 (tR s113 a 6) ∧ (∀ s121 : tM, s121 = tsI s113 (tR s113 a 6) 25 (tI s113 (tR s113 a 6) 25) → (Kr x112 s121)))))))))) ∧ (tI s1 a 0 = 2 → (tO s1 0 (tR s1 a 6) ∧ (v_X0_swapNow N (tR s1 a 6) s1 (fun x123 s124 => (Kr x123 s124))))))) ∧ (tI s1 a 0 = 1 → (tO s1 0 (tR s1 a 6) ∧ (v_X0_shiftNow (tR s1 a 6) A B s1 (fun x126 s127 => (Kr x126 s127))))))) ∧ (tI s1 a 0 = 0 → (tO s1 0 (tR s1 a 6) ∧ (v_X0_setNow (tR s1 a 6) A B s1 (fun x129 s130 => (Kr x129 s130))))))) ∧ (¬ tI s1 a 5 = 0 → (Kr (-3) s1))) := fun A B s1 hq1 h51 hv => by
    obtain ⟨g1, g2, g3, g4⟩ := hon A B s1 hq1 hv
    have r6 : tR s1 a 6 = L 0 := (show s1.2.2.2 a 6 = s.2.2.2 a 6 by rw [hq1.2.1]).trans b3
    have o0 : tO s1 0 (L 0) := ⟨by rw [hq1.1]; exact (hS.o (r := 0) rfl).1, (hS.o (r := 0) rfl).2⟩
    have i0 : tI s1 a 0 = c.1 - 22 := (hq1.2.2.1 a 0 (fun z => absurd z.2 (by decide)) (fun z => absurd z.2 (by decide)) (fun z => absurd z.2.2 (by decide))).trans b5
    rw [i0, r6]
    refine ⟨⟨by rw [hq1.1]; exact b2.1, b2.2⟩, fun _ => ?_, fun z => absurd h51 z⟩
    rcases b4 with h | h | h | h
    · rw [h]
      exact ⟨fun z => absurd (by decide) z, fun _ => ⟨o0, g1 h⟩⟩
    · rw [h]
      exact ⟨fun _ => ⟨fun z => absurd (by decide) z, fun _ => ⟨o0, g2 h⟩⟩, fun z => absurd z (by decide)⟩
    · rw [h]
      exact ⟨fun _ => ⟨fun _ => ⟨fun z => absurd (by decide) z, fun _ => ⟨o0, g3 h⟩⟩, fun z => absurd z (by decide)⟩, fun z => absurd z (by decide)⟩
    · rw [h]
      exact ⟨fun _ => ⟨fun _ => ⟨fun _ => ⟨o0, g4 h⟩, fun z => absurd z (by decide)⟩, fun z => absurd z (by decide)⟩, fun z => absurd z (by decide)⟩
  cases hc : c.2.1 with
  | none =>
    obtain ⟨z1, z2⟩ := b3' hc
    rw [z1]
    refine v_reck0 b2 h5 ⟨b2, ?_⟩
    rw [z2]
    exact v_reck0 b2 h5 (fin (-1) (-1) s (qt_r L W s) h5 (fun D hD => by rw [hc] at hD; cases hD))
  | some D =>
    obtain ⟨d1, d2⟩ := b8 D hc
    have Q1 : ∀ v w, qt L W s (tsI (bk s (L 7) v) a 5 w) := fun v w => qt_t qt_7 (qt_5 b1 b2)
    have hfr : ∀ v w, mFr (fun b => W b ∧ s.1 b ≠ some (.inl 17)) s (tsI (bk s (L 7) v) a 5 w) := fun v w b hb => ⟨rfl, funext fun j => (if_neg fun (z : b = a ∧ j = 5) => hb.2 (by rw [z.1]; exact b2.1)).trans (if_neg fun (z : b = L 7 ∧ j = 1) => hS.n2 (r := 7) (by decide) (Or.inr (z.1 ▸ hb.1))), rfl⟩
    refine v_reckS hN2 E b2 b3 (hS.o (r := 0) rfl) t7 h5 d1 (fun v hv => ?_) (fun hv => ?_)
    · have X1 := qt_X hX (Q1 0 0)
      have E1 := envO X1 hq hq2 (dn := dn) (lt := lt) (br := br) (al := al) hn
      have h51 : tI (tsI (bk s (L 7) 0) a 5 0) a 5 = 0 := if_pos ⟨rfl, rfl⟩
      refine ⟨b2, v_reckS (a := a) (t := tR s a 2) hN2 E1 b2 b3 (hS.o (r := 0) rfl) t7 h51 (isSum_fr (hfr 0 0) (fun b hb => hb.1) _ _ _ (isSum_17 _ _ _ d2)) (fun w hw => ?_) (fun hw => ?_)⟩
      · have q2 : qt L W s (tsI (bk (tsI (bk s (L 7) 0) a 5 0) (L 7) 0) a 5 0) := qt_t (Q1 0 0) (qt_t qt_7 (qt_5 b1 b2))
        exact fin v.toInt32 w.toInt32 _ q2 (if_pos ⟨rfl, rfl⟩) (fun D' hD' => by
          rw [hc] at hD'
          cases hD'
          exact ⟨v, w, hv, hw, rfl, rfl⟩)
      · have q2 : qt L W s (tsI (bk (tsI (bk s (L 7) 0) a 5 0) (L 7) 1) a 5 1) := qt_t (Q1 0 0) (qt_t qt_7 (qt_5 b1 b2))
        have i5 : tI (tsI (bk (tsI (bk s (L 7) 0) a 5 0) (L 7) 1) a 5 1) a 5 = 1 := if_pos ⟨rfl, rfl⟩
        refine ⟨b2, fun z => absurd z (by rw [i5]; decide), fun _ => hoff D hc (Or.inr hw) _ q2⟩
    · have i5 : tI (tsI (bk s (L 7) 1) a 5 1) a 5 = 1 := if_pos ⟨rfl, rfl⟩
      have n5 : ¬ tI (tsI (bk s (L 7) 1) a 5 1) a 5 = 0 := by
        rw [i5]
        decide
      exact ⟨b2, v_reck1 (s := tsI (bk s (L 7) 1) a 5 1) b2 n5 ⟨b2, fun z => absurd z n5, fun _ => hoff D hc (Or.inl hv) _ (Q1 1 1)⟩⟩
end SY
