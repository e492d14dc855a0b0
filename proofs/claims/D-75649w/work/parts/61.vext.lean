set_option maxRecDepth 100000
/-! ===== new cells beside ===== -/
def extN (N : tP) (s s' : tM) : Prop := ∀ a, (s.1 a ≠ none ∨ a = N.2.2 200) → s'.1 a = s.1 a ∧ s'.2.1 a = s.2.1 a ∧ s'.2.2.1 a = s.2.2.1 a ∧ s'.2.2.2 a = s.2.2.2 a
section EX
variable {N : tP} {s0 s s' s2 : tM} {L : Nat → Nat} {M O : Nat → Prop} {m : mS} {q : Nat}
theorem ext_r (N : tP) (s : tM) : extN N s s := fun _ _ => ⟨rfl, rfl, rfl, rfl⟩
theorem ext_t (h : extN N s s') (h2 : extN N s' s2) : extN N s s2 := fun a ha => by
  obtain ⟨a1, a2, a3, a4⟩ := h a ha
  obtain ⟨b1, b2, b3, b4⟩ := h2 a (ha.imp (fun z => by rw [a1]; exact z) id)
  exact ⟨b1.trans a1, b2.trans a2, b3.trans a3, b4.trans a4⟩
theorem ext_n {c : Nat ⊕ (Nat × Nat)} (h : extN N s0 s) (hq : s0.1 q = none) (h2 : ¬ q = N.2.2 200) : extN N s0 (tNew s q c) := fun a ha => by
  have hn : a ≠ q := fun z => by
    rcases ha with ha | ha
    · rw [z] at ha
      exact ha hq
    · exact h2 (z.symm.trans ha)
  obtain ⟨a1, a2, a3, a4⟩ := h a ha
  exact ⟨(if_neg hn).trans a1, (funext fun i => if_neg hn : (tNew s q c).2.1 a = s.2.1 a).trans a2, (funext fun i => if_neg hn : (tNew s q c).2.2.1 a = s.2.2.1 a).trans a3, (funext fun i => if_neg hn : (tNew s q c).2.2.2 a = s.2.2.2 a).trans a4⟩
theorem ext_I {j : Nat} {v : Int32} (h : extN N s0 s) (hq : s0.1 q = none) (h2 : ¬ q = N.2.2 200) : extN N s0 (tsI s q j v) := fun a ha => by
  have hn : a ≠ q := fun z => by
    rcases ha with ha | ha
    · rw [z] at ha
      exact ha hq
    · exact h2 (z.symm.trans ha)
  obtain ⟨a1, a2, a3, a4⟩ := h a ha
  exact ⟨a1, (funext fun i => if_neg fun z => hn z.1 : (tsI s q j v).2.1 a = s.2.1 a).trans a2, a3, a4⟩
theorem ext_R {j v : Nat} (h : extN N s0 s) (hq : s0.1 q = none) (h2 : ¬ q = N.2.2 200) : extN N s0 (tsR s q j v) := fun a ha => by
  have hn : a ≠ q := fun z => by
    rcases ha with ha | ha
    · rw [z] at ha
      exact ha hq
    · exact h2 (z.symm.trans ha)
  obtain ⟨a1, a2, a3, a4⟩ := h a ha
  exact ⟨a1, a2, a3, (funext fun i => if_neg fun z => hn z.1 : (tsR s q j v).2.2.2 a = s.2.2.2 a).trans a4⟩
theorem ext_cI {b sp dp n : Nat} (h : extN N s0 s) (hq : s0.1 q = none) (h2 : ¬ q = N.2.2 200) : extN N s0 (tCpI s b q sp dp n) := fun a ha => by
  have hn : a ≠ q := fun z => by
    rcases ha with ha | ha
    · rw [z] at ha
      exact ha hq
    · exact h2 (z.symm.trans ha)
  obtain ⟨a1, a2, a3, a4⟩ := h a ha
  exact ⟨a1, (funext fun i => if_neg hn : (tCpI s b q sp dp n).2.1 a = s.2.1 a).trans a2, a3, a4⟩
theorem RS.al (h : RS s L M) {r : Nat} (e : shp r ≠ none) : s.1 (L r) ≠ none := by
  cases hs : shp r with
  | none => exact absurd hs e
  | some c =>
    rw [(h.1 r c hs).1]
    exact fun z => by cases z
theorem RX.ex (hX : RX N s L M O m) (h : extN N s s') : RX N s' L M O m := by
  obtain ⟨x1, x2, x3, x4, x5, ⟨x6, x7⟩, x8, x9⟩ := hX
  have hl : ∀ r, shp r ≠ none → s'.1 (L r) = s.1 (L r) ∧ s'.2.1 (L r) = s.2.1 (L r) ∧ s'.2.2.1 (L r) = s.2.2.1 (L r) ∧ s'.2.2.2 (L r) = s.2.2.2 (L r) := fun r hr => h _ (Or.inl (x1.al hr))
  have R : ∀ r, shp r ≠ none → ∀ j, tR s' (L r) j = tR s (L r) j := fun r hr j => congrFun (hl r hr).2.2.2 j
  have I : ∀ r, shp r ≠ none → ∀ j, tI s' (L r) j = tI s (L r) j := fun r hr j => congrFun (hl r hr).2.1 j
  have hu : ∀ a, uM M O a → s'.1 a = s.1 a ∧ s'.2.1 a = s.2.1 a ∧ s'.2.2.2 a = s.2.2.2 a := fun a ha => by
    obtain ⟨b1, b2, b3, b4⟩ := h a (Or.inl (x1.2.2.2 a ha))
    exact ⟨b1, b2, b4⟩
  have hMf : mFr M s s' := fun a ha => hu a (Or.inl ha)
  have A : ∀ n t a, tA s t n a → tA s' t n a := fun n t a ha => ⟨by
    rw [(h a (Or.inl (by rw [ha.1]; exact fun z => by cases z))).1]
    exact ha.1, ha.2⟩
  have hN : s'.1 (N.2.2 200) = s.1 (N.2.2 200) ∧ s'.2.2.2 (N.2.2 200) = s.2.2.2 (N.2.2 200) := ⟨(h _ (Or.inr rfl)).1, (h _ (Or.inr rfl)).2.2.2⟩
  have hex : ∀ t, tR s' (tR s (L 41) 1) t = tR s (tR s (L 41) 1) t := fun t => by
    obtain ⟨told, -, -, -, t4, -⟩ := x7
    rcases t4 with ⟨-, t4⟩ | t4
    · rw [t4]
      exact congrFun hN.2 t
    · exact congrFun (h _ (Or.inl (by rw [t4.1]; exact fun z => by cases z))).2.2.2 t
  have hbk : ∀ b, isBk b → shp b ≠ none ∧ shp (200 + b) ≠ none ∧ shp (400 + b) ≠ none := fun b hb => ⟨shp_some (shp_bk hb).1, shp_some (shp_bk hb).2.1, shp_some (shp_bk hb).2.2⟩
  obtain ⟨k1, k2, ⟨r1, r2, r3, r4, r5, r6, r7⟩, k4⟩ := x1
  refine ⟨⟨fun r c hr => ?_, k2, ⟨fun p hp => ?_, fun b hb => ?_, fun k hk => ?_, fun i hi => ?_, fun n hn => ?_, fun n hn => ?_, fun n b hn hb => ?_⟩, fun a ha => ?_⟩, ⟨?_, x2.2⟩, ?_, fun r j p i hr => ?_, ?_, ⟨?_, ?_⟩, fun k hk => ?_, x9⟩
  · rw [(hl r (shp_some hr)).1]
    exact k1 r c hr
  · have hp2 : ∀ p ∈ rfT, shp p.1 ≠ none := by decide
    rw [R _ (hp2 p hp)]
    exact r1 p hp
  · rw [R _ (hbk b hb).1, R _ (hbk b hb).1]
    exact r2 b hb
  · rw [R 31 (by decide), R 32 (by decide)]
    exact r3 k hk
  · rw [R 43 (by decide)]
    exact r4 i hi
  · rw [R 16 (by decide), R 17 (by decide), R 18 (by decide)]
    exact r5 n hn
  · rw [R 19 (by decide), R 20 (by decide), R 21 (by decide), R 22 (by decide)]
    exact r6 n hn
  · rw [R _ (shp_some (shp_600 hn).1), R _ (shp_some (shp_600 hn).2.1), R _ (shp_some (shp_600 hn).2.2)]
    exact r7 n b hn hb
  · rw [(hu a ha).1]
    exact k4 a ha
  · rw [hN.1]
    exact x2.1
  · rw [R 0 (by decide)]
    exact isText_fr hMf (fun _ z => z) x3
  · rw [I r (loc_u hr)]
    exact x4 r j p i hr
  · obtain ⟨n, n1, n2, n3⟩ := x5
    refine ⟨n, n1, n2, fun k hk => ?_⟩
    obtain ⟨k1, k2, k3, k4, k5⟩ := n3 k hk
    obtain ⟨u1, u3, u5⟩ := shp100 (k := k) (by omega)
    rw [I _ u1, I _ u1]
    refine ⟨fun j hj => ?_, k2, k3, k4, k5⟩
    rw [I _ u3, I _ u5]
    exact k1 j hj
  · rw [R 41 (by decide)]
    exact x6
  · exact lstR_fr hMf (fun _ z => z) (I 41 (by decide)) (R 41 (by decide) 1) A hex x7
  · rw [R 1 (by decide)]
    exact (x8 k hk).imp id fun z => ⟨z.1, z.2.1, deskM_fr hMf (fun _ z => z) A (fun t => congrFun hN.2 t) z.2.2.1, z.2.2.2⟩
theorem RX.exO (hX : RX N s L M O m) (h : extN N s s') : frM O s s' := ⟨fun a ha => by
  obtain ⟨b1, b2, b3, b4⟩ := h a (Or.inl (hX.1.2.2.2 a (Or.inr ha)))
  exact ⟨b1, b2, b4⟩, fun a ha _ => (h a (Or.inl (hX.1.2.2.2 a (Or.inr ha)))).2.2.1⟩
/-- a new cell is the others' -/
theorem RX.new (hX : RX N s L M O m) (h : extN N s s') (hq : s.1 q = none) (h2 : ¬ q = N.2.2 200) (hq' : s'.1 q ≠ none) : RX N s' L M (fun a => O a ∨ a = q) m := by
  have hX' := hX.ex h
  have ho : ∀ {r : Nat}, shp r ≠ none → s.1 (L r) ≠ none := fun {r} e => hX.1.al e
  have hMq : ¬ M q := fun z => hX.1.2.2.2 q (Or.inl z) hq
  have hex : ¬ tR s' (L 41) 1 = q ∨ tR s' (L 41) 1 = N.2.2 200 := by
    have e : tR s' (L 41) 1 = tR s (L 41) 1 := congrFun (h _ (Or.inl (ho (r := 41) (by decide)))).2.2.2 1
    obtain ⟨told, -, -, -, t4, -⟩ := hX.2.2.2.2.2.1.2
    rw [e]
    rcases t4 with ⟨-, t4⟩ | t4
    · exact Or.inr t4
    · refine Or.inl fun z => ?_
      rw [z] at t4
      rw [t4.1] at hq
      cases hq
  obtain ⟨⟨k1, k2, k3, k4⟩, x2, x3, x4, x5, ⟨x6, x7⟩, x8, x9⟩ := hX'
  refine ⟨⟨fun r c hr => ⟨(k1 r c hr).1, (k1 r c hr).2.1, fun z => ?_⟩, k2, k3, fun a ha => ?_⟩, ⟨x2.1, fun a ha => ?_⟩, x3, x4, x5, ⟨?_, x7⟩, x8, x9⟩
  · rcases z with z | z | z
    · exact (k1 r c hr).2.2 (Or.inl z)
    · exact (k1 r c hr).2.2 (Or.inr z)
    · refine ho (shp_some hr) ?_
      rw [z]
      exact hq
  · rcases ha with z | z | z
    · exact k4 a (Or.inl z)
    · exact k4 a (Or.inr z)
    · rw [z]
      exact hq'
  · rcases ha with z | z
    · exact x2.2 a z
    · rw [z]
      exact hMq
  · rcases hex with z | z
    · refine x6.imp id fun w y => ?_
      rcases y with y | y | y
      · exact w (Or.inl y)
      · exact w (Or.inr y)
      · exact z y
    · exact Or.inl z
theorem RX.sub {O' : Nat → Prop} (hX : RX N s L M O' m) (hs : ∀ a, O a → O' a) : RX N s L M O m := by
  obtain ⟨⟨k1, k2, k3, k4⟩, x2, x3, x4, x5, ⟨x6, x7⟩, x8, x9⟩ := hX
  exact ⟨⟨fun r c hr => ⟨(k1 r c hr).1, (k1 r c hr).2.1, fun z => (k1 r c hr).2.2 (z.imp id (hs _))⟩, k2, k3, fun a ha => k4 a (ha.imp id (hs _))⟩, ⟨x2.1, fun a ha => x2.2 a (hs a ha)⟩, x3, x4, x5, ⟨x6.imp id fun w y => w (y.imp id (hs _)), x7⟩, x8, x9⟩
end EX
