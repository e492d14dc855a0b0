set_option maxRecDepth 100000
/-! ===== lists of texts: one added ===== -/
/-- a list ready for one more: its table e -/
def LAd (N : tP) (s : tM) (l e : Nat) (s2 : tM) : Prop := ∃ v : Int32, (s2 = tsI s l 0 v ∧ e = tR s l 1 ∧ tA s 10 10 e) ∨ ∃ q, s.1 q = none ∧ q ≠ 0 ∧ q ≠ N.2.2 200 ∧ e = q ∧ tR s l 1 = N.2.2 200 ∧ s2 = tsR (tNew (tsI s l 0 v) q (.inr (10, 10))) l 1 q
section LA
variable {N : tP} {s : tM}
theorem v_addT {l tx told : Nat} (h0 : s.1 (N.2.2 200) = none) (hl : tO s 20 l) (h2 : tI s l 2 = nI told) (ht : told < 6) (hT : tabOK N s (tR s l 1) told) (hx : tO s 5 tx) {k m : Nat} (hk : 1 ≤ k) (hm : 10 ≤ m) {Kr : Int32 → tM → Prop} (hK : ∀ s2 e, LAd N s l e s2 → Kr 1 (tsI (tsR s2 e told tx) l 2 (nI (told + 1)))) : v_J2_add N l tx k m s Kr := by
  unfold v_J2_add v_J2_add_2
  refine ⟨hl, fun s1 e1 => ⟨k, m, Nat.le_refl _, Nat.le_refl _, ?_⟩⟩
  have r1 : tR s1 l 1 = tR s l 1 := by rw [e1]; rfl
  have i2 : tI s1 l 2 = nI told := by
    rw [e1]
    exact (if_neg fun z => absurd z.2 (by decide)).trans h2
  have c1 : s1.1 = s.1 := by rw [e1]; rfl
  have l1 : tO s1 20 l := by rw [e1]; exact hl
  rw [r1, i2]
  rcases hT with ⟨t0, te⟩ | ht2
  · have hlen : tLen s1 (tR s l 1) = 0 := by rw [te]; exact tLen_N (by rw [c1]; exact h0)
    have tle : tLE N s1 (tR s l 1) := Or.inr ⟨te, hlen⟩
    rw [hlen, t0]
    refine ⟨tle, fun z => absurd rfl z, fun _ => ⟨1, 10, hk, hm, l1, ?_⟩⟩
    unfold v_J2_grow v_J2_grow_2
    rw [r1, i2, hlen, t0]
    refine ⟨l1, 1, 10, Nat.le_refl _, Nat.le_refl _, l1, tle, fun x103 ex => ⟨fun z => ?_, fun _ => ⟨fun _ x106 ex6 => ?_, fun z => absurd te z⟩⟩⟩
    · rw [ex] at z
      exact absurd z (by decide)
    · have e10 : x106 = 10 := ex6.trans (by decide)
      rw [e10]
      refine ⟨by decide, by decide, Nat.le_refl _, by decide, fun q hq hq0 hq2 s2 e2 => ?_⟩
      have nlq : l ≠ q := fun z => by
        rw [← z, l1.1] at hq
        cases hq
      have l2 : tO s2 20 l := by
        rw [e2]
        exact ⟨(if_neg nlq).trans l1.1, l1.2⟩
      refine ⟨l2, fun s3 e3 => ?_⟩
      have e3' : s3 = tsR (tNew s1 q (.inr (10, 10))) l 1 q := by
        rw [e3, e2]
        rfl
      have l3 : tO s3 20 l := by rw [e3]; exact l2
      have a3 : tA s3 10 10 q := by
        rw [e3']
        exact ⟨if_pos rfl, hq0⟩
      have x3 : tO s3 5 tx := by
        have : tx ≠ q := fun z => by
          rw [← z, c1, hx.1] at hq
          cases hq
        rw [e3']
        exact ⟨(if_neg this).trans (by rw [c1]; exact hx.1), hx.2⟩
      unfold v_J2_add_2_11
      refine ⟨⟨10, a3, vpk (k := 0) (by decide) (by decide)⟩, x3, fun s4 e4 => ⟨by rw [e4]; exact l3, fun s5 e5 => ?_⟩⟩
      have hLA : LAd N s l q s3 := ⟨(tI s l 0) + 1, Or.inr ⟨q, by rw [← c1]; exact hq, hq0, hq2, rfl, te, by rw [e3', e1]⟩⟩
      have := hK s3 q hLA
      rw [t0] at this
      rw [e5, e4]
      exact this
  · have hlen : tLen s1 (tR s l 1) = 10 := by
      unfold tLen
      rw [c1, ht2.1]
    have tle : tLE N s1 (tR s l 1) := Or.inl ⟨10, by unfold tA; rw [c1]; exact ht2⟩
    rw [hlen]
    refine ⟨tle, fun _ => ?_, fun z => absurd z ?_⟩
    · unfold v_J2_add_2_11
      rw [nI_clamp (by omega)]
      refine ⟨⟨10, by unfold tA; rw [c1]; exact ht2, vpk (by omega) (by decide)⟩, by rw [e1]; exact hx, fun s4 e4 => ⟨by rw [e4]; exact l1, fun s5 e5 => ?_⟩⟩
      have := hK s1 (tR s l 1) ⟨_, Or.inl ⟨e1, rfl, ht2⟩⟩
      rw [e5, e4, nI_1]
      exact this
    · show ¬ nI told = nI 10
      rw [nI_eq (by omega) (by decide)]
      omega
end LA
