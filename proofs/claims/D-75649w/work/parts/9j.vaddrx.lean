set_option maxRecDepth 100000
/-! ===== a law added to the desk's list ===== -/
theorem shp_10 : ∀ r, shp r ≠ some (.inr (10, 10)) := fun r => by
  have key : ∀ r, r < 56 → shT.getD r none ≠ some (.inr (10, 10)) := by decide
  unfold shp
  by_cases c : r < 56
  · rw [if_pos c]
    exact key r c
  · rw [if_neg c]
    repeat' split
    all_goals (intro z; cases z)
theorem loc_41 {j : Nat} : loc 41 j = none := rfl
section AD
variable {N : tP} {s s2 : tM} {L : Nat → Nat} {M O : Nat → Prop} {m m' : mS}
theorem RX.addT (hX : RX N s L M O m) {e told tx : Nat} {cls : List cL} (ht : told < 6) (h43 : m.2.1 2 43 = nI told) (hA : LAd N s (L 41) e s2) (hx : isText s M tx cls) (hm1 : m'.1 = m.1) (hm2 : ∀ q, q ≠ 2 → m'.2.1 q = m.2.1 q) (hk : ∀ i, i < 45 → i ≠ 43 → m'.2.1 2 i = m.2.1 2 i) (hk3 : m'.2.1 2 43 = nI (told + 1)) (ho : ∀ t cls, t < told → txOK (m.2.1 2) t cls → txOK (m'.2.1 2) t cls) (hn : txOK (m'.2.1 2) told cls) (hv : invM m') {s3 : tM} (e3 : s3 = tsI (tsR s2 e told tx) (L 41) 2 (nI (told + 1))) : RX N s3 L M O m' ∧ frM O s s3 := by
  obtain ⟨x1, x2, x3, x4, x5, ⟨x6, x7⟩, x8, x9⟩ := hX
  obtain ⟨told', y1, y2, y3, y4, y5⟩ := x7
  have et : told' = told := by
    rw [y2] at h43
    exact (nI_eq (by omega) (by omega)).mp h43
  subst et
  have o41 : s.1 (L 41) = some (.inl 20) := (x1.o (r := 41) rfl).1
  obtain ⟨v, hA⟩ := hA
  -- e is apart
  have eu : ¬ uM M O e := by
    rcases hA with ⟨-, h2, h3⟩ | ⟨q, h1, -, -, h2, -⟩
    · rw [h2]
      rcases x6 with z | z
      · exfalso
        rw [h2, z] at h3
        have h31 := h3.1
        rw [x2.1] at h31
        cases h31
      · exact z
    · rw [h2]
      exact fun z => x1.2.2.2 q z h1
  have el : ∀ r, shp r ≠ none → L r ≠ e := fun r hr z => by
    rcases hA with ⟨-, h2, h3⟩ | ⟨q, h1, -, -, h2, -⟩
    · obtain ⟨c, hc⟩ := Option.ne_none_iff_exists'.mp hr
      have := (x1.1 r c hc).1
      rw [z, h3.1] at this
      exact shp_10 r (hc.trans this.symm)
    · exact x1.al hr (by rw [z, h2]; exact h1)
  have eN : e ≠ N.2.2 200 := by
    rcases hA with ⟨-, h2, h3⟩ | ⟨q, -, -, h1, h2, -⟩
    · intro z
      have h31 := h3.1
      rw [z, x2.1] at h31
      cases h31
    · rw [h2]
      exact h1
  have lN : L 41 ≠ N.2.2 200 := fun z => by
    rw [z, x2.1] at o41
    cases o41
  have l41e : L 41 ≠ e := el 41 (by decide)
  have tp : ∀ a, s.1 a ≠ none → s3.1 a = s.1 a := fun a ha => by
    rw [e3]
    rcases hA with ⟨h1, -, -⟩ | ⟨q, h1, -, -, -, -, h2⟩
    · rw [h1]
      rfl
    · rw [h2]
      exact if_neg fun (z : a = q) => ha (z ▸ h1)
  have hF : ∀ a, (s.1 a ≠ none ∨ a = N.2.2 200) → a ≠ L 41 → a ≠ e → s3.1 a = s.1 a ∧ s3.2.1 a = s.2.1 a ∧ s3.2.2.1 a = s.2.2.1 a ∧ s3.2.2.2 a = s.2.2.2 a := fun a ha n1 n2 => by
    rw [e3]
    rcases hA with ⟨h1, -, -⟩ | ⟨q, h1, -, h3, h4, -, h2⟩
    · rw [h1]
      exact ⟨rfl, funext fun j => (if_neg fun z => n1 z.1).trans (if_neg fun z => n1 z.1), rfl, funext fun j => if_neg fun z => n2 z.1⟩
    · have nq : a ≠ q := fun z => n2 (z.trans h4.symm)
      rw [h2]
      refine ⟨if_neg nq, funext fun j => (if_neg fun z => n1 z.1).trans ((if_neg nq).trans (if_neg fun z => n1 z.1)), funext fun j => if_neg nq, funext fun j => (if_neg fun z => n2 z.1).trans ((if_neg fun z => n1 z.1).trans (if_neg nq))⟩
  have r41 : tR s3 (L 41) 1 = e := by
    rw [e3]
    refine (if_neg fun z => l41e z.1).trans ?_
    rcases hA with ⟨h1, h2, -⟩ | ⟨q, -, -, -, h4, -, h2⟩
    · rw [h1, h2]
      rfl
    · rw [h2, h4]
      exact if_pos ⟨rfl, rfl⟩
  have ae : tA s3 10 10 e := by
    rcases hA with ⟨h1, h2, h3⟩ | ⟨q, -, h5, -, h4, -, h2⟩
    · exact ⟨by rw [tp e (by rw [h3.1]; intro z; cases z)]; exact h3.1, h3.2⟩
    · rw [h4]
      refine ⟨?_, h5⟩
      rw [e3, h2]
      exact if_pos rfl
  have etx : tR s3 e told' = tx := by
    rw [e3]
    exact if_pos ⟨rfl, rfl⟩
  have elo : ∀ t, t < told' → tR s3 e t = tR s (tR s (L 41) 1) t := fun t ht2 => by
    rcases hA with ⟨h1, h2, h3⟩ | ⟨q, -, -, -, h4, h5, h2⟩
    · rw [e3]
      refine (if_neg fun z => by omega).trans ?_
      rw [h1, h2]
      rfl
    · exfalso
      rcases y4 with ⟨z, -⟩ | z
      · omega
      · have z1 := z.1
        rw [h5, x2.1] at z1
        cases z1
  have hl : ∀ r, shp r ≠ none → r ≠ 41 → s3.1 (L r) = s.1 (L r) ∧ s3.2.1 (L r) = s.2.1 (L r) ∧ s3.2.2.1 (L r) = s.2.2.1 (L r) ∧ s3.2.2.2 (L r) = s.2.2.2 (L r) := fun r hr h41 => hF _ (Or.inl (x1.al hr)) (fun z => h41 (x1.2.1 _ _ hr (by decide) z)) (el r hr)
  have R : ∀ r, shp r ≠ none → r ≠ 41 → ∀ j, tR s3 (L r) j = tR s (L r) j := fun r hr h41 j => congrFun (hl r hr h41).2.2.2 j
  have I : ∀ r, shp r ≠ none → r ≠ 41 → ∀ j, tI s3 (L r) j = tI s (L r) j := fun r hr h41 j => congrFun (hl r hr h41).2.1 j
  have hu : ∀ a, uM M O a → s3.1 a = s.1 a ∧ s3.2.1 a = s.2.1 a ∧ s3.2.2.1 a = s.2.2.1 a ∧ s3.2.2.2 a = s.2.2.2 a := fun a ha => hF a (Or.inl (x1.2.2.2 a ha)) (fun z => (x1.1 41 _ rfl).2.2 (z ▸ ha)) (fun z => eu (z ▸ ha))
  have hMf : mFr M s s3 := fun a ha => by
    obtain ⟨b1, b2, b3, b4⟩ := hu a (Or.inl ha)
    exact ⟨b1, b2, b4⟩
  have A : ∀ n t a, tA s t n a → tA s3 t n a := fun n t a ha => ⟨by
    rw [tp a (by rw [ha.1]; exact fun z => by cases z)]
    exact ha.1, ha.2⟩
  have hN : s3.1 (N.2.2 200) = s.1 (N.2.2 200) ∧ s3.2.2.2 (N.2.2 200) = s.2.2.2 (N.2.2 200) := ⟨(hF _ (Or.inr rfl) lN.symm eN.symm).1, (hF _ (Or.inr rfl) lN.symm eN.symm).2.2.2⟩
  have hbk : ∀ b, isBk b → (shp b ≠ none ∧ shp (200 + b) ≠ none ∧ shp (400 + b) ≠ none) ∧ b ≠ 41 := fun b hb => ⟨⟨shp_some (shp_bk hb).1, shp_some (shp_bk hb).2.1, shp_some (shp_bk hb).2.2⟩, fun z => by
    subst z
    unfold isBk at hb
    omega⟩
  obtain ⟨k1, k2, ⟨r1, r2, r3, r4, r5, r6, r7⟩, k4⟩ := x1
  have im : ∀ k, imK m' k = imK m k := fun k => by
    unfold imK
    rw [hm2 3 (by decide)]
  refine ⟨⟨⟨fun r c hr => ?_, k2, ⟨fun p hp => ?_, fun b hb => ?_, fun k hk => ?_, fun i hi => ?_, fun n hn => ?_, fun n hn => ?_, fun n b hn hb => ?_⟩, fun a ha => ?_⟩, ⟨?_, x2.2⟩, ?_, fun r j p i hr => ?_, ?_, ⟨Or.inr ?_, told' + 1, by omega, hk3, ?_, Or.inr ?_, fun t ht2 => ?_⟩, fun k hk => ?_, hv⟩, ⟨fun a ha => ?_, fun a ha _ => (hu a (Or.inr ha)).2.2.1⟩⟩
  · rw [tp _ (by rw [(k1 r c hr).1]; intro z; cases z)]
    exact k1 r c hr
  · have hp2 : ∀ p ∈ rfT, shp p.1 ≠ none ∧ p.1 ≠ 41 := by decide
    rw [R _ (hp2 p hp).1 (hp2 p hp).2]
    exact r1 p hp
  · rw [R _ (hbk b hb).1.1 (hbk b hb).2, R _ (hbk b hb).1.1 (hbk b hb).2]
    exact r2 b hb
  · rw [R 31 (by decide) (by decide), R 32 (by decide) (by decide)]
    exact r3 k hk
  · rw [R 43 (by decide) (by decide)]
    exact r4 i hi
  · rw [R 16 (by decide) (by decide), R 17 (by decide) (by decide), R 18 (by decide) (by decide)]
    exact r5 n hn
  · rw [R 19 (by decide) (by decide), R 20 (by decide) (by decide), R 21 (by decide) (by decide), R 22 (by decide) (by decide)]
    exact r6 n hn
  · rw [R _ (shp_some (shp_600 hn).1) (by omega), R _ (shp_some (shp_600 hn).2.1) (by omega), R _ (shp_some (shp_600 hn).2.2) (by omega)]
    exact r7 n b hn hb
  · rw [(hu a ha).1]
    exact k4 a ha
  · rw [hN.1]
    exact x2.1
  · rw [R 0 (by decide) (by decide)]
    exact isText_fr hMf (fun _ z => z) x3
  · have r41' : r ≠ 41 := fun z => by
      rw [z, loc_41] at hr
      cases hr
    rw [I r (loc_u hr) r41', x4 r j p i hr]
    unfold rd
    by_cases c : p = 60
    · rw [if_pos c, if_pos c, hm1]
    · rw [if_neg c, if_neg c]
      by_cases c2 : p = 2
      · subst c2
        obtain ⟨l1, l2⟩ := (loc_2 hr).2 rfl
        exact (hk i l1 l2).symm
      · rw [hm2 p c2]
  · obtain ⟨n, n1, n2, n3⟩ := x5
    refine ⟨n, n1, by rw [hm1]; exact n2, fun k hk => ?_⟩
    obtain ⟨k1, k2, k3, k4, k5⟩ := n3 k hk
    obtain ⟨u1, u3, u5⟩ := shp100 (k := k) (by omega)
    rw [hm2 31 (by decide), I _ u1 (by omega), I _ u1 (by omega)]
    refine ⟨fun j hj => ?_, k2, k3, k4, k5⟩
    rw [I _ u3 (by omega), I _ u5 (by omega)]
    exact k1 j hj
  · rw [r41]
    exact eu
  · rw [e3]
    exact if_pos ⟨rfl, rfl⟩
  · rw [r41]
    exact ae
  · rw [r41]
    by_cases c : t = told'
    · subst c
      rw [etx]
      exact ⟨cls, hn, isText_fr hMf (fun _ z => z) hx⟩
    · obtain ⟨cl, c1, c2⟩ := y5 t (by omega)
      rw [elo t (by omega)]
      exact ⟨cl, ho t cl (by omega) c1, isText_fr hMf (fun _ z => z) c2⟩
  · rw [R 1 (by decide) (by decide), hm2 4 (by decide), im]
    exact (x8 k hk).imp id fun z => ⟨z.1, z.2.1, deskM_fr hMf (fun _ z => z) A (fun t => congrFun hN.2 t) z.2.2.1, z.2.2.2⟩
  · obtain ⟨b1, b2, b3, b4⟩ := hu a (Or.inr ha)
    exact ⟨b1, b2, b4⟩
end AD
