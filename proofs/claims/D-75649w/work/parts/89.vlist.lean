set_option maxRecDepth 100000
/-! ===== lists of texts: all of one added to a new one ===== -/
theorem cpR_at (s : tM) (a b n j : Nat) (hj : j < n) : tR (tCpR s a b 0 0 n) b j = tR s a j := by
  show (if b = b then va_cpy (s.2.2.2 a) (s.2.2.2 b) 0 0 n j else s.2.2.2 b j) = _
  rw [if_pos rfl]
  unfold va_cpy
  rw [if_pos ⟨Nat.zero_le _, by omega⟩]
  show s.2.2.2 a (0 + (j - 0)) = s.2.2.2 a j
  rw [Nat.zero_add, Nat.sub_zero]
theorem cpR_o (s : tM) (a b q j sp dp n : Nat) (h : q ≠ b) : tR (tCpR s a b sp dp n) q j = tR s q j := by
  show (if q = b then _ else s.2.2.2 q j) = _
  rw [if_neg h]
theorem ext_cR {N : tP} {s0 s : tM} {q b sp dp n : Nat} (h : extN N s0 s) (hq : s0.1 q = none) (h2 : ¬ q = N.2.2 200) : extN N s0 (tCpR s b q sp dp n) := fun a ha => by
  have hn : a ≠ q := fun z => by
    rcases ha with ha | ha
    · rw [z] at ha
      exact ha hq
    · exact h2 (z.symm.trans ha)
  obtain ⟨a1, a2, a3, a4⟩ := h a ha
  exact ⟨a1, a2, a3, (funext fun i => if_neg hn : (tCpR s b q sp dp n).2.2.2 a = s.2.2.2 a).trans a4⟩
/-- the cells that s1 has, but l, are as they were -/
def kpS (l : Nat) (s1 s3 : tM) : Prop := ∀ a, s1.1 a ≠ none → s3.1 a = s1.1 a ∧ (a ≠ l → s3.2.1 a = s1.2.1 a ∧ s3.2.2.2 a = s1.2.2.2 a)
theorem kpS_r (l : Nat) (s : tM) : kpS l s s := fun _ _ => ⟨rfl, fun _ => ⟨rfl, rfl⟩⟩
theorem kpS_t {l : Nat} {s s' s2 : tM} (h : kpS l s s') (h2 : kpS l s' s2) : kpS l s s2 := fun a ha => by
  obtain ⟨a1, a2⟩ := h a ha
  obtain ⟨b1, b2⟩ := h2 a (by rw [a1]; exact ha)
  exact ⟨b1.trans a1, fun hl => ⟨(b2 hl).1.trans (a2 hl).1, (b2 hl).2.trans (a2 hl).2⟩⟩
theorem kpS_n {l q : Nat} {s : tM} {c : Nat ⊕ (Nat × Nat)} (hq : s.1 q = none) : kpS l s (tNew s q c) := fun a ha => by
  have hn : a ≠ q := fun z => ha (z ▸ hq)
  exact ⟨if_neg hn, fun _ => ⟨funext fun i => if_neg hn, funext fun i => if_neg hn⟩⟩
theorem kpS_I {l j : Nat} {s : tM} {v : Int32} : kpS l s (tsI s l j v) := fun a _ => ⟨rfl, fun hl => ⟨funext fun i => if_neg fun (z : a = l ∧ i = j) => hl z.1, rfl⟩⟩
theorem kpS_R {l j : Nat} {s : tM} {v : Nat} : kpS l s (tsR s l j v) := fun a _ => ⟨rfl, fun hl => ⟨rfl, funext fun i => if_neg fun (z : a = l ∧ i = j) => hl z.1⟩⟩
theorem kpS_cR {l q b sp dp n : Nat} {s0 s : tM} (h : kpS l s0 s) (hq : s0.1 q = none) : kpS l s0 (tCpR s b q sp dp n) := fun a ha => by
  have hn : a ≠ q := fun z => ha (z ▸ hq)
  obtain ⟨a1, a2⟩ := h a ha
  exact ⟨a1, fun hl => ⟨(a2 hl).1, (funext fun i => if_neg hn : (tCpR s b q sp dp n).2.2.2 a = s.2.2.2 a).trans (a2 hl).2⟩⟩
section LS
variable {N : tP} {s s1 : tM} {M : Nat → Prop}
theorem ext_O {s' : tM} (h : extN N s s') {c a : Nat} (ho : tO s c a) : tO s' c a := ⟨by rw [(h a (Or.inl (by rw [ho.1]; intro z; cases z))).1]; exact ho.1, ho.2⟩
theorem ext_A {s' : tM} (h : extN N s s') {t n a : Nat} (ho : tA s t n a) : tA s' t n a := ⟨by rw [(h a (Or.inl (by rw [ho.1]; intro z; cases z))).1]; exact ho.1, ho.2⟩
theorem tLen_S {t n a : Nat} (h : tA s t n a) : tLen s a = n := by
  unfold tLen
  rw [h.1]
theorem tLen_N {a : Nat} (h : s.1 a = none) : tLen s a = 0 := by
  unfold tLen
  rw [h]
theorem mFr_ext {s' : tM} (h : extN N s s') (hM : ∀ a, M a → s.1 a ≠ none) : mFr M s s' := fun a ha => by
  obtain ⟨b1, b2, b3, b4⟩ := h a (Or.inl (hM a ha))
  exact ⟨b1, b2, b4⟩
theorem v_addAllS (h0 : s.1 (N.2.2 200) = none) (hM : ∀ a, M a → s.1 a ≠ none) {l ls : Nat} (hex : extN N s s1) (hl : s1.1 l = some (.inl 20)) (hl0 : l ≠ 0) (hln : s.1 l = none) (hl2 : ¬ l = N.2.2 200) (hlt : tR s1 l 1 = N.2.2 200) (hls : tI s1 l 2 = 0) (ols : tO s 20 ls) {kp : Nat → Int32} (hL : lstR N s M ls kp) {K : Int32 → tM → Prop} (hK : ∀ r s3, extN N s s3 → kpS l s1 s3 → lstR N s3 M l kp → (tR s3 l 1 = N.2.2 200 ∨ s.1 (tR s3 l 1) = none) → K r s3) : v_J2_addAll N l ls 2 16 s1 K := by
  obtain ⟨told, t1, t2, t3, t4, t5⟩ := hL
  have hne : ls ≠ l := fun z => by
    rw [z] at ols
    rw [ols.1] at hln
    cases hln
  have e1 : s1.1 (N.2.2 200) = none := ((hex _ (Or.inr rfl)).1).trans h0
  have xls := hex ls (Or.inl (by rw [ols.1]; intro z; cases z))
  have rls : tR s1 ls 1 = tR s ls 1 := congrFun xls.2.2.2 1
  have ils : tI s1 ls 2 = nI told := (congrFun xls.2.1 2).trans t3
  have ol1 : tO s1 20 l := ⟨hl, hl0⟩
  unfold v_J2_addAll v_J2_toArray v_J15_copyOf v_J15_copyOf_2
  rw [rls, ils]
  have tle : ∀ s', extN N s s' → tLE N s' (tR s ls 1) := fun s' hx => by
    rcases t4 with ⟨-, z⟩ | z
    · exact Or.inr ⟨z, by rw [z]; exact tLen_N ((hx _ (Or.inr rfl)).1.trans h0)⟩
    · exact Or.inl ⟨10, ext_A hx z⟩
  refine ⟨ext_O hex ols, 1, 6, by decide, by decide, ext_O hex ols, 1, 6, Nat.le_refl _, Nat.le_refl _, tle s1 hex, 1, 6, Nat.le_refl _, Nat.le_refl _, fun z => absurd rfl z, fun _ => ⟨nI_pos (by omega), ?_, by decide, ?_, fun q hq hq0 hq2 s2 e2 => ?_⟩⟩
  · rw [nI_clamp (by omega)]
    omega
  · rw [nI_clamp (by omega)]
    exact t1
  have hqs : s.1 q = none := by
    cases hc : s.1 q with
    | none => rfl
    | some c =>
      have := (hex q (Or.inl (by rw [hc]; intro z; cases z))).1
      rw [hq, hc] at this
      cases this
  have x2 : extN N s s2 := by
    rw [e2]
    exact ext_n hex hqs hq2
  have k2 : kpS l s1 s2 := by
    rw [e2]
    exact kpS_n hq
  have hql : q ≠ l := fun z => by
    rw [z, hl] at hq
    cases hq
  have aq : tA s2 10 told q := by
    rw [e2, nI_clamp (by omega)]
    exact ⟨if_pos rfl, hq0⟩
  have l2 : tR s2 l 1 = N.2.2 200 ∧ tI s2 l 2 = 0 := by
    rw [e2]
    exact ⟨(if_neg (fun z => hql z.symm) : tR (tNew s1 q _) l 1 = tR s1 l 1).trans hlt, (if_neg (fun z => hql z.symm) : tI (tNew s1 q _) l 2 = tI s1 l 2).trans hls⟩
  have hx : (if nI told < Int32.ofNat (tLen s2 (tR s ls 1)) then nI told else Int32.ofNat (tLen s2 (tR s ls 1))) = nI told := by
    rcases t4 with ⟨z0, z⟩ | z
    · have h2 : tLen s2 (tR s ls 1) = 0 := by
        rw [z]
        exact tLen_N ((x2 _ (Or.inr rfl)).1.trans h0)
      rw [h2, z0]
      rfl
    · have h2 : tLen s2 (tR s ls 1) = 10 := tLen_S (ext_A x2 z)
      rw [h2]
      exact if_pos (nI_lt (b := 10) (by omega) (by omega))
  have ent : ∀ i, i < told → tO s2 5 (tR s2 (tR s ls 1) i) := fun i hi => by
    have z := t4.resolve_left (fun z => by omega)
    obtain ⟨cls, -, c2⟩ := t5 i hi
    have hr : tR s2 (tR s ls 1) i = tR s (tR s ls 1) i := congrFun (x2 _ (Or.inl (by rw [z.1]; intro w; cases w))).2.2.2 i
    rw [hr]
    exact ext_O x2 c2.2.1
  refine ⟨tle s2 x2, fun x hxe => ⟨?_, fun s3 e3 => ?_⟩⟩
  · rw [hxe, hx]
    rcases t4 with ⟨z0, z⟩ | z
    · refine Or.inr ⟨z, rfl, rfl, ?_, told, aq⟩
      rw [z0]
      rfl
    · refine Or.inl ⟨⟨10, told, ext_A x2 z, aq, by decide, by decide, nI_pos (by omega), ?_, ?_⟩, fun i hi => Or.inr ⟨5, st_10_5, ?_⟩⟩
      · rw [nI_clamp (by omega), show (0 : Int32).toNatClampNeg = 0 by decide]
        omega
      · rw [nI_clamp (by omega), show (0 : Int32).toNatClampNeg = 0 by decide]
        omega
      · rw [nI_clamp (by omega)] at hi
        rw [Nat.zero_add]
        exact ent i hi
  rw [hxe, hx, nI_clamp (by omega)] at e3
  have x3 : extN N s s3 := by
    rw [e3]
    exact ext_cR x2 hqs hq2
  have k3 : kpS l s1 s3 := by
    rw [e3]
    exact kpS_cR k2 hq
  have aq3 : tA s3 10 told q := by
    rw [e3]
    exact aq
  have l3 : tR s3 l 1 = N.2.2 200 ∧ tI s3 l 2 = 0 := by
    rw [e3, cpR_o _ _ _ _ _ _ _ _ (fun z => hql z.symm)]
    exact l2
  have q3 : ∀ i, i < told → tR s3 q i = tR s (tR s ls 1) i := fun i hi => by
    have z := t4.resolve_left (fun z => by omega)
    rw [e3, cpR_at _ _ _ _ _ hi]
    exact congrFun (x2 _ (Or.inl (by rw [z.1]; intro w; cases w))).2.2.2 i
  have ol3 : tO s3 20 l := ⟨(k3 l (by rw [hl]; intro z; cases z)).1.trans hl, hl0⟩
  refine ⟨ol3, fun s4 e4 => ?_⟩
  have x4 : extN N s s4 := by
    rw [e4]
    exact ext_I x3 hln hl2
  have k4 : kpS l s1 s4 := by
    rw [e4]
    exact kpS_t k3 kpS_I
  have aq4 : tA s4 10 told q := by
    rw [e4]
    exact aq3
  have l4 : tR s4 l 1 = N.2.2 200 ∧ tI s4 l 2 = 0 := by
    rw [e4]
    exact ⟨l3.1, (if_neg (fun z => absurd z.2 (by decide)) : tI (tsI s3 l 0 _) l 2 = tI s3 l 2).trans l3.2⟩
  have q4 : ∀ i, i < told → tR s4 q i = tR s (tR s ls 1) i := fun i hi => by
    rw [e4]
    exact q3 i hi
  have n4 : tLen s4 (N.2.2 200) = 0 := tLen_N ((x4 _ (Or.inr rfl)).1.trans h0)
  have ol4 : tO s4 20 l := ⟨(k4 l (by rw [hl]; intro z; cases z)).1.trans hl, hl0⟩
  refine ⟨Or.inl ⟨told, aq4⟩, fun y hy => ?_⟩
  have hy2 : y = nI told := by
    rw [hy, tLen_S aq4]
    rfl
  rw [hy2, show (0 : Int32) = nI 0 from rfl, nI_eq (by omega) (by omega)]
  refine ⟨fun nz tb htb => ?_, fun z => hK _ s4 x4 k4 ⟨told, t1, t2, ?_, Or.inl ⟨z, l4.1⟩, fun i hi => by omega⟩ (Or.inl l4.1)⟩
  · rw [l4.1] at htb
    rw [htb]
    refine ⟨Or.inr ⟨rfl, n4⟩, fun sz hsz => ?_⟩
    rw [l4.2] at hsz
    rw [hsz, n4]
    refine ⟨fun z => ?_, fun _ => ⟨1, 10, by decide, by decide, ?_⟩⟩
    · rw [i32_le, nI_toInt (by omega), show (Int32.ofNat 0 - 0).toInt = 0 by decide] at z
      omega
    · unfold v_J2_grow_2
      rw [l4.1, n4]
      refine ⟨ol4, Or.inr ⟨rfl, n4⟩, fun w hw => ⟨fun z => ?_, fun _ => ⟨fun _ v hv => ?_, fun z => absurd rfl z⟩⟩⟩
      · rw [hw] at z
        exact absurd z (by decide)
      · have hv2 : v = 10 := by
          rw [hv, show (0 : Int32) + nI told = nI told from nI_0p told]
          exact if_neg (nI_nlt (a := 10) (by omega) (by omega))
        rw [hv2]
        refine ⟨by decide, by decide, by decide, by decide, fun g hg hg0 hg2 s5 e5 => ?_⟩
        have hgs : s.1 g = none := by
          cases hc : s.1 g with
          | none => rfl
          | some c =>
            have := (x4 g (Or.inl (by rw [hc]; intro z; cases z))).1
            rw [hg, hc] at this
            cases this
        have hg1 : s1.1 g = none := by
          cases hc : s1.1 g with
          | none => rfl
          | some c =>
            have := (k4 g (by rw [hc]; intro z; cases z)).1
            rw [hg, hc] at this
            cases this
        have c10 : (10 : Int32).toNatClampNeg = 10 := by decide
        rw [c10] at e5
        have hgl : g ≠ l := fun z => by
          rw [z, ol4.1] at hg
          cases hg
        have hgq : g ≠ q := fun z => by
          rw [z, aq4.1] at hg
          cases hg
        have x5 : extN N s s5 := by
          rw [e5]
          exact ext_n x4 hgs hg2
        have k5 : kpS l s1 s5 := by
          rw [e5]
          exact kpS_t k4 (kpS_n hg)
        have ol5 : tO s5 20 l := ⟨(k5 l (by rw [hl]; intro z; cases z)).1.trans hl, hl0⟩
        refine ⟨ol5, fun s6 e6 => ?_⟩
        have x6 : extN N s s6 := by
          rw [e6]
          exact ext_R x5 hln hl2
        have k6 : kpS l s1 s6 := by
          rw [e6]
          exact kpS_t k5 kpS_R
        have ag6 : tA s6 10 10 g := by
          rw [e6, e5]
          exact ⟨if_pos rfl, hg0⟩
        have aq6 : tA s6 10 told q := by
          rw [e6, e5]
          exact ⟨(if_neg (fun z => hgq z.symm)).trans aq4.1, hq0⟩
        have q6 : ∀ i, i < told → tR s6 q i = tR s (tR s ls 1) i := fun i hi => by
          rw [e6, e5]
          refine (if_neg (fun z => hql z.1)).trans ?_
          exact (if_neg (fun z => hgq z.symm)).trans (q4 i hi)
        have cz : (0 : Int32).toNatClampNeg = 0 := by decide
        unfold v_J2_addAll_56
        refine ⟨Or.inl ⟨⟨told, 10, aq6, ag6, by decide, by decide, nI_pos (by omega), ?_, ?_⟩, fun i hi => Or.inr ⟨5, st_10_5, ?_⟩⟩, fun s7 e7 => ?_⟩
        · rw [nI_clamp (by omega), cz]
          omega
        · rw [nI_clamp (by omega), cz]
          omega
        · rw [nI_clamp (by omega)] at hi
          obtain ⟨cls, -, c2⟩ := t5 i hi
          rw [Nat.zero_add, q6 i hi]
          exact ext_O x6 c2.2.1
        · rw [nI_clamp (by omega), cz] at e7
          have x7 : extN N s s7 := by
            rw [e7]
            exact ext_cR x6 hgs hg2
          have k7 : kpS l s1 s7 := by
            rw [e7]
            exact kpS_cR k6 hg1
          have ol7 : tO s7 20 l := ⟨(k7 l (by rw [hl]; intro z; cases z)).1.trans hl, hl0⟩
          refine ⟨ol7, fun s8 e8 => ?_⟩
          have x8 : extN N s s8 := by
            rw [e8]
            exact ext_I x7 hln hl2
          have k8 : kpS l s1 s8 := by
            rw [e8]
            exact kpS_t k7 kpS_I
          have r8 : tR s8 l 1 = g := by
            rw [e8, e7]
            refine (cpR_o s6 q g l 1 0 0 told (fun z => hgl z.symm)).trans ?_
            rw [e6]
            exact if_pos ⟨rfl, rfl⟩
          refine hK _ s8 x8 k8 ⟨told, t1, t2, ?_, Or.inr ?_, fun i hi => ?_⟩ (Or.inr (by rw [r8]; exact hgs))
          · rw [e8]
            refine (if_pos ⟨rfl, rfl⟩).trans ?_
            exact nI_0p told
          · rw [r8, e8, e7]
            exact ag6
          · obtain ⟨cls, c1, c2⟩ := t5 i hi
            refine ⟨cls, c1, ?_⟩
            have : tR s8 (tR s8 l 1) i = tR s (tR s ls 1) i := by
              rw [r8, e8, e7]
              exact (cpR_at s6 q g told i hi).trans (q6 i hi)
            rw [this]
            exact isText_fr (mFr_ext x8 hM) (fun _ z => z) c2
  · rw [l4.2, z]
    rfl
end LS
