set_option maxRecDepth 100000
/-! ===== a desk copied ===== -/
def dkSrc (N : tP) (s : tM) (M : Nat → Prop) (d : Nat) (kp : Nat → Int32) : Prop := tO s 1 d ∧ tO s 20 (tR s d 0) ∧ tA s 0 5 (tR s d 1) ∧ tA s 11 6 (tR s d 2) ∧ tO s 2 (tR s d 3) ∧ tA s 0 12 (tR s (tR s d 3) 0) ∧ tA s 0 12 (tR s (tR s d 3) 1) ∧ (∀ i, i < 6 → tA s 0 2 (tR s (tR s d 2) i) ∧ tI s (tR s (tR s d 2) i) 0 = kp (25 + 2 * i) ∧ tI s (tR s (tR s d 2) i) 1 = kp (26 + 2 * i)) ∧ (∀ j, j < 12 → tI s (tR s (tR s d 3) 1) j = kp j ∧ tI s (tR s (tR s d 3) 0) j = kp (12 + j)) ∧ tI s (tR s d 3) 2 = kp 24 ∧ (∀ i, 1 ≤ i → i ≤ 4 → tI s (tR s d 1) i = kp (36 + i)) ∧ (tI s d 4 = kp 41 ∧ tI s d 5 = kp 42 ∧ tI s d 6 = kp 44) ∧ lstR N s M (tR s d 0) kp
section CY
variable {N : tP} {s : tM} {M : Nat → Prop}
theorem v_asA {b c u w cu cw : Nat} (ob : tO s 2 b) (oc : tO s 2 c) (rb0 : tR s b 0 = u) (rb1 : tR s b 1 = w) (rc0 : tR s c 0 = cu) (rc1 : tR s c 1 = cw) (au : tA s 0 12 cu) (ah : tA s 0 12 cw) (bu : tA s 0 12 u) (bh : tA s 0 12 w) (n1 : cw ≠ u) (n2 : u ≠ w) (n3 : b ≠ u) (n4 : b ≠ w) (n5 : c ≠ u) (n6 : c ≠ w) {K : Nat → tM → Prop} (hK : ∀ s', s'.1 = s.1 → s'.2.2.2 = s.2.2.2 → s'.2.2.1 = s.2.2.1 → (∀ a, a ≠ u → a ≠ w → a ≠ b → s'.2.1 a = s.2.1 a) → (∀ j, j < 12 → tI s' u j = tI s cu j ∧ tI s' w j = tI s cw j) → tI s' b 2 = tI s c 2 → K b s') : v_X2_as b c s K := by
  have z0 : (0 : Int32).toNatClampNeg + (12 : Int32).toNatClampNeg ≤ 12 := by decide
  unfold v_X2_as
  rw [rb0, rc0]
  refine ⟨oc, ob, ⟨12, 12, au, bu, by decide, by decide, by decide, z0, z0⟩, fun s4 e4 => ?_⟩
  have r4 : ∀ a j, tR s4 a j = tR s a j := fun a j => by
    rw [e4]
    rfl
  rw [r4, r4, rb1, rc1]
  refine ⟨⟨12, 12, by rw [e4]; exact ah, by rw [e4]; exact bh, by decide, by decide, by decide, z0, z0⟩, fun s7 e7 s9 e9 s11 e11 => ?_⟩
  have i4 : ∀ q j, q ≠ u → tI s4 q j = tI s q j := fun q j hq => by
    rw [e4]
    exact cpI_o _ _ _ _ _ _ _ _ hq
  have i7 : ∀ q j, q ≠ w → tI s7 q j = tI s4 q j := fun q j hq => by
    rw [e7]
    exact cpI_o _ _ _ _ _ _ _ _ hq
  have i9 : ∀ q j, ¬ (q = b ∧ j = 2) → tI s9 q j = tI s7 q j := fun q j hq => by
    rw [e9]
    exact if_neg hq
  have i11 : ∀ q j, ¬ (q = b ∧ j = 3) → tI s11 q j = tI s9 q j := fun q j hq => by
    rw [e11]
    exact if_neg hq
  have d7 : ∀ j, tI s7 c j = tI s c j := fun j => (i7 _ _ n6).trans (i4 _ _ n5)
  refine hK s11 (by rw [e11, e9, e7, e4]; rfl) (by rw [e11, e9, e7, e4]; rfl) (by rw [e11, e9, e7, e4]; rfl) (fun a h1 h2 h3 => funext fun j => ?_) (fun j hj => ⟨?_, ?_⟩) ?_
  · exact (i11 _ _ fun z => h3 z.1).trans ((i9 _ _ fun z => h3 z.1).trans ((i7 _ _ h2).trans (i4 _ _ h1)))
  · refine (i11 _ _ fun z => n3 z.1.symm).trans ((i9 _ _ fun z => n3 z.1.symm).trans ((i7 _ _ n2).trans ?_))
    rw [e4]
    exact cpI_at _ _ _ _ hj
  · refine (i11 _ _ fun z => n4 z.1.symm).trans ((i9 _ _ fun z => n4 z.1.symm).trans ?_)
    rw [e7]
    exact (cpI_at _ _ _ _ hj).trans (i4 _ _ n1)
  · refine (i11 _ _ fun z => absurd z.2 (by decide)).trans ?_
    rw [e9]
    exact (if_pos ⟨rfl, rfl⟩).trans (d7 2)
theorem DK_i {s0 s1 s2 : tM} {d l t h b u w : Nat} (hD : DK N s0 s1 d l t h b u w) (h1 : s2.1 = s1.1) (h2 : s2.2.2.2 = s1.2.2.2) : DK N s0 s2 d l t h b u w := by
  unfold DK tR at hD ⊢
  rw [h1, h2]
  exact hD
theorem mem_dk {d l t h b u w : Nat} : d ∈ dkL d l t h b u w ∧ l ∈ dkL d l t h b u w ∧ t ∈ dkL d l t h b u w ∧ h ∈ dkL d l t h b u w ∧ b ∈ dkL d l t h b u w ∧ u ∈ dkL d l t h b u w ∧ w ∈ dkL d l t h b u w ∧ ∀ i, i < 6 → h + 1 + i ∈ dkL d l t h b u w := by
  unfold dkL
  simp only [List.mem_cons, List.not_mem_nil, or_false]
  refine ⟨by simp, by simp, by simp, by simp, by simp, by simp, by simp, fun i hi => ?_⟩
  have : i = 0 ∨ i = 1 ∨ i = 2 ∨ i = 3 ∨ i = 4 ∨ i = 5 := by omega
  rcases this with rfl | rfl | rfl | rfl | rfl | rfl <;> simp
theorem nd_dk {d l t h b u w : Nat} (hn : ndL (dkL d l t h b u w)) : (d ≠ l ∧ d ≠ t ∧ d ≠ h ∧ d ≠ b ∧ d ≠ u ∧ d ≠ w) ∧ (l ≠ t ∧ l ≠ h ∧ l ≠ b ∧ l ≠ u ∧ l ≠ w) ∧ (t ≠ h ∧ t ≠ b ∧ t ≠ u ∧ t ≠ w) ∧ (h ≠ b ∧ h ≠ u ∧ h ≠ w) ∧ (b ≠ u ∧ b ≠ w) ∧ u ≠ w ∧ ∀ i, i < 6 → d ≠ h + 1 + i ∧ l ≠ h + 1 + i ∧ t ≠ h + 1 + i ∧ b ≠ h + 1 + i ∧ u ≠ h + 1 + i ∧ w ≠ h + 1 + i := by
  unfold dkL at hn
  simp only [ndL, List.mem_cons, List.not_mem_nil, or_false, forall_eq_or_imp, forall_eq] at hn
  obtain ⟨⟨a1, a2, a3, a4, a5, a6, a7, a8, a9, a10, a11, a12⟩, ⟨b1, b2, b3, b4, b5, b6, b7, b8, b9, b10, b11⟩, ⟨c1, c2, c3, c4, c5, c6, c7, c8, c9, c10⟩, ⟨d1, d2, d3, -⟩, ⟨e1, e2, e3, e4, e5, e6, e7, e8⟩, ⟨f1, f2, f3, f4, f5, f6, f7⟩, ⟨g1, g2, g3, g4, g5, g6⟩, -⟩ := hn
  refine ⟨⟨a1, a2, a3, a4, a5, a6⟩, ⟨b1, b2, b3, b4, b5⟩, ⟨c1, c2, c3, c4⟩, ⟨d1, d2, d3⟩, ⟨e1, e2⟩, f1, fun i hi => ?_⟩
  have : i = 0 ∨ i = 1 ∨ i = 2 ∨ i = 3 ∨ i = 4 ∨ i = 5 := by
    clear a1 a2 a3 a4 a5 a6 a7 a8 a9 a10 a11 a12 b1 b2 b3 b4 b5 b6 b7 b8 b9 b10 b11 c1 c2 c3 c4 c5 c6 c7 c8 c9 c10 d1 d2 d3 e1 e2 e3 e4 e5 e6 e7 e8 f1 f2 f3 f4 f5 f6 f7 g1 g2 g3 g4 g5 g6
    omega
  rcases this with rfl | rfl | rfl | rfl | rfl | rfl
  · exact ⟨a7, b6, c5, e3, f2, g1⟩
  · exact ⟨a8, b7, c6, e4, f3, g2⟩
  · exact ⟨a9, b8, c7, e5, f4, g3⟩
  · exact ⟨a10, b9, c8, e6, f5, g4⟩
  · exact ⟨a11, b10, c9, e7, f6, g5⟩
  · exact ⟨a12, b11, c10, e8, f7, g6⟩
theorem al_O {c a : Nat} (h : tO s c a) : s.1 a ≠ none := by
  rw [h.1]
  intro z
  cases z
theorem al_A {t n a : Nat} (h : tA s t n a) : s.1 a ≠ none := by
  rw [h.1]
  intro z
  cases z
/-- the loop over what was heard -/
theorem v_dk40 {s3 : tM} {d0 d l t h b u w : Nat} {kp : Nat → Int32} (hS : dkSrc N s M d0 kp) (hD : DK N s s3 d l t h b u w) (hN1 : 60 ≤ N.1) {Kr : Nat → tM → Prop} {K : Nat → Nat → tM → Prop} {k n : Nat} (hK : ∀ s', extN N s s' → s'.1 = s3.1 → s'.2.2.2 = s3.2.2.2 → (∀ a, (∀ i, i < 6 → a ≠ h + 1 + i) → s'.2.1 a = s3.2.1 a) → (∀ i, i < 6 → tI s' (h + 1 + i) 0 = kp (25 + 2 * i) ∧ tI s' (h + 1 + i) 1 = kp (26 + 2 * i)) → K k n s') : ∀ (c f i : Nat) (s4 : tM), extN N s s4 → s4.1 = s3.1 → s4.2.2.2 = s3.2.2.2 → (∀ a, (∀ i, i < 6 → a ≠ h + 1 + i) → s4.2.1 a = s3.2.1 a) → (∀ i', i' < i → tI s4 (h + 1 + i') 0 = kp (25 + 2 * i') ∧ tI s4 (h + 1 + i') 1 = kp (26 + 2 * i')) → i + c = 6 → c < f → v_X1_copy_40 N d0 d Kr K f (nI i) k n s4
  | _, 0, _, _, _, _, _, _, _, _, h => absurd h (Nat.not_lt_zero _)
  | 0, f + 1, i, s4, j1, j2, j3, j4, j5, hi, _ => by
    unfold v_X1_copy_40
    have : i = 6 := by omega
    subst this
    exact ⟨fun _ => hK s4 j1 j2 j3 j4 j5, fun z => absurd (nI_le (Nat.le_refl 6) (by omega)) z⟩
  | c + 1, f + 1, i, s4, j1, j2, j3, j4, j5, hi, hf => by
    have hi6 : i < 6 := by omega
    have hS' := hS
    obtain ⟨m0, m1, m2, m3, m4, m5, m6, g1, -⟩ := hS'
    obtain ⟨f1, f2, f3⟩ := g1 i hi6
    have hD' := hD
    obtain ⟨dn, dfr, ⟨dd, dl, dt, dh, db, du, dw, dhi⟩, r0, r1, r2, r3, r4, r5, r6⟩ := hD'
    have x0 := j1 d0 (Or.inl (al_O m0))
    have xh := j1 (tR s d0 2) (Or.inl (al_A m3))
    have xi := j1 (tR s (tR s d0 2) i) (Or.inl (al_A f1))
    have e0 : tR s4 d0 2 = tR s d0 2 := congrFun x0.2.2.2 2
    have e1 : tR s4 (tR s d0 2) i = tR s (tR s d0 2) i := congrFun xh.2.2.2 i
    have e2 : tR s4 d 2 = h := by rw [show tR s4 d 2 = tR s3 d 2 from congrFun (congrFun j3 d) 2, r2]
    have e3 : tR s4 h i = h + 1 + i := by rw [show tR s4 h i = tR s3 h i from congrFun (congrFun j3 h) i, r6 i hi6]
    have fd := dfr d mem_dk.1
    have fh := dfr h mem_dk.2.2.2.1
    have fi := dfr (h + 1 + i) (mem_dk.2.2.2.2.2.2.2 i hi6)
    have ad : tA s4 0 2 (h + 1 + i) := ⟨by rw [j2]; exact dhi i hi6, fi.2.1⟩
    have as0 : tA s4 0 2 (tR s (tR s d0 2) i) := ext_A j1 f1
    have hni : tR s (tR s d0 2) i ≠ h + 1 + i := fun z => by
      have := al_A f1
      rw [z] at this
      exact this fi.1
    unfold v_X1_copy_40
    rw [show (6 : Int32) = nI 6 from rfl, nI_lle (by omega) (by omega), e0, e2, nI_clamp (by omega), e1, e3]
    refine ⟨fun z => by omega, fun _ => ⟨ext_O j1 m0, ⟨6, ext_A j1 m3, vpk hi6 (by decide)⟩, ⟨by rw [j2]; exact dd, fd.2.1⟩, ⟨6, ⟨by rw [j2]; exact dh, fh.2.1⟩, vpk hi6 (by decide)⟩, ⟨2, 2, as0, ad, by decide, by decide, by decide, by decide, by decide⟩, fun s5 e5 y hy => ?_⟩⟩
    rw [hy, nI_1]
    refine v_dk40 hS hD hN1 hK c f (i + 1) s5 ?_ (by rw [e5]; exact j2) (by rw [e5]; exact j3) (fun a ha => ?_) (fun i' hi' => ?_) (by omega) (by omega)
    · rw [e5]
      exact ext_cI j1 fi.1 fi.2.2
    · rw [← j4 a ha, e5]
      funext j
      exact cpI_o _ _ _ _ _ _ _ _ (ha i hi6)
    · by_cases e : i' = i
      · rw [e, e5]
        have hcp : ∀ j, j < 2 → tI (tCpI s4 (tR s (tR s d0 2) i) (h + 1 + i) 0 0 2) (h + 1 + i) j = tI s4 (tR s (tR s d0 2) i) j := fun j hj => by
          show (if h + 1 + i = h + 1 + i then va_cpy (s4.2.1 (tR s (tR s d0 2) i)) (s4.2.1 (h + 1 + i)) 0 0 2 j else s4.2.1 (h + 1 + i) j) = _
          rw [if_pos rfl]
          unfold va_cpy
          rw [if_pos ⟨Nat.zero_le _, by omega⟩, Nat.zero_add, Nat.sub_zero]
        refine ⟨(hcp 0 (by decide)).trans ((congrFun xi.2.1 0).trans f2), (hcp 1 (by decide)).trans ((congrFun xi.2.1 1).trans f3)⟩
      · have hne : h + 1 + i' ≠ h + 1 + i := by omega
        have := j5 i' (by omega)
        rw [e5]
        exact ⟨(cpI_o _ _ _ _ _ _ _ _ hne).trans this.1, (cpI_o _ _ _ _ _ _ _ _ hne).trans this.2⟩
theorem v_copyS (hN1 : 60 ≤ N.1) (h0 : s.1 (N.2.2 200) = none) (hM : ∀ a, M a → s.1 a ≠ none) {d0 : Nat} {kp : Nat → Int32} (hS : dkSrc N s M d0 kp) {k n : Nat} (hk : 15 ≤ k) (hn : 77 ≤ n) {K : Nat → tM → Prop} (hK : ∀ s' d l t h b u w, extN N s s' → DK N s s' d l t h b u w → dkSrc N s' M d kp → (tR s' l 1 = N.2.2 200 ∨ s.1 (tR s' l 1) = none) → K d s') : v_X1_copy N d0 k n s K := by
  have hS' := hS
  obtain ⟨m0, m1, m2, m3, m4, m5, m6, g1, g2, g3, g4, g5, g6⟩ := hS'
  unfold v_X1_copy
  refine ⟨by omega, by omega, fun d hd hd0 hd2 s1 e1 => ⟨12, 54, by omega, by omega, ?_⟩⟩
  rw [e1]
  refine v_deskNewS hd hd0 hd2 (Nat.le_refl _) (Nat.le_refl _) (fun s2 l t h b u w D2 B2 x2 => ?_)
  have D2' := D2
  obtain ⟨dn, dfr, ⟨dd, dl, dt, dh, db, du, dw, dhi⟩, r0, r1, r2, r3, r4, r5, r6⟩ := D2'
  obtain ⟨md, ml, mt, mh, mb, mu, mw, mi⟩ := @mem_dk d l t h b u w
  have fl := dfr l ml
  have od2 : tO s2 1 d := ⟨dd, hd0⟩
  have ol2 : tO s2 20 (tR s2 d 0) := by rw [r0]; exact ⟨dl, fl.2.1⟩
  have xs2 := x2 d0 (Or.inl (al_O m0))
  refine ⟨od2, ext_O x2 m0, 2, 16, by omega, by omega, ol2, ?_⟩
  rw [r0, show tR s2 d0 0 = tR s d0 0 from congrFun xs2.2.2.2 0]
  refine v_addAllS h0 hM x2 dl fl.2.1 fl.1 fl.2.2 B2.1.1 B2.1.2 m1 g6 (fun r s3 x3 k3 L3 t3 => ?_)
  -- the new desk's cells at s3
  obtain ⟨⟨n1, n2, n3, n4, n5, n6⟩, ⟨p1, p2, p3, p4, p5⟩, ⟨c1, c2, c3, c4⟩, ⟨q1, q2, q3⟩, ⟨b1, b2⟩, u1, hni⟩ := nd_dk dn
  have al2 : ∀ {a : Nat} {c : Nat ⊕ (Nat × Nat)}, s2.1 a = some c → s2.1 a ≠ none := fun {a c} hh => by
    rw [hh]
    intro z
    cases z
  have D3 : DK N s s3 d l t h b u w := by
    have sh : ∀ {a : Nat} {c : Nat ⊕ (Nat × Nat)}, s2.1 a = some c → s3.1 a = some c := fun {a c} hh => (k3 a (al2 hh)).1.trans hh
    have rf : ∀ {a : Nat} {c : Nat ⊕ (Nat × Nat)}, s2.1 a = some c → a ≠ l → ∀ j, tR s3 a j = tR s2 a j := fun {a c} hh hl j => congrFun ((k3 a (al2 hh)).2 hl).2 j
    refine ⟨dn, dfr, ⟨sh dd, sh dl, sh dt, sh dh, sh db, sh du, sh dw, fun i hi => sh (dhi i hi)⟩, (rf dd n1 0).trans r0, (rf dd n1 1).trans r1, (rf dd n1 2).trans r2, (rf dd n1 3).trans r3, (rf db (Ne.symm p3) 0).trans r4, (rf db (Ne.symm p3) 1).trans r5, fun i hi => (rf dh (Ne.symm p2) i).trans (r6 i hi)⟩
  have D3' := D3
  obtain ⟨-, -, ⟨dd3, dl3, dt3, dh3, db3, du3, dw3, dhi3⟩, r03, r13, r23, r33, r43, r53, r63⟩ := D3'
  have xs3 := x3 d0 (Or.inl (al_O m0))
  have xt3 := x3 (tR s d0 1) (Or.inl (al_A m2))
  have od3 : tO s3 1 d := ⟨dd3, hd0⟩
  have ft := dfr t mt
  have at3 : tA s3 0 5 (tR s d0 1) := ext_A x3 m2
  have et3 : tR s3 d0 1 = tR s d0 1 := congrFun xs3.2.2.2 1
  rw [et3, r13, tLen_S at3]
  refine ⟨ext_O x3 m0, od3, ⟨5, at3⟩, ⟨5, 5, at3, ⟨dt3, ft.2.1⟩, by decide, by decide, by decide, by decide, by decide⟩, fun s4 e4 => ?_⟩
  have x4 : extN N s s4 := by
    rw [e4]
    exact ext_cI x3 ft.1 ft.2.2
  have D4 : DK N s s4 d l t h b u w := DK_i D3 (by rw [e4]; rfl) (by rw [e4]; rfl)
  have t4 : ∀ i, i < 5 → tI s4 t i = tI s (tR s d0 1) i := fun i hi => by
    rw [e4]
    show (if t = t then va_cpy (s3.2.1 (tR s d0 1)) (s3.2.1 t) 0 0 (Int32.ofNat 5).toNatClampNeg i else s3.2.1 t i) = _
    rw [if_pos rfl]
    unfold va_cpy
    rw [if_pos ⟨Nat.zero_le _, by
      rw [show (Int32.ofNat 5).toNatClampNeg = 5 by decide]
      omega⟩, Nat.zero_add, Nat.sub_zero]
    exact congrFun xt3.2.1 i
  have l4 : tI s4 l 2 = tI s3 l 2 := by
    rw [e4]
    exact cpI_o _ _ _ _ _ _ _ _ p1
  refine v_dk40 hS D4 hN1 (fun s5 x5 h51 h52 h53 h54 => ?_) 6 N.1 0 s4 x4 rfl rfl (fun _ _ => rfl) (fun i' hi' => absurd hi' (Nat.not_lt_zero _)) (by omega) (by omega)
  have D5 : DK N s s5 d l t h b u w := DK_i D4 h51 h52
  have D5' := D5
  obtain ⟨-, -, ⟨dd5, dl5, dt5, dh5, db5, du5, dw5, dhi5⟩, r05, r15, r25, r35, r45, r55, r65⟩ := D5'
  have fb := dfr b mb
  have fu := dfr u mu
  have fw := dfr w mw
  have xs5 := x5 d0 (Or.inl (al_O m0))
  have xb5 := x5 (tR s d0 3) (Or.inl (al_O m4))
  have xu5 := x5 (tR s (tR s d0 3) 0) (Or.inl (al_A m5))
  have xw5 := x5 (tR s (tR s d0 3) 1) (Or.inl (al_A m6))
  have ob5 : tO s5 2 b := ⟨db5, fb.2.1⟩
  have eb5 : tR s5 d0 3 = tR s d0 3 := congrFun xs5.2.2.2 3
  rw [eb5, r35]
  have ne : ∀ {a x : Nat}, s.1 a ≠ none → s.1 x = none → a ≠ x := fun {a x} ha hx z => ha (z ▸ hx)
  refine ⟨⟨dd5, hd0⟩, ext_O x5 m0, ob5, v_asA ob5 (ext_O x5 m4) r45 r55 (congrFun xb5.2.2.2 0) (congrFun xb5.2.2.2 1) (ext_A x5 m5) (ext_A x5 m6) ⟨du5, fu.2.1⟩ ⟨dw5, fw.2.1⟩ (ne (al_A m6) fu.1) u1 b1 b2 (ne (al_O m4) fu.1) (ne (al_O m4) fw.1) (fun s6 h61 h62 h63 h64 h65 h66 => ?_)⟩
  have D6 : DK N s s6 d l t h b u w := DK_i D5 h61 h62
  have x6 : extN N s s6 := fun a ha => by
    obtain ⟨a1, a2, a3, a4⟩ := x5 a ha
    have : ∀ {x : Nat}, s.1 x = none ∧ x ≠ 0 ∧ x ≠ N.2.2 200 → a ≠ x := fun {x} hx z => by
      rcases ha with ha | ha
      · rw [z] at ha
        exact ha hx.1
      · exact hx.2.2 (z.symm.trans ha)
    exact ⟨by rw [h61]; exact a1, (h64 a (this fu) (this fw) (this fb)).trans a2, by rw [h63]; exact a3, by rw [h62]; exact a4⟩
  have D6' := D6
  obtain ⟨-, -, ⟨dd6, dl6, dt6, dh6, db6, du6, dw6, dhi6⟩, r06, r16, r26, r36, r46, r56, r66⟩ := D6'
  have xs6 := x6 d0 (Or.inl (al_O m0))
  refine ⟨ext_O x6 m0, ⟨dd6, hd0⟩, fun s7 e7 s8 e8 s9 e9 => ?_⟩
  have fd := dfr d md
  have xs7 : extN N s s7 := by
    rw [e7]
    exact ext_I x6 fd.1 fd.2.2
  have xs8 : extN N s s8 := by
    rw [e8]
    exact ext_I xs7 fd.1 fd.2.2
  have xs9 : extN N s s9 := by
    rw [e9]
    exact ext_I xs8 fd.1 fd.2.2
  have v7 : tI s6 d0 4 = kp 41 := (congrFun xs6.2.1 4).trans g5.1
  have v8 : tI s7 d0 5 = kp 42 := (congrFun (xs7 d0 (Or.inl (al_O m0))).2.1 5).trans g5.2.1
  have v9 : tI s8 d0 6 = kp 44 := (congrFun (xs8 d0 (Or.inl (al_O m0))).2.1 6).trans g5.2.2
  rw [v7] at e7
  rw [v8] at e8
  rw [v9] at e9
  have i9 : ∀ a j, a ≠ d → tI s9 a j = tI s6 a j := fun a j ha => by
    rw [e9, e8, e7]
    exact (if_neg (fun z => ha z.1)).trans ((if_neg (fun z => ha z.1)).trans (if_neg (fun z => ha z.1)))
  have r9 : ∀ a j, tR s9 a j = tR s6 a j := fun a j => by
    rw [e9, e8, e7]
    rfl
  have D9 : DK N s s9 d l t h b u w := DK_i D6 (by rw [e9, e8, e7]; rfl) (by rw [e9, e8, e7]; rfl)
  have D9' := D9
  obtain ⟨-, -, ⟨dd9, dl9, dt9, dh9, db9, du9, dw9, dhi9⟩, r09, r19, r29, r39, r49, r59, r69⟩ := D9'
  -- ints along the way
  have noh : ∀ a, (a = t ∨ a = l) → ∀ i, i < 6 → a ≠ h + 1 + i := fun a ha i hi => by
    have := hni i hi
    rcases ha with rfl | rfl
    · exact this.2.2.1
    · exact this.2.1
  have i6 : ∀ a j, a ≠ u → a ≠ w → a ≠ b → tI s6 a j = tI s5 a j := fun a j ha hb hc => congrFun (h64 a ha hb hc) j
  have i5 : ∀ a j, (a = t ∨ a = l) → tI s5 a j = tI s4 a j := fun a j ha => congrFun (h53 a (noh a ha)) j
  have rl : tR s9 l 1 = tR s3 l 1 := by
    rw [r9, show tR s6 l 1 = tR s5 l 1 from congrFun (congrFun h62 l) 1, show tR s5 l 1 = tR s4 l 1 from congrFun (congrFun h52 l) 1, e4]
    rfl
  refine hK s9 d l t h b u w xs9 D9 ⟨⟨dd9, hd0⟩, ?_, ?_, ?_, ?_, ?_, ?_, fun i hi => ?_, fun j hj => ?_, ?_, fun i z1 z4 => ?_, ⟨?_, ?_, ?_⟩, ?_⟩ ?_
  · rw [r09]
    exact ⟨dl9, fl.2.1⟩
  · rw [r19]
    exact ⟨dt9, ft.2.1⟩
  · rw [r29]
    exact ⟨dh9, (dfr h mh).2.1⟩
  · rw [r39]
    exact ⟨db9, fb.2.1⟩
  · rw [r39, r49]
    exact ⟨du9, fu.2.1⟩
  · rw [r39, r59]
    exact ⟨dw9, fw.2.1⟩
  · have := hni i hi
    rw [r29, r69 i hi, i9 _ _ (Ne.symm this.1), i9 _ _ (Ne.symm this.1), i6 _ _ (Ne.symm this.2.2.2.2.1) (Ne.symm this.2.2.2.2.2) (Ne.symm this.2.2.2.1), i6 _ _ (Ne.symm this.2.2.2.2.1) (Ne.symm this.2.2.2.2.2) (Ne.symm this.2.2.2.1)]
    exact ⟨⟨dhi9 i hi, (dfr _ (mi i hi)).2.1⟩, h54 i hi⟩
  · rw [r39, r49, r59, i9 _ _ (Ne.symm n6), i9 _ _ (Ne.symm n5), (h65 j hj).1, (h65 j hj).2]
    exact ⟨(congrFun xw5.2.1 j).trans (g2 j hj).1, (congrFun xu5.2.1 j).trans (g2 j hj).2⟩
  · rw [r39, i9 _ _ (Ne.symm n4), h66]
    exact (congrFun xb5.2.1 2).trans g3
  · rw [r19, i9 _ _ (Ne.symm n2), i6 _ _ c3 c4 c2, i5 _ _ (Or.inl rfl), t4 i (by omega)]
    exact g4 i z1 z4
  · rw [e9, e8]
    refine (if_neg (fun z => absurd z.2 (by decide))).trans ((if_neg (fun z => absurd z.2 (by decide))).trans ?_)
    rw [e7]
    exact if_pos ⟨rfl, rfl⟩
  · rw [e9]
    refine (if_neg (fun z => absurd z.2 (by decide))).trans ?_
    rw [e8]
    exact if_pos ⟨rfl, rfl⟩
  · rw [e9]
    exact if_pos ⟨rfl, rfl⟩
  · rw [r09]
    obtain ⟨told, t1, t2, t3', t4', t5'⟩ := L3
    have sh93 : s9.1 = s3.1 := by
      rw [e9, e8, e7]
      show s6.1 = s3.1
      rw [h61, h51, e4]
      rfl
    refine ⟨told, t1, t2, ?_, ?_, ?_⟩
    · rw [i9 _ _ (Ne.symm n1), i6 _ _ p4 p5 p3, i5 _ _ (Or.inr rfl), l4]
      exact t3'
    · rw [rl]
      rcases t4' with z | z
      · exact Or.inl z
      · exact Or.inr ⟨by rw [sh93]; exact z.1, z.2⟩
    · rw [rl]
      intro i hi
      obtain ⟨cls, w1, w2⟩ := t5' i hi
      have hr : tR s9 (tR s3 l 1) i = tR s3 (tR s3 l 1) i := by
        rw [r9, show tR s6 (tR s3 l 1) i = tR s5 (tR s3 l 1) i from congrFun (congrFun h62 _) i, show tR s5 (tR s3 l 1) i = tR s4 (tR s3 l 1) i from congrFun (congrFun h52 _) i, e4]
        rfl
      rw [hr]
      have hM3 : ∀ a, M a → s3.1 a = s9.1 a ∧ s9.2.1 a = s3.2.1 a ∧ s9.2.2.2 a = s3.2.2.2 a := fun a ha => by
        obtain ⟨y1, y2, y3, y4⟩ := xs9 a (Or.inl (hM a ha))
        obtain ⟨z1, z2, z3, z4⟩ := x3 a (Or.inl (hM a ha))
        exact ⟨z1.trans y1.symm, y2.trans z2.symm, y4.trans z4.symm⟩
      exact ⟨cls, w1, isText_fr (fun a ha => ⟨(hM3 a ha).1.symm, (hM3 a ha).2.1, (hM3 a ha).2.2⟩) (fun _ z => z) w2⟩
  · rw [rl]
    exact t3
end CY
