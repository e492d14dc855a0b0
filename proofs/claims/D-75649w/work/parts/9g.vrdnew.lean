set_option maxRecDepth 100000
/-! ===== the system's reader of laws: made anew ===== -/
def filR (s : tM) (q : Nat) : List Nat → Nat → tM
  | [], _ => s
  | v :: vs, i => filR (tsR s q i v) q vs (i + 1)
theorem filR_s (q : Nat) : ∀ (vs : List Nat) (i : Nat) (s : tM), (filR s q vs i).1 = s.1 ∧ (filR s q vs i).2.1 = s.2.1 ∧ (filR s q vs i).2.2.1 = s.2.2.1
  | [], _, _ => ⟨rfl, rfl, rfl⟩
  | v :: vs, i, s => filR_s q vs (i + 1) (tsR s q i v)
theorem filR_o {q a : Nat} (h : a ≠ q) : ∀ (vs : List Nat) (i : Nat) (s : tM), (filR s q vs i).2.2.2 a = s.2.2.2 a
  | [], _, _ => rfl
  | v :: vs, i, s => (filR_o h vs (i + 1) (tsR s q i v)).trans (funext fun j => if_neg fun z => h z.1)
theorem filR_l {q : Nat} : ∀ (vs : List Nat) (i : Nat) (s : tM) (j : Nat), j < i → tR (filR s q vs i) q j = tR s q j
  | [], _, _, _, _ => rfl
  | v :: vs, i, s, j, h => (filR_l vs (i + 1) (tsR s q i v) j (by omega)).trans (if_neg fun z => by have := z.2; omega)
theorem filR_at (q : Nat) : ∀ (vs : List Nat) (i : Nat) (s : tM) (j : Nat), j < vs.length → tR (filR s q vs i) q (i + j) = vs.getD j 0
  | [], _, _, _, h => absurd h (Nat.not_lt_zero _)
  | v :: vs, i, s, 0, _ => (filR_l vs (i + 1) (tsR s q i v) (i + 0) (by omega)).trans (if_pos ⟨rfl, rfl⟩)
  | v :: vs, i, s, j + 1, h => by
    have := filR_at q vs (i + 1) (tsR s q i v) j (Nat.lt_of_succ_lt_succ h)
    rw [show i + (j + 1) = i + 1 + j by omega]
    exact this
section RN
variable {N : tP} {s0 s : tM} {rd x ta : Nat} {tp : Nat → Int32} {n : Nat}
theorem ext_fil {q : Nat} {vs : List Nat} {i : Nat} (h : extN N s0 s) (hq : s0.1 q = none) (h2 : ¬ q = N.2.2 200) : extN N s0 (filR s q vs i) := fun a ha => by
  have hne : a ≠ q := fun z => ha.elim (fun y => y (z ▸ hq)) (fun y => h2 (z ▸ y))
  obtain ⟨a1, a2, a3, a4⟩ := h a ha
  obtain ⟨f1, f2, f3⟩ := filR_s q vs i s
  exact ⟨by rw [f1]; exact a1, by rw [f2]; exact a2, by rw [f3]; exact a3, (filR_o hne vs i s).trans a4⟩
theorem TPo_e {s' : tM} (h : TPo s x ta tp n) (he : extN N s s') : TPo s' x ta tp n := by
  obtain ⟨t1, t2, t3, t4, t5⟩ := h
  have ex := he x (Or.inl (by rw [t1.1]; intro z; cases z))
  have et := he ta (Or.inl (by rw [t3.1]; intro z; cases z))
  exact ⟨⟨ex.1.trans t1.1, t1.2⟩, (congrFun ex.2.2.2 14).trans t2, ⟨et.1.trans t3.1, t3.2⟩, fun k hk => (congrFun et.2.1 k).trans (t4 k hk), (congrFun ex.2.1 15).trans t5⟩
theorem ext_fr {s' : tM} {q : Nat} (h : extN N s s') (hq : s'.1 q = none) : s.1 q = none := Classical.byContradiction fun y => by
  have := (h q (Or.inl y)).1
  rw [hq] at this
  exact y this.symm
/-- a reader of laws, new -/
def RDn (N : tP) (s0 : tM) (rd x ta : Nat) (tp : Nat → Int32) (n : Nat) (s1 : tM) (pl wd rw h9 : Nat) : Prop := extN N s0 s1 ∧ PS0 N false rd x ta pl wd tp n s1 ∧ RWo s1 rd wd x rw 6 ∧ WDa N s1 h9 [10, 11, 12] ∧ (h9 ≠ pl ∧ h9 ≠ rw) ∧ pl ≠ rw ∧ tR s1 rd 9 = h9 ∧ (∀ j, j < 5 → tI s1 rd j = 0) ∧ (s0.1 rd = none ∧ rd ≠ N.2.2 200) ∧ (s0.1 pl = none ∧ pl ≠ N.2.2 200) ∧ (s0.1 rw = none ∧ rw ≠ N.2.2 200) ∧ s1.1 rw ≠ none
theorem v_X8_initS (hT : TPo s0 x ta tp n) (hex : extN N s0 s) (hrd : s0.1 rd = none ∧ rd ≠ N.2.2 200) (h7 : tO s 7 rd) (hz : ∀ j, j < 5 → tI s rd j = 0) {k m : Nat} (hk : 4 ≤ k) (hm : 75 ≤ m) {K : tM → Prop} (hK : ∀ s1 pl wd rw h9, RDn N s0 rd x ta tp n s1 pl wd rw h9 → K s1) : v_X8_init N rd x k m s K := by
  obtain ⟨g1, g2⟩ := hrd
  unfold v_X8_init v_X7_init
  refine ⟨h7, fun s2 e2 => ⟨by omega, by omega, fun q1 hq1 hq10 hq12 s3 e3 => ?_⟩⟩
  have a3 : tA s3 9 10 q1 := by
    rw [e3]
    exact ⟨if_pos rfl, hq10⟩
  have tx : ∀ {j : Nat} {i : Int32} {s' : tM}, s'.1 = s3.1 → j < 10 → nI j = i → tX s' 9 q1 i := fun h hj e => ⟨10, by unfold tA; rw [h]; exact a3, e ▸ vpk hj (by decide)⟩
  refine ⟨tx (j := 0) rfl (by decide) rfl, fun s4 e4 => ⟨tx (j := 1) (by rw [e4]; rfl) (by decide) rfl, fun s5 e5 => ⟨tx (j := 2) (by rw [e5, e4]; rfl) (by decide) rfl, fun s6 e6 => ⟨tx (j := 3) (by rw [e6, e5, e4]; rfl) (by decide) rfl, fun s7 e7 => ⟨tx (j := 4) (by rw [e7, e6, e5, e4]; rfl) (by decide) rfl, fun s8 e8 => ⟨tx (j := 5) (by rw [e8, e7, e6, e5, e4]; rfl) (by decide) rfl, fun s9 e9 => ⟨tx (j := 6) (by rw [e9, e8, e7, e6, e5, e4]; rfl) (by decide) rfl, fun s10 e10 => ⟨tx (j := 7) (by rw [e10, e9, e8, e7, e6, e5, e4]; rfl) (by decide) rfl, fun s11 e11 => ⟨tx (j := 8) (by rw [e11, e10, e9, e8, e7, e6, e5, e4]; rfl) (by decide) rfl, fun s12 e12 => ⟨tx (j := 9) (by rw [e12, e11, e10, e9, e8, e7, e6, e5, e4]; rfl) (by decide) rfl, fun s13 e13 => ?_⟩⟩⟩⟩⟩⟩⟩⟩⟩⟩
  have ef : s13 = filR s3 q1 [N.2.2 0, N.2.2 1, N.2.2 2, N.2.2 3, N.2.2 4, N.2.2 5, N.2.2 6, N.2.2 7, N.2.2 8, N.2.2 9] 0 := by
    rw [e13, e12, e11, e10, e9, e8, e7, e6, e5, e4]
    rfl
  clear e13 e12 e11 e10 e9 e8 e7 e6 e5 e4 s12 s11 s10 s9 s8 s7 s6 s5 s4 tx
  have c1 : s13.1 = s3.1 := by rw [ef]; exact (filR_s _ _ _ _).1
  have i13 : s13.2.1 = s3.2.1 := by rw [ef]; exact (filR_s _ _ _ _).2.1
  have w13 : ∀ w, w < 10 → tR s13 q1 w = N.2.2 ((wdI false).getD w 0) := fun w hw => by
    rw [ef]
    have := filR_at q1 [N.2.2 0, N.2.2 1, N.2.2 2, N.2.2 3, N.2.2 4, N.2.2 5, N.2.2 6, N.2.2 7, N.2.2 8, N.2.2 9] 0 s3 w hw
    rw [Nat.zero_add] at this
    rw [this]
    match w, hw with
    | 0, _ => rfl
    | 1, _ => rfl
    | 2, _ => rfl
    | 3, _ => rfl
    | 4, _ => rfl
    | 5, _ => rfl
    | 6, _ => rfl
    | 7, _ => rfl
    | 8, _ => rfl
    | 9, _ => rfl
  have x2 : extN N s0 s2 := e2 ▸ ext_R hex g1 g2
  have z1 : s0.1 q1 = none := ext_fr x2 hq1
  have x3 : extN N s0 s3 := e3 ▸ ext_n x2 z1 hq12
  have x13 : extN N s0 s13 := ef ▸ ext_fil x3 z1 hq12
  have al : ∀ {s' : tM} {q : Nat}, s'.1 rd = some (.inl 7) → s'.1 q = none → rd ≠ q := fun h1 h2 z => by
    rw [← z, h1] at h2
    cases h2
  have d2 : s2.1 rd = some (.inl 7) := by
    rw [e2]
    exact h7.1
  have rq1 : rd ≠ q1 := al d2 hq1
  have d3 : s3.1 rd = some (.inl 7) := by
    rw [e3]
    exact (if_neg rq1).trans d2
  have d13 : s13.1 rd = some (.inl 7) := by
    rw [c1]
    exact d3
  have rd0 := h7.2
  refine ⟨4 - 1 - 2, 50, by omega, by omega, ⟨d13, rd0⟩, Or.inl ⟨d13, rd0⟩, fun s14 e14 => ⟨by decide, by decide, fun q2 hq2 hq20 hq22 s15 e15 => ?_⟩⟩
  have x14 : extN N s0 s14 := e14 ▸ ext_R x13 g1 g2
  have z2 : s0.1 q2 = none := ext_fr x14 hq2
  have d14 : s14.1 rd = some (.inl 7) := by rw [e14]; exact d13
  have rq2 : rd ≠ q2 := al d14 hq2
  have d15 : s15.1 rd = some (.inl 7) := by rw [e15]; exact (if_neg rq2).trans d14
  refine ⟨Or.inl ⟨d15, rd0⟩, fun s16 e16 s17 e17 => ⟨by omega, by omega, fun q3 hq3 hq30 hq32 s18 e18 => ?_⟩⟩
  have x15 : extN N s0 s15 := e15 ▸ ext_n x14 z2 hq22
  have x17 : extN N s0 s17 := by
    rw [e17, e16]
    exact ext_R (ext_R x15 g1 g2) g1 g2
  have d17 : s17.1 rd = some (.inl 7) := by rw [e17, e16]; exact d15
  have z3 : s0.1 q3 = none := ext_fr x17 hq3
  have rq3 : rd ≠ q3 := al d17 hq3
  have d18 : s18.1 rd = some (.inl 7) := by rw [e18]; exact (if_neg rq3).trans d17
  have x18 : extN N s0 s18 := e18 ▸ ext_n x17 z3 hq32
  refine ⟨⟨d18, rd0⟩, fun s19 e19 => ⟨by omega, by omega, fun q4 hq4 hq40 hq42 s20 e20 => ?_⟩⟩
  have x19 : extN N s0 s19 := e19 ▸ ext_R x18 g1 g2
  have d19 : s19.1 rd = some (.inl 7) := by rw [e19]; exact d18
  have z4 : s0.1 q4 = none := ext_fr x19 hq4
  have rq4 : rd ≠ q4 := al d19 hq4
  have d20 : s20.1 rd = some (.inl 7) := by rw [e20]; exact (if_neg rq4).trans d19
  have x20 : extN N s0 s20 := e20 ▸ ext_n x19 z4 hq42
  have a20 : tA s20 9 3 q4 := by
    rw [e20]
    exact ⟨if_pos rfl, hq40⟩
  refine ⟨⟨3, a20, vpk (k := 0) (by decide) (by decide)⟩, fun s21 e21 => ⟨⟨3, by rw [e21]; exact a20, vpk (k := 1) (by decide) (by decide)⟩, fun s22 e22 => ⟨⟨3, by rw [e22, e21]; exact a20, vpk (k := 2) (by decide) (by decide)⟩, fun s23 e23 => ?_⟩⟩⟩
  have eg : s23 = filR s20 q4 [N.2.2 10, N.2.2 11, N.2.2 12] 0 := by
    rw [e23, e22, e21]
    rfl
  clear e23 e22 e21 s22 s21
  have x23 : extN N s0 s23 := eg ▸ ext_fil x20 z4 hq42
  have c23 : s23.1 = s20.1 := by rw [eg]; exact (filR_s _ _ _ _).1
  have i23 : s23.2.1 = s20.2.1 := by rw [eg]; exact (filR_s _ _ _ _).2.1
  have d23 : s23.1 rd = some (.inl 7) := by rw [c23]; exact d20
  refine ⟨⟨d23, rd0⟩, fun s24 e24 => ?_⟩
  have x24 : extN N s0 s24 := e24 ▸ ext_R x23 g1 g2
  -- the cells are apart
  have n12 : q1 ≠ q2 := fun z => by
    have : s14.1 q1 = some (.inr (9, 10)) := by rw [e14]; show s13.1 q1 = _; rw [c1]; exact a3.1
    rw [z, hq2] at this
    cases this
  have k1 : s17.1 q1 = some (.inr (9, 10)) := by
    rw [e17, e16, e15]
    show (if q1 = q2 then _ else s14.1 q1) = _
    rw [if_neg n12, e14]
    show s13.1 q1 = _
    rw [c1]
    exact a3.1
  have k2 : s17.1 q2 = some (.inr (7, 50)) := by
    rw [e17, e16, e15]
    exact if_pos rfl
  have n13 : q1 ≠ q3 := fun z => by
    rw [z, hq3] at k1
    cases k1
  have n23 : q2 ≠ q3 := fun z => by
    rw [z, hq3] at k2
    cases k2
  have l1 : s19.1 q1 = some (.inr (9, 10)) := by rw [e19, e18]; exact (if_neg n13).trans k1
  have l2 : s19.1 q2 = some (.inr (7, 50)) := by rw [e19, e18]; exact (if_neg n23).trans k2
  have l3 : s19.1 q3 = some (.inr (6, 12)) := by rw [e19, e18]; exact if_pos rfl
  have n14 : q1 ≠ q4 := fun z => by
    rw [z, hq4] at l1
    cases l1
  have n24 : q2 ≠ q4 := fun z => by
    rw [z, hq4] at l2
    cases l2
  have n34 : q3 ≠ q4 := fun z => by
    rw [z, hq4] at l3
    cases l3
  have m : ∀ {q : Nat}, q ≠ q4 → s24.1 q = s19.1 q := fun h => by
    rw [e24]
    show s23.1 _ = _
    rw [c23, e20]
    exact if_neg h
  have m4 : s24.1 q4 = some (.inr (9, 3)) := by
    rw [e24]
    show s23.1 _ = _
    rw [c23]
    exact a20.1
  -- the reader's references
  have r24 : ∀ {j : Nat}, j ≠ 9 → tR s24 rd j = tR s19 rd j := fun h => by
    rw [e24]
    refine (if_neg fun z => h z.2).trans ?_
    rw [eg]
    refine (congrFun (filR_o rq4 _ _ _) _).trans ?_
    rw [e20]
    exact if_neg rq4
  have r9 : tR s24 rd 9 = q4 := by
    rw [e24]
    exact if_pos ⟨rfl, rfl⟩
  have r19 : ∀ {j : Nat}, j ≠ 8 → tR s19 rd j = tR s17 rd j := fun h => by
    rw [e19]
    refine (if_neg fun z => h z.2).trans ?_
    rw [e18]
    exact if_neg rq3
  have r8 : tR s24 rd 8 = q3 := by
    rw [r24 (by decide), e19]
    exact if_pos ⟨rfl, rfl⟩
  have r6 : tR s24 rd 6 = q1 := by
    rw [r24 (by decide), r19 (by decide), e17]
    exact if_pos ⟨rfl, rfl⟩
  have r5 : tR s24 rd 5 = q2 := by
    rw [r24 (by decide), r19 (by decide), e17, e16]
    exact (if_neg fun z => absurd z.2 (by decide)).trans (if_pos ⟨rfl, rfl⟩)
  have r7 : tR s24 rd 7 = x := by
    rw [r24 (by decide), r19 (by decide), e17, e16, e15, e14]
    exact (if_neg fun z => absurd z.2 (by decide)).trans ((if_neg fun z => absurd z.2 (by decide)).trans ((if_neg rq2).trans (if_pos ⟨rfl, rfl⟩)))
  have w24 : ∀ w, w < 10 → tR s24 q1 w = N.2.2 ((wdI false).getD w 0) := fun w hw => by
    rw [← w13 w hw, e24]
    refine (if_neg fun z => rq1 z.1.symm).trans ?_
    rw [eg]
    refine (congrFun (filR_o n14 _ _ _) _).trans ?_
    rw [e20, e19, e18, e17, e16, e15, e14]
    exact (if_neg n14).trans ((if_neg fun z => rq1 z.1.symm).trans ((if_neg n13).trans ((if_neg fun z => rq1 z.1.symm).trans ((if_neg fun z => rq1 z.1.symm).trans ((if_neg n12).trans (if_neg fun z => rq1 z.1.symm))))))
  have h24 : ∀ w, w < 3 → tR s24 q4 w = N.2.2 (([10, 11, 12] : List Nat).getD w 0) := fun w hw => by
    rw [e24]
    refine (if_neg fun z => rq4 z.1.symm).trans ?_
    rw [eg]
    have := filR_at q4 [N.2.2 10, N.2.2 11, N.2.2 12] 0 s20 w hw
    rw [Nat.zero_add] at this
    refine this.trans ?_
    match w, hw with
    | 0, _ => rfl
    | 1, _ => rfl
    | 2, _ => rfl
  have ii : ∀ j, j < 5 → tI s24 rd j = 0 := fun j hj => by
    rw [e24]
    show s23.2.1 rd j = 0
    rw [i23, e20]
    refine (if_neg rq4).trans ?_
    rw [e19, e18]
    refine (if_neg rq3).trans ?_
    rw [e17, e16, e15]
    refine (if_neg rq2).trans ?_
    rw [e14]
    show s13.2.1 rd j = 0
    rw [i13, e3]
    refine (if_neg rq1).trans ?_
    rw [e2]
    exact hz j hj
  have xne : ∀ {q : Nat}, s0.1 q = none → q ≠ x := fun h z => by
    rw [z, hT.1.1] at h
    cases h
  refine hK s24 q2 q1 q3 q4 ⟨x24, ⟨⟨(m rq4).trans d19, rd0⟩, r7, r5, r6, (fun z => by cases z), ⟨(m n24).trans l2, hq20⟩, ⟨⟨(m n14).trans l1, hq10⟩, w24⟩, TPo_e hT x24⟩, ⟨r8, ⟨(m n34).trans l3, hq30⟩, rq3.symm, n13.symm, xne z3⟩, ⟨⟨m4, hq40⟩, h24⟩, ⟨n24.symm, n34.symm⟩, n23, r9, ii, ⟨g1, g2⟩, ⟨z2, hq22⟩, ⟨z3, hq32⟩, ?_⟩
  rw [m n34, l3]
  intro z
  cases z
end RN
