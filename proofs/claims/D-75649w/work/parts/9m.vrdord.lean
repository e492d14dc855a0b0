set_option maxRecDepth 100000
/-! ===== the system's reader of orders: made anew ===== -/
section RO
variable {N : tP} {s0 s : tM} {rd x ta : Nat} {tp : Nat → Int32} {n : Nat}
/-- a reader of orders, new -/
def RDq (N : tP) (s0 : tM) (rd x ta : Nat) (tp : Nat → Int32) (n : Nat) (s1 : tM) (pl wd rw : Nat) : Prop := extN N s0 s1 ∧ PS0 N true rd x ta pl wd tp n s1 ∧ RWo s1 rd wd x rw 8 ∧ pl ≠ rw ∧ tR s1 rd 9 = x ∧ (∀ j, j < 5 → tI s1 rd j = 0) ∧ (s0.1 rd = none ∧ rd ≠ N.2.2 200) ∧ (s0.1 pl = none ∧ pl ≠ N.2.2 200) ∧ (s0.1 rw = none ∧ rw ≠ N.2.2 200) ∧ s1.1 rw ≠ none
theorem v_X21_initS (hT : TPo s0 x ta tp n) (hex : extN N s0 s) (hrd : s0.1 rd = none ∧ rd ≠ N.2.2 200) (h7 : tO s 18 rd) (hz : ∀ j, j < 5 → tI s rd j = 0) {k m : Nat} (hk : 3 ≤ k) (hm : 69 ≤ m) {K : tM → Prop} (hK : ∀ s1 pl wd rw, RDq N s0 rd x ta tp n s1 pl wd rw → K s1) : v_X21_init N rd x k m s K := by
  obtain ⟨g1, g2⟩ := hrd
  unfold v_X21_init v_X7_init
  refine ⟨h7, fun s2 e2 => ⟨by omega, by omega, fun q1 hq1 hq10 hq12 s3 e3 => ?_⟩⟩
  have a3 : tA s3 9 7 q1 := by
    rw [e3]
    exact ⟨if_pos rfl, hq10⟩
  have tx : ∀ {j : Nat} {i : Int32} {s' : tM}, s'.1 = s3.1 → j < 7 → nI j = i → tX s' 9 q1 i := fun h hj e => ⟨7, by unfold tA; rw [h]; exact a3, e ▸ vpk hj (by decide)⟩
  refine ⟨tx (j := 0) rfl (by decide) rfl, fun s4 e4 => ⟨tx (j := 1) (by rw [e4]; rfl) (by decide) rfl, fun s5 e5 => ⟨tx (j := 2) (by rw [e5, e4]; rfl) (by decide) rfl, fun s6 e6 => ⟨tx (j := 3) (by rw [e6, e5, e4]; rfl) (by decide) rfl, fun s7 e7 => ⟨tx (j := 4) (by rw [e7, e6, e5, e4]; rfl) (by decide) rfl, fun s8 e8 => ⟨tx (j := 5) (by rw [e8, e7, e6, e5, e4]; rfl) (by decide) rfl, fun s9 e9 => ⟨tx (j := 6) (by rw [e9, e8, e7, e6, e5, e4]; rfl) (by decide) rfl, fun s13 e13 => ?_⟩⟩⟩⟩⟩⟩⟩
  have ef : s13 = filR s3 q1 [N.2.2 8, N.2.2 36, N.2.2 37, N.2.2 38, N.2.2 39, N.2.2 1, N.2.2 2] 0 := by
    rw [e13, e9, e8, e7, e6, e5, e4]
    rfl
  clear e13 e9 e8 e7 e6 e5 e4 s9 s8 s7 s6 s5 s4 tx
  have c1 : s13.1 = s3.1 := by rw [ef]; exact (filR_s _ _ _ _).1
  have i13 : s13.2.1 = s3.2.1 := by rw [ef]; exact (filR_s _ _ _ _).2.1
  have w13 : ∀ w, w < 7 → tR s13 q1 w = N.2.2 ((wdI true).getD w 0) := fun w hw => by
    rw [ef]
    have := filR_at q1 [N.2.2 8, N.2.2 36, N.2.2 37, N.2.2 38, N.2.2 39, N.2.2 1, N.2.2 2] 0 s3 w hw
    rw [Nat.zero_add] at this
    rw [this]
    match w, hw with
    | 0, _ => rfl
    | 1, _ => rfl
    | 2, _ => rfl
    | 3, _ => rfl
    | 4, _ => rfl
    | 5, _ => rfl
    | 6, _ => rfl
  have x2 : extN N s0 s2 := e2 ▸ ext_R hex g1 g2
  have z1 : s0.1 q1 = none := ext_fr x2 hq1
  have x3 : extN N s0 s3 := e3 ▸ ext_n x2 z1 hq12
  have x13 : extN N s0 s13 := ef ▸ ext_fil x3 z1 hq12
  have al : ∀ {s' : tM} {q : Nat}, s'.1 rd = some (.inl 18) → s'.1 q = none → rd ≠ q := fun h1 h2 z => by
    rw [← z, h1] at h2
    cases h2
  have d2 : s2.1 rd = some (.inl 18) := by
    rw [e2]
    exact h7.1
  have rq1 : rd ≠ q1 := al d2 hq1
  have d3 : s3.1 rd = some (.inl 18) := by
    rw [e3]
    exact (if_neg rq1).trans d2
  have d13 : s13.1 rd = some (.inl 18) := by
    rw [c1]
    exact d3
  have rd0 := h7.2
  refine ⟨1, 50, by omega, by omega, ⟨d13, rd0⟩, Or.inr ⟨d13, rd0⟩, fun s14 e14 => ⟨by decide, by decide, fun q2 hq2 hq20 hq22 s15 e15 => ?_⟩⟩
  have x14 : extN N s0 s14 := e14 ▸ ext_R x13 g1 g2
  have z2 : s0.1 q2 = none := ext_fr x14 hq2
  have d14 : s14.1 rd = some (.inl 18) := by rw [e14]; exact d13
  have rq2 : rd ≠ q2 := al d14 hq2
  have d15 : s15.1 rd = some (.inl 18) := by rw [e15]; exact (if_neg rq2).trans d14
  refine ⟨Or.inr ⟨d15, rd0⟩, fun s16 e16 s17 e17 => ⟨by omega, by omega, fun q3 hq3 hq30 hq32 s18 e18 => ?_⟩⟩
  have x15 : extN N s0 s15 := e15 ▸ ext_n x14 z2 hq22
  have x17 : extN N s0 s17 := by
    rw [e17, e16]
    exact ext_R (ext_R x15 g1 g2) g1 g2
  have d17 : s17.1 rd = some (.inl 18) := by rw [e17, e16]; exact d15
  have z3 : s0.1 q3 = none := ext_fr x17 hq3
  have rq3 : rd ≠ q3 := al d17 hq3
  have d18 : s18.1 rd = some (.inl 18) := by rw [e18]; exact (if_neg rq3).trans d17
  have x18 : extN N s0 s18 := e18 ▸ ext_n x17 z3 hq32
  refine ⟨⟨d18, rd0⟩, fun s19 e19 => ?_⟩
  have x19 : extN N s0 s19 := e19 ▸ ext_R x18 g1 g2
  have d19 : s19.1 rd = some (.inl 18) := by rw [e19]; exact d18
  have n12 : q1 ≠ q2 := fun z => by
    have : s14.1 q1 = some (.inr (9, 7)) := by rw [e14]; show s13.1 q1 = _; rw [c1]; exact a3.1
    rw [z, hq2] at this
    cases this
  have k1 : s17.1 q1 = some (.inr (9, 7)) := by
    rw [e17, e16, e15]
    show (if q1 = q2 then _ else s14.1 q1) = _
    rw [if_neg n12, e14]
    show s13.1 q1 = _
    rw [c1]
    exact a3.1
  have k2 : s17.1 q2 = some (.inr (7, 50)) := by
    rw [e17, e16, e15]
    exact if_pos rfl
  have n13 : q1 ≠ q3 := fun z => by
    rw [z, hq3] at k1
    cases k1
  have n23 : q2 ≠ q3 := fun z => by
    rw [z, hq3] at k2
    cases k2
  have l1 : s19.1 q1 = some (.inr (9, 7)) := by rw [e19, e18]; exact (if_neg n13).trans k1
  have l2 : s19.1 q2 = some (.inr (7, 50)) := by rw [e19, e18]; exact (if_neg n23).trans k2
  have l3 : s19.1 q3 = some (.inr (8, 12)) := by rw [e19, e18]; exact if_pos rfl
  have r19 : ∀ {j : Nat}, j ≠ 8 → tR s19 rd j = tR s17 rd j := fun h => by
    rw [e19]
    refine (if_neg fun z => h z.2).trans ?_
    rw [e18]
    exact if_neg rq3
  have r8 : tR s19 rd 8 = q3 := by
    rw [e19]
    exact if_pos ⟨rfl, rfl⟩
  have r6 : tR s19 rd 6 = q1 := by
    rw [r19 (by decide), e17]
    exact if_pos ⟨rfl, rfl⟩
  have r5 : tR s19 rd 5 = q2 := by
    rw [r19 (by decide), e17, e16]
    exact (if_neg fun z => absurd z.2 (by decide)).trans (if_pos ⟨rfl, rfl⟩)
  have r7 : tR s19 rd 7 = x := by
    rw [r19 (by decide), e17, e16, e15, e14]
    exact (if_neg fun z => absurd z.2 (by decide)).trans ((if_neg fun z => absurd z.2 (by decide)).trans ((if_neg rq2).trans (if_pos ⟨rfl, rfl⟩)))
  have r9 : tR s19 rd 9 = x := by
    rw [r19 (by decide), e17, e16, e15, e14]
    refine (if_neg fun z => absurd z.2 (by decide)).trans ((if_neg fun z => absurd z.2 (by decide)).trans ((if_neg rq2).trans ((if_neg fun z => absurd z.2 (by decide)).trans ?_)))
    rw [ef]
    refine (congrFun (filR_o rq1 _ _ _) _).trans ?_
    rw [e3, e2]
    exact (if_neg rq1).trans (if_pos ⟨rfl, rfl⟩)
  have w24 : ∀ w, w < 7 → tR s19 q1 w = N.2.2 ((wdI true).getD w 0) := fun w hw => by
    rw [← w13 w hw, e19, e18, e17, e16, e15, e14]
    exact (if_neg fun z => rq1 z.1.symm).trans ((if_neg n13).trans ((if_neg fun z => rq1 z.1.symm).trans ((if_neg fun z => rq1 z.1.symm).trans ((if_neg n12).trans (if_neg fun z => rq1 z.1.symm)))))
  have ii : ∀ j, j < 5 → tI s19 rd j = 0 := fun j hj => by
    rw [e19, e18]
    refine (if_neg rq3).trans ?_
    rw [e17, e16, e15]
    refine (if_neg rq2).trans ?_
    rw [e14]
    show s13.2.1 rd j = 0
    rw [i13, e3]
    refine (if_neg rq1).trans ?_
    rw [e2]
    exact hz j hj
  have xne : ∀ {q : Nat}, s0.1 q = none → q ≠ x := fun h z => by
    rw [z, hT.1.1] at h
    cases h
  refine hK s19 q2 q1 q3 ⟨x19, ⟨⟨d19, rd0⟩, r7, r5, r6, (fun _ => r9), ⟨l2, hq20⟩, ⟨⟨l1, hq10⟩, w24⟩, TPo_e hT x19⟩, ⟨r8, ⟨l3, hq30⟩, rq3.symm, n13.symm, xne z3⟩, n23, r9, ii, ⟨g1, g2⟩, ⟨z2, hq22⟩, ⟨z3, hq32⟩, ?_⟩
  rw [l3]
  intro z
  cases z
end RO
