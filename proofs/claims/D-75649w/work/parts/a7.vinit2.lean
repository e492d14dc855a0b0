set_option maxRecDepth 100000
/-! ===== the system made anew: its parts ===== -/
section PB2
variable {N : tP} {s0 s s' sQ : tM} {R : Nat → Prop} {L : Nat → Nat} {PD PD' PI PI' : List (Nat × Nat)} {Q : Nat → Prop} {q tx : Nat}
theorem PC.eqL {L' : Nat → Nat} (h : PC N s0 R L PD PI Q sQ tx s) (hL : ∀ r, R r → L' r = L r) : PC N s0 R L' PD PI Q sQ tx s := by
  obtain ⟨⟨h1, h2, h3, h4, h5, h6⟩, h7, h8, h9⟩ := h
  refine ⟨⟨h1, fun r hr => by rw [hL r hr]; exact h2 r hr, fun r r' hr hr' e => h3 r r' hr hr' (by rw [← hL r hr, ← hL r' hr']; exact e), fun y hy hy0 => ?_, fun r j hr => by rw [hL r hr]; exact h5 r j hr, fun a ha => ?_⟩, fun h => by rw [hL _ h]; exact h7 h, fun h => by rw [hL _ h]; exact h8 h, fun h => by rw [hL _ h]; exact h9 h⟩
  · obtain ⟨a1, a2⟩ := h4 y hy hy0
    rw [hL _ a1, hL _ hy]
    exact ⟨a1, a2⟩
  · obtain ⟨a1, a2, a3, a4⟩ := h6 a ha
    exact ⟨a1, a2, a3, fun r hr => by rw [hL r hr]; exact a4 r hr⟩
/-- a role's cell is made (no map named) -/
theorem PC.add' (h : PC N s0 R L PD PI Q sQ tx s) {r : Nat} {c : Nat ⊕ (Nat × Nat)} (hr : ¬ R r) (hs : shp r = some c) (hq : s.1 q = none) (hq0 : ¬ q = 0) (hq2 : ¬ q = N.2.2 200) (hp : R (par r).1) (hpd : par r ∈ PD') (hP : ∀ p, p ∈ PD → p ∈ PD') (hI : ∀ p, p ∈ PI → p ∈ PI') (hi : ∀ j, (r, j) ∉ PI' → iv0 r j = 0) (hx : r ≠ 0 ∧ (r = 41 → (41, 1) ∈ PD')) : ∃ L', PC N s0 (fun x => R x ∨ x = r) L' PD' PI' Q sQ tx (tNew s q c) ∧ L' r = q ∧ ∀ x, R x → L' x = L x :=
  ⟨fun x => if x = r then q else L x, h.add hr hs hq hq0 hq2 hp hpd hP hI hi hx, if_pos rfl, fun x hx => if_neg fun (e : x = r) => hr (by rw [← e]; exact hx)⟩
/-- a role's cell is made, and the reference to it set -/
theorem PC.ad (h : PC N s0 R L PD PI Q sQ tx s) {r p j : Nat} {c : Nat ⊕ (Nat × Nat)} (hr : ¬ R r) (h0 : r ≠ 0) (hs : shp r = some c) (hq : s.1 q = none) (hq0 : ¬ q = 0) (hq2 : ¬ q = N.2.2 200) (hp : par r = (p, j)) (hpR : R p) (hi : ∀ j, iv0 r j = 0) (hj : (p, j) ∉ PD) (h41 : r ≠ 41) : ∃ L', PC N s0 (fun x => R x ∨ x = r) L' PD PI Q sQ tx (tsR (tNew s q c) (L p) j q) ∧ L' r = q ∧ ∀ x, R x → L' x = L x := by
  obtain ⟨L', h', e1, e2⟩ := h.add' (PD' := (p, j) :: PD) (PI' := PI) hr hs hq hq0 hq2 (by rw [hp]; exact hpR) (by rw [hp]; exact List.mem_cons_self) (fun _ hx => List.mem_cons_of_mem _ hx) (fun _ hx => hx) (fun j _ => hi j) ⟨h0, fun z => absurd z h41⟩
  refine ⟨L', ?_, e1, e2⟩
  have := h'.set (PD' := PD) (q := r) (r := p) (j := j) (Or.inr rfl) h0 hp (fun x hx => by
    by_cases e : x = (p, j)
    · exact Or.inl e
    · exact Or.inr fun z => (List.mem_cons.mp z).elim e hx)
  rw [e1, e2 p hpR] at this
  exact this
theorem tMk3_1 {m : tM} {q tO N tP M t1 K : Nat} : ∀ (k b : Nat), (b < q ∨ q + k * (1 + M) < b) → (tMk3 m q tO N tP M t1 K k).1 b = m.1 b
  | 0, b, h => by
    show (if b = q then some (Sum.inr (tO, N)) else m.1 b) = _
    rw [if_neg (by omega)]
  | k + 1, b, h => by
    show (tMk (tMk3 m q tO N tP M t1 K k) (q + 1 + k * (1 + M)) tP M t1 K M).1 b = _
    have e : (k + 1) * (1 + M) = k * (1 + M) + (1 + M) := Nat.succ_mul k (1 + M)
    rw [e] at h
    have ih := tMk3_1 (m := m) (q := q) (tO := tO) (N := N) (tP := tP) (M := M) (t1 := t1) (K := K) k b (by omega)
    generalize k * (1 + M) = z at h ih ⊢
    rw [tMk_1, if_neg (by omega), if_neg (by omega)]
    exact ih
/-- a row of rows is made -/
theorem PC.mkL (h : PC N s0 R L PD PI Q sQ tx s) {rp rb t0 n0 t1 n1 : Nat} (hs : shp rp = some (.inr (t0, n0))) (hsb : ∀ i, i < n0 → shp (rb + i) = some (.inr (t1, n1))) (hpb : ∀ i, i < n0 → par (rb + i) = (rp, i)) (hn : ¬ R rp) (hnb : ∀ i, i < n0 → ¬ R (rb + i)) (hne : rp < rb) (hp : R (par rp).1) (hpd : par rp ∈ PD') (hP : ∀ p, p ∈ PD → p ∈ PD') (hpn : ∀ j, (rp, j) ∉ PD') (hi : ∀ r j, r = rp ∨ rb ≤ r → iv0 r j = 0) (h4 : rp ≠ 0 ∧ rp ≠ 41 ∧ 41 < rb) (hq0 : ¬ q = 0) (hq2 : ∀ j, ¬ q + j = N.2.2 200) : ∀ k, k ≤ n0 → (∀ j, j ≤ k → s.1 (q + j) = none) → ∃ L', PC N s0 (fun x => R x ∨ x = rp ∨ (rb ≤ x ∧ x < rb + k)) L' PD' PI Q sQ tx (tMk s q t0 n0 t1 n1 k) ∧ L' rp = q ∧ (∀ i, i < k → L' (rb + i) = q + 1 + i) ∧ ∀ x, R x → L' x = L x
  | 0, _, hf => by
    obtain ⟨L', h', e1, e2⟩ := h.add' (PD' := PD') (PI' := PI) hn hs (hf 0 (Nat.le_refl _)) hq0 (hq2 0) hp hpd hP (fun _ hx => hx) (fun j _ => hi _ j (Or.inl rfl)) ⟨by omega, fun z => by omega⟩
    exact ⟨L', h'.eqv (fun r => ⟨fun z => z.imp id (fun z => z.elim id fun z => absurd z.2 (by omega)), fun z => z.imp id Or.inl⟩), e1, fun i hi => absurd hi (Nat.not_lt_zero _), e2⟩
  | k + 1, hk, hf => by
    obtain ⟨L1, h1, e1, e2, e3⟩ := PC.mkL h hs hsb hpb hn hnb hne hp hpd hP hpn hi h4 hq0 hq2 k (by omega) (fun j hj => hf j (by omega))
    have hfree : (tMk s q t0 n0 t1 n1 k).1 (q + 1 + k) = none := by
      rw [tMk_1, if_neg (by omega), if_neg (by omega)]
      have := hf (k + 1) (Nat.le_refl _)
      rw [show q + (k + 1) = q + 1 + k by omega] at this
      exact this
    obtain ⟨L2, h2, g1, g2⟩ := h1.ad (r := rb + k) (p := rp) (j := k) (q := q + 1 + k) (c := .inr (t1, n1)) (fun z => z.elim (hnb k (by omega)) (fun z => z.elim (fun z => by omega) (fun z => by omega))) (by omega) (hsb k (by omega)) hfree (by omega) (by have := hq2 (k + 1); rw [show q + (k + 1) = q + 1 + k by omega] at this; exact this) (hpb k (by omega)) (Or.inr (Or.inl rfl)) (fun j => hi _ j (Or.inr (by omega))) (hpn k) (by omega)
    rw [e1] at h2
    refine ⟨L2, h2.eqv (fun r => ⟨fun z => ?_, fun z => ?_⟩), (g2 rp (Or.inr (Or.inl rfl))).trans e1, fun i hi => ?_, fun x hx => (g2 x (Or.inl hx)).trans (e3 x hx)⟩
    · rcases z with z | z | z
      · exact Or.inl (Or.inl z)
      · exact Or.inl (Or.inr (Or.inl z))
      · by_cases c : r = rb + k
        · exact Or.inr c
        · exact Or.inl (Or.inr (Or.inr (by omega)))
    · rcases z with (z | z | z) | z
      · exact Or.inl z
      · exact Or.inr (Or.inl z)
      · exact Or.inr (Or.inr (by omega))
      · exact Or.inr (Or.inr (by omega))
    · by_cases c : i = k
      · rw [c]
        exact g1
      · exact (g2 (rb + i) (Or.inr (Or.inr (by omega)))).trans (e2 i (by omega))
/-- a row of rows of rows is made: rows ra + i, in them rc + (M * i + b) -/
theorem PC.mk3L (h : PC N s0 R L PD PI Q sQ tx s) {rp ra rc t0 n0 tP M t1 n1 : Nat} (hs : shp rp = some (.inr (t0, n0))) (hsa : ∀ i, i < n0 → shp (ra + i) = some (.inr (tP, M))) (hsc : ∀ i b, i < n0 → b < M → shp (rc + (M * i + b)) = some (.inr (t1, n1))) (hpa : ∀ i, i < n0 → par (ra + i) = (rp, i)) (hpc : ∀ i b, i < n0 → b < M → par (rc + (M * i + b)) = (ra + i, b)) (hn : ¬ R rp) (hna : ∀ i, i < n0 → ¬ R (ra + i)) (hnc : ∀ x, rc ≤ x → x < rc + M * n0 → ¬ R x) (hne : rp < ra ∧ ra + n0 ≤ rc) (hp : R (par rp).1) (hpd : par rp ∈ PD') (hP : ∀ p, p ∈ PD → p ∈ PD') (hpn : ∀ r j, r = rp ∨ ra ≤ r → (r, j) ∉ PD') (hi : ∀ r j, r = rp ∨ ra ≤ r → iv0 r j = 0) (h4 : rp ≠ 0 ∧ rp ≠ 41 ∧ 41 < ra) (hq0 : ¬ q = 0) (hq2 : ∀ j, ¬ q + j = N.2.2 200) : ∀ k, k ≤ n0 → (∀ j, j ≤ k * (1 + M) → s.1 (q + j) = none) → ∃ L', PC N s0 (fun x => R x ∨ x = rp ∨ (ra ≤ x ∧ x < ra + k) ∨ (rc ≤ x ∧ x < rc + M * k)) L' PD' PI Q sQ tx (tMk3 s q t0 n0 tP M t1 n1 k) ∧ L' rp = q ∧ ∀ x, R x → L' x = L x
  | 0, _, hf => by
    obtain ⟨L', h', e1, e2⟩ := h.add' (PD' := PD') (PI' := PI) hn hs (hf 0 (Nat.zero_le _)) hq0 (hq2 0) hp hpd hP (fun _ hx => hx) (fun j _ => hi _ j (Or.inl rfl)) ⟨by omega, fun z => by omega⟩
    exact ⟨L', h'.eqv (fun r => ⟨fun z => z.imp id (fun z => z.elim id fun z => z.elim (fun z => absurd z.2 (by omega)) (fun z => absurd z.2 (by omega))), fun z => z.imp id Or.inl⟩), e1, e2⟩
  | k + 1, hk, hf => by
    have ek : (k + 1) * (1 + M) = k * (1 + M) + (1 + M) := Nat.succ_mul k (1 + M)
    have eM : M * (k + 1) = M * k + M := Nat.mul_succ M k
    have eN : M * k + M ≤ M * n0 := by
      rw [← eM]
      exact Nat.mul_le_mul_left M hk
    obtain ⟨L1, h1, e1, e3⟩ := PC.mk3L h hs hsa hsc hpa hpc hn hna hnc hne hp hpd hP hpn hi h4 hq0 hq2 k (by omega) (fun j hj => hf j (by omega))
    have hfree : ∀ j, j ≤ M → (tMk3 s q t0 n0 tP M t1 n1 k).1 (q + 1 + k * (1 + M) + j) = none := fun j hj => by
      rw [tMk3_1 k _ (by omega)]
      have := hf (1 + k * (1 + M) + j) (by omega)
      rw [show q + (1 + k * (1 + M) + j) = q + 1 + k * (1 + M) + j by omega] at this
      exact this
    have pk := hpa k (by omega)
    obtain ⟨L2, h2, g1, -, g3⟩ := PC.mkL (PD' := (rp, k) :: PD') (q := q + 1 + k * (1 + M)) (t0 := tP) (n0 := M) (t1 := t1) (n1 := n1) h1 (rp := ra + k) (rb := rc + M * k) (hsa k (by omega)) (fun i hi => by rw [Nat.add_assoc]; exact hsc k i (by omega) hi) (fun i hi => by rw [Nat.add_assoc]; exact hpc k i (by omega) hi) (fun z => by
        rcases z with z | z | z | z
        · exact hna k (by omega) z
        · omega
        · omega
        · omega) (fun i hi z => by
        rcases z with z | z | z | z
        · exact hnc _ (by omega) (by omega) z
        · omega
        · omega
        · omega) (by omega) (by rw [pk]; exact Or.inr (Or.inl rfl)) (by rw [pk]; exact List.mem_cons_self) (fun _ hx => List.mem_cons_of_mem _ hx) (fun j z => (List.mem_cons.mp z).elim (fun e => by have := congrArg Prod.fst e; dsimp only at this; omega) (hpn _ j (Or.inr (by omega)))) (fun r j hr => hi r j (by omega)) (by omega) (by omega) (fun j => by have := hq2 (1 + k * (1 + M) + j); rw [show q + (1 + k * (1 + M) + j) = q + 1 + k * (1 + M) + j by omega] at this; exact this) M (Nat.le_refl _) hfree
    have h3 := h2.set (PD' := PD') (q := ra + k) (r := rp) (j := k) (Or.inr (Or.inl rfl)) (by omega) pk (fun x hx => by
      by_cases e : x = (rp, k)
      · exact Or.inl e
      · exact Or.inr fun z => (List.mem_cons.mp z).elim e hx)
    have r1 : L2 rp = q := (g3 rp (Or.inr (Or.inl rfl))).trans e1
    rw [g1, r1] at h3
    refine ⟨L2, h3.eqv (fun r => ⟨fun z => ?_, fun z => ?_⟩), r1, fun x hx => (g3 x (Or.inl hx)).trans (e3 x hx)⟩
    · rw [eM] at z
      rcases z with z | z | z | z
      · exact Or.inl (Or.inl z)
      · exact Or.inl (Or.inr (Or.inl z))
      · by_cases c : r = ra + k
        · exact Or.inr (Or.inl c)
        · exact Or.inl (Or.inr (Or.inr (Or.inl (by omega))))
      · by_cases c : r < rc + M * k
        · exact Or.inl (Or.inr (Or.inr (Or.inr (by omega))))
        · exact Or.inr (Or.inr (by omega))
    · rw [eM]
      rcases z with (z | z | z | z) | z | z
      · exact Or.inl z
      · exact Or.inr (Or.inl z)
      · exact Or.inr (Or.inr (Or.inl (by omega)))
      · exact Or.inr (Or.inr (Or.inr (by omega)))
      · exact Or.inr (Or.inr (Or.inl (by omega)))
      · exact Or.inr (Or.inr (Or.inr (by omega)))
/-- books -/
theorem v_bkS (h : PC N s0 R L PD PI Q sQ tx s) {b : Nat} (hb : isBk b) (hr : R b) (n2 : ¬ R (200 + b)) (n4 : ¬ R (400 + b)) (hj : ∀ j, (b, j) ∉ PD) {k n : Nat} (hk : 2 ≤ k) (hn : 24 ≤ n) {K : tM → Prop} (hK : ∀ s' L', PC N s0 (fun x => R x ∨ x = 200 + b ∨ x = 400 + b) L' PD PI Q sQ tx s' → (∀ x, R x → L' x = L x) → K s') : v_X2_init N (L b) k n s K := by
  obtain ⟨sb, su, sh⟩ := shp_bk hb
  have pu : par (200 + b) = (b, 0) := by
    unfold par
    rcases hb with rfl | rfl | rfl | rfl | hb | hb
    all_goals first | rfl | (rw [if_neg (by omega), if_neg (by omega), if_neg (by omega), if_pos (by omega)]; exact congrArg (fun z => (z, 0)) (by omega))
  have ph : par (400 + b) = (b, 1) := by
    unfold par
    rcases hb with rfl | rfl | rfl | rfl | hb | hb
    all_goals first | rfl | (rw [if_neg (by omega), if_neg (by omega), if_neg (by omega), if_neg (by omega), if_pos (by omega)]; exact congrArg (fun z => (z, 1)) (by omega))
  have i0 : ∀ r j, 200 ≤ r → iv0 r j = 0 := fun r j h => by
    unfold iv0
    rw [if_neg (by omega), if_neg (by omega), if_neg (by omega), if_neg (by omega)]
  unfold v_X2_init
  refine ⟨h.o hr sb, by omega, by omega, fun q1 a1 a2 a3 s1 e1 => ⟨?_, fun s2 e2 => ⟨by omega, by omega, fun q2 b1 b2 b3 s3 e3 => ⟨?_, fun s4 e4 => ?_⟩⟩⟩⟩
  · rw [e1]
    exact ⟨(if_neg fun e => h.al hr (by rw [e]; exact a1)).trans (h.o hr sb).1, (h.o hr sb).2⟩
  all_goals
    obtain ⟨L1, h1, u1, u2⟩ := h.ad (r := 200 + b) n2 (by omega) su a1 a2 a3 pu hr (fun j => i0 _ j (by omega)) (hj 0) (by omega)
    rw [← e1, ← e2] at h1
  · rw [e3]
    have o := h1.o (Or.inl hr) sb
    rw [u2 b hr] at o
    have := h1.al (Or.inl hr)
    rw [u2 b hr] at this
    exact ⟨(if_neg fun e => this (by rw [e]; exact b1)).trans o.1, o.2⟩
  · obtain ⟨L2, h2, w1, w2⟩ := h1.ad (r := 400 + b) (fun z => z.elim n4 (fun z => by omega)) (by omega) sh b1 b2 b3 ph (Or.inl hr) (fun j => i0 _ j (by omega)) (hj 1) (by omega)
    rw [u2 b hr, ← e3, ← e4] at h2
    exact hK s4 L2 (h2.eqv (fun r => or_assoc.symm)) (fun x hx => (w2 x (Or.inl hx)).trans (u2 x hx))
/-- what is asked -/
theorem v_askS (h : PC N s0 R L PD PI Q sQ tx s) {r rr : Nat} (hc : (r = 6 ∧ rr = 33) ∨ (r = 7 ∧ rr = 34)) (hr : R r) (n2 : ¬ R rr) (hj : ∀ j, (r, j) ∉ PD) {k n : Nat} (hk : 1 ≤ k) (hn : 10 ≤ n) {K : tM → Prop} (hK : ∀ s' L', PC N s0 (fun x => R x ∨ x = rr) L' PD PI Q sQ tx s' → (∀ x, R x → L' x = L x) → K s') : v_X4_init N (L r) k n s K := by
  have sr : shp r = some (.inl 4) ∧ shp rr = some (.inr (1, 10)) ∧ par rr = (r, 0) ∧ rr ≠ 0 ∧ ∀ j, iv0 rr j = 0 := by
    rcases hc with ⟨rfl, rfl⟩ | ⟨rfl, rfl⟩
    all_goals exact ⟨rfl, rfl, rfl, by decide, fun j => by unfold iv0; rw [if_neg (by omega), if_neg (by omega), if_neg (by omega), if_neg (by omega)]⟩
  obtain ⟨s1', s2', s3', s4', s5'⟩ := sr
  unfold v_X4_init
  refine ⟨h.o hr s1', hk, hn, fun q1 a1 a2 a3 s1 e1 => ⟨?_, fun s2 e2 => ?_⟩⟩
  · rw [e1]
    exact ⟨(if_neg fun e => h.al hr (by rw [e]; exact a1)).trans (h.o hr s1').1, (h.o hr s1').2⟩
  · obtain ⟨L1, h1, u1, u2⟩ := h.ad (r := rr) n2 s4' s2' a1 a2 a3 s3' hr s5' (hj 0) (by omega)
    rw [← e1, ← e2] at h1
    exact hK s2 L1 h1 u2
end PB2
