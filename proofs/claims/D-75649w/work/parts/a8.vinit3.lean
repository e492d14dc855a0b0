set_option maxRecDepth 100000
/-! ===== the system made anew: rows of steps, the desk ===== -/
/-- a row of steps: its role, its row's, its books' -/
def stD (r1 rr B : Nat) : Prop := (r1 = 2 ∧ rr = 31 ∧ B = 100) ∨ (r1 = 3 ∧ rr = 32 ∧ B = 120)
section PB3
variable {N : tP} {s0 s s' sQ : tM} {R : Nat → Prop} {L L0 : Nat → Nat} {PD PD' PI PI' : List (Nat × Nat)} {Q : Nat → Prop} {q tx : Nat} {r1 rr B : Nat}
theorem stD_p (hd : stD r1 rr B) : par rr = (r1, 0) ∧ shp r1 = some (.inl 3) ∧ shp rr = some (.inr (5, 16)) ∧ (∀ i, i < 16 → isBk (B + i) ∧ par (B + i) = (rr, i)) ∧ (r1 = 2 ∨ r1 = 3) ∧ (rr = 31 ∨ rr = 32) ∧ (B = 100 ∨ B = 120) := by
  rcases hd with ⟨rfl, rfl, rfl⟩ | ⟨rfl, rfl, rfl⟩
  · exact ⟨rfl, rfl, rfl, fun i hi => ⟨Or.inr (Or.inr (Or.inr (Or.inr (Or.inl (by omega))))), by unfold par; rw [if_neg (by omega), if_pos (by omega), Nat.add_sub_cancel_left]⟩, Or.inl rfl, Or.inl rfl, Or.inl rfl⟩
  · exact ⟨rfl, rfl, rfl, fun i hi => ⟨Or.inr (Or.inr (Or.inr (Or.inr (Or.inr (by omega))))), by unfold par; rw [if_neg (by omega), if_neg (by omega), if_pos (by omega), Nat.add_sub_cancel_left]⟩, Or.inr rfl, Or.inr rfl, Or.inr rfl⟩
theorem iv0_z {r j : Nat} (h : r ≠ 42 ∧ r ≠ 40 ∧ r ≠ 0) : iv0 r j = 0 := by
  unfold iv0
  rw [if_neg (by omega), if_neg (by omega), if_neg (by omega), if_neg (by omega)]
/-- the roles of a row of steps, i books made -/
def stR (R : Nat → Prop) (rr B i : Nat) : Nat → Prop := fun x => R x ∨ x = rr ∨ (B ≤ x ∧ x < B + i) ∨ (200 + B ≤ x ∧ x < 200 + B + i) ∨ (400 + B ≤ x ∧ x < 400 + B + i)
theorem v_stL (hd : stD r1 rr B) (hr1 : R r1) (hnR : ∀ i, i < 16 → ¬ R (B + i) ∧ ¬ R (200 + (B + i)) ∧ ¬ R (400 + (B + i))) (hpd : ∀ p, p ∈ PD → p.1 = 0) {Kr : tM → Prop} {K : Nat → Nat → tM → Prop} (hK : ∀ s L k n, PC N s0 (stR R rr B 16) L PD PI Q sQ tx s → (∀ x, R x → L x = L0 x) → K k n s) : ∀ (f t i k n : Nat) (s : tM) (L : Nat → Nat), i + f = 16 → f < t → 3 * f ≤ k → 28 * f ≤ n → PC N s0 (stR R rr B i) L PD PI Q sQ tx s → (∀ x, R x → L x = L0 x) → v_X3_init_15 N (L0 r1) Kr K t (nI i) k n s
  | _, 0, _, _, _, _, _, _, h, _, _, _, _ => absurd h (Nat.not_lt_zero _)
  | f, t + 1, i, k, n, s, L, hf, ht, hk, hn, h, hL => by
    obtain ⟨p1, p2, p3, p4, p5, p6, p7⟩ := stD_p hd
    unfold v_X3_init_15
    rw [show (16 : Int32) = nI 16 from rfl, nI_lle (by omega) (by omega)]
    refine ⟨fun z => ?_, fun z => ?_⟩
    · have : i = 16 := by omega
      subst this
      exact hK s L k n h hL
    · obtain ⟨b1, b2⟩ := p4 i (by omega)
      obtain ⟨n1, n2, n3⟩ := hnR i (by omega)
      obtain ⟨sb, su, sh⟩ := shp_bk b1
      have hR1 : stR R rr B i r1 := Or.inl hr1
      have hRr : stR R rr B i rr := Or.inr (Or.inl rfl)
      have o1 := h.o hR1 p2
      rw [hL r1 hr1] at o1
      have npd : ∀ j r, r ≠ 0 → (r, j) ∉ PD := fun j r hr hm => hr (hpd _ hm)
      have rrow : tR s (L0 r1) 0 = L rr := by
        have := h.rf hRr (by omega) p1 (npd _ _ (by omega))
        rw [hL r1 hr1] at this
        exact this
      refine ⟨o1, by omega, by omega, fun q hq hq0 hq2 s1 e1 => ?_⟩
      obtain ⟨L1, h1, u1, u2⟩ := h.add' (r := B + i) (c := .inl 2) (PD' := (rr, i) :: PD) (PI' := PI) (fun z => by
        rcases z with z | z | z | z | z
        · exact n1 z
        all_goals omega) sb hq hq0 hq2 (by rw [b2]; exact hRr) (by rw [b2]; exact List.mem_cons_self) (fun _ hx => List.mem_cons_of_mem _ hx) (fun _ hx => hx) (fun j _ => iv0_z ⟨by omega, by omega, by omega⟩) ⟨by omega, fun z => by omega⟩
      rw [← e1] at h1
      rw [rrow]
      refine ⟨2, 24, by omega, by omega, ?_⟩
      rw [← u1]
      refine v_bkS h1 b1 (Or.inr rfl) (fun z => ?_) (fun z => ?_) (fun j z => (List.mem_cons.mp z).elim (fun e => by have := congrArg Prod.fst e; dsimp only at this; omega) (npd _ _ (by omega))) (Nat.le_refl _) (Nat.le_refl _) (fun s2 L2 h2 w2 => ?_)
      · rcases z with (z | z | z | z | z) | z
        · exact n2 z
        all_goals omega
      · rcases z with (z | z | z | z | z) | z
        · exact n3 z
        all_goals omega
      · have eB : L2 (B + i) = L1 (B + i) := w2 _ (Or.inr rfl)
        have er : L2 rr = L rr := (w2 rr (Or.inl hRr)).trans (u2 rr hRr)
        have ar := h2.a (Or.inl (Or.inl hRr)) p3
        rw [er] at ar
        have ob := h2.o (Or.inl (Or.inr rfl)) sb
        rw [eB] at ob
        refine ⟨⟨16, ar, vpk (by omega) (by decide)⟩, ob, fun s3 e3 x hx => ?_⟩
        rw [nI_clamp (by omega)] at e3
        rw [nI_1] at hx
        rw [hx]
        have h3 := h2.set (PD' := PD) (q := B + i) (r := rr) (j := i) (Or.inl (Or.inr rfl)) (by omega) b2 (fun x hx => by
          by_cases e : x = (rr, i)
          · exact Or.inl e
          · exact Or.inr fun z => (List.mem_cons.mp z).elim e hx)
        rw [er, eB, ← e3] at h3
        refine v_stL hd hr1 hnR hpd hK (f - 1) t (i + 1) _ _ s3 L2 (by omega) (by omega) (by omega) (by omega) (h3.eqv fun r => ⟨fun z => ?_, fun z => ?_⟩) (fun x hx => (w2 x (Or.inl (Or.inl hx))).trans ((u2 x (Or.inl hx)).trans (hL x hx)))
        · rcases z with z | z | z | z | z
          · exact Or.inl (Or.inl (Or.inl z))
          · exact Or.inl (Or.inl (Or.inr (Or.inl z)))
          · by_cases c : r = B + i
            · exact Or.inl (Or.inr c)
            · exact Or.inl (Or.inl (Or.inr (Or.inr (Or.inl (by omega)))))
          · by_cases c : r = 200 + (B + i)
            · exact Or.inr (Or.inl c)
            · exact Or.inl (Or.inl (Or.inr (Or.inr (Or.inr (Or.inl (by omega))))))
          · by_cases c : r = 400 + (B + i)
            · exact Or.inr (Or.inr c)
            · exact Or.inl (Or.inl (Or.inr (Or.inr (Or.inr (Or.inr (by omega))))))
        · rcases z with ((z | z | z | z | z) | z) | z | z
          · exact Or.inl z
          · exact Or.inr (Or.inl z)
          · exact Or.inr (Or.inr (Or.inl (by omega)))
          · exact Or.inr (Or.inr (Or.inr (Or.inl (by omega))))
          · exact Or.inr (Or.inr (Or.inr (Or.inr (by omega))))
          · exact Or.inr (Or.inr (Or.inl (by omega)))
          · exact Or.inr (Or.inr (Or.inr (Or.inl (by omega))))
          · exact Or.inr (Or.inr (Or.inr (Or.inr (by omega))))
theorem v_stepsS (hd : stD r1 rr B) (h : PC N s0 R L PD PI Q sQ tx s) (hr1 : R r1) (hnr : ¬ R rr) (hnR : ∀ i, i < 16 → ¬ R (B + i) ∧ ¬ R (200 + (B + i)) ∧ ¬ R (400 + (B + i))) (hpd : ∀ p, p ∈ PD → p.1 = 0) (hN : 17 ≤ N.1) {k n : Nat} (hk : 50 ≤ k) (hn : 500 ≤ n) {K : tM → Prop} (hK : ∀ s' L', PC N s0 (stR R rr B 16) L' PD PI Q sQ tx s' → (∀ x, R x → L' x = L x) → K s') : v_X3_init N (L r1) k n s K := by
  obtain ⟨p1, p2, p3, p4, p5, p6, p7⟩ := stD_p hd
  have npd : ∀ j r, r ≠ 0 → (r, j) ∉ PD := fun j r hr hm => hr (hpd _ hm)
  unfold v_X3_init
  refine ⟨h.o hr1 p2, by omega, by omega, fun q hq hq0 hq2 s1 e1 => ⟨?_, fun s2 e2 => ?_⟩⟩
  · rw [e1]
    exact ⟨(if_neg fun e => h.al hr1 (by rw [e]; exact hq)).trans (h.o hr1 p2).1, (h.o hr1 p2).2⟩
  · obtain ⟨L1, h1, u1, u2⟩ := h.ad (r := rr) hnr (by omega) p3 hq hq0 hq2 p1 hr1 (fun j => iv0_z ⟨by omega, by omega, by omega⟩) (npd _ _ (by omega)) (by omega)
    rw [← e1, ← e2] at h1
    refine v_stL hd hr1 hnR hpd (fun s L' k n h' e => hK s L' h' e) 16 N.1 0 _ _ s2 L1 rfl (by omega) (by omega) (by omega) (h1.eqv fun r => ⟨fun z => ?_, fun z => ?_⟩) u2
    · rcases z with z | z | z | z | z
      · exact Or.inl z
      · exact Or.inr z
      all_goals omega
    · rcases z with z | z
      · exact Or.inl z
      · exact Or.inr (Or.inl z)
/-- the desk's roles -/
def dkR0 (R : Nat → Prop) : Nat → Prop := fun x => R x ∨ x = 41 ∨ x = 42 ∨ x = 43 ∨ (50 ≤ x ∧ x < 56) ∨ x = 44 ∨ x = 244 ∨ x = 444
theorem v_dkS (h : PC N s0 R L PD PI Q sQ tx s) (h40 : R 40) (hnR : ∀ x, 41 ≤ x → ¬ R x) (hpd : ∀ p, p ∈ PD → p.1 = 0) (hpi : PI = [(40, 6), (0, 11), (0, 13), (0, 27)]) {k n : Nat} (hk : 20 ≤ k) (hn : 100 ≤ n) {K : tM → Prop} (hK : ∀ s' L', PC N s0 (dkR0 R) L' PD [(0, 11), (0, 13), (0, 27)] Q sQ tx s' → (∀ x, R x → L' x = L x) → K s') : v_X1_init N (L 40) k n s K := by
  have npd : ∀ j r, r ≠ 0 → (r, j) ∉ PD := fun j r hr hm => hr (hpd _ hm)
  subst hpi
  have o40 : ∀ {R' : Nat → Prop} {L' : Nat → Nat} {PD' PI' : List (Nat × Nat)} {s' : tM}, PC N s0 R' L' PD' PI' Q sQ tx s' → (∀ x, R x → L' x = L x) → (∀ x, R x → R' x) → tO s' 1 (L 40) := fun h' e hR => by
    rw [← e 40 h40]
    exact h'.o (hR 40 h40) rfl
  unfold v_X1_init
  refine ⟨h.o h40 rfl, by omega, by omega, fun q1 a1 a2 a3 s1 e1 => ?_⟩
  -- the list
  obtain ⟨L1, h1, u1, v1⟩ := h.add' (r := 41) (c := .inl 20) (PD' := (41, 1) :: (40, 0) :: PD) (PI' := [(40, 6), (0, 11), (0, 13), (0, 27)]) (hnR 41 (by omega)) rfl a1 a2 a3 h40 (List.mem_cons_of_mem _ List.mem_cons_self) (fun _ hx => List.mem_cons_of_mem _ (List.mem_cons_of_mem _ hx)) (fun _ hx => hx) (fun j _ => iv0_z ⟨by omega, by omega, by omega⟩) ⟨by omega, fun _ => List.mem_cons_self⟩
  rw [← e1] at h1
  have o41 := h1.o (r := 41) (Or.inr rfl) rfl
  rw [u1] at o41
  unfold v_J2_init v_J1_init v_J0_init
  refine ⟨o41, o41, o41, o41, fun s2 e2 => ?_⟩
  have h2 := h1.wI (PI' := [(40, 6), (0, 11), (0, 13), (0, 27)]) (r := 41) (j := 0) (v := 0) (Or.inr rfl) rfl (fun p hp => Or.inr hp)
  rw [u1, ← e2] at h2
  have o42 := h2.o (r := 41) (Or.inr rfl) rfl
  rw [u1] at o42
  refine ⟨o42, fun s3 e3 => ?_⟩
  have h3 := h2.s41 (PD' := (40, 0) :: PD) (Or.inr rfl) (fun p hp => by
    by_cases e : p = (41, 1)
    · exact Or.inl e
    · exact Or.inr fun z => (List.mem_cons.mp z).elim e hp)
  rw [u1, ← e3] at h3
  refine ⟨o40 h3 v1 fun _ => Or.inl, fun s4 e4 => ?_⟩
  have h4 := h3.set (PD' := PD) (q := 41) (r := 40) (j := 0) (Or.inr rfl) (by decide) rfl (fun x hx => by
    by_cases e : x = (40, 0)
    · exact Or.inl e
    · exact Or.inr fun z => (List.mem_cons.mp z).elim e hx)
  rw [u1, v1 40 h40, ← e4] at h4
  refine ⟨by omega, by omega, fun q2 b1 b2 b3 s5 e5 => ?_⟩
  -- the terms
  obtain ⟨L2, h5, u2, v2'⟩ := h4.add' (r := 42) (c := .inr (0, 5)) (PD' := (40, 1) :: PD) (PI' := [(42, 1), (42, 4), (40, 6), (0, 11), (0, 13), (0, 27)]) (fun z => z.elim (hnR 42 (by omega)) (by omega)) rfl b1 b2 b3 (Or.inl h40) List.mem_cons_self (fun _ hx => List.mem_cons_of_mem _ hx) (fun _ hx => List.mem_cons_of_mem _ (List.mem_cons_of_mem _ hx)) (fun j hj => by
    unfold iv0
    by_cases c1 : j = 1
    · exact absurd (by rw [c1]; exact List.mem_cons_self) hj
    · by_cases c4 : j = 4
      · exact absurd (by rw [c4]; exact List.mem_cons_of_mem _ List.mem_cons_self) hj
      · rw [if_neg (by omega), if_neg (by omega), if_neg (by omega), if_neg (by omega)]) ⟨by omega, fun z => by omega⟩
  rw [← e5] at h5
  have v2 : ∀ x, R x → L2 x = L x := fun x hx => (v2' x (Or.inl hx)).trans (v1 x hx)
  have a42 : ∀ {PD' PI' : List (Nat × Nat)} {s' : tM}, PC N s0 (fun x => (R x ∨ x = 41) ∨ x = 42) L2 PD' PI' Q sQ tx s' → ∀ i, i < 5 → ∀ v : Int32, nI i = v → tX s' 0 q2 v := fun h' i hi v hv => by
    have := h'.a (r := 42) (t := 0) (n := 5) (Or.inr rfl) rfl
    rw [u2] at this
    exact ⟨5, this, hv ▸ vpk hi (by decide)⟩
  refine ⟨a42 h5 0 (by decide) _ rfl, fun s6 e6 => ?_⟩
  have h6 := h5.wI (PI' := [(42, 1), (42, 4), (40, 6), (0, 11), (0, 13), (0, 27)]) (r := 42) (j := 0) (v := 0) (Or.inr rfl) rfl (fun p hp => Or.inr hp)
  rw [u2, ← e6] at h6
  refine ⟨a42 h6 1 (by decide) _ rfl, fun s7 e7 => ?_⟩
  have h7 := h6.wI (PI' := [(42, 4), (40, 6), (0, 11), (0, 13), (0, 27)]) (r := 42) (j := 1) (v := 1) (Or.inr rfl) rfl (fun p hp => by
    by_cases e : p = (42, 1)
    · exact Or.inl e
    · exact Or.inr fun z => (List.mem_cons.mp z).elim e hp)
  rw [u2, ← e7] at h7
  refine ⟨a42 h7 2 (by decide) _ rfl, fun s8 e8 => ?_⟩
  have h8 := h7.wI (PI' := [(42, 4), (40, 6), (0, 11), (0, 13), (0, 27)]) (r := 42) (j := 2) (v := 0) (Or.inr rfl) rfl (fun p hp => Or.inr hp)
  rw [u2, ← e8] at h8
  refine ⟨a42 h8 3 (by decide) _ rfl, fun s9 e9 => ?_⟩
  have h9 := h8.wI (PI' := [(42, 4), (40, 6), (0, 11), (0, 13), (0, 27)]) (r := 42) (j := 3) (v := 0) (Or.inr rfl) rfl (fun p hp => Or.inr hp)
  rw [u2, ← e9] at h9
  refine ⟨a42 h9 4 (by decide) _ rfl, fun s10 e10 => ?_⟩
  have h10 := h9.wI (PI' := [(40, 6), (0, 11), (0, 13), (0, 27)]) (r := 42) (j := 4) (v := 24) (Or.inr rfl) rfl (fun p hp => by
    by_cases e : p = (42, 4)
    · exact Or.inl e
    · exact Or.inr fun z => (List.mem_cons.mp z).elim e hp)
  rw [u2, ← e10] at h10
  refine ⟨o40 h10 v2 fun _ z => Or.inl (Or.inl z), fun s11 e11 => ?_⟩
  have h11 := h10.set (PD' := PD) (q := 42) (r := 40) (j := 1) (Or.inr rfl) (by decide) rfl (fun x hx => by
    by_cases e : x = (40, 1)
    · exact Or.inl e
    · exact Or.inr fun z => (List.mem_cons.mp z).elim e hx)
  rw [u2, v2 40 h40, ← e11] at h11
  refine ⟨by omega, by omega, fun q3 c1 c2 c3 s12 e12 => ?_⟩
  -- what was heard
  obtain ⟨L3, h12, u3, -, v3'⟩ := PC.mkL h11 (PD' := (40, 2) :: PD) (q := q3) (rp := 43) (rb := 50) (t0 := 11) (n0 := 6) (t1 := 0) (n1 := 2) rfl (fun i hi => shp_50 hi) (fun i hi => by
    have : i = 0 ∨ i = 1 ∨ i = 2 ∨ i = 3 ∨ i = 4 ∨ i = 5 := by omega
    rcases this with rfl | rfl | rfl | rfl | rfl | rfl <;> rfl) (fun z => z.elim (fun z => z.elim (hnR 43 (by omega)) (by omega)) (by omega)) (fun i hi z => z.elim (fun z => z.elim (hnR _ (by omega)) (fun z => by omega)) (fun z => by omega)) (by decide) (Or.inl (Or.inl h40)) List.mem_cons_self (fun _ hx => List.mem_cons_of_mem _ hx) (fun j z => (List.mem_cons.mp z).elim (fun e => by have := congrArg Prod.fst e; dsimp only at this; omega) (npd _ _ (by decide))) (fun r j hr => iv0_z ⟨by omega, by omega, by omega⟩) ⟨by decide, by decide, by decide⟩ c2 c3 6 (Nat.le_refl _) c1
  rw [← e12] at h12
  have v3 : ∀ x, R x → L3 x = L x := fun x hx => (v3' x (Or.inl (Or.inl hx))).trans (v2 x hx)
  refine ⟨o40 h12 v3 fun _ z => Or.inl (Or.inl (Or.inl z)), fun s13 e13 => ?_⟩
  have h13 := h12.set (PD' := PD) (q := 43) (r := 40) (j := 2) (Or.inr (Or.inl rfl)) (by decide) rfl (fun x hx => by
    by_cases e : x = (40, 2)
    · exact Or.inl e
    · exact Or.inr fun z => (List.mem_cons.mp z).elim e hx)
  rw [u3, v3 40 h40, ← e13] at h13
  refine ⟨by omega, by omega, fun q4 d1 d2 d3 s14 e14 => ?_⟩
  -- the books
  obtain ⟨L4, h14, u4, v4'⟩ := h13.add' (r := 44) (c := .inl 2) (PD' := (40, 3) :: PD) (PI' := [(40, 6), (0, 11), (0, 13), (0, 27)]) (fun z => by
    rcases z with ((z | z) | z) | z | z
    · exact hnR 44 (by omega) z
    all_goals omega) rfl d1 d2 d3 (Or.inl (Or.inl (Or.inl h40))) List.mem_cons_self (fun _ hx => List.mem_cons_of_mem _ hx) (fun _ hx => hx) (fun j _ => iv0_z ⟨by omega, by omega, by omega⟩) ⟨by omega, fun z => by omega⟩
  rw [← e14] at h14
  have v4 : ∀ x, R x → L4 x = L x := fun x hx => (v4' x (Or.inl (Or.inl (Or.inl hx)))).trans (v3 x hx)
  refine ⟨2, 24, by omega, by omega, ?_⟩
  rw [← u4]
  refine v_bkS h14 (b := 44) (Or.inr (Or.inr (Or.inr (Or.inl rfl)))) (Or.inr rfl) (fun z => ?_) (fun z => ?_) (fun j z => (List.mem_cons.mp z).elim (fun e => by have := congrArg Prod.fst e; dsimp only at this; omega) (npd _ _ (by decide))) (Nat.le_refl _) (Nat.le_refl _) (fun s15 L5 h15 v5' => ?_)
  · rcases z with (((z | z) | z) | z | z) | z
    · exact hnR _ (by omega) z
    all_goals omega
  · rcases z with (((z | z) | z) | z | z) | z
    · exact hnR _ (by omega) z
    all_goals omega
  · have v5 : ∀ x, R x → L5 x = L x := fun x hx => (v5' x (Or.inl (Or.inl (Or.inl (Or.inl hx))))).trans (v4 x hx)
    refine ⟨o40 h15 v5 fun _ z => Or.inl (Or.inl (Or.inl (Or.inl (Or.inl z)))), fun s16 e16 s17 e17 => ?_⟩
    have h16 := h15.set (PD' := PD) (q := 44) (r := 40) (j := 3) (Or.inl (Or.inr rfl)) (by decide) rfl (fun x hx => by
      by_cases e : x = (40, 3)
      · exact Or.inl e
      · exact Or.inr fun z => (List.mem_cons.mp z).elim e hx)
    rw [v5' 44 (Or.inr rfl), v5 40 h40, ← e16] at h16
    have h17 := h16.wI (PI' := [(0, 11), (0, 13), (0, 27)]) (r := 40) (j := 6) (v := -1) (Or.inl (Or.inl (Or.inl (Or.inl (Or.inl h40))))) rfl (fun p hp => by
      by_cases e : p = (40, 6)
      · exact Or.inl e
      · exact Or.inr fun z => (List.mem_cons.mp z).elim e hp)
    rw [v5 40 h40, ← e17] at h17
    refine hK s17 L5 (h17.eqv fun r => ⟨fun z => ?_, fun z => ?_⟩) v5
    · rcases z with z | z | z | z | z | z | z | z
      · exact Or.inl (Or.inl (Or.inl (Or.inl (Or.inl z))))
      · exact Or.inl (Or.inl (Or.inl (Or.inl (Or.inr z))))
      · exact Or.inl (Or.inl (Or.inl (Or.inr z)))
      · exact Or.inl (Or.inl (Or.inr (Or.inl z)))
      · exact Or.inl (Or.inl (Or.inr (Or.inr (by omega))))
      · exact Or.inl (Or.inr z)
      · exact Or.inr (Or.inl (by omega))
      · exact Or.inr (Or.inr (by omega))
    · rcases z with ((((z | z) | z) | z | z) | z) | z | z
      · exact Or.inl z
      · exact Or.inr (Or.inl z)
      · exact Or.inr (Or.inr (Or.inl z))
      · exact Or.inr (Or.inr (Or.inr (Or.inl z)))
      · exact Or.inr (Or.inr (Or.inr (Or.inr (Or.inl (by omega)))))
      · exact Or.inr (Or.inr (Or.inr (Or.inr (Or.inr (Or.inl z)))))
      · exact Or.inr (Or.inr (Or.inr (Or.inr (Or.inr (Or.inr (Or.inl (by omega)))))))
      · exact Or.inr (Or.inr (Or.inr (Or.inr (Or.inr (Or.inr (Or.inr (by omega)))))))
end PB3
