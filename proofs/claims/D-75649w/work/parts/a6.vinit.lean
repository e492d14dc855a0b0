set_option maxRecDepth 100000
/-! ===== the system made anew: cells made role by role ===== -/
def parT : List (Nat × Nat) := [(0, 99), (0, 1), (0, 2), (0, 3), (0, 4), (0, 5), (0, 6), (0, 7), (0, 98), (0, 9), (0, 98), (0, 98), (0, 98), (0, 98), (0, 14), (0, 98), (0, 16), (0, 17), (0, 18), (0, 19), (0, 20), (0, 21), (0, 22), (0, 23), (0, 98), (0, 98), (0, 26), (0, 98), (0, 98), (0, 98), (0, 98), (2, 0), (3, 0), (6, 0), (7, 0), (0, 98), (0, 98), (0, 98), (0, 98), (0, 98), (0, 0), (40, 0), (40, 1), (40, 2), (40, 3), (0, 98), (0, 98), (0, 98), (0, 98), (0, 98), (43, 0), (43, 1), (43, 2), (43, 3), (43, 4), (43, 5)]
/-- whose reference a role's cell is, and which -/
def par (q : Nat) : Nat × Nat :=
  if q < 56 then parT.getD q (0, 98)
  else if 100 ≤ q ∧ q < 116 then (31, q - 100)
  else if 120 ≤ q ∧ q < 136 then (32, q - 120)
  else if 200 ≤ q ∧ q < 400 then (q - 200, 0)
  else if 400 ≤ q ∧ q < 600 then (q - 400, 1)
  else if 600 ≤ q ∧ q < 612 then (16, q - 600)
  else if 620 ≤ q ∧ q < 632 then (17, q - 620)
  else if 640 ≤ q ∧ q < 652 then (18, q - 640)
  else if 660 ≤ q ∧ q < 673 then (19, q - 660)
  else if 680 ≤ q ∧ q < 693 then (20, q - 680)
  else if 700 ≤ q ∧ q < 713 then (21, q - 700)
  else if 720 ≤ q ∧ q < 733 then (22, q - 720)
  else if 1000 ≤ q ∧ q < 1312 then (600 + (q - 1000) / 26, (q - 1000) % 26)
  else if 1400 ≤ q ∧ q < 1712 then (620 + (q - 1400) / 26, (q - 1400) % 26)
  else (640 + (q - 1800) / 26, (q - 1800) % 26)
/-- and back -/
def chd (p : Nat × Nat) : Nat :=
  if p.1 = 0 then (if p.2 = 0 then 40 else if p.2 = 99 then 0 else p.2)
  else if p.1 = 2 then 31 else if p.1 = 3 then 32 else if p.1 = 6 then 33 else if p.1 = 7 then 34
  else if p.1 = 40 then 41 + p.2
  else if p.1 = 43 then 50 + p.2
  else if p.1 = 31 then 100 + p.2
  else if p.1 = 32 then 120 + p.2
  else if p.1 = 16 then 600 + p.2
  else if p.1 = 17 then 620 + p.2
  else if p.1 = 18 then 640 + p.2
  else if p.1 = 19 then 660 + p.2
  else if p.1 = 20 then 680 + p.2
  else if p.1 = 21 then 700 + p.2
  else if p.1 = 22 then 720 + p.2
  else if 600 ≤ p.1 ∧ p.1 < 620 then 1000 + (26 * (p.1 - 600) + p.2)
  else if 620 ≤ p.1 ∧ p.1 < 640 then 1400 + (26 * (p.1 - 620) + p.2)
  else if 640 ≤ p.1 ∧ p.1 < 660 then 1800 + (26 * (p.1 - 640) + p.2)
  else if p.2 = 0 then 200 + p.1 else 400 + p.1
theorem par_56 : ∀ q, q < 56 → shp q ≠ none → chd (par q) = q := by decide
theorem par_52 : ∀ q, q < 56 → shp q ≠ none → (par q).1 < 56 := by decide
/-- which roles there are -/
theorem shp_rng {q : Nat} (h : shp q ≠ none) : q < 56 ∨ (100 ≤ q ∧ q < 116) ∨ (120 ≤ q ∧ q < 136) ∨ (q = 204 ∨ q = 205 ∨ q = 226 ∨ q = 244 ∨ 300 ≤ q ∧ q < 316 ∨ 320 ≤ q ∧ q < 336) ∨ (q = 404 ∨ q = 405 ∨ q = 426 ∨ q = 444 ∨ 500 ≤ q ∧ q < 516 ∨ 520 ≤ q ∧ q < 536) ∨ (600 ≤ q ∧ q < 612) ∨ (620 ≤ q ∧ q < 632) ∨ (640 ≤ q ∧ q < 652) ∨ (660 ≤ q ∧ q < 673) ∨ (680 ≤ q ∧ q < 693) ∨ (700 ≤ q ∧ q < 713) ∨ (720 ≤ q ∧ q < 733) ∨ (1000 ≤ q ∧ q < 1312) ∨ (1400 ≤ q ∧ q < 1712) ∨ (1800 ≤ q ∧ q < 2112) := by
  unfold shp at h
  by_cases c1 : q < 56
  · exact Or.inl c1
  rw [if_neg c1] at h
  by_cases c2 : 100 ≤ q ∧ q < 116 ∨ 120 ≤ q ∧ q < 136
  · omega
  rw [if_neg c2] at h
  by_cases c3 : q = 204 ∨ q = 205 ∨ q = 226 ∨ q = 244 ∨ 300 ≤ q ∧ q < 316 ∨ 320 ≤ q ∧ q < 336
  · exact Or.inr (Or.inr (Or.inr (Or.inl c3)))
  rw [if_neg c3] at h
  by_cases c4 : q = 404 ∨ q = 405 ∨ q = 426 ∨ q = 444 ∨ 500 ≤ q ∧ q < 516 ∨ 520 ≤ q ∧ q < 536
  · exact Or.inr (Or.inr (Or.inr (Or.inr (Or.inl c4))))
  rw [if_neg c4] at h
  by_cases c5 : 600 ≤ q ∧ q < 612
  · omega
  rw [if_neg c5] at h
  by_cases c6 : 620 ≤ q ∧ q < 632 ∨ 640 ≤ q ∧ q < 652
  · omega
  rw [if_neg c6] at h
  by_cases c7 : 660 ≤ q ∧ q < 673 ∨ 680 ≤ q ∧ q < 693 ∨ 700 ≤ q ∧ q < 713
  · omega
  rw [if_neg c7] at h
  by_cases c8 : 720 ≤ q ∧ q < 733
  · omega
  rw [if_neg c8] at h
  by_cases c9 : 1000 ≤ q ∧ q < 1312
  · omega
  rw [if_neg c9] at h
  by_cases c10 : 1400 ≤ q ∧ q < 1712 ∨ 1800 ≤ q ∧ q < 2112
  · omega
  rw [if_neg c10] at h
  exact absurd rfl h
theorem chd_par {q : Nat} (h : shp q ≠ none) : chd (par q) = q := by
  rcases shp_rng h with c | c | c | c | c | c | c | c | c | c | c | c | c | c | c
  · exact par_56 q c h
  · have e : par q = (31, q - 100) := by unfold par; rw [if_neg (by omega), if_pos c]
    rw [e]; show 100 + (q - 100) = q; omega
  · have e : par q = (32, q - 120) := by unfold par; rw [if_neg (by omega), if_neg (by omega), if_pos c]
    rw [e]; show 120 + (q - 120) = q; omega
  · have e : par q = (q - 200, 0) := by unfold par; rw [if_neg (by omega), if_neg (by omega), if_neg (by omega), if_pos (by omega)]
    rw [e]; unfold chd; dsimp only
    rw [if_neg (by omega), if_neg (by omega), if_neg (by omega), if_neg (by omega), if_neg (by omega), if_neg (by omega), if_neg (by omega), if_neg (by omega), if_neg (by omega), if_neg (by omega), if_neg (by omega), if_neg (by omega), if_neg (by omega), if_neg (by omega), if_neg (by omega), if_neg (by omega), if_neg (by omega), if_neg (by omega), if_neg (by omega), if_pos rfl]
    omega
  · have e : par q = (q - 400, 1) := by unfold par; rw [if_neg (by omega), if_neg (by omega), if_neg (by omega), if_neg (by omega), if_pos (by omega)]
    rw [e]; unfold chd; dsimp only
    rw [if_neg (by omega), if_neg (by omega), if_neg (by omega), if_neg (by omega), if_neg (by omega), if_neg (by omega), if_neg (by omega), if_neg (by omega), if_neg (by omega), if_neg (by omega), if_neg (by omega), if_neg (by omega), if_neg (by omega), if_neg (by omega), if_neg (by omega), if_neg (by omega), if_neg (by omega), if_neg (by omega), if_neg (by omega), if_neg (by decide)]
    omega
  · have e : par q = (16, q - 600) := by unfold par; rw [if_neg (by omega), if_neg (by omega), if_neg (by omega), if_neg (by omega), if_neg (by omega), if_pos (by omega)]
    rw [e]; show 600 + (q - 600) = q; omega
  · have e : par q = (17, q - 620) := by unfold par; rw [if_neg (by omega), if_neg (by omega), if_neg (by omega), if_neg (by omega), if_neg (by omega), if_neg (by omega), if_pos (by omega)]
    rw [e]; show 620 + (q - 620) = q; omega
  · have e : par q = (18, q - 640) := by unfold par; rw [if_neg (by omega), if_neg (by omega), if_neg (by omega), if_neg (by omega), if_neg (by omega), if_neg (by omega), if_neg (by omega), if_pos (by omega)]
    rw [e]; show 640 + (q - 640) = q; omega
  · have e : par q = (19, q - 660) := by unfold par; rw [if_neg (by omega), if_neg (by omega), if_neg (by omega), if_neg (by omega), if_neg (by omega), if_neg (by omega), if_neg (by omega), if_neg (by omega), if_pos (by omega)]
    rw [e]; show 660 + (q - 660) = q; omega
  · have e : par q = (20, q - 680) := by unfold par; rw [if_neg (by omega), if_neg (by omega), if_neg (by omega), if_neg (by omega), if_neg (by omega), if_neg (by omega), if_neg (by omega), if_neg (by omega), if_neg (by omega), if_pos (by omega)]
    rw [e]; show 680 + (q - 680) = q; omega
  · have e : par q = (21, q - 700) := by unfold par; rw [if_neg (by omega), if_neg (by omega), if_neg (by omega), if_neg (by omega), if_neg (by omega), if_neg (by omega), if_neg (by omega), if_neg (by omega), if_neg (by omega), if_neg (by omega), if_pos (by omega)]
    rw [e]; show 700 + (q - 700) = q; omega
  · have e : par q = (22, q - 720) := by unfold par; rw [if_neg (by omega), if_neg (by omega), if_neg (by omega), if_neg (by omega), if_neg (by omega), if_neg (by omega), if_neg (by omega), if_neg (by omega), if_neg (by omega), if_neg (by omega), if_neg (by omega), if_pos (by omega)]
    rw [e]; show 720 + (q - 720) = q; omega
  · have e : par q = (600 + (q - 1000) / 26, (q - 1000) % 26) := by unfold par; rw [if_neg (by omega), if_neg (by omega), if_neg (by omega), if_neg (by omega), if_neg (by omega), if_neg (by omega), if_neg (by omega), if_neg (by omega), if_neg (by omega), if_neg (by omega), if_neg (by omega), if_neg (by omega), if_pos (by omega)]
    rw [e]; unfold chd; dsimp only
    rw [if_neg (by omega), if_neg (by omega), if_neg (by omega), if_neg (by omega), if_neg (by omega), if_neg (by omega), if_neg (by omega), if_neg (by omega), if_neg (by omega), if_neg (by omega), if_neg (by omega), if_neg (by omega), if_neg (by omega), if_neg (by omega), if_neg (by omega), if_neg (by omega), if_pos (by omega)]
    omega
  · have e : par q = (620 + (q - 1400) / 26, (q - 1400) % 26) := by unfold par; rw [if_neg (by omega), if_neg (by omega), if_neg (by omega), if_neg (by omega), if_neg (by omega), if_neg (by omega), if_neg (by omega), if_neg (by omega), if_neg (by omega), if_neg (by omega), if_neg (by omega), if_neg (by omega), if_neg (by omega), if_pos (by omega)]
    rw [e]; unfold chd; dsimp only
    rw [if_neg (by omega), if_neg (by omega), if_neg (by omega), if_neg (by omega), if_neg (by omega), if_neg (by omega), if_neg (by omega), if_neg (by omega), if_neg (by omega), if_neg (by omega), if_neg (by omega), if_neg (by omega), if_neg (by omega), if_neg (by omega), if_neg (by omega), if_neg (by omega), if_neg (by omega), if_pos (by omega)]
    omega
  · have e : par q = (640 + (q - 1800) / 26, (q - 1800) % 26) := by unfold par; rw [if_neg (by omega), if_neg (by omega), if_neg (by omega), if_neg (by omega), if_neg (by omega), if_neg (by omega), if_neg (by omega), if_neg (by omega), if_neg (by omega), if_neg (by omega), if_neg (by omega), if_neg (by omega), if_neg (by omega), if_neg (by omega)]
    rw [e]; unfold chd; dsimp only
    rw [if_neg (by omega), if_neg (by omega), if_neg (by omega), if_neg (by omega), if_neg (by omega), if_neg (by omega), if_neg (by omega), if_neg (by omega), if_neg (by omega), if_neg (by omega), if_neg (by omega), if_neg (by omega), if_neg (by omega), if_neg (by omega), if_neg (by omega), if_neg (by omega), if_neg (by omega), if_neg (by omega), if_pos (by omega)]
    omega
theorem par_inj {q q' : Nat} (h : shp q ≠ none) (h' : shp q' ≠ none) (e : par q = par q') : q = q' := by
  rw [← chd_par h, e, chd_par h']
/-- the ints that a role's cell holds at first -/
def iv0 (r j : Nat) : Int32 := if r = 42 ∧ j = 1 then 1 else if r = 42 ∧ j = 4 then 24 else if r = 40 ∧ j = 6 then -1 else if r = 0 ∧ (j = 11 ∨ j = 13 ∨ j = 27) then -1 else 0
/-- roles R are made, at L; PD: references still to be set; PI: ints still to be set; Q: other cells, as they were in sQ -/
def PB (N : tP) (s0 : tM) (R : Nat → Prop) (L : Nat → Nat) (PD PI : List (Nat × Nat)) (Q : Nat → Prop) (sQ s : tM) : Prop := extN N s0 s ∧ (∀ r, R r → ∃ c, shp r = some c ∧ s.1 (L r) = some c ∧ L r ≠ 0 ∧ s0.1 (L r) = none ∧ ¬ L r = N.2.2 200) ∧ (∀ r r', R r → R r' → L r = L r' → r = r') ∧ (∀ q, R q → q ≠ 0 → R (par q).1 ∧ (par q ∉ PD → tR s (L (par q).1) (par q).2 = L q)) ∧ (∀ r j, R r → (r, j) ∉ PI → tI s (L r) j = iv0 r j) ∧ ∀ a, Q a → s.1 a = sQ.1 a ∧ s.2.2.2 a = sQ.2.2.2 a ∧ sQ.1 a ≠ none ∧ ∀ r, R r → L r ≠ a
section PBS
variable {N : tP} {s0 s s' sQ : tM} {R : Nat → Prop} {L : Nat → Nat} {PD PD' PI PI' : List (Nat × Nat)} {Q : Nat → Prop} {q : Nat}
theorem PB.al (h : PB N s0 R L PD PI Q sQ s) {r : Nat} (hr : R r) : s.1 (L r) ≠ none := by
  obtain ⟨c, -, h2, -⟩ := h.2.1 r hr
  rw [h2]
  exact fun z => by cases z
theorem PB.o (h : PB N s0 R L PD PI Q sQ s) {r c : Nat} (hr : R r) (e : shp r = some (.inl c)) : tO s c (L r) := by
  obtain ⟨c', h1, h2, h3, -⟩ := h.2.1 r hr
  rw [e] at h1
  cases h1
  exact ⟨h2, h3⟩
theorem PB.a (h : PB N s0 R L PD PI Q sQ s) {r t n : Nat} (hr : R r) (e : shp r = some (.inr (t, n))) : tA s t n (L r) := by
  obtain ⟨c', h1, h2, h3, -⟩ := h.2.1 r hr
  rw [e] at h1
  cases h1
  exact ⟨h2, h3⟩
theorem PB.eqv {R' : Nat → Prop} (h : PB N s0 R L PD PI Q sQ s) (hR : ∀ r, R' r ↔ R r) : PB N s0 R' L PD PI Q sQ s := by
  have : R' = R := funext fun r => propext (hR r)
  rw [this]
  exact h
/-- a role's cell is made -/
theorem PB.add (h : PB N s0 R L PD PI Q sQ s) {r : Nat} {c : Nat ⊕ (Nat × Nat)} (hr : ¬ R r) (hs : shp r = some c) (hq : s.1 q = none) (hq0 : ¬ q = 0) (hq2 : ¬ q = N.2.2 200) (hp : R (par r).1) (hpd : par r ∈ PD') (hP : ∀ p, p ∈ PD → p ∈ PD') (hI : ∀ p, p ∈ PI → p ∈ PI') (hi : ∀ j, (r, j) ∉ PI' → iv0 r j = 0) : PB N s0 (fun x => R x ∨ x = r) (fun x => if x = r then q else L x) PD' PI' Q sQ (tNew s q c) := by
  have h' := h
  obtain ⟨h1, h2, h3, h4, h5, h6⟩ := h'
  have z : s0.1 q = none := ext_fr h1 hq
  have Lr : ∀ x, R x → (if x = r then q else L x) = L x := fun x hx => if_neg fun (e : x = r) => hr (by rw [← e]; exact hx)
  have ne : ∀ x, R x → L x ≠ q := fun x hx e => h.al hx (by rw [e]; exact hq)
  have fR : ∀ a j, a ≠ q → tR (tNew s q c) a j = tR s a j := fun a j ha => if_neg ha
  refine ⟨ext_n h1 z hq2, fun x hx => ?_, fun x y hx hy e => ?_, fun y hy hy0 => ⟨?_, fun hn => ?_⟩, fun x j hx hn => ?_, fun a ha => ?_⟩
  · rcases hx with hx | rfl
    · obtain ⟨c', a1, a2, a3, a4, a5⟩ := h2 x hx
      dsimp only
      rw [Lr x hx]
      exact ⟨c', a1, (if_neg (ne x hx)).trans a2, a3, a4, a5⟩
    · dsimp only
      rw [if_pos rfl]
      exact ⟨c, hs, if_pos rfl, hq0, z, hq2⟩
  · dsimp only at e
    rcases hx with hx | rfl
    · rcases hy with hy | rfl
      · rw [Lr x hx, Lr y hy] at e
        exact h3 x y hx hy e
      · rw [Lr x hx, if_pos rfl] at e
        exact absurd e (ne x hx)
    · rcases hy with hy | rfl
      · rw [Lr y hy, if_pos rfl] at e
        exact absurd e.symm (ne y hy)
      · rfl
  · rcases hy with hy | rfl
    · exact Or.inl (h4 y hy hy0).1
    · exact Or.inl hp
  · rcases hy with hy | rfl
    · obtain ⟨a1, a2⟩ := h4 y hy hy0
      dsimp only
      rw [Lr _ a1, Lr _ hy, fR _ _ (ne _ a1)]
      exact a2 fun z => hn (hP _ z)
    · exact absurd hpd hn
  · rcases hx with hx | rfl
    · dsimp only
      rw [Lr x hx]
      exact (if_neg (ne x hx)).trans (h5 x j hx fun z => hn (hI _ z))
    · dsimp only
      rw [if_pos rfl, hi j hn]
      exact if_pos rfl
  · obtain ⟨a1, a2, a3, a4⟩ := h6 a ha
    have na : a ≠ q := fun e => by
      rw [e, hq] at a1
      exact a3 (e ▸ a1.symm)
    refine ⟨(if_neg na).trans a1, (funext fun j => if_neg na).trans a2, a3, fun x hx => ?_⟩
    rcases hx with hx | rfl
    · dsimp only
      rw [Lr x hx]
      exact a4 x hx
    · dsimp only
      rw [if_pos rfl]
      exact na.symm
/-- a reference is set -/
theorem PB.set (h : PB N s0 R L PD PI Q sQ s) {r j : Nat} (hq : R q) (hq0 : q ≠ 0) (hp : par q = (r, j)) (hP : ∀ p, p ∉ PD' → p = (r, j) ∨ p ∉ PD) : PB N s0 R L PD' PI Q sQ (tsR s (L r) j (L q)) := by
  have h' := h
  obtain ⟨h1, h2, h3, h4, h5, h6⟩ := h'
  have hr : R r := by
    have := (h4 q hq hq0).1
    rw [hp] at this
    exact this
  obtain ⟨c, -, -, -, z, z2⟩ := h2 r hr
  refine ⟨ext_R h1 z z2, h2, h3, fun y hy hy0 => ⟨(h4 y hy hy0).1, fun hn => ?_⟩, h5, fun a ha => ?_⟩
  · obtain ⟨a1, a2⟩ := h4 y hy hy0
    show (if L (par y).1 = L r ∧ (par y).2 = j then L q else tR s (L (par y).1) (par y).2) = L y
    by_cases e : par y = (r, j)
    · have : y = q := par_inj (by obtain ⟨c, c1, -⟩ := h2 y hy; rw [c1]; exact fun z => by cases z) (by obtain ⟨c, c1, -⟩ := h2 q hq; rw [c1]; exact fun z => by cases z) (e.trans hp.symm)
      rw [if_pos (by rw [e]; exact ⟨rfl, rfl⟩), this]
    · rw [if_neg fun z => e (Prod.ext (h3 _ _ a1 hr z.1) z.2)]
      exact a2 ((hP _ hn).resolve_left e)
  · obtain ⟨a1, a2, a3, a4⟩ := h6 a ha
    exact ⟨a1, (funext fun i => if_neg fun (z : a = L r ∧ i = j) => a4 r hr z.1.symm).trans a2, a3, a4⟩
/-- a reference that no role is -/
theorem PB.setv (h : PB N s0 R L PD PI Q sQ s) {r j v : Nat} (hr : R r) (hn : ∀ y, R y → y ≠ 0 → par y ≠ (r, j)) : PB N s0 R L PD PI Q sQ (tsR s (L r) j v) := by
  obtain ⟨h1, h2, h3, h4, h5, h6⟩ := h
  obtain ⟨c, -, -, -, z, z2⟩ := h2 r hr
  refine ⟨ext_R h1 z z2, h2, h3, fun y hy hy0 => ⟨(h4 y hy hy0).1, fun hn' => ?_⟩, h5, fun a ha => ?_⟩
  · obtain ⟨a1, a2⟩ := h4 y hy hy0
    show (if L (par y).1 = L r ∧ (par y).2 = j then v else tR s (L (par y).1) (par y).2) = L y
    rw [if_neg fun z => hn y hy hy0 (Prod.ext (h3 _ _ a1 hr z.1) z.2)]
    exact a2 hn'
  · obtain ⟨a1, a2, a3, a4⟩ := h6 a ha
    exact ⟨a1, (funext fun i => if_neg fun (z : a = L r ∧ i = j) => a4 r hr z.1.symm).trans a2, a3, a4⟩
/-- an int is set -/
theorem PB.wI (h : PB N s0 R L PD PI Q sQ s) {r j : Nat} {v : Int32} (hr : R r) (hv : v = iv0 r j) (hP : ∀ p, p ∉ PI' → p = (r, j) ∨ p ∉ PI) : PB N s0 R L PD PI' Q sQ (tsI s (L r) j v) := by
  obtain ⟨h1, h2, h3, h4, h5, h6⟩ := h
  obtain ⟨c, -, -, -, z, z2⟩ := h2 r hr
  refine ⟨ext_I h1 z z2, h2, h3, h4, fun x i hx hn => ?_, h6⟩
  show (if L x = L r ∧ i = j then v else tI s (L x) i) = iv0 x i
  by_cases e : (x, i) = (r, j)
  · cases e
    rw [if_pos ⟨rfl, rfl⟩, hv]
  · rw [if_neg fun z => e (Prod.ext (h3 _ _ hx hr z.1) z.2)]
    exact h5 x i hx ((hP _ hn).resolve_left e)
/-- a cell of no role is made -/
theorem PB.addQ (h : PB N s0 R L PD PI (fun _ => False) sQ s) {c : Nat ⊕ (Nat × Nat)} (hq : s.1 q = none) (hq2 : ¬ q = N.2.2 200) : PB N s0 R L PD PI (fun _ => False) sQ (tNew s q c) ∧ ∀ r, R r → L r ≠ q := by
  have h' := h
  obtain ⟨h1, h2, h3, h4, h5, h6⟩ := h'
  have z : s0.1 q = none := ext_fr h1 hq
  have ne : ∀ x, R x → L x ≠ q := fun x hx e => h.al hx (by rw [e]; exact hq)
  refine ⟨⟨ext_n h1 z hq2, fun x hx => ?_, h3, fun y hy hy0 => ⟨(h4 y hy hy0).1, fun hn => ?_⟩, fun x j hx hn => (if_neg (ne x hx)).trans (h5 x j hx hn), fun a ha => ha.elim⟩, ne⟩
  · obtain ⟨c', a1, a2, a3⟩ := h2 x hx
    exact ⟨c', a1, (if_neg (ne x hx)).trans a2, a3⟩
  · obtain ⟨a1, a2⟩ := h4 y hy hy0
    exact (if_neg (ne _ a1)).trans (a2 hn)
/-- a cell of no role is written -/
theorem PB.wQ (h : PB N s0 R L PD PI (fun _ => False) sQ s) {j v : Nat} (hq : s0.1 q = none) (hq2 : ¬ q = N.2.2 200) (hn : ∀ r, R r → L r ≠ q) : PB N s0 R L PD PI (fun _ => False) sQ (tsR s q j v) := by
  obtain ⟨h1, h2, h3, h4, h5, h6⟩ := h
  refine ⟨ext_R h1 hq hq2, h2, h3, fun y hy hy0 => ⟨(h4 y hy hy0).1, fun hn' => ?_⟩, h5, fun a ha => ha.elim⟩
  obtain ⟨a1, a2⟩ := h4 y hy hy0
  exact (if_neg fun z => hn _ a1 z.1).trans (a2 hn')
/-- from here on the others' cells stay -/
theorem PB.Qs (h : PB N s0 R L PD PI (fun _ => False) sQ s) {Q' : Nat → Prop} (hQ : ∀ a, Q' a → s.1 a ≠ none ∧ ∀ r, R r → L r ≠ a) : PB N s0 R L PD PI Q' s s := ⟨h.1, h.2.1, h.2.2.1, h.2.2.2.1, h.2.2.2.2.1, fun a ha => ⟨rfl, rfl, hQ a ha⟩⟩
end PBS
