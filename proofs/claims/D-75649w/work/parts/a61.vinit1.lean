set_option maxRecDepth 100000
/-! ===== the system made anew: two references that no role is (the list's empty table, the text that tells nothing) ===== -/
def PC (N : tP) (s0 : tM) (R : Nat → Prop) (L : Nat → Nat) (PD PI : List (Nat × Nat)) (Q : Nat → Prop) (sQ : tM) (tx : Nat) (s : tM) : Prop := PB N s0 R L PD PI Q sQ s ∧ (R 41 → (41, 1) ∉ PD → tR s (L 41) 1 = N.2.2 200) ∧ (R 0 → (0, 8) ∉ PD → tR s (L 0) 8 = tx) ∧ (R 1 → ∀ j, tR s (L 1) j = 0)
theorem par_no {q : Nat} (h : shp q ≠ none) : par q ≠ (41, 1) ∧ par q ≠ (0, 8) := by
  have hc := chd_par h
  refine ⟨fun e => ?_, fun e => ?_⟩
  · rw [e] at hc
    have : q = 441 := hc.symm
    rw [this] at h
    exact absurd h (by decide)
  · rw [e] at hc
    have : q = 8 := hc.symm
    rw [this] at h
    exact absurd h (by decide)
theorem par_1 {q : Nat} (h : shp q ≠ none) : (par q).1 ≠ 1 := fun e => by
  have key : ∀ q, q < 56 → shp q ≠ none → (par q).1 ≠ 1 := by decide
  by_cases c : q < 56
  · exact key q c h e
  · have hc := chd_par h
    have h2 : chd (par q) = if (par q).2 = 0 then 201 else 401 := by
      unfold chd
      rw [e]
      rfl
    rw [h2] at hc
    by_cases c2 : (par q).2 = 0
    · rw [if_pos c2] at hc
      rw [← hc] at h
      exact absurd h (by decide)
    · rw [if_neg c2] at hc
      rw [← hc] at h
      exact absurd h (by decide)
section PCS
variable {N : tP} {s0 s s' sQ : tM} {R : Nat → Prop} {L : Nat → Nat} {PD PD' PI PI' : List (Nat × Nat)} {Q : Nat → Prop} {q tx : Nat}
theorem PC.al (h : PC N s0 R L PD PI Q sQ tx s) {r : Nat} (hr : R r) : s.1 (L r) ≠ none := h.1.al hr
theorem PC.o (h : PC N s0 R L PD PI Q sQ tx s) {r c : Nat} (hr : R r) (e : shp r = some (.inl c)) : tO s c (L r) := h.1.o hr e
theorem PC.a (h : PC N s0 R L PD PI Q sQ tx s) {r t n : Nat} (hr : R r) (e : shp r = some (.inr (t, n))) : tA s t n (L r) := h.1.a hr e
theorem PC.eqv {R' : Nat → Prop} (h : PC N s0 R L PD PI Q sQ tx s) (hR : ∀ r, R' r ↔ R r) : PC N s0 R' L PD PI Q sQ tx s := by
  have : R' = R := funext fun r => propext (hR r)
  rw [this]
  exact h
theorem PC.rf (h : PC N s0 R L PD PI Q sQ tx s) {r p j : Nat} (hr : R r) (h0 : r ≠ 0) (hp : par r = (p, j)) (hn : (p, j) ∉ PD) : tR s (L p) j = L r := by
  have := (h.1.2.2.2.1 r hr h0).2
  rw [hp] at this
  exact this hn
theorem PC.add (h : PC N s0 R L PD PI Q sQ tx s) {r : Nat} {c : Nat ⊕ (Nat × Nat)} (hr : ¬ R r) (hs : shp r = some c) (hq : s.1 q = none) (hq0 : ¬ q = 0) (hq2 : ¬ q = N.2.2 200) (hp : R (par r).1) (hpd : par r ∈ PD') (hP : ∀ p, p ∈ PD → p ∈ PD') (hI : ∀ p, p ∈ PI → p ∈ PI') (hi : ∀ j, (r, j) ∉ PI' → iv0 r j = 0) (hx : r ≠ 0 ∧ (r = 41 → (41, 1) ∈ PD')) : PC N s0 (fun x => R x ∨ x = r) (fun x => if x = r then q else L x) PD' PI' Q sQ tx (tNew s q c) := by
  have ne : ∀ x, R x → L x ≠ q := fun x hx e => h.al hx (by rw [e]; exact hq)
  refine ⟨h.1.add hr hs hq hq0 hq2 hp hpd hP hI hi, fun h4 hn => ?_, fun h0 hn => ?_, fun h1 j => ?_⟩
  · by_cases e : (41 : Nat) = r
    · exact absurd (hx.2 e.symm) hn
    · have hR : R 41 := h4.resolve_right e
      dsimp only
      rw [if_neg e]
      exact (if_neg (ne _ hR)).trans (h.2.1 hR fun z => hn (hP _ z))
  · have e : ¬ (0 : Nat) = r := fun e => hx.1 e.symm
    have hR : R 0 := h0.resolve_right e
    dsimp only
    rw [if_neg e]
    exact (if_neg (ne _ hR)).trans (h.2.2.1 hR fun z => hn (hP _ z))
  · by_cases e : (1 : Nat) = r
    · dsimp only
      rw [if_pos e]
      exact if_pos rfl
    · have hR : R 1 := h1.resolve_right e
      dsimp only
      rw [if_neg e]
      exact (if_neg (ne _ hR)).trans (h.2.2.2 hR j)
theorem PC.set (h : PC N s0 R L PD PI Q sQ tx s) {r j : Nat} (hq : R q) (hq0 : q ≠ 0) (hp : par q = (r, j)) (hP : ∀ p, p ∉ PD' → p = (r, j) ∨ p ∉ PD) : PC N s0 R L PD' PI Q sQ tx (tsR s (L r) j (L q)) := by
  have hr : R r := by
    have := (h.1.2.2.2.1 q hq hq0).1
    rw [hp] at this
    exact this
  have hs : shp q ≠ none := by
    obtain ⟨c, c1, -⟩ := h.1.2.1 q hq
    rw [c1]
    exact fun z => by cases z
  obtain ⟨n1, n2⟩ := par_no hs
  rw [hp] at n1 n2
  have n3 := par_1 hs
  rw [hp] at n3
  refine ⟨h.1.set hq hq0 hp hP, fun h4 hn => ?_, fun h0 hn => ?_, fun h1 i => (if_neg fun z => n3 (h.1.2.2.1 _ _ h1 hr z.1).symm).trans (h.2.2.2 h1 i)⟩
  · exact (if_neg fun z => n1 (Prod.ext (h.1.2.2.1 _ _ h4 hr z.1).symm z.2.symm)).trans (h.2.1 h4 ((hP _ hn).resolve_left fun e => n1 e.symm))
  · exact (if_neg fun z => n2 (Prod.ext (h.1.2.2.1 _ _ h0 hr z.1).symm z.2.symm)).trans (h.2.2.1 h0 ((hP _ hn).resolve_left fun e => n2 e.symm))
theorem PC.wI (h : PC N s0 R L PD PI Q sQ tx s) {r j : Nat} {v : Int32} (hr : R r) (hv : v = iv0 r j) (hP : ∀ p, p ∉ PI' → p = (r, j) ∨ p ∉ PI) : PC N s0 R L PD PI' Q sQ tx (tsI s (L r) j v) := ⟨h.1.wI hr hv hP, h.2.1, h.2.2⟩
/-- an empty list's table -/
theorem PC.s41 (h : PC N s0 R L PD PI Q sQ tx s) (h41 : R 41) (hP : ∀ p, p ∉ PD' → p = (41, 1) ∨ p ∉ PD) : PC N s0 R L PD' PI Q sQ tx (tsR s (L 41) 1 (N.2.2 200)) := by
  have sh : ∀ y, R y → shp y ≠ none := fun y hy => by
    obtain ⟨c, c1, -⟩ := h.1.2.1 y hy
    rw [c1]
    exact fun z => by cases z
  have b := h.1.setv (v := N.2.2 200) h41 (fun y hy _ => (par_no (sh y hy)).1)
  obtain ⟨b1, b2, b3, b4, b5, b6⟩ := b
  refine ⟨⟨b1, b2, b3, fun y hy hy0 => ⟨(b4 y hy hy0).1, fun hn => (b4 y hy hy0).2 ((hP _ hn).resolve_left (par_no (sh y hy)).1)⟩, b5, b6⟩, fun _ _ => if_pos ⟨rfl, rfl⟩, fun h0 hn => ?_, fun h1 i => (if_neg fun z => absurd (h.1.2.2.1 _ _ h1 h41 z.1) (by decide)).trans (h.2.2.2 h1 i)⟩
  exact (if_neg fun z => absurd z.2 (by decide)).trans (h.2.2.1 h0 ((hP _ hn).resolve_left (by decide)))
/-- the text that tells nothing -/
theorem PC.s8 (h : PC N s0 R L PD PI Q sQ tx s) (h0 : R 0) {tx' : Nat} (hP : ∀ p, p ∉ PD' → p = (0, 8) ∨ p ∉ PD) : PC N s0 R L PD' PI Q sQ tx' (tsR s (L 0) 8 tx') := by
  have sh : ∀ y, R y → shp y ≠ none := fun y hy => by
    obtain ⟨c, c1, -⟩ := h.1.2.1 y hy
    rw [c1]
    exact fun z => by cases z
  have b := h.1.setv (v := tx') h0 (fun y hy _ => (par_no (sh y hy)).2)
  obtain ⟨b1, b2, b3, b4, b5, b6⟩ := b
  refine ⟨⟨b1, b2, b3, fun y hy hy0 => ⟨(b4 y hy hy0).1, fun hn => (b4 y hy hy0).2 ((hP _ hn).resolve_left (par_no (sh y hy)).2)⟩, b5, b6⟩, fun h4 hn => ?_, fun _ _ => if_pos ⟨rfl, rfl⟩, fun h1 i => (if_neg fun z => absurd (h.1.2.2.1 _ _ h1 h0 z.1) (by decide)).trans (h.2.2.2 h1 i)⟩
  exact (if_neg fun z => absurd z.2 (by decide)).trans (h.2.1 h4 ((hP _ hn).resolve_left (by decide)))
theorem PC.addQ (h : PC N s0 R L PD PI (fun _ => False) sQ tx s) {c : Nat ⊕ (Nat × Nat)} (hq : s.1 q = none) (hq2 : ¬ q = N.2.2 200) : PC N s0 R L PD PI (fun _ => False) sQ tx (tNew s q c) ∧ ∀ r, R r → L r ≠ q := by
  obtain ⟨a, b⟩ := h.1.addQ (c := c) hq hq2
  exact ⟨⟨a, fun h4 hn => (if_neg (b _ h4)).trans (h.2.1 h4 hn), fun h0 hn => (if_neg (b _ h0)).trans (h.2.2.1 h0 hn), fun h1 i => (if_neg (b _ h1)).trans (h.2.2.2 h1 i)⟩, b⟩
theorem PC.wQ (h : PC N s0 R L PD PI (fun _ => False) sQ tx s) {j v : Nat} (hq : s0.1 q = none) (hq2 : ¬ q = N.2.2 200) (hn : ∀ r, R r → L r ≠ q) : PC N s0 R L PD PI (fun _ => False) sQ tx (tsR s q j v) := ⟨h.1.wQ hq hq2 hn, fun h4 hn' => (if_neg fun z => hn _ h4 z.1).trans (h.2.1 h4 hn'), fun h0 hn' => (if_neg fun z => hn _ h0 z.1).trans (h.2.2.1 h0 hn'), fun h1 i => (if_neg fun z => hn _ h1 z.1).trans (h.2.2.2 h1 i)⟩
theorem PC.Qs (h : PC N s0 R L PD PI (fun _ => False) sQ tx s) {Q' : Nat → Prop} (hQ : ∀ a, Q' a → s.1 a ≠ none ∧ ∀ r, R r → L r ≠ a) : PC N s0 R L PD PI Q' s tx s := ⟨h.1.Qs hQ, h.2⟩
end PCS
