set_option maxRecDepth 100000
/-! ===== books copied; steps that can be undone ===== -/
/-- book b has become as book c was -/
def bkW (L : Nat → Nat) (b c : Nat) (s s' : tM) : Prop := s'.1 = s.1 ∧ s'.2.2.2 = s.2.2.2 ∧ s'.2.2.1 = s.2.2.1 ∧ (∀ a, a ≠ L (200 + b) → a ≠ L (400 + b) → a ≠ L b → s'.2.1 a = s.2.1 a) ∧ (∀ j, j ≠ 2 → j ≠ 3 → tI s' (L b) j = tI s (L b) j) ∧ (∀ j, j < 12 → tI s' (L (200 + b)) j = tI s (L (200 + c)) j ∧ tI s' (L (400 + b)) j = tI s (L (400 + c)) j) ∧ tI s' (L b) 2 = tI s (L c) 2 ∧ tI s' (L b) 3 = tI s (L c) 3
theorem isBk_lt {b : Nat} (h : isBk b) : b < 136 := by
  rcases h with rfl | rfl | rfl | rfl | h | h <;> omega
theorem shp_some {r : Nat} {c : Nat ⊕ (Nat × Nat)} (h : shp r = some c) : shp r ≠ none := by
  rw [h]
  exact fun z => by cases z
theorem cpI_at (s : tM) (a b j : Nat) (hj : j < 12) : tI (tCpI s a b 0 0 12) b j = tI s a j := by
  show (if b = b then va_cpy (s.2.1 a) (s.2.1 b) 0 0 12 j else s.2.1 b j) = _
  rw [if_pos rfl]
  unfold va_cpy
  rw [if_pos ⟨Nat.zero_le _, by omega⟩]
  show s.2.1 a (0 + (j - 0)) = s.2.1 a j
  rw [Nat.zero_add, Nat.sub_zero]
theorem cpI_o (s : tM) (a b q j sp dp n : Nat) (h : q ≠ b) : tI (tCpI s a b sp dp n) q j = tI s q j := by
  show (if q = b then _ else s.2.1 q j) = _
  rw [if_neg h]
section UN
variable {N : tP} {s : tM} {L : Nat → Nat} {M O : Nat → Prop} {m : mS} {A : Nat → Prop}
theorem v_asS (hS : RS s L A) {b c : Nat} (hb : isBk b) (hc : isBk c) {K : Nat → tM → Prop} (hK : ∀ s', bkW L b c s s' → K (L b) s') : v_X2_as (L b) (L c) s K := by
  obtain ⟨sb, sbu, sbh⟩ := shp_bk hb
  obtain ⟨sc, scu, sch⟩ := shp_bk hc
  have rb := hS.2.2.1.2.1 b hb
  have rc := hS.2.2.1.2.1 c hc
  have lb := isBk_lt hb
  have lc := isBk_lt hc
  have n1 : L (400 + c) ≠ L (200 + b) := hS.ne (shp_some sch) (shp_some sbu) (by omega)
  have n2 : L (200 + b) ≠ L (400 + b) := hS.ne (shp_some sbu) (shp_some sbh) (by omega)
  have n3 : L b ≠ L (200 + b) := hS.ne (shp_some sb) (shp_some sbu) (by omega)
  have n4 : L b ≠ L (400 + b) := hS.ne (shp_some sb) (shp_some sbh) (by omega)
  have hcu : ∀ q, (q < 136) → ∀ r, r = 200 + b ∨ r = 400 + b → shp q ≠ none → L q ≠ L r := fun q hq r hr hs => hS.ne hs (by rcases hr with rfl | rfl <;> first | exact shp_some sbu | exact shp_some sbh) (by rcases hr with rfl | rfl <;> omega)
  have n5 := hcu c lc (200 + b) (Or.inl rfl) (shp_some sc)
  have n6 := hcu c lc (400 + b) (Or.inr rfl) (shp_some sc)
  have au : tA s 0 12 (L (200 + c)) := hS.a scu
  have ah : tA s 0 12 (L (400 + c)) := hS.a sch
  have bu : tA s 0 12 (L (200 + b)) := hS.a sbu
  have bh : tA s 0 12 (L (400 + b)) := hS.a sbh
  have z0 : (0 : Int32).toNatClampNeg + (12 : Int32).toNatClampNeg ≤ 12 := by decide
  unfold v_X2_as
  rw [rb.1, rc.1]
  refine ⟨hS.o sc, hS.o sb, ⟨12, 12, au, bu, by decide, by decide, by decide, z0, z0⟩, fun s4 e4 => ?_⟩
  have r4 : ∀ a j, tR s4 a j = tR s a j := fun a j => by
    rw [e4]
    rfl
  rw [r4, r4, rb.2, rc.2]
  refine ⟨⟨12, 12, by rw [e4]; exact ah, by rw [e4]; exact bh, by decide, by decide, by decide, z0, z0⟩, fun s7 e7 s9 e9 s11 e11 => ?_⟩
  have i4 : ∀ q j, q ≠ L (200 + b) → tI s4 q j = tI s q j := fun q j hq => by
    rw [e4]
    exact cpI_o _ _ _ _ _ _ _ _ hq
  have i7 : ∀ q j, q ≠ L (400 + b) → tI s7 q j = tI s4 q j := fun q j hq => by
    rw [e7]
    exact cpI_o _ _ _ _ _ _ _ _ hq
  have i9 : ∀ q j, ¬ (q = L b ∧ j = 2) → tI s9 q j = tI s7 q j := fun q j hq => by
    rw [e9]
    exact if_neg hq
  have i11 : ∀ q j, ¬ (q = L b ∧ j = 3) → tI s11 q j = tI s9 q j := fun q j hq => by
    rw [e11]
    exact if_neg hq
  have d7 : ∀ j, tI s7 (L c) j = tI s (L c) j := fun j => (i7 _ _ n6).trans (i4 _ _ n5)
  refine hK s11 ⟨by rw [e11, e9, e7, e4]; rfl, by rw [e11, e9, e7, e4]; rfl, by rw [e11, e9, e7, e4]; rfl, fun a h1 h2 h3 => funext fun j => ?_, fun j h2 h3 => ?_, fun j hj => ⟨?_, ?_⟩, ?_, ?_⟩
  · exact (i11 _ _ fun z => h3 z.1).trans ((i9 _ _ fun z => h3 z.1).trans ((i7 _ _ h2).trans (i4 _ _ h1)))
  · exact (i11 _ _ fun z => h3 z.2).trans ((i9 _ _ fun z => h2 z.2).trans ((i7 _ _ n4).trans (i4 _ _ n3)))
  · refine (i11 _ _ fun z => n3 z.1.symm).trans ((i9 _ _ fun z => n3 z.1.symm).trans ((i7 _ _ n2).trans ?_))
    rw [e4]
    exact cpI_at _ _ _ _ hj
  · refine (i11 _ _ fun z => n4 z.1.symm).trans ((i9 _ _ fun z => n4 z.1.symm).trans ?_)
    rw [e7]
    exact (cpI_at _ _ _ _ hj).trans (i4 _ _ n1)
  · refine (i11 _ _ fun z => absurd z.2 (by decide)).trans ?_
    rw [e9]
    exact (if_pos ⟨rfl, rfl⟩).trans (d7 2)
  · rw [e11]
    refine (if_pos ⟨rfl, rfl⟩).trans ?_
    by_cases hbc : L c = L b
    · rw [hbc]
      have := d7 3
      rw [hbc] at this
      exact (i9 _ _ fun z => absurd z.2 (by decide)).trans this
    · exact (i9 _ _ fun z => hbc z.1).trans (d7 3)
end UN
/-- a row of the model replaced -/
def sA (m : mS) (j : Nat) (f : Nat → Int32) : mS := (m.1, (fun q => if q = j then f else m.2.1 q), m.2.2)
theorem sA_at (m : mS) (j : Nat) (f : Nat → Int32) : (sA m j f).2.1 j = f := if_pos rfl
theorem sA_o (m : mS) {j q : Nat} (f : Nat → Int32) (h : q ≠ j) : (sA m j f).2.1 q = m.2.1 q := if_neg h
theorem cE_A {m m1 : mS} (h : cE m m1) (j : Nat) (f : Nat → Int32) : cE (sA m j f) (sA m1 j f) := ⟨h.1, fun q hq => by
  by_cases e : q = j
  · subst e
    rw [sA_at, sA_at]
  · rw [sA_o _ _ e, sA_o _ _ e]
    exact h.2 q hq⟩
/-- a step is kept at place n -/
def kAt (m : mS) (n : Nat) (w : Int32) : mS := mF (sA m 31 (fun q => if 26 * n ≤ q ∧ q < 26 * n + 25 then m.2.1 2 (q - 26 * n) else if q = 26 * n + 25 then w else m.2.1 31 q)) 33 (nI (n + 1))
/-- the eldest step is forgotten -/
def kRot (m : mS) : mS := mF (sA m 31 (fun q => if q < 390 then m.2.1 31 (q + 26) else m.2.1 31 q)) 33 (nI 15)
section KP
variable {N : Nat × Nat}
theorem w_keeps52S (hN : 60 ≤ N.1) {m : mS} {n : Nat} (hn : n < 16) (h33 : m.1 33 = nI n) {w : Int32} {K : mS → Prop} (h : ∀ g, cE (kAt m n w) g → K g) : w_keeps_52 N w 26 K m := by
  unfold w_keeps_52
  have e26 : (26 : Int32) * nI n = nI (26 * n) := pk_mul 26 n
  have loop : ∀ f t k g, k + f = 25 → f + 1 ≤ t → g = sA m 31 (fun q => if 26 * n ≤ q ∧ q < 26 * n + k then m.2.1 2 (q - 26 * n) else m.2.1 31 q) → w_keeps_54 N w 26 K (fun s101 => vp_in ((26 * (mFd s101 33)) + 25) 416 ∧ ∀ s103 : mS, s103 = mI s101 31 ((26 * (mFd s101 33)) + 25) w → ∀ s104 : mS, s104 = mF s103 33 ((mFd s103 33) + 1) → K s104) t (nI k) g := by
    intro f
    induction f with
    | zero =>
      intro t k g hk ht hg
      obtain ⟨t, rfl⟩ : ∃ u, t = u + 1 := ⟨t - 1, by omega⟩
      have e1 : k = 25 := by omega
      subst e1
      have g33 : mFd g 33 = nI n := by
        rw [hg]
        exact h33
      simp only [w_keeps_54]
      rw [g33, e26, show (25 : Int32) = nI 25 from rfl, nI_add]
      refine ⟨fun _ => ⟨vpk (by omega) (by decide), fun s3 e3 s4 e4 => ?_⟩, fun z => absurd (nI_le (Nat.le_refl _) (by omega)) z⟩
      have h3 : mFd s3 33 = nI n := by
        rw [e3]
        exact g33
      rw [h3, nI_1] at e4
      refine h s4 ⟨fun j hj => ?_, fun q hq => ?_⟩
      · rw [e4, e3, hg]
        rfl
      · rw [e4, e3, hg]
        show (mI (sA m 31 _) 31 (nI (26 * n + 25)) w).2.1 q = (sA m 31 _).2.1 q
        by_cases e : q = 31
        · subst e
          funext i
          rw [mI_at _ _ _ (by omega), sA_at, sA_at]
          by_cases c1 : i = 26 * n + 25
          · rw [if_pos c1, if_neg (by omega), if_pos c1]
          · rw [if_neg c1, if_neg c1]
        · rw [mI_o _ _ _ e, sA_o _ _ e, sA_o _ _ e]
    | succ f ih =>
      intro t k g hk ht hg
      obtain ⟨t, rfl⟩ : ∃ u, t = u + 1 := ⟨t - 1, by omega⟩
      have g33 : mFd g 33 = nI n := by
        rw [hg]
        exact h33
      simp only [w_keeps_54]
      rw [g33, e26, nI_add, show (25 : Int32) = nI 25 from rfl, nI_leI (by omega) (by omega)]
      refine ⟨fun z => by omega, fun _ => ⟨vpk (by omega) (by decide), vpk (by omega) (by decide), fun s4 e4 y hy => ?_⟩⟩
      rw [nI_1] at hy
      subst hy
      refine ih t (k + 1) s4 (by omega) (by omega) ?_
      have e2 : mAt g 2 (nI k) = m.2.1 2 k := by
        rw [mAt_n (by omega), hg, sA_o _ _ (by decide)]
      rw [e4, e2, hg]
      refine Prod.ext rfl (Prod.ext (funext fun q => ?_) rfl)
      by_cases e : q = 31
      · subst e
        funext i
        rw [mI_at _ _ _ (by omega), sA_at, sA_at]
        by_cases c1 : i = 26 * n + k
        · rw [if_pos c1, if_pos (by omega), c1, show 26 * n + k - 26 * n = k by omega]
        · rw [if_neg c1]
          by_cases c2 : 26 * n ≤ i ∧ i < 26 * n + k
          · rw [if_pos c2, if_pos (by omega)]
          · rw [if_neg c2, if_neg (by omega)]
      · rw [mI_o _ _ _ e, sA_o _ _ e, sA_o _ _ e]
  refine loop 25 N.1 0 m (by omega) (by omega) ?_
  refine Prod.ext rfl (Prod.ext (funext fun q => ?_) rfl)
  by_cases e : q = 31
  · subst e
    funext i
    rw [sA_at, if_neg (by omega)]
  · rw [sA_o _ _ e]
theorem w_keepsS (hN : 450 ≤ N.1) {m : mS} {n : Nat} (hn : n ≤ 16) (h33 : m.1 33 = nI n) {w : Int32} {K : mS → Prop} (h : ∀ g, cE (if n = 16 then kAt (kRot m) 15 w else kAt m n w) g → K g) : w_keeps N w m K := by
  unfold w_keeps
  have e33 : mFd m 33 = nI n := h33
  have c16 : nI n = 16 ↔ n = 16 := by
    rw [show (16 : Int32) = nI 16 from rfl, nI_eq (by omega) (by omega)]
  rw [e33, c16]
  refine ⟨fun nn => w_keeps52S (by omega) (by omega) h33 (fun g hg => h g (by rw [if_neg nn]; exact hg)), fun yn => ?_⟩
  have loop : ∀ f t k g, k + f = 390 → f + 1 ≤ t → g = sA m 31 (fun q => if q < k then m.2.1 31 (q + 26) else m.2.1 31 q) → w_keeps_14 N w 26 K (fun s102 => ∀ s103 : mS, s103 = mF s102 33 ((mFd s102 33) - 1) → w_keeps_52 N w 26 K s103) t (nI k) g := by
    intro f
    induction f with
    | zero =>
      intro t k g hk ht hg
      obtain ⟨t, rfl⟩ : ∃ u, t = u + 1 := ⟨t - 1, by omega⟩
      have e1 : k = 390 := by omega
      subst e1
      simp only [w_keeps_14]
      rw [show (15 : Int32) * 26 = nI 390 from by decide]
      refine ⟨fun _ s3 e3 => ?_, fun z => absurd (nI_le (Nat.le_refl _) (by omega)) z⟩
      have g33 : mFd g 33 = nI 16 := by
        rw [hg]
        show m.1 33 = nI 16
        rw [h33, yn]
      rw [g33, show nI 16 - 1 = nI 15 from by decide] at e3
      have e3' : s3 = kRot m := by
        rw [e3, hg]
        rfl
      rw [e3']
      exact w_keeps52S (by omega) (by omega) rfl (fun g hg => h g (by rw [if_pos yn]; exact hg))
    | succ f ih =>
      intro t k g hk ht hg
      obtain ⟨t, rfl⟩ : ∃ u, t = u + 1 := ⟨t - 1, by omega⟩
      simp only [w_keeps_14]
      rw [show (15 : Int32) * 26 = nI 390 from by decide, show (26 : Int32) = nI 26 from rfl, nI_add, nI_leI (by omega) (by omega)]
      refine ⟨fun z => by omega, fun _ => ⟨vpk (by omega) (by decide), vpk (by omega) (by decide), fun s4 e4 y hy => ?_⟩⟩
      rw [nI_1] at hy
      subst hy
      refine ih t (k + 1) s4 (by omega) (by omega) ?_
      have e2 : mAt g 31 (nI (k + 26)) = m.2.1 31 (k + 26) := by
        rw [mAt_n (by omega), hg, sA_at, if_neg (by omega)]
      rw [e4, e2, hg]
      refine Prod.ext rfl (Prod.ext (funext fun q => ?_) rfl)
      by_cases e : q = 31
      · subst e
        funext i
        rw [mI_at _ _ _ (by omega), sA_at, sA_at]
        by_cases c1 : i = k
        · rw [if_pos c1, if_pos (by omega), c1]
        · rw [if_neg c1]
          by_cases c2 : i < k
          · rw [if_pos c2, if_pos (by omega)]
          · rw [if_neg c2, if_neg (by omega)]
      · rw [mI_o _ _ _ e, sA_o _ _ e, sA_o _ _ e]
  refine loop 390 N.1 0 m (by omega) (by omega) ?_
  refine Prod.ext rfl (Prod.ext (funext fun q => ?_) rfl)
  by_cases e : q = 31
  · subst e
    funext i
    rw [sA_at, if_neg (by omega)]
  · rw [sA_o _ _ e]
end KP
