set_option maxRecDepth 100000
/-! ===== the system against the model: the relation ===== -/
/-- a list's table: the empty one, or ten places -/
def tabOK (N : tP) (s : tM) (e told : Nat) : Prop := (told = 0 ∧ e = N.2.2 200) ∨ tA s 10 10 e
/-- the laws of a table mean what the kept row's texts mean -/
def lawT (s : tM) (M : Nat → Prop) (e : Nat) (kp : Nat → Int32) (told : Nat) : Prop := ∀ t, t < told → ∃ cls, txOK kp t cls ∧ isText s M (tR s e t) cls
def lstR (N : tP) (s : tM) (M : Nat → Prop) (l : Nat) (kp : Nat → Int32) : Prop := ∃ told, told ≤ 6 ∧ kp 43 = nI told ∧ tI s l 2 = nI told ∧ tabOK N s (tR s l 1) told ∧ lawT s M (tR s l 1) kp told
/-- a desk that is kept as an image -/
def deskM (N : tP) (s : tM) (M : Nat → Prop) (d : Nat) (kp : Nat → Int32) : Prop := (M d ∧ tO s 1 d) ∧ (M (tR s d 0) ∧ tO s 20 (tR s d 0)) ∧ (M (tR s d 1) ∧ tA s 0 5 (tR s d 1)) ∧ (M (tR s d 2) ∧ tA s 11 6 (tR s d 2)) ∧ (M (tR s d 3) ∧ tO s 2 (tR s d 3)) ∧ (M (tR s (tR s d 3) 0) ∧ tA s 0 12 (tR s (tR s d 3) 0)) ∧ (M (tR s (tR s d 3) 1) ∧ tA s 0 12 (tR s (tR s d 3) 1)) ∧ (∀ i, i < 6 → M (tR s (tR s d 2) i) ∧ tA s 0 2 (tR s (tR s d 2) i) ∧ tI s (tR s (tR s d 2) i) 0 = kp (25 + 2 * i) ∧ tI s (tR s (tR s d 2) i) 1 = kp (26 + 2 * i)) ∧ (∀ j, j < 12 → tI s (tR s (tR s d 3) 1) j = kp j ∧ tI s (tR s (tR s d 3) 0) j = kp (12 + j)) ∧ tI s (tR s d 3) 2 = kp 24 ∧ (∀ i, 1 ≤ i → i ≤ 4 → tI s (tR s d 1) i = kp (36 + i)) ∧ (tI s d 4 = kp 41 ∧ tI s d 5 = kp 42 ∧ tI s d 6 = kp 44) ∧ (tR s (tR s d 0) 1 = N.2.2 200 ∨ M (tR s (tR s d 0) 1)) ∧ lstR N s M (tR s d 0) kp
/-- what holds of a kept row -/
def kpI (kp : Nat → Int32) : Prop := kpN kp ∧ (0 ≤ (kp 37).toInt ∧ (kp 37).toInt ≤ 10) ∧ pI (kp 39) ∧ pI (kp 40) ∧ (∃ n, n ≤ 12 ∧ kp 41 = nI n) ∧ (∃ n, n ≤ 6 ∧ kp 42 = nI n) ∧ (∀ i, i < 6 → ∃ f, f < 4 ∧ kp (25 + 2 * i) = nI f) ∧ ∃ told, told ≤ 6 ∧ kp 43 = nI told ∧ (kp 44 = -1 ∨ ∃ t, t < told ∧ kp 44 = nI t)
/-- the images of the model: kept row k of them -/
def imK (m : mS) (k : Nat) : Nat → Int32 := fun i => m.2.1 3 (5652 * k + i)
def imR (N : tP) (s : tM) (L : Nat → Nat) (M : Nat → Prop) (m : mS) : Prop := ∀ k, k < 2 → (m.2.1 4 k = 0 ∧ tR s (L 1) k = 0) ∨ (m.2.1 4 k = 1 ∧ tR s (L 1) k ≠ 0 ∧ deskM N s M (tR s (L 1) k) (imK m k) ∧ kpI (imK m k))
def undR (s : tM) (L : Nat → Nat) (m : mS) : Prop := ∃ n, n ≤ 16 ∧ m.1 33 = nI n ∧ ∀ k, k < n → (∀ j, j < 12 → tI s (L (300 + k)) j = m.2.1 31 (26 * k + 12 + j) ∧ tI s (L (500 + k)) j = m.2.1 31 (26 * k + j) ∧ pI (m.2.1 31 (26 * k + j)) ∧ pI (m.2.1 31 (26 * k + 12 + j))) ∧ tI s (L (100 + k)) 2 = m.2.1 31 (26 * k + 24) ∧ (0 ≤ (m.2.1 31 (26 * k + 24)).toInt ∧ (m.2.1 31 (26 * k + 24)).toInt ≤ 999) ∧ tI s (L (100 + k)) 3 = m.2.1 31 (26 * k + 25) ∧ ∃ w, w < 4 ∧ m.2.1 31 (26 * k + 25) = nI w
def invM (m : mS) : Prop := kpI (m.2.1 2) ∧ (∃ n, n ≤ 400 ∧ m.1 13 = nI n) ∧ (∀ k, k < 400 → -128 ≤ (m.2.1 11 k).toInt ∧ (m.2.1 11 k).toInt ≤ 127) ∧ (m.1 49 = -1 ∨ ∃ n, n ≤ 12 ∧ m.1 49 = nI n) ∧ wdOK m
/-- cells of trees and images, and those of the others -/
def uM (M O : Nat → Prop) : Nat → Prop := fun a => M a ∨ O a
/-- the system's cells against the model m; M: cells of trees and images, which stay; O: the others' cells -/
def RX (N : tP) (s : tM) (L : Nat → Nat) (M O : Nat → Prop) (m : mS) : Prop := RS s L (uM M O) ∧ (s.1 (N.2.2 200) = none ∧ ∀ a, O a → ¬ M a) ∧ isText s M (tR s (L 0) 8) [] ∧ Rel s L m ∧ undR s L m ∧ ((tR s (L 41) 1 = N.2.2 200 ∨ ¬ uM M O (tR s (L 41) 1)) ∧ lstR N s M (L 41) (m.2.1 2)) ∧ imR N s L M m ∧ invM m
/-- asking: what it changes -/
def aS (L : Nat → Nat) (s s' : tM) : Prop := s'.1 = s.1 ∧ s'.2.2.2 = s.2.2.2 ∧ (∀ a j, ¬ (a = L 6 ∧ j = 1) → tI s' a j = tI s a j) ∧ ∀ a, s.1 a ≠ some (.inl 13) → a ≠ L 33 → s'.2.2.1 a = s.2.2.1 a
theorem aS_r (L : Nat → Nat) (s : tM) : aS L s s := ⟨rfl, rfl, fun _ _ _ => rfl, fun _ _ _ => rfl⟩
theorem aS_t {L : Nat → Nat} {s s' s2 : tM} (h : aS L s s') (h2 : aS L s' s2) : aS L s s2 := ⟨h2.1.trans h.1, h2.2.1.trans h.2.1, fun a j hn => (h2.2.2.1 a j hn).trans (h.2.2.1 a j hn), fun a ha hb => (h2.2.2.2 a (by rw [h.1]; exact ha) hb).trans (h.2.2.2 a ha hb)⟩
theorem aS_te {L : Nat → Nat} {s s' : tM} (h : teS (L 6) s s') : aS L s s' := ⟨h.1, h.2.1, h.2.2.1, fun a ha _ => h.2.2.2 a ha⟩
/-- the cells of M, their longs too (but what clauses told) -/
def frM (M : Nat → Prop) (s s' : tM) : Prop := mFr M s s' ∧ ∀ a, M a → s.1 a ≠ some (.inl 13) → s'.2.2.1 a = s.2.2.1 a
theorem frM_r (M : Nat → Prop) (s : tM) : frM M s s := ⟨mFr_r M s, fun _ _ _ => rfl⟩
theorem frM_t {M : Nat → Prop} {s s' s2 : tM} (h : frM M s s') (h2 : frM M s' s2) : frM M s s2 := ⟨mFr_t h.1 h2.1, fun a ha hb => (h2.2 a ha (by rw [(h.1 a ha).1]; exact hb)).trans (h.2 a ha hb)⟩
section AS
variable {N : tP} {s s' : tM} {L : Nat → Nat} {M O : Nat → Prop} {m : mS}
theorem mFr_s {M M' : Nat → Prop} {s s' : tM} (h : mFr M s s') (hM : ∀ a, M' a → M a) : mFr M' s s' := fun a ha => h a (hM a ha)
theorem frM_s {M M' : Nat → Prop} {s s' : tM} (h : frM M s s') (hM : ∀ a, M' a → M a) : frM M' s s' := ⟨mFr_s h.1 hM, fun a ha => h.2 a (hM a ha)⟩
theorem RS.n1 (h : RS s L (uM M O)) {r : Nat} (e : shp r ≠ none) : ¬ M (L r) := fun z => h.nM e (Or.inl z)
theorem RS.n2 (h : RS s L (uM M O)) {r : Nat} (e : shp r ≠ none) : ¬ O (L r) := fun z => h.nM e (Or.inr z)
theorem aS_M (h : aS L s s') (hR : RS s L M) : frM M s s' := ⟨fun a ha => ⟨by rw [h.1], funext fun j => h.2.2.1 a j fun z => hR.nM (r := 6) (by decide) (z.1 ▸ ha), by rw [h.2.1]⟩, fun a ha hb => h.2.2.2 a hb fun z => hR.nM (r := 33) (by decide) (z ▸ ha)⟩
theorem aS_I (h : aS L s s') (hR : RS s L M) {r : Nat} (h1 : shp r ≠ none) (h2 : r ≠ 6) (j : Nat) : tI s' (L r) j = tI s (L r) j := h.2.2.1 _ _ fun z => hR.ne h1 (r' := 6) (by decide) h2 z.1
theorem lstR_fr {M' : Nat → Prop} {l : Nat} {kp : Nat → Int32} (h : mFr M s s') (hM : ∀ a, M a → M' a) (h0 : ∀ j, tI s' l j = tI s l j) (h1 : tR s' l 1 = tR s l 1) (h2 : ∀ n t a, tA s t n a → tA s' t n a) (h3 : ∀ t, tR s' (tR s l 1) t = tR s (tR s l 1) t) (hl : lstR N s M l kp) : lstR N s' M' l kp := by
  obtain ⟨told, k1, k2, k3, k4, k5⟩ := hl
  refine ⟨told, k1, k2, (h0 2).trans k3, ?_, ?_⟩
  · rw [h1]
    exact k4.elim Or.inl fun z => Or.inr (h2 _ _ _ z)
  · rw [h1]
    intro t ht
    obtain ⟨cls, c1, c2⟩ := k5 t ht
    rw [h3]
    exact ⟨cls, c1, isText_fr h hM c2⟩
theorem deskM_fr {M' : Nat → Prop} {d : Nat} {kp : Nat → Int32} (h : mFr M s s') (hM : ∀ a, M a → M' a) (h2 : ∀ n t a, tA s t n a → tA s' t n a) (h3 : ∀ t, tR s' (N.2.2 200) t = tR s (N.2.2 200) t) (hd : deskM N s M d kp) : deskM N s' M' d kp := by
  obtain ⟨⟨m0, o0⟩, ⟨m1, o1⟩, ⟨m2, o2⟩, ⟨m3, o3⟩, ⟨m4, o4⟩, ⟨m5, o5⟩, ⟨m6, o6⟩, g1, g2, g3, g4, g5, g6, g7⟩ := hd
  have R : ∀ a, M a → ∀ j, tR s' a j = tR s a j := fun a ha j => congrFun (h a ha).2.2 j
  have I : ∀ a, M a → ∀ j, tI s' a j = tI s a j := fun a ha j => congrFun (h a ha).2.1 j
  unfold deskM
  rw [R d m0, R d m0, R d m0, R d m0, R _ m4, R _ m4, R _ m1]
  refine ⟨⟨hM _ m0, mFr_O h m0 o0⟩, ⟨hM _ m1, mFr_O h m1 o1⟩, ⟨hM _ m2, mFr_A h m2 o2⟩, ⟨hM _ m3, mFr_A h m3 o3⟩, ⟨hM _ m4, mFr_O h m4 o4⟩, ⟨hM _ m5, mFr_A h m5 o5⟩, ⟨hM _ m6, mFr_A h m6 o6⟩, fun i hi => ?_, fun j hj => ?_, ?_, fun i h1 h4 => ?_, ?_, g6.elim Or.inl fun z => Or.inr (hM _ z), ?_⟩
  · obtain ⟨a1, a2, a3, a4⟩ := g1 i hi
    rw [R _ m3, I _ a1, I _ a1]
    exact ⟨hM _ a1, mFr_A h a1 a2, a3, a4⟩
  · rw [I _ m6, I _ m5]
    exact g2 j hj
  · rw [I _ m4]
    exact g3
  · rw [I _ m2]
    exact g4 i h1 h4
  · rw [I _ m0, I _ m0, I _ m0]
    exact g5
  · refine lstR_fr h hM (I _ m1) (R _ m1 1) h2 (fun t => ?_) g7
    rcases g6 with g6 | g6
    · rw [g6]
      exact h3 t
    · exact R _ g6 t
/-- all stays where only asking was done -/
theorem RX.a (hX : RX N s L M O m) (h : aS L s s') : RX N s' L M O m := by
  obtain ⟨x1, x2, x3, x4, x5, ⟨x6, x7⟩, x8, x9⟩ := hX
  have hM := frM_s (aS_M h x1) (M' := M) (fun a ha => Or.inl ha)
  have R : ∀ a j, tR s' a j = tR s a j := fun a j => by
    show s'.2.2.2 a j = _
    rw [h.2.1]
  have A : ∀ n t a, tA s t n a → tA s' t n a := fun n t a ha => ⟨by rw [h.1]; exact ha.1, ha.2⟩
  refine ⟨x1.i h.1 h.2.1, ⟨by rw [h.1]; exact x2.1, x2.2⟩, ?_, ?_, ?_, ⟨?_, ?_⟩, fun k hk => ?_, x9⟩
  · rw [R]
    exact isText_fr hM.1 (fun _ z => z) x3
  · refine x4.f fun r j p hr => aS_I h x1 (loc_u hr) (fun z => ?_) j
    rw [z] at hr
    cases hr
  · obtain ⟨n, n1, n2, n3⟩ := x5
    refine ⟨n, n1, n2, fun k hk => ?_⟩
    obtain ⟨k1, k2, k3, k4, k5⟩ := n3 k hk
    have hb := shp_bk (b := 100 + k) (Or.inr (Or.inr (Or.inr (Or.inr (Or.inl (by omega))))))
    have e3 : shp (300 + k) ≠ none := by
      have := hb.2.1
      rw [show 200 + (100 + k) = 300 + k by omega] at this
      rw [this]
      exact fun z => by cases z
    have e5 : shp (500 + k) ≠ none := by
      have := hb.2.2
      rw [show 400 + (100 + k) = 500 + k by omega] at this
      rw [this]
      exact fun z => by cases z
    have e1 : shp (100 + k) ≠ none := by
      rw [hb.1]
      exact fun z => by cases z
    refine ⟨fun j hj => ?_, ?_, k3, ?_, k5⟩
    · rw [aS_I h x1 e3 (by omega), aS_I h x1 e5 (by omega)]
      exact k1 j hj
    · rw [aS_I h x1 e1 (by omega)]
      exact k2
    · rw [aS_I h x1 e1 (by omega)]
      exact k4
  · rw [R]
    exact x6
  · exact lstR_fr hM.1 (fun _ z => z) (aS_I h x1 (by decide) (by decide)) (R _ _) A (fun t => R _ _) x7
  · rw [R]
    exact (x8 k hk).imp id fun z => ⟨z.1, z.2.1, deskM_fr hM.1 (fun _ z => z) A (fun t => R _ _) z.2.2.1, z.2.2.2⟩
/-- and where the model changed nothing that is kept -/
theorem RX.c (hX : RX N s L M O m) {m' : mS} (h : cE m m') : RX N s L M O m' := by
  obtain ⟨x1, x2, x3, x4, x5, ⟨x6, x7⟩, x8, x9⟩ := hX
  have e2 : m'.2.1 2 = m.2.1 2 := h.2 2 (by decide)
  have e3 : m'.2.1 3 = m.2.1 3 := h.2 3 (by decide)
  have e4 : m'.2.1 4 = m.2.1 4 := h.2 4 (by decide)
  have e7 : m'.2.1 7 = m.2.1 7 := h.2 7 (by decide)
  have e11 : m'.2.1 11 = m.2.1 11 := h.2 11 (by decide)
  have e31 : m'.2.1 31 = m.2.1 31 := h.2 31 (by decide)
  have f33 : m'.1 33 = m.1 33 := h.1 33 (by decide)
  have f13 : m'.1 13 = m.1 13 := h.1 13 (by decide)
  have f49 : m'.1 49 = m.1 49 := h.1 49 (by decide)
  refine ⟨x1, x2, x3, x4.c h, ?_, ⟨x6, by rw [e2]; exact x7⟩, ?_, ?_⟩
  · unfold undR
    rw [e31, f33]
    exact x5
  · unfold imR imK
    rw [e3, e4]
    exact x8
  · unfold invM wdOK
    rw [e2, e7, e11, f13, f49]
    exact x9
end AS
/-! the smallest methods -/
section SM
variable {N : tP} {s : tM} {L : Nat → Nat} {M O : Nat → Prop} {m : mS}
theorem i2l0 : (0 : Int32).toInt64 = 0 := by decide
theorem v_inS {x lo hi : Int64} {s : tM} {K : Int32 → tM → Prop} (h : K (bI (decide (lo ≤ x) && decide (x ≤ hi))) s) : v_X0_in x lo hi s K := by
  unfold v_X0_in
  rw [lgc_neg, lgc_pos]
  have hn : ∀ a b : Int64, ¬ a < b ↔ b ≤ a := fun a b => by
    rw [Int64.lt_iff_toInt_lt, Int64.le_iff_toInt_le]
    omega
  refine ⟨fun z => ?_, fun z => ⟨fun z2 => ?_, fun z2 => ?_⟩⟩
  · rw [decide_eq_false (fun q => (hn _ _).mpr q z)] at h
    exact h
  · rw [decide_eq_false (p := x ≤ hi) (fun q => (hn _ _).mpr q z2), Bool.and_false] at h
    exact h
  · rw [decide_eq_true ((hn _ _).mp z), decide_eq_true ((hn _ _).mp z2)] at h
    exact h
def isPI (x : Int32) : Bool := decide (0 ≤ x.toInt) && decide (x.toInt ≤ 24)
theorem isPI_t {x : Int32} : isPI x = true ↔ pI x := by
  unfold isPI pI
  simp
theorem v_isPitchS {x : Int32} {s : tM} {K : Int32 → tM → Prop} (h : K (bI (isPI x)) s) : v_X0_isPitch x s K := by
  unfold v_X0_isPitch
  refine v_inS ⟨bI_x _, ?_⟩
  have e : (decide ((0 : Int64) ≤ x.toInt64) && decide (x.toInt64 ≤ 24)) = isPI x := by
    unfold isPI
    have z0 : (0 : Int64).toInt = 0 := by decide
    have z24 : (24 : Int64).toInt = 24 := by decide
    simp only [Int64.le_iff_toInt_le, Int32.toInt_toInt64, z0, z24]
  rw [e]
  exact h
theorem v_booksS (hR : RS s L M) {K : Nat → tM → Prop} (h : K (L 44) s) : v_X0_books (L 0) s K := by
  unfold v_X0_books
  rw [hR.t (r := 0) (j := 0) (q := 40) (by decide), hR.t (r := 40) (j := 3) (q := 44) (by decide)]
  exact ⟨hR.o (r := 0) rfl, hR.o (r := 40) rfl, h⟩
theorem v_nNotesS (hR : RS s L M) {K : Int32 → tM → Prop} (h : K (tI s (L 40) 4) s) : v_X0_nNotes (L 0) s K := by
  unfold v_X0_nNotes
  rw [hR.t (r := 0) (j := 0) (q := 40) (by decide)]
  exact ⟨hR.o (r := 0) rfl, hR.o (r := 40) rfl, h⟩
/-- a note's number -/
def isNI (n : Nat) (x : Int32) : Bool := decide (0 ≤ x.toInt) && decide (x.toInt < n)
theorem v_isNoteS (hR : RS s L M) {n : Nat} (hn : tI s (L 40) 4 = nI n) (hn2 : n ≤ 12) {x : Int32} {K : Int32 → tM → Prop} (h : K (bI (isNI n x)) s) : v_X0_isNote (L 0) x s K := by
  unfold v_X0_isNote
  refine ⟨hR.o (r := 0) rfl, v_nNotesS hR ?_⟩
  rw [hn]
  refine v_inS ⟨bI_x _, ?_⟩
  have e : (decide ((0 : Int64) ≤ x.toInt64) && decide (x.toInt64 ≤ (nI n - 1).toInt64)) = isNI n x := by
    unfold isNI
    have z0 : (0 : Int64).toInt = 0 := by decide
    have hs : (nI n - 1).toInt = (n : Int) - 1 := by
      have e1 : (1 : Int32).toInt = 1 := by decide
      have e2 := nI_toInt (n := n) (by omega)
      rw [i32_sub (by omega) (by omega), e1, e2]
    simp only [Int64.le_iff_toInt_le, Int32.toInt_toInt64, z0, hs]
    congr 1
    rw [decide_eq_decide]
    omega
  rw [e]
  exact h
end SM
