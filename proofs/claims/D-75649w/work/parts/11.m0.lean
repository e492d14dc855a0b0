set_option maxRecDepth 100000
def w_noteMany (s : mS) (Kr : Int32 → mS → Prop) : Prop :=
  (vp_in 41 5652 ∧ (Kr (mAt s 2 41) s))
theorem c_noteMany {G : xG} {l : Launch} {a : Nat → Nat} {g : xH} (ha : mInj a) {d : Nat} (hd : 1 ≤ d) {s : mS} {Kr : Int32 → mS → Prop} (h : w_noteMany s Kr) : xC G l kX6_noteMany d 0 0 [.ref (a 51)] (mH G a s g) (mQi G a g Kr) := by
  obtain ⟨d, rfl⟩ : ∃ z, d = z + 1 := ⟨d - 1, by omega⟩
  refine xC.start rfl (by decide +kernel) (Nat.le_of_ble_eq_true rfl) (lv := [some (.ref (a 51))]) rfl ?_
  unfold w_noteMany at h
  refine x_aload_0 dX6_noteMany_0 ?_
  refine m_get ha dX6_noteMany_1 fa_X6_28 rfl ?_
  refine x_bipush (v := 41) dX6_noteMany_4 (by decide) ?_
  obtain ⟨e101, h⟩ := h
  refine m_iald (j := 2) ha dX6_noteMany_6 (by decide) (by decide) e101 ?_
  exact x_iret dX6_noteMany_7 rfl ⟨_, _, h, rfl, rfl⟩
def w_adds (x1 : Int32) (x2 : Int32) (s : mS) (Kr : mS → Prop) : Prop :=
  (w_noteMany s (fun x101 s102 => (vp_in (12 + x101) 5652 ∧ (∀ s104 : mS, s104 = mI s102 2 (12 + x101) x1 → (w_noteMany s104 (fun x105 s106 => (vp_in (0 + x105) 5652 ∧ (∀ s108 : mS, s108 = mI s106 2 (0 + x105) x2 → (vp_in 41 5652 ∧ (vp_in 41 5652 ∧ (∀ s111 : mS, s111 = mI s108 2 41 ((mAt s108 2 41) + 1) → (Kr s111))))))))))))
theorem c_adds {G : xG} {l : Launch} {a : Nat → Nat} {g : xH} (ha : mInj a) {d : Nat} (hd : 2 ≤ d) {x1 : Int32} {x2 : Int32} {s : mS} {Kr : mS → Prop} (h : w_adds x1 x2 s Kr) : xC G l kX6_adds d 0 0 [.ref (a 51), .int x1, .int x2] (mH G a s g) (mQv G a g Kr) := by
  obtain ⟨d, rfl⟩ : ∃ z, d = z + 1 := ⟨d - 1, by omega⟩
  refine xC.start rfl (by decide +kernel) (Nat.le_of_ble_eq_true rfl) (lv := [some (.ref (a 51)), some (.int x1), some (.int x2)]) rfl ?_
  unfold w_adds at h
  refine x_aload_0 dX6_adds_0 ?_
  refine m_get ha dX6_adds_1 fa_X6_28 rfl ?_
  refine x_bipush (v := 12) dX6_adds_4 (by decide) ?_
  refine x_aload_0 dX6_adds_6 ?_
  refine m_cVi0 ha rfl cv_X6_112 (Nat.le_of_ble_eq_true rfl) dX6_adds_7 (c_noteMany ha (by omega) h) (fun x101 s102 h => ?_)
  refine x_iadd dX6_adds_10 ?_
  refine x_iload_1 dX6_adds_11 ?_
  obtain ⟨e103, h⟩ := h
  refine m_iast (j := 2) ha dX6_adds_12 (by decide) (by decide) e103 ?_
  have h := h _ rfl
  refine x_aload_0 dX6_adds_13 ?_
  refine m_get ha dX6_adds_14 fa_X6_28 rfl ?_
  refine x_iconst (v := 0) dX6_adds_17 (by decide) ?_
  refine x_aload_0 dX6_adds_18 ?_
  refine m_cVi0 ha rfl cv_X6_112 (Nat.le_of_ble_eq_true rfl) dX6_adds_19 (c_noteMany ha (by omega) h) (fun x105 s106 h => ?_)
  refine x_iadd dX6_adds_22 ?_
  refine x_iload_2 dX6_adds_23 ?_
  obtain ⟨e107, h⟩ := h
  refine m_iast (j := 2) ha dX6_adds_24 (by decide) (by decide) e107 ?_
  have h := h _ rfl
  refine x_aload_0 dX6_adds_25 ?_
  refine m_get ha dX6_adds_26 fa_X6_28 rfl ?_
  refine x_bipush (v := 41) dX6_adds_29 (by decide) ?_
  refine x_dup2 dX6_adds_31 rfl rfl ?_
  obtain ⟨e109, h⟩ := h
  refine m_iald (j := 2) ha dX6_adds_32 (by decide) (by decide) e109 ?_
  refine x_iconst (v := 1) dX6_adds_33 (by decide) ?_
  refine x_iadd dX6_adds_34 ?_
  obtain ⟨e110, h⟩ := h
  refine m_iast (j := 2) ha dX6_adds_35 (by decide) (by decide) e110 ?_
  have h := h _ rfl
  exact x_vret dX6_adds_36 rfl ⟨_, h, rfl, rfl⟩
def w_bare (x0 : Int32) (Kr : Int32 → Prop) : Prop :=
  ((0 ≤ x0 → (Kr x0)) ∧ (¬ 0 ≤ x0 → (Kr (-x0))))
theorem c_bare {G : xG} {l : Launch} {h0 : xH} {d : Nat} (hd : 1 ≤ d) {x0 : Int32} {Kr : Int32 → Prop} (h : w_bare x0 Kr) : xC G l kX6_bare d 0 0 [.int x0] h0 (xQi h0 Kr) := by
  obtain ⟨d, rfl⟩ : ∃ z, d = z + 1 := ⟨d - 1, by omega⟩
  refine xC.start rfl (by decide +kernel) (Nat.le_of_ble_eq_true rfl) (lv := [some (.int x0)]) rfl ?_
  unfold w_bare at h
  refine x_iload_0 dX6_bare_0 ?_
  refine x_if_ge 9 dX6_bare_1 (by decide) (fun c101 => ?_) (fun c101 => ?_)
  · have h := h.1 c101
    refine x_iload_0 dX6_bare_9 ?_
    exact x_iret dX6_bare_10 rfl ⟨_, h, rfl, rfl⟩
  · have h := h.2 c101
    refine x_iload_0 dX6_bare_4 ?_
    refine x_ineg dX6_bare_5 ?_
    refine x_goto 10 dX6_bare_6 (by decide) ?_
    exact x_iret dX6_bare_10 rfl ⟨_, h, rfl, rfl⟩
def w_codeAt (x1 : Int32) (s : mS) (Kr : Int32 → mS → Prop) : Prop :=
  (((mFd s 23) ≤ x1 → (Kr 0 s)) ∧ (¬ (mFd s 23) ≤ x1 → (vp_in (52 + x1) 5652 ∧ (Kr (mAt s 2 (52 + x1)) s))))
theorem c_codeAt {G : xG} {l : Launch} {a : Nat → Nat} {g : xH} (ha : mInj a) {d : Nat} (hd : 1 ≤ d) {x1 : Int32} {s : mS} {Kr : Int32 → mS → Prop} (h : w_codeAt x1 s Kr) : xC G l kX6_codeAt d 0 0 [.ref (a 51), .int x1] (mH G a s g) (mQi G a g Kr) := by
  obtain ⟨d, rfl⟩ : ∃ z, d = z + 1 := ⟨d - 1, by omega⟩
  refine xC.start rfl (by decide +kernel) (Nat.le_of_ble_eq_true rfl) (lv := [some (.ref (a 51)), some (.int x1)]) rfl ?_
  unfold w_codeAt at h
  refine x_iload_1 dX6_codeAt_0 ?_
  refine x_aload_0 dX6_codeAt_1 ?_
  refine m_get ha dX6_codeAt_2 fa_X6_258 rfl ?_
  refine x_icmp_ge 20 dX6_codeAt_5 (by decide) (fun c101 => ?_) (fun c101 => ?_)
  · have h := h.1 c101
    refine x_iconst (v := 0) dX6_codeAt_20 (by decide) ?_
    exact x_iret dX6_codeAt_21 rfl ⟨_, _, h, rfl, rfl⟩
  · have h := h.2 c101
    refine x_aload_0 dX6_codeAt_8 ?_
    refine m_get ha dX6_codeAt_9 fa_X6_28 rfl ?_
    refine x_bipush (v := 52) dX6_codeAt_12 (by decide) ?_
    refine x_iload_1 dX6_codeAt_14 ?_
    refine x_iadd dX6_codeAt_15 ?_
    obtain ⟨e102, h⟩ := h
    refine m_iald (j := 2) ha dX6_codeAt_16 (by decide) (by decide) e102 ?_
    refine x_goto 21 dX6_codeAt_17 (by decide) ?_
    exact x_iret dX6_codeAt_21 rfl ⟨_, _, h, rfl, rfl⟩
def w_passes0_17 (y0 : Int32) (Kr : Int32 → mS → Prop) (s : mS) : Prop :=
  ((y0 = 0 → (xB y0 ∧ (Kr y0 s))) ∧ (¬ y0 = 0 → (∀ s103 : mS, s103 = mF s 22 ((mFd s 22) + 1) → (xB y0 ∧ (Kr y0 s103)))))
theorem c_passes0_17 {G : xG} {l : Launch} {a : Nat → Nat} {g : xH} (ha : mInj a) {d : Nat} (hd : 1 ≤ d) (y0 : Int32) (Kr : Int32 → mS → Prop) (s : mS) (h : w_passes0_17 y0 Kr s) : xF G l kX6_passes0 (d + 1) 0 0 (mQi G a g Kr) 17 [some (.ref (a 51)), none, none] [.int y0] (mH G a s g) := by
  unfold w_passes0_17 at h
  refine x_istore_2 dX6_passes0_17 (by decide) xN2_none ?_
  refine x_iload_2 dX6_passes0_18 ?_
  refine x_if_eq 32 dX6_passes0_19 (by decide) (fun c101 => ?_) (fun c101 => ?_)
  · have h := h.1 c101
    refine x_iload_2 dX6_passes0_32 ?_
    obtain ⟨e102, h⟩ := h
    exact x_zret dX6_passes0_33 rfl (xB_n e102) ⟨_, _, h, rfl, rfl⟩
  · have h := h.2 c101
    refine x_aload_0 dX6_passes0_22 ?_
    refine x_dup dX6_passes0_23 rfl ?_
    refine m_get ha dX6_passes0_24 fa_X6_261 rfl ?_
    refine x_iconst (v := 1) dX6_passes0_27 (by decide) ?_
    refine x_iadd dX6_passes0_28 ?_
    refine m_put ha dX6_passes0_29 fp_X6_261 (mfs_22 _ _ _) (by decide) rfl rfl ?_
    have h := h _ rfl
    refine x_iload_2 dX6_passes0_32 ?_
    obtain ⟨e104, h⟩ := h
    exact x_zret dX6_passes0_33 rfl (xB_n e104) ⟨_, _, h, rfl, rfl⟩
def w_passes0 (x1 : Int32) (s : mS) (Kr : Int32 → mS → Prop) : Prop :=
  (w_codeAt (mFd s 22) s (fun x101 s102 => ((¬ x101 = x1 → (w_passes0_17 0 Kr s102)) ∧ (x101 = x1 → (w_passes0_17 1 Kr s102)))))
theorem c_passes0 {G : xG} {l : Launch} {a : Nat → Nat} {g : xH} (ha : mInj a) {d : Nat} (hd : 2 ≤ d) {x1 : Int32} {s : mS} {Kr : Int32 → mS → Prop} (h : w_passes0 x1 s Kr) : xC G l kX6_passes0 d 0 0 [.ref (a 51), .int x1] (mH G a s g) (mQi G a g Kr) := by
  obtain ⟨d, rfl⟩ : ∃ z, d = z + 1 := ⟨d - 1, by omega⟩
  refine xC.start rfl (by decide +kernel) (Nat.le_of_ble_eq_true rfl) (lv := [some (.ref (a 51)), some (.int x1), none]) rfl ?_
  unfold w_passes0 at h
  refine x_aload_0 dX6_passes0_0 ?_
  refine x_aload_0 dX6_passes0_1 ?_
  refine m_get ha dX6_passes0_2 fa_X6_261 rfl ?_
  refine m_cVi1 ha rfl cv_X6_264 (Nat.le_of_ble_eq_true rfl) dX6_passes0_5 (c_codeAt ha (by omega) h) (fun x101 s102 h => ?_)
  refine x_iload_1 dX6_passes0_8 ?_
  refine x_icmp_ne 16 dX6_passes0_9 (by decide) (fun c103 => ?_) (fun c103 => ?_)
  · have h := h.1 c103
    refine x_iconst (v := 0) dX6_passes0_16 (by decide) ?_
    exact x_le (xLe_cons (xLe_none (xLe_cons (xLe_nil)))) (c_passes0_17 ha (by omega) _ _ _ h)
  · have h := h.2 c103
    refine x_iconst (v := 1) dX6_passes0_12 (by decide) ?_
    refine x_goto 17 dX6_passes0_13 (by decide) ?_
    exact x_le (xLe_cons (xLe_none (xLe_cons (xLe_nil)))) (c_passes0_17 ha (by omega) _ _ _ h)
def w_bounded_25 (x1 : Int64) (Kr : Int64 → mS → Prop) (s : mS) : Prop :=
  (((mFd s 24) = 0 → (Kr x1 s)) ∧ (¬ (mFd s 24) = 0 → (Kr 0 s)))
theorem c_bounded_25 {G : xG} {l : Launch} {a : Nat → Nat} {g : xH} (ha : mInj a) {d : Nat} (hd : 0 ≤ d) (x1 : Int64) (Kr : Int64 → mS → Prop) (s : mS) (h : w_bounded_25 x1 Kr s) : xF G l kX6_bounded (d + 1) 0 0 (mQl G a g Kr) 25 [some (.ref (a 51)), some (.long x1), none, none] [] (mH G a s g) := by
  unfold w_bounded_25 at h
  refine x_aload_0 dX6_bounded_25 ?_
  refine m_get ha dX6_bounded_26 fa_X6_271 rfl ?_
  refine x_if_eq 36 dX6_bounded_29 (by decide) (fun c101 => ?_) (fun c101 => ?_)
  · have h := h.1 c101
    refine x_lload_1 dX6_bounded_36 ?_
    exact x_lret dX6_bounded_37 rfl ⟨_, _, h, rfl, rfl⟩
  · have h := h.2 c101
    refine x_lconst (v := 0) dX6_bounded_32 (by decide) ?_
    refine x_goto 37 dX6_bounded_33 (by decide) ?_
    exact x_lret dX6_bounded_37 rfl ⟨_, _, h, rfl, rfl⟩
def w_bounded_20 (x1 : Int64) (Kr : Int64 → mS → Prop) (s : mS) : Prop :=
  (∀ s101 : mS, s101 = mF s 24 1 → (w_bounded_25 x1 Kr s101))
theorem c_bounded_20 {G : xG} {l : Launch} {a : Nat → Nat} {g : xH} (ha : mInj a) {d : Nat} (hd : 0 ≤ d) (x1 : Int64) (Kr : Int64 → mS → Prop) (s : mS) (h : w_bounded_20 x1 Kr s) : xF G l kX6_bounded (d + 1) 0 0 (mQl G a g Kr) 20 [some (.ref (a 51)), some (.long x1), none, none] [] (mH G a s g) := by
  unfold w_bounded_20 at h
  refine x_aload_0 dX6_bounded_20 ?_
  refine x_iconst (v := 1) dX6_bounded_21 (by decide) ?_
  refine m_put ha dX6_bounded_22 fp_X6_271 (mfs_24 _ _ _) (by decide) (xB_n xB_1) (xB_f xB_1) ?_
  have h := h _ rfl
  exact x_le (xLe_cons (xLe_cons (xLe_cons (xLe_cons (xLe_nil))))) (c_bounded_25 ha (by omega) _ _ _ h)
def w_bounded (x1 : Int64) (x3 : Int32) (s : mS) (Kr : Int64 → mS → Prop) : Prop :=
  ((x3 = 0 → (w_bounded_25 x1 Kr s)) ∧ (¬ x3 = 0 → ((0 < (lg_cmp x1 1000000000) → (w_bounded_20 x1 Kr s)) ∧ (¬ 0 < (lg_cmp x1 1000000000) → ((0 ≤ (lg_cmp x1 (-1000000000)) → (w_bounded_25 x1 Kr s)) ∧ (¬ 0 ≤ (lg_cmp x1 (-1000000000)) → (w_bounded_20 x1 Kr s)))))))
theorem c_bounded {G : xG} {l : Launch} {a : Nat → Nat} {g : xH} (ha : mInj a) {d : Nat} (hd : 1 ≤ d) {x1 : Int64} {x3 : Int32} {s : mS} {Kr : Int64 → mS → Prop} (h : w_bounded x1 x3 s Kr) : xC G l kX6_bounded d 0 0 [.ref (a 51), .long x1, .int x3] (mH G a s g) (mQl G a g Kr) := by
  obtain ⟨d, rfl⟩ : ∃ z, d = z + 1 := ⟨d - 1, by omega⟩
  refine xC.start rfl (by decide +kernel) (Nat.le_of_ble_eq_true rfl) (lv := [some (.ref (a 51)), some (.long x1), none, some (.int x3)]) rfl ?_
  unfold w_bounded at h
  refine x_iload_3 dX6_bounded_0 ?_
  refine x_if_eq 25 dX6_bounded_1 (by decide) (fun c101 => ?_) (fun c101 => ?_)
  · have h := h.1 c101
    exact x_le (xLe_cons (xLe_cons (xLe_cons (xLe_none (xLe_nil))))) (c_bounded_25 ha (by omega) _ _ _ h)
  · have h := h.2 c101
    refine x_lload_1 dX6_bounded_4 ?_
    refine x_ldc2 dX6_bounded_5 q1852 ?_
    refine x_lcmp dX6_bounded_8 ?_
    refine x_if_gt 20 dX6_bounded_9 (by decide) (fun c102 => ?_) (fun c102 => ?_)
    · have h := h.1 c102
      exact x_le (xLe_cons (xLe_cons (xLe_cons (xLe_none (xLe_nil))))) (c_bounded_20 ha (by omega) _ _ _ h)
    · have h := h.2 c102
      refine x_lload_1 dX6_bounded_12 ?_
      refine x_ldc2 dX6_bounded_13 q1853 ?_
      refine x_lcmp dX6_bounded_16 ?_
      refine x_if_ge 25 dX6_bounded_17 (by decide) (fun c103 => ?_) (fun c103 => ?_)
      · have h := h.1 c103
        exact x_le (xLe_cons (xLe_cons (xLe_cons (xLe_none (xLe_nil))))) (c_bounded_25 ha (by omega) _ _ _ h)
      · have h := h.2 c103
        exact x_le (xLe_cons (xLe_cons (xLe_cons (xLe_none (xLe_nil))))) (c_bounded_20 ha (by omega) _ _ _ h)
def w_sign (x0 : Int32) (Kr : Int32 → Prop) : Prop :=
  (Kr (100 + x0))
theorem c_sign {G : xG} {l : Launch} {h0 : xH} {d : Nat} (hd : 1 ≤ d) {x0 : Int32} {Kr : Int32 → Prop} (h : w_sign x0 Kr) : xC G l kX6_sign d 0 0 [.int x0] h0 (xQi h0 Kr) := by
  obtain ⟨d, rfl⟩ : ∃ z, d = z + 1 := ⟨d - 1, by omega⟩
  refine xC.start rfl (by decide +kernel) (Nat.le_of_ble_eq_true rfl) (lv := [some (.int x0)]) rfl ?_
  unfold w_sign at h
  refine x_bipush (v := 100) dX6_sign_0 (by decide) ?_
  refine x_iload_0 dX6_sign_2 ?_
  refine x_iadd dX6_sign_3 ?_
  exact x_iret dX6_sign_4 rfl ⟨_, h, rfl, rfl⟩
def w_lies (x0 : Int32) (x1 : Int32) (x2 : Int32) (Kr : Int32 → Prop) : Prop :=
  ((x0 < x1 → (Kr 0)) ∧ (¬ x0 < x1 → ((x2 < x0 → (Kr 0)) ∧ (¬ x2 < x0 → (Kr 1)))))
theorem c_lies {G : xG} {l : Launch} {h0 : xH} {d : Nat} (hd : 1 ≤ d) {x0 : Int32} {x1 : Int32} {x2 : Int32} {Kr : Int32 → Prop} (h : w_lies x0 x1 x2 Kr) : xC G l kX6_lies d 0 0 [.int x0, .int x1, .int x2] h0 (xQi h0 Kr) := by
  obtain ⟨d, rfl⟩ : ∃ z, d = z + 1 := ⟨d - 1, by omega⟩
  refine xC.start rfl (by decide +kernel) (Nat.le_of_ble_eq_true rfl) (lv := [some (.int x0), some (.int x1), some (.int x2)]) rfl ?_
  unfold w_lies at h
  refine x_iload_0 dX6_lies_0 ?_
  refine x_iload_1 dX6_lies_1 ?_
  refine x_icmp_lt 14 dX6_lies_2 (by decide) (fun c101 => ?_) (fun c101 => ?_)
  · have h := h.1 c101
    refine x_iconst (v := 0) dX6_lies_14 (by decide) ?_
    exact x_zret0 dX6_lies_15 rfl ⟨_, h, rfl, rfl⟩
  · have h := h.2 c101
    refine x_iload_0 dX6_lies_5 ?_
    refine x_iload_2 dX6_lies_6 ?_
    refine x_icmp_gt 14 dX6_lies_7 (by decide) (fun c102 => ?_) (fun c102 => ?_)
    · have h := h.1 c102
      refine x_iconst (v := 0) dX6_lies_14 (by decide) ?_
      exact x_zret0 dX6_lies_15 rfl ⟨_, h, rfl, rfl⟩
    · have h := h.2 c102
      refine x_iconst (v := 1) dX6_lies_10 (by decide) ?_
      refine x_goto 15 dX6_lies_11 (by decide) ?_
      exact x_zret1 dX6_lies_15 rfl ⟨_, h, rfl, rfl⟩
def w_isNote (x1 : Int32) (s : mS) (Kr : Int32 → mS → Prop) : Prop :=
  (w_noteMany s (fun x101 s102 => (w_lies x1 0 (x101 - 1) (fun x103 => (xB x103 ∧ (Kr x103 s102))))))
theorem c_isNote {G : xG} {l : Launch} {a : Nat → Nat} {g : xH} (ha : mInj a) {d : Nat} (hd : 2 ≤ d) {x1 : Int32} {s : mS} {Kr : Int32 → mS → Prop} (h : w_isNote x1 s Kr) : xC G l kX6_isNote d 0 0 [.ref (a 51), .int x1] (mH G a s g) (mQi G a g Kr) := by
  obtain ⟨d, rfl⟩ : ∃ z, d = z + 1 := ⟨d - 1, by omega⟩
  refine xC.start rfl (by decide +kernel) (Nat.le_of_ble_eq_true rfl) (lv := [some (.ref (a 51)), some (.int x1)]) rfl ?_
  unfold w_isNote at h
  refine x_iload_1 dX6_isNote_0 ?_
  refine x_iconst (v := 0) dX6_isNote_1 (by decide) ?_
  refine x_aload_0 dX6_isNote_2 ?_
  refine m_cVi0 ha rfl cv_X6_112 (Nat.le_of_ble_eq_true rfl) dX6_isNote_3 (c_noteMany ha (by omega) h) (fun x101 s102 h => ?_)
  refine x_iconst (v := 1) dX6_isNote_6 (by decide) ?_
  refine x_isub dX6_isNote_7 ?_
  refine m_cSi3 rfl cs_X6_18 (Nat.le_of_ble_eq_true rfl) dX6_isNote_8 (c_lies (by omega) h) (fun x103 h => ?_)
  obtain ⟨e105, h⟩ := h
  exact x_zret dX6_isNote_11 rfl (xB_n e105) ⟨_, _, h, rfl, rfl⟩
def w_orderValue (x1 : Int32) (x2 : Int32) (s : mS) (Kr : Int32 → mS → Prop) : Prop :=
  ((x1 = 15 → (w_isNote x2 s (fun x102 s103 => ((x102 = 0 → (Kr (-1) s103)) ∧ (¬ x102 = 0 → (vp_in (0 + x2) 5652 ∧ (Kr (mAt s103 2 (0 + x2)) s103))))))) ∧ (x1 = 16 → (w_isNote x2 s (fun x107 s108 => ((x107 = 0 → (Kr (-1) s108)) ∧ (¬ x107 = 0 → (vp_in (12 + x2) 5652 ∧ (Kr (mAt s108 2 (12 + x2)) s108))))))) ∧ (x1 = 17 → (vp_in 24 5652 ∧ (Kr (mAt s 2 24) s))) ∧ (x1 = 18 → (Kr (mFd s 27) s)) ∧ (x1 = 19 → (Kr (mFd s 28) s)) ∧ (x1 = 20 → (Kr (mFd s 29) s)) ∧ (¬ x1 = 15 → ¬ x1 = 16 → ¬ x1 = 17 → ¬ x1 = 18 → ¬ x1 = 19 → ¬ x1 = 20 → (Kr (mFd s 30) s)))
theorem c_orderValue {G : xG} {l : Launch} {a : Nat → Nat} {g : xH} (ha : mInj a) {d : Nat} (hd : 3 ≤ d) {x1 : Int32} {x2 : Int32} {s : mS} {Kr : Int32 → mS → Prop} (h : w_orderValue x1 x2 s Kr) : xC G l kX6_orderValue d 0 0 [.ref (a 51), .int x1, .int x2] (mH G a s g) (mQi G a g Kr) := by
  obtain ⟨d, rfl⟩ : ∃ z, d = z + 1 := ⟨d - 1, by omega⟩
  refine xC.start rfl (by decide +kernel) (Nat.le_of_ble_eq_true rfl) (lv := [some (.ref (a 51)), some (.int x1), some (.int x2)]) rfl ?_
  unfold w_orderValue at h
  refine x_iload_1 dX6_orderValue_0 ?_
  by_cases c101 : x1 = 15
  · have h := h.1 c101
    refine x_cast rfl rfl (by rw [c101]) ?_
    refine x_tabIn 40 dX6_orderValue_1 (by decide) (by decide) (off := 39) (by decide) (by decide) ?_
    refine x_aload_0 dX6_orderValue_40 ?_
    refine x_iload_2 dX6_orderValue_41 ?_
    refine m_cVi1 ha rfl cv_X6_124 (Nat.le_of_ble_eq_true rfl) dX6_orderValue_42 (c_isNote ha (by omega) h) (fun x102 s103 h => ?_)
    refine x_if_eq 59 dX6_orderValue_45 (by decide) (fun c104 => ?_) (fun c104 => ?_)
    · have h := h.1 c104
      refine x_iconst (v := (-1)) dX6_orderValue_59 (by decide) ?_
      exact x_iret dX6_orderValue_60 rfl ⟨_, _, h, rfl, rfl⟩
    · have h := h.2 c104
      refine x_aload_0 dX6_orderValue_48 ?_
      refine m_get ha dX6_orderValue_49 fa_X6_28 rfl ?_
      refine x_iconst (v := 0) dX6_orderValue_52 (by decide) ?_
      refine x_iload_2 dX6_orderValue_53 ?_
      refine x_iadd dX6_orderValue_54 ?_
      obtain ⟨e105, h⟩ := h
      refine m_iald (j := 2) ha dX6_orderValue_55 (by decide) (by decide) e105 ?_
      refine x_goto 60 dX6_orderValue_56 (by decide) ?_
      exact x_iret dX6_orderValue_60 rfl ⟨_, _, h, rfl, rfl⟩
  by_cases c106 : x1 = 16
  · have h := h.2.1 c106
    refine x_cast rfl rfl (by rw [c106]) ?_
    refine x_tabIn 61 dX6_orderValue_1 (by decide) (by decide) (off := 60) (by decide) (by decide) ?_
    refine x_aload_0 dX6_orderValue_61 ?_
    refine x_iload_2 dX6_orderValue_62 ?_
    refine m_cVi1 ha rfl cv_X6_124 (Nat.le_of_ble_eq_true rfl) dX6_orderValue_63 (c_isNote ha (by omega) h) (fun x107 s108 h => ?_)
    refine x_if_eq 81 dX6_orderValue_66 (by decide) (fun c109 => ?_) (fun c109 => ?_)
    · have h := h.1 c109
      refine x_iconst (v := (-1)) dX6_orderValue_81 (by decide) ?_
      exact x_iret dX6_orderValue_82 rfl ⟨_, _, h, rfl, rfl⟩
    · have h := h.2 c109
      refine x_aload_0 dX6_orderValue_69 ?_
      refine m_get ha dX6_orderValue_70 fa_X6_28 rfl ?_
      refine x_bipush (v := 12) dX6_orderValue_73 (by decide) ?_
      refine x_iload_2 dX6_orderValue_75 ?_
      refine x_iadd dX6_orderValue_76 ?_
      obtain ⟨e110, h⟩ := h
      refine m_iald (j := 2) ha dX6_orderValue_77 (by decide) (by decide) e110 ?_
      refine x_goto 82 dX6_orderValue_78 (by decide) ?_
      exact x_iret dX6_orderValue_82 rfl ⟨_, _, h, rfl, rfl⟩
  by_cases c111 : x1 = 17
  · have h := h.2.2.1 c111
    refine x_cast rfl rfl (by rw [c111]) ?_
    refine x_tabIn 83 dX6_orderValue_1 (by decide) (by decide) (off := 82) (by decide) (by decide) ?_
    refine x_aload_0 dX6_orderValue_83 ?_
    refine m_get ha dX6_orderValue_84 fa_X6_28 rfl ?_
    refine x_bipush (v := 24) dX6_orderValue_87 (by decide) ?_
    obtain ⟨e112, h⟩ := h
    refine m_iald (j := 2) ha dX6_orderValue_89 (by decide) (by decide) e112 ?_
    exact x_iret dX6_orderValue_90 rfl ⟨_, _, h, rfl, rfl⟩
  by_cases c113 : x1 = 18
  · have h := h.2.2.2.1 c113
    refine x_cast rfl rfl (by rw [c113]) ?_
    refine x_tabIn 91 dX6_orderValue_1 (by decide) (by decide) (off := 90) (by decide) (by decide) ?_
    refine x_aload_0 dX6_orderValue_91 ?_
    refine m_get ha dX6_orderValue_92 fa_X6_297 rfl ?_
    exact x_iret dX6_orderValue_95 rfl ⟨_, _, h, rfl, rfl⟩
  by_cases c114 : x1 = 19
  · have h := h.2.2.2.2.1 c114
    refine x_cast rfl rfl (by rw [c114]) ?_
    refine x_tabIn 96 dX6_orderValue_1 (by decide) (by decide) (off := 95) (by decide) (by decide) ?_
    refine x_aload_0 dX6_orderValue_96 ?_
    refine m_get ha dX6_orderValue_97 fa_X6_300 rfl ?_
    exact x_iret dX6_orderValue_100 rfl ⟨_, _, h, rfl, rfl⟩
  by_cases c115 : x1 = 20
  · have h := h.2.2.2.2.2.1 c115
    refine x_cast rfl rfl (by rw [c115]) ?_
    refine x_tabIn 101 dX6_orderValue_1 (by decide) (by decide) (off := 100) (by decide) (by decide) ?_
    refine x_aload_0 dX6_orderValue_101 ?_
    refine m_get ha dX6_orderValue_102 fa_X6_303 rfl ?_
    exact x_iret dX6_orderValue_105 rfl ⟨_, _, h, rfl, rfl⟩
  have h := h.2.2.2.2.2.2 c101 c106 c111 c113 c114 c115
  have z0 := xti (v := 15) (z := 15) (by decide) c101
  have z1 := xti (v := 16) (z := 16) (by decide) c106
  have z2 := xti (v := 17) (z := 17) (by decide) c111
  have z3 := xti (v := 18) (z := 18) (by decide) c113
  have z4 := xti (v := 19) (z := 19) (by decide) c114
  have z5 := xti (v := 20) (z := 20) (by decide) c115
  refine x_tabOut 106 dX6_orderValue_1 (by omega) (by decide) ?_
  refine x_aload_0 dX6_orderValue_106 ?_
  refine m_get ha dX6_orderValue_107 fa_X6_306 rfl ?_
  exact x_iret dX6_orderValue_110 rfl ⟨_, _, h, rfl, rfl⟩
def w_sumOf_59 (N : Nat × Nat) (rc : Nat → Int32 → mS → (Int64 → mS → Prop) → Prop) (x1 : Int32) (x2 : Int64) (y0 : Int32) (Kr : Int64 → mS → Prop) (K : Int64 → mS → Prop) (R : Int64 → mS → Prop) (s : mS) : Prop :=
  (∀ s101 : mS, s101 = mF s 22 ((mFd s 22) + 1) → (rc 1 x1 s101 (fun x102 s103 => ((y0 = 0 → (w_bounded (x2 - x102) x1 s103 (fun x105 s106 => (R x105 s106)))) ∧ (¬ y0 = 0 → (w_bounded (x2 + x102) x1 s103 (fun x107 s108 => (R x107 s108))))))))
theorem c_sumOf_59 {G : xG} {l : Launch} {a : Nat → Nat} {g : xH} (ha : mInj a) {d : Nat} {N : Nat × Nat} (hd : 3 ≤ d) {rc : Nat → Int32 → mS → (Int64 → mS → Prop) → Prop} (ih0 : ∀ (x : Int32) (s : mS) (K : Int64 → mS → Prop), rc 0 x s K → xC G l kX6_sumOf d 0 0 [.ref (a 51), .int x] (mH G a s g) (mQl G a g K)) (ih1 : ∀ (x : Int32) (s : mS) (K : Int64 → mS → Prop), rc 1 x s K → xC G l kX6_termOf d 0 0 [.ref (a 51), .int x] (mH G a s g) (mQl G a g K)) (ih2 : ∀ (x : Int32) (s : mS) (K : Int64 → mS → Prop), rc 2 x s K → xC G l kX6_partOf d 0 0 [.ref (a 51), .int x] (mH G a s g) (mQl G a g K)) (x1 : Int32) (x2 : Int64) (y0 : Int32) (Kr : Int64 → mS → Prop) (K : Int64 → mS → Prop) (R : Int64 → mS → Prop) (s : mS) (h : w_sumOf_59 N rc x1 x2 y0 Kr K R s) (hK : ∀ (z2 : Int64) (s : mS), K z2 s → xF G l kX6_sumOf (d + 1) 0 0 (mQl G a g Kr) 103 [some (.ref (a 51)), none, some (.long z2), none, none, none, none] [] (mH G a s g)) (hR : ∀ (z2 : Int64) (s : mS), R z2 s → xF G l kX6_sumOf (d + 1) 0 0 (mQl G a g Kr) 6 [some (.ref (a 51)), some (.int x1), some (.long z2), none, none, none, none] [] (mH G a s g)) : xF G l kX6_sumOf (d + 1) 0 0 (mQl G a g Kr) 59 [some (.ref (a 51)), some (.int x1), some (.long x2), none, none, none, none] [.int y0] (mH G a s g) := by
  unfold w_sumOf_59 at h
  refine x_istore_4 dX6_sumOf_59 (by decide) xN2_none ?_
  refine x_aload_0 dX6_sumOf_61 ?_
  refine x_dup dX6_sumOf_62 rfl ?_
  refine m_get ha dX6_sumOf_63 fa_X6_261 rfl ?_
  refine x_iconst (v := 1) dX6_sumOf_66 (by decide) ?_
  refine x_iadd dX6_sumOf_67 ?_
  refine m_put ha dX6_sumOf_68 fp_X6_261 (mfs_22 _ _ _) (by decide) rfl rfl ?_
  have h := h _ rfl
  refine x_aload_0 dX6_sumOf_71 ?_
  refine x_iload_1 dX6_sumOf_72 ?_
  refine m_cVl1 ha rfl cv_X6_274 (Nat.le_of_ble_eq_true rfl) dX6_sumOf_73 (ih1 _ _ _ h) (fun x102 s103 h => ?_)
  refine x_lstore_5 dX6_sumOf_76 (by decide) xN2_i ?_
  refine x_aload_0 dX6_sumOf_78 ?_
  refine x_iload_4 dX6_sumOf_79 ?_
  refine x_if_eq 91 dX6_sumOf_81 (by decide) (fun c104 => ?_) (fun c104 => ?_)
  · have h := h.1 c104
    refine x_lload_2 dX6_sumOf_91 ?_
    refine x_lload_5 dX6_sumOf_92 ?_
    refine x_lsub dX6_sumOf_94 ?_
    refine x_iload_1 dX6_sumOf_95 ?_
    refine m_cVl2 ha rfl cv_X6_278 (Nat.le_of_ble_eq_true rfl) dX6_sumOf_96 (c_bounded ha (by omega) h) (fun x105 s106 h => ?_)
    refine x_lstore_2 dX6_sumOf_99 (by decide) xN2_i ?_
    refine x_goto 6 dX6_sumOf_100 (by decide) ?_
    exact x_le (xLe_cons (xLe_cons (xLe_cons (xLe_cons (xLe_none (xLe_none (xLe_cons (xLe_nil)))))))) (hR _ _ h)
  · have h := h.2 c104
    refine x_lload_2 dX6_sumOf_84 ?_
    refine x_lload_5 dX6_sumOf_85 ?_
    refine x_ladd dX6_sumOf_87 ?_
    refine x_goto 95 dX6_sumOf_88 (by decide) ?_
    refine x_iload_1 dX6_sumOf_95 ?_
    refine m_cVl2 ha rfl cv_X6_278 (Nat.le_of_ble_eq_true rfl) dX6_sumOf_96 (c_bounded ha (by omega) h) (fun x107 s108 h => ?_)
    refine x_lstore_2 dX6_sumOf_99 (by decide) xN2_i ?_
    refine x_goto 6 dX6_sumOf_100 (by decide) ?_
    exact x_le (xLe_cons (xLe_cons (xLe_cons (xLe_cons (xLe_none (xLe_none (xLe_cons (xLe_nil)))))))) (hR _ _ h)
def w_sumOf_38 (N : Nat × Nat) (rc : Nat → Int32 → mS → (Int64 → mS → Prop) → Prop) (x1 : Int32) (x2 : Int64) (Kr : Int64 → mS → Prop) (K : Int64 → mS → Prop) (R : Int64 → mS → Prop) (s : mS) : Prop :=
  (w_codeAt (mFd s 22) s (fun x101 s102 => (w_sign 43 (fun x103 => ((¬ x101 = x103 → (w_sumOf_59 N rc x1 x2 0 Kr K R s102)) ∧ (x101 = x103 → (w_sumOf_59 N rc x1 x2 1 Kr K R s102)))))))
theorem c_sumOf_38 {G : xG} {l : Launch} {a : Nat → Nat} {g : xH} (ha : mInj a) {d : Nat} {N : Nat × Nat} (hd : 3 ≤ d) {rc : Nat → Int32 → mS → (Int64 → mS → Prop) → Prop} (ih0 : ∀ (x : Int32) (s : mS) (K : Int64 → mS → Prop), rc 0 x s K → xC G l kX6_sumOf d 0 0 [.ref (a 51), .int x] (mH G a s g) (mQl G a g K)) (ih1 : ∀ (x : Int32) (s : mS) (K : Int64 → mS → Prop), rc 1 x s K → xC G l kX6_termOf d 0 0 [.ref (a 51), .int x] (mH G a s g) (mQl G a g K)) (ih2 : ∀ (x : Int32) (s : mS) (K : Int64 → mS → Prop), rc 2 x s K → xC G l kX6_partOf d 0 0 [.ref (a 51), .int x] (mH G a s g) (mQl G a g K)) (x1 : Int32) (x2 : Int64) (Kr : Int64 → mS → Prop) (K : Int64 → mS → Prop) (R : Int64 → mS → Prop) (s : mS) (h : w_sumOf_38 N rc x1 x2 Kr K R s) (hK : ∀ (z2 : Int64) (s : mS), K z2 s → xF G l kX6_sumOf (d + 1) 0 0 (mQl G a g Kr) 103 [some (.ref (a 51)), none, some (.long z2), none, none, none, none] [] (mH G a s g)) (hR : ∀ (z2 : Int64) (s : mS), R z2 s → xF G l kX6_sumOf (d + 1) 0 0 (mQl G a g Kr) 6 [some (.ref (a 51)), some (.int x1), some (.long z2), none, none, none, none] [] (mH G a s g)) : xF G l kX6_sumOf (d + 1) 0 0 (mQl G a g Kr) 38 [some (.ref (a 51)), some (.int x1), some (.long x2), none, none, none, none] [] (mH G a s g) := by
  unfold w_sumOf_38 at h
  refine x_aload_0 dX6_sumOf_38 ?_
  refine x_aload_0 dX6_sumOf_39 ?_
  refine m_get ha dX6_sumOf_40 fa_X6_261 rfl ?_
  refine m_cVi1 ha rfl cv_X6_264 (Nat.le_of_ble_eq_true rfl) dX6_sumOf_43 (c_codeAt ha (by omega) h) (fun x101 s102 h => ?_)
  refine x_bipush (v := 43) dX6_sumOf_46 (by decide) ?_
  refine m_cSi1 rfl cs_X6_220 (Nat.le_of_ble_eq_true rfl) dX6_sumOf_48 (c_sign (by omega) h) (fun x103 h => ?_)
  refine x_icmp_ne 58 dX6_sumOf_51 (by decide) (fun c105 => ?_) (fun c105 => ?_)
  · have h := h.1 c105
    refine x_iconst (v := 0) dX6_sumOf_58 (by decide) ?_
    exact x_le (xLe_cons (xLe_cons (xLe_cons (xLe_cons (xLe_cons (xLe_cons (xLe_cons (xLe_nil)))))))) (c_sumOf_59 ha (by omega) ih0 ih1 ih2 _ _ _ _ _ _ _ h hK hR)
  · have h := h.2 c105
    refine x_iconst (v := 1) dX6_sumOf_54 (by decide) ?_
    refine x_goto 59 dX6_sumOf_55 (by decide) ?_
    exact x_le (xLe_cons (xLe_cons (xLe_cons (xLe_cons (xLe_cons (xLe_cons (xLe_cons (xLe_nil)))))))) (c_sumOf_59 ha (by omega) ih0 ih1 ih2 _ _ _ _ _ _ _ h hK hR)
def w_sumOf_6 (N : Nat × Nat) (rc : Nat → Int32 → mS → (Int64 → mS → Prop) → Prop) (x1 : Int32) (Kr : Int64 → mS → Prop) (K : Int64 → mS → Prop) : Nat → Int64 → mS → Prop
  | 0, _, _ => False
  | t + 1, x2, s => (w_codeAt (mFd s 22) s (fun x101 s102 => (w_sign 43 (fun x103 => ((x101 = x103 → (w_sumOf_38 N rc x1 x2 Kr K (fun x2 s => w_sumOf_6 N rc x1 Kr K t x2 s) s102)) ∧ (¬ x101 = x103 → (w_codeAt (mFd s102 22) s102 (fun x106 s107 => (w_sign 45 (fun x108 => ((¬ x106 = x108 → (K x2 s107)) ∧ (x106 = x108 → (w_sumOf_38 N rc x1 x2 Kr K (fun x2 s => w_sumOf_6 N rc x1 Kr K t x2 s) s107)))))))))))))
theorem c_sumOf_6 {G : xG} {l : Launch} {a : Nat → Nat} {g : xH} (ha : mInj a) {d : Nat} {N : Nat × Nat} (hd : 3 ≤ d) {rc : Nat → Int32 → mS → (Int64 → mS → Prop) → Prop} (ih0 : ∀ (x : Int32) (s : mS) (K : Int64 → mS → Prop), rc 0 x s K → xC G l kX6_sumOf d 0 0 [.ref (a 51), .int x] (mH G a s g) (mQl G a g K)) (ih1 : ∀ (x : Int32) (s : mS) (K : Int64 → mS → Prop), rc 1 x s K → xC G l kX6_termOf d 0 0 [.ref (a 51), .int x] (mH G a s g) (mQl G a g K)) (ih2 : ∀ (x : Int32) (s : mS) (K : Int64 → mS → Prop), rc 2 x s K → xC G l kX6_partOf d 0 0 [.ref (a 51), .int x] (mH G a s g) (mQl G a g K)) (Kr : Int64 → mS → Prop) (K : Int64 → mS → Prop) (x1 : Int32) : ∀ (t : Nat) (x2 : Int64) (s : mS) , w_sumOf_6 N rc x1 Kr K t x2 s → (∀ (z2 : Int64) (s : mS), K z2 s → xF G l kX6_sumOf (d + 1) 0 0 (mQl G a g Kr) 103 [some (.ref (a 51)), none, some (.long z2), none, none, none, none] [] (mH G a s g)) → xF G l kX6_sumOf (d + 1) 0 0 (mQl G a g Kr) 6 [some (.ref (a 51)), some (.int x1), some (.long x2), none, none, none, none] [] (mH G a s g) := by
  intro t
  induction t with
  | zero =>
    intro _ _ h _
    exact absurd h (by simp [w_sumOf_6])
  | succ t ih =>
    intro x2 s h hK
    have hR := fun x2 s h => ih x2 s h hK
    unfold w_sumOf_6 at h
    refine x_aload_0 dX6_sumOf_6 ?_
    refine x_aload_0 dX6_sumOf_7 ?_
    refine m_get ha dX6_sumOf_8 fa_X6_261 rfl ?_
    refine m_cVi1 ha rfl cv_X6_264 (Nat.le_of_ble_eq_true rfl) dX6_sumOf_11 (c_codeAt ha (by omega) h) (fun x101 s102 h => ?_)
    refine x_bipush (v := 43) dX6_sumOf_14 (by decide) ?_
    refine m_cSi1 rfl cs_X6_220 (Nat.le_of_ble_eq_true rfl) dX6_sumOf_16 (c_sign (by omega) h) (fun x103 h => ?_)
    refine x_icmp_eq 38 dX6_sumOf_19 (by decide) (fun c105 => ?_) (fun c105 => ?_)
    · have h := h.1 c105
      exact x_le (xLe_cons (xLe_cons (xLe_cons (xLe_cons (xLe_cons (xLe_cons (xLe_cons (xLe_nil)))))))) (c_sumOf_38 ha (by omega) ih0 ih1 ih2 _ _ _ _ _ _ h hK hR)
    · have h := h.2 c105
      refine x_aload_0 dX6_sumOf_22 ?_
      refine x_aload_0 dX6_sumOf_23 ?_
      refine m_get ha dX6_sumOf_24 fa_X6_261 rfl ?_
      refine m_cVi1 ha rfl cv_X6_264 (Nat.le_of_ble_eq_true rfl) dX6_sumOf_27 (c_codeAt ha (by omega) h) (fun x106 s107 h => ?_)
      refine x_bipush (v := 45) dX6_sumOf_30 (by decide) ?_
      refine m_cSi1 rfl cs_X6_220 (Nat.le_of_ble_eq_true rfl) dX6_sumOf_32 (c_sign (by omega) h) (fun x108 h => ?_)
      refine x_icmp_ne 103 dX6_sumOf_35 (by decide) (fun c110 => ?_) (fun c110 => ?_)
      · have h := h.1 c110
        exact x_le (xLe_cons (xLe_none (xLe_cons (xLe_cons (xLe_cons (xLe_cons (xLe_cons (xLe_nil)))))))) (hK _ _ h)
      · have h := h.2 c110
        exact x_le (xLe_cons (xLe_cons (xLe_cons (xLe_cons (xLe_cons (xLe_cons (xLe_cons (xLe_nil)))))))) (c_sumOf_38 ha (by omega) ih0 ih1 ih2 _ _ _ _ _ _ h hK hR)
def w_sumOf (N : Nat × Nat) (rc : Nat → Int32 → mS → (Int64 → mS → Prop) → Prop) (x1 : Int32) (s : mS) (Kr : Int64 → mS → Prop) : Prop :=
  (rc 1 x1 s (fun x101 s102 => (w_sumOf_6 N rc x1 Kr (fun x103 s104 => (Kr x103 s104)) N.1 x101 s102)))
theorem cb_sumOf {G : xG} {l : Launch} {a : Nat → Nat} {g : xH} (ha : mInj a) {d : Nat} {N : Nat × Nat} (hd : 3 ≤ d) {rc : Nat → Int32 → mS → (Int64 → mS → Prop) → Prop} (ih0 : ∀ (x : Int32) (s : mS) (K : Int64 → mS → Prop), rc 0 x s K → xC G l kX6_sumOf d 0 0 [.ref (a 51), .int x] (mH G a s g) (mQl G a g K)) (ih1 : ∀ (x : Int32) (s : mS) (K : Int64 → mS → Prop), rc 1 x s K → xC G l kX6_termOf d 0 0 [.ref (a 51), .int x] (mH G a s g) (mQl G a g K)) (ih2 : ∀ (x : Int32) (s : mS) (K : Int64 → mS → Prop), rc 2 x s K → xC G l kX6_partOf d 0 0 [.ref (a 51), .int x] (mH G a s g) (mQl G a g K)) {x1 : Int32} {s : mS} {Kr : Int64 → mS → Prop} (h : w_sumOf N rc x1 s Kr) : xC G l kX6_sumOf (d + 1) 0 0 [.ref (a 51), .int x1] (mH G a s g) (mQl G a g Kr) := by
  refine xC.start rfl (by decide +kernel) (Nat.le_of_ble_eq_true rfl) (lv := [some (.ref (a 51)), some (.int x1), none, none, none, none, none]) rfl ?_
  unfold w_sumOf at h
  refine x_aload_0 dX6_sumOf_0 ?_
  refine x_iload_1 dX6_sumOf_1 ?_
  refine m_cVl1 ha rfl cv_X6_274 (Nat.le_of_ble_eq_true rfl) dX6_sumOf_2 (ih1 _ _ _ h) (fun x101 s102 h => ?_)
  refine x_lstore_2 dX6_sumOf_5 (by decide) xN2_i ?_
  refine x_le (xLe_cons (xLe_cons (xLe_cons (xLe_cons (xLe_cons (xLe_cons (xLe_cons (xLe_nil)))))))) (c_sumOf_6 ha (by omega) ih0 ih1 ih2 _ _ _ _ _ _ h (fun x103 s104 h => ?_))
  refine x_lload_2 dX6_sumOf_103 ?_
  exact x_lret dX6_sumOf_104 rfl ⟨_, _, h, rfl, rfl⟩
def w_termOf_121 (N : Nat × Nat) (rc : Nat → Int32 → mS → (Int64 → mS → Prop) → Prop) (x1 : Int32) (x2 : Int64) (x4 : Int32) (x5 : Int64) (Kr : Int64 → mS → Prop) (K : Int64 → mS → Prop) (R : Int64 → mS → Prop) (s : mS) : Prop :=
  (w_sign 42 (fun x101 => ((¬ x4 = x101 → (w_sign 47 (fun x104 => ((¬ x4 = x104 → (¬ x5 = 0 ∧ (w_bounded (x2 - x2 / x5 * x5) x1 s (fun x108 s109 => (R x108 s109))))) ∧ (x4 = x104 → (¬ x5 = 0 ∧ (w_bounded (x2 / x5) x1 s (fun x111 s112 => (R x111 s112))))))))) ∧ (x4 = x101 → (w_bounded (x2 * x5) x1 s (fun x113 s114 => (R x113 s114)))))))
theorem c_termOf_121 {G : xG} {l : Launch} {a : Nat → Nat} {g : xH} (ha : mInj a) {d : Nat} {N : Nat × Nat} (hd : 3 ≤ d) {rc : Nat → Int32 → mS → (Int64 → mS → Prop) → Prop} (ih0 : ∀ (x : Int32) (s : mS) (K : Int64 → mS → Prop), rc 0 x s K → xC G l kX6_sumOf d 0 0 [.ref (a 51), .int x] (mH G a s g) (mQl G a g K)) (ih1 : ∀ (x : Int32) (s : mS) (K : Int64 → mS → Prop), rc 1 x s K → xC G l kX6_termOf d 0 0 [.ref (a 51), .int x] (mH G a s g) (mQl G a g K)) (ih2 : ∀ (x : Int32) (s : mS) (K : Int64 → mS → Prop), rc 2 x s K → xC G l kX6_partOf d 0 0 [.ref (a 51), .int x] (mH G a s g) (mQl G a g K)) (x1 : Int32) (x2 : Int64) (x4 : Int32) (x5 : Int64) (Kr : Int64 → mS → Prop) (K : Int64 → mS → Prop) (R : Int64 → mS → Prop) (s : mS) (h : w_termOf_121 N rc x1 x2 x4 x5 Kr K R s) (hK : ∀ (z2 : Int64) (s : mS), K z2 s → xF G l kX6_termOf (d + 1) 0 0 (mQl G a g Kr) 168 [some (.ref (a 51)), none, some (.long z2), none, none, none, none] [] (mH G a s g)) (hR : ∀ (z2 : Int64) (s : mS), R z2 s → xF G l kX6_termOf (d + 1) 0 0 (mQl G a g Kr) 6 [some (.ref (a 51)), some (.int x1), some (.long z2), none, none, none, none] [] (mH G a s g)) : xF G l kX6_termOf (d + 1) 0 0 (mQl G a g Kr) 121 [some (.ref (a 51)), some (.int x1), some (.long x2), none, some (.int x4), some (.long x5), none] [] (mH G a s g) := by
  unfold w_termOf_121 at h
  refine x_aload_0 dX6_termOf_121 ?_
  refine x_iload_4 dX6_termOf_122 ?_
  refine x_bipush (v := 42) dX6_termOf_124 (by decide) ?_
  refine m_cSi1 rfl cs_X6_220 (Nat.le_of_ble_eq_true rfl) dX6_termOf_126 (c_sign (by omega) h) (fun x101 h => ?_)
  refine x_icmp_ne 139 dX6_termOf_129 (by decide) (fun c103 => ?_) (fun c103 => ?_)
  · have h := h.1 c103
    refine x_iload_4 dX6_termOf_139 ?_
    refine x_bipush (v := 47) dX6_termOf_141 (by decide) ?_
    refine m_cSi1 rfl cs_X6_220 (Nat.le_of_ble_eq_true rfl) dX6_termOf_143 (c_sign (by omega) h) (fun x104 h => ?_)
    refine x_icmp_ne 156 dX6_termOf_146 (by decide) (fun c106 => ?_) (fun c106 => ?_)
    · have h := h.1 c106
      refine x_lload_2 dX6_termOf_156 ?_
      refine x_lload_5 dX6_termOf_157 ?_
      obtain ⟨e107, h⟩ := h
      refine x_lrem dX6_termOf_159 e107 ?_
      refine x_iload_1 dX6_termOf_160 ?_
      refine m_cVl2 ha rfl cv_X6_278 (Nat.le_of_ble_eq_true rfl) dX6_termOf_161 (c_bounded ha (by omega) h) (fun x108 s109 h => ?_)
      refine x_lstore_2 dX6_termOf_164 (by decide) xN2_i ?_
      refine x_goto 6 dX6_termOf_165 (by decide) ?_
      exact x_le (xLe_cons (xLe_cons (xLe_cons (xLe_cons (xLe_none (xLe_none (xLe_cons (xLe_nil)))))))) (hR _ _ h)
    · have h := h.2 c106
      refine x_lload_2 dX6_termOf_149 ?_
      refine x_lload_5 dX6_termOf_150 ?_
      obtain ⟨e110, h⟩ := h
      refine x_ldiv dX6_termOf_152 e110 ?_
      refine x_goto 160 dX6_termOf_153 (by decide) ?_
      refine x_iload_1 dX6_termOf_160 ?_
      refine m_cVl2 ha rfl cv_X6_278 (Nat.le_of_ble_eq_true rfl) dX6_termOf_161 (c_bounded ha (by omega) h) (fun x111 s112 h => ?_)
      refine x_lstore_2 dX6_termOf_164 (by decide) xN2_i ?_
      refine x_goto 6 dX6_termOf_165 (by decide) ?_
      exact x_le (xLe_cons (xLe_cons (xLe_cons (xLe_cons (xLe_none (xLe_none (xLe_cons (xLe_nil)))))))) (hR _ _ h)
  · have h := h.2 c103
    refine x_lload_2 dX6_termOf_132 ?_
    refine x_lload_5 dX6_termOf_133 ?_
    refine x_lmul dX6_termOf_135 ?_
    refine x_goto 160 dX6_termOf_136 (by decide) ?_
    refine x_iload_1 dX6_termOf_160 ?_
    refine m_cVl2 ha rfl cv_X6_278 (Nat.le_of_ble_eq_true rfl) dX6_termOf_161 (c_bounded ha (by omega) h) (fun x113 s114 h => ?_)
    refine x_lstore_2 dX6_termOf_164 (by decide) xN2_i ?_
    refine x_goto 6 dX6_termOf_165 (by decide) ?_
    exact x_le (xLe_cons (xLe_cons (xLe_cons (xLe_cons (xLe_none (xLe_none (xLe_cons (xLe_nil)))))))) (hR _ _ h)
def w_termOf_115 (N : Nat × Nat) (rc : Nat → Int32 → mS → (Int64 → mS → Prop) → Prop) (x1 : Int32) (x2 : Int64) (x4 : Int32) (y1 : Int32) (Kr : Int64 → mS → Prop) (K : Int64 → mS → Prop) (R : Int64 → mS → Prop) (s : mS) : Prop :=
  (xB y1 ∧ (∀ s102 : mS, s102 = mF s 24 y1 → (w_termOf_121 N rc x1 x2 x4 1 Kr K R s102)))
theorem c_termOf_115 {G : xG} {l : Launch} {a : Nat → Nat} {g : xH} (ha : mInj a) {d : Nat} {N : Nat × Nat} (hd : 3 ≤ d) {rc : Nat → Int32 → mS → (Int64 → mS → Prop) → Prop} (ih0 : ∀ (x : Int32) (s : mS) (K : Int64 → mS → Prop), rc 0 x s K → xC G l kX6_sumOf d 0 0 [.ref (a 51), .int x] (mH G a s g) (mQl G a g K)) (ih1 : ∀ (x : Int32) (s : mS) (K : Int64 → mS → Prop), rc 1 x s K → xC G l kX6_termOf d 0 0 [.ref (a 51), .int x] (mH G a s g) (mQl G a g K)) (ih2 : ∀ (x : Int32) (s : mS) (K : Int64 → mS → Prop), rc 2 x s K → xC G l kX6_partOf d 0 0 [.ref (a 51), .int x] (mH G a s g) (mQl G a g K)) (x1 : Int32) (x2 : Int64) (x4 : Int32) (y1 : Int32) (Kr : Int64 → mS → Prop) (K : Int64 → mS → Prop) (R : Int64 → mS → Prop) (s : mS) (h : w_termOf_115 N rc x1 x2 x4 y1 Kr K R s) (hK : ∀ (z2 : Int64) (s : mS), K z2 s → xF G l kX6_termOf (d + 1) 0 0 (mQl G a g Kr) 168 [some (.ref (a 51)), none, some (.long z2), none, none, none, none] [] (mH G a s g)) (hR : ∀ (z2 : Int64) (s : mS), R z2 s → xF G l kX6_termOf (d + 1) 0 0 (mQl G a g Kr) 6 [some (.ref (a 51)), some (.int x1), some (.long z2), none, none, none, none] [] (mH G a s g)) : xF G l kX6_termOf (d + 1) 0 0 (mQl G a g Kr) 115 [some (.ref (a 51)), some (.int x1), some (.long x2), none, some (.int x4), none, none] [.int y1, .ref (a 51)] (mH G a s g) := by
  unfold w_termOf_115 at h
  obtain ⟨e101, h⟩ := h
  refine m_put ha dX6_termOf_115 fp_X6_271 (mfs_24 _ _ _) (by decide) (xB_n e101) (xB_f e101) ?_
  have h := h _ rfl
  refine x_lconst (v := 1) dX6_termOf_118 (by decide) ?_
  refine x_lstore_5 dX6_termOf_119 (by decide) xN2_i ?_
  exact x_le (xLe_cons (xLe_cons (xLe_cons (xLe_cons (xLe_cons (xLe_cons (xLe_cons (xLe_nil)))))))) (c_termOf_121 ha (by omega) ih0 ih1 ih2 _ _ _ _ _ _ _ _ h hK hR)
def w_termOf_110 (N : Nat × Nat) (rc : Nat → Int32 → mS → (Int64 → mS → Prop) → Prop) (x1 : Int32) (x2 : Int64) (x4 : Int32) (Kr : Int64 → mS → Prop) (K : Int64 → mS → Prop) (R : Int64 → mS → Prop) (s : mS) : Prop :=
  (w_termOf_115 N rc x1 x2 x4 1 Kr K R s)
theorem c_termOf_110 {G : xG} {l : Launch} {a : Nat → Nat} {g : xH} (ha : mInj a) {d : Nat} {N : Nat × Nat} (hd : 3 ≤ d) {rc : Nat → Int32 → mS → (Int64 → mS → Prop) → Prop} (ih0 : ∀ (x : Int32) (s : mS) (K : Int64 → mS → Prop), rc 0 x s K → xC G l kX6_sumOf d 0 0 [.ref (a 51), .int x] (mH G a s g) (mQl G a g K)) (ih1 : ∀ (x : Int32) (s : mS) (K : Int64 → mS → Prop), rc 1 x s K → xC G l kX6_termOf d 0 0 [.ref (a 51), .int x] (mH G a s g) (mQl G a g K)) (ih2 : ∀ (x : Int32) (s : mS) (K : Int64 → mS → Prop), rc 2 x s K → xC G l kX6_partOf d 0 0 [.ref (a 51), .int x] (mH G a s g) (mQl G a g K)) (x1 : Int32) (x2 : Int64) (x4 : Int32) (Kr : Int64 → mS → Prop) (K : Int64 → mS → Prop) (R : Int64 → mS → Prop) (s : mS) (h : w_termOf_110 N rc x1 x2 x4 Kr K R s) (hK : ∀ (z2 : Int64) (s : mS), K z2 s → xF G l kX6_termOf (d + 1) 0 0 (mQl G a g Kr) 168 [some (.ref (a 51)), none, some (.long z2), none, none, none, none] [] (mH G a s g)) (hR : ∀ (z2 : Int64) (s : mS), R z2 s → xF G l kX6_termOf (d + 1) 0 0 (mQl G a g Kr) 6 [some (.ref (a 51)), some (.int x1), some (.long z2), none, none, none, none] [] (mH G a s g)) : xF G l kX6_termOf (d + 1) 0 0 (mQl G a g Kr) 110 [some (.ref (a 51)), some (.int x1), some (.long x2), none, some (.int x4), none, none] [.ref (a 51)] (mH G a s g) := by
  unfold w_termOf_110 at h
  refine x_iconst (v := 1) dX6_termOf_110 (by decide) ?_
  refine x_goto 115 dX6_termOf_111 (by decide) ?_
  exact x_le (xLe_cons (xLe_cons (xLe_cons (xLe_cons (xLe_cons (xLe_cons (xLe_cons (xLe_nil)))))))) (c_termOf_115 ha (by omega) ih0 ih1 ih2 _ _ _ _ _ _ _ _ h hK hR)
def w_termOf_54 (N : Nat × Nat) (rc : Nat → Int32 → mS → (Int64 → mS → Prop) → Prop) (x1 : Int32) (x2 : Int64) (Kr : Int64 → mS → Prop) (K : Int64 → mS → Prop) (R : Int64 → mS → Prop) (s : mS) : Prop :=
  (w_codeAt (mFd s 22) s (fun x101 s102 => (∀ s103 : mS, s103 = mF s102 22 ((mFd s102 22) + 1) → (rc 2 x1 s103 (fun x104 s105 => (w_sign 42 (fun x106 => ((x101 = x106 → (w_termOf_121 N rc x1 x2 x101 x104 Kr K R s105)) ∧ (¬ x101 = x106 → ((¬ (lg_cmp x104 0) = 0 → (w_termOf_121 N rc x1 x2 x101 x104 Kr K R s105)) ∧ ((lg_cmp x104 0) = 0 → ((¬ (mFd s105 24) = 0 → (w_termOf_110 N rc x1 x2 x101 Kr K R s105)) ∧ ((mFd s105 24) = 0 → ((x1 = 0 → (w_termOf_115 N rc x1 x2 x101 0 Kr K R s105)) ∧ (¬ x1 = 0 → (w_termOf_110 N rc x1 x2 x101 Kr K R s105))))))))))))))))
theorem c_termOf_54 {G : xG} {l : Launch} {a : Nat → Nat} {g : xH} (ha : mInj a) {d : Nat} {N : Nat × Nat} (hd : 3 ≤ d) {rc : Nat → Int32 → mS → (Int64 → mS → Prop) → Prop} (ih0 : ∀ (x : Int32) (s : mS) (K : Int64 → mS → Prop), rc 0 x s K → xC G l kX6_sumOf d 0 0 [.ref (a 51), .int x] (mH G a s g) (mQl G a g K)) (ih1 : ∀ (x : Int32) (s : mS) (K : Int64 → mS → Prop), rc 1 x s K → xC G l kX6_termOf d 0 0 [.ref (a 51), .int x] (mH G a s g) (mQl G a g K)) (ih2 : ∀ (x : Int32) (s : mS) (K : Int64 → mS → Prop), rc 2 x s K → xC G l kX6_partOf d 0 0 [.ref (a 51), .int x] (mH G a s g) (mQl G a g K)) (x1 : Int32) (x2 : Int64) (Kr : Int64 → mS → Prop) (K : Int64 → mS → Prop) (R : Int64 → mS → Prop) (s : mS) (h : w_termOf_54 N rc x1 x2 Kr K R s) (hK : ∀ (z2 : Int64) (s : mS), K z2 s → xF G l kX6_termOf (d + 1) 0 0 (mQl G a g Kr) 168 [some (.ref (a 51)), none, some (.long z2), none, none, none, none] [] (mH G a s g)) (hR : ∀ (z2 : Int64) (s : mS), R z2 s → xF G l kX6_termOf (d + 1) 0 0 (mQl G a g Kr) 6 [some (.ref (a 51)), some (.int x1), some (.long z2), none, none, none, none] [] (mH G a s g)) : xF G l kX6_termOf (d + 1) 0 0 (mQl G a g Kr) 54 [some (.ref (a 51)), some (.int x1), some (.long x2), none, none, none, none] [] (mH G a s g) := by
  unfold w_termOf_54 at h
  refine x_aload_0 dX6_termOf_54 ?_
  refine x_aload_0 dX6_termOf_55 ?_
  refine m_get ha dX6_termOf_56 fa_X6_261 rfl ?_
  refine m_cVi1 ha rfl cv_X6_264 (Nat.le_of_ble_eq_true rfl) dX6_termOf_59 (c_codeAt ha (by omega) h) (fun x101 s102 h => ?_)
  refine x_istore_4 dX6_termOf_62 (by decide) xN2_none ?_
  refine x_aload_0 dX6_termOf_64 ?_
  refine x_dup dX6_termOf_65 rfl ?_
  refine m_get ha dX6_termOf_66 fa_X6_261 rfl ?_
  refine x_iconst (v := 1) dX6_termOf_69 (by decide) ?_
  refine x_iadd dX6_termOf_70 ?_
  refine m_put ha dX6_termOf_71 fp_X6_261 (mfs_22 _ _ _) (by decide) rfl rfl ?_
  have h := h _ rfl
  refine x_aload_0 dX6_termOf_74 ?_
  refine x_iload_1 dX6_termOf_75 ?_
  refine m_cVl1 ha rfl cv_X6_282 (Nat.le_of_ble_eq_true rfl) dX6_termOf_76 (ih2 _ _ _ h) (fun x104 s105 h => ?_)
  refine x_lstore_5 dX6_termOf_79 (by decide) xN2_i ?_
  refine x_iload_4 dX6_termOf_81 ?_
  refine x_bipush (v := 42) dX6_termOf_83 (by decide) ?_
  refine m_cSi1 rfl cs_X6_220 (Nat.le_of_ble_eq_true rfl) dX6_termOf_85 (c_sign (by omega) h) (fun x106 h => ?_)
  refine x_icmp_eq 121 dX6_termOf_88 (by decide) (fun c108 => ?_) (fun c108 => ?_)
  · have h := h.1 c108
    exact x_le (xLe_cons (xLe_cons (xLe_cons (xLe_cons (xLe_cons (xLe_cons (xLe_cons (xLe_nil)))))))) (c_termOf_121 ha (by omega) ih0 ih1 ih2 _ _ _ _ _ _ _ _ h hK hR)
  · have h := h.2 c108
    refine x_lload_5 dX6_termOf_91 ?_
    refine x_lconst (v := 0) dX6_termOf_93 (by decide) ?_
    refine x_lcmp dX6_termOf_94 ?_
    refine x_if_ne 121 dX6_termOf_95 (by decide) (fun c109 => ?_) (fun c109 => ?_)
    · have h := h.1 c109
      exact x_le (xLe_cons (xLe_cons (xLe_cons (xLe_cons (xLe_cons (xLe_cons (xLe_cons (xLe_nil)))))))) (c_termOf_121 ha (by omega) ih0 ih1 ih2 _ _ _ _ _ _ _ _ h hK hR)
    · have h := h.2 c109
      refine x_aload_0 dX6_termOf_98 ?_
      refine x_aload_0 dX6_termOf_99 ?_
      refine m_get ha dX6_termOf_100 fa_X6_271 rfl ?_
      refine x_if_ne 110 dX6_termOf_103 (by decide) (fun c110 => ?_) (fun c110 => ?_)
      · have h := h.1 c110
        exact x_le (xLe_cons (xLe_cons (xLe_cons (xLe_cons (xLe_cons (xLe_none (xLe_cons (xLe_nil)))))))) (c_termOf_110 ha (by omega) ih0 ih1 ih2 _ _ _ _ _ _ _ h hK hR)
      · have h := h.2 c110
        refine x_iload_1 dX6_termOf_106 ?_
        refine x_if_eq 114 dX6_termOf_107 (by decide) (fun c111 => ?_) (fun c111 => ?_)
        · have h := h.1 c111
          refine x_iconst (v := 0) dX6_termOf_114 (by decide) ?_
          exact x_le (xLe_cons (xLe_cons (xLe_cons (xLe_cons (xLe_cons (xLe_none (xLe_cons (xLe_nil)))))))) (c_termOf_115 ha (by omega) ih0 ih1 ih2 _ _ _ _ _ _ _ _ h hK hR)
        · have h := h.2 c111
          exact x_le (xLe_cons (xLe_cons (xLe_cons (xLe_cons (xLe_cons (xLe_none (xLe_cons (xLe_nil)))))))) (c_termOf_110 ha (by omega) ih0 ih1 ih2 _ _ _ _ _ _ _ h hK hR)
def w_termOf_6 (N : Nat × Nat) (rc : Nat → Int32 → mS → (Int64 → mS → Prop) → Prop) (x1 : Int32) (Kr : Int64 → mS → Prop) (K : Int64 → mS → Prop) : Nat → Int64 → mS → Prop
  | 0, _, _ => False
  | t + 1, x2, s => (w_codeAt (mFd s 22) s (fun x101 s102 => (w_sign 42 (fun x103 => ((x101 = x103 → (w_termOf_54 N rc x1 x2 Kr K (fun x2 s => w_termOf_6 N rc x1 Kr K t x2 s) s102)) ∧ (¬ x101 = x103 → (w_codeAt (mFd s102 22) s102 (fun x106 s107 => (w_sign 47 (fun x108 => ((x106 = x108 → (w_termOf_54 N rc x1 x2 Kr K (fun x2 s => w_termOf_6 N rc x1 Kr K t x2 s) s107)) ∧ (¬ x106 = x108 → (w_codeAt (mFd s107 22) s107 (fun x111 s112 => (w_sign 37 (fun x113 => ((¬ x111 = x113 → (K x2 s112)) ∧ (x111 = x113 → (w_termOf_54 N rc x1 x2 Kr K (fun x2 s => w_termOf_6 N rc x1 Kr K t x2 s) s112)))))))))))))))))))
theorem c_termOf_6 {G : xG} {l : Launch} {a : Nat → Nat} {g : xH} (ha : mInj a) {d : Nat} {N : Nat × Nat} (hd : 3 ≤ d) {rc : Nat → Int32 → mS → (Int64 → mS → Prop) → Prop} (ih0 : ∀ (x : Int32) (s : mS) (K : Int64 → mS → Prop), rc 0 x s K → xC G l kX6_sumOf d 0 0 [.ref (a 51), .int x] (mH G a s g) (mQl G a g K)) (ih1 : ∀ (x : Int32) (s : mS) (K : Int64 → mS → Prop), rc 1 x s K → xC G l kX6_termOf d 0 0 [.ref (a 51), .int x] (mH G a s g) (mQl G a g K)) (ih2 : ∀ (x : Int32) (s : mS) (K : Int64 → mS → Prop), rc 2 x s K → xC G l kX6_partOf d 0 0 [.ref (a 51), .int x] (mH G a s g) (mQl G a g K)) (Kr : Int64 → mS → Prop) (K : Int64 → mS → Prop) (x1 : Int32) : ∀ (t : Nat) (x2 : Int64) (s : mS) , w_termOf_6 N rc x1 Kr K t x2 s → (∀ (z2 : Int64) (s : mS), K z2 s → xF G l kX6_termOf (d + 1) 0 0 (mQl G a g Kr) 168 [some (.ref (a 51)), none, some (.long z2), none, none, none, none] [] (mH G a s g)) → xF G l kX6_termOf (d + 1) 0 0 (mQl G a g Kr) 6 [some (.ref (a 51)), some (.int x1), some (.long x2), none, none, none, none] [] (mH G a s g) := by
  intro t
  induction t with
  | zero =>
    intro _ _ h _
    exact absurd h (by simp [w_termOf_6])
  | succ t ih =>
    intro x2 s h hK
    have hR := fun x2 s h => ih x2 s h hK
    unfold w_termOf_6 at h
    refine x_aload_0 dX6_termOf_6 ?_
    refine x_aload_0 dX6_termOf_7 ?_
    refine m_get ha dX6_termOf_8 fa_X6_261 rfl ?_
    refine m_cVi1 ha rfl cv_X6_264 (Nat.le_of_ble_eq_true rfl) dX6_termOf_11 (c_codeAt ha (by omega) h) (fun x101 s102 h => ?_)
    refine x_bipush (v := 42) dX6_termOf_14 (by decide) ?_
    refine m_cSi1 rfl cs_X6_220 (Nat.le_of_ble_eq_true rfl) dX6_termOf_16 (c_sign (by omega) h) (fun x103 h => ?_)
    refine x_icmp_eq 54 dX6_termOf_19 (by decide) (fun c105 => ?_) (fun c105 => ?_)
    · have h := h.1 c105
      exact x_le (xLe_cons (xLe_cons (xLe_cons (xLe_cons (xLe_cons (xLe_cons (xLe_cons (xLe_nil)))))))) (c_termOf_54 ha (by omega) ih0 ih1 ih2 _ _ _ _ _ _ h hK hR)
    · have h := h.2 c105
      refine x_aload_0 dX6_termOf_22 ?_
      refine x_aload_0 dX6_termOf_23 ?_
      refine m_get ha dX6_termOf_24 fa_X6_261 rfl ?_
      refine m_cVi1 ha rfl cv_X6_264 (Nat.le_of_ble_eq_true rfl) dX6_termOf_27 (c_codeAt ha (by omega) h) (fun x106 s107 h => ?_)
      refine x_bipush (v := 47) dX6_termOf_30 (by decide) ?_
      refine m_cSi1 rfl cs_X6_220 (Nat.le_of_ble_eq_true rfl) dX6_termOf_32 (c_sign (by omega) h) (fun x108 h => ?_)
      refine x_icmp_eq 54 dX6_termOf_35 (by decide) (fun c110 => ?_) (fun c110 => ?_)
      · have h := h.1 c110
        exact x_le (xLe_cons (xLe_cons (xLe_cons (xLe_cons (xLe_cons (xLe_cons (xLe_cons (xLe_nil)))))))) (c_termOf_54 ha (by omega) ih0 ih1 ih2 _ _ _ _ _ _ h hK hR)
      · have h := h.2 c110
        refine x_aload_0 dX6_termOf_38 ?_
        refine x_aload_0 dX6_termOf_39 ?_
        refine m_get ha dX6_termOf_40 fa_X6_261 rfl ?_
        refine m_cVi1 ha rfl cv_X6_264 (Nat.le_of_ble_eq_true rfl) dX6_termOf_43 (c_codeAt ha (by omega) h) (fun x111 s112 h => ?_)
        refine x_bipush (v := 37) dX6_termOf_46 (by decide) ?_
        refine m_cSi1 rfl cs_X6_220 (Nat.le_of_ble_eq_true rfl) dX6_termOf_48 (c_sign (by omega) h) (fun x113 h => ?_)
        refine x_icmp_ne 168 dX6_termOf_51 (by decide) (fun c115 => ?_) (fun c115 => ?_)
        · have h := h.1 c115
          exact x_le (xLe_cons (xLe_none (xLe_cons (xLe_cons (xLe_cons (xLe_cons (xLe_cons (xLe_nil)))))))) (hK _ _ h)
        · have h := h.2 c115
          exact x_le (xLe_cons (xLe_cons (xLe_cons (xLe_cons (xLe_cons (xLe_cons (xLe_cons (xLe_nil)))))))) (c_termOf_54 ha (by omega) ih0 ih1 ih2 _ _ _ _ _ _ h hK hR)
def w_termOf (N : Nat × Nat) (rc : Nat → Int32 → mS → (Int64 → mS → Prop) → Prop) (x1 : Int32) (s : mS) (Kr : Int64 → mS → Prop) : Prop :=
  (rc 2 x1 s (fun x101 s102 => (w_termOf_6 N rc x1 Kr (fun x103 s104 => (Kr x103 s104)) N.1 x101 s102)))
theorem cb_termOf {G : xG} {l : Launch} {a : Nat → Nat} {g : xH} (ha : mInj a) {d : Nat} {N : Nat × Nat} (hd : 3 ≤ d) {rc : Nat → Int32 → mS → (Int64 → mS → Prop) → Prop} (ih0 : ∀ (x : Int32) (s : mS) (K : Int64 → mS → Prop), rc 0 x s K → xC G l kX6_sumOf d 0 0 [.ref (a 51), .int x] (mH G a s g) (mQl G a g K)) (ih1 : ∀ (x : Int32) (s : mS) (K : Int64 → mS → Prop), rc 1 x s K → xC G l kX6_termOf d 0 0 [.ref (a 51), .int x] (mH G a s g) (mQl G a g K)) (ih2 : ∀ (x : Int32) (s : mS) (K : Int64 → mS → Prop), rc 2 x s K → xC G l kX6_partOf d 0 0 [.ref (a 51), .int x] (mH G a s g) (mQl G a g K)) {x1 : Int32} {s : mS} {Kr : Int64 → mS → Prop} (h : w_termOf N rc x1 s Kr) : xC G l kX6_termOf (d + 1) 0 0 [.ref (a 51), .int x1] (mH G a s g) (mQl G a g Kr) := by
  refine xC.start rfl (by decide +kernel) (Nat.le_of_ble_eq_true rfl) (lv := [some (.ref (a 51)), some (.int x1), none, none, none, none, none]) rfl ?_
  unfold w_termOf at h
  refine x_aload_0 dX6_termOf_0 ?_
  refine x_iload_1 dX6_termOf_1 ?_
  refine m_cVl1 ha rfl cv_X6_282 (Nat.le_of_ble_eq_true rfl) dX6_termOf_2 (ih2 _ _ _ h) (fun x101 s102 h => ?_)
  refine x_lstore_2 dX6_termOf_5 (by decide) xN2_i ?_
  refine x_le (xLe_cons (xLe_cons (xLe_cons (xLe_cons (xLe_cons (xLe_cons (xLe_cons (xLe_nil)))))))) (c_termOf_6 ha (by omega) ih0 ih1 ih2 _ _ _ _ _ _ h (fun x103 s104 h => ?_))
  refine x_lload_2 dX6_termOf_168 ?_
  exact x_lret dX6_termOf_169 rfl ⟨_, _, h, rfl, rfl⟩
def w_partOf_94 (N : Nat × Nat) (rc : Nat → Int32 → mS → (Int64 → mS → Prop) → Prop) (x1 : Int32) (x2 : Int32) (x3 : Int32) (Kr : Int64 → mS → Prop) (s : mS) : Prop :=
  ((x1 = 0 → (Kr 0 s)) ∧ (¬ x1 = 0 → (((mFd s 24) = 0 → ((¬ x2 = 50 → (((mFd s 25) = 0 → (vp_in (x2 - 8) 10 ∧ (Kr ((mAt s 26 (x2 - 8) : Int32).toInt64) s))) ∧ (¬ (mFd s 25) = 0 → (w_orderValue x2 x3 s (fun x106 s107 => (Kr ((x106 : Int32).toInt64) s107)))))) ∧ (x2 = 50 → (vp_in ((2852 + (mFd s 22)) - 1) 5652 ∧ (Kr ((mAt s 2 ((2852 + (mFd s 22)) - 1) : Int32).toInt64) s))))) ∧ (¬ (mFd s 24) = 0 → (Kr 0 s)))))
theorem c_partOf_94 {G : xG} {l : Launch} {a : Nat → Nat} {g : xH} (ha : mInj a) {d : Nat} {N : Nat × Nat} (hd : 3 ≤ d) {rc : Nat → Int32 → mS → (Int64 → mS → Prop) → Prop} (ih0 : ∀ (x : Int32) (s : mS) (K : Int64 → mS → Prop), rc 0 x s K → xC G l kX6_sumOf d 0 0 [.ref (a 51), .int x] (mH G a s g) (mQl G a g K)) (ih1 : ∀ (x : Int32) (s : mS) (K : Int64 → mS → Prop), rc 1 x s K → xC G l kX6_termOf d 0 0 [.ref (a 51), .int x] (mH G a s g) (mQl G a g K)) (ih2 : ∀ (x : Int32) (s : mS) (K : Int64 → mS → Prop), rc 2 x s K → xC G l kX6_partOf d 0 0 [.ref (a 51), .int x] (mH G a s g) (mQl G a g K)) (x1 : Int32) (x2 : Int32) (x3 : Int32) (Kr : Int64 → mS → Prop) (s : mS) (h : w_partOf_94 N rc x1 x2 x3 Kr s) : xF G l kX6_partOf (d + 1) 0 0 (mQl G a g Kr) 94 [some (.ref (a 51)), some (.int x1), some (.int x2), some (.int x3)] [] (mH G a s g) := by
  unfold w_partOf_94 at h
  refine x_iload_1 dX6_partOf_94 ?_
  refine x_if_eq 105 dX6_partOf_95 (by decide) (fun c101 => ?_) (fun c101 => ?_)
  · have h := h.1 c101
    refine x_lconst (v := 0) dX6_partOf_105 (by decide) ?_
    exact x_lret dX6_partOf_106 rfl ⟨_, _, h, rfl, rfl⟩
  · have h := h.2 c101
    refine x_aload_0 dX6_partOf_98 ?_
    refine m_get ha dX6_partOf_99 fa_X6_271 rfl ?_
    refine x_if_eq 107 dX6_partOf_102 (by decide) (fun c102 => ?_) (fun c102 => ?_)
    · have h := h.1 c102
      refine x_iload_2 dX6_partOf_107 ?_
      refine x_bipush (v := 50) dX6_partOf_108 (by decide) ?_
      refine x_icmp_ne 130 dX6_partOf_110 (by decide) (fun c103 => ?_) (fun c103 => ?_)
      · have h := h.1 c103
        refine x_aload_0 dX6_partOf_130 ?_
        refine m_get ha dX6_partOf_131 fa_X6_291 rfl ?_
        refine x_if_eq 147 dX6_partOf_134 (by decide) (fun c104 => ?_) (fun c104 => ?_)
        · have h := h.1 c104
          refine x_aload_0 dX6_partOf_147 ?_
          refine m_get ha dX6_partOf_148 fa_X6_63 rfl ?_
          refine x_iload_2 dX6_partOf_151 ?_
          refine x_bipush (v := 8) dX6_partOf_152 (by decide) ?_
          refine x_isub dX6_partOf_154 ?_
          obtain ⟨e105, h⟩ := h
          refine m_iald (j := 26) ha dX6_partOf_155 (by decide) (by decide) e105 ?_
          refine x_i2l dX6_partOf_156 ?_
          exact x_lret dX6_partOf_157 rfl ⟨_, _, h, rfl, rfl⟩
        · have h := h.2 c104
          refine x_aload_0 dX6_partOf_137 ?_
          refine x_iload_2 dX6_partOf_138 ?_
          refine x_iload_3 dX6_partOf_139 ?_
          refine m_cVi2 ha rfl cv_X6_294 (Nat.le_of_ble_eq_true rfl) dX6_partOf_140 (c_orderValue ha (by omega) h) (fun x106 s107 h => ?_)
          refine x_i2l dX6_partOf_143 ?_
          refine x_goto 157 dX6_partOf_144 (by decide) ?_
          exact x_lret dX6_partOf_157 rfl ⟨_, _, h, rfl, rfl⟩
      · have h := h.2 c103
        refine x_aload_0 dX6_partOf_113 ?_
        refine m_get ha dX6_partOf_114 fa_X6_28 rfl ?_
        refine x_sipush (v := 2852) dX6_partOf_117 (by decide) ?_
        refine x_aload_0 dX6_partOf_120 ?_
        refine m_get ha dX6_partOf_121 fa_X6_261 rfl ?_
        refine x_iadd dX6_partOf_124 ?_
        refine x_iconst (v := 1) dX6_partOf_125 (by decide) ?_
        refine x_isub dX6_partOf_126 ?_
        obtain ⟨e108, h⟩ := h
        refine m_iald (j := 2) ha dX6_partOf_127 (by decide) (by decide) e108 ?_
        refine x_i2l dX6_partOf_128 ?_
        exact x_lret dX6_partOf_129 rfl ⟨_, _, h, rfl, rfl⟩
    · have h := h.2 c102
      refine x_lconst (v := 0) dX6_partOf_105 (by decide) ?_
      exact x_lret dX6_partOf_106 rfl ⟨_, _, h, rfl, rfl⟩
def w_partOf_70 (N : Nat × Nat) (rc : Nat → Int32 → mS → (Int64 → mS → Prop) → Prop) (x1 : Int32) (x2 : Int32) (Kr : Int64 → mS → Prop) (s : mS) : Prop :=
  (vp_in (2852 + (mFd s 22)) 5652 ∧ (∀ x102 : Int32, x102 = mAt s 2 (2852 + (mFd s 22)) → (∀ s103 : mS, s103 = mF s 22 ((mFd s 22) + 1) → (w_partOf_94 N rc x1 x2 x102 Kr s103))))
theorem c_partOf_70 {G : xG} {l : Launch} {a : Nat → Nat} {g : xH} (ha : mInj a) {d : Nat} {N : Nat × Nat} (hd : 3 ≤ d) {rc : Nat → Int32 → mS → (Int64 → mS → Prop) → Prop} (ih0 : ∀ (x : Int32) (s : mS) (K : Int64 → mS → Prop), rc 0 x s K → xC G l kX6_sumOf d 0 0 [.ref (a 51), .int x] (mH G a s g) (mQl G a g K)) (ih1 : ∀ (x : Int32) (s : mS) (K : Int64 → mS → Prop), rc 1 x s K → xC G l kX6_termOf d 0 0 [.ref (a 51), .int x] (mH G a s g) (mQl G a g K)) (ih2 : ∀ (x : Int32) (s : mS) (K : Int64 → mS → Prop), rc 2 x s K → xC G l kX6_partOf d 0 0 [.ref (a 51), .int x] (mH G a s g) (mQl G a g K)) (x1 : Int32) (x2 : Int32) (Kr : Int64 → mS → Prop) (s : mS) (h : w_partOf_70 N rc x1 x2 Kr s) : xF G l kX6_partOf (d + 1) 0 0 (mQl G a g Kr) 70 [some (.ref (a 51)), some (.int x1), some (.int x2), none] [] (mH G a s g) := by
  unfold w_partOf_70 at h
  refine x_aload_0 dX6_partOf_70 ?_
  refine m_get ha dX6_partOf_71 fa_X6_28 rfl ?_
  refine x_sipush (v := 2852) dX6_partOf_74 (by decide) ?_
  refine x_aload_0 dX6_partOf_77 ?_
  refine m_get ha dX6_partOf_78 fa_X6_261 rfl ?_
  refine x_iadd dX6_partOf_81 ?_
  obtain ⟨e101, h⟩ := h
  refine m_iald (j := 2) ha dX6_partOf_82 (by decide) (by decide) e101 ?_
  refine x_istore_3 dX6_partOf_83 (by decide) xN2_i ?_
  have h := h _ rfl
  refine x_aload_0 dX6_partOf_84 ?_
  refine x_dup dX6_partOf_85 rfl ?_
  refine m_get ha dX6_partOf_86 fa_X6_261 rfl ?_
  refine x_iconst (v := 1) dX6_partOf_89 (by decide) ?_
  refine x_iadd dX6_partOf_90 ?_
  refine m_put ha dX6_partOf_91 fp_X6_261 (mfs_22 _ _ _) (by decide) rfl rfl ?_
  have h := h _ rfl
  exact x_le (xLe_cons (xLe_cons (xLe_cons (xLe_cons (xLe_nil))))) (c_partOf_94 ha (by omega) ih0 ih1 ih2 _ _ _ _ _ h)
def w_partOf (N : Nat × Nat) (rc : Nat → Int32 → mS → (Int64 → mS → Prop) → Prop) (x1 : Int32) (s : mS) (Kr : Int64 → mS → Prop) : Prop :=
  (w_sign 91 (fun x101 => (w_passes0 x101 s (fun x103 s104 => ((x103 = 0 → (w_codeAt (mFd s104 22) s104 (fun x106 s107 => (∀ s108 : mS, s108 = mF s107 22 ((mFd s107 22) + 1) → (((mFd s108 25) = 0 → (w_partOf_94 N rc x1 x106 0 Kr s108)) ∧ (¬ (mFd s108 25) = 0 → ((x106 = 15 → (w_partOf_70 N rc x1 x106 Kr s108)) ∧ (¬ x106 = 15 → ((¬ x106 = 16 → (w_partOf_94 N rc x1 x106 0 Kr s108)) ∧ (x106 = 16 → (w_partOf_70 N rc x1 x106 Kr s108))))))))))) ∧ (¬ x103 = 0 → (rc 0 x1 s104 (fun x112 s113 => (∀ s114 : mS, s114 = mF s113 22 ((mFd s113 22) + 1) → (Kr x112 s114))))))))))
theorem cb_partOf {G : xG} {l : Launch} {a : Nat → Nat} {g : xH} (ha : mInj a) {d : Nat} {N : Nat × Nat} (hd : 3 ≤ d) {rc : Nat → Int32 → mS → (Int64 → mS → Prop) → Prop} (ih0 : ∀ (x : Int32) (s : mS) (K : Int64 → mS → Prop), rc 0 x s K → xC G l kX6_sumOf d 0 0 [.ref (a 51), .int x] (mH G a s g) (mQl G a g K)) (ih1 : ∀ (x : Int32) (s : mS) (K : Int64 → mS → Prop), rc 1 x s K → xC G l kX6_termOf d 0 0 [.ref (a 51), .int x] (mH G a s g) (mQl G a g K)) (ih2 : ∀ (x : Int32) (s : mS) (K : Int64 → mS → Prop), rc 2 x s K → xC G l kX6_partOf d 0 0 [.ref (a 51), .int x] (mH G a s g) (mQl G a g K)) {x1 : Int32} {s : mS} {Kr : Int64 → mS → Prop} (h : w_partOf N rc x1 s Kr) : xC G l kX6_partOf (d + 1) 0 0 [.ref (a 51), .int x1] (mH G a s g) (mQl G a g Kr) := by
  refine xC.start rfl (by decide +kernel) (Nat.le_of_ble_eq_true rfl) (lv := [some (.ref (a 51)), some (.int x1), none, none]) rfl ?_
  unfold w_partOf at h
  refine x_aload_0 dX6_partOf_0 ?_
  refine x_bipush (v := 91) dX6_partOf_1 (by decide) ?_
  refine m_cSi1 rfl cs_X6_220 (Nat.le_of_ble_eq_true rfl) dX6_partOf_3 (c_sign (by omega) h) (fun x101 h => ?_)
  refine m_cVi1 ha rfl cv_X6_285 (Nat.le_of_ble_eq_true rfl) dX6_partOf_6 (c_passes0 ha (by omega) h) (fun x103 s104 h => ?_)
  refine x_if_eq 30 dX6_partOf_9 (by decide) (fun c105 => ?_) (fun c105 => ?_)
  · have h := h.1 c105
    refine x_aload_0 dX6_partOf_30 ?_
    refine x_aload_0 dX6_partOf_31 ?_
    refine m_get ha dX6_partOf_32 fa_X6_261 rfl ?_
    refine m_cVi1 ha rfl cv_X6_264 (Nat.le_of_ble_eq_true rfl) dX6_partOf_35 (c_codeAt ha (by omega) h) (fun x106 s107 h => ?_)
    refine x_istore_2 dX6_partOf_38 (by decide) xN2_i ?_
    refine x_iconst (v := 0) dX6_partOf_39 (by decide) ?_
    refine x_istore_3 dX6_partOf_40 (by decide) xN2_i ?_
    refine x_aload_0 dX6_partOf_41 ?_
    refine x_dup dX6_partOf_42 rfl ?_
    refine m_get ha dX6_partOf_43 fa_X6_261 rfl ?_
    refine x_iconst (v := 1) dX6_partOf_46 (by decide) ?_
    refine x_iadd dX6_partOf_47 ?_
    refine m_put ha dX6_partOf_48 fp_X6_261 (mfs_22 _ _ _) (by decide) rfl rfl ?_
    have h := h _ rfl
    refine x_aload_0 dX6_partOf_51 ?_
    refine m_get ha dX6_partOf_52 fa_X6_291 rfl ?_
    refine x_if_eq 94 dX6_partOf_55 (by decide) (fun c109 => ?_) (fun c109 => ?_)
    · have h := h.1 c109
      exact x_le (xLe_cons (xLe_cons (xLe_cons (xLe_cons (xLe_nil))))) (c_partOf_94 ha (by omega) ih0 ih1 ih2 _ _ _ _ _ h)
    · have h := h.2 c109
      refine x_iload_2 dX6_partOf_58 ?_
      refine x_bipush (v := 15) dX6_partOf_59 (by decide) ?_
      refine x_icmp_eq 70 dX6_partOf_61 (by decide) (fun c110 => ?_) (fun c110 => ?_)
      · have h := h.1 c110
        exact x_le (xLe_cons (xLe_cons (xLe_cons (xLe_none (xLe_nil))))) (c_partOf_70 ha (by omega) ih0 ih1 ih2 _ _ _ _ h)
      · have h := h.2 c110
        refine x_iload_2 dX6_partOf_64 ?_
        refine x_bipush (v := 16) dX6_partOf_65 (by decide) ?_
        refine x_icmp_ne 94 dX6_partOf_67 (by decide) (fun c111 => ?_) (fun c111 => ?_)
        · have h := h.1 c111
          exact x_le (xLe_cons (xLe_cons (xLe_cons (xLe_cons (xLe_nil))))) (c_partOf_94 ha (by omega) ih0 ih1 ih2 _ _ _ _ _ h)
        · have h := h.2 c111
          exact x_le (xLe_cons (xLe_cons (xLe_cons (xLe_none (xLe_nil))))) (c_partOf_70 ha (by omega) ih0 ih1 ih2 _ _ _ _ h)
  · have h := h.2 c105
    refine x_aload_0 dX6_partOf_12 ?_
    refine x_iload_1 dX6_partOf_13 ?_
    refine m_cVl1 ha rfl cv_X6_288 (Nat.le_of_ble_eq_true rfl) dX6_partOf_14 (ih0 _ _ _ h) (fun x112 s113 h => ?_)
    refine x_lstore_2 dX6_partOf_17 (by decide) xN2_i ?_
    refine x_aload_0 dX6_partOf_18 ?_
    refine x_dup dX6_partOf_19 rfl ?_
    refine m_get ha dX6_partOf_20 fa_X6_261 rfl ?_
    refine x_iconst (v := 1) dX6_partOf_23 (by decide) ?_
    refine x_iadd dX6_partOf_24 ?_
    refine m_put ha dX6_partOf_25 fp_X6_261 (mfs_22 _ _ _) (by decide) rfl rfl ?_
    have h := h _ rfl
    refine x_lload_2 dX6_partOf_28 ?_
    exact x_lret dX6_partOf_29 rfl ⟨_, _, h, rfl, rfl⟩
def g_sumOf (N : Nat × Nat) : Nat → Nat → Int32 → mS → (Int64 → mS → Prop) → Prop
  | 0, _, _, _, _ => False
  | t + 1, 0, x, s, K => w_sumOf N (g_sumOf N t) x s K
  | t + 1, 1, x, s, K => w_termOf N (g_sumOf N t) x s K
  | t + 1, 2, x, s, K => w_partOf N (g_sumOf N t) x s K
  | _ + 1, _ + 3, _, _, _ => False
theorem cg_sumOf {G : xG} {l : Launch} {a : Nat → Nat} {g : xH} (ha : mInj a) {N : Nat × Nat} : ∀ (t d : Nat), t + (3) ≤ d → (∀ (x : Int32) (s : mS) (K : Int64 → mS → Prop), g_sumOf N t 0 x s K → xC G l kX6_sumOf d 0 0 [.ref (a 51), .int x] (mH G a s g) (mQl G a g K)) ∧ (∀ (x : Int32) (s : mS) (K : Int64 → mS → Prop), g_sumOf N t 1 x s K → xC G l kX6_termOf d 0 0 [.ref (a 51), .int x] (mH G a s g) (mQl G a g K)) ∧ (∀ (x : Int32) (s : mS) (K : Int64 → mS → Prop), g_sumOf N t 2 x s K → xC G l kX6_partOf d 0 0 [.ref (a 51), .int x] (mH G a s g) (mQl G a g K)) := by
  intro t
  induction t with
  | zero =>
    intro d _
    exact ⟨fun x s K h => absurd h (by simp [g_sumOf]), fun x s K h => absurd h (by simp [g_sumOf]), fun x s K h => absurd h (by simp [g_sumOf])⟩
  | succ t ih =>
    intro d hd
    obtain ⟨d, rfl⟩ : ∃ z, d = z + 1 := ⟨d - 1, by omega⟩
    obtain ⟨ih0, ih1, ih2⟩ := ih d (by omega)
    exact ⟨fun x s K h => cb_sumOf ha (N := N) (by omega) ih0 ih1 ih2 (by unfold g_sumOf at h; exact h), fun x s K h => cb_termOf ha (N := N) (by omega) ih0 ih1 ih2 (by unfold g_sumOf at h; exact h), fun x s K h => cb_partOf ha (N := N) (by omega) ih0 ih1 ih2 (by unfold g_sumOf at h; exact h)⟩
theorem c_sumOf {G : xG} {l : Launch} {a : Nat → Nat} {g : xH} (ha : mInj a) {d : Nat} {N : Nat × Nat} (hd : 1 * N.2 + 4 ≤ d) {x : Int32} {s : mS} {K : Int64 → mS → Prop} (h : g_sumOf N N.2 0 x s K) : xC G l kX6_sumOf d 0 0 [.ref (a 51), .int x] (mH G a s g) (mQl G a g K) := (cg_sumOf ha N.2 d (by omega)).1 x s K h
theorem c_termOf {G : xG} {l : Launch} {a : Nat → Nat} {g : xH} (ha : mInj a) {d : Nat} {N : Nat × Nat} (hd : 1 * N.2 + 4 ≤ d) {x : Int32} {s : mS} {K : Int64 → mS → Prop} (h : g_sumOf N N.2 1 x s K) : xC G l kX6_termOf d 0 0 [.ref (a 51), .int x] (mH G a s g) (mQl G a g K) := (cg_sumOf ha N.2 d (by omega)).2.1 x s K h
theorem c_partOf {G : xG} {l : Launch} {a : Nat → Nat} {g : xH} (ha : mInj a) {d : Nat} {N : Nat × Nat} (hd : 1 * N.2 + 4 ≤ d) {x : Int32} {s : mS} {K : Int64 → mS → Prop} (h : g_sumOf N N.2 2 x s K) : xC G l kX6_partOf d 0 0 [.ref (a 51), .int x] (mH G a s g) (mQl G a g K) := (cg_sumOf ha N.2 d (by omega)).2.2 x s K h
def w_testOf_28 (N : Nat × Nat) (rc : Nat → Int32 → mS → (Int32 → mS → Prop) → Prop) (x1 : Int32) (x2 : Int32) (y1 : Int32) (Kr : Int32 → mS → Prop) (K : Int32 → mS → Prop) (R : Int32 → mS → Prop) (s : mS) : Prop :=
  (rc 1 y1 s (fun x101 s102 => ((¬ x2 = 0 → (R 1 s102)) ∧ (x2 = 0 → ((x101 = 0 → (R 0 s102)) ∧ (¬ x101 = 0 → (R 1 s102)))))))
theorem c_testOf_28 {G : xG} {l : Launch} {a : Nat → Nat} {g : xH} (ha : mInj a) {d : Nat} {N : Nat × Nat} (hd : 1 * N.2 + 4 ≤ d) {rc : Nat → Int32 → mS → (Int32 → mS → Prop) → Prop} (ih0 : ∀ (x : Int32) (s : mS) (K : Int32 → mS → Prop), rc 0 x s K → xC G l kX6_testOf d 0 0 [.ref (a 51), .int x] (mH G a s g) (mQi G a g K)) (ih1 : ∀ (x : Int32) (s : mS) (K : Int32 → mS → Prop), rc 1 x s K → xC G l kX6_bothOf d 0 0 [.ref (a 51), .int x] (mH G a s g) (mQi G a g K)) (ih2 : ∀ (x : Int32) (s : mS) (K : Int32 → mS → Prop), rc 2 x s K → xC G l kX6_plainOf d 0 0 [.ref (a 51), .int x] (mH G a s g) (mQi G a g K)) (ih3 : ∀ (x : Int32) (s : mS) (K : Int32 → mS → Prop), rc 3 x s K → xC G l kX6_positiveOf d 0 0 [.ref (a 51), .int x] (mH G a s g) (mQi G a g K)) (x1 : Int32) (x2 : Int32) (y1 : Int32) (Kr : Int32 → mS → Prop) (K : Int32 → mS → Prop) (R : Int32 → mS → Prop) (s : mS) (h : w_testOf_28 N rc x1 x2 y1 Kr K R s) (hK : ∀ (z2 : Int32) (s : mS), K z2 s → xF G l kX6_testOf (d + 1) 0 0 (mQi G a g Kr) 49 [some (.ref (a 51)), none, some (.int z2), none] [] (mH G a s g)) (hR : ∀ (z2 : Int32) (s : mS), R z2 s → xF G l kX6_testOf (d + 1) 0 0 (mQi G a g Kr) 6 [some (.ref (a 51)), some (.int x1), some (.int z2), none] [] (mH G a s g)) : xF G l kX6_testOf (d + 1) 0 0 (mQi G a g Kr) 28 [some (.ref (a 51)), some (.int x1), some (.int x2), none] [.int y1, .ref (a 51)] (mH G a s g) := by
  unfold w_testOf_28 at h
  refine m_cVi1 ha rfl cv_X6_309 (Nat.le_of_ble_eq_true rfl) dX6_testOf_28 (ih1 _ _ _ h) (fun x101 s102 h => ?_)
  refine x_istore_3 dX6_testOf_31 (by decide) xN2_i ?_
  refine x_iload_2 dX6_testOf_32 ?_
  refine x_if_ne 40 dX6_testOf_33 (by decide) (fun c103 => ?_) (fun c103 => ?_)
  · have h := h.1 c103
    refine x_iconst (v := 1) dX6_testOf_40 (by decide) ?_
    refine x_goto 45 dX6_testOf_41 (by decide) ?_
    refine x_istore_2 dX6_testOf_45 (by decide) xN2_i ?_
    refine x_goto 6 dX6_testOf_46 (by decide) ?_
    exact x_le (xLe_cons (xLe_cons (xLe_cons (xLe_none (xLe_nil))))) (hR _ _ h)
  · have h := h.2 c103
    refine x_iload_3 dX6_testOf_36 ?_
    refine x_if_eq 44 dX6_testOf_37 (by decide) (fun c104 => ?_) (fun c104 => ?_)
    · have h := h.1 c104
      refine x_iconst (v := 0) dX6_testOf_44 (by decide) ?_
      refine x_istore_2 dX6_testOf_45 (by decide) xN2_i ?_
      refine x_goto 6 dX6_testOf_46 (by decide) ?_
      exact x_le (xLe_cons (xLe_cons (xLe_cons (xLe_none (xLe_nil))))) (hR _ _ h)
    · have h := h.2 c104
      refine x_iconst (v := 1) dX6_testOf_40 (by decide) ?_
      refine x_goto 45 dX6_testOf_41 (by decide) ?_
      refine x_istore_2 dX6_testOf_45 (by decide) xN2_i ?_
      refine x_goto 6 dX6_testOf_46 (by decide) ?_
      exact x_le (xLe_cons (xLe_cons (xLe_cons (xLe_none (xLe_nil))))) (hR _ _ h)
def w_testOf_27 (N : Nat × Nat) (rc : Nat → Int32 → mS → (Int32 → mS → Prop) → Prop) (x1 : Int32) (x2 : Int32) (Kr : Int32 → mS → Prop) (K : Int32 → mS → Prop) (R : Int32 → mS → Prop) (s : mS) : Prop :=
  (w_testOf_28 N rc x1 x2 0 Kr K R s)
theorem c_testOf_27 {G : xG} {l : Launch} {a : Nat → Nat} {g : xH} (ha : mInj a) {d : Nat} {N : Nat × Nat} (hd : 1 * N.2 + 4 ≤ d) {rc : Nat → Int32 → mS → (Int32 → mS → Prop) → Prop} (ih0 : ∀ (x : Int32) (s : mS) (K : Int32 → mS → Prop), rc 0 x s K → xC G l kX6_testOf d 0 0 [.ref (a 51), .int x] (mH G a s g) (mQi G a g K)) (ih1 : ∀ (x : Int32) (s : mS) (K : Int32 → mS → Prop), rc 1 x s K → xC G l kX6_bothOf d 0 0 [.ref (a 51), .int x] (mH G a s g) (mQi G a g K)) (ih2 : ∀ (x : Int32) (s : mS) (K : Int32 → mS → Prop), rc 2 x s K → xC G l kX6_plainOf d 0 0 [.ref (a 51), .int x] (mH G a s g) (mQi G a g K)) (ih3 : ∀ (x : Int32) (s : mS) (K : Int32 → mS → Prop), rc 3 x s K → xC G l kX6_positiveOf d 0 0 [.ref (a 51), .int x] (mH G a s g) (mQi G a g K)) (x1 : Int32) (x2 : Int32) (Kr : Int32 → mS → Prop) (K : Int32 → mS → Prop) (R : Int32 → mS → Prop) (s : mS) (h : w_testOf_27 N rc x1 x2 Kr K R s) (hK : ∀ (z2 : Int32) (s : mS), K z2 s → xF G l kX6_testOf (d + 1) 0 0 (mQi G a g Kr) 49 [some (.ref (a 51)), none, some (.int z2), none] [] (mH G a s g)) (hR : ∀ (z2 : Int32) (s : mS), R z2 s → xF G l kX6_testOf (d + 1) 0 0 (mQi G a g Kr) 6 [some (.ref (a 51)), some (.int x1), some (.int z2), none] [] (mH G a s g)) : xF G l kX6_testOf (d + 1) 0 0 (mQi G a g Kr) 27 [some (.ref (a 51)), some (.int x1), some (.int x2), none] [.ref (a 51)] (mH G a s g) := by
  unfold w_testOf_27 at h
  refine x_iconst (v := 0) dX6_testOf_27 (by decide) ?_
  exact x_le (xLe_cons (xLe_cons (xLe_cons (xLe_cons (xLe_nil))))) (c_testOf_28 ha (by omega) ih0 ih1 ih2 ih3 _ _ _ _ _ _ _ h hK hR)
def w_testOf_6 (N : Nat × Nat) (rc : Nat → Int32 → mS → (Int32 → mS → Prop) → Prop) (x1 : Int32) (Kr : Int32 → mS → Prop) (K : Int32 → mS → Prop) : Nat → Int32 → mS → Prop
  | 0, _, _ => False
  | t + 1, x2, s => (w_passes0 5 s (fun x101 s102 => ((x101 = 0 → (K x2 s102)) ∧ (¬ x101 = 0 → ((x1 = 0 → (w_testOf_27 N rc x1 x2 Kr K (fun x2 s => w_testOf_6 N rc x1 Kr K t x2 s) s102)) ∧ (¬ x1 = 0 → ((¬ x2 = 0 → (w_testOf_27 N rc x1 x2 Kr K (fun x2 s => w_testOf_6 N rc x1 Kr K t x2 s) s102)) ∧ (x2 = 0 → (w_testOf_28 N rc x1 x2 1 Kr K (fun x2 s => w_testOf_6 N rc x1 Kr K t x2 s) s102)))))))))
theorem c_testOf_6 {G : xG} {l : Launch} {a : Nat → Nat} {g : xH} (ha : mInj a) {d : Nat} {N : Nat × Nat} (hd : 1 * N.2 + 4 ≤ d) {rc : Nat → Int32 → mS → (Int32 → mS → Prop) → Prop} (ih0 : ∀ (x : Int32) (s : mS) (K : Int32 → mS → Prop), rc 0 x s K → xC G l kX6_testOf d 0 0 [.ref (a 51), .int x] (mH G a s g) (mQi G a g K)) (ih1 : ∀ (x : Int32) (s : mS) (K : Int32 → mS → Prop), rc 1 x s K → xC G l kX6_bothOf d 0 0 [.ref (a 51), .int x] (mH G a s g) (mQi G a g K)) (ih2 : ∀ (x : Int32) (s : mS) (K : Int32 → mS → Prop), rc 2 x s K → xC G l kX6_plainOf d 0 0 [.ref (a 51), .int x] (mH G a s g) (mQi G a g K)) (ih3 : ∀ (x : Int32) (s : mS) (K : Int32 → mS → Prop), rc 3 x s K → xC G l kX6_positiveOf d 0 0 [.ref (a 51), .int x] (mH G a s g) (mQi G a g K)) (Kr : Int32 → mS → Prop) (K : Int32 → mS → Prop) (x1 : Int32) : ∀ (t : Nat) (x2 : Int32) (s : mS) , w_testOf_6 N rc x1 Kr K t x2 s → (∀ (z2 : Int32) (s : mS), K z2 s → xF G l kX6_testOf (d + 1) 0 0 (mQi G a g Kr) 49 [some (.ref (a 51)), none, some (.int z2), none] [] (mH G a s g)) → xF G l kX6_testOf (d + 1) 0 0 (mQi G a g Kr) 6 [some (.ref (a 51)), some (.int x1), some (.int x2), none] [] (mH G a s g) := by
  intro t
  induction t with
  | zero =>
    intro _ _ h _
    exact absurd h (by simp [w_testOf_6])
  | succ t ih =>
    intro x2 s h hK
    have hR := fun x2 s h => ih x2 s h hK
    unfold w_testOf_6 at h
    refine x_aload_0 dX6_testOf_6 ?_
    refine x_iconst (v := 5) dX6_testOf_7 (by decide) ?_
    refine m_cVi1 ha rfl cv_X6_285 (Nat.le_of_ble_eq_true rfl) dX6_testOf_8 (c_passes0 ha (by omega) h) (fun x101 s102 h => ?_)
    refine x_if_eq 49 dX6_testOf_11 (by decide) (fun c103 => ?_) (fun c103 => ?_)
    · have h := h.1 c103
      exact x_le (xLe_cons (xLe_none (xLe_cons (xLe_cons (xLe_nil))))) (hK _ _ h)
    · have h := h.2 c103
      refine x_aload_0 dX6_testOf_14 ?_
      refine x_iload_1 dX6_testOf_15 ?_
      refine x_if_eq 27 dX6_testOf_16 (by decide) (fun c104 => ?_) (fun c104 => ?_)
      · have h := h.1 c104
        exact x_le (xLe_cons (xLe_cons (xLe_cons (xLe_cons (xLe_nil))))) (c_testOf_27 ha (by omega) ih0 ih1 ih2 ih3 _ _ _ _ _ _ h hK hR)
      · have h := h.2 c104
        refine x_iload_2 dX6_testOf_19 ?_
        refine x_if_ne 27 dX6_testOf_20 (by decide) (fun c105 => ?_) (fun c105 => ?_)
        · have h := h.1 c105
          exact x_le (xLe_cons (xLe_cons (xLe_cons (xLe_cons (xLe_nil))))) (c_testOf_27 ha (by omega) ih0 ih1 ih2 ih3 _ _ _ _ _ _ h hK hR)
        · have h := h.2 c105
          refine x_iconst (v := 1) dX6_testOf_23 (by decide) ?_
          refine x_goto 28 dX6_testOf_24 (by decide) ?_
          exact x_le (xLe_cons (xLe_cons (xLe_cons (xLe_cons (xLe_nil))))) (c_testOf_28 ha (by omega) ih0 ih1 ih2 ih3 _ _ _ _ _ _ _ h hK hR)
def w_testOf (N : Nat × Nat) (rc : Nat → Int32 → mS → (Int32 → mS → Prop) → Prop) (x1 : Int32) (s : mS) (Kr : Int32 → mS → Prop) : Prop :=
  (rc 1 x1 s (fun x101 s102 => (w_testOf_6 N rc x1 Kr (fun x103 s104 => (xB x103 ∧ (Kr x103 s104))) N.1 x101 s102)))
theorem cb_testOf {G : xG} {l : Launch} {a : Nat → Nat} {g : xH} (ha : mInj a) {d : Nat} {N : Nat × Nat} (hd : 1 * N.2 + 4 ≤ d) {rc : Nat → Int32 → mS → (Int32 → mS → Prop) → Prop} (ih0 : ∀ (x : Int32) (s : mS) (K : Int32 → mS → Prop), rc 0 x s K → xC G l kX6_testOf d 0 0 [.ref (a 51), .int x] (mH G a s g) (mQi G a g K)) (ih1 : ∀ (x : Int32) (s : mS) (K : Int32 → mS → Prop), rc 1 x s K → xC G l kX6_bothOf d 0 0 [.ref (a 51), .int x] (mH G a s g) (mQi G a g K)) (ih2 : ∀ (x : Int32) (s : mS) (K : Int32 → mS → Prop), rc 2 x s K → xC G l kX6_plainOf d 0 0 [.ref (a 51), .int x] (mH G a s g) (mQi G a g K)) (ih3 : ∀ (x : Int32) (s : mS) (K : Int32 → mS → Prop), rc 3 x s K → xC G l kX6_positiveOf d 0 0 [.ref (a 51), .int x] (mH G a s g) (mQi G a g K)) {x1 : Int32} {s : mS} {Kr : Int32 → mS → Prop} (h : w_testOf N rc x1 s Kr) : xC G l kX6_testOf (d + 1) 0 0 [.ref (a 51), .int x1] (mH G a s g) (mQi G a g Kr) := by
  refine xC.start rfl (by decide +kernel) (Nat.le_of_ble_eq_true rfl) (lv := [some (.ref (a 51)), some (.int x1), none, none]) rfl ?_
  unfold w_testOf at h
  refine x_aload_0 dX6_testOf_0 ?_
  refine x_iload_1 dX6_testOf_1 ?_
  refine m_cVi1 ha rfl cv_X6_309 (Nat.le_of_ble_eq_true rfl) dX6_testOf_2 (ih1 _ _ _ h) (fun x101 s102 h => ?_)
  refine x_istore_2 dX6_testOf_5 (by decide) xN2_i ?_
  refine x_le (xLe_cons (xLe_cons (xLe_cons (xLe_cons (xLe_nil))))) (c_testOf_6 ha (by omega) ih0 ih1 ih2 ih3 _ _ _ _ _ _ h (fun x103 s104 h => ?_))
  refine x_iload_2 dX6_testOf_49 ?_
  obtain ⟨e105, h⟩ := h
  exact x_zret dX6_testOf_50 rfl (xB_n e105) ⟨_, _, h, rfl, rfl⟩
def w_bothOf_29 (N : Nat × Nat) (rc : Nat → Int32 → mS → (Int32 → mS → Prop) → Prop) (x1 : Int32) (x2 : Int32) (y1 : Int32) (Kr : Int32 → mS → Prop) (K : Int32 → mS → Prop) (R : Int32 → mS → Prop) (s : mS) : Prop :=
  (rc 2 y1 s (fun x101 s102 => ((x2 = 0 → (R 0 s102)) ∧ (¬ x2 = 0 → ((x101 = 0 → (R 0 s102)) ∧ (¬ x101 = 0 → (R 1 s102)))))))
theorem c_bothOf_29 {G : xG} {l : Launch} {a : Nat → Nat} {g : xH} (ha : mInj a) {d : Nat} {N : Nat × Nat} (hd : 1 * N.2 + 4 ≤ d) {rc : Nat → Int32 → mS → (Int32 → mS → Prop) → Prop} (ih0 : ∀ (x : Int32) (s : mS) (K : Int32 → mS → Prop), rc 0 x s K → xC G l kX6_testOf d 0 0 [.ref (a 51), .int x] (mH G a s g) (mQi G a g K)) (ih1 : ∀ (x : Int32) (s : mS) (K : Int32 → mS → Prop), rc 1 x s K → xC G l kX6_bothOf d 0 0 [.ref (a 51), .int x] (mH G a s g) (mQi G a g K)) (ih2 : ∀ (x : Int32) (s : mS) (K : Int32 → mS → Prop), rc 2 x s K → xC G l kX6_plainOf d 0 0 [.ref (a 51), .int x] (mH G a s g) (mQi G a g K)) (ih3 : ∀ (x : Int32) (s : mS) (K : Int32 → mS → Prop), rc 3 x s K → xC G l kX6_positiveOf d 0 0 [.ref (a 51), .int x] (mH G a s g) (mQi G a g K)) (x1 : Int32) (x2 : Int32) (y1 : Int32) (Kr : Int32 → mS → Prop) (K : Int32 → mS → Prop) (R : Int32 → mS → Prop) (s : mS) (h : w_bothOf_29 N rc x1 x2 y1 Kr K R s) (hK : ∀ (z2 : Int32) (s : mS), K z2 s → xF G l kX6_bothOf (d + 1) 0 0 (mQi G a g Kr) 50 [some (.ref (a 51)), none, some (.int z2), none] [] (mH G a s g)) (hR : ∀ (z2 : Int32) (s : mS), R z2 s → xF G l kX6_bothOf (d + 1) 0 0 (mQi G a g Kr) 6 [some (.ref (a 51)), some (.int x1), some (.int z2), none] [] (mH G a s g)) : xF G l kX6_bothOf (d + 1) 0 0 (mQi G a g Kr) 29 [some (.ref (a 51)), some (.int x1), some (.int x2), none] [.int y1, .ref (a 51)] (mH G a s g) := by
  unfold w_bothOf_29 at h
  refine m_cVi1 ha rfl cv_X6_312 (Nat.le_of_ble_eq_true rfl) dX6_bothOf_29 (ih2 _ _ _ h) (fun x101 s102 h => ?_)
  refine x_istore_3 dX6_bothOf_32 (by decide) xN2_i ?_
  refine x_iload_2 dX6_bothOf_33 ?_
  refine x_if_eq 45 dX6_bothOf_34 (by decide) (fun c103 => ?_) (fun c103 => ?_)
  · have h := h.1 c103
    refine x_iconst (v := 0) dX6_bothOf_45 (by decide) ?_
    refine x_istore_2 dX6_bothOf_46 (by decide) xN2_i ?_
    refine x_goto 6 dX6_bothOf_47 (by decide) ?_
    exact x_le (xLe_cons (xLe_cons (xLe_cons (xLe_none (xLe_nil))))) (hR _ _ h)
  · have h := h.2 c103
    refine x_iload_3 dX6_bothOf_37 ?_
    refine x_if_eq 45 dX6_bothOf_38 (by decide) (fun c104 => ?_) (fun c104 => ?_)
    · have h := h.1 c104
      refine x_iconst (v := 0) dX6_bothOf_45 (by decide) ?_
      refine x_istore_2 dX6_bothOf_46 (by decide) xN2_i ?_
      refine x_goto 6 dX6_bothOf_47 (by decide) ?_
      exact x_le (xLe_cons (xLe_cons (xLe_cons (xLe_none (xLe_nil))))) (hR _ _ h)
    · have h := h.2 c104
      refine x_iconst (v := 1) dX6_bothOf_41 (by decide) ?_
      refine x_goto 46 dX6_bothOf_42 (by decide) ?_
      refine x_istore_2 dX6_bothOf_46 (by decide) xN2_i ?_
      refine x_goto 6 dX6_bothOf_47 (by decide) ?_
      exact x_le (xLe_cons (xLe_cons (xLe_cons (xLe_none (xLe_nil))))) (hR _ _ h)
def w_bothOf_28 (N : Nat × Nat) (rc : Nat → Int32 → mS → (Int32 → mS → Prop) → Prop) (x1 : Int32) (x2 : Int32) (Kr : Int32 → mS → Prop) (K : Int32 → mS → Prop) (R : Int32 → mS → Prop) (s : mS) : Prop :=
  (w_bothOf_29 N rc x1 x2 0 Kr K R s)
theorem c_bothOf_28 {G : xG} {l : Launch} {a : Nat → Nat} {g : xH} (ha : mInj a) {d : Nat} {N : Nat × Nat} (hd : 1 * N.2 + 4 ≤ d) {rc : Nat → Int32 → mS → (Int32 → mS → Prop) → Prop} (ih0 : ∀ (x : Int32) (s : mS) (K : Int32 → mS → Prop), rc 0 x s K → xC G l kX6_testOf d 0 0 [.ref (a 51), .int x] (mH G a s g) (mQi G a g K)) (ih1 : ∀ (x : Int32) (s : mS) (K : Int32 → mS → Prop), rc 1 x s K → xC G l kX6_bothOf d 0 0 [.ref (a 51), .int x] (mH G a s g) (mQi G a g K)) (ih2 : ∀ (x : Int32) (s : mS) (K : Int32 → mS → Prop), rc 2 x s K → xC G l kX6_plainOf d 0 0 [.ref (a 51), .int x] (mH G a s g) (mQi G a g K)) (ih3 : ∀ (x : Int32) (s : mS) (K : Int32 → mS → Prop), rc 3 x s K → xC G l kX6_positiveOf d 0 0 [.ref (a 51), .int x] (mH G a s g) (mQi G a g K)) (x1 : Int32) (x2 : Int32) (Kr : Int32 → mS → Prop) (K : Int32 → mS → Prop) (R : Int32 → mS → Prop) (s : mS) (h : w_bothOf_28 N rc x1 x2 Kr K R s) (hK : ∀ (z2 : Int32) (s : mS), K z2 s → xF G l kX6_bothOf (d + 1) 0 0 (mQi G a g Kr) 50 [some (.ref (a 51)), none, some (.int z2), none] [] (mH G a s g)) (hR : ∀ (z2 : Int32) (s : mS), R z2 s → xF G l kX6_bothOf (d + 1) 0 0 (mQi G a g Kr) 6 [some (.ref (a 51)), some (.int x1), some (.int z2), none] [] (mH G a s g)) : xF G l kX6_bothOf (d + 1) 0 0 (mQi G a g Kr) 28 [some (.ref (a 51)), some (.int x1), some (.int x2), none] [.ref (a 51)] (mH G a s g) := by
  unfold w_bothOf_28 at h
  refine x_iconst (v := 0) dX6_bothOf_28 (by decide) ?_
  exact x_le (xLe_cons (xLe_cons (xLe_cons (xLe_cons (xLe_nil))))) (c_bothOf_29 ha (by omega) ih0 ih1 ih2 ih3 _ _ _ _ _ _ _ h hK hR)
def w_bothOf_6 (N : Nat × Nat) (rc : Nat → Int32 → mS → (Int32 → mS → Prop) → Prop) (x1 : Int32) (Kr : Int32 → mS → Prop) (K : Int32 → mS → Prop) : Nat → Int32 → mS → Prop
  | 0, _, _ => False
  | t + 1, x2, s => (w_passes0 6 s (fun x101 s102 => ((x101 = 0 → (K x2 s102)) ∧ (¬ x101 = 0 → ((x1 = 0 → (w_bothOf_28 N rc x1 x2 Kr K (fun x2 s => w_bothOf_6 N rc x1 Kr K t x2 s) s102)) ∧ (¬ x1 = 0 → ((x2 = 0 → (w_bothOf_28 N rc x1 x2 Kr K (fun x2 s => w_bothOf_6 N rc x1 Kr K t x2 s) s102)) ∧ (¬ x2 = 0 → (w_bothOf_29 N rc x1 x2 1 Kr K (fun x2 s => w_bothOf_6 N rc x1 Kr K t x2 s) s102)))))))))
theorem c_bothOf_6 {G : xG} {l : Launch} {a : Nat → Nat} {g : xH} (ha : mInj a) {d : Nat} {N : Nat × Nat} (hd : 1 * N.2 + 4 ≤ d) {rc : Nat → Int32 → mS → (Int32 → mS → Prop) → Prop} (ih0 : ∀ (x : Int32) (s : mS) (K : Int32 → mS → Prop), rc 0 x s K → xC G l kX6_testOf d 0 0 [.ref (a 51), .int x] (mH G a s g) (mQi G a g K)) (ih1 : ∀ (x : Int32) (s : mS) (K : Int32 → mS → Prop), rc 1 x s K → xC G l kX6_bothOf d 0 0 [.ref (a 51), .int x] (mH G a s g) (mQi G a g K)) (ih2 : ∀ (x : Int32) (s : mS) (K : Int32 → mS → Prop), rc 2 x s K → xC G l kX6_plainOf d 0 0 [.ref (a 51), .int x] (mH G a s g) (mQi G a g K)) (ih3 : ∀ (x : Int32) (s : mS) (K : Int32 → mS → Prop), rc 3 x s K → xC G l kX6_positiveOf d 0 0 [.ref (a 51), .int x] (mH G a s g) (mQi G a g K)) (Kr : Int32 → mS → Prop) (K : Int32 → mS → Prop) (x1 : Int32) : ∀ (t : Nat) (x2 : Int32) (s : mS) , w_bothOf_6 N rc x1 Kr K t x2 s → (∀ (z2 : Int32) (s : mS), K z2 s → xF G l kX6_bothOf (d + 1) 0 0 (mQi G a g Kr) 50 [some (.ref (a 51)), none, some (.int z2), none] [] (mH G a s g)) → xF G l kX6_bothOf (d + 1) 0 0 (mQi G a g Kr) 6 [some (.ref (a 51)), some (.int x1), some (.int x2), none] [] (mH G a s g) := by
  intro t
  induction t with
  | zero =>
    intro _ _ h _
    exact absurd h (by simp [w_bothOf_6])
  | succ t ih =>
    intro x2 s h hK
    have hR := fun x2 s h => ih x2 s h hK
    unfold w_bothOf_6 at h
    refine x_aload_0 dX6_bothOf_6 ?_
    refine x_bipush (v := 6) dX6_bothOf_7 (by decide) ?_
    refine m_cVi1 ha rfl cv_X6_285 (Nat.le_of_ble_eq_true rfl) dX6_bothOf_9 (c_passes0 ha (by omega) h) (fun x101 s102 h => ?_)
    refine x_if_eq 50 dX6_bothOf_12 (by decide) (fun c103 => ?_) (fun c103 => ?_)
    · have h := h.1 c103
      exact x_le (xLe_cons (xLe_none (xLe_cons (xLe_cons (xLe_nil))))) (hK _ _ h)
    · have h := h.2 c103
      refine x_aload_0 dX6_bothOf_15 ?_
      refine x_iload_1 dX6_bothOf_16 ?_
      refine x_if_eq 28 dX6_bothOf_17 (by decide) (fun c104 => ?_) (fun c104 => ?_)
      · have h := h.1 c104
        exact x_le (xLe_cons (xLe_cons (xLe_cons (xLe_cons (xLe_nil))))) (c_bothOf_28 ha (by omega) ih0 ih1 ih2 ih3 _ _ _ _ _ _ h hK hR)
      · have h := h.2 c104
        refine x_iload_2 dX6_bothOf_20 ?_
        refine x_if_eq 28 dX6_bothOf_21 (by decide) (fun c105 => ?_) (fun c105 => ?_)
        · have h := h.1 c105
          exact x_le (xLe_cons (xLe_cons (xLe_cons (xLe_cons (xLe_nil))))) (c_bothOf_28 ha (by omega) ih0 ih1 ih2 ih3 _ _ _ _ _ _ h hK hR)
        · have h := h.2 c105
          refine x_iconst (v := 1) dX6_bothOf_24 (by decide) ?_
          refine x_goto 29 dX6_bothOf_25 (by decide) ?_
          exact x_le (xLe_cons (xLe_cons (xLe_cons (xLe_cons (xLe_nil))))) (c_bothOf_29 ha (by omega) ih0 ih1 ih2 ih3 _ _ _ _ _ _ _ h hK hR)
def w_bothOf (N : Nat × Nat) (rc : Nat → Int32 → mS → (Int32 → mS → Prop) → Prop) (x1 : Int32) (s : mS) (Kr : Int32 → mS → Prop) : Prop :=
  (rc 2 x1 s (fun x101 s102 => (w_bothOf_6 N rc x1 Kr (fun x103 s104 => (xB x103 ∧ (Kr x103 s104))) N.1 x101 s102)))
theorem cb_bothOf {G : xG} {l : Launch} {a : Nat → Nat} {g : xH} (ha : mInj a) {d : Nat} {N : Nat × Nat} (hd : 1 * N.2 + 4 ≤ d) {rc : Nat → Int32 → mS → (Int32 → mS → Prop) → Prop} (ih0 : ∀ (x : Int32) (s : mS) (K : Int32 → mS → Prop), rc 0 x s K → xC G l kX6_testOf d 0 0 [.ref (a 51), .int x] (mH G a s g) (mQi G a g K)) (ih1 : ∀ (x : Int32) (s : mS) (K : Int32 → mS → Prop), rc 1 x s K → xC G l kX6_bothOf d 0 0 [.ref (a 51), .int x] (mH G a s g) (mQi G a g K)) (ih2 : ∀ (x : Int32) (s : mS) (K : Int32 → mS → Prop), rc 2 x s K → xC G l kX6_plainOf d 0 0 [.ref (a 51), .int x] (mH G a s g) (mQi G a g K)) (ih3 : ∀ (x : Int32) (s : mS) (K : Int32 → mS → Prop), rc 3 x s K → xC G l kX6_positiveOf d 0 0 [.ref (a 51), .int x] (mH G a s g) (mQi G a g K)) {x1 : Int32} {s : mS} {Kr : Int32 → mS → Prop} (h : w_bothOf N rc x1 s Kr) : xC G l kX6_bothOf (d + 1) 0 0 [.ref (a 51), .int x1] (mH G a s g) (mQi G a g Kr) := by
  refine xC.start rfl (by decide +kernel) (Nat.le_of_ble_eq_true rfl) (lv := [some (.ref (a 51)), some (.int x1), none, none]) rfl ?_
  unfold w_bothOf at h
  refine x_aload_0 dX6_bothOf_0 ?_
  refine x_iload_1 dX6_bothOf_1 ?_
  refine m_cVi1 ha rfl cv_X6_312 (Nat.le_of_ble_eq_true rfl) dX6_bothOf_2 (ih2 _ _ _ h) (fun x101 s102 h => ?_)
  refine x_istore_2 dX6_bothOf_5 (by decide) xN2_i ?_
  refine x_le (xLe_cons (xLe_cons (xLe_cons (xLe_cons (xLe_nil))))) (c_bothOf_6 ha (by omega) ih0 ih1 ih2 ih3 _ _ _ _ _ _ h (fun x103 s104 h => ?_))
  refine x_iload_2 dX6_bothOf_50 ?_
  obtain ⟨e105, h⟩ := h
  exact x_zret dX6_bothOf_51 rfl (xB_n e105) ⟨_, _, h, rfl, rfl⟩
def w_plainOf_2 (N : Nat × Nat) (rc : Nat → Int32 → mS → (Int32 → mS → Prop) → Prop) (x1 : Int32) (Kr : Int32 → mS → Prop) (K : Int32 → mS → Prop) : Nat → Int32 → mS → Prop
  | 0, _, _ => False
  | t + 1, x2, s => (w_passes0 7 s (fun x101 s102 => ((x101 = 0 → (K x2 s102)) ∧ (¬ x101 = 0 → ((¬ x2 = 0 → ((fun x2 s => w_plainOf_2 N rc x1 Kr K t x2 s) 0 s102)) ∧ (x2 = 0 → ((fun x2 s => w_plainOf_2 N rc x1 Kr K t x2 s) 1 s102)))))))
theorem c_plainOf_2 {G : xG} {l : Launch} {a : Nat → Nat} {g : xH} (ha : mInj a) {d : Nat} {N : Nat × Nat} (hd : 1 * N.2 + 4 ≤ d) {rc : Nat → Int32 → mS → (Int32 → mS → Prop) → Prop} (ih0 : ∀ (x : Int32) (s : mS) (K : Int32 → mS → Prop), rc 0 x s K → xC G l kX6_testOf d 0 0 [.ref (a 51), .int x] (mH G a s g) (mQi G a g K)) (ih1 : ∀ (x : Int32) (s : mS) (K : Int32 → mS → Prop), rc 1 x s K → xC G l kX6_bothOf d 0 0 [.ref (a 51), .int x] (mH G a s g) (mQi G a g K)) (ih2 : ∀ (x : Int32) (s : mS) (K : Int32 → mS → Prop), rc 2 x s K → xC G l kX6_plainOf d 0 0 [.ref (a 51), .int x] (mH G a s g) (mQi G a g K)) (ih3 : ∀ (x : Int32) (s : mS) (K : Int32 → mS → Prop), rc 3 x s K → xC G l kX6_positiveOf d 0 0 [.ref (a 51), .int x] (mH G a s g) (mQi G a g K)) (Kr : Int32 → mS → Prop) (K : Int32 → mS → Prop) (x1 : Int32) : ∀ (t : Nat) (x2 : Int32) (s : mS) , w_plainOf_2 N rc x1 Kr K t x2 s → (∀ (z2 : Int32) (s : mS), K z2 s → xF G l kX6_plainOf (d + 1) 0 0 (mQi G a g Kr) 24 [some (.ref (a 51)), some (.int x1), some (.int z2)] [] (mH G a s g)) → xF G l kX6_plainOf (d + 1) 0 0 (mQi G a g Kr) 2 [some (.ref (a 51)), some (.int x1), some (.int x2)] [] (mH G a s g) := by
  intro t
  induction t with
  | zero =>
    intro _ _ h _
    exact absurd h (by simp [w_plainOf_2])
  | succ t ih =>
    intro x2 s h hK
    have hR := fun x2 s h => ih x2 s h hK
    unfold w_plainOf_2 at h
    refine x_aload_0 dX6_plainOf_2 ?_
    refine x_bipush (v := 7) dX6_plainOf_3 (by decide) ?_
    refine m_cVi1 ha rfl cv_X6_285 (Nat.le_of_ble_eq_true rfl) dX6_plainOf_5 (c_passes0 ha (by omega) h) (fun x101 s102 h => ?_)
    refine x_if_eq 24 dX6_plainOf_8 (by decide) (fun c103 => ?_) (fun c103 => ?_)
    · have h := h.1 c103
      exact x_le (xLe_cons (xLe_cons (xLe_cons (xLe_nil)))) (hK _ _ h)
    · have h := h.2 c103
      refine x_iload_2 dX6_plainOf_11 ?_
      refine x_if_ne 19 dX6_plainOf_12 (by decide) (fun c104 => ?_) (fun c104 => ?_)
      · have h := h.1 c104
        refine x_iconst (v := 0) dX6_plainOf_19 (by decide) ?_
        refine x_istore_2 dX6_plainOf_20 (by decide) xN2_i ?_
        refine x_goto 2 dX6_plainOf_21 (by decide) ?_
        exact x_le (xLe_cons (xLe_cons (xLe_cons (xLe_nil)))) (hR _ _ h)
      · have h := h.2 c104
        refine x_iconst (v := 1) dX6_plainOf_15 (by decide) ?_
        refine x_goto 20 dX6_plainOf_16 (by decide) ?_
        refine x_istore_2 dX6_plainOf_20 (by decide) xN2_i ?_
        refine x_goto 2 dX6_plainOf_21 (by decide) ?_
        exact x_le (xLe_cons (xLe_cons (xLe_cons (xLe_nil)))) (hR _ _ h)
def w_plainOf (N : Nat × Nat) (rc : Nat → Int32 → mS → (Int32 → mS → Prop) → Prop) (x1 : Int32) (s : mS) (Kr : Int32 → mS → Prop) : Prop :=
  (w_plainOf_2 N rc x1 Kr (fun x101 s102 => (rc 3 x1 s102 (fun x103 s104 => ((x103 = x101 → (Kr 0 s104)) ∧ (¬ x103 = x101 → (Kr 1 s104)))))) N.1 0 s)
theorem cb_plainOf {G : xG} {l : Launch} {a : Nat → Nat} {g : xH} (ha : mInj a) {d : Nat} {N : Nat × Nat} (hd : 1 * N.2 + 4 ≤ d) {rc : Nat → Int32 → mS → (Int32 → mS → Prop) → Prop} (ih0 : ∀ (x : Int32) (s : mS) (K : Int32 → mS → Prop), rc 0 x s K → xC G l kX6_testOf d 0 0 [.ref (a 51), .int x] (mH G a s g) (mQi G a g K)) (ih1 : ∀ (x : Int32) (s : mS) (K : Int32 → mS → Prop), rc 1 x s K → xC G l kX6_bothOf d 0 0 [.ref (a 51), .int x] (mH G a s g) (mQi G a g K)) (ih2 : ∀ (x : Int32) (s : mS) (K : Int32 → mS → Prop), rc 2 x s K → xC G l kX6_plainOf d 0 0 [.ref (a 51), .int x] (mH G a s g) (mQi G a g K)) (ih3 : ∀ (x : Int32) (s : mS) (K : Int32 → mS → Prop), rc 3 x s K → xC G l kX6_positiveOf d 0 0 [.ref (a 51), .int x] (mH G a s g) (mQi G a g K)) {x1 : Int32} {s : mS} {Kr : Int32 → mS → Prop} (h : w_plainOf N rc x1 s Kr) : xC G l kX6_plainOf (d + 1) 0 0 [.ref (a 51), .int x1] (mH G a s g) (mQi G a g Kr) := by
  refine xC.start rfl (by decide +kernel) (Nat.le_of_ble_eq_true rfl) (lv := [some (.ref (a 51)), some (.int x1), none]) rfl ?_
  unfold w_plainOf at h
  refine x_iconst (v := 0) dX6_plainOf_0 (by decide) ?_
  refine x_istore_2 dX6_plainOf_1 (by decide) xN2_i ?_
  refine x_le (xLe_cons (xLe_cons (xLe_cons (xLe_nil)))) (c_plainOf_2 ha (by omega) ih0 ih1 ih2 ih3 _ _ _ _ _ _ h (fun x101 s102 h => ?_))
  refine x_aload_0 dX6_plainOf_24 ?_
  refine x_iload_1 dX6_plainOf_25 ?_
  refine m_cVi1 ha rfl cv_X6_315 (Nat.le_of_ble_eq_true rfl) dX6_plainOf_26 (ih3 _ _ _ h) (fun x103 s104 h => ?_)
  refine x_iload_2 dX6_plainOf_29 ?_
  refine x_icmp_eq 37 dX6_plainOf_30 (by decide) (fun c105 => ?_) (fun c105 => ?_)
  · have h := h.1 c105
    refine x_iconst (v := 0) dX6_plainOf_37 (by decide) ?_
    exact x_zret0 dX6_plainOf_38 rfl ⟨_, _, h, rfl, rfl⟩
  · have h := h.2 c105
    refine x_iconst (v := 1) dX6_plainOf_33 (by decide) ?_
    refine x_goto 38 dX6_plainOf_34 (by decide) ?_
    exact x_zret1 dX6_plainOf_38 rfl ⟨_, _, h, rfl, rfl⟩
def w_positiveOf (N : Nat × Nat) (rc : Nat → Int32 → mS → (Int32 → mS → Prop) → Prop) (x1 : Int32) (s : mS) (Kr : Int32 → mS → Prop) : Prop :=
  (w_sign 40 (fun x101 => (w_passes0 x101 s (fun x103 s104 => ((x103 = 0 → (g_sumOf N N.2 0 x1 s104 (fun x106 s107 => (w_codeAt (mFd s107 22) s107 (fun x108 s109 => (∀ s110 : mS, s110 = mF s109 22 ((mFd s109 22) + 1) → (g_sumOf N N.2 0 x1 s110 (fun x111 s112 => ((x1 = 0 → (Kr 0 s112)) ∧ (¬ x1 = 0 → ((¬ (mFd s112 24) = 0 → (Kr 0 s112)) ∧ ((mFd s112 24) = 0 → (w_sign 60 (fun x115 => ((¬ x108 = x115 → (w_sign 62 (fun x118 => ((¬ x108 = x118 → ((¬ (lg_cmp x106 x111) = 0 → (Kr 0 s112)) ∧ ((lg_cmp x106 x111) = 0 → (Kr 1 s112)))) ∧ (x108 = x118 → (((lg_cmp x106 x111) ≤ 0 → (Kr 0 s112)) ∧ (¬ (lg_cmp x106 x111) ≤ 0 → (Kr 1 s112)))))))) ∧ (x108 = x115 → ((0 ≤ (lg_cmp x106 x111) → (Kr 0 s112)) ∧ (¬ 0 ≤ (lg_cmp x106 x111) → (Kr 1 s112))))))))))))))))))) ∧ (¬ x103 = 0 → (rc 0 x1 s104 (fun x124 s125 => (∀ s126 : mS, s126 = mF s125 22 ((mFd s125 22) + 1) → (xB x124 ∧ (Kr x124 s126)))))))))))
theorem cb_positiveOf {G : xG} {l : Launch} {a : Nat → Nat} {g : xH} (ha : mInj a) {d : Nat} {N : Nat × Nat} (hd : 1 * N.2 + 4 ≤ d) {rc : Nat → Int32 → mS → (Int32 → mS → Prop) → Prop} (ih0 : ∀ (x : Int32) (s : mS) (K : Int32 → mS → Prop), rc 0 x s K → xC G l kX6_testOf d 0 0 [.ref (a 51), .int x] (mH G a s g) (mQi G a g K)) (ih1 : ∀ (x : Int32) (s : mS) (K : Int32 → mS → Prop), rc 1 x s K → xC G l kX6_bothOf d 0 0 [.ref (a 51), .int x] (mH G a s g) (mQi G a g K)) (ih2 : ∀ (x : Int32) (s : mS) (K : Int32 → mS → Prop), rc 2 x s K → xC G l kX6_plainOf d 0 0 [.ref (a 51), .int x] (mH G a s g) (mQi G a g K)) (ih3 : ∀ (x : Int32) (s : mS) (K : Int32 → mS → Prop), rc 3 x s K → xC G l kX6_positiveOf d 0 0 [.ref (a 51), .int x] (mH G a s g) (mQi G a g K)) {x1 : Int32} {s : mS} {Kr : Int32 → mS → Prop} (h : w_positiveOf N rc x1 s Kr) : xC G l kX6_positiveOf (d + 1) 0 0 [.ref (a 51), .int x1] (mH G a s g) (mQi G a g Kr) := by
  refine xC.start rfl (by decide +kernel) (Nat.le_of_ble_eq_true rfl) (lv := [some (.ref (a 51)), some (.int x1), none, none, none, none, none]) rfl ?_
  unfold w_positiveOf at h
  refine x_aload_0 dX6_positiveOf_0 ?_
  refine x_bipush (v := 40) dX6_positiveOf_1 (by decide) ?_
  refine m_cSi1 rfl cs_X6_220 (Nat.le_of_ble_eq_true rfl) dX6_positiveOf_3 (c_sign (by omega) h) (fun x101 h => ?_)
  refine m_cVi1 ha rfl cv_X6_285 (Nat.le_of_ble_eq_true rfl) dX6_positiveOf_6 (c_passes0 ha (by omega) h) (fun x103 s104 h => ?_)
  refine x_if_eq 30 dX6_positiveOf_9 (by decide) (fun c105 => ?_) (fun c105 => ?_)
  · have h := h.1 c105
    refine x_aload_0 dX6_positiveOf_30 ?_
    refine x_iload_1 dX6_positiveOf_31 ?_
    refine m_cVl1 ha rfl cv_X6_288 (Nat.le_of_ble_eq_true rfl) dX6_positiveOf_32 (c_sumOf ha (by omega) h) (fun x106 s107 h => ?_)
    refine x_lstore_2 dX6_positiveOf_35 (by decide) xN2_i ?_
    refine x_aload_0 dX6_positiveOf_36 ?_
    refine x_aload_0 dX6_positiveOf_37 ?_
    refine m_get ha dX6_positiveOf_38 fa_X6_261 rfl ?_
    refine m_cVi1 ha rfl cv_X6_264 (Nat.le_of_ble_eq_true rfl) dX6_positiveOf_41 (c_codeAt ha (by omega) h) (fun x108 s109 h => ?_)
    refine x_istore_4 dX6_positiveOf_44 (by decide) xN2_none ?_
    refine x_aload_0 dX6_positiveOf_46 ?_
    refine x_dup dX6_positiveOf_47 rfl ?_
    refine m_get ha dX6_positiveOf_48 fa_X6_261 rfl ?_
    refine x_iconst (v := 1) dX6_positiveOf_51 (by decide) ?_
    refine x_iadd dX6_positiveOf_52 ?_
    refine m_put ha dX6_positiveOf_53 fp_X6_261 (mfs_22 _ _ _) (by decide) rfl rfl ?_
    have h := h _ rfl
    refine x_aload_0 dX6_positiveOf_56 ?_
    refine x_iload_1 dX6_positiveOf_57 ?_
    refine m_cVl1 ha rfl cv_X6_288 (Nat.le_of_ble_eq_true rfl) dX6_positiveOf_58 (c_sumOf ha (by omega) h) (fun x111 s112 h => ?_)
    refine x_lstore_5 dX6_positiveOf_61 (by decide) xN2_i ?_
    refine x_iload_1 dX6_positiveOf_63 ?_
    refine x_if_eq 125 dX6_positiveOf_64 (by decide) (fun c113 => ?_) (fun c113 => ?_)
    · have h := h.1 c113
      refine x_iconst (v := 0) dX6_positiveOf_125 (by decide) ?_
      exact x_zret0 dX6_positiveOf_126 rfl ⟨_, _, h, rfl, rfl⟩
    · have h := h.2 c113
      refine x_aload_0 dX6_positiveOf_67 ?_
      refine m_get ha dX6_positiveOf_68 fa_X6_271 rfl ?_
      refine x_if_ne 125 dX6_positiveOf_71 (by decide) (fun c114 => ?_) (fun c114 => ?_)
      · have h := h.1 c114
        refine x_iconst (v := 0) dX6_positiveOf_125 (by decide) ?_
        exact x_zret0 dX6_positiveOf_126 rfl ⟨_, _, h, rfl, rfl⟩
      · have h := h.2 c114
        refine x_iload_4 dX6_positiveOf_74 ?_
        refine x_bipush (v := 60) dX6_positiveOf_76 (by decide) ?_
        refine m_cSi1 rfl cs_X6_220 (Nat.le_of_ble_eq_true rfl) dX6_positiveOf_78 (c_sign (by omega) h) (fun x115 h => ?_)
        refine x_icmp_ne 94 dX6_positiveOf_81 (by decide) (fun c117 => ?_) (fun c117 => ?_)
        · have h := h.1 c117
          refine x_iload_4 dX6_positiveOf_94 ?_
          refine x_bipush (v := 62) dX6_positiveOf_96 (by decide) ?_
          refine m_cSi1 rfl cs_X6_220 (Nat.le_of_ble_eq_true rfl) dX6_positiveOf_98 (c_sign (by omega) h) (fun x118 h => ?_)
          refine x_icmp_ne 114 dX6_positiveOf_101 (by decide) (fun c120 => ?_) (fun c120 => ?_)
          · have h := h.1 c120
            refine x_lload_2 dX6_positiveOf_114 ?_
            refine x_lload_5 dX6_positiveOf_115 ?_
            refine x_lcmp dX6_positiveOf_117 ?_
            refine x_if_ne 125 dX6_positiveOf_118 (by decide) (fun c121 => ?_) (fun c121 => ?_)
            · have h := h.1 c121
              refine x_iconst (v := 0) dX6_positiveOf_125 (by decide) ?_
              exact x_zret0 dX6_positiveOf_126 rfl ⟨_, _, h, rfl, rfl⟩
            · have h := h.2 c121
              refine x_iconst (v := 1) dX6_positiveOf_121 (by decide) ?_
              refine x_goto 126 dX6_positiveOf_122 (by decide) ?_
              exact x_zret1 dX6_positiveOf_126 rfl ⟨_, _, h, rfl, rfl⟩
          · have h := h.2 c120
            refine x_lload_2 dX6_positiveOf_104 ?_
            refine x_lload_5 dX6_positiveOf_105 ?_
            refine x_lcmp dX6_positiveOf_107 ?_
            refine x_if_le 125 dX6_positiveOf_108 (by decide) (fun c122 => ?_) (fun c122 => ?_)
            · have h := h.1 c122
              refine x_iconst (v := 0) dX6_positiveOf_125 (by decide) ?_
              exact x_zret0 dX6_positiveOf_126 rfl ⟨_, _, h, rfl, rfl⟩
            · have h := h.2 c122
              refine x_goto 121 dX6_positiveOf_111 (by decide) ?_
              refine x_iconst (v := 1) dX6_positiveOf_121 (by decide) ?_
              refine x_goto 126 dX6_positiveOf_122 (by decide) ?_
              exact x_zret1 dX6_positiveOf_126 rfl ⟨_, _, h, rfl, rfl⟩
        · have h := h.2 c117
          refine x_lload_2 dX6_positiveOf_84 ?_
          refine x_lload_5 dX6_positiveOf_85 ?_
          refine x_lcmp dX6_positiveOf_87 ?_
          refine x_if_ge 125 dX6_positiveOf_88 (by decide) (fun c123 => ?_) (fun c123 => ?_)
          · have h := h.1 c123
            refine x_iconst (v := 0) dX6_positiveOf_125 (by decide) ?_
            exact x_zret0 dX6_positiveOf_126 rfl ⟨_, _, h, rfl, rfl⟩
          · have h := h.2 c123
            refine x_goto 121 dX6_positiveOf_91 (by decide) ?_
            refine x_iconst (v := 1) dX6_positiveOf_121 (by decide) ?_
            refine x_goto 126 dX6_positiveOf_122 (by decide) ?_
            exact x_zret1 dX6_positiveOf_126 rfl ⟨_, _, h, rfl, rfl⟩
  · have h := h.2 c105
    refine x_aload_0 dX6_positiveOf_12 ?_
    refine x_iload_1 dX6_positiveOf_13 ?_
    refine m_cVi1 ha rfl cv_X6_318 (Nat.le_of_ble_eq_true rfl) dX6_positiveOf_14 (ih0 _ _ _ h) (fun x124 s125 h => ?_)
    refine x_istore_2 dX6_positiveOf_17 (by decide) xN2_i ?_
    refine x_aload_0 dX6_positiveOf_18 ?_
    refine x_dup dX6_positiveOf_19 rfl ?_
    refine m_get ha dX6_positiveOf_20 fa_X6_261 rfl ?_
    refine x_iconst (v := 1) dX6_positiveOf_23 (by decide) ?_
    refine x_iadd dX6_positiveOf_24 ?_
    refine m_put ha dX6_positiveOf_25 fp_X6_261 (mfs_22 _ _ _) (by decide) rfl rfl ?_
    have h := h _ rfl
    refine x_iload_2 dX6_positiveOf_28 ?_
    obtain ⟨e127, h⟩ := h
    exact x_zret dX6_positiveOf_29 rfl (xB_n e127) ⟨_, _, h, rfl, rfl⟩
def g_testOf (N : Nat × Nat) : Nat → Nat → Int32 → mS → (Int32 → mS → Prop) → Prop
  | 0, _, _, _, _ => False
  | t + 1, 0, x, s, K => w_testOf N (g_testOf N t) x s K
  | t + 1, 1, x, s, K => w_bothOf N (g_testOf N t) x s K
  | t + 1, 2, x, s, K => w_plainOf N (g_testOf N t) x s K
  | t + 1, 3, x, s, K => w_positiveOf N (g_testOf N t) x s K
  | _ + 1, _ + 4, _, _, _ => False
theorem cg_testOf {G : xG} {l : Launch} {a : Nat → Nat} {g : xH} (ha : mInj a) {N : Nat × Nat} : ∀ (t d : Nat), t + (1 * N.2 + 4) ≤ d → (∀ (x : Int32) (s : mS) (K : Int32 → mS → Prop), g_testOf N t 0 x s K → xC G l kX6_testOf d 0 0 [.ref (a 51), .int x] (mH G a s g) (mQi G a g K)) ∧ (∀ (x : Int32) (s : mS) (K : Int32 → mS → Prop), g_testOf N t 1 x s K → xC G l kX6_bothOf d 0 0 [.ref (a 51), .int x] (mH G a s g) (mQi G a g K)) ∧ (∀ (x : Int32) (s : mS) (K : Int32 → mS → Prop), g_testOf N t 2 x s K → xC G l kX6_plainOf d 0 0 [.ref (a 51), .int x] (mH G a s g) (mQi G a g K)) ∧ (∀ (x : Int32) (s : mS) (K : Int32 → mS → Prop), g_testOf N t 3 x s K → xC G l kX6_positiveOf d 0 0 [.ref (a 51), .int x] (mH G a s g) (mQi G a g K)) := by
  intro t
  induction t with
  | zero =>
    intro d _
    exact ⟨fun x s K h => absurd h (by simp [g_testOf]), fun x s K h => absurd h (by simp [g_testOf]), fun x s K h => absurd h (by simp [g_testOf]), fun x s K h => absurd h (by simp [g_testOf])⟩
  | succ t ih =>
    intro d hd
    obtain ⟨d, rfl⟩ : ∃ z, d = z + 1 := ⟨d - 1, by omega⟩
    obtain ⟨ih0, ih1, ih2, ih3⟩ := ih d (by omega)
    exact ⟨fun x s K h => cb_testOf ha (N := N) (by omega) ih0 ih1 ih2 ih3 (by unfold g_testOf at h; exact h), fun x s K h => cb_bothOf ha (N := N) (by omega) ih0 ih1 ih2 ih3 (by unfold g_testOf at h; exact h), fun x s K h => cb_plainOf ha (N := N) (by omega) ih0 ih1 ih2 ih3 (by unfold g_testOf at h; exact h), fun x s K h => cb_positiveOf ha (N := N) (by omega) ih0 ih1 ih2 ih3 (by unfold g_testOf at h; exact h)⟩
theorem c_testOf {G : xG} {l : Launch} {a : Nat → Nat} {g : xH} (ha : mInj a) {d : Nat} {N : Nat × Nat} (hd : 2 * N.2 + 5 ≤ d) {x : Int32} {s : mS} {K : Int32 → mS → Prop} (h : g_testOf N N.2 0 x s K) : xC G l kX6_testOf d 0 0 [.ref (a 51), .int x] (mH G a s g) (mQi G a g K) := (cg_testOf ha N.2 d (by omega)).1 x s K h
theorem c_bothOf {G : xG} {l : Launch} {a : Nat → Nat} {g : xH} (ha : mInj a) {d : Nat} {N : Nat × Nat} (hd : 2 * N.2 + 5 ≤ d) {x : Int32} {s : mS} {K : Int32 → mS → Prop} (h : g_testOf N N.2 1 x s K) : xC G l kX6_bothOf d 0 0 [.ref (a 51), .int x] (mH G a s g) (mQi G a g K) := (cg_testOf ha N.2 d (by omega)).2.1 x s K h
theorem c_plainOf {G : xG} {l : Launch} {a : Nat → Nat} {g : xH} (ha : mInj a) {d : Nat} {N : Nat × Nat} (hd : 2 * N.2 + 5 ≤ d) {x : Int32} {s : mS} {K : Int32 → mS → Prop} (h : g_testOf N N.2 2 x s K) : xC G l kX6_plainOf d 0 0 [.ref (a 51), .int x] (mH G a s g) (mQi G a g K) := (cg_testOf ha N.2 d (by omega)).2.2.1 x s K h
theorem c_positiveOf {G : xG} {l : Launch} {a : Nat → Nat} {g : xH} (ha : mInj a) {d : Nat} {N : Nat × Nat} (hd : 2 * N.2 + 5 ≤ d) {x : Int32} {s : mS} {K : Int32 → mS → Prop} (h : g_testOf N N.2 3 x s K) : xC G l kX6_positiveOf d 0 0 [.ref (a 51), .int x] (mH G a s g) (mQi G a g K) := (cg_testOf ha N.2 d (by omega)).2.2.2 x s K h
def w_tells_199 (N : Nat × Nat) (x1 : Int32) (x2 : Int32) (x4 : Int64) (Kr : Int32 → mS → Prop) (K : Int64 → mS → Prop) (R : Int64 → mS → Prop) (s : mS) : Prop :=
  (∀ s101 : mS, s101 = mF s 22 ((mFd s 22) + 1) → (R x4 s101))
theorem c_tells_199 {G : xG} {l : Launch} {a : Nat → Nat} {g : xH} (ha : mInj a) {d : Nat} {N : Nat × Nat} (hd : 2 * N.2 + 5 ≤ d) (x1 : Int32) (x2 : Int32) (x4 : Int64) (Kr : Int32 → mS → Prop) (K : Int64 → mS → Prop) (R : Int64 → mS → Prop) (s : mS) (h : w_tells_199 N x1 x2 x4 Kr K R s) (hK : ∀ (z4 : Int64) (s : mS), K z4 s → xF G l kX6_tells (d + 1) 0 0 (mQi G a g Kr) 212 [some (.ref (a 51)), none, none, none, some (.long z4), none, none, none, none, none, none] [] (mH G a s g)) (hR : ∀ (z4 : Int64) (s : mS), R z4 s → xF G l kX6_tells (d + 1) 0 0 (mQi G a g Kr) 61 [some (.ref (a 51)), some (.int x1), some (.int x2), none, some (.long z4), none, none, none, none, none, none] [] (mH G a s g)) : xF G l kX6_tells (d + 1) 0 0 (mQi G a g Kr) 199 [some (.ref (a 51)), some (.int x1), some (.int x2), none, some (.long x4), none, none, none, none, none, none] [] (mH G a s g) := by
  unfold w_tells_199 at h
  refine x_aload_0 dX6_tells_199 ?_
  refine x_dup dX6_tells_200 rfl ?_
  refine m_get ha dX6_tells_201 fa_X6_261 rfl ?_
  refine x_iconst (v := 1) dX6_tells_204 (by decide) ?_
  refine x_iadd dX6_tells_205 ?_
  refine m_put ha dX6_tells_206 fp_X6_261 (mfs_22 _ _ _) (by decide) rfl rfl ?_
  have h := h _ rfl
  refine x_goto 61 dX6_tells_209 (by decide) ?_
  exact x_le (xLe_cons (xLe_cons (xLe_cons (xLe_cons (xLe_cons (xLe_cons (xLe_cons (xLe_cons (xLe_cons (xLe_cons (xLe_cons (xLe_nil)))))))))))) (hR _ _ h)
def w_tells_197 (N : Nat × Nat) (x1 : Int32) (x2 : Int32) (y0 : Int64) (Kr : Int32 → mS → Prop) (K : Int64 → mS → Prop) (R : Int64 → mS → Prop) (s : mS) : Prop :=
  (w_tells_199 N x1 x2 y0 Kr K R s)
theorem c_tells_197 {G : xG} {l : Launch} {a : Nat → Nat} {g : xH} (ha : mInj a) {d : Nat} {N : Nat × Nat} (hd : 2 * N.2 + 5 ≤ d) (x1 : Int32) (x2 : Int32) (y0 : Int64) (Kr : Int32 → mS → Prop) (K : Int64 → mS → Prop) (R : Int64 → mS → Prop) (s : mS) (h : w_tells_197 N x1 x2 y0 Kr K R s) (hK : ∀ (z4 : Int64) (s : mS), K z4 s → xF G l kX6_tells (d + 1) 0 0 (mQi G a g Kr) 212 [some (.ref (a 51)), none, none, none, some (.long z4), none, none, none, none, none, none] [] (mH G a s g)) (hR : ∀ (z4 : Int64) (s : mS), R z4 s → xF G l kX6_tells (d + 1) 0 0 (mQi G a g Kr) 61 [some (.ref (a 51)), some (.int x1), some (.int x2), none, some (.long z4), none, none, none, none, none, none] [] (mH G a s g)) : xF G l kX6_tells (d + 1) 0 0 (mQi G a g Kr) 197 [some (.ref (a 51)), some (.int x1), some (.int x2), none, none, none, none, none, none, none, none] [.long y0] (mH G a s g) := by
  unfold w_tells_197 at h
  refine x_lstore_4 dX6_tells_197 (by decide) xN2_none ?_
  exact x_le (xLe_cons (xLe_cons (xLe_cons (xLe_cons (xLe_cons (xLe_cons (xLe_cons (xLe_cons (xLe_cons (xLe_cons (xLe_cons (xLe_nil)))))))))))) (c_tells_199 ha (by omega) _ _ _ _ _ _ _ h hK hR)
def w_tells_146 (N : Nat × Nat) (x1 : Int32) (x2 : Int32) (x4 : Int64) (x6 : Int32) (x7 : Int64) (x9 : Int32) (y0 : Int32) (Kr : Int32 → mS → Prop) (K : Int64 → mS → Prop) (R : Int64 → mS → Prop) (s : mS) : Prop :=
  ((¬ x6 = x1 → (w_tells_199 N x1 x2 x4 Kr K R s)) ∧ (x6 = x1 → ((y0 = 0 → (w_tells_199 N x1 x2 x4 Kr K R s)) ∧ (¬ y0 = 0 → ((¬ (mFd s 24) = 0 → (w_tells_199 N x1 x2 x4 Kr K R s)) ∧ ((mFd s 24) = 0 → ((¬ x9 = 0 → (w_tells_199 N x1 x2 x4 Kr K R s)) ∧ (x9 = 0 → ((0 ≤ (lg_cmp x7 0) → (((lg_cmp x7 ((x2 : Int32).toInt64)) ≤ 0 → (w_tells_197 N x1 x2 x7 Kr K R s)) ∧ (¬ (lg_cmp x7 ((x2 : Int32).toInt64)) ≤ 0 → (w_tells_197 N x1 x2 ((x2 : Int32).toInt64) Kr K R s)))) ∧ (¬ 0 ≤ (lg_cmp x7 0) → (w_tells_197 N x1 x2 0 Kr K R s)))))))))))
theorem c_tells_146 {G : xG} {l : Launch} {a : Nat → Nat} {g : xH} (ha : mInj a) {d : Nat} {N : Nat × Nat} (hd : 2 * N.2 + 5 ≤ d) (x1 : Int32) (x2 : Int32) (x4 : Int64) (x6 : Int32) (x7 : Int64) (x9 : Int32) (y0 : Int32) (Kr : Int32 → mS → Prop) (K : Int64 → mS → Prop) (R : Int64 → mS → Prop) (s : mS) (h : w_tells_146 N x1 x2 x4 x6 x7 x9 y0 Kr K R s) (hK : ∀ (z4 : Int64) (s : mS), K z4 s → xF G l kX6_tells (d + 1) 0 0 (mQi G a g Kr) 212 [some (.ref (a 51)), none, none, none, some (.long z4), none, none, none, none, none, none] [] (mH G a s g)) (hR : ∀ (z4 : Int64) (s : mS), R z4 s → xF G l kX6_tells (d + 1) 0 0 (mQi G a g Kr) 61 [some (.ref (a 51)), some (.int x1), some (.int x2), none, some (.long z4), none, none, none, none, none, none] [] (mH G a s g)) : xF G l kX6_tells (d + 1) 0 0 (mQi G a g Kr) 146 [some (.ref (a 51)), some (.int x1), some (.int x2), none, some (.long x4), none, some (.int x6), some (.long x7), none, some (.int x9), none] [.int y0] (mH G a s g) := by
  unfold w_tells_146 at h
  refine x_istore_10 dX6_tells_146 (by decide) xN2_i ?_
  refine x_iload_6 dX6_tells_148 ?_
  refine x_iload_1 dX6_tells_150 ?_
  refine x_icmp_ne 199 dX6_tells_151 (by decide) (fun c101 => ?_) (fun c101 => ?_)
  · have h := h.1 c101
    exact x_le (xLe_cons (xLe_cons (xLe_cons (xLe_cons (xLe_cons (xLe_cons (xLe_none (xLe_none (xLe_cons (xLe_none (xLe_none (xLe_nil)))))))))))) (c_tells_199 ha (by omega) _ _ _ _ _ _ _ h hK hR)
  · have h := h.2 c101
    refine x_iload_10 dX6_tells_154 ?_
    refine x_if_eq 199 dX6_tells_156 (by decide) (fun c102 => ?_) (fun c102 => ?_)
    · have h := h.1 c102
      exact x_le (xLe_cons (xLe_cons (xLe_cons (xLe_cons (xLe_cons (xLe_cons (xLe_none (xLe_none (xLe_cons (xLe_none (xLe_none (xLe_nil)))))))))))) (c_tells_199 ha (by omega) _ _ _ _ _ _ _ h hK hR)
    · have h := h.2 c102
      refine x_aload_0 dX6_tells_159 ?_
      refine m_get ha dX6_tells_160 fa_X6_271 rfl ?_
      refine x_if_ne 199 dX6_tells_163 (by decide) (fun c103 => ?_) (fun c103 => ?_)
      · have h := h.1 c103
        exact x_le (xLe_cons (xLe_cons (xLe_cons (xLe_cons (xLe_cons (xLe_cons (xLe_none (xLe_none (xLe_cons (xLe_none (xLe_none (xLe_nil)))))))))))) (c_tells_199 ha (by omega) _ _ _ _ _ _ _ h hK hR)
      · have h := h.2 c103
        refine x_iload_9 dX6_tells_166 ?_
        refine x_if_ne 199 dX6_tells_168 (by decide) (fun c104 => ?_) (fun c104 => ?_)
        · have h := h.1 c104
          exact x_le (xLe_cons (xLe_cons (xLe_cons (xLe_cons (xLe_cons (xLe_cons (xLe_none (xLe_none (xLe_cons (xLe_none (xLe_none (xLe_nil)))))))))))) (c_tells_199 ha (by omega) _ _ _ _ _ _ _ h hK hR)
        · have h := h.2 c104
          refine x_lload_7 dX6_tells_171 ?_
          refine x_lconst (v := 0) dX6_tells_173 (by decide) ?_
          refine x_lcmp dX6_tells_174 ?_
          refine x_if_ge 182 dX6_tells_175 (by decide) (fun c105 => ?_) (fun c105 => ?_)
          · have h := h.1 c105
            refine x_lload_7 dX6_tells_182 ?_
            refine x_iload_2 dX6_tells_184 ?_
            refine x_i2l dX6_tells_185 ?_
            refine x_lcmp dX6_tells_186 ?_
            refine x_if_le 195 dX6_tells_187 (by decide) (fun c106 => ?_) (fun c106 => ?_)
            · have h := h.1 c106
              refine x_lload_7 dX6_tells_195 ?_
              exact x_le (xLe_cons (xLe_cons (xLe_cons (xLe_cons (xLe_none (xLe_cons (xLe_none (xLe_none (xLe_cons (xLe_none (xLe_none (xLe_nil)))))))))))) (c_tells_197 ha (by omega) _ _ _ _ _ _ _ h hK hR)
            · have h := h.2 c106
              refine x_iload_2 dX6_tells_190 ?_
              refine x_i2l dX6_tells_191 ?_
              refine x_goto 197 dX6_tells_192 (by decide) ?_
              exact x_le (xLe_cons (xLe_cons (xLe_cons (xLe_cons (xLe_none (xLe_cons (xLe_none (xLe_none (xLe_cons (xLe_none (xLe_none (xLe_nil)))))))))))) (c_tells_197 ha (by omega) _ _ _ _ _ _ _ h hK hR)
          · have h := h.2 c105
            refine x_lconst (v := 0) dX6_tells_178 (by decide) ?_
            refine x_goto 197 dX6_tells_179 (by decide) ?_
            exact x_le (xLe_cons (xLe_cons (xLe_cons (xLe_cons (xLe_none (xLe_cons (xLe_none (xLe_none (xLe_cons (xLe_none (xLe_none (xLe_nil)))))))))))) (c_tells_197 ha (by omega) _ _ _ _ _ _ _ h hK hR)
def w_tells_141 (N : Nat × Nat) (x1 : Int32) (x2 : Int32) (x4 : Int64) (x6 : Int32) (x7 : Int64) (x9 : Int32) (Kr : Int32 → mS → Prop) (K : Int64 → mS → Prop) (R : Int64 → mS → Prop) (s : mS) : Prop :=
  (w_tells_146 N x1 x2 x4 x6 x7 x9 1 Kr K R s)
theorem c_tells_141 {G : xG} {l : Launch} {a : Nat → Nat} {g : xH} (ha : mInj a) {d : Nat} {N : Nat × Nat} (hd : 2 * N.2 + 5 ≤ d) (x1 : Int32) (x2 : Int32) (x4 : Int64) (x6 : Int32) (x7 : Int64) (x9 : Int32) (Kr : Int32 → mS → Prop) (K : Int64 → mS → Prop) (R : Int64 → mS → Prop) (s : mS) (h : w_tells_141 N x1 x2 x4 x6 x7 x9 Kr K R s) (hK : ∀ (z4 : Int64) (s : mS), K z4 s → xF G l kX6_tells (d + 1) 0 0 (mQi G a g Kr) 212 [some (.ref (a 51)), none, none, none, some (.long z4), none, none, none, none, none, none] [] (mH G a s g)) (hR : ∀ (z4 : Int64) (s : mS), R z4 s → xF G l kX6_tells (d + 1) 0 0 (mQi G a g Kr) 61 [some (.ref (a 51)), some (.int x1), some (.int x2), none, some (.long z4), none, none, none, none, none, none] [] (mH G a s g)) : xF G l kX6_tells (d + 1) 0 0 (mQi G a g Kr) 141 [some (.ref (a 51)), some (.int x1), some (.int x2), none, some (.long x4), none, some (.int x6), some (.long x7), none, some (.int x9), none] [] (mH G a s g) := by
  unfold w_tells_141 at h
  refine x_iconst (v := 1) dX6_tells_141 (by decide) ?_
  refine x_goto 146 dX6_tells_142 (by decide) ?_
  exact x_le (xLe_cons (xLe_cons (xLe_cons (xLe_cons (xLe_cons (xLe_cons (xLe_cons (xLe_cons (xLe_cons (xLe_cons (xLe_cons (xLe_nil)))))))))))) (c_tells_146 ha (by omega) _ _ _ _ _ _ _ _ _ _ _ h hK hR)
def w_tells_112 (N : Nat × Nat) (x1 : Int32) (x2 : Int32) (x4 : Int64) (x6 : Int32) (y0 : Int64) (Kr : Int32 → mS → Prop) (K : Int64 → mS → Prop) (R : Int64 → mS → Prop) (s : mS) : Prop :=
  (∀ x101 : Int32, x101 = mFd s 24 → (∀ s102 : mS, s102 = mF s 24 0 → (w_passes0 4 s102 (fun x103 s104 => ((x103 = 0 → (w_tells_141 N x1 x2 x4 x6 y0 x101 Kr K R s104)) ∧ (¬ x103 = 0 → (g_testOf N N.2 0 1 s104 (fun x106 s107 => ((x106 = 0 → (w_tells_146 N x1 x2 x4 x6 y0 x101 0 Kr K R s107)) ∧ (¬ x106 = 0 → (w_tells_141 N x1 x2 x4 x6 y0 x101 Kr K R s107)))))))))))
theorem c_tells_112 {G : xG} {l : Launch} {a : Nat → Nat} {g : xH} (ha : mInj a) {d : Nat} {N : Nat × Nat} (hd : 2 * N.2 + 5 ≤ d) (x1 : Int32) (x2 : Int32) (x4 : Int64) (x6 : Int32) (y0 : Int64) (Kr : Int32 → mS → Prop) (K : Int64 → mS → Prop) (R : Int64 → mS → Prop) (s : mS) (h : w_tells_112 N x1 x2 x4 x6 y0 Kr K R s) (hK : ∀ (z4 : Int64) (s : mS), K z4 s → xF G l kX6_tells (d + 1) 0 0 (mQi G a g Kr) 212 [some (.ref (a 51)), none, none, none, some (.long z4), none, none, none, none, none, none] [] (mH G a s g)) (hR : ∀ (z4 : Int64) (s : mS), R z4 s → xF G l kX6_tells (d + 1) 0 0 (mQi G a g Kr) 61 [some (.ref (a 51)), some (.int x1), some (.int x2), none, some (.long z4), none, none, none, none, none, none] [] (mH G a s g)) : xF G l kX6_tells (d + 1) 0 0 (mQi G a g Kr) 112 [some (.ref (a 51)), some (.int x1), some (.int x2), none, some (.long x4), none, some (.int x6), none, none, none, none] [.long y0] (mH G a s g) := by
  unfold w_tells_112 at h
  refine x_lstore_7 dX6_tells_112 (by decide) xN2_i ?_
  refine x_aload_0 dX6_tells_114 ?_
  refine m_get ha dX6_tells_115 fa_X6_271 rfl ?_
  refine x_istore_9 dX6_tells_118 (by decide) xN2_none ?_
  have h := h _ rfl
  refine x_aload_0 dX6_tells_120 ?_
  refine x_iconst (v := 0) dX6_tells_121 (by decide) ?_
  refine m_put ha dX6_tells_122 fp_X6_271 (mfs_24 _ _ _) (by decide) (xB_n xB_0) (xB_f xB_0) ?_
  have h := h _ rfl
  refine x_aload_0 dX6_tells_125 ?_
  refine x_iconst (v := 4) dX6_tells_126 (by decide) ?_
  refine m_cVi1 ha rfl cv_X6_285 (Nat.le_of_ble_eq_true rfl) dX6_tells_127 (c_passes0 ha (by omega) h) (fun x103 s104 h => ?_)
  refine x_if_eq 141 dX6_tells_130 (by decide) (fun c105 => ?_) (fun c105 => ?_)
  · have h := h.1 c105
    exact x_le (xLe_cons (xLe_cons (xLe_cons (xLe_cons (xLe_cons (xLe_cons (xLe_cons (xLe_cons (xLe_cons (xLe_cons (xLe_cons (xLe_nil)))))))))))) (c_tells_141 ha (by omega) _ _ _ _ _ _ _ _ _ _ h hK hR)
  · have h := h.2 c105
    refine x_aload_0 dX6_tells_133 ?_
    refine x_iconst (v := 1) dX6_tells_134 (by decide) ?_
    refine m_cVi1 ha rfl cv_X6_318 (Nat.le_of_ble_eq_true rfl) dX6_tells_135 (c_testOf ha (by omega) h) (fun x106 s107 h => ?_)
    refine x_if_eq 145 dX6_tells_138 (by decide) (fun c108 => ?_) (fun c108 => ?_)
    · have h := h.1 c108
      refine x_iconst (v := 0) dX6_tells_145 (by decide) ?_
      exact x_le (xLe_cons (xLe_cons (xLe_cons (xLe_cons (xLe_cons (xLe_cons (xLe_cons (xLe_cons (xLe_cons (xLe_cons (xLe_cons (xLe_nil)))))))))))) (c_tells_146 ha (by omega) _ _ _ _ _ _ _ _ _ _ _ h hK hR)
    · have h := h.2 c108
      exact x_le (xLe_cons (xLe_cons (xLe_cons (xLe_cons (xLe_cons (xLe_cons (xLe_cons (xLe_cons (xLe_cons (xLe_cons (xLe_cons (xLe_nil)))))))))))) (c_tells_141 ha (by omega) _ _ _ _ _ _ _ _ _ _ h hK hR)
def w_tells_61 (N : Nat × Nat) (x1 : Int32) (x2 : Int32) (Kr : Int32 → mS → Prop) (K : Int64 → mS → Prop) : Nat → Int64 → mS → Prop
  | 0, _, _ => False
  | t + 1, x4, s => (((mFd s 23) ≤ (mFd s 22) → (K x4 s)) ∧ (¬ (mFd s 23) ≤ (mFd s 22) → (w_codeAt (mFd s 22) s (fun x102 s103 => (∀ s104 : mS, s104 = mF s103 24 0 → (∀ s105 : mS, s105 = mF s104 22 ((mFd s104 22) + 1) → ((¬ x102 = 3 → (g_sumOf N N.2 0 1 s105 (fun x107 s108 => (w_tells_112 N x1 x2 x4 x102 x107 Kr K (fun x4 s => w_tells_61 N x1 x2 Kr K t x4 s) s108)))) ∧ (x102 = 3 → (w_tells_112 N x1 x2 x4 x102 1 Kr K (fun x4 s => w_tells_61 N x1 x2 Kr K t x4 s) s105)))))))))
theorem c_tells_61 {G : xG} {l : Launch} {a : Nat → Nat} {g : xH} (ha : mInj a) {d : Nat} {N : Nat × Nat} (hd : 2 * N.2 + 5 ≤ d) (Kr : Int32 → mS → Prop) (K : Int64 → mS → Prop) (x1 : Int32) (x2 : Int32) : ∀ (t : Nat) (x4 : Int64) (s : mS) , w_tells_61 N x1 x2 Kr K t x4 s → (∀ (z4 : Int64) (s : mS), K z4 s → xF G l kX6_tells (d + 1) 0 0 (mQi G a g Kr) 212 [some (.ref (a 51)), none, none, none, some (.long z4), none, none, none, none, none, none] [] (mH G a s g)) → xF G l kX6_tells (d + 1) 0 0 (mQi G a g Kr) 61 [some (.ref (a 51)), some (.int x1), some (.int x2), none, some (.long x4), none, none, none, none, none, none] [] (mH G a s g) := by
  intro t
  induction t with
  | zero =>
    intro _ _ h _
    exact absurd h (by simp [w_tells_61])
  | succ t ih =>
    intro x4 s h hK
    have hR := fun x4 s h => ih x4 s h hK
    unfold w_tells_61 at h
    refine x_aload_0 dX6_tells_61 ?_
    refine m_get ha dX6_tells_62 fa_X6_261 rfl ?_
    refine x_aload_0 dX6_tells_65 ?_
    refine m_get ha dX6_tells_66 fa_X6_258 rfl ?_
    refine x_icmp_ge 212 dX6_tells_69 (by decide) (fun c101 => ?_) (fun c101 => ?_)
    · have h := h.1 c101
      exact x_le (xLe_cons (xLe_none (xLe_none (xLe_cons (xLe_cons (xLe_cons (xLe_cons (xLe_cons (xLe_cons (xLe_cons (xLe_cons (xLe_nil)))))))))))) (hK _ _ h)
    · have h := h.2 c101
      refine x_aload_0 dX6_tells_72 ?_
      refine x_aload_0 dX6_tells_73 ?_
      refine m_get ha dX6_tells_74 fa_X6_261 rfl ?_
      refine m_cVi1 ha rfl cv_X6_264 (Nat.le_of_ble_eq_true rfl) dX6_tells_77 (c_codeAt ha (by omega) h) (fun x102 s103 h => ?_)
      refine x_istore_6 dX6_tells_80 (by decide) xN2_none ?_
      refine x_aload_0 dX6_tells_82 ?_
      refine x_iconst (v := 0) dX6_tells_83 (by decide) ?_
      refine m_put ha dX6_tells_84 fp_X6_271 (mfs_24 _ _ _) (by decide) (xB_n xB_0) (xB_f xB_0) ?_
      have h := h _ rfl
      refine x_aload_0 dX6_tells_87 ?_
      refine x_dup dX6_tells_88 rfl ?_
      refine m_get ha dX6_tells_89 fa_X6_261 rfl ?_
      refine x_iconst (v := 1) dX6_tells_92 (by decide) ?_
      refine x_iadd dX6_tells_93 ?_
      refine m_put ha dX6_tells_94 fp_X6_261 (mfs_22 _ _ _) (by decide) rfl rfl ?_
      have h := h _ rfl
      refine x_iload_6 dX6_tells_97 ?_
      refine x_iconst (v := 3) dX6_tells_99 (by decide) ?_
      refine x_icmp_ne 107 dX6_tells_100 (by decide) (fun c106 => ?_) (fun c106 => ?_)
      · have h := h.1 c106
        refine x_aload_0 dX6_tells_107 ?_
        refine x_iconst (v := 1) dX6_tells_108 (by decide) ?_
        refine m_cVl1 ha rfl cv_X6_288 (Nat.le_of_ble_eq_true rfl) dX6_tells_109 (c_sumOf ha (by omega) h) (fun x107 s108 h => ?_)
        exact x_le (xLe_cons (xLe_cons (xLe_cons (xLe_cons (xLe_cons (xLe_cons (xLe_cons (xLe_cons (xLe_cons (xLe_cons (xLe_cons (xLe_nil)))))))))))) (c_tells_112 ha (by omega) _ _ _ _ _ _ _ _ _ h hK hR)
      · have h := h.2 c106
        refine x_lconst (v := 1) dX6_tells_103 (by decide) ?_
        refine x_goto 112 dX6_tells_104 (by decide) ?_
        exact x_le (xLe_cons (xLe_cons (xLe_cons (xLe_cons (xLe_cons (xLe_cons (xLe_cons (xLe_cons (xLe_cons (xLe_cons (xLe_cons (xLe_nil)))))))))))) (c_tells_112 ha (by omega) _ _ _ _ _ _ _ _ _ h hK hR)
def w_tells (N : Nat × Nat) (x1 : Int32) (x2 : Int32) (x3 : Int32) (s : mS) (Kr : Int32 → mS → Prop) : Prop :=
  (vp_in 44 5652 ∧ ((¬ (mAt s 2 44) = (-1) → (∀ s103 : mS, s103 = mF s 25 0 → (∀ x104 : Int64, x104 = (x3 : Int32).toInt64 → (vp_in 44 5652 ∧ (∀ s106 : mS, s106 = mF s103 22 (400 * (mAt s103 2 44)) → (vp_in 44 5652 ∧ (vp_in (45 + (mAt s106 2 44)) 5652 ∧ (∀ s109 : mS, s109 = mF s106 23 ((mFd s106 22) + (mAt s106 2 (45 + (mAt s106 2 44)))) → (w_tells_61 N x1 x2 Kr (fun x110 s111 => (Kr ((x110 : Int64).toInt32) s111)) N.1 x104 s109))))))))) ∧ ((mAt s 2 44) = (-1) → (Kr x3 s))))
theorem c_tells {G : xG} {l : Launch} {a : Nat → Nat} {g : xH} (ha : mInj a) {d : Nat} {N : Nat × Nat} (hd : 2 * N.2 + 6 ≤ d) {x1 : Int32} {x2 : Int32} {x3 : Int32} {s : mS} {Kr : Int32 → mS → Prop} (h : w_tells N x1 x2 x3 s Kr) : xC G l kX6_tells d 0 0 [.ref (a 51), .int x1, .int x2, .int x3] (mH G a s g) (mQi G a g Kr) := by
  obtain ⟨d, rfl⟩ : ∃ z, d = z + 1 := ⟨d - 1, by omega⟩
  refine xC.start rfl (by decide +kernel) (Nat.le_of_ble_eq_true rfl) (lv := [some (.ref (a 51)), some (.int x1), some (.int x2), some (.int x3), none, none, none, none, none, none, none]) rfl ?_
  unfold w_tells at h
  refine x_aload_0 dX6_tells_0 ?_
  refine m_get ha dX6_tells_1 fa_X6_28 rfl ?_
  refine x_bipush (v := 44) dX6_tells_4 (by decide) ?_
  obtain ⟨e101, h⟩ := h
  refine m_iald (j := 2) ha dX6_tells_6 (by decide) (by decide) e101 ?_
  refine x_iconst (v := (-1)) dX6_tells_7 (by decide) ?_
  refine x_icmp_ne 13 dX6_tells_8 (by decide) (fun c102 => ?_) (fun c102 => ?_)
  · have h := h.1 c102
    refine x_aload_0 dX6_tells_13 ?_
    refine x_iconst (v := 0) dX6_tells_14 (by decide) ?_
    refine m_put ha dX6_tells_15 fp_X6_291 (mfs_25 _ _ _) (by decide) (xB_n xB_0) (xB_f xB_0) ?_
    have h := h _ rfl
    refine x_iload_3 dX6_tells_18 ?_
    refine x_i2l dX6_tells_19 ?_
    refine x_lstore_4 dX6_tells_20 (by decide) xN2_i ?_
    have h := h _ rfl
    refine x_aload_0 dX6_tells_22 ?_
    refine x_sipush (v := 400) dX6_tells_23 (by decide) ?_
    refine x_aload_0 dX6_tells_26 ?_
    refine m_get ha dX6_tells_27 fa_X6_28 rfl ?_
    refine x_bipush (v := 44) dX6_tells_30 (by decide) ?_
    obtain ⟨e105, h⟩ := h
    refine m_iald (j := 2) ha dX6_tells_32 (by decide) (by decide) e105 ?_
    refine x_imul dX6_tells_33 ?_
    refine m_put ha dX6_tells_34 fp_X6_261 (mfs_22 _ _ _) (by decide) rfl rfl ?_
    have h := h _ rfl
    refine x_aload_0 dX6_tells_37 ?_
    refine x_aload_0 dX6_tells_38 ?_
    refine m_get ha dX6_tells_39 fa_X6_261 rfl ?_
    refine x_aload_0 dX6_tells_42 ?_
    refine m_get ha dX6_tells_43 fa_X6_28 rfl ?_
    refine x_bipush (v := 45) dX6_tells_46 (by decide) ?_
    refine x_aload_0 dX6_tells_48 ?_
    refine m_get ha dX6_tells_49 fa_X6_28 rfl ?_
    refine x_bipush (v := 44) dX6_tells_52 (by decide) ?_
    obtain ⟨e107, h⟩ := h
    refine m_iald (j := 2) ha dX6_tells_54 (by decide) (by decide) e107 ?_
    refine x_iadd dX6_tells_55 ?_
    obtain ⟨e108, h⟩ := h
    refine m_iald (j := 2) ha dX6_tells_56 (by decide) (by decide) e108 ?_
    refine x_iadd dX6_tells_57 ?_
    refine m_put ha dX6_tells_58 fp_X6_258 (mfs_23 _ _ _) (by decide) rfl rfl ?_
    have h := h _ rfl
    refine x_le (xLe_cons (xLe_cons (xLe_cons (xLe_none (xLe_cons (xLe_cons (xLe_cons (xLe_cons (xLe_cons (xLe_cons (xLe_cons (xLe_nil)))))))))))) (c_tells_61 ha (by omega) _ _ _ _ _ _ _ h (fun x110 s111 h => ?_))
    refine x_lload_4 dX6_tells_212 ?_
    refine x_l2i dX6_tells_214 ?_
    exact x_iret dX6_tells_215 rfl ⟨_, _, h, rfl, rfl⟩
  · have h := h.2 c102
    refine x_iload_3 dX6_tells_11 ?_
    exact x_iret dX6_tells_12 rfl ⟨_, _, h, rfl, rfl⟩
def w_costsNow (N : Nat × Nat) (s : mS) (Kr : Int32 → mS → Prop) : Prop :=
  (vp_in 3 10 ∧ (w_bare (mAt s 26 3) (fun x102 => (w_tells N 1 999 x102 s (fun x104 s105 => (Kr x104 s105))))))
theorem c_costsNow {G : xG} {l : Launch} {a : Nat → Nat} {g : xH} (ha : mInj a) {d : Nat} {N : Nat × Nat} (hd : 2 * N.2 + 7 ≤ d) {s : mS} {Kr : Int32 → mS → Prop} (h : w_costsNow N s Kr) : xC G l kX6_costsNow d 0 0 [.ref (a 51)] (mH G a s g) (mQi G a g Kr) := by
  obtain ⟨d, rfl⟩ : ∃ z, d = z + 1 := ⟨d - 1, by omega⟩
  refine xC.start rfl (by decide +kernel) (Nat.le_of_ble_eq_true rfl) (lv := [some (.ref (a 51))]) rfl ?_
  unfold w_costsNow at h
  refine x_aload_0 dX6_costsNow_0 ?_
  refine x_iconst (v := 1) dX6_costsNow_1 (by decide) ?_
  refine x_sipush (v := 999) dX6_costsNow_2 (by decide) ?_
  refine x_aload_0 dX6_costsNow_5 ?_
  refine m_get ha dX6_costsNow_6 fa_X6_63 rfl ?_
  refine x_iconst (v := 3) dX6_costsNow_9 (by decide) ?_
  obtain ⟨e101, h⟩ := h
  refine m_iald (j := 26) ha dX6_costsNow_10 (by decide) (by decide) e101 ?_
  refine m_cSi1 rfl cs_X6_325 (Nat.le_of_ble_eq_true rfl) dX6_costsNow_11 (c_bare (by omega) h) (fun x102 h => ?_)
  refine m_cVi3 ha rfl cv_X6_328 (Nat.le_of_ble_eq_true rfl) dX6_costsNow_14 (c_tells ha (by omega) h) (fun x104 s105 h => ?_)
  exact x_iret dX6_costsNow_17 rfl ⟨_, _, h, rfl, rfl⟩
def w_earnsNow (N : Nat × Nat) (s : mS) (Kr : Int32 → mS → Prop) : Prop :=
  (w_tells N 2 99 1 s (fun x101 s102 => (Kr x101 s102)))
theorem c_earnsNow {G : xG} {l : Launch} {a : Nat → Nat} {g : xH} (ha : mInj a) {d : Nat} {N : Nat × Nat} (hd : 2 * N.2 + 7 ≤ d) {s : mS} {Kr : Int32 → mS → Prop} (h : w_earnsNow N s Kr) : xC G l kX6_earnsNow d 0 0 [.ref (a 51)] (mH G a s g) (mQi G a g Kr) := by
  obtain ⟨d, rfl⟩ : ∃ z, d = z + 1 := ⟨d - 1, by omega⟩
  refine xC.start rfl (by decide +kernel) (Nat.le_of_ble_eq_true rfl) (lv := [some (.ref (a 51))]) rfl ?_
  unfold w_earnsNow at h
  refine x_aload_0 dX6_earnsNow_0 ?_
  refine x_iconst (v := 2) dX6_earnsNow_1 (by decide) ?_
  refine x_bipush (v := 99) dX6_earnsNow_2 (by decide) ?_
  refine x_iconst (v := 1) dX6_earnsNow_4 (by decide) ?_
  refine m_cVi3 ha rfl cv_X6_328 (Nat.le_of_ble_eq_true rfl) dX6_earnsNow_5 (c_tells ha (by omega) h) (fun x101 s102 h => ?_)
  exact x_iret dX6_earnsNow_8 rfl ⟨_, _, h, rfl, rfl⟩
def w_isBarred (N : Nat × Nat) (s : mS) (Kr : Int32 → mS → Prop) : Prop :=
  (w_tells N 3 1 0 s (fun x101 s102 => ((¬ x101 = 1 → (Kr 0 s102)) ∧ (x101 = 1 → (Kr 1 s102)))))
theorem c_isBarred {G : xG} {l : Launch} {a : Nat → Nat} {g : xH} (ha : mInj a) {d : Nat} {N : Nat × Nat} (hd : 2 * N.2 + 7 ≤ d) {s : mS} {Kr : Int32 → mS → Prop} (h : w_isBarred N s Kr) : xC G l kX6_isBarred d 0 0 [.ref (a 51)] (mH G a s g) (mQi G a g Kr) := by
  obtain ⟨d, rfl⟩ : ∃ z, d = z + 1 := ⟨d - 1, by omega⟩
  refine xC.start rfl (by decide +kernel) (Nat.le_of_ble_eq_true rfl) (lv := [some (.ref (a 51))]) rfl ?_
  unfold w_isBarred at h
  refine x_aload_0 dX6_isBarred_0 ?_
  refine x_iconst (v := 3) dX6_isBarred_1 (by decide) ?_
  refine x_iconst (v := 1) dX6_isBarred_2 (by decide) ?_
  refine x_iconst (v := 0) dX6_isBarred_3 (by decide) ?_
  refine m_cVi3 ha rfl cv_X6_328 (Nat.le_of_ble_eq_true rfl) dX6_isBarred_4 (c_tells ha (by omega) h) (fun x101 s102 h => ?_)
  refine x_iconst (v := 1) dX6_isBarred_7 (by decide) ?_
  refine x_icmp_ne 15 dX6_isBarred_8 (by decide) (fun c103 => ?_) (fun c103 => ?_)
  · have h := h.1 c103
    refine x_iconst (v := 0) dX6_isBarred_15 (by decide) ?_
    exact x_zret0 dX6_isBarred_16 rfl ⟨_, _, h, rfl, rfl⟩
  · have h := h.2 c103
    refine x_iconst (v := 1) dX6_isBarred_11 (by decide) ?_
    refine x_goto 16 dX6_isBarred_12 (by decide) ?_
    exact x_zret1 dX6_isBarred_16 rfl ⟨_, _, h, rfl, rfl⟩
def w_takesNote_125 (x1 : Int32) (x2 : Int32) (y1 : Int32) (y2 : Int32) (Kr : mS → Prop) (s : mS) : Prop :=
  (vp_in y1 10 ∧ (∀ s102 : mS, s102 = mI s 26 y1 y2 → (vp_in 38 5652 ∧ (vp_in 6 10 ∧ (∀ s105 : mS, s105 = mI s102 26 6 (mAt s102 2 38) → (vp_in 7 10 ∧ (∀ s107 : mS, s107 = mI s105 26 7 x2 → (vp_in (12 + x1) 5652 ∧ (vp_in 8 10 ∧ (∀ s110 : mS, s110 = mI s107 26 8 (mAt s107 2 (12 + x1)) → (vp_in 24 5652 ∧ (vp_in 9 10 ∧ (∀ s113 : mS, s113 = mI s110 26 9 (mAt s110 2 24) → (Kr s113))))))))))))))
theorem c_takesNote_125 {G : xG} {l : Launch} {a : Nat → Nat} {g : xH} (ha : mInj a) {d : Nat} (hd : 1 ≤ d) (x1 : Int32) (x2 : Int32) (y1 : Int32) (y2 : Int32) (Kr : mS → Prop) (s : mS) (h : w_takesNote_125 x1 x2 y1 y2 Kr s) : xF G l kX6_takesNote (d + 1) 0 0 (mQv G a g Kr) 125 [some (.ref (a 51)), some (.int x1), some (.int x2), none, none] [.int y2, .int y1, .ref (a 26)] (mH G a s g) := by
  unfold w_takesNote_125 at h
  obtain ⟨e101, h⟩ := h
  refine m_iast (j := 26) ha dX6_takesNote_125 (by decide) (by decide) e101 ?_
  have h := h _ rfl
  refine x_aload_0 dX6_takesNote_126 ?_
  refine m_get ha dX6_takesNote_127 fa_X6_63 rfl ?_
  refine x_bipush (v := 6) dX6_takesNote_130 (by decide) ?_
  refine x_aload_0 dX6_takesNote_132 ?_
  refine m_get ha dX6_takesNote_133 fa_X6_28 rfl ?_
  refine x_bipush (v := 38) dX6_takesNote_136 (by decide) ?_
  obtain ⟨e103, h⟩ := h
  refine m_iald (j := 2) ha dX6_takesNote_138 (by decide) (by decide) e103 ?_
  obtain ⟨e104, h⟩ := h
  refine m_iast (j := 26) ha dX6_takesNote_139 (by decide) (by decide) e104 ?_
  have h := h _ rfl
  refine x_aload_0 dX6_takesNote_140 ?_
  refine m_get ha dX6_takesNote_141 fa_X6_63 rfl ?_
  refine x_bipush (v := 7) dX6_takesNote_144 (by decide) ?_
  refine x_iload_2 dX6_takesNote_146 ?_
  obtain ⟨e106, h⟩ := h
  refine m_iast (j := 26) ha dX6_takesNote_147 (by decide) (by decide) e106 ?_
  have h := h _ rfl
  refine x_aload_0 dX6_takesNote_148 ?_
  refine m_get ha dX6_takesNote_149 fa_X6_63 rfl ?_
  refine x_bipush (v := 8) dX6_takesNote_152 (by decide) ?_
  refine x_aload_0 dX6_takesNote_154 ?_
  refine m_get ha dX6_takesNote_155 fa_X6_28 rfl ?_
  refine x_bipush (v := 12) dX6_takesNote_158 (by decide) ?_
  refine x_iload_1 dX6_takesNote_160 ?_
  refine x_iadd dX6_takesNote_161 ?_
  obtain ⟨e108, h⟩ := h
  refine m_iald (j := 2) ha dX6_takesNote_162 (by decide) (by decide) e108 ?_
  obtain ⟨e109, h⟩ := h
  refine m_iast (j := 26) ha dX6_takesNote_163 (by decide) (by decide) e109 ?_
  have h := h _ rfl
  refine x_aload_0 dX6_takesNote_164 ?_
  refine m_get ha dX6_takesNote_165 fa_X6_63 rfl ?_
  refine x_bipush (v := 9) dX6_takesNote_168 (by decide) ?_
  refine x_aload_0 dX6_takesNote_170 ?_
  refine m_get ha dX6_takesNote_171 fa_X6_28 rfl ?_
  refine x_bipush (v := 24) dX6_takesNote_174 (by decide) ?_
  obtain ⟨e111, h⟩ := h
  refine m_iald (j := 2) ha dX6_takesNote_176 (by decide) (by decide) e111 ?_
  obtain ⟨e112, h⟩ := h
  refine m_iast (j := 26) ha dX6_takesNote_177 (by decide) (by decide) e112 ?_
  have h := h _ rfl
  exact x_vret dX6_takesNote_178 rfl ⟨_, h, rfl, rfl⟩
def w_takesNote_104 (x1 : Int32) (x2 : Int32) (y1 : Int32) (y2 : Int32) (Kr : mS → Prop) (s : mS) : Prop :=
  (vp_in y1 10 ∧ (∀ s102 : mS, s102 = mI s 26 y1 y2 → (w_noteMany s102 (fun x103 s104 => ((¬ x1 = (x103 - 1) → (w_takesNote_125 x1 x2 5 0 Kr s104)) ∧ (x1 = (x103 - 1) → (w_takesNote_125 x1 x2 5 1 Kr s104)))))))
theorem c_takesNote_104 {G : xG} {l : Launch} {a : Nat → Nat} {g : xH} (ha : mInj a) {d : Nat} (hd : 1 ≤ d) (x1 : Int32) (x2 : Int32) (y1 : Int32) (y2 : Int32) (Kr : mS → Prop) (s : mS) (h : w_takesNote_104 x1 x2 y1 y2 Kr s) : xF G l kX6_takesNote (d + 1) 0 0 (mQv G a g Kr) 104 [some (.ref (a 51)), some (.int x1), some (.int x2), none, none] [.int y2, .int y1, .ref (a 26)] (mH G a s g) := by
  unfold w_takesNote_104 at h
  obtain ⟨e101, h⟩ := h
  refine m_iast (j := 26) ha dX6_takesNote_104 (by decide) (by decide) e101 ?_
  have h := h _ rfl
  refine x_aload_0 dX6_takesNote_105 ?_
  refine m_get ha dX6_takesNote_106 fa_X6_63 rfl ?_
  refine x_iconst (v := 5) dX6_takesNote_109 (by decide) ?_
  refine x_iload_1 dX6_takesNote_110 ?_
  refine x_aload_0 dX6_takesNote_111 ?_
  refine m_cVi0 ha rfl cv_X6_112 (Nat.le_of_ble_eq_true rfl) dX6_takesNote_112 (c_noteMany ha (by omega) h) (fun x103 s104 h => ?_)
  refine x_iconst (v := 1) dX6_takesNote_115 (by decide) ?_
  refine x_isub dX6_takesNote_116 ?_
  refine x_icmp_ne 124 dX6_takesNote_117 (by decide) (fun c105 => ?_) (fun c105 => ?_)
  · have h := h.1 c105
    refine x_iconst (v := 0) dX6_takesNote_124 (by decide) ?_
    exact x_le (xLe_cons (xLe_cons (xLe_cons (xLe_cons (xLe_cons (xLe_nil)))))) (c_takesNote_125 ha (by omega) _ _ _ _ _ _ h)
  · have h := h.2 c105
    refine x_iconst (v := 1) dX6_takesNote_120 (by decide) ?_
    refine x_goto 125 dX6_takesNote_121 (by decide) ?_
    exact x_le (xLe_cons (xLe_cons (xLe_cons (xLe_cons (xLe_cons (xLe_nil)))))) (c_takesNote_125 ha (by omega) _ _ _ _ _ _ h)
def w_takesNote_69 (x1 : Int32) (x2 : Int32) (x3 : Int32) (y1 : Int32) (y2 : Int32) (Kr : mS → Prop) (s : mS) : Prop :=
  (vp_in y1 10 ∧ (∀ s102 : mS, s102 = mI s 26 y1 y2 → ((x3 = 0 → (w_takesNote_104 x1 x2 4 0 Kr s102)) ∧ (¬ x3 = 0 → (vp_in (12 + x1) 5652 ∧ (vp_in ((12 + x1) - 1) 5652 ∧ (w_takesNote_104 x1 x2 4 ((mAt s102 2 (12 + x1)) - (mAt s102 2 ((12 + x1) - 1))) Kr s102)))))))
theorem c_takesNote_69 {G : xG} {l : Launch} {a : Nat → Nat} {g : xH} (ha : mInj a) {d : Nat} (hd : 1 ≤ d) (x1 : Int32) (x2 : Int32) (x3 : Int32) (y1 : Int32) (y2 : Int32) (Kr : mS → Prop) (s : mS) (h : w_takesNote_69 x1 x2 x3 y1 y2 Kr s) : xF G l kX6_takesNote (d + 1) 0 0 (mQv G a g Kr) 69 [some (.ref (a 51)), some (.int x1), some (.int x2), some (.int x3), none] [.int y2, .int y1, .ref (a 26)] (mH G a s g) := by
  unfold w_takesNote_69 at h
  obtain ⟨e101, h⟩ := h
  refine m_iast (j := 26) ha dX6_takesNote_69 (by decide) (by decide) e101 ?_
  have h := h _ rfl
  refine x_aload_0 dX6_takesNote_70 ?_
  refine m_get ha dX6_takesNote_71 fa_X6_63 rfl ?_
  refine x_iconst (v := 4) dX6_takesNote_74 (by decide) ?_
  refine x_iload_3 dX6_takesNote_75 ?_
  refine x_if_eq 103 dX6_takesNote_76 (by decide) (fun c103 => ?_) (fun c103 => ?_)
  · have h := h.1 c103
    refine x_iconst (v := 0) dX6_takesNote_103 (by decide) ?_
    exact x_le (xLe_cons (xLe_cons (xLe_cons (xLe_none (xLe_cons (xLe_nil)))))) (c_takesNote_104 ha (by omega) _ _ _ _ _ _ h)
  · have h := h.2 c103
    refine x_aload_0 dX6_takesNote_79 ?_
    refine m_get ha dX6_takesNote_80 fa_X6_28 rfl ?_
    refine x_bipush (v := 12) dX6_takesNote_83 (by decide) ?_
    refine x_iload_1 dX6_takesNote_85 ?_
    refine x_iadd dX6_takesNote_86 ?_
    obtain ⟨e104, h⟩ := h
    refine m_iald (j := 2) ha dX6_takesNote_87 (by decide) (by decide) e104 ?_
    refine x_aload_0 dX6_takesNote_88 ?_
    refine m_get ha dX6_takesNote_89 fa_X6_28 rfl ?_
    refine x_bipush (v := 12) dX6_takesNote_92 (by decide) ?_
    refine x_iload_1 dX6_takesNote_94 ?_
    refine x_iadd dX6_takesNote_95 ?_
    refine x_iconst (v := 1) dX6_takesNote_96 (by decide) ?_
    refine x_isub dX6_takesNote_97 ?_
    obtain ⟨e105, h⟩ := h
    refine m_iald (j := 2) ha dX6_takesNote_98 (by decide) (by decide) e105 ?_
    refine x_isub dX6_takesNote_99 ?_
    refine x_goto 104 dX6_takesNote_100 (by decide) ?_
    exact x_le (xLe_cons (xLe_cons (xLe_cons (xLe_none (xLe_cons (xLe_nil)))))) (c_takesNote_104 ha (by omega) _ _ _ _ _ _ h)
def w_takesNote_51 (x1 : Int32) (x2 : Int32) (x3 : Int32) (x4 : Int32) (y1 : Int32) (y2 : Int32) (Kr : mS → Prop) (s : mS) : Prop :=
  (vp_in y1 10 ∧ (∀ s102 : mS, s102 = mI s 26 y1 y2 → ((x3 = 0 → (w_takesNote_69 x1 x2 x3 3 0 Kr s102)) ∧ (¬ x3 = 0 → (w_takesNote_69 x1 x2 x3 3 (x2 - x4) Kr s102)))))
theorem c_takesNote_51 {G : xG} {l : Launch} {a : Nat → Nat} {g : xH} (ha : mInj a) {d : Nat} (hd : 1 ≤ d) (x1 : Int32) (x2 : Int32) (x3 : Int32) (x4 : Int32) (y1 : Int32) (y2 : Int32) (Kr : mS → Prop) (s : mS) (h : w_takesNote_51 x1 x2 x3 x4 y1 y2 Kr s) : xF G l kX6_takesNote (d + 1) 0 0 (mQv G a g Kr) 51 [some (.ref (a 51)), some (.int x1), some (.int x2), some (.int x3), some (.int x4)] [.int y2, .int y1, .ref (a 26)] (mH G a s g) := by
  unfold w_takesNote_51 at h
  obtain ⟨e101, h⟩ := h
  refine m_iast (j := 26) ha dX6_takesNote_51 (by decide) (by decide) e101 ?_
  have h := h _ rfl
  refine x_aload_0 dX6_takesNote_52 ?_
  refine m_get ha dX6_takesNote_53 fa_X6_63 rfl ?_
  refine x_iconst (v := 3) dX6_takesNote_56 (by decide) ?_
  refine x_iload_3 dX6_takesNote_57 ?_
  refine x_if_eq 68 dX6_takesNote_58 (by decide) (fun c103 => ?_) (fun c103 => ?_)
  · have h := h.1 c103
    refine x_iconst (v := 0) dX6_takesNote_68 (by decide) ?_
    exact x_le (xLe_cons (xLe_cons (xLe_cons (xLe_cons (xLe_none (xLe_nil)))))) (c_takesNote_69 ha (by omega) _ _ _ _ _ _ _ h)
  · have h := h.2 c103
    refine x_iload_2 dX6_takesNote_61 ?_
    refine x_iload_4 dX6_takesNote_62 ?_
    refine x_isub dX6_takesNote_64 ?_
    refine x_goto 69 dX6_takesNote_65 (by decide) ?_
    exact x_le (xLe_cons (xLe_cons (xLe_cons (xLe_cons (xLe_none (xLe_nil)))))) (c_takesNote_69 ha (by omega) _ _ _ _ _ _ _ h)
def w_takesNote (x1 : Int32) (x2 : Int32) (x3 : Int32) (x4 : Int32) (s : mS) (Kr : mS → Prop) : Prop :=
  (vp_in 0 10 ∧ (∀ s102 : mS, s102 = mI s 26 0 x1 → (vp_in (12 + x1) 5652 ∧ (vp_in 1 10 ∧ (∀ s105 : mS, s105 = mI s102 26 1 (x2 - (mAt s102 2 (12 + x1))) → ((x3 = 0 → (w_takesNote_51 x1 x2 x3 x4 2 0 Kr s105)) ∧ (¬ x3 = 0 → (vp_in ((12 + x1) - 1) 5652 ∧ (w_takesNote_51 x1 x2 x3 x4 2 (x4 - (mAt s105 2 ((12 + x1) - 1))) Kr s105)))))))))
theorem c_takesNote {G : xG} {l : Launch} {a : Nat → Nat} {g : xH} (ha : mInj a) {d : Nat} (hd : 2 ≤ d) {x1 : Int32} {x2 : Int32} {x3 : Int32} {x4 : Int32} {s : mS} {Kr : mS → Prop} (h : w_takesNote x1 x2 x3 x4 s Kr) : xC G l kX6_takesNote d 0 0 [.ref (a 51), .int x1, .int x2, .int x3, .int x4] (mH G a s g) (mQv G a g Kr) := by
  obtain ⟨d, rfl⟩ : ∃ z, d = z + 1 := ⟨d - 1, by omega⟩
  refine xC.start rfl (by decide +kernel) (Nat.le_of_ble_eq_true rfl) (lv := [some (.ref (a 51)), some (.int x1), some (.int x2), some (.int x3), some (.int x4)]) rfl ?_
  unfold w_takesNote at h
  refine x_aload_0 dX6_takesNote_0 ?_
  refine m_get ha dX6_takesNote_1 fa_X6_63 rfl ?_
  refine x_iconst (v := 0) dX6_takesNote_4 (by decide) ?_
  refine x_iload_1 dX6_takesNote_5 ?_
  obtain ⟨e101, h⟩ := h
  refine m_iast (j := 26) ha dX6_takesNote_6 (by decide) (by decide) e101 ?_
  have h := h _ rfl
  refine x_aload_0 dX6_takesNote_7 ?_
  refine m_get ha dX6_takesNote_8 fa_X6_63 rfl ?_
  refine x_iconst (v := 1) dX6_takesNote_11 (by decide) ?_
  refine x_iload_2 dX6_takesNote_12 ?_
  refine x_aload_0 dX6_takesNote_13 ?_
  refine m_get ha dX6_takesNote_14 fa_X6_28 rfl ?_
  refine x_bipush (v := 12) dX6_takesNote_17 (by decide) ?_
  refine x_iload_1 dX6_takesNote_19 ?_
  refine x_iadd dX6_takesNote_20 ?_
  obtain ⟨e103, h⟩ := h
  refine m_iald (j := 2) ha dX6_takesNote_21 (by decide) (by decide) e103 ?_
  refine x_isub dX6_takesNote_22 ?_
  obtain ⟨e104, h⟩ := h
  refine m_iast (j := 26) ha dX6_takesNote_23 (by decide) (by decide) e104 ?_
  have h := h _ rfl
  refine x_aload_0 dX6_takesNote_24 ?_
  refine m_get ha dX6_takesNote_25 fa_X6_63 rfl ?_
  refine x_iconst (v := 2) dX6_takesNote_28 (by decide) ?_
  refine x_iload_3 dX6_takesNote_29 ?_
  refine x_if_eq 50 dX6_takesNote_30 (by decide) (fun c106 => ?_) (fun c106 => ?_)
  · have h := h.1 c106
    refine x_iconst (v := 0) dX6_takesNote_50 (by decide) ?_
    exact x_le (xLe_cons (xLe_cons (xLe_cons (xLe_cons (xLe_cons (xLe_nil)))))) (c_takesNote_51 ha (by omega) _ _ _ _ _ _ _ _ h)
  · have h := h.2 c106
    refine x_iload_4 dX6_takesNote_33 ?_
    refine x_aload_0 dX6_takesNote_35 ?_
    refine m_get ha dX6_takesNote_36 fa_X6_28 rfl ?_
    refine x_bipush (v := 12) dX6_takesNote_39 (by decide) ?_
    refine x_iload_1 dX6_takesNote_41 ?_
    refine x_iadd dX6_takesNote_42 ?_
    refine x_iconst (v := 1) dX6_takesNote_43 (by decide) ?_
    refine x_isub dX6_takesNote_44 ?_
    obtain ⟨e107, h⟩ := h
    refine m_iald (j := 2) ha dX6_takesNote_45 (by decide) (by decide) e107 ?_
    refine x_isub dX6_takesNote_46 ?_
    refine x_goto 51 dX6_takesNote_47 (by decide) ?_
    exact x_le (xLe_cons (xLe_cons (xLe_cons (xLe_cons (xLe_cons (xLe_nil)))))) (c_takesNote_51 ha (by omega) _ _ _ _ _ _ _ _ h)
def w_takesNow_19 (x1 : Int32) (y1 : Int32) (y2 : Int32) (y3 : Int32) (Kr : mS → Prop) (s : mS) : Prop :=
  ((x1 ≤ 0 → (w_takesNote y1 y2 y3 0 s (fun s103 => (Kr s103)))) ∧ (¬ x1 ≤ 0 → (vp_in ((0 + x1) - 1) 5652 ∧ (w_takesNote y1 y2 y3 (mAt s 2 ((0 + x1) - 1)) s (fun s106 => (Kr s106))))))
theorem c_takesNow_19 {G : xG} {l : Launch} {a : Nat → Nat} {g : xH} (ha : mInj a) {d : Nat} (hd : 2 ≤ d) (x1 : Int32) (y1 : Int32) (y2 : Int32) (y3 : Int32) (Kr : mS → Prop) (s : mS) (h : w_takesNow_19 x1 y1 y2 y3 Kr s) : xF G l kX6_takesNow (d + 1) 0 0 (mQv G a g Kr) 19 [some (.ref (a 51)), some (.int x1)] [.int y3, .int y2, .int y1, .ref (a 51)] (mH G a s g) := by
  unfold w_takesNow_19 at h
  refine x_iload_1 dX6_takesNow_19 ?_
  refine x_if_le 36 dX6_takesNow_20 (by decide) (fun c101 => ?_) (fun c101 => ?_)
  · have h := h.1 c101
    refine x_iconst (v := 0) dX6_takesNow_36 (by decide) ?_
    refine m_cVv4 ha rfl cv_X6_321 (Nat.le_of_ble_eq_true rfl) dX6_takesNow_37 (c_takesNote ha (by omega) h) (fun s103 h => ?_)
    exact x_vret dX6_takesNow_40 rfl ⟨_, h, rfl, rfl⟩
  · have h := h.2 c101
    refine x_aload_0 dX6_takesNow_23 ?_
    refine m_get ha dX6_takesNow_24 fa_X6_28 rfl ?_
    refine x_iconst (v := 0) dX6_takesNow_27 (by decide) ?_
    refine x_iload_1 dX6_takesNow_28 ?_
    refine x_iadd dX6_takesNow_29 ?_
    refine x_iconst (v := 1) dX6_takesNow_30 (by decide) ?_
    refine x_isub dX6_takesNow_31 ?_
    obtain ⟨e104, h⟩ := h
    refine m_iald (j := 2) ha dX6_takesNow_32 (by decide) (by decide) e104 ?_
    refine x_goto 37 dX6_takesNow_33 (by decide) ?_
    refine m_cVv4 ha rfl cv_X6_321 (Nat.le_of_ble_eq_true rfl) dX6_takesNow_37 (c_takesNote ha (by omega) h) (fun s106 h => ?_)
    exact x_vret dX6_takesNow_40 rfl ⟨_, h, rfl, rfl⟩
def w_takesNow (x1 : Int32) (s : mS) (Kr : mS → Prop) : Prop :=
  (vp_in (0 + x1) 5652 ∧ ((x1 ≤ 0 → (w_takesNow_19 x1 x1 (mAt s 2 (0 + x1)) 0 Kr s)) ∧ (¬ x1 ≤ 0 → (w_takesNow_19 x1 x1 (mAt s 2 (0 + x1)) 1 Kr s))))
theorem c_takesNow {G : xG} {l : Launch} {a : Nat → Nat} {g : xH} (ha : mInj a) {d : Nat} (hd : 3 ≤ d) {x1 : Int32} {s : mS} {Kr : mS → Prop} (h : w_takesNow x1 s Kr) : xC G l kX6_takesNow d 0 0 [.ref (a 51), .int x1] (mH G a s g) (mQv G a g Kr) := by
  obtain ⟨d, rfl⟩ : ∃ z, d = z + 1 := ⟨d - 1, by omega⟩
  refine xC.start rfl (by decide +kernel) (Nat.le_of_ble_eq_true rfl) (lv := [some (.ref (a 51)), some (.int x1)]) rfl ?_
  unfold w_takesNow at h
  refine x_aload_0 dX6_takesNow_0 ?_
  refine x_iload_1 dX6_takesNow_1 ?_
  refine x_aload_0 dX6_takesNow_2 ?_
  refine m_get ha dX6_takesNow_3 fa_X6_28 rfl ?_
  refine x_iconst (v := 0) dX6_takesNow_6 (by decide) ?_
  refine x_iload_1 dX6_takesNow_7 ?_
  refine x_iadd dX6_takesNow_8 ?_
  obtain ⟨e101, h⟩ := h
  refine m_iald (j := 2) ha dX6_takesNow_9 (by decide) (by decide) e101 ?_
  refine x_iload_1 dX6_takesNow_10 ?_
  refine x_if_le 18 dX6_takesNow_11 (by decide) (fun c102 => ?_) (fun c102 => ?_)
  · have h := h.1 c102
    refine x_iconst (v := 0) dX6_takesNow_18 (by decide) ?_
    exact x_le (xLe_cons (xLe_cons (xLe_nil))) (c_takesNow_19 ha (by omega) _ _ _ _ _ _ h)
  · have h := h.2 c102
    refine x_iconst (v := 1) dX6_takesNow_14 (by decide) ?_
    refine x_goto 19 dX6_takesNow_15 (by decide) ?_
    exact x_le (xLe_cons (xLe_cons (xLe_nil))) (c_takesNow_19 ha (by omega) _ _ _ _ _ _ h)
def w_allOf_4 (N : Nat × Nat) (x1 : Int32) (Kr : Int32 → mS → Prop) (K : Int32 → mS → Prop) : Nat → Int32 → Int32 → mS → Prop
  | 0, _, _, _ => False
  | t + 1, x2, x3, s => (w_noteMany s (fun x101 s102 => ((x101 ≤ x3 → (K x2 s102)) ∧ (¬ x101 ≤ x3 → (w_takesNow x3 s102 (fun s105 => ((¬ x1 = 0 → ((¬ x1 = 1 → (w_isBarred N s105 (fun x108 s109 => ((x108 = 0 → (∀ x111 : Int32, x111 = x2 + 0 → (∀ x112 : Int32, x112 = x3 + 1 → ((fun x2 x3 s => w_allOf_4 N x1 Kr K t x2 x3 s) x111 x112 s109)))) ∧ (¬ x108 = 0 → (∀ x113 : Int32, x113 = x2 + 1 → (∀ x114 : Int32, x114 = x3 + 1 → ((fun x2 x3 s => w_allOf_4 N x1 Kr K t x2 x3 s) x113 x114 s109)))))))) ∧ (x1 = 1 → (w_earnsNow N s105 (fun x115 s116 => (∀ x117 : Int32, x117 = x2 + x115 → (∀ x118 : Int32, x118 = x3 + 1 → ((fun x2 x3 s => w_allOf_4 N x1 Kr K t x2 x3 s) x117 x118 s116)))))))) ∧ (x1 = 0 → (w_costsNow N s105 (fun x119 s120 => (∀ x121 : Int32, x121 = x2 + x119 → (∀ x122 : Int32, x122 = x3 + 1 → ((fun x2 x3 s => w_allOf_4 N x1 Kr K t x2 x3 s) x121 x122 s120)))))))))))))
theorem c_allOf_4 {G : xG} {l : Launch} {a : Nat → Nat} {g : xH} (ha : mInj a) {d : Nat} {N : Nat × Nat} (hd : 2 * N.2 + 7 ≤ d) (Kr : Int32 → mS → Prop) (K : Int32 → mS → Prop) (x1 : Int32) : ∀ (t : Nat) (x2 : Int32) (x3 : Int32) (s : mS) , w_allOf_4 N x1 Kr K t x2 x3 s → (∀ (z2 : Int32) (s : mS), K z2 s → xF G l kX6_allOf (d + 1) 0 0 (mQi G a g Kr) 61 [some (.ref (a 51)), none, some (.int z2), none] [] (mH G a s g)) → xF G l kX6_allOf (d + 1) 0 0 (mQi G a g Kr) 4 [some (.ref (a 51)), some (.int x1), some (.int x2), some (.int x3)] [] (mH G a s g) := by
  intro t
  induction t with
  | zero =>
    intro _ _ _ h _
    exact absurd h (by simp [w_allOf_4])
  | succ t ih =>
    intro x2 x3 s h hK
    have hR := fun x2 x3 s h => ih x2 x3 s h hK
    unfold w_allOf_4 at h
    refine x_iload_3 dX6_allOf_4 ?_
    refine x_aload_0 dX6_allOf_5 ?_
    refine m_cVi0 ha rfl cv_X6_112 (Nat.le_of_ble_eq_true rfl) dX6_allOf_6 (c_noteMany ha (by omega) h) (fun x101 s102 h => ?_)
    refine x_icmp_ge 61 dX6_allOf_9 (by decide) (fun c103 => ?_) (fun c103 => ?_)
    · have h := h.1 c103
      exact x_le (xLe_cons (xLe_none (xLe_cons (xLe_none (xLe_nil))))) (hK _ _ h)
    · have h := h.2 c103
      refine x_aload_0 dX6_allOf_12 ?_
      refine x_iload_3 dX6_allOf_13 ?_
      refine m_cVv1 ha rfl cv_X6_127 (Nat.le_of_ble_eq_true rfl) dX6_allOf_14 (c_takesNow ha (by omega) h) (fun s105 h => ?_)
      refine x_iload_2 dX6_allOf_17 ?_
      refine x_iload_1 dX6_allOf_18 ?_
      refine x_if_ne 29 dX6_allOf_19 (by decide) (fun c106 => ?_) (fun c106 => ?_)
      · have h := h.1 c106
        refine x_iload_1 dX6_allOf_29 ?_
        refine x_iconst (v := 1) dX6_allOf_30 (by decide) ?_
        refine x_icmp_ne 41 dX6_allOf_31 (by decide) (fun c107 => ?_) (fun c107 => ?_)
        · have h := h.1 c107
          refine x_aload_0 dX6_allOf_41 ?_
          refine m_cVi0 ha rfl cv_X6_137 (Nat.le_of_ble_eq_true rfl) dX6_allOf_42 (c_isBarred ha (by omega) h) (fun x108 s109 h => ?_)
          refine x_if_eq 52 dX6_allOf_45 (by decide) (fun c110 => ?_) (fun c110 => ?_)
          · have h := h.1 c110
            refine x_iconst (v := 0) dX6_allOf_52 (by decide) ?_
            refine x_iadd dX6_allOf_53 ?_
            refine x_istore_2 dX6_allOf_54 (by decide) xN2_i ?_
            have h := h _ rfl
            refine x_iinc_3 (v := 1) dX6_allOf_55 (by decide) (by decide) xN2_i ?_
            have h := h _ rfl
            refine x_goto 4 dX6_allOf_58 (by decide) ?_
            exact x_le (xLe_cons (xLe_cons (xLe_cons (xLe_cons (xLe_nil))))) (hR _ _ _ h)
          · have h := h.2 c110
            refine x_iconst (v := 1) dX6_allOf_48 (by decide) ?_
            refine x_goto 53 dX6_allOf_49 (by decide) ?_
            refine x_iadd dX6_allOf_53 ?_
            refine x_istore_2 dX6_allOf_54 (by decide) xN2_i ?_
            have h := h _ rfl
            refine x_iinc_3 (v := 1) dX6_allOf_55 (by decide) (by decide) xN2_i ?_
            have h := h _ rfl
            refine x_goto 4 dX6_allOf_58 (by decide) ?_
            exact x_le (xLe_cons (xLe_cons (xLe_cons (xLe_cons (xLe_nil))))) (hR _ _ _ h)
        · have h := h.2 c107
          refine x_aload_0 dX6_allOf_34 ?_
          refine m_cVi0 ha rfl cv_X6_134 (Nat.le_of_ble_eq_true rfl) dX6_allOf_35 (c_earnsNow ha (by omega) h) (fun x115 s116 h => ?_)
          refine x_goto 53 dX6_allOf_38 (by decide) ?_
          refine x_iadd dX6_allOf_53 ?_
          refine x_istore_2 dX6_allOf_54 (by decide) xN2_i ?_
          have h := h _ rfl
          refine x_iinc_3 (v := 1) dX6_allOf_55 (by decide) (by decide) xN2_i ?_
          have h := h _ rfl
          refine x_goto 4 dX6_allOf_58 (by decide) ?_
          exact x_le (xLe_cons (xLe_cons (xLe_cons (xLe_cons (xLe_nil))))) (hR _ _ _ h)
      · have h := h.2 c106
        refine x_aload_0 dX6_allOf_22 ?_
        refine m_cVi0 ha rfl cv_X6_131 (Nat.le_of_ble_eq_true rfl) dX6_allOf_23 (c_costsNow ha (by omega) h) (fun x119 s120 h => ?_)
        refine x_goto 53 dX6_allOf_26 (by decide) ?_
        refine x_iadd dX6_allOf_53 ?_
        refine x_istore_2 dX6_allOf_54 (by decide) xN2_i ?_
        have h := h _ rfl
        refine x_iinc_3 (v := 1) dX6_allOf_55 (by decide) (by decide) xN2_i ?_
        have h := h _ rfl
        refine x_goto 4 dX6_allOf_58 (by decide) ?_
        exact x_le (xLe_cons (xLe_cons (xLe_cons (xLe_cons (xLe_nil))))) (hR _ _ _ h)
def w_allOf (N : Nat × Nat) (x1 : Int32) (s : mS) (Kr : Int32 → mS → Prop) : Prop :=
  (w_allOf_4 N x1 Kr (fun x101 s102 => (Kr x101 s102)) N.1 0 0 s)
theorem c_allOf {G : xG} {l : Launch} {a : Nat → Nat} {g : xH} (ha : mInj a) {d : Nat} {N : Nat × Nat} (hd : 2 * N.2 + 8 ≤ d) {x1 : Int32} {s : mS} {Kr : Int32 → mS → Prop} (h : w_allOf N x1 s Kr) : xC G l kX6_allOf d 0 0 [.ref (a 51), .int x1] (mH G a s g) (mQi G a g Kr) := by
  obtain ⟨d, rfl⟩ : ∃ z, d = z + 1 := ⟨d - 1, by omega⟩
  refine xC.start rfl (by decide +kernel) (Nat.le_of_ble_eq_true rfl) (lv := [some (.ref (a 51)), some (.int x1), none, none]) rfl ?_
  unfold w_allOf at h
  refine x_iconst (v := 0) dX6_allOf_0 (by decide) ?_
  refine x_istore_2 dX6_allOf_1 (by decide) xN2_i ?_
  refine x_iconst (v := 0) dX6_allOf_2 (by decide) ?_
  refine x_istore_3 dX6_allOf_3 (by decide) xN2_i ?_
  refine x_le (xLe_cons (xLe_cons (xLe_cons (xLe_cons (xLe_nil))))) (c_allOf_4 ha (by omega) _ _ _ _ _ _ _ h (fun x101 s102 h => ?_))
  refine x_iload_2 dX6_allOf_61 ?_
  exact x_iret dX6_allOf_62 rfl ⟨_, _, h, rfl, rfl⟩
def w_all (N : Nat × Nat) (x1 : Int32) (s : mS) (Kr : Int32 → mS → Prop) : Prop :=
  (w_lies x1 0 2 (fun x101 => ((x101 = 0 → (Kr (-1) s)) ∧ (¬ x101 = 0 → (w_allOf N x1 s (fun x104 s105 => (Kr x104 s105)))))))
theorem c_all {G : xG} {l : Launch} {a : Nat → Nat} {g : xH} (ha : mInj a) {d : Nat} {N : Nat × Nat} (hd : 2 * N.2 + 9 ≤ d) {x1 : Int32} {s : mS} {Kr : Int32 → mS → Prop} (h : w_all N x1 s Kr) : xC G l kX6_all d 0 0 [.ref (a 51), .int x1] (mH G a s g) (mQi G a g Kr) := by
  obtain ⟨d, rfl⟩ : ∃ z, d = z + 1 := ⟨d - 1, by omega⟩
  refine xC.start rfl (by decide +kernel) (Nat.le_of_ble_eq_true rfl) (lv := [some (.ref (a 51)), some (.int x1)]) rfl ?_
  unfold w_all at h
  refine x_iload_1 dX6_all_0 ?_
  refine x_iconst (v := 0) dX6_all_1 (by decide) ?_
  refine x_iconst (v := 2) dX6_all_2 (by decide) ?_
  refine m_cSi3 rfl cs_X6_18 (Nat.le_of_ble_eq_true rfl) dX6_all_3 (c_lies (by omega) h) (fun x101 h => ?_)
  refine x_if_eq 17 dX6_all_6 (by decide) (fun c103 => ?_) (fun c103 => ?_)
  · have h := h.1 c103
    refine x_iconst (v := (-1)) dX6_all_17 (by decide) ?_
    exact x_iret dX6_all_18 rfl ⟨_, _, h, rfl, rfl⟩
  · have h := h.2 c103
    refine x_aload_0 dX6_all_9 ?_
    refine x_iload_1 dX6_all_10 ?_
    refine m_cVi1 ha rfl cv_X6_332 (Nat.le_of_ble_eq_true rfl) dX6_all_11 (c_allOf ha (by omega) h) (fun x104 s105 h => ?_)
    refine x_goto 18 dX6_all_14 (by decide) ?_
    exact x_iret dX6_all_18 rfl ⟨_, _, h, rfl, rfl⟩
def w_apartOf (x1 : Int32) (s : mS) (Kr : Int32 → mS → Prop) : Prop :=
  (vp_in (0 + x1) 5652 ∧ (vp_in (12 + x1) 5652 ∧ (Kr ((mAt s 2 (0 + x1)) - (mAt s 2 (12 + x1))) s)))
theorem c_apartOf {G : xG} {l : Launch} {a : Nat → Nat} {g : xH} (ha : mInj a) {d : Nat} (hd : 1 ≤ d) {x1 : Int32} {s : mS} {Kr : Int32 → mS → Prop} (h : w_apartOf x1 s Kr) : xC G l kX6_apartOf d 0 0 [.ref (a 51), .int x1] (mH G a s g) (mQi G a g Kr) := by
  obtain ⟨d, rfl⟩ : ∃ z, d = z + 1 := ⟨d - 1, by omega⟩
  refine xC.start rfl (by decide +kernel) (Nat.le_of_ble_eq_true rfl) (lv := [some (.ref (a 51)), some (.int x1)]) rfl ?_
  unfold w_apartOf at h
  refine x_aload_0 dX6_apartOf_0 ?_
  refine m_get ha dX6_apartOf_1 fa_X6_28 rfl ?_
  refine x_iconst (v := 0) dX6_apartOf_4 (by decide) ?_
  refine x_iload_1 dX6_apartOf_5 ?_
  refine x_iadd dX6_apartOf_6 ?_
  obtain ⟨e101, h⟩ := h
  refine m_iald (j := 2) ha dX6_apartOf_7 (by decide) (by decide) e101 ?_
  refine x_aload_0 dX6_apartOf_8 ?_
  refine m_get ha dX6_apartOf_9 fa_X6_28 rfl ?_
  refine x_bipush (v := 12) dX6_apartOf_12 (by decide) ?_
  refine x_iload_1 dX6_apartOf_14 ?_
  refine x_iadd dX6_apartOf_15 ?_
  obtain ⟨e102, h⟩ := h
  refine m_iald (j := 2) ha dX6_apartOf_16 (by decide) (by decide) e102 ?_
  refine x_isub dX6_apartOf_17 ?_
  exact x_iret dX6_apartOf_18 rfl ⟨_, _, h, rfl, rfl⟩
def w_leapOf (x1 : Int32) (s : mS) (Kr : Int32 → mS → Prop) : Prop :=
  ((¬ x1 = 0 → (vp_in (0 + x1) 5652 ∧ (vp_in ((0 + x1) - 1) 5652 ∧ (Kr ((mAt s 2 (0 + x1)) - (mAt s 2 ((0 + x1) - 1))) s)))) ∧ (x1 = 0 → (Kr 0 s)))
theorem c_leapOf {G : xG} {l : Launch} {a : Nat → Nat} {g : xH} (ha : mInj a) {d : Nat} (hd : 1 ≤ d) {x1 : Int32} {s : mS} {Kr : Int32 → mS → Prop} (h : w_leapOf x1 s Kr) : xC G l kX6_leapOf d 0 0 [.ref (a 51), .int x1] (mH G a s g) (mQi G a g Kr) := by
  obtain ⟨d, rfl⟩ : ∃ z, d = z + 1 := ⟨d - 1, by omega⟩
  refine xC.start rfl (by decide +kernel) (Nat.le_of_ble_eq_true rfl) (lv := [some (.ref (a 51)), some (.int x1)]) rfl ?_
  unfold w_leapOf at h
  refine x_iload_1 dX6_leapOf_0 ?_
  refine x_if_ne 6 dX6_leapOf_1 (by decide) (fun c101 => ?_) (fun c101 => ?_)
  · have h := h.1 c101
    refine x_aload_0 dX6_leapOf_6 ?_
    refine m_get ha dX6_leapOf_7 fa_X6_28 rfl ?_
    refine x_iconst (v := 0) dX6_leapOf_10 (by decide) ?_
    refine x_iload_1 dX6_leapOf_11 ?_
    refine x_iadd dX6_leapOf_12 ?_
    obtain ⟨e102, h⟩ := h
    refine m_iald (j := 2) ha dX6_leapOf_13 (by decide) (by decide) e102 ?_
    refine x_aload_0 dX6_leapOf_14 ?_
    refine m_get ha dX6_leapOf_15 fa_X6_28 rfl ?_
    refine x_iconst (v := 0) dX6_leapOf_18 (by decide) ?_
    refine x_iload_1 dX6_leapOf_19 ?_
    refine x_iadd dX6_leapOf_20 ?_
    refine x_iconst (v := 1) dX6_leapOf_21 (by decide) ?_
    refine x_isub dX6_leapOf_22 ?_
    obtain ⟨e103, h⟩ := h
    refine m_iald (j := 2) ha dX6_leapOf_23 (by decide) (by decide) e103 ?_
    refine x_isub dX6_leapOf_24 ?_
    exact x_iret dX6_leapOf_25 rfl ⟨_, _, h, rfl, rfl⟩
  · have h := h.2 c101
    refine x_iconst (v := 0) dX6_leapOf_4 (by decide) ?_
    exact x_iret dX6_leapOf_5 rfl ⟨_, _, h, rfl, rfl⟩
def w_at (x1 : Int32) (x2 : Int32) (s : mS) (Kr : Int32 → mS → Prop) : Prop :=
  (w_isNote x1 s (fun x101 s102 => ((x101 = 0 → (Kr (-1000) s102)) ∧ (¬ x101 = 0 → (w_lies x2 0 1 (fun x104 => ((¬ x104 = 0 → ((¬ x2 = 0 → (w_leapOf x1 s102 (fun x108 s109 => (Kr x108 s109)))) ∧ (x2 = 0 → (w_apartOf x1 s102 (fun x110 s111 => (Kr x110 s111)))))) ∧ (x104 = 0 → (Kr (-1000) s102)))))))))
theorem c_at {G : xG} {l : Launch} {a : Nat → Nat} {g : xH} (ha : mInj a) {d : Nat} (hd : 3 ≤ d) {x1 : Int32} {x2 : Int32} {s : mS} {Kr : Int32 → mS → Prop} (h : w_at x1 x2 s Kr) : xC G l kX6_at d 0 0 [.ref (a 51), .int x1, .int x2] (mH G a s g) (mQi G a g Kr) := by
  obtain ⟨d, rfl⟩ : ∃ z, d = z + 1 := ⟨d - 1, by omega⟩
  refine xC.start rfl (by decide +kernel) (Nat.le_of_ble_eq_true rfl) (lv := [some (.ref (a 51)), some (.int x1), some (.int x2)]) rfl ?_
  unfold w_at at h
  refine x_aload_0 dX6_at_0 ?_
  refine x_iload_1 dX6_at_1 ?_
  refine m_cVi1 ha rfl cv_X6_124 (Nat.le_of_ble_eq_true rfl) dX6_at_2 (c_isNote ha (by omega) h) (fun x101 s102 h => ?_)
  refine x_if_eq 17 dX6_at_5 (by decide) (fun c103 => ?_) (fun c103 => ?_)
  · have h := h.1 c103
    refine x_sipush (v := (-1000)) dX6_at_17 (by decide) ?_
    exact x_iret dX6_at_20 rfl ⟨_, _, h, rfl, rfl⟩
  · have h := h.2 c103
    refine x_iload_2 dX6_at_8 ?_
    refine x_iconst (v := 0) dX6_at_9 (by decide) ?_
    refine x_iconst (v := 1) dX6_at_10 (by decide) ?_
    refine m_cSi3 rfl cs_X6_18 (Nat.le_of_ble_eq_true rfl) dX6_at_11 (c_lies (by omega) h) (fun x104 h => ?_)
    refine x_if_ne 21 dX6_at_14 (by decide) (fun c106 => ?_) (fun c106 => ?_)
    · have h := h.1 c106
      refine x_iload_2 dX6_at_21 ?_
      refine x_if_ne 33 dX6_at_22 (by decide) (fun c107 => ?_) (fun c107 => ?_)
      · have h := h.1 c107
        refine x_aload_0 dX6_at_33 ?_
        refine x_iload_1 dX6_at_34 ?_
        refine m_cVi1 ha rfl cv_X6_144 (Nat.le_of_ble_eq_true rfl) dX6_at_35 (c_leapOf ha (by omega) h) (fun x108 s109 h => ?_)
        exact x_iret dX6_at_38 rfl ⟨_, _, h, rfl, rfl⟩
      · have h := h.2 c107
        refine x_aload_0 dX6_at_25 ?_
        refine x_iload_1 dX6_at_26 ?_
        refine m_cVi1 ha rfl cv_X6_141 (Nat.le_of_ble_eq_true rfl) dX6_at_27 (c_apartOf ha (by omega) h) (fun x110 s111 h => ?_)
        refine x_goto 38 dX6_at_30 (by decide) ?_
        exact x_iret dX6_at_38 rfl ⟨_, _, h, rfl, rfl⟩
    · have h := h.2 c106
      refine x_sipush (v := (-1000)) dX6_at_17 (by decide) ?_
      exact x_iret dX6_at_20 rfl ⟨_, _, h, rfl, rfl⟩
def w_refuses (x1 : Int32) (s : mS) (Kr : Int32 → mS → Prop) : Prop :=
  (∀ s101 : mS, s101 = mF s 0 x1 → (∀ x102 : Int32, x102 = -x1 → (vp_in x102 7 ∧ (vp_in x102 7 ∧ (∀ s105 : mS, s105 = mI s101 1 x102 ((mAt s101 1 x102) + 1) → (Kr x1 s105))))))
theorem c_refuses {G : xG} {l : Launch} {a : Nat → Nat} {g : xH} (ha : mInj a) {d : Nat} (hd : 1 ≤ d) {x1 : Int32} {s : mS} {Kr : Int32 → mS → Prop} (h : w_refuses x1 s Kr) : xC G l kX6_refuses d 0 0 [.ref (a 51), .int x1] (mH G a s g) (mQi G a g Kr) := by
  obtain ⟨d, rfl⟩ : ∃ z, d = z + 1 := ⟨d - 1, by omega⟩
  refine xC.start rfl (by decide +kernel) (Nat.le_of_ble_eq_true rfl) (lv := [some (.ref (a 51)), some (.int x1)]) rfl ?_
  unfold w_refuses at h
  refine x_aload_0 dX6_refuses_0 ?_
  refine x_iload_1 dX6_refuses_1 ?_
  refine m_put ha dX6_refuses_2 fp_X6_3 (mfs_0 _ _ _) (by decide) rfl rfl ?_
  have h := h _ rfl
  refine x_aload_0 dX6_refuses_5 ?_
  refine m_get ha dX6_refuses_6 fa_X6_7 rfl ?_
  refine x_iload_1 dX6_refuses_9 ?_
  refine x_ineg dX6_refuses_10 ?_
  refine x_dup2 dX6_refuses_11 rfl rfl ?_
  have h := h _ rfl
  obtain ⟨e103, h⟩ := h
  refine m_iald (j := 1) ha dX6_refuses_12 (by decide) (by decide) e103 ?_
  refine x_iconst (v := 1) dX6_refuses_13 (by decide) ?_
  refine x_iadd dX6_refuses_14 ?_
  obtain ⟨e104, h⟩ := h
  refine m_iast (j := 1) ha dX6_refuses_15 (by decide) (by decide) e104 ?_
  have h := h _ rfl
  refine x_iload_1 dX6_refuses_16 ?_
  exact x_iret dX6_refuses_17 rfl ⟨_, _, h, rfl, rfl⟩
def w_good (x1 : Int32) (s : mS) (Kr : Int32 → mS → Prop) : Prop :=
  (∀ s101 : mS, s101 = mF s 0 0 → (Kr x1 s101))
theorem c_good {G : xG} {l : Launch} {a : Nat → Nat} {g : xH} (ha : mInj a) {d : Nat} (hd : 1 ≤ d) {x1 : Int32} {s : mS} {Kr : Int32 → mS → Prop} (h : w_good x1 s Kr) : xC G l kX6_good d 0 0 [.ref (a 51), .int x1] (mH G a s g) (mQi G a g Kr) := by
  obtain ⟨d, rfl⟩ : ∃ z, d = z + 1 := ⟨d - 1, by omega⟩
  refine xC.start rfl (by decide +kernel) (Nat.le_of_ble_eq_true rfl) (lv := [some (.ref (a 51)), some (.int x1)]) rfl ?_
  unfold w_good at h
  refine x_aload_0 dX6_good_0 ?_
  refine x_iconst (v := 0) dX6_good_1 (by decide) ?_
  refine m_put ha dX6_good_2 fp_X6_3 (mfs_0 _ _ _) (by decide) rfl rfl ?_
  have h := h _ rfl
  refine x_iload_1 dX6_good_5 ?_
  exact x_iret dX6_good_6 rfl ⟨_, _, h, rfl, rfl⟩
def w_settled (x1 : Int32) (s : mS) (Kr : Int32 → mS → Prop) : Prop :=
  (∀ s101 : mS, s101 = mF s 33 0 → (w_good x1 s101 (fun x102 s103 => (Kr x102 s103))))
theorem c_settled {G : xG} {l : Launch} {a : Nat → Nat} {g : xH} (ha : mInj a) {d : Nat} (hd : 2 ≤ d) {x1 : Int32} {s : mS} {Kr : Int32 → mS → Prop} (h : w_settled x1 s Kr) : xC G l kX6_settled d 0 0 [.ref (a 51), .int x1] (mH G a s g) (mQi G a g Kr) := by
  obtain ⟨d, rfl⟩ : ∃ z, d = z + 1 := ⟨d - 1, by omega⟩
  refine xC.start rfl (by decide +kernel) (Nat.le_of_ble_eq_true rfl) (lv := [some (.ref (a 51)), some (.int x1)]) rfl ?_
  unfold w_settled at h
  refine x_aload_0 dX6_settled_0 ?_
  refine x_iconst (v := 0) dX6_settled_1 (by decide) ?_
  refine m_put ha dX6_settled_2 fp_X6_11 (mfs_33 _ _ _) (by decide) rfl rfl ?_
  have h := h _ rfl
  refine x_aload_0 dX6_settled_5 ?_
  refine x_iload_1 dX6_settled_6 ?_
  refine m_cVi1 ha rfl cv_X6_14 (Nat.le_of_ble_eq_true rfl) dX6_settled_7 (c_good ha (by omega) h) (fun x102 s103 h => ?_)
  exact x_iret dX6_settled_10 rfl ⟨_, _, h, rfl, rfl⟩
def w_back_33 (N : Nat × Nat) (x1 : Int32) (Kr : Int32 → mS → Prop) (K : mS → Prop) : Nat → Int32 → mS → Prop
  | 0, _, _ => False
  | t + 1, x2, s => ((5652 ≤ x2 → (K s)) ∧ (¬ 5652 ≤ x2 → (vp_in ((5652 * x1) + x2) 11304 ∧ (vp_in x2 5652 ∧ (∀ s104 : mS, s104 = mI s 2 x2 (mAt s 3 ((5652 * x1) + x2)) → (∀ x105 : Int32, x105 = x2 + 1 → ((fun x2 s => w_back_33 N x1 Kr K t x2 s) x105 s104)))))))
theorem c_back_33 {G : xG} {l : Launch} {a : Nat → Nat} {g : xH} (ha : mInj a) {d : Nat} {N : Nat × Nat} (hd : 2 ≤ d) (Kr : Int32 → mS → Prop) (K : mS → Prop) (x1 : Int32) : ∀ (t : Nat) (x2 : Int32) (s : mS) , w_back_33 N x1 Kr K t x2 s → (∀ (s : mS), K s → xF G l kX6_back (d + 1) 0 0 (mQi G a g Kr) 64 [some (.ref (a 51)), none, none] [] (mH G a s g)) → xF G l kX6_back (d + 1) 0 0 (mQi G a g Kr) 33 [some (.ref (a 51)), some (.int x1), some (.int x2)] [] (mH G a s g) := by
  intro t
  induction t with
  | zero =>
    intro _ _ h _
    exact absurd h (by simp [w_back_33])
  | succ t ih =>
    intro x2 s h hK
    have hR := fun x2 s h => ih x2 s h hK
    unfold w_back_33 at h
    refine x_iload_2 dX6_back_33 ?_
    refine x_sipush (v := 5652) dX6_back_34 (by decide) ?_
    refine x_icmp_ge 64 dX6_back_37 (by decide) (fun c101 => ?_) (fun c101 => ?_)
    · have h := h.1 c101
      exact x_le (xLe_cons (xLe_none (xLe_none (xLe_nil)))) (hK _ h)
    · have h := h.2 c101
      refine x_aload_0 dX6_back_40 ?_
      refine m_get ha dX6_back_41 fa_X6_28 rfl ?_
      refine x_iload_2 dX6_back_44 ?_
      refine x_aload_0 dX6_back_45 ?_
      refine m_get ha dX6_back_46 fa_X6_31 rfl ?_
      refine x_sipush (v := 5652) dX6_back_49 (by decide) ?_
      refine x_iload_1 dX6_back_52 ?_
      refine x_imul dX6_back_53 ?_
      refine x_iload_2 dX6_back_54 ?_
      refine x_iadd dX6_back_55 ?_
      obtain ⟨e102, h⟩ := h
      refine m_iald (j := 3) ha dX6_back_56 (by decide) (by decide) e102 ?_
      obtain ⟨e103, h⟩ := h
      refine m_iast (j := 2) ha dX6_back_57 (by decide) (by decide) e103 ?_
      have h := h _ rfl
      refine x_iinc_2 (v := 1) dX6_back_58 (by decide) (by decide) xN2_i ?_
      have h := h _ rfl
      refine x_goto 33 dX6_back_61 (by decide) ?_
      exact x_le (xLe_cons (xLe_cons (xLe_cons (xLe_nil)))) (hR _ _ h)
def w_back (N : Nat × Nat) (x1 : Int32) (s : mS) (Kr : Int32 → mS → Prop) : Prop :=
  (w_lies x1 0 1 (fun x101 => ((¬ x101 = 0 → (vp_in x1 2 ∧ ((¬ (mAt s 4 x1) = 0 → (w_back_33 N x1 Kr (fun s106 => (w_settled 0 s106 (fun x107 s108 => (Kr x107 s108)))) N.1 0 s)) ∧ ((mAt s 4 x1) = 0 → (w_refuses (-2) s (fun x109 s110 => (Kr x109 s110))))))) ∧ (x101 = 0 → (w_refuses (-1) s (fun x111 s112 => (Kr x111 s112)))))))
theorem c_back {G : xG} {l : Launch} {a : Nat → Nat} {g : xH} (ha : mInj a) {d : Nat} {N : Nat × Nat} (hd : 3 ≤ d) {x1 : Int32} {s : mS} {Kr : Int32 → mS → Prop} (h : w_back N x1 s Kr) : xC G l kX6_back d 0 0 [.ref (a 51), .int x1] (mH G a s g) (mQi G a g Kr) := by
  obtain ⟨d, rfl⟩ : ∃ z, d = z + 1 := ⟨d - 1, by omega⟩
  refine xC.start rfl (by decide +kernel) (Nat.le_of_ble_eq_true rfl) (lv := [some (.ref (a 51)), some (.int x1), none]) rfl ?_
  unfold w_back at h
  refine x_iload_1 dX6_back_0 ?_
  refine x_iconst (v := 0) dX6_back_1 (by decide) ?_
  refine x_iconst (v := 1) dX6_back_2 (by decide) ?_
  refine m_cSi3 rfl cs_X6_18 (Nat.le_of_ble_eq_true rfl) dX6_back_3 (c_lies (by omega) h) (fun x101 h => ?_)
  refine x_if_ne 15 dX6_back_6 (by decide) (fun c103 => ?_) (fun c103 => ?_)
  · have h := h.1 c103
    refine x_aload_0 dX6_back_15 ?_
    refine m_get ha dX6_back_16 fa_X6_34 rfl ?_
    refine x_iload_1 dX6_back_19 ?_
    obtain ⟨e104, h⟩ := h
    refine m_zald (j := 4) ha dX6_back_20 (by decide) (by decide) e104 ?_
    refine x_if_ne 31 dX6_back_21 (by decide) (fun c105 => ?_) (fun c105 => ?_)
    · have h := h.1 c105
      refine x_iconst (v := 0) dX6_back_31 (by decide) ?_
      refine x_istore_2 dX6_back_32 (by decide) xN2_i ?_
      refine x_le (xLe_cons (xLe_cons (xLe_cons (xLe_nil)))) (c_back_33 ha (by omega) _ _ _ _ _ _ h (fun s106 h => ?_))
      refine x_aload_0 dX6_back_64 ?_
      refine x_iconst (v := 0) dX6_back_65 (by decide) ?_
      refine m_cVi1 ha rfl cv_X6_109 (Nat.le_of_ble_eq_true rfl) dX6_back_66 (c_settled ha (by omega) h) (fun x107 s108 h => ?_)
      exact x_iret dX6_back_69 rfl ⟨_, _, h, rfl, rfl⟩
    · have h := h.2 c105
      refine x_aload_0 dX6_back_24 ?_
      refine x_bipush (v := (-2)) dX6_back_25 (by decide) ?_
      refine m_cVi1 ha rfl cv_X6_106 (Nat.le_of_ble_eq_true rfl) dX6_back_27 (c_refuses ha (by omega) h) (fun x109 s110 h => ?_)
      exact x_iret dX6_back_30 rfl ⟨_, _, h, rfl, rfl⟩
  · have h := h.2 c103
    refine x_aload_0 dX6_back_9 ?_
    refine x_iconst (v := (-1)) dX6_back_10 (by decide) ?_
    refine m_cVi1 ha rfl cv_X6_106 (Nat.le_of_ble_eq_true rfl) dX6_back_11 (c_refuses ha (by omega) h) (fun x111 s112 h => ?_)
    exact x_iret dX6_back_14 rfl ⟨_, _, h, rfl, rfl⟩
def w_noteAt (x0 : Int32) (x1 : Int32) (x2 : Int32) (Kr : Int32 → Prop) : Prop :=
  (Kr (((625 * x0) + (25 * x1)) + x2))
theorem c_noteAt {G : xG} {l : Launch} {h0 : xH} {d : Nat} (hd : 1 ≤ d) {x0 : Int32} {x1 : Int32} {x2 : Int32} {Kr : Int32 → Prop} (h : w_noteAt x0 x1 x2 Kr) : xC G l kX6_noteAt d 0 0 [.int x0, .int x1, .int x2] h0 (xQi h0 Kr) := by
  obtain ⟨d, rfl⟩ : ∃ z, d = z + 1 := ⟨d - 1, by omega⟩
  refine xC.start rfl (by decide +kernel) (Nat.le_of_ble_eq_true rfl) (lv := [some (.int x0), some (.int x1), some (.int x2)]) rfl ?_
  unfold w_noteAt at h
  refine x_sipush (v := 625) dX6_noteAt_0 (by decide) ?_
  refine x_iload_0 dX6_noteAt_3 ?_
  refine x_imul dX6_noteAt_4 ?_
  refine x_bipush (v := 25) dX6_noteAt_5 (by decide) ?_
  refine x_iload_1 dX6_noteAt_7 ?_
  refine x_imul dX6_noteAt_8 ?_
  refine x_iadd dX6_noteAt_9 ?_
  refine x_iload_2 dX6_noteAt_10 ?_
  refine x_iadd dX6_noteAt_11 ?_
  exact x_iret dX6_noteAt_12 rfl ⟨_, h, rfl, rfl⟩
def w_laysNote_91 (N : Nat × Nat) (x1 : Int32) (x2 : Int32) (x3 : Int32) (x4 : Int32) (y1 : Int32) (y2 : Int32) (Kr : mS → Prop) (K : mS → Prop) (R : Int32 → mS → Prop) (s : mS) : Prop :=
  (vp_in y1 7500 ∧ (∀ s102 : mS, s102 = mI s 34 y1 y2 → (vp_in x4 7500 ∧ (((mAt s102 36 x4) = 0 → (vp_in x4 7500 ∧ (∀ s106 : mS, s106 = mI s102 35 x4 0 → (∀ x107 : Int32, x107 = x3 + 1 → (R x107 s106))))) ∧ (¬ (mAt s102 36 x4) = 0 → (w_earnsNow N s102 (fun x108 s109 => (vp_in x4 7500 ∧ (∀ s111 : mS, s111 = mI s109 35 x4 x108 → (∀ x112 : Int32, x112 = x3 + 1 → (R x112 s111)))))))))))
theorem c_laysNote_91 {G : xG} {l : Launch} {a : Nat → Nat} {g : xH} (ha : mInj a) {d : Nat} {N : Nat × Nat} (hd : 2 * N.2 + 7 ≤ d) (x1 : Int32) (x2 : Int32) (x3 : Int32) (x4 : Int32) (y1 : Int32) (y2 : Int32) (Kr : mS → Prop) (K : mS → Prop) (R : Int32 → mS → Prop) (s : mS) (h : w_laysNote_91 N x1 x2 x3 x4 y1 y2 Kr K R s) (hK : ∀ (s : mS), K s → xF G l kX6_laysNote (d + 1) 0 0 (mQv G a g Kr) 123 [some (.ref (a 51)), some (.int x1), some (.int x2), none, none] [] (mH G a s g)) (hR : ∀ (z3 : Int32) (s : mS), R z3 s → xF G l kX6_laysNote (d + 1) 0 0 (mQv G a g Kr) 18 [some (.ref (a 51)), some (.int x1), some (.int x2), some (.int z3), none] [] (mH G a s g)) : xF G l kX6_laysNote (d + 1) 0 0 (mQv G a g Kr) 91 [some (.ref (a 51)), some (.int x1), some (.int x2), some (.int x3), some (.int x4)] [.int y2, .int y1, .ref (a 34)] (mH G a s g) := by
  unfold w_laysNote_91 at h
  obtain ⟨e101, h⟩ := h
  refine m_iast (j := 34) ha dX6_laysNote_91 (by decide) (by decide) e101 ?_
  have h := h _ rfl
  refine x_aload_0 dX6_laysNote_92 ?_
  refine m_get ha dX6_laysNote_93 fa_X6_75 rfl ?_
  refine x_iload_4 dX6_laysNote_96 ?_
  refine x_aload_0 dX6_laysNote_98 ?_
  refine m_get ha dX6_laysNote_99 fa_X6_78 rfl ?_
  refine x_iload_4 dX6_laysNote_102 ?_
  obtain ⟨e103, h⟩ := h
  refine m_zald (j := 36) ha dX6_laysNote_104 (by decide) (by decide) e103 ?_
  refine x_if_eq 115 dX6_laysNote_105 (by decide) (fun c104 => ?_) (fun c104 => ?_)
  · have h := h.1 c104
    refine x_iconst (v := 0) dX6_laysNote_115 (by decide) ?_
    obtain ⟨e105, h⟩ := h
    refine m_iast (j := 35) ha dX6_laysNote_116 (by decide) (by decide) e105 ?_
    have h := h _ rfl
    refine x_iinc_3 (v := 1) dX6_laysNote_117 (by decide) (by decide) xN2_i ?_
    have h := h _ rfl
    refine x_goto 18 dX6_laysNote_120 (by decide) ?_
    exact x_le (xLe_cons (xLe_cons (xLe_cons (xLe_cons (xLe_none (xLe_nil)))))) (hR _ _ h)
  · have h := h.2 c104
    refine x_aload_0 dX6_laysNote_108 ?_
    refine m_cVi0 ha rfl cv_X6_134 (Nat.le_of_ble_eq_true rfl) dX6_laysNote_109 (c_earnsNow ha (by omega) h) (fun x108 s109 h => ?_)
    refine x_goto 116 dX6_laysNote_112 (by decide) ?_
    obtain ⟨e110, h⟩ := h
    refine m_iast (j := 35) ha dX6_laysNote_116 (by decide) (by decide) e110 ?_
    have h := h _ rfl
    refine x_iinc_3 (v := 1) dX6_laysNote_117 (by decide) (by decide) xN2_i ?_
    have h := h _ rfl
    refine x_goto 18 dX6_laysNote_120 (by decide) ?_
    exact x_le (xLe_cons (xLe_cons (xLe_cons (xLe_cons (xLe_none (xLe_nil)))))) (hR _ _ h)
def w_laysNote_66 (N : Nat × Nat) (x1 : Int32) (x2 : Int32) (x3 : Int32) (x4 : Int32) (y1 : Int32) (y2 : Int32) (Kr : mS → Prop) (K : mS → Prop) (R : Int32 → mS → Prop) (s : mS) : Prop :=
  (vp_in y1 7500 ∧ (∀ s102 : mS, s102 = mI s 36 y1 (vp_nar .boolean y2) → (vp_in x4 7500 ∧ (((mAt s102 36 x4) = 0 → (w_laysNote_91 N x1 x2 x3 x4 x4 0 Kr K R s102)) ∧ (¬ (mAt s102 36 x4) = 0 → (w_costsNow N s102 (fun x105 s106 => (w_laysNote_91 N x1 x2 x3 x4 x4 x105 Kr K R s106))))))))
theorem c_laysNote_66 {G : xG} {l : Launch} {a : Nat → Nat} {g : xH} (ha : mInj a) {d : Nat} {N : Nat × Nat} (hd : 2 * N.2 + 7 ≤ d) (x1 : Int32) (x2 : Int32) (x3 : Int32) (x4 : Int32) (y1 : Int32) (y2 : Int32) (Kr : mS → Prop) (K : mS → Prop) (R : Int32 → mS → Prop) (s : mS) (h : w_laysNote_66 N x1 x2 x3 x4 y1 y2 Kr K R s) (hK : ∀ (s : mS), K s → xF G l kX6_laysNote (d + 1) 0 0 (mQv G a g Kr) 123 [some (.ref (a 51)), some (.int x1), some (.int x2), none, none] [] (mH G a s g)) (hR : ∀ (z3 : Int32) (s : mS), R z3 s → xF G l kX6_laysNote (d + 1) 0 0 (mQv G a g Kr) 18 [some (.ref (a 51)), some (.int x1), some (.int x2), some (.int z3), none] [] (mH G a s g)) : xF G l kX6_laysNote (d + 1) 0 0 (mQv G a g Kr) 66 [some (.ref (a 51)), some (.int x1), some (.int x2), some (.int x3), some (.int x4)] [.int y2, .int y1, .ref (a 36)] (mH G a s g) := by
  unfold w_laysNote_66 at h
  obtain ⟨e101, h⟩ := h
  refine m_zast (j := 36) ha dX6_laysNote_66 (by decide) (by decide) e101 ?_
  have h := h _ rfl
  refine x_aload_0 dX6_laysNote_67 ?_
  refine m_get ha dX6_laysNote_68 fa_X6_72 rfl ?_
  refine x_iload_4 dX6_laysNote_71 ?_
  refine x_aload_0 dX6_laysNote_73 ?_
  refine m_get ha dX6_laysNote_74 fa_X6_78 rfl ?_
  refine x_iload_4 dX6_laysNote_77 ?_
  obtain ⟨e103, h⟩ := h
  refine m_zald (j := 36) ha dX6_laysNote_79 (by decide) (by decide) e103 ?_
  refine x_if_eq 90 dX6_laysNote_80 (by decide) (fun c104 => ?_) (fun c104 => ?_)
  · have h := h.1 c104
    refine x_iconst (v := 0) dX6_laysNote_90 (by decide) ?_
    exact x_le (xLe_cons (xLe_cons (xLe_cons (xLe_cons (xLe_cons (xLe_nil)))))) (c_laysNote_91 ha (by omega) _ _ _ _ _ _ _ _ _ _ h hK hR)
  · have h := h.2 c104
    refine x_aload_0 dX6_laysNote_83 ?_
    refine m_cVi0 ha rfl cv_X6_131 (Nat.le_of_ble_eq_true rfl) dX6_laysNote_84 (c_costsNow ha (by omega) h) (fun x105 s106 h => ?_)
    refine x_goto 91 dX6_laysNote_87 (by decide) ?_
    exact x_le (xLe_cons (xLe_cons (xLe_cons (xLe_cons (xLe_cons (xLe_nil)))))) (c_laysNote_91 ha (by omega) _ _ _ _ _ _ _ _ _ _ h hK hR)
def w_laysNote_36 (N : Nat × Nat) (x1 : Int32) (x2 : Int32) (x3 : Int32) (y1 : Int32) (y2 : Int32) (y3 : Int32) (Kr : mS → Prop) (K : mS → Prop) (R : Int32 → mS → Prop) (s : mS) : Prop :=
  (w_takesNote y1 y2 y3 x2 s (fun s102 => (w_noteAt x1 x2 x3 (fun x103 => (w_isBarred N s102 (fun x105 s106 => ((¬ x105 = 0 → (w_laysNote_66 N x1 x2 x3 x103 x103 0 Kr K R s106)) ∧ (x105 = 0 → (w_laysNote_66 N x1 x2 x3 x103 x103 1 Kr K R s106)))))))))
theorem c_laysNote_36 {G : xG} {l : Launch} {a : Nat → Nat} {g : xH} (ha : mInj a) {d : Nat} {N : Nat × Nat} (hd : 2 * N.2 + 7 ≤ d) (x1 : Int32) (x2 : Int32) (x3 : Int32) (y1 : Int32) (y2 : Int32) (y3 : Int32) (Kr : mS → Prop) (K : mS → Prop) (R : Int32 → mS → Prop) (s : mS) (h : w_laysNote_36 N x1 x2 x3 y1 y2 y3 Kr K R s) (hK : ∀ (s : mS), K s → xF G l kX6_laysNote (d + 1) 0 0 (mQv G a g Kr) 123 [some (.ref (a 51)), some (.int x1), some (.int x2), none, none] [] (mH G a s g)) (hR : ∀ (z3 : Int32) (s : mS), R z3 s → xF G l kX6_laysNote (d + 1) 0 0 (mQv G a g Kr) 18 [some (.ref (a 51)), some (.int x1), some (.int x2), some (.int z3), none] [] (mH G a s g)) : xF G l kX6_laysNote (d + 1) 0 0 (mQv G a g Kr) 36 [some (.ref (a 51)), some (.int x1), some (.int x2), some (.int x3), none] [.int y3, .int y2, .int y1, .ref (a 51)] (mH G a s g) := by
  unfold w_laysNote_36 at h
  refine x_iload_2 dX6_laysNote_36 ?_
  refine m_cVv4 ha rfl cv_X6_321 (Nat.le_of_ble_eq_true rfl) dX6_laysNote_37 (c_takesNote ha (by omega) h) (fun s102 h => ?_)
  refine x_iload_1 dX6_laysNote_40 ?_
  refine x_iload_2 dX6_laysNote_41 ?_
  refine x_iload_3 dX6_laysNote_42 ?_
  refine m_cSi3 rfl cs_X6_354 (Nat.le_of_ble_eq_true rfl) dX6_laysNote_43 (c_noteAt (by omega) h) (fun x103 h => ?_)
  refine x_istore_4 dX6_laysNote_46 (by decide) xN2_i ?_
  refine x_aload_0 dX6_laysNote_48 ?_
  refine m_get ha dX6_laysNote_49 fa_X6_78 rfl ?_
  refine x_iload_4 dX6_laysNote_52 ?_
  refine x_aload_0 dX6_laysNote_54 ?_
  refine m_cVi0 ha rfl cv_X6_137 (Nat.le_of_ble_eq_true rfl) dX6_laysNote_55 (c_isBarred ha (by omega) h) (fun x105 s106 h => ?_)
  refine x_if_ne 65 dX6_laysNote_58 (by decide) (fun c107 => ?_) (fun c107 => ?_)
  · have h := h.1 c107
    refine x_iconst (v := 0) dX6_laysNote_65 (by decide) ?_
    exact x_le (xLe_cons (xLe_cons (xLe_cons (xLe_cons (xLe_cons (xLe_nil)))))) (c_laysNote_66 ha (by omega) _ _ _ _ _ _ _ _ _ _ h hK hR)
  · have h := h.2 c107
    refine x_iconst (v := 1) dX6_laysNote_61 (by decide) ?_
    refine x_goto 66 dX6_laysNote_62 (by decide) ?_
    exact x_le (xLe_cons (xLe_cons (xLe_cons (xLe_cons (xLe_cons (xLe_nil)))))) (c_laysNote_66 ha (by omega) _ _ _ _ _ _ _ _ _ _ h hK hR)
def w_laysNote_18 (N : Nat × Nat) (x1 : Int32) (x2 : Int32) (Kr : mS → Prop) (K : mS → Prop) : Nat → Int32 → mS → Prop
  | 0, _, _ => False
  | t + 1, x3, s => ((25 ≤ x3 → (K s)) ∧ (¬ 25 ≤ x3 → ((x1 ≤ 0 → (w_laysNote_36 N x1 x2 x3 x1 x3 0 Kr K (fun x3 s => w_laysNote_18 N x1 x2 Kr K t x3 s) s)) ∧ (¬ x1 ≤ 0 → (w_laysNote_36 N x1 x2 x3 x1 x3 1 Kr K (fun x3 s => w_laysNote_18 N x1 x2 Kr K t x3 s) s)))))
theorem c_laysNote_18 {G : xG} {l : Launch} {a : Nat → Nat} {g : xH} (ha : mInj a) {d : Nat} {N : Nat × Nat} (hd : 2 * N.2 + 7 ≤ d) (Kr : mS → Prop) (K : mS → Prop) (x1 : Int32) (x2 : Int32) : ∀ (t : Nat) (x3 : Int32) (s : mS) , w_laysNote_18 N x1 x2 Kr K t x3 s → (∀ (s : mS), K s → xF G l kX6_laysNote (d + 1) 0 0 (mQv G a g Kr) 123 [some (.ref (a 51)), some (.int x1), some (.int x2), none, none] [] (mH G a s g)) → xF G l kX6_laysNote (d + 1) 0 0 (mQv G a g Kr) 18 [some (.ref (a 51)), some (.int x1), some (.int x2), some (.int x3), none] [] (mH G a s g) := by
  intro t
  induction t with
  | zero =>
    intro _ _ h _
    exact absurd h (by simp [w_laysNote_18])
  | succ t ih =>
    intro x3 s h hK
    have hR := fun x3 s h => ih x3 s h hK
    unfold w_laysNote_18 at h
    refine x_iload_3 dX6_laysNote_18 ?_
    refine x_bipush (v := 25) dX6_laysNote_19 (by decide) ?_
    refine x_icmp_ge 123 dX6_laysNote_21 (by decide) (fun c101 => ?_) (fun c101 => ?_)
    · have h := h.1 c101
      exact x_le (xLe_cons (xLe_cons (xLe_cons (xLe_none (xLe_cons (xLe_nil)))))) (hK _ h)
    · have h := h.2 c101
      refine x_aload_0 dX6_laysNote_24 ?_
      refine x_iload_1 dX6_laysNote_25 ?_
      refine x_iload_3 dX6_laysNote_26 ?_
      refine x_iload_1 dX6_laysNote_27 ?_
      refine x_if_le 35 dX6_laysNote_28 (by decide) (fun c102 => ?_) (fun c102 => ?_)
      · have h := h.1 c102
        refine x_iconst (v := 0) dX6_laysNote_35 (by decide) ?_
        exact x_le (xLe_cons (xLe_cons (xLe_cons (xLe_cons (xLe_cons (xLe_nil)))))) (c_laysNote_36 ha (by omega) _ _ _ _ _ _ _ _ _ _ h hK hR)
      · have h := h.2 c102
        refine x_iconst (v := 1) dX6_laysNote_31 (by decide) ?_
        refine x_goto 36 dX6_laysNote_32 (by decide) ?_
        exact x_le (xLe_cons (xLe_cons (xLe_cons (xLe_cons (xLe_cons (xLe_nil)))))) (c_laysNote_36 ha (by omega) _ _ _ _ _ _ _ _ _ _ h hK hR)
def w_laysNote_13 (N : Nat × Nat) (x1 : Int32) (x2 : Int32) (y0 : Int32) (y1 : Int32) (Kr : mS → Prop) (K : mS → Prop) (R : Int32 → mS → Prop) (s : mS) : Prop :=
  ((y1 ≤ y0 → (K s)) ∧ (¬ y1 ≤ y0 → (w_laysNote_18 N x1 x2 Kr (fun s102 => (∀ x103 : Int32, x103 = x2 + 1 → (R x103 s102))) N.1 0 s)))
theorem c_laysNote_13 {G : xG} {l : Launch} {a : Nat → Nat} {g : xH} (ha : mInj a) {d : Nat} {N : Nat × Nat} (hd : 2 * N.2 + 7 ≤ d) (x1 : Int32) (x2 : Int32) (y0 : Int32) (y1 : Int32) (Kr : mS → Prop) (K : mS → Prop) (R : Int32 → mS → Prop) (s : mS) (h : w_laysNote_13 N x1 x2 y0 y1 Kr K R s) (hK : ∀ (s : mS), K s → xF G l kX6_laysNote (d + 1) 0 0 (mQv G a g Kr) 129 [some (.ref (a 51)), none, none, none, none] [] (mH G a s g)) (hR : ∀ (z2 : Int32) (s : mS), R z2 s → xF G l kX6_laysNote (d + 1) 0 0 (mQv G a g Kr) 2 [some (.ref (a 51)), some (.int x1), some (.int z2), none, none] [] (mH G a s g)) : xF G l kX6_laysNote (d + 1) 0 0 (mQv G a g Kr) 13 [some (.ref (a 51)), some (.int x1), some (.int x2), none, none] [.int y1, .int y0] (mH G a s g) := by
  unfold w_laysNote_13 at h
  refine x_icmp_ge 129 dX6_laysNote_13 (by decide) (fun c101 => ?_) (fun c101 => ?_)
  · have h := h.1 c101
    exact x_le (xLe_cons (xLe_none (xLe_none (xLe_cons (xLe_cons (xLe_nil)))))) (hK _ h)
  · have h := h.2 c101
    refine x_iconst (v := 0) dX6_laysNote_16 (by decide) ?_
    refine x_istore_3 dX6_laysNote_17 (by decide) xN2_i ?_
    refine x_le (xLe_cons (xLe_cons (xLe_cons (xLe_cons (xLe_cons (xLe_nil)))))) (c_laysNote_18 ha (by omega) _ _ _ _ _ _ _ h (fun s102 h => ?_))
    refine x_iinc_2 (v := 1) dX6_laysNote_123 (by decide) (by decide) xN2_i ?_
    have h := h _ rfl
    refine x_goto 2 dX6_laysNote_126 (by decide) ?_
    exact x_le (xLe_cons (xLe_cons (xLe_cons (xLe_cons (xLe_cons (xLe_nil)))))) (hR _ _ h)
def w_laysNote_2 (N : Nat × Nat) (x1 : Int32) (Kr : mS → Prop) (K : mS → Prop) : Nat → Int32 → mS → Prop
  | 0, _, _ => False
  | t + 1, x2, s => ((¬ x1 = 0 → (w_laysNote_13 N x1 x2 x2 25 Kr K (fun x2 s => w_laysNote_2 N x1 Kr K t x2 s) s)) ∧ (x1 = 0 → (w_laysNote_13 N x1 x2 x2 1 Kr K (fun x2 s => w_laysNote_2 N x1 Kr K t x2 s) s)))
theorem c_laysNote_2 {G : xG} {l : Launch} {a : Nat → Nat} {g : xH} (ha : mInj a) {d : Nat} {N : Nat × Nat} (hd : 2 * N.2 + 7 ≤ d) (Kr : mS → Prop) (K : mS → Prop) (x1 : Int32) : ∀ (t : Nat) (x2 : Int32) (s : mS) , w_laysNote_2 N x1 Kr K t x2 s → (∀ (s : mS), K s → xF G l kX6_laysNote (d + 1) 0 0 (mQv G a g Kr) 129 [some (.ref (a 51)), none, none, none, none] [] (mH G a s g)) → xF G l kX6_laysNote (d + 1) 0 0 (mQv G a g Kr) 2 [some (.ref (a 51)), some (.int x1), some (.int x2), none, none] [] (mH G a s g) := by
  intro t
  induction t with
  | zero =>
    intro _ _ h _
    exact absurd h (by simp [w_laysNote_2])
  | succ t ih =>
    intro x2 s h hK
    have hR := fun x2 s h => ih x2 s h hK
    unfold w_laysNote_2 at h
    refine x_iload_2 dX6_laysNote_2 ?_
    refine x_iload_1 dX6_laysNote_3 ?_
    refine x_if_ne 11 dX6_laysNote_4 (by decide) (fun c101 => ?_) (fun c101 => ?_)
    · have h := h.1 c101
      refine x_bipush (v := 25) dX6_laysNote_11 (by decide) ?_
      exact x_le (xLe_cons (xLe_cons (xLe_cons (xLe_cons (xLe_cons (xLe_nil)))))) (c_laysNote_13 ha (by omega) _ _ _ _ _ _ _ _ h hK hR)
    · have h := h.2 c101
      refine x_iconst (v := 1) dX6_laysNote_7 (by decide) ?_
      refine x_goto 13 dX6_laysNote_8 (by decide) ?_
      exact x_le (xLe_cons (xLe_cons (xLe_cons (xLe_cons (xLe_cons (xLe_nil)))))) (c_laysNote_13 ha (by omega) _ _ _ _ _ _ _ _ h hK hR)
def w_laysNote (N : Nat × Nat) (x1 : Int32) (s : mS) (Kr : mS → Prop) : Prop :=
  (w_laysNote_2 N x1 Kr (fun s101 => (Kr s101)) N.1 0 s)
theorem c_laysNote {G : xG} {l : Launch} {a : Nat → Nat} {g : xH} (ha : mInj a) {d : Nat} {N : Nat × Nat} (hd : 2 * N.2 + 8 ≤ d) {x1 : Int32} {s : mS} {Kr : mS → Prop} (h : w_laysNote N x1 s Kr) : xC G l kX6_laysNote d 0 0 [.ref (a 51), .int x1] (mH G a s g) (mQv G a g Kr) := by
  obtain ⟨d, rfl⟩ : ∃ z, d = z + 1 := ⟨d - 1, by omega⟩
  refine xC.start rfl (by decide +kernel) (Nat.le_of_ble_eq_true rfl) (lv := [some (.ref (a 51)), some (.int x1), none, none, none]) rfl ?_
  unfold w_laysNote at h
  refine x_iconst (v := 0) dX6_laysNote_0 (by decide) ?_
  refine x_istore_2 dX6_laysNote_1 (by decide) xN2_i ?_
  refine x_le (xLe_cons (xLe_cons (xLe_cons (xLe_cons (xLe_cons (xLe_nil)))))) (c_laysNote_2 ha (by omega) _ _ _ _ _ _ h (fun s101 h => ?_))
  exact x_vret dX6_laysNote_129 rfl ⟨_, h, rfl, rfl⟩
