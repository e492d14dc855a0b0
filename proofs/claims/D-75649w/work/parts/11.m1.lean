set_option maxRecDepth 100000
def w_laysNotes_2 (N : Nat × Nat) (Kr : mS → Prop) (K : mS → Prop) : Nat → Int32 → mS → Prop
  | 0, _, _ => False
  | t + 1, x1, s => (w_noteMany s (fun x101 s102 => ((x101 ≤ x1 → (K s102)) ∧ (¬ x101 ≤ x1 → (w_laysNote N x1 s102 (fun s105 => (∀ x106 : Int32, x106 = x1 + 1 → ((fun x1 s => w_laysNotes_2 N Kr K t x1 s) x106 s105))))))))
theorem c_laysNotes_2 {G : xG} {l : Launch} {a : Nat → Nat} {g : xH} (ha : mInj a) {d : Nat} {N : Nat × Nat} (hd : 2 * N.2 + 8 ≤ d) (Kr : mS → Prop) (K : mS → Prop) : ∀ (t : Nat) (x1 : Int32) (s : mS) , w_laysNotes_2 N Kr K t x1 s → (∀ (s : mS), K s → xF G l kX6_laysNotes (d + 1) 0 0 (mQv G a g Kr) 21 [some (.ref (a 51)), none] [] (mH G a s g)) → xF G l kX6_laysNotes (d + 1) 0 0 (mQv G a g Kr) 2 [some (.ref (a 51)), some (.int x1)] [] (mH G a s g) := by
  intro t
  induction t with
  | zero =>
    intro _ _ h _
    exact absurd h (by simp [w_laysNotes_2])
  | succ t ih =>
    intro x1 s h hK
    have hR := fun x1 s h => ih x1 s h hK
    unfold w_laysNotes_2 at h
    refine x_iload_1 dX6_laysNotes_2 ?_
    refine x_aload_0 dX6_laysNotes_3 ?_
    refine m_cVi0 ha rfl cv_X6_112 (Nat.le_of_ble_eq_true rfl) dX6_laysNotes_4 (c_noteMany ha (by omega) h) (fun x101 s102 h => ?_)
    refine x_icmp_ge 21 dX6_laysNotes_7 (by decide) (fun c103 => ?_) (fun c103 => ?_)
    · have h := h.1 c103
      exact x_le (xLe_cons (xLe_none (xLe_nil))) (hK _ h)
    · have h := h.2 c103
      refine x_aload_0 dX6_laysNotes_10 ?_
      refine x_iload_1 dX6_laysNotes_11 ?_
      refine m_cVv1 ha rfl cv_X6_357 (Nat.le_of_ble_eq_true rfl) dX6_laysNotes_12 (c_laysNote ha (by omega) h) (fun s105 h => ?_)
      refine x_iinc_1 (v := 1) dX6_laysNotes_15 (by decide) (by decide) xN2_r ?_
      have h := h _ rfl
      refine x_goto 2 dX6_laysNotes_18 (by decide) ?_
      exact x_le (xLe_cons (xLe_cons (xLe_nil))) (hR _ _ h)
def w_laysNotes (N : Nat × Nat) (s : mS) (Kr : mS → Prop) : Prop :=
  (w_laysNotes_2 N Kr (fun s101 => (Kr s101)) N.1 0 s)
theorem c_laysNotes {G : xG} {l : Launch} {a : Nat → Nat} {g : xH} (ha : mInj a) {d : Nat} {N : Nat × Nat} (hd : 2 * N.2 + 9 ≤ d) {s : mS} {Kr : mS → Prop} (h : w_laysNotes N s Kr) : xC G l kX6_laysNotes d 0 0 [.ref (a 51)] (mH G a s g) (mQv G a g Kr) := by
  obtain ⟨d, rfl⟩ : ∃ z, d = z + 1 := ⟨d - 1, by omega⟩
  refine xC.start rfl (by decide +kernel) (Nat.le_of_ble_eq_true rfl) (lv := [some (.ref (a 51)), none]) rfl ?_
  unfold w_laysNotes at h
  refine x_iconst (v := 0) dX6_laysNotes_0 (by decide) ?_
  refine x_istore_1 dX6_laysNotes_1 (by decide) xN2_r ?_
  refine x_le (xLe_cons (xLe_cons (xLe_nil))) (c_laysNotes_2 ha (by omega) _ _ _ _ _ h (fun s101 h => ?_))
  exact x_vret dX6_laysNotes_21 rfl ⟨_, h, rfl, rfl⟩
def w_lesser (x0 : Int32) (x1 : Int32) (Kr : Int32 → Prop) : Prop :=
  ((x1 ≤ x0 → (Kr x1)) ∧ (¬ x1 ≤ x0 → (Kr x0)))
theorem c_lesser {G : xG} {l : Launch} {h0 : xH} {d : Nat} (hd : 1 ≤ d) {x0 : Int32} {x1 : Int32} {Kr : Int32 → Prop} (h : w_lesser x0 x1 Kr) : xC G l kX6_lesser d 0 0 [.int x0, .int x1] h0 (xQi h0 Kr) := by
  obtain ⟨d, rfl⟩ : ∃ z, d = z + 1 := ⟨d - 1, by omega⟩
  refine xC.start rfl (by decide +kernel) (Nat.le_of_ble_eq_true rfl) (lv := [some (.int x0), some (.int x1)]) rfl ?_
  unfold w_lesser at h
  refine x_iload_0 dX6_lesser_0 ?_
  refine x_iload_1 dX6_lesser_1 ?_
  refine x_icmp_ge 9 dX6_lesser_2 (by decide) (fun c101 => ?_) (fun c101 => ?_)
  · have h := h.1 c101
    refine x_iload_1 dX6_lesser_9 ?_
    exact x_iret dX6_lesser_10 rfl ⟨_, h, rfl, rfl⟩
  · have h := h.2 c101
    refine x_iload_0 dX6_lesser_5 ?_
    refine x_goto 10 dX6_lesser_6 (by decide) ?_
    exact x_iret dX6_lesser_10 rfl ⟨_, h, rfl, rfl⟩
def w_priceOf (x1 : Int32) (x2 : Int32) (x3 : Int32) (x4 : Int32) (s : mS) (Kr : Int32 → mS → Prop) : Prop :=
  ((x4 = 0 → (w_noteAt x1 x2 x3 (fun x102 => (vp_in x102 7500 ∧ (Kr (mAt s 34 x102) s))))) ∧ (¬ x4 = 0 → (vp_in (0 + x1) 5652 ∧ ((¬ x3 = (mAt s 2 (0 + x1)) → (Kr 1 s)) ∧ (x3 = (mAt s 2 (0 + x1)) → (Kr 0 s))))))
theorem c_priceOf {G : xG} {l : Launch} {a : Nat → Nat} {g : xH} (ha : mInj a) {d : Nat} (hd : 2 ≤ d) {x1 : Int32} {x2 : Int32} {x3 : Int32} {x4 : Int32} {s : mS} {Kr : Int32 → mS → Prop} (h : w_priceOf x1 x2 x3 x4 s Kr) : xC G l kX6_priceOf d 0 0 [.ref (a 51), .int x1, .int x2, .int x3, .int x4] (mH G a s g) (mQi G a g Kr) := by
  obtain ⟨d, rfl⟩ : ∃ z, d = z + 1 := ⟨d - 1, by omega⟩
  refine xC.start rfl (by decide +kernel) (Nat.le_of_ble_eq_true rfl) (lv := [some (.ref (a 51)), some (.int x1), some (.int x2), some (.int x3), some (.int x4)]) rfl ?_
  unfold w_priceOf at h
  refine x_iload_4 dX6_priceOf_0 ?_
  refine x_if_eq 23 dX6_priceOf_2 (by decide) (fun c101 => ?_) (fun c101 => ?_)
  · have h := h.1 c101
    refine x_aload_0 dX6_priceOf_23 ?_
    refine m_get ha dX6_priceOf_24 fa_X6_72 rfl ?_
    refine x_iload_1 dX6_priceOf_27 ?_
    refine x_iload_2 dX6_priceOf_28 ?_
    refine x_iload_3 dX6_priceOf_29 ?_
    refine m_cSi3 rfl cs_X6_354 (Nat.le_of_ble_eq_true rfl) dX6_priceOf_30 (c_noteAt (by omega) h) (fun x102 h => ?_)
    obtain ⟨e104, h⟩ := h
    refine m_iald (j := 34) ha dX6_priceOf_33 (by decide) (by decide) e104 ?_
    exact x_iret dX6_priceOf_34 rfl ⟨_, _, h, rfl, rfl⟩
  · have h := h.2 c101
    refine x_iload_3 dX6_priceOf_5 ?_
    refine x_aload_0 dX6_priceOf_6 ?_
    refine m_get ha dX6_priceOf_7 fa_X6_28 rfl ?_
    refine x_iconst (v := 0) dX6_priceOf_10 (by decide) ?_
    refine x_iload_1 dX6_priceOf_11 ?_
    refine x_iadd dX6_priceOf_12 ?_
    obtain ⟨e105, h⟩ := h
    refine m_iald (j := 2) ha dX6_priceOf_13 (by decide) (by decide) e105 ?_
    refine x_icmp_ne 21 dX6_priceOf_14 (by decide) (fun c106 => ?_) (fun c106 => ?_)
    · have h := h.1 c106
      refine x_iconst (v := 1) dX6_priceOf_21 (by decide) ?_
      exact x_iret dX6_priceOf_22 rfl ⟨_, _, h, rfl, rfl⟩
    · have h := h.2 c106
      refine x_iconst (v := 0) dX6_priceOf_17 (by decide) ?_
      refine x_goto 22 dX6_priceOf_18 (by decide) ?_
      exact x_iret dX6_priceOf_22 rfl ⟨_, _, h, rfl, rfl⟩
def w_leastFrom_8 (N : Nat × Nat) (x1 : Int32) (x2 : Int32) (x4 : Int32) (x5 : Int32) (Kr : Int32 → mS → Prop) (K : Int32 → mS → Prop) : Nat → Int32 → Int32 → mS → Prop
  | 0, _, _, _ => False
  | t + 1, x6, x7, s => ((x4 < x7 → (K x6 s)) ∧ (¬ x4 < x7 → (w_noteAt x1 x2 x7 (fun x102 => (vp_in x102 7500 ∧ (((mAt s 36 x102) = 0 → (∀ x106 : Int32, x106 = x7 + 1 → ((fun x6 x7 s => w_leastFrom_8 N x1 x2 x4 x5 Kr K t x6 x7 s) x6 x106 s))) ∧ (¬ (mAt s 36 x102) = 0 → (w_priceOf x1 x2 x7 x5 s (fun x107 s108 => (vp_in ((25 * x1) + x7) 300 ∧ (w_lesser x6 (x107 + (mAt s108 37 ((25 * x1) + x7))) (fun x110 => (∀ x112 : Int32, x112 = x7 + 1 → ((fun x6 x7 s => w_leastFrom_8 N x1 x2 x4 x5 Kr K t x6 x7 s) x110 x112 s108))))))))))))))
theorem c_leastFrom_8 {G : xG} {l : Launch} {a : Nat → Nat} {g : xH} (ha : mInj a) {d : Nat} {N : Nat × Nat} (hd : 2 ≤ d) (Kr : Int32 → mS → Prop) (K : Int32 → mS → Prop) (x1 : Int32) (x2 : Int32) (x4 : Int32) (x5 : Int32) : ∀ (t : Nat) (x6 : Int32) (x7 : Int32) (s : mS) , w_leastFrom_8 N x1 x2 x4 x5 Kr K t x6 x7 s → (∀ (z6 : Int32) (s : mS), K z6 s → xF G l kX6_leastFrom (d + 1) 0 0 (mQi G a g Kr) 66 [some (.ref (a 51)), none, none, none, none, none, some (.int z6), none] [] (mH G a s g)) → xF G l kX6_leastFrom (d + 1) 0 0 (mQi G a g Kr) 8 [some (.ref (a 51)), some (.int x1), some (.int x2), none, some (.int x4), some (.int x5), some (.int x6), some (.int x7)] [] (mH G a s g) := by
  intro t
  induction t with
  | zero =>
    intro _ _ _ h _
    exact absurd h (by simp [w_leastFrom_8])
  | succ t ih =>
    intro x6 x7 s h hK
    have hR := fun x6 x7 s h => ih x6 x7 s h hK
    unfold w_leastFrom_8 at h
    refine x_iload_7 dX6_leastFrom_8 ?_
    refine x_iload_4 dX6_leastFrom_10 ?_
    refine x_icmp_gt 66 dX6_leastFrom_12 (by decide) (fun c101 => ?_) (fun c101 => ?_)
    · have h := h.1 c101
      exact x_le (xLe_cons (xLe_none (xLe_none (xLe_cons (xLe_none (xLe_none (xLe_cons (xLe_none (xLe_nil))))))))) (hK _ _ h)
    · have h := h.2 c101
      refine x_aload_0 dX6_leastFrom_15 ?_
      refine m_get ha dX6_leastFrom_16 fa_X6_78 rfl ?_
      refine x_iload_1 dX6_leastFrom_19 ?_
      refine x_iload_2 dX6_leastFrom_20 ?_
      refine x_iload_7 dX6_leastFrom_21 ?_
      refine m_cSi3 rfl cs_X6_354 (Nat.le_of_ble_eq_true rfl) dX6_leastFrom_23 (c_noteAt (by omega) h) (fun x102 h => ?_)
      obtain ⟨e104, h⟩ := h
      refine m_zald (j := 36) ha dX6_leastFrom_26 (by decide) (by decide) e104 ?_
      refine x_if_eq 60 dX6_leastFrom_27 (by decide) (fun c105 => ?_) (fun c105 => ?_)
      · have h := h.1 c105
        refine x_iinc_7 (v := 1) dX6_leastFrom_60 (by decide) (by decide) xN2_i ?_
        have h := h _ rfl
        refine x_goto 8 dX6_leastFrom_63 (by decide) ?_
        exact x_le (xLe_cons (xLe_cons (xLe_cons (xLe_cons (xLe_cons (xLe_cons (xLe_cons (xLe_cons (xLe_nil))))))))) (hR _ _ _ h)
      · have h := h.2 c105
        refine x_iload_6 dX6_leastFrom_30 ?_
        refine x_aload_0 dX6_leastFrom_32 ?_
        refine x_iload_1 dX6_leastFrom_33 ?_
        refine x_iload_2 dX6_leastFrom_34 ?_
        refine x_iload_7 dX6_leastFrom_35 ?_
        refine x_iload_5 dX6_leastFrom_37 ?_
        refine m_cVi4 ha rfl cv_X6_365 (Nat.le_of_ble_eq_true rfl) dX6_leastFrom_39 (c_priceOf ha (by omega) h) (fun x107 s108 h => ?_)
        refine x_aload_0 dX6_leastFrom_42 ?_
        refine m_get ha dX6_leastFrom_43 fa_X6_81 rfl ?_
        refine x_bipush (v := 25) dX6_leastFrom_46 (by decide) ?_
        refine x_iload_1 dX6_leastFrom_48 ?_
        refine x_imul dX6_leastFrom_49 ?_
        refine x_iload_7 dX6_leastFrom_50 ?_
        refine x_iadd dX6_leastFrom_52 ?_
        obtain ⟨e109, h⟩ := h
        refine m_iald (j := 37) ha dX6_leastFrom_53 (by decide) (by decide) e109 ?_
        refine x_iadd dX6_leastFrom_54 ?_
        refine m_cSi2 rfl cs_X6_369 (Nat.le_of_ble_eq_true rfl) dX6_leastFrom_55 (c_lesser (by omega) h) (fun x110 h => ?_)
        refine x_istore_6 dX6_leastFrom_58 (by decide) xN2_i ?_
        refine x_iinc_7 (v := 1) dX6_leastFrom_60 (by decide) (by decide) xN2_i ?_
        have h := h _ rfl
        refine x_goto 8 dX6_leastFrom_63 (by decide) ?_
        exact x_le (xLe_cons (xLe_cons (xLe_cons (xLe_cons (xLe_cons (xLe_cons (xLe_cons (xLe_cons (xLe_nil))))))))) (hR _ _ _ h)
def w_leastFrom (N : Nat × Nat) (x1 : Int32) (x2 : Int32) (x3 : Int32) (x4 : Int32) (x5 : Int32) (s : mS) (Kr : Int32 → mS → Prop) : Prop :=
  (w_leastFrom_8 N x1 x2 x4 x5 Kr (fun x101 s102 => (Kr x101 s102)) N.1 100000000 x3 s)
theorem c_leastFrom {G : xG} {l : Launch} {a : Nat → Nat} {g : xH} (ha : mInj a) {d : Nat} {N : Nat × Nat} (hd : 3 ≤ d) {x1 : Int32} {x2 : Int32} {x3 : Int32} {x4 : Int32} {x5 : Int32} {s : mS} {Kr : Int32 → mS → Prop} (h : w_leastFrom N x1 x2 x3 x4 x5 s Kr) : xC G l kX6_leastFrom d 0 0 [.ref (a 51), .int x1, .int x2, .int x3, .int x4, .int x5] (mH G a s g) (mQi G a g Kr) := by
  obtain ⟨d, rfl⟩ : ∃ z, d = z + 1 := ⟨d - 1, by omega⟩
  refine xC.start rfl (by decide +kernel) (Nat.le_of_ble_eq_true rfl) (lv := [some (.ref (a 51)), some (.int x1), some (.int x2), some (.int x3), some (.int x4), some (.int x5), none, none]) rfl ?_
  unfold w_leastFrom at h
  refine x_ldcw dX6_leastFrom_0 q2102 ?_
  refine x_istore_6 dX6_leastFrom_3 (by decide) xN2_i ?_
  refine x_iload_3 dX6_leastFrom_5 ?_
  refine x_istore_7 dX6_leastFrom_6 (by decide) xN2_i ?_
  refine x_le (xLe_cons (xLe_cons (xLe_cons (xLe_none (xLe_cons (xLe_cons (xLe_cons (xLe_cons (xLe_nil))))))))) (c_leastFrom_8 ha (by omega) _ _ _ _ _ _ _ _ _ _ h (fun x101 s102 h => ?_))
  refine x_iload_6 dX6_leastFrom_66 ?_
  exact x_iret dX6_leastFrom_68 rfl ⟨_, _, h, rfl, rfl⟩
def w_laysRest_16 (N : Nat × Nat) (x1 : Int32) (x2 : Int32) (x3 : Int32) (x4 : Int32) (Kr : mS → Prop) (K : mS → Prop) : Nat → Int32 → mS → Prop
  | 0, _, _ => False
  | t + 1, x5, s => ((x2 < x5 → (K s)) ∧ (¬ x2 < x5 → (w_noteMany s (fun x102 s103 => ((¬ x4 = (x102 - 1) → (w_leastFrom N (x4 + 1) x5 x1 x2 x3 s103 (fun x105 s106 => (vp_in ((25 * x4) + x5) 300 ∧ (∀ s108 : mS, s108 = mI s106 37 ((25 * x4) + x5) x105 → (∀ x109 : Int32, x109 = x5 + 1 → ((fun x5 s => w_laysRest_16 N x1 x2 x3 x4 Kr K t x5 s) x109 s108))))))) ∧ (x4 = (x102 - 1) → (vp_in ((25 * x4) + x5) 300 ∧ (∀ s111 : mS, s111 = mI s103 37 ((25 * x4) + x5) 0 → (∀ x112 : Int32, x112 = x5 + 1 → ((fun x5 s => w_laysRest_16 N x1 x2 x3 x4 Kr K t x5 s) x112 s111))))))))))
theorem c_laysRest_16 {G : xG} {l : Launch} {a : Nat → Nat} {g : xH} (ha : mInj a) {d : Nat} {N : Nat × Nat} (hd : 3 ≤ d) (Kr : mS → Prop) (K : mS → Prop) (x1 : Int32) (x2 : Int32) (x3 : Int32) (x4 : Int32) : ∀ (t : Nat) (x5 : Int32) (s : mS) , w_laysRest_16 N x1 x2 x3 x4 Kr K t x5 s → (∀ (s : mS), K s → xF G l kX6_laysRest (d + 1) 0 0 (mQv G a g Kr) 69 [some (.ref (a 51)), some (.int x1), some (.int x2), some (.int x3), some (.int x4), none] [] (mH G a s g)) → xF G l kX6_laysRest (d + 1) 0 0 (mQv G a g Kr) 16 [some (.ref (a 51)), some (.int x1), some (.int x2), some (.int x3), some (.int x4), some (.int x5)] [] (mH G a s g) := by
  intro t
  induction t with
  | zero =>
    intro _ _ h _
    exact absurd h (by simp [w_laysRest_16])
  | succ t ih =>
    intro x5 s h hK
    have hR := fun x5 s h => ih x5 s h hK
    unfold w_laysRest_16 at h
    refine x_iload_5 dX6_laysRest_16 ?_
    refine x_iload_2 dX6_laysRest_18 ?_
    refine x_icmp_gt 69 dX6_laysRest_19 (by decide) (fun c101 => ?_) (fun c101 => ?_)
    · have h := h.1 c101
      exact x_le (xLe_cons (xLe_cons (xLe_cons (xLe_cons (xLe_cons (xLe_none (xLe_nil))))))) (hK _ h)
    · have h := h.2 c101
      refine x_aload_0 dX6_laysRest_22 ?_
      refine m_get ha dX6_laysRest_23 fa_X6_81 rfl ?_
      refine x_bipush (v := 25) dX6_laysRest_26 (by decide) ?_
      refine x_iload_4 dX6_laysRest_28 ?_
      refine x_imul dX6_laysRest_30 ?_
      refine x_iload_5 dX6_laysRest_31 ?_
      refine x_iadd dX6_laysRest_33 ?_
      refine x_iload_4 dX6_laysRest_34 ?_
      refine x_aload_0 dX6_laysRest_36 ?_
      refine m_cVi0 ha rfl cv_X6_112 (Nat.le_of_ble_eq_true rfl) dX6_laysRest_37 (c_noteMany ha (by omega) h) (fun x102 s103 h => ?_)
      refine x_iconst (v := 1) dX6_laysRest_40 (by decide) ?_
      refine x_isub dX6_laysRest_41 ?_
      refine x_icmp_ne 49 dX6_laysRest_42 (by decide) (fun c104 => ?_) (fun c104 => ?_)
      · have h := h.1 c104
        refine x_aload_0 dX6_laysRest_49 ?_
        refine x_iload_4 dX6_laysRest_50 ?_
        refine x_iconst (v := 1) dX6_laysRest_52 (by decide) ?_
        refine x_iadd dX6_laysRest_53 ?_
        refine x_iload_5 dX6_laysRest_54 ?_
        refine x_iload_1 dX6_laysRest_56 ?_
        refine x_iload_2 dX6_laysRest_57 ?_
        refine x_iload_3 dX6_laysRest_58 ?_
        refine m_cVi5 ha rfl cv_X6_360 (Nat.le_of_ble_eq_true rfl) dX6_laysRest_59 (c_leastFrom ha (by omega) h) (fun x105 s106 h => ?_)
        obtain ⟨e107, h⟩ := h
        refine m_iast (j := 37) ha dX6_laysRest_62 (by decide) (by decide) e107 ?_
        have h := h _ rfl
        refine x_iinc_5 (v := 1) dX6_laysRest_63 (by decide) (by decide) xN2_i ?_
        have h := h _ rfl
        refine x_goto 16 dX6_laysRest_66 (by decide) ?_
        exact x_le (xLe_cons (xLe_cons (xLe_cons (xLe_cons (xLe_cons (xLe_cons (xLe_nil))))))) (hR _ _ h)
      · have h := h.2 c104
        refine x_iconst (v := 0) dX6_laysRest_45 (by decide) ?_
        refine x_goto 62 dX6_laysRest_46 (by decide) ?_
        obtain ⟨e110, h⟩ := h
        refine m_iast (j := 37) ha dX6_laysRest_62 (by decide) (by decide) e110 ?_
        have h := h _ rfl
        refine x_iinc_5 (v := 1) dX6_laysRest_63 (by decide) (by decide) xN2_i ?_
        have h := h _ rfl
        refine x_goto 16 dX6_laysRest_66 (by decide) ?_
        exact x_le (xLe_cons (xLe_cons (xLe_cons (xLe_cons (xLe_cons (xLe_cons (xLe_nil))))))) (hR _ _ h)
def w_laysRest_8 (N : Nat × Nat) (x1 : Int32) (x2 : Int32) (x3 : Int32) (Kr : mS → Prop) (K : mS → Prop) : Nat → Int32 → mS → Prop
  | 0, _, _ => False
  | t + 1, x4, s => ((x4 < 0 → (K s)) ∧ (¬ x4 < 0 → (w_laysRest_16 N x1 x2 x3 x4 Kr (fun s102 => (∀ x103 : Int32, x103 = x4 + (-1) → ((fun x4 s => w_laysRest_8 N x1 x2 x3 Kr K t x4 s) x103 s102))) N.1 x1 s)))
theorem c_laysRest_8 {G : xG} {l : Launch} {a : Nat → Nat} {g : xH} (ha : mInj a) {d : Nat} {N : Nat × Nat} (hd : 3 ≤ d) (Kr : mS → Prop) (K : mS → Prop) (x1 : Int32) (x2 : Int32) (x3 : Int32) : ∀ (t : Nat) (x4 : Int32) (s : mS) , w_laysRest_8 N x1 x2 x3 Kr K t x4 s → (∀ (s : mS), K s → xF G l kX6_laysRest (d + 1) 0 0 (mQv G a g Kr) 75 [some (.ref (a 51)), none, none, none, none, none] [] (mH G a s g)) → xF G l kX6_laysRest (d + 1) 0 0 (mQv G a g Kr) 8 [some (.ref (a 51)), some (.int x1), some (.int x2), some (.int x3), some (.int x4), none] [] (mH G a s g) := by
  intro t
  induction t with
  | zero =>
    intro _ _ h _
    exact absurd h (by simp [w_laysRest_8])
  | succ t ih =>
    intro x4 s h hK
    have hR := fun x4 s h => ih x4 s h hK
    unfold w_laysRest_8 at h
    refine x_iload_4 dX6_laysRest_8 ?_
    refine x_if_lt 75 dX6_laysRest_10 (by decide) (fun c101 => ?_) (fun c101 => ?_)
    · have h := h.1 c101
      exact x_le (xLe_cons (xLe_none (xLe_none (xLe_none (xLe_none (xLe_cons (xLe_nil))))))) (hK _ h)
    · have h := h.2 c101
      refine x_iload_1 dX6_laysRest_13 ?_
      refine x_istore_5 dX6_laysRest_14 (by decide) xN2_i ?_
      refine x_le (xLe_cons (xLe_cons (xLe_cons (xLe_cons (xLe_cons (xLe_cons (xLe_nil))))))) (c_laysRest_16 ha (by omega) _ _ _ _ _ _ _ _ _ h (fun s102 h => ?_))
      refine x_iinc_4 (v := (-1)) dX6_laysRest_69 (by decide) (by decide) xN2_i ?_
      have h := h _ rfl
      refine x_goto 8 dX6_laysRest_72 (by decide) ?_
      exact x_le (xLe_cons (xLe_cons (xLe_cons (xLe_cons (xLe_cons (xLe_cons (xLe_nil))))))) (hR _ _ h)
def w_laysRest (N : Nat × Nat) (x1 : Int32) (x2 : Int32) (x3 : Int32) (s : mS) (Kr : mS → Prop) : Prop :=
  (w_noteMany s (fun x101 s102 => (∀ x103 : Int32, x103 = x101 - 1 → (w_laysRest_8 N x1 x2 x3 Kr (fun s104 => (Kr s104)) N.1 x103 s102))))
theorem c_laysRest {G : xG} {l : Launch} {a : Nat → Nat} {g : xH} (ha : mInj a) {d : Nat} {N : Nat × Nat} (hd : 4 ≤ d) {x1 : Int32} {x2 : Int32} {x3 : Int32} {s : mS} {Kr : mS → Prop} (h : w_laysRest N x1 x2 x3 s Kr) : xC G l kX6_laysRest d 0 0 [.ref (a 51), .int x1, .int x2, .int x3] (mH G a s g) (mQv G a g Kr) := by
  obtain ⟨d, rfl⟩ : ∃ z, d = z + 1 := ⟨d - 1, by omega⟩
  refine xC.start rfl (by decide +kernel) (Nat.le_of_ble_eq_true rfl) (lv := [some (.ref (a 51)), some (.int x1), some (.int x2), some (.int x3), none, none]) rfl ?_
  unfold w_laysRest at h
  refine x_aload_0 dX6_laysRest_0 ?_
  refine m_cVi0 ha rfl cv_X6_112 (Nat.le_of_ble_eq_true rfl) dX6_laysRest_1 (c_noteMany ha (by omega) h) (fun x101 s102 h => ?_)
  refine x_iconst (v := 1) dX6_laysRest_4 (by decide) ?_
  refine x_isub dX6_laysRest_5 ?_
  refine x_istore_4 dX6_laysRest_6 (by decide) xN2_i ?_
  have h := h _ rfl
  refine x_le (xLe_cons (xLe_cons (xLe_cons (xLe_cons (xLe_cons (xLe_cons (xLe_nil))))))) (c_laysRest_8 ha (by omega) _ _ _ _ _ _ _ _ h (fun s104 h => ?_))
  exact x_vret dX6_laysRest_75 rfl ⟨_, h, rfl, rfl⟩
def w_leastOf (N : Nat × Nat) (x1 : Int32) (s : mS) (Kr : Int32 → mS → Prop) : Prop :=
  (w_noteMany s (fun x101 s102 => ((¬ x101 = 0 → (vp_in 39 5652 ∧ (vp_in 40 5652 ∧ (w_laysRest N (mAt s102 2 39) (mAt s102 2 40) x1 s102 (fun s107 => (vp_in 39 5652 ∧ (vp_in 40 5652 ∧ (w_leastFrom N 0 0 (mAt s107 2 39) (mAt s107 2 40) x1 s107 (fun x110 s111 => ((x110 < 100000000 → (Kr x110 s111)) ∧ (¬ x110 < 100000000 → (Kr (-1) s111)))))))))))) ∧ (x101 = 0 → (Kr 0 s102)))))
theorem c_leastOf {G : xG} {l : Launch} {a : Nat → Nat} {g : xH} (ha : mInj a) {d : Nat} {N : Nat × Nat} (hd : 5 ≤ d) {x1 : Int32} {s : mS} {Kr : Int32 → mS → Prop} (h : w_leastOf N x1 s Kr) : xC G l kX6_leastOf d 0 0 [.ref (a 51), .int x1] (mH G a s g) (mQi G a g Kr) := by
  obtain ⟨d, rfl⟩ : ∃ z, d = z + 1 := ⟨d - 1, by omega⟩
  refine xC.start rfl (by decide +kernel) (Nat.le_of_ble_eq_true rfl) (lv := [some (.ref (a 51)), some (.int x1), none]) rfl ?_
  unfold w_leastOf at h
  refine x_aload_0 dX6_leastOf_0 ?_
  refine m_cVi0 ha rfl cv_X6_112 (Nat.le_of_ble_eq_true rfl) dX6_leastOf_1 (c_noteMany ha (by omega) h) (fun x101 s102 h => ?_)
  refine x_if_ne 9 dX6_leastOf_4 (by decide) (fun c103 => ?_) (fun c103 => ?_)
  · have h := h.1 c103
    refine x_aload_0 dX6_leastOf_9 ?_
    refine x_aload_0 dX6_leastOf_10 ?_
    refine m_get ha dX6_leastOf_11 fa_X6_28 rfl ?_
    refine x_bipush (v := 39) dX6_leastOf_14 (by decide) ?_
    obtain ⟨e104, h⟩ := h
    refine m_iald (j := 2) ha dX6_leastOf_16 (by decide) (by decide) e104 ?_
    refine x_aload_0 dX6_leastOf_17 ?_
    refine m_get ha dX6_leastOf_18 fa_X6_28 rfl ?_
    refine x_bipush (v := 40) dX6_leastOf_21 (by decide) ?_
    obtain ⟨e105, h⟩ := h
    refine m_iald (j := 2) ha dX6_leastOf_23 (by decide) (by decide) e105 ?_
    refine x_iload_1 dX6_leastOf_24 ?_
    refine m_cVv3 ha rfl cv_X6_372 (Nat.le_of_ble_eq_true rfl) dX6_leastOf_25 (c_laysRest ha (by omega) h) (fun s107 h => ?_)
    refine x_aload_0 dX6_leastOf_28 ?_
    refine x_iconst (v := 0) dX6_leastOf_29 (by decide) ?_
    refine x_iconst (v := 0) dX6_leastOf_30 (by decide) ?_
    refine x_aload_0 dX6_leastOf_31 ?_
    refine m_get ha dX6_leastOf_32 fa_X6_28 rfl ?_
    refine x_bipush (v := 39) dX6_leastOf_35 (by decide) ?_
    obtain ⟨e108, h⟩ := h
    refine m_iald (j := 2) ha dX6_leastOf_37 (by decide) (by decide) e108 ?_
    refine x_aload_0 dX6_leastOf_38 ?_
    refine m_get ha dX6_leastOf_39 fa_X6_28 rfl ?_
    refine x_bipush (v := 40) dX6_leastOf_42 (by decide) ?_
    obtain ⟨e109, h⟩ := h
    refine m_iald (j := 2) ha dX6_leastOf_44 (by decide) (by decide) e109 ?_
    refine x_iload_1 dX6_leastOf_45 ?_
    refine m_cVi5 ha rfl cv_X6_360 (Nat.le_of_ble_eq_true rfl) dX6_leastOf_46 (c_leastFrom ha (by omega) h) (fun x110 s111 h => ?_)
    refine x_istore_2 dX6_leastOf_49 (by decide) xN2_i ?_
    refine x_iload_2 dX6_leastOf_50 ?_
    refine x_ldcw dX6_leastOf_51 q2102 ?_
    refine x_icmp_lt 61 dX6_leastOf_54 (by decide) (fun c112 => ?_) (fun c112 => ?_)
    · have h := h.1 c112
      refine x_iload_2 dX6_leastOf_61 ?_
      exact x_iret dX6_leastOf_62 rfl ⟨_, _, h, rfl, rfl⟩
    · have h := h.2 c112
      refine x_iconst (v := (-1)) dX6_leastOf_57 (by decide) ?_
      refine x_goto 62 dX6_leastOf_58 (by decide) ?_
      exact x_iret dX6_leastOf_62 rfl ⟨_, _, h, rfl, rfl⟩
  · have h := h.2 c103
    refine x_iconst (v := 0) dX6_leastOf_7 (by decide) ?_
    exact x_iret dX6_leastOf_8 rfl ⟨_, _, h, rfl, rfl⟩
def w_pitchOf_44 (N : Nat × Nat) (x1 : Int32) (x2 : Int32) (x3 : Int32) (x4 : Int32) (x5 : Int32) (Kr : Int32 → mS → Prop) (K : Int32 → mS → Prop) : Nat → Int32 → mS → Prop
  | 0, _, _ => False
  | t + 1, x6, s => (w_noteAt x4 x3 x6 (fun x101 => (vp_in x101 7500 ∧ (((mAt s 36 x101) = 0 → (∀ x105 : Int32, x105 = x6 + 1 → ((fun x6 s => w_pitchOf_44 N x1 x2 x3 x4 x5 Kr K t x6 s) x105 s))) ∧ (¬ (mAt s 36 x101) = 0 → (w_priceOf x4 x3 x6 x2 s (fun x106 s107 => (vp_in ((25 * x4) + x6) 300 ∧ (((x106 + (mAt s107 37 ((25 * x4) + x6))) = x5 → (K x6 s107)) ∧ (¬ (x106 + (mAt s107 37 ((25 * x4) + x6))) = x5 → (∀ x110 : Int32, x110 = x6 + 1 → ((fun x6 s => w_pitchOf_44 N x1 x2 x3 x4 x5 Kr K t x6 s) x110 s107))))))))))))
theorem c_pitchOf_44 {G : xG} {l : Launch} {a : Nat → Nat} {g : xH} (ha : mInj a) {d : Nat} {N : Nat × Nat} (hd : 3 ≤ d) (Kr : Int32 → mS → Prop) (K : Int32 → mS → Prop) (x1 : Int32) (x2 : Int32) (x3 : Int32) (x4 : Int32) (x5 : Int32) : ∀ (t : Nat) (x6 : Int32) (s : mS) , w_pitchOf_44 N x1 x2 x3 x4 x5 Kr K t x6 s → (∀ (z6 : Int32) (s : mS), K z6 s → xF G l kX6_pitchOf (d + 1) 0 0 (mQi G a g Kr) 95 [some (.ref (a 51)), some (.int x1), some (.int x2), none, some (.int x4), none, some (.int z6)] [] (mH G a s g)) → xF G l kX6_pitchOf (d + 1) 0 0 (mQi G a g Kr) 44 [some (.ref (a 51)), some (.int x1), some (.int x2), some (.int x3), some (.int x4), some (.int x5), some (.int x6)] [] (mH G a s g) := by
  intro t
  induction t with
  | zero =>
    intro _ _ h _
    exact absurd h (by simp [w_pitchOf_44])
  | succ t ih =>
    intro x6 s h hK
    have hR := fun x6 s h => ih x6 s h hK
    unfold w_pitchOf_44 at h
    refine x_aload_0 dX6_pitchOf_44 ?_
    refine m_get ha dX6_pitchOf_45 fa_X6_78 rfl ?_
    refine x_iload_4 dX6_pitchOf_48 ?_
    refine x_iload_3 dX6_pitchOf_50 ?_
    refine x_iload_6 dX6_pitchOf_51 ?_
    refine m_cSi3 rfl cs_X6_354 (Nat.le_of_ble_eq_true rfl) dX6_pitchOf_53 (c_noteAt (by omega) h) (fun x101 h => ?_)
    obtain ⟨e103, h⟩ := h
    refine m_zald (j := 36) ha dX6_pitchOf_56 (by decide) (by decide) e103 ?_
    refine x_if_eq 89 dX6_pitchOf_57 (by decide) (fun c104 => ?_) (fun c104 => ?_)
    · have h := h.1 c104
      refine x_iinc_6 (v := 1) dX6_pitchOf_89 (by decide) (by decide) xN2_i ?_
      have h := h _ rfl
      refine x_goto 44 dX6_pitchOf_92 (by decide) ?_
      exact x_le (xLe_cons (xLe_cons (xLe_cons (xLe_cons (xLe_cons (xLe_cons (xLe_cons (xLe_nil)))))))) (hR _ _ h)
    · have h := h.2 c104
      refine x_aload_0 dX6_pitchOf_60 ?_
      refine x_iload_4 dX6_pitchOf_61 ?_
      refine x_iload_3 dX6_pitchOf_63 ?_
      refine x_iload_6 dX6_pitchOf_64 ?_
      refine x_iload_2 dX6_pitchOf_66 ?_
      refine m_cVi4 ha rfl cv_X6_365 (Nat.le_of_ble_eq_true rfl) dX6_pitchOf_67 (c_priceOf ha (by omega) h) (fun x106 s107 h => ?_)
      refine x_aload_0 dX6_pitchOf_70 ?_
      refine m_get ha dX6_pitchOf_71 fa_X6_81 rfl ?_
      refine x_bipush (v := 25) dX6_pitchOf_74 (by decide) ?_
      refine x_iload_4 dX6_pitchOf_76 ?_
      refine x_imul dX6_pitchOf_78 ?_
      refine x_iload_6 dX6_pitchOf_79 ?_
      refine x_iadd dX6_pitchOf_81 ?_
      obtain ⟨e108, h⟩ := h
      refine m_iald (j := 37) ha dX6_pitchOf_82 (by decide) (by decide) e108 ?_
      refine x_iadd dX6_pitchOf_83 ?_
      refine x_iload_5 dX6_pitchOf_84 ?_
      refine x_icmp_eq 95 dX6_pitchOf_86 (by decide) (fun c109 => ?_) (fun c109 => ?_)
      · have h := h.1 c109
        exact x_le (xLe_cons (xLe_cons (xLe_cons (xLe_none (xLe_cons (xLe_none (xLe_cons (xLe_nil)))))))) (hK _ _ h)
      · have h := h.2 c109
        refine x_iinc_6 (v := 1) dX6_pitchOf_89 (by decide) (by decide) xN2_i ?_
        have h := h _ rfl
        refine x_goto 44 dX6_pitchOf_92 (by decide) ?_
        exact x_le (xLe_cons (xLe_cons (xLe_cons (xLe_cons (xLe_cons (xLe_cons (xLe_cons (xLe_nil)))))))) (hR _ _ h)
def w_pitchOf_5 (N : Nat × Nat) (x1 : Int32) (x2 : Int32) (Kr : Int32 → mS → Prop) (K : Int32 → mS → Prop) : Nat → Int32 → Int32 → mS → Prop
  | 0, _, _, _ => False
  | t + 1, x3, x4, s => ((x1 < x4 → (K x3 s)) ∧ (¬ x1 < x4 → (vp_in 39 5652 ∧ (vp_in 40 5652 ∧ (w_leastFrom N x4 x3 (mAt s 2 39) (mAt s 2 40) x2 s (fun x104 s105 => (vp_in 39 5652 ∧ (∀ x107 : Int32, x107 = mAt s105 2 39 → (w_pitchOf_44 N x1 x2 x3 x4 x104 Kr (fun x108 s109 => (∀ x110 : Int32, x110 = x4 + 1 → ((fun x3 x4 s => w_pitchOf_5 N x1 x2 Kr K t x3 x4 s) x108 x110 s109))) N.1 x107 s105)))))))))
theorem c_pitchOf_5 {G : xG} {l : Launch} {a : Nat → Nat} {g : xH} (ha : mInj a) {d : Nat} {N : Nat × Nat} (hd : 3 ≤ d) (Kr : Int32 → mS → Prop) (K : Int32 → mS → Prop) (x1 : Int32) (x2 : Int32) : ∀ (t : Nat) (x3 : Int32) (x4 : Int32) (s : mS) , w_pitchOf_5 N x1 x2 Kr K t x3 x4 s → (∀ (z3 : Int32) (s : mS), K z3 s → xF G l kX6_pitchOf (d + 1) 0 0 (mQi G a g Kr) 104 [some (.ref (a 51)), none, none, some (.int z3), none, none, none] [] (mH G a s g)) → xF G l kX6_pitchOf (d + 1) 0 0 (mQi G a g Kr) 5 [some (.ref (a 51)), some (.int x1), some (.int x2), some (.int x3), some (.int x4), none, none] [] (mH G a s g) := by
  intro t
  induction t with
  | zero =>
    intro _ _ _ h _
    exact absurd h (by simp [w_pitchOf_5])
  | succ t ih =>
    intro x3 x4 s h hK
    have hR := fun x3 x4 s h => ih x3 x4 s h hK
    unfold w_pitchOf_5 at h
    refine x_iload_4 dX6_pitchOf_5 ?_
    refine x_iload_1 dX6_pitchOf_7 ?_
    refine x_icmp_gt 104 dX6_pitchOf_8 (by decide) (fun c101 => ?_) (fun c101 => ?_)
    · have h := h.1 c101
      exact x_le (xLe_cons (xLe_none (xLe_none (xLe_cons (xLe_none (xLe_cons (xLe_cons (xLe_nil)))))))) (hK _ _ h)
    · have h := h.2 c101
      refine x_aload_0 dX6_pitchOf_11 ?_
      refine x_iload_4 dX6_pitchOf_12 ?_
      refine x_iload_3 dX6_pitchOf_14 ?_
      refine x_aload_0 dX6_pitchOf_15 ?_
      refine m_get ha dX6_pitchOf_16 fa_X6_28 rfl ?_
      refine x_bipush (v := 39) dX6_pitchOf_19 (by decide) ?_
      obtain ⟨e102, h⟩ := h
      refine m_iald (j := 2) ha dX6_pitchOf_21 (by decide) (by decide) e102 ?_
      refine x_aload_0 dX6_pitchOf_22 ?_
      refine m_get ha dX6_pitchOf_23 fa_X6_28 rfl ?_
      refine x_bipush (v := 40) dX6_pitchOf_26 (by decide) ?_
      obtain ⟨e103, h⟩ := h
      refine m_iald (j := 2) ha dX6_pitchOf_28 (by decide) (by decide) e103 ?_
      refine x_iload_2 dX6_pitchOf_29 ?_
      refine m_cVi5 ha rfl cv_X6_360 (Nat.le_of_ble_eq_true rfl) dX6_pitchOf_30 (c_leastFrom ha (by omega) h) (fun x104 s105 h => ?_)
      refine x_istore_5 dX6_pitchOf_33 (by decide) xN2_i ?_
      refine x_aload_0 dX6_pitchOf_35 ?_
      refine m_get ha dX6_pitchOf_36 fa_X6_28 rfl ?_
      refine x_bipush (v := 39) dX6_pitchOf_39 (by decide) ?_
      obtain ⟨e106, h⟩ := h
      refine m_iald (j := 2) ha dX6_pitchOf_41 (by decide) (by decide) e106 ?_
      refine x_istore_6 dX6_pitchOf_42 (by decide) xN2_i ?_
      have h := h _ rfl
      refine x_le (xLe_cons (xLe_cons (xLe_cons (xLe_cons (xLe_cons (xLe_cons (xLe_cons (xLe_nil)))))))) (c_pitchOf_44 ha (by omega) _ _ _ _ _ _ _ _ _ _ h (fun x108 s109 h => ?_))
      refine x_iload_6 dX6_pitchOf_95 ?_
      refine x_istore_3 dX6_pitchOf_97 (by decide) xN2_i ?_
      refine x_iinc_4 (v := 1) dX6_pitchOf_98 (by decide) (by decide) xN2_i ?_
      have h := h _ rfl
      refine x_goto 5 dX6_pitchOf_101 (by decide) ?_
      exact x_le (xLe_cons (xLe_cons (xLe_cons (xLe_cons (xLe_cons (xLe_cons (xLe_none (xLe_nil)))))))) (hR _ _ _ h)
def w_pitchOf (N : Nat × Nat) (x1 : Int32) (x2 : Int32) (s : mS) (Kr : Int32 → mS → Prop) : Prop :=
  (w_pitchOf_5 N x1 x2 Kr (fun x101 s102 => (Kr x101 s102)) N.1 0 0 s)
theorem c_pitchOf {G : xG} {l : Launch} {a : Nat → Nat} {g : xH} (ha : mInj a) {d : Nat} {N : Nat × Nat} (hd : 4 ≤ d) {x1 : Int32} {x2 : Int32} {s : mS} {Kr : Int32 → mS → Prop} (h : w_pitchOf N x1 x2 s Kr) : xC G l kX6_pitchOf d 0 0 [.ref (a 51), .int x1, .int x2] (mH G a s g) (mQi G a g Kr) := by
  obtain ⟨d, rfl⟩ : ∃ z, d = z + 1 := ⟨d - 1, by omega⟩
  refine xC.start rfl (by decide +kernel) (Nat.le_of_ble_eq_true rfl) (lv := [some (.ref (a 51)), some (.int x1), some (.int x2), none, none, none, none]) rfl ?_
  unfold w_pitchOf at h
  refine x_iconst (v := 0) dX6_pitchOf_0 (by decide) ?_
  refine x_istore_3 dX6_pitchOf_1 (by decide) xN2_i ?_
  refine x_iconst (v := 0) dX6_pitchOf_2 (by decide) ?_
  refine x_istore_4 dX6_pitchOf_3 (by decide) xN2_i ?_
  refine x_le (xLe_cons (xLe_cons (xLe_cons (xLe_cons (xLe_cons (xLe_cons (xLe_cons (xLe_nil)))))))) (c_pitchOf_5 ha (by omega) _ _ _ _ _ _ _ _ h (fun x101 s102 h => ?_))
  refine x_iload_3 dX6_pitchOf_104 ?_
  exact x_iret dX6_pitchOf_105 rfl ⟨_, _, h, rfl, rfl⟩
def w_voiceOf_20 (N : Nat × Nat) (x1 : Int32) (x2 : Int32) (Kr : Int32 → mS → Prop) (s : mS) : Prop :=
  (w_laysNotes N s (fun s102 => (w_leastOf N x2 s102 (fun x103 s104 => ((x103 = (-1) → (Kr x103 s104)) ∧ (¬ x103 = (-1) → ((¬ x1 = (-1) → (w_pitchOf N x1 x2 s104 (fun x107 s108 => (Kr x107 s108)))) ∧ (x1 = (-1) → (Kr x103 s104)))))))))
theorem c_voiceOf_20 {G : xG} {l : Launch} {a : Nat → Nat} {g : xH} (ha : mInj a) {d : Nat} {N : Nat × Nat} (hd : 2 * N.2 + 9 ≤ d) (x1 : Int32) (x2 : Int32) (Kr : Int32 → mS → Prop) (s : mS) (h : w_voiceOf_20 N x1 x2 Kr s) : xF G l kX6_voiceOf (d + 1) 0 0 (mQi G a g Kr) 20 [some (.ref (a 51)), some (.int x1), some (.int x2), none] [] (mH G a s g) := by
  unfold w_voiceOf_20 at h
  refine x_aload_0 dX6_voiceOf_20 ?_
  refine m_cVv0 ha rfl cv_X6_376 (Nat.le_of_ble_eq_true rfl) dX6_voiceOf_21 (c_laysNotes ha (by omega) h) (fun s102 h => ?_)
  refine x_aload_0 dX6_voiceOf_24 ?_
  refine x_iload_2 dX6_voiceOf_25 ?_
  refine m_cVi1 ha rfl cv_X6_379 (Nat.le_of_ble_eq_true rfl) dX6_voiceOf_26 (c_leastOf ha (by omega) h) (fun x103 s104 h => ?_)
  refine x_istore_3 dX6_voiceOf_29 (by decide) xN2_i ?_
  refine x_iload_3 dX6_voiceOf_30 ?_
  refine x_iconst (v := (-1)) dX6_voiceOf_31 (by decide) ?_
  refine x_icmp_eq 40 dX6_voiceOf_32 (by decide) (fun c105 => ?_) (fun c105 => ?_)
  · have h := h.1 c105
    refine x_iload_3 dX6_voiceOf_40 ?_
    refine x_goto 50 dX6_voiceOf_41 (by decide) ?_
    exact x_iret dX6_voiceOf_50 rfl ⟨_, _, h, rfl, rfl⟩
  · have h := h.2 c105
    refine x_iload_1 dX6_voiceOf_35 ?_
    refine x_iconst (v := (-1)) dX6_voiceOf_36 (by decide) ?_
    refine x_icmp_ne 44 dX6_voiceOf_37 (by decide) (fun c106 => ?_) (fun c106 => ?_)
    · have h := h.1 c106
      refine x_aload_0 dX6_voiceOf_44 ?_
      refine x_iload_1 dX6_voiceOf_45 ?_
      refine x_iload_2 dX6_voiceOf_46 ?_
      refine m_cVi2 ha rfl cv_X6_383 (Nat.le_of_ble_eq_true rfl) dX6_voiceOf_47 (c_pitchOf ha (by omega) h) (fun x107 s108 h => ?_)
      exact x_iret dX6_voiceOf_50 rfl ⟨_, _, h, rfl, rfl⟩
    · have h := h.2 c106
      refine x_iload_3 dX6_voiceOf_40 ?_
      refine x_goto 50 dX6_voiceOf_41 (by decide) ?_
      exact x_iret dX6_voiceOf_50 rfl ⟨_, _, h, rfl, rfl⟩
def w_voiceOf (N : Nat × Nat) (x1 : Int32) (x2 : Int32) (s : mS) (Kr : Int32 → mS → Prop) : Prop :=
  ((x1 < (-1) → (Kr (-1) s)) ∧ (¬ x1 < (-1) → (w_noteMany s (fun x102 s103 => ((x1 < x102 → (w_voiceOf_20 N x1 x2 Kr s103)) ∧ (¬ x1 < x102 → ((x1 = (-1) → (w_voiceOf_20 N x1 x2 Kr s103)) ∧ (¬ x1 = (-1) → (Kr (-1) s103)))))))))
theorem c_voiceOf {G : xG} {l : Launch} {a : Nat → Nat} {g : xH} (ha : mInj a) {d : Nat} {N : Nat × Nat} (hd : 2 * N.2 + 10 ≤ d) {x1 : Int32} {x2 : Int32} {s : mS} {Kr : Int32 → mS → Prop} (h : w_voiceOf N x1 x2 s Kr) : xC G l kX6_voiceOf d 0 0 [.ref (a 51), .int x1, .int x2] (mH G a s g) (mQi G a g Kr) := by
  obtain ⟨d, rfl⟩ : ∃ z, d = z + 1 := ⟨d - 1, by omega⟩
  refine xC.start rfl (by decide +kernel) (Nat.le_of_ble_eq_true rfl) (lv := [some (.ref (a 51)), some (.int x1), some (.int x2), none]) rfl ?_
  unfold w_voiceOf at h
  refine x_iload_1 dX6_voiceOf_0 ?_
  refine x_iconst (v := (-1)) dX6_voiceOf_1 (by decide) ?_
  refine x_icmp_lt 18 dX6_voiceOf_2 (by decide) (fun c101 => ?_) (fun c101 => ?_)
  · have h := h.1 c101
    refine x_iconst (v := (-1)) dX6_voiceOf_18 (by decide) ?_
    exact x_iret dX6_voiceOf_19 rfl ⟨_, _, h, rfl, rfl⟩
  · have h := h.2 c101
    refine x_iload_1 dX6_voiceOf_5 ?_
    refine x_aload_0 dX6_voiceOf_6 ?_
    refine m_cVi0 ha rfl cv_X6_112 (Nat.le_of_ble_eq_true rfl) dX6_voiceOf_7 (c_noteMany ha (by omega) h) (fun x102 s103 h => ?_)
    refine x_icmp_lt 20 dX6_voiceOf_10 (by decide) (fun c104 => ?_) (fun c104 => ?_)
    · have h := h.1 c104
      exact x_le (xLe_cons (xLe_cons (xLe_cons (xLe_cons (xLe_nil))))) (c_voiceOf_20 ha (by omega) _ _ _ _ h)
    · have h := h.2 c104
      refine x_iload_1 dX6_voiceOf_13 ?_
      refine x_iconst (v := (-1)) dX6_voiceOf_14 (by decide) ?_
      refine x_icmp_eq 20 dX6_voiceOf_15 (by decide) (fun c105 => ?_) (fun c105 => ?_)
      · have h := h.1 c105
        exact x_le (xLe_cons (xLe_cons (xLe_cons (xLe_cons (xLe_nil))))) (c_voiceOf_20 ha (by omega) _ _ _ _ h)
      · have h := h.2 c105
        refine x_iconst (v := (-1)) dX6_voiceOf_18 (by decide) ?_
        exact x_iret dX6_voiceOf_19 rfl ⟨_, _, h, rfl, rfl⟩
def w_best (N : Nat × Nat) (x1 : Int32) (s : mS) (Kr : Int32 → mS → Prop) : Prop :=
  (w_voiceOf N x1 0 s (fun x101 s102 => (Kr x101 s102)))
theorem c_best {G : xG} {l : Launch} {a : Nat → Nat} {g : xH} (ha : mInj a) {d : Nat} {N : Nat × Nat} (hd : 2 * N.2 + 11 ≤ d) {x1 : Int32} {s : mS} {Kr : Int32 → mS → Prop} (h : w_best N x1 s Kr) : xC G l kX6_best d 0 0 [.ref (a 51), .int x1] (mH G a s g) (mQi G a g Kr) := by
  obtain ⟨d, rfl⟩ : ∃ z, d = z + 1 := ⟨d - 1, by omega⟩
  refine xC.start rfl (by decide +kernel) (Nat.le_of_ble_eq_true rfl) (lv := [some (.ref (a 51)), some (.int x1)]) rfl ?_
  unfold w_best at h
  refine x_aload_0 dX6_best_0 ?_
  refine x_iload_1 dX6_best_1 ?_
  refine x_iconst (v := 0) dX6_best_2 (by decide) ?_
  refine m_cVi2 ha rfl cv_X6_387 (Nat.le_of_ble_eq_true rfl) dX6_best_3 (c_voiceOf ha (by omega) h) (fun x101 s102 h => ?_)
  exact x_iret dX6_best_6 rfl ⟨_, _, h, rfl, rfl⟩
def w_isWithin (x1 : Int32) (s : mS) (Kr : Int32 → mS → Prop) : Prop :=
  (vp_in 39 5652 ∧ (vp_in 40 5652 ∧ (w_lies x1 (mAt s 2 39) (mAt s 2 40) (fun x103 => (xB x103 ∧ (Kr x103 s))))))
theorem c_isWithin {G : xG} {l : Launch} {a : Nat → Nat} {g : xH} (ha : mInj a) {d : Nat} (hd : 2 ≤ d) {x1 : Int32} {s : mS} {Kr : Int32 → mS → Prop} (h : w_isWithin x1 s Kr) : xC G l kX6_isWithin d 0 0 [.ref (a 51), .int x1] (mH G a s g) (mQi G a g Kr) := by
  obtain ⟨d, rfl⟩ : ∃ z, d = z + 1 := ⟨d - 1, by omega⟩
  refine xC.start rfl (by decide +kernel) (Nat.le_of_ble_eq_true rfl) (lv := [some (.ref (a 51)), some (.int x1)]) rfl ?_
  unfold w_isWithin at h
  refine x_iload_1 dX6_isWithin_0 ?_
  refine x_aload_0 dX6_isWithin_1 ?_
  refine m_get ha dX6_isWithin_2 fa_X6_28 rfl ?_
  refine x_bipush (v := 39) dX6_isWithin_5 (by decide) ?_
  obtain ⟨e101, h⟩ := h
  refine m_iald (j := 2) ha dX6_isWithin_7 (by decide) (by decide) e101 ?_
  refine x_aload_0 dX6_isWithin_8 ?_
  refine m_get ha dX6_isWithin_9 fa_X6_28 rfl ?_
  refine x_bipush (v := 40) dX6_isWithin_12 (by decide) ?_
  obtain ⟨e102, h⟩ := h
  refine m_iald (j := 2) ha dX6_isWithin_14 (by decide) (by decide) e102 ?_
  refine m_cSi3 rfl cs_X6_18 (Nat.le_of_ble_eq_true rfl) dX6_isWithin_15 (c_lies (by omega) h) (fun x103 h => ?_)
  obtain ⟨e105, h⟩ := h
  exact x_zret dX6_isWithin_18 rfl (xB_n e105) ⟨_, _, h, rfl, rfl⟩
def w_between_175 (N : Nat × Nat) (y0 : Int32) (Kr : Int32 → mS → Prop) (s : mS) : Prop :=
  ((y0 < 100000000 → (Kr y0 s)) ∧ (¬ y0 < 100000000 → (Kr (-1) s)))
theorem c_between_175 {G : xG} {l : Launch} {a : Nat → Nat} {g : xH} (ha : mInj a) {d : Nat} {N : Nat × Nat} (hd : 2 * N.2 + 9 ≤ d) (y0 : Int32) (Kr : Int32 → mS → Prop) (s : mS) (h : w_between_175 N y0 Kr s) : xF G l kX6_between (d + 1) 0 0 (mQi G a g Kr) 175 [some (.ref (a 51)), none, none, none, none, none] [.int y0] (mH G a s g) := by
  unfold w_between_175 at h
  refine x_istore_4 dX6_between_175 (by decide) xN2_none ?_
  refine x_iload_4 dX6_between_177 ?_
  refine x_ldcw dX6_between_179 q2102 ?_
  refine x_icmp_lt 189 dX6_between_182 (by decide) (fun c101 => ?_) (fun c101 => ?_)
  · have h := h.1 c101
    refine x_iload_4 dX6_between_189 ?_
    exact x_iret dX6_between_191 rfl ⟨_, _, h, rfl, rfl⟩
  · have h := h.2 c101
    refine x_iconst (v := (-1)) dX6_between_185 (by decide) ?_
    refine x_goto 191 dX6_between_186 (by decide) ?_
    exact x_iret dX6_between_191 rfl ⟨_, _, h, rfl, rfl⟩
def w_between_53 (N : Nat × Nat) (x1 : Int32) (x2 : Int32) (x3 : Int32) (x4 : Int32) (Kr : Int32 → mS → Prop) (K : mS → Prop) : Nat → Int32 → mS → Prop
  | 0, _, _ => False
  | t + 1, x5, s => (vp_in 40 5652 ∧ (((mAt s 2 40) < x5 → (K s)) ∧ (¬ (mAt s 2 40) < x5 → ((¬ x4 = x3 → (vp_in 39 5652 ∧ (vp_in 40 5652 ∧ (w_leastFrom N (x4 + 1) x5 (mAt s 2 39) (mAt s 2 40) 0 s (fun x106 s107 => (vp_in ((25 * x4) + x5) 300 ∧ (∀ s109 : mS, s109 = mI s107 37 ((25 * x4) + x5) x106 → (∀ x110 : Int32, x110 = x5 + 1 → ((fun x5 s => w_between_53 N x1 x2 x3 x4 Kr K t x5 s) x110 s109))))))))) ∧ (x4 = x3 → ((¬ x5 = x2 → (vp_in ((25 * x4) + x5) 300 ∧ (∀ s113 : mS, s113 = mI s 37 ((25 * x4) + x5) 100000000 → (∀ x114 : Int32, x114 = x5 + 1 → ((fun x5 s => w_between_53 N x1 x2 x3 x4 Kr K t x5 s) x114 s113))))) ∧ (x5 = x2 → (vp_in ((25 * x4) + x5) 300 ∧ (∀ s116 : mS, s116 = mI s 37 ((25 * x4) + x5) 0 → (∀ x117 : Int32, x117 = x5 + 1 → ((fun x5 s => w_between_53 N x1 x2 x3 x4 Kr K t x5 s) x117 s116)))))))))))
theorem c_between_53 {G : xG} {l : Launch} {a : Nat → Nat} {g : xH} (ha : mInj a) {d : Nat} {N : Nat × Nat} (hd : 2 * N.2 + 9 ≤ d) (Kr : Int32 → mS → Prop) (K : mS → Prop) (x1 : Int32) (x2 : Int32) (x3 : Int32) (x4 : Int32) : ∀ (t : Nat) (x5 : Int32) (s : mS) , w_between_53 N x1 x2 x3 x4 Kr K t x5 s → (∀ (s : mS), K s → xF G l kX6_between (d + 1) 0 0 (mQi G a g Kr) 131 [some (.ref (a 51)), some (.int x1), some (.int x2), some (.int x3), some (.int x4), none] [] (mH G a s g)) → xF G l kX6_between (d + 1) 0 0 (mQi G a g Kr) 53 [some (.ref (a 51)), some (.int x1), some (.int x2), some (.int x3), some (.int x4), some (.int x5)] [] (mH G a s g) := by
  intro t
  induction t with
  | zero =>
    intro _ _ h _
    exact absurd h (by simp [w_between_53])
  | succ t ih =>
    intro x5 s h hK
    have hR := fun x5 s h => ih x5 s h hK
    unfold w_between_53 at h
    refine x_iload_5 dX6_between_53 ?_
    refine x_aload_0 dX6_between_55 ?_
    refine m_get ha dX6_between_56 fa_X6_28 rfl ?_
    refine x_bipush (v := 40) dX6_between_59 (by decide) ?_
    obtain ⟨e101, h⟩ := h
    refine m_iald (j := 2) ha dX6_between_61 (by decide) (by decide) e101 ?_
    refine x_icmp_gt 131 dX6_between_62 (by decide) (fun c102 => ?_) (fun c102 => ?_)
    · have h := h.1 c102
      exact x_le (xLe_cons (xLe_cons (xLe_cons (xLe_cons (xLe_cons (xLe_none (xLe_nil))))))) (hK _ h)
    · have h := h.2 c102
      refine x_aload_0 dX6_between_65 ?_
      refine m_get ha dX6_between_66 fa_X6_81 rfl ?_
      refine x_bipush (v := 25) dX6_between_69 (by decide) ?_
      refine x_iload_4 dX6_between_71 ?_
      refine x_imul dX6_between_73 ?_
      refine x_iload_5 dX6_between_74 ?_
      refine x_iadd dX6_between_76 ?_
      refine x_iload_4 dX6_between_77 ?_
      refine x_iload_3 dX6_between_79 ?_
      refine x_icmp_ne 99 dX6_between_80 (by decide) (fun c103 => ?_) (fun c103 => ?_)
      · have h := h.1 c103
        refine x_aload_0 dX6_between_99 ?_
        refine x_iload_4 dX6_between_100 ?_
        refine x_iconst (v := 1) dX6_between_102 (by decide) ?_
        refine x_iadd dX6_between_103 ?_
        refine x_iload_5 dX6_between_104 ?_
        refine x_aload_0 dX6_between_106 ?_
        refine m_get ha dX6_between_107 fa_X6_28 rfl ?_
        refine x_bipush (v := 39) dX6_between_110 (by decide) ?_
        obtain ⟨e104, h⟩ := h
        refine m_iald (j := 2) ha dX6_between_112 (by decide) (by decide) e104 ?_
        refine x_aload_0 dX6_between_113 ?_
        refine m_get ha dX6_between_114 fa_X6_28 rfl ?_
        refine x_bipush (v := 40) dX6_between_117 (by decide) ?_
        obtain ⟨e105, h⟩ := h
        refine m_iald (j := 2) ha dX6_between_119 (by decide) (by decide) e105 ?_
        refine x_iconst (v := 0) dX6_between_120 (by decide) ?_
        refine m_cVi5 ha rfl cv_X6_360 (Nat.le_of_ble_eq_true rfl) dX6_between_121 (c_leastFrom ha (by omega) h) (fun x106 s107 h => ?_)
        obtain ⟨e108, h⟩ := h
        refine m_iast (j := 37) ha dX6_between_124 (by decide) (by decide) e108 ?_
        have h := h _ rfl
        refine x_iinc_5 (v := 1) dX6_between_125 (by decide) (by decide) xN2_i ?_
        have h := h _ rfl
        refine x_goto 53 dX6_between_128 (by decide) ?_
        exact x_le (xLe_cons (xLe_cons (xLe_cons (xLe_cons (xLe_cons (xLe_cons (xLe_nil))))))) (hR _ _ h)
      · have h := h.2 c103
        refine x_iload_5 dX6_between_83 ?_
        refine x_iload_2 dX6_between_85 ?_
        refine x_icmp_ne 93 dX6_between_86 (by decide) (fun c111 => ?_) (fun c111 => ?_)
        · have h := h.1 c111
          refine x_ldcw dX6_between_93 q2102 ?_
          refine x_goto 124 dX6_between_96 (by decide) ?_
          obtain ⟨e112, h⟩ := h
          refine m_iast (j := 37) ha dX6_between_124 (by decide) (by decide) e112 ?_
          have h := h _ rfl
          refine x_iinc_5 (v := 1) dX6_between_125 (by decide) (by decide) xN2_i ?_
          have h := h _ rfl
          refine x_goto 53 dX6_between_128 (by decide) ?_
          exact x_le (xLe_cons (xLe_cons (xLe_cons (xLe_cons (xLe_cons (xLe_cons (xLe_nil))))))) (hR _ _ h)
        · have h := h.2 c111
          refine x_iconst (v := 0) dX6_between_89 (by decide) ?_
          refine x_goto 124 dX6_between_90 (by decide) ?_
          obtain ⟨e115, h⟩ := h
          refine m_iast (j := 37) ha dX6_between_124 (by decide) (by decide) e115 ?_
          have h := h _ rfl
          refine x_iinc_5 (v := 1) dX6_between_125 (by decide) (by decide) xN2_i ?_
          have h := h _ rfl
          refine x_goto 53 dX6_between_128 (by decide) ?_
          exact x_le (xLe_cons (xLe_cons (xLe_cons (xLe_cons (xLe_cons (xLe_cons (xLe_nil))))))) (hR _ _ h)
def w_between_39 (N : Nat × Nat) (x1 : Int32) (x2 : Int32) (x3 : Int32) (Kr : Int32 → mS → Prop) (K : mS → Prop) : Nat → Int32 → mS → Prop
  | 0, _, _ => False
  | t + 1, x4, s => ((x4 < 0 → (K s)) ∧ (¬ x4 < 0 → (vp_in 39 5652 ∧ (∀ x103 : Int32, x103 = mAt s 2 39 → (w_between_53 N x1 x2 x3 x4 Kr (fun s104 => (∀ x105 : Int32, x105 = x4 + (-1) → ((fun x4 s => w_between_39 N x1 x2 x3 Kr K t x4 s) x105 s104))) N.1 x103 s)))))
theorem c_between_39 {G : xG} {l : Launch} {a : Nat → Nat} {g : xH} (ha : mInj a) {d : Nat} {N : Nat × Nat} (hd : 2 * N.2 + 9 ≤ d) (Kr : Int32 → mS → Prop) (K : mS → Prop) (x1 : Int32) (x2 : Int32) (x3 : Int32) : ∀ (t : Nat) (x4 : Int32) (s : mS) , w_between_39 N x1 x2 x3 Kr K t x4 s → (∀ (s : mS), K s → xF G l kX6_between (d + 1) 0 0 (mQi G a g Kr) 137 [some (.ref (a 51)), some (.int x1), none, none, none, none] [] (mH G a s g)) → xF G l kX6_between (d + 1) 0 0 (mQi G a g Kr) 39 [some (.ref (a 51)), some (.int x1), some (.int x2), some (.int x3), some (.int x4), none] [] (mH G a s g) := by
  intro t
  induction t with
  | zero =>
    intro _ _ h _
    exact absurd h (by simp [w_between_39])
  | succ t ih =>
    intro x4 s h hK
    have hR := fun x4 s h => ih x4 s h hK
    unfold w_between_39 at h
    refine x_iload_4 dX6_between_39 ?_
    refine x_if_lt 137 dX6_between_41 (by decide) (fun c101 => ?_) (fun c101 => ?_)
    · have h := h.1 c101
      exact x_le (xLe_cons (xLe_cons (xLe_none (xLe_none (xLe_none (xLe_cons (xLe_nil))))))) (hK _ h)
    · have h := h.2 c101
      refine x_aload_0 dX6_between_44 ?_
      refine m_get ha dX6_between_45 fa_X6_28 rfl ?_
      refine x_bipush (v := 39) dX6_between_48 (by decide) ?_
      obtain ⟨e102, h⟩ := h
      refine m_iald (j := 2) ha dX6_between_50 (by decide) (by decide) e102 ?_
      refine x_istore_5 dX6_between_51 (by decide) xN2_i ?_
      have h := h _ rfl
      refine x_le (xLe_cons (xLe_cons (xLe_cons (xLe_cons (xLe_cons (xLe_cons (xLe_nil))))))) (c_between_53 ha (by omega) _ _ _ _ _ _ _ _ _ h (fun s104 h => ?_))
      refine x_iinc_4 (v := (-1)) dX6_between_131 (by decide) (by decide) xN2_i ?_
      have h := h _ rfl
      refine x_goto 39 dX6_between_134 (by decide) ?_
      exact x_le (xLe_cons (xLe_cons (xLe_cons (xLe_cons (xLe_cons (xLe_cons (xLe_nil))))))) (hR _ _ h)
def w_between (N : Nat × Nat) (x1 : Int32) (x2 : Int32) (s : mS) (Kr : Int32 → mS → Prop) : Prop :=
  (w_noteMany s (fun x101 s102 => ((x101 = 0 → (Kr (-1) s102)) ∧ (¬ x101 = 0 → (w_isWithin x1 s102 (fun x104 s105 => ((x104 = 0 → (Kr (-1) s105)) ∧ (¬ x104 = 0 → (w_isWithin x2 s105 (fun x107 s108 => ((¬ x107 = 0 → (w_laysNotes N s108 (fun s111 => (w_noteMany s111 (fun x112 s113 => (∀ x114 : Int32, x114 = x112 - 1 → (w_between_39 N x1 x2 x114 Kr (fun s115 => (w_noteAt 0 0 x1 (fun x116 => (vp_in x116 7500 ∧ (((mAt s115 36 x116) = 0 → (w_between_175 N 100000000 Kr s115)) ∧ (¬ (mAt s115 36 x116) = 0 → (w_noteAt 0 0 x1 (fun x120 => (vp_in x120 7500 ∧ (vp_in x1 300 ∧ (w_between_175 N ((mAt s115 34 x120) + (mAt s115 37 x1)) Kr s115))))))))))) N.1 x114 s113))))))) ∧ (x107 = 0 → (Kr (-1) s108)))))))))))))
theorem c_between {G : xG} {l : Launch} {a : Nat → Nat} {g : xH} (ha : mInj a) {d : Nat} {N : Nat × Nat} (hd : 2 * N.2 + 10 ≤ d) {x1 : Int32} {x2 : Int32} {s : mS} {Kr : Int32 → mS → Prop} (h : w_between N x1 x2 s Kr) : xC G l kX6_between d 0 0 [.ref (a 51), .int x1, .int x2] (mH G a s g) (mQi G a g Kr) := by
  obtain ⟨d, rfl⟩ : ∃ z, d = z + 1 := ⟨d - 1, by omega⟩
  refine xC.start rfl (by decide +kernel) (Nat.le_of_ble_eq_true rfl) (lv := [some (.ref (a 51)), some (.int x1), some (.int x2), none, none, none]) rfl ?_
  unfold w_between at h
  refine x_aload_0 dX6_between_0 ?_
  refine m_cVi0 ha rfl cv_X6_112 (Nat.le_of_ble_eq_true rfl) dX6_between_1 (c_noteMany ha (by omega) h) (fun x101 s102 h => ?_)
  refine x_if_eq 23 dX6_between_4 (by decide) (fun c103 => ?_) (fun c103 => ?_)
  · have h := h.1 c103
    refine x_iconst (v := (-1)) dX6_between_23 (by decide) ?_
    exact x_iret dX6_between_24 rfl ⟨_, _, h, rfl, rfl⟩
  · have h := h.2 c103
    refine x_aload_0 dX6_between_7 ?_
    refine x_iload_1 dX6_between_8 ?_
    refine m_cVi1 ha rfl cv_X6_390 (Nat.le_of_ble_eq_true rfl) dX6_between_9 (c_isWithin ha (by omega) h) (fun x104 s105 h => ?_)
    refine x_if_eq 23 dX6_between_12 (by decide) (fun c106 => ?_) (fun c106 => ?_)
    · have h := h.1 c106
      refine x_iconst (v := (-1)) dX6_between_23 (by decide) ?_
      exact x_iret dX6_between_24 rfl ⟨_, _, h, rfl, rfl⟩
    · have h := h.2 c106
      refine x_aload_0 dX6_between_15 ?_
      refine x_iload_2 dX6_between_16 ?_
      refine m_cVi1 ha rfl cv_X6_390 (Nat.le_of_ble_eq_true rfl) dX6_between_17 (c_isWithin ha (by omega) h) (fun x107 s108 h => ?_)
      refine x_if_ne 25 dX6_between_20 (by decide) (fun c109 => ?_) (fun c109 => ?_)
      · have h := h.1 c109
        refine x_aload_0 dX6_between_25 ?_
        refine m_cVv0 ha rfl cv_X6_376 (Nat.le_of_ble_eq_true rfl) dX6_between_26 (c_laysNotes ha (by omega) h) (fun s111 h => ?_)
        refine x_aload_0 dX6_between_29 ?_
        refine m_cVi0 ha rfl cv_X6_112 (Nat.le_of_ble_eq_true rfl) dX6_between_30 (c_noteMany ha (by omega) h) (fun x112 s113 h => ?_)
        refine x_iconst (v := 1) dX6_between_33 (by decide) ?_
        refine x_isub dX6_between_34 ?_
        refine x_istore_3 dX6_between_35 (by decide) xN2_i ?_
        have h := h _ rfl
        refine x_iload_3 dX6_between_36 ?_
        refine x_istore_4 dX6_between_37 (by decide) xN2_i ?_
        refine x_le (xLe_cons (xLe_cons (xLe_cons (xLe_cons (xLe_cons (xLe_cons (xLe_nil))))))) (c_between_39 ha (by omega) _ _ _ _ _ _ _ _ h (fun s115 h => ?_))
        refine x_aload_0 dX6_between_137 ?_
        refine m_get ha dX6_between_138 fa_X6_78 rfl ?_
        refine x_iconst (v := 0) dX6_between_141 (by decide) ?_
        refine x_iconst (v := 0) dX6_between_142 (by decide) ?_
        refine x_iload_1 dX6_between_143 ?_
        refine m_cSi3 rfl cs_X6_354 (Nat.le_of_ble_eq_true rfl) dX6_between_144 (c_noteAt (by omega) h) (fun x116 h => ?_)
        obtain ⟨e118, h⟩ := h
        refine m_zald (j := 36) ha dX6_between_147 (by decide) (by decide) e118 ?_
        refine x_if_eq 172 dX6_between_148 (by decide) (fun c119 => ?_) (fun c119 => ?_)
        · have h := h.1 c119
          refine x_ldcw dX6_between_172 q2102 ?_
          exact x_le (xLe_cons (xLe_none (xLe_cons (xLe_cons (xLe_cons (xLe_cons (xLe_nil))))))) (c_between_175 ha (by omega) _ _ _ h)
        · have h := h.2 c119
          refine x_aload_0 dX6_between_151 ?_
          refine m_get ha dX6_between_152 fa_X6_72 rfl ?_
          refine x_iconst (v := 0) dX6_between_155 (by decide) ?_
          refine x_iconst (v := 0) dX6_between_156 (by decide) ?_
          refine x_iload_1 dX6_between_157 ?_
          refine m_cSi3 rfl cs_X6_354 (Nat.le_of_ble_eq_true rfl) dX6_between_158 (c_noteAt (by omega) h) (fun x120 h => ?_)
          obtain ⟨e122, h⟩ := h
          refine m_iald (j := 34) ha dX6_between_161 (by decide) (by decide) e122 ?_
          refine x_aload_0 dX6_between_162 ?_
          refine m_get ha dX6_between_163 fa_X6_81 rfl ?_
          refine x_iload_1 dX6_between_166 ?_
          obtain ⟨e123, h⟩ := h
          refine m_iald (j := 37) ha dX6_between_167 (by decide) (by decide) e123 ?_
          refine x_iadd dX6_between_168 ?_
          refine x_goto 175 dX6_between_169 (by decide) ?_
          exact x_le (xLe_cons (xLe_none (xLe_cons (xLe_cons (xLe_cons (xLe_cons (xLe_nil))))))) (c_between_175 ha (by omega) _ _ _ h)
      · have h := h.2 c109
        refine x_iconst (v := (-1)) dX6_between_23 (by decide) ?_
        exact x_iret dX6_between_24 rfl ⟨_, _, h, rfl, rfl⟩
def w_blots (s : mS) (Kr : Int32 → mS → Prop) : Prop :=
  (Kr (mFd s 6) s)
theorem c_blots {G : xG} {l : Launch} {a : Nat → Nat} {g : xH} (ha : mInj a) {d : Nat} (hd : 1 ≤ d) {s : mS} {Kr : Int32 → mS → Prop} (h : w_blots s Kr) : xC G l kX6_blots d 0 0 [.ref (a 51)] (mH G a s g) (mQi G a g Kr) := by
  obtain ⟨d, rfl⟩ : ∃ z, d = z + 1 := ⟨d - 1, by omega⟩
  refine xC.start rfl (by decide +kernel) (Nat.le_of_ble_eq_true rfl) (lv := [some (.ref (a 51))]) rfl ?_
  unfold w_blots at h
  refine x_aload_0 dX6_blots_0 ?_
  refine m_get ha dX6_blots_1 fa_X6_157 rfl ?_
  exact x_iret dX6_blots_4 rfl ⟨_, _, h, rfl, rfl⟩
def w_isSo_4 (N : Nat × Nat) (x1 : Int32) (Kr : Int32 → mS → Prop) (K : Int32 → mS → Prop) : Nat → Int32 → Int32 → mS → Prop
  | 0, _, _, _ => False
  | t + 1, x2, x3, s => (vp_in 42 5652 ∧ (((mAt s 2 42) ≤ x3 → (K x2 s)) ∧ (¬ (mAt s 2 42) ≤ x3 → ((x2 = 0 → (∀ x104 : Int32, x104 = x3 + 1 → ((fun x2 x3 s => w_isSo_4 N x1 Kr K t x2 x3 s) 0 x104 s))) ∧ (¬ x2 = 0 → (vp_in (25 + (2 * x3)) 5652 ∧ (vp_in ((4 * x1) + (mAt s 2 (25 + (2 * x3)))) 48 ∧ (vp_in ((25 + (2 * x3)) + 1) 5652 ∧ ((¬ (mAt s 39 ((4 * x1) + (mAt s 2 (25 + (2 * x3))))) = (mAt s 2 ((25 + (2 * x3)) + 1)) → (∀ x109 : Int32, x109 = x3 + 1 → ((fun x2 x3 s => w_isSo_4 N x1 Kr K t x2 x3 s) 0 x109 s))) ∧ ((mAt s 39 ((4 * x1) + (mAt s 2 (25 + (2 * x3))))) = (mAt s 2 ((25 + (2 * x3)) + 1)) → (∀ x110 : Int32, x110 = x3 + 1 → ((fun x2 x3 s => w_isSo_4 N x1 Kr K t x2 x3 s) 1 x110 s))))))))))))
theorem c_isSo_4 {G : xG} {l : Launch} {a : Nat → Nat} {g : xH} (ha : mInj a) {d : Nat} {N : Nat × Nat} (hd : 0 ≤ d) (Kr : Int32 → mS → Prop) (K : Int32 → mS → Prop) (x1 : Int32) : ∀ (t : Nat) (x2 : Int32) (x3 : Int32) (s : mS) , w_isSo_4 N x1 Kr K t x2 x3 s → (∀ (z2 : Int32) (s : mS), K z2 s → xF G l kX6_isSo (d + 1) 0 0 (mQi G a g Kr) 67 [some (.ref (a 51)), none, some (.int z2), none] [] (mH G a s g)) → xF G l kX6_isSo (d + 1) 0 0 (mQi G a g Kr) 4 [some (.ref (a 51)), some (.int x1), some (.int x2), some (.int x3)] [] (mH G a s g) := by
  intro t
  induction t with
  | zero =>
    intro _ _ _ h _
    exact absurd h (by simp [w_isSo_4])
  | succ t ih =>
    intro x2 x3 s h hK
    have hR := fun x2 x3 s h => ih x2 x3 s h hK
    unfold w_isSo_4 at h
    refine x_iload_3 dX6_isSo_4 ?_
    refine x_aload_0 dX6_isSo_5 ?_
    refine m_get ha dX6_isSo_6 fa_X6_28 rfl ?_
    refine x_bipush (v := 42) dX6_isSo_9 (by decide) ?_
    obtain ⟨e101, h⟩ := h
    refine m_iald (j := 2) ha dX6_isSo_11 (by decide) (by decide) e101 ?_
    refine x_icmp_ge 67 dX6_isSo_12 (by decide) (fun c102 => ?_) (fun c102 => ?_)
    · have h := h.1 c102
      exact x_le (xLe_cons (xLe_none (xLe_cons (xLe_none (xLe_nil))))) (hK _ _ h)
    · have h := h.2 c102
      refine x_iload_2 dX6_isSo_15 ?_
      refine x_if_eq 59 dX6_isSo_16 (by decide) (fun c103 => ?_) (fun c103 => ?_)
      · have h := h.1 c103
        refine x_iconst (v := 0) dX6_isSo_59 (by decide) ?_
        refine x_istore_2 dX6_isSo_60 (by decide) xN2_i ?_
        refine x_iinc_3 (v := 1) dX6_isSo_61 (by decide) (by decide) xN2_i ?_
        have h := h _ rfl
        refine x_goto 4 dX6_isSo_64 (by decide) ?_
        exact x_le (xLe_cons (xLe_cons (xLe_cons (xLe_cons (xLe_nil))))) (hR _ _ _ h)
      · have h := h.2 c103
        refine x_aload_0 dX6_isSo_19 ?_
        refine m_get ha dX6_isSo_20 fa_X6_88 rfl ?_
        refine x_iconst (v := 4) dX6_isSo_23 (by decide) ?_
        refine x_iload_1 dX6_isSo_24 ?_
        refine x_imul dX6_isSo_25 ?_
        refine x_aload_0 dX6_isSo_26 ?_
        refine m_get ha dX6_isSo_27 fa_X6_28 rfl ?_
        refine x_bipush (v := 25) dX6_isSo_30 (by decide) ?_
        refine x_iconst (v := 2) dX6_isSo_32 (by decide) ?_
        refine x_iload_3 dX6_isSo_33 ?_
        refine x_imul dX6_isSo_34 ?_
        refine x_iadd dX6_isSo_35 ?_
        obtain ⟨e105, h⟩ := h
        refine m_iald (j := 2) ha dX6_isSo_36 (by decide) (by decide) e105 ?_
        refine x_iadd dX6_isSo_37 ?_
        obtain ⟨e106, h⟩ := h
        refine m_iald (j := 39) ha dX6_isSo_38 (by decide) (by decide) e106 ?_
        refine x_aload_0 dX6_isSo_39 ?_
        refine m_get ha dX6_isSo_40 fa_X6_28 rfl ?_
        refine x_bipush (v := 25) dX6_isSo_43 (by decide) ?_
        refine x_iconst (v := 2) dX6_isSo_45 (by decide) ?_
        refine x_iload_3 dX6_isSo_46 ?_
        refine x_imul dX6_isSo_47 ?_
        refine x_iadd dX6_isSo_48 ?_
        refine x_iconst (v := 1) dX6_isSo_49 (by decide) ?_
        refine x_iadd dX6_isSo_50 ?_
        obtain ⟨e107, h⟩ := h
        refine m_iald (j := 2) ha dX6_isSo_51 (by decide) (by decide) e107 ?_
        refine x_icmp_ne 59 dX6_isSo_52 (by decide) (fun c108 => ?_) (fun c108 => ?_)
        · have h := h.1 c108
          refine x_iconst (v := 0) dX6_isSo_59 (by decide) ?_
          refine x_istore_2 dX6_isSo_60 (by decide) xN2_i ?_
          refine x_iinc_3 (v := 1) dX6_isSo_61 (by decide) (by decide) xN2_i ?_
          have h := h _ rfl
          refine x_goto 4 dX6_isSo_64 (by decide) ?_
          exact x_le (xLe_cons (xLe_cons (xLe_cons (xLe_cons (xLe_nil))))) (hR _ _ _ h)
        · have h := h.2 c108
          refine x_iconst (v := 1) dX6_isSo_55 (by decide) ?_
          refine x_goto 60 dX6_isSo_56 (by decide) ?_
          refine x_istore_2 dX6_isSo_60 (by decide) xN2_i ?_
          refine x_iinc_3 (v := 1) dX6_isSo_61 (by decide) (by decide) xN2_i ?_
          have h := h _ rfl
          refine x_goto 4 dX6_isSo_64 (by decide) ?_
          exact x_le (xLe_cons (xLe_cons (xLe_cons (xLe_cons (xLe_nil))))) (hR _ _ _ h)
def w_isSo (N : Nat × Nat) (x1 : Int32) (s : mS) (Kr : Int32 → mS → Prop) : Prop :=
  (w_isSo_4 N x1 Kr (fun x101 s102 => (xB x101 ∧ (Kr x101 s102))) N.1 1 0 s)
theorem c_isSo {G : xG} {l : Launch} {a : Nat → Nat} {g : xH} (ha : mInj a) {d : Nat} {N : Nat × Nat} (hd : 1 ≤ d) {x1 : Int32} {s : mS} {Kr : Int32 → mS → Prop} (h : w_isSo N x1 s Kr) : xC G l kX6_isSo d 0 0 [.ref (a 51), .int x1] (mH G a s g) (mQi G a g Kr) := by
  obtain ⟨d, rfl⟩ : ∃ z, d = z + 1 := ⟨d - 1, by omega⟩
  refine xC.start rfl (by decide +kernel) (Nat.le_of_ble_eq_true rfl) (lv := [some (.ref (a 51)), some (.int x1), none, none]) rfl ?_
  unfold w_isSo at h
  refine x_iconst (v := 1) dX6_isSo_0 (by decide) ?_
  refine x_istore_2 dX6_isSo_1 (by decide) xN2_i ?_
  refine x_iconst (v := 0) dX6_isSo_2 (by decide) ?_
  refine x_istore_3 dX6_isSo_3 (by decide) xN2_i ?_
  refine x_le (xLe_cons (xLe_cons (xLe_cons (xLe_cons (xLe_nil))))) (c_isSo_4 ha (by omega) _ _ _ _ _ _ _ h (fun x101 s102 h => ?_))
  refine x_iload_2 dX6_isSo_67 ?_
  obtain ⟨e103, h⟩ := h
  exact x_zret dX6_isSo_68 rfl (xB_n e103) ⟨_, _, h, rfl, rfl⟩
def w_laysFacts_2 (N : Nat × Nat) (Kr : mS → Prop) (K : mS → Prop) : Nat → Int32 → mS → Prop
  | 0, _, _ => False
  | t + 1, x1, s => (w_noteMany s (fun x101 s102 => ((x101 ≤ x1 → (K s102)) ∧ (¬ x101 ≤ x1 → (w_takesNow x1 s102 (fun s105 => (w_apartOf x1 s105 (fun x106 s107 => (vp_in (4 * x1) 48 ∧ (∀ s109 : mS, s109 = mI s107 39 (4 * x1) x106 → (w_leapOf x1 s109 (fun x110 s111 => (vp_in ((4 * x1) + 1) 48 ∧ (∀ s113 : mS, s113 = mI s111 39 ((4 * x1) + 1) x110 → (w_costsNow N s113 (fun x114 s115 => (vp_in ((4 * x1) + 2) 48 ∧ (∀ s117 : mS, s117 = mI s115 39 ((4 * x1) + 2) x114 → (w_earnsNow N s117 (fun x118 s119 => (vp_in ((4 * x1) + 3) 48 ∧ (∀ s121 : mS, s121 = mI s119 39 ((4 * x1) + 3) x118 → (∀ x122 : Int32, x122 = x1 + 1 → ((fun x1 s => w_laysFacts_2 N Kr K t x1 s) x122 s121))))))))))))))))))))))))
theorem c_laysFacts_2 {G : xG} {l : Launch} {a : Nat → Nat} {g : xH} (ha : mInj a) {d : Nat} {N : Nat × Nat} (hd : 2 * N.2 + 7 ≤ d) (Kr : mS → Prop) (K : mS → Prop) : ∀ (t : Nat) (x1 : Int32) (s : mS) , w_laysFacts_2 N Kr K t x1 s → (∀ (s : mS), K s → xF G l kX6_laysFacts (d + 1) 0 0 (mQv G a g Kr) 77 [some (.ref (a 51)), none] [] (mH G a s g)) → xF G l kX6_laysFacts (d + 1) 0 0 (mQv G a g Kr) 2 [some (.ref (a 51)), some (.int x1)] [] (mH G a s g) := by
  intro t
  induction t with
  | zero =>
    intro _ _ h _
    exact absurd h (by simp [w_laysFacts_2])
  | succ t ih =>
    intro x1 s h hK
    have hR := fun x1 s h => ih x1 s h hK
    unfold w_laysFacts_2 at h
    refine x_iload_1 dX6_laysFacts_2 ?_
    refine x_aload_0 dX6_laysFacts_3 ?_
    refine m_cVi0 ha rfl cv_X6_112 (Nat.le_of_ble_eq_true rfl) dX6_laysFacts_4 (c_noteMany ha (by omega) h) (fun x101 s102 h => ?_)
    refine x_icmp_ge 77 dX6_laysFacts_7 (by decide) (fun c103 => ?_) (fun c103 => ?_)
    · have h := h.1 c103
      exact x_le (xLe_cons (xLe_none (xLe_nil))) (hK _ h)
    · have h := h.2 c103
      refine x_aload_0 dX6_laysFacts_10 ?_
      refine x_iload_1 dX6_laysFacts_11 ?_
      refine m_cVv1 ha rfl cv_X6_127 (Nat.le_of_ble_eq_true rfl) dX6_laysFacts_12 (c_takesNow ha (by omega) h) (fun s105 h => ?_)
      refine x_aload_0 dX6_laysFacts_15 ?_
      refine m_get ha dX6_laysFacts_16 fa_X6_88 rfl ?_
      refine x_iconst (v := 4) dX6_laysFacts_19 (by decide) ?_
      refine x_iload_1 dX6_laysFacts_20 ?_
      refine x_imul dX6_laysFacts_21 ?_
      refine x_aload_0 dX6_laysFacts_22 ?_
      refine x_iload_1 dX6_laysFacts_23 ?_
      refine m_cVi1 ha rfl cv_X6_141 (Nat.le_of_ble_eq_true rfl) dX6_laysFacts_24 (c_apartOf ha (by omega) h) (fun x106 s107 h => ?_)
      obtain ⟨e108, h⟩ := h
      refine m_iast (j := 39) ha dX6_laysFacts_27 (by decide) (by decide) e108 ?_
      have h := h _ rfl
      refine x_aload_0 dX6_laysFacts_28 ?_
      refine m_get ha dX6_laysFacts_29 fa_X6_88 rfl ?_
      refine x_iconst (v := 4) dX6_laysFacts_32 (by decide) ?_
      refine x_iload_1 dX6_laysFacts_33 ?_
      refine x_imul dX6_laysFacts_34 ?_
      refine x_iconst (v := 1) dX6_laysFacts_35 (by decide) ?_
      refine x_iadd dX6_laysFacts_36 ?_
      refine x_aload_0 dX6_laysFacts_37 ?_
      refine x_iload_1 dX6_laysFacts_38 ?_
      refine m_cVi1 ha rfl cv_X6_144 (Nat.le_of_ble_eq_true rfl) dX6_laysFacts_39 (c_leapOf ha (by omega) h) (fun x110 s111 h => ?_)
      obtain ⟨e112, h⟩ := h
      refine m_iast (j := 39) ha dX6_laysFacts_42 (by decide) (by decide) e112 ?_
      have h := h _ rfl
      refine x_aload_0 dX6_laysFacts_43 ?_
      refine m_get ha dX6_laysFacts_44 fa_X6_88 rfl ?_
      refine x_iconst (v := 4) dX6_laysFacts_47 (by decide) ?_
      refine x_iload_1 dX6_laysFacts_48 ?_
      refine x_imul dX6_laysFacts_49 ?_
      refine x_iconst (v := 2) dX6_laysFacts_50 (by decide) ?_
      refine x_iadd dX6_laysFacts_51 ?_
      refine x_aload_0 dX6_laysFacts_52 ?_
      refine m_cVi0 ha rfl cv_X6_131 (Nat.le_of_ble_eq_true rfl) dX6_laysFacts_53 (c_costsNow ha (by omega) h) (fun x114 s115 h => ?_)
      obtain ⟨e116, h⟩ := h
      refine m_iast (j := 39) ha dX6_laysFacts_56 (by decide) (by decide) e116 ?_
      have h := h _ rfl
      refine x_aload_0 dX6_laysFacts_57 ?_
      refine m_get ha dX6_laysFacts_58 fa_X6_88 rfl ?_
      refine x_iconst (v := 4) dX6_laysFacts_61 (by decide) ?_
      refine x_iload_1 dX6_laysFacts_62 ?_
      refine x_imul dX6_laysFacts_63 ?_
      refine x_iconst (v := 3) dX6_laysFacts_64 (by decide) ?_
      refine x_iadd dX6_laysFacts_65 ?_
      refine x_aload_0 dX6_laysFacts_66 ?_
      refine m_cVi0 ha rfl cv_X6_134 (Nat.le_of_ble_eq_true rfl) dX6_laysFacts_67 (c_earnsNow ha (by omega) h) (fun x118 s119 h => ?_)
      obtain ⟨e120, h⟩ := h
      refine m_iast (j := 39) ha dX6_laysFacts_70 (by decide) (by decide) e120 ?_
      have h := h _ rfl
      refine x_iinc_1 (v := 1) dX6_laysFacts_71 (by decide) (by decide) xN2_r ?_
      have h := h _ rfl
      refine x_goto 2 dX6_laysFacts_74 (by decide) ?_
      exact x_le (xLe_cons (xLe_cons (xLe_nil))) (hR _ _ h)
def w_laysFacts (N : Nat × Nat) (s : mS) (Kr : mS → Prop) : Prop :=
  (w_laysFacts_2 N Kr (fun s101 => (Kr s101)) N.1 0 s)
theorem c_laysFacts {G : xG} {l : Launch} {a : Nat → Nat} {g : xH} (ha : mInj a) {d : Nat} {N : Nat × Nat} (hd : 2 * N.2 + 8 ≤ d) {s : mS} {Kr : mS → Prop} (h : w_laysFacts N s Kr) : xC G l kX6_laysFacts d 0 0 [.ref (a 51)] (mH G a s g) (mQv G a g Kr) := by
  obtain ⟨d, rfl⟩ : ∃ z, d = z + 1 := ⟨d - 1, by omega⟩
  refine xC.start rfl (by decide +kernel) (Nat.le_of_ble_eq_true rfl) (lv := [some (.ref (a 51)), none]) rfl ?_
  unfold w_laysFacts at h
  refine x_iconst (v := 0) dX6_laysFacts_0 (by decide) ?_
  refine x_istore_1 dX6_laysFacts_1 (by decide) xN2_r ?_
  refine x_le (xLe_cons (xLe_cons (xLe_nil))) (c_laysFacts_2 ha (by omega) _ _ _ _ _ h (fun s101 h => ?_))
  exact x_vret dX6_laysFacts_77 rfl ⟨_, h, rfl, rfl⟩
def w_canBe_8 (N : Nat × Nat) (Kr : Int32 → mS → Prop) (K : Int32 → mS → Prop) : Nat → Int32 → Int32 → mS → Prop
  | 0, _, _, _ => False
  | t + 1, x1, x2, s => (w_noteMany s (fun x101 s102 => ((x101 ≤ x2 → (K x1 s102)) ∧ (¬ x101 ≤ x2 → (w_isSo N x2 s102 (fun x104 s105 => ((x104 = 0 → (∀ x107 : Int32, x107 = x1 ||| 0 → (∀ x108 : Int32, x108 = x2 + 1 → ((fun x1 x2 s => w_canBe_8 N Kr K t x1 x2 s) x107 x108 s105)))) ∧ (¬ x104 = 0 → (∀ x109 : Int32, x109 = x1 ||| (1 <<< (x2 &&& 31)) → (∀ x110 : Int32, x110 = x2 + 1 → ((fun x1 x2 s => w_canBe_8 N Kr K t x1 x2 s) x109 x110 s105)))))))))))
theorem c_canBe_8 {G : xG} {l : Launch} {a : Nat → Nat} {g : xH} (ha : mInj a) {d : Nat} {N : Nat × Nat} (hd : 2 * N.2 + 8 ≤ d) (Kr : Int32 → mS → Prop) (K : Int32 → mS → Prop) : ∀ (t : Nat) (x1 : Int32) (x2 : Int32) (s : mS) , w_canBe_8 N Kr K t x1 x2 s → (∀ (z1 : Int32) (s : mS), K z1 s → xF G l kX6_canBe (d + 1) 0 0 (mQi G a g Kr) 40 [some (.ref (a 51)), some (.int z1), none] [] (mH G a s g)) → xF G l kX6_canBe (d + 1) 0 0 (mQi G a g Kr) 8 [some (.ref (a 51)), some (.int x1), some (.int x2)] [] (mH G a s g) := by
  intro t
  induction t with
  | zero =>
    intro _ _ _ h _
    exact absurd h (by simp [w_canBe_8])
  | succ t ih =>
    intro x1 x2 s h hK
    have hR := fun x1 x2 s h => ih x1 x2 s h hK
    unfold w_canBe_8 at h
    refine x_iload_2 dX6_canBe_8 ?_
    refine x_aload_0 dX6_canBe_9 ?_
    refine m_cVi0 ha rfl cv_X6_112 (Nat.le_of_ble_eq_true rfl) dX6_canBe_10 (c_noteMany ha (by omega) h) (fun x101 s102 h => ?_)
    refine x_icmp_ge 40 dX6_canBe_13 (by decide) (fun c103 => ?_) (fun c103 => ?_)
    · have h := h.1 c103
      exact x_le (xLe_cons (xLe_cons (xLe_none (xLe_nil)))) (hK _ _ h)
    · have h := h.2 c103
      refine x_iload_1 dX6_canBe_16 ?_
      refine x_aload_0 dX6_canBe_17 ?_
      refine x_iload_2 dX6_canBe_18 ?_
      refine m_cVi1 ha rfl cv_X6_422 (Nat.le_of_ble_eq_true rfl) dX6_canBe_19 (c_isSo ha (by omega) h) (fun x104 s105 h => ?_)
      refine x_if_eq 31 dX6_canBe_22 (by decide) (fun c106 => ?_) (fun c106 => ?_)
      · have h := h.1 c106
        refine x_iconst (v := 0) dX6_canBe_31 (by decide) ?_
        refine x_ior dX6_canBe_32 ?_
        refine x_istore_1 dX6_canBe_33 (by decide) xN2_r ?_
        have h := h _ rfl
        refine x_iinc_2 (v := 1) dX6_canBe_34 (by decide) (by decide) xN2_i ?_
        have h := h _ rfl
        refine x_goto 8 dX6_canBe_37 (by decide) ?_
        exact x_le (xLe_cons (xLe_cons (xLe_cons (xLe_nil)))) (hR _ _ _ h)
      · have h := h.2 c106
        refine x_iconst (v := 1) dX6_canBe_25 (by decide) ?_
        refine x_iload_2 dX6_canBe_26 ?_
        refine x_ishl dX6_canBe_27 ?_
        refine x_goto 32 dX6_canBe_28 (by decide) ?_
        refine x_ior dX6_canBe_32 ?_
        refine x_istore_1 dX6_canBe_33 (by decide) xN2_r ?_
        have h := h _ rfl
        refine x_iinc_2 (v := 1) dX6_canBe_34 (by decide) (by decide) xN2_i ?_
        have h := h _ rfl
        refine x_goto 8 dX6_canBe_37 (by decide) ?_
        exact x_le (xLe_cons (xLe_cons (xLe_cons (xLe_nil)))) (hR _ _ _ h)
def w_canBe (N : Nat × Nat) (s : mS) (Kr : Int32 → mS → Prop) : Prop :=
  (w_laysFacts N s (fun s102 => (w_canBe_8 N Kr (fun x103 s104 => (Kr x103 s104)) N.1 0 0 s102)))
theorem c_canBe {G : xG} {l : Launch} {a : Nat → Nat} {g : xH} (ha : mInj a) {d : Nat} {N : Nat × Nat} (hd : 2 * N.2 + 9 ≤ d) {s : mS} {Kr : Int32 → mS → Prop} (h : w_canBe N s Kr) : xC G l kX6_canBe d 0 0 [.ref (a 51)] (mH G a s g) (mQi G a g Kr) := by
  obtain ⟨d, rfl⟩ : ∃ z, d = z + 1 := ⟨d - 1, by omega⟩
  refine xC.start rfl (by decide +kernel) (Nat.le_of_ble_eq_true rfl) (lv := [some (.ref (a 51)), none, none]) rfl ?_
  unfold w_canBe at h
  refine x_aload_0 dX6_canBe_0 ?_
  refine m_cVv0 ha rfl cv_X6_419 (Nat.le_of_ble_eq_true rfl) dX6_canBe_1 (c_laysFacts ha (by omega) h) (fun s102 h => ?_)
  refine x_iconst (v := 0) dX6_canBe_4 (by decide) ?_
  refine x_istore_1 dX6_canBe_5 (by decide) xN2_r ?_
  refine x_iconst (v := 0) dX6_canBe_6 (by decide) ?_
  refine x_istore_2 dX6_canBe_7 (by decide) xN2_i ?_
  refine x_le (xLe_cons (xLe_cons (xLe_cons (xLe_nil)))) (c_canBe_8 ha (by omega) _ _ _ _ _ _ h (fun x103 s104 h => ?_))
  refine x_iload_1 dX6_canBe_40 ?_
  exact x_iret dX6_canBe_41 rfl ⟨_, _, h, rfl, rfl⟩
def w_isPitch (x0 : Int32) (Kr : Int32 → Prop) : Prop :=
  (w_lies x0 0 24 (fun x101 => (xB x101 ∧ (Kr x101))))
theorem c_isPitch {G : xG} {l : Launch} {h0 : xH} {d : Nat} (hd : 2 ≤ d) {x0 : Int32} {Kr : Int32 → Prop} (h : w_isPitch x0 Kr) : xC G l kX6_isPitch d 0 0 [.int x0] h0 (xQi h0 Kr) := by
  obtain ⟨d, rfl⟩ : ∃ z, d = z + 1 := ⟨d - 1, by omega⟩
  refine xC.start rfl (by decide +kernel) (Nat.le_of_ble_eq_true rfl) (lv := [some (.int x0)]) rfl ?_
  unfold w_isPitch at h
  refine x_iload_0 dX6_isPitch_0 ?_
  refine x_iconst (v := 0) dX6_isPitch_1 (by decide) ?_
  refine x_bipush (v := 24) dX6_isPitch_2 (by decide) ?_
  refine m_cSi3 rfl cs_X6_18 (Nat.le_of_ble_eq_true rfl) dX6_isPitch_4 (c_lies (by omega) h) (fun x101 h => ?_)
  obtain ⟨e103, h⟩ := h
  exact x_zret dX6_isPitch_7 rfl (xB_n e103) ⟨_, h, rfl, rfl⟩
def w_isCanon_89 (N : Nat × Nat) (x1 : Int32) (x2 : Int32) (x4 : Int32) (y1 : Int32) (y2 : Int32) (y3 : Int32) (y4 : Int32) (Kr : Int32 → mS → Prop) (K : Int32 → mS → Prop) (R : Int32 → Int32 → mS → Prop) (s : mS) : Prop :=
  (w_takesNote y1 y2 y3 y4 s (fun s102 => (w_isBarred N s102 (fun x103 s104 => ((¬ x103 = 0 → (∀ x106 : Int32, x106 = x4 + 1 → (R 0 x106 s104))) ∧ (x103 = 0 → (∀ x107 : Int32, x107 = x4 + 1 → (R 1 x107 s104))))))))
theorem c_isCanon_89 {G : xG} {l : Launch} {a : Nat → Nat} {g : xH} (ha : mInj a) {d : Nat} {N : Nat × Nat} (hd : 2 * N.2 + 7 ≤ d) (x1 : Int32) (x2 : Int32) (x4 : Int32) (y1 : Int32) (y2 : Int32) (y3 : Int32) (y4 : Int32) (Kr : Int32 → mS → Prop) (K : Int32 → mS → Prop) (R : Int32 → Int32 → mS → Prop) (s : mS) (h : w_isCanon_89 N x1 x2 x4 y1 y2 y3 y4 Kr K R s) (hK : ∀ (z3 : Int32) (s : mS), K z3 s → xF G l kX6_isCanon (d + 1) 0 0 (mQi G a g Kr) 111 [some (.ref (a 51)), none, none, some (.int z3), none, none] [] (mH G a s g)) (hR : ∀ (z3 : Int32) (z4 : Int32) (s : mS), R z3 z4 s → xF G l kX6_isCanon (d + 1) 0 0 (mQi G a g Kr) 5 [some (.ref (a 51)), some (.int x1), some (.int x2), some (.int z3), some (.int z4), none] [] (mH G a s g)) : xF G l kX6_isCanon (d + 1) 0 0 (mQi G a g Kr) 89 [some (.ref (a 51)), some (.int x1), some (.int x2), none, some (.int x4), none] [.int y4, .int y3, .int y2, .int y1, .ref (a 51)] (mH G a s g) := by
  unfold w_isCanon_89 at h
  refine m_cVv4 ha rfl cv_X6_321 (Nat.le_of_ble_eq_true rfl) dX6_isCanon_89 (c_takesNote ha (by omega) h) (fun s102 h => ?_)
  refine x_aload_0 dX6_isCanon_92 ?_
  refine m_cVi0 ha rfl cv_X6_137 (Nat.le_of_ble_eq_true rfl) dX6_isCanon_93 (c_isBarred ha (by omega) h) (fun x103 s104 h => ?_)
  refine x_if_ne 103 dX6_isCanon_96 (by decide) (fun c105 => ?_) (fun c105 => ?_)
  · have h := h.1 c105
    refine x_iconst (v := 0) dX6_isCanon_103 (by decide) ?_
    refine x_istore_3 dX6_isCanon_104 (by decide) xN2_i ?_
    refine x_iinc_4 (v := 1) dX6_isCanon_105 (by decide) (by decide) xN2_i ?_
    have h := h _ rfl
    refine x_goto 5 dX6_isCanon_108 (by decide) ?_
    exact x_le (xLe_cons (xLe_cons (xLe_cons (xLe_cons (xLe_cons (xLe_cons (xLe_nil))))))) (hR _ _ _ h)
  · have h := h.2 c105
    refine x_iconst (v := 1) dX6_isCanon_99 (by decide) ?_
    refine x_goto 104 dX6_isCanon_100 (by decide) ?_
    refine x_istore_3 dX6_isCanon_104 (by decide) xN2_i ?_
    refine x_iinc_4 (v := 1) dX6_isCanon_105 (by decide) (by decide) xN2_i ?_
    have h := h _ rfl
    refine x_goto 5 dX6_isCanon_108 (by decide) ?_
    exact x_le (xLe_cons (xLe_cons (xLe_cons (xLe_cons (xLe_cons (xLe_cons (xLe_nil))))))) (hR _ _ _ h)
def w_isCanon_63 (N : Nat × Nat) (x1 : Int32) (x2 : Int32) (x4 : Int32) (y1 : Int32) (y2 : Int32) (y3 : Int32) (Kr : Int32 → mS → Prop) (K : Int32 → mS → Prop) (R : Int32 → Int32 → mS → Prop) (s : mS) : Prop :=
  ((x4 ≤ x1 → (w_isCanon_89 N x1 x2 x4 y1 y2 y3 0 Kr K R s)) ∧ (¬ x4 ≤ x1 → (vp_in (((12 + x4) - 1) - x1) 5652 ∧ (w_isCanon_89 N x1 x2 x4 y1 y2 y3 ((mAt s 2 (((12 + x4) - 1) - x1)) + x2) Kr K R s))))
theorem c_isCanon_63 {G : xG} {l : Launch} {a : Nat → Nat} {g : xH} (ha : mInj a) {d : Nat} {N : Nat × Nat} (hd : 2 * N.2 + 7 ≤ d) (x1 : Int32) (x2 : Int32) (x4 : Int32) (y1 : Int32) (y2 : Int32) (y3 : Int32) (Kr : Int32 → mS → Prop) (K : Int32 → mS → Prop) (R : Int32 → Int32 → mS → Prop) (s : mS) (h : w_isCanon_63 N x1 x2 x4 y1 y2 y3 Kr K R s) (hK : ∀ (z3 : Int32) (s : mS), K z3 s → xF G l kX6_isCanon (d + 1) 0 0 (mQi G a g Kr) 111 [some (.ref (a 51)), none, none, some (.int z3), none, none] [] (mH G a s g)) (hR : ∀ (z3 : Int32) (z4 : Int32) (s : mS), R z3 z4 s → xF G l kX6_isCanon (d + 1) 0 0 (mQi G a g Kr) 5 [some (.ref (a 51)), some (.int x1), some (.int x2), some (.int z3), some (.int z4), none] [] (mH G a s g)) : xF G l kX6_isCanon (d + 1) 0 0 (mQi G a g Kr) 63 [some (.ref (a 51)), some (.int x1), some (.int x2), none, some (.int x4), none] [.int y3, .int y2, .int y1, .ref (a 51)] (mH G a s g) := by
  unfold w_isCanon_63 at h
  refine x_iload_4 dX6_isCanon_63 ?_
  refine x_iload_1 dX6_isCanon_65 ?_
  refine x_icmp_le 88 dX6_isCanon_66 (by decide) (fun c101 => ?_) (fun c101 => ?_)
  · have h := h.1 c101
    refine x_iconst (v := 0) dX6_isCanon_88 (by decide) ?_
    exact x_le (xLe_cons (xLe_cons (xLe_cons (xLe_cons (xLe_cons (xLe_cons (xLe_nil))))))) (c_isCanon_89 ha (by omega) _ _ _ _ _ _ _ _ _ _ _ h hK hR)
  · have h := h.2 c101
    refine x_aload_0 dX6_isCanon_69 ?_
    refine m_get ha dX6_isCanon_70 fa_X6_28 rfl ?_
    refine x_bipush (v := 12) dX6_isCanon_73 (by decide) ?_
    refine x_iload_4 dX6_isCanon_75 ?_
    refine x_iadd dX6_isCanon_77 ?_
    refine x_iconst (v := 1) dX6_isCanon_78 (by decide) ?_
    refine x_isub dX6_isCanon_79 ?_
    refine x_iload_1 dX6_isCanon_80 ?_
    refine x_isub dX6_isCanon_81 ?_
    obtain ⟨e102, h⟩ := h
    refine m_iald (j := 2) ha dX6_isCanon_82 (by decide) (by decide) e102 ?_
    refine x_iload_2 dX6_isCanon_83 ?_
    refine x_iadd dX6_isCanon_84 ?_
    refine x_goto 89 dX6_isCanon_85 (by decide) ?_
    exact x_le (xLe_cons (xLe_cons (xLe_cons (xLe_cons (xLe_cons (xLe_cons (xLe_nil))))))) (c_isCanon_89 ha (by omega) _ _ _ _ _ _ _ _ _ _ _ h hK hR)
def w_isCanon_5 (N : Nat × Nat) (x1 : Int32) (x2 : Int32) (Kr : Int32 → mS → Prop) (K : Int32 → mS → Prop) : Nat → Int32 → Int32 → mS → Prop
  | 0, _, _, _ => False
  | t + 1, x3, x4, s => (w_noteMany s (fun x101 s102 => ((x101 ≤ x4 → (K x3 s102)) ∧ (¬ x101 ≤ x4 → ((x3 = 0 → (K x3 s102)) ∧ (¬ x3 = 0 → (vp_in ((12 + x4) - x1) 5652 ∧ (∀ x106 : Int32, x106 = (mAt s102 2 ((12 + x4) - x1)) + x2 → (w_isPitch x106 (fun x107 => ((¬ x107 = 0 → ((x4 ≤ x1 → (w_isCanon_63 N x1 x2 x4 x4 x106 0 Kr K (fun x3 x4 s => w_isCanon_5 N x1 x2 Kr K t x3 x4 s) s102)) ∧ (¬ x4 ≤ x1 → (w_isCanon_63 N x1 x2 x4 x4 x106 1 Kr K (fun x3 x4 s => w_isCanon_5 N x1 x2 Kr K t x3 x4 s) s102)))) ∧ (x107 = 0 → (∀ x111 : Int32, x111 = x4 + 1 → ((fun x3 x4 s => w_isCanon_5 N x1 x2 Kr K t x3 x4 s) x107 x111 s102))))))))))))))
theorem c_isCanon_5 {G : xG} {l : Launch} {a : Nat → Nat} {g : xH} (ha : mInj a) {d : Nat} {N : Nat × Nat} (hd : 2 * N.2 + 7 ≤ d) (Kr : Int32 → mS → Prop) (K : Int32 → mS → Prop) (x1 : Int32) (x2 : Int32) : ∀ (t : Nat) (x3 : Int32) (x4 : Int32) (s : mS) , w_isCanon_5 N x1 x2 Kr K t x3 x4 s → (∀ (z3 : Int32) (s : mS), K z3 s → xF G l kX6_isCanon (d + 1) 0 0 (mQi G a g Kr) 111 [some (.ref (a 51)), none, none, some (.int z3), none, none] [] (mH G a s g)) → xF G l kX6_isCanon (d + 1) 0 0 (mQi G a g Kr) 5 [some (.ref (a 51)), some (.int x1), some (.int x2), some (.int x3), some (.int x4), none] [] (mH G a s g) := by
  intro t
  induction t with
  | zero =>
    intro _ _ _ h _
    exact absurd h (by simp [w_isCanon_5])
  | succ t ih =>
    intro x3 x4 s h hK
    have hR := fun x3 x4 s h => ih x3 x4 s h hK
    unfold w_isCanon_5 at h
    refine x_iload_4 dX6_isCanon_5 ?_
    refine x_aload_0 dX6_isCanon_7 ?_
    refine m_cVi0 ha rfl cv_X6_112 (Nat.le_of_ble_eq_true rfl) dX6_isCanon_8 (c_noteMany ha (by omega) h) (fun x101 s102 h => ?_)
    refine x_icmp_ge 111 dX6_isCanon_11 (by decide) (fun c103 => ?_) (fun c103 => ?_)
    · have h := h.1 c103
      exact x_le (xLe_cons (xLe_none (xLe_none (xLe_cons (xLe_none (xLe_cons (xLe_nil))))))) (hK _ _ h)
    · have h := h.2 c103
      refine x_iload_3 dX6_isCanon_14 ?_
      refine x_if_eq 111 dX6_isCanon_15 (by decide) (fun c104 => ?_) (fun c104 => ?_)
      · have h := h.1 c104
        exact x_le (xLe_cons (xLe_none (xLe_none (xLe_cons (xLe_none (xLe_cons (xLe_nil))))))) (hK _ _ h)
      · have h := h.2 c104
        refine x_aload_0 dX6_isCanon_18 ?_
        refine m_get ha dX6_isCanon_19 fa_X6_28 rfl ?_
        refine x_bipush (v := 12) dX6_isCanon_22 (by decide) ?_
        refine x_iload_4 dX6_isCanon_24 ?_
        refine x_iadd dX6_isCanon_26 ?_
        refine x_iload_1 dX6_isCanon_27 ?_
        refine x_isub dX6_isCanon_28 ?_
        obtain ⟨e105, h⟩ := h
        refine m_iald (j := 2) ha dX6_isCanon_29 (by decide) (by decide) e105 ?_
        refine x_iload_2 dX6_isCanon_30 ?_
        refine x_iadd dX6_isCanon_31 ?_
        refine x_istore_5 dX6_isCanon_32 (by decide) xN2_i ?_
        have h := h _ rfl
        refine x_iload_5 dX6_isCanon_34 ?_
        refine m_cSi1 rfl cs_X6_116 (Nat.le_of_ble_eq_true rfl) dX6_isCanon_36 (c_isPitch (by omega) h) (fun x107 h => ?_)
        refine x_istore_3 dX6_isCanon_39 (by decide) xN2_i ?_
        refine x_iload_3 dX6_isCanon_40 ?_
        refine x_if_ne 47 dX6_isCanon_41 (by decide) (fun c109 => ?_) (fun c109 => ?_)
        · have h := h.1 c109
          refine x_aload_0 dX6_isCanon_47 ?_
          refine x_iload_4 dX6_isCanon_48 ?_
          refine x_iload_5 dX6_isCanon_50 ?_
          refine x_iload_4 dX6_isCanon_52 ?_
          refine x_iload_1 dX6_isCanon_54 ?_
          refine x_icmp_le 62 dX6_isCanon_55 (by decide) (fun c110 => ?_) (fun c110 => ?_)
          · have h := h.1 c110
            refine x_iconst (v := 0) dX6_isCanon_62 (by decide) ?_
            exact x_le (xLe_cons (xLe_cons (xLe_cons (xLe_none (xLe_cons (xLe_none (xLe_nil))))))) (c_isCanon_63 ha (by omega) _ _ _ _ _ _ _ _ _ _ h hK hR)
          · have h := h.2 c110
            refine x_iconst (v := 1) dX6_isCanon_58 (by decide) ?_
            refine x_goto 63 dX6_isCanon_59 (by decide) ?_
            exact x_le (xLe_cons (xLe_cons (xLe_cons (xLe_none (xLe_cons (xLe_none (xLe_nil))))))) (c_isCanon_63 ha (by omega) _ _ _ _ _ _ _ _ _ _ h hK hR)
        · have h := h.2 c109
          refine x_goto 105 dX6_isCanon_44 (by decide) ?_
          refine x_iinc_4 (v := 1) dX6_isCanon_105 (by decide) (by decide) xN2_i ?_
          have h := h _ rfl
          refine x_goto 5 dX6_isCanon_108 (by decide) ?_
          exact x_le (xLe_cons (xLe_cons (xLe_cons (xLe_cons (xLe_cons (xLe_none (xLe_nil))))))) (hR _ _ _ h)
def w_isCanon (N : Nat × Nat) (x1 : Int32) (x2 : Int32) (s : mS) (Kr : Int32 → mS → Prop) : Prop :=
  (w_isCanon_5 N x1 x2 Kr (fun x101 s102 => (xB x101 ∧ (Kr x101 s102))) N.1 1 x1 s)
theorem c_isCanon {G : xG} {l : Launch} {a : Nat → Nat} {g : xH} (ha : mInj a) {d : Nat} {N : Nat × Nat} (hd : 2 * N.2 + 8 ≤ d) {x1 : Int32} {x2 : Int32} {s : mS} {Kr : Int32 → mS → Prop} (h : w_isCanon N x1 x2 s Kr) : xC G l kX6_isCanon d 0 0 [.ref (a 51), .int x1, .int x2] (mH G a s g) (mQi G a g Kr) := by
  obtain ⟨d, rfl⟩ : ∃ z, d = z + 1 := ⟨d - 1, by omega⟩
  refine xC.start rfl (by decide +kernel) (Nat.le_of_ble_eq_true rfl) (lv := [some (.ref (a 51)), some (.int x1), some (.int x2), none, none, none]) rfl ?_
  unfold w_isCanon at h
  refine x_iconst (v := 1) dX6_isCanon_0 (by decide) ?_
  refine x_istore_3 dX6_isCanon_1 (by decide) xN2_i ?_
  refine x_iload_1 dX6_isCanon_2 ?_
  refine x_istore_4 dX6_isCanon_3 (by decide) xN2_i ?_
  refine x_le (xLe_cons (xLe_cons (xLe_cons (xLe_cons (xLe_cons (xLe_cons (xLe_nil))))))) (c_isCanon_5 ha (by omega) _ _ _ _ _ _ _ _ h (fun x101 s102 h => ?_))
  refine x_iload_3 dX6_isCanon_111 ?_
  obtain ⟨e103, h⟩ := h
  exact x_zret dX6_isCanon_112 rfl (xB_n e103) ⟨_, _, h, rfl, rfl⟩
def w_canon_29 (N : Nat × Nat) (x1 : Int32) (x2 : Int32) (Kr : Int32 → mS → Prop) (K : Int32 → mS → Prop) : Nat → Int32 → Int32 → mS → Prop
  | 0, _, _, _ => False
  | t + 1, x3, x4, s => ((25 ≤ x4 → (K x3 s)) ∧ (¬ 25 ≤ x4 → (w_isCanon N x1 x4 s (fun x102 s103 => ((¬ x102 = 0 → ((¬ x3 = x2 → (∀ x106 : Int32, x106 = x3 + 1 → (∀ x107 : Int32, x107 = x4 + 1 → ((fun x3 x4 s => w_canon_29 N x1 x2 Kr K t x3 x4 s) x106 x107 s103)))) ∧ (x3 = x2 → (Kr x4 s103)))) ∧ (x102 = 0 → (∀ x108 : Int32, x108 = x4 + 1 → ((fun x3 x4 s => w_canon_29 N x1 x2 Kr K t x3 x4 s) x3 x108 s103))))))))
theorem c_canon_29 {G : xG} {l : Launch} {a : Nat → Nat} {g : xH} (ha : mInj a) {d : Nat} {N : Nat × Nat} (hd : 2 * N.2 + 8 ≤ d) (Kr : Int32 → mS → Prop) (K : Int32 → mS → Prop) (x1 : Int32) (x2 : Int32) : ∀ (t : Nat) (x3 : Int32) (x4 : Int32) (s : mS) , w_canon_29 N x1 x2 Kr K t x3 x4 s → (∀ (z3 : Int32) (s : mS), K z3 s → xF G l kX6_canon (d + 1) 0 0 (mQi G a g Kr) 66 [some (.ref (a 51)), none, some (.int x2), some (.int z3), none] [] (mH G a s g)) → xF G l kX6_canon (d + 1) 0 0 (mQi G a g Kr) 29 [some (.ref (a 51)), some (.int x1), some (.int x2), some (.int x3), some (.int x4)] [] (mH G a s g) := by
  intro t
  induction t with
  | zero =>
    intro _ _ _ h _
    exact absurd h (by simp [w_canon_29])
  | succ t ih =>
    intro x3 x4 s h hK
    have hR := fun x3 x4 s h => ih x3 x4 s h hK
    unfold w_canon_29 at h
    refine x_iload_4 dX6_canon_29 ?_
    refine x_bipush (v := 25) dX6_canon_31 (by decide) ?_
    refine x_icmp_ge 66 dX6_canon_33 (by decide) (fun c101 => ?_) (fun c101 => ?_)
    · have h := h.1 c101
      exact x_le (xLe_cons (xLe_none (xLe_cons (xLe_cons (xLe_none (xLe_nil)))))) (hK _ _ h)
    · have h := h.2 c101
      refine x_aload_0 dX6_canon_36 ?_
      refine x_iload_1 dX6_canon_37 ?_
      refine x_iload_4 dX6_canon_38 ?_
      refine m_cVi2 ha rfl cv_X6_410 (Nat.le_of_ble_eq_true rfl) dX6_canon_40 (c_isCanon ha (by omega) h) (fun x102 s103 h => ?_)
      refine x_if_ne 49 dX6_canon_43 (by decide) (fun c104 => ?_) (fun c104 => ?_)
      · have h := h.1 c104
        refine x_iload_3 dX6_canon_49 ?_
        refine x_iload_2 dX6_canon_50 ?_
        refine x_icmp_ne 57 dX6_canon_51 (by decide) (fun c105 => ?_) (fun c105 => ?_)
        · have h := h.1 c105
          refine x_iinc_3 (v := 1) dX6_canon_57 (by decide) (by decide) xN2_i ?_
          have h := h _ rfl
          refine x_iinc_4 (v := 1) dX6_canon_60 (by decide) (by decide) xN2_i ?_
          have h := h _ rfl
          refine x_goto 29 dX6_canon_63 (by decide) ?_
          exact x_le (xLe_cons (xLe_cons (xLe_cons (xLe_cons (xLe_cons (xLe_nil)))))) (hR _ _ _ h)
        · have h := h.2 c105
          refine x_iload_4 dX6_canon_54 ?_
          exact x_iret dX6_canon_56 rfl ⟨_, _, h, rfl, rfl⟩
      · have h := h.2 c104
        refine x_goto 60 dX6_canon_46 (by decide) ?_
        refine x_iinc_4 (v := 1) dX6_canon_60 (by decide) (by decide) xN2_i ?_
        have h := h _ rfl
        refine x_goto 29 dX6_canon_63 (by decide) ?_
        exact x_le (xLe_cons (xLe_cons (xLe_cons (xLe_cons (xLe_cons (xLe_nil)))))) (hR _ _ _ h)
def w_canon (N : Nat × Nat) (x1 : Int32) (x2 : Int32) (s : mS) (Kr : Int32 → mS → Prop) : Prop :=
  (w_noteMany s (fun x101 s102 => (w_lies x1 1 (x101 - 1) (fun x103 => ((x103 = 0 → (Kr (-1000) s102)) ∧ (¬ x103 = 0 → (((-1) ≤ x2 → (w_canon_29 N x1 x2 Kr (fun x107 s108 => ((¬ x2 = (-1) → (Kr (-1000) s108)) ∧ (x2 = (-1) → (Kr x107 s108)))) N.1 0 (-24) s102)) ∧ (¬ (-1) ≤ x2 → (Kr (-1000) s102)))))))))
theorem c_canon {G : xG} {l : Launch} {a : Nat → Nat} {g : xH} (ha : mInj a) {d : Nat} {N : Nat × Nat} (hd : 2 * N.2 + 9 ≤ d) {x1 : Int32} {x2 : Int32} {s : mS} {Kr : Int32 → mS → Prop} (h : w_canon N x1 x2 s Kr) : xC G l kX6_canon d 0 0 [.ref (a 51), .int x1, .int x2] (mH G a s g) (mQi G a g Kr) := by
  obtain ⟨d, rfl⟩ : ∃ z, d = z + 1 := ⟨d - 1, by omega⟩
  refine xC.start rfl (by decide +kernel) (Nat.le_of_ble_eq_true rfl) (lv := [some (.ref (a 51)), some (.int x1), some (.int x2), none, none]) rfl ?_
  unfold w_canon at h
  refine x_iload_1 dX6_canon_0 ?_
  refine x_iconst (v := 1) dX6_canon_1 (by decide) ?_
  refine x_aload_0 dX6_canon_2 ?_
  refine m_cVi0 ha rfl cv_X6_112 (Nat.le_of_ble_eq_true rfl) dX6_canon_3 (c_noteMany ha (by omega) h) (fun x101 s102 h => ?_)
  refine x_iconst (v := 1) dX6_canon_6 (by decide) ?_
  refine x_isub dX6_canon_7 ?_
  refine m_cSi3 rfl cs_X6_18 (Nat.le_of_ble_eq_true rfl) dX6_canon_8 (c_lies (by omega) h) (fun x103 h => ?_)
  refine x_if_eq 19 dX6_canon_11 (by decide) (fun c105 => ?_) (fun c105 => ?_)
  · have h := h.1 c105
    refine x_sipush (v := (-1000)) dX6_canon_19 (by decide) ?_
    exact x_iret dX6_canon_22 rfl ⟨_, _, h, rfl, rfl⟩
  · have h := h.2 c105
    refine x_iload_2 dX6_canon_14 ?_
    refine x_iconst (v := (-1)) dX6_canon_15 (by decide) ?_
    refine x_icmp_ge 23 dX6_canon_16 (by decide) (fun c106 => ?_) (fun c106 => ?_)
    · have h := h.1 c106
      refine x_iconst (v := 0) dX6_canon_23 (by decide) ?_
      refine x_istore_3 dX6_canon_24 (by decide) xN2_i ?_
      refine x_bipush (v := (-24)) dX6_canon_25 (by decide) ?_
      refine x_istore_4 dX6_canon_27 (by decide) xN2_i ?_
      refine x_le (xLe_cons (xLe_cons (xLe_cons (xLe_cons (xLe_cons (xLe_nil)))))) (c_canon_29 ha (by omega) _ _ _ _ _ _ _ _ h (fun x107 s108 h => ?_))
      refine x_iload_2 dX6_canon_66 ?_
      refine x_iconst (v := (-1)) dX6_canon_67 (by decide) ?_
      refine x_icmp_ne 75 dX6_canon_68 (by decide) (fun c109 => ?_) (fun c109 => ?_)
      · have h := h.1 c109
        refine x_sipush (v := (-1000)) dX6_canon_75 (by decide) ?_
        exact x_iret dX6_canon_78 rfl ⟨_, _, h, rfl, rfl⟩
      · have h := h.2 c109
        refine x_iload_3 dX6_canon_71 ?_
        refine x_goto 78 dX6_canon_72 (by decide) ?_
        exact x_iret dX6_canon_78 rfl ⟨_, _, h, rfl, rfl⟩
    · have h := h.2 c106
      refine x_sipush (v := (-1000)) dX6_canon_19 (by decide) ?_
      exact x_iret dX6_canon_22 rfl ⟨_, _, h, rfl, rfl⟩
def w_leastShifted_42 (N : Nat × Nat) (x1 : Int32) (x3 : Int32) (Kr : Int32 → mS → Prop) (s : mS) : Prop :=
  (w_leastOf N 0 s (fun x101 s102 => (vp_in (12 + x1) 5652 ∧ (∀ s104 : mS, s104 = mI s102 2 (12 + x1) x3 → (Kr x101 s104)))))
theorem c_leastShifted_42 {G : xG} {l : Launch} {a : Nat → Nat} {g : xH} (ha : mInj a) {d : Nat} {N : Nat × Nat} (hd : 2 * N.2 + 8 ≤ d) (x1 : Int32) (x3 : Int32) (Kr : Int32 → mS → Prop) (s : mS) (h : w_leastShifted_42 N x1 x3 Kr s) : xF G l kX6_leastShifted (d + 1) 0 0 (mQi G a g Kr) 42 [some (.ref (a 51)), some (.int x1), none, some (.int x3), none] [] (mH G a s g) := by
  unfold w_leastShifted_42 at h
  refine x_aload_0 dX6_leastShifted_42 ?_
  refine x_iconst (v := 0) dX6_leastShifted_43 (by decide) ?_
  refine m_cVi1 ha rfl cv_X6_379 (Nat.le_of_ble_eq_true rfl) dX6_leastShifted_44 (c_leastOf ha (by omega) h) (fun x101 s102 h => ?_)
  refine x_istore_4 dX6_leastShifted_47 (by decide) xN2_i ?_
  refine x_aload_0 dX6_leastShifted_49 ?_
  refine m_get ha dX6_leastShifted_50 fa_X6_28 rfl ?_
  refine x_bipush (v := 12) dX6_leastShifted_53 (by decide) ?_
  refine x_iload_1 dX6_leastShifted_55 ?_
  refine x_iadd dX6_leastShifted_56 ?_
  refine x_iload_3 dX6_leastShifted_57 ?_
  obtain ⟨e103, h⟩ := h
  refine m_iast (j := 2) ha dX6_leastShifted_58 (by decide) (by decide) e103 ?_
  have h := h _ rfl
  refine x_iload_4 dX6_leastShifted_59 ?_
  exact x_iret dX6_leastShifted_61 rfl ⟨_, _, h, rfl, rfl⟩
def w_leastShifted (N : Nat × Nat) (x1 : Int32) (x2 : Int32) (s : mS) (Kr : Int32 → mS → Prop) : Prop :=
  (vp_in (12 + x1) 5652 ∧ (∀ x102 : Int32, x102 = mAt s 2 (12 + x1) → (vp_in (12 + x1) 5652 ∧ (∀ s104 : mS, s104 = mI s 2 (12 + x1) x2 → (w_laysNote N x1 s104 (fun s106 => (w_noteMany s106 (fun x107 s108 => ((x107 ≤ (x1 + 1) → (w_leastShifted_42 N x1 x102 Kr s108)) ∧ (¬ x107 ≤ (x1 + 1) → (w_laysNote N (x1 + 1) s108 (fun s111 => (w_leastShifted_42 N x1 x102 Kr s111)))))))))))))
theorem c_leastShifted {G : xG} {l : Launch} {a : Nat → Nat} {g : xH} (ha : mInj a) {d : Nat} {N : Nat × Nat} (hd : 2 * N.2 + 9 ≤ d) {x1 : Int32} {x2 : Int32} {s : mS} {Kr : Int32 → mS → Prop} (h : w_leastShifted N x1 x2 s Kr) : xC G l kX6_leastShifted d 0 0 [.ref (a 51), .int x1, .int x2] (mH G a s g) (mQi G a g Kr) := by
  obtain ⟨d, rfl⟩ : ∃ z, d = z + 1 := ⟨d - 1, by omega⟩
  refine xC.start rfl (by decide +kernel) (Nat.le_of_ble_eq_true rfl) (lv := [some (.ref (a 51)), some (.int x1), some (.int x2), none, none]) rfl ?_
  unfold w_leastShifted at h
  refine x_aload_0 dX6_leastShifted_0 ?_
  refine m_get ha dX6_leastShifted_1 fa_X6_28 rfl ?_
  refine x_bipush (v := 12) dX6_leastShifted_4 (by decide) ?_
  refine x_iload_1 dX6_leastShifted_6 ?_
  refine x_iadd dX6_leastShifted_7 ?_
  obtain ⟨e101, h⟩ := h
  refine m_iald (j := 2) ha dX6_leastShifted_8 (by decide) (by decide) e101 ?_
  refine x_istore_3 dX6_leastShifted_9 (by decide) xN2_i ?_
  have h := h _ rfl
  refine x_aload_0 dX6_leastShifted_10 ?_
  refine m_get ha dX6_leastShifted_11 fa_X6_28 rfl ?_
  refine x_bipush (v := 12) dX6_leastShifted_14 (by decide) ?_
  refine x_iload_1 dX6_leastShifted_16 ?_
  refine x_iadd dX6_leastShifted_17 ?_
  refine x_iload_2 dX6_leastShifted_18 ?_
  obtain ⟨e103, h⟩ := h
  refine m_iast (j := 2) ha dX6_leastShifted_19 (by decide) (by decide) e103 ?_
  have h := h _ rfl
  refine x_aload_0 dX6_leastShifted_20 ?_
  refine x_iload_1 dX6_leastShifted_21 ?_
  refine m_cVv1 ha rfl cv_X6_357 (Nat.le_of_ble_eq_true rfl) dX6_leastShifted_22 (c_laysNote ha (by omega) h) (fun s106 h => ?_)
  refine x_iload_1 dX6_leastShifted_25 ?_
  refine x_iconst (v := 1) dX6_leastShifted_26 (by decide) ?_
  refine x_iadd dX6_leastShifted_27 ?_
  refine x_aload_0 dX6_leastShifted_28 ?_
  refine m_cVi0 ha rfl cv_X6_112 (Nat.le_of_ble_eq_true rfl) dX6_leastShifted_29 (c_noteMany ha (by omega) h) (fun x107 s108 h => ?_)
  refine x_icmp_ge 42 dX6_leastShifted_32 (by decide) (fun c109 => ?_) (fun c109 => ?_)
  · have h := h.1 c109
    exact x_le (xLe_cons (xLe_cons (xLe_none (xLe_cons (xLe_cons (xLe_nil)))))) (c_leastShifted_42 ha (by omega) _ _ _ _ h)
  · have h := h.2 c109
    refine x_aload_0 dX6_leastShifted_35 ?_
    refine x_iload_1 dX6_leastShifted_36 ?_
    refine x_iconst (v := 1) dX6_leastShifted_37 (by decide) ?_
    refine x_iadd dX6_leastShifted_38 ?_
    refine m_cVv1 ha rfl cv_X6_357 (Nat.le_of_ble_eq_true rfl) dX6_leastShifted_39 (c_laysNote ha (by omega) h) (fun s111 h => ?_)
    exact x_le (xLe_cons (xLe_cons (xLe_none (xLe_cons (xLe_cons (xLe_nil)))))) (c_leastShifted_42 ha (by omega) _ _ _ _ h)
def w_cheapest_65 (N : Nat × Nat) (x1 : Int32) (x2 : Int32) (x3 : Int32) (x4 : Int32) (x5 : Int32) (y0 : Int32) (Kr : Int32 → mS → Prop) (K : Int32 → Int32 → mS → Prop) (R : Int32 → Int32 → Int32 → mS → Prop) (s : mS) : Prop :=
  ((y0 = (-1) → (∀ x102 : Int32, x102 = x5 + 1 → (R x3 x4 x102 s))) ∧ (¬ y0 = (-1) → ((y0 < x4 → (∀ x104 : Int32, x104 = x5 + 1 → (R x5 y0 x104 s))) ∧ (¬ y0 < x4 → (∀ x105 : Int32, x105 = x5 + 1 → (R x3 x4 x105 s))))))
theorem c_cheapest_65 {G : xG} {l : Launch} {a : Nat → Nat} {g : xH} (ha : mInj a) {d : Nat} {N : Nat × Nat} (hd : 2 * N.2 + 9 ≤ d) (x1 : Int32) (x2 : Int32) (x3 : Int32) (x4 : Int32) (x5 : Int32) (y0 : Int32) (Kr : Int32 → mS → Prop) (K : Int32 → Int32 → mS → Prop) (R : Int32 → Int32 → Int32 → mS → Prop) (s : mS) (h : w_cheapest_65 N x1 x2 x3 x4 x5 y0 Kr K R s) (hK : ∀ (z3 : Int32) (z4 : Int32) (s : mS), K z3 z4 s → xF G l kX6_cheapest (d + 1) 0 0 (mQi G a g Kr) 96 [some (.ref (a 51)), none, some (.int x2), some (.int z3), some (.int z4), none, none] [] (mH G a s g)) (hR : ∀ (z3 : Int32) (z4 : Int32) (z5 : Int32) (s : mS), R z3 z4 z5 s → xF G l kX6_cheapest (d + 1) 0 0 (mQi G a g Kr) 33 [some (.ref (a 51)), some (.int x1), some (.int x2), some (.int z3), some (.int z4), some (.int z5), none] [] (mH G a s g)) : xF G l kX6_cheapest (d + 1) 0 0 (mQi G a g Kr) 65 [some (.ref (a 51)), some (.int x1), some (.int x2), some (.int x3), some (.int x4), some (.int x5), none] [.int y0] (mH G a s g) := by
  unfold w_cheapest_65 at h
  refine x_istore_6 dX6_cheapest_65 (by decide) xN2_i ?_
  refine x_iload_6 dX6_cheapest_67 ?_
  refine x_iconst (v := (-1)) dX6_cheapest_69 (by decide) ?_
  refine x_icmp_eq 90 dX6_cheapest_70 (by decide) (fun c101 => ?_) (fun c101 => ?_)
  · have h := h.1 c101
    refine x_iinc_5 (v := 1) dX6_cheapest_90 (by decide) (by decide) xN2_i ?_
    have h := h _ rfl
    refine x_goto 33 dX6_cheapest_93 (by decide) ?_
    exact x_le (xLe_cons (xLe_cons (xLe_cons (xLe_cons (xLe_cons (xLe_cons (xLe_none (xLe_nil)))))))) (hR _ _ _ _ h)
  · have h := h.2 c101
    refine x_iload_6 dX6_cheapest_73 ?_
    refine x_iload_4 dX6_cheapest_75 ?_
    refine x_icmp_lt 83 dX6_cheapest_77 (by decide) (fun c103 => ?_) (fun c103 => ?_)
    · have h := h.1 c103
      refine x_iload_6 dX6_cheapest_83 ?_
      refine x_istore_4 dX6_cheapest_85 (by decide) xN2_i ?_
      refine x_iload_5 dX6_cheapest_87 ?_
      refine x_istore_3 dX6_cheapest_89 (by decide) xN2_i ?_
      refine x_iinc_5 (v := 1) dX6_cheapest_90 (by decide) (by decide) xN2_i ?_
      have h := h _ rfl
      refine x_goto 33 dX6_cheapest_93 (by decide) ?_
      exact x_le (xLe_cons (xLe_cons (xLe_cons (xLe_cons (xLe_cons (xLe_cons (xLe_none (xLe_nil)))))))) (hR _ _ _ _ h)
    · have h := h.2 c103
      refine x_goto 90 dX6_cheapest_80 (by decide) ?_
      refine x_iinc_5 (v := 1) dX6_cheapest_90 (by decide) (by decide) xN2_i ?_
      have h := h _ rfl
      refine x_goto 33 dX6_cheapest_93 (by decide) ?_
      exact x_le (xLe_cons (xLe_cons (xLe_cons (xLe_cons (xLe_cons (xLe_cons (xLe_none (xLe_nil)))))))) (hR _ _ _ _ h)
def w_cheapest_33 (N : Nat × Nat) (x1 : Int32) (x2 : Int32) (Kr : Int32 → mS → Prop) (K : Int32 → Int32 → mS → Prop) : Nat → Int32 → Int32 → Int32 → mS → Prop
  | 0, _, _, _, _ => False
  | t + 1, x3, x4, x5, s => ((25 ≤ x5 → (K x3 x4 s)) ∧ (¬ 25 ≤ x5 → (vp_in (12 + x1) 5652 ∧ ((¬ x5 = (mAt s 2 (12 + x1)) → (w_leastShifted N x1 x5 s (fun x104 s105 => (w_cheapest_65 N x1 x2 x3 x4 x5 x104 Kr K (fun x3 x4 x5 s => w_cheapest_33 N x1 x2 Kr K t x3 x4 x5 s) s105)))) ∧ (x5 = (mAt s 2 (12 + x1)) → (w_cheapest_65 N x1 x2 x3 x4 x5 (-1) Kr K (fun x3 x4 x5 s => w_cheapest_33 N x1 x2 Kr K t x3 x4 x5 s) s))))))
theorem c_cheapest_33 {G : xG} {l : Launch} {a : Nat → Nat} {g : xH} (ha : mInj a) {d : Nat} {N : Nat × Nat} (hd : 2 * N.2 + 9 ≤ d) (Kr : Int32 → mS → Prop) (K : Int32 → Int32 → mS → Prop) (x1 : Int32) (x2 : Int32) : ∀ (t : Nat) (x3 : Int32) (x4 : Int32) (x5 : Int32) (s : mS) , w_cheapest_33 N x1 x2 Kr K t x3 x4 x5 s → (∀ (z3 : Int32) (z4 : Int32) (s : mS), K z3 z4 s → xF G l kX6_cheapest (d + 1) 0 0 (mQi G a g Kr) 96 [some (.ref (a 51)), none, some (.int x2), some (.int z3), some (.int z4), none, none] [] (mH G a s g)) → xF G l kX6_cheapest (d + 1) 0 0 (mQi G a g Kr) 33 [some (.ref (a 51)), some (.int x1), some (.int x2), some (.int x3), some (.int x4), some (.int x5), none] [] (mH G a s g) := by
  intro t
  induction t with
  | zero =>
    intro _ _ _ _ h _
    exact absurd h (by simp [w_cheapest_33])
  | succ t ih =>
    intro x3 x4 x5 s h hK
    have hR := fun x3 x4 x5 s h => ih x3 x4 x5 s h hK
    unfold w_cheapest_33 at h
    refine x_iload_5 dX6_cheapest_33 ?_
    refine x_bipush (v := 25) dX6_cheapest_35 (by decide) ?_
    refine x_icmp_ge 96 dX6_cheapest_37 (by decide) (fun c101 => ?_) (fun c101 => ?_)
    · have h := h.1 c101
      exact x_le (xLe_cons (xLe_none (xLe_cons (xLe_cons (xLe_cons (xLe_none (xLe_cons (xLe_nil)))))))) (hK _ _ _ h)
    · have h := h.2 c101
      refine x_iload_5 dX6_cheapest_40 ?_
      refine x_aload_0 dX6_cheapest_42 ?_
      refine m_get ha dX6_cheapest_43 fa_X6_28 rfl ?_
      refine x_bipush (v := 12) dX6_cheapest_46 (by decide) ?_
      refine x_iload_1 dX6_cheapest_48 ?_
      refine x_iadd dX6_cheapest_49 ?_
      obtain ⟨e102, h⟩ := h
      refine m_iald (j := 2) ha dX6_cheapest_50 (by decide) (by decide) e102 ?_
      refine x_icmp_ne 58 dX6_cheapest_51 (by decide) (fun c103 => ?_) (fun c103 => ?_)
      · have h := h.1 c103
        refine x_aload_0 dX6_cheapest_58 ?_
        refine x_iload_1 dX6_cheapest_59 ?_
        refine x_iload_5 dX6_cheapest_60 ?_
        refine m_cVi2 ha rfl cv_X6_407 (Nat.le_of_ble_eq_true rfl) dX6_cheapest_62 (c_leastShifted ha (by omega) h) (fun x104 s105 h => ?_)
        exact x_le (xLe_cons (xLe_cons (xLe_cons (xLe_cons (xLe_cons (xLe_cons (xLe_cons (xLe_nil)))))))) (c_cheapest_65 ha (by omega) _ _ _ _ _ _ _ _ _ _ h hK hR)
      · have h := h.2 c103
        refine x_iconst (v := (-1)) dX6_cheapest_54 (by decide) ?_
        refine x_goto 65 dX6_cheapest_55 (by decide) ?_
        exact x_le (xLe_cons (xLe_cons (xLe_cons (xLe_cons (xLe_cons (xLe_cons (xLe_cons (xLe_nil)))))))) (c_cheapest_65 ha (by omega) _ _ _ _ _ _ _ _ _ _ h hK hR)
def w_cheapest (N : Nat × Nat) (x1 : Int32) (x2 : Int32) (s : mS) (Kr : Int32 → mS → Prop) : Prop :=
  (w_isNote x1 s (fun x101 s102 => ((x101 = 0 → (Kr (-1) s102)) ∧ (¬ x101 = 0 → (w_lies x2 0 1 (fun x104 => ((¬ x104 = 0 → (w_laysNotes N s102 (fun s108 => (w_cheapest_33 N x1 x2 Kr (fun x109 x110 s111 => ((x109 = (-1) → (Kr x109 s111)) ∧ (¬ x109 = (-1) → ((¬ x2 = 0 → (Kr x110 s111)) ∧ (x2 = 0 → (Kr x109 s111)))))) N.1 (-1) 100000000 0 s108)))) ∧ (x104 = 0 → (Kr (-1) s102)))))))))
theorem c_cheapest {G : xG} {l : Launch} {a : Nat → Nat} {g : xH} (ha : mInj a) {d : Nat} {N : Nat × Nat} (hd : 2 * N.2 + 10 ≤ d) {x1 : Int32} {x2 : Int32} {s : mS} {Kr : Int32 → mS → Prop} (h : w_cheapest N x1 x2 s Kr) : xC G l kX6_cheapest d 0 0 [.ref (a 51), .int x1, .int x2] (mH G a s g) (mQi G a g Kr) := by
  obtain ⟨d, rfl⟩ : ∃ z, d = z + 1 := ⟨d - 1, by omega⟩
  refine xC.start rfl (by decide +kernel) (Nat.le_of_ble_eq_true rfl) (lv := [some (.ref (a 51)), some (.int x1), some (.int x2), none, none, none, none]) rfl ?_
  unfold w_cheapest at h
  refine x_aload_0 dX6_cheapest_0 ?_
  refine x_iload_1 dX6_cheapest_1 ?_
  refine m_cVi1 ha rfl cv_X6_124 (Nat.le_of_ble_eq_true rfl) dX6_cheapest_2 (c_isNote ha (by omega) h) (fun x101 s102 h => ?_)
  refine x_if_eq 17 dX6_cheapest_5 (by decide) (fun c103 => ?_) (fun c103 => ?_)
  · have h := h.1 c103
    refine x_iconst (v := (-1)) dX6_cheapest_17 (by decide) ?_
    exact x_iret dX6_cheapest_18 rfl ⟨_, _, h, rfl, rfl⟩
  · have h := h.2 c103
    refine x_iload_2 dX6_cheapest_8 ?_
    refine x_iconst (v := 0) dX6_cheapest_9 (by decide) ?_
    refine x_iconst (v := 1) dX6_cheapest_10 (by decide) ?_
    refine m_cSi3 rfl cs_X6_18 (Nat.le_of_ble_eq_true rfl) dX6_cheapest_11 (c_lies (by omega) h) (fun x104 h => ?_)
    refine x_if_ne 19 dX6_cheapest_14 (by decide) (fun c106 => ?_) (fun c106 => ?_)
    · have h := h.1 c106
      refine x_aload_0 dX6_cheapest_19 ?_
      refine m_cVv0 ha rfl cv_X6_376 (Nat.le_of_ble_eq_true rfl) dX6_cheapest_20 (c_laysNotes ha (by omega) h) (fun s108 h => ?_)
      refine x_iconst (v := (-1)) dX6_cheapest_23 (by decide) ?_
      refine x_istore_3 dX6_cheapest_24 (by decide) xN2_i ?_
      refine x_ldcw dX6_cheapest_25 q2102 ?_
      refine x_istore_4 dX6_cheapest_28 (by decide) xN2_i ?_
      refine x_iconst (v := 0) dX6_cheapest_30 (by decide) ?_
      refine x_istore_5 dX6_cheapest_31 (by decide) xN2_i ?_
      refine x_le (xLe_cons (xLe_cons (xLe_cons (xLe_cons (xLe_cons (xLe_cons (xLe_cons (xLe_nil)))))))) (c_cheapest_33 ha (by omega) _ _ _ _ _ _ _ _ _ h (fun x109 x110 s111 h => ?_))
      refine x_iload_3 dX6_cheapest_96 ?_
      refine x_iconst (v := (-1)) dX6_cheapest_97 (by decide) ?_
      refine x_icmp_eq 105 dX6_cheapest_98 (by decide) (fun c112 => ?_) (fun c112 => ?_)
      · have h := h.1 c112
        refine x_iload_3 dX6_cheapest_105 ?_
        refine x_goto 111 dX6_cheapest_106 (by decide) ?_
        exact x_iret dX6_cheapest_111 rfl ⟨_, _, h, rfl, rfl⟩
      · have h := h.2 c112
        refine x_iload_2 dX6_cheapest_101 ?_
        refine x_if_ne 109 dX6_cheapest_102 (by decide) (fun c113 => ?_) (fun c113 => ?_)
        · have h := h.1 c113
          refine x_iload_4 dX6_cheapest_109 ?_
          exact x_iret dX6_cheapest_111 rfl ⟨_, _, h, rfl, rfl⟩
        · have h := h.2 c113
          refine x_iload_3 dX6_cheapest_105 ?_
          refine x_goto 111 dX6_cheapest_106 (by decide) ?_
          exact x_iret dX6_cheapest_111 rfl ⟨_, _, h, rfl, rfl⟩
    · have h := h.2 c106
      refine x_iconst (v := (-1)) dX6_cheapest_17 (by decide) ?_
      exact x_iret dX6_cheapest_18 rfl ⟨_, _, h, rfl, rfl⟩
def w_isLaw (x1 : Int32) (s : mS) (Kr : Int32 → mS → Prop) : Prop :=
  (vp_in 43 5652 ∧ (w_lies x1 (-1) ((mAt s 2 43) - 1) (fun x102 => (xB x102 ∧ (Kr x102 s)))))
theorem c_isLaw {G : xG} {l : Launch} {a : Nat → Nat} {g : xH} (ha : mInj a) {d : Nat} (hd : 2 ≤ d) {x1 : Int32} {s : mS} {Kr : Int32 → mS → Prop} (h : w_isLaw x1 s Kr) : xC G l kX6_isLaw d 0 0 [.ref (a 51), .int x1] (mH G a s g) (mQi G a g Kr) := by
  obtain ⟨d, rfl⟩ : ∃ z, d = z + 1 := ⟨d - 1, by omega⟩
  refine xC.start rfl (by decide +kernel) (Nat.le_of_ble_eq_true rfl) (lv := [some (.ref (a 51)), some (.int x1)]) rfl ?_
  unfold w_isLaw at h
  refine x_iload_1 dX6_isLaw_0 ?_
  refine x_iconst (v := (-1)) dX6_isLaw_1 (by decide) ?_
  refine x_aload_0 dX6_isLaw_2 ?_
  refine m_get ha dX6_isLaw_3 fa_X6_28 rfl ?_
  refine x_bipush (v := 43) dX6_isLaw_6 (by decide) ?_
  obtain ⟨e101, h⟩ := h
  refine m_iald (j := 2) ha dX6_isLaw_8 (by decide) (by decide) e101 ?_
  refine x_iconst (v := 1) dX6_isLaw_9 (by decide) ?_
  refine x_isub dX6_isLaw_10 ?_
  refine m_cSi3 rfl cs_X6_18 (Nat.le_of_ble_eq_true rfl) dX6_isLaw_11 (c_lies (by omega) h) (fun x102 h => ?_)
  obtain ⟨e104, h⟩ := h
  exact x_zret dX6_isLaw_14 rfl (xB_n e104) ⟨_, _, h, rfl, rfl⟩
def w_compare (N : Nat × Nat) (x1 : Int32) (s : mS) (Kr : Int32 → mS → Prop) : Prop :=
  (w_isLaw x1 s (fun x101 s102 => ((¬ x101 = 0 → (vp_in 44 5652 ∧ (∀ x105 : Int32, x105 = mAt s102 2 44 → (vp_in 44 5652 ∧ (∀ s107 : mS, s107 = mI s102 2 44 x1 → (w_voiceOf N (-1) 0 s107 (fun x108 s109 => (vp_in 44 5652 ∧ (∀ s111 : mS, s111 = mI s109 2 44 x105 → (Kr x108 s111)))))))))) ∧ (x101 = 0 → (Kr (-1) s102)))))
theorem c_compare {G : xG} {l : Launch} {a : Nat → Nat} {g : xH} (ha : mInj a) {d : Nat} {N : Nat × Nat} (hd : 2 * N.2 + 11 ≤ d) {x1 : Int32} {s : mS} {Kr : Int32 → mS → Prop} (h : w_compare N x1 s Kr) : xC G l kX6_compare d 0 0 [.ref (a 51), .int x1] (mH G a s g) (mQi G a g Kr) := by
  obtain ⟨d, rfl⟩ : ∃ z, d = z + 1 := ⟨d - 1, by omega⟩
  refine xC.start rfl (by decide +kernel) (Nat.le_of_ble_eq_true rfl) (lv := [some (.ref (a 51)), some (.int x1), none, none]) rfl ?_
  unfold w_compare at h
  refine x_aload_0 dX6_compare_0 ?_
  refine x_iload_1 dX6_compare_1 ?_
  refine m_cVi1 ha rfl cv_X6_255 (Nat.le_of_ble_eq_true rfl) dX6_compare_2 (c_isLaw ha (by omega) h) (fun x101 s102 h => ?_)
  refine x_if_ne 10 dX6_compare_5 (by decide) (fun c103 => ?_) (fun c103 => ?_)
  · have h := h.1 c103
    refine x_aload_0 dX6_compare_10 ?_
    refine m_get ha dX6_compare_11 fa_X6_28 rfl ?_
    refine x_bipush (v := 44) dX6_compare_14 (by decide) ?_
    obtain ⟨e104, h⟩ := h
    refine m_iald (j := 2) ha dX6_compare_16 (by decide) (by decide) e104 ?_
    refine x_istore_2 dX6_compare_17 (by decide) xN2_i ?_
    have h := h _ rfl
    refine x_aload_0 dX6_compare_18 ?_
    refine m_get ha dX6_compare_19 fa_X6_28 rfl ?_
    refine x_bipush (v := 44) dX6_compare_22 (by decide) ?_
    refine x_iload_1 dX6_compare_24 ?_
    obtain ⟨e106, h⟩ := h
    refine m_iast (j := 2) ha dX6_compare_25 (by decide) (by decide) e106 ?_
    have h := h _ rfl
    refine x_aload_0 dX6_compare_26 ?_
    refine x_iconst (v := (-1)) dX6_compare_27 (by decide) ?_
    refine x_iconst (v := 0) dX6_compare_28 (by decide) ?_
    refine m_cVi2 ha rfl cv_X6_387 (Nat.le_of_ble_eq_true rfl) dX6_compare_29 (c_voiceOf ha (by omega) h) (fun x108 s109 h => ?_)
    refine x_istore_3 dX6_compare_32 (by decide) xN2_i ?_
    refine x_aload_0 dX6_compare_33 ?_
    refine m_get ha dX6_compare_34 fa_X6_28 rfl ?_
    refine x_bipush (v := 44) dX6_compare_37 (by decide) ?_
    refine x_iload_2 dX6_compare_39 ?_
    obtain ⟨e110, h⟩ := h
    refine m_iast (j := 2) ha dX6_compare_40 (by decide) (by decide) e110 ?_
    have h := h _ rfl
    refine x_iload_3 dX6_compare_41 ?_
    exact x_iret dX6_compare_42 rfl ⟨_, _, h, rfl, rfl⟩
  · have h := h.2 c103
    refine x_iconst (v := (-1)) dX6_compare_8 (by decide) ?_
    exact x_iret dX6_compare_9 rfl ⟨_, _, h, rfl, rfl⟩
def w_hasVoice (N : Nat × Nat) (x1 : Int32) (x2 : Int32) (s : mS) (Kr : Int32 → mS → Prop) : Prop :=
  (w_noteMany s (fun x101 s102 => ((¬ x101 = 0 → (w_laysRest N x1 x2 0 s102 (fun s105 => (w_leastFrom N 0 0 x1 x2 0 s105 (fun x106 s107 => ((100000000 ≤ x106 → (Kr 0 s107)) ∧ (¬ 100000000 ≤ x106 → (Kr 1 s107)))))))) ∧ (x101 = 0 → (Kr 1 s102)))))
theorem c_hasVoice {G : xG} {l : Launch} {a : Nat → Nat} {g : xH} (ha : mInj a) {d : Nat} {N : Nat × Nat} (hd : 5 ≤ d) {x1 : Int32} {x2 : Int32} {s : mS} {Kr : Int32 → mS → Prop} (h : w_hasVoice N x1 x2 s Kr) : xC G l kX6_hasVoice d 0 0 [.ref (a 51), .int x1, .int x2] (mH G a s g) (mQi G a g Kr) := by
  obtain ⟨d, rfl⟩ : ∃ z, d = z + 1 := ⟨d - 1, by omega⟩
  refine xC.start rfl (by decide +kernel) (Nat.le_of_ble_eq_true rfl) (lv := [some (.ref (a 51)), some (.int x1), some (.int x2)]) rfl ?_
  unfold w_hasVoice at h
  refine x_aload_0 dX6_hasVoice_0 ?_
  refine m_cVi0 ha rfl cv_X6_112 (Nat.le_of_ble_eq_true rfl) dX6_hasVoice_1 (c_noteMany ha (by omega) h) (fun x101 s102 h => ?_)
  refine x_if_ne 9 dX6_hasVoice_4 (by decide) (fun c103 => ?_) (fun c103 => ?_)
  · have h := h.1 c103
    refine x_aload_0 dX6_hasVoice_9 ?_
    refine x_iload_1 dX6_hasVoice_10 ?_
    refine x_iload_2 dX6_hasVoice_11 ?_
    refine x_iconst (v := 0) dX6_hasVoice_12 (by decide) ?_
    refine m_cVv3 ha rfl cv_X6_372 (Nat.le_of_ble_eq_true rfl) dX6_hasVoice_13 (c_laysRest ha (by omega) h) (fun s105 h => ?_)
    refine x_aload_0 dX6_hasVoice_16 ?_
    refine x_iconst (v := 0) dX6_hasVoice_17 (by decide) ?_
    refine x_iconst (v := 0) dX6_hasVoice_18 (by decide) ?_
    refine x_iload_1 dX6_hasVoice_19 ?_
    refine x_iload_2 dX6_hasVoice_20 ?_
    refine x_iconst (v := 0) dX6_hasVoice_21 (by decide) ?_
    refine m_cVi5 ha rfl cv_X6_360 (Nat.le_of_ble_eq_true rfl) dX6_hasVoice_22 (c_leastFrom ha (by omega) h) (fun x106 s107 h => ?_)
    refine x_ldcw dX6_hasVoice_25 q2102 ?_
    refine x_icmp_ge 35 dX6_hasVoice_28 (by decide) (fun c108 => ?_) (fun c108 => ?_)
    · have h := h.1 c108
      refine x_iconst (v := 0) dX6_hasVoice_35 (by decide) ?_
      exact x_zret0 dX6_hasVoice_36 rfl ⟨_, _, h, rfl, rfl⟩
    · have h := h.2 c108
      refine x_iconst (v := 1) dX6_hasVoice_31 (by decide) ?_
      refine x_goto 36 dX6_hasVoice_32 (by decide) ?_
      exact x_zret1 dX6_hasVoice_36 rfl ⟨_, _, h, rfl, rfl⟩
  · have h := h.2 c103
    refine x_iconst (v := 1) dX6_hasVoice_7 (by decide) ?_
    exact x_zret1 dX6_hasVoice_8 rfl ⟨_, _, h, rfl, rfl⟩
def w_compass_44 (N : Nat × Nat) (x1 : Int32) (x2 : Int32) (Kr : Int32 → mS → Prop) (K : mS → Prop) : Nat → Int32 → mS → Prop
  | 0, _, _ => False
  | t + 1, x3, s => (vp_in 40 5652 ∧ (((mAt s 2 40) < (x3 + x2) → (K s)) ∧ (¬ (mAt s 2 40) < (x3 + x2) → (w_hasVoice N x3 (x3 + x2) s (fun x103 s104 => ((x103 = 0 → (∀ x106 : Int32, x106 = x3 + 1 → ((fun x3 s => w_compass_44 N x1 x2 Kr K t x3 s) x106 s104))) ∧ (¬ x103 = 0 → ((¬ x1 = 0 → (Kr x3 s104)) ∧ (x1 = 0 → (Kr x2 s104))))))))))
theorem c_compass_44 {G : xG} {l : Launch} {a : Nat → Nat} {g : xH} (ha : mInj a) {d : Nat} {N : Nat × Nat} (hd : 2 * N.2 + 9 ≤ d) (Kr : Int32 → mS → Prop) (K : mS → Prop) (x1 : Int32) (x2 : Int32) : ∀ (t : Nat) (x3 : Int32) (s : mS) , w_compass_44 N x1 x2 Kr K t x3 s → (∀ (s : mS), K s → xF G l kX6_compass (d + 1) 0 0 (mQi G a g Kr) 84 [some (.ref (a 51)), some (.int x1), some (.int x2), none] [] (mH G a s g)) → xF G l kX6_compass (d + 1) 0 0 (mQi G a g Kr) 44 [some (.ref (a 51)), some (.int x1), some (.int x2), some (.int x3)] [] (mH G a s g) := by
  intro t
  induction t with
  | zero =>
    intro _ _ h _
    exact absurd h (by simp [w_compass_44])
  | succ t ih =>
    intro x3 s h hK
    have hR := fun x3 s h => ih x3 s h hK
    unfold w_compass_44 at h
    refine x_iload_3 dX6_compass_44 ?_
    refine x_iload_2 dX6_compass_45 ?_
    refine x_iadd dX6_compass_46 ?_
    refine x_aload_0 dX6_compass_47 ?_
    refine m_get ha dX6_compass_48 fa_X6_28 rfl ?_
    refine x_bipush (v := 40) dX6_compass_51 (by decide) ?_
    obtain ⟨e101, h⟩ := h
    refine m_iald (j := 2) ha dX6_compass_53 (by decide) (by decide) e101 ?_
    refine x_icmp_gt 84 dX6_compass_54 (by decide) (fun c102 => ?_) (fun c102 => ?_)
    · have h := h.1 c102
      exact x_le (xLe_cons (xLe_cons (xLe_cons (xLe_none (xLe_nil))))) (hK _ h)
    · have h := h.2 c102
      refine x_aload_0 dX6_compass_57 ?_
      refine x_iload_3 dX6_compass_58 ?_
      refine x_iload_3 dX6_compass_59 ?_
      refine x_iload_2 dX6_compass_60 ?_
      refine x_iadd dX6_compass_61 ?_
      refine m_cVi2 ha rfl cv_X6_404 (Nat.le_of_ble_eq_true rfl) dX6_compass_62 (c_hasVoice ha (by omega) h) (fun x103 s104 h => ?_)
      refine x_if_eq 78 dX6_compass_65 (by decide) (fun c105 => ?_) (fun c105 => ?_)
      · have h := h.1 c105
        refine x_iinc_3 (v := 1) dX6_compass_78 (by decide) (by decide) xN2_i ?_
        have h := h _ rfl
        refine x_goto 44 dX6_compass_81 (by decide) ?_
        exact x_le (xLe_cons (xLe_cons (xLe_cons (xLe_cons (xLe_nil))))) (hR _ _ h)
      · have h := h.2 c105
        refine x_iload_1 dX6_compass_68 ?_
        refine x_if_ne 76 dX6_compass_69 (by decide) (fun c107 => ?_) (fun c107 => ?_)
        · have h := h.1 c107
          refine x_iload_3 dX6_compass_76 ?_
          exact x_iret dX6_compass_77 rfl ⟨_, _, h, rfl, rfl⟩
        · have h := h.2 c107
          refine x_iload_2 dX6_compass_72 ?_
          refine x_goto 77 dX6_compass_73 (by decide) ?_
          exact x_iret dX6_compass_77 rfl ⟨_, _, h, rfl, rfl⟩
def w_compass_17 (N : Nat × Nat) (x1 : Int32) (Kr : Int32 → mS → Prop) (K : mS → Prop) : Nat → Int32 → mS → Prop
  | 0, _, _ => False
  | t + 1, x2, s => (vp_in 40 5652 ∧ (vp_in 39 5652 ∧ ((((mAt s 2 40) - (mAt s 2 39)) < x2 → (K s)) ∧ (¬ ((mAt s 2 40) - (mAt s 2 39)) < x2 → (vp_in 39 5652 ∧ (∀ x105 : Int32, x105 = mAt s 2 39 → (w_compass_44 N x1 x2 Kr (fun s106 => (∀ x107 : Int32, x107 = x2 + 1 → ((fun x2 s => w_compass_17 N x1 Kr K t x2 s) x107 s106))) N.1 x105 s)))))))
theorem c_compass_17 {G : xG} {l : Launch} {a : Nat → Nat} {g : xH} (ha : mInj a) {d : Nat} {N : Nat × Nat} (hd : 2 * N.2 + 9 ≤ d) (Kr : Int32 → mS → Prop) (K : mS → Prop) (x1 : Int32) : ∀ (t : Nat) (x2 : Int32) (s : mS) , w_compass_17 N x1 Kr K t x2 s → (∀ (s : mS), K s → xF G l kX6_compass (d + 1) 0 0 (mQi G a g Kr) 90 [some (.ref (a 51)), none, none, none] [] (mH G a s g)) → xF G l kX6_compass (d + 1) 0 0 (mQi G a g Kr) 17 [some (.ref (a 51)), some (.int x1), some (.int x2), none] [] (mH G a s g) := by
  intro t
  induction t with
  | zero =>
    intro _ _ h _
    exact absurd h (by simp [w_compass_17])
  | succ t ih =>
    intro x2 s h hK
    have hR := fun x2 s h => ih x2 s h hK
    unfold w_compass_17 at h
    refine x_iload_2 dX6_compass_17 ?_
    refine x_aload_0 dX6_compass_18 ?_
    refine m_get ha dX6_compass_19 fa_X6_28 rfl ?_
    refine x_bipush (v := 40) dX6_compass_22 (by decide) ?_
    obtain ⟨e101, h⟩ := h
    refine m_iald (j := 2) ha dX6_compass_24 (by decide) (by decide) e101 ?_
    refine x_aload_0 dX6_compass_25 ?_
    refine m_get ha dX6_compass_26 fa_X6_28 rfl ?_
    refine x_bipush (v := 39) dX6_compass_29 (by decide) ?_
    obtain ⟨e102, h⟩ := h
    refine m_iald (j := 2) ha dX6_compass_31 (by decide) (by decide) e102 ?_
    refine x_isub dX6_compass_32 ?_
    refine x_icmp_gt 90 dX6_compass_33 (by decide) (fun c103 => ?_) (fun c103 => ?_)
    · have h := h.1 c103
      exact x_le (xLe_cons (xLe_none (xLe_none (xLe_cons (xLe_nil))))) (hK _ h)
    · have h := h.2 c103
      refine x_aload_0 dX6_compass_36 ?_
      refine m_get ha dX6_compass_37 fa_X6_28 rfl ?_
      refine x_bipush (v := 39) dX6_compass_40 (by decide) ?_
      obtain ⟨e104, h⟩ := h
      refine m_iald (j := 2) ha dX6_compass_42 (by decide) (by decide) e104 ?_
      refine x_istore_3 dX6_compass_43 (by decide) xN2_i ?_
      have h := h _ rfl
      refine x_le (xLe_cons (xLe_cons (xLe_cons (xLe_cons (xLe_nil))))) (c_compass_44 ha (by omega) _ _ _ _ _ _ _ h (fun s106 h => ?_))
      refine x_iinc_2 (v := 1) dX6_compass_84 (by decide) (by decide) xN2_i ?_
      have h := h _ rfl
      refine x_goto 17 dX6_compass_87 (by decide) ?_
      exact x_le (xLe_cons (xLe_cons (xLe_cons (xLe_cons (xLe_nil))))) (hR _ _ h)
def w_compass (N : Nat × Nat) (x1 : Int32) (s : mS) (Kr : Int32 → mS → Prop) : Prop :=
  (w_lies x1 0 1 (fun x101 => ((¬ x101 = 0 → (w_laysNotes N s (fun s105 => (w_compass_17 N x1 Kr (fun s106 => (Kr (-1) s106)) N.1 0 s105)))) ∧ (x101 = 0 → (Kr (-1) s)))))
theorem c_compass {G : xG} {l : Launch} {a : Nat → Nat} {g : xH} (ha : mInj a) {d : Nat} {N : Nat × Nat} (hd : 2 * N.2 + 10 ≤ d) {x1 : Int32} {s : mS} {Kr : Int32 → mS → Prop} (h : w_compass N x1 s Kr) : xC G l kX6_compass d 0 0 [.ref (a 51), .int x1] (mH G a s g) (mQi G a g Kr) := by
  obtain ⟨d, rfl⟩ : ∃ z, d = z + 1 := ⟨d - 1, by omega⟩
  refine xC.start rfl (by decide +kernel) (Nat.le_of_ble_eq_true rfl) (lv := [some (.ref (a 51)), some (.int x1), none, none]) rfl ?_
  unfold w_compass at h
  refine x_iload_1 dX6_compass_0 ?_
  refine x_iconst (v := 0) dX6_compass_1 (by decide) ?_
  refine x_iconst (v := 1) dX6_compass_2 (by decide) ?_
  refine m_cSi3 rfl cs_X6_18 (Nat.le_of_ble_eq_true rfl) dX6_compass_3 (c_lies (by omega) h) (fun x101 h => ?_)
  refine x_if_ne 11 dX6_compass_6 (by decide) (fun c103 => ?_) (fun c103 => ?_)
  · have h := h.1 c103
    refine x_aload_0 dX6_compass_11 ?_
    refine m_cVv0 ha rfl cv_X6_376 (Nat.le_of_ble_eq_true rfl) dX6_compass_12 (c_laysNotes ha (by omega) h) (fun s105 h => ?_)
    refine x_iconst (v := 0) dX6_compass_15 (by decide) ?_
    refine x_istore_2 dX6_compass_16 (by decide) xN2_i ?_
    refine x_le (xLe_cons (xLe_cons (xLe_cons (xLe_cons (xLe_nil))))) (c_compass_17 ha (by omega) _ _ _ _ _ _ h (fun s106 h => ?_))
    refine x_iconst (v := (-1)) dX6_compass_90 (by decide) ?_
    exact x_iret dX6_compass_91 rfl ⟨_, _, h, rfl, rfl⟩
  · have h := h.2 c103
    refine x_iconst (v := (-1)) dX6_compass_9 (by decide) ?_
    exact x_iret dX6_compass_10 rfl ⟨_, _, h, rfl, rfl⟩
def w_refusals (x1 : Int32) (s : mS) (Kr : Int32 → mS → Prop) : Prop :=
  ((3 ≤ x1 → (vp_in (x1 + 2) 7 ∧ (Kr (mAt s 1 (x1 + 2)) s))) ∧ (¬ 3 ≤ x1 → (vp_in (x1 + 1) 7 ∧ (Kr (mAt s 1 (x1 + 1)) s))))
theorem c_refusals {G : xG} {l : Launch} {a : Nat → Nat} {g : xH} (ha : mInj a) {d : Nat} (hd : 1 ≤ d) {x1 : Int32} {s : mS} {Kr : Int32 → mS → Prop} (h : w_refusals x1 s Kr) : xC G l kX6_refusals d 0 0 [.ref (a 51), .int x1] (mH G a s g) (mQi G a g Kr) := by
  obtain ⟨d, rfl⟩ : ∃ z, d = z + 1 := ⟨d - 1, by omega⟩
  refine xC.start rfl (by decide +kernel) (Nat.le_of_ble_eq_true rfl) (lv := [some (.ref (a 51)), some (.int x1)]) rfl ?_
  unfold w_refusals at h
  refine x_iload_1 dX6_refusals_0 ?_
  refine x_iconst (v := 3) dX6_refusals_1 (by decide) ?_
  refine x_icmp_ge 16 dX6_refusals_2 (by decide) (fun c101 => ?_) (fun c101 => ?_)
  · have h := h.1 c101
    refine x_aload_0 dX6_refusals_16 ?_
    refine m_get ha dX6_refusals_17 fa_X6_7 rfl ?_
    refine x_iload_1 dX6_refusals_20 ?_
    refine x_iconst (v := 2) dX6_refusals_21 (by decide) ?_
    refine x_iadd dX6_refusals_22 ?_
    obtain ⟨e102, h⟩ := h
    refine m_iald (j := 1) ha dX6_refusals_23 (by decide) (by decide) e102 ?_
    exact x_iret dX6_refusals_24 rfl ⟨_, _, h, rfl, rfl⟩
  · have h := h.2 c101
    refine x_aload_0 dX6_refusals_5 ?_
    refine m_get ha dX6_refusals_6 fa_X6_7 rfl ?_
    refine x_iload_1 dX6_refusals_9 ?_
    refine x_iconst (v := 1) dX6_refusals_10 (by decide) ?_
    refine x_iadd dX6_refusals_11 ?_
    obtain ⟨e103, h⟩ := h
    refine m_iald (j := 1) ha dX6_refusals_12 (by decide) (by decide) e103 ?_
    refine x_goto 24 dX6_refusals_13 (by decide) ?_
    exact x_iret dX6_refusals_24 rfl ⟨_, _, h, rfl, rfl⟩
def w_termAt (x0 : Int32) (Kr : Int32 → Prop) : Prop :=
  ((x0 = 0 → (Kr 24)) ∧ (x0 = 1 → (Kr 37)) ∧ (x0 = 2 → (Kr 38)) ∧ (x0 = 3 → (Kr 39)) ∧ (¬ x0 = 0 → ¬ x0 = 1 → ¬ x0 = 2 → ¬ x0 = 3 → (Kr 40)))
theorem c_termAt {G : xG} {l : Launch} {h0 : xH} {d : Nat} (hd : 1 ≤ d) {x0 : Int32} {Kr : Int32 → Prop} (h : w_termAt x0 Kr) : xC G l kX6_termAt d 0 0 [.int x0] h0 (xQi h0 Kr) := by
  obtain ⟨d, rfl⟩ : ∃ z, d = z + 1 := ⟨d - 1, by omega⟩
  refine xC.start rfl (by decide +kernel) (Nat.le_of_ble_eq_true rfl) (lv := [some (.int x0)]) rfl ?_
  unfold w_termAt at h
  refine x_iload_0 dX6_termAt_0 ?_
  by_cases c101 : x0 = 0
  · have h := h.1 c101
    refine x_cast rfl rfl (by rw [c101]) ?_
    refine x_tabIn 32 dX6_termAt_1 (by decide) (by decide) (off := 31) (by decide) (by decide) ?_
    refine x_bipush (v := 24) dX6_termAt_32 (by decide) ?_
    exact x_iret dX6_termAt_34 rfl ⟨_, h, rfl, rfl⟩
  by_cases c102 : x0 = 1
  · have h := h.2.1 c102
    refine x_cast rfl rfl (by rw [c102]) ?_
    refine x_tabIn 35 dX6_termAt_1 (by decide) (by decide) (off := 34) (by decide) (by decide) ?_
    refine x_bipush (v := 37) dX6_termAt_35 (by decide) ?_
    exact x_iret dX6_termAt_37 rfl ⟨_, h, rfl, rfl⟩
  by_cases c103 : x0 = 2
  · have h := h.2.2.1 c103
    refine x_cast rfl rfl (by rw [c103]) ?_
    refine x_tabIn 38 dX6_termAt_1 (by decide) (by decide) (off := 37) (by decide) (by decide) ?_
    refine x_bipush (v := 38) dX6_termAt_38 (by decide) ?_
    exact x_iret dX6_termAt_40 rfl ⟨_, h, rfl, rfl⟩
  by_cases c104 : x0 = 3
  · have h := h.2.2.2.1 c104
    refine x_cast rfl rfl (by rw [c104]) ?_
    refine x_tabIn 41 dX6_termAt_1 (by decide) (by decide) (off := 40) (by decide) (by decide) ?_
    refine x_bipush (v := 39) dX6_termAt_41 (by decide) ?_
    exact x_iret dX6_termAt_43 rfl ⟨_, h, rfl, rfl⟩
  have h := h.2.2.2.2 c101 c102 c103 c104
  have z0 := xti (v := 0) (z := 0) (by decide) c101
  have z1 := xti (v := 1) (z := 1) (by decide) c102
  have z2 := xti (v := 2) (z := 2) (by decide) c103
  have z3 := xti (v := 3) (z := 3) (by decide) c104
  refine x_tabOut 44 dX6_termAt_1 (by omega) (by decide) ?_
  refine x_bipush (v := 40) dX6_termAt_44 (by decide) ?_
  exact x_iret dX6_termAt_46 rfl ⟨_, h, rfl, rfl⟩
def w_count (N : Nat × Nat) (x1 : Int32) (s : mS) (Kr : Int32 → mS → Prop) : Prop :=
  (w_lies x1 6 10 (fun x101 => ((x101 = 0 → (w_lies x1 12 16 (fun x104 => ((x104 = 0 → ((x1 = 0 → (w_noteMany s (fun x108 s109 => (Kr x108 s109)))) ∧ (x1 = 1 → (w_allOf N 2 s (fun x111 s112 => (Kr x111 s112)))) ∧ (x1 = 2 → (vp_in 42 5652 ∧ (Kr (mAt s 2 42) s))) ∧ (x1 = 3 → (vp_in 43 5652 ∧ (Kr (mAt s 2 43) s))) ∧ (x1 = 4 → (Kr (mFd s 33) s)) ∧ (x1 = 5 → (Kr (mFd s 13) s)) ∧ (x1 = 6 → (Kr (-1) s)) ∧ (x1 = 7 → (Kr (-1) s)) ∧ (x1 = 8 → (Kr (-1) s)) ∧ (x1 = 9 → (Kr (-1) s)) ∧ (x1 = 10 → (Kr (-1) s)) ∧ (x1 = 11 → (vp_in 44 5652 ∧ (Kr (mAt s 2 44) s))) ∧ (¬ x1 = 0 → ¬ x1 = 1 → ¬ x1 = 2 → ¬ x1 = 3 → ¬ x1 = 4 → ¬ x1 = 5 → ¬ x1 = 6 → ¬ x1 = 7 → ¬ x1 = 8 → ¬ x1 = 9 → ¬ x1 = 10 → ¬ x1 = 11 → (Kr (-1) s)))) ∧ (¬ x104 = 0 → (w_termAt (x1 - 12) (fun x126 => (vp_in x126 5652 ∧ (Kr (mAt s 2 x126) s))))))))) ∧ (¬ x101 = 0 → (w_refusals (x1 - 6) s (fun x129 s130 => (Kr x129 s130)))))))
theorem c_count {G : xG} {l : Launch} {a : Nat → Nat} {g : xH} (ha : mInj a) {d : Nat} {N : Nat × Nat} (hd : 2 * N.2 + 9 ≤ d) {x1 : Int32} {s : mS} {Kr : Int32 → mS → Prop} (h : w_count N x1 s Kr) : xC G l kX6_count d 0 0 [.ref (a 51), .int x1] (mH G a s g) (mQi G a g Kr) := by
  obtain ⟨d, rfl⟩ : ∃ z, d = z + 1 := ⟨d - 1, by omega⟩
  refine xC.start rfl (by decide +kernel) (Nat.le_of_ble_eq_true rfl) (lv := [some (.ref (a 51)), some (.int x1)]) rfl ?_
  unfold w_count at h
  refine x_iload_1 dX6_count_0 ?_
  refine x_bipush (v := 6) dX6_count_1 (by decide) ?_
  refine x_bipush (v := 10) dX6_count_3 (by decide) ?_
  refine m_cSi3 rfl cs_X6_18 (Nat.le_of_ble_eq_true rfl) dX6_count_5 (c_lies (by omega) h) (fun x101 h => ?_)
  refine x_if_eq 20 dX6_count_8 (by decide) (fun c103 => ?_) (fun c103 => ?_)
  · have h := h.1 c103
    refine x_iload_1 dX6_count_20 ?_
    refine x_bipush (v := 12) dX6_count_21 (by decide) ?_
    refine x_bipush (v := 16) dX6_count_23 (by decide) ?_
    refine m_cSi3 rfl cs_X6_18 (Nat.le_of_ble_eq_true rfl) dX6_count_25 (c_lies (by omega) h) (fun x104 h => ?_)
    refine x_if_eq 44 dX6_count_28 (by decide) (fun c106 => ?_) (fun c106 => ?_)
    · have h := h.1 c106
      refine x_iload_1 dX6_count_44 ?_
      by_cases c107 : x1 = 0
      · have h := h.1 c107
        refine x_cast rfl rfl (by rw [c107]) ?_
        refine x_tabIn 108 dX6_count_45 (by decide) (by decide) (off := 63) (by decide) (by decide) ?_
        refine x_aload_0 dX6_count_108 ?_
        refine m_cVi0 ha rfl cv_X6_112 (Nat.le_of_ble_eq_true rfl) dX6_count_109 (c_noteMany ha (by omega) h) (fun x108 s109 h => ?_)
        exact x_iret dX6_count_112 rfl ⟨_, _, h, rfl, rfl⟩
      by_cases c110 : x1 = 1
      · have h := h.2.1 c110
        refine x_cast rfl rfl (by rw [c110]) ?_
        refine x_tabIn 113 dX6_count_45 (by decide) (by decide) (off := 68) (by decide) (by decide) ?_
        refine x_aload_0 dX6_count_113 ?_
        refine x_iconst (v := 2) dX6_count_114 (by decide) ?_
        refine m_cVi1 ha rfl cv_X6_332 (Nat.le_of_ble_eq_true rfl) dX6_count_115 (c_allOf ha (by omega) h) (fun x111 s112 h => ?_)
        exact x_iret dX6_count_118 rfl ⟨_, _, h, rfl, rfl⟩
      by_cases c113 : x1 = 2
      · have h := h.2.2.1 c113
        refine x_cast rfl rfl (by rw [c113]) ?_
        refine x_tabIn 119 dX6_count_45 (by decide) (by decide) (off := 74) (by decide) (by decide) ?_
        refine x_aload_0 dX6_count_119 ?_
        refine m_get ha dX6_count_120 fa_X6_28 rfl ?_
        refine x_bipush (v := 42) dX6_count_123 (by decide) ?_
        obtain ⟨e114, h⟩ := h
        refine m_iald (j := 2) ha dX6_count_125 (by decide) (by decide) e114 ?_
        exact x_iret dX6_count_126 rfl ⟨_, _, h, rfl, rfl⟩
      by_cases c115 : x1 = 3
      · have h := h.2.2.2.1 c115
        refine x_cast rfl rfl (by rw [c115]) ?_
        refine x_tabIn 127 dX6_count_45 (by decide) (by decide) (off := 82) (by decide) (by decide) ?_
        refine x_aload_0 dX6_count_127 ?_
        refine m_get ha dX6_count_128 fa_X6_28 rfl ?_
        refine x_bipush (v := 43) dX6_count_131 (by decide) ?_
        obtain ⟨e116, h⟩ := h
        refine m_iald (j := 2) ha dX6_count_133 (by decide) (by decide) e116 ?_
        exact x_iret dX6_count_134 rfl ⟨_, _, h, rfl, rfl⟩
      by_cases c117 : x1 = 4
      · have h := h.2.2.2.2.1 c117
        refine x_cast rfl rfl (by rw [c117]) ?_
        refine x_tabIn 135 dX6_count_45 (by decide) (by decide) (off := 90) (by decide) (by decide) ?_
        refine x_aload_0 dX6_count_135 ?_
        refine m_get ha dX6_count_136 fa_X6_11 rfl ?_
        exact x_iret dX6_count_139 rfl ⟨_, _, h, rfl, rfl⟩
      by_cases c118 : x1 = 5
      · have h := h.2.2.2.2.2.1 c118
        refine x_cast rfl rfl (by rw [c118]) ?_
        refine x_tabIn 140 dX6_count_45 (by decide) (by decide) (off := 95) (by decide) (by decide) ?_
        refine x_aload_0 dX6_count_140 ?_
        refine m_get ha dX6_count_141 fa_X6_154 rfl ?_
        exact x_iret dX6_count_144 rfl ⟨_, _, h, rfl, rfl⟩
      by_cases c119 : x1 = 6
      · have h := h.2.2.2.2.2.2.1 c119
        refine x_cast rfl rfl (by rw [c119]) ?_
        refine x_tabIn 153 dX6_count_45 (by decide) (by decide) (off := 108) (by decide) (by decide) ?_
        refine x_iconst (v := (-1)) dX6_count_153 (by decide) ?_
        exact x_iret dX6_count_154 rfl ⟨_, _, h, rfl, rfl⟩
      by_cases c120 : x1 = 7
      · have h := h.2.2.2.2.2.2.2.1 c120
        refine x_cast rfl rfl (by rw [c120]) ?_
        refine x_tabIn 153 dX6_count_45 (by decide) (by decide) (off := 108) (by decide) (by decide) ?_
        refine x_iconst (v := (-1)) dX6_count_153 (by decide) ?_
        exact x_iret dX6_count_154 rfl ⟨_, _, h, rfl, rfl⟩
      by_cases c121 : x1 = 8
      · have h := h.2.2.2.2.2.2.2.2.1 c121
        refine x_cast rfl rfl (by rw [c121]) ?_
        refine x_tabIn 153 dX6_count_45 (by decide) (by decide) (off := 108) (by decide) (by decide) ?_
        refine x_iconst (v := (-1)) dX6_count_153 (by decide) ?_
        exact x_iret dX6_count_154 rfl ⟨_, _, h, rfl, rfl⟩
      by_cases c122 : x1 = 9
      · have h := h.2.2.2.2.2.2.2.2.2.1 c122
        refine x_cast rfl rfl (by rw [c122]) ?_
        refine x_tabIn 153 dX6_count_45 (by decide) (by decide) (off := 108) (by decide) (by decide) ?_
        refine x_iconst (v := (-1)) dX6_count_153 (by decide) ?_
        exact x_iret dX6_count_154 rfl ⟨_, _, h, rfl, rfl⟩
      by_cases c123 : x1 = 10
      · have h := h.2.2.2.2.2.2.2.2.2.2.1 c123
        refine x_cast rfl rfl (by rw [c123]) ?_
        refine x_tabIn 153 dX6_count_45 (by decide) (by decide) (off := 108) (by decide) (by decide) ?_
        refine x_iconst (v := (-1)) dX6_count_153 (by decide) ?_
        exact x_iret dX6_count_154 rfl ⟨_, _, h, rfl, rfl⟩
      by_cases c124 : x1 = 11
      · have h := h.2.2.2.2.2.2.2.2.2.2.2.1 c124
        refine x_cast rfl rfl (by rw [c124]) ?_
        refine x_tabIn 145 dX6_count_45 (by decide) (by decide) (off := 100) (by decide) (by decide) ?_
        refine x_aload_0 dX6_count_145 ?_
        refine m_get ha dX6_count_146 fa_X6_28 rfl ?_
        refine x_bipush (v := 44) dX6_count_149 (by decide) ?_
        obtain ⟨e125, h⟩ := h
        refine m_iald (j := 2) ha dX6_count_151 (by decide) (by decide) e125 ?_
        exact x_iret dX6_count_152 rfl ⟨_, _, h, rfl, rfl⟩
      have h := h.2.2.2.2.2.2.2.2.2.2.2.2 c107 c110 c113 c115 c117 c118 c119 c120 c121 c122 c123 c124
      have z0 := xti (v := 0) (z := 0) (by decide) c107
      have z1 := xti (v := 1) (z := 1) (by decide) c110
      have z2 := xti (v := 2) (z := 2) (by decide) c113
      have z3 := xti (v := 3) (z := 3) (by decide) c115
      have z4 := xti (v := 4) (z := 4) (by decide) c117
      have z5 := xti (v := 5) (z := 5) (by decide) c118
      have z6 := xti (v := 6) (z := 6) (by decide) c119
      have z7 := xti (v := 7) (z := 7) (by decide) c120
      have z8 := xti (v := 8) (z := 8) (by decide) c121
      have z9 := xti (v := 9) (z := 9) (by decide) c122
      have z10 := xti (v := 10) (z := 10) (by decide) c123
      have z11 := xti (v := 11) (z := 11) (by decide) c124
      refine x_tabOut 153 dX6_count_45 (by omega) (by decide) ?_
      refine x_iconst (v := (-1)) dX6_count_153 (by decide) ?_
      exact x_iret dX6_count_154 rfl ⟨_, _, h, rfl, rfl⟩
    · have h := h.2 c106
      refine x_aload_0 dX6_count_31 ?_
      refine m_get ha dX6_count_32 fa_X6_28 rfl ?_
      refine x_iload_1 dX6_count_35 ?_
      refine x_bipush (v := 12) dX6_count_36 (by decide) ?_
      refine x_isub dX6_count_38 ?_
      refine m_cSi1 rfl cs_X6_151 (Nat.le_of_ble_eq_true rfl) dX6_count_39 (c_termAt (by omega) h) (fun x126 h => ?_)
      obtain ⟨e128, h⟩ := h
      refine m_iald (j := 2) ha dX6_count_42 (by decide) (by decide) e128 ?_
      exact x_iret dX6_count_43 rfl ⟨_, _, h, rfl, rfl⟩
  · have h := h.2 c103
    refine x_aload_0 dX6_count_11 ?_
    refine x_iload_1 dX6_count_12 ?_
    refine x_bipush (v := 6) dX6_count_13 (by decide) ?_
    refine x_isub dX6_count_15 ?_
    refine m_cVi1 ha rfl cv_X6_495 (Nat.le_of_ble_eq_true rfl) dX6_count_16 (c_refusals ha (by omega) h) (fun x129 s130 h => ?_)
    exact x_iret dX6_count_19 rfl ⟨_, _, h, rfl, rfl⟩
def w_drawn (x1 : Int32) (x2 : Int32) (s : mS) (Kr : Int32 → mS → Prop) : Prop :=
  (w_lies x1 0 ((mFd s 49) - 1) (fun x101 => ((x101 = 0 → (Kr (-1) s)) ∧ (¬ x101 = 0 → (w_lies x2 0 1 (fun x104 => ((¬ x104 = 0 → ((¬ x2 = 0 → (vp_in (0 + x1) 25 ∧ (Kr (mAt s 48 (0 + x1)) s))) ∧ (x2 = 0 → (vp_in (12 + x1) 25 ∧ (Kr (mAt s 48 (12 + x1)) s))))) ∧ (x104 = 0 → (Kr (-1) s)))))))))
theorem c_drawn {G : xG} {l : Launch} {a : Nat → Nat} {g : xH} (ha : mInj a) {d : Nat} (hd : 2 ≤ d) {x1 : Int32} {x2 : Int32} {s : mS} {Kr : Int32 → mS → Prop} (h : w_drawn x1 x2 s Kr) : xC G l kX6_drawn d 0 0 [.ref (a 51), .int x1, .int x2] (mH G a s g) (mQi G a g Kr) := by
  obtain ⟨d, rfl⟩ : ∃ z, d = z + 1 := ⟨d - 1, by omega⟩
  refine xC.start rfl (by decide +kernel) (Nat.le_of_ble_eq_true rfl) (lv := [some (.ref (a 51)), some (.int x1), some (.int x2)]) rfl ?_
  unfold w_drawn at h
  refine x_iload_1 dX6_drawn_0 ?_
  refine x_iconst (v := 0) dX6_drawn_1 (by decide) ?_
  refine x_aload_0 dX6_drawn_2 ?_
  refine m_get ha dX6_drawn_3 fa_X6_103 rfl ?_
  refine x_iconst (v := 1) dX6_drawn_6 (by decide) ?_
  refine x_isub dX6_drawn_7 ?_
  refine m_cSi3 rfl cs_X6_18 (Nat.le_of_ble_eq_true rfl) dX6_drawn_8 (c_lies (by omega) h) (fun x101 h => ?_)
  refine x_if_eq 23 dX6_drawn_11 (by decide) (fun c103 => ?_) (fun c103 => ?_)
  · have h := h.1 c103
    refine x_iconst (v := (-1)) dX6_drawn_23 (by decide) ?_
    exact x_iret dX6_drawn_24 rfl ⟨_, _, h, rfl, rfl⟩
  · have h := h.2 c103
    refine x_iload_2 dX6_drawn_14 ?_
    refine x_iconst (v := 0) dX6_drawn_15 (by decide) ?_
    refine x_iconst (v := 1) dX6_drawn_16 (by decide) ?_
    refine m_cSi3 rfl cs_X6_18 (Nat.le_of_ble_eq_true rfl) dX6_drawn_17 (c_lies (by omega) h) (fun x104 h => ?_)
    refine x_if_ne 25 dX6_drawn_20 (by decide) (fun c106 => ?_) (fun c106 => ?_)
    · have h := h.1 c106
      refine x_aload_0 dX6_drawn_25 ?_
      refine m_get ha dX6_drawn_26 fa_X6_100 rfl ?_
      refine x_iload_2 dX6_drawn_29 ?_
      refine x_if_ne 38 dX6_drawn_30 (by decide) (fun c107 => ?_) (fun c107 => ?_)
      · have h := h.1 c107
        refine x_iconst (v := 0) dX6_drawn_38 (by decide) ?_
        refine x_iload_1 dX6_drawn_39 ?_
        refine x_iadd dX6_drawn_40 ?_
        obtain ⟨e108, h⟩ := h
        refine m_iald (j := 48) ha dX6_drawn_41 (by decide) (by decide) e108 ?_
        exact x_iret dX6_drawn_42 rfl ⟨_, _, h, rfl, rfl⟩
      · have h := h.2 c107
        refine x_bipush (v := 12) dX6_drawn_33 (by decide) ?_
        refine x_goto 39 dX6_drawn_35 (by decide) ?_
        refine x_iload_1 dX6_drawn_39 ?_
        refine x_iadd dX6_drawn_40 ?_
        obtain ⟨e109, h⟩ := h
        refine m_iald (j := 48) ha dX6_drawn_41 (by decide) (by decide) e109 ?_
        exact x_iret dX6_drawn_42 rfl ⟨_, _, h, rfl, rfl⟩
    · have h := h.2 c106
      refine x_iconst (v := (-1)) dX6_drawn_23 (by decide) ?_
      exact x_iret dX6_drawn_24 rfl ⟨_, _, h, rfl, rfl⟩
def w_draws (x1 : Int32) (s : mS) (Kr : Int32 → mS → Prop) : Prop :=
  (∀ x101 : Int64, x101 = (1103 * ((mFd s 50 : Int32).toInt64)) + 12345 → (∀ s102 : mS, s102 = mF s 50 ((x101 - x101 / 1000003 * 1000003 : Int64).toInt32) → (∀ x103 : Int32, x103 = mFd s102 50 → (¬ x1 = 0 ∧ (Kr (x103 - x103 / x1 * x1) s102)))))
theorem c_draws {G : xG} {l : Launch} {a : Nat → Nat} {g : xH} (ha : mInj a) {d : Nat} (hd : 1 ≤ d) {x1 : Int32} {s : mS} {Kr : Int32 → mS → Prop} (h : w_draws x1 s Kr) : xC G l kX6_draws d 0 0 [.ref (a 51), .int x1] (mH G a s g) (mQi G a g Kr) := by
  obtain ⟨d, rfl⟩ : ∃ z, d = z + 1 := ⟨d - 1, by omega⟩
  refine xC.start rfl (by decide +kernel) (Nat.le_of_ble_eq_true rfl) (lv := [some (.ref (a 51)), some (.int x1)]) rfl ?_
  unfold w_draws at h
  refine x_aload_0 dX6_draws_0 ?_
  refine x_ldc2 dX6_draws_1 q2272 ?_
  refine x_aload_0 dX6_draws_4 ?_
  refine m_get ha dX6_draws_5 fa_X6_482 rfl ?_
  refine x_i2l dX6_draws_8 ?_
  refine x_lmul dX6_draws_9 ?_
  refine x_ldc2 dX6_draws_10 q2273 ?_
  refine x_ladd dX6_draws_13 ?_
  refine x_ldc2 dX6_draws_14 q2274 ?_
  have h := h _ rfl
  refine x_lrem dX6_draws_17 (by decide) ?_
  refine x_l2i dX6_draws_18 ?_
  refine m_put ha dX6_draws_19 fp_X6_482 (mfs_50 _ _ _) (by decide) rfl rfl ?_
  have h := h _ rfl
  refine x_aload_0 dX6_draws_22 ?_
  refine m_get ha dX6_draws_23 fa_X6_482 rfl ?_
  refine x_iload_1 dX6_draws_26 ?_
  have h := h _ rfl
  obtain ⟨e104, h⟩ := h
  refine x_irem dX6_draws_27 e104 ?_
  exact x_iret dX6_draws_28 rfl ⟨_, _, h, rfl, rfl⟩
def w_exchanges_2 (N : Nat × Nat) (Kr : mS → Prop) (K : mS → Prop) : Nat → Int32 → mS → Prop
  | 0, _, _ => False
  | t + 1, x1, s => (w_noteMany s (fun x101 s102 => ((x101 ≤ x1 → (K s102)) ∧ (¬ x101 ≤ x1 → (vp_in (0 + x1) 5652 ∧ (∀ x105 : Int32, x105 = mAt s102 2 (0 + x1) → (vp_in (12 + x1) 5652 ∧ (vp_in (0 + x1) 5652 ∧ (∀ s108 : mS, s108 = mI s102 2 (0 + x1) (mAt s102 2 (12 + x1)) → (vp_in (12 + x1) 5652 ∧ (∀ s110 : mS, s110 = mI s108 2 (12 + x1) x105 → (∀ x111 : Int32, x111 = x1 + 1 → ((fun x1 s => w_exchanges_2 N Kr K t x1 s) x111 s110)))))))))))))
theorem c_exchanges_2 {G : xG} {l : Launch} {a : Nat → Nat} {g : xH} (ha : mInj a) {d : Nat} {N : Nat × Nat} (hd : 1 ≤ d) (Kr : mS → Prop) (K : mS → Prop) : ∀ (t : Nat) (x1 : Int32) (s : mS) , w_exchanges_2 N Kr K t x1 s → (∀ (s : mS), K s → xF G l kX6_exchanges (d + 1) 0 0 (mQv G a g Kr) 52 [some (.ref (a 51)), none, none] [] (mH G a s g)) → xF G l kX6_exchanges (d + 1) 0 0 (mQv G a g Kr) 2 [some (.ref (a 51)), some (.int x1), none] [] (mH G a s g) := by
  intro t
  induction t with
  | zero =>
    intro _ _ h _
    exact absurd h (by simp [w_exchanges_2])
  | succ t ih =>
    intro x1 s h hK
    have hR := fun x1 s h => ih x1 s h hK
    unfold w_exchanges_2 at h
    refine x_iload_1 dX6_exchanges_2 ?_
    refine x_aload_0 dX6_exchanges_3 ?_
    refine m_cVi0 ha rfl cv_X6_112 (Nat.le_of_ble_eq_true rfl) dX6_exchanges_4 (c_noteMany ha (by omega) h) (fun x101 s102 h => ?_)
    refine x_icmp_ge 52 dX6_exchanges_7 (by decide) (fun c103 => ?_) (fun c103 => ?_)
    · have h := h.1 c103
      exact x_le (xLe_cons (xLe_none (xLe_cons (xLe_nil)))) (hK _ h)
    · have h := h.2 c103
      refine x_aload_0 dX6_exchanges_10 ?_
      refine m_get ha dX6_exchanges_11 fa_X6_28 rfl ?_
      refine x_iconst (v := 0) dX6_exchanges_14 (by decide) ?_
      refine x_iload_1 dX6_exchanges_15 ?_
      refine x_iadd dX6_exchanges_16 ?_
      obtain ⟨e104, h⟩ := h
      refine m_iald (j := 2) ha dX6_exchanges_17 (by decide) (by decide) e104 ?_
      refine x_istore_2 dX6_exchanges_18 (by decide) xN2_i ?_
      have h := h _ rfl
      refine x_aload_0 dX6_exchanges_19 ?_
      refine m_get ha dX6_exchanges_20 fa_X6_28 rfl ?_
      refine x_iconst (v := 0) dX6_exchanges_23 (by decide) ?_
      refine x_iload_1 dX6_exchanges_24 ?_
      refine x_iadd dX6_exchanges_25 ?_
      refine x_aload_0 dX6_exchanges_26 ?_
      refine m_get ha dX6_exchanges_27 fa_X6_28 rfl ?_
      refine x_bipush (v := 12) dX6_exchanges_30 (by decide) ?_
      refine x_iload_1 dX6_exchanges_32 ?_
      refine x_iadd dX6_exchanges_33 ?_
      obtain ⟨e106, h⟩ := h
      refine m_iald (j := 2) ha dX6_exchanges_34 (by decide) (by decide) e106 ?_
      obtain ⟨e107, h⟩ := h
      refine m_iast (j := 2) ha dX6_exchanges_35 (by decide) (by decide) e107 ?_
      have h := h _ rfl
      refine x_aload_0 dX6_exchanges_36 ?_
      refine m_get ha dX6_exchanges_37 fa_X6_28 rfl ?_
      refine x_bipush (v := 12) dX6_exchanges_40 (by decide) ?_
      refine x_iload_1 dX6_exchanges_42 ?_
      refine x_iadd dX6_exchanges_43 ?_
      refine x_iload_2 dX6_exchanges_44 ?_
      obtain ⟨e109, h⟩ := h
      refine m_iast (j := 2) ha dX6_exchanges_45 (by decide) (by decide) e109 ?_
      have h := h _ rfl
      refine x_iinc_1 (v := 1) dX6_exchanges_46 (by decide) (by decide) xN2_r ?_
      have h := h _ rfl
      refine x_goto 2 dX6_exchanges_49 (by decide) ?_
      exact x_le (xLe_cons (xLe_cons (xLe_none (xLe_nil)))) (hR _ _ h)
def w_exchanges (N : Nat × Nat) (s : mS) (Kr : mS → Prop) : Prop :=
  (w_exchanges_2 N Kr (fun s101 => (Kr s101)) N.1 0 s)
theorem c_exchanges {G : xG} {l : Launch} {a : Nat → Nat} {g : xH} (ha : mInj a) {d : Nat} {N : Nat × Nat} (hd : 2 ≤ d) {s : mS} {Kr : mS → Prop} (h : w_exchanges N s Kr) : xC G l kX6_exchanges d 0 0 [.ref (a 51)] (mH G a s g) (mQv G a g Kr) := by
  obtain ⟨d, rfl⟩ : ∃ z, d = z + 1 := ⟨d - 1, by omega⟩
  refine xC.start rfl (by decide +kernel) (Nat.le_of_ble_eq_true rfl) (lv := [some (.ref (a 51)), none, none]) rfl ?_
  unfold w_exchanges at h
  refine x_iconst (v := 0) dX6_exchanges_0 (by decide) ?_
  refine x_istore_1 dX6_exchanges_1 (by decide) xN2_r ?_
  refine x_le (xLe_cons (xLe_cons (xLe_cons (xLe_nil)))) (c_exchanges_2 ha (by omega) _ _ _ _ _ h (fun s101 h => ?_))
  exact x_vret dX6_exchanges_52 rfl ⟨_, h, rfl, rfl⟩
def w_drawnAct (N : Nat × Nat) (s : mS) (Kr : mS → Prop) : Prop :=
  (w_noteMany s (fun x101 s102 => (w_draws x101 s102 (fun x103 s104 => (w_draws 25 s104 (fun x105 s106 => (w_draws 4 s106 (fun x107 s108 => (∀ x109 : Int32, x109 = x107 → ((x109 = 2 → (vp_in (12 + x103) 5652 ∧ (∀ s112 : mS, s112 = mI s108 2 (12 + x103) x105 → (Kr s112)))) ∧ (x109 = 3 → (w_exchanges N s108 (fun s115 => (Kr s115)))) ∧ (¬ x109 = 2 → ¬ x109 = 3 → (vp_in (0 + x103) 5652 ∧ (∀ s117 : mS, s117 = mI s108 2 (0 + x103) x105 → (Kr s117))))))))))))))
theorem c_drawnAct {G : xG} {l : Launch} {a : Nat → Nat} {g : xH} (ha : mInj a) {d : Nat} {N : Nat × Nat} (hd : 3 ≤ d) {s : mS} {Kr : mS → Prop} (h : w_drawnAct N s Kr) : xC G l kX6_drawnAct d 0 0 [.ref (a 51)] (mH G a s g) (mQv G a g Kr) := by
  obtain ⟨d, rfl⟩ : ∃ z, d = z + 1 := ⟨d - 1, by omega⟩
  refine xC.start rfl (by decide +kernel) (Nat.le_of_ble_eq_true rfl) (lv := [some (.ref (a 51)), none, none, none]) rfl ?_
  unfold w_drawnAct at h
  refine x_aload_0 dX6_drawnAct_0 ?_
  refine x_aload_0 dX6_drawnAct_1 ?_
  refine m_cVi0 ha rfl cv_X6_112 (Nat.le_of_ble_eq_true rfl) dX6_drawnAct_2 (c_noteMany ha (by omega) h) (fun x101 s102 h => ?_)
  refine m_cVi1 ha rfl cv_X6_489 (Nat.le_of_ble_eq_true rfl) dX6_drawnAct_5 (c_draws ha (by omega) h) (fun x103 s104 h => ?_)
  refine x_istore_1 dX6_drawnAct_8 (by decide) xN2_r ?_
  refine x_aload_0 dX6_drawnAct_9 ?_
  refine x_bipush (v := 25) dX6_drawnAct_10 (by decide) ?_
  refine m_cVi1 ha rfl cv_X6_489 (Nat.le_of_ble_eq_true rfl) dX6_drawnAct_12 (c_draws ha (by omega) h) (fun x105 s106 h => ?_)
  refine x_istore_2 dX6_drawnAct_15 (by decide) xN2_i ?_
  refine x_aload_0 dX6_drawnAct_16 ?_
  refine x_iconst (v := 4) dX6_drawnAct_17 (by decide) ?_
  refine m_cVi1 ha rfl cv_X6_489 (Nat.le_of_ble_eq_true rfl) dX6_drawnAct_18 (c_draws ha (by omega) h) (fun x107 s108 h => ?_)
  refine x_istore_3 dX6_drawnAct_21 (by decide) xN2_i ?_
  refine x_iload_3 dX6_drawnAct_22 ?_
  refine x_topi (fun x109 ex109 => ?_)
  have h := h x109 ex109
  by_cases c110 : x109 = 2
  · have h := h.1 c110
    refine x_cast rfl rfl (by rw [c110]) ?_
    refine x_lookup 48 dX6_drawnAct_23 (by decide) (off := 25) (by decide) (by decide) ?_
    refine x_aload_0 dX6_drawnAct_48 ?_
    refine m_get ha dX6_drawnAct_49 fa_X6_28 rfl ?_
    refine x_bipush (v := 12) dX6_drawnAct_52 (by decide) ?_
    refine x_iload_1 dX6_drawnAct_54 ?_
    refine x_iadd dX6_drawnAct_55 ?_
    refine x_iload_2 dX6_drawnAct_56 ?_
    obtain ⟨e111, h⟩ := h
    refine m_iast (j := 2) ha dX6_drawnAct_57 (by decide) (by decide) e111 ?_
    have h := h _ rfl
    refine x_goto 77 dX6_drawnAct_58 (by decide) ?_
    exact x_vret dX6_drawnAct_77 rfl ⟨_, h, rfl, rfl⟩
  by_cases c113 : x109 = 3
  · have h := h.2.1 c113
    refine x_cast rfl rfl (by rw [c113]) ?_
    refine x_lookup 61 dX6_drawnAct_23 (by decide) (off := 38) (by decide) (by decide) ?_
    refine x_aload_0 dX6_drawnAct_61 ?_
    refine m_cVv0 ha rfl cv_X6_338 (Nat.le_of_ble_eq_true rfl) dX6_drawnAct_62 (c_exchanges ha (by omega) h) (fun s115 h => ?_)
    refine x_goto 77 dX6_drawnAct_65 (by decide) ?_
    exact x_vret dX6_drawnAct_77 rfl ⟨_, h, rfl, rfl⟩
  have h := h.2.2 c110 c113
  have z0 := xti (v := 2) (z := 2) (by decide) c110
  have z1 := xti (v := 3) (z := 3) (by decide) c113
  refine x_lookup 68 dX6_drawnAct_23 (by decide) (off := 45) (by simp [Op.lookupswitch.offset, z0, Ne.symm z0, z1, Ne.symm z1]) (by decide) ?_
  refine x_aload_0 dX6_drawnAct_68 ?_
  refine m_get ha dX6_drawnAct_69 fa_X6_28 rfl ?_
  refine x_iconst (v := 0) dX6_drawnAct_72 (by decide) ?_
  refine x_iload_1 dX6_drawnAct_73 ?_
  refine x_iadd dX6_drawnAct_74 ?_
  refine x_iload_2 dX6_drawnAct_75 ?_
  obtain ⟨e116, h⟩ := h
  refine m_iast (j := 2) ha dX6_drawnAct_76 (by decide) (by decide) e116 ?_
  have h := h _ rfl
  exact x_vret dX6_drawnAct_77 rfl ⟨_, h, rfl, rfl⟩
def w_end (x1 : Int32) (s : mS) (Kr : Int32 → mS → Prop) : Prop :=
  (w_lies x1 0 (mFd s 13) (fun x101 => ((¬ x101 = 0 → (∀ s104 : mS, s104 = mF s 13 x1 → (Kr x1 s104))) ∧ (x101 = 0 → (Kr (-1) s)))))
theorem c_end {G : xG} {l : Launch} {a : Nat → Nat} {g : xH} (ha : mInj a) {d : Nat} (hd : 2 ≤ d) {x1 : Int32} {s : mS} {Kr : Int32 → mS → Prop} (h : w_end x1 s Kr) : xC G l kX6_end d 0 0 [.ref (a 51), .int x1] (mH G a s g) (mQi G a g Kr) := by
  obtain ⟨d, rfl⟩ : ∃ z, d = z + 1 := ⟨d - 1, by omega⟩
  refine xC.start rfl (by decide +kernel) (Nat.le_of_ble_eq_true rfl) (lv := [some (.ref (a 51)), some (.int x1)]) rfl ?_
  unfold w_end at h
  refine x_iload_1 dX6_end_0 ?_
  refine x_iconst (v := 0) dX6_end_1 (by decide) ?_
  refine x_aload_0 dX6_end_2 ?_
  refine m_get ha dX6_end_3 fa_X6_154 rfl ?_
  refine m_cSi3 rfl cs_X6_18 (Nat.le_of_ble_eq_true rfl) dX6_end_6 (c_lies (by omega) h) (fun x101 h => ?_)
  refine x_if_ne 14 dX6_end_9 (by decide) (fun c103 => ?_) (fun c103 => ?_)
  · have h := h.1 c103
    refine x_aload_0 dX6_end_14 ?_
    refine x_iload_1 dX6_end_15 ?_
    refine m_put ha dX6_end_16 fp_X6_154 (mfs_13 _ _ _) (by decide) rfl rfl ?_
    have h := h _ rfl
    refine x_iload_1 dX6_end_19 ?_
    exact x_iret dX6_end_20 rfl ⟨_, _, h, rfl, rfl⟩
  · have h := h.2 c103
    refine x_iconst (v := (-1)) dX6_end_12 (by decide) ?_
    exact x_iret dX6_end_13 rfl ⟨_, _, h, rfl, rfl⟩
def w_fault (s : mS) (Kr : Int32 → mS → Prop) : Prop :=
  (Kr (mFd s 14) s)
theorem c_fault {G : xG} {l : Launch} {a : Nat → Nat} {g : xH} (ha : mInj a) {d : Nat} (hd : 1 ≤ d) {s : mS} {Kr : Int32 → mS → Prop} (h : w_fault s Kr) : xC G l kX6_fault d 0 0 [.ref (a 51)] (mH G a s g) (mQi G a g Kr) := by
  obtain ⟨d, rfl⟩ : ∃ z, d = z + 1 := ⟨d - 1, by omega⟩
  refine xC.start rfl (by decide +kernel) (Nat.le_of_ble_eq_true rfl) (lv := [some (.ref (a 51))]) rfl ?_
  unfold w_fault at h
  refine x_aload_0 dX6_fault_0 ?_
  refine m_get ha dX6_fault_1 fa_X6_51 rfl ?_
  exact x_iret dX6_fault_4 rfl ⟨_, _, h, rfl, rfl⟩
def w_fine (s : mS) (Kr : Int32 → mS → Prop) : Prop :=
  ((¬ (mFd s 21) = (-1) → (Kr 0 s)) ∧ ((mFd s 21) = (-1) → (Kr 1 s)))
theorem c_fine {G : xG} {l : Launch} {a : Nat → Nat} {g : xH} (ha : mInj a) {d : Nat} (hd : 1 ≤ d) {s : mS} {Kr : Int32 → mS → Prop} (h : w_fine s Kr) : xC G l kX6_fine d 0 0 [.ref (a 51)] (mH G a s g) (mQi G a g Kr) := by
  obtain ⟨d, rfl⟩ : ∃ z, d = z + 1 := ⟨d - 1, by omega⟩
  refine xC.start rfl (by decide +kernel) (Nat.le_of_ble_eq_true rfl) (lv := [some (.ref (a 51))]) rfl ?_
  unfold w_fine at h
  refine x_aload_0 dX6_fine_0 ?_
  refine m_get ha dX6_fine_1 fa_X6_174 rfl ?_
  refine x_iconst (v := (-1)) dX6_fine_4 (by decide) ?_
  refine x_icmp_ne 12 dX6_fine_5 (by decide) (fun c101 => ?_) (fun c101 => ?_)
  · have h := h.1 c101
    refine x_iconst (v := 0) dX6_fine_12 (by decide) ?_
    exact x_zret0 dX6_fine_13 rfl ⟨_, _, h, rfl, rfl⟩
  · have h := h.2 c101
    refine x_iconst (v := 1) dX6_fine_8 (by decide) ?_
    refine x_goto 13 dX6_fine_9 (by decide) ?_
    exact x_zret1 dX6_fine_13 rfl ⟨_, _, h, rfl, rfl⟩
def w_faults (s : mS) (Kr : mS → Prop) : Prop :=
  (w_fine s (fun x101 s102 => ((x101 = 0 → (Kr s102)) ∧ (¬ x101 = 0 → (vp_in (mFd s102 19) 401 ∧ (∀ s105 : mS, s105 = mF s102 21 (mAt s102 17 (mFd s102 19)) → (Kr s105)))))))
theorem c_faults {G : xG} {l : Launch} {a : Nat → Nat} {g : xH} (ha : mInj a) {d : Nat} (hd : 2 ≤ d) {s : mS} {Kr : mS → Prop} (h : w_faults s Kr) : xC G l kX6_faults d 0 0 [.ref (a 51)] (mH G a s g) (mQv G a g Kr) := by
  obtain ⟨d, rfl⟩ : ∃ z, d = z + 1 := ⟨d - 1, by omega⟩
  refine xC.start rfl (by decide +kernel) (Nat.le_of_ble_eq_true rfl) (lv := [some (.ref (a 51))]) rfl ?_
  unfold w_faults at h
  refine x_aload_0 dX6_faults_0 ?_
  refine m_cVi0 ha rfl cv_X6_177 (Nat.le_of_ble_eq_true rfl) dX6_faults_1 (c_fine ha (by omega) h) (fun x101 s102 h => ?_)
  refine x_if_eq 20 dX6_faults_4 (by decide) (fun c103 => ?_) (fun c103 => ?_)
  · have h := h.1 c103
    exact x_vret dX6_faults_20 rfl ⟨_, h, rfl, rfl⟩
  · have h := h.2 c103
    refine x_aload_0 dX6_faults_7 ?_
    refine x_aload_0 dX6_faults_8 ?_
    refine m_get ha dX6_faults_9 fa_X6_60 rfl ?_
    refine x_aload_0 dX6_faults_12 ?_
    refine m_get ha dX6_faults_13 fa_X6_180 rfl ?_
    obtain ⟨e104, h⟩ := h
    refine m_iald (j := 17) ha dX6_faults_16 (by decide) (by decide) e104 ?_
    refine m_put ha dX6_faults_17 fp_X6_174 (mfs_21 _ _ _) (by decide) rfl rfl ?_
    have h := h _ rfl
    exact x_vret dX6_faults_20 rfl ⟨_, h, rfl, rfl⟩
def w_feed_55 (N : Nat × Nat) (Kr : Int32 → mS → Prop) (K : mS → Prop) : Nat → Int32 → mS → Prop
  | 0, _, _ => False
  | t + 1, x6, s => ((20 ≤ x6 → (K s)) ∧ (¬ 20 ≤ x6 → (vp_in (x6 / 4) 5 ∧ (vp_in ((mFd s 13) + x6) 400 ∧ (∀ s104 : mS, s104 = mI s 11 ((mFd s 13) + x6) (vp_nar .byte (((mAt s 12 (x6 / 4)) >>> ((24 - (8 * (x6 - x6 / 4 * 4))) &&& 31) : Int32).toInt8.toInt32)) → (∀ x105 : Int32, x105 = x6 + 1 → ((fun x6 s => w_feed_55 N Kr K t x6 s) x105 s104)))))))
theorem c_feed_55 {G : xG} {l : Launch} {a : Nat → Nat} {g : xH} (ha : mInj a) {d : Nat} {N : Nat × Nat} (hd : 0 ≤ d) (Kr : Int32 → mS → Prop) (K : mS → Prop) : ∀ (t : Nat) (x6 : Int32) (s : mS) , w_feed_55 N Kr K t x6 s → (∀ (s : mS), K s → xF G l kX6_feed (d + 1) 0 0 (mQi G a g Kr) 101 [some (.ref (a 51)), none, none, none, none, none, none] [] (mH G a s g)) → xF G l kX6_feed (d + 1) 0 0 (mQi G a g Kr) 55 [some (.ref (a 51)), none, none, none, none, none, some (.int x6)] [] (mH G a s g) := by
  intro t
  induction t with
  | zero =>
    intro _ _ h _
    exact absurd h (by simp [w_feed_55])
  | succ t ih =>
    intro x6 s h hK
    have hR := fun x6 s h => ih x6 s h hK
    unfold w_feed_55 at h
    refine x_iload_6 dX6_feed_55 ?_
    refine x_bipush (v := 20) dX6_feed_57 (by decide) ?_
    refine x_icmp_ge 101 dX6_feed_59 (by decide) (fun c101 => ?_) (fun c101 => ?_)
    · have h := h.1 c101
      exact x_le (xLe_cons (xLe_cons (xLe_cons (xLe_cons (xLe_cons (xLe_cons (xLe_none (xLe_nil)))))))) (hK _ h)
    · have h := h.2 c101
      refine x_aload_0 dX6_feed_62 ?_
      refine m_get ha dX6_feed_63 fa_X6_45 rfl ?_
      refine x_aload_0 dX6_feed_66 ?_
      refine m_get ha dX6_feed_67 fa_X6_154 rfl ?_
      refine x_iload_6 dX6_feed_70 ?_
      refine x_iadd dX6_feed_72 ?_
      refine x_aload_0 dX6_feed_73 ?_
      refine m_get ha dX6_feed_74 fa_X6_48 rfl ?_
      refine x_iload_6 dX6_feed_77 ?_
      refine x_iconst (v := 4) dX6_feed_79 (by decide) ?_
      refine x_idiv dX6_feed_80 (by decide) ?_
      obtain ⟨e102, h⟩ := h
      refine m_iald (j := 12) ha dX6_feed_81 (by decide) (by decide) e102 ?_
      refine x_bipush (v := 24) dX6_feed_82 (by decide) ?_
      refine x_bipush (v := 8) dX6_feed_84 (by decide) ?_
      refine x_iload_6 dX6_feed_86 ?_
      refine x_iconst (v := 4) dX6_feed_88 (by decide) ?_
      refine x_irem dX6_feed_89 (by decide) ?_
      refine x_imul dX6_feed_90 ?_
      refine x_isub dX6_feed_91 ?_
      refine x_ishr dX6_feed_92 ?_
      refine x_i2b dX6_feed_93 ?_
      obtain ⟨e103, h⟩ := h
      refine m_bast (j := 11) ha dX6_feed_94 (by decide) (by decide) e103 ?_
      have h := h _ rfl
      refine x_iinc_6 (v := 1) dX6_feed_95 (by decide) (by decide) xN2_none ?_
      have h := h _ rfl
      refine x_goto 55 dX6_feed_98 (by decide) ?_
      exact x_le (xLe_cons (xLe_cons (xLe_cons (xLe_cons (xLe_cons (xLe_cons (xLe_cons (xLe_nil)))))))) (hR _ _ h)
def w_feed (N : Nat × Nat) (x1 : Int32) (x2 : Int32) (x3 : Int32) (x4 : Int32) (x5 : Int32) (s : mS) (Kr : Int32 → mS → Prop) : Prop :=
  ((((mFd s 13) + 20) ≤ 400 → (vp_in 0 5 ∧ (∀ s103 : mS, s103 = mI s 12 0 x1 → (vp_in 1 5 ∧ (∀ s105 : mS, s105 = mI s103 12 1 x2 → (vp_in 2 5 ∧ (∀ s107 : mS, s107 = mI s105 12 2 x3 → (vp_in 3 5 ∧ (∀ s109 : mS, s109 = mI s107 12 3 x4 → (vp_in 4 5 ∧ (∀ s111 : mS, s111 = mI s109 12 4 x5 → (w_feed_55 N Kr (fun s112 => (∀ s113 : mS, s113 = mF s112 13 ((mFd s112 13) + 20) → (Kr (mFd s113 13) s113))) N.1 0 s111)))))))))))) ∧ (¬ ((mFd s 13) + 20) ≤ 400 → (Kr (-1) s)))
theorem c_feed {G : xG} {l : Launch} {a : Nat → Nat} {g : xH} (ha : mInj a) {d : Nat} {N : Nat × Nat} (hd : 1 ≤ d) {x1 : Int32} {x2 : Int32} {x3 : Int32} {x4 : Int32} {x5 : Int32} {s : mS} {Kr : Int32 → mS → Prop} (h : w_feed N x1 x2 x3 x4 x5 s Kr) : xC G l kX6_feed d 0 0 [.ref (a 51), .int x1, .int x2, .int x3, .int x4, .int x5] (mH G a s g) (mQi G a g Kr) := by
  obtain ⟨d, rfl⟩ : ∃ z, d = z + 1 := ⟨d - 1, by omega⟩
  refine xC.start rfl (by decide +kernel) (Nat.le_of_ble_eq_true rfl) (lv := [some (.ref (a 51)), some (.int x1), some (.int x2), some (.int x3), some (.int x4), some (.int x5), none]) rfl ?_
  unfold w_feed at h
  refine x_aload_0 dX6_feed_0 ?_
  refine m_get ha dX6_feed_1 fa_X6_154 rfl ?_
  refine x_bipush (v := 20) dX6_feed_4 (by decide) ?_
  refine x_iadd dX6_feed_6 ?_
  refine x_sipush (v := 400) dX6_feed_7 (by decide) ?_
  refine x_icmp_le 15 dX6_feed_10 (by decide) (fun c101 => ?_) (fun c101 => ?_)
  · have h := h.1 c101
    refine x_aload_0 dX6_feed_15 ?_
    refine m_get ha dX6_feed_16 fa_X6_48 rfl ?_
    refine x_iconst (v := 0) dX6_feed_19 (by decide) ?_
    refine x_iload_1 dX6_feed_20 ?_
    obtain ⟨e102, h⟩ := h
    refine m_iast (j := 12) ha dX6_feed_21 (by decide) (by decide) e102 ?_
    have h := h _ rfl
    refine x_aload_0 dX6_feed_22 ?_
    refine m_get ha dX6_feed_23 fa_X6_48 rfl ?_
    refine x_iconst (v := 1) dX6_feed_26 (by decide) ?_
    refine x_iload_2 dX6_feed_27 ?_
    obtain ⟨e104, h⟩ := h
    refine m_iast (j := 12) ha dX6_feed_28 (by decide) (by decide) e104 ?_
    have h := h _ rfl
    refine x_aload_0 dX6_feed_29 ?_
    refine m_get ha dX6_feed_30 fa_X6_48 rfl ?_
    refine x_iconst (v := 2) dX6_feed_33 (by decide) ?_
    refine x_iload_3 dX6_feed_34 ?_
    obtain ⟨e106, h⟩ := h
    refine m_iast (j := 12) ha dX6_feed_35 (by decide) (by decide) e106 ?_
    have h := h _ rfl
    refine x_aload_0 dX6_feed_36 ?_
    refine m_get ha dX6_feed_37 fa_X6_48 rfl ?_
    refine x_iconst (v := 3) dX6_feed_40 (by decide) ?_
    refine x_iload_4 dX6_feed_41 ?_
    obtain ⟨e108, h⟩ := h
    refine m_iast (j := 12) ha dX6_feed_43 (by decide) (by decide) e108 ?_
    have h := h _ rfl
    refine x_aload_0 dX6_feed_44 ?_
    refine m_get ha dX6_feed_45 fa_X6_48 rfl ?_
    refine x_iconst (v := 4) dX6_feed_48 (by decide) ?_
    refine x_iload_5 dX6_feed_49 ?_
    obtain ⟨e110, h⟩ := h
    refine m_iast (j := 12) ha dX6_feed_51 (by decide) (by decide) e110 ?_
    have h := h _ rfl
    refine x_iconst (v := 0) dX6_feed_52 (by decide) ?_
    refine x_istore_6 dX6_feed_53 (by decide) xN2_i ?_
    refine x_le (xLe_cons (xLe_none (xLe_none (xLe_none (xLe_none (xLe_none (xLe_cons (xLe_nil)))))))) (c_feed_55 ha (by omega) _ _ _ _ _ h (fun s112 h => ?_))
    refine x_aload_0 dX6_feed_101 ?_
    refine x_dup dX6_feed_102 rfl ?_
    refine m_get ha dX6_feed_103 fa_X6_154 rfl ?_
    refine x_bipush (v := 20) dX6_feed_106 (by decide) ?_
    refine x_iadd dX6_feed_108 ?_
    refine m_put ha dX6_feed_109 fp_X6_154 (mfs_13 _ _ _) (by decide) rfl rfl ?_
    have h := h _ rfl
    refine x_aload_0 dX6_feed_112 ?_
    refine m_get ha dX6_feed_113 fa_X6_154 rfl ?_
    exact x_iret dX6_feed_116 rfl ⟨_, _, h, rfl, rfl⟩
  · have h := h.2 c101
    refine x_iconst (v := (-1)) dX6_feed_13 (by decide) ?_
    exact x_iret dX6_feed_14 rfl ⟨_, _, h, rfl, rfl⟩
def w_few_151 (N : Nat × Nat) (x1 : Int32) (Kr : Int64 → mS → Prop) (K : Int64 → mS → Prop) : Nat → Int64 → Int32 → mS → Prop
  | 0, _, _, _ => False
  | t + 1, x3, x5, s => ((x1 ≤ x5 → (K x3 s)) ∧ (¬ x1 ≤ x5 → (vp_in x5 21 ∧ (∀ x103 : Int64, x103 = x3 + (mLt s 40 x5) → (∀ x104 : Int32, x104 = x5 + 1 → ((fun x3 x5 s => w_few_151 N x1 Kr K t x3 x5 s) x103 x104 s))))))
theorem c_few_151 {G : xG} {l : Launch} {a : Nat → Nat} {g : xH} (ha : mInj a) {d : Nat} {N : Nat × Nat} (hd : 1 ≤ d) (Kr : Int64 → mS → Prop) (K : Int64 → mS → Prop) (x1 : Int32) : ∀ (t : Nat) (x3 : Int64) (x5 : Int32) (s : mS) , w_few_151 N x1 Kr K t x3 x5 s → (∀ (z3 : Int64) (s : mS), K z3 s → xF G l kX6_few (d + 1) 0 0 (mQl G a g Kr) 173 [some (.ref (a 51)), none, none, some (.long z3), none, none] [] (mH G a s g)) → xF G l kX6_few (d + 1) 0 0 (mQl G a g Kr) 151 [some (.ref (a 51)), some (.int x1), none, some (.long x3), none, some (.int x5)] [] (mH G a s g) := by
  intro t
  induction t with
  | zero =>
    intro _ _ _ h _
    exact absurd h (by simp [w_few_151])
  | succ t ih =>
    intro x3 x5 s h hK
    have hR := fun x3 x5 s h => ih x3 x5 s h hK
    unfold w_few_151 at h
    refine x_iload_5 dX6_few_151 ?_
    refine x_iload_1 dX6_few_153 ?_
    refine x_icmp_ge 173 dX6_few_154 (by decide) (fun c101 => ?_) (fun c101 => ?_)
    · have h := h.1 c101
      exact x_le (xLe_cons (xLe_none (xLe_cons (xLe_cons (xLe_cons (xLe_none (xLe_nil))))))) (hK _ _ h)
    · have h := h.2 c101
      refine x_lload_3 dX6_few_157 ?_
      refine x_aload_0 dX6_few_158 ?_
      refine m_get ha dX6_few_159 fa_X6_91 rfl ?_
      refine x_iload_5 dX6_few_162 ?_
      obtain ⟨e102, h⟩ := h
      refine m_lald (j := 40) ha dX6_few_164 (by decide) (by decide) e102 ?_
      refine x_ladd dX6_few_165 ?_
      refine x_lstore_3 dX6_few_166 (by decide) xN2_none ?_
      have h := h _ rfl
      refine x_iinc_5 (v := 1) dX6_few_167 (by decide) (by decide) xN2_none ?_
      have h := h _ rfl
      refine x_goto 151 dX6_few_170 (by decide) ?_
      exact x_le (xLe_cons (xLe_cons (xLe_cons (xLe_cons (xLe_cons (xLe_cons (xLe_nil))))))) (hR _ _ _ h)
def w_few_67 (N : Nat × Nat) (x1 : Int32) (x2 : Int32) (x3 : Int32) (Kr : Int64 → mS → Prop) (K : mS → Prop) : Nat → Int32 → mS → Prop
  | 0, _, _ => False
  | t + 1, x4, s => ((x4 < 0 → (K s)) ∧ (¬ x4 < 0 → (∀ x102 : Int32, x102 = x4 + 1 → (vp_in x102 21 ∧ (vp_in x4 21 ∧ (vp_in 37 5652 ∧ (∀ x106 : Int64, x106 = (mLt s 40 x4) * ((mAt s 2 37 : Int32).toInt64) → (vp_in x102 21 ∧ (∀ s108 : mS, s108 = mL s 40 x102 ((mLt s 40 x102) + (x106 / 10)) → (vp_in x4 21 ∧ (vp_in 37 5652 ∧ (∀ x111 : Int64, x111 = (mLt s108 40 x4) * ((10 - (mAt s108 2 37) : Int32).toInt64) → (vp_in x4 21 ∧ (∀ s113 : mS, s113 = mL s108 40 x4 (x111 / 10) → (∀ x114 : Int32, x114 = x4 + (-1) → ((fun x4 s => w_few_67 N x1 x2 x3 Kr K t x4 s) x114 s113))))))))))))))))
theorem c_few_67 {G : xG} {l : Launch} {a : Nat → Nat} {g : xH} (ha : mInj a) {d : Nat} {N : Nat × Nat} (hd : 1 ≤ d) (Kr : Int64 → mS → Prop) (K : mS → Prop) (x1 : Int32) (x2 : Int32) (x3 : Int32) : ∀ (t : Nat) (x4 : Int32) (s : mS) , w_few_67 N x1 x2 x3 Kr K t x4 s → (∀ (s : mS), K s → xF G l kX6_few (d + 1) 0 0 (mQl G a g Kr) 140 [some (.ref (a 51)), some (.int x1), some (.int x2), some (.int x3), none, none] [] (mH G a s g)) → xF G l kX6_few (d + 1) 0 0 (mQl G a g Kr) 67 [some (.ref (a 51)), some (.int x1), some (.int x2), some (.int x3), some (.int x4), none] [] (mH G a s g) := by
  intro t
  induction t with
  | zero =>
    intro _ _ h _
    exact absurd h (by simp [w_few_67])
  | succ t ih =>
    intro x4 s h hK
    have hR := fun x4 s h => ih x4 s h hK
    unfold w_few_67 at h
    refine x_iload_4 dX6_few_67 ?_
    refine x_if_lt 140 dX6_few_69 (by decide) (fun c101 => ?_) (fun c101 => ?_)
    · have h := h.1 c101
      exact x_le (xLe_cons (xLe_cons (xLe_cons (xLe_cons (xLe_none (xLe_cons (xLe_nil))))))) (hK _ h)
    · have h := h.2 c101
      refine x_aload_0 dX6_few_72 ?_
      refine m_get ha dX6_few_73 fa_X6_91 rfl ?_
      refine x_iload_4 dX6_few_76 ?_
      refine x_iconst (v := 1) dX6_few_78 (by decide) ?_
      refine x_iadd dX6_few_79 ?_
      refine x_dup2 dX6_few_80 rfl rfl ?_
      have h := h _ rfl
      obtain ⟨e103, h⟩ := h
      refine m_lald (j := 40) ha dX6_few_81 (by decide) (by decide) e103 ?_
      refine x_aload_0 dX6_few_82 ?_
      refine m_get ha dX6_few_83 fa_X6_91 rfl ?_
      refine x_iload_4 dX6_few_86 ?_
      obtain ⟨e104, h⟩ := h
      refine m_lald (j := 40) ha dX6_few_88 (by decide) (by decide) e104 ?_
      refine x_aload_0 dX6_few_89 ?_
      refine m_get ha dX6_few_90 fa_X6_28 rfl ?_
      refine x_bipush (v := 37) dX6_few_93 (by decide) ?_
      obtain ⟨e105, h⟩ := h
      refine m_iald (j := 2) ha dX6_few_95 (by decide) (by decide) e105 ?_
      refine x_i2l dX6_few_96 ?_
      refine x_lmul dX6_few_97 ?_
      refine x_ldc2 dX6_few_98 q2227 ?_
      have h := h _ rfl
      refine x_ldiv dX6_few_101 (by decide) ?_
      refine x_ladd dX6_few_102 ?_
      obtain ⟨e107, h⟩ := h
      refine m_last (j := 40) ha dX6_few_103 (by decide) (by decide) e107 ?_
      have h := h _ rfl
      refine x_aload_0 dX6_few_104 ?_
      refine m_get ha dX6_few_105 fa_X6_91 rfl ?_
      refine x_iload_4 dX6_few_108 ?_
      refine x_aload_0 dX6_few_110 ?_
      refine m_get ha dX6_few_111 fa_X6_91 rfl ?_
      refine x_iload_4 dX6_few_114 ?_
      obtain ⟨e109, h⟩ := h
      refine m_lald (j := 40) ha dX6_few_116 (by decide) (by decide) e109 ?_
      refine x_bipush (v := 10) dX6_few_117 (by decide) ?_
      refine x_aload_0 dX6_few_119 ?_
      refine m_get ha dX6_few_120 fa_X6_28 rfl ?_
      refine x_bipush (v := 37) dX6_few_123 (by decide) ?_
      obtain ⟨e110, h⟩ := h
      refine m_iald (j := 2) ha dX6_few_125 (by decide) (by decide) e110 ?_
      refine x_isub dX6_few_126 ?_
      refine x_i2l dX6_few_127 ?_
      refine x_lmul dX6_few_128 ?_
      refine x_ldc2 dX6_few_129 q2227 ?_
      have h := h _ rfl
      refine x_ldiv dX6_few_132 (by decide) ?_
      obtain ⟨e112, h⟩ := h
      refine m_last (j := 40) ha dX6_few_133 (by decide) (by decide) e112 ?_
      have h := h _ rfl
      refine x_iinc_4 (v := (-1)) dX6_few_134 (by decide) (by decide) xN2_i ?_
      have h := h _ rfl
      refine x_goto 67 dX6_few_137 (by decide) ?_
      exact x_le (xLe_cons (xLe_cons (xLe_cons (xLe_cons (xLe_cons (xLe_cons (xLe_nil))))))) (hR _ _ h)
def w_few_57 (N : Nat × Nat) (x1 : Int32) (x2 : Int32) (Kr : Int64 → mS → Prop) (K : mS → Prop) : Nat → Int32 → mS → Prop
  | 0, _, _ => False
  | t + 1, x3, s => ((x2 ≤ x3 → (K s)) ∧ (¬ x2 ≤ x3 → (∀ x102 : Int32, x102 = x1 - 1 → (w_few_67 N x1 x2 x3 Kr (fun s103 => (∀ x104 : Int32, x104 = x3 + 1 → ((fun x3 s => w_few_57 N x1 x2 Kr K t x3 s) x104 s103))) N.1 x102 s))))
theorem c_few_57 {G : xG} {l : Launch} {a : Nat → Nat} {g : xH} (ha : mInj a) {d : Nat} {N : Nat × Nat} (hd : 1 ≤ d) (Kr : Int64 → mS → Prop) (K : mS → Prop) (x1 : Int32) (x2 : Int32) : ∀ (t : Nat) (x3 : Int32) (s : mS) , w_few_57 N x1 x2 Kr K t x3 s → (∀ (s : mS), K s → xF G l kX6_few (d + 1) 0 0 (mQl G a g Kr) 146 [some (.ref (a 51)), some (.int x1), none, none, none, none] [] (mH G a s g)) → xF G l kX6_few (d + 1) 0 0 (mQl G a g Kr) 57 [some (.ref (a 51)), some (.int x1), some (.int x2), some (.int x3), none, none] [] (mH G a s g) := by
  intro t
  induction t with
  | zero =>
    intro _ _ h _
    exact absurd h (by simp [w_few_57])
  | succ t ih =>
    intro x3 s h hK
    have hR := fun x3 s h => ih x3 s h hK
    unfold w_few_57 at h
    refine x_iload_3 dX6_few_57 ?_
    refine x_iload_2 dX6_few_58 ?_
    refine x_icmp_ge 146 dX6_few_59 (by decide) (fun c101 => ?_) (fun c101 => ?_)
    · have h := h.1 c101
      exact x_le (xLe_cons (xLe_cons (xLe_none (xLe_none (xLe_cons (xLe_cons (xLe_nil))))))) (hK _ h)
    · have h := h.2 c101
      refine x_iload_1 dX6_few_62 ?_
      refine x_iconst (v := 1) dX6_few_63 (by decide) ?_
      refine x_isub dX6_few_64 ?_
      refine x_istore_4 dX6_few_65 (by decide) xN2_i ?_
      have h := h _ rfl
      refine x_le (xLe_cons (xLe_cons (xLe_cons (xLe_cons (xLe_cons (xLe_cons (xLe_nil))))))) (c_few_67 ha (by omega) _ _ _ _ _ _ _ _ h (fun s103 h => ?_))
      refine x_iinc_3 (v := 1) dX6_few_140 (by decide) (by decide) xN2_i ?_
      have h := h _ rfl
      refine x_goto 57 dX6_few_143 (by decide) ?_
      exact x_le (xLe_cons (xLe_cons (xLe_cons (xLe_cons (xLe_cons (xLe_cons (xLe_nil))))))) (hR _ _ h)
def w_few_26 (N : Nat × Nat) (x1 : Int32) (x2 : Int32) (Kr : Int64 → mS → Prop) (K : mS → Prop) : Nat → Int32 → mS → Prop
  | 0, _, _ => False
  | t + 1, x3, s => ((20 < x3 → (K s)) ∧ (¬ 20 < x3 → ((¬ x3 = 0 → (vp_in x3 21 ∧ (∀ s104 : mS, s104 = mL s 40 x3 0 → (∀ x105 : Int32, x105 = x3 + 1 → ((fun x3 s => w_few_26 N x1 x2 Kr K t x3 s) x105 s104))))) ∧ (x3 = 0 → (vp_in x3 21 ∧ (∀ s107 : mS, s107 = mL s 40 x3 1000000000000 → (∀ x108 : Int32, x108 = x3 + 1 → ((fun x3 s => w_few_26 N x1 x2 Kr K t x3 s) x108 s107))))))))
theorem c_few_26 {G : xG} {l : Launch} {a : Nat → Nat} {g : xH} (ha : mInj a) {d : Nat} {N : Nat × Nat} (hd : 1 ≤ d) (Kr : Int64 → mS → Prop) (K : mS → Prop) (x1 : Int32) (x2 : Int32) : ∀ (t : Nat) (x3 : Int32) (s : mS) , w_few_26 N x1 x2 Kr K t x3 s → (∀ (s : mS), K s → xF G l kX6_few (d + 1) 0 0 (mQl G a g Kr) 55 [some (.ref (a 51)), some (.int x1), some (.int x2), none, none, none] [] (mH G a s g)) → xF G l kX6_few (d + 1) 0 0 (mQl G a g Kr) 26 [some (.ref (a 51)), some (.int x1), some (.int x2), some (.int x3), none, none] [] (mH G a s g) := by
  intro t
  induction t with
  | zero =>
    intro _ _ h _
    exact absurd h (by simp [w_few_26])
  | succ t ih =>
    intro x3 s h hK
    have hR := fun x3 s h => ih x3 s h hK
    unfold w_few_26 at h
    refine x_iload_3 dX6_few_26 ?_
    refine x_bipush (v := 20) dX6_few_27 (by decide) ?_
    refine x_icmp_gt 55 dX6_few_29 (by decide) (fun c101 => ?_) (fun c101 => ?_)
    · have h := h.1 c101
      exact x_le (xLe_cons (xLe_cons (xLe_cons (xLe_none (xLe_cons (xLe_cons (xLe_nil))))))) (hK _ h)
    · have h := h.2 c101
      refine x_aload_0 dX6_few_32 ?_
      refine m_get ha dX6_few_33 fa_X6_91 rfl ?_
      refine x_iload_3 dX6_few_36 ?_
      refine x_iload_3 dX6_few_37 ?_
      refine x_if_ne 47 dX6_few_38 (by decide) (fun c102 => ?_) (fun c102 => ?_)
      · have h := h.1 c102
        refine x_lconst (v := 0) dX6_few_47 (by decide) ?_
        obtain ⟨e103, h⟩ := h
        refine m_last (j := 40) ha dX6_few_48 (by decide) (by decide) e103 ?_
        have h := h _ rfl
        refine x_iinc_3 (v := 1) dX6_few_49 (by decide) (by decide) xN2_i ?_
        have h := h _ rfl
        refine x_goto 26 dX6_few_52 (by decide) ?_
        exact x_le (xLe_cons (xLe_cons (xLe_cons (xLe_cons (xLe_cons (xLe_cons (xLe_nil))))))) (hR _ _ h)
      · have h := h.2 c102
        refine x_ldc2 dX6_few_41 q2226 ?_
        refine x_goto 48 dX6_few_44 (by decide) ?_
        obtain ⟨e106, h⟩ := h
        refine m_last (j := 40) ha dX6_few_48 (by decide) (by decide) e106 ?_
        have h := h _ rfl
        refine x_iinc_3 (v := 1) dX6_few_49 (by decide) (by decide) xN2_i ?_
        have h := h _ rfl
        refine x_goto 26 dX6_few_52 (by decide) ?_
        exact x_le (xLe_cons (xLe_cons (xLe_cons (xLe_cons (xLe_cons (xLe_cons (xLe_nil))))))) (hR _ _ h)
def w_few (N : Nat × Nat) (x1 : Int32) (x2 : Int32) (s : mS) (Kr : Int64 → mS → Prop) : Prop :=
  (w_lies x1 1 20 (fun x101 => ((x101 = 0 → (Kr (-1) s)) ∧ (¬ x101 = 0 → (w_lies x2 0 99 (fun x104 => ((¬ x104 = 0 → (w_few_26 N x1 x2 Kr (fun s107 => (w_few_57 N x1 x2 Kr (fun s108 => (w_few_151 N x1 Kr (fun x109 s110 => (Kr x109 s110)) N.1 0 0 s108)) N.1 0 s107)) N.1 0 s)) ∧ (x104 = 0 → (Kr (-1) s)))))))))
theorem c_few {G : xG} {l : Launch} {a : Nat → Nat} {g : xH} (ha : mInj a) {d : Nat} {N : Nat × Nat} (hd : 2 ≤ d) {x1 : Int32} {x2 : Int32} {s : mS} {Kr : Int64 → mS → Prop} (h : w_few N x1 x2 s Kr) : xC G l kX6_few d 0 0 [.ref (a 51), .int x1, .int x2] (mH G a s g) (mQl G a g Kr) := by
  obtain ⟨d, rfl⟩ : ∃ z, d = z + 1 := ⟨d - 1, by omega⟩
  refine xC.start rfl (by decide +kernel) (Nat.le_of_ble_eq_true rfl) (lv := [some (.ref (a 51)), some (.int x1), some (.int x2), none, none, none]) rfl ?_
  unfold w_few at h
  refine x_iload_1 dX6_few_0 ?_
  refine x_iconst (v := 1) dX6_few_1 (by decide) ?_
  refine x_bipush (v := 20) dX6_few_2 (by decide) ?_
  refine m_cSi3 rfl cs_X6_18 (Nat.le_of_ble_eq_true rfl) dX6_few_4 (c_lies (by omega) h) (fun x101 h => ?_)
  refine x_if_eq 20 dX6_few_7 (by decide) (fun c103 => ?_) (fun c103 => ?_)
  · have h := h.1 c103
    refine x_ldc2 dX6_few_20 q2225 ?_
    exact x_lret dX6_few_23 rfl ⟨_, _, h, rfl, rfl⟩
  · have h := h.2 c103
    refine x_iload_2 dX6_few_10 ?_
    refine x_iconst (v := 0) dX6_few_11 (by decide) ?_
    refine x_bipush (v := 99) dX6_few_12 (by decide) ?_
    refine m_cSi3 rfl cs_X6_18 (Nat.le_of_ble_eq_true rfl) dX6_few_14 (c_lies (by omega) h) (fun x104 h => ?_)
    refine x_if_ne 24 dX6_few_17 (by decide) (fun c106 => ?_) (fun c106 => ?_)
    · have h := h.1 c106
      refine x_iconst (v := 0) dX6_few_24 (by decide) ?_
      refine x_istore_3 dX6_few_25 (by decide) xN2_i ?_
      refine x_le (xLe_cons (xLe_cons (xLe_cons (xLe_cons (xLe_cons (xLe_cons (xLe_nil))))))) (c_few_26 ha (by omega) _ _ _ _ _ _ _ h (fun s107 h => ?_))
      refine x_iconst (v := 0) dX6_few_55 (by decide) ?_
      refine x_istore_3 dX6_few_56 (by decide) xN2_i ?_
      refine x_le (xLe_cons (xLe_cons (xLe_cons (xLe_cons (xLe_cons (xLe_cons (xLe_nil))))))) (c_few_57 ha (by omega) _ _ _ _ _ _ _ h (fun s108 h => ?_))
      refine x_lconst (v := 0) dX6_few_146 (by decide) ?_
      refine x_lstore_3 dX6_few_147 (by decide) xN2_none ?_
      refine x_iconst (v := 0) dX6_few_148 (by decide) ?_
      refine x_istore_5 dX6_few_149 (by decide) xN2_none ?_
      refine x_le (xLe_cons (xLe_cons (xLe_cons (xLe_cons (xLe_cons (xLe_cons (xLe_nil))))))) (c_few_151 ha (by omega) _ _ _ _ _ _ _ h (fun x109 s110 h => ?_))
      refine x_lload_3 dX6_few_173 ?_
      exact x_lret dX6_few_174 rfl ⟨_, _, h, rfl, rfl⟩
    · have h := h.2 c106
      refine x_ldc2 dX6_few_20 q2225 ?_
      exact x_lret dX6_few_23 rfl ⟨_, _, h, rfl, rfl⟩
def w_force (x1 : Int32) (s : mS) (Kr : Int32 → mS → Prop) : Prop :=
  (w_isLaw x1 s (fun x101 s102 => ((¬ x101 = 0 → (vp_in 44 5652 ∧ (∀ x105 : Int32, x105 = mAt s102 2 44 → (vp_in 44 5652 ∧ (∀ s107 : mS, s107 = mI s102 2 44 x1 → (w_good x105 s107 (fun x108 s109 => (Kr x108 s109)))))))) ∧ (x101 = 0 → (w_refuses (-2) s102 (fun x110 s111 => (Kr x110 s111)))))))
theorem c_force {G : xG} {l : Launch} {a : Nat → Nat} {g : xH} (ha : mInj a) {d : Nat} (hd : 3 ≤ d) {x1 : Int32} {s : mS} {Kr : Int32 → mS → Prop} (h : w_force x1 s Kr) : xC G l kX6_force d 0 0 [.ref (a 51), .int x1] (mH G a s g) (mQi G a g Kr) := by
  obtain ⟨d, rfl⟩ : ∃ z, d = z + 1 := ⟨d - 1, by omega⟩
  refine xC.start rfl (by decide +kernel) (Nat.le_of_ble_eq_true rfl) (lv := [some (.ref (a 51)), some (.int x1), none]) rfl ?_
  unfold w_force at h
  refine x_aload_0 dX6_force_0 ?_
  refine x_iload_1 dX6_force_1 ?_
  refine m_cVi1 ha rfl cv_X6_255 (Nat.le_of_ble_eq_true rfl) dX6_force_2 (c_isLaw ha (by omega) h) (fun x101 s102 h => ?_)
  refine x_if_ne 15 dX6_force_5 (by decide) (fun c103 => ?_) (fun c103 => ?_)
  · have h := h.1 c103
    refine x_aload_0 dX6_force_15 ?_
    refine m_get ha dX6_force_16 fa_X6_28 rfl ?_
    refine x_bipush (v := 44) dX6_force_19 (by decide) ?_
    obtain ⟨e104, h⟩ := h
    refine m_iald (j := 2) ha dX6_force_21 (by decide) (by decide) e104 ?_
    refine x_istore_2 dX6_force_22 (by decide) xN2_i ?_
    have h := h _ rfl
    refine x_aload_0 dX6_force_23 ?_
    refine m_get ha dX6_force_24 fa_X6_28 rfl ?_
    refine x_bipush (v := 44) dX6_force_27 (by decide) ?_
    refine x_iload_1 dX6_force_29 ?_
    obtain ⟨e106, h⟩ := h
    refine m_iast (j := 2) ha dX6_force_30 (by decide) (by decide) e106 ?_
    have h := h _ rfl
    refine x_aload_0 dX6_force_31 ?_
    refine x_iload_2 dX6_force_32 ?_
    refine m_cVi1 ha rfl cv_X6_14 (Nat.le_of_ble_eq_true rfl) dX6_force_33 (c_good ha (by omega) h) (fun x108 s109 h => ?_)
    exact x_iret dX6_force_36 rfl ⟨_, _, h, rfl, rfl⟩
  · have h := h.2 c103
    refine x_aload_0 dX6_force_8 ?_
    refine x_bipush (v := (-2)) dX6_force_9 (by decide) ?_
    refine m_cVi1 ha rfl cv_X6_106 (Nat.le_of_ble_eq_true rfl) dX6_force_11 (c_refuses ha (by omega) h) (fun x110 s111 h => ?_)
    exact x_iret dX6_force_14 rfl ⟨_, _, h, rfl, rfl⟩
def w_forget (s : mS) (Kr : Int32 → mS → Prop) : Prop :=
  (vp_in 42 5652 ∧ (∀ x102 : Int32, x102 = mAt s 2 42 → (vp_in 42 5652 ∧ (∀ s104 : mS, s104 = mI s 2 42 0 → (Kr x102 s104)))))
theorem c_forget {G : xG} {l : Launch} {a : Nat → Nat} {g : xH} (ha : mInj a) {d : Nat} (hd : 1 ≤ d) {s : mS} {Kr : Int32 → mS → Prop} (h : w_forget s Kr) : xC G l kX6_forget d 0 0 [.ref (a 51)] (mH G a s g) (mQi G a g Kr) := by
  obtain ⟨d, rfl⟩ : ∃ z, d = z + 1 := ⟨d - 1, by omega⟩
  refine xC.start rfl (by decide +kernel) (Nat.le_of_ble_eq_true rfl) (lv := [some (.ref (a 51)), none]) rfl ?_
  unfold w_forget at h
  refine x_aload_0 dX6_forget_0 ?_
  refine m_get ha dX6_forget_1 fa_X6_28 rfl ?_
  refine x_bipush (v := 42) dX6_forget_4 (by decide) ?_
  obtain ⟨e101, h⟩ := h
  refine m_iald (j := 2) ha dX6_forget_6 (by decide) (by decide) e101 ?_
  refine x_istore_1 dX6_forget_7 (by decide) xN2_r ?_
  have h := h _ rfl
  refine x_aload_0 dX6_forget_8 ?_
  refine m_get ha dX6_forget_9 fa_X6_28 rfl ?_
  refine x_bipush (v := 42) dX6_forget_12 (by decide) ?_
  refine x_iconst (v := 0) dX6_forget_14 (by decide) ?_
  obtain ⟨e103, h⟩ := h
  refine m_iast (j := 2) ha dX6_forget_15 (by decide) (by decide) e103 ?_
  have h := h _ rfl
  refine x_iload_1 dX6_forget_16 ?_
  exact x_iret dX6_forget_17 rfl ⟨_, _, h, rfl, rfl⟩
