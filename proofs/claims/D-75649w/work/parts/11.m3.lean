set_option maxRecDepth 100000
def w_reads_95 (N : Nat × Nat) (Kr : Int32 → mS → Prop) (s : mS) : Prop :=
  (∀ s101 : mS, s101 = mF s 14 (mFd s 21) → (w_fine s101 (fun x102 s103 => (xB x102 ∧ (Kr x102 s103)))))
theorem c_reads_95 {G : xG} {l : Launch} {a : Nat → Nat} {g : xH} (ha : mInj a) {d : Nat} {N : Nat × Nat} (hd : 1 * N.2 + 6 ≤ d) (Kr : Int32 → mS → Prop) (s : mS) (h : w_reads_95 N Kr s) : xF G l kX6_reads (d + 1) 0 0 (mQi G a g Kr) 95 [some (.ref (a 51)), none] [] (mH G a s g) := by
  unfold w_reads_95 at h
  refine x_aload_0 dX6_reads_95 ?_
  refine x_aload_0 dX6_reads_96 ?_
  refine m_get ha dX6_reads_97 fa_X6_174 rfl ?_
  refine m_put ha dX6_reads_100 fp_X6_51 (mfs_14 _ _ _) (by decide) rfl rfl ?_
  have h := h _ rfl
  refine x_aload_0 dX6_reads_103 ?_
  refine m_cVi0 ha rfl cv_X6_177 (Nat.le_of_ble_eq_true rfl) dX6_reads_104 (c_fine ha (by omega) h) (fun x102 s103 h => ?_)
  obtain ⟨e104, h⟩ := h
  exact x_zret dX6_reads_107 rfl (xB_n e104) ⟨_, _, h, rfl, rfl⟩
def w_reads_56 (N : Nat × Nat) (x1 : Int32) (Kr : Int32 → mS → Prop) (K : mS → Prop) (R : Int32 → mS → Prop) (s : mS) : Prop :=
  (w_fine s (fun x101 s102 => ((x101 = 0 → (∀ x104 : Int32, x104 = x1 + 1 → (R x104 s102))) ∧ (¬ x101 = 0 → (w_readOne N s102 (fun s106 => (∀ x107 : Int32, x107 = x1 + 1 → (R x107 s106))))))))
theorem c_reads_56 {G : xG} {l : Launch} {a : Nat → Nat} {g : xH} (ha : mInj a) {d : Nat} {N : Nat × Nat} (hd : 1 * N.2 + 6 ≤ d) (x1 : Int32) (Kr : Int32 → mS → Prop) (K : mS → Prop) (R : Int32 → mS → Prop) (s : mS) (h : w_reads_56 N x1 Kr K R s) (hK : ∀ (s : mS), K s → xF G l kX6_reads (d + 1) 0 0 (mQi G a g Kr) 73 [some (.ref (a 51)), none] [] (mH G a s g)) (hR : ∀ (z1 : Int32) (s : mS), R z1 s → xF G l kX6_reads (d + 1) 0 0 (mQi G a g Kr) 34 [some (.ref (a 51)), some (.int z1)] [] (mH G a s g)) : xF G l kX6_reads (d + 1) 0 0 (mQi G a g Kr) 56 [some (.ref (a 51)), some (.int x1)] [] (mH G a s g) := by
  unfold w_reads_56 at h
  refine x_aload_0 dX6_reads_56 ?_
  refine m_cVi0 ha rfl cv_X6_177 (Nat.le_of_ble_eq_true rfl) dX6_reads_57 (c_fine ha (by omega) h) (fun x101 s102 h => ?_)
  refine x_if_eq 67 dX6_reads_60 (by decide) (fun c103 => ?_) (fun c103 => ?_)
  · have h := h.1 c103
    refine x_iinc_1 (v := 1) dX6_reads_67 (by decide) (by decide) xN2_r ?_
    have h := h _ rfl
    refine x_goto 34 dX6_reads_70 (by decide) ?_
    exact x_le (xLe_cons (xLe_cons (xLe_nil))) (hR _ _ h)
  · have h := h.2 c103
    refine x_aload_0 dX6_reads_63 ?_
    refine m_cVv0 ha rfl cv_X6_242 (Nat.le_of_ble_eq_true rfl) dX6_reads_64 (c_readOne ha (by omega) h) (fun s106 h => ?_)
    refine x_iinc_1 (v := 1) dX6_reads_67 (by decide) (by decide) xN2_r ?_
    have h := h _ rfl
    refine x_goto 34 dX6_reads_70 (by decide) ?_
    exact x_le (xLe_cons (xLe_cons (xLe_nil))) (hR _ _ h)
def w_reads_34 (N : Nat × Nat) (Kr : Int32 → mS → Prop) (K : mS → Prop) : Nat → Int32 → mS → Prop
  | 0, _, _ => False
  | t + 1, x1, s => (w_sign 59 (fun x101 => (w_takes0 x101 s (fun x103 s104 => ((x103 = 0 → (K s104)) ∧ (¬ x103 = 0 → ((¬ x1 = 12 → (w_reads_56 N x1 Kr K (fun x1 s => w_reads_34 N Kr K t x1 s) s104)) ∧ (x1 = 12 → (w_faults s104 (fun s108 => (w_reads_56 N x1 Kr K (fun x1 s => w_reads_34 N Kr K t x1 s) s108)))))))))))
theorem c_reads_34 {G : xG} {l : Launch} {a : Nat → Nat} {g : xH} (ha : mInj a) {d : Nat} {N : Nat × Nat} (hd : 1 * N.2 + 6 ≤ d) (Kr : Int32 → mS → Prop) (K : mS → Prop) : ∀ (t : Nat) (x1 : Int32) (s : mS) , w_reads_34 N Kr K t x1 s → (∀ (s : mS), K s → xF G l kX6_reads (d + 1) 0 0 (mQi G a g Kr) 73 [some (.ref (a 51)), none] [] (mH G a s g)) → xF G l kX6_reads (d + 1) 0 0 (mQi G a g Kr) 34 [some (.ref (a 51)), some (.int x1)] [] (mH G a s g) := by
  intro t
  induction t with
  | zero =>
    intro _ _ h _
    exact absurd h (by simp [w_reads_34])
  | succ t ih =>
    intro x1 s h hK
    have hR := fun x1 s h => ih x1 s h hK
    unfold w_reads_34 at h
    refine x_aload_0 dX6_reads_34 ?_
    refine x_bipush (v := 59) dX6_reads_35 (by decide) ?_
    refine m_cSi1 rfl cs_X6_220 (Nat.le_of_ble_eq_true rfl) dX6_reads_37 (c_sign (by omega) h) (fun x101 h => ?_)
    refine m_cVi1 ha rfl cv_X6_183 (Nat.le_of_ble_eq_true rfl) dX6_reads_40 (c_takes0 ha (by omega) h) (fun x103 s104 h => ?_)
    refine x_if_eq 73 dX6_reads_43 (by decide) (fun c105 => ?_) (fun c105 => ?_)
    · have h := h.1 c105
      exact x_le (xLe_cons (xLe_none (xLe_nil))) (hK _ h)
    · have h := h.2 c105
      refine x_iload_1 dX6_reads_46 ?_
      refine x_bipush (v := 12) dX6_reads_47 (by decide) ?_
      refine x_icmp_ne 56 dX6_reads_49 (by decide) (fun c106 => ?_) (fun c106 => ?_)
      · have h := h.1 c106
        exact x_le (xLe_cons (xLe_cons (xLe_nil))) (c_reads_56 ha (by omega) _ _ _ _ _ h hK hR)
      · have h := h.2 c106
        refine x_aload_0 dX6_reads_52 ?_
        refine m_cVv0 ha rfl cv_X6_186 (Nat.le_of_ble_eq_true rfl) dX6_reads_53 (c_faults ha (by omega) h) (fun s108 h => ?_)
        exact x_le (xLe_cons (xLe_cons (xLe_nil))) (c_reads_56 ha (by omega) _ _ _ _ _ h hK hR)
def w_reads (N : Nat × Nat) (s : mS) (Kr : Int32 → mS → Prop) : Prop :=
  (w_splits N (mFd s 13) s (fun s102 => (∀ s103 : mS, s103 = mF s102 13 0 → (∀ s104 : mS, s104 = mF s103 19 0 → (∀ s105 : mS, s105 = mF s104 20 0 → (∀ s106 : mS, s106 = mF s105 21 (-1) → (w_readOne N s106 (fun s108 => (w_reads_34 N Kr (fun s109 => (w_fine s109 (fun x110 s111 => ((x110 = 0 → (w_reads_95 N Kr s111)) ∧ (¬ x110 = 0 → (((mFd s111 18) ≤ (mFd s111 19) → (w_reads_95 N Kr s111)) ∧ (¬ (mFd s111 18) ≤ (mFd s111 19) → (w_faults s111 (fun s115 => (w_reads_95 N Kr s115)))))))))) N.1 1 s108)))))))))
theorem c_reads {G : xG} {l : Launch} {a : Nat → Nat} {g : xH} (ha : mInj a) {d : Nat} {N : Nat × Nat} (hd : 1 * N.2 + 7 ≤ d) {s : mS} {Kr : Int32 → mS → Prop} (h : w_reads N s Kr) : xC G l kX6_reads d 0 0 [.ref (a 51)] (mH G a s g) (mQi G a g Kr) := by
  obtain ⟨d, rfl⟩ : ∃ z, d = z + 1 := ⟨d - 1, by omega⟩
  refine xC.start rfl (by decide +kernel) (Nat.le_of_ble_eq_true rfl) (lv := [some (.ref (a 51)), none]) rfl ?_
  unfold w_reads at h
  refine x_aload_0 dX6_reads_0 ?_
  refine x_aload_0 dX6_reads_1 ?_
  refine m_get ha dX6_reads_2 fa_X6_154 rfl ?_
  refine m_cVv1 ha rfl cv_X6_239 (Nat.le_of_ble_eq_true rfl) dX6_reads_5 (c_splits ha (by omega) h) (fun s102 h => ?_)
  refine x_aload_0 dX6_reads_8 ?_
  refine x_iconst (v := 0) dX6_reads_9 (by decide) ?_
  refine m_put ha dX6_reads_10 fp_X6_154 (mfs_13 _ _ _) (by decide) rfl rfl ?_
  have h := h _ rfl
  refine x_aload_0 dX6_reads_13 ?_
  refine x_iconst (v := 0) dX6_reads_14 (by decide) ?_
  refine m_put ha dX6_reads_15 fp_X6_180 (mfs_19 _ _ _) (by decide) rfl rfl ?_
  have h := h _ rfl
  refine x_aload_0 dX6_reads_18 ?_
  refine x_iconst (v := 0) dX6_reads_19 (by decide) ?_
  refine m_put ha dX6_reads_20 fp_X6_189 (mfs_20 _ _ _) (by decide) rfl rfl ?_
  have h := h _ rfl
  refine x_aload_0 dX6_reads_23 ?_
  refine x_iconst (v := (-1)) dX6_reads_24 (by decide) ?_
  refine m_put ha dX6_reads_25 fp_X6_174 (mfs_21 _ _ _) (by decide) rfl rfl ?_
  have h := h _ rfl
  refine x_aload_0 dX6_reads_28 ?_
  refine m_cVv0 ha rfl cv_X6_242 (Nat.le_of_ble_eq_true rfl) dX6_reads_29 (c_readOne ha (by omega) h) (fun s108 h => ?_)
  refine x_iconst (v := 1) dX6_reads_32 (by decide) ?_
  refine x_istore_1 dX6_reads_33 (by decide) xN2_r ?_
  refine x_le (xLe_cons (xLe_cons (xLe_nil))) (c_reads_34 ha (by omega) _ _ _ _ _ h (fun s109 h => ?_))
  refine x_aload_0 dX6_reads_73 ?_
  refine m_cVi0 ha rfl cv_X6_177 (Nat.le_of_ble_eq_true rfl) dX6_reads_74 (c_fine ha (by omega) h) (fun x110 s111 h => ?_)
  refine x_if_eq 95 dX6_reads_77 (by decide) (fun c112 => ?_) (fun c112 => ?_)
  · have h := h.1 c112
    exact x_le (xLe_cons (xLe_cons (xLe_nil))) (c_reads_95 ha (by omega) _ _ h)
  · have h := h.2 c112
    refine x_aload_0 dX6_reads_80 ?_
    refine m_get ha dX6_reads_81 fa_X6_180 rfl ?_
    refine x_aload_0 dX6_reads_84 ?_
    refine m_get ha dX6_reads_85 fa_X6_160 rfl ?_
    refine x_icmp_ge 95 dX6_reads_88 (by decide) (fun c113 => ?_) (fun c113 => ?_)
    · have h := h.1 c113
      exact x_le (xLe_cons (xLe_cons (xLe_nil))) (c_reads_95 ha (by omega) _ _ h)
    · have h := h.2 c113
      refine x_aload_0 dX6_reads_91 ?_
      refine m_cVv0 ha rfl cv_X6_186 (Nat.le_of_ble_eq_true rfl) dX6_reads_92 (c_faults ha (by omega) h) (fun s115 h => ?_)
      exact x_le (xLe_cons (xLe_cons (xLe_nil))) (c_reads_95 ha (by omega) _ _ h)
def w_readsAs_17 (N : Nat × Nat) (x1 : Int32) (y1 : Int32) (Kr : Int32 → mS → Prop) (s : mS) : Prop :=
  (∀ s101 : mS, s101 = mF s 8 y1 → ((x1 = 0 → (∀ s103 : mS, s103 = mF s101 9 17 → (w_reads N s103 (fun x104 s105 => (xB x104 ∧ (Kr x104 s105)))))) ∧ (¬ x1 = 0 → (∀ s107 : mS, s107 = mF s101 9 21 → (w_reads N s107 (fun x108 s109 => (xB x108 ∧ (Kr x108 s109))))))))
theorem c_readsAs_17 {G : xG} {l : Launch} {a : Nat → Nat} {g : xH} (ha : mInj a) {d : Nat} {N : Nat × Nat} (hd : 1 * N.2 + 7 ≤ d) (x1 : Int32) (y1 : Int32) (Kr : Int32 → mS → Prop) (s : mS) (h : w_readsAs_17 N x1 y1 Kr s) : xF G l kX6_readsAs (d + 1) 0 0 (mQi G a g Kr) 17 [some (.ref (a 51)), some (.int x1)] [.int y1, .ref (a 51)] (mH G a s g) := by
  unfold w_readsAs_17 at h
  refine m_put ha dX6_readsAs_17 fp_X6_230 (mfs_8 _ _ _) (by decide) rfl rfl ?_
  have h := h _ rfl
  refine x_aload_0 dX6_readsAs_20 ?_
  refine x_iload_1 dX6_readsAs_21 ?_
  refine x_if_eq 30 dX6_readsAs_22 (by decide) (fun c102 => ?_) (fun c102 => ?_)
  · have h := h.1 c102
    refine x_bipush (v := 17) dX6_readsAs_30 (by decide) ?_
    refine m_put ha dX6_readsAs_32 fp_X6_233 (mfs_9 _ _ _) (by decide) rfl rfl ?_
    have h := h _ rfl
    refine x_aload_0 dX6_readsAs_35 ?_
    refine m_cVi0 ha rfl cv_X6_245 (Nat.le_of_ble_eq_true rfl) dX6_readsAs_36 (c_reads ha (by omega) h) (fun x104 s105 h => ?_)
    obtain ⟨e106, h⟩ := h
    exact x_zret dX6_readsAs_39 rfl (xB_n e106) ⟨_, _, h, rfl, rfl⟩
  · have h := h.2 c102
    refine x_bipush (v := 21) dX6_readsAs_25 (by decide) ?_
    refine x_goto 32 dX6_readsAs_27 (by decide) ?_
    refine m_put ha dX6_readsAs_32 fp_X6_233 (mfs_9 _ _ _) (by decide) rfl rfl ?_
    have h := h _ rfl
    refine x_aload_0 dX6_readsAs_35 ?_
    refine m_cVi0 ha rfl cv_X6_245 (Nat.le_of_ble_eq_true rfl) dX6_readsAs_36 (c_reads ha (by omega) h) (fun x108 s109 h => ?_)
    obtain ⟨e110, h⟩ := h
    exact x_zret dX6_readsAs_39 rfl (xB_n e110) ⟨_, _, h, rfl, rfl⟩
def w_readsAs (N : Nat × Nat) (x1 : Int32) (s : mS) (Kr : Int32 → mS → Prop) : Prop :=
  (xB x1 ∧ (∀ s102 : mS, s102 = mF s 10 x1 → ((x1 = 0 → (w_readsAs_17 N x1 8 Kr s102)) ∧ (¬ x1 = 0 → (w_readsAs_17 N x1 15 Kr s102)))))
theorem c_readsAs {G : xG} {l : Launch} {a : Nat → Nat} {g : xH} (ha : mInj a) {d : Nat} {N : Nat × Nat} (hd : 1 * N.2 + 8 ≤ d) {x1 : Int32} {s : mS} {Kr : Int32 → mS → Prop} (h : w_readsAs N x1 s Kr) : xC G l kX6_readsAs d 0 0 [.ref (a 51), .int x1] (mH G a s g) (mQi G a g Kr) := by
  obtain ⟨d, rfl⟩ : ∃ z, d = z + 1 := ⟨d - 1, by omega⟩
  refine xC.start rfl (by decide +kernel) (Nat.le_of_ble_eq_true rfl) (lv := [some (.ref (a 51)), some (.int x1)]) rfl ?_
  unfold w_readsAs at h
  refine x_aload_0 dX6_readsAs_0 ?_
  refine x_iload_1 dX6_readsAs_1 ?_
  obtain ⟨e101, h⟩ := h
  refine m_put ha dX6_readsAs_2 fp_X6_204 (mfs_10 _ _ _) (by decide) (xB_n e101) (xB_f e101) ?_
  have h := h _ rfl
  refine x_aload_0 dX6_readsAs_5 ?_
  refine x_iload_1 dX6_readsAs_6 ?_
  refine x_if_eq 15 dX6_readsAs_7 (by decide) (fun c103 => ?_) (fun c103 => ?_)
  · have h := h.1 c103
    refine x_bipush (v := 8) dX6_readsAs_15 (by decide) ?_
    exact x_le (xLe_cons (xLe_cons (xLe_nil))) (c_readsAs_17 ha (by omega) _ _ _ _ h)
  · have h := h.2 c103
    refine x_bipush (v := 15) dX6_readsAs_10 (by decide) ?_
    refine x_goto 17 dX6_readsAs_12 (by decide) ?_
    exact x_le (xLe_cons (xLe_cons (xLe_nil))) (c_readsAs_17 ha (by omega) _ _ _ _ h)
def w_law (N : Nat × Nat) (s : mS) (Kr : Int32 → mS → Prop) : Prop :=
  (vp_in 43 5652 ∧ ((¬ (mAt s 2 43) = 6 → (w_readsAs N 0 s (fun x103 s104 => ((¬ x103 = 0 → (vp_in 43 5652 ∧ (w_lays N (mAt s104 2 43) s104 (fun s108 => (vp_in 43 5652 ∧ (vp_in 43 5652 ∧ (∀ s111 : mS, s111 = mI s108 2 43 ((mAt s108 2 43) + 1) → (vp_in 43 5652 ∧ (w_good ((mAt s111 2 43) - 1) s111 (fun x113 s114 => (Kr x113 s114))))))))))) ∧ (x103 = 0 → (w_refuses (-6) s104 (fun x115 s116 => (Kr x115 s116)))))))) ∧ ((mAt s 2 43) = 6 → (∀ s117 : mS, s117 = mF s 13 0 → (w_refuses (-5) s117 (fun x118 s119 => (Kr x118 s119)))))))
theorem c_law {G : xG} {l : Launch} {a : Nat → Nat} {g : xH} (ha : mInj a) {d : Nat} {N : Nat × Nat} (hd : 1 * N.2 + 9 ≤ d) {s : mS} {Kr : Int32 → mS → Prop} (h : w_law N s Kr) : xC G l kX6_law d 0 0 [.ref (a 51)] (mH G a s g) (mQi G a g Kr) := by
  obtain ⟨d, rfl⟩ : ∃ z, d = z + 1 := ⟨d - 1, by omega⟩
  refine xC.start rfl (by decide +kernel) (Nat.le_of_ble_eq_true rfl) (lv := [some (.ref (a 51))]) rfl ?_
  unfold w_law at h
  refine x_aload_0 dX6_law_0 ?_
  refine m_get ha dX6_law_1 fa_X6_28 rfl ?_
  refine x_bipush (v := 43) dX6_law_4 (by decide) ?_
  obtain ⟨e101, h⟩ := h
  refine m_iald (j := 2) ha dX6_law_6 (by decide) (by decide) e101 ?_
  refine x_bipush (v := 6) dX6_law_7 (by decide) ?_
  refine x_icmp_ne 24 dX6_law_9 (by decide) (fun c102 => ?_) (fun c102 => ?_)
  · have h := h.1 c102
    refine x_aload_0 dX6_law_24 ?_
    refine x_iconst (v := 0) dX6_law_25 (by decide) ?_
    refine m_cVi1 ha rfl cv_X6_248 (Nat.le_of_ble_eq_true rfl) dX6_law_26 (c_readsAs ha (by omega) h) (fun x103 s104 h => ?_)
    refine x_if_ne 39 dX6_law_29 (by decide) (fun c105 => ?_) (fun c105 => ?_)
    · have h := h.1 c105
      refine x_aload_0 dX6_law_39 ?_
      refine x_aload_0 dX6_law_40 ?_
      refine m_get ha dX6_law_41 fa_X6_28 rfl ?_
      refine x_bipush (v := 43) dX6_law_44 (by decide) ?_
      obtain ⟨e106, h⟩ := h
      refine m_iald (j := 2) ha dX6_law_46 (by decide) (by decide) e106 ?_
      refine m_cVv1 ha rfl cv_X6_252 (Nat.le_of_ble_eq_true rfl) dX6_law_47 (c_lays ha (by omega) h) (fun s108 h => ?_)
      refine x_aload_0 dX6_law_50 ?_
      refine m_get ha dX6_law_51 fa_X6_28 rfl ?_
      refine x_bipush (v := 43) dX6_law_54 (by decide) ?_
      refine x_dup2 dX6_law_56 rfl rfl ?_
      obtain ⟨e109, h⟩ := h
      refine m_iald (j := 2) ha dX6_law_57 (by decide) (by decide) e109 ?_
      refine x_iconst (v := 1) dX6_law_58 (by decide) ?_
      refine x_iadd dX6_law_59 ?_
      obtain ⟨e110, h⟩ := h
      refine m_iast (j := 2) ha dX6_law_60 (by decide) (by decide) e110 ?_
      have h := h _ rfl
      refine x_aload_0 dX6_law_61 ?_
      refine x_aload_0 dX6_law_62 ?_
      refine m_get ha dX6_law_63 fa_X6_28 rfl ?_
      refine x_bipush (v := 43) dX6_law_66 (by decide) ?_
      obtain ⟨e112, h⟩ := h
      refine m_iald (j := 2) ha dX6_law_68 (by decide) (by decide) e112 ?_
      refine x_iconst (v := 1) dX6_law_69 (by decide) ?_
      refine x_isub dX6_law_70 ?_
      refine m_cVi1 ha rfl cv_X6_14 (Nat.le_of_ble_eq_true rfl) dX6_law_71 (c_good ha (by omega) h) (fun x113 s114 h => ?_)
      exact x_iret dX6_law_74 rfl ⟨_, _, h, rfl, rfl⟩
    · have h := h.2 c105
      refine x_aload_0 dX6_law_32 ?_
      refine x_bipush (v := (-6)) dX6_law_33 (by decide) ?_
      refine m_cVi1 ha rfl cv_X6_106 (Nat.le_of_ble_eq_true rfl) dX6_law_35 (c_refuses ha (by omega) h) (fun x115 s116 h => ?_)
      exact x_iret dX6_law_38 rfl ⟨_, _, h, rfl, rfl⟩
  · have h := h.2 c102
    refine x_aload_0 dX6_law_12 ?_
    refine x_iconst (v := 0) dX6_law_13 (by decide) ?_
    refine m_put ha dX6_law_14 fp_X6_154 (mfs_13 _ _ _) (by decide) rfl rfl ?_
    have h := h _ rfl
    refine x_aload_0 dX6_law_17 ?_
    refine x_bipush (v := (-5)) dX6_law_18 (by decide) ?_
    refine m_cVi1 ha rfl cv_X6_106 (Nat.le_of_ble_eq_true rfl) dX6_law_20 (c_refuses ha (by omega) h) (fun x118 s119 h => ?_)
    exact x_iret dX6_law_23 rfl ⟨_, _, h, rfl, rfl⟩
def w_laysAside_2 (N : Nat × Nat) (x1 : Int32) (Kr : mS → Prop) (K : mS → Prop) : Nat → Int32 → mS → Prop
  | 0, _, _ => False
  | t + 1, x2, s => ((25 ≤ x2 → (K s)) ∧ (¬ 25 ≤ x2 → (vp_in x2 5652 ∧ (vp_in ((25 * x1) + x2) 50 ∧ (∀ s104 : mS, s104 = mI s 5 ((25 * x1) + x2) (mAt s 2 x2) → (∀ x105 : Int32, x105 = x2 + 1 → ((fun x2 s => w_laysAside_2 N x1 Kr K t x2 s) x105 s104)))))))
theorem c_laysAside_2 {G : xG} {l : Launch} {a : Nat → Nat} {g : xH} (ha : mInj a) {d : Nat} {N : Nat × Nat} (hd : 0 ≤ d) (Kr : mS → Prop) (K : mS → Prop) (x1 : Int32) : ∀ (t : Nat) (x2 : Int32) (s : mS) , w_laysAside_2 N x1 Kr K t x2 s → (∀ (s : mS), K s → xF G l kX6_laysAside (d + 1) 0 0 (mQv G a g Kr) 31 [some (.ref (a 51)), none, none] [] (mH G a s g)) → xF G l kX6_laysAside (d + 1) 0 0 (mQv G a g Kr) 2 [some (.ref (a 51)), some (.int x1), some (.int x2)] [] (mH G a s g) := by
  intro t
  induction t with
  | zero =>
    intro _ _ h _
    exact absurd h (by simp [w_laysAside_2])
  | succ t ih =>
    intro x2 s h hK
    have hR := fun x2 s h => ih x2 s h hK
    unfold w_laysAside_2 at h
    refine x_iload_2 dX6_laysAside_2 ?_
    refine x_bipush (v := 25) dX6_laysAside_3 (by decide) ?_
    refine x_icmp_ge 31 dX6_laysAside_5 (by decide) (fun c101 => ?_) (fun c101 => ?_)
    · have h := h.1 c101
      exact x_le (xLe_cons (xLe_none (xLe_none (xLe_nil)))) (hK _ h)
    · have h := h.2 c101
      refine x_aload_0 dX6_laysAside_8 ?_
      refine m_get ha dX6_laysAside_9 fa_X6_38 rfl ?_
      refine x_bipush (v := 25) dX6_laysAside_12 (by decide) ?_
      refine x_iload_1 dX6_laysAside_14 ?_
      refine x_imul dX6_laysAside_15 ?_
      refine x_iload_2 dX6_laysAside_16 ?_
      refine x_iadd dX6_laysAside_17 ?_
      refine x_aload_0 dX6_laysAside_18 ?_
      refine m_get ha dX6_laysAside_19 fa_X6_28 rfl ?_
      refine x_iload_2 dX6_laysAside_22 ?_
      obtain ⟨e102, h⟩ := h
      refine m_iald (j := 2) ha dX6_laysAside_23 (by decide) (by decide) e102 ?_
      obtain ⟨e103, h⟩ := h
      refine m_iast (j := 5) ha dX6_laysAside_24 (by decide) (by decide) e103 ?_
      have h := h _ rfl
      refine x_iinc_2 (v := 1) dX6_laysAside_25 (by decide) (by decide) xN2_i ?_
      have h := h _ rfl
      refine x_goto 2 dX6_laysAside_28 (by decide) ?_
      exact x_le (xLe_cons (xLe_cons (xLe_cons (xLe_nil)))) (hR _ _ h)
def w_laysAside (N : Nat × Nat) (x1 : Int32) (s : mS) (Kr : mS → Prop) : Prop :=
  (w_laysAside_2 N x1 Kr (fun s101 => (Kr s101)) N.1 0 s)
theorem c_laysAside {G : xG} {l : Launch} {a : Nat → Nat} {g : xH} (ha : mInj a) {d : Nat} {N : Nat × Nat} (hd : 1 ≤ d) {x1 : Int32} {s : mS} {Kr : mS → Prop} (h : w_laysAside N x1 s Kr) : xC G l kX6_laysAside d 0 0 [.ref (a 51), .int x1] (mH G a s g) (mQv G a g Kr) := by
  obtain ⟨d, rfl⟩ : ∃ z, d = z + 1 := ⟨d - 1, by omega⟩
  refine xC.start rfl (by decide +kernel) (Nat.le_of_ble_eq_true rfl) (lv := [some (.ref (a 51)), some (.int x1), none]) rfl ?_
  unfold w_laysAside at h
  refine x_iconst (v := 0) dX6_laysAside_0 (by decide) ?_
  refine x_istore_2 dX6_laysAside_1 (by decide) xN2_i ?_
  refine x_le (xLe_cons (xLe_cons (xLe_cons (xLe_nil)))) (c_laysAside_2 ha (by omega) _ _ _ _ _ _ h (fun s101 h => ?_))
  exact x_vret dX6_laysAside_31 rfl ⟨_, h, rfl, rfl⟩
def w_mostAlike_20 (N : Nat × Nat) (x1 : Int32) (x2 : Int32) (x3 : Int32) (x4 : Int32) (Kr : Int32 → mS → Prop) (K : Int32 → mS → Prop) : Nat → Int32 → Int32 → mS → Prop
  | 0, _, _, _ => False
  | t + 1, x5, x6, s => (w_noteMany s (fun x101 s102 => ((x101 ≤ x6 → (K x5 s102)) ∧ (¬ x101 ≤ x6 → (w_isIn x1 x6 (fun x104 => ((x104 = 0 → (∀ x107 : Int32, x107 = x5 + 0 → (∀ x108 : Int32, x108 = x6 + 1 → ((fun x5 x6 s => w_mostAlike_20 N x1 x2 x3 x4 Kr K t x5 x6 s) x107 x108 s102)))) ∧ (¬ x104 = 0 → (vp_in ((4 * x4) + x2) 48 ∧ (vp_in ((4 * x6) + x2) 48 ∧ ((¬ (mAt s102 39 ((4 * x4) + x2)) = (mAt s102 39 ((4 * x6) + x2)) → (∀ x112 : Int32, x112 = x5 + 0 → (∀ x113 : Int32, x113 = x6 + 1 → ((fun x5 x6 s => w_mostAlike_20 N x1 x2 x3 x4 Kr K t x5 x6 s) x112 x113 s102)))) ∧ ((mAt s102 39 ((4 * x4) + x2)) = (mAt s102 39 ((4 * x6) + x2)) → (∀ x114 : Int32, x114 = x5 + 1 → (∀ x115 : Int32, x115 = x6 + 1 → ((fun x5 x6 s => w_mostAlike_20 N x1 x2 x3 x4 Kr K t x5 x6 s) x114 x115 s102)))))))))))))))
theorem c_mostAlike_20 {G : xG} {l : Launch} {a : Nat → Nat} {g : xH} (ha : mInj a) {d : Nat} {N : Nat × Nat} (hd : 1 ≤ d) (Kr : Int32 → mS → Prop) (K : Int32 → mS → Prop) (x1 : Int32) (x2 : Int32) (x3 : Int32) (x4 : Int32) : ∀ (t : Nat) (x5 : Int32) (x6 : Int32) (s : mS) , w_mostAlike_20 N x1 x2 x3 x4 Kr K t x5 x6 s → (∀ (z5 : Int32) (s : mS), K z5 s → xF G l kX6_mostAlike (d + 1) 0 0 (mQi G a g Kr) 79 [some (.ref (a 51)), some (.int x1), some (.int x2), some (.int x3), some (.int x4), some (.int z5), none] [] (mH G a s g)) → xF G l kX6_mostAlike (d + 1) 0 0 (mQi G a g Kr) 20 [some (.ref (a 51)), some (.int x1), some (.int x2), some (.int x3), some (.int x4), some (.int x5), some (.int x6)] [] (mH G a s g) := by
  intro t
  induction t with
  | zero =>
    intro _ _ _ h _
    exact absurd h (by simp [w_mostAlike_20])
  | succ t ih =>
    intro x5 x6 s h hK
    have hR := fun x5 x6 s h => ih x5 x6 s h hK
    unfold w_mostAlike_20 at h
    refine x_iload_6 dX6_mostAlike_20 ?_
    refine x_aload_0 dX6_mostAlike_22 ?_
    refine m_cVi0 ha rfl cv_X6_112 (Nat.le_of_ble_eq_true rfl) dX6_mostAlike_23 (c_noteMany ha (by omega) h) (fun x101 s102 h => ?_)
    refine x_icmp_ge 79 dX6_mostAlike_26 (by decide) (fun c103 => ?_) (fun c103 => ?_)
    · have h := h.1 c103
      exact x_le (xLe_cons (xLe_cons (xLe_cons (xLe_cons (xLe_cons (xLe_cons (xLe_none (xLe_nil)))))))) (hK _ _ h)
    · have h := h.2 c103
      refine x_iload_5 dX6_mostAlike_29 ?_
      refine x_iload_1 dX6_mostAlike_31 ?_
      refine x_iload_6 dX6_mostAlike_32 ?_
      refine m_cSi2 rfl cs_X6_425 (Nat.le_of_ble_eq_true rfl) dX6_mostAlike_34 (c_isIn (by omega) h) (fun x104 h => ?_)
      refine x_if_eq 69 dX6_mostAlike_37 (by decide) (fun c106 => ?_) (fun c106 => ?_)
      · have h := h.1 c106
        refine x_iconst (v := 0) dX6_mostAlike_69 (by decide) ?_
        refine x_iadd dX6_mostAlike_70 ?_
        refine x_istore_5 dX6_mostAlike_71 (by decide) xN2_i ?_
        have h := h _ rfl
        refine x_iinc_6 (v := 1) dX6_mostAlike_73 (by decide) (by decide) xN2_i ?_
        have h := h _ rfl
        refine x_goto 20 dX6_mostAlike_76 (by decide) ?_
        exact x_le (xLe_cons (xLe_cons (xLe_cons (xLe_cons (xLe_cons (xLe_cons (xLe_cons (xLe_nil)))))))) (hR _ _ _ h)
      · have h := h.2 c106
        refine x_aload_0 dX6_mostAlike_40 ?_
        refine m_get ha dX6_mostAlike_41 fa_X6_88 rfl ?_
        refine x_iconst (v := 4) dX6_mostAlike_44 (by decide) ?_
        refine x_iload_4 dX6_mostAlike_45 ?_
        refine x_imul dX6_mostAlike_47 ?_
        refine x_iload_2 dX6_mostAlike_48 ?_
        refine x_iadd dX6_mostAlike_49 ?_
        obtain ⟨e109, h⟩ := h
        refine m_iald (j := 39) ha dX6_mostAlike_50 (by decide) (by decide) e109 ?_
        refine x_aload_0 dX6_mostAlike_51 ?_
        refine m_get ha dX6_mostAlike_52 fa_X6_88 rfl ?_
        refine x_iconst (v := 4) dX6_mostAlike_55 (by decide) ?_
        refine x_iload_6 dX6_mostAlike_56 ?_
        refine x_imul dX6_mostAlike_58 ?_
        refine x_iload_2 dX6_mostAlike_59 ?_
        refine x_iadd dX6_mostAlike_60 ?_
        obtain ⟨e110, h⟩ := h
        refine m_iald (j := 39) ha dX6_mostAlike_61 (by decide) (by decide) e110 ?_
        refine x_icmp_ne 69 dX6_mostAlike_62 (by decide) (fun c111 => ?_) (fun c111 => ?_)
        · have h := h.1 c111
          refine x_iconst (v := 0) dX6_mostAlike_69 (by decide) ?_
          refine x_iadd dX6_mostAlike_70 ?_
          refine x_istore_5 dX6_mostAlike_71 (by decide) xN2_i ?_
          have h := h _ rfl
          refine x_iinc_6 (v := 1) dX6_mostAlike_73 (by decide) (by decide) xN2_i ?_
          have h := h _ rfl
          refine x_goto 20 dX6_mostAlike_76 (by decide) ?_
          exact x_le (xLe_cons (xLe_cons (xLe_cons (xLe_cons (xLe_cons (xLe_cons (xLe_cons (xLe_nil)))))))) (hR _ _ _ h)
        · have h := h.2 c111
          refine x_iconst (v := 1) dX6_mostAlike_65 (by decide) ?_
          refine x_goto 70 dX6_mostAlike_66 (by decide) ?_
          refine x_iadd dX6_mostAlike_70 ?_
          refine x_istore_5 dX6_mostAlike_71 (by decide) xN2_i ?_
          have h := h _ rfl
          refine x_iinc_6 (v := 1) dX6_mostAlike_73 (by decide) (by decide) xN2_i ?_
          have h := h _ rfl
          refine x_goto 20 dX6_mostAlike_76 (by decide) ?_
          exact x_le (xLe_cons (xLe_cons (xLe_cons (xLe_cons (xLe_cons (xLe_cons (xLe_cons (xLe_nil)))))))) (hR _ _ _ h)
def w_mostAlike_5 (N : Nat × Nat) (x1 : Int32) (x2 : Int32) (Kr : Int32 → mS → Prop) (K : Int32 → mS → Prop) : Nat → Int32 → Int32 → mS → Prop
  | 0, _, _, _ => False
  | t + 1, x3, x4, s => (w_noteMany s (fun x101 s102 => ((x101 ≤ x4 → (K x3 s102)) ∧ (¬ x101 ≤ x4 → (w_mostAlike_20 N x1 x2 x3 x4 Kr (fun x104 s105 => (w_isIn x1 x4 (fun x106 => ((x106 = 0 → (∀ x109 : Int32, x109 = x4 + 1 → ((fun x3 x4 s => w_mostAlike_5 N x1 x2 Kr K t x3 x4 s) x3 x109 s105))) ∧ (¬ x106 = 0 → (w_greater x3 x104 (fun x110 => (∀ x112 : Int32, x112 = x4 + 1 → ((fun x3 x4 s => w_mostAlike_5 N x1 x2 Kr K t x3 x4 s) x110 x112 s105))))))))) N.1 0 0 s102)))))
theorem c_mostAlike_5 {G : xG} {l : Launch} {a : Nat → Nat} {g : xH} (ha : mInj a) {d : Nat} {N : Nat × Nat} (hd : 1 ≤ d) (Kr : Int32 → mS → Prop) (K : Int32 → mS → Prop) (x1 : Int32) (x2 : Int32) : ∀ (t : Nat) (x3 : Int32) (x4 : Int32) (s : mS) , w_mostAlike_5 N x1 x2 Kr K t x3 x4 s → (∀ (z3 : Int32) (s : mS), K z3 s → xF G l kX6_mostAlike (d + 1) 0 0 (mQi G a g Kr) 105 [some (.ref (a 51)), none, none, some (.int z3), none, none, none] [] (mH G a s g)) → xF G l kX6_mostAlike (d + 1) 0 0 (mQi G a g Kr) 5 [some (.ref (a 51)), some (.int x1), some (.int x2), some (.int x3), some (.int x4), none, none] [] (mH G a s g) := by
  intro t
  induction t with
  | zero =>
    intro _ _ _ h _
    exact absurd h (by simp [w_mostAlike_5])
  | succ t ih =>
    intro x3 x4 s h hK
    have hR := fun x3 x4 s h => ih x3 x4 s h hK
    unfold w_mostAlike_5 at h
    refine x_iload_4 dX6_mostAlike_5 ?_
    refine x_aload_0 dX6_mostAlike_7 ?_
    refine m_cVi0 ha rfl cv_X6_112 (Nat.le_of_ble_eq_true rfl) dX6_mostAlike_8 (c_noteMany ha (by omega) h) (fun x101 s102 h => ?_)
    refine x_icmp_ge 105 dX6_mostAlike_11 (by decide) (fun c103 => ?_) (fun c103 => ?_)
    · have h := h.1 c103
      exact x_le (xLe_cons (xLe_none (xLe_none (xLe_cons (xLe_none (xLe_cons (xLe_cons (xLe_nil)))))))) (hK _ _ h)
    · have h := h.2 c103
      refine x_iconst (v := 0) dX6_mostAlike_14 (by decide) ?_
      refine x_istore_5 dX6_mostAlike_15 (by decide) xN2_i ?_
      refine x_iconst (v := 0) dX6_mostAlike_17 (by decide) ?_
      refine x_istore_6 dX6_mostAlike_18 (by decide) xN2_i ?_
      refine x_le (xLe_cons (xLe_cons (xLe_cons (xLe_cons (xLe_cons (xLe_cons (xLe_cons (xLe_nil)))))))) (c_mostAlike_20 ha (by omega) _ _ _ _ _ _ _ _ _ _ h (fun x104 s105 h => ?_))
      refine x_iload_1 dX6_mostAlike_79 ?_
      refine x_iload_4 dX6_mostAlike_80 ?_
      refine m_cSi2 rfl cs_X6_425 (Nat.le_of_ble_eq_true rfl) dX6_mostAlike_82 (c_isIn (by omega) h) (fun x106 h => ?_)
      refine x_if_eq 97 dX6_mostAlike_85 (by decide) (fun c108 => ?_) (fun c108 => ?_)
      · have h := h.1 c108
        refine x_iload_3 dX6_mostAlike_97 ?_
        refine x_istore_3 dX6_mostAlike_98 (by decide) xN2_i ?_
        refine x_iinc_4 (v := 1) dX6_mostAlike_99 (by decide) (by decide) xN2_i ?_
        have h := h _ rfl
        refine x_goto 5 dX6_mostAlike_102 (by decide) ?_
        exact x_le (xLe_cons (xLe_cons (xLe_cons (xLe_cons (xLe_cons (xLe_none (xLe_cons (xLe_nil)))))))) (hR _ _ _ h)
      · have h := h.2 c108
        refine x_iload_3 dX6_mostAlike_88 ?_
        refine x_iload_5 dX6_mostAlike_89 ?_
        refine m_cSi2 rfl cs_X6_397 (Nat.le_of_ble_eq_true rfl) dX6_mostAlike_91 (c_greater (by omega) h) (fun x110 h => ?_)
        refine x_goto 98 dX6_mostAlike_94 (by decide) ?_
        refine x_istore_3 dX6_mostAlike_98 (by decide) xN2_i ?_
        refine x_iinc_4 (v := 1) dX6_mostAlike_99 (by decide) (by decide) xN2_i ?_
        have h := h _ rfl
        refine x_goto 5 dX6_mostAlike_102 (by decide) ?_
        exact x_le (xLe_cons (xLe_cons (xLe_cons (xLe_cons (xLe_cons (xLe_none (xLe_cons (xLe_nil)))))))) (hR _ _ _ h)
def w_mostAlike (N : Nat × Nat) (x1 : Int32) (x2 : Int32) (s : mS) (Kr : Int32 → mS → Prop) : Prop :=
  (w_mostAlike_5 N x1 x2 Kr (fun x101 s102 => (Kr x101 s102)) N.1 0 0 s)
theorem c_mostAlike {G : xG} {l : Launch} {a : Nat → Nat} {g : xH} (ha : mInj a) {d : Nat} {N : Nat × Nat} (hd : 2 ≤ d) {x1 : Int32} {x2 : Int32} {s : mS} {Kr : Int32 → mS → Prop} (h : w_mostAlike N x1 x2 s Kr) : xC G l kX6_mostAlike d 0 0 [.ref (a 51), .int x1, .int x2] (mH G a s g) (mQi G a g Kr) := by
  obtain ⟨d, rfl⟩ : ∃ z, d = z + 1 := ⟨d - 1, by omega⟩
  refine xC.start rfl (by decide +kernel) (Nat.le_of_ble_eq_true rfl) (lv := [some (.ref (a 51)), some (.int x1), some (.int x2), none, none, none, none]) rfl ?_
  unfold w_mostAlike at h
  refine x_iconst (v := 0) dX6_mostAlike_0 (by decide) ?_
  refine x_istore_3 dX6_mostAlike_1 (by decide) xN2_i ?_
  refine x_iconst (v := 0) dX6_mostAlike_2 (by decide) ?_
  refine x_istore_4 dX6_mostAlike_3 (by decide) xN2_i ?_
  refine x_le (xLe_cons (xLe_cons (xLe_cons (xLe_cons (xLe_cons (xLe_cons (xLe_cons (xLe_nil)))))))) (c_mostAlike_5 ha (by omega) _ _ _ _ _ _ _ _ h (fun x101 s102 h => ?_))
  refine x_iload_3 dX6_mostAlike_105 ?_
  exact x_iret dX6_mostAlike_106 rfl ⟨_, _, h, rfl, rfl⟩
def w_ones_4 (N : Nat × Nat) (x0 : Int32) (Kr : Int32 → Prop) (K : Int32 → Prop) : Nat → Int32 → Int32 → Prop
  | 0, _, _ => False
  | t + 1, x1, x2 => ((12 ≤ x2 → (K x1)) ∧ (¬ 12 ≤ x2 → (∀ x102 : Int32, x102 = x1 + ((x0 >>> (x2 &&& 31)) &&& 1) → (∀ x103 : Int32, x103 = x2 + 1 → ((fun x1 x2 => w_ones_4 N x0 Kr K t x1 x2) x102 x103)))))
theorem c_ones_4 {G : xG} {l : Launch} {h0 : xH} {d : Nat} {N : Nat × Nat} (hd : 0 ≤ d) (Kr : Int32 → Prop) (K : Int32 → Prop) (x0 : Int32) : ∀ (t : Nat) (x1 : Int32) (x2 : Int32) , w_ones_4 N x0 Kr K t x1 x2 → (∀ (z1 : Int32), K z1 → xF G l kX6_ones (d + 1) 0 0 (xQi h0 Kr) 24 [none, some (.int z1), none] [] h0) → xF G l kX6_ones (d + 1) 0 0 (xQi h0 Kr) 4 [some (.int x0), some (.int x1), some (.int x2)] [] h0 := by
  intro t
  induction t with
  | zero =>
    intro _ _ h _
    exact absurd h (by simp [w_ones_4])
  | succ t ih =>
    intro x1 x2 h hK
    have hR := fun x1 x2 h => ih x1 x2 h hK
    unfold w_ones_4 at h
    refine x_iload_2 dX6_ones_4 ?_
    refine x_bipush (v := 12) dX6_ones_5 (by decide) ?_
    refine x_icmp_ge 24 dX6_ones_7 (by decide) (fun c101 => ?_) (fun c101 => ?_)
    · have h := h.1 c101
      exact x_le (xLe_none (xLe_cons (xLe_none (xLe_nil)))) (hK _ h)
    · have h := h.2 c101
      refine x_iload_1 dX6_ones_10 ?_
      refine x_iload_0 dX6_ones_11 ?_
      refine x_iload_2 dX6_ones_12 ?_
      refine x_ishr dX6_ones_13 ?_
      refine x_iconst (v := 1) dX6_ones_14 (by decide) ?_
      refine x_iand dX6_ones_15 ?_
      refine x_iadd dX6_ones_16 ?_
      refine x_istore_1 dX6_ones_17 (by decide) xN2_i ?_
      have h := h _ rfl
      refine x_iinc_2 (v := 1) dX6_ones_18 (by decide) (by decide) xN2_i ?_
      have h := h _ rfl
      refine x_goto 4 dX6_ones_21 (by decide) ?_
      exact x_le (xLe_cons (xLe_cons (xLe_cons (xLe_nil)))) (hR _ _ h)
def w_ones (N : Nat × Nat) (x0 : Int32) (Kr : Int32 → Prop) : Prop :=
  (w_ones_4 N x0 Kr (fun x101 => (Kr x101)) N.1 0 0)
theorem c_ones {G : xG} {l : Launch} {h0 : xH} {d : Nat} {N : Nat × Nat} (hd : 1 ≤ d) {x0 : Int32} {Kr : Int32 → Prop} (h : w_ones N x0 Kr) : xC G l kX6_ones d 0 0 [.int x0] h0 (xQi h0 Kr) := by
  obtain ⟨d, rfl⟩ : ∃ z, d = z + 1 := ⟨d - 1, by omega⟩
  refine xC.start rfl (by decide +kernel) (Nat.le_of_ble_eq_true rfl) (lv := [some (.int x0), none, none]) rfl ?_
  unfold w_ones at h
  refine x_iconst (v := 0) dX6_ones_0 (by decide) ?_
  refine x_istore_1 dX6_ones_1 (by decide) xN2_i ?_
  refine x_iconst (v := 0) dX6_ones_2 (by decide) ?_
  refine x_istore_2 dX6_ones_3 (by decide) xN2_i ?_
  refine x_le (xLe_cons (xLe_cons (xLe_cons (xLe_nil)))) (c_ones_4 (by omega) _ _ _ _ _ _ h (fun x101 h => ?_))
  refine x_iload_1 dX6_ones_24 ?_
  exact x_iret dX6_ones_25 rfl ⟨_, h, rfl, rfl⟩
def w_listen_26 (N : Nat × Nat) (x1 : Int32) (x2 : Int32) (Kr : Int32 → mS → Prop) (K : Int32 → Int32 → mS → Prop) : Nat → Int32 → Int32 → Int32 → mS → Prop
  | 0, _, _, _, _ => False
  | t + 1, x3, x4, x5, s => ((4 ≤ x5 → (K x3 x4 s)) ∧ (¬ 4 ≤ x5 → (w_ones N x2 (fun x102 => ((x102 ≤ 0 → (K x3 x4 s)) ∧ (¬ x102 ≤ 0 → (w_mostAlike N x2 x5 s (fun x105 s106 => ((x105 < x4 → (∀ x108 : Int32, x108 = x5 + 1 → ((fun x3 x4 x5 s => w_listen_26 N x1 x2 Kr K t x3 x4 x5 s) x5 x105 x108 s106))) ∧ (¬ x105 < x4 → (∀ x109 : Int32, x109 = x5 + 1 → ((fun x3 x4 x5 s => w_listen_26 N x1 x2 Kr K t x3 x4 x5 s) x3 x4 x109 s106))))))))))))
theorem c_listen_26 {G : xG} {l : Launch} {a : Nat → Nat} {g : xH} (ha : mInj a) {d : Nat} {N : Nat × Nat} (hd : 2 * N.2 + 9 ≤ d) (Kr : Int32 → mS → Prop) (K : Int32 → Int32 → mS → Prop) (x1 : Int32) (x2 : Int32) : ∀ (t : Nat) (x3 : Int32) (x4 : Int32) (x5 : Int32) (s : mS) , w_listen_26 N x1 x2 Kr K t x3 x4 x5 s → (∀ (z3 : Int32) (z4 : Int32) (s : mS), K z3 z4 s → xF G l kX6_listen (d + 1) 0 0 (mQi G a g Kr) 71 [some (.ref (a 51)), some (.int x1), none, some (.int z3), some (.int z4), none, none] [] (mH G a s g)) → xF G l kX6_listen (d + 1) 0 0 (mQi G a g Kr) 26 [some (.ref (a 51)), some (.int x1), some (.int x2), some (.int x3), some (.int x4), some (.int x5), none] [] (mH G a s g) := by
  intro t
  induction t with
  | zero =>
    intro _ _ _ _ h _
    exact absurd h (by simp [w_listen_26])
  | succ t ih =>
    intro x3 x4 x5 s h hK
    have hR := fun x3 x4 x5 s h => ih x3 x4 x5 s h hK
    unfold w_listen_26 at h
    refine x_iload_5 dX6_listen_26 ?_
    refine x_iconst (v := 4) dX6_listen_28 (by decide) ?_
    refine x_icmp_ge 71 dX6_listen_29 (by decide) (fun c101 => ?_) (fun c101 => ?_)
    · have h := h.1 c101
      exact x_le (xLe_cons (xLe_cons (xLe_none (xLe_cons (xLe_cons (xLe_none (xLe_cons (xLe_nil)))))))) (hK _ _ _ h)
    · have h := h.2 c101
      refine x_iload_2 dX6_listen_32 ?_
      refine m_cSi1 rfl cs_X6_431 (Nat.le_of_ble_eq_true rfl) dX6_listen_33 (c_ones (by omega) h) (fun x102 h => ?_)
      refine x_if_le 71 dX6_listen_36 (by decide) (fun c104 => ?_) (fun c104 => ?_)
      · have h := h.1 c104
        exact x_le (xLe_cons (xLe_cons (xLe_none (xLe_cons (xLe_cons (xLe_none (xLe_cons (xLe_nil)))))))) (hK _ _ _ h)
      · have h := h.2 c104
        refine x_aload_0 dX6_listen_39 ?_
        refine x_iload_2 dX6_listen_40 ?_
        refine x_iload_5 dX6_listen_41 ?_
        refine m_cVi2 ha rfl cv_X6_434 (Nat.le_of_ble_eq_true rfl) dX6_listen_43 (c_mostAlike ha (by omega) h) (fun x105 s106 h => ?_)
        refine x_istore_6 dX6_listen_46 (by decide) xN2_i ?_
        refine x_iload_6 dX6_listen_48 ?_
        refine x_iload_4 dX6_listen_50 ?_
        refine x_icmp_lt 58 dX6_listen_52 (by decide) (fun c107 => ?_) (fun c107 => ?_)
        · have h := h.1 c107
          refine x_iload_6 dX6_listen_58 ?_
          refine x_istore_4 dX6_listen_60 (by decide) xN2_i ?_
          refine x_iload_5 dX6_listen_62 ?_
          refine x_istore_3 dX6_listen_64 (by decide) xN2_i ?_
          refine x_iinc_5 (v := 1) dX6_listen_65 (by decide) (by decide) xN2_i ?_
          have h := h _ rfl
          refine x_goto 26 dX6_listen_68 (by decide) ?_
          exact x_le (xLe_cons (xLe_cons (xLe_cons (xLe_cons (xLe_cons (xLe_cons (xLe_none (xLe_nil)))))))) (hR _ _ _ _ h)
        · have h := h.2 c107
          refine x_goto 65 dX6_listen_55 (by decide) ?_
          refine x_iinc_5 (v := 1) dX6_listen_65 (by decide) (by decide) xN2_i ?_
          have h := h _ rfl
          refine x_goto 26 dX6_listen_68 (by decide) ?_
          exact x_le (xLe_cons (xLe_cons (xLe_cons (xLe_cons (xLe_cons (xLe_cons (xLe_none (xLe_nil)))))))) (hR _ _ _ _ h)
def w_listen (N : Nat × Nat) (x1 : Int32) (s : mS) (Kr : Int32 → mS → Prop) : Prop :=
  (w_lies x1 0 1 (fun x101 => ((¬ x101 = 0 → (w_canBe N s (fun x104 s105 => (w_listen_26 N x1 x104 Kr (fun x106 x107 s108 => ((x106 = (-1) → (Kr x106 s108)) ∧ (¬ x106 = (-1) → ((¬ x1 = 0 → (Kr x107 s108)) ∧ (x1 = 0 → (Kr x106 s108)))))) N.1 (-1) 100000000 0 s105)))) ∧ (x101 = 0 → (Kr (-1) s)))))
theorem c_listen {G : xG} {l : Launch} {a : Nat → Nat} {g : xH} (ha : mInj a) {d : Nat} {N : Nat × Nat} (hd : 2 * N.2 + 10 ≤ d) {x1 : Int32} {s : mS} {Kr : Int32 → mS → Prop} (h : w_listen N x1 s Kr) : xC G l kX6_listen d 0 0 [.ref (a 51), .int x1] (mH G a s g) (mQi G a g Kr) := by
  obtain ⟨d, rfl⟩ : ∃ z, d = z + 1 := ⟨d - 1, by omega⟩
  refine xC.start rfl (by decide +kernel) (Nat.le_of_ble_eq_true rfl) (lv := [some (.ref (a 51)), some (.int x1), none, none, none, none, none]) rfl ?_
  unfold w_listen at h
  refine x_iload_1 dX6_listen_0 ?_
  refine x_iconst (v := 0) dX6_listen_1 (by decide) ?_
  refine x_iconst (v := 1) dX6_listen_2 (by decide) ?_
  refine m_cSi3 rfl cs_X6_18 (Nat.le_of_ble_eq_true rfl) dX6_listen_3 (c_lies (by omega) h) (fun x101 h => ?_)
  refine x_if_ne 11 dX6_listen_6 (by decide) (fun c103 => ?_) (fun c103 => ?_)
  · have h := h.1 c103
    refine x_aload_0 dX6_listen_11 ?_
    refine m_cVi0 ha rfl cv_X6_428 (Nat.le_of_ble_eq_true rfl) dX6_listen_12 (c_canBe ha (by omega) h) (fun x104 s105 h => ?_)
    refine x_istore_2 dX6_listen_15 (by decide) xN2_i ?_
    refine x_iconst (v := (-1)) dX6_listen_16 (by decide) ?_
    refine x_istore_3 dX6_listen_17 (by decide) xN2_i ?_
    refine x_ldcw dX6_listen_18 q2102 ?_
    refine x_istore_4 dX6_listen_21 (by decide) xN2_i ?_
    refine x_iconst (v := 0) dX6_listen_23 (by decide) ?_
    refine x_istore_5 dX6_listen_24 (by decide) xN2_i ?_
    refine x_le (xLe_cons (xLe_cons (xLe_cons (xLe_cons (xLe_cons (xLe_cons (xLe_cons (xLe_nil)))))))) (c_listen_26 ha (by omega) _ _ _ _ _ _ _ _ _ h (fun x106 x107 s108 h => ?_))
    refine x_iload_3 dX6_listen_71 ?_
    refine x_iconst (v := (-1)) dX6_listen_72 (by decide) ?_
    refine x_icmp_eq 80 dX6_listen_73 (by decide) (fun c109 => ?_) (fun c109 => ?_)
    · have h := h.1 c109
      refine x_iload_3 dX6_listen_80 ?_
      refine x_goto 86 dX6_listen_81 (by decide) ?_
      exact x_iret dX6_listen_86 rfl ⟨_, _, h, rfl, rfl⟩
    · have h := h.2 c109
      refine x_iload_1 dX6_listen_76 ?_
      refine x_if_ne 84 dX6_listen_77 (by decide) (fun c110 => ?_) (fun c110 => ?_)
      · have h := h.1 c110
        refine x_iload_4 dX6_listen_84 ?_
        exact x_iret dX6_listen_86 rfl ⟨_, _, h, rfl, rfl⟩
      · have h := h.2 c110
        refine x_iload_3 dX6_listen_80 ?_
        refine x_goto 86 dX6_listen_81 (by decide) ?_
        exact x_iret dX6_listen_86 rfl ⟨_, _, h, rfl, rfl⟩
  · have h := h.2 c103
    refine x_iconst (v := (-1)) dX6_listen_9 (by decide) ?_
    exact x_iret dX6_listen_10 rfl ⟨_, _, h, rfl, rfl⟩
def w_mend (N : Nat × Nat) (x1 : Int32) (s : mS) (Kr : Int32 → mS → Prop) : Prop :=
  (w_voiceOf N x1 1 s (fun x101 s102 => (Kr x101 s102)))
theorem c_mend {G : xG} {l : Launch} {a : Nat → Nat} {g : xH} (ha : mInj a) {d : Nat} {N : Nat × Nat} (hd : 2 * N.2 + 11 ≤ d) {x1 : Int32} {s : mS} {Kr : Int32 → mS → Prop} (h : w_mend N x1 s Kr) : xC G l kX6_mend d 0 0 [.ref (a 51), .int x1] (mH G a s g) (mQi G a g Kr) := by
  obtain ⟨d, rfl⟩ : ∃ z, d = z + 1 := ⟨d - 1, by omega⟩
  refine xC.start rfl (by decide +kernel) (Nat.le_of_ble_eq_true rfl) (lv := [some (.ref (a 51)), some (.int x1)]) rfl ?_
  unfold w_mend at h
  refine x_aload_0 dX6_mend_0 ?_
  refine x_iload_1 dX6_mend_1 ?_
  refine x_iconst (v := 1) dX6_mend_2 (by decide) ?_
  refine m_cVi2 ha rfl cv_X6_387 (Nat.le_of_ble_eq_true rfl) dX6_mend_3 (c_voiceOf ha (by omega) h) (fun x101 s102 h => ?_)
  exact x_iret dX6_mend_6 rfl ⟨_, _, h, rfl, rfl⟩
def w_mostFrom_13 (N : Nat × Nat) (x1 : Int32) (x2 : Int32) (Kr : Int32 → mS → Prop) (K : Int32 → mS → Prop) : Nat → Int32 → Int32 → mS → Prop
  | 0, _, _, _ => False
  | t + 1, x3, x4, s => (vp_in 40 5652 ∧ (((mAt s 2 40) < x4 → (K x3 s)) ∧ (¬ (mAt s 2 40) < x4 → (w_noteAt x1 x2 x4 (fun x103 => (vp_in x103 7500 ∧ (((mAt s 36 x103) = 0 → (∀ x107 : Int32, x107 = x4 + 1 → ((fun x3 x4 s => w_mostFrom_13 N x1 x2 Kr K t x3 x4 s) x3 x107 s))) ∧ (¬ (mAt s 36 x103) = 0 → (w_noteAt x1 x2 x4 (fun x108 => (vp_in x108 7500 ∧ (vp_in ((25 * x1) + x4) 300 ∧ (w_greater x3 ((mAt s 35 x108) + (mAt s 37 ((25 * x1) + x4))) (fun x112 => (∀ x114 : Int32, x114 = x4 + 1 → ((fun x3 x4 s => w_mostFrom_13 N x1 x2 Kr K t x3 x4 s) x112 x114 s))))))))))))))))
theorem c_mostFrom_13 {G : xG} {l : Launch} {a : Nat → Nat} {g : xH} (ha : mInj a) {d : Nat} {N : Nat × Nat} (hd : 1 ≤ d) (Kr : Int32 → mS → Prop) (K : Int32 → mS → Prop) (x1 : Int32) (x2 : Int32) : ∀ (t : Nat) (x3 : Int32) (x4 : Int32) (s : mS) , w_mostFrom_13 N x1 x2 Kr K t x3 x4 s → (∀ (z3 : Int32) (s : mS), K z3 s → xF G l kX6_mostFrom (d + 1) 0 0 (mQi G a g Kr) 76 [some (.ref (a 51)), none, none, some (.int z3), none] [] (mH G a s g)) → xF G l kX6_mostFrom (d + 1) 0 0 (mQi G a g Kr) 13 [some (.ref (a 51)), some (.int x1), some (.int x2), some (.int x3), some (.int x4)] [] (mH G a s g) := by
  intro t
  induction t with
  | zero =>
    intro _ _ _ h _
    exact absurd h (by simp [w_mostFrom_13])
  | succ t ih =>
    intro x3 x4 s h hK
    have hR := fun x3 x4 s h => ih x3 x4 s h hK
    unfold w_mostFrom_13 at h
    refine x_iload_4 dX6_mostFrom_13 ?_
    refine x_aload_0 dX6_mostFrom_15 ?_
    refine m_get ha dX6_mostFrom_16 fa_X6_28 rfl ?_
    refine x_bipush (v := 40) dX6_mostFrom_19 (by decide) ?_
    obtain ⟨e101, h⟩ := h
    refine m_iald (j := 2) ha dX6_mostFrom_21 (by decide) (by decide) e101 ?_
    refine x_icmp_gt 76 dX6_mostFrom_22 (by decide) (fun c102 => ?_) (fun c102 => ?_)
    · have h := h.1 c102
      exact x_le (xLe_cons (xLe_none (xLe_none (xLe_cons (xLe_none (xLe_nil)))))) (hK _ _ h)
    · have h := h.2 c102
      refine x_aload_0 dX6_mostFrom_25 ?_
      refine m_get ha dX6_mostFrom_26 fa_X6_78 rfl ?_
      refine x_iload_1 dX6_mostFrom_29 ?_
      refine x_iload_2 dX6_mostFrom_30 ?_
      refine x_iload_4 dX6_mostFrom_31 ?_
      refine m_cSi3 rfl cs_X6_354 (Nat.le_of_ble_eq_true rfl) dX6_mostFrom_33 (c_noteAt (by omega) h) (fun x103 h => ?_)
      obtain ⟨e105, h⟩ := h
      refine m_zald (j := 36) ha dX6_mostFrom_36 (by decide) (by decide) e105 ?_
      refine x_if_eq 70 dX6_mostFrom_37 (by decide) (fun c106 => ?_) (fun c106 => ?_)
      · have h := h.1 c106
        refine x_iinc_4 (v := 1) dX6_mostFrom_70 (by decide) (by decide) xN2_i ?_
        have h := h _ rfl
        refine x_goto 13 dX6_mostFrom_73 (by decide) ?_
        exact x_le (xLe_cons (xLe_cons (xLe_cons (xLe_cons (xLe_cons (xLe_nil)))))) (hR _ _ _ h)
      · have h := h.2 c106
        refine x_iload_3 dX6_mostFrom_40 ?_
        refine x_aload_0 dX6_mostFrom_41 ?_
        refine m_get ha dX6_mostFrom_42 fa_X6_75 rfl ?_
        refine x_iload_1 dX6_mostFrom_45 ?_
        refine x_iload_2 dX6_mostFrom_46 ?_
        refine x_iload_4 dX6_mostFrom_47 ?_
        refine m_cSi3 rfl cs_X6_354 (Nat.le_of_ble_eq_true rfl) dX6_mostFrom_49 (c_noteAt (by omega) h) (fun x108 h => ?_)
        obtain ⟨e110, h⟩ := h
        refine m_iald (j := 35) ha dX6_mostFrom_52 (by decide) (by decide) e110 ?_
        refine x_aload_0 dX6_mostFrom_53 ?_
        refine m_get ha dX6_mostFrom_54 fa_X6_81 rfl ?_
        refine x_bipush (v := 25) dX6_mostFrom_57 (by decide) ?_
        refine x_iload_1 dX6_mostFrom_59 ?_
        refine x_imul dX6_mostFrom_60 ?_
        refine x_iload_4 dX6_mostFrom_61 ?_
        refine x_iadd dX6_mostFrom_63 ?_
        obtain ⟨e111, h⟩ := h
        refine m_iald (j := 37) ha dX6_mostFrom_64 (by decide) (by decide) e111 ?_
        refine x_iadd dX6_mostFrom_65 ?_
        refine m_cSi2 rfl cs_X6_397 (Nat.le_of_ble_eq_true rfl) dX6_mostFrom_66 (c_greater (by omega) h) (fun x112 h => ?_)
        refine x_istore_3 dX6_mostFrom_69 (by decide) xN2_i ?_
        refine x_iinc_4 (v := 1) dX6_mostFrom_70 (by decide) (by decide) xN2_i ?_
        have h := h _ rfl
        refine x_goto 13 dX6_mostFrom_73 (by decide) ?_
        exact x_le (xLe_cons (xLe_cons (xLe_cons (xLe_cons (xLe_cons (xLe_nil)))))) (hR _ _ _ h)
def w_mostFrom (N : Nat × Nat) (x1 : Int32) (x2 : Int32) (s : mS) (Kr : Int32 → mS → Prop) : Prop :=
  (vp_in 39 5652 ∧ (∀ x102 : Int32, x102 = mAt s 2 39 → (w_mostFrom_13 N x1 x2 Kr (fun x103 s104 => (Kr x103 s104)) N.1 (-100000000) x102 s)))
theorem c_mostFrom {G : xG} {l : Launch} {a : Nat → Nat} {g : xH} (ha : mInj a) {d : Nat} {N : Nat × Nat} (hd : 2 ≤ d) {x1 : Int32} {x2 : Int32} {s : mS} {Kr : Int32 → mS → Prop} (h : w_mostFrom N x1 x2 s Kr) : xC G l kX6_mostFrom d 0 0 [.ref (a 51), .int x1, .int x2] (mH G a s g) (mQi G a g Kr) := by
  obtain ⟨d, rfl⟩ : ∃ z, d = z + 1 := ⟨d - 1, by omega⟩
  refine xC.start rfl (by decide +kernel) (Nat.le_of_ble_eq_true rfl) (lv := [some (.ref (a 51)), some (.int x1), some (.int x2), none, none]) rfl ?_
  unfold w_mostFrom at h
  refine x_ldcw dX6_mostFrom_0 q2134 ?_
  refine x_istore_3 dX6_mostFrom_3 (by decide) xN2_i ?_
  refine x_aload_0 dX6_mostFrom_4 ?_
  refine m_get ha dX6_mostFrom_5 fa_X6_28 rfl ?_
  refine x_bipush (v := 39) dX6_mostFrom_8 (by decide) ?_
  obtain ⟨e101, h⟩ := h
  refine m_iald (j := 2) ha dX6_mostFrom_10 (by decide) (by decide) e101 ?_
  refine x_istore_4 dX6_mostFrom_11 (by decide) xN2_i ?_
  have h := h _ rfl
  refine x_le (xLe_cons (xLe_cons (xLe_cons (xLe_cons (xLe_cons (xLe_nil)))))) (c_mostFrom_13 ha (by omega) _ _ _ _ _ _ _ _ h (fun x103 s104 h => ?_))
  refine x_iload_3 dX6_mostFrom_76 ?_
  exact x_iret dX6_mostFrom_77 rfl ⟨_, _, h, rfl, rfl⟩
def w_movesKept (N : Nat × Nat) (x1 : Int32) (x2 : Int32) (x3 : Int32) (x4 : Int32) (s : mS) (Kr : Int32 → mS → Prop) : Prop :=
  (w_isPitch x4 (fun x101 => ((¬ x101 = 0 → (w_isNote x3 s (fun x104 s105 => ((¬ x104 = 0 → (vp_in (x2 + x3) 5652 ∧ (∀ x108 : Int32, x108 = mAt s105 2 (x2 + x3) → ((¬ x108 = x4 → (w_keeps N x1 s105 (fun s111 => (vp_in (x2 + x3) 5652 ∧ (∀ s113 : mS, s113 = mI s111 2 (x2 + x3) x4 → (Kr x108 s113)))))) ∧ (x108 = x4 → (Kr (-3) s105)))))) ∧ (x104 = 0 → (Kr (-2) s105)))))) ∧ (x101 = 0 → (Kr (-1) s)))))
theorem c_movesKept {G : xG} {l : Launch} {a : Nat → Nat} {g : xH} (ha : mInj a) {d : Nat} {N : Nat × Nat} (hd : 3 ≤ d) {x1 : Int32} {x2 : Int32} {x3 : Int32} {x4 : Int32} {s : mS} {Kr : Int32 → mS → Prop} (h : w_movesKept N x1 x2 x3 x4 s Kr) : xC G l kX6_movesKept d 0 0 [.ref (a 51), .int x1, .int x2, .int x3, .int x4] (mH G a s g) (mQi G a g Kr) := by
  obtain ⟨d, rfl⟩ : ∃ z, d = z + 1 := ⟨d - 1, by omega⟩
  refine xC.start rfl (by decide +kernel) (Nat.le_of_ble_eq_true rfl) (lv := [some (.ref (a 51)), some (.int x1), some (.int x2), some (.int x3), some (.int x4), none]) rfl ?_
  unfold w_movesKept at h
  refine x_iload_4 dX6_movesKept_0 ?_
  refine m_cSi1 rfl cs_X6_116 (Nat.le_of_ble_eq_true rfl) dX6_movesKept_2 (c_isPitch (by omega) h) (fun x101 h => ?_)
  refine x_if_ne 10 dX6_movesKept_5 (by decide) (fun c103 => ?_) (fun c103 => ?_)
  · have h := h.1 c103
    refine x_aload_0 dX6_movesKept_10 ?_
    refine x_iload_3 dX6_movesKept_11 ?_
    refine m_cVi1 ha rfl cv_X6_124 (Nat.le_of_ble_eq_true rfl) dX6_movesKept_12 (c_isNote ha (by omega) h) (fun x104 s105 h => ?_)
    refine x_if_ne 21 dX6_movesKept_15 (by decide) (fun c106 => ?_) (fun c106 => ?_)
    · have h := h.1 c106
      refine x_aload_0 dX6_movesKept_21 ?_
      refine m_get ha dX6_movesKept_22 fa_X6_28 rfl ?_
      refine x_iload_2 dX6_movesKept_25 ?_
      refine x_iload_3 dX6_movesKept_26 ?_
      refine x_iadd dX6_movesKept_27 ?_
      obtain ⟨e107, h⟩ := h
      refine m_iald (j := 2) ha dX6_movesKept_28 (by decide) (by decide) e107 ?_
      refine x_istore_5 dX6_movesKept_29 (by decide) xN2_i ?_
      have h := h _ rfl
      refine x_iload_5 dX6_movesKept_31 ?_
      refine x_iload_4 dX6_movesKept_33 ?_
      refine x_icmp_ne 41 dX6_movesKept_35 (by decide) (fun c109 => ?_) (fun c109 => ?_)
      · have h := h.1 c109
        refine x_aload_0 dX6_movesKept_41 ?_
        refine x_iload_1 dX6_movesKept_42 ?_
        refine m_cVv1 ha rfl cv_X6_335 (Nat.le_of_ble_eq_true rfl) dX6_movesKept_43 (c_keeps ha (by omega) h) (fun s111 h => ?_)
        refine x_aload_0 dX6_movesKept_46 ?_
        refine m_get ha dX6_movesKept_47 fa_X6_28 rfl ?_
        refine x_iload_2 dX6_movesKept_50 ?_
        refine x_iload_3 dX6_movesKept_51 ?_
        refine x_iadd dX6_movesKept_52 ?_
        refine x_iload_4 dX6_movesKept_53 ?_
        obtain ⟨e112, h⟩ := h
        refine m_iast (j := 2) ha dX6_movesKept_55 (by decide) (by decide) e112 ?_
        have h := h _ rfl
        refine x_iload_5 dX6_movesKept_56 ?_
        exact x_iret dX6_movesKept_58 rfl ⟨_, _, h, rfl, rfl⟩
      · have h := h.2 c109
        refine x_bipush (v := (-3)) dX6_movesKept_38 (by decide) ?_
        exact x_iret dX6_movesKept_40 rfl ⟨_, _, h, rfl, rfl⟩
    · have h := h.2 c106
      refine x_bipush (v := (-2)) dX6_movesKept_18 (by decide) ?_
      exact x_iret dX6_movesKept_20 rfl ⟨_, _, h, rfl, rfl⟩
  · have h := h.2 c103
    refine x_iconst (v := (-1)) dX6_movesKept_8 (by decide) ?_
    exact x_iret dX6_movesKept_9 rfl ⟨_, _, h, rfl, rfl⟩
def w_note (x1 : Int32) (x2 : Int32) (s : mS) (Kr : Int32 → mS → Prop) : Prop :=
  (w_isPitch x1 (fun x101 => ((x101 = 0 → (w_refuses (-1) s (fun x104 s105 => (Kr x104 s105)))) ∧ (¬ x101 = 0 → (w_isPitch x2 (fun x106 => ((¬ x106 = 0 → (w_noteMany s (fun x109 s110 => ((¬ x109 = 12 → (w_adds x1 x2 s110 (fun s113 => (w_noteMany s113 (fun x114 s115 => (w_settled (x114 - 1) s115 (fun x116 s117 => (Kr x116 s117)))))))) ∧ (x109 = 12 → (w_refuses (-5) s110 (fun x118 s119 => (Kr x118 s119)))))))) ∧ (x106 = 0 → (w_refuses (-1) s (fun x120 s121 => (Kr x120 s121)))))))))))
theorem c_note {G : xG} {l : Launch} {a : Nat → Nat} {g : xH} (ha : mInj a) {d : Nat} (hd : 3 ≤ d) {x1 : Int32} {x2 : Int32} {s : mS} {Kr : Int32 → mS → Prop} (h : w_note x1 x2 s Kr) : xC G l kX6_note d 0 0 [.ref (a 51), .int x1, .int x2] (mH G a s g) (mQi G a g Kr) := by
  obtain ⟨d, rfl⟩ : ∃ z, d = z + 1 := ⟨d - 1, by omega⟩
  refine xC.start rfl (by decide +kernel) (Nat.le_of_ble_eq_true rfl) (lv := [some (.ref (a 51)), some (.int x1), some (.int x2)]) rfl ?_
  unfold w_note at h
  refine x_iload_1 dX6_note_0 ?_
  refine m_cSi1 rfl cs_X6_116 (Nat.le_of_ble_eq_true rfl) dX6_note_1 (c_isPitch (by omega) h) (fun x101 h => ?_)
  refine x_if_eq 14 dX6_note_4 (by decide) (fun c103 => ?_) (fun c103 => ?_)
  · have h := h.1 c103
    refine x_aload_0 dX6_note_14 ?_
    refine x_iconst (v := (-1)) dX6_note_15 (by decide) ?_
    refine m_cVi1 ha rfl cv_X6_106 (Nat.le_of_ble_eq_true rfl) dX6_note_16 (c_refuses ha (by omega) h) (fun x104 s105 h => ?_)
    exact x_iret dX6_note_19 rfl ⟨_, _, h, rfl, rfl⟩
  · have h := h.2 c103
    refine x_iload_2 dX6_note_7 ?_
    refine m_cSi1 rfl cs_X6_116 (Nat.le_of_ble_eq_true rfl) dX6_note_8 (c_isPitch (by omega) h) (fun x106 h => ?_)
    refine x_if_ne 20 dX6_note_11 (by decide) (fun c108 => ?_) (fun c108 => ?_)
    · have h := h.1 c108
      refine x_aload_0 dX6_note_20 ?_
      refine m_cVi0 ha rfl cv_X6_112 (Nat.le_of_ble_eq_true rfl) dX6_note_21 (c_noteMany ha (by omega) h) (fun x109 s110 h => ?_)
      refine x_bipush (v := 12) dX6_note_24 (by decide) ?_
      refine x_icmp_ne 36 dX6_note_26 (by decide) (fun c111 => ?_) (fun c111 => ?_)
      · have h := h.1 c111
        refine x_aload_0 dX6_note_36 ?_
        refine x_iload_1 dX6_note_37 ?_
        refine x_iload_2 dX6_note_38 ?_
        refine m_cVv2 ha rfl cv_X6_120 (Nat.le_of_ble_eq_true rfl) dX6_note_39 (c_adds ha (by omega) h) (fun s113 h => ?_)
        refine x_aload_0 dX6_note_42 ?_
        refine x_aload_0 dX6_note_43 ?_
        refine m_cVi0 ha rfl cv_X6_112 (Nat.le_of_ble_eq_true rfl) dX6_note_44 (c_noteMany ha (by omega) h) (fun x114 s115 h => ?_)
        refine x_iconst (v := 1) dX6_note_47 (by decide) ?_
        refine x_isub dX6_note_48 ?_
        refine m_cVi1 ha rfl cv_X6_109 (Nat.le_of_ble_eq_true rfl) dX6_note_49 (c_settled ha (by omega) h) (fun x116 s117 h => ?_)
        exact x_iret dX6_note_52 rfl ⟨_, _, h, rfl, rfl⟩
      · have h := h.2 c111
        refine x_aload_0 dX6_note_29 ?_
        refine x_bipush (v := (-5)) dX6_note_30 (by decide) ?_
        refine m_cVi1 ha rfl cv_X6_106 (Nat.le_of_ble_eq_true rfl) dX6_note_32 (c_refuses ha (by omega) h) (fun x118 s119 h => ?_)
        exact x_iret dX6_note_35 rfl ⟨_, _, h, rfl, rfl⟩
    · have h := h.2 c108
      refine x_aload_0 dX6_note_14 ?_
      refine x_iconst (v := (-1)) dX6_note_15 (by decide) ?_
      refine m_cVi1 ha rfl cv_X6_106 (Nat.le_of_ble_eq_true rfl) dX6_note_16 (c_refuses ha (by omega) h) (fun x120 s121 h => ?_)
      exact x_iret dX6_note_19 rfl ⟨_, _, h, rfl, rfl⟩
def w_passesKept (N : Nat × Nat) (s : mS) (Kr : Int32 → mS → Prop) : Prop :=
  (vp_in 24 5652 ∧ ((¬ (mAt s 2 24) = 999 → (w_allOf N 2 s (fun x103 s104 => (w_keeps N 3 s104 (fun s106 => (vp_in 24 5652 ∧ (vp_in 24 5652 ∧ (∀ s109 : mS, s109 = mI s106 2 24 ((mAt s106 2 24) + 1) → (Kr x103 s109))))))))) ∧ ((mAt s 2 24) = 999 → (Kr (-3) s))))
theorem c_passesKept {G : xG} {l : Launch} {a : Nat → Nat} {g : xH} (ha : mInj a) {d : Nat} {N : Nat × Nat} (hd : 2 * N.2 + 9 ≤ d) {s : mS} {Kr : Int32 → mS → Prop} (h : w_passesKept N s Kr) : xC G l kX6_passesKept d 0 0 [.ref (a 51)] (mH G a s g) (mQi G a g Kr) := by
  obtain ⟨d, rfl⟩ : ∃ z, d = z + 1 := ⟨d - 1, by omega⟩
  refine xC.start rfl (by decide +kernel) (Nat.le_of_ble_eq_true rfl) (lv := [some (.ref (a 51)), none]) rfl ?_
  unfold w_passesKept at h
  refine x_aload_0 dX6_passesKept_0 ?_
  refine m_get ha dX6_passesKept_1 fa_X6_28 rfl ?_
  refine x_bipush (v := 24) dX6_passesKept_4 (by decide) ?_
  obtain ⟨e101, h⟩ := h
  refine m_iald (j := 2) ha dX6_passesKept_6 (by decide) (by decide) e101 ?_
  refine x_sipush (v := 999) dX6_passesKept_7 (by decide) ?_
  refine x_icmp_ne 16 dX6_passesKept_10 (by decide) (fun c102 => ?_) (fun c102 => ?_)
  · have h := h.1 c102
    refine x_aload_0 dX6_passesKept_16 ?_
    refine x_iconst (v := 2) dX6_passesKept_17 (by decide) ?_
    refine m_cVi1 ha rfl cv_X6_332 (Nat.le_of_ble_eq_true rfl) dX6_passesKept_18 (c_allOf ha (by omega) h) (fun x103 s104 h => ?_)
    refine x_istore_1 dX6_passesKept_21 (by decide) xN2_r ?_
    refine x_aload_0 dX6_passesKept_22 ?_
    refine x_iconst (v := 3) dX6_passesKept_23 (by decide) ?_
    refine m_cVv1 ha rfl cv_X6_335 (Nat.le_of_ble_eq_true rfl) dX6_passesKept_24 (c_keeps ha (by omega) h) (fun s106 h => ?_)
    refine x_aload_0 dX6_passesKept_27 ?_
    refine m_get ha dX6_passesKept_28 fa_X6_28 rfl ?_
    refine x_bipush (v := 24) dX6_passesKept_31 (by decide) ?_
    refine x_dup2 dX6_passesKept_33 rfl rfl ?_
    obtain ⟨e107, h⟩ := h
    refine m_iald (j := 2) ha dX6_passesKept_34 (by decide) (by decide) e107 ?_
    refine x_iconst (v := 1) dX6_passesKept_35 (by decide) ?_
    refine x_iadd dX6_passesKept_36 ?_
    obtain ⟨e108, h⟩ := h
    refine m_iast (j := 2) ha dX6_passesKept_37 (by decide) (by decide) e108 ?_
    have h := h _ rfl
    refine x_iload_1 dX6_passesKept_38 ?_
    exact x_iret dX6_passesKept_39 rfl ⟨_, _, h, rfl, rfl⟩
  · have h := h.2 c102
    refine x_bipush (v := (-3)) dX6_passesKept_13 (by decide) ?_
    exact x_iret dX6_passesKept_15 rfl ⟨_, _, h, rfl, rfl⟩
def w_small (x0 : Int64) (Kr : Int32 → Prop) : Prop :=
  (((lg_cmp x0 0) < 0 → (Kr (-1))) ∧ (¬ (lg_cmp x0 0) < 0 → (((lg_cmp x0 1000000) ≤ 0 → (Kr ((x0 : Int64).toInt32))) ∧ (¬ (lg_cmp x0 1000000) ≤ 0 → (Kr (-1))))))
theorem c_small {G : xG} {l : Launch} {h0 : xH} {d : Nat} (hd : 1 ≤ d) {x0 : Int64} {Kr : Int32 → Prop} (h : w_small x0 Kr) : xC G l kX6_small d 0 0 [.long x0] h0 (xQi h0 Kr) := by
  obtain ⟨d, rfl⟩ : ∃ z, d = z + 1 := ⟨d - 1, by omega⟩
  refine xC.start rfl (by decide +kernel) (Nat.le_of_ble_eq_true rfl) (lv := [some (.long x0), none]) rfl ?_
  unfold w_small at h
  refine x_lload_0 dX6_small_0 ?_
  refine x_lconst (v := 0) dX6_small_1 (by decide) ?_
  refine x_lcmp dX6_small_2 ?_
  refine x_if_lt 14 dX6_small_3 (by decide) (fun c101 => ?_) (fun c101 => ?_)
  · have h := h.1 c101
    refine x_iconst (v := (-1)) dX6_small_14 (by decide) ?_
    refine x_goto 20 dX6_small_15 (by decide) ?_
    exact x_iret dX6_small_20 rfl ⟨_, h, rfl, rfl⟩
  · have h := h.2 c101
    refine x_lload_0 dX6_small_6 ?_
    refine x_ldc2 dX6_small_7 q2255 ?_
    refine x_lcmp dX6_small_10 ?_
    refine x_if_le 18 dX6_small_11 (by decide) (fun c102 => ?_) (fun c102 => ?_)
    · have h := h.1 c102
      refine x_lload_0 dX6_small_18 ?_
      refine x_l2i dX6_small_19 ?_
      exact x_iret dX6_small_20 rfl ⟨_, h, rfl, rfl⟩
    · have h := h.2 c102
      refine x_iconst (v := (-1)) dX6_small_14 (by decide) ?_
      refine x_goto 20 dX6_small_15 (by decide) ?_
      exact x_iret dX6_small_20 rfl ⟨_, h, rfl, rfl⟩
def w_swapsKept (N : Nat × Nat) (s : mS) (Kr : Int32 → mS → Prop) : Prop :=
  (w_noteMany s (fun x101 s102 => ((¬ x101 = 0 → (w_keeps N 2 s102 (fun s105 => (w_exchanges N s105 (fun s107 => (w_noteMany s107 (fun x108 s109 => (Kr x108 s109)))))))) ∧ (x101 = 0 → (Kr (-3) s102)))))
theorem c_swapsKept {G : xG} {l : Launch} {a : Nat → Nat} {g : xH} (ha : mInj a) {d : Nat} {N : Nat × Nat} (hd : 3 ≤ d) {s : mS} {Kr : Int32 → mS → Prop} (h : w_swapsKept N s Kr) : xC G l kX6_swapsKept d 0 0 [.ref (a 51)] (mH G a s g) (mQi G a g Kr) := by
  obtain ⟨d, rfl⟩ : ∃ z, d = z + 1 := ⟨d - 1, by omega⟩
  refine xC.start rfl (by decide +kernel) (Nat.le_of_ble_eq_true rfl) (lv := [some (.ref (a 51))]) rfl ?_
  unfold w_swapsKept at h
  refine x_aload_0 dX6_swapsKept_0 ?_
  refine m_cVi0 ha rfl cv_X6_112 (Nat.le_of_ble_eq_true rfl) dX6_swapsKept_1 (c_noteMany ha (by omega) h) (fun x101 s102 h => ?_)
  refine x_if_ne 10 dX6_swapsKept_4 (by decide) (fun c103 => ?_) (fun c103 => ?_)
  · have h := h.1 c103
    refine x_aload_0 dX6_swapsKept_10 ?_
    refine x_iconst (v := 2) dX6_swapsKept_11 (by decide) ?_
    refine m_cVv1 ha rfl cv_X6_335 (Nat.le_of_ble_eq_true rfl) dX6_swapsKept_12 (c_keeps ha (by omega) h) (fun s105 h => ?_)
    refine x_aload_0 dX6_swapsKept_15 ?_
    refine m_cVv0 ha rfl cv_X6_338 (Nat.le_of_ble_eq_true rfl) dX6_swapsKept_16 (c_exchanges ha (by omega) h) (fun s107 h => ?_)
    refine x_aload_0 dX6_swapsKept_19 ?_
    refine m_cVi0 ha rfl cv_X6_112 (Nat.le_of_ble_eq_true rfl) dX6_swapsKept_20 (c_noteMany ha (by omega) h) (fun x108 s109 h => ?_)
    exact x_iret dX6_swapsKept_23 rfl ⟨_, _, h, rfl, rfl⟩
  · have h := h.2 c103
    refine x_bipush (v := (-3)) dX6_swapsKept_7 (by decide) ?_
    exact x_iret dX6_swapsKept_9 rfl ⟨_, _, h, rfl, rfl⟩
def w_obeys (N : Nat × Nat) (s : mS) (Kr : Int32 → mS → Prop) : Prop :=
  (∀ x101 : Int32, x101 = mFd s 44 → ((x101 = 22 → (vp_in 0 2 ∧ (w_small (mLt s 47 0) (fun x104 => (vp_in 1 2 ∧ (w_small (mLt s 47 1) (fun x107 => (w_movesKept N 0 0 x104 x107 s (fun x109 s110 => (Kr x109 s110)))))))))) ∧ (x101 = 23 → (vp_in 0 2 ∧ (w_small (mLt s 47 0) (fun x113 => (vp_in 1 2 ∧ (w_small (mLt s 47 1) (fun x116 => (w_movesKept N 1 12 x113 x116 s (fun x118 s119 => (Kr x118 s119)))))))))) ∧ (x101 = 24 → (w_swapsKept N s (fun x121 s122 => (Kr x121 s122)))) ∧ (¬ x101 = 22 → ¬ x101 = 23 → ¬ x101 = 24 → (w_passesKept N s (fun x123 s124 => ((0 ≤ x123 → (∀ s126 : mS, s126 = mF s124 28 x123 → (Kr x123 s126))) ∧ (¬ 0 ≤ x123 → (∀ s127 : mS, s127 = mF s124 28 (mFd s124 28) → (Kr x123 s127)))))))))
theorem c_obeys {G : xG} {l : Launch} {a : Nat → Nat} {g : xH} (ha : mInj a) {d : Nat} {N : Nat × Nat} (hd : 2 * N.2 + 10 ≤ d) {s : mS} {Kr : Int32 → mS → Prop} (h : w_obeys N s Kr) : xC G l kX6_obeys d 0 0 [.ref (a 51)] (mH G a s g) (mQi G a g Kr) := by
  obtain ⟨d, rfl⟩ : ∃ z, d = z + 1 := ⟨d - 1, by omega⟩
  refine xC.start rfl (by decide +kernel) (Nat.le_of_ble_eq_true rfl) (lv := [some (.ref (a 51)), none]) rfl ?_
  unfold w_obeys at h
  refine x_aload_0 dX6_obeys_0 ?_
  refine m_get ha dX6_obeys_1 fa_X6_455 rfl ?_
  refine x_topi (fun x101 ex101 => ?_)
  have h := h x101 ex101
  by_cases c102 : x101 = 22
  · have h := h.1 c102
    refine x_cast rfl rfl (by rw [c102]) ?_
    refine x_tabIn 32 dX6_obeys_4 (by decide) (by decide) (off := 28) (by decide) (by decide) ?_
    refine x_aload_0 dX6_obeys_32 ?_
    refine x_iconst (v := 0) dX6_obeys_33 (by decide) ?_
    refine x_iconst (v := 0) dX6_obeys_34 (by decide) ?_
    refine x_aload_0 dX6_obeys_35 ?_
    refine m_get ha dX6_obeys_36 fa_X6_97 rfl ?_
    refine x_iconst (v := 0) dX6_obeys_39 (by decide) ?_
    obtain ⟨e103, h⟩ := h
    refine m_lald (j := 47) ha dX6_obeys_40 (by decide) (by decide) e103 ?_
    refine m_cSi1 rfl cs_X6_469 (Nat.le_of_ble_eq_true rfl) dX6_obeys_41 (c_small (by omega) h) (fun x104 h => ?_)
    refine x_aload_0 dX6_obeys_44 ?_
    refine m_get ha dX6_obeys_45 fa_X6_97 rfl ?_
    refine x_iconst (v := 1) dX6_obeys_48 (by decide) ?_
    obtain ⟨e106, h⟩ := h
    refine m_lald (j := 47) ha dX6_obeys_49 (by decide) (by decide) e106 ?_
    refine m_cSi1 rfl cs_X6_469 (Nat.le_of_ble_eq_true rfl) dX6_obeys_50 (c_small (by omega) h) (fun x107 h => ?_)
    refine m_cVi4 ha rfl cv_X6_341 (Nat.le_of_ble_eq_true rfl) dX6_obeys_53 (c_movesKept ha (by omega) h) (fun x109 s110 h => ?_)
    exact x_iret dX6_obeys_56 rfl ⟨_, _, h, rfl, rfl⟩
  by_cases c111 : x101 = 23
  · have h := h.2.1 c111
    refine x_cast rfl rfl (by rw [c111]) ?_
    refine x_tabIn 57 dX6_obeys_4 (by decide) (by decide) (off := 53) (by decide) (by decide) ?_
    refine x_aload_0 dX6_obeys_57 ?_
    refine x_iconst (v := 1) dX6_obeys_58 (by decide) ?_
    refine x_bipush (v := 12) dX6_obeys_59 (by decide) ?_
    refine x_aload_0 dX6_obeys_61 ?_
    refine m_get ha dX6_obeys_62 fa_X6_97 rfl ?_
    refine x_iconst (v := 0) dX6_obeys_65 (by decide) ?_
    obtain ⟨e112, h⟩ := h
    refine m_lald (j := 47) ha dX6_obeys_66 (by decide) (by decide) e112 ?_
    refine m_cSi1 rfl cs_X6_469 (Nat.le_of_ble_eq_true rfl) dX6_obeys_67 (c_small (by omega) h) (fun x113 h => ?_)
    refine x_aload_0 dX6_obeys_70 ?_
    refine m_get ha dX6_obeys_71 fa_X6_97 rfl ?_
    refine x_iconst (v := 1) dX6_obeys_74 (by decide) ?_
    obtain ⟨e115, h⟩ := h
    refine m_lald (j := 47) ha dX6_obeys_75 (by decide) (by decide) e115 ?_
    refine m_cSi1 rfl cs_X6_469 (Nat.le_of_ble_eq_true rfl) dX6_obeys_76 (c_small (by omega) h) (fun x116 h => ?_)
    refine m_cVi4 ha rfl cv_X6_341 (Nat.le_of_ble_eq_true rfl) dX6_obeys_79 (c_movesKept ha (by omega) h) (fun x118 s119 h => ?_)
    exact x_iret dX6_obeys_82 rfl ⟨_, _, h, rfl, rfl⟩
  by_cases c120 : x101 = 24
  · have h := h.2.2.1 c120
    refine x_cast rfl rfl (by rw [c120]) ?_
    refine x_tabIn 83 dX6_obeys_4 (by decide) (by decide) (off := 79) (by decide) (by decide) ?_
    refine x_aload_0 dX6_obeys_83 ?_
    refine m_cVi0 ha rfl cv_X6_348 (Nat.le_of_ble_eq_true rfl) dX6_obeys_84 (c_swapsKept ha (by omega) h) (fun x121 s122 h => ?_)
    exact x_iret dX6_obeys_87 rfl ⟨_, _, h, rfl, rfl⟩
  have h := h.2.2.2 c102 c111 c120
  have z0 := xti (v := 22) (z := 22) (by decide) c102
  have z1 := xti (v := 23) (z := 23) (by decide) c111
  have z2 := xti (v := 24) (z := 24) (by decide) c120
  refine x_tabOut 88 dX6_obeys_4 (by omega) (by decide) ?_
  refine x_aload_0 dX6_obeys_88 ?_
  refine m_cVi0 ha rfl cv_X6_351 (Nat.le_of_ble_eq_true rfl) dX6_obeys_89 (c_passesKept ha (by omega) h) (fun x123 s124 h => ?_)
  refine x_istore_1 dX6_obeys_92 (by decide) xN2_r ?_
  refine x_aload_0 dX6_obeys_93 ?_
  refine x_iload_1 dX6_obeys_94 ?_
  refine x_if_ge 105 dX6_obeys_95 (by decide) (fun c125 => ?_) (fun c125 => ?_)
  · have h := h.1 c125
    refine x_iload_1 dX6_obeys_105 ?_
    refine m_put ha dX6_obeys_106 fp_X6_300 (mfs_28 _ _ _) (by decide) rfl rfl ?_
    have h := h _ rfl
    refine x_iload_1 dX6_obeys_109 ?_
    exact x_iret dX6_obeys_110 rfl ⟨_, _, h, rfl, rfl⟩
  · have h := h.2 c125
    refine x_aload_0 dX6_obeys_98 ?_
    refine m_get ha dX6_obeys_99 fa_X6_300 rfl ?_
    refine x_goto 106 dX6_obeys_102 (by decide) ?_
    refine m_put ha dX6_obeys_106 fp_X6_300 (mfs_28 _ _ _) (by decide) rfl rfl ?_
    have h := h _ rfl
    refine x_iload_1 dX6_obeys_109 ?_
    exact x_iret dX6_obeys_110 rfl ⟨_, _, h, rfl, rfl⟩
def w_of (N : Nat × Nat) (x1 : Int32) (x2 : Int32) (s : mS) (Kr : Int32 → mS → Prop) : Prop :=
  (w_isNote x1 s (fun x101 s102 => ((¬ x101 = 0 → (w_takesNow x1 s102 (fun s105 => ((x2 = 0 → (vp_in (12 + x1) 5652 ∧ (Kr (mAt s105 2 (12 + x1)) s105))) ∧ (x2 = 1 → (vp_in (0 + x1) 5652 ∧ (Kr (mAt s105 2 (0 + x1)) s105))) ∧ (x2 = 2 → (w_costsNow N s105 (fun x111 s112 => (Kr x111 s112)))) ∧ (x2 = 3 → (w_earnsNow N s105 (fun x114 s115 => (Kr x114 s115)))) ∧ (x2 = 4 → (w_isBarred N s105 (fun x117 s118 => ((x117 = 0 → (Kr 0 s118)) ∧ (¬ x117 = 0 → (Kr 1 s118)))))) ∧ (¬ x2 = 0 → ¬ x2 = 1 → ¬ x2 = 2 → ¬ x2 = 3 → ¬ x2 = 4 → (Kr (-1) s105)))))) ∧ (x101 = 0 → (Kr (-1) s102)))))
theorem c_of {G : xG} {l : Launch} {a : Nat → Nat} {g : xH} (ha : mInj a) {d : Nat} {N : Nat × Nat} (hd : 2 * N.2 + 8 ≤ d) {x1 : Int32} {x2 : Int32} {s : mS} {Kr : Int32 → mS → Prop} (h : w_of N x1 x2 s Kr) : xC G l kX6_of d 0 0 [.ref (a 51), .int x1, .int x2] (mH G a s g) (mQi G a g Kr) := by
  obtain ⟨d, rfl⟩ : ∃ z, d = z + 1 := ⟨d - 1, by omega⟩
  refine xC.start rfl (by decide +kernel) (Nat.le_of_ble_eq_true rfl) (lv := [some (.ref (a 51)), some (.int x1), some (.int x2)]) rfl ?_
  unfold w_of at h
  refine x_aload_0 dX6_of_0 ?_
  refine x_iload_1 dX6_of_1 ?_
  refine m_cVi1 ha rfl cv_X6_124 (Nat.le_of_ble_eq_true rfl) dX6_of_2 (c_isNote ha (by omega) h) (fun x101 s102 h => ?_)
  refine x_if_ne 10 dX6_of_5 (by decide) (fun c103 => ?_) (fun c103 => ?_)
  · have h := h.1 c103
    refine x_aload_0 dX6_of_10 ?_
    refine x_iload_1 dX6_of_11 ?_
    refine m_cVv1 ha rfl cv_X6_127 (Nat.le_of_ble_eq_true rfl) dX6_of_12 (c_takesNow ha (by omega) h) (fun s105 h => ?_)
    refine x_iload_2 dX6_of_15 ?_
    by_cases c106 : x2 = 0
    · have h := h.1 c106
      refine x_cast rfl rfl (by rw [c106]) ?_
      refine x_tabIn 52 dX6_of_16 (by decide) (by decide) (off := 36) (by decide) (by decide) ?_
      refine x_aload_0 dX6_of_52 ?_
      refine m_get ha dX6_of_53 fa_X6_28 rfl ?_
      refine x_bipush (v := 12) dX6_of_56 (by decide) ?_
      refine x_iload_1 dX6_of_58 ?_
      refine x_iadd dX6_of_59 ?_
      obtain ⟨e107, h⟩ := h
      refine m_iald (j := 2) ha dX6_of_60 (by decide) (by decide) e107 ?_
      exact x_iret dX6_of_61 rfl ⟨_, _, h, rfl, rfl⟩
    by_cases c108 : x2 = 1
    · have h := h.2.1 c108
      refine x_cast rfl rfl (by rw [c108]) ?_
      refine x_tabIn 62 dX6_of_16 (by decide) (by decide) (off := 46) (by decide) (by decide) ?_
      refine x_aload_0 dX6_of_62 ?_
      refine m_get ha dX6_of_63 fa_X6_28 rfl ?_
      refine x_iconst (v := 0) dX6_of_66 (by decide) ?_
      refine x_iload_1 dX6_of_67 ?_
      refine x_iadd dX6_of_68 ?_
      obtain ⟨e109, h⟩ := h
      refine m_iald (j := 2) ha dX6_of_69 (by decide) (by decide) e109 ?_
      exact x_iret dX6_of_70 rfl ⟨_, _, h, rfl, rfl⟩
    by_cases c110 : x2 = 2
    · have h := h.2.2.1 c110
      refine x_cast rfl rfl (by rw [c110]) ?_
      refine x_tabIn 71 dX6_of_16 (by decide) (by decide) (off := 55) (by decide) (by decide) ?_
      refine x_aload_0 dX6_of_71 ?_
      refine m_cVi0 ha rfl cv_X6_131 (Nat.le_of_ble_eq_true rfl) dX6_of_72 (c_costsNow ha (by omega) h) (fun x111 s112 h => ?_)
      exact x_iret dX6_of_75 rfl ⟨_, _, h, rfl, rfl⟩
    by_cases c113 : x2 = 3
    · have h := h.2.2.2.1 c113
      refine x_cast rfl rfl (by rw [c113]) ?_
      refine x_tabIn 76 dX6_of_16 (by decide) (by decide) (off := 60) (by decide) (by decide) ?_
      refine x_aload_0 dX6_of_76 ?_
      refine m_cVi0 ha rfl cv_X6_134 (Nat.le_of_ble_eq_true rfl) dX6_of_77 (c_earnsNow ha (by omega) h) (fun x114 s115 h => ?_)
      exact x_iret dX6_of_80 rfl ⟨_, _, h, rfl, rfl⟩
    by_cases c116 : x2 = 4
    · have h := h.2.2.2.2.1 c116
      refine x_cast rfl rfl (by rw [c116]) ?_
      refine x_tabIn 81 dX6_of_16 (by decide) (by decide) (off := 65) (by decide) (by decide) ?_
      refine x_aload_0 dX6_of_81 ?_
      refine m_cVi0 ha rfl cv_X6_137 (Nat.le_of_ble_eq_true rfl) dX6_of_82 (c_isBarred ha (by omega) h) (fun x117 s118 h => ?_)
      refine x_if_eq 92 dX6_of_85 (by decide) (fun c119 => ?_) (fun c119 => ?_)
      · have h := h.1 c119
        refine x_iconst (v := 0) dX6_of_92 (by decide) ?_
        exact x_iret dX6_of_93 rfl ⟨_, _, h, rfl, rfl⟩
      · have h := h.2 c119
        refine x_iconst (v := 1) dX6_of_88 (by decide) ?_
        refine x_goto 93 dX6_of_89 (by decide) ?_
        exact x_iret dX6_of_93 rfl ⟨_, _, h, rfl, rfl⟩
    have h := h.2.2.2.2.2 c106 c108 c110 c113 c116
    have z0 := xti (v := 0) (z := 0) (by decide) c106
    have z1 := xti (v := 1) (z := 1) (by decide) c108
    have z2 := xti (v := 2) (z := 2) (by decide) c110
    have z3 := xti (v := 3) (z := 3) (by decide) c113
    have z4 := xti (v := 4) (z := 4) (by decide) c116
    refine x_tabOut 94 dX6_of_16 (by omega) (by decide) ?_
    refine x_iconst (v := (-1)) dX6_of_94 (by decide) ?_
    exact x_iret dX6_of_95 rfl ⟨_, _, h, rfl, rfl⟩
  · have h := h.2 c103
    refine x_iconst (v := (-1)) dX6_of_8 (by decide) ?_
    exact x_iret dX6_of_9 rfl ⟨_, _, h, rfl, rfl⟩
def w_runs_19 (N : Nat × Nat) (x1 : Int32) (x2 : Int32) (x3 : Int32) (Kr : Int32 → mS → Prop) (K : mS → Prop) : Nat → Int32 → mS → Prop
  | 0, _, _ => False
  | t + 1, x4, s => ((x2 ≤ x4 → (K s)) ∧ (¬ x2 ≤ x4 → (w_goesAlong N x1 1 s (fun s103 => ((¬ (mFd s103 46) = 0 → (((mFd s103 45) = 0 → (Kr 0 s103)) ∧ (¬ (mFd s103 45) = 0 → (w_obeys N s103 (fun x106 s107 => ((0 ≤ x106 → (∀ s109 : mS, s109 = mF s107 27 ((mFd s107 27) + 1) → (∀ x110 : Int32, x110 = x4 + 1 → ((fun x4 s => w_runs_19 N x1 x2 x3 Kr K t x4 s) x110 s109)))) ∧ (¬ 0 ≤ x106 → (Kr 0 s107)))))))) ∧ ((mFd s103 46) = 0 → (∀ x111 : Int32, x111 = x4 + 1 → ((fun x4 s => w_runs_19 N x1 x2 x3 Kr K t x4 s) x111 s103))))))))
theorem c_runs_19 {G : xG} {l : Launch} {a : Nat → Nat} {g : xH} (ha : mInj a) {d : Nat} {N : Nat × Nat} (hd : 2 * N.2 + 10 ≤ d) (Kr : Int32 → mS → Prop) (K : mS → Prop) (x1 : Int32) (x2 : Int32) (x3 : Int32) : ∀ (t : Nat) (x4 : Int32) (s : mS) , w_runs_19 N x1 x2 x3 Kr K t x4 s → (∀ (s : mS), K s → xF G l kX6_runs (d + 1) 0 0 (mQi G a g Kr) 73 [some (.ref (a 51)), none, none, some (.int x3), none] [] (mH G a s g)) → xF G l kX6_runs (d + 1) 0 0 (mQi G a g Kr) 19 [some (.ref (a 51)), some (.int x1), some (.int x2), some (.int x3), some (.int x4)] [] (mH G a s g) := by
  intro t
  induction t with
  | zero =>
    intro _ _ h _
    exact absurd h (by simp [w_runs_19])
  | succ t ih =>
    intro x4 s h hK
    have hR := fun x4 s h => ih x4 s h hK
    unfold w_runs_19 at h
    refine x_iload_4 dX6_runs_19 ?_
    refine x_iload_2 dX6_runs_21 ?_
    refine x_icmp_ge 73 dX6_runs_22 (by decide) (fun c101 => ?_) (fun c101 => ?_)
    · have h := h.1 c101
      exact x_le (xLe_cons (xLe_none (xLe_none (xLe_cons (xLe_none (xLe_nil)))))) (hK _ h)
    · have h := h.2 c101
      refine x_aload_0 dX6_runs_25 ?_
      refine x_iload_1 dX6_runs_26 ?_
      refine x_iconst (v := 1) dX6_runs_27 (by decide) ?_
      refine m_cVv2 ha rfl cv_X6_473 (Nat.le_of_ble_eq_true rfl) dX6_runs_28 (c_goesAlong ha (by omega) h) (fun s103 h => ?_)
      refine x_aload_0 dX6_runs_31 ?_
      refine m_get ha dX6_runs_32 fa_X6_464 rfl ?_
      refine x_if_ne 41 dX6_runs_35 (by decide) (fun c104 => ?_) (fun c104 => ?_)
      · have h := h.1 c104
        refine x_aload_0 dX6_runs_41 ?_
        refine m_get ha dX6_runs_42 fa_X6_458 rfl ?_
        refine x_if_eq 55 dX6_runs_45 (by decide) (fun c105 => ?_) (fun c105 => ?_)
        · have h := h.1 c105
          refine x_iconst (v := 0) dX6_runs_55 (by decide) ?_
          exact x_zret0 dX6_runs_56 rfl ⟨_, _, h, rfl, rfl⟩
        · have h := h.2 c105
          refine x_aload_0 dX6_runs_48 ?_
          refine m_cVi0 ha rfl cv_X6_477 (Nat.le_of_ble_eq_true rfl) dX6_runs_49 (c_obeys ha (by omega) h) (fun x106 s107 h => ?_)
          refine x_if_ge 57 dX6_runs_52 (by decide) (fun c108 => ?_) (fun c108 => ?_)
          · have h := h.1 c108
            refine x_aload_0 dX6_runs_57 ?_
            refine x_dup dX6_runs_58 rfl ?_
            refine m_get ha dX6_runs_59 fa_X6_297 rfl ?_
            refine x_iconst (v := 1) dX6_runs_62 (by decide) ?_
            refine x_iadd dX6_runs_63 ?_
            refine m_put ha dX6_runs_64 fp_X6_297 (mfs_27 _ _ _) (by decide) rfl rfl ?_
            have h := h _ rfl
            refine x_iinc_4 (v := 1) dX6_runs_67 (by decide) (by decide) xN2_i ?_
            have h := h _ rfl
            refine x_goto 19 dX6_runs_70 (by decide) ?_
            exact x_le (xLe_cons (xLe_cons (xLe_cons (xLe_cons (xLe_cons (xLe_nil)))))) (hR _ _ h)
          · have h := h.2 c108
            refine x_iconst (v := 0) dX6_runs_55 (by decide) ?_
            exact x_zret0 dX6_runs_56 rfl ⟨_, _, h, rfl, rfl⟩
      · have h := h.2 c104
        refine x_goto 67 dX6_runs_38 (by decide) ?_
        refine x_iinc_4 (v := 1) dX6_runs_67 (by decide) (by decide) xN2_i ?_
        have h := h _ rfl
        refine x_goto 19 dX6_runs_70 (by decide) ?_
        exact x_le (xLe_cons (xLe_cons (xLe_cons (xLe_cons (xLe_cons (xLe_nil)))))) (hR _ _ h)
def w_runs (N : Nat × Nat) (x1 : Int32) (s : mS) (Kr : Int32 → mS → Prop) : Prop :=
  (w_goesAlong N x1 0 s (fun s102 => (∀ x103 : Int32, x103 = mFd s102 43 → (∀ x104 : Int32, x104 = mFd s102 22 → (w_runs_19 N x1 x103 x104 Kr (fun s105 => (∀ s106 : mS, s106 = mF s105 42 x104 → (Kr 1 s106))) N.1 0 s102)))))
theorem c_runs {G : xG} {l : Launch} {a : Nat → Nat} {g : xH} (ha : mInj a) {d : Nat} {N : Nat × Nat} (hd : 2 * N.2 + 11 ≤ d) {x1 : Int32} {s : mS} {Kr : Int32 → mS → Prop} (h : w_runs N x1 s Kr) : xC G l kX6_runs d 0 0 [.ref (a 51), .int x1] (mH G a s g) (mQi G a g Kr) := by
  obtain ⟨d, rfl⟩ : ∃ z, d = z + 1 := ⟨d - 1, by omega⟩
  refine xC.start rfl (by decide +kernel) (Nat.le_of_ble_eq_true rfl) (lv := [some (.ref (a 51)), some (.int x1), none, none, none]) rfl ?_
  unfold w_runs at h
  refine x_aload_0 dX6_runs_0 ?_
  refine x_iload_1 dX6_runs_1 ?_
  refine x_iconst (v := 0) dX6_runs_2 (by decide) ?_
  refine m_cVv2 ha rfl cv_X6_473 (Nat.le_of_ble_eq_true rfl) dX6_runs_3 (c_goesAlong ha (by omega) h) (fun s102 h => ?_)
  refine x_aload_0 dX6_runs_6 ?_
  refine m_get ha dX6_runs_7 fa_X6_461 rfl ?_
  refine x_istore_2 dX6_runs_10 (by decide) xN2_i ?_
  have h := h _ rfl
  refine x_aload_0 dX6_runs_11 ?_
  refine m_get ha dX6_runs_12 fa_X6_261 rfl ?_
  refine x_istore_3 dX6_runs_15 (by decide) xN2_i ?_
  have h := h _ rfl
  refine x_iconst (v := 0) dX6_runs_16 (by decide) ?_
  refine x_istore_4 dX6_runs_17 (by decide) xN2_i ?_
  refine x_le (xLe_cons (xLe_cons (xLe_cons (xLe_cons (xLe_cons (xLe_nil)))))) (c_runs_19 ha (by omega) _ _ _ _ _ _ _ _ h (fun s105 h => ?_))
  refine x_aload_0 dX6_runs_73 ?_
  refine x_iload_3 dX6_runs_74 ?_
  refine m_put ha dX6_runs_75 fp_X6_446 (mfs_42 _ _ _) (by decide) rfl rfl ?_
  have h := h _ rfl
  refine x_iconst (v := 1) dX6_runs_78 (by decide) ?_
  exact x_zret1 dX6_runs_79 rfl ⟨_, _, h, rfl, rfl⟩
def w_takesBack_2 (N : Nat × Nat) (x1 : Int32) (Kr : mS → Prop) (K : mS → Prop) : Nat → Int32 → mS → Prop
  | 0, _, _ => False
  | t + 1, x2, s => ((25 ≤ x2 → (K s)) ∧ (¬ 25 ≤ x2 → (vp_in ((25 * x1) + x2) 50 ∧ (vp_in x2 5652 ∧ (∀ s104 : mS, s104 = mI s 2 x2 (mAt s 5 ((25 * x1) + x2)) → (∀ x105 : Int32, x105 = x2 + 1 → ((fun x2 s => w_takesBack_2 N x1 Kr K t x2 s) x105 s104)))))))
theorem c_takesBack_2 {G : xG} {l : Launch} {a : Nat → Nat} {g : xH} (ha : mInj a) {d : Nat} {N : Nat × Nat} (hd : 0 ≤ d) (Kr : mS → Prop) (K : mS → Prop) (x1 : Int32) : ∀ (t : Nat) (x2 : Int32) (s : mS) , w_takesBack_2 N x1 Kr K t x2 s → (∀ (s : mS), K s → xF G l kX6_takesBack (d + 1) 0 0 (mQv G a g Kr) 31 [some (.ref (a 51)), none, none] [] (mH G a s g)) → xF G l kX6_takesBack (d + 1) 0 0 (mQv G a g Kr) 2 [some (.ref (a 51)), some (.int x1), some (.int x2)] [] (mH G a s g) := by
  intro t
  induction t with
  | zero =>
    intro _ _ h _
    exact absurd h (by simp [w_takesBack_2])
  | succ t ih =>
    intro x2 s h hK
    have hR := fun x2 s h => ih x2 s h hK
    unfold w_takesBack_2 at h
    refine x_iload_2 dX6_takesBack_2 ?_
    refine x_bipush (v := 25) dX6_takesBack_3 (by decide) ?_
    refine x_icmp_ge 31 dX6_takesBack_5 (by decide) (fun c101 => ?_) (fun c101 => ?_)
    · have h := h.1 c101
      exact x_le (xLe_cons (xLe_none (xLe_none (xLe_nil)))) (hK _ h)
    · have h := h.2 c101
      refine x_aload_0 dX6_takesBack_8 ?_
      refine m_get ha dX6_takesBack_9 fa_X6_28 rfl ?_
      refine x_iload_2 dX6_takesBack_12 ?_
      refine x_aload_0 dX6_takesBack_13 ?_
      refine m_get ha dX6_takesBack_14 fa_X6_38 rfl ?_
      refine x_bipush (v := 25) dX6_takesBack_17 (by decide) ?_
      refine x_iload_1 dX6_takesBack_19 ?_
      refine x_imul dX6_takesBack_20 ?_
      refine x_iload_2 dX6_takesBack_21 ?_
      refine x_iadd dX6_takesBack_22 ?_
      obtain ⟨e102, h⟩ := h
      refine m_iald (j := 5) ha dX6_takesBack_23 (by decide) (by decide) e102 ?_
      obtain ⟨e103, h⟩ := h
      refine m_iast (j := 2) ha dX6_takesBack_24 (by decide) (by decide) e103 ?_
      have h := h _ rfl
      refine x_iinc_2 (v := 1) dX6_takesBack_25 (by decide) (by decide) xN2_i ?_
      have h := h _ rfl
      refine x_goto 2 dX6_takesBack_28 (by decide) ?_
      exact x_le (xLe_cons (xLe_cons (xLe_cons (xLe_nil)))) (hR _ _ h)
def w_takesBack (N : Nat × Nat) (x1 : Int32) (s : mS) (Kr : mS → Prop) : Prop :=
  (w_takesBack_2 N x1 Kr (fun s101 => (Kr s101)) N.1 0 s)
theorem c_takesBack {G : xG} {l : Launch} {a : Nat → Nat} {g : xH} (ha : mInj a) {d : Nat} {N : Nat × Nat} (hd : 1 ≤ d) {x1 : Int32} {s : mS} {Kr : mS → Prop} (h : w_takesBack N x1 s Kr) : xC G l kX6_takesBack d 0 0 [.ref (a 51), .int x1] (mH G a s g) (mQv G a g Kr) := by
  obtain ⟨d, rfl⟩ : ∃ z, d = z + 1 := ⟨d - 1, by omega⟩
  refine xC.start rfl (by decide +kernel) (Nat.le_of_ble_eq_true rfl) (lv := [some (.ref (a 51)), some (.int x1), none]) rfl ?_
  unfold w_takesBack at h
  refine x_iconst (v := 0) dX6_takesBack_0 (by decide) ?_
  refine x_istore_2 dX6_takesBack_1 (by decide) xN2_i ?_
  refine x_le (xLe_cons (xLe_cons (xLe_cons (xLe_nil)))) (c_takesBack_2 ha (by omega) _ _ _ _ _ _ h (fun s101 h => ?_))
  exact x_vret dX6_takesBack_31 rfl ⟨_, h, rfl, rfl⟩
def w_orders_122 (N : Nat × Nat) (x1 : Int32) (x3 : Int32) (Kr : Int32 → mS → Prop) (K : mS → Prop) : Nat → Int32 → mS → Prop
  | 0, _, _ => False
  | t + 1, x4, s => ((416 ≤ x4 → (K s)) ∧ (¬ 416 ≤ x4 → (vp_in x4 416 ∧ (vp_in x4 416 ∧ (∀ s104 : mS, s104 = mI s 31 x4 (mAt s 32 x4) → (∀ x105 : Int32, x105 = x4 + 1 → ((fun x4 s => w_orders_122 N x1 x3 Kr K t x4 s) x105 s104)))))))
theorem c_orders_122 {G : xG} {l : Launch} {a : Nat → Nat} {g : xH} (ha : mInj a) {d : Nat} {N : Nat × Nat} (hd : 2 * N.2 + 11 ≤ d) (Kr : Int32 → mS → Prop) (K : mS → Prop) (x1 : Int32) (x3 : Int32) : ∀ (t : Nat) (x4 : Int32) (s : mS) , w_orders_122 N x1 x3 Kr K t x4 s → (∀ (s : mS), K s → xF G l kX6_orders (d + 1) 0 0 (mQi G a g Kr) 150 [some (.ref (a 51)), some (.int x1), none, some (.int x3), none] [] (mH G a s g)) → xF G l kX6_orders (d + 1) 0 0 (mQi G a g Kr) 122 [some (.ref (a 51)), some (.int x1), none, some (.int x3), some (.int x4)] [] (mH G a s g) := by
  intro t
  induction t with
  | zero =>
    intro _ _ h _
    exact absurd h (by simp [w_orders_122])
  | succ t ih =>
    intro x4 s h hK
    have hR := fun x4 s h => ih x4 s h hK
    unfold w_orders_122 at h
    refine x_iload_4 dX6_orders_122 ?_
    refine x_sipush (v := 416) dX6_orders_124 (by decide) ?_
    refine x_icmp_ge 150 dX6_orders_127 (by decide) (fun c101 => ?_) (fun c101 => ?_)
    · have h := h.1 c101
      exact x_le (xLe_cons (xLe_cons (xLe_cons (xLe_cons (xLe_none (xLe_nil)))))) (hK _ h)
    · have h := h.2 c101
      refine x_aload_0 dX6_orders_130 ?_
      refine m_get ha dX6_orders_131 fa_X6_66 rfl ?_
      refine x_iload_4 dX6_orders_134 ?_
      refine x_aload_0 dX6_orders_136 ?_
      refine m_get ha dX6_orders_137 fa_X6_69 rfl ?_
      refine x_iload_4 dX6_orders_140 ?_
      obtain ⟨e102, h⟩ := h
      refine m_iald (j := 32) ha dX6_orders_142 (by decide) (by decide) e102 ?_
      obtain ⟨e103, h⟩ := h
      refine m_iast (j := 31) ha dX6_orders_143 (by decide) (by decide) e103 ?_
      have h := h _ rfl
      refine x_iinc_4 (v := 1) dX6_orders_144 (by decide) (by decide) xN2_i ?_
      have h := h _ rfl
      refine x_goto 122 dX6_orders_147 (by decide) ?_
      exact x_le (xLe_cons (xLe_cons (xLe_cons (xLe_cons (xLe_cons (xLe_nil)))))) (hR _ _ h)
def w_orders_95 (N : Nat × Nat) (x1 : Int32) (x2 : Int32) (Kr : Int32 → mS → Prop) (K : mS → Prop) : Nat → Int32 → mS → Prop
  | 0, _, _ => False
  | t + 1, x3, s => ((x2 ≤ (mFd s 42) → (K s)) ∧ (¬ x2 ≤ (mFd s 42) → (w_runs N x2 s (fun x102 s103 => ((x102 = 0 → (w_takesBack N 1 s103 (fun s106 => (w_orders_122 N x1 x3 Kr (fun s107 => (∀ s108 : mS, s108 = mF s107 33 x1 → (∀ s109 : mS, s109 = mF s108 41 x3 → (w_refuses (-3) s109 (fun x110 s111 => (Kr x110 s111)))))) N.1 0 s106)))) ∧ (¬ x102 = 0 → (∀ x112 : Int32, x112 = x3 + 1 → ((fun x3 s => w_orders_95 N x1 x2 Kr K t x3 s) x112 s103))))))))
theorem c_orders_95 {G : xG} {l : Launch} {a : Nat → Nat} {g : xH} (ha : mInj a) {d : Nat} {N : Nat × Nat} (hd : 2 * N.2 + 11 ≤ d) (Kr : Int32 → mS → Prop) (K : mS → Prop) (x1 : Int32) (x2 : Int32) : ∀ (t : Nat) (x3 : Int32) (s : mS) , w_orders_95 N x1 x2 Kr K t x3 s → (∀ (s : mS), K s → xF G l kX6_orders (d + 1) 0 0 (mQi G a g Kr) 173 [some (.ref (a 51)), none, none, none, none] [] (mH G a s g)) → xF G l kX6_orders (d + 1) 0 0 (mQi G a g Kr) 95 [some (.ref (a 51)), some (.int x1), some (.int x2), some (.int x3), none] [] (mH G a s g) := by
  intro t
  induction t with
  | zero =>
    intro _ _ h _
    exact absurd h (by simp [w_orders_95])
  | succ t ih =>
    intro x3 s h hK
    have hR := fun x3 s h => ih x3 s h hK
    unfold w_orders_95 at h
    refine x_aload_0 dX6_orders_95 ?_
    refine m_get ha dX6_orders_96 fa_X6_446 rfl ?_
    refine x_iload_2 dX6_orders_99 ?_
    refine x_icmp_ge 173 dX6_orders_100 (by decide) (fun c101 => ?_) (fun c101 => ?_)
    · have h := h.1 c101
      exact x_le (xLe_cons (xLe_none (xLe_none (xLe_none (xLe_cons (xLe_nil)))))) (hK _ h)
    · have h := h.2 c101
      refine x_aload_0 dX6_orders_103 ?_
      refine x_iload_2 dX6_orders_104 ?_
      refine m_cVi1 ha rfl cv_X6_449 (Nat.le_of_ble_eq_true rfl) dX6_orders_105 (c_runs ha (by omega) h) (fun x102 s103 h => ?_)
      refine x_if_eq 114 dX6_orders_108 (by decide) (fun c104 => ?_) (fun c104 => ?_)
      · have h := h.1 c104
        refine x_aload_0 dX6_orders_114 ?_
        refine x_iconst (v := 1) dX6_orders_115 (by decide) ?_
        refine m_cVv1 ha rfl cv_X6_452 (Nat.le_of_ble_eq_true rfl) dX6_orders_116 (c_takesBack ha (by omega) h) (fun s106 h => ?_)
        refine x_iconst (v := 0) dX6_orders_119 (by decide) ?_
        refine x_istore_4 dX6_orders_120 (by decide) xN2_i ?_
        refine x_le (xLe_cons (xLe_cons (xLe_none (xLe_cons (xLe_cons (xLe_nil)))))) (c_orders_122 ha (by omega) _ _ _ _ _ _ _ h (fun s107 h => ?_))
        refine x_aload_0 dX6_orders_150 ?_
        refine x_iload_1 dX6_orders_151 ?_
        refine m_put ha dX6_orders_152 fp_X6_11 (mfs_33 _ _ _) (by decide) rfl rfl ?_
        have h := h _ rfl
        refine x_aload_0 dX6_orders_155 ?_
        refine x_iload_3 dX6_orders_156 ?_
        refine m_put ha dX6_orders_157 fp_X6_94 (mfs_41 _ _ _) (by decide) rfl rfl ?_
        have h := h _ rfl
        refine x_aload_0 dX6_orders_160 ?_
        refine x_bipush (v := (-3)) dX6_orders_161 (by decide) ?_
        refine m_cVi1 ha rfl cv_X6_106 (Nat.le_of_ble_eq_true rfl) dX6_orders_163 (c_refuses ha (by omega) h) (fun x110 s111 h => ?_)
        exact x_iret dX6_orders_166 rfl ⟨_, _, h, rfl, rfl⟩
      · have h := h.2 c104
        refine x_goto 167 dX6_orders_111 (by decide) ?_
        refine x_iinc_3 (v := 1) dX6_orders_167 (by decide) (by decide) xN2_i ?_
        have h := h _ rfl
        refine x_goto 95 dX6_orders_170 (by decide) ?_
        exact x_le (xLe_cons (xLe_cons (xLe_cons (xLe_cons (xLe_cons (xLe_nil)))))) (hR _ _ h)
def w_orders_27 (N : Nat × Nat) (Kr : Int32 → mS → Prop) (K : mS → Prop) : Nat → Int32 → mS → Prop
  | 0, _, _ => False
  | t + 1, x1, s => ((416 ≤ x1 → (K s)) ∧ (¬ 416 ≤ x1 → (vp_in x1 416 ∧ (vp_in x1 416 ∧ (∀ s104 : mS, s104 = mI s 32 x1 (mAt s 31 x1) → (∀ x105 : Int32, x105 = x1 + 1 → ((fun x1 s => w_orders_27 N Kr K t x1 s) x105 s104)))))))
theorem c_orders_27 {G : xG} {l : Launch} {a : Nat → Nat} {g : xH} (ha : mInj a) {d : Nat} {N : Nat × Nat} (hd : 2 * N.2 + 11 ≤ d) (Kr : Int32 → mS → Prop) (K : mS → Prop) : ∀ (t : Nat) (x1 : Int32) (s : mS) , w_orders_27 N Kr K t x1 s → (∀ (s : mS), K s → xF G l kX6_orders (d + 1) 0 0 (mQi G a g Kr) 52 [some (.ref (a 51)), none, none, none, none] [] (mH G a s g)) → xF G l kX6_orders (d + 1) 0 0 (mQi G a g Kr) 27 [some (.ref (a 51)), some (.int x1), none, none, none] [] (mH G a s g) := by
  intro t
  induction t with
  | zero =>
    intro _ _ h _
    exact absurd h (by simp [w_orders_27])
  | succ t ih =>
    intro x1 s h hK
    have hR := fun x1 s h => ih x1 s h hK
    unfold w_orders_27 at h
    refine x_iload_1 dX6_orders_27 ?_
    refine x_sipush (v := 416) dX6_orders_28 (by decide) ?_
    refine x_icmp_ge 52 dX6_orders_31 (by decide) (fun c101 => ?_) (fun c101 => ?_)
    · have h := h.1 c101
      exact x_le (xLe_cons (xLe_none (xLe_cons (xLe_cons (xLe_cons (xLe_nil)))))) (hK _ h)
    · have h := h.2 c101
      refine x_aload_0 dX6_orders_34 ?_
      refine m_get ha dX6_orders_35 fa_X6_69 rfl ?_
      refine x_iload_1 dX6_orders_38 ?_
      refine x_aload_0 dX6_orders_39 ?_
      refine m_get ha dX6_orders_40 fa_X6_66 rfl ?_
      refine x_iload_1 dX6_orders_43 ?_
      obtain ⟨e102, h⟩ := h
      refine m_iald (j := 31) ha dX6_orders_44 (by decide) (by decide) e102 ?_
      obtain ⟨e103, h⟩ := h
      refine m_iast (j := 32) ha dX6_orders_45 (by decide) (by decide) e103 ?_
      have h := h _ rfl
      refine x_iinc_1 (v := 1) dX6_orders_46 (by decide) (by decide) xN2_r ?_
      have h := h _ rfl
      refine x_goto 27 dX6_orders_49 (by decide) ?_
      exact x_le (xLe_cons (xLe_cons (xLe_cons (xLe_cons (xLe_cons (xLe_nil)))))) (hR _ _ h)
def w_orders (N : Nat × Nat) (s : mS) (Kr : Int32 → mS → Prop) : Prop :=
  (∀ s101 : mS, s101 = mF s 41 (-1) → (w_readsAs N 1 s101 (fun x102 s103 => ((¬ x102 = 0 → (w_laysAside N 1 s103 (fun s106 => (w_orders_27 N Kr (fun s107 => (∀ x108 : Int32, x108 = mFd s107 33 → (w_lays N 6 s107 (fun s110 => (∀ s111 : mS, s111 = mF s110 27 0 → (∀ s112 : mS, s112 = mF s111 28 (-1) → (∀ s113 : mS, s113 = mF s112 42 2400 → (vp_in 51 5652 ∧ (∀ x115 : Int32, x115 = (mFd s113 42) + (mAt s113 2 51) → (w_orders_95 N x108 x115 Kr (fun s116 => (w_good (mFd s116 27) s116 (fun x117 s118 => (Kr x117 s118)))) N.1 0 s113)))))))))) N.1 0 s106)))) ∧ (x102 = 0 → (w_refuses (-6) s103 (fun x119 s120 => (Kr x119 s120))))))))
theorem c_orders {G : xG} {l : Launch} {a : Nat → Nat} {g : xH} (ha : mInj a) {d : Nat} {N : Nat × Nat} (hd : 2 * N.2 + 12 ≤ d) {s : mS} {Kr : Int32 → mS → Prop} (h : w_orders N s Kr) : xC G l kX6_orders d 0 0 [.ref (a 51)] (mH G a s g) (mQi G a g Kr) := by
  obtain ⟨d, rfl⟩ : ∃ z, d = z + 1 := ⟨d - 1, by omega⟩
  refine xC.start rfl (by decide +kernel) (Nat.le_of_ble_eq_true rfl) (lv := [some (.ref (a 51)), none, none, none, none]) rfl ?_
  unfold w_orders at h
  refine x_aload_0 dX6_orders_0 ?_
  refine x_iconst (v := (-1)) dX6_orders_1 (by decide) ?_
  refine m_put ha dX6_orders_2 fp_X6_94 (mfs_41 _ _ _) (by decide) rfl rfl ?_
  have h := h _ rfl
  refine x_aload_0 dX6_orders_5 ?_
  refine x_iconst (v := 1) dX6_orders_6 (by decide) ?_
  refine m_cVi1 ha rfl cv_X6_248 (Nat.le_of_ble_eq_true rfl) dX6_orders_7 (c_readsAs ha (by omega) h) (fun x102 s103 h => ?_)
  refine x_if_ne 20 dX6_orders_10 (by decide) (fun c104 => ?_) (fun c104 => ?_)
  · have h := h.1 c104
    refine x_aload_0 dX6_orders_20 ?_
    refine x_iconst (v := 1) dX6_orders_21 (by decide) ?_
    refine m_cVv1 ha rfl cv_X6_443 (Nat.le_of_ble_eq_true rfl) dX6_orders_22 (c_laysAside ha (by omega) h) (fun s106 h => ?_)
    refine x_iconst (v := 0) dX6_orders_25 (by decide) ?_
    refine x_istore_1 dX6_orders_26 (by decide) xN2_r ?_
    refine x_le (xLe_cons (xLe_cons (xLe_cons (xLe_cons (xLe_cons (xLe_nil)))))) (c_orders_27 ha (by omega) _ _ _ _ _ h (fun s107 h => ?_))
    refine x_aload_0 dX6_orders_52 ?_
    refine m_get ha dX6_orders_53 fa_X6_11 rfl ?_
    refine x_istore_1 dX6_orders_56 (by decide) xN2_r ?_
    have h := h _ rfl
    refine x_aload_0 dX6_orders_57 ?_
    refine x_bipush (v := 6) dX6_orders_58 (by decide) ?_
    refine m_cVv1 ha rfl cv_X6_252 (Nat.le_of_ble_eq_true rfl) dX6_orders_60 (c_lays ha (by omega) h) (fun s110 h => ?_)
    refine x_aload_0 dX6_orders_63 ?_
    refine x_iconst (v := 0) dX6_orders_64 (by decide) ?_
    refine m_put ha dX6_orders_65 fp_X6_297 (mfs_27 _ _ _) (by decide) rfl rfl ?_
    have h := h _ rfl
    refine x_aload_0 dX6_orders_68 ?_
    refine x_iconst (v := (-1)) dX6_orders_69 (by decide) ?_
    refine m_put ha dX6_orders_70 fp_X6_300 (mfs_28 _ _ _) (by decide) rfl rfl ?_
    have h := h _ rfl
    refine x_aload_0 dX6_orders_73 ?_
    refine x_sipush (v := 2400) dX6_orders_74 (by decide) ?_
    refine m_put ha dX6_orders_77 fp_X6_446 (mfs_42 _ _ _) (by decide) rfl rfl ?_
    have h := h _ rfl
    refine x_aload_0 dX6_orders_80 ?_
    refine m_get ha dX6_orders_81 fa_X6_446 rfl ?_
    refine x_aload_0 dX6_orders_84 ?_
    refine m_get ha dX6_orders_85 fa_X6_28 rfl ?_
    refine x_bipush (v := 51) dX6_orders_88 (by decide) ?_
    obtain ⟨e114, h⟩ := h
    refine m_iald (j := 2) ha dX6_orders_90 (by decide) (by decide) e114 ?_
    refine x_iadd dX6_orders_91 ?_
    refine x_istore_2 dX6_orders_92 (by decide) xN2_i ?_
    have h := h _ rfl
    refine x_iconst (v := 0) dX6_orders_93 (by decide) ?_
    refine x_istore_3 dX6_orders_94 (by decide) xN2_i ?_
    refine x_le (xLe_cons (xLe_cons (xLe_cons (xLe_cons (xLe_cons (xLe_nil)))))) (c_orders_95 ha (by omega) _ _ _ _ _ _ _ h (fun s116 h => ?_))
    refine x_aload_0 dX6_orders_173 ?_
    refine x_aload_0 dX6_orders_174 ?_
    refine m_get ha dX6_orders_175 fa_X6_297 rfl ?_
    refine m_cVi1 ha rfl cv_X6_14 (Nat.le_of_ble_eq_true rfl) dX6_orders_178 (c_good ha (by omega) h) (fun x117 s118 h => ?_)
    exact x_iret dX6_orders_181 rfl ⟨_, _, h, rfl, rfl⟩
  · have h := h.2 c104
    refine x_aload_0 dX6_orders_13 ?_
    refine x_bipush (v := (-6)) dX6_orders_14 (by decide) ?_
    refine m_cVi1 ha rfl cv_X6_106 (Nat.le_of_ble_eq_true rfl) dX6_orders_16 (c_refuses ha (by omega) h) (fun x119 s120 h => ?_)
    exact x_iret dX6_orders_19 rfl ⟨_, _, h, rfl, rfl⟩
def w_parallels_16 (N : Nat × Nat) (x1 : Int32) (Kr : Int32 → mS → Prop) (K : Int32 → mS → Prop) : Nat → Int32 → Int32 → mS → Prop
  | 0, _, _, _ => False
  | t + 1, x2, x3, s => (w_noteMany s (fun x101 s102 => ((x101 ≤ x3 → (K x2 s102)) ∧ (¬ x101 ≤ x3 → (w_isParallel x3 x1 s102 (fun x104 s105 => ((x104 = 0 → (∀ x107 : Int32, x107 = x2 ||| 0 → (∀ x108 : Int32, x108 = x3 + 1 → ((fun x2 x3 s => w_parallels_16 N x1 Kr K t x2 x3 s) x107 x108 s105)))) ∧ (¬ x104 = 0 → (∀ x109 : Int32, x109 = x2 ||| (1 <<< (x3 &&& 31)) → (∀ x110 : Int32, x110 = x3 + 1 → ((fun x2 x3 s => w_parallels_16 N x1 Kr K t x2 x3 s) x109 x110 s105)))))))))))
theorem c_parallels_16 {G : xG} {l : Launch} {a : Nat → Nat} {g : xH} (ha : mInj a) {d : Nat} {N : Nat × Nat} (hd : 3 ≤ d) (Kr : Int32 → mS → Prop) (K : Int32 → mS → Prop) (x1 : Int32) : ∀ (t : Nat) (x2 : Int32) (x3 : Int32) (s : mS) , w_parallels_16 N x1 Kr K t x2 x3 s → (∀ (z2 : Int32) (s : mS), K z2 s → xF G l kX6_parallels (d + 1) 0 0 (mQi G a g Kr) 49 [some (.ref (a 51)), none, some (.int z2), none] [] (mH G a s g)) → xF G l kX6_parallels (d + 1) 0 0 (mQi G a g Kr) 16 [some (.ref (a 51)), some (.int x1), some (.int x2), some (.int x3)] [] (mH G a s g) := by
  intro t
  induction t with
  | zero =>
    intro _ _ _ h _
    exact absurd h (by simp [w_parallels_16])
  | succ t ih =>
    intro x2 x3 s h hK
    have hR := fun x2 x3 s h => ih x2 x3 s h hK
    unfold w_parallels_16 at h
    refine x_iload_3 dX6_parallels_16 ?_
    refine x_aload_0 dX6_parallels_17 ?_
    refine m_cVi0 ha rfl cv_X6_112 (Nat.le_of_ble_eq_true rfl) dX6_parallels_18 (c_noteMany ha (by omega) h) (fun x101 s102 h => ?_)
    refine x_icmp_ge 49 dX6_parallels_21 (by decide) (fun c103 => ?_) (fun c103 => ?_)
    · have h := h.1 c103
      exact x_le (xLe_cons (xLe_none (xLe_cons (xLe_none (xLe_nil))))) (hK _ _ h)
    · have h := h.2 c103
      refine x_iload_2 dX6_parallels_24 ?_
      refine x_aload_0 dX6_parallels_25 ?_
      refine x_iload_3 dX6_parallels_26 ?_
      refine x_iload_1 dX6_parallels_27 ?_
      refine m_cVi2 ha rfl cv_X6_416 (Nat.le_of_ble_eq_true rfl) dX6_parallels_28 (c_isParallel ha (by omega) h) (fun x104 s105 h => ?_)
      refine x_if_eq 40 dX6_parallels_31 (by decide) (fun c106 => ?_) (fun c106 => ?_)
      · have h := h.1 c106
        refine x_iconst (v := 0) dX6_parallels_40 (by decide) ?_
        refine x_ior dX6_parallels_41 ?_
        refine x_istore_2 dX6_parallels_42 (by decide) xN2_i ?_
        have h := h _ rfl
        refine x_iinc_3 (v := 1) dX6_parallels_43 (by decide) (by decide) xN2_i ?_
        have h := h _ rfl
        refine x_goto 16 dX6_parallels_46 (by decide) ?_
        exact x_le (xLe_cons (xLe_cons (xLe_cons (xLe_cons (xLe_nil))))) (hR _ _ _ h)
      · have h := h.2 c106
        refine x_iconst (v := 1) dX6_parallels_34 (by decide) ?_
        refine x_iload_3 dX6_parallels_35 ?_
        refine x_ishl dX6_parallels_36 ?_
        refine x_goto 41 dX6_parallels_37 (by decide) ?_
        refine x_ior dX6_parallels_41 ?_
        refine x_istore_2 dX6_parallels_42 (by decide) xN2_i ?_
        have h := h _ rfl
        refine x_iinc_3 (v := 1) dX6_parallels_43 (by decide) (by decide) xN2_i ?_
        have h := h _ rfl
        refine x_goto 16 dX6_parallels_46 (by decide) ?_
        exact x_le (xLe_cons (xLe_cons (xLe_cons (xLe_cons (xLe_nil))))) (hR _ _ _ h)
def w_parallels (N : Nat × Nat) (x1 : Int32) (s : mS) (Kr : Int32 → mS → Prop) : Prop :=
  (w_lies x1 0 11 (fun x101 => ((¬ x101 = 0 → (w_parallels_16 N x1 Kr (fun x104 s105 => (Kr x104 s105)) N.1 0 1 s)) ∧ (x101 = 0 → (Kr (-1) s)))))
theorem c_parallels {G : xG} {l : Launch} {a : Nat → Nat} {g : xH} (ha : mInj a) {d : Nat} {N : Nat × Nat} (hd : 4 ≤ d) {x1 : Int32} {s : mS} {Kr : Int32 → mS → Prop} (h : w_parallels N x1 s Kr) : xC G l kX6_parallels d 0 0 [.ref (a 51), .int x1] (mH G a s g) (mQi G a g Kr) := by
  obtain ⟨d, rfl⟩ : ∃ z, d = z + 1 := ⟨d - 1, by omega⟩
  refine xC.start rfl (by decide +kernel) (Nat.le_of_ble_eq_true rfl) (lv := [some (.ref (a 51)), some (.int x1), none, none]) rfl ?_
  unfold w_parallels at h
  refine x_iload_1 dX6_parallels_0 ?_
  refine x_iconst (v := 0) dX6_parallels_1 (by decide) ?_
  refine x_bipush (v := 11) dX6_parallels_2 (by decide) ?_
  refine m_cSi3 rfl cs_X6_18 (Nat.le_of_ble_eq_true rfl) dX6_parallels_4 (c_lies (by omega) h) (fun x101 h => ?_)
  refine x_if_ne 12 dX6_parallels_7 (by decide) (fun c103 => ?_) (fun c103 => ?_)
  · have h := h.1 c103
    refine x_iconst (v := 0) dX6_parallels_12 (by decide) ?_
    refine x_istore_2 dX6_parallels_13 (by decide) xN2_i ?_
    refine x_iconst (v := 1) dX6_parallels_14 (by decide) ?_
    refine x_istore_3 dX6_parallels_15 (by decide) xN2_i ?_
    refine x_le (xLe_cons (xLe_cons (xLe_cons (xLe_cons (xLe_nil))))) (c_parallels_16 ha (by omega) _ _ _ _ _ _ _ h (fun x104 s105 h => ?_))
    refine x_iload_2 dX6_parallels_49 ?_
    exact x_iret dX6_parallels_50 rfl ⟨_, _, h, rfl, rfl⟩
  · have h := h.2 c103
    refine x_iconst (v := (-1)) dX6_parallels_10 (by decide) ?_
    exact x_iret dX6_parallels_11 rfl ⟨_, _, h, rfl, rfl⟩
def w_pass (N : Nat × Nat) (s : mS) (Kr : Int32 → mS → Prop) : Prop :=
  (w_passesKept N s (fun x101 s102 => (w_goodOr x101 s102 (fun x103 s104 => (Kr x103 s104)))))
theorem c_pass {G : xG} {l : Launch} {a : Nat → Nat} {g : xH} (ha : mInj a) {d : Nat} {N : Nat × Nat} (hd : 2 * N.2 + 10 ≤ d) {s : mS} {Kr : Int32 → mS → Prop} (h : w_pass N s Kr) : xC G l kX6_pass d 0 0 [.ref (a 51)] (mH G a s g) (mQi G a g Kr) := by
  obtain ⟨d, rfl⟩ : ∃ z, d = z + 1 := ⟨d - 1, by omega⟩
  refine xC.start rfl (by decide +kernel) (Nat.le_of_ble_eq_true rfl) (lv := [some (.ref (a 51))]) rfl ?_
  unfold w_pass at h
  refine x_aload_0 dX6_pass_0 ?_
  refine x_aload_0 dX6_pass_1 ?_
  refine m_cVi0 ha rfl cv_X6_351 (Nat.le_of_ble_eq_true rfl) dX6_pass_2 (c_passesKept ha (by omega) h) (fun x101 s102 h => ?_)
  refine m_cVi1 ha rfl cv_X6_345 (Nat.le_of_ble_eq_true rfl) dX6_pass_5 (c_goodOr ha (by omega) h) (fun x103 s104 h => ?_)
  exact x_iret dX6_pass_8 rfl ⟨_, _, h, rfl, rfl⟩
def w_richest_32 (N : Nat × Nat) (x1 : Int32) (Kr : Int32 → mS → Prop) (K : mS → Prop) : Nat → Int32 → mS → Prop
  | 0, _, _ => False
  | t + 1, x2, s => (vp_in 40 5652 ∧ (((mAt s 2 40) < x2 → (K s)) ∧ (¬ (mAt s 2 40) < x2 → (w_noteMany s (fun x103 s104 => ((¬ x1 = (x103 - 1) → (w_mostFrom N (x1 + 1) x2 s104 (fun x106 s107 => (vp_in ((25 * x1) + x2) 300 ∧ (∀ s109 : mS, s109 = mI s107 37 ((25 * x1) + x2) x106 → (∀ x110 : Int32, x110 = x2 + 1 → ((fun x2 s => w_richest_32 N x1 Kr K t x2 s) x110 s109))))))) ∧ (x1 = (x103 - 1) → (vp_in ((25 * x1) + x2) 300 ∧ (∀ s112 : mS, s112 = mI s104 37 ((25 * x1) + x2) 0 → (∀ x113 : Int32, x113 = x2 + 1 → ((fun x2 s => w_richest_32 N x1 Kr K t x2 s) x113 s112)))))))))))
theorem c_richest_32 {G : xG} {l : Launch} {a : Nat → Nat} {g : xH} (ha : mInj a) {d : Nat} {N : Nat × Nat} (hd : 2 * N.2 + 9 ≤ d) (Kr : Int32 → mS → Prop) (K : mS → Prop) (x1 : Int32) : ∀ (t : Nat) (x2 : Int32) (s : mS) , w_richest_32 N x1 Kr K t x2 s → (∀ (s : mS), K s → xF G l kX6_richest (d + 1) 0 0 (mQi G a g Kr) 82 [some (.ref (a 51)), some (.int x1), none] [] (mH G a s g)) → xF G l kX6_richest (d + 1) 0 0 (mQi G a g Kr) 32 [some (.ref (a 51)), some (.int x1), some (.int x2)] [] (mH G a s g) := by
  intro t
  induction t with
  | zero =>
    intro _ _ h _
    exact absurd h (by simp [w_richest_32])
  | succ t ih =>
    intro x2 s h hK
    have hR := fun x2 s h => ih x2 s h hK
    unfold w_richest_32 at h
    refine x_iload_2 dX6_richest_32 ?_
    refine x_aload_0 dX6_richest_33 ?_
    refine m_get ha dX6_richest_34 fa_X6_28 rfl ?_
    refine x_bipush (v := 40) dX6_richest_37 (by decide) ?_
    obtain ⟨e101, h⟩ := h
    refine m_iald (j := 2) ha dX6_richest_39 (by decide) (by decide) e101 ?_
    refine x_icmp_gt 82 dX6_richest_40 (by decide) (fun c102 => ?_) (fun c102 => ?_)
    · have h := h.1 c102
      exact x_le (xLe_cons (xLe_cons (xLe_none (xLe_nil)))) (hK _ h)
    · have h := h.2 c102
      refine x_aload_0 dX6_richest_43 ?_
      refine m_get ha dX6_richest_44 fa_X6_81 rfl ?_
      refine x_bipush (v := 25) dX6_richest_47 (by decide) ?_
      refine x_iload_1 dX6_richest_49 ?_
      refine x_imul dX6_richest_50 ?_
      refine x_iload_2 dX6_richest_51 ?_
      refine x_iadd dX6_richest_52 ?_
      refine x_iload_1 dX6_richest_53 ?_
      refine x_aload_0 dX6_richest_54 ?_
      refine m_cVi0 ha rfl cv_X6_112 (Nat.le_of_ble_eq_true rfl) dX6_richest_55 (c_noteMany ha (by omega) h) (fun x103 s104 h => ?_)
      refine x_iconst (v := 1) dX6_richest_58 (by decide) ?_
      refine x_isub dX6_richest_59 ?_
      refine x_icmp_ne 67 dX6_richest_60 (by decide) (fun c105 => ?_) (fun c105 => ?_)
      · have h := h.1 c105
        refine x_aload_0 dX6_richest_67 ?_
        refine x_iload_1 dX6_richest_68 ?_
        refine x_iconst (v := 1) dX6_richest_69 (by decide) ?_
        refine x_iadd dX6_richest_70 ?_
        refine x_iload_2 dX6_richest_71 ?_
        refine m_cVi2 ha rfl cv_X6_393 (Nat.le_of_ble_eq_true rfl) dX6_richest_72 (c_mostFrom ha (by omega) h) (fun x106 s107 h => ?_)
        obtain ⟨e108, h⟩ := h
        refine m_iast (j := 37) ha dX6_richest_75 (by decide) (by decide) e108 ?_
        have h := h _ rfl
        refine x_iinc_2 (v := 1) dX6_richest_76 (by decide) (by decide) xN2_i ?_
        have h := h _ rfl
        refine x_goto 32 dX6_richest_79 (by decide) ?_
        exact x_le (xLe_cons (xLe_cons (xLe_cons (xLe_nil)))) (hR _ _ h)
      · have h := h.2 c105
        refine x_iconst (v := 0) dX6_richest_63 (by decide) ?_
        refine x_goto 75 dX6_richest_64 (by decide) ?_
        obtain ⟨e111, h⟩ := h
        refine m_iast (j := 37) ha dX6_richest_75 (by decide) (by decide) e111 ?_
        have h := h _ rfl
        refine x_iinc_2 (v := 1) dX6_richest_76 (by decide) (by decide) xN2_i ?_
        have h := h _ rfl
        refine x_goto 32 dX6_richest_79 (by decide) ?_
        exact x_le (xLe_cons (xLe_cons (xLe_cons (xLe_nil)))) (hR _ _ h)
def w_richest_20 (N : Nat × Nat) (Kr : Int32 → mS → Prop) (K : mS → Prop) : Nat → Int32 → mS → Prop
  | 0, _, _ => False
  | t + 1, x1, s => ((x1 < 0 → (K s)) ∧ (¬ x1 < 0 → (vp_in 39 5652 ∧ (∀ x103 : Int32, x103 = mAt s 2 39 → (w_richest_32 N x1 Kr (fun s104 => (∀ x105 : Int32, x105 = x1 + (-1) → ((fun x1 s => w_richest_20 N Kr K t x1 s) x105 s104))) N.1 x103 s)))))
theorem c_richest_20 {G : xG} {l : Launch} {a : Nat → Nat} {g : xH} (ha : mInj a) {d : Nat} {N : Nat × Nat} (hd : 2 * N.2 + 9 ≤ d) (Kr : Int32 → mS → Prop) (K : mS → Prop) : ∀ (t : Nat) (x1 : Int32) (s : mS) , w_richest_20 N Kr K t x1 s → (∀ (s : mS), K s → xF G l kX6_richest (d + 1) 0 0 (mQi G a g Kr) 88 [some (.ref (a 51)), none, none] [] (mH G a s g)) → xF G l kX6_richest (d + 1) 0 0 (mQi G a g Kr) 20 [some (.ref (a 51)), some (.int x1), none] [] (mH G a s g) := by
  intro t
  induction t with
  | zero =>
    intro _ _ h _
    exact absurd h (by simp [w_richest_20])
  | succ t ih =>
    intro x1 s h hK
    have hR := fun x1 s h => ih x1 s h hK
    unfold w_richest_20 at h
    refine x_iload_1 dX6_richest_20 ?_
    refine x_if_lt 88 dX6_richest_21 (by decide) (fun c101 => ?_) (fun c101 => ?_)
    · have h := h.1 c101
      exact x_le (xLe_cons (xLe_none (xLe_cons (xLe_nil)))) (hK _ h)
    · have h := h.2 c101
      refine x_aload_0 dX6_richest_24 ?_
      refine m_get ha dX6_richest_25 fa_X6_28 rfl ?_
      refine x_bipush (v := 39) dX6_richest_28 (by decide) ?_
      obtain ⟨e102, h⟩ := h
      refine m_iald (j := 2) ha dX6_richest_30 (by decide) (by decide) e102 ?_
      refine x_istore_2 dX6_richest_31 (by decide) xN2_i ?_
      have h := h _ rfl
      refine x_le (xLe_cons (xLe_cons (xLe_cons (xLe_nil)))) (c_richest_32 ha (by omega) _ _ _ _ _ _ h (fun s104 h => ?_))
      refine x_iinc_1 (v := (-1)) dX6_richest_82 (by decide) (by decide) xN2_r ?_
      have h := h _ rfl
      refine x_goto 20 dX6_richest_85 (by decide) ?_
      exact x_le (xLe_cons (xLe_cons (xLe_cons (xLe_nil)))) (hR _ _ h)
def w_richest (N : Nat × Nat) (s : mS) (Kr : Int32 → mS → Prop) : Prop :=
  (w_noteMany s (fun x101 s102 => ((¬ x101 = 0 → (w_laysNotes N s102 (fun s105 => (w_noteMany s105 (fun x106 s107 => (∀ x108 : Int32, x108 = x106 - 1 → (w_richest_20 N Kr (fun s109 => (w_mostFrom N 0 0 s109 (fun x110 s111 => ((0 ≤ x110 → (Kr x110 s111)) ∧ (¬ 0 ≤ x110 → (Kr (-1) s111)))))) N.1 x108 s107))))))) ∧ (x101 = 0 → (Kr 0 s102)))))
theorem c_richest {G : xG} {l : Launch} {a : Nat → Nat} {g : xH} (ha : mInj a) {d : Nat} {N : Nat × Nat} (hd : 2 * N.2 + 10 ≤ d) {s : mS} {Kr : Int32 → mS → Prop} (h : w_richest N s Kr) : xC G l kX6_richest d 0 0 [.ref (a 51)] (mH G a s g) (mQi G a g Kr) := by
  obtain ⟨d, rfl⟩ : ∃ z, d = z + 1 := ⟨d - 1, by omega⟩
  refine xC.start rfl (by decide +kernel) (Nat.le_of_ble_eq_true rfl) (lv := [some (.ref (a 51)), none, none]) rfl ?_
  unfold w_richest at h
  refine x_aload_0 dX6_richest_0 ?_
  refine m_cVi0 ha rfl cv_X6_112 (Nat.le_of_ble_eq_true rfl) dX6_richest_1 (c_noteMany ha (by omega) h) (fun x101 s102 h => ?_)
  refine x_if_ne 9 dX6_richest_4 (by decide) (fun c103 => ?_) (fun c103 => ?_)
  · have h := h.1 c103
    refine x_aload_0 dX6_richest_9 ?_
    refine m_cVv0 ha rfl cv_X6_376 (Nat.le_of_ble_eq_true rfl) dX6_richest_10 (c_laysNotes ha (by omega) h) (fun s105 h => ?_)
    refine x_aload_0 dX6_richest_13 ?_
    refine m_cVi0 ha rfl cv_X6_112 (Nat.le_of_ble_eq_true rfl) dX6_richest_14 (c_noteMany ha (by omega) h) (fun x106 s107 h => ?_)
    refine x_iconst (v := 1) dX6_richest_17 (by decide) ?_
    refine x_isub dX6_richest_18 ?_
    refine x_istore_1 dX6_richest_19 (by decide) xN2_r ?_
    have h := h _ rfl
    refine x_le (xLe_cons (xLe_cons (xLe_cons (xLe_nil)))) (c_richest_20 ha (by omega) _ _ _ _ _ h (fun s109 h => ?_))
    refine x_aload_0 dX6_richest_88 ?_
    refine x_iconst (v := 0) dX6_richest_89 (by decide) ?_
    refine x_iconst (v := 0) dX6_richest_90 (by decide) ?_
    refine m_cVi2 ha rfl cv_X6_393 (Nat.le_of_ble_eq_true rfl) dX6_richest_91 (c_mostFrom ha (by omega) h) (fun x110 s111 h => ?_)
    refine x_istore_1 dX6_richest_94 (by decide) xN2_r ?_
    refine x_iload_1 dX6_richest_95 ?_
    refine x_if_ge 103 dX6_richest_96 (by decide) (fun c112 => ?_) (fun c112 => ?_)
    · have h := h.1 c112
      refine x_iload_1 dX6_richest_103 ?_
      exact x_iret dX6_richest_104 rfl ⟨_, _, h, rfl, rfl⟩
    · have h := h.2 c112
      refine x_iconst (v := (-1)) dX6_richest_99 (by decide) ?_
      refine x_goto 104 dX6_richest_100 (by decide) ?_
      exact x_iret dX6_richest_104 rfl ⟨_, _, h, rfl, rfl⟩
  · have h := h.2 c103
    refine x_iconst (v := 0) dX6_richest_7 (by decide) ?_
    exact x_iret dX6_richest_8 rfl ⟨_, _, h, rfl, rfl⟩
def w_row_123 (N : Nat × Nat) (x1 : Int32) (x3 : Int32) (x4 : Int32) (y0 : Int32) (y1 : Int32) (Kr : Int32 → mS → Prop) (K : Int32 → mS → Prop) (R : Int32 → Int32 → mS → Prop) (s : mS) : Prop :=
  (∀ x101 : Int32, x101 = y0 + y1 → ((x4 = 0 → (∀ s103 : mS, s103 = mF s 6 ((mFd s 6) + 1) → (∀ x104 : Int32, x104 = x3 + 2 → (R x101 x104 s103)))) ∧ (¬ x4 = 0 → (∀ s105 : mS, s105 = mF s 6 ((mFd s 6) + 0) → (∀ x106 : Int32, x106 = x3 + 2 → (R x101 x106 s105))))))
theorem c_row_123 {G : xG} {l : Launch} {a : Nat → Nat} {g : xH} (ha : mInj a) {d : Nat} {N : Nat × Nat} (hd : 2 ≤ d) (x1 : Int32) (x3 : Int32) (x4 : Int32) (y0 : Int32) (y1 : Int32) (Kr : Int32 → mS → Prop) (K : Int32 → mS → Prop) (R : Int32 → Int32 → mS → Prop) (s : mS) (h : w_row_123 N x1 x3 x4 y0 y1 Kr K R s) (hK : ∀ (z2 : Int32) (s : mS), K z2 s → xF G l kX6_row (d + 1) 0 0 (mQi G a g Kr) 150 [some (.ref (a 51)), none, some (.int z2), none, none] [] (mH G a s g)) (hR : ∀ (z2 : Int32) (z3 : Int32) (s : mS), R z2 z3 s → xF G l kX6_row (d + 1) 0 0 (mQi G a g Kr) 40 [some (.ref (a 51)), some (.int x1), some (.int z2), some (.int z3), none] [] (mH G a s g)) : xF G l kX6_row (d + 1) 0 0 (mQi G a g Kr) 123 [some (.ref (a 51)), some (.int x1), none, some (.int x3), some (.int x4)] [.int y1, .int y0] (mH G a s g) := by
  unfold w_row_123 at h
  refine x_iadd dX6_row_123 ?_
  refine x_istore_2 dX6_row_124 (by decide) xN2_i ?_
  have h := h _ rfl
  refine x_aload_0 dX6_row_125 ?_
  refine x_dup dX6_row_126 rfl ?_
  refine m_get ha dX6_row_127 fa_X6_157 rfl ?_
  refine x_iload_4 dX6_row_130 ?_
  refine x_if_eq 139 dX6_row_132 (by decide) (fun c102 => ?_) (fun c102 => ?_)
  · have h := h.1 c102
    refine x_iconst (v := 1) dX6_row_139 (by decide) ?_
    refine x_iadd dX6_row_140 ?_
    refine m_put ha dX6_row_141 fp_X6_157 (mfs_6 _ _ _) (by decide) rfl rfl ?_
    have h := h _ rfl
    refine x_iinc_3 (v := 2) dX6_row_144 (by decide) (by decide) xN2_i ?_
    have h := h _ rfl
    refine x_goto 40 dX6_row_147 (by decide) ?_
    exact x_le (xLe_cons (xLe_cons (xLe_cons (xLe_cons (xLe_none (xLe_nil)))))) (hR _ _ _ h)
  · have h := h.2 c102
    refine x_iconst (v := 0) dX6_row_135 (by decide) ?_
    refine x_goto 140 dX6_row_136 (by decide) ?_
    refine x_iadd dX6_row_140 ?_
    refine m_put ha dX6_row_141 fp_X6_157 (mfs_6 _ _ _) (by decide) rfl rfl ?_
    have h := h _ rfl
    refine x_iinc_3 (v := 2) dX6_row_144 (by decide) (by decide) xN2_i ?_
    have h := h _ rfl
    refine x_goto 40 dX6_row_147 (by decide) ?_
    exact x_le (xLe_cons (xLe_cons (xLe_cons (xLe_cons (xLe_none (xLe_nil)))))) (hR _ _ _ h)
def w_row_112 (N : Nat × Nat) (x1 : Int32) (x2 : Int32) (x3 : Int32) (x4 : Int32) (Kr : Int32 → mS → Prop) (K : Int32 → mS → Prop) (R : Int32 → Int32 → mS → Prop) (s : mS) : Prop :=
  ((x4 = 0 → (w_row_123 N x1 x3 x4 x2 0 Kr K R s)) ∧ (¬ x4 = 0 → (w_row_123 N x1 x3 x4 x2 1 Kr K R s)))
theorem c_row_112 {G : xG} {l : Launch} {a : Nat → Nat} {g : xH} (ha : mInj a) {d : Nat} {N : Nat × Nat} (hd : 2 ≤ d) (x1 : Int32) (x2 : Int32) (x3 : Int32) (x4 : Int32) (Kr : Int32 → mS → Prop) (K : Int32 → mS → Prop) (R : Int32 → Int32 → mS → Prop) (s : mS) (h : w_row_112 N x1 x2 x3 x4 Kr K R s) (hK : ∀ (z2 : Int32) (s : mS), K z2 s → xF G l kX6_row (d + 1) 0 0 (mQi G a g Kr) 150 [some (.ref (a 51)), none, some (.int z2), none, none] [] (mH G a s g)) (hR : ∀ (z2 : Int32) (z3 : Int32) (s : mS), R z2 z3 s → xF G l kX6_row (d + 1) 0 0 (mQi G a g Kr) 40 [some (.ref (a 51)), some (.int x1), some (.int z2), some (.int z3), none] [] (mH G a s g)) : xF G l kX6_row (d + 1) 0 0 (mQi G a g Kr) 112 [some (.ref (a 51)), some (.int x1), some (.int x2), some (.int x3), some (.int x4)] [] (mH G a s g) := by
  unfold w_row_112 at h
  refine x_iload_2 dX6_row_112 ?_
  refine x_iload_4 dX6_row_113 ?_
  refine x_if_eq 122 dX6_row_115 (by decide) (fun c101 => ?_) (fun c101 => ?_)
  · have h := h.1 c101
    refine x_iconst (v := 0) dX6_row_122 (by decide) ?_
    exact x_le (xLe_cons (xLe_cons (xLe_none (xLe_cons (xLe_cons (xLe_nil)))))) (c_row_123 ha (by omega) _ _ _ _ _ _ _ _ _ h hK hR)
  · have h := h.2 c101
    refine x_iconst (v := 1) dX6_row_118 (by decide) ?_
    refine x_goto 123 dX6_row_119 (by decide) ?_
    exact x_le (xLe_cons (xLe_cons (xLe_none (xLe_cons (xLe_cons (xLe_nil)))))) (c_row_123 ha (by omega) _ _ _ _ _ _ _ _ _ h hK hR)
def w_row_87 (N : Nat × Nat) (x1 : Int32) (x2 : Int32) (x3 : Int32) (y0 : Int32) (Kr : Int32 → mS → Prop) (K : Int32 → mS → Prop) (R : Int32 → Int32 → mS → Prop) (s : mS) : Prop :=
  ((y0 = 0 → (w_row_112 N x1 x2 x3 y0 Kr K R s)) ∧ (¬ y0 = 0 → (vp_in x3 400 ∧ (vp_in (x3 + 1) 400 ∧ (w_adds (mAt s 11 x3) (mAt s 11 (x3 + 1)) s (fun s105 => (w_row_112 N x1 x2 x3 y0 Kr K R s105)))))))
theorem c_row_87 {G : xG} {l : Launch} {a : Nat → Nat} {g : xH} (ha : mInj a) {d : Nat} {N : Nat × Nat} (hd : 2 ≤ d) (x1 : Int32) (x2 : Int32) (x3 : Int32) (y0 : Int32) (Kr : Int32 → mS → Prop) (K : Int32 → mS → Prop) (R : Int32 → Int32 → mS → Prop) (s : mS) (h : w_row_87 N x1 x2 x3 y0 Kr K R s) (hK : ∀ (z2 : Int32) (s : mS), K z2 s → xF G l kX6_row (d + 1) 0 0 (mQi G a g Kr) 150 [some (.ref (a 51)), none, some (.int z2), none, none] [] (mH G a s g)) (hR : ∀ (z2 : Int32) (z3 : Int32) (s : mS), R z2 z3 s → xF G l kX6_row (d + 1) 0 0 (mQi G a g Kr) 40 [some (.ref (a 51)), some (.int x1), some (.int z2), some (.int z3), none] [] (mH G a s g)) : xF G l kX6_row (d + 1) 0 0 (mQi G a g Kr) 87 [some (.ref (a 51)), some (.int x1), some (.int x2), some (.int x3), none] [.int y0] (mH G a s g) := by
  unfold w_row_87 at h
  refine x_istore_4 dX6_row_87 (by decide) xN2_i ?_
  refine x_iload_4 dX6_row_89 ?_
  refine x_if_eq 112 dX6_row_91 (by decide) (fun c101 => ?_) (fun c101 => ?_)
  · have h := h.1 c101
    exact x_le (xLe_cons (xLe_cons (xLe_cons (xLe_cons (xLe_cons (xLe_nil)))))) (c_row_112 ha (by omega) _ _ _ _ _ _ _ _ h hK hR)
  · have h := h.2 c101
    refine x_aload_0 dX6_row_94 ?_
    refine x_aload_0 dX6_row_95 ?_
    refine m_get ha dX6_row_96 fa_X6_45 rfl ?_
    refine x_iload_3 dX6_row_99 ?_
    obtain ⟨e102, h⟩ := h
    refine m_bald (j := 11) ha dX6_row_100 (by decide) (by decide) e102 ?_
    refine x_aload_0 dX6_row_101 ?_
    refine m_get ha dX6_row_102 fa_X6_45 rfl ?_
    refine x_iload_3 dX6_row_105 ?_
    refine x_iconst (v := 1) dX6_row_106 (by decide) ?_
    refine x_iadd dX6_row_107 ?_
    obtain ⟨e103, h⟩ := h
    refine m_bald (j := 11) ha dX6_row_108 (by decide) (by decide) e103 ?_
    refine m_cVv2 ha rfl cv_X6_120 (Nat.le_of_ble_eq_true rfl) dX6_row_109 (c_adds ha (by omega) h) (fun s105 h => ?_)
    exact x_le (xLe_cons (xLe_cons (xLe_cons (xLe_cons (xLe_cons (xLe_nil)))))) (c_row_112 ha (by omega) _ _ _ _ _ _ _ _ h hK hR)
def w_row_86 (N : Nat × Nat) (x1 : Int32) (x2 : Int32) (x3 : Int32) (Kr : Int32 → mS → Prop) (K : Int32 → mS → Prop) (R : Int32 → Int32 → mS → Prop) (s : mS) : Prop :=
  (w_row_87 N x1 x2 x3 0 Kr K R s)
theorem c_row_86 {G : xG} {l : Launch} {a : Nat → Nat} {g : xH} (ha : mInj a) {d : Nat} {N : Nat × Nat} (hd : 2 ≤ d) (x1 : Int32) (x2 : Int32) (x3 : Int32) (Kr : Int32 → mS → Prop) (K : Int32 → mS → Prop) (R : Int32 → Int32 → mS → Prop) (s : mS) (h : w_row_86 N x1 x2 x3 Kr K R s) (hK : ∀ (z2 : Int32) (s : mS), K z2 s → xF G l kX6_row (d + 1) 0 0 (mQi G a g Kr) 150 [some (.ref (a 51)), none, some (.int z2), none, none] [] (mH G a s g)) (hR : ∀ (z2 : Int32) (z3 : Int32) (s : mS), R z2 z3 s → xF G l kX6_row (d + 1) 0 0 (mQi G a g Kr) 40 [some (.ref (a 51)), some (.int x1), some (.int z2), some (.int z3), none] [] (mH G a s g)) : xF G l kX6_row (d + 1) 0 0 (mQi G a g Kr) 86 [some (.ref (a 51)), some (.int x1), some (.int x2), some (.int x3), none] [] (mH G a s g) := by
  unfold w_row_86 at h
  refine x_iconst (v := 0) dX6_row_86 (by decide) ?_
  exact x_le (xLe_cons (xLe_cons (xLe_cons (xLe_cons (xLe_cons (xLe_nil)))))) (c_row_87 ha (by omega) _ _ _ _ _ _ _ _ h hK hR)
def w_row_40 (N : Nat × Nat) (x1 : Int32) (Kr : Int32 → mS → Prop) (K : Int32 → mS → Prop) : Nat → Int32 → Int32 → mS → Prop
  | 0, _, _, _ => False
  | t + 1, x2, x3, s => ((x1 < (x3 + 2) → (K x2 s)) ∧ (¬ x1 < (x3 + 2) → (w_noteMany s (fun x102 s103 => ((12 ≤ x102 → (w_row_86 N x1 x2 x3 Kr K (fun x2 x3 s => w_row_40 N x1 Kr K t x2 x3 s) s103)) ∧ (¬ 12 ≤ x102 → (vp_in x3 400 ∧ (w_isPitch (mAt s103 11 x3) (fun x106 => ((x106 = 0 → (w_row_86 N x1 x2 x3 Kr K (fun x2 x3 s => w_row_40 N x1 Kr K t x2 x3 s) s103)) ∧ (¬ x106 = 0 → (vp_in (x3 + 1) 400 ∧ (w_isPitch (mAt s103 11 (x3 + 1)) (fun x110 => ((x110 = 0 → (w_row_86 N x1 x2 x3 Kr K (fun x2 x3 s => w_row_40 N x1 Kr K t x2 x3 s) s103)) ∧ (¬ x110 = 0 → (w_row_87 N x1 x2 x3 1 Kr K (fun x2 x3 s => w_row_40 N x1 Kr K t x2 x3 s) s103)))))))))))))))))
theorem c_row_40 {G : xG} {l : Launch} {a : Nat → Nat} {g : xH} (ha : mInj a) {d : Nat} {N : Nat × Nat} (hd : 2 ≤ d) (Kr : Int32 → mS → Prop) (K : Int32 → mS → Prop) (x1 : Int32) : ∀ (t : Nat) (x2 : Int32) (x3 : Int32) (s : mS) , w_row_40 N x1 Kr K t x2 x3 s → (∀ (z2 : Int32) (s : mS), K z2 s → xF G l kX6_row (d + 1) 0 0 (mQi G a g Kr) 150 [some (.ref (a 51)), none, some (.int z2), none, none] [] (mH G a s g)) → xF G l kX6_row (d + 1) 0 0 (mQi G a g Kr) 40 [some (.ref (a 51)), some (.int x1), some (.int x2), some (.int x3), none] [] (mH G a s g) := by
  intro t
  induction t with
  | zero =>
    intro _ _ _ h _
    exact absurd h (by simp [w_row_40])
  | succ t ih =>
    intro x2 x3 s h hK
    have hR := fun x2 x3 s h => ih x2 x3 s h hK
    unfold w_row_40 at h
    refine x_iload_3 dX6_row_40 ?_
    refine x_iconst (v := 2) dX6_row_41 (by decide) ?_
    refine x_iadd dX6_row_42 ?_
    refine x_iload_1 dX6_row_43 ?_
    refine x_icmp_gt 150 dX6_row_44 (by decide) (fun c101 => ?_) (fun c101 => ?_)
    · have h := h.1 c101
      exact x_le (xLe_cons (xLe_none (xLe_cons (xLe_none (xLe_cons (xLe_nil)))))) (hK _ _ h)
    · have h := h.2 c101
      refine x_aload_0 dX6_row_47 ?_
      refine m_cVi0 ha rfl cv_X6_112 (Nat.le_of_ble_eq_true rfl) dX6_row_48 (c_noteMany ha (by omega) h) (fun x102 s103 h => ?_)
      refine x_bipush (v := 12) dX6_row_51 (by decide) ?_
      refine x_icmp_ge 86 dX6_row_53 (by decide) (fun c104 => ?_) (fun c104 => ?_)
      · have h := h.1 c104
        exact x_le (xLe_cons (xLe_cons (xLe_cons (xLe_cons (xLe_cons (xLe_nil)))))) (c_row_86 ha (by omega) _ _ _ _ _ _ _ h hK hR)
      · have h := h.2 c104
        refine x_aload_0 dX6_row_56 ?_
        refine m_get ha dX6_row_57 fa_X6_45 rfl ?_
        refine x_iload_3 dX6_row_60 ?_
        obtain ⟨e105, h⟩ := h
        refine m_bald (j := 11) ha dX6_row_61 (by decide) (by decide) e105 ?_
        refine m_cSi1 rfl cs_X6_116 (Nat.le_of_ble_eq_true rfl) dX6_row_62 (c_isPitch (by omega) h) (fun x106 h => ?_)
        refine x_if_eq 86 dX6_row_65 (by decide) (fun c108 => ?_) (fun c108 => ?_)
        · have h := h.1 c108
          exact x_le (xLe_cons (xLe_cons (xLe_cons (xLe_cons (xLe_cons (xLe_nil)))))) (c_row_86 ha (by omega) _ _ _ _ _ _ _ h hK hR)
        · have h := h.2 c108
          refine x_aload_0 dX6_row_68 ?_
          refine m_get ha dX6_row_69 fa_X6_45 rfl ?_
          refine x_iload_3 dX6_row_72 ?_
          refine x_iconst (v := 1) dX6_row_73 (by decide) ?_
          refine x_iadd dX6_row_74 ?_
          obtain ⟨e109, h⟩ := h
          refine m_bald (j := 11) ha dX6_row_75 (by decide) (by decide) e109 ?_
          refine m_cSi1 rfl cs_X6_116 (Nat.le_of_ble_eq_true rfl) dX6_row_76 (c_isPitch (by omega) h) (fun x110 h => ?_)
          refine x_if_eq 86 dX6_row_79 (by decide) (fun c112 => ?_) (fun c112 => ?_)
          · have h := h.1 c112
            exact x_le (xLe_cons (xLe_cons (xLe_cons (xLe_cons (xLe_cons (xLe_nil)))))) (c_row_86 ha (by omega) _ _ _ _ _ _ _ h hK hR)
          · have h := h.2 c112
            refine x_iconst (v := 1) dX6_row_82 (by decide) ?_
            refine x_goto 87 dX6_row_83 (by decide) ?_
            exact x_le (xLe_cons (xLe_cons (xLe_cons (xLe_cons (xLe_cons (xLe_nil)))))) (c_row_87 ha (by omega) _ _ _ _ _ _ _ _ h hK hR)
def w_row_35 (N : Nat × Nat) (x1 : Int32) (x2 : Int32) (y1 : Int32) (Kr : Int32 → mS → Prop) (s : mS) : Prop :=
  (∀ s101 : mS, s101 = mF s 6 y1 → (w_row_40 N x1 Kr (fun x102 s103 => (w_settled x102 s103 (fun x104 s105 => (Kr x104 s105)))) N.1 x2 0 s101))
theorem c_row_35 {G : xG} {l : Launch} {a : Nat → Nat} {g : xH} (ha : mInj a) {d : Nat} {N : Nat × Nat} (hd : 2 ≤ d) (x1 : Int32) (x2 : Int32) (y1 : Int32) (Kr : Int32 → mS → Prop) (s : mS) (h : w_row_35 N x1 x2 y1 Kr s) : xF G l kX6_row (d + 1) 0 0 (mQi G a g Kr) 35 [some (.ref (a 51)), some (.int x1), some (.int x2), none, none] [.int y1, .ref (a 51)] (mH G a s g) := by
  unfold w_row_35 at h
  refine m_put ha dX6_row_35 fp_X6_157 (mfs_6 _ _ _) (by decide) rfl rfl ?_
  have h := h _ rfl
  refine x_iconst (v := 0) dX6_row_38 (by decide) ?_
  refine x_istore_3 dX6_row_39 (by decide) xN2_i ?_
  refine x_le (xLe_cons (xLe_cons (xLe_cons (xLe_cons (xLe_cons (xLe_nil)))))) (c_row_40 ha (by omega) _ _ _ _ _ _ _ h (fun x102 s103 h => ?_))
  refine x_aload_0 dX6_row_150 ?_
  refine x_iload_2 dX6_row_151 ?_
  refine m_cVi1 ha rfl cv_X6_109 (Nat.le_of_ble_eq_true rfl) dX6_row_152 (c_settled ha (by omega) h) (fun x104 s105 h => ?_)
  exact x_iret dX6_row_155 rfl ⟨_, _, h, rfl, rfl⟩
def w_row (N : Nat × Nat) (s : mS) (Kr : Int32 → mS → Prop) : Prop :=
  (∀ x101 : Int32, x101 = mFd s 13 → (∀ s102 : mS, s102 = mF s 13 0 → ((¬ x101 = 0 → ((¬ (x101 - x101 / 2 * 2) = 0 → (w_row_35 N x101 0 1 Kr s102)) ∧ ((x101 - x101 / 2 * 2) = 0 → (w_row_35 N x101 0 0 Kr s102)))) ∧ (x101 = 0 → (w_refuses (-6) s102 (fun x105 s106 => (Kr x105 s106)))))))
theorem c_row {G : xG} {l : Launch} {a : Nat → Nat} {g : xH} (ha : mInj a) {d : Nat} {N : Nat × Nat} (hd : 3 ≤ d) {s : mS} {Kr : Int32 → mS → Prop} (h : w_row N s Kr) : xC G l kX6_row d 0 0 [.ref (a 51)] (mH G a s g) (mQi G a g Kr) := by
  obtain ⟨d, rfl⟩ : ∃ z, d = z + 1 := ⟨d - 1, by omega⟩
  refine xC.start rfl (by decide +kernel) (Nat.le_of_ble_eq_true rfl) (lv := [some (.ref (a 51)), none, none, none, none]) rfl ?_
  unfold w_row at h
  refine x_aload_0 dX6_row_0 ?_
  refine m_get ha dX6_row_1 fa_X6_154 rfl ?_
  refine x_istore_1 dX6_row_4 (by decide) xN2_r ?_
  have h := h _ rfl
  refine x_aload_0 dX6_row_5 ?_
  refine x_iconst (v := 0) dX6_row_6 (by decide) ?_
  refine m_put ha dX6_row_7 fp_X6_154 (mfs_13 _ _ _) (by decide) rfl rfl ?_
  have h := h _ rfl
  refine x_iload_1 dX6_row_10 ?_
  refine x_if_ne 21 dX6_row_11 (by decide) (fun c103 => ?_) (fun c103 => ?_)
  · have h := h.1 c103
    refine x_iconst (v := 0) dX6_row_21 (by decide) ?_
    refine x_istore_2 dX6_row_22 (by decide) xN2_i ?_
    refine x_aload_0 dX6_row_23 ?_
    refine x_iload_1 dX6_row_24 ?_
    refine x_iconst (v := 2) dX6_row_25 (by decide) ?_
    refine x_irem dX6_row_26 (by decide) ?_
    refine x_if_ne 34 dX6_row_27 (by decide) (fun c104 => ?_) (fun c104 => ?_)
    · have h := h.1 c104
      refine x_iconst (v := 1) dX6_row_34 (by decide) ?_
      exact x_le (xLe_cons (xLe_cons (xLe_cons (xLe_cons (xLe_cons (xLe_nil)))))) (c_row_35 ha (by omega) _ _ _ _ _ h)
    · have h := h.2 c104
      refine x_iconst (v := 0) dX6_row_30 (by decide) ?_
      refine x_goto 35 dX6_row_31 (by decide) ?_
      exact x_le (xLe_cons (xLe_cons (xLe_cons (xLe_cons (xLe_cons (xLe_nil)))))) (c_row_35 ha (by omega) _ _ _ _ _ h)
  · have h := h.2 c103
    refine x_aload_0 dX6_row_14 ?_
    refine x_bipush (v := (-6)) dX6_row_15 (by decide) ?_
    refine m_cVi1 ha rfl cv_X6_106 (Nat.le_of_ble_eq_true rfl) dX6_row_17 (c_refuses ha (by omega) h) (fun x105 s106 h => ?_)
    exact x_iret dX6_row_20 rfl ⟨_, _, h, rfl, rfl⟩
def w_set (N : Nat × Nat) (x1 : Int32) (x2 : Int32) (s : mS) (Kr : Int32 → mS → Prop) : Prop :=
  (w_movesKept N 0 0 x1 x2 s (fun x101 s102 => (w_goodOr x101 s102 (fun x103 s104 => (Kr x103 s104)))))
theorem c_set {G : xG} {l : Launch} {a : Nat → Nat} {g : xH} (ha : mInj a) {d : Nat} {N : Nat × Nat} (hd : 4 ≤ d) {x1 : Int32} {x2 : Int32} {s : mS} {Kr : Int32 → mS → Prop} (h : w_set N x1 x2 s Kr) : xC G l kX6_set d 0 0 [.ref (a 51), .int x1, .int x2] (mH G a s g) (mQi G a g Kr) := by
  obtain ⟨d, rfl⟩ : ∃ z, d = z + 1 := ⟨d - 1, by omega⟩
  refine xC.start rfl (by decide +kernel) (Nat.le_of_ble_eq_true rfl) (lv := [some (.ref (a 51)), some (.int x1), some (.int x2)]) rfl ?_
  unfold w_set at h
  refine x_aload_0 dX6_set_0 ?_
  refine x_aload_0 dX6_set_1 ?_
  refine x_iconst (v := 0) dX6_set_2 (by decide) ?_
  refine x_iconst (v := 0) dX6_set_3 (by decide) ?_
  refine x_iload_1 dX6_set_4 ?_
  refine x_iload_2 dX6_set_5 ?_
  refine m_cVi4 ha rfl cv_X6_341 (Nat.le_of_ble_eq_true rfl) dX6_set_6 (c_movesKept ha (by omega) h) (fun x101 s102 h => ?_)
  refine m_cVi1 ha rfl cv_X6_345 (Nat.le_of_ble_eq_true rfl) dX6_set_9 (c_goodOr ha (by omega) h) (fun x103 s104 h => ?_)
  exact x_iret dX6_set_12 rfl ⟨_, _, h, rfl, rfl⟩
def w_shift (N : Nat × Nat) (x1 : Int32) (x2 : Int32) (s : mS) (Kr : Int32 → mS → Prop) : Prop :=
  (w_movesKept N 1 12 x1 x2 s (fun x101 s102 => (w_goodOr x101 s102 (fun x103 s104 => (Kr x103 s104)))))
theorem c_shift {G : xG} {l : Launch} {a : Nat → Nat} {g : xH} (ha : mInj a) {d : Nat} {N : Nat × Nat} (hd : 4 ≤ d) {x1 : Int32} {x2 : Int32} {s : mS} {Kr : Int32 → mS → Prop} (h : w_shift N x1 x2 s Kr) : xC G l kX6_shift d 0 0 [.ref (a 51), .int x1, .int x2] (mH G a s g) (mQi G a g Kr) := by
  obtain ⟨d, rfl⟩ : ∃ z, d = z + 1 := ⟨d - 1, by omega⟩
  refine xC.start rfl (by decide +kernel) (Nat.le_of_ble_eq_true rfl) (lv := [some (.ref (a 51)), some (.int x1), some (.int x2)]) rfl ?_
  unfold w_shift at h
  refine x_aload_0 dX6_shift_0 ?_
  refine x_aload_0 dX6_shift_1 ?_
  refine x_iconst (v := 1) dX6_shift_2 (by decide) ?_
  refine x_bipush (v := 12) dX6_shift_3 (by decide) ?_
  refine x_iload_1 dX6_shift_5 ?_
  refine x_iload_2 dX6_shift_6 ?_
  refine m_cVi4 ha rfl cv_X6_341 (Nat.le_of_ble_eq_true rfl) dX6_shift_7 (c_movesKept ha (by omega) h) (fun x101 s102 h => ?_)
  refine m_cVi1 ha rfl cv_X6_345 (Nat.le_of_ble_eq_true rfl) dX6_shift_10 (c_goodOr ha (by omega) h) (fun x103 s104 h => ?_)
  exact x_iret dX6_shift_13 rfl ⟨_, _, h, rfl, rfl⟩
def w_status (s : mS) (Kr : Int32 → mS → Prop) : Prop :=
  (Kr (mFd s 0) s)
theorem c_status {G : xG} {l : Launch} {a : Nat → Nat} {g : xH} (ha : mInj a) {d : Nat} (hd : 1 ≤ d) {s : mS} {Kr : Int32 → mS → Prop} (h : w_status s Kr) : xC G l kX6_status d 0 0 [.ref (a 51)] (mH G a s g) (mQi G a g Kr) := by
  obtain ⟨d, rfl⟩ : ∃ z, d = z + 1 := ⟨d - 1, by omega⟩
  refine xC.start rfl (by decide +kernel) (Nat.le_of_ble_eq_true rfl) (lv := [some (.ref (a 51))]) rfl ?_
  unfold w_status at h
  refine x_aload_0 dX6_status_0 ?_
  refine m_get ha dX6_status_1 fa_X6_3 rfl ?_
  exact x_iret dX6_status_4 rfl ⟨_, _, h, rfl, rfl⟩
def w_stopped (s : mS) (Kr : Int32 → mS → Prop) : Prop :=
  (Kr (mFd s 41) s)
theorem c_stopped {G : xG} {l : Launch} {a : Nat → Nat} {g : xH} (ha : mInj a) {d : Nat} (hd : 1 ≤ d) {s : mS} {Kr : Int32 → mS → Prop} (h : w_stopped s Kr) : xC G l kX6_stopped d 0 0 [.ref (a 51)] (mH G a s g) (mQi G a g Kr) := by
  obtain ⟨d, rfl⟩ : ∃ z, d = z + 1 := ⟨d - 1, by omega⟩
  refine xC.start rfl (by decide +kernel) (Nat.le_of_ble_eq_true rfl) (lv := [some (.ref (a 51))]) rfl ?_
  unfold w_stopped at h
  refine x_aload_0 dX6_stopped_0 ?_
  refine m_get ha dX6_stopped_1 fa_X6_94 rfl ?_
  exact x_iret dX6_stopped_4 rfl ⟨_, _, h, rfl, rfl⟩
def w_swap (N : Nat × Nat) (s : mS) (Kr : Int32 → mS → Prop) : Prop :=
  (w_swapsKept N s (fun x101 s102 => (w_goodOr x101 s102 (fun x103 s104 => (Kr x103 s104)))))
theorem c_swap {G : xG} {l : Launch} {a : Nat → Nat} {g : xH} (ha : mInj a) {d : Nat} {N : Nat × Nat} (hd : 4 ≤ d) {s : mS} {Kr : Int32 → mS → Prop} (h : w_swap N s Kr) : xC G l kX6_swap d 0 0 [.ref (a 51)] (mH G a s g) (mQi G a g Kr) := by
  obtain ⟨d, rfl⟩ : ∃ z, d = z + 1 := ⟨d - 1, by omega⟩
  refine xC.start rfl (by decide +kernel) (Nat.le_of_ble_eq_true rfl) (lv := [some (.ref (a 51))]) rfl ?_
  unfold w_swap at h
  refine x_aload_0 dX6_swap_0 ?_
  refine x_aload_0 dX6_swap_1 ?_
  refine m_cVi0 ha rfl cv_X6_348 (Nat.le_of_ble_eq_true rfl) dX6_swap_2 (c_swapsKept ha (by omega) h) (fun x101 s102 h => ?_)
  refine m_cVi1 ha rfl cv_X6_345 (Nat.le_of_ble_eq_true rfl) dX6_swap_5 (c_goodOr ha (by omega) h) (fun x103 s104 h => ?_)
  exact x_iret dX6_swap_8 rfl ⟨_, _, h, rfl, rfl⟩
def w_terms (x1 : Int32) (x2 : Int32) (s : mS) (Kr : Int32 → mS → Prop) : Prop :=
  (w_isTerm x1 x2 (fun x101 => ((¬ x101 = 0 → (w_termAt x1 (fun x104 => (vp_in x104 5652 ∧ (∀ x107 : Int32, x107 = mAt s 2 x104 → (w_termAt x1 (fun x108 => (vp_in x108 5652 ∧ (∀ s111 : mS, s111 = mI s 2 x108 x2 → (w_settled x107 s111 (fun x112 s113 => (Kr x112 s113)))))))))))) ∧ (x101 = 0 → (w_refuses (-1) s (fun x114 s115 => (Kr x114 s115)))))))
theorem c_terms {G : xG} {l : Launch} {a : Nat → Nat} {g : xH} (ha : mInj a) {d : Nat} (hd : 4 ≤ d) {x1 : Int32} {x2 : Int32} {s : mS} {Kr : Int32 → mS → Prop} (h : w_terms x1 x2 s Kr) : xC G l kX6_terms d 0 0 [.ref (a 51), .int x1, .int x2] (mH G a s g) (mQi G a g Kr) := by
  obtain ⟨d, rfl⟩ : ∃ z, d = z + 1 := ⟨d - 1, by omega⟩
  refine xC.start rfl (by decide +kernel) (Nat.le_of_ble_eq_true rfl) (lv := [some (.ref (a 51)), some (.int x1), some (.int x2), none]) rfl ?_
  unfold w_terms at h
  refine x_iload_1 dX6_terms_0 ?_
  refine x_iload_2 dX6_terms_1 ?_
  refine m_cSi2 rfl cs_X6_147 (Nat.le_of_ble_eq_true rfl) dX6_terms_2 (c_isTerm (by omega) h) (fun x101 h => ?_)
  refine x_if_ne 14 dX6_terms_5 (by decide) (fun c103 => ?_) (fun c103 => ?_)
  · have h := h.1 c103
    refine x_aload_0 dX6_terms_14 ?_
    refine m_get ha dX6_terms_15 fa_X6_28 rfl ?_
    refine x_iload_1 dX6_terms_18 ?_
    refine m_cSi1 rfl cs_X6_151 (Nat.le_of_ble_eq_true rfl) dX6_terms_19 (c_termAt (by omega) h) (fun x104 h => ?_)
    obtain ⟨e106, h⟩ := h
    refine m_iald (j := 2) ha dX6_terms_22 (by decide) (by decide) e106 ?_
    refine x_istore_3 dX6_terms_23 (by decide) xN2_i ?_
    have h := h _ rfl
    refine x_aload_0 dX6_terms_24 ?_
    refine m_get ha dX6_terms_25 fa_X6_28 rfl ?_
    refine x_iload_1 dX6_terms_28 ?_
    refine m_cSi1 rfl cs_X6_151 (Nat.le_of_ble_eq_true rfl) dX6_terms_29 (c_termAt (by omega) h) (fun x108 h => ?_)
    refine x_iload_2 dX6_terms_32 ?_
    obtain ⟨e110, h⟩ := h
    refine m_iast (j := 2) ha dX6_terms_33 (by decide) (by decide) e110 ?_
    have h := h _ rfl
    refine x_aload_0 dX6_terms_34 ?_
    refine x_iload_3 dX6_terms_35 ?_
    refine m_cVi1 ha rfl cv_X6_109 (Nat.le_of_ble_eq_true rfl) dX6_terms_36 (c_settled ha (by omega) h) (fun x112 s113 h => ?_)
    exact x_iret dX6_terms_39 rfl ⟨_, _, h, rfl, rfl⟩
  · have h := h.2 c103
    refine x_aload_0 dX6_terms_8 ?_
    refine x_iconst (v := (-1)) dX6_terms_9 (by decide) ?_
    refine m_cVi1 ha rfl cv_X6_106 (Nat.le_of_ble_eq_true rfl) dX6_terms_10 (c_refuses ha (by omega) h) (fun x114 s115 h => ?_)
    exact x_iret dX6_terms_13 rfl ⟨_, _, h, rfl, rfl⟩
def w_undo_34 (N : Nat × Nat) (x1 : Int32) (Kr : Int32 → mS → Prop) (K : mS → Prop) : Nat → Int32 → mS → Prop
  | 0, _, _ => False
  | t + 1, x2, s => ((25 ≤ x2 → (K s)) ∧ (¬ 25 ≤ x2 → (vp_in (x1 + x2) 416 ∧ (vp_in x2 5652 ∧ (∀ s104 : mS, s104 = mI s 2 x2 (mAt s 31 (x1 + x2)) → (∀ x105 : Int32, x105 = x2 + 1 → ((fun x2 s => w_undo_34 N x1 Kr K t x2 s) x105 s104)))))))
theorem c_undo_34 {G : xG} {l : Launch} {a : Nat → Nat} {g : xH} (ha : mInj a) {d : Nat} {N : Nat × Nat} (hd : 1 ≤ d) (Kr : Int32 → mS → Prop) (K : mS → Prop) (x1 : Int32) : ∀ (t : Nat) (x2 : Int32) (s : mS) , w_undo_34 N x1 Kr K t x2 s → (∀ (s : mS), K s → xF G l kX6_undo (d + 1) 0 0 (mQi G a g Kr) 60 [some (.ref (a 51)), some (.int x1), none] [] (mH G a s g)) → xF G l kX6_undo (d + 1) 0 0 (mQi G a g Kr) 34 [some (.ref (a 51)), some (.int x1), some (.int x2)] [] (mH G a s g) := by
  intro t
  induction t with
  | zero =>
    intro _ _ h _
    exact absurd h (by simp [w_undo_34])
  | succ t ih =>
    intro x2 s h hK
    have hR := fun x2 s h => ih x2 s h hK
    unfold w_undo_34 at h
    refine x_iload_2 dX6_undo_34 ?_
    refine x_bipush (v := 25) dX6_undo_35 (by decide) ?_
    refine x_icmp_ge 60 dX6_undo_37 (by decide) (fun c101 => ?_) (fun c101 => ?_)
    · have h := h.1 c101
      exact x_le (xLe_cons (xLe_cons (xLe_none (xLe_nil)))) (hK _ h)
    · have h := h.2 c101
      refine x_aload_0 dX6_undo_40 ?_
      refine m_get ha dX6_undo_41 fa_X6_28 rfl ?_
      refine x_iload_2 dX6_undo_44 ?_
      refine x_aload_0 dX6_undo_45 ?_
      refine m_get ha dX6_undo_46 fa_X6_66 rfl ?_
      refine x_iload_1 dX6_undo_49 ?_
      refine x_iload_2 dX6_undo_50 ?_
      refine x_iadd dX6_undo_51 ?_
      obtain ⟨e102, h⟩ := h
      refine m_iald (j := 31) ha dX6_undo_52 (by decide) (by decide) e102 ?_
      obtain ⟨e103, h⟩ := h
      refine m_iast (j := 2) ha dX6_undo_53 (by decide) (by decide) e103 ?_
      have h := h _ rfl
      refine x_iinc_2 (v := 1) dX6_undo_54 (by decide) (by decide) xN2_i ?_
      have h := h _ rfl
      refine x_goto 34 dX6_undo_57 (by decide) ?_
      exact x_le (xLe_cons (xLe_cons (xLe_cons (xLe_nil)))) (hR _ _ h)
def w_undo (N : Nat × Nat) (s : mS) (Kr : Int32 → mS → Prop) : Prop :=
  ((¬ (mFd s 33) = 0 → (∀ s102 : mS, s102 = mF s 33 ((mFd s 33) - 1) → (∀ x103 : Int32, x103 = 26 * (mFd s102 33) → (w_undo_34 N x103 Kr (fun s104 => (vp_in (x103 + 25) 416 ∧ (w_good (mAt s104 31 (x103 + 25)) s104 (fun x106 s107 => (Kr x106 s107))))) N.1 0 s102)))) ∧ ((mFd s 33) = 0 → (w_refuses (-3) s (fun x108 s109 => (Kr x108 s109)))))
theorem c_undo {G : xG} {l : Launch} {a : Nat → Nat} {g : xH} (ha : mInj a) {d : Nat} {N : Nat × Nat} (hd : 2 ≤ d) {s : mS} {Kr : Int32 → mS → Prop} (h : w_undo N s Kr) : xC G l kX6_undo d 0 0 [.ref (a 51)] (mH G a s g) (mQi G a g Kr) := by
  obtain ⟨d, rfl⟩ : ∃ z, d = z + 1 := ⟨d - 1, by omega⟩
  refine xC.start rfl (by decide +kernel) (Nat.le_of_ble_eq_true rfl) (lv := [some (.ref (a 51)), none, none]) rfl ?_
  unfold w_undo at h
  refine x_aload_0 dX6_undo_0 ?_
  refine m_get ha dX6_undo_1 fa_X6_11 rfl ?_
  refine x_if_ne 14 dX6_undo_4 (by decide) (fun c101 => ?_) (fun c101 => ?_)
  · have h := h.1 c101
    refine x_aload_0 dX6_undo_14 ?_
    refine x_dup dX6_undo_15 rfl ?_
    refine m_get ha dX6_undo_16 fa_X6_11 rfl ?_
    refine x_iconst (v := 1) dX6_undo_19 (by decide) ?_
    refine x_isub dX6_undo_20 ?_
    refine m_put ha dX6_undo_21 fp_X6_11 (mfs_33 _ _ _) (by decide) rfl rfl ?_
    have h := h _ rfl
    refine x_bipush (v := 26) dX6_undo_24 (by decide) ?_
    refine x_aload_0 dX6_undo_26 ?_
    refine m_get ha dX6_undo_27 fa_X6_11 rfl ?_
    refine x_imul dX6_undo_30 ?_
    refine x_istore_1 dX6_undo_31 (by decide) xN2_r ?_
    have h := h _ rfl
    refine x_iconst (v := 0) dX6_undo_32 (by decide) ?_
    refine x_istore_2 dX6_undo_33 (by decide) xN2_i ?_
    refine x_le (xLe_cons (xLe_cons (xLe_cons (xLe_nil)))) (c_undo_34 ha (by omega) _ _ _ _ _ _ h (fun s104 h => ?_))
    refine x_aload_0 dX6_undo_60 ?_
    refine x_aload_0 dX6_undo_61 ?_
    refine m_get ha dX6_undo_62 fa_X6_66 rfl ?_
    refine x_iload_1 dX6_undo_65 ?_
    refine x_bipush (v := 25) dX6_undo_66 (by decide) ?_
    refine x_iadd dX6_undo_68 ?_
    obtain ⟨e105, h⟩ := h
    refine m_iald (j := 31) ha dX6_undo_69 (by decide) (by decide) e105 ?_
    refine m_cVi1 ha rfl cv_X6_14 (Nat.le_of_ble_eq_true rfl) dX6_undo_70 (c_good ha (by omega) h) (fun x106 s107 h => ?_)
    exact x_iret dX6_undo_73 rfl ⟨_, _, h, rfl, rfl⟩
  · have h := h.2 c101
    refine x_aload_0 dX6_undo_7 ?_
    refine x_bipush (v := (-3)) dX6_undo_8 (by decide) ?_
    refine m_cVi1 ha rfl cv_X6_106 (Nat.le_of_ble_eq_true rfl) dX6_undo_10 (c_refuses ha (by omega) h) (fun x108 s109 h => ?_)
    exact x_iret dX6_undo_13 rfl ⟨_, _, h, rfl, rfl⟩
def w_waysFrom_11 (N : Nat × Nat) (x1 : Int32) (x2 : Int32) (Kr : Int64 → mS → Prop) (K : Int64 → mS → Prop) : Nat → Int64 → Int32 → mS → Prop
  | 0, _, _, _ => False
  | t + 1, x3, x5, s => (vp_in 40 5652 ∧ (((mAt s 2 40) < x5 → (K x3 s)) ∧ (¬ (mAt s 2 40) < x5 → (w_noteAt x1 x2 x5 (fun x103 => (vp_in x103 7500 ∧ (((mAt s 36 x103) = 0 → (∀ x107 : Int64, x107 = x3 + 0 → (∀ x108 : Int32, x108 = x5 + 1 → ((fun x3 x5 s => w_waysFrom_11 N x1 x2 Kr K t x3 x5 s) x107 x108 s)))) ∧ (¬ (mAt s 36 x103) = 0 → (vp_in ((25 * x1) + x5) 300 ∧ (∀ x110 : Int64, x110 = x3 + (mLt s 38 ((25 * x1) + x5)) → (∀ x111 : Int32, x111 = x5 + 1 → ((fun x3 x5 s => w_waysFrom_11 N x1 x2 Kr K t x3 x5 s) x110 x111 s))))))))))))
theorem c_waysFrom_11 {G : xG} {l : Launch} {a : Nat → Nat} {g : xH} (ha : mInj a) {d : Nat} {N : Nat × Nat} (hd : 1 ≤ d) (Kr : Int64 → mS → Prop) (K : Int64 → mS → Prop) (x1 : Int32) (x2 : Int32) : ∀ (t : Nat) (x3 : Int64) (x5 : Int32) (s : mS) , w_waysFrom_11 N x1 x2 Kr K t x3 x5 s → (∀ (z3 : Int64) (s : mS), K z3 s → xF G l kX6_waysFrom (d + 1) 0 0 (mQl G a g Kr) 63 [some (.ref (a 51)), none, none, some (.long z3), none, none] [] (mH G a s g)) → xF G l kX6_waysFrom (d + 1) 0 0 (mQl G a g Kr) 11 [some (.ref (a 51)), some (.int x1), some (.int x2), some (.long x3), none, some (.int x5)] [] (mH G a s g) := by
  intro t
  induction t with
  | zero =>
    intro _ _ _ h _
    exact absurd h (by simp [w_waysFrom_11])
  | succ t ih =>
    intro x3 x5 s h hK
    have hR := fun x3 x5 s h => ih x3 x5 s h hK
    unfold w_waysFrom_11 at h
    refine x_iload_5 dX6_waysFrom_11 ?_
    refine x_aload_0 dX6_waysFrom_13 ?_
    refine m_get ha dX6_waysFrom_14 fa_X6_28 rfl ?_
    refine x_bipush (v := 40) dX6_waysFrom_17 (by decide) ?_
    obtain ⟨e101, h⟩ := h
    refine m_iald (j := 2) ha dX6_waysFrom_19 (by decide) (by decide) e101 ?_
    refine x_icmp_gt 63 dX6_waysFrom_20 (by decide) (fun c102 => ?_) (fun c102 => ?_)
    · have h := h.1 c102
      exact x_le (xLe_cons (xLe_none (xLe_none (xLe_cons (xLe_cons (xLe_none (xLe_nil))))))) (hK _ _ h)
    · have h := h.2 c102
      refine x_lload_3 dX6_waysFrom_23 ?_
      refine x_aload_0 dX6_waysFrom_24 ?_
      refine m_get ha dX6_waysFrom_25 fa_X6_78 rfl ?_
      refine x_iload_1 dX6_waysFrom_28 ?_
      refine x_iload_2 dX6_waysFrom_29 ?_
      refine x_iload_5 dX6_waysFrom_30 ?_
      refine m_cSi3 rfl cs_X6_354 (Nat.le_of_ble_eq_true rfl) dX6_waysFrom_32 (c_noteAt (by omega) h) (fun x103 h => ?_)
      obtain ⟨e105, h⟩ := h
      refine m_zald (j := 36) ha dX6_waysFrom_35 (by decide) (by decide) e105 ?_
      refine x_if_eq 54 dX6_waysFrom_36 (by decide) (fun c106 => ?_) (fun c106 => ?_)
      · have h := h.1 c106
        refine x_lconst (v := 0) dX6_waysFrom_54 (by decide) ?_
        refine x_ladd dX6_waysFrom_55 ?_
        refine x_lstore_3 dX6_waysFrom_56 (by decide) xN2_i ?_
        have h := h _ rfl
        refine x_iinc_5 (v := 1) dX6_waysFrom_57 (by decide) (by decide) xN2_none ?_
        have h := h _ rfl
        refine x_goto 11 dX6_waysFrom_60 (by decide) ?_
        exact x_le (xLe_cons (xLe_cons (xLe_cons (xLe_cons (xLe_cons (xLe_cons (xLe_nil))))))) (hR _ _ _ h)
      · have h := h.2 c106
        refine x_aload_0 dX6_waysFrom_39 ?_
        refine m_get ha dX6_waysFrom_40 fa_X6_84 rfl ?_
        refine x_bipush (v := 25) dX6_waysFrom_43 (by decide) ?_
        refine x_iload_1 dX6_waysFrom_45 ?_
        refine x_imul dX6_waysFrom_46 ?_
        refine x_iload_5 dX6_waysFrom_47 ?_
        refine x_iadd dX6_waysFrom_49 ?_
        obtain ⟨e109, h⟩ := h
        refine m_lald (j := 38) ha dX6_waysFrom_50 (by decide) (by decide) e109 ?_
        refine x_goto 55 dX6_waysFrom_51 (by decide) ?_
        refine x_ladd dX6_waysFrom_55 ?_
        refine x_lstore_3 dX6_waysFrom_56 (by decide) xN2_i ?_
        have h := h _ rfl
        refine x_iinc_5 (v := 1) dX6_waysFrom_57 (by decide) (by decide) xN2_none ?_
        have h := h _ rfl
        refine x_goto 11 dX6_waysFrom_60 (by decide) ?_
        exact x_le (xLe_cons (xLe_cons (xLe_cons (xLe_cons (xLe_cons (xLe_cons (xLe_nil))))))) (hR _ _ _ h)
def w_waysFrom (N : Nat × Nat) (x1 : Int32) (x2 : Int32) (s : mS) (Kr : Int64 → mS → Prop) : Prop :=
  (vp_in 39 5652 ∧ (∀ x102 : Int32, x102 = mAt s 2 39 → (w_waysFrom_11 N x1 x2 Kr (fun x103 s104 => (Kr x103 s104)) N.1 0 x102 s)))
theorem c_waysFrom {G : xG} {l : Launch} {a : Nat → Nat} {g : xH} (ha : mInj a) {d : Nat} {N : Nat × Nat} (hd : 2 ≤ d) {x1 : Int32} {x2 : Int32} {s : mS} {Kr : Int64 → mS → Prop} (h : w_waysFrom N x1 x2 s Kr) : xC G l kX6_waysFrom d 0 0 [.ref (a 51), .int x1, .int x2] (mH G a s g) (mQl G a g Kr) := by
  obtain ⟨d, rfl⟩ : ∃ z, d = z + 1 := ⟨d - 1, by omega⟩
  refine xC.start rfl (by decide +kernel) (Nat.le_of_ble_eq_true rfl) (lv := [some (.ref (a 51)), some (.int x1), some (.int x2), none, none, none]) rfl ?_
  unfold w_waysFrom at h
  refine x_lconst (v := 0) dX6_waysFrom_0 (by decide) ?_
  refine x_lstore_3 dX6_waysFrom_1 (by decide) xN2_i ?_
  refine x_aload_0 dX6_waysFrom_2 ?_
  refine m_get ha dX6_waysFrom_3 fa_X6_28 rfl ?_
  refine x_bipush (v := 39) dX6_waysFrom_6 (by decide) ?_
  obtain ⟨e101, h⟩ := h
  refine m_iald (j := 2) ha dX6_waysFrom_8 (by decide) (by decide) e101 ?_
  refine x_istore_5 dX6_waysFrom_9 (by decide) xN2_none ?_
  have h := h _ rfl
  refine x_le (xLe_cons (xLe_cons (xLe_cons (xLe_cons (xLe_cons (xLe_cons (xLe_nil))))))) (c_waysFrom_11 ha (by omega) _ _ _ _ _ _ _ _ h (fun x103 s104 h => ?_))
  refine x_lload_3 dX6_waysFrom_63 ?_
  exact x_lret dX6_waysFrom_64 rfl ⟨_, _, h, rfl, rfl⟩
def w_ways_32 (N : Nat × Nat) (x1 : Int32) (Kr : Int64 → mS → Prop) (K : mS → Prop) : Nat → Int32 → mS → Prop
  | 0, _, _ => False
  | t + 1, x2, s => (vp_in 40 5652 ∧ (((mAt s 2 40) < x2 → (K s)) ∧ (¬ (mAt s 2 40) < x2 → (w_noteMany s (fun x103 s104 => ((¬ x1 = (x103 - 1) → (w_waysFrom N (x1 + 1) x2 s104 (fun x106 s107 => (vp_in ((25 * x1) + x2) 300 ∧ (∀ s109 : mS, s109 = mL s107 38 ((25 * x1) + x2) x106 → (∀ x110 : Int32, x110 = x2 + 1 → ((fun x2 s => w_ways_32 N x1 Kr K t x2 s) x110 s109))))))) ∧ (x1 = (x103 - 1) → (vp_in ((25 * x1) + x2) 300 ∧ (∀ s112 : mS, s112 = mL s104 38 ((25 * x1) + x2) 1 → (∀ x113 : Int32, x113 = x2 + 1 → ((fun x2 s => w_ways_32 N x1 Kr K t x2 s) x113 s112)))))))))))
theorem c_ways_32 {G : xG} {l : Launch} {a : Nat → Nat} {g : xH} (ha : mInj a) {d : Nat} {N : Nat × Nat} (hd : 2 * N.2 + 9 ≤ d) (Kr : Int64 → mS → Prop) (K : mS → Prop) (x1 : Int32) : ∀ (t : Nat) (x2 : Int32) (s : mS) , w_ways_32 N x1 Kr K t x2 s → (∀ (s : mS), K s → xF G l kX6_ways (d + 1) 0 0 (mQl G a g Kr) 82 [some (.ref (a 51)), some (.int x1), none] [] (mH G a s g)) → xF G l kX6_ways (d + 1) 0 0 (mQl G a g Kr) 32 [some (.ref (a 51)), some (.int x1), some (.int x2)] [] (mH G a s g) := by
  intro t
  induction t with
  | zero =>
    intro _ _ h _
    exact absurd h (by simp [w_ways_32])
  | succ t ih =>
    intro x2 s h hK
    have hR := fun x2 s h => ih x2 s h hK
    unfold w_ways_32 at h
    refine x_iload_2 dX6_ways_32 ?_
    refine x_aload_0 dX6_ways_33 ?_
    refine m_get ha dX6_ways_34 fa_X6_28 rfl ?_
    refine x_bipush (v := 40) dX6_ways_37 (by decide) ?_
    obtain ⟨e101, h⟩ := h
    refine m_iald (j := 2) ha dX6_ways_39 (by decide) (by decide) e101 ?_
    refine x_icmp_gt 82 dX6_ways_40 (by decide) (fun c102 => ?_) (fun c102 => ?_)
    · have h := h.1 c102
      exact x_le (xLe_cons (xLe_cons (xLe_none (xLe_nil)))) (hK _ h)
    · have h := h.2 c102
      refine x_aload_0 dX6_ways_43 ?_
      refine m_get ha dX6_ways_44 fa_X6_84 rfl ?_
      refine x_bipush (v := 25) dX6_ways_47 (by decide) ?_
      refine x_iload_1 dX6_ways_49 ?_
      refine x_imul dX6_ways_50 ?_
      refine x_iload_2 dX6_ways_51 ?_
      refine x_iadd dX6_ways_52 ?_
      refine x_iload_1 dX6_ways_53 ?_
      refine x_aload_0 dX6_ways_54 ?_
      refine m_cVi0 ha rfl cv_X6_112 (Nat.le_of_ble_eq_true rfl) dX6_ways_55 (c_noteMany ha (by omega) h) (fun x103 s104 h => ?_)
      refine x_iconst (v := 1) dX6_ways_58 (by decide) ?_
      refine x_isub dX6_ways_59 ?_
      refine x_icmp_ne 67 dX6_ways_60 (by decide) (fun c105 => ?_) (fun c105 => ?_)
      · have h := h.1 c105
        refine x_aload_0 dX6_ways_67 ?_
        refine x_iload_1 dX6_ways_68 ?_
        refine x_iconst (v := 1) dX6_ways_69 (by decide) ?_
        refine x_iadd dX6_ways_70 ?_
        refine x_iload_2 dX6_ways_71 ?_
        refine m_cVl2 ha rfl cv_X6_400 (Nat.le_of_ble_eq_true rfl) dX6_ways_72 (c_waysFrom ha (by omega) h) (fun x106 s107 h => ?_)
        obtain ⟨e108, h⟩ := h
        refine m_last (j := 38) ha dX6_ways_75 (by decide) (by decide) e108 ?_
        have h := h _ rfl
        refine x_iinc_2 (v := 1) dX6_ways_76 (by decide) (by decide) xN2_i ?_
        have h := h _ rfl
        refine x_goto 32 dX6_ways_79 (by decide) ?_
        exact x_le (xLe_cons (xLe_cons (xLe_cons (xLe_nil)))) (hR _ _ h)
      · have h := h.2 c105
        refine x_lconst (v := 1) dX6_ways_63 (by decide) ?_
        refine x_goto 75 dX6_ways_64 (by decide) ?_
        obtain ⟨e111, h⟩ := h
        refine m_last (j := 38) ha dX6_ways_75 (by decide) (by decide) e111 ?_
        have h := h _ rfl
        refine x_iinc_2 (v := 1) dX6_ways_76 (by decide) (by decide) xN2_i ?_
        have h := h _ rfl
        refine x_goto 32 dX6_ways_79 (by decide) ?_
        exact x_le (xLe_cons (xLe_cons (xLe_cons (xLe_nil)))) (hR _ _ h)
def w_ways_20 (N : Nat × Nat) (Kr : Int64 → mS → Prop) (K : mS → Prop) : Nat → Int32 → mS → Prop
  | 0, _, _ => False
  | t + 1, x1, s => ((x1 < 0 → (K s)) ∧ (¬ x1 < 0 → (vp_in 39 5652 ∧ (∀ x103 : Int32, x103 = mAt s 2 39 → (w_ways_32 N x1 Kr (fun s104 => (∀ x105 : Int32, x105 = x1 + (-1) → ((fun x1 s => w_ways_20 N Kr K t x1 s) x105 s104))) N.1 x103 s)))))
theorem c_ways_20 {G : xG} {l : Launch} {a : Nat → Nat} {g : xH} (ha : mInj a) {d : Nat} {N : Nat × Nat} (hd : 2 * N.2 + 9 ≤ d) (Kr : Int64 → mS → Prop) (K : mS → Prop) : ∀ (t : Nat) (x1 : Int32) (s : mS) , w_ways_20 N Kr K t x1 s → (∀ (s : mS), K s → xF G l kX6_ways (d + 1) 0 0 (mQl G a g Kr) 88 [some (.ref (a 51)), none, none] [] (mH G a s g)) → xF G l kX6_ways (d + 1) 0 0 (mQl G a g Kr) 20 [some (.ref (a 51)), some (.int x1), none] [] (mH G a s g) := by
  intro t
  induction t with
  | zero =>
    intro _ _ h _
    exact absurd h (by simp [w_ways_20])
  | succ t ih =>
    intro x1 s h hK
    have hR := fun x1 s h => ih x1 s h hK
    unfold w_ways_20 at h
    refine x_iload_1 dX6_ways_20 ?_
    refine x_if_lt 88 dX6_ways_21 (by decide) (fun c101 => ?_) (fun c101 => ?_)
    · have h := h.1 c101
      exact x_le (xLe_cons (xLe_none (xLe_cons (xLe_nil)))) (hK _ h)
    · have h := h.2 c101
      refine x_aload_0 dX6_ways_24 ?_
      refine m_get ha dX6_ways_25 fa_X6_28 rfl ?_
      refine x_bipush (v := 39) dX6_ways_28 (by decide) ?_
      obtain ⟨e102, h⟩ := h
      refine m_iald (j := 2) ha dX6_ways_30 (by decide) (by decide) e102 ?_
      refine x_istore_2 dX6_ways_31 (by decide) xN2_i ?_
      have h := h _ rfl
      refine x_le (xLe_cons (xLe_cons (xLe_cons (xLe_nil)))) (c_ways_32 ha (by omega) _ _ _ _ _ _ h (fun s104 h => ?_))
      refine x_iinc_1 (v := (-1)) dX6_ways_82 (by decide) (by decide) xN2_r ?_
      have h := h _ rfl
      refine x_goto 20 dX6_ways_85 (by decide) ?_
      exact x_le (xLe_cons (xLe_cons (xLe_cons (xLe_nil)))) (hR _ _ h)
def w_ways (N : Nat × Nat) (s : mS) (Kr : Int64 → mS → Prop) : Prop :=
  (w_noteMany s (fun x101 s102 => ((¬ x101 = 0 → (w_laysNotes N s102 (fun s105 => (w_noteMany s105 (fun x106 s107 => (∀ x108 : Int32, x108 = x106 - 1 → (w_ways_20 N Kr (fun s109 => (w_waysFrom N 0 0 s109 (fun x110 s111 => (Kr x110 s111)))) N.1 x108 s107))))))) ∧ (x101 = 0 → (Kr 1 s102)))))
theorem c_ways {G : xG} {l : Launch} {a : Nat → Nat} {g : xH} (ha : mInj a) {d : Nat} {N : Nat × Nat} (hd : 2 * N.2 + 10 ≤ d) {s : mS} {Kr : Int64 → mS → Prop} (h : w_ways N s Kr) : xC G l kX6_ways d 0 0 [.ref (a 51)] (mH G a s g) (mQl G a g Kr) := by
  obtain ⟨d, rfl⟩ : ∃ z, d = z + 1 := ⟨d - 1, by omega⟩
  refine xC.start rfl (by decide +kernel) (Nat.le_of_ble_eq_true rfl) (lv := [some (.ref (a 51)), none, none]) rfl ?_
  unfold w_ways at h
  refine x_aload_0 dX6_ways_0 ?_
  refine m_cVi0 ha rfl cv_X6_112 (Nat.le_of_ble_eq_true rfl) dX6_ways_1 (c_noteMany ha (by omega) h) (fun x101 s102 h => ?_)
  refine x_if_ne 9 dX6_ways_4 (by decide) (fun c103 => ?_) (fun c103 => ?_)
  · have h := h.1 c103
    refine x_aload_0 dX6_ways_9 ?_
    refine m_cVv0 ha rfl cv_X6_376 (Nat.le_of_ble_eq_true rfl) dX6_ways_10 (c_laysNotes ha (by omega) h) (fun s105 h => ?_)
    refine x_aload_0 dX6_ways_13 ?_
    refine m_cVi0 ha rfl cv_X6_112 (Nat.le_of_ble_eq_true rfl) dX6_ways_14 (c_noteMany ha (by omega) h) (fun x106 s107 h => ?_)
    refine x_iconst (v := 1) dX6_ways_17 (by decide) ?_
    refine x_isub dX6_ways_18 ?_
    refine x_istore_1 dX6_ways_19 (by decide) xN2_r ?_
    have h := h _ rfl
    refine x_le (xLe_cons (xLe_cons (xLe_cons (xLe_nil)))) (c_ways_20 ha (by omega) _ _ _ _ _ h (fun s109 h => ?_))
    refine x_aload_0 dX6_ways_88 ?_
    refine x_iconst (v := 0) dX6_ways_89 (by decide) ?_
    refine x_iconst (v := 0) dX6_ways_90 (by decide) ?_
    refine m_cVl2 ha rfl cv_X6_400 (Nat.le_of_ble_eq_true rfl) dX6_ways_91 (c_waysFrom ha (by omega) h) (fun x110 s111 h => ?_)
    exact x_lret dX6_ways_94 rfl ⟨_, _, h, rfl, rfl⟩
  · have h := h.2 c103
    refine x_lconst (v := 1) dX6_ways_7 (by decide) ?_
    exact x_lret dX6_ways_8 rfl ⟨_, _, h, rfl, rfl⟩
def w_weeks_114 (N : Nat × Nat) (x3 : Int32) (Kr : Int32 → mS → Prop) (K : mS → Prop) : Nat → Int32 → mS → Prop
  | 0, _, _ => False
  | t + 1, x4, s => ((25 ≤ x4 → (K s)) ∧ (¬ 25 ≤ x4 → (vp_in x4 5652 ∧ (vp_in x4 25 ∧ (∀ s104 : mS, s104 = mI s 48 x4 (mAt s 2 x4) → (∀ x105 : Int32, x105 = x4 + 1 → ((fun x4 s => w_weeks_114 N x3 Kr K t x4 s) x105 s104)))))))
theorem c_weeks_114 {G : xG} {l : Launch} {a : Nat → Nat} {g : xH} (ha : mInj a) {d : Nat} {N : Nat × Nat} (hd : 2 * N.2 + 8 ≤ d) (Kr : Int32 → mS → Prop) (K : mS → Prop) (x3 : Int32) : ∀ (t : Nat) (x4 : Int32) (s : mS) , w_weeks_114 N x3 Kr K t x4 s → (∀ (s : mS), K s → xF G l kX6_weeks (d + 1) 0 0 (mQi G a g Kr) 141 [some (.ref (a 51)), none, none, some (.int x3), none] [] (mH G a s g)) → xF G l kX6_weeks (d + 1) 0 0 (mQi G a g Kr) 114 [some (.ref (a 51)), none, none, some (.int x3), some (.int x4)] [] (mH G a s g) := by
  intro t
  induction t with
  | zero =>
    intro _ _ h _
    exact absurd h (by simp [w_weeks_114])
  | succ t ih =>
    intro x4 s h hK
    have hR := fun x4 s h => ih x4 s h hK
    unfold w_weeks_114 at h
    refine x_iload_4 dX6_weeks_114 ?_
    refine x_bipush (v := 25) dX6_weeks_116 (by decide) ?_
    refine x_icmp_ge 141 dX6_weeks_118 (by decide) (fun c101 => ?_) (fun c101 => ?_)
    · have h := h.1 c101
      exact x_le (xLe_cons (xLe_cons (xLe_cons (xLe_cons (xLe_none (xLe_nil)))))) (hK _ h)
    · have h := h.2 c101
      refine x_aload_0 dX6_weeks_121 ?_
      refine m_get ha dX6_weeks_122 fa_X6_100 rfl ?_
      refine x_iload_4 dX6_weeks_125 ?_
      refine x_aload_0 dX6_weeks_127 ?_
      refine m_get ha dX6_weeks_128 fa_X6_28 rfl ?_
      refine x_iload_4 dX6_weeks_131 ?_
      obtain ⟨e102, h⟩ := h
      refine m_iald (j := 2) ha dX6_weeks_133 (by decide) (by decide) e102 ?_
      obtain ⟨e103, h⟩ := h
      refine m_iast (j := 48) ha dX6_weeks_134 (by decide) (by decide) e103 ?_
      have h := h _ rfl
      refine x_iinc_4 (v := 1) dX6_weeks_135 (by decide) (by decide) xN2_i ?_
      have h := h _ rfl
      refine x_goto 114 dX6_weeks_138 (by decide) ?_
      exact x_le (xLe_cons (xLe_cons (xLe_cons (xLe_cons (xLe_cons (xLe_nil)))))) (hR _ _ h)
def w_weeks_63 (N : Nat × Nat) (x2 : Int32) (Kr : Int32 → mS → Prop) (K : Int32 → mS → Prop) : Nat → Int32 → Int32 → mS → Prop
  | 0, _, _, _ => False
  | t + 1, x3, x4, s => ((x2 ≤ x4 → (K x3 s)) ∧ (¬ x2 ≤ x4 → (vp_in 24 5652 ∧ ((999 ≤ (mAt s 2 24) → (K x3 s)) ∧ (¬ 999 ≤ (mAt s 2 24) → (w_drawnAct N s (fun s105 => (w_allOf N 2 s105 (fun x106 s107 => (∀ x108 : Int32, x108 = x3 + x106 → (vp_in 24 5652 ∧ (vp_in 24 5652 ∧ (∀ s111 : mS, s111 = mI s107 2 24 ((mAt s107 2 24) + 1) → (∀ x112 : Int32, x112 = x4 + 1 → ((fun x3 x4 s => w_weeks_63 N x2 Kr K t x3 x4 s) x108 x112 s111)))))))))))))))
theorem c_weeks_63 {G : xG} {l : Launch} {a : Nat → Nat} {g : xH} (ha : mInj a) {d : Nat} {N : Nat × Nat} (hd : 2 * N.2 + 8 ≤ d) (Kr : Int32 → mS → Prop) (K : Int32 → mS → Prop) (x2 : Int32) : ∀ (t : Nat) (x3 : Int32) (x4 : Int32) (s : mS) , w_weeks_63 N x2 Kr K t x3 x4 s → (∀ (z3 : Int32) (s : mS), K z3 s → xF G l kX6_weeks (d + 1) 0 0 (mQi G a g Kr) 111 [some (.ref (a 51)), none, none, some (.int z3), none] [] (mH G a s g)) → xF G l kX6_weeks (d + 1) 0 0 (mQi G a g Kr) 63 [some (.ref (a 51)), none, some (.int x2), some (.int x3), some (.int x4)] [] (mH G a s g) := by
  intro t
  induction t with
  | zero =>
    intro _ _ _ h _
    exact absurd h (by simp [w_weeks_63])
  | succ t ih =>
    intro x3 x4 s h hK
    have hR := fun x3 x4 s h => ih x3 x4 s h hK
    unfold w_weeks_63 at h
    refine x_iload_4 dX6_weeks_63 ?_
    refine x_iload_2 dX6_weeks_65 ?_
    refine x_icmp_ge 111 dX6_weeks_66 (by decide) (fun c101 => ?_) (fun c101 => ?_)
    · have h := h.1 c101
      exact x_le (xLe_cons (xLe_cons (xLe_none (xLe_cons (xLe_none (xLe_nil)))))) (hK _ _ h)
    · have h := h.2 c101
      refine x_aload_0 dX6_weeks_69 ?_
      refine m_get ha dX6_weeks_70 fa_X6_28 rfl ?_
      refine x_bipush (v := 24) dX6_weeks_73 (by decide) ?_
      obtain ⟨e102, h⟩ := h
      refine m_iald (j := 2) ha dX6_weeks_75 (by decide) (by decide) e102 ?_
      refine x_sipush (v := 999) dX6_weeks_76 (by decide) ?_
      refine x_icmp_ge 111 dX6_weeks_79 (by decide) (fun c103 => ?_) (fun c103 => ?_)
      · have h := h.1 c103
        exact x_le (xLe_cons (xLe_cons (xLe_none (xLe_cons (xLe_none (xLe_nil)))))) (hK _ _ h)
      · have h := h.2 c103
        refine x_aload_0 dX6_weeks_82 ?_
        refine m_cVv0 ha rfl cv_X6_492 (Nat.le_of_ble_eq_true rfl) dX6_weeks_83 (c_drawnAct ha (by omega) h) (fun s105 h => ?_)
        refine x_iload_3 dX6_weeks_86 ?_
        refine x_aload_0 dX6_weeks_87 ?_
        refine x_iconst (v := 2) dX6_weeks_88 (by decide) ?_
        refine m_cVi1 ha rfl cv_X6_332 (Nat.le_of_ble_eq_true rfl) dX6_weeks_89 (c_allOf ha (by omega) h) (fun x106 s107 h => ?_)
        refine x_iadd dX6_weeks_92 ?_
        refine x_istore_3 dX6_weeks_93 (by decide) xN2_i ?_
        have h := h _ rfl
        refine x_aload_0 dX6_weeks_94 ?_
        refine m_get ha dX6_weeks_95 fa_X6_28 rfl ?_
        refine x_bipush (v := 24) dX6_weeks_98 (by decide) ?_
        refine x_dup2 dX6_weeks_100 rfl rfl ?_
        obtain ⟨e109, h⟩ := h
        refine m_iald (j := 2) ha dX6_weeks_101 (by decide) (by decide) e109 ?_
        refine x_iconst (v := 1) dX6_weeks_102 (by decide) ?_
        refine x_iadd dX6_weeks_103 ?_
        obtain ⟨e110, h⟩ := h
        refine m_iast (j := 2) ha dX6_weeks_104 (by decide) (by decide) e110 ?_
        have h := h _ rfl
        refine x_iinc_4 (v := 1) dX6_weeks_105 (by decide) (by decide) xN2_i ?_
        have h := h _ rfl
        refine x_goto 63 dX6_weeks_108 (by decide) ?_
        exact x_le (xLe_cons (xLe_cons (xLe_cons (xLe_cons (xLe_cons (xLe_nil)))))) (hR _ _ _ h)
def w_weeks (N : Nat × Nat) (x1 : Int32) (x2 : Int32) (s : mS) (Kr : Int32 → mS → Prop) : Prop :=
  (w_lies x1 0 1000000 (fun x101 => ((x101 = 0 → (w_refuses (-1) s (fun x104 s105 => (Kr x104 s105)))) ∧ (¬ x101 = 0 → (w_lies x2 1 60 (fun x106 => ((¬ x106 = 0 → (w_noteMany s (fun x109 s110 => ((¬ x109 = 0 → (∀ s112 : mS, s112 = mF s110 50 x1 → (w_noteMany s112 (fun x113 s114 => (∀ s115 : mS, s115 = mF s114 49 x113 → (w_laysAside N 0 s115 (fun s117 => (w_weeks_63 N x2 Kr (fun x118 s119 => (w_weeks_114 N x118 Kr (fun s120 => (w_takesBack N 0 s120 (fun s122 => (w_good x118 s122 (fun x123 s124 => (Kr x123 s124)))))) N.1 0 s119)) N.1 0 0 s117)))))))) ∧ (x109 = 0 → (w_refuses (-3) s110 (fun x125 s126 => (Kr x125 s126)))))))) ∧ (x106 = 0 → (w_refuses (-1) s (fun x127 s128 => (Kr x127 s128)))))))))))
theorem c_weeks {G : xG} {l : Launch} {a : Nat → Nat} {g : xH} (ha : mInj a) {d : Nat} {N : Nat × Nat} (hd : 2 * N.2 + 9 ≤ d) {x1 : Int32} {x2 : Int32} {s : mS} {Kr : Int32 → mS → Prop} (h : w_weeks N x1 x2 s Kr) : xC G l kX6_weeks d 0 0 [.ref (a 51), .int x1, .int x2] (mH G a s g) (mQi G a g Kr) := by
  obtain ⟨d, rfl⟩ : ∃ z, d = z + 1 := ⟨d - 1, by omega⟩
  refine xC.start rfl (by decide +kernel) (Nat.le_of_ble_eq_true rfl) (lv := [some (.ref (a 51)), some (.int x1), some (.int x2), none, none]) rfl ?_
  unfold w_weeks at h
  refine x_iload_1 dX6_weeks_0 ?_
  refine x_iconst (v := 0) dX6_weeks_1 (by decide) ?_
  refine x_ldc dX6_weeks_2 q1942 ?_
  refine m_cSi3 rfl cs_X6_18 (Nat.le_of_ble_eq_true rfl) dX6_weeks_4 (c_lies (by omega) h) (fun x101 h => ?_)
  refine x_if_eq 20 dX6_weeks_7 (by decide) (fun c103 => ?_) (fun c103 => ?_)
  · have h := h.1 c103
    refine x_aload_0 dX6_weeks_20 ?_
    refine x_iconst (v := (-1)) dX6_weeks_21 (by decide) ?_
    refine m_cVi1 ha rfl cv_X6_106 (Nat.le_of_ble_eq_true rfl) dX6_weeks_22 (c_refuses ha (by omega) h) (fun x104 s105 h => ?_)
    exact x_iret dX6_weeks_25 rfl ⟨_, _, h, rfl, rfl⟩
  · have h := h.2 c103
    refine x_iload_2 dX6_weeks_10 ?_
    refine x_iconst (v := 1) dX6_weeks_11 (by decide) ?_
    refine x_bipush (v := 60) dX6_weeks_12 (by decide) ?_
    refine m_cSi3 rfl cs_X6_18 (Nat.le_of_ble_eq_true rfl) dX6_weeks_14 (c_lies (by omega) h) (fun x106 h => ?_)
    refine x_if_ne 26 dX6_weeks_17 (by decide) (fun c108 => ?_) (fun c108 => ?_)
    · have h := h.1 c108
      refine x_aload_0 dX6_weeks_26 ?_
      refine m_cVi0 ha rfl cv_X6_112 (Nat.le_of_ble_eq_true rfl) dX6_weeks_27 (c_noteMany ha (by omega) h) (fun x109 s110 h => ?_)
      refine x_if_ne 40 dX6_weeks_30 (by decide) (fun c111 => ?_) (fun c111 => ?_)
      · have h := h.1 c111
        refine x_aload_0 dX6_weeks_40 ?_
        refine x_iload_1 dX6_weeks_41 ?_
        refine m_put ha dX6_weeks_42 fp_X6_482 (mfs_50 _ _ _) (by decide) rfl rfl ?_
        have h := h _ rfl
        refine x_aload_0 dX6_weeks_45 ?_
        refine x_aload_0 dX6_weeks_46 ?_
        refine m_cVi0 ha rfl cv_X6_112 (Nat.le_of_ble_eq_true rfl) dX6_weeks_47 (c_noteMany ha (by omega) h) (fun x113 s114 h => ?_)
        refine m_put ha dX6_weeks_50 fp_X6_103 (mfs_49 _ _ _) (by decide) rfl rfl ?_
        have h := h _ rfl
        refine x_aload_0 dX6_weeks_53 ?_
        refine x_iconst (v := 0) dX6_weeks_54 (by decide) ?_
        refine m_cVv1 ha rfl cv_X6_443 (Nat.le_of_ble_eq_true rfl) dX6_weeks_55 (c_laysAside ha (by omega) h) (fun s117 h => ?_)
        refine x_iconst (v := 0) dX6_weeks_58 (by decide) ?_
        refine x_istore_3 dX6_weeks_59 (by decide) xN2_i ?_
        refine x_iconst (v := 0) dX6_weeks_60 (by decide) ?_
        refine x_istore_4 dX6_weeks_61 (by decide) xN2_i ?_
        refine x_le (xLe_cons (xLe_none (xLe_cons (xLe_cons (xLe_cons (xLe_nil)))))) (c_weeks_63 ha (by omega) _ _ _ _ _ _ _ h (fun x118 s119 h => ?_))
        refine x_iconst (v := 0) dX6_weeks_111 (by decide) ?_
        refine x_istore_4 dX6_weeks_112 (by decide) xN2_i ?_
        refine x_le (xLe_cons (xLe_cons (xLe_cons (xLe_cons (xLe_cons (xLe_nil)))))) (c_weeks_114 ha (by omega) _ _ _ _ _ _ h (fun s120 h => ?_))
        refine x_aload_0 dX6_weeks_141 ?_
        refine x_iconst (v := 0) dX6_weeks_142 (by decide) ?_
        refine m_cVv1 ha rfl cv_X6_452 (Nat.le_of_ble_eq_true rfl) dX6_weeks_143 (c_takesBack ha (by omega) h) (fun s122 h => ?_)
        refine x_aload_0 dX6_weeks_146 ?_
        refine x_iload_3 dX6_weeks_147 ?_
        refine m_cVi1 ha rfl cv_X6_14 (Nat.le_of_ble_eq_true rfl) dX6_weeks_148 (c_good ha (by omega) h) (fun x123 s124 h => ?_)
        exact x_iret dX6_weeks_151 rfl ⟨_, _, h, rfl, rfl⟩
      · have h := h.2 c111
        refine x_aload_0 dX6_weeks_33 ?_
        refine x_bipush (v := (-3)) dX6_weeks_34 (by decide) ?_
        refine m_cVi1 ha rfl cv_X6_106 (Nat.le_of_ble_eq_true rfl) dX6_weeks_36 (c_refuses ha (by omega) h) (fun x125 s126 h => ?_)
        exact x_iret dX6_weeks_39 rfl ⟨_, _, h, rfl, rfl⟩
    · have h := h.2 c108
      refine x_aload_0 dX6_weeks_20 ?_
      refine x_iconst (v := (-1)) dX6_weeks_21 (by decide) ?_
      refine m_cVi1 ha rfl cv_X6_106 (Nat.le_of_ble_eq_true rfl) dX6_weeks_22 (c_refuses ha (by omega) h) (fun x127 s128 h => ?_)
      exact x_iret dX6_weeks_25 rfl ⟨_, _, h, rfl, rfl⟩
