set_option maxRecDepth 100000
def v_X0_sumOf_4 (N : tP) (x0 : Nat) (x1 : Int32) (Kr : Int32 → tM → Prop) (K : Int32 → tM → Prop) : Nat → Int32 → Int32 → tM → Prop
  | 0, _, _, _ => False
  | t + 1, x2, x3, s => (tO s 0 x0 ∧ (v_X0_nNotes x0 s (fun x101 s102 => ((x101 ≤ x3 → (K x2 s102)) ∧ (¬ x101 ≤ x3 → ((¬ x1 = 0 → (tO s102 0 x0 ∧ (v_X0_earnsHere N x0 x3 s102 (fun x106 s107 => (∀ x109 : Int32, x109 = x2 + x106 → (∀ x110 : Int32, x110 = x3 + 1 → ((fun x2 x3 s => v_X0_sumOf_4 N x0 x1 Kr K t x2 x3 s) x109 x110 s107))))))) ∧ (x1 = 0 → (tO s102 0 x0 ∧ (v_X0_costsHere N x0 x3 s102 (fun x111 s112 => (∀ x114 : Int32, x114 = x2 + x111 → (∀ x115 : Int32, x115 = x3 + 1 → ((fun x2 x3 s => v_X0_sumOf_4 N x0 x1 Kr K t x2 x3 s) x114 x115 s112)))))))))))))
theorem e_X0_sumOf_4 {G : xG} {l : Launch} {g : xH} {d : Nat} {N : tP} (hN : tNs G N) (hd : 2 * N.2.1 + 19 ≤ d) (x0 : Nat) (x1 : Int32) (Kr : Int32 → tM → Prop) (K : Int32 → tM → Prop) : ∀ (t : Nat) (x2 : Int32) (x3 : Int32) (s : tM) , v_X0_sumOf_4 N x0 x1 Kr K t x2 x3 s → (∀ (z2 : Int32) (s : tM), K z2 s → xF G l kX0_sumOf (d + 1) 0 0 (tQ G g wi Kr tNo) 38 [none, none, some (.int z2), none] [] (tH G g s)) → xF G l kX0_sumOf (d + 1) 0 0 (tQ G g wi Kr tNo) 4 [some (rfv x0), some (.int x1), some (.int x2), some (.int x3)] [] (tH G g s) := by
  intro t
  induction t with
  | zero =>
    intro _ _ _ h _
    exact absurd h (by simp [v_X0_sumOf_4])
  | succ t ih =>
    intro x2 x3 s h hK
    have hR := fun x2 x3 s h => ih x2 x3 s h hK
    unfold v_X0_sumOf_4 at h
    refine x_iload_3 dX0_sumOf_4 ?_
    refine t_aload_0 dX0_sumOf_5 ?_
    obtain ⟨e103, h⟩ := h
    refine t_cVi (As := []) rfl cv_X0_142 rfl e103 rfl rfl (xrm4 (Nat.le_of_ble_eq_true rfl)) dX0_sumOf_6 (e_X0_nNotes (by omega) h) ⟨Nat.zero_le _, Nat.zero_le _⟩ (fun _ _ _ h => h.elim) (fun x101 s102 h => ?_)
    refine x_icmp_ge 38 dX0_sumOf_9 (by decide) (fun c104 => ?_) (fun c104 => ?_)
    · have h := h.1 c104
      exact x_le (xLe_none (xLe_none (xLe_cons (xLe_none (xLe_nil))))) (hK _ _ h)
    · have h := h.2 c104
      refine x_iload_2 dX0_sumOf_12 ?_
      refine x_iload_1 dX0_sumOf_13 ?_
      refine x_if_ne 25 dX0_sumOf_14 (by decide) (fun c105 => ?_) (fun c105 => ?_)
      · have h := h.1 c105
        refine t_aload_0 dX0_sumOf_25 ?_
        refine x_iload_3 dX0_sumOf_26 ?_
        obtain ⟨e108, h⟩ := h
        refine t_cVi (As := [_]) rfl cv_X0_178 rfl e108 rfl rfl (xrm4 (Nat.le_of_ble_eq_true rfl)) dX0_sumOf_27 (e_X0_earnsHere hN (by omega) h) ⟨Nat.zero_le _, Nat.zero_le _⟩ (fun _ _ _ h => h.elim) (fun x106 s107 h => ?_)
        refine x_iadd dX0_sumOf_30 ?_
        refine x_istore_2 dX0_sumOf_31 (by decide) xN2_i ?_
        have h := h _ rfl
        refine x_iinc_3 (v := 1) dX0_sumOf_32 (by decide) (by decide) xN2_i ?_
        have h := h _ rfl
        refine x_goto 4 dX0_sumOf_35 (by decide) ?_
        exact x_le (xLe_cons (xLe_cons (xLe_cons (xLe_cons (xLe_nil))))) (hR _ _ _ h)
      · have h := h.2 c105
        refine t_aload_0 dX0_sumOf_17 ?_
        refine x_iload_3 dX0_sumOf_18 ?_
        obtain ⟨e113, h⟩ := h
        refine t_cVi (As := [_]) rfl cv_X0_175 rfl e113 rfl rfl (xrm4 (Nat.le_of_ble_eq_true rfl)) dX0_sumOf_19 (e_X0_costsHere hN (by omega) h) ⟨Nat.zero_le _, Nat.zero_le _⟩ (fun _ _ _ h => h.elim) (fun x111 s112 h => ?_)
        refine x_goto 30 dX0_sumOf_22 (by decide) ?_
        refine x_iadd dX0_sumOf_30 ?_
        refine x_istore_2 dX0_sumOf_31 (by decide) xN2_i ?_
        have h := h _ rfl
        refine x_iinc_3 (v := 1) dX0_sumOf_32 (by decide) (by decide) xN2_i ?_
        have h := h _ rfl
        refine x_goto 4 dX0_sumOf_35 (by decide) ?_
        exact x_le (xLe_cons (xLe_cons (xLe_cons (xLe_cons (xLe_nil))))) (hR _ _ _ h)
def v_X0_sumOf (N : tP) (x0 : Nat) (x1 : Int32) (s : tM) (Kr : Int32 → tM → Prop) : Prop :=
  (v_X0_sumOf_4 N x0 x1 Kr (fun x101 s102 => (Kr x101 s102)) N.1 0 0 s)
theorem e_X0_sumOf {G : xG} {l : Launch} {g : xH} {d : Nat} {N : tP} (hN : tNs G N) (hd : 2 * N.2.1 + 20 ≤ d) {x0 : Nat} {x1 : Int32} {s : tM} {Kr : Int32 → tM → Prop} (h : v_X0_sumOf N x0 x1 s Kr) : xC G l kX0_sumOf d 0 0 [rfv x0, .int x1] (tH G g s) (tQ G g wi Kr tNo) := by
  obtain ⟨d, rfl⟩ : ∃ z, d = z + 1 := ⟨d - 1, by omega⟩
  refine t_start rfl (by decide +kernel) (by simp [xct_i, xct_l, rfv_c]) (lv := [some (rfv x0), some (.int x1), none, none]) (by simp [lv_args, xLv, rfv_c, xct_i, xct_l]) ?_
  unfold v_X0_sumOf at h
  refine x_iconst (v := 0) dX0_sumOf_0 (by decide) ?_
  refine x_istore_2 dX0_sumOf_1 (by decide) xN2_i ?_
  refine x_iconst (v := 0) dX0_sumOf_2 (by decide) ?_
  refine x_istore_3 dX0_sumOf_3 (by decide) xN2_i ?_
  refine x_le (xLe_cons (xLe_cons (xLe_cons (xLe_cons (xLe_nil))))) (e_X0_sumOf_4 hN (by omega) _ _ _ _  _ _ _ _ h (fun x101 s102 h => ?_))
  refine x_iload_2 dX0_sumOf_38 ?_
  exact x_iret dX0_sumOf_39 rfl (Or.inl ⟨_, _, h, rfl, rfl⟩)
def v_X0_all (N : tP) (x0 : Nat) (x1 : Int32) (s : tM) (Kr : Int32 → tM → Prop) : Prop :=
  ((¬ x1 = 2 → (v_X0_in ((x1 : Int32).toInt64) 0 1 s (fun x102 s103 => ((x102 = 0 → (Kr (-1) s103)) ∧ (¬ x102 = 0 → (tO s103 0 x0 ∧ (v_X0_sumOf N x0 x1 s103 (fun x105 s106 => (Kr x105 s106))))))))) ∧ (x1 = 2 → (tO s 0 x0 ∧ (v_X0_barredOnes N x0 s (fun x108 s109 => (Kr x108 s109))))))
theorem e_X0_all {G : xG} {l : Launch} {g : xH} {d : Nat} {N : tP} (hN : tNs G N) (hd : 2 * N.2.1 + 22 ≤ d) {x0 : Nat} {x1 : Int32} {s : tM} {Kr : Int32 → tM → Prop} (h : v_X0_all N x0 x1 s Kr) : xC G l kX0_all d 0 0 [rfv x0, .int x1] (tH G g s) (tQ G g wi Kr tNo) := by
  obtain ⟨d, rfl⟩ : ∃ z, d = z + 1 := ⟨d - 1, by omega⟩
  refine t_start rfl (by decide +kernel) (by simp [xct_i, xct_l, rfv_c]) (lv := [some (rfv x0), some (.int x1)]) (by simp [lv_args, xLv, rfv_c, xct_i, xct_l]) ?_
  unfold v_X0_all at h
  refine x_iload_1 dX0_all_0 ?_
  refine x_iconst (v := 2) dX0_all_1 (by decide) ?_
  refine x_icmp_ne 12 dX0_all_2 (by decide) (fun c101 => ?_) (fun c101 => ?_)
  · have h := h.1 c101
    refine x_iload_1 dX0_all_12 ?_
    refine x_i2l dX0_all_13 ?_
    refine x_lconst (v := 0) dX0_all_14 (by decide) ?_
    refine x_lconst (v := 1) dX0_all_15 (by decide) ?_
    refine t_cSi (As := [_, _, _]) rfl cs_X0_5 rfl rfl (xrm4 (Nat.le_of_ble_eq_true rfl)) dX0_all_16 (e_X0_in (by omega) h) ⟨Nat.zero_le _, Nat.zero_le _⟩ (fun _ _ _ h => h.elim) (fun x102 s103 h => ?_)
    refine x_if_eq 30 dX0_all_19 (by decide) (fun c104 => ?_) (fun c104 => ?_)
    · have h := h.1 c104
      refine x_iconst (v := (-1)) dX0_all_30 (by decide) ?_
      exact x_iret dX0_all_31 rfl (Or.inl ⟨_, _, h, rfl, rfl⟩)
    · have h := h.2 c104
      refine t_aload_0 dX0_all_22 ?_
      refine x_iload_1 dX0_all_23 ?_
      obtain ⟨e107, h⟩ := h
      refine t_cVi (As := [_]) rfl cv_X0_303 rfl e107 rfl rfl (xrm4 (Nat.le_of_ble_eq_true rfl)) dX0_all_24 (e_X0_sumOf hN (by omega) h) ⟨Nat.zero_le _, Nat.zero_le _⟩ (fun _ _ _ h => h.elim) (fun x105 s106 h => ?_)
      refine x_goto 31 dX0_all_27 (by decide) ?_
      exact x_iret dX0_all_31 rfl (Or.inl ⟨_, _, h, rfl, rfl⟩)
  · have h := h.2 c101
    refine t_aload_0 dX0_all_5 ?_
    obtain ⟨e110, h⟩ := h
    refine t_cVi (As := []) rfl cv_X0_300 rfl e110 rfl rfl (xrm4 (Nat.le_of_ble_eq_true rfl)) dX0_all_6 (e_X0_barredOnes hN (by omega) h) ⟨Nat.zero_le _, Nat.zero_le _⟩ (fun _ _ _ h => h.elim) (fun x108 s109 h => ?_)
    refine x_goto 31 dX0_all_9 (by decide) ?_
    exact x_iret dX0_all_31 rfl (Or.inl ⟨_, _, h, rfl, rfl⟩)
def v_X0_apart (x0 : Nat) (x1 : Int32) (s : tM) (Kr : Int32 → tM → Prop) : Prop :=
  (tO s 0 x0 ∧ (v_X0_books x0 s (fun x101 s102 => (tO s102 2 x101 ∧ (tX s102 0 (tR s102 x101 1) x1 ∧ (tO s102 0 x0 ∧ (v_X0_books x0 s102 (fun x106 s107 => (tO s107 2 x106 ∧ (tX s107 0 (tR s107 x106 0) x1 ∧ (Kr ((tI s102 (tR s102 x101 1) x1.toNatClampNeg) - (tI s107 (tR s107 x106 0) x1.toNatClampNeg)) s107)))))))))))
theorem e_X0_apart {G : xG} {l : Launch} {g : xH} {d : Nat} (hd : 4 ≤ d) {x0 : Nat} {x1 : Int32} {s : tM} {Kr : Int32 → tM → Prop} (h : v_X0_apart x0 x1 s Kr) : xC G l kX0_apart d 0 0 [rfv x0, .int x1] (tH G g s) (tQ G g wi Kr tNo) := by
  obtain ⟨d, rfl⟩ : ∃ z, d = z + 1 := ⟨d - 1, by omega⟩
  refine t_start rfl (by decide +kernel) (by simp [xct_i, xct_l, rfv_c]) (lv := [some (rfv x0), some (.int x1)]) (by simp [lv_args, xLv, rfv_c, xct_i, xct_l]) ?_
  unfold v_X0_apart at h
  refine t_aload_0 dX0_apart_0 ?_
  obtain ⟨e103, h⟩ := h
  refine t_cVr (As := []) rfl cv_X0_157 rfl e103 rfl rfl (xrm4 (Nat.le_of_ble_eq_true rfl)) dX0_apart_1 (e_X0_books (by omega) h) ⟨Nat.zero_le _, Nat.zero_le _⟩ (fun _ _ _ h => h.elim) (fun x101 s102 h => ?_)
  obtain ⟨e104, h⟩ := h
  refine t_getR dX0_apart_4 fa_X0_163_2 (by decide) e104 ?_
  refine x_iload_1 dX0_apart_7 ?_
  obtain ⟨e105, h⟩ := h
  refine t_iald dX0_apart_8 e105 ?_
  refine t_aload_0 dX0_apart_9 ?_
  obtain ⟨e108, h⟩ := h
  refine t_cVr (As := []) rfl cv_X0_157 rfl e108 rfl rfl (xrm4 (Nat.le_of_ble_eq_true rfl)) dX0_apart_10 (e_X0_books (by omega) h) ⟨Nat.zero_le _, Nat.zero_le _⟩ (fun _ _ _ h => h.elim) (fun x106 s107 h => ?_)
  obtain ⟨e109, h⟩ := h
  refine t_getR dX0_apart_13 fa_X0_160_2 (by decide) e109 ?_
  refine x_iload_1 dX0_apart_16 ?_
  obtain ⟨e110, h⟩ := h
  refine t_iald dX0_apart_17 e110 ?_
  refine x_isub dX0_apart_18 ?_
  exact x_iret dX0_apart_19 rfl (Or.inl ⟨_, _, h, rfl, rfl⟩)
def v_X0_leap (x0 : Nat) (x1 : Int32) (s : tM) (Kr : Int32 → tM → Prop) : Prop :=
  ((¬ x1 = 0 → (tO s 0 x0 ∧ (v_X0_books x0 s (fun x102 s103 => (tO s103 2 x102 ∧ (tX s103 0 (tR s103 x102 1) x1 ∧ (tO s103 0 x0 ∧ (v_X0_books x0 s103 (fun x107 s108 => (tO s108 2 x107 ∧ (tX s108 0 (tR s108 x107 1) (x1 - 1) ∧ (Kr ((tI s103 (tR s103 x102 1) x1.toNatClampNeg) - (tI s108 (tR s108 x107 1) (x1 - 1).toNatClampNeg)) s108)))))))))))) ∧ (x1 = 0 → (Kr 0 s)))
theorem e_X0_leap {G : xG} {l : Launch} {g : xH} {d : Nat} (hd : 4 ≤ d) {x0 : Nat} {x1 : Int32} {s : tM} {Kr : Int32 → tM → Prop} (h : v_X0_leap x0 x1 s Kr) : xC G l kX0_leap d 0 0 [rfv x0, .int x1] (tH G g s) (tQ G g wi Kr tNo) := by
  obtain ⟨d, rfl⟩ : ∃ z, d = z + 1 := ⟨d - 1, by omega⟩
  refine t_start rfl (by decide +kernel) (by simp [xct_i, xct_l, rfv_c]) (lv := [some (rfv x0), some (.int x1)]) (by simp [lv_args, xLv, rfv_c, xct_i, xct_l]) ?_
  unfold v_X0_leap at h
  refine x_iload_1 dX0_leap_0 ?_
  refine x_if_ne 8 dX0_leap_1 (by decide) (fun c101 => ?_) (fun c101 => ?_)
  · have h := h.1 c101
    refine t_aload_0 dX0_leap_8 ?_
    obtain ⟨e104, h⟩ := h
    refine t_cVr (As := []) rfl cv_X0_157 rfl e104 rfl rfl (xrm4 (Nat.le_of_ble_eq_true rfl)) dX0_leap_9 (e_X0_books (by omega) h) ⟨Nat.zero_le _, Nat.zero_le _⟩ (fun _ _ _ h => h.elim) (fun x102 s103 h => ?_)
    obtain ⟨e105, h⟩ := h
    refine t_getR dX0_leap_12 fa_X0_163_2 (by decide) e105 ?_
    refine x_iload_1 dX0_leap_15 ?_
    obtain ⟨e106, h⟩ := h
    refine t_iald dX0_leap_16 e106 ?_
    refine t_aload_0 dX0_leap_17 ?_
    obtain ⟨e109, h⟩ := h
    refine t_cVr (As := []) rfl cv_X0_157 rfl e109 rfl rfl (xrm4 (Nat.le_of_ble_eq_true rfl)) dX0_leap_18 (e_X0_books (by omega) h) ⟨Nat.zero_le _, Nat.zero_le _⟩ (fun _ _ _ h => h.elim) (fun x107 s108 h => ?_)
    obtain ⟨e110, h⟩ := h
    refine t_getR dX0_leap_21 fa_X0_163_2 (by decide) e110 ?_
    refine x_iload_1 dX0_leap_24 ?_
    refine x_iconst (v := 1) dX0_leap_25 (by decide) ?_
    refine x_isub dX0_leap_26 ?_
    obtain ⟨e111, h⟩ := h
    refine t_iald dX0_leap_27 e111 ?_
    refine x_isub dX0_leap_28 ?_
    exact x_iret dX0_leap_29 rfl (Or.inl ⟨_, _, h, rfl, rfl⟩)
  · have h := h.2 c101
    refine x_iconst (v := 0) dX0_leap_4 (by decide) ?_
    refine x_goto 29 dX0_leap_5 (by decide) ?_
    exact x_iret dX0_leap_29 rfl (Or.inl ⟨_, _, h, rfl, rfl⟩)
def v_X0_at (x0 : Nat) (x1 : Int32) (x2 : Int32) (s : tM) (Kr : Int32 → tM → Prop) : Prop :=
  (tO s 0 x0 ∧ (v_X0_isNote x0 x1 s (fun x101 s102 => ((x101 = 0 → (Kr (-1000) s102)) ∧ (¬ x101 = 0 → (v_X0_in ((x2 : Int32).toInt64) 0 1 s102 (fun x105 s106 => ((¬ x105 = 0 → ((¬ x2 = 0 → (tO s106 0 x0 ∧ (v_X0_leap x0 x1 s106 (fun x109 s110 => (Kr x109 s110))))) ∧ (x2 = 0 → (tO s106 0 x0 ∧ (v_X0_apart x0 x1 s106 (fun x112 s113 => (Kr x112 s113))))))) ∧ (x105 = 0 → (Kr (-1000) s106))))))))))
theorem e_X0_at {G : xG} {l : Launch} {g : xH} {d : Nat} (hd : 6 ≤ d) {x0 : Nat} {x1 : Int32} {x2 : Int32} {s : tM} {Kr : Int32 → tM → Prop} (h : v_X0_at x0 x1 x2 s Kr) : xC G l kX0_at d 0 0 [rfv x0, .int x1, .int x2] (tH G g s) (tQ G g wi Kr tNo) := by
  obtain ⟨d, rfl⟩ : ∃ z, d = z + 1 := ⟨d - 1, by omega⟩
  refine t_start rfl (by decide +kernel) (by simp [xct_i, xct_l, rfv_c]) (lv := [some (rfv x0), some (.int x1), some (.int x2)]) (by simp [lv_args, xLv, rfv_c, xct_i, xct_l]) ?_
  unfold v_X0_at at h
  refine t_aload_0 dX0_at_0 ?_
  refine x_iload_1 dX0_at_1 ?_
  obtain ⟨e103, h⟩ := h
  refine t_cVi (As := [_]) rfl cv_X0_172 rfl e103 rfl rfl (xrm4 (Nat.le_of_ble_eq_true rfl)) dX0_at_2 (e_X0_isNote (by omega) h) ⟨Nat.zero_le _, Nat.zero_le _⟩ (fun _ _ _ h => h.elim) (fun x101 s102 h => ?_)
  refine x_if_eq 18 dX0_at_5 (by decide) (fun c104 => ?_) (fun c104 => ?_)
  · have h := h.1 c104
    refine x_sipush (v := (-1000)) dX0_at_18 (by decide) ?_
    exact x_iret dX0_at_21 rfl (Or.inl ⟨_, _, h, rfl, rfl⟩)
  · have h := h.2 c104
    refine x_iload_2 dX0_at_8 ?_
    refine x_i2l dX0_at_9 ?_
    refine x_lconst (v := 0) dX0_at_10 (by decide) ?_
    refine x_lconst (v := 1) dX0_at_11 (by decide) ?_
    refine t_cSi (As := [_, _, _]) rfl cs_X0_5 rfl rfl (xrm4 (Nat.le_of_ble_eq_true rfl)) dX0_at_12 (e_X0_in (by omega) h) ⟨Nat.zero_le _, Nat.zero_le _⟩ (fun _ _ _ h => h.elim) (fun x105 s106 h => ?_)
    refine x_if_ne 22 dX0_at_15 (by decide) (fun c107 => ?_) (fun c107 => ?_)
    · have h := h.1 c107
      refine x_iload_2 dX0_at_22 ?_
      refine x_if_ne 34 dX0_at_23 (by decide) (fun c108 => ?_) (fun c108 => ?_)
      · have h := h.1 c108
        refine t_aload_0 dX0_at_34 ?_
        refine x_iload_1 dX0_at_35 ?_
        obtain ⟨e111, h⟩ := h
        refine t_cVi (As := [_]) rfl cv_X0_187 rfl e111 rfl rfl (xrm4 (Nat.le_of_ble_eq_true rfl)) dX0_at_36 (e_X0_leap (by omega) h) ⟨Nat.zero_le _, Nat.zero_le _⟩ (fun _ _ _ h => h.elim) (fun x109 s110 h => ?_)
        exact x_iret dX0_at_39 rfl (Or.inl ⟨_, _, h, rfl, rfl⟩)
      · have h := h.2 c108
        refine t_aload_0 dX0_at_26 ?_
        refine x_iload_1 dX0_at_27 ?_
        obtain ⟨e114, h⟩ := h
        refine t_cVi (As := [_]) rfl cv_X0_184 rfl e114 rfl rfl (xrm4 (Nat.le_of_ble_eq_true rfl)) dX0_at_28 (e_X0_apart (by omega) h) ⟨Nat.zero_le _, Nat.zero_le _⟩ (fun _ _ _ h => h.elim) (fun x112 s113 h => ?_)
        refine x_goto 39 dX0_at_31 (by decide) ?_
        exact x_iret dX0_at_39 rfl (Or.inl ⟨_, _, h, rfl, rfl⟩)
    · have h := h.2 c107
      refine x_sipush (v := (-1000)) dX0_at_18 (by decide) ?_
      exact x_iret dX0_at_21 rfl (Or.inl ⟨_, _, h, rfl, rfl⟩)
def v_X0_tell (x0 : Nat) (x1 : Int32) (s : tM) (Kr : Int32 → tM → Prop) : Prop :=
  (∀ x101 : Int32, x101 = (if 0 < x1 then 0 else x1) → (tO s 0 x0 ∧ (∀ s103 : tM, s103 = tsI s x0 10 x101 → ((0 ≤ x1 → (Kr x1 s103)) ∧ (¬ 0 ≤ x1 → (∀ x106 : Int32, x106 = -x1 → (tX s103 0 (tR s103 x0 9) x106 ∧ (tX s103 0 (tR s103 x0 9) x106 ∧ (∀ s109 : tM, s109 = tsI s103 (tR s103 x0 9) x106.toNatClampNeg ((tI s103 (tR s103 x0 9) x106.toNatClampNeg) + 1) → (Kr x1 s109))))))))))
theorem e_X0_tell {G : xG} {l : Launch} {g : xH} {d : Nat} (hd : 2 ≤ d) {x0 : Nat} {x1 : Int32} {s : tM} {Kr : Int32 → tM → Prop} (h : v_X0_tell x0 x1 s Kr) : xC G l kX0_tell d 0 0 [rfv x0, .int x1] (tH G g s) (tQ G g wi Kr tNo) := by
  obtain ⟨d, rfl⟩ : ∃ z, d = z + 1 := ⟨d - 1, by omega⟩
  refine t_start rfl (by decide +kernel) (by simp [xct_i, xct_l, rfv_c]) (lv := [some (rfv x0), some (.int x1)]) (by simp [lv_args, xLv, rfv_c, xct_i, xct_l]) ?_
  unfold v_X0_tell at h
  refine t_aload_0 dX0_tell_0 ?_
  refine x_iload_1 dX0_tell_1 ?_
  refine x_iconst (v := 0) dX0_tell_2 (by decide) ?_
  refine t_mmin ma_X0_120 (by omega) (xrm4 (Nat.le_of_ble_eq_true rfl)) dX0_tell_3 ?_
  have h := h _ rfl
  obtain ⟨e102, h⟩ := h
  refine t_putI (j := 10) dX0_tell_6 fp_X0_126_0 (by decide) e102 rfl rfl ?_
  refine t_gen h (fun s103 w104 h => ?_)
  refine x_iload_1 dX0_tell_9 ?_
  refine x_if_ge 24 dX0_tell_10 (by decide) (fun c105 => ?_) (fun c105 => ?_)
  · have h := h.1 c105
    refine x_iload_1 dX0_tell_24 ?_
    exact x_iret dX0_tell_25 rfl (Or.inl ⟨_, _, h, rfl, rfl⟩)
  · have h := h.2 c105
    refine t_aload_0 dX0_tell_13 ?_
    refine t_getR dX0_tell_14 fa_X0_67_0 (by decide) (tO_w w104 e102) ?_
    refine x_iload_1 dX0_tell_17 ?_
    refine x_ineg dX0_tell_18 ?_
    refine x_dup2 dX0_tell_19 rfl (rfv_c _) ?_
    have h := h _ rfl
    obtain ⟨e107, h⟩ := h
    refine t_iald dX0_tell_20 e107 ?_
    refine x_iconst (v := 1) dX0_tell_21 (by decide) ?_
    refine x_iadd dX0_tell_22 ?_
    obtain ⟨e108, h⟩ := h
    refine t_iast dX0_tell_23 e108 ?_
    refine t_gen h (fun s109 w110 h => ?_)
    refine x_iload_1 dX0_tell_24 ?_
    exact x_iret dX0_tell_25 rfl (Or.inl ⟨_, _, h, rfl, rfl⟩)
def v_X0_settled (x0 : Nat) (x1 : Int32) (s : tM) (Kr : Int32 → tM → Prop) : Prop :=
  ((x1 < 0 → (tO s 0 x0 ∧ (v_X0_tell x0 x1 s (fun x102 s103 => (Kr x102 s103))))) ∧ (¬ x1 < 0 → (tO s 0 x0 ∧ (tO s 3 (tR s x0 2) ∧ (∀ s107 : tM, s107 = tsI s (tR s x0 2) 1 0 → (v_X0_tell x0 x1 s107 (fun x109 s110 => (Kr x109 s110))))))))
theorem e_X0_settled {G : xG} {l : Launch} {g : xH} {d : Nat} (hd : 4 ≤ d) {x0 : Nat} {x1 : Int32} {s : tM} {Kr : Int32 → tM → Prop} (h : v_X0_settled x0 x1 s Kr) : xC G l kX0_settled d 0 0 [rfv x0, .int x1] (tH G g s) (tQ G g wi Kr tNo) := by
  obtain ⟨d, rfl⟩ : ∃ z, d = z + 1 := ⟨d - 1, by omega⟩
  refine t_start rfl (by decide +kernel) (by simp [xct_i, xct_l, rfv_c]) (lv := [some (rfv x0), some (.int x1)]) (by simp [lv_args, xLv, rfv_c, xct_i, xct_l]) ?_
  unfold v_X0_settled at h
  refine x_iload_1 dX0_settled_0 ?_
  refine x_if_lt 12 dX0_settled_1 (by decide) (fun c101 => ?_) (fun c101 => ?_)
  · have h := h.1 c101
    refine t_aload_0 dX0_settled_12 ?_
    refine x_iload_1 dX0_settled_13 ?_
    obtain ⟨e104, h⟩ := h
    refine t_cVi (As := [_]) rfl cv_X0_132 rfl e104 rfl rfl (xrm4 (Nat.le_of_ble_eq_true rfl)) dX0_settled_14 (e_X0_tell (by omega) h) ⟨Nat.zero_le _, Nat.zero_le _⟩ (fun _ _ _ h => h.elim) (fun x102 s103 h => ?_)
    exact x_iret dX0_settled_17 rfl (Or.inl ⟨_, _, h, rfl, rfl⟩)
  · have h := h.2 c101
    refine t_aload_0 dX0_settled_4 ?_
    obtain ⟨e105, h⟩ := h
    refine t_getR dX0_settled_5 fa_X0_29_0 (by decide) e105 ?_
    refine x_iconst (v := 0) dX0_settled_8 (by decide) ?_
    obtain ⟨e106, h⟩ := h
    refine t_putI (j := 1) dX0_settled_9 fp_X0_129_3 (by decide) e106 rfl rfl ?_
    refine t_gen h (fun s107 w108 h => ?_)
    refine t_aload_0 dX0_settled_12 ?_
    refine x_iload_1 dX0_settled_13 ?_
    refine t_cVi (As := [_]) rfl cv_X0_132 rfl (tO_w w108 e105) rfl rfl (xrm4 (Nat.le_of_ble_eq_true rfl)) dX0_settled_14 (e_X0_tell (by omega) h) ⟨Nat.zero_le _, Nat.zero_le _⟩ (fun _ _ _ h => h.elim) (fun x109 s110 h => ?_)
    exact x_iret dX0_settled_17 rfl (Or.inl ⟨_, _, h, rfl, rfl⟩)
def v_X2_init (N : tP) (x0 : Nat) (k n : Nat) (s : tM) (Kr : tM → Prop) : Prop :=
  (tO s 2 x0 ∧ (1 ≤ k ∧ (12 ≤ n ∧ (∀ q104 : Nat, s.1 q104 = none → ¬ q104 = 0 → ¬ q104 = N.2.2 200 → (∀ s105 : tM, s105 = tNew s q104 (.inr (0, 12)) → (tO s105 2 x0 ∧ (∀ s108 : tM, s108 = tsR s105 x0 0 q104 → (1 ≤ (k - 1) ∧ (12 ≤ (n - 12) ∧ (∀ q112 : Nat, s108.1 q112 = none → ¬ q112 = 0 → ¬ q112 = N.2.2 200 → (∀ s113 : tM, s113 = tNew s108 q112 (.inr (0, 12)) → (tO s113 2 x0 ∧ (∀ s116 : tM, s116 = tsR s113 x0 1 q112 → (Kr s116))))))))))))))
theorem e_X2_init {G : xG} {l : Launch} {g : xH} {d : Nat} {N : tP} (hN : tNs G N) (hd : 2 ≤ d) {x0 : Nat} {k n : Nat} {s : tM} {Kr : tM → Prop} (h : v_X2_init N x0 k n s Kr) : xC G l kX2_init d k n [rfv x0] (tH G g s) (tQ G g wu (fun _ => Kr) tNo) := by
  obtain ⟨d, rfl⟩ : ∃ z, d = z + 1 := ⟨d - 1, by omega⟩
  refine t_start rfl (by decide +kernel) (by simp [xct_i, xct_l, rfv_c]) (lv := [some (rfv x0)]) (by simp [lv_args, xLv, rfv_c, xct_i, xct_l]) ?_
  unfold v_X2_init at h
  refine t_aload_0 dX2_init_0 ?_
  obtain ⟨e101, h⟩ := h
  refine t_obj dX2_init_1 ob_X2_3 e101.2 (Nat.le_of_ble_eq_true rfl) (by omega) ?_
  refine t_aload_0 dX2_init_4 ?_
  refine x_bipush (v := 12) dX2_init_5 (by decide) ?_
  obtain ⟨e102, h⟩ := h
  obtain ⟨e103, h⟩ := h
  refine t_newarr (t := 0) (N := 12) dX2_init_7 rfl rfl q239 (by decide) rfl (fun _ _ h => h) (by decide) (by decide) (by decide) e102 e103 (fun q h1 h2 h3 => ?_)
  have h := h q h1 h2 (fun e => h3 (e.trans (hN 200)))
  refine t_gen h (fun s105 w106 h => ?_)
  obtain ⟨e107, h⟩ := h
  refine t_putFR (j := 0) dX2_init_9 ff_X2_9_2 rfl (by decide) e107 rfl ?_
  refine t_gen h (fun s108 w109 h => ?_)
  refine t_aload_0 dX2_init_12 ?_
  refine x_bipush (v := 12) dX2_init_13 (by decide) ?_
  obtain ⟨e110, h⟩ := h
  obtain ⟨e111, h⟩ := h
  refine t_newarr (t := 0) (N := 12) dX2_init_15 rfl rfl q239 (by decide) rfl (fun _ _ h => h) (by decide) (by decide) (by decide) e110 e111 (fun q h1 h2 h3 => ?_)
  have h := h q h1 h2 (fun e => h3 (e.trans (hN 200)))
  refine t_gen h (fun s113 w114 h => ?_)
  obtain ⟨e115, h⟩ := h
  refine t_putFR (j := 1) dX2_init_17 ff_X2_15_2 rfl (by decide) e115 rfl ?_
  refine t_gen h (fun s116 w117 h => ?_)
  exact x_vret dX2_init_20 rfl (Or.inl ⟨(), _, h, rfl, rfl⟩)
def v_X1_init (N : tP) (x0 : Nat) (k n : Nat) (s : tM) (Kr : tM → Prop) : Prop :=
  (tO s 1 x0 ∧ (1 ≤ k ∧ (3 ≤ n ∧ (∀ q104 : Nat, s.1 q104 = none → ¬ q104 = 0 → ¬ q104 = N.2.2 200 → (∀ s105 : tM, s105 = tNew s q104 (.inl 20) → (v_J2_init N q104 s105 (fun s109 => (tO s109 1 x0 ∧ (∀ s111 : tM, s111 = tsR s109 x0 0 q104 → (1 ≤ (k - 1) ∧ (5 ≤ (n - 3) ∧ (∀ q115 : Nat, s111.1 q115 = none → ¬ q115 = 0 → ¬ q115 = N.2.2 200 → (∀ s116 : tM, s116 = tNew s111 q115 (.inr (0, 5)) → (tX s116 0 q115 0 ∧ (∀ s119 : tM, s119 = tsI s116 q115 0 0 → (tX s119 0 q115 1 ∧ (∀ s122 : tM, s122 = tsI s119 q115 1 1 → (tX s122 0 q115 2 ∧ (∀ s125 : tM, s125 = tsI s122 q115 2 0 → (tX s125 0 q115 3 ∧ (∀ s128 : tM, s128 = tsI s125 q115 3 0 → (tX s128 0 q115 4 ∧ (∀ s131 : tM, s131 = tsI s128 q115 4 24 → (tO s131 1 x0 ∧ (∀ s134 : tM, s134 = tsR s131 x0 1 q115 → (7 ≤ ((k - 1) - 1) ∧ (18 ≤ ((n - 3) - 5) ∧ (∀ q138 : Nat, (∀ j : Nat, j ≤ 6 → s134.1 (q138 + j) = none) → ¬ q138 = 0 → (∀ j : Nat, ¬ q138 + j = N.2.2 200) → (∀ s139 : tM, s139 = tMk s134 q138 11 6 0 2 6 → (tO s139 1 x0 ∧ (∀ s142 : tM, s142 = tsR s139 x0 2 q138 → (1 ≤ (((k - 1) - 1) - 7) ∧ (4 ≤ (((n - 3) - 5) - 18) ∧ (∀ q146 : Nat, s142.1 q146 = none → ¬ q146 = 0 → ¬ q146 = N.2.2 200 → (∀ s147 : tM, s147 = tNew s142 q146 (.inl 2) → (∃ c152 c153 : Nat, c152 ≤ (((k - 1) - 1) - 7) - 1 ∧ c153 ≤ (((n - 3) - 5) - 18) - 4 ∧ (v_X2_init N q146 c152 c153 s147 (fun s151 => (tO s151 1 x0 ∧ (∀ s157 : tM, s157 = tsR s151 x0 3 q146 → (∀ s159 : tM, s159 = tsI s157 x0 6 (-1) → (Kr s159))))))))))))))))))))))))))))))))))))))))))
theorem e_X1_init {G : xG} {l : Launch} {g : xH} {d : Nat} {N : tP} (hN : tNs G N) (hd : 8 ≤ d) {x0 : Nat} {k n : Nat} {s : tM} {Kr : tM → Prop} (h : v_X1_init N x0 k n s Kr) : xC G l kX1_init d k n [rfv x0] (tH G g s) (tQ G g wu (fun _ => Kr) tNo) := by
  obtain ⟨d, rfl⟩ : ∃ z, d = z + 1 := ⟨d - 1, by omega⟩
  refine t_start rfl (by decide +kernel) (by simp [xct_i, xct_l, rfv_c]) (lv := [some (rfv x0)]) (by simp [lv_args, xLv, rfv_c, xct_i, xct_l]) ?_
  unfold v_X1_init at h
  refine t_aload_0 dX1_init_0 ?_
  obtain ⟨e101, h⟩ := h
  refine t_obj dX1_init_1 ob_X1_3 e101.2 (Nat.le_of_ble_eq_true rfl) (by omega) ?_
  refine t_aload_0 dX1_init_4 ?_
  obtain ⟨e102, h⟩ := h
  obtain ⟨e103, h⟩ := h
  refine t_new (N := 3) dX1_init_5 ne_X1_9 rfl e102 e103 (fun q h1 h2 h3 => ?_)
  have h := h q h1 h2 (fun e => h3 (e.trans (hN 200)))
  refine t_gen h (fun s105 w106 h => ?_)
  have e107 := h2
  refine x_dup dX1_init_8 (rfv_c _) ?_
  refine t_cI (As := []) rfl ci_X1_11 e107 rfl rfl (xrm4 (Nat.le_of_ble_eq_true rfl)) dX1_init_9 (e_J2_init hN (by omega) h) ⟨Nat.zero_le _, Nat.zero_le _⟩ (fun _ _ _ h => h.elim) (fun _ s109 h => ?_)
  obtain ⟨e110, h⟩ := h
  refine t_putFR (j := 0) dX1_init_12 ff_X1_12_1 rfl (by decide) e110 rfl ?_
  refine t_gen h (fun s111 w112 h => ?_)
  refine t_aload_0 dX1_init_15 ?_
  refine x_iconst (v := 5) dX1_init_16 (by decide) ?_
  obtain ⟨e113, h⟩ := h
  obtain ⟨e114, h⟩ := h
  refine t_newarr (t := 0) (N := 5) dX1_init_17 rfl rfl q239 (by decide) rfl (fun _ _ h => h) (by decide) (by decide) (by decide) e113 e114 (fun q h1 h2 h3 => ?_)
  have h := h q h1 h2 (fun e => h3 (e.trans (hN 200)))
  refine t_gen h (fun s116 w117 h => ?_)
  refine x_dup dX1_init_19 (rfv_c _) ?_
  refine x_iconst (v := 0) dX1_init_20 (by decide) ?_
  refine x_iconst (v := 0) dX1_init_21 (by decide) ?_
  obtain ⟨e118, h⟩ := h
  refine t_iast dX1_init_22 e118 ?_
  refine t_gen h (fun s119 w120 h => ?_)
  refine x_dup dX1_init_23 (rfv_c _) ?_
  refine x_iconst (v := 1) dX1_init_24 (by decide) ?_
  refine x_iconst (v := 1) dX1_init_25 (by decide) ?_
  obtain ⟨e121, h⟩ := h
  refine t_iast dX1_init_26 e121 ?_
  refine t_gen h (fun s122 w123 h => ?_)
  refine x_dup dX1_init_27 (rfv_c _) ?_
  refine x_iconst (v := 2) dX1_init_28 (by decide) ?_
  refine x_iconst (v := 0) dX1_init_29 (by decide) ?_
  obtain ⟨e124, h⟩ := h
  refine t_iast dX1_init_30 e124 ?_
  refine t_gen h (fun s125 w126 h => ?_)
  refine x_dup dX1_init_31 (rfv_c _) ?_
  refine x_iconst (v := 3) dX1_init_32 (by decide) ?_
  refine x_iconst (v := 0) dX1_init_33 (by decide) ?_
  obtain ⟨e127, h⟩ := h
  refine t_iast dX1_init_34 e127 ?_
  refine t_gen h (fun s128 w129 h => ?_)
  refine x_dup dX1_init_35 (rfv_c _) ?_
  refine x_iconst (v := 4) dX1_init_36 (by decide) ?_
  refine x_bipush (v := 24) dX1_init_37 (by decide) ?_
  obtain ⟨e130, h⟩ := h
  refine t_iast dX1_init_39 e130 ?_
  refine t_gen h (fun s131 w132 h => ?_)
  obtain ⟨e133, h⟩ := h
  refine t_putFR (j := 1) dX1_init_40 ff_X1_18_1 rfl (by decide) e133 rfl ?_
  refine t_gen h (fun s134 w135 h => ?_)
  refine t_aload_0 dX1_init_43 ?_
  refine x_bipush (v := 6) dX1_init_44 (by decide) ?_
  refine x_iconst (v := 2) dX1_init_46 (by decide) ?_
  obtain ⟨e136, h⟩ := h
  obtain ⟨e137, h⟩ := h
  refine t_multi2 (tO := 11) (t1 := 0) (N := 6) (K := 2) dX1_init_47 q210 ⟨rfl, by decide, by decide⟩ rfl (Or.inl ⟨by decide, rfl⟩) (by decide) (by decide +kernel) (by decide) (by decide) (by decide) (by decide) (by decide) (by decide) (by decide) rfl rfl e136 e137 (fun q h1 h2 h3 => ?_)
  have h := h q h1 h2 (fun j e => h3 j (e.trans (hN 200)))
  refine t_gen h (fun s139 w140 h => ?_)
  obtain ⟨e141, h⟩ := h
  refine t_putFR (j := 2) dX1_init_51 ff_X1_24_1 rfl (by decide) e141 rfl ?_
  refine t_gen h (fun s142 w143 h => ?_)
  refine t_aload_0 dX1_init_54 ?_
  obtain ⟨e144, h⟩ := h
  obtain ⟨e145, h⟩ := h
  refine t_new (N := 4) dX1_init_55 ne_X1_27 rfl e144 e145 (fun q h1 h2 h3 => ?_)
  have h := h q h1 h2 (fun e => h3 (e.trans (hN 200)))
  refine t_gen h (fun s147 w148 h => ?_)
  have e149 := h2
  refine x_dup dX1_init_58 (rfv_c _) ?_
  obtain ⟨c152, c153, e154, e155, h⟩ := h
  refine t_cIN (As := []) rfl cin_X1_29 e149 rfl rfl (xrm4 (Nat.le_of_ble_eq_true rfl)) dX1_init_59 (e_X2_init hN (by omega) h) ⟨e154, e155⟩ (fun _ _ _ h => h.elim) (fun _ s151 h => ?_)
  obtain ⟨e156, h⟩ := h
  refine t_putFR (j := 3) dX1_init_62 ff_X1_30_1 rfl (by decide) e156 rfl ?_
  refine t_gen h (fun s157 w158 h => ?_)
  refine t_aload_0 dX1_init_65 ?_
  refine x_iconst (v := (-1)) dX1_init_66 (by decide) ?_
  refine t_putI (j := 6) dX1_init_67 fp_X1_34_1 (by decide) (tO_w w158 e156) rfl rfl ?_
  refine t_gen h (fun s159 w160 h => ?_)
  exact x_vret dX1_init_70 rfl (Or.inl ⟨(), _, h, rfl, rfl⟩)
def v_X2_as (x0 : Nat) (x1 : Nat) (s : tM) (Kr : Nat → tM → Prop) : Prop :=
  (tO s 2 x1 ∧ (tO s 2 x0 ∧ (tCpOk s 0 (tR s x1 0) (tR s x0 0) 0 0 12 ∧ (∀ s104 : tM, s104 = tCpI s (tR s x1 0) (tR s x0 0) 0 0 12 → (tCpOk s104 0 (tR s104 x1 1) (tR s104 x0 1) 0 0 12 ∧ (∀ s107 : tM, s107 = tCpI s104 (tR s104 x1 1) (tR s104 x0 1) 0 0 12 → (∀ s109 : tM, s109 = tsI s107 x0 2 (tI s107 x1 2) → (∀ s111 : tM, s111 = tsI s109 x0 3 (tI s109 x1 3) → (Kr x0 s111)))))))))
theorem e_X2_as {G : xG} {l : Launch} {g : xH} {d : Nat} (hd : 2 ≤ d) {x0 : Nat} {x1 : Nat} {s : tM} {Kr : Nat → tM → Prop} (h : v_X2_as x0 x1 s Kr) : xC G l kX2_as d 0 0 [rfv x0, rfv x1] (tH G g s) (tQ G g wr Kr tNo) := by
  obtain ⟨d, rfl⟩ : ∃ z, d = z + 1 := ⟨d - 1, by omega⟩
  refine t_start rfl (by decide +kernel) (by simp [xct_i, xct_l, rfv_c]) (lv := [some (rfv x0), some (rfv x1)]) (by simp [lv_args, xLv, rfv_c, xct_i, xct_l]) ?_
  unfold v_X2_as at h
  refine t_aload_1 dX2_as_0 ?_
  obtain ⟨e101, h⟩ := h
  refine t_getR dX2_as_1 fa_X2_9_2 (by decide) e101 ?_
  refine x_iconst (v := 0) dX2_as_4 (by decide) ?_
  refine t_aload_0 dX2_as_5 ?_
  obtain ⟨e102, h⟩ := h
  refine t_getR dX2_as_6 fa_X2_9_2 (by decide) e102 ?_
  refine x_iconst (v := 0) dX2_as_9 (by decide) ?_
  refine x_bipush (v := 12) dX2_as_10 (by decide) ?_
  obtain ⟨e103, h⟩ := h
  refine t_copyI (t := 0) dX2_as_12 na_X2_18 rfl (by decide) rfl e103 (fun _ _ => rfl) (by omega) (by decide) ?_
  refine t_gen h (fun s104 w105 h => ?_)
  refine t_aload_1 dX2_as_15 ?_
  refine t_getR dX2_as_16 fa_X2_15_2 (by decide) (tO_w w105 e101) ?_
  refine x_iconst (v := 0) dX2_as_19 (by decide) ?_
  refine t_aload_0 dX2_as_20 ?_
  refine t_getR dX2_as_21 fa_X2_15_2 (by decide) (tO_w w105 e102) ?_
  refine x_iconst (v := 0) dX2_as_24 (by decide) ?_
  refine x_bipush (v := 12) dX2_as_25 (by decide) ?_
  obtain ⟨e106, h⟩ := h
  refine t_copyI (t := 0) dX2_as_27 na_X2_18 rfl (by decide) rfl e106 (fun _ _ => rfl) (by omega) (by decide) ?_
  refine t_gen h (fun s107 w108 h => ?_)
  refine t_aload_0 dX2_as_30 ?_
  refine t_aload_1 dX2_as_31 ?_
  refine t_getI dX2_as_32 fa_X2_24_2 (by decide) (tO_w w108 (tO_w w105 e101)) ?_
  refine t_putI (j := 2) dX2_as_35 fp_X2_24_2 (by decide) (tO_w w108 (tO_w w105 e102)) rfl rfl ?_
  refine t_gen h (fun s109 w110 h => ?_)
  refine t_aload_0 dX2_as_38 ?_
  refine t_aload_1 dX2_as_39 ?_
  refine t_getI dX2_as_40 fa_X2_28_2 (by decide) (tO_w w110 (tO_w w108 (tO_w w105 e101))) ?_
  refine t_putI (j := 3) dX2_as_43 fp_X2_28_2 (by decide) (tO_w w110 (tO_w w108 (tO_w w105 e102))) rfl rfl ?_
  refine t_gen h (fun s111 w112 h => ?_)
  refine t_aload_0 dX2_as_46 ?_
  exact t_aret dX2_as_47 rfl (by first | exact Or.inl ⟨_, rfl⟩ | exact Or.inr ⟨_, rfl⟩) (Or.inl ⟨_, _, h, rfl, rfl⟩)
def v_X1_copy_40 (N : tP) (x0 : Nat) (x1 : Nat) (Kr : Nat → tM → Prop) (K : Nat → Nat → tM → Prop) : Nat → Int32 → Nat → Nat → tM → Prop
  | 0, _, _, _, _ => False
  | t + 1, x2, k, n, s => ((6 ≤ x2 → (K k n s)) ∧ (¬ 6 ≤ x2 → (tO s 1 x0 ∧ (tX s 11 (tR s x0 2) x2 ∧ (tO s 1 x1 ∧ (tX s 11 (tR s x1 2) x2 ∧ (tCpOk s 0 (tR s (tR s x0 2) x2.toNatClampNeg) (tR s (tR s x1 2) x2.toNatClampNeg) 0 0 2 ∧ (∀ s107 : tM, s107 = tCpI s (tR s (tR s x0 2) x2.toNatClampNeg) (tR s (tR s x1 2) x2.toNatClampNeg) 0 0 2 → (∀ x109 : Int32, x109 = x2 + 1 → ((fun x2 k n s => v_X1_copy_40 N x0 x1 Kr K t x2 k n s) x109 k n s107))))))))))
theorem e_X1_copy_40 {G : xG} {l : Launch} {g : xH} {d : Nat} {N : tP} (hN : tNs G N) (hd : 9 ≤ d) (x0 : Nat) (x1 : Nat) (Kr : Nat → tM → Prop) (K : Nat → Nat → tM → Prop) : ∀ (t : Nat) (x2 : Int32) (k n : Nat) (s : tM) , v_X1_copy_40 N x0 x1 Kr K t x2 k n s → (∀ (k n : Nat) (s : tM), K k n s → xF G l kX1_copy (d + 1) k n (tQ G g wr Kr tNo) 70 [some (rfv x0), some (rfv x1), none] [] (tH G g s)) → xF G l kX1_copy (d + 1) k n (tQ G g wr Kr tNo) 40 [some (rfv x0), some (rfv x1), some (.int x2)] [] (tH G g s) := by
  intro t
  induction t with
  | zero =>
    intro _ _ _ _ h _
    exact absurd h (by simp [v_X1_copy_40])
  | succ t ih =>
    intro x2 k n s h hK
    have hR := fun x2 k n s h => ih x2 k n s h hK
    unfold v_X1_copy_40 at h
    refine x_iload_2 dX1_copy_40 ?_
    refine x_bipush (v := 6) dX1_copy_41 (by decide) ?_
    refine x_icmp_ge 70 dX1_copy_43 (by decide) (fun c101 => ?_) (fun c101 => ?_)
    · have h := h.1 c101
      exact x_le (xLe_cons (xLe_cons (xLe_none (xLe_nil)))) (hK _ _ _ h)
    · have h := h.2 c101
      refine t_aload_0 dX1_copy_46 ?_
      obtain ⟨e102, h⟩ := h
      refine t_getR dX1_copy_47 fa_X1_24_1 (by decide) e102 ?_
      refine x_iload_2 dX1_copy_50 ?_
      obtain ⟨e103, h⟩ := h
      refine t_aald (t := 11) dX1_copy_51 ⟨rfl, by decide, by decide⟩ rfl e103 ?_
      refine x_iconst (v := 0) dX1_copy_52 (by decide) ?_
      refine t_aload_1 dX1_copy_53 ?_
      obtain ⟨e104, h⟩ := h
      refine t_getR dX1_copy_54 fa_X1_24_1 (by decide) e104 ?_
      refine x_iload_2 dX1_copy_57 ?_
      obtain ⟨e105, h⟩ := h
      refine t_aald (t := 11) dX1_copy_58 ⟨rfl, by decide, by decide⟩ rfl e105 ?_
      refine x_iconst (v := 0) dX1_copy_59 (by decide) ?_
      refine x_iconst (v := 2) dX1_copy_60 (by decide) ?_
      obtain ⟨e106, h⟩ := h
      refine t_copyI (t := 0) dX1_copy_61 na_X1_43 rfl (by decide) rfl e106 (fun _ _ => rfl) (by omega) (by decide) ?_
      refine t_gen h (fun s107 w108 h => ?_)
      refine x_iinc_2 (v := 1) dX1_copy_64 (by decide) (by decide) xN2_f ?_
      have h := h _ rfl
      refine x_goto 40 dX1_copy_67 (by decide) ?_
      exact x_le (xLe_cons (xLe_cons (xLe_cons (xLe_nil)))) (hR _ _ _ _ h)
def v_X1_copy (N : tP) (x0 : Nat) (k n : Nat) (s : tM) (Kr : Nat → tM → Prop) : Prop :=
  (1 ≤ k ∧ (7 ≤ n ∧ (∀ q103 : Nat, s.1 q103 = none → ¬ q103 = 0 → ¬ q103 = N.2.2 200 → (∀ s104 : tM, s104 = tNew s q103 (.inl 1) → (∃ c109 c110 : Nat, c109 ≤ k - 1 ∧ c110 ≤ n - 7 ∧ (v_X1_init N q103 c109 c110 s104 (fun s108 => (tO s108 1 q103 ∧ (tO s108 1 x0 ∧ (∃ c117 c118 : Nat, c117 ≤ (k - 1) - c109 ∧ c118 ≤ (n - 7) - c110 ∧ (tO s108 20 (tR s108 q103 0) ∧ (v_J2_addAll N (tR s108 q103 0) (tR s108 x0 0) c117 c118 s108 (fun x115 s116 => (tO s116 1 x0 ∧ (tO s116 1 q103 ∧ ((∃ N, tA s116 0 N (tR s116 x0 1)) ∧ (tCpOk s116 0 (tR s116 x0 1) (tR s116 q103 1) 0 0 (Int32.ofNat (tLen s116 (tR s116 x0 1))) ∧ (∀ s126 : tM, s126 = tCpI s116 (tR s116 x0 1) (tR s116 q103 1) 0 0 ((Int32.ofNat (tLen s116 (tR s116 x0 1)))).toNatClampNeg → (v_X1_copy_40 N x0 q103 Kr (fun k129 n130 s128 => (tO s128 1 q103 ∧ (tO s128 1 x0 ∧ (tO s128 2 (tR s128 q103 3) ∧ (v_X2_as (tR s128 q103 3) (tR s128 x0 3) s128 (fun x133 s134 => (tO s134 1 x0 ∧ (tO s134 1 q103 ∧ (∀ s138 : tM, s138 = tsI s134 q103 4 (tI s134 x0 4) → (∀ s140 : tM, s140 = tsI s138 q103 5 (tI s138 x0 5) → (∀ s142 : tM, s142 = tsI s140 q103 6 (tI s140 x0 6) → (Kr q103 s142)))))))))))) N.1 0 (((k - 1) - c109) - c117) (((n - 7) - c110) - c118) s126)))))))))))))))))))
theorem e_X1_copy {G : xG} {l : Launch} {g : xH} {d : Nat} {N : tP} (hN : tNs G N) (hd : 10 ≤ d) {x0 : Nat} {k n : Nat} {s : tM} {Kr : Nat → tM → Prop} (h : v_X1_copy N x0 k n s Kr) : xC G l kX1_copy d k n [rfv x0] (tH G g s) (tQ G g wr Kr tNo) := by
  obtain ⟨d, rfl⟩ : ∃ z, d = z + 1 := ⟨d - 1, by omega⟩
  refine t_start rfl (by decide +kernel) (by simp [xct_i, xct_l, rfv_c]) (lv := [some (rfv x0), none, none]) (by simp [lv_args, xLv, rfv_c, xct_i, xct_l]) ?_
  unfold v_X1_copy at h
  obtain ⟨e101, h⟩ := h
  obtain ⟨e102, h⟩ := h
  refine t_new (N := 7) dX1_copy_0 ne_X1_13 rfl e101 e102 (fun q h1 h2 h3 => ?_)
  have h := h q h1 h2 (fun e => h3 (e.trans (hN 200)))
  refine t_gen h (fun s104 w105 h => ?_)
  have e106 := h2
  refine x_dup dX1_copy_3 (rfv_c _) ?_
  obtain ⟨c109, c110, e111, e112, h⟩ := h
  refine t_cI (As := []) rfl ci_X1_38 e106 rfl rfl (xrm4 (Nat.le_of_ble_eq_true rfl)) dX1_copy_4 (e_X1_init hN (by omega) h) ⟨e111, e112⟩ (fun _ _ _ h => h.elim) (fun _ s108 h => ?_)
  refine t_astore_1 dX1_copy_7 (by decide) xN2_f ?_
  refine t_aload_1 dX1_copy_8 ?_
  obtain ⟨e113, h⟩ := h
  refine t_getR dX1_copy_9 fa_X1_12_1 (by decide) e113 ?_
  refine t_aload_0 dX1_copy_12 ?_
  obtain ⟨e114, h⟩ := h
  refine t_getR dX1_copy_13 fa_X1_12_1 (by decide) e114 ?_
  obtain ⟨c117, c118, e119, e120, h⟩ := h
  obtain ⟨e121, h⟩ := h
  refine t_cVi (As := [_]) rfl cv_X1_39 rfl e121 rfl rfl (xrm4 (Nat.le_of_ble_eq_true rfl)) dX1_copy_16 (e_J2_addAll hN (by omega) h) ⟨e119, e120⟩ (fun _ _ _ h => h.elim) (fun x115 s116 h => ?_)
  refine x_pop dX1_copy_19 rfl ?_
  refine t_aload_0 dX1_copy_20 ?_
  obtain ⟨e122, h⟩ := h
  refine t_getR dX1_copy_21 fa_X1_18_1 (by decide) e122 ?_
  refine x_iconst (v := 0) dX1_copy_24 (by decide) ?_
  refine t_aload_1 dX1_copy_25 ?_
  obtain ⟨e123, h⟩ := h
  refine t_getR dX1_copy_26 fa_X1_18_1 (by decide) e123 ?_
  refine x_iconst (v := 0) dX1_copy_29 (by decide) ?_
  refine t_aload_0 dX1_copy_30 ?_
  refine t_getR dX1_copy_31 fa_X1_18_1 (by decide) e122 ?_
  obtain ⟨e124, h⟩ := h
  refine t_alen (t := 0) dX1_copy_34 ⟨rfl, by decide⟩ e124 ?_
  obtain ⟨e125, h⟩ := h
  refine t_copyI (t := 0) dX1_copy_35 na_X1_43 rfl (by decide) rfl e125 (fun _ _ => rfl) (by omega) (by decide) ?_
  refine t_gen h (fun s126 w127 h => ?_)
  refine x_iconst (v := 0) dX1_copy_38 (by decide) ?_
  refine x_istore_2 dX1_copy_39 (by decide) xN2_f ?_
  refine x_le (xLe_cons (xLe_cons (xLe_cons (xLe_nil)))) (e_X1_copy_40 hN (by omega) _ _ _ _  _ _ _ _ _ h (fun k129 n130 s128 h => ?_))
  refine t_aload_1 dX1_copy_70 ?_
  obtain ⟨e131, h⟩ := h
  refine t_getR dX1_copy_71 fa_X1_30_1 (by decide) e131 ?_
  refine t_aload_0 dX1_copy_74 ?_
  obtain ⟨e132, h⟩ := h
  refine t_getR dX1_copy_75 fa_X1_30_1 (by decide) e132 ?_
  obtain ⟨e135, h⟩ := h
  refine t_cVr (As := [_]) rfl cv_X1_49 rfl e135 rfl rfl (xrm4 (Nat.le_of_ble_eq_true rfl)) dX1_copy_78 (e_X2_as (by omega) h) ⟨Nat.zero_le _, Nat.zero_le _⟩ (fun _ _ _ h => h.elim) (fun x133 s134 h => ?_)
  refine x_pop dX1_copy_81 (rfv_c _) ?_
  refine t_aload_1 dX1_copy_82 ?_
  refine t_aload_0 dX1_copy_83 ?_
  obtain ⟨e136, h⟩ := h
  refine t_getI dX1_copy_84 fa_X1_53_1 (by decide) e136 ?_
  obtain ⟨e137, h⟩ := h
  refine t_putI (j := 4) dX1_copy_87 fp_X1_53_1 (by decide) e137 rfl rfl ?_
  refine t_gen h (fun s138 w139 h => ?_)
  refine t_aload_1 dX1_copy_90 ?_
  refine t_aload_0 dX1_copy_91 ?_
  refine t_getI dX1_copy_92 fa_X1_56_1 (by decide) (tO_w w139 e136) ?_
  refine t_putI (j := 5) dX1_copy_95 fp_X1_56_1 (by decide) (tO_w w139 e137) rfl rfl ?_
  refine t_gen h (fun s140 w141 h => ?_)
  refine t_aload_1 dX1_copy_98 ?_
  refine t_aload_0 dX1_copy_99 ?_
  refine t_getI dX1_copy_100 fa_X1_34_1 (by decide) (tO_w w141 (tO_w w139 e136)) ?_
  refine t_putI (j := 6) dX1_copy_103 fp_X1_34_1 (by decide) (tO_w w141 (tO_w w139 e137)) rfl rfl ?_
  refine t_gen h (fun s142 w143 h => ?_)
  refine t_aload_1 dX1_copy_106 ?_
  exact t_aret dX1_copy_107 rfl (by first | exact Or.inl ⟨_, rfl⟩ | exact Or.inr ⟨_, rfl⟩) (Or.inl ⟨_, _, h, rfl, rfl⟩)
def v_X0_back (N : tP) (x0 : Nat) (x1 : Int32) (k n : Nat) (s : tM) (Kr : Int32 → tM → Prop) : Prop :=
  (v_X0_in ((x1 : Int32).toInt64) 0 1 s (fun x101 s102 => ((¬ x101 = 0 → (tO s102 0 x0 ∧ (tX s102 4 (tR s102 x0 1) x1 ∧ ((¬ (tR s102 (tR s102 x0 1) x1.toNatClampNeg) = 0 → (tX s102 4 (tR s102 x0 1) x1 ∧ (∃ c110 c111 : Nat, c110 ≤ k ∧ c111 ≤ n ∧ (tO s102 1 (tR s102 (tR s102 x0 1) x1.toNatClampNeg) ∧ (v_X1_copy N (tR s102 (tR s102 x0 1) x1.toNatClampNeg) c110 c111 s102 (fun x108 s109 => (tO s109 0 x0 ∧ (∀ s116 : tM, s116 = tsR s109 x0 0 x108 → (v_X0_settled x0 0 s116 (fun x118 s119 => (Kr x118 s119))))))))))) ∧ ((tR s102 (tR s102 x0 1) x1.toNatClampNeg) = 0 → (v_X0_tell x0 (-2) s102 (fun x120 s121 => (Kr x120 s121)))))))) ∧ (x101 = 0 → (tO s102 0 x0 ∧ (v_X0_tell x0 (-1) s102 (fun x122 s123 => (Kr x122 s123))))))))
theorem e_X0_back {G : xG} {l : Launch} {g : xH} {d : Nat} {N : tP} (hN : tNs G N) (hd : 12 ≤ d) {x0 : Nat} {x1 : Int32} {k n : Nat} {s : tM} {Kr : Int32 → tM → Prop} (h : v_X0_back N x0 x1 k n s Kr) : xC G l kX0_back d k n [rfv x0, .int x1] (tH G g s) (tQ G g wi Kr tNo) := by
  obtain ⟨d, rfl⟩ : ∃ z, d = z + 1 := ⟨d - 1, by omega⟩
  refine t_start rfl (by decide +kernel) (by simp [xct_i, xct_l, rfv_c]) (lv := [some (rfv x0), some (.int x1)]) (by simp [lv_args, xLv, rfv_c, xct_i, xct_l]) ?_
  unfold v_X0_back at h
  refine x_iload_1 dX0_back_0 ?_
  refine x_i2l dX0_back_1 ?_
  refine x_lconst (v := 0) dX0_back_2 (by decide) ?_
  refine x_lconst (v := 1) dX0_back_3 (by decide) ?_
  refine t_cSi (As := [_, _, _]) rfl cs_X0_5 rfl rfl (xrm4 (Nat.le_of_ble_eq_true rfl)) dX0_back_4 (e_X0_in (by omega) h) ⟨Nat.zero_le _, Nat.zero_le _⟩ (fun _ _ _ h => h.elim) (fun x101 s102 h => ?_)
  refine x_if_ne 16 dX0_back_7 (by decide) (fun c103 => ?_) (fun c103 => ?_)
  · have h := h.1 c103
    refine t_aload_0 dX0_back_16 ?_
    obtain ⟨e104, h⟩ := h
    refine t_getR dX0_back_17 fa_X0_22_0 (by decide) e104 ?_
    refine x_iload_1 dX0_back_20 ?_
    obtain ⟨e105, h⟩ := h
    refine t_aald (t := 4) dX0_back_21 ⟨rfl, by decide, by decide⟩ rfl e105 ?_
    refine t_ifnonnull 32 dX0_back_22 (by decide) (fun c106 => ?_) (fun c106 => ?_)
    · have h := h.1 c106
      refine t_aload_0 dX0_back_32 ?_
      refine t_aload_0 dX0_back_33 ?_
      refine t_getR dX0_back_34 fa_X0_22_0 (by decide) e104 ?_
      refine x_iload_1 dX0_back_37 ?_
      obtain ⟨e107, h⟩ := h
      refine t_aald (t := 4) dX0_back_38 ⟨rfl, by decide, by decide⟩ rfl e107 ?_
      obtain ⟨c110, c111, e112, e113, h⟩ := h
      obtain ⟨e114, h⟩ := h
      refine t_cVr (As := []) rfl cv_X0_441 rfl e114 rfl rfl (xrm4 (Nat.le_of_ble_eq_true rfl)) dX0_back_39 (e_X1_copy hN (by omega) h) ⟨e112, e113⟩ (fun _ _ _ h => h.elim) (fun x108 s109 h => ?_)
      obtain ⟨e115, h⟩ := h
      refine t_putR (j := 0) dX0_back_42 fp_X0_18_0 (by decide) e115 rfl ?_
      refine t_gen h (fun s116 w117 h => ?_)
      refine t_aload_0 dX0_back_45 ?_
      refine x_iconst (v := 0) dX0_back_46 (by decide) ?_
      refine t_cVi (As := [_]) rfl cv_X0_169 rfl (tO_w w117 e115) rfl rfl (xrm4 (Nat.le_of_ble_eq_true rfl)) dX0_back_47 (e_X0_settled (by omega) h) ⟨Nat.zero_le _, Nat.zero_le _⟩ (fun _ _ _ h => h.elim) (fun x118 s119 h => ?_)
      exact x_iret dX0_back_50 rfl (Or.inl ⟨_, _, h, rfl, rfl⟩)
    · have h := h.2 c106
      refine t_aload_0 dX0_back_25 ?_
      refine x_bipush (v := (-2)) dX0_back_26 (by decide) ?_
      refine t_cVi (As := [_]) rfl cv_X0_132 rfl e104 rfl rfl (xrm4 (Nat.le_of_ble_eq_true rfl)) dX0_back_28 (e_X0_tell (by omega) h) ⟨Nat.zero_le _, Nat.zero_le _⟩ (fun _ _ _ h => h.elim) (fun x120 s121 h => ?_)
      exact x_iret dX0_back_31 rfl (Or.inl ⟨_, _, h, rfl, rfl⟩)
  · have h := h.2 c103
    refine t_aload_0 dX0_back_10 ?_
    refine x_iconst (v := (-1)) dX0_back_11 (by decide) ?_
    obtain ⟨e124, h⟩ := h
    refine t_cVi (As := [_]) rfl cv_X0_132 rfl e124 rfl rfl (xrm4 (Nat.le_of_ble_eq_true rfl)) dX0_back_12 (e_X0_tell (by omega) h) ⟨Nat.zero_le _, Nat.zero_le _⟩ (fun _ _ _ h => h.elim) (fun x122 s123 h => ?_)
    exact x_iret dX0_back_15 rfl (Or.inl ⟨_, _, h, rfl, rfl⟩)
def v_X0_isThere (x0 : Nat) (s : tM) (Kr : Int32 → tM → Prop) : Prop :=
  (tO s 0 x0 ∧ (tX s 15 (tR s x0 22) 0 ∧ (tX s 1 (tR s (tR s x0 22) 0) 0 ∧ (((lg_cmp (tJ s (tR s (tR s x0 22) 0) 0) 0) ≤ 0 → (Kr 0 s)) ∧ (¬ (lg_cmp (tJ s (tR s (tR s x0 22) 0) 0) 0) ≤ 0 → (Kr 1 s))))))
theorem e_X0_isThere {G : xG} {l : Launch} {g : xH} {d : Nat} (hd : 2 ≤ d) {x0 : Nat} {s : tM} {Kr : Int32 → tM → Prop} (h : v_X0_isThere x0 s Kr) : xC G l kX0_isThere d 0 0 [rfv x0] (tH G g s) (tQ G g wi Kr tNo) := by
  obtain ⟨d, rfl⟩ : ∃ z, d = z + 1 := ⟨d - 1, by omega⟩
  refine t_start rfl (by decide +kernel) (by simp [xct_i, xct_l, rfv_c]) (lv := [some (rfv x0)]) (by simp [lv_args, xLv, rfv_c, xct_i, xct_l]) ?_
  unfold v_X0_isThere at h
  refine t_aload_0 dX0_isThere_0 ?_
  obtain ⟨e101, h⟩ := h
  refine t_getR dX0_isThere_1 fa_X0_108_0 (by decide) e101 ?_
  refine x_iconst (v := 0) dX0_isThere_4 (by decide) ?_
  obtain ⟨e102, h⟩ := h
  refine t_aald (t := 15) dX0_isThere_5 ⟨rfl, by decide, by decide⟩ rfl e102 ?_
  refine x_iconst (v := 0) dX0_isThere_6 (by decide) ?_
  obtain ⟨e103, h⟩ := h
  refine t_lald dX0_isThere_7 e103 ?_
  refine x_lconst (v := 0) dX0_isThere_8 (by decide) ?_
  refine x_lcmp dX0_isThere_9 ?_
  refine x_if_le 17 dX0_isThere_10 (by decide) (fun c104 => ?_) (fun c104 => ?_)
  · have h := h.1 c104
    refine x_iconst (v := 0) dX0_isThere_17 (by decide) ?_
    exact x_zret0 dX0_isThere_18 rfl (Or.inl ⟨_, _, h, rfl, rfl⟩)
  · have h := h.2 c104
    refine x_iconst (v := 1) dX0_isThere_13 (by decide) ?_
    refine x_goto 18 dX0_isThere_14 (by decide) ?_
    exact x_zret1 dX0_isThere_18 rfl (Or.inl ⟨_, _, h, rfl, rfl⟩)
def v_X0_layNote_62 (N : tP) (x0 : Nat) (x1 : Int32) (x2 : Int32) (x3 : Int32) (x4 : Int32) (y0 : Nat) (y1 : Int32) (y2 : Int32) (Kr : tM → Prop) (K : tM → Prop) (R : Int32 → tM → Prop) (s : tM) : Prop :=
  (tX s 3 y0 y1 ∧ (∀ s102 : tM, s102 = tsI s y0 y1.toNatClampNeg (vp_nar .boolean y2) → ((x2 = 0 → (∀ x105 : Int32, x105 = x4 + 1 → (R x105 s102))) ∧ (¬ x2 = 0 → (tO s102 0 x0 ∧ (tX s102 13 (tR s102 x0 16) x1 ∧ (tX s102 12 (tR s102 (tR s102 x0 16) x1.toNatClampNeg) (x3 + 1) ∧ (tX s102 3 (tR s102 (tR s102 (tR s102 x0 16) x1.toNatClampNeg) (x3 + 1).toNatClampNeg) x4 ∧ ((¬ (tI s102 (tR s102 (tR s102 (tR s102 x0 16) x1.toNatClampNeg) (x3 + 1).toNatClampNeg) x4.toNatClampNeg) = 0 → (tX s102 14 (tR s102 x0 17) x1 ∧ (tX s102 11 (tR s102 (tR s102 x0 17) x1.toNatClampNeg) (x3 + 1) ∧ (v_X0_costs N x0 x1 x4 x3 s102 (fun x113 s114 => (tX s114 0 (tR s102 (tR s102 (tR s102 x0 17) x1.toNatClampNeg) (x3 + 1).toNatClampNeg) x4 ∧ (∀ s116 : tM, s116 = tsI s114 (tR s102 (tR s102 (tR s102 x0 17) x1.toNatClampNeg) (x3 + 1).toNatClampNeg) x4.toNatClampNeg x113 → (tO s116 0 x0 ∧ (tX s116 14 (tR s116 x0 18) x1 ∧ (tX s116 11 (tR s116 (tR s116 x0 18) x1.toNatClampNeg) (x3 + 1) ∧ (v_X0_earns N x0 x1 x4 x3 s116 (fun x121 s122 => (tX s122 0 (tR s116 (tR s116 (tR s116 x0 18) x1.toNatClampNeg) (x3 + 1).toNatClampNeg) x4 ∧ (∀ s124 : tM, s124 = tsI s122 (tR s116 (tR s116 (tR s116 x0 18) x1.toNatClampNeg) (x3 + 1).toNatClampNeg) x4.toNatClampNeg x121 → (∀ x126 : Int32, x126 = x4 + 1 → (R x126 s124)))))))))))))))) ∧ ((tI s102 (tR s102 (tR s102 (tR s102 x0 16) x1.toNatClampNeg) (x3 + 1).toNatClampNeg) x4.toNatClampNeg) = 0 → (∀ x127 : Int32, x127 = x4 + 1 → (R x127 s102))))))))))))
theorem e_X0_layNote_62 {G : xG} {l : Launch} {g : xH} {d : Nat} {N : tP} (hN : tNs G N) (hd : 2 * N.2.1 + 17 ≤ d) (x0 : Nat) (x1 : Int32) (x2 : Int32) (x3 : Int32) (x4 : Int32) (y0 : Nat) (y1 : Int32) (y2 : Int32) (Kr : tM → Prop) (K : tM → Prop) (R : Int32 → tM → Prop) (s : tM) (h : v_X0_layNote_62 N x0 x1 x2 x3 x4 y0 y1 y2 Kr K R s) (hK : ∀ (s : tM), K s → xF G l kX0_layNote (d + 1) 0 0 (tQ G g wu (fun _ => Kr) tNo) 134 [some (rfv x0), some (.int x1), some (.int x2), some (.int x3), none] [] (tH G g s)) (hR : ∀ (z4 : Int32) (s : tM), R z4 s → xF G l kX0_layNote (d + 1) 0 0 (tQ G g wu (fun _ => Kr) tNo) 27 [some (rfv x0), some (.int x1), some (.int x2), some (.int x3), some (.int z4)] [] (tH G g s)) : xF G l kX0_layNote (d + 1) 0 0 (tQ G g wu (fun _ => Kr) tNo) 62 [some (rfv x0), some (.int x1), some (.int x2), some (.int x3), some (.int x4)] [.int y2, .int y1, rfv y0] (tH G g s) := by
  unfold v_X0_layNote_62 at h
  obtain ⟨e101, h⟩ := h
  refine t_zast dX0_layNote_62 e101 ?_
  refine t_gen h (fun s102 w103 h => ?_)
  refine x_iload_2 dX0_layNote_63 ?_
  refine x_if_eq 128 dX0_layNote_64 (by decide) (fun c104 => ?_) (fun c104 => ?_)
  · have h := h.1 c104
    refine x_iinc_4 (v := 1) dX0_layNote_128 (by decide) (by decide) xN2_i ?_
    have h := h _ rfl
    refine x_goto 27 dX0_layNote_131 (by decide) ?_
    exact x_le (xLe_cons (xLe_cons (xLe_cons (xLe_cons (xLe_cons (xLe_nil)))))) (hR _ _ h)
  · have h := h.2 c104
    refine t_aload_0 dX0_layNote_67 ?_
    obtain ⟨e106, h⟩ := h
    refine t_getR dX0_layNote_68 fa_X0_84_0 (by decide) e106 ?_
    refine x_iload_1 dX0_layNote_71 ?_
    obtain ⟨e107, h⟩ := h
    refine t_aald (t := 13) dX0_layNote_72 ⟨rfl, by decide, by decide⟩ rfl e107 ?_
    refine x_iload_3 dX0_layNote_73 ?_
    refine x_iconst (v := 1) dX0_layNote_74 (by decide) ?_
    refine x_iadd dX0_layNote_75 ?_
    obtain ⟨e108, h⟩ := h
    refine t_aald (t := 12) dX0_layNote_76 ⟨rfl, by decide, by decide⟩ rfl e108 ?_
    refine x_iload_4 dX0_layNote_77 ?_
    obtain ⟨e109, h⟩ := h
    refine t_zald dX0_layNote_79 e109 ?_
    refine x_if_ne 86 dX0_layNote_80 (by decide) (fun c110 => ?_) (fun c110 => ?_)
    · have h := h.1 c110
      refine t_aload_0 dX0_layNote_86 ?_
      refine t_getR dX0_layNote_87 fa_X0_89_0 (by decide) e106 ?_
      refine x_iload_1 dX0_layNote_90 ?_
      obtain ⟨e111, h⟩ := h
      refine t_aald (t := 14) dX0_layNote_91 ⟨rfl, by decide, by decide⟩ rfl e111 ?_
      refine x_iload_3 dX0_layNote_92 ?_
      refine x_iconst (v := 1) dX0_layNote_93 (by decide) ?_
      refine x_iadd dX0_layNote_94 ?_
      obtain ⟨e112, h⟩ := h
      refine t_aald (t := 11) dX0_layNote_95 ⟨rfl, by decide, by decide⟩ rfl e112 ?_
      refine x_iload_4 dX0_layNote_96 ?_
      refine t_aload_0 dX0_layNote_98 ?_
      refine x_iload_1 dX0_layNote_99 ?_
      refine x_iload_4 dX0_layNote_100 ?_
      refine x_iload_3 dX0_layNote_102 ?_
      refine t_cVi (As := [_, _, _]) rfl cv_X0_289 rfl e106 rfl rfl (xrm4 (Nat.le_of_ble_eq_true rfl)) dX0_layNote_103 (e_X0_costs hN (by omega) h) ⟨Nat.zero_le _, Nat.zero_le _⟩ (fun _ _ _ h => h.elim) (fun x113 s114 h => ?_)
      obtain ⟨e115, h⟩ := h
      refine t_iast dX0_layNote_106 e115 ?_
      refine t_gen h (fun s116 w117 h => ?_)
      refine t_aload_0 dX0_layNote_107 ?_
      obtain ⟨e118, h⟩ := h
      refine t_getR dX0_layNote_108 fa_X0_92_0 (by decide) e118 ?_
      refine x_iload_1 dX0_layNote_111 ?_
      obtain ⟨e119, h⟩ := h
      refine t_aald (t := 14) dX0_layNote_112 ⟨rfl, by decide, by decide⟩ rfl e119 ?_
      refine x_iload_3 dX0_layNote_113 ?_
      refine x_iconst (v := 1) dX0_layNote_114 (by decide) ?_
      refine x_iadd dX0_layNote_115 ?_
      obtain ⟨e120, h⟩ := h
      refine t_aald (t := 11) dX0_layNote_116 ⟨rfl, by decide, by decide⟩ rfl e120 ?_
      refine x_iload_4 dX0_layNote_117 ?_
      refine t_aload_0 dX0_layNote_119 ?_
      refine x_iload_1 dX0_layNote_120 ?_
      refine x_iload_4 dX0_layNote_121 ?_
      refine x_iload_3 dX0_layNote_123 ?_
      refine t_cVi (As := [_, _, _]) rfl cv_X0_293 rfl e118 rfl rfl (xrm4 (Nat.le_of_ble_eq_true rfl)) dX0_layNote_124 (e_X0_earns hN (by omega) h) ⟨Nat.zero_le _, Nat.zero_le _⟩ (fun _ _ _ h => h.elim) (fun x121 s122 h => ?_)
      obtain ⟨e123, h⟩ := h
      refine t_iast dX0_layNote_127 e123 ?_
      refine t_gen h (fun s124 w125 h => ?_)
      refine x_iinc_4 (v := 1) dX0_layNote_128 (by decide) (by decide) xN2_i ?_
      have h := h _ rfl
      refine x_goto 27 dX0_layNote_131 (by decide) ?_
      exact x_le (xLe_cons (xLe_cons (xLe_cons (xLe_cons (xLe_cons (xLe_nil)))))) (hR _ _ h)
    · have h := h.2 c110
      refine x_goto 128 dX0_layNote_83 (by decide) ?_
      refine x_iinc_4 (v := 1) dX0_layNote_128 (by decide) (by decide) xN2_i ?_
      have h := h _ rfl
      refine x_goto 27 dX0_layNote_131 (by decide) ?_
      exact x_le (xLe_cons (xLe_cons (xLe_cons (xLe_cons (xLe_cons (xLe_nil)))))) (hR _ _ h)
def v_X0_layNote_27 (N : tP) (x0 : Nat) (x1 : Int32) (x2 : Int32) (x3 : Int32) (Kr : tM → Prop) (K : tM → Prop) : Nat → Int32 → tM → Prop
  | 0, _, _ => False
  | t + 1, x4, s => ((25 ≤ x4 → (K s)) ∧ (¬ 25 ≤ x4 → (tO s 0 x0 ∧ (tX s 13 (tR s x0 16) x1 ∧ (tX s 12 (tR s (tR s x0 16) x1.toNatClampNeg) (x3 + 1) ∧ (v_X0_isBarred N x0 x1 x4 x3 s (fun x105 s106 => ((¬ x105 = 0 → (v_X0_layNote_62 N x0 x1 x2 x3 x4 (tR s (tR s (tR s x0 16) x1.toNatClampNeg) (x3 + 1).toNatClampNeg) x4 0 Kr K (fun x4 s => v_X0_layNote_27 N x0 x1 x2 x3 Kr K t x4 s) s106)) ∧ (x105 = 0 → (v_X0_layNote_62 N x0 x1 x2 x3 x4 (tR s (tR s (tR s x0 16) x1.toNatClampNeg) (x3 + 1).toNatClampNeg) x4 1 Kr K (fun x4 s => v_X0_layNote_27 N x0 x1 x2 x3 Kr K t x4 s) s106))))))))))
theorem e_X0_layNote_27 {G : xG} {l : Launch} {g : xH} {d : Nat} {N : tP} (hN : tNs G N) (hd : 2 * N.2.1 + 17 ≤ d) (x0 : Nat) (x1 : Int32) (x2 : Int32) (x3 : Int32) (Kr : tM → Prop) (K : tM → Prop) : ∀ (t : Nat) (x4 : Int32) (s : tM) , v_X0_layNote_27 N x0 x1 x2 x3 Kr K t x4 s → (∀ (s : tM), K s → xF G l kX0_layNote (d + 1) 0 0 (tQ G g wu (fun _ => Kr) tNo) 134 [some (rfv x0), some (.int x1), some (.int x2), some (.int x3), none] [] (tH G g s)) → xF G l kX0_layNote (d + 1) 0 0 (tQ G g wu (fun _ => Kr) tNo) 27 [some (rfv x0), some (.int x1), some (.int x2), some (.int x3), some (.int x4)] [] (tH G g s) := by
  intro t
  induction t with
  | zero =>
    intro _ _ h _
    exact absurd h (by simp [v_X0_layNote_27])
  | succ t ih =>
    intro x4 s h hK
    have hR := fun x4 s h => ih x4 s h hK
    unfold v_X0_layNote_27 at h
    refine x_iload_4 dX0_layNote_27 ?_
    refine x_bipush (v := 25) dX0_layNote_29 (by decide) ?_
    refine x_icmp_ge 134 dX0_layNote_31 (by decide) (fun c101 => ?_) (fun c101 => ?_)
    · have h := h.1 c101
      exact x_le (xLe_cons (xLe_cons (xLe_cons (xLe_cons (xLe_none (xLe_nil)))))) (hK _ h)
    · have h := h.2 c101
      refine t_aload_0 dX0_layNote_34 ?_
      obtain ⟨e102, h⟩ := h
      refine t_getR dX0_layNote_35 fa_X0_84_0 (by decide) e102 ?_
      refine x_iload_1 dX0_layNote_38 ?_
      obtain ⟨e103, h⟩ := h
      refine t_aald (t := 13) dX0_layNote_39 ⟨rfl, by decide, by decide⟩ rfl e103 ?_
      refine x_iload_3 dX0_layNote_40 ?_
      refine x_iconst (v := 1) dX0_layNote_41 (by decide) ?_
      refine x_iadd dX0_layNote_42 ?_
      obtain ⟨e104, h⟩ := h
      refine t_aald (t := 12) dX0_layNote_43 ⟨rfl, by decide, by decide⟩ rfl e104 ?_
      refine x_iload_4 dX0_layNote_44 ?_
      refine t_aload_0 dX0_layNote_46 ?_
      refine x_iload_1 dX0_layNote_47 ?_
      refine x_iload_4 dX0_layNote_48 ?_
      refine x_iload_3 dX0_layNote_50 ?_
      refine t_cVi (As := [_, _, _]) rfl cv_X0_296 rfl e102 rfl rfl (xrm4 (Nat.le_of_ble_eq_true rfl)) dX0_layNote_51 (e_X0_isBarred hN (by omega) h) ⟨Nat.zero_le _, Nat.zero_le _⟩ (fun _ _ _ h => h.elim) (fun x105 s106 h => ?_)
      refine x_if_ne 61 dX0_layNote_54 (by decide) (fun c107 => ?_) (fun c107 => ?_)
      · have h := h.1 c107
        refine x_iconst (v := 0) dX0_layNote_61 (by decide) ?_
        exact x_le (xLe_cons (xLe_cons (xLe_cons (xLe_cons (xLe_cons (xLe_nil)))))) (e_X0_layNote_62 hN (by omega) _ _ _ _ _ _ _ _ _ _ _ _ h hK hR)
      · have h := h.2 c107
        refine x_iconst (v := 1) dX0_layNote_57 (by decide) ?_
        refine x_goto 62 dX0_layNote_58 (by decide) ?_
        exact x_le (xLe_cons (xLe_cons (xLe_cons (xLe_cons (xLe_cons (xLe_nil)))))) (e_X0_layNote_62 hN (by omega) _ _ _ _ _ _ _ _ _ _ _ _ h hK hR)
def v_X0_layNote_21 (N : tP) (x0 : Nat) (x1 : Int32) (x2 : Int32) (x3 : Int32) (y0 : Int32) (y1 : Int32) (Kr : tM → Prop) (K : tM → Prop) (R : Int32 → tM → Prop) (s : tM) : Prop :=
  ((y1 < y0 → (K s)) ∧ (¬ y1 < y0 → (v_X0_layNote_27 N x0 x1 x2 x3 Kr (fun s102 => (∀ x103 : Int32, x103 = x3 + 1 → (R x103 s102))) N.1 0 s)))
theorem e_X0_layNote_21 {G : xG} {l : Launch} {g : xH} {d : Nat} {N : tP} (hN : tNs G N) (hd : 2 * N.2.1 + 17 ≤ d) (x0 : Nat) (x1 : Int32) (x2 : Int32) (x3 : Int32) (y0 : Int32) (y1 : Int32) (Kr : tM → Prop) (K : tM → Prop) (R : Int32 → tM → Prop) (s : tM) (h : v_X0_layNote_21 N x0 x1 x2 x3 y0 y1 Kr K R s) (hK : ∀ (s : tM), K s → xF G l kX0_layNote (d + 1) 0 0 (tQ G g wu (fun _ => Kr) tNo) 140 [none, none, none, none, none] [] (tH G g s)) (hR : ∀ (z3 : Int32) (s : tM), R z3 s → xF G l kX0_layNote (d + 1) 0 0 (tQ G g wu (fun _ => Kr) tNo) 10 [some (rfv x0), some (.int x1), some (.int x2), some (.int z3), none] [] (tH G g s)) : xF G l kX0_layNote (d + 1) 0 0 (tQ G g wu (fun _ => Kr) tNo) 21 [some (rfv x0), some (.int x1), some (.int x2), some (.int x3), none] [.int y1, .int y0] (tH G g s) := by
  unfold v_X0_layNote_21 at h
  refine x_icmp_gt 140 dX0_layNote_21 (by decide) (fun c101 => ?_) (fun c101 => ?_)
  · have h := h.1 c101
    exact x_le (xLe_none (xLe_none (xLe_none (xLe_none (xLe_cons (xLe_nil)))))) (hK _ h)
  · have h := h.2 c101
    refine x_iconst (v := 0) dX0_layNote_24 (by decide) ?_
    refine x_istore_4 dX0_layNote_25 (by decide) xN2_i ?_
    refine x_le (xLe_cons (xLe_cons (xLe_cons (xLe_cons (xLe_cons (xLe_nil)))))) (e_X0_layNote_27 hN (by omega) _ _ _ _ _ _  _ _ _ h (fun s102 h => ?_))
    refine x_iinc_3 (v := 1) dX0_layNote_134 (by decide) (by decide) xN2_i ?_
    have h := h _ rfl
    refine x_goto 10 dX0_layNote_137 (by decide) ?_
    exact x_le (xLe_cons (xLe_cons (xLe_cons (xLe_cons (xLe_cons (xLe_nil)))))) (hR _ _ h)
def v_X0_layNote_10 (N : tP) (x0 : Nat) (x1 : Int32) (x2 : Int32) (Kr : tM → Prop) (K : tM → Prop) : Nat → Int32 → tM → Prop
  | 0, _, _ => False
  | t + 1, x3, s => ((¬ x1 = 0 → (v_X0_layNote_21 N x0 x1 x2 x3 x3 24 Kr K (fun x3 s => v_X0_layNote_10 N x0 x1 x2 Kr K t x3 s) s)) ∧ (x1 = 0 → (v_X0_layNote_21 N x0 x1 x2 x3 x3 (-1) Kr K (fun x3 s => v_X0_layNote_10 N x0 x1 x2 Kr K t x3 s) s)))
theorem e_X0_layNote_10 {G : xG} {l : Launch} {g : xH} {d : Nat} {N : tP} (hN : tNs G N) (hd : 2 * N.2.1 + 17 ≤ d) (x0 : Nat) (x1 : Int32) (x2 : Int32) (Kr : tM → Prop) (K : tM → Prop) : ∀ (t : Nat) (x3 : Int32) (s : tM) , v_X0_layNote_10 N x0 x1 x2 Kr K t x3 s → (∀ (s : tM), K s → xF G l kX0_layNote (d + 1) 0 0 (tQ G g wu (fun _ => Kr) tNo) 140 [none, none, none, none, none] [] (tH G g s)) → xF G l kX0_layNote (d + 1) 0 0 (tQ G g wu (fun _ => Kr) tNo) 10 [some (rfv x0), some (.int x1), some (.int x2), some (.int x3), none] [] (tH G g s) := by
  intro t
  induction t with
  | zero =>
    intro _ _ h _
    exact absurd h (by simp [v_X0_layNote_10])
  | succ t ih =>
    intro x3 s h hK
    have hR := fun x3 s h => ih x3 s h hK
    unfold v_X0_layNote_10 at h
    refine x_iload_3 dX0_layNote_10 ?_
    refine x_iload_1 dX0_layNote_11 ?_
    refine x_if_ne 19 dX0_layNote_12 (by decide) (fun c101 => ?_) (fun c101 => ?_)
    · have h := h.1 c101
      refine x_bipush (v := 24) dX0_layNote_19 (by decide) ?_
      exact x_le (xLe_cons (xLe_cons (xLe_cons (xLe_cons (xLe_cons (xLe_nil)))))) (e_X0_layNote_21 hN (by omega) _ _ _ _ _ _ _ _ _ _ h hK hR)
    · have h := h.2 c101
      refine x_iconst (v := (-1)) dX0_layNote_15 (by decide) ?_
      refine x_goto 21 dX0_layNote_16 (by decide) ?_
      exact x_le (xLe_cons (xLe_cons (xLe_cons (xLe_cons (xLe_cons (xLe_nil)))))) (e_X0_layNote_21 hN (by omega) _ _ _ _ _ _ _ _ _ _ h hK hR)
def v_X0_layNote_9 (N : tP) (x0 : Nat) (x1 : Int32) (x2 : Int32) (y0 : Int32) (Kr : tM → Prop) (s : tM) : Prop :=
  (v_X0_layNote_10 N x0 x1 x2 Kr (fun s101 => (Kr s101)) N.1 y0 s)
theorem e_X0_layNote_9 {G : xG} {l : Launch} {g : xH} {d : Nat} {N : tP} (hN : tNs G N) (hd : 2 * N.2.1 + 17 ≤ d) (x0 : Nat) (x1 : Int32) (x2 : Int32) (y0 : Int32) (Kr : tM → Prop) (s : tM) (h : v_X0_layNote_9 N x0 x1 x2 y0 Kr s) : xF G l kX0_layNote (d + 1) 0 0 (tQ G g wu (fun _ => Kr) tNo) 9 [some (rfv x0), some (.int x1), some (.int x2), none, none] [.int y0] (tH G g s) := by
  unfold v_X0_layNote_9 at h
  refine x_istore_3 dX0_layNote_9 (by decide) xN2_i ?_
  refine x_le (xLe_cons (xLe_cons (xLe_cons (xLe_cons (xLe_cons (xLe_nil)))))) (e_X0_layNote_10 hN (by omega) _ _ _ _ _  _ _ _ h (fun s101 h => ?_))
  exact x_vret dX0_layNote_140 rfl (Or.inl ⟨(), _, h, rfl, rfl⟩)
def v_X0_layNote (N : tP) (x0 : Nat) (x1 : Int32) (x2 : Int32) (s : tM) (Kr : tM → Prop) : Prop :=
  ((¬ x1 = 0 → (v_X0_layNote_9 N x0 x1 x2 0 Kr s)) ∧ (x1 = 0 → (v_X0_layNote_9 N x0 x1 x2 (-1) Kr s)))
theorem e_X0_layNote {G : xG} {l : Launch} {g : xH} {d : Nat} {N : tP} (hN : tNs G N) (hd : 2 * N.2.1 + 18 ≤ d) {x0 : Nat} {x1 : Int32} {x2 : Int32} {s : tM} {Kr : tM → Prop} (h : v_X0_layNote N x0 x1 x2 s Kr) : xC G l kX0_layNote d 0 0 [rfv x0, .int x1, .int x2] (tH G g s) (tQ G g wu (fun _ => Kr) tNo) := by
  obtain ⟨d, rfl⟩ : ∃ z, d = z + 1 := ⟨d - 1, by omega⟩
  refine t_start rfl (by decide +kernel) (by simp [xct_i, xct_l, rfv_c]) (lv := [some (rfv x0), some (.int x1), some (.int x2), none, none]) (by simp [lv_args, xLv, rfv_c, xct_i, xct_l]) ?_
  unfold v_X0_layNote at h
  refine x_iload_1 dX0_layNote_0 ?_
  refine x_if_ne 8 dX0_layNote_1 (by decide) (fun c101 => ?_) (fun c101 => ?_)
  · have h := h.1 c101
    refine x_iconst (v := 0) dX0_layNote_8 (by decide) ?_
    exact x_le (xLe_cons (xLe_cons (xLe_cons (xLe_cons (xLe_cons (xLe_nil)))))) (e_X0_layNote_9 hN (by omega) _ _ _ _ _ _ h)
  · have h := h.2 c101
    refine x_iconst (v := (-1)) dX0_layNote_4 (by decide) ?_
    refine x_goto 9 dX0_layNote_5 (by decide) ?_
    exact x_le (xLe_cons (xLe_cons (xLe_cons (xLe_cons (xLe_cons (xLe_nil)))))) (e_X0_layNote_9 hN (by omega) _ _ _ _ _ _ h)
def v_X0_layNotes_2 (N : tP) (x0 : Nat) (x1 : Int32) (Kr : tM → Prop) (K : tM → Prop) : Nat → Int32 → tM → Prop
  | 0, _, _ => False
  | t + 1, x2, s => (tO s 0 x0 ∧ (v_X0_nNotes x0 s (fun x101 s102 => ((x101 ≤ x2 → (K s102)) ∧ (¬ x101 ≤ x2 → (tO s102 0 x0 ∧ (v_X0_layNote N x0 x2 x1 s102 (fun s106 => (∀ x108 : Int32, x108 = x2 + 1 → ((fun x2 s => v_X0_layNotes_2 N x0 x1 Kr K t x2 s) x108 s106))))))))))
theorem e_X0_layNotes_2 {G : xG} {l : Launch} {g : xH} {d : Nat} {N : tP} (hN : tNs G N) (hd : 2 * N.2.1 + 19 ≤ d) (x0 : Nat) (x1 : Int32) (Kr : tM → Prop) (K : tM → Prop) : ∀ (t : Nat) (x2 : Int32) (s : tM) , v_X0_layNotes_2 N x0 x1 Kr K t x2 s → (∀ (s : tM), K s → xF G l kX0_layNotes (d + 1) 0 0 (tQ G g wu (fun _ => Kr) tNo) 22 [none, none, none] [] (tH G g s)) → xF G l kX0_layNotes (d + 1) 0 0 (tQ G g wu (fun _ => Kr) tNo) 2 [some (rfv x0), some (.int x1), some (.int x2)] [] (tH G g s) := by
  intro t
  induction t with
  | zero =>
    intro _ _ h _
    exact absurd h (by simp [v_X0_layNotes_2])
  | succ t ih =>
    intro x2 s h hK
    have hR := fun x2 s h => ih x2 s h hK
    unfold v_X0_layNotes_2 at h
    refine x_iload_2 dX0_layNotes_2 ?_
    refine t_aload_0 dX0_layNotes_3 ?_
    obtain ⟨e103, h⟩ := h
    refine t_cVi (As := []) rfl cv_X0_142 rfl e103 rfl rfl (xrm4 (Nat.le_of_ble_eq_true rfl)) dX0_layNotes_4 (e_X0_nNotes (by omega) h) ⟨Nat.zero_le _, Nat.zero_le _⟩ (fun _ _ _ h => h.elim) (fun x101 s102 h => ?_)
    refine x_icmp_ge 22 dX0_layNotes_7 (by decide) (fun c104 => ?_) (fun c104 => ?_)
    · have h := h.1 c104
      exact x_le (xLe_none (xLe_none (xLe_none (xLe_nil)))) (hK _ h)
    · have h := h.2 c104
      refine t_aload_0 dX0_layNotes_10 ?_
      refine x_iload_2 dX0_layNotes_11 ?_
      refine x_iload_1 dX0_layNotes_12 ?_
      obtain ⟨e107, h⟩ := h
      refine t_cVv (As := [_, _]) rfl cv_X0_336 rfl e107 rfl rfl (xrm4 (Nat.le_of_ble_eq_true rfl)) dX0_layNotes_13 (e_X0_layNote hN (by omega) h) ⟨Nat.zero_le _, Nat.zero_le _⟩ (fun _ _ _ h => h.elim) (fun _ s106 h => ?_)
      refine x_iinc_2 (v := 1) dX0_layNotes_16 (by decide) (by decide) xN2_i ?_
      have h := h _ rfl
      refine x_goto 2 dX0_layNotes_19 (by decide) ?_
      exact x_le (xLe_cons (xLe_cons (xLe_cons (xLe_nil)))) (hR _ _ h)
def v_X0_layNotes (N : tP) (x0 : Nat) (x1 : Int32) (s : tM) (Kr : tM → Prop) : Prop :=
  (v_X0_layNotes_2 N x0 x1 Kr (fun s101 => (Kr s101)) N.1 0 s)
theorem e_X0_layNotes {G : xG} {l : Launch} {g : xH} {d : Nat} {N : tP} (hN : tNs G N) (hd : 2 * N.2.1 + 20 ≤ d) {x0 : Nat} {x1 : Int32} {s : tM} {Kr : tM → Prop} (h : v_X0_layNotes N x0 x1 s Kr) : xC G l kX0_layNotes d 0 0 [rfv x0, .int x1] (tH G g s) (tQ G g wu (fun _ => Kr) tNo) := by
  obtain ⟨d, rfl⟩ : ∃ z, d = z + 1 := ⟨d - 1, by omega⟩
  refine t_start rfl (by decide +kernel) (by simp [xct_i, xct_l, rfv_c]) (lv := [some (rfv x0), some (.int x1), none]) (by simp [lv_args, xLv, rfv_c, xct_i, xct_l]) ?_
  unfold v_X0_layNotes at h
  refine x_iconst (v := 0) dX0_layNotes_0 (by decide) ?_
  refine x_istore_2 dX0_layNotes_1 (by decide) xN2_i ?_
  refine x_le (xLe_cons (xLe_cons (xLe_cons (xLe_nil)))) (e_X0_layNotes_2 hN (by omega) _ _ _ _  _ _ _ h (fun s101 h => ?_))
  exact x_vret dX0_layNotes_22 rfl (Or.inl ⟨(), _, h, rfl, rfl⟩)
def v_X0_differs (x0 : Nat) (x1 : Int32) (x2 : Int32) (s : tM) (Kr : Int32 → tM → Prop) : Prop :=
  (tO s 0 x0 ∧ (v_X0_books x0 s (fun x101 s102 => (tO s102 2 x101 ∧ (tX s102 0 (tR s102 x101 1) x1 ∧ ((¬ (tI s102 (tR s102 x101 1) x1.toNatClampNeg) = x2 → (Kr 1 s102)) ∧ ((tI s102 (tR s102 x101 1) x1.toNatClampNeg) = x2 → (Kr 0 s102))))))))
theorem e_X0_differs {G : xG} {l : Launch} {g : xH} {d : Nat} (hd : 4 ≤ d) {x0 : Nat} {x1 : Int32} {x2 : Int32} {s : tM} {Kr : Int32 → tM → Prop} (h : v_X0_differs x0 x1 x2 s Kr) : xC G l kX0_differs d 0 0 [rfv x0, .int x1, .int x2] (tH G g s) (tQ G g wi Kr tNo) := by
  obtain ⟨d, rfl⟩ : ∃ z, d = z + 1 := ⟨d - 1, by omega⟩
  refine t_start rfl (by decide +kernel) (by simp [xct_i, xct_l, rfv_c]) (lv := [some (rfv x0), some (.int x1), some (.int x2)]) (by simp [lv_args, xLv, rfv_c, xct_i, xct_l]) ?_
  unfold v_X0_differs at h
  refine t_aload_0 dX0_differs_0 ?_
  obtain ⟨e103, h⟩ := h
  refine t_cVr (As := []) rfl cv_X0_157 rfl e103 rfl rfl (xrm4 (Nat.le_of_ble_eq_true rfl)) dX0_differs_1 (e_X0_books (by omega) h) ⟨Nat.zero_le _, Nat.zero_le _⟩ (fun _ _ _ h => h.elim) (fun x101 s102 h => ?_)
  obtain ⟨e104, h⟩ := h
  refine t_getR dX0_differs_4 fa_X0_163_2 (by decide) e104 ?_
  refine x_iload_1 dX0_differs_7 ?_
  obtain ⟨e105, h⟩ := h
  refine t_iald dX0_differs_8 e105 ?_
  refine x_iload_2 dX0_differs_9 ?_
  refine x_icmp_ne 17 dX0_differs_10 (by decide) (fun c106 => ?_) (fun c106 => ?_)
  · have h := h.1 c106
    refine x_iconst (v := 1) dX0_differs_17 (by decide) ?_
    exact x_iret dX0_differs_18 rfl (Or.inl ⟨_, _, h, rfl, rfl⟩)
  · have h := h.2 c106
    refine x_iconst (v := 0) dX0_differs_13 (by decide) ?_
    refine x_goto 18 dX0_differs_14 (by decide) ?_
    exact x_iret dX0_differs_18 rfl (Or.inl ⟨_, _, h, rfl, rfl⟩)
def v_X0_layFrom_45 (N : tP) (x0 : Nat) (x1 : Int32) (x2 : Int32) (x4 : Int32) (Kr : tM → Prop) (K : tM → Prop) : Nat → Int32 → tM → Prop
  | 0, _, _ => False
  | t + 1, x5, s => ((x4 < x5 → (K s)) ∧ (¬ x4 < x5 → (tO s 0 x0 ∧ (tX s 13 (tR s x0 16) x1 ∧ (tX s 12 (tR s (tR s x0 16) x1.toNatClampNeg) x2 ∧ (tX s 3 (tR s (tR s (tR s x0 16) x1.toNatClampNeg) x2.toNatClampNeg) x5 ∧ (((tI s (tR s (tR s (tR s x0 16) x1.toNatClampNeg) x2.toNatClampNeg) x5.toNatClampNeg) = 0 → (∀ x107 : Int32, x107 = x5 + 1 → ((fun x5 s => v_X0_layFrom_45 N x0 x1 x2 x4 Kr K t x5 s) x107 s))) ∧ (¬ (tI s (tR s (tR s (tR s x0 16) x1.toNatClampNeg) x2.toNatClampNeg) x5.toNatClampNeg) = 0 → (tX s 15 (tR s x0 22) (x1 + 1) ∧ (tX s 1 (tR s (tR s x0 22) (x1 + 1).toNatClampNeg) (x5 + 1) ∧ ((¬ (lg_cmp (tJ s (tR s (tR s x0 22) (x1 + 1).toNatClampNeg) (x5 + 1).toNatClampNeg) 0) = 0 → (tX s 11 (tR s x0 19) x1 ∧ (tX s 11 (tR s x0 19) x1 ∧ (tX s 0 (tR s (tR s x0 19) x1.toNatClampNeg) x2 ∧ (tX s 14 (tR s x0 17) x1 ∧ (tX s 11 (tR s (tR s x0 17) x1.toNatClampNeg) x2 ∧ (tX s 0 (tR s (tR s (tR s x0 17) x1.toNatClampNeg) x2.toNatClampNeg) x5 ∧ (tX s 11 (tR s x0 19) (x1 + 1) ∧ (tX s 0 (tR s (tR s x0 19) (x1 + 1).toNatClampNeg) (x5 + 1) ∧ (∀ x119 : Int32, x119 = (if ((tI s (tR s (tR s (tR s x0 17) x1.toNatClampNeg) x2.toNatClampNeg) x5.toNatClampNeg) + (tI s (tR s (tR s x0 19) (x1 + 1).toNatClampNeg) (x5 + 1).toNatClampNeg)) < (tI s (tR s (tR s x0 19) x1.toNatClampNeg) x2.toNatClampNeg) then ((tI s (tR s (tR s (tR s x0 17) x1.toNatClampNeg) x2.toNatClampNeg) x5.toNatClampNeg) + (tI s (tR s (tR s x0 19) (x1 + 1).toNatClampNeg) (x5 + 1).toNatClampNeg)) else (tI s (tR s (tR s x0 19) x1.toNatClampNeg) x2.toNatClampNeg)) → (tX s 0 (tR s (tR s x0 19) x1.toNatClampNeg) x2 ∧ (∀ s121 : tM, s121 = tsI s (tR s (tR s x0 19) x1.toNatClampNeg) x2.toNatClampNeg x119 → (tX s121 11 (tR s121 x0 20) x1 ∧ (tX s121 11 (tR s121 x0 20) x1 ∧ (tX s121 0 (tR s121 (tR s121 x0 20) x1.toNatClampNeg) x2 ∧ (tX s121 14 (tR s121 x0 18) x1 ∧ (tX s121 11 (tR s121 (tR s121 x0 18) x1.toNatClampNeg) x2 ∧ (tX s121 0 (tR s121 (tR s121 (tR s121 x0 18) x1.toNatClampNeg) x2.toNatClampNeg) x5 ∧ (tX s121 11 (tR s121 x0 20) (x1 + 1) ∧ (tX s121 0 (tR s121 (tR s121 x0 20) (x1 + 1).toNatClampNeg) (x5 + 1) ∧ (∀ x131 : Int32, x131 = (if (tI s121 (tR s121 (tR s121 x0 20) x1.toNatClampNeg) x2.toNatClampNeg) < ((tI s121 (tR s121 (tR s121 (tR s121 x0 18) x1.toNatClampNeg) x2.toNatClampNeg) x5.toNatClampNeg) + (tI s121 (tR s121 (tR s121 x0 20) (x1 + 1).toNatClampNeg) (x5 + 1).toNatClampNeg)) then ((tI s121 (tR s121 (tR s121 (tR s121 x0 18) x1.toNatClampNeg) x2.toNatClampNeg) x5.toNatClampNeg) + (tI s121 (tR s121 (tR s121 x0 20) (x1 + 1).toNatClampNeg) (x5 + 1).toNatClampNeg)) else (tI s121 (tR s121 (tR s121 x0 20) x1.toNatClampNeg) x2.toNatClampNeg)) → (tX s121 0 (tR s121 (tR s121 x0 20) x1.toNatClampNeg) x2 ∧ (∀ s133 : tM, s133 = tsI s121 (tR s121 (tR s121 x0 20) x1.toNatClampNeg) x2.toNatClampNeg x131 → (tX s133 11 (tR s133 x0 21) x1 ∧ (tX s133 11 (tR s133 x0 21) x1 ∧ (tX s133 0 (tR s133 (tR s133 x0 21) x1.toNatClampNeg) x2 ∧ (v_X0_differs x0 x1 x5 s133 (fun x138 s139 => (tO s139 0 x0 ∧ (tX s139 11 (tR s139 x0 21) (x1 + 1) ∧ (tX s139 0 (tR s139 (tR s139 x0 21) (x1 + 1).toNatClampNeg) (x5 + 1) ∧ (∀ x143 : Int32, x143 = (if (x138 + (tI s139 (tR s139 (tR s139 x0 21) (x1 + 1).toNatClampNeg) (x5 + 1).toNatClampNeg)) < (tI s133 (tR s133 (tR s133 x0 21) x1.toNatClampNeg) x2.toNatClampNeg) then (x138 + (tI s139 (tR s139 (tR s139 x0 21) (x1 + 1).toNatClampNeg) (x5 + 1).toNatClampNeg)) else (tI s133 (tR s133 (tR s133 x0 21) x1.toNatClampNeg) x2.toNatClampNeg)) → (tX s139 0 (tR s133 (tR s133 x0 21) x1.toNatClampNeg) x2 ∧ (∀ s145 : tM, s145 = tsI s139 (tR s133 (tR s133 x0 21) x1.toNatClampNeg) x2.toNatClampNeg x143 → (tX s145 15 (tR s145 x0 22) x1 ∧ (tX s145 1 (tR s145 (tR s145 x0 22) x1.toNatClampNeg) x2 ∧ (tX s145 15 (tR s145 x0 22) (x1 + 1) ∧ (tX s145 1 (tR s145 (tR s145 x0 22) (x1 + 1).toNatClampNeg) (x5 + 1) ∧ (tX s145 1 (tR s145 (tR s145 x0 22) x1.toNatClampNeg) x2 ∧ (∀ s152 : tM, s152 = tsJ s145 (tR s145 (tR s145 x0 22) x1.toNatClampNeg) x2.toNatClampNeg ((tJ s145 (tR s145 (tR s145 x0 22) x1.toNatClampNeg) x2.toNatClampNeg) + (tJ s145 (tR s145 (tR s145 x0 22) (x1 + 1).toNatClampNeg) (x5 + 1).toNatClampNeg)) → (∀ x154 : Int32, x154 = x5 + 1 → ((fun x5 s => v_X0_layFrom_45 N x0 x1 x2 x4 Kr K t x5 s) x154 s152)))))))))))))))))))))))))))))))))))))))))) ∧ ((lg_cmp (tJ s (tR s (tR s x0 22) (x1 + 1).toNatClampNeg) (x5 + 1).toNatClampNeg) 0) = 0 → (∀ x155 : Int32, x155 = x5 + 1 → ((fun x5 s => v_X0_layFrom_45 N x0 x1 x2 x4 Kr K t x5 s) x155 s))))))))))))))
theorem e_X0_layFrom_45 {G : xG} {l : Launch} {g : xH} {d : Nat} {N : tP} (hN : tNs G N) (hd : 5 ≤ d) (x0 : Nat) (x1 : Int32) (x2 : Int32) (x4 : Int32) (Kr : tM → Prop) (K : tM → Prop) : ∀ (t : Nat) (x5 : Int32) (s : tM) , v_X0_layFrom_45 N x0 x1 x2 x4 Kr K t x5 s → (∀ (s : tM), K s → xF G l kX0_layFrom (d + 1) 0 0 (tQ G g wu (fun _ => Kr) tNo) 245 [none, none, none, none, none, none] [] (tH G g s)) → xF G l kX0_layFrom (d + 1) 0 0 (tQ G g wu (fun _ => Kr) tNo) 45 [some (rfv x0), some (.int x1), some (.int x2), none, some (.int x4), some (.int x5)] [] (tH G g s) := by
  intro t
  induction t with
  | zero =>
    intro _ _ h _
    exact absurd h (by simp [v_X0_layFrom_45])
  | succ t ih =>
    intro x5 s h hK
    have hR := fun x5 s h => ih x5 s h hK
    unfold v_X0_layFrom_45 at h
    refine x_iload_5 dX0_layFrom_45 ?_
    refine x_iload_4 dX0_layFrom_47 ?_
    refine x_icmp_gt 245 dX0_layFrom_49 (by decide) (fun c101 => ?_) (fun c101 => ?_)
    · have h := h.1 c101
      exact x_le (xLe_none (xLe_none (xLe_none (xLe_cons (xLe_none (xLe_none (xLe_nil))))))) (hK _ h)
    · have h := h.2 c101
      refine t_aload_0 dX0_layFrom_52 ?_
      obtain ⟨e102, h⟩ := h
      refine t_getR dX0_layFrom_53 fa_X0_84_0 (by decide) e102 ?_
      refine x_iload_1 dX0_layFrom_56 ?_
      obtain ⟨e103, h⟩ := h
      refine t_aald (t := 13) dX0_layFrom_57 ⟨rfl, by decide, by decide⟩ rfl e103 ?_
      refine x_iload_2 dX0_layFrom_58 ?_
      obtain ⟨e104, h⟩ := h
      refine t_aald (t := 12) dX0_layFrom_59 ⟨rfl, by decide, by decide⟩ rfl e104 ?_
      refine x_iload_5 dX0_layFrom_60 ?_
      obtain ⟨e105, h⟩ := h
      refine t_zald dX0_layFrom_62 e105 ?_
      refine x_if_eq 239 dX0_layFrom_63 (by decide) (fun c106 => ?_) (fun c106 => ?_)
      · have h := h.1 c106
        refine x_iinc_5 (v := 1) dX0_layFrom_239 (by decide) (by decide) xN2_i ?_
        have h := h _ rfl
        refine x_goto 45 dX0_layFrom_242 (by decide) ?_
        exact x_le (xLe_cons (xLe_cons (xLe_cons (xLe_cons (xLe_cons (xLe_cons (xLe_nil))))))) (hR _ _ h)
      · have h := h.2 c106
        refine t_aload_0 dX0_layFrom_66 ?_
        refine t_getR dX0_layFrom_67 fa_X0_108_0 (by decide) e102 ?_
        refine x_iload_1 dX0_layFrom_70 ?_
        refine x_iconst (v := 1) dX0_layFrom_71 (by decide) ?_
        refine x_iadd dX0_layFrom_72 ?_
        obtain ⟨e108, h⟩ := h
        refine t_aald (t := 15) dX0_layFrom_73 ⟨rfl, by decide, by decide⟩ rfl e108 ?_
        refine x_iload_5 dX0_layFrom_74 ?_
        refine x_iconst (v := 1) dX0_layFrom_76 (by decide) ?_
        refine x_iadd dX0_layFrom_77 ?_
        obtain ⟨e109, h⟩ := h
        refine t_lald dX0_layFrom_78 e109 ?_
        refine x_lconst (v := 0) dX0_layFrom_79 (by decide) ?_
        refine x_lcmp dX0_layFrom_80 ?_
        refine x_if_ne 87 dX0_layFrom_81 (by decide) (fun c110 => ?_) (fun c110 => ?_)
        · have h := h.1 c110
          refine t_aload_0 dX0_layFrom_87 ?_
          refine t_getR dX0_layFrom_88 fa_X0_97_0 (by decide) e102 ?_
          refine x_iload_1 dX0_layFrom_91 ?_
          obtain ⟨e111, h⟩ := h
          refine t_aald (t := 11) dX0_layFrom_92 ⟨rfl, by decide, by decide⟩ rfl e111 ?_
          refine x_iload_2 dX0_layFrom_93 ?_
          refine t_aload_0 dX0_layFrom_94 ?_
          refine t_getR dX0_layFrom_95 fa_X0_97_0 (by decide) e102 ?_
          refine x_iload_1 dX0_layFrom_98 ?_
          obtain ⟨e112, h⟩ := h
          refine t_aald (t := 11) dX0_layFrom_99 ⟨rfl, by decide, by decide⟩ rfl e112 ?_
          refine x_iload_2 dX0_layFrom_100 ?_
          obtain ⟨e113, h⟩ := h
          refine t_iald dX0_layFrom_101 e113 ?_
          refine t_aload_0 dX0_layFrom_102 ?_
          refine t_getR dX0_layFrom_103 fa_X0_89_0 (by decide) e102 ?_
          refine x_iload_1 dX0_layFrom_106 ?_
          obtain ⟨e114, h⟩ := h
          refine t_aald (t := 14) dX0_layFrom_107 ⟨rfl, by decide, by decide⟩ rfl e114 ?_
          refine x_iload_2 dX0_layFrom_108 ?_
          obtain ⟨e115, h⟩ := h
          refine t_aald (t := 11) dX0_layFrom_109 ⟨rfl, by decide, by decide⟩ rfl e115 ?_
          refine x_iload_5 dX0_layFrom_110 ?_
          obtain ⟨e116, h⟩ := h
          refine t_iald dX0_layFrom_112 e116 ?_
          refine t_aload_0 dX0_layFrom_113 ?_
          refine t_getR dX0_layFrom_114 fa_X0_97_0 (by decide) e102 ?_
          refine x_iload_1 dX0_layFrom_117 ?_
          refine x_iconst (v := 1) dX0_layFrom_118 (by decide) ?_
          refine x_iadd dX0_layFrom_119 ?_
          obtain ⟨e117, h⟩ := h
          refine t_aald (t := 11) dX0_layFrom_120 ⟨rfl, by decide, by decide⟩ rfl e117 ?_
          refine x_iload_5 dX0_layFrom_121 ?_
          refine x_iconst (v := 1) dX0_layFrom_123 (by decide) ?_
          refine x_iadd dX0_layFrom_124 ?_
          obtain ⟨e118, h⟩ := h
          refine t_iald dX0_layFrom_125 e118 ?_
          refine x_iadd dX0_layFrom_126 ?_
          refine t_mmin ma_X0_120 (by omega) (xrm4 (Nat.le_of_ble_eq_true rfl)) dX0_layFrom_127 ?_
          have h := h _ rfl
          obtain ⟨e120, h⟩ := h
          refine t_iast dX0_layFrom_130 e120 ?_
          refine t_gen h (fun s121 w122 h => ?_)
          refine t_aload_0 dX0_layFrom_131 ?_
          refine t_getR dX0_layFrom_132 fa_X0_100_0 (by decide) (tO_w w122 e102) ?_
          refine x_iload_1 dX0_layFrom_135 ?_
          obtain ⟨e123, h⟩ := h
          refine t_aald (t := 11) dX0_layFrom_136 ⟨rfl, by decide, by decide⟩ rfl e123 ?_
          refine x_iload_2 dX0_layFrom_137 ?_
          refine t_aload_0 dX0_layFrom_138 ?_
          refine t_getR dX0_layFrom_139 fa_X0_100_0 (by decide) (tO_w w122 e102) ?_
          refine x_iload_1 dX0_layFrom_142 ?_
          obtain ⟨e124, h⟩ := h
          refine t_aald (t := 11) dX0_layFrom_143 ⟨rfl, by decide, by decide⟩ rfl e124 ?_
          refine x_iload_2 dX0_layFrom_144 ?_
          obtain ⟨e125, h⟩ := h
          refine t_iald dX0_layFrom_145 e125 ?_
          refine t_aload_0 dX0_layFrom_146 ?_
          refine t_getR dX0_layFrom_147 fa_X0_92_0 (by decide) (tO_w w122 e102) ?_
          refine x_iload_1 dX0_layFrom_150 ?_
          obtain ⟨e126, h⟩ := h
          refine t_aald (t := 14) dX0_layFrom_151 ⟨rfl, by decide, by decide⟩ rfl e126 ?_
          refine x_iload_2 dX0_layFrom_152 ?_
          obtain ⟨e127, h⟩ := h
          refine t_aald (t := 11) dX0_layFrom_153 ⟨rfl, by decide, by decide⟩ rfl e127 ?_
          refine x_iload_5 dX0_layFrom_154 ?_
          obtain ⟨e128, h⟩ := h
          refine t_iald dX0_layFrom_156 e128 ?_
          refine t_aload_0 dX0_layFrom_157 ?_
          refine t_getR dX0_layFrom_158 fa_X0_100_0 (by decide) (tO_w w122 e102) ?_
          refine x_iload_1 dX0_layFrom_161 ?_
          refine x_iconst (v := 1) dX0_layFrom_162 (by decide) ?_
          refine x_iadd dX0_layFrom_163 ?_
          obtain ⟨e129, h⟩ := h
          refine t_aald (t := 11) dX0_layFrom_164 ⟨rfl, by decide, by decide⟩ rfl e129 ?_
          refine x_iload_5 dX0_layFrom_165 ?_
          refine x_iconst (v := 1) dX0_layFrom_167 (by decide) ?_
          refine x_iadd dX0_layFrom_168 ?_
          obtain ⟨e130, h⟩ := h
          refine t_iald dX0_layFrom_169 e130 ?_
          refine x_iadd dX0_layFrom_170 ?_
          refine t_mmax ma_X0_346 (by omega) (xrm4 (Nat.le_of_ble_eq_true rfl)) dX0_layFrom_171 ?_
          have h := h _ rfl
          obtain ⟨e132, h⟩ := h
          refine t_iast dX0_layFrom_174 e132 ?_
          refine t_gen h (fun s133 w134 h => ?_)
          refine t_aload_0 dX0_layFrom_175 ?_
          refine t_getR dX0_layFrom_176 fa_X0_103_0 (by decide) (tO_w w134 (tO_w w122 e102)) ?_
          refine x_iload_1 dX0_layFrom_179 ?_
          obtain ⟨e135, h⟩ := h
          refine t_aald (t := 11) dX0_layFrom_180 ⟨rfl, by decide, by decide⟩ rfl e135 ?_
          refine x_iload_2 dX0_layFrom_181 ?_
          refine t_aload_0 dX0_layFrom_182 ?_
          refine t_getR dX0_layFrom_183 fa_X0_103_0 (by decide) (tO_w w134 (tO_w w122 e102)) ?_
          refine x_iload_1 dX0_layFrom_186 ?_
          obtain ⟨e136, h⟩ := h
          refine t_aald (t := 11) dX0_layFrom_187 ⟨rfl, by decide, by decide⟩ rfl e136 ?_
          refine x_iload_2 dX0_layFrom_188 ?_
          obtain ⟨e137, h⟩ := h
          refine t_iald dX0_layFrom_189 e137 ?_
          refine t_aload_0 dX0_layFrom_190 ?_
          refine x_iload_1 dX0_layFrom_191 ?_
          refine x_iload_5 dX0_layFrom_192 ?_
          refine t_cVi (As := [_, _]) rfl cv_X0_349 rfl (tO_w w134 (tO_w w122 e102)) rfl rfl (xrm4 (Nat.le_of_ble_eq_true rfl)) dX0_layFrom_194 (e_X0_differs (by omega) h) ⟨Nat.zero_le _, Nat.zero_le _⟩ (fun _ _ _ h => h.elim) (fun x138 s139 h => ?_)
          refine t_aload_0 dX0_layFrom_197 ?_
          obtain ⟨e140, h⟩ := h
          refine t_getR dX0_layFrom_198 fa_X0_103_0 (by decide) e140 ?_
          refine x_iload_1 dX0_layFrom_201 ?_
          refine x_iconst (v := 1) dX0_layFrom_202 (by decide) ?_
          refine x_iadd dX0_layFrom_203 ?_
          obtain ⟨e141, h⟩ := h
          refine t_aald (t := 11) dX0_layFrom_204 ⟨rfl, by decide, by decide⟩ rfl e141 ?_
          refine x_iload_5 dX0_layFrom_205 ?_
          refine x_iconst (v := 1) dX0_layFrom_207 (by decide) ?_
          refine x_iadd dX0_layFrom_208 ?_
          obtain ⟨e142, h⟩ := h
          refine t_iald dX0_layFrom_209 e142 ?_
          refine x_iadd dX0_layFrom_210 ?_
          refine t_mmin ma_X0_120 (by omega) (xrm4 (Nat.le_of_ble_eq_true rfl)) dX0_layFrom_211 ?_
          have h := h _ rfl
          obtain ⟨e144, h⟩ := h
          refine t_iast dX0_layFrom_214 e144 ?_
          refine t_gen h (fun s145 w146 h => ?_)
          refine t_aload_0 dX0_layFrom_215 ?_
          refine t_getR dX0_layFrom_216 fa_X0_108_0 (by decide) (tO_w w146 e140) ?_
          refine x_iload_1 dX0_layFrom_219 ?_
          obtain ⟨e147, h⟩ := h
          refine t_aald (t := 15) dX0_layFrom_220 ⟨rfl, by decide, by decide⟩ rfl e147 ?_
          refine x_iload_2 dX0_layFrom_221 ?_
          refine x_dup2 dX0_layFrom_222 rfl (rfv_c _) ?_
          obtain ⟨e148, h⟩ := h
          refine t_lald dX0_layFrom_223 e148 ?_
          refine t_aload_0 dX0_layFrom_224 ?_
          refine t_getR dX0_layFrom_225 fa_X0_108_0 (by decide) (tO_w w146 e140) ?_
          refine x_iload_1 dX0_layFrom_228 ?_
          refine x_iconst (v := 1) dX0_layFrom_229 (by decide) ?_
          refine x_iadd dX0_layFrom_230 ?_
          obtain ⟨e149, h⟩ := h
          refine t_aald (t := 15) dX0_layFrom_231 ⟨rfl, by decide, by decide⟩ rfl e149 ?_
          refine x_iload_5 dX0_layFrom_232 ?_
          refine x_iconst (v := 1) dX0_layFrom_234 (by decide) ?_
          refine x_iadd dX0_layFrom_235 ?_
          obtain ⟨e150, h⟩ := h
          refine t_lald dX0_layFrom_236 e150 ?_
          refine x_ladd dX0_layFrom_237 ?_
          obtain ⟨e151, h⟩ := h
          refine t_last dX0_layFrom_238 e151 ?_
          refine t_gen h (fun s152 w153 h => ?_)
          refine x_iinc_5 (v := 1) dX0_layFrom_239 (by decide) (by decide) xN2_i ?_
          have h := h _ rfl
          refine x_goto 45 dX0_layFrom_242 (by decide) ?_
          exact x_le (xLe_cons (xLe_cons (xLe_cons (xLe_cons (xLe_cons (xLe_cons (xLe_nil))))))) (hR _ _ h)
        · have h := h.2 c110
          refine x_goto 239 dX0_layFrom_84 (by decide) ?_
          refine x_iinc_5 (v := 1) dX0_layFrom_239 (by decide) (by decide) xN2_i ?_
          have h := h _ rfl
          refine x_goto 45 dX0_layFrom_242 (by decide) ?_
          exact x_le (xLe_cons (xLe_cons (xLe_cons (xLe_cons (xLe_cons (xLe_cons (xLe_nil))))))) (hR _ _ h)
def v_X0_layFrom (N : tP) (x0 : Nat) (x1 : Int32) (x2 : Int32) (x3 : Int32) (x4 : Int32) (s : tM) (Kr : tM → Prop) : Prop :=
  (tO s 0 x0 ∧ (tX s 11 (tR s x0 19) x1 ∧ (tX s 0 (tR s (tR s x0 19) x1.toNatClampNeg) x2 ∧ (∀ s104 : tM, s104 = tsI s (tR s (tR s x0 19) x1.toNatClampNeg) x2.toNatClampNeg 100000000 → (tX s104 11 (tR s104 x0 20) x1 ∧ (tX s104 0 (tR s104 (tR s104 x0 20) x1.toNatClampNeg) x2 ∧ (∀ s108 : tM, s108 = tsI s104 (tR s104 (tR s104 x0 20) x1.toNatClampNeg) x2.toNatClampNeg (-100000000) → (tX s108 11 (tR s108 x0 21) x1 ∧ (tX s108 0 (tR s108 (tR s108 x0 21) x1.toNatClampNeg) x2 ∧ (∀ s112 : tM, s112 = tsI s108 (tR s108 (tR s108 x0 21) x1.toNatClampNeg) x2.toNatClampNeg 100000000 → (tX s112 15 (tR s112 x0 22) x1 ∧ (tX s112 1 (tR s112 (tR s112 x0 22) x1.toNatClampNeg) x2 ∧ (∀ s116 : tM, s116 = tsJ s112 (tR s112 (tR s112 x0 22) x1.toNatClampNeg) x2.toNatClampNeg 0 → (v_X0_layFrom_45 N x0 x1 x2 x4 Kr (fun s118 => (Kr s118)) N.1 x3 s116))))))))))))))
theorem e_X0_layFrom {G : xG} {l : Launch} {g : xH} {d : Nat} {N : tP} (hN : tNs G N) (hd : 6 ≤ d) {x0 : Nat} {x1 : Int32} {x2 : Int32} {x3 : Int32} {x4 : Int32} {s : tM} {Kr : tM → Prop} (h : v_X0_layFrom N x0 x1 x2 x3 x4 s Kr) : xC G l kX0_layFrom d 0 0 [rfv x0, .int x1, .int x2, .int x3, .int x4] (tH G g s) (tQ G g wu (fun _ => Kr) tNo) := by
  obtain ⟨d, rfl⟩ : ∃ z, d = z + 1 := ⟨d - 1, by omega⟩
  refine t_start rfl (by decide +kernel) (by simp [xct_i, xct_l, rfv_c]) (lv := [some (rfv x0), some (.int x1), some (.int x2), some (.int x3), some (.int x4), none]) (by simp [lv_args, xLv, rfv_c, xct_i, xct_l]) ?_
  unfold v_X0_layFrom at h
  refine t_aload_0 dX0_layFrom_0 ?_
  obtain ⟨e101, h⟩ := h
  refine t_getR dX0_layFrom_1 fa_X0_97_0 (by decide) e101 ?_
  refine x_iload_1 dX0_layFrom_4 ?_
  obtain ⟨e102, h⟩ := h
  refine t_aald (t := 11) dX0_layFrom_5 ⟨rfl, by decide, by decide⟩ rfl e102 ?_
  refine x_iload_2 dX0_layFrom_6 ?_
  refine x_ldcw dX0_layFrom_7 q1352 ?_
  obtain ⟨e103, h⟩ := h
  refine t_iast dX0_layFrom_10 e103 ?_
  refine t_gen h (fun s104 w105 h => ?_)
  refine t_aload_0 dX0_layFrom_11 ?_
  refine t_getR dX0_layFrom_12 fa_X0_100_0 (by decide) (tO_w w105 e101) ?_
  refine x_iload_1 dX0_layFrom_15 ?_
  obtain ⟨e106, h⟩ := h
  refine t_aald (t := 11) dX0_layFrom_16 ⟨rfl, by decide, by decide⟩ rfl e106 ?_
  refine x_iload_2 dX0_layFrom_17 ?_
  refine x_ldcw dX0_layFrom_18 q1353 ?_
  obtain ⟨e107, h⟩ := h
  refine t_iast dX0_layFrom_21 e107 ?_
  refine t_gen h (fun s108 w109 h => ?_)
  refine t_aload_0 dX0_layFrom_22 ?_
  refine t_getR dX0_layFrom_23 fa_X0_103_0 (by decide) (tO_w w109 (tO_w w105 e101)) ?_
  refine x_iload_1 dX0_layFrom_26 ?_
  obtain ⟨e110, h⟩ := h
  refine t_aald (t := 11) dX0_layFrom_27 ⟨rfl, by decide, by decide⟩ rfl e110 ?_
  refine x_iload_2 dX0_layFrom_28 ?_
  refine x_ldcw dX0_layFrom_29 q1352 ?_
  obtain ⟨e111, h⟩ := h
  refine t_iast dX0_layFrom_32 e111 ?_
  refine t_gen h (fun s112 w113 h => ?_)
  refine t_aload_0 dX0_layFrom_33 ?_
  refine t_getR dX0_layFrom_34 fa_X0_108_0 (by decide) (tO_w w113 (tO_w w109 (tO_w w105 e101))) ?_
  refine x_iload_1 dX0_layFrom_37 ?_
  obtain ⟨e114, h⟩ := h
  refine t_aald (t := 15) dX0_layFrom_38 ⟨rfl, by decide, by decide⟩ rfl e114 ?_
  refine x_iload_2 dX0_layFrom_39 ?_
  refine x_lconst (v := 0) dX0_layFrom_40 (by decide) ?_
  obtain ⟨e115, h⟩ := h
  refine t_last dX0_layFrom_41 e115 ?_
  refine t_gen h (fun s116 w117 h => ?_)
  refine x_iload_3 dX0_layFrom_42 ?_
  refine x_istore_5 dX0_layFrom_43 (by decide) xN2_i ?_
  refine x_le (xLe_cons (xLe_cons (xLe_cons (xLe_none (xLe_cons (xLe_cons (xLe_nil))))))) (e_X0_layFrom_45 hN (by omega) _ _ _ _ _ _  _ _ _ h (fun s118 h => ?_))
  exact x_vret dX0_layFrom_245 rfl (Or.inl ⟨(), _, h, rfl, rfl⟩)
def v_X0_layVoices_169 (N : tP) (x0 : Nat) (x1 : Int32) (x2 : Int32) (x5 : Int32) (x6 : Int32) (y0 : Int32) (y1 : Int32) (Kr : tM → Prop) (K : tM → Prop) (R : Int32 → tM → Prop) (s : tM) : Prop :=
  ((¬ y0 = y1 → (∀ x102 : Int32, x102 = x6 + 1 → (R x102 s))) ∧ (y0 = y1 → (tO s 0 x0 ∧ (v_X0_layFrom N x0 x5 x6 x1 x2 s (fun s104 => (∀ x106 : Int32, x106 = x6 + 1 → (R x106 s104)))))))
theorem e_X0_layVoices_169 {G : xG} {l : Launch} {g : xH} {d : Nat} {N : tP} (hN : tNs G N) (hd : 7 ≤ d) (x0 : Nat) (x1 : Int32) (x2 : Int32) (x5 : Int32) (x6 : Int32) (y0 : Int32) (y1 : Int32) (Kr : tM → Prop) (K : tM → Prop) (R : Int32 → tM → Prop) (s : tM) (h : v_X0_layVoices_169 N x0 x1 x2 x5 x6 y0 y1 Kr K R s) (hK : ∀ (s : tM), K s → xF G l kX0_layVoices (d + 1) 0 0 (tQ G g wu (fun _ => Kr) tNo) 188 [some (rfv x0), some (.int x1), some (.int x2), none, none, some (.int x5), none] [] (tH G g s)) (hR : ∀ (z6 : Int32) (s : tM), R z6 s → xF G l kX0_layVoices (d + 1) 0 0 (tQ G g wu (fun _ => Kr) tNo) 142 [some (rfv x0), some (.int x1), some (.int x2), none, none, some (.int x5), some (.int z6)] [] (tH G g s)) : xF G l kX0_layVoices (d + 1) 0 0 (tQ G g wu (fun _ => Kr) tNo) 169 [some (rfv x0), some (.int x1), some (.int x2), none, none, some (.int x5), some (.int x6)] [.int y1, .int y0] (tH G g s) := by
  unfold v_X0_layVoices_169 at h
  refine x_icmp_ne 182 dX0_layVoices_169 (by decide) (fun c101 => ?_) (fun c101 => ?_)
  · have h := h.1 c101
    refine x_iinc_6 (v := 1) dX0_layVoices_182 (by decide) (by decide) xN2_i ?_
    have h := h _ rfl
    refine x_goto 142 dX0_layVoices_185 (by decide) ?_
    exact x_le (xLe_cons (xLe_cons (xLe_cons (xLe_cons (xLe_cons (xLe_cons (xLe_cons (xLe_nil)))))))) (hR _ _ h)
  · have h := h.2 c101
    refine t_aload_0 dX0_layVoices_172 ?_
    refine x_iload_5 dX0_layVoices_173 ?_
    refine x_iload_6 dX0_layVoices_175 ?_
    refine x_iload_1 dX0_layVoices_177 ?_
    refine x_iload_2 dX0_layVoices_178 ?_
    obtain ⟨e105, h⟩ := h
    refine t_cVv (As := [_, _, _, _]) rfl cv_X0_342 rfl e105 rfl rfl (xrm4 (Nat.le_of_ble_eq_true rfl)) dX0_layVoices_179 (e_X0_layFrom hN (by omega) h) ⟨Nat.zero_le _, Nat.zero_le _⟩ (fun _ _ _ h => h.elim) (fun _ s104 h => ?_)
    refine x_iinc_6 (v := 1) dX0_layVoices_182 (by decide) (by decide) xN2_i ?_
    have h := h _ rfl
    refine x_goto 142 dX0_layVoices_185 (by decide) ?_
    exact x_le (xLe_cons (xLe_cons (xLe_cons (xLe_cons (xLe_cons (xLe_cons (xLe_cons (xLe_nil)))))))) (hR _ _ h)
def v_X0_layVoices_159 (N : tP) (x0 : Nat) (x1 : Int32) (x2 : Int32) (x5 : Int32) (x6 : Int32) (y0 : Int32) (Kr : tM → Prop) (K : tM → Prop) (R : Int32 → tM → Prop) (s : tM) : Prop :=
  ((¬ x5 = 0 → (v_X0_layVoices_169 N x0 x1 x2 x5 x6 y0 0 Kr K R s)) ∧ (x5 = 0 → (v_X0_layVoices_169 N x0 x1 x2 x5 x6 y0 1 Kr K R s)))
theorem e_X0_layVoices_159 {G : xG} {l : Launch} {g : xH} {d : Nat} {N : tP} (hN : tNs G N) (hd : 7 ≤ d) (x0 : Nat) (x1 : Int32) (x2 : Int32) (x5 : Int32) (x6 : Int32) (y0 : Int32) (Kr : tM → Prop) (K : tM → Prop) (R : Int32 → tM → Prop) (s : tM) (h : v_X0_layVoices_159 N x0 x1 x2 x5 x6 y0 Kr K R s) (hK : ∀ (s : tM), K s → xF G l kX0_layVoices (d + 1) 0 0 (tQ G g wu (fun _ => Kr) tNo) 188 [some (rfv x0), some (.int x1), some (.int x2), none, none, some (.int x5), none] [] (tH G g s)) (hR : ∀ (z6 : Int32) (s : tM), R z6 s → xF G l kX0_layVoices (d + 1) 0 0 (tQ G g wu (fun _ => Kr) tNo) 142 [some (rfv x0), some (.int x1), some (.int x2), none, none, some (.int x5), some (.int z6)] [] (tH G g s)) : xF G l kX0_layVoices (d + 1) 0 0 (tQ G g wu (fun _ => Kr) tNo) 159 [some (rfv x0), some (.int x1), some (.int x2), none, none, some (.int x5), some (.int x6)] [.int y0] (tH G g s) := by
  unfold v_X0_layVoices_159 at h
  refine x_iload_5 dX0_layVoices_159 ?_
  refine x_if_ne 168 dX0_layVoices_161 (by decide) (fun c101 => ?_) (fun c101 => ?_)
  · have h := h.1 c101
    refine x_iconst (v := 0) dX0_layVoices_168 (by decide) ?_
    exact x_le (xLe_cons (xLe_cons (xLe_cons (xLe_cons (xLe_cons (xLe_cons (xLe_cons (xLe_nil)))))))) (e_X0_layVoices_169 hN (by omega) _ _ _ _ _ _ _ _ _ _ _ h hK hR)
  · have h := h.2 c101
    refine x_iconst (v := 1) dX0_layVoices_164 (by decide) ?_
    refine x_goto 169 dX0_layVoices_165 (by decide) ?_
    exact x_le (xLe_cons (xLe_cons (xLe_cons (xLe_cons (xLe_cons (xLe_cons (xLe_cons (xLe_nil)))))))) (e_X0_layVoices_169 hN (by omega) _ _ _ _ _ _ _ _ _ _ _ h hK hR)
def v_X0_layVoices_142 (N : tP) (x0 : Nat) (x1 : Int32) (x2 : Int32) (x5 : Int32) (Kr : tM → Prop) (K : tM → Prop) : Nat → Int32 → tM → Prop
  | 0, _, _ => False
  | t + 1, x6, s => ((25 < x6 → (K s)) ∧ (¬ 25 < x6 → ((¬ x6 = 0 → (v_X0_layVoices_159 N x0 x1 x2 x5 x6 0 Kr K (fun x6 s => v_X0_layVoices_142 N x0 x1 x2 x5 Kr K t x6 s) s)) ∧ (x6 = 0 → (v_X0_layVoices_159 N x0 x1 x2 x5 x6 1 Kr K (fun x6 s => v_X0_layVoices_142 N x0 x1 x2 x5 Kr K t x6 s) s)))))
theorem e_X0_layVoices_142 {G : xG} {l : Launch} {g : xH} {d : Nat} {N : tP} (hN : tNs G N) (hd : 7 ≤ d) (x0 : Nat) (x1 : Int32) (x2 : Int32) (x5 : Int32) (Kr : tM → Prop) (K : tM → Prop) : ∀ (t : Nat) (x6 : Int32) (s : tM) , v_X0_layVoices_142 N x0 x1 x2 x5 Kr K t x6 s → (∀ (s : tM), K s → xF G l kX0_layVoices (d + 1) 0 0 (tQ G g wu (fun _ => Kr) tNo) 188 [some (rfv x0), some (.int x1), some (.int x2), none, none, some (.int x5), none] [] (tH G g s)) → xF G l kX0_layVoices (d + 1) 0 0 (tQ G g wu (fun _ => Kr) tNo) 142 [some (rfv x0), some (.int x1), some (.int x2), none, none, some (.int x5), some (.int x6)] [] (tH G g s) := by
  intro t
  induction t with
  | zero =>
    intro _ _ h _
    exact absurd h (by simp [v_X0_layVoices_142])
  | succ t ih =>
    intro x6 s h hK
    have hR := fun x6 s h => ih x6 s h hK
    unfold v_X0_layVoices_142 at h
    refine x_iload_6 dX0_layVoices_142 ?_
    refine x_bipush (v := 25) dX0_layVoices_144 (by decide) ?_
    refine x_icmp_gt 188 dX0_layVoices_146 (by decide) (fun c101 => ?_) (fun c101 => ?_)
    · have h := h.1 c101
      exact x_le (xLe_cons (xLe_cons (xLe_cons (xLe_cons (xLe_cons (xLe_cons (xLe_none (xLe_nil)))))))) (hK _ h)
    · have h := h.2 c101
      refine x_iload_6 dX0_layVoices_149 ?_
      refine x_if_ne 158 dX0_layVoices_151 (by decide) (fun c102 => ?_) (fun c102 => ?_)
      · have h := h.1 c102
        refine x_iconst (v := 0) dX0_layVoices_158 (by decide) ?_
        exact x_le (xLe_cons (xLe_cons (xLe_cons (xLe_cons (xLe_cons (xLe_cons (xLe_cons (xLe_nil)))))))) (e_X0_layVoices_159 hN (by omega) _ _ _ _ _ _ _ _ _ _ h hK hR)
      · have h := h.2 c102
        refine x_iconst (v := 1) dX0_layVoices_154 (by decide) ?_
        refine x_goto 159 dX0_layVoices_155 (by decide) ?_
        exact x_le (xLe_cons (xLe_cons (xLe_cons (xLe_cons (xLe_cons (xLe_cons (xLe_cons (xLe_nil)))))))) (e_X0_layVoices_159 hN (by omega) _ _ _ _ _ _ _ _ _ _ h hK hR)
def v_X0_layVoices_134 (N : tP) (x0 : Nat) (x1 : Int32) (x2 : Int32) (Kr : tM → Prop) (K : tM → Prop) : Nat → Int32 → tM → Prop
  | 0, _, _ => False
  | t + 1, x5, s => ((x5 < 0 → (K s)) ∧ (¬ x5 < 0 → (v_X0_layVoices_142 N x0 x1 x2 x5 Kr (fun s102 => (∀ x103 : Int32, x103 = x5 + (-1) → ((fun x5 s => v_X0_layVoices_134 N x0 x1 x2 Kr K t x5 s) x103 s102))) N.1 0 s)))
theorem e_X0_layVoices_134 {G : xG} {l : Launch} {g : xH} {d : Nat} {N : tP} (hN : tNs G N) (hd : 7 ≤ d) (x0 : Nat) (x1 : Int32) (x2 : Int32) (Kr : tM → Prop) (K : tM → Prop) : ∀ (t : Nat) (x5 : Int32) (s : tM) , v_X0_layVoices_134 N x0 x1 x2 Kr K t x5 s → (∀ (s : tM), K s → xF G l kX0_layVoices (d + 1) 0 0 (tQ G g wu (fun _ => Kr) tNo) 194 [none, none, none, none, none, none, none] [] (tH G g s)) → xF G l kX0_layVoices (d + 1) 0 0 (tQ G g wu (fun _ => Kr) tNo) 134 [some (rfv x0), some (.int x1), some (.int x2), none, none, some (.int x5), none] [] (tH G g s) := by
  intro t
  induction t with
  | zero =>
    intro _ _ h _
    exact absurd h (by simp [v_X0_layVoices_134])
  | succ t ih =>
    intro x5 s h hK
    have hR := fun x5 s h => ih x5 s h hK
    unfold v_X0_layVoices_134 at h
    refine x_iload_5 dX0_layVoices_134 ?_
    refine x_if_lt 194 dX0_layVoices_136 (by decide) (fun c101 => ?_) (fun c101 => ?_)
    · have h := h.1 c101
      exact x_le (xLe_none (xLe_none (xLe_none (xLe_cons (xLe_cons (xLe_none (xLe_cons (xLe_nil)))))))) (hK _ h)
    · have h := h.2 c101
      refine x_iconst (v := 0) dX0_layVoices_139 (by decide) ?_
      refine x_istore_6 dX0_layVoices_140 (by decide) xN2_i ?_
      refine x_le (xLe_cons (xLe_cons (xLe_cons (xLe_cons (xLe_cons (xLe_cons (xLe_cons (xLe_nil)))))))) (e_X0_layVoices_142 hN (by omega) _ _ _ _ _ _  _ _ _ h (fun s102 h => ?_))
      refine x_iinc_5 (v := (-1)) dX0_layVoices_188 (by decide) (by decide) xN2_none ?_
      have h := h _ rfl
      refine x_goto 134 dX0_layVoices_191 (by decide) ?_
      exact x_le (xLe_cons (xLe_cons (xLe_cons (xLe_cons (xLe_cons (xLe_cons (xLe_cons (xLe_nil)))))))) (hR _ _ h)
def v_X0_layVoices_101 (N : tP) (x0 : Nat) (x1 : Int32) (x2 : Int32) (x3 : Int32) (x4 : Int32) (x5 : Int32) (x6 : Int32) (y0 : Nat) (y1 : Int32) (y2 : Int32) (Kr : tM → Prop) (K : tM → Prop) (R : Int32 → tM → Prop) (s : tM) : Prop :=
  (tX s 0 y0 y1 ∧ (∀ s102 : tM, s102 = tsI s y0 y1.toNatClampNeg y2 → (tO s102 0 x0 ∧ (tX s102 15 (tR s102 x0 22) x4 ∧ ((x6 = 0 → (tX s102 1 (tR s102 (tR s102 x0 22) x4.toNatClampNeg) x5 ∧ (∀ s108 : tM, s108 = tsJ s102 (tR s102 (tR s102 x0 22) x4.toNatClampNeg) x5.toNatClampNeg 0 → (∀ x110 : Int32, x110 = x5 + 1 → (R x110 s108))))) ∧ (¬ x6 = 0 → (tX s102 1 (tR s102 (tR s102 x0 22) x4.toNatClampNeg) x5 ∧ (∀ s112 : tM, s112 = tsJ s102 (tR s102 (tR s102 x0 22) x4.toNatClampNeg) x5.toNatClampNeg 1 → (∀ x114 : Int32, x114 = x5 + 1 → (R x114 s112))))))))))
theorem e_X0_layVoices_101 {G : xG} {l : Launch} {g : xH} {d : Nat} {N : tP} (hN : tNs G N) (hd : 7 ≤ d) (x0 : Nat) (x1 : Int32) (x2 : Int32) (x3 : Int32) (x4 : Int32) (x5 : Int32) (x6 : Int32) (y0 : Nat) (y1 : Int32) (y2 : Int32) (Kr : tM → Prop) (K : tM → Prop) (R : Int32 → tM → Prop) (s : tM) (h : v_X0_layVoices_101 N x0 x1 x2 x3 x4 x5 x6 y0 y1 y2 Kr K R s) (hK : ∀ (s : tM), K s → xF G l kX0_layVoices (d + 1) 0 0 (tQ G g wu (fun _ => Kr) tNo) 128 [some (rfv x0), some (.int x1), some (.int x2), none, some (.int x4), none, none] [] (tH G g s)) (hR : ∀ (z5 : Int32) (s : tM), R z5 s → xF G l kX0_layVoices (d + 1) 0 0 (tQ G g wu (fun _ => Kr) tNo) 9 [some (rfv x0), some (.int x1), some (.int x2), some (.int x3), some (.int x4), some (.int z5), none] [] (tH G g s)) : xF G l kX0_layVoices (d + 1) 0 0 (tQ G g wu (fun _ => Kr) tNo) 101 [some (rfv x0), some (.int x1), some (.int x2), some (.int x3), some (.int x4), some (.int x5), some (.int x6)] [.int y2, .int y1, rfv y0] (tH G g s) := by
  unfold v_X0_layVoices_101 at h
  obtain ⟨e101, h⟩ := h
  refine t_iast dX0_layVoices_101 e101 ?_
  refine t_gen h (fun s102 w103 h => ?_)
  refine t_aload_0 dX0_layVoices_102 ?_
  obtain ⟨e104, h⟩ := h
  refine t_getR dX0_layVoices_103 fa_X0_108_0 (by decide) e104 ?_
  refine x_iload_4 dX0_layVoices_106 ?_
  obtain ⟨e105, h⟩ := h
  refine t_aald (t := 15) dX0_layVoices_108 ⟨rfl, by decide, by decide⟩ rfl e105 ?_
  refine x_iload_5 dX0_layVoices_109 ?_
  refine x_iload_6 dX0_layVoices_111 ?_
  refine x_if_eq 120 dX0_layVoices_113 (by decide) (fun c106 => ?_) (fun c106 => ?_)
  · have h := h.1 c106
    refine x_lconst (v := 0) dX0_layVoices_120 (by decide) ?_
    obtain ⟨e107, h⟩ := h
    refine t_last dX0_layVoices_121 e107 ?_
    refine t_gen h (fun s108 w109 h => ?_)
    refine x_iinc_5 (v := 1) dX0_layVoices_122 (by decide) (by decide) xN2_i ?_
    have h := h _ rfl
    refine x_goto 9 dX0_layVoices_125 (by decide) ?_
    exact x_le (xLe_cons (xLe_cons (xLe_cons (xLe_cons (xLe_cons (xLe_cons (xLe_none (xLe_nil)))))))) (hR _ _ h)
  · have h := h.2 c106
    refine x_lconst (v := 1) dX0_layVoices_116 (by decide) ?_
    refine x_goto 121 dX0_layVoices_117 (by decide) ?_
    obtain ⟨e111, h⟩ := h
    refine t_last dX0_layVoices_121 e111 ?_
    refine t_gen h (fun s112 w113 h => ?_)
    refine x_iinc_5 (v := 1) dX0_layVoices_122 (by decide) (by decide) xN2_i ?_
    have h := h _ rfl
    refine x_goto 9 dX0_layVoices_125 (by decide) ?_
    exact x_le (xLe_cons (xLe_cons (xLe_cons (xLe_cons (xLe_cons (xLe_cons (xLe_none (xLe_nil)))))))) (hR _ _ h)
def v_X0_layVoices_79 (N : tP) (x0 : Nat) (x1 : Int32) (x2 : Int32) (x3 : Int32) (x4 : Int32) (x5 : Int32) (x6 : Int32) (y0 : Nat) (y1 : Int32) (y2 : Int32) (Kr : tM → Prop) (K : tM → Prop) (R : Int32 → tM → Prop) (s : tM) : Prop :=
  (tX s 0 y0 y1 ∧ (∀ s102 : tM, s102 = tsI s y0 y1.toNatClampNeg y2 → (tO s102 0 x0 ∧ (tX s102 11 (tR s102 x0 21) x4 ∧ ((x6 = 0 → (v_X0_layVoices_101 N x0 x1 x2 x3 x4 x5 x6 (tR s102 (tR s102 x0 21) x4.toNatClampNeg) x5 100000000 Kr K R s102)) ∧ (¬ x6 = 0 → (v_X0_layVoices_101 N x0 x1 x2 x3 x4 x5 x6 (tR s102 (tR s102 x0 21) x4.toNatClampNeg) x5 0 Kr K R s102)))))))
theorem e_X0_layVoices_79 {G : xG} {l : Launch} {g : xH} {d : Nat} {N : tP} (hN : tNs G N) (hd : 7 ≤ d) (x0 : Nat) (x1 : Int32) (x2 : Int32) (x3 : Int32) (x4 : Int32) (x5 : Int32) (x6 : Int32) (y0 : Nat) (y1 : Int32) (y2 : Int32) (Kr : tM → Prop) (K : tM → Prop) (R : Int32 → tM → Prop) (s : tM) (h : v_X0_layVoices_79 N x0 x1 x2 x3 x4 x5 x6 y0 y1 y2 Kr K R s) (hK : ∀ (s : tM), K s → xF G l kX0_layVoices (d + 1) 0 0 (tQ G g wu (fun _ => Kr) tNo) 128 [some (rfv x0), some (.int x1), some (.int x2), none, some (.int x4), none, none] [] (tH G g s)) (hR : ∀ (z5 : Int32) (s : tM), R z5 s → xF G l kX0_layVoices (d + 1) 0 0 (tQ G g wu (fun _ => Kr) tNo) 9 [some (rfv x0), some (.int x1), some (.int x2), some (.int x3), some (.int x4), some (.int z5), none] [] (tH G g s)) : xF G l kX0_layVoices (d + 1) 0 0 (tQ G g wu (fun _ => Kr) tNo) 79 [some (rfv x0), some (.int x1), some (.int x2), some (.int x3), some (.int x4), some (.int x5), some (.int x6)] [.int y2, .int y1, rfv y0] (tH G g s) := by
  unfold v_X0_layVoices_79 at h
  obtain ⟨e101, h⟩ := h
  refine t_iast dX0_layVoices_79 e101 ?_
  refine t_gen h (fun s102 w103 h => ?_)
  refine t_aload_0 dX0_layVoices_80 ?_
  obtain ⟨e104, h⟩ := h
  refine t_getR dX0_layVoices_81 fa_X0_103_0 (by decide) e104 ?_
  refine x_iload_4 dX0_layVoices_84 ?_
  obtain ⟨e105, h⟩ := h
  refine t_aald (t := 11) dX0_layVoices_86 ⟨rfl, by decide, by decide⟩ rfl e105 ?_
  refine x_iload_5 dX0_layVoices_87 ?_
  refine x_iload_6 dX0_layVoices_89 ?_
  refine x_if_eq 98 dX0_layVoices_91 (by decide) (fun c106 => ?_) (fun c106 => ?_)
  · have h := h.1 c106
    refine x_ldcw dX0_layVoices_98 q1352 ?_
    exact x_le (xLe_cons (xLe_cons (xLe_cons (xLe_cons (xLe_cons (xLe_cons (xLe_cons (xLe_nil)))))))) (e_X0_layVoices_101 hN (by omega) _ _ _ _ _ _ _ _ _ _ _ _ _ _ h hK hR)
  · have h := h.2 c106
    refine x_iconst (v := 0) dX0_layVoices_94 (by decide) ?_
    refine x_goto 101 dX0_layVoices_95 (by decide) ?_
    exact x_le (xLe_cons (xLe_cons (xLe_cons (xLe_cons (xLe_cons (xLe_cons (xLe_cons (xLe_nil)))))))) (e_X0_layVoices_101 hN (by omega) _ _ _ _ _ _ _ _ _ _ _ _ _ _ h hK hR)
def v_X0_layVoices_57 (N : tP) (x0 : Nat) (x1 : Int32) (x2 : Int32) (x3 : Int32) (x4 : Int32) (x5 : Int32) (x6 : Int32) (y0 : Nat) (y1 : Int32) (y2 : Int32) (Kr : tM → Prop) (K : tM → Prop) (R : Int32 → tM → Prop) (s : tM) : Prop :=
  (tX s 0 y0 y1 ∧ (∀ s102 : tM, s102 = tsI s y0 y1.toNatClampNeg y2 → (tO s102 0 x0 ∧ (tX s102 11 (tR s102 x0 20) x4 ∧ ((x6 = 0 → (v_X0_layVoices_79 N x0 x1 x2 x3 x4 x5 x6 (tR s102 (tR s102 x0 20) x4.toNatClampNeg) x5 (-100000000) Kr K R s102)) ∧ (¬ x6 = 0 → (v_X0_layVoices_79 N x0 x1 x2 x3 x4 x5 x6 (tR s102 (tR s102 x0 20) x4.toNatClampNeg) x5 0 Kr K R s102)))))))
theorem e_X0_layVoices_57 {G : xG} {l : Launch} {g : xH} {d : Nat} {N : tP} (hN : tNs G N) (hd : 7 ≤ d) (x0 : Nat) (x1 : Int32) (x2 : Int32) (x3 : Int32) (x4 : Int32) (x5 : Int32) (x6 : Int32) (y0 : Nat) (y1 : Int32) (y2 : Int32) (Kr : tM → Prop) (K : tM → Prop) (R : Int32 → tM → Prop) (s : tM) (h : v_X0_layVoices_57 N x0 x1 x2 x3 x4 x5 x6 y0 y1 y2 Kr K R s) (hK : ∀ (s : tM), K s → xF G l kX0_layVoices (d + 1) 0 0 (tQ G g wu (fun _ => Kr) tNo) 128 [some (rfv x0), some (.int x1), some (.int x2), none, some (.int x4), none, none] [] (tH G g s)) (hR : ∀ (z5 : Int32) (s : tM), R z5 s → xF G l kX0_layVoices (d + 1) 0 0 (tQ G g wu (fun _ => Kr) tNo) 9 [some (rfv x0), some (.int x1), some (.int x2), some (.int x3), some (.int x4), some (.int z5), none] [] (tH G g s)) : xF G l kX0_layVoices (d + 1) 0 0 (tQ G g wu (fun _ => Kr) tNo) 57 [some (rfv x0), some (.int x1), some (.int x2), some (.int x3), some (.int x4), some (.int x5), some (.int x6)] [.int y2, .int y1, rfv y0] (tH G g s) := by
  unfold v_X0_layVoices_57 at h
  obtain ⟨e101, h⟩ := h
  refine t_iast dX0_layVoices_57 e101 ?_
  refine t_gen h (fun s102 w103 h => ?_)
  refine t_aload_0 dX0_layVoices_58 ?_
  obtain ⟨e104, h⟩ := h
  refine t_getR dX0_layVoices_59 fa_X0_100_0 (by decide) e104 ?_
  refine x_iload_4 dX0_layVoices_62 ?_
  obtain ⟨e105, h⟩ := h
  refine t_aald (t := 11) dX0_layVoices_64 ⟨rfl, by decide, by decide⟩ rfl e105 ?_
  refine x_iload_5 dX0_layVoices_65 ?_
  refine x_iload_6 dX0_layVoices_67 ?_
  refine x_if_eq 76 dX0_layVoices_69 (by decide) (fun c106 => ?_) (fun c106 => ?_)
  · have h := h.1 c106
    refine x_ldcw dX0_layVoices_76 q1353 ?_
    exact x_le (xLe_cons (xLe_cons (xLe_cons (xLe_cons (xLe_cons (xLe_cons (xLe_cons (xLe_nil)))))))) (e_X0_layVoices_79 hN (by omega) _ _ _ _ _ _ _ _ _ _ _ _ _ _ h hK hR)
  · have h := h.2 c106
    refine x_iconst (v := 0) dX0_layVoices_72 (by decide) ?_
    refine x_goto 79 dX0_layVoices_73 (by decide) ?_
    exact x_le (xLe_cons (xLe_cons (xLe_cons (xLe_cons (xLe_cons (xLe_cons (xLe_cons (xLe_nil)))))))) (e_X0_layVoices_79 hN (by omega) _ _ _ _ _ _ _ _ _ _ _ _ _ _ h hK hR)
def v_X0_layVoices_34 (N : tP) (x0 : Nat) (x1 : Int32) (x2 : Int32) (x3 : Int32) (x4 : Int32) (x5 : Int32) (y0 : Int32) (Kr : tM → Prop) (K : tM → Prop) (R : Int32 → tM → Prop) (s : tM) : Prop :=
  (tO s 0 x0 ∧ (tX s 11 (tR s x0 19) x4 ∧ ((y0 = 0 → (v_X0_layVoices_57 N x0 x1 x2 x3 x4 x5 y0 (tR s (tR s x0 19) x4.toNatClampNeg) x5 100000000 Kr K R s)) ∧ (¬ y0 = 0 → (v_X0_layVoices_57 N x0 x1 x2 x3 x4 x5 y0 (tR s (tR s x0 19) x4.toNatClampNeg) x5 0 Kr K R s)))))
theorem e_X0_layVoices_34 {G : xG} {l : Launch} {g : xH} {d : Nat} {N : tP} (hN : tNs G N) (hd : 7 ≤ d) (x0 : Nat) (x1 : Int32) (x2 : Int32) (x3 : Int32) (x4 : Int32) (x5 : Int32) (y0 : Int32) (Kr : tM → Prop) (K : tM → Prop) (R : Int32 → tM → Prop) (s : tM) (h : v_X0_layVoices_34 N x0 x1 x2 x3 x4 x5 y0 Kr K R s) (hK : ∀ (s : tM), K s → xF G l kX0_layVoices (d + 1) 0 0 (tQ G g wu (fun _ => Kr) tNo) 128 [some (rfv x0), some (.int x1), some (.int x2), none, some (.int x4), none, none] [] (tH G g s)) (hR : ∀ (z5 : Int32) (s : tM), R z5 s → xF G l kX0_layVoices (d + 1) 0 0 (tQ G g wu (fun _ => Kr) tNo) 9 [some (rfv x0), some (.int x1), some (.int x2), some (.int x3), some (.int x4), some (.int z5), none] [] (tH G g s)) : xF G l kX0_layVoices (d + 1) 0 0 (tQ G g wu (fun _ => Kr) tNo) 34 [some (rfv x0), some (.int x1), some (.int x2), some (.int x3), some (.int x4), some (.int x5), none] [.int y0] (tH G g s) := by
  unfold v_X0_layVoices_34 at h
  refine x_istore_6 dX0_layVoices_34 (by decide) xN2_i ?_
  refine t_aload_0 dX0_layVoices_36 ?_
  obtain ⟨e101, h⟩ := h
  refine t_getR dX0_layVoices_37 fa_X0_97_0 (by decide) e101 ?_
  refine x_iload_4 dX0_layVoices_40 ?_
  obtain ⟨e102, h⟩ := h
  refine t_aald (t := 11) dX0_layVoices_42 ⟨rfl, by decide, by decide⟩ rfl e102 ?_
  refine x_iload_5 dX0_layVoices_43 ?_
  refine x_iload_6 dX0_layVoices_45 ?_
  refine x_if_eq 54 dX0_layVoices_47 (by decide) (fun c103 => ?_) (fun c103 => ?_)
  · have h := h.1 c103
    refine x_ldcw dX0_layVoices_54 q1352 ?_
    exact x_le (xLe_cons (xLe_cons (xLe_cons (xLe_cons (xLe_cons (xLe_cons (xLe_cons (xLe_nil)))))))) (e_X0_layVoices_57 hN (by omega) _ _ _ _ _ _ _ _ _ _ _ _ _ _ h hK hR)
  · have h := h.2 c103
    refine x_iconst (v := 0) dX0_layVoices_50 (by decide) ?_
    refine x_goto 57 dX0_layVoices_51 (by decide) ?_
    exact x_le (xLe_cons (xLe_cons (xLe_cons (xLe_cons (xLe_cons (xLe_cons (xLe_cons (xLe_nil)))))))) (e_X0_layVoices_57 hN (by omega) _ _ _ _ _ _ _ _ _ _ _ _ _ _ h hK hR)
def v_X0_layVoices_29 (N : tP) (x0 : Nat) (x1 : Int32) (x2 : Int32) (x3 : Int32) (x4 : Int32) (x5 : Int32) (Kr : tM → Prop) (K : tM → Prop) (R : Int32 → tM → Prop) (s : tM) : Prop :=
  (v_X0_layVoices_34 N x0 x1 x2 x3 x4 x5 1 Kr K R s)
theorem e_X0_layVoices_29 {G : xG} {l : Launch} {g : xH} {d : Nat} {N : tP} (hN : tNs G N) (hd : 7 ≤ d) (x0 : Nat) (x1 : Int32) (x2 : Int32) (x3 : Int32) (x4 : Int32) (x5 : Int32) (Kr : tM → Prop) (K : tM → Prop) (R : Int32 → tM → Prop) (s : tM) (h : v_X0_layVoices_29 N x0 x1 x2 x3 x4 x5 Kr K R s) (hK : ∀ (s : tM), K s → xF G l kX0_layVoices (d + 1) 0 0 (tQ G g wu (fun _ => Kr) tNo) 128 [some (rfv x0), some (.int x1), some (.int x2), none, some (.int x4), none, none] [] (tH G g s)) (hR : ∀ (z5 : Int32) (s : tM), R z5 s → xF G l kX0_layVoices (d + 1) 0 0 (tQ G g wu (fun _ => Kr) tNo) 9 [some (rfv x0), some (.int x1), some (.int x2), some (.int x3), some (.int x4), some (.int z5), none] [] (tH G g s)) : xF G l kX0_layVoices (d + 1) 0 0 (tQ G g wu (fun _ => Kr) tNo) 29 [some (rfv x0), some (.int x1), some (.int x2), some (.int x3), some (.int x4), some (.int x5), none] [] (tH G g s) := by
  unfold v_X0_layVoices_29 at h
  refine x_iconst (v := 1) dX0_layVoices_29 (by decide) ?_
  refine x_goto 34 dX0_layVoices_30 (by decide) ?_
  exact x_le (xLe_cons (xLe_cons (xLe_cons (xLe_cons (xLe_cons (xLe_cons (xLe_cons (xLe_nil)))))))) (e_X0_layVoices_34 hN (by omega) _ _ _ _ _ _ _ _ _ _ _ h hK hR)
def v_X0_layVoices_9 (N : tP) (x0 : Nat) (x1 : Int32) (x2 : Int32) (x3 : Int32) (x4 : Int32) (Kr : tM → Prop) (K : tM → Prop) : Nat → Int32 → tM → Prop
  | 0, _, _ => False
  | t + 1, x5, s => ((25 < x5 → (K s)) ∧ (¬ 25 < x5 → ((x3 = (-1) → (v_X0_layVoices_29 N x0 x1 x2 x3 x4 x5 Kr K (fun x5 s => v_X0_layVoices_9 N x0 x1 x2 x3 x4 Kr K t x5 s) s)) ∧ (¬ x3 = (-1) → ((¬ x5 = (x3 + 1) → (v_X0_layVoices_34 N x0 x1 x2 x3 x4 x5 0 Kr K (fun x5 s => v_X0_layVoices_9 N x0 x1 x2 x3 x4 Kr K t x5 s) s)) ∧ (x5 = (x3 + 1) → (v_X0_layVoices_29 N x0 x1 x2 x3 x4 x5 Kr K (fun x5 s => v_X0_layVoices_9 N x0 x1 x2 x3 x4 Kr K t x5 s) s)))))))
theorem e_X0_layVoices_9 {G : xG} {l : Launch} {g : xH} {d : Nat} {N : tP} (hN : tNs G N) (hd : 7 ≤ d) (x0 : Nat) (x1 : Int32) (x2 : Int32) (x3 : Int32) (x4 : Int32) (Kr : tM → Prop) (K : tM → Prop) : ∀ (t : Nat) (x5 : Int32) (s : tM) , v_X0_layVoices_9 N x0 x1 x2 x3 x4 Kr K t x5 s → (∀ (s : tM), K s → xF G l kX0_layVoices (d + 1) 0 0 (tQ G g wu (fun _ => Kr) tNo) 128 [some (rfv x0), some (.int x1), some (.int x2), none, some (.int x4), none, none] [] (tH G g s)) → xF G l kX0_layVoices (d + 1) 0 0 (tQ G g wu (fun _ => Kr) tNo) 9 [some (rfv x0), some (.int x1), some (.int x2), some (.int x3), some (.int x4), some (.int x5), none] [] (tH G g s) := by
  intro t
  induction t with
  | zero =>
    intro _ _ h _
    exact absurd h (by simp [v_X0_layVoices_9])
  | succ t ih =>
    intro x5 s h hK
    have hR := fun x5 s h => ih x5 s h hK
    unfold v_X0_layVoices_9 at h
    refine x_iload_5 dX0_layVoices_9 ?_
    refine x_bipush (v := 25) dX0_layVoices_11 (by decide) ?_
    refine x_icmp_gt 128 dX0_layVoices_13 (by decide) (fun c101 => ?_) (fun c101 => ?_)
    · have h := h.1 c101
      exact x_le (xLe_cons (xLe_cons (xLe_cons (xLe_none (xLe_cons (xLe_none (xLe_cons (xLe_nil)))))))) (hK _ h)
    · have h := h.2 c101
      refine x_iload_3 dX0_layVoices_16 ?_
      refine x_iconst (v := (-1)) dX0_layVoices_17 (by decide) ?_
      refine x_icmp_eq 29 dX0_layVoices_18 (by decide) (fun c102 => ?_) (fun c102 => ?_)
      · have h := h.1 c102
        exact x_le (xLe_cons (xLe_cons (xLe_cons (xLe_cons (xLe_cons (xLe_cons (xLe_cons (xLe_nil)))))))) (e_X0_layVoices_29 hN (by omega) _ _ _ _ _ _ _ _ _ _ h hK hR)
      · have h := h.2 c102
        refine x_iload_5 dX0_layVoices_21 ?_
        refine x_iload_3 dX0_layVoices_23 ?_
        refine x_iconst (v := 1) dX0_layVoices_24 (by decide) ?_
        refine x_iadd dX0_layVoices_25 ?_
        refine x_icmp_ne 33 dX0_layVoices_26 (by decide) (fun c103 => ?_) (fun c103 => ?_)
        · have h := h.1 c103
          refine x_iconst (v := 0) dX0_layVoices_33 (by decide) ?_
          exact x_le (xLe_cons (xLe_cons (xLe_cons (xLe_cons (xLe_cons (xLe_cons (xLe_cons (xLe_nil)))))))) (e_X0_layVoices_34 hN (by omega) _ _ _ _ _ _ _ _ _ _ _ h hK hR)
        · have h := h.2 c103
          exact x_le (xLe_cons (xLe_cons (xLe_cons (xLe_cons (xLe_cons (xLe_cons (xLe_cons (xLe_nil)))))))) (e_X0_layVoices_29 hN (by omega) _ _ _ _ _ _ _ _ _ _ h hK hR)
def v_X0_layVoices (N : tP) (x0 : Nat) (x1 : Int32) (x2 : Int32) (x3 : Int32) (s : tM) (Kr : tM → Prop) : Prop :=
  (tO s 0 x0 ∧ (v_X0_nNotes x0 s (fun x101 s102 => (v_X0_layVoices_9 N x0 x1 x2 x3 x101 Kr (fun s104 => (∀ x105 : Int32, x105 = x101 - 1 → (v_X0_layVoices_134 N x0 x1 x2 Kr (fun s106 => (Kr s106)) N.1 x105 s104))) N.1 0 s102))))
theorem e_X0_layVoices {G : xG} {l : Launch} {g : xH} {d : Nat} {N : tP} (hN : tNs G N) (hd : 8 ≤ d) {x0 : Nat} {x1 : Int32} {x2 : Int32} {x3 : Int32} {s : tM} {Kr : tM → Prop} (h : v_X0_layVoices N x0 x1 x2 x3 s Kr) : xC G l kX0_layVoices d 0 0 [rfv x0, .int x1, .int x2, .int x3] (tH G g s) (tQ G g wu (fun _ => Kr) tNo) := by
  obtain ⟨d, rfl⟩ : ∃ z, d = z + 1 := ⟨d - 1, by omega⟩
  refine t_start rfl (by decide +kernel) (by simp [xct_i, xct_l, rfv_c]) (lv := [some (rfv x0), some (.int x1), some (.int x2), some (.int x3), none, none, none]) (by simp [lv_args, xLv, rfv_c, xct_i, xct_l]) ?_
  unfold v_X0_layVoices at h
  refine t_aload_0 dX0_layVoices_0 ?_
  obtain ⟨e103, h⟩ := h
  refine t_cVi (As := []) rfl cv_X0_142 rfl e103 rfl rfl (xrm4 (Nat.le_of_ble_eq_true rfl)) dX0_layVoices_1 (e_X0_nNotes (by omega) h) ⟨Nat.zero_le _, Nat.zero_le _⟩ (fun _ _ _ h => h.elim) (fun x101 s102 h => ?_)
  refine x_istore_4 dX0_layVoices_4 (by decide) xN2_i ?_
  refine x_iconst (v := 0) dX0_layVoices_6 (by decide) ?_
  refine x_istore_5 dX0_layVoices_7 (by decide) xN2_i ?_
  refine x_le (xLe_cons (xLe_cons (xLe_cons (xLe_cons (xLe_cons (xLe_cons (xLe_cons (xLe_nil)))))))) (e_X0_layVoices_9 hN (by omega) _ _ _ _ _ _ _  _ _ _ h (fun s104 h => ?_))
  refine x_iload_4 dX0_layVoices_128 ?_
  refine x_iconst (v := 1) dX0_layVoices_130 (by decide) ?_
  refine x_isub dX0_layVoices_131 ?_
  refine x_istore_5 dX0_layVoices_132 (by decide) xN2_i ?_
  have h := h _ rfl
  refine x_le (xLe_cons (xLe_cons (xLe_cons (xLe_cons (xLe_none (xLe_cons (xLe_cons (xLe_nil)))))))) (e_X0_layVoices_134 hN (by omega) _ _ _ _ _  _ _ _ h (fun s106 h => ?_))
  exact x_vret dX0_layVoices_194 rfl (Or.inl ⟨(), _, h, rfl, rfl⟩)
def v_X0_layAll (N : tP) (x0 : Nat) (s : tM) (Kr : tM → Prop) : Prop :=
  (tO s 0 x0 ∧ (v_X0_layNotes N x0 1 s (fun s102 => (tO s102 0 x0 ∧ (tO s102 1 (tR s102 x0 0) ∧ (tX s102 0 (tR s102 (tR s102 x0 0) 1) 3 ∧ (tX s102 0 (tR s102 (tR s102 x0 0) 1) 4 ∧ (v_X0_layVoices N x0 (tI s102 (tR s102 (tR s102 x0 0) 1) 3) (tI s102 (tR s102 (tR s102 x0 0) 1) 4) (-1) s102 (fun s109 => (Kr s109))))))))))
theorem e_X0_layAll {G : xG} {l : Launch} {g : xH} {d : Nat} {N : tP} (hN : tNs G N) (hd : 2 * N.2.1 + 22 ≤ d) {x0 : Nat} {s : tM} {Kr : tM → Prop} (h : v_X0_layAll N x0 s Kr) : xC G l kX0_layAll d 0 0 [rfv x0] (tH G g s) (tQ G g wu (fun _ => Kr) tNo) := by
  obtain ⟨d, rfl⟩ : ∃ z, d = z + 1 := ⟨d - 1, by omega⟩
  refine t_start rfl (by decide +kernel) (by simp [xct_i, xct_l, rfv_c]) (lv := [some (rfv x0)]) (by simp [lv_args, xLv, rfv_c, xct_i, xct_l]) ?_
  unfold v_X0_layAll at h
  refine t_aload_0 dX0_layAll_0 ?_
  refine x_iconst (v := 1) dX0_layAll_1 (by decide) ?_
  obtain ⟨e103, h⟩ := h
  refine t_cVv (As := [_]) rfl cv_X0_352 rfl e103 rfl rfl (xrm4 (Nat.le_of_ble_eq_true rfl)) dX0_layAll_2 (e_X0_layNotes hN (by omega) h) ⟨Nat.zero_le _, Nat.zero_le _⟩ (fun _ _ _ h => h.elim) (fun _ s102 h => ?_)
  refine t_aload_0 dX0_layAll_5 ?_
  refine t_aload_0 dX0_layAll_6 ?_
  obtain ⟨e104, h⟩ := h
  refine t_getR dX0_layAll_7 fa_X0_18_0 (by decide) e104 ?_
  obtain ⟨e105, h⟩ := h
  refine t_getR dX0_layAll_10 fa_X0_199_1 (by decide) e105 ?_
  refine x_iconst (v := 3) dX0_layAll_13 (by decide) ?_
  obtain ⟨e106, h⟩ := h
  refine t_iald dX0_layAll_14 e106 ?_
  refine t_aload_0 dX0_layAll_15 ?_
  refine t_getR dX0_layAll_16 fa_X0_18_0 (by decide) e104 ?_
  refine t_getR dX0_layAll_19 fa_X0_199_1 (by decide) e105 ?_
  refine x_iconst (v := 4) dX0_layAll_22 (by decide) ?_
  obtain ⟨e107, h⟩ := h
  refine t_iald dX0_layAll_23 e107 ?_
  refine x_iconst (v := (-1)) dX0_layAll_24 (by decide) ?_
  refine t_cVv (As := [_, _, _]) rfl cv_X0_356 rfl e104 rfl rfl (xrm4 (Nat.le_of_ble_eq_true rfl)) dX0_layAll_25 (e_X0_layVoices hN (by omega) h) ⟨Nat.zero_le _, Nat.zero_le _⟩ (fun _ _ _ h => h.elim) (fun _ s109 h => ?_)
  exact x_vret dX0_layAll_28 rfl (Or.inl ⟨(), _, h, rfl, rfl⟩)
