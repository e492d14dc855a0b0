set_option maxRecDepth 100000
def v_J0_init (x0 : Nat) (s : tM) (Kr : tM → Prop) : Prop :=
  (tO s 20 x0 ∧ (Kr s))
theorem e_J0_init {G : xG} {l : Launch} {g : xH} {d : Nat} (hd : 2 ≤ d) {x0 : Nat} {s : tM} {Kr : tM → Prop} (h : v_J0_init x0 s Kr) : xC G l kJ0_init d 0 0 [rfv x0] (tH G g s) (tQ G g wu (fun _ => Kr) tNo) := by
  obtain ⟨d, rfl⟩ : ∃ z, d = z + 1 := ⟨d - 1, by omega⟩
  refine t_start rfl (by decide +kernel) (by simp [xct_i, xct_l, rfv_c]) (lv := [some (rfv x0)]) (by simp [lv_args, xLv, rfv_c, xct_i, xct_l]) ?_
  unfold v_J0_init at h
  refine t_aload_0 dJ0_init_0 ?_
  obtain ⟨e101, h⟩ := h
  refine t_obj dJ0_init_1 ob_J0_1 e101.2 (Nat.le_of_ble_eq_true rfl) (by omega) ?_
  exact x_vret dJ0_init_4 rfl (Or.inl ⟨(), _, h, rfl, rfl⟩)
def v_J15_copyOf_2 (N : tP) (x0 : Nat) (x1 : Int32) (x2 : Nat) (k n : Nat) (s : tM) (Kr : Nat → tM → Prop) : Prop :=
  ((¬ x2 = (N.2.2 201) → False) ∧ (x2 = (N.2.2 201) → (¬ x1 < 0 ∧ (x1.toNatClampNeg * 4 ≤ 536870912 ∧ (1 ≤ k ∧ (x1.toNatClampNeg ≤ n ∧ (∀ q106 : Nat, s.1 q106 = none → ¬ q106 = 0 → ¬ q106 = N.2.2 200 → (∀ s107 : tM, s107 = tNew s q106 (.inr (10, x1.toNatClampNeg)) → (tLE N s107 x0 ∧ (∀ x110 : Int32, x110 = (if x1 < (Int32.ofNat (tLen s107 x0)) then x1 else (Int32.ofNat (tLen s107 x0))) → (((tCpOk s107 10 x0 q106 0 0 x110 ∧ ∀ i : Nat, i < x110.toNatClampNeg → tR s107 x0 (0 + i) = 0 ∨ ∃ ci, xSt 10 ci ∧ tO s107 ci (tR s107 x0 (0 + i))) ∨ (x0 = N.2.2 200 ∧ (0 : Int32) = 0 ∧ (0 : Int32) = 0 ∧ (x110 : Int32) = 0 ∧ ∃ n1, tA s107 10 n1 q106)) ∧ (∀ s112 : tM, s112 = tCpR s107 x0 q106 0 0 x110.toNatClampNeg → (Kr q106 s112)))))))))))))
theorem e_J15_copyOf_2 {G : xG} {l : Launch} {g : xH} {d : Nat} {N : tP} (hN : tNs G N) (hd : 2 ≤ d) {x0 : Nat} {x1 : Int32} {x2 : Nat} {k n : Nat} {s : tM} {Kr : Nat → tM → Prop} (h : v_J15_copyOf_2 N x0 x1 x2 k n s Kr) : xC G l kJ15_copyOf_2 d k n [rfv x0, .int x1, rfv x2] (tH G g s) (tQ G g wr Kr tNo) := by
  obtain ⟨d, rfl⟩ : ∃ z, d = z + 1 := ⟨d - 1, by omega⟩
  refine t_start rfl (by decide +kernel) (by simp [xct_i, xct_l, rfv_c]) (lv := [some (rfv x0), some (.int x1), some (rfv x2), none]) (by simp [lv_args, xLv, rfv_c, xct_i, xct_l]) ?_
  unfold v_J15_copyOf_2 at h
  refine t_aload_2 dJ15_copyOf_2_0 ?_
  refine t_ldcM hN q1250 dJ15_copyOf_2_1 ?_
  refine t_acmp_ne 13 dJ15_copyOf_2_3 (by decide) (fun c101 => ?_) (fun c101 => ?_)
  · have h := h.1 c101
    refine t_aload_2 dJ15_copyOf_2_13 ?_
    exact h.elim
  · have h := h.2 c101
    refine x_iload_1 dJ15_copyOf_2_6 ?_
    obtain ⟨e102, h⟩ := h
    obtain ⟨e103, h⟩ := h
    obtain ⟨e104, h⟩ := h
    obtain ⟨e105, h⟩ := h
    refine t_anew (t := 10) (N := _) dJ15_copyOf_2_7 nq_J15_2 e102 rfl e103 e104 e105 (fun q h1 h2 h3 => ?_)
    have h := h q h1 h2 (fun e => h3 (e.trans (hN 200)))
    refine t_gen h (fun s107 w108 h => ?_)
    refine x_goto 24 dJ15_copyOf_2_10 (by decide) ?_
    refine t_astore_3 dJ15_copyOf_2_24 (by decide) xN2_f ?_
    refine t_aload_0 dJ15_copyOf_2_25 ?_
    refine x_iconst (v := 0) dJ15_copyOf_2_26 (by decide) ?_
    refine t_aload_3 dJ15_copyOf_2_27 ?_
    refine x_iconst (v := 0) dJ15_copyOf_2_28 (by decide) ?_
    refine t_aload_0 dJ15_copyOf_2_29 ?_
    obtain ⟨e109, h⟩ := h
    refine t_alenE hN dJ15_copyOf_2_30 e109 ?_
    refine x_iload_1 dJ15_copyOf_2_31 ?_
    refine t_mmin ma_J15_304 (by omega) (xrm4 (Nat.le_of_ble_eq_true rfl)) dJ15_copyOf_2_32 ?_
    have h := h _ rfl
    obtain ⟨e111, h⟩ := h
    refine t_copyE hN dJ15_copyOf_2_35 na_J15_150 e111 (by omega) (by decide) ?_
    refine t_gen h (fun s112 w113 h => ?_)
    refine t_aload_3 dJ15_copyOf_2_38 ?_
    exact t_aret dJ15_copyOf_2_39 rfl (by first | exact Or.inl ⟨_, rfl⟩ | exact Or.inr ⟨_, rfl⟩) (Or.inl ⟨_, _, h, rfl, rfl⟩)
def v_J15_copyOf (N : tP) (x0 : Nat) (x1 : Int32) (k n : Nat) (s : tM) (Kr : Nat → tM → Prop) : Prop :=
  (tLE N s x0 ∧ (∃ c104 c105 : Nat, c104 ≤ k ∧ c105 ≤ n ∧ (v_J15_copyOf_2 N x0 x1 (N.2.2 201) c104 c105 s (fun x102 s103 => (Kr x102 s103)))))
theorem e_J15_copyOf {G : xG} {l : Launch} {g : xH} {d : Nat} {N : tP} (hN : tNs G N) (hd : 4 ≤ d) {x0 : Nat} {x1 : Int32} {k n : Nat} {s : tM} {Kr : Nat → tM → Prop} (h : v_J15_copyOf N x0 x1 k n s Kr) : xC G l kJ15_copyOf d k n [rfv x0, .int x1] (tH G g s) (tQ G g wr Kr tNo) := by
  obtain ⟨d, rfl⟩ : ∃ z, d = z + 1 := ⟨d - 1, by omega⟩
  refine t_start rfl (by decide +kernel) (by simp [xct_i, xct_l, rfv_c]) (lv := [some (rfv x0), some (.int x1)]) (by simp [lv_args, xLv, rfv_c, xct_i, xct_l]) ?_
  unfold v_J15_copyOf at h
  refine t_aload_0 dJ15_copyOf_0 ?_
  refine x_iload_1 dJ15_copyOf_1 ?_
  refine t_aload_0 dJ15_copyOf_2 ?_
  obtain ⟨e101, h⟩ := h
  refine t_getC hN q1221 e101 (by omega) (xrm4 (Nat.le_of_ble_eq_true rfl)) dJ15_copyOf_3 ?_
  obtain ⟨c104, c105, e106, e107, h⟩ := h
  refine t_cSr (As := [_, _, _]) rfl cs_J15_300 rfl rfl (xrm4 (Nat.le_of_ble_eq_true rfl)) dJ15_copyOf_6 (e_J15_copyOf_2 hN (by omega) h) ⟨e106, e107⟩ (fun _ _ _ h => h.elim) (fun x102 s103 h => ?_)
  exact t_aret dJ15_copyOf_9 rfl (by first | exact Or.inl ⟨_, rfl⟩ | exact Or.inr ⟨_, rfl⟩) (Or.inl ⟨_, _, h, rfl, rfl⟩)
def v_J1_init (x0 : Nat) (s : tM) (Kr : tM → Prop) : Prop :=
  (tO s 20 x0 ∧ (v_J0_init x0 s (fun s102 => (tO s102 20 x0 ∧ (∀ s105 : tM, s105 = tsI s102 x0 0 0 → (Kr s105))))))
theorem e_J1_init {G : xG} {l : Launch} {g : xH} {d : Nat} (hd : 4 ≤ d) {x0 : Nat} {s : tM} {Kr : tM → Prop} (h : v_J1_init x0 s Kr) : xC G l kJ1_init d 0 0 [rfv x0] (tH G g s) (tQ G g wu (fun _ => Kr) tNo) := by
  obtain ⟨d, rfl⟩ : ∃ z, d = z + 1 := ⟨d - 1, by omega⟩
  refine t_start rfl (by decide +kernel) (by simp [xct_i, xct_l, rfv_c]) (lv := [some (rfv x0)]) (by simp [lv_args, xLv, rfv_c, xct_i, xct_l]) ?_
  unfold v_J1_init at h
  refine t_aload_0 dJ1_init_0 ?_
  obtain ⟨e103, h⟩ := h
  refine t_cI (As := []) rfl ci_J1_1 e103.2 rfl rfl (xrm4 (Nat.le_of_ble_eq_true rfl)) dJ1_init_1 (e_J0_init (by omega) h) ⟨Nat.zero_le _, Nat.zero_le _⟩ (fun _ _ _ h => h.elim) (fun _ s102 h => ?_)
  refine t_aload_0 dJ1_init_4 ?_
  refine x_iconst (v := 0) dJ1_init_5 (by decide) ?_
  obtain ⟨e104, h⟩ := h
  refine t_putI (j := 0) dJ1_init_6 fp_J1_7_20 (by decide) e104 rfl rfl ?_
  refine t_gen h (fun s105 w106 h => ?_)
  exact x_vret dJ1_init_9 rfl (Or.inl ⟨(), _, h, rfl, rfl⟩)
def v_J2_grow_2_20 (N : tP) (x0 : Nat) (x1 : Int32) (x2 : Int32) (Kr : Nat → tM → Prop) (k n : Nat) (s : tM) : Prop :=
  False
theorem e_J2_grow_2_20 {G : xG} {l : Launch} {g : xH} {d : Nat} {N : tP} (hN : tNs G N) (hd : 5 ≤ d) (x0 : Nat) (x1 : Int32) (x2 : Int32) (Kr : Nat → tM → Prop) (k n : Nat) (s : tM) (h : v_J2_grow_2_20 N x0 x1 x2 Kr k n s) : xF G l kJ2_grow_2 (d + 1) k n (tQ G g wr Kr tNo) 20 [some (rfv x0), some (.int x1), some (.int x2), none] [] (tH G g s) := by
  unfold v_J2_grow_2_20 at h
  refine x_iload_2 dJ2_grow_2_20 ?_
  refine x_iload_1 dJ2_grow_2_21 ?_
  refine x_iload_2 dJ2_grow_2_22 ?_
  refine x_isub dJ2_grow_2_23 ?_
  refine x_iload_2 dJ2_grow_2_24 ?_
  refine x_iconst (v := 1) dJ2_grow_2_25 (by decide) ?_
  refine x_ishr dJ2_grow_2_26 ?_
  exact h.elim
def v_J2_grow_2 (N : tP) (x0 : Nat) (x1 : Int32) (k n : Nat) (s : tM) (Kr : Nat → tM → Prop) : Prop :=
  (tO s 20 x0 ∧ (tLE N s (tR s x0 1) ∧ (∀ x103 : Int32, x103 = Int32.ofNat (tLen s (tR s x0 1)) → ((0 < x103 → (v_J2_grow_2_20 N x0 x1 x103 Kr k n s)) ∧ (¬ 0 < x103 → (((tR s x0 1) = (N.2.2 200) → (∀ x106 : Int32, x106 = (if 10 < x1 then x1 else 10) → (¬ x106 < 0 ∧ (x106.toNatClampNeg * 4 ≤ 536870912 ∧ (1 ≤ k ∧ (x106.toNatClampNeg ≤ n ∧ (∀ q111 : Nat, s.1 q111 = none → ¬ q111 = 0 → ¬ q111 = N.2.2 200 → (∀ s112 : tM, s112 = tNew s q111 (.inr (10, x106.toNatClampNeg)) → (tO s112 20 x0 ∧ (∀ s115 : tM, s115 = tsR s112 x0 1 q111 → (Kr q111 s115))))))))))) ∧ (¬ (tR s x0 1) = (N.2.2 200) → (v_J2_grow_2_20 N x0 x1 x103 Kr k n s))))))))
theorem e_J2_grow_2 {G : xG} {l : Launch} {g : xH} {d : Nat} {N : tP} (hN : tNs G N) (hd : 6 ≤ d) {x0 : Nat} {x1 : Int32} {k n : Nat} {s : tM} {Kr : Nat → tM → Prop} (h : v_J2_grow_2 N x0 x1 k n s Kr) : xC G l kJ2_grow_2 d k n [rfv x0, .int x1] (tH G g s) (tQ G g wr Kr tNo) := by
  obtain ⟨d, rfl⟩ : ∃ z, d = z + 1 := ⟨d - 1, by omega⟩
  refine t_start rfl (by decide +kernel) (by simp [xct_i, xct_l, rfv_c]) (lv := [some (rfv x0), some (.int x1), none, none]) (by simp [lv_args, xLv, rfv_c, xct_i, xct_l]) ?_
  unfold v_J2_grow_2 at h
  refine t_aload_0 dJ2_grow_2_0 ?_
  obtain ⟨e101, h⟩ := h
  refine t_getR dJ2_grow_2_1 fa_J2_9_20 (by decide) e101 ?_
  obtain ⟨e102, h⟩ := h
  refine t_alenE hN dJ2_grow_2_4 e102 ?_
  refine x_istore_2 dJ2_grow_2_5 (by decide) xN2_i ?_
  have h := h _ rfl
  refine x_iload_2 dJ2_grow_2_6 ?_
  refine x_if_gt 20 dJ2_grow_2_7 (by decide) (fun c104 => ?_) (fun c104 => ?_)
  · have h := h.1 c104
    exact x_le (xLe_cons (xLe_cons (xLe_cons (xLe_cons (xLe_nil))))) (e_J2_grow_2_20 hN (by omega) _ _ _ _ _ _ _ h)
  · have h := h.2 c104
    refine t_aload_0 dJ2_grow_2_10 ?_
    refine t_getR dJ2_grow_2_11 fa_J2_9_20 (by decide) e101 ?_
    refine t_gsE hN q196 dJ2_grow_2_14 ?_
    refine t_acmp_eq 45 dJ2_grow_2_17 (by decide) (fun c105 => ?_) (fun c105 => ?_)
    · have h := h.1 c105
      refine t_aload_0 dJ2_grow_2_45 ?_
      refine x_bipush (v := 10) dJ2_grow_2_46 (by decide) ?_
      refine x_iload_1 dJ2_grow_2_48 ?_
      refine t_mmax ma_J2_79 (by omega) (xrm4 (Nat.le_of_ble_eq_true rfl)) dJ2_grow_2_49 ?_
      have h := h _ rfl
      obtain ⟨e107, h⟩ := h
      obtain ⟨e108, h⟩ := h
      obtain ⟨e109, h⟩ := h
      obtain ⟨e110, h⟩ := h
      refine t_anew (t := 10) (N := _) dJ2_grow_2_52 nq_J2_7 e107 rfl e108 e109 e110 (fun q h1 h2 h3 => ?_)
      have h := h q h1 h2 (fun e => h3 (e.trans (hN 200)))
      refine t_gen h (fun s112 w113 h => ?_)
      refine x_dup_x1 dJ2_grow_2_55 (rfv_c _) (rfv_c _) ?_
      obtain ⟨e114, h⟩ := h
      refine t_putR (j := 1) dJ2_grow_2_56 fp_J2_9_20 (by decide) e114 rfl ?_
      refine t_gen h (fun s115 w116 h => ?_)
      exact t_aret dJ2_grow_2_59 rfl (by first | exact Or.inl ⟨_, rfl⟩ | exact Or.inr ⟨_, rfl⟩) (Or.inl ⟨_, _, h, rfl, rfl⟩)
    · have h := h.2 c105
      exact x_le (xLe_cons (xLe_cons (xLe_cons (xLe_cons (xLe_nil))))) (e_J2_grow_2_20 hN (by omega) _ _ _ _ _ _ _ h)
def v_J2_grow (N : tP) (x0 : Nat) (k n : Nat) (s : tM) (Kr : Nat → tM → Prop) : Prop :=
  (tO s 20 x0 ∧ (∃ c104 c105 : Nat, c104 ≤ k ∧ c105 ≤ n ∧ (v_J2_grow_2 N x0 ((tI s x0 2) + 1) c104 c105 s (fun x102 s103 => (Kr x102 s103)))))
theorem e_J2_grow {G : xG} {l : Launch} {g : xH} {d : Nat} {N : tP} (hN : tNs G N) (hd : 8 ≤ d) {x0 : Nat} {k n : Nat} {s : tM} {Kr : Nat → tM → Prop} (h : v_J2_grow N x0 k n s Kr) : xC G l kJ2_grow d k n [rfv x0] (tH G g s) (tQ G g wr Kr tNo) := by
  obtain ⟨d, rfl⟩ : ∃ z, d = z + 1 := ⟨d - 1, by omega⟩
  refine t_start rfl (by decide +kernel) (by simp [xct_i, xct_l, rfv_c]) (lv := [some (rfv x0)]) (by simp [lv_args, xLv, rfv_c, xct_i, xct_l]) ?_
  unfold v_J2_grow at h
  refine t_aload_0 dJ2_grow_0 ?_
  refine t_aload_0 dJ2_grow_1 ?_
  obtain ⟨e101, h⟩ := h
  refine t_getI dJ2_grow_2 fa_J2_48_20 (by decide) e101 ?_
  refine x_iconst (v := 1) dJ2_grow_5 (by decide) ?_
  refine x_iadd dJ2_grow_6 ?_
  obtain ⟨c104, c105, e106, e107, h⟩ := h
  refine t_cVr (As := [_]) rfl cv_J2_69 rfl e101 rfl rfl (xrm4 (Nat.le_of_ble_eq_true rfl)) dJ2_grow_7 (e_J2_grow_2 hN (by omega) h) ⟨e106, e107⟩ (fun _ _ _ h => h.elim) (fun x102 s103 h => ?_)
  exact t_aret dJ2_grow_10 rfl (by first | exact Or.inl ⟨_, rfl⟩ | exact Or.inr ⟨_, rfl⟩) (Or.inl ⟨_, _, h, rfl, rfl⟩)
def v_J2_add_2_11 (N : tP) (x0 : Nat) (x1 : Nat) (x2 : Nat) (x3 : Int32) (Kr : tM → Prop) (k n : Nat) (s : tM) : Prop :=
  (tX s 10 x2 x3 ∧ (tO s 5 x1 ∧ (∀ s103 : tM, s103 = tsR s x2 x3.toNatClampNeg x1 → (tO s103 20 x0 ∧ (∀ s106 : tM, s106 = tsI s103 x0 2 (x3 + 1) → (Kr s106))))))
theorem e_J2_add_2_11 {G : xG} {l : Launch} {g : xH} {d : Nat} {N : tP} (hN : tNs G N) (hd : 9 ≤ d) (x0 : Nat) (x1 : Nat) (x2 : Nat) (x3 : Int32) (Kr : tM → Prop) (k n : Nat) (s : tM) (h : v_J2_add_2_11 N x0 x1 x2 x3 Kr k n s) : xF G l kJ2_add_2 (d + 1) k n (tQ G g wu (fun _ => Kr) tNo) 11 [some (rfv x0), some (rfv x1), some (rfv x2), some (.int x3)] [] (tH G g s) := by
  unfold v_J2_add_2_11 at h
  refine t_aload_2 dJ2_add_2_11 ?_
  refine x_iload_3 dJ2_add_2_12 ?_
  refine t_aload_1 dJ2_add_2_13 ?_
  obtain ⟨e101, h⟩ := h
  obtain ⟨e102, h⟩ := h
  refine t_aast (ci := 5) dJ2_add_2_14 st_10_5 e102 e101 ?_
  refine t_gen h (fun s103 w104 h => ?_)
  refine t_aload_0 dJ2_add_2_15 ?_
  refine x_iload_3 dJ2_add_2_16 ?_
  refine x_iconst (v := 1) dJ2_add_2_17 (by decide) ?_
  refine x_iadd dJ2_add_2_18 ?_
  obtain ⟨e105, h⟩ := h
  refine t_putI (j := 2) dJ2_add_2_19 fp_J2_48_20 (by decide) e105 rfl rfl ?_
  refine t_gen h (fun s106 w107 h => ?_)
  exact x_vret dJ2_add_2_22 rfl (Or.inl ⟨(), _, h, rfl, rfl⟩)
def v_J2_add_2 (N : tP) (x0 : Nat) (x1 : Nat) (x2 : Nat) (x3 : Int32) (k n : Nat) (s : tM) (Kr : tM → Prop) : Prop :=
  (tLE N s x2 ∧ ((¬ x3 = (Int32.ofNat (tLen s x2)) → (v_J2_add_2_11 N x0 x1 x2 x3 Kr k n s)) ∧ (x3 = (Int32.ofNat (tLen s x2)) → (∃ c105 c106 : Nat, c105 ≤ k ∧ c106 ≤ n ∧ (tO s 20 x0 ∧ (v_J2_grow N x0 c105 c106 s (fun x103 s104 => (v_J2_add_2_11 N x0 x1 x103 x3 Kr (k - c105) (n - c106) s104))))))))
theorem e_J2_add_2 {G : xG} {l : Launch} {g : xH} {d : Nat} {N : tP} (hN : tNs G N) (hd : 10 ≤ d) {x0 : Nat} {x1 : Nat} {x2 : Nat} {x3 : Int32} {k n : Nat} {s : tM} {Kr : tM → Prop} (h : v_J2_add_2 N x0 x1 x2 x3 k n s Kr) : xC G l kJ2_add_2 d k n [rfv x0, rfv x1, rfv x2, .int x3] (tH G g s) (tQ G g wu (fun _ => Kr) tNo) := by
  obtain ⟨d, rfl⟩ : ∃ z, d = z + 1 := ⟨d - 1, by omega⟩
  refine t_start rfl (by decide +kernel) (by simp [xct_i, xct_l, rfv_c]) (lv := [some (rfv x0), some (rfv x1), some (rfv x2), some (.int x3)]) (by simp [lv_args, xLv, rfv_c, xct_i, xct_l]) ?_
  unfold v_J2_add_2 at h
  refine x_iload_3 dJ2_add_2_0 ?_
  refine t_aload_2 dJ2_add_2_1 ?_
  obtain ⟨e101, h⟩ := h
  refine t_alenE hN dJ2_add_2_2 e101 ?_
  refine x_icmp_ne 11 dJ2_add_2_3 (by decide) (fun c102 => ?_) (fun c102 => ?_)
  · have h := h.1 c102
    exact x_le (xLe_cons (xLe_cons (xLe_cons (xLe_cons (xLe_nil))))) (e_J2_add_2_11 hN (by omega) _ _ _ _ _ _ _ _ h)
  · have h := h.2 c102
    refine t_aload_0 dJ2_add_2_6 ?_
    obtain ⟨c105, c106, e107, e108, h⟩ := h
    obtain ⟨e109, h⟩ := h
    refine t_cVr (As := []) rfl cv_J2_129 rfl e109 rfl rfl (xrm4 (Nat.le_of_ble_eq_true rfl)) dJ2_add_2_7 (e_J2_grow hN (by omega) h) ⟨e107, e108⟩ (fun _ _ _ h => h.elim) (fun x103 s104 h => ?_)
    refine t_astore_2 dJ2_add_2_10 (by decide) xN2_f ?_
    exact x_le (xLe_cons (xLe_cons (xLe_cons (xLe_cons (xLe_nil))))) (e_J2_add_2_11 hN (by omega) _ _ _ _ _ _ _ _ h)
def v_J2_add (N : tP) (x0 : Nat) (x1 : Nat) (k n : Nat) (s : tM) (Kr : Int32 → tM → Prop) : Prop :=
  (tO s 20 x0 ∧ (∀ s102 : tM, s102 = tsI s x0 0 ((tI s x0 0) + 1) → (∃ c106 c107 : Nat, c106 ≤ k ∧ c107 ≤ n ∧ (v_J2_add_2 N x0 x1 (tR s102 x0 1) (tI s102 x0 2) c106 c107 s102 (fun s105 => (Kr 1 s105))))))
theorem e_J2_add {G : xG} {l : Launch} {g : xH} {d : Nat} {N : tP} (hN : tNs G N) (hd : 12 ≤ d) {x0 : Nat} {x1 : Nat} {k n : Nat} {s : tM} {Kr : Int32 → tM → Prop} (h : v_J2_add N x0 x1 k n s Kr) : xC G l kJ2_add d k n [rfv x0, rfv x1] (tH G g s) (tQ G g wi Kr tNo) := by
  obtain ⟨d, rfl⟩ : ∃ z, d = z + 1 := ⟨d - 1, by omega⟩
  refine t_start rfl (by decide +kernel) (by simp [xct_i, xct_l, rfv_c]) (lv := [some (rfv x0), some (rfv x1)]) (by simp [lv_args, xLv, rfv_c, xct_i, xct_l]) ?_
  unfold v_J2_add at h
  refine t_aload_0 dJ2_add_0 ?_
  refine x_dup dJ2_add_1 (rfv_c _) ?_
  obtain ⟨e101, h⟩ := h
  refine t_getI dJ2_add_2 fa_J2_63_20 (by decide) e101 ?_
  refine x_iconst (v := 1) dJ2_add_5 (by decide) ?_
  refine x_iadd dJ2_add_6 ?_
  refine t_putI (j := 0) dJ2_add_7 fp_J2_63_20 (by decide) e101 rfl rfl ?_
  refine t_gen h (fun s102 w103 h => ?_)
  refine t_aload_0 dJ2_add_10 ?_
  refine t_aload_1 dJ2_add_11 ?_
  refine t_aload_0 dJ2_add_12 ?_
  refine t_getR dJ2_add_13 fa_J2_9_20 (by decide) (tO_w w103 e101) ?_
  refine t_aload_0 dJ2_add_16 ?_
  refine t_getI dJ2_add_17 fa_J2_48_20 (by decide) (tO_w w103 e101) ?_
  obtain ⟨c106, c107, e108, e109, h⟩ := h
  refine t_cVv (As := [_, _, _]) rfl cv_J2_131 rfl (tO_w w103 e101) rfl rfl (xrm4 (Nat.le_of_ble_eq_true rfl)) dJ2_add_20 (e_J2_add_2 hN (by omega) h) ⟨e108, e109⟩ (fun _ _ _ h => h.elim) (fun _ s105 h => ?_)
  refine x_iconst (v := 1) dJ2_add_23 (by decide) ?_
  exact x_zret1 dJ2_add_24 rfl (Or.inl ⟨_, _, h, rfl, rfl⟩)
def v_J2_toArray (N : tP) (x0 : Nat) (k n : Nat) (s : tM) (Kr : Nat → tM → Prop) : Prop :=
  (tO s 20 x0 ∧ (∃ c104 c105 : Nat, c104 ≤ k ∧ c105 ≤ n ∧ (v_J15_copyOf N (tR s x0 1) (tI s x0 2) c104 c105 s (fun x102 s103 => (Kr x102 s103)))))
theorem e_J2_toArray {G : xG} {l : Launch} {g : xH} {d : Nat} {N : tP} (hN : tNs G N) (hd : 6 ≤ d) {x0 : Nat} {k n : Nat} {s : tM} {Kr : Nat → tM → Prop} (h : v_J2_toArray N x0 k n s Kr) : xC G l kJ2_toArray d k n [rfv x0] (tH G g s) (tQ G g wr Kr tNo) := by
  obtain ⟨d, rfl⟩ : ∃ z, d = z + 1 := ⟨d - 1, by omega⟩
  refine t_start rfl (by decide +kernel) (by simp [xct_i, xct_l, rfv_c]) (lv := [some (rfv x0)]) (by simp [lv_args, xLv, rfv_c, xct_i, xct_l]) ?_
  unfold v_J2_toArray at h
  refine t_aload_0 dJ2_toArray_0 ?_
  obtain ⟨e101, h⟩ := h
  refine t_getR dJ2_toArray_1 fa_J2_9_20 (by decide) e101 ?_
  refine t_aload_0 dJ2_toArray_4 ?_
  refine t_getI dJ2_toArray_5 fa_J2_48_20 (by decide) e101 ?_
  obtain ⟨c104, c105, e106, e107, h⟩ := h
  refine t_cSr (As := [_, _]) rfl cs_J2_66 rfl rfl (xrm4 (Nat.le_of_ble_eq_true rfl)) dJ2_toArray_8 (e_J15_copyOf hN (by omega) h) ⟨e106, e107⟩ (fun _ _ _ h => h.elim) (fun x102 s103 h => ?_)
  exact t_aret dJ2_toArray_11 rfl (by first | exact Or.inl ⟨_, rfl⟩ | exact Or.inr ⟨_, rfl⟩) (Or.inl ⟨_, _, h, rfl, rfl⟩)
def v_J2_addAll_56 (N : tP) (x0 : Nat) (x2 : Nat) (x3 : Int32) (x4 : Nat) (x5 : Int32) (Kr : Int32 → tM → Prop) (k n : Nat) (s : tM) : Prop :=
  (((tCpOk s 10 x2 x4 0 x5 x3 ∧ ∀ i : Nat, i < x3.toNatClampNeg → tR s x2 (0 + i) = 0 ∨ ∃ ci, xSt 10 ci ∧ tO s ci (tR s x2 (0 + i))) ∨ (x2 = N.2.2 200 ∧ (0 : Int32) = 0 ∧ (x5 : Int32) = 0 ∧ (x3 : Int32) = 0 ∧ ∃ n1, tA s 10 n1 x4)) ∧ (∀ s102 : tM, s102 = tCpR s x2 x4 0 x5.toNatClampNeg x3.toNatClampNeg → (tO s102 20 x0 ∧ (∀ s105 : tM, s105 = tsI s102 x0 2 (x5 + x3) → (Kr 1 s105)))))
theorem e_J2_addAll_56 {G : xG} {l : Launch} {g : xH} {d : Nat} {N : tP} (hN : tNs G N) (hd : 7 ≤ d) (x0 : Nat) (x2 : Nat) (x3 : Int32) (x4 : Nat) (x5 : Int32) (Kr : Int32 → tM → Prop) (k n : Nat) (s : tM) (h : v_J2_addAll_56 N x0 x2 x3 x4 x5 Kr k n s) : xF G l kJ2_addAll (d + 1) k n (tQ G g wi Kr tNo) 56 [some (rfv x0), none, some (rfv x2), some (.int x3), some (rfv x4), some (.int x5)] [] (tH G g s) := by
  unfold v_J2_addAll_56 at h
  refine t_aload_2 dJ2_addAll_56 ?_
  refine x_iconst (v := 0) dJ2_addAll_57 (by decide) ?_
  refine t_aload_4 dJ2_addAll_58 ?_
  refine x_iload_5 dJ2_addAll_60 ?_
  refine x_iload_3 dJ2_addAll_62 ?_
  obtain ⟨e101, h⟩ := h
  refine t_copyE hN dJ2_addAll_63 na_J2_112 e101 (by omega) (by decide) ?_
  refine t_gen h (fun s102 w103 h => ?_)
  refine t_aload_0 dJ2_addAll_66 ?_
  refine x_iload_5 dJ2_addAll_67 ?_
  refine x_iload_3 dJ2_addAll_69 ?_
  refine x_iadd dJ2_addAll_70 ?_
  obtain ⟨e104, h⟩ := h
  refine t_putI (j := 2) dJ2_addAll_71 fp_J2_48_20 (by decide) e104 rfl rfl ?_
  refine t_gen h (fun s105 w106 h => ?_)
  refine x_iconst (v := 1) dJ2_addAll_74 (by decide) ?_
  exact x_zret1 dJ2_addAll_75 rfl (Or.inl ⟨_, _, h, rfl, rfl⟩)
def v_J2_addAll (N : tP) (x0 : Nat) (x1 : Nat) (k n : Nat) (s : tM) (Kr : Int32 → tM → Prop) : Prop :=
  (tO s 20 x1 ∧ (∃ c104 c105 : Nat, c104 ≤ k ∧ c105 ≤ n ∧ (v_J2_toArray N x1 c104 c105 s (fun x102 s103 => (tO s103 20 x0 ∧ (∀ s109 : tM, s109 = tsI s103 x0 0 ((tI s103 x0 0) + 1) → (tLE N s109 x102 ∧ (∀ x112 : Int32, x112 = Int32.ofNat (tLen s109 x102) → ((¬ x112 = 0 → (∀ x114 : Nat, x114 = tR s109 x0 1 → (tLE N s109 x114 ∧ (∀ x116 : Int32, x116 = tI s109 x0 2 → ((x112 ≤ ((Int32.ofNat (tLen s109 x114)) - x116) → (v_J2_addAll_56 N x0 x102 x112 x114 x116 Kr (k - c104) (n - c105) s109)) ∧ (¬ x112 ≤ ((Int32.ofNat (tLen s109 x114)) - x116) → (∃ c120 c121 : Nat, c120 ≤ k - c104 ∧ c121 ≤ n - c105 ∧ (v_J2_grow_2 N x0 (x116 + x112) c120 c121 s109 (fun x118 s119 => (v_J2_addAll_56 N x0 x102 x112 x118 x116 Kr ((k - c104) - c120) ((n - c105) - c121) s119)))))))))) ∧ (x112 = 0 → (Kr 0 s109)))))))))))
theorem e_J2_addAll {G : xG} {l : Launch} {g : xH} {d : Nat} {N : tP} (hN : tNs G N) (hd : 8 ≤ d) {x0 : Nat} {x1 : Nat} {k n : Nat} {s : tM} {Kr : Int32 → tM → Prop} (h : v_J2_addAll N x0 x1 k n s Kr) : xC G l kJ2_addAll d k n [rfv x0, rfv x1] (tH G g s) (tQ G g wi Kr tNo) := by
  obtain ⟨d, rfl⟩ : ∃ z, d = z + 1 := ⟨d - 1, by omega⟩
  refine t_start rfl (by decide +kernel) (by simp [xct_i, xct_l, rfv_c]) (lv := [some (rfv x0), some (rfv x1), none, none, none, none]) (by simp [lv_args, xLv, rfv_c, xct_i, xct_l]) ?_
  unfold v_J2_addAll at h
  refine t_aload_1 dJ2_addAll_0 ?_
  obtain ⟨e101, h⟩ := h
  obtain ⟨c104, c105, e106, e107, h⟩ := h
  refine t_toArr rfl q1570 e101 rfl (xrm4 (Nat.le_of_ble_eq_true rfl)) dJ2_addAll_1 (e_J2_toArray hN (by omega) h) ⟨e106, e107⟩ (fun x102 s103 h => ?_)
  refine t_astore_2 dJ2_addAll_6 (by decide) xN2_f ?_
  refine t_aload_0 dJ2_addAll_7 ?_
  refine x_dup dJ2_addAll_8 (rfv_c _) ?_
  obtain ⟨e108, h⟩ := h
  refine t_getI dJ2_addAll_9 fa_J2_63_20 (by decide) e108 ?_
  refine x_iconst (v := 1) dJ2_addAll_12 (by decide) ?_
  refine x_iadd dJ2_addAll_13 ?_
  refine t_putI (j := 0) dJ2_addAll_14 fp_J2_63_20 (by decide) e108 rfl rfl ?_
  refine t_gen h (fun s109 w110 h => ?_)
  refine t_aload_2 dJ2_addAll_17 ?_
  obtain ⟨e111, h⟩ := h
  refine t_alenE hN dJ2_addAll_18 e111 ?_
  refine x_istore_3 dJ2_addAll_19 (by decide) xN2_f ?_
  have h := h _ rfl
  refine x_iload_3 dJ2_addAll_20 ?_
  refine x_if_ne 26 dJ2_addAll_21 (by decide) (fun c113 => ?_) (fun c113 => ?_)
  · have h := h.1 c113
    refine x_iload_3 dJ2_addAll_26 ?_
    refine t_aload_0 dJ2_addAll_27 ?_
    refine t_getR dJ2_addAll_28 fa_J2_9_20 (by decide) (tO_w w110 e108) ?_
    refine x_dup dJ2_addAll_31 (rfv_c _) ?_
    have h := h _ rfl
    refine t_astore_4 dJ2_addAll_32 (by decide) xN2_i ?_
    obtain ⟨e115, h⟩ := h
    refine t_alenE hN dJ2_addAll_34 e115 ?_
    refine t_aload_0 dJ2_addAll_35 ?_
    refine t_getI dJ2_addAll_36 fa_J2_48_20 (by decide) (tO_w w110 e108) ?_
    refine x_dup dJ2_addAll_39 rfl ?_
    have h := h _ rfl
    refine x_istore_5 dJ2_addAll_40 (by decide) xN2_f ?_
    refine x_isub dJ2_addAll_42 ?_
    refine x_icmp_le 56 dJ2_addAll_43 (by decide) (fun c117 => ?_) (fun c117 => ?_)
    · have h := h.1 c117
      exact x_le (xLe_cons (xLe_none (xLe_cons (xLe_cons (xLe_cons (xLe_cons (xLe_nil))))))) (e_J2_addAll_56 hN (by omega) _ _ _ _ _ _ _ _ _ h)
    · have h := h.2 c117
      refine t_aload_0 dJ2_addAll_46 ?_
      refine x_iload_5 dJ2_addAll_47 ?_
      refine x_iload_3 dJ2_addAll_49 ?_
      refine x_iadd dJ2_addAll_50 ?_
      obtain ⟨c120, c121, e122, e123, h⟩ := h
      refine t_cVr (As := [_]) rfl cv_J2_69 rfl (tO_w w110 e108) rfl rfl (xrm4 (Nat.le_of_ble_eq_true rfl)) dJ2_addAll_51 (e_J2_grow_2 hN (by omega) h) ⟨e122, e123⟩ (fun _ _ _ h => h.elim) (fun x118 s119 h => ?_)
      refine t_astore_4 dJ2_addAll_54 (by decide) xN2_i ?_
      exact x_le (xLe_cons (xLe_none (xLe_cons (xLe_cons (xLe_cons (xLe_cons (xLe_nil))))))) (e_J2_addAll_56 hN (by omega) _ _ _ _ _ _ _ _ _ h)
  · have h := h.2 c113
    refine x_iconst (v := 0) dJ2_addAll_24 (by decide) ?_
    exact x_zret0 dJ2_addAll_25 rfl (Or.inl ⟨_, _, h, rfl, rfl⟩)
def v_J2_elementData (x0 : Nat) (x1 : Int32) (s : tM) (Kr : Nat → tM → Prop) : Prop :=
  (tO s 20 x0 ∧ (tX s 10 (tR s x0 1) x1 ∧ (Kr (tR s (tR s x0 1) x1.toNatClampNeg) s)))
theorem e_J2_elementData {G : xG} {l : Launch} {g : xH} {d : Nat} (hd : 2 ≤ d) {x0 : Nat} {x1 : Int32} {s : tM} {Kr : Nat → tM → Prop} (h : v_J2_elementData x0 x1 s Kr) : xC G l kJ2_elementData d 0 0 [rfv x0, .int x1] (tH G g s) (tQ G g wr Kr tNo) := by
  obtain ⟨d, rfl⟩ : ∃ z, d = z + 1 := ⟨d - 1, by omega⟩
  refine t_start rfl (by decide +kernel) (by simp [xct_i, xct_l, rfv_c]) (lv := [some (rfv x0), some (.int x1)]) (by simp [lv_args, xLv, rfv_c, xct_i, xct_l]) ?_
  unfold v_J2_elementData at h
  refine t_aload_0 dJ2_elementData_0 ?_
  obtain ⟨e101, h⟩ := h
  refine t_getR dJ2_elementData_1 fa_J2_9_20 (by decide) e101 ?_
  refine x_iload_1 dJ2_elementData_4 ?_
  obtain ⟨e102, h⟩ := h
  refine t_aald (t := 10) dJ2_elementData_5 ⟨rfl, by decide, by decide⟩ rfl e102 ?_
  exact t_aret dJ2_elementData_6 rfl (by first | exact Or.inl ⟨_, rfl⟩ | exact Or.inr ⟨_, rfl⟩) (Or.inl ⟨_, _, h, rfl, rfl⟩)
def v_J5_checkIndex (x0 : Int32) (x1 : Int32) (x2 : Nat) (s : tM) (Kr : Int32 → tM → Prop) : Prop :=
  ((x0 < 0 → False) ∧ (¬ x0 < 0 → ((x0 < x1 → (Kr x0 s)) ∧ (¬ x0 < x1 → False))))
theorem e_J5_checkIndex {G : xG} {l : Launch} {g : xH} {d : Nat} (hd : 2 ≤ d) {x0 : Int32} {x1 : Int32} {x2 : Nat} {s : tM} {Kr : Int32 → tM → Prop} (h : v_J5_checkIndex x0 x1 x2 s Kr) : xC G l kJ5_checkIndex d 0 0 [.int x0, .int x1, rfv x2] (tH G g s) (tQ G g wi Kr tNo) := by
  obtain ⟨d, rfl⟩ : ∃ z, d = z + 1 := ⟨d - 1, by omega⟩
  refine t_start rfl (by decide +kernel) (by simp [xct_i, xct_l, rfv_c]) (lv := [some (.int x0), some (.int x1), some (rfv x2)]) (by simp [lv_args, xLv, rfv_c, xct_i, xct_l]) ?_
  unfold v_J5_checkIndex at h
  refine x_iload_0 dJ5_checkIndex_0 ?_
  refine x_if_lt 9 dJ5_checkIndex_1 (by decide) (fun c101 => ?_) (fun c101 => ?_)
  · have h := h.1 c101
    refine t_aload_2 dJ5_checkIndex_9 ?_
    refine x_iload_0 dJ5_checkIndex_10 ?_
    refine x_iload_1 dJ5_checkIndex_11 ?_
    exact h.elim
  · have h := h.2 c101
    refine x_iload_0 dJ5_checkIndex_4 ?_
    refine x_iload_1 dJ5_checkIndex_5 ?_
    refine x_icmp_lt 16 dJ5_checkIndex_6 (by decide) (fun c102 => ?_) (fun c102 => ?_)
    · have h := h.1 c102
      refine x_iload_0 dJ5_checkIndex_16 ?_
      exact x_iret dJ5_checkIndex_17 rfl (Or.inl ⟨_, _, h, rfl, rfl⟩)
    · have h := h.2 c102
      refine t_aload_2 dJ5_checkIndex_9 ?_
      refine x_iload_0 dJ5_checkIndex_10 ?_
      refine x_iload_1 dJ5_checkIndex_11 ?_
      exact h.elim
def v_J4_checkIndex (x0 : Int32) (x1 : Int32) (s : tM) (Kr : Int32 → tM → Prop) : Prop :=
  (v_J5_checkIndex x0 x1 0 s (fun x101 s102 => (Kr x101 s102)))
theorem e_J4_checkIndex {G : xG} {l : Launch} {g : xH} {d : Nat} (hd : 4 ≤ d) {x0 : Int32} {x1 : Int32} {s : tM} {Kr : Int32 → tM → Prop} (h : v_J4_checkIndex x0 x1 s Kr) : xC G l kJ4_checkIndex d 0 0 [.int x0, .int x1] (tH G g s) (tQ G g wi Kr tNo) := by
  obtain ⟨d, rfl⟩ : ∃ z, d = z + 1 := ⟨d - 1, by omega⟩
  refine t_start rfl (by decide +kernel) (by simp [xct_i, xct_l, rfv_c]) (lv := [some (.int x0), some (.int x1)]) (by simp [lv_args, xLv, rfv_c, xct_i, xct_l]) ?_
  unfold v_J4_checkIndex at h
  refine x_iload_0 dJ4_checkIndex_0 ?_
  refine x_iload_1 dJ4_checkIndex_1 ?_
  refine t_null dJ4_checkIndex_2 ?_
  refine t_cSi (As := [_, _, _]) rfl cs_J4_105 rfl rfl (xrm4 (Nat.le_of_ble_eq_true rfl)) dJ4_checkIndex_3 (e_J5_checkIndex (by omega) h) ⟨Nat.zero_le _, Nat.zero_le _⟩ (fun _ _ _ h => h.elim) (fun x101 s102 h => ?_)
  exact x_iret dJ4_checkIndex_6 rfl (Or.inl ⟨_, _, h, rfl, rfl⟩)
def v_J2_get (x0 : Nat) (x1 : Int32) (s : tM) (Kr : Nat → tM → Prop) : Prop :=
  (tO s 20 x0 ∧ (v_J4_checkIndex x1 (tI s x0 2) s (fun x102 s103 => (tO s103 20 x0 ∧ (v_J2_elementData x0 x1 s103 (fun x104 s105 => (Kr x104 s105)))))))
theorem e_J2_get {G : xG} {l : Launch} {g : xH} {d : Nat} (hd : 6 ≤ d) {x0 : Nat} {x1 : Int32} {s : tM} {Kr : Nat → tM → Prop} (h : v_J2_get x0 x1 s Kr) : xC G l kJ2_get d 0 0 [rfv x0, .int x1] (tH G g s) (tQ G g wr Kr tNo) := by
  obtain ⟨d, rfl⟩ : ∃ z, d = z + 1 := ⟨d - 1, by omega⟩
  refine t_start rfl (by decide +kernel) (by simp [xct_i, xct_l, rfv_c]) (lv := [some (rfv x0), some (.int x1)]) (by simp [lv_args, xLv, rfv_c, xct_i, xct_l]) ?_
  unfold v_J2_get at h
  refine x_iload_1 dJ2_get_0 ?_
  refine t_aload_0 dJ2_get_1 ?_
  obtain ⟨e101, h⟩ := h
  refine t_getI dJ2_get_2 fa_J2_48_20 (by decide) e101 ?_
  refine t_cSi (As := [_, _]) rfl cs_J2_118 rfl rfl (xrm4 (Nat.le_of_ble_eq_true rfl)) dJ2_get_5 (e_J4_checkIndex (by omega) h) ⟨Nat.zero_le _, Nat.zero_le _⟩ (fun _ _ _ h => h.elim) (fun x102 s103 h => ?_)
  refine x_pop dJ2_get_8 rfl ?_
  refine t_aload_0 dJ2_get_9 ?_
  refine x_iload_1 dJ2_get_10 ?_
  obtain ⟨e106, h⟩ := h
  refine t_cVr (As := [_]) rfl cv_J2_123 rfl e106 rfl rfl (xrm4 (Nat.le_of_ble_eq_true rfl)) dJ2_get_11 (e_J2_elementData (by omega) h) ⟨Nat.zero_le _, Nat.zero_le _⟩ (fun _ _ _ h => h.elim) (fun x104 s105 h => ?_)
  exact t_aret dJ2_get_14 rfl (by first | exact Or.inl ⟨_, rfl⟩ | exact Or.inr ⟨_, rfl⟩) (Or.inl ⟨_, _, h, rfl, rfl⟩)
def v_J2_init (N : tP) (x0 : Nat) (s : tM) (Kr : tM → Prop) : Prop :=
  (tO s 20 x0 ∧ (v_J1_init x0 s (fun s102 => (tO s102 20 x0 ∧ (∀ s105 : tM, s105 = tsR s102 x0 1 (N.2.2 200) → (Kr s105))))))
theorem e_J2_init {G : xG} {l : Launch} {g : xH} {d : Nat} {N : tP} (hN : tNs G N) (hd : 6 ≤ d) {x0 : Nat} {s : tM} {Kr : tM → Prop} (h : v_J2_init N x0 s Kr) : xC G l kJ2_init d 0 0 [rfv x0] (tH G g s) (tQ G g wu (fun _ => Kr) tNo) := by
  obtain ⟨d, rfl⟩ : ∃ z, d = z + 1 := ⟨d - 1, by omega⟩
  refine t_start rfl (by decide +kernel) (by simp [xct_i, xct_l, rfv_c]) (lv := [some (rfv x0)]) (by simp [lv_args, xLv, rfv_c, xct_i, xct_l]) ?_
  unfold v_J2_init at h
  refine t_aload_0 dJ2_init_0 ?_
  obtain ⟨e103, h⟩ := h
  refine t_cI (As := []) rfl ci_J2_1 e103.2 rfl rfl (xrm4 (Nat.le_of_ble_eq_true rfl)) dJ2_init_1 (e_J1_init (by omega) h) ⟨Nat.zero_le _, Nat.zero_le _⟩ (fun _ _ _ h => h.elim) (fun _ s102 h => ?_)
  refine t_aload_0 dJ2_init_4 ?_
  refine t_gsE hN q196 dJ2_init_5 ?_
  obtain ⟨e104, h⟩ := h
  refine t_putR (j := 1) dJ2_init_8 fp_J2_9_20 (by decide) e104 rfl ?_
  refine t_gen h (fun s105 w106 h => ?_)
  exact x_vret dJ2_init_11 rfl (Or.inl ⟨(), _, h, rfl, rfl⟩)
def v_J2_size (x0 : Nat) (s : tM) (Kr : Int32 → tM → Prop) : Prop :=
  (tO s 20 x0 ∧ (Kr (tI s x0 2) s))
theorem e_J2_size {G : xG} {l : Launch} {g : xH} {d : Nat} (hd : 2 ≤ d) {x0 : Nat} {s : tM} {Kr : Int32 → tM → Prop} (h : v_J2_size x0 s Kr) : xC G l kJ2_size d 0 0 [rfv x0] (tH G g s) (tQ G g wi Kr tNo) := by
  obtain ⟨d, rfl⟩ : ∃ z, d = z + 1 := ⟨d - 1, by omega⟩
  refine t_start rfl (by decide +kernel) (by simp [xct_i, xct_l, rfv_c]) (lv := [some (rfv x0)]) (by simp [lv_args, xLv, rfv_c, xct_i, xct_l]) ?_
  unfold v_J2_size at h
  refine t_aload_0 dJ2_size_0 ?_
  obtain ⟨e101, h⟩ := h
  refine t_getI dJ2_size_1 fa_J2_48_20 (by decide) e101 ?_
  exact x_iret dJ2_size_4 rfl (Or.inl ⟨_, _, h, rfl, rfl⟩)
def v_J6_init_3 (N : tP) (x0 : Nat) (x1 : Nat) (x2 : Nat) (x3 : Int32) (x4 : Int32) (s : tM) (Kr : tM → Prop) : Prop :=
  (tO s 8 x0 ∧ (∀ s102 : tM, s102 = tsR s x0 0 x0 → (∀ f104 : Nat, (∀ s105 : tM, s105 = tsR s102 x0 1 f104 → (∀ f107 : Nat, (∀ s108 : tM, s108 = tsR s105 x0 2 f107 → ((x4 = 0 → (∀ s111 : tM, s111 = tsR s108 x0 1 0 → (∀ s113 : tM, s113 = tsR s111 x0 3 x1 → (∀ s115 : tM, s115 = tsR s113 x0 0 x2 → ((¬ x3 = 0 → (Kr s115)) ∧ (x3 = 0 → (∀ s118 : tM, s118 = tsR s115 x0 2 0 → (Kr s118)))))))) ∧ (¬ x4 = 0 → False))))))))
theorem e_J6_init_3 {G : xG} {l : Launch} {g : xH} {d : Nat} {N : tP} (hN : tNs G N) (hd : 2 ≤ d) {x0 : Nat} {x1 : Nat} {x2 : Nat} {x3 : Int32} {x4 : Int32} {s : tM} {Kr : tM → Prop} (h : v_J6_init_3 N x0 x1 x2 x3 x4 s Kr) : xC G l kJ6_init_3 d 0 0 [rfv x0, rfv x1, rfv x2, .int x3, .int x4] (tH G g s) (tQ G g wu (fun _ => Kr) tNo) := by
  obtain ⟨d, rfl⟩ : ∃ z, d = z + 1 := ⟨d - 1, by omega⟩
  refine t_start rfl (by decide +kernel) (by simp [xct_i, xct_l, rfv_c]) (lv := [some (rfv x0), some (rfv x1), some (rfv x2), some (.int x3), some (.int x4)]) (by simp [lv_args, xLv, rfv_c, xct_i, xct_l]) ?_
  unfold v_J6_init_3 at h
  refine t_aload_0 dJ6_init_3_0 ?_
  obtain ⟨e101, h⟩ := h
  refine t_obj dJ6_init_3_1 ob_J6_1 e101.2 (Nat.le_of_ble_eq_true rfl) (by omega) ?_
  refine t_aload_0 dJ6_init_3_4 ?_
  refine t_aload_0 dJ6_init_3_5 ?_
  refine t_putR (j := 0) dJ6_init_3_6 fp_J6_7_8 (by decide) e101 rfl ?_
  refine t_gen h (fun s102 w103 h => ?_)
  refine t_aload_0 dJ6_init_3_9 ?_
  refine x_gsQ (fun U hU => hU.2.2.2.2.2.1.1) q642 dJ6_init_3_10 (fun f104 => ?_)
  have h := h f104
  refine t_putR (j := 1) dJ6_init_3_13 fp_J6_17_8 (by decide) (tO_w w103 e101) rfl ?_
  refine t_gen h (fun s105 w106 h => ?_)
  refine t_aload_0 dJ6_init_3_16 ?_
  refine x_gsQ (fun U hU => hU.2.2.2.2.2.2.1.1) q644 dJ6_init_3_17 (fun f107 => ?_)
  have h := h f107
  refine t_putR (j := 2) dJ6_init_3_20 fp_J6_24_8 (by decide) (tO_w w106 (tO_w w103 e101)) rfl ?_
  refine t_gen h (fun s108 w109 h => ?_)
  refine x_iload_4 dJ6_init_3_23 ?_
  refine x_if_eq 36 dJ6_init_3_25 (by decide) (fun c110 => ?_) (fun c110 => ?_)
  · have h := h.1 c110
    refine t_aload_0 dJ6_init_3_36 ?_
    refine t_null dJ6_init_3_37 ?_
    refine t_putR (j := 1) dJ6_init_3_38 fp_J6_17_8 (by decide) (tO_w w109 (tO_w w106 (tO_w w103 e101))) rfl ?_
    refine t_gen h (fun s111 w112 h => ?_)
    refine t_aload_0 dJ6_init_3_41 ?_
    refine t_aload_1 dJ6_init_3_42 ?_
    refine t_putR (j := 3) dJ6_init_3_43 fp_J6_31_8 (by decide) (tO_w w112 (tO_w w109 (tO_w w106 (tO_w w103 e101)))) rfl ?_
    refine t_gen h (fun s113 w114 h => ?_)
    refine t_aload_0 dJ6_init_3_46 ?_
    refine t_aload_2 dJ6_init_3_47 ?_
    refine t_putR (j := 0) dJ6_init_3_48 fp_J6_7_8 (by decide) (tO_w w114 (tO_w w112 (tO_w w109 (tO_w w106 (tO_w w103 e101))))) rfl ?_
    refine t_gen h (fun s115 w116 h => ?_)
    refine x_iload_3 dJ6_init_3_51 ?_
    refine x_if_ne 60 dJ6_init_3_52 (by decide) (fun c117 => ?_) (fun c117 => ?_)
    · have h := h.1 c117
      exact x_vret dJ6_init_3_60 rfl (Or.inl ⟨(), _, h, rfl, rfl⟩)
    · have h := h.2 c117
      refine t_aload_0 dJ6_init_3_55 ?_
      refine t_null dJ6_init_3_56 ?_
      refine t_putR (j := 2) dJ6_init_3_57 fp_J6_24_8 (by decide) (tO_w w116 (tO_w w114 (tO_w w112 (tO_w w109 (tO_w w106 (tO_w w103 e101)))))) rfl ?_
      refine t_gen h (fun s118 w119 h => ?_)
      exact x_vret dJ6_init_3_60 rfl (Or.inl ⟨(), _, h, rfl, rfl⟩)
  · have h := h.2 c110
    refine t_aload_0 dJ6_init_3_28 ?_
    exact h.elim
def v_J7_init_2 (N : tP) (x0 : Nat) (x1 : Nat) (x2 : Nat) (x3 : Int32) (x4 : Int32) (s : tM) (Kr : tM → Prop) : Prop :=
  (tO s 8 x0 ∧ (v_J6_init_3 N x0 x1 x2 x3 x4 s (fun s102 => (Kr s102))))
theorem e_J7_init_2 {G : xG} {l : Launch} {g : xH} {d : Nat} {N : tP} (hN : tNs G N) (hd : 4 ≤ d) {x0 : Nat} {x1 : Nat} {x2 : Nat} {x3 : Int32} {x4 : Int32} {s : tM} {Kr : tM → Prop} (h : v_J7_init_2 N x0 x1 x2 x3 x4 s Kr) : xC G l kJ7_init_2 d 0 0 [rfv x0, rfv x1, rfv x2, .int x3, .int x4] (tH G g s) (tQ G g wu (fun _ => Kr) tNo) := by
  obtain ⟨d, rfl⟩ : ∃ z, d = z + 1 := ⟨d - 1, by omega⟩
  refine t_start rfl (by decide +kernel) (by simp [xct_i, xct_l, rfv_c]) (lv := [some (rfv x0), some (rfv x1), some (rfv x2), some (.int x3), some (.int x4)]) (by simp [lv_args, xLv, rfv_c, xct_i, xct_l]) ?_
  unfold v_J7_init_2 at h
  refine t_aload_0 dJ7_init_2_0 ?_
  refine t_aload_1 dJ7_init_2_1 ?_
  refine t_aload_2 dJ7_init_2_2 ?_
  refine x_iload_3 dJ7_init_2_3 ?_
  refine x_iload_4 dJ7_init_2_4 ?_
  obtain ⟨e103, h⟩ := h
  refine t_cI (As := [_, _, _, _]) rfl ci_J7_16 e103.2 rfl rfl (xrm4 (Nat.le_of_ble_eq_true rfl)) dJ7_init_2_6 (e_J6_init_3 hN (by omega) h) ⟨Nat.zero_le _, Nat.zero_le _⟩ (fun _ _ _ h => h.elim) (fun _ s102 h => ?_)
  exact x_vret dJ7_init_2_9 rfl (Or.inl ⟨(), _, h, rfl, rfl⟩)
def v_X10_init (x0 : Nat) (s : tM) (Kr : tM → Prop) : Prop :=
  (¬ x0 = 0 ∧ (Kr s))
theorem e_X10_init {G : xG} {l : Launch} {g : xH} {d : Nat} (hd : 2 ≤ d) {x0 : Nat} {s : tM} {Kr : tM → Prop} (h : v_X10_init x0 s Kr) : xC G l kX10_init d 0 0 [rfv x0] (tH G g s) (tQ G g wu (fun _ => Kr) tNo) := by
  obtain ⟨d, rfl⟩ : ∃ z, d = z + 1 := ⟨d - 1, by omega⟩
  refine t_start rfl (by decide +kernel) (by simp [xct_i, xct_l, rfv_c]) (lv := [some (rfv x0)]) (by simp [lv_args, xLv, rfv_c, xct_i, xct_l]) ?_
  unfold v_X10_init at h
  refine t_aload_0 dX10_init_0 ?_
  obtain ⟨e101, h⟩ := h
  refine t_obj dX10_init_1 ob_X10_1 e101 (Nat.le_of_ble_eq_true rfl) (by omega) ?_
  exact x_vret dX10_init_4 rfl (Or.inl ⟨(), _, h, rfl, rfl⟩)
def v_X12_init (x0 : Nat) (x1 : Int32) (s : tM) (Kr : tM → Prop) : Prop :=
  (tO s 10 x0 ∧ (v_X10_init x0 s (fun s102 => (tO s102 10 x0 ∧ (∀ s105 : tM, s105 = tsI s102 x0 0 x1 → (Kr s105))))))
theorem e_X12_init {G : xG} {l : Launch} {g : xH} {d : Nat} (hd : 4 ≤ d) {x0 : Nat} {x1 : Int32} {s : tM} {Kr : tM → Prop} (h : v_X12_init x0 x1 s Kr) : xC G l kX12_init d 0 0 [rfv x0, .int x1] (tH G g s) (tQ G g wu (fun _ => Kr) tNo) := by
  obtain ⟨d, rfl⟩ : ∃ z, d = z + 1 := ⟨d - 1, by omega⟩
  refine t_start rfl (by decide +kernel) (by simp [xct_i, xct_l, rfv_c]) (lv := [some (rfv x0), some (.int x1)]) (by simp [lv_args, xLv, rfv_c, xct_i, xct_l]) ?_
  unfold v_X12_init at h
  refine t_aload_0 dX12_init_0 ?_
  obtain ⟨e103, h⟩ := h
  refine t_cIN (As := []) rfl cin_X12_1 e103.2 rfl rfl (xrm4 (Nat.le_of_ble_eq_true rfl)) dX12_init_1 (e_X10_init (by omega) h) ⟨Nat.zero_le _, Nat.zero_le _⟩ (fun _ _ _ h => h.elim) (fun _ s102 h => ?_)
  refine t_aload_0 dX12_init_4 ?_
  refine x_iload_1 dX12_init_5 ?_
  obtain ⟨e104, h⟩ := h
  refine t_putFI (j := 0) dX12_init_6 ff_X12_7_10 rfl (by decide) e104 rfl rfl ?_
  refine t_gen h (fun s105 w106 h => ?_)
  exact x_vret dX12_init_9 rfl (Or.inl ⟨(), _, h, rfl, rfl⟩)
def v_X13_init (x0 : Nat) (x1 : Nat) (x2 : Int32) (x3 : Int32) (s : tM) (Kr : tM → Prop) : Prop :=
  (tO s 11 x0 ∧ (∀ s102 : tM, s102 = tsR s x0 2 x1 → (v_X10_init x0 s102 (fun s105 => (tO s105 11 x0 ∧ (∀ s107 : tM, s107 = tsI s105 x0 0 x2 → (∀ s109 : tM, s109 = tsI s107 x0 1 x3 → (Kr s109))))))))
theorem e_X13_init {G : xG} {l : Launch} {g : xH} {d : Nat} (hd : 4 ≤ d) {x0 : Nat} {x1 : Nat} {x2 : Int32} {x3 : Int32} {s : tM} {Kr : tM → Prop} (h : v_X13_init x0 x1 x2 x3 s Kr) : xC G l kX13_init d 0 0 [rfv x0, rfv x1, .int x2, .int x3] (tH G g s) (tQ G g wu (fun _ => Kr) tNo) := by
  obtain ⟨d, rfl⟩ : ∃ z, d = z + 1 := ⟨d - 1, by omega⟩
  refine t_start rfl (by decide +kernel) (by simp [xct_i, xct_l, rfv_c]) (lv := [some (rfv x0), some (rfv x1), some (.int x2), some (.int x3)]) (by simp [lv_args, xLv, rfv_c, xct_i, xct_l]) ?_
  unfold v_X13_init at h
  refine t_aload_0 dX13_init_0 ?_
  refine t_aload_1 dX13_init_1 ?_
  obtain ⟨e101, h⟩ := h
  refine t_putFR (j := 2) dX13_init_2 ff_X13_3_11 rfl (by decide) e101 rfl ?_
  refine t_gen h (fun s102 w103 h => ?_)
  refine t_aload_0 dX13_init_5 ?_
  refine t_cIN (As := []) rfl cin_X13_9 (tO_w w103 e101).2 rfl rfl (xrm4 (Nat.le_of_ble_eq_true rfl)) dX13_init_6 (e_X10_init (by omega) h) ⟨Nat.zero_le _, Nat.zero_le _⟩ (fun _ _ _ h => h.elim) (fun _ s105 h => ?_)
  refine t_aload_0 dX13_init_9 ?_
  refine x_iload_2 dX13_init_10 ?_
  obtain ⟨e106, h⟩ := h
  refine t_putFI (j := 0) dX13_init_11 ff_X13_15_11 rfl (by decide) e106 rfl rfl ?_
  refine t_gen h (fun s107 w108 h => ?_)
  refine t_aload_0 dX13_init_14 ?_
  refine x_iload_3 dX13_init_15 ?_
  refine t_putFI (j := 1) dX13_init_16 ff_X13_19_11 rfl (by decide) (tO_w w108 e106) rfl rfl ?_
  refine t_gen h (fun s109 w110 h => ?_)
  exact x_vret dX13_init_19 rfl (Or.inl ⟨(), _, h, rfl, rfl⟩)
def v_X0_isDigit (x0 : Int32) (s : tM) (Kr : Int32 → tM → Prop) : Prop :=
  ((x0 < 48 → (Kr 0 s)) ∧ (¬ x0 < 48 → ((57 < x0 → (Kr 0 s)) ∧ (¬ 57 < x0 → (Kr 1 s)))))
theorem e_X0_isDigit {G : xG} {l : Launch} {g : xH} {d : Nat} (hd : 2 ≤ d) {x0 : Int32} {s : tM} {Kr : Int32 → tM → Prop} (h : v_X0_isDigit x0 s Kr) : xC G l kX0_isDigit d 0 0 [.int x0] (tH G g s) (tQ G g wi Kr tNo) := by
  obtain ⟨d, rfl⟩ : ∃ z, d = z + 1 := ⟨d - 1, by omega⟩
  refine t_start rfl (by decide +kernel) (by simp [xct_i, xct_l, rfv_c]) (lv := [some (.int x0)]) (by simp [lv_args, xLv, rfv_c, xct_i, xct_l]) ?_
  unfold v_X0_isDigit at h
  refine x_iload_0 dX0_isDigit_0 ?_
  refine x_bipush (v := 48) dX0_isDigit_1 (by decide) ?_
  refine x_icmp_lt 16 dX0_isDigit_3 (by decide) (fun c101 => ?_) (fun c101 => ?_)
  · have h := h.1 c101
    refine x_iconst (v := 0) dX0_isDigit_16 (by decide) ?_
    exact x_zret0 dX0_isDigit_17 rfl (Or.inl ⟨_, _, h, rfl, rfl⟩)
  · have h := h.2 c101
    refine x_iload_0 dX0_isDigit_6 ?_
    refine x_bipush (v := 57) dX0_isDigit_7 (by decide) ?_
    refine x_icmp_gt 16 dX0_isDigit_9 (by decide) (fun c102 => ?_) (fun c102 => ?_)
    · have h := h.1 c102
      refine x_iconst (v := 0) dX0_isDigit_16 (by decide) ?_
      exact x_zret0 dX0_isDigit_17 rfl (Or.inl ⟨_, _, h, rfl, rfl⟩)
    · have h := h.2 c102
      refine x_iconst (v := 1) dX0_isDigit_12 (by decide) ?_
      refine x_goto 17 dX0_isDigit_13 (by decide) ?_
      exact x_zret1 dX0_isDigit_17 rfl (Or.inl ⟨_, _, h, rfl, rfl⟩)
def v_X9_init (N : tP) (x0 : Nat) (x1 : Int32) (s : tM) (Kr : tM → Prop) : Prop :=
  (tO s 8 x0 ∧ (v_J7_init_2 N x0 0 0 0 0 s (fun s102 => (tO s102 8 x0 ∧ (∀ s105 : tM, s105 = tsI s102 x0 6 x1 → (Kr s105))))))
theorem e_X9_init {G : xG} {l : Launch} {g : xH} {d : Nat} {N : tP} (hN : tNs G N) (hd : 6 ≤ d) {x0 : Nat} {x1 : Int32} {s : tM} {Kr : tM → Prop} (h : v_X9_init N x0 x1 s Kr) : xC G l kX9_init d 0 0 [rfv x0, .int x1] (tH G g s) (tQ G g wu (fun _ => Kr) tNo) := by
  obtain ⟨d, rfl⟩ : ∃ z, d = z + 1 := ⟨d - 1, by omega⟩
  refine t_start rfl (by decide +kernel) (by simp [xct_i, xct_l, rfv_c]) (lv := [some (rfv x0), some (.int x1)]) (by simp [lv_args, xLv, rfv_c, xct_i, xct_l]) ?_
  unfold v_X9_init at h
  refine t_aload_0 dX9_init_0 ?_
  refine t_null dX9_init_1 ?_
  refine t_null dX9_init_2 ?_
  refine x_iconst (v := 0) dX9_init_3 (by decide) ?_
  refine x_iconst (v := 0) dX9_init_4 (by decide) ?_
  obtain ⟨e103, h⟩ := h
  refine t_cI (As := [_, _, _, _]) rfl ci_X9_1 e103.2 rfl rfl (xrm4 (Nat.le_of_ble_eq_true rfl)) dX9_init_5 (e_J7_init_2 hN (by omega) h) ⟨Nat.zero_le _, Nat.zero_le _⟩ (fun _ _ _ h => h.elim) (fun _ s102 h => ?_)
  refine t_aload_0 dX9_init_8 ?_
  refine x_iload_1 dX9_init_9 ?_
  obtain ⟨e104, h⟩ := h
  refine t_putFI (j := 6) dX9_init_10 ff_X9_7_8 rfl (by decide) e104 rfl rfl ?_
  refine t_gen h (fun s105 w106 h => ?_)
  exact x_vret dX9_init_13 rfl (Or.inl ⟨(), _, h, rfl, rfl⟩)
def v_X7_must (N : tP) (x0 : Nat) (x1 : Int32) (k n : Nat) (s : tM) (Kr : tM → Prop) (Kx : String → Nat → tM → Prop) : Prop :=
  ((¬ x1 = 0 → (Kr s)) ∧ (x1 = 0 → (1 ≤ k ∧ (7 ≤ n ∧ (∀ q104 : Nat, s.1 q104 = none → ¬ q104 = 0 → ¬ q104 = N.2.2 200 → (∀ s105 : tM, s105 = tNew s q104 (.inl 8) → (tE s105 7 18 x0 ∧ (v_X9_init N q104 (tI s105 x0 0) s105 (fun s110 => (tO s110 8 q104 ∧ (Kx "CounterDesk$Wrong" q104 s110)))))))))))
theorem e_X7_must {G : xG} {l : Launch} {g : xH} {d : Nat} {N : tP} (hN : tNs G N) (hd : 8 ≤ d) {x0 : Nat} {x1 : Int32} {k n : Nat} {s : tM} {Kr : tM → Prop} {Kx : String → Nat → tM → Prop} (h : v_X7_must N x0 x1 k n s Kr Kx) : xC G l kX7_must d k n [rfv x0, .int x1] (tH G g s) (tQ G g wu (fun _ => Kr) Kx) := by
  obtain ⟨d, rfl⟩ : ∃ z, d = z + 1 := ⟨d - 1, by omega⟩
  refine t_start rfl (by decide +kernel) (by simp [xct_i, xct_l, rfv_c]) (lv := [some (rfv x0), some (.int x1)]) (by simp [lv_args, xLv, rfv_c, xct_i, xct_l]) ?_
  unfold v_X7_must at h
  refine x_iload_1 dX7_must_0 ?_
  refine x_if_ne 16 dX7_must_1 (by decide) (fun c101 => ?_) (fun c101 => ?_)
  · have h := h.1 c101
    exact x_vret dX7_must_16 rfl (Or.inl ⟨(), _, h, rfl, rfl⟩)
  · have h := h.2 c101
    obtain ⟨e102, h⟩ := h
    obtain ⟨e103, h⟩ := h
    refine t_new (N := 7) dX7_must_4 ne_X7_76 rfl e102 e103 (fun q h1 h2 h3 => ?_)
    have h := h q h1 h2 (fun e => h3 (e.trans (hN 200)))
    refine t_gen h (fun s105 w106 h => ?_)
    have e107 := h2
    refine x_dup dX7_must_7 (rfv_c _) ?_
    refine t_aload_0 dX7_must_8 ?_
    obtain ⟨e108, h⟩ := h
    refine t_getI2 (j := 0) dX7_must_9 ⟨fa_X7_42_7, fa_X7_42_18⟩ (by decide) e108 ?_
    refine t_cI (As := [_]) rfl ci_X7_78 e107 rfl rfl (xrm4 (Nat.le_of_ble_eq_true rfl)) dX7_must_12 (e_X9_init hN (by omega) h) ⟨Nat.zero_le _, Nat.zero_le _⟩ (fun _ _ _ h => h.elim) (fun _ s110 h => ?_)
    obtain ⟨e111, h⟩ := h
    obtain ⟨q, rfl⟩ := Nat.exists_eq_succ_of_ne_zero e111.2
    exact t_throw rfl dX7_must_15 xcl_X9.1 e111 (Or.inr ⟨_, _, _, h, rfl, rfl⟩)
def v_X0_isLetter (x0 : Int32) (s : tM) (Kr : Int32 → tM → Prop) : Prop :=
  ((x0 < 97 → (Kr 0 s)) ∧ (¬ x0 < 97 → ((122 < x0 → (Kr 0 s)) ∧ (¬ 122 < x0 → (Kr 1 s)))))
theorem e_X0_isLetter {G : xG} {l : Launch} {g : xH} {d : Nat} (hd : 2 ≤ d) {x0 : Int32} {s : tM} {Kr : Int32 → tM → Prop} (h : v_X0_isLetter x0 s Kr) : xC G l kX0_isLetter d 0 0 [.int x0] (tH G g s) (tQ G g wi Kr tNo) := by
  obtain ⟨d, rfl⟩ : ∃ z, d = z + 1 := ⟨d - 1, by omega⟩
  refine t_start rfl (by decide +kernel) (by simp [xct_i, xct_l, rfv_c]) (lv := [some (.int x0)]) (by simp [lv_args, xLv, rfv_c, xct_i, xct_l]) ?_
  unfold v_X0_isLetter at h
  refine x_iload_0 dX0_isLetter_0 ?_
  refine x_bipush (v := 97) dX0_isLetter_1 (by decide) ?_
  refine x_icmp_lt 16 dX0_isLetter_3 (by decide) (fun c101 => ?_) (fun c101 => ?_)
  · have h := h.1 c101
    refine x_iconst (v := 0) dX0_isLetter_16 (by decide) ?_
    exact x_zret0 dX0_isLetter_17 rfl (Or.inl ⟨_, _, h, rfl, rfl⟩)
  · have h := h.2 c101
    refine x_iload_0 dX0_isLetter_6 ?_
    refine x_bipush (v := 122) dX0_isLetter_7 (by decide) ?_
    refine x_icmp_gt 16 dX0_isLetter_9 (by decide) (fun c102 => ?_) (fun c102 => ?_)
    · have h := h.1 c102
      refine x_iconst (v := 0) dX0_isLetter_16 (by decide) ?_
      exact x_zret0 dX0_isLetter_17 rfl (Or.inl ⟨_, _, h, rfl, rfl⟩)
    · have h := h.2 c102
      refine x_iconst (v := 1) dX0_isLetter_12 (by decide) ?_
      refine x_goto 17 dX0_isLetter_13 (by decide) ?_
      exact x_zret1 dX0_isLetter_17 rfl (Or.inl ⟨_, _, h, rfl, rfl⟩)
def v_X7_next_175 (N : tP) (x0 : Nat) (x1 : Int32) (x2 : Int32) (Kr : tM → Prop) (K : tM → Prop) (R : tM → Prop) (s : tM) : Prop :=
  (tE s 7 18 x0 ∧ (∀ s102 : tM, s102 = tsI s x0 1 ((tI s x0 1) + 1) → (R s102)))
theorem e_X7_next_175 {G : xG} {l : Launch} {g : xH} {d : Nat} {N : tP} (hN : tNs G N) (hd : 3 ≤ d) (x0 : Nat) (x1 : Int32) (x2 : Int32) (Kr : tM → Prop) (K : tM → Prop) (R : tM → Prop) (s : tM) (h : v_X7_next_175 N x0 x1 x2 Kr K R s) (hK : ∀ (s : tM), K s → xF G l kX7_next (d + 1) 0 0 (tQ G g wu (fun _ => Kr) tNo) 188 [none, none, none] [] (tH G g s)) (hR : ∀ (s : tM), R s → xF G l kX7_next (d + 1) 0 0 (tQ G g wu (fun _ => Kr) tNo) 117 [some (rfv x0), some (.int x1), some (.int x2)] [] (tH G g s)) : xF G l kX7_next (d + 1) 0 0 (tQ G g wu (fun _ => Kr) tNo) 175 [some (rfv x0), some (.int x1), some (.int x2)] [] (tH G g s) := by
  unfold v_X7_next_175 at h
  refine t_aload_0 dX7_next_175 ?_
  refine x_dup dX7_next_176 (rfv_c _) ?_
  obtain ⟨e101, h⟩ := h
  refine t_getI2 (j := 1) dX7_next_177 ⟨fa_X7_49_7, fa_X7_49_18⟩ (by decide) e101 ?_
  refine x_iconst (v := 1) dX7_next_180 (by decide) ?_
  refine x_iadd dX7_next_181 ?_
  refine t_putI2 (j := 1) dX7_next_182 ⟨fp_X7_49_7, fp_X7_49_18⟩ (by decide) e101 rfl rfl ?_
  refine t_gen h (fun s102 w103 h => ?_)
  refine x_goto 117 dX7_next_185 (by decide) ?_
  exact x_le (xLe_cons (xLe_cons (xLe_cons (xLe_nil)))) (hR _ h)
def v_X7_next_153 (N : tP) (x0 : Nat) (x1 : Int32) (x2 : Int32) (Kr : tM → Prop) (K : tM → Prop) (R : tM → Prop) (s : tM) : Prop :=
  ((x2 = 0 → (K s)) ∧ (¬ x2 = 0 → (tE s 7 18 x0 ∧ (tO s 0 (tR s x0 7) ∧ (tX s 2 (tR s (tR s x0 7) 14) (tI s x0 1) ∧ (v_X0_isDigit (tI s (tR s (tR s x0 7) 14) (tI s x0 1).toNatClampNeg) s (fun x105 s106 => ((x105 = 0 → (K s106)) ∧ (¬ x105 = 0 → (v_X7_next_175 N x0 x1 x2 Kr K R s106))))))))))
theorem e_X7_next_153 {G : xG} {l : Launch} {g : xH} {d : Nat} {N : tP} (hN : tNs G N) (hd : 3 ≤ d) (x0 : Nat) (x1 : Int32) (x2 : Int32) (Kr : tM → Prop) (K : tM → Prop) (R : tM → Prop) (s : tM) (h : v_X7_next_153 N x0 x1 x2 Kr K R s) (hK : ∀ (s : tM), K s → xF G l kX7_next (d + 1) 0 0 (tQ G g wu (fun _ => Kr) tNo) 188 [none, none, none] [] (tH G g s)) (hR : ∀ (s : tM), R s → xF G l kX7_next (d + 1) 0 0 (tQ G g wu (fun _ => Kr) tNo) 117 [some (rfv x0), some (.int x1), some (.int x2)] [] (tH G g s)) : xF G l kX7_next (d + 1) 0 0 (tQ G g wu (fun _ => Kr) tNo) 153 [some (rfv x0), some (.int x1), some (.int x2)] [] (tH G g s) := by
  unfold v_X7_next_153 at h
  refine x_iload_2 dX7_next_153 ?_
  refine x_if_eq 188 dX7_next_154 (by decide) (fun c101 => ?_) (fun c101 => ?_)
  · have h := h.1 c101
    exact x_le (xLe_none (xLe_none (xLe_none (xLe_nil)))) (hK _ h)
  · have h := h.2 c101
    refine t_aload_0 dX7_next_157 ?_
    obtain ⟨e102, h⟩ := h
    refine t_getR2 (j := 7) dX7_next_158 ⟨fa_X7_3_7, fa_X7_3_18⟩ (by decide) e102 ?_
    obtain ⟨e103, h⟩ := h
    refine t_getR dX7_next_161 fa_X7_52_0 (by decide) e103 ?_
    refine t_aload_0 dX7_next_164 ?_
    refine t_getI2 (j := 1) dX7_next_165 ⟨fa_X7_49_7, fa_X7_49_18⟩ (by decide) e102 ?_
    obtain ⟨e104, h⟩ := h
    refine t_bald dX7_next_168 e104 ?_
    refine t_cSNi (As := [_]) rfl csn_X7_60 rfl rfl (xrm4 (Nat.le_of_ble_eq_true rfl)) dX7_next_169 (e_X0_isDigit (by omega) h) ⟨Nat.zero_le _, Nat.zero_le _⟩ (fun _ _ _ h => h.elim) (fun x105 s106 h => ?_)
    refine x_if_eq 188 dX7_next_172 (by decide) (fun c107 => ?_) (fun c107 => ?_)
    · have h := h.1 c107
      exact x_le (xLe_none (xLe_none (xLe_none (xLe_nil)))) (hK _ h)
    · have h := h.2 c107
      exact x_le (xLe_cons (xLe_cons (xLe_cons (xLe_nil)))) (e_X7_next_175 hN (by omega) _ _ _ _ _ _ _ h hK hR)
def v_X7_next_117 (N : tP) (x0 : Nat) (x1 : Int32) (x2 : Int32) (Kr : tM → Prop) (K : tM → Prop) : Nat → tM → Prop
  | 0, _ => False
  | t + 1, s => (tE s 7 18 x0 ∧ (tO s 0 (tR s x0 7) ∧ (((tI s (tR s x0 7) 15) ≤ (tI s x0 1) → (K s)) ∧ (¬ (tI s (tR s x0 7) 15) ≤ (tI s x0 1) → ((x1 = 0 → (v_X7_next_153 N x0 x1 x2 Kr K (fun s => v_X7_next_117 N x0 x1 x2 Kr K t s) s)) ∧ (¬ x1 = 0 → (tX s 2 (tR s (tR s x0 7) 14) (tI s x0 1) ∧ (v_X0_isLetter (tI s (tR s (tR s x0 7) 14) (tI s x0 1).toNatClampNeg) s (fun x106 s107 => ((¬ x106 = 0 → (v_X7_next_175 N x0 x1 x2 Kr K (fun s => v_X7_next_117 N x0 x1 x2 Kr K t s) s107)) ∧ (x106 = 0 → (v_X7_next_153 N x0 x1 x2 Kr K (fun s => v_X7_next_117 N x0 x1 x2 Kr K t s) s107))))))))))))
theorem e_X7_next_117 {G : xG} {l : Launch} {g : xH} {d : Nat} {N : tP} (hN : tNs G N) (hd : 3 ≤ d) (x0 : Nat) (x1 : Int32) (x2 : Int32) (Kr : tM → Prop) (K : tM → Prop) : ∀ (t : Nat) (s : tM) , v_X7_next_117 N x0 x1 x2 Kr K t s → (∀ (s : tM), K s → xF G l kX7_next (d + 1) 0 0 (tQ G g wu (fun _ => Kr) tNo) 188 [none, none, none] [] (tH G g s)) → xF G l kX7_next (d + 1) 0 0 (tQ G g wu (fun _ => Kr) tNo) 117 [some (rfv x0), some (.int x1), some (.int x2)] [] (tH G g s) := by
  intro t
  induction t with
  | zero =>
    intro _ h _
    exact absurd h (by simp [v_X7_next_117])
  | succ t ih =>
    intro s h hK
    have hR := fun s h => ih s h hK
    unfold v_X7_next_117 at h
    refine t_aload_0 dX7_next_117 ?_
    obtain ⟨e101, h⟩ := h
    refine t_getI2 (j := 1) dX7_next_118 ⟨fa_X7_49_7, fa_X7_49_18⟩ (by decide) e101 ?_
    refine t_aload_0 dX7_next_121 ?_
    refine t_getR2 (j := 7) dX7_next_122 ⟨fa_X7_3_7, fa_X7_3_18⟩ (by decide) e101 ?_
    obtain ⟨e102, h⟩ := h
    refine t_getI dX7_next_125 fa_X7_46_0 (by decide) e102 ?_
    refine x_icmp_ge 188 dX7_next_128 (by decide) (fun c103 => ?_) (fun c103 => ?_)
    · have h := h.1 c103
      exact x_le (xLe_none (xLe_none (xLe_none (xLe_nil)))) (hK _ h)
    · have h := h.2 c103
      refine x_iload_1 dX7_next_131 ?_
      refine x_if_eq 153 dX7_next_132 (by decide) (fun c104 => ?_) (fun c104 => ?_)
      · have h := h.1 c104
        exact x_le (xLe_cons (xLe_cons (xLe_cons (xLe_nil)))) (e_X7_next_153 hN (by omega) _ _ _ _ _ _ _ h hK hR)
      · have h := h.2 c104
        refine t_aload_0 dX7_next_135 ?_
        refine t_getR2 (j := 7) dX7_next_136 ⟨fa_X7_3_7, fa_X7_3_18⟩ (by decide) e101 ?_
        refine t_getR dX7_next_139 fa_X7_52_0 (by decide) e102 ?_
        refine t_aload_0 dX7_next_142 ?_
        refine t_getI2 (j := 1) dX7_next_143 ⟨fa_X7_49_7, fa_X7_49_18⟩ (by decide) e101 ?_
        obtain ⟨e105, h⟩ := h
        refine t_bald dX7_next_146 e105 ?_
        refine t_cSNi (As := [_]) rfl csn_X7_56 rfl rfl (xrm4 (Nat.le_of_ble_eq_true rfl)) dX7_next_147 (e_X0_isLetter (by omega) h) ⟨Nat.zero_le _, Nat.zero_le _⟩ (fun _ _ _ h => h.elim) (fun x106 s107 h => ?_)
        refine x_if_ne 175 dX7_next_150 (by decide) (fun c108 => ?_) (fun c108 => ?_)
        · have h := h.1 c108
          exact x_le (xLe_cons (xLe_cons (xLe_cons (xLe_nil)))) (e_X7_next_175 hN (by omega) _ _ _ _ _ _ _ h hK hR)
        · have h := h.2 c108
          exact x_le (xLe_cons (xLe_cons (xLe_cons (xLe_nil)))) (e_X7_next_153 hN (by omega) _ _ _ _ _ _ _ h hK hR)
def v_X7_next_8 (N : tP) (x0 : Nat) (Kr : tM → Prop) (K : tM → Prop) : Nat → tM → Prop
  | 0, _ => False
  | t + 1, s => (tE s 7 18 x0 ∧ (tO s 0 (tR s x0 7) ∧ (((tI s (tR s x0 7) 15) ≤ (tI s x0 0) → (K s)) ∧ (¬ (tI s (tR s x0 7) 15) ≤ (tI s x0 0) → (tX s 2 (tR s (tR s x0 7) 14) (tI s x0 0) ∧ ((¬ (tI s (tR s (tR s x0 7) 14) (tI s x0 0).toNatClampNeg) = 32 → (K s)) ∧ ((tI s (tR s (tR s x0 7) 14) (tI s x0 0).toNatClampNeg) = 32 → (∀ s106 : tM, s106 = tsI s x0 0 ((tI s x0 0) + 1) → ((fun s => v_X7_next_8 N x0 Kr K t s) s106)))))))))
theorem e_X7_next_8 {G : xG} {l : Launch} {g : xH} {d : Nat} {N : tP} (hN : tNs G N) (hd : 3 ≤ d) (x0 : Nat) (Kr : tM → Prop) (K : tM → Prop) : ∀ (t : Nat) (s : tM) , v_X7_next_8 N x0 Kr K t s → (∀ (s : tM), K s → xF G l kX7_next (d + 1) 0 0 (tQ G g wu (fun _ => Kr) tNo) 52 [some (rfv x0), none, none] [] (tH G g s)) → xF G l kX7_next (d + 1) 0 0 (tQ G g wu (fun _ => Kr) tNo) 8 [some (rfv x0), none, none] [] (tH G g s) := by
  intro t
  induction t with
  | zero =>
    intro _ h _
    exact absurd h (by simp [v_X7_next_8])
  | succ t ih =>
    intro s h hK
    have hR := fun s h => ih s h hK
    unfold v_X7_next_8 at h
    refine t_aload_0 dX7_next_8 ?_
    obtain ⟨e101, h⟩ := h
    refine t_getI2 (j := 0) dX7_next_9 ⟨fa_X7_42_7, fa_X7_42_18⟩ (by decide) e101 ?_
    refine t_aload_0 dX7_next_12 ?_
    refine t_getR2 (j := 7) dX7_next_13 ⟨fa_X7_3_7, fa_X7_3_18⟩ (by decide) e101 ?_
    obtain ⟨e102, h⟩ := h
    refine t_getI dX7_next_16 fa_X7_46_0 (by decide) e102 ?_
    refine x_icmp_ge 52 dX7_next_19 (by decide) (fun c103 => ?_) (fun c103 => ?_)
    · have h := h.1 c103
      exact x_le (xLe_cons (xLe_cons (xLe_cons (xLe_nil)))) (hK _ h)
    · have h := h.2 c103
      refine t_aload_0 dX7_next_22 ?_
      refine t_getR2 (j := 7) dX7_next_23 ⟨fa_X7_3_7, fa_X7_3_18⟩ (by decide) e101 ?_
      refine t_getR dX7_next_26 fa_X7_52_0 (by decide) e102 ?_
      refine t_aload_0 dX7_next_29 ?_
      refine t_getI2 (j := 0) dX7_next_30 ⟨fa_X7_42_7, fa_X7_42_18⟩ (by decide) e101 ?_
      obtain ⟨e104, h⟩ := h
      refine t_bald dX7_next_33 e104 ?_
      refine x_bipush (v := 32) dX7_next_34 (by decide) ?_
      refine x_icmp_ne 52 dX7_next_36 (by decide) (fun c105 => ?_) (fun c105 => ?_)
      · have h := h.1 c105
        exact x_le (xLe_cons (xLe_cons (xLe_cons (xLe_nil)))) (hK _ h)
      · have h := h.2 c105
        refine t_aload_0 dX7_next_39 ?_
        refine x_dup dX7_next_40 (rfv_c _) ?_
        refine t_getI2 (j := 0) dX7_next_41 ⟨fa_X7_42_7, fa_X7_42_18⟩ (by decide) e101 ?_
        refine x_iconst (v := 1) dX7_next_44 (by decide) ?_
        refine x_iadd dX7_next_45 ?_
        refine t_putI2 (j := 0) dX7_next_46 ⟨fp_X7_42_7, fp_X7_42_18⟩ (by decide) e101 rfl rfl ?_
        refine t_gen h (fun s106 w107 h => ?_)
        refine x_goto 8 dX7_next_49 (by decide) ?_
        exact x_le (xLe_cons (xLe_cons (xLe_cons (xLe_nil)))) (hR _ h)
def v_X7_next (N : tP) (x0 : Nat) (s : tM) (Kr : tM → Prop) : Prop :=
  (tE s 7 18 x0 ∧ (∀ s102 : tM, s102 = tsI s x0 0 (tI s x0 1) → (v_X7_next_8 N x0 Kr (fun s104 => (tE s104 7 18 x0 ∧ (∀ s106 : tM, s106 = tsI s104 x0 1 (tI s104 x0 0) → (tO s106 0 (tR s106 x0 7) ∧ ((¬ (tI s106 x0 1) = (tI s106 (tR s106 x0 7) 15) → (tX s106 2 (tR s106 (tR s106 x0 7) 14) (tI s106 x0 1) ∧ (v_X0_isLetter (tI s106 (tR s106 (tR s106 x0 7) 14) (tI s106 x0 1).toNatClampNeg) s106 (fun x111 s112 => (tE s112 7 18 x0 ∧ (tO s112 0 (tR s112 x0 7) ∧ (tX s112 2 (tR s112 (tR s112 x0 7) 14) (tI s112 x0 1) ∧ (v_X0_isDigit (tI s112 (tR s112 (tR s112 x0 7) 14) (tI s112 x0 1).toNatClampNeg) s112 (fun x116 s117 => (tE s117 7 18 x0 ∧ (∀ s119 : tM, s119 = tsI s117 x0 1 ((tI s117 x0 1) + 1) → (v_X7_next_117 N x0 x111 x116 Kr (fun s121 => (Kr s121)) N.1 s119)))))))))))) ∧ ((tI s106 x0 1) = (tI s106 (tR s106 x0 7) 15) → (Kr s106))))))) N.1 s102)))
theorem e_X7_next {G : xG} {l : Launch} {g : xH} {d : Nat} {N : tP} (hN : tNs G N) (hd : 4 ≤ d) {x0 : Nat} {s : tM} {Kr : tM → Prop} (h : v_X7_next N x0 s Kr) : xC G l kX7_next d 0 0 [rfv x0] (tH G g s) (tQ G g wu (fun _ => Kr) tNo) := by
  obtain ⟨d, rfl⟩ : ∃ z, d = z + 1 := ⟨d - 1, by omega⟩
  refine t_start rfl (by decide +kernel) (by simp [xct_i, xct_l, rfv_c]) (lv := [some (rfv x0), none, none]) (by simp [lv_args, xLv, rfv_c, xct_i, xct_l]) ?_
  unfold v_X7_next at h
  refine t_aload_0 dX7_next_0 ?_
  refine t_aload_0 dX7_next_1 ?_
  obtain ⟨e101, h⟩ := h
  refine t_getI2 (j := 1) dX7_next_2 ⟨fa_X7_49_7, fa_X7_49_18⟩ (by decide) e101 ?_
  refine t_putI2 (j := 0) dX7_next_5 ⟨fp_X7_42_7, fp_X7_42_18⟩ (by decide) e101 rfl rfl ?_
  refine t_gen h (fun s102 w103 h => ?_)
  refine x_le (xLe_cons (xLe_cons (xLe_cons (xLe_nil)))) (e_X7_next_8 hN (by omega) _ _ _  _ _ h (fun s104 h => ?_))
  refine t_aload_0 dX7_next_52 ?_
  refine t_aload_0 dX7_next_53 ?_
  obtain ⟨e105, h⟩ := h
  refine t_getI2 (j := 0) dX7_next_54 ⟨fa_X7_42_7, fa_X7_42_18⟩ (by decide) e105 ?_
  refine t_putI2 (j := 1) dX7_next_57 ⟨fp_X7_49_7, fp_X7_49_18⟩ (by decide) e105 rfl rfl ?_
  refine t_gen h (fun s106 w107 h => ?_)
  refine t_aload_0 dX7_next_60 ?_
  refine t_getI2 (j := 1) dX7_next_61 ⟨fa_X7_49_7, fa_X7_49_18⟩ (by decide) (tE_w w107 e105) ?_
  refine t_aload_0 dX7_next_64 ?_
  refine t_getR2 (j := 7) dX7_next_65 ⟨fa_X7_3_7, fa_X7_3_18⟩ (by decide) (tE_w w107 e105) ?_
  obtain ⟨e108, h⟩ := h
  refine t_getI dX7_next_68 fa_X7_46_0 (by decide) e108 ?_
  refine x_icmp_ne 75 dX7_next_71 (by decide) (fun c109 => ?_) (fun c109 => ?_)
  · have h := h.1 c109
    refine t_aload_0 dX7_next_75 ?_
    refine t_getR2 (j := 7) dX7_next_76 ⟨fa_X7_3_7, fa_X7_3_18⟩ (by decide) (tE_w w107 e105) ?_
    refine t_getR dX7_next_79 fa_X7_52_0 (by decide) e108 ?_
    refine t_aload_0 dX7_next_82 ?_
    refine t_getI2 (j := 1) dX7_next_83 ⟨fa_X7_49_7, fa_X7_49_18⟩ (by decide) (tE_w w107 e105) ?_
    obtain ⟨e110, h⟩ := h
    refine t_bald dX7_next_86 e110 ?_
    refine t_cSNi (As := [_]) rfl csn_X7_56 rfl rfl (xrm4 (Nat.le_of_ble_eq_true rfl)) dX7_next_87 (e_X0_isLetter (by omega) h) ⟨Nat.zero_le _, Nat.zero_le _⟩ (fun _ _ _ h => h.elim) (fun x111 s112 h => ?_)
    refine x_istore_1 dX7_next_90 (by decide) xN2_f ?_
    refine t_aload_0 dX7_next_91 ?_
    obtain ⟨e113, h⟩ := h
    refine t_getR2 (j := 7) dX7_next_92 ⟨fa_X7_3_7, fa_X7_3_18⟩ (by decide) e113 ?_
    obtain ⟨e114, h⟩ := h
    refine t_getR dX7_next_95 fa_X7_52_0 (by decide) e114 ?_
    refine t_aload_0 dX7_next_98 ?_
    refine t_getI2 (j := 1) dX7_next_99 ⟨fa_X7_49_7, fa_X7_49_18⟩ (by decide) e113 ?_
    obtain ⟨e115, h⟩ := h
    refine t_bald dX7_next_102 e115 ?_
    refine t_cSNi (As := [_]) rfl csn_X7_60 rfl rfl (xrm4 (Nat.le_of_ble_eq_true rfl)) dX7_next_103 (e_X0_isDigit (by omega) h) ⟨Nat.zero_le _, Nat.zero_le _⟩ (fun _ _ _ h => h.elim) (fun x116 s117 h => ?_)
    refine x_istore_2 dX7_next_106 (by decide) xN2_i ?_
    refine t_aload_0 dX7_next_107 ?_
    refine x_dup dX7_next_108 (rfv_c _) ?_
    obtain ⟨e118, h⟩ := h
    refine t_getI2 (j := 1) dX7_next_109 ⟨fa_X7_49_7, fa_X7_49_18⟩ (by decide) e118 ?_
    refine x_iconst (v := 1) dX7_next_112 (by decide) ?_
    refine x_iadd dX7_next_113 ?_
    refine t_putI2 (j := 1) dX7_next_114 ⟨fp_X7_49_7, fp_X7_49_18⟩ (by decide) e118 rfl rfl ?_
    refine t_gen h (fun s119 w120 h => ?_)
    refine x_le (xLe_cons (xLe_cons (xLe_cons (xLe_nil)))) (e_X7_next_117 hN (by omega) _ _ _ _ _  _ _ h (fun s121 h => ?_))
    exact x_vret dX7_next_188 rfl (Or.inl ⟨(), _, h, rfl, rfl⟩)
  · have h := h.2 c109
    exact x_vret dX7_next_74 rfl (Or.inl ⟨(), _, h, rfl, rfl⟩)
def v_X7_number_48 (N : tP) (x0 : Nat) (x1 : Int32) (Kr : Int32 → tM → Prop) (Kx : String → Nat → tM → Prop) (K : Int32 → Nat → Nat → tM → Prop) : Nat → Int32 → Int32 → Nat → Nat → tM → Prop
  | 0, _, _, _, _, _ => False
  | t + 1, x2, x3, k, n, s => (tE s 7 18 x0 ∧ (((tI s x0 1) ≤ x3 → (K x2 k n s)) ∧ (¬ (tI s x0 1) ≤ x3 → ((x1 < x2 → (K x2 k n s)) ∧ (¬ x1 < x2 → (tO s 0 (tR s x0 7) ∧ (tX s 2 (tR s (tR s x0 7) 14) x3 ∧ (∀ x106 : Int32, x106 = ((10 * x2) + (tI s (tR s (tR s x0 7) 14) x3.toNatClampNeg)) - 48 → (∀ x107 : Int32, x107 = x3 + 1 → ((fun x2 x3 k n s => v_X7_number_48 N x0 x1 Kr Kx K t x2 x3 k n s) x106 x107 k n s))))))))))
theorem e_X7_number_48 {G : xG} {l : Launch} {g : xH} {d : Nat} {N : tP} (hN : tNs G N) (hd : 9 ≤ d) (x0 : Nat) (x1 : Int32) (Kr : Int32 → tM → Prop) (Kx : String → Nat → tM → Prop) (K : Int32 → Nat → Nat → tM → Prop) : ∀ (t : Nat) (x2 : Int32) (x3 : Int32) (k n : Nat) (s : tM) , v_X7_number_48 N x0 x1 Kr Kx K t x2 x3 k n s → (∀ (z2 : Int32) (k n : Nat) (s : tM), K z2 k n s → xF G l kX7_number (d + 1) k n (tQ G g wi Kr Kx) 85 [some (rfv x0), some (.int x1), some (.int z2), none] [] (tH G g s)) → xF G l kX7_number (d + 1) k n (tQ G g wi Kr Kx) 48 [some (rfv x0), some (.int x1), some (.int x2), some (.int x3)] [] (tH G g s) := by
  intro t
  induction t with
  | zero =>
    intro _ _ _ _ _ h _
    exact absurd h (by simp [v_X7_number_48])
  | succ t ih =>
    intro x2 x3 k n s h hK
    have hR := fun x2 x3 k n s h => ih x2 x3 k n s h hK
    unfold v_X7_number_48 at h
    refine x_iload_3 dX7_number_48 ?_
    refine t_aload_0 dX7_number_49 ?_
    obtain ⟨e101, h⟩ := h
    refine t_getI2 (j := 1) dX7_number_50 ⟨fa_X7_49_7, fa_X7_49_18⟩ (by decide) e101 ?_
    refine x_icmp_ge 85 dX7_number_53 (by decide) (fun c102 => ?_) (fun c102 => ?_)
    · have h := h.1 c102
      exact x_le (xLe_cons (xLe_cons (xLe_cons (xLe_none (xLe_nil))))) (hK _ _ _ _ h)
    · have h := h.2 c102
      refine x_iload_2 dX7_number_56 ?_
      refine x_iload_1 dX7_number_57 ?_
      refine x_icmp_gt 85 dX7_number_58 (by decide) (fun c103 => ?_) (fun c103 => ?_)
      · have h := h.1 c103
        exact x_le (xLe_cons (xLe_cons (xLe_cons (xLe_none (xLe_nil))))) (hK _ _ _ _ h)
      · have h := h.2 c103
        refine x_bipush (v := 10) dX7_number_61 (by decide) ?_
        refine x_iload_2 dX7_number_63 ?_
        refine x_imul dX7_number_64 ?_
        refine t_aload_0 dX7_number_65 ?_
        refine t_getR2 (j := 7) dX7_number_66 ⟨fa_X7_3_7, fa_X7_3_18⟩ (by decide) e101 ?_
        obtain ⟨e104, h⟩ := h
        refine t_getR dX7_number_69 fa_X7_52_0 (by decide) e104 ?_
        refine x_iload_3 dX7_number_72 ?_
        obtain ⟨e105, h⟩ := h
        refine t_bald dX7_number_73 e105 ?_
        refine x_iadd dX7_number_74 ?_
        refine x_bipush (v := 48) dX7_number_75 (by decide) ?_
        refine x_isub dX7_number_77 ?_
        refine x_istore_2 dX7_number_78 (by decide) xN2_i ?_
        have h := h _ rfl
        refine x_iinc_3 (v := 1) dX7_number_79 (by decide) (by decide) xN2_i ?_
        have h := h _ rfl
        refine x_goto 48 dX7_number_82 (by decide) ?_
        exact x_le (xLe_cons (xLe_cons (xLe_cons (xLe_cons (xLe_nil))))) (hR _ _ _ _ _ h)
def v_X7_number_38 (N : tP) (x0 : Nat) (x1 : Int32) (y0 : Nat) (y1 : Int32) (Kr : Int32 → tM → Prop) (Kx : String → Nat → tM → Prop) (k n : Nat) (s : tM) : Prop :=
  (∃ c103 c104 : Nat, c103 ≤ k ∧ c104 ≤ n ∧ (tE s 7 18 y0 ∧ (v_X7_must N y0 y1 c103 c104 s (fun s102 => (tE s102 7 18 x0 ∧ (∀ x109 : Int32, x109 = tI s102 x0 0 → (v_X7_number_48 N x0 x1 Kr Kx (fun x110 k112 n113 s111 => ((x1 < x110 → (∃ c117 c118 : Nat, c117 ≤ k112 ∧ c118 ≤ n113 ∧ (tE s111 7 18 x0 ∧ (v_X7_must N x0 0 c117 c118 s111 (fun s116 => (tE s116 7 18 x0 ∧ (v_X7_next N x0 s116 (fun s123 => (Kr x110 s123))))) Kx)))) ∧ (¬ x1 < x110 → (∃ c127 c128 : Nat, c127 ≤ k112 ∧ c128 ≤ n113 ∧ (tE s111 7 18 x0 ∧ (v_X7_must N x0 1 c127 c128 s111 (fun s126 => (tE s126 7 18 x0 ∧ (v_X7_next N x0 s126 (fun s133 => (Kr x110 s133))))) Kx)))))) N.1 0 x109 (k - c103) (n - c104) s102)))) Kx)))
theorem e_X7_number_38 {G : xG} {l : Launch} {g : xH} {d : Nat} {N : tP} (hN : tNs G N) (hd : 9 ≤ d) (x0 : Nat) (x1 : Int32) (y0 : Nat) (y1 : Int32) (Kr : Int32 → tM → Prop) (Kx : String → Nat → tM → Prop) (k n : Nat) (s : tM) (h : v_X7_number_38 N x0 x1 y0 y1 Kr Kx k n s) : xF G l kX7_number (d + 1) k n (tQ G g wi Kr Kx) 38 [some (rfv x0), some (.int x1), none, none] [.int y1, rfv y0] (tH G g s) := by
  unfold v_X7_number_38 at h
  obtain ⟨c103, c104, e105, e106, h⟩ := h
  obtain ⟨e107, h⟩ := h
  refine t_cDv (As := [_]) rfl (e107.elim (fun e => ⟨_, 7, _, _, _, _, _, xcl_X8.1, cu_X7_28_7, e, (e_X7_must hN (by omega) h)⟩) (fun e => ⟨_, 18, _, _, _, _, _, xcl_X21.1, cu_X7_28_18, e, (e_X7_must hN (by omega) h)⟩)) rfl rfl (xrm4 (Nat.le_of_ble_eq_true rfl)) dX7_number_38 ⟨e105, e106⟩ (fun E q m1 h => Or.inr ⟨E, q, m1, h, rfl, rfl⟩) (fun _ s102 h => ?_)
  refine x_iconst (v := 0) dX7_number_41 (by decide) ?_
  refine x_istore_2 dX7_number_42 (by decide) xN2_i ?_
  refine t_aload_0 dX7_number_43 ?_
  obtain ⟨e108, h⟩ := h
  refine t_getI2 (j := 0) dX7_number_44 ⟨fa_X7_42_7, fa_X7_42_18⟩ (by decide) e108 ?_
  refine x_istore_3 dX7_number_47 (by decide) xN2_i ?_
  have h := h _ rfl
  refine x_le (xLe_cons (xLe_cons (xLe_cons (xLe_cons (xLe_nil))))) (e_X7_number_48 hN (by omega) _ _ _ _ _  _ _ _ _ _ _ h (fun x110 k112 n113 s111 h => ?_))
  refine t_aload_0 dX7_number_85 ?_
  refine x_iload_2 dX7_number_86 ?_
  refine x_iload_1 dX7_number_87 ?_
  refine x_icmp_gt 95 dX7_number_88 (by decide) (fun c114 => ?_) (fun c114 => ?_)
  · have h := h.1 c114
    refine x_iconst (v := 0) dX7_number_95 (by decide) ?_
    obtain ⟨c117, c118, e119, e120, h⟩ := h
    obtain ⟨e121, h⟩ := h
    refine t_cDv (As := [_]) rfl (e121.elim (fun e => ⟨_, 7, _, _, _, _, _, xcl_X8.1, cu_X7_28_7, e, (e_X7_must hN (by omega) h)⟩) (fun e => ⟨_, 18, _, _, _, _, _, xcl_X21.1, cu_X7_28_18, e, (e_X7_must hN (by omega) h)⟩)) rfl rfl (xrm4 (Nat.le_of_ble_eq_true rfl)) dX7_number_96 ⟨e119, e120⟩ (fun E q m1 h => Or.inr ⟨E, q, m1, h, rfl, rfl⟩) (fun _ s116 h => ?_)
    refine t_aload_0 dX7_number_99 ?_
    obtain ⟨e124, h⟩ := h
    refine t_cDv (As := []) rfl (e124.elim (fun e => ⟨_, 7, _, _, _, _, _, xcl_X8.1, cu_X7_25_7, e, (e_X7_next hN (by omega) h)⟩) (fun e => ⟨_, 18, _, _, _, _, _, xcl_X21.1, cu_X7_25_18, e, (e_X7_next hN (by omega) h)⟩)) rfl rfl (xrm4 (Nat.le_of_ble_eq_true rfl)) dX7_number_100 ⟨Nat.zero_le _, Nat.zero_le _⟩ (fun _ _ _ h => h.elim) (fun _ s123 h => ?_)
    refine x_iload_2 dX7_number_103 ?_
    exact x_iret dX7_number_104 rfl (Or.inl ⟨_, _, h, rfl, rfl⟩)
  · have h := h.2 c114
    refine x_iconst (v := 1) dX7_number_91 (by decide) ?_
    refine x_goto 96 dX7_number_92 (by decide) ?_
    obtain ⟨c127, c128, e129, e130, h⟩ := h
    obtain ⟨e131, h⟩ := h
    refine t_cDv (As := [_]) rfl (e131.elim (fun e => ⟨_, 7, _, _, _, _, _, xcl_X8.1, cu_X7_28_7, e, (e_X7_must hN (by omega) h)⟩) (fun e => ⟨_, 18, _, _, _, _, _, xcl_X21.1, cu_X7_28_18, e, (e_X7_must hN (by omega) h)⟩)) rfl rfl (xrm4 (Nat.le_of_ble_eq_true rfl)) dX7_number_96 ⟨e129, e130⟩ (fun E q m1 h => Or.inr ⟨E, q, m1, h, rfl, rfl⟩) (fun _ s126 h => ?_)
    refine t_aload_0 dX7_number_99 ?_
    obtain ⟨e134, h⟩ := h
    refine t_cDv (As := []) rfl (e134.elim (fun e => ⟨_, 7, _, _, _, _, _, xcl_X8.1, cu_X7_25_7, e, (e_X7_next hN (by omega) h)⟩) (fun e => ⟨_, 18, _, _, _, _, _, xcl_X21.1, cu_X7_25_18, e, (e_X7_next hN (by omega) h)⟩)) rfl rfl (xrm4 (Nat.le_of_ble_eq_true rfl)) dX7_number_100 ⟨Nat.zero_le _, Nat.zero_le _⟩ (fun _ _ _ h => h.elim) (fun _ s133 h => ?_)
    refine x_iload_2 dX7_number_103 ?_
    exact x_iret dX7_number_104 rfl (Or.inl ⟨_, _, h, rfl, rfl⟩)
def v_X7_number_37 (N : tP) (x0 : Nat) (x1 : Int32) (y0 : Nat) (Kr : Int32 → tM → Prop) (Kx : String → Nat → tM → Prop) (k n : Nat) (s : tM) : Prop :=
  (v_X7_number_38 N x0 x1 y0 0 Kr Kx k n s)
theorem e_X7_number_37 {G : xG} {l : Launch} {g : xH} {d : Nat} {N : tP} (hN : tNs G N) (hd : 9 ≤ d) (x0 : Nat) (x1 : Int32) (y0 : Nat) (Kr : Int32 → tM → Prop) (Kx : String → Nat → tM → Prop) (k n : Nat) (s : tM) (h : v_X7_number_37 N x0 x1 y0 Kr Kx k n s) : xF G l kX7_number (d + 1) k n (tQ G g wi Kr Kx) 37 [some (rfv x0), some (.int x1), none, none] [rfv y0] (tH G g s) := by
  unfold v_X7_number_37 at h
  refine x_iconst (v := 0) dX7_number_37 (by decide) ?_
  exact x_le (xLe_cons (xLe_cons (xLe_cons (xLe_cons (xLe_nil))))) (e_X7_number_38 hN (by omega) _ _ _ _ _ _ _ _ _ h)
def v_X7_number (N : tP) (x0 : Nat) (x1 : Int32) (k n : Nat) (s : tM) (Kr : Int32 → tM → Prop) (Kx : String → Nat → tM → Prop) : Prop :=
  (tE s 7 18 x0 ∧ (tO s 0 (tR s x0 7) ∧ (((tI s (tR s x0 7) 15) ≤ (tI s x0 0) → (v_X7_number_37 N x0 x1 x0 Kr Kx k n s)) ∧ (¬ (tI s (tR s x0 7) 15) ≤ (tI s x0 0) → (tX s 2 (tR s (tR s x0 7) 14) (tI s x0 0) ∧ (v_X0_isDigit (tI s (tR s (tR s x0 7) 14) (tI s x0 0).toNatClampNeg) s (fun x105 s106 => ((x105 = 0 → (v_X7_number_37 N x0 x1 x0 Kr Kx k n s106)) ∧ (¬ x105 = 0 → (v_X7_number_38 N x0 x1 x0 1 Kr Kx k n s106))))))))))
theorem e_X7_number {G : xG} {l : Launch} {g : xH} {d : Nat} {N : tP} (hN : tNs G N) (hd : 10 ≤ d) {x0 : Nat} {x1 : Int32} {k n : Nat} {s : tM} {Kr : Int32 → tM → Prop} {Kx : String → Nat → tM → Prop} (h : v_X7_number N x0 x1 k n s Kr Kx) : xC G l kX7_number d k n [rfv x0, .int x1] (tH G g s) (tQ G g wi Kr Kx) := by
  obtain ⟨d, rfl⟩ : ∃ z, d = z + 1 := ⟨d - 1, by omega⟩
  refine t_start rfl (by decide +kernel) (by simp [xct_i, xct_l, rfv_c]) (lv := [some (rfv x0), some (.int x1), none, none]) (by simp [lv_args, xLv, rfv_c, xct_i, xct_l]) ?_
  unfold v_X7_number at h
  refine t_aload_0 dX7_number_0 ?_
  refine t_aload_0 dX7_number_1 ?_
  obtain ⟨e101, h⟩ := h
  refine t_getI2 (j := 0) dX7_number_2 ⟨fa_X7_42_7, fa_X7_42_18⟩ (by decide) e101 ?_
  refine t_aload_0 dX7_number_5 ?_
  refine t_getR2 (j := 7) dX7_number_6 ⟨fa_X7_3_7, fa_X7_3_18⟩ (by decide) e101 ?_
  obtain ⟨e102, h⟩ := h
  refine t_getI dX7_number_9 fa_X7_46_0 (by decide) e102 ?_
  refine x_icmp_ge 37 dX7_number_12 (by decide) (fun c103 => ?_) (fun c103 => ?_)
  · have h := h.1 c103
    exact x_le (xLe_cons (xLe_cons (xLe_cons (xLe_cons (xLe_nil))))) (e_X7_number_37 hN (by omega) _ _ _ _ _ _ _ _ h)
  · have h := h.2 c103
    refine t_aload_0 dX7_number_15 ?_
    refine t_getR2 (j := 7) dX7_number_16 ⟨fa_X7_3_7, fa_X7_3_18⟩ (by decide) e101 ?_
    refine t_getR dX7_number_19 fa_X7_52_0 (by decide) e102 ?_
    refine t_aload_0 dX7_number_22 ?_
    refine t_getI2 (j := 0) dX7_number_23 ⟨fa_X7_42_7, fa_X7_42_18⟩ (by decide) e101 ?_
    obtain ⟨e104, h⟩ := h
    refine t_bald dX7_number_26 e104 ?_
    refine t_cSNi (As := [_]) rfl csn_X7_60 rfl rfl (xrm4 (Nat.le_of_ble_eq_true rfl)) dX7_number_27 (e_X0_isDigit (by omega) h) ⟨Nat.zero_le _, Nat.zero_le _⟩ (fun _ _ _ h => h.elim) (fun x105 s106 h => ?_)
    refine x_if_eq 37 dX7_number_30 (by decide) (fun c107 => ?_) (fun c107 => ?_)
    · have h := h.1 c107
      exact x_le (xLe_cons (xLe_cons (xLe_cons (xLe_cons (xLe_nil))))) (e_X7_number_37 hN (by omega) _ _ _ _ _ _ _ _ h)
    · have h := h.2 c107
      refine x_iconst (v := 1) dX7_number_33 (by decide) ?_
      refine x_goto 38 dX7_number_34 (by decide) ?_
      exact x_le (xLe_cons (xLe_cons (xLe_cons (xLe_cons (xLe_nil))))) (e_X7_number_38 hN (by omega) _ _ _ _ _ _ _ _ _ h)
def v_X21_behindWord (N : tP) (x0 : Nat) (x1 : Int32) (k n : Nat) (s : tM) (Kr : Nat → tM → Prop) (Kx : String → Nat → tM → Prop) : Prop :=
  ((5 ≤ x1 → (1 ≤ k ∧ (3 ≤ n ∧ (∀ q104 : Nat, s.1 q104 = none → ¬ q104 = 0 → ¬ q104 = N.2.2 200 → (∀ s105 : tM, s105 = tNew s q104 (.inl 11) → (tO s105 18 x0 ∧ (∃ c111 c112 : Nat, c111 ≤ k - 1 ∧ c112 ≤ n - 3 ∧ (v_X7_number N x0 11 c111 c112 s105 (fun x109 s110 => (tO s110 11 q104 ∧ (v_X13_init q104 (tR s105 x0 9) x1 x109 s110 (fun s116 => (Kr q104 s116))))) Kx)))))))) ∧ (¬ 5 ≤ x1 → (1 ≤ k ∧ (1 ≤ n ∧ (∀ q120 : Nat, s.1 q120 = none → ¬ q120 = 0 → ¬ q120 = N.2.2 200 → (∀ s121 : tM, s121 = tNew s q120 (.inl 10) → (v_X12_init q120 x1 s121 (fun s125 => (Kr q120 s125)))))))))
theorem e_X21_behindWord {G : xG} {l : Launch} {g : xH} {d : Nat} {N : tP} (hN : tNs G N) (hd : 12 ≤ d) {x0 : Nat} {x1 : Int32} {k n : Nat} {s : tM} {Kr : Nat → tM → Prop} {Kx : String → Nat → tM → Prop} (h : v_X21_behindWord N x0 x1 k n s Kr Kx) : xC G l kX21_behindWord d k n [rfv x0, .int x1] (tH G g s) (tQ G g wr Kr Kx) := by
  obtain ⟨d, rfl⟩ : ∃ z, d = z + 1 := ⟨d - 1, by omega⟩
  refine t_start rfl (by decide +kernel) (by simp [xct_i, xct_l, rfv_c]) (lv := [some (rfv x0), some (.int x1)]) (by simp [lv_args, xLv, rfv_c, xct_i, xct_l]) ?_
  unfold v_X21_behindWord at h
  refine x_iload_1 dX21_behindWord_0 ?_
  refine x_iconst (v := 5) dX21_behindWord_1 (by decide) ?_
  refine x_icmp_ge 16 dX21_behindWord_2 (by decide) (fun c101 => ?_) (fun c101 => ?_)
  · have h := h.1 c101
    obtain ⟨e102, h⟩ := h
    obtain ⟨e103, h⟩ := h
    refine t_new (N := 3) dX21_behindWord_16 ne_X21_77 rfl e102 e103 (fun q h1 h2 h3 => ?_)
    have h := h q h1 h2 (fun e => h3 (e.trans (hN 200)))
    refine t_gen h (fun s105 w106 h => ?_)
    have e107 := h2
    refine x_dup dX21_behindWord_19 (rfv_c _) ?_
    refine t_aload_0 dX21_behindWord_20 ?_
    obtain ⟨e108, h⟩ := h
    refine t_getR dX21_behindWord_21 fa_X21_3_18 (by decide) e108 ?_
    refine x_iload_1 dX21_behindWord_24 ?_
    refine t_aload_0 dX21_behindWord_25 ?_
    refine x_bipush (v := 11) dX21_behindWord_26 (by decide) ?_
    obtain ⟨c111, c112, e113, e114, h⟩ := h
    refine t_cDi (As := [_]) rfl ⟨_, 18, _, _, _, _, _, xcl_X21.1, cu_X21_79_18, e108, (e_X7_number hN (by omega) h)⟩ rfl rfl (xrm4 (Nat.le_of_ble_eq_true rfl)) dX21_behindWord_28 ⟨e113, e114⟩ (fun E q m1 h => Or.inr ⟨E, q, m1, h, rfl, rfl⟩) (fun x109 s110 h => ?_)
    obtain ⟨e117, h⟩ := h
    refine t_cI (As := [_, _, _]) rfl ci_X21_83 e117.2 rfl rfl (xrm4 (Nat.le_of_ble_eq_true rfl)) dX21_behindWord_31 (e_X13_init (by omega) h) ⟨Nat.zero_le _, Nat.zero_le _⟩ (fun _ _ _ h => h.elim) (fun _ s116 h => ?_)
    exact t_aret dX21_behindWord_34 rfl (by first | exact Or.inl ⟨_, rfl⟩ | exact Or.inr ⟨_, rfl⟩) (Or.inl ⟨_, _, h, rfl, rfl⟩)
  · have h := h.2 c101
    obtain ⟨e118, h⟩ := h
    obtain ⟨e119, h⟩ := h
    refine t_new (N := 1) dX21_behindWord_5 ne_X21_72 rfl e118 e119 (fun q h1 h2 h3 => ?_)
    have h := h q h1 h2 (fun e => h3 (e.trans (hN 200)))
    refine t_gen h (fun s121 w122 h => ?_)
    have e123 := h2
    refine x_dup dX21_behindWord_8 (rfv_c _) ?_
    refine x_iload_1 dX21_behindWord_9 ?_
    refine t_cI (As := [_]) rfl ci_X21_74 e123 rfl rfl (xrm4 (Nat.le_of_ble_eq_true rfl)) dX21_behindWord_10 (e_X12_init (by omega) h) ⟨Nat.zero_le _, Nat.zero_le _⟩ (fun _ _ _ h => h.elim) (fun _ s125 h => ?_)
    refine x_goto 34 dX21_behindWord_13 (by decide) ?_
    exact t_aret dX21_behindWord_34 rfl (by first | exact Or.inl ⟨_, rfl⟩ | exact Or.inr ⟨_, rfl⟩) (Or.inl ⟨_, _, h, rfl, rfl⟩)
def v_X7_behindWord (N : tP) (x0 : Nat) (x1 : Int32) (k n : Nat) (s : tM) (Kr : Nat → tM → Prop) (Kx : String → Nat → tM → Prop) : Prop :=
  (1 ≤ k ∧ (1 ≤ n ∧ (∀ q103 : Nat, s.1 q103 = none → ¬ q103 = 0 → ¬ q103 = N.2.2 200 → (∀ s104 : tM, s104 = tNew s q103 (.inl 10) → (v_X12_init q103 x1 s104 (fun s108 => (Kr q103 s108)))))))
theorem e_X7_behindWord {G : xG} {l : Launch} {g : xH} {d : Nat} {N : tP} (hN : tNs G N) (hd : 6 ≤ d) {x0 : Nat} {x1 : Int32} {k n : Nat} {s : tM} {Kr : Nat → tM → Prop} {Kx : String → Nat → tM → Prop} (h : v_X7_behindWord N x0 x1 k n s Kr Kx) : xC G l kX7_behindWord d k n [rfv x0, .int x1] (tH G g s) (tQ G g wr Kr Kx) := by
  obtain ⟨d, rfl⟩ : ∃ z, d = z + 1 := ⟨d - 1, by omega⟩
  refine t_start rfl (by decide +kernel) (by simp [xct_i, xct_l, rfv_c]) (lv := [some (rfv x0), some (.int x1)]) (by simp [lv_args, xLv, rfv_c, xct_i, xct_l]) ?_
  unfold v_X7_behindWord at h
  obtain ⟨e101, h⟩ := h
  obtain ⟨e102, h⟩ := h
  refine t_new (N := 1) dX7_behindWord_0 ne_X7_195 rfl e101 e102 (fun q h1 h2 h3 => ?_)
  have h := h q h1 h2 (fun e => h3 (e.trans (hN 200)))
  refine t_gen h (fun s104 w105 h => ?_)
  have e106 := h2
  refine x_dup dX7_behindWord_3 (rfv_c _) ?_
  refine x_iload_1 dX7_behindWord_4 ?_
  refine t_cI (As := [_]) rfl ci_X7_197 e106 rfl rfl (xrm4 (Nat.le_of_ble_eq_true rfl)) dX7_behindWord_5 (e_X12_init (by omega) h) ⟨Nat.zero_le _, Nat.zero_le _⟩ (fun _ _ _ h => h.elim) (fun _ s108 h => ?_)
  exact t_aret dX7_behindWord_8 rfl (by first | exact Or.inl ⟨_, rfl⟩ | exact Or.inr ⟨_, rfl⟩) (Or.inl ⟨_, _, h, rfl, rfl⟩)
def v_U_behindWord (N : tP) (x0 : Nat) (x1 : Int32) (k n : Nat) (s : tM) (Kr : Nat → tM → Prop) (Kx : String → Nat → tM → Prop) : Prop := (tO s 7 x0 ∧ v_X7_behindWord N x0 x1 k n s Kr Kx) ∨ (tO s 18 x0 ∧ v_X21_behindWord N x0 x1 k n s Kr Kx)
theorem e_U_behindWord {G : xG} {l : Launch} {g : xH} {d : Nat} {N : tP} (hN : tNs G N) (hd : 12 ≤ d) {x0 : Nat} {x1 : Int32} {k n : Nat} {s : tM} {Kr : Nat → tM → Prop} {Kx : String → Nat → tM → Prop} (h : v_U_behindWord N x0 x1 k n s Kr Kx) : (tO s 7 x0 ∧ xC G l kX7_behindWord d k n [rfv x0, .int x1] (tH G g s) (tQ G g wr Kr Kx)) ∨ (tO s 18 x0 ∧ xC G l kX21_behindWord d k n [rfv x0, .int x1] (tH G g s) (tQ G g wr Kr Kx)) := (fun h => h.elim (fun h => Or.inl ⟨h.1, e_X7_behindWord hN (by omega) h.2⟩) (fun h => Or.inr (⟨h.1, e_X21_behindWord hN (by omega) h.2⟩))) h
def v_X20_init (x0 : Nat) (x1 : Nat) (x2 : Int32) (x3 : Nat) (x4 : Nat) (s : tM) (Kr : tM → Prop) : Prop :=
  (tO s 17 x0 ∧ (∀ s102 : tM, s102 = tsR s x0 6 x1 → (∀ s104 : tM, s104 = tsI s102 x0 4 1 → (∀ s106 : tM, s106 = tsI s104 x0 0 x2 → (∀ s108 : tM, s108 = tsR s106 x0 1 x3 → (∀ s110 : tM, s110 = tsR s108 x0 2 x4 → (Kr s110)))))))
theorem e_X20_init {G : xG} {l : Launch} {g : xH} {d : Nat} (hd : 2 ≤ d) {x0 : Nat} {x1 : Nat} {x2 : Int32} {x3 : Nat} {x4 : Nat} {s : tM} {Kr : tM → Prop} (h : v_X20_init x0 x1 x2 x3 x4 s Kr) : xC G l kX20_init d 0 0 [rfv x0, rfv x1, .int x2, rfv x3, rfv x4] (tH G g s) (tQ G g wu (fun _ => Kr) tNo) := by
  obtain ⟨d, rfl⟩ : ∃ z, d = z + 1 := ⟨d - 1, by omega⟩
  refine t_start rfl (by decide +kernel) (by simp [xct_i, xct_l, rfv_c]) (lv := [some (rfv x0), some (rfv x1), some (.int x2), some (rfv x3), some (rfv x4)]) (by simp [lv_args, xLv, rfv_c, xct_i, xct_l]) ?_
  unfold v_X20_init at h
  refine t_aload_0 dX20_init_0 ?_
  refine t_aload_1 dX20_init_1 ?_
  obtain ⟨e101, h⟩ := h
  refine t_putFR (j := 6) dX20_init_2 ff_X20_3_17 rfl (by decide) e101 rfl ?_
  refine t_gen h (fun s102 w103 h => ?_)
  refine t_aload_0 dX20_init_5 ?_
  refine t_obj dX20_init_6 ob_X20_9 (tO_w w103 e101).2 (Nat.le_of_ble_eq_true rfl) (by omega) ?_
  refine t_aload_0 dX20_init_9 ?_
  refine x_iconst (v := 1) dX20_init_10 (by decide) ?_
  refine t_putI (j := 4) dX20_init_11 fp_X20_15_17 (by decide) (tO_w w103 e101) rfl rfl ?_
  refine t_gen h (fun s104 w105 h => ?_)
  refine t_aload_0 dX20_init_14 ?_
  refine x_iload_2 dX20_init_15 ?_
  refine t_putFI (j := 0) dX20_init_16 ff_X20_19_17 rfl (by decide) (tO_w w105 (tO_w w103 e101)) rfl rfl ?_
  refine t_gen h (fun s106 w107 h => ?_)
  refine t_aload_0 dX20_init_19 ?_
  refine t_aload_3 dX20_init_20 ?_
  refine t_putFR (j := 1) dX20_init_21 ff_X20_22_17 rfl (by decide) (tO_w w107 (tO_w w105 (tO_w w103 e101))) rfl ?_
  refine t_gen h (fun s108 w109 h => ?_)
  refine t_aload_0 dX20_init_24 ?_
  refine t_aload_4 dX20_init_25 ?_
  refine t_putFR (j := 2) dX20_init_27 ff_X20_26_17 rfl (by decide) (tO_w w109 (tO_w w107 (tO_w w105 (tO_w w103 e101)))) rfl ?_
  refine t_gen h (fun s110 w111 h => ?_)
  exact x_vret dX20_init_30 rfl (Or.inl ⟨(), _, h, rfl, rfl⟩)
def v_X7_isWord_20 (N : tP) (x0 : Nat) (x1 : Nat) (Kr : Int32 → tM → Prop) (K : tM → Prop) : Nat → Int32 → tM → Prop
  | 0, _, _ => False
  | t + 1, x2, s => (v_J11_length N x1 s (fun x101 s102 => ((x101 ≤ x2 → (K s102)) ∧ (¬ x101 ≤ x2 → (tE s102 7 18 x0 ∧ (tO s102 0 (tR s102 x0 7) ∧ (tX s102 2 (tR s102 (tR s102 x0 7) 14) ((tI s102 x0 0) + x2) ∧ (v_J11_charAt N x1 x2 s102 (fun x107 s108 => (((tI s102 (tR s102 (tR s102 x0 7) 14) ((tI s102 x0 0) + x2).toNatClampNeg) = x107 → (∀ x110 : Int32, x110 = x2 + 1 → ((fun x2 s => v_X7_isWord_20 N x0 x1 Kr K t x2 s) x110 s108))) ∧ (¬ (tI s102 (tR s102 (tR s102 x0 7) 14) ((tI s102 x0 0) + x2).toNatClampNeg) = x107 → (Kr 0 s108))))))))))))
theorem e_X7_isWord_20 {G : xG} {l : Launch} {g : xH} {d : Nat} {N : tP} (hN : tNs G N) (hd : 5 ≤ d) (x0 : Nat) (x1 : Nat) (Kr : Int32 → tM → Prop) (K : tM → Prop) : ∀ (t : Nat) (x2 : Int32) (s : tM) , v_X7_isWord_20 N x0 x1 Kr K t x2 s → (∀ (s : tM), K s → xF G l kX7_isWord (d + 1) 0 0 (tQ G g wi Kr tNo) 58 [none, none, none] [] (tH G g s)) → xF G l kX7_isWord (d + 1) 0 0 (tQ G g wi Kr tNo) 20 [some (rfv x0), some (rfv x1), some (.int x2)] [] (tH G g s) := by
  intro t
  induction t with
  | zero =>
    intro _ _ h _
    exact absurd h (by simp [v_X7_isWord_20])
  | succ t ih =>
    intro x2 s h hK
    have hR := fun x2 s h => ih x2 s h hK
    unfold v_X7_isWord_20 at h
    refine x_iload_2 dX7_isWord_20 ?_
    refine t_aload_1 dX7_isWord_21 ?_
    refine t_sLen rfl cv_X7_63 hN (by omega) h (xrm4 (Nat.le_of_ble_eq_true rfl)) dX7_isWord_22 (fun x101 s102 h => ?_)
    refine x_icmp_ge 58 dX7_isWord_25 (by decide) (fun c103 => ?_) (fun c103 => ?_)
    · have h := h.1 c103
      exact x_le (xLe_none (xLe_none (xLe_none (xLe_nil)))) (hK _ h)
    · have h := h.2 c103
      refine t_aload_0 dX7_isWord_28 ?_
      obtain ⟨e104, h⟩ := h
      refine t_getR2 (j := 7) dX7_isWord_29 ⟨fa_X7_3_7, fa_X7_3_18⟩ (by decide) e104 ?_
      obtain ⟨e105, h⟩ := h
      refine t_getR dX7_isWord_32 fa_X7_52_0 (by decide) e105 ?_
      refine t_aload_0 dX7_isWord_35 ?_
      refine t_getI2 (j := 0) dX7_isWord_36 ⟨fa_X7_42_7, fa_X7_42_18⟩ (by decide) e104 ?_
      refine x_iload_2 dX7_isWord_39 ?_
      refine x_iadd dX7_isWord_40 ?_
      obtain ⟨e106, h⟩ := h
      refine t_bald dX7_isWord_41 e106 ?_
      refine t_aload_1 dX7_isWord_42 ?_
      refine x_iload_2 dX7_isWord_43 ?_
      refine t_sCh rfl cv_X7_69 hN (by omega) h (xrm4 (Nat.le_of_ble_eq_true rfl)) dX7_isWord_44 (fun x107 s108 h => ?_)
      refine x_icmp_eq 52 dX7_isWord_47 (by decide) (fun c109 => ?_) (fun c109 => ?_)
      · have h := h.1 c109
        refine x_iinc_2 (v := 1) dX7_isWord_52 (by decide) (by decide) xN2_f ?_
        have h := h _ rfl
        refine x_goto 20 dX7_isWord_55 (by decide) ?_
        exact x_le (xLe_cons (xLe_cons (xLe_cons (xLe_nil)))) (hR _ _ h)
      · have h := h.2 c109
        refine x_iconst (v := 0) dX7_isWord_50 (by decide) ?_
        exact x_zret0 dX7_isWord_51 rfl (Or.inl ⟨_, _, h, rfl, rfl⟩)
def v_X7_isWord (N : tP) (x0 : Nat) (x1 : Nat) (s : tM) (Kr : Int32 → tM → Prop) : Prop :=
  (tE s 7 18 x0 ∧ (v_J11_length N x1 s (fun x102 s103 => ((((tI s x0 1) - (tI s x0 0)) = x102 → (v_X7_isWord_20 N x0 x1 Kr (fun s105 => (Kr 1 s105)) N.1 0 s103)) ∧ (¬ ((tI s x0 1) - (tI s x0 0)) = x102 → (Kr 0 s103))))))
theorem e_X7_isWord {G : xG} {l : Launch} {g : xH} {d : Nat} {N : tP} (hN : tNs G N) (hd : 6 ≤ d) {x0 : Nat} {x1 : Nat} {s : tM} {Kr : Int32 → tM → Prop} (h : v_X7_isWord N x0 x1 s Kr) : xC G l kX7_isWord d 0 0 [rfv x0, rfv x1] (tH G g s) (tQ G g wi Kr tNo) := by
  obtain ⟨d, rfl⟩ : ∃ z, d = z + 1 := ⟨d - 1, by omega⟩
  refine t_start rfl (by decide +kernel) (by simp [xct_i, xct_l, rfv_c]) (lv := [some (rfv x0), some (rfv x1), none]) (by simp [lv_args, xLv, rfv_c, xct_i, xct_l]) ?_
  unfold v_X7_isWord at h
  refine t_aload_0 dX7_isWord_0 ?_
  obtain ⟨e101, h⟩ := h
  refine t_getI2 (j := 1) dX7_isWord_1 ⟨fa_X7_49_7, fa_X7_49_18⟩ (by decide) e101 ?_
  refine t_aload_0 dX7_isWord_4 ?_
  refine t_getI2 (j := 0) dX7_isWord_5 ⟨fa_X7_42_7, fa_X7_42_18⟩ (by decide) e101 ?_
  refine x_isub dX7_isWord_8 ?_
  refine t_aload_1 dX7_isWord_9 ?_
  refine t_sLen rfl cv_X7_63 hN (by omega) h (xrm4 (Nat.le_of_ble_eq_true rfl)) dX7_isWord_10 (fun x102 s103 h => ?_)
  refine x_icmp_eq 18 dX7_isWord_13 (by decide) (fun c104 => ?_) (fun c104 => ?_)
  · have h := h.1 c104
    refine x_iconst (v := 0) dX7_isWord_18 (by decide) ?_
    refine x_istore_2 dX7_isWord_19 (by decide) xN2_f ?_
    refine x_le (xLe_cons (xLe_cons (xLe_cons (xLe_nil)))) (e_X7_isWord_20 hN (by omega) _ _ _ _  _ _ _ h (fun s105 h => ?_))
    refine x_iconst (v := 1) dX7_isWord_58 (by decide) ?_
    exact x_zret1 dX7_isWord_59 rfl (Or.inl ⟨_, _, h, rfl, rfl⟩)
  · have h := h.2 c104
    refine x_iconst (v := 0) dX7_isWord_16 (by decide) ?_
    exact x_zret0 dX7_isWord_17 rfl (Or.inl ⟨_, _, h, rfl, rfl⟩)
def v_X7_accept (N : tP) (x0 : Nat) (x1 : Nat) (s : tM) (Kr : Int32 → tM → Prop) : Prop :=
  (tE s 7 18 x0 ∧ (v_X7_isWord N x0 x1 s (fun x101 s102 => ((x101 = 0 → (xB x101 ∧ (Kr x101 s102))) ∧ (¬ x101 = 0 → (tE s102 7 18 x0 ∧ (v_X7_next N x0 s102 (fun s107 => (xB x101 ∧ (Kr x101 s107))))))))))
theorem e_X7_accept {G : xG} {l : Launch} {g : xH} {d : Nat} {N : tP} (hN : tNs G N) (hd : 8 ≤ d) {x0 : Nat} {x1 : Nat} {s : tM} {Kr : Int32 → tM → Prop} (h : v_X7_accept N x0 x1 s Kr) : xC G l kX7_accept d 0 0 [rfv x0, rfv x1] (tH G g s) (tQ G g wi Kr tNo) := by
  obtain ⟨d, rfl⟩ : ∃ z, d = z + 1 := ⟨d - 1, by omega⟩
  refine t_start rfl (by decide +kernel) (by simp [xct_i, xct_l, rfv_c]) (lv := [some (rfv x0), some (rfv x1), none]) (by simp [lv_args, xLv, rfv_c, xct_i, xct_l]) ?_
  unfold v_X7_accept at h
  refine t_aload_0 dX7_accept_0 ?_
  refine t_aload_1 dX7_accept_1 ?_
  obtain ⟨e103, h⟩ := h
  refine t_cDi (As := [_]) rfl (e103.elim (fun e => ⟨_, 7, _, _, _, _, _, xcl_X8.1, cu_X7_73_7, e, (e_X7_isWord hN (by omega) h)⟩) (fun e => ⟨_, 18, _, _, _, _, _, xcl_X21.1, cu_X7_73_18, e, (e_X7_isWord hN (by omega) h)⟩)) rfl rfl (xrm4 (Nat.le_of_ble_eq_true rfl)) dX7_accept_2 ⟨Nat.zero_le _, Nat.zero_le _⟩ (fun _ _ _ h => h.elim) (fun x101 s102 h => ?_)
  refine x_istore_2 dX7_accept_5 (by decide) xN2_f ?_
  refine x_iload_2 dX7_accept_6 ?_
  refine x_if_eq 14 dX7_accept_7 (by decide) (fun c104 => ?_) (fun c104 => ?_)
  · have h := h.1 c104
    refine x_iload_2 dX7_accept_14 ?_
    obtain ⟨e105, h⟩ := h
    exact x_zret dX7_accept_15 rfl (xB_n e105) (Or.inl ⟨_, _, h, rfl, rfl⟩)
  · have h := h.2 c104
    refine t_aload_0 dX7_accept_10 ?_
    obtain ⟨e108, h⟩ := h
    refine t_cDv (As := []) rfl (e108.elim (fun e => ⟨_, 7, _, _, _, _, _, xcl_X8.1, cu_X7_25_7, e, (e_X7_next hN (by omega) h)⟩) (fun e => ⟨_, 18, _, _, _, _, _, xcl_X21.1, cu_X7_25_18, e, (e_X7_next hN (by omega) h)⟩)) rfl rfl (xrm4 (Nat.le_of_ble_eq_true rfl)) dX7_accept_11 ⟨Nat.zero_le _, Nat.zero_le _⟩ (fun _ _ _ h => h.elim) (fun _ s107 h => ?_)
    refine x_iload_2 dX7_accept_14 ?_
    obtain ⟨e109, h⟩ := h
    exact x_zret dX7_accept_15 rfl (xB_n e109) (Or.inl ⟨_, _, h, rfl, rfl⟩)
def v_X14_init (x0 : Nat) (x1 : Nat) (x2 : Int32) (x3 : Nat) (s : tM) (Kr : tM → Prop) : Prop :=
  (tO s 12 x0 ∧ (v_X10_init x0 s (fun s102 => (tO s102 12 x0 ∧ (∀ s105 : tM, s105 = tsR s102 x0 0 x1 → (∀ s107 : tM, s107 = tsI s105 x0 2 x2 → (∀ s109 : tM, s109 = tsR s107 x0 1 x3 → (Kr s109))))))))
theorem e_X14_init {G : xG} {l : Launch} {g : xH} {d : Nat} (hd : 4 ≤ d) {x0 : Nat} {x1 : Nat} {x2 : Int32} {x3 : Nat} {s : tM} {Kr : tM → Prop} (h : v_X14_init x0 x1 x2 x3 s Kr) : xC G l kX14_init d 0 0 [rfv x0, rfv x1, .int x2, rfv x3] (tH G g s) (tQ G g wu (fun _ => Kr) tNo) := by
  obtain ⟨d, rfl⟩ : ∃ z, d = z + 1 := ⟨d - 1, by omega⟩
  refine t_start rfl (by decide +kernel) (by simp [xct_i, xct_l, rfv_c]) (lv := [some (rfv x0), some (rfv x1), some (.int x2), some (rfv x3)]) (by simp [lv_args, xLv, rfv_c, xct_i, xct_l]) ?_
  unfold v_X14_init at h
  refine t_aload_0 dX14_init_0 ?_
  obtain ⟨e103, h⟩ := h
  refine t_cIN (As := []) rfl cin_X14_1 e103.2 rfl rfl (xrm4 (Nat.le_of_ble_eq_true rfl)) dX14_init_1 (e_X10_init (by omega) h) ⟨Nat.zero_le _, Nat.zero_le _⟩ (fun _ _ _ h => h.elim) (fun _ s102 h => ?_)
  refine t_aload_0 dX14_init_4 ?_
  refine t_aload_1 dX14_init_5 ?_
  obtain ⟨e104, h⟩ := h
  refine t_putFR (j := 0) dX14_init_6 ff_X14_7_12 rfl (by decide) e104 rfl ?_
  refine t_gen h (fun s105 w106 h => ?_)
  refine t_aload_0 dX14_init_9 ?_
  refine x_iload_2 dX14_init_10 ?_
  refine t_putFI (j := 2) dX14_init_11 ff_X14_13_12 rfl (by decide) (tO_w w106 e104) rfl rfl ?_
  refine t_gen h (fun s107 w108 h => ?_)
  refine t_aload_0 dX14_init_14 ?_
  refine t_aload_3 dX14_init_15 ?_
  refine t_putFR (j := 1) dX14_init_16 ff_X14_17_12 rfl (by decide) (tO_w w108 (tO_w w106 e104)) rfl ?_
  refine t_gen h (fun s109 w110 h => ?_)
  exact x_vret dX14_init_19 rfl (Or.inl ⟨(), _, h, rfl, rfl⟩)
def v_X11_init (x0 : Nat) (x1 : Int32) (s : tM) (Kr : tM → Prop) : Prop :=
  (tO s 9 x0 ∧ (v_X10_init x0 s (fun s102 => (tO s102 9 x0 ∧ (∀ s105 : tM, s105 = tsI s102 x0 0 x1 → (Kr s105))))))
theorem e_X11_init {G : xG} {l : Launch} {g : xH} {d : Nat} (hd : 4 ≤ d) {x0 : Nat} {x1 : Int32} {s : tM} {Kr : tM → Prop} (h : v_X11_init x0 x1 s Kr) : xC G l kX11_init d 0 0 [rfv x0, .int x1] (tH G g s) (tQ G g wu (fun _ => Kr) tNo) := by
  obtain ⟨d, rfl⟩ : ∃ z, d = z + 1 := ⟨d - 1, by omega⟩
  refine t_start rfl (by decide +kernel) (by simp [xct_i, xct_l, rfv_c]) (lv := [some (rfv x0), some (.int x1)]) (by simp [lv_args, xLv, rfv_c, xct_i, xct_l]) ?_
  unfold v_X11_init at h
  refine t_aload_0 dX11_init_0 ?_
  obtain ⟨e103, h⟩ := h
  refine t_cIN (As := []) rfl cin_X11_1 e103.2 rfl rfl (xrm4 (Nat.le_of_ble_eq_true rfl)) dX11_init_1 (e_X10_init (by omega) h) ⟨Nat.zero_le _, Nat.zero_le _⟩ (fun _ _ _ h => h.elim) (fun _ s102 h => ?_)
  refine t_aload_0 dX11_init_4 ?_
  refine x_iload_1 dX11_init_5 ?_
  obtain ⟨e104, h⟩ := h
  refine t_putFI (j := 0) dX11_init_6 ff_X11_7_9 rfl (by decide) e104 rfl rfl ?_
  refine t_gen h (fun s105 w106 h => ?_)
  exact x_vret dX11_init_9 rfl (Or.inl ⟨(), _, h, rfl, rfl⟩)
def v_X7_close (N : tP) (x0 : Nat) (x1 : Nat) (k n : Nat) (s : tM) (Kr : tM → Prop) (Kx : String → Nat → tM → Prop) : Prop :=
  (tE s 7 18 x0 ∧ (v_X7_accept N x0 x1 s (fun x101 s102 => (∃ c106 c107 : Nat, c106 ≤ k ∧ c107 ≤ n ∧ (tE s102 7 18 x0 ∧ (v_X7_must N x0 x101 c106 c107 s102 (fun s105 => (tE s105 7 18 x0 ∧ (∀ s112 : tM, s112 = tsI s105 x0 3 ((tI s105 x0 3) - 1) → (Kr s112)))) Kx))))))
theorem e_X7_close {G : xG} {l : Launch} {g : xH} {d : Nat} {N : tP} (hN : tNs G N) (hd : 10 ≤ d) {x0 : Nat} {x1 : Nat} {k n : Nat} {s : tM} {Kr : tM → Prop} {Kx : String → Nat → tM → Prop} (h : v_X7_close N x0 x1 k n s Kr Kx) : xC G l kX7_close d k n [rfv x0, rfv x1] (tH G g s) (tQ G g wu (fun _ => Kr) Kx) := by
  obtain ⟨d, rfl⟩ : ∃ z, d = z + 1 := ⟨d - 1, by omega⟩
  refine t_start rfl (by decide +kernel) (by simp [xct_i, xct_l, rfv_c]) (lv := [some (rfv x0), some (rfv x1)]) (by simp [lv_args, xLv, rfv_c, xct_i, xct_l]) ?_
  unfold v_X7_close at h
  refine t_aload_0 dX7_close_0 ?_
  refine t_aload_0 dX7_close_1 ?_
  refine t_aload_1 dX7_close_2 ?_
  obtain ⟨e103, h⟩ := h
  refine t_cDi (As := [_]) rfl (e103.elim (fun e => ⟨_, 7, _, _, _, _, _, xcl_X8.1, cu_X7_38_7, e, (e_X7_accept hN (by omega) h)⟩) (fun e => ⟨_, 18, _, _, _, _, _, xcl_X21.1, cu_X7_38_18, e, (e_X7_accept hN (by omega) h)⟩)) rfl rfl (xrm4 (Nat.le_of_ble_eq_true rfl)) dX7_close_3 ⟨Nat.zero_le _, Nat.zero_le _⟩ (fun _ _ _ h => h.elim) (fun x101 s102 h => ?_)
  obtain ⟨c106, c107, e108, e109, h⟩ := h
  obtain ⟨e110, h⟩ := h
  refine t_cDv (As := [_]) rfl (e110.elim (fun e => ⟨_, 7, _, _, _, _, _, xcl_X8.1, cu_X7_28_7, e, (e_X7_must hN (by omega) h)⟩) (fun e => ⟨_, 18, _, _, _, _, _, xcl_X21.1, cu_X7_28_18, e, (e_X7_must hN (by omega) h)⟩)) rfl rfl (xrm4 (Nat.le_of_ble_eq_true rfl)) dX7_close_6 ⟨e108, e109⟩ (fun E q m1 h => Or.inr ⟨E, q, m1, h, rfl, rfl⟩) (fun _ s105 h => ?_)
  refine t_aload_0 dX7_close_9 ?_
  refine x_dup dX7_close_10 (rfv_c _) ?_
  obtain ⟨e111, h⟩ := h
  refine t_getI2 (j := 3) dX7_close_11 ⟨fa_X7_113_7, fa_X7_113_18⟩ (by decide) e111 ?_
  refine x_iconst (v := 1) dX7_close_14 (by decide) ?_
  refine x_isub dX7_close_15 ?_
  refine t_putI2 (j := 3) dX7_close_16 ⟨fp_X7_113_7, fp_X7_113_18⟩ (by decide) e111 rfl rfl ?_
  refine t_gen h (fun s112 w113 h => ?_)
  exact x_vret dX7_close_19 rfl (Or.inl ⟨(), _, h, rfl, rfl⟩)
def v_X7_leaf_15 (N : tP) (x0 : Nat) (y0 : Nat) (y1 : Int32) (Kr : tM → Prop) (Kx : String → Nat → tM → Prop) (k n : Nat) (s : tM) : Prop :=
  (∃ c103 c104 : Nat, c103 ≤ k ∧ c104 ≤ n ∧ (tE s 7 18 y0 ∧ (v_X7_must N y0 y1 c103 c104 s (fun s102 => (tE s102 7 18 x0 ∧ (∀ s109 : tM, s109 = tsI s102 x0 2 ((tI s102 x0 2) + 1) → (Kr s109)))) Kx)))
theorem e_X7_leaf_15 {G : xG} {l : Launch} {g : xH} {d : Nat} {N : tP} (hN : tNs G N) (hd : 9 ≤ d) (x0 : Nat) (y0 : Nat) (y1 : Int32) (Kr : tM → Prop) (Kx : String → Nat → tM → Prop) (k n : Nat) (s : tM) (h : v_X7_leaf_15 N x0 y0 y1 Kr Kx k n s) : xF G l kX7_leaf (d + 1) k n (tQ G g wu (fun _ => Kr) Kx) 15 [some (rfv x0)] [.int y1, rfv y0] (tH G g s) := by
  unfold v_X7_leaf_15 at h
  obtain ⟨c103, c104, e105, e106, h⟩ := h
  obtain ⟨e107, h⟩ := h
  refine t_cDv (As := [_]) rfl (e107.elim (fun e => ⟨_, 7, _, _, _, _, _, xcl_X8.1, cu_X7_28_7, e, (e_X7_must hN (by omega) h)⟩) (fun e => ⟨_, 18, _, _, _, _, _, xcl_X21.1, cu_X7_28_18, e, (e_X7_must hN (by omega) h)⟩)) rfl rfl (xrm4 (Nat.le_of_ble_eq_true rfl)) dX7_leaf_15 ⟨e105, e106⟩ (fun E q m1 h => Or.inr ⟨E, q, m1, h, rfl, rfl⟩) (fun _ s102 h => ?_)
  refine t_aload_0 dX7_leaf_18 ?_
  refine x_dup dX7_leaf_19 (rfv_c _) ?_
  obtain ⟨e108, h⟩ := h
  refine t_getI2 (j := 2) dX7_leaf_20 ⟨fa_X7_116_7, fa_X7_116_18⟩ (by decide) e108 ?_
  refine x_iconst (v := 1) dX7_leaf_23 (by decide) ?_
  refine x_iadd dX7_leaf_24 ?_
  refine t_putI2 (j := 2) dX7_leaf_25 ⟨fp_X7_116_7, fp_X7_116_18⟩ (by decide) e108 rfl rfl ?_
  refine t_gen h (fun s109 w110 h => ?_)
  exact x_vret dX7_leaf_28 rfl (Or.inl ⟨(), _, h, rfl, rfl⟩)
def v_X7_leaf (N : tP) (x0 : Nat) (k n : Nat) (s : tM) (Kr : tM → Prop) (Kx : String → Nat → tM → Prop) : Prop :=
  (tE s 7 18 x0 ∧ ((50 ≤ (tI s x0 2) → (v_X7_leaf_15 N x0 x0 0 Kr Kx k n s)) ∧ (¬ 50 ≤ (tI s x0 2) → (v_X7_leaf_15 N x0 x0 1 Kr Kx k n s))))
theorem e_X7_leaf {G : xG} {l : Launch} {g : xH} {d : Nat} {N : tP} (hN : tNs G N) (hd : 10 ≤ d) {x0 : Nat} {k n : Nat} {s : tM} {Kr : tM → Prop} {Kx : String → Nat → tM → Prop} (h : v_X7_leaf N x0 k n s Kr Kx) : xC G l kX7_leaf d k n [rfv x0] (tH G g s) (tQ G g wu (fun _ => Kr) Kx) := by
  obtain ⟨d, rfl⟩ : ∃ z, d = z + 1 := ⟨d - 1, by omega⟩
  refine t_start rfl (by decide +kernel) (by simp [xct_i, xct_l, rfv_c]) (lv := [some (rfv x0)]) (by simp [lv_args, xLv, rfv_c, xct_i, xct_l]) ?_
  unfold v_X7_leaf at h
  refine t_aload_0 dX7_leaf_0 ?_
  refine t_aload_0 dX7_leaf_1 ?_
  obtain ⟨e101, h⟩ := h
  refine t_getI2 (j := 2) dX7_leaf_2 ⟨fa_X7_116_7, fa_X7_116_18⟩ (by decide) e101 ?_
  refine x_bipush (v := 50) dX7_leaf_5 (by decide) ?_
  refine x_icmp_ge 14 dX7_leaf_7 (by decide) (fun c102 => ?_) (fun c102 => ?_)
  · have h := h.1 c102
    refine x_iconst (v := 0) dX7_leaf_14 (by decide) ?_
    exact x_le (xLe_cons (xLe_nil)) (e_X7_leaf_15 hN (by omega) _ _ _ _ _ _ _ _ h)
  · have h := h.2 c102
    refine x_iconst (v := 1) dX7_leaf_10 (by decide) ?_
    refine x_goto 15 dX7_leaf_11 (by decide) ?_
    exact x_le (xLe_cons (xLe_nil)) (e_X7_leaf_15 hN (by omega) _ _ _ _ _ _ _ _ h)
def v_X7_open_15 (N : tP) (x0 : Nat) (y0 : Nat) (y1 : Int32) (Kr : tM → Prop) (Kx : String → Nat → tM → Prop) (k n : Nat) (s : tM) : Prop :=
  (∃ c103 c104 : Nat, c103 ≤ k ∧ c104 ≤ n ∧ (tE s 7 18 y0 ∧ (v_X7_must N y0 y1 c103 c104 s (fun s102 => (tE s102 7 18 x0 ∧ (∀ s109 : tM, s109 = tsI s102 x0 3 ((tI s102 x0 3) + 1) → (v_X7_next N x0 s109 (fun s112 => (Kr s112)))))) Kx)))
theorem e_X7_open_15 {G : xG} {l : Launch} {g : xH} {d : Nat} {N : tP} (hN : tNs G N) (hd : 9 ≤ d) (x0 : Nat) (y0 : Nat) (y1 : Int32) (Kr : tM → Prop) (Kx : String → Nat → tM → Prop) (k n : Nat) (s : tM) (h : v_X7_open_15 N x0 y0 y1 Kr Kx k n s) : xF G l kX7_open (d + 1) k n (tQ G g wu (fun _ => Kr) Kx) 15 [some (rfv x0)] [.int y1, rfv y0] (tH G g s) := by
  unfold v_X7_open_15 at h
  obtain ⟨c103, c104, e105, e106, h⟩ := h
  obtain ⟨e107, h⟩ := h
  refine t_cDv (As := [_]) rfl (e107.elim (fun e => ⟨_, 7, _, _, _, _, _, xcl_X8.1, cu_X7_28_7, e, (e_X7_must hN (by omega) h)⟩) (fun e => ⟨_, 18, _, _, _, _, _, xcl_X21.1, cu_X7_28_18, e, (e_X7_must hN (by omega) h)⟩)) rfl rfl (xrm4 (Nat.le_of_ble_eq_true rfl)) dX7_open_15 ⟨e105, e106⟩ (fun E q m1 h => Or.inr ⟨E, q, m1, h, rfl, rfl⟩) (fun _ s102 h => ?_)
  refine t_aload_0 dX7_open_18 ?_
  refine x_dup dX7_open_19 (rfv_c _) ?_
  obtain ⟨e108, h⟩ := h
  refine t_getI2 (j := 3) dX7_open_20 ⟨fa_X7_113_7, fa_X7_113_18⟩ (by decide) e108 ?_
  refine x_iconst (v := 1) dX7_open_23 (by decide) ?_
  refine x_iadd dX7_open_24 ?_
  refine t_putI2 (j := 3) dX7_open_25 ⟨fp_X7_113_7, fp_X7_113_18⟩ (by decide) e108 rfl rfl ?_
  refine t_gen h (fun s109 w110 h => ?_)
  refine t_aload_0 dX7_open_28 ?_
  refine t_cDv (As := []) rfl ((tE_w w110 e108).elim (fun e => ⟨_, 7, _, _, _, _, _, xcl_X8.1, cu_X7_25_7, e, (e_X7_next hN (by omega) h)⟩) (fun e => ⟨_, 18, _, _, _, _, _, xcl_X21.1, cu_X7_25_18, e, (e_X7_next hN (by omega) h)⟩)) rfl rfl (xrm4 (Nat.le_of_ble_eq_true rfl)) dX7_open_29 ⟨Nat.zero_le _, Nat.zero_le _⟩ (fun _ _ _ h => h.elim) (fun _ s112 h => ?_)
  exact x_vret dX7_open_32 rfl (Or.inl ⟨(), _, h, rfl, rfl⟩)
def v_X7_open (N : tP) (x0 : Nat) (k n : Nat) (s : tM) (Kr : tM → Prop) (Kx : String → Nat → tM → Prop) : Prop :=
  (tE s 7 18 x0 ∧ ((8 ≤ (tI s x0 3) → (v_X7_open_15 N x0 x0 0 Kr Kx k n s)) ∧ (¬ 8 ≤ (tI s x0 3) → (v_X7_open_15 N x0 x0 1 Kr Kx k n s))))
theorem e_X7_open {G : xG} {l : Launch} {g : xH} {d : Nat} {N : tP} (hN : tNs G N) (hd : 10 ≤ d) {x0 : Nat} {k n : Nat} {s : tM} {Kr : tM → Prop} {Kx : String → Nat → tM → Prop} (h : v_X7_open N x0 k n s Kr Kx) : xC G l kX7_open d k n [rfv x0] (tH G g s) (tQ G g wu (fun _ => Kr) Kx) := by
  obtain ⟨d, rfl⟩ : ∃ z, d = z + 1 := ⟨d - 1, by omega⟩
  refine t_start rfl (by decide +kernel) (by simp [xct_i, xct_l, rfv_c]) (lv := [some (rfv x0)]) (by simp [lv_args, xLv, rfv_c, xct_i, xct_l]) ?_
  unfold v_X7_open at h
  refine t_aload_0 dX7_open_0 ?_
  refine t_aload_0 dX7_open_1 ?_
  obtain ⟨e101, h⟩ := h
  refine t_getI2 (j := 3) dX7_open_2 ⟨fa_X7_113_7, fa_X7_113_18⟩ (by decide) e101 ?_
  refine x_bipush (v := 8) dX7_open_5 (by decide) ?_
  refine x_icmp_ge 14 dX7_open_7 (by decide) (fun c102 => ?_) (fun c102 => ?_)
  · have h := h.1 c102
    refine x_iconst (v := 0) dX7_open_14 (by decide) ?_
    exact x_le (xLe_cons (xLe_nil)) (e_X7_open_15 hN (by omega) _ _ _ _ _ _ _ _ h)
  · have h := h.2 c102
    refine x_iconst (v := 1) dX7_open_10 (by decide) ?_
    refine x_goto 15 dX7_open_11 (by decide) ?_
    exact x_le (xLe_cons (xLe_nil)) (e_X7_open_15 hN (by omega) _ _ _ _ _ _ _ _ h)
def v_X7_which_2 (N : tP) (x0 : Nat) (x1 : Nat) (Kr : Int32 → tM → Prop) (K : tM → Prop) : Nat → Int32 → tM → Prop
  | 0, _, _ => False
  | t + 1, x2, s => ((∃ N, tA s 9 N x1) ∧ (((Int32.ofNat (tLen s x1)) ≤ x2 → (K s)) ∧ (¬ (Int32.ofNat (tLen s x1)) ≤ x2 → (tX s 9 x1 x2 ∧ (tE s 7 18 x0 ∧ (v_X7_isWord N x0 (tR s x1 x2.toNatClampNeg) s (fun x104 s105 => ((x104 = 0 → (∀ x108 : Int32, x108 = x2 + 1 → ((fun x2 s => v_X7_which_2 N x0 x1 Kr K t x2 s) x108 s105))) ∧ (¬ x104 = 0 → (Kr x2 s105))))))))))
theorem e_X7_which_2 {G : xG} {l : Launch} {g : xH} {d : Nat} {N : tP} (hN : tNs G N) (hd : 7 ≤ d) (x0 : Nat) (x1 : Nat) (Kr : Int32 → tM → Prop) (K : tM → Prop) : ∀ (t : Nat) (x2 : Int32) (s : tM) , v_X7_which_2 N x0 x1 Kr K t x2 s → (∀ (s : tM), K s → xF G l kX7_which (d + 1) 0 0 (tQ G g wi Kr tNo) 26 [none, none, none] [] (tH G g s)) → xF G l kX7_which (d + 1) 0 0 (tQ G g wi Kr tNo) 2 [some (rfv x0), some (rfv x1), some (.int x2)] [] (tH G g s) := by
  intro t
  induction t with
  | zero =>
    intro _ _ h _
    exact absurd h (by simp [v_X7_which_2])
  | succ t ih =>
    intro x2 s h hK
    have hR := fun x2 s h => ih x2 s h hK
    unfold v_X7_which_2 at h
    refine x_iload_2 dX7_which_2 ?_
    refine t_aload_1 dX7_which_3 ?_
    obtain ⟨e101, h⟩ := h
    refine t_alen (t := 9) dX7_which_4 ⟨rfl, by decide⟩ e101 ?_
    refine x_icmp_ge 26 dX7_which_5 (by decide) (fun c102 => ?_) (fun c102 => ?_)
    · have h := h.1 c102
      exact x_le (xLe_none (xLe_none (xLe_none (xLe_nil)))) (hK _ h)
    · have h := h.2 c102
      refine t_aload_0 dX7_which_8 ?_
      refine t_aload_1 dX7_which_9 ?_
      refine x_iload_2 dX7_which_10 ?_
      obtain ⟨e103, h⟩ := h
      refine t_aald (t := 9) dX7_which_11 ⟨rfl, by decide, by decide⟩ rfl e103 ?_
      obtain ⟨e106, h⟩ := h
      refine t_cDi (As := [_]) rfl (e106.elim (fun e => ⟨_, 7, _, _, _, _, _, xcl_X8.1, cu_X7_73_7, e, (e_X7_isWord hN (by omega) h)⟩) (fun e => ⟨_, 18, _, _, _, _, _, xcl_X21.1, cu_X7_73_18, e, (e_X7_isWord hN (by omega) h)⟩)) rfl rfl (xrm4 (Nat.le_of_ble_eq_true rfl)) dX7_which_12 ⟨Nat.zero_le _, Nat.zero_le _⟩ (fun _ _ _ h => h.elim) (fun x104 s105 h => ?_)
      refine x_if_eq 20 dX7_which_15 (by decide) (fun c107 => ?_) (fun c107 => ?_)
      · have h := h.1 c107
        refine x_iinc_2 (v := 1) dX7_which_20 (by decide) (by decide) xN2_f ?_
        have h := h _ rfl
        refine x_goto 2 dX7_which_23 (by decide) ?_
        exact x_le (xLe_cons (xLe_cons (xLe_cons (xLe_nil)))) (hR _ _ h)
      · have h := h.2 c107
        refine x_iload_2 dX7_which_18 ?_
        exact x_iret dX7_which_19 rfl (Or.inl ⟨_, _, h, rfl, rfl⟩)
def v_X7_which (N : tP) (x0 : Nat) (x1 : Nat) (s : tM) (Kr : Int32 → tM → Prop) : Prop :=
  (v_X7_which_2 N x0 x1 Kr (fun s101 => (Kr (-1) s101)) N.1 0 s)
theorem e_X7_which {G : xG} {l : Launch} {g : xH} {d : Nat} {N : tP} (hN : tNs G N) (hd : 8 ≤ d) {x0 : Nat} {x1 : Nat} {s : tM} {Kr : Int32 → tM → Prop} (h : v_X7_which N x0 x1 s Kr) : xC G l kX7_which d 0 0 [rfv x0, rfv x1] (tH G g s) (tQ G g wi Kr tNo) := by
  obtain ⟨d, rfl⟩ : ∃ z, d = z + 1 := ⟨d - 1, by omega⟩
  refine t_start rfl (by decide +kernel) (by simp [xct_i, xct_l, rfv_c]) (lv := [some (rfv x0), some (rfv x1), none]) (by simp [lv_args, xLv, rfv_c, xct_i, xct_l]) ?_
  unfold v_X7_which at h
  refine x_iconst (v := 0) dX7_which_0 (by decide) ?_
  refine x_istore_2 dX7_which_1 (by decide) xN2_f ?_
  refine x_le (xLe_cons (xLe_cons (xLe_cons (xLe_nil)))) (e_X7_which_2 hN (by omega) _ _ _ _  _ _ _ h (fun s101 h => ?_))
  refine x_iconst (v := (-1)) dX7_which_26 (by decide) ?_
  exact x_iret dX7_which_27 rfl (Or.inl ⟨_, _, h, rfl, rfl⟩)
