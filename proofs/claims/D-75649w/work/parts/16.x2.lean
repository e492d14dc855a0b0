set_option maxRecDepth 100000
def v_X15_init (x0 : Nat) (x1 : Int32) (x2 : Nat) (x3 : Nat) (s : tM) (Kr : tM → Prop) : Prop :=
  (tO s 13 x0 ∧ (∀ s102 : tM, s102 = tsI s x0 0 x1 → (∀ s104 : tM, s104 = tsR s102 x0 1 x2 → (∀ s106 : tM, s106 = tsR s104 x0 2 x3 → (Kr s106)))))
theorem e_X15_init {G : xG} {l : Launch} {g : xH} {d : Nat} (hd : 2 ≤ d) {x0 : Nat} {x1 : Int32} {x2 : Nat} {x3 : Nat} {s : tM} {Kr : tM → Prop} (h : v_X15_init x0 x1 x2 x3 s Kr) : xC G l kX15_init d 0 0 [rfv x0, .int x1, rfv x2, rfv x3] (tH G g s) (tQ G g wu (fun _ => Kr) tNo) := by
  obtain ⟨d, rfl⟩ : ∃ z, d = z + 1 := ⟨d - 1, by omega⟩
  refine t_start rfl (by decide +kernel) (by simp [xct_i, xct_l, rfv_c]) (lv := [some (rfv x0), some (.int x1), some (rfv x2), some (rfv x3)]) (by simp [lv_args, xLv, rfv_c, xct_i, xct_l]) ?_
  unfold v_X15_init at h
  refine t_aload_0 dX15_init_0 ?_
  obtain ⟨e101, h⟩ := h
  refine t_obj dX15_init_1 ob_X15_1 e101.2 (Nat.le_of_ble_eq_true rfl) (by omega) ?_
  refine t_aload_0 dX15_init_4 ?_
  refine x_iload_1 dX15_init_5 ?_
  refine t_putFI (j := 0) dX15_init_6 ff_X15_7_13 rfl (by decide) e101 rfl rfl ?_
  refine t_gen h (fun s102 w103 h => ?_)
  refine t_aload_0 dX15_init_9 ?_
  refine t_aload_2 dX15_init_10 ?_
  refine t_putFR (j := 1) dX15_init_11 ff_X15_13_13 rfl (by decide) (tO_w w103 e101) rfl ?_
  refine t_gen h (fun s104 w105 h => ?_)
  refine t_aload_0 dX15_init_14 ?_
  refine t_aload_3 dX15_init_15 ?_
  refine t_putFR (j := 2) dX15_init_16 ff_X15_17_13 rfl (by decide) (tO_w w105 (tO_w w103 e101)) rfl ?_
  refine t_gen h (fun s106 w107 h => ?_)
  exact x_vret dX15_init_19 rfl (Or.inl ⟨(), _, h, rfl, rfl⟩)
def v_X8_read_2_40 (N : tP) (x0 : Nat) (x1 : Int32) (x2 : Int32) (y0 : Nat) (Kr : tM → Prop) (Kx : String → Nat → tM → Prop) (k n : Nat) (s : tM) : Prop :=
  (tO s 7 x0 ∧ (1 ≤ k ∧ (4 ≤ n ∧ (∀ q104 : Nat, s.1 q104 = none → ¬ q104 = 0 → ¬ q104 = N.2.2 200 → (∀ s105 : tM, s105 = tNew s q104 (.inl 13) → (tO s105 7 x0 ∧ (v_X7_accept N x0 (N.2.2 20) s105 (fun x108 s109 => ((x108 = 0 → (tO s109 13 q104 ∧ (v_X15_init q104 x2 y0 0 s109 (fun s113 => (tX s113 6 (tR s x0 8) x1 ∧ (tO s113 13 q104 ∧ (∀ s117 : tM, s117 = tsR s113 (tR s x0 8) x1.toNatClampNeg q104 → (Kr s117)))))))) ∧ (¬ x108 = 0 → (∃ c121 c122 : Nat, c121 ≤ k - 1 ∧ c122 ≤ n - 4 ∧ (tO s109 7 x0 ∧ (r_X7_both N N.2.1 2 x0 c121 c122 s109 (fun x119 s120 => (tO s120 13 q104 ∧ (v_X15_init q104 x2 y0 x119 s120 (fun s127 => (tX s127 6 (tR s x0 8) x1 ∧ (tO s127 13 q104 ∧ (∀ s131 : tM, s131 = tsR s127 (tR s x0 8) x1.toNatClampNeg q104 → (Kr s131)))))))) Kx)))))))))))))
theorem e_X8_read_2_40 {G : xG} {l : Launch} {g : xH} {d : Nat} {N : tP} (hN : tNs G N) (hd : 2 * N.2.1 + 15 ≤ d) (x0 : Nat) (x1 : Int32) (x2 : Int32) (y0 : Nat) (Kr : tM → Prop) (Kx : String → Nat → tM → Prop) (k n : Nat) (s : tM) (h : v_X8_read_2_40 N x0 x1 x2 y0 Kr Kx k n s) : xF G l kX8_read_2 (d + 1) k n (tQ G g wu (fun _ => Kr) Kx) 40 [some (rfv x0), some (.int x1), some (.int x2), none] [rfv y0] (tH G g s) := by
  unfold v_X8_read_2_40 at h
  refine t_astore_3 dX8_read_2_40 (by decide) xN2_i ?_
  refine t_aload_0 dX8_read_2_41 ?_
  obtain ⟨e101, h⟩ := h
  refine t_getR dX8_read_2_42 fa_X8_39_7 (by decide) e101 ?_
  refine x_iload_1 dX8_read_2_45 ?_
  obtain ⟨e102, h⟩ := h
  obtain ⟨e103, h⟩ := h
  refine t_new (N := 4) dX8_read_2_46 ne_X8_37 rfl e102 e103 (fun q h1 h2 h3 => ?_)
  have h := h q h1 h2 (fun e => h3 (e.trans (hN 200)))
  refine t_gen h (fun s105 w106 h => ?_)
  have e107 := h2
  refine x_dup dX8_read_2_49 (rfv_c _) ?_
  refine x_iload_2 dX8_read_2_50 ?_
  refine t_aload_3 dX8_read_2_51 ?_
  refine t_aload_0 dX8_read_2_52 ?_
  refine t_ldcN hN dX8_read_2_53 (i := 20) ⟨20, rfl⟩ ?_
  obtain ⟨e110, h⟩ := h
  refine t_cDi (As := [_]) rfl ⟨_, 7, _, _, _, _, _, xcl_X8.1, cu_X8_86_7, e110, (e_X7_accept hN (by omega) h)⟩ rfl rfl (by simp [xct_i, xct_l, rfv_c]) dX8_read_2_55 ⟨Nat.zero_le _, Nat.zero_le _⟩ (fun _ _ _ h => h.elim) (fun x108 s109 h => ?_)
  refine x_if_eq 68 dX8_read_2_58 (by decide) (fun c111 => ?_) (fun c111 => ?_)
  · have h := h.1 c111
    refine t_null dX8_read_2_68 ?_
    obtain ⟨e114, h⟩ := h
    refine t_cI (As := [_, _, _]) rfl ci_X8_94 e114.2 rfl rfl (xrm4 (Nat.le_of_ble_eq_true rfl)) dX8_read_2_69 (e_X15_init (by omega) h) ⟨Nat.zero_le _, Nat.zero_le _⟩ (fun _ _ _ h => h.elim) (fun _ s113 h => ?_)
    obtain ⟨e115, h⟩ := h
    obtain ⟨e116, h⟩ := h
    refine t_aast dX8_read_2_72 st_6_13 e116 e115 ?_
    refine t_gen h (fun s117 w118 h => ?_)
    exact x_vret dX8_read_2_73 rfl (Or.inl ⟨(), _, h, rfl, rfl⟩)
  · have h := h.2 c111
    refine t_aload_0 dX8_read_2_61 ?_
    obtain ⟨c121, c122, e123, e124, h⟩ := h
    obtain ⟨e125, h⟩ := h
    refine t_cDr (As := []) rfl ⟨_, 7, _, _, _, _, _, xcl_X8.1, cu_X8_90_7, e125, (e_X7_test hN (by omega) h)⟩ rfl rfl (by simp [xct_i, xct_l, rfv_c]) dX8_read_2_62 ⟨e123, e124⟩ (fun E q m1 h => Or.inr ⟨E, q, m1, h, rfl, rfl⟩) (fun x119 s120 h => ?_)
    refine x_goto 69 dX8_read_2_65 (by decide) ?_
    obtain ⟨e128, h⟩ := h
    refine t_cI (As := [_, _, _]) rfl ci_X8_94 e128.2 rfl rfl (xrm4 (Nat.le_of_ble_eq_true rfl)) dX8_read_2_69 (e_X15_init (by omega) h) ⟨Nat.zero_le _, Nat.zero_le _⟩ (fun _ _ _ h => h.elim) (fun _ s127 h => ?_)
    obtain ⟨e129, h⟩ := h
    obtain ⟨e130, h⟩ := h
    refine t_aast dX8_read_2_72 st_6_13 e130 e129 ?_
    refine t_gen h (fun s131 w132 h => ?_)
    exact x_vret dX8_read_2_73 rfl (Or.inl ⟨(), _, h, rfl, rfl⟩)
def v_X8_read_2_20 (N : tP) (x0 : Nat) (x1 : Int32) (x2 : Int32) (y0 : Nat) (y1 : Int32) (Kr : tM → Prop) (Kx : String → Nat → tM → Prop) (k n : Nat) (s : tM) : Prop :=
  (∃ c103 c104 : Nat, c103 ≤ k ∧ c104 ≤ n ∧ (tO s 7 y0 ∧ (v_X7_must N y0 y1 c103 c104 s (fun s102 => (tO s102 7 x0 ∧ (v_X7_next N x0 s102 (fun s109 => ((2 ≤ x2 → (v_X8_read_2_40 N x0 x1 x2 0 Kr Kx (k - c103) (n - c104) s109)) ∧ (¬ 2 ≤ x2 → (∃ c114 c115 : Nat, c114 ≤ k - c103 ∧ c115 ≤ n - c104 ∧ (tO s109 7 x0 ∧ (r_X7_part N N.2.1 1 x0 c114 c115 s109 (fun x112 s113 => (v_X8_read_2_40 N x0 x1 x2 x112 Kr Kx ((k - c103) - c114) ((n - c104) - c115) s113)) Kx))))))))) Kx)))
theorem e_X8_read_2_20 {G : xG} {l : Launch} {g : xH} {d : Nat} {N : tP} (hN : tNs G N) (hd : 2 * N.2.1 + 15 ≤ d) (x0 : Nat) (x1 : Int32) (x2 : Int32) (y0 : Nat) (y1 : Int32) (Kr : tM → Prop) (Kx : String → Nat → tM → Prop) (k n : Nat) (s : tM) (h : v_X8_read_2_20 N x0 x1 x2 y0 y1 Kr Kx k n s) : xF G l kX8_read_2 (d + 1) k n (tQ G g wu (fun _ => Kr) Kx) 20 [some (rfv x0), some (.int x1), some (.int x2), none] [.int y1, rfv y0] (tH G g s) := by
  unfold v_X8_read_2_20 at h
  obtain ⟨c103, c104, e105, e106, h⟩ := h
  obtain ⟨e107, h⟩ := h
  refine t_cDv (As := [_]) rfl ⟨_, 7, _, _, _, _, _, xcl_X8.1, cu_X8_72_7, e107, (e_X7_must hN (by omega) h)⟩ rfl rfl (xrm4 (Nat.le_of_ble_eq_true rfl)) dX8_read_2_20 ⟨e105, e106⟩ (fun E q m1 h => Or.inr ⟨E, q, m1, h, rfl, rfl⟩) (fun _ s102 h => ?_)
  refine t_aload_0 dX8_read_2_23 ?_
  obtain ⟨e110, h⟩ := h
  refine t_cDv (As := []) rfl ⟨_, 7, _, _, _, _, _, xcl_X8.1, cu_X8_76_7, e110, (e_X7_next hN (by omega) h)⟩ rfl rfl (xrm4 (Nat.le_of_ble_eq_true rfl)) dX8_read_2_24 ⟨Nat.zero_le _, Nat.zero_le _⟩ (fun _ _ _ h => h.elim) (fun _ s109 h => ?_)
  refine x_iload_2 dX8_read_2_27 ?_
  refine x_iconst (v := 2) dX8_read_2_28 (by decide) ?_
  refine x_icmp_ge 39 dX8_read_2_29 (by decide) (fun c111 => ?_) (fun c111 => ?_)
  · have h := h.1 c111
    refine t_null dX8_read_2_39 ?_
    exact x_le (xLe_cons (xLe_cons (xLe_cons (xLe_cons (xLe_nil))))) (e_X8_read_2_40 hN (by omega) _ _ _ _ _ _ _ _ _ h)
  · have h := h.2 c111
    refine t_aload_0 dX8_read_2_32 ?_
    obtain ⟨c114, c115, e116, e117, h⟩ := h
    obtain ⟨e118, h⟩ := h
    refine t_cDr (As := []) rfl ⟨_, 7, _, _, _, _, _, xcl_X8.1, cu_X8_80_7, e118, (e_X7_sum hN (by omega) h)⟩ rfl rfl (xrm4 (Nat.le_of_ble_eq_true rfl)) dX8_read_2_33 ⟨e116, e117⟩ (fun E q m1 h => Or.inr ⟨E, q, m1, h, rfl, rfl⟩) (fun x112 s113 h => ?_)
    refine x_goto 40 dX8_read_2_36 (by decide) ?_
    exact x_le (xLe_cons (xLe_cons (xLe_cons (xLe_cons (xLe_nil))))) (e_X8_read_2_40 hN (by omega) _ _ _ _ _ _ _ _ _ h)
def v_X8_read_2 (N : tP) (x0 : Nat) (x1 : Int32) (k n : Nat) (s : tM) (Kr : tM → Prop) (Kx : String → Nat → tM → Prop) : Prop :=
  (tO s 7 x0 ∧ (v_X7_which N x0 (tR s x0 9) s (fun x102 s103 => ((x102 = (-1) → (v_X8_read_2_20 N x0 x1 x102 x0 0 Kr Kx k n s103)) ∧ (¬ x102 = (-1) → (v_X8_read_2_20 N x0 x1 x102 x0 1 Kr Kx k n s103))))))
theorem e_X8_read_2 {G : xG} {l : Launch} {g : xH} {d : Nat} {N : tP} (hN : tNs G N) (hd : 2 * N.2.1 + 16 ≤ d) {x0 : Nat} {x1 : Int32} {k n : Nat} {s : tM} {Kr : tM → Prop} {Kx : String → Nat → tM → Prop} (h : v_X8_read_2 N x0 x1 k n s Kr Kx) : xC G l kX8_read_2 d k n [rfv x0, .int x1] (tH G g s) (tQ G g wu (fun _ => Kr) Kx) := by
  obtain ⟨d, rfl⟩ : ∃ z, d = z + 1 := ⟨d - 1, by omega⟩
  refine t_start rfl (by decide +kernel) (by simp [xct_i, xct_l, rfv_c]) (lv := [some (rfv x0), some (.int x1), none, none]) (by simp [lv_args, xLv, rfv_c, xct_i, xct_l]) ?_
  unfold v_X8_read_2 at h
  refine t_aload_0 dX8_read_2_0 ?_
  refine t_aload_0 dX8_read_2_1 ?_
  obtain ⟨e101, h⟩ := h
  refine t_getR dX8_read_2_2 fa_X8_49_7 (by decide) e101 ?_
  refine t_cDi (As := [_]) rfl ⟨_, 7, _, _, _, _, _, xcl_X8.1, cu_X8_68_7, e101, (e_X7_which hN (by omega) h)⟩ rfl rfl (xrm4 (Nat.le_of_ble_eq_true rfl)) dX8_read_2_5 ⟨Nat.zero_le _, Nat.zero_le _⟩ (fun _ _ _ h => h.elim) (fun x102 s103 h => ?_)
  refine x_istore_2 dX8_read_2_8 (by decide) xN2_i ?_
  refine t_aload_0 dX8_read_2_9 ?_
  refine x_iload_2 dX8_read_2_10 ?_
  refine x_iconst (v := (-1)) dX8_read_2_11 (by decide) ?_
  refine x_icmp_eq 19 dX8_read_2_12 (by decide) (fun c104 => ?_) (fun c104 => ?_)
  · have h := h.1 c104
    refine x_iconst (v := 0) dX8_read_2_19 (by decide) ?_
    exact x_le (xLe_cons (xLe_cons (xLe_cons (xLe_cons (xLe_nil))))) (e_X8_read_2_20 hN (by omega) _ _ _ _ _ _ _ _ _ _ h)
  · have h := h.2 c104
    refine x_iconst (v := 1) dX8_read_2_15 (by decide) ?_
    refine x_goto 20 dX8_read_2_16 (by decide) ?_
    exact x_le (xLe_cons (xLe_cons (xLe_cons (xLe_cons (xLe_nil))))) (e_X8_read_2_20 hN (by omega) _ _ _ _ _ _ _ _ _ _ h)
def v_U_read (N : tP) (x0 : Nat) (x1 : Int32) (k n : Nat) (s : tM) (Kr : tM → Prop) (Kx : String → Nat → tM → Prop) : Prop := (tO s 7 x0 ∧ v_X8_read_2 N x0 x1 k n s Kr Kx) ∨ (tO s 18 x0 ∧ v_X21_read N x0 x1 k n s Kr Kx)
theorem e_U_read {G : xG} {l : Launch} {g : xH} {d : Nat} {N : tP} (hN : tNs G N) (hd : 2 * N.2.1 + 19 ≤ d) {x0 : Nat} {x1 : Int32} {k n : Nat} {s : tM} {Kr : tM → Prop} {Kx : String → Nat → tM → Prop} (h : v_U_read N x0 x1 k n s Kr Kx) : (tO s 7 x0 ∧ xC G l kX8_read_2 d k n [rfv x0, .int x1] (tH G g s) (tQ G g wu (fun _ => Kr) Kx)) ∨ (tO s 18 x0 ∧ xC G l kX21_read d k n [rfv x0, .int x1] (tH G g s) (tQ G g wu (fun _ => Kr) Kx)) := (fun h => h.elim (fun h => Or.inl ⟨h.1, e_X8_read_2 hN (by omega) h.2⟩) (fun h => Or.inr (⟨h.1, e_X21_read hN (by omega) h.2⟩))) h
def v_X11_of (x0 : Nat) (x1 : Nat) (s : tM) (Kr : Int64 → tM → Prop) : Prop :=
  (tO s 9 x0 ∧ (Kr ((tI s x0 0 : Int32).toInt64) s))
theorem e_X11_of {G : xG} {l : Launch} {g : xH} {d : Nat} (hd : 2 ≤ d) {x0 : Nat} {x1 : Nat} {s : tM} {Kr : Int64 → tM → Prop} (h : v_X11_of x0 x1 s Kr) : xC G l kX11_of d 0 0 [rfv x0, rfv x1] (tH G g s) (tQ G g wl Kr tNo) := by
  obtain ⟨d, rfl⟩ : ∃ z, d = z + 1 := ⟨d - 1, by omega⟩
  refine t_start rfl (by decide +kernel) (by simp [xct_i, xct_l, rfv_c]) (lv := [some (rfv x0), some (rfv x1)]) (by simp [lv_args, xLv, rfv_c, xct_i, xct_l]) ?_
  unfold v_X11_of at h
  refine t_aload_0 dX11_of_0 ?_
  obtain ⟨e101, h⟩ := h
  refine t_getI dX11_of_1 fa_X11_7_9 (by decide) e101 ?_
  refine x_i2l dX11_of_4 ?_
  exact x_lret dX11_of_5 rfl (Or.inl ⟨_, _, h, rfl, rfl⟩)
def v_X12_of (x0 : Nat) (x1 : Nat) (s : tM) (Kr : Int64 → tM → Prop) : Prop :=
  (tO s 4 x1 ∧ (tO s 10 x0 ∧ (tX s 1 (tR s x1 0) (tI s x0 0) ∧ (Kr (tJ s (tR s x1 0) (tI s x0 0).toNatClampNeg) s))))
theorem e_X12_of {G : xG} {l : Launch} {g : xH} {d : Nat} (hd : 2 ≤ d) {x0 : Nat} {x1 : Nat} {s : tM} {Kr : Int64 → tM → Prop} (h : v_X12_of x0 x1 s Kr) : xC G l kX12_of d 0 0 [rfv x0, rfv x1] (tH G g s) (tQ G g wl Kr tNo) := by
  obtain ⟨d, rfl⟩ : ∃ z, d = z + 1 := ⟨d - 1, by omega⟩
  refine t_start rfl (by decide +kernel) (by simp [xct_i, xct_l, rfv_c]) (lv := [some (rfv x0), some (rfv x1)]) (by simp [lv_args, xLv, rfv_c, xct_i, xct_l]) ?_
  unfold v_X12_of at h
  refine t_aload_1 dX12_of_0 ?_
  obtain ⟨e101, h⟩ := h
  refine t_getR dX12_of_1 fa_X12_13_4 (by decide) e101 ?_
  refine t_aload_0 dX12_of_4 ?_
  obtain ⟨e102, h⟩ := h
  refine t_getI dX12_of_5 fa_X12_7_10 (by decide) e102 ?_
  obtain ⟨e103, h⟩ := h
  refine t_lald dX12_of_8 e103 ?_
  exact x_lret dX12_of_9 rfl (Or.inl ⟨_, _, h, rfl, rfl⟩)
def v_X0_books (x0 : Nat) (s : tM) (Kr : Nat → tM → Prop) : Prop :=
  (tO s 0 x0 ∧ (tO s 1 (tR s x0 0) ∧ (Kr (tR s (tR s x0 0) 3) s)))
theorem e_X0_books {G : xG} {l : Launch} {g : xH} {d : Nat} (hd : 2 ≤ d) {x0 : Nat} {s : tM} {Kr : Nat → tM → Prop} (h : v_X0_books x0 s Kr) : xC G l kX0_books d 0 0 [rfv x0] (tH G g s) (tQ G g wr Kr tNo) := by
  obtain ⟨d, rfl⟩ : ∃ z, d = z + 1 := ⟨d - 1, by omega⟩
  refine t_start rfl (by decide +kernel) (by simp [xct_i, xct_l, rfv_c]) (lv := [some (rfv x0)]) (by simp [lv_args, xLv, rfv_c, xct_i, xct_l]) ?_
  unfold v_X0_books at h
  refine t_aload_0 dX0_books_0 ?_
  obtain ⟨e101, h⟩ := h
  refine t_getR dX0_books_1 fa_X0_18_0 (by decide) e101 ?_
  obtain ⟨e102, h⟩ := h
  refine t_getR dX0_books_4 fa_X0_136_1 (by decide) e102 ?_
  exact t_aret dX0_books_7 rfl (by first | exact Or.inl ⟨_, rfl⟩ | exact Or.inr ⟨_, rfl⟩) (Or.inl ⟨_, _, h, rfl, rfl⟩)
def v_X0_in (x0 : Int64) (x2 : Int64) (x4 : Int64) (s : tM) (Kr : Int32 → tM → Prop) : Prop :=
  (((lg_cmp x0 x2) < 0 → (Kr 0 s)) ∧ (¬ (lg_cmp x0 x2) < 0 → ((0 < (lg_cmp x0 x4) → (Kr 0 s)) ∧ (¬ 0 < (lg_cmp x0 x4) → (Kr 1 s)))))
theorem e_X0_in {G : xG} {l : Launch} {g : xH} {d : Nat} (hd : 2 ≤ d) {x0 : Int64} {x2 : Int64} {x4 : Int64} {s : tM} {Kr : Int32 → tM → Prop} (h : v_X0_in x0 x2 x4 s Kr) : xC G l kX0_in d 0 0 [.long x0, .long x2, .long x4] (tH G g s) (tQ G g wi Kr tNo) := by
  obtain ⟨d, rfl⟩ : ∃ z, d = z + 1 := ⟨d - 1, by omega⟩
  refine t_start rfl (by decide +kernel) (by simp [xct_i, xct_l, rfv_c]) (lv := [some (.long x0), none, some (.long x2), none, some (.long x4), none]) (by simp [lv_args, xLv, rfv_c, xct_i, xct_l]) ?_
  unfold v_X0_in at h
  refine x_lload_0 dX0_in_0 ?_
  refine x_lload_2 dX0_in_1 ?_
  refine x_lcmp dX0_in_2 ?_
  refine x_if_lt 17 dX0_in_3 (by decide) (fun c101 => ?_) (fun c101 => ?_)
  · have h := h.1 c101
    refine x_iconst (v := 0) dX0_in_17 (by decide) ?_
    exact x_zret0 dX0_in_18 rfl (Or.inl ⟨_, _, h, rfl, rfl⟩)
  · have h := h.2 c101
    refine x_lload_0 dX0_in_6 ?_
    refine x_lload_4 dX0_in_7 ?_
    refine x_lcmp dX0_in_9 ?_
    refine x_if_gt 17 dX0_in_10 (by decide) (fun c102 => ?_) (fun c102 => ?_)
    · have h := h.1 c102
      refine x_iconst (v := 0) dX0_in_17 (by decide) ?_
      exact x_zret0 dX0_in_18 rfl (Or.inl ⟨_, _, h, rfl, rfl⟩)
    · have h := h.2 c102
      refine x_iconst (v := 1) dX0_in_13 (by decide) ?_
      refine x_goto 18 dX0_in_14 (by decide) ?_
      exact x_zret1 dX0_in_18 rfl (Or.inl ⟨_, _, h, rfl, rfl⟩)
def v_X0_nNotes (x0 : Nat) (s : tM) (Kr : Int32 → tM → Prop) : Prop :=
  (tO s 0 x0 ∧ (tO s 1 (tR s x0 0) ∧ (Kr (tI s (tR s x0 0) 4) s)))
theorem e_X0_nNotes {G : xG} {l : Launch} {g : xH} {d : Nat} (hd : 2 ≤ d) {x0 : Nat} {s : tM} {Kr : Int32 → tM → Prop} (h : v_X0_nNotes x0 s Kr) : xC G l kX0_nNotes d 0 0 [rfv x0] (tH G g s) (tQ G g wi Kr tNo) := by
  obtain ⟨d, rfl⟩ : ∃ z, d = z + 1 := ⟨d - 1, by omega⟩
  refine t_start rfl (by decide +kernel) (by simp [xct_i, xct_l, rfv_c]) (lv := [some (rfv x0)]) (by simp [lv_args, xLv, rfv_c, xct_i, xct_l]) ?_
  unfold v_X0_nNotes at h
  refine t_aload_0 dX0_nNotes_0 ?_
  obtain ⟨e101, h⟩ := h
  refine t_getR dX0_nNotes_1 fa_X0_18_0 (by decide) e101 ?_
  obtain ⟨e102, h⟩ := h
  refine t_getI dX0_nNotes_4 fa_X0_139_1 (by decide) e102 ?_
  exact x_iret dX0_nNotes_7 rfl (Or.inl ⟨_, _, h, rfl, rfl⟩)
def v_X0_isNote (x0 : Nat) (x1 : Int32) (s : tM) (Kr : Int32 → tM → Prop) : Prop :=
  (tO s 0 x0 ∧ (v_X0_nNotes x0 s (fun x101 s102 => (v_X0_in ((x1 : Int32).toInt64) 0 ((x101 - 1 : Int32).toInt64) s102 (fun x104 s105 => (xB x104 ∧ (Kr x104 s105)))))))
theorem e_X0_isNote {G : xG} {l : Launch} {g : xH} {d : Nat} (hd : 4 ≤ d) {x0 : Nat} {x1 : Int32} {s : tM} {Kr : Int32 → tM → Prop} (h : v_X0_isNote x0 x1 s Kr) : xC G l kX0_isNote d 0 0 [rfv x0, .int x1] (tH G g s) (tQ G g wi Kr tNo) := by
  obtain ⟨d, rfl⟩ : ∃ z, d = z + 1 := ⟨d - 1, by omega⟩
  refine t_start rfl (by decide +kernel) (by simp [xct_i, xct_l, rfv_c]) (lv := [some (rfv x0), some (.int x1)]) (by simp [lv_args, xLv, rfv_c, xct_i, xct_l]) ?_
  unfold v_X0_isNote at h
  refine x_iload_1 dX0_isNote_0 ?_
  refine x_i2l dX0_isNote_1 ?_
  refine x_lconst (v := 0) dX0_isNote_2 (by decide) ?_
  refine t_aload_0 dX0_isNote_3 ?_
  obtain ⟨e103, h⟩ := h
  refine t_cVi (As := []) rfl cv_X0_142 rfl e103 rfl rfl (xrm4 (Nat.le_of_ble_eq_true rfl)) dX0_isNote_4 (e_X0_nNotes (by omega) h) ⟨Nat.zero_le _, Nat.zero_le _⟩ (fun _ _ _ h => h.elim) (fun x101 s102 h => ?_)
  refine x_iconst (v := 1) dX0_isNote_7 (by decide) ?_
  refine x_isub dX0_isNote_8 ?_
  refine x_i2l dX0_isNote_9 ?_
  refine t_cSi (As := [_, _, _]) rfl cs_X0_5 rfl rfl (xrm4 (Nat.le_of_ble_eq_true rfl)) dX0_isNote_10 (e_X0_in (by omega) h) ⟨Nat.zero_le _, Nat.zero_le _⟩ (fun _ _ _ h => h.elim) (fun x104 s105 h => ?_)
  obtain ⟨e106, h⟩ := h
  exact x_zret dX0_isNote_13 rfl (xB_n e106) (Or.inl ⟨_, _, h, rfl, rfl⟩)
def v_X13_of (x0 : Nat) (x1 : Nat) (s : tM) (Kr : Int64 → tM → Prop) : Prop :=
  (tO s 11 x0 ∧ (tO s 0 (tR s x0 2) ∧ (v_X0_isNote (tR s x0 2) (tI s x0 1) s (fun x102 s103 => ((¬ x102 = 0 → (tO s103 11 x0 ∧ ((¬ (tI s103 x0 0) = 5 → (tO s103 0 (tR s103 x0 2) ∧ (v_X0_books (tR s103 x0 2) s103 (fun x108 s109 => (tO s109 2 x108 ∧ (tO s109 11 x0 ∧ (tX s109 0 (tR s109 x108 0) (tI s109 x0 1) ∧ (Kr ((tI s109 (tR s109 x108 0) (tI s109 x0 1).toNatClampNeg : Int32).toInt64) s109)))))))) ∧ ((tI s103 x0 0) = 5 → (tO s103 0 (tR s103 x0 2) ∧ (v_X0_books (tR s103 x0 2) s103 (fun x114 s115 => (tO s115 2 x114 ∧ (tO s115 11 x0 ∧ (tX s115 0 (tR s115 x114 1) (tI s115 x0 1) ∧ (Kr ((tI s115 (tR s115 x114 1) (tI s115 x0 1).toNatClampNeg : Int32).toInt64) s115))))))))))) ∧ (x102 = 0 → (Kr (-1) s103)))))))
theorem e_X13_of {G : xG} {l : Launch} {g : xH} {d : Nat} (hd : 6 ≤ d) {x0 : Nat} {x1 : Nat} {s : tM} {Kr : Int64 → tM → Prop} (h : v_X13_of x0 x1 s Kr) : xC G l kX13_of d 0 0 [rfv x0, rfv x1] (tH G g s) (tQ G g wl Kr tNo) := by
  obtain ⟨d, rfl⟩ : ∃ z, d = z + 1 := ⟨d - 1, by omega⟩
  refine t_start rfl (by decide +kernel) (by simp [xct_i, xct_l, rfv_c]) (lv := [some (rfv x0), some (rfv x1)]) (by simp [lv_args, xLv, rfv_c, xct_i, xct_l]) ?_
  unfold v_X13_of at h
  refine t_aload_0 dX13_of_0 ?_
  obtain ⟨e101, h⟩ := h
  refine t_getR dX13_of_1 fa_X13_3_11 (by decide) e101 ?_
  refine t_aload_0 dX13_of_4 ?_
  refine t_getI dX13_of_5 fa_X13_19_11 (by decide) e101 ?_
  obtain ⟨e104, h⟩ := h
  refine t_cVNi (As := [_]) rfl cvn_X13_22 rfl rfl e104 rfl rfl (xrm4 (Nat.le_of_ble_eq_true rfl)) dX13_of_8 (e_X0_isNote (by omega) h) ⟨Nat.zero_le _, Nat.zero_le _⟩ (fun _ _ _ h => h.elim) (fun x102 s103 h => ?_)
  refine x_if_ne 20 dX13_of_11 (by decide) (fun c105 => ?_) (fun c105 => ?_)
  · have h := h.1 c105
    refine t_aload_0 dX13_of_20 ?_
    obtain ⟨e106, h⟩ := h
    refine t_getI dX13_of_21 fa_X13_15_11 (by decide) e106 ?_
    refine x_iconst (v := 5) dX13_of_24 (by decide) ?_
    refine x_icmp_ne 47 dX13_of_25 (by decide) (fun c107 => ?_) (fun c107 => ?_)
    · have h := h.1 c107
      refine t_aload_0 dX13_of_47 ?_
      refine t_getR dX13_of_48 fa_X13_3_11 (by decide) e106 ?_
      obtain ⟨e110, h⟩ := h
      refine t_cVNr (As := []) rfl cvn_X13_30 rfl rfl e110 rfl rfl (xrm4 (Nat.le_of_ble_eq_true rfl)) dX13_of_51 (e_X0_books (by omega) h) ⟨Nat.zero_le _, Nat.zero_le _⟩ (fun _ _ _ h => h.elim) (fun x108 s109 h => ?_)
      obtain ⟨e111, h⟩ := h
      refine t_getR dX13_of_54 fa_X13_40_2 (by decide) e111 ?_
      refine t_aload_0 dX13_of_57 ?_
      obtain ⟨e112, h⟩ := h
      refine t_getI dX13_of_58 fa_X13_19_11 (by decide) e112 ?_
      obtain ⟨e113, h⟩ := h
      refine t_iald dX13_of_61 e113 ?_
      refine x_i2l dX13_of_62 ?_
      exact x_lret dX13_of_63 rfl (Or.inl ⟨_, _, h, rfl, rfl⟩)
    · have h := h.2 c107
      refine t_aload_0 dX13_of_28 ?_
      refine t_getR dX13_of_29 fa_X13_3_11 (by decide) e106 ?_
      obtain ⟨e116, h⟩ := h
      refine t_cVNr (As := []) rfl cvn_X13_30 rfl rfl e116 rfl rfl (xrm4 (Nat.le_of_ble_eq_true rfl)) dX13_of_32 (e_X0_books (by omega) h) ⟨Nat.zero_le _, Nat.zero_le _⟩ (fun _ _ _ h => h.elim) (fun x114 s115 h => ?_)
      obtain ⟨e117, h⟩ := h
      refine t_getR dX13_of_35 fa_X13_34_2 (by decide) e117 ?_
      refine t_aload_0 dX13_of_38 ?_
      obtain ⟨e118, h⟩ := h
      refine t_getI dX13_of_39 fa_X13_19_11 (by decide) e118 ?_
      obtain ⟨e119, h⟩ := h
      refine t_iald dX13_of_42 e119 ?_
      refine x_i2l dX13_of_43 ?_
      refine x_goto 63 dX13_of_44 (by decide) ?_
      exact x_lret dX13_of_63 rfl (Or.inl ⟨_, _, h, rfl, rfl⟩)
  · have h := h.2 c105
    refine x_ldc2 dX13_of_14 q544 ?_
    refine x_goto 63 dX13_of_17 (by decide) ?_
    exact x_lret dX13_of_63 rfl (Or.inl ⟨_, _, h, rfl, rfl⟩)
def v_X4_within_29 (x0 : Nat) (x1 : Int64) (y0 : Nat) (y1 : Int32) (Kr : Int64 → tM → Prop) (s : tM) : Prop :=
  (tO s 4 y0 ∧ (xB y1 ∧ (∀ s103 : tM, s103 = tsI s y0 1 y1 → (tO s103 4 x0 ∧ (((tI s103 x0 1) = 0 → (Kr x1 s103)) ∧ (¬ (tI s103 x0 1) = 0 → (Kr 0 s103)))))))
theorem e_X4_within_29 {G : xG} {l : Launch} {g : xH} {d : Nat} (hd : 1 ≤ d) (x0 : Nat) (x1 : Int64) (y0 : Nat) (y1 : Int32) (Kr : Int64 → tM → Prop) (s : tM) (h : v_X4_within_29 x0 x1 y0 y1 Kr s) : xF G l kX4_within (d + 1) 0 0 (tQ G g wl Kr tNo) 29 [some (rfv x0), some (.long x1), none] [.int y1, rfv y0] (tH G g s) := by
  unfold v_X4_within_29 at h
  obtain ⟨e101, h⟩ := h
  obtain ⟨e102, h⟩ := h
  refine t_putI (j := 1) dX4_within_29 fp_X4_13_4 (by decide) e101 (xB_n e102) (xB_f e102) ?_
  refine t_gen h (fun s103 w104 h => ?_)
  refine t_aload_0 dX4_within_32 ?_
  obtain ⟨e105, h⟩ := h
  refine t_getI dX4_within_33 fa_X4_13_4 (by decide) e105 ?_
  refine x_if_eq 43 dX4_within_36 (by decide) (fun c106 => ?_) (fun c106 => ?_)
  · have h := h.1 c106
    refine x_lload_1 dX4_within_43 ?_
    exact x_lret dX4_within_44 rfl (Or.inl ⟨_, _, h, rfl, rfl⟩)
  · have h := h.2 c106
    refine x_lconst (v := 0) dX4_within_39 (by decide) ?_
    refine x_goto 44 dX4_within_40 (by decide) ?_
    exact x_lret dX4_within_44 rfl (Or.inl ⟨_, _, h, rfl, rfl⟩)
def v_X4_within_24 (x0 : Nat) (x1 : Int64) (y0 : Nat) (Kr : Int64 → tM → Prop) (s : tM) : Prop :=
  (v_X4_within_29 x0 x1 y0 1 Kr s)
theorem e_X4_within_24 {G : xG} {l : Launch} {g : xH} {d : Nat} (hd : 1 ≤ d) (x0 : Nat) (x1 : Int64) (y0 : Nat) (Kr : Int64 → tM → Prop) (s : tM) (h : v_X4_within_24 x0 x1 y0 Kr s) : xF G l kX4_within (d + 1) 0 0 (tQ G g wl Kr tNo) 24 [some (rfv x0), some (.long x1), none] [rfv y0] (tH G g s) := by
  unfold v_X4_within_24 at h
  refine x_iconst (v := 1) dX4_within_24 (by decide) ?_
  refine x_goto 29 dX4_within_25 (by decide) ?_
  exact x_le (xLe_cons (xLe_cons (xLe_cons (xLe_nil)))) (e_X4_within_29 (by omega) _ _ _ _ _ _ h)
def v_X4_within (x0 : Nat) (x1 : Int64) (s : tM) (Kr : Int64 → tM → Prop) : Prop :=
  (tO s 4 x0 ∧ ((¬ (tI s x0 1) = 0 → (v_X4_within_24 x0 x1 x0 Kr s)) ∧ ((tI s x0 1) = 0 → ((0 < (lg_cmp x1 1000000000) → (v_X4_within_24 x0 x1 x0 Kr s)) ∧ (¬ 0 < (lg_cmp x1 1000000000) → ((0 ≤ (lg_cmp x1 (-1000000000)) → (v_X4_within_29 x0 x1 x0 0 Kr s)) ∧ (¬ 0 ≤ (lg_cmp x1 (-1000000000)) → (v_X4_within_24 x0 x1 x0 Kr s))))))))
theorem e_X4_within {G : xG} {l : Launch} {g : xH} {d : Nat} (hd : 2 ≤ d) {x0 : Nat} {x1 : Int64} {s : tM} {Kr : Int64 → tM → Prop} (h : v_X4_within x0 x1 s Kr) : xC G l kX4_within d 0 0 [rfv x0, .long x1] (tH G g s) (tQ G g wl Kr tNo) := by
  obtain ⟨d, rfl⟩ : ∃ z, d = z + 1 := ⟨d - 1, by omega⟩
  refine t_start rfl (by decide +kernel) (by simp [xct_i, xct_l, rfv_c]) (lv := [some (rfv x0), some (.long x1), none]) (by simp [lv_args, xLv, rfv_c, xct_i, xct_l]) ?_
  unfold v_X4_within at h
  refine t_aload_0 dX4_within_0 ?_
  refine t_aload_0 dX4_within_1 ?_
  obtain ⟨e101, h⟩ := h
  refine t_getI dX4_within_2 fa_X4_13_4 (by decide) e101 ?_
  refine x_if_ne 24 dX4_within_5 (by decide) (fun c102 => ?_) (fun c102 => ?_)
  · have h := h.1 c102
    exact x_le (xLe_cons (xLe_cons (xLe_cons (xLe_nil)))) (e_X4_within_24 (by omega) _ _ _ _ _ h)
  · have h := h.2 c102
    refine x_lload_1 dX4_within_8 ?_
    refine x_ldc2 dX4_within_9 q552 ?_
    refine x_lcmp dX4_within_12 ?_
    refine x_if_gt 24 dX4_within_13 (by decide) (fun c103 => ?_) (fun c103 => ?_)
    · have h := h.1 c103
      exact x_le (xLe_cons (xLe_cons (xLe_cons (xLe_nil)))) (e_X4_within_24 (by omega) _ _ _ _ _ h)
    · have h := h.2 c103
      refine x_lload_1 dX4_within_16 ?_
      refine x_ldc2 dX4_within_17 q553 ?_
      refine x_lcmp dX4_within_20 ?_
      refine x_if_ge 28 dX4_within_21 (by decide) (fun c104 => ?_) (fun c104 => ?_)
      · have h := h.1 c104
        refine x_iconst (v := 0) dX4_within_28 (by decide) ?_
        exact x_le (xLe_cons (xLe_cons (xLe_cons (xLe_nil)))) (e_X4_within_29 (by omega) _ _ _ _ _ _ h)
      · have h := h.2 c104
        exact x_le (xLe_cons (xLe_cons (xLe_cons (xLe_nil)))) (e_X4_within_24 (by omega) _ _ _ _ _ h)
def v_X14_of_70 (N : tP) (rc : Nat → Nat → Nat → tM → (Int64 → tM → Prop) → Prop) (x0 : Nat) (x2 : Int64) (x4 : Int64) (y0 : Nat) (y1 : Int32) (Kr : Int64 → tM → Prop) (s : tM) : Prop :=
  (tO s 4 y0 ∧ (xB y1 ∧ (∀ s103 : tM, s103 = tsI s y0 1 y1 → ((¬ (lg_cmp x4 0) = 0 → (tO s103 12 x0 ∧ ((¬ (tI s103 x0 2) = 47 → (¬ x4 = 0 ∧ (Kr (x2 - x2 / x4 * x4) s103))) ∧ ((tI s103 x0 2) = 47 → (¬ x4 = 0 ∧ (Kr (x2 / x4) s103)))))) ∧ ((lg_cmp x4 0) = 0 → (Kr 0 s103))))))
theorem e_X14_of_70 {G : xG} {l : Launch} {g : xH} {d : Nat} {N : tP} (hN : tNs G N) (hd : 6 ≤ d) {rc : Nat → Nat → Nat → tM → (Int64 → tM → Prop) → Prop} (ih0 : ∀ (x0 : Nat) (x1 : Nat) (s : tM) (Kr : Int64 → tM → Prop) , rc 0 x0 x1 s Kr → (tO s 9 x0 ∧ xC G l kX11_of d 0 0 [rfv x0, rfv x1] (tH G g s) (tQ G g wl Kr tNo)) ∨ (tO s 10 x0 ∧ xC G l kX12_of d 0 0 [rfv x0, rfv x1] (tH G g s) (tQ G g wl Kr tNo)) ∨ (tO s 11 x0 ∧ xC G l kX13_of d 0 0 [rfv x0, rfv x1] (tH G g s) (tQ G g wl Kr tNo)) ∨ (tO s 12 x0 ∧ xC G l kX14_of d 0 0 [rfv x0, rfv x1] (tH G g s) (tQ G g wl Kr tNo))) (ih1 : ∀ (x0 : Nat) (x1 : Nat) (s : tM) (Kr : Int64 → tM → Prop) , rc 1 x0 x1 s Kr → xC G l kX14_of d 0 0 [rfv x0, rfv x1] (tH G g s) (tQ G g wl Kr tNo)) (x0 : Nat) (x2 : Int64) (x4 : Int64) (y0 : Nat) (y1 : Int32) (Kr : Int64 → tM → Prop) (s : tM) (h : v_X14_of_70 N rc x0 x2 x4 y0 y1 Kr s) : xF G l kX14_of (d + 1) 0 0 (tQ G g wl Kr tNo) 70 [some (rfv x0), none, some (.long x2), none, some (.long x4), none] [.int y1, rfv y0] (tH G g s) := by
  unfold v_X14_of_70 at h
  obtain ⟨e101, h⟩ := h
  obtain ⟨e102, h⟩ := h
  refine t_putI (j := 1) dX14_of_70 fp_X14_24_4 (by decide) e101 (xB_n e102) (xB_f e102) ?_
  refine t_gen h (fun s103 w104 h => ?_)
  refine x_lload_4 dX14_of_73 ?_
  refine x_lconst (v := 0) dX14_of_75 (by decide) ?_
  refine x_lcmp dX14_of_76 ?_
  refine x_if_ne 84 dX14_of_77 (by decide) (fun c105 => ?_) (fun c105 => ?_)
  · have h := h.1 c105
    refine t_aload_0 dX14_of_84 ?_
    obtain ⟨e106, h⟩ := h
    refine t_getI dX14_of_85 fa_X14_13_12 (by decide) e106 ?_
    refine x_bipush (v := 47) dX14_of_88 (by decide) ?_
    refine x_icmp_ne 100 dX14_of_90 (by decide) (fun c107 => ?_) (fun c107 => ?_)
    · have h := h.1 c107
      refine x_lload_2 dX14_of_100 ?_
      refine x_lload_4 dX14_of_101 ?_
      obtain ⟨e108, h⟩ := h
      refine x_lrem dX14_of_103 e108 ?_
      exact x_lret dX14_of_104 rfl (Or.inl ⟨_, _, h, rfl, rfl⟩)
    · have h := h.2 c107
      refine x_lload_2 dX14_of_93 ?_
      refine x_lload_4 dX14_of_94 ?_
      obtain ⟨e109, h⟩ := h
      refine x_ldiv dX14_of_96 e109 ?_
      refine x_goto 104 dX14_of_97 (by decide) ?_
      exact x_lret dX14_of_104 rfl (Or.inl ⟨_, _, h, rfl, rfl⟩)
  · have h := h.2 c105
    refine x_lconst (v := 0) dX14_of_80 (by decide) ?_
    refine x_goto 104 dX14_of_81 (by decide) ?_
    exact x_lret dX14_of_104 rfl (Or.inl ⟨_, _, h, rfl, rfl⟩)
def v_X14_of_57 (N : tP) (rc : Nat → Nat → Nat → tM → (Int64 → tM → Prop) → Prop) (x0 : Nat) (x1 : Nat) (x2 : Int64) (x4 : Int64) (Kr : Int64 → tM → Prop) (s : tM) : Prop :=
  ((¬ (lg_cmp x4 0) = 0 → (v_X14_of_70 N rc x0 x2 x4 x1 0 Kr s)) ∧ ((lg_cmp x4 0) = 0 → (v_X14_of_70 N rc x0 x2 x4 x1 1 Kr s)))
theorem e_X14_of_57 {G : xG} {l : Launch} {g : xH} {d : Nat} {N : tP} (hN : tNs G N) (hd : 6 ≤ d) {rc : Nat → Nat → Nat → tM → (Int64 → tM → Prop) → Prop} (ih0 : ∀ (x0 : Nat) (x1 : Nat) (s : tM) (Kr : Int64 → tM → Prop) , rc 0 x0 x1 s Kr → (tO s 9 x0 ∧ xC G l kX11_of d 0 0 [rfv x0, rfv x1] (tH G g s) (tQ G g wl Kr tNo)) ∨ (tO s 10 x0 ∧ xC G l kX12_of d 0 0 [rfv x0, rfv x1] (tH G g s) (tQ G g wl Kr tNo)) ∨ (tO s 11 x0 ∧ xC G l kX13_of d 0 0 [rfv x0, rfv x1] (tH G g s) (tQ G g wl Kr tNo)) ∨ (tO s 12 x0 ∧ xC G l kX14_of d 0 0 [rfv x0, rfv x1] (tH G g s) (tQ G g wl Kr tNo))) (ih1 : ∀ (x0 : Nat) (x1 : Nat) (s : tM) (Kr : Int64 → tM → Prop) , rc 1 x0 x1 s Kr → xC G l kX14_of d 0 0 [rfv x0, rfv x1] (tH G g s) (tQ G g wl Kr tNo)) (x0 : Nat) (x1 : Nat) (x2 : Int64) (x4 : Int64) (Kr : Int64 → tM → Prop) (s : tM) (h : v_X14_of_57 N rc x0 x1 x2 x4 Kr s) : xF G l kX14_of (d + 1) 0 0 (tQ G g wl Kr tNo) 57 [some (rfv x0), some (rfv x1), some (.long x2), none, some (.long x4), none] [] (tH G g s) := by
  unfold v_X14_of_57 at h
  refine t_aload_1 dX14_of_57 ?_
  refine x_lload_4 dX14_of_58 ?_
  refine x_lconst (v := 0) dX14_of_60 (by decide) ?_
  refine x_lcmp dX14_of_61 ?_
  refine x_if_ne 69 dX14_of_62 (by decide) (fun c101 => ?_) (fun c101 => ?_)
  · have h := h.1 c101
    refine x_iconst (v := 0) dX14_of_69 (by decide) ?_
    exact x_le (xLe_cons (xLe_none (xLe_cons (xLe_cons (xLe_cons (xLe_cons (xLe_nil))))))) (e_X14_of_70 hN (by omega) ih0 ih1 _ _ _ _ _ _ _ h)
  · have h := h.2 c101
    refine x_iconst (v := 1) dX14_of_65 (by decide) ?_
    refine x_goto 70 dX14_of_66 (by decide) ?_
    exact x_le (xLe_cons (xLe_none (xLe_cons (xLe_cons (xLe_cons (xLe_cons (xLe_nil))))))) (e_X14_of_70 hN (by omega) ih0 ih1 _ _ _ _ _ _ _ h)
def v_X14_of_28 (N : tP) (rc : Nat → Nat → Nat → tM → (Int64 → tM → Prop) → Prop) (x0 : Nat) (x1 : Nat) (x2 : Int64) (y0 : Int64) (Kr : Int64 → tM → Prop) (s : tM) : Prop :=
  (tO s 4 x1 ∧ (((tI s x1 1) = 0 → (tO s 12 x0 ∧ (((tI s x0 2) = 47 → (v_X14_of_57 N rc x0 x1 x2 y0 Kr s)) ∧ (¬ (tI s x0 2) = 47 → ((¬ (tI s x0 2) = 37 → ((¬ (tI s x0 2) = 43 → ((¬ (tI s x0 2) = 45 → (v_X4_within x1 (x2 * y0) s (fun x108 s109 => (Kr x108 s109)))) ∧ ((tI s x0 2) = 45 → (v_X4_within x1 (x2 - y0) s (fun x110 s111 => (Kr x110 s111)))))) ∧ ((tI s x0 2) = 43 → (v_X4_within x1 (x2 + y0) s (fun x112 s113 => (Kr x112 s113)))))) ∧ ((tI s x0 2) = 37 → (v_X14_of_57 N rc x0 x1 x2 y0 Kr s))))))) ∧ (¬ (tI s x1 1) = 0 → (Kr 0 s))))
theorem e_X14_of_28 {G : xG} {l : Launch} {g : xH} {d : Nat} {N : tP} (hN : tNs G N) (hd : 6 ≤ d) {rc : Nat → Nat → Nat → tM → (Int64 → tM → Prop) → Prop} (ih0 : ∀ (x0 : Nat) (x1 : Nat) (s : tM) (Kr : Int64 → tM → Prop) , rc 0 x0 x1 s Kr → (tO s 9 x0 ∧ xC G l kX11_of d 0 0 [rfv x0, rfv x1] (tH G g s) (tQ G g wl Kr tNo)) ∨ (tO s 10 x0 ∧ xC G l kX12_of d 0 0 [rfv x0, rfv x1] (tH G g s) (tQ G g wl Kr tNo)) ∨ (tO s 11 x0 ∧ xC G l kX13_of d 0 0 [rfv x0, rfv x1] (tH G g s) (tQ G g wl Kr tNo)) ∨ (tO s 12 x0 ∧ xC G l kX14_of d 0 0 [rfv x0, rfv x1] (tH G g s) (tQ G g wl Kr tNo))) (ih1 : ∀ (x0 : Nat) (x1 : Nat) (s : tM) (Kr : Int64 → tM → Prop) , rc 1 x0 x1 s Kr → xC G l kX14_of d 0 0 [rfv x0, rfv x1] (tH G g s) (tQ G g wl Kr tNo)) (x0 : Nat) (x1 : Nat) (x2 : Int64) (y0 : Int64) (Kr : Int64 → tM → Prop) (s : tM) (h : v_X14_of_28 N rc x0 x1 x2 y0 Kr s) : xF G l kX14_of (d + 1) 0 0 (tQ G g wl Kr tNo) 28 [some (rfv x0), some (rfv x1), some (.long x2), none, none, none] [.long y0] (tH G g s) := by
  unfold v_X14_of_28 at h
  refine x_lstore_4 dX14_of_28 (by decide) xN2_none ?_
  refine t_aload_1 dX14_of_30 ?_
  obtain ⟨e101, h⟩ := h
  refine t_getI dX14_of_31 fa_X14_24_4 (by decide) e101 ?_
  refine x_if_eq 39 dX14_of_34 (by decide) (fun c102 => ?_) (fun c102 => ?_)
  · have h := h.1 c102
    refine t_aload_0 dX14_of_39 ?_
    obtain ⟨e103, h⟩ := h
    refine t_getI dX14_of_40 fa_X14_13_12 (by decide) e103 ?_
    refine x_bipush (v := 47) dX14_of_43 (by decide) ?_
    refine x_icmp_eq 57 dX14_of_45 (by decide) (fun c104 => ?_) (fun c104 => ?_)
    · have h := h.1 c104
      exact x_le (xLe_cons (xLe_cons (xLe_cons (xLe_cons (xLe_cons (xLe_cons (xLe_nil))))))) (e_X14_of_57 hN (by omega) ih0 ih1 _ _ _ _ _ _ h)
    · have h := h.2 c104
      refine t_aload_0 dX14_of_48 ?_
      refine t_getI dX14_of_49 fa_X14_13_12 (by decide) e103 ?_
      refine x_bipush (v := 37) dX14_of_52 (by decide) ?_
      refine x_icmp_ne 105 dX14_of_54 (by decide) (fun c105 => ?_) (fun c105 => ?_)
      · have h := h.1 c105
        refine t_aload_1 dX14_of_105 ?_
        refine t_aload_0 dX14_of_106 ?_
        refine t_getI dX14_of_107 fa_X14_13_12 (by decide) e103 ?_
        refine x_bipush (v := 43) dX14_of_110 (by decide) ?_
        refine x_icmp_ne 122 dX14_of_112 (by decide) (fun c106 => ?_) (fun c106 => ?_)
        · have h := h.1 c106
          refine t_aload_0 dX14_of_122 ?_
          refine t_getI dX14_of_123 fa_X14_13_12 (by decide) e103 ?_
          refine x_bipush (v := 45) dX14_of_126 (by decide) ?_
          refine x_icmp_ne 138 dX14_of_128 (by decide) (fun c107 => ?_) (fun c107 => ?_)
          · have h := h.1 c107
            refine x_lload_2 dX14_of_138 ?_
            refine x_lload_4 dX14_of_139 ?_
            refine x_lmul dX14_of_141 ?_
            refine t_cVl (As := [_]) rfl cv_X14_30 rfl e101 rfl rfl (xrm4 (Nat.le_of_ble_eq_true rfl)) dX14_of_142 (e_X4_within (by omega) h) ⟨Nat.zero_le _, Nat.zero_le _⟩ (fun _ _ _ h => h.elim) (fun x108 s109 h => ?_)
            exact x_lret dX14_of_145 rfl (Or.inl ⟨_, _, h, rfl, rfl⟩)
          · have h := h.2 c107
            refine x_lload_2 dX14_of_131 ?_
            refine x_lload_4 dX14_of_132 ?_
            refine x_lsub dX14_of_134 ?_
            refine x_goto 142 dX14_of_135 (by decide) ?_
            refine t_cVl (As := [_]) rfl cv_X14_30 rfl e101 rfl rfl (xrm4 (Nat.le_of_ble_eq_true rfl)) dX14_of_142 (e_X4_within (by omega) h) ⟨Nat.zero_le _, Nat.zero_le _⟩ (fun _ _ _ h => h.elim) (fun x110 s111 h => ?_)
            exact x_lret dX14_of_145 rfl (Or.inl ⟨_, _, h, rfl, rfl⟩)
        · have h := h.2 c106
          refine x_lload_2 dX14_of_115 ?_
          refine x_lload_4 dX14_of_116 ?_
          refine x_ladd dX14_of_118 ?_
          refine x_goto 142 dX14_of_119 (by decide) ?_
          refine t_cVl (As := [_]) rfl cv_X14_30 rfl e101 rfl rfl (xrm4 (Nat.le_of_ble_eq_true rfl)) dX14_of_142 (e_X4_within (by omega) h) ⟨Nat.zero_le _, Nat.zero_le _⟩ (fun _ _ _ h => h.elim) (fun x112 s113 h => ?_)
          exact x_lret dX14_of_145 rfl (Or.inl ⟨_, _, h, rfl, rfl⟩)
      · have h := h.2 c105
        exact x_le (xLe_cons (xLe_cons (xLe_cons (xLe_cons (xLe_cons (xLe_cons (xLe_nil))))))) (e_X14_of_57 hN (by omega) ih0 ih1 _ _ _ _ _ _ h)
  · have h := h.2 c102
    refine x_lconst (v := 0) dX14_of_37 (by decide) ?_
    exact x_lret dX14_of_38 rfl (Or.inl ⟨_, _, h, rfl, rfl⟩)
def v_X14_of (N : tP) (rc : Nat → Nat → Nat → tM → (Int64 → tM → Prop) → Prop) (x0 : Nat) (x1 : Nat) (s : tM) (Kr : Int64 → tM → Prop) : Prop :=
  (tO s 12 x0 ∧ (rc 0 (tR s x0 0) x1 s (fun x102 s103 => (tO s103 4 x1 ∧ (((tI s103 x1 1) = 0 → (tO s103 12 x0 ∧ (rc 0 (tR s103 x0 1) x1 s103 (fun x107 s108 => (v_X14_of_28 N rc x0 x1 x102 x107 Kr s108))))) ∧ (¬ (tI s103 x1 1) = 0 → (v_X14_of_28 N rc x0 x1 x102 0 Kr s103)))))))
theorem eb_X14_of {G : xG} {l : Launch} {g : xH} {d : Nat} {N : tP} (hN : tNs G N) (hd : 6 ≤ d) {rc : Nat → Nat → Nat → tM → (Int64 → tM → Prop) → Prop} (ih0 : ∀ (x0 : Nat) (x1 : Nat) (s : tM) (Kr : Int64 → tM → Prop) , rc 0 x0 x1 s Kr → (tO s 9 x0 ∧ xC G l kX11_of d 0 0 [rfv x0, rfv x1] (tH G g s) (tQ G g wl Kr tNo)) ∨ (tO s 10 x0 ∧ xC G l kX12_of d 0 0 [rfv x0, rfv x1] (tH G g s) (tQ G g wl Kr tNo)) ∨ (tO s 11 x0 ∧ xC G l kX13_of d 0 0 [rfv x0, rfv x1] (tH G g s) (tQ G g wl Kr tNo)) ∨ (tO s 12 x0 ∧ xC G l kX14_of d 0 0 [rfv x0, rfv x1] (tH G g s) (tQ G g wl Kr tNo))) (ih1 : ∀ (x0 : Nat) (x1 : Nat) (s : tM) (Kr : Int64 → tM → Prop) , rc 1 x0 x1 s Kr → xC G l kX14_of d 0 0 [rfv x0, rfv x1] (tH G g s) (tQ G g wl Kr tNo)) {x0 : Nat} {x1 : Nat} {s : tM} {Kr : Int64 → tM → Prop} (h : v_X14_of N rc x0 x1 s Kr) : xC G l kX14_of (d + 1) 0 0 [rfv x0, rfv x1] (tH G g s) (tQ G g wl Kr tNo) := by
  refine t_start rfl (by decide +kernel) (by simp [xct_i, xct_l, rfv_c]) (lv := [some (rfv x0), some (rfv x1), none, none, none, none]) (by simp [lv_args, xLv, rfv_c, xct_i, xct_l]) ?_
  unfold v_X14_of at h
  refine t_aload_0 dX14_of_0 ?_
  obtain ⟨e101, h⟩ := h
  refine t_getR dX14_of_1 fa_X14_7_12 (by decide) e101 ?_
  refine t_aload_1 dX14_of_4 ?_
  refine t_cDl (As := [_]) rfl ((fun e => e.elim (fun e => ⟨_, 9, _, _, _, _, _, xcl_X11.1, cu_X14_20_9, e.1, e.2⟩) (fun e => e.elim (fun e => ⟨_, 10, _, _, _, _, _, xcl_X12.1, cu_X14_20_10, e.1, e.2⟩) (fun e => e.elim (fun e => ⟨_, 11, _, _, _, _, _, xcl_X13.1, cu_X14_20_11, e.1, e.2⟩) (fun e => ⟨_, 12, _, _, _, _, _, xcl_X14.1, cu_X14_20_12, e.1, e.2⟩)))) (ih0 _ _ _ _  h)) rfl rfl (xrm4 (Nat.le_of_ble_eq_true rfl)) dX14_of_5 ⟨Nat.zero_le _, Nat.zero_le _⟩ (fun _ _ _ h => h.elim) (fun x102 s103 h => ?_)
  refine x_lstore_2 dX14_of_8 (by decide) xN2_f ?_
  refine t_aload_1 dX14_of_9 ?_
  obtain ⟨e104, h⟩ := h
  refine t_getI dX14_of_10 fa_X14_24_4 (by decide) e104 ?_
  refine x_if_eq 20 dX14_of_13 (by decide) (fun c105 => ?_) (fun c105 => ?_)
  · have h := h.1 c105
    refine t_aload_0 dX14_of_20 ?_
    obtain ⟨e106, h⟩ := h
    refine t_getR dX14_of_21 fa_X14_17_12 (by decide) e106 ?_
    refine t_aload_1 dX14_of_24 ?_
    refine t_cDl (As := [_]) rfl ((fun e => e.elim (fun e => ⟨_, 9, _, _, _, _, _, xcl_X11.1, cu_X14_20_9, e.1, e.2⟩) (fun e => e.elim (fun e => ⟨_, 10, _, _, _, _, _, xcl_X12.1, cu_X14_20_10, e.1, e.2⟩) (fun e => e.elim (fun e => ⟨_, 11, _, _, _, _, _, xcl_X13.1, cu_X14_20_11, e.1, e.2⟩) (fun e => ⟨_, 12, _, _, _, _, _, xcl_X14.1, cu_X14_20_12, e.1, e.2⟩)))) (ih0 _ _ _ _  h)) rfl rfl (xrm4 (Nat.le_of_ble_eq_true rfl)) dX14_of_25 ⟨Nat.zero_le _, Nat.zero_le _⟩ (fun _ _ _ h => h.elim) (fun x107 s108 h => ?_)
    exact x_le (xLe_cons (xLe_cons (xLe_cons (xLe_cons (xLe_cons (xLe_cons (xLe_nil))))))) (e_X14_of_28 hN (by omega) ih0 ih1 _ _ _ _ _ _ h)
  · have h := h.2 c105
    refine x_lconst (v := 0) dX14_of_16 (by decide) ?_
    refine x_goto 28 dX14_of_17 (by decide) ?_
    exact x_le (xLe_cons (xLe_cons (xLe_cons (xLe_cons (xLe_cons (xLe_cons (xLe_nil))))))) (e_X14_of_28 hN (by omega) ih0 ih1 _ _ _ _ _ _ h)
def r_U_sum (N : tP) : Nat → Nat → Nat → Nat → tM → (Int64 → tM → Prop) → Prop
  | 0, _, _, _, _, _ => False
  | t + 1, 0, x0, x1, s, Kr => (tO s 9 x0 ∧ v_X11_of x0 x1 s Kr) ∨ (tO s 10 x0 ∧ v_X12_of x0 x1 s Kr) ∨ (tO s 11 x0 ∧ v_X13_of x0 x1 s Kr) ∨ (tO s 12 x0 ∧ r_U_sum N t 1 x0 x1 s Kr)
  | t + 1, 1, x0, x1, s, Kr => v_X14_of N (r_U_sum N t) x0 x1 s Kr
  | _ + 1, _ + 2, _, _, _, _ => False
theorem eg_U_sum {G : xG} {l : Launch} {g : xH} {N : tP} (hN : tNs G N) : ∀ (t d : Nat), t + (6) ≤ d → (∀ (x0 : Nat) (x1 : Nat) (s : tM) (Kr : Int64 → tM → Prop) , r_U_sum N t 0 x0 x1 s Kr → (tO s 9 x0 ∧ xC G l kX11_of d 0 0 [rfv x0, rfv x1] (tH G g s) (tQ G g wl Kr tNo)) ∨ (tO s 10 x0 ∧ xC G l kX12_of d 0 0 [rfv x0, rfv x1] (tH G g s) (tQ G g wl Kr tNo)) ∨ (tO s 11 x0 ∧ xC G l kX13_of d 0 0 [rfv x0, rfv x1] (tH G g s) (tQ G g wl Kr tNo)) ∨ (tO s 12 x0 ∧ xC G l kX14_of d 0 0 [rfv x0, rfv x1] (tH G g s) (tQ G g wl Kr tNo))) ∧ (∀ (x0 : Nat) (x1 : Nat) (s : tM) (Kr : Int64 → tM → Prop) , r_U_sum N t 1 x0 x1 s Kr → xC G l kX14_of d 0 0 [rfv x0, rfv x1] (tH G g s) (tQ G g wl Kr tNo)) := by
  intro t
  induction t with
  | zero =>
    intro d _
    exact ⟨fun x0 x1 s Kr h => absurd h (by simp [r_U_sum]), fun x0 x1 s Kr h => absurd h (by simp [r_U_sum])⟩
  | succ t ih =>
    intro d hd
    obtain ⟨d, rfl⟩ : ∃ z, d = z + 1 := ⟨d - 1, by omega⟩
    obtain ⟨ih0, ih1⟩ := ih d (by omega)
    obtain ⟨jh0, jh1⟩ := ih (d + 1) (by omega)
    exact ⟨fun x0 x1 s Kr h => (by unfold r_U_sum at h; exact h.elim (fun h => Or.inl ⟨h.1, e_X11_of (by omega) h.2⟩) (fun h => h.elim (fun h => Or.inr (Or.inl ⟨h.1, e_X12_of (by omega) h.2⟩)) (fun h => h.elim (fun h => Or.inr (Or.inr (Or.inl ⟨h.1, e_X13_of (by omega) h.2⟩))) (fun h => Or.inr (Or.inr (Or.inr (⟨h.1, jh1 _ _ _ _  h.2⟩))))))), fun x0 x1 s Kr h => eb_X14_of hN (by omega) ih0 ih1 (by unfold r_U_sum at h; exact h)⟩
theorem e_U_sum {G : xG} {l : Launch} {g : xH} {d : Nat} {N : tP} (hN : tNs G N) (hd : 1 * N.2.1 + 7 ≤ d) {x0 : Nat} {x1 : Nat} {s : tM} {Kr : Int64 → tM → Prop}  (h : r_U_sum N N.2.1 0 x0 x1 s Kr) : (tO s 9 x0 ∧ xC G l kX11_of d 0 0 [rfv x0, rfv x1] (tH G g s) (tQ G g wl Kr tNo)) ∨ (tO s 10 x0 ∧ xC G l kX12_of d 0 0 [rfv x0, rfv x1] (tH G g s) (tQ G g wl Kr tNo)) ∨ (tO s 11 x0 ∧ xC G l kX13_of d 0 0 [rfv x0, rfv x1] (tH G g s) (tQ G g wl Kr tNo)) ∨ (tO s 12 x0 ∧ xC G l kX14_of d 0 0 [rfv x0, rfv x1] (tH G g s) (tQ G g wl Kr tNo)) := (eg_U_sum hN N.2.1 d (by omega)).1 _ _ _ _  h
theorem e_X14_of {G : xG} {l : Launch} {g : xH} {d : Nat} {N : tP} (hN : tNs G N) (hd : 1 * N.2.1 + 7 ≤ d) {x0 : Nat} {x1 : Nat} {s : tM} {Kr : Int64 → tM → Prop}  (h : r_U_sum N N.2.1 1 x0 x1 s Kr) : xC G l kX14_of d 0 0 [rfv x0, rfv x1] (tH G g s) (tQ G g wl Kr tNo) := (eg_U_sum hN N.2.1 d (by omega)).2 _ _ _ _  h
def v_X17_of_28 (N : tP) (x0 : Nat) (x1 : Nat) (x2 : Int64) (y0 : Int64) (Kr : Int32 → tM → Prop) (s : tM) : Prop :=
  (tO s 4 x1 ∧ ((¬ (tI s x1 1) = 0 → (Kr 0 s)) ∧ ((tI s x1 1) = 0 → (tO s 14 x0 ∧ ((¬ (tI s x0 2) = 60 → ((¬ (tI s x0 2) = 62 → ((¬ (lg_cmp x2 y0) = 0 → (Kr 0 s)) ∧ ((lg_cmp x2 y0) = 0 → (Kr 1 s)))) ∧ ((tI s x0 2) = 62 → (((lg_cmp x2 y0) ≤ 0 → (Kr 0 s)) ∧ (¬ (lg_cmp x2 y0) ≤ 0 → (Kr 1 s)))))) ∧ ((tI s x0 2) = 60 → ((0 ≤ (lg_cmp x2 y0) → (Kr 0 s)) ∧ (¬ 0 ≤ (lg_cmp x2 y0) → (Kr 1 s)))))))))
theorem e_X17_of_28 {G : xG} {l : Launch} {g : xH} {d : Nat} {N : tP} (hN : tNs G N) (hd : 1 * N.2.1 + 8 ≤ d) (x0 : Nat) (x1 : Nat) (x2 : Int64) (y0 : Int64) (Kr : Int32 → tM → Prop) (s : tM) (h : v_X17_of_28 N x0 x1 x2 y0 Kr s) : xF G l kX17_of (d + 1) 0 0 (tQ G g wi Kr tNo) 28 [some (rfv x0), some (rfv x1), some (.long x2), none, none, none] [.long y0] (tH G g s) := by
  unfold v_X17_of_28 at h
  refine x_lstore_4 dX17_of_28 (by decide) xN2_none ?_
  refine t_aload_1 dX17_of_30 ?_
  obtain ⟨e101, h⟩ := h
  refine t_getI dX17_of_31 fa_X17_26_4 (by decide) e101 ?_
  refine x_if_ne 86 dX17_of_34 (by decide) (fun c102 => ?_) (fun c102 => ?_)
  · have h := h.1 c102
    refine x_iconst (v := 0) dX17_of_86 (by decide) ?_
    exact x_zret0 dX17_of_87 rfl (Or.inl ⟨_, _, h, rfl, rfl⟩)
  · have h := h.2 c102
    refine t_aload_0 dX17_of_37 ?_
    obtain ⟨e103, h⟩ := h
    refine t_getI dX17_of_38 fa_X17_13_14 (by decide) e103 ?_
    refine x_bipush (v := 60) dX17_of_41 (by decide) ?_
    refine x_icmp_ne 56 dX17_of_43 (by decide) (fun c104 => ?_) (fun c104 => ?_)
    · have h := h.1 c104
      refine t_aload_0 dX17_of_56 ?_
      refine t_getI dX17_of_57 fa_X17_13_14 (by decide) e103 ?_
      refine x_bipush (v := 62) dX17_of_60 (by decide) ?_
      refine x_icmp_ne 75 dX17_of_62 (by decide) (fun c105 => ?_) (fun c105 => ?_)
      · have h := h.1 c105
        refine x_lload_2 dX17_of_75 ?_
        refine x_lload_4 dX17_of_76 ?_
        refine x_lcmp dX17_of_78 ?_
        refine x_if_ne 86 dX17_of_79 (by decide) (fun c106 => ?_) (fun c106 => ?_)
        · have h := h.1 c106
          refine x_iconst (v := 0) dX17_of_86 (by decide) ?_
          exact x_zret0 dX17_of_87 rfl (Or.inl ⟨_, _, h, rfl, rfl⟩)
        · have h := h.2 c106
          refine x_iconst (v := 1) dX17_of_82 (by decide) ?_
          refine x_goto 87 dX17_of_83 (by decide) ?_
          exact x_zret1 dX17_of_87 rfl (Or.inl ⟨_, _, h, rfl, rfl⟩)
      · have h := h.2 c105
        refine x_lload_2 dX17_of_65 ?_
        refine x_lload_4 dX17_of_66 ?_
        refine x_lcmp dX17_of_68 ?_
        refine x_if_le 86 dX17_of_69 (by decide) (fun c107 => ?_) (fun c107 => ?_)
        · have h := h.1 c107
          refine x_iconst (v := 0) dX17_of_86 (by decide) ?_
          exact x_zret0 dX17_of_87 rfl (Or.inl ⟨_, _, h, rfl, rfl⟩)
        · have h := h.2 c107
          refine x_goto 82 dX17_of_72 (by decide) ?_
          refine x_iconst (v := 1) dX17_of_82 (by decide) ?_
          refine x_goto 87 dX17_of_83 (by decide) ?_
          exact x_zret1 dX17_of_87 rfl (Or.inl ⟨_, _, h, rfl, rfl⟩)
    · have h := h.2 c104
      refine x_lload_2 dX17_of_46 ?_
      refine x_lload_4 dX17_of_47 ?_
      refine x_lcmp dX17_of_49 ?_
      refine x_if_ge 86 dX17_of_50 (by decide) (fun c108 => ?_) (fun c108 => ?_)
      · have h := h.1 c108
        refine x_iconst (v := 0) dX17_of_86 (by decide) ?_
        exact x_zret0 dX17_of_87 rfl (Or.inl ⟨_, _, h, rfl, rfl⟩)
      · have h := h.2 c108
        refine x_goto 82 dX17_of_53 (by decide) ?_
        refine x_iconst (v := 1) dX17_of_82 (by decide) ?_
        refine x_goto 87 dX17_of_83 (by decide) ?_
        exact x_zret1 dX17_of_87 rfl (Or.inl ⟨_, _, h, rfl, rfl⟩)
def v_X17_of (N : tP) (x0 : Nat) (x1 : Nat) (s : tM) (Kr : Int32 → tM → Prop) : Prop :=
  (tO s 14 x0 ∧ (r_U_sum N N.2.1 0 (tR s x0 0) x1 s (fun x102 s103 => (tO s103 4 x1 ∧ (((tI s103 x1 1) = 0 → (tO s103 14 x0 ∧ (r_U_sum N N.2.1 0 (tR s103 x0 1) x1 s103 (fun x107 s108 => (v_X17_of_28 N x0 x1 x102 x107 Kr s108))))) ∧ (¬ (tI s103 x1 1) = 0 → (v_X17_of_28 N x0 x1 x102 0 Kr s103)))))))
theorem e_X17_of {G : xG} {l : Launch} {g : xH} {d : Nat} {N : tP} (hN : tNs G N) (hd : 1 * N.2.1 + 9 ≤ d) {x0 : Nat} {x1 : Nat} {s : tM} {Kr : Int32 → tM → Prop} (h : v_X17_of N x0 x1 s Kr) : xC G l kX17_of d 0 0 [rfv x0, rfv x1] (tH G g s) (tQ G g wi Kr tNo) := by
  obtain ⟨d, rfl⟩ : ∃ z, d = z + 1 := ⟨d - 1, by omega⟩
  refine t_start rfl (by decide +kernel) (by simp [xct_i, xct_l, rfv_c]) (lv := [some (rfv x0), some (rfv x1), none, none, none, none]) (by simp [lv_args, xLv, rfv_c, xct_i, xct_l]) ?_
  unfold v_X17_of at h
  refine t_aload_0 dX17_of_0 ?_
  obtain ⟨e101, h⟩ := h
  refine t_getR dX17_of_1 fa_X17_7_14 (by decide) e101 ?_
  refine t_aload_1 dX17_of_4 ?_
  refine t_cDl (As := [_]) rfl ((fun e => e.elim (fun e => ⟨_, 9, _, _, _, _, _, xcl_X11.1, cu_X17_20_9, e.1, e.2⟩) (fun e => e.elim (fun e => ⟨_, 10, _, _, _, _, _, xcl_X12.1, cu_X17_20_10, e.1, e.2⟩) (fun e => e.elim (fun e => ⟨_, 11, _, _, _, _, _, xcl_X13.1, cu_X17_20_11, e.1, e.2⟩) (fun e => ⟨_, 12, _, _, _, _, _, xcl_X14.1, cu_X17_20_12, e.1, e.2⟩)))) (e_U_sum hN (by omega) h)) rfl rfl (xrm4 (Nat.le_of_ble_eq_true rfl)) dX17_of_5 ⟨Nat.zero_le _, Nat.zero_le _⟩ (fun _ _ _ h => h.elim) (fun x102 s103 h => ?_)
  refine x_lstore_2 dX17_of_8 (by decide) xN2_f ?_
  refine t_aload_1 dX17_of_9 ?_
  obtain ⟨e104, h⟩ := h
  refine t_getI dX17_of_10 fa_X17_26_4 (by decide) e104 ?_
  refine x_if_eq 20 dX17_of_13 (by decide) (fun c105 => ?_) (fun c105 => ?_)
  · have h := h.1 c105
    refine t_aload_0 dX17_of_20 ?_
    obtain ⟨e106, h⟩ := h
    refine t_getR dX17_of_21 fa_X17_17_14 (by decide) e106 ?_
    refine t_aload_1 dX17_of_24 ?_
    refine t_cDl (As := [_]) rfl ((fun e => e.elim (fun e => ⟨_, 9, _, _, _, _, _, xcl_X11.1, cu_X17_20_9, e.1, e.2⟩) (fun e => e.elim (fun e => ⟨_, 10, _, _, _, _, _, xcl_X12.1, cu_X17_20_10, e.1, e.2⟩) (fun e => e.elim (fun e => ⟨_, 11, _, _, _, _, _, xcl_X13.1, cu_X17_20_11, e.1, e.2⟩) (fun e => ⟨_, 12, _, _, _, _, _, xcl_X14.1, cu_X17_20_12, e.1, e.2⟩)))) (e_U_sum hN (by omega) h)) rfl rfl (xrm4 (Nat.le_of_ble_eq_true rfl)) dX17_of_25 ⟨Nat.zero_le _, Nat.zero_le _⟩ (fun _ _ _ h => h.elim) (fun x107 s108 h => ?_)
    exact x_le (xLe_cons (xLe_cons (xLe_cons (xLe_cons (xLe_cons (xLe_cons (xLe_nil))))))) (e_X17_of_28 hN (by omega) _ _ _ _ _ _ h)
  · have h := h.2 c105
    refine x_lconst (v := 0) dX17_of_16 (by decide) ?_
    refine x_goto 28 dX17_of_17 (by decide) ?_
    exact x_le (xLe_cons (xLe_cons (xLe_cons (xLe_cons (xLe_cons (xLe_cons (xLe_nil))))))) (e_X17_of_28 hN (by omega) _ _ _ _ _ _ h)
def v_X18_of (N : tP) (rc : Nat → Nat → Nat → tM → (Int32 → tM → Prop) → Prop) (x0 : Nat) (x1 : Nat) (s : tM) (Kr : Int32 → tM → Prop) : Prop :=
  (tO s 15 x0 ∧ (rc 0 (tR s x0 0) x1 s (fun x102 s103 => ((¬ x102 = 0 → (Kr 0 s103)) ∧ (x102 = 0 → (tO s103 4 x1 ∧ ((¬ (tI s103 x1 1) = 0 → (Kr 0 s103)) ∧ ((tI s103 x1 1) = 0 → (Kr 1 s103)))))))))
theorem eb_X18_of {G : xG} {l : Launch} {g : xH} {d : Nat} {N : tP} (hN : tNs G N) (hd : 1 * N.2.1 + 9 ≤ d) {rc : Nat → Nat → Nat → tM → (Int32 → tM → Prop) → Prop} (ih0 : ∀ (x0 : Nat) (x1 : Nat) (s : tM) (Kr : Int32 → tM → Prop) , rc 0 x0 x1 s Kr → (tO s 14 x0 ∧ xC G l kX17_of d 0 0 [rfv x0, rfv x1] (tH G g s) (tQ G g wi Kr tNo)) ∨ (tO s 15 x0 ∧ xC G l kX18_of d 0 0 [rfv x0, rfv x1] (tH G g s) (tQ G g wi Kr tNo)) ∨ (tO s 16 x0 ∧ xC G l kX19_of d 0 0 [rfv x0, rfv x1] (tH G g s) (tQ G g wi Kr tNo))) (ih1 : ∀ (x0 : Nat) (x1 : Nat) (s : tM) (Kr : Int32 → tM → Prop) , rc 1 x0 x1 s Kr → xC G l kX18_of d 0 0 [rfv x0, rfv x1] (tH G g s) (tQ G g wi Kr tNo)) (ih2 : ∀ (x0 : Nat) (x1 : Nat) (s : tM) (Kr : Int32 → tM → Prop) , rc 2 x0 x1 s Kr → xC G l kX19_of d 0 0 [rfv x0, rfv x1] (tH G g s) (tQ G g wi Kr tNo)) {x0 : Nat} {x1 : Nat} {s : tM} {Kr : Int32 → tM → Prop} (h : v_X18_of N rc x0 x1 s Kr) : xC G l kX18_of (d + 1) 0 0 [rfv x0, rfv x1] (tH G g s) (tQ G g wi Kr tNo) := by
  refine t_start rfl (by decide +kernel) (by simp [xct_i, xct_l, rfv_c]) (lv := [some (rfv x0), some (rfv x1)]) (by simp [lv_args, xLv, rfv_c, xct_i, xct_l]) ?_
  unfold v_X18_of at h
  refine t_aload_0 dX18_of_0 ?_
  obtain ⟨e101, h⟩ := h
  refine t_getR dX18_of_1 fa_X18_7_15 (by decide) e101 ?_
  refine t_aload_1 dX18_of_4 ?_
  refine t_cDi (As := [_]) rfl ((fun e => e.elim (fun e => ⟨_, 14, _, _, _, _, _, xcl_X17.1, cu_X18_13_14, e.1, e.2⟩) (fun e => e.elim (fun e => ⟨_, 15, _, _, _, _, _, xcl_X18.1, cu_X18_13_15, e.1, e.2⟩) (fun e => ⟨_, 16, _, _, _, _, _, xcl_X19.1, cu_X18_13_16, e.1, e.2⟩))) (ih0 _ _ _ _  h)) rfl rfl (xrm4 (Nat.le_of_ble_eq_true rfl)) dX18_of_5 ⟨Nat.zero_le _, Nat.zero_le _⟩ (fun _ _ _ h => h.elim) (fun x102 s103 h => ?_)
  refine x_if_ne 22 dX18_of_8 (by decide) (fun c104 => ?_) (fun c104 => ?_)
  · have h := h.1 c104
    refine x_iconst (v := 0) dX18_of_22 (by decide) ?_
    exact x_zret0 dX18_of_23 rfl (Or.inl ⟨_, _, h, rfl, rfl⟩)
  · have h := h.2 c104
    refine t_aload_1 dX18_of_11 ?_
    obtain ⟨e105, h⟩ := h
    refine t_getI dX18_of_12 fa_X18_17_4 (by decide) e105 ?_
    refine x_if_ne 22 dX18_of_15 (by decide) (fun c106 => ?_) (fun c106 => ?_)
    · have h := h.1 c106
      refine x_iconst (v := 0) dX18_of_22 (by decide) ?_
      exact x_zret0 dX18_of_23 rfl (Or.inl ⟨_, _, h, rfl, rfl⟩)
    · have h := h.2 c106
      refine x_iconst (v := 1) dX18_of_18 (by decide) ?_
      refine x_goto 23 dX18_of_19 (by decide) ?_
      exact x_zret1 dX18_of_23 rfl (Or.inl ⟨_, _, h, rfl, rfl⟩)
def v_X19_of_11 (N : tP) (rc : Nat → Nat → Nat → tM → (Int32 → tM → Prop) → Prop) (x0 : Nat) (x1 : Nat) (x2 : Nat) (x3 : Int32) (Kr : Int32 → tM → Prop) (K : tM → Prop) : Nat → Int32 → tM → Prop
  | 0, _, _ => False
  | t + 1, x4, s => ((x3 ≤ x4 → (K s)) ∧ (¬ x3 ≤ x4 → (tX s 7 x2 x4 ∧ (∀ x103 : Nat, x103 = tR s x2 x4.toNatClampNeg → (rc 0 x103 x1 s (fun x104 s105 => (tO s105 4 x1 ∧ (((tI s105 x1 1) = 0 → (tO s105 16 x0 ∧ ((x104 = (tI s105 x0 0) → (∀ x110 : Int32, x110 = x4 + 1 → ((fun x4 s => v_X19_of_11 N rc x0 x1 x2 x3 Kr K t x4 s) x110 s105))) ∧ (¬ x104 = (tI s105 x0 0) → ((¬ (tI s105 x0 0) = 0 → (Kr 0 s105)) ∧ ((tI s105 x0 0) = 0 → (Kr 1 s105))))))) ∧ (¬ (tI s105 x1 1) = 0 → (Kr 0 s105))))))))))
theorem e_X19_of_11 {G : xG} {l : Launch} {g : xH} {d : Nat} {N : tP} (hN : tNs G N) (hd : 1 * N.2.1 + 9 ≤ d) {rc : Nat → Nat → Nat → tM → (Int32 → tM → Prop) → Prop} (ih0 : ∀ (x0 : Nat) (x1 : Nat) (s : tM) (Kr : Int32 → tM → Prop) , rc 0 x0 x1 s Kr → (tO s 14 x0 ∧ xC G l kX17_of d 0 0 [rfv x0, rfv x1] (tH G g s) (tQ G g wi Kr tNo)) ∨ (tO s 15 x0 ∧ xC G l kX18_of d 0 0 [rfv x0, rfv x1] (tH G g s) (tQ G g wi Kr tNo)) ∨ (tO s 16 x0 ∧ xC G l kX19_of d 0 0 [rfv x0, rfv x1] (tH G g s) (tQ G g wi Kr tNo))) (ih1 : ∀ (x0 : Nat) (x1 : Nat) (s : tM) (Kr : Int32 → tM → Prop) , rc 1 x0 x1 s Kr → xC G l kX18_of d 0 0 [rfv x0, rfv x1] (tH G g s) (tQ G g wi Kr tNo)) (ih2 : ∀ (x0 : Nat) (x1 : Nat) (s : tM) (Kr : Int32 → tM → Prop) , rc 2 x0 x1 s Kr → xC G l kX19_of d 0 0 [rfv x0, rfv x1] (tH G g s) (tQ G g wi Kr tNo)) (x0 : Nat) (x1 : Nat) (x2 : Nat) (x3 : Int32) (Kr : Int32 → tM → Prop) (K : tM → Prop) : ∀ (t : Nat) (x4 : Int32) (s : tM) , v_X19_of_11 N rc x0 x1 x2 x3 Kr K t x4 s → (∀ (s : tM), K s → xF G l kX19_of (d + 1) 0 0 (tQ G g wi Kr tNo) 68 [some (rfv x0), none, none, none, none, none, none] [] (tH G g s)) → xF G l kX19_of (d + 1) 0 0 (tQ G g wi Kr tNo) 11 [some (rfv x0), some (rfv x1), some (rfv x2), some (.int x3), some (.int x4), none, none] [] (tH G g s) := by
  intro t
  induction t with
  | zero =>
    intro _ _ h _
    exact absurd h (by simp [v_X19_of_11])
  | succ t ih =>
    intro x4 s h hK
    have hR := fun x4 s h => ih x4 s h hK
    unfold v_X19_of_11 at h
    refine x_iload_4 dX19_of_11 ?_
    refine x_iload_3 dX19_of_13 ?_
    refine x_icmp_ge 68 dX19_of_14 (by decide) (fun c101 => ?_) (fun c101 => ?_)
    · have h := h.1 c101
      exact x_le (xLe_cons (xLe_none (xLe_none (xLe_none (xLe_none (xLe_cons (xLe_cons (xLe_nil)))))))) (hK _ h)
    · have h := h.2 c101
      refine t_aload_2 dX19_of_17 ?_
      refine x_iload_4 dX19_of_18 ?_
      obtain ⟨e102, h⟩ := h
      refine t_aald (t := 7) dX19_of_20 ⟨rfl, by decide, by decide⟩ rfl e102 ?_
      refine t_astore_5 dX19_of_21 (by decide) xN2_i ?_
      have h := h _ rfl
      refine t_aload_5 dX19_of_23 ?_
      refine t_aload_1 dX19_of_25 ?_
      refine t_cDi (As := [_]) rfl ((fun e => e.elim (fun e => ⟨_, 14, _, _, _, _, _, xcl_X17.1, cu_X19_17_14, e.1, e.2⟩) (fun e => e.elim (fun e => ⟨_, 15, _, _, _, _, _, xcl_X18.1, cu_X19_17_15, e.1, e.2⟩) (fun e => ⟨_, 16, _, _, _, _, _, xcl_X19.1, cu_X19_17_16, e.1, e.2⟩))) (ih0 _ _ _ _  h)) rfl rfl (xrm4 (Nat.le_of_ble_eq_true rfl)) dX19_of_26 ⟨Nat.zero_le _, Nat.zero_le _⟩ (fun _ _ _ h => h.elim) (fun x104 s105 h => ?_)
      refine x_istore_6 dX19_of_29 (by decide) xN2_f ?_
      refine t_aload_1 dX19_of_31 ?_
      obtain ⟨e106, h⟩ := h
      refine t_getI dX19_of_32 fa_X19_21_4 (by decide) e106 ?_
      refine x_if_eq 40 dX19_of_35 (by decide) (fun c107 => ?_) (fun c107 => ?_)
      · have h := h.1 c107
        refine x_iload_6 dX19_of_40 ?_
        refine t_aload_0 dX19_of_42 ?_
        obtain ⟨e108, h⟩ := h
        refine t_getI dX19_of_43 fa_X19_7_16 (by decide) e108 ?_
        refine x_icmp_eq 62 dX19_of_46 (by decide) (fun c109 => ?_) (fun c109 => ?_)
        · have h := h.1 c109
          refine x_iinc_4 (v := 1) dX19_of_62 (by decide) (by decide) xN2_i ?_
          have h := h _ rfl
          refine x_goto 11 dX19_of_65 (by decide) ?_
          exact x_le (xLe_cons (xLe_cons (xLe_cons (xLe_cons (xLe_cons (xLe_none (xLe_none (xLe_nil)))))))) (hR _ _ h)
        · have h := h.2 c109
          refine t_aload_0 dX19_of_49 ?_
          refine t_getI dX19_of_50 fa_X19_7_16 (by decide) e108 ?_
          refine x_if_ne 60 dX19_of_53 (by decide) (fun c111 => ?_) (fun c111 => ?_)
          · have h := h.1 c111
            refine x_iconst (v := 0) dX19_of_60 (by decide) ?_
            exact x_zret0 dX19_of_61 rfl (Or.inl ⟨_, _, h, rfl, rfl⟩)
          · have h := h.2 c111
            refine x_iconst (v := 1) dX19_of_56 (by decide) ?_
            refine x_goto 61 dX19_of_57 (by decide) ?_
            exact x_zret1 dX19_of_61 rfl (Or.inl ⟨_, _, h, rfl, rfl⟩)
      · have h := h.2 c107
        refine x_iconst (v := 0) dX19_of_38 (by decide) ?_
        exact x_zret0 dX19_of_39 rfl (Or.inl ⟨_, _, h, rfl, rfl⟩)
def v_X19_of (N : tP) (rc : Nat → Nat → Nat → tM → (Int32 → tM → Prop) → Prop) (x0 : Nat) (x1 : Nat) (s : tM) (Kr : Int32 → tM → Prop) : Prop :=
  (tO s 16 x0 ∧ (∀ x102 : Nat, x102 = tR s x0 1 → ((∃ N, tA s 7 N x102) ∧ (∀ x104 : Int32, x104 = Int32.ofNat (tLen s x102) → (v_X19_of_11 N rc x0 x1 x102 x104 Kr (fun s105 => (tO s105 16 x0 ∧ (xB (tI s105 x0 0) ∧ (Kr (tI s105 x0 0) s105)))) N.1 0 s)))))
theorem eb_X19_of {G : xG} {l : Launch} {g : xH} {d : Nat} {N : tP} (hN : tNs G N) (hd : 1 * N.2.1 + 9 ≤ d) {rc : Nat → Nat → Nat → tM → (Int32 → tM → Prop) → Prop} (ih0 : ∀ (x0 : Nat) (x1 : Nat) (s : tM) (Kr : Int32 → tM → Prop) , rc 0 x0 x1 s Kr → (tO s 14 x0 ∧ xC G l kX17_of d 0 0 [rfv x0, rfv x1] (tH G g s) (tQ G g wi Kr tNo)) ∨ (tO s 15 x0 ∧ xC G l kX18_of d 0 0 [rfv x0, rfv x1] (tH G g s) (tQ G g wi Kr tNo)) ∨ (tO s 16 x0 ∧ xC G l kX19_of d 0 0 [rfv x0, rfv x1] (tH G g s) (tQ G g wi Kr tNo))) (ih1 : ∀ (x0 : Nat) (x1 : Nat) (s : tM) (Kr : Int32 → tM → Prop) , rc 1 x0 x1 s Kr → xC G l kX18_of d 0 0 [rfv x0, rfv x1] (tH G g s) (tQ G g wi Kr tNo)) (ih2 : ∀ (x0 : Nat) (x1 : Nat) (s : tM) (Kr : Int32 → tM → Prop) , rc 2 x0 x1 s Kr → xC G l kX19_of d 0 0 [rfv x0, rfv x1] (tH G g s) (tQ G g wi Kr tNo)) {x0 : Nat} {x1 : Nat} {s : tM} {Kr : Int32 → tM → Prop} (h : v_X19_of N rc x0 x1 s Kr) : xC G l kX19_of (d + 1) 0 0 [rfv x0, rfv x1] (tH G g s) (tQ G g wi Kr tNo) := by
  refine t_start rfl (by decide +kernel) (by simp [xct_i, xct_l, rfv_c]) (lv := [some (rfv x0), some (rfv x1), none, none, none, none, none]) (by simp [lv_args, xLv, rfv_c, xct_i, xct_l]) ?_
  unfold v_X19_of at h
  refine t_aload_0 dX19_of_0 ?_
  obtain ⟨e101, h⟩ := h
  refine t_getR dX19_of_1 fa_X19_13_16 (by decide) e101 ?_
  refine t_astore_2 dX19_of_4 (by decide) xN2_f ?_
  have h := h _ rfl
  refine t_aload_2 dX19_of_5 ?_
  obtain ⟨e103, h⟩ := h
  refine t_alen (t := 7) dX19_of_6 ⟨rfl, by decide⟩ e103 ?_
  refine x_istore_3 dX19_of_7 (by decide) xN2_f ?_
  have h := h _ rfl
  refine x_iconst (v := 0) dX19_of_8 (by decide) ?_
  refine x_istore_4 dX19_of_9 (by decide) xN2_i ?_
  refine x_le (xLe_cons (xLe_cons (xLe_cons (xLe_cons (xLe_cons (xLe_cons (xLe_cons (xLe_nil)))))))) (e_X19_of_11 hN (by omega) ih0 ih1 ih2 _ _ _ _ _ _  _ _ _ h (fun s105 h => ?_))
  refine t_aload_0 dX19_of_68 ?_
  obtain ⟨e106, h⟩ := h
  refine t_getI dX19_of_69 fa_X19_7_16 (by decide) e106 ?_
  obtain ⟨e107, h⟩ := h
  exact x_zret dX19_of_72 rfl (xB_n e107) (Or.inl ⟨_, _, h, rfl, rfl⟩)
def r_U_test (N : tP) : Nat → Nat → Nat → Nat → tM → (Int32 → tM → Prop) → Prop
  | 0, _, _, _, _, _ => False
  | t + 1, 0, x0, x1, s, Kr => (tO s 14 x0 ∧ v_X17_of N x0 x1 s Kr) ∨ (tO s 15 x0 ∧ r_U_test N t 1 x0 x1 s Kr) ∨ (tO s 16 x0 ∧ r_U_test N t 2 x0 x1 s Kr)
  | t + 1, 1, x0, x1, s, Kr => v_X18_of N (r_U_test N t) x0 x1 s Kr
  | t + 1, 2, x0, x1, s, Kr => v_X19_of N (r_U_test N t) x0 x1 s Kr
  | _ + 1, _ + 3, _, _, _, _ => False
theorem eg_U_test {G : xG} {l : Launch} {g : xH} {N : tP} (hN : tNs G N) : ∀ (t d : Nat), t + (1 * N.2.1 + 9) ≤ d → (∀ (x0 : Nat) (x1 : Nat) (s : tM) (Kr : Int32 → tM → Prop) , r_U_test N t 0 x0 x1 s Kr → (tO s 14 x0 ∧ xC G l kX17_of d 0 0 [rfv x0, rfv x1] (tH G g s) (tQ G g wi Kr tNo)) ∨ (tO s 15 x0 ∧ xC G l kX18_of d 0 0 [rfv x0, rfv x1] (tH G g s) (tQ G g wi Kr tNo)) ∨ (tO s 16 x0 ∧ xC G l kX19_of d 0 0 [rfv x0, rfv x1] (tH G g s) (tQ G g wi Kr tNo))) ∧ (∀ (x0 : Nat) (x1 : Nat) (s : tM) (Kr : Int32 → tM → Prop) , r_U_test N t 1 x0 x1 s Kr → xC G l kX18_of d 0 0 [rfv x0, rfv x1] (tH G g s) (tQ G g wi Kr tNo)) ∧ (∀ (x0 : Nat) (x1 : Nat) (s : tM) (Kr : Int32 → tM → Prop) , r_U_test N t 2 x0 x1 s Kr → xC G l kX19_of d 0 0 [rfv x0, rfv x1] (tH G g s) (tQ G g wi Kr tNo)) := by
  intro t
  induction t with
  | zero =>
    intro d _
    exact ⟨fun x0 x1 s Kr h => absurd h (by simp [r_U_test]), fun x0 x1 s Kr h => absurd h (by simp [r_U_test]), fun x0 x1 s Kr h => absurd h (by simp [r_U_test])⟩
  | succ t ih =>
    intro d hd
    obtain ⟨d, rfl⟩ : ∃ z, d = z + 1 := ⟨d - 1, by omega⟩
    obtain ⟨ih0, ih1, ih2⟩ := ih d (by omega)
    obtain ⟨jh0, jh1, jh2⟩ := ih (d + 1) (by omega)
    exact ⟨fun x0 x1 s Kr h => (by unfold r_U_test at h; exact h.elim (fun h => Or.inl ⟨h.1, e_X17_of hN (by omega) h.2⟩) (fun h => h.elim (fun h => Or.inr (Or.inl ⟨h.1, jh1 _ _ _ _  h.2⟩)) (fun h => Or.inr (Or.inr (⟨h.1, jh2 _ _ _ _  h.2⟩))))), fun x0 x1 s Kr h => eb_X18_of hN (by omega) ih0 ih1 ih2 (by unfold r_U_test at h; exact h), fun x0 x1 s Kr h => eb_X19_of hN (by omega) ih0 ih1 ih2 (by unfold r_U_test at h; exact h)⟩
theorem e_U_test {G : xG} {l : Launch} {g : xH} {d : Nat} {N : tP} (hN : tNs G N) (hd : 2 * N.2.1 + 10 ≤ d) {x0 : Nat} {x1 : Nat} {s : tM} {Kr : Int32 → tM → Prop}  (h : r_U_test N N.2.1 0 x0 x1 s Kr) : (tO s 14 x0 ∧ xC G l kX17_of d 0 0 [rfv x0, rfv x1] (tH G g s) (tQ G g wi Kr tNo)) ∨ (tO s 15 x0 ∧ xC G l kX18_of d 0 0 [rfv x0, rfv x1] (tH G g s) (tQ G g wi Kr tNo)) ∨ (tO s 16 x0 ∧ xC G l kX19_of d 0 0 [rfv x0, rfv x1] (tH G g s) (tQ G g wi Kr tNo)) := (eg_U_test hN N.2.1 d (by omega)).1 _ _ _ _  h
theorem e_X18_of {G : xG} {l : Launch} {g : xH} {d : Nat} {N : tP} (hN : tNs G N) (hd : 2 * N.2.1 + 10 ≤ d) {x0 : Nat} {x1 : Nat} {s : tM} {Kr : Int32 → tM → Prop}  (h : r_U_test N N.2.1 1 x0 x1 s Kr) : xC G l kX18_of d 0 0 [rfv x0, rfv x1] (tH G g s) (tQ G g wi Kr tNo) := (eg_U_test hN N.2.1 d (by omega)).2.1 _ _ _ _  h
theorem e_X19_of {G : xG} {l : Launch} {g : xH} {d : Nat} {N : tP} (hN : tNs G N) (hd : 2 * N.2.1 + 10 ≤ d) {x0 : Nat} {x1 : Nat} {s : tM} {Kr : Int32 → tM → Prop}  (h : r_U_test N N.2.1 2 x0 x1 s Kr) : xC G l kX19_of d 0 0 [rfv x0, rfv x1] (tH G g s) (tQ G g wi Kr tNo) := (eg_U_test hN N.2.1 d (by omega)).2.2 _ _ _ _  h
def v_X0_about_193 (x0 : Nat) (y0 : Nat) (y1 : Int32) (y2 : Int64) (Kr : tM → Prop) (s : tM) : Prop :=
  (tX s 1 y0 y1 ∧ (∀ s102 : tM, s102 = tsJ s y0 y1.toNatClampNeg y2 → (tO s102 0 x0 ∧ (tO s102 4 (tR s102 x0 6) ∧ (v_X0_books x0 s102 (fun x106 s107 => (tO s107 2 x106 ∧ (tX s107 1 (tR s102 (tR s102 x0 6) 0) 8 ∧ (∀ s110 : tM, s110 = tsJ s107 (tR s102 (tR s102 x0 6) 0) 8 ((tI s107 x106 2 : Int32).toInt64) → (tO s110 0 x0 ∧ (tO s110 4 (tR s110 x0 6) ∧ (tO s110 1 (tR s110 x0 0) ∧ (tX s110 0 (tR s110 (tR s110 x0 0) 1) 2 ∧ (tX s110 1 (tR s110 (tR s110 x0 6) 0) 9 ∧ (∀ s117 : tM, s117 = tsJ s110 (tR s110 (tR s110 x0 6) 0) 9 ((tI s110 (tR s110 (tR s110 x0 0) 1) 2 : Int32).toInt64) → (Kr s117))))))))))))))))
theorem e_X0_about_193 {G : xG} {l : Launch} {g : xH} {d : Nat} (hd : 3 ≤ d) (x0 : Nat) (y0 : Nat) (y1 : Int32) (y2 : Int64) (Kr : tM → Prop) (s : tM) (h : v_X0_about_193 x0 y0 y1 y2 Kr s) : xF G l kX0_about (d + 1) 0 0 (tQ G g wu (fun _ => Kr) tNo) 193 [some (rfv x0), none, none, none, none] [.long y2, .int y1, rfv y0] (tH G g s) := by
  unfold v_X0_about_193 at h
  obtain ⟨e101, h⟩ := h
  refine t_last dX0_about_193 e101 ?_
  refine t_gen h (fun s102 w103 h => ?_)
  refine t_aload_0 dX0_about_194 ?_
  obtain ⟨e104, h⟩ := h
  refine t_getR dX0_about_195 fa_X0_49_0 (by decide) e104 ?_
  obtain ⟨e105, h⟩ := h
  refine t_getR dX0_about_198 fa_X0_264_4 (by decide) e105 ?_
  refine x_bipush (v := 8) dX0_about_201 (by decide) ?_
  refine t_aload_0 dX0_about_203 ?_
  refine t_cVr (As := []) rfl cv_X0_157 rfl e104 rfl rfl (xrm4 (Nat.le_of_ble_eq_true rfl)) dX0_about_204 (e_X0_books (by omega) h) ⟨Nat.zero_le _, Nat.zero_le _⟩ (fun _ _ _ h => h.elim) (fun x106 s107 h => ?_)
  obtain ⟨e108, h⟩ := h
  refine t_getI dX0_about_207 fa_X0_196_2 (by decide) e108 ?_
  refine x_i2l dX0_about_210 ?_
  obtain ⟨e109, h⟩ := h
  refine t_last dX0_about_211 e109 ?_
  refine t_gen h (fun s110 w111 h => ?_)
  refine t_aload_0 dX0_about_212 ?_
  obtain ⟨e112, h⟩ := h
  refine t_getR dX0_about_213 fa_X0_49_0 (by decide) e112 ?_
  obtain ⟨e113, h⟩ := h
  refine t_getR dX0_about_216 fa_X0_264_4 (by decide) e113 ?_
  refine x_bipush (v := 9) dX0_about_219 (by decide) ?_
  refine t_aload_0 dX0_about_221 ?_
  refine t_getR dX0_about_222 fa_X0_18_0 (by decide) e112 ?_
  obtain ⟨e114, h⟩ := h
  refine t_getR dX0_about_225 fa_X0_199_1 (by decide) e114 ?_
  refine x_iconst (v := 2) dX0_about_228 (by decide) ?_
  obtain ⟨e115, h⟩ := h
  refine t_iald dX0_about_229 e115 ?_
  refine x_i2l dX0_about_230 ?_
  obtain ⟨e116, h⟩ := h
  refine t_last dX0_about_231 e116 ?_
  refine t_gen h (fun s117 w118 h => ?_)
  exact x_vret dX0_about_232 rfl (Or.inl ⟨(), _, h, rfl, rfl⟩)
def v_X0_about_168 (x0 : Nat) (x1 : Int32) (y0 : Nat) (y1 : Int32) (y2 : Int64) (Kr : tM → Prop) (s : tM) : Prop :=
  (tX s 1 y0 y1 ∧ (∀ s102 : tM, s102 = tsJ s y0 y1.toNatClampNeg y2 → (tO s102 0 x0 ∧ (tO s102 4 (tR s102 x0 6) ∧ (v_X0_nNotes x0 s102 (fun x106 s107 => ((¬ x1 = (x106 - 1) → (v_X0_about_193 x0 (tR s102 (tR s102 x0 6) 0) 7 0 Kr s107)) ∧ (x1 = (x106 - 1) → (v_X0_about_193 x0 (tR s102 (tR s102 x0 6) 0) 7 1 Kr s107)))))))))
theorem e_X0_about_168 {G : xG} {l : Launch} {g : xH} {d : Nat} (hd : 3 ≤ d) (x0 : Nat) (x1 : Int32) (y0 : Nat) (y1 : Int32) (y2 : Int64) (Kr : tM → Prop) (s : tM) (h : v_X0_about_168 x0 x1 y0 y1 y2 Kr s) : xF G l kX0_about (d + 1) 0 0 (tQ G g wu (fun _ => Kr) tNo) 168 [some (rfv x0), some (.int x1), none, none, none] [.long y2, .int y1, rfv y0] (tH G g s) := by
  unfold v_X0_about_168 at h
  obtain ⟨e101, h⟩ := h
  refine t_last dX0_about_168 e101 ?_
  refine t_gen h (fun s102 w103 h => ?_)
  refine t_aload_0 dX0_about_169 ?_
  obtain ⟨e104, h⟩ := h
  refine t_getR dX0_about_170 fa_X0_49_0 (by decide) e104 ?_
  obtain ⟨e105, h⟩ := h
  refine t_getR dX0_about_173 fa_X0_264_4 (by decide) e105 ?_
  refine x_bipush (v := 7) dX0_about_176 (by decide) ?_
  refine x_iload_1 dX0_about_178 ?_
  refine t_aload_0 dX0_about_179 ?_
  refine t_cVi (As := []) rfl cv_X0_142 rfl e104 rfl rfl (xrm4 (Nat.le_of_ble_eq_true rfl)) dX0_about_180 (e_X0_nNotes (by omega) h) ⟨Nat.zero_le _, Nat.zero_le _⟩ (fun _ _ _ h => h.elim) (fun x106 s107 h => ?_)
  refine x_iconst (v := 1) dX0_about_183 (by decide) ?_
  refine x_isub dX0_about_184 ?_
  refine x_icmp_ne 192 dX0_about_185 (by decide) (fun c108 => ?_) (fun c108 => ?_)
  · have h := h.1 c108
    refine x_lconst (v := 0) dX0_about_192 (by decide) ?_
    exact x_le (xLe_cons (xLe_none (xLe_cons (xLe_cons (xLe_cons (xLe_nil)))))) (e_X0_about_193 (by omega) _ _ _ _ _ _ h)
  · have h := h.2 c108
    refine x_lconst (v := 1) dX0_about_188 (by decide) ?_
    refine x_goto 193 dX0_about_189 (by decide) ?_
    exact x_le (xLe_cons (xLe_none (xLe_cons (xLe_cons (xLe_cons (xLe_nil)))))) (e_X0_about_193 (by omega) _ _ _ _ _ _ h)
def v_X0_about_127 (x0 : Nat) (x1 : Int32) (x4 : Int32) (y0 : Nat) (y1 : Int32) (y2 : Int64) (Kr : tM → Prop) (s : tM) : Prop :=
  (tX s 1 y0 y1 ∧ (∀ s102 : tM, s102 = tsJ s y0 y1.toNatClampNeg y2 → (tO s102 0 x0 ∧ (tO s102 4 (tR s102 x0 6) ∧ ((x4 = 0 → (v_X0_books x0 s102 (fun x107 s108 => (tO s108 2 x107 ∧ (tX s108 0 (tR s108 x107 0) x1 ∧ (tO s108 0 x0 ∧ (v_X0_books x0 s108 (fun x111 s112 => (tO s112 2 x111 ∧ (tX s112 0 (tR s112 x111 0) (x1 - 1) ∧ (v_X0_about_168 x0 x1 (tR s102 (tR s102 x0 6) 0) 6 (((tI s108 (tR s108 x107 0) x1.toNatClampNeg) - (tI s112 (tR s112 x111 0) (x1 - 1).toNatClampNeg) : Int32).toInt64) Kr s112))))))))))) ∧ (¬ x4 = 0 → (v_X0_about_168 x0 x1 (tR s102 (tR s102 x0 6) 0) 6 0 Kr s102)))))))
theorem e_X0_about_127 {G : xG} {l : Launch} {g : xH} {d : Nat} (hd : 3 ≤ d) (x0 : Nat) (x1 : Int32) (x4 : Int32) (y0 : Nat) (y1 : Int32) (y2 : Int64) (Kr : tM → Prop) (s : tM) (h : v_X0_about_127 x0 x1 x4 y0 y1 y2 Kr s) : xF G l kX0_about (d + 1) 0 0 (tQ G g wu (fun _ => Kr) tNo) 127 [some (rfv x0), some (.int x1), none, none, some (.int x4)] [.long y2, .int y1, rfv y0] (tH G g s) := by
  unfold v_X0_about_127 at h
  obtain ⟨e101, h⟩ := h
  refine t_last dX0_about_127 e101 ?_
  refine t_gen h (fun s102 w103 h => ?_)
  refine t_aload_0 dX0_about_128 ?_
  obtain ⟨e104, h⟩ := h
  refine t_getR dX0_about_129 fa_X0_49_0 (by decide) e104 ?_
  obtain ⟨e105, h⟩ := h
  refine t_getR dX0_about_132 fa_X0_264_4 (by decide) e105 ?_
  refine x_bipush (v := 6) dX0_about_135 (by decide) ?_
  refine x_iload_4 dX0_about_137 ?_
  refine x_if_eq 146 dX0_about_139 (by decide) (fun c106 => ?_) (fun c106 => ?_)
  · have h := h.1 c106
    refine t_aload_0 dX0_about_146 ?_
    refine t_cVr (As := []) rfl cv_X0_157 rfl e104 rfl rfl (xrm4 (Nat.le_of_ble_eq_true rfl)) dX0_about_147 (e_X0_books (by omega) h) ⟨Nat.zero_le _, Nat.zero_le _⟩ (fun _ _ _ h => h.elim) (fun x107 s108 h => ?_)
    obtain ⟨e109, h⟩ := h
    refine t_getR dX0_about_150 fa_X0_160_2 (by decide) e109 ?_
    refine x_iload_1 dX0_about_153 ?_
    obtain ⟨e110, h⟩ := h
    refine t_iald dX0_about_154 e110 ?_
    refine t_aload_0 dX0_about_155 ?_
    obtain ⟨e113, h⟩ := h
    refine t_cVr (As := []) rfl cv_X0_157 rfl e113 rfl rfl (xrm4 (Nat.le_of_ble_eq_true rfl)) dX0_about_156 (e_X0_books (by omega) h) ⟨Nat.zero_le _, Nat.zero_le _⟩ (fun _ _ _ h => h.elim) (fun x111 s112 h => ?_)
    obtain ⟨e114, h⟩ := h
    refine t_getR dX0_about_159 fa_X0_160_2 (by decide) e114 ?_
    refine x_iload_1 dX0_about_162 ?_
    refine x_iconst (v := 1) dX0_about_163 (by decide) ?_
    refine x_isub dX0_about_164 ?_
    obtain ⟨e115, h⟩ := h
    refine t_iald dX0_about_165 e115 ?_
    refine x_isub dX0_about_166 ?_
    refine x_i2l dX0_about_167 ?_
    exact x_le (xLe_cons (xLe_cons (xLe_cons (xLe_cons (xLe_none (xLe_nil)))))) (e_X0_about_168 (by omega) _ _ _ _ _ _ _ h)
  · have h := h.2 c106
    refine x_lconst (v := 0) dX0_about_142 (by decide) ?_
    refine x_goto 168 dX0_about_143 (by decide) ?_
    exact x_le (xLe_cons (xLe_cons (xLe_cons (xLe_cons (xLe_none (xLe_nil)))))) (e_X0_about_168 (by omega) _ _ _ _ _ _ _ h)
def v_X0_about_105 (x0 : Nat) (x1 : Int32) (x2 : Int32) (x3 : Int32) (x4 : Int32) (y0 : Nat) (y1 : Int32) (y2 : Int64) (Kr : tM → Prop) (s : tM) : Prop :=
  (tX s 1 y0 y1 ∧ (∀ s102 : tM, s102 = tsJ s y0 y1.toNatClampNeg y2 → (tO s102 0 x0 ∧ (tO s102 4 (tR s102 x0 6) ∧ ((x4 = 0 → (v_X0_about_127 x0 x1 x4 (tR s102 (tR s102 x0 6) 0) 5 ((x2 - x3 : Int32).toInt64) Kr s102)) ∧ (¬ x4 = 0 → (v_X0_about_127 x0 x1 x4 (tR s102 (tR s102 x0 6) 0) 5 0 Kr s102)))))))
theorem e_X0_about_105 {G : xG} {l : Launch} {g : xH} {d : Nat} (hd : 3 ≤ d) (x0 : Nat) (x1 : Int32) (x2 : Int32) (x3 : Int32) (x4 : Int32) (y0 : Nat) (y1 : Int32) (y2 : Int64) (Kr : tM → Prop) (s : tM) (h : v_X0_about_105 x0 x1 x2 x3 x4 y0 y1 y2 Kr s) : xF G l kX0_about (d + 1) 0 0 (tQ G g wu (fun _ => Kr) tNo) 105 [some (rfv x0), some (.int x1), some (.int x2), some (.int x3), some (.int x4)] [.long y2, .int y1, rfv y0] (tH G g s) := by
  unfold v_X0_about_105 at h
  obtain ⟨e101, h⟩ := h
  refine t_last dX0_about_105 e101 ?_
  refine t_gen h (fun s102 w103 h => ?_)
  refine t_aload_0 dX0_about_106 ?_
  obtain ⟨e104, h⟩ := h
  refine t_getR dX0_about_107 fa_X0_49_0 (by decide) e104 ?_
  obtain ⟨e105, h⟩ := h
  refine t_getR dX0_about_110 fa_X0_264_4 (by decide) e105 ?_
  refine x_iconst (v := 5) dX0_about_113 (by decide) ?_
  refine x_iload_4 dX0_about_114 ?_
  refine x_if_eq 123 dX0_about_116 (by decide) (fun c106 => ?_) (fun c106 => ?_)
  · have h := h.1 c106
    refine x_iload_2 dX0_about_123 ?_
    refine x_iload_3 dX0_about_124 ?_
    refine x_isub dX0_about_125 ?_
    refine x_i2l dX0_about_126 ?_
    exact x_le (xLe_cons (xLe_cons (xLe_none (xLe_none (xLe_cons (xLe_nil)))))) (e_X0_about_127 (by omega) _ _ _ _ _ _ _ _ h)
  · have h := h.2 c106
    refine x_lconst (v := 0) dX0_about_119 (by decide) ?_
    refine x_goto 127 dX0_about_120 (by decide) ?_
    exact x_le (xLe_cons (xLe_cons (xLe_none (xLe_none (xLe_cons (xLe_nil)))))) (e_X0_about_127 (by omega) _ _ _ _ _ _ _ _ h)
def v_X0_about_10 (x0 : Nat) (x1 : Int32) (x2 : Int32) (x3 : Int32) (y0 : Int32) (Kr : tM → Prop) (s : tM) : Prop :=
  (tO s 0 x0 ∧ (tO s 4 (tR s x0 6) ∧ (tX s 1 (tR s (tR s x0 6) 0) 0 ∧ (∀ s104 : tM, s104 = tsJ s (tR s (tR s x0 6) 0) 0 ((x1 : Int32).toInt64) → (tO s104 4 (tR s104 x0 6) ∧ (tX s104 1 (tR s104 (tR s104 x0 6) 0) 1 ∧ (∀ s108 : tM, s108 = tsJ s104 (tR s104 (tR s104 x0 6) 0) 1 ((x2 : Int32).toInt64) → (tO s108 4 (tR s108 x0 6) ∧ (v_X0_books x0 s108 (fun x111 s112 => (tO s112 2 x111 ∧ (tX s112 0 (tR s112 x111 0) x1 ∧ (tX s112 1 (tR s108 (tR s108 x0 6) 0) 2 ∧ (∀ s116 : tM, s116 = tsJ s112 (tR s108 (tR s108 x0 6) 0) 2 ((tI s112 (tR s112 x111 0) x1.toNatClampNeg : Int32).toInt64) → (tO s116 0 x0 ∧ (tO s116 4 (tR s116 x0 6) ∧ (v_X0_books x0 s116 (fun x120 s121 => (tO s121 2 x120 ∧ (tX s121 0 (tR s121 x120 0) x1 ∧ (tX s121 1 (tR s116 (tR s116 x0 6) 0) 3 ∧ (∀ s125 : tM, s125 = tsJ s121 (tR s116 (tR s116 x0 6) 0) 3 ((x2 - (tI s121 (tR s121 x120 0) x1.toNatClampNeg) : Int32).toInt64) → (tO s125 0 x0 ∧ (tO s125 4 (tR s125 x0 6) ∧ ((y0 = 0 → (v_X0_books x0 s125 (fun x130 s131 => (tO s131 2 x130 ∧ (tX s131 0 (tR s131 x130 0) (x1 - 1) ∧ (v_X0_about_105 x0 x1 x2 x3 y0 (tR s125 (tR s125 x0 6) 0) 4 ((x3 - (tI s131 (tR s131 x130 0) (x1 - 1).toNatClampNeg) : Int32).toInt64) Kr s131)))))) ∧ (¬ y0 = 0 → (v_X0_about_105 x0 x1 x2 x3 y0 (tR s125 (tR s125 x0 6) 0) 4 0 Kr s125)))))))))))))))))))))))))))
theorem e_X0_about_10 {G : xG} {l : Launch} {g : xH} {d : Nat} (hd : 3 ≤ d) (x0 : Nat) (x1 : Int32) (x2 : Int32) (x3 : Int32) (y0 : Int32) (Kr : tM → Prop) (s : tM) (h : v_X0_about_10 x0 x1 x2 x3 y0 Kr s) : xF G l kX0_about (d + 1) 0 0 (tQ G g wu (fun _ => Kr) tNo) 10 [some (rfv x0), some (.int x1), some (.int x2), some (.int x3), none] [.int y0] (tH G g s) := by
  unfold v_X0_about_10 at h
  refine x_istore_4 dX0_about_10 (by decide) xN2_i ?_
  refine t_aload_0 dX0_about_12 ?_
  obtain ⟨e101, h⟩ := h
  refine t_getR dX0_about_13 fa_X0_49_0 (by decide) e101 ?_
  obtain ⟨e102, h⟩ := h
  refine t_getR dX0_about_16 fa_X0_264_4 (by decide) e102 ?_
  refine x_iconst (v := 0) dX0_about_19 (by decide) ?_
  refine x_iload_1 dX0_about_20 ?_
  refine x_i2l dX0_about_21 ?_
  obtain ⟨e103, h⟩ := h
  refine t_last dX0_about_22 e103 ?_
  refine t_gen h (fun s104 w105 h => ?_)
  refine t_aload_0 dX0_about_23 ?_
  refine t_getR dX0_about_24 fa_X0_49_0 (by decide) (tO_w w105 e101) ?_
  obtain ⟨e106, h⟩ := h
  refine t_getR dX0_about_27 fa_X0_264_4 (by decide) e106 ?_
  refine x_iconst (v := 1) dX0_about_30 (by decide) ?_
  refine x_iload_2 dX0_about_31 ?_
  refine x_i2l dX0_about_32 ?_
  obtain ⟨e107, h⟩ := h
  refine t_last dX0_about_33 e107 ?_
  refine t_gen h (fun s108 w109 h => ?_)
  refine t_aload_0 dX0_about_34 ?_
  refine t_getR dX0_about_35 fa_X0_49_0 (by decide) (tO_w w109 (tO_w w105 e101)) ?_
  obtain ⟨e110, h⟩ := h
  refine t_getR dX0_about_38 fa_X0_264_4 (by decide) e110 ?_
  refine x_iconst (v := 2) dX0_about_41 (by decide) ?_
  refine t_aload_0 dX0_about_42 ?_
  refine t_cVr (As := []) rfl cv_X0_157 rfl (tO_w w109 (tO_w w105 e101)) rfl rfl (xrm4 (Nat.le_of_ble_eq_true rfl)) dX0_about_43 (e_X0_books (by omega) h) ⟨Nat.zero_le _, Nat.zero_le _⟩ (fun _ _ _ h => h.elim) (fun x111 s112 h => ?_)
  obtain ⟨e113, h⟩ := h
  refine t_getR dX0_about_46 fa_X0_160_2 (by decide) e113 ?_
  refine x_iload_1 dX0_about_49 ?_
  obtain ⟨e114, h⟩ := h
  refine t_iald dX0_about_50 e114 ?_
  refine x_i2l dX0_about_51 ?_
  obtain ⟨e115, h⟩ := h
  refine t_last dX0_about_52 e115 ?_
  refine t_gen h (fun s116 w117 h => ?_)
  refine t_aload_0 dX0_about_53 ?_
  obtain ⟨e118, h⟩ := h
  refine t_getR dX0_about_54 fa_X0_49_0 (by decide) e118 ?_
  obtain ⟨e119, h⟩ := h
  refine t_getR dX0_about_57 fa_X0_264_4 (by decide) e119 ?_
  refine x_iconst (v := 3) dX0_about_60 (by decide) ?_
  refine x_iload_2 dX0_about_61 ?_
  refine t_aload_0 dX0_about_62 ?_
  refine t_cVr (As := []) rfl cv_X0_157 rfl e118 rfl rfl (xrm4 (Nat.le_of_ble_eq_true rfl)) dX0_about_63 (e_X0_books (by omega) h) ⟨Nat.zero_le _, Nat.zero_le _⟩ (fun _ _ _ h => h.elim) (fun x120 s121 h => ?_)
  obtain ⟨e122, h⟩ := h
  refine t_getR dX0_about_66 fa_X0_160_2 (by decide) e122 ?_
  refine x_iload_1 dX0_about_69 ?_
  obtain ⟨e123, h⟩ := h
  refine t_iald dX0_about_70 e123 ?_
  refine x_isub dX0_about_71 ?_
  refine x_i2l dX0_about_72 ?_
  obtain ⟨e124, h⟩ := h
  refine t_last dX0_about_73 e124 ?_
  refine t_gen h (fun s125 w126 h => ?_)
  refine t_aload_0 dX0_about_74 ?_
  obtain ⟨e127, h⟩ := h
  refine t_getR dX0_about_75 fa_X0_49_0 (by decide) e127 ?_
  obtain ⟨e128, h⟩ := h
  refine t_getR dX0_about_78 fa_X0_264_4 (by decide) e128 ?_
  refine x_iconst (v := 4) dX0_about_81 (by decide) ?_
  refine x_iload_4 dX0_about_82 ?_
  refine x_if_eq 91 dX0_about_84 (by decide) (fun c129 => ?_) (fun c129 => ?_)
  · have h := h.1 c129
    refine x_iload_3 dX0_about_91 ?_
    refine t_aload_0 dX0_about_92 ?_
    refine t_cVr (As := []) rfl cv_X0_157 rfl e127 rfl rfl (xrm4 (Nat.le_of_ble_eq_true rfl)) dX0_about_93 (e_X0_books (by omega) h) ⟨Nat.zero_le _, Nat.zero_le _⟩ (fun _ _ _ h => h.elim) (fun x130 s131 h => ?_)
    obtain ⟨e132, h⟩ := h
    refine t_getR dX0_about_96 fa_X0_160_2 (by decide) e132 ?_
    refine x_iload_1 dX0_about_99 ?_
    refine x_iconst (v := 1) dX0_about_100 (by decide) ?_
    refine x_isub dX0_about_101 ?_
    obtain ⟨e133, h⟩ := h
    refine t_iald dX0_about_102 e133 ?_
    refine x_isub dX0_about_103 ?_
    refine x_i2l dX0_about_104 ?_
    exact x_le (xLe_cons (xLe_cons (xLe_cons (xLe_cons (xLe_cons (xLe_nil)))))) (e_X0_about_105 (by omega) _ _ _ _ _ _ _ _ _ _ h)
  · have h := h.2 c129
    refine x_lconst (v := 0) dX0_about_87 (by decide) ?_
    refine x_goto 105 dX0_about_88 (by decide) ?_
    exact x_le (xLe_cons (xLe_cons (xLe_cons (xLe_cons (xLe_cons (xLe_nil)))))) (e_X0_about_105 (by omega) _ _ _ _ _ _ _ _ _ _ h)
def v_X0_about (x0 : Nat) (x1 : Int32) (x2 : Int32) (x3 : Int32) (s : tM) (Kr : tM → Prop) : Prop :=
  ((¬ x3 = (-1) → (v_X0_about_10 x0 x1 x2 x3 0 Kr s)) ∧ (x3 = (-1) → (v_X0_about_10 x0 x1 x2 x3 1 Kr s)))
theorem e_X0_about {G : xG} {l : Launch} {g : xH} {d : Nat} (hd : 4 ≤ d) {x0 : Nat} {x1 : Int32} {x2 : Int32} {x3 : Int32} {s : tM} {Kr : tM → Prop} (h : v_X0_about x0 x1 x2 x3 s Kr) : xC G l kX0_about d 0 0 [rfv x0, .int x1, .int x2, .int x3] (tH G g s) (tQ G g wu (fun _ => Kr) tNo) := by
  obtain ⟨d, rfl⟩ : ∃ z, d = z + 1 := ⟨d - 1, by omega⟩
  refine t_start rfl (by decide +kernel) (by simp [xct_i, xct_l, rfv_c]) (lv := [some (rfv x0), some (.int x1), some (.int x2), some (.int x3), none]) (by simp [lv_args, xLv, rfv_c, xct_i, xct_l]) ?_
  unfold v_X0_about at h
  refine x_iload_3 dX0_about_0 ?_
  refine x_iconst (v := (-1)) dX0_about_1 (by decide) ?_
  refine x_icmp_ne 9 dX0_about_2 (by decide) (fun c101 => ?_) (fun c101 => ?_)
  · have h := h.1 c101
    refine x_iconst (v := 0) dX0_about_9 (by decide) ?_
    exact x_le (xLe_cons (xLe_cons (xLe_cons (xLe_cons (xLe_cons (xLe_nil)))))) (e_X0_about_10 (by omega) _ _ _ _ _ _ _ h)
  · have h := h.2 c101
    refine x_iconst (v := 1) dX0_about_5 (by decide) ?_
    refine x_goto 10 dX0_about_6 (by decide) ?_
    exact x_le (xLe_cons (xLe_cons (xLe_cons (xLe_cons (xLe_cons (xLe_nil)))))) (e_X0_about_10 (by omega) _ _ _ _ _ _ _ h)
def v_X0_beforeOf (x0 : Nat) (x1 : Int32) (s : tM) (Kr : Int32 → tM → Prop) : Prop :=
  ((¬ x1 = 0 → (tO s 0 x0 ∧ (v_X0_books x0 s (fun x102 s103 => (tO s103 2 x102 ∧ (tX s103 0 (tR s103 x102 1) (x1 - 1) ∧ (Kr (tI s103 (tR s103 x102 1) (x1 - 1).toNatClampNeg) s103))))))) ∧ (x1 = 0 → (Kr (-1) s)))
theorem e_X0_beforeOf {G : xG} {l : Launch} {g : xH} {d : Nat} (hd : 4 ≤ d) {x0 : Nat} {x1 : Int32} {s : tM} {Kr : Int32 → tM → Prop} (h : v_X0_beforeOf x0 x1 s Kr) : xC G l kX0_beforeOf d 0 0 [rfv x0, .int x1] (tH G g s) (tQ G g wi Kr tNo) := by
  obtain ⟨d, rfl⟩ : ∃ z, d = z + 1 := ⟨d - 1, by omega⟩
  refine t_start rfl (by decide +kernel) (by simp [xct_i, xct_l, rfv_c]) (lv := [some (rfv x0), some (.int x1)]) (by simp [lv_args, xLv, rfv_c, xct_i, xct_l]) ?_
  unfold v_X0_beforeOf at h
  refine x_iload_1 dX0_beforeOf_0 ?_
  refine x_if_ne 8 dX0_beforeOf_1 (by decide) (fun c101 => ?_) (fun c101 => ?_)
  · have h := h.1 c101
    refine t_aload_0 dX0_beforeOf_8 ?_
    obtain ⟨e104, h⟩ := h
    refine t_cVr (As := []) rfl cv_X0_157 rfl e104 rfl rfl (xrm4 (Nat.le_of_ble_eq_true rfl)) dX0_beforeOf_9 (e_X0_books (by omega) h) ⟨Nat.zero_le _, Nat.zero_le _⟩ (fun _ _ _ h => h.elim) (fun x102 s103 h => ?_)
    obtain ⟨e105, h⟩ := h
    refine t_getR dX0_beforeOf_12 fa_X0_163_2 (by decide) e105 ?_
    refine x_iload_1 dX0_beforeOf_15 ?_
    refine x_iconst (v := 1) dX0_beforeOf_16 (by decide) ?_
    refine x_isub dX0_beforeOf_17 ?_
    obtain ⟨e106, h⟩ := h
    refine t_iald dX0_beforeOf_18 e106 ?_
    exact x_iret dX0_beforeOf_19 rfl (Or.inl ⟨_, _, h, rfl, rfl⟩)
  · have h := h.2 c101
    refine x_iconst (v := (-1)) dX0_beforeOf_4 (by decide) ?_
    refine x_goto 19 dX0_beforeOf_5 (by decide) ?_
    exact x_iret dX0_beforeOf_19 rfl (Or.inl ⟨_, _, h, rfl, rfl⟩)
def v_X0_law1 (x0 : Nat) (s : tM) (Kr : Nat → tM → Prop) : Prop :=
  (tO s 0 x0 ∧ (tO s 1 (tR s x0 0) ∧ ((¬ (tI s (tR s x0 0) 6) = (-1) → (tO s 20 (tR s (tR s x0 0) 0) ∧ (v_J2_get (tR s (tR s x0 0) 0) (tI s (tR s x0 0) 6) s (fun x104 s105 => (tO s105 5 x104 ∧ (Kr x104 s105)))))) ∧ ((tI s (tR s x0 0) 6) = (-1) → (Kr (tR s x0 8) s)))))
theorem e_X0_law1 {G : xG} {l : Launch} {g : xH} {d : Nat} (hd : 8 ≤ d) {x0 : Nat} {s : tM} {Kr : Nat → tM → Prop} (h : v_X0_law1 x0 s Kr) : xC G l kX0_law1 d 0 0 [rfv x0] (tH G g s) (tQ G g wr Kr tNo) := by
  obtain ⟨d, rfl⟩ : ∃ z, d = z + 1 := ⟨d - 1, by omega⟩
  refine t_start rfl (by decide +kernel) (by simp [xct_i, xct_l, rfv_c]) (lv := [some (rfv x0)]) (by simp [lv_args, xLv, rfv_c, xct_i, xct_l]) ?_
  unfold v_X0_law1 at h
  refine t_aload_0 dX0_law1_0 ?_
  obtain ⟨e101, h⟩ := h
  refine t_getR dX0_law1_1 fa_X0_18_0 (by decide) e101 ?_
  obtain ⟨e102, h⟩ := h
  refine t_getI dX0_law1_4 fa_X0_257_1 (by decide) e102 ?_
  refine x_iconst (v := (-1)) dX0_law1_7 (by decide) ?_
  refine x_icmp_ne 18 dX0_law1_8 (by decide) (fun c103 => ?_) (fun c103 => ?_)
  · have h := h.1 c103
    refine t_aload_0 dX0_law1_18 ?_
    refine t_getR dX0_law1_19 fa_X0_18_0 (by decide) e101 ?_
    refine t_getR dX0_law1_22 fa_X0_227_1 (by decide) e102 ?_
    refine t_aload_0 dX0_law1_25 ?_
    refine t_getR dX0_law1_26 fa_X0_18_0 (by decide) e101 ?_
    refine t_getI dX0_law1_29 fa_X0_257_1 (by decide) e102 ?_
    obtain ⟨e106, h⟩ := h
    refine t_cVr (As := [_]) rfl cv_X0_260 rfl e106 rfl rfl (xrm4 (Nat.le_of_ble_eq_true rfl)) dX0_law1_32 (e_J2_get (by omega) h) ⟨Nat.zero_le _, Nat.zero_le _⟩ (fun _ _ _ h => h.elim) (fun x104 s105 h => ?_)
    obtain ⟨e107, h⟩ := h
    refine t_cast dX0_law1_35 q313 xcl_X5.1 e107 ?_
    exact t_aret dX0_law1_38 rfl (by first | exact Or.inl ⟨_, rfl⟩ | exact Or.inr ⟨_, rfl⟩) (Or.inl ⟨_, _, h, rfl, rfl⟩)
  · have h := h.2 c103
    refine t_aload_0 dX0_law1_11 ?_
    refine t_getR dX0_law1_12 fa_X0_63_0 (by decide) e101 ?_
    refine x_goto 38 dX0_law1_15 (by decide) ?_
    exact t_aret dX0_law1_38 rfl (by first | exact Or.inl ⟨_, rfl⟩ | exact Or.inr ⟨_, rfl⟩) (Or.inl ⟨_, _, h, rfl, rfl⟩)
def v_X15_holds_52 (N : tP) (x1 : Nat) (y0 : Nat) (y1 : Int64) (Kr : Int32 → tM → Prop) (s : tM) : Prop :=
  (tO s 13 y0 ∧ (∀ s102 : tM, s102 = tsJ s y0 3 y1 → (tO s102 4 x1 ∧ ((¬ (tI s102 x1 1) = 0 → (Kr 0 s102)) ∧ ((tI s102 x1 1) = 0 → (Kr 1 s102))))))
theorem e_X15_holds_52 {G : xG} {l : Launch} {g : xH} {d : Nat} {N : tP} (hN : tNs G N) (hd : 2 * N.2.1 + 11 ≤ d) (x1 : Nat) (y0 : Nat) (y1 : Int64) (Kr : Int32 → tM → Prop) (s : tM) (h : v_X15_holds_52 N x1 y0 y1 Kr s) : xF G l kX15_holds (d + 1) 0 0 (tQ G g wi Kr tNo) 52 [none, some (rfv x1)] [.long y1, rfv y0] (tH G g s) := by
  unfold v_X15_holds_52 at h
  obtain ⟨e101, h⟩ := h
  refine t_putJ (j := 3) dX15_holds_52 fp_X15_38_13 (by decide) e101  ?_
  refine t_gen h (fun s102 w103 h => ?_)
  refine t_aload_1 dX15_holds_55 ?_
  obtain ⟨e104, h⟩ := h
  refine t_getI dX15_holds_56 fa_X15_21_4 (by decide) e104 ?_
  refine x_if_ne 66 dX15_holds_59 (by decide) (fun c105 => ?_) (fun c105 => ?_)
  · have h := h.1 c105
    refine x_iconst (v := 0) dX15_holds_66 (by decide) ?_
    exact x_zret0 dX15_holds_67 rfl (Or.inl ⟨_, _, h, rfl, rfl⟩)
  · have h := h.2 c105
    refine x_iconst (v := 1) dX15_holds_62 (by decide) ?_
    refine x_goto 67 dX15_holds_63 (by decide) ?_
    exact x_zret1 dX15_holds_67 rfl (Or.inl ⟨_, _, h, rfl, rfl⟩)
def v_X15_holds_23 (N : tP) (x0 : Nat) (x1 : Nat) (Kr : Int32 → tM → Prop) (s : tM) : Prop :=
  (tO s 4 x1 ∧ (((tI s x1 1) = 0 → (tO s 13 x0 ∧ ((¬ (tR s x0 1) = 0 → (r_U_sum N N.2.1 0 (tR s x0 1) x1 s (fun x105 s106 => (v_X15_holds_52 N x1 x0 x105 Kr s106)))) ∧ ((tR s x0 1) = 0 → (v_X15_holds_52 N x1 x0 0 Kr s))))) ∧ (¬ (tI s x1 1) = 0 → (Kr 0 s))))
theorem e_X15_holds_23 {G : xG} {l : Launch} {g : xH} {d : Nat} {N : tP} (hN : tNs G N) (hd : 2 * N.2.1 + 11 ≤ d) (x0 : Nat) (x1 : Nat) (Kr : Int32 → tM → Prop) (s : tM) (h : v_X15_holds_23 N x0 x1 Kr s) : xF G l kX15_holds (d + 1) 0 0 (tQ G g wi Kr tNo) 23 [some (rfv x0), some (rfv x1)] [] (tH G g s) := by
  unfold v_X15_holds_23 at h
  refine t_aload_1 dX15_holds_23 ?_
  obtain ⟨e101, h⟩ := h
  refine t_getI dX15_holds_24 fa_X15_21_4 (by decide) e101 ?_
  refine x_if_eq 32 dX15_holds_27 (by decide) (fun c102 => ?_) (fun c102 => ?_)
  · have h := h.1 c102
    refine t_aload_0 dX15_holds_32 ?_
    refine t_aload_0 dX15_holds_33 ?_
    obtain ⟨e103, h⟩ := h
    refine t_getR dX15_holds_34 fa_X15_13_13 (by decide) e103 ?_
    refine t_ifnonnull 44 dX15_holds_37 (by decide) (fun c104 => ?_) (fun c104 => ?_)
    · have h := h.1 c104
      refine t_aload_0 dX15_holds_44 ?_
      refine t_getR dX15_holds_45 fa_X15_13_13 (by decide) e103 ?_
      refine t_aload_1 dX15_holds_48 ?_
      refine t_cDl (As := [_]) rfl ((fun e => e.elim (fun e => ⟨_, 9, _, _, _, _, _, xcl_X11.1, cu_X15_33_9, e.1, e.2⟩) (fun e => e.elim (fun e => ⟨_, 10, _, _, _, _, _, xcl_X12.1, cu_X15_33_10, e.1, e.2⟩) (fun e => e.elim (fun e => ⟨_, 11, _, _, _, _, _, xcl_X13.1, cu_X15_33_11, e.1, e.2⟩) (fun e => ⟨_, 12, _, _, _, _, _, xcl_X14.1, cu_X15_33_12, e.1, e.2⟩)))) (e_U_sum hN (by omega) h)) rfl rfl (xrm4 (Nat.le_of_ble_eq_true rfl)) dX15_holds_49 ⟨Nat.zero_le _, Nat.zero_le _⟩ (fun _ _ _ h => h.elim) (fun x105 s106 h => ?_)
      exact x_le (xLe_none (xLe_cons (xLe_nil))) (e_X15_holds_52 hN (by omega) _ _ _ _ _ h)
    · have h := h.2 c104
      refine x_lconst (v := 0) dX15_holds_40 (by decide) ?_
      refine x_goto 52 dX15_holds_41 (by decide) ?_
      exact x_le (xLe_none (xLe_cons (xLe_nil))) (e_X15_holds_52 hN (by omega) _ _ _ _ _ h)
  · have h := h.2 c102
    refine x_iconst (v := 0) dX15_holds_30 (by decide) ?_
    exact x_zret0 dX15_holds_31 rfl (Or.inl ⟨_, _, h, rfl, rfl⟩)
def v_X15_holds (N : tP) (x0 : Nat) (x1 : Nat) (s : tM) (Kr : Int32 → tM → Prop) : Prop :=
  (tO s 4 x1 ∧ (∀ s102 : tM, s102 = tsI s x1 1 0 → (tO s102 13 x0 ∧ (((tR s102 x0 2) = 0 → (v_X15_holds_23 N x0 x1 Kr s102)) ∧ (¬ (tR s102 x0 2) = 0 → (r_U_test N N.2.1 0 (tR s102 x0 2) x1 s102 (fun x106 s107 => ((x106 = 0 → (Kr 0 s107)) ∧ (¬ x106 = 0 → (v_X15_holds_23 N x0 x1 Kr s107))))))))))
theorem e_X15_holds {G : xG} {l : Launch} {g : xH} {d : Nat} {N : tP} (hN : tNs G N) (hd : 2 * N.2.1 + 12 ≤ d) {x0 : Nat} {x1 : Nat} {s : tM} {Kr : Int32 → tM → Prop} (h : v_X15_holds N x0 x1 s Kr) : xC G l kX15_holds d 0 0 [rfv x0, rfv x1] (tH G g s) (tQ G g wi Kr tNo) := by
  obtain ⟨d, rfl⟩ : ∃ z, d = z + 1 := ⟨d - 1, by omega⟩
  refine t_start rfl (by decide +kernel) (by simp [xct_i, xct_l, rfv_c]) (lv := [some (rfv x0), some (rfv x1)]) (by simp [lv_args, xLv, rfv_c, xct_i, xct_l]) ?_
  unfold v_X15_holds at h
  refine t_aload_1 dX15_holds_0 ?_
  refine x_iconst (v := 0) dX15_holds_1 (by decide) ?_
  obtain ⟨e101, h⟩ := h
  refine t_putI (j := 1) dX15_holds_2 fp_X15_21_4 (by decide) e101 (xB_n xB_0) (xB_f xB_0) ?_
  refine t_gen h (fun s102 w103 h => ?_)
  refine t_aload_0 dX15_holds_5 ?_
  obtain ⟨e104, h⟩ := h
  refine t_getR dX15_holds_6 fa_X15_17_13 (by decide) e104 ?_
  refine t_ifnull 23 dX15_holds_9 (by decide) (fun c105 => ?_) (fun c105 => ?_)
  · have h := h.1 c105
    exact x_le (xLe_cons (xLe_cons (xLe_nil))) (e_X15_holds_23 hN (by omega) _ _ _ _ h)
  · have h := h.2 c105
    refine t_aload_0 dX15_holds_12 ?_
    refine t_getR dX15_holds_13 fa_X15_17_13 (by decide) e104 ?_
    refine t_aload_1 dX15_holds_16 ?_
    refine t_cDi (As := [_]) rfl ((fun e => e.elim (fun e => ⟨_, 14, _, _, _, _, _, xcl_X17.1, cu_X15_27_14, e.1, e.2⟩) (fun e => e.elim (fun e => ⟨_, 15, _, _, _, _, _, xcl_X18.1, cu_X15_27_15, e.1, e.2⟩) (fun e => ⟨_, 16, _, _, _, _, _, xcl_X19.1, cu_X15_27_16, e.1, e.2⟩))) (e_U_test hN (by omega) h)) rfl rfl (xrm4 (Nat.le_of_ble_eq_true rfl)) dX15_holds_17 ⟨Nat.zero_le _, Nat.zero_le _⟩ (fun _ _ _ h => h.elim) (fun x106 s107 h => ?_)
    refine x_if_eq 30 dX15_holds_20 (by decide) (fun c108 => ?_) (fun c108 => ?_)
    · have h := h.1 c108
      refine x_iconst (v := 0) dX15_holds_30 (by decide) ?_
      exact x_zret0 dX15_holds_31 rfl (Or.inl ⟨_, _, h, rfl, rfl⟩)
    · have h := h.2 c108
      exact x_le (xLe_cons (xLe_cons (xLe_nil))) (e_X15_holds_23 hN (by omega) _ _ _ _ h)
def v_X5_has_2 (N : tP) (x0 : Nat) (x1 : Int32) (x2 : Nat) (Kr : Int32 → tM → Prop) (K : tM → Prop) : Nat → Int32 → tM → Prop
  | 0, _, _ => False
  | t + 1, x3, s => (tO s 5 x0 ∧ ((∃ N, tA s 6 N (tR s x0 0)) ∧ (((Int32.ofNat (tLen s (tR s x0 0))) ≤ x3 → (K s)) ∧ (¬ (Int32.ofNat (tLen s (tR s x0 0))) ≤ x3 → (tX s 6 (tR s x0 0) x3 ∧ (tO s 13 (tR s (tR s x0 0) x3.toNatClampNeg) ∧ ((¬ (tI s (tR s (tR s x0 0) x3.toNatClampNeg) 0) = x1 → (∀ x107 : Int32, x107 = x3 + 1 → ((fun x3 s => v_X5_has_2 N x0 x1 x2 Kr K t x3 s) x107 s))) ∧ ((tI s (tR s (tR s x0 0) x3.toNatClampNeg) 0) = x1 → (tX s 6 (tR s x0 0) x3 ∧ (v_X15_holds N (tR s (tR s x0 0) x3.toNatClampNeg) x2 s (fun x109 s110 => ((x109 = 0 → (∀ x112 : Int32, x112 = x3 + 1 → ((fun x3 s => v_X5_has_2 N x0 x1 x2 Kr K t x3 s) x112 s110))) ∧ (¬ x109 = 0 → (Kr 1 s110))))))))))))))
theorem e_X5_has_2 {G : xG} {l : Launch} {g : xH} {d : Nat} {N : tP} (hN : tNs G N) (hd : 2 * N.2.1 + 13 ≤ d) (x0 : Nat) (x1 : Int32) (x2 : Nat) (Kr : Int32 → tM → Prop) (K : tM → Prop) : ∀ (t : Nat) (x3 : Int32) (s : tM) , v_X5_has_2 N x0 x1 x2 Kr K t x3 s → (∀ (s : tM), K s → xF G l kX5_has (d + 1) 0 0 (tQ G g wi Kr tNo) 45 [none, none, none, none] [] (tH G g s)) → xF G l kX5_has (d + 1) 0 0 (tQ G g wi Kr tNo) 2 [some (rfv x0), some (.int x1), some (rfv x2), some (.int x3)] [] (tH G g s) := by
  intro t
  induction t with
  | zero =>
    intro _ _ h _
    exact absurd h (by simp [v_X5_has_2])
  | succ t ih =>
    intro x3 s h hK
    have hR := fun x3 s h => ih x3 s h hK
    unfold v_X5_has_2 at h
    refine x_iload_3 dX5_has_2 ?_
    refine t_aload_0 dX5_has_3 ?_
    obtain ⟨e101, h⟩ := h
    refine t_getR dX5_has_4 fa_X5_7_5 (by decide) e101 ?_
    obtain ⟨e102, h⟩ := h
    refine t_alen (t := 6) dX5_has_7 ⟨rfl, by decide⟩ e102 ?_
    refine x_icmp_ge 45 dX5_has_8 (by decide) (fun c103 => ?_) (fun c103 => ?_)
    · have h := h.1 c103
      exact x_le (xLe_none (xLe_none (xLe_none (xLe_none (xLe_nil))))) (hK _ h)
    · have h := h.2 c103
      refine t_aload_0 dX5_has_11 ?_
      refine t_getR dX5_has_12 fa_X5_7_5 (by decide) e101 ?_
      refine x_iload_3 dX5_has_15 ?_
      obtain ⟨e104, h⟩ := h
      refine t_aald (t := 6) dX5_has_16 ⟨rfl, by decide, by decide⟩ rfl e104 ?_
      obtain ⟨e105, h⟩ := h
      refine t_getI dX5_has_17 fa_X5_13_13 (by decide) e105 ?_
      refine x_iload_1 dX5_has_20 ?_
      refine x_icmp_ne 39 dX5_has_21 (by decide) (fun c106 => ?_) (fun c106 => ?_)
      · have h := h.1 c106
        refine x_iinc_3 (v := 1) dX5_has_39 (by decide) (by decide) xN2_f ?_
        have h := h _ rfl
        refine x_goto 2 dX5_has_42 (by decide) ?_
        exact x_le (xLe_cons (xLe_cons (xLe_cons (xLe_cons (xLe_nil))))) (hR _ _ h)
      · have h := h.2 c106
        refine t_aload_0 dX5_has_24 ?_
        refine t_getR dX5_has_25 fa_X5_7_5 (by decide) e101 ?_
        refine x_iload_3 dX5_has_28 ?_
        obtain ⟨e108, h⟩ := h
        refine t_aald (t := 6) dX5_has_29 ⟨rfl, by decide, by decide⟩ rfl e108 ?_
        refine t_aload_2 dX5_has_30 ?_
        refine t_cVi (As := [_]) rfl cv_X5_19 rfl e105 rfl rfl (xrm4 (Nat.le_of_ble_eq_true rfl)) dX5_has_31 (e_X15_holds hN (by omega) h) ⟨Nat.zero_le _, Nat.zero_le _⟩ (fun _ _ _ h => h.elim) (fun x109 s110 h => ?_)
        refine x_if_eq 39 dX5_has_34 (by decide) (fun c111 => ?_) (fun c111 => ?_)
        · have h := h.1 c111
          refine x_iinc_3 (v := 1) dX5_has_39 (by decide) (by decide) xN2_f ?_
          have h := h _ rfl
          refine x_goto 2 dX5_has_42 (by decide) ?_
          exact x_le (xLe_cons (xLe_cons (xLe_cons (xLe_cons (xLe_nil))))) (hR _ _ h)
        · have h := h.2 c111
          refine x_iconst (v := 1) dX5_has_37 (by decide) ?_
          exact x_zret1 dX5_has_38 rfl (Or.inl ⟨_, _, h, rfl, rfl⟩)
def v_X5_has (N : tP) (x0 : Nat) (x1 : Int32) (x2 : Nat) (s : tM) (Kr : Int32 → tM → Prop) : Prop :=
  (v_X5_has_2 N x0 x1 x2 Kr (fun s101 => (Kr 0 s101)) N.1 0 s)
theorem e_X5_has {G : xG} {l : Launch} {g : xH} {d : Nat} {N : tP} (hN : tNs G N) (hd : 2 * N.2.1 + 14 ≤ d) {x0 : Nat} {x1 : Int32} {x2 : Nat} {s : tM} {Kr : Int32 → tM → Prop} (h : v_X5_has N x0 x1 x2 s Kr) : xC G l kX5_has d 0 0 [rfv x0, .int x1, rfv x2] (tH G g s) (tQ G g wi Kr tNo) := by
  obtain ⟨d, rfl⟩ : ∃ z, d = z + 1 := ⟨d - 1, by omega⟩
  refine t_start rfl (by decide +kernel) (by simp [xct_i, xct_l, rfv_c]) (lv := [some (rfv x0), some (.int x1), some (rfv x2), none]) (by simp [lv_args, xLv, rfv_c, xct_i, xct_l]) ?_
  unfold v_X5_has at h
  refine x_iconst (v := 0) dX5_has_0 (by decide) ?_
  refine x_istore_3 dX5_has_1 (by decide) xN2_f ?_
  refine x_le (xLe_cons (xLe_cons (xLe_cons (xLe_cons (xLe_nil))))) (e_X5_has_2 hN (by omega) _ _ _ _ _  _ _ _ h (fun s101 h => ?_))
  refine x_iconst (v := 0) dX5_has_45 (by decide) ?_
  exact x_zret0 dX5_has_46 rfl (Or.inl ⟨_, _, h, rfl, rfl⟩)
def v_X0_isBarred (N : tP) (x0 : Nat) (x1 : Int32) (x2 : Int32) (x3 : Int32) (s : tM) (Kr : Int32 → tM → Prop) : Prop :=
  (tO s 0 x0 ∧ (v_X0_about x0 x1 x2 x3 s (fun s102 => (tO s102 0 x0 ∧ (v_X0_law1 x0 s102 (fun x104 s105 => (tO s105 0 x0 ∧ (tO s105 5 x104 ∧ (v_X5_has N x104 2 (tR s105 x0 6) s105 (fun x108 s109 => (xB x108 ∧ (Kr x108 s109))))))))))))
theorem e_X0_isBarred {G : xG} {l : Launch} {g : xH} {d : Nat} {N : tP} (hN : tNs G N) (hd : 2 * N.2.1 + 16 ≤ d) {x0 : Nat} {x1 : Int32} {x2 : Int32} {x3 : Int32} {s : tM} {Kr : Int32 → tM → Prop} (h : v_X0_isBarred N x0 x1 x2 x3 s Kr) : xC G l kX0_isBarred d 0 0 [rfv x0, .int x1, .int x2, .int x3] (tH G g s) (tQ G g wi Kr tNo) := by
  obtain ⟨d, rfl⟩ : ∃ z, d = z + 1 := ⟨d - 1, by omega⟩
  refine t_start rfl (by decide +kernel) (by simp [xct_i, xct_l, rfv_c]) (lv := [some (rfv x0), some (.int x1), some (.int x2), some (.int x3)]) (by simp [lv_args, xLv, rfv_c, xct_i, xct_l]) ?_
  unfold v_X0_isBarred at h
  refine t_aload_0 dX0_isBarred_0 ?_
  refine x_iload_1 dX0_isBarred_1 ?_
  refine x_iload_2 dX0_isBarred_2 ?_
  refine x_iload_3 dX0_isBarred_3 ?_
  obtain ⟨e103, h⟩ := h
  refine t_cVv (As := [_, _, _]) rfl cv_X0_268 rfl e103 rfl rfl (xrm4 (Nat.le_of_ble_eq_true rfl)) dX0_isBarred_4 (e_X0_about (by omega) h) ⟨Nat.zero_le _, Nat.zero_le _⟩ (fun _ _ _ h => h.elim) (fun _ s102 h => ?_)
  refine t_aload_0 dX0_isBarred_7 ?_
  obtain ⟨e106, h⟩ := h
  refine t_cVr (As := []) rfl cv_X0_272 rfl e106 rfl rfl (xrm4 (Nat.le_of_ble_eq_true rfl)) dX0_isBarred_8 (e_X0_law1 (by omega) h) ⟨Nat.zero_le _, Nat.zero_le _⟩ (fun _ _ _ h => h.elim) (fun x104 s105 h => ?_)
  refine x_iconst (v := 2) dX0_isBarred_11 (by decide) ?_
  refine t_aload_0 dX0_isBarred_12 ?_
  obtain ⟨e107, h⟩ := h
  refine t_getR dX0_isBarred_13 fa_X0_49_0 (by decide) e107 ?_
  obtain ⟨e110, h⟩ := h
  refine t_cVi (As := [_, _]) rfl cv_X0_282 rfl e110 rfl rfl (xrm4 (Nat.le_of_ble_eq_true rfl)) dX0_isBarred_16 (e_X5_has hN (by omega) h) ⟨Nat.zero_le _, Nat.zero_le _⟩ (fun _ _ _ h => h.elim) (fun x108 s109 h => ?_)
  obtain ⟨e111, h⟩ := h
  exact x_zret dX0_isBarred_19 rfl (xB_n e111) (Or.inl ⟨_, _, h, rfl, rfl⟩)
def v_X0_isBarredHere (N : tP) (x0 : Nat) (x1 : Int32) (s : tM) (Kr : Int32 → tM → Prop) : Prop :=
  (tO s 0 x0 ∧ (v_X0_books x0 s (fun x101 s102 => (tO s102 2 x101 ∧ (tX s102 0 (tR s102 x101 1) x1 ∧ (tO s102 0 x0 ∧ (v_X0_beforeOf x0 x1 s102 (fun x106 s107 => (tO s107 0 x0 ∧ (v_X0_isBarred N x0 x1 (tI s102 (tR s102 x101 1) x1.toNatClampNeg) x106 s107 (fun x109 s110 => (xB x109 ∧ (Kr x109 s110)))))))))))))
theorem e_X0_isBarredHere {G : xG} {l : Launch} {g : xH} {d : Nat} {N : tP} (hN : tNs G N) (hd : 2 * N.2.1 + 18 ≤ d) {x0 : Nat} {x1 : Int32} {s : tM} {Kr : Int32 → tM → Prop} (h : v_X0_isBarredHere N x0 x1 s Kr) : xC G l kX0_isBarredHere d 0 0 [rfv x0, .int x1] (tH G g s) (tQ G g wi Kr tNo) := by
  obtain ⟨d, rfl⟩ : ∃ z, d = z + 1 := ⟨d - 1, by omega⟩
  refine t_start rfl (by decide +kernel) (by simp [xct_i, xct_l, rfv_c]) (lv := [some (rfv x0), some (.int x1)]) (by simp [lv_args, xLv, rfv_c, xct_i, xct_l]) ?_
  unfold v_X0_isBarredHere at h
  refine t_aload_0 dX0_isBarredHere_0 ?_
  refine x_iload_1 dX0_isBarredHere_1 ?_
  refine t_aload_0 dX0_isBarredHere_2 ?_
  obtain ⟨e103, h⟩ := h
  refine t_cVr (As := []) rfl cv_X0_157 rfl e103 rfl rfl (xrm4 (Nat.le_of_ble_eq_true rfl)) dX0_isBarredHere_3 (e_X0_books (by omega) h) ⟨Nat.zero_le _, Nat.zero_le _⟩ (fun _ _ _ h => h.elim) (fun x101 s102 h => ?_)
  obtain ⟨e104, h⟩ := h
  refine t_getR dX0_isBarredHere_6 fa_X0_163_2 (by decide) e104 ?_
  refine x_iload_1 dX0_isBarredHere_9 ?_
  obtain ⟨e105, h⟩ := h
  refine t_iald dX0_isBarredHere_10 e105 ?_
  refine t_aload_0 dX0_isBarredHere_11 ?_
  refine x_iload_1 dX0_isBarredHere_12 ?_
  obtain ⟨e108, h⟩ := h
  refine t_cVi (As := [_]) rfl cv_X0_286 rfl e108 rfl rfl (xrm4 (Nat.le_of_ble_eq_true rfl)) dX0_isBarredHere_13 (e_X0_beforeOf (by omega) h) ⟨Nat.zero_le _, Nat.zero_le _⟩ (fun _ _ _ h => h.elim) (fun x106 s107 h => ?_)
  obtain ⟨e111, h⟩ := h
  refine t_cVi (As := [_, _, _]) rfl cv_X0_296 rfl e111 rfl rfl (xrm4 (Nat.le_of_ble_eq_true rfl)) dX0_isBarredHere_16 (e_X0_isBarred hN (by omega) h) ⟨Nat.zero_le _, Nat.zero_le _⟩ (fun _ _ _ h => h.elim) (fun x109 s110 h => ?_)
  obtain ⟨e112, h⟩ := h
  exact x_zret dX0_isBarredHere_19 rfl (xB_n e112) (Or.inl ⟨_, _, h, rfl, rfl⟩)
def v_X0_barredOnes_4 (N : tP) (x0 : Nat) (Kr : Int32 → tM → Prop) (K : Int32 → tM → Prop) : Nat → Int32 → Int32 → tM → Prop
  | 0, _, _, _ => False
  | t + 1, x1, x2, s => (tO s 0 x0 ∧ (v_X0_nNotes x0 s (fun x101 s102 => ((x101 ≤ x2 → (K x1 s102)) ∧ (¬ x101 ≤ x2 → (tO s102 0 x0 ∧ (v_X0_isBarredHere N x0 x2 s102 (fun x105 s106 => ((x105 = 0 → (∀ x109 : Int32, x109 = x1 + 0 → (∀ x110 : Int32, x110 = x2 + 1 → ((fun x1 x2 s => v_X0_barredOnes_4 N x0 Kr K t x1 x2 s) x109 x110 s106)))) ∧ (¬ x105 = 0 → (∀ x111 : Int32, x111 = x1 + 1 → (∀ x112 : Int32, x112 = x2 + 1 → ((fun x1 x2 s => v_X0_barredOnes_4 N x0 Kr K t x1 x2 s) x111 x112 s106)))))))))))))
theorem e_X0_barredOnes_4 {G : xG} {l : Launch} {g : xH} {d : Nat} {N : tP} (hN : tNs G N) (hd : 2 * N.2.1 + 19 ≤ d) (x0 : Nat) (Kr : Int32 → tM → Prop) (K : Int32 → tM → Prop) : ∀ (t : Nat) (x1 : Int32) (x2 : Int32) (s : tM) , v_X0_barredOnes_4 N x0 Kr K t x1 x2 s → (∀ (z1 : Int32) (s : tM), K z1 s → xF G l kX0_barredOnes (d + 1) 0 0 (tQ G g wi Kr tNo) 34 [none, some (.int z1), none] [] (tH G g s)) → xF G l kX0_barredOnes (d + 1) 0 0 (tQ G g wi Kr tNo) 4 [some (rfv x0), some (.int x1), some (.int x2)] [] (tH G g s) := by
  intro t
  induction t with
  | zero =>
    intro _ _ _ h _
    exact absurd h (by simp [v_X0_barredOnes_4])
  | succ t ih =>
    intro x1 x2 s h hK
    have hR := fun x1 x2 s h => ih x1 x2 s h hK
    unfold v_X0_barredOnes_4 at h
    refine x_iload_2 dX0_barredOnes_4 ?_
    refine t_aload_0 dX0_barredOnes_5 ?_
    obtain ⟨e103, h⟩ := h
    refine t_cVi (As := []) rfl cv_X0_142 rfl e103 rfl rfl (xrm4 (Nat.le_of_ble_eq_true rfl)) dX0_barredOnes_6 (e_X0_nNotes (by omega) h) ⟨Nat.zero_le _, Nat.zero_le _⟩ (fun _ _ _ h => h.elim) (fun x101 s102 h => ?_)
    refine x_icmp_ge 34 dX0_barredOnes_9 (by decide) (fun c104 => ?_) (fun c104 => ?_)
    · have h := h.1 c104
      exact x_le (xLe_none (xLe_cons (xLe_none (xLe_nil)))) (hK _ _ h)
    · have h := h.2 c104
      refine x_iload_1 dX0_barredOnes_12 ?_
      refine t_aload_0 dX0_barredOnes_13 ?_
      refine x_iload_2 dX0_barredOnes_14 ?_
      obtain ⟨e107, h⟩ := h
      refine t_cVi (As := [_]) rfl cv_X0_181 rfl e107 rfl rfl (xrm4 (Nat.le_of_ble_eq_true rfl)) dX0_barredOnes_15 (e_X0_isBarredHere hN (by omega) h) ⟨Nat.zero_le _, Nat.zero_le _⟩ (fun _ _ _ h => h.elim) (fun x105 s106 h => ?_)
      refine x_if_eq 25 dX0_barredOnes_18 (by decide) (fun c108 => ?_) (fun c108 => ?_)
      · have h := h.1 c108
        refine x_iconst (v := 0) dX0_barredOnes_25 (by decide) ?_
        refine x_iadd dX0_barredOnes_26 ?_
        refine x_istore_1 dX0_barredOnes_27 (by decide) xN2_f ?_
        have h := h _ rfl
        refine x_iinc_2 (v := 1) dX0_barredOnes_28 (by decide) (by decide) xN2_i ?_
        have h := h _ rfl
        refine x_goto 4 dX0_barredOnes_31 (by decide) ?_
        exact x_le (xLe_cons (xLe_cons (xLe_cons (xLe_nil)))) (hR _ _ _ h)
      · have h := h.2 c108
        refine x_iconst (v := 1) dX0_barredOnes_21 (by decide) ?_
        refine x_goto 26 dX0_barredOnes_22 (by decide) ?_
        refine x_iadd dX0_barredOnes_26 ?_
        refine x_istore_1 dX0_barredOnes_27 (by decide) xN2_f ?_
        have h := h _ rfl
        refine x_iinc_2 (v := 1) dX0_barredOnes_28 (by decide) (by decide) xN2_i ?_
        have h := h _ rfl
        refine x_goto 4 dX0_barredOnes_31 (by decide) ?_
        exact x_le (xLe_cons (xLe_cons (xLe_cons (xLe_nil)))) (hR _ _ _ h)
def v_X0_barredOnes (N : tP) (x0 : Nat) (s : tM) (Kr : Int32 → tM → Prop) : Prop :=
  (v_X0_barredOnes_4 N x0 Kr (fun x101 s102 => (Kr x101 s102)) N.1 0 0 s)
theorem e_X0_barredOnes {G : xG} {l : Launch} {g : xH} {d : Nat} {N : tP} (hN : tNs G N) (hd : 2 * N.2.1 + 20 ≤ d) {x0 : Nat} {s : tM} {Kr : Int32 → tM → Prop} (h : v_X0_barredOnes N x0 s Kr) : xC G l kX0_barredOnes d 0 0 [rfv x0] (tH G g s) (tQ G g wi Kr tNo) := by
  obtain ⟨d, rfl⟩ : ∃ z, d = z + 1 := ⟨d - 1, by omega⟩
  refine t_start rfl (by decide +kernel) (by simp [xct_i, xct_l, rfv_c]) (lv := [some (rfv x0), none, none]) (by simp [lv_args, xLv, rfv_c, xct_i, xct_l]) ?_
  unfold v_X0_barredOnes at h
  refine x_iconst (v := 0) dX0_barredOnes_0 (by decide) ?_
  refine x_istore_1 dX0_barredOnes_1 (by decide) xN2_f ?_
  refine x_iconst (v := 0) dX0_barredOnes_2 (by decide) ?_
  refine x_istore_2 dX0_barredOnes_3 (by decide) xN2_i ?_
  refine x_le (xLe_cons (xLe_cons (xLe_cons (xLe_nil)))) (e_X0_barredOnes_4 hN (by omega) _ _ _  _ _ _ _ h (fun x101 s102 h => ?_))
  refine x_iload_1 dX0_barredOnes_34 ?_
  exact x_iret dX0_barredOnes_35 rfl (Or.inl ⟨_, _, h, rfl, rfl⟩)
def v_X5_tells_7 (N : tP) (x0 : Nat) (x1 : Int32) (x2 : Nat) (x4 : Int32) (Kr : Int32 → tM → Prop) (K : Int64 → tM → Prop) : Nat → Int64 → Int32 → tM → Prop
  | 0, _, _, _ => False
  | t + 1, x5, x7, s => (tO s 5 x0 ∧ ((∃ N, tA s 6 N (tR s x0 0)) ∧ (((Int32.ofNat (tLen s (tR s x0 0))) ≤ x7 → (K x5 s)) ∧ (¬ (Int32.ofNat (tLen s (tR s x0 0))) ≤ x7 → (tX s 6 (tR s x0 0) x7 ∧ (tO s 13 (tR s (tR s x0 0) x7.toNatClampNeg) ∧ ((¬ (tI s (tR s (tR s x0 0) x7.toNatClampNeg) 0) = x1 → (∀ x107 : Int32, x107 = x7 + 1 → ((fun x5 x7 s => v_X5_tells_7 N x0 x1 x2 x4 Kr K t x5 x7 s) x5 x107 s))) ∧ ((tI s (tR s (tR s x0 0) x7.toNatClampNeg) 0) = x1 → (tX s 6 (tR s x0 0) x7 ∧ (v_X15_holds N (tR s (tR s x0 0) x7.toNatClampNeg) x2 s (fun x109 s110 => ((x109 = 0 → (∀ x112 : Int32, x112 = x7 + 1 → ((fun x5 x7 s => v_X5_tells_7 N x0 x1 x2 x4 Kr K t x5 x7 s) x5 x112 s110))) ∧ (¬ x109 = 0 → (tO s110 5 x0 ∧ (tX s110 6 (tR s110 x0 0) x7 ∧ (tO s110 13 (tR s110 (tR s110 x0 0) x7.toNatClampNeg) ∧ (∀ x116 : Int64, x116 = (if (tJ s110 (tR s110 (tR s110 x0 0) x7.toNatClampNeg) 3) < ((x4 : Int32).toInt64) then (tJ s110 (tR s110 (tR s110 x0 0) x7.toNatClampNeg) 3) else ((x4 : Int32).toInt64)) → (∀ x117 : Int64, x117 = (if x116 < 0 then 0 else x116) → (∀ x118 : Int32, x118 = x7 + 1 → ((fun x5 x7 s => v_X5_tells_7 N x0 x1 x2 x4 Kr K t x5 x7 s) x117 x118 s110))))))))))))))))))))
theorem e_X5_tells_7 {G : xG} {l : Launch} {g : xH} {d : Nat} {N : tP} (hN : tNs G N) (hd : 2 * N.2.1 + 13 ≤ d) (x0 : Nat) (x1 : Int32) (x2 : Nat) (x4 : Int32) (Kr : Int32 → tM → Prop) (K : Int64 → tM → Prop) : ∀ (t : Nat) (x5 : Int64) (x7 : Int32) (s : tM) , v_X5_tells_7 N x0 x1 x2 x4 Kr K t x5 x7 s → (∀ (z5 : Int64) (s : tM), K z5 s → xF G l kX5_tells (d + 1) 0 0 (tQ G g wi Kr tNo) 73 [none, none, none, none, none, some (.long z5), none, none] [] (tH G g s)) → xF G l kX5_tells (d + 1) 0 0 (tQ G g wi Kr tNo) 7 [some (rfv x0), some (.int x1), some (rfv x2), none, some (.int x4), some (.long x5), none, some (.int x7)] [] (tH G g s) := by
  intro t
  induction t with
  | zero =>
    intro _ _ _ h _
    exact absurd h (by simp [v_X5_tells_7])
  | succ t ih =>
    intro x5 x7 s h hK
    have hR := fun x5 x7 s h => ih x5 x7 s h hK
    unfold v_X5_tells_7 at h
    refine x_iload_7 dX5_tells_7 ?_
    refine t_aload_0 dX5_tells_9 ?_
    obtain ⟨e101, h⟩ := h
    refine t_getR dX5_tells_10 fa_X5_7_5 (by decide) e101 ?_
    obtain ⟨e102, h⟩ := h
    refine t_alen (t := 6) dX5_tells_13 ⟨rfl, by decide⟩ e102 ?_
    refine x_icmp_ge 73 dX5_tells_14 (by decide) (fun c103 => ?_) (fun c103 => ?_)
    · have h := h.1 c103
      exact x_le (xLe_none (xLe_none (xLe_none (xLe_cons (xLe_none (xLe_cons (xLe_cons (xLe_none (xLe_nil))))))))) (hK _ _ h)
    · have h := h.2 c103
      refine t_aload_0 dX5_tells_17 ?_
      refine t_getR dX5_tells_18 fa_X5_7_5 (by decide) e101 ?_
      refine x_iload_7 dX5_tells_21 ?_
      obtain ⟨e104, h⟩ := h
      refine t_aald (t := 6) dX5_tells_23 ⟨rfl, by decide, by decide⟩ rfl e104 ?_
      obtain ⟨e105, h⟩ := h
      refine t_getI dX5_tells_24 fa_X5_13_13 (by decide) e105 ?_
      refine x_iload_1 dX5_tells_27 ?_
      refine x_icmp_ne 67 dX5_tells_28 (by decide) (fun c106 => ?_) (fun c106 => ?_)
      · have h := h.1 c106
        refine x_iinc_7 (v := 1) dX5_tells_67 (by decide) (by decide) xN2_none ?_
        have h := h _ rfl
        refine x_goto 7 dX5_tells_70 (by decide) ?_
        exact x_le (xLe_cons (xLe_cons (xLe_cons (xLe_cons (xLe_cons (xLe_cons (xLe_cons (xLe_cons (xLe_nil))))))))) (hR _ _ _ h)
      · have h := h.2 c106
        refine t_aload_0 dX5_tells_31 ?_
        refine t_getR dX5_tells_32 fa_X5_7_5 (by decide) e101 ?_
        refine x_iload_7 dX5_tells_35 ?_
        obtain ⟨e108, h⟩ := h
        refine t_aald (t := 6) dX5_tells_37 ⟨rfl, by decide, by decide⟩ rfl e108 ?_
        refine t_aload_2 dX5_tells_38 ?_
        refine t_cVi (As := [_]) rfl cv_X5_19 rfl e105 rfl rfl (xrm4 (Nat.le_of_ble_eq_true rfl)) dX5_tells_39 (e_X15_holds hN (by omega) h) ⟨Nat.zero_le _, Nat.zero_le _⟩ (fun _ _ _ h => h.elim) (fun x109 s110 h => ?_)
        refine x_if_eq 67 dX5_tells_42 (by decide) (fun c111 => ?_) (fun c111 => ?_)
        · have h := h.1 c111
          refine x_iinc_7 (v := 1) dX5_tells_67 (by decide) (by decide) xN2_none ?_
          have h := h _ rfl
          refine x_goto 7 dX5_tells_70 (by decide) ?_
          exact x_le (xLe_cons (xLe_cons (xLe_cons (xLe_cons (xLe_cons (xLe_cons (xLe_cons (xLe_cons (xLe_nil))))))))) (hR _ _ _ h)
        · have h := h.2 c111
          refine x_lconst (v := 0) dX5_tells_45 (by decide) ?_
          refine x_iload_4 dX5_tells_46 ?_
          refine x_i2l dX5_tells_48 ?_
          refine t_aload_0 dX5_tells_49 ?_
          obtain ⟨e113, h⟩ := h
          refine t_getR dX5_tells_50 fa_X5_7_5 (by decide) e113 ?_
          refine x_iload_7 dX5_tells_53 ?_
          obtain ⟨e114, h⟩ := h
          refine t_aald (t := 6) dX5_tells_55 ⟨rfl, by decide, by decide⟩ rfl e114 ?_
          obtain ⟨e115, h⟩ := h
          refine t_getJ dX5_tells_56 fa_X5_23_13 (by decide) e115 ?_
          refine t_mmin_long ma_X5_27 (by omega) (xrm4 (Nat.le_of_ble_eq_true rfl)) dX5_tells_59 ?_
          have h := h _ rfl
          refine t_mmax_long ma_X5_33 (by omega) (xrm4 (Nat.le_of_ble_eq_true rfl)) dX5_tells_62 ?_
          have h := h _ rfl
          refine x_lstore_5 dX5_tells_65 (by decide) xN2_i ?_
          refine x_iinc_7 (v := 1) dX5_tells_67 (by decide) (by decide) xN2_none ?_
          have h := h _ rfl
          refine x_goto 7 dX5_tells_70 (by decide) ?_
          exact x_le (xLe_cons (xLe_cons (xLe_cons (xLe_cons (xLe_cons (xLe_cons (xLe_cons (xLe_cons (xLe_nil))))))))) (hR _ _ _ h)
def v_X5_tells (N : tP) (x0 : Nat) (x1 : Int32) (x2 : Nat) (x3 : Int32) (x4 : Int32) (s : tM) (Kr : Int32 → tM → Prop) : Prop :=
  (∀ x101 : Int64, x101 = (x3 : Int32).toInt64 → (v_X5_tells_7 N x0 x1 x2 x4 Kr (fun x102 s103 => (Kr ((x102 : Int64).toInt32) s103)) N.1 x101 0 s))
theorem e_X5_tells {G : xG} {l : Launch} {g : xH} {d : Nat} {N : tP} (hN : tNs G N) (hd : 2 * N.2.1 + 14 ≤ d) {x0 : Nat} {x1 : Int32} {x2 : Nat} {x3 : Int32} {x4 : Int32} {s : tM} {Kr : Int32 → tM → Prop} (h : v_X5_tells N x0 x1 x2 x3 x4 s Kr) : xC G l kX5_tells d 0 0 [rfv x0, .int x1, rfv x2, .int x3, .int x4] (tH G g s) (tQ G g wi Kr tNo) := by
  obtain ⟨d, rfl⟩ : ∃ z, d = z + 1 := ⟨d - 1, by omega⟩
  refine t_start rfl (by decide +kernel) (by simp [xct_i, xct_l, rfv_c]) (lv := [some (rfv x0), some (.int x1), some (rfv x2), some (.int x3), some (.int x4), none, none, none]) (by simp [lv_args, xLv, rfv_c, xct_i, xct_l]) ?_
  unfold v_X5_tells at h
  refine x_iload_3 dX5_tells_0 ?_
  refine x_i2l dX5_tells_1 ?_
  refine x_lstore_5 dX5_tells_2 (by decide) xN2_i ?_
  have h := h _ rfl
  refine x_iconst (v := 0) dX5_tells_4 (by decide) ?_
  refine x_istore_7 dX5_tells_5 (by decide) xN2_none ?_
  refine x_le (xLe_cons (xLe_cons (xLe_cons (xLe_none (xLe_cons (xLe_cons (xLe_cons (xLe_cons (xLe_nil))))))))) (e_X5_tells_7 hN (by omega) _ _ _ _ _ _  _ _ _ _ h (fun x102 s103 h => ?_))
  refine x_lload_5 dX5_tells_73 ?_
  refine x_l2i dX5_tells_75 ?_
  exact x_iret dX5_tells_76 rfl (Or.inl ⟨_, _, h, rfl, rfl⟩)
def v_X0_costs (N : tP) (x0 : Nat) (x1 : Int32) (x2 : Int32) (x3 : Int32) (s : tM) (Kr : Int32 → tM → Prop) : Prop :=
  (tO s 0 x0 ∧ (v_X0_about x0 x1 x2 x3 s (fun s102 => (tO s102 0 x0 ∧ (v_X0_law1 x0 s102 (fun x104 s105 => (tO s105 0 x0 ∧ ((¬ x3 = (-1) → (∀ x109 : Int32, x109 = (if 0 ≤ (x2 - x3) then (x2 - x3) else 0 - (x2 - x3)) → (tO s105 5 x104 ∧ (v_X5_tells N x104 0 (tR s105 x0 6) x109 999 s105 (fun x110 s111 => (Kr x110 s111)))))) ∧ (x3 = (-1) → (tO s105 5 x104 ∧ (v_X5_tells N x104 0 (tR s105 x0 6) 0 999 s105 (fun x113 s114 => (Kr x113 s114)))))))))))))
theorem e_X0_costs {G : xG} {l : Launch} {g : xH} {d : Nat} {N : tP} (hN : tNs G N) (hd : 2 * N.2.1 + 16 ≤ d) {x0 : Nat} {x1 : Int32} {x2 : Int32} {x3 : Int32} {s : tM} {Kr : Int32 → tM → Prop} (h : v_X0_costs N x0 x1 x2 x3 s Kr) : xC G l kX0_costs d 0 0 [rfv x0, .int x1, .int x2, .int x3] (tH G g s) (tQ G g wi Kr tNo) := by
  obtain ⟨d, rfl⟩ : ∃ z, d = z + 1 := ⟨d - 1, by omega⟩
  refine t_start rfl (by decide +kernel) (by simp [xct_i, xct_l, rfv_c]) (lv := [some (rfv x0), some (.int x1), some (.int x2), some (.int x3)]) (by simp [lv_args, xLv, rfv_c, xct_i, xct_l]) ?_
  unfold v_X0_costs at h
  refine t_aload_0 dX0_costs_0 ?_
  refine x_iload_1 dX0_costs_1 ?_
  refine x_iload_2 dX0_costs_2 ?_
  refine x_iload_3 dX0_costs_3 ?_
  obtain ⟨e103, h⟩ := h
  refine t_cVv (As := [_, _, _]) rfl cv_X0_268 rfl e103 rfl rfl (xrm4 (Nat.le_of_ble_eq_true rfl)) dX0_costs_4 (e_X0_about (by omega) h) ⟨Nat.zero_le _, Nat.zero_le _⟩ (fun _ _ _ h => h.elim) (fun _ s102 h => ?_)
  refine t_aload_0 dX0_costs_7 ?_
  obtain ⟨e106, h⟩ := h
  refine t_cVr (As := []) rfl cv_X0_272 rfl e106 rfl rfl (xrm4 (Nat.le_of_ble_eq_true rfl)) dX0_costs_8 (e_X0_law1 (by omega) h) ⟨Nat.zero_le _, Nat.zero_le _⟩ (fun _ _ _ h => h.elim) (fun x104 s105 h => ?_)
  refine x_iconst (v := 0) dX0_costs_11 (by decide) ?_
  refine t_aload_0 dX0_costs_12 ?_
  obtain ⟨e107, h⟩ := h
  refine t_getR dX0_costs_13 fa_X0_49_0 (by decide) e107 ?_
  refine x_iload_3 dX0_costs_16 ?_
  refine x_iconst (v := (-1)) dX0_costs_17 (by decide) ?_
  refine x_icmp_ne 25 dX0_costs_18 (by decide) (fun c108 => ?_) (fun c108 => ?_)
  · have h := h.1 c108
    refine x_iload_2 dX0_costs_25 ?_
    refine x_iload_3 dX0_costs_26 ?_
    refine x_isub dX0_costs_27 ?_
    refine t_mabs ma_X0_275 (by omega) (xrm4 (Nat.le_of_ble_eq_true rfl)) dX0_costs_28 ?_
    have h := h _ rfl
    refine x_sipush (v := 999) dX0_costs_31 (by decide) ?_
    obtain ⟨e112, h⟩ := h
    refine t_cVi (As := [_, _, _, _]) rfl cv_X0_278 rfl e112 rfl rfl (xrm4 (Nat.le_of_ble_eq_true rfl)) dX0_costs_34 (e_X5_tells hN (by omega) h) ⟨Nat.zero_le _, Nat.zero_le _⟩ (fun _ _ _ h => h.elim) (fun x110 s111 h => ?_)
    exact x_iret dX0_costs_37 rfl (Or.inl ⟨_, _, h, rfl, rfl⟩)
  · have h := h.2 c108
    refine x_iconst (v := 0) dX0_costs_21 (by decide) ?_
    refine x_goto 31 dX0_costs_22 (by decide) ?_
    refine x_sipush (v := 999) dX0_costs_31 (by decide) ?_
    obtain ⟨e115, h⟩ := h
    refine t_cVi (As := [_, _, _, _]) rfl cv_X0_278 rfl e115 rfl rfl (xrm4 (Nat.le_of_ble_eq_true rfl)) dX0_costs_34 (e_X5_tells hN (by omega) h) ⟨Nat.zero_le _, Nat.zero_le _⟩ (fun _ _ _ h => h.elim) (fun x113 s114 h => ?_)
    exact x_iret dX0_costs_37 rfl (Or.inl ⟨_, _, h, rfl, rfl⟩)
def v_X0_costsHere (N : tP) (x0 : Nat) (x1 : Int32) (s : tM) (Kr : Int32 → tM → Prop) : Prop :=
  (tO s 0 x0 ∧ (v_X0_books x0 s (fun x101 s102 => (tO s102 2 x101 ∧ (tX s102 0 (tR s102 x101 1) x1 ∧ (tO s102 0 x0 ∧ (v_X0_beforeOf x0 x1 s102 (fun x106 s107 => (tO s107 0 x0 ∧ (v_X0_costs N x0 x1 (tI s102 (tR s102 x101 1) x1.toNatClampNeg) x106 s107 (fun x109 s110 => (Kr x109 s110))))))))))))
theorem e_X0_costsHere {G : xG} {l : Launch} {g : xH} {d : Nat} {N : tP} (hN : tNs G N) (hd : 2 * N.2.1 + 18 ≤ d) {x0 : Nat} {x1 : Int32} {s : tM} {Kr : Int32 → tM → Prop} (h : v_X0_costsHere N x0 x1 s Kr) : xC G l kX0_costsHere d 0 0 [rfv x0, .int x1] (tH G g s) (tQ G g wi Kr tNo) := by
  obtain ⟨d, rfl⟩ : ∃ z, d = z + 1 := ⟨d - 1, by omega⟩
  refine t_start rfl (by decide +kernel) (by simp [xct_i, xct_l, rfv_c]) (lv := [some (rfv x0), some (.int x1)]) (by simp [lv_args, xLv, rfv_c, xct_i, xct_l]) ?_
  unfold v_X0_costsHere at h
  refine t_aload_0 dX0_costsHere_0 ?_
  refine x_iload_1 dX0_costsHere_1 ?_
  refine t_aload_0 dX0_costsHere_2 ?_
  obtain ⟨e103, h⟩ := h
  refine t_cVr (As := []) rfl cv_X0_157 rfl e103 rfl rfl (xrm4 (Nat.le_of_ble_eq_true rfl)) dX0_costsHere_3 (e_X0_books (by omega) h) ⟨Nat.zero_le _, Nat.zero_le _⟩ (fun _ _ _ h => h.elim) (fun x101 s102 h => ?_)
  obtain ⟨e104, h⟩ := h
  refine t_getR dX0_costsHere_6 fa_X0_163_2 (by decide) e104 ?_
  refine x_iload_1 dX0_costsHere_9 ?_
  obtain ⟨e105, h⟩ := h
  refine t_iald dX0_costsHere_10 e105 ?_
  refine t_aload_0 dX0_costsHere_11 ?_
  refine x_iload_1 dX0_costsHere_12 ?_
  obtain ⟨e108, h⟩ := h
  refine t_cVi (As := [_]) rfl cv_X0_286 rfl e108 rfl rfl (xrm4 (Nat.le_of_ble_eq_true rfl)) dX0_costsHere_13 (e_X0_beforeOf (by omega) h) ⟨Nat.zero_le _, Nat.zero_le _⟩ (fun _ _ _ h => h.elim) (fun x106 s107 h => ?_)
  obtain ⟨e111, h⟩ := h
  refine t_cVi (As := [_, _, _]) rfl cv_X0_289 rfl e111 rfl rfl (xrm4 (Nat.le_of_ble_eq_true rfl)) dX0_costsHere_16 (e_X0_costs hN (by omega) h) ⟨Nat.zero_le _, Nat.zero_le _⟩ (fun _ _ _ h => h.elim) (fun x109 s110 h => ?_)
  exact x_iret dX0_costsHere_19 rfl (Or.inl ⟨_, _, h, rfl, rfl⟩)
def v_X0_earns (N : tP) (x0 : Nat) (x1 : Int32) (x2 : Int32) (x3 : Int32) (s : tM) (Kr : Int32 → tM → Prop) : Prop :=
  (tO s 0 x0 ∧ (v_X0_about x0 x1 x2 x3 s (fun s102 => (tO s102 0 x0 ∧ (v_X0_law1 x0 s102 (fun x104 s105 => (tO s105 0 x0 ∧ (tO s105 5 x104 ∧ (v_X5_tells N x104 1 (tR s105 x0 6) 1 99 s105 (fun x108 s109 => (Kr x108 s109)))))))))))
theorem e_X0_earns {G : xG} {l : Launch} {g : xH} {d : Nat} {N : tP} (hN : tNs G N) (hd : 2 * N.2.1 + 16 ≤ d) {x0 : Nat} {x1 : Int32} {x2 : Int32} {x3 : Int32} {s : tM} {Kr : Int32 → tM → Prop} (h : v_X0_earns N x0 x1 x2 x3 s Kr) : xC G l kX0_earns d 0 0 [rfv x0, .int x1, .int x2, .int x3] (tH G g s) (tQ G g wi Kr tNo) := by
  obtain ⟨d, rfl⟩ : ∃ z, d = z + 1 := ⟨d - 1, by omega⟩
  refine t_start rfl (by decide +kernel) (by simp [xct_i, xct_l, rfv_c]) (lv := [some (rfv x0), some (.int x1), some (.int x2), some (.int x3)]) (by simp [lv_args, xLv, rfv_c, xct_i, xct_l]) ?_
  unfold v_X0_earns at h
  refine t_aload_0 dX0_earns_0 ?_
  refine x_iload_1 dX0_earns_1 ?_
  refine x_iload_2 dX0_earns_2 ?_
  refine x_iload_3 dX0_earns_3 ?_
  obtain ⟨e103, h⟩ := h
  refine t_cVv (As := [_, _, _]) rfl cv_X0_268 rfl e103 rfl rfl (xrm4 (Nat.le_of_ble_eq_true rfl)) dX0_earns_4 (e_X0_about (by omega) h) ⟨Nat.zero_le _, Nat.zero_le _⟩ (fun _ _ _ h => h.elim) (fun _ s102 h => ?_)
  refine t_aload_0 dX0_earns_7 ?_
  obtain ⟨e106, h⟩ := h
  refine t_cVr (As := []) rfl cv_X0_272 rfl e106 rfl rfl (xrm4 (Nat.le_of_ble_eq_true rfl)) dX0_earns_8 (e_X0_law1 (by omega) h) ⟨Nat.zero_le _, Nat.zero_le _⟩ (fun _ _ _ h => h.elim) (fun x104 s105 h => ?_)
  refine x_iconst (v := 1) dX0_earns_11 (by decide) ?_
  refine t_aload_0 dX0_earns_12 ?_
  obtain ⟨e107, h⟩ := h
  refine t_getR dX0_earns_13 fa_X0_49_0 (by decide) e107 ?_
  refine x_iconst (v := 1) dX0_earns_16 (by decide) ?_
  refine x_bipush (v := 99) dX0_earns_17 (by decide) ?_
  obtain ⟨e110, h⟩ := h
  refine t_cVi (As := [_, _, _, _]) rfl cv_X0_278 rfl e110 rfl rfl (xrm4 (Nat.le_of_ble_eq_true rfl)) dX0_earns_19 (e_X5_tells hN (by omega) h) ⟨Nat.zero_le _, Nat.zero_le _⟩ (fun _ _ _ h => h.elim) (fun x108 s109 h => ?_)
  exact x_iret dX0_earns_22 rfl (Or.inl ⟨_, _, h, rfl, rfl⟩)
def v_X0_earnsHere (N : tP) (x0 : Nat) (x1 : Int32) (s : tM) (Kr : Int32 → tM → Prop) : Prop :=
  (tO s 0 x0 ∧ (v_X0_books x0 s (fun x101 s102 => (tO s102 2 x101 ∧ (tX s102 0 (tR s102 x101 1) x1 ∧ (tO s102 0 x0 ∧ (v_X0_beforeOf x0 x1 s102 (fun x106 s107 => (tO s107 0 x0 ∧ (v_X0_earns N x0 x1 (tI s102 (tR s102 x101 1) x1.toNatClampNeg) x106 s107 (fun x109 s110 => (Kr x109 s110))))))))))))
theorem e_X0_earnsHere {G : xG} {l : Launch} {g : xH} {d : Nat} {N : tP} (hN : tNs G N) (hd : 2 * N.2.1 + 18 ≤ d) {x0 : Nat} {x1 : Int32} {s : tM} {Kr : Int32 → tM → Prop} (h : v_X0_earnsHere N x0 x1 s Kr) : xC G l kX0_earnsHere d 0 0 [rfv x0, .int x1] (tH G g s) (tQ G g wi Kr tNo) := by
  obtain ⟨d, rfl⟩ : ∃ z, d = z + 1 := ⟨d - 1, by omega⟩
  refine t_start rfl (by decide +kernel) (by simp [xct_i, xct_l, rfv_c]) (lv := [some (rfv x0), some (.int x1)]) (by simp [lv_args, xLv, rfv_c, xct_i, xct_l]) ?_
  unfold v_X0_earnsHere at h
  refine t_aload_0 dX0_earnsHere_0 ?_
  refine x_iload_1 dX0_earnsHere_1 ?_
  refine t_aload_0 dX0_earnsHere_2 ?_
  obtain ⟨e103, h⟩ := h
  refine t_cVr (As := []) rfl cv_X0_157 rfl e103 rfl rfl (xrm4 (Nat.le_of_ble_eq_true rfl)) dX0_earnsHere_3 (e_X0_books (by omega) h) ⟨Nat.zero_le _, Nat.zero_le _⟩ (fun _ _ _ h => h.elim) (fun x101 s102 h => ?_)
  obtain ⟨e104, h⟩ := h
  refine t_getR dX0_earnsHere_6 fa_X0_163_2 (by decide) e104 ?_
  refine x_iload_1 dX0_earnsHere_9 ?_
  obtain ⟨e105, h⟩ := h
  refine t_iald dX0_earnsHere_10 e105 ?_
  refine t_aload_0 dX0_earnsHere_11 ?_
  refine x_iload_1 dX0_earnsHere_12 ?_
  obtain ⟨e108, h⟩ := h
  refine t_cVi (As := [_]) rfl cv_X0_286 rfl e108 rfl rfl (xrm4 (Nat.le_of_ble_eq_true rfl)) dX0_earnsHere_13 (e_X0_beforeOf (by omega) h) ⟨Nat.zero_le _, Nat.zero_le _⟩ (fun _ _ _ h => h.elim) (fun x106 s107 h => ?_)
  obtain ⟨e111, h⟩ := h
  refine t_cVi (As := [_, _, _]) rfl cv_X0_293 rfl e111 rfl rfl (xrm4 (Nat.le_of_ble_eq_true rfl)) dX0_earnsHere_16 (e_X0_earns hN (by omega) h) ⟨Nat.zero_le _, Nat.zero_le _⟩ (fun _ _ _ h => h.elim) (fun x109 s110 h => ?_)
  exact x_iret dX0_earnsHere_19 rfl (Or.inl ⟨_, _, h, rfl, rfl⟩)
