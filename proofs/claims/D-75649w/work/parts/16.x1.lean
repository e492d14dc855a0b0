set_option maxRecDepth 100000
def v_X7_part_78 (N : tP) (rc : Nat → Nat → Nat → Nat → tM → (Nat → tM → Prop) → (String → Nat → tM → Prop) → Prop) (x0 : Nat) (x1 : Int32) (y0 : Nat) (y1 : Int32) (Kr : Nat → tM → Prop) (Kx : String → Nat → tM → Prop) (k n : Nat) (s : tM) : Prop :=
  (∃ c103 c104 : Nat, c103 ≤ k ∧ c104 ≤ n ∧ (tE s 7 18 y0 ∧ (v_X7_must N y0 y1 c103 c104 s (fun s102 => ((¬ x1 = (-1) → (∃ c111 c112 : Nat, c111 ≤ k - c103 ∧ c112 ≤ n - c104 ∧ (tE s102 7 18 x0 ∧ (v_X7_leaf N x0 c111 c112 s102 (fun s110 => (tE s110 7 18 x0 ∧ (v_X7_next N x0 s110 (fun s117 => (∃ c121 c122 : Nat, c121 ≤ (k - c103) - c111 ∧ c122 ≤ (n - c104) - c112 ∧ (v_U_behindWord N x0 x1 c121 c122 s117 (fun x119 s120 => (Kr x119 s120)) Kx)))))) Kx)))) ∧ (x1 = (-1) → (∃ c127 c128 : Nat, c127 ≤ k - c103 ∧ c128 ≤ n - c104 ∧ (tE s102 7 18 x0 ∧ (v_X7_leaf N x0 c127 c128 s102 (fun s126 => (1 ≤ ((k - c103) - c127) ∧ (1 ≤ ((n - c104) - c128) ∧ (∀ q134 : Nat, s126.1 q134 = none → ¬ q134 = 0 → ¬ q134 = N.2.2 200 → (∀ s135 : tM, s135 = tNew s126 q134 (.inl 9) → (∃ c140 c141 : Nat, c140 ≤ ((k - c103) - c127) - 1 ∧ c141 ≤ ((n - c104) - c128) - 1 ∧ (tE s135 7 18 x0 ∧ (v_X7_number N x0 1000 c140 c141 s135 (fun x138 s139 => (tO s139 9 q134 ∧ (v_X11_init q134 x138 s139 (fun s146 => (Kr q134 s146))))) Kx)))))))) Kx)))))) Kx)))
theorem e_X7_part_78 {G : xG} {l : Launch} {g : xH} {d : Nat} {N : tP} (hN : tNs G N) (hd : 12 ≤ d) {rc : Nat → Nat → Nat → Nat → tM → (Nat → tM → Prop) → (String → Nat → tM → Prop) → Prop} (ih0 : ∀ (x0 : Nat) (k n : Nat) (s : tM) (Kr : Nat → tM → Prop) (Kx : String → Nat → tM → Prop), rc 0 x0 k n s Kr Kx → xC G l kX7_part d k n [rfv x0] (tH G g s) (tQ G g wr Kr Kx)) (ih1 : ∀ (x0 : Nat) (k n : Nat) (s : tM) (Kr : Nat → tM → Prop) (Kx : String → Nat → tM → Prop), rc 1 x0 k n s Kr Kx → xC G l kX7_sum d k n [rfv x0] (tH G g s) (tQ G g wr Kr Kx)) (ih2 : ∀ (x0 : Nat) (k n : Nat) (s : tM) (Kr : Nat → tM → Prop) (Kx : String → Nat → tM → Prop), rc 2 x0 k n s Kr Kx → xC G l kX7_term d k n [rfv x0] (tH G g s) (tQ G g wr Kr Kx)) (x0 : Nat) (x1 : Int32) (y0 : Nat) (y1 : Int32) (Kr : Nat → tM → Prop) (Kx : String → Nat → tM → Prop) (k n : Nat) (s : tM) (h : v_X7_part_78 N rc x0 x1 y0 y1 Kr Kx k n s) : xF G l kX7_part (d + 1) k n (tQ G g wr Kr Kx) 78 [some (rfv x0), some (.int x1)] [.int y1, rfv y0] (tH G g s) := by
  unfold v_X7_part_78 at h
  obtain ⟨c103, c104, e105, e106, h⟩ := h
  obtain ⟨e107, h⟩ := h
  refine t_cDv (As := [_]) rfl (e107.elim (fun e => ⟨_, 7, _, _, _, _, _, xcl_X8.1, cu_X7_28_7, e, (e_X7_must hN (by omega) h)⟩) (fun e => ⟨_, 18, _, _, _, _, _, xcl_X21.1, cu_X7_28_18, e, (e_X7_must hN (by omega) h)⟩)) rfl rfl (xrm4 (Nat.le_of_ble_eq_true rfl)) dX7_part_78 ⟨e105, e106⟩ (fun E q m1 h => Or.inr ⟨E, q, m1, h, rfl, rfl⟩) (fun _ s102 h => ?_)
  refine x_iload_1 dX7_part_81 ?_
  refine x_iconst (v := (-1)) dX7_part_82 (by decide) ?_
  refine x_icmp_ne 105 dX7_part_83 (by decide) (fun c108 => ?_) (fun c108 => ?_)
  · have h := h.1 c108
    refine t_aload_0 dX7_part_105 ?_
    obtain ⟨c111, c112, e113, e114, h⟩ := h
    obtain ⟨e115, h⟩ := h
    refine t_cDv (As := []) rfl (e115.elim (fun e => ⟨_, 7, _, _, _, _, _, xcl_X8.1, cu_X7_181_7, e, (e_X7_leaf hN (by omega) h)⟩) (fun e => ⟨_, 18, _, _, _, _, _, xcl_X21.1, cu_X7_181_18, e, (e_X7_leaf hN (by omega) h)⟩)) rfl rfl (xrm4 (Nat.le_of_ble_eq_true rfl)) dX7_part_106 ⟨e113, e114⟩ (fun E q m1 h => Or.inr ⟨E, q, m1, h, rfl, rfl⟩) (fun _ s110 h => ?_)
    refine t_aload_0 dX7_part_109 ?_
    obtain ⟨e118, h⟩ := h
    refine t_cDv (As := []) rfl (e118.elim (fun e => ⟨_, 7, _, _, _, _, _, xcl_X8.1, cu_X7_25_7, e, (e_X7_next hN (by omega) h)⟩) (fun e => ⟨_, 18, _, _, _, _, _, xcl_X21.1, cu_X7_25_18, e, (e_X7_next hN (by omega) h)⟩)) rfl rfl (xrm4 (Nat.le_of_ble_eq_true rfl)) dX7_part_110 ⟨Nat.zero_le _, Nat.zero_le _⟩ (fun _ _ _ h => h.elim) (fun _ s117 h => ?_)
    refine t_aload_0 dX7_part_113 ?_
    refine x_iload_1 dX7_part_114 ?_
    obtain ⟨c121, c122, e123, e124, h⟩ := h
    refine t_cDr (As := [_]) rfl ((fun e => e.elim (fun e => ⟨_, 7, _, _, _, _, _, xcl_X8.1, cu_X7_191_7, e.1, e.2⟩) (fun e => ⟨_, 18, _, _, _, _, _, xcl_X21.1, cu_X7_191_18, e.1, e.2⟩)) (e_U_behindWord hN (by omega) h)) rfl rfl (xrm4 (Nat.le_of_ble_eq_true rfl)) dX7_part_115 ⟨e123, e124⟩ (fun E q m1 h => Or.inr ⟨E, q, m1, h, rfl, rfl⟩) (fun x119 s120 h => ?_)
    exact t_aret dX7_part_118 rfl (by first | exact Or.inl ⟨_, rfl⟩ | exact Or.inr ⟨_, rfl⟩) (Or.inl ⟨_, _, h, rfl, rfl⟩)
  · have h := h.2 c108
    refine t_aload_0 dX7_part_86 ?_
    obtain ⟨c127, c128, e129, e130, h⟩ := h
    obtain ⟨e131, h⟩ := h
    refine t_cDv (As := []) rfl (e131.elim (fun e => ⟨_, 7, _, _, _, _, _, xcl_X8.1, cu_X7_181_7, e, (e_X7_leaf hN (by omega) h)⟩) (fun e => ⟨_, 18, _, _, _, _, _, xcl_X21.1, cu_X7_181_18, e, (e_X7_leaf hN (by omega) h)⟩)) rfl rfl (xrm4 (Nat.le_of_ble_eq_true rfl)) dX7_part_87 ⟨e129, e130⟩ (fun E q m1 h => Or.inr ⟨E, q, m1, h, rfl, rfl⟩) (fun _ s126 h => ?_)
    obtain ⟨e132, h⟩ := h
    obtain ⟨e133, h⟩ := h
    refine t_new (N := 1) dX7_part_90 ne_X7_184 rfl e132 e133 (fun q h1 h2 h3 => ?_)
    have h := h q h1 h2 (fun e => h3 (e.trans (hN 200)))
    refine t_gen h (fun s135 w136 h => ?_)
    have e137 := h2
    refine x_dup dX7_part_93 (rfv_c _) ?_
    refine t_aload_0 dX7_part_94 ?_
    refine x_sipush (v := 1000) dX7_part_95 (by decide) ?_
    obtain ⟨c140, c141, e142, e143, h⟩ := h
    obtain ⟨e144, h⟩ := h
    refine t_cDi (As := [_]) rfl (e144.elim (fun e => ⟨_, 7, _, _, _, _, _, xcl_X8.1, cu_X7_186_7, e, (e_X7_number hN (by omega) h)⟩) (fun e => ⟨_, 18, _, _, _, _, _, xcl_X21.1, cu_X7_186_18, e, (e_X7_number hN (by omega) h)⟩)) rfl rfl (xrm4 (Nat.le_of_ble_eq_true rfl)) dX7_part_98 ⟨e142, e143⟩ (fun E q m1 h => Or.inr ⟨E, q, m1, h, rfl, rfl⟩) (fun x138 s139 h => ?_)
    obtain ⟨e147, h⟩ := h
    refine t_cI (As := [_]) rfl ci_X7_190 e147.2 rfl rfl (xrm4 (Nat.le_of_ble_eq_true rfl)) dX7_part_101 (e_X11_init (by omega) h) ⟨Nat.zero_le _, Nat.zero_le _⟩ (fun _ _ _ h => h.elim) (fun _ s146 h => ?_)
    exact t_aret dX7_part_104 rfl (by first | exact Or.inl ⟨_, rfl⟩ | exact Or.inr ⟨_, rfl⟩) (Or.inl ⟨_, _, h, rfl, rfl⟩)
def v_X7_part_77 (N : tP) (rc : Nat → Nat → Nat → Nat → tM → (Nat → tM → Prop) → (String → Nat → tM → Prop) → Prop) (x0 : Nat) (x1 : Int32) (y0 : Nat) (Kr : Nat → tM → Prop) (Kx : String → Nat → tM → Prop) (k n : Nat) (s : tM) : Prop :=
  (v_X7_part_78 N rc x0 x1 y0 0 Kr Kx k n s)
theorem e_X7_part_77 {G : xG} {l : Launch} {g : xH} {d : Nat} {N : tP} (hN : tNs G N) (hd : 12 ≤ d) {rc : Nat → Nat → Nat → Nat → tM → (Nat → tM → Prop) → (String → Nat → tM → Prop) → Prop} (ih0 : ∀ (x0 : Nat) (k n : Nat) (s : tM) (Kr : Nat → tM → Prop) (Kx : String → Nat → tM → Prop), rc 0 x0 k n s Kr Kx → xC G l kX7_part d k n [rfv x0] (tH G g s) (tQ G g wr Kr Kx)) (ih1 : ∀ (x0 : Nat) (k n : Nat) (s : tM) (Kr : Nat → tM → Prop) (Kx : String → Nat → tM → Prop), rc 1 x0 k n s Kr Kx → xC G l kX7_sum d k n [rfv x0] (tH G g s) (tQ G g wr Kr Kx)) (ih2 : ∀ (x0 : Nat) (k n : Nat) (s : tM) (Kr : Nat → tM → Prop) (Kx : String → Nat → tM → Prop), rc 2 x0 k n s Kr Kx → xC G l kX7_term d k n [rfv x0] (tH G g s) (tQ G g wr Kr Kx)) (x0 : Nat) (x1 : Int32) (y0 : Nat) (Kr : Nat → tM → Prop) (Kx : String → Nat → tM → Prop) (k n : Nat) (s : tM) (h : v_X7_part_77 N rc x0 x1 y0 Kr Kx k n s) : xF G l kX7_part (d + 1) k n (tQ G g wr Kr Kx) 77 [some (rfv x0), some (.int x1)] [rfv y0] (tH G g s) := by
  unfold v_X7_part_77 at h
  refine x_iconst (v := 0) dX7_part_77 (by decide) ?_
  exact x_le (xLe_cons (xLe_cons (xLe_nil))) (e_X7_part_78 hN (by omega) ih0 ih1 ih2 _ _ _ _ _ _ _ _ _ h)
def v_X7_part_73 (N : tP) (rc : Nat → Nat → Nat → Nat → tM → (Nat → tM → Prop) → (String → Nat → tM → Prop) → Prop) (x0 : Nat) (x1 : Int32) (y0 : Nat) (Kr : Nat → tM → Prop) (Kx : String → Nat → tM → Prop) (k n : Nat) (s : tM) : Prop :=
  (v_X7_part_78 N rc x0 x1 y0 1 Kr Kx k n s)
theorem e_X7_part_73 {G : xG} {l : Launch} {g : xH} {d : Nat} {N : tP} (hN : tNs G N) (hd : 12 ≤ d) {rc : Nat → Nat → Nat → Nat → tM → (Nat → tM → Prop) → (String → Nat → tM → Prop) → Prop} (ih0 : ∀ (x0 : Nat) (k n : Nat) (s : tM) (Kr : Nat → tM → Prop) (Kx : String → Nat → tM → Prop), rc 0 x0 k n s Kr Kx → xC G l kX7_part d k n [rfv x0] (tH G g s) (tQ G g wr Kr Kx)) (ih1 : ∀ (x0 : Nat) (k n : Nat) (s : tM) (Kr : Nat → tM → Prop) (Kx : String → Nat → tM → Prop), rc 1 x0 k n s Kr Kx → xC G l kX7_sum d k n [rfv x0] (tH G g s) (tQ G g wr Kr Kx)) (ih2 : ∀ (x0 : Nat) (k n : Nat) (s : tM) (Kr : Nat → tM → Prop) (Kx : String → Nat → tM → Prop), rc 2 x0 k n s Kr Kx → xC G l kX7_term d k n [rfv x0] (tH G g s) (tQ G g wr Kr Kx)) (x0 : Nat) (x1 : Int32) (y0 : Nat) (Kr : Nat → tM → Prop) (Kx : String → Nat → tM → Prop) (k n : Nat) (s : tM) (h : v_X7_part_73 N rc x0 x1 y0 Kr Kx k n s) : xF G l kX7_part (d + 1) k n (tQ G g wr Kr Kx) 73 [some (rfv x0), some (.int x1)] [rfv y0] (tH G g s) := by
  unfold v_X7_part_73 at h
  refine x_iconst (v := 1) dX7_part_73 (by decide) ?_
  refine x_goto 78 dX7_part_74 (by decide) ?_
  exact x_le (xLe_cons (xLe_cons (xLe_nil))) (e_X7_part_78 hN (by omega) ih0 ih1 ih2 _ _ _ _ _ _ _ _ _ h)
def v_X7_part (N : tP) (rc : Nat → Nat → Nat → Nat → tM → (Nat → tM → Prop) → (String → Nat → tM → Prop) → Prop) (x0 : Nat) (k n : Nat) (s : tM) (Kr : Nat → tM → Prop) (Kx : String → Nat → tM → Prop) : Prop :=
  (tE s 7 18 x0 ∧ (v_X7_isWord N x0 (N.2.2 13) s (fun x101 s102 => ((x101 = 0 → (tE s102 7 18 x0 ∧ (v_X7_which N x0 (tR s102 x0 6) s102 (fun x106 s107 => ((¬ x106 = (-1) → (v_X7_part_73 N rc x0 x106 x0 Kr Kx k n s107)) ∧ (x106 = (-1) → (tE s107 7 18 x0 ∧ (tO s107 0 (tR s107 x0 7) ∧ (((tI s107 (tR s107 x0 7) 15) ≤ (tI s107 x0 0) → (v_X7_part_77 N rc x0 x106 x0 Kr Kx k n s107)) ∧ (¬ (tI s107 (tR s107 x0 7) 15) ≤ (tI s107 x0 0) → (tX s107 2 (tR s107 (tR s107 x0 7) 14) (tI s107 x0 0) ∧ (v_X0_isDigit (tI s107 (tR s107 (tR s107 x0 7) 14) (tI s107 x0 0).toNatClampNeg) s107 (fun x113 s114 => ((x113 = 0 → (v_X7_part_77 N rc x0 x106 x0 Kr Kx k n s114)) ∧ (¬ x113 = 0 → (v_X7_part_73 N rc x0 x106 x0 Kr Kx k n s114)))))))))))))))) ∧ (¬ x101 = 0 → (∃ c118 c119 : Nat, c118 ≤ k ∧ c119 ≤ n ∧ (tE s102 7 18 x0 ∧ (v_X7_open N x0 c118 c119 s102 (fun s117 => (∃ c125 c126 : Nat, c125 ≤ k - c118 ∧ c126 ≤ n - c119 ∧ (tE s117 7 18 x0 ∧ (rc 1 x0 c125 c126 s117 (fun x123 s124 => (∃ c132 c133 : Nat, c132 ≤ (k - c118) - c125 ∧ c133 ≤ (n - c119) - c126 ∧ (tE s124 7 18 x0 ∧ (v_X7_close N x0 (N.2.2 14) c132 c133 s124 (fun s131 => (Kr x123 s131)) Kx)))) Kx)))) Kx))))))))
theorem eb_X7_part {G : xG} {l : Launch} {g : xH} {d : Nat} {N : tP} (hN : tNs G N) (hd : 12 ≤ d) {rc : Nat → Nat → Nat → Nat → tM → (Nat → tM → Prop) → (String → Nat → tM → Prop) → Prop} (ih0 : ∀ (x0 : Nat) (k n : Nat) (s : tM) (Kr : Nat → tM → Prop) (Kx : String → Nat → tM → Prop), rc 0 x0 k n s Kr Kx → xC G l kX7_part d k n [rfv x0] (tH G g s) (tQ G g wr Kr Kx)) (ih1 : ∀ (x0 : Nat) (k n : Nat) (s : tM) (Kr : Nat → tM → Prop) (Kx : String → Nat → tM → Prop), rc 1 x0 k n s Kr Kx → xC G l kX7_sum d k n [rfv x0] (tH G g s) (tQ G g wr Kr Kx)) (ih2 : ∀ (x0 : Nat) (k n : Nat) (s : tM) (Kr : Nat → tM → Prop) (Kx : String → Nat → tM → Prop), rc 2 x0 k n s Kr Kx → xC G l kX7_term d k n [rfv x0] (tH G g s) (tQ G g wr Kr Kx)) {x0 : Nat} {k n : Nat} {s : tM} {Kr : Nat → tM → Prop} {Kx : String → Nat → tM → Prop} (h : v_X7_part N rc x0 k n s Kr Kx) : xC G l kX7_part (d + 1) k n [rfv x0] (tH G g s) (tQ G g wr Kr Kx) := by
  refine t_start rfl (by decide +kernel) (by simp [xct_i, xct_l, rfv_c]) (lv := [some (rfv x0), none]) (by simp [lv_args, xLv, rfv_c, xct_i, xct_l]) ?_
  unfold v_X7_part at h
  refine t_aload_0 dX7_part_0 ?_
  refine t_ldcN hN dX7_part_1 (i := 13) ⟨13, rfl⟩ ?_
  obtain ⟨e103, h⟩ := h
  refine t_cDi (As := [_]) rfl (e103.elim (fun e => ⟨_, 7, _, _, _, _, _, xcl_X8.1, cu_X7_73_7, e, (e_X7_isWord hN (by omega) h)⟩) (fun e => ⟨_, 18, _, _, _, _, _, xcl_X21.1, cu_X7_73_18, e, (e_X7_isWord hN (by omega) h)⟩)) rfl rfl (xrm4 (Nat.le_of_ble_eq_true rfl)) dX7_part_3 ⟨Nat.zero_le _, Nat.zero_le _⟩ (fun _ _ _ h => h.elim) (fun x101 s102 h => ?_)
  refine x_if_eq 26 dX7_part_6 (by decide) (fun c104 => ?_) (fun c104 => ?_)
  · have h := h.1 c104
    refine t_aload_0 dX7_part_26 ?_
    refine t_aload_0 dX7_part_27 ?_
    obtain ⟨e105, h⟩ := h
    refine t_getR2 (j := 6) dX7_part_28 ⟨fa_X7_21_7, fa_X7_21_18⟩ (by decide) e105 ?_
    refine t_cDi (As := [_]) rfl (e105.elim (fun e => ⟨_, 7, _, _, _, _, _, xcl_X8.1, cu_X7_177_7, e, (e_X7_which hN (by omega) h)⟩) (fun e => ⟨_, 18, _, _, _, _, _, xcl_X21.1, cu_X7_177_18, e, (e_X7_which hN (by omega) h)⟩)) rfl rfl (xrm4 (Nat.le_of_ble_eq_true rfl)) dX7_part_31 ⟨Nat.zero_le _, Nat.zero_le _⟩ (fun _ _ _ h => h.elim) (fun x106 s107 h => ?_)
    refine x_istore_1 dX7_part_34 (by decide) xN2_f ?_
    refine t_aload_0 dX7_part_35 ?_
    refine x_iload_1 dX7_part_36 ?_
    refine x_iconst (v := (-1)) dX7_part_37 (by decide) ?_
    refine x_icmp_ne 73 dX7_part_38 (by decide) (fun c108 => ?_) (fun c108 => ?_)
    · have h := h.1 c108
      exact x_le (xLe_cons (xLe_cons (xLe_nil))) (e_X7_part_73 hN (by omega) ih0 ih1 ih2 _ _ _ _ _ _ _ _ h)
    · have h := h.2 c108
      refine t_aload_0 dX7_part_41 ?_
      obtain ⟨e109, h⟩ := h
      refine t_getI2 (j := 0) dX7_part_42 ⟨fa_X7_42_7, fa_X7_42_18⟩ (by decide) e109 ?_
      refine t_aload_0 dX7_part_45 ?_
      refine t_getR2 (j := 7) dX7_part_46 ⟨fa_X7_3_7, fa_X7_3_18⟩ (by decide) e109 ?_
      obtain ⟨e110, h⟩ := h
      refine t_getI dX7_part_49 fa_X7_46_0 (by decide) e110 ?_
      refine x_icmp_ge 77 dX7_part_52 (by decide) (fun c111 => ?_) (fun c111 => ?_)
      · have h := h.1 c111
        exact x_le (xLe_cons (xLe_cons (xLe_nil))) (e_X7_part_77 hN (by omega) ih0 ih1 ih2 _ _ _ _ _ _ _ _ h)
      · have h := h.2 c111
        refine t_aload_0 dX7_part_55 ?_
        refine t_getR2 (j := 7) dX7_part_56 ⟨fa_X7_3_7, fa_X7_3_18⟩ (by decide) e109 ?_
        refine t_getR dX7_part_59 fa_X7_52_0 (by decide) e110 ?_
        refine t_aload_0 dX7_part_62 ?_
        refine t_getI2 (j := 0) dX7_part_63 ⟨fa_X7_42_7, fa_X7_42_18⟩ (by decide) e109 ?_
        obtain ⟨e112, h⟩ := h
        refine t_bald dX7_part_66 e112 ?_
        refine t_cSNi (As := [_]) rfl csn_X7_60 rfl rfl (xrm4 (Nat.le_of_ble_eq_true rfl)) dX7_part_67 (e_X0_isDigit (by omega) h) ⟨Nat.zero_le _, Nat.zero_le _⟩ (fun _ _ _ h => h.elim) (fun x113 s114 h => ?_)
        refine x_if_eq 77 dX7_part_70 (by decide) (fun c115 => ?_) (fun c115 => ?_)
        · have h := h.1 c115
          exact x_le (xLe_cons (xLe_cons (xLe_nil))) (e_X7_part_77 hN (by omega) ih0 ih1 ih2 _ _ _ _ _ _ _ _ h)
        · have h := h.2 c115
          exact x_le (xLe_cons (xLe_cons (xLe_nil))) (e_X7_part_73 hN (by omega) ih0 ih1 ih2 _ _ _ _ _ _ _ _ h)
  · have h := h.2 c104
    refine t_aload_0 dX7_part_9 ?_
    obtain ⟨c118, c119, e120, e121, h⟩ := h
    obtain ⟨e122, h⟩ := h
    refine t_cDv (As := []) rfl (e122.elim (fun e => ⟨_, 7, _, _, _, _, _, xcl_X8.1, cu_X7_123_7, e, (e_X7_open hN (by omega) h)⟩) (fun e => ⟨_, 18, _, _, _, _, _, xcl_X21.1, cu_X7_123_18, e, (e_X7_open hN (by omega) h)⟩)) rfl rfl (xrm4 (Nat.le_of_ble_eq_true rfl)) dX7_part_10 ⟨e120, e121⟩ (fun E q m1 h => Or.inr ⟨E, q, m1, h, rfl, rfl⟩) (fun _ s117 h => ?_)
    refine t_aload_0 dX7_part_13 ?_
    obtain ⟨c125, c126, e127, e128, h⟩ := h
    obtain ⟨e129, h⟩ := h
    refine t_cDr (As := []) rfl (e129.elim (fun e => ⟨_, 7, _, _, _, _, _, xcl_X8.1, cu_X7_135_7, e, (ih1 _ _ _ _ _ _  h)⟩) (fun e => ⟨_, 18, _, _, _, _, _, xcl_X21.1, cu_X7_135_18, e, (ih1 _ _ _ _ _ _  h)⟩)) rfl rfl (xrm4 (Nat.le_of_ble_eq_true rfl)) dX7_part_14 ⟨e127, e128⟩ (fun E q m1 h => Or.inr ⟨E, q, m1, h, rfl, rfl⟩) (fun x123 s124 h => ?_)
    refine t_astore_1 dX7_part_17 (by decide) xN2_f ?_
    refine t_aload_0 dX7_part_18 ?_
    refine t_ldcN hN dX7_part_19 (i := 14) ⟨14, rfl⟩ ?_
    obtain ⟨c132, c133, e134, e135, h⟩ := h
    obtain ⟨e136, h⟩ := h
    refine t_cDv (As := [_]) rfl (e136.elim (fun e => ⟨_, 7, _, _, _, _, _, xcl_X8.1, cu_X7_131_7, e, (e_X7_close hN (by omega) h)⟩) (fun e => ⟨_, 18, _, _, _, _, _, xcl_X21.1, cu_X7_131_18, e, (e_X7_close hN (by omega) h)⟩)) rfl rfl (xrm4 (Nat.le_of_ble_eq_true rfl)) dX7_part_21 ⟨e134, e135⟩ (fun E q m1 h => Or.inr ⟨E, q, m1, h, rfl, rfl⟩) (fun _ s131 h => ?_)
    refine t_aload_1 dX7_part_24 ?_
    exact t_aret dX7_part_25 rfl (by first | exact Or.inl ⟨_, rfl⟩ | exact Or.inr ⟨_, rfl⟩) (Or.inl ⟨_, _, h, rfl, rfl⟩)
def v_X7_sum_23 (N : tP) (rc : Nat → Nat → Nat → Nat → tM → (Nat → tM → Prop) → (String → Nat → tM → Prop) → Prop) (x0 : Nat) (x1 : Nat) (Kr : Nat → tM → Prop) (Kx : String → Nat → tM → Prop) (K : Nat → Nat → Nat → tM → Prop) (R : Nat → Nat → Nat → tM → Prop) (k n : Nat) (s : tM) : Prop :=
  (tE s 7 18 x0 ∧ (tO s 0 (tR s x0 7) ∧ (tX s 2 (tR s (tR s x0 7) 14) (tI s x0 0) ∧ (∀ x104 : Int32, x104 = tI s (tR s (tR s x0 7) 14) (tI s x0 0).toNatClampNeg → (v_X7_next N x0 s (fun s106 => (1 ≤ k ∧ (3 ≤ n ∧ (∀ q109 : Nat, s106.1 q109 = none → ¬ q109 = 0 → ¬ q109 = N.2.2 200 → (∀ s110 : tM, s110 = tNew s106 q109 (.inl 12) → (∃ c115 c116 : Nat, c115 ≤ k - 1 ∧ c116 ≤ n - 3 ∧ (tE s110 7 18 x0 ∧ (rc 2 x0 c115 c116 s110 (fun x113 s114 => (tO s114 12 q109 ∧ (v_X14_init q109 x1 x104 x113 s114 (fun s121 => (R q109 ((k - 1) - c115) ((n - 3) - c116) s121))))) Kx)))))))))))))
theorem e_X7_sum_23 {G : xG} {l : Launch} {g : xH} {d : Nat} {N : tP} (hN : tNs G N) (hd : 12 ≤ d) {rc : Nat → Nat → Nat → Nat → tM → (Nat → tM → Prop) → (String → Nat → tM → Prop) → Prop} (ih0 : ∀ (x0 : Nat) (k n : Nat) (s : tM) (Kr : Nat → tM → Prop) (Kx : String → Nat → tM → Prop), rc 0 x0 k n s Kr Kx → xC G l kX7_part d k n [rfv x0] (tH G g s) (tQ G g wr Kr Kx)) (ih1 : ∀ (x0 : Nat) (k n : Nat) (s : tM) (Kr : Nat → tM → Prop) (Kx : String → Nat → tM → Prop), rc 1 x0 k n s Kr Kx → xC G l kX7_sum d k n [rfv x0] (tH G g s) (tQ G g wr Kr Kx)) (ih2 : ∀ (x0 : Nat) (k n : Nat) (s : tM) (Kr : Nat → tM → Prop) (Kx : String → Nat → tM → Prop), rc 2 x0 k n s Kr Kx → xC G l kX7_term d k n [rfv x0] (tH G g s) (tQ G g wr Kr Kx)) (x0 : Nat) (x1 : Nat) (Kr : Nat → tM → Prop) (Kx : String → Nat → tM → Prop) (K : Nat → Nat → Nat → tM → Prop) (R : Nat → Nat → Nat → tM → Prop) (k n : Nat) (s : tM) (h : v_X7_sum_23 N rc x0 x1 Kr Kx K R k n s) (hK : ∀ (z1 : Nat) (k n : Nat) (s : tM), K z1 k n s → xF G l kX7_sum (d + 1) k n (tQ G g wr Kr Kx) 57 [none, some (rfv z1), none] [] (tH G g s)) (hR : ∀ (z1 : Nat) (k n : Nat) (s : tM), R z1 k n s → xF G l kX7_sum (d + 1) k n (tQ G g wr Kr Kx) 5 [some (rfv x0), some (rfv z1), none] [] (tH G g s)) : xF G l kX7_sum (d + 1) k n (tQ G g wr Kr Kx) 23 [some (rfv x0), some (rfv x1), none] [] (tH G g s) := by
  unfold v_X7_sum_23 at h
  refine t_aload_0 dX7_sum_23 ?_
  obtain ⟨e101, h⟩ := h
  refine t_getR2 (j := 7) dX7_sum_24 ⟨fa_X7_3_7, fa_X7_3_18⟩ (by decide) e101 ?_
  obtain ⟨e102, h⟩ := h
  refine t_getR dX7_sum_27 fa_X7_52_0 (by decide) e102 ?_
  refine t_aload_0 dX7_sum_30 ?_
  refine t_getI2 (j := 0) dX7_sum_31 ⟨fa_X7_42_7, fa_X7_42_18⟩ (by decide) e101 ?_
  obtain ⟨e103, h⟩ := h
  refine t_bald dX7_sum_34 e103 ?_
  refine x_istore_2 dX7_sum_35 (by decide) xN2_f ?_
  have h := h _ rfl
  refine t_aload_0 dX7_sum_36 ?_
  refine t_cDv (As := []) rfl (e101.elim (fun e => ⟨_, 7, _, _, _, _, _, xcl_X8.1, cu_X7_25_7, e, (e_X7_next hN (by omega) h)⟩) (fun e => ⟨_, 18, _, _, _, _, _, xcl_X21.1, cu_X7_25_18, e, (e_X7_next hN (by omega) h)⟩)) rfl rfl (xrm4 (Nat.le_of_ble_eq_true rfl)) dX7_sum_37 ⟨Nat.zero_le _, Nat.zero_le _⟩ (fun _ _ _ h => h.elim) (fun _ s106 h => ?_)
  obtain ⟨e107, h⟩ := h
  obtain ⟨e108, h⟩ := h
  refine t_new (N := 3) dX7_sum_40 ne_X7_161 rfl e107 e108 (fun q h1 h2 h3 => ?_)
  have h := h q h1 h2 (fun e => h3 (e.trans (hN 200)))
  refine t_gen h (fun s110 w111 h => ?_)
  have e112 := h2
  refine x_dup dX7_sum_43 (rfv_c _) ?_
  refine t_aload_1 dX7_sum_44 ?_
  refine x_iload_2 dX7_sum_45 ?_
  refine t_aload_0 dX7_sum_46 ?_
  obtain ⟨c115, c116, e117, e118, h⟩ := h
  obtain ⟨e119, h⟩ := h
  refine t_cDr (As := []) rfl (e119.elim (fun e => ⟨_, 7, _, _, _, _, _, xcl_X8.1, cu_X7_154_7, e, (ih2 _ _ _ _ _ _  h)⟩) (fun e => ⟨_, 18, _, _, _, _, _, xcl_X21.1, cu_X7_154_18, e, (ih2 _ _ _ _ _ _  h)⟩)) rfl rfl (xrm4 (Nat.le_of_ble_eq_true rfl)) dX7_sum_47 ⟨e117, e118⟩ (fun E q m1 h => Or.inr ⟨E, q, m1, h, rfl, rfl⟩) (fun x113 s114 h => ?_)
  obtain ⟨e122, h⟩ := h
  refine t_cI (As := [_, _, _]) rfl ci_X7_163 e122.2 rfl rfl (xrm4 (Nat.le_of_ble_eq_true rfl)) dX7_sum_50 (e_X14_init (by omega) h) ⟨Nat.zero_le _, Nat.zero_le _⟩ (fun _ _ _ h => h.elim) (fun _ s121 h => ?_)
  refine t_astore_1 dX7_sum_53 (by decide) xN2_f ?_
  refine x_goto 5 dX7_sum_54 (by decide) ?_
  exact x_le (xLe_cons (xLe_cons (xLe_none (xLe_nil)))) (hR _ _ _ _ h)
def v_X7_sum_5 (N : tP) (rc : Nat → Nat → Nat → Nat → tM → (Nat → tM → Prop) → (String → Nat → tM → Prop) → Prop) (x0 : Nat) (Kr : Nat → tM → Prop) (Kx : String → Nat → tM → Prop) (K : Nat → Nat → Nat → tM → Prop) : Nat → Nat → Nat → Nat → tM → Prop
  | 0, _, _, _, _ => False
  | t + 1, x1, k, n, s => (tE s 7 18 x0 ∧ (v_X7_isWord N x0 (N.2.2 18) s (fun x101 s102 => ((¬ x101 = 0 → (v_X7_sum_23 N rc x0 x1 Kr Kx K (fun x1 k n s => v_X7_sum_5 N rc x0 Kr Kx K t x1 k n s) k n s102)) ∧ (x101 = 0 → (tE s102 7 18 x0 ∧ (v_X7_isWord N x0 (N.2.2 19) s102 (fun x105 s106 => ((x105 = 0 → (K x1 k n s106)) ∧ (¬ x105 = 0 → (v_X7_sum_23 N rc x0 x1 Kr Kx K (fun x1 k n s => v_X7_sum_5 N rc x0 Kr Kx K t x1 k n s) k n s106)))))))))))
theorem e_X7_sum_5 {G : xG} {l : Launch} {g : xH} {d : Nat} {N : tP} (hN : tNs G N) (hd : 12 ≤ d) {rc : Nat → Nat → Nat → Nat → tM → (Nat → tM → Prop) → (String → Nat → tM → Prop) → Prop} (ih0 : ∀ (x0 : Nat) (k n : Nat) (s : tM) (Kr : Nat → tM → Prop) (Kx : String → Nat → tM → Prop), rc 0 x0 k n s Kr Kx → xC G l kX7_part d k n [rfv x0] (tH G g s) (tQ G g wr Kr Kx)) (ih1 : ∀ (x0 : Nat) (k n : Nat) (s : tM) (Kr : Nat → tM → Prop) (Kx : String → Nat → tM → Prop), rc 1 x0 k n s Kr Kx → xC G l kX7_sum d k n [rfv x0] (tH G g s) (tQ G g wr Kr Kx)) (ih2 : ∀ (x0 : Nat) (k n : Nat) (s : tM) (Kr : Nat → tM → Prop) (Kx : String → Nat → tM → Prop), rc 2 x0 k n s Kr Kx → xC G l kX7_term d k n [rfv x0] (tH G g s) (tQ G g wr Kr Kx)) (x0 : Nat) (Kr : Nat → tM → Prop) (Kx : String → Nat → tM → Prop) (K : Nat → Nat → Nat → tM → Prop) : ∀ (t : Nat) (x1 : Nat) (k n : Nat) (s : tM) , v_X7_sum_5 N rc x0 Kr Kx K t x1 k n s → (∀ (z1 : Nat) (k n : Nat) (s : tM), K z1 k n s → xF G l kX7_sum (d + 1) k n (tQ G g wr Kr Kx) 57 [none, some (rfv z1), none] [] (tH G g s)) → xF G l kX7_sum (d + 1) k n (tQ G g wr Kr Kx) 5 [some (rfv x0), some (rfv x1), none] [] (tH G g s) := by
  intro t
  induction t with
  | zero =>
    intro _ _ _ _ h _
    exact absurd h (by simp [v_X7_sum_5])
  | succ t ih =>
    intro x1 k n s h hK
    have hR := fun x1 k n s h => ih x1 k n s h hK
    unfold v_X7_sum_5 at h
    refine t_aload_0 dX7_sum_5 ?_
    refine t_ldcN hN dX7_sum_6 (i := 18) ⟨18, rfl⟩ ?_
    obtain ⟨e103, h⟩ := h
    refine t_cDi (As := [_]) rfl (e103.elim (fun e => ⟨_, 7, _, _, _, _, _, xcl_X8.1, cu_X7_73_7, e, (e_X7_isWord hN (by omega) h)⟩) (fun e => ⟨_, 18, _, _, _, _, _, xcl_X21.1, cu_X7_73_18, e, (e_X7_isWord hN (by omega) h)⟩)) rfl rfl (xrm4 (Nat.le_of_ble_eq_true rfl)) dX7_sum_8 ⟨Nat.zero_le _, Nat.zero_le _⟩ (fun _ _ _ h => h.elim) (fun x101 s102 h => ?_)
    refine x_if_ne 23 dX7_sum_11 (by decide) (fun c104 => ?_) (fun c104 => ?_)
    · have h := h.1 c104
      exact x_le (xLe_cons (xLe_cons (xLe_cons (xLe_nil)))) (e_X7_sum_23 hN (by omega) ih0 ih1 ih2 _ _ _ _ _ _ _ _ _ h hK hR)
    · have h := h.2 c104
      refine t_aload_0 dX7_sum_14 ?_
      refine t_ldcN hN dX7_sum_15 (i := 19) ⟨19, rfl⟩ ?_
      obtain ⟨e107, h⟩ := h
      refine t_cDi (As := [_]) rfl (e107.elim (fun e => ⟨_, 7, _, _, _, _, _, xcl_X8.1, cu_X7_73_7, e, (e_X7_isWord hN (by omega) h)⟩) (fun e => ⟨_, 18, _, _, _, _, _, xcl_X21.1, cu_X7_73_18, e, (e_X7_isWord hN (by omega) h)⟩)) rfl rfl (xrm4 (Nat.le_of_ble_eq_true rfl)) dX7_sum_17 ⟨Nat.zero_le _, Nat.zero_le _⟩ (fun _ _ _ h => h.elim) (fun x105 s106 h => ?_)
      refine x_if_eq 57 dX7_sum_20 (by decide) (fun c108 => ?_) (fun c108 => ?_)
      · have h := h.1 c108
        exact x_le (xLe_none (xLe_cons (xLe_cons (xLe_nil)))) (hK _ _ _ _ h)
      · have h := h.2 c108
        exact x_le (xLe_cons (xLe_cons (xLe_cons (xLe_nil)))) (e_X7_sum_23 hN (by omega) ih0 ih1 ih2 _ _ _ _ _ _ _ _ _ h hK hR)
def v_X7_sum (N : tP) (rc : Nat → Nat → Nat → Nat → tM → (Nat → tM → Prop) → (String → Nat → tM → Prop) → Prop) (x0 : Nat) (k n : Nat) (s : tM) (Kr : Nat → tM → Prop) (Kx : String → Nat → tM → Prop) : Prop :=
  (∃ c103 c104 : Nat, c103 ≤ k ∧ c104 ≤ n ∧ (tE s 7 18 x0 ∧ (rc 2 x0 c103 c104 s (fun x101 s102 => (v_X7_sum_5 N rc x0 Kr Kx (fun x108 k110 n111 s109 => (Kr x108 s109)) N.1 x101 (k - c103) (n - c104) s102)) Kx)))
theorem eb_X7_sum {G : xG} {l : Launch} {g : xH} {d : Nat} {N : tP} (hN : tNs G N) (hd : 12 ≤ d) {rc : Nat → Nat → Nat → Nat → tM → (Nat → tM → Prop) → (String → Nat → tM → Prop) → Prop} (ih0 : ∀ (x0 : Nat) (k n : Nat) (s : tM) (Kr : Nat → tM → Prop) (Kx : String → Nat → tM → Prop), rc 0 x0 k n s Kr Kx → xC G l kX7_part d k n [rfv x0] (tH G g s) (tQ G g wr Kr Kx)) (ih1 : ∀ (x0 : Nat) (k n : Nat) (s : tM) (Kr : Nat → tM → Prop) (Kx : String → Nat → tM → Prop), rc 1 x0 k n s Kr Kx → xC G l kX7_sum d k n [rfv x0] (tH G g s) (tQ G g wr Kr Kx)) (ih2 : ∀ (x0 : Nat) (k n : Nat) (s : tM) (Kr : Nat → tM → Prop) (Kx : String → Nat → tM → Prop), rc 2 x0 k n s Kr Kx → xC G l kX7_term d k n [rfv x0] (tH G g s) (tQ G g wr Kr Kx)) {x0 : Nat} {k n : Nat} {s : tM} {Kr : Nat → tM → Prop} {Kx : String → Nat → tM → Prop} (h : v_X7_sum N rc x0 k n s Kr Kx) : xC G l kX7_sum (d + 1) k n [rfv x0] (tH G g s) (tQ G g wr Kr Kx) := by
  refine t_start rfl (by decide +kernel) (by simp [xct_i, xct_l, rfv_c]) (lv := [some (rfv x0), none, none]) (by simp [lv_args, xLv, rfv_c, xct_i, xct_l]) ?_
  unfold v_X7_sum at h
  refine t_aload_0 dX7_sum_0 ?_
  obtain ⟨c103, c104, e105, e106, h⟩ := h
  obtain ⟨e107, h⟩ := h
  refine t_cDr (As := []) rfl (e107.elim (fun e => ⟨_, 7, _, _, _, _, _, xcl_X8.1, cu_X7_154_7, e, (ih2 _ _ _ _ _ _  h)⟩) (fun e => ⟨_, 18, _, _, _, _, _, xcl_X21.1, cu_X7_154_18, e, (ih2 _ _ _ _ _ _  h)⟩)) rfl rfl (xrm4 (Nat.le_of_ble_eq_true rfl)) dX7_sum_1 ⟨e105, e106⟩ (fun E q m1 h => Or.inr ⟨E, q, m1, h, rfl, rfl⟩) (fun x101 s102 h => ?_)
  refine t_astore_1 dX7_sum_4 (by decide) xN2_f ?_
  refine x_le (xLe_cons (xLe_cons (xLe_cons (xLe_nil)))) (e_X7_sum_5 hN (by omega) ih0 ih1 ih2 _ _ _ _  _ _ _ _ _ h (fun x108 k110 n111 s109 h => ?_))
  refine t_aload_1 dX7_sum_57 ?_
  exact t_aret dX7_sum_58 rfl (by first | exact Or.inl ⟨_, rfl⟩ | exact Or.inr ⟨_, rfl⟩) (Or.inl ⟨_, _, h, rfl, rfl⟩)
def v_X7_term_32 (N : tP) (rc : Nat → Nat → Nat → Nat → tM → (Nat → tM → Prop) → (String → Nat → tM → Prop) → Prop) (x0 : Nat) (x1 : Nat) (Kr : Nat → tM → Prop) (Kx : String → Nat → tM → Prop) (K : Nat → Nat → Nat → tM → Prop) (R : Nat → Nat → Nat → tM → Prop) (k n : Nat) (s : tM) : Prop :=
  (tE s 7 18 x0 ∧ (tO s 0 (tR s x0 7) ∧ (tX s 2 (tR s (tR s x0 7) 14) (tI s x0 0) ∧ (∀ x104 : Int32, x104 = tI s (tR s (tR s x0 7) 14) (tI s x0 0).toNatClampNeg → (v_X7_next N x0 s (fun s106 => (1 ≤ k ∧ (3 ≤ n ∧ (∀ q109 : Nat, s106.1 q109 = none → ¬ q109 = 0 → ¬ q109 = N.2.2 200 → (∀ s110 : tM, s110 = tNew s106 q109 (.inl 12) → (∃ c115 c116 : Nat, c115 ≤ k - 1 ∧ c116 ≤ n - 3 ∧ (tE s110 7 18 x0 ∧ (rc 0 x0 c115 c116 s110 (fun x113 s114 => (tO s114 12 q109 ∧ (v_X14_init q109 x1 x104 x113 s114 (fun s121 => (R q109 ((k - 1) - c115) ((n - 3) - c116) s121))))) Kx)))))))))))))
theorem e_X7_term_32 {G : xG} {l : Launch} {g : xH} {d : Nat} {N : tP} (hN : tNs G N) (hd : 12 ≤ d) {rc : Nat → Nat → Nat → Nat → tM → (Nat → tM → Prop) → (String → Nat → tM → Prop) → Prop} (ih0 : ∀ (x0 : Nat) (k n : Nat) (s : tM) (Kr : Nat → tM → Prop) (Kx : String → Nat → tM → Prop), rc 0 x0 k n s Kr Kx → xC G l kX7_part d k n [rfv x0] (tH G g s) (tQ G g wr Kr Kx)) (ih1 : ∀ (x0 : Nat) (k n : Nat) (s : tM) (Kr : Nat → tM → Prop) (Kx : String → Nat → tM → Prop), rc 1 x0 k n s Kr Kx → xC G l kX7_sum d k n [rfv x0] (tH G g s) (tQ G g wr Kr Kx)) (ih2 : ∀ (x0 : Nat) (k n : Nat) (s : tM) (Kr : Nat → tM → Prop) (Kx : String → Nat → tM → Prop), rc 2 x0 k n s Kr Kx → xC G l kX7_term d k n [rfv x0] (tH G g s) (tQ G g wr Kr Kx)) (x0 : Nat) (x1 : Nat) (Kr : Nat → tM → Prop) (Kx : String → Nat → tM → Prop) (K : Nat → Nat → Nat → tM → Prop) (R : Nat → Nat → Nat → tM → Prop) (k n : Nat) (s : tM) (h : v_X7_term_32 N rc x0 x1 Kr Kx K R k n s) (hK : ∀ (z1 : Nat) (k n : Nat) (s : tM), K z1 k n s → xF G l kX7_term (d + 1) k n (tQ G g wr Kr Kx) 66 [none, some (rfv z1), none] [] (tH G g s)) (hR : ∀ (z1 : Nat) (k n : Nat) (s : tM), R z1 k n s → xF G l kX7_term (d + 1) k n (tQ G g wr Kr Kx) 5 [some (rfv x0), some (rfv z1), none] [] (tH G g s)) : xF G l kX7_term (d + 1) k n (tQ G g wr Kr Kx) 32 [some (rfv x0), some (rfv x1), none] [] (tH G g s) := by
  unfold v_X7_term_32 at h
  refine t_aload_0 dX7_term_32 ?_
  obtain ⟨e101, h⟩ := h
  refine t_getR2 (j := 7) dX7_term_33 ⟨fa_X7_3_7, fa_X7_3_18⟩ (by decide) e101 ?_
  obtain ⟨e102, h⟩ := h
  refine t_getR dX7_term_36 fa_X7_52_0 (by decide) e102 ?_
  refine t_aload_0 dX7_term_39 ?_
  refine t_getI2 (j := 0) dX7_term_40 ⟨fa_X7_42_7, fa_X7_42_18⟩ (by decide) e101 ?_
  obtain ⟨e103, h⟩ := h
  refine t_bald dX7_term_43 e103 ?_
  refine x_istore_2 dX7_term_44 (by decide) xN2_f ?_
  have h := h _ rfl
  refine t_aload_0 dX7_term_45 ?_
  refine t_cDv (As := []) rfl (e101.elim (fun e => ⟨_, 7, _, _, _, _, _, xcl_X8.1, cu_X7_25_7, e, (e_X7_next hN (by omega) h)⟩) (fun e => ⟨_, 18, _, _, _, _, _, xcl_X21.1, cu_X7_25_18, e, (e_X7_next hN (by omega) h)⟩)) rfl rfl (xrm4 (Nat.le_of_ble_eq_true rfl)) dX7_term_46 ⟨Nat.zero_le _, Nat.zero_le _⟩ (fun _ _ _ h => h.elim) (fun _ s106 h => ?_)
  obtain ⟨e107, h⟩ := h
  obtain ⟨e108, h⟩ := h
  refine t_new (N := 3) dX7_term_49 ne_X7_161 rfl e107 e108 (fun q h1 h2 h3 => ?_)
  have h := h q h1 h2 (fun e => h3 (e.trans (hN 200)))
  refine t_gen h (fun s110 w111 h => ?_)
  have e112 := h2
  refine x_dup dX7_term_52 (rfv_c _) ?_
  refine t_aload_1 dX7_term_53 ?_
  refine x_iload_2 dX7_term_54 ?_
  refine t_aload_0 dX7_term_55 ?_
  obtain ⟨c115, c116, e117, e118, h⟩ := h
  obtain ⟨e119, h⟩ := h
  refine t_cDr (As := []) rfl (e119.elim (fun e => ⟨_, 7, _, _, _, _, _, xcl_X8.1, cu_X7_164_7, e, (ih0 _ _ _ _ _ _  h)⟩) (fun e => ⟨_, 18, _, _, _, _, _, xcl_X21.1, cu_X7_164_18, e, (ih0 _ _ _ _ _ _  h)⟩)) rfl rfl (xrm4 (Nat.le_of_ble_eq_true rfl)) dX7_term_56 ⟨e117, e118⟩ (fun E q m1 h => Or.inr ⟨E, q, m1, h, rfl, rfl⟩) (fun x113 s114 h => ?_)
  obtain ⟨e122, h⟩ := h
  refine t_cI (As := [_, _, _]) rfl ci_X7_163 e122.2 rfl rfl (xrm4 (Nat.le_of_ble_eq_true rfl)) dX7_term_59 (e_X14_init (by omega) h) ⟨Nat.zero_le _, Nat.zero_le _⟩ (fun _ _ _ h => h.elim) (fun _ s121 h => ?_)
  refine t_astore_1 dX7_term_62 (by decide) xN2_f ?_
  refine x_goto 5 dX7_term_63 (by decide) ?_
  exact x_le (xLe_cons (xLe_cons (xLe_none (xLe_nil)))) (hR _ _ _ _ h)
def v_X7_term_5 (N : tP) (rc : Nat → Nat → Nat → Nat → tM → (Nat → tM → Prop) → (String → Nat → tM → Prop) → Prop) (x0 : Nat) (Kr : Nat → tM → Prop) (Kx : String → Nat → tM → Prop) (K : Nat → Nat → Nat → tM → Prop) : Nat → Nat → Nat → Nat → tM → Prop
  | 0, _, _, _, _ => False
  | t + 1, x1, k, n, s => (tE s 7 18 x0 ∧ (v_X7_isWord N x0 (N.2.2 15) s (fun x101 s102 => ((¬ x101 = 0 → (v_X7_term_32 N rc x0 x1 Kr Kx K (fun x1 k n s => v_X7_term_5 N rc x0 Kr Kx K t x1 k n s) k n s102)) ∧ (x101 = 0 → (tE s102 7 18 x0 ∧ (v_X7_isWord N x0 (N.2.2 16) s102 (fun x105 s106 => ((¬ x105 = 0 → (v_X7_term_32 N rc x0 x1 Kr Kx K (fun x1 k n s => v_X7_term_5 N rc x0 Kr Kx K t x1 k n s) k n s106)) ∧ (x105 = 0 → (tE s106 7 18 x0 ∧ (v_X7_isWord N x0 (N.2.2 17) s106 (fun x109 s110 => ((x109 = 0 → (K x1 k n s110)) ∧ (¬ x109 = 0 → (v_X7_term_32 N rc x0 x1 Kr Kx K (fun x1 k n s => v_X7_term_5 N rc x0 Kr Kx K t x1 k n s) k n s110))))))))))))))))
theorem e_X7_term_5 {G : xG} {l : Launch} {g : xH} {d : Nat} {N : tP} (hN : tNs G N) (hd : 12 ≤ d) {rc : Nat → Nat → Nat → Nat → tM → (Nat → tM → Prop) → (String → Nat → tM → Prop) → Prop} (ih0 : ∀ (x0 : Nat) (k n : Nat) (s : tM) (Kr : Nat → tM → Prop) (Kx : String → Nat → tM → Prop), rc 0 x0 k n s Kr Kx → xC G l kX7_part d k n [rfv x0] (tH G g s) (tQ G g wr Kr Kx)) (ih1 : ∀ (x0 : Nat) (k n : Nat) (s : tM) (Kr : Nat → tM → Prop) (Kx : String → Nat → tM → Prop), rc 1 x0 k n s Kr Kx → xC G l kX7_sum d k n [rfv x0] (tH G g s) (tQ G g wr Kr Kx)) (ih2 : ∀ (x0 : Nat) (k n : Nat) (s : tM) (Kr : Nat → tM → Prop) (Kx : String → Nat → tM → Prop), rc 2 x0 k n s Kr Kx → xC G l kX7_term d k n [rfv x0] (tH G g s) (tQ G g wr Kr Kx)) (x0 : Nat) (Kr : Nat → tM → Prop) (Kx : String → Nat → tM → Prop) (K : Nat → Nat → Nat → tM → Prop) : ∀ (t : Nat) (x1 : Nat) (k n : Nat) (s : tM) , v_X7_term_5 N rc x0 Kr Kx K t x1 k n s → (∀ (z1 : Nat) (k n : Nat) (s : tM), K z1 k n s → xF G l kX7_term (d + 1) k n (tQ G g wr Kr Kx) 66 [none, some (rfv z1), none] [] (tH G g s)) → xF G l kX7_term (d + 1) k n (tQ G g wr Kr Kx) 5 [some (rfv x0), some (rfv x1), none] [] (tH G g s) := by
  intro t
  induction t with
  | zero =>
    intro _ _ _ _ h _
    exact absurd h (by simp [v_X7_term_5])
  | succ t ih =>
    intro x1 k n s h hK
    have hR := fun x1 k n s h => ih x1 k n s h hK
    unfold v_X7_term_5 at h
    refine t_aload_0 dX7_term_5 ?_
    refine t_ldcN hN dX7_term_6 (i := 15) ⟨15, rfl⟩ ?_
    obtain ⟨e103, h⟩ := h
    refine t_cDi (As := [_]) rfl (e103.elim (fun e => ⟨_, 7, _, _, _, _, _, xcl_X8.1, cu_X7_73_7, e, (e_X7_isWord hN (by omega) h)⟩) (fun e => ⟨_, 18, _, _, _, _, _, xcl_X21.1, cu_X7_73_18, e, (e_X7_isWord hN (by omega) h)⟩)) rfl rfl (xrm4 (Nat.le_of_ble_eq_true rfl)) dX7_term_8 ⟨Nat.zero_le _, Nat.zero_le _⟩ (fun _ _ _ h => h.elim) (fun x101 s102 h => ?_)
    refine x_if_ne 32 dX7_term_11 (by decide) (fun c104 => ?_) (fun c104 => ?_)
    · have h := h.1 c104
      exact x_le (xLe_cons (xLe_cons (xLe_cons (xLe_nil)))) (e_X7_term_32 hN (by omega) ih0 ih1 ih2 _ _ _ _ _ _ _ _ _ h hK hR)
    · have h := h.2 c104
      refine t_aload_0 dX7_term_14 ?_
      refine t_ldcN hN dX7_term_15 (i := 16) ⟨16, rfl⟩ ?_
      obtain ⟨e107, h⟩ := h
      refine t_cDi (As := [_]) rfl (e107.elim (fun e => ⟨_, 7, _, _, _, _, _, xcl_X8.1, cu_X7_73_7, e, (e_X7_isWord hN (by omega) h)⟩) (fun e => ⟨_, 18, _, _, _, _, _, xcl_X21.1, cu_X7_73_18, e, (e_X7_isWord hN (by omega) h)⟩)) rfl rfl (xrm4 (Nat.le_of_ble_eq_true rfl)) dX7_term_17 ⟨Nat.zero_le _, Nat.zero_le _⟩ (fun _ _ _ h => h.elim) (fun x105 s106 h => ?_)
      refine x_if_ne 32 dX7_term_20 (by decide) (fun c108 => ?_) (fun c108 => ?_)
      · have h := h.1 c108
        exact x_le (xLe_cons (xLe_cons (xLe_cons (xLe_nil)))) (e_X7_term_32 hN (by omega) ih0 ih1 ih2 _ _ _ _ _ _ _ _ _ h hK hR)
      · have h := h.2 c108
        refine t_aload_0 dX7_term_23 ?_
        refine t_ldcN hN dX7_term_24 (i := 17) ⟨17, rfl⟩ ?_
        obtain ⟨e111, h⟩ := h
        refine t_cDi (As := [_]) rfl (e111.elim (fun e => ⟨_, 7, _, _, _, _, _, xcl_X8.1, cu_X7_73_7, e, (e_X7_isWord hN (by omega) h)⟩) (fun e => ⟨_, 18, _, _, _, _, _, xcl_X21.1, cu_X7_73_18, e, (e_X7_isWord hN (by omega) h)⟩)) rfl rfl (xrm4 (Nat.le_of_ble_eq_true rfl)) dX7_term_26 ⟨Nat.zero_le _, Nat.zero_le _⟩ (fun _ _ _ h => h.elim) (fun x109 s110 h => ?_)
        refine x_if_eq 66 dX7_term_29 (by decide) (fun c112 => ?_) (fun c112 => ?_)
        · have h := h.1 c112
          exact x_le (xLe_none (xLe_cons (xLe_cons (xLe_nil)))) (hK _ _ _ _ h)
        · have h := h.2 c112
          exact x_le (xLe_cons (xLe_cons (xLe_cons (xLe_nil)))) (e_X7_term_32 hN (by omega) ih0 ih1 ih2 _ _ _ _ _ _ _ _ _ h hK hR)
def v_X7_term (N : tP) (rc : Nat → Nat → Nat → Nat → tM → (Nat → tM → Prop) → (String → Nat → tM → Prop) → Prop) (x0 : Nat) (k n : Nat) (s : tM) (Kr : Nat → tM → Prop) (Kx : String → Nat → tM → Prop) : Prop :=
  (∃ c103 c104 : Nat, c103 ≤ k ∧ c104 ≤ n ∧ (tE s 7 18 x0 ∧ (rc 0 x0 c103 c104 s (fun x101 s102 => (v_X7_term_5 N rc x0 Kr Kx (fun x108 k110 n111 s109 => (Kr x108 s109)) N.1 x101 (k - c103) (n - c104) s102)) Kx)))
theorem eb_X7_term {G : xG} {l : Launch} {g : xH} {d : Nat} {N : tP} (hN : tNs G N) (hd : 12 ≤ d) {rc : Nat → Nat → Nat → Nat → tM → (Nat → tM → Prop) → (String → Nat → tM → Prop) → Prop} (ih0 : ∀ (x0 : Nat) (k n : Nat) (s : tM) (Kr : Nat → tM → Prop) (Kx : String → Nat → tM → Prop), rc 0 x0 k n s Kr Kx → xC G l kX7_part d k n [rfv x0] (tH G g s) (tQ G g wr Kr Kx)) (ih1 : ∀ (x0 : Nat) (k n : Nat) (s : tM) (Kr : Nat → tM → Prop) (Kx : String → Nat → tM → Prop), rc 1 x0 k n s Kr Kx → xC G l kX7_sum d k n [rfv x0] (tH G g s) (tQ G g wr Kr Kx)) (ih2 : ∀ (x0 : Nat) (k n : Nat) (s : tM) (Kr : Nat → tM → Prop) (Kx : String → Nat → tM → Prop), rc 2 x0 k n s Kr Kx → xC G l kX7_term d k n [rfv x0] (tH G g s) (tQ G g wr Kr Kx)) {x0 : Nat} {k n : Nat} {s : tM} {Kr : Nat → tM → Prop} {Kx : String → Nat → tM → Prop} (h : v_X7_term N rc x0 k n s Kr Kx) : xC G l kX7_term (d + 1) k n [rfv x0] (tH G g s) (tQ G g wr Kr Kx) := by
  refine t_start rfl (by decide +kernel) (by simp [xct_i, xct_l, rfv_c]) (lv := [some (rfv x0), none, none]) (by simp [lv_args, xLv, rfv_c, xct_i, xct_l]) ?_
  unfold v_X7_term at h
  refine t_aload_0 dX7_term_0 ?_
  obtain ⟨c103, c104, e105, e106, h⟩ := h
  obtain ⟨e107, h⟩ := h
  refine t_cDr (As := []) rfl (e107.elim (fun e => ⟨_, 7, _, _, _, _, _, xcl_X8.1, cu_X7_164_7, e, (ih0 _ _ _ _ _ _  h)⟩) (fun e => ⟨_, 18, _, _, _, _, _, xcl_X21.1, cu_X7_164_18, e, (ih0 _ _ _ _ _ _  h)⟩)) rfl rfl (xrm4 (Nat.le_of_ble_eq_true rfl)) dX7_term_1 ⟨e105, e106⟩ (fun E q m1 h => Or.inr ⟨E, q, m1, h, rfl, rfl⟩) (fun x101 s102 h => ?_)
  refine t_astore_1 dX7_term_4 (by decide) xN2_f ?_
  refine x_le (xLe_cons (xLe_cons (xLe_cons (xLe_nil)))) (e_X7_term_5 hN (by omega) ih0 ih1 ih2 _ _ _ _  _ _ _ _ _ h (fun x108 k110 n111 s109 h => ?_))
  refine t_aload_1 dX7_term_66 ?_
  exact t_aret dX7_term_67 rfl (by first | exact Or.inl ⟨_, rfl⟩ | exact Or.inr ⟨_, rfl⟩) (Or.inl ⟨_, _, h, rfl, rfl⟩)
def r_X7_part (N : tP) : Nat → Nat → Nat → Nat → Nat → tM → (Nat → tM → Prop) → (String → Nat → tM → Prop) → Prop
  | 0, _, _, _, _, _, _, _ => False
  | t + 1, 0, x0, k, n, s, Kr, Kx => v_X7_part N (r_X7_part N t) x0 k n s Kr Kx
  | t + 1, 1, x0, k, n, s, Kr, Kx => v_X7_sum N (r_X7_part N t) x0 k n s Kr Kx
  | t + 1, 2, x0, k, n, s, Kr, Kx => v_X7_term N (r_X7_part N t) x0 k n s Kr Kx
  | _ + 1, _ + 3, _, _, _, _, _, _ => False
theorem eg_X7_part {G : xG} {l : Launch} {g : xH} {N : tP} (hN : tNs G N) : ∀ (t d : Nat), t + (12) ≤ d → (∀ (x0 : Nat) (k n : Nat) (s : tM) (Kr : Nat → tM → Prop) (Kx : String → Nat → tM → Prop), r_X7_part N t 0 x0 k n s Kr Kx → xC G l kX7_part d k n [rfv x0] (tH G g s) (tQ G g wr Kr Kx)) ∧ (∀ (x0 : Nat) (k n : Nat) (s : tM) (Kr : Nat → tM → Prop) (Kx : String → Nat → tM → Prop), r_X7_part N t 1 x0 k n s Kr Kx → xC G l kX7_sum d k n [rfv x0] (tH G g s) (tQ G g wr Kr Kx)) ∧ (∀ (x0 : Nat) (k n : Nat) (s : tM) (Kr : Nat → tM → Prop) (Kx : String → Nat → tM → Prop), r_X7_part N t 2 x0 k n s Kr Kx → xC G l kX7_term d k n [rfv x0] (tH G g s) (tQ G g wr Kr Kx)) := by
  intro t
  induction t with
  | zero =>
    intro d _
    exact ⟨fun x0 k n s Kr Kx h => absurd h (by simp [r_X7_part]), fun x0 k n s Kr Kx h => absurd h (by simp [r_X7_part]), fun x0 k n s Kr Kx h => absurd h (by simp [r_X7_part])⟩
  | succ t ih =>
    intro d hd
    obtain ⟨d, rfl⟩ : ∃ z, d = z + 1 := ⟨d - 1, by omega⟩
    obtain ⟨ih0, ih1, ih2⟩ := ih d (by omega)
    obtain ⟨jh0, jh1, jh2⟩ := ih (d + 1) (by omega)
    exact ⟨fun x0 k n s Kr Kx h => eb_X7_part hN (by omega) ih0 ih1 ih2 (by unfold r_X7_part at h; exact h), fun x0 k n s Kr Kx h => eb_X7_sum hN (by omega) ih0 ih1 ih2 (by unfold r_X7_part at h; exact h), fun x0 k n s Kr Kx h => eb_X7_term hN (by omega) ih0 ih1 ih2 (by unfold r_X7_part at h; exact h)⟩
theorem e_X7_part {G : xG} {l : Launch} {g : xH} {d : Nat} {N : tP} (hN : tNs G N) (hd : 1 * N.2.1 + 13 ≤ d) {x0 : Nat} {k n : Nat} {s : tM} {Kr : Nat → tM → Prop} {Kx : String → Nat → tM → Prop} (h : r_X7_part N N.2.1 0 x0 k n s Kr Kx) : xC G l kX7_part d k n [rfv x0] (tH G g s) (tQ G g wr Kr Kx) := (eg_X7_part hN N.2.1 d (by omega)).1 _ _ _ _ _ _  h
theorem e_X7_sum {G : xG} {l : Launch} {g : xH} {d : Nat} {N : tP} (hN : tNs G N) (hd : 1 * N.2.1 + 13 ≤ d) {x0 : Nat} {k n : Nat} {s : tM} {Kr : Nat → tM → Prop} {Kx : String → Nat → tM → Prop} (h : r_X7_part N N.2.1 1 x0 k n s Kr Kx) : xC G l kX7_sum d k n [rfv x0] (tH G g s) (tQ G g wr Kr Kx) := (eg_X7_part hN N.2.1 d (by omega)).2.1 _ _ _ _ _ _  h
theorem e_X7_term {G : xG} {l : Launch} {g : xH} {d : Nat} {N : tP} (hN : tNs G N) (hd : 1 * N.2.1 + 13 ≤ d) {x0 : Nat} {k n : Nat} {s : tM} {Kr : Nat → tM → Prop} {Kx : String → Nat → tM → Prop} (h : r_X7_part N N.2.1 2 x0 k n s Kr Kx) : xC G l kX7_term d k n [rfv x0] (tH G g s) (tQ G g wr Kr Kx) := (eg_X7_part hN N.2.1 d (by omega)).2.2 _ _ _ _ _ _  h
def v_X21_behind (N : tP) (x0 : Nat) (x1 : Nat) (k n : Nat) (s : tM) (Kr : Nat → tM → Prop) (Kx : String → Nat → tM → Prop) : Prop :=
  (tO s 18 x0 ∧ (v_X7_accept N x0 x1 s (fun x101 s102 => (∃ c106 c107 : Nat, c106 ≤ k ∧ c107 ≤ n ∧ (tO s102 18 x0 ∧ (v_X7_must N x0 x101 c106 c107 s102 (fun s105 => (∃ c113 c114 : Nat, c113 ≤ k - c106 ∧ c114 ≤ n - c107 ∧ (tO s105 18 x0 ∧ (r_X7_part N N.2.1 1 x0 c113 c114 s105 (fun x111 s112 => (Kr x111 s112)) Kx)))) Kx))))))
theorem e_X21_behind {G : xG} {l : Launch} {g : xH} {d : Nat} {N : tP} (hN : tNs G N) (hd : 1 * N.2.1 + 15 ≤ d) {x0 : Nat} {x1 : Nat} {k n : Nat} {s : tM} {Kr : Nat → tM → Prop} {Kx : String → Nat → tM → Prop} (h : v_X21_behind N x0 x1 k n s Kr Kx) : xC G l kX21_behind d k n [rfv x0, rfv x1] (tH G g s) (tQ G g wr Kr Kx) := by
  obtain ⟨d, rfl⟩ : ∃ z, d = z + 1 := ⟨d - 1, by omega⟩
  refine t_start rfl (by decide +kernel) (by simp [xct_i, xct_l, rfv_c]) (lv := [some (rfv x0), some (rfv x1)]) (by simp [lv_args, xLv, rfv_c, xct_i, xct_l]) ?_
  unfold v_X21_behind at h
  refine t_aload_0 dX21_behind_0 ?_
  refine t_aload_0 dX21_behind_1 ?_
  refine t_aload_1 dX21_behind_2 ?_
  obtain ⟨e103, h⟩ := h
  refine t_cDi (As := [_]) rfl ⟨_, 18, _, _, _, _, _, xcl_X21.1, cu_X21_47_18, e103, (e_X7_accept hN (by omega) h)⟩ rfl rfl (xrm4 (Nat.le_of_ble_eq_true rfl)) dX21_behind_3 ⟨Nat.zero_le _, Nat.zero_le _⟩ (fun _ _ _ h => h.elim) (fun x101 s102 h => ?_)
  obtain ⟨c106, c107, e108, e109, h⟩ := h
  obtain ⟨e110, h⟩ := h
  refine t_cDv (As := [_]) rfl ⟨_, 18, _, _, _, _, _, xcl_X21.1, cu_X21_51_18, e110, (e_X7_must hN (by omega) h)⟩ rfl rfl (xrm4 (Nat.le_of_ble_eq_true rfl)) dX21_behind_6 ⟨e108, e109⟩ (fun E q m1 h => Or.inr ⟨E, q, m1, h, rfl, rfl⟩) (fun _ s105 h => ?_)
  refine t_aload_0 dX21_behind_9 ?_
  obtain ⟨c113, c114, e115, e116, h⟩ := h
  obtain ⟨e117, h⟩ := h
  refine t_cDr (As := []) rfl ⟨_, 18, _, _, _, _, _, xcl_X21.1, cu_X21_55_18, e117, (e_X7_sum hN (by omega) h)⟩ rfl rfl (xrm4 (Nat.le_of_ble_eq_true rfl)) dX21_behind_10 ⟨e115, e116⟩ (fun E q m1 h => Or.inr ⟨E, q, m1, h, rfl, rfl⟩) (fun x111 s112 h => ?_)
  exact t_aret dX21_behind_13 rfl (by first | exact Or.inl ⟨_, rfl⟩ | exact Or.inr ⟨_, rfl⟩) (Or.inl ⟨_, _, h, rfl, rfl⟩)
def v_X21_act_74 (N : tP) (x0 : Nat) (x1 : Int32) (y0 : Nat) (y1 : Int32) (Kr : Nat → tM → Prop) (Kx : String → Nat → tM → Prop) (k n : Nat) (s : tM) : Prop :=
  (∃ c103 c104 : Nat, c103 ≤ k ∧ c104 ≤ n ∧ (tO s 18 y0 ∧ (v_X7_must N y0 y1 c103 c104 s (fun s102 => (∃ c110 c111 : Nat, c110 ≤ k - c103 ∧ c111 ≤ n - c104 ∧ (tO s102 18 x0 ∧ (r_X7_part N N.2.1 1 x0 c110 c111 s102 (fun x108 s109 => (1 ≤ ((k - c103) - c110) ∧ (7 ≤ ((n - c104) - c111) ∧ (∀ q117 : Nat, s109.1 q117 = none → ¬ q117 = 0 → ¬ q117 = N.2.2 200 → (∀ s118 : tM, s118 = tNew s109 q117 (.inl 17) → (tO s118 18 x0 ∧ ((x1 = 0 → (∃ c125 c126 : Nat, c125 ≤ ((k - c103) - c110) - 1 ∧ c126 ≤ ((n - c104) - c111) - 7 ∧ (v_X21_behind N x0 (N.2.2 33) c125 c126 s118 (fun x123 s124 => (tO s124 17 q117 ∧ (v_X20_init q117 (tR s118 x0 9) 1 x108 x123 s124 (fun s130 => (Kr q117 s130))))) Kx))) ∧ (¬ x1 = 0 → (∃ c134 c135 : Nat, c134 ≤ ((k - c103) - c110) - 1 ∧ c135 ≤ ((n - c104) - c111) - 7 ∧ (v_X21_behind N x0 (N.2.2 33) c134 c135 s118 (fun x132 s133 => (tO s133 17 q117 ∧ (v_X20_init q117 (tR s118 x0 9) 0 x108 x132 s133 (fun s139 => (Kr q117 s139))))) Kx)))))))))) Kx)))) Kx)))
theorem e_X21_act_74 {G : xG} {l : Launch} {g : xH} {d : Nat} {N : tP} (hN : tNs G N) (hd : 1 * N.2.1 + 16 ≤ d) (x0 : Nat) (x1 : Int32) (y0 : Nat) (y1 : Int32) (Kr : Nat → tM → Prop) (Kx : String → Nat → tM → Prop) (k n : Nat) (s : tM) (h : v_X21_act_74 N x0 x1 y0 y1 Kr Kx k n s) : xF G l kX21_act (d + 1) k n (tQ G g wr Kr Kx) 74 [some (rfv x0), some (.int x1), none] [.int y1, rfv y0] (tH G g s) := by
  unfold v_X21_act_74 at h
  obtain ⟨c103, c104, e105, e106, h⟩ := h
  obtain ⟨e107, h⟩ := h
  refine t_cDv (As := [_]) rfl ⟨_, 18, _, _, _, _, _, xcl_X21.1, cu_X21_51_18, e107, (e_X7_must hN (by omega) h)⟩ rfl rfl (xrm4 (Nat.le_of_ble_eq_true rfl)) dX21_act_74 ⟨e105, e106⟩ (fun E q m1 h => Or.inr ⟨E, q, m1, h, rfl, rfl⟩) (fun _ s102 h => ?_)
  refine t_aload_0 dX21_act_77 ?_
  obtain ⟨c110, c111, e112, e113, h⟩ := h
  obtain ⟨e114, h⟩ := h
  refine t_cDr (As := []) rfl ⟨_, 18, _, _, _, _, _, xcl_X21.1, cu_X21_55_18, e114, (e_X7_sum hN (by omega) h)⟩ rfl rfl (xrm4 (Nat.le_of_ble_eq_true rfl)) dX21_act_78 ⟨e112, e113⟩ (fun E q m1 h => Or.inr ⟨E, q, m1, h, rfl, rfl⟩) (fun x108 s109 h => ?_)
  refine t_astore_2 dX21_act_81 (by decide) xN2_i ?_
  obtain ⟨e115, h⟩ := h
  obtain ⟨e116, h⟩ := h
  refine t_new (N := 7) dX21_act_82 ne_X21_31 rfl e115 e116 (fun q h1 h2 h3 => ?_)
  have h := h q h1 h2 (fun e => h3 (e.trans (hN 200)))
  refine t_gen h (fun s118 w119 h => ?_)
  have e120 := h2
  refine x_dup dX21_act_85 (rfv_c _) ?_
  refine t_aload_0 dX21_act_86 ?_
  obtain ⟨e121, h⟩ := h
  refine t_getR dX21_act_87 fa_X21_3_18 (by decide) e121 ?_
  refine x_iload_1 dX21_act_90 ?_
  refine x_if_eq 98 dX21_act_91 (by decide) (fun c122 => ?_) (fun c122 => ?_)
  · have h := h.1 c122
    refine x_iconst (v := 1) dX21_act_98 (by decide) ?_
    refine t_aload_2 dX21_act_99 ?_
    refine t_aload_0 dX21_act_100 ?_
    refine t_ldcN hN dX21_act_101 (i := 33) ⟨33, rfl⟩ ?_
    obtain ⟨c125, c126, e127, e128, h⟩ := h
    refine t_cVr (As := [_]) rfl cv_X21_98 rfl e121 rfl rfl (by simp [xct_i, xct_l, rfv_c]) dX21_act_103 (e_X21_behind hN (by omega) h) ⟨e127, e128⟩ (fun E q m1 h => Or.inr ⟨E, q, m1, h, rfl, rfl⟩) (fun x123 s124 h => ?_)
    obtain ⟨e131, h⟩ := h
    refine t_cI (As := [_, _, _, _]) rfl ci_X21_88 e131.2 rfl rfl (xrm4 (Nat.le_of_ble_eq_true rfl)) dX21_act_106 (e_X20_init (by omega) h) ⟨Nat.zero_le _, Nat.zero_le _⟩ (fun _ _ _ h => h.elim) (fun _ s130 h => ?_)
    exact t_aret dX21_act_109 rfl (by first | exact Or.inl ⟨_, rfl⟩ | exact Or.inr ⟨_, rfl⟩) (Or.inl ⟨_, _, h, rfl, rfl⟩)
  · have h := h.2 c122
    refine x_iconst (v := 0) dX21_act_94 (by decide) ?_
    refine x_goto 99 dX21_act_95 (by decide) ?_
    refine t_aload_2 dX21_act_99 ?_
    refine t_aload_0 dX21_act_100 ?_
    refine t_ldcN hN dX21_act_101 (i := 33) ⟨33, rfl⟩ ?_
    obtain ⟨c134, c135, e136, e137, h⟩ := h
    refine t_cVr (As := [_]) rfl cv_X21_98 rfl e121 rfl rfl (by simp [xct_i, xct_l, rfv_c]) dX21_act_103 (e_X21_behind hN (by omega) h) ⟨e136, e137⟩ (fun E q m1 h => Or.inr ⟨E, q, m1, h, rfl, rfl⟩) (fun x132 s133 h => ?_)
    obtain ⟨e140, h⟩ := h
    refine t_cI (As := [_, _, _, _]) rfl ci_X21_88 e140.2 rfl rfl (xrm4 (Nat.le_of_ble_eq_true rfl)) dX21_act_106 (e_X20_init (by omega) h) ⟨Nat.zero_le _, Nat.zero_le _⟩ (fun _ _ _ h => h.elim) (fun _ s139 h => ?_)
    exact t_aret dX21_act_109 rfl (by first | exact Or.inl ⟨_, rfl⟩ | exact Or.inr ⟨_, rfl⟩) (Or.inl ⟨_, _, h, rfl, rfl⟩)
def v_X21_act_69 (N : tP) (x0 : Nat) (x1 : Int32) (y0 : Nat) (Kr : Nat → tM → Prop) (Kx : String → Nat → tM → Prop) (k n : Nat) (s : tM) : Prop :=
  (v_X21_act_74 N x0 x1 y0 1 Kr Kx k n s)
theorem e_X21_act_69 {G : xG} {l : Launch} {g : xH} {d : Nat} {N : tP} (hN : tNs G N) (hd : 1 * N.2.1 + 16 ≤ d) (x0 : Nat) (x1 : Int32) (y0 : Nat) (Kr : Nat → tM → Prop) (Kx : String → Nat → tM → Prop) (k n : Nat) (s : tM) (h : v_X21_act_69 N x0 x1 y0 Kr Kx k n s) : xF G l kX21_act (d + 1) k n (tQ G g wr Kr Kx) 69 [some (rfv x0), some (.int x1), none] [rfv y0] (tH G g s) := by
  unfold v_X21_act_69 at h
  refine x_iconst (v := 1) dX21_act_69 (by decide) ?_
  refine x_goto 74 dX21_act_70 (by decide) ?_
  exact x_le (xLe_cons (xLe_cons (xLe_cons (xLe_nil)))) (e_X21_act_74 hN (by omega) _ _ _ _ _ _ _ _ _ h)
def v_X21_act (N : tP) (x0 : Nat) (k n : Nat) (s : tM) (Kr : Nat → tM → Prop) (Kx : String → Nat → tM → Prop) : Prop :=
  (tO s 18 x0 ∧ (v_X7_accept N x0 (N.2.2 29) s (fun x101 s102 => ((x101 = 0 → (tO s102 18 x0 ∧ (v_X7_accept N x0 (N.2.2 30) s102 (fun x105 s106 => ((x105 = 0 → (tO s106 18 x0 ∧ (v_X7_accept N x0 (N.2.2 31) s106 (fun x109 s110 => ((¬ x109 = 0 → (v_X21_act_69 N x0 x109 x0 Kr Kx k n s110)) ∧ (x109 = 0 → (tO s110 18 x0 ∧ (v_X7_accept N x0 (N.2.2 32) s110 (fun x113 s114 => ((x113 = 0 → (v_X21_act_74 N x0 x109 x0 0 Kr Kx k n s114)) ∧ (¬ x113 = 0 → (v_X21_act_69 N x0 x109 x0 Kr Kx k n s114)))))))))))) ∧ (¬ x105 = 0 → (1 ≤ k ∧ (7 ≤ n ∧ (∀ q119 : Nat, s106.1 q119 = none → ¬ q119 = 0 → ¬ q119 = N.2.2 200 → (∀ s120 : tM, s120 = tNew s106 q119 (.inl 17) → (tO s120 18 x0 ∧ (v_X20_init q119 (tR s120 x0 9) 2 0 0 s120 (fun s125 => (Kr q119 s125)))))))))))))) ∧ (¬ x101 = 0 → (1 ≤ k ∧ (7 ≤ n ∧ (∀ q128 : Nat, s102.1 q128 = none → ¬ q128 = 0 → ¬ q128 = N.2.2 200 → (∀ s129 : tM, s129 = tNew s102 q128 (.inl 17) → (tO s129 18 x0 ∧ (v_X20_init q128 (tR s129 x0 9) 3 0 0 s129 (fun s134 => (Kr q128 s134)))))))))))))
theorem e_X21_act {G : xG} {l : Launch} {g : xH} {d : Nat} {N : tP} (hN : tNs G N) (hd : 1 * N.2.1 + 17 ≤ d) {x0 : Nat} {k n : Nat} {s : tM} {Kr : Nat → tM → Prop} {Kx : String → Nat → tM → Prop} (h : v_X21_act N x0 k n s Kr Kx) : xC G l kX21_act d k n [rfv x0] (tH G g s) (tQ G g wr Kr Kx) := by
  obtain ⟨d, rfl⟩ : ∃ z, d = z + 1 := ⟨d - 1, by omega⟩
  refine t_start rfl (by decide +kernel) (by simp [xct_i, xct_l, rfv_c]) (lv := [some (rfv x0), none, none]) (by simp [lv_args, xLv, rfv_c, xct_i, xct_l]) ?_
  unfold v_X21_act at h
  refine t_aload_0 dX21_act_0 ?_
  refine t_ldcN hN dX21_act_1 (i := 29) ⟨29, rfl⟩ ?_
  obtain ⟨e103, h⟩ := h
  refine t_cDi (As := [_]) rfl ⟨_, 18, _, _, _, _, _, xcl_X21.1, cu_X21_47_18, e103, (e_X7_accept hN (by omega) h)⟩ rfl rfl (xrm4 (Nat.le_of_ble_eq_true rfl)) dX21_act_3 ⟨Nat.zero_le _, Nat.zero_le _⟩ (fun _ _ _ h => h.elim) (fun x101 s102 h => ?_)
  refine x_if_eq 24 dX21_act_6 (by decide) (fun c104 => ?_) (fun c104 => ?_)
  · have h := h.1 c104
    refine t_aload_0 dX21_act_24 ?_
    refine t_ldcN hN dX21_act_25 (i := 30) ⟨30, rfl⟩ ?_
    obtain ⟨e107, h⟩ := h
    refine t_cDi (As := [_]) rfl ⟨_, 18, _, _, _, _, _, xcl_X21.1, cu_X21_47_18, e107, (e_X7_accept hN (by omega) h)⟩ rfl rfl (xrm4 (Nat.le_of_ble_eq_true rfl)) dX21_act_27 ⟨Nat.zero_le _, Nat.zero_le _⟩ (fun _ _ _ h => h.elim) (fun x105 s106 h => ?_)
    refine x_if_eq 48 dX21_act_30 (by decide) (fun c108 => ?_) (fun c108 => ?_)
    · have h := h.1 c108
      refine t_aload_0 dX21_act_48 ?_
      refine t_ldcN hN dX21_act_49 (i := 31) ⟨31, rfl⟩ ?_
      obtain ⟨e111, h⟩ := h
      refine t_cDi (As := [_]) rfl ⟨_, 18, _, _, _, _, _, xcl_X21.1, cu_X21_47_18, e111, (e_X7_accept hN (by omega) h)⟩ rfl rfl (xrm4 (Nat.le_of_ble_eq_true rfl)) dX21_act_51 ⟨Nat.zero_le _, Nat.zero_le _⟩ (fun _ _ _ h => h.elim) (fun x109 s110 h => ?_)
      refine x_istore_1 dX21_act_54 (by decide) xN2_f ?_
      refine t_aload_0 dX21_act_55 ?_
      refine x_iload_1 dX21_act_56 ?_
      refine x_if_ne 69 dX21_act_57 (by decide) (fun c112 => ?_) (fun c112 => ?_)
      · have h := h.1 c112
        exact x_le (xLe_cons (xLe_cons (xLe_cons (xLe_nil)))) (e_X21_act_69 hN (by omega) _ _ _ _ _ _ _ _ h)
      · have h := h.2 c112
        refine t_aload_0 dX21_act_60 ?_
        refine t_ldcN hN dX21_act_61 (i := 32) ⟨32, rfl⟩ ?_
        obtain ⟨e115, h⟩ := h
        refine t_cDi (As := [_]) rfl ⟨_, 18, _, _, _, _, _, xcl_X21.1, cu_X21_47_18, e115, (e_X7_accept hN (by omega) h)⟩ rfl rfl (xrm4 (Nat.le_of_ble_eq_true rfl)) dX21_act_63 ⟨Nat.zero_le _, Nat.zero_le _⟩ (fun _ _ _ h => h.elim) (fun x113 s114 h => ?_)
        refine x_if_eq 73 dX21_act_66 (by decide) (fun c116 => ?_) (fun c116 => ?_)
        · have h := h.1 c116
          refine x_iconst (v := 0) dX21_act_73 (by decide) ?_
          exact x_le (xLe_cons (xLe_cons (xLe_cons (xLe_nil)))) (e_X21_act_74 hN (by omega) _ _ _ _ _ _ _ _ _ h)
        · have h := h.2 c116
          exact x_le (xLe_cons (xLe_cons (xLe_cons (xLe_nil)))) (e_X21_act_69 hN (by omega) _ _ _ _ _ _ _ _ h)
    · have h := h.2 c108
      obtain ⟨e117, h⟩ := h
      obtain ⟨e118, h⟩ := h
      refine t_new (N := 7) dX21_act_33 ne_X21_31 rfl e117 e118 (fun q h1 h2 h3 => ?_)
      have h := h q h1 h2 (fun e => h3 (e.trans (hN 200)))
      refine t_gen h (fun s120 w121 h => ?_)
      have e122 := h2
      refine x_dup dX21_act_36 (rfv_c _) ?_
      refine t_aload_0 dX21_act_37 ?_
      obtain ⟨e123, h⟩ := h
      refine t_getR dX21_act_38 fa_X21_3_18 (by decide) e123 ?_
      refine x_iconst (v := 2) dX21_act_41 (by decide) ?_
      refine t_null dX21_act_42 ?_
      refine t_null dX21_act_43 ?_
      refine t_cI (As := [_, _, _, _]) rfl ci_X21_88 e122 rfl rfl (xrm4 (Nat.le_of_ble_eq_true rfl)) dX21_act_44 (e_X20_init (by omega) h) ⟨Nat.zero_le _, Nat.zero_le _⟩ (fun _ _ _ h => h.elim) (fun _ s125 h => ?_)
      exact t_aret dX21_act_47 rfl (by first | exact Or.inl ⟨_, rfl⟩ | exact Or.inr ⟨_, rfl⟩) (Or.inl ⟨_, _, h, rfl, rfl⟩)
  · have h := h.2 c104
    obtain ⟨e126, h⟩ := h
    obtain ⟨e127, h⟩ := h
    refine t_new (N := 7) dX21_act_9 ne_X21_31 rfl e126 e127 (fun q h1 h2 h3 => ?_)
    have h := h q h1 h2 (fun e => h3 (e.trans (hN 200)))
    refine t_gen h (fun s129 w130 h => ?_)
    have e131 := h2
    refine x_dup dX21_act_12 (rfv_c _) ?_
    refine t_aload_0 dX21_act_13 ?_
    obtain ⟨e132, h⟩ := h
    refine t_getR dX21_act_14 fa_X21_3_18 (by decide) e132 ?_
    refine x_iconst (v := 3) dX21_act_17 (by decide) ?_
    refine t_null dX21_act_18 ?_
    refine t_null dX21_act_19 ?_
    refine t_cI (As := [_, _, _, _]) rfl ci_X21_88 e131 rfl rfl (xrm4 (Nat.le_of_ble_eq_true rfl)) dX21_act_20 (e_X20_init (by omega) h) ⟨Nat.zero_le _, Nat.zero_le _⟩ (fun _ _ _ h => h.elim) (fun _ s134 h => ?_)
    exact t_aret dX21_act_23 rfl (by first | exact Or.inl ⟨_, rfl⟩ | exact Or.inr ⟨_, rfl⟩) (Or.inl ⟨_, _, h, rfl, rfl⟩)
def v_X21_isNought_22 (N : tP) (x0 : Nat) (Kr : Int32 → tM → Prop) (K : Int32 → tM → Prop) : Nat → Int32 → Int32 → tM → Prop
  | 0, _, _, _ => False
  | t + 1, x1, x2, s => (tO s 18 x0 ∧ (((tI s x0 1) ≤ x2 → (K x1 s)) ∧ (¬ (tI s x0 1) ≤ x2 → (tO s 0 (tR s x0 9) ∧ (tX s 2 (tR s (tR s x0 9) 14) x2 ∧ ((¬ (tI s (tR s (tR s x0 9) 14) x2.toNatClampNeg) = 48 → (∀ x106 : Int32, x106 = x1 &&& 0 → (∀ x107 : Int32, x107 = x2 + 1 → ((fun x1 x2 s => v_X21_isNought_22 N x0 Kr K t x1 x2 s) x106 x107 s)))) ∧ ((tI s (tR s (tR s x0 9) 14) x2.toNatClampNeg) = 48 → (∀ x108 : Int32, x108 = x1 &&& 1 → (∀ x109 : Int32, x109 = x2 + 1 → ((fun x1 x2 s => v_X21_isNought_22 N x0 Kr K t x1 x2 s) x108 x109 s))))))))))
theorem e_X21_isNought_22 {G : xG} {l : Launch} {g : xH} {d : Nat} {N : tP} (hN : tNs G N) (hd : 1 ≤ d) (x0 : Nat) (Kr : Int32 → tM → Prop) (K : Int32 → tM → Prop) : ∀ (t : Nat) (x1 : Int32) (x2 : Int32) (s : tM) , v_X21_isNought_22 N x0 Kr K t x1 x2 s → (∀ (z1 : Int32) (s : tM), K z1 s → xF G l kX21_isNought (d + 1) 0 0 (tQ G g wi Kr tNo) 58 [none, some (.int z1), none] [] (tH G g s)) → xF G l kX21_isNought (d + 1) 0 0 (tQ G g wi Kr tNo) 22 [some (rfv x0), some (.int x1), some (.int x2)] [] (tH G g s) := by
  intro t
  induction t with
  | zero =>
    intro _ _ _ h _
    exact absurd h (by simp [v_X21_isNought_22])
  | succ t ih =>
    intro x1 x2 s h hK
    have hR := fun x1 x2 s h => ih x1 x2 s h hK
    unfold v_X21_isNought_22 at h
    refine x_iload_2 dX21_isNought_22 ?_
    refine t_aload_0 dX21_isNought_23 ?_
    obtain ⟨e101, h⟩ := h
    refine t_getI dX21_isNought_24 fa_X21_63_18 (by decide) e101 ?_
    refine x_icmp_ge 58 dX21_isNought_27 (by decide) (fun c102 => ?_) (fun c102 => ?_)
    · have h := h.1 c102
      exact x_le (xLe_none (xLe_cons (xLe_none (xLe_nil)))) (hK _ _ h)
    · have h := h.2 c102
      refine x_iload_1 dX21_isNought_30 ?_
      refine t_aload_0 dX21_isNought_31 ?_
      refine t_getR dX21_isNought_32 fa_X21_3_18 (by decide) e101 ?_
      obtain ⟨e103, h⟩ := h
      refine t_getR dX21_isNought_35 fa_X21_66_0 (by decide) e103 ?_
      refine x_iload_2 dX21_isNought_38 ?_
      obtain ⟨e104, h⟩ := h
      refine t_bald dX21_isNought_39 e104 ?_
      refine x_bipush (v := 48) dX21_isNought_40 (by decide) ?_
      refine x_icmp_ne 49 dX21_isNought_42 (by decide) (fun c105 => ?_) (fun c105 => ?_)
      · have h := h.1 c105
        refine x_iconst (v := 0) dX21_isNought_49 (by decide) ?_
        refine x_iand dX21_isNought_50 ?_
        refine x_istore_1 dX21_isNought_51 (by decide) xN2_f ?_
        have h := h _ rfl
        refine x_iinc_2 (v := 1) dX21_isNought_52 (by decide) (by decide) xN2_i ?_
        have h := h _ rfl
        refine x_goto 22 dX21_isNought_55 (by decide) ?_
        exact x_le (xLe_cons (xLe_cons (xLe_cons (xLe_nil)))) (hR _ _ _ h)
      · have h := h.2 c105
        refine x_iconst (v := 1) dX21_isNought_45 (by decide) ?_
        refine x_goto 50 dX21_isNought_46 (by decide) ?_
        refine x_iand dX21_isNought_50 ?_
        refine x_istore_1 dX21_isNought_51 (by decide) xN2_f ?_
        have h := h _ rfl
        refine x_iinc_2 (v := 1) dX21_isNought_52 (by decide) (by decide) xN2_i ?_
        have h := h _ rfl
        refine x_goto 22 dX21_isNought_55 (by decide) ?_
        exact x_le (xLe_cons (xLe_cons (xLe_cons (xLe_nil)))) (hR _ _ _ h)
def v_X21_isNought_16 (N : tP) (x0 : Nat) (y0 : Int32) (Kr : Int32 → tM → Prop) (s : tM) : Prop :=
  (tO s 18 x0 ∧ (∀ x102 : Int32, x102 = tI s x0 0 → (v_X21_isNought_22 N x0 Kr (fun x103 s104 => (xB x103 ∧ (Kr x103 s104))) N.1 y0 x102 s)))
theorem e_X21_isNought_16 {G : xG} {l : Launch} {g : xH} {d : Nat} {N : tP} (hN : tNs G N) (hd : 1 ≤ d) (x0 : Nat) (y0 : Int32) (Kr : Int32 → tM → Prop) (s : tM) (h : v_X21_isNought_16 N x0 y0 Kr s) : xF G l kX21_isNought (d + 1) 0 0 (tQ G g wi Kr tNo) 16 [some (rfv x0), none, none] [.int y0] (tH G g s) := by
  unfold v_X21_isNought_16 at h
  refine x_istore_1 dX21_isNought_16 (by decide) xN2_f ?_
  refine t_aload_0 dX21_isNought_17 ?_
  obtain ⟨e101, h⟩ := h
  refine t_getI dX21_isNought_18 fa_X21_59_18 (by decide) e101 ?_
  refine x_istore_2 dX21_isNought_21 (by decide) xN2_i ?_
  have h := h _ rfl
  refine x_le (xLe_cons (xLe_cons (xLe_cons (xLe_nil)))) (e_X21_isNought_22 hN (by omega) _ _ _  _ _ _ _ h (fun x103 s104 h => ?_))
  refine x_iload_1 dX21_isNought_58 ?_
  obtain ⟨e105, h⟩ := h
  exact x_zret dX21_isNought_59 rfl (xB_n e105) (Or.inl ⟨_, _, h, rfl, rfl⟩)
def v_X21_isNought (N : tP) (x0 : Nat) (s : tM) (Kr : Int32 → tM → Prop) : Prop :=
  (tO s 18 x0 ∧ (((tI s x0 1) ≤ (tI s x0 0) → (v_X21_isNought_16 N x0 0 Kr s)) ∧ (¬ (tI s x0 1) ≤ (tI s x0 0) → (v_X21_isNought_16 N x0 1 Kr s))))
theorem e_X21_isNought {G : xG} {l : Launch} {g : xH} {d : Nat} {N : tP} (hN : tNs G N) (hd : 2 ≤ d) {x0 : Nat} {s : tM} {Kr : Int32 → tM → Prop} (h : v_X21_isNought N x0 s Kr) : xC G l kX21_isNought d 0 0 [rfv x0] (tH G g s) (tQ G g wi Kr tNo) := by
  obtain ⟨d, rfl⟩ : ∃ z, d = z + 1 := ⟨d - 1, by omega⟩
  refine t_start rfl (by decide +kernel) (by simp [xct_i, xct_l, rfv_c]) (lv := [some (rfv x0), none, none]) (by simp [lv_args, xLv, rfv_c, xct_i, xct_l]) ?_
  unfold v_X21_isNought at h
  refine t_aload_0 dX21_isNought_0 ?_
  obtain ⟨e101, h⟩ := h
  refine t_getI dX21_isNought_1 fa_X21_59_18 (by decide) e101 ?_
  refine t_aload_0 dX21_isNought_4 ?_
  refine t_getI dX21_isNought_5 fa_X21_63_18 (by decide) e101 ?_
  refine x_icmp_ge 15 dX21_isNought_8 (by decide) (fun c102 => ?_) (fun c102 => ?_)
  · have h := h.1 c102
    refine x_iconst (v := 0) dX21_isNought_15 (by decide) ?_
    exact x_le (xLe_cons (xLe_cons (xLe_cons (xLe_nil)))) (e_X21_isNought_16 hN (by omega) _ _ _ _ h)
  · have h := h.2 c102
    refine x_iconst (v := 1) dX21_isNought_11 (by decide) ?_
    refine x_goto 16 dX21_isNought_12 (by decide) ?_
    exact x_le (xLe_cons (xLe_cons (xLe_cons (xLe_nil)))) (e_X21_isNought_16 hN (by omega) _ _ _ _ h)
def v_X7_add (x0 : Nat) (x1 : Nat) (s : tM) (Kr : tM → Prop) : Prop :=
  (tE s 7 18 x0 ∧ (tX s 7 (tR s x0 5) (tI s x0 4) ∧ (tT s x1 ∧ (∀ s104 : tM, s104 = tsR s (tR s x0 5) (tI s x0 4).toNatClampNeg x1 → (∀ s106 : tM, s106 = tsI s104 x0 4 ((tI s104 x0 4) + 1) → (Kr s106))))))
theorem e_X7_add {G : xG} {l : Launch} {g : xH} {d : Nat} (hd : 2 ≤ d) {x0 : Nat} {x1 : Nat} {s : tM} {Kr : tM → Prop} (h : v_X7_add x0 x1 s Kr) : xC G l kX7_add d 0 0 [rfv x0, rfv x1] (tH G g s) (tQ G g wu (fun _ => Kr) tNo) := by
  obtain ⟨d, rfl⟩ : ∃ z, d = z + 1 := ⟨d - 1, by omega⟩
  refine t_start rfl (by decide +kernel) (by simp [xct_i, xct_l, rfv_c]) (lv := [some (rfv x0), some (rfv x1)]) (by simp [lv_args, xLv, rfv_c, xct_i, xct_l]) ?_
  unfold v_X7_add at h
  refine t_aload_0 dX7_add_0 ?_
  obtain ⟨e101, h⟩ := h
  refine t_getR2 (j := 5) dX7_add_1 ⟨fa_X7_17_7, fa_X7_17_18⟩ (by decide) e101 ?_
  refine t_aload_0 dX7_add_4 ?_
  refine t_getI2 (j := 4) dX7_add_5 ⟨fa_X7_80_7, fa_X7_80_18⟩ (by decide) e101 ?_
  refine t_aload_1 dX7_add_8 ?_
  obtain ⟨e102, h⟩ := h
  obtain ⟨e103, h⟩ := h
  refine t_aastT dX7_add_9 e103 e102 ?_
  refine t_gen h (fun s104 w105 h => ?_)
  refine t_aload_0 dX7_add_10 ?_
  refine x_dup dX7_add_11 (rfv_c _) ?_
  refine t_getI2 (j := 4) dX7_add_12 ⟨fa_X7_80_7, fa_X7_80_18⟩ (by decide) (tE_w w105 e101) ?_
  refine x_iconst (v := 1) dX7_add_15 (by decide) ?_
  refine x_iadd dX7_add_16 ?_
  refine t_putI2 (j := 4) dX7_add_17 ⟨fp_X7_80_7, fp_X7_80_18⟩ (by decide) (tE_w w105 e101) rfl rfl ?_
  refine t_gen h (fun s106 w107 h => ?_)
  exact x_vret dX7_add_20 rfl (Or.inl ⟨(), _, h, rfl, rfl⟩)
def v_X16_init (x0 : Nat) (s : tM) (Kr : tM → Prop) : Prop :=
  (¬ x0 = 0 ∧ (Kr s))
theorem e_X16_init {G : xG} {l : Launch} {g : xH} {d : Nat} (hd : 2 ≤ d) {x0 : Nat} {s : tM} {Kr : tM → Prop} (h : v_X16_init x0 s Kr) : xC G l kX16_init d 0 0 [rfv x0] (tH G g s) (tQ G g wu (fun _ => Kr) tNo) := by
  obtain ⟨d, rfl⟩ : ∃ z, d = z + 1 := ⟨d - 1, by omega⟩
  refine t_start rfl (by decide +kernel) (by simp [xct_i, xct_l, rfv_c]) (lv := [some (rfv x0)]) (by simp [lv_args, xLv, rfv_c, xct_i, xct_l]) ?_
  unfold v_X16_init at h
  refine t_aload_0 dX16_init_0 ?_
  obtain ⟨e101, h⟩ := h
  refine t_obj dX16_init_1 ob_X16_1 e101 (Nat.le_of_ble_eq_true rfl) (by omega) ?_
  exact x_vret dX16_init_4 rfl (Or.inl ⟨(), _, h, rfl, rfl⟩)
def v_X19_init (x0 : Nat) (x1 : Int32) (x2 : Nat) (s : tM) (Kr : tM → Prop) : Prop :=
  (tO s 16 x0 ∧ (v_X16_init x0 s (fun s102 => (tO s102 16 x0 ∧ (xB x1 ∧ (∀ s106 : tM, s106 = tsI s102 x0 0 x1 → (∀ s108 : tM, s108 = tsR s106 x0 1 x2 → (Kr s108))))))))
theorem e_X19_init {G : xG} {l : Launch} {g : xH} {d : Nat} (hd : 4 ≤ d) {x0 : Nat} {x1 : Int32} {x2 : Nat} {s : tM} {Kr : tM → Prop} (h : v_X19_init x0 x1 x2 s Kr) : xC G l kX19_init d 0 0 [rfv x0, .int x1, rfv x2] (tH G g s) (tQ G g wu (fun _ => Kr) tNo) := by
  obtain ⟨d, rfl⟩ : ∃ z, d = z + 1 := ⟨d - 1, by omega⟩
  refine t_start rfl (by decide +kernel) (by simp [xct_i, xct_l, rfv_c]) (lv := [some (rfv x0), some (.int x1), some (rfv x2)]) (by simp [lv_args, xLv, rfv_c, xct_i, xct_l]) ?_
  unfold v_X19_init at h
  refine t_aload_0 dX19_init_0 ?_
  obtain ⟨e103, h⟩ := h
  refine t_cIN (As := []) rfl cin_X19_1 e103.2 rfl rfl (xrm4 (Nat.le_of_ble_eq_true rfl)) dX19_init_1 (e_X16_init (by omega) h) ⟨Nat.zero_le _, Nat.zero_le _⟩ (fun _ _ _ h => h.elim) (fun _ s102 h => ?_)
  refine t_aload_0 dX19_init_4 ?_
  refine x_iload_1 dX19_init_5 ?_
  obtain ⟨e104, h⟩ := h
  obtain ⟨e105, h⟩ := h
  refine t_putFI (j := 0) dX19_init_6 ff_X19_7_16 rfl (by decide) e104 (xB_n e105) (xB_f e105) ?_
  refine t_gen h (fun s106 w107 h => ?_)
  refine t_aload_0 dX19_init_9 ?_
  refine t_aload_2 dX19_init_10 ?_
  refine t_putFR (j := 1) dX19_init_11 ff_X19_13_16 rfl (by decide) (tO_w w107 e104) rfl ?_
  refine t_gen h (fun s108 w109 h => ?_)
  exact x_vret dX19_init_14 rfl (Or.inl ⟨(), _, h, rfl, rfl⟩)
def v_X7_joined (N : tP) (x0 : Nat) (x1 : Int32) (x2 : Int32) (k n : Nat) (s : tM) (Kr : Nat → tM → Prop) : Prop :=
  (tE s 7 18 x0 ∧ (tX s 7 (tR s x0 5) x2 ∧ (∀ x103 : Nat, x103 = tR s (tR s x0 5) x2.toNatClampNeg → ((((tI s x0 4) - x2) ≤ 1 → (∀ s105 : tM, s105 = tsI s x0 4 x2 → (Kr x103 s105))) ∧ (¬ ((tI s x0 4) - x2) ≤ 1 → (∀ x107 : Int32, x107 = (tI s x0 4) - x2 → (¬ x107 < 0 ∧ (x107.toNatClampNeg * 4 ≤ 536870912 ∧ (1 ≤ k ∧ (x107.toNatClampNeg ≤ n ∧ (∀ q112 : Nat, s.1 q112 = none → ¬ q112 = 0 → ¬ q112 = N.2.2 200 → (∀ s113 : tM, s113 = tNew s q112 (.inr (7, x107.toNatClampNeg)) → (tE s113 7 18 x0 ∧ ((∃ N, tA s113 7 N q112) ∧ (tCpOk s113 7 (tR s113 x0 5) q112 x2 0 (Int32.ofNat (tLen s113 q112)) ∧ ((∀ i : Nat, i < ((Int32.ofNat (tLen s113 q112))).toNatClampNeg → tR s113 (tR s113 x0 5) (x2.toNatClampNeg + i) = 0 ∨ ∃ ci, xSt 7 ci ∧ tO s113 ci (tR s113 (tR s113 x0 5) (x2.toNatClampNeg + i))) ∧ (∀ s119 : tM, s119 = tCpR s113 (tR s113 x0 5) q112 x2.toNatClampNeg 0 ((Int32.ofNat (tLen s113 q112))).toNatClampNeg → (1 ≤ (k - 1) ∧ (2 ≤ (n - x107.toNatClampNeg) ∧ (∀ q123 : Nat, s119.1 q123 = none → ¬ q123 = 0 → ¬ q123 = N.2.2 200 → (∀ s124 : tM, s124 = tNew s119 q123 (.inl 16) → (v_X19_init q123 x1 q112 s124 (fun s128 => (tE s128 7 18 x0 ∧ (∀ s130 : tM, s130 = tsI s128 x0 4 x2 → (Kr q123 s130))))))))))))))))))))))))))
theorem e_X7_joined {G : xG} {l : Launch} {g : xH} {d : Nat} {N : tP} (hN : tNs G N) (hd : 6 ≤ d) {x0 : Nat} {x1 : Int32} {x2 : Int32} {k n : Nat} {s : tM} {Kr : Nat → tM → Prop} (h : v_X7_joined N x0 x1 x2 k n s Kr) : xC G l kX7_joined d k n [rfv x0, .int x1, .int x2] (tH G g s) (tQ G g wr Kr tNo) := by
  obtain ⟨d, rfl⟩ : ∃ z, d = z + 1 := ⟨d - 1, by omega⟩
  refine t_start rfl (by decide +kernel) (by simp [xct_i, xct_l, rfv_c]) (lv := [some (rfv x0), some (.int x1), some (.int x2), none, none]) (by simp [lv_args, xLv, rfv_c, xct_i, xct_l]) ?_
  unfold v_X7_joined at h
  refine t_aload_0 dX7_joined_0 ?_
  obtain ⟨e101, h⟩ := h
  refine t_getR2 (j := 5) dX7_joined_1 ⟨fa_X7_17_7, fa_X7_17_18⟩ (by decide) e101 ?_
  refine x_iload_2 dX7_joined_4 ?_
  obtain ⟨e102, h⟩ := h
  refine t_aald (t := 7) dX7_joined_5 ⟨rfl, by decide, by decide⟩ rfl e102 ?_
  refine t_astore_3 dX7_joined_6 (by decide) xN2_i ?_
  have h := h _ rfl
  refine t_aload_0 dX7_joined_7 ?_
  refine t_getI2 (j := 4) dX7_joined_8 ⟨fa_X7_80_7, fa_X7_80_18⟩ (by decide) e101 ?_
  refine x_iload_2 dX7_joined_11 ?_
  refine x_isub dX7_joined_12 ?_
  refine x_iconst (v := 1) dX7_joined_13 (by decide) ?_
  refine x_icmp_le 53 dX7_joined_14 (by decide) (fun c104 => ?_) (fun c104 => ?_)
  · have h := h.1 c104
    refine t_aload_0 dX7_joined_53 ?_
    refine x_iload_2 dX7_joined_54 ?_
    refine t_putI2 (j := 4) dX7_joined_55 ⟨fp_X7_80_7, fp_X7_80_18⟩ (by decide) e101 rfl rfl ?_
    refine t_gen h (fun s105 w106 h => ?_)
    refine t_aload_3 dX7_joined_58 ?_
    exact t_aret dX7_joined_59 rfl (by first | exact Or.inl ⟨_, rfl⟩ | exact Or.inr ⟨_, rfl⟩) (Or.inl ⟨_, _, h, rfl, rfl⟩)
  · have h := h.2 c104
    refine t_aload_0 dX7_joined_17 ?_
    refine t_getI2 (j := 4) dX7_joined_18 ⟨fa_X7_80_7, fa_X7_80_18⟩ (by decide) e101 ?_
    refine x_iload_2 dX7_joined_21 ?_
    refine x_isub dX7_joined_22 ?_
    have h := h _ rfl
    obtain ⟨e108, h⟩ := h
    obtain ⟨e109, h⟩ := h
    obtain ⟨e110, h⟩ := h
    obtain ⟨e111, h⟩ := h
    refine t_anew (t := 7) (N := _) dX7_joined_23 nq_X7_15 e108 rfl e109 e110 e111 (fun q h1 h2 h3 => ?_)
    have h := h q h1 h2 (fun e => h3 (e.trans (hN 200)))
    refine t_gen h (fun s113 w114 h => ?_)
    refine t_astore_4 dX7_joined_26 (by decide) xN2_f ?_
    refine t_aload_0 dX7_joined_28 ?_
    obtain ⟨e115, h⟩ := h
    refine t_getR2 (j := 5) dX7_joined_29 ⟨fa_X7_17_7, fa_X7_17_18⟩ (by decide) e115 ?_
    refine x_iload_2 dX7_joined_32 ?_
    refine t_aload_4 dX7_joined_33 ?_
    refine x_iconst (v := 0) dX7_joined_35 (by decide) ?_
    refine t_aload_4 dX7_joined_36 ?_
    obtain ⟨e116, h⟩ := h
    refine t_alen (t := 7) dX7_joined_38 ⟨rfl, by decide⟩ e116 ?_
    obtain ⟨e117, h⟩ := h
    obtain ⟨e118, h⟩ := h
    refine t_copyR (t := 7) dX7_joined_39 na_X7_102 rfl (by decide) rfl e117 e118 (by omega) (by decide) ?_
    refine t_gen h (fun s119 w120 h => ?_)
    obtain ⟨e121, h⟩ := h
    obtain ⟨e122, h⟩ := h
    refine t_new (N := 2) dX7_joined_42 ne_X7_108 rfl e121 e122 (fun q h1 h2 h3 => ?_)
    have h := h q h1 h2 (fun e => h3 (e.trans (hN 200)))
    refine t_gen h (fun s124 w125 h => ?_)
    have e126 := h2
    refine x_dup dX7_joined_45 (rfv_c _) ?_
    refine x_iload_1 dX7_joined_46 ?_
    refine t_aload_4 dX7_joined_47 ?_
    refine t_cI (As := [_, _]) rfl ci_X7_110 e126 rfl rfl (xrm4 (Nat.le_of_ble_eq_true rfl)) dX7_joined_49 (e_X19_init (by omega) h) ⟨Nat.zero_le _, Nat.zero_le _⟩ (fun _ _ _ h => h.elim) (fun _ s128 h => ?_)
    refine t_astore_3 dX7_joined_52 (by decide) xN2_i ?_
    refine t_aload_0 dX7_joined_53 ?_
    refine x_iload_2 dX7_joined_54 ?_
    obtain ⟨e129, h⟩ := h
    refine t_putI2 (j := 4) dX7_joined_55 ⟨fp_X7_80_7, fp_X7_80_18⟩ (by decide) e129 rfl rfl ?_
    refine t_gen h (fun s130 w131 h => ?_)
    refine t_aload_3 dX7_joined_58 ?_
    exact t_aret dX7_joined_59 rfl (by first | exact Or.inl ⟨_, rfl⟩ | exact Or.inr ⟨_, rfl⟩) (Or.inl ⟨_, _, h, rfl, rfl⟩)
def v_X17_init (x0 : Nat) (x1 : Nat) (x2 : Int32) (x3 : Nat) (s : tM) (Kr : tM → Prop) : Prop :=
  (tO s 14 x0 ∧ (v_X16_init x0 s (fun s102 => (tO s102 14 x0 ∧ (∀ s105 : tM, s105 = tsR s102 x0 0 x1 → (∀ s107 : tM, s107 = tsI s105 x0 2 x2 → (∀ s109 : tM, s109 = tsR s107 x0 1 x3 → (Kr s109))))))))
theorem e_X17_init {G : xG} {l : Launch} {g : xH} {d : Nat} (hd : 4 ≤ d) {x0 : Nat} {x1 : Nat} {x2 : Int32} {x3 : Nat} {s : tM} {Kr : tM → Prop} (h : v_X17_init x0 x1 x2 x3 s Kr) : xC G l kX17_init d 0 0 [rfv x0, rfv x1, .int x2, rfv x3] (tH G g s) (tQ G g wu (fun _ => Kr) tNo) := by
  obtain ⟨d, rfl⟩ : ∃ z, d = z + 1 := ⟨d - 1, by omega⟩
  refine t_start rfl (by decide +kernel) (by simp [xct_i, xct_l, rfv_c]) (lv := [some (rfv x0), some (rfv x1), some (.int x2), some (rfv x3)]) (by simp [lv_args, xLv, rfv_c, xct_i, xct_l]) ?_
  unfold v_X17_init at h
  refine t_aload_0 dX17_init_0 ?_
  obtain ⟨e103, h⟩ := h
  refine t_cIN (As := []) rfl cin_X17_1 e103.2 rfl rfl (xrm4 (Nat.le_of_ble_eq_true rfl)) dX17_init_1 (e_X16_init (by omega) h) ⟨Nat.zero_le _, Nat.zero_le _⟩ (fun _ _ _ h => h.elim) (fun _ s102 h => ?_)
  refine t_aload_0 dX17_init_4 ?_
  refine t_aload_1 dX17_init_5 ?_
  obtain ⟨e104, h⟩ := h
  refine t_putFR (j := 0) dX17_init_6 ff_X17_7_14 rfl (by decide) e104 rfl ?_
  refine t_gen h (fun s105 w106 h => ?_)
  refine t_aload_0 dX17_init_9 ?_
  refine x_iload_2 dX17_init_10 ?_
  refine t_putFI (j := 2) dX17_init_11 ff_X17_13_14 rfl (by decide) (tO_w w106 e104) rfl rfl ?_
  refine t_gen h (fun s107 w108 h => ?_)
  refine t_aload_0 dX17_init_14 ?_
  refine t_aload_3 dX17_init_15 ?_
  refine t_putFR (j := 1) dX17_init_16 ff_X17_17_14 rfl (by decide) (tO_w w108 (tO_w w106 e104)) rfl ?_
  refine t_gen h (fun s109 w110 h => ?_)
  exact x_vret dX17_init_19 rfl (Or.inl ⟨(), _, h, rfl, rfl⟩)
def v_X18_init (x0 : Nat) (x1 : Nat) (s : tM) (Kr : tM → Prop) : Prop :=
  (tO s 15 x0 ∧ (v_X16_init x0 s (fun s102 => (tO s102 15 x0 ∧ (∀ s105 : tM, s105 = tsR s102 x0 0 x1 → (Kr s105))))))
theorem e_X18_init {G : xG} {l : Launch} {g : xH} {d : Nat} (hd : 4 ≤ d) {x0 : Nat} {x1 : Nat} {s : tM} {Kr : tM → Prop} (h : v_X18_init x0 x1 s Kr) : xC G l kX18_init d 0 0 [rfv x0, rfv x1] (tH G g s) (tQ G g wu (fun _ => Kr) tNo) := by
  obtain ⟨d, rfl⟩ : ∃ z, d = z + 1 := ⟨d - 1, by omega⟩
  refine t_start rfl (by decide +kernel) (by simp [xct_i, xct_l, rfv_c]) (lv := [some (rfv x0), some (rfv x1)]) (by simp [lv_args, xLv, rfv_c, xct_i, xct_l]) ?_
  unfold v_X18_init at h
  refine t_aload_0 dX18_init_0 ?_
  obtain ⟨e103, h⟩ := h
  refine t_cIN (As := []) rfl cin_X18_1 e103.2 rfl rfl (xrm4 (Nat.le_of_ble_eq_true rfl)) dX18_init_1 (e_X16_init (by omega) h) ⟨Nat.zero_le _, Nat.zero_le _⟩ (fun _ _ _ h => h.elim) (fun _ s102 h => ?_)
  refine t_aload_0 dX18_init_4 ?_
  refine t_aload_1 dX18_init_5 ?_
  obtain ⟨e104, h⟩ := h
  refine t_putFR (j := 0) dX18_init_6 ff_X18_7_15 rfl (by decide) e104 rfl ?_
  refine t_gen h (fun s105 w106 h => ?_)
  exact x_vret dX18_init_9 rfl (Or.inl ⟨(), _, h, rfl, rfl⟩)
def v_X7_both_13 (N : tP) (rc : Nat → Nat → Nat → Nat → tM → (Nat → tM → Prop) → (String → Nat → tM → Prop) → Prop) (x0 : Nat) (x1 : Int32) (Kr : Nat → tM → Prop) (Kx : String → Nat → tM → Prop) (K : Nat → Nat → tM → Prop) : Nat → Nat → Nat → tM → Prop
  | 0, _, _, _ => False
  | t + 1, k, n, s => (tE s 7 18 x0 ∧ (v_X7_accept N x0 (N.2.2 27) s (fun x101 s102 => ((x101 = 0 → (K k n s102)) ∧ (¬ x101 = 0 → (∃ c107 c108 : Nat, c107 ≤ k ∧ c108 ≤ n ∧ (tE s102 7 18 x0 ∧ (rc 1 x0 c107 c108 s102 (fun x105 s106 => (tE s106 7 18 x0 ∧ (v_X7_add x0 x105 s106 (fun s113 => ((fun k n s => v_X7_both_13 N rc x0 x1 Kr Kx K t k n s) (k - c107) (n - c108) s113))))) Kx))))))))
theorem e_X7_both_13 {G : xG} {l : Launch} {g : xH} {d : Nat} {N : tP} (hN : tNs G N) (hd : 1 * N.2.1 + 13 ≤ d) {rc : Nat → Nat → Nat → Nat → tM → (Nat → tM → Prop) → (String → Nat → tM → Prop) → Prop} (ih0 : ∀ (x0 : Nat) (k n : Nat) (s : tM) (Kr : Nat → tM → Prop) (Kx : String → Nat → tM → Prop), rc 0 x0 k n s Kr Kx → xC G l kX7_both d k n [rfv x0] (tH G g s) (tQ G g wr Kr Kx)) (ih1 : ∀ (x0 : Nat) (k n : Nat) (s : tM) (Kr : Nat → tM → Prop) (Kx : String → Nat → tM → Prop), rc 1 x0 k n s Kr Kx → xC G l kX7_plain d k n [rfv x0] (tH G g s) (tQ G g wr Kr Kx)) (ih2 : ∀ (x0 : Nat) (k n : Nat) (s : tM) (Kr : Nat → tM → Prop) (Kx : String → Nat → tM → Prop), rc 2 x0 k n s Kr Kx → xC G l kX7_test d k n [rfv x0] (tH G g s) (tQ G g wr Kr Kx)) (x0 : Nat) (x1 : Int32) (Kr : Nat → tM → Prop) (Kx : String → Nat → tM → Prop) (K : Nat → Nat → tM → Prop) : ∀ (t : Nat) (k n : Nat) (s : tM) , v_X7_both_13 N rc x0 x1 Kr Kx K t k n s → (∀ (k n : Nat) (s : tM), K k n s → xF G l kX7_both (d + 1) k n (tQ G g wr Kr Kx) 33 [some (rfv x0), some (.int x1)] [] (tH G g s)) → xF G l kX7_both (d + 1) k n (tQ G g wr Kr Kx) 13 [some (rfv x0), some (.int x1)] [] (tH G g s) := by
  intro t
  induction t with
  | zero =>
    intro _ _ _ h _
    exact absurd h (by simp [v_X7_both_13])
  | succ t ih =>
    intro k n s h hK
    have hR := fun k n s h => ih k n s h hK
    unfold v_X7_both_13 at h
    refine t_aload_0 dX7_both_13 ?_
    refine t_ldcN hN dX7_both_14 (i := 27) ⟨27, rfl⟩ ?_
    obtain ⟨e103, h⟩ := h
    refine t_cDi (As := [_]) rfl (e103.elim (fun e => ⟨_, 7, _, _, _, _, _, xcl_X8.1, cu_X7_38_7, e, (e_X7_accept hN (by omega) h)⟩) (fun e => ⟨_, 18, _, _, _, _, _, xcl_X21.1, cu_X7_38_18, e, (e_X7_accept hN (by omega) h)⟩)) rfl rfl (xrm4 (Nat.le_of_ble_eq_true rfl)) dX7_both_16 ⟨Nat.zero_le _, Nat.zero_le _⟩ (fun _ _ _ h => h.elim) (fun x101 s102 h => ?_)
    refine x_if_eq 33 dX7_both_19 (by decide) (fun c104 => ?_) (fun c104 => ?_)
    · have h := h.1 c104
      exact x_le (xLe_cons (xLe_cons (xLe_nil))) (hK _ _ _ h)
    · have h := h.2 c104
      refine t_aload_0 dX7_both_22 ?_
      refine t_aload_0 dX7_both_23 ?_
      obtain ⟨c107, c108, e109, e110, h⟩ := h
      obtain ⟨e111, h⟩ := h
      refine t_cDr (As := []) rfl (e111.elim (fun e => ⟨_, 7, _, _, _, _, _, xcl_X8.1, cu_X7_97_7, e, (ih1 _ _ _ _ _ _  h)⟩) (fun e => ⟨_, 18, _, _, _, _, _, xcl_X21.1, cu_X7_97_18, e, (ih1 _ _ _ _ _ _  h)⟩)) rfl rfl (xrm4 (Nat.le_of_ble_eq_true rfl)) dX7_both_24 ⟨e109, e110⟩ (fun E q m1 h => Or.inr ⟨E, q, m1, h, rfl, rfl⟩) (fun x105 s106 h => ?_)
      obtain ⟨e114, h⟩ := h
      refine t_cDv (As := [_]) rfl (e114.elim (fun e => ⟨_, 7, _, _, _, _, _, xcl_X8.1, cu_X7_87_7, e, (e_X7_add (by omega) h)⟩) (fun e => ⟨_, 18, _, _, _, _, _, xcl_X21.1, cu_X7_87_18, e, (e_X7_add (by omega) h)⟩)) rfl rfl (xrm4 (Nat.le_of_ble_eq_true rfl)) dX7_both_27 ⟨Nat.zero_le _, Nat.zero_le _⟩ (fun _ _ _ h => h.elim) (fun _ s113 h => ?_)
      refine x_goto 13 dX7_both_30 (by decide) ?_
      exact x_le (xLe_cons (xLe_cons (xLe_nil))) (hR _ _ _ h)
def v_X7_both (N : tP) (rc : Nat → Nat → Nat → Nat → tM → (Nat → tM → Prop) → (String → Nat → tM → Prop) → Prop) (x0 : Nat) (k n : Nat) (s : tM) (Kr : Nat → tM → Prop) (Kx : String → Nat → tM → Prop) : Prop :=
  (tE s 7 18 x0 ∧ (∀ x102 : Int32, x102 = tI s x0 4 → (∃ c105 c106 : Nat, c105 ≤ k ∧ c106 ≤ n ∧ (rc 1 x0 c105 c106 s (fun x103 s104 => (tE s104 7 18 x0 ∧ (v_X7_add x0 x103 s104 (fun s110 => (v_X7_both_13 N rc x0 x102 Kr Kx (fun k113 n114 s112 => (∃ c117 c118 : Nat, c117 ≤ k113 ∧ c118 ≤ n114 ∧ (tE s112 7 18 x0 ∧ (v_X7_joined N x0 1 x102 c117 c118 s112 (fun x115 s116 => (Kr x115 s116)))))) N.1 (k - c105) (n - c106) s110))))) Kx))))
theorem eb_X7_both {G : xG} {l : Launch} {g : xH} {d : Nat} {N : tP} (hN : tNs G N) (hd : 1 * N.2.1 + 13 ≤ d) {rc : Nat → Nat → Nat → Nat → tM → (Nat → tM → Prop) → (String → Nat → tM → Prop) → Prop} (ih0 : ∀ (x0 : Nat) (k n : Nat) (s : tM) (Kr : Nat → tM → Prop) (Kx : String → Nat → tM → Prop), rc 0 x0 k n s Kr Kx → xC G l kX7_both d k n [rfv x0] (tH G g s) (tQ G g wr Kr Kx)) (ih1 : ∀ (x0 : Nat) (k n : Nat) (s : tM) (Kr : Nat → tM → Prop) (Kx : String → Nat → tM → Prop), rc 1 x0 k n s Kr Kx → xC G l kX7_plain d k n [rfv x0] (tH G g s) (tQ G g wr Kr Kx)) (ih2 : ∀ (x0 : Nat) (k n : Nat) (s : tM) (Kr : Nat → tM → Prop) (Kx : String → Nat → tM → Prop), rc 2 x0 k n s Kr Kx → xC G l kX7_test d k n [rfv x0] (tH G g s) (tQ G g wr Kr Kx)) {x0 : Nat} {k n : Nat} {s : tM} {Kr : Nat → tM → Prop} {Kx : String → Nat → tM → Prop} (h : v_X7_both N rc x0 k n s Kr Kx) : xC G l kX7_both (d + 1) k n [rfv x0] (tH G g s) (tQ G g wr Kr Kx) := by
  refine t_start rfl (by decide +kernel) (by simp [xct_i, xct_l, rfv_c]) (lv := [some (rfv x0), none]) (by simp [lv_args, xLv, rfv_c, xct_i, xct_l]) ?_
  unfold v_X7_both at h
  refine t_aload_0 dX7_both_0 ?_
  obtain ⟨e101, h⟩ := h
  refine t_getI2 (j := 4) dX7_both_1 ⟨fa_X7_80_7, fa_X7_80_18⟩ (by decide) e101 ?_
  refine x_istore_1 dX7_both_4 (by decide) xN2_f ?_
  have h := h _ rfl
  refine t_aload_0 dX7_both_5 ?_
  refine t_aload_0 dX7_both_6 ?_
  obtain ⟨c105, c106, e107, e108, h⟩ := h
  refine t_cDr (As := []) rfl (e101.elim (fun e => ⟨_, 7, _, _, _, _, _, xcl_X8.1, cu_X7_97_7, e, (ih1 _ _ _ _ _ _  h)⟩) (fun e => ⟨_, 18, _, _, _, _, _, xcl_X21.1, cu_X7_97_18, e, (ih1 _ _ _ _ _ _  h)⟩)) rfl rfl (xrm4 (Nat.le_of_ble_eq_true rfl)) dX7_both_7 ⟨e107, e108⟩ (fun E q m1 h => Or.inr ⟨E, q, m1, h, rfl, rfl⟩) (fun x103 s104 h => ?_)
  obtain ⟨e111, h⟩ := h
  refine t_cDv (As := [_]) rfl (e111.elim (fun e => ⟨_, 7, _, _, _, _, _, xcl_X8.1, cu_X7_87_7, e, (e_X7_add (by omega) h)⟩) (fun e => ⟨_, 18, _, _, _, _, _, xcl_X21.1, cu_X7_87_18, e, (e_X7_add (by omega) h)⟩)) rfl rfl (xrm4 (Nat.le_of_ble_eq_true rfl)) dX7_both_10 ⟨Nat.zero_le _, Nat.zero_le _⟩ (fun _ _ _ h => h.elim) (fun _ s110 h => ?_)
  refine x_le (xLe_cons (xLe_cons (xLe_nil))) (e_X7_both_13 hN (by omega) ih0 ih1 ih2 _ _ _ _ _  _ _ _ _ h (fun k113 n114 s112 h => ?_))
  refine t_aload_0 dX7_both_33 ?_
  refine x_iconst (v := 1) dX7_both_34 (by decide) ?_
  refine x_iload_1 dX7_both_35 ?_
  obtain ⟨c117, c118, e119, e120, h⟩ := h
  obtain ⟨e121, h⟩ := h
  refine t_cDr (As := [_, _]) rfl (e121.elim (fun e => ⟨_, 7, _, _, _, _, _, xcl_X8.1, cu_X7_93_7, e, (e_X7_joined hN (by omega) h)⟩) (fun e => ⟨_, 18, _, _, _, _, _, xcl_X21.1, cu_X7_93_18, e, (e_X7_joined hN (by omega) h)⟩)) rfl rfl (xrm4 (Nat.le_of_ble_eq_true rfl)) dX7_both_36 ⟨e119, e120⟩ (fun _ _ _ h => h.elim) (fun x115 s116 h => ?_)
  exact t_aret dX7_both_39 rfl (by first | exact Or.inl ⟨_, rfl⟩ | exact Or.inr ⟨_, rfl⟩) (Or.inl ⟨_, _, h, rfl, rfl⟩)
def v_X7_plain_125 (N : tP) (rc : Nat → Nat → Nat → Nat → tM → (Nat → tM → Prop) → (String → Nat → tM → Prop) → Prop) (x1 : Int32) (x2 : Nat) (Kr : Nat → tM → Prop) (Kx : String → Nat → tM → Prop) (k n : Nat) (s : tM) : Prop :=
  ((x1 = 0 → (Kr x2 s)) ∧ (¬ x1 = 0 → (1 ≤ k ∧ (1 ≤ n ∧ (∀ q104 : Nat, s.1 q104 = none → ¬ q104 = 0 → ¬ q104 = N.2.2 200 → (∀ s105 : tM, s105 = tNew s q104 (.inl 15) → (v_X18_init q104 x2 s105 (fun s109 => (Kr q104 s109)))))))))
theorem e_X7_plain_125 {G : xG} {l : Launch} {g : xH} {d : Nat} {N : tP} (hN : tNs G N) (hd : 1 * N.2.1 + 13 ≤ d) {rc : Nat → Nat → Nat → Nat → tM → (Nat → tM → Prop) → (String → Nat → tM → Prop) → Prop} (ih0 : ∀ (x0 : Nat) (k n : Nat) (s : tM) (Kr : Nat → tM → Prop) (Kx : String → Nat → tM → Prop), rc 0 x0 k n s Kr Kx → xC G l kX7_both d k n [rfv x0] (tH G g s) (tQ G g wr Kr Kx)) (ih1 : ∀ (x0 : Nat) (k n : Nat) (s : tM) (Kr : Nat → tM → Prop) (Kx : String → Nat → tM → Prop), rc 1 x0 k n s Kr Kx → xC G l kX7_plain d k n [rfv x0] (tH G g s) (tQ G g wr Kr Kx)) (ih2 : ∀ (x0 : Nat) (k n : Nat) (s : tM) (Kr : Nat → tM → Prop) (Kx : String → Nat → tM → Prop), rc 2 x0 k n s Kr Kx → xC G l kX7_test d k n [rfv x0] (tH G g s) (tQ G g wr Kr Kx)) (x1 : Int32) (x2 : Nat) (Kr : Nat → tM → Prop) (Kx : String → Nat → tM → Prop) (k n : Nat) (s : tM) (h : v_X7_plain_125 N rc x1 x2 Kr Kx k n s) : xF G l kX7_plain (d + 1) k n (tQ G g wr Kr Kx) 125 [none, some (.int x1), some (rfv x2), none, none] [] (tH G g s) := by
  unfold v_X7_plain_125 at h
  refine x_iload_1 dX7_plain_125 ?_
  refine x_if_eq 140 dX7_plain_126 (by decide) (fun c101 => ?_) (fun c101 => ?_)
  · have h := h.1 c101
    refine t_aload_2 dX7_plain_140 ?_
    exact t_aret dX7_plain_141 rfl (by first | exact Or.inl ⟨_, rfl⟩ | exact Or.inr ⟨_, rfl⟩) (Or.inl ⟨_, _, h, rfl, rfl⟩)
  · have h := h.2 c101
    obtain ⟨e102, h⟩ := h
    obtain ⟨e103, h⟩ := h
    refine t_new (N := 1) dX7_plain_129 ne_X7_150 rfl e102 e103 (fun q h1 h2 h3 => ?_)
    have h := h q h1 h2 (fun e => h3 (e.trans (hN 200)))
    refine t_gen h (fun s105 w106 h => ?_)
    have e107 := h2
    refine x_dup dX7_plain_132 (rfv_c _) ?_
    refine t_aload_2 dX7_plain_133 ?_
    refine t_cI (As := [_]) rfl ci_X7_152 e107 rfl rfl (xrm4 (Nat.le_of_ble_eq_true rfl)) dX7_plain_134 (e_X18_init (by omega) h) ⟨Nat.zero_le _, Nat.zero_le _⟩ (fun _ _ _ h => h.elim) (fun _ s109 h => ?_)
    refine x_goto 141 dX7_plain_137 (by decide) ?_
    exact t_aret dX7_plain_141 rfl (by first | exact Or.inl ⟨_, rfl⟩ | exact Or.inr ⟨_, rfl⟩) (Or.inl ⟨_, _, h, rfl, rfl⟩)
def v_X7_plain_89 (N : tP) (rc : Nat → Nat → Nat → Nat → tM → (Nat → tM → Prop) → (String → Nat → tM → Prop) → Prop) (x0 : Nat) (x1 : Int32) (x3 : Nat) (y0 : Nat) (y1 : Int32) (Kr : Nat → tM → Prop) (Kx : String → Nat → tM → Prop) (k n : Nat) (s : tM) : Prop :=
  (∃ c103 c104 : Nat, c103 ≤ k ∧ c104 ≤ n ∧ (tE s 7 18 y0 ∧ (v_X7_must N y0 y1 c103 c104 s (fun s102 => (tE s102 7 18 x0 ∧ (tO s102 0 (tR s102 x0 7) ∧ (tX s102 2 (tR s102 (tR s102 x0 7) 14) (tI s102 x0 0) ∧ (∀ x111 : Int32, x111 = tI s102 (tR s102 (tR s102 x0 7) 14) (tI s102 x0 0).toNatClampNeg → (v_X7_next N x0 s102 (fun s113 => (1 ≤ (k - c103) ∧ (3 ≤ (n - c104) ∧ (∀ q116 : Nat, s113.1 q116 = none → ¬ q116 = 0 → ¬ q116 = N.2.2 200 → (∀ s117 : tM, s117 = tNew s113 q116 (.inl 14) → (∃ c122 c123 : Nat, c122 ≤ (k - c103) - 1 ∧ c123 ≤ (n - c104) - 3 ∧ (tE s117 7 18 x0 ∧ (r_X7_part N N.2.1 1 x0 c122 c123 s117 (fun x120 s121 => (tO s121 14 q116 ∧ (v_X17_init q116 x3 x111 x120 s121 (fun s128 => (v_X7_plain_125 N rc x1 q116 Kr Kx (((k - c103) - 1) - c122) (((n - c104) - 3) - c123) s128))))) Kx)))))))))))))) Kx)))
theorem e_X7_plain_89 {G : xG} {l : Launch} {g : xH} {d : Nat} {N : tP} (hN : tNs G N) (hd : 1 * N.2.1 + 13 ≤ d) {rc : Nat → Nat → Nat → Nat → tM → (Nat → tM → Prop) → (String → Nat → tM → Prop) → Prop} (ih0 : ∀ (x0 : Nat) (k n : Nat) (s : tM) (Kr : Nat → tM → Prop) (Kx : String → Nat → tM → Prop), rc 0 x0 k n s Kr Kx → xC G l kX7_both d k n [rfv x0] (tH G g s) (tQ G g wr Kr Kx)) (ih1 : ∀ (x0 : Nat) (k n : Nat) (s : tM) (Kr : Nat → tM → Prop) (Kx : String → Nat → tM → Prop), rc 1 x0 k n s Kr Kx → xC G l kX7_plain d k n [rfv x0] (tH G g s) (tQ G g wr Kr Kx)) (ih2 : ∀ (x0 : Nat) (k n : Nat) (s : tM) (Kr : Nat → tM → Prop) (Kx : String → Nat → tM → Prop), rc 2 x0 k n s Kr Kx → xC G l kX7_test d k n [rfv x0] (tH G g s) (tQ G g wr Kr Kx)) (x0 : Nat) (x1 : Int32) (x3 : Nat) (y0 : Nat) (y1 : Int32) (Kr : Nat → tM → Prop) (Kx : String → Nat → tM → Prop) (k n : Nat) (s : tM) (h : v_X7_plain_89 N rc x0 x1 x3 y0 y1 Kr Kx k n s) : xF G l kX7_plain (d + 1) k n (tQ G g wr Kr Kx) 89 [some (rfv x0), some (.int x1), none, some (rfv x3), none] [.int y1, rfv y0] (tH G g s) := by
  unfold v_X7_plain_89 at h
  obtain ⟨c103, c104, e105, e106, h⟩ := h
  obtain ⟨e107, h⟩ := h
  refine t_cDv (As := [_]) rfl (e107.elim (fun e => ⟨_, 7, _, _, _, _, _, xcl_X8.1, cu_X7_28_7, e, (e_X7_must hN (by omega) h)⟩) (fun e => ⟨_, 18, _, _, _, _, _, xcl_X21.1, cu_X7_28_18, e, (e_X7_must hN (by omega) h)⟩)) rfl rfl (xrm4 (Nat.le_of_ble_eq_true rfl)) dX7_plain_89 ⟨e105, e106⟩ (fun E q m1 h => Or.inr ⟨E, q, m1, h, rfl, rfl⟩) (fun _ s102 h => ?_)
  refine t_aload_0 dX7_plain_92 ?_
  obtain ⟨e108, h⟩ := h
  refine t_getR2 (j := 7) dX7_plain_93 ⟨fa_X7_3_7, fa_X7_3_18⟩ (by decide) e108 ?_
  obtain ⟨e109, h⟩ := h
  refine t_getR dX7_plain_96 fa_X7_52_0 (by decide) e109 ?_
  refine t_aload_0 dX7_plain_99 ?_
  refine t_getI2 (j := 0) dX7_plain_100 ⟨fa_X7_42_7, fa_X7_42_18⟩ (by decide) e108 ?_
  obtain ⟨e110, h⟩ := h
  refine t_bald dX7_plain_103 e110 ?_
  refine x_istore_4 dX7_plain_104 (by decide) xN2_f ?_
  have h := h _ rfl
  refine t_aload_0 dX7_plain_106 ?_
  refine t_cDv (As := []) rfl (e108.elim (fun e => ⟨_, 7, _, _, _, _, _, xcl_X8.1, cu_X7_25_7, e, (e_X7_next hN (by omega) h)⟩) (fun e => ⟨_, 18, _, _, _, _, _, xcl_X21.1, cu_X7_25_18, e, (e_X7_next hN (by omega) h)⟩)) rfl rfl (xrm4 (Nat.le_of_ble_eq_true rfl)) dX7_plain_107 ⟨Nat.zero_le _, Nat.zero_le _⟩ (fun _ _ _ h => h.elim) (fun _ s113 h => ?_)
  obtain ⟨e114, h⟩ := h
  obtain ⟨e115, h⟩ := h
  refine t_new (N := 3) dX7_plain_110 ne_X7_145 rfl e114 e115 (fun q h1 h2 h3 => ?_)
  have h := h q h1 h2 (fun e => h3 (e.trans (hN 200)))
  refine t_gen h (fun s117 w118 h => ?_)
  have e119 := h2
  refine x_dup dX7_plain_113 (rfv_c _) ?_
  refine t_aload_3 dX7_plain_114 ?_
  refine x_iload_4 dX7_plain_115 ?_
  refine t_aload_0 dX7_plain_117 ?_
  obtain ⟨c122, c123, e124, e125, h⟩ := h
  obtain ⟨e126, h⟩ := h
  refine t_cDr (As := []) rfl (e126.elim (fun e => ⟨_, 7, _, _, _, _, _, xcl_X8.1, cu_X7_135_7, e, (e_X7_sum hN (by omega) h)⟩) (fun e => ⟨_, 18, _, _, _, _, _, xcl_X21.1, cu_X7_135_18, e, (e_X7_sum hN (by omega) h)⟩)) rfl rfl (xrm4 (Nat.le_of_ble_eq_true rfl)) dX7_plain_118 ⟨e124, e125⟩ (fun E q m1 h => Or.inr ⟨E, q, m1, h, rfl, rfl⟩) (fun x120 s121 h => ?_)
  obtain ⟨e129, h⟩ := h
  refine t_cI (As := [_, _, _]) rfl ci_X7_147 e129.2 rfl rfl (xrm4 (Nat.le_of_ble_eq_true rfl)) dX7_plain_121 (e_X17_init (by omega) h) ⟨Nat.zero_le _, Nat.zero_le _⟩ (fun _ _ _ h => h.elim) (fun _ s128 h => ?_)
  refine t_astore_2 dX7_plain_124 (by decide) xN2_i ?_
  exact x_le (xLe_none (xLe_cons (xLe_cons (xLe_none (xLe_none (xLe_nil)))))) (e_X7_plain_125 hN (by omega) ih0 ih1 ih2 _ _ _ _ _ _ _ h)
def v_X7_plain_84 (N : tP) (rc : Nat → Nat → Nat → Nat → tM → (Nat → tM → Prop) → (String → Nat → tM → Prop) → Prop) (x0 : Nat) (x1 : Int32) (x3 : Nat) (y0 : Nat) (Kr : Nat → tM → Prop) (Kx : String → Nat → tM → Prop) (k n : Nat) (s : tM) : Prop :=
  (v_X7_plain_89 N rc x0 x1 x3 y0 1 Kr Kx k n s)
theorem e_X7_plain_84 {G : xG} {l : Launch} {g : xH} {d : Nat} {N : tP} (hN : tNs G N) (hd : 1 * N.2.1 + 13 ≤ d) {rc : Nat → Nat → Nat → Nat → tM → (Nat → tM → Prop) → (String → Nat → tM → Prop) → Prop} (ih0 : ∀ (x0 : Nat) (k n : Nat) (s : tM) (Kr : Nat → tM → Prop) (Kx : String → Nat → tM → Prop), rc 0 x0 k n s Kr Kx → xC G l kX7_both d k n [rfv x0] (tH G g s) (tQ G g wr Kr Kx)) (ih1 : ∀ (x0 : Nat) (k n : Nat) (s : tM) (Kr : Nat → tM → Prop) (Kx : String → Nat → tM → Prop), rc 1 x0 k n s Kr Kx → xC G l kX7_plain d k n [rfv x0] (tH G g s) (tQ G g wr Kr Kx)) (ih2 : ∀ (x0 : Nat) (k n : Nat) (s : tM) (Kr : Nat → tM → Prop) (Kx : String → Nat → tM → Prop), rc 2 x0 k n s Kr Kx → xC G l kX7_test d k n [rfv x0] (tH G g s) (tQ G g wr Kr Kx)) (x0 : Nat) (x1 : Int32) (x3 : Nat) (y0 : Nat) (Kr : Nat → tM → Prop) (Kx : String → Nat → tM → Prop) (k n : Nat) (s : tM) (h : v_X7_plain_84 N rc x0 x1 x3 y0 Kr Kx k n s) : xF G l kX7_plain (d + 1) k n (tQ G g wr Kr Kx) 84 [some (rfv x0), some (.int x1), none, some (rfv x3), none] [rfv y0] (tH G g s) := by
  unfold v_X7_plain_84 at h
  refine x_iconst (v := 1) dX7_plain_84 (by decide) ?_
  refine x_goto 89 dX7_plain_85 (by decide) ?_
  exact x_le (xLe_cons (xLe_cons (xLe_cons (xLe_cons (xLe_cons (xLe_nil)))))) (e_X7_plain_89 hN (by omega) ih0 ih1 ih2 _ _ _ _ _ _ _ _ _ _ h)
def v_X7_plain_2 (N : tP) (rc : Nat → Nat → Nat → Nat → tM → (Nat → tM → Prop) → (String → Nat → tM → Prop) → Prop) (x0 : Nat) (Kr : Nat → tM → Prop) (Kx : String → Nat → tM → Prop) (K : Int32 → Nat → Nat → tM → Prop) : Nat → Int32 → Nat → Nat → tM → Prop
  | 0, _, _, _, _ => False
  | t + 1, x1, k, n, s => (tE s 7 18 x0 ∧ (v_X7_accept N x0 (N.2.2 21) s (fun x101 s102 => ((x101 = 0 → (K x1 k n s102)) ∧ (¬ x101 = 0 → ((¬ x1 = 0 → ((fun x1 k n s => v_X7_plain_2 N rc x0 Kr Kx K t x1 k n s) 0 k n s102)) ∧ (x1 = 0 → ((fun x1 k n s => v_X7_plain_2 N rc x0 Kr Kx K t x1 k n s) 1 k n s102))))))))
theorem e_X7_plain_2 {G : xG} {l : Launch} {g : xH} {d : Nat} {N : tP} (hN : tNs G N) (hd : 1 * N.2.1 + 13 ≤ d) {rc : Nat → Nat → Nat → Nat → tM → (Nat → tM → Prop) → (String → Nat → tM → Prop) → Prop} (ih0 : ∀ (x0 : Nat) (k n : Nat) (s : tM) (Kr : Nat → tM → Prop) (Kx : String → Nat → tM → Prop), rc 0 x0 k n s Kr Kx → xC G l kX7_both d k n [rfv x0] (tH G g s) (tQ G g wr Kr Kx)) (ih1 : ∀ (x0 : Nat) (k n : Nat) (s : tM) (Kr : Nat → tM → Prop) (Kx : String → Nat → tM → Prop), rc 1 x0 k n s Kr Kx → xC G l kX7_plain d k n [rfv x0] (tH G g s) (tQ G g wr Kr Kx)) (ih2 : ∀ (x0 : Nat) (k n : Nat) (s : tM) (Kr : Nat → tM → Prop) (Kx : String → Nat → tM → Prop), rc 2 x0 k n s Kr Kx → xC G l kX7_test d k n [rfv x0] (tH G g s) (tQ G g wr Kr Kx)) (x0 : Nat) (Kr : Nat → tM → Prop) (Kx : String → Nat → tM → Prop) (K : Int32 → Nat → Nat → tM → Prop) : ∀ (t : Nat) (x1 : Int32) (k n : Nat) (s : tM) , v_X7_plain_2 N rc x0 Kr Kx K t x1 k n s → (∀ (z1 : Int32) (k n : Nat) (s : tM), K z1 k n s → xF G l kX7_plain (d + 1) k n (tQ G g wr Kr Kx) 24 [some (rfv x0), some (.int z1), none, none, none] [] (tH G g s)) → xF G l kX7_plain (d + 1) k n (tQ G g wr Kr Kx) 2 [some (rfv x0), some (.int x1), none, none, none] [] (tH G g s) := by
  intro t
  induction t with
  | zero =>
    intro _ _ _ _ h _
    exact absurd h (by simp [v_X7_plain_2])
  | succ t ih =>
    intro x1 k n s h hK
    have hR := fun x1 k n s h => ih x1 k n s h hK
    unfold v_X7_plain_2 at h
    refine t_aload_0 dX7_plain_2 ?_
    refine t_ldcN hN dX7_plain_3 (i := 21) ⟨21, rfl⟩ ?_
    obtain ⟨e103, h⟩ := h
    refine t_cDi (As := [_]) rfl (e103.elim (fun e => ⟨_, 7, _, _, _, _, _, xcl_X8.1, cu_X7_38_7, e, (e_X7_accept hN (by omega) h)⟩) (fun e => ⟨_, 18, _, _, _, _, _, xcl_X21.1, cu_X7_38_18, e, (e_X7_accept hN (by omega) h)⟩)) rfl rfl (xrm4 (Nat.le_of_ble_eq_true rfl)) dX7_plain_5 ⟨Nat.zero_le _, Nat.zero_le _⟩ (fun _ _ _ h => h.elim) (fun x101 s102 h => ?_)
    refine x_if_eq 24 dX7_plain_8 (by decide) (fun c104 => ?_) (fun c104 => ?_)
    · have h := h.1 c104
      exact x_le (xLe_cons (xLe_cons (xLe_cons (xLe_cons (xLe_cons (xLe_nil)))))) (hK _ _ _ _ h)
    · have h := h.2 c104
      refine x_iload_1 dX7_plain_11 ?_
      refine x_if_ne 19 dX7_plain_12 (by decide) (fun c105 => ?_) (fun c105 => ?_)
      · have h := h.1 c105
        refine x_iconst (v := 0) dX7_plain_19 (by decide) ?_
        refine x_istore_1 dX7_plain_20 (by decide) xN2_f ?_
        refine x_goto 2 dX7_plain_21 (by decide) ?_
        exact x_le (xLe_cons (xLe_cons (xLe_cons (xLe_cons (xLe_cons (xLe_nil)))))) (hR _ _ _ _ h)
      · have h := h.2 c105
        refine x_iconst (v := 1) dX7_plain_15 (by decide) ?_
        refine x_goto 20 dX7_plain_16 (by decide) ?_
        refine x_istore_1 dX7_plain_20 (by decide) xN2_f ?_
        refine x_goto 2 dX7_plain_21 (by decide) ?_
        exact x_le (xLe_cons (xLe_cons (xLe_cons (xLe_cons (xLe_cons (xLe_nil)))))) (hR _ _ _ _ h)
def v_X7_plain (N : tP) (rc : Nat → Nat → Nat → Nat → tM → (Nat → tM → Prop) → (String → Nat → tM → Prop) → Prop) (x0 : Nat) (k n : Nat) (s : tM) (Kr : Nat → tM → Prop) (Kx : String → Nat → tM → Prop) : Prop :=
  (v_X7_plain_2 N rc x0 Kr Kx (fun x101 k103 n104 s102 => (tE s102 7 18 x0 ∧ (v_X7_isWord N x0 (N.2.2 22) s102 (fun x105 s106 => ((x105 = 0 → (∃ c111 c112 : Nat, c111 ≤ k103 ∧ c112 ≤ n104 ∧ (tE s106 7 18 x0 ∧ (r_X7_part N N.2.1 1 x0 c111 c112 s106 (fun x109 s110 => (tE s110 7 18 x0 ∧ (v_X7_isWord N x0 (N.2.2 24) s110 (fun x116 s117 => ((¬ x116 = 0 → (v_X7_plain_84 N rc x0 x101 x109 x0 Kr Kx (k103 - c111) (n104 - c112) s117)) ∧ (x116 = 0 → (tE s117 7 18 x0 ∧ (v_X7_isWord N x0 (N.2.2 25) s117 (fun x120 s121 => ((¬ x120 = 0 → (v_X7_plain_84 N rc x0 x101 x109 x0 Kr Kx (k103 - c111) (n104 - c112) s121)) ∧ (x120 = 0 → (tE s121 7 18 x0 ∧ (v_X7_isWord N x0 (N.2.2 26) s121 (fun x124 s125 => ((x124 = 0 → (v_X7_plain_89 N rc x0 x101 x109 x0 0 Kr Kx (k103 - c111) (n104 - c112) s125)) ∧ (¬ x124 = 0 → (v_X7_plain_84 N rc x0 x101 x109 x0 Kr Kx (k103 - c111) (n104 - c112) s125))))))))))))))))) Kx)))) ∧ (¬ x105 = 0 → (∃ c130 c131 : Nat, c130 ≤ k103 ∧ c131 ≤ n104 ∧ (tE s106 7 18 x0 ∧ (v_X7_open N x0 c130 c131 s106 (fun s129 => (∃ c137 c138 : Nat, c137 ≤ k103 - c130 ∧ c138 ≤ n104 - c131 ∧ (tE s129 7 18 x0 ∧ (rc 2 x0 c137 c138 s129 (fun x135 s136 => (∃ c144 c145 : Nat, c144 ≤ (k103 - c130) - c137 ∧ c145 ≤ (n104 - c131) - c138 ∧ (tE s136 7 18 x0 ∧ (v_X7_close N x0 (N.2.2 23) c144 c145 s136 (fun s143 => (v_X7_plain_125 N rc x101 x135 Kr Kx (((k103 - c130) - c137) - c144) (((n104 - c131) - c138) - c145) s143)) Kx)))) Kx)))) Kx))))))))) N.1 0 k n s)
theorem eb_X7_plain {G : xG} {l : Launch} {g : xH} {d : Nat} {N : tP} (hN : tNs G N) (hd : 1 * N.2.1 + 13 ≤ d) {rc : Nat → Nat → Nat → Nat → tM → (Nat → tM → Prop) → (String → Nat → tM → Prop) → Prop} (ih0 : ∀ (x0 : Nat) (k n : Nat) (s : tM) (Kr : Nat → tM → Prop) (Kx : String → Nat → tM → Prop), rc 0 x0 k n s Kr Kx → xC G l kX7_both d k n [rfv x0] (tH G g s) (tQ G g wr Kr Kx)) (ih1 : ∀ (x0 : Nat) (k n : Nat) (s : tM) (Kr : Nat → tM → Prop) (Kx : String → Nat → tM → Prop), rc 1 x0 k n s Kr Kx → xC G l kX7_plain d k n [rfv x0] (tH G g s) (tQ G g wr Kr Kx)) (ih2 : ∀ (x0 : Nat) (k n : Nat) (s : tM) (Kr : Nat → tM → Prop) (Kx : String → Nat → tM → Prop), rc 2 x0 k n s Kr Kx → xC G l kX7_test d k n [rfv x0] (tH G g s) (tQ G g wr Kr Kx)) {x0 : Nat} {k n : Nat} {s : tM} {Kr : Nat → tM → Prop} {Kx : String → Nat → tM → Prop} (h : v_X7_plain N rc x0 k n s Kr Kx) : xC G l kX7_plain (d + 1) k n [rfv x0] (tH G g s) (tQ G g wr Kr Kx) := by
  refine t_start rfl (by decide +kernel) (by simp [xct_i, xct_l, rfv_c]) (lv := [some (rfv x0), none, none, none, none]) (by simp [lv_args, xLv, rfv_c, xct_i, xct_l]) ?_
  unfold v_X7_plain at h
  refine x_iconst (v := 0) dX7_plain_0 (by decide) ?_
  refine x_istore_1 dX7_plain_1 (by decide) xN2_f ?_
  refine x_le (xLe_cons (xLe_cons (xLe_cons (xLe_cons (xLe_cons (xLe_nil)))))) (e_X7_plain_2 hN (by omega) ih0 ih1 ih2 _ _ _ _  _ _ _ _ _ h (fun x101 k103 n104 s102 h => ?_))
  refine t_aload_0 dX7_plain_24 ?_
  refine t_ldcN hN dX7_plain_25 (i := 22) ⟨22, rfl⟩ ?_
  obtain ⟨e107, h⟩ := h
  refine t_cDi (As := [_]) rfl (e107.elim (fun e => ⟨_, 7, _, _, _, _, _, xcl_X8.1, cu_X7_73_7, e, (e_X7_isWord hN (by omega) h)⟩) (fun e => ⟨_, 18, _, _, _, _, _, xcl_X21.1, cu_X7_73_18, e, (e_X7_isWord hN (by omega) h)⟩)) rfl rfl (xrm4 (Nat.le_of_ble_eq_true rfl)) dX7_plain_27 ⟨Nat.zero_le _, Nat.zero_le _⟩ (fun _ _ _ h => h.elim) (fun x105 s106 h => ?_)
  refine x_if_eq 51 dX7_plain_30 (by decide) (fun c108 => ?_) (fun c108 => ?_)
  · have h := h.1 c108
    refine t_aload_0 dX7_plain_51 ?_
    obtain ⟨c111, c112, e113, e114, h⟩ := h
    obtain ⟨e115, h⟩ := h
    refine t_cDr (As := []) rfl (e115.elim (fun e => ⟨_, 7, _, _, _, _, _, xcl_X8.1, cu_X7_135_7, e, (e_X7_sum hN (by omega) h)⟩) (fun e => ⟨_, 18, _, _, _, _, _, xcl_X21.1, cu_X7_135_18, e, (e_X7_sum hN (by omega) h)⟩)) rfl rfl (xrm4 (Nat.le_of_ble_eq_true rfl)) dX7_plain_52 ⟨e113, e114⟩ (fun E q m1 h => Or.inr ⟨E, q, m1, h, rfl, rfl⟩) (fun x109 s110 h => ?_)
    refine t_astore_3 dX7_plain_55 (by decide) xN2_none ?_
    refine t_aload_0 dX7_plain_56 ?_
    refine t_aload_0 dX7_plain_57 ?_
    refine t_ldcN hN dX7_plain_58 (i := 24) ⟨24, rfl⟩ ?_
    obtain ⟨e118, h⟩ := h
    refine t_cDi (As := [_]) rfl (e118.elim (fun e => ⟨_, 7, _, _, _, _, _, xcl_X8.1, cu_X7_73_7, e, (e_X7_isWord hN (by omega) h)⟩) (fun e => ⟨_, 18, _, _, _, _, _, xcl_X21.1, cu_X7_73_18, e, (e_X7_isWord hN (by omega) h)⟩)) rfl rfl (xrm4 (Nat.le_of_ble_eq_true rfl)) dX7_plain_60 ⟨Nat.zero_le _, Nat.zero_le _⟩ (fun _ _ _ h => h.elim) (fun x116 s117 h => ?_)
    refine x_if_ne 84 dX7_plain_63 (by decide) (fun c119 => ?_) (fun c119 => ?_)
    · have h := h.1 c119
      exact x_le (xLe_cons (xLe_cons (xLe_cons (xLe_cons (xLe_cons (xLe_nil)))))) (e_X7_plain_84 hN (by omega) ih0 ih1 ih2 _ _ _ _ _ _ _ _ _ h)
    · have h := h.2 c119
      refine t_aload_0 dX7_plain_66 ?_
      refine t_ldcN hN dX7_plain_67 (i := 25) ⟨25, rfl⟩ ?_
      obtain ⟨e122, h⟩ := h
      refine t_cDi (As := [_]) rfl (e122.elim (fun e => ⟨_, 7, _, _, _, _, _, xcl_X8.1, cu_X7_73_7, e, (e_X7_isWord hN (by omega) h)⟩) (fun e => ⟨_, 18, _, _, _, _, _, xcl_X21.1, cu_X7_73_18, e, (e_X7_isWord hN (by omega) h)⟩)) rfl rfl (xrm4 (Nat.le_of_ble_eq_true rfl)) dX7_plain_69 ⟨Nat.zero_le _, Nat.zero_le _⟩ (fun _ _ _ h => h.elim) (fun x120 s121 h => ?_)
      refine x_if_ne 84 dX7_plain_72 (by decide) (fun c123 => ?_) (fun c123 => ?_)
      · have h := h.1 c123
        exact x_le (xLe_cons (xLe_cons (xLe_cons (xLe_cons (xLe_cons (xLe_nil)))))) (e_X7_plain_84 hN (by omega) ih0 ih1 ih2 _ _ _ _ _ _ _ _ _ h)
      · have h := h.2 c123
        refine t_aload_0 dX7_plain_75 ?_
        refine t_ldcN hN dX7_plain_76 (i := 26) ⟨26, rfl⟩ ?_
        obtain ⟨e126, h⟩ := h
        refine t_cDi (As := [_]) rfl (e126.elim (fun e => ⟨_, 7, _, _, _, _, _, xcl_X8.1, cu_X7_73_7, e, (e_X7_isWord hN (by omega) h)⟩) (fun e => ⟨_, 18, _, _, _, _, _, xcl_X21.1, cu_X7_73_18, e, (e_X7_isWord hN (by omega) h)⟩)) rfl rfl (xrm4 (Nat.le_of_ble_eq_true rfl)) dX7_plain_78 ⟨Nat.zero_le _, Nat.zero_le _⟩ (fun _ _ _ h => h.elim) (fun x124 s125 h => ?_)
        refine x_if_eq 88 dX7_plain_81 (by decide) (fun c127 => ?_) (fun c127 => ?_)
        · have h := h.1 c127
          refine x_iconst (v := 0) dX7_plain_88 (by decide) ?_
          exact x_le (xLe_cons (xLe_cons (xLe_cons (xLe_cons (xLe_cons (xLe_nil)))))) (e_X7_plain_89 hN (by omega) ih0 ih1 ih2 _ _ _ _ _ _ _ _ _ _ h)
        · have h := h.2 c127
          exact x_le (xLe_cons (xLe_cons (xLe_cons (xLe_cons (xLe_cons (xLe_nil)))))) (e_X7_plain_84 hN (by omega) ih0 ih1 ih2 _ _ _ _ _ _ _ _ _ h)
  · have h := h.2 c108
    refine t_aload_0 dX7_plain_33 ?_
    obtain ⟨c130, c131, e132, e133, h⟩ := h
    obtain ⟨e134, h⟩ := h
    refine t_cDv (As := []) rfl (e134.elim (fun e => ⟨_, 7, _, _, _, _, _, xcl_X8.1, cu_X7_123_7, e, (e_X7_open hN (by omega) h)⟩) (fun e => ⟨_, 18, _, _, _, _, _, xcl_X21.1, cu_X7_123_18, e, (e_X7_open hN (by omega) h)⟩)) rfl rfl (xrm4 (Nat.le_of_ble_eq_true rfl)) dX7_plain_34 ⟨e132, e133⟩ (fun E q m1 h => Or.inr ⟨E, q, m1, h, rfl, rfl⟩) (fun _ s129 h => ?_)
    refine t_aload_0 dX7_plain_37 ?_
    obtain ⟨c137, c138, e139, e140, h⟩ := h
    obtain ⟨e141, h⟩ := h
    refine t_cDr (As := []) rfl (e141.elim (fun e => ⟨_, 7, _, _, _, _, _, xcl_X8.1, cu_X7_126_7, e, (ih2 _ _ _ _ _ _  h)⟩) (fun e => ⟨_, 18, _, _, _, _, _, xcl_X21.1, cu_X7_126_18, e, (ih2 _ _ _ _ _ _  h)⟩)) rfl rfl (xrm4 (Nat.le_of_ble_eq_true rfl)) dX7_plain_38 ⟨e139, e140⟩ (fun E q m1 h => Or.inr ⟨E, q, m1, h, rfl, rfl⟩) (fun x135 s136 h => ?_)
    refine t_astore_2 dX7_plain_41 (by decide) xN2_i ?_
    refine t_aload_0 dX7_plain_42 ?_
    refine t_ldcN hN dX7_plain_43 (i := 23) ⟨23, rfl⟩ ?_
    obtain ⟨c144, c145, e146, e147, h⟩ := h
    obtain ⟨e148, h⟩ := h
    refine t_cDv (As := [_]) rfl (e148.elim (fun e => ⟨_, 7, _, _, _, _, _, xcl_X8.1, cu_X7_131_7, e, (e_X7_close hN (by omega) h)⟩) (fun e => ⟨_, 18, _, _, _, _, _, xcl_X21.1, cu_X7_131_18, e, (e_X7_close hN (by omega) h)⟩)) rfl rfl (xrm4 (Nat.le_of_ble_eq_true rfl)) dX7_plain_45 ⟨e146, e147⟩ (fun E q m1 h => Or.inr ⟨E, q, m1, h, rfl, rfl⟩) (fun _ s143 h => ?_)
    refine x_goto 125 dX7_plain_48 (by decide) ?_
    exact x_le (xLe_none (xLe_cons (xLe_cons (xLe_cons (xLe_cons (xLe_nil)))))) (e_X7_plain_125 hN (by omega) ih0 ih1 ih2 _ _ _ _ _ _ _ h)
def v_X7_test_13 (N : tP) (rc : Nat → Nat → Nat → Nat → tM → (Nat → tM → Prop) → (String → Nat → tM → Prop) → Prop) (x0 : Nat) (x1 : Int32) (Kr : Nat → tM → Prop) (Kx : String → Nat → tM → Prop) (K : Nat → Nat → tM → Prop) : Nat → Nat → Nat → tM → Prop
  | 0, _, _, _ => False
  | t + 1, k, n, s => (tE s 7 18 x0 ∧ (v_X7_accept N x0 (N.2.2 28) s (fun x101 s102 => ((x101 = 0 → (K k n s102)) ∧ (¬ x101 = 0 → (∃ c107 c108 : Nat, c107 ≤ k ∧ c108 ≤ n ∧ (tE s102 7 18 x0 ∧ (rc 0 x0 c107 c108 s102 (fun x105 s106 => (tE s106 7 18 x0 ∧ (v_X7_add x0 x105 s106 (fun s113 => ((fun k n s => v_X7_test_13 N rc x0 x1 Kr Kx K t k n s) (k - c107) (n - c108) s113))))) Kx))))))))
theorem e_X7_test_13 {G : xG} {l : Launch} {g : xH} {d : Nat} {N : tP} (hN : tNs G N) (hd : 1 * N.2.1 + 13 ≤ d) {rc : Nat → Nat → Nat → Nat → tM → (Nat → tM → Prop) → (String → Nat → tM → Prop) → Prop} (ih0 : ∀ (x0 : Nat) (k n : Nat) (s : tM) (Kr : Nat → tM → Prop) (Kx : String → Nat → tM → Prop), rc 0 x0 k n s Kr Kx → xC G l kX7_both d k n [rfv x0] (tH G g s) (tQ G g wr Kr Kx)) (ih1 : ∀ (x0 : Nat) (k n : Nat) (s : tM) (Kr : Nat → tM → Prop) (Kx : String → Nat → tM → Prop), rc 1 x0 k n s Kr Kx → xC G l kX7_plain d k n [rfv x0] (tH G g s) (tQ G g wr Kr Kx)) (ih2 : ∀ (x0 : Nat) (k n : Nat) (s : tM) (Kr : Nat → tM → Prop) (Kx : String → Nat → tM → Prop), rc 2 x0 k n s Kr Kx → xC G l kX7_test d k n [rfv x0] (tH G g s) (tQ G g wr Kr Kx)) (x0 : Nat) (x1 : Int32) (Kr : Nat → tM → Prop) (Kx : String → Nat → tM → Prop) (K : Nat → Nat → tM → Prop) : ∀ (t : Nat) (k n : Nat) (s : tM) , v_X7_test_13 N rc x0 x1 Kr Kx K t k n s → (∀ (k n : Nat) (s : tM), K k n s → xF G l kX7_test (d + 1) k n (tQ G g wr Kr Kx) 33 [some (rfv x0), some (.int x1)] [] (tH G g s)) → xF G l kX7_test (d + 1) k n (tQ G g wr Kr Kx) 13 [some (rfv x0), some (.int x1)] [] (tH G g s) := by
  intro t
  induction t with
  | zero =>
    intro _ _ _ h _
    exact absurd h (by simp [v_X7_test_13])
  | succ t ih =>
    intro k n s h hK
    have hR := fun k n s h => ih k n s h hK
    unfold v_X7_test_13 at h
    refine t_aload_0 dX7_test_13 ?_
    refine t_ldcN hN dX7_test_14 (i := 28) ⟨28, rfl⟩ ?_
    obtain ⟨e103, h⟩ := h
    refine t_cDi (As := [_]) rfl (e103.elim (fun e => ⟨_, 7, _, _, _, _, _, xcl_X8.1, cu_X7_38_7, e, (e_X7_accept hN (by omega) h)⟩) (fun e => ⟨_, 18, _, _, _, _, _, xcl_X21.1, cu_X7_38_18, e, (e_X7_accept hN (by omega) h)⟩)) rfl rfl (xrm4 (Nat.le_of_ble_eq_true rfl)) dX7_test_16 ⟨Nat.zero_le _, Nat.zero_le _⟩ (fun _ _ _ h => h.elim) (fun x101 s102 h => ?_)
    refine x_if_eq 33 dX7_test_19 (by decide) (fun c104 => ?_) (fun c104 => ?_)
    · have h := h.1 c104
      exact x_le (xLe_cons (xLe_cons (xLe_nil))) (hK _ _ _ h)
    · have h := h.2 c104
      refine t_aload_0 dX7_test_22 ?_
      refine t_aload_0 dX7_test_23 ?_
      obtain ⟨c107, c108, e109, e110, h⟩ := h
      obtain ⟨e111, h⟩ := h
      refine t_cDr (As := []) rfl (e111.elim (fun e => ⟨_, 7, _, _, _, _, _, xcl_X8.1, cu_X7_83_7, e, (ih0 _ _ _ _ _ _  h)⟩) (fun e => ⟨_, 18, _, _, _, _, _, xcl_X21.1, cu_X7_83_18, e, (ih0 _ _ _ _ _ _  h)⟩)) rfl rfl (xrm4 (Nat.le_of_ble_eq_true rfl)) dX7_test_24 ⟨e109, e110⟩ (fun E q m1 h => Or.inr ⟨E, q, m1, h, rfl, rfl⟩) (fun x105 s106 h => ?_)
      obtain ⟨e114, h⟩ := h
      refine t_cDv (As := [_]) rfl (e114.elim (fun e => ⟨_, 7, _, _, _, _, _, xcl_X8.1, cu_X7_87_7, e, (e_X7_add (by omega) h)⟩) (fun e => ⟨_, 18, _, _, _, _, _, xcl_X21.1, cu_X7_87_18, e, (e_X7_add (by omega) h)⟩)) rfl rfl (xrm4 (Nat.le_of_ble_eq_true rfl)) dX7_test_27 ⟨Nat.zero_le _, Nat.zero_le _⟩ (fun _ _ _ h => h.elim) (fun _ s113 h => ?_)
      refine x_goto 13 dX7_test_30 (by decide) ?_
      exact x_le (xLe_cons (xLe_cons (xLe_nil))) (hR _ _ _ h)
def v_X7_test (N : tP) (rc : Nat → Nat → Nat → Nat → tM → (Nat → tM → Prop) → (String → Nat → tM → Prop) → Prop) (x0 : Nat) (k n : Nat) (s : tM) (Kr : Nat → tM → Prop) (Kx : String → Nat → tM → Prop) : Prop :=
  (tE s 7 18 x0 ∧ (∀ x102 : Int32, x102 = tI s x0 4 → (∃ c105 c106 : Nat, c105 ≤ k ∧ c106 ≤ n ∧ (rc 0 x0 c105 c106 s (fun x103 s104 => (tE s104 7 18 x0 ∧ (v_X7_add x0 x103 s104 (fun s110 => (v_X7_test_13 N rc x0 x102 Kr Kx (fun k113 n114 s112 => (∃ c117 c118 : Nat, c117 ≤ k113 ∧ c118 ≤ n114 ∧ (tE s112 7 18 x0 ∧ (v_X7_joined N x0 0 x102 c117 c118 s112 (fun x115 s116 => (Kr x115 s116)))))) N.1 (k - c105) (n - c106) s110))))) Kx))))
theorem eb_X7_test {G : xG} {l : Launch} {g : xH} {d : Nat} {N : tP} (hN : tNs G N) (hd : 1 * N.2.1 + 13 ≤ d) {rc : Nat → Nat → Nat → Nat → tM → (Nat → tM → Prop) → (String → Nat → tM → Prop) → Prop} (ih0 : ∀ (x0 : Nat) (k n : Nat) (s : tM) (Kr : Nat → tM → Prop) (Kx : String → Nat → tM → Prop), rc 0 x0 k n s Kr Kx → xC G l kX7_both d k n [rfv x0] (tH G g s) (tQ G g wr Kr Kx)) (ih1 : ∀ (x0 : Nat) (k n : Nat) (s : tM) (Kr : Nat → tM → Prop) (Kx : String → Nat → tM → Prop), rc 1 x0 k n s Kr Kx → xC G l kX7_plain d k n [rfv x0] (tH G g s) (tQ G g wr Kr Kx)) (ih2 : ∀ (x0 : Nat) (k n : Nat) (s : tM) (Kr : Nat → tM → Prop) (Kx : String → Nat → tM → Prop), rc 2 x0 k n s Kr Kx → xC G l kX7_test d k n [rfv x0] (tH G g s) (tQ G g wr Kr Kx)) {x0 : Nat} {k n : Nat} {s : tM} {Kr : Nat → tM → Prop} {Kx : String → Nat → tM → Prop} (h : v_X7_test N rc x0 k n s Kr Kx) : xC G l kX7_test (d + 1) k n [rfv x0] (tH G g s) (tQ G g wr Kr Kx) := by
  refine t_start rfl (by decide +kernel) (by simp [xct_i, xct_l, rfv_c]) (lv := [some (rfv x0), none]) (by simp [lv_args, xLv, rfv_c, xct_i, xct_l]) ?_
  unfold v_X7_test at h
  refine t_aload_0 dX7_test_0 ?_
  obtain ⟨e101, h⟩ := h
  refine t_getI2 (j := 4) dX7_test_1 ⟨fa_X7_80_7, fa_X7_80_18⟩ (by decide) e101 ?_
  refine x_istore_1 dX7_test_4 (by decide) xN2_f ?_
  have h := h _ rfl
  refine t_aload_0 dX7_test_5 ?_
  refine t_aload_0 dX7_test_6 ?_
  obtain ⟨c105, c106, e107, e108, h⟩ := h
  refine t_cDr (As := []) rfl (e101.elim (fun e => ⟨_, 7, _, _, _, _, _, xcl_X8.1, cu_X7_83_7, e, (ih0 _ _ _ _ _ _  h)⟩) (fun e => ⟨_, 18, _, _, _, _, _, xcl_X21.1, cu_X7_83_18, e, (ih0 _ _ _ _ _ _  h)⟩)) rfl rfl (xrm4 (Nat.le_of_ble_eq_true rfl)) dX7_test_7 ⟨e107, e108⟩ (fun E q m1 h => Or.inr ⟨E, q, m1, h, rfl, rfl⟩) (fun x103 s104 h => ?_)
  obtain ⟨e111, h⟩ := h
  refine t_cDv (As := [_]) rfl (e111.elim (fun e => ⟨_, 7, _, _, _, _, _, xcl_X8.1, cu_X7_87_7, e, (e_X7_add (by omega) h)⟩) (fun e => ⟨_, 18, _, _, _, _, _, xcl_X21.1, cu_X7_87_18, e, (e_X7_add (by omega) h)⟩)) rfl rfl (xrm4 (Nat.le_of_ble_eq_true rfl)) dX7_test_10 ⟨Nat.zero_le _, Nat.zero_le _⟩ (fun _ _ _ h => h.elim) (fun _ s110 h => ?_)
  refine x_le (xLe_cons (xLe_cons (xLe_nil))) (e_X7_test_13 hN (by omega) ih0 ih1 ih2 _ _ _ _ _  _ _ _ _ h (fun k113 n114 s112 h => ?_))
  refine t_aload_0 dX7_test_33 ?_
  refine x_iconst (v := 0) dX7_test_34 (by decide) ?_
  refine x_iload_1 dX7_test_35 ?_
  obtain ⟨c117, c118, e119, e120, h⟩ := h
  obtain ⟨e121, h⟩ := h
  refine t_cDr (As := [_, _]) rfl (e121.elim (fun e => ⟨_, 7, _, _, _, _, _, xcl_X8.1, cu_X7_93_7, e, (e_X7_joined hN (by omega) h)⟩) (fun e => ⟨_, 18, _, _, _, _, _, xcl_X21.1, cu_X7_93_18, e, (e_X7_joined hN (by omega) h)⟩)) rfl rfl (xrm4 (Nat.le_of_ble_eq_true rfl)) dX7_test_36 ⟨e119, e120⟩ (fun _ _ _ h => h.elim) (fun x115 s116 h => ?_)
  exact t_aret dX7_test_39 rfl (by first | exact Or.inl ⟨_, rfl⟩ | exact Or.inr ⟨_, rfl⟩) (Or.inl ⟨_, _, h, rfl, rfl⟩)
def r_X7_both (N : tP) : Nat → Nat → Nat → Nat → Nat → tM → (Nat → tM → Prop) → (String → Nat → tM → Prop) → Prop
  | 0, _, _, _, _, _, _, _ => False
  | t + 1, 0, x0, k, n, s, Kr, Kx => v_X7_both N (r_X7_both N t) x0 k n s Kr Kx
  | t + 1, 1, x0, k, n, s, Kr, Kx => v_X7_plain N (r_X7_both N t) x0 k n s Kr Kx
  | t + 1, 2, x0, k, n, s, Kr, Kx => v_X7_test N (r_X7_both N t) x0 k n s Kr Kx
  | _ + 1, _ + 3, _, _, _, _, _, _ => False
theorem eg_X7_both {G : xG} {l : Launch} {g : xH} {N : tP} (hN : tNs G N) : ∀ (t d : Nat), t + (1 * N.2.1 + 13) ≤ d → (∀ (x0 : Nat) (k n : Nat) (s : tM) (Kr : Nat → tM → Prop) (Kx : String → Nat → tM → Prop), r_X7_both N t 0 x0 k n s Kr Kx → xC G l kX7_both d k n [rfv x0] (tH G g s) (tQ G g wr Kr Kx)) ∧ (∀ (x0 : Nat) (k n : Nat) (s : tM) (Kr : Nat → tM → Prop) (Kx : String → Nat → tM → Prop), r_X7_both N t 1 x0 k n s Kr Kx → xC G l kX7_plain d k n [rfv x0] (tH G g s) (tQ G g wr Kr Kx)) ∧ (∀ (x0 : Nat) (k n : Nat) (s : tM) (Kr : Nat → tM → Prop) (Kx : String → Nat → tM → Prop), r_X7_both N t 2 x0 k n s Kr Kx → xC G l kX7_test d k n [rfv x0] (tH G g s) (tQ G g wr Kr Kx)) := by
  intro t
  induction t with
  | zero =>
    intro d _
    exact ⟨fun x0 k n s Kr Kx h => absurd h (by simp [r_X7_both]), fun x0 k n s Kr Kx h => absurd h (by simp [r_X7_both]), fun x0 k n s Kr Kx h => absurd h (by simp [r_X7_both])⟩
  | succ t ih =>
    intro d hd
    obtain ⟨d, rfl⟩ : ∃ z, d = z + 1 := ⟨d - 1, by omega⟩
    obtain ⟨ih0, ih1, ih2⟩ := ih d (by omega)
    obtain ⟨jh0, jh1, jh2⟩ := ih (d + 1) (by omega)
    exact ⟨fun x0 k n s Kr Kx h => eb_X7_both hN (by omega) ih0 ih1 ih2 (by unfold r_X7_both at h; exact h), fun x0 k n s Kr Kx h => eb_X7_plain hN (by omega) ih0 ih1 ih2 (by unfold r_X7_both at h; exact h), fun x0 k n s Kr Kx h => eb_X7_test hN (by omega) ih0 ih1 ih2 (by unfold r_X7_both at h; exact h)⟩
theorem e_X7_both {G : xG} {l : Launch} {g : xH} {d : Nat} {N : tP} (hN : tNs G N) (hd : 2 * N.2.1 + 14 ≤ d) {x0 : Nat} {k n : Nat} {s : tM} {Kr : Nat → tM → Prop} {Kx : String → Nat → tM → Prop} (h : r_X7_both N N.2.1 0 x0 k n s Kr Kx) : xC G l kX7_both d k n [rfv x0] (tH G g s) (tQ G g wr Kr Kx) := (eg_X7_both hN N.2.1 d (by omega)).1 _ _ _ _ _ _  h
theorem e_X7_plain {G : xG} {l : Launch} {g : xH} {d : Nat} {N : tP} (hN : tNs G N) (hd : 2 * N.2.1 + 14 ≤ d) {x0 : Nat} {k n : Nat} {s : tM} {Kr : Nat → tM → Prop} {Kx : String → Nat → tM → Prop} (h : r_X7_both N N.2.1 1 x0 k n s Kr Kx) : xC G l kX7_plain d k n [rfv x0] (tH G g s) (tQ G g wr Kr Kx) := (eg_X7_both hN N.2.1 d (by omega)).2.1 _ _ _ _ _ _  h
theorem e_X7_test {G : xG} {l : Launch} {g : xH} {d : Nat} {N : tP} (hN : tNs G N) (hd : 2 * N.2.1 + 14 ≤ d) {x0 : Nat} {k n : Nat} {s : tM} {Kr : Nat → tM → Prop} {Kx : String → Nat → tM → Prop} (h : r_X7_both N N.2.1 2 x0 k n s Kr Kx) : xC G l kX7_test d k n [rfv x0] (tH G g s) (tQ G g wr Kr Kx) := (eg_X7_both hN N.2.1 d (by omega)).2.2 _ _ _ _ _ _  h
def v_X21_read_58 (N : tP) (x0 : Nat) (x1 : Int32) (x2 : Nat) (y0 : Nat) (y1 : Nat) (Kr : tM → Prop) (Kx : String → Nat → tM → Prop) (k n : Nat) (s : tM) : Prop :=
  (tO s 17 y0 ∧ (∀ s102 : tM, s102 = tsR s y0 3 y1 → (tO s102 18 x0 ∧ (tX s102 8 (tR s102 x0 8) x1 ∧ (tO s102 17 x2 ∧ (∀ s107 : tM, s107 = tsR s102 (tR s102 x0 8) x1.toNatClampNeg x2 → (Kr s107)))))))
theorem e_X21_read_58 {G : xG} {l : Launch} {g : xH} {d : Nat} {N : tP} (hN : tNs G N) (hd : 2 * N.2.1 + 18 ≤ d) (x0 : Nat) (x1 : Int32) (x2 : Nat) (y0 : Nat) (y1 : Nat) (Kr : tM → Prop) (Kx : String → Nat → tM → Prop) (k n : Nat) (s : tM) (h : v_X21_read_58 N x0 x1 x2 y0 y1 Kr Kx k n s) : xF G l kX21_read (d + 1) k n (tQ G g wu (fun _ => Kr) Kx) 58 [some (rfv x0), some (.int x1), some (rfv x2)] [rfv y1, rfv y0] (tH G g s) := by
  unfold v_X21_read_58 at h
  obtain ⟨e101, h⟩ := h
  refine t_putR (j := 3) dX21_read_58 fp_X21_120_17 (by decide) e101 rfl ?_
  refine t_gen h (fun s102 w103 h => ?_)
  refine t_aload_0 dX21_read_61 ?_
  obtain ⟨e104, h⟩ := h
  refine t_getR dX21_read_62 fa_X21_33_18 (by decide) e104 ?_
  refine x_iload_1 dX21_read_65 ?_
  refine t_aload_2 dX21_read_66 ?_
  obtain ⟨e105, h⟩ := h
  obtain ⟨e106, h⟩ := h
  refine t_aast dX21_read_67 st_8_17 e106 e105 ?_
  refine t_gen h (fun s107 w108 h => ?_)
  exact x_vret dX21_read_68 rfl (Or.inl ⟨(), _, h, rfl, rfl⟩)
def v_X21_read_40 (N : tP) (x0 : Nat) (x1 : Int32) (x2 : Nat) (Kr : tM → Prop) (Kx : String → Nat → tM → Prop) (k n : Nat) (s : tM) : Prop :=
  (tO s 18 x0 ∧ (v_X7_accept N x0 (N.2.2 20) s (fun x101 s102 => ((x101 = 0 → (v_X21_read_58 N x0 x1 x2 x2 0 Kr Kx k n s102)) ∧ (¬ x101 = 0 → (∃ c107 c108 : Nat, c107 ≤ k ∧ c108 ≤ n ∧ (tO s102 18 x0 ∧ (r_X7_both N N.2.1 2 x0 c107 c108 s102 (fun x105 s106 => (v_X21_read_58 N x0 x1 x2 x2 x105 Kr Kx (k - c107) (n - c108) s106)) Kx))))))))
theorem e_X21_read_40 {G : xG} {l : Launch} {g : xH} {d : Nat} {N : tP} (hN : tNs G N) (hd : 2 * N.2.1 + 18 ≤ d) (x0 : Nat) (x1 : Int32) (x2 : Nat) (Kr : tM → Prop) (Kx : String → Nat → tM → Prop) (k n : Nat) (s : tM) (h : v_X21_read_40 N x0 x1 x2 Kr Kx k n s) : xF G l kX21_read (d + 1) k n (tQ G g wu (fun _ => Kr) Kx) 40 [some (rfv x0), some (.int x1), some (rfv x2)] [] (tH G g s) := by
  unfold v_X21_read_40 at h
  refine t_aload_2 dX21_read_40 ?_
  refine t_aload_0 dX21_read_41 ?_
  refine t_ldcN hN dX21_read_42 (i := 20) ⟨35, rfl⟩ ?_
  obtain ⟨e103, h⟩ := h
  refine t_cDi (As := [_]) rfl ⟨_, 18, _, _, _, _, _, xcl_X21.1, cu_X21_47_18, e103, (e_X7_accept hN (by omega) h)⟩ rfl rfl (xrm4 (Nat.le_of_ble_eq_true rfl)) dX21_read_44 ⟨Nat.zero_le _, Nat.zero_le _⟩ (fun _ _ _ h => h.elim) (fun x101 s102 h => ?_)
  refine x_if_eq 57 dX21_read_47 (by decide) (fun c104 => ?_) (fun c104 => ?_)
  · have h := h.1 c104
    refine t_null dX21_read_57 ?_
    exact x_le (xLe_cons (xLe_cons (xLe_cons (xLe_nil)))) (e_X21_read_58 hN (by omega) _ _ _ _ _ _ _ _ _ _ h)
  · have h := h.2 c104
    refine t_aload_0 dX21_read_50 ?_
    obtain ⟨c107, c108, e109, e110, h⟩ := h
    obtain ⟨e111, h⟩ := h
    refine t_cDr (As := []) rfl ⟨_, 18, _, _, _, _, _, xcl_X21.1, cu_X21_116_18, e111, (e_X7_test hN (by omega) h)⟩ rfl rfl (xrm4 (Nat.le_of_ble_eq_true rfl)) dX21_read_51 ⟨e109, e110⟩ (fun E q m1 h => Or.inr ⟨E, q, m1, h, rfl, rfl⟩) (fun x105 s106 h => ?_)
    refine x_goto 58 dX21_read_54 (by decide) ?_
    exact x_le (xLe_cons (xLe_cons (xLe_cons (xLe_nil)))) (e_X21_read_58 hN (by omega) _ _ _ _ _ _ _ _ _ _ h)
def v_X21_read_27 (N : tP) (x0 : Nat) (x1 : Int32) (x2 : Nat) (y0 : Nat) (y1 : Int32) (Kr : tM → Prop) (Kx : String → Nat → tM → Prop) (k n : Nat) (s : tM) : Prop :=
  (∃ c103 c104 : Nat, c103 ≤ k ∧ c104 ≤ n ∧ (tO s 18 y0 ∧ (v_X7_must N y0 y1 c103 c104 s (fun s102 => (∃ c110 c111 : Nat, c110 ≤ k - c103 ∧ c111 ≤ n - c104 ∧ (tO s102 18 x0 ∧ (v_X7_number N x0 20 c110 c111 s102 (fun x108 s109 => (tO s109 17 x2 ∧ (∀ s116 : tM, s116 = tsI s109 x2 4 x108 → (v_X21_read_40 N x0 x1 x2 Kr Kx ((k - c103) - c110) ((n - c104) - c111) s116)))) Kx)))) Kx)))
theorem e_X21_read_27 {G : xG} {l : Launch} {g : xH} {d : Nat} {N : tP} (hN : tNs G N) (hd : 2 * N.2.1 + 18 ≤ d) (x0 : Nat) (x1 : Int32) (x2 : Nat) (y0 : Nat) (y1 : Int32) (Kr : tM → Prop) (Kx : String → Nat → tM → Prop) (k n : Nat) (s : tM) (h : v_X21_read_27 N x0 x1 x2 y0 y1 Kr Kx k n s) : xF G l kX21_read (d + 1) k n (tQ G g wu (fun _ => Kr) Kx) 27 [some (rfv x0), some (.int x1), some (rfv x2)] [.int y1, rfv y0] (tH G g s) := by
  unfold v_X21_read_27 at h
  obtain ⟨c103, c104, e105, e106, h⟩ := h
  obtain ⟨e107, h⟩ := h
  refine t_cDv (As := [_]) rfl ⟨_, 18, _, _, _, _, _, xcl_X21.1, cu_X21_51_18, e107, (e_X7_must hN (by omega) h)⟩ rfl rfl (xrm4 (Nat.le_of_ble_eq_true rfl)) dX21_read_27 ⟨e105, e106⟩ (fun E q m1 h => Or.inr ⟨E, q, m1, h, rfl, rfl⟩) (fun _ s102 h => ?_)
  refine t_aload_2 dX21_read_30 ?_
  refine t_aload_0 dX21_read_31 ?_
  refine x_bipush (v := 20) dX21_read_32 (by decide) ?_
  obtain ⟨c110, c111, e112, e113, h⟩ := h
  obtain ⟨e114, h⟩ := h
  refine t_cDi (As := [_]) rfl ⟨_, 18, _, _, _, _, _, xcl_X21.1, cu_X21_79_18, e114, (e_X7_number hN (by omega) h)⟩ rfl rfl (xrm4 (Nat.le_of_ble_eq_true rfl)) dX21_read_34 ⟨e112, e113⟩ (fun E q m1 h => Or.inr ⟨E, q, m1, h, rfl, rfl⟩) (fun x108 s109 h => ?_)
  obtain ⟨e115, h⟩ := h
  refine t_putI (j := 4) dX21_read_37 fp_X21_112_17 (by decide) e115 rfl rfl ?_
  refine t_gen h (fun s116 w117 h => ?_)
  exact x_le (xLe_cons (xLe_cons (xLe_cons (xLe_nil)))) (e_X21_read_40 hN (by omega) _ _ _ _ _ _ _ _ h)
def v_X21_read (N : tP) (x0 : Nat) (x1 : Int32) (k n : Nat) (s : tM) (Kr : tM → Prop) (Kx : String → Nat → tM → Prop) : Prop :=
  (∃ c103 c104 : Nat, c103 ≤ k ∧ c104 ≤ n ∧ (tO s 18 x0 ∧ (v_X21_act N x0 c103 c104 s (fun x101 s102 => (tO s102 18 x0 ∧ (v_X7_accept N x0 (N.2.2 34) s102 (fun x108 s109 => ((x108 = 0 → (v_X21_read_40 N x0 x1 x101 Kr Kx (k - c103) (n - c104) s109)) ∧ (¬ x108 = 0 → (tO s109 18 x0 ∧ (v_X21_isNought N x0 s109 (fun x112 s113 => ((¬ x112 = 0 → (v_X21_read_27 N x0 x1 x101 x0 0 Kr Kx (k - c103) (n - c104) s113)) ∧ (x112 = 0 → (v_X21_read_27 N x0 x1 x101 x0 1 Kr Kx (k - c103) (n - c104) s113)))))))))))) Kx)))
theorem e_X21_read {G : xG} {l : Launch} {g : xH} {d : Nat} {N : tP} (hN : tNs G N) (hd : 2 * N.2.1 + 19 ≤ d) {x0 : Nat} {x1 : Int32} {k n : Nat} {s : tM} {Kr : tM → Prop} {Kx : String → Nat → tM → Prop} (h : v_X21_read N x0 x1 k n s Kr Kx) : xC G l kX21_read d k n [rfv x0, .int x1] (tH G g s) (tQ G g wu (fun _ => Kr) Kx) := by
  obtain ⟨d, rfl⟩ : ∃ z, d = z + 1 := ⟨d - 1, by omega⟩
  refine t_start rfl (by decide +kernel) (by simp [xct_i, xct_l, rfv_c]) (lv := [some (rfv x0), some (.int x1), none]) (by simp [lv_args, xLv, rfv_c, xct_i, xct_l]) ?_
  unfold v_X21_read at h
  refine t_aload_0 dX21_read_0 ?_
  obtain ⟨c103, c104, e105, e106, h⟩ := h
  obtain ⟨e107, h⟩ := h
  refine t_cVr (As := []) rfl cv_X21_102 rfl e107 rfl rfl (xrm4 (Nat.le_of_ble_eq_true rfl)) dX21_read_1 (e_X21_act hN (by omega) h) ⟨e105, e106⟩ (fun E q m1 h => Or.inr ⟨E, q, m1, h, rfl, rfl⟩) (fun x101 s102 h => ?_)
  refine t_astore_2 dX21_read_4 (by decide) xN2_i ?_
  refine t_aload_0 dX21_read_5 ?_
  refine t_ldcN hN dX21_read_6 (i := 34) ⟨34, rfl⟩ ?_
  obtain ⟨e110, h⟩ := h
  refine t_cDi (As := [_]) rfl ⟨_, 18, _, _, _, _, _, xcl_X21.1, cu_X21_47_18, e110, (e_X7_accept hN (by omega) h)⟩ rfl rfl (xrm4 (Nat.le_of_ble_eq_true rfl)) dX21_read_8 ⟨Nat.zero_le _, Nat.zero_le _⟩ (fun _ _ _ h => h.elim) (fun x108 s109 h => ?_)
  refine x_if_eq 40 dX21_read_11 (by decide) (fun c111 => ?_) (fun c111 => ?_)
  · have h := h.1 c111
    exact x_le (xLe_cons (xLe_cons (xLe_cons (xLe_nil)))) (e_X21_read_40 hN (by omega) _ _ _ _ _ _ _ _ h)
  · have h := h.2 c111
    refine t_aload_0 dX21_read_14 ?_
    refine t_aload_0 dX21_read_15 ?_
    obtain ⟨e114, h⟩ := h
    refine t_cVi (As := []) rfl cv_X21_108 rfl e114 rfl rfl (xrm4 (Nat.le_of_ble_eq_true rfl)) dX21_read_16 (e_X21_isNought hN (by omega) h) ⟨Nat.zero_le _, Nat.zero_le _⟩ (fun _ _ _ h => h.elim) (fun x112 s113 h => ?_)
    refine x_if_ne 26 dX21_read_19 (by decide) (fun c115 => ?_) (fun c115 => ?_)
    · have h := h.1 c115
      refine x_iconst (v := 0) dX21_read_26 (by decide) ?_
      exact x_le (xLe_cons (xLe_cons (xLe_cons (xLe_nil)))) (e_X21_read_27 hN (by omega) _ _ _ _ _ _ _ _ _ _ h)
    · have h := h.2 c115
      refine x_iconst (v := 1) dX21_read_22 (by decide) ?_
      refine x_goto 27 dX21_read_23 (by decide) ?_
      exact x_le (xLe_cons (xLe_cons (xLe_cons (xLe_nil)))) (e_X21_read_27 hN (by omega) _ _ _ _ _ _ _ _ _ _ h)
