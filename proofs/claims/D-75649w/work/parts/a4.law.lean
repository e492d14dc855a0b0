set_option maxRecDepth 100000
def v_L2_law_1147 (N : tP) (x0 : Nat) (x1 : Nat) (x2 : Nat) (x3 : Int32) (Kr : Int32 → tM → Prop) (K : Nat → Nat → tM → Prop) (R : Int32 → Nat → Nat → tM → Prop) (k n : Nat) (s : tM) : Prop :=
  (tO s 0 x1 ∧ (v_X0_status x1 s (fun x101 s102 => (tMod s102 x2 ∧ (w_status (sM s102 x2) (fun x105 g106 => (∀ s107 : tM, s107 = sP s102 x2 g106 → ((x101 = x105 → (∀ x110 : Int32, x110 = x3 + 6 → (R x110 k n s107))) ∧ (¬ x101 = x105 → (Kr 0 s107))))))))))
theorem e_L2_law_1147 {G : xG} {l : Launch} {g : xH} {d : Nat} {N : tP} (hN : tNs G N) (hl : l.stackTraces = false) (hd : 2 * N.2.1 + 202 ≤ d) (x0 : Nat) (x1 : Nat) (x2 : Nat) (x3 : Int32) (Kr : Int32 → tM → Prop) (K : Nat → Nat → tM → Prop) (R : Int32 → Nat → Nat → tM → Prop) (k n : Nat) (s : tM) (h : v_L2_law_1147 N x0 x1 x2 x3 Kr K R k n s) (hK : ∀ (k n : Nat) (s : tM), K k n s → xF G l kL (d + 1) k n (tQ G g wi Kr tNo) 1166 [none, none, none, none] [] (tH G g s)) (hR : ∀ (z3 : Int32) (k n : Nat) (s : tM), R z3 k n s → xF G l kL (d + 1) k n (tQ G g wi Kr tNo) 18 [some (rfv x0), some (rfv x1), some (rfv x2), some (.int z3)] [] (tH G g s)) : xF G l kL (d + 1) k n (tQ G g wi Kr tNo) 1147 [some (rfv x0), some (rfv x1), some (rfv x2), some (.int x3)] [] (tH G g s) := by
  unfold v_L2_law_1147 at h
  refine t_aload_1 dL_law_1147 ?_
  obtain ⟨e103, h⟩ := h
  refine t_cVi (As := []) rfl cv_L_175 rfl e103 rfl rfl (xrm4 (Nat.le_of_ble_eq_true rfl)) dL_law_1148 (e_X0_status (by omega) h) ⟨Nat.zero_le _, Nat.zero_le _⟩ (fun _ _ _ h => h.elim) (fun x101 s102 h => ?_)
  refine t_aload_2 dL_law_1151 ?_
  obtain ⟨e104, h⟩ := h
  refine t_mV (As := []) rfl cv_L_178 xcl_M.1 e104 rfl rfl (xrm4 (Nat.le_of_ble_eq_true rfl)) dL_law_1152 (c_status (mInj_br e104) (by (try dsimp only); omega) h) (fun x105 g106 h => ?_)
  refine t_gen h (fun s107 w108 h => ?_)
  refine x_icmp_eq 1160 dL_law_1155 (by decide) (fun c109 => ?_) (fun c109 => ?_)
  · have h := h.1 c109
    refine x_iinc_3 (v := 6) dL_law_1160 (by decide) (by decide) xN2_f ?_
    have h := h _ rfl
    refine x_goto 18 dL_law_1163 (by decide) ?_
    exact x_le (xLe_cons (xLe_cons (xLe_cons (xLe_cons (xLe_nil))))) (hR _ _ _ _ h)
  · have h := h.2 c109
    refine x_iconst (v := 0) dL_law_1158 (by decide) ?_
    exact x_zret0 dL_law_1159 rfl (Or.inl ⟨_, _, h, rfl, rfl⟩)
def v_L2_law_1124 (N : tP) (x0 : Nat) (x1 : Nat) (x2 : Nat) (x3 : Int32) (Kr : Int32 → tM → Prop) (K : Nat → Nat → tM → Prop) (R : Int32 → Nat → Nat → tM → Prop) (k n : Nat) (s : tM) : Prop :=
  (x0 = N.2.2 202 ∧ (vp_in (x3 + 1) (N.2.2 203 - 1) ∧ (tO s 0 x1 ∧ (v_X0_count N x1 (scr N (x3 + 1).toNatClampNeg) s (fun x103 s104 => (tMod s104 x2 ∧ (w_count (N.1, N.2.1) (scr N (x3 + 1).toNatClampNeg) (sM s104 x2) (fun x107 g108 => (∀ s109 : tM, s109 = sP s104 x2 g108 → ((x103 = x107 → (∀ x112 : Int32, x112 = x3 + 6 → (R x112 k n s109))) ∧ (¬ x103 = x107 → (Kr 0 s109))))))))))))
theorem e_L2_law_1124 {G : xG} {l : Launch} {g : xH} {d : Nat} {N : tP} (hN : tNs G N) (hl : l.stackTraces = false) (hd : 2 * N.2.1 + 202 ≤ d) (x0 : Nat) (x1 : Nat) (x2 : Nat) (x3 : Int32) (Kr : Int32 → tM → Prop) (K : Nat → Nat → tM → Prop) (R : Int32 → Nat → Nat → tM → Prop) (k n : Nat) (s : tM) (h : v_L2_law_1124 N x0 x1 x2 x3 Kr K R k n s) (hK : ∀ (k n : Nat) (s : tM), K k n s → xF G l kL (d + 1) k n (tQ G g wi Kr tNo) 1166 [none, none, none, none] [] (tH G g s)) (hR : ∀ (z3 : Int32) (k n : Nat) (s : tM), R z3 k n s → xF G l kL (d + 1) k n (tQ G g wi Kr tNo) 18 [some (rfv x0), some (rfv x1), some (rfv x2), some (.int z3)] [] (tH G g s)) : xF G l kL (d + 1) k n (tQ G g wi Kr tNo) 1124 [some (rfv x0), some (rfv x1), some (rfv x2), some (.int x3)] [] (tH G g s) := by
  unfold v_L2_law_1124 at h
  refine t_aload_1 dL_law_1124 ?_
  refine t_aload_0 dL_law_1125 ?_
  refine x_iload_3 dL_law_1126 ?_
  refine x_iconst (v := 1) dL_law_1127 (by decide) ?_
  refine x_iadd dL_law_1128 ?_
  obtain ⟨e101, h⟩ := h
  obtain ⟨e102, h⟩ := h
  refine t_scrI e101 hN dL_law_1129 e102 ?_
  obtain ⟨e105, h⟩ := h
  refine t_cVi (As := [_]) rfl cv_L_171 rfl e105 rfl rfl (xrm4 (Nat.le_of_ble_eq_true rfl)) dL_law_1130 (e_X0_count hN (by omega) h) ⟨Nat.zero_le _, Nat.zero_le _⟩ (fun _ _ _ h => h.elim) (fun x103 s104 h => ?_)
  refine t_aload_2 dL_law_1133 ?_
  refine t_aload_0 dL_law_1134 ?_
  refine x_iload_3 dL_law_1135 ?_
  refine x_iconst (v := 1) dL_law_1136 (by decide) ?_
  refine x_iadd dL_law_1137 ?_
  refine t_scrI e101 hN dL_law_1138 e102 ?_
  obtain ⟨e106, h⟩ := h
  refine t_mV (As := [_]) rfl cv_L_174 xcl_M.1 e106 rfl rfl (xrm4 (Nat.le_of_ble_eq_true rfl)) dL_law_1139 (c_count (mInj_br e106) (by (try dsimp only); omega) h) (fun x107 g108 h => ?_)
  refine t_gen h (fun s109 w110 h => ?_)
  refine x_icmp_eq 1160 dL_law_1142 (by decide) (fun c111 => ?_) (fun c111 => ?_)
  · have h := h.1 c111
    refine x_iinc_3 (v := 6) dL_law_1160 (by decide) (by decide) xN2_f ?_
    have h := h _ rfl
    refine x_goto 18 dL_law_1163 (by decide) ?_
    exact x_le (xLe_cons (xLe_cons (xLe_cons (xLe_cons (xLe_nil))))) (hR _ _ _ _ h)
  · have h := h.2 c111
    refine x_iconst (v := 0) dL_law_1145 (by decide) ?_
    exact x_zret0 dL_law_1146 rfl (Or.inl ⟨_, _, h, rfl, rfl⟩)
def v_L2_law_1101 (N : tP) (x0 : Nat) (x1 : Nat) (x2 : Nat) (x3 : Int32) (Kr : Int32 → tM → Prop) (K : Nat → Nat → tM → Prop) (R : Int32 → Nat → Nat → tM → Prop) (k n : Nat) (s : tM) : Prop :=
  (x0 = N.2.2 202 ∧ (vp_in (x3 + 1) (N.2.2 203 - 1) ∧ (∃ c105 c106 : Nat, c105 ≤ k ∧ c106 ≤ n ∧ (tO s 0 x1 ∧ (v_X0_back N x1 (scr N (x3 + 1).toNatClampNeg) c105 c106 s (fun x103 s104 => (tMod s104 x2 ∧ (w_back (N.1, N.2.1) (scr N (x3 + 1).toNatClampNeg) (sM s104 x2) (fun x111 g112 => (∀ s113 : tM, s113 = sP s104 x2 g112 → ((x103 = x111 → (∀ x116 : Int32, x116 = x3 + 6 → (R x116 (k - c105) (n - c106) s113))) ∧ (¬ x103 = x111 → (Kr 0 s113)))))))))))))
theorem e_L2_law_1101 {G : xG} {l : Launch} {g : xH} {d : Nat} {N : tP} (hN : tNs G N) (hl : l.stackTraces = false) (hd : 2 * N.2.1 + 202 ≤ d) (x0 : Nat) (x1 : Nat) (x2 : Nat) (x3 : Int32) (Kr : Int32 → tM → Prop) (K : Nat → Nat → tM → Prop) (R : Int32 → Nat → Nat → tM → Prop) (k n : Nat) (s : tM) (h : v_L2_law_1101 N x0 x1 x2 x3 Kr K R k n s) (hK : ∀ (k n : Nat) (s : tM), K k n s → xF G l kL (d + 1) k n (tQ G g wi Kr tNo) 1166 [none, none, none, none] [] (tH G g s)) (hR : ∀ (z3 : Int32) (k n : Nat) (s : tM), R z3 k n s → xF G l kL (d + 1) k n (tQ G g wi Kr tNo) 18 [some (rfv x0), some (rfv x1), some (rfv x2), some (.int z3)] [] (tH G g s)) : xF G l kL (d + 1) k n (tQ G g wi Kr tNo) 1101 [some (rfv x0), some (rfv x1), some (rfv x2), some (.int x3)] [] (tH G g s) := by
  unfold v_L2_law_1101 at h
  refine t_aload_1 dL_law_1101 ?_
  refine t_aload_0 dL_law_1102 ?_
  refine x_iload_3 dL_law_1103 ?_
  refine x_iconst (v := 1) dL_law_1104 (by decide) ?_
  refine x_iadd dL_law_1105 ?_
  obtain ⟨e101, h⟩ := h
  obtain ⟨e102, h⟩ := h
  refine t_scrI e101 hN dL_law_1106 e102 ?_
  obtain ⟨c105, c106, e107, e108, h⟩ := h
  obtain ⟨e109, h⟩ := h
  refine t_cVi (As := [_]) rfl cv_L_167 rfl e109 rfl rfl (xrm4 (Nat.le_of_ble_eq_true rfl)) dL_law_1107 (e_X0_back hN (by omega) h) ⟨e107, e108⟩ (fun _ _ _ h => h.elim) (fun x103 s104 h => ?_)
  refine t_aload_2 dL_law_1110 ?_
  refine t_aload_0 dL_law_1111 ?_
  refine x_iload_3 dL_law_1112 ?_
  refine x_iconst (v := 1) dL_law_1113 (by decide) ?_
  refine x_iadd dL_law_1114 ?_
  refine t_scrI e101 hN dL_law_1115 e102 ?_
  obtain ⟨e110, h⟩ := h
  refine t_mV (As := [_]) rfl cv_L_170 xcl_M.1 e110 rfl rfl (xrm4 (Nat.le_of_ble_eq_true rfl)) dL_law_1116 (c_back (mInj_br e110) (by (try dsimp only); omega) h) (fun x111 g112 h => ?_)
  refine t_gen h (fun s113 w114 h => ?_)
  refine x_icmp_eq 1160 dL_law_1119 (by decide) (fun c115 => ?_) (fun c115 => ?_)
  · have h := h.1 c115
    refine x_iinc_3 (v := 6) dL_law_1160 (by decide) (by decide) xN2_f ?_
    have h := h _ rfl
    refine x_goto 18 dL_law_1163 (by decide) ?_
    exact x_le (xLe_cons (xLe_cons (xLe_cons (xLe_cons (xLe_nil))))) (hR _ _ _ _ h)
  · have h := h.2 c115
    refine x_iconst (v := 0) dL_law_1122 (by decide) ?_
    exact x_zret0 dL_law_1123 rfl (Or.inl ⟨_, _, h, rfl, rfl⟩)
def v_L2_law_1078 (N : tP) (x0 : Nat) (x1 : Nat) (x2 : Nat) (x3 : Int32) (Kr : Int32 → tM → Prop) (K : Nat → Nat → tM → Prop) (R : Int32 → Nat → Nat → tM → Prop) (k n : Nat) (s : tM) : Prop :=
  (x0 = N.2.2 202 ∧ (vp_in (x3 + 1) (N.2.2 203 - 1) ∧ (∃ c105 c106 : Nat, c105 ≤ k ∧ c106 ≤ n ∧ (tO s 0 x1 ∧ (v_X0_image N x1 (scr N (x3 + 1).toNatClampNeg) c105 c106 s (fun x103 s104 => (tMod s104 x2 ∧ (w_image (N.1, N.2.1) (scr N (x3 + 1).toNatClampNeg) (sM s104 x2) (fun x111 g112 => (∀ s113 : tM, s113 = sP s104 x2 g112 → ((x103 = x111 → (∀ x116 : Int32, x116 = x3 + 6 → (R x116 (k - c105) (n - c106) s113))) ∧ (¬ x103 = x111 → (Kr 0 s113)))))))))))))
theorem e_L2_law_1078 {G : xG} {l : Launch} {g : xH} {d : Nat} {N : tP} (hN : tNs G N) (hl : l.stackTraces = false) (hd : 2 * N.2.1 + 202 ≤ d) (x0 : Nat) (x1 : Nat) (x2 : Nat) (x3 : Int32) (Kr : Int32 → tM → Prop) (K : Nat → Nat → tM → Prop) (R : Int32 → Nat → Nat → tM → Prop) (k n : Nat) (s : tM) (h : v_L2_law_1078 N x0 x1 x2 x3 Kr K R k n s) (hK : ∀ (k n : Nat) (s : tM), K k n s → xF G l kL (d + 1) k n (tQ G g wi Kr tNo) 1166 [none, none, none, none] [] (tH G g s)) (hR : ∀ (z3 : Int32) (k n : Nat) (s : tM), R z3 k n s → xF G l kL (d + 1) k n (tQ G g wi Kr tNo) 18 [some (rfv x0), some (rfv x1), some (rfv x2), some (.int z3)] [] (tH G g s)) : xF G l kL (d + 1) k n (tQ G g wi Kr tNo) 1078 [some (rfv x0), some (rfv x1), some (rfv x2), some (.int x3)] [] (tH G g s) := by
  unfold v_L2_law_1078 at h
  refine t_aload_1 dL_law_1078 ?_
  refine t_aload_0 dL_law_1079 ?_
  refine x_iload_3 dL_law_1080 ?_
  refine x_iconst (v := 1) dL_law_1081 (by decide) ?_
  refine x_iadd dL_law_1082 ?_
  obtain ⟨e101, h⟩ := h
  obtain ⟨e102, h⟩ := h
  refine t_scrI e101 hN dL_law_1083 e102 ?_
  obtain ⟨c105, c106, e107, e108, h⟩ := h
  obtain ⟨e109, h⟩ := h
  refine t_cVi (As := [_]) rfl cv_L_163 rfl e109 rfl rfl (xrm4 (Nat.le_of_ble_eq_true rfl)) dL_law_1084 (e_X0_image hN (by omega) h) ⟨e107, e108⟩ (fun _ _ _ h => h.elim) (fun x103 s104 h => ?_)
  refine t_aload_2 dL_law_1087 ?_
  refine t_aload_0 dL_law_1088 ?_
  refine x_iload_3 dL_law_1089 ?_
  refine x_iconst (v := 1) dL_law_1090 (by decide) ?_
  refine x_iadd dL_law_1091 ?_
  refine t_scrI e101 hN dL_law_1092 e102 ?_
  obtain ⟨e110, h⟩ := h
  refine t_mV (As := [_]) rfl cv_L_166 xcl_M.1 e110 rfl rfl (xrm4 (Nat.le_of_ble_eq_true rfl)) dL_law_1093 (c_image (mInj_br e110) (by (try dsimp only); omega) h) (fun x111 g112 h => ?_)
  refine t_gen h (fun s113 w114 h => ?_)
  refine x_icmp_eq 1160 dL_law_1096 (by decide) (fun c115 => ?_) (fun c115 => ?_)
  · have h := h.1 c115
    refine x_iinc_3 (v := 6) dL_law_1160 (by decide) (by decide) xN2_f ?_
    have h := h _ rfl
    refine x_goto 18 dL_law_1163 (by decide) ?_
    exact x_le (xLe_cons (xLe_cons (xLe_cons (xLe_cons (xLe_nil))))) (hR _ _ _ _ h)
  · have h := h.2 c115
    refine x_iconst (v := 0) dL_law_1099 (by decide) ?_
    exact x_zret0 dL_law_1100 rfl (Or.inl ⟨_, _, h, rfl, rfl⟩)
def v_L2_law_1045 (N : tP) (x0 : Nat) (x1 : Nat) (x2 : Nat) (x3 : Int32) (Kr : Int32 → tM → Prop) (K : Nat → Nat → tM → Prop) (R : Int32 → Nat → Nat → tM → Prop) (k n : Nat) (s : tM) : Prop :=
  (x0 = N.2.2 202 ∧ (vp_in (x3 + 1) (N.2.2 203 - 1) ∧ (vp_in (x3 + 2) (N.2.2 203 - 1) ∧ (tO s 0 x1 ∧ (v_X0_drawn x1 (scr N (x3 + 1).toNatClampNeg) (scr N (x3 + 2).toNatClampNeg) s (fun x104 s105 => (tMod s105 x2 ∧ (w_drawn (scr N (x3 + 1).toNatClampNeg) (scr N (x3 + 2).toNatClampNeg) (sM s105 x2) (fun x108 g109 => (∀ s110 : tM, s110 = sP s105 x2 g109 → ((x104 = x108 → (∀ x113 : Int32, x113 = x3 + 6 → (R x113 k n s110))) ∧ (¬ x104 = x108 → (Kr 0 s110)))))))))))))
theorem e_L2_law_1045 {G : xG} {l : Launch} {g : xH} {d : Nat} {N : tP} (hN : tNs G N) (hl : l.stackTraces = false) (hd : 2 * N.2.1 + 202 ≤ d) (x0 : Nat) (x1 : Nat) (x2 : Nat) (x3 : Int32) (Kr : Int32 → tM → Prop) (K : Nat → Nat → tM → Prop) (R : Int32 → Nat → Nat → tM → Prop) (k n : Nat) (s : tM) (h : v_L2_law_1045 N x0 x1 x2 x3 Kr K R k n s) (hK : ∀ (k n : Nat) (s : tM), K k n s → xF G l kL (d + 1) k n (tQ G g wi Kr tNo) 1166 [none, none, none, none] [] (tH G g s)) (hR : ∀ (z3 : Int32) (k n : Nat) (s : tM), R z3 k n s → xF G l kL (d + 1) k n (tQ G g wi Kr tNo) 18 [some (rfv x0), some (rfv x1), some (rfv x2), some (.int z3)] [] (tH G g s)) : xF G l kL (d + 1) k n (tQ G g wi Kr tNo) 1045 [some (rfv x0), some (rfv x1), some (rfv x2), some (.int x3)] [] (tH G g s) := by
  unfold v_L2_law_1045 at h
  refine t_aload_1 dL_law_1045 ?_
  refine t_aload_0 dL_law_1046 ?_
  refine x_iload_3 dL_law_1047 ?_
  refine x_iconst (v := 1) dL_law_1048 (by decide) ?_
  refine x_iadd dL_law_1049 ?_
  obtain ⟨e101, h⟩ := h
  obtain ⟨e102, h⟩ := h
  refine t_scrI e101 hN dL_law_1050 e102 ?_
  refine t_aload_0 dL_law_1051 ?_
  refine x_iload_3 dL_law_1052 ?_
  refine x_iconst (v := 2) dL_law_1053 (by decide) ?_
  refine x_iadd dL_law_1054 ?_
  obtain ⟨e103, h⟩ := h
  refine t_scrI e101 hN dL_law_1055 e103 ?_
  obtain ⟨e106, h⟩ := h
  refine t_cVi (As := [_, _]) rfl cv_L_159 rfl e106 rfl rfl (xrm4 (Nat.le_of_ble_eq_true rfl)) dL_law_1056 (e_X0_drawn (by omega) h) ⟨Nat.zero_le _, Nat.zero_le _⟩ (fun _ _ _ h => h.elim) (fun x104 s105 h => ?_)
  refine t_aload_2 dL_law_1059 ?_
  refine t_aload_0 dL_law_1060 ?_
  refine x_iload_3 dL_law_1061 ?_
  refine x_iconst (v := 1) dL_law_1062 (by decide) ?_
  refine x_iadd dL_law_1063 ?_
  refine t_scrI e101 hN dL_law_1064 e102 ?_
  refine t_aload_0 dL_law_1065 ?_
  refine x_iload_3 dL_law_1066 ?_
  refine x_iconst (v := 2) dL_law_1067 (by decide) ?_
  refine x_iadd dL_law_1068 ?_
  refine t_scrI e101 hN dL_law_1069 e103 ?_
  obtain ⟨e107, h⟩ := h
  refine t_mV (As := [_, _]) rfl cv_L_162 xcl_M.1 e107 rfl rfl (xrm4 (Nat.le_of_ble_eq_true rfl)) dL_law_1070 (c_drawn (mInj_br e107) (by (try dsimp only); omega) h) (fun x108 g109 h => ?_)
  refine t_gen h (fun s110 w111 h => ?_)
  refine x_icmp_eq 1160 dL_law_1073 (by decide) (fun c112 => ?_) (fun c112 => ?_)
  · have h := h.1 c112
    refine x_iinc_3 (v := 6) dL_law_1160 (by decide) (by decide) xN2_f ?_
    have h := h _ rfl
    refine x_goto 18 dL_law_1163 (by decide) ?_
    exact x_le (xLe_cons (xLe_cons (xLe_cons (xLe_cons (xLe_nil))))) (hR _ _ _ _ h)
  · have h := h.2 c112
    refine x_iconst (v := 0) dL_law_1076 (by decide) ?_
    exact x_zret0 dL_law_1077 rfl (Or.inl ⟨_, _, h, rfl, rfl⟩)
def v_L2_law_1012 (N : tP) (x0 : Nat) (x1 : Nat) (x2 : Nat) (x3 : Int32) (Kr : Int32 → tM → Prop) (K : Nat → Nat → tM → Prop) (R : Int32 → Nat → Nat → tM → Prop) (k n : Nat) (s : tM) : Prop :=
  (x0 = N.2.2 202 ∧ (vp_in (x3 + 1) (N.2.2 203 - 1) ∧ (vp_in (x3 + 2) (N.2.2 203 - 1) ∧ (∃ c106 c107 : Nat, c106 ≤ k ∧ c107 ≤ n ∧ (tO s 0 x1 ∧ (v_X0_weeks N x1 (scr N (x3 + 1).toNatClampNeg) (scr N (x3 + 2).toNatClampNeg) c106 c107 s (fun x104 s105 => (tMod s105 x2 ∧ (w_weeks (N.1, N.2.1) (scr N (x3 + 1).toNatClampNeg) (scr N (x3 + 2).toNatClampNeg) (sM s105 x2) (fun x112 g113 => (∀ s114 : tM, s114 = sP s105 x2 g113 → ((x104 = x112 → (∀ x117 : Int32, x117 = x3 + 6 → (R x117 (k - c106) (n - c107) s114))) ∧ (¬ x104 = x112 → (Kr 0 s114))))))))))))))
theorem e_L2_law_1012 {G : xG} {l : Launch} {g : xH} {d : Nat} {N : tP} (hN : tNs G N) (hl : l.stackTraces = false) (hd : 2 * N.2.1 + 202 ≤ d) (x0 : Nat) (x1 : Nat) (x2 : Nat) (x3 : Int32) (Kr : Int32 → tM → Prop) (K : Nat → Nat → tM → Prop) (R : Int32 → Nat → Nat → tM → Prop) (k n : Nat) (s : tM) (h : v_L2_law_1012 N x0 x1 x2 x3 Kr K R k n s) (hK : ∀ (k n : Nat) (s : tM), K k n s → xF G l kL (d + 1) k n (tQ G g wi Kr tNo) 1166 [none, none, none, none] [] (tH G g s)) (hR : ∀ (z3 : Int32) (k n : Nat) (s : tM), R z3 k n s → xF G l kL (d + 1) k n (tQ G g wi Kr tNo) 18 [some (rfv x0), some (rfv x1), some (rfv x2), some (.int z3)] [] (tH G g s)) : xF G l kL (d + 1) k n (tQ G g wi Kr tNo) 1012 [some (rfv x0), some (rfv x1), some (rfv x2), some (.int x3)] [] (tH G g s) := by
  unfold v_L2_law_1012 at h
  refine t_aload_1 dL_law_1012 ?_
  refine t_aload_0 dL_law_1013 ?_
  refine x_iload_3 dL_law_1014 ?_
  refine x_iconst (v := 1) dL_law_1015 (by decide) ?_
  refine x_iadd dL_law_1016 ?_
  obtain ⟨e101, h⟩ := h
  obtain ⟨e102, h⟩ := h
  refine t_scrI e101 hN dL_law_1017 e102 ?_
  refine t_aload_0 dL_law_1018 ?_
  refine x_iload_3 dL_law_1019 ?_
  refine x_iconst (v := 2) dL_law_1020 (by decide) ?_
  refine x_iadd dL_law_1021 ?_
  obtain ⟨e103, h⟩ := h
  refine t_scrI e101 hN dL_law_1022 e103 ?_
  obtain ⟨c106, c107, e108, e109, h⟩ := h
  obtain ⟨e110, h⟩ := h
  refine t_cVi (As := [_, _]) rfl cv_L_155 rfl e110 rfl rfl (xrm4 (Nat.le_of_ble_eq_true rfl)) dL_law_1023 (e_X0_weeks hN (by omega) h) ⟨e108, e109⟩ (fun _ _ _ h => h.elim) (fun x104 s105 h => ?_)
  refine t_aload_2 dL_law_1026 ?_
  refine t_aload_0 dL_law_1027 ?_
  refine x_iload_3 dL_law_1028 ?_
  refine x_iconst (v := 1) dL_law_1029 (by decide) ?_
  refine x_iadd dL_law_1030 ?_
  refine t_scrI e101 hN dL_law_1031 e102 ?_
  refine t_aload_0 dL_law_1032 ?_
  refine x_iload_3 dL_law_1033 ?_
  refine x_iconst (v := 2) dL_law_1034 (by decide) ?_
  refine x_iadd dL_law_1035 ?_
  refine t_scrI e101 hN dL_law_1036 e103 ?_
  obtain ⟨e111, h⟩ := h
  refine t_mV (As := [_, _]) rfl cv_L_158 xcl_M.1 e111 rfl rfl (xrm4 (Nat.le_of_ble_eq_true rfl)) dL_law_1037 (c_weeks (mInj_br e111) (by (try dsimp only); omega) h) (fun x112 g113 h => ?_)
  refine t_gen h (fun s114 w115 h => ?_)
  refine x_icmp_eq 1160 dL_law_1040 (by decide) (fun c116 => ?_) (fun c116 => ?_)
  · have h := h.1 c116
    refine x_iinc_3 (v := 6) dL_law_1160 (by decide) (by decide) xN2_f ?_
    have h := h _ rfl
    refine x_goto 18 dL_law_1163 (by decide) ?_
    exact x_le (xLe_cons (xLe_cons (xLe_cons (xLe_cons (xLe_nil))))) (hR _ _ _ _ h)
  · have h := h.2 c116
    refine x_iconst (v := 0) dL_law_1043 (by decide) ?_
    exact x_zret0 dL_law_1044 rfl (Or.inl ⟨_, _, h, rfl, rfl⟩)
def v_L2_law_989 (N : tP) (x0 : Nat) (x1 : Nat) (x2 : Nat) (x3 : Int32) (Kr : Int32 → tM → Prop) (K : Nat → Nat → tM → Prop) (R : Int32 → Nat → Nat → tM → Prop) (k n : Nat) (s : tM) : Prop :=
  (x0 = N.2.2 202 ∧ (vp_in (x3 + 1) (N.2.2 203 - 1) ∧ (tO s 0 x1 ∧ (v_X0_compare N x1 (scr N (x3 + 1).toNatClampNeg) s (fun x103 s104 => (tMod s104 x2 ∧ (w_compare (N.1, N.2.1) (scr N (x3 + 1).toNatClampNeg) (sM s104 x2) (fun x107 g108 => (∀ s109 : tM, s109 = sP s104 x2 g108 → ((x103 = x107 → (∀ x112 : Int32, x112 = x3 + 6 → (R x112 k n s109))) ∧ (¬ x103 = x107 → (Kr 0 s109))))))))))))
theorem e_L2_law_989 {G : xG} {l : Launch} {g : xH} {d : Nat} {N : tP} (hN : tNs G N) (hl : l.stackTraces = false) (hd : 2 * N.2.1 + 202 ≤ d) (x0 : Nat) (x1 : Nat) (x2 : Nat) (x3 : Int32) (Kr : Int32 → tM → Prop) (K : Nat → Nat → tM → Prop) (R : Int32 → Nat → Nat → tM → Prop) (k n : Nat) (s : tM) (h : v_L2_law_989 N x0 x1 x2 x3 Kr K R k n s) (hK : ∀ (k n : Nat) (s : tM), K k n s → xF G l kL (d + 1) k n (tQ G g wi Kr tNo) 1166 [none, none, none, none] [] (tH G g s)) (hR : ∀ (z3 : Int32) (k n : Nat) (s : tM), R z3 k n s → xF G l kL (d + 1) k n (tQ G g wi Kr tNo) 18 [some (rfv x0), some (rfv x1), some (rfv x2), some (.int z3)] [] (tH G g s)) : xF G l kL (d + 1) k n (tQ G g wi Kr tNo) 989 [some (rfv x0), some (rfv x1), some (rfv x2), some (.int x3)] [] (tH G g s) := by
  unfold v_L2_law_989 at h
  refine t_aload_1 dL_law_989 ?_
  refine t_aload_0 dL_law_990 ?_
  refine x_iload_3 dL_law_991 ?_
  refine x_iconst (v := 1) dL_law_992 (by decide) ?_
  refine x_iadd dL_law_993 ?_
  obtain ⟨e101, h⟩ := h
  obtain ⟨e102, h⟩ := h
  refine t_scrI e101 hN dL_law_994 e102 ?_
  obtain ⟨e105, h⟩ := h
  refine t_cVi (As := [_]) rfl cv_L_151 rfl e105 rfl rfl (xrm4 (Nat.le_of_ble_eq_true rfl)) dL_law_995 (e_X0_compare hN (by omega) h) ⟨Nat.zero_le _, Nat.zero_le _⟩ (fun _ _ _ h => h.elim) (fun x103 s104 h => ?_)
  refine t_aload_2 dL_law_998 ?_
  refine t_aload_0 dL_law_999 ?_
  refine x_iload_3 dL_law_1000 ?_
  refine x_iconst (v := 1) dL_law_1001 (by decide) ?_
  refine x_iadd dL_law_1002 ?_
  refine t_scrI e101 hN dL_law_1003 e102 ?_
  obtain ⟨e106, h⟩ := h
  refine t_mV (As := [_]) rfl cv_L_154 xcl_M.1 e106 rfl rfl (xrm4 (Nat.le_of_ble_eq_true rfl)) dL_law_1004 (c_compare (mInj_br e106) (by (try dsimp only); omega) h) (fun x107 g108 h => ?_)
  refine t_gen h (fun s109 w110 h => ?_)
  refine x_icmp_eq 1160 dL_law_1007 (by decide) (fun c111 => ?_) (fun c111 => ?_)
  · have h := h.1 c111
    refine x_iinc_3 (v := 6) dL_law_1160 (by decide) (by decide) xN2_f ?_
    have h := h _ rfl
    refine x_goto 18 dL_law_1163 (by decide) ?_
    exact x_le (xLe_cons (xLe_cons (xLe_cons (xLe_cons (xLe_nil))))) (hR _ _ _ _ h)
  · have h := h.2 c111
    refine x_iconst (v := 0) dL_law_1010 (by decide) ?_
    exact x_zret0 dL_law_1011 rfl (Or.inl ⟨_, _, h, rfl, rfl⟩)
def v_L2_law_955 (N : tP) (x0 : Nat) (x1 : Nat) (x2 : Nat) (x3 : Int32) (Kr : Int32 → tM → Prop) (K : Nat → Nat → tM → Prop) (R : Int32 → Nat → Nat → tM → Prop) (k n : Nat) (s : tM) : Prop :=
  (x0 = N.2.2 202 ∧ (vp_in (x3 + 1) (N.2.2 203 - 1) ∧ (vp_in (x3 + 2) (N.2.2 203 - 1) ∧ (∃ c106 c107 : Nat, c106 ≤ k ∧ c107 ≤ n ∧ (tO s 0 x1 ∧ (v_X0_few N x1 (scr N (x3 + 1).toNatClampNeg) (scr N (x3 + 2).toNatClampNeg) c106 c107 s (fun x104 s105 => (tMod s105 x2 ∧ (w_few (N.1, N.2.1) (scr N (x3 + 1).toNatClampNeg) (scr N (x3 + 2).toNatClampNeg) (sM s105 x2) (fun x112 g113 => (∀ s114 : tM, s114 = sP s105 x2 g113 → (((lg_cmp x104 x112) = 0 → (∀ x117 : Int32, x117 = x3 + 6 → (R x117 (k - c106) (n - c107) s114))) ∧ (¬ (lg_cmp x104 x112) = 0 → (Kr 0 s114))))))))))))))
theorem e_L2_law_955 {G : xG} {l : Launch} {g : xH} {d : Nat} {N : tP} (hN : tNs G N) (hl : l.stackTraces = false) (hd : 2 * N.2.1 + 202 ≤ d) (x0 : Nat) (x1 : Nat) (x2 : Nat) (x3 : Int32) (Kr : Int32 → tM → Prop) (K : Nat → Nat → tM → Prop) (R : Int32 → Nat → Nat → tM → Prop) (k n : Nat) (s : tM) (h : v_L2_law_955 N x0 x1 x2 x3 Kr K R k n s) (hK : ∀ (k n : Nat) (s : tM), K k n s → xF G l kL (d + 1) k n (tQ G g wi Kr tNo) 1166 [none, none, none, none] [] (tH G g s)) (hR : ∀ (z3 : Int32) (k n : Nat) (s : tM), R z3 k n s → xF G l kL (d + 1) k n (tQ G g wi Kr tNo) 18 [some (rfv x0), some (rfv x1), some (rfv x2), some (.int z3)] [] (tH G g s)) : xF G l kL (d + 1) k n (tQ G g wi Kr tNo) 955 [some (rfv x0), some (rfv x1), some (rfv x2), some (.int x3)] [] (tH G g s) := by
  unfold v_L2_law_955 at h
  refine t_aload_1 dL_law_955 ?_
  refine t_aload_0 dL_law_956 ?_
  refine x_iload_3 dL_law_957 ?_
  refine x_iconst (v := 1) dL_law_958 (by decide) ?_
  refine x_iadd dL_law_959 ?_
  obtain ⟨e101, h⟩ := h
  obtain ⟨e102, h⟩ := h
  refine t_scrI e101 hN dL_law_960 e102 ?_
  refine t_aload_0 dL_law_961 ?_
  refine x_iload_3 dL_law_962 ?_
  refine x_iconst (v := 2) dL_law_963 (by decide) ?_
  refine x_iadd dL_law_964 ?_
  obtain ⟨e103, h⟩ := h
  refine t_scrI e101 hN dL_law_965 e103 ?_
  obtain ⟨c106, c107, e108, e109, h⟩ := h
  obtain ⟨e110, h⟩ := h
  refine t_cVl (As := [_, _]) rfl cv_L_146 rfl e110 rfl rfl (xrm4 (Nat.le_of_ble_eq_true rfl)) dL_law_966 (e_X0_few hN (by omega) h) ⟨e108, e109⟩ (fun _ _ _ h => h.elim) (fun x104 s105 h => ?_)
  refine t_aload_2 dL_law_969 ?_
  refine t_aload_0 dL_law_970 ?_
  refine x_iload_3 dL_law_971 ?_
  refine x_iconst (v := 1) dL_law_972 (by decide) ?_
  refine x_iadd dL_law_973 ?_
  refine t_scrI e101 hN dL_law_974 e102 ?_
  refine t_aload_0 dL_law_975 ?_
  refine x_iload_3 dL_law_976 ?_
  refine x_iconst (v := 2) dL_law_977 (by decide) ?_
  refine x_iadd dL_law_978 ?_
  refine t_scrI e101 hN dL_law_979 e103 ?_
  obtain ⟨e111, h⟩ := h
  refine t_mVl (As := [_, _]) rfl cv_L_150 xcl_M.1 e111 rfl rfl (xrm4 (Nat.le_of_ble_eq_true rfl)) dL_law_980 (c_few (mInj_br e111) (by (try dsimp only); omega) h) (fun x112 g113 h => ?_)
  refine t_gen h (fun s114 w115 h => ?_)
  refine x_lcmp dL_law_983 ?_
  refine x_if_eq 1160 dL_law_984 (by decide) (fun c116 => ?_) (fun c116 => ?_)
  · have h := h.1 c116
    refine x_iinc_3 (v := 6) dL_law_1160 (by decide) (by decide) xN2_f ?_
    have h := h _ rfl
    refine x_goto 18 dL_law_1163 (by decide) ?_
    exact x_le (xLe_cons (xLe_cons (xLe_cons (xLe_cons (xLe_nil))))) (hR _ _ _ _ h)
  · have h := h.2 c116
    refine x_iconst (v := 0) dL_law_987 (by decide) ?_
    exact x_zret0 dL_law_988 rfl (Or.inl ⟨_, _, h, rfl, rfl⟩)
def v_L2_law_932 (N : tP) (x0 : Nat) (x1 : Nat) (x2 : Nat) (x3 : Int32) (Kr : Int32 → tM → Prop) (K : Nat → Nat → tM → Prop) (R : Int32 → Nat → Nat → tM → Prop) (k n : Nat) (s : tM) : Prop :=
  (x0 = N.2.2 202 ∧ (vp_in (x3 + 1) (N.2.2 203 - 1) ∧ (tO s 0 x1 ∧ (v_X0_listen N x1 (scr N (x3 + 1).toNatClampNeg) s (fun x103 s104 => (tMod s104 x2 ∧ (w_listen (N.1, N.2.1) (scr N (x3 + 1).toNatClampNeg) (sM s104 x2) (fun x107 g108 => (∀ s109 : tM, s109 = sP s104 x2 g108 → ((x103 = x107 → (∀ x112 : Int32, x112 = x3 + 6 → (R x112 k n s109))) ∧ (¬ x103 = x107 → (Kr 0 s109))))))))))))
theorem e_L2_law_932 {G : xG} {l : Launch} {g : xH} {d : Nat} {N : tP} (hN : tNs G N) (hl : l.stackTraces = false) (hd : 2 * N.2.1 + 202 ≤ d) (x0 : Nat) (x1 : Nat) (x2 : Nat) (x3 : Int32) (Kr : Int32 → tM → Prop) (K : Nat → Nat → tM → Prop) (R : Int32 → Nat → Nat → tM → Prop) (k n : Nat) (s : tM) (h : v_L2_law_932 N x0 x1 x2 x3 Kr K R k n s) (hK : ∀ (k n : Nat) (s : tM), K k n s → xF G l kL (d + 1) k n (tQ G g wi Kr tNo) 1166 [none, none, none, none] [] (tH G g s)) (hR : ∀ (z3 : Int32) (k n : Nat) (s : tM), R z3 k n s → xF G l kL (d + 1) k n (tQ G g wi Kr tNo) 18 [some (rfv x0), some (rfv x1), some (rfv x2), some (.int z3)] [] (tH G g s)) : xF G l kL (d + 1) k n (tQ G g wi Kr tNo) 932 [some (rfv x0), some (rfv x1), some (rfv x2), some (.int x3)] [] (tH G g s) := by
  unfold v_L2_law_932 at h
  refine t_aload_1 dL_law_932 ?_
  refine t_aload_0 dL_law_933 ?_
  refine x_iload_3 dL_law_934 ?_
  refine x_iconst (v := 1) dL_law_935 (by decide) ?_
  refine x_iadd dL_law_936 ?_
  obtain ⟨e101, h⟩ := h
  obtain ⟨e102, h⟩ := h
  refine t_scrI e101 hN dL_law_937 e102 ?_
  obtain ⟨e105, h⟩ := h
  refine t_cVi (As := [_]) rfl cv_L_142 rfl e105 rfl rfl (xrm4 (Nat.le_of_ble_eq_true rfl)) dL_law_938 (e_X0_listen hN (by omega) h) ⟨Nat.zero_le _, Nat.zero_le _⟩ (fun _ _ _ h => h.elim) (fun x103 s104 h => ?_)
  refine t_aload_2 dL_law_941 ?_
  refine t_aload_0 dL_law_942 ?_
  refine x_iload_3 dL_law_943 ?_
  refine x_iconst (v := 1) dL_law_944 (by decide) ?_
  refine x_iadd dL_law_945 ?_
  refine t_scrI e101 hN dL_law_946 e102 ?_
  obtain ⟨e106, h⟩ := h
  refine t_mV (As := [_]) rfl cv_L_145 xcl_M.1 e106 rfl rfl (xrm4 (Nat.le_of_ble_eq_true rfl)) dL_law_947 (c_listen (mInj_br e106) (by (try dsimp only); omega) h) (fun x107 g108 h => ?_)
  refine t_gen h (fun s109 w110 h => ?_)
  refine x_icmp_eq 1160 dL_law_950 (by decide) (fun c111 => ?_) (fun c111 => ?_)
  · have h := h.1 c111
    refine x_iinc_3 (v := 6) dL_law_1160 (by decide) (by decide) xN2_f ?_
    have h := h _ rfl
    refine x_goto 18 dL_law_1163 (by decide) ?_
    exact x_le (xLe_cons (xLe_cons (xLe_cons (xLe_cons (xLe_nil))))) (hR _ _ _ _ h)
  · have h := h.2 c111
    refine x_iconst (v := 0) dL_law_953 (by decide) ?_
    exact x_zret0 dL_law_954 rfl (Or.inl ⟨_, _, h, rfl, rfl⟩)
def v_L2_law_919 (N : tP) (x0 : Nat) (x1 : Nat) (x2 : Nat) (x3 : Int32) (Kr : Int32 → tM → Prop) (K : Nat → Nat → tM → Prop) (R : Int32 → Nat → Nat → tM → Prop) (k n : Nat) (s : tM) : Prop :=
  (tO s 0 x1 ∧ (v_X0_canBe N x1 s (fun x101 s102 => (tMod s102 x2 ∧ (w_canBe (N.1, N.2.1) (sM s102 x2) (fun x105 g106 => (∀ s107 : tM, s107 = sP s102 x2 g106 → ((x101 = x105 → (∀ x110 : Int32, x110 = x3 + 6 → (R x110 k n s107))) ∧ (¬ x101 = x105 → (Kr 0 s107))))))))))
theorem e_L2_law_919 {G : xG} {l : Launch} {g : xH} {d : Nat} {N : tP} (hN : tNs G N) (hl : l.stackTraces = false) (hd : 2 * N.2.1 + 202 ≤ d) (x0 : Nat) (x1 : Nat) (x2 : Nat) (x3 : Int32) (Kr : Int32 → tM → Prop) (K : Nat → Nat → tM → Prop) (R : Int32 → Nat → Nat → tM → Prop) (k n : Nat) (s : tM) (h : v_L2_law_919 N x0 x1 x2 x3 Kr K R k n s) (hK : ∀ (k n : Nat) (s : tM), K k n s → xF G l kL (d + 1) k n (tQ G g wi Kr tNo) 1166 [none, none, none, none] [] (tH G g s)) (hR : ∀ (z3 : Int32) (k n : Nat) (s : tM), R z3 k n s → xF G l kL (d + 1) k n (tQ G g wi Kr tNo) 18 [some (rfv x0), some (rfv x1), some (rfv x2), some (.int z3)] [] (tH G g s)) : xF G l kL (d + 1) k n (tQ G g wi Kr tNo) 919 [some (rfv x0), some (rfv x1), some (rfv x2), some (.int x3)] [] (tH G g s) := by
  unfold v_L2_law_919 at h
  refine t_aload_1 dL_law_919 ?_
  obtain ⟨e103, h⟩ := h
  refine t_cVi (As := []) rfl cv_L_138 rfl e103 rfl rfl (xrm4 (Nat.le_of_ble_eq_true rfl)) dL_law_920 (e_X0_canBe hN (by omega) h) ⟨Nat.zero_le _, Nat.zero_le _⟩ (fun _ _ _ h => h.elim) (fun x101 s102 h => ?_)
  refine t_aload_2 dL_law_923 ?_
  obtain ⟨e104, h⟩ := h
  refine t_mV (As := []) rfl cv_L_141 xcl_M.1 e104 rfl rfl (xrm4 (Nat.le_of_ble_eq_true rfl)) dL_law_924 (c_canBe (mInj_br e104) (by (try dsimp only); omega) h) (fun x105 g106 h => ?_)
  refine t_gen h (fun s107 w108 h => ?_)
  refine x_icmp_eq 1160 dL_law_927 (by decide) (fun c109 => ?_) (fun c109 => ?_)
  · have h := h.1 c109
    refine x_iinc_3 (v := 6) dL_law_1160 (by decide) (by decide) xN2_f ?_
    have h := h _ rfl
    refine x_goto 18 dL_law_1163 (by decide) ?_
    exact x_le (xLe_cons (xLe_cons (xLe_cons (xLe_cons (xLe_nil))))) (hR _ _ _ _ h)
  · have h := h.2 c109
    refine x_iconst (v := 0) dL_law_930 (by decide) ?_
    exact x_zret0 dL_law_931 rfl (Or.inl ⟨_, _, h, rfl, rfl⟩)
def v_L2_law_906 (N : tP) (x0 : Nat) (x1 : Nat) (x2 : Nat) (x3 : Int32) (Kr : Int32 → tM → Prop) (K : Nat → Nat → tM → Prop) (R : Int32 → Nat → Nat → tM → Prop) (k n : Nat) (s : tM) : Prop :=
  (tO s 0 x1 ∧ (v_X0_forget x1 s (fun x101 s102 => (tMod s102 x2 ∧ (w_forget (sM s102 x2) (fun x105 g106 => (∀ s107 : tM, s107 = sP s102 x2 g106 → ((x101 = x105 → (∀ x110 : Int32, x110 = x3 + 6 → (R x110 k n s107))) ∧ (¬ x101 = x105 → (Kr 0 s107))))))))))
theorem e_L2_law_906 {G : xG} {l : Launch} {g : xH} {d : Nat} {N : tP} (hN : tNs G N) (hl : l.stackTraces = false) (hd : 2 * N.2.1 + 202 ≤ d) (x0 : Nat) (x1 : Nat) (x2 : Nat) (x3 : Int32) (Kr : Int32 → tM → Prop) (K : Nat → Nat → tM → Prop) (R : Int32 → Nat → Nat → tM → Prop) (k n : Nat) (s : tM) (h : v_L2_law_906 N x0 x1 x2 x3 Kr K R k n s) (hK : ∀ (k n : Nat) (s : tM), K k n s → xF G l kL (d + 1) k n (tQ G g wi Kr tNo) 1166 [none, none, none, none] [] (tH G g s)) (hR : ∀ (z3 : Int32) (k n : Nat) (s : tM), R z3 k n s → xF G l kL (d + 1) k n (tQ G g wi Kr tNo) 18 [some (rfv x0), some (rfv x1), some (rfv x2), some (.int z3)] [] (tH G g s)) : xF G l kL (d + 1) k n (tQ G g wi Kr tNo) 906 [some (rfv x0), some (rfv x1), some (rfv x2), some (.int x3)] [] (tH G g s) := by
  unfold v_L2_law_906 at h
  refine t_aload_1 dL_law_906 ?_
  obtain ⟨e103, h⟩ := h
  refine t_cVi (As := []) rfl cv_L_134 rfl e103 rfl rfl (xrm4 (Nat.le_of_ble_eq_true rfl)) dL_law_907 (e_X0_forget (by omega) h) ⟨Nat.zero_le _, Nat.zero_le _⟩ (fun _ _ _ h => h.elim) (fun x101 s102 h => ?_)
  refine t_aload_2 dL_law_910 ?_
  obtain ⟨e104, h⟩ := h
  refine t_mV (As := []) rfl cv_L_137 xcl_M.1 e104 rfl rfl (xrm4 (Nat.le_of_ble_eq_true rfl)) dL_law_911 (c_forget (mInj_br e104) (by (try dsimp only); omega) h) (fun x105 g106 h => ?_)
  refine t_gen h (fun s107 w108 h => ?_)
  refine x_icmp_eq 1160 dL_law_914 (by decide) (fun c109 => ?_) (fun c109 => ?_)
  · have h := h.1 c109
    refine x_iinc_3 (v := 6) dL_law_1160 (by decide) (by decide) xN2_f ?_
    have h := h _ rfl
    refine x_goto 18 dL_law_1163 (by decide) ?_
    exact x_le (xLe_cons (xLe_cons (xLe_cons (xLe_cons (xLe_nil))))) (hR _ _ _ _ h)
  · have h := h.2 c109
    refine x_iconst (v := 0) dL_law_917 (by decide) ?_
    exact x_zret0 dL_law_918 rfl (Or.inl ⟨_, _, h, rfl, rfl⟩)
def v_L2_law_873 (N : tP) (x0 : Nat) (x1 : Nat) (x2 : Nat) (x3 : Int32) (Kr : Int32 → tM → Prop) (K : Nat → Nat → tM → Prop) (R : Int32 → Nat → Nat → tM → Prop) (k n : Nat) (s : tM) : Prop :=
  (x0 = N.2.2 202 ∧ (vp_in (x3 + 1) (N.2.2 203 - 1) ∧ (vp_in (x3 + 2) (N.2.2 203 - 1) ∧ (tO s 0 x1 ∧ (v_X0_heard x1 (scr N (x3 + 1).toNatClampNeg) (scr N (x3 + 2).toNatClampNeg) s (fun x104 s105 => (tMod s105 x2 ∧ (w_heard (scr N (x3 + 1).toNatClampNeg) (scr N (x3 + 2).toNatClampNeg) (sM s105 x2) (fun x108 g109 => (∀ s110 : tM, s110 = sP s105 x2 g109 → ((x104 = x108 → (∀ x113 : Int32, x113 = x3 + 6 → (R x113 k n s110))) ∧ (¬ x104 = x108 → (Kr 0 s110)))))))))))))
theorem e_L2_law_873 {G : xG} {l : Launch} {g : xH} {d : Nat} {N : tP} (hN : tNs G N) (hl : l.stackTraces = false) (hd : 2 * N.2.1 + 202 ≤ d) (x0 : Nat) (x1 : Nat) (x2 : Nat) (x3 : Int32) (Kr : Int32 → tM → Prop) (K : Nat → Nat → tM → Prop) (R : Int32 → Nat → Nat → tM → Prop) (k n : Nat) (s : tM) (h : v_L2_law_873 N x0 x1 x2 x3 Kr K R k n s) (hK : ∀ (k n : Nat) (s : tM), K k n s → xF G l kL (d + 1) k n (tQ G g wi Kr tNo) 1166 [none, none, none, none] [] (tH G g s)) (hR : ∀ (z3 : Int32) (k n : Nat) (s : tM), R z3 k n s → xF G l kL (d + 1) k n (tQ G g wi Kr tNo) 18 [some (rfv x0), some (rfv x1), some (rfv x2), some (.int z3)] [] (tH G g s)) : xF G l kL (d + 1) k n (tQ G g wi Kr tNo) 873 [some (rfv x0), some (rfv x1), some (rfv x2), some (.int x3)] [] (tH G g s) := by
  unfold v_L2_law_873 at h
  refine t_aload_1 dL_law_873 ?_
  refine t_aload_0 dL_law_874 ?_
  refine x_iload_3 dL_law_875 ?_
  refine x_iconst (v := 1) dL_law_876 (by decide) ?_
  refine x_iadd dL_law_877 ?_
  obtain ⟨e101, h⟩ := h
  obtain ⟨e102, h⟩ := h
  refine t_scrI e101 hN dL_law_878 e102 ?_
  refine t_aload_0 dL_law_879 ?_
  refine x_iload_3 dL_law_880 ?_
  refine x_iconst (v := 2) dL_law_881 (by decide) ?_
  refine x_iadd dL_law_882 ?_
  obtain ⟨e103, h⟩ := h
  refine t_scrI e101 hN dL_law_883 e103 ?_
  obtain ⟨e106, h⟩ := h
  refine t_cVi (As := [_, _]) rfl cv_L_130 rfl e106 rfl rfl (xrm4 (Nat.le_of_ble_eq_true rfl)) dL_law_884 (e_X0_heard (by omega) h) ⟨Nat.zero_le _, Nat.zero_le _⟩ (fun _ _ _ h => h.elim) (fun x104 s105 h => ?_)
  refine t_aload_2 dL_law_887 ?_
  refine t_aload_0 dL_law_888 ?_
  refine x_iload_3 dL_law_889 ?_
  refine x_iconst (v := 1) dL_law_890 (by decide) ?_
  refine x_iadd dL_law_891 ?_
  refine t_scrI e101 hN dL_law_892 e102 ?_
  refine t_aload_0 dL_law_893 ?_
  refine x_iload_3 dL_law_894 ?_
  refine x_iconst (v := 2) dL_law_895 (by decide) ?_
  refine x_iadd dL_law_896 ?_
  refine t_scrI e101 hN dL_law_897 e103 ?_
  obtain ⟨e107, h⟩ := h
  refine t_mV (As := [_, _]) rfl cv_L_133 xcl_M.1 e107 rfl rfl (xrm4 (Nat.le_of_ble_eq_true rfl)) dL_law_898 (c_heard (mInj_br e107) (by (try dsimp only); omega) h) (fun x108 g109 h => ?_)
  refine t_gen h (fun s110 w111 h => ?_)
  refine x_icmp_eq 1160 dL_law_901 (by decide) (fun c112 => ?_) (fun c112 => ?_)
  · have h := h.1 c112
    refine x_iinc_3 (v := 6) dL_law_1160 (by decide) (by decide) xN2_f ?_
    have h := h _ rfl
    refine x_goto 18 dL_law_1163 (by decide) ?_
    exact x_le (xLe_cons (xLe_cons (xLe_cons (xLe_cons (xLe_nil))))) (hR _ _ _ _ h)
  · have h := h.2 c112
    refine x_iconst (v := 0) dL_law_904 (by decide) ?_
    exact x_zret0 dL_law_905 rfl (Or.inl ⟨_, _, h, rfl, rfl⟩)
def v_L2_law_850 (N : tP) (x0 : Nat) (x1 : Nat) (x2 : Nat) (x3 : Int32) (Kr : Int32 → tM → Prop) (K : Nat → Nat → tM → Prop) (R : Int32 → Nat → Nat → tM → Prop) (k n : Nat) (s : tM) : Prop :=
  (x0 = N.2.2 202 ∧ (vp_in (x3 + 1) (N.2.2 203 - 1) ∧ (tO s 0 x1 ∧ (v_X0_parallels N x1 (scr N (x3 + 1).toNatClampNeg) s (fun x103 s104 => (tMod s104 x2 ∧ (w_parallels (N.1, N.2.1) (scr N (x3 + 1).toNatClampNeg) (sM s104 x2) (fun x107 g108 => (∀ s109 : tM, s109 = sP s104 x2 g108 → ((x103 = x107 → (∀ x112 : Int32, x112 = x3 + 6 → (R x112 k n s109))) ∧ (¬ x103 = x107 → (Kr 0 s109))))))))))))
theorem e_L2_law_850 {G : xG} {l : Launch} {g : xH} {d : Nat} {N : tP} (hN : tNs G N) (hl : l.stackTraces = false) (hd : 2 * N.2.1 + 202 ≤ d) (x0 : Nat) (x1 : Nat) (x2 : Nat) (x3 : Int32) (Kr : Int32 → tM → Prop) (K : Nat → Nat → tM → Prop) (R : Int32 → Nat → Nat → tM → Prop) (k n : Nat) (s : tM) (h : v_L2_law_850 N x0 x1 x2 x3 Kr K R k n s) (hK : ∀ (k n : Nat) (s : tM), K k n s → xF G l kL (d + 1) k n (tQ G g wi Kr tNo) 1166 [none, none, none, none] [] (tH G g s)) (hR : ∀ (z3 : Int32) (k n : Nat) (s : tM), R z3 k n s → xF G l kL (d + 1) k n (tQ G g wi Kr tNo) 18 [some (rfv x0), some (rfv x1), some (rfv x2), some (.int z3)] [] (tH G g s)) : xF G l kL (d + 1) k n (tQ G g wi Kr tNo) 850 [some (rfv x0), some (rfv x1), some (rfv x2), some (.int x3)] [] (tH G g s) := by
  unfold v_L2_law_850 at h
  refine t_aload_1 dL_law_850 ?_
  refine t_aload_0 dL_law_851 ?_
  refine x_iload_3 dL_law_852 ?_
  refine x_iconst (v := 1) dL_law_853 (by decide) ?_
  refine x_iadd dL_law_854 ?_
  obtain ⟨e101, h⟩ := h
  obtain ⟨e102, h⟩ := h
  refine t_scrI e101 hN dL_law_855 e102 ?_
  obtain ⟨e105, h⟩ := h
  refine t_cVi (As := [_]) rfl cv_L_126 rfl e105 rfl rfl (xrm4 (Nat.le_of_ble_eq_true rfl)) dL_law_856 (e_X0_parallels hN (by omega) h) ⟨Nat.zero_le _, Nat.zero_le _⟩ (fun _ _ _ h => h.elim) (fun x103 s104 h => ?_)
  refine t_aload_2 dL_law_859 ?_
  refine t_aload_0 dL_law_860 ?_
  refine x_iload_3 dL_law_861 ?_
  refine x_iconst (v := 1) dL_law_862 (by decide) ?_
  refine x_iadd dL_law_863 ?_
  refine t_scrI e101 hN dL_law_864 e102 ?_
  obtain ⟨e106, h⟩ := h
  refine t_mV (As := [_]) rfl cv_L_129 xcl_M.1 e106 rfl rfl (xrm4 (Nat.le_of_ble_eq_true rfl)) dL_law_865 (c_parallels (mInj_br e106) (by (try dsimp only); omega) h) (fun x107 g108 h => ?_)
  refine t_gen h (fun s109 w110 h => ?_)
  refine x_icmp_eq 1160 dL_law_868 (by decide) (fun c111 => ?_) (fun c111 => ?_)
  · have h := h.1 c111
    refine x_iinc_3 (v := 6) dL_law_1160 (by decide) (by decide) xN2_f ?_
    have h := h _ rfl
    refine x_goto 18 dL_law_1163 (by decide) ?_
    exact x_le (xLe_cons (xLe_cons (xLe_cons (xLe_cons (xLe_nil))))) (hR _ _ _ _ h)
  · have h := h.2 c111
    refine x_iconst (v := 0) dL_law_871 (by decide) ?_
    exact x_zret0 dL_law_872 rfl (Or.inl ⟨_, _, h, rfl, rfl⟩)
def v_L2_law_817 (N : tP) (x0 : Nat) (x1 : Nat) (x2 : Nat) (x3 : Int32) (Kr : Int32 → tM → Prop) (K : Nat → Nat → tM → Prop) (R : Int32 → Nat → Nat → tM → Prop) (k n : Nat) (s : tM) : Prop :=
  (x0 = N.2.2 202 ∧ (vp_in (x3 + 1) (N.2.2 203 - 1) ∧ (vp_in (x3 + 2) (N.2.2 203 - 1) ∧ (tO s 0 x1 ∧ (v_X0_canon N x1 (scr N (x3 + 1).toNatClampNeg) (scr N (x3 + 2).toNatClampNeg) s (fun x104 s105 => (tMod s105 x2 ∧ (w_canon (N.1, N.2.1) (scr N (x3 + 1).toNatClampNeg) (scr N (x3 + 2).toNatClampNeg) (sM s105 x2) (fun x108 g109 => (∀ s110 : tM, s110 = sP s105 x2 g109 → ((x104 = x108 → (∀ x113 : Int32, x113 = x3 + 6 → (R x113 k n s110))) ∧ (¬ x104 = x108 → (Kr 0 s110)))))))))))))
theorem e_L2_law_817 {G : xG} {l : Launch} {g : xH} {d : Nat} {N : tP} (hN : tNs G N) (hl : l.stackTraces = false) (hd : 2 * N.2.1 + 202 ≤ d) (x0 : Nat) (x1 : Nat) (x2 : Nat) (x3 : Int32) (Kr : Int32 → tM → Prop) (K : Nat → Nat → tM → Prop) (R : Int32 → Nat → Nat → tM → Prop) (k n : Nat) (s : tM) (h : v_L2_law_817 N x0 x1 x2 x3 Kr K R k n s) (hK : ∀ (k n : Nat) (s : tM), K k n s → xF G l kL (d + 1) k n (tQ G g wi Kr tNo) 1166 [none, none, none, none] [] (tH G g s)) (hR : ∀ (z3 : Int32) (k n : Nat) (s : tM), R z3 k n s → xF G l kL (d + 1) k n (tQ G g wi Kr tNo) 18 [some (rfv x0), some (rfv x1), some (rfv x2), some (.int z3)] [] (tH G g s)) : xF G l kL (d + 1) k n (tQ G g wi Kr tNo) 817 [some (rfv x0), some (rfv x1), some (rfv x2), some (.int x3)] [] (tH G g s) := by
  unfold v_L2_law_817 at h
  refine t_aload_1 dL_law_817 ?_
  refine t_aload_0 dL_law_818 ?_
  refine x_iload_3 dL_law_819 ?_
  refine x_iconst (v := 1) dL_law_820 (by decide) ?_
  refine x_iadd dL_law_821 ?_
  obtain ⟨e101, h⟩ := h
  obtain ⟨e102, h⟩ := h
  refine t_scrI e101 hN dL_law_822 e102 ?_
  refine t_aload_0 dL_law_823 ?_
  refine x_iload_3 dL_law_824 ?_
  refine x_iconst (v := 2) dL_law_825 (by decide) ?_
  refine x_iadd dL_law_826 ?_
  obtain ⟨e103, h⟩ := h
  refine t_scrI e101 hN dL_law_827 e103 ?_
  obtain ⟨e106, h⟩ := h
  refine t_cVi (As := [_, _]) rfl cv_L_122 rfl e106 rfl rfl (xrm4 (Nat.le_of_ble_eq_true rfl)) dL_law_828 (e_X0_canon hN (by omega) h) ⟨Nat.zero_le _, Nat.zero_le _⟩ (fun _ _ _ h => h.elim) (fun x104 s105 h => ?_)
  refine t_aload_2 dL_law_831 ?_
  refine t_aload_0 dL_law_832 ?_
  refine x_iload_3 dL_law_833 ?_
  refine x_iconst (v := 1) dL_law_834 (by decide) ?_
  refine x_iadd dL_law_835 ?_
  refine t_scrI e101 hN dL_law_836 e102 ?_
  refine t_aload_0 dL_law_837 ?_
  refine x_iload_3 dL_law_838 ?_
  refine x_iconst (v := 2) dL_law_839 (by decide) ?_
  refine x_iadd dL_law_840 ?_
  refine t_scrI e101 hN dL_law_841 e103 ?_
  obtain ⟨e107, h⟩ := h
  refine t_mV (As := [_, _]) rfl cv_L_125 xcl_M.1 e107 rfl rfl (xrm4 (Nat.le_of_ble_eq_true rfl)) dL_law_842 (c_canon (mInj_br e107) (by (try dsimp only); omega) h) (fun x108 g109 h => ?_)
  refine t_gen h (fun s110 w111 h => ?_)
  refine x_icmp_eq 1160 dL_law_845 (by decide) (fun c112 => ?_) (fun c112 => ?_)
  · have h := h.1 c112
    refine x_iinc_3 (v := 6) dL_law_1160 (by decide) (by decide) xN2_f ?_
    have h := h _ rfl
    refine x_goto 18 dL_law_1163 (by decide) ?_
    exact x_le (xLe_cons (xLe_cons (xLe_cons (xLe_cons (xLe_nil))))) (hR _ _ _ _ h)
  · have h := h.2 c112
    refine x_iconst (v := 0) dL_law_848 (by decide) ?_
    exact x_zret0 dL_law_849 rfl (Or.inl ⟨_, _, h, rfl, rfl⟩)
def v_L2_law_784 (N : tP) (x0 : Nat) (x1 : Nat) (x2 : Nat) (x3 : Int32) (Kr : Int32 → tM → Prop) (K : Nat → Nat → tM → Prop) (R : Int32 → Nat → Nat → tM → Prop) (k n : Nat) (s : tM) : Prop :=
  (x0 = N.2.2 202 ∧ (vp_in (x3 + 1) (N.2.2 203 - 1) ∧ (vp_in (x3 + 2) (N.2.2 203 - 1) ∧ (tO s 0 x1 ∧ (v_X0_cheapest N x1 (scr N (x3 + 1).toNatClampNeg) (scr N (x3 + 2).toNatClampNeg) s (fun x104 s105 => (tMod s105 x2 ∧ (w_cheapest (N.1, N.2.1) (scr N (x3 + 1).toNatClampNeg) (scr N (x3 + 2).toNatClampNeg) (sM s105 x2) (fun x108 g109 => (∀ s110 : tM, s110 = sP s105 x2 g109 → ((x104 = x108 → (∀ x113 : Int32, x113 = x3 + 6 → (R x113 k n s110))) ∧ (¬ x104 = x108 → (Kr 0 s110)))))))))))))
theorem e_L2_law_784 {G : xG} {l : Launch} {g : xH} {d : Nat} {N : tP} (hN : tNs G N) (hl : l.stackTraces = false) (hd : 2 * N.2.1 + 202 ≤ d) (x0 : Nat) (x1 : Nat) (x2 : Nat) (x3 : Int32) (Kr : Int32 → tM → Prop) (K : Nat → Nat → tM → Prop) (R : Int32 → Nat → Nat → tM → Prop) (k n : Nat) (s : tM) (h : v_L2_law_784 N x0 x1 x2 x3 Kr K R k n s) (hK : ∀ (k n : Nat) (s : tM), K k n s → xF G l kL (d + 1) k n (tQ G g wi Kr tNo) 1166 [none, none, none, none] [] (tH G g s)) (hR : ∀ (z3 : Int32) (k n : Nat) (s : tM), R z3 k n s → xF G l kL (d + 1) k n (tQ G g wi Kr tNo) 18 [some (rfv x0), some (rfv x1), some (rfv x2), some (.int z3)] [] (tH G g s)) : xF G l kL (d + 1) k n (tQ G g wi Kr tNo) 784 [some (rfv x0), some (rfv x1), some (rfv x2), some (.int x3)] [] (tH G g s) := by
  unfold v_L2_law_784 at h
  refine t_aload_1 dL_law_784 ?_
  refine t_aload_0 dL_law_785 ?_
  refine x_iload_3 dL_law_786 ?_
  refine x_iconst (v := 1) dL_law_787 (by decide) ?_
  refine x_iadd dL_law_788 ?_
  obtain ⟨e101, h⟩ := h
  obtain ⟨e102, h⟩ := h
  refine t_scrI e101 hN dL_law_789 e102 ?_
  refine t_aload_0 dL_law_790 ?_
  refine x_iload_3 dL_law_791 ?_
  refine x_iconst (v := 2) dL_law_792 (by decide) ?_
  refine x_iadd dL_law_793 ?_
  obtain ⟨e103, h⟩ := h
  refine t_scrI e101 hN dL_law_794 e103 ?_
  obtain ⟨e106, h⟩ := h
  refine t_cVi (As := [_, _]) rfl cv_L_118 rfl e106 rfl rfl (xrm4 (Nat.le_of_ble_eq_true rfl)) dL_law_795 (e_X0_cheapest hN (by omega) h) ⟨Nat.zero_le _, Nat.zero_le _⟩ (fun _ _ _ h => h.elim) (fun x104 s105 h => ?_)
  refine t_aload_2 dL_law_798 ?_
  refine t_aload_0 dL_law_799 ?_
  refine x_iload_3 dL_law_800 ?_
  refine x_iconst (v := 1) dL_law_801 (by decide) ?_
  refine x_iadd dL_law_802 ?_
  refine t_scrI e101 hN dL_law_803 e102 ?_
  refine t_aload_0 dL_law_804 ?_
  refine x_iload_3 dL_law_805 ?_
  refine x_iconst (v := 2) dL_law_806 (by decide) ?_
  refine x_iadd dL_law_807 ?_
  refine t_scrI e101 hN dL_law_808 e103 ?_
  obtain ⟨e107, h⟩ := h
  refine t_mV (As := [_, _]) rfl cv_L_121 xcl_M.1 e107 rfl rfl (xrm4 (Nat.le_of_ble_eq_true rfl)) dL_law_809 (c_cheapest (mInj_br e107) (by (try dsimp only); omega) h) (fun x108 g109 h => ?_)
  refine t_gen h (fun s110 w111 h => ?_)
  refine x_icmp_eq 1160 dL_law_812 (by decide) (fun c112 => ?_) (fun c112 => ?_)
  · have h := h.1 c112
    refine x_iinc_3 (v := 6) dL_law_1160 (by decide) (by decide) xN2_f ?_
    have h := h _ rfl
    refine x_goto 18 dL_law_1163 (by decide) ?_
    exact x_le (xLe_cons (xLe_cons (xLe_cons (xLe_cons (xLe_nil))))) (hR _ _ _ _ h)
  · have h := h.2 c112
    refine x_iconst (v := 0) dL_law_815 (by decide) ?_
    exact x_zret0 dL_law_816 rfl (Or.inl ⟨_, _, h, rfl, rfl⟩)
def v_L2_law_761 (N : tP) (x0 : Nat) (x1 : Nat) (x2 : Nat) (x3 : Int32) (Kr : Int32 → tM → Prop) (K : Nat → Nat → tM → Prop) (R : Int32 → Nat → Nat → tM → Prop) (k n : Nat) (s : tM) : Prop :=
  (x0 = N.2.2 202 ∧ (vp_in (x3 + 1) (N.2.2 203 - 1) ∧ (tO s 0 x1 ∧ (v_X0_compass N x1 (scr N (x3 + 1).toNatClampNeg) s (fun x103 s104 => (tMod s104 x2 ∧ (w_compass (N.1, N.2.1) (scr N (x3 + 1).toNatClampNeg) (sM s104 x2) (fun x107 g108 => (∀ s109 : tM, s109 = sP s104 x2 g108 → ((x103 = x107 → (∀ x112 : Int32, x112 = x3 + 6 → (R x112 k n s109))) ∧ (¬ x103 = x107 → (Kr 0 s109))))))))))))
theorem e_L2_law_761 {G : xG} {l : Launch} {g : xH} {d : Nat} {N : tP} (hN : tNs G N) (hl : l.stackTraces = false) (hd : 2 * N.2.1 + 202 ≤ d) (x0 : Nat) (x1 : Nat) (x2 : Nat) (x3 : Int32) (Kr : Int32 → tM → Prop) (K : Nat → Nat → tM → Prop) (R : Int32 → Nat → Nat → tM → Prop) (k n : Nat) (s : tM) (h : v_L2_law_761 N x0 x1 x2 x3 Kr K R k n s) (hK : ∀ (k n : Nat) (s : tM), K k n s → xF G l kL (d + 1) k n (tQ G g wi Kr tNo) 1166 [none, none, none, none] [] (tH G g s)) (hR : ∀ (z3 : Int32) (k n : Nat) (s : tM), R z3 k n s → xF G l kL (d + 1) k n (tQ G g wi Kr tNo) 18 [some (rfv x0), some (rfv x1), some (rfv x2), some (.int z3)] [] (tH G g s)) : xF G l kL (d + 1) k n (tQ G g wi Kr tNo) 761 [some (rfv x0), some (rfv x1), some (rfv x2), some (.int x3)] [] (tH G g s) := by
  unfold v_L2_law_761 at h
  refine t_aload_1 dL_law_761 ?_
  refine t_aload_0 dL_law_762 ?_
  refine x_iload_3 dL_law_763 ?_
  refine x_iconst (v := 1) dL_law_764 (by decide) ?_
  refine x_iadd dL_law_765 ?_
  obtain ⟨e101, h⟩ := h
  obtain ⟨e102, h⟩ := h
  refine t_scrI e101 hN dL_law_766 e102 ?_
  obtain ⟨e105, h⟩ := h
  refine t_cVi (As := [_]) rfl cv_L_114 rfl e105 rfl rfl (xrm4 (Nat.le_of_ble_eq_true rfl)) dL_law_767 (e_X0_compass hN (by omega) h) ⟨Nat.zero_le _, Nat.zero_le _⟩ (fun _ _ _ h => h.elim) (fun x103 s104 h => ?_)
  refine t_aload_2 dL_law_770 ?_
  refine t_aload_0 dL_law_771 ?_
  refine x_iload_3 dL_law_772 ?_
  refine x_iconst (v := 1) dL_law_773 (by decide) ?_
  refine x_iadd dL_law_774 ?_
  refine t_scrI e101 hN dL_law_775 e102 ?_
  obtain ⟨e106, h⟩ := h
  refine t_mV (As := [_]) rfl cv_L_117 xcl_M.1 e106 rfl rfl (xrm4 (Nat.le_of_ble_eq_true rfl)) dL_law_776 (c_compass (mInj_br e106) (by (try dsimp only); omega) h) (fun x107 g108 h => ?_)
  refine t_gen h (fun s109 w110 h => ?_)
  refine x_icmp_eq 1160 dL_law_779 (by decide) (fun c111 => ?_) (fun c111 => ?_)
  · have h := h.1 c111
    refine x_iinc_3 (v := 6) dL_law_1160 (by decide) (by decide) xN2_f ?_
    have h := h _ rfl
    refine x_goto 18 dL_law_1163 (by decide) ?_
    exact x_le (xLe_cons (xLe_cons (xLe_cons (xLe_cons (xLe_nil))))) (hR _ _ _ _ h)
  · have h := h.2 c111
    refine x_iconst (v := 0) dL_law_782 (by decide) ?_
    exact x_zret0 dL_law_783 rfl (Or.inl ⟨_, _, h, rfl, rfl⟩)
def v_L2_law_738 (N : tP) (x0 : Nat) (x1 : Nat) (x2 : Nat) (x3 : Int32) (Kr : Int32 → tM → Prop) (K : Nat → Nat → tM → Prop) (R : Int32 → Nat → Nat → tM → Prop) (k n : Nat) (s : tM) : Prop :=
  (x0 = N.2.2 202 ∧ (vp_in (x3 + 1) (N.2.2 203 - 1) ∧ (tO s 0 x1 ∧ (v_X0_mend N x1 (scr N (x3 + 1).toNatClampNeg) s (fun x103 s104 => (tMod s104 x2 ∧ (w_mend (N.1, N.2.1) (scr N (x3 + 1).toNatClampNeg) (sM s104 x2) (fun x107 g108 => (∀ s109 : tM, s109 = sP s104 x2 g108 → ((x103 = x107 → (∀ x112 : Int32, x112 = x3 + 6 → (R x112 k n s109))) ∧ (¬ x103 = x107 → (Kr 0 s109))))))))))))
theorem e_L2_law_738 {G : xG} {l : Launch} {g : xH} {d : Nat} {N : tP} (hN : tNs G N) (hl : l.stackTraces = false) (hd : 2 * N.2.1 + 202 ≤ d) (x0 : Nat) (x1 : Nat) (x2 : Nat) (x3 : Int32) (Kr : Int32 → tM → Prop) (K : Nat → Nat → tM → Prop) (R : Int32 → Nat → Nat → tM → Prop) (k n : Nat) (s : tM) (h : v_L2_law_738 N x0 x1 x2 x3 Kr K R k n s) (hK : ∀ (k n : Nat) (s : tM), K k n s → xF G l kL (d + 1) k n (tQ G g wi Kr tNo) 1166 [none, none, none, none] [] (tH G g s)) (hR : ∀ (z3 : Int32) (k n : Nat) (s : tM), R z3 k n s → xF G l kL (d + 1) k n (tQ G g wi Kr tNo) 18 [some (rfv x0), some (rfv x1), some (rfv x2), some (.int z3)] [] (tH G g s)) : xF G l kL (d + 1) k n (tQ G g wi Kr tNo) 738 [some (rfv x0), some (rfv x1), some (rfv x2), some (.int x3)] [] (tH G g s) := by
  unfold v_L2_law_738 at h
  refine t_aload_1 dL_law_738 ?_
  refine t_aload_0 dL_law_739 ?_
  refine x_iload_3 dL_law_740 ?_
  refine x_iconst (v := 1) dL_law_741 (by decide) ?_
  refine x_iadd dL_law_742 ?_
  obtain ⟨e101, h⟩ := h
  obtain ⟨e102, h⟩ := h
  refine t_scrI e101 hN dL_law_743 e102 ?_
  obtain ⟨e105, h⟩ := h
  refine t_cVi (As := [_]) rfl cv_L_110 rfl e105 rfl rfl (xrm4 (Nat.le_of_ble_eq_true rfl)) dL_law_744 (e_X0_mend hN (by omega) h) ⟨Nat.zero_le _, Nat.zero_le _⟩ (fun _ _ _ h => h.elim) (fun x103 s104 h => ?_)
  refine t_aload_2 dL_law_747 ?_
  refine t_aload_0 dL_law_748 ?_
  refine x_iload_3 dL_law_749 ?_
  refine x_iconst (v := 1) dL_law_750 (by decide) ?_
  refine x_iadd dL_law_751 ?_
  refine t_scrI e101 hN dL_law_752 e102 ?_
  obtain ⟨e106, h⟩ := h
  refine t_mV (As := [_]) rfl cv_L_113 xcl_M.1 e106 rfl rfl (xrm4 (Nat.le_of_ble_eq_true rfl)) dL_law_753 (c_mend (mInj_br e106) (by (try dsimp only); omega) h) (fun x107 g108 h => ?_)
  refine t_gen h (fun s109 w110 h => ?_)
  refine x_icmp_eq 1160 dL_law_756 (by decide) (fun c111 => ?_) (fun c111 => ?_)
  · have h := h.1 c111
    refine x_iinc_3 (v := 6) dL_law_1160 (by decide) (by decide) xN2_f ?_
    have h := h _ rfl
    refine x_goto 18 dL_law_1163 (by decide) ?_
    exact x_le (xLe_cons (xLe_cons (xLe_cons (xLe_cons (xLe_nil))))) (hR _ _ _ _ h)
  · have h := h.2 c111
    refine x_iconst (v := 0) dL_law_759 (by decide) ?_
    exact x_zret0 dL_law_760 rfl (Or.inl ⟨_, _, h, rfl, rfl⟩)
def v_L2_law_724 (N : tP) (x0 : Nat) (x1 : Nat) (x2 : Nat) (x3 : Int32) (Kr : Int32 → tM → Prop) (K : Nat → Nat → tM → Prop) (R : Int32 → Nat → Nat → tM → Prop) (k n : Nat) (s : tM) : Prop :=
  (tO s 0 x1 ∧ (v_X0_ways N x1 s (fun x101 s102 => (tMod s102 x2 ∧ (w_ways (N.1, N.2.1) (sM s102 x2) (fun x105 g106 => (∀ s107 : tM, s107 = sP s102 x2 g106 → (((lg_cmp x101 x105) = 0 → (∀ x110 : Int32, x110 = x3 + 6 → (R x110 k n s107))) ∧ (¬ (lg_cmp x101 x105) = 0 → (Kr 0 s107))))))))))
theorem e_L2_law_724 {G : xG} {l : Launch} {g : xH} {d : Nat} {N : tP} (hN : tNs G N) (hl : l.stackTraces = false) (hd : 2 * N.2.1 + 202 ≤ d) (x0 : Nat) (x1 : Nat) (x2 : Nat) (x3 : Int32) (Kr : Int32 → tM → Prop) (K : Nat → Nat → tM → Prop) (R : Int32 → Nat → Nat → tM → Prop) (k n : Nat) (s : tM) (h : v_L2_law_724 N x0 x1 x2 x3 Kr K R k n s) (hK : ∀ (k n : Nat) (s : tM), K k n s → xF G l kL (d + 1) k n (tQ G g wi Kr tNo) 1166 [none, none, none, none] [] (tH G g s)) (hR : ∀ (z3 : Int32) (k n : Nat) (s : tM), R z3 k n s → xF G l kL (d + 1) k n (tQ G g wi Kr tNo) 18 [some (rfv x0), some (rfv x1), some (rfv x2), some (.int z3)] [] (tH G g s)) : xF G l kL (d + 1) k n (tQ G g wi Kr tNo) 724 [some (rfv x0), some (rfv x1), some (rfv x2), some (.int x3)] [] (tH G g s) := by
  unfold v_L2_law_724 at h
  refine t_aload_1 dL_law_724 ?_
  obtain ⟨e103, h⟩ := h
  refine t_cVl (As := []) rfl cv_L_105 rfl e103 rfl rfl (xrm4 (Nat.le_of_ble_eq_true rfl)) dL_law_725 (e_X0_ways hN (by omega) h) ⟨Nat.zero_le _, Nat.zero_le _⟩ (fun _ _ _ h => h.elim) (fun x101 s102 h => ?_)
  refine t_aload_2 dL_law_728 ?_
  obtain ⟨e104, h⟩ := h
  refine t_mVl (As := []) rfl cv_L_109 xcl_M.1 e104 rfl rfl (xrm4 (Nat.le_of_ble_eq_true rfl)) dL_law_729 (c_ways (mInj_br e104) (by (try dsimp only); omega) h) (fun x105 g106 h => ?_)
  refine t_gen h (fun s107 w108 h => ?_)
  refine x_lcmp dL_law_732 ?_
  refine x_if_eq 1160 dL_law_733 (by decide) (fun c109 => ?_) (fun c109 => ?_)
  · have h := h.1 c109
    refine x_iinc_3 (v := 6) dL_law_1160 (by decide) (by decide) xN2_f ?_
    have h := h _ rfl
    refine x_goto 18 dL_law_1163 (by decide) ?_
    exact x_le (xLe_cons (xLe_cons (xLe_cons (xLe_cons (xLe_nil))))) (hR _ _ _ _ h)
  · have h := h.2 c109
    refine x_iconst (v := 0) dL_law_736 (by decide) ?_
    exact x_zret0 dL_law_737 rfl (Or.inl ⟨_, _, h, rfl, rfl⟩)
def v_L2_law_711 (N : tP) (x0 : Nat) (x1 : Nat) (x2 : Nat) (x3 : Int32) (Kr : Int32 → tM → Prop) (K : Nat → Nat → tM → Prop) (R : Int32 → Nat → Nat → tM → Prop) (k n : Nat) (s : tM) : Prop :=
  (tO s 0 x1 ∧ (v_X0_richest N x1 s (fun x101 s102 => (tMod s102 x2 ∧ (w_richest (N.1, N.2.1) (sM s102 x2) (fun x105 g106 => (∀ s107 : tM, s107 = sP s102 x2 g106 → ((x101 = x105 → (∀ x110 : Int32, x110 = x3 + 6 → (R x110 k n s107))) ∧ (¬ x101 = x105 → (Kr 0 s107))))))))))
theorem e_L2_law_711 {G : xG} {l : Launch} {g : xH} {d : Nat} {N : tP} (hN : tNs G N) (hl : l.stackTraces = false) (hd : 2 * N.2.1 + 202 ≤ d) (x0 : Nat) (x1 : Nat) (x2 : Nat) (x3 : Int32) (Kr : Int32 → tM → Prop) (K : Nat → Nat → tM → Prop) (R : Int32 → Nat → Nat → tM → Prop) (k n : Nat) (s : tM) (h : v_L2_law_711 N x0 x1 x2 x3 Kr K R k n s) (hK : ∀ (k n : Nat) (s : tM), K k n s → xF G l kL (d + 1) k n (tQ G g wi Kr tNo) 1166 [none, none, none, none] [] (tH G g s)) (hR : ∀ (z3 : Int32) (k n : Nat) (s : tM), R z3 k n s → xF G l kL (d + 1) k n (tQ G g wi Kr tNo) 18 [some (rfv x0), some (rfv x1), some (rfv x2), some (.int z3)] [] (tH G g s)) : xF G l kL (d + 1) k n (tQ G g wi Kr tNo) 711 [some (rfv x0), some (rfv x1), some (rfv x2), some (.int x3)] [] (tH G g s) := by
  unfold v_L2_law_711 at h
  refine t_aload_1 dL_law_711 ?_
  obtain ⟨e103, h⟩ := h
  refine t_cVi (As := []) rfl cv_L_101 rfl e103 rfl rfl (xrm4 (Nat.le_of_ble_eq_true rfl)) dL_law_712 (e_X0_richest hN (by omega) h) ⟨Nat.zero_le _, Nat.zero_le _⟩ (fun _ _ _ h => h.elim) (fun x101 s102 h => ?_)
  refine t_aload_2 dL_law_715 ?_
  obtain ⟨e104, h⟩ := h
  refine t_mV (As := []) rfl cv_L_104 xcl_M.1 e104 rfl rfl (xrm4 (Nat.le_of_ble_eq_true rfl)) dL_law_716 (c_richest (mInj_br e104) (by (try dsimp only); omega) h) (fun x105 g106 h => ?_)
  refine t_gen h (fun s107 w108 h => ?_)
  refine x_icmp_eq 1160 dL_law_719 (by decide) (fun c109 => ?_) (fun c109 => ?_)
  · have h := h.1 c109
    refine x_iinc_3 (v := 6) dL_law_1160 (by decide) (by decide) xN2_f ?_
    have h := h _ rfl
    refine x_goto 18 dL_law_1163 (by decide) ?_
    exact x_le (xLe_cons (xLe_cons (xLe_cons (xLe_cons (xLe_nil))))) (hR _ _ _ _ h)
  · have h := h.2 c109
    refine x_iconst (v := 0) dL_law_722 (by decide) ?_
    exact x_zret0 dL_law_723 rfl (Or.inl ⟨_, _, h, rfl, rfl⟩)
def v_L2_law_678 (N : tP) (x0 : Nat) (x1 : Nat) (x2 : Nat) (x3 : Int32) (Kr : Int32 → tM → Prop) (K : Nat → Nat → tM → Prop) (R : Int32 → Nat → Nat → tM → Prop) (k n : Nat) (s : tM) : Prop :=
  (x0 = N.2.2 202 ∧ (vp_in (x3 + 1) (N.2.2 203 - 1) ∧ (vp_in (x3 + 2) (N.2.2 203 - 1) ∧ (tO s 0 x1 ∧ (v_X0_between N x1 (scr N (x3 + 1).toNatClampNeg) (scr N (x3 + 2).toNatClampNeg) s (fun x104 s105 => (tMod s105 x2 ∧ (w_between (N.1, N.2.1) (scr N (x3 + 1).toNatClampNeg) (scr N (x3 + 2).toNatClampNeg) (sM s105 x2) (fun x108 g109 => (∀ s110 : tM, s110 = sP s105 x2 g109 → ((x104 = x108 → (∀ x113 : Int32, x113 = x3 + 6 → (R x113 k n s110))) ∧ (¬ x104 = x108 → (Kr 0 s110)))))))))))))
theorem e_L2_law_678 {G : xG} {l : Launch} {g : xH} {d : Nat} {N : tP} (hN : tNs G N) (hl : l.stackTraces = false) (hd : 2 * N.2.1 + 202 ≤ d) (x0 : Nat) (x1 : Nat) (x2 : Nat) (x3 : Int32) (Kr : Int32 → tM → Prop) (K : Nat → Nat → tM → Prop) (R : Int32 → Nat → Nat → tM → Prop) (k n : Nat) (s : tM) (h : v_L2_law_678 N x0 x1 x2 x3 Kr K R k n s) (hK : ∀ (k n : Nat) (s : tM), K k n s → xF G l kL (d + 1) k n (tQ G g wi Kr tNo) 1166 [none, none, none, none] [] (tH G g s)) (hR : ∀ (z3 : Int32) (k n : Nat) (s : tM), R z3 k n s → xF G l kL (d + 1) k n (tQ G g wi Kr tNo) 18 [some (rfv x0), some (rfv x1), some (rfv x2), some (.int z3)] [] (tH G g s)) : xF G l kL (d + 1) k n (tQ G g wi Kr tNo) 678 [some (rfv x0), some (rfv x1), some (rfv x2), some (.int x3)] [] (tH G g s) := by
  unfold v_L2_law_678 at h
  refine t_aload_1 dL_law_678 ?_
  refine t_aload_0 dL_law_679 ?_
  refine x_iload_3 dL_law_680 ?_
  refine x_iconst (v := 1) dL_law_681 (by decide) ?_
  refine x_iadd dL_law_682 ?_
  obtain ⟨e101, h⟩ := h
  obtain ⟨e102, h⟩ := h
  refine t_scrI e101 hN dL_law_683 e102 ?_
  refine t_aload_0 dL_law_684 ?_
  refine x_iload_3 dL_law_685 ?_
  refine x_iconst (v := 2) dL_law_686 (by decide) ?_
  refine x_iadd dL_law_687 ?_
  obtain ⟨e103, h⟩ := h
  refine t_scrI e101 hN dL_law_688 e103 ?_
  obtain ⟨e106, h⟩ := h
  refine t_cVi (As := [_, _]) rfl cv_L_97 rfl e106 rfl rfl (xrm4 (Nat.le_of_ble_eq_true rfl)) dL_law_689 (e_X0_between hN (by omega) h) ⟨Nat.zero_le _, Nat.zero_le _⟩ (fun _ _ _ h => h.elim) (fun x104 s105 h => ?_)
  refine t_aload_2 dL_law_692 ?_
  refine t_aload_0 dL_law_693 ?_
  refine x_iload_3 dL_law_694 ?_
  refine x_iconst (v := 1) dL_law_695 (by decide) ?_
  refine x_iadd dL_law_696 ?_
  refine t_scrI e101 hN dL_law_697 e102 ?_
  refine t_aload_0 dL_law_698 ?_
  refine x_iload_3 dL_law_699 ?_
  refine x_iconst (v := 2) dL_law_700 (by decide) ?_
  refine x_iadd dL_law_701 ?_
  refine t_scrI e101 hN dL_law_702 e103 ?_
  obtain ⟨e107, h⟩ := h
  refine t_mV (As := [_, _]) rfl cv_L_100 xcl_M.1 e107 rfl rfl (xrm4 (Nat.le_of_ble_eq_true rfl)) dL_law_703 (c_between (mInj_br e107) (by (try dsimp only); omega) h) (fun x108 g109 h => ?_)
  refine t_gen h (fun s110 w111 h => ?_)
  refine x_icmp_eq 1160 dL_law_706 (by decide) (fun c112 => ?_) (fun c112 => ?_)
  · have h := h.1 c112
    refine x_iinc_3 (v := 6) dL_law_1160 (by decide) (by decide) xN2_f ?_
    have h := h _ rfl
    refine x_goto 18 dL_law_1163 (by decide) ?_
    exact x_le (xLe_cons (xLe_cons (xLe_cons (xLe_cons (xLe_nil))))) (hR _ _ _ _ h)
  · have h := h.2 c112
    refine x_iconst (v := 0) dL_law_709 (by decide) ?_
    exact x_zret0 dL_law_710 rfl (Or.inl ⟨_, _, h, rfl, rfl⟩)
def v_L2_law_655 (N : tP) (x0 : Nat) (x1 : Nat) (x2 : Nat) (x3 : Int32) (Kr : Int32 → tM → Prop) (K : Nat → Nat → tM → Prop) (R : Int32 → Nat → Nat → tM → Prop) (k n : Nat) (s : tM) : Prop :=
  (x0 = N.2.2 202 ∧ (vp_in (x3 + 1) (N.2.2 203 - 1) ∧ (tO s 0 x1 ∧ (v_X0_best N x1 (scr N (x3 + 1).toNatClampNeg) s (fun x103 s104 => (tMod s104 x2 ∧ (w_best (N.1, N.2.1) (scr N (x3 + 1).toNatClampNeg) (sM s104 x2) (fun x107 g108 => (∀ s109 : tM, s109 = sP s104 x2 g108 → ((x103 = x107 → (∀ x112 : Int32, x112 = x3 + 6 → (R x112 k n s109))) ∧ (¬ x103 = x107 → (Kr 0 s109))))))))))))
theorem e_L2_law_655 {G : xG} {l : Launch} {g : xH} {d : Nat} {N : tP} (hN : tNs G N) (hl : l.stackTraces = false) (hd : 2 * N.2.1 + 202 ≤ d) (x0 : Nat) (x1 : Nat) (x2 : Nat) (x3 : Int32) (Kr : Int32 → tM → Prop) (K : Nat → Nat → tM → Prop) (R : Int32 → Nat → Nat → tM → Prop) (k n : Nat) (s : tM) (h : v_L2_law_655 N x0 x1 x2 x3 Kr K R k n s) (hK : ∀ (k n : Nat) (s : tM), K k n s → xF G l kL (d + 1) k n (tQ G g wi Kr tNo) 1166 [none, none, none, none] [] (tH G g s)) (hR : ∀ (z3 : Int32) (k n : Nat) (s : tM), R z3 k n s → xF G l kL (d + 1) k n (tQ G g wi Kr tNo) 18 [some (rfv x0), some (rfv x1), some (rfv x2), some (.int z3)] [] (tH G g s)) : xF G l kL (d + 1) k n (tQ G g wi Kr tNo) 655 [some (rfv x0), some (rfv x1), some (rfv x2), some (.int x3)] [] (tH G g s) := by
  unfold v_L2_law_655 at h
  refine t_aload_1 dL_law_655 ?_
  refine t_aload_0 dL_law_656 ?_
  refine x_iload_3 dL_law_657 ?_
  refine x_iconst (v := 1) dL_law_658 (by decide) ?_
  refine x_iadd dL_law_659 ?_
  obtain ⟨e101, h⟩ := h
  obtain ⟨e102, h⟩ := h
  refine t_scrI e101 hN dL_law_660 e102 ?_
  obtain ⟨e105, h⟩ := h
  refine t_cVi (As := [_]) rfl cv_L_93 rfl e105 rfl rfl (xrm4 (Nat.le_of_ble_eq_true rfl)) dL_law_661 (e_X0_best hN (by omega) h) ⟨Nat.zero_le _, Nat.zero_le _⟩ (fun _ _ _ h => h.elim) (fun x103 s104 h => ?_)
  refine t_aload_2 dL_law_664 ?_
  refine t_aload_0 dL_law_665 ?_
  refine x_iload_3 dL_law_666 ?_
  refine x_iconst (v := 1) dL_law_667 (by decide) ?_
  refine x_iadd dL_law_668 ?_
  refine t_scrI e101 hN dL_law_669 e102 ?_
  obtain ⟨e106, h⟩ := h
  refine t_mV (As := [_]) rfl cv_L_96 xcl_M.1 e106 rfl rfl (xrm4 (Nat.le_of_ble_eq_true rfl)) dL_law_670 (c_best (mInj_br e106) (by (try dsimp only); omega) h) (fun x107 g108 h => ?_)
  refine t_gen h (fun s109 w110 h => ?_)
  refine x_icmp_eq 1160 dL_law_673 (by decide) (fun c111 => ?_) (fun c111 => ?_)
  · have h := h.1 c111
    refine x_iinc_3 (v := 6) dL_law_1160 (by decide) (by decide) xN2_f ?_
    have h := h _ rfl
    refine x_goto 18 dL_law_1163 (by decide) ?_
    exact x_le (xLe_cons (xLe_cons (xLe_cons (xLe_cons (xLe_nil))))) (hR _ _ _ _ h)
  · have h := h.2 c111
    refine x_iconst (v := 0) dL_law_676 (by decide) ?_
    exact x_zret0 dL_law_677 rfl (Or.inl ⟨_, _, h, rfl, rfl⟩)
def v_L2_law_642 (N : tP) (x0 : Nat) (x1 : Nat) (x2 : Nat) (x3 : Int32) (Kr : Int32 → tM → Prop) (K : Nat → Nat → tM → Prop) (R : Int32 → Nat → Nat → tM → Prop) (k n : Nat) (s : tM) : Prop :=
  (tO s 0 x1 ∧ (v_X0_undo x1 s (fun x101 s102 => (tMod s102 x2 ∧ (w_undo (N.1, N.2.1) (sM s102 x2) (fun x105 g106 => (∀ s107 : tM, s107 = sP s102 x2 g106 → ((x101 = x105 → (∀ x110 : Int32, x110 = x3 + 6 → (R x110 k n s107))) ∧ (¬ x101 = x105 → (Kr 0 s107))))))))))
theorem e_L2_law_642 {G : xG} {l : Launch} {g : xH} {d : Nat} {N : tP} (hN : tNs G N) (hl : l.stackTraces = false) (hd : 2 * N.2.1 + 202 ≤ d) (x0 : Nat) (x1 : Nat) (x2 : Nat) (x3 : Int32) (Kr : Int32 → tM → Prop) (K : Nat → Nat → tM → Prop) (R : Int32 → Nat → Nat → tM → Prop) (k n : Nat) (s : tM) (h : v_L2_law_642 N x0 x1 x2 x3 Kr K R k n s) (hK : ∀ (k n : Nat) (s : tM), K k n s → xF G l kL (d + 1) k n (tQ G g wi Kr tNo) 1166 [none, none, none, none] [] (tH G g s)) (hR : ∀ (z3 : Int32) (k n : Nat) (s : tM), R z3 k n s → xF G l kL (d + 1) k n (tQ G g wi Kr tNo) 18 [some (rfv x0), some (rfv x1), some (rfv x2), some (.int z3)] [] (tH G g s)) : xF G l kL (d + 1) k n (tQ G g wi Kr tNo) 642 [some (rfv x0), some (rfv x1), some (rfv x2), some (.int x3)] [] (tH G g s) := by
  unfold v_L2_law_642 at h
  refine t_aload_1 dL_law_642 ?_
  obtain ⟨e103, h⟩ := h
  refine t_cVi (As := []) rfl cv_L_89 rfl e103 rfl rfl (xrm4 (Nat.le_of_ble_eq_true rfl)) dL_law_643 (e_X0_undo (by omega) h) ⟨Nat.zero_le _, Nat.zero_le _⟩ (fun _ _ _ h => h.elim) (fun x101 s102 h => ?_)
  refine t_aload_2 dL_law_646 ?_
  obtain ⟨e104, h⟩ := h
  refine t_mV (As := []) rfl cv_L_92 xcl_M.1 e104 rfl rfl (xrm4 (Nat.le_of_ble_eq_true rfl)) dL_law_647 (c_undo (mInj_br e104) (by (try dsimp only); omega) h) (fun x105 g106 h => ?_)
  refine t_gen h (fun s107 w108 h => ?_)
  refine x_icmp_eq 1160 dL_law_650 (by decide) (fun c109 => ?_) (fun c109 => ?_)
  · have h := h.1 c109
    refine x_iinc_3 (v := 6) dL_law_1160 (by decide) (by decide) xN2_f ?_
    have h := h _ rfl
    refine x_goto 18 dL_law_1163 (by decide) ?_
    exact x_le (xLe_cons (xLe_cons (xLe_cons (xLe_cons (xLe_nil))))) (hR _ _ _ _ h)
  · have h := h.2 c109
    refine x_iconst (v := 0) dL_law_653 (by decide) ?_
    exact x_zret0 dL_law_654 rfl (Or.inl ⟨_, _, h, rfl, rfl⟩)
def v_L2_law_629 (N : tP) (x0 : Nat) (x1 : Nat) (x2 : Nat) (x3 : Int32) (Kr : Int32 → tM → Prop) (K : Nat → Nat → tM → Prop) (R : Int32 → Nat → Nat → tM → Prop) (k n : Nat) (s : tM) : Prop :=
  (tO s 0 x1 ∧ (v_X0_pass N x1 s (fun x101 s102 => (tMod s102 x2 ∧ (w_pass (N.1, N.2.1) (sM s102 x2) (fun x105 g106 => (∀ s107 : tM, s107 = sP s102 x2 g106 → ((x101 = x105 → (∀ x110 : Int32, x110 = x3 + 6 → (R x110 k n s107))) ∧ (¬ x101 = x105 → (Kr 0 s107))))))))))
theorem e_L2_law_629 {G : xG} {l : Launch} {g : xH} {d : Nat} {N : tP} (hN : tNs G N) (hl : l.stackTraces = false) (hd : 2 * N.2.1 + 202 ≤ d) (x0 : Nat) (x1 : Nat) (x2 : Nat) (x3 : Int32) (Kr : Int32 → tM → Prop) (K : Nat → Nat → tM → Prop) (R : Int32 → Nat → Nat → tM → Prop) (k n : Nat) (s : tM) (h : v_L2_law_629 N x0 x1 x2 x3 Kr K R k n s) (hK : ∀ (k n : Nat) (s : tM), K k n s → xF G l kL (d + 1) k n (tQ G g wi Kr tNo) 1166 [none, none, none, none] [] (tH G g s)) (hR : ∀ (z3 : Int32) (k n : Nat) (s : tM), R z3 k n s → xF G l kL (d + 1) k n (tQ G g wi Kr tNo) 18 [some (rfv x0), some (rfv x1), some (rfv x2), some (.int z3)] [] (tH G g s)) : xF G l kL (d + 1) k n (tQ G g wi Kr tNo) 629 [some (rfv x0), some (rfv x1), some (rfv x2), some (.int x3)] [] (tH G g s) := by
  unfold v_L2_law_629 at h
  refine t_aload_1 dL_law_629 ?_
  obtain ⟨e103, h⟩ := h
  refine t_cVi (As := []) rfl cv_L_85 rfl e103 rfl rfl (xrm4 (Nat.le_of_ble_eq_true rfl)) dL_law_630 (e_X0_pass hN (by omega) h) ⟨Nat.zero_le _, Nat.zero_le _⟩ (fun _ _ _ h => h.elim) (fun x101 s102 h => ?_)
  refine t_aload_2 dL_law_633 ?_
  obtain ⟨e104, h⟩ := h
  refine t_mV (As := []) rfl cv_L_88 xcl_M.1 e104 rfl rfl (xrm4 (Nat.le_of_ble_eq_true rfl)) dL_law_634 (c_pass (mInj_br e104) (by (try dsimp only); omega) h) (fun x105 g106 h => ?_)
  refine t_gen h (fun s107 w108 h => ?_)
  refine x_icmp_eq 1160 dL_law_637 (by decide) (fun c109 => ?_) (fun c109 => ?_)
  · have h := h.1 c109
    refine x_iinc_3 (v := 6) dL_law_1160 (by decide) (by decide) xN2_f ?_
    have h := h _ rfl
    refine x_goto 18 dL_law_1163 (by decide) ?_
    exact x_le (xLe_cons (xLe_cons (xLe_cons (xLe_cons (xLe_nil))))) (hR _ _ _ _ h)
  · have h := h.2 c109
    refine x_iconst (v := 0) dL_law_640 (by decide) ?_
    exact x_zret0 dL_law_641 rfl (Or.inl ⟨_, _, h, rfl, rfl⟩)
def v_L2_law_616 (N : tP) (x0 : Nat) (x1 : Nat) (x2 : Nat) (x3 : Int32) (Kr : Int32 → tM → Prop) (K : Nat → Nat → tM → Prop) (R : Int32 → Nat → Nat → tM → Prop) (k n : Nat) (s : tM) : Prop :=
  (tO s 0 x1 ∧ (v_X0_swap N x1 s (fun x101 s102 => (tMod s102 x2 ∧ (w_swap (N.1, N.2.1) (sM s102 x2) (fun x105 g106 => (∀ s107 : tM, s107 = sP s102 x2 g106 → ((x101 = x105 → (∀ x110 : Int32, x110 = x3 + 6 → (R x110 k n s107))) ∧ (¬ x101 = x105 → (Kr 0 s107))))))))))
theorem e_L2_law_616 {G : xG} {l : Launch} {g : xH} {d : Nat} {N : tP} (hN : tNs G N) (hl : l.stackTraces = false) (hd : 2 * N.2.1 + 202 ≤ d) (x0 : Nat) (x1 : Nat) (x2 : Nat) (x3 : Int32) (Kr : Int32 → tM → Prop) (K : Nat → Nat → tM → Prop) (R : Int32 → Nat → Nat → tM → Prop) (k n : Nat) (s : tM) (h : v_L2_law_616 N x0 x1 x2 x3 Kr K R k n s) (hK : ∀ (k n : Nat) (s : tM), K k n s → xF G l kL (d + 1) k n (tQ G g wi Kr tNo) 1166 [none, none, none, none] [] (tH G g s)) (hR : ∀ (z3 : Int32) (k n : Nat) (s : tM), R z3 k n s → xF G l kL (d + 1) k n (tQ G g wi Kr tNo) 18 [some (rfv x0), some (rfv x1), some (rfv x2), some (.int z3)] [] (tH G g s)) : xF G l kL (d + 1) k n (tQ G g wi Kr tNo) 616 [some (rfv x0), some (rfv x1), some (rfv x2), some (.int x3)] [] (tH G g s) := by
  unfold v_L2_law_616 at h
  refine t_aload_1 dL_law_616 ?_
  obtain ⟨e103, h⟩ := h
  refine t_cVi (As := []) rfl cv_L_81 rfl e103 rfl rfl (xrm4 (Nat.le_of_ble_eq_true rfl)) dL_law_617 (e_X0_swap hN (by omega) h) ⟨Nat.zero_le _, Nat.zero_le _⟩ (fun _ _ _ h => h.elim) (fun x101 s102 h => ?_)
  refine t_aload_2 dL_law_620 ?_
  obtain ⟨e104, h⟩ := h
  refine t_mV (As := []) rfl cv_L_84 xcl_M.1 e104 rfl rfl (xrm4 (Nat.le_of_ble_eq_true rfl)) dL_law_621 (c_swap (mInj_br e104) (by (try dsimp only); omega) h) (fun x105 g106 h => ?_)
  refine t_gen h (fun s107 w108 h => ?_)
  refine x_icmp_eq 1160 dL_law_624 (by decide) (fun c109 => ?_) (fun c109 => ?_)
  · have h := h.1 c109
    refine x_iinc_3 (v := 6) dL_law_1160 (by decide) (by decide) xN2_f ?_
    have h := h _ rfl
    refine x_goto 18 dL_law_1163 (by decide) ?_
    exact x_le (xLe_cons (xLe_cons (xLe_cons (xLe_cons (xLe_nil))))) (hR _ _ _ _ h)
  · have h := h.2 c109
    refine x_iconst (v := 0) dL_law_627 (by decide) ?_
    exact x_zret0 dL_law_628 rfl (Or.inl ⟨_, _, h, rfl, rfl⟩)
def v_L2_law_583 (N : tP) (x0 : Nat) (x1 : Nat) (x2 : Nat) (x3 : Int32) (Kr : Int32 → tM → Prop) (K : Nat → Nat → tM → Prop) (R : Int32 → Nat → Nat → tM → Prop) (k n : Nat) (s : tM) : Prop :=
  (x0 = N.2.2 202 ∧ (vp_in (x3 + 1) (N.2.2 203 - 1) ∧ (vp_in (x3 + 2) (N.2.2 203 - 1) ∧ (tO s 0 x1 ∧ (v_X0_shift x1 (scr N (x3 + 1).toNatClampNeg) (scr N (x3 + 2).toNatClampNeg) s (fun x104 s105 => (tMod s105 x2 ∧ (w_shift (N.1, N.2.1) (scr N (x3 + 1).toNatClampNeg) (scr N (x3 + 2).toNatClampNeg) (sM s105 x2) (fun x108 g109 => (∀ s110 : tM, s110 = sP s105 x2 g109 → ((x104 = x108 → (∀ x113 : Int32, x113 = x3 + 6 → (R x113 k n s110))) ∧ (¬ x104 = x108 → (Kr 0 s110)))))))))))))
theorem e_L2_law_583 {G : xG} {l : Launch} {g : xH} {d : Nat} {N : tP} (hN : tNs G N) (hl : l.stackTraces = false) (hd : 2 * N.2.1 + 202 ≤ d) (x0 : Nat) (x1 : Nat) (x2 : Nat) (x3 : Int32) (Kr : Int32 → tM → Prop) (K : Nat → Nat → tM → Prop) (R : Int32 → Nat → Nat → tM → Prop) (k n : Nat) (s : tM) (h : v_L2_law_583 N x0 x1 x2 x3 Kr K R k n s) (hK : ∀ (k n : Nat) (s : tM), K k n s → xF G l kL (d + 1) k n (tQ G g wi Kr tNo) 1166 [none, none, none, none] [] (tH G g s)) (hR : ∀ (z3 : Int32) (k n : Nat) (s : tM), R z3 k n s → xF G l kL (d + 1) k n (tQ G g wi Kr tNo) 18 [some (rfv x0), some (rfv x1), some (rfv x2), some (.int z3)] [] (tH G g s)) : xF G l kL (d + 1) k n (tQ G g wi Kr tNo) 583 [some (rfv x0), some (rfv x1), some (rfv x2), some (.int x3)] [] (tH G g s) := by
  unfold v_L2_law_583 at h
  refine t_aload_1 dL_law_583 ?_
  refine t_aload_0 dL_law_584 ?_
  refine x_iload_3 dL_law_585 ?_
  refine x_iconst (v := 1) dL_law_586 (by decide) ?_
  refine x_iadd dL_law_587 ?_
  obtain ⟨e101, h⟩ := h
  obtain ⟨e102, h⟩ := h
  refine t_scrI e101 hN dL_law_588 e102 ?_
  refine t_aload_0 dL_law_589 ?_
  refine x_iload_3 dL_law_590 ?_
  refine x_iconst (v := 2) dL_law_591 (by decide) ?_
  refine x_iadd dL_law_592 ?_
  obtain ⟨e103, h⟩ := h
  refine t_scrI e101 hN dL_law_593 e103 ?_
  obtain ⟨e106, h⟩ := h
  refine t_cVi (As := [_, _]) rfl cv_L_77 rfl e106 rfl rfl (xrm4 (Nat.le_of_ble_eq_true rfl)) dL_law_594 (e_X0_shift (by omega) h) ⟨Nat.zero_le _, Nat.zero_le _⟩ (fun _ _ _ h => h.elim) (fun x104 s105 h => ?_)
  refine t_aload_2 dL_law_597 ?_
  refine t_aload_0 dL_law_598 ?_
  refine x_iload_3 dL_law_599 ?_
  refine x_iconst (v := 1) dL_law_600 (by decide) ?_
  refine x_iadd dL_law_601 ?_
  refine t_scrI e101 hN dL_law_602 e102 ?_
  refine t_aload_0 dL_law_603 ?_
  refine x_iload_3 dL_law_604 ?_
  refine x_iconst (v := 2) dL_law_605 (by decide) ?_
  refine x_iadd dL_law_606 ?_
  refine t_scrI e101 hN dL_law_607 e103 ?_
  obtain ⟨e107, h⟩ := h
  refine t_mV (As := [_, _]) rfl cv_L_80 xcl_M.1 e107 rfl rfl (xrm4 (Nat.le_of_ble_eq_true rfl)) dL_law_608 (c_shift (mInj_br e107) (by (try dsimp only); omega) h) (fun x108 g109 h => ?_)
  refine t_gen h (fun s110 w111 h => ?_)
  refine x_icmp_eq 1160 dL_law_611 (by decide) (fun c112 => ?_) (fun c112 => ?_)
  · have h := h.1 c112
    refine x_iinc_3 (v := 6) dL_law_1160 (by decide) (by decide) xN2_f ?_
    have h := h _ rfl
    refine x_goto 18 dL_law_1163 (by decide) ?_
    exact x_le (xLe_cons (xLe_cons (xLe_cons (xLe_cons (xLe_nil))))) (hR _ _ _ _ h)
  · have h := h.2 c112
    refine x_iconst (v := 0) dL_law_614 (by decide) ?_
    exact x_zret0 dL_law_615 rfl (Or.inl ⟨_, _, h, rfl, rfl⟩)
def v_L2_law_550 (N : tP) (x0 : Nat) (x1 : Nat) (x2 : Nat) (x3 : Int32) (Kr : Int32 → tM → Prop) (K : Nat → Nat → tM → Prop) (R : Int32 → Nat → Nat → tM → Prop) (k n : Nat) (s : tM) : Prop :=
  (x0 = N.2.2 202 ∧ (vp_in (x3 + 1) (N.2.2 203 - 1) ∧ (vp_in (x3 + 2) (N.2.2 203 - 1) ∧ (tO s 0 x1 ∧ (v_X0_set x1 (scr N (x3 + 1).toNatClampNeg) (scr N (x3 + 2).toNatClampNeg) s (fun x104 s105 => (tMod s105 x2 ∧ (w_set (N.1, N.2.1) (scr N (x3 + 1).toNatClampNeg) (scr N (x3 + 2).toNatClampNeg) (sM s105 x2) (fun x108 g109 => (∀ s110 : tM, s110 = sP s105 x2 g109 → ((x104 = x108 → (∀ x113 : Int32, x113 = x3 + 6 → (R x113 k n s110))) ∧ (¬ x104 = x108 → (Kr 0 s110)))))))))))))
theorem e_L2_law_550 {G : xG} {l : Launch} {g : xH} {d : Nat} {N : tP} (hN : tNs G N) (hl : l.stackTraces = false) (hd : 2 * N.2.1 + 202 ≤ d) (x0 : Nat) (x1 : Nat) (x2 : Nat) (x3 : Int32) (Kr : Int32 → tM → Prop) (K : Nat → Nat → tM → Prop) (R : Int32 → Nat → Nat → tM → Prop) (k n : Nat) (s : tM) (h : v_L2_law_550 N x0 x1 x2 x3 Kr K R k n s) (hK : ∀ (k n : Nat) (s : tM), K k n s → xF G l kL (d + 1) k n (tQ G g wi Kr tNo) 1166 [none, none, none, none] [] (tH G g s)) (hR : ∀ (z3 : Int32) (k n : Nat) (s : tM), R z3 k n s → xF G l kL (d + 1) k n (tQ G g wi Kr tNo) 18 [some (rfv x0), some (rfv x1), some (rfv x2), some (.int z3)] [] (tH G g s)) : xF G l kL (d + 1) k n (tQ G g wi Kr tNo) 550 [some (rfv x0), some (rfv x1), some (rfv x2), some (.int x3)] [] (tH G g s) := by
  unfold v_L2_law_550 at h
  refine t_aload_1 dL_law_550 ?_
  refine t_aload_0 dL_law_551 ?_
  refine x_iload_3 dL_law_552 ?_
  refine x_iconst (v := 1) dL_law_553 (by decide) ?_
  refine x_iadd dL_law_554 ?_
  obtain ⟨e101, h⟩ := h
  obtain ⟨e102, h⟩ := h
  refine t_scrI e101 hN dL_law_555 e102 ?_
  refine t_aload_0 dL_law_556 ?_
  refine x_iload_3 dL_law_557 ?_
  refine x_iconst (v := 2) dL_law_558 (by decide) ?_
  refine x_iadd dL_law_559 ?_
  obtain ⟨e103, h⟩ := h
  refine t_scrI e101 hN dL_law_560 e103 ?_
  obtain ⟨e106, h⟩ := h
  refine t_cVi (As := [_, _]) rfl cv_L_73 rfl e106 rfl rfl (xrm4 (Nat.le_of_ble_eq_true rfl)) dL_law_561 (e_X0_set (by omega) h) ⟨Nat.zero_le _, Nat.zero_le _⟩ (fun _ _ _ h => h.elim) (fun x104 s105 h => ?_)
  refine t_aload_2 dL_law_564 ?_
  refine t_aload_0 dL_law_565 ?_
  refine x_iload_3 dL_law_566 ?_
  refine x_iconst (v := 1) dL_law_567 (by decide) ?_
  refine x_iadd dL_law_568 ?_
  refine t_scrI e101 hN dL_law_569 e102 ?_
  refine t_aload_0 dL_law_570 ?_
  refine x_iload_3 dL_law_571 ?_
  refine x_iconst (v := 2) dL_law_572 (by decide) ?_
  refine x_iadd dL_law_573 ?_
  refine t_scrI e101 hN dL_law_574 e103 ?_
  obtain ⟨e107, h⟩ := h
  refine t_mV (As := [_, _]) rfl cv_L_76 xcl_M.1 e107 rfl rfl (xrm4 (Nat.le_of_ble_eq_true rfl)) dL_law_575 (c_set (mInj_br e107) (by (try dsimp only); omega) h) (fun x108 g109 h => ?_)
  refine t_gen h (fun s110 w111 h => ?_)
  refine x_icmp_eq 1160 dL_law_578 (by decide) (fun c112 => ?_) (fun c112 => ?_)
  · have h := h.1 c112
    refine x_iinc_3 (v := 6) dL_law_1160 (by decide) (by decide) xN2_f ?_
    have h := h _ rfl
    refine x_goto 18 dL_law_1163 (by decide) ?_
    exact x_le (xLe_cons (xLe_cons (xLe_cons (xLe_cons (xLe_nil))))) (hR _ _ _ _ h)
  · have h := h.2 c112
    refine x_iconst (v := 0) dL_law_581 (by decide) ?_
    exact x_zret0 dL_law_582 rfl (Or.inl ⟨_, _, h, rfl, rfl⟩)
def v_L2_law_527 (N : tP) (x0 : Nat) (x1 : Nat) (x2 : Nat) (x3 : Int32) (Kr : Int32 → tM → Prop) (K : Nat → Nat → tM → Prop) (R : Int32 → Nat → Nat → tM → Prop) (k n : Nat) (s : tM) : Prop :=
  (x0 = N.2.2 202 ∧ (vp_in (x3 + 1) (N.2.2 203 - 1) ∧ (tO s 0 x1 ∧ (v_X0_force x1 (scr N (x3 + 1).toNatClampNeg) s (fun x103 s104 => (tMod s104 x2 ∧ (w_force (scr N (x3 + 1).toNatClampNeg) (sM s104 x2) (fun x107 g108 => (∀ s109 : tM, s109 = sP s104 x2 g108 → ((x103 = x107 → (∀ x112 : Int32, x112 = x3 + 6 → (R x112 k n s109))) ∧ (¬ x103 = x107 → (Kr 0 s109))))))))))))
theorem e_L2_law_527 {G : xG} {l : Launch} {g : xH} {d : Nat} {N : tP} (hN : tNs G N) (hl : l.stackTraces = false) (hd : 2 * N.2.1 + 202 ≤ d) (x0 : Nat) (x1 : Nat) (x2 : Nat) (x3 : Int32) (Kr : Int32 → tM → Prop) (K : Nat → Nat → tM → Prop) (R : Int32 → Nat → Nat → tM → Prop) (k n : Nat) (s : tM) (h : v_L2_law_527 N x0 x1 x2 x3 Kr K R k n s) (hK : ∀ (k n : Nat) (s : tM), K k n s → xF G l kL (d + 1) k n (tQ G g wi Kr tNo) 1166 [none, none, none, none] [] (tH G g s)) (hR : ∀ (z3 : Int32) (k n : Nat) (s : tM), R z3 k n s → xF G l kL (d + 1) k n (tQ G g wi Kr tNo) 18 [some (rfv x0), some (rfv x1), some (rfv x2), some (.int z3)] [] (tH G g s)) : xF G l kL (d + 1) k n (tQ G g wi Kr tNo) 527 [some (rfv x0), some (rfv x1), some (rfv x2), some (.int x3)] [] (tH G g s) := by
  unfold v_L2_law_527 at h
  refine t_aload_1 dL_law_527 ?_
  refine t_aload_0 dL_law_528 ?_
  refine x_iload_3 dL_law_529 ?_
  refine x_iconst (v := 1) dL_law_530 (by decide) ?_
  refine x_iadd dL_law_531 ?_
  obtain ⟨e101, h⟩ := h
  obtain ⟨e102, h⟩ := h
  refine t_scrI e101 hN dL_law_532 e102 ?_
  obtain ⟨e105, h⟩ := h
  refine t_cVi (As := [_]) rfl cv_L_69 rfl e105 rfl rfl (xrm4 (Nat.le_of_ble_eq_true rfl)) dL_law_533 (e_X0_force (by omega) h) ⟨Nat.zero_le _, Nat.zero_le _⟩ (fun _ _ _ h => h.elim) (fun x103 s104 h => ?_)
  refine t_aload_2 dL_law_536 ?_
  refine t_aload_0 dL_law_537 ?_
  refine x_iload_3 dL_law_538 ?_
  refine x_iconst (v := 1) dL_law_539 (by decide) ?_
  refine x_iadd dL_law_540 ?_
  refine t_scrI e101 hN dL_law_541 e102 ?_
  obtain ⟨e106, h⟩ := h
  refine t_mV (As := [_]) rfl cv_L_72 xcl_M.1 e106 rfl rfl (xrm4 (Nat.le_of_ble_eq_true rfl)) dL_law_542 (c_force (mInj_br e106) (by (try dsimp only); omega) h) (fun x107 g108 h => ?_)
  refine t_gen h (fun s109 w110 h => ?_)
  refine x_icmp_eq 1160 dL_law_545 (by decide) (fun c111 => ?_) (fun c111 => ?_)
  · have h := h.1 c111
    refine x_iinc_3 (v := 6) dL_law_1160 (by decide) (by decide) xN2_f ?_
    have h := h _ rfl
    refine x_goto 18 dL_law_1163 (by decide) ?_
    exact x_le (xLe_cons (xLe_cons (xLe_cons (xLe_cons (xLe_nil))))) (hR _ _ _ _ h)
  · have h := h.2 c111
    refine x_iconst (v := 0) dL_law_548 (by decide) ?_
    exact x_zret0 dL_law_549 rfl (Or.inl ⟨_, _, h, rfl, rfl⟩)
def v_L2_law_514 (N : tP) (x0 : Nat) (x1 : Nat) (x2 : Nat) (x3 : Int32) (Kr : Int32 → tM → Prop) (K : Nat → Nat → tM → Prop) (R : Int32 → Nat → Nat → tM → Prop) (k n : Nat) (s : tM) : Prop :=
  (tO s 0 x1 ∧ (v_X0_stopped x1 s (fun x101 s102 => (tMod s102 x2 ∧ (w_stopped (sM s102 x2) (fun x105 g106 => (∀ s107 : tM, s107 = sP s102 x2 g106 → ((x101 = x105 → (∀ x110 : Int32, x110 = x3 + 6 → (R x110 k n s107))) ∧ (¬ x101 = x105 → (Kr 0 s107))))))))))
theorem e_L2_law_514 {G : xG} {l : Launch} {g : xH} {d : Nat} {N : tP} (hN : tNs G N) (hl : l.stackTraces = false) (hd : 2 * N.2.1 + 202 ≤ d) (x0 : Nat) (x1 : Nat) (x2 : Nat) (x3 : Int32) (Kr : Int32 → tM → Prop) (K : Nat → Nat → tM → Prop) (R : Int32 → Nat → Nat → tM → Prop) (k n : Nat) (s : tM) (h : v_L2_law_514 N x0 x1 x2 x3 Kr K R k n s) (hK : ∀ (k n : Nat) (s : tM), K k n s → xF G l kL (d + 1) k n (tQ G g wi Kr tNo) 1166 [none, none, none, none] [] (tH G g s)) (hR : ∀ (z3 : Int32) (k n : Nat) (s : tM), R z3 k n s → xF G l kL (d + 1) k n (tQ G g wi Kr tNo) 18 [some (rfv x0), some (rfv x1), some (rfv x2), some (.int z3)] [] (tH G g s)) : xF G l kL (d + 1) k n (tQ G g wi Kr tNo) 514 [some (rfv x0), some (rfv x1), some (rfv x2), some (.int x3)] [] (tH G g s) := by
  unfold v_L2_law_514 at h
  refine t_aload_1 dL_law_514 ?_
  obtain ⟨e103, h⟩ := h
  refine t_cVi (As := []) rfl cv_L_65 rfl e103 rfl rfl (xrm4 (Nat.le_of_ble_eq_true rfl)) dL_law_515 (e_X0_stopped (by omega) h) ⟨Nat.zero_le _, Nat.zero_le _⟩ (fun _ _ _ h => h.elim) (fun x101 s102 h => ?_)
  refine t_aload_2 dL_law_518 ?_
  obtain ⟨e104, h⟩ := h
  refine t_mV (As := []) rfl cv_L_68 xcl_M.1 e104 rfl rfl (xrm4 (Nat.le_of_ble_eq_true rfl)) dL_law_519 (c_stopped (mInj_br e104) (by (try dsimp only); omega) h) (fun x105 g106 h => ?_)
  refine t_gen h (fun s107 w108 h => ?_)
  refine x_icmp_eq 1160 dL_law_522 (by decide) (fun c109 => ?_) (fun c109 => ?_)
  · have h := h.1 c109
    refine x_iinc_3 (v := 6) dL_law_1160 (by decide) (by decide) xN2_f ?_
    have h := h _ rfl
    refine x_goto 18 dL_law_1163 (by decide) ?_
    exact x_le (xLe_cons (xLe_cons (xLe_cons (xLe_cons (xLe_nil))))) (hR _ _ _ _ h)
  · have h := h.2 c109
    refine x_iconst (v := 0) dL_law_525 (by decide) ?_
    exact x_zret0 dL_law_526 rfl (Or.inl ⟨_, _, h, rfl, rfl⟩)
def v_L2_law_501 (N : tP) (x0 : Nat) (x1 : Nat) (x2 : Nat) (x3 : Int32) (Kr : Int32 → tM → Prop) (K : Nat → Nat → tM → Prop) (R : Int32 → Nat → Nat → tM → Prop) (k n : Nat) (s : tM) : Prop :=
  (tO s 0 x1 ∧ (v_X0_fault x1 s (fun x101 s102 => (tMod s102 x2 ∧ (w_fault (sM s102 x2) (fun x105 g106 => (∀ s107 : tM, s107 = sP s102 x2 g106 → ((x101 = x105 → (∀ x110 : Int32, x110 = x3 + 6 → (R x110 k n s107))) ∧ (¬ x101 = x105 → (Kr 0 s107))))))))))
theorem e_L2_law_501 {G : xG} {l : Launch} {g : xH} {d : Nat} {N : tP} (hN : tNs G N) (hl : l.stackTraces = false) (hd : 2 * N.2.1 + 202 ≤ d) (x0 : Nat) (x1 : Nat) (x2 : Nat) (x3 : Int32) (Kr : Int32 → tM → Prop) (K : Nat → Nat → tM → Prop) (R : Int32 → Nat → Nat → tM → Prop) (k n : Nat) (s : tM) (h : v_L2_law_501 N x0 x1 x2 x3 Kr K R k n s) (hK : ∀ (k n : Nat) (s : tM), K k n s → xF G l kL (d + 1) k n (tQ G g wi Kr tNo) 1166 [none, none, none, none] [] (tH G g s)) (hR : ∀ (z3 : Int32) (k n : Nat) (s : tM), R z3 k n s → xF G l kL (d + 1) k n (tQ G g wi Kr tNo) 18 [some (rfv x0), some (rfv x1), some (rfv x2), some (.int z3)] [] (tH G g s)) : xF G l kL (d + 1) k n (tQ G g wi Kr tNo) 501 [some (rfv x0), some (rfv x1), some (rfv x2), some (.int x3)] [] (tH G g s) := by
  unfold v_L2_law_501 at h
  refine t_aload_1 dL_law_501 ?_
  obtain ⟨e103, h⟩ := h
  refine t_cVi (As := []) rfl cv_L_61 rfl e103 rfl rfl (xrm4 (Nat.le_of_ble_eq_true rfl)) dL_law_502 (e_X0_fault (by omega) h) ⟨Nat.zero_le _, Nat.zero_le _⟩ (fun _ _ _ h => h.elim) (fun x101 s102 h => ?_)
  refine t_aload_2 dL_law_505 ?_
  obtain ⟨e104, h⟩ := h
  refine t_mV (As := []) rfl cv_L_64 xcl_M.1 e104 rfl rfl (xrm4 (Nat.le_of_ble_eq_true rfl)) dL_law_506 (c_fault (mInj_br e104) (by (try dsimp only); omega) h) (fun x105 g106 h => ?_)
  refine t_gen h (fun s107 w108 h => ?_)
  refine x_icmp_eq 1160 dL_law_509 (by decide) (fun c109 => ?_) (fun c109 => ?_)
  · have h := h.1 c109
    refine x_iinc_3 (v := 6) dL_law_1160 (by decide) (by decide) xN2_f ?_
    have h := h _ rfl
    refine x_goto 18 dL_law_1163 (by decide) ?_
    exact x_le (xLe_cons (xLe_cons (xLe_cons (xLe_cons (xLe_nil))))) (hR _ _ _ _ h)
  · have h := h.2 c109
    refine x_iconst (v := 0) dL_law_512 (by decide) ?_
    exact x_zret0 dL_law_513 rfl (Or.inl ⟨_, _, h, rfl, rfl⟩)
def v_L2_law_488 (N : tP) (x0 : Nat) (x1 : Nat) (x2 : Nat) (x3 : Int32) (Kr : Int32 → tM → Prop) (K : Nat → Nat → tM → Prop) (R : Int32 → Nat → Nat → tM → Prop) (k n : Nat) (s : tM) : Prop :=
  (∃ c103 c104 : Nat, c103 ≤ k ∧ c104 ≤ n ∧ (tO s 0 x1 ∧ (v_X0_orders N x1 c103 c104 s (fun x101 s102 => (tMod s102 x2 ∧ (w_orders (N.1, N.2.1) (sM s102 x2) (fun x109 g110 => (∀ s111 : tM, s111 = sP s102 x2 g110 → ((x101 = x109 → (∀ x114 : Int32, x114 = x3 + 6 → (R x114 (k - c103) (n - c104) s111))) ∧ (¬ x101 = x109 → (Kr 0 s111)))))))))))
theorem e_L2_law_488 {G : xG} {l : Launch} {g : xH} {d : Nat} {N : tP} (hN : tNs G N) (hl : l.stackTraces = false) (hd : 2 * N.2.1 + 202 ≤ d) (x0 : Nat) (x1 : Nat) (x2 : Nat) (x3 : Int32) (Kr : Int32 → tM → Prop) (K : Nat → Nat → tM → Prop) (R : Int32 → Nat → Nat → tM → Prop) (k n : Nat) (s : tM) (h : v_L2_law_488 N x0 x1 x2 x3 Kr K R k n s) (hK : ∀ (k n : Nat) (s : tM), K k n s → xF G l kL (d + 1) k n (tQ G g wi Kr tNo) 1166 [none, none, none, none] [] (tH G g s)) (hR : ∀ (z3 : Int32) (k n : Nat) (s : tM), R z3 k n s → xF G l kL (d + 1) k n (tQ G g wi Kr tNo) 18 [some (rfv x0), some (rfv x1), some (rfv x2), some (.int z3)] [] (tH G g s)) : xF G l kL (d + 1) k n (tQ G g wi Kr tNo) 488 [some (rfv x0), some (rfv x1), some (rfv x2), some (.int x3)] [] (tH G g s) := by
  unfold v_L2_law_488 at h
  refine t_aload_1 dL_law_488 ?_
  obtain ⟨c103, c104, e105, e106, h⟩ := h
  obtain ⟨e107, h⟩ := h
  refine t_cWi (As := []) rfl cw_L_57 rfl e107 rfl rfl (xrm4 (Nat.le_of_ble_eq_true rfl)) dL_law_489 (e_X0_orders hN (by omega) h) ⟨e105, e106⟩ (fun x101 s102 h => ?_)
  refine t_aload_2 dL_law_492 ?_
  obtain ⟨e108, h⟩ := h
  refine t_mV (As := []) rfl cv_L_60 xcl_M.1 e108 rfl rfl (xrm4 (Nat.le_of_ble_eq_true rfl)) dL_law_493 (c_orders (mInj_br e108) (by (try dsimp only); omega) h) (fun x109 g110 h => ?_)
  refine t_gen h (fun s111 w112 h => ?_)
  refine x_icmp_eq 1160 dL_law_496 (by decide) (fun c113 => ?_) (fun c113 => ?_)
  · have h := h.1 c113
    refine x_iinc_3 (v := 6) dL_law_1160 (by decide) (by decide) xN2_f ?_
    have h := h _ rfl
    refine x_goto 18 dL_law_1163 (by decide) ?_
    exact x_le (xLe_cons (xLe_cons (xLe_cons (xLe_cons (xLe_nil))))) (hR _ _ _ _ h)
  · have h := h.2 c113
    refine x_iconst (v := 0) dL_law_499 (by decide) ?_
    exact x_zret0 dL_law_500 rfl (Or.inl ⟨_, _, h, rfl, rfl⟩)
def v_L2_law_475 (N : tP) (x0 : Nat) (x1 : Nat) (x2 : Nat) (x3 : Int32) (Kr : Int32 → tM → Prop) (K : Nat → Nat → tM → Prop) (R : Int32 → Nat → Nat → tM → Prop) (k n : Nat) (s : tM) : Prop :=
  (∃ c103 c104 : Nat, c103 ≤ k ∧ c104 ≤ n ∧ (tO s 0 x1 ∧ (v_X0_law N x1 c103 c104 s (fun x101 s102 => (tMod s102 x2 ∧ (w_law (N.1, N.2.1) (sM s102 x2) (fun x109 g110 => (∀ s111 : tM, s111 = sP s102 x2 g110 → ((x101 = x109 → (∀ x114 : Int32, x114 = x3 + 6 → (R x114 (k - c103) (n - c104) s111))) ∧ (¬ x101 = x109 → (Kr 0 s111)))))))))))
theorem e_L2_law_475 {G : xG} {l : Launch} {g : xH} {d : Nat} {N : tP} (hN : tNs G N) (hl : l.stackTraces = false) (hd : 2 * N.2.1 + 202 ≤ d) (x0 : Nat) (x1 : Nat) (x2 : Nat) (x3 : Int32) (Kr : Int32 → tM → Prop) (K : Nat → Nat → tM → Prop) (R : Int32 → Nat → Nat → tM → Prop) (k n : Nat) (s : tM) (h : v_L2_law_475 N x0 x1 x2 x3 Kr K R k n s) (hK : ∀ (k n : Nat) (s : tM), K k n s → xF G l kL (d + 1) k n (tQ G g wi Kr tNo) 1166 [none, none, none, none] [] (tH G g s)) (hR : ∀ (z3 : Int32) (k n : Nat) (s : tM), R z3 k n s → xF G l kL (d + 1) k n (tQ G g wi Kr tNo) 18 [some (rfv x0), some (rfv x1), some (rfv x2), some (.int z3)] [] (tH G g s)) : xF G l kL (d + 1) k n (tQ G g wi Kr tNo) 475 [some (rfv x0), some (rfv x1), some (rfv x2), some (.int x3)] [] (tH G g s) := by
  unfold v_L2_law_475 at h
  refine t_aload_1 dL_law_475 ?_
  obtain ⟨c103, c104, e105, e106, h⟩ := h
  obtain ⟨e107, h⟩ := h
  refine t_cWi (As := []) rfl cw_L_53 rfl e107 rfl rfl (xrm4 (Nat.le_of_ble_eq_true rfl)) dL_law_476 (e_X0_law hN (by omega) h) ⟨e105, e106⟩ (fun x101 s102 h => ?_)
  refine t_aload_2 dL_law_479 ?_
  obtain ⟨e108, h⟩ := h
  refine t_mV (As := []) rfl cv_L_56 xcl_M.1 e108 rfl rfl (xrm4 (Nat.le_of_ble_eq_true rfl)) dL_law_480 (c_law (mInj_br e108) (by (try dsimp only); omega) h) (fun x109 g110 h => ?_)
  refine t_gen h (fun s111 w112 h => ?_)
  refine x_icmp_eq 1160 dL_law_483 (by decide) (fun c113 => ?_) (fun c113 => ?_)
  · have h := h.1 c113
    refine x_iinc_3 (v := 6) dL_law_1160 (by decide) (by decide) xN2_f ?_
    have h := h _ rfl
    refine x_goto 18 dL_law_1163 (by decide) ?_
    exact x_le (xLe_cons (xLe_cons (xLe_cons (xLe_cons (xLe_nil))))) (hR _ _ _ _ h)
  · have h := h.2 c113
    refine x_iconst (v := 0) dL_law_486 (by decide) ?_
    exact x_zret0 dL_law_487 rfl (Or.inl ⟨_, _, h, rfl, rfl⟩)
def v_L2_law_462 (N : tP) (x0 : Nat) (x1 : Nat) (x2 : Nat) (x3 : Int32) (Kr : Int32 → tM → Prop) (K : Nat → Nat → tM → Prop) (R : Int32 → Nat → Nat → tM → Prop) (k n : Nat) (s : tM) : Prop :=
  (tO s 0 x1 ∧ (v_X0_blots x1 s (fun x101 s102 => (tMod s102 x2 ∧ (w_blots (sM s102 x2) (fun x105 g106 => (∀ s107 : tM, s107 = sP s102 x2 g106 → ((x101 = x105 → (∀ x110 : Int32, x110 = x3 + 6 → (R x110 k n s107))) ∧ (¬ x101 = x105 → (Kr 0 s107))))))))))
theorem e_L2_law_462 {G : xG} {l : Launch} {g : xH} {d : Nat} {N : tP} (hN : tNs G N) (hl : l.stackTraces = false) (hd : 2 * N.2.1 + 202 ≤ d) (x0 : Nat) (x1 : Nat) (x2 : Nat) (x3 : Int32) (Kr : Int32 → tM → Prop) (K : Nat → Nat → tM → Prop) (R : Int32 → Nat → Nat → tM → Prop) (k n : Nat) (s : tM) (h : v_L2_law_462 N x0 x1 x2 x3 Kr K R k n s) (hK : ∀ (k n : Nat) (s : tM), K k n s → xF G l kL (d + 1) k n (tQ G g wi Kr tNo) 1166 [none, none, none, none] [] (tH G g s)) (hR : ∀ (z3 : Int32) (k n : Nat) (s : tM), R z3 k n s → xF G l kL (d + 1) k n (tQ G g wi Kr tNo) 18 [some (rfv x0), some (rfv x1), some (rfv x2), some (.int z3)] [] (tH G g s)) : xF G l kL (d + 1) k n (tQ G g wi Kr tNo) 462 [some (rfv x0), some (rfv x1), some (rfv x2), some (.int x3)] [] (tH G g s) := by
  unfold v_L2_law_462 at h
  refine t_aload_1 dL_law_462 ?_
  obtain ⟨e103, h⟩ := h
  refine t_cVi (As := []) rfl cv_L_49 rfl e103 rfl rfl (xrm4 (Nat.le_of_ble_eq_true rfl)) dL_law_463 (e_X0_blots (by omega) h) ⟨Nat.zero_le _, Nat.zero_le _⟩ (fun _ _ _ h => h.elim) (fun x101 s102 h => ?_)
  refine t_aload_2 dL_law_466 ?_
  obtain ⟨e104, h⟩ := h
  refine t_mV (As := []) rfl cv_L_52 xcl_M.1 e104 rfl rfl (xrm4 (Nat.le_of_ble_eq_true rfl)) dL_law_467 (c_blots (mInj_br e104) (by (try dsimp only); omega) h) (fun x105 g106 h => ?_)
  refine t_gen h (fun s107 w108 h => ?_)
  refine x_icmp_eq 1160 dL_law_470 (by decide) (fun c109 => ?_) (fun c109 => ?_)
  · have h := h.1 c109
    refine x_iinc_3 (v := 6) dL_law_1160 (by decide) (by decide) xN2_f ?_
    have h := h _ rfl
    refine x_goto 18 dL_law_1163 (by decide) ?_
    exact x_le (xLe_cons (xLe_cons (xLe_cons (xLe_cons (xLe_nil))))) (hR _ _ _ _ h)
  · have h := h.2 c109
    refine x_iconst (v := 0) dL_law_473 (by decide) ?_
    exact x_zret0 dL_law_474 rfl (Or.inl ⟨_, _, h, rfl, rfl⟩)
def v_L2_law_449 (N : tP) (x0 : Nat) (x1 : Nat) (x2 : Nat) (x3 : Int32) (Kr : Int32 → tM → Prop) (K : Nat → Nat → tM → Prop) (R : Int32 → Nat → Nat → tM → Prop) (k n : Nat) (s : tM) : Prop :=
  (∃ c103 c104 : Nat, c103 ≤ k ∧ c104 ≤ n ∧ (tO s 0 x1 ∧ (v_X0_row N x1 c103 c104 s (fun x101 s102 => (tMod s102 x2 ∧ (w_row (N.1, N.2.1) (sM s102 x2) (fun x109 g110 => (∀ s111 : tM, s111 = sP s102 x2 g110 → ((x101 = x109 → (∀ x114 : Int32, x114 = x3 + 6 → (R x114 (k - c103) (n - c104) s111))) ∧ (¬ x101 = x109 → (Kr 0 s111)))))))))))
theorem e_L2_law_449 {G : xG} {l : Launch} {g : xH} {d : Nat} {N : tP} (hN : tNs G N) (hl : l.stackTraces = false) (hd : 2 * N.2.1 + 202 ≤ d) (x0 : Nat) (x1 : Nat) (x2 : Nat) (x3 : Int32) (Kr : Int32 → tM → Prop) (K : Nat → Nat → tM → Prop) (R : Int32 → Nat → Nat → tM → Prop) (k n : Nat) (s : tM) (h : v_L2_law_449 N x0 x1 x2 x3 Kr K R k n s) (hK : ∀ (k n : Nat) (s : tM), K k n s → xF G l kL (d + 1) k n (tQ G g wi Kr tNo) 1166 [none, none, none, none] [] (tH G g s)) (hR : ∀ (z3 : Int32) (k n : Nat) (s : tM), R z3 k n s → xF G l kL (d + 1) k n (tQ G g wi Kr tNo) 18 [some (rfv x0), some (rfv x1), some (rfv x2), some (.int z3)] [] (tH G g s)) : xF G l kL (d + 1) k n (tQ G g wi Kr tNo) 449 [some (rfv x0), some (rfv x1), some (rfv x2), some (.int x3)] [] (tH G g s) := by
  unfold v_L2_law_449 at h
  refine t_aload_1 dL_law_449 ?_
  obtain ⟨c103, c104, e105, e106, h⟩ := h
  obtain ⟨e107, h⟩ := h
  refine t_cWi (As := []) rfl cw_L_44 rfl e107 rfl rfl (xrm4 (Nat.le_of_ble_eq_true rfl)) dL_law_450 (e_X0_row hN hl (by omega) h) ⟨e105, e106⟩ (fun x101 s102 h => ?_)
  refine t_aload_2 dL_law_453 ?_
  obtain ⟨e108, h⟩ := h
  refine t_mV (As := []) rfl cv_L_48 xcl_M.1 e108 rfl rfl (xrm4 (Nat.le_of_ble_eq_true rfl)) dL_law_454 (c_row (mInj_br e108) (by (try dsimp only); omega) h) (fun x109 g110 h => ?_)
  refine t_gen h (fun s111 w112 h => ?_)
  refine x_icmp_eq 1160 dL_law_457 (by decide) (fun c113 => ?_) (fun c113 => ?_)
  · have h := h.1 c113
    refine x_iinc_3 (v := 6) dL_law_1160 (by decide) (by decide) xN2_f ?_
    have h := h _ rfl
    refine x_goto 18 dL_law_1163 (by decide) ?_
    exact x_le (xLe_cons (xLe_cons (xLe_cons (xLe_cons (xLe_nil))))) (hR _ _ _ _ h)
  · have h := h.2 c113
    refine x_iconst (v := 0) dL_law_460 (by decide) ?_
    exact x_zret0 dL_law_461 rfl (Or.inl ⟨_, _, h, rfl, rfl⟩)
def v_L2_law_426 (N : tP) (x0 : Nat) (x1 : Nat) (x2 : Nat) (x3 : Int32) (Kr : Int32 → tM → Prop) (K : Nat → Nat → tM → Prop) (R : Int32 → Nat → Nat → tM → Prop) (k n : Nat) (s : tM) : Prop :=
  (x0 = N.2.2 202 ∧ (vp_in (x3 + 1) (N.2.2 203 - 1) ∧ (tO s 0 x1 ∧ (v_X0_end x1 (scr N (x3 + 1).toNatClampNeg) s (fun x103 s104 => (tMod s104 x2 ∧ (w_end (scr N (x3 + 1).toNatClampNeg) (sM s104 x2) (fun x107 g108 => (∀ s109 : tM, s109 = sP s104 x2 g108 → ((x103 = x107 → (∀ x112 : Int32, x112 = x3 + 6 → (R x112 k n s109))) ∧ (¬ x103 = x107 → (Kr 0 s109))))))))))))
theorem e_L2_law_426 {G : xG} {l : Launch} {g : xH} {d : Nat} {N : tP} (hN : tNs G N) (hl : l.stackTraces = false) (hd : 2 * N.2.1 + 202 ≤ d) (x0 : Nat) (x1 : Nat) (x2 : Nat) (x3 : Int32) (Kr : Int32 → tM → Prop) (K : Nat → Nat → tM → Prop) (R : Int32 → Nat → Nat → tM → Prop) (k n : Nat) (s : tM) (h : v_L2_law_426 N x0 x1 x2 x3 Kr K R k n s) (hK : ∀ (k n : Nat) (s : tM), K k n s → xF G l kL (d + 1) k n (tQ G g wi Kr tNo) 1166 [none, none, none, none] [] (tH G g s)) (hR : ∀ (z3 : Int32) (k n : Nat) (s : tM), R z3 k n s → xF G l kL (d + 1) k n (tQ G g wi Kr tNo) 18 [some (rfv x0), some (rfv x1), some (rfv x2), some (.int z3)] [] (tH G g s)) : xF G l kL (d + 1) k n (tQ G g wi Kr tNo) 426 [some (rfv x0), some (rfv x1), some (rfv x2), some (.int x3)] [] (tH G g s) := by
  unfold v_L2_law_426 at h
  refine t_aload_1 dL_law_426 ?_
  refine t_aload_0 dL_law_427 ?_
  refine x_iload_3 dL_law_428 ?_
  refine x_iconst (v := 1) dL_law_429 (by decide) ?_
  refine x_iadd dL_law_430 ?_
  obtain ⟨e101, h⟩ := h
  obtain ⟨e102, h⟩ := h
  refine t_scrI e101 hN dL_law_431 e102 ?_
  obtain ⟨e105, h⟩ := h
  refine t_cVi (As := [_]) rfl cv_L_40 rfl e105 rfl rfl (xrm4 (Nat.le_of_ble_eq_true rfl)) dL_law_432 (e_X0_end (by omega) h) ⟨Nat.zero_le _, Nat.zero_le _⟩ (fun _ _ _ h => h.elim) (fun x103 s104 h => ?_)
  refine t_aload_2 dL_law_435 ?_
  refine t_aload_0 dL_law_436 ?_
  refine x_iload_3 dL_law_437 ?_
  refine x_iconst (v := 1) dL_law_438 (by decide) ?_
  refine x_iadd dL_law_439 ?_
  refine t_scrI e101 hN dL_law_440 e102 ?_
  obtain ⟨e106, h⟩ := h
  refine t_mV (As := [_]) rfl cv_L_43 xcl_M.1 e106 rfl rfl (xrm4 (Nat.le_of_ble_eq_true rfl)) dL_law_441 (c_end (mInj_br e106) (by (try dsimp only); omega) h) (fun x107 g108 h => ?_)
  refine t_gen h (fun s109 w110 h => ?_)
  refine x_icmp_eq 1160 dL_law_444 (by decide) (fun c111 => ?_) (fun c111 => ?_)
  · have h := h.1 c111
    refine x_iinc_3 (v := 6) dL_law_1160 (by decide) (by decide) xN2_f ?_
    have h := h _ rfl
    refine x_goto 18 dL_law_1163 (by decide) ?_
    exact x_le (xLe_cons (xLe_cons (xLe_cons (xLe_cons (xLe_nil))))) (hR _ _ _ _ h)
  · have h := h.2 c111
    refine x_iconst (v := 0) dL_law_447 (by decide) ?_
    exact x_zret0 dL_law_448 rfl (Or.inl ⟨_, _, h, rfl, rfl⟩)
def v_L2_law_363 (N : tP) (x0 : Nat) (x1 : Nat) (x2 : Nat) (x3 : Int32) (Kr : Int32 → tM → Prop) (K : Nat → Nat → tM → Prop) (R : Int32 → Nat → Nat → tM → Prop) (k n : Nat) (s : tM) : Prop :=
  (x0 = N.2.2 202 ∧ (vp_in (x3 + 1) (N.2.2 203 - 1) ∧ (vp_in (x3 + 2) (N.2.2 203 - 1) ∧ (vp_in (x3 + 3) (N.2.2 203 - 1) ∧ (vp_in (x3 + 4) (N.2.2 203 - 1) ∧ (vp_in (x3 + 5) (N.2.2 203 - 1) ∧ (tO s 0 x1 ∧ (v_X0_feed N x1 (scr N (x3 + 1).toNatClampNeg) (scr N (x3 + 2).toNatClampNeg) (scr N (x3 + 3).toNatClampNeg) (scr N (x3 + 4).toNatClampNeg) (scr N (x3 + 5).toNatClampNeg) s (fun x107 s108 => (tMod s108 x2 ∧ (w_feed (N.1, N.2.1) (scr N (x3 + 1).toNatClampNeg) (scr N (x3 + 2).toNatClampNeg) (scr N (x3 + 3).toNatClampNeg) (scr N (x3 + 4).toNatClampNeg) (scr N (x3 + 5).toNatClampNeg) (sM s108 x2) (fun x111 g112 => (∀ s113 : tM, s113 = sP s108 x2 g112 → ((x107 = x111 → (∀ x116 : Int32, x116 = x3 + 6 → (R x116 k n s113))) ∧ (¬ x107 = x111 → (Kr 0 s113))))))))))))))))
theorem e_L2_law_363 {G : xG} {l : Launch} {g : xH} {d : Nat} {N : tP} (hN : tNs G N) (hl : l.stackTraces = false) (hd : 2 * N.2.1 + 202 ≤ d) (x0 : Nat) (x1 : Nat) (x2 : Nat) (x3 : Int32) (Kr : Int32 → tM → Prop) (K : Nat → Nat → tM → Prop) (R : Int32 → Nat → Nat → tM → Prop) (k n : Nat) (s : tM) (h : v_L2_law_363 N x0 x1 x2 x3 Kr K R k n s) (hK : ∀ (k n : Nat) (s : tM), K k n s → xF G l kL (d + 1) k n (tQ G g wi Kr tNo) 1166 [none, none, none, none] [] (tH G g s)) (hR : ∀ (z3 : Int32) (k n : Nat) (s : tM), R z3 k n s → xF G l kL (d + 1) k n (tQ G g wi Kr tNo) 18 [some (rfv x0), some (rfv x1), some (rfv x2), some (.int z3)] [] (tH G g s)) : xF G l kL (d + 1) k n (tQ G g wi Kr tNo) 363 [some (rfv x0), some (rfv x1), some (rfv x2), some (.int x3)] [] (tH G g s) := by
  unfold v_L2_law_363 at h
  refine t_aload_1 dL_law_363 ?_
  refine t_aload_0 dL_law_364 ?_
  refine x_iload_3 dL_law_365 ?_
  refine x_iconst (v := 1) dL_law_366 (by decide) ?_
  refine x_iadd dL_law_367 ?_
  obtain ⟨e101, h⟩ := h
  obtain ⟨e102, h⟩ := h
  refine t_scrI e101 hN dL_law_368 e102 ?_
  refine t_aload_0 dL_law_369 ?_
  refine x_iload_3 dL_law_370 ?_
  refine x_iconst (v := 2) dL_law_371 (by decide) ?_
  refine x_iadd dL_law_372 ?_
  obtain ⟨e103, h⟩ := h
  refine t_scrI e101 hN dL_law_373 e103 ?_
  refine t_aload_0 dL_law_374 ?_
  refine x_iload_3 dL_law_375 ?_
  refine x_iconst (v := 3) dL_law_376 (by decide) ?_
  refine x_iadd dL_law_377 ?_
  obtain ⟨e104, h⟩ := h
  refine t_scrI e101 hN dL_law_378 e104 ?_
  refine t_aload_0 dL_law_379 ?_
  refine x_iload_3 dL_law_380 ?_
  refine x_iconst (v := 4) dL_law_381 (by decide) ?_
  refine x_iadd dL_law_382 ?_
  obtain ⟨e105, h⟩ := h
  refine t_scrI e101 hN dL_law_383 e105 ?_
  refine t_aload_0 dL_law_384 ?_
  refine x_iload_3 dL_law_385 ?_
  refine x_iconst (v := 5) dL_law_386 (by decide) ?_
  refine x_iadd dL_law_387 ?_
  obtain ⟨e106, h⟩ := h
  refine t_scrI e101 hN dL_law_388 e106 ?_
  obtain ⟨e109, h⟩ := h
  refine t_cVi (As := [_, _, _, _, _]) rfl cv_L_35 rfl e109 rfl rfl (xrm4 (Nat.le_of_ble_eq_true rfl)) dL_law_389 (e_X0_feed hN (by omega) h) ⟨Nat.zero_le _, Nat.zero_le _⟩ (fun _ _ _ h => h.elim) (fun x107 s108 h => ?_)
  refine t_aload_2 dL_law_392 ?_
  refine t_aload_0 dL_law_393 ?_
  refine x_iload_3 dL_law_394 ?_
  refine x_iconst (v := 1) dL_law_395 (by decide) ?_
  refine x_iadd dL_law_396 ?_
  refine t_scrI e101 hN dL_law_397 e102 ?_
  refine t_aload_0 dL_law_398 ?_
  refine x_iload_3 dL_law_399 ?_
  refine x_iconst (v := 2) dL_law_400 (by decide) ?_
  refine x_iadd dL_law_401 ?_
  refine t_scrI e101 hN dL_law_402 e103 ?_
  refine t_aload_0 dL_law_403 ?_
  refine x_iload_3 dL_law_404 ?_
  refine x_iconst (v := 3) dL_law_405 (by decide) ?_
  refine x_iadd dL_law_406 ?_
  refine t_scrI e101 hN dL_law_407 e104 ?_
  refine t_aload_0 dL_law_408 ?_
  refine x_iload_3 dL_law_409 ?_
  refine x_iconst (v := 4) dL_law_410 (by decide) ?_
  refine x_iadd dL_law_411 ?_
  refine t_scrI e101 hN dL_law_412 e105 ?_
  refine t_aload_0 dL_law_413 ?_
  refine x_iload_3 dL_law_414 ?_
  refine x_iconst (v := 5) dL_law_415 (by decide) ?_
  refine x_iadd dL_law_416 ?_
  refine t_scrI e101 hN dL_law_417 e106 ?_
  obtain ⟨e110, h⟩ := h
  refine t_mV (As := [_, _, _, _, _]) rfl cv_L_39 xcl_M.1 e110 rfl rfl (xrm4 (Nat.le_of_ble_eq_true rfl)) dL_law_418 (c_feed (mInj_br e110) (by (try dsimp only); omega) h) (fun x111 g112 h => ?_)
  refine t_gen h (fun s113 w114 h => ?_)
  refine x_icmp_eq 1160 dL_law_421 (by decide) (fun c115 => ?_) (fun c115 => ?_)
  · have h := h.1 c115
    refine x_iinc_3 (v := 6) dL_law_1160 (by decide) (by decide) xN2_f ?_
    have h := h _ rfl
    refine x_goto 18 dL_law_1163 (by decide) ?_
    exact x_le (xLe_cons (xLe_cons (xLe_cons (xLe_cons (xLe_nil))))) (hR _ _ _ _ h)
  · have h := h.2 c115
    refine x_iconst (v := 0) dL_law_424 (by decide) ?_
    exact x_zret0 dL_law_425 rfl (Or.inl ⟨_, _, h, rfl, rfl⟩)
def v_L2_law_330 (N : tP) (x0 : Nat) (x1 : Nat) (x2 : Nat) (x3 : Int32) (Kr : Int32 → tM → Prop) (K : Nat → Nat → tM → Prop) (R : Int32 → Nat → Nat → tM → Prop) (k n : Nat) (s : tM) : Prop :=
  (x0 = N.2.2 202 ∧ (vp_in (x3 + 1) (N.2.2 203 - 1) ∧ (vp_in (x3 + 2) (N.2.2 203 - 1) ∧ (tO s 0 x1 ∧ (v_X0_terms x1 (scr N (x3 + 1).toNatClampNeg) (scr N (x3 + 2).toNatClampNeg) s (fun x104 s105 => (tMod s105 x2 ∧ (w_terms (scr N (x3 + 1).toNatClampNeg) (scr N (x3 + 2).toNatClampNeg) (sM s105 x2) (fun x108 g109 => (∀ s110 : tM, s110 = sP s105 x2 g109 → ((x104 = x108 → (∀ x113 : Int32, x113 = x3 + 6 → (R x113 k n s110))) ∧ (¬ x104 = x108 → (Kr 0 s110)))))))))))))
theorem e_L2_law_330 {G : xG} {l : Launch} {g : xH} {d : Nat} {N : tP} (hN : tNs G N) (hl : l.stackTraces = false) (hd : 2 * N.2.1 + 202 ≤ d) (x0 : Nat) (x1 : Nat) (x2 : Nat) (x3 : Int32) (Kr : Int32 → tM → Prop) (K : Nat → Nat → tM → Prop) (R : Int32 → Nat → Nat → tM → Prop) (k n : Nat) (s : tM) (h : v_L2_law_330 N x0 x1 x2 x3 Kr K R k n s) (hK : ∀ (k n : Nat) (s : tM), K k n s → xF G l kL (d + 1) k n (tQ G g wi Kr tNo) 1166 [none, none, none, none] [] (tH G g s)) (hR : ∀ (z3 : Int32) (k n : Nat) (s : tM), R z3 k n s → xF G l kL (d + 1) k n (tQ G g wi Kr tNo) 18 [some (rfv x0), some (rfv x1), some (rfv x2), some (.int z3)] [] (tH G g s)) : xF G l kL (d + 1) k n (tQ G g wi Kr tNo) 330 [some (rfv x0), some (rfv x1), some (rfv x2), some (.int x3)] [] (tH G g s) := by
  unfold v_L2_law_330 at h
  refine t_aload_1 dL_law_330 ?_
  refine t_aload_0 dL_law_331 ?_
  refine x_iload_3 dL_law_332 ?_
  refine x_iconst (v := 1) dL_law_333 (by decide) ?_
  refine x_iadd dL_law_334 ?_
  obtain ⟨e101, h⟩ := h
  obtain ⟨e102, h⟩ := h
  refine t_scrI e101 hN dL_law_335 e102 ?_
  refine t_aload_0 dL_law_336 ?_
  refine x_iload_3 dL_law_337 ?_
  refine x_iconst (v := 2) dL_law_338 (by decide) ?_
  refine x_iadd dL_law_339 ?_
  obtain ⟨e103, h⟩ := h
  refine t_scrI e101 hN dL_law_340 e103 ?_
  obtain ⟨e106, h⟩ := h
  refine t_cVi (As := [_, _]) rfl cv_L_31 rfl e106 rfl rfl (xrm4 (Nat.le_of_ble_eq_true rfl)) dL_law_341 (e_X0_terms (by omega) h) ⟨Nat.zero_le _, Nat.zero_le _⟩ (fun _ _ _ h => h.elim) (fun x104 s105 h => ?_)
  refine t_aload_2 dL_law_344 ?_
  refine t_aload_0 dL_law_345 ?_
  refine x_iload_3 dL_law_346 ?_
  refine x_iconst (v := 1) dL_law_347 (by decide) ?_
  refine x_iadd dL_law_348 ?_
  refine t_scrI e101 hN dL_law_349 e102 ?_
  refine t_aload_0 dL_law_350 ?_
  refine x_iload_3 dL_law_351 ?_
  refine x_iconst (v := 2) dL_law_352 (by decide) ?_
  refine x_iadd dL_law_353 ?_
  refine t_scrI e101 hN dL_law_354 e103 ?_
  obtain ⟨e107, h⟩ := h
  refine t_mV (As := [_, _]) rfl cv_L_34 xcl_M.1 e107 rfl rfl (xrm4 (Nat.le_of_ble_eq_true rfl)) dL_law_355 (c_terms (mInj_br e107) (by (try dsimp only); omega) h) (fun x108 g109 h => ?_)
  refine t_gen h (fun s110 w111 h => ?_)
  refine x_icmp_eq 1160 dL_law_358 (by decide) (fun c112 => ?_) (fun c112 => ?_)
  · have h := h.1 c112
    refine x_iinc_3 (v := 6) dL_law_1160 (by decide) (by decide) xN2_f ?_
    have h := h _ rfl
    refine x_goto 18 dL_law_1163 (by decide) ?_
    exact x_le (xLe_cons (xLe_cons (xLe_cons (xLe_cons (xLe_nil))))) (hR _ _ _ _ h)
  · have h := h.2 c112
    refine x_iconst (v := 0) dL_law_361 (by decide) ?_
    exact x_zret0 dL_law_362 rfl (Or.inl ⟨_, _, h, rfl, rfl⟩)
def v_L2_law_307 (N : tP) (x0 : Nat) (x1 : Nat) (x2 : Nat) (x3 : Int32) (Kr : Int32 → tM → Prop) (K : Nat → Nat → tM → Prop) (R : Int32 → Nat → Nat → tM → Prop) (k n : Nat) (s : tM) : Prop :=
  (x0 = N.2.2 202 ∧ (vp_in (x3 + 1) (N.2.2 203 - 1) ∧ (tO s 0 x1 ∧ (v_X0_all N x1 (scr N (x3 + 1).toNatClampNeg) s (fun x103 s104 => (tMod s104 x2 ∧ (w_all (N.1, N.2.1) (scr N (x3 + 1).toNatClampNeg) (sM s104 x2) (fun x107 g108 => (∀ s109 : tM, s109 = sP s104 x2 g108 → ((x103 = x107 → (∀ x112 : Int32, x112 = x3 + 6 → (R x112 k n s109))) ∧ (¬ x103 = x107 → (Kr 0 s109))))))))))))
theorem e_L2_law_307 {G : xG} {l : Launch} {g : xH} {d : Nat} {N : tP} (hN : tNs G N) (hl : l.stackTraces = false) (hd : 2 * N.2.1 + 202 ≤ d) (x0 : Nat) (x1 : Nat) (x2 : Nat) (x3 : Int32) (Kr : Int32 → tM → Prop) (K : Nat → Nat → tM → Prop) (R : Int32 → Nat → Nat → tM → Prop) (k n : Nat) (s : tM) (h : v_L2_law_307 N x0 x1 x2 x3 Kr K R k n s) (hK : ∀ (k n : Nat) (s : tM), K k n s → xF G l kL (d + 1) k n (tQ G g wi Kr tNo) 1166 [none, none, none, none] [] (tH G g s)) (hR : ∀ (z3 : Int32) (k n : Nat) (s : tM), R z3 k n s → xF G l kL (d + 1) k n (tQ G g wi Kr tNo) 18 [some (rfv x0), some (rfv x1), some (rfv x2), some (.int z3)] [] (tH G g s)) : xF G l kL (d + 1) k n (tQ G g wi Kr tNo) 307 [some (rfv x0), some (rfv x1), some (rfv x2), some (.int x3)] [] (tH G g s) := by
  unfold v_L2_law_307 at h
  refine t_aload_1 dL_law_307 ?_
  refine t_aload_0 dL_law_308 ?_
  refine x_iload_3 dL_law_309 ?_
  refine x_iconst (v := 1) dL_law_310 (by decide) ?_
  refine x_iadd dL_law_311 ?_
  obtain ⟨e101, h⟩ := h
  obtain ⟨e102, h⟩ := h
  refine t_scrI e101 hN dL_law_312 e102 ?_
  obtain ⟨e105, h⟩ := h
  refine t_cVi (As := [_]) rfl cv_L_26 rfl e105 rfl rfl (xrm4 (Nat.le_of_ble_eq_true rfl)) dL_law_313 (e_X0_all hN (by omega) h) ⟨Nat.zero_le _, Nat.zero_le _⟩ (fun _ _ _ h => h.elim) (fun x103 s104 h => ?_)
  refine t_aload_2 dL_law_316 ?_
  refine t_aload_0 dL_law_317 ?_
  refine x_iload_3 dL_law_318 ?_
  refine x_iconst (v := 1) dL_law_319 (by decide) ?_
  refine x_iadd dL_law_320 ?_
  refine t_scrI e101 hN dL_law_321 e102 ?_
  obtain ⟨e106, h⟩ := h
  refine t_mV (As := [_]) rfl cv_L_30 xcl_M.1 e106 rfl rfl (xrm4 (Nat.le_of_ble_eq_true rfl)) dL_law_322 (c_all (mInj_br e106) (by (try dsimp only); omega) h) (fun x107 g108 h => ?_)
  refine t_gen h (fun s109 w110 h => ?_)
  refine x_icmp_eq 1160 dL_law_325 (by decide) (fun c111 => ?_) (fun c111 => ?_)
  · have h := h.1 c111
    refine x_iinc_3 (v := 6) dL_law_1160 (by decide) (by decide) xN2_f ?_
    have h := h _ rfl
    refine x_goto 18 dL_law_1163 (by decide) ?_
    exact x_le (xLe_cons (xLe_cons (xLe_cons (xLe_cons (xLe_nil))))) (hR _ _ _ _ h)
  · have h := h.2 c111
    refine x_iconst (v := 0) dL_law_328 (by decide) ?_
    exact x_zret0 dL_law_329 rfl (Or.inl ⟨_, _, h, rfl, rfl⟩)
def v_L2_law_274 (N : tP) (x0 : Nat) (x1 : Nat) (x2 : Nat) (x3 : Int32) (Kr : Int32 → tM → Prop) (K : Nat → Nat → tM → Prop) (R : Int32 → Nat → Nat → tM → Prop) (k n : Nat) (s : tM) : Prop :=
  (x0 = N.2.2 202 ∧ (vp_in (x3 + 1) (N.2.2 203 - 1) ∧ (vp_in (x3 + 2) (N.2.2 203 - 1) ∧ (tO s 0 x1 ∧ (v_X0_at x1 (scr N (x3 + 1).toNatClampNeg) (scr N (x3 + 2).toNatClampNeg) s (fun x104 s105 => (tMod s105 x2 ∧ (w_at (scr N (x3 + 1).toNatClampNeg) (scr N (x3 + 2).toNatClampNeg) (sM s105 x2) (fun x108 g109 => (∀ s110 : tM, s110 = sP s105 x2 g109 → ((x104 = x108 → (∀ x113 : Int32, x113 = x3 + 6 → (R x113 k n s110))) ∧ (¬ x104 = x108 → (Kr 0 s110)))))))))))))
theorem e_L2_law_274 {G : xG} {l : Launch} {g : xH} {d : Nat} {N : tP} (hN : tNs G N) (hl : l.stackTraces = false) (hd : 2 * N.2.1 + 202 ≤ d) (x0 : Nat) (x1 : Nat) (x2 : Nat) (x3 : Int32) (Kr : Int32 → tM → Prop) (K : Nat → Nat → tM → Prop) (R : Int32 → Nat → Nat → tM → Prop) (k n : Nat) (s : tM) (h : v_L2_law_274 N x0 x1 x2 x3 Kr K R k n s) (hK : ∀ (k n : Nat) (s : tM), K k n s → xF G l kL (d + 1) k n (tQ G g wi Kr tNo) 1166 [none, none, none, none] [] (tH G g s)) (hR : ∀ (z3 : Int32) (k n : Nat) (s : tM), R z3 k n s → xF G l kL (d + 1) k n (tQ G g wi Kr tNo) 18 [some (rfv x0), some (rfv x1), some (rfv x2), some (.int z3)] [] (tH G g s)) : xF G l kL (d + 1) k n (tQ G g wi Kr tNo) 274 [some (rfv x0), some (rfv x1), some (rfv x2), some (.int x3)] [] (tH G g s) := by
  unfold v_L2_law_274 at h
  refine t_aload_1 dL_law_274 ?_
  refine t_aload_0 dL_law_275 ?_
  refine x_iload_3 dL_law_276 ?_
  refine x_iconst (v := 1) dL_law_277 (by decide) ?_
  refine x_iadd dL_law_278 ?_
  obtain ⟨e101, h⟩ := h
  obtain ⟨e102, h⟩ := h
  refine t_scrI e101 hN dL_law_279 e102 ?_
  refine t_aload_0 dL_law_280 ?_
  refine x_iload_3 dL_law_281 ?_
  refine x_iconst (v := 2) dL_law_282 (by decide) ?_
  refine x_iadd dL_law_283 ?_
  obtain ⟨e103, h⟩ := h
  refine t_scrI e101 hN dL_law_284 e103 ?_
  obtain ⟨e106, h⟩ := h
  refine t_cVi (As := [_, _]) rfl cv_L_22 rfl e106 rfl rfl (xrm4 (Nat.le_of_ble_eq_true rfl)) dL_law_285 (e_X0_at (by omega) h) ⟨Nat.zero_le _, Nat.zero_le _⟩ (fun _ _ _ h => h.elim) (fun x104 s105 h => ?_)
  refine t_aload_2 dL_law_288 ?_
  refine t_aload_0 dL_law_289 ?_
  refine x_iload_3 dL_law_290 ?_
  refine x_iconst (v := 1) dL_law_291 (by decide) ?_
  refine x_iadd dL_law_292 ?_
  refine t_scrI e101 hN dL_law_293 e102 ?_
  refine t_aload_0 dL_law_294 ?_
  refine x_iload_3 dL_law_295 ?_
  refine x_iconst (v := 2) dL_law_296 (by decide) ?_
  refine x_iadd dL_law_297 ?_
  refine t_scrI e101 hN dL_law_298 e103 ?_
  obtain ⟨e107, h⟩ := h
  refine t_mV (As := [_, _]) rfl cv_L_25 xcl_M.1 e107 rfl rfl (xrm4 (Nat.le_of_ble_eq_true rfl)) dL_law_299 (c_at (mInj_br e107) (by (try dsimp only); omega) h) (fun x108 g109 h => ?_)
  refine t_gen h (fun s110 w111 h => ?_)
  refine x_icmp_eq 1160 dL_law_302 (by decide) (fun c112 => ?_) (fun c112 => ?_)
  · have h := h.1 c112
    refine x_iinc_3 (v := 6) dL_law_1160 (by decide) (by decide) xN2_f ?_
    have h := h _ rfl
    refine x_goto 18 dL_law_1163 (by decide) ?_
    exact x_le (xLe_cons (xLe_cons (xLe_cons (xLe_cons (xLe_nil))))) (hR _ _ _ _ h)
  · have h := h.2 c112
    refine x_iconst (v := 0) dL_law_305 (by decide) ?_
    exact x_zret0 dL_law_306 rfl (Or.inl ⟨_, _, h, rfl, rfl⟩)
def v_L2_law_241 (N : tP) (x0 : Nat) (x1 : Nat) (x2 : Nat) (x3 : Int32) (Kr : Int32 → tM → Prop) (K : Nat → Nat → tM → Prop) (R : Int32 → Nat → Nat → tM → Prop) (k n : Nat) (s : tM) : Prop :=
  (x0 = N.2.2 202 ∧ (vp_in (x3 + 1) (N.2.2 203 - 1) ∧ (vp_in (x3 + 2) (N.2.2 203 - 1) ∧ (tO s 0 x1 ∧ (v_X0_of N x1 (scr N (x3 + 1).toNatClampNeg) (scr N (x3 + 2).toNatClampNeg) s (fun x104 s105 => (tMod s105 x2 ∧ (w_of (N.1, N.2.1) (scr N (x3 + 1).toNatClampNeg) (scr N (x3 + 2).toNatClampNeg) (sM s105 x2) (fun x108 g109 => (∀ s110 : tM, s110 = sP s105 x2 g109 → ((x104 = x108 → (∀ x113 : Int32, x113 = x3 + 6 → (R x113 k n s110))) ∧ (¬ x104 = x108 → (Kr 0 s110)))))))))))))
theorem e_L2_law_241 {G : xG} {l : Launch} {g : xH} {d : Nat} {N : tP} (hN : tNs G N) (hl : l.stackTraces = false) (hd : 2 * N.2.1 + 202 ≤ d) (x0 : Nat) (x1 : Nat) (x2 : Nat) (x3 : Int32) (Kr : Int32 → tM → Prop) (K : Nat → Nat → tM → Prop) (R : Int32 → Nat → Nat → tM → Prop) (k n : Nat) (s : tM) (h : v_L2_law_241 N x0 x1 x2 x3 Kr K R k n s) (hK : ∀ (k n : Nat) (s : tM), K k n s → xF G l kL (d + 1) k n (tQ G g wi Kr tNo) 1166 [none, none, none, none] [] (tH G g s)) (hR : ∀ (z3 : Int32) (k n : Nat) (s : tM), R z3 k n s → xF G l kL (d + 1) k n (tQ G g wi Kr tNo) 18 [some (rfv x0), some (rfv x1), some (rfv x2), some (.int z3)] [] (tH G g s)) : xF G l kL (d + 1) k n (tQ G g wi Kr tNo) 241 [some (rfv x0), some (rfv x1), some (rfv x2), some (.int x3)] [] (tH G g s) := by
  unfold v_L2_law_241 at h
  refine t_aload_1 dL_law_241 ?_
  refine t_aload_0 dL_law_242 ?_
  refine x_iload_3 dL_law_243 ?_
  refine x_iconst (v := 1) dL_law_244 (by decide) ?_
  refine x_iadd dL_law_245 ?_
  obtain ⟨e101, h⟩ := h
  obtain ⟨e102, h⟩ := h
  refine t_scrI e101 hN dL_law_246 e102 ?_
  refine t_aload_0 dL_law_247 ?_
  refine x_iload_3 dL_law_248 ?_
  refine x_iconst (v := 2) dL_law_249 (by decide) ?_
  refine x_iadd dL_law_250 ?_
  obtain ⟨e103, h⟩ := h
  refine t_scrI e101 hN dL_law_251 e103 ?_
  obtain ⟨e106, h⟩ := h
  refine t_cVi (As := [_, _]) rfl cv_L_18 rfl e106 rfl rfl (xrm4 (Nat.le_of_ble_eq_true rfl)) dL_law_252 (e_X0_of hN (by omega) h) ⟨Nat.zero_le _, Nat.zero_le _⟩ (fun _ _ _ h => h.elim) (fun x104 s105 h => ?_)
  refine t_aload_2 dL_law_255 ?_
  refine t_aload_0 dL_law_256 ?_
  refine x_iload_3 dL_law_257 ?_
  refine x_iconst (v := 1) dL_law_258 (by decide) ?_
  refine x_iadd dL_law_259 ?_
  refine t_scrI e101 hN dL_law_260 e102 ?_
  refine t_aload_0 dL_law_261 ?_
  refine x_iload_3 dL_law_262 ?_
  refine x_iconst (v := 2) dL_law_263 (by decide) ?_
  refine x_iadd dL_law_264 ?_
  refine t_scrI e101 hN dL_law_265 e103 ?_
  obtain ⟨e107, h⟩ := h
  refine t_mV (As := [_, _]) rfl cv_L_21 xcl_M.1 e107 rfl rfl (xrm4 (Nat.le_of_ble_eq_true rfl)) dL_law_266 (c_of (mInj_br e107) (by (try dsimp only); omega) h) (fun x108 g109 h => ?_)
  refine t_gen h (fun s110 w111 h => ?_)
  refine x_icmp_eq 1160 dL_law_269 (by decide) (fun c112 => ?_) (fun c112 => ?_)
  · have h := h.1 c112
    refine x_iinc_3 (v := 6) dL_law_1160 (by decide) (by decide) xN2_f ?_
    have h := h _ rfl
    refine x_goto 18 dL_law_1163 (by decide) ?_
    exact x_le (xLe_cons (xLe_cons (xLe_cons (xLe_cons (xLe_nil))))) (hR _ _ _ _ h)
  · have h := h.2 c112
    refine x_iconst (v := 0) dL_law_272 (by decide) ?_
    exact x_zret0 dL_law_273 rfl (Or.inl ⟨_, _, h, rfl, rfl⟩)
def v_L2_law_208 (N : tP) (x0 : Nat) (x1 : Nat) (x2 : Nat) (x3 : Int32) (Kr : Int32 → tM → Prop) (K : Nat → Nat → tM → Prop) (R : Int32 → Nat → Nat → tM → Prop) (k n : Nat) (s : tM) : Prop :=
  (x0 = N.2.2 202 ∧ (vp_in (x3 + 1) (N.2.2 203 - 1) ∧ (vp_in (x3 + 2) (N.2.2 203 - 1) ∧ (tO s 0 x1 ∧ (v_X0_note x1 (scr N (x3 + 1).toNatClampNeg) (scr N (x3 + 2).toNatClampNeg) s (fun x104 s105 => (tMod s105 x2 ∧ (w_note (scr N (x3 + 1).toNatClampNeg) (scr N (x3 + 2).toNatClampNeg) (sM s105 x2) (fun x108 g109 => (∀ s110 : tM, s110 = sP s105 x2 g109 → ((x104 = x108 → (∀ x113 : Int32, x113 = x3 + 6 → (R x113 k n s110))) ∧ (¬ x104 = x108 → (Kr 0 s110)))))))))))))
theorem e_L2_law_208 {G : xG} {l : Launch} {g : xH} {d : Nat} {N : tP} (hN : tNs G N) (hl : l.stackTraces = false) (hd : 2 * N.2.1 + 202 ≤ d) (x0 : Nat) (x1 : Nat) (x2 : Nat) (x3 : Int32) (Kr : Int32 → tM → Prop) (K : Nat → Nat → tM → Prop) (R : Int32 → Nat → Nat → tM → Prop) (k n : Nat) (s : tM) (h : v_L2_law_208 N x0 x1 x2 x3 Kr K R k n s) (hK : ∀ (k n : Nat) (s : tM), K k n s → xF G l kL (d + 1) k n (tQ G g wi Kr tNo) 1166 [none, none, none, none] [] (tH G g s)) (hR : ∀ (z3 : Int32) (k n : Nat) (s : tM), R z3 k n s → xF G l kL (d + 1) k n (tQ G g wi Kr tNo) 18 [some (rfv x0), some (rfv x1), some (rfv x2), some (.int z3)] [] (tH G g s)) : xF G l kL (d + 1) k n (tQ G g wi Kr tNo) 208 [some (rfv x0), some (rfv x1), some (rfv x2), some (.int x3)] [] (tH G g s) := by
  unfold v_L2_law_208 at h
  refine t_aload_1 dL_law_208 ?_
  refine t_aload_0 dL_law_209 ?_
  refine x_iload_3 dL_law_210 ?_
  refine x_iconst (v := 1) dL_law_211 (by decide) ?_
  refine x_iadd dL_law_212 ?_
  obtain ⟨e101, h⟩ := h
  obtain ⟨e102, h⟩ := h
  refine t_scrI e101 hN dL_law_213 e102 ?_
  refine t_aload_0 dL_law_214 ?_
  refine x_iload_3 dL_law_215 ?_
  refine x_iconst (v := 2) dL_law_216 (by decide) ?_
  refine x_iadd dL_law_217 ?_
  obtain ⟨e103, h⟩ := h
  refine t_scrI e101 hN dL_law_218 e103 ?_
  obtain ⟨e106, h⟩ := h
  refine t_cVi (As := [_, _]) rfl cv_L_13 rfl e106 rfl rfl (xrm4 (Nat.le_of_ble_eq_true rfl)) dL_law_219 (e_X0_note (by omega) h) ⟨Nat.zero_le _, Nat.zero_le _⟩ (fun _ _ _ h => h.elim) (fun x104 s105 h => ?_)
  refine t_aload_2 dL_law_222 ?_
  refine t_aload_0 dL_law_223 ?_
  refine x_iload_3 dL_law_224 ?_
  refine x_iconst (v := 1) dL_law_225 (by decide) ?_
  refine x_iadd dL_law_226 ?_
  refine t_scrI e101 hN dL_law_227 e102 ?_
  refine t_aload_0 dL_law_228 ?_
  refine x_iload_3 dL_law_229 ?_
  refine x_iconst (v := 2) dL_law_230 (by decide) ?_
  refine x_iadd dL_law_231 ?_
  refine t_scrI e101 hN dL_law_232 e103 ?_
  obtain ⟨e107, h⟩ := h
  refine t_mV (As := [_, _]) rfl cv_L_17 xcl_M.1 e107 rfl rfl (xrm4 (Nat.le_of_ble_eq_true rfl)) dL_law_233 (c_note (mInj_br e107) (by (try dsimp only); omega) h) (fun x108 g109 h => ?_)
  refine t_gen h (fun s110 w111 h => ?_)
  refine x_icmp_eq 1160 dL_law_236 (by decide) (fun c112 => ?_) (fun c112 => ?_)
  · have h := h.1 c112
    refine x_iinc_3 (v := 6) dL_law_1160 (by decide) (by decide) xN2_f ?_
    have h := h _ rfl
    refine x_goto 18 dL_law_1163 (by decide) ?_
    exact x_le (xLe_cons (xLe_cons (xLe_cons (xLe_cons (xLe_nil))))) (hR _ _ _ _ h)
  · have h := h.2 c112
    refine x_iconst (v := 0) dL_law_239 (by decide) ?_
    exact x_zret0 dL_law_240 rfl (Or.inl ⟨_, _, h, rfl, rfl⟩)
def v_L2_law_18 (N : tP) (x0 : Nat) (x1 : Nat) (x2 : Nat) (Kr : Int32 → tM → Prop) (K : Nat → Nat → tM → Prop) : Nat → Int32 → Nat → Nat → tM → Prop
  | 0, _, _, _, _ => False
  | t + 1, x3, k, n, s => (x0 = N.2.2 202 ∧ ((((Int32.ofNat (N.2.2 203 - 1)) - 6) < x3 → (K k n s)) ∧ (¬ ((Int32.ofNat (N.2.2 203 - 1)) - 6) < x3 → (x0 = N.2.2 202 ∧ (vp_in x3 (N.2.2 203 - 1) ∧ (∀ x105 : Int32, x105 = (scr N x3.toNatClampNeg) &&& 63 → ((x105 = 0 → (v_L2_law_208 N x0 x1 x2 x3 Kr K (fun x3 k n s => v_L2_law_18 N x0 x1 x2 Kr K t x3 k n s) k n s)) ∧ (x105 = 1 → (v_L2_law_241 N x0 x1 x2 x3 Kr K (fun x3 k n s => v_L2_law_18 N x0 x1 x2 Kr K t x3 k n s) k n s)) ∧ (x105 = 2 → (v_L2_law_274 N x0 x1 x2 x3 Kr K (fun x3 k n s => v_L2_law_18 N x0 x1 x2 Kr K t x3 k n s) k n s)) ∧ (x105 = 3 → (v_L2_law_307 N x0 x1 x2 x3 Kr K (fun x3 k n s => v_L2_law_18 N x0 x1 x2 Kr K t x3 k n s) k n s)) ∧ (x105 = 4 → (v_L2_law_330 N x0 x1 x2 x3 Kr K (fun x3 k n s => v_L2_law_18 N x0 x1 x2 Kr K t x3 k n s) k n s)) ∧ (x105 = 5 → (v_L2_law_363 N x0 x1 x2 x3 Kr K (fun x3 k n s => v_L2_law_18 N x0 x1 x2 Kr K t x3 k n s) k n s)) ∧ (x105 = 6 → (v_L2_law_426 N x0 x1 x2 x3 Kr K (fun x3 k n s => v_L2_law_18 N x0 x1 x2 Kr K t x3 k n s) k n s)) ∧ (x105 = 7 → (v_L2_law_449 N x0 x1 x2 x3 Kr K (fun x3 k n s => v_L2_law_18 N x0 x1 x2 Kr K t x3 k n s) k n s)) ∧ (x105 = 8 → (v_L2_law_462 N x0 x1 x2 x3 Kr K (fun x3 k n s => v_L2_law_18 N x0 x1 x2 Kr K t x3 k n s) k n s)) ∧ (x105 = 9 → (v_L2_law_475 N x0 x1 x2 x3 Kr K (fun x3 k n s => v_L2_law_18 N x0 x1 x2 Kr K t x3 k n s) k n s)) ∧ (x105 = 10 → (v_L2_law_488 N x0 x1 x2 x3 Kr K (fun x3 k n s => v_L2_law_18 N x0 x1 x2 Kr K t x3 k n s) k n s)) ∧ (x105 = 11 → (v_L2_law_501 N x0 x1 x2 x3 Kr K (fun x3 k n s => v_L2_law_18 N x0 x1 x2 Kr K t x3 k n s) k n s)) ∧ (x105 = 12 → (v_L2_law_514 N x0 x1 x2 x3 Kr K (fun x3 k n s => v_L2_law_18 N x0 x1 x2 Kr K t x3 k n s) k n s)) ∧ (x105 = 13 → (v_L2_law_527 N x0 x1 x2 x3 Kr K (fun x3 k n s => v_L2_law_18 N x0 x1 x2 Kr K t x3 k n s) k n s)) ∧ (x105 = 14 → (v_L2_law_550 N x0 x1 x2 x3 Kr K (fun x3 k n s => v_L2_law_18 N x0 x1 x2 Kr K t x3 k n s) k n s)) ∧ (x105 = 15 → (v_L2_law_583 N x0 x1 x2 x3 Kr K (fun x3 k n s => v_L2_law_18 N x0 x1 x2 Kr K t x3 k n s) k n s)) ∧ (x105 = 16 → (v_L2_law_616 N x0 x1 x2 x3 Kr K (fun x3 k n s => v_L2_law_18 N x0 x1 x2 Kr K t x3 k n s) k n s)) ∧ (x105 = 17 → (v_L2_law_629 N x0 x1 x2 x3 Kr K (fun x3 k n s => v_L2_law_18 N x0 x1 x2 Kr K t x3 k n s) k n s)) ∧ (x105 = 18 → (v_L2_law_642 N x0 x1 x2 x3 Kr K (fun x3 k n s => v_L2_law_18 N x0 x1 x2 Kr K t x3 k n s) k n s)) ∧ (x105 = 19 → (v_L2_law_655 N x0 x1 x2 x3 Kr K (fun x3 k n s => v_L2_law_18 N x0 x1 x2 Kr K t x3 k n s) k n s)) ∧ (x105 = 20 → (v_L2_law_678 N x0 x1 x2 x3 Kr K (fun x3 k n s => v_L2_law_18 N x0 x1 x2 Kr K t x3 k n s) k n s)) ∧ (x105 = 21 → (v_L2_law_711 N x0 x1 x2 x3 Kr K (fun x3 k n s => v_L2_law_18 N x0 x1 x2 Kr K t x3 k n s) k n s)) ∧ (x105 = 22 → (v_L2_law_724 N x0 x1 x2 x3 Kr K (fun x3 k n s => v_L2_law_18 N x0 x1 x2 Kr K t x3 k n s) k n s)) ∧ (x105 = 23 → (v_L2_law_738 N x0 x1 x2 x3 Kr K (fun x3 k n s => v_L2_law_18 N x0 x1 x2 Kr K t x3 k n s) k n s)) ∧ (x105 = 24 → (v_L2_law_761 N x0 x1 x2 x3 Kr K (fun x3 k n s => v_L2_law_18 N x0 x1 x2 Kr K t x3 k n s) k n s)) ∧ (x105 = 25 → (v_L2_law_784 N x0 x1 x2 x3 Kr K (fun x3 k n s => v_L2_law_18 N x0 x1 x2 Kr K t x3 k n s) k n s)) ∧ (x105 = 26 → (v_L2_law_817 N x0 x1 x2 x3 Kr K (fun x3 k n s => v_L2_law_18 N x0 x1 x2 Kr K t x3 k n s) k n s)) ∧ (x105 = 27 → (v_L2_law_850 N x0 x1 x2 x3 Kr K (fun x3 k n s => v_L2_law_18 N x0 x1 x2 Kr K t x3 k n s) k n s)) ∧ (x105 = 28 → (v_L2_law_873 N x0 x1 x2 x3 Kr K (fun x3 k n s => v_L2_law_18 N x0 x1 x2 Kr K t x3 k n s) k n s)) ∧ (x105 = 29 → (v_L2_law_906 N x0 x1 x2 x3 Kr K (fun x3 k n s => v_L2_law_18 N x0 x1 x2 Kr K t x3 k n s) k n s)) ∧ (x105 = 30 → (v_L2_law_919 N x0 x1 x2 x3 Kr K (fun x3 k n s => v_L2_law_18 N x0 x1 x2 Kr K t x3 k n s) k n s)) ∧ (x105 = 31 → (v_L2_law_932 N x0 x1 x2 x3 Kr K (fun x3 k n s => v_L2_law_18 N x0 x1 x2 Kr K t x3 k n s) k n s)) ∧ (x105 = 32 → (v_L2_law_955 N x0 x1 x2 x3 Kr K (fun x3 k n s => v_L2_law_18 N x0 x1 x2 Kr K t x3 k n s) k n s)) ∧ (x105 = 33 → (v_L2_law_989 N x0 x1 x2 x3 Kr K (fun x3 k n s => v_L2_law_18 N x0 x1 x2 Kr K t x3 k n s) k n s)) ∧ (x105 = 34 → (v_L2_law_1012 N x0 x1 x2 x3 Kr K (fun x3 k n s => v_L2_law_18 N x0 x1 x2 Kr K t x3 k n s) k n s)) ∧ (x105 = 35 → (v_L2_law_1045 N x0 x1 x2 x3 Kr K (fun x3 k n s => v_L2_law_18 N x0 x1 x2 Kr K t x3 k n s) k n s)) ∧ (x105 = 36 → (v_L2_law_1078 N x0 x1 x2 x3 Kr K (fun x3 k n s => v_L2_law_18 N x0 x1 x2 Kr K t x3 k n s) k n s)) ∧ (x105 = 37 → (v_L2_law_1101 N x0 x1 x2 x3 Kr K (fun x3 k n s => v_L2_law_18 N x0 x1 x2 Kr K t x3 k n s) k n s)) ∧ (x105 = 38 → (v_L2_law_1124 N x0 x1 x2 x3 Kr K (fun x3 k n s => v_L2_law_18 N x0 x1 x2 Kr K t x3 k n s) k n s)) ∧ (x105 = 39 → (v_L2_law_1147 N x0 x1 x2 x3 Kr K (fun x3 k n s => v_L2_law_18 N x0 x1 x2 Kr K t x3 k n s) k n s)) ∧ (¬ x105 = 0 → ¬ x105 = 1 → ¬ x105 = 2 → ¬ x105 = 3 → ¬ x105 = 4 → ¬ x105 = 5 → ¬ x105 = 6 → ¬ x105 = 7 → ¬ x105 = 8 → ¬ x105 = 9 → ¬ x105 = 10 → ¬ x105 = 11 → ¬ x105 = 12 → ¬ x105 = 13 → ¬ x105 = 14 → ¬ x105 = 15 → ¬ x105 = 16 → ¬ x105 = 17 → ¬ x105 = 18 → ¬ x105 = 19 → ¬ x105 = 20 → ¬ x105 = 21 → ¬ x105 = 22 → ¬ x105 = 23 → ¬ x105 = 24 → ¬ x105 = 25 → ¬ x105 = 26 → ¬ x105 = 27 → ¬ x105 = 28 → ¬ x105 = 29 → ¬ x105 = 30 → ¬ x105 = 31 → ¬ x105 = 32 → ¬ x105 = 33 → ¬ x105 = 34 → ¬ x105 = 35 → ¬ x105 = 36 → ¬ x105 = 37 → ¬ x105 = 38 → ¬ x105 = 39 → (∀ x146 : Int32, x146 = x3 + 6 → ((fun x3 k n s => v_L2_law_18 N x0 x1 x2 Kr K t x3 k n s) x146 k n s))))))))))
theorem e_L2_law_18 {G : xG} {l : Launch} {g : xH} {d : Nat} {N : tP} (hN : tNs G N) (hl : l.stackTraces = false) (hd : 2 * N.2.1 + 202 ≤ d) (x0 : Nat) (x1 : Nat) (x2 : Nat) (Kr : Int32 → tM → Prop) (K : Nat → Nat → tM → Prop) : ∀ (t : Nat) (x3 : Int32) (k n : Nat) (s : tM) , v_L2_law_18 N x0 x1 x2 Kr K t x3 k n s → (∀ (k n : Nat) (s : tM), K k n s → xF G l kL (d + 1) k n (tQ G g wi Kr tNo) 1166 [none, none, none, none] [] (tH G g s)) → xF G l kL (d + 1) k n (tQ G g wi Kr tNo) 18 [some (rfv x0), some (rfv x1), some (rfv x2), some (.int x3)] [] (tH G g s) := by
  intro t
  induction t with
  | zero =>
    intro _ _ _ _ h _
    exact absurd h (by simp [v_L2_law_18])
  | succ t ih =>
    intro x3 k n s h hK
    have hR := fun x3 k n s h => ih x3 k n s h hK
    unfold v_L2_law_18 at h
    refine x_iload_3 dL_law_18 ?_
    refine t_aload_0 dL_law_19 ?_
    obtain ⟨e101, h⟩ := h
    refine t_scrLen e101 hN dL_law_20 ?_
    refine x_bipush (v := 6) dL_law_21 (by decide) ?_
    refine x_isub dL_law_23 ?_
    refine x_icmp_gt 1166 dL_law_24 (by decide) (fun c102 => ?_) (fun c102 => ?_)
    · have h := h.1 c102
      exact x_le (xLe_none (xLe_none (xLe_none (xLe_none (xLe_nil))))) (hK _ _ _ h)
    · have h := h.2 c102
      refine t_aload_0 dL_law_27 ?_
      refine x_iload_3 dL_law_28 ?_
      obtain ⟨e103, h⟩ := h
      obtain ⟨e104, h⟩ := h
      refine t_scrI e103 hN dL_law_29 e104 ?_
      refine x_bipush (v := 63) dL_law_30 (by decide) ?_
      refine x_iand dL_law_32 ?_
      refine t_topi (fun x105 ex105 => ?_)
      have h := h x105 ex105
      by_cases c106 : x105 = 0
      · have h := h.1 c106
        refine x_cast rfl rfl (by rw [c106]) ?_
        refine x_tabIn 208 dL_law_33 (by decide) (by decide) (off := 175) (by decide) (by decide) ?_
        exact x_le (xLe_cons (xLe_cons (xLe_cons (xLe_cons (xLe_nil))))) (e_L2_law_208 hN hl (by omega) _ _ _ _ _ _ _ _ _ _ h hK hR)
      by_cases c107 : x105 = 1
      · have h := h.2.1 c107
        refine x_cast rfl rfl (by rw [c107]) ?_
        refine x_tabIn 241 dL_law_33 (by decide) (by decide) (off := 208) (by decide) (by decide) ?_
        exact x_le (xLe_cons (xLe_cons (xLe_cons (xLe_cons (xLe_nil))))) (e_L2_law_241 hN hl (by omega) _ _ _ _ _ _ _ _ _ _ h hK hR)
      by_cases c108 : x105 = 2
      · have h := h.2.2.1 c108
        refine x_cast rfl rfl (by rw [c108]) ?_
        refine x_tabIn 274 dL_law_33 (by decide) (by decide) (off := 241) (by decide) (by decide) ?_
        exact x_le (xLe_cons (xLe_cons (xLe_cons (xLe_cons (xLe_nil))))) (e_L2_law_274 hN hl (by omega) _ _ _ _ _ _ _ _ _ _ h hK hR)
      by_cases c109 : x105 = 3
      · have h := h.2.2.2.1 c109
        refine x_cast rfl rfl (by rw [c109]) ?_
        refine x_tabIn 307 dL_law_33 (by decide) (by decide) (off := 274) (by decide) (by decide) ?_
        exact x_le (xLe_cons (xLe_cons (xLe_cons (xLe_cons (xLe_nil))))) (e_L2_law_307 hN hl (by omega) _ _ _ _ _ _ _ _ _ _ h hK hR)
      by_cases c110 : x105 = 4
      · have h := h.2.2.2.2.1 c110
        refine x_cast rfl rfl (by rw [c110]) ?_
        refine x_tabIn 330 dL_law_33 (by decide) (by decide) (off := 297) (by decide) (by decide) ?_
        exact x_le (xLe_cons (xLe_cons (xLe_cons (xLe_cons (xLe_nil))))) (e_L2_law_330 hN hl (by omega) _ _ _ _ _ _ _ _ _ _ h hK hR)
      by_cases c111 : x105 = 5
      · have h := h.2.2.2.2.2.1 c111
        refine x_cast rfl rfl (by rw [c111]) ?_
        refine x_tabIn 363 dL_law_33 (by decide) (by decide) (off := 330) (by decide) (by decide) ?_
        exact x_le (xLe_cons (xLe_cons (xLe_cons (xLe_cons (xLe_nil))))) (e_L2_law_363 hN hl (by omega) _ _ _ _ _ _ _ _ _ _ h hK hR)
      by_cases c112 : x105 = 6
      · have h := h.2.2.2.2.2.2.1 c112
        refine x_cast rfl rfl (by rw [c112]) ?_
        refine x_tabIn 426 dL_law_33 (by decide) (by decide) (off := 393) (by decide) (by decide) ?_
        exact x_le (xLe_cons (xLe_cons (xLe_cons (xLe_cons (xLe_nil))))) (e_L2_law_426 hN hl (by omega) _ _ _ _ _ _ _ _ _ _ h hK hR)
      by_cases c113 : x105 = 7
      · have h := h.2.2.2.2.2.2.2.1 c113
        refine x_cast rfl rfl (by rw [c113]) ?_
        refine x_tabIn 449 dL_law_33 (by decide) (by decide) (off := 416) (by decide) (by decide) ?_
        exact x_le (xLe_cons (xLe_cons (xLe_cons (xLe_cons (xLe_nil))))) (e_L2_law_449 hN hl (by omega) _ _ _ _ _ _ _ _ _ _ h hK hR)
      by_cases c114 : x105 = 8
      · have h := h.2.2.2.2.2.2.2.2.1 c114
        refine x_cast rfl rfl (by rw [c114]) ?_
        refine x_tabIn 462 dL_law_33 (by decide) (by decide) (off := 429) (by decide) (by decide) ?_
        exact x_le (xLe_cons (xLe_cons (xLe_cons (xLe_cons (xLe_nil))))) (e_L2_law_462 hN hl (by omega) _ _ _ _ _ _ _ _ _ _ h hK hR)
      by_cases c115 : x105 = 9
      · have h := h.2.2.2.2.2.2.2.2.2.1 c115
        refine x_cast rfl rfl (by rw [c115]) ?_
        refine x_tabIn 475 dL_law_33 (by decide) (by decide) (off := 442) (by decide) (by decide) ?_
        exact x_le (xLe_cons (xLe_cons (xLe_cons (xLe_cons (xLe_nil))))) (e_L2_law_475 hN hl (by omega) _ _ _ _ _ _ _ _ _ _ h hK hR)
      by_cases c116 : x105 = 10
      · have h := h.2.2.2.2.2.2.2.2.2.2.1 c116
        refine x_cast rfl rfl (by rw [c116]) ?_
        refine x_tabIn 488 dL_law_33 (by decide) (by decide) (off := 455) (by decide) (by decide) ?_
        exact x_le (xLe_cons (xLe_cons (xLe_cons (xLe_cons (xLe_nil))))) (e_L2_law_488 hN hl (by omega) _ _ _ _ _ _ _ _ _ _ h hK hR)
      by_cases c117 : x105 = 11
      · have h := h.2.2.2.2.2.2.2.2.2.2.2.1 c117
        refine x_cast rfl rfl (by rw [c117]) ?_
        refine x_tabIn 501 dL_law_33 (by decide) (by decide) (off := 468) (by decide) (by decide) ?_
        exact x_le (xLe_cons (xLe_cons (xLe_cons (xLe_cons (xLe_nil))))) (e_L2_law_501 hN hl (by omega) _ _ _ _ _ _ _ _ _ _ h hK hR)
      by_cases c118 : x105 = 12
      · have h := h.2.2.2.2.2.2.2.2.2.2.2.2.1 c118
        refine x_cast rfl rfl (by rw [c118]) ?_
        refine x_tabIn 514 dL_law_33 (by decide) (by decide) (off := 481) (by decide) (by decide) ?_
        exact x_le (xLe_cons (xLe_cons (xLe_cons (xLe_cons (xLe_nil))))) (e_L2_law_514 hN hl (by omega) _ _ _ _ _ _ _ _ _ _ h hK hR)
      by_cases c119 : x105 = 13
      · have h := h.2.2.2.2.2.2.2.2.2.2.2.2.2.1 c119
        refine x_cast rfl rfl (by rw [c119]) ?_
        refine x_tabIn 527 dL_law_33 (by decide) (by decide) (off := 494) (by decide) (by decide) ?_
        exact x_le (xLe_cons (xLe_cons (xLe_cons (xLe_cons (xLe_nil))))) (e_L2_law_527 hN hl (by omega) _ _ _ _ _ _ _ _ _ _ h hK hR)
      by_cases c120 : x105 = 14
      · have h := h.2.2.2.2.2.2.2.2.2.2.2.2.2.2.1 c120
        refine x_cast rfl rfl (by rw [c120]) ?_
        refine x_tabIn 550 dL_law_33 (by decide) (by decide) (off := 517) (by decide) (by decide) ?_
        exact x_le (xLe_cons (xLe_cons (xLe_cons (xLe_cons (xLe_nil))))) (e_L2_law_550 hN hl (by omega) _ _ _ _ _ _ _ _ _ _ h hK hR)
      by_cases c121 : x105 = 15
      · have h := h.2.2.2.2.2.2.2.2.2.2.2.2.2.2.2.1 c121
        refine x_cast rfl rfl (by rw [c121]) ?_
        refine x_tabIn 583 dL_law_33 (by decide) (by decide) (off := 550) (by decide) (by decide) ?_
        exact x_le (xLe_cons (xLe_cons (xLe_cons (xLe_cons (xLe_nil))))) (e_L2_law_583 hN hl (by omega) _ _ _ _ _ _ _ _ _ _ h hK hR)
      by_cases c122 : x105 = 16
      · have h := h.2.2.2.2.2.2.2.2.2.2.2.2.2.2.2.2.1 c122
        refine x_cast rfl rfl (by rw [c122]) ?_
        refine x_tabIn 616 dL_law_33 (by decide) (by decide) (off := 583) (by decide) (by decide) ?_
        exact x_le (xLe_cons (xLe_cons (xLe_cons (xLe_cons (xLe_nil))))) (e_L2_law_616 hN hl (by omega) _ _ _ _ _ _ _ _ _ _ h hK hR)
      by_cases c123 : x105 = 17
      · have h := h.2.2.2.2.2.2.2.2.2.2.2.2.2.2.2.2.2.1 c123
        refine x_cast rfl rfl (by rw [c123]) ?_
        refine x_tabIn 629 dL_law_33 (by decide) (by decide) (off := 596) (by decide) (by decide) ?_
        exact x_le (xLe_cons (xLe_cons (xLe_cons (xLe_cons (xLe_nil))))) (e_L2_law_629 hN hl (by omega) _ _ _ _ _ _ _ _ _ _ h hK hR)
      by_cases c124 : x105 = 18
      · have h := h.2.2.2.2.2.2.2.2.2.2.2.2.2.2.2.2.2.2.1 c124
        refine x_cast rfl rfl (by rw [c124]) ?_
        refine x_tabIn 642 dL_law_33 (by decide) (by decide) (off := 609) (by decide) (by decide) ?_
        exact x_le (xLe_cons (xLe_cons (xLe_cons (xLe_cons (xLe_nil))))) (e_L2_law_642 hN hl (by omega) _ _ _ _ _ _ _ _ _ _ h hK hR)
      by_cases c125 : x105 = 19
      · have h := h.2.2.2.2.2.2.2.2.2.2.2.2.2.2.2.2.2.2.2.1 c125
        refine x_cast rfl rfl (by rw [c125]) ?_
        refine x_tabIn 655 dL_law_33 (by decide) (by decide) (off := 622) (by decide) (by decide) ?_
        exact x_le (xLe_cons (xLe_cons (xLe_cons (xLe_cons (xLe_nil))))) (e_L2_law_655 hN hl (by omega) _ _ _ _ _ _ _ _ _ _ h hK hR)
      by_cases c126 : x105 = 20
      · have h := h.2.2.2.2.2.2.2.2.2.2.2.2.2.2.2.2.2.2.2.2.1 c126
        refine x_cast rfl rfl (by rw [c126]) ?_
        refine x_tabIn 678 dL_law_33 (by decide) (by decide) (off := 645) (by decide) (by decide) ?_
        exact x_le (xLe_cons (xLe_cons (xLe_cons (xLe_cons (xLe_nil))))) (e_L2_law_678 hN hl (by omega) _ _ _ _ _ _ _ _ _ _ h hK hR)
      by_cases c127 : x105 = 21
      · have h := h.2.2.2.2.2.2.2.2.2.2.2.2.2.2.2.2.2.2.2.2.2.1 c127
        refine x_cast rfl rfl (by rw [c127]) ?_
        refine x_tabIn 711 dL_law_33 (by decide) (by decide) (off := 678) (by decide) (by decide) ?_
        exact x_le (xLe_cons (xLe_cons (xLe_cons (xLe_cons (xLe_nil))))) (e_L2_law_711 hN hl (by omega) _ _ _ _ _ _ _ _ _ _ h hK hR)
      by_cases c128 : x105 = 22
      · have h := h.2.2.2.2.2.2.2.2.2.2.2.2.2.2.2.2.2.2.2.2.2.2.1 c128
        refine x_cast rfl rfl (by rw [c128]) ?_
        refine x_tabIn 724 dL_law_33 (by decide) (by decide) (off := 691) (by decide) (by decide) ?_
        exact x_le (xLe_cons (xLe_cons (xLe_cons (xLe_cons (xLe_nil))))) (e_L2_law_724 hN hl (by omega) _ _ _ _ _ _ _ _ _ _ h hK hR)
      by_cases c129 : x105 = 23
      · have h := h.2.2.2.2.2.2.2.2.2.2.2.2.2.2.2.2.2.2.2.2.2.2.2.1 c129
        refine x_cast rfl rfl (by rw [c129]) ?_
        refine x_tabIn 738 dL_law_33 (by decide) (by decide) (off := 705) (by decide) (by decide) ?_
        exact x_le (xLe_cons (xLe_cons (xLe_cons (xLe_cons (xLe_nil))))) (e_L2_law_738 hN hl (by omega) _ _ _ _ _ _ _ _ _ _ h hK hR)
      by_cases c130 : x105 = 24
      · have h := h.2.2.2.2.2.2.2.2.2.2.2.2.2.2.2.2.2.2.2.2.2.2.2.2.1 c130
        refine x_cast rfl rfl (by rw [c130]) ?_
        refine x_tabIn 761 dL_law_33 (by decide) (by decide) (off := 728) (by decide) (by decide) ?_
        exact x_le (xLe_cons (xLe_cons (xLe_cons (xLe_cons (xLe_nil))))) (e_L2_law_761 hN hl (by omega) _ _ _ _ _ _ _ _ _ _ h hK hR)
      by_cases c131 : x105 = 25
      · have h := h.2.2.2.2.2.2.2.2.2.2.2.2.2.2.2.2.2.2.2.2.2.2.2.2.2.1 c131
        refine x_cast rfl rfl (by rw [c131]) ?_
        refine x_tabIn 784 dL_law_33 (by decide) (by decide) (off := 751) (by decide) (by decide) ?_
        exact x_le (xLe_cons (xLe_cons (xLe_cons (xLe_cons (xLe_nil))))) (e_L2_law_784 hN hl (by omega) _ _ _ _ _ _ _ _ _ _ h hK hR)
      by_cases c132 : x105 = 26
      · have h := h.2.2.2.2.2.2.2.2.2.2.2.2.2.2.2.2.2.2.2.2.2.2.2.2.2.2.1 c132
        refine x_cast rfl rfl (by rw [c132]) ?_
        refine x_tabIn 817 dL_law_33 (by decide) (by decide) (off := 784) (by decide) (by decide) ?_
        exact x_le (xLe_cons (xLe_cons (xLe_cons (xLe_cons (xLe_nil))))) (e_L2_law_817 hN hl (by omega) _ _ _ _ _ _ _ _ _ _ h hK hR)
      by_cases c133 : x105 = 27
      · have h := h.2.2.2.2.2.2.2.2.2.2.2.2.2.2.2.2.2.2.2.2.2.2.2.2.2.2.2.1 c133
        refine x_cast rfl rfl (by rw [c133]) ?_
        refine x_tabIn 850 dL_law_33 (by decide) (by decide) (off := 817) (by decide) (by decide) ?_
        exact x_le (xLe_cons (xLe_cons (xLe_cons (xLe_cons (xLe_nil))))) (e_L2_law_850 hN hl (by omega) _ _ _ _ _ _ _ _ _ _ h hK hR)
      by_cases c134 : x105 = 28
      · have h := h.2.2.2.2.2.2.2.2.2.2.2.2.2.2.2.2.2.2.2.2.2.2.2.2.2.2.2.2.1 c134
        refine x_cast rfl rfl (by rw [c134]) ?_
        refine x_tabIn 873 dL_law_33 (by decide) (by decide) (off := 840) (by decide) (by decide) ?_
        exact x_le (xLe_cons (xLe_cons (xLe_cons (xLe_cons (xLe_nil))))) (e_L2_law_873 hN hl (by omega) _ _ _ _ _ _ _ _ _ _ h hK hR)
      by_cases c135 : x105 = 29
      · have h := h.2.2.2.2.2.2.2.2.2.2.2.2.2.2.2.2.2.2.2.2.2.2.2.2.2.2.2.2.2.1 c135
        refine x_cast rfl rfl (by rw [c135]) ?_
        refine x_tabIn 906 dL_law_33 (by decide) (by decide) (off := 873) (by decide) (by decide) ?_
        exact x_le (xLe_cons (xLe_cons (xLe_cons (xLe_cons (xLe_nil))))) (e_L2_law_906 hN hl (by omega) _ _ _ _ _ _ _ _ _ _ h hK hR)
      by_cases c136 : x105 = 30
      · have h := h.2.2.2.2.2.2.2.2.2.2.2.2.2.2.2.2.2.2.2.2.2.2.2.2.2.2.2.2.2.2.1 c136
        refine x_cast rfl rfl (by rw [c136]) ?_
        refine x_tabIn 919 dL_law_33 (by decide) (by decide) (off := 886) (by decide) (by decide) ?_
        exact x_le (xLe_cons (xLe_cons (xLe_cons (xLe_cons (xLe_nil))))) (e_L2_law_919 hN hl (by omega) _ _ _ _ _ _ _ _ _ _ h hK hR)
      by_cases c137 : x105 = 31
      · have h := h.2.2.2.2.2.2.2.2.2.2.2.2.2.2.2.2.2.2.2.2.2.2.2.2.2.2.2.2.2.2.2.1 c137
        refine x_cast rfl rfl (by rw [c137]) ?_
        refine x_tabIn 932 dL_law_33 (by decide) (by decide) (off := 899) (by decide) (by decide) ?_
        exact x_le (xLe_cons (xLe_cons (xLe_cons (xLe_cons (xLe_nil))))) (e_L2_law_932 hN hl (by omega) _ _ _ _ _ _ _ _ _ _ h hK hR)
      by_cases c138 : x105 = 32
      · have h := h.2.2.2.2.2.2.2.2.2.2.2.2.2.2.2.2.2.2.2.2.2.2.2.2.2.2.2.2.2.2.2.2.1 c138
        refine x_cast rfl rfl (by rw [c138]) ?_
        refine x_tabIn 955 dL_law_33 (by decide) (by decide) (off := 922) (by decide) (by decide) ?_
        exact x_le (xLe_cons (xLe_cons (xLe_cons (xLe_cons (xLe_nil))))) (e_L2_law_955 hN hl (by omega) _ _ _ _ _ _ _ _ _ _ h hK hR)
      by_cases c139 : x105 = 33
      · have h := h.2.2.2.2.2.2.2.2.2.2.2.2.2.2.2.2.2.2.2.2.2.2.2.2.2.2.2.2.2.2.2.2.2.1 c139
        refine x_cast rfl rfl (by rw [c139]) ?_
        refine x_tabIn 989 dL_law_33 (by decide) (by decide) (off := 956) (by decide) (by decide) ?_
        exact x_le (xLe_cons (xLe_cons (xLe_cons (xLe_cons (xLe_nil))))) (e_L2_law_989 hN hl (by omega) _ _ _ _ _ _ _ _ _ _ h hK hR)
      by_cases c140 : x105 = 34
      · have h := h.2.2.2.2.2.2.2.2.2.2.2.2.2.2.2.2.2.2.2.2.2.2.2.2.2.2.2.2.2.2.2.2.2.2.1 c140
        refine x_cast rfl rfl (by rw [c140]) ?_
        refine x_tabIn 1012 dL_law_33 (by decide) (by decide) (off := 979) (by decide) (by decide) ?_
        exact x_le (xLe_cons (xLe_cons (xLe_cons (xLe_cons (xLe_nil))))) (e_L2_law_1012 hN hl (by omega) _ _ _ _ _ _ _ _ _ _ h hK hR)
      by_cases c141 : x105 = 35
      · have h := h.2.2.2.2.2.2.2.2.2.2.2.2.2.2.2.2.2.2.2.2.2.2.2.2.2.2.2.2.2.2.2.2.2.2.2.1 c141
        refine x_cast rfl rfl (by rw [c141]) ?_
        refine x_tabIn 1045 dL_law_33 (by decide) (by decide) (off := 1012) (by decide) (by decide) ?_
        exact x_le (xLe_cons (xLe_cons (xLe_cons (xLe_cons (xLe_nil))))) (e_L2_law_1045 hN hl (by omega) _ _ _ _ _ _ _ _ _ _ h hK hR)
      by_cases c142 : x105 = 36
      · have h := h.2.2.2.2.2.2.2.2.2.2.2.2.2.2.2.2.2.2.2.2.2.2.2.2.2.2.2.2.2.2.2.2.2.2.2.2.1 c142
        refine x_cast rfl rfl (by rw [c142]) ?_
        refine x_tabIn 1078 dL_law_33 (by decide) (by decide) (off := 1045) (by decide) (by decide) ?_
        exact x_le (xLe_cons (xLe_cons (xLe_cons (xLe_cons (xLe_nil))))) (e_L2_law_1078 hN hl (by omega) _ _ _ _ _ _ _ _ _ _ h hK hR)
      by_cases c143 : x105 = 37
      · have h := h.2.2.2.2.2.2.2.2.2.2.2.2.2.2.2.2.2.2.2.2.2.2.2.2.2.2.2.2.2.2.2.2.2.2.2.2.2.1 c143
        refine x_cast rfl rfl (by rw [c143]) ?_
        refine x_tabIn 1101 dL_law_33 (by decide) (by decide) (off := 1068) (by decide) (by decide) ?_
        exact x_le (xLe_cons (xLe_cons (xLe_cons (xLe_cons (xLe_nil))))) (e_L2_law_1101 hN hl (by omega) _ _ _ _ _ _ _ _ _ _ h hK hR)
      by_cases c144 : x105 = 38
      · have h := h.2.2.2.2.2.2.2.2.2.2.2.2.2.2.2.2.2.2.2.2.2.2.2.2.2.2.2.2.2.2.2.2.2.2.2.2.2.2.1 c144
        refine x_cast rfl rfl (by rw [c144]) ?_
        refine x_tabIn 1124 dL_law_33 (by decide) (by decide) (off := 1091) (by decide) (by decide) ?_
        exact x_le (xLe_cons (xLe_cons (xLe_cons (xLe_cons (xLe_nil))))) (e_L2_law_1124 hN hl (by omega) _ _ _ _ _ _ _ _ _ _ h hK hR)
      by_cases c145 : x105 = 39
      · have h := h.2.2.2.2.2.2.2.2.2.2.2.2.2.2.2.2.2.2.2.2.2.2.2.2.2.2.2.2.2.2.2.2.2.2.2.2.2.2.2.1 c145
        refine x_cast rfl rfl (by rw [c145]) ?_
        refine x_tabIn 1147 dL_law_33 (by decide) (by decide) (off := 1114) (by decide) (by decide) ?_
        exact x_le (xLe_cons (xLe_cons (xLe_cons (xLe_cons (xLe_nil))))) (e_L2_law_1147 hN hl (by omega) _ _ _ _ _ _ _ _ _ _ h hK hR)
      have h := h.2.2.2.2.2.2.2.2.2.2.2.2.2.2.2.2.2.2.2.2.2.2.2.2.2.2.2.2.2.2.2.2.2.2.2.2.2.2.2.2 c106 c107 c108 c109 c110 c111 c112 c113 c114 c115 c116 c117 c118 c119 c120 c121 c122 c123 c124 c125 c126 c127 c128 c129 c130 c131 c132 c133 c134 c135 c136 c137 c138 c139 c140 c141 c142 c143 c144 c145
      have z0 := xti (v := 0) (z := 0) (by decide) c106
      have z1 := xti (v := 1) (z := 1) (by decide) c107
      have z2 := xti (v := 2) (z := 2) (by decide) c108
      have z3 := xti (v := 3) (z := 3) (by decide) c109
      have z4 := xti (v := 4) (z := 4) (by decide) c110
      have z5 := xti (v := 5) (z := 5) (by decide) c111
      have z6 := xti (v := 6) (z := 6) (by decide) c112
      have z7 := xti (v := 7) (z := 7) (by decide) c113
      have z8 := xti (v := 8) (z := 8) (by decide) c114
      have z9 := xti (v := 9) (z := 9) (by decide) c115
      have z10 := xti (v := 10) (z := 10) (by decide) c116
      have z11 := xti (v := 11) (z := 11) (by decide) c117
      have z12 := xti (v := 12) (z := 12) (by decide) c118
      have z13 := xti (v := 13) (z := 13) (by decide) c119
      have z14 := xti (v := 14) (z := 14) (by decide) c120
      have z15 := xti (v := 15) (z := 15) (by decide) c121
      have z16 := xti (v := 16) (z := 16) (by decide) c122
      have z17 := xti (v := 17) (z := 17) (by decide) c123
      have z18 := xti (v := 18) (z := 18) (by decide) c124
      have z19 := xti (v := 19) (z := 19) (by decide) c125
      have z20 := xti (v := 20) (z := 20) (by decide) c126
      have z21 := xti (v := 21) (z := 21) (by decide) c127
      have z22 := xti (v := 22) (z := 22) (by decide) c128
      have z23 := xti (v := 23) (z := 23) (by decide) c129
      have z24 := xti (v := 24) (z := 24) (by decide) c130
      have z25 := xti (v := 25) (z := 25) (by decide) c131
      have z26 := xti (v := 26) (z := 26) (by decide) c132
      have z27 := xti (v := 27) (z := 27) (by decide) c133
      have z28 := xti (v := 28) (z := 28) (by decide) c134
      have z29 := xti (v := 29) (z := 29) (by decide) c135
      have z30 := xti (v := 30) (z := 30) (by decide) c136
      have z31 := xti (v := 31) (z := 31) (by decide) c137
      have z32 := xti (v := 32) (z := 32) (by decide) c138
      have z33 := xti (v := 33) (z := 33) (by decide) c139
      have z34 := xti (v := 34) (z := 34) (by decide) c140
      have z35 := xti (v := 35) (z := 35) (by decide) c141
      have z36 := xti (v := 36) (z := 36) (by decide) c142
      have z37 := xti (v := 37) (z := 37) (by decide) c143
      have z38 := xti (v := 38) (z := 38) (by decide) c144
      have z39 := xti (v := 39) (z := 39) (by decide) c145
      refine x_tabOut 1160 dL_law_33 (by omega) (by decide) ?_
      refine x_iinc_3 (v := 6) dL_law_1160 (by decide) (by decide) xN2_f ?_
      have h := h _ rfl
      refine x_goto 18 dL_law_1163 (by decide) ?_
      exact x_le (xLe_cons (xLe_cons (xLe_cons (xLe_cons (xLe_nil))))) (hR _ _ _ _ h)
def v_L2_law (N : tP) (x0 : Nat) (k n : Nat) (s : tM) (Kr : Int32 → tM → Prop) : Prop :=
  (1 ≤ k ∧ (28 ≤ n ∧ (∀ q103 : Nat, s.1 q103 = none → ¬ q103 = 0 → ¬ q103 = N.2.2 200 → (∀ s104 : tM, s104 = tNew s q103 (.inl 0) → (∃ c109 c110 : Nat, c109 ≤ k - 1 ∧ c110 ≤ n - 28 ∧ (v_X0_init N q103 c109 c110 s104 (fun s108 => (1 ≤ ((k - 1) - c109) ∧ (51 ≤ ((n - 28) - c110) ∧ (∀ q115 : Nat, s108.1 q115 = none → ¬ q115 = 0 → ¬ q115 = N.2.2 200 → (∀ s116 : tM, s116 = tNew s108 q115 (.inl 6) → (∃ c121 c122 : Nat, c121 ≤ ((k - 1) - c109) - 1 ∧ c122 ≤ ((n - 28) - c110) - 51 ∧ (v_X6_init N q115 c121 c122 s116 (fun s120 => (v_L2_law_18 N x0 q103 q115 Kr (fun k126 n127 s125 => (Kr 1 s125)) N.1 0 ((((k - 1) - c109) - 1) - c121) ((((n - 28) - c110) - 51) - c122) s120)))))))))))))))
theorem e_L2_law {G : xG} {l : Launch} {g : xH} {d : Nat} {N : tP} (hN : tNs G N) (hl : l.stackTraces = false) (hd : 2 * N.2.1 + 202 ≤ d) {x0 : Nat} {k n : Nat} {s : tM} {Kr : Int32 → tM → Prop} (h : v_L2_law N x0 k n s Kr) : xF G l kL (d + 1) k n (tQ G g wi Kr tNo) 0 [some (rfv x0), none, none, none] [] (tH G g s) := by
  unfold v_L2_law at h
  obtain ⟨e101, h⟩ := h
  obtain ⟨e102, h⟩ := h
  refine t_new (N := 28) dL_law_0 ne_L_7 rfl e101 e102 (fun q h1 h2 h3 => ?_)
  have h := h q h1 h2 (fun e => h3 (e.trans (hN 200)))
  refine t_gen h (fun s104 w105 h => ?_)
  have e106 := h2
  refine x_dup dL_law_3 (rfv_c _) ?_
  obtain ⟨c109, c110, e111, e112, h⟩ := h
  refine t_cI (As := []) rfl ci_L_9 e106 rfl rfl (xrm4 (Nat.le_of_ble_eq_true rfl)) dL_law_4 (e_X0_init hN (by omega) h) ⟨e111, e112⟩ (fun _ _ _ h => h.elim) (fun _ s108 h => ?_)
  refine t_astore_1 dL_law_7 (by decide) xN2_f ?_
  obtain ⟨e113, h⟩ := h
  obtain ⟨e114, h⟩ := h
  refine t_new (N := 51) dL_law_8 ne_L_10 rfl e113 e114 (fun q h1 h2 h3 => ?_)
  have h := h q h1 h2 (fun e => h3 (e.trans (hN 200)))
  refine t_gen h (fun s116 w117 h => ?_)
  have e118 := h2
  refine x_dup dL_law_11 (rfv_c _) ?_
  obtain ⟨c121, c122, e123, e124, h⟩ := h
  refine t_cI (As := []) rfl ci_L_12 e118 rfl rfl (xrm4 (Nat.le_of_ble_eq_true rfl)) dL_law_12 (e_X6_init hN (by omega) h) ⟨e123, e124⟩ (fun _ _ _ h => h.elim) (fun _ s120 h => ?_)
  refine t_astore_2 dL_law_15 (by decide) xN2_f ?_
  refine x_iconst (v := 0) dL_law_16 (by decide) ?_
  refine x_istore_3 dL_law_17 (by decide) xN2_f ?_
  refine x_le (xLe_cons (xLe_cons (xLe_cons (xLe_cons (xLe_nil))))) (e_L2_law_18 hN hl (by omega) _ _ _ _ _  _ _ _ _ _ h (fun k126 n127 s125 h => ?_))
  refine x_iconst (v := 1) dL_law_1166 (by decide) ?_
  exact x_zret1 dL_law_1167 rfl (Or.inl ⟨_, _, h, rfl, rfl⟩)
