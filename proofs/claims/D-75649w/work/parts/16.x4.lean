set_option maxRecDepth 100000
def v_X0_best_76 (N : tP) (x0 : Nat) (x1 : Int32) (x2 : Int32) (x3 : Int32) (Kr : Int32 → tM → Prop) (K : Int32 → tM → Prop) : Nat → Int32 → tM → Prop
  | 0, _, _ => False
  | t + 1, x4, s => (tO s 0 x0 ∧ (tX s 13 (tR s x0 16) x3 ∧ (tX s 12 (tR s (tR s x0 16) x3.toNatClampNeg) x2 ∧ (tX s 3 (tR s (tR s (tR s x0 16) x3.toNatClampNeg) x2.toNatClampNeg) x4 ∧ (((tI s (tR s (tR s (tR s x0 16) x3.toNatClampNeg) x2.toNatClampNeg) x4.toNatClampNeg) = 0 → (∀ x106 : Int32, x106 = x4 + 1 → ((fun x4 s => v_X0_best_76 N x0 x1 x2 x3 Kr K t x4 s) x106 s))) ∧ (¬ (tI s (tR s (tR s (tR s x0 16) x3.toNatClampNeg) x2.toNatClampNeg) x4.toNatClampNeg) = 0 → (tX s 15 (tR s x0 22) (x3 + 1) ∧ (tX s 1 (tR s (tR s x0 22) (x3 + 1).toNatClampNeg) (x4 + 1) ∧ (((lg_cmp (tJ s (tR s (tR s x0 22) (x3 + 1).toNatClampNeg) (x4 + 1).toNatClampNeg) 0) = 0 → (∀ x110 : Int32, x110 = x4 + 1 → ((fun x4 s => v_X0_best_76 N x0 x1 x2 x3 Kr K t x4 s) x110 s))) ∧ (¬ (lg_cmp (tJ s (tR s (tR s x0 22) (x3 + 1).toNatClampNeg) (x4 + 1).toNatClampNeg) 0) = 0 → (tX s 14 (tR s x0 17) x3 ∧ (tX s 11 (tR s (tR s x0 17) x3.toNatClampNeg) x2 ∧ (tX s 0 (tR s (tR s (tR s x0 17) x3.toNatClampNeg) x2.toNatClampNeg) x4 ∧ (tX s 11 (tR s x0 19) (x3 + 1) ∧ (tX s 0 (tR s (tR s x0 19) (x3 + 1).toNatClampNeg) (x4 + 1) ∧ (tX s 11 (tR s x0 19) x3 ∧ (tX s 0 (tR s (tR s x0 19) x3.toNatClampNeg) x2 ∧ ((((tI s (tR s (tR s (tR s x0 17) x3.toNatClampNeg) x2.toNatClampNeg) x4.toNatClampNeg) + (tI s (tR s (tR s x0 19) (x3 + 1).toNatClampNeg) (x4 + 1).toNatClampNeg)) = (tI s (tR s (tR s x0 19) x3.toNatClampNeg) x2.toNatClampNeg) → (K x4 s)) ∧ (¬ ((tI s (tR s (tR s (tR s x0 17) x3.toNatClampNeg) x2.toNatClampNeg) x4.toNatClampNeg) + (tI s (tR s (tR s x0 19) (x3 + 1).toNatClampNeg) (x4 + 1).toNatClampNeg)) = (tI s (tR s (tR s x0 19) x3.toNatClampNeg) x2.toNatClampNeg) → (∀ x119 : Int32, x119 = x4 + 1 → ((fun x4 s => v_X0_best_76 N x0 x1 x2 x3 Kr K t x4 s) x119 s)))))))))))))))))))))
theorem e_X0_best_76 {G : xG} {l : Launch} {g : xH} {d : Nat} {N : tP} (hN : tNs G N) (hd : 2 * N.2.1 + 23 ≤ d) (x0 : Nat) (x1 : Int32) (x2 : Int32) (x3 : Int32) (Kr : Int32 → tM → Prop) (K : Int32 → tM → Prop) : ∀ (t : Nat) (x4 : Int32) (s : tM) , v_X0_best_76 N x0 x1 x2 x3 Kr K t x4 s → (∀ (z4 : Int32) (s : tM), K z4 s → xF G l kX0_best (d + 1) 0 0 (tQ G g wi Kr tNo) 150 [some (rfv x0), some (.int x1), none, some (.int x3), some (.int z4)] [] (tH G g s)) → xF G l kX0_best (d + 1) 0 0 (tQ G g wi Kr tNo) 76 [some (rfv x0), some (.int x1), some (.int x2), some (.int x3), some (.int x4)] [] (tH G g s) := by
  intro t
  induction t with
  | zero =>
    intro _ _ h _
    exact absurd h (by simp [v_X0_best_76])
  | succ t ih =>
    intro x4 s h hK
    have hR := fun x4 s h => ih x4 s h hK
    unfold v_X0_best_76 at h
    refine t_aload_0 dX0_best_76 ?_
    obtain ⟨e101, h⟩ := h
    refine t_getR dX0_best_77 fa_X0_84_0 (by decide) e101 ?_
    refine x_iload_3 dX0_best_80 ?_
    obtain ⟨e102, h⟩ := h
    refine t_aald (t := 13) dX0_best_81 ⟨rfl, by decide, by decide⟩ rfl e102 ?_
    refine x_iload_2 dX0_best_82 ?_
    obtain ⟨e103, h⟩ := h
    refine t_aald (t := 12) dX0_best_83 ⟨rfl, by decide, by decide⟩ rfl e103 ?_
    refine x_iload_4 dX0_best_84 ?_
    obtain ⟨e104, h⟩ := h
    refine t_zald dX0_best_86 e104 ?_
    refine x_if_eq 144 dX0_best_87 (by decide) (fun c105 => ?_) (fun c105 => ?_)
    · have h := h.1 c105
      refine x_iinc_4 (v := 1) dX0_best_144 (by decide) (by decide) xN2_i ?_
      have h := h _ rfl
      refine x_goto 76 dX0_best_147 (by decide) ?_
      exact x_le (xLe_cons (xLe_cons (xLe_cons (xLe_cons (xLe_cons (xLe_nil)))))) (hR _ _ h)
    · have h := h.2 c105
      refine t_aload_0 dX0_best_90 ?_
      refine t_getR dX0_best_91 fa_X0_108_0 (by decide) e101 ?_
      refine x_iload_3 dX0_best_94 ?_
      refine x_iconst (v := 1) dX0_best_95 (by decide) ?_
      refine x_iadd dX0_best_96 ?_
      obtain ⟨e107, h⟩ := h
      refine t_aald (t := 15) dX0_best_97 ⟨rfl, by decide, by decide⟩ rfl e107 ?_
      refine x_iload_4 dX0_best_98 ?_
      refine x_iconst (v := 1) dX0_best_100 (by decide) ?_
      refine x_iadd dX0_best_101 ?_
      obtain ⟨e108, h⟩ := h
      refine t_lald dX0_best_102 e108 ?_
      refine x_lconst (v := 0) dX0_best_103 (by decide) ?_
      refine x_lcmp dX0_best_104 ?_
      refine x_if_eq 144 dX0_best_105 (by decide) (fun c109 => ?_) (fun c109 => ?_)
      · have h := h.1 c109
        refine x_iinc_4 (v := 1) dX0_best_144 (by decide) (by decide) xN2_i ?_
        have h := h _ rfl
        refine x_goto 76 dX0_best_147 (by decide) ?_
        exact x_le (xLe_cons (xLe_cons (xLe_cons (xLe_cons (xLe_cons (xLe_nil)))))) (hR _ _ h)
      · have h := h.2 c109
        refine t_aload_0 dX0_best_108 ?_
        refine t_getR dX0_best_109 fa_X0_89_0 (by decide) e101 ?_
        refine x_iload_3 dX0_best_112 ?_
        obtain ⟨e111, h⟩ := h
        refine t_aald (t := 14) dX0_best_113 ⟨rfl, by decide, by decide⟩ rfl e111 ?_
        refine x_iload_2 dX0_best_114 ?_
        obtain ⟨e112, h⟩ := h
        refine t_aald (t := 11) dX0_best_115 ⟨rfl, by decide, by decide⟩ rfl e112 ?_
        refine x_iload_4 dX0_best_116 ?_
        obtain ⟨e113, h⟩ := h
        refine t_iald dX0_best_118 e113 ?_
        refine t_aload_0 dX0_best_119 ?_
        refine t_getR dX0_best_120 fa_X0_97_0 (by decide) e101 ?_
        refine x_iload_3 dX0_best_123 ?_
        refine x_iconst (v := 1) dX0_best_124 (by decide) ?_
        refine x_iadd dX0_best_125 ?_
        obtain ⟨e114, h⟩ := h
        refine t_aald (t := 11) dX0_best_126 ⟨rfl, by decide, by decide⟩ rfl e114 ?_
        refine x_iload_4 dX0_best_127 ?_
        refine x_iconst (v := 1) dX0_best_129 (by decide) ?_
        refine x_iadd dX0_best_130 ?_
        obtain ⟨e115, h⟩ := h
        refine t_iald dX0_best_131 e115 ?_
        refine x_iadd dX0_best_132 ?_
        refine t_aload_0 dX0_best_133 ?_
        refine t_getR dX0_best_134 fa_X0_97_0 (by decide) e101 ?_
        refine x_iload_3 dX0_best_137 ?_
        obtain ⟨e116, h⟩ := h
        refine t_aald (t := 11) dX0_best_138 ⟨rfl, by decide, by decide⟩ rfl e116 ?_
        refine x_iload_2 dX0_best_139 ?_
        obtain ⟨e117, h⟩ := h
        refine t_iald dX0_best_140 e117 ?_
        refine x_icmp_eq 150 dX0_best_141 (by decide) (fun c118 => ?_) (fun c118 => ?_)
        · have h := h.1 c118
          exact x_le (xLe_cons (xLe_cons (xLe_none (xLe_cons (xLe_cons (xLe_nil)))))) (hK _ _ h)
        · have h := h.2 c118
          refine x_iinc_4 (v := 1) dX0_best_144 (by decide) (by decide) xN2_i ?_
          have h := h _ rfl
          refine x_goto 76 dX0_best_147 (by decide) ?_
          exact x_le (xLe_cons (xLe_cons (xLe_cons (xLe_cons (xLe_cons (xLe_nil)))))) (hR _ _ h)
def v_X0_best_60 (N : tP) (x0 : Nat) (x1 : Int32) (Kr : Int32 → tM → Prop) (K : Int32 → tM → Prop) : Nat → Int32 → Int32 → tM → Prop
  | 0, _, _, _ => False
  | t + 1, x2, x3, s => ((x1 < x3 → (K x2 s)) ∧ (¬ x1 < x3 → (tO s 0 x0 ∧ (tO s 1 (tR s x0 0) ∧ (tX s 0 (tR s (tR s x0 0) 1) 3 ∧ (∀ x105 : Int32, x105 = tI s (tR s (tR s x0 0) 1) 3 → (v_X0_best_76 N x0 x1 x2 x3 Kr (fun x106 s107 => (∀ x108 : Int32, x108 = x106 + 1 → (∀ x109 : Int32, x109 = x3 + 1 → ((fun x2 x3 s => v_X0_best_60 N x0 x1 Kr K t x2 x3 s) x108 x109 s107)))) N.1 x105 s)))))))
theorem e_X0_best_60 {G : xG} {l : Launch} {g : xH} {d : Nat} {N : tP} (hN : tNs G N) (hd : 2 * N.2.1 + 23 ≤ d) (x0 : Nat) (x1 : Int32) (Kr : Int32 → tM → Prop) (K : Int32 → tM → Prop) : ∀ (t : Nat) (x2 : Int32) (x3 : Int32) (s : tM) , v_X0_best_60 N x0 x1 Kr K t x2 x3 s → (∀ (z2 : Int32) (s : tM), K z2 s → xF G l kX0_best (d + 1) 0 0 (tQ G g wi Kr tNo) 161 [none, none, some (.int z2), none, none] [] (tH G g s)) → xF G l kX0_best (d + 1) 0 0 (tQ G g wi Kr tNo) 60 [some (rfv x0), some (.int x1), some (.int x2), some (.int x3), none] [] (tH G g s) := by
  intro t
  induction t with
  | zero =>
    intro _ _ _ h _
    exact absurd h (by simp [v_X0_best_60])
  | succ t ih =>
    intro x2 x3 s h hK
    have hR := fun x2 x3 s h => ih x2 x3 s h hK
    unfold v_X0_best_60 at h
    refine x_iload_3 dX0_best_60 ?_
    refine x_iload_1 dX0_best_61 ?_
    refine x_icmp_gt 161 dX0_best_62 (by decide) (fun c101 => ?_) (fun c101 => ?_)
    · have h := h.1 c101
      exact x_le (xLe_none (xLe_none (xLe_cons (xLe_none (xLe_cons (xLe_nil)))))) (hK _ _ h)
    · have h := h.2 c101
      refine t_aload_0 dX0_best_65 ?_
      obtain ⟨e102, h⟩ := h
      refine t_getR dX0_best_66 fa_X0_18_0 (by decide) e102 ?_
      obtain ⟨e103, h⟩ := h
      refine t_getR dX0_best_69 fa_X0_199_1 (by decide) e103 ?_
      refine x_iconst (v := 3) dX0_best_72 (by decide) ?_
      obtain ⟨e104, h⟩ := h
      refine t_iald dX0_best_73 e104 ?_
      refine x_istore_4 dX0_best_74 (by decide) xN2_i ?_
      have h := h _ rfl
      refine x_le (xLe_cons (xLe_cons (xLe_cons (xLe_cons (xLe_cons (xLe_nil)))))) (e_X0_best_76 hN (by omega) _ _ _ _ _ _  _ _ _ h (fun x106 s107 h => ?_))
      refine x_iload_4 dX0_best_150 ?_
      refine x_iconst (v := 1) dX0_best_152 (by decide) ?_
      refine x_iadd dX0_best_153 ?_
      refine x_istore_2 dX0_best_154 (by decide) xN2_i ?_
      have h := h _ rfl
      refine x_iinc_3 (v := 1) dX0_best_155 (by decide) (by decide) xN2_i ?_
      have h := h _ rfl
      refine x_goto 60 dX0_best_158 (by decide) ?_
      exact x_le (xLe_cons (xLe_cons (xLe_cons (xLe_cons (xLe_none (xLe_nil)))))) (hR _ _ _ h)
def v_X0_best_36 (N : tP) (x0 : Nat) (Kr : Int32 → tM → Prop) (s : tM) : Prop :=
  (tO s 0 x0 ∧ (v_X0_isThere x0 s (fun x101 s102 => ((x101 = 0 → (Kr (-1) s102)) ∧ (¬ x101 = 0 → (tO s102 0 x0 ∧ (tX s102 11 (tR s102 x0 19) 0 ∧ (tX s102 0 (tR s102 (tR s102 x0 19) 0) 0 ∧ (Kr (tI s102 (tR s102 (tR s102 x0 19) 0) 0) s102)))))))))
theorem e_X0_best_36 {G : xG} {l : Launch} {g : xH} {d : Nat} {N : tP} (hN : tNs G N) (hd : 2 * N.2.1 + 23 ≤ d) (x0 : Nat) (Kr : Int32 → tM → Prop) (s : tM) (h : v_X0_best_36 N x0 Kr s) : xF G l kX0_best (d + 1) 0 0 (tQ G g wi Kr tNo) 36 [some (rfv x0), none, none, none, none] [] (tH G g s) := by
  unfold v_X0_best_36 at h
  refine t_aload_0 dX0_best_36 ?_
  obtain ⟨e103, h⟩ := h
  refine t_cVi (As := []) rfl cv_X0_362 rfl e103 rfl rfl (xrm4 (Nat.le_of_ble_eq_true rfl)) dX0_best_37 (e_X0_isThere (by omega) h) ⟨Nat.zero_le _, Nat.zero_le _⟩ (fun _ _ _ h => h.elim) (fun x101 s102 h => ?_)
  refine x_if_eq 54 dX0_best_40 (by decide) (fun c104 => ?_) (fun c104 => ?_)
  · have h := h.1 c104
    refine x_iconst (v := (-1)) dX0_best_54 (by decide) ?_
    exact x_iret dX0_best_55 rfl (Or.inl ⟨_, _, h, rfl, rfl⟩)
  · have h := h.2 c104
    refine t_aload_0 dX0_best_43 ?_
    obtain ⟨e105, h⟩ := h
    refine t_getR dX0_best_44 fa_X0_97_0 (by decide) e105 ?_
    refine x_iconst (v := 0) dX0_best_47 (by decide) ?_
    obtain ⟨e106, h⟩ := h
    refine t_aald (t := 11) dX0_best_48 ⟨rfl, by decide, by decide⟩ rfl e106 ?_
    refine x_iconst (v := 0) dX0_best_49 (by decide) ?_
    obtain ⟨e107, h⟩ := h
    refine t_iald dX0_best_50 e107 ?_
    refine x_goto 55 dX0_best_51 (by decide) ?_
    exact x_iret dX0_best_55 rfl (Or.inl ⟨_, _, h, rfl, rfl⟩)
def v_X0_best_20 (N : tP) (x0 : Nat) (x1 : Int32) (Kr : Int32 → tM → Prop) (s : tM) : Prop :=
  (tO s 0 x0 ∧ (v_X0_layAll N x0 s (fun s102 => ((x1 = (-1) → (v_X0_best_36 N x0 Kr s102)) ∧ (¬ x1 = (-1) → (tO s102 0 x0 ∧ (v_X0_isThere x0 s102 (fun x105 s106 => ((¬ x105 = 0 → (v_X0_best_60 N x0 x1 Kr (fun x109 s110 => (Kr (x109 - 1) s110)) N.1 0 0 s106)) ∧ (x105 = 0 → (v_X0_best_36 N x0 Kr s106)))))))))))
theorem e_X0_best_20 {G : xG} {l : Launch} {g : xH} {d : Nat} {N : tP} (hN : tNs G N) (hd : 2 * N.2.1 + 23 ≤ d) (x0 : Nat) (x1 : Int32) (Kr : Int32 → tM → Prop) (s : tM) (h : v_X0_best_20 N x0 x1 Kr s) : xF G l kX0_best (d + 1) 0 0 (tQ G g wi Kr tNo) 20 [some (rfv x0), some (.int x1), none, none, none] [] (tH G g s) := by
  unfold v_X0_best_20 at h
  refine t_aload_0 dX0_best_20 ?_
  obtain ⟨e103, h⟩ := h
  refine t_cVv (As := []) rfl cv_X0_359 rfl e103 rfl rfl (xrm4 (Nat.le_of_ble_eq_true rfl)) dX0_best_21 (e_X0_layAll hN (by omega) h) ⟨Nat.zero_le _, Nat.zero_le _⟩ (fun _ _ _ h => h.elim) (fun _ s102 h => ?_)
  refine x_iload_1 dX0_best_24 ?_
  refine x_iconst (v := (-1)) dX0_best_25 (by decide) ?_
  refine x_icmp_eq 36 dX0_best_26 (by decide) (fun c104 => ?_) (fun c104 => ?_)
  · have h := h.1 c104
    exact x_le (xLe_cons (xLe_none (xLe_cons (xLe_cons (xLe_cons (xLe_nil)))))) (e_X0_best_36 hN (by omega) _ _ _ h)
  · have h := h.2 c104
    refine t_aload_0 dX0_best_29 ?_
    obtain ⟨e107, h⟩ := h
    refine t_cVi (As := []) rfl cv_X0_362 rfl e107 rfl rfl (xrm4 (Nat.le_of_ble_eq_true rfl)) dX0_best_30 (e_X0_isThere (by omega) h) ⟨Nat.zero_le _, Nat.zero_le _⟩ (fun _ _ _ h => h.elim) (fun x105 s106 h => ?_)
    refine x_if_ne 56 dX0_best_33 (by decide) (fun c108 => ?_) (fun c108 => ?_)
    · have h := h.1 c108
      refine x_iconst (v := 0) dX0_best_56 (by decide) ?_
      refine x_istore_2 dX0_best_57 (by decide) xN2_i ?_
      refine x_iconst (v := 0) dX0_best_58 (by decide) ?_
      refine x_istore_3 dX0_best_59 (by decide) xN2_i ?_
      refine x_le (xLe_cons (xLe_cons (xLe_cons (xLe_cons (xLe_cons (xLe_nil)))))) (e_X0_best_60 hN (by omega) _ _ _ _  _ _ _ _ h (fun x109 s110 h => ?_))
      refine x_iload_2 dX0_best_161 ?_
      refine x_iconst (v := 1) dX0_best_162 (by decide) ?_
      refine x_isub dX0_best_163 ?_
      exact x_iret dX0_best_164 rfl (Or.inl ⟨_, _, h, rfl, rfl⟩)
    · have h := h.2 c108
      exact x_le (xLe_cons (xLe_none (xLe_cons (xLe_cons (xLe_cons (xLe_nil)))))) (e_X0_best_36 hN (by omega) _ _ _ h)
def v_X0_best (N : tP) (x0 : Nat) (x1 : Int32) (s : tM) (Kr : Int32 → tM → Prop) : Prop :=
  ((x1 < (-1) → (Kr (-1) s)) ∧ (¬ x1 < (-1) → (tO s 0 x0 ∧ (v_X0_nNotes x0 s (fun x102 s103 => ((x1 < x102 → (v_X0_best_20 N x0 x1 Kr s103)) ∧ (¬ x1 < x102 → ((x1 = (-1) → (v_X0_best_20 N x0 x1 Kr s103)) ∧ (¬ x1 = (-1) → (Kr (-1) s103))))))))))
theorem e_X0_best {G : xG} {l : Launch} {g : xH} {d : Nat} {N : tP} (hN : tNs G N) (hd : 2 * N.2.1 + 24 ≤ d) {x0 : Nat} {x1 : Int32} {s : tM} {Kr : Int32 → tM → Prop} (h : v_X0_best N x0 x1 s Kr) : xC G l kX0_best d 0 0 [rfv x0, .int x1] (tH G g s) (tQ G g wi Kr tNo) := by
  obtain ⟨d, rfl⟩ : ∃ z, d = z + 1 := ⟨d - 1, by omega⟩
  refine t_start rfl (by decide +kernel) (by simp [xct_i, xct_l, rfv_c]) (lv := [some (rfv x0), some (.int x1), none, none, none]) (by simp [lv_args, xLv, rfv_c, xct_i, xct_l]) ?_
  unfold v_X0_best at h
  refine x_iload_1 dX0_best_0 ?_
  refine x_iconst (v := (-1)) dX0_best_1 (by decide) ?_
  refine x_icmp_lt 18 dX0_best_2 (by decide) (fun c101 => ?_) (fun c101 => ?_)
  · have h := h.1 c101
    refine x_iconst (v := (-1)) dX0_best_18 (by decide) ?_
    exact x_iret dX0_best_19 rfl (Or.inl ⟨_, _, h, rfl, rfl⟩)
  · have h := h.2 c101
    refine x_iload_1 dX0_best_5 ?_
    refine t_aload_0 dX0_best_6 ?_
    obtain ⟨e104, h⟩ := h
    refine t_cVi (As := []) rfl cv_X0_142 rfl e104 rfl rfl (xrm4 (Nat.le_of_ble_eq_true rfl)) dX0_best_7 (e_X0_nNotes (by omega) h) ⟨Nat.zero_le _, Nat.zero_le _⟩ (fun _ _ _ h => h.elim) (fun x102 s103 h => ?_)
    refine x_icmp_lt 20 dX0_best_10 (by decide) (fun c105 => ?_) (fun c105 => ?_)
    · have h := h.1 c105
      exact x_le (xLe_cons (xLe_cons (xLe_cons (xLe_cons (xLe_cons (xLe_nil)))))) (e_X0_best_20 hN (by omega) _ _ _ _ h)
    · have h := h.2 c105
      refine x_iload_1 dX0_best_13 ?_
      refine x_iconst (v := (-1)) dX0_best_14 (by decide) ?_
      refine x_icmp_eq 20 dX0_best_15 (by decide) (fun c106 => ?_) (fun c106 => ?_)
      · have h := h.1 c106
        exact x_le (xLe_cons (xLe_cons (xLe_cons (xLe_cons (xLe_cons (xLe_nil)))))) (e_X0_best_20 hN (by omega) _ _ _ _ h)
      · have h := h.2 c106
        refine x_iconst (v := (-1)) dX0_best_18 (by decide) ?_
        exact x_iret dX0_best_19 rfl (Or.inl ⟨_, _, h, rfl, rfl⟩)
def v_X0_bestCosts (N : tP) (x0 : Nat) (s : tM) (Kr : Int32 → tM → Prop) : Prop :=
  (tO s 0 x0 ∧ (v_X0_layAll N x0 s (fun s102 => (tO s102 0 x0 ∧ (v_X0_isThere x0 s102 (fun x104 s105 => ((x104 = 0 → (Kr (-1) s105)) ∧ (¬ x104 = 0 → (tO s105 0 x0 ∧ (tX s105 11 (tR s105 x0 19) 0 ∧ (tX s105 0 (tR s105 (tR s105 x0 19) 0) 0 ∧ (Kr (tI s105 (tR s105 (tR s105 x0 19) 0) 0) s105))))))))))))
theorem e_X0_bestCosts {G : xG} {l : Launch} {g : xH} {d : Nat} {N : tP} (hN : tNs G N) (hd : 2 * N.2.1 + 24 ≤ d) {x0 : Nat} {s : tM} {Kr : Int32 → tM → Prop} (h : v_X0_bestCosts N x0 s Kr) : xC G l kX0_bestCosts d 0 0 [rfv x0] (tH G g s) (tQ G g wi Kr tNo) := by
  obtain ⟨d, rfl⟩ : ∃ z, d = z + 1 := ⟨d - 1, by omega⟩
  refine t_start rfl (by decide +kernel) (by simp [xct_i, xct_l, rfv_c]) (lv := [some (rfv x0)]) (by simp [lv_args, xLv, rfv_c, xct_i, xct_l]) ?_
  unfold v_X0_bestCosts at h
  refine t_aload_0 dX0_bestCosts_0 ?_
  obtain ⟨e103, h⟩ := h
  refine t_cVv (As := []) rfl cv_X0_359 rfl e103 rfl rfl (xrm4 (Nat.le_of_ble_eq_true rfl)) dX0_bestCosts_1 (e_X0_layAll hN (by omega) h) ⟨Nat.zero_le _, Nat.zero_le _⟩ (fun _ _ _ h => h.elim) (fun _ s102 h => ?_)
  refine t_aload_0 dX0_bestCosts_4 ?_
  obtain ⟨e106, h⟩ := h
  refine t_cVi (As := []) rfl cv_X0_362 rfl e106 rfl rfl (xrm4 (Nat.le_of_ble_eq_true rfl)) dX0_bestCosts_5 (e_X0_isThere (by omega) h) ⟨Nat.zero_le _, Nat.zero_le _⟩ (fun _ _ _ h => h.elim) (fun x104 s105 h => ?_)
  refine x_if_eq 22 dX0_bestCosts_8 (by decide) (fun c107 => ?_) (fun c107 => ?_)
  · have h := h.1 c107
    refine x_iconst (v := (-1)) dX0_bestCosts_22 (by decide) ?_
    exact x_iret dX0_bestCosts_23 rfl (Or.inl ⟨_, _, h, rfl, rfl⟩)
  · have h := h.2 c107
    refine t_aload_0 dX0_bestCosts_11 ?_
    obtain ⟨e108, h⟩ := h
    refine t_getR dX0_bestCosts_12 fa_X0_97_0 (by decide) e108 ?_
    refine x_iconst (v := 0) dX0_bestCosts_15 (by decide) ?_
    obtain ⟨e109, h⟩ := h
    refine t_aald (t := 11) dX0_bestCosts_16 ⟨rfl, by decide, by decide⟩ rfl e109 ?_
    refine x_iconst (v := 0) dX0_bestCosts_17 (by decide) ?_
    obtain ⟨e110, h⟩ := h
    refine t_iald dX0_bestCosts_18 e110 ?_
    refine x_goto 23 dX0_bestCosts_19 (by decide) ?_
    exact x_iret dX0_bestCosts_23 rfl (Or.inl ⟨_, _, h, rfl, rfl⟩)
def v_X0_isPitch (x0 : Int32) (s : tM) (Kr : Int32 → tM → Prop) : Prop :=
  (v_X0_in ((x0 : Int32).toInt64) 0 24 s (fun x101 s102 => (xB x101 ∧ (Kr x101 s102))))
theorem e_X0_isPitch {G : xG} {l : Launch} {g : xH} {d : Nat} (hd : 4 ≤ d) {x0 : Int32} {s : tM} {Kr : Int32 → tM → Prop} (h : v_X0_isPitch x0 s Kr) : xC G l kX0_isPitch d 0 0 [.int x0] (tH G g s) (tQ G g wi Kr tNo) := by
  obtain ⟨d, rfl⟩ : ∃ z, d = z + 1 := ⟨d - 1, by omega⟩
  refine t_start rfl (by decide +kernel) (by simp [xct_i, xct_l, rfv_c]) (lv := [some (.int x0)]) (by simp [lv_args, xLv, rfv_c, xct_i, xct_l]) ?_
  unfold v_X0_isPitch at h
  refine x_iload_0 dX0_isPitch_0 ?_
  refine x_i2l dX0_isPitch_1 ?_
  refine x_lconst (v := 0) dX0_isPitch_2 (by decide) ?_
  refine x_ldc2 dX0_isPitch_3 q452 ?_
  refine t_cSi (As := [_, _, _]) rfl cs_X0_5 rfl rfl (xrm4 (Nat.le_of_ble_eq_true rfl)) dX0_isPitch_6 (e_X0_in (by omega) h) ⟨Nat.zero_le _, Nat.zero_le _⟩ (fun _ _ _ h => h.elim) (fun x101 s102 h => ?_)
  obtain ⟨e103, h⟩ := h
  exact x_zret dX0_isPitch_9 rfl (xB_n e103) (Or.inl ⟨_, _, h, rfl, rfl⟩)
def v_X0_between (N : tP) (x0 : Nat) (x1 : Int32) (x2 : Int32) (s : tM) (Kr : Int32 → tM → Prop) : Prop :=
  (v_X0_isPitch x1 s (fun x101 s102 => ((x101 = 0 → (Kr (-1) s102)) ∧ (¬ x101 = 0 → (v_X0_isPitch x2 s102 (fun x104 s105 => ((x104 = 0 → (Kr (-1) s105)) ∧ (¬ x104 = 0 → (tO s105 0 x0 ∧ (v_X0_nNotes x0 s105 (fun x107 s108 => ((¬ x107 = 0 → (tO s108 0 x0 ∧ (tO s108 1 (tR s108 x0 0) ∧ (tX s108 0 (tR s108 (tR s108 x0 0) 1) 3 ∧ (∀ x114 : Int32, x114 = tI s108 (tR s108 (tR s108 x0 0) 1) 3 → (tX s108 0 (tR s108 (tR s108 x0 0) 1) 4 ∧ (∀ x116 : Int32, x116 = tI s108 (tR s108 (tR s108 x0 0) 1) 4 → (v_X0_layNotes N x0 1 s108 (fun s118 => (tO s118 0 x0 ∧ (v_X0_layVoices N x0 x114 x116 x2 s118 (fun s120 => (v_X0_in ((x1 : Int32).toInt64) ((x114 : Int32).toInt64) ((x116 : Int32).toInt64) s120 (fun x122 s123 => ((x122 = 0 → (Kr (-1) s123)) ∧ (¬ x122 = 0 → (tO s123 0 x0 ∧ (tX s123 13 (tR s123 x0 16) 0 ∧ (tX s123 12 (tR s123 (tR s123 x0 16) 0) 0 ∧ (tX s123 3 (tR s123 (tR s123 (tR s123 x0 16) 0) 0) x1 ∧ (((tI s123 (tR s123 (tR s123 (tR s123 x0 16) 0) 0) x1.toNatClampNeg) = 0 → (Kr (-1) s123)) ∧ (¬ (tI s123 (tR s123 (tR s123 (tR s123 x0 16) 0) 0) x1.toNatClampNeg) = 0 → (tX s123 15 (tR s123 x0 22) 1 ∧ (tX s123 1 (tR s123 (tR s123 x0 22) 1) (x1 + 1) ∧ ((¬ (lg_cmp (tJ s123 (tR s123 (tR s123 x0 22) 1) (x1 + 1).toNatClampNeg) 0) = 0 → (tX s123 14 (tR s123 x0 17) 0 ∧ (tX s123 11 (tR s123 (tR s123 x0 17) 0) 0 ∧ (tX s123 0 (tR s123 (tR s123 (tR s123 x0 17) 0) 0) x1 ∧ (tX s123 11 (tR s123 x0 19) 1 ∧ (tX s123 0 (tR s123 (tR s123 x0 19) 1) (x1 + 1) ∧ (Kr ((tI s123 (tR s123 (tR s123 (tR s123 x0 17) 0) 0) x1.toNatClampNeg) + (tI s123 (tR s123 (tR s123 x0 19) 1) (x1 + 1).toNatClampNeg)) s123))))))) ∧ ((lg_cmp (tJ s123 (tR s123 (tR s123 x0 22) 1) (x1 + 1).toNatClampNeg) 0) = 0 → (Kr (-1) s123))))))))))))))))))))))))))) ∧ (x107 = 0 → (Kr (-1) s108))))))))))))))
theorem e_X0_between {G : xG} {l : Launch} {g : xH} {d : Nat} {N : tP} (hN : tNs G N) (hd : 2 * N.2.1 + 22 ≤ d) {x0 : Nat} {x1 : Int32} {x2 : Int32} {s : tM} {Kr : Int32 → tM → Prop} (h : v_X0_between N x0 x1 x2 s Kr) : xC G l kX0_between d 0 0 [rfv x0, .int x1, .int x2] (tH G g s) (tQ G g wi Kr tNo) := by
  obtain ⟨d, rfl⟩ : ∃ z, d = z + 1 := ⟨d - 1, by omega⟩
  refine t_start rfl (by decide +kernel) (by simp [xct_i, xct_l, rfv_c]) (lv := [some (rfv x0), some (.int x1), some (.int x2), none, none]) (by simp [lv_args, xLv, rfv_c, xct_i, xct_l]) ?_
  unfold v_X0_between at h
  refine x_iload_1 dX0_between_0 ?_
  refine t_cSi (As := [_]) rfl cs_X0_153 rfl rfl (xrm4 (Nat.le_of_ble_eq_true rfl)) dX0_between_1 (e_X0_isPitch (by omega) h) ⟨Nat.zero_le _, Nat.zero_le _⟩ (fun _ _ _ h => h.elim) (fun x101 s102 h => ?_)
  refine x_if_eq 21 dX0_between_4 (by decide) (fun c103 => ?_) (fun c103 => ?_)
  · have h := h.1 c103
    refine x_iconst (v := (-1)) dX0_between_21 (by decide) ?_
    exact x_iret dX0_between_22 rfl (Or.inl ⟨_, _, h, rfl, rfl⟩)
  · have h := h.2 c103
    refine x_iload_2 dX0_between_7 ?_
    refine t_cSi (As := [_]) rfl cs_X0_153 rfl rfl (xrm4 (Nat.le_of_ble_eq_true rfl)) dX0_between_8 (e_X0_isPitch (by omega) h) ⟨Nat.zero_le _, Nat.zero_le _⟩ (fun _ _ _ h => h.elim) (fun x104 s105 h => ?_)
    refine x_if_eq 21 dX0_between_11 (by decide) (fun c106 => ?_) (fun c106 => ?_)
    · have h := h.1 c106
      refine x_iconst (v := (-1)) dX0_between_21 (by decide) ?_
      exact x_iret dX0_between_22 rfl (Or.inl ⟨_, _, h, rfl, rfl⟩)
    · have h := h.2 c106
      refine t_aload_0 dX0_between_14 ?_
      obtain ⟨e109, h⟩ := h
      refine t_cVi (As := []) rfl cv_X0_142 rfl e109 rfl rfl (xrm4 (Nat.le_of_ble_eq_true rfl)) dX0_between_15 (e_X0_nNotes (by omega) h) ⟨Nat.zero_le _, Nat.zero_le _⟩ (fun _ _ _ h => h.elim) (fun x107 s108 h => ?_)
      refine x_if_ne 23 dX0_between_18 (by decide) (fun c110 => ?_) (fun c110 => ?_)
      · have h := h.1 c110
        refine t_aload_0 dX0_between_23 ?_
        obtain ⟨e111, h⟩ := h
        refine t_getR dX0_between_24 fa_X0_18_0 (by decide) e111 ?_
        obtain ⟨e112, h⟩ := h
        refine t_getR dX0_between_27 fa_X0_199_1 (by decide) e112 ?_
        refine x_iconst (v := 3) dX0_between_30 (by decide) ?_
        obtain ⟨e113, h⟩ := h
        refine t_iald dX0_between_31 e113 ?_
        refine x_istore_3 dX0_between_32 (by decide) xN2_i ?_
        have h := h _ rfl
        refine t_aload_0 dX0_between_33 ?_
        refine t_getR dX0_between_34 fa_X0_18_0 (by decide) e111 ?_
        refine t_getR dX0_between_37 fa_X0_199_1 (by decide) e112 ?_
        refine x_iconst (v := 4) dX0_between_40 (by decide) ?_
        obtain ⟨e115, h⟩ := h
        refine t_iald dX0_between_41 e115 ?_
        refine x_istore_4 dX0_between_42 (by decide) xN2_i ?_
        have h := h _ rfl
        refine t_aload_0 dX0_between_44 ?_
        refine x_iconst (v := 1) dX0_between_45 (by decide) ?_
        refine t_cVv (As := [_]) rfl cv_X0_352 rfl e111 rfl rfl (xrm4 (Nat.le_of_ble_eq_true rfl)) dX0_between_46 (e_X0_layNotes hN (by omega) h) ⟨Nat.zero_le _, Nat.zero_le _⟩ (fun _ _ _ h => h.elim) (fun _ s118 h => ?_)
        refine t_aload_0 dX0_between_49 ?_
        refine x_iload_3 dX0_between_50 ?_
        refine x_iload_4 dX0_between_51 ?_
        refine x_iload_2 dX0_between_53 ?_
        obtain ⟨e121, h⟩ := h
        refine t_cVv (As := [_, _, _]) rfl cv_X0_356 rfl e121 rfl rfl (xrm4 (Nat.le_of_ble_eq_true rfl)) dX0_between_54 (e_X0_layVoices hN (by omega) h) ⟨Nat.zero_le _, Nat.zero_le _⟩ (fun _ _ _ h => h.elim) (fun _ s120 h => ?_)
        refine x_iload_1 dX0_between_57 ?_
        refine x_i2l dX0_between_58 ?_
        refine x_iload_3 dX0_between_59 ?_
        refine x_i2l dX0_between_60 ?_
        refine x_iload_4 dX0_between_61 ?_
        refine x_i2l dX0_between_63 ?_
        refine t_cSi (As := [_, _, _]) rfl cs_X0_5 rfl rfl (xrm4 (Nat.le_of_ble_eq_true rfl)) dX0_between_64 (e_X0_in (by omega) h) ⟨Nat.zero_le _, Nat.zero_le _⟩ (fun _ _ _ h => h.elim) (fun x122 s123 h => ?_)
        refine x_if_eq 98 dX0_between_67 (by decide) (fun c124 => ?_) (fun c124 => ?_)
        · have h := h.1 c124
          refine x_iconst (v := (-1)) dX0_between_98 (by decide) ?_
          exact x_iret dX0_between_99 rfl (Or.inl ⟨_, _, h, rfl, rfl⟩)
        · have h := h.2 c124
          refine t_aload_0 dX0_between_70 ?_
          obtain ⟨e125, h⟩ := h
          refine t_getR dX0_between_71 fa_X0_84_0 (by decide) e125 ?_
          refine x_iconst (v := 0) dX0_between_74 (by decide) ?_
          obtain ⟨e126, h⟩ := h
          refine t_aald (t := 13) dX0_between_75 ⟨rfl, by decide, by decide⟩ rfl e126 ?_
          refine x_iconst (v := 0) dX0_between_76 (by decide) ?_
          obtain ⟨e127, h⟩ := h
          refine t_aald (t := 12) dX0_between_77 ⟨rfl, by decide, by decide⟩ rfl e127 ?_
          refine x_iload_1 dX0_between_78 ?_
          obtain ⟨e128, h⟩ := h
          refine t_zald dX0_between_79 e128 ?_
          refine x_if_eq 98 dX0_between_80 (by decide) (fun c129 => ?_) (fun c129 => ?_)
          · have h := h.1 c129
            refine x_iconst (v := (-1)) dX0_between_98 (by decide) ?_
            exact x_iret dX0_between_99 rfl (Or.inl ⟨_, _, h, rfl, rfl⟩)
          · have h := h.2 c129
            refine t_aload_0 dX0_between_83 ?_
            refine t_getR dX0_between_84 fa_X0_108_0 (by decide) e125 ?_
            refine x_iconst (v := 1) dX0_between_87 (by decide) ?_
            obtain ⟨e130, h⟩ := h
            refine t_aald (t := 15) dX0_between_88 ⟨rfl, by decide, by decide⟩ rfl e130 ?_
            refine x_iload_1 dX0_between_89 ?_
            refine x_iconst (v := 1) dX0_between_90 (by decide) ?_
            refine x_iadd dX0_between_91 ?_
            obtain ⟨e131, h⟩ := h
            refine t_lald dX0_between_92 e131 ?_
            refine x_lconst (v := 0) dX0_between_93 (by decide) ?_
            refine x_lcmp dX0_between_94 ?_
            refine x_if_ne 100 dX0_between_95 (by decide) (fun c132 => ?_) (fun c132 => ?_)
            · have h := h.1 c132
              refine t_aload_0 dX0_between_100 ?_
              refine t_getR dX0_between_101 fa_X0_89_0 (by decide) e125 ?_
              refine x_iconst (v := 0) dX0_between_104 (by decide) ?_
              obtain ⟨e133, h⟩ := h
              refine t_aald (t := 14) dX0_between_105 ⟨rfl, by decide, by decide⟩ rfl e133 ?_
              refine x_iconst (v := 0) dX0_between_106 (by decide) ?_
              obtain ⟨e134, h⟩ := h
              refine t_aald (t := 11) dX0_between_107 ⟨rfl, by decide, by decide⟩ rfl e134 ?_
              refine x_iload_1 dX0_between_108 ?_
              obtain ⟨e135, h⟩ := h
              refine t_iald dX0_between_109 e135 ?_
              refine t_aload_0 dX0_between_110 ?_
              refine t_getR dX0_between_111 fa_X0_97_0 (by decide) e125 ?_
              refine x_iconst (v := 1) dX0_between_114 (by decide) ?_
              obtain ⟨e136, h⟩ := h
              refine t_aald (t := 11) dX0_between_115 ⟨rfl, by decide, by decide⟩ rfl e136 ?_
              refine x_iload_1 dX0_between_116 ?_
              refine x_iconst (v := 1) dX0_between_117 (by decide) ?_
              refine x_iadd dX0_between_118 ?_
              obtain ⟨e137, h⟩ := h
              refine t_iald dX0_between_119 e137 ?_
              refine x_iadd dX0_between_120 ?_
              exact x_iret dX0_between_121 rfl (Or.inl ⟨_, _, h, rfl, rfl⟩)
            · have h := h.2 c132
              refine x_iconst (v := (-1)) dX0_between_98 (by decide) ?_
              exact x_iret dX0_between_99 rfl (Or.inl ⟨_, _, h, rfl, rfl⟩)
      · have h := h.2 c110
        refine x_iconst (v := (-1)) dX0_between_21 (by decide) ?_
        exact x_iret dX0_between_22 rfl (Or.inl ⟨_, _, h, rfl, rfl⟩)
def v_X0_blots (x0 : Nat) (s : tM) (Kr : Int32 → tM → Prop) : Prop :=
  (tO s 0 x0 ∧ (Kr (tI s x0 12) s))
theorem e_X0_blots {G : xG} {l : Launch} {g : xH} {d : Nat} (hd : 2 ≤ d) {x0 : Nat} {s : tM} {Kr : Int32 → tM → Prop} (h : v_X0_blots x0 s Kr) : xC G l kX0_blots d 0 0 [rfv x0] (tH G g s) (tQ G g wi Kr tNo) := by
  obtain ⟨d, rfl⟩ : ∃ z, d = z + 1 := ⟨d - 1, by omega⟩
  refine t_start rfl (by decide +kernel) (by simp [xct_i, xct_l, rfv_c]) (lv := [some (rfv x0)]) (by simp [lv_args, xLv, rfv_c, xct_i, xct_l]) ?_
  unfold v_X0_blots at h
  refine t_aload_0 dX0_blots_0 ?_
  obtain ⟨e101, h⟩ := h
  refine t_getI dX0_blots_1 fa_X0_218_0 (by decide) e101 ?_
  exact x_iret dX0_blots_4 rfl (Or.inl ⟨_, _, h, rfl, rfl⟩)
def v_X0_byteAt (x0 : Nat) (x1 : Int32) (s : tM) (Kr : Int32 → tM → Prop) : Prop :=
  (tX s 2 x0 x1 ∧ (Kr ((tI s x0 x1.toNatClampNeg) &&& 255) s))
theorem e_X0_byteAt {G : xG} {l : Launch} {g : xH} {d : Nat} (hd : 2 ≤ d) {x0 : Nat} {x1 : Int32} {s : tM} {Kr : Int32 → tM → Prop} (h : v_X0_byteAt x0 x1 s Kr) : xC G l kX0_byteAt d 0 0 [rfv x0, .int x1] (tH G g s) (tQ G g wi Kr tNo) := by
  obtain ⟨d, rfl⟩ : ∃ z, d = z + 1 := ⟨d - 1, by omega⟩
  refine t_start rfl (by decide +kernel) (by simp [xct_i, xct_l, rfv_c]) (lv := [some (rfv x0), some (.int x1)]) (by simp [lv_args, xLv, rfv_c, xct_i, xct_l]) ?_
  unfold v_X0_byteAt at h
  refine t_aload_0 dX0_byteAt_0 ?_
  refine x_iload_1 dX0_byteAt_1 ?_
  obtain ⟨e101, h⟩ := h
  refine t_bald dX0_byteAt_2 e101 ?_
  refine x_sipush (v := 255) dX0_byteAt_3 (by decide) ?_
  refine x_iand dX0_byteAt_6 ?_
  exact x_iret dX0_byteAt_7 rfl (Or.inl ⟨_, _, h, rfl, rfl⟩)
def v_X0_fact (N : tP) (x0 : Nat) (x1 : Int32) (x2 : Int32) (s : tM) (Kr : Int32 → tM → Prop) : Prop :=
  (∀ x101 : Int32, x101 = x2 → ((x101 = 0 → (tO s 0 x0 ∧ (v_X0_apart x0 x1 s (fun x103 s104 => (Kr x103 s104))))) ∧ (x101 = 1 → (tO s 0 x0 ∧ (v_X0_leap x0 x1 s (fun x107 s108 => (Kr x107 s108))))) ∧ (x101 = 2 → (tO s 0 x0 ∧ (v_X0_costsHere N x0 x1 s (fun x111 s112 => (Kr x111 s112))))) ∧ (¬ x101 = 0 → ¬ x101 = 1 → ¬ x101 = 2 → (tO s 0 x0 ∧ (v_X0_earnsHere N x0 x1 s (fun x114 s115 => (Kr x114 s115)))))))
theorem e_X0_fact {G : xG} {l : Launch} {g : xH} {d : Nat} {N : tP} (hN : tNs G N) (hd : 2 * N.2.1 + 20 ≤ d) {x0 : Nat} {x1 : Int32} {x2 : Int32} {s : tM} {Kr : Int32 → tM → Prop} (h : v_X0_fact N x0 x1 x2 s Kr) : xC G l kX0_fact d 0 0 [rfv x0, .int x1, .int x2] (tH G g s) (tQ G g wi Kr tNo) := by
  obtain ⟨d, rfl⟩ : ∃ z, d = z + 1 := ⟨d - 1, by omega⟩
  refine t_start rfl (by decide +kernel) (by simp [xct_i, xct_l, rfv_c]) (lv := [some (rfv x0), some (.int x1), some (.int x2)]) (by simp [lv_args, xLv, rfv_c, xct_i, xct_l]) ?_
  unfold v_X0_fact at h
  refine x_iload_2 dX0_fact_0 ?_
  refine t_topi (fun x101 ex101 => ?_)
  have h := h x101 ex101
  by_cases c102 : x101 = 0
  · have h := h.1 c102
    refine x_cast rfl rfl (by rw [c102]) ?_
    refine x_tabIn 28 dX0_fact_1 (by decide) (by decide) (off := 27) (by decide) (by decide) ?_
    refine t_aload_0 dX0_fact_28 ?_
    refine x_iload_1 dX0_fact_29 ?_
    obtain ⟨e105, h⟩ := h
    refine t_cVi (As := [_]) rfl cv_X0_184 rfl e105 rfl rfl (xrm4 (Nat.le_of_ble_eq_true rfl)) dX0_fact_30 (e_X0_apart (by omega) h) ⟨Nat.zero_le _, Nat.zero_le _⟩ (fun _ _ _ h => h.elim) (fun x103 s104 h => ?_)
    exact x_iret dX0_fact_33 rfl (Or.inl ⟨_, _, h, rfl, rfl⟩)
  by_cases c106 : x101 = 1
  · have h := h.2.1 c106
    refine x_cast rfl rfl (by rw [c106]) ?_
    refine x_tabIn 34 dX0_fact_1 (by decide) (by decide) (off := 33) (by decide) (by decide) ?_
    refine t_aload_0 dX0_fact_34 ?_
    refine x_iload_1 dX0_fact_35 ?_
    obtain ⟨e109, h⟩ := h
    refine t_cVi (As := [_]) rfl cv_X0_187 rfl e109 rfl rfl (xrm4 (Nat.le_of_ble_eq_true rfl)) dX0_fact_36 (e_X0_leap (by omega) h) ⟨Nat.zero_le _, Nat.zero_le _⟩ (fun _ _ _ h => h.elim) (fun x107 s108 h => ?_)
    exact x_iret dX0_fact_39 rfl (Or.inl ⟨_, _, h, rfl, rfl⟩)
  by_cases c110 : x101 = 2
  · have h := h.2.2.1 c110
    refine x_cast rfl rfl (by rw [c110]) ?_
    refine x_tabIn 40 dX0_fact_1 (by decide) (by decide) (off := 39) (by decide) (by decide) ?_
    refine t_aload_0 dX0_fact_40 ?_
    refine x_iload_1 dX0_fact_41 ?_
    obtain ⟨e113, h⟩ := h
    refine t_cVi (As := [_]) rfl cv_X0_175 rfl e113 rfl rfl (xrm4 (Nat.le_of_ble_eq_true rfl)) dX0_fact_42 (e_X0_costsHere hN (by omega) h) ⟨Nat.zero_le _, Nat.zero_le _⟩ (fun _ _ _ h => h.elim) (fun x111 s112 h => ?_)
    exact x_iret dX0_fact_45 rfl (Or.inl ⟨_, _, h, rfl, rfl⟩)
  have h := h.2.2.2 c102 c106 c110
  have z0 := xti (v := 0) (z := 0) (by decide) c102
  have z1 := xti (v := 1) (z := 1) (by decide) c106
  have z2 := xti (v := 2) (z := 2) (by decide) c110
  refine x_tabOut 46 dX0_fact_1 (by omega) (by decide) ?_
  refine t_aload_0 dX0_fact_46 ?_
  refine x_iload_1 dX0_fact_47 ?_
  obtain ⟨e116, h⟩ := h
  refine t_cVi (As := [_]) rfl cv_X0_178 rfl e116 rfl rfl (xrm4 (Nat.le_of_ble_eq_true rfl)) dX0_fact_48 (e_X0_earnsHere hN (by omega) h) ⟨Nat.zero_le _, Nat.zero_le _⟩ (fun _ _ _ h => h.elim) (fun x114 s115 h => ?_)
  exact x_iret dX0_fact_51 rfl (Or.inl ⟨_, _, h, rfl, rfl⟩)
def v_X0_canBe_17 (N : tP) (x0 : Nat) (x1 : Int32) (x2 : Int32) (Kr : Int32 → tM → Prop) (K : Int32 → tM → Prop) : Nat → Int32 → Int32 → tM → Prop
  | 0, _, _, _ => False
  | t + 1, x3, x4, s => (tO s 0 x0 ∧ (tO s 1 (tR s x0 0) ∧ (((tI s (tR s x0 0) 5) ≤ x4 → (K x3 s)) ∧ (¬ (tI s (tR s x0 0) 5) ≤ x4 → (tX s 11 (tR s (tR s x0 0) 2) x4 ∧ (tX s 0 (tR s (tR s (tR s x0 0) 2) x4.toNatClampNeg) 0 ∧ (v_X0_fact N x0 x2 (tI s (tR s (tR s (tR s x0 0) 2) x4.toNatClampNeg) 0) s (fun x106 s107 => (tO s107 0 x0 ∧ (tO s107 1 (tR s107 x0 0) ∧ (tX s107 11 (tR s107 (tR s107 x0 0) 2) x4 ∧ (tX s107 0 (tR s107 (tR s107 (tR s107 x0 0) 2) x4.toNatClampNeg) 1 ∧ ((¬ x106 = (tI s107 (tR s107 (tR s107 (tR s107 x0 0) 2) x4.toNatClampNeg) 1) → (∀ x113 : Int32, x113 = x3 &&& 0 → (∀ x114 : Int32, x114 = x4 + 1 → ((fun x3 x4 s => v_X0_canBe_17 N x0 x1 x2 Kr K t x3 x4 s) x113 x114 s107)))) ∧ (x106 = (tI s107 (tR s107 (tR s107 (tR s107 x0 0) 2) x4.toNatClampNeg) 1) → (∀ x115 : Int32, x115 = x3 &&& 1 → (∀ x116 : Int32, x116 = x4 + 1 → ((fun x3 x4 s => v_X0_canBe_17 N x0 x1 x2 Kr K t x3 x4 s) x115 x116 s107)))))))))))))))))
theorem e_X0_canBe_17 {G : xG} {l : Launch} {g : xH} {d : Nat} {N : tP} (hN : tNs G N) (hd : 2 * N.2.1 + 21 ≤ d) (x0 : Nat) (x1 : Int32) (x2 : Int32) (Kr : Int32 → tM → Prop) (K : Int32 → tM → Prop) : ∀ (t : Nat) (x3 : Int32) (x4 : Int32) (s : tM) , v_X0_canBe_17 N x0 x1 x2 Kr K t x3 x4 s → (∀ (z3 : Int32) (s : tM), K z3 s → xF G l kX0_canBe (d + 1) 0 0 (tQ G g wi Kr tNo) 75 [some (rfv x0), some (.int x1), some (.int x2), some (.int z3), none] [] (tH G g s)) → xF G l kX0_canBe (d + 1) 0 0 (tQ G g wi Kr tNo) 17 [some (rfv x0), some (.int x1), some (.int x2), some (.int x3), some (.int x4)] [] (tH G g s) := by
  intro t
  induction t with
  | zero =>
    intro _ _ _ h _
    exact absurd h (by simp [v_X0_canBe_17])
  | succ t ih =>
    intro x3 x4 s h hK
    have hR := fun x3 x4 s h => ih x3 x4 s h hK
    unfold v_X0_canBe_17 at h
    refine x_iload_4 dX0_canBe_17 ?_
    refine t_aload_0 dX0_canBe_19 ?_
    obtain ⟨e101, h⟩ := h
    refine t_getR dX0_canBe_20 fa_X0_18_0 (by decide) e101 ?_
    obtain ⟨e102, h⟩ := h
    refine t_getI dX0_canBe_23 fa_X0_378_1 (by decide) e102 ?_
    refine x_icmp_ge 75 dX0_canBe_26 (by decide) (fun c103 => ?_) (fun c103 => ?_)
    · have h := h.1 c103
      exact x_le (xLe_cons (xLe_cons (xLe_cons (xLe_cons (xLe_none (xLe_nil)))))) (hK _ _ h)
    · have h := h.2 c103
      refine x_iload_3 dX0_canBe_29 ?_
      refine t_aload_0 dX0_canBe_30 ?_
      refine x_iload_2 dX0_canBe_31 ?_
      refine t_aload_0 dX0_canBe_32 ?_
      refine t_getR dX0_canBe_33 fa_X0_18_0 (by decide) e101 ?_
      refine t_getR dX0_canBe_36 fa_X0_381_1 (by decide) e102 ?_
      refine x_iload_4 dX0_canBe_39 ?_
      obtain ⟨e104, h⟩ := h
      refine t_aald (t := 11) dX0_canBe_41 ⟨rfl, by decide, by decide⟩ rfl e104 ?_
      refine x_iconst (v := 0) dX0_canBe_42 (by decide) ?_
      obtain ⟨e105, h⟩ := h
      refine t_iald dX0_canBe_43 e105 ?_
      refine t_cVi (As := [_, _]) rfl cv_X0_384 rfl e101 rfl rfl (xrm4 (Nat.le_of_ble_eq_true rfl)) dX0_canBe_44 (e_X0_fact hN (by omega) h) ⟨Nat.zero_le _, Nat.zero_le _⟩ (fun _ _ _ h => h.elim) (fun x106 s107 h => ?_)
      refine t_aload_0 dX0_canBe_47 ?_
      obtain ⟨e108, h⟩ := h
      refine t_getR dX0_canBe_48 fa_X0_18_0 (by decide) e108 ?_
      obtain ⟨e109, h⟩ := h
      refine t_getR dX0_canBe_51 fa_X0_381_1 (by decide) e109 ?_
      refine x_iload_4 dX0_canBe_54 ?_
      obtain ⟨e110, h⟩ := h
      refine t_aald (t := 11) dX0_canBe_56 ⟨rfl, by decide, by decide⟩ rfl e110 ?_
      refine x_iconst (v := 1) dX0_canBe_57 (by decide) ?_
      obtain ⟨e111, h⟩ := h
      refine t_iald dX0_canBe_58 e111 ?_
      refine x_icmp_ne 66 dX0_canBe_59 (by decide) (fun c112 => ?_) (fun c112 => ?_)
      · have h := h.1 c112
        refine x_iconst (v := 0) dX0_canBe_66 (by decide) ?_
        refine x_iand dX0_canBe_67 ?_
        refine x_istore_3 dX0_canBe_68 (by decide) xN2_i ?_
        have h := h _ rfl
        refine x_iinc_4 (v := 1) dX0_canBe_69 (by decide) (by decide) xN2_i ?_
        have h := h _ rfl
        refine x_goto 17 dX0_canBe_72 (by decide) ?_
        exact x_le (xLe_cons (xLe_cons (xLe_cons (xLe_cons (xLe_cons (xLe_nil)))))) (hR _ _ _ h)
      · have h := h.2 c112
        refine x_iconst (v := 1) dX0_canBe_62 (by decide) ?_
        refine x_goto 67 dX0_canBe_63 (by decide) ?_
        refine x_iand dX0_canBe_67 ?_
        refine x_istore_3 dX0_canBe_68 (by decide) xN2_i ?_
        have h := h _ rfl
        refine x_iinc_4 (v := 1) dX0_canBe_69 (by decide) (by decide) xN2_i ?_
        have h := h _ rfl
        refine x_goto 17 dX0_canBe_72 (by decide) ?_
        exact x_le (xLe_cons (xLe_cons (xLe_cons (xLe_cons (xLe_cons (xLe_nil)))))) (hR _ _ _ h)
def v_X0_canBe_4 (N : tP) (x0 : Nat) (Kr : Int32 → tM → Prop) (K : Int32 → tM → Prop) : Nat → Int32 → Int32 → tM → Prop
  | 0, _, _, _ => False
  | t + 1, x1, x2, s => (tO s 0 x0 ∧ (v_X0_nNotes x0 s (fun x101 s102 => ((x101 ≤ x2 → (K x1 s102)) ∧ (¬ x101 ≤ x2 → (v_X0_canBe_17 N x0 x1 x2 Kr (fun x105 s106 => ((x105 = 0 → (∀ x108 : Int32, x108 = x1 ||| 0 → (∀ x109 : Int32, x109 = x2 + 1 → ((fun x1 x2 s => v_X0_canBe_4 N x0 Kr K t x1 x2 s) x108 x109 s106)))) ∧ (¬ x105 = 0 → (∀ x110 : Int32, x110 = x1 ||| (1 <<< (x2 &&& 31)) → (∀ x111 : Int32, x111 = x2 + 1 → ((fun x1 x2 s => v_X0_canBe_4 N x0 Kr K t x1 x2 s) x110 x111 s106)))))) N.1 1 0 s102))))))
theorem e_X0_canBe_4 {G : xG} {l : Launch} {g : xH} {d : Nat} {N : tP} (hN : tNs G N) (hd : 2 * N.2.1 + 21 ≤ d) (x0 : Nat) (Kr : Int32 → tM → Prop) (K : Int32 → tM → Prop) : ∀ (t : Nat) (x1 : Int32) (x2 : Int32) (s : tM) , v_X0_canBe_4 N x0 Kr K t x1 x2 s → (∀ (z1 : Int32) (s : tM), K z1 s → xF G l kX0_canBe (d + 1) 0 0 (tQ G g wi Kr tNo) 95 [none, some (.int z1), none, none, none] [] (tH G g s)) → xF G l kX0_canBe (d + 1) 0 0 (tQ G g wi Kr tNo) 4 [some (rfv x0), some (.int x1), some (.int x2), none, none] [] (tH G g s) := by
  intro t
  induction t with
  | zero =>
    intro _ _ _ h _
    exact absurd h (by simp [v_X0_canBe_4])
  | succ t ih =>
    intro x1 x2 s h hK
    have hR := fun x1 x2 s h => ih x1 x2 s h hK
    unfold v_X0_canBe_4 at h
    refine x_iload_2 dX0_canBe_4 ?_
    refine t_aload_0 dX0_canBe_5 ?_
    obtain ⟨e103, h⟩ := h
    refine t_cVi (As := []) rfl cv_X0_142 rfl e103 rfl rfl (xrm4 (Nat.le_of_ble_eq_true rfl)) dX0_canBe_6 (e_X0_nNotes (by omega) h) ⟨Nat.zero_le _, Nat.zero_le _⟩ (fun _ _ _ h => h.elim) (fun x101 s102 h => ?_)
    refine x_icmp_ge 95 dX0_canBe_9 (by decide) (fun c104 => ?_) (fun c104 => ?_)
    · have h := h.1 c104
      exact x_le (xLe_none (xLe_cons (xLe_none (xLe_cons (xLe_cons (xLe_nil)))))) (hK _ _ h)
    · have h := h.2 c104
      refine x_iconst (v := 1) dX0_canBe_12 (by decide) ?_
      refine x_istore_3 dX0_canBe_13 (by decide) xN2_i ?_
      refine x_iconst (v := 0) dX0_canBe_14 (by decide) ?_
      refine x_istore_4 dX0_canBe_15 (by decide) xN2_i ?_
      refine x_le (xLe_cons (xLe_cons (xLe_cons (xLe_cons (xLe_cons (xLe_nil)))))) (e_X0_canBe_17 hN (by omega) _ _ _ _ _  _ _ _ _ h (fun x105 s106 h => ?_))
      refine x_iload_1 dX0_canBe_75 ?_
      refine x_iload_3 dX0_canBe_76 ?_
      refine x_if_eq 86 dX0_canBe_77 (by decide) (fun c107 => ?_) (fun c107 => ?_)
      · have h := h.1 c107
        refine x_iconst (v := 0) dX0_canBe_86 (by decide) ?_
        refine x_ior dX0_canBe_87 ?_
        refine x_istore_1 dX0_canBe_88 (by decide) xN2_f ?_
        have h := h _ rfl
        refine x_iinc_2 (v := 1) dX0_canBe_89 (by decide) (by decide) xN2_i ?_
        have h := h _ rfl
        refine x_goto 4 dX0_canBe_92 (by decide) ?_
        exact x_le (xLe_cons (xLe_cons (xLe_cons (xLe_none (xLe_cons (xLe_nil)))))) (hR _ _ _ h)
      · have h := h.2 c107
        refine x_iconst (v := 1) dX0_canBe_80 (by decide) ?_
        refine x_iload_2 dX0_canBe_81 ?_
        refine x_ishl dX0_canBe_82 ?_
        refine x_goto 87 dX0_canBe_83 (by decide) ?_
        refine x_ior dX0_canBe_87 ?_
        refine x_istore_1 dX0_canBe_88 (by decide) xN2_f ?_
        have h := h _ rfl
        refine x_iinc_2 (v := 1) dX0_canBe_89 (by decide) (by decide) xN2_i ?_
        have h := h _ rfl
        refine x_goto 4 dX0_canBe_92 (by decide) ?_
        exact x_le (xLe_cons (xLe_cons (xLe_cons (xLe_none (xLe_cons (xLe_nil)))))) (hR _ _ _ h)
def v_X0_canBe (N : tP) (x0 : Nat) (s : tM) (Kr : Int32 → tM → Prop) : Prop :=
  (v_X0_canBe_4 N x0 Kr (fun x101 s102 => (Kr x101 s102)) N.1 0 0 s)
theorem e_X0_canBe {G : xG} {l : Launch} {g : xH} {d : Nat} {N : tP} (hN : tNs G N) (hd : 2 * N.2.1 + 22 ≤ d) {x0 : Nat} {s : tM} {Kr : Int32 → tM → Prop} (h : v_X0_canBe N x0 s Kr) : xC G l kX0_canBe d 0 0 [rfv x0] (tH G g s) (tQ G g wi Kr tNo) := by
  obtain ⟨d, rfl⟩ : ∃ z, d = z + 1 := ⟨d - 1, by omega⟩
  refine t_start rfl (by decide +kernel) (by simp [xct_i, xct_l, rfv_c]) (lv := [some (rfv x0), none, none, none, none]) (by simp [lv_args, xLv, rfv_c, xct_i, xct_l]) ?_
  unfold v_X0_canBe at h
  refine x_iconst (v := 0) dX0_canBe_0 (by decide) ?_
  refine x_istore_1 dX0_canBe_1 (by decide) xN2_f ?_
  refine x_iconst (v := 0) dX0_canBe_2 (by decide) ?_
  refine x_istore_2 dX0_canBe_3 (by decide) xN2_i ?_
  refine x_le (xLe_cons (xLe_cons (xLe_cons (xLe_cons (xLe_cons (xLe_nil)))))) (e_X0_canBe_4 hN (by omega) _ _ _  _ _ _ _ h (fun x101 s102 h => ?_))
  refine x_iload_1 dX0_canBe_95 ?_
  exact x_iret dX0_canBe_96 rfl (Or.inl ⟨_, _, h, rfl, rfl⟩)
def v_X0_goesInCanon_49 (N : tP) (x0 : Nat) (x1 : Int32) (x2 : Int32) (x3 : Int32) (x4 : Int32) (y0 : Int32) (Kr : Int32 → tM → Prop) (K : tM → Prop) (R : Int32 → tM → Prop) (s : tM) : Prop :=
  (v_X0_isPitch x4 s (fun x101 s102 => ((x101 = 0 → (Kr 0 s102)) ∧ (¬ x101 = 0 → (tO s102 0 x0 ∧ (v_X0_isBarred N x0 x3 x4 y0 s102 (fun x104 s105 => ((x104 = 0 → (∀ x108 : Int32, x108 = x3 + 1 → (R x108 s105))) ∧ (¬ x104 = 0 → (Kr 0 s105))))))))))
theorem e_X0_goesInCanon_49 {G : xG} {l : Launch} {g : xH} {d : Nat} {N : tP} (hN : tNs G N) (hd : 2 * N.2.1 + 17 ≤ d) (x0 : Nat) (x1 : Int32) (x2 : Int32) (x3 : Int32) (x4 : Int32) (y0 : Int32) (Kr : Int32 → tM → Prop) (K : tM → Prop) (R : Int32 → tM → Prop) (s : tM) (h : v_X0_goesInCanon_49 N x0 x1 x2 x3 x4 y0 Kr K R s) (hK : ∀ (s : tM), K s → xF G l kX0_goesInCanon (d + 1) 0 0 (tQ G g wi Kr tNo) 79 [none, none, none, none, none, none] [] (tH G g s)) (hR : ∀ (z3 : Int32) (s : tM), R z3 s → xF G l kX0_goesInCanon (d + 1) 0 0 (tQ G g wi Kr tNo) 2 [some (rfv x0), some (.int x1), some (.int x2), some (.int z3), none, none] [] (tH G g s)) : xF G l kX0_goesInCanon (d + 1) 0 0 (tQ G g wi Kr tNo) 49 [some (rfv x0), some (.int x1), some (.int x2), some (.int x3), some (.int x4), none] [.int y0] (tH G g s) := by
  unfold v_X0_goesInCanon_49 at h
  refine x_istore_5 dX0_goesInCanon_49 (by decide) xN2_i ?_
  refine x_iload_4 dX0_goesInCanon_51 ?_
  refine t_cSi (As := [_]) rfl cs_X0_153 rfl rfl (xrm4 (Nat.le_of_ble_eq_true rfl)) dX0_goesInCanon_53 (e_X0_isPitch (by omega) h) ⟨Nat.zero_le _, Nat.zero_le _⟩ (fun _ _ _ h => h.elim) (fun x101 s102 h => ?_)
  refine x_if_eq 71 dX0_goesInCanon_56 (by decide) (fun c103 => ?_) (fun c103 => ?_)
  · have h := h.1 c103
    refine x_iconst (v := 0) dX0_goesInCanon_71 (by decide) ?_
    exact x_zret0 dX0_goesInCanon_72 rfl (Or.inl ⟨_, _, h, rfl, rfl⟩)
  · have h := h.2 c103
    refine t_aload_0 dX0_goesInCanon_59 ?_
    refine x_iload_3 dX0_goesInCanon_60 ?_
    refine x_iload_4 dX0_goesInCanon_61 ?_
    refine x_iload_5 dX0_goesInCanon_63 ?_
    obtain ⟨e106, h⟩ := h
    refine t_cVi (As := [_, _, _]) rfl cv_X0_296 rfl e106 rfl rfl (xrm4 (Nat.le_of_ble_eq_true rfl)) dX0_goesInCanon_65 (e_X0_isBarred hN (by omega) h) ⟨Nat.zero_le _, Nat.zero_le _⟩ (fun _ _ _ h => h.elim) (fun x104 s105 h => ?_)
    refine x_if_eq 73 dX0_goesInCanon_68 (by decide) (fun c107 => ?_) (fun c107 => ?_)
    · have h := h.1 c107
      refine x_iinc_3 (v := 1) dX0_goesInCanon_73 (by decide) (by decide) xN2_i ?_
      have h := h _ rfl
      refine x_goto 2 dX0_goesInCanon_76 (by decide) ?_
      exact x_le (xLe_cons (xLe_cons (xLe_cons (xLe_cons (xLe_none (xLe_none (xLe_nil))))))) (hR _ _ h)
    · have h := h.2 c107
      refine x_iconst (v := 0) dX0_goesInCanon_71 (by decide) ?_
      exact x_zret0 dX0_goesInCanon_72 rfl (Or.inl ⟨_, _, h, rfl, rfl⟩)
def v_X0_goesInCanon_2 (N : tP) (x0 : Nat) (x1 : Int32) (x2 : Int32) (Kr : Int32 → tM → Prop) (K : tM → Prop) : Nat → Int32 → tM → Prop
  | 0, _, _ => False
  | t + 1, x3, s => (tO s 0 x0 ∧ (v_X0_nNotes x0 s (fun x101 s102 => ((x101 ≤ x3 → (K s102)) ∧ (¬ x101 ≤ x3 → (tO s102 0 x0 ∧ (v_X0_books x0 s102 (fun x105 s106 => (tO s106 2 x105 ∧ (tX s106 0 (tR s106 x105 0) (x3 - x1) ∧ (∀ x110 : Int32, x110 = (tI s106 (tR s106 x105 0) (x3 - x1).toNatClampNeg) + x2 → ((¬ x3 = x1 → (tO s106 0 x0 ∧ (v_X0_books x0 s106 (fun x112 s113 => (tO s113 2 x112 ∧ (tX s113 0 (tR s113 x112 0) ((x3 - x1) - 1) ∧ (v_X0_goesInCanon_49 N x0 x1 x2 x3 x110 ((tI s113 (tR s113 x112 0) ((x3 - x1) - 1).toNatClampNeg) + x2) Kr K (fun x3 s => v_X0_goesInCanon_2 N x0 x1 x2 Kr K t x3 s) s113))))))) ∧ (x3 = x1 → (v_X0_goesInCanon_49 N x0 x1 x2 x3 x110 (-1) Kr K (fun x3 s => v_X0_goesInCanon_2 N x0 x1 x2 Kr K t x3 s) s106))))))))))))))
theorem e_X0_goesInCanon_2 {G : xG} {l : Launch} {g : xH} {d : Nat} {N : tP} (hN : tNs G N) (hd : 2 * N.2.1 + 17 ≤ d) (x0 : Nat) (x1 : Int32) (x2 : Int32) (Kr : Int32 → tM → Prop) (K : tM → Prop) : ∀ (t : Nat) (x3 : Int32) (s : tM) , v_X0_goesInCanon_2 N x0 x1 x2 Kr K t x3 s → (∀ (s : tM), K s → xF G l kX0_goesInCanon (d + 1) 0 0 (tQ G g wi Kr tNo) 79 [none, none, none, none, none, none] [] (tH G g s)) → xF G l kX0_goesInCanon (d + 1) 0 0 (tQ G g wi Kr tNo) 2 [some (rfv x0), some (.int x1), some (.int x2), some (.int x3), none, none] [] (tH G g s) := by
  intro t
  induction t with
  | zero =>
    intro _ _ h _
    exact absurd h (by simp [v_X0_goesInCanon_2])
  | succ t ih =>
    intro x3 s h hK
    have hR := fun x3 s h => ih x3 s h hK
    unfold v_X0_goesInCanon_2 at h
    refine x_iload_3 dX0_goesInCanon_2 ?_
    refine t_aload_0 dX0_goesInCanon_3 ?_
    obtain ⟨e103, h⟩ := h
    refine t_cVi (As := []) rfl cv_X0_142 rfl e103 rfl rfl (xrm4 (Nat.le_of_ble_eq_true rfl)) dX0_goesInCanon_4 (e_X0_nNotes (by omega) h) ⟨Nat.zero_le _, Nat.zero_le _⟩ (fun _ _ _ h => h.elim) (fun x101 s102 h => ?_)
    refine x_icmp_ge 79 dX0_goesInCanon_7 (by decide) (fun c104 => ?_) (fun c104 => ?_)
    · have h := h.1 c104
      exact x_le (xLe_none (xLe_none (xLe_none (xLe_none (xLe_cons (xLe_cons (xLe_nil))))))) (hK _ h)
    · have h := h.2 c104
      refine t_aload_0 dX0_goesInCanon_10 ?_
      obtain ⟨e107, h⟩ := h
      refine t_cVr (As := []) rfl cv_X0_157 rfl e107 rfl rfl (xrm4 (Nat.le_of_ble_eq_true rfl)) dX0_goesInCanon_11 (e_X0_books (by omega) h) ⟨Nat.zero_le _, Nat.zero_le _⟩ (fun _ _ _ h => h.elim) (fun x105 s106 h => ?_)
      obtain ⟨e108, h⟩ := h
      refine t_getR dX0_goesInCanon_14 fa_X0_160_2 (by decide) e108 ?_
      refine x_iload_3 dX0_goesInCanon_17 ?_
      refine x_iload_1 dX0_goesInCanon_18 ?_
      refine x_isub dX0_goesInCanon_19 ?_
      obtain ⟨e109, h⟩ := h
      refine t_iald dX0_goesInCanon_20 e109 ?_
      refine x_iload_2 dX0_goesInCanon_21 ?_
      refine x_iadd dX0_goesInCanon_22 ?_
      refine x_istore_4 dX0_goesInCanon_23 (by decide) xN2_i ?_
      have h := h _ rfl
      refine x_iload_3 dX0_goesInCanon_25 ?_
      refine x_iload_1 dX0_goesInCanon_26 ?_
      refine x_icmp_ne 34 dX0_goesInCanon_27 (by decide) (fun c111 => ?_) (fun c111 => ?_)
      · have h := h.1 c111
        refine t_aload_0 dX0_goesInCanon_34 ?_
        obtain ⟨e114, h⟩ := h
        refine t_cVr (As := []) rfl cv_X0_157 rfl e114 rfl rfl (xrm4 (Nat.le_of_ble_eq_true rfl)) dX0_goesInCanon_35 (e_X0_books (by omega) h) ⟨Nat.zero_le _, Nat.zero_le _⟩ (fun _ _ _ h => h.elim) (fun x112 s113 h => ?_)
        obtain ⟨e115, h⟩ := h
        refine t_getR dX0_goesInCanon_38 fa_X0_160_2 (by decide) e115 ?_
        refine x_iload_3 dX0_goesInCanon_41 ?_
        refine x_iload_1 dX0_goesInCanon_42 ?_
        refine x_isub dX0_goesInCanon_43 ?_
        refine x_iconst (v := 1) dX0_goesInCanon_44 (by decide) ?_
        refine x_isub dX0_goesInCanon_45 ?_
        obtain ⟨e116, h⟩ := h
        refine t_iald dX0_goesInCanon_46 e116 ?_
        refine x_iload_2 dX0_goesInCanon_47 ?_
        refine x_iadd dX0_goesInCanon_48 ?_
        exact x_le (xLe_cons (xLe_cons (xLe_cons (xLe_cons (xLe_cons (xLe_cons (xLe_nil))))))) (e_X0_goesInCanon_49 hN (by omega) _ _ _ _ _ _ _ _ _ _ h hK hR)
      · have h := h.2 c111
        refine x_iconst (v := (-1)) dX0_goesInCanon_30 (by decide) ?_
        refine x_goto 49 dX0_goesInCanon_31 (by decide) ?_
        exact x_le (xLe_cons (xLe_cons (xLe_cons (xLe_cons (xLe_cons (xLe_cons (xLe_nil))))))) (e_X0_goesInCanon_49 hN (by omega) _ _ _ _ _ _ _ _ _ _ h hK hR)
def v_X0_goesInCanon (N : tP) (x0 : Nat) (x1 : Int32) (x2 : Int32) (s : tM) (Kr : Int32 → tM → Prop) : Prop :=
  (v_X0_goesInCanon_2 N x0 x1 x2 Kr (fun s101 => (Kr 1 s101)) N.1 x1 s)
theorem e_X0_goesInCanon {G : xG} {l : Launch} {g : xH} {d : Nat} {N : tP} (hN : tNs G N) (hd : 2 * N.2.1 + 18 ≤ d) {x0 : Nat} {x1 : Int32} {x2 : Int32} {s : tM} {Kr : Int32 → tM → Prop} (h : v_X0_goesInCanon N x0 x1 x2 s Kr) : xC G l kX0_goesInCanon d 0 0 [rfv x0, .int x1, .int x2] (tH G g s) (tQ G g wi Kr tNo) := by
  obtain ⟨d, rfl⟩ : ∃ z, d = z + 1 := ⟨d - 1, by omega⟩
  refine t_start rfl (by decide +kernel) (by simp [xct_i, xct_l, rfv_c]) (lv := [some (rfv x0), some (.int x1), some (.int x2), none, none, none]) (by simp [lv_args, xLv, rfv_c, xct_i, xct_l]) ?_
  unfold v_X0_goesInCanon at h
  refine x_iload_1 dX0_goesInCanon_0 ?_
  refine x_istore_3 dX0_goesInCanon_1 (by decide) xN2_i ?_
  refine x_le (xLe_cons (xLe_cons (xLe_cons (xLe_cons (xLe_cons (xLe_cons (xLe_nil))))))) (e_X0_goesInCanon_2 hN (by omega) _ _ _ _ _  _ _ _ h (fun s101 h => ?_))
  refine x_iconst (v := 1) dX0_goesInCanon_79 (by decide) ?_
  exact x_zret1 dX0_goesInCanon_80 rfl (Or.inl ⟨_, _, h, rfl, rfl⟩)
def v_X0_canon_35 (N : tP) (x0 : Nat) (x1 : Int32) (x2 : Int32) (Kr : Int32 → tM → Prop) (K : Int32 → tM → Prop) : Nat → Int32 → Int32 → tM → Prop
  | 0, _, _, _ => False
  | t + 1, x3, x4, s => ((24 < x4 → (K x3 s)) ∧ (¬ 24 < x4 → (tO s 0 x0 ∧ (v_X0_goesInCanon N x0 x1 x4 s (fun x102 s103 => ((¬ x102 = 0 → ((¬ x3 = x2 → (∀ x107 : Int32, x107 = x3 + 1 → (∀ x108 : Int32, x108 = x4 + 1 → ((fun x3 x4 s => v_X0_canon_35 N x0 x1 x2 Kr K t x3 x4 s) x107 x108 s103)))) ∧ (x3 = x2 → (Kr x4 s103)))) ∧ (x102 = 0 → (∀ x109 : Int32, x109 = x4 + 1 → ((fun x3 x4 s => v_X0_canon_35 N x0 x1 x2 Kr K t x3 x4 s) x3 x109 s103)))))))))
theorem e_X0_canon_35 {G : xG} {l : Launch} {g : xH} {d : Nat} {N : tP} (hN : tNs G N) (hd : 2 * N.2.1 + 19 ≤ d) (x0 : Nat) (x1 : Int32) (x2 : Int32) (Kr : Int32 → tM → Prop) (K : Int32 → tM → Prop) : ∀ (t : Nat) (x3 : Int32) (x4 : Int32) (s : tM) , v_X0_canon_35 N x0 x1 x2 Kr K t x3 x4 s → (∀ (z3 : Int32) (s : tM), K z3 s → xF G l kX0_canon (d + 1) 0 0 (tQ G g wi Kr tNo) 72 [none, none, some (.int x2), some (.int z3), none] [] (tH G g s)) → xF G l kX0_canon (d + 1) 0 0 (tQ G g wi Kr tNo) 35 [some (rfv x0), some (.int x1), some (.int x2), some (.int x3), some (.int x4)] [] (tH G g s) := by
  intro t
  induction t with
  | zero =>
    intro _ _ _ h _
    exact absurd h (by simp [v_X0_canon_35])
  | succ t ih =>
    intro x3 x4 s h hK
    have hR := fun x3 x4 s h => ih x3 x4 s h hK
    unfold v_X0_canon_35 at h
    refine x_iload_4 dX0_canon_35 ?_
    refine x_bipush (v := 24) dX0_canon_37 (by decide) ?_
    refine x_icmp_gt 72 dX0_canon_39 (by decide) (fun c101 => ?_) (fun c101 => ?_)
    · have h := h.1 c101
      exact x_le (xLe_none (xLe_none (xLe_cons (xLe_cons (xLe_none (xLe_nil)))))) (hK _ _ h)
    · have h := h.2 c101
      refine t_aload_0 dX0_canon_42 ?_
      refine x_iload_1 dX0_canon_43 ?_
      refine x_iload_4 dX0_canon_44 ?_
      obtain ⟨e104, h⟩ := h
      refine t_cVi (As := [_, _]) rfl cv_X0_371 rfl e104 rfl rfl (xrm4 (Nat.le_of_ble_eq_true rfl)) dX0_canon_46 (e_X0_goesInCanon hN (by omega) h) ⟨Nat.zero_le _, Nat.zero_le _⟩ (fun _ _ _ h => h.elim) (fun x102 s103 h => ?_)
      refine x_if_ne 55 dX0_canon_49 (by decide) (fun c105 => ?_) (fun c105 => ?_)
      · have h := h.1 c105
        refine x_iload_3 dX0_canon_55 ?_
        refine x_iload_2 dX0_canon_56 ?_
        refine x_icmp_ne 63 dX0_canon_57 (by decide) (fun c106 => ?_) (fun c106 => ?_)
        · have h := h.1 c106
          refine x_iinc_3 (v := 1) dX0_canon_63 (by decide) (by decide) xN2_i ?_
          have h := h _ rfl
          refine x_iinc_4 (v := 1) dX0_canon_66 (by decide) (by decide) xN2_i ?_
          have h := h _ rfl
          refine x_goto 35 dX0_canon_69 (by decide) ?_
          exact x_le (xLe_cons (xLe_cons (xLe_cons (xLe_cons (xLe_cons (xLe_nil)))))) (hR _ _ _ h)
        · have h := h.2 c106
          refine x_iload_4 dX0_canon_60 ?_
          exact x_iret dX0_canon_62 rfl (Or.inl ⟨_, _, h, rfl, rfl⟩)
      · have h := h.2 c105
        refine x_goto 66 dX0_canon_52 (by decide) ?_
        refine x_iinc_4 (v := 1) dX0_canon_66 (by decide) (by decide) xN2_i ?_
        have h := h _ rfl
        refine x_goto 35 dX0_canon_69 (by decide) ?_
        exact x_le (xLe_cons (xLe_cons (xLe_cons (xLe_cons (xLe_cons (xLe_nil)))))) (hR _ _ _ h)
def v_X0_canon (N : tP) (x0 : Nat) (x1 : Int32) (x2 : Int32) (s : tM) (Kr : Int32 → tM → Prop) : Prop :=
  (v_X0_in ((x1 : Int32).toInt64) 1 11 s (fun x101 s102 => ((x101 = 0 → (Kr (-1000) s102)) ∧ (¬ x101 = 0 → (tO s102 0 x0 ∧ (v_X0_nNotes x0 s102 (fun x104 s105 => ((x104 ≤ x1 → (Kr (-1000) s105)) ∧ (¬ x104 ≤ x1 → (((-1) ≤ x2 → (v_X0_canon_35 N x0 x1 x2 Kr (fun x109 s110 => ((¬ x2 = (-1) → (Kr (-1000) s110)) ∧ (x2 = (-1) → (Kr x109 s110)))) N.1 0 (-24) s105)) ∧ (¬ (-1) ≤ x2 → (Kr (-1000) s105))))))))))))
theorem e_X0_canon {G : xG} {l : Launch} {g : xH} {d : Nat} {N : tP} (hN : tNs G N) (hd : 2 * N.2.1 + 20 ≤ d) {x0 : Nat} {x1 : Int32} {x2 : Int32} {s : tM} {Kr : Int32 → tM → Prop} (h : v_X0_canon N x0 x1 x2 s Kr) : xC G l kX0_canon d 0 0 [rfv x0, .int x1, .int x2] (tH G g s) (tQ G g wi Kr tNo) := by
  obtain ⟨d, rfl⟩ : ∃ z, d = z + 1 := ⟨d - 1, by omega⟩
  refine t_start rfl (by decide +kernel) (by simp [xct_i, xct_l, rfv_c]) (lv := [some (rfv x0), some (.int x1), some (.int x2), none, none]) (by simp [lv_args, xLv, rfv_c, xct_i, xct_l]) ?_
  unfold v_X0_canon at h
  refine x_iload_1 dX0_canon_0 ?_
  refine x_i2l dX0_canon_1 ?_
  refine x_lconst (v := 1) dX0_canon_2 (by decide) ?_
  refine x_ldc2 dX0_canon_3 q1403 ?_
  refine t_cSi (As := [_, _, _]) rfl cs_X0_5 rfl rfl (xrm4 (Nat.le_of_ble_eq_true rfl)) dX0_canon_6 (e_X0_in (by omega) h) ⟨Nat.zero_le _, Nat.zero_le _⟩ (fun _ _ _ h => h.elim) (fun x101 s102 h => ?_)
  refine x_if_eq 25 dX0_canon_9 (by decide) (fun c103 => ?_) (fun c103 => ?_)
  · have h := h.1 c103
    refine x_sipush (v := (-1000)) dX0_canon_25 (by decide) ?_
    exact x_iret dX0_canon_28 rfl (Or.inl ⟨_, _, h, rfl, rfl⟩)
  · have h := h.2 c103
    refine x_iload_1 dX0_canon_12 ?_
    refine t_aload_0 dX0_canon_13 ?_
    obtain ⟨e106, h⟩ := h
    refine t_cVi (As := []) rfl cv_X0_142 rfl e106 rfl rfl (xrm4 (Nat.le_of_ble_eq_true rfl)) dX0_canon_14 (e_X0_nNotes (by omega) h) ⟨Nat.zero_le _, Nat.zero_le _⟩ (fun _ _ _ h => h.elim) (fun x104 s105 h => ?_)
    refine x_icmp_ge 25 dX0_canon_17 (by decide) (fun c107 => ?_) (fun c107 => ?_)
    · have h := h.1 c107
      refine x_sipush (v := (-1000)) dX0_canon_25 (by decide) ?_
      exact x_iret dX0_canon_28 rfl (Or.inl ⟨_, _, h, rfl, rfl⟩)
    · have h := h.2 c107
      refine x_iload_2 dX0_canon_20 ?_
      refine x_iconst (v := (-1)) dX0_canon_21 (by decide) ?_
      refine x_icmp_ge 29 dX0_canon_22 (by decide) (fun c108 => ?_) (fun c108 => ?_)
      · have h := h.1 c108
        refine x_iconst (v := 0) dX0_canon_29 (by decide) ?_
        refine x_istore_3 dX0_canon_30 (by decide) xN2_i ?_
        refine x_bipush (v := (-24)) dX0_canon_31 (by decide) ?_
        refine x_istore_4 dX0_canon_33 (by decide) xN2_i ?_
        refine x_le (xLe_cons (xLe_cons (xLe_cons (xLe_cons (xLe_cons (xLe_nil)))))) (e_X0_canon_35 hN (by omega) _ _ _ _ _  _ _ _ _ h (fun x109 s110 h => ?_))
        refine x_iload_2 dX0_canon_72 ?_
        refine x_iconst (v := (-1)) dX0_canon_73 (by decide) ?_
        refine x_icmp_ne 81 dX0_canon_74 (by decide) (fun c111 => ?_) (fun c111 => ?_)
        · have h := h.1 c111
          refine x_sipush (v := (-1000)) dX0_canon_81 (by decide) ?_
          exact x_iret dX0_canon_84 rfl (Or.inl ⟨_, _, h, rfl, rfl⟩)
        · have h := h.2 c111
          refine x_iload_3 dX0_canon_77 ?_
          refine x_goto 84 dX0_canon_78 (by decide) ?_
          exact x_iret dX0_canon_84 rfl (Or.inl ⟨_, _, h, rfl, rfl⟩)
      · have h := h.2 c108
        refine x_sipush (v := (-1000)) dX0_canon_25 (by decide) ?_
        exact x_iret dX0_canon_28 rfl (Or.inl ⟨_, _, h, rfl, rfl⟩)
def v_X0_cheapest_97 (N : tP) (x0 : Nat) (x1 : Int32) (x2 : Int32) (x3 : Int32) (x4 : Int32) (x5 : Int32) (x6 : Int32) (Kr : Int32 → tM → Prop) (K : Int32 → Int32 → tM → Prop) (R : Int32 → Int32 → Int32 → tM → Prop) (s : tM) : Prop :=
  (tO s 0 x0 ∧ (tO s 1 (tR s x0 0) ∧ (tX s 0 (tR s (tR s x0 0) 1) 3 ∧ (tX s 0 (tR s (tR s x0 0) 1) 4 ∧ (v_X0_layVoices N x0 (tI s (tR s (tR s x0 0) 1) 3) (tI s (tR s (tR s x0 0) 1) 4) (-1) s (fun s106 => (tO s106 0 x0 ∧ (v_X0_isThere x0 s106 (fun x107 s108 => ((x107 = 0 → (∀ x111 : Int32, x111 = x6 + 1 → (R x4 x5 x111 s108))) ∧ (¬ x107 = 0 → (tO s108 0 x0 ∧ (tX s108 11 (tR s108 x0 19) 0 ∧ (tX s108 0 (tR s108 (tR s108 x0 19) 0) 0 ∧ (((tI s108 (tR s108 (tR s108 x0 19) 0) 0) < x4 → (tX s108 11 (tR s108 x0 19) 0 ∧ (tX s108 0 (tR s108 (tR s108 x0 19) 0) 0 ∧ (∀ x118 : Int32, x118 = tI s108 (tR s108 (tR s108 x0 19) 0) 0 → (∀ x119 : Int32, x119 = x6 + 1 → (R x118 x6 x119 s108)))))) ∧ (¬ (tI s108 (tR s108 (tR s108 x0 19) 0) 0) < x4 → (∀ x120 : Int32, x120 = x6 + 1 → (R x4 x5 x120 s108))))))))))))))))))
theorem e_X0_cheapest_97 {G : xG} {l : Launch} {g : xH} {d : Nat} {N : tP} (hN : tNs G N) (hd : 2 * N.2.1 + 21 ≤ d) (x0 : Nat) (x1 : Int32) (x2 : Int32) (x3 : Int32) (x4 : Int32) (x5 : Int32) (x6 : Int32) (Kr : Int32 → tM → Prop) (K : Int32 → Int32 → tM → Prop) (R : Int32 → Int32 → Int32 → tM → Prop) (s : tM) (h : v_X0_cheapest_97 N x0 x1 x2 x3 x4 x5 x6 Kr K R s) (hK : ∀ (z4 : Int32) (z5 : Int32) (s : tM), K z4 z5 s → xF G l kX0_cheapest (d + 1) 0 0 (tQ G g wi Kr tNo) 163 [some (rfv x0), some (.int x1), some (.int x2), some (.int x3), some (.int z4), some (.int z5), none] [] (tH G g s)) (hR : ∀ (z4 : Int32) (z5 : Int32) (z6 : Int32) (s : tM), R z4 z5 z6 s → xF G l kX0_cheapest (d + 1) 0 0 (tQ G g wi Kr tNo) 46 [some (rfv x0), some (.int x1), some (.int x2), some (.int x3), some (.int z4), some (.int z5), some (.int z6)] [] (tH G g s)) : xF G l kX0_cheapest (d + 1) 0 0 (tQ G g wi Kr tNo) 97 [some (rfv x0), some (.int x1), some (.int x2), some (.int x3), some (.int x4), some (.int x5), some (.int x6)] [] (tH G g s) := by
  unfold v_X0_cheapest_97 at h
  refine t_aload_0 dX0_cheapest_97 ?_
  refine t_aload_0 dX0_cheapest_98 ?_
  obtain ⟨e101, h⟩ := h
  refine t_getR dX0_cheapest_99 fa_X0_18_0 (by decide) e101 ?_
  obtain ⟨e102, h⟩ := h
  refine t_getR dX0_cheapest_102 fa_X0_199_1 (by decide) e102 ?_
  refine x_iconst (v := 3) dX0_cheapest_105 (by decide) ?_
  obtain ⟨e103, h⟩ := h
  refine t_iald dX0_cheapest_106 e103 ?_
  refine t_aload_0 dX0_cheapest_107 ?_
  refine t_getR dX0_cheapest_108 fa_X0_18_0 (by decide) e101 ?_
  refine t_getR dX0_cheapest_111 fa_X0_199_1 (by decide) e102 ?_
  refine x_iconst (v := 4) dX0_cheapest_114 (by decide) ?_
  obtain ⟨e104, h⟩ := h
  refine t_iald dX0_cheapest_115 e104 ?_
  refine x_iconst (v := (-1)) dX0_cheapest_116 (by decide) ?_
  refine t_cVv (As := [_, _, _]) rfl cv_X0_356 rfl e101 rfl rfl (xrm4 (Nat.le_of_ble_eq_true rfl)) dX0_cheapest_117 (e_X0_layVoices hN (by omega) h) ⟨Nat.zero_le _, Nat.zero_le _⟩ (fun _ _ _ h => h.elim) (fun _ s106 h => ?_)
  refine t_aload_0 dX0_cheapest_120 ?_
  obtain ⟨e109, h⟩ := h
  refine t_cVi (As := []) rfl cv_X0_362 rfl e109 rfl rfl (xrm4 (Nat.le_of_ble_eq_true rfl)) dX0_cheapest_121 (e_X0_isThere (by omega) h) ⟨Nat.zero_le _, Nat.zero_le _⟩ (fun _ _ _ h => h.elim) (fun x107 s108 h => ?_)
  refine x_if_eq 157 dX0_cheapest_124 (by decide) (fun c110 => ?_) (fun c110 => ?_)
  · have h := h.1 c110
    refine x_iinc_6 (v := 1) dX0_cheapest_157 (by decide) (by decide) xN2_i ?_
    have h := h _ rfl
    refine x_goto 46 dX0_cheapest_160 (by decide) ?_
    exact x_le (xLe_cons (xLe_cons (xLe_cons (xLe_cons (xLe_cons (xLe_cons (xLe_cons (xLe_nil)))))))) (hR _ _ _ _ h)
  · have h := h.2 c110
    refine t_aload_0 dX0_cheapest_127 ?_
    obtain ⟨e112, h⟩ := h
    refine t_getR dX0_cheapest_128 fa_X0_97_0 (by decide) e112 ?_
    refine x_iconst (v := 0) dX0_cheapest_131 (by decide) ?_
    obtain ⟨e113, h⟩ := h
    refine t_aald (t := 11) dX0_cheapest_132 ⟨rfl, by decide, by decide⟩ rfl e113 ?_
    refine x_iconst (v := 0) dX0_cheapest_133 (by decide) ?_
    obtain ⟨e114, h⟩ := h
    refine t_iald dX0_cheapest_134 e114 ?_
    refine x_iload_4 dX0_cheapest_135 ?_
    refine x_icmp_lt 143 dX0_cheapest_137 (by decide) (fun c115 => ?_) (fun c115 => ?_)
    · have h := h.1 c115
      refine t_aload_0 dX0_cheapest_143 ?_
      refine t_getR dX0_cheapest_144 fa_X0_97_0 (by decide) e112 ?_
      refine x_iconst (v := 0) dX0_cheapest_147 (by decide) ?_
      obtain ⟨e116, h⟩ := h
      refine t_aald (t := 11) dX0_cheapest_148 ⟨rfl, by decide, by decide⟩ rfl e116 ?_
      refine x_iconst (v := 0) dX0_cheapest_149 (by decide) ?_
      obtain ⟨e117, h⟩ := h
      refine t_iald dX0_cheapest_150 e117 ?_
      refine x_istore_4 dX0_cheapest_151 (by decide) xN2_i ?_
      have h := h _ rfl
      refine x_iload_6 dX0_cheapest_153 ?_
      refine x_istore_5 dX0_cheapest_155 (by decide) xN2_i ?_
      refine x_iinc_6 (v := 1) dX0_cheapest_157 (by decide) (by decide) xN2_i ?_
      have h := h _ rfl
      refine x_goto 46 dX0_cheapest_160 (by decide) ?_
      exact x_le (xLe_cons (xLe_cons (xLe_cons (xLe_cons (xLe_cons (xLe_cons (xLe_cons (xLe_nil)))))))) (hR _ _ _ _ h)
    · have h := h.2 c115
      refine x_goto 157 dX0_cheapest_140 (by decide) ?_
      refine x_iinc_6 (v := 1) dX0_cheapest_157 (by decide) (by decide) xN2_i ?_
      have h := h _ rfl
      refine x_goto 46 dX0_cheapest_160 (by decide) ?_
      exact x_le (xLe_cons (xLe_cons (xLe_cons (xLe_cons (xLe_cons (xLe_cons (xLe_cons (xLe_nil)))))))) (hR _ _ _ _ h)
def v_X0_cheapest_46 (N : tP) (x0 : Nat) (x1 : Int32) (x2 : Int32) (x3 : Int32) (Kr : Int32 → tM → Prop) (K : Int32 → Int32 → tM → Prop) : Nat → Int32 → Int32 → Int32 → tM → Prop
  | 0, _, _, _, _ => False
  | t + 1, x4, x5, x6, s => ((25 ≤ x6 → (K x4 x5 s)) ∧ (¬ 25 ≤ x6 → ((¬ x6 = x3 → (tO s 0 x0 ∧ (v_X0_books x0 s (fun x103 s104 => (tO s104 2 x103 ∧ (tX s104 0 (tR s104 x103 0) x1 ∧ (∀ s108 : tM, s108 = tsI s104 (tR s104 x103 0) x1.toNatClampNeg x6 → (tO s108 0 x0 ∧ (v_X0_layNote N x0 x1 1 s108 (fun s111 => (tO s111 0 x0 ∧ (v_X0_nNotes x0 s111 (fun x113 s114 => ((x113 ≤ (x1 + 1) → (v_X0_cheapest_97 N x0 x1 x2 x3 x4 x5 x6 Kr K (fun x4 x5 x6 s => v_X0_cheapest_46 N x0 x1 x2 x3 Kr K t x4 x5 x6 s) s114)) ∧ (¬ x113 ≤ (x1 + 1) → (tO s114 0 x0 ∧ (v_X0_layNote N x0 (x1 + 1) 1 s114 (fun s118 => (v_X0_cheapest_97 N x0 x1 x2 x3 x4 x5 x6 Kr K (fun x4 x5 x6 s => v_X0_cheapest_46 N x0 x1 x2 x3 Kr K t x4 x5 x6 s) s118))))))))))))))))))) ∧ (x6 = x3 → (∀ x120 : Int32, x120 = x6 + 1 → ((fun x4 x5 x6 s => v_X0_cheapest_46 N x0 x1 x2 x3 Kr K t x4 x5 x6 s) x4 x5 x120 s))))))
theorem e_X0_cheapest_46 {G : xG} {l : Launch} {g : xH} {d : Nat} {N : tP} (hN : tNs G N) (hd : 2 * N.2.1 + 21 ≤ d) (x0 : Nat) (x1 : Int32) (x2 : Int32) (x3 : Int32) (Kr : Int32 → tM → Prop) (K : Int32 → Int32 → tM → Prop) : ∀ (t : Nat) (x4 : Int32) (x5 : Int32) (x6 : Int32) (s : tM) , v_X0_cheapest_46 N x0 x1 x2 x3 Kr K t x4 x5 x6 s → (∀ (z4 : Int32) (z5 : Int32) (s : tM), K z4 z5 s → xF G l kX0_cheapest (d + 1) 0 0 (tQ G g wi Kr tNo) 163 [some (rfv x0), some (.int x1), some (.int x2), some (.int x3), some (.int z4), some (.int z5), none] [] (tH G g s)) → xF G l kX0_cheapest (d + 1) 0 0 (tQ G g wi Kr tNo) 46 [some (rfv x0), some (.int x1), some (.int x2), some (.int x3), some (.int x4), some (.int x5), some (.int x6)] [] (tH G g s) := by
  intro t
  induction t with
  | zero =>
    intro _ _ _ _ h _
    exact absurd h (by simp [v_X0_cheapest_46])
  | succ t ih =>
    intro x4 x5 x6 s h hK
    have hR := fun x4 x5 x6 s h => ih x4 x5 x6 s h hK
    unfold v_X0_cheapest_46 at h
    refine x_iload_6 dX0_cheapest_46 ?_
    refine x_bipush (v := 25) dX0_cheapest_48 (by decide) ?_
    refine x_icmp_ge 163 dX0_cheapest_50 (by decide) (fun c101 => ?_) (fun c101 => ?_)
    · have h := h.1 c101
      exact x_le (xLe_cons (xLe_cons (xLe_cons (xLe_cons (xLe_cons (xLe_cons (xLe_none (xLe_nil)))))))) (hK _ _ _ h)
    · have h := h.2 c101
      refine x_iload_6 dX0_cheapest_53 ?_
      refine x_iload_3 dX0_cheapest_55 ?_
      refine x_icmp_ne 62 dX0_cheapest_56 (by decide) (fun c102 => ?_) (fun c102 => ?_)
      · have h := h.1 c102
        refine t_aload_0 dX0_cheapest_62 ?_
        obtain ⟨e105, h⟩ := h
        refine t_cVr (As := []) rfl cv_X0_157 rfl e105 rfl rfl (xrm4 (Nat.le_of_ble_eq_true rfl)) dX0_cheapest_63 (e_X0_books (by omega) h) ⟨Nat.zero_le _, Nat.zero_le _⟩ (fun _ _ _ h => h.elim) (fun x103 s104 h => ?_)
        obtain ⟨e106, h⟩ := h
        refine t_getR dX0_cheapest_66 fa_X0_160_2 (by decide) e106 ?_
        refine x_iload_1 dX0_cheapest_69 ?_
        refine x_iload_6 dX0_cheapest_70 ?_
        obtain ⟨e107, h⟩ := h
        refine t_iast dX0_cheapest_72 e107 ?_
        refine t_gen h (fun s108 w109 h => ?_)
        refine t_aload_0 dX0_cheapest_73 ?_
        refine x_iload_1 dX0_cheapest_74 ?_
        refine x_iconst (v := 1) dX0_cheapest_75 (by decide) ?_
        obtain ⟨e112, h⟩ := h
        refine t_cVv (As := [_, _]) rfl cv_X0_336 rfl e112 rfl rfl (xrm4 (Nat.le_of_ble_eq_true rfl)) dX0_cheapest_76 (e_X0_layNote hN (by omega) h) ⟨Nat.zero_le _, Nat.zero_le _⟩ (fun _ _ _ h => h.elim) (fun _ s111 h => ?_)
        refine x_iload_1 dX0_cheapest_79 ?_
        refine x_iconst (v := 1) dX0_cheapest_80 (by decide) ?_
        refine x_iadd dX0_cheapest_81 ?_
        refine t_aload_0 dX0_cheapest_82 ?_
        obtain ⟨e115, h⟩ := h
        refine t_cVi (As := []) rfl cv_X0_142 rfl e115 rfl rfl (xrm4 (Nat.le_of_ble_eq_true rfl)) dX0_cheapest_83 (e_X0_nNotes (by omega) h) ⟨Nat.zero_le _, Nat.zero_le _⟩ (fun _ _ _ h => h.elim) (fun x113 s114 h => ?_)
        refine x_icmp_ge 97 dX0_cheapest_86 (by decide) (fun c116 => ?_) (fun c116 => ?_)
        · have h := h.1 c116
          exact x_le (xLe_cons (xLe_cons (xLe_cons (xLe_cons (xLe_cons (xLe_cons (xLe_cons (xLe_nil)))))))) (e_X0_cheapest_97 hN (by omega) _ _ _ _ _ _ _ _ _ _ _ h hK hR)
        · have h := h.2 c116
          refine t_aload_0 dX0_cheapest_89 ?_
          refine x_iload_1 dX0_cheapest_90 ?_
          refine x_iconst (v := 1) dX0_cheapest_91 (by decide) ?_
          refine x_iadd dX0_cheapest_92 ?_
          refine x_iconst (v := 1) dX0_cheapest_93 (by decide) ?_
          obtain ⟨e119, h⟩ := h
          refine t_cVv (As := [_, _]) rfl cv_X0_336 rfl e119 rfl rfl (xrm4 (Nat.le_of_ble_eq_true rfl)) dX0_cheapest_94 (e_X0_layNote hN (by omega) h) ⟨Nat.zero_le _, Nat.zero_le _⟩ (fun _ _ _ h => h.elim) (fun _ s118 h => ?_)
          exact x_le (xLe_cons (xLe_cons (xLe_cons (xLe_cons (xLe_cons (xLe_cons (xLe_cons (xLe_nil)))))))) (e_X0_cheapest_97 hN (by omega) _ _ _ _ _ _ _ _ _ _ _ h hK hR)
      · have h := h.2 c102
        refine x_goto 157 dX0_cheapest_59 (by decide) ?_
        refine x_iinc_6 (v := 1) dX0_cheapest_157 (by decide) (by decide) xN2_i ?_
        have h := h _ rfl
        refine x_goto 46 dX0_cheapest_160 (by decide) ?_
        exact x_le (xLe_cons (xLe_cons (xLe_cons (xLe_cons (xLe_cons (xLe_cons (xLe_cons (xLe_nil)))))))) (hR _ _ _ _ h)
def v_X0_cheapest (N : tP) (x0 : Nat) (x1 : Int32) (x2 : Int32) (s : tM) (Kr : Int32 → tM → Prop) : Prop :=
  (tO s 0 x0 ∧ (v_X0_isNote x0 x1 s (fun x101 s102 => ((x101 = 0 → (Kr (-1) s102)) ∧ (¬ x101 = 0 → (v_X0_in ((x2 : Int32).toInt64) 0 1 s102 (fun x105 s106 => ((¬ x105 = 0 → (tO s106 0 x0 ∧ (v_X0_books x0 s106 (fun x108 s109 => (tO s109 2 x108 ∧ (tX s109 0 (tR s109 x108 0) x1 ∧ (∀ x113 : Int32, x113 = tI s109 (tR s109 x108 0) x1.toNatClampNeg → (tO s109 0 x0 ∧ (v_X0_layNotes N x0 1 s109 (fun s115 => (v_X0_cheapest_46 N x0 x1 x2 x113 Kr (fun x117 x118 s119 => (tO s119 0 x0 ∧ (v_X0_books x0 s119 (fun x120 s121 => (tO s121 2 x120 ∧ (tX s121 0 (tR s121 x120 0) x1 ∧ (∀ s125 : tM, s125 = tsI s121 (tR s121 x120 0) x1.toNatClampNeg x113 → ((x118 = (-1) → (Kr x118 s125)) ∧ (¬ x118 = (-1) → ((¬ x2 = 0 → (Kr x117 s125)) ∧ (x2 = 0 → (Kr x118 s125)))))))))))) N.1 100000000 (-1) 0 s115))))))))))) ∧ (x105 = 0 → (Kr (-1) s106))))))))))
theorem e_X0_cheapest {G : xG} {l : Launch} {g : xH} {d : Nat} {N : tP} (hN : tNs G N) (hd : 2 * N.2.1 + 22 ≤ d) {x0 : Nat} {x1 : Int32} {x2 : Int32} {s : tM} {Kr : Int32 → tM → Prop} (h : v_X0_cheapest N x0 x1 x2 s Kr) : xC G l kX0_cheapest d 0 0 [rfv x0, .int x1, .int x2] (tH G g s) (tQ G g wi Kr tNo) := by
  obtain ⟨d, rfl⟩ : ∃ z, d = z + 1 := ⟨d - 1, by omega⟩
  refine t_start rfl (by decide +kernel) (by simp [xct_i, xct_l, rfv_c]) (lv := [some (rfv x0), some (.int x1), some (.int x2), none, none, none, none]) (by simp [lv_args, xLv, rfv_c, xct_i, xct_l]) ?_
  unfold v_X0_cheapest at h
  refine t_aload_0 dX0_cheapest_0 ?_
  refine x_iload_1 dX0_cheapest_1 ?_
  obtain ⟨e103, h⟩ := h
  refine t_cVi (As := [_]) rfl cv_X0_172 rfl e103 rfl rfl (xrm4 (Nat.le_of_ble_eq_true rfl)) dX0_cheapest_2 (e_X0_isNote (by omega) h) ⟨Nat.zero_le _, Nat.zero_le _⟩ (fun _ _ _ h => h.elim) (fun x101 s102 h => ?_)
  refine x_if_eq 18 dX0_cheapest_5 (by decide) (fun c104 => ?_) (fun c104 => ?_)
  · have h := h.1 c104
    refine x_iconst (v := (-1)) dX0_cheapest_18 (by decide) ?_
    exact x_iret dX0_cheapest_19 rfl (Or.inl ⟨_, _, h, rfl, rfl⟩)
  · have h := h.2 c104
    refine x_iload_2 dX0_cheapest_8 ?_
    refine x_i2l dX0_cheapest_9 ?_
    refine x_lconst (v := 0) dX0_cheapest_10 (by decide) ?_
    refine x_lconst (v := 1) dX0_cheapest_11 (by decide) ?_
    refine t_cSi (As := [_, _, _]) rfl cs_X0_5 rfl rfl (xrm4 (Nat.le_of_ble_eq_true rfl)) dX0_cheapest_12 (e_X0_in (by omega) h) ⟨Nat.zero_le _, Nat.zero_le _⟩ (fun _ _ _ h => h.elim) (fun x105 s106 h => ?_)
    refine x_if_ne 20 dX0_cheapest_15 (by decide) (fun c107 => ?_) (fun c107 => ?_)
    · have h := h.1 c107
      refine t_aload_0 dX0_cheapest_20 ?_
      obtain ⟨e110, h⟩ := h
      refine t_cVr (As := []) rfl cv_X0_157 rfl e110 rfl rfl (xrm4 (Nat.le_of_ble_eq_true rfl)) dX0_cheapest_21 (e_X0_books (by omega) h) ⟨Nat.zero_le _, Nat.zero_le _⟩ (fun _ _ _ h => h.elim) (fun x108 s109 h => ?_)
      obtain ⟨e111, h⟩ := h
      refine t_getR dX0_cheapest_24 fa_X0_160_2 (by decide) e111 ?_
      refine x_iload_1 dX0_cheapest_27 ?_
      obtain ⟨e112, h⟩ := h
      refine t_iald dX0_cheapest_28 e112 ?_
      refine x_istore_3 dX0_cheapest_29 (by decide) xN2_i ?_
      have h := h _ rfl
      refine x_ldcw dX0_cheapest_30 q1352 ?_
      refine x_istore_4 dX0_cheapest_33 (by decide) xN2_i ?_
      refine x_iconst (v := (-1)) dX0_cheapest_35 (by decide) ?_
      refine x_istore_5 dX0_cheapest_36 (by decide) xN2_i ?_
      refine t_aload_0 dX0_cheapest_38 ?_
      refine x_iconst (v := 1) dX0_cheapest_39 (by decide) ?_
      obtain ⟨e116, h⟩ := h
      refine t_cVv (As := [_]) rfl cv_X0_352 rfl e116 rfl rfl (xrm4 (Nat.le_of_ble_eq_true rfl)) dX0_cheapest_40 (e_X0_layNotes hN (by omega) h) ⟨Nat.zero_le _, Nat.zero_le _⟩ (fun _ _ _ h => h.elim) (fun _ s115 h => ?_)
      refine x_iconst (v := 0) dX0_cheapest_43 (by decide) ?_
      refine x_istore_6 dX0_cheapest_44 (by decide) xN2_i ?_
      refine x_le (xLe_cons (xLe_cons (xLe_cons (xLe_cons (xLe_cons (xLe_cons (xLe_cons (xLe_nil)))))))) (e_X0_cheapest_46 hN (by omega) _ _ _ _ _ _  _ _ _ _ _ h (fun x117 x118 s119 h => ?_))
      refine t_aload_0 dX0_cheapest_163 ?_
      obtain ⟨e122, h⟩ := h
      refine t_cVr (As := []) rfl cv_X0_157 rfl e122 rfl rfl (xrm4 (Nat.le_of_ble_eq_true rfl)) dX0_cheapest_164 (e_X0_books (by omega) h) ⟨Nat.zero_le _, Nat.zero_le _⟩ (fun _ _ _ h => h.elim) (fun x120 s121 h => ?_)
      obtain ⟨e123, h⟩ := h
      refine t_getR dX0_cheapest_167 fa_X0_160_2 (by decide) e123 ?_
      refine x_iload_1 dX0_cheapest_170 ?_
      refine x_iload_3 dX0_cheapest_171 ?_
      obtain ⟨e124, h⟩ := h
      refine t_iast dX0_cheapest_172 e124 ?_
      refine t_gen h (fun s125 w126 h => ?_)
      refine x_iload_5 dX0_cheapest_173 ?_
      refine x_iconst (v := (-1)) dX0_cheapest_175 (by decide) ?_
      refine x_icmp_eq 183 dX0_cheapest_176 (by decide) (fun c127 => ?_) (fun c127 => ?_)
      · have h := h.1 c127
        refine x_iload_5 dX0_cheapest_183 ?_
        refine x_goto 190 dX0_cheapest_185 (by decide) ?_
        exact x_iret dX0_cheapest_190 rfl (Or.inl ⟨_, _, h, rfl, rfl⟩)
      · have h := h.2 c127
        refine x_iload_2 dX0_cheapest_179 ?_
        refine x_if_ne 188 dX0_cheapest_180 (by decide) (fun c128 => ?_) (fun c128 => ?_)
        · have h := h.1 c128
          refine x_iload_4 dX0_cheapest_188 ?_
          exact x_iret dX0_cheapest_190 rfl (Or.inl ⟨_, _, h, rfl, rfl⟩)
        · have h := h.2 c128
          refine x_iload_5 dX0_cheapest_183 ?_
          refine x_goto 190 dX0_cheapest_185 (by decide) ?_
          exact x_iret dX0_cheapest_190 rfl (Or.inl ⟨_, _, h, rfl, rfl⟩)
    · have h := h.2 c107
      refine x_iconst (v := (-1)) dX0_cheapest_18 (by decide) ?_
      exact x_iret dX0_cheapest_19 rfl (Or.inl ⟨_, _, h, rfl, rfl⟩)
def v_X0_come (x0 : Nat) (x1 : Int32) (x2 : Int32) (s : tM) (Kr : Int32 → tM → Prop) : Prop :=
  (v_X0_isPitch x1 s (fun x101 s102 => ((x101 = 0 → (Kr (-1) s102)) ∧ (¬ x101 = 0 → (v_X0_isPitch x2 s102 (fun x104 s105 => ((¬ x104 = 0 → (tO s105 0 x0 ∧ (v_X0_nNotes x0 s105 (fun x107 s108 => ((¬ x107 = 12 → (tO s108 0 x0 ∧ (v_X0_books x0 s108 (fun x111 s112 => (tO s112 2 x111 ∧ (tX s112 0 (tR s112 x111 0) x107 ∧ (∀ s116 : tM, s116 = tsI s112 (tR s112 x111 0) x107.toNatClampNeg x1 → (tO s116 0 x0 ∧ (v_X0_books x0 s116 (fun x118 s119 => (tO s119 2 x118 ∧ (tX s119 0 (tR s119 x118 1) x107 ∧ (∀ s123 : tM, s123 = tsI s119 (tR s119 x118 1) x107.toNatClampNeg x2 → (tO s123 0 x0 ∧ (∀ x126 : Nat, x126 = tR s123 x0 0 → (tO s123 1 x126 ∧ (∀ x128 : Int32, x128 = tI s123 x126 4 → (∀ s129 : tM, s129 = tsI s123 x126 4 (x128 + 1) → (Kr x128 s129))))))))))))))))))) ∧ (x107 = 12 → (Kr (-5) s108))))))) ∧ (x104 = 0 → (Kr (-1) s105)))))))))
theorem e_X0_come {G : xG} {l : Launch} {g : xH} {d : Nat} (hd : 6 ≤ d) {x0 : Nat} {x1 : Int32} {x2 : Int32} {s : tM} {Kr : Int32 → tM → Prop} (h : v_X0_come x0 x1 x2 s Kr) : xC G l kX0_come d 0 0 [rfv x0, .int x1, .int x2] (tH G g s) (tQ G g wi Kr tNo) := by
  obtain ⟨d, rfl⟩ : ∃ z, d = z + 1 := ⟨d - 1, by omega⟩
  refine t_start rfl (by decide +kernel) (by simp [xct_i, xct_l, rfv_c]) (lv := [some (rfv x0), some (.int x1), some (.int x2), none]) (by simp [lv_args, xLv, rfv_c, xct_i, xct_l]) ?_
  unfold v_X0_come at h
  refine x_iload_1 dX0_come_0 ?_
  refine t_cSi (As := [_]) rfl cs_X0_153 rfl rfl (xrm4 (Nat.le_of_ble_eq_true rfl)) dX0_come_1 (e_X0_isPitch (by omega) h) ⟨Nat.zero_le _, Nat.zero_le _⟩ (fun _ _ _ h => h.elim) (fun x101 s102 h => ?_)
  refine x_if_eq 14 dX0_come_4 (by decide) (fun c103 => ?_) (fun c103 => ?_)
  · have h := h.1 c103
    refine x_iconst (v := (-1)) dX0_come_14 (by decide) ?_
    exact x_iret dX0_come_15 rfl (Or.inl ⟨_, _, h, rfl, rfl⟩)
  · have h := h.2 c103
    refine x_iload_2 dX0_come_7 ?_
    refine t_cSi (As := [_]) rfl cs_X0_153 rfl rfl (xrm4 (Nat.le_of_ble_eq_true rfl)) dX0_come_8 (e_X0_isPitch (by omega) h) ⟨Nat.zero_le _, Nat.zero_le _⟩ (fun _ _ _ h => h.elim) (fun x104 s105 h => ?_)
    refine x_if_ne 16 dX0_come_11 (by decide) (fun c106 => ?_) (fun c106 => ?_)
    · have h := h.1 c106
      refine t_aload_0 dX0_come_16 ?_
      obtain ⟨e109, h⟩ := h
      refine t_cVi (As := []) rfl cv_X0_142 rfl e109 rfl rfl (xrm4 (Nat.le_of_ble_eq_true rfl)) dX0_come_17 (e_X0_nNotes (by omega) h) ⟨Nat.zero_le _, Nat.zero_le _⟩ (fun _ _ _ h => h.elim) (fun x107 s108 h => ?_)
      refine x_istore_3 dX0_come_20 (by decide) xN2_i ?_
      refine x_iload_3 dX0_come_21 ?_
      refine x_bipush (v := 12) dX0_come_22 (by decide) ?_
      refine x_icmp_ne 30 dX0_come_24 (by decide) (fun c110 => ?_) (fun c110 => ?_)
      · have h := h.1 c110
        refine t_aload_0 dX0_come_30 ?_
        obtain ⟨e113, h⟩ := h
        refine t_cVr (As := []) rfl cv_X0_157 rfl e113 rfl rfl (xrm4 (Nat.le_of_ble_eq_true rfl)) dX0_come_31 (e_X0_books (by omega) h) ⟨Nat.zero_le _, Nat.zero_le _⟩ (fun _ _ _ h => h.elim) (fun x111 s112 h => ?_)
        obtain ⟨e114, h⟩ := h
        refine t_getR dX0_come_34 fa_X0_160_2 (by decide) e114 ?_
        refine x_iload_3 dX0_come_37 ?_
        refine x_iload_1 dX0_come_38 ?_
        obtain ⟨e115, h⟩ := h
        refine t_iast dX0_come_39 e115 ?_
        refine t_gen h (fun s116 w117 h => ?_)
        refine t_aload_0 dX0_come_40 ?_
        obtain ⟨e120, h⟩ := h
        refine t_cVr (As := []) rfl cv_X0_157 rfl e120 rfl rfl (xrm4 (Nat.le_of_ble_eq_true rfl)) dX0_come_41 (e_X0_books (by omega) h) ⟨Nat.zero_le _, Nat.zero_le _⟩ (fun _ _ _ h => h.elim) (fun x118 s119 h => ?_)
        obtain ⟨e121, h⟩ := h
        refine t_getR dX0_come_44 fa_X0_163_2 (by decide) e121 ?_
        refine x_iload_3 dX0_come_47 ?_
        refine x_iload_2 dX0_come_48 ?_
        obtain ⟨e122, h⟩ := h
        refine t_iast dX0_come_49 e122 ?_
        refine t_gen h (fun s123 w124 h => ?_)
        refine t_aload_0 dX0_come_50 ?_
        obtain ⟨e125, h⟩ := h
        refine t_getR dX0_come_51 fa_X0_18_0 (by decide) e125 ?_
        refine x_dup dX0_come_54 (rfv_c _) ?_
        have h := h _ rfl
        obtain ⟨e127, h⟩ := h
        refine t_getI dX0_come_55 fa_X0_139_1 (by decide) e127 ?_
        refine x_dup_x1 dX0_come_58 rfl (rfv_c _) ?_
        have h := h _ rfl
        refine x_iconst (v := 1) dX0_come_59 (by decide) ?_
        refine x_iadd dX0_come_60 ?_
        refine t_putI (j := 4) dX0_come_61 fp_X0_139_1 (by decide) e127 rfl rfl ?_
        refine t_gen h (fun s129 w130 h => ?_)
        exact x_iret dX0_come_64 rfl (Or.inl ⟨_, _, h, rfl, rfl⟩)
      · have h := h.2 c110
        refine x_bipush (v := (-5)) dX0_come_27 (by decide) ?_
        exact x_iret dX0_come_29 rfl (Or.inl ⟨_, _, h, rfl, rfl⟩)
    · have h := h.2 c106
      refine x_iconst (v := (-1)) dX0_come_14 (by decide) ?_
      exact x_iret dX0_come_15 rfl (Or.inl ⟨_, _, h, rfl, rfl⟩)
def v_X0_isLaw (x0 : Nat) (x1 : Int32) (s : tM) (Kr : Int32 → tM → Prop) : Prop :=
  ((x1 = (-1) → (Kr 1 s)) ∧ (¬ x1 = (-1) → (tO s 0 x0 ∧ (tO s 1 (tR s x0 0) ∧ (tO s 20 (tR s (tR s x0 0) 0) ∧ (v_J2_size (tR s (tR s x0 0) 0) s (fun x104 s105 => (v_X0_in ((x1 : Int32).toInt64) 0 ((x104 - 1 : Int32).toInt64) s105 (fun x107 s108 => ((x107 = 0 → (Kr 0 s108)) ∧ (¬ x107 = 0 → (Kr 1 s108))))))))))))
theorem e_X0_isLaw {G : xG} {l : Launch} {g : xH} {d : Nat} (hd : 4 ≤ d) {x0 : Nat} {x1 : Int32} {s : tM} {Kr : Int32 → tM → Prop} (h : v_X0_isLaw x0 x1 s Kr) : xC G l kX0_isLaw d 0 0 [rfv x0, .int x1] (tH G g s) (tQ G g wi Kr tNo) := by
  obtain ⟨d, rfl⟩ : ∃ z, d = z + 1 := ⟨d - 1, by omega⟩
  refine t_start rfl (by decide +kernel) (by simp [xct_i, xct_l, rfv_c]) (lv := [some (rfv x0), some (.int x1)]) (by simp [lv_args, xLv, rfv_c, xct_i, xct_l]) ?_
  unfold v_X0_isLaw at h
  refine x_iload_1 dX0_isLaw_0 ?_
  refine x_iconst (v := (-1)) dX0_isLaw_1 (by decide) ?_
  refine x_icmp_eq 27 dX0_isLaw_2 (by decide) (fun c101 => ?_) (fun c101 => ?_)
  · have h := h.1 c101
    refine x_iconst (v := 1) dX0_isLaw_27 (by decide) ?_
    refine x_goto 32 dX0_isLaw_28 (by decide) ?_
    exact x_zret1 dX0_isLaw_32 rfl (Or.inl ⟨_, _, h, rfl, rfl⟩)
  · have h := h.2 c101
    refine x_iload_1 dX0_isLaw_5 ?_
    refine x_i2l dX0_isLaw_6 ?_
    refine x_lconst (v := 0) dX0_isLaw_7 (by decide) ?_
    refine t_aload_0 dX0_isLaw_8 ?_
    obtain ⟨e102, h⟩ := h
    refine t_getR dX0_isLaw_9 fa_X0_18_0 (by decide) e102 ?_
    obtain ⟨e103, h⟩ := h
    refine t_getR dX0_isLaw_12 fa_X0_227_1 (by decide) e103 ?_
    obtain ⟨e106, h⟩ := h
    refine t_cVi (As := []) rfl cv_X0_231 rfl e106 rfl rfl (xrm4 (Nat.le_of_ble_eq_true rfl)) dX0_isLaw_15 (e_J2_size (by omega) h) ⟨Nat.zero_le _, Nat.zero_le _⟩ (fun _ _ _ h => h.elim) (fun x104 s105 h => ?_)
    refine x_iconst (v := 1) dX0_isLaw_18 (by decide) ?_
    refine x_isub dX0_isLaw_19 ?_
    refine x_i2l dX0_isLaw_20 ?_
    refine t_cSi (As := [_, _, _]) rfl cs_X0_5 rfl rfl (xrm4 (Nat.le_of_ble_eq_true rfl)) dX0_isLaw_21 (e_X0_in (by omega) h) ⟨Nat.zero_le _, Nat.zero_le _⟩ (fun _ _ _ h => h.elim) (fun x107 s108 h => ?_)
    refine x_if_eq 31 dX0_isLaw_24 (by decide) (fun c109 => ?_) (fun c109 => ?_)
    · have h := h.1 c109
      refine x_iconst (v := 0) dX0_isLaw_31 (by decide) ?_
      exact x_zret0 dX0_isLaw_32 rfl (Or.inl ⟨_, _, h, rfl, rfl⟩)
    · have h := h.2 c109
      refine x_iconst (v := 1) dX0_isLaw_27 (by decide) ?_
      refine x_goto 32 dX0_isLaw_28 (by decide) ?_
      exact x_zret1 dX0_isLaw_32 rfl (Or.inl ⟨_, _, h, rfl, rfl⟩)
def v_X0_compare (N : tP) (x0 : Nat) (x1 : Int32) (s : tM) (Kr : Int32 → tM → Prop) : Prop :=
  (tO s 0 x0 ∧ (v_X0_isLaw x0 x1 s (fun x101 s102 => ((¬ x101 = 0 → (tO s102 0 x0 ∧ (tO s102 1 (tR s102 x0 0) ∧ (∀ x107 : Int32, x107 = tI s102 (tR s102 x0 0) 6 → (∀ s108 : tM, s108 = tsI s102 (tR s102 x0 0) 6 x1 → (v_X0_bestCosts N x0 s108 (fun x110 s111 => (tO s111 0 x0 ∧ (tO s111 1 (tR s111 x0 0) ∧ (∀ s114 : tM, s114 = tsI s111 (tR s111 x0 0) 6 x107 → (Kr x110 s114))))))))))) ∧ (x101 = 0 → (Kr (-1) s102))))))
theorem e_X0_compare {G : xG} {l : Launch} {g : xH} {d : Nat} {N : tP} (hN : tNs G N) (hd : 2 * N.2.1 + 26 ≤ d) {x0 : Nat} {x1 : Int32} {s : tM} {Kr : Int32 → tM → Prop} (h : v_X0_compare N x0 x1 s Kr) : xC G l kX0_compare d 0 0 [rfv x0, .int x1] (tH G g s) (tQ G g wi Kr tNo) := by
  obtain ⟨d, rfl⟩ : ∃ z, d = z + 1 := ⟨d - 1, by omega⟩
  refine t_start rfl (by decide +kernel) (by simp [xct_i, xct_l, rfv_c]) (lv := [some (rfv x0), some (.int x1), none, none]) (by simp [lv_args, xLv, rfv_c, xct_i, xct_l]) ?_
  unfold v_X0_compare at h
  refine t_aload_0 dX0_compare_0 ?_
  refine x_iload_1 dX0_compare_1 ?_
  obtain ⟨e103, h⟩ := h
  refine t_cVi (As := [_]) rfl cv_X0_254 rfl e103 rfl rfl (xrm4 (Nat.le_of_ble_eq_true rfl)) dX0_compare_2 (e_X0_isLaw (by omega) h) ⟨Nat.zero_le _, Nat.zero_le _⟩ (fun _ _ _ h => h.elim) (fun x101 s102 h => ?_)
  refine x_if_ne 10 dX0_compare_5 (by decide) (fun c104 => ?_) (fun c104 => ?_)
  · have h := h.1 c104
    refine t_aload_0 dX0_compare_10 ?_
    obtain ⟨e105, h⟩ := h
    refine t_getR dX0_compare_11 fa_X0_18_0 (by decide) e105 ?_
    obtain ⟨e106, h⟩ := h
    refine t_getI dX0_compare_14 fa_X0_257_1 (by decide) e106 ?_
    refine x_istore_2 dX0_compare_17 (by decide) xN2_i ?_
    have h := h _ rfl
    refine t_aload_0 dX0_compare_18 ?_
    refine t_getR dX0_compare_19 fa_X0_18_0 (by decide) e105 ?_
    refine x_iload_1 dX0_compare_22 ?_
    refine t_putI (j := 6) dX0_compare_23 fp_X0_257_1 (by decide) e106 rfl rfl ?_
    refine t_gen h (fun s108 w109 h => ?_)
    refine t_aload_0 dX0_compare_26 ?_
    refine t_cVi (As := []) rfl cv_X0_366 rfl (tO_w w109 e105) rfl rfl (xrm4 (Nat.le_of_ble_eq_true rfl)) dX0_compare_27 (e_X0_bestCosts hN (by omega) h) ⟨Nat.zero_le _, Nat.zero_le _⟩ (fun _ _ _ h => h.elim) (fun x110 s111 h => ?_)
    refine x_istore_3 dX0_compare_30 (by decide) xN2_i ?_
    refine t_aload_0 dX0_compare_31 ?_
    obtain ⟨e112, h⟩ := h
    refine t_getR dX0_compare_32 fa_X0_18_0 (by decide) e112 ?_
    refine x_iload_2 dX0_compare_35 ?_
    obtain ⟨e113, h⟩ := h
    refine t_putI (j := 6) dX0_compare_36 fp_X0_257_1 (by decide) e113 rfl rfl ?_
    refine t_gen h (fun s114 w115 h => ?_)
    refine x_iload_3 dX0_compare_39 ?_
    exact x_iret dX0_compare_40 rfl (Or.inl ⟨_, _, h, rfl, rfl⟩)
  · have h := h.2 c104
    refine x_iconst (v := (-1)) dX0_compare_8 (by decide) ?_
    exact x_iret dX0_compare_9 rfl (Or.inl ⟨_, _, h, rfl, rfl⟩)
def v_X0_compass_51 (N : tP) (x0 : Nat) (x1 : Int32) (x2 : Int32) (x3 : Int32) (x4 : Int32) (Kr : Int32 → tM → Prop) (K : tM → Prop) : Nat → Int32 → tM → Prop
  | 0, _, _ => False
  | t + 1, x5, s => ((x3 < (x5 + x4) → (K s)) ∧ (¬ x3 < (x5 + x4) → (tO s 0 x0 ∧ (v_X0_layVoices N x0 x5 (x5 + x4) (-1) s (fun s103 => (tO s103 0 x0 ∧ (v_X0_isThere x0 s103 (fun x105 s106 => ((x105 = 0 → (∀ x109 : Int32, x109 = x5 + 1 → ((fun x5 s => v_X0_compass_51 N x0 x1 x2 x3 x4 Kr K t x5 s) x109 s106))) ∧ (¬ x105 = 0 → ((¬ x1 = 0 → (Kr x5 s106)) ∧ (x1 = 0 → (Kr x4 s106)))))))))))))
theorem e_X0_compass_51 {G : xG} {l : Launch} {g : xH} {d : Nat} {N : tP} (hN : tNs G N) (hd : 2 * N.2.1 + 21 ≤ d) (x0 : Nat) (x1 : Int32) (x2 : Int32) (x3 : Int32) (x4 : Int32) (Kr : Int32 → tM → Prop) (K : tM → Prop) : ∀ (t : Nat) (x5 : Int32) (s : tM) , v_X0_compass_51 N x0 x1 x2 x3 x4 Kr K t x5 s → (∀ (s : tM), K s → xF G l kX0_compass (d + 1) 0 0 (tQ G g wi Kr tNo) 97 [some (rfv x0), some (.int x1), some (.int x2), some (.int x3), some (.int x4), none] [] (tH G g s)) → xF G l kX0_compass (d + 1) 0 0 (tQ G g wi Kr tNo) 51 [some (rfv x0), some (.int x1), some (.int x2), some (.int x3), some (.int x4), some (.int x5)] [] (tH G g s) := by
  intro t
  induction t with
  | zero =>
    intro _ _ h _
    exact absurd h (by simp [v_X0_compass_51])
  | succ t ih =>
    intro x5 s h hK
    have hR := fun x5 s h => ih x5 s h hK
    unfold v_X0_compass_51 at h
    refine x_iload_5 dX0_compass_51 ?_
    refine x_iload_4 dX0_compass_53 ?_
    refine x_iadd dX0_compass_55 ?_
    refine x_iload_3 dX0_compass_56 ?_
    refine x_icmp_gt 97 dX0_compass_57 (by decide) (fun c101 => ?_) (fun c101 => ?_)
    · have h := h.1 c101
      exact x_le (xLe_cons (xLe_cons (xLe_cons (xLe_cons (xLe_cons (xLe_none (xLe_nil))))))) (hK _ h)
    · have h := h.2 c101
      refine t_aload_0 dX0_compass_60 ?_
      refine x_iload_5 dX0_compass_61 ?_
      refine x_iload_5 dX0_compass_63 ?_
      refine x_iload_4 dX0_compass_65 ?_
      refine x_iadd dX0_compass_67 ?_
      refine x_iconst (v := (-1)) dX0_compass_68 (by decide) ?_
      obtain ⟨e104, h⟩ := h
      refine t_cVv (As := [_, _, _]) rfl cv_X0_356 rfl e104 rfl rfl (xrm4 (Nat.le_of_ble_eq_true rfl)) dX0_compass_69 (e_X0_layVoices hN (by omega) h) ⟨Nat.zero_le _, Nat.zero_le _⟩ (fun _ _ _ h => h.elim) (fun _ s103 h => ?_)
      refine t_aload_0 dX0_compass_72 ?_
      obtain ⟨e107, h⟩ := h
      refine t_cVi (As := []) rfl cv_X0_362 rfl e107 rfl rfl (xrm4 (Nat.le_of_ble_eq_true rfl)) dX0_compass_73 (e_X0_isThere (by omega) h) ⟨Nat.zero_le _, Nat.zero_le _⟩ (fun _ _ _ h => h.elim) (fun x105 s106 h => ?_)
      refine x_if_eq 91 dX0_compass_76 (by decide) (fun c108 => ?_) (fun c108 => ?_)
      · have h := h.1 c108
        refine x_iinc_5 (v := 1) dX0_compass_91 (by decide) (by decide) xN2_i ?_
        have h := h _ rfl
        refine x_goto 51 dX0_compass_94 (by decide) ?_
        exact x_le (xLe_cons (xLe_cons (xLe_cons (xLe_cons (xLe_cons (xLe_cons (xLe_nil))))))) (hR _ _ h)
      · have h := h.2 c108
        refine x_iload_1 dX0_compass_79 ?_
        refine x_if_ne 88 dX0_compass_80 (by decide) (fun c110 => ?_) (fun c110 => ?_)
        · have h := h.1 c110
          refine x_iload_5 dX0_compass_88 ?_
          exact x_iret dX0_compass_90 rfl (Or.inl ⟨_, _, h, rfl, rfl⟩)
        · have h := h.2 c110
          refine x_iload_4 dX0_compass_83 ?_
          refine x_goto 90 dX0_compass_85 (by decide) ?_
          exact x_iret dX0_compass_90 rfl (Or.inl ⟨_, _, h, rfl, rfl⟩)
def v_X0_compass_40 (N : tP) (x0 : Nat) (x1 : Int32) (x2 : Int32) (x3 : Int32) (Kr : Int32 → tM → Prop) (K : tM → Prop) : Nat → Int32 → tM → Prop
  | 0, _, _ => False
  | t + 1, x4, s => (((x3 - x2) < x4 → (K s)) ∧ (¬ (x3 - x2) < x4 → (v_X0_compass_51 N x0 x1 x2 x3 x4 Kr (fun s102 => (∀ x103 : Int32, x103 = x4 + 1 → ((fun x4 s => v_X0_compass_40 N x0 x1 x2 x3 Kr K t x4 s) x103 s102))) N.1 x2 s)))
theorem e_X0_compass_40 {G : xG} {l : Launch} {g : xH} {d : Nat} {N : tP} (hN : tNs G N) (hd : 2 * N.2.1 + 21 ≤ d) (x0 : Nat) (x1 : Int32) (x2 : Int32) (x3 : Int32) (Kr : Int32 → tM → Prop) (K : tM → Prop) : ∀ (t : Nat) (x4 : Int32) (s : tM) , v_X0_compass_40 N x0 x1 x2 x3 Kr K t x4 s → (∀ (s : tM), K s → xF G l kX0_compass (d + 1) 0 0 (tQ G g wi Kr tNo) 103 [none, none, none, none, none, none] [] (tH G g s)) → xF G l kX0_compass (d + 1) 0 0 (tQ G g wi Kr tNo) 40 [some (rfv x0), some (.int x1), some (.int x2), some (.int x3), some (.int x4), none] [] (tH G g s) := by
  intro t
  induction t with
  | zero =>
    intro _ _ h _
    exact absurd h (by simp [v_X0_compass_40])
  | succ t ih =>
    intro x4 s h hK
    have hR := fun x4 s h => ih x4 s h hK
    unfold v_X0_compass_40 at h
    refine x_iload_4 dX0_compass_40 ?_
    refine x_iload_3 dX0_compass_42 ?_
    refine x_iload_2 dX0_compass_43 ?_
    refine x_isub dX0_compass_44 ?_
    refine x_icmp_gt 103 dX0_compass_45 (by decide) (fun c101 => ?_) (fun c101 => ?_)
    · have h := h.1 c101
      exact x_le (xLe_none (xLe_none (xLe_none (xLe_none (xLe_none (xLe_cons (xLe_nil))))))) (hK _ h)
    · have h := h.2 c101
      refine x_iload_2 dX0_compass_48 ?_
      refine x_istore_5 dX0_compass_49 (by decide) xN2_i ?_
      refine x_le (xLe_cons (xLe_cons (xLe_cons (xLe_cons (xLe_cons (xLe_cons (xLe_nil))))))) (e_X0_compass_51 hN (by omega) _ _ _ _ _ _ _  _ _ _ h (fun s102 h => ?_))
      refine x_iinc_4 (v := 1) dX0_compass_97 (by decide) (by decide) xN2_i ?_
      have h := h _ rfl
      refine x_goto 40 dX0_compass_100 (by decide) ?_
      exact x_le (xLe_cons (xLe_cons (xLe_cons (xLe_cons (xLe_cons (xLe_cons (xLe_nil))))))) (hR _ _ h)
def v_X0_compass (N : tP) (x0 : Nat) (x1 : Int32) (s : tM) (Kr : Int32 → tM → Prop) : Prop :=
  (v_X0_in ((x1 : Int32).toInt64) 0 1 s (fun x101 s102 => ((¬ x101 = 0 → (tO s102 0 x0 ∧ (tO s102 1 (tR s102 x0 0) ∧ (tX s102 0 (tR s102 (tR s102 x0 0) 1) 3 ∧ (∀ x107 : Int32, x107 = tI s102 (tR s102 (tR s102 x0 0) 1) 3 → (tX s102 0 (tR s102 (tR s102 x0 0) 1) 4 ∧ (∀ x109 : Int32, x109 = tI s102 (tR s102 (tR s102 x0 0) 1) 4 → (v_X0_layNotes N x0 0 s102 (fun s111 => (v_X0_compass_40 N x0 x1 x107 x109 Kr (fun s112 => (Kr (-1) s112)) N.1 0 s111)))))))))) ∧ (x101 = 0 → (Kr (-1) s102)))))
theorem e_X0_compass {G : xG} {l : Launch} {g : xH} {d : Nat} {N : tP} (hN : tNs G N) (hd : 2 * N.2.1 + 22 ≤ d) {x0 : Nat} {x1 : Int32} {s : tM} {Kr : Int32 → tM → Prop} (h : v_X0_compass N x0 x1 s Kr) : xC G l kX0_compass d 0 0 [rfv x0, .int x1] (tH G g s) (tQ G g wi Kr tNo) := by
  obtain ⟨d, rfl⟩ : ∃ z, d = z + 1 := ⟨d - 1, by omega⟩
  refine t_start rfl (by decide +kernel) (by simp [xct_i, xct_l, rfv_c]) (lv := [some (rfv x0), some (.int x1), none, none, none, none]) (by simp [lv_args, xLv, rfv_c, xct_i, xct_l]) ?_
  unfold v_X0_compass at h
  refine x_iload_1 dX0_compass_0 ?_
  refine x_i2l dX0_compass_1 ?_
  refine x_lconst (v := 0) dX0_compass_2 (by decide) ?_
  refine x_lconst (v := 1) dX0_compass_3 (by decide) ?_
  refine t_cSi (As := [_, _, _]) rfl cs_X0_5 rfl rfl (xrm4 (Nat.le_of_ble_eq_true rfl)) dX0_compass_4 (e_X0_in (by omega) h) ⟨Nat.zero_le _, Nat.zero_le _⟩ (fun _ _ _ h => h.elim) (fun x101 s102 h => ?_)
  refine x_if_ne 12 dX0_compass_7 (by decide) (fun c103 => ?_) (fun c103 => ?_)
  · have h := h.1 c103
    refine t_aload_0 dX0_compass_12 ?_
    obtain ⟨e104, h⟩ := h
    refine t_getR dX0_compass_13 fa_X0_18_0 (by decide) e104 ?_
    obtain ⟨e105, h⟩ := h
    refine t_getR dX0_compass_16 fa_X0_199_1 (by decide) e105 ?_
    refine x_iconst (v := 3) dX0_compass_19 (by decide) ?_
    obtain ⟨e106, h⟩ := h
    refine t_iald dX0_compass_20 e106 ?_
    refine x_istore_2 dX0_compass_21 (by decide) xN2_i ?_
    have h := h _ rfl
    refine t_aload_0 dX0_compass_22 ?_
    refine t_getR dX0_compass_23 fa_X0_18_0 (by decide) e104 ?_
    refine t_getR dX0_compass_26 fa_X0_199_1 (by decide) e105 ?_
    refine x_iconst (v := 4) dX0_compass_29 (by decide) ?_
    obtain ⟨e108, h⟩ := h
    refine t_iald dX0_compass_30 e108 ?_
    refine x_istore_3 dX0_compass_31 (by decide) xN2_i ?_
    have h := h _ rfl
    refine t_aload_0 dX0_compass_32 ?_
    refine x_iconst (v := 0) dX0_compass_33 (by decide) ?_
    refine t_cVv (As := [_]) rfl cv_X0_352 rfl e104 rfl rfl (xrm4 (Nat.le_of_ble_eq_true rfl)) dX0_compass_34 (e_X0_layNotes hN (by omega) h) ⟨Nat.zero_le _, Nat.zero_le _⟩ (fun _ _ _ h => h.elim) (fun _ s111 h => ?_)
    refine x_iconst (v := 0) dX0_compass_37 (by decide) ?_
    refine x_istore_4 dX0_compass_38 (by decide) xN2_i ?_
    refine x_le (xLe_cons (xLe_cons (xLe_cons (xLe_cons (xLe_cons (xLe_cons (xLe_nil))))))) (e_X0_compass_40 hN (by omega) _ _ _ _ _ _  _ _ _ h (fun s112 h => ?_))
    refine x_iconst (v := (-1)) dX0_compass_103 (by decide) ?_
    exact x_iret dX0_compass_104 rfl (Or.inl ⟨_, _, h, rfl, rfl⟩)
  · have h := h.2 c103
    refine x_iconst (v := (-1)) dX0_compass_10 (by decide) ?_
    exact x_iret dX0_compass_11 rfl (Or.inl ⟨_, _, h, rfl, rfl⟩)
def v_X0_term (x0 : Nat) (x1 : Int32) (s : tM) (Kr : Int32 → tM → Prop) : Prop :=
  ((¬ x1 = 0 → (tO s 0 x0 ∧ (tO s 1 (tR s x0 0) ∧ (tX s 0 (tR s (tR s x0 0) 1) x1 ∧ (Kr (tI s (tR s (tR s x0 0) 1) x1.toNatClampNeg) s))))) ∧ (x1 = 0 → (tO s 0 x0 ∧ (v_X0_books x0 s (fun x105 s106 => (tO s106 2 x105 ∧ (Kr (tI s106 x105 2) s106)))))))
theorem e_X0_term {G : xG} {l : Launch} {g : xH} {d : Nat} (hd : 4 ≤ d) {x0 : Nat} {x1 : Int32} {s : tM} {Kr : Int32 → tM → Prop} (h : v_X0_term x0 x1 s Kr) : xC G l kX0_term d 0 0 [rfv x0, .int x1] (tH G g s) (tQ G g wi Kr tNo) := by
  obtain ⟨d, rfl⟩ : ∃ z, d = z + 1 := ⟨d - 1, by omega⟩
  refine t_start rfl (by decide +kernel) (by simp [xct_i, xct_l, rfv_c]) (lv := [some (rfv x0), some (.int x1)]) (by simp [lv_args, xLv, rfv_c, xct_i, xct_l]) ?_
  unfold v_X0_term at h
  refine x_iload_1 dX0_term_0 ?_
  refine x_if_ne 14 dX0_term_1 (by decide) (fun c101 => ?_) (fun c101 => ?_)
  · have h := h.1 c101
    refine t_aload_0 dX0_term_14 ?_
    obtain ⟨e102, h⟩ := h
    refine t_getR dX0_term_15 fa_X0_18_0 (by decide) e102 ?_
    obtain ⟨e103, h⟩ := h
    refine t_getR dX0_term_18 fa_X0_199_1 (by decide) e103 ?_
    refine x_iload_1 dX0_term_21 ?_
    obtain ⟨e104, h⟩ := h
    refine t_iald dX0_term_22 e104 ?_
    exact x_iret dX0_term_23 rfl (Or.inl ⟨_, _, h, rfl, rfl⟩)
  · have h := h.2 c101
    refine t_aload_0 dX0_term_4 ?_
    obtain ⟨e107, h⟩ := h
    refine t_cVr (As := []) rfl cv_X0_157 rfl e107 rfl rfl (xrm4 (Nat.le_of_ble_eq_true rfl)) dX0_term_5 (e_X0_books (by omega) h) ⟨Nat.zero_le _, Nat.zero_le _⟩ (fun _ _ _ h => h.elim) (fun x105 s106 h => ?_)
    obtain ⟨e108, h⟩ := h
    refine t_getI dX0_term_8 fa_X0_196_2 (by decide) e108 ?_
    refine x_goto 23 dX0_term_11 (by decide) ?_
    exact x_iret dX0_term_23 rfl (Or.inl ⟨_, _, h, rfl, rfl⟩)
def v_X0_count (N : tP) (x0 : Nat) (x1 : Int32) (s : tM) (Kr : Int32 → tM → Prop) : Prop :=
  (∀ x101 : Int32, x101 = x1 → ((x101 = 0 → (tO s 0 x0 ∧ (v_X0_nNotes x0 s (fun x103 s104 => (Kr x103 s104))))) ∧ (x101 = 1 → (tO s 0 x0 ∧ (v_X0_barredOnes N x0 s (fun x107 s108 => (Kr x107 s108))))) ∧ (x101 = 2 → (tO s 0 x0 ∧ (tO s 1 (tR s x0 0) ∧ (Kr (tI s (tR s x0 0) 5) s)))) ∧ (x101 = 3 → (tO s 0 x0 ∧ (tO s 1 (tR s x0 0) ∧ (tO s 20 (tR s (tR s x0 0) 0) ∧ (v_J2_size (tR s (tR s x0 0) 0) s (fun x116 s117 => (Kr x116 s117))))))) ∧ (x101 = 4 → (tO s 0 x0 ∧ (tO s 3 (tR s x0 2) ∧ (Kr (tI s (tR s x0 2) 1) s)))) ∧ (x101 = 5 → (tO s 0 x0 ∧ (Kr (tI s x0 15) s))) ∧ (x101 = 6 → (tO s 0 x0 ∧ (tX s 0 (tR s x0 9) 1 ∧ (Kr (tI s (tR s x0 9) 1) s)))) ∧ (x101 = 7 → (tO s 0 x0 ∧ (tX s 0 (tR s x0 9) 2 ∧ (Kr (tI s (tR s x0 9) 2) s)))) ∧ (x101 = 8 → (tO s 0 x0 ∧ (tX s 0 (tR s x0 9) 3 ∧ (Kr (tI s (tR s x0 9) 3) s)))) ∧ (x101 = 9 → (tO s 0 x0 ∧ (tX s 0 (tR s x0 9) 5 ∧ (Kr (tI s (tR s x0 9) 5) s)))) ∧ (x101 = 10 → (tO s 0 x0 ∧ (tX s 0 (tR s x0 9) 6 ∧ (Kr (tI s (tR s x0 9) 6) s)))) ∧ (x101 = 11 → (tO s 0 x0 ∧ (tO s 1 (tR s x0 0) ∧ (Kr (tI s (tR s x0 0) 6) s)))) ∧ (¬ x101 = 0 → ¬ x101 = 1 → ¬ x101 = 2 → ¬ x101 = 3 → ¬ x101 = 4 → ¬ x101 = 5 → ¬ x101 = 6 → ¬ x101 = 7 → ¬ x101 = 8 → ¬ x101 = 9 → ¬ x101 = 10 → ¬ x101 = 11 → (v_X0_in ((x1 : Int32).toInt64) 12 16 s (fun x142 s143 => ((x142 = 0 → (Kr (-1) s143)) ∧ (¬ x142 = 0 → (tO s143 0 x0 ∧ (v_X0_term x0 (x1 - 12) s143 (fun x145 s146 => (Kr x145 s146)))))))))))
theorem e_X0_count {G : xG} {l : Launch} {g : xH} {d : Nat} {N : tP} (hN : tNs G N) (hd : 2 * N.2.1 + 22 ≤ d) {x0 : Nat} {x1 : Int32} {s : tM} {Kr : Int32 → tM → Prop} (h : v_X0_count N x0 x1 s Kr) : xC G l kX0_count d 0 0 [rfv x0, .int x1] (tH G g s) (tQ G g wi Kr tNo) := by
  obtain ⟨d, rfl⟩ : ∃ z, d = z + 1 := ⟨d - 1, by omega⟩
  refine t_start rfl (by decide +kernel) (by simp [xct_i, xct_l, rfv_c]) (lv := [some (rfv x0), some (.int x1)]) (by simp [lv_args, xLv, rfv_c, xct_i, xct_l]) ?_
  unfold v_X0_count at h
  refine x_iload_1 dX0_count_0 ?_
  refine t_topi (fun x101 ex101 => ?_)
  have h := h x101 ex101
  by_cases c102 : x101 = 0
  · have h := h.1 c102
    refine x_cast rfl rfl (by rw [c102]) ?_
    refine x_tabIn 64 dX0_count_1 (by decide) (by decide) (off := 63) (by decide) (by decide) ?_
    refine t_aload_0 dX0_count_64 ?_
    obtain ⟨e105, h⟩ := h
    refine t_cVi (As := []) rfl cv_X0_142 rfl e105 rfl rfl (xrm4 (Nat.le_of_ble_eq_true rfl)) dX0_count_65 (e_X0_nNotes (by omega) h) ⟨Nat.zero_le _, Nat.zero_le _⟩ (fun _ _ _ h => h.elim) (fun x103 s104 h => ?_)
    exact x_iret dX0_count_68 rfl (Or.inl ⟨_, _, h, rfl, rfl⟩)
  by_cases c106 : x101 = 1
  · have h := h.2.1 c106
    refine x_cast rfl rfl (by rw [c106]) ?_
    refine x_tabIn 69 dX0_count_1 (by decide) (by decide) (off := 68) (by decide) (by decide) ?_
    refine t_aload_0 dX0_count_69 ?_
    obtain ⟨e109, h⟩ := h
    refine t_cVi (As := []) rfl cv_X0_300 rfl e109 rfl rfl (xrm4 (Nat.le_of_ble_eq_true rfl)) dX0_count_70 (e_X0_barredOnes hN (by omega) h) ⟨Nat.zero_le _, Nat.zero_le _⟩ (fun _ _ _ h => h.elim) (fun x107 s108 h => ?_)
    exact x_iret dX0_count_73 rfl (Or.inl ⟨_, _, h, rfl, rfl⟩)
  by_cases c110 : x101 = 2
  · have h := h.2.2.1 c110
    refine x_cast rfl rfl (by rw [c110]) ?_
    refine x_tabIn 74 dX0_count_1 (by decide) (by decide) (off := 73) (by decide) (by decide) ?_
    refine t_aload_0 dX0_count_74 ?_
    obtain ⟨e111, h⟩ := h
    refine t_getR dX0_count_75 fa_X0_18_0 (by decide) e111 ?_
    obtain ⟨e112, h⟩ := h
    refine t_getI dX0_count_78 fa_X0_378_1 (by decide) e112 ?_
    exact x_iret dX0_count_81 rfl (Or.inl ⟨_, _, h, rfl, rfl⟩)
  by_cases c113 : x101 = 3
  · have h := h.2.2.2.1 c113
    refine x_cast rfl rfl (by rw [c113]) ?_
    refine x_tabIn 82 dX0_count_1 (by decide) (by decide) (off := 81) (by decide) (by decide) ?_
    refine t_aload_0 dX0_count_82 ?_
    obtain ⟨e114, h⟩ := h
    refine t_getR dX0_count_83 fa_X0_18_0 (by decide) e114 ?_
    obtain ⟨e115, h⟩ := h
    refine t_getR dX0_count_86 fa_X0_227_1 (by decide) e115 ?_
    obtain ⟨e118, h⟩ := h
    refine t_cVi (As := []) rfl cv_X0_231 rfl e118 rfl rfl (xrm4 (Nat.le_of_ble_eq_true rfl)) dX0_count_89 (e_J2_size (by omega) h) ⟨Nat.zero_le _, Nat.zero_le _⟩ (fun _ _ _ h => h.elim) (fun x116 s117 h => ?_)
    exact x_iret dX0_count_92 rfl (Or.inl ⟨_, _, h, rfl, rfl⟩)
  by_cases c119 : x101 = 4
  · have h := h.2.2.2.2.1 c119
    refine x_cast rfl rfl (by rw [c119]) ?_
    refine x_tabIn 93 dX0_count_1 (by decide) (by decide) (off := 92) (by decide) (by decide) ?_
    refine t_aload_0 dX0_count_93 ?_
    obtain ⟨e120, h⟩ := h
    refine t_getR dX0_count_94 fa_X0_29_0 (by decide) e120 ?_
    obtain ⟨e121, h⟩ := h
    refine t_getI dX0_count_97 fa_X0_129_3 (by decide) e121 ?_
    exact x_iret dX0_count_100 rfl (Or.inl ⟨_, _, h, rfl, rfl⟩)
  by_cases c122 : x101 = 5
  · have h := h.2.2.2.2.2.1 c122
    refine x_cast rfl rfl (by rw [c122]) ?_
    refine x_tabIn 101 dX0_count_1 (by decide) (by decide) (off := 100) (by decide) (by decide) ?_
    refine t_aload_0 dX0_count_101 ?_
    obtain ⟨e123, h⟩ := h
    refine t_getI dX0_count_102 fa_X0_146_0 (by decide) e123 ?_
    exact x_iret dX0_count_105 rfl (Or.inl ⟨_, _, h, rfl, rfl⟩)
  by_cases c124 : x101 = 6
  · have h := h.2.2.2.2.2.2.1 c124
    refine x_cast rfl rfl (by rw [c124]) ?_
    refine x_tabIn 106 dX0_count_1 (by decide) (by decide) (off := 105) (by decide) (by decide) ?_
    refine t_aload_0 dX0_count_106 ?_
    obtain ⟨e125, h⟩ := h
    refine t_getR dX0_count_107 fa_X0_67_0 (by decide) e125 ?_
    refine x_iconst (v := 1) dX0_count_110 (by decide) ?_
    obtain ⟨e126, h⟩ := h
    refine t_iald dX0_count_111 e126 ?_
    exact x_iret dX0_count_112 rfl (Or.inl ⟨_, _, h, rfl, rfl⟩)
  by_cases c127 : x101 = 7
  · have h := h.2.2.2.2.2.2.2.1 c127
    refine x_cast rfl rfl (by rw [c127]) ?_
    refine x_tabIn 113 dX0_count_1 (by decide) (by decide) (off := 112) (by decide) (by decide) ?_
    refine t_aload_0 dX0_count_113 ?_
    obtain ⟨e128, h⟩ := h
    refine t_getR dX0_count_114 fa_X0_67_0 (by decide) e128 ?_
    refine x_iconst (v := 2) dX0_count_117 (by decide) ?_
    obtain ⟨e129, h⟩ := h
    refine t_iald dX0_count_118 e129 ?_
    exact x_iret dX0_count_119 rfl (Or.inl ⟨_, _, h, rfl, rfl⟩)
  by_cases c130 : x101 = 8
  · have h := h.2.2.2.2.2.2.2.2.1 c130
    refine x_cast rfl rfl (by rw [c130]) ?_
    refine x_tabIn 120 dX0_count_1 (by decide) (by decide) (off := 119) (by decide) (by decide) ?_
    refine t_aload_0 dX0_count_120 ?_
    obtain ⟨e131, h⟩ := h
    refine t_getR dX0_count_121 fa_X0_67_0 (by decide) e131 ?_
    refine x_iconst (v := 3) dX0_count_124 (by decide) ?_
    obtain ⟨e132, h⟩ := h
    refine t_iald dX0_count_125 e132 ?_
    exact x_iret dX0_count_126 rfl (Or.inl ⟨_, _, h, rfl, rfl⟩)
  by_cases c133 : x101 = 9
  · have h := h.2.2.2.2.2.2.2.2.2.1 c133
    refine x_cast rfl rfl (by rw [c133]) ?_
    refine x_tabIn 127 dX0_count_1 (by decide) (by decide) (off := 126) (by decide) (by decide) ?_
    refine t_aload_0 dX0_count_127 ?_
    obtain ⟨e134, h⟩ := h
    refine t_getR dX0_count_128 fa_X0_67_0 (by decide) e134 ?_
    refine x_iconst (v := 5) dX0_count_131 (by decide) ?_
    obtain ⟨e135, h⟩ := h
    refine t_iald dX0_count_132 e135 ?_
    exact x_iret dX0_count_133 rfl (Or.inl ⟨_, _, h, rfl, rfl⟩)
  by_cases c136 : x101 = 10
  · have h := h.2.2.2.2.2.2.2.2.2.2.1 c136
    refine x_cast rfl rfl (by rw [c136]) ?_
    refine x_tabIn 134 dX0_count_1 (by decide) (by decide) (off := 133) (by decide) (by decide) ?_
    refine t_aload_0 dX0_count_134 ?_
    obtain ⟨e137, h⟩ := h
    refine t_getR dX0_count_135 fa_X0_67_0 (by decide) e137 ?_
    refine x_bipush (v := 6) dX0_count_138 (by decide) ?_
    obtain ⟨e138, h⟩ := h
    refine t_iald dX0_count_140 e138 ?_
    exact x_iret dX0_count_141 rfl (Or.inl ⟨_, _, h, rfl, rfl⟩)
  by_cases c139 : x101 = 11
  · have h := h.2.2.2.2.2.2.2.2.2.2.2.1 c139
    refine x_cast rfl rfl (by rw [c139]) ?_
    refine x_tabIn 142 dX0_count_1 (by decide) (by decide) (off := 141) (by decide) (by decide) ?_
    refine t_aload_0 dX0_count_142 ?_
    obtain ⟨e140, h⟩ := h
    refine t_getR dX0_count_143 fa_X0_18_0 (by decide) e140 ?_
    obtain ⟨e141, h⟩ := h
    refine t_getI dX0_count_146 fa_X0_257_1 (by decide) e141 ?_
    exact x_iret dX0_count_149 rfl (Or.inl ⟨_, _, h, rfl, rfl⟩)
  have h := h.2.2.2.2.2.2.2.2.2.2.2.2 c102 c106 c110 c113 c119 c122 c124 c127 c130 c133 c136 c139
  have z0 := xti (v := 0) (z := 0) (by decide) c102
  have z1 := xti (v := 1) (z := 1) (by decide) c106
  have z2 := xti (v := 2) (z := 2) (by decide) c110
  have z3 := xti (v := 3) (z := 3) (by decide) c113
  have z4 := xti (v := 4) (z := 4) (by decide) c119
  have z5 := xti (v := 5) (z := 5) (by decide) c122
  have z6 := xti (v := 6) (z := 6) (by decide) c124
  have z7 := xti (v := 7) (z := 7) (by decide) c127
  have z8 := xti (v := 8) (z := 8) (by decide) c130
  have z9 := xti (v := 9) (z := 9) (by decide) c133
  have z10 := xti (v := 10) (z := 10) (by decide) c136
  have z11 := xti (v := 11) (z := 11) (by decide) c139
  refine x_tabOut 150 dX0_count_1 (by omega) (by decide) ?_
  refine x_iload_1 dX0_count_150 ?_
  refine x_i2l dX0_count_151 ?_
  refine x_ldc2 dX0_count_152 q1590 ?_
  refine x_ldc2 dX0_count_155 q1591 ?_
  refine t_cSi (As := [_, _, _]) rfl cs_X0_5 rfl rfl (xrm4 (Nat.le_of_ble_eq_true rfl)) dX0_count_158 (e_X0_in (by omega) h) ⟨Nat.zero_le _, Nat.zero_le _⟩ (fun _ _ _ h => h.elim) (fun x142 s143 h => ?_)
  refine x_if_eq 175 dX0_count_161 (by decide) (fun c144 => ?_) (fun c144 => ?_)
  · have h := h.1 c144
    refine x_iconst (v := (-1)) dX0_count_175 (by decide) ?_
    exact x_iret dX0_count_176 rfl (Or.inl ⟨_, _, h, rfl, rfl⟩)
  · have h := h.2 c144
    refine t_aload_0 dX0_count_164 ?_
    refine x_iload_1 dX0_count_165 ?_
    refine x_bipush (v := 12) dX0_count_166 (by decide) ?_
    refine x_isub dX0_count_168 ?_
    obtain ⟨e147, h⟩ := h
    refine t_cVi (As := [_]) rfl cv_X0_206 rfl e147 rfl rfl (xrm4 (Nat.le_of_ble_eq_true rfl)) dX0_count_169 (e_X0_term (by omega) h) ⟨Nat.zero_le _, Nat.zero_le _⟩ (fun _ _ _ h => h.elim) (fun x145 s146 h => ?_)
    refine x_goto 176 dX0_count_172 (by decide) ?_
    exact x_iret dX0_count_176 rfl (Or.inl ⟨_, _, h, rfl, rfl⟩)
def v_X0_drawn (x0 : Nat) (x1 : Int32) (x2 : Int32) (s : tM) (Kr : Int32 → tM → Prop) : Prop :=
  (tO s 0 x0 ∧ (v_X0_in ((x1 : Int32).toInt64) 0 (((tI s x0 27) - 1 : Int32).toInt64) s (fun x102 s103 => ((¬ x102 = 0 → ((¬ x2 = 0 → ((¬ x2 = 1 → (Kr (-1) s103)) ∧ (x2 = 1 → (tO s103 0 x0 ∧ (tO s103 2 (tR s103 x0 26) ∧ (tX s103 0 (tR s103 (tR s103 x0 26) 1) x1 ∧ (Kr (tI s103 (tR s103 (tR s103 x0 26) 1) x1.toNatClampNeg) s103))))))) ∧ (x2 = 0 → (tO s103 0 x0 ∧ (tO s103 2 (tR s103 x0 26) ∧ (tX s103 0 (tR s103 (tR s103 x0 26) 0) x1 ∧ (Kr (tI s103 (tR s103 (tR s103 x0 26) 0) x1.toNatClampNeg) s103))))))) ∧ (x102 = 0 → (Kr (-1) s103))))))
theorem e_X0_drawn {G : xG} {l : Launch} {g : xH} {d : Nat} (hd : 4 ≤ d) {x0 : Nat} {x1 : Int32} {x2 : Int32} {s : tM} {Kr : Int32 → tM → Prop} (h : v_X0_drawn x0 x1 x2 s Kr) : xC G l kX0_drawn d 0 0 [rfv x0, .int x1, .int x2] (tH G g s) (tQ G g wi Kr tNo) := by
  obtain ⟨d, rfl⟩ : ∃ z, d = z + 1 := ⟨d - 1, by omega⟩
  refine t_start rfl (by decide +kernel) (by simp [xct_i, xct_l, rfv_c]) (lv := [some (rfv x0), some (.int x1), some (.int x2)]) (by simp [lv_args, xLv, rfv_c, xct_i, xct_l]) ?_
  unfold v_X0_drawn at h
  refine x_iload_1 dX0_drawn_0 ?_
  refine x_i2l dX0_drawn_1 ?_
  refine x_lconst (v := 0) dX0_drawn_2 (by decide) ?_
  refine t_aload_0 dX0_drawn_3 ?_
  obtain ⟨e101, h⟩ := h
  refine t_getI dX0_drawn_4 fa_X0_117_0 (by decide) e101 ?_
  refine x_iconst (v := 1) dX0_drawn_7 (by decide) ?_
  refine x_isub dX0_drawn_8 ?_
  refine x_i2l dX0_drawn_9 ?_
  refine t_cSi (As := [_, _, _]) rfl cs_X0_5 rfl rfl (xrm4 (Nat.le_of_ble_eq_true rfl)) dX0_drawn_10 (e_X0_in (by omega) h) ⟨Nat.zero_le _, Nat.zero_le _⟩ (fun _ _ _ h => h.elim) (fun x102 s103 h => ?_)
  refine x_if_ne 18 dX0_drawn_13 (by decide) (fun c104 => ?_) (fun c104 => ?_)
  · have h := h.1 c104
    refine x_iload_2 dX0_drawn_18 ?_
    refine x_if_ne 34 dX0_drawn_19 (by decide) (fun c105 => ?_) (fun c105 => ?_)
    · have h := h.1 c105
      refine x_iload_2 dX0_drawn_34 ?_
      refine x_iconst (v := 1) dX0_drawn_35 (by decide) ?_
      refine x_icmp_ne 51 dX0_drawn_36 (by decide) (fun c106 => ?_) (fun c106 => ?_)
      · have h := h.1 c106
        refine x_iconst (v := (-1)) dX0_drawn_51 (by decide) ?_
        exact x_iret dX0_drawn_52 rfl (Or.inl ⟨_, _, h, rfl, rfl⟩)
      · have h := h.2 c106
        refine t_aload_0 dX0_drawn_39 ?_
        obtain ⟨e107, h⟩ := h
        refine t_getR dX0_drawn_40 fa_X0_114_0 (by decide) e107 ?_
        obtain ⟨e108, h⟩ := h
        refine t_getR dX0_drawn_43 fa_X0_163_2 (by decide) e108 ?_
        refine x_iload_1 dX0_drawn_46 ?_
        obtain ⟨e109, h⟩ := h
        refine t_iald dX0_drawn_47 e109 ?_
        refine x_goto 52 dX0_drawn_48 (by decide) ?_
        exact x_iret dX0_drawn_52 rfl (Or.inl ⟨_, _, h, rfl, rfl⟩)
    · have h := h.2 c105
      refine t_aload_0 dX0_drawn_22 ?_
      obtain ⟨e110, h⟩ := h
      refine t_getR dX0_drawn_23 fa_X0_114_0 (by decide) e110 ?_
      obtain ⟨e111, h⟩ := h
      refine t_getR dX0_drawn_26 fa_X0_160_2 (by decide) e111 ?_
      refine x_iload_1 dX0_drawn_29 ?_
      obtain ⟨e112, h⟩ := h
      refine t_iald dX0_drawn_30 e112 ?_
      refine x_goto 52 dX0_drawn_31 (by decide) ?_
      exact x_iret dX0_drawn_52 rfl (Or.inl ⟨_, _, h, rfl, rfl⟩)
  · have h := h.2 c104
    refine x_iconst (v := (-1)) dX0_drawn_16 (by decide) ?_
    exact x_iret dX0_drawn_17 rfl (Or.inl ⟨_, _, h, rfl, rfl⟩)
def v_X0_end (x0 : Nat) (x1 : Int32) (s : tM) (Kr : Int32 → tM → Prop) : Prop :=
  (tO s 0 x0 ∧ (v_X0_in ((x1 : Int32).toInt64) 0 ((tI s x0 15 : Int32).toInt64) s (fun x102 s103 => ((¬ x102 = 0 → (tO s103 0 x0 ∧ (∀ s106 : tM, s106 = tsI s103 x0 15 x1 → (Kr x1 s106)))) ∧ (x102 = 0 → (Kr (-1) s103))))))
theorem e_X0_end {G : xG} {l : Launch} {g : xH} {d : Nat} (hd : 4 ≤ d) {x0 : Nat} {x1 : Int32} {s : tM} {Kr : Int32 → tM → Prop} (h : v_X0_end x0 x1 s Kr) : xC G l kX0_end d 0 0 [rfv x0, .int x1] (tH G g s) (tQ G g wi Kr tNo) := by
  obtain ⟨d, rfl⟩ : ∃ z, d = z + 1 := ⟨d - 1, by omega⟩
  refine t_start rfl (by decide +kernel) (by simp [xct_i, xct_l, rfv_c]) (lv := [some (rfv x0), some (.int x1)]) (by simp [lv_args, xLv, rfv_c, xct_i, xct_l]) ?_
  unfold v_X0_end at h
  refine x_iload_1 dX0_end_0 ?_
  refine x_i2l dX0_end_1 ?_
  refine x_lconst (v := 0) dX0_end_2 (by decide) ?_
  refine t_aload_0 dX0_end_3 ?_
  obtain ⟨e101, h⟩ := h
  refine t_getI dX0_end_4 fa_X0_146_0 (by decide) e101 ?_
  refine x_i2l dX0_end_7 ?_
  refine t_cSi (As := [_, _, _]) rfl cs_X0_5 rfl rfl (xrm4 (Nat.le_of_ble_eq_true rfl)) dX0_end_8 (e_X0_in (by omega) h) ⟨Nat.zero_le _, Nat.zero_le _⟩ (fun _ _ _ h => h.elim) (fun x102 s103 h => ?_)
  refine x_if_ne 16 dX0_end_11 (by decide) (fun c104 => ?_) (fun c104 => ?_)
  · have h := h.1 c104
    refine t_aload_0 dX0_end_16 ?_
    refine x_iload_1 dX0_end_17 ?_
    obtain ⟨e105, h⟩ := h
    refine t_putI (j := 15) dX0_end_18 fp_X0_146_0 (by decide) e105 rfl rfl ?_
    refine t_gen h (fun s106 w107 h => ?_)
    refine x_iload_1 dX0_end_21 ?_
    exact x_iret dX0_end_22 rfl (Or.inl ⟨_, _, h, rfl, rfl⟩)
  · have h := h.2 c104
    refine x_iconst (v := (-1)) dX0_end_14 (by decide) ?_
    exact x_iret dX0_end_15 rfl (Or.inl ⟨_, _, h, rfl, rfl⟩)
def v_X0_fault (x0 : Nat) (s : tM) (Kr : Int32 → tM → Prop) : Prop :=
  (tO s 0 x0 ∧ (Kr (tI s x0 11) s))
theorem e_X0_fault {G : xG} {l : Launch} {g : xH} {d : Nat} (hd : 2 ≤ d) {x0 : Nat} {s : tM} {Kr : Int32 → tM → Prop} (h : v_X0_fault x0 s Kr) : xC G l kX0_fault d 0 0 [rfv x0] (tH G g s) (tQ G g wi Kr tNo) := by
  obtain ⟨d, rfl⟩ : ∃ z, d = z + 1 := ⟨d - 1, by omega⟩
  refine t_start rfl (by decide +kernel) (by simp [xct_i, xct_l, rfv_c]) (lv := [some (rfv x0)]) (by simp [lv_args, xLv, rfv_c, xct_i, xct_l]) ?_
  unfold v_X0_fault at h
  refine t_aload_0 dX0_fault_0 ?_
  obtain ⟨e101, h⟩ := h
  refine t_getI dX0_fault_1 fa_X0_71_0 (by decide) e101 ?_
  exact x_iret dX0_fault_4 rfl (Or.inl ⟨_, _, h, rfl, rfl⟩)
def v_X0_four_3 (N : tP) (x0 : Nat) (x1 : Int32) (Kr : tM → Prop) (K : tM → Prop) : Nat → Int32 → tM → Prop
  | 0, _, _ => False
  | t + 1, x2, s => ((x2 < 0 → (K s)) ∧ (¬ x2 < 0 → (tO s 0 x0 ∧ (tX s 2 (tR s x0 14) (tI s x0 15) ∧ (∀ s104 : tM, s104 = tsI s (tR s x0 14) (tI s x0 15).toNatClampNeg (vp_nar .byte ((x1 >>> (x2 &&& 31) : Int32).toInt8.toInt32)) → (∀ s106 : tM, s106 = tsI s104 x0 15 ((tI s104 x0 15) + 1) → (∀ x108 : Int32, x108 = x2 + (-8) → ((fun x2 s => v_X0_four_3 N x0 x1 Kr K t x2 s) x108 s106))))))))
theorem e_X0_four_3 {G : xG} {l : Launch} {g : xH} {d : Nat} {N : tP} (hN : tNs G N) (hd : 1 ≤ d) (x0 : Nat) (x1 : Int32) (Kr : tM → Prop) (K : tM → Prop) : ∀ (t : Nat) (x2 : Int32) (s : tM) , v_X0_four_3 N x0 x1 Kr K t x2 s → (∀ (s : tM), K s → xF G l kX0_four (d + 1) 0 0 (tQ G g wu (fun _ => Kr) tNo) 36 [none, none, none] [] (tH G g s)) → xF G l kX0_four (d + 1) 0 0 (tQ G g wu (fun _ => Kr) tNo) 3 [some (rfv x0), some (.int x1), some (.int x2)] [] (tH G g s) := by
  intro t
  induction t with
  | zero =>
    intro _ _ h _
    exact absurd h (by simp [v_X0_four_3])
  | succ t ih =>
    intro x2 s h hK
    have hR := fun x2 s h => ih x2 s h hK
    unfold v_X0_four_3 at h
    refine x_iload_2 dX0_four_3 ?_
    refine x_if_lt 36 dX0_four_4 (by decide) (fun c101 => ?_) (fun c101 => ?_)
    · have h := h.1 c101
      exact x_le (xLe_none (xLe_none (xLe_none (xLe_nil)))) (hK _ h)
    · have h := h.2 c101
      refine t_aload_0 dX0_four_7 ?_
      obtain ⟨e102, h⟩ := h
      refine t_getR dX0_four_8 fa_X0_78_0 (by decide) e102 ?_
      refine t_aload_0 dX0_four_11 ?_
      refine t_getI dX0_four_12 fa_X0_146_0 (by decide) e102 ?_
      refine x_iload_1 dX0_four_15 ?_
      refine x_iload_2 dX0_four_16 ?_
      refine x_ishr dX0_four_17 ?_
      refine x_i2b dX0_four_18 ?_
      obtain ⟨e103, h⟩ := h
      refine t_bast dX0_four_19 e103 ?_
      refine t_gen h (fun s104 w105 h => ?_)
      refine t_aload_0 dX0_four_20 ?_
      refine x_dup dX0_four_21 (rfv_c _) ?_
      refine t_getI dX0_four_22 fa_X0_146_0 (by decide) (tO_w w105 e102) ?_
      refine x_iconst (v := 1) dX0_four_25 (by decide) ?_
      refine x_iadd dX0_four_26 ?_
      refine t_putI (j := 15) dX0_four_27 fp_X0_146_0 (by decide) (tO_w w105 e102) rfl rfl ?_
      refine t_gen h (fun s106 w107 h => ?_)
      refine x_iinc_2 (v := (-8)) dX0_four_30 (by decide) (by decide) xN2_i ?_
      have h := h _ rfl
      refine x_goto 3 dX0_four_33 (by decide) ?_
      exact x_le (xLe_cons (xLe_cons (xLe_cons (xLe_nil)))) (hR _ _ h)
def v_X0_four (N : tP) (x0 : Nat) (x1 : Int32) (s : tM) (Kr : tM → Prop) : Prop :=
  (v_X0_four_3 N x0 x1 Kr (fun s101 => (Kr s101)) N.1 24 s)
theorem e_X0_four {G : xG} {l : Launch} {g : xH} {d : Nat} {N : tP} (hN : tNs G N) (hd : 2 ≤ d) {x0 : Nat} {x1 : Int32} {s : tM} {Kr : tM → Prop} (h : v_X0_four N x0 x1 s Kr) : xC G l kX0_four d 0 0 [rfv x0, .int x1] (tH G g s) (tQ G g wu (fun _ => Kr) tNo) := by
  obtain ⟨d, rfl⟩ : ∃ z, d = z + 1 := ⟨d - 1, by omega⟩
  refine t_start rfl (by decide +kernel) (by simp [xct_i, xct_l, rfv_c]) (lv := [some (rfv x0), some (.int x1), none]) (by simp [lv_args, xLv, rfv_c, xct_i, xct_l]) ?_
  unfold v_X0_four at h
  refine x_bipush (v := 24) dX0_four_0 (by decide) ?_
  refine x_istore_2 dX0_four_2 (by decide) xN2_i ?_
  refine x_le (xLe_cons (xLe_cons (xLe_cons (xLe_nil)))) (e_X0_four_3 hN (by omega) _ _ _ _  _ _ _ h (fun s101 h => ?_))
  exact x_vret dX0_four_36 rfl (Or.inl ⟨(), _, h, rfl, rfl⟩)
def v_X0_feed (N : tP) (x0 : Nat) (x1 : Int32) (x2 : Int32) (x3 : Int32) (x4 : Int32) (x5 : Int32) (s : tM) (Kr : Int32 → tM → Prop) : Prop :=
  (tO s 0 x0 ∧ ((((tI s x0 15) + 20) ≤ 400 → (v_X0_four N x0 x1 s (fun s104 => (tO s104 0 x0 ∧ (v_X0_four N x0 x2 s104 (fun s106 => (tO s106 0 x0 ∧ (v_X0_four N x0 x3 s106 (fun s109 => (tO s109 0 x0 ∧ (v_X0_four N x0 x4 s109 (fun s112 => (tO s112 0 x0 ∧ (v_X0_four N x0 x5 s112 (fun s115 => (tO s115 0 x0 ∧ (Kr (tI s115 x0 15) s115))))))))))))))))) ∧ (¬ ((tI s x0 15) + 20) ≤ 400 → (Kr (-1) s))))
theorem e_X0_feed {G : xG} {l : Launch} {g : xH} {d : Nat} {N : tP} (hN : tNs G N) (hd : 4 ≤ d) {x0 : Nat} {x1 : Int32} {x2 : Int32} {x3 : Int32} {x4 : Int32} {x5 : Int32} {s : tM} {Kr : Int32 → tM → Prop} (h : v_X0_feed N x0 x1 x2 x3 x4 x5 s Kr) : xC G l kX0_feed d 0 0 [rfv x0, .int x1, .int x2, .int x3, .int x4, .int x5] (tH G g s) (tQ G g wi Kr tNo) := by
  obtain ⟨d, rfl⟩ : ∃ z, d = z + 1 := ⟨d - 1, by omega⟩
  refine t_start rfl (by decide +kernel) (by simp [xct_i, xct_l, rfv_c]) (lv := [some (rfv x0), some (.int x1), some (.int x2), some (.int x3), some (.int x4), some (.int x5)]) (by simp [lv_args, xLv, rfv_c, xct_i, xct_l]) ?_
  unfold v_X0_feed at h
  refine t_aload_0 dX0_feed_0 ?_
  obtain ⟨e101, h⟩ := h
  refine t_getI dX0_feed_1 fa_X0_146_0 (by decide) e101 ?_
  refine x_bipush (v := 20) dX0_feed_4 (by decide) ?_
  refine x_iadd dX0_feed_6 ?_
  refine x_sipush (v := 400) dX0_feed_7 (by decide) ?_
  refine x_icmp_le 15 dX0_feed_10 (by decide) (fun c102 => ?_) (fun c102 => ?_)
  · have h := h.1 c102
    refine t_aload_0 dX0_feed_15 ?_
    refine x_iload_1 dX0_feed_16 ?_
    refine t_cVv (As := [_]) rfl cv_X0_149 rfl e101 rfl rfl (xrm4 (Nat.le_of_ble_eq_true rfl)) dX0_feed_17 (e_X0_four hN (by omega) h) ⟨Nat.zero_le _, Nat.zero_le _⟩ (fun _ _ _ h => h.elim) (fun _ s104 h => ?_)
    refine t_aload_0 dX0_feed_20 ?_
    refine x_iload_2 dX0_feed_21 ?_
    obtain ⟨e107, h⟩ := h
    refine t_cVv (As := [_]) rfl cv_X0_149 rfl e107 rfl rfl (xrm4 (Nat.le_of_ble_eq_true rfl)) dX0_feed_22 (e_X0_four hN (by omega) h) ⟨Nat.zero_le _, Nat.zero_le _⟩ (fun _ _ _ h => h.elim) (fun _ s106 h => ?_)
    refine t_aload_0 dX0_feed_25 ?_
    refine x_iload_3 dX0_feed_26 ?_
    obtain ⟨e110, h⟩ := h
    refine t_cVv (As := [_]) rfl cv_X0_149 rfl e110 rfl rfl (xrm4 (Nat.le_of_ble_eq_true rfl)) dX0_feed_27 (e_X0_four hN (by omega) h) ⟨Nat.zero_le _, Nat.zero_le _⟩ (fun _ _ _ h => h.elim) (fun _ s109 h => ?_)
    refine t_aload_0 dX0_feed_30 ?_
    refine x_iload_4 dX0_feed_31 ?_
    obtain ⟨e113, h⟩ := h
    refine t_cVv (As := [_]) rfl cv_X0_149 rfl e113 rfl rfl (xrm4 (Nat.le_of_ble_eq_true rfl)) dX0_feed_33 (e_X0_four hN (by omega) h) ⟨Nat.zero_le _, Nat.zero_le _⟩ (fun _ _ _ h => h.elim) (fun _ s112 h => ?_)
    refine t_aload_0 dX0_feed_36 ?_
    refine x_iload_5 dX0_feed_37 ?_
    obtain ⟨e116, h⟩ := h
    refine t_cVv (As := [_]) rfl cv_X0_149 rfl e116 rfl rfl (xrm4 (Nat.le_of_ble_eq_true rfl)) dX0_feed_39 (e_X0_four hN (by omega) h) ⟨Nat.zero_le _, Nat.zero_le _⟩ (fun _ _ _ h => h.elim) (fun _ s115 h => ?_)
    refine t_aload_0 dX0_feed_42 ?_
    obtain ⟨e117, h⟩ := h
    refine t_getI dX0_feed_43 fa_X0_146_0 (by decide) e117 ?_
    exact x_iret dX0_feed_46 rfl (Or.inl ⟨_, _, h, rfl, rfl⟩)
  · have h := h.2 c102
    refine x_iconst (v := (-1)) dX0_feed_13 (by decide) ?_
    exact x_iret dX0_feed_14 rfl (Or.inl ⟨_, _, h, rfl, rfl⟩)
