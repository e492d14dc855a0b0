set_option maxRecDepth 100000
def v_X0_mend_76 (N : tP) (x0 : Nat) (x1 : Int32) (x2 : Int32) (x3 : Int32) (Kr : Int32 → tM → Prop) (K : Int32 → tM → Prop) : Nat → Int32 → tM → Prop
  | 0, _, _ => False
  | t + 1, x4, s => (tO s 0 x0 ∧ (tX s 13 (tR s x0 16) x3 ∧ (tX s 12 (tR s (tR s x0 16) x3.toNatClampNeg) x2 ∧ (tX s 3 (tR s (tR s (tR s x0 16) x3.toNatClampNeg) x2.toNatClampNeg) x4 ∧ (((tI s (tR s (tR s (tR s x0 16) x3.toNatClampNeg) x2.toNatClampNeg) x4.toNatClampNeg) = 0 → (∀ x106 : Int32, x106 = x4 + 1 → ((fun x4 s => v_X0_mend_76 N x0 x1 x2 x3 Kr K t x4 s) x106 s))) ∧ (¬ (tI s (tR s (tR s (tR s x0 16) x3.toNatClampNeg) x2.toNatClampNeg) x4.toNatClampNeg) = 0 → (tX s 15 (tR s x0 22) (x3 + 1) ∧ (tX s 1 (tR s (tR s x0 22) (x3 + 1).toNatClampNeg) (x4 + 1) ∧ (((lg_cmp (tJ s (tR s (tR s x0 22) (x3 + 1).toNatClampNeg) (x4 + 1).toNatClampNeg) 0) = 0 → (∀ x110 : Int32, x110 = x4 + 1 → ((fun x4 s => v_X0_mend_76 N x0 x1 x2 x3 Kr K t x4 s) x110 s))) ∧ (¬ (lg_cmp (tJ s (tR s (tR s x0 22) (x3 + 1).toNatClampNeg) (x4 + 1).toNatClampNeg) 0) = 0 → (v_X0_differs x0 x3 x4 s (fun x111 s112 => (tO s112 0 x0 ∧ (tX s112 11 (tR s112 x0 21) (x3 + 1) ∧ (tX s112 0 (tR s112 (tR s112 x0 21) (x3 + 1).toNatClampNeg) (x4 + 1) ∧ (tX s112 11 (tR s112 x0 21) x3 ∧ (tX s112 0 (tR s112 (tR s112 x0 21) x3.toNatClampNeg) x2 ∧ (((x111 + (tI s112 (tR s112 (tR s112 x0 21) (x3 + 1).toNatClampNeg) (x4 + 1).toNatClampNeg)) = (tI s112 (tR s112 (tR s112 x0 21) x3.toNatClampNeg) x2.toNatClampNeg) → (K x4 s112)) ∧ (¬ (x111 + (tI s112 (tR s112 (tR s112 x0 21) (x3 + 1).toNatClampNeg) (x4 + 1).toNatClampNeg)) = (tI s112 (tR s112 (tR s112 x0 21) x3.toNatClampNeg) x2.toNatClampNeg) → (∀ x119 : Int32, x119 = x4 + 1 → ((fun x4 s => v_X0_mend_76 N x0 x1 x2 x3 Kr K t x4 s) x119 s112)))))))))))))))))))))
theorem e_X0_mend_76 {G : xG} {l : Launch} {g : xH} {d : Nat} {N : tP} (hN : tNs G N) (hd : 2 * N.2.1 + 23 ≤ d) (x0 : Nat) (x1 : Int32) (x2 : Int32) (x3 : Int32) (Kr : Int32 → tM → Prop) (K : Int32 → tM → Prop) : ∀ (t : Nat) (x4 : Int32) (s : tM) , v_X0_mend_76 N x0 x1 x2 x3 Kr K t x4 s → (∀ (z4 : Int32) (s : tM), K z4 s → xF G l kX0_mend (d + 1) 0 0 (tQ G g wi Kr tNo) 146 [some (rfv x0), some (.int x1), none, some (.int x3), some (.int z4)] [] (tH G g s)) → xF G l kX0_mend (d + 1) 0 0 (tQ G g wi Kr tNo) 76 [some (rfv x0), some (.int x1), some (.int x2), some (.int x3), some (.int x4)] [] (tH G g s) := by
  intro t
  induction t with
  | zero =>
    intro _ _ h _
    exact absurd h (by simp [v_X0_mend_76])
  | succ t ih =>
    intro x4 s h hK
    have hR := fun x4 s h => ih x4 s h hK
    unfold v_X0_mend_76 at h
    refine t_aload_0 dX0_mend_76 ?_
    obtain ⟨e101, h⟩ := h
    refine t_getR dX0_mend_77 fa_X0_84_0 (by decide) e101 ?_
    refine x_iload_3 dX0_mend_80 ?_
    obtain ⟨e102, h⟩ := h
    refine t_aald (t := 13) dX0_mend_81 ⟨rfl, by decide, by decide⟩ rfl e102 ?_
    refine x_iload_2 dX0_mend_82 ?_
    obtain ⟨e103, h⟩ := h
    refine t_aald (t := 12) dX0_mend_83 ⟨rfl, by decide, by decide⟩ rfl e103 ?_
    refine x_iload_4 dX0_mend_84 ?_
    obtain ⟨e104, h⟩ := h
    refine t_zald dX0_mend_86 e104 ?_
    refine x_if_eq 140 dX0_mend_87 (by decide) (fun c105 => ?_) (fun c105 => ?_)
    · have h := h.1 c105
      refine x_iinc_4 (v := 1) dX0_mend_140 (by decide) (by decide) xN2_i ?_
      have h := h _ rfl
      refine x_goto 76 dX0_mend_143 (by decide) ?_
      exact x_le (xLe_cons (xLe_cons (xLe_cons (xLe_cons (xLe_cons (xLe_nil)))))) (hR _ _ h)
    · have h := h.2 c105
      refine t_aload_0 dX0_mend_90 ?_
      refine t_getR dX0_mend_91 fa_X0_108_0 (by decide) e101 ?_
      refine x_iload_3 dX0_mend_94 ?_
      refine x_iconst (v := 1) dX0_mend_95 (by decide) ?_
      refine x_iadd dX0_mend_96 ?_
      obtain ⟨e107, h⟩ := h
      refine t_aald (t := 15) dX0_mend_97 ⟨rfl, by decide, by decide⟩ rfl e107 ?_
      refine x_iload_4 dX0_mend_98 ?_
      refine x_iconst (v := 1) dX0_mend_100 (by decide) ?_
      refine x_iadd dX0_mend_101 ?_
      obtain ⟨e108, h⟩ := h
      refine t_lald dX0_mend_102 e108 ?_
      refine x_lconst (v := 0) dX0_mend_103 (by decide) ?_
      refine x_lcmp dX0_mend_104 ?_
      refine x_if_eq 140 dX0_mend_105 (by decide) (fun c109 => ?_) (fun c109 => ?_)
      · have h := h.1 c109
        refine x_iinc_4 (v := 1) dX0_mend_140 (by decide) (by decide) xN2_i ?_
        have h := h _ rfl
        refine x_goto 76 dX0_mend_143 (by decide) ?_
        exact x_le (xLe_cons (xLe_cons (xLe_cons (xLe_cons (xLe_cons (xLe_nil)))))) (hR _ _ h)
      · have h := h.2 c109
        refine t_aload_0 dX0_mend_108 ?_
        refine x_iload_3 dX0_mend_109 ?_
        refine x_iload_4 dX0_mend_110 ?_
        refine t_cVi (As := [_, _]) rfl cv_X0_349 rfl e101 rfl rfl (xrm4 (Nat.le_of_ble_eq_true rfl)) dX0_mend_112 (e_X0_differs (by omega) h) ⟨Nat.zero_le _, Nat.zero_le _⟩ (fun _ _ _ h => h.elim) (fun x111 s112 h => ?_)
        refine t_aload_0 dX0_mend_115 ?_
        obtain ⟨e113, h⟩ := h
        refine t_getR dX0_mend_116 fa_X0_103_0 (by decide) e113 ?_
        refine x_iload_3 dX0_mend_119 ?_
        refine x_iconst (v := 1) dX0_mend_120 (by decide) ?_
        refine x_iadd dX0_mend_121 ?_
        obtain ⟨e114, h⟩ := h
        refine t_aald (t := 11) dX0_mend_122 ⟨rfl, by decide, by decide⟩ rfl e114 ?_
        refine x_iload_4 dX0_mend_123 ?_
        refine x_iconst (v := 1) dX0_mend_125 (by decide) ?_
        refine x_iadd dX0_mend_126 ?_
        obtain ⟨e115, h⟩ := h
        refine t_iald dX0_mend_127 e115 ?_
        refine x_iadd dX0_mend_128 ?_
        refine t_aload_0 dX0_mend_129 ?_
        refine t_getR dX0_mend_130 fa_X0_103_0 (by decide) e113 ?_
        refine x_iload_3 dX0_mend_133 ?_
        obtain ⟨e116, h⟩ := h
        refine t_aald (t := 11) dX0_mend_134 ⟨rfl, by decide, by decide⟩ rfl e116 ?_
        refine x_iload_2 dX0_mend_135 ?_
        obtain ⟨e117, h⟩ := h
        refine t_iald dX0_mend_136 e117 ?_
        refine x_icmp_eq 146 dX0_mend_137 (by decide) (fun c118 => ?_) (fun c118 => ?_)
        · have h := h.1 c118
          exact x_le (xLe_cons (xLe_cons (xLe_none (xLe_cons (xLe_cons (xLe_nil)))))) (hK _ _ h)
        · have h := h.2 c118
          refine x_iinc_4 (v := 1) dX0_mend_140 (by decide) (by decide) xN2_i ?_
          have h := h _ rfl
          refine x_goto 76 dX0_mend_143 (by decide) ?_
          exact x_le (xLe_cons (xLe_cons (xLe_cons (xLe_cons (xLe_cons (xLe_nil)))))) (hR _ _ h)
def v_X0_mend_60 (N : tP) (x0 : Nat) (x1 : Int32) (Kr : Int32 → tM → Prop) (K : Int32 → tM → Prop) : Nat → Int32 → Int32 → tM → Prop
  | 0, _, _, _ => False
  | t + 1, x2, x3, s => ((x1 < x3 → (K x2 s)) ∧ (¬ x1 < x3 → (tO s 0 x0 ∧ (tO s 1 (tR s x0 0) ∧ (tX s 0 (tR s (tR s x0 0) 1) 3 ∧ (∀ x105 : Int32, x105 = tI s (tR s (tR s x0 0) 1) 3 → (v_X0_mend_76 N x0 x1 x2 x3 Kr (fun x106 s107 => (∀ x108 : Int32, x108 = x106 + 1 → (∀ x109 : Int32, x109 = x3 + 1 → ((fun x2 x3 s => v_X0_mend_60 N x0 x1 Kr K t x2 x3 s) x108 x109 s107)))) N.1 x105 s)))))))
theorem e_X0_mend_60 {G : xG} {l : Launch} {g : xH} {d : Nat} {N : tP} (hN : tNs G N) (hd : 2 * N.2.1 + 23 ≤ d) (x0 : Nat) (x1 : Int32) (Kr : Int32 → tM → Prop) (K : Int32 → tM → Prop) : ∀ (t : Nat) (x2 : Int32) (x3 : Int32) (s : tM) , v_X0_mend_60 N x0 x1 Kr K t x2 x3 s → (∀ (z2 : Int32) (s : tM), K z2 s → xF G l kX0_mend (d + 1) 0 0 (tQ G g wi Kr tNo) 157 [none, none, some (.int z2), none, none] [] (tH G g s)) → xF G l kX0_mend (d + 1) 0 0 (tQ G g wi Kr tNo) 60 [some (rfv x0), some (.int x1), some (.int x2), some (.int x3), none] [] (tH G g s) := by
  intro t
  induction t with
  | zero =>
    intro _ _ _ h _
    exact absurd h (by simp [v_X0_mend_60])
  | succ t ih =>
    intro x2 x3 s h hK
    have hR := fun x2 x3 s h => ih x2 x3 s h hK
    unfold v_X0_mend_60 at h
    refine x_iload_3 dX0_mend_60 ?_
    refine x_iload_1 dX0_mend_61 ?_
    refine x_icmp_gt 157 dX0_mend_62 (by decide) (fun c101 => ?_) (fun c101 => ?_)
    · have h := h.1 c101
      exact x_le (xLe_none (xLe_none (xLe_cons (xLe_none (xLe_cons (xLe_nil)))))) (hK _ _ h)
    · have h := h.2 c101
      refine t_aload_0 dX0_mend_65 ?_
      obtain ⟨e102, h⟩ := h
      refine t_getR dX0_mend_66 fa_X0_18_0 (by decide) e102 ?_
      obtain ⟨e103, h⟩ := h
      refine t_getR dX0_mend_69 fa_X0_199_1 (by decide) e103 ?_
      refine x_iconst (v := 3) dX0_mend_72 (by decide) ?_
      obtain ⟨e104, h⟩ := h
      refine t_iald dX0_mend_73 e104 ?_
      refine x_istore_4 dX0_mend_74 (by decide) xN2_i ?_
      have h := h _ rfl
      refine x_le (xLe_cons (xLe_cons (xLe_cons (xLe_cons (xLe_cons (xLe_nil)))))) (e_X0_mend_76 hN (by omega) _ _ _ _ _ _  _ _ _ h (fun x106 s107 h => ?_))
      refine x_iload_4 dX0_mend_146 ?_
      refine x_iconst (v := 1) dX0_mend_148 (by decide) ?_
      refine x_iadd dX0_mend_149 ?_
      refine x_istore_2 dX0_mend_150 (by decide) xN2_i ?_
      have h := h _ rfl
      refine x_iinc_3 (v := 1) dX0_mend_151 (by decide) (by decide) xN2_i ?_
      have h := h _ rfl
      refine x_goto 60 dX0_mend_154 (by decide) ?_
      exact x_le (xLe_cons (xLe_cons (xLe_cons (xLe_cons (xLe_none (xLe_nil)))))) (hR _ _ _ h)
def v_X0_mend_36 (N : tP) (x0 : Nat) (Kr : Int32 → tM → Prop) (s : tM) : Prop :=
  (tO s 0 x0 ∧ (v_X0_isThere x0 s (fun x101 s102 => ((x101 = 0 → (Kr (-1) s102)) ∧ (¬ x101 = 0 → (tO s102 0 x0 ∧ (tX s102 11 (tR s102 x0 21) 0 ∧ (tX s102 0 (tR s102 (tR s102 x0 21) 0) 0 ∧ (Kr (tI s102 (tR s102 (tR s102 x0 21) 0) 0) s102)))))))))
theorem e_X0_mend_36 {G : xG} {l : Launch} {g : xH} {d : Nat} {N : tP} (hN : tNs G N) (hd : 2 * N.2.1 + 23 ≤ d) (x0 : Nat) (Kr : Int32 → tM → Prop) (s : tM) (h : v_X0_mend_36 N x0 Kr s) : xF G l kX0_mend (d + 1) 0 0 (tQ G g wi Kr tNo) 36 [some (rfv x0), none, none, none, none] [] (tH G g s) := by
  unfold v_X0_mend_36 at h
  refine t_aload_0 dX0_mend_36 ?_
  obtain ⟨e103, h⟩ := h
  refine t_cVi (As := []) rfl cv_X0_362 rfl e103 rfl rfl (xrm4 (Nat.le_of_ble_eq_true rfl)) dX0_mend_37 (e_X0_isThere (by omega) h) ⟨Nat.zero_le _, Nat.zero_le _⟩ (fun _ _ _ h => h.elim) (fun x101 s102 h => ?_)
  refine x_if_eq 54 dX0_mend_40 (by decide) (fun c104 => ?_) (fun c104 => ?_)
  · have h := h.1 c104
    refine x_iconst (v := (-1)) dX0_mend_54 (by decide) ?_
    exact x_iret dX0_mend_55 rfl (Or.inl ⟨_, _, h, rfl, rfl⟩)
  · have h := h.2 c104
    refine t_aload_0 dX0_mend_43 ?_
    obtain ⟨e105, h⟩ := h
    refine t_getR dX0_mend_44 fa_X0_103_0 (by decide) e105 ?_
    refine x_iconst (v := 0) dX0_mend_47 (by decide) ?_
    obtain ⟨e106, h⟩ := h
    refine t_aald (t := 11) dX0_mend_48 ⟨rfl, by decide, by decide⟩ rfl e106 ?_
    refine x_iconst (v := 0) dX0_mend_49 (by decide) ?_
    obtain ⟨e107, h⟩ := h
    refine t_iald dX0_mend_50 e107 ?_
    refine x_goto 55 dX0_mend_51 (by decide) ?_
    exact x_iret dX0_mend_55 rfl (Or.inl ⟨_, _, h, rfl, rfl⟩)
def v_X0_mend_20 (N : tP) (x0 : Nat) (x1 : Int32) (Kr : Int32 → tM → Prop) (s : tM) : Prop :=
  (tO s 0 x0 ∧ (v_X0_layAll N x0 s (fun s102 => ((x1 = (-1) → (v_X0_mend_36 N x0 Kr s102)) ∧ (¬ x1 = (-1) → (tO s102 0 x0 ∧ (v_X0_isThere x0 s102 (fun x105 s106 => ((¬ x105 = 0 → (v_X0_mend_60 N x0 x1 Kr (fun x109 s110 => (Kr (x109 - 1) s110)) N.1 0 0 s106)) ∧ (x105 = 0 → (v_X0_mend_36 N x0 Kr s106)))))))))))
theorem e_X0_mend_20 {G : xG} {l : Launch} {g : xH} {d : Nat} {N : tP} (hN : tNs G N) (hd : 2 * N.2.1 + 23 ≤ d) (x0 : Nat) (x1 : Int32) (Kr : Int32 → tM → Prop) (s : tM) (h : v_X0_mend_20 N x0 x1 Kr s) : xF G l kX0_mend (d + 1) 0 0 (tQ G g wi Kr tNo) 20 [some (rfv x0), some (.int x1), none, none, none] [] (tH G g s) := by
  unfold v_X0_mend_20 at h
  refine t_aload_0 dX0_mend_20 ?_
  obtain ⟨e103, h⟩ := h
  refine t_cVv (As := []) rfl cv_X0_359 rfl e103 rfl rfl (xrm4 (Nat.le_of_ble_eq_true rfl)) dX0_mend_21 (e_X0_layAll hN (by omega) h) ⟨Nat.zero_le _, Nat.zero_le _⟩ (fun _ _ _ h => h.elim) (fun _ s102 h => ?_)
  refine x_iload_1 dX0_mend_24 ?_
  refine x_iconst (v := (-1)) dX0_mend_25 (by decide) ?_
  refine x_icmp_eq 36 dX0_mend_26 (by decide) (fun c104 => ?_) (fun c104 => ?_)
  · have h := h.1 c104
    exact x_le (xLe_cons (xLe_none (xLe_cons (xLe_cons (xLe_cons (xLe_nil)))))) (e_X0_mend_36 hN (by omega) _ _ _ h)
  · have h := h.2 c104
    refine t_aload_0 dX0_mend_29 ?_
    obtain ⟨e107, h⟩ := h
    refine t_cVi (As := []) rfl cv_X0_362 rfl e107 rfl rfl (xrm4 (Nat.le_of_ble_eq_true rfl)) dX0_mend_30 (e_X0_isThere (by omega) h) ⟨Nat.zero_le _, Nat.zero_le _⟩ (fun _ _ _ h => h.elim) (fun x105 s106 h => ?_)
    refine x_if_ne 56 dX0_mend_33 (by decide) (fun c108 => ?_) (fun c108 => ?_)
    · have h := h.1 c108
      refine x_iconst (v := 0) dX0_mend_56 (by decide) ?_
      refine x_istore_2 dX0_mend_57 (by decide) xN2_i ?_
      refine x_iconst (v := 0) dX0_mend_58 (by decide) ?_
      refine x_istore_3 dX0_mend_59 (by decide) xN2_i ?_
      refine x_le (xLe_cons (xLe_cons (xLe_cons (xLe_cons (xLe_cons (xLe_nil)))))) (e_X0_mend_60 hN (by omega) _ _ _ _  _ _ _ _ h (fun x109 s110 h => ?_))
      refine x_iload_2 dX0_mend_157 ?_
      refine x_iconst (v := 1) dX0_mend_158 (by decide) ?_
      refine x_isub dX0_mend_159 ?_
      exact x_iret dX0_mend_160 rfl (Or.inl ⟨_, _, h, rfl, rfl⟩)
    · have h := h.2 c108
      exact x_le (xLe_cons (xLe_none (xLe_cons (xLe_cons (xLe_cons (xLe_nil)))))) (e_X0_mend_36 hN (by omega) _ _ _ h)
def v_X0_mend (N : tP) (x0 : Nat) (x1 : Int32) (s : tM) (Kr : Int32 → tM → Prop) : Prop :=
  ((x1 < (-1) → (Kr (-1) s)) ∧ (¬ x1 < (-1) → (tO s 0 x0 ∧ (v_X0_nNotes x0 s (fun x102 s103 => ((x1 < x102 → (v_X0_mend_20 N x0 x1 Kr s103)) ∧ (¬ x1 < x102 → ((x1 = (-1) → (v_X0_mend_20 N x0 x1 Kr s103)) ∧ (¬ x1 = (-1) → (Kr (-1) s103))))))))))
theorem e_X0_mend {G : xG} {l : Launch} {g : xH} {d : Nat} {N : tP} (hN : tNs G N) (hd : 2 * N.2.1 + 24 ≤ d) {x0 : Nat} {x1 : Int32} {s : tM} {Kr : Int32 → tM → Prop} (h : v_X0_mend N x0 x1 s Kr) : xC G l kX0_mend d 0 0 [rfv x0, .int x1] (tH G g s) (tQ G g wi Kr tNo) := by
  obtain ⟨d, rfl⟩ : ∃ z, d = z + 1 := ⟨d - 1, by omega⟩
  refine t_start rfl (by decide +kernel) (by simp [xct_i, xct_l, rfv_c]) (lv := [some (rfv x0), some (.int x1), none, none, none]) (by simp [lv_args, xLv, rfv_c, xct_i, xct_l]) ?_
  unfold v_X0_mend at h
  refine x_iload_1 dX0_mend_0 ?_
  refine x_iconst (v := (-1)) dX0_mend_1 (by decide) ?_
  refine x_icmp_lt 18 dX0_mend_2 (by decide) (fun c101 => ?_) (fun c101 => ?_)
  · have h := h.1 c101
    refine x_iconst (v := (-1)) dX0_mend_18 (by decide) ?_
    exact x_iret dX0_mend_19 rfl (Or.inl ⟨_, _, h, rfl, rfl⟩)
  · have h := h.2 c101
    refine x_iload_1 dX0_mend_5 ?_
    refine t_aload_0 dX0_mend_6 ?_
    obtain ⟨e104, h⟩ := h
    refine t_cVi (As := []) rfl cv_X0_142 rfl e104 rfl rfl (xrm4 (Nat.le_of_ble_eq_true rfl)) dX0_mend_7 (e_X0_nNotes (by omega) h) ⟨Nat.zero_le _, Nat.zero_le _⟩ (fun _ _ _ h => h.elim) (fun x102 s103 h => ?_)
    refine x_icmp_lt 20 dX0_mend_10 (by decide) (fun c105 => ?_) (fun c105 => ?_)
    · have h := h.1 c105
      exact x_le (xLe_cons (xLe_cons (xLe_cons (xLe_cons (xLe_cons (xLe_nil)))))) (e_X0_mend_20 hN (by omega) _ _ _ _ h)
    · have h := h.2 c105
      refine x_iload_1 dX0_mend_13 ?_
      refine x_iconst (v := (-1)) dX0_mend_14 (by decide) ?_
      refine x_icmp_eq 20 dX0_mend_15 (by decide) (fun c106 => ?_) (fun c106 => ?_)
      · have h := h.1 c106
        exact x_le (xLe_cons (xLe_cons (xLe_cons (xLe_cons (xLe_cons (xLe_nil)))))) (e_X0_mend_20 hN (by omega) _ _ _ _ h)
      · have h := h.2 c106
        refine x_iconst (v := (-1)) dX0_mend_18 (by decide) ?_
        exact x_iret dX0_mend_19 rfl (Or.inl ⟨_, _, h, rfl, rfl⟩)
def v_X0_note (x0 : Nat) (x1 : Int32) (x2 : Int32) (s : tM) (Kr : Int32 → tM → Prop) : Prop :=
  (tO s 0 x0 ∧ (v_X0_come x0 x1 x2 s (fun x101 s102 => (tO s102 0 x0 ∧ (v_X0_settled x0 x101 s102 (fun x104 s105 => (Kr x104 s105)))))))
theorem e_X0_note {G : xG} {l : Launch} {g : xH} {d : Nat} (hd : 8 ≤ d) {x0 : Nat} {x1 : Int32} {x2 : Int32} {s : tM} {Kr : Int32 → tM → Prop} (h : v_X0_note x0 x1 x2 s Kr) : xC G l kX0_note d 0 0 [rfv x0, .int x1, .int x2] (tH G g s) (tQ G g wi Kr tNo) := by
  obtain ⟨d, rfl⟩ : ∃ z, d = z + 1 := ⟨d - 1, by omega⟩
  refine t_start rfl (by decide +kernel) (by simp [xct_i, xct_l, rfv_c]) (lv := [some (rfv x0), some (.int x1), some (.int x2)]) (by simp [lv_args, xLv, rfv_c, xct_i, xct_l]) ?_
  unfold v_X0_note at h
  refine t_aload_0 dX0_note_0 ?_
  refine t_aload_0 dX0_note_1 ?_
  refine x_iload_1 dX0_note_2 ?_
  refine x_iload_2 dX0_note_3 ?_
  obtain ⟨e103, h⟩ := h
  refine t_cVi (As := [_, _]) rfl cv_X0_166 rfl e103 rfl rfl (xrm4 (Nat.le_of_ble_eq_true rfl)) dX0_note_4 (e_X0_come (by omega) h) ⟨Nat.zero_le _, Nat.zero_le _⟩ (fun _ _ _ h => h.elim) (fun x101 s102 h => ?_)
  obtain ⟨e106, h⟩ := h
  refine t_cVi (As := [_]) rfl cv_X0_169 rfl e106 rfl rfl (xrm4 (Nat.le_of_ble_eq_true rfl)) dX0_note_7 (e_X0_settled (by omega) h) ⟨Nat.zero_le _, Nat.zero_le _⟩ (fun _ _ _ h => h.elim) (fun x104 s105 h => ?_)
  exact x_iret dX0_note_10 rfl (Or.inl ⟨_, _, h, rfl, rfl⟩)
def v_X0_of (N : tP) (x0 : Nat) (x1 : Int32) (x2 : Int32) (s : tM) (Kr : Int32 → tM → Prop) : Prop :=
  (tO s 0 x0 ∧ (v_X0_isNote x0 x1 s (fun x101 s102 => ((¬ x101 = 0 → (∀ x105 : Int32, x105 = x2 → ((x105 = 0 → (tO s102 0 x0 ∧ (v_X0_books x0 s102 (fun x107 s108 => (tO s108 2 x107 ∧ (tX s108 0 (tR s108 x107 0) x1 ∧ (Kr (tI s108 (tR s108 x107 0) x1.toNatClampNeg) s108))))))) ∧ (x105 = 1 → (tO s102 0 x0 ∧ (v_X0_books x0 s102 (fun x113 s114 => (tO s114 2 x113 ∧ (tX s114 0 (tR s114 x113 1) x1 ∧ (Kr (tI s114 (tR s114 x113 1) x1.toNatClampNeg) s114))))))) ∧ (x105 = 2 → (tO s102 0 x0 ∧ (v_X0_costsHere N x0 x1 s102 (fun x119 s120 => (Kr x119 s120))))) ∧ (x105 = 3 → (tO s102 0 x0 ∧ (v_X0_earnsHere N x0 x1 s102 (fun x123 s124 => (Kr x123 s124))))) ∧ (x105 = 4 → (tO s102 0 x0 ∧ (v_X0_isBarredHere N x0 x1 s102 (fun x127 s128 => ((x127 = 0 → (Kr 0 s128)) ∧ (¬ x127 = 0 → (Kr 1 s128))))))) ∧ (¬ x105 = 0 → ¬ x105 = 1 → ¬ x105 = 2 → ¬ x105 = 3 → ¬ x105 = 4 → (Kr (-1) s102))))) ∧ (x101 = 0 → (Kr (-1) s102))))))
theorem e_X0_of {G : xG} {l : Launch} {g : xH} {d : Nat} {N : tP} (hN : tNs G N) (hd : 2 * N.2.1 + 20 ≤ d) {x0 : Nat} {x1 : Int32} {x2 : Int32} {s : tM} {Kr : Int32 → tM → Prop} (h : v_X0_of N x0 x1 x2 s Kr) : xC G l kX0_of d 0 0 [rfv x0, .int x1, .int x2] (tH G g s) (tQ G g wi Kr tNo) := by
  obtain ⟨d, rfl⟩ : ∃ z, d = z + 1 := ⟨d - 1, by omega⟩
  refine t_start rfl (by decide +kernel) (by simp [xct_i, xct_l, rfv_c]) (lv := [some (rfv x0), some (.int x1), some (.int x2)]) (by simp [lv_args, xLv, rfv_c, xct_i, xct_l]) ?_
  unfold v_X0_of at h
  refine t_aload_0 dX0_of_0 ?_
  refine x_iload_1 dX0_of_1 ?_
  obtain ⟨e103, h⟩ := h
  refine t_cVi (As := [_]) rfl cv_X0_172 rfl e103 rfl rfl (xrm4 (Nat.le_of_ble_eq_true rfl)) dX0_of_2 (e_X0_isNote (by omega) h) ⟨Nat.zero_le _, Nat.zero_le _⟩ (fun _ _ _ h => h.elim) (fun x101 s102 h => ?_)
  refine x_if_ne 10 dX0_of_5 (by decide) (fun c104 => ?_) (fun c104 => ?_)
  · have h := h.1 c104
    refine x_iload_2 dX0_of_10 ?_
    refine t_topi (fun x105 ex105 => ?_)
    have h := h x105 ex105
    by_cases c106 : x105 = 0
    · have h := h.1 c106
      refine x_cast rfl rfl (by rw [c106]) ?_
      refine x_tabIn 44 dX0_of_11 (by decide) (by decide) (off := 33) (by decide) (by decide) ?_
      refine t_aload_0 dX0_of_44 ?_
      obtain ⟨e109, h⟩ := h
      refine t_cVr (As := []) rfl cv_X0_157 rfl e109 rfl rfl (xrm4 (Nat.le_of_ble_eq_true rfl)) dX0_of_45 (e_X0_books (by omega) h) ⟨Nat.zero_le _, Nat.zero_le _⟩ (fun _ _ _ h => h.elim) (fun x107 s108 h => ?_)
      obtain ⟨e110, h⟩ := h
      refine t_getR dX0_of_48 fa_X0_160_2 (by decide) e110 ?_
      refine x_iload_1 dX0_of_51 ?_
      obtain ⟨e111, h⟩ := h
      refine t_iald dX0_of_52 e111 ?_
      exact x_iret dX0_of_53 rfl (Or.inl ⟨_, _, h, rfl, rfl⟩)
    by_cases c112 : x105 = 1
    · have h := h.2.1 c112
      refine x_cast rfl rfl (by rw [c112]) ?_
      refine x_tabIn 54 dX0_of_11 (by decide) (by decide) (off := 43) (by decide) (by decide) ?_
      refine t_aload_0 dX0_of_54 ?_
      obtain ⟨e115, h⟩ := h
      refine t_cVr (As := []) rfl cv_X0_157 rfl e115 rfl rfl (xrm4 (Nat.le_of_ble_eq_true rfl)) dX0_of_55 (e_X0_books (by omega) h) ⟨Nat.zero_le _, Nat.zero_le _⟩ (fun _ _ _ h => h.elim) (fun x113 s114 h => ?_)
      obtain ⟨e116, h⟩ := h
      refine t_getR dX0_of_58 fa_X0_163_2 (by decide) e116 ?_
      refine x_iload_1 dX0_of_61 ?_
      obtain ⟨e117, h⟩ := h
      refine t_iald dX0_of_62 e117 ?_
      exact x_iret dX0_of_63 rfl (Or.inl ⟨_, _, h, rfl, rfl⟩)
    by_cases c118 : x105 = 2
    · have h := h.2.2.1 c118
      refine x_cast rfl rfl (by rw [c118]) ?_
      refine x_tabIn 64 dX0_of_11 (by decide) (by decide) (off := 53) (by decide) (by decide) ?_
      refine t_aload_0 dX0_of_64 ?_
      refine x_iload_1 dX0_of_65 ?_
      obtain ⟨e121, h⟩ := h
      refine t_cVi (As := [_]) rfl cv_X0_175 rfl e121 rfl rfl (xrm4 (Nat.le_of_ble_eq_true rfl)) dX0_of_66 (e_X0_costsHere hN (by omega) h) ⟨Nat.zero_le _, Nat.zero_le _⟩ (fun _ _ _ h => h.elim) (fun x119 s120 h => ?_)
      exact x_iret dX0_of_69 rfl (Or.inl ⟨_, _, h, rfl, rfl⟩)
    by_cases c122 : x105 = 3
    · have h := h.2.2.2.1 c122
      refine x_cast rfl rfl (by rw [c122]) ?_
      refine x_tabIn 70 dX0_of_11 (by decide) (by decide) (off := 59) (by decide) (by decide) ?_
      refine t_aload_0 dX0_of_70 ?_
      refine x_iload_1 dX0_of_71 ?_
      obtain ⟨e125, h⟩ := h
      refine t_cVi (As := [_]) rfl cv_X0_178 rfl e125 rfl rfl (xrm4 (Nat.le_of_ble_eq_true rfl)) dX0_of_72 (e_X0_earnsHere hN (by omega) h) ⟨Nat.zero_le _, Nat.zero_le _⟩ (fun _ _ _ h => h.elim) (fun x123 s124 h => ?_)
      exact x_iret dX0_of_75 rfl (Or.inl ⟨_, _, h, rfl, rfl⟩)
    by_cases c126 : x105 = 4
    · have h := h.2.2.2.2.1 c126
      refine x_cast rfl rfl (by rw [c126]) ?_
      refine x_tabIn 76 dX0_of_11 (by decide) (by decide) (off := 65) (by decide) (by decide) ?_
      refine t_aload_0 dX0_of_76 ?_
      refine x_iload_1 dX0_of_77 ?_
      obtain ⟨e129, h⟩ := h
      refine t_cVi (As := [_]) rfl cv_X0_181 rfl e129 rfl rfl (xrm4 (Nat.le_of_ble_eq_true rfl)) dX0_of_78 (e_X0_isBarredHere hN (by omega) h) ⟨Nat.zero_le _, Nat.zero_le _⟩ (fun _ _ _ h => h.elim) (fun x127 s128 h => ?_)
      refine x_if_eq 88 dX0_of_81 (by decide) (fun c130 => ?_) (fun c130 => ?_)
      · have h := h.1 c130
        refine x_iconst (v := 0) dX0_of_88 (by decide) ?_
        exact x_iret dX0_of_89 rfl (Or.inl ⟨_, _, h, rfl, rfl⟩)
      · have h := h.2 c130
        refine x_iconst (v := 1) dX0_of_84 (by decide) ?_
        refine x_goto 89 dX0_of_85 (by decide) ?_
        exact x_iret dX0_of_89 rfl (Or.inl ⟨_, _, h, rfl, rfl⟩)
    have h := h.2.2.2.2.2 c106 c112 c118 c122 c126
    have z0 := xti (v := 0) (z := 0) (by decide) c106
    have z1 := xti (v := 1) (z := 1) (by decide) c112
    have z2 := xti (v := 2) (z := 2) (by decide) c118
    have z3 := xti (v := 3) (z := 3) (by decide) c122
    have z4 := xti (v := 4) (z := 4) (by decide) c126
    refine x_tabOut 90 dX0_of_11 (by omega) (by decide) ?_
    refine x_iconst (v := (-1)) dX0_of_90 (by decide) ?_
    exact x_iret dX0_of_91 rfl (Or.inl ⟨_, _, h, rfl, rfl⟩)
  · have h := h.2 c104
    refine x_iconst (v := (-1)) dX0_of_8 (by decide) ?_
    exact x_iret dX0_of_9 rfl (Or.inl ⟨_, _, h, rfl, rfl⟩)
def v_X3_append_49 (x0 : Nat) (x1 : Nat) (x2 : Int32) (Kr : tM → Prop) (s : tM) : Prop :=
  (tO s 3 x0 ∧ (tX s 5 (tR s x0 0) (tI s x0 1) ∧ (tO s 2 (tR s (tR s x0 0) (tI s x0 1).toNatClampNeg) ∧ (v_X2_as (tR s (tR s x0 0) (tI s x0 1).toNatClampNeg) x1 s (fun x103 s104 => (tO s104 2 x103 ∧ (∀ s107 : tM, s107 = tsI s104 x103 3 x2 → (tO s107 3 x0 ∧ (∀ s110 : tM, s110 = tsI s107 x0 1 ((tI s107 x0 1) + 1) → (Kr s110))))))))))
theorem e_X3_append_49 {G : xG} {l : Launch} {g : xH} {d : Nat} (hd : 3 ≤ d) (x0 : Nat) (x1 : Nat) (x2 : Int32) (Kr : tM → Prop) (s : tM) (h : v_X3_append_49 x0 x1 x2 Kr s) : xF G l kX3_append (d + 1) 0 0 (tQ G g wu (fun _ => Kr) tNo) 49 [some (rfv x0), some (rfv x1), some (.int x2), none] [] (tH G g s) := by
  unfold v_X3_append_49 at h
  refine t_aload_0 dX3_append_49 ?_
  obtain ⟨e101, h⟩ := h
  refine t_getR dX3_append_50 fa_X3_11_3 (by decide) e101 ?_
  refine t_aload_0 dX3_append_53 ?_
  refine t_getI dX3_append_54 fa_X3_18_3 (by decide) e101 ?_
  obtain ⟨e102, h⟩ := h
  refine t_aald (t := 5) dX3_append_57 ⟨rfl, by decide, by decide⟩ rfl e102 ?_
  refine t_aload_1 dX3_append_58 ?_
  obtain ⟨e105, h⟩ := h
  refine t_cVr (As := [_]) rfl cv_X3_28 rfl e105 rfl rfl (xrm4 (Nat.le_of_ble_eq_true rfl)) dX3_append_59 (e_X2_as (by omega) h) ⟨Nat.zero_le _, Nat.zero_le _⟩ (fun _ _ _ h => h.elim) (fun x103 s104 h => ?_)
  refine x_iload_2 dX3_append_62 ?_
  obtain ⟨e106, h⟩ := h
  refine t_putI (j := 3) dX3_append_63 fp_X3_32_2 (by decide) e106 rfl rfl ?_
  refine t_gen h (fun s107 w108 h => ?_)
  refine t_aload_0 dX3_append_66 ?_
  refine x_dup dX3_append_67 (rfv_c _) ?_
  obtain ⟨e109, h⟩ := h
  refine t_getI dX3_append_68 fa_X3_18_3 (by decide) e109 ?_
  refine x_iconst (v := 1) dX3_append_71 (by decide) ?_
  refine x_iadd dX3_append_72 ?_
  refine t_putI (j := 1) dX3_append_73 fp_X3_18_3 (by decide) e109 rfl rfl ?_
  refine t_gen h (fun s110 w111 h => ?_)
  exact x_vret dX3_append_76 rfl (Or.inl ⟨(), _, h, rfl, rfl⟩)
def v_X3_append (x0 : Nat) (x1 : Nat) (x2 : Int32) (s : tM) (Kr : tM → Prop) : Prop :=
  (tO s 3 x0 ∧ ((¬ (tI s x0 1) = 16 → (v_X3_append_49 x0 x1 x2 Kr s)) ∧ ((tI s x0 1) = 16 → (tX s 5 (tR s x0 0) 0 ∧ (∀ x104 : Nat, x104 = tR s (tR s x0 0) 0 → (tCpOk s 5 (tR s x0 0) (tR s x0 0) 1 0 15 ∧ ((∀ i : Nat, i < 15 → tR s (tR s x0 0) (1 + i) = 0 ∨ ∃ ci, xSt 5 ci ∧ tO s ci (tR s (tR s x0 0) (1 + i))) ∧ (∀ s107 : tM, s107 = tCpR s (tR s x0 0) (tR s x0 0) 1 0 15 → (tX s107 5 (tR s107 x0 0) 15 ∧ (tO s107 2 x104 ∧ (∀ s111 : tM, s111 = tsR s107 (tR s107 x0 0) 15 x104 → (∀ s113 : tM, s113 = tsI s111 x0 1 ((tI s111 x0 1) - 1) → (v_X3_append_49 x0 x1 x2 Kr s113)))))))))))))
theorem e_X3_append {G : xG} {l : Launch} {g : xH} {d : Nat} (hd : 4 ≤ d) {x0 : Nat} {x1 : Nat} {x2 : Int32} {s : tM} {Kr : tM → Prop} (h : v_X3_append x0 x1 x2 s Kr) : xC G l kX3_append d 0 0 [rfv x0, rfv x1, .int x2] (tH G g s) (tQ G g wu (fun _ => Kr) tNo) := by
  obtain ⟨d, rfl⟩ : ∃ z, d = z + 1 := ⟨d - 1, by omega⟩
  refine t_start rfl (by decide +kernel) (by simp [xct_i, xct_l, rfv_c]) (lv := [some (rfv x0), some (rfv x1), some (.int x2), none]) (by simp [lv_args, xLv, rfv_c, xct_i, xct_l]) ?_
  unfold v_X3_append at h
  refine t_aload_0 dX3_append_0 ?_
  obtain ⟨e101, h⟩ := h
  refine t_getI dX3_append_1 fa_X3_18_3 (by decide) e101 ?_
  refine x_bipush (v := 16) dX3_append_4 (by decide) ?_
  refine x_icmp_ne 49 dX3_append_6 (by decide) (fun c102 => ?_) (fun c102 => ?_)
  · have h := h.1 c102
    exact x_le (xLe_cons (xLe_cons (xLe_cons (xLe_cons (xLe_nil))))) (e_X3_append_49 (by omega) _ _ _ _ _ h)
  · have h := h.2 c102
    refine t_aload_0 dX3_append_9 ?_
    refine t_getR dX3_append_10 fa_X3_11_3 (by decide) e101 ?_
    refine x_iconst (v := 0) dX3_append_13 (by decide) ?_
    obtain ⟨e103, h⟩ := h
    refine t_aald (t := 5) dX3_append_14 ⟨rfl, by decide, by decide⟩ rfl e103 ?_
    refine t_astore_3 dX3_append_15 (by decide) xN2_i ?_
    have h := h _ rfl
    refine t_aload_0 dX3_append_16 ?_
    refine t_getR dX3_append_17 fa_X3_11_3 (by decide) e101 ?_
    refine x_iconst (v := 1) dX3_append_20 (by decide) ?_
    refine t_aload_0 dX3_append_21 ?_
    refine t_getR dX3_append_22 fa_X3_11_3 (by decide) e101 ?_
    refine x_iconst (v := 0) dX3_append_25 (by decide) ?_
    refine x_bipush (v := 15) dX3_append_26 (by decide) ?_
    obtain ⟨e105, h⟩ := h
    obtain ⟨e106, h⟩ := h
    refine t_copyR (t := 5) dX3_append_28 na_X3_22 rfl (by decide) rfl e105 e106 (by omega) (by decide) ?_
    refine t_gen h (fun s107 w108 h => ?_)
    refine t_aload_0 dX3_append_31 ?_
    refine t_getR dX3_append_32 fa_X3_11_3 (by decide) (tO_w w108 e101) ?_
    refine x_bipush (v := 15) dX3_append_35 (by decide) ?_
    refine t_aload_3 dX3_append_37 ?_
    obtain ⟨e109, h⟩ := h
    obtain ⟨e110, h⟩ := h
    refine t_aast dX3_append_38 st_5_2 e110 e109 ?_
    refine t_gen h (fun s111 w112 h => ?_)
    refine t_aload_0 dX3_append_39 ?_
    refine x_dup dX3_append_40 (rfv_c _) ?_
    refine t_getI dX3_append_41 fa_X3_18_3 (by decide) (tO_w w112 (tO_w w108 e101)) ?_
    refine x_iconst (v := 1) dX3_append_44 (by decide) ?_
    refine x_isub dX3_append_45 ?_
    refine t_putI (j := 1) dX3_append_46 fp_X3_18_3 (by decide) (tO_w w112 (tO_w w108 e101)) rfl rfl ?_
    refine t_gen h (fun s113 w114 h => ?_)
    exact x_le (xLe_cons (xLe_cons (xLe_cons (xLe_none (xLe_nil))))) (e_X3_append_49 (by omega) _ _ _ _ _ h)
def v_X0_passNow (N : tP) (x0 : Nat) (s : tM) (Kr : Int32 → tM → Prop) : Prop :=
  (tO s 0 x0 ∧ (v_X0_books x0 s (fun x101 s102 => (tO s102 2 x101 ∧ ((¬ (tI s102 x101 2) = 999 → (tO s102 0 x0 ∧ (v_X0_barredOnes N x0 s102 (fun x106 s107 => (tO s107 0 x0 ∧ (v_X0_books x0 s107 (fun x110 s111 => (tO s111 3 (tR s107 x0 2) ∧ (v_X3_append (tR s107 x0 2) x110 3 s111 (fun s113 => (tO s113 0 x0 ∧ (v_X0_books x0 s113 (fun x115 s116 => (tO s116 2 x115 ∧ (∀ s119 : tM, s119 = tsI s116 x115 2 ((tI s116 x115 2) + 1) → (Kr x106 s119)))))))))))))))) ∧ ((tI s102 x101 2) = 999 → (Kr (-3) s102)))))))
theorem e_X0_passNow {G : xG} {l : Launch} {g : xH} {d : Nat} {N : tP} (hN : tNs G N) (hd : 2 * N.2.1 + 22 ≤ d) {x0 : Nat} {s : tM} {Kr : Int32 → tM → Prop} (h : v_X0_passNow N x0 s Kr) : xC G l kX0_passNow d 0 0 [rfv x0] (tH G g s) (tQ G g wi Kr tNo) := by
  obtain ⟨d, rfl⟩ : ∃ z, d = z + 1 := ⟨d - 1, by omega⟩
  refine t_start rfl (by decide +kernel) (by simp [xct_i, xct_l, rfv_c]) (lv := [some (rfv x0), none]) (by simp [lv_args, xLv, rfv_c, xct_i, xct_l]) ?_
  unfold v_X0_passNow at h
  refine t_aload_0 dX0_passNow_0 ?_
  obtain ⟨e103, h⟩ := h
  refine t_cVr (As := []) rfl cv_X0_157 rfl e103 rfl rfl (xrm4 (Nat.le_of_ble_eq_true rfl)) dX0_passNow_1 (e_X0_books (by omega) h) ⟨Nat.zero_le _, Nat.zero_le _⟩ (fun _ _ _ h => h.elim) (fun x101 s102 h => ?_)
  obtain ⟨e104, h⟩ := h
  refine t_getI dX0_passNow_4 fa_X0_196_2 (by decide) e104 ?_
  refine x_sipush (v := 999) dX0_passNow_7 (by decide) ?_
  refine x_icmp_ne 16 dX0_passNow_10 (by decide) (fun c105 => ?_) (fun c105 => ?_)
  · have h := h.1 c105
    refine t_aload_0 dX0_passNow_16 ?_
    obtain ⟨e108, h⟩ := h
    refine t_cVi (As := []) rfl cv_X0_300 rfl e108 rfl rfl (xrm4 (Nat.le_of_ble_eq_true rfl)) dX0_passNow_17 (e_X0_barredOnes hN (by omega) h) ⟨Nat.zero_le _, Nat.zero_le _⟩ (fun _ _ _ h => h.elim) (fun x106 s107 h => ?_)
    refine x_istore_1 dX0_passNow_20 (by decide) xN2_f ?_
    refine t_aload_0 dX0_passNow_21 ?_
    obtain ⟨e109, h⟩ := h
    refine t_getR dX0_passNow_22 fa_X0_29_0 (by decide) e109 ?_
    refine t_aload_0 dX0_passNow_25 ?_
    refine t_cVr (As := []) rfl cv_X0_157 rfl e109 rfl rfl (xrm4 (Nat.le_of_ble_eq_true rfl)) dX0_passNow_26 (e_X0_books (by omega) h) ⟨Nat.zero_le _, Nat.zero_le _⟩ (fun _ _ _ h => h.elim) (fun x110 s111 h => ?_)
    refine x_iconst (v := 3) dX0_passNow_29 (by decide) ?_
    obtain ⟨e114, h⟩ := h
    refine t_cVv (As := [_, _]) rfl cv_X0_306 rfl e114 rfl rfl (xrm4 (Nat.le_of_ble_eq_true rfl)) dX0_passNow_30 (e_X3_append (by omega) h) ⟨Nat.zero_le _, Nat.zero_le _⟩ (fun _ _ _ h => h.elim) (fun _ s113 h => ?_)
    refine t_aload_0 dX0_passNow_33 ?_
    obtain ⟨e117, h⟩ := h
    refine t_cVr (As := []) rfl cv_X0_157 rfl e117 rfl rfl (xrm4 (Nat.le_of_ble_eq_true rfl)) dX0_passNow_34 (e_X0_books (by omega) h) ⟨Nat.zero_le _, Nat.zero_le _⟩ (fun _ _ _ h => h.elim) (fun x115 s116 h => ?_)
    refine x_dup dX0_passNow_37 (rfv_c _) ?_
    obtain ⟨e118, h⟩ := h
    refine t_getI dX0_passNow_38 fa_X0_196_2 (by decide) e118 ?_
    refine x_iconst (v := 1) dX0_passNow_41 (by decide) ?_
    refine x_iadd dX0_passNow_42 ?_
    refine t_putI (j := 2) dX0_passNow_43 fp_X0_196_2 (by decide) e118 rfl rfl ?_
    refine t_gen h (fun s119 w120 h => ?_)
    refine x_iload_1 dX0_passNow_46 ?_
    exact x_iret dX0_passNow_47 rfl (Or.inl ⟨_, _, h, rfl, rfl⟩)
  · have h := h.2 c105
    refine x_bipush (v := (-3)) dX0_passNow_13 (by decide) ?_
    exact x_iret dX0_passNow_15 rfl (Or.inl ⟨_, _, h, rfl, rfl⟩)
def v_X0_setNow (x0 : Nat) (x1 : Int32) (x2 : Int32) (s : tM) (Kr : Int32 → tM → Prop) : Prop :=
  (v_X0_isPitch x2 s (fun x101 s102 => ((¬ x101 = 0 → (tO s102 0 x0 ∧ (v_X0_isNote x0 x1 s102 (fun x104 s105 => ((¬ x104 = 0 → (tO s105 0 x0 ∧ (v_X0_books x0 s105 (fun x108 s109 => (tO s109 2 x108 ∧ (tX s109 0 (tR s109 x108 1) x1 ∧ (∀ x113 : Int32, x113 = tI s109 (tR s109 x108 1) x1.toNatClampNeg → ((¬ x113 = x2 → (tO s109 0 x0 ∧ (v_X0_books x0 s109 (fun x116 s117 => (tO s117 3 (tR s109 x0 2) ∧ (v_X3_append (tR s109 x0 2) x116 0 s117 (fun s119 => (tO s119 0 x0 ∧ (v_X0_books x0 s119 (fun x121 s122 => (tO s122 2 x121 ∧ (tX s122 0 (tR s122 x121 1) x1 ∧ (∀ s126 : tM, s126 = tsI s122 (tR s122 x121 1) x1.toNatClampNeg x2 → (Kr x113 s126)))))))))))))) ∧ (x113 = x2 → (Kr (-3) s109)))))))))) ∧ (x104 = 0 → (Kr (-2) s105))))))) ∧ (x101 = 0 → (Kr (-1) s102)))))
theorem e_X0_setNow {G : xG} {l : Launch} {g : xH} {d : Nat} (hd : 6 ≤ d) {x0 : Nat} {x1 : Int32} {x2 : Int32} {s : tM} {Kr : Int32 → tM → Prop} (h : v_X0_setNow x0 x1 x2 s Kr) : xC G l kX0_setNow d 0 0 [rfv x0, .int x1, .int x2] (tH G g s) (tQ G g wi Kr tNo) := by
  obtain ⟨d, rfl⟩ : ∃ z, d = z + 1 := ⟨d - 1, by omega⟩
  refine t_start rfl (by decide +kernel) (by simp [xct_i, xct_l, rfv_c]) (lv := [some (rfv x0), some (.int x1), some (.int x2), none]) (by simp [lv_args, xLv, rfv_c, xct_i, xct_l]) ?_
  unfold v_X0_setNow at h
  refine x_iload_2 dX0_setNow_0 ?_
  refine t_cSi (As := [_]) rfl cs_X0_153 rfl rfl (xrm4 (Nat.le_of_ble_eq_true rfl)) dX0_setNow_1 (e_X0_isPitch (by omega) h) ⟨Nat.zero_le _, Nat.zero_le _⟩ (fun _ _ _ h => h.elim) (fun x101 s102 h => ?_)
  refine x_if_ne 9 dX0_setNow_4 (by decide) (fun c103 => ?_) (fun c103 => ?_)
  · have h := h.1 c103
    refine t_aload_0 dX0_setNow_9 ?_
    refine x_iload_1 dX0_setNow_10 ?_
    obtain ⟨e106, h⟩ := h
    refine t_cVi (As := [_]) rfl cv_X0_172 rfl e106 rfl rfl (xrm4 (Nat.le_of_ble_eq_true rfl)) dX0_setNow_11 (e_X0_isNote (by omega) h) ⟨Nat.zero_le _, Nat.zero_le _⟩ (fun _ _ _ h => h.elim) (fun x104 s105 h => ?_)
    refine x_if_ne 20 dX0_setNow_14 (by decide) (fun c107 => ?_) (fun c107 => ?_)
    · have h := h.1 c107
      refine t_aload_0 dX0_setNow_20 ?_
      obtain ⟨e110, h⟩ := h
      refine t_cVr (As := []) rfl cv_X0_157 rfl e110 rfl rfl (xrm4 (Nat.le_of_ble_eq_true rfl)) dX0_setNow_21 (e_X0_books (by omega) h) ⟨Nat.zero_le _, Nat.zero_le _⟩ (fun _ _ _ h => h.elim) (fun x108 s109 h => ?_)
      obtain ⟨e111, h⟩ := h
      refine t_getR dX0_setNow_24 fa_X0_163_2 (by decide) e111 ?_
      refine x_iload_1 dX0_setNow_27 ?_
      obtain ⟨e112, h⟩ := h
      refine t_iald dX0_setNow_28 e112 ?_
      refine x_istore_3 dX0_setNow_29 (by decide) xN2_i ?_
      have h := h _ rfl
      refine x_iload_3 dX0_setNow_30 ?_
      refine x_iload_2 dX0_setNow_31 ?_
      refine x_icmp_ne 38 dX0_setNow_32 (by decide) (fun c114 => ?_) (fun c114 => ?_)
      · have h := h.1 c114
        refine t_aload_0 dX0_setNow_38 ?_
        obtain ⟨e115, h⟩ := h
        refine t_getR dX0_setNow_39 fa_X0_29_0 (by decide) e115 ?_
        refine t_aload_0 dX0_setNow_42 ?_
        refine t_cVr (As := []) rfl cv_X0_157 rfl e115 rfl rfl (xrm4 (Nat.le_of_ble_eq_true rfl)) dX0_setNow_43 (e_X0_books (by omega) h) ⟨Nat.zero_le _, Nat.zero_le _⟩ (fun _ _ _ h => h.elim) (fun x116 s117 h => ?_)
        refine x_iconst (v := 0) dX0_setNow_46 (by decide) ?_
        obtain ⟨e120, h⟩ := h
        refine t_cVv (As := [_, _]) rfl cv_X0_306 rfl e120 rfl rfl (xrm4 (Nat.le_of_ble_eq_true rfl)) dX0_setNow_47 (e_X3_append (by omega) h) ⟨Nat.zero_le _, Nat.zero_le _⟩ (fun _ _ _ h => h.elim) (fun _ s119 h => ?_)
        refine t_aload_0 dX0_setNow_50 ?_
        obtain ⟨e123, h⟩ := h
        refine t_cVr (As := []) rfl cv_X0_157 rfl e123 rfl rfl (xrm4 (Nat.le_of_ble_eq_true rfl)) dX0_setNow_51 (e_X0_books (by omega) h) ⟨Nat.zero_le _, Nat.zero_le _⟩ (fun _ _ _ h => h.elim) (fun x121 s122 h => ?_)
        obtain ⟨e124, h⟩ := h
        refine t_getR dX0_setNow_54 fa_X0_163_2 (by decide) e124 ?_
        refine x_iload_1 dX0_setNow_57 ?_
        refine x_iload_2 dX0_setNow_58 ?_
        obtain ⟨e125, h⟩ := h
        refine t_iast dX0_setNow_59 e125 ?_
        refine t_gen h (fun s126 w127 h => ?_)
        refine x_iload_3 dX0_setNow_60 ?_
        exact x_iret dX0_setNow_61 rfl (Or.inl ⟨_, _, h, rfl, rfl⟩)
      · have h := h.2 c114
        refine x_bipush (v := (-3)) dX0_setNow_35 (by decide) ?_
        exact x_iret dX0_setNow_37 rfl (Or.inl ⟨_, _, h, rfl, rfl⟩)
    · have h := h.2 c107
      refine x_bipush (v := (-2)) dX0_setNow_17 (by decide) ?_
      exact x_iret dX0_setNow_19 rfl (Or.inl ⟨_, _, h, rfl, rfl⟩)
  · have h := h.2 c103
    refine x_iconst (v := (-1)) dX0_setNow_7 (by decide) ?_
    exact x_iret dX0_setNow_8 rfl (Or.inl ⟨_, _, h, rfl, rfl⟩)
def v_X0_shiftNow (x0 : Nat) (x1 : Int32) (x2 : Int32) (s : tM) (Kr : Int32 → tM → Prop) : Prop :=
  (v_X0_isPitch x2 s (fun x101 s102 => ((¬ x101 = 0 → (tO s102 0 x0 ∧ (v_X0_isNote x0 x1 s102 (fun x104 s105 => ((¬ x104 = 0 → (tO s105 0 x0 ∧ (v_X0_books x0 s105 (fun x108 s109 => (tO s109 2 x108 ∧ (tX s109 0 (tR s109 x108 0) x1 ∧ (∀ x113 : Int32, x113 = tI s109 (tR s109 x108 0) x1.toNatClampNeg → ((¬ x113 = x2 → (tO s109 0 x0 ∧ (v_X0_books x0 s109 (fun x116 s117 => (tO s117 3 (tR s109 x0 2) ∧ (v_X3_append (tR s109 x0 2) x116 1 s117 (fun s119 => (tO s119 0 x0 ∧ (v_X0_books x0 s119 (fun x121 s122 => (tO s122 2 x121 ∧ (tX s122 0 (tR s122 x121 0) x1 ∧ (∀ s126 : tM, s126 = tsI s122 (tR s122 x121 0) x1.toNatClampNeg x2 → (Kr x113 s126)))))))))))))) ∧ (x113 = x2 → (Kr (-3) s109)))))))))) ∧ (x104 = 0 → (Kr (-2) s105))))))) ∧ (x101 = 0 → (Kr (-1) s102)))))
theorem e_X0_shiftNow {G : xG} {l : Launch} {g : xH} {d : Nat} (hd : 6 ≤ d) {x0 : Nat} {x1 : Int32} {x2 : Int32} {s : tM} {Kr : Int32 → tM → Prop} (h : v_X0_shiftNow x0 x1 x2 s Kr) : xC G l kX0_shiftNow d 0 0 [rfv x0, .int x1, .int x2] (tH G g s) (tQ G g wi Kr tNo) := by
  obtain ⟨d, rfl⟩ : ∃ z, d = z + 1 := ⟨d - 1, by omega⟩
  refine t_start rfl (by decide +kernel) (by simp [xct_i, xct_l, rfv_c]) (lv := [some (rfv x0), some (.int x1), some (.int x2), none]) (by simp [lv_args, xLv, rfv_c, xct_i, xct_l]) ?_
  unfold v_X0_shiftNow at h
  refine x_iload_2 dX0_shiftNow_0 ?_
  refine t_cSi (As := [_]) rfl cs_X0_153 rfl rfl (xrm4 (Nat.le_of_ble_eq_true rfl)) dX0_shiftNow_1 (e_X0_isPitch (by omega) h) ⟨Nat.zero_le _, Nat.zero_le _⟩ (fun _ _ _ h => h.elim) (fun x101 s102 h => ?_)
  refine x_if_ne 9 dX0_shiftNow_4 (by decide) (fun c103 => ?_) (fun c103 => ?_)
  · have h := h.1 c103
    refine t_aload_0 dX0_shiftNow_9 ?_
    refine x_iload_1 dX0_shiftNow_10 ?_
    obtain ⟨e106, h⟩ := h
    refine t_cVi (As := [_]) rfl cv_X0_172 rfl e106 rfl rfl (xrm4 (Nat.le_of_ble_eq_true rfl)) dX0_shiftNow_11 (e_X0_isNote (by omega) h) ⟨Nat.zero_le _, Nat.zero_le _⟩ (fun _ _ _ h => h.elim) (fun x104 s105 h => ?_)
    refine x_if_ne 20 dX0_shiftNow_14 (by decide) (fun c107 => ?_) (fun c107 => ?_)
    · have h := h.1 c107
      refine t_aload_0 dX0_shiftNow_20 ?_
      obtain ⟨e110, h⟩ := h
      refine t_cVr (As := []) rfl cv_X0_157 rfl e110 rfl rfl (xrm4 (Nat.le_of_ble_eq_true rfl)) dX0_shiftNow_21 (e_X0_books (by omega) h) ⟨Nat.zero_le _, Nat.zero_le _⟩ (fun _ _ _ h => h.elim) (fun x108 s109 h => ?_)
      obtain ⟨e111, h⟩ := h
      refine t_getR dX0_shiftNow_24 fa_X0_160_2 (by decide) e111 ?_
      refine x_iload_1 dX0_shiftNow_27 ?_
      obtain ⟨e112, h⟩ := h
      refine t_iald dX0_shiftNow_28 e112 ?_
      refine x_istore_3 dX0_shiftNow_29 (by decide) xN2_i ?_
      have h := h _ rfl
      refine x_iload_3 dX0_shiftNow_30 ?_
      refine x_iload_2 dX0_shiftNow_31 ?_
      refine x_icmp_ne 38 dX0_shiftNow_32 (by decide) (fun c114 => ?_) (fun c114 => ?_)
      · have h := h.1 c114
        refine t_aload_0 dX0_shiftNow_38 ?_
        obtain ⟨e115, h⟩ := h
        refine t_getR dX0_shiftNow_39 fa_X0_29_0 (by decide) e115 ?_
        refine t_aload_0 dX0_shiftNow_42 ?_
        refine t_cVr (As := []) rfl cv_X0_157 rfl e115 rfl rfl (xrm4 (Nat.le_of_ble_eq_true rfl)) dX0_shiftNow_43 (e_X0_books (by omega) h) ⟨Nat.zero_le _, Nat.zero_le _⟩ (fun _ _ _ h => h.elim) (fun x116 s117 h => ?_)
        refine x_iconst (v := 1) dX0_shiftNow_46 (by decide) ?_
        obtain ⟨e120, h⟩ := h
        refine t_cVv (As := [_, _]) rfl cv_X0_306 rfl e120 rfl rfl (xrm4 (Nat.le_of_ble_eq_true rfl)) dX0_shiftNow_47 (e_X3_append (by omega) h) ⟨Nat.zero_le _, Nat.zero_le _⟩ (fun _ _ _ h => h.elim) (fun _ s119 h => ?_)
        refine t_aload_0 dX0_shiftNow_50 ?_
        obtain ⟨e123, h⟩ := h
        refine t_cVr (As := []) rfl cv_X0_157 rfl e123 rfl rfl (xrm4 (Nat.le_of_ble_eq_true rfl)) dX0_shiftNow_51 (e_X0_books (by omega) h) ⟨Nat.zero_le _, Nat.zero_le _⟩ (fun _ _ _ h => h.elim) (fun x121 s122 h => ?_)
        obtain ⟨e124, h⟩ := h
        refine t_getR dX0_shiftNow_54 fa_X0_160_2 (by decide) e124 ?_
        refine x_iload_1 dX0_shiftNow_57 ?_
        refine x_iload_2 dX0_shiftNow_58 ?_
        obtain ⟨e125, h⟩ := h
        refine t_iast dX0_shiftNow_59 e125 ?_
        refine t_gen h (fun s126 w127 h => ?_)
        refine x_iload_3 dX0_shiftNow_60 ?_
        exact x_iret dX0_shiftNow_61 rfl (Or.inl ⟨_, _, h, rfl, rfl⟩)
      · have h := h.2 c114
        refine x_bipush (v := (-3)) dX0_shiftNow_35 (by decide) ?_
        exact x_iret dX0_shiftNow_37 rfl (Or.inl ⟨_, _, h, rfl, rfl⟩)
    · have h := h.2 c107
      refine x_bipush (v := (-2)) dX0_shiftNow_17 (by decide) ?_
      exact x_iret dX0_shiftNow_19 rfl (Or.inl ⟨_, _, h, rfl, rfl⟩)
  · have h := h.2 c103
    refine x_iconst (v := (-1)) dX0_shiftNow_7 (by decide) ?_
    exact x_iret dX0_shiftNow_8 rfl (Or.inl ⟨_, _, h, rfl, rfl⟩)
def v_X2_exchange_2 (N : tP) (x0 : Nat) (x1 : Int32) (Kr : tM → Prop) (K : tM → Prop) : Nat → Int32 → tM → Prop
  | 0, _, _ => False
  | t + 1, x2, s => ((x1 ≤ x2 → (K s)) ∧ (¬ x1 ≤ x2 → (tO s 2 x0 ∧ (tX s 0 (tR s x0 0) x2 ∧ (∀ x104 : Int32, x104 = tI s (tR s x0 0) x2.toNatClampNeg → (tX s 0 (tR s x0 1) x2 ∧ (tX s 0 (tR s x0 0) x2 ∧ (∀ s107 : tM, s107 = tsI s (tR s x0 0) x2.toNatClampNeg (tI s (tR s x0 1) x2.toNatClampNeg) → (tX s107 0 (tR s107 x0 1) x2 ∧ (∀ s110 : tM, s110 = tsI s107 (tR s107 x0 1) x2.toNatClampNeg x104 → (∀ x112 : Int32, x112 = x2 + 1 → ((fun x2 s => v_X2_exchange_2 N x0 x1 Kr K t x2 s) x112 s110))))))))))))
theorem e_X2_exchange_2 {G : xG} {l : Launch} {g : xH} {d : Nat} {N : tP} (hN : tNs G N) (hd : 1 ≤ d) (x0 : Nat) (x1 : Int32) (Kr : tM → Prop) (K : tM → Prop) : ∀ (t : Nat) (x2 : Int32) (s : tM) , v_X2_exchange_2 N x0 x1 Kr K t x2 s → (∀ (s : tM), K s → xF G l kX2_exchange (d + 1) 0 0 (tQ G g wu (fun _ => Kr) tNo) 39 [none, none, none, none] [] (tH G g s)) → xF G l kX2_exchange (d + 1) 0 0 (tQ G g wu (fun _ => Kr) tNo) 2 [some (rfv x0), some (.int x1), some (.int x2), none] [] (tH G g s) := by
  intro t
  induction t with
  | zero =>
    intro _ _ h _
    exact absurd h (by simp [v_X2_exchange_2])
  | succ t ih =>
    intro x2 s h hK
    have hR := fun x2 s h => ih x2 s h hK
    unfold v_X2_exchange_2 at h
    refine x_iload_2 dX2_exchange_2 ?_
    refine x_iload_1 dX2_exchange_3 ?_
    refine x_icmp_ge 39 dX2_exchange_4 (by decide) (fun c101 => ?_) (fun c101 => ?_)
    · have h := h.1 c101
      exact x_le (xLe_none (xLe_none (xLe_none (xLe_cons (xLe_nil))))) (hK _ h)
    · have h := h.2 c101
      refine t_aload_0 dX2_exchange_7 ?_
      obtain ⟨e102, h⟩ := h
      refine t_getR dX2_exchange_8 fa_X2_9_2 (by decide) e102 ?_
      refine x_iload_2 dX2_exchange_11 ?_
      obtain ⟨e103, h⟩ := h
      refine t_iald dX2_exchange_12 e103 ?_
      refine x_istore_3 dX2_exchange_13 (by decide) xN2_i ?_
      have h := h _ rfl
      refine t_aload_0 dX2_exchange_14 ?_
      refine t_getR dX2_exchange_15 fa_X2_9_2 (by decide) e102 ?_
      refine x_iload_2 dX2_exchange_18 ?_
      refine t_aload_0 dX2_exchange_19 ?_
      refine t_getR dX2_exchange_20 fa_X2_15_2 (by decide) e102 ?_
      refine x_iload_2 dX2_exchange_23 ?_
      obtain ⟨e105, h⟩ := h
      refine t_iald dX2_exchange_24 e105 ?_
      obtain ⟨e106, h⟩ := h
      refine t_iast dX2_exchange_25 e106 ?_
      refine t_gen h (fun s107 w108 h => ?_)
      refine t_aload_0 dX2_exchange_26 ?_
      refine t_getR dX2_exchange_27 fa_X2_15_2 (by decide) (tO_w w108 e102) ?_
      refine x_iload_2 dX2_exchange_30 ?_
      refine x_iload_3 dX2_exchange_31 ?_
      obtain ⟨e109, h⟩ := h
      refine t_iast dX2_exchange_32 e109 ?_
      refine t_gen h (fun s110 w111 h => ?_)
      refine x_iinc_2 (v := 1) dX2_exchange_33 (by decide) (by decide) xN2_i ?_
      have h := h _ rfl
      refine x_goto 2 dX2_exchange_36 (by decide) ?_
      exact x_le (xLe_cons (xLe_cons (xLe_cons (xLe_none (xLe_nil))))) (hR _ _ h)
def v_X2_exchange (N : tP) (x0 : Nat) (x1 : Int32) (s : tM) (Kr : tM → Prop) : Prop :=
  (v_X2_exchange_2 N x0 x1 Kr (fun s101 => (Kr s101)) N.1 0 s)
theorem e_X2_exchange {G : xG} {l : Launch} {g : xH} {d : Nat} {N : tP} (hN : tNs G N) (hd : 2 ≤ d) {x0 : Nat} {x1 : Int32} {s : tM} {Kr : tM → Prop} (h : v_X2_exchange N x0 x1 s Kr) : xC G l kX2_exchange d 0 0 [rfv x0, .int x1] (tH G g s) (tQ G g wu (fun _ => Kr) tNo) := by
  obtain ⟨d, rfl⟩ : ∃ z, d = z + 1 := ⟨d - 1, by omega⟩
  refine t_start rfl (by decide +kernel) (by simp [xct_i, xct_l, rfv_c]) (lv := [some (rfv x0), some (.int x1), none, none]) (by simp [lv_args, xLv, rfv_c, xct_i, xct_l]) ?_
  unfold v_X2_exchange at h
  refine x_iconst (v := 0) dX2_exchange_0 (by decide) ?_
  refine x_istore_2 dX2_exchange_1 (by decide) xN2_i ?_
  refine x_le (xLe_cons (xLe_cons (xLe_cons (xLe_cons (xLe_nil))))) (e_X2_exchange_2 hN (by omega) _ _ _ _  _ _ _ h (fun s101 h => ?_))
  exact x_vret dX2_exchange_39 rfl (Or.inl ⟨(), _, h, rfl, rfl⟩)
def v_X0_swapNow (N : tP) (x0 : Nat) (s : tM) (Kr : Int32 → tM → Prop) : Prop :=
  (tO s 0 x0 ∧ (v_X0_nNotes x0 s (fun x101 s102 => ((¬ x101 = 0 → (tO s102 0 x0 ∧ (v_X0_books x0 s102 (fun x106 s107 => (tO s107 3 (tR s102 x0 2) ∧ (v_X3_append (tR s102 x0 2) x106 2 s107 (fun s109 => (tO s109 0 x0 ∧ (v_X0_books x0 s109 (fun x111 s112 => (tO s112 0 x0 ∧ (v_X0_nNotes x0 s112 (fun x114 s115 => (tO s115 2 x111 ∧ (v_X2_exchange N x111 x114 s115 (fun s118 => (tO s118 0 x0 ∧ (v_X0_nNotes x0 s118 (fun x120 s121 => (Kr x120 s121)))))))))))))))))))) ∧ (x101 = 0 → (Kr (-3) s102))))))
theorem e_X0_swapNow {G : xG} {l : Launch} {g : xH} {d : Nat} {N : tP} (hN : tNs G N) (hd : 6 ≤ d) {x0 : Nat} {s : tM} {Kr : Int32 → tM → Prop} (h : v_X0_swapNow N x0 s Kr) : xC G l kX0_swapNow d 0 0 [rfv x0] (tH G g s) (tQ G g wi Kr tNo) := by
  obtain ⟨d, rfl⟩ : ∃ z, d = z + 1 := ⟨d - 1, by omega⟩
  refine t_start rfl (by decide +kernel) (by simp [xct_i, xct_l, rfv_c]) (lv := [some (rfv x0)]) (by simp [lv_args, xLv, rfv_c, xct_i, xct_l]) ?_
  unfold v_X0_swapNow at h
  refine t_aload_0 dX0_swapNow_0 ?_
  obtain ⟨e103, h⟩ := h
  refine t_cVi (As := []) rfl cv_X0_142 rfl e103 rfl rfl (xrm4 (Nat.le_of_ble_eq_true rfl)) dX0_swapNow_1 (e_X0_nNotes (by omega) h) ⟨Nat.zero_le _, Nat.zero_le _⟩ (fun _ _ _ h => h.elim) (fun x101 s102 h => ?_)
  refine x_if_ne 10 dX0_swapNow_4 (by decide) (fun c104 => ?_) (fun c104 => ?_)
  · have h := h.1 c104
    refine t_aload_0 dX0_swapNow_10 ?_
    obtain ⟨e105, h⟩ := h
    refine t_getR dX0_swapNow_11 fa_X0_29_0 (by decide) e105 ?_
    refine t_aload_0 dX0_swapNow_14 ?_
    refine t_cVr (As := []) rfl cv_X0_157 rfl e105 rfl rfl (xrm4 (Nat.le_of_ble_eq_true rfl)) dX0_swapNow_15 (e_X0_books (by omega) h) ⟨Nat.zero_le _, Nat.zero_le _⟩ (fun _ _ _ h => h.elim) (fun x106 s107 h => ?_)
    refine x_iconst (v := 2) dX0_swapNow_18 (by decide) ?_
    obtain ⟨e110, h⟩ := h
    refine t_cVv (As := [_, _]) rfl cv_X0_306 rfl e110 rfl rfl (xrm4 (Nat.le_of_ble_eq_true rfl)) dX0_swapNow_19 (e_X3_append (by omega) h) ⟨Nat.zero_le _, Nat.zero_le _⟩ (fun _ _ _ h => h.elim) (fun _ s109 h => ?_)
    refine t_aload_0 dX0_swapNow_22 ?_
    obtain ⟨e113, h⟩ := h
    refine t_cVr (As := []) rfl cv_X0_157 rfl e113 rfl rfl (xrm4 (Nat.le_of_ble_eq_true rfl)) dX0_swapNow_23 (e_X0_books (by omega) h) ⟨Nat.zero_le _, Nat.zero_le _⟩ (fun _ _ _ h => h.elim) (fun x111 s112 h => ?_)
    refine t_aload_0 dX0_swapNow_26 ?_
    obtain ⟨e116, h⟩ := h
    refine t_cVi (As := []) rfl cv_X0_142 rfl e116 rfl rfl (xrm4 (Nat.le_of_ble_eq_true rfl)) dX0_swapNow_27 (e_X0_nNotes (by omega) h) ⟨Nat.zero_le _, Nat.zero_le _⟩ (fun _ _ _ h => h.elim) (fun x114 s115 h => ?_)
    obtain ⟨e119, h⟩ := h
    refine t_cVv (As := [_]) rfl cv_X0_316 rfl e119 rfl rfl (xrm4 (Nat.le_of_ble_eq_true rfl)) dX0_swapNow_30 (e_X2_exchange hN (by omega) h) ⟨Nat.zero_le _, Nat.zero_le _⟩ (fun _ _ _ h => h.elim) (fun _ s118 h => ?_)
    refine t_aload_0 dX0_swapNow_33 ?_
    obtain ⟨e122, h⟩ := h
    refine t_cVi (As := []) rfl cv_X0_142 rfl e122 rfl rfl (xrm4 (Nat.le_of_ble_eq_true rfl)) dX0_swapNow_34 (e_X0_nNotes (by omega) h) ⟨Nat.zero_le _, Nat.zero_le _⟩ (fun _ _ _ h => h.elim) (fun x120 s121 h => ?_)
    exact x_iret dX0_swapNow_37 rfl (Or.inl ⟨_, _, h, rfl, rfl⟩)
  · have h := h.2 c104
    refine x_bipush (v := (-3)) dX0_swapNow_7 (by decide) ?_
    exact x_iret dX0_swapNow_9 rfl (Or.inl ⟨_, _, h, rfl, rfl⟩)
def v_X20_reckoned (N : tP) (x0 : Nat) (x1 : Nat) (s : tM) (Kr : Int32 → tM → Prop) : Prop :=
  (tO s 17 x0 ∧ ((¬ (tI s x0 5) = 0 → (Kr (-1) s)) ∧ ((tI s x0 5) = 0 → ((¬ x1 = 0 → (tO s 0 (tR s x0 6) ∧ (tO s 4 (tR s (tR s x0 6) 7) ∧ (∀ s106 : tM, s106 = tsI s (tR s (tR s x0 6) 7) 1 0 → (tO s106 0 (tR s106 x0 6) ∧ (r_U_sum N N.2.1 0 x1 (tR s106 (tR s106 x0 6) 7) s106 (fun x109 s110 => (tO s110 17 x0 ∧ (tO s110 0 (tR s110 x0 6) ∧ (tO s110 4 (tR s110 (tR s110 x0 6) 7) ∧ (xB (tI s110 (tR s110 (tR s110 x0 6) 7) 1) ∧ (∀ s115 : tM, s115 = tsI s110 x0 5 (tI s110 (tR s110 (tR s110 x0 6) 7) 1) → (((tI s115 x0 5) = 0 → (Kr ((x109 : Int64).toInt32) s115)) ∧ (¬ (tI s115 x0 5) = 0 → (Kr (-1) s115))))))))))))))) ∧ (x1 = 0 → (Kr (-1) s))))))
theorem e_X20_reckoned {G : xG} {l : Launch} {g : xH} {d : Nat} {N : tP} (hN : tNs G N) (hd : 1 * N.2.1 + 9 ≤ d) {x0 : Nat} {x1 : Nat} {s : tM} {Kr : Int32 → tM → Prop} (h : v_X20_reckoned N x0 x1 s Kr) : xC G l kX20_reckoned d 0 0 [rfv x0, rfv x1] (tH G g s) (tQ G g wi Kr tNo) := by
  obtain ⟨d, rfl⟩ : ∃ z, d = z + 1 := ⟨d - 1, by omega⟩
  refine t_start rfl (by decide +kernel) (by simp [xct_i, xct_l, rfv_c]) (lv := [some (rfv x0), some (rfv x1), none, none]) (by simp [lv_args, xLv, rfv_c, xct_i, xct_l]) ?_
  unfold v_X20_reckoned at h
  refine t_aload_0 dX20_reckoned_0 ?_
  obtain ⟨e101, h⟩ := h
  refine t_getI dX20_reckoned_1 fa_X20_66_17 (by decide) e101 ?_
  refine x_if_ne 11 dX20_reckoned_4 (by decide) (fun c102 => ?_) (fun c102 => ?_)
  · have h := h.1 c102
    refine x_iconst (v := (-1)) dX20_reckoned_11 (by decide) ?_
    exact x_iret dX20_reckoned_12 rfl (Or.inl ⟨_, _, h, rfl, rfl⟩)
  · have h := h.2 c102
    refine t_aload_1 dX20_reckoned_7 ?_
    refine t_ifnonnull 13 dX20_reckoned_8 (by decide) (fun c103 => ?_) (fun c103 => ?_)
    · have h := h.1 c103
      refine t_aload_0 dX20_reckoned_13 ?_
      refine t_getR dX20_reckoned_14 fa_X20_3_17 (by decide) e101 ?_
      obtain ⟨e104, h⟩ := h
      refine t_getR dX20_reckoned_17 fa_X20_29_0 (by decide) e104 ?_
      refine x_iconst (v := 0) dX20_reckoned_20 (by decide) ?_
      obtain ⟨e105, h⟩ := h
      refine t_putI (j := 1) dX20_reckoned_21 fp_X20_62_4 (by decide) e105 (xB_n xB_0) (xB_f xB_0) ?_
      refine t_gen h (fun s106 w107 h => ?_)
      refine t_aload_1 dX20_reckoned_24 ?_
      refine t_aload_0 dX20_reckoned_25 ?_
      refine t_getR dX20_reckoned_26 fa_X20_3_17 (by decide) (tO_w w107 e101) ?_
      obtain ⟨e108, h⟩ := h
      refine t_getR dX20_reckoned_29 fa_X20_29_0 (by decide) e108 ?_
      refine t_cDl (As := [_]) rfl ((fun e => e.elim (fun e => ⟨_, 9, _, _, _, _, _, xcl_X11.1, cu_X20_69_9, e.1, e.2⟩) (fun e => e.elim (fun e => ⟨_, 10, _, _, _, _, _, xcl_X12.1, cu_X20_69_10, e.1, e.2⟩) (fun e => e.elim (fun e => ⟨_, 11, _, _, _, _, _, xcl_X13.1, cu_X20_69_11, e.1, e.2⟩) (fun e => ⟨_, 12, _, _, _, _, _, xcl_X14.1, cu_X20_69_12, e.1, e.2⟩)))) (e_U_sum hN (by omega) h)) rfl rfl (xrm4 (Nat.le_of_ble_eq_true rfl)) dX20_reckoned_32 ⟨Nat.zero_le _, Nat.zero_le _⟩ (fun _ _ _ h => h.elim) (fun x109 s110 h => ?_)
      refine x_lstore_2 dX20_reckoned_35 (by decide) xN2_f ?_
      refine t_aload_0 dX20_reckoned_36 ?_
      refine t_aload_0 dX20_reckoned_37 ?_
      obtain ⟨e111, h⟩ := h
      refine t_getR dX20_reckoned_38 fa_X20_3_17 (by decide) e111 ?_
      obtain ⟨e112, h⟩ := h
      refine t_getR dX20_reckoned_41 fa_X20_29_0 (by decide) e112 ?_
      obtain ⟨e113, h⟩ := h
      refine t_getI dX20_reckoned_44 fa_X20_62_4 (by decide) e113 ?_
      obtain ⟨e114, h⟩ := h
      refine t_putI (j := 5) dX20_reckoned_47 fp_X20_66_17 (by decide) e111 (xB_n e114) (xB_f e114) ?_
      refine t_gen h (fun s115 w116 h => ?_)
      refine t_aload_0 dX20_reckoned_50 ?_
      refine t_getI dX20_reckoned_51 fa_X20_66_17 (by decide) (tO_w w116 e111) ?_
      refine x_if_eq 61 dX20_reckoned_54 (by decide) (fun c117 => ?_) (fun c117 => ?_)
      · have h := h.1 c117
        refine x_lload_2 dX20_reckoned_61 ?_
        refine x_l2i dX20_reckoned_62 ?_
        exact x_iret dX20_reckoned_63 rfl (Or.inl ⟨_, _, h, rfl, rfl⟩)
      · have h := h.2 c117
        refine x_iconst (v := (-1)) dX20_reckoned_57 (by decide) ?_
        refine x_goto 63 dX20_reckoned_58 (by decide) ?_
        exact x_iret dX20_reckoned_63 rfl (Or.inl ⟨_, _, h, rfl, rfl⟩)
    · have h := h.2 c103
      refine x_iconst (v := (-1)) dX20_reckoned_11 (by decide) ?_
      exact x_iret dX20_reckoned_12 rfl (Or.inl ⟨_, _, h, rfl, rfl⟩)
def v_X20_does (N : tP) (x0 : Nat) (s : tM) (Kr : Int32 → tM → Prop) : Prop :=
  (tO s 17 x0 ∧ (v_X20_reckoned N x0 (tR s x0 1) s (fun x102 s103 => (tO s103 17 x0 ∧ (v_X20_reckoned N x0 (tR s103 x0 2) s103 (fun x105 s106 => (tO s106 17 x0 ∧ (((tI s106 x0 5) = 0 → ((¬ (tI s106 x0 0) = 0 → ((¬ (tI s106 x0 0) = 1 → ((¬ (tI s106 x0 0) = 2 → (tO s106 0 (tR s106 x0 6) ∧ (v_X0_passNow N (tR s106 x0 6) s106 (fun x112 s113 => (tO s113 17 x0 ∧ ((0 ≤ x112 → (tO s113 0 (tR s113 x0 6) ∧ (∀ s118 : tM, s118 = tsI s113 (tR s113 x0 6) 25 x112 → (Kr x112 s118)))) ∧ (¬ 0 ≤ x112 → (tO s113 0 (tR s113 x0 6) ∧ (∀ s121 : tM, s121 = tsI s113 (tR s113 x0 6) 25 (tI s113 (tR s113 x0 6) 25) → (Kr x112 s121)))))))))) ∧ ((tI s106 x0 0) = 2 → (tO s106 0 (tR s106 x0 6) ∧ (v_X0_swapNow N (tR s106 x0 6) s106 (fun x123 s124 => (Kr x123 s124))))))) ∧ ((tI s106 x0 0) = 1 → (tO s106 0 (tR s106 x0 6) ∧ (v_X0_shiftNow (tR s106 x0 6) x102 x105 s106 (fun x126 s127 => (Kr x126 s127))))))) ∧ ((tI s106 x0 0) = 0 → (tO s106 0 (tR s106 x0 6) ∧ (v_X0_setNow (tR s106 x0 6) x102 x105 s106 (fun x129 s130 => (Kr x129 s130))))))) ∧ (¬ (tI s106 x0 5) = 0 → (Kr (-3) s106))))))))))
theorem e_X20_does {G : xG} {l : Launch} {g : xH} {d : Nat} {N : tP} (hN : tNs G N) (hd : 2 * N.2.1 + 24 ≤ d) {x0 : Nat} {s : tM} {Kr : Int32 → tM → Prop} (h : v_X20_does N x0 s Kr) : xC G l kX20_does d 0 0 [rfv x0] (tH G g s) (tQ G g wi Kr tNo) := by
  obtain ⟨d, rfl⟩ : ∃ z, d = z + 1 := ⟨d - 1, by omega⟩
  refine t_start rfl (by decide +kernel) (by simp [xct_i, xct_l, rfv_c]) (lv := [some (rfv x0), none, none, none]) (by simp [lv_args, xLv, rfv_c, xct_i, xct_l]) ?_
  unfold v_X20_does at h
  refine t_aload_0 dX20_does_0 ?_
  refine t_aload_0 dX20_does_1 ?_
  obtain ⟨e101, h⟩ := h
  refine t_getR dX20_does_2 fa_X20_22_17 (by decide) e101 ?_
  refine t_cVi (As := [_]) rfl cv_X20_75 rfl e101 rfl rfl (xrm4 (Nat.le_of_ble_eq_true rfl)) dX20_does_5 (e_X20_reckoned hN (by omega) h) ⟨Nat.zero_le _, Nat.zero_le _⟩ (fun _ _ _ h => h.elim) (fun x102 s103 h => ?_)
  refine x_istore_1 dX20_does_8 (by decide) xN2_f ?_
  refine t_aload_0 dX20_does_9 ?_
  refine t_aload_0 dX20_does_10 ?_
  obtain ⟨e104, h⟩ := h
  refine t_getR dX20_does_11 fa_X20_26_17 (by decide) e104 ?_
  refine t_cVi (As := [_]) rfl cv_X20_75 rfl e104 rfl rfl (xrm4 (Nat.le_of_ble_eq_true rfl)) dX20_does_14 (e_X20_reckoned hN (by omega) h) ⟨Nat.zero_le _, Nat.zero_le _⟩ (fun _ _ _ h => h.elim) (fun x105 s106 h => ?_)
  refine x_istore_2 dX20_does_17 (by decide) xN2_i ?_
  refine t_aload_0 dX20_does_18 ?_
  obtain ⟨e107, h⟩ := h
  refine t_getI dX20_does_19 fa_X20_66_17 (by decide) e107 ?_
  refine x_if_eq 28 dX20_does_22 (by decide) (fun c108 => ?_) (fun c108 => ?_)
  · have h := h.1 c108
    refine t_aload_0 dX20_does_28 ?_
    refine t_getI dX20_does_29 fa_X20_19_17 (by decide) e107 ?_
    refine x_if_ne 45 dX20_does_32 (by decide) (fun c109 => ?_) (fun c109 => ?_)
    · have h := h.1 c109
      refine t_aload_0 dX20_does_45 ?_
      refine t_getI dX20_does_46 fa_X20_19_17 (by decide) e107 ?_
      refine x_iconst (v := 1) dX20_does_49 (by decide) ?_
      refine x_icmp_ne 63 dX20_does_50 (by decide) (fun c110 => ?_) (fun c110 => ?_)
      · have h := h.1 c110
        refine t_aload_0 dX20_does_63 ?_
        refine t_getI dX20_does_64 fa_X20_19_17 (by decide) e107 ?_
        refine x_iconst (v := 2) dX20_does_67 (by decide) ?_
        refine x_icmp_ne 79 dX20_does_68 (by decide) (fun c111 => ?_) (fun c111 => ?_)
        · have h := h.1 c111
          refine t_aload_0 dX20_does_79 ?_
          refine t_getR dX20_does_80 fa_X20_3_17 (by decide) e107 ?_
          obtain ⟨e114, h⟩ := h
          refine t_cVNi (As := []) rfl cvn_X20_89 rfl rfl e114 rfl rfl (xrm4 (Nat.le_of_ble_eq_true rfl)) dX20_does_83 (e_X0_passNow hN (by omega) h) ⟨Nat.zero_le _, Nat.zero_le _⟩ (fun _ _ _ h => h.elim) (fun x112 s113 h => ?_)
          refine x_istore_3 dX20_does_86 (by decide) xN2_i ?_
          refine t_aload_0 dX20_does_87 ?_
          obtain ⟨e115, h⟩ := h
          refine t_getR dX20_does_88 fa_X20_3_17 (by decide) e115 ?_
          refine x_iload_3 dX20_does_91 ?_
          refine x_if_ge 105 dX20_does_92 (by decide) (fun c116 => ?_) (fun c116 => ?_)
          · have h := h.1 c116
            refine x_iload_3 dX20_does_105 ?_
            obtain ⟨e117, h⟩ := h
            refine t_putI (j := 25) dX20_does_106 fp_X20_51_0 (by decide) e117 rfl rfl ?_
            refine t_gen h (fun s118 w119 h => ?_)
            refine x_iload_3 dX20_does_109 ?_
            exact x_iret dX20_does_110 rfl (Or.inl ⟨_, _, h, rfl, rfl⟩)
          · have h := h.2 c116
            refine t_aload_0 dX20_does_95 ?_
            refine t_getR dX20_does_96 fa_X20_3_17 (by decide) e115 ?_
            obtain ⟨e120, h⟩ := h
            refine t_getI dX20_does_99 fa_X20_51_0 (by decide) e120 ?_
            refine x_goto 106 dX20_does_102 (by decide) ?_
            refine t_putI (j := 25) dX20_does_106 fp_X20_51_0 (by decide) e120 rfl rfl ?_
            refine t_gen h (fun s121 w122 h => ?_)
            refine x_iload_3 dX20_does_109 ?_
            exact x_iret dX20_does_110 rfl (Or.inl ⟨_, _, h, rfl, rfl⟩)
        · have h := h.2 c111
          refine t_aload_0 dX20_does_71 ?_
          refine t_getR dX20_does_72 fa_X20_3_17 (by decide) e107 ?_
          obtain ⟨e125, h⟩ := h
          refine t_cVNi (As := []) rfl cvn_X20_86 rfl rfl e125 rfl rfl (xrm4 (Nat.le_of_ble_eq_true rfl)) dX20_does_75 (e_X0_swapNow hN (by omega) h) ⟨Nat.zero_le _, Nat.zero_le _⟩ (fun _ _ _ h => h.elim) (fun x123 s124 h => ?_)
          exact x_iret dX20_does_78 rfl (Or.inl ⟨_, _, h, rfl, rfl⟩)
      · have h := h.2 c110
        refine t_aload_0 dX20_does_53 ?_
        refine t_getR dX20_does_54 fa_X20_3_17 (by decide) e107 ?_
        refine x_iload_1 dX20_does_57 ?_
        refine x_iload_2 dX20_does_58 ?_
        obtain ⟨e128, h⟩ := h
        refine t_cVNi (As := [_, _]) rfl cvn_X20_83 rfl rfl e128 rfl rfl (xrm4 (Nat.le_of_ble_eq_true rfl)) dX20_does_59 (e_X0_shiftNow (by omega) h) ⟨Nat.zero_le _, Nat.zero_le _⟩ (fun _ _ _ h => h.elim) (fun x126 s127 h => ?_)
        exact x_iret dX20_does_62 rfl (Or.inl ⟨_, _, h, rfl, rfl⟩)
    · have h := h.2 c109
      refine t_aload_0 dX20_does_35 ?_
      refine t_getR dX20_does_36 fa_X20_3_17 (by decide) e107 ?_
      refine x_iload_1 dX20_does_39 ?_
      refine x_iload_2 dX20_does_40 ?_
      obtain ⟨e131, h⟩ := h
      refine t_cVNi (As := [_, _]) rfl cvn_X20_79 rfl rfl e131 rfl rfl (xrm4 (Nat.le_of_ble_eq_true rfl)) dX20_does_41 (e_X0_setNow (by omega) h) ⟨Nat.zero_le _, Nat.zero_le _⟩ (fun _ _ _ h => h.elim) (fun x129 s130 h => ?_)
      exact x_iret dX20_does_44 rfl (Or.inl ⟨_, _, h, rfl, rfl⟩)
  · have h := h.2 c108
    refine x_bipush (v := (-3)) dX20_does_25 (by decide) ?_
    exact x_iret dX20_does_27 rfl (Or.inl ⟨_, _, h, rfl, rfl⟩)
def v_X20_setAll (N : tP) (x0 : Nat) (s : tM) (Kr : tM → Prop) : Prop :=
  (tO s 17 x0 ∧ (tO s 0 (tR s x0 6) ∧ (tO s 4 (tR s (tR s x0 6) 7) ∧ (v_X0_books (tR s x0 6) s (fun x104 s105 => (tO s105 2 x104 ∧ (tX s105 1 (tR s (tR s (tR s x0 6) 7) 0) 0 ∧ (∀ s108 : tM, s108 = tsJ s105 (tR s (tR s (tR s x0 6) 7) 0) 0 ((tI s105 x104 2 : Int32).toInt64) → (tO s108 17 x0 ∧ (tO s108 0 (tR s108 x0 6) ∧ (tO s108 4 (tR s108 (tR s108 x0 6) 7) ∧ (tX s108 1 (tR s108 (tR s108 (tR s108 x0 6) 7) 0) 1 ∧ (∀ s114 : tM, s114 = tsJ s108 (tR s108 (tR s108 (tR s108 x0 6) 7) 0) 1 ((tI s108 (tR s108 x0 6) 24 : Int32).toInt64) → (tO s114 0 (tR s114 x0 6) ∧ (tO s114 4 (tR s114 (tR s114 x0 6) 7) ∧ (tX s114 1 (tR s114 (tR s114 (tR s114 x0 6) 7) 0) 2 ∧ (∀ s119 : tM, s119 = tsJ s114 (tR s114 (tR s114 (tR s114 x0 6) 7) 0) 2 ((tI s114 (tR s114 x0 6) 25 : Int32).toInt64) → (tO s119 0 (tR s119 x0 6) ∧ (tO s119 4 (tR s119 (tR s119 x0 6) 7) ∧ (v_X0_barredOnes N (tR s119 x0 6) s119 (fun x123 s124 => (tX s124 1 (tR s119 (tR s119 (tR s119 x0 6) 7) 0) 3 ∧ (∀ s126 : tM, s126 = tsJ s124 (tR s119 (tR s119 (tR s119 x0 6) 7) 0) 3 ((x123 : Int32).toInt64) → (tO s126 17 x0 ∧ (tO s126 0 (tR s126 x0 6) ∧ (tO s126 4 (tR s126 (tR s126 x0 6) 7) ∧ (v_X0_sumOf N (tR s126 x0 6) 0 s126 (fun x131 s132 => (tX s132 1 (tR s126 (tR s126 (tR s126 x0 6) 7) 0) 4 ∧ (∀ s134 : tM, s134 = tsJ s132 (tR s126 (tR s126 (tR s126 x0 6) 7) 0) 4 ((x131 : Int32).toInt64) → (tO s134 17 x0 ∧ (tO s134 0 (tR s134 x0 6) ∧ (tO s134 4 (tR s134 (tR s134 x0 6) 7) ∧ (∀ s139 : tM, s139 = tsI s134 (tR s134 (tR s134 x0 6) 7) 1 0 → (Kr s139)))))))))))))))))))))))))))))))))))
theorem e_X20_setAll {G : xG} {l : Launch} {g : xH} {d : Nat} {N : tP} (hN : tNs G N) (hd : 2 * N.2.1 + 22 ≤ d) {x0 : Nat} {s : tM} {Kr : tM → Prop} (h : v_X20_setAll N x0 s Kr) : xC G l kX20_setAll d 0 0 [rfv x0] (tH G g s) (tQ G g wu (fun _ => Kr) tNo) := by
  obtain ⟨d, rfl⟩ : ∃ z, d = z + 1 := ⟨d - 1, by omega⟩
  refine t_start rfl (by decide +kernel) (by simp [xct_i, xct_l, rfv_c]) (lv := [some (rfv x0)]) (by simp [lv_args, xLv, rfv_c, xct_i, xct_l]) ?_
  unfold v_X20_setAll at h
  refine t_aload_0 dX20_setAll_0 ?_
  obtain ⟨e101, h⟩ := h
  refine t_getR dX20_setAll_1 fa_X20_3_17 (by decide) e101 ?_
  obtain ⟨e102, h⟩ := h
  refine t_getR dX20_setAll_4 fa_X20_29_0 (by decide) e102 ?_
  obtain ⟨e103, h⟩ := h
  refine t_getR dX20_setAll_7 fa_X20_33_4 (by decide) e103 ?_
  refine x_iconst (v := 0) dX20_setAll_10 (by decide) ?_
  refine t_aload_0 dX20_setAll_11 ?_
  refine t_getR dX20_setAll_12 fa_X20_3_17 (by decide) e101 ?_
  refine t_cVNr (As := []) rfl cvn_X20_39 rfl rfl e102 rfl rfl (xrm4 (Nat.le_of_ble_eq_true rfl)) dX20_setAll_15 (e_X0_books (by omega) h) ⟨Nat.zero_le _, Nat.zero_le _⟩ (fun _ _ _ h => h.elim) (fun x104 s105 h => ?_)
  obtain ⟨e106, h⟩ := h
  refine t_getI dX20_setAll_18 fa_X20_43_2 (by decide) e106 ?_
  refine x_i2l dX20_setAll_21 ?_
  obtain ⟨e107, h⟩ := h
  refine t_last dX20_setAll_22 e107 ?_
  refine t_gen h (fun s108 w109 h => ?_)
  refine t_aload_0 dX20_setAll_23 ?_
  obtain ⟨e110, h⟩ := h
  refine t_getR dX20_setAll_24 fa_X20_3_17 (by decide) e110 ?_
  obtain ⟨e111, h⟩ := h
  refine t_getR dX20_setAll_27 fa_X20_29_0 (by decide) e111 ?_
  obtain ⟨e112, h⟩ := h
  refine t_getR dX20_setAll_30 fa_X20_33_4 (by decide) e112 ?_
  refine x_iconst (v := 1) dX20_setAll_33 (by decide) ?_
  refine t_aload_0 dX20_setAll_34 ?_
  refine t_getR dX20_setAll_35 fa_X20_3_17 (by decide) e110 ?_
  refine t_getI dX20_setAll_38 fa_X20_48_0 (by decide) e111 ?_
  refine x_i2l dX20_setAll_41 ?_
  obtain ⟨e113, h⟩ := h
  refine t_last dX20_setAll_42 e113 ?_
  refine t_gen h (fun s114 w115 h => ?_)
  refine t_aload_0 dX20_setAll_43 ?_
  refine t_getR dX20_setAll_44 fa_X20_3_17 (by decide) (tO_w w115 e110) ?_
  obtain ⟨e116, h⟩ := h
  refine t_getR dX20_setAll_47 fa_X20_29_0 (by decide) e116 ?_
  obtain ⟨e117, h⟩ := h
  refine t_getR dX20_setAll_50 fa_X20_33_4 (by decide) e117 ?_
  refine x_iconst (v := 2) dX20_setAll_53 (by decide) ?_
  refine t_aload_0 dX20_setAll_54 ?_
  refine t_getR dX20_setAll_55 fa_X20_3_17 (by decide) (tO_w w115 e110) ?_
  refine t_getI dX20_setAll_58 fa_X20_51_0 (by decide) e116 ?_
  refine x_i2l dX20_setAll_61 ?_
  obtain ⟨e118, h⟩ := h
  refine t_last dX20_setAll_62 e118 ?_
  refine t_gen h (fun s119 w120 h => ?_)
  refine t_aload_0 dX20_setAll_63 ?_
  refine t_getR dX20_setAll_64 fa_X20_3_17 (by decide) (tO_w w120 (tO_w w115 e110)) ?_
  obtain ⟨e121, h⟩ := h
  refine t_getR dX20_setAll_67 fa_X20_29_0 (by decide) e121 ?_
  obtain ⟨e122, h⟩ := h
  refine t_getR dX20_setAll_70 fa_X20_33_4 (by decide) e122 ?_
  refine x_iconst (v := 3) dX20_setAll_73 (by decide) ?_
  refine t_aload_0 dX20_setAll_74 ?_
  refine t_getR dX20_setAll_75 fa_X20_3_17 (by decide) (tO_w w120 (tO_w w115 e110)) ?_
  refine t_cVNi (As := []) rfl cvn_X20_54 rfl rfl e121 rfl rfl (xrm4 (Nat.le_of_ble_eq_true rfl)) dX20_setAll_78 (e_X0_barredOnes hN (by omega) h) ⟨Nat.zero_le _, Nat.zero_le _⟩ (fun _ _ _ h => h.elim) (fun x123 s124 h => ?_)
  refine x_i2l dX20_setAll_81 ?_
  obtain ⟨e125, h⟩ := h
  refine t_last dX20_setAll_82 e125 ?_
  refine t_gen h (fun s126 w127 h => ?_)
  refine t_aload_0 dX20_setAll_83 ?_
  obtain ⟨e128, h⟩ := h
  refine t_getR dX20_setAll_84 fa_X20_3_17 (by decide) e128 ?_
  obtain ⟨e129, h⟩ := h
  refine t_getR dX20_setAll_87 fa_X20_29_0 (by decide) e129 ?_
  obtain ⟨e130, h⟩ := h
  refine t_getR dX20_setAll_90 fa_X20_33_4 (by decide) e130 ?_
  refine x_iconst (v := 4) dX20_setAll_93 (by decide) ?_
  refine t_aload_0 dX20_setAll_94 ?_
  refine t_getR dX20_setAll_95 fa_X20_3_17 (by decide) e128 ?_
  refine x_iconst (v := 0) dX20_setAll_98 (by decide) ?_
  refine t_cVNi (As := [_]) rfl cvn_X20_58 rfl rfl e129 rfl rfl (xrm4 (Nat.le_of_ble_eq_true rfl)) dX20_setAll_99 (e_X0_sumOf hN (by omega) h) ⟨Nat.zero_le _, Nat.zero_le _⟩ (fun _ _ _ h => h.elim) (fun x131 s132 h => ?_)
  refine x_i2l dX20_setAll_102 ?_
  obtain ⟨e133, h⟩ := h
  refine t_last dX20_setAll_103 e133 ?_
  refine t_gen h (fun s134 w135 h => ?_)
  refine t_aload_0 dX20_setAll_104 ?_
  obtain ⟨e136, h⟩ := h
  refine t_getR dX20_setAll_105 fa_X20_3_17 (by decide) e136 ?_
  obtain ⟨e137, h⟩ := h
  refine t_getR dX20_setAll_108 fa_X20_29_0 (by decide) e137 ?_
  refine x_iconst (v := 0) dX20_setAll_111 (by decide) ?_
  obtain ⟨e138, h⟩ := h
  refine t_putI (j := 1) dX20_setAll_112 fp_X20_62_4 (by decide) e138 (xB_n xB_0) (xB_f xB_0) ?_
  refine t_gen h (fun s139 w140 h => ?_)
  exact x_vret dX20_setAll_115 rfl (Or.inl ⟨(), _, h, rfl, rfl⟩)
def v_X20_run_43 (N : tP) (x0 : Nat) (Kr : Int32 → tM → Prop) (s : tM) : Prop :=
  (tO s 17 x0 ∧ (∀ s102 : tM, s102 = tsI s x0 5 0 → (v_X20_does N x0 s102 (fun x104 s105 => ((0 ≤ x104 → (tO s105 17 x0 ∧ (∀ x108 : Nat, x108 = tR s105 x0 6 → (tO s105 0 x108 ∧ (∀ s110 : tM, s110 = tsI s105 x108 24 ((tI s105 x108 24) + 1) → (Kr 0 s110)))))) ∧ (¬ 0 ≤ x104 → (Kr (-3) s105)))))))
theorem e_X20_run_43 {G : xG} {l : Launch} {g : xH} {d : Nat} {N : tP} (hN : tNs G N) (hd : 2 * N.2.1 + 25 ≤ d) (x0 : Nat) (Kr : Int32 → tM → Prop) (s : tM) (h : v_X20_run_43 N x0 Kr s) : xF G l kX20_run (d + 1) 0 0 (tQ G g wi Kr tNo) 43 [some (rfv x0)] [] (tH G g s) := by
  unfold v_X20_run_43 at h
  refine t_aload_0 dX20_run_43 ?_
  refine x_iconst (v := 0) dX20_run_44 (by decide) ?_
  obtain ⟨e101, h⟩ := h
  refine t_putI (j := 5) dX20_run_45 fp_X20_66_17 (by decide) e101 (xB_n xB_0) (xB_f xB_0) ?_
  refine t_gen h (fun s102 w103 h => ?_)
  refine t_aload_0 dX20_run_48 ?_
  refine t_cVi (As := []) rfl cv_X20_104 rfl (tO_w w103 e101) rfl rfl (xrm4 (Nat.le_of_ble_eq_true rfl)) dX20_run_49 (e_X20_does hN (by omega) h) ⟨Nat.zero_le _, Nat.zero_le _⟩ (fun _ _ _ h => h.elim) (fun x104 s105 h => ?_)
  refine x_if_ge 58 dX20_run_52 (by decide) (fun c106 => ?_) (fun c106 => ?_)
  · have h := h.1 c106
    refine t_aload_0 dX20_run_58 ?_
    obtain ⟨e107, h⟩ := h
    refine t_getR dX20_run_59 fa_X20_3_17 (by decide) e107 ?_
    refine x_dup dX20_run_62 (rfv_c _) ?_
    have h := h _ rfl
    obtain ⟨e109, h⟩ := h
    refine t_getI dX20_run_63 fa_X20_48_0 (by decide) e109 ?_
    refine x_iconst (v := 1) dX20_run_66 (by decide) ?_
    refine x_iadd dX20_run_67 ?_
    refine t_putI (j := 24) dX20_run_68 fp_X20_48_0 (by decide) e109 rfl rfl ?_
    refine t_gen h (fun s110 w111 h => ?_)
    refine x_iconst (v := 0) dX20_run_71 (by decide) ?_
    exact x_iret dX20_run_72 rfl (Or.inl ⟨_, _, h, rfl, rfl⟩)
  · have h := h.2 c106
    refine x_bipush (v := (-3)) dX20_run_55 (by decide) ?_
    exact x_iret dX20_run_57 rfl (Or.inl ⟨_, _, h, rfl, rfl⟩)
def v_X20_run (N : tP) (x0 : Nat) (s : tM) (Kr : Int32 → tM → Prop) : Prop :=
  (tO s 17 x0 ∧ (v_X20_setAll N x0 s (fun s102 => (tO s102 17 x0 ∧ (((tR s102 x0 3) = 0 → (v_X20_run_43 N x0 Kr s102)) ∧ (¬ (tR s102 x0 3) = 0 → (tO s102 0 (tR s102 x0 6) ∧ (r_U_test N N.2.1 0 (tR s102 x0 3) (tR s102 (tR s102 x0 6) 7) s102 (fun x107 s108 => ((x107 = 0 → (Kr 0 s108)) ∧ (¬ x107 = 0 → (tO s108 17 x0 ∧ (tO s108 0 (tR s108 x0 6) ∧ (tO s108 4 (tR s108 (tR s108 x0 6) 7) ∧ (((tI s108 (tR s108 (tR s108 x0 6) 7) 1) = 0 → (v_X20_run_43 N x0 Kr s108)) ∧ (¬ (tI s108 (tR s108 (tR s108 x0 6) 7) 1) = 0 → (Kr 0 s108)))))))))))))))))
theorem e_X20_run {G : xG} {l : Launch} {g : xH} {d : Nat} {N : tP} (hN : tNs G N) (hd : 2 * N.2.1 + 26 ≤ d) {x0 : Nat} {s : tM} {Kr : Int32 → tM → Prop} (h : v_X20_run N x0 s Kr) : xC G l kX20_run d 0 0 [rfv x0] (tH G g s) (tQ G g wi Kr tNo) := by
  obtain ⟨d, rfl⟩ : ∃ z, d = z + 1 := ⟨d - 1, by omega⟩
  refine t_start rfl (by decide +kernel) (by simp [xct_i, xct_l, rfv_c]) (lv := [some (rfv x0)]) (by simp [lv_args, xLv, rfv_c, xct_i, xct_l]) ?_
  unfold v_X20_run at h
  refine t_aload_0 dX20_run_0 ?_
  obtain ⟨e103, h⟩ := h
  refine t_cVv (As := []) rfl cv_X20_92 rfl e103 rfl rfl (xrm4 (Nat.le_of_ble_eq_true rfl)) dX20_run_1 (e_X20_setAll hN (by omega) h) ⟨Nat.zero_le _, Nat.zero_le _⟩ (fun _ _ _ h => h.elim) (fun _ s102 h => ?_)
  refine t_aload_0 dX20_run_4 ?_
  obtain ⟨e104, h⟩ := h
  refine t_getR dX20_run_5 fa_X20_95_17 (by decide) e104 ?_
  refine t_ifnull 43 dX20_run_8 (by decide) (fun c105 => ?_) (fun c105 => ?_)
  · have h := h.1 c105
    exact x_le (xLe_cons (xLe_nil)) (e_X20_run_43 hN (by omega) _ _ _ h)
  · have h := h.2 c105
    refine t_aload_0 dX20_run_11 ?_
    refine t_getR dX20_run_12 fa_X20_95_17 (by decide) e104 ?_
    refine t_aload_0 dX20_run_15 ?_
    refine t_getR dX20_run_16 fa_X20_3_17 (by decide) e104 ?_
    obtain ⟨e106, h⟩ := h
    refine t_getR dX20_run_19 fa_X20_29_0 (by decide) e106 ?_
    refine t_cDi (As := [_]) rfl ((fun e => e.elim (fun e => ⟨_, 14, _, _, _, _, _, xcl_X17.1, cu_X20_99_14, e.1, e.2⟩) (fun e => e.elim (fun e => ⟨_, 15, _, _, _, _, _, xcl_X18.1, cu_X20_99_15, e.1, e.2⟩) (fun e => ⟨_, 16, _, _, _, _, _, xcl_X19.1, cu_X20_99_16, e.1, e.2⟩))) (e_U_test hN (by omega) h)) rfl rfl (xrm4 (Nat.le_of_ble_eq_true rfl)) dX20_run_22 ⟨Nat.zero_le _, Nat.zero_le _⟩ (fun _ _ _ h => h.elim) (fun x107 s108 h => ?_)
    refine x_if_eq 41 dX20_run_25 (by decide) (fun c109 => ?_) (fun c109 => ?_)
    · have h := h.1 c109
      refine x_iconst (v := 0) dX20_run_41 (by decide) ?_
      exact x_iret dX20_run_42 rfl (Or.inl ⟨_, _, h, rfl, rfl⟩)
    · have h := h.2 c109
      refine t_aload_0 dX20_run_28 ?_
      obtain ⟨e110, h⟩ := h
      refine t_getR dX20_run_29 fa_X20_3_17 (by decide) e110 ?_
      obtain ⟨e111, h⟩ := h
      refine t_getR dX20_run_32 fa_X20_29_0 (by decide) e111 ?_
      obtain ⟨e112, h⟩ := h
      refine t_getI dX20_run_35 fa_X20_62_4 (by decide) e112 ?_
      refine x_if_eq 43 dX20_run_38 (by decide) (fun c113 => ?_) (fun c113 => ?_)
      · have h := h.1 c113
        exact x_le (xLe_cons (xLe_nil)) (e_X20_run_43 hN (by omega) _ _ _ h)
      · have h := h.2 c113
        refine x_iconst (v := 0) dX20_run_41 (by decide) ?_
        exact x_iret dX20_run_42 rfl (Or.inl ⟨_, _, h, rfl, rfl⟩)
def v_X0_runAll_10 (N : tP) (x0 : Nat) (x1 : Nat) (x2 : Int32) (Kr : Int32 → tM → Prop) (K : tM → Prop) : Nat → Int32 → tM → Prop
  | 0, _, _ => False
  | t + 1, x3, s => (tX s 8 x1 x2 ∧ (tO s 17 (tR s x1 x2.toNatClampNeg) ∧ (((tI s (tR s x1 x2.toNatClampNeg) 4) ≤ x3 → (K s)) ∧ (¬ (tI s (tR s x1 x2.toNatClampNeg) 4) ≤ x3 → (tX s 8 x1 x2 ∧ (v_X20_run N (tR s x1 x2.toNatClampNeg) s (fun x105 s106 => ((¬ x105 = 0 → (tO s106 0 x0 ∧ (∀ s109 : tM, s109 = tsI s106 x0 13 x2 → (Kr (-3) s109)))) ∧ (x105 = 0 → (∀ x111 : Int32, x111 = x3 + 1 → ((fun x3 s => v_X0_runAll_10 N x0 x1 x2 Kr K t x3 s) x111 s106)))))))))))
theorem e_X0_runAll_10 {G : xG} {l : Launch} {g : xH} {d : Nat} {N : tP} (hN : tNs G N) (hd : 2 * N.2.1 + 27 ≤ d) (x0 : Nat) (x1 : Nat) (x2 : Int32) (Kr : Int32 → tM → Prop) (K : tM → Prop) : ∀ (t : Nat) (x3 : Int32) (s : tM) , v_X0_runAll_10 N x0 x1 x2 Kr K t x3 s → (∀ (s : tM), K s → xF G l kX0_runAll (d + 1) 0 0 (tQ G g wi Kr tNo) 46 [some (rfv x0), some (rfv x1), some (.int x2), none] [] (tH G g s)) → xF G l kX0_runAll (d + 1) 0 0 (tQ G g wi Kr tNo) 10 [some (rfv x0), some (rfv x1), some (.int x2), some (.int x3)] [] (tH G g s) := by
  intro t
  induction t with
  | zero =>
    intro _ _ h _
    exact absurd h (by simp [v_X0_runAll_10])
  | succ t ih =>
    intro x3 s h hK
    have hR := fun x3 s h => ih x3 s h hK
    unfold v_X0_runAll_10 at h
    refine x_iload_3 dX0_runAll_10 ?_
    refine t_aload_1 dX0_runAll_11 ?_
    refine x_iload_2 dX0_runAll_12 ?_
    obtain ⟨e101, h⟩ := h
    refine t_aald (t := 8) dX0_runAll_13 ⟨rfl, by decide, by decide⟩ rfl e101 ?_
    obtain ⟨e102, h⟩ := h
    refine t_getI dX0_runAll_14 fa_X0_403_17 (by decide) e102 ?_
    refine x_icmp_ge 46 dX0_runAll_17 (by decide) (fun c103 => ?_) (fun c103 => ?_)
    · have h := h.1 c103
      exact x_le (xLe_cons (xLe_cons (xLe_cons (xLe_none (xLe_nil))))) (hK _ h)
    · have h := h.2 c103
      refine t_aload_1 dX0_runAll_20 ?_
      refine x_iload_2 dX0_runAll_21 ?_
      obtain ⟨e104, h⟩ := h
      refine t_aald (t := 8) dX0_runAll_22 ⟨rfl, by decide, by decide⟩ rfl e104 ?_
      refine t_cVi (As := []) rfl cv_X0_408 rfl e102 rfl rfl (xrm4 (Nat.le_of_ble_eq_true rfl)) dX0_runAll_23 (e_X20_run hN (by omega) h) ⟨Nat.zero_le _, Nat.zero_le _⟩ (fun _ _ _ h => h.elim) (fun x105 s106 h => ?_)
      refine x_if_ne 32 dX0_runAll_26 (by decide) (fun c107 => ?_) (fun c107 => ?_)
      · have h := h.1 c107
        refine t_aload_0 dX0_runAll_32 ?_
        refine x_iload_2 dX0_runAll_33 ?_
        obtain ⟨e108, h⟩ := h
        refine t_putI (j := 13) dX0_runAll_34 fp_X0_75_0 (by decide) e108 rfl rfl ?_
        refine t_gen h (fun s109 w110 h => ?_)
        refine x_bipush (v := (-3)) dX0_runAll_37 (by decide) ?_
        exact x_iret dX0_runAll_39 rfl (Or.inl ⟨_, _, h, rfl, rfl⟩)
      · have h := h.2 c107
        refine x_goto 40 dX0_runAll_29 (by decide) ?_
        refine x_iinc_3 (v := 1) dX0_runAll_40 (by decide) (by decide) xN2_i ?_
        have h := h _ rfl
        refine x_goto 10 dX0_runAll_43 (by decide) ?_
        exact x_le (xLe_cons (xLe_cons (xLe_cons (xLe_cons (xLe_nil))))) (hR _ _ h)
def v_X0_runAll_2 (N : tP) (x0 : Nat) (x1 : Nat) (Kr : Int32 → tM → Prop) (K : tM → Prop) : Nat → Int32 → tM → Prop
  | 0, _, _ => False
  | t + 1, x2, s => ((∃ N, tA s 8 N x1) ∧ (((Int32.ofNat (tLen s x1)) ≤ x2 → (K s)) ∧ (¬ (Int32.ofNat (tLen s x1)) ≤ x2 → (v_X0_runAll_10 N x0 x1 x2 Kr (fun s103 => (∀ x104 : Int32, x104 = x2 + 1 → ((fun x2 s => v_X0_runAll_2 N x0 x1 Kr K t x2 s) x104 s103))) N.1 0 s))))
theorem e_X0_runAll_2 {G : xG} {l : Launch} {g : xH} {d : Nat} {N : tP} (hN : tNs G N) (hd : 2 * N.2.1 + 27 ≤ d) (x0 : Nat) (x1 : Nat) (Kr : Int32 → tM → Prop) (K : tM → Prop) : ∀ (t : Nat) (x2 : Int32) (s : tM) , v_X0_runAll_2 N x0 x1 Kr K t x2 s → (∀ (s : tM), K s → xF G l kX0_runAll (d + 1) 0 0 (tQ G g wi Kr tNo) 52 [some (rfv x0), none, none, none] [] (tH G g s)) → xF G l kX0_runAll (d + 1) 0 0 (tQ G g wi Kr tNo) 2 [some (rfv x0), some (rfv x1), some (.int x2), none] [] (tH G g s) := by
  intro t
  induction t with
  | zero =>
    intro _ _ h _
    exact absurd h (by simp [v_X0_runAll_2])
  | succ t ih =>
    intro x2 s h hK
    have hR := fun x2 s h => ih x2 s h hK
    unfold v_X0_runAll_2 at h
    refine x_iload_2 dX0_runAll_2 ?_
    refine t_aload_1 dX0_runAll_3 ?_
    obtain ⟨e101, h⟩ := h
    refine t_alen (t := 8) dX0_runAll_4 ⟨rfl, by decide⟩ e101 ?_
    refine x_icmp_ge 52 dX0_runAll_5 (by decide) (fun c102 => ?_) (fun c102 => ?_)
    · have h := h.1 c102
      exact x_le (xLe_cons (xLe_none (xLe_none (xLe_cons (xLe_nil))))) (hK _ h)
    · have h := h.2 c102
      refine x_iconst (v := 0) dX0_runAll_8 (by decide) ?_
      refine x_istore_3 dX0_runAll_9 (by decide) xN2_i ?_
      refine x_le (xLe_cons (xLe_cons (xLe_cons (xLe_cons (xLe_nil))))) (e_X0_runAll_10 hN (by omega) _ _ _ _ _  _ _ _ h (fun s103 h => ?_))
      refine x_iinc_2 (v := 1) dX0_runAll_46 (by decide) (by decide) xN2_f ?_
      have h := h _ rfl
      refine x_goto 2 dX0_runAll_49 (by decide) ?_
      exact x_le (xLe_cons (xLe_cons (xLe_cons (xLe_cons (xLe_nil))))) (hR _ _ h)
def v_X0_runAll (N : tP) (x0 : Nat) (x1 : Nat) (s : tM) (Kr : Int32 → tM → Prop) : Prop :=
  (v_X0_runAll_2 N x0 x1 Kr (fun s101 => (tO s101 0 x0 ∧ (Kr (tI s101 x0 24) s101))) N.1 0 s)
theorem e_X0_runAll {G : xG} {l : Launch} {g : xH} {d : Nat} {N : tP} (hN : tNs G N) (hd : 2 * N.2.1 + 28 ≤ d) {x0 : Nat} {x1 : Nat} {s : tM} {Kr : Int32 → tM → Prop} (h : v_X0_runAll N x0 x1 s Kr) : xC G l kX0_runAll d 0 0 [rfv x0, rfv x1] (tH G g s) (tQ G g wi Kr tNo) := by
  obtain ⟨d, rfl⟩ : ∃ z, d = z + 1 := ⟨d - 1, by omega⟩
  refine t_start rfl (by decide +kernel) (by simp [xct_i, xct_l, rfv_c]) (lv := [some (rfv x0), some (rfv x1), none, none]) (by simp [lv_args, xLv, rfv_c, xct_i, xct_l]) ?_
  unfold v_X0_runAll at h
  refine x_iconst (v := 0) dX0_runAll_0 (by decide) ?_
  refine x_istore_2 dX0_runAll_1 (by decide) xN2_f ?_
  refine x_le (xLe_cons (xLe_cons (xLe_cons (xLe_cons (xLe_nil))))) (e_X0_runAll_2 hN (by omega) _ _ _ _  _ _ _ h (fun s101 h => ?_))
  refine t_aload_0 dX0_runAll_52 ?_
  obtain ⟨e102, h⟩ := h
  refine t_getI dX0_runAll_53 fa_X0_411_0 (by decide) e102 ?_
  exact x_iret dX0_runAll_56 rfl (Or.inl ⟨_, _, h, rfl, rfl⟩)
def v_X21_init (N : tP) (x0 : Nat) (x1 : Nat) (k n : Nat) (s : tM) (Kr : tM → Prop) : Prop :=
  (tO s 18 x0 ∧ (∀ s102 : tM, s102 = tsR s x0 9 x1 → (1 ≤ k ∧ (7 ≤ n ∧ (∀ q106 : Nat, s102.1 q106 = none → ¬ q106 = 0 → ¬ q106 = N.2.2 200 → (∀ s107 : tM, s107 = tNew s102 q106 (.inr (9, 7)) → (tX s107 9 q106 0 ∧ (∀ s110 : tM, s110 = tsR s107 q106 0 (N.2.2 8) → (tX s110 9 q106 1 ∧ (∀ s113 : tM, s113 = tsR s110 q106 1 (N.2.2 36) → (tX s113 9 q106 2 ∧ (∀ s116 : tM, s116 = tsR s113 q106 2 (N.2.2 37) → (tX s116 9 q106 3 ∧ (∀ s119 : tM, s119 = tsR s116 q106 3 (N.2.2 38) → (tX s119 9 q106 4 ∧ (∀ s122 : tM, s122 = tsR s119 q106 4 (N.2.2 39) → (tX s122 9 q106 5 ∧ (∀ s125 : tM, s125 = tsR s122 q106 5 (N.2.2 1) → (tX s125 9 q106 6 ∧ (∀ s128 : tM, s128 = tsR s125 q106 6 (N.2.2 2) → (∃ c132 c133 : Nat, c132 ≤ k - 1 ∧ c133 ≤ n - 7 ∧ (tO s128 18 x0 ∧ (v_X7_init N x0 x1 q106 c132 c133 s128 (fun s131 => (1 ≤ ((k - 1) - c132) ∧ (12 ≤ ((n - 7) - c133) ∧ (∀ q139 : Nat, s131.1 q139 = none → ¬ q139 = 0 → ¬ q139 = N.2.2 200 → (∀ s140 : tM, s140 = tNew s131 q139 (.inr (8, 12)) → (tO s140 18 x0 ∧ (∀ s143 : tM, s143 = tsR s140 x0 8 q139 → (Kr s143)))))))))))))))))))))))))))))))
theorem e_X21_init {G : xG} {l : Launch} {g : xH} {d : Nat} {N : tP} (hN : tNs G N) (hd : 4 ≤ d) {x0 : Nat} {x1 : Nat} {k n : Nat} {s : tM} {Kr : tM → Prop} (h : v_X21_init N x0 x1 k n s Kr) : xC G l kX21_init d k n [rfv x0, rfv x1] (tH G g s) (tQ G g wu (fun _ => Kr) tNo) := by
  obtain ⟨d, rfl⟩ : ∃ z, d = z + 1 := ⟨d - 1, by omega⟩
  refine t_start rfl (by decide +kernel) (by simp [xct_i, xct_l, rfv_c]) (lv := [some (rfv x0), some (rfv x1)]) (by simp [lv_args, xLv, rfv_c, xct_i, xct_l]) ?_
  unfold v_X21_init at h
  refine t_aload_0 dX21_init_0 ?_
  refine t_aload_1 dX21_init_1 ?_
  obtain ⟨e101, h⟩ := h
  refine t_putFR (j := 9) dX21_init_2 ff_X21_3_18 rfl (by decide) e101 rfl ?_
  refine t_gen h (fun s102 w103 h => ?_)
  refine t_aload_0 dX21_init_5 ?_
  refine t_aload_1 dX21_init_6 ?_
  refine x_bipush (v := 7) dX21_init_7 (by decide) ?_
  obtain ⟨e104, h⟩ := h
  obtain ⟨e105, h⟩ := h
  refine t_anew (t := 9) (N := 7) dX21_init_9 nq_X21_9 (by decide) (by decide) (by decide) e104 e105 (fun q h1 h2 h3 => ?_)
  have h := h q h1 h2 (fun e => h3 (e.trans (hN 200)))
  refine t_gen h (fun s107 w108 h => ?_)
  refine x_dup dX21_init_12 (rfv_c _) ?_
  refine x_iconst (v := 0) dX21_init_13 (by decide) ?_
  refine t_ldcN hN dX21_init_14 (i := 8) ⟨37, rfl⟩ ?_
  obtain ⟨e109, h⟩ := h
  refine t_aastS hN (by decide) dX21_init_16 e109 ?_
  refine t_gen h (fun s110 w111 h => ?_)
  refine x_dup dX21_init_17 (rfv_c _) ?_
  refine x_iconst (v := 1) dX21_init_18 (by decide) ?_
  refine t_ldcN hN dX21_init_19 (i := 36) ⟨38, rfl⟩ ?_
  obtain ⟨e112, h⟩ := h
  refine t_aastS hN (by decide) dX21_init_21 e112 ?_
  refine t_gen h (fun s113 w114 h => ?_)
  refine x_dup dX21_init_22 (rfv_c _) ?_
  refine x_iconst (v := 2) dX21_init_23 (by decide) ?_
  refine t_ldcN hN dX21_init_24 (i := 37) ⟨39, rfl⟩ ?_
  obtain ⟨e115, h⟩ := h
  refine t_aastS hN (by decide) dX21_init_26 e115 ?_
  refine t_gen h (fun s116 w117 h => ?_)
  refine x_dup dX21_init_27 (rfv_c _) ?_
  refine x_iconst (v := 3) dX21_init_28 (by decide) ?_
  refine t_ldcN hN dX21_init_29 (i := 38) ⟨40, rfl⟩ ?_
  obtain ⟨e118, h⟩ := h
  refine t_aastS hN (by decide) dX21_init_31 e118 ?_
  refine t_gen h (fun s119 w120 h => ?_)
  refine x_dup dX21_init_32 (rfv_c _) ?_
  refine x_iconst (v := 4) dX21_init_33 (by decide) ?_
  refine t_ldcN hN dX21_init_34 (i := 39) ⟨41, rfl⟩ ?_
  obtain ⟨e121, h⟩ := h
  refine t_aastS hN (by decide) dX21_init_36 e121 ?_
  refine t_gen h (fun s122 w123 h => ?_)
  refine x_dup dX21_init_37 (rfv_c _) ?_
  refine x_iconst (v := 5) dX21_init_38 (by decide) ?_
  refine t_ldcN hN dX21_init_39 (i := 1) ⟨42, rfl⟩ ?_
  obtain ⟨e124, h⟩ := h
  refine t_aastS hN (by decide) dX21_init_41 e124 ?_
  refine t_gen h (fun s125 w126 h => ?_)
  refine x_dup dX21_init_42 (rfv_c _) ?_
  refine x_bipush (v := 6) dX21_init_43 (by decide) ?_
  refine t_ldcN hN dX21_init_45 (i := 2) ⟨43, rfl⟩ ?_
  obtain ⟨e127, h⟩ := h
  refine t_aastS hN (by decide) dX21_init_47 e127 ?_
  refine t_gen h (fun s128 w129 h => ?_)
  obtain ⟨c132, c133, e134, e135, h⟩ := h
  obtain ⟨e136, h⟩ := h
  refine t_cI (As := [_, _]) rfl ci_X21_25 e136.2 rfl rfl (xrm4 (Nat.le_of_ble_eq_true rfl)) dX21_init_48 (e_X7_init hN (by omega) h) ⟨e134, e135⟩ (fun _ _ _ h => h.elim) (fun _ s131 h => ?_)
  refine t_aload_0 dX21_init_51 ?_
  refine x_bipush (v := 12) dX21_init_52 (by decide) ?_
  obtain ⟨e137, h⟩ := h
  obtain ⟨e138, h⟩ := h
  refine t_anew (t := 8) (N := 12) dX21_init_54 nq_X21_31 (by decide) (by decide) (by decide) e137 e138 (fun q h1 h2 h3 => ?_)
  have h := h q h1 h2 (fun e => h3 (e.trans (hN 200)))
  refine t_gen h (fun s140 w141 h => ?_)
  obtain ⟨e142, h⟩ := h
  refine t_putFR (j := 8) dX21_init_57 ff_X21_33_18 rfl (by decide) e142 rfl ?_
  refine t_gen h (fun s143 w144 h => ?_)
  exact x_vret dX21_init_60 rfl (Or.inl ⟨(), _, h, rfl, rfl⟩)
def v_X21_read_2 (N : tP) (x0 : Nat) (k n : Nat) (s : tM) (Kr : Nat → tM → Prop) (Kx : String → Nat → tM → Prop) : Prop :=
  (∃ c103 c104 : Nat, c103 ≤ k ∧ c104 ≤ n ∧ (tO s 18 x0 ∧ (v_X7_readAll N x0 c103 c104 s (fun x101 s102 => (¬ x101 < 0 ∧ (x101.toNatClampNeg * 4 ≤ 536870912 ∧ (1 ≤ (k - c103) ∧ (x101.toNatClampNeg ≤ (n - c104) ∧ (∀ q112 : Nat, s102.1 q112 = none → ¬ q112 = 0 → ¬ q112 = N.2.2 200 → (∀ s113 : tM, s113 = tNew s102 q112 (.inr (8, x101.toNatClampNeg)) → (tO s113 18 x0 ∧ ((∃ N, tA s113 8 N q112) ∧ (tCpOk s113 8 (tR s113 x0 8) q112 0 0 (Int32.ofNat (tLen s113 q112)) ∧ ((∀ i : Nat, i < ((Int32.ofNat (tLen s113 q112))).toNatClampNeg → tR s113 (tR s113 x0 8) (0 + i) = 0 ∨ ∃ ci, xSt 8 ci ∧ tO s113 ci (tR s113 (tR s113 x0 8) (0 + i))) ∧ (∀ s119 : tM, s119 = tCpR s113 (tR s113 x0 8) q112 0 0 ((Int32.ofNat (tLen s113 q112))).toNatClampNeg → (Kr q112 s119))))))))))))) Kx)))
theorem e_X21_read_2 {G : xG} {l : Launch} {g : xH} {d : Nat} {N : tP} (hN : tNs G N) (hd : 2 * N.2.1 + 23 ≤ d) {x0 : Nat} {k n : Nat} {s : tM} {Kr : Nat → tM → Prop} {Kx : String → Nat → tM → Prop} (h : v_X21_read_2 N x0 k n s Kr Kx) : xC G l kX21_read_2 d k n [rfv x0] (tH G g s) (tQ G g wr Kr Kx) := by
  obtain ⟨d, rfl⟩ : ∃ z, d = z + 1 := ⟨d - 1, by omega⟩
  refine t_start rfl (by decide +kernel) (by simp [xct_i, xct_l, rfv_c]) (lv := [some (rfv x0), none]) (by simp [lv_args, xLv, rfv_c, xct_i, xct_l]) ?_
  unfold v_X21_read_2 at h
  refine t_aload_0 dX21_read_2_0 ?_
  obtain ⟨c103, c104, e105, e106, h⟩ := h
  obtain ⟨e107, h⟩ := h
  refine t_cDi (As := []) rfl ⟨_, 18, _, _, _, _, _, xcl_X21.1, cu_X21_37_18, e107, (e_X7_readAll hN (by omega) h)⟩ rfl rfl (xrm4 (Nat.le_of_ble_eq_true rfl)) dX21_read_2_1 ⟨e105, e106⟩ (fun E q m1 h => Or.inr ⟨E, q, m1, h, rfl, rfl⟩) (fun x101 s102 h => ?_)
  obtain ⟨e108, h⟩ := h
  obtain ⟨e109, h⟩ := h
  obtain ⟨e110, h⟩ := h
  obtain ⟨e111, h⟩ := h
  refine t_anew (t := 8) (N := _) dX21_read_2_4 nq_X21_31 e108 rfl e109 e110 e111 (fun q h1 h2 h3 => ?_)
  have h := h q h1 h2 (fun e => h3 (e.trans (hN 200)))
  refine t_gen h (fun s113 w114 h => ?_)
  refine t_astore_1 dX21_read_2_7 (by decide) xN2_f ?_
  refine t_aload_0 dX21_read_2_8 ?_
  obtain ⟨e115, h⟩ := h
  refine t_getR dX21_read_2_9 fa_X21_33_18 (by decide) e115 ?_
  refine x_iconst (v := 0) dX21_read_2_12 (by decide) ?_
  refine t_aload_1 dX21_read_2_13 ?_
  refine x_iconst (v := 0) dX21_read_2_14 (by decide) ?_
  refine t_aload_1 dX21_read_2_15 ?_
  obtain ⟨e116, h⟩ := h
  refine t_alen (t := 8) dX21_read_2_16 ⟨rfl, by decide⟩ e116 ?_
  obtain ⟨e117, h⟩ := h
  obtain ⟨e118, h⟩ := h
  refine t_copyR (t := 8) dX21_read_2_17 na_X21_41 rfl (by decide) rfl e117 e118 (by omega) (by decide) ?_
  refine t_gen h (fun s119 w120 h => ?_)
  refine t_aload_1 dX21_read_2_20 ?_
  exact t_aret dX21_read_2_21 rfl (by first | exact Or.inl ⟨_, rfl⟩ | exact Or.inr ⟨_, rfl⟩) (Or.inl ⟨_, _, h, rfl, rfl⟩)
def v_X3_as_10 (N : tP) (x0 : Nat) (x1 : Nat) (Kr : tM → Prop) (K : tM → Prop) : Nat → Int32 → tM → Prop
  | 0, _, _ => False
  | t + 1, x2, s => (tO s 3 x0 ∧ (((tI s x0 1) ≤ x2 → (K s)) ∧ (¬ (tI s x0 1) ≤ x2 → (tX s 5 (tR s x0 0) x2 ∧ (tO s 3 x1 ∧ (tX s 5 (tR s x1 0) x2 ∧ (tO s 2 (tR s (tR s x0 0) x2.toNatClampNeg) ∧ (v_X2_as (tR s (tR s x0 0) x2.toNatClampNeg) (tR s (tR s x1 0) x2.toNatClampNeg) s (fun x106 s107 => (∀ x109 : Int32, x109 = x2 + 1 → ((fun x2 s => v_X3_as_10 N x0 x1 Kr K t x2 s) x109 s107)))))))))))
theorem e_X3_as_10 {G : xG} {l : Launch} {g : xH} {d : Nat} {N : tP} (hN : tNs G N) (hd : 3 ≤ d) (x0 : Nat) (x1 : Nat) (Kr : tM → Prop) (K : tM → Prop) : ∀ (t : Nat) (x2 : Int32) (s : tM) , v_X3_as_10 N x0 x1 Kr K t x2 s → (∀ (s : tM), K s → xF G l kX3_as (d + 1) 0 0 (tQ G g wu (fun _ => Kr) tNo) 40 [none, none, none] [] (tH G g s)) → xF G l kX3_as (d + 1) 0 0 (tQ G g wu (fun _ => Kr) tNo) 10 [some (rfv x0), some (rfv x1), some (.int x2)] [] (tH G g s) := by
  intro t
  induction t with
  | zero =>
    intro _ _ h _
    exact absurd h (by simp [v_X3_as_10])
  | succ t ih =>
    intro x2 s h hK
    have hR := fun x2 s h => ih x2 s h hK
    unfold v_X3_as_10 at h
    refine x_iload_2 dX3_as_10 ?_
    refine t_aload_0 dX3_as_11 ?_
    obtain ⟨e101, h⟩ := h
    refine t_getI dX3_as_12 fa_X3_18_3 (by decide) e101 ?_
    refine x_icmp_ge 40 dX3_as_15 (by decide) (fun c102 => ?_) (fun c102 => ?_)
    · have h := h.1 c102
      exact x_le (xLe_none (xLe_none (xLe_none (xLe_nil)))) (hK _ h)
    · have h := h.2 c102
      refine t_aload_0 dX3_as_18 ?_
      refine t_getR dX3_as_19 fa_X3_11_3 (by decide) e101 ?_
      refine x_iload_2 dX3_as_22 ?_
      obtain ⟨e103, h⟩ := h
      refine t_aald (t := 5) dX3_as_23 ⟨rfl, by decide, by decide⟩ rfl e103 ?_
      refine t_aload_1 dX3_as_24 ?_
      obtain ⟨e104, h⟩ := h
      refine t_getR dX3_as_25 fa_X3_11_3 (by decide) e104 ?_
      refine x_iload_2 dX3_as_28 ?_
      obtain ⟨e105, h⟩ := h
      refine t_aald (t := 5) dX3_as_29 ⟨rfl, by decide, by decide⟩ rfl e105 ?_
      obtain ⟨e108, h⟩ := h
      refine t_cVr (As := [_]) rfl cv_X3_28 rfl e108 rfl rfl (xrm4 (Nat.le_of_ble_eq_true rfl)) dX3_as_30 (e_X2_as (by omega) h) ⟨Nat.zero_le _, Nat.zero_le _⟩ (fun _ _ _ h => h.elim) (fun x106 s107 h => ?_)
      refine x_pop dX3_as_33 (rfv_c _) ?_
      refine x_iinc_2 (v := 1) dX3_as_34 (by decide) (by decide) xN2_f ?_
      have h := h _ rfl
      refine x_goto 10 dX3_as_37 (by decide) ?_
      exact x_le (xLe_cons (xLe_cons (xLe_cons (xLe_nil)))) (hR _ _ h)
def v_X3_as (N : tP) (x0 : Nat) (x1 : Nat) (s : tM) (Kr : tM → Prop) : Prop :=
  (tO s 3 x1 ∧ (tO s 3 x0 ∧ (∀ s103 : tM, s103 = tsI s x0 1 (tI s x1 1) → (v_X3_as_10 N x0 x1 Kr (fun s105 => (Kr s105)) N.1 0 s103))))
theorem e_X3_as {G : xG} {l : Launch} {g : xH} {d : Nat} {N : tP} (hN : tNs G N) (hd : 4 ≤ d) {x0 : Nat} {x1 : Nat} {s : tM} {Kr : tM → Prop} (h : v_X3_as N x0 x1 s Kr) : xC G l kX3_as d 0 0 [rfv x0, rfv x1] (tH G g s) (tQ G g wu (fun _ => Kr) tNo) := by
  obtain ⟨d, rfl⟩ : ∃ z, d = z + 1 := ⟨d - 1, by omega⟩
  refine t_start rfl (by decide +kernel) (by simp [xct_i, xct_l, rfv_c]) (lv := [some (rfv x0), some (rfv x1), none]) (by simp [lv_args, xLv, rfv_c, xct_i, xct_l]) ?_
  unfold v_X3_as at h
  refine t_aload_0 dX3_as_0 ?_
  refine t_aload_1 dX3_as_1 ?_
  obtain ⟨e101, h⟩ := h
  refine t_getI dX3_as_2 fa_X3_18_3 (by decide) e101 ?_
  obtain ⟨e102, h⟩ := h
  refine t_putI (j := 1) dX3_as_5 fp_X3_18_3 (by decide) e102 rfl rfl ?_
  refine t_gen h (fun s103 w104 h => ?_)
  refine x_iconst (v := 0) dX3_as_8 (by decide) ?_
  refine x_istore_2 dX3_as_9 (by decide) xN2_f ?_
  refine x_le (xLe_cons (xLe_cons (xLe_cons (xLe_nil)))) (e_X3_as_10 hN (by omega) _ _ _ _  _ _ _ h (fun s105 h => ?_))
  exact x_vret dX3_as_40 rfl (Or.inl ⟨(), _, h, rfl, rfl⟩)
def v_X0_orders (N : tP) (x0 : Nat) (k n : Nat) (s : tM) (Kr : Int32 → tM → Prop) : Prop :=
  (tO s 0 x0 ∧ (∀ s102 : tM, s102 = tsI s x0 13 (-1) → (1 ≤ k ∧ (10 ≤ n ∧ (∀ q106 : Nat, s102.1 q106 = none → ¬ q106 = 0 → ¬ q106 = N.2.2 200 → (∀ s107 : tM, s107 = tNew s102 q106 (.inl 18) → (∃ c112 c113 : Nat, c112 ≤ k - 1 ∧ c113 ≤ n - 10 ∧ (v_X21_init N q106 x0 c112 c113 s107 (fun s111 => (∃ c118 c119 : Nat, c118 ≤ (k - 1) - c112 ∧ c119 ≤ (n - 10) - c113 ∧ (tO s111 18 q106 ∧ (v_X21_read_2 N q106 c118 c119 s111 (fun x116 s117 => (tO s117 0 x0 ∧ (∀ s124 : tM, s124 = tsI s117 x0 11 (-1) → (∀ s126 : tM, s126 = tsI s124 x0 15 0 → (v_X0_books x0 s126 (fun x128 s129 => (tO s129 2 (tR s126 x0 4) ∧ (v_X2_as (tR s126 x0 4) x128 s129 (fun x130 s131 => (tO s131 0 x0 ∧ (tO s131 3 (tR s131 x0 3) ∧ (v_X3_as N (tR s131 x0 3) (tR s131 x0 2) s131 (fun s135 => (tO s135 0 x0 ∧ (∀ s138 : tM, s138 = tsI s135 x0 24 0 → (∀ s140 : tM, s140 = tsI s138 x0 25 (-1) → (v_X0_runAll N x0 x116 s140 (fun x142 s143 => ((0 ≤ x142 → (tO s143 0 x0 ∧ (v_X0_tell x0 x142 s143 (fun x145 s146 => (Kr x145 s146))))) ∧ (¬ 0 ≤ x142 → (tO s143 0 x0 ∧ (v_X0_books x0 s143 (fun x148 s149 => (tO s149 0 x0 ∧ (tO s149 2 x148 ∧ (v_X2_as x148 (tR s149 x0 4) s149 (fun x152 s153 => (tO s153 0 x0 ∧ (tO s153 3 (tR s153 x0 2) ∧ (v_X3_as N (tR s153 x0 2) (tR s153 x0 3) s153 (fun s157 => (tO s157 0 x0 ∧ (v_X0_tell x0 x142 s157 (fun x159 s160 => (Kr x159 s160))))))))))))))))))))))))))))))))))) (fun E q162 s163 => E = "CounterDesk$Wrong" ∧ (tO s163 8 q162 ∧ (tO s163 0 x0 ∧ (∀ s166 : tM, s166 = tsI s163 x0 11 (tI s163 q162 6) → (v_X0_tell x0 (-6) s166 (fun x168 s169 => (tO s169 0 x0 ∧ (∀ s171 : tM, s171 = tsI s169 x0 15 0 → (Kr x168 s171)))))))))))))))))))))
theorem e_X0_orders {G : xG} {l : Launch} {g : xH} {d : Nat} {N : tP} (hN : tNs G N) (hd : 2 * N.2.1 + 30 ≤ d) {x0 : Nat} {k n : Nat} {s : tM} {Kr : Int32 → tM → Prop} (h : v_X0_orders N x0 k n s Kr) : xC G l kX0_orders d k n [rfv x0] (tH G g s) (tQ G g wi Kr tNo) := by
  obtain ⟨d, rfl⟩ : ∃ z, d = z + 1 := ⟨d - 1, by omega⟩
  refine xC.startH (by decide) (by decide +kernel) (by simp [xct_i, xct_l, rfv_c]) (lv := [some (rfv x0), none, none, none, none]) (by simp [lv_args, xLv, rfv_c, xct_i, xct_l]) ?_
  unfold v_X0_orders at h
  refine t_aload_0 dX0_orders_0 ?_
  refine x_iconst (v := (-1)) dX0_orders_1 (by decide) ?_
  obtain ⟨e101, h⟩ := h
  refine t_putI (j := 13) dX0_orders_2 fp_X0_75_0 (by decide) e101 rfl rfl ?_
  refine t_gen h (fun s102 w103 h => ?_)
  obtain ⟨e104, h⟩ := h
  obtain ⟨e105, h⟩ := h
  refine t_new (N := 10) dX0_orders_5 ne_X0_414 rfl e104 e105 (fun q h1 h2 h3 => ?_)
  have h := h q h1 h2 (fun e => h3 (e.trans (hN 200)))
  refine t_gen h (fun s107 w108 h => ?_)
  have e109 := h2
  refine x_dup dX0_orders_8 (rfv_c _) ?_
  refine t_aload_0 dX0_orders_9 ?_
  obtain ⟨c112, c113, e114, e115, h⟩ := h
  refine t_cIH (As := [_]) ci_X0_416 e109 rfl rfl (xrm4 (Nat.le_of_ble_eq_true rfl)) dX0_orders_10 (e_X21_init hN (by omega) h) ⟨e114, e115⟩ (fun _ _ _ h => h.elim) (fun _ s111 h => ?_)
  obtain ⟨c118, c119, e120, e121, h⟩ := h
  obtain ⟨e122, h⟩ := h
  refine t_cVrH (As := []) cv_X0_417 rfl e122 rfl rfl (xrm4 (Nat.le_of_ble_eq_true rfl)) dX0_orders_13 (e_X21_read_2 hN (by omega) h) ⟨e120, e121⟩ (fun E q s163 h => ?_) (fun x116 s117 h => ?_)
  · obtain ⟨rfl, h⟩ := h
    refine ⟨30, ⟨5, 22, 249, _, rfl, by decide, by decide, by decide, q713, xnw_of q813 rfl⟩, ?_⟩
    refine t_astore_2 dX0_orders_30 (by decide) xN2_none ?_
    refine t_aload_0 dX0_orders_31 ?_
    refine t_aload_2 dX0_orders_32 ?_
    obtain ⟨e164, h⟩ := h
    refine t_getI dX0_orders_33 fa_X0_251_8 (by decide) e164 ?_
    obtain ⟨e165, h⟩ := h
    refine t_putI (j := 11) dX0_orders_36 fp_X0_71_0 (by decide) e165 rfl rfl ?_
    refine t_gen h (fun s166 w167 h => ?_)
    refine t_aload_0 dX0_orders_39 ?_
    refine x_bipush (v := (-6)) dX0_orders_40 (by decide) ?_
    refine t_cViH (As := [_]) cv_X0_132 rfl (tO_w w167 e165) rfl rfl (xrm4 (Nat.le_of_ble_eq_true rfl)) dX0_orders_42 (e_X0_tell (by omega) h) ⟨Nat.zero_le _, Nat.zero_le _⟩ (fun _ _ _ h => h.elim) (fun x168 s169 h => ?_)
    refine x_istore_3 dX0_orders_45 (by decide) xN2_f ?_
    refine t_aload_0 dX0_orders_46 ?_
    refine x_iconst (v := 0) dX0_orders_47 (by decide) ?_
    obtain ⟨e170, h⟩ := h
    refine t_putI (j := 15) dX0_orders_48 fp_X0_146_0 (by decide) e170 rfl rfl ?_
    refine t_gen h (fun s171 w172 h => ?_)
    refine x_iload_3 dX0_orders_51 ?_
    exact x_iret dX0_orders_52 rfl (Or.inl ⟨_, _, h, rfl, rfl⟩)
  · skip
    refine t_astore_1 dX0_orders_16 (by decide) xN2_f ?_
    refine t_aload_0 dX0_orders_17 ?_
    refine x_iconst (v := (-1)) dX0_orders_18 (by decide) ?_
    obtain ⟨e123, h⟩ := h
    refine t_putI (j := 11) dX0_orders_19 fp_X0_71_0 (by decide) e123 rfl rfl ?_
    refine t_gen h (fun s124 w125 h => ?_)
    refine t_aload_0 dX0_orders_22 ?_
    refine x_iconst (v := 0) dX0_orders_23 (by decide) ?_
    refine t_putI (j := 15) dX0_orders_24 fp_X0_146_0 (by decide) (tO_w w125 e123) rfl rfl ?_
    refine t_gen h (fun s126 w127 h => ?_)
    refine x_goto 63 dX0_orders_27 (by decide) ?_
    refine t_aload_0 dX0_orders_63 ?_
    refine t_getR dX0_orders_64 fa_X0_39_0 (by decide) (tO_w w127 (tO_w w125 e123)) ?_
    refine t_aload_0 dX0_orders_67 ?_
    refine t_cVrH (As := []) cv_X0_157 rfl (tO_w w127 (tO_w w125 e123)) rfl rfl (xrm4 (Nat.le_of_ble_eq_true rfl)) dX0_orders_68 (e_X0_books (by omega) h) ⟨Nat.zero_le _, Nat.zero_le _⟩ (fun _ _ _ h => h.elim) (fun x128 s129 h => ?_)
    obtain ⟨e132, h⟩ := h
    refine t_cVrH (As := [_]) cv_X0_329 rfl e132 rfl rfl (xrm4 (Nat.le_of_ble_eq_true rfl)) dX0_orders_71 (e_X2_as (by omega) h) ⟨Nat.zero_le _, Nat.zero_le _⟩ (fun _ _ _ h => h.elim) (fun x130 s131 h => ?_)
    refine x_pop dX0_orders_74 (rfv_c _) ?_
    refine t_aload_0 dX0_orders_75 ?_
    obtain ⟨e133, h⟩ := h
    refine t_getR dX0_orders_76 fa_X0_33_0 (by decide) e133 ?_
    refine t_aload_0 dX0_orders_79 ?_
    refine t_getR dX0_orders_80 fa_X0_29_0 (by decide) e133 ?_
    obtain ⟨e136, h⟩ := h
    refine t_cVvH (As := [_]) cv_X0_420 rfl e136 rfl rfl (xrm4 (Nat.le_of_ble_eq_true rfl)) dX0_orders_83 (e_X3_as hN (by omega) h) ⟨Nat.zero_le _, Nat.zero_le _⟩ (fun _ _ _ h => h.elim) (fun _ s135 h => ?_)
    refine t_aload_0 dX0_orders_86 ?_
    refine x_iconst (v := 0) dX0_orders_87 (by decide) ?_
    obtain ⟨e137, h⟩ := h
    refine t_putI (j := 24) dX0_orders_88 fp_X0_411_0 (by decide) e137 rfl rfl ?_
    refine t_gen h (fun s138 w139 h => ?_)
    refine t_aload_0 dX0_orders_91 ?_
    refine x_iconst (v := (-1)) dX0_orders_92 (by decide) ?_
    refine t_putI (j := 25) dX0_orders_93 fp_X0_423_0 (by decide) (tO_w w139 e137) rfl rfl ?_
    refine t_gen h (fun s140 w141 h => ?_)
    refine t_aload_0 dX0_orders_96 ?_
    refine t_aload_1 dX0_orders_97 ?_
    refine t_cViH (As := [_]) cv_X0_426 rfl (tO_w w141 (tO_w w139 e137)) rfl rfl (xrm4 (Nat.le_of_ble_eq_true rfl)) dX0_orders_98 (e_X0_runAll hN (by omega) h) ⟨Nat.zero_le _, Nat.zero_le _⟩ (fun _ _ _ h => h.elim) (fun x142 s143 h => ?_)
    refine x_istore_2 dX0_orders_101 (by decide) xN2_f ?_
    refine x_iload_2 dX0_orders_102 ?_
    refine x_if_ge 129 dX0_orders_103 (by decide) (fun c144 => ?_) (fun c144 => ?_)
    · have h := h.1 c144
      refine t_aload_0 dX0_orders_129 ?_
      refine x_iload_2 dX0_orders_130 ?_
      obtain ⟨e147, h⟩ := h
      refine t_cViH (As := [_]) cv_X0_132 rfl e147 rfl rfl (xrm4 (Nat.le_of_ble_eq_true rfl)) dX0_orders_131 (e_X0_tell (by omega) h) ⟨Nat.zero_le _, Nat.zero_le _⟩ (fun _ _ _ h => h.elim) (fun x145 s146 h => ?_)
      exact x_iret dX0_orders_134 rfl (Or.inl ⟨_, _, h, rfl, rfl⟩)
    · have h := h.2 c144
      refine t_aload_0 dX0_orders_106 ?_
      obtain ⟨e150, h⟩ := h
      refine t_cVrH (As := []) cv_X0_157 rfl e150 rfl rfl (xrm4 (Nat.le_of_ble_eq_true rfl)) dX0_orders_107 (e_X0_books (by omega) h) ⟨Nat.zero_le _, Nat.zero_le _⟩ (fun _ _ _ h => h.elim) (fun x148 s149 h => ?_)
      refine t_aload_0 dX0_orders_110 ?_
      obtain ⟨e151, h⟩ := h
      refine t_getR dX0_orders_111 fa_X0_39_0 (by decide) e151 ?_
      obtain ⟨e154, h⟩ := h
      refine t_cVrH (As := [_]) cv_X0_329 rfl e154 rfl rfl (xrm4 (Nat.le_of_ble_eq_true rfl)) dX0_orders_114 (e_X2_as (by omega) h) ⟨Nat.zero_le _, Nat.zero_le _⟩ (fun _ _ _ h => h.elim) (fun x152 s153 h => ?_)
      refine x_pop dX0_orders_117 (rfv_c _) ?_
      refine t_aload_0 dX0_orders_118 ?_
      obtain ⟨e155, h⟩ := h
      refine t_getR dX0_orders_119 fa_X0_29_0 (by decide) e155 ?_
      refine t_aload_0 dX0_orders_122 ?_
      refine t_getR dX0_orders_123 fa_X0_33_0 (by decide) e155 ?_
      obtain ⟨e158, h⟩ := h
      refine t_cVvH (As := [_]) cv_X0_420 rfl e158 rfl rfl (xrm4 (Nat.le_of_ble_eq_true rfl)) dX0_orders_126 (e_X3_as hN (by omega) h) ⟨Nat.zero_le _, Nat.zero_le _⟩ (fun _ _ _ h => h.elim) (fun _ s157 h => ?_)
      refine t_aload_0 dX0_orders_129 ?_
      refine x_iload_2 dX0_orders_130 ?_
      obtain ⟨e161, h⟩ := h
      refine t_cViH (As := [_]) cv_X0_132 rfl e161 rfl rfl (xrm4 (Nat.le_of_ble_eq_true rfl)) dX0_orders_131 (e_X0_tell (by omega) h) ⟨Nat.zero_le _, Nat.zero_le _⟩ (fun _ _ _ h => h.elim) (fun x159 s160 h => ?_)
      exact x_iret dX0_orders_134 rfl (Or.inl ⟨_, _, h, rfl, rfl⟩)
def v_X0_parallels_18 (N : tP) (x0 : Nat) (x1 : Int32) (Kr : Int32 → tM → Prop) (K : Int32 → tM → Prop) : Nat → Int32 → Int32 → tM → Prop
  | 0, _, _, _ => False
  | t + 1, x2, x3, s => (tO s 0 x0 ∧ (v_X0_nNotes x0 s (fun x101 s102 => ((x101 ≤ x3 → (K x2 s102)) ∧ (¬ x101 ≤ x3 → (tO s102 0 x0 ∧ (v_X0_apart x0 x3 s102 (fun x105 s106 => (∀ x108 : Int32, x108 = (if 0 ≤ x105 then x105 else 0 - x105) → ((¬ (x108 - x108 / 12 * 12) = x1 → (∀ x110 : Int32, x110 = x2 ||| 0 → (∀ x111 : Int32, x111 = x3 + 1 → ((fun x2 x3 s => v_X0_parallels_18 N x0 x1 Kr K t x2 x3 s) x110 x111 s106)))) ∧ ((x108 - x108 / 12 * 12) = x1 → (tO s106 0 x0 ∧ (v_X0_apart x0 (x3 - 1) s106 (fun x112 s113 => (∀ x115 : Int32, x115 = (if 0 ≤ x112 then x112 else 0 - x112) → ((¬ (x115 - x115 / 12 * 12) = x1 → (∀ x117 : Int32, x117 = x2 ||| 0 → (∀ x118 : Int32, x118 = x3 + 1 → ((fun x2 x3 s => v_X0_parallels_18 N x0 x1 Kr K t x2 x3 s) x117 x118 s113)))) ∧ ((x115 - x115 / 12 * 12) = x1 → (tO s113 0 x0 ∧ (v_X0_leap x0 x3 s113 (fun x119 s120 => ((x119 = 0 → (∀ x123 : Int32, x123 = x2 ||| 0 → (∀ x124 : Int32, x124 = x3 + 1 → ((fun x2 x3 s => v_X0_parallels_18 N x0 x1 Kr K t x2 x3 s) x123 x124 s120)))) ∧ (¬ x119 = 0 → (∀ x125 : Int32, x125 = x2 ||| (1 <<< (x3 &&& 31)) → (∀ x126 : Int32, x126 = x3 + 1 → ((fun x2 x3 s => v_X0_parallels_18 N x0 x1 Kr K t x2 x3 s) x125 x126 s120)))))))))))))))))))))))))
theorem e_X0_parallels_18 {G : xG} {l : Launch} {g : xH} {d : Nat} {N : tP} (hN : tNs G N) (hd : 5 ≤ d) (x0 : Nat) (x1 : Int32) (Kr : Int32 → tM → Prop) (K : Int32 → tM → Prop) : ∀ (t : Nat) (x2 : Int32) (x3 : Int32) (s : tM) , v_X0_parallels_18 N x0 x1 Kr K t x2 x3 s → (∀ (z2 : Int32) (s : tM), K z2 s → xF G l kX0_parallels (d + 1) 0 0 (tQ G g wi Kr tNo) 82 [none, none, some (.int z2), none] [] (tH G g s)) → xF G l kX0_parallels (d + 1) 0 0 (tQ G g wi Kr tNo) 18 [some (rfv x0), some (.int x1), some (.int x2), some (.int x3)] [] (tH G g s) := by
  intro t
  induction t with
  | zero =>
    intro _ _ _ h _
    exact absurd h (by simp [v_X0_parallels_18])
  | succ t ih =>
    intro x2 x3 s h hK
    have hR := fun x2 x3 s h => ih x2 x3 s h hK
    unfold v_X0_parallels_18 at h
    refine x_iload_3 dX0_parallels_18 ?_
    refine t_aload_0 dX0_parallels_19 ?_
    obtain ⟨e103, h⟩ := h
    refine t_cVi (As := []) rfl cv_X0_142 rfl e103 rfl rfl (xrm4 (Nat.le_of_ble_eq_true rfl)) dX0_parallels_20 (e_X0_nNotes (by omega) h) ⟨Nat.zero_le _, Nat.zero_le _⟩ (fun _ _ _ h => h.elim) (fun x101 s102 h => ?_)
    refine x_icmp_ge 82 dX0_parallels_23 (by decide) (fun c104 => ?_) (fun c104 => ?_)
    · have h := h.1 c104
      exact x_le (xLe_none (xLe_none (xLe_cons (xLe_none (xLe_nil))))) (hK _ _ h)
    · have h := h.2 c104
      refine x_iload_2 dX0_parallels_26 ?_
      refine t_aload_0 dX0_parallels_27 ?_
      refine x_iload_3 dX0_parallels_28 ?_
      obtain ⟨e107, h⟩ := h
      refine t_cVi (As := [_]) rfl cv_X0_184 rfl e107 rfl rfl (xrm4 (Nat.le_of_ble_eq_true rfl)) dX0_parallels_29 (e_X0_apart (by omega) h) ⟨Nat.zero_le _, Nat.zero_le _⟩ (fun _ _ _ h => h.elim) (fun x105 s106 h => ?_)
      refine t_mabs ma_X0_275 (by omega) (xrm4 (Nat.le_of_ble_eq_true rfl)) dX0_parallels_32 ?_
      have h := h _ rfl
      refine x_bipush (v := 12) dX0_parallels_35 (by decide) ?_
      refine x_irem dX0_parallels_37 (by decide) ?_
      refine x_iload_1 dX0_parallels_38 ?_
      refine x_icmp_ne 73 dX0_parallels_39 (by decide) (fun c109 => ?_) (fun c109 => ?_)
      · have h := h.1 c109
        refine x_iconst (v := 0) dX0_parallels_73 (by decide) ?_
        refine x_ior dX0_parallels_74 ?_
        refine x_istore_2 dX0_parallels_75 (by decide) xN2_i ?_
        have h := h _ rfl
        refine x_iinc_3 (v := 1) dX0_parallels_76 (by decide) (by decide) xN2_i ?_
        have h := h _ rfl
        refine x_goto 18 dX0_parallels_79 (by decide) ?_
        exact x_le (xLe_cons (xLe_cons (xLe_cons (xLe_cons (xLe_nil))))) (hR _ _ _ h)
      · have h := h.2 c109
        refine t_aload_0 dX0_parallels_42 ?_
        refine x_iload_3 dX0_parallels_43 ?_
        refine x_iconst (v := 1) dX0_parallels_44 (by decide) ?_
        refine x_isub dX0_parallels_45 ?_
        obtain ⟨e114, h⟩ := h
        refine t_cVi (As := [_]) rfl cv_X0_184 rfl e114 rfl rfl (xrm4 (Nat.le_of_ble_eq_true rfl)) dX0_parallels_46 (e_X0_apart (by omega) h) ⟨Nat.zero_le _, Nat.zero_le _⟩ (fun _ _ _ h => h.elim) (fun x112 s113 h => ?_)
        refine t_mabs ma_X0_275 (by omega) (xrm4 (Nat.le_of_ble_eq_true rfl)) dX0_parallels_49 ?_
        have h := h _ rfl
        refine x_bipush (v := 12) dX0_parallels_52 (by decide) ?_
        refine x_irem dX0_parallels_54 (by decide) ?_
        refine x_iload_1 dX0_parallels_55 ?_
        refine x_icmp_ne 73 dX0_parallels_56 (by decide) (fun c116 => ?_) (fun c116 => ?_)
        · have h := h.1 c116
          refine x_iconst (v := 0) dX0_parallels_73 (by decide) ?_
          refine x_ior dX0_parallels_74 ?_
          refine x_istore_2 dX0_parallels_75 (by decide) xN2_i ?_
          have h := h _ rfl
          refine x_iinc_3 (v := 1) dX0_parallels_76 (by decide) (by decide) xN2_i ?_
          have h := h _ rfl
          refine x_goto 18 dX0_parallels_79 (by decide) ?_
          exact x_le (xLe_cons (xLe_cons (xLe_cons (xLe_cons (xLe_nil))))) (hR _ _ _ h)
        · have h := h.2 c116
          refine t_aload_0 dX0_parallels_59 ?_
          refine x_iload_3 dX0_parallels_60 ?_
          obtain ⟨e121, h⟩ := h
          refine t_cVi (As := [_]) rfl cv_X0_187 rfl e121 rfl rfl (xrm4 (Nat.le_of_ble_eq_true rfl)) dX0_parallels_61 (e_X0_leap (by omega) h) ⟨Nat.zero_le _, Nat.zero_le _⟩ (fun _ _ _ h => h.elim) (fun x119 s120 h => ?_)
          refine x_if_eq 73 dX0_parallels_64 (by decide) (fun c122 => ?_) (fun c122 => ?_)
          · have h := h.1 c122
            refine x_iconst (v := 0) dX0_parallels_73 (by decide) ?_
            refine x_ior dX0_parallels_74 ?_
            refine x_istore_2 dX0_parallels_75 (by decide) xN2_i ?_
            have h := h _ rfl
            refine x_iinc_3 (v := 1) dX0_parallels_76 (by decide) (by decide) xN2_i ?_
            have h := h _ rfl
            refine x_goto 18 dX0_parallels_79 (by decide) ?_
            exact x_le (xLe_cons (xLe_cons (xLe_cons (xLe_cons (xLe_nil))))) (hR _ _ _ h)
          · have h := h.2 c122
            refine x_iconst (v := 1) dX0_parallels_67 (by decide) ?_
            refine x_iload_3 dX0_parallels_68 ?_
            refine x_ishl dX0_parallels_69 ?_
            refine x_goto 74 dX0_parallels_70 (by decide) ?_
            refine x_ior dX0_parallels_74 ?_
            refine x_istore_2 dX0_parallels_75 (by decide) xN2_i ?_
            have h := h _ rfl
            refine x_iinc_3 (v := 1) dX0_parallels_76 (by decide) (by decide) xN2_i ?_
            have h := h _ rfl
            refine x_goto 18 dX0_parallels_79 (by decide) ?_
            exact x_le (xLe_cons (xLe_cons (xLe_cons (xLe_cons (xLe_nil))))) (hR _ _ _ h)
def v_X0_parallels (N : tP) (x0 : Nat) (x1 : Int32) (s : tM) (Kr : Int32 → tM → Prop) : Prop :=
  (v_X0_in ((x1 : Int32).toInt64) 0 11 s (fun x101 s102 => ((¬ x101 = 0 → (v_X0_parallels_18 N x0 x1 Kr (fun x104 s105 => (Kr x104 s105)) N.1 0 1 s102)) ∧ (x101 = 0 → (Kr (-1) s102)))))
theorem e_X0_parallels {G : xG} {l : Launch} {g : xH} {d : Nat} {N : tP} (hN : tNs G N) (hd : 6 ≤ d) {x0 : Nat} {x1 : Int32} {s : tM} {Kr : Int32 → tM → Prop} (h : v_X0_parallels N x0 x1 s Kr) : xC G l kX0_parallels d 0 0 [rfv x0, .int x1] (tH G g s) (tQ G g wi Kr tNo) := by
  obtain ⟨d, rfl⟩ : ∃ z, d = z + 1 := ⟨d - 1, by omega⟩
  refine t_start rfl (by decide +kernel) (by simp [xct_i, xct_l, rfv_c]) (lv := [some (rfv x0), some (.int x1), none, none]) (by simp [lv_args, xLv, rfv_c, xct_i, xct_l]) ?_
  unfold v_X0_parallels at h
  refine x_iload_1 dX0_parallels_0 ?_
  refine x_i2l dX0_parallels_1 ?_
  refine x_lconst (v := 0) dX0_parallels_2 (by decide) ?_
  refine x_ldc2 dX0_parallels_3 q1403 ?_
  refine t_cSi (As := [_, _, _]) rfl cs_X0_5 rfl rfl (xrm4 (Nat.le_of_ble_eq_true rfl)) dX0_parallels_6 (e_X0_in (by omega) h) ⟨Nat.zero_le _, Nat.zero_le _⟩ (fun _ _ _ h => h.elim) (fun x101 s102 h => ?_)
  refine x_if_ne 14 dX0_parallels_9 (by decide) (fun c103 => ?_) (fun c103 => ?_)
  · have h := h.1 c103
    refine x_iconst (v := 0) dX0_parallels_14 (by decide) ?_
    refine x_istore_2 dX0_parallels_15 (by decide) xN2_i ?_
    refine x_iconst (v := 1) dX0_parallels_16 (by decide) ?_
    refine x_istore_3 dX0_parallels_17 (by decide) xN2_i ?_
    refine x_le (xLe_cons (xLe_cons (xLe_cons (xLe_cons (xLe_nil))))) (e_X0_parallels_18 hN (by omega) _ _ _ _  _ _ _ _ h (fun x104 s105 h => ?_))
    refine x_iload_2 dX0_parallels_82 ?_
    exact x_iret dX0_parallels_83 rfl (Or.inl ⟨_, _, h, rfl, rfl⟩)
  · have h := h.2 c103
    refine x_iconst (v := (-1)) dX0_parallels_12 (by decide) ?_
    exact x_iret dX0_parallels_13 rfl (Or.inl ⟨_, _, h, rfl, rfl⟩)
def v_X0_pass (N : tP) (x0 : Nat) (s : tM) (Kr : Int32 → tM → Prop) : Prop :=
  (tO s 0 x0 ∧ (v_X0_passNow N x0 s (fun x101 s102 => (tO s102 0 x0 ∧ (v_X0_tell x0 x101 s102 (fun x104 s105 => (Kr x104 s105)))))))
theorem e_X0_pass {G : xG} {l : Launch} {g : xH} {d : Nat} {N : tP} (hN : tNs G N) (hd : 2 * N.2.1 + 24 ≤ d) {x0 : Nat} {s : tM} {Kr : Int32 → tM → Prop} (h : v_X0_pass N x0 s Kr) : xC G l kX0_pass d 0 0 [rfv x0] (tH G g s) (tQ G g wi Kr tNo) := by
  obtain ⟨d, rfl⟩ : ∃ z, d = z + 1 := ⟨d - 1, by omega⟩
  refine t_start rfl (by decide +kernel) (by simp [xct_i, xct_l, rfv_c]) (lv := [some (rfv x0)]) (by simp [lv_args, xLv, rfv_c, xct_i, xct_l]) ?_
  unfold v_X0_pass at h
  refine t_aload_0 dX0_pass_0 ?_
  refine t_aload_0 dX0_pass_1 ?_
  obtain ⟨e103, h⟩ := h
  refine t_cVi (As := []) rfl cv_X0_322 rfl e103 rfl rfl (xrm4 (Nat.le_of_ble_eq_true rfl)) dX0_pass_2 (e_X0_passNow hN (by omega) h) ⟨Nat.zero_le _, Nat.zero_le _⟩ (fun _ _ _ h => h.elim) (fun x101 s102 h => ?_)
  obtain ⟨e106, h⟩ := h
  refine t_cVi (As := [_]) rfl cv_X0_132 rfl e106 rfl rfl (xrm4 (Nat.le_of_ble_eq_true rfl)) dX0_pass_5 (e_X0_tell (by omega) h) ⟨Nat.zero_le _, Nat.zero_le _⟩ (fun _ _ _ h => h.elim) (fun x104 s105 h => ?_)
  exact x_iret dX0_pass_8 rfl (Or.inl ⟨_, _, h, rfl, rfl⟩)
def v_X0_richest (N : tP) (x0 : Nat) (s : tM) (Kr : Int32 → tM → Prop) : Prop :=
  (tO s 0 x0 ∧ (v_X0_layAll N x0 s (fun s102 => (tO s102 0 x0 ∧ (v_X0_isThere x0 s102 (fun x104 s105 => ((x104 = 0 → (Kr (-1) s105)) ∧ (¬ x104 = 0 → (tO s105 0 x0 ∧ (tX s105 11 (tR s105 x0 20) 0 ∧ (tX s105 0 (tR s105 (tR s105 x0 20) 0) 0 ∧ (Kr (tI s105 (tR s105 (tR s105 x0 20) 0) 0) s105))))))))))))
theorem e_X0_richest {G : xG} {l : Launch} {g : xH} {d : Nat} {N : tP} (hN : tNs G N) (hd : 2 * N.2.1 + 24 ≤ d) {x0 : Nat} {s : tM} {Kr : Int32 → tM → Prop} (h : v_X0_richest N x0 s Kr) : xC G l kX0_richest d 0 0 [rfv x0] (tH G g s) (tQ G g wi Kr tNo) := by
  obtain ⟨d, rfl⟩ : ∃ z, d = z + 1 := ⟨d - 1, by omega⟩
  refine t_start rfl (by decide +kernel) (by simp [xct_i, xct_l, rfv_c]) (lv := [some (rfv x0)]) (by simp [lv_args, xLv, rfv_c, xct_i, xct_l]) ?_
  unfold v_X0_richest at h
  refine t_aload_0 dX0_richest_0 ?_
  obtain ⟨e103, h⟩ := h
  refine t_cVv (As := []) rfl cv_X0_359 rfl e103 rfl rfl (xrm4 (Nat.le_of_ble_eq_true rfl)) dX0_richest_1 (e_X0_layAll hN (by omega) h) ⟨Nat.zero_le _, Nat.zero_le _⟩ (fun _ _ _ h => h.elim) (fun _ s102 h => ?_)
  refine t_aload_0 dX0_richest_4 ?_
  obtain ⟨e106, h⟩ := h
  refine t_cVi (As := []) rfl cv_X0_362 rfl e106 rfl rfl (xrm4 (Nat.le_of_ble_eq_true rfl)) dX0_richest_5 (e_X0_isThere (by omega) h) ⟨Nat.zero_le _, Nat.zero_le _⟩ (fun _ _ _ h => h.elim) (fun x104 s105 h => ?_)
  refine x_if_eq 22 dX0_richest_8 (by decide) (fun c107 => ?_) (fun c107 => ?_)
  · have h := h.1 c107
    refine x_iconst (v := (-1)) dX0_richest_22 (by decide) ?_
    exact x_iret dX0_richest_23 rfl (Or.inl ⟨_, _, h, rfl, rfl⟩)
  · have h := h.2 c107
    refine t_aload_0 dX0_richest_11 ?_
    obtain ⟨e108, h⟩ := h
    refine t_getR dX0_richest_12 fa_X0_100_0 (by decide) e108 ?_
    refine x_iconst (v := 0) dX0_richest_15 (by decide) ?_
    obtain ⟨e109, h⟩ := h
    refine t_aald (t := 11) dX0_richest_16 ⟨rfl, by decide, by decide⟩ rfl e109 ?_
    refine x_iconst (v := 0) dX0_richest_17 (by decide) ?_
    obtain ⟨e110, h⟩ := h
    refine t_iald dX0_richest_18 e110 ?_
    refine x_goto 23 dX0_richest_19 (by decide) ?_
    exact x_iret dX0_richest_23 rfl (Or.inl ⟨_, _, h, rfl, rfl⟩)
