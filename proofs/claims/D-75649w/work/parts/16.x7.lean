set_option maxRecDepth 100000
def v_X0_row_135 (N : tP) (x0 : Nat) (x1 : Nat) (x3 : Int32) (x4 : Int32) (y0 : Int32) (y1 : Int32) (Kr : Int32 → tM → Prop) (K : Int32 → Nat → Nat → tM → Prop) (R : Int32 → Int32 → Nat → Nat → tM → Prop) (k n : Nat) (s : tM) : Prop :=
  (∀ x101 : Int32, x101 = y0 + y1 → (tO s 0 x0 ∧ ((x4 = 0 → (∀ s104 : tM, s104 = tsI s x0 12 ((tI s x0 12) + 1) → (∀ x106 : Int32, x106 = x3 + 2 → (R x101 x106 k n s104)))) ∧ (¬ x4 = 0 → (∀ s107 : tM, s107 = tsI s x0 12 ((tI s x0 12) + 0) → (∀ x109 : Int32, x109 = x3 + 2 → (R x101 x109 k n s107)))))))
theorem e_X0_row_135 {G : xG} {l : Launch} {g : xH} {d : Nat} {N : tP} (hN : tNs G N) (hl : l.stackTraces = false) (hd : 201 ≤ d) (x0 : Nat) (x1 : Nat) (x3 : Int32) (x4 : Int32) (y0 : Int32) (y1 : Int32) (Kr : Int32 → tM → Prop) (K : Int32 → Nat → Nat → tM → Prop) (R : Int32 → Int32 → Nat → Nat → tM → Prop) (k n : Nat) (s : tM) (h : v_X0_row_135 N x0 x1 x3 x4 y0 y1 Kr K R k n s) (hK : ∀ (z2 : Int32) (k n : Nat) (s : tM), K z2 k n s → xF G l kX0_row (d + 1) k n (tQ G g wi Kr tNo) 202 [some (rfv x0), none, some (.int z2), none, none, none, none] [] (tH G g s)) (hR : ∀ (z2 : Int32) (z3 : Int32) (k n : Nat) (s : tM), R z2 z3 k n s → xF G l kX0_row (d + 1) k n (tQ G g wi Kr tNo) 49 [some (rfv x0), some (rfv x1), some (.int z2), some (.int z3), none, none, none] [] (tH G g s)) : xF G l kX0_row (d + 1) k n (tQ G g wi Kr tNo) 135 [some (rfv x0), some (rfv x1), none, some (.int x3), some (.int x4), none, none] [.int y1, .int y0] (tH G g s) := by
  unfold v_X0_row_135 at h
  refine x_iadd dX0_row_135 ?_
  refine x_istore_2 dX0_row_136 (by decide) xN2_f ?_
  have h := h _ rfl
  refine t_aload_0 dX0_row_137 ?_
  refine x_dup dX0_row_138 (rfv_c _) ?_
  obtain ⟨e102, h⟩ := h
  refine t_getI dX0_row_139 fa_X0_218_0 (by decide) e102 ?_
  refine x_iload_4 dX0_row_142 ?_
  refine x_if_eq 151 dX0_row_144 (by decide) (fun c103 => ?_) (fun c103 => ?_)
  · have h := h.1 c103
    refine x_iconst (v := 1) dX0_row_151 (by decide) ?_
    refine x_iadd dX0_row_152 ?_
    refine t_putI (j := 12) dX0_row_153 fp_X0_218_0 (by decide) e102 rfl rfl ?_
    refine t_gen h (fun s104 w105 h => ?_)
    refine x_goto 196 dX0_row_156 (by decide) ?_
    refine x_iinc_3 (v := 2) dX0_row_196 (by decide) (by decide) xN2_i ?_
    have h := h _ rfl
    refine x_goto 49 dX0_row_199 (by decide) ?_
    exact x_le (xLe_cons (xLe_cons (xLe_cons (xLe_cons (xLe_none (xLe_cons (xLe_cons (xLe_nil)))))))) (hR _ _ _ _ _ h)
  · have h := h.2 c103
    refine x_iconst (v := 0) dX0_row_147 (by decide) ?_
    refine x_goto 152 dX0_row_148 (by decide) ?_
    refine x_iadd dX0_row_152 ?_
    refine t_putI (j := 12) dX0_row_153 fp_X0_218_0 (by decide) e102 rfl rfl ?_
    refine t_gen h (fun s107 w108 h => ?_)
    refine x_goto 196 dX0_row_156 (by decide) ?_
    refine x_iinc_3 (v := 2) dX0_row_196 (by decide) (by decide) xN2_i ?_
    have h := h _ rfl
    refine x_goto 49 dX0_row_199 (by decide) ?_
    exact x_le (xLe_cons (xLe_cons (xLe_cons (xLe_cons (xLe_none (xLe_cons (xLe_cons (xLe_nil)))))))) (hR _ _ _ _ _ h)
def v_X0_row_95 (N : tP) (x0 : Nat) (x1 : Nat) (x3 : Int32) (x4 : Int32) (y0 : Int32) (y1 : Int32) (Kr : Int32 → tM → Prop) (K : Int32 → Nat → Nat → tM → Prop) (R : Int32 → Int32 → Nat → Nat → tM → Prop) (k n : Nat) (s : tM) : Prop :=
  (∀ x101 : Int32, x101 = y0 + y1 → (tO s 0 x0 ∧ ((x4 = 0 → (∀ s104 : tM, s104 = tsI s x0 12 ((tI s x0 12) + 1) → (∀ x106 : Int32, x106 = x3 + 2 → (R x101 x106 k n s104)))) ∧ (¬ x4 = 0 → (∀ s107 : tM, s107 = tsI s x0 12 ((tI s x0 12) + 0) → (∀ x109 : Int32, x109 = x3 + 2 → (R x101 x109 k n s107)))))))
theorem e_X0_row_95 {G : xG} {l : Launch} {g : xH} {d : Nat} {N : tP} (hN : tNs G N) (hl : l.stackTraces = false) (hd : 201 ≤ d) (x0 : Nat) (x1 : Nat) (x3 : Int32) (x4 : Int32) (y0 : Int32) (y1 : Int32) (Kr : Int32 → tM → Prop) (K : Int32 → Nat → Nat → tM → Prop) (R : Int32 → Int32 → Nat → Nat → tM → Prop) (k n : Nat) (s : tM) (h : v_X0_row_95 N x0 x1 x3 x4 y0 y1 Kr K R k n s) (hK : ∀ (z2 : Int32) (k n : Nat) (s : tM), K z2 k n s → xF G l kX0_row (d + 1) k n (tQ G g wi Kr tNo) 202 [some (rfv x0), none, some (.int z2), none, none, none, none] [] (tH G g s)) (hR : ∀ (z2 : Int32) (z3 : Int32) (k n : Nat) (s : tM), R z2 z3 k n s → xF G l kX0_row (d + 1) k n (tQ G g wi Kr tNo) 49 [some (rfv x0), some (rfv x1), some (.int z2), some (.int z3), none, none, none] [] (tH G g s)) : xF G l kX0_row (d + 1) k n (tQ G g wi Kr tNo) 95 [some (rfv x0), some (rfv x1), none, some (.int x3), some (.int x4), none, none] [.int y1, .int y0] (tH G g s) := by
  unfold v_X0_row_95 at h
  refine x_iadd dX0_row_95 ?_
  refine x_istore_2 dX0_row_96 (by decide) xN2_f ?_
  have h := h _ rfl
  refine t_aload_0 dX0_row_97 ?_
  refine x_dup dX0_row_98 (rfv_c _) ?_
  obtain ⟨e102, h⟩ := h
  refine t_getI dX0_row_99 fa_X0_218_0 (by decide) e102 ?_
  refine x_iload_4 dX0_row_102 ?_
  refine x_if_eq 111 dX0_row_104 (by decide) (fun c103 => ?_) (fun c103 => ?_)
  · have h := h.1 c103
    refine x_iconst (v := 1) dX0_row_111 (by decide) ?_
    refine x_iadd dX0_row_112 ?_
    refine t_putI (j := 12) dX0_row_113 fp_X0_218_0 (by decide) e102 rfl rfl ?_
    refine t_gen h (fun s104 w105 h => ?_)
    refine x_goto 196 dX0_row_116 (by decide) ?_
    refine x_iinc_3 (v := 2) dX0_row_196 (by decide) (by decide) xN2_i ?_
    have h := h _ rfl
    refine x_goto 49 dX0_row_199 (by decide) ?_
    exact x_le (xLe_cons (xLe_cons (xLe_cons (xLe_cons (xLe_none (xLe_cons (xLe_cons (xLe_nil)))))))) (hR _ _ _ _ _ h)
  · have h := h.2 c103
    refine x_iconst (v := 0) dX0_row_107 (by decide) ?_
    refine x_goto 112 dX0_row_108 (by decide) ?_
    refine x_iadd dX0_row_112 ?_
    refine t_putI (j := 12) dX0_row_113 fp_X0_218_0 (by decide) e102 rfl rfl ?_
    refine t_gen h (fun s107 w108 h => ?_)
    refine x_goto 196 dX0_row_116 (by decide) ?_
    refine x_iinc_3 (v := 2) dX0_row_196 (by decide) (by decide) xN2_i ?_
    have h := h _ rfl
    refine x_goto 49 dX0_row_199 (by decide) ?_
    exact x_le (xLe_cons (xLe_cons (xLe_cons (xLe_cons (xLe_none (xLe_cons (xLe_cons (xLe_nil)))))))) (hR _ _ _ _ _ h)
def v_X0_row_82 (N : tP) (x0 : Nat) (x1 : Nat) (x2 : Int32) (x3 : Int32) (y0 : Int32) (Kr : Int32 → tM → Prop) (K : Int32 → Nat → Nat → tM → Prop) (R : Int32 → Int32 → Nat → Nat → tM → Prop) (k n : Nat) (s : tM) : Prop :=
  ((y0 = 0 → (v_X0_row_95 N x0 x1 x3 y0 x2 0 Kr K R k n s)) ∧ (¬ y0 = 0 → (v_X0_row_95 N x0 x1 x3 y0 x2 1 Kr K R k n s)))
theorem e_X0_row_82 {G : xG} {l : Launch} {g : xH} {d : Nat} {N : tP} (hN : tNs G N) (hl : l.stackTraces = false) (hd : 201 ≤ d) (x0 : Nat) (x1 : Nat) (x2 : Int32) (x3 : Int32) (y0 : Int32) (Kr : Int32 → tM → Prop) (K : Int32 → Nat → Nat → tM → Prop) (R : Int32 → Int32 → Nat → Nat → tM → Prop) (k n : Nat) (s : tM) (h : v_X0_row_82 N x0 x1 x2 x3 y0 Kr K R k n s) (hK : ∀ (z2 : Int32) (k n : Nat) (s : tM), K z2 k n s → xF G l kX0_row (d + 1) k n (tQ G g wi Kr tNo) 202 [some (rfv x0), none, some (.int z2), none, none, none, none] [] (tH G g s)) (hR : ∀ (z2 : Int32) (z3 : Int32) (k n : Nat) (s : tM), R z2 z3 k n s → xF G l kX0_row (d + 1) k n (tQ G g wi Kr tNo) 49 [some (rfv x0), some (rfv x1), some (.int z2), some (.int z3), none, none, none] [] (tH G g s)) : xF G l kX0_row (d + 1) k n (tQ G g wi Kr tNo) 82 [some (rfv x0), some (rfv x1), some (.int x2), some (.int x3), none, none, none] [.int y0] (tH G g s) := by
  unfold v_X0_row_82 at h
  refine x_istore_4 dX0_row_82 (by decide) xN2_i ?_
  refine x_iload_2 dX0_row_84 ?_
  refine x_iload_4 dX0_row_85 ?_
  refine x_if_eq 94 dX0_row_87 (by decide) (fun c101 => ?_) (fun c101 => ?_)
  · have h := h.1 c101
    refine x_iconst (v := 0) dX0_row_94 (by decide) ?_
    exact x_le (xLe_cons (xLe_cons (xLe_none (xLe_cons (xLe_cons (xLe_cons (xLe_cons (xLe_nil)))))))) (e_X0_row_95 hN hl (by omega) _ _ _ _ _ _ _ _ _ _ _ _ h hK hR)
  · have h := h.2 c101
    refine x_iconst (v := 1) dX0_row_90 (by decide) ?_
    refine x_goto 95 dX0_row_91 (by decide) ?_
    exact x_le (xLe_cons (xLe_cons (xLe_none (xLe_cons (xLe_cons (xLe_cons (xLe_cons (xLe_nil)))))))) (e_X0_row_95 hN hl (by omega) _ _ _ _ _ _ _ _ _ _ _ _ h hK hR)
def v_X0_row_49 (N : tP) (x0 : Nat) (x1 : Nat) (Kr : Int32 → tM → Prop) (K : Int32 → Nat → Nat → tM → Prop) : Nat → Int32 → Int32 → Nat → Nat → tM → Prop
  | 0, _, _, _, _, _ => False
  | t + 1, x2, x3, k, n, s => ((∃ N, tA s 2 N x1) ∧ (((Int32.ofNat (tLen s x1)) ≤ x3 → (K x2 k n s)) ∧ (¬ (Int32.ofNat (tLen s x1)) ≤ x3 → (∃ c105 c106 : Nat, c105 ≤ k ∧ c106 ≤ n ∧ (v_X0_byteAtX x1 x3 c105 c106 s (fun x103 s104 => (∃ c111 c112 : Nat, c111 ≤ k - c105 ∧ c112 ≤ n - c106 ∧ (v_X0_byteAtX x1 (x3 + 1) c111 c112 s104 (fun x109 s110 => (tO s110 0 x0 ∧ (v_X0_come x0 x103 x109 s110 (fun x115 s116 => ((x115 < 0 → (v_X0_row_82 N x0 x1 x2 x3 0 Kr K (fun x2 x3 k n s => v_X0_row_49 N x0 x1 Kr K t x2 x3 k n s) ((k - c105) - c111) ((n - c106) - c112) s116)) ∧ (¬ x115 < 0 → (v_X0_row_82 N x0 x1 x2 x3 1 Kr K (fun x2 x3 k n s => v_X0_row_49 N x0 x1 Kr K t x2 x3 k n s) ((k - c105) - c111) ((n - c106) - c112) s116))))))) (fun E q119 s120 => E = "java/lang/ArrayIndexOutOfBoundsException" ∧ (((0 : Int32) = 0 → (v_X0_row_135 N x0 x1 x3 0 x2 0 Kr K (fun x2 x3 k n s => v_X0_row_49 N x0 x1 Kr K t x2 x3 k n s) ((k - c105) - c111) ((n - c106) - c112) s120)) ∧ (¬ (0 : Int32) = 0 → (v_X0_row_135 N x0 x1 x3 0 x2 1 Kr K (fun x2 x3 k n s => v_X0_row_49 N x0 x1 Kr K t x2 x3 k n s) ((k - c105) - c111) ((n - c106) - c112) s120))))))) (fun E q122 s123 => E = "java/lang/ArrayIndexOutOfBoundsException" ∧ (((0 : Int32) = 0 → (v_X0_row_135 N x0 x1 x3 0 x2 0 Kr K (fun x2 x3 k n s => v_X0_row_49 N x0 x1 Kr K t x2 x3 k n s) (k - c105) (n - c106) s123)) ∧ (¬ (0 : Int32) = 0 → (v_X0_row_135 N x0 x1 x3 0 x2 1 Kr K (fun x2 x3 k n s => v_X0_row_49 N x0 x1 Kr K t x2 x3 k n s) (k - c105) (n - c106) s123)))))))))
theorem e_X0_row_49 {G : xG} {l : Launch} {g : xH} {d : Nat} {N : tP} (hN : tNs G N) (hl : l.stackTraces = false) (hd : 201 ≤ d) (x0 : Nat) (x1 : Nat) (Kr : Int32 → tM → Prop) (K : Int32 → Nat → Nat → tM → Prop) : ∀ (t : Nat) (x2 : Int32) (x3 : Int32) (k n : Nat) (s : tM) , v_X0_row_49 N x0 x1 Kr K t x2 x3 k n s → (∀ (z2 : Int32) (k n : Nat) (s : tM), K z2 k n s → xF G l kX0_row (d + 1) k n (tQ G g wi Kr tNo) 202 [some (rfv x0), none, some (.int z2), none, none, none, none] [] (tH G g s)) → xF G l kX0_row (d + 1) k n (tQ G g wi Kr tNo) 49 [some (rfv x0), some (rfv x1), some (.int x2), some (.int x3), none, none, none] [] (tH G g s) := by
  intro t
  induction t with
  | zero =>
    intro _ _ _ _ _ h _
    exact absurd h (by simp [v_X0_row_49])
  | succ t ih =>
    intro x2 x3 k n s h hK
    have hR := fun x2 x3 k n s h => ih x2 x3 k n s h hK
    unfold v_X0_row_49 at h
    refine x_iload_3 dX0_row_49 ?_
    refine t_aload_1 dX0_row_50 ?_
    obtain ⟨e101, h⟩ := h
    refine t_alen (t := 2) dX0_row_51 ⟨rfl, by decide⟩ e101 ?_
    refine x_icmp_ge 202 dX0_row_52 (by decide) (fun c102 => ?_) (fun c102 => ?_)
    · have h := h.1 c102
      exact x_le (xLe_cons (xLe_none (xLe_cons (xLe_none (xLe_cons (xLe_cons (xLe_cons (xLe_nil)))))))) (hK _ _ _ _ h)
    · have h := h.2 c102
      refine x_iconst (v := 0) dX0_row_55 (by decide) ?_
      refine x_istore_4 dX0_row_56 (by decide) xN2_i ?_
      refine t_aload_0 dX0_row_58 ?_
      refine t_aload_1 dX0_row_59 ?_
      refine x_iload_3 dX0_row_60 ?_
      obtain ⟨c105, c106, e107, e108, h⟩ := h
      refine t_cSiH (As := [_, _]) cs_X0_221 rfl rfl (xrm4 (Nat.le_of_ble_eq_true rfl)) dX0_row_61 (e_X0_byteAtX hl (by omega) h) ⟨e107, e108⟩ (fun E q s123 h => ?_) (fun x103 s104 h => ?_)
      · obtain ⟨rfl, h⟩ := h
        refine ⟨119, ⟨58, 84, 225, _, rfl, by decide, by decide, by decide, q625, xnw_of q675 rfl⟩, ?_⟩
        refine t_astore_5 dX0_row_119 (by decide) xN2_i ?_
        refine x_iconst (v := 0) dX0_row_121 (by decide) ?_
        refine x_istore_4 dX0_row_122 (by decide) xN2_i ?_
        refine x_iload_2 dX0_row_124 ?_
        refine x_iload_4 dX0_row_125 ?_
        refine x_if_eq 134 dX0_row_127 (by decide) (fun c124 => ?_) (fun c124 => ?_)
        · have h := h.1 c124
          refine x_iconst (v := 0) dX0_row_134 (by decide) ?_
          exact x_le (xLe_cons (xLe_cons (xLe_none (xLe_cons (xLe_cons (xLe_none (xLe_cons (xLe_nil)))))))) (e_X0_row_135 hN hl (by omega) _ _ _ _ _ _ _ _ _ _ _ _ h hK hR)
        · have h := h.2 c124
          refine x_iconst (v := 1) dX0_row_130 (by decide) ?_
          refine x_goto 135 dX0_row_131 (by decide) ?_
          exact x_le (xLe_cons (xLe_cons (xLe_none (xLe_cons (xLe_cons (xLe_none (xLe_cons (xLe_nil)))))))) (e_X0_row_135 hN hl (by omega) _ _ _ _ _ _ _ _ _ _ _ _ h hK hR)
      · skip
        refine t_aload_1 dX0_row_64 ?_
        refine x_iload_3 dX0_row_65 ?_
        refine x_iconst (v := 1) dX0_row_66 (by decide) ?_
        refine x_iadd dX0_row_67 ?_
        obtain ⟨c111, c112, e113, e114, h⟩ := h
        refine t_cSiH (As := [_, _]) cs_X0_221 rfl rfl (xrm4 (Nat.le_of_ble_eq_true rfl)) dX0_row_68 (e_X0_byteAtX hl (by omega) h) ⟨e113, e114⟩ (fun E q s120 h => ?_) (fun x109 s110 h => ?_)
        · obtain ⟨rfl, h⟩ := h
          refine ⟨119, ⟨58, 84, 225, _, rfl, by decide, by decide, by decide, q625, xnw_of q675 rfl⟩, ?_⟩
          refine t_astore_5 dX0_row_119 (by decide) xN2_i ?_
          refine x_iconst (v := 0) dX0_row_121 (by decide) ?_
          refine x_istore_4 dX0_row_122 (by decide) xN2_i ?_
          refine x_iload_2 dX0_row_124 ?_
          refine x_iload_4 dX0_row_125 ?_
          refine x_if_eq 134 dX0_row_127 (by decide) (fun c121 => ?_) (fun c121 => ?_)
          · have h := h.1 c121
            refine x_iconst (v := 0) dX0_row_134 (by decide) ?_
            exact x_le (xLe_cons (xLe_cons (xLe_none (xLe_cons (xLe_cons (xLe_none (xLe_cons (xLe_nil)))))))) (e_X0_row_135 hN hl (by omega) _ _ _ _ _ _ _ _ _ _ _ _ h hK hR)
          · have h := h.2 c121
            refine x_iconst (v := 1) dX0_row_130 (by decide) ?_
            refine x_goto 135 dX0_row_131 (by decide) ?_
            exact x_le (xLe_cons (xLe_cons (xLe_none (xLe_cons (xLe_cons (xLe_none (xLe_cons (xLe_nil)))))))) (e_X0_row_135 hN hl (by omega) _ _ _ _ _ _ _ _ _ _ _ _ h hK hR)
        · skip
          obtain ⟨e117, h⟩ := h
          refine t_cViH (As := [_, _]) cv_X0_166 rfl e117 rfl rfl (xrm4 (Nat.le_of_ble_eq_true rfl)) dX0_row_71 (e_X0_come (by omega) h) ⟨Nat.zero_le _, Nat.zero_le _⟩ (fun _ _ _ h => h.elim) (fun x115 s116 h => ?_)
          refine x_if_lt 81 dX0_row_74 (by decide) (fun c118 => ?_) (fun c118 => ?_)
          · have h := h.1 c118
            refine x_iconst (v := 0) dX0_row_81 (by decide) ?_
            exact x_le (xLe_cons (xLe_cons (xLe_cons (xLe_cons (xLe_none (xLe_cons (xLe_cons (xLe_nil)))))))) (e_X0_row_82 hN hl (by omega) _ _ _ _ _ _ _ _ _ _ _ h hK hR)
          · have h := h.2 c118
            refine x_iconst (v := 1) dX0_row_77 (by decide) ?_
            refine x_goto 82 dX0_row_78 (by decide) ?_
            exact x_le (xLe_cons (xLe_cons (xLe_cons (xLe_cons (xLe_none (xLe_cons (xLe_cons (xLe_nil)))))))) (e_X0_row_82 hN hl (by omega) _ _ _ _ _ _ _ _ _ _ _ h hK hR)
def v_X0_row (N : tP) (x0 : Nat) (k n : Nat) (s : tM) (Kr : Int32 → tM → Prop) : Prop :=
  (tO s 0 x0 ∧ ((¬ (tI s x0 15) = 0 → (∀ x103 : Int32, x103 = tI s x0 15 → (¬ x103 < 0 ∧ (x103.toNatClampNeg * 1 ≤ 536870912 ∧ (1 ≤ k ∧ (x103.toNatClampNeg ≤ n ∧ (∀ q108 : Nat, s.1 q108 = none → ¬ q108 = 0 → ¬ q108 = N.2.2 200 → (∀ s109 : tM, s109 = tNew s q108 (.inr (2, x103.toNatClampNeg)) → (tO s109 0 x0 ∧ (tCpOk s109 2 (tR s109 x0 14) q108 0 0 (tI s109 x0 15) ∧ ((∀ i : Nat, i < ((tI s109 x0 15)).toNatClampNeg → fits .byte (.int (tI s109 (tR s109 x0 14) (0 + i))) = true) ∧ (∀ s114 : tM, s114 = tCpI s109 (tR s109 x0 14) q108 0 0 ((tI s109 x0 15)).toNatClampNeg → (∀ s116 : tM, s116 = tsI s114 x0 15 0 → (∀ s118 : tM, s118 = tsI s116 x0 12 0 → (v_X0_row_49 N x0 q108 Kr (fun x120 k122 n123 s121 => (tO s121 0 x0 ∧ (v_X0_settled x0 x120 s121 (fun x124 s125 => (Kr x124 s125))))) N.1 0 0 (k - 1) (n - x103.toNatClampNeg) s118))))))))))))))) ∧ ((tI s x0 15) = 0 → (v_X0_tell x0 (-6) s (fun x127 s128 => (Kr x127 s128))))))
theorem e_X0_row {G : xG} {l : Launch} {g : xH} {d : Nat} {N : tP} (hN : tNs G N) (hl : l.stackTraces = false) (hd : 202 ≤ d) {x0 : Nat} {k n : Nat} {s : tM} {Kr : Int32 → tM → Prop} (h : v_X0_row N x0 k n s Kr) : xC G l kX0_row d k n [rfv x0] (tH G g s) (tQ G g wi Kr tNo) := by
  obtain ⟨d, rfl⟩ : ∃ z, d = z + 1 := ⟨d - 1, by omega⟩
  refine xC.startH (by decide) (by decide +kernel) (by simp [xct_i, xct_l, rfv_c]) (lv := [some (rfv x0), none, none, none, none, none, none]) (by simp [lv_args, xLv, rfv_c, xct_i, xct_l]) ?_
  unfold v_X0_row at h
  refine t_aload_0 dX0_row_0 ?_
  obtain ⟨e101, h⟩ := h
  refine t_getI dX0_row_1 fa_X0_146_0 (by decide) e101 ?_
  refine x_if_ne 14 dX0_row_4 (by decide) (fun c102 => ?_) (fun c102 => ?_)
  · have h := h.1 c102
    refine t_aload_0 dX0_row_14 ?_
    refine t_getI dX0_row_15 fa_X0_146_0 (by decide) e101 ?_
    have h := h _ rfl
    obtain ⟨e104, h⟩ := h
    obtain ⟨e105, h⟩ := h
    obtain ⟨e106, h⟩ := h
    obtain ⟨e107, h⟩ := h
    refine t_newarr (t := 2) (N := _) dX0_row_18 rfl rfl q424 (by decide) rfl (fun _ _ h => h) e104 rfl e105 e106 e107 (fun q h1 h2 h3 => ?_)
    have h := h q h1 h2 (fun e => h3 (e.trans (hN 200)))
    refine t_gen h (fun s109 w110 h => ?_)
    refine t_astore_1 dX0_row_20 (by decide) xN2_f ?_
    refine t_aload_0 dX0_row_21 ?_
    obtain ⟨e111, h⟩ := h
    refine t_getR dX0_row_22 fa_X0_78_0 (by decide) e111 ?_
    refine x_iconst (v := 0) dX0_row_25 (by decide) ?_
    refine t_aload_1 dX0_row_26 ?_
    refine x_iconst (v := 0) dX0_row_27 (by decide) ?_
    refine t_aload_0 dX0_row_28 ?_
    refine t_getI dX0_row_29 fa_X0_146_0 (by decide) e111 ?_
    obtain ⟨e112, h⟩ := h
    obtain ⟨e113, h⟩ := h
    refine t_copyI (t := 2) dX0_row_32 na_X0_212 rfl (by decide) rfl e112 e113 (by omega) (by decide) ?_
    refine t_gen h (fun s114 w115 h => ?_)
    refine t_aload_0 dX0_row_35 ?_
    refine x_iconst (v := 0) dX0_row_36 (by decide) ?_
    refine t_putI (j := 15) dX0_row_37 fp_X0_146_0 (by decide) (tO_w w115 e111) rfl rfl ?_
    refine t_gen h (fun s116 w117 h => ?_)
    refine t_aload_0 dX0_row_40 ?_
    refine x_iconst (v := 0) dX0_row_41 (by decide) ?_
    refine t_putI (j := 12) dX0_row_42 fp_X0_218_0 (by decide) (tO_w w117 (tO_w w115 e111)) rfl rfl ?_
    refine t_gen h (fun s118 w119 h => ?_)
    refine x_iconst (v := 0) dX0_row_45 (by decide) ?_
    refine x_istore_2 dX0_row_46 (by decide) xN2_f ?_
    refine x_iconst (v := 0) dX0_row_47 (by decide) ?_
    refine x_istore_3 dX0_row_48 (by decide) xN2_i ?_
    refine x_le (xLe_cons (xLe_cons (xLe_cons (xLe_cons (xLe_cons (xLe_cons (xLe_cons (xLe_nil)))))))) (e_X0_row_49 hN hl (by omega) _ _ _ _  _ _ _ _ _ _ h (fun x120 k122 n123 s121 h => ?_))
    refine t_aload_0 dX0_row_202 ?_
    refine x_iload_2 dX0_row_203 ?_
    obtain ⟨e126, h⟩ := h
    refine t_cViH (As := [_]) cv_X0_169 rfl e126 rfl rfl (xrm4 (Nat.le_of_ble_eq_true rfl)) dX0_row_204 (e_X0_settled (by omega) h) ⟨Nat.zero_le _, Nat.zero_le _⟩ (fun _ _ _ h => h.elim) (fun x124 s125 h => ?_)
    exact x_iret dX0_row_207 rfl (Or.inl ⟨_, _, h, rfl, rfl⟩)
  · have h := h.2 c102
    refine t_aload_0 dX0_row_7 ?_
    refine x_bipush (v := (-6)) dX0_row_8 (by decide) ?_
    refine t_cViH (As := [_]) cv_X0_132 rfl e101 rfl rfl (xrm4 (Nat.le_of_ble_eq_true rfl)) dX0_row_10 (e_X0_tell (by omega) h) ⟨Nat.zero_le _, Nat.zero_le _⟩ (fun _ _ _ h => h.elim) (fun x127 s128 h => ?_)
    exact x_iret dX0_row_13 rfl (Or.inl ⟨_, _, h, rfl, rfl⟩)
def v_X0_set (x0 : Nat) (x1 : Int32) (x2 : Int32) (s : tM) (Kr : Int32 → tM → Prop) : Prop :=
  (tO s 0 x0 ∧ (v_X0_setNow x0 x1 x2 s (fun x101 s102 => (tO s102 0 x0 ∧ (v_X0_tell x0 x101 s102 (fun x104 s105 => (Kr x104 s105)))))))
theorem e_X0_set {G : xG} {l : Launch} {g : xH} {d : Nat} (hd : 8 ≤ d) {x0 : Nat} {x1 : Int32} {x2 : Int32} {s : tM} {Kr : Int32 → tM → Prop} (h : v_X0_set x0 x1 x2 s Kr) : xC G l kX0_set d 0 0 [rfv x0, .int x1, .int x2] (tH G g s) (tQ G g wi Kr tNo) := by
  obtain ⟨d, rfl⟩ : ∃ z, d = z + 1 := ⟨d - 1, by omega⟩
  refine t_start rfl (by decide +kernel) (by simp [xct_i, xct_l, rfv_c]) (lv := [some (rfv x0), some (.int x1), some (.int x2)]) (by simp [lv_args, xLv, rfv_c, xct_i, xct_l]) ?_
  unfold v_X0_set at h
  refine t_aload_0 dX0_set_0 ?_
  refine t_aload_0 dX0_set_1 ?_
  refine x_iload_1 dX0_set_2 ?_
  refine x_iload_2 dX0_set_3 ?_
  obtain ⟨e103, h⟩ := h
  refine t_cVi (As := [_, _]) rfl cv_X0_310 rfl e103 rfl rfl (xrm4 (Nat.le_of_ble_eq_true rfl)) dX0_set_4 (e_X0_setNow (by omega) h) ⟨Nat.zero_le _, Nat.zero_le _⟩ (fun _ _ _ h => h.elim) (fun x101 s102 h => ?_)
  obtain ⟨e106, h⟩ := h
  refine t_cVi (As := [_]) rfl cv_X0_132 rfl e106 rfl rfl (xrm4 (Nat.le_of_ble_eq_true rfl)) dX0_set_7 (e_X0_tell (by omega) h) ⟨Nat.zero_le _, Nat.zero_le _⟩ (fun _ _ _ h => h.elim) (fun x104 s105 h => ?_)
  exact x_iret dX0_set_10 rfl (Or.inl ⟨_, _, h, rfl, rfl⟩)
def v_X0_shift (x0 : Nat) (x1 : Int32) (x2 : Int32) (s : tM) (Kr : Int32 → tM → Prop) : Prop :=
  (tO s 0 x0 ∧ (v_X0_shiftNow x0 x1 x2 s (fun x101 s102 => (tO s102 0 x0 ∧ (v_X0_tell x0 x101 s102 (fun x104 s105 => (Kr x104 s105)))))))
theorem e_X0_shift {G : xG} {l : Launch} {g : xH} {d : Nat} (hd : 8 ≤ d) {x0 : Nat} {x1 : Int32} {x2 : Int32} {s : tM} {Kr : Int32 → tM → Prop} (h : v_X0_shift x0 x1 x2 s Kr) : xC G l kX0_shift d 0 0 [rfv x0, .int x1, .int x2] (tH G g s) (tQ G g wi Kr tNo) := by
  obtain ⟨d, rfl⟩ : ∃ z, d = z + 1 := ⟨d - 1, by omega⟩
  refine t_start rfl (by decide +kernel) (by simp [xct_i, xct_l, rfv_c]) (lv := [some (rfv x0), some (.int x1), some (.int x2)]) (by simp [lv_args, xLv, rfv_c, xct_i, xct_l]) ?_
  unfold v_X0_shift at h
  refine t_aload_0 dX0_shift_0 ?_
  refine t_aload_0 dX0_shift_1 ?_
  refine x_iload_1 dX0_shift_2 ?_
  refine x_iload_2 dX0_shift_3 ?_
  obtain ⟨e103, h⟩ := h
  refine t_cVi (As := [_, _]) rfl cv_X0_313 rfl e103 rfl rfl (xrm4 (Nat.le_of_ble_eq_true rfl)) dX0_shift_4 (e_X0_shiftNow (by omega) h) ⟨Nat.zero_le _, Nat.zero_le _⟩ (fun _ _ _ h => h.elim) (fun x101 s102 h => ?_)
  obtain ⟨e106, h⟩ := h
  refine t_cVi (As := [_]) rfl cv_X0_132 rfl e106 rfl rfl (xrm4 (Nat.le_of_ble_eq_true rfl)) dX0_shift_7 (e_X0_tell (by omega) h) ⟨Nat.zero_le _, Nat.zero_le _⟩ (fun _ _ _ h => h.elim) (fun x104 s105 h => ?_)
  exact x_iret dX0_shift_10 rfl (Or.inl ⟨_, _, h, rfl, rfl⟩)
def v_X0_status (x0 : Nat) (s : tM) (Kr : Int32 → tM → Prop) : Prop :=
  (tO s 0 x0 ∧ (Kr (tI s x0 10) s))
theorem e_X0_status {G : xG} {l : Launch} {g : xH} {d : Nat} (hd : 2 ≤ d) {x0 : Nat} {s : tM} {Kr : Int32 → tM → Prop} (h : v_X0_status x0 s Kr) : xC G l kX0_status d 0 0 [rfv x0] (tH G g s) (tQ G g wi Kr tNo) := by
  obtain ⟨d, rfl⟩ : ∃ z, d = z + 1 := ⟨d - 1, by omega⟩
  refine t_start rfl (by decide +kernel) (by simp [xct_i, xct_l, rfv_c]) (lv := [some (rfv x0)]) (by simp [lv_args, xLv, rfv_c, xct_i, xct_l]) ?_
  unfold v_X0_status at h
  refine t_aload_0 dX0_status_0 ?_
  obtain ⟨e101, h⟩ := h
  refine t_getI dX0_status_1 fa_X0_126_0 (by decide) e101 ?_
  exact x_iret dX0_status_4 rfl (Or.inl ⟨_, _, h, rfl, rfl⟩)
def v_X0_stopped (x0 : Nat) (s : tM) (Kr : Int32 → tM → Prop) : Prop :=
  (tO s 0 x0 ∧ (Kr (tI s x0 13) s))
theorem e_X0_stopped {G : xG} {l : Launch} {g : xH} {d : Nat} (hd : 2 ≤ d) {x0 : Nat} {s : tM} {Kr : Int32 → tM → Prop} (h : v_X0_stopped x0 s Kr) : xC G l kX0_stopped d 0 0 [rfv x0] (tH G g s) (tQ G g wi Kr tNo) := by
  obtain ⟨d, rfl⟩ : ∃ z, d = z + 1 := ⟨d - 1, by omega⟩
  refine t_start rfl (by decide +kernel) (by simp [xct_i, xct_l, rfv_c]) (lv := [some (rfv x0)]) (by simp [lv_args, xLv, rfv_c, xct_i, xct_l]) ?_
  unfold v_X0_stopped at h
  refine t_aload_0 dX0_stopped_0 ?_
  obtain ⟨e101, h⟩ := h
  refine t_getI dX0_stopped_1 fa_X0_75_0 (by decide) e101 ?_
  exact x_iret dX0_stopped_4 rfl (Or.inl ⟨_, _, h, rfl, rfl⟩)
def v_X0_swap (N : tP) (x0 : Nat) (s : tM) (Kr : Int32 → tM → Prop) : Prop :=
  (tO s 0 x0 ∧ (v_X0_swapNow N x0 s (fun x101 s102 => (tO s102 0 x0 ∧ (v_X0_tell x0 x101 s102 (fun x104 s105 => (Kr x104 s105)))))))
theorem e_X0_swap {G : xG} {l : Launch} {g : xH} {d : Nat} {N : tP} (hN : tNs G N) (hd : 8 ≤ d) {x0 : Nat} {s : tM} {Kr : Int32 → tM → Prop} (h : v_X0_swap N x0 s Kr) : xC G l kX0_swap d 0 0 [rfv x0] (tH G g s) (tQ G g wi Kr tNo) := by
  obtain ⟨d, rfl⟩ : ∃ z, d = z + 1 := ⟨d - 1, by omega⟩
  refine t_start rfl (by decide +kernel) (by simp [xct_i, xct_l, rfv_c]) (lv := [some (rfv x0)]) (by simp [lv_args, xLv, rfv_c, xct_i, xct_l]) ?_
  unfold v_X0_swap at h
  refine t_aload_0 dX0_swap_0 ?_
  refine t_aload_0 dX0_swap_1 ?_
  obtain ⟨e103, h⟩ := h
  refine t_cVi (As := []) rfl cv_X0_319 rfl e103 rfl rfl (xrm4 (Nat.le_of_ble_eq_true rfl)) dX0_swap_2 (e_X0_swapNow hN (by omega) h) ⟨Nat.zero_le _, Nat.zero_le _⟩ (fun _ _ _ h => h.elim) (fun x101 s102 h => ?_)
  obtain ⟨e106, h⟩ := h
  refine t_cVi (As := [_]) rfl cv_X0_132 rfl e106 rfl rfl (xrm4 (Nat.le_of_ble_eq_true rfl)) dX0_swap_5 (e_X0_tell (by omega) h) ⟨Nat.zero_le _, Nat.zero_le _⟩ (fun _ _ _ h => h.elim) (fun x104 s105 h => ?_)
  exact x_iret dX0_swap_8 rfl (Or.inl ⟨_, _, h, rfl, rfl⟩)
def v_X0_terms_45 (x0 : Nat) (x3 : Int32) (Kr : Int32 → tM → Prop) (s : tM) : Prop :=
  (tO s 0 x0 ∧ (tO s 3 (tR s x0 2) ∧ (∀ s103 : tM, s103 = tsI s (tR s x0 2) 1 0 → (v_X0_had x0 x3 s103 (fun x105 s106 => (Kr x105 s106))))))
theorem e_X0_terms_45 {G : xG} {l : Launch} {g : xH} {d : Nat} (hd : 7 ≤ d) (x0 : Nat) (x3 : Int32) (Kr : Int32 → tM → Prop) (s : tM) (h : v_X0_terms_45 x0 x3 Kr s) : xF G l kX0_terms (d + 1) 0 0 (tQ G g wi Kr tNo) 45 [some (rfv x0), none, none, some (.int x3)] [] (tH G g s) := by
  unfold v_X0_terms_45 at h
  refine t_aload_0 dX0_terms_45 ?_
  obtain ⟨e101, h⟩ := h
  refine t_getR dX0_terms_46 fa_X0_29_0 (by decide) e101 ?_
  refine x_iconst (v := 0) dX0_terms_49 (by decide) ?_
  obtain ⟨e102, h⟩ := h
  refine t_putI (j := 1) dX0_terms_50 fp_X0_129_3 (by decide) e102 rfl rfl ?_
  refine t_gen h (fun s103 w104 h => ?_)
  refine t_aload_0 dX0_terms_53 ?_
  refine x_iload_3 dX0_terms_54 ?_
  refine t_cVi (As := [_]) rfl cv_X0_209 rfl (tO_w w104 e101) rfl rfl (xrm4 (Nat.le_of_ble_eq_true rfl)) dX0_terms_55 (e_X0_had (by omega) h) ⟨Nat.zero_le _, Nat.zero_le _⟩ (fun _ _ _ h => h.elim) (fun x105 s106 h => ?_)
  exact x_iret dX0_terms_58 rfl (Or.inl ⟨_, _, h, rfl, rfl⟩)
def v_X0_terms (x0 : Nat) (x1 : Int32) (x2 : Int32) (s : tM) (Kr : Int32 → tM → Prop) : Prop :=
  (v_X0_isTerm x1 x2 s (fun x101 s102 => ((¬ x101 = 0 → (tO s102 0 x0 ∧ (v_X0_term x0 x1 s102 (fun x104 s105 => ((¬ x1 = 0 → (tO s105 0 x0 ∧ (tO s105 1 (tR s105 x0 0) ∧ (tX s105 0 (tR s105 (tR s105 x0 0) 1) x1 ∧ (∀ s111 : tM, s111 = tsI s105 (tR s105 (tR s105 x0 0) 1) x1.toNatClampNeg x2 → (v_X0_terms_45 x0 x104 Kr s111)))))) ∧ (x1 = 0 → (tO s105 0 x0 ∧ (v_X0_books x0 s105 (fun x113 s114 => (tO s114 2 x113 ∧ (∀ s117 : tM, s117 = tsI s114 x113 2 x2 → (v_X0_terms_45 x0 x104 Kr s117)))))))))))) ∧ (x101 = 0 → (tO s102 0 x0 ∧ (v_X0_tell x0 (-1) s102 (fun x119 s120 => (Kr x119 s120))))))))
theorem e_X0_terms {G : xG} {l : Launch} {g : xH} {d : Nat} (hd : 8 ≤ d) {x0 : Nat} {x1 : Int32} {x2 : Int32} {s : tM} {Kr : Int32 → tM → Prop} (h : v_X0_terms x0 x1 x2 s Kr) : xC G l kX0_terms d 0 0 [rfv x0, .int x1, .int x2] (tH G g s) (tQ G g wi Kr tNo) := by
  obtain ⟨d, rfl⟩ : ∃ z, d = z + 1 := ⟨d - 1, by omega⟩
  refine t_start rfl (by decide +kernel) (by simp [xct_i, xct_l, rfv_c]) (lv := [some (rfv x0), some (.int x1), some (.int x2), none]) (by simp [lv_args, xLv, rfv_c, xct_i, xct_l]) ?_
  unfold v_X0_terms at h
  refine x_iload_1 dX0_terms_0 ?_
  refine x_iload_2 dX0_terms_1 ?_
  refine t_cSi (As := [_, _]) rfl cs_X0_202 rfl rfl (xrm4 (Nat.le_of_ble_eq_true rfl)) dX0_terms_2 (e_X0_isTerm (by omega) h) ⟨Nat.zero_le _, Nat.zero_le _⟩ (fun _ _ _ h => h.elim) (fun x101 s102 h => ?_)
  refine x_if_ne 14 dX0_terms_5 (by decide) (fun c103 => ?_) (fun c103 => ?_)
  · have h := h.1 c103
    refine t_aload_0 dX0_terms_14 ?_
    refine x_iload_1 dX0_terms_15 ?_
    obtain ⟨e106, h⟩ := h
    refine t_cVi (As := [_]) rfl cv_X0_206 rfl e106 rfl rfl (xrm4 (Nat.le_of_ble_eq_true rfl)) dX0_terms_16 (e_X0_term (by omega) h) ⟨Nat.zero_le _, Nat.zero_le _⟩ (fun _ _ _ h => h.elim) (fun x104 s105 h => ?_)
    refine x_istore_3 dX0_terms_19 (by decide) xN2_i ?_
    refine x_iload_1 dX0_terms_20 ?_
    refine x_if_ne 35 dX0_terms_21 (by decide) (fun c107 => ?_) (fun c107 => ?_)
    · have h := h.1 c107
      refine t_aload_0 dX0_terms_35 ?_
      obtain ⟨e108, h⟩ := h
      refine t_getR dX0_terms_36 fa_X0_18_0 (by decide) e108 ?_
      obtain ⟨e109, h⟩ := h
      refine t_getR dX0_terms_39 fa_X0_199_1 (by decide) e109 ?_
      refine x_iload_1 dX0_terms_42 ?_
      refine x_iload_2 dX0_terms_43 ?_
      obtain ⟨e110, h⟩ := h
      refine t_iast dX0_terms_44 e110 ?_
      refine t_gen h (fun s111 w112 h => ?_)
      exact x_le (xLe_cons (xLe_none (xLe_none (xLe_cons (xLe_nil))))) (e_X0_terms_45 (by omega) _ _ _ _ h)
    · have h := h.2 c107
      refine t_aload_0 dX0_terms_24 ?_
      obtain ⟨e115, h⟩ := h
      refine t_cVr (As := []) rfl cv_X0_157 rfl e115 rfl rfl (xrm4 (Nat.le_of_ble_eq_true rfl)) dX0_terms_25 (e_X0_books (by omega) h) ⟨Nat.zero_le _, Nat.zero_le _⟩ (fun _ _ _ h => h.elim) (fun x113 s114 h => ?_)
      refine x_iload_2 dX0_terms_28 ?_
      obtain ⟨e116, h⟩ := h
      refine t_putI (j := 2) dX0_terms_29 fp_X0_196_2 (by decide) e116 rfl rfl ?_
      refine t_gen h (fun s117 w118 h => ?_)
      refine x_goto 45 dX0_terms_32 (by decide) ?_
      exact x_le (xLe_cons (xLe_none (xLe_none (xLe_cons (xLe_nil))))) (e_X0_terms_45 (by omega) _ _ _ _ h)
  · have h := h.2 c103
    refine t_aload_0 dX0_terms_8 ?_
    refine x_iconst (v := (-1)) dX0_terms_9 (by decide) ?_
    obtain ⟨e121, h⟩ := h
    refine t_cVi (As := [_]) rfl cv_X0_132 rfl e121 rfl rfl (xrm4 (Nat.le_of_ble_eq_true rfl)) dX0_terms_10 (e_X0_tell (by omega) h) ⟨Nat.zero_le _, Nat.zero_le _⟩ (fun _ _ _ h => h.elim) (fun x119 s120 h => ?_)
    exact x_iret dX0_terms_13 rfl (Or.inl ⟨_, _, h, rfl, rfl⟩)
def v_X0_undo (x0 : Nat) (s : tM) (Kr : Int32 → tM → Prop) : Prop :=
  (tO s 0 x0 ∧ (tO s 3 (tR s x0 2) ∧ ((¬ (tI s (tR s x0 2) 1) = 0 → (∀ x104 : Nat, x104 = tR s x0 2 → (tO s 3 x104 ∧ (∀ s106 : tM, s106 = tsI s x104 1 ((tI s x104 1) - 1) → (v_X0_books x0 s106 (fun x108 s109 => (tO s109 0 x0 ∧ (tO s109 3 (tR s109 x0 2) ∧ (tX s109 5 (tR s109 (tR s109 x0 2) 0) (tI s109 (tR s109 x0 2) 1) ∧ (tO s109 2 x108 ∧ (v_X2_as x108 (tR s109 (tR s109 (tR s109 x0 2) 0) (tI s109 (tR s109 x0 2) 1).toNatClampNeg) s109 (fun x113 s114 => (tO s114 0 x0 ∧ (tO s114 3 (tR s114 x0 2) ∧ (tX s114 5 (tR s114 (tR s114 x0 2) 0) (tI s114 (tR s114 x0 2) 1) ∧ (tO s114 2 (tR s114 (tR s114 (tR s114 x0 2) 0) (tI s114 (tR s114 x0 2) 1).toNatClampNeg) ∧ (v_X0_tell x0 (tI s114 (tR s114 (tR s114 (tR s114 x0 2) 0) (tI s114 (tR s114 x0 2) 1).toNatClampNeg) 3) s114 (fun x120 s121 => (Kr x120 s121))))))))))))))))))) ∧ ((tI s (tR s x0 2) 1) = 0 → (v_X0_tell x0 (-3) s (fun x122 s123 => (Kr x122 s123)))))))
theorem e_X0_undo {G : xG} {l : Launch} {g : xH} {d : Nat} (hd : 4 ≤ d) {x0 : Nat} {s : tM} {Kr : Int32 → tM → Prop} (h : v_X0_undo x0 s Kr) : xC G l kX0_undo d 0 0 [rfv x0] (tH G g s) (tQ G g wi Kr tNo) := by
  obtain ⟨d, rfl⟩ : ∃ z, d = z + 1 := ⟨d - 1, by omega⟩
  refine t_start rfl (by decide +kernel) (by simp [xct_i, xct_l, rfv_c]) (lv := [some (rfv x0)]) (by simp [lv_args, xLv, rfv_c, xct_i, xct_l]) ?_
  unfold v_X0_undo at h
  refine t_aload_0 dX0_undo_0 ?_
  obtain ⟨e101, h⟩ := h
  refine t_getR dX0_undo_1 fa_X0_29_0 (by decide) e101 ?_
  obtain ⟨e102, h⟩ := h
  refine t_getI dX0_undo_4 fa_X0_129_3 (by decide) e102 ?_
  refine x_if_ne 17 dX0_undo_7 (by decide) (fun c103 => ?_) (fun c103 => ?_)
  · have h := h.1 c103
    refine t_aload_0 dX0_undo_17 ?_
    refine t_getR dX0_undo_18 fa_X0_29_0 (by decide) e101 ?_
    refine x_dup dX0_undo_21 (rfv_c _) ?_
    have h := h _ rfl
    obtain ⟨e105, h⟩ := h
    refine t_getI dX0_undo_22 fa_X0_129_3 (by decide) e105 ?_
    refine x_iconst (v := 1) dX0_undo_25 (by decide) ?_
    refine x_isub dX0_undo_26 ?_
    refine t_putI (j := 1) dX0_undo_27 fp_X0_129_3 (by decide) e105 rfl rfl ?_
    refine t_gen h (fun s106 w107 h => ?_)
    refine t_aload_0 dX0_undo_30 ?_
    refine t_cVr (As := []) rfl cv_X0_157 rfl (tO_w w107 e101) rfl rfl (xrm4 (Nat.le_of_ble_eq_true rfl)) dX0_undo_31 (e_X0_books (by omega) h) ⟨Nat.zero_le _, Nat.zero_le _⟩ (fun _ _ _ h => h.elim) (fun x108 s109 h => ?_)
    refine t_aload_0 dX0_undo_34 ?_
    obtain ⟨e110, h⟩ := h
    refine t_getR dX0_undo_35 fa_X0_29_0 (by decide) e110 ?_
    obtain ⟨e111, h⟩ := h
    refine t_getR dX0_undo_38 fa_X0_325_3 (by decide) e111 ?_
    refine t_aload_0 dX0_undo_41 ?_
    refine t_getR dX0_undo_42 fa_X0_29_0 (by decide) e110 ?_
    refine t_getI dX0_undo_45 fa_X0_129_3 (by decide) e111 ?_
    obtain ⟨e112, h⟩ := h
    refine t_aald (t := 5) dX0_undo_48 ⟨rfl, by decide, by decide⟩ rfl e112 ?_
    obtain ⟨e115, h⟩ := h
    refine t_cVr (As := [_]) rfl cv_X0_329 rfl e115 rfl rfl (xrm4 (Nat.le_of_ble_eq_true rfl)) dX0_undo_49 (e_X2_as (by omega) h) ⟨Nat.zero_le _, Nat.zero_le _⟩ (fun _ _ _ h => h.elim) (fun x113 s114 h => ?_)
    refine x_pop dX0_undo_52 (rfv_c _) ?_
    refine t_aload_0 dX0_undo_53 ?_
    refine t_aload_0 dX0_undo_54 ?_
    obtain ⟨e116, h⟩ := h
    refine t_getR dX0_undo_55 fa_X0_29_0 (by decide) e116 ?_
    obtain ⟨e117, h⟩ := h
    refine t_getR dX0_undo_58 fa_X0_325_3 (by decide) e117 ?_
    refine t_aload_0 dX0_undo_61 ?_
    refine t_getR dX0_undo_62 fa_X0_29_0 (by decide) e116 ?_
    refine t_getI dX0_undo_65 fa_X0_129_3 (by decide) e117 ?_
    obtain ⟨e118, h⟩ := h
    refine t_aald (t := 5) dX0_undo_68 ⟨rfl, by decide, by decide⟩ rfl e118 ?_
    obtain ⟨e119, h⟩ := h
    refine t_getI dX0_undo_69 fa_X0_333_2 (by decide) e119 ?_
    refine t_cVi (As := [_]) rfl cv_X0_132 rfl e116 rfl rfl (xrm4 (Nat.le_of_ble_eq_true rfl)) dX0_undo_72 (e_X0_tell (by omega) h) ⟨Nat.zero_le _, Nat.zero_le _⟩ (fun _ _ _ h => h.elim) (fun x120 s121 h => ?_)
    exact x_iret dX0_undo_75 rfl (Or.inl ⟨_, _, h, rfl, rfl⟩)
  · have h := h.2 c103
    refine t_aload_0 dX0_undo_10 ?_
    refine x_bipush (v := (-3)) dX0_undo_11 (by decide) ?_
    refine t_cVi (As := [_]) rfl cv_X0_132 rfl e101 rfl rfl (xrm4 (Nat.le_of_ble_eq_true rfl)) dX0_undo_13 (e_X0_tell (by omega) h) ⟨Nat.zero_le _, Nat.zero_le _⟩ (fun _ _ _ h => h.elim) (fun x122 s123 h => ?_)
    exact x_iret dX0_undo_16 rfl (Or.inl ⟨_, _, h, rfl, rfl⟩)
def v_X0_ways (N : tP) (x0 : Nat) (s : tM) (Kr : Int64 → tM → Prop) : Prop :=
  (tO s 0 x0 ∧ (v_X0_layAll N x0 s (fun s102 => (tO s102 0 x0 ∧ (tX s102 15 (tR s102 x0 22) 0 ∧ (tX s102 1 (tR s102 (tR s102 x0 22) 0) 0 ∧ (Kr (tJ s102 (tR s102 (tR s102 x0 22) 0) 0) s102)))))))
theorem e_X0_ways {G : xG} {l : Launch} {g : xH} {d : Nat} {N : tP} (hN : tNs G N) (hd : 2 * N.2.1 + 24 ≤ d) {x0 : Nat} {s : tM} {Kr : Int64 → tM → Prop} (h : v_X0_ways N x0 s Kr) : xC G l kX0_ways d 0 0 [rfv x0] (tH G g s) (tQ G g wl Kr tNo) := by
  obtain ⟨d, rfl⟩ : ∃ z, d = z + 1 := ⟨d - 1, by omega⟩
  refine t_start rfl (by decide +kernel) (by simp [xct_i, xct_l, rfv_c]) (lv := [some (rfv x0)]) (by simp [lv_args, xLv, rfv_c, xct_i, xct_l]) ?_
  unfold v_X0_ways at h
  refine t_aload_0 dX0_ways_0 ?_
  obtain ⟨e103, h⟩ := h
  refine t_cVv (As := []) rfl cv_X0_359 rfl e103 rfl rfl (xrm4 (Nat.le_of_ble_eq_true rfl)) dX0_ways_1 (e_X0_layAll hN (by omega) h) ⟨Nat.zero_le _, Nat.zero_le _⟩ (fun _ _ _ h => h.elim) (fun _ s102 h => ?_)
  refine t_aload_0 dX0_ways_4 ?_
  obtain ⟨e104, h⟩ := h
  refine t_getR dX0_ways_5 fa_X0_108_0 (by decide) e104 ?_
  refine x_iconst (v := 0) dX0_ways_8 (by decide) ?_
  obtain ⟨e105, h⟩ := h
  refine t_aald (t := 15) dX0_ways_9 ⟨rfl, by decide, by decide⟩ rfl e105 ?_
  refine x_iconst (v := 0) dX0_ways_10 (by decide) ?_
  obtain ⟨e106, h⟩ := h
  refine t_lald dX0_ways_11 e106 ?_
  exact x_lret dX0_ways_12 rfl (Or.inl ⟨_, _, h, rfl, rfl⟩)
def v_X22_init (x0 : Nat) (x1 : Int32) (s : tM) (Kr : tM → Prop) : Prop :=
  (tO s 19 x0 ∧ (∀ s102 : tM, s102 = tsJ s x0 0 ((x1 : Int32).toInt64) → (Kr s102)))
theorem e_X22_init {G : xG} {l : Launch} {g : xH} {d : Nat} (hd : 2 ≤ d) {x0 : Nat} {x1 : Int32} {s : tM} {Kr : tM → Prop} (h : v_X22_init x0 x1 s Kr) : xC G l kX22_init d 0 0 [rfv x0, .int x1] (tH G g s) (tQ G g wu (fun _ => Kr) tNo) := by
  obtain ⟨d, rfl⟩ : ∃ z, d = z + 1 := ⟨d - 1, by omega⟩
  refine t_start rfl (by decide +kernel) (by simp [xct_i, xct_l, rfv_c]) (lv := [some (rfv x0), some (.int x1)]) (by simp [lv_args, xLv, rfv_c, xct_i, xct_l]) ?_
  unfold v_X22_init at h
  refine t_aload_0 dX22_init_0 ?_
  obtain ⟨e101, h⟩ := h
  refine t_obj dX22_init_1 ob_X22_1 e101.2 (Nat.le_of_ble_eq_true rfl) (by omega) ?_
  refine t_aload_0 dX22_init_4 ?_
  refine x_iload_1 dX22_init_5 ?_
  refine x_i2l dX22_init_6 ?_
  refine t_putJ (j := 0) dX22_init_7 fp_X22_7_19 (by decide) e101  ?_
  refine t_gen h (fun s102 w103 h => ?_)
  exact x_vret dX22_init_10 rfl (Or.inl ⟨(), _, h, rfl, rfl⟩)
def v_X22_next (x0 : Nat) (x1 : Int32) (s : tM) (Kr : Int32 → tM → Prop) : Prop :=
  (tO s 19 x0 ∧ (∀ x102 : Int64, x102 = ((tJ s x0 0) * 1103) + 12345 → (∀ s103 : tM, s103 = tsJ s x0 0 (x102 - x102 / 1000003 * 1000003) → (∀ x105 : Int64, x105 = (x1 : Int32).toInt64 → (∀ x106 : Int64, x106 = tJ s103 x0 0 → (¬ x105 = 0 ∧ (Kr ((x106 - x106 / x105 * x105 : Int64).toInt32) s103)))))))
theorem e_X22_next {G : xG} {l : Launch} {g : xH} {d : Nat} (hd : 2 ≤ d) {x0 : Nat} {x1 : Int32} {s : tM} {Kr : Int32 → tM → Prop} (h : v_X22_next x0 x1 s Kr) : xC G l kX22_next d 0 0 [rfv x0, .int x1] (tH G g s) (tQ G g wi Kr tNo) := by
  obtain ⟨d, rfl⟩ : ∃ z, d = z + 1 := ⟨d - 1, by omega⟩
  refine t_start rfl (by decide +kernel) (by simp [xct_i, xct_l, rfv_c]) (lv := [some (rfv x0), some (.int x1)]) (by simp [lv_args, xLv, rfv_c, xct_i, xct_l]) ?_
  unfold v_X22_next at h
  refine t_aload_0 dX22_next_0 ?_
  refine t_aload_0 dX22_next_1 ?_
  obtain ⟨e101, h⟩ := h
  refine t_getJ dX22_next_2 fa_X22_7_19 (by decide) e101 ?_
  refine x_ldc2 dX22_next_5 q1548 ?_
  refine x_lmul dX22_next_8 ?_
  refine x_ldc2 dX22_next_9 q1549 ?_
  refine x_ladd dX22_next_12 ?_
  refine x_ldc2 dX22_next_13 q1550 ?_
  have h := h _ rfl
  refine x_lrem dX22_next_16 (by decide) ?_
  refine t_putJ (j := 0) dX22_next_17 fp_X22_7_19 (by decide) e101  ?_
  refine t_gen h (fun s103 w104 h => ?_)
  refine t_aload_0 dX22_next_20 ?_
  refine t_getJ dX22_next_21 fa_X22_7_19 (by decide) (tO_w w104 e101) ?_
  refine x_iload_1 dX22_next_24 ?_
  refine x_i2l dX22_next_25 ?_
  have h := h _ rfl
  have h := h _ rfl
  obtain ⟨e107, h⟩ := h
  refine x_lrem dX22_next_26 e107 ?_
  refine x_l2i dX22_next_27 ?_
  exact x_iret dX22_next_28 rfl (Or.inl ⟨_, _, h, rfl, rfl⟩)
def v_X0_weeks_168 (N : tP) (x0 : Nat) (x2 : Int32) (x3 : Nat) (x4 : Int32) (x5 : Int32) (Kr : Int32 → tM → Prop) (K : Int32 → Nat → Nat → tM → Prop) (R : Int32 → Int32 → Nat → Nat → tM → Prop) (k n : Nat) (s : tM) : Prop :=
  (tO s 0 x0 ∧ (v_X0_barredOnes N x0 s (fun x101 s102 => (∀ x104 : Int32, x104 = x4 + x101 → (tO s102 0 x0 ∧ (v_X0_books x0 s102 (fun x105 s106 => (tO s106 2 x105 ∧ (∀ s109 : tM, s109 = tsI s106 x105 2 ((tI s106 x105 2) + 1) → (∀ x111 : Int32, x111 = x5 + 1 → (R x104 x111 k n s109)))))))))))
theorem e_X0_weeks_168 {G : xG} {l : Launch} {g : xH} {d : Nat} {N : tP} (hN : tNs G N) (hd : 2 * N.2.1 + 21 ≤ d) (x0 : Nat) (x2 : Int32) (x3 : Nat) (x4 : Int32) (x5 : Int32) (Kr : Int32 → tM → Prop) (K : Int32 → Nat → Nat → tM → Prop) (R : Int32 → Int32 → Nat → Nat → tM → Prop) (k n : Nat) (s : tM) (h : v_X0_weeks_168 N x0 x2 x3 x4 x5 Kr K R k n s) (hK : ∀ (z4 : Int32) (k n : Nat) (s : tM), K z4 k n s → xF G l kX0_weeks (d + 1) k n (tQ G g wi Kr tNo) 196 [some (rfv x0), none, none, none, some (.int z4), none, none, none, none] [] (tH G g s)) (hR : ∀ (z4 : Int32) (z5 : Int32) (k n : Nat) (s : tM), R z4 z5 k n s → xF G l kX0_weeks (d + 1) k n (tQ G g wi Kr tNo) 71 [some (rfv x0), none, some (.int x2), some (rfv x3), some (.int z4), some (.int z5), none, none, none] [] (tH G g s)) : xF G l kX0_weeks (d + 1) k n (tQ G g wi Kr tNo) 168 [some (rfv x0), none, some (.int x2), some (rfv x3), some (.int x4), some (.int x5), none, none, none] [] (tH G g s) := by
  unfold v_X0_weeks_168 at h
  refine x_iload_4 dX0_weeks_168 ?_
  refine t_aload_0 dX0_weeks_170 ?_
  obtain ⟨e103, h⟩ := h
  refine t_cVi (As := []) rfl cv_X0_300 rfl e103 rfl rfl (xrm4 (Nat.le_of_ble_eq_true rfl)) dX0_weeks_171 (e_X0_barredOnes hN (by omega) h) ⟨Nat.zero_le _, Nat.zero_le _⟩ (fun _ _ _ h => h.elim) (fun x101 s102 h => ?_)
  refine x_iadd dX0_weeks_174 ?_
  refine x_istore_4 dX0_weeks_175 (by decide) xN2_f ?_
  have h := h _ rfl
  refine t_aload_0 dX0_weeks_177 ?_
  obtain ⟨e107, h⟩ := h
  refine t_cVr (As := []) rfl cv_X0_157 rfl e107 rfl rfl (xrm4 (Nat.le_of_ble_eq_true rfl)) dX0_weeks_178 (e_X0_books (by omega) h) ⟨Nat.zero_le _, Nat.zero_le _⟩ (fun _ _ _ h => h.elim) (fun x105 s106 h => ?_)
  refine x_dup dX0_weeks_181 (rfv_c _) ?_
  obtain ⟨e108, h⟩ := h
  refine t_getI dX0_weeks_182 fa_X0_196_2 (by decide) e108 ?_
  refine x_iconst (v := 1) dX0_weeks_185 (by decide) ?_
  refine x_iadd dX0_weeks_186 ?_
  refine t_putI (j := 2) dX0_weeks_187 fp_X0_196_2 (by decide) e108 rfl rfl ?_
  refine t_gen h (fun s109 w110 h => ?_)
  refine x_iinc_5 (v := 1) dX0_weeks_190 (by decide) (by decide) xN2_i ?_
  have h := h _ rfl
  refine x_goto 71 dX0_weeks_193 (by decide) ?_
  exact x_le (xLe_cons (xLe_cons (xLe_cons (xLe_cons (xLe_cons (xLe_cons (xLe_cons (xLe_cons (xLe_cons (xLe_nil)))))))))) (hR _ _ _ _ _ h)
def v_X0_weeks_151 (N : tP) (x0 : Nat) (x2 : Int32) (x3 : Nat) (x4 : Int32) (x5 : Int32) (x8 : Int32) (Kr : Int32 → tM → Prop) (K : Int32 → Nat → Nat → tM → Prop) (R : Int32 → Int32 → Nat → Nat → tM → Prop) (k n : Nat) (s : tM) : Prop :=
  ((¬ x8 = 3 → (v_X0_weeks_168 N x0 x2 x3 x4 x5 Kr K R k n s)) ∧ (x8 = 3 → (tO s 0 x0 ∧ (v_X0_books x0 s (fun x102 s103 => (tO s103 0 x0 ∧ (v_X0_nNotes x0 s103 (fun x105 s106 => (tO s106 2 x102 ∧ (v_X2_exchange N x102 x105 s106 (fun s109 => (v_X0_weeks_168 N x0 x2 x3 x4 x5 Kr K R k n s109))))))))))))
theorem e_X0_weeks_151 {G : xG} {l : Launch} {g : xH} {d : Nat} {N : tP} (hN : tNs G N) (hd : 2 * N.2.1 + 21 ≤ d) (x0 : Nat) (x2 : Int32) (x3 : Nat) (x4 : Int32) (x5 : Int32) (x8 : Int32) (Kr : Int32 → tM → Prop) (K : Int32 → Nat → Nat → tM → Prop) (R : Int32 → Int32 → Nat → Nat → tM → Prop) (k n : Nat) (s : tM) (h : v_X0_weeks_151 N x0 x2 x3 x4 x5 x8 Kr K R k n s) (hK : ∀ (z4 : Int32) (k n : Nat) (s : tM), K z4 k n s → xF G l kX0_weeks (d + 1) k n (tQ G g wi Kr tNo) 196 [some (rfv x0), none, none, none, some (.int z4), none, none, none, none] [] (tH G g s)) (hR : ∀ (z4 : Int32) (z5 : Int32) (k n : Nat) (s : tM), R z4 z5 k n s → xF G l kX0_weeks (d + 1) k n (tQ G g wi Kr tNo) 71 [some (rfv x0), none, some (.int x2), some (rfv x3), some (.int z4), some (.int z5), none, none, none] [] (tH G g s)) : xF G l kX0_weeks (d + 1) k n (tQ G g wi Kr tNo) 151 [some (rfv x0), none, some (.int x2), some (rfv x3), some (.int x4), some (.int x5), none, none, some (.int x8)] [] (tH G g s) := by
  unfold v_X0_weeks_151 at h
  refine x_iload_8 dX0_weeks_151 ?_
  refine x_iconst (v := 3) dX0_weeks_153 (by decide) ?_
  refine x_icmp_ne 168 dX0_weeks_154 (by decide) (fun c101 => ?_) (fun c101 => ?_)
  · have h := h.1 c101
    exact x_le (xLe_cons (xLe_cons (xLe_cons (xLe_cons (xLe_cons (xLe_cons (xLe_cons (xLe_cons (xLe_none (xLe_nil)))))))))) (e_X0_weeks_168 hN (by omega) _ _ _ _ _ _ _ _ _ _ _ h hK hR)
  · have h := h.2 c101
    refine t_aload_0 dX0_weeks_157 ?_
    obtain ⟨e104, h⟩ := h
    refine t_cVr (As := []) rfl cv_X0_157 rfl e104 rfl rfl (xrm4 (Nat.le_of_ble_eq_true rfl)) dX0_weeks_158 (e_X0_books (by omega) h) ⟨Nat.zero_le _, Nat.zero_le _⟩ (fun _ _ _ h => h.elim) (fun x102 s103 h => ?_)
    refine t_aload_0 dX0_weeks_161 ?_
    obtain ⟨e107, h⟩ := h
    refine t_cVi (As := []) rfl cv_X0_142 rfl e107 rfl rfl (xrm4 (Nat.le_of_ble_eq_true rfl)) dX0_weeks_162 (e_X0_nNotes (by omega) h) ⟨Nat.zero_le _, Nat.zero_le _⟩ (fun _ _ _ h => h.elim) (fun x105 s106 h => ?_)
    obtain ⟨e110, h⟩ := h
    refine t_cVv (As := [_]) rfl cv_X0_316 rfl e110 rfl rfl (xrm4 (Nat.le_of_ble_eq_true rfl)) dX0_weeks_165 (e_X2_exchange hN (by omega) h) ⟨Nat.zero_le _, Nat.zero_le _⟩ (fun _ _ _ h => h.elim) (fun _ s109 h => ?_)
    exact x_le (xLe_cons (xLe_cons (xLe_cons (xLe_cons (xLe_cons (xLe_cons (xLe_cons (xLe_cons (xLe_none (xLe_nil)))))))))) (e_X0_weeks_168 hN (by omega) _ _ _ _ _ _ _ _ _ _ _ h hK hR)
def v_X0_weeks_133 (N : tP) (x0 : Nat) (x2 : Int32) (x3 : Nat) (x4 : Int32) (x5 : Int32) (x6 : Int32) (x7 : Int32) (x8 : Int32) (Kr : Int32 → tM → Prop) (K : Int32 → Nat → Nat → tM → Prop) (R : Int32 → Int32 → Nat → Nat → tM → Prop) (k n : Nat) (s : tM) : Prop :=
  ((¬ x8 = 2 → (v_X0_weeks_151 N x0 x2 x3 x4 x5 x8 Kr K R k n s)) ∧ (x8 = 2 → (tO s 0 x0 ∧ (v_X0_books x0 s (fun x102 s103 => (tO s103 2 x102 ∧ (tX s103 0 (tR s103 x102 0) x6 ∧ (∀ s107 : tM, s107 = tsI s103 (tR s103 x102 0) x6.toNatClampNeg x7 → (v_X0_weeks_151 N x0 x2 x3 x4 x5 x8 Kr K R k n s107)))))))))
theorem e_X0_weeks_133 {G : xG} {l : Launch} {g : xH} {d : Nat} {N : tP} (hN : tNs G N) (hd : 2 * N.2.1 + 21 ≤ d) (x0 : Nat) (x2 : Int32) (x3 : Nat) (x4 : Int32) (x5 : Int32) (x6 : Int32) (x7 : Int32) (x8 : Int32) (Kr : Int32 → tM → Prop) (K : Int32 → Nat → Nat → tM → Prop) (R : Int32 → Int32 → Nat → Nat → tM → Prop) (k n : Nat) (s : tM) (h : v_X0_weeks_133 N x0 x2 x3 x4 x5 x6 x7 x8 Kr K R k n s) (hK : ∀ (z4 : Int32) (k n : Nat) (s : tM), K z4 k n s → xF G l kX0_weeks (d + 1) k n (tQ G g wi Kr tNo) 196 [some (rfv x0), none, none, none, some (.int z4), none, none, none, none] [] (tH G g s)) (hR : ∀ (z4 : Int32) (z5 : Int32) (k n : Nat) (s : tM), R z4 z5 k n s → xF G l kX0_weeks (d + 1) k n (tQ G g wi Kr tNo) 71 [some (rfv x0), none, some (.int x2), some (rfv x3), some (.int z4), some (.int z5), none, none, none] [] (tH G g s)) : xF G l kX0_weeks (d + 1) k n (tQ G g wi Kr tNo) 133 [some (rfv x0), none, some (.int x2), some (rfv x3), some (.int x4), some (.int x5), some (.int x6), some (.int x7), some (.int x8)] [] (tH G g s) := by
  unfold v_X0_weeks_133 at h
  refine x_iload_8 dX0_weeks_133 ?_
  refine x_iconst (v := 2) dX0_weeks_135 (by decide) ?_
  refine x_icmp_ne 151 dX0_weeks_136 (by decide) (fun c101 => ?_) (fun c101 => ?_)
  · have h := h.1 c101
    exact x_le (xLe_cons (xLe_cons (xLe_cons (xLe_cons (xLe_cons (xLe_cons (xLe_none (xLe_none (xLe_cons (xLe_nil)))))))))) (e_X0_weeks_151 hN (by omega) _ _ _ _ _ _ _ _ _ _ _ _ h hK hR)
  · have h := h.2 c101
    refine t_aload_0 dX0_weeks_139 ?_
    obtain ⟨e104, h⟩ := h
    refine t_cVr (As := []) rfl cv_X0_157 rfl e104 rfl rfl (xrm4 (Nat.le_of_ble_eq_true rfl)) dX0_weeks_140 (e_X0_books (by omega) h) ⟨Nat.zero_le _, Nat.zero_le _⟩ (fun _ _ _ h => h.elim) (fun x102 s103 h => ?_)
    obtain ⟨e105, h⟩ := h
    refine t_getR dX0_weeks_143 fa_X0_160_2 (by decide) e105 ?_
    refine x_iload_6 dX0_weeks_146 ?_
    refine x_iload_7 dX0_weeks_148 ?_
    obtain ⟨e106, h⟩ := h
    refine t_iast dX0_weeks_150 e106 ?_
    refine t_gen h (fun s107 w108 h => ?_)
    exact x_le (xLe_cons (xLe_cons (xLe_cons (xLe_cons (xLe_cons (xLe_cons (xLe_none (xLe_none (xLe_cons (xLe_nil)))))))))) (e_X0_weeks_151 hN (by omega) _ _ _ _ _ _ _ _ _ _ _ _ h hK hR)
def v_X0_weeks_71 (N : tP) (x0 : Nat) (x2 : Int32) (x3 : Nat) (Kr : Int32 → tM → Prop) (K : Int32 → Nat → Nat → tM → Prop) : Nat → Int32 → Int32 → Nat → Nat → tM → Prop
  | 0, _, _, _, _, _ => False
  | t + 1, x4, x5, k, n, s => ((x2 ≤ x5 → (K x4 k n s)) ∧ (¬ x2 ≤ x5 → (tO s 0 x0 ∧ (v_X0_books x0 s (fun x102 s103 => (tO s103 2 x102 ∧ ((999 ≤ (tI s103 x102 2) → (K x4 k n s103)) ∧ (¬ 999 ≤ (tI s103 x102 2) → (tO s103 0 x0 ∧ (v_X0_nNotes x0 s103 (fun x107 s108 => (tO s108 19 x3 ∧ (v_X22_next x3 x107 s108 (fun x110 s111 => (tO s111 19 x3 ∧ (v_X22_next x3 25 s111 (fun x113 s114 => (tO s114 19 x3 ∧ (v_X22_next x3 4 s114 (fun x116 s117 => ((2 ≤ x116 → (v_X0_weeks_133 N x0 x2 x3 x4 x5 x110 x113 x116 Kr K (fun x4 x5 k n s => v_X0_weeks_71 N x0 x2 x3 Kr K t x4 x5 k n s) k n s117)) ∧ (¬ 2 ≤ x116 → (tO s117 0 x0 ∧ (v_X0_books x0 s117 (fun x120 s121 => (tO s121 2 x120 ∧ (tX s121 0 (tR s121 x120 1) x110 ∧ (∀ s125 : tM, s125 = tsI s121 (tR s121 x120 1) x110.toNatClampNeg x113 → (v_X0_weeks_133 N x0 x2 x3 x4 x5 x110 x113 x116 Kr K (fun x4 x5 k n s => v_X0_weeks_71 N x0 x2 x3 Kr K t x4 x5 k n s) k n s125)))))))))))))))))))))))))))))
theorem e_X0_weeks_71 {G : xG} {l : Launch} {g : xH} {d : Nat} {N : tP} (hN : tNs G N) (hd : 2 * N.2.1 + 21 ≤ d) (x0 : Nat) (x2 : Int32) (x3 : Nat) (Kr : Int32 → tM → Prop) (K : Int32 → Nat → Nat → tM → Prop) : ∀ (t : Nat) (x4 : Int32) (x5 : Int32) (k n : Nat) (s : tM) , v_X0_weeks_71 N x0 x2 x3 Kr K t x4 x5 k n s → (∀ (z4 : Int32) (k n : Nat) (s : tM), K z4 k n s → xF G l kX0_weeks (d + 1) k n (tQ G g wi Kr tNo) 196 [some (rfv x0), none, none, none, some (.int z4), none, none, none, none] [] (tH G g s)) → xF G l kX0_weeks (d + 1) k n (tQ G g wi Kr tNo) 71 [some (rfv x0), none, some (.int x2), some (rfv x3), some (.int x4), some (.int x5), none, none, none] [] (tH G g s) := by
  intro t
  induction t with
  | zero =>
    intro _ _ _ _ _ h _
    exact absurd h (by simp [v_X0_weeks_71])
  | succ t ih =>
    intro x4 x5 k n s h hK
    have hR := fun x4 x5 k n s h => ih x4 x5 k n s h hK
    unfold v_X0_weeks_71 at h
    refine x_iload_5 dX0_weeks_71 ?_
    refine x_iload_2 dX0_weeks_73 ?_
    refine x_icmp_ge 196 dX0_weeks_74 (by decide) (fun c101 => ?_) (fun c101 => ?_)
    · have h := h.1 c101
      exact x_le (xLe_cons (xLe_cons (xLe_none (xLe_none (xLe_cons (xLe_none (xLe_cons (xLe_cons (xLe_cons (xLe_nil)))))))))) (hK _ _ _ _ h)
    · have h := h.2 c101
      refine t_aload_0 dX0_weeks_77 ?_
      obtain ⟨e104, h⟩ := h
      refine t_cVr (As := []) rfl cv_X0_157 rfl e104 rfl rfl (xrm4 (Nat.le_of_ble_eq_true rfl)) dX0_weeks_78 (e_X0_books (by omega) h) ⟨Nat.zero_le _, Nat.zero_le _⟩ (fun _ _ _ h => h.elim) (fun x102 s103 h => ?_)
      obtain ⟨e105, h⟩ := h
      refine t_getI dX0_weeks_81 fa_X0_196_2 (by decide) e105 ?_
      refine x_sipush (v := 999) dX0_weeks_84 (by decide) ?_
      refine x_icmp_ge 196 dX0_weeks_87 (by decide) (fun c106 => ?_) (fun c106 => ?_)
      · have h := h.1 c106
        exact x_le (xLe_cons (xLe_cons (xLe_none (xLe_none (xLe_cons (xLe_none (xLe_cons (xLe_cons (xLe_cons (xLe_nil)))))))))) (hK _ _ _ _ h)
      · have h := h.2 c106
        refine t_aload_3 dX0_weeks_90 ?_
        refine t_aload_0 dX0_weeks_91 ?_
        obtain ⟨e109, h⟩ := h
        refine t_cVi (As := []) rfl cv_X0_142 rfl e109 rfl rfl (xrm4 (Nat.le_of_ble_eq_true rfl)) dX0_weeks_92 (e_X0_nNotes (by omega) h) ⟨Nat.zero_le _, Nat.zero_le _⟩ (fun _ _ _ h => h.elim) (fun x107 s108 h => ?_)
        obtain ⟨e112, h⟩ := h
        refine t_cVi (As := [_]) rfl cv_X0_438 rfl e112 rfl rfl (xrm4 (Nat.le_of_ble_eq_true rfl)) dX0_weeks_95 (e_X22_next (by omega) h) ⟨Nat.zero_le _, Nat.zero_le _⟩ (fun _ _ _ h => h.elim) (fun x110 s111 h => ?_)
        refine x_istore_6 dX0_weeks_98 (by decide) xN2_i ?_
        refine t_aload_3 dX0_weeks_100 ?_
        refine x_bipush (v := 25) dX0_weeks_101 (by decide) ?_
        obtain ⟨e115, h⟩ := h
        refine t_cVi (As := [_]) rfl cv_X0_438 rfl e115 rfl rfl (xrm4 (Nat.le_of_ble_eq_true rfl)) dX0_weeks_103 (e_X22_next (by omega) h) ⟨Nat.zero_le _, Nat.zero_le _⟩ (fun _ _ _ h => h.elim) (fun x113 s114 h => ?_)
        refine x_istore_7 dX0_weeks_106 (by decide) xN2_i ?_
        refine t_aload_3 dX0_weeks_108 ?_
        refine x_iconst (v := 4) dX0_weeks_109 (by decide) ?_
        obtain ⟨e118, h⟩ := h
        refine t_cVi (As := [_]) rfl cv_X0_438 rfl e118 rfl rfl (xrm4 (Nat.le_of_ble_eq_true rfl)) dX0_weeks_110 (e_X22_next (by omega) h) ⟨Nat.zero_le _, Nat.zero_le _⟩ (fun _ _ _ h => h.elim) (fun x116 s117 h => ?_)
        refine x_istore_8 dX0_weeks_113 (by decide) xN2_i ?_
        refine x_iload_8 dX0_weeks_115 ?_
        refine x_iconst (v := 2) dX0_weeks_117 (by decide) ?_
        refine x_icmp_ge 133 dX0_weeks_118 (by decide) (fun c119 => ?_) (fun c119 => ?_)
        · have h := h.1 c119
          exact x_le (xLe_cons (xLe_cons (xLe_cons (xLe_cons (xLe_cons (xLe_cons (xLe_cons (xLe_cons (xLe_cons (xLe_nil)))))))))) (e_X0_weeks_133 hN (by omega) _ _ _ _ _ _ _ _ _ _ _ _ _ _ h hK hR)
        · have h := h.2 c119
          refine t_aload_0 dX0_weeks_121 ?_
          obtain ⟨e122, h⟩ := h
          refine t_cVr (As := []) rfl cv_X0_157 rfl e122 rfl rfl (xrm4 (Nat.le_of_ble_eq_true rfl)) dX0_weeks_122 (e_X0_books (by omega) h) ⟨Nat.zero_le _, Nat.zero_le _⟩ (fun _ _ _ h => h.elim) (fun x120 s121 h => ?_)
          obtain ⟨e123, h⟩ := h
          refine t_getR dX0_weeks_125 fa_X0_163_2 (by decide) e123 ?_
          refine x_iload_6 dX0_weeks_128 ?_
          refine x_iload_7 dX0_weeks_130 ?_
          obtain ⟨e124, h⟩ := h
          refine t_iast dX0_weeks_132 e124 ?_
          refine t_gen h (fun s125 w126 h => ?_)
          exact x_le (xLe_cons (xLe_cons (xLe_cons (xLe_cons (xLe_cons (xLe_cons (xLe_cons (xLe_cons (xLe_cons (xLe_nil)))))))))) (e_X0_weeks_133 hN (by omega) _ _ _ _ _ _ _ _ _ _ _ _ _ _ h hK hR)
def v_X0_weeks (N : tP) (x0 : Nat) (x1 : Int32) (x2 : Int32) (k n : Nat) (s : tM) (Kr : Int32 → tM → Prop) : Prop :=
  (v_X0_in ((x1 : Int32).toInt64) 0 1000000 s (fun x101 s102 => ((x101 = 0 → (tO s102 0 x0 ∧ (v_X0_tell x0 (-1) s102 (fun x104 s105 => (Kr x104 s105))))) ∧ (¬ x101 = 0 → (v_X0_in ((x2 : Int32).toInt64) 1 60 s102 (fun x107 s108 => ((¬ x107 = 0 → (tO s108 0 x0 ∧ (v_X0_nNotes x0 s108 (fun x110 s111 => ((¬ x110 = 0 → (1 ≤ k ∧ (1 ≤ n ∧ (∀ q116 : Nat, s111.1 q116 = none → ¬ q116 = 0 → ¬ q116 = N.2.2 200 → (∀ s117 : tM, s117 = tNew s111 q116 (.inl 19) → (v_X22_init q116 x1 s117 (fun s121 => (tO s121 0 x0 ∧ (v_X0_books x0 s121 (fun x123 s124 => (tO s124 2 (tR s121 x0 5) ∧ (v_X2_as (tR s121 x0 5) x123 s124 (fun x125 s126 => (v_X0_weeks_71 N x0 x2 q116 Kr (fun x128 k130 n131 s129 => (tO s129 0 x0 ∧ (v_X0_books x0 s129 (fun x133 s134 => (tO s134 2 (tR s129 x0 26) ∧ (v_X2_as (tR s129 x0 26) x133 s134 (fun x135 s136 => (tO s136 0 x0 ∧ (v_X0_nNotes x0 s136 (fun x138 s139 => (tO s139 0 x0 ∧ (∀ s142 : tM, s142 = tsI s139 x0 27 x138 → (v_X0_books x0 s142 (fun x144 s145 => (tO s145 0 x0 ∧ (tO s145 2 x144 ∧ (v_X2_as x144 (tR s145 x0 5) s145 (fun x147 s148 => (tO s148 0 x0 ∧ (v_X0_tell x0 x128 s148 (fun x150 s151 => (Kr x150 s151)))))))))))))))))))))) N.1 0 0 (k - 1) (n - 1) s126)))))))))))))) ∧ (x110 = 0 → (tO s111 0 x0 ∧ (v_X0_tell x0 (-3) s111 (fun x153 s154 => (Kr x153 s154)))))))))) ∧ (x107 = 0 → (tO s108 0 x0 ∧ (v_X0_tell x0 (-1) s108 (fun x156 s157 => (Kr x156 s157))))))))))))
theorem e_X0_weeks {G : xG} {l : Launch} {g : xH} {d : Nat} {N : tP} (hN : tNs G N) (hd : 2 * N.2.1 + 22 ≤ d) {x0 : Nat} {x1 : Int32} {x2 : Int32} {k n : Nat} {s : tM} {Kr : Int32 → tM → Prop} (h : v_X0_weeks N x0 x1 x2 k n s Kr) : xC G l kX0_weeks d k n [rfv x0, .int x1, .int x2] (tH G g s) (tQ G g wi Kr tNo) := by
  obtain ⟨d, rfl⟩ : ∃ z, d = z + 1 := ⟨d - 1, by omega⟩
  refine t_start rfl (by decide +kernel) (by simp [xct_i, xct_l, rfv_c]) (lv := [some (rfv x0), some (.int x1), some (.int x2), none, none, none, none, none, none]) (by simp [lv_args, xLv, rfv_c, xct_i, xct_l]) ?_
  unfold v_X0_weeks at h
  refine x_iload_1 dX0_weeks_0 ?_
  refine x_i2l dX0_weeks_1 ?_
  refine x_lconst (v := 0) dX0_weeks_2 (by decide) ?_
  refine x_ldc2 dX0_weeks_3 q1532 ?_
  refine t_cSi (As := [_, _, _]) rfl cs_X0_5 rfl rfl (xrm4 (Nat.le_of_ble_eq_true rfl)) dX0_weeks_6 (e_X0_in (by omega) h) ⟨Nat.zero_le _, Nat.zero_le _⟩ (fun _ _ _ h => h.elim) (fun x101 s102 h => ?_)
  refine x_if_eq 24 dX0_weeks_9 (by decide) (fun c103 => ?_) (fun c103 => ?_)
  · have h := h.1 c103
    refine t_aload_0 dX0_weeks_24 ?_
    refine x_iconst (v := (-1)) dX0_weeks_25 (by decide) ?_
    obtain ⟨e106, h⟩ := h
    refine t_cVi (As := [_]) rfl cv_X0_132 rfl e106 rfl rfl (xrm4 (Nat.le_of_ble_eq_true rfl)) dX0_weeks_26 (e_X0_tell (by omega) h) ⟨Nat.zero_le _, Nat.zero_le _⟩ (fun _ _ _ h => h.elim) (fun x104 s105 h => ?_)
    exact x_iret dX0_weeks_29 rfl (Or.inl ⟨_, _, h, rfl, rfl⟩)
  · have h := h.2 c103
    refine x_iload_2 dX0_weeks_12 ?_
    refine x_i2l dX0_weeks_13 ?_
    refine x_lconst (v := 1) dX0_weeks_14 (by decide) ?_
    refine x_ldc2 dX0_weeks_15 q1533 ?_
    refine t_cSi (As := [_, _, _]) rfl cs_X0_5 rfl rfl (xrm4 (Nat.le_of_ble_eq_true rfl)) dX0_weeks_18 (e_X0_in (by omega) h) ⟨Nat.zero_le _, Nat.zero_le _⟩ (fun _ _ _ h => h.elim) (fun x107 s108 h => ?_)
    refine x_if_ne 30 dX0_weeks_21 (by decide) (fun c109 => ?_) (fun c109 => ?_)
    · have h := h.1 c109
      refine t_aload_0 dX0_weeks_30 ?_
      obtain ⟨e112, h⟩ := h
      refine t_cVi (As := []) rfl cv_X0_142 rfl e112 rfl rfl (xrm4 (Nat.le_of_ble_eq_true rfl)) dX0_weeks_31 (e_X0_nNotes (by omega) h) ⟨Nat.zero_le _, Nat.zero_le _⟩ (fun _ _ _ h => h.elim) (fun x110 s111 h => ?_)
      refine x_if_ne 44 dX0_weeks_34 (by decide) (fun c113 => ?_) (fun c113 => ?_)
      · have h := h.1 c113
        obtain ⟨e114, h⟩ := h
        obtain ⟨e115, h⟩ := h
        refine t_new (N := 1) dX0_weeks_44 ne_X0_434 rfl e114 e115 (fun q h1 h2 h3 => ?_)
        have h := h q h1 h2 (fun e => h3 (e.trans (hN 200)))
        refine t_gen h (fun s117 w118 h => ?_)
        have e119 := h2
        refine x_dup dX0_weeks_47 (rfv_c _) ?_
        refine x_iload_1 dX0_weeks_48 ?_
        refine t_cI (As := [_]) rfl ci_X0_436 e119 rfl rfl (xrm4 (Nat.le_of_ble_eq_true rfl)) dX0_weeks_49 (e_X22_init (by omega) h) ⟨Nat.zero_le _, Nat.zero_le _⟩ (fun _ _ _ h => h.elim) (fun _ s121 h => ?_)
        refine t_astore_3 dX0_weeks_52 (by decide) xN2_i ?_
        refine t_aload_0 dX0_weeks_53 ?_
        obtain ⟨e122, h⟩ := h
        refine t_getR dX0_weeks_54 fa_X0_43_0 (by decide) e122 ?_
        refine t_aload_0 dX0_weeks_57 ?_
        refine t_cVr (As := []) rfl cv_X0_157 rfl e122 rfl rfl (xrm4 (Nat.le_of_ble_eq_true rfl)) dX0_weeks_58 (e_X0_books (by omega) h) ⟨Nat.zero_le _, Nat.zero_le _⟩ (fun _ _ _ h => h.elim) (fun x123 s124 h => ?_)
        obtain ⟨e127, h⟩ := h
        refine t_cVr (As := [_]) rfl cv_X0_329 rfl e127 rfl rfl (xrm4 (Nat.le_of_ble_eq_true rfl)) dX0_weeks_61 (e_X2_as (by omega) h) ⟨Nat.zero_le _, Nat.zero_le _⟩ (fun _ _ _ h => h.elim) (fun x125 s126 h => ?_)
        refine x_pop dX0_weeks_64 (rfv_c _) ?_
        refine x_iconst (v := 0) dX0_weeks_65 (by decide) ?_
        refine x_istore_4 dX0_weeks_66 (by decide) xN2_f ?_
        refine x_iconst (v := 0) dX0_weeks_68 (by decide) ?_
        refine x_istore_5 dX0_weeks_69 (by decide) xN2_i ?_
        refine x_le (xLe_cons (xLe_none (xLe_cons (xLe_cons (xLe_cons (xLe_cons (xLe_cons (xLe_cons (xLe_cons (xLe_nil)))))))))) (e_X0_weeks_71 hN (by omega) _ _ _ _ _  _ _ _ _ _ _ h (fun x128 k130 n131 s129 h => ?_))
        refine t_aload_0 dX0_weeks_196 ?_
        obtain ⟨e132, h⟩ := h
        refine t_getR dX0_weeks_197 fa_X0_114_0 (by decide) e132 ?_
        refine t_aload_0 dX0_weeks_200 ?_
        refine t_cVr (As := []) rfl cv_X0_157 rfl e132 rfl rfl (xrm4 (Nat.le_of_ble_eq_true rfl)) dX0_weeks_201 (e_X0_books (by omega) h) ⟨Nat.zero_le _, Nat.zero_le _⟩ (fun _ _ _ h => h.elim) (fun x133 s134 h => ?_)
        obtain ⟨e137, h⟩ := h
        refine t_cVr (As := [_]) rfl cv_X0_329 rfl e137 rfl rfl (xrm4 (Nat.le_of_ble_eq_true rfl)) dX0_weeks_204 (e_X2_as (by omega) h) ⟨Nat.zero_le _, Nat.zero_le _⟩ (fun _ _ _ h => h.elim) (fun x135 s136 h => ?_)
        refine x_pop dX0_weeks_207 (rfv_c _) ?_
        refine t_aload_0 dX0_weeks_208 ?_
        refine t_aload_0 dX0_weeks_209 ?_
        obtain ⟨e140, h⟩ := h
        refine t_cVi (As := []) rfl cv_X0_142 rfl e140 rfl rfl (xrm4 (Nat.le_of_ble_eq_true rfl)) dX0_weeks_210 (e_X0_nNotes (by omega) h) ⟨Nat.zero_le _, Nat.zero_le _⟩ (fun _ _ _ h => h.elim) (fun x138 s139 h => ?_)
        obtain ⟨e141, h⟩ := h
        refine t_putI (j := 27) dX0_weeks_213 fp_X0_117_0 (by decide) e141 rfl rfl ?_
        refine t_gen h (fun s142 w143 h => ?_)
        refine t_aload_0 dX0_weeks_216 ?_
        refine t_cVr (As := []) rfl cv_X0_157 rfl (tO_w w143 e141) rfl rfl (xrm4 (Nat.le_of_ble_eq_true rfl)) dX0_weeks_217 (e_X0_books (by omega) h) ⟨Nat.zero_le _, Nat.zero_le _⟩ (fun _ _ _ h => h.elim) (fun x144 s145 h => ?_)
        refine t_aload_0 dX0_weeks_220 ?_
        obtain ⟨e146, h⟩ := h
        refine t_getR dX0_weeks_221 fa_X0_43_0 (by decide) e146 ?_
        obtain ⟨e149, h⟩ := h
        refine t_cVr (As := [_]) rfl cv_X0_329 rfl e149 rfl rfl (xrm4 (Nat.le_of_ble_eq_true rfl)) dX0_weeks_224 (e_X2_as (by omega) h) ⟨Nat.zero_le _, Nat.zero_le _⟩ (fun _ _ _ h => h.elim) (fun x147 s148 h => ?_)
        refine x_pop dX0_weeks_227 (rfv_c _) ?_
        refine t_aload_0 dX0_weeks_228 ?_
        refine x_iload_4 dX0_weeks_229 ?_
        obtain ⟨e152, h⟩ := h
        refine t_cVi (As := [_]) rfl cv_X0_132 rfl e152 rfl rfl (xrm4 (Nat.le_of_ble_eq_true rfl)) dX0_weeks_231 (e_X0_tell (by omega) h) ⟨Nat.zero_le _, Nat.zero_le _⟩ (fun _ _ _ h => h.elim) (fun x150 s151 h => ?_)
        exact x_iret dX0_weeks_234 rfl (Or.inl ⟨_, _, h, rfl, rfl⟩)
      · have h := h.2 c113
        refine t_aload_0 dX0_weeks_37 ?_
        refine x_bipush (v := (-3)) dX0_weeks_38 (by decide) ?_
        obtain ⟨e155, h⟩ := h
        refine t_cVi (As := [_]) rfl cv_X0_132 rfl e155 rfl rfl (xrm4 (Nat.le_of_ble_eq_true rfl)) dX0_weeks_40 (e_X0_tell (by omega) h) ⟨Nat.zero_le _, Nat.zero_le _⟩ (fun _ _ _ h => h.elim) (fun x153 s154 h => ?_)
        exact x_iret dX0_weeks_43 rfl (Or.inl ⟨_, _, h, rfl, rfl⟩)
    · have h := h.2 c109
      refine t_aload_0 dX0_weeks_24 ?_
      refine x_iconst (v := (-1)) dX0_weeks_25 (by decide) ?_
      obtain ⟨e158, h⟩ := h
      refine t_cVi (As := [_]) rfl cv_X0_132 rfl e158 rfl rfl (xrm4 (Nat.le_of_ble_eq_true rfl)) dX0_weeks_26 (e_X0_tell (by omega) h) ⟨Nat.zero_le _, Nat.zero_le _⟩ (fun _ _ _ h => h.elim) (fun x156 s157 h => ?_)
      exact x_iret dX0_weeks_29 rfl (Or.inl ⟨_, _, h, rfl, rfl⟩)
