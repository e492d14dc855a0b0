set_option maxRecDepth 100000
def v_X0_few_127 (N : tP) (x1 : Int32) (x3 : Nat) (Kr : Int64 → tM → Prop) (K : Int64 → Nat → Nat → tM → Prop) : Nat → Int64 → Int32 → Nat → Nat → tM → Prop
  | 0, _, _, _, _, _ => False
  | t + 1, x5, x7, k, n, s => ((x1 ≤ x7 → (K x5 k n s)) ∧ (¬ x1 ≤ x7 → (tX s 1 x3 x7 ∧ (∀ x103 : Int64, x103 = x5 + (tJ s x3 x7.toNatClampNeg) → (∀ x104 : Int32, x104 = x7 + 1 → ((fun x5 x7 k n s => v_X0_few_127 N x1 x3 Kr K t x5 x7 k n s) x103 x104 k n s))))))
theorem e_X0_few_127 {G : xG} {l : Launch} {g : xH} {d : Nat} {N : tP} (hN : tNs G N) (hd : 3 ≤ d) (x1 : Int32) (x3 : Nat) (Kr : Int64 → tM → Prop) (K : Int64 → Nat → Nat → tM → Prop) : ∀ (t : Nat) (x5 : Int64) (x7 : Int32) (k n : Nat) (s : tM) , v_X0_few_127 N x1 x3 Kr K t x5 x7 k n s → (∀ (z5 : Int64) (k n : Nat) (s : tM), K z5 k n s → xF G l kX0_few (d + 1) k n (tQ G g wl Kr tNo) 148 [none, none, none, none, none, some (.long z5), none, none] [] (tH G g s)) → xF G l kX0_few (d + 1) k n (tQ G g wl Kr tNo) 127 [none, some (.int x1), none, some (rfv x3), none, some (.long x5), none, some (.int x7)] [] (tH G g s) := by
  intro t
  induction t with
  | zero =>
    intro _ _ _ _ _ h _
    exact absurd h (by simp [v_X0_few_127])
  | succ t ih =>
    intro x5 x7 k n s h hK
    have hR := fun x5 x7 k n s h => ih x5 x7 k n s h hK
    unfold v_X0_few_127 at h
    refine x_iload_7 dX0_few_127 ?_
    refine x_iload_1 dX0_few_129 ?_
    refine x_icmp_ge 148 dX0_few_130 (by decide) (fun c101 => ?_) (fun c101 => ?_)
    · have h := h.1 c101
      exact x_le (xLe_cons (xLe_none (xLe_cons (xLe_none (xLe_cons (xLe_cons (xLe_cons (xLe_none (xLe_nil))))))))) (hK _ _ _ _ h)
    · have h := h.2 c101
      refine x_lload_5 dX0_few_133 ?_
      refine t_aload_3 dX0_few_135 ?_
      refine x_iload_7 dX0_few_136 ?_
      obtain ⟨e102, h⟩ := h
      refine t_lald dX0_few_138 e102 ?_
      refine x_ladd dX0_few_139 ?_
      refine x_lstore_5 dX0_few_140 (by decide) xN2_none ?_
      have h := h _ rfl
      refine x_iinc_7 (v := 1) dX0_few_142 (by decide) (by decide) xN2_none ?_
      have h := h _ rfl
      refine x_goto 127 dX0_few_145 (by decide) ?_
      exact x_le (xLe_cons (xLe_cons (xLe_cons (xLe_cons (xLe_cons (xLe_cons (xLe_cons (xLe_cons (xLe_nil))))))))) (hR _ _ _ _ _ h)
def v_X0_few_64 (N : tP) (x1 : Int32) (x2 : Int32) (x3 : Nat) (x4 : Int32) (x5 : Int32) (Kr : Int64 → tM → Prop) (K : Nat → Nat → tM → Prop) : Nat → Int32 → Nat → Nat → tM → Prop
  | 0, _, _, _, _ => False
  | t + 1, x6, k, n, s => ((x6 < 0 → (K k n s)) ∧ (¬ x6 < 0 → (∀ x102 : Int32, x102 = x6 + 1 → (tX s 1 x3 x102 ∧ (tX s 1 x3 x6 ∧ (∀ x105 : Int64, x105 = (tJ s x3 x6.toNatClampNeg) * ((x4 : Int32).toInt64) → (tX s 1 x3 x102 ∧ (∀ s107 : tM, s107 = tsJ s x3 x102.toNatClampNeg ((tJ s x3 x102.toNatClampNeg) + (x105 / 10)) → (tX s107 1 x3 x6 ∧ (∀ x110 : Int64, x110 = (tJ s107 x3 x6.toNatClampNeg) * ((10 - x4 : Int32).toInt64) → (tX s107 1 x3 x6 ∧ (∀ s112 : tM, s112 = tsJ s107 x3 x6.toNatClampNeg (x110 / 10) → (∀ x114 : Int32, x114 = x6 + (-1) → ((fun x6 k n s => v_X0_few_64 N x1 x2 x3 x4 x5 Kr K t x6 k n s) x114 k n s112))))))))))))))
theorem e_X0_few_64 {G : xG} {l : Launch} {g : xH} {d : Nat} {N : tP} (hN : tNs G N) (hd : 3 ≤ d) (x1 : Int32) (x2 : Int32) (x3 : Nat) (x4 : Int32) (x5 : Int32) (Kr : Int64 → tM → Prop) (K : Nat → Nat → tM → Prop) : ∀ (t : Nat) (x6 : Int32) (k n : Nat) (s : tM) , v_X0_few_64 N x1 x2 x3 x4 x5 Kr K t x6 k n s → (∀ (k n : Nat) (s : tM), K k n s → xF G l kX0_few (d + 1) k n (tQ G g wl Kr tNo) 115 [none, some (.int x1), some (.int x2), some (rfv x3), some (.int x4), some (.int x5), none, none] [] (tH G g s)) → xF G l kX0_few (d + 1) k n (tQ G g wl Kr tNo) 64 [none, some (.int x1), some (.int x2), some (rfv x3), some (.int x4), some (.int x5), some (.int x6), none] [] (tH G g s) := by
  intro t
  induction t with
  | zero =>
    intro _ _ _ _ h _
    exact absurd h (by simp [v_X0_few_64])
  | succ t ih =>
    intro x6 k n s h hK
    have hR := fun x6 k n s h => ih x6 k n s h hK
    unfold v_X0_few_64 at h
    refine x_iload_6 dX0_few_64 ?_
    refine x_if_lt 115 dX0_few_66 (by decide) (fun c101 => ?_) (fun c101 => ?_)
    · have h := h.1 c101
      exact x_le (xLe_cons (xLe_cons (xLe_cons (xLe_cons (xLe_cons (xLe_cons (xLe_none (xLe_cons (xLe_nil))))))))) (hK _ _ _ h)
    · have h := h.2 c101
      refine t_aload_3 dX0_few_69 ?_
      refine x_iload_6 dX0_few_70 ?_
      refine x_iconst (v := 1) dX0_few_72 (by decide) ?_
      refine x_iadd dX0_few_73 ?_
      refine x_dup2 dX0_few_74 rfl (rfv_c _) ?_
      have h := h _ rfl
      obtain ⟨e103, h⟩ := h
      refine t_lald dX0_few_75 e103 ?_
      refine t_aload_3 dX0_few_76 ?_
      refine x_iload_6 dX0_few_77 ?_
      obtain ⟨e104, h⟩ := h
      refine t_lald dX0_few_79 e104 ?_
      refine x_iload_4 dX0_few_80 ?_
      refine x_i2l dX0_few_82 ?_
      refine x_lmul dX0_few_83 ?_
      refine x_ldc2 dX0_few_84 q611 ?_
      have h := h _ rfl
      refine x_ldiv dX0_few_87 (by decide) ?_
      refine x_ladd dX0_few_88 ?_
      obtain ⟨e106, h⟩ := h
      refine t_last dX0_few_89 e106 ?_
      refine t_gen h (fun s107 w108 h => ?_)
      refine t_aload_3 dX0_few_90 ?_
      refine x_iload_6 dX0_few_91 ?_
      refine t_aload_3 dX0_few_93 ?_
      refine x_iload_6 dX0_few_94 ?_
      obtain ⟨e109, h⟩ := h
      refine t_lald dX0_few_96 e109 ?_
      refine x_bipush (v := 10) dX0_few_97 (by decide) ?_
      refine x_iload_4 dX0_few_99 ?_
      refine x_isub dX0_few_101 ?_
      refine x_i2l dX0_few_102 ?_
      refine x_lmul dX0_few_103 ?_
      refine x_ldc2 dX0_few_104 q611 ?_
      have h := h _ rfl
      refine x_ldiv dX0_few_107 (by decide) ?_
      obtain ⟨e111, h⟩ := h
      refine t_last dX0_few_108 e111 ?_
      refine t_gen h (fun s112 w113 h => ?_)
      refine x_iinc_6 (v := (-1)) dX0_few_109 (by decide) (by decide) xN2_i ?_
      have h := h _ rfl
      refine x_goto 64 dX0_few_112 (by decide) ?_
      exact x_le (xLe_cons (xLe_cons (xLe_cons (xLe_cons (xLe_cons (xLe_cons (xLe_cons (xLe_cons (xLe_nil))))))))) (hR _ _ _ _ h)
def v_X0_few_53 (N : tP) (x1 : Int32) (x2 : Int32) (x3 : Nat) (x4 : Int32) (Kr : Int64 → tM → Prop) (K : Nat → Nat → tM → Prop) : Nat → Int32 → Nat → Nat → tM → Prop
  | 0, _, _, _, _ => False
  | t + 1, x5, k, n, s => ((x2 ≤ x5 → (K k n s)) ∧ (¬ x2 ≤ x5 → (∀ x102 : Int32, x102 = x1 - 1 → (v_X0_few_64 N x1 x2 x3 x4 x5 Kr (fun k104 n105 s103 => (∀ x106 : Int32, x106 = x5 + 1 → ((fun x5 k n s => v_X0_few_53 N x1 x2 x3 x4 Kr K t x5 k n s) x106 k104 n105 s103))) N.1 x102 k n s))))
theorem e_X0_few_53 {G : xG} {l : Launch} {g : xH} {d : Nat} {N : tP} (hN : tNs G N) (hd : 3 ≤ d) (x1 : Int32) (x2 : Int32) (x3 : Nat) (x4 : Int32) (Kr : Int64 → tM → Prop) (K : Nat → Nat → tM → Prop) : ∀ (t : Nat) (x5 : Int32) (k n : Nat) (s : tM) , v_X0_few_53 N x1 x2 x3 x4 Kr K t x5 k n s → (∀ (k n : Nat) (s : tM), K k n s → xF G l kX0_few (d + 1) k n (tQ G g wl Kr tNo) 121 [none, some (.int x1), none, some (rfv x3), none, none, none, none] [] (tH G g s)) → xF G l kX0_few (d + 1) k n (tQ G g wl Kr tNo) 53 [none, some (.int x1), some (.int x2), some (rfv x3), some (.int x4), some (.int x5), none, none] [] (tH G g s) := by
  intro t
  induction t with
  | zero =>
    intro _ _ _ _ h _
    exact absurd h (by simp [v_X0_few_53])
  | succ t ih =>
    intro x5 k n s h hK
    have hR := fun x5 k n s h => ih x5 k n s h hK
    unfold v_X0_few_53 at h
    refine x_iload_5 dX0_few_53 ?_
    refine x_iload_2 dX0_few_55 ?_
    refine x_icmp_ge 121 dX0_few_56 (by decide) (fun c101 => ?_) (fun c101 => ?_)
    · have h := h.1 c101
      exact x_le (xLe_cons (xLe_cons (xLe_none (xLe_cons (xLe_none (xLe_none (xLe_cons (xLe_cons (xLe_nil))))))))) (hK _ _ _ h)
    · have h := h.2 c101
      refine x_iload_1 dX0_few_59 ?_
      refine x_iconst (v := 1) dX0_few_60 (by decide) ?_
      refine x_isub dX0_few_61 ?_
      refine x_istore_6 dX0_few_62 (by decide) xN2_i ?_
      have h := h _ rfl
      refine x_le (xLe_cons (xLe_cons (xLe_cons (xLe_cons (xLe_cons (xLe_cons (xLe_cons (xLe_cons (xLe_nil))))))))) (e_X0_few_64 hN (by omega) _ _ _ _ _ _ _  _ _ _ _ _ h (fun k104 n105 s103 h => ?_))
      refine x_iinc_5 (v := 1) dX0_few_115 (by decide) (by decide) xN2_i ?_
      have h := h _ rfl
      refine x_goto 53 dX0_few_118 (by decide) ?_
      exact x_le (xLe_cons (xLe_cons (xLe_cons (xLe_cons (xLe_cons (xLe_cons (xLe_cons (xLe_cons (xLe_nil))))))))) (hR _ _ _ _ h)
def v_X0_few (N : tP) (x0 : Nat) (x1 : Int32) (x2 : Int32) (k n : Nat) (s : tM) (Kr : Int64 → tM → Prop) : Prop :=
  (v_X0_in ((x1 : Int32).toInt64) 1 20 s (fun x101 s102 => ((x101 = 0 → (Kr (-1) s102)) ∧ (¬ x101 = 0 → (v_X0_in ((x2 : Int32).toInt64) 0 99 s102 (fun x104 s105 => ((¬ x104 = 0 → (1 ≤ k ∧ (21 ≤ n ∧ (∀ q109 : Nat, s105.1 q109 = none → ¬ q109 = 0 → ¬ q109 = N.2.2 200 → (∀ s110 : tM, s110 = tNew s105 q109 (.inr (1, 21)) → (tX s110 1 q109 0 ∧ (∀ s113 : tM, s113 = tsJ s110 q109 0 1000000000000 → (tO s113 0 x0 ∧ (tO s113 1 (tR s113 x0 0) ∧ (tX s113 0 (tR s113 (tR s113 x0 0) 1) 1 ∧ (∀ x118 : Int32, x118 = tI s113 (tR s113 (tR s113 x0 0) 1) 1 → (v_X0_few_53 N x1 x2 q109 x118 Kr (fun k120 n121 s119 => (v_X0_few_127 N x1 q109 Kr (fun x122 k124 n125 s123 => (Kr x122 s123)) N.1 0 0 k120 n121 s119)) N.1 0 (k - 1) (n - 21) s113)))))))))))) ∧ (x104 = 0 → (Kr (-1) s105)))))))))
theorem e_X0_few {G : xG} {l : Launch} {g : xH} {d : Nat} {N : tP} (hN : tNs G N) (hd : 4 ≤ d) {x0 : Nat} {x1 : Int32} {x2 : Int32} {k n : Nat} {s : tM} {Kr : Int64 → tM → Prop} (h : v_X0_few N x0 x1 x2 k n s Kr) : xC G l kX0_few d k n [rfv x0, .int x1, .int x2] (tH G g s) (tQ G g wl Kr tNo) := by
  obtain ⟨d, rfl⟩ : ∃ z, d = z + 1 := ⟨d - 1, by omega⟩
  refine t_start rfl (by decide +kernel) (by simp [xct_i, xct_l, rfv_c]) (lv := [some (rfv x0), some (.int x1), some (.int x2), none, none, none, none, none]) (by simp [lv_args, xLv, rfv_c, xct_i, xct_l]) ?_
  unfold v_X0_few at h
  refine x_iload_1 dX0_few_0 ?_
  refine x_i2l dX0_few_1 ?_
  refine x_lconst (v := 1) dX0_few_2 (by decide) ?_
  refine x_ldc2 dX0_few_3 q1446 ?_
  refine t_cSi (As := [_, _, _]) rfl cs_X0_5 rfl rfl (xrm4 (Nat.le_of_ble_eq_true rfl)) dX0_few_6 (e_X0_in (by omega) h) ⟨Nat.zero_le _, Nat.zero_le _⟩ (fun _ _ _ h => h.elim) (fun x101 s102 h => ?_)
  refine x_if_eq 24 dX0_few_9 (by decide) (fun c103 => ?_) (fun c103 => ?_)
  · have h := h.1 c103
    refine x_ldc2 dX0_few_24 q1448 ?_
    exact x_lret dX0_few_27 rfl (Or.inl ⟨_, _, h, rfl, rfl⟩)
  · have h := h.2 c103
    refine x_iload_2 dX0_few_12 ?_
    refine x_i2l dX0_few_13 ?_
    refine x_lconst (v := 0) dX0_few_14 (by decide) ?_
    refine x_ldc2 dX0_few_15 q1447 ?_
    refine t_cSi (As := [_, _, _]) rfl cs_X0_5 rfl rfl (xrm4 (Nat.le_of_ble_eq_true rfl)) dX0_few_18 (e_X0_in (by omega) h) ⟨Nat.zero_le _, Nat.zero_le _⟩ (fun _ _ _ h => h.elim) (fun x104 s105 h => ?_)
    refine x_if_ne 28 dX0_few_21 (by decide) (fun c106 => ?_) (fun c106 => ?_)
    · have h := h.1 c106
      refine x_bipush (v := 21) dX0_few_28 (by decide) ?_
      obtain ⟨e107, h⟩ := h
      obtain ⟨e108, h⟩ := h
      refine t_newarr (t := 1) (N := 21) dX0_few_30 rfl rfl q312 (by decide) rfl (fun _ _ h => h) (by decide) (by decide) (by decide) e107 e108 (fun q h1 h2 h3 => ?_)
      have h := h q h1 h2 (fun e => h3 (e.trans (hN 200)))
      refine t_gen h (fun s110 w111 h => ?_)
      refine t_astore_3 dX0_few_32 (by decide) xN2_i ?_
      refine t_aload_3 dX0_few_33 ?_
      refine x_iconst (v := 0) dX0_few_34 (by decide) ?_
      refine x_ldc2 dX0_few_35 q1449 ?_
      obtain ⟨e112, h⟩ := h
      refine t_last dX0_few_38 e112 ?_
      refine t_gen h (fun s113 w114 h => ?_)
      refine t_aload_0 dX0_few_39 ?_
      obtain ⟨e115, h⟩ := h
      refine t_getR dX0_few_40 fa_X0_18_0 (by decide) e115 ?_
      obtain ⟨e116, h⟩ := h
      refine t_getR dX0_few_43 fa_X0_199_1 (by decide) e116 ?_
      refine x_iconst (v := 1) dX0_few_46 (by decide) ?_
      obtain ⟨e117, h⟩ := h
      refine t_iald dX0_few_47 e117 ?_
      refine x_istore_4 dX0_few_48 (by decide) xN2_f ?_
      have h := h _ rfl
      refine x_iconst (v := 0) dX0_few_50 (by decide) ?_
      refine x_istore_5 dX0_few_51 (by decide) xN2_i ?_
      refine x_le (xLe_none (xLe_cons (xLe_cons (xLe_cons (xLe_cons (xLe_cons (xLe_cons (xLe_cons (xLe_nil))))))))) (e_X0_few_53 hN (by omega) _ _ _ _ _ _  _ _ _ _ _ h (fun k120 n121 s119 h => ?_))
      refine x_lconst (v := 0) dX0_few_121 (by decide) ?_
      refine x_lstore_5 dX0_few_122 (by decide) xN2_none ?_
      refine x_iconst (v := 0) dX0_few_124 (by decide) ?_
      refine x_istore_7 dX0_few_125 (by decide) xN2_none ?_
      refine x_le (xLe_cons (xLe_cons (xLe_cons (xLe_cons (xLe_cons (xLe_cons (xLe_cons (xLe_cons (xLe_nil))))))))) (e_X0_few_127 hN (by omega) _ _ _ _  _ _ _ _ _ _ h (fun x122 k124 n125 s123 h => ?_))
      refine x_lload_5 dX0_few_148 ?_
      exact x_lret dX0_few_150 rfl (Or.inl ⟨_, _, h, rfl, rfl⟩)
    · have h := h.2 c106
      refine x_ldc2 dX0_few_24 q1448 ?_
      exact x_lret dX0_few_27 rfl (Or.inl ⟨_, _, h, rfl, rfl⟩)
def v_X0_had (x0 : Nat) (x1 : Int32) (s : tM) (Kr : Int32 → tM → Prop) : Prop :=
  (tO s 0 x0 ∧ (∀ s102 : tM, s102 = tsI s x0 10 0 → (Kr x1 s102)))
theorem e_X0_had {G : xG} {l : Launch} {g : xH} {d : Nat} (hd : 2 ≤ d) {x0 : Nat} {x1 : Int32} {s : tM} {Kr : Int32 → tM → Prop} (h : v_X0_had x0 x1 s Kr) : xC G l kX0_had d 0 0 [rfv x0, .int x1] (tH G g s) (tQ G g wi Kr tNo) := by
  obtain ⟨d, rfl⟩ : ∃ z, d = z + 1 := ⟨d - 1, by omega⟩
  refine t_start rfl (by decide +kernel) (by simp [xct_i, xct_l, rfv_c]) (lv := [some (rfv x0), some (.int x1)]) (by simp [lv_args, xLv, rfv_c, xct_i, xct_l]) ?_
  unfold v_X0_had at h
  refine t_aload_0 dX0_had_0 ?_
  refine x_iconst (v := 0) dX0_had_1 (by decide) ?_
  obtain ⟨e101, h⟩ := h
  refine t_putI (j := 10) dX0_had_2 fp_X0_126_0 (by decide) e101 rfl rfl ?_
  refine t_gen h (fun s102 w103 h => ?_)
  refine x_iload_1 dX0_had_5 ?_
  exact x_iret dX0_had_6 rfl (Or.inl ⟨_, _, h, rfl, rfl⟩)
def v_X0_force (x0 : Nat) (x1 : Int32) (s : tM) (Kr : Int32 → tM → Prop) : Prop :=
  (tO s 0 x0 ∧ (v_X0_isLaw x0 x1 s (fun x101 s102 => ((¬ x101 = 0 → (tO s102 0 x0 ∧ (tO s102 1 (tR s102 x0 0) ∧ (∀ x107 : Int32, x107 = tI s102 (tR s102 x0 0) 6 → (∀ s108 : tM, s108 = tsI s102 (tR s102 x0 0) 6 x1 → (v_X0_had x0 x107 s108 (fun x110 s111 => (Kr x110 s111)))))))) ∧ (x101 = 0 → (tO s102 0 x0 ∧ (v_X0_tell x0 (-2) s102 (fun x112 s113 => (Kr x112 s113)))))))))
theorem e_X0_force {G : xG} {l : Launch} {g : xH} {d : Nat} (hd : 6 ≤ d) {x0 : Nat} {x1 : Int32} {s : tM} {Kr : Int32 → tM → Prop} (h : v_X0_force x0 x1 s Kr) : xC G l kX0_force d 0 0 [rfv x0, .int x1] (tH G g s) (tQ G g wi Kr tNo) := by
  obtain ⟨d, rfl⟩ : ∃ z, d = z + 1 := ⟨d - 1, by omega⟩
  refine t_start rfl (by decide +kernel) (by simp [xct_i, xct_l, rfv_c]) (lv := [some (rfv x0), some (.int x1), none]) (by simp [lv_args, xLv, rfv_c, xct_i, xct_l]) ?_
  unfold v_X0_force at h
  refine t_aload_0 dX0_force_0 ?_
  refine x_iload_1 dX0_force_1 ?_
  obtain ⟨e103, h⟩ := h
  refine t_cVi (As := [_]) rfl cv_X0_254 rfl e103 rfl rfl (xrm4 (Nat.le_of_ble_eq_true rfl)) dX0_force_2 (e_X0_isLaw (by omega) h) ⟨Nat.zero_le _, Nat.zero_le _⟩ (fun _ _ _ h => h.elim) (fun x101 s102 h => ?_)
  refine x_if_ne 15 dX0_force_5 (by decide) (fun c104 => ?_) (fun c104 => ?_)
  · have h := h.1 c104
    refine t_aload_0 dX0_force_15 ?_
    obtain ⟨e105, h⟩ := h
    refine t_getR dX0_force_16 fa_X0_18_0 (by decide) e105 ?_
    obtain ⟨e106, h⟩ := h
    refine t_getI dX0_force_19 fa_X0_257_1 (by decide) e106 ?_
    refine x_istore_2 dX0_force_22 (by decide) xN2_i ?_
    have h := h _ rfl
    refine t_aload_0 dX0_force_23 ?_
    refine t_getR dX0_force_24 fa_X0_18_0 (by decide) e105 ?_
    refine x_iload_1 dX0_force_27 ?_
    refine t_putI (j := 6) dX0_force_28 fp_X0_257_1 (by decide) e106 rfl rfl ?_
    refine t_gen h (fun s108 w109 h => ?_)
    refine t_aload_0 dX0_force_31 ?_
    refine x_iload_2 dX0_force_32 ?_
    refine t_cVi (As := [_]) rfl cv_X0_209 rfl (tO_w w109 e105) rfl rfl (xrm4 (Nat.le_of_ble_eq_true rfl)) dX0_force_33 (e_X0_had (by omega) h) ⟨Nat.zero_le _, Nat.zero_le _⟩ (fun _ _ _ h => h.elim) (fun x110 s111 h => ?_)
    exact x_iret dX0_force_36 rfl (Or.inl ⟨_, _, h, rfl, rfl⟩)
  · have h := h.2 c104
    refine t_aload_0 dX0_force_8 ?_
    refine x_bipush (v := (-2)) dX0_force_9 (by decide) ?_
    obtain ⟨e114, h⟩ := h
    refine t_cVi (As := [_]) rfl cv_X0_132 rfl e114 rfl rfl (xrm4 (Nat.le_of_ble_eq_true rfl)) dX0_force_11 (e_X0_tell (by omega) h) ⟨Nat.zero_le _, Nat.zero_le _⟩ (fun _ _ _ h => h.elim) (fun x112 s113 h => ?_)
    exact x_iret dX0_force_14 rfl (Or.inl ⟨_, _, h, rfl, rfl⟩)
def v_X0_forget (x0 : Nat) (s : tM) (Kr : Int32 → tM → Prop) : Prop :=
  (tO s 0 x0 ∧ (tO s 1 (tR s x0 0) ∧ (∀ x103 : Int32, x103 = tI s (tR s x0 0) 5 → (∀ s104 : tM, s104 = tsI s (tR s x0 0) 5 0 → (Kr x103 s104)))))
theorem e_X0_forget {G : xG} {l : Launch} {g : xH} {d : Nat} (hd : 2 ≤ d) {x0 : Nat} {s : tM} {Kr : Int32 → tM → Prop} (h : v_X0_forget x0 s Kr) : xC G l kX0_forget d 0 0 [rfv x0] (tH G g s) (tQ G g wi Kr tNo) := by
  obtain ⟨d, rfl⟩ : ∃ z, d = z + 1 := ⟨d - 1, by omega⟩
  refine t_start rfl (by decide +kernel) (by simp [xct_i, xct_l, rfv_c]) (lv := [some (rfv x0), none]) (by simp [lv_args, xLv, rfv_c, xct_i, xct_l]) ?_
  unfold v_X0_forget at h
  refine t_aload_0 dX0_forget_0 ?_
  obtain ⟨e101, h⟩ := h
  refine t_getR dX0_forget_1 fa_X0_18_0 (by decide) e101 ?_
  obtain ⟨e102, h⟩ := h
  refine t_getI dX0_forget_4 fa_X0_378_1 (by decide) e102 ?_
  refine x_istore_1 dX0_forget_7 (by decide) xN2_f ?_
  have h := h _ rfl
  refine t_aload_0 dX0_forget_8 ?_
  refine t_getR dX0_forget_9 fa_X0_18_0 (by decide) e101 ?_
  refine x_iconst (v := 0) dX0_forget_12 (by decide) ?_
  refine t_putI (j := 5) dX0_forget_13 fp_X0_378_1 (by decide) e102 rfl rfl ?_
  refine t_gen h (fun s104 w105 h => ?_)
  refine x_iload_1 dX0_forget_16 ?_
  exact x_iret dX0_forget_17 rfl (Or.inl ⟨_, _, h, rfl, rfl⟩)
def v_X0_has (x0 : Int32) (x1 : Int32) (s : tM) (Kr : Int32 → tM → Prop) : Prop :=
  ((¬ ((x0 >>> (x1 &&& 31)) &&& 1) = 1 → (Kr 0 s)) ∧ (((x0 >>> (x1 &&& 31)) &&& 1) = 1 → (Kr 1 s)))
theorem e_X0_has {G : xG} {l : Launch} {g : xH} {d : Nat} (hd : 2 ≤ d) {x0 : Int32} {x1 : Int32} {s : tM} {Kr : Int32 → tM → Prop} (h : v_X0_has x0 x1 s Kr) : xC G l kX0_has d 0 0 [.int x0, .int x1] (tH G g s) (tQ G g wi Kr tNo) := by
  obtain ⟨d, rfl⟩ : ∃ z, d = z + 1 := ⟨d - 1, by omega⟩
  refine t_start rfl (by decide +kernel) (by simp [xct_i, xct_l, rfv_c]) (lv := [some (.int x0), some (.int x1)]) (by simp [lv_args, xLv, rfv_c, xct_i, xct_l]) ?_
  unfold v_X0_has at h
  refine x_iload_0 dX0_has_0 ?_
  refine x_iload_1 dX0_has_1 ?_
  refine x_ishr dX0_has_2 ?_
  refine x_iconst (v := 1) dX0_has_3 (by decide) ?_
  refine x_iand dX0_has_4 ?_
  refine x_iconst (v := 1) dX0_has_5 (by decide) ?_
  refine x_icmp_ne 13 dX0_has_6 (by decide) (fun c101 => ?_) (fun c101 => ?_)
  · have h := h.1 c101
    refine x_iconst (v := 0) dX0_has_13 (by decide) ?_
    exact x_zret0 dX0_has_14 rfl (Or.inl ⟨_, _, h, rfl, rfl⟩)
  · have h := h.2 c101
    refine x_iconst (v := 1) dX0_has_9 (by decide) ?_
    refine x_goto 14 dX0_has_10 (by decide) ?_
    exact x_zret1 dX0_has_14 rfl (Or.inl ⟨_, _, h, rfl, rfl⟩)
def v_X0_heard (x0 : Nat) (x1 : Int32) (x2 : Int32) (s : tM) (Kr : Int32 → tM → Prop) : Prop :=
  (v_X0_in ((x1 : Int32).toInt64) 0 3 s (fun x101 s102 => ((x101 = 0 → (tO s102 0 x0 ∧ (v_X0_tell x0 (-1) s102 (fun x104 s105 => (Kr x104 s105))))) ∧ (¬ x101 = 0 → (v_X0_in ((x2 : Int32).toInt64) (-24) 999 s102 (fun x107 s108 => ((¬ x107 = 0 → (tO s108 0 x0 ∧ (tO s108 1 (tR s108 x0 0) ∧ ((¬ (tI s108 (tR s108 x0 0) 5) = 6 → (∀ x113 : Nat, x113 = tR s108 x0 0 → (tO s108 1 x113 ∧ (∀ x115 : Int32, x115 = tI s108 x113 5 → (∀ s116 : tM, s116 = tsI s108 x113 5 (x115 + 1) → (tX s116 11 (tR s108 (tR s108 x0 0) 2) x115 ∧ (∀ x119 : Nat, x119 = tR s116 (tR s108 (tR s108 x0 0) 2) x115.toNatClampNeg → (tX s116 0 x119 0 ∧ (∀ s121 : tM, s121 = tsI s116 x119 0 x1 → (tX s121 0 x119 1 ∧ (∀ s124 : tM, s124 = tsI s121 x119 1 x2 → (tO s124 1 (tR s124 x0 0) ∧ (v_X0_tell x0 (tI s124 (tR s124 x0 0) 5) s124 (fun x127 s128 => (Kr x127 s128))))))))))))))) ∧ ((tI s108 (tR s108 x0 0) 5) = 6 → (v_X0_tell x0 (-5) s108 (fun x129 s130 => (Kr x129 s130)))))))) ∧ (x107 = 0 → (tO s108 0 x0 ∧ (v_X0_tell x0 (-1) s108 (fun x131 s132 => (Kr x131 s132))))))))))))
theorem e_X0_heard {G : xG} {l : Launch} {g : xH} {d : Nat} (hd : 4 ≤ d) {x0 : Nat} {x1 : Int32} {x2 : Int32} {s : tM} {Kr : Int32 → tM → Prop} (h : v_X0_heard x0 x1 x2 s Kr) : xC G l kX0_heard d 0 0 [rfv x0, .int x1, .int x2] (tH G g s) (tQ G g wi Kr tNo) := by
  obtain ⟨d, rfl⟩ : ∃ z, d = z + 1 := ⟨d - 1, by omega⟩
  refine t_start rfl (by decide +kernel) (by simp [xct_i, xct_l, rfv_c]) (lv := [some (rfv x0), some (.int x1), some (.int x2), none]) (by simp [lv_args, xLv, rfv_c, xct_i, xct_l]) ?_
  unfold v_X0_heard at h
  refine x_iload_1 dX0_heard_0 ?_
  refine x_i2l dX0_heard_1 ?_
  refine x_lconst (v := 0) dX0_heard_2 (by decide) ?_
  refine x_ldc2 dX0_heard_3 q1416 ?_
  refine t_cSi (As := [_, _, _]) rfl cs_X0_5 rfl rfl (xrm4 (Nat.le_of_ble_eq_true rfl)) dX0_heard_6 (e_X0_in (by omega) h) ⟨Nat.zero_le _, Nat.zero_le _⟩ (fun _ _ _ h => h.elim) (fun x101 s102 h => ?_)
  refine x_if_eq 26 dX0_heard_9 (by decide) (fun c103 => ?_) (fun c103 => ?_)
  · have h := h.1 c103
    refine t_aload_0 dX0_heard_26 ?_
    refine x_iconst (v := (-1)) dX0_heard_27 (by decide) ?_
    obtain ⟨e106, h⟩ := h
    refine t_cVi (As := [_]) rfl cv_X0_132 rfl e106 rfl rfl (xrm4 (Nat.le_of_ble_eq_true rfl)) dX0_heard_28 (e_X0_tell (by omega) h) ⟨Nat.zero_le _, Nat.zero_le _⟩ (fun _ _ _ h => h.elim) (fun x104 s105 h => ?_)
    exact x_iret dX0_heard_31 rfl (Or.inl ⟨_, _, h, rfl, rfl⟩)
  · have h := h.2 c103
    refine x_iload_2 dX0_heard_12 ?_
    refine x_i2l dX0_heard_13 ?_
    refine x_ldc2 dX0_heard_14 q1417 ?_
    refine x_ldc2 dX0_heard_17 q610 ?_
    refine t_cSi (As := [_, _, _]) rfl cs_X0_5 rfl rfl (xrm4 (Nat.le_of_ble_eq_true rfl)) dX0_heard_20 (e_X0_in (by omega) h) ⟨Nat.zero_le _, Nat.zero_le _⟩ (fun _ _ _ h => h.elim) (fun x107 s108 h => ?_)
    refine x_if_ne 32 dX0_heard_23 (by decide) (fun c109 => ?_) (fun c109 => ?_)
    · have h := h.1 c109
      refine t_aload_0 dX0_heard_32 ?_
      obtain ⟨e110, h⟩ := h
      refine t_getR dX0_heard_33 fa_X0_18_0 (by decide) e110 ?_
      obtain ⟨e111, h⟩ := h
      refine t_getI dX0_heard_36 fa_X0_378_1 (by decide) e111 ?_
      refine x_bipush (v := 6) dX0_heard_39 (by decide) ?_
      refine x_icmp_ne 51 dX0_heard_41 (by decide) (fun c112 => ?_) (fun c112 => ?_)
      · have h := h.1 c112
        refine t_aload_0 dX0_heard_51 ?_
        refine t_getR dX0_heard_52 fa_X0_18_0 (by decide) e110 ?_
        refine t_getR dX0_heard_55 fa_X0_381_1 (by decide) e111 ?_
        refine t_aload_0 dX0_heard_58 ?_
        refine t_getR dX0_heard_59 fa_X0_18_0 (by decide) e110 ?_
        refine x_dup dX0_heard_62 (rfv_c _) ?_
        have h := h _ rfl
        obtain ⟨e114, h⟩ := h
        refine t_getI dX0_heard_63 fa_X0_378_1 (by decide) e114 ?_
        refine x_dup_x1 dX0_heard_66 rfl (rfv_c _) ?_
        have h := h _ rfl
        refine x_iconst (v := 1) dX0_heard_67 (by decide) ?_
        refine x_iadd dX0_heard_68 ?_
        refine t_putI (j := 5) dX0_heard_69 fp_X0_378_1 (by decide) e114 rfl rfl ?_
        refine t_gen h (fun s116 w117 h => ?_)
        obtain ⟨e118, h⟩ := h
        refine t_aald (t := 11) dX0_heard_72 ⟨rfl, by decide, by decide⟩ rfl e118 ?_
        refine t_astore_3 dX0_heard_73 (by decide) xN2_i ?_
        have h := h _ rfl
        refine t_aload_3 dX0_heard_74 ?_
        refine x_iconst (v := 0) dX0_heard_75 (by decide) ?_
        refine x_iload_1 dX0_heard_76 ?_
        obtain ⟨e120, h⟩ := h
        refine t_iast dX0_heard_77 e120 ?_
        refine t_gen h (fun s121 w122 h => ?_)
        refine t_aload_3 dX0_heard_78 ?_
        refine x_iconst (v := 1) dX0_heard_79 (by decide) ?_
        refine x_iload_2 dX0_heard_80 ?_
        obtain ⟨e123, h⟩ := h
        refine t_iast dX0_heard_81 e123 ?_
        refine t_gen h (fun s124 w125 h => ?_)
        refine t_aload_0 dX0_heard_82 ?_
        refine t_aload_0 dX0_heard_83 ?_
        refine t_getR dX0_heard_84 fa_X0_18_0 (by decide) (tO_w w125 (tO_w w122 (tO_w w117 e110))) ?_
        obtain ⟨e126, h⟩ := h
        refine t_getI dX0_heard_87 fa_X0_378_1 (by decide) e126 ?_
        refine t_cVi (As := [_]) rfl cv_X0_132 rfl (tO_w w125 (tO_w w122 (tO_w w117 e110))) rfl rfl (xrm4 (Nat.le_of_ble_eq_true rfl)) dX0_heard_90 (e_X0_tell (by omega) h) ⟨Nat.zero_le _, Nat.zero_le _⟩ (fun _ _ _ h => h.elim) (fun x127 s128 h => ?_)
        exact x_iret dX0_heard_93 rfl (Or.inl ⟨_, _, h, rfl, rfl⟩)
      · have h := h.2 c112
        refine t_aload_0 dX0_heard_44 ?_
        refine x_bipush (v := (-5)) dX0_heard_45 (by decide) ?_
        refine t_cVi (As := [_]) rfl cv_X0_132 rfl e110 rfl rfl (xrm4 (Nat.le_of_ble_eq_true rfl)) dX0_heard_47 (e_X0_tell (by omega) h) ⟨Nat.zero_le _, Nat.zero_le _⟩ (fun _ _ _ h => h.elim) (fun x129 s130 h => ?_)
        exact x_iret dX0_heard_50 rfl (Or.inl ⟨_, _, h, rfl, rfl⟩)
    · have h := h.2 c109
      refine t_aload_0 dX0_heard_26 ?_
      refine x_iconst (v := (-1)) dX0_heard_27 (by decide) ?_
      obtain ⟨e133, h⟩ := h
      refine t_cVi (As := [_]) rfl cv_X0_132 rfl e133 rfl rfl (xrm4 (Nat.le_of_ble_eq_true rfl)) dX0_heard_28 (e_X0_tell (by omega) h) ⟨Nat.zero_le _, Nat.zero_le _⟩ (fun _ _ _ h => h.elim) (fun x131 s132 h => ?_)
      exact x_iret dX0_heard_31 rfl (Or.inl ⟨_, _, h, rfl, rfl⟩)
def v_X0_image (N : tP) (x0 : Nat) (x1 : Int32) (k n : Nat) (s : tM) (Kr : Int32 → tM → Prop) : Prop :=
  (v_X0_in ((x1 : Int32).toInt64) 0 1 s (fun x101 s102 => ((¬ x101 = 0 → (tO s102 0 x0 ∧ (∃ c107 c108 : Nat, c107 ≤ k ∧ c108 ≤ n ∧ (tO s102 1 (tR s102 x0 0) ∧ (v_X1_copy N (tR s102 x0 0) c107 c108 s102 (fun x105 s106 => (tX s106 4 (tR s102 x0 1) x1 ∧ (tO s106 1 x105 ∧ (∀ s114 : tM, s114 = tsR s106 (tR s102 x0 1) x1.toNatClampNeg x105 → (tO s114 0 x0 ∧ (v_X0_tell x0 0 s114 (fun x116 s117 => (Kr x116 s117))))))))))))) ∧ (x101 = 0 → (tO s102 0 x0 ∧ (v_X0_tell x0 (-1) s102 (fun x119 s120 => (Kr x119 s120))))))))
theorem e_X0_image {G : xG} {l : Launch} {g : xH} {d : Nat} {N : tP} (hN : tNs G N) (hd : 12 ≤ d) {x0 : Nat} {x1 : Int32} {k n : Nat} {s : tM} {Kr : Int32 → tM → Prop} (h : v_X0_image N x0 x1 k n s Kr) : xC G l kX0_image d k n [rfv x0, .int x1] (tH G g s) (tQ G g wi Kr tNo) := by
  obtain ⟨d, rfl⟩ : ∃ z, d = z + 1 := ⟨d - 1, by omega⟩
  refine t_start rfl (by decide +kernel) (by simp [xct_i, xct_l, rfv_c]) (lv := [some (rfv x0), some (.int x1)]) (by simp [lv_args, xLv, rfv_c, xct_i, xct_l]) ?_
  unfold v_X0_image at h
  refine x_iload_1 dX0_image_0 ?_
  refine x_i2l dX0_image_1 ?_
  refine x_lconst (v := 0) dX0_image_2 (by decide) ?_
  refine x_lconst (v := 1) dX0_image_3 (by decide) ?_
  refine t_cSi (As := [_, _, _]) rfl cs_X0_5 rfl rfl (xrm4 (Nat.le_of_ble_eq_true rfl)) dX0_image_4 (e_X0_in (by omega) h) ⟨Nat.zero_le _, Nat.zero_le _⟩ (fun _ _ _ h => h.elim) (fun x101 s102 h => ?_)
  refine x_if_ne 16 dX0_image_7 (by decide) (fun c103 => ?_) (fun c103 => ?_)
  · have h := h.1 c103
    refine t_aload_0 dX0_image_16 ?_
    obtain ⟨e104, h⟩ := h
    refine t_getR dX0_image_17 fa_X0_22_0 (by decide) e104 ?_
    refine x_iload_1 dX0_image_20 ?_
    refine t_aload_0 dX0_image_21 ?_
    refine t_getR dX0_image_22 fa_X0_18_0 (by decide) e104 ?_
    obtain ⟨c107, c108, e109, e110, h⟩ := h
    obtain ⟨e111, h⟩ := h
    refine t_cVr (As := []) rfl cv_X0_441 rfl e111 rfl rfl (xrm4 (Nat.le_of_ble_eq_true rfl)) dX0_image_25 (e_X1_copy hN (by omega) h) ⟨e109, e110⟩ (fun _ _ _ h => h.elim) (fun x105 s106 h => ?_)
    obtain ⟨e112, h⟩ := h
    obtain ⟨e113, h⟩ := h
    refine t_aast dX0_image_28 st_4_1 e113 e112 ?_
    refine t_gen h (fun s114 w115 h => ?_)
    refine t_aload_0 dX0_image_29 ?_
    refine x_iconst (v := 0) dX0_image_30 (by decide) ?_
    obtain ⟨e118, h⟩ := h
    refine t_cVi (As := [_]) rfl cv_X0_132 rfl e118 rfl rfl (xrm4 (Nat.le_of_ble_eq_true rfl)) dX0_image_31 (e_X0_tell (by omega) h) ⟨Nat.zero_le _, Nat.zero_le _⟩ (fun _ _ _ h => h.elim) (fun x116 s117 h => ?_)
    exact x_iret dX0_image_34 rfl (Or.inl ⟨_, _, h, rfl, rfl⟩)
  · have h := h.2 c103
    refine t_aload_0 dX0_image_10 ?_
    refine x_iconst (v := (-1)) dX0_image_11 (by decide) ?_
    obtain ⟨e121, h⟩ := h
    refine t_cVi (As := [_]) rfl cv_X0_132 rfl e121 rfl rfl (xrm4 (Nat.le_of_ble_eq_true rfl)) dX0_image_12 (e_X0_tell (by omega) h) ⟨Nat.zero_le _, Nat.zero_le _⟩ (fun _ _ _ h => h.elim) (fun x119 s120 h => ?_)
    exact x_iret dX0_image_15 rfl (Or.inl ⟨_, _, h, rfl, rfl⟩)
def v_X3_init_15 (N : tP) (x0 : Nat) (Kr : tM → Prop) (K : Nat → Nat → tM → Prop) : Nat → Int32 → Nat → Nat → tM → Prop
  | 0, _, _, _, _ => False
  | t + 1, x1, k, n, s => ((16 ≤ x1 → (K k n s)) ∧ (¬ 16 ≤ x1 → (tO s 3 x0 ∧ (1 ≤ k ∧ (4 ≤ n ∧ (∀ q105 : Nat, s.1 q105 = none → ¬ q105 = 0 → ¬ q105 = N.2.2 200 → (∀ s106 : tM, s106 = tNew s q105 (.inl 2) → (∃ c111 c112 : Nat, c111 ≤ k - 1 ∧ c112 ≤ n - 4 ∧ (v_X2_init N q105 c111 c112 s106 (fun s110 => (tX s110 5 (tR s x0 0) x1 ∧ (tO s110 2 q105 ∧ (∀ s117 : tM, s117 = tsR s110 (tR s x0 0) x1.toNatClampNeg q105 → (∀ x119 : Int32, x119 = x1 + 1 → ((fun x1 k n s => v_X3_init_15 N x0 Kr K t x1 k n s) x119 ((k - 1) - c111) ((n - 4) - c112) s117)))))))))))))))
theorem e_X3_init_15 {G : xG} {l : Launch} {g : xH} {d : Nat} {N : tP} (hN : tNs G N) (hd : 3 ≤ d) (x0 : Nat) (Kr : tM → Prop) (K : Nat → Nat → tM → Prop) : ∀ (t : Nat) (x1 : Int32) (k n : Nat) (s : tM) , v_X3_init_15 N x0 Kr K t x1 k n s → (∀ (k n : Nat) (s : tM), K k n s → xF G l kX3_init (d + 1) k n (tQ G g wu (fun _ => Kr) tNo) 40 [none, none] [] (tH G g s)) → xF G l kX3_init (d + 1) k n (tQ G g wu (fun _ => Kr) tNo) 15 [some (rfv x0), some (.int x1)] [] (tH G g s) := by
  intro t
  induction t with
  | zero =>
    intro _ _ _ _ h _
    exact absurd h (by simp [v_X3_init_15])
  | succ t ih =>
    intro x1 k n s h hK
    have hR := fun x1 k n s h => ih x1 k n s h hK
    unfold v_X3_init_15 at h
    refine x_iload_1 dX3_init_15 ?_
    refine x_bipush (v := 16) dX3_init_16 (by decide) ?_
    refine x_icmp_ge 40 dX3_init_18 (by decide) (fun c101 => ?_) (fun c101 => ?_)
    · have h := h.1 c101
      exact x_le (xLe_none (xLe_none (xLe_nil))) (hK _ _ _ h)
    · have h := h.2 c101
      refine t_aload_0 dX3_init_21 ?_
      obtain ⟨e102, h⟩ := h
      refine t_getR dX3_init_22 fa_X3_11_3 (by decide) e102 ?_
      refine x_iload_1 dX3_init_25 ?_
      obtain ⟨e103, h⟩ := h
      obtain ⟨e104, h⟩ := h
      refine t_new (N := 4) dX3_init_26 ne_X3_9 rfl e103 e104 (fun q h1 h2 h3 => ?_)
      have h := h q h1 h2 (fun e => h3 (e.trans (hN 200)))
      refine t_gen h (fun s106 w107 h => ?_)
      have e108 := h2
      refine x_dup dX3_init_29 (rfv_c _) ?_
      obtain ⟨c111, c112, e113, e114, h⟩ := h
      refine t_cIN (As := []) rfl cin_X3_17 e108 rfl rfl (xrm4 (Nat.le_of_ble_eq_true rfl)) dX3_init_30 (e_X2_init hN (by omega) h) ⟨e113, e114⟩ (fun _ _ _ h => h.elim) (fun _ s110 h => ?_)
      obtain ⟨e115, h⟩ := h
      obtain ⟨e116, h⟩ := h
      refine t_aast dX3_init_33 st_5_2 e116 e115 ?_
      refine t_gen h (fun s117 w118 h => ?_)
      refine x_iinc_1 (v := 1) dX3_init_34 (by decide) (by decide) xN2_f ?_
      have h := h _ rfl
      refine x_goto 15 dX3_init_37 (by decide) ?_
      exact x_le (xLe_cons (xLe_cons (xLe_nil))) (hR _ _ _ _ h)
def v_X3_init (N : tP) (x0 : Nat) (k n : Nat) (s : tM) (Kr : tM → Prop) : Prop :=
  (tO s 3 x0 ∧ (1 ≤ k ∧ (16 ≤ n ∧ (∀ q104 : Nat, s.1 q104 = none → ¬ q104 = 0 → ¬ q104 = N.2.2 200 → (∀ s105 : tM, s105 = tNew s q104 (.inr (5, 16)) → (tO s105 3 x0 ∧ (∀ s108 : tM, s108 = tsR s105 x0 0 q104 → (v_X3_init_15 N x0 Kr (fun k111 n112 s110 => (Kr s110)) N.1 0 (k - 1) (n - 16) s108))))))))
theorem e_X3_init {G : xG} {l : Launch} {g : xH} {d : Nat} {N : tP} (hN : tNs G N) (hd : 4 ≤ d) {x0 : Nat} {k n : Nat} {s : tM} {Kr : tM → Prop} (h : v_X3_init N x0 k n s Kr) : xC G l kX3_init d k n [rfv x0] (tH G g s) (tQ G g wu (fun _ => Kr) tNo) := by
  obtain ⟨d, rfl⟩ : ∃ z, d = z + 1 := ⟨d - 1, by omega⟩
  refine t_start rfl (by decide +kernel) (by simp [xct_i, xct_l, rfv_c]) (lv := [some (rfv x0), none]) (by simp [lv_args, xLv, rfv_c, xct_i, xct_l]) ?_
  unfold v_X3_init at h
  refine t_aload_0 dX3_init_0 ?_
  obtain ⟨e101, h⟩ := h
  refine t_obj dX3_init_1 ob_X3_3 e101.2 (Nat.le_of_ble_eq_true rfl) (by omega) ?_
  refine t_aload_0 dX3_init_4 ?_
  refine x_bipush (v := 16) dX3_init_5 (by decide) ?_
  obtain ⟨e102, h⟩ := h
  obtain ⟨e103, h⟩ := h
  refine t_anew (t := 5) (N := 16) dX3_init_7 nq_X3_9 (by decide) (by decide) (by decide) e102 e103 (fun q h1 h2 h3 => ?_)
  have h := h q h1 h2 (fun e => h3 (e.trans (hN 200)))
  refine t_gen h (fun s105 w106 h => ?_)
  obtain ⟨e107, h⟩ := h
  refine t_putFR (j := 0) dX3_init_10 ff_X3_11_3 rfl (by decide) e107 rfl ?_
  refine t_gen h (fun s108 w109 h => ?_)
  refine x_iconst (v := 0) dX3_init_13 (by decide) ?_
  refine x_istore_1 dX3_init_14 (by decide) xN2_f ?_
  refine x_le (xLe_cons (xLe_cons (xLe_nil))) (e_X3_init_15 hN (by omega) _ _ _  _ _ _ _ _ h (fun k111 n112 s110 h => ?_))
  exact x_vret dX3_init_40 rfl (Or.inl ⟨(), _, h, rfl, rfl⟩)
def v_X4_init (N : tP) (x0 : Nat) (k n : Nat) (s : tM) (Kr : tM → Prop) : Prop :=
  (tO s 4 x0 ∧ (1 ≤ k ∧ (10 ≤ n ∧ (∀ q104 : Nat, s.1 q104 = none → ¬ q104 = 0 → ¬ q104 = N.2.2 200 → (∀ s105 : tM, s105 = tNew s q104 (.inr (1, 10)) → (tO s105 4 x0 ∧ (∀ s108 : tM, s108 = tsR s105 x0 0 q104 → (Kr s108))))))))
theorem e_X4_init {G : xG} {l : Launch} {g : xH} {d : Nat} {N : tP} (hN : tNs G N) (hd : 2 ≤ d) {x0 : Nat} {k n : Nat} {s : tM} {Kr : tM → Prop} (h : v_X4_init N x0 k n s Kr) : xC G l kX4_init d k n [rfv x0] (tH G g s) (tQ G g wu (fun _ => Kr) tNo) := by
  obtain ⟨d, rfl⟩ : ∃ z, d = z + 1 := ⟨d - 1, by omega⟩
  refine t_start rfl (by decide +kernel) (by simp [xct_i, xct_l, rfv_c]) (lv := [some (rfv x0)]) (by simp [lv_args, xLv, rfv_c, xct_i, xct_l]) ?_
  unfold v_X4_init at h
  refine t_aload_0 dX4_init_0 ?_
  obtain ⟨e101, h⟩ := h
  refine t_obj dX4_init_1 ob_X4_1 e101.2 (Nat.le_of_ble_eq_true rfl) (by omega) ?_
  refine t_aload_0 dX4_init_4 ?_
  refine x_bipush (v := 10) dX4_init_5 (by decide) ?_
  obtain ⟨e102, h⟩ := h
  obtain ⟨e103, h⟩ := h
  refine t_newarr (t := 1) (N := 10) dX4_init_7 rfl rfl q312 (by decide) rfl (fun _ _ h => h) (by decide) (by decide) (by decide) e102 e103 (fun q h1 h2 h3 => ?_)
  have h := h q h1 h2 (fun e => h3 (e.trans (hN 200)))
  refine t_gen h (fun s105 w106 h => ?_)
  obtain ⟨e107, h⟩ := h
  refine t_putFR (j := 0) dX4_init_9 ff_X4_7_4 rfl (by decide) e107 rfl ?_
  refine t_gen h (fun s108 w109 h => ?_)
  exact x_vret dX4_init_12 rfl (Or.inl ⟨(), _, h, rfl, rfl⟩)
def v_X5_init (x0 : Nat) (x1 : Nat) (s : tM) (Kr : tM → Prop) : Prop :=
  (tO s 5 x0 ∧ (∀ s102 : tM, s102 = tsR s x0 0 x1 → (Kr s102)))
theorem e_X5_init {G : xG} {l : Launch} {g : xH} {d : Nat} (hd : 2 ≤ d) {x0 : Nat} {x1 : Nat} {s : tM} {Kr : tM → Prop} (h : v_X5_init x0 x1 s Kr) : xC G l kX5_init d 0 0 [rfv x0, rfv x1] (tH G g s) (tQ G g wu (fun _ => Kr) tNo) := by
  obtain ⟨d, rfl⟩ : ∃ z, d = z + 1 := ⟨d - 1, by omega⟩
  refine t_start rfl (by decide +kernel) (by simp [xct_i, xct_l, rfv_c]) (lv := [some (rfv x0), some (rfv x1)]) (by simp [lv_args, xLv, rfv_c, xct_i, xct_l]) ?_
  unfold v_X5_init at h
  refine t_aload_0 dX5_init_0 ?_
  obtain ⟨e101, h⟩ := h
  refine t_obj dX5_init_1 ob_X5_1 e101.2 (Nat.le_of_ble_eq_true rfl) (by omega) ?_
  refine t_aload_0 dX5_init_4 ?_
  refine t_aload_1 dX5_init_5 ?_
  refine t_putFR (j := 0) dX5_init_6 ff_X5_7_5 rfl (by decide) e101 rfl ?_
  refine t_gen h (fun s102 w103 h => ?_)
  exact x_vret dX5_init_9 rfl (Or.inl ⟨(), _, h, rfl, rfl⟩)
def v_X0_init (N : tP) (x0 : Nat) (k n : Nat) (s : tM) (Kr : tM → Prop) : Prop :=
  (tO s 0 x0 ∧ (1 ≤ k ∧ (7 ≤ n ∧ (∀ q104 : Nat, s.1 q104 = none → ¬ q104 = 0 → ¬ q104 = N.2.2 200 → (∀ s105 : tM, s105 = tNew s q104 (.inl 1) → (∃ c110 c111 : Nat, c110 ≤ k - 1 ∧ c111 ≤ n - 7 ∧ (v_X1_init N q104 c110 c111 s105 (fun s109 => (tO s109 0 x0 ∧ (∀ s115 : tM, s115 = tsR s109 x0 0 q104 → (1 ≤ ((k - 1) - c110) ∧ (2 ≤ ((n - 7) - c111) ∧ (∀ q119 : Nat, s115.1 q119 = none → ¬ q119 = 0 → ¬ q119 = N.2.2 200 → (∀ s120 : tM, s120 = tNew s115 q119 (.inr (4, 2)) → (tO s120 0 x0 ∧ (∀ s123 : tM, s123 = tsR s120 x0 1 q119 → (1 ≤ (((k - 1) - c110) - 1) ∧ (2 ≤ (((n - 7) - c111) - 2) ∧ (∀ q127 : Nat, s123.1 q127 = none → ¬ q127 = 0 → ¬ q127 = N.2.2 200 → (∀ s128 : tM, s128 = tNew s123 q127 (.inl 3) → (∃ c133 c134 : Nat, c133 ≤ (((k - 1) - c110) - 1) - 1 ∧ c134 ≤ (((n - 7) - c111) - 2) - 2 ∧ (v_X3_init N q127 c133 c134 s128 (fun s132 => (tO s132 0 x0 ∧ (∀ s138 : tM, s138 = tsR s132 x0 2 q127 → (1 ≤ (((((k - 1) - c110) - 1) - 1) - c133) ∧ (2 ≤ (((((n - 7) - c111) - 2) - 2) - c134) ∧ (∀ q142 : Nat, s138.1 q142 = none → ¬ q142 = 0 → ¬ q142 = N.2.2 200 → (∀ s143 : tM, s143 = tNew s138 q142 (.inl 3) → (∃ c148 c149 : Nat, c148 ≤ (((((k - 1) - c110) - 1) - 1) - c133) - 1 ∧ c149 ≤ (((((n - 7) - c111) - 2) - 2) - c134) - 2 ∧ (v_X3_init N q142 c148 c149 s143 (fun s147 => (tO s147 0 x0 ∧ (∀ s153 : tM, s153 = tsR s147 x0 3 q142 → (1 ≤ (((((((k - 1) - c110) - 1) - 1) - c133) - 1) - c148) ∧ (4 ≤ (((((((n - 7) - c111) - 2) - 2) - c134) - 2) - c149) ∧ (∀ q157 : Nat, s153.1 q157 = none → ¬ q157 = 0 → ¬ q157 = N.2.2 200 → (∀ s158 : tM, s158 = tNew s153 q157 (.inl 2) → (∃ c163 c164 : Nat, c163 ≤ (((((((k - 1) - c110) - 1) - 1) - c133) - 1) - c148) - 1 ∧ c164 ≤ (((((((n - 7) - c111) - 2) - 2) - c134) - 2) - c149) - 4 ∧ (v_X2_init N q157 c163 c164 s158 (fun s162 => (tO s162 0 x0 ∧ (∀ s168 : tM, s168 = tsR s162 x0 4 q157 → (1 ≤ (((((((((k - 1) - c110) - 1) - 1) - c133) - 1) - c148) - 1) - c163) ∧ (4 ≤ (((((((((n - 7) - c111) - 2) - 2) - c134) - 2) - c149) - 4) - c164) ∧ (∀ q172 : Nat, s168.1 q172 = none → ¬ q172 = 0 → ¬ q172 = N.2.2 200 → (∀ s173 : tM, s173 = tNew s168 q172 (.inl 2) → (∃ c178 c179 : Nat, c178 ≤ (((((((((k - 1) - c110) - 1) - 1) - c133) - 1) - c148) - 1) - c163) - 1 ∧ c179 ≤ (((((((((n - 7) - c111) - 2) - 2) - c134) - 2) - c149) - 4) - c164) - 4 ∧ (v_X2_init N q172 c178 c179 s173 (fun s177 => (tO s177 0 x0 ∧ (∀ s183 : tM, s183 = tsR s177 x0 5 q172 → (1 ≤ (((((((((((k - 1) - c110) - 1) - 1) - c133) - 1) - c148) - 1) - c163) - 1) - c178) ∧ (2 ≤ (((((((((((n - 7) - c111) - 2) - 2) - c134) - 2) - c149) - 4) - c164) - 4) - c179) ∧ (∀ q187 : Nat, s183.1 q187 = none → ¬ q187 = 0 → ¬ q187 = N.2.2 200 → (∀ s188 : tM, s188 = tNew s183 q187 (.inl 4) → (∃ c193 c194 : Nat, c193 ≤ (((((((((((k - 1) - c110) - 1) - 1) - c133) - 1) - c148) - 1) - c163) - 1) - c178) - 1 ∧ c194 ≤ (((((((((((n - 7) - c111) - 2) - 2) - c134) - 2) - c149) - 4) - c164) - 4) - c179) - 2 ∧ (v_X4_init N q187 c193 c194 s188 (fun s192 => (tO s192 0 x0 ∧ (∀ s198 : tM, s198 = tsR s192 x0 6 q187 → (1 ≤ (((((((((((((k - 1) - c110) - 1) - 1) - c133) - 1) - c148) - 1) - c163) - 1) - c178) - 1) - c193) ∧ (2 ≤ (((((((((((((n - 7) - c111) - 2) - 2) - c134) - 2) - c149) - 4) - c164) - 4) - c179) - 2) - c194) ∧ (∀ q202 : Nat, s198.1 q202 = none → ¬ q202 = 0 → ¬ q202 = N.2.2 200 → (∀ s203 : tM, s203 = tNew s198 q202 (.inl 4) → (∃ c208 c209 : Nat, c208 ≤ (((((((((((((k - 1) - c110) - 1) - 1) - c133) - 1) - c148) - 1) - c163) - 1) - c178) - 1) - c193) - 1 ∧ c209 ≤ (((((((((((((n - 7) - c111) - 2) - 2) - c134) - 2) - c149) - 4) - c164) - 4) - c179) - 2) - c194) - 2 ∧ (v_X4_init N q202 c208 c209 s203 (fun s207 => (tO s207 0 x0 ∧ (∀ s213 : tM, s213 = tsR s207 x0 7 q202 → (1 ≤ (((((((((((((((k - 1) - c110) - 1) - 1) - c133) - 1) - c148) - 1) - c163) - 1) - c178) - 1) - c193) - 1) - c208) ∧ (1 ≤ (((((((((((((((n - 7) - c111) - 2) - 2) - c134) - 2) - c149) - 4) - c164) - 4) - c179) - 2) - c194) - 2) - c209) ∧ (∀ q217 : Nat, s213.1 q217 = none → ¬ q217 = 0 → ¬ q217 = N.2.2 200 → (∀ s218 : tM, s218 = tNew s213 q217 (.inl 5) → (1 ≤ ((((((((((((((((k - 1) - c110) - 1) - 1) - c133) - 1) - c148) - 1) - c163) - 1) - c178) - 1) - c193) - 1) - c208) - 1) ∧ (0 ≤ ((((((((((((((((n - 7) - c111) - 2) - 2) - c134) - 2) - c149) - 4) - c164) - 4) - c179) - 2) - c194) - 2) - c209) - 1) ∧ (∀ q223 : Nat, s218.1 q223 = none → ¬ q223 = 0 → ¬ q223 = N.2.2 200 → (∀ s224 : tM, s224 = tNew s218 q223 (.inr (6, 0)) → (tO s224 5 q217 ∧ (v_X5_init q217 q223 s224 (fun s227 => (tO s227 0 x0 ∧ (∀ s230 : tM, s230 = tsR s227 x0 8 q217 → (1 ≤ (((((((((((((((((k - 1) - c110) - 1) - 1) - c133) - 1) - c148) - 1) - c163) - 1) - c178) - 1) - c193) - 1) - c208) - 1) - 1) ∧ (7 ≤ (((((((((((((((((n - 7) - c111) - 2) - 2) - c134) - 2) - c149) - 4) - c164) - 4) - c179) - 2) - c194) - 2) - c209) - 1) - 0) ∧ (∀ q234 : Nat, s230.1 q234 = none → ¬ q234 = 0 → ¬ q234 = N.2.2 200 → (∀ s235 : tM, s235 = tNew s230 q234 (.inr (0, 7)) → (tO s235 0 x0 ∧ (∀ s238 : tM, s238 = tsR s235 x0 9 q234 → (∀ s240 : tM, s240 = tsI s238 x0 11 (-1) → (∀ s242 : tM, s242 = tsI s240 x0 13 (-1) → (1 ≤ ((((((((((((((((((k - 1) - c110) - 1) - 1) - c133) - 1) - c148) - 1) - c163) - 1) - c178) - 1) - c193) - 1) - c208) - 1) - 1) - 1) ∧ (400 ≤ ((((((((((((((((((n - 7) - c111) - 2) - 2) - c134) - 2) - c149) - 4) - c164) - 4) - c179) - 2) - c194) - 2) - c209) - 1) - 0) - 7) ∧ (∀ q246 : Nat, s242.1 q246 = none → ¬ q246 = 0 → ¬ q246 = N.2.2 200 → (∀ s247 : tM, s247 = tNew s242 q246 (.inr (2, 400)) → (tO s247 0 x0 ∧ (∀ s250 : tM, s250 = tsR s247 x0 14 q246 → (325 ≤ (((((((((((((((((((k - 1) - c110) - 1) - 1) - c133) - 1) - c148) - 1) - c163) - 1) - c178) - 1) - c193) - 1) - c208) - 1) - 1) - 1) - 1) ∧ (8124 ≤ (((((((((((((((((((n - 7) - c111) - 2) - 2) - c134) - 2) - c149) - 4) - c164) - 4) - c179) - 2) - c194) - 2) - c209) - 1) - 0) - 7) - 400) ∧ (∀ q254 : Nat, (∀ j : Nat, j ≤ 324 → s250.1 (q254 + j) = none) → ¬ q254 = 0 → (∀ j : Nat, ¬ q254 + j = N.2.2 200) → (∀ s255 : tM, s255 = tMk3 s250 q254 13 12 12 26 3 25 12 → (tO s255 0 x0 ∧ (∀ s258 : tM, s258 = tsR s255 x0 16 q254 → (325 ≤ ((((((((((((((((((((k - 1) - c110) - 1) - 1) - c133) - 1) - c148) - 1) - c163) - 1) - c178) - 1) - c193) - 1) - c208) - 1) - 1) - 1) - 1) - 325) ∧ (8124 ≤ ((((((((((((((((((((n - 7) - c111) - 2) - 2) - c134) - 2) - c149) - 4) - c164) - 4) - c179) - 2) - c194) - 2) - c209) - 1) - 0) - 7) - 400) - 8124) ∧ (∀ q262 : Nat, (∀ j : Nat, j ≤ 324 → s258.1 (q262 + j) = none) → ¬ q262 = 0 → (∀ j : Nat, ¬ q262 + j = N.2.2 200) → (∀ s263 : tM, s263 = tMk3 s258 q262 14 12 11 26 0 25 12 → (tO s263 0 x0 ∧ (∀ s266 : tM, s266 = tsR s263 x0 17 q262 → (325 ≤ (((((((((((((((((((((k - 1) - c110) - 1) - 1) - c133) - 1) - c148) - 1) - c163) - 1) - c178) - 1) - c193) - 1) - c208) - 1) - 1) - 1) - 1) - 325) - 325) ∧ (8124 ≤ (((((((((((((((((((((n - 7) - c111) - 2) - 2) - c134) - 2) - c149) - 4) - c164) - 4) - c179) - 2) - c194) - 2) - c209) - 1) - 0) - 7) - 400) - 8124) - 8124) ∧ (∀ q270 : Nat, (∀ j : Nat, j ≤ 324 → s266.1 (q270 + j) = none) → ¬ q270 = 0 → (∀ j : Nat, ¬ q270 + j = N.2.2 200) → (∀ s271 : tM, s271 = tMk3 s266 q270 14 12 11 26 0 25 12 → (tO s271 0 x0 ∧ (∀ s274 : tM, s274 = tsR s271 x0 18 q270 → (14 ≤ ((((((((((((((((((((((k - 1) - c110) - 1) - 1) - c133) - 1) - c148) - 1) - c163) - 1) - c178) - 1) - c193) - 1) - c208) - 1) - 1) - 1) - 1) - 325) - 325) - 325) ∧ (351 ≤ ((((((((((((((((((((((n - 7) - c111) - 2) - 2) - c134) - 2) - c149) - 4) - c164) - 4) - c179) - 2) - c194) - 2) - c209) - 1) - 0) - 7) - 400) - 8124) - 8124) - 8124) ∧ (∀ q278 : Nat, (∀ j : Nat, j ≤ 13 → s274.1 (q278 + j) = none) → ¬ q278 = 0 → (∀ j : Nat, ¬ q278 + j = N.2.2 200) → (∀ s279 : tM, s279 = tMk s274 q278 11 13 0 26 13 → (tO s279 0 x0 ∧ (∀ s282 : tM, s282 = tsR s279 x0 19 q278 → (14 ≤ (((((((((((((((((((((((k - 1) - c110) - 1) - 1) - c133) - 1) - c148) - 1) - c163) - 1) - c178) - 1) - c193) - 1) - c208) - 1) - 1) - 1) - 1) - 325) - 325) - 325) - 14) ∧ (351 ≤ (((((((((((((((((((((((n - 7) - c111) - 2) - 2) - c134) - 2) - c149) - 4) - c164) - 4) - c179) - 2) - c194) - 2) - c209) - 1) - 0) - 7) - 400) - 8124) - 8124) - 8124) - 351) ∧ (∀ q286 : Nat, (∀ j : Nat, j ≤ 13 → s282.1 (q286 + j) = none) → ¬ q286 = 0 → (∀ j : Nat, ¬ q286 + j = N.2.2 200) → (∀ s287 : tM, s287 = tMk s282 q286 11 13 0 26 13 → (tO s287 0 x0 ∧ (∀ s290 : tM, s290 = tsR s287 x0 20 q286 → (14 ≤ ((((((((((((((((((((((((k - 1) - c110) - 1) - 1) - c133) - 1) - c148) - 1) - c163) - 1) - c178) - 1) - c193) - 1) - c208) - 1) - 1) - 1) - 1) - 325) - 325) - 325) - 14) - 14) ∧ (351 ≤ ((((((((((((((((((((((((n - 7) - c111) - 2) - 2) - c134) - 2) - c149) - 4) - c164) - 4) - c179) - 2) - c194) - 2) - c209) - 1) - 0) - 7) - 400) - 8124) - 8124) - 8124) - 351) - 351) ∧ (∀ q294 : Nat, (∀ j : Nat, j ≤ 13 → s290.1 (q294 + j) = none) → ¬ q294 = 0 → (∀ j : Nat, ¬ q294 + j = N.2.2 200) → (∀ s295 : tM, s295 = tMk s290 q294 11 13 0 26 13 → (tO s295 0 x0 ∧ (∀ s298 : tM, s298 = tsR s295 x0 21 q294 → (14 ≤ (((((((((((((((((((((((((k - 1) - c110) - 1) - 1) - c133) - 1) - c148) - 1) - c163) - 1) - c178) - 1) - c193) - 1) - c208) - 1) - 1) - 1) - 1) - 325) - 325) - 325) - 14) - 14) - 14) ∧ (351 ≤ (((((((((((((((((((((((((n - 7) - c111) - 2) - 2) - c134) - 2) - c149) - 4) - c164) - 4) - c179) - 2) - c194) - 2) - c209) - 1) - 0) - 7) - 400) - 8124) - 8124) - 8124) - 351) - 351) - 351) ∧ (∀ q302 : Nat, (∀ j : Nat, j ≤ 13 → s298.1 (q302 + j) = none) → ¬ q302 = 0 → (∀ j : Nat, ¬ q302 + j = N.2.2 200) → (∀ s303 : tM, s303 = tMk s298 q302 15 13 1 26 13 → (tO s303 0 x0 ∧ (∀ s306 : tM, s306 = tsR s303 x0 22 q302 → (1 ≤ ((((((((((((((((((((((((((k - 1) - c110) - 1) - 1) - c133) - 1) - c148) - 1) - c163) - 1) - c178) - 1) - c193) - 1) - c208) - 1) - 1) - 1) - 1) - 325) - 325) - 325) - 14) - 14) - 14) - 14) ∧ (12 ≤ ((((((((((((((((((((((((((n - 7) - c111) - 2) - 2) - c134) - 2) - c149) - 4) - c164) - 4) - c179) - 2) - c194) - 2) - c209) - 1) - 0) - 7) - 400) - 8124) - 8124) - 8124) - 351) - 351) - 351) - 351) ∧ (∀ q310 : Nat, s306.1 q310 = none → ¬ q310 = 0 → ¬ q310 = N.2.2 200 → (∀ s311 : tM, s311 = tNew s306 q310 (.inr (0, 12)) → (tO s311 0 x0 ∧ (∀ s314 : tM, s314 = tsR s311 x0 23 q310 → (1 ≤ (((((((((((((((((((((((((((k - 1) - c110) - 1) - 1) - c133) - 1) - c148) - 1) - c163) - 1) - c178) - 1) - c193) - 1) - c208) - 1) - 1) - 1) - 1) - 325) - 325) - 325) - 14) - 14) - 14) - 14) - 1) ∧ (4 ≤ (((((((((((((((((((((((((((n - 7) - c111) - 2) - 2) - c134) - 2) - c149) - 4) - c164) - 4) - c179) - 2) - c194) - 2) - c209) - 1) - 0) - 7) - 400) - 8124) - 8124) - 8124) - 351) - 351) - 351) - 351) - 12) ∧ (∀ q318 : Nat, s314.1 q318 = none → ¬ q318 = 0 → ¬ q318 = N.2.2 200 → (∀ s319 : tM, s319 = tNew s314 q318 (.inl 2) → (∃ c324 c325 : Nat, c324 ≤ (((((((((((((((((((((((((((k - 1) - c110) - 1) - 1) - c133) - 1) - c148) - 1) - c163) - 1) - c178) - 1) - c193) - 1) - c208) - 1) - 1) - 1) - 1) - 325) - 325) - 325) - 14) - 14) - 14) - 14) - 1) - 1 ∧ c325 ≤ (((((((((((((((((((((((((((n - 7) - c111) - 2) - 2) - c134) - 2) - c149) - 4) - c164) - 4) - c179) - 2) - c194) - 2) - c209) - 1) - 0) - 7) - 400) - 8124) - 8124) - 8124) - 351) - 351) - 351) - 351) - 12) - 4 ∧ (v_X2_init N q318 c324 c325 s319 (fun s323 => (tO s323 0 x0 ∧ (∀ s329 : tM, s329 = tsR s323 x0 26 q318 → (∀ s331 : tM, s331 = tsI s329 x0 27 (-1) → (Kr s331))))))))))))))))))))))))))))))))))))))))))))))))))))))))))))))))))))))))))))))))))))))))))))))))))))))))))))))))))))))))))))))))))))))))))))))))))))))))))))
theorem e_X0_init {G : xG} {l : Launch} {g : xH} {d : Nat} {N : tP} (hN : tNs G N) (hd : 10 ≤ d) {x0 : Nat} {k n : Nat} {s : tM} {Kr : tM → Prop} (h : v_X0_init N x0 k n s Kr) : xC G l kX0_init d k n [rfv x0] (tH G g s) (tQ G g wu (fun _ => Kr) tNo) := by
  obtain ⟨d, rfl⟩ : ∃ z, d = z + 1 := ⟨d - 1, by omega⟩
  refine t_start rfl (by decide +kernel) (by simp [xct_i, xct_l, rfv_c]) (lv := [some (rfv x0)]) (by simp [lv_args, xLv, rfv_c, xct_i, xct_l]) ?_
  unfold v_X0_init at h
  refine t_aload_0 dX0_init_0 ?_
  obtain ⟨e101, h⟩ := h
  refine t_obj dX0_init_1 ob_X0_9 e101.2 (Nat.le_of_ble_eq_true rfl) (by omega) ?_
  refine t_aload_0 dX0_init_4 ?_
  obtain ⟨e102, h⟩ := h
  obtain ⟨e103, h⟩ := h
  refine t_new (N := 7) dX0_init_5 ne_X0_15 rfl e102 e103 (fun q h1 h2 h3 => ?_)
  have h := h q h1 h2 (fun e => h3 (e.trans (hN 200)))
  refine t_gen h (fun s105 w106 h => ?_)
  have e107 := h2
  refine x_dup dX0_init_8 (rfv_c _) ?_
  obtain ⟨c110, c111, e112, e113, h⟩ := h
  refine t_cIN (As := []) rfl cin_X0_17 e107 rfl rfl (xrm4 (Nat.le_of_ble_eq_true rfl)) dX0_init_9 (e_X1_init hN (by omega) h) ⟨e112, e113⟩ (fun _ _ _ h => h.elim) (fun _ s109 h => ?_)
  obtain ⟨e114, h⟩ := h
  refine t_putR (j := 0) dX0_init_12 fp_X0_18_0 (by decide) e114 rfl ?_
  refine t_gen h (fun s115 w116 h => ?_)
  refine t_aload_0 dX0_init_15 ?_
  refine x_iconst (v := 2) dX0_init_16 (by decide) ?_
  obtain ⟨e117, h⟩ := h
  obtain ⟨e118, h⟩ := h
  refine t_anew (t := 4) (N := 2) dX0_init_17 nq_X0_15 (by decide) (by decide) (by decide) e117 e118 (fun q h1 h2 h3 => ?_)
  have h := h q h1 h2 (fun e => h3 (e.trans (hN 200)))
  refine t_gen h (fun s120 w121 h => ?_)
  obtain ⟨e122, h⟩ := h
  refine t_putFR (j := 1) dX0_init_20 ff_X0_22_0 rfl (by decide) e122 rfl ?_
  refine t_gen h (fun s123 w124 h => ?_)
  refine t_aload_0 dX0_init_23 ?_
  obtain ⟨e125, h⟩ := h
  obtain ⟨e126, h⟩ := h
  refine t_new (N := 2) dX0_init_24 ne_X0_26 rfl e125 e126 (fun q h1 h2 h3 => ?_)
  have h := h q h1 h2 (fun e => h3 (e.trans (hN 200)))
  refine t_gen h (fun s128 w129 h => ?_)
  have e130 := h2
  refine x_dup dX0_init_27 (rfv_c _) ?_
  obtain ⟨c133, c134, e135, e136, h⟩ := h
  refine t_cI (As := []) rfl ci_X0_28 e130 rfl rfl (xrm4 (Nat.le_of_ble_eq_true rfl)) dX0_init_28 (e_X3_init hN (by omega) h) ⟨e135, e136⟩ (fun _ _ _ h => h.elim) (fun _ s132 h => ?_)
  obtain ⟨e137, h⟩ := h
  refine t_putFR (j := 2) dX0_init_31 ff_X0_29_0 rfl (by decide) e137 rfl ?_
  refine t_gen h (fun s138 w139 h => ?_)
  refine t_aload_0 dX0_init_34 ?_
  obtain ⟨e140, h⟩ := h
  obtain ⟨e141, h⟩ := h
  refine t_new (N := 2) dX0_init_35 ne_X0_26 rfl e140 e141 (fun q h1 h2 h3 => ?_)
  have h := h q h1 h2 (fun e => h3 (e.trans (hN 200)))
  refine t_gen h (fun s143 w144 h => ?_)
  have e145 := h2
  refine x_dup dX0_init_38 (rfv_c _) ?_
  obtain ⟨c148, c149, e150, e151, h⟩ := h
  refine t_cI (As := []) rfl ci_X0_28 e145 rfl rfl (xrm4 (Nat.le_of_ble_eq_true rfl)) dX0_init_39 (e_X3_init hN (by omega) h) ⟨e150, e151⟩ (fun _ _ _ h => h.elim) (fun _ s147 h => ?_)
  obtain ⟨e152, h⟩ := h
  refine t_putFR (j := 3) dX0_init_42 ff_X0_33_0 rfl (by decide) e152 rfl ?_
  refine t_gen h (fun s153 w154 h => ?_)
  refine t_aload_0 dX0_init_45 ?_
  obtain ⟨e155, h⟩ := h
  obtain ⟨e156, h⟩ := h
  refine t_new (N := 4) dX0_init_46 ne_X0_36 rfl e155 e156 (fun q h1 h2 h3 => ?_)
  have h := h q h1 h2 (fun e => h3 (e.trans (hN 200)))
  refine t_gen h (fun s158 w159 h => ?_)
  have e160 := h2
  refine x_dup dX0_init_49 (rfv_c _) ?_
  obtain ⟨c163, c164, e165, e166, h⟩ := h
  refine t_cIN (As := []) rfl cin_X0_38 e160 rfl rfl (xrm4 (Nat.le_of_ble_eq_true rfl)) dX0_init_50 (e_X2_init hN (by omega) h) ⟨e165, e166⟩ (fun _ _ _ h => h.elim) (fun _ s162 h => ?_)
  obtain ⟨e167, h⟩ := h
  refine t_putFR (j := 4) dX0_init_53 ff_X0_39_0 rfl (by decide) e167 rfl ?_
  refine t_gen h (fun s168 w169 h => ?_)
  refine t_aload_0 dX0_init_56 ?_
  obtain ⟨e170, h⟩ := h
  obtain ⟨e171, h⟩ := h
  refine t_new (N := 4) dX0_init_57 ne_X0_36 rfl e170 e171 (fun q h1 h2 h3 => ?_)
  have h := h q h1 h2 (fun e => h3 (e.trans (hN 200)))
  refine t_gen h (fun s173 w174 h => ?_)
  have e175 := h2
  refine x_dup dX0_init_60 (rfv_c _) ?_
  obtain ⟨c178, c179, e180, e181, h⟩ := h
  refine t_cIN (As := []) rfl cin_X0_38 e175 rfl rfl (xrm4 (Nat.le_of_ble_eq_true rfl)) dX0_init_61 (e_X2_init hN (by omega) h) ⟨e180, e181⟩ (fun _ _ _ h => h.elim) (fun _ s177 h => ?_)
  obtain ⟨e182, h⟩ := h
  refine t_putFR (j := 5) dX0_init_64 ff_X0_43_0 rfl (by decide) e182 rfl ?_
  refine t_gen h (fun s183 w184 h => ?_)
  refine t_aload_0 dX0_init_67 ?_
  obtain ⟨e185, h⟩ := h
  obtain ⟨e186, h⟩ := h
  refine t_new (N := 2) dX0_init_68 ne_X0_46 rfl e185 e186 (fun q h1 h2 h3 => ?_)
  have h := h q h1 h2 (fun e => h3 (e.trans (hN 200)))
  refine t_gen h (fun s188 w189 h => ?_)
  have e190 := h2
  refine x_dup dX0_init_71 (rfv_c _) ?_
  obtain ⟨c193, c194, e195, e196, h⟩ := h
  refine t_cIN (As := []) rfl cin_X0_48 e190 rfl rfl (xrm4 (Nat.le_of_ble_eq_true rfl)) dX0_init_72 (e_X4_init hN (by omega) h) ⟨e195, e196⟩ (fun _ _ _ h => h.elim) (fun _ s192 h => ?_)
  obtain ⟨e197, h⟩ := h
  refine t_putFR (j := 6) dX0_init_75 ff_X0_49_0 rfl (by decide) e197 rfl ?_
  refine t_gen h (fun s198 w199 h => ?_)
  refine t_aload_0 dX0_init_78 ?_
  obtain ⟨e200, h⟩ := h
  obtain ⟨e201, h⟩ := h
  refine t_new (N := 2) dX0_init_79 ne_X0_46 rfl e200 e201 (fun q h1 h2 h3 => ?_)
  have h := h q h1 h2 (fun e => h3 (e.trans (hN 200)))
  refine t_gen h (fun s203 w204 h => ?_)
  have e205 := h2
  refine x_dup dX0_init_82 (rfv_c _) ?_
  obtain ⟨c208, c209, e210, e211, h⟩ := h
  refine t_cIN (As := []) rfl cin_X0_48 e205 rfl rfl (xrm4 (Nat.le_of_ble_eq_true rfl)) dX0_init_83 (e_X4_init hN (by omega) h) ⟨e210, e211⟩ (fun _ _ _ h => h.elim) (fun _ s207 h => ?_)
  obtain ⟨e212, h⟩ := h
  refine t_putFR (j := 7) dX0_init_86 ff_X0_53_0 rfl (by decide) e212 rfl ?_
  refine t_gen h (fun s213 w214 h => ?_)
  refine t_aload_0 dX0_init_89 ?_
  obtain ⟨e215, h⟩ := h
  obtain ⟨e216, h⟩ := h
  refine t_new (N := 1) dX0_init_90 ne_X0_56 rfl e215 e216 (fun q h1 h2 h3 => ?_)
  have h := h q h1 h2 (fun e => h3 (e.trans (hN 200)))
  refine t_gen h (fun s218 w219 h => ?_)
  have e220 := h2
  refine x_dup dX0_init_93 (rfv_c _) ?_
  refine x_iconst (v := 0) dX0_init_94 (by decide) ?_
  obtain ⟨e221, h⟩ := h
  obtain ⟨e222, h⟩ := h
  refine t_anew (t := 6) (N := 0) dX0_init_95 nq_X0_58 (by decide) (by decide) (by decide) e221 e222 (fun q h1 h2 h3 => ?_)
  have h := h q h1 h2 (fun e => h3 (e.trans (hN 200)))
  refine t_gen h (fun s224 w225 h => ?_)
  obtain ⟨e228, h⟩ := h
  refine t_cI (As := [_]) rfl ci_X0_60 e228.2 rfl rfl (xrm4 (Nat.le_of_ble_eq_true rfl)) dX0_init_98 (e_X5_init (by omega) h) ⟨Nat.zero_le _, Nat.zero_le _⟩ (fun _ _ _ h => h.elim) (fun _ s227 h => ?_)
  obtain ⟨e229, h⟩ := h
  refine t_putFR (j := 8) dX0_init_101 ff_X0_63_0 rfl (by decide) e229 rfl ?_
  refine t_gen h (fun s230 w231 h => ?_)
  refine t_aload_0 dX0_init_104 ?_
  refine x_bipush (v := 7) dX0_init_105 (by decide) ?_
  obtain ⟨e232, h⟩ := h
  obtain ⟨e233, h⟩ := h
  refine t_newarr (t := 0) (N := 7) dX0_init_107 rfl rfl q239 (by decide) rfl (fun _ _ h => h) (by decide) (by decide) (by decide) e232 e233 (fun q h1 h2 h3 => ?_)
  have h := h q h1 h2 (fun e => h3 (e.trans (hN 200)))
  refine t_gen h (fun s235 w236 h => ?_)
  obtain ⟨e237, h⟩ := h
  refine t_putFR (j := 9) dX0_init_109 ff_X0_67_0 rfl (by decide) e237 rfl ?_
  refine t_gen h (fun s238 w239 h => ?_)
  refine t_aload_0 dX0_init_112 ?_
  refine x_iconst (v := (-1)) dX0_init_113 (by decide) ?_
  refine t_putI (j := 11) dX0_init_114 fp_X0_71_0 (by decide) (tO_w w239 e237) rfl rfl ?_
  refine t_gen h (fun s240 w241 h => ?_)
  refine t_aload_0 dX0_init_117 ?_
  refine x_iconst (v := (-1)) dX0_init_118 (by decide) ?_
  refine t_putI (j := 13) dX0_init_119 fp_X0_75_0 (by decide) (tO_w w241 (tO_w w239 e237)) rfl rfl ?_
  refine t_gen h (fun s242 w243 h => ?_)
  refine t_aload_0 dX0_init_122 ?_
  refine x_sipush (v := 400) dX0_init_123 (by decide) ?_
  obtain ⟨e244, h⟩ := h
  obtain ⟨e245, h⟩ := h
  refine t_newarr (t := 2) (N := 400) dX0_init_126 rfl rfl q424 (by decide) rfl (fun _ _ h => h) (by decide) (by decide) (by decide) e244 e245 (fun q h1 h2 h3 => ?_)
  have h := h q h1 h2 (fun e => h3 (e.trans (hN 200)))
  refine t_gen h (fun s247 w248 h => ?_)
  obtain ⟨e249, h⟩ := h
  refine t_putFR (j := 14) dX0_init_128 ff_X0_78_0 rfl (by decide) e249 rfl ?_
  refine t_gen h (fun s250 w251 h => ?_)
  refine t_aload_0 dX0_init_131 ?_
  refine x_bipush (v := 12) dX0_init_132 (by decide) ?_
  refine x_bipush (v := 26) dX0_init_134 (by decide) ?_
  refine x_bipush (v := 25) dX0_init_136 (by decide) ?_
  obtain ⟨e252, h⟩ := h
  obtain ⟨e253, h⟩ := h
  refine t_multi3 (tO := 13) (tP := 12) (t1 := 3) (N := 12) (K := 26) (J := 25) dX0_init_138 q325 ⟨rfl, by decide, by decide⟩ (by decide) rfl (Or.inl ⟨by decide, rfl⟩) (by decide) (by decide) (by decide +kernel) (by decide) (by decide) (by decide) (by decide) (by decide) (by decide) (by decide) (by decide) (by decide) (by decide) rfl rfl e252 e253 (fun q h1 h2 h3 => ?_)
  have h := h q h1 h2 (fun j e => h3 j (e.trans (hN 200)))
  refine t_gen h (fun s255 w256 h => ?_)
  obtain ⟨e257, h⟩ := h
  refine t_putFR (j := 16) dX0_init_142 ff_X0_84_0 rfl (by decide) e257 rfl ?_
  refine t_gen h (fun s258 w259 h => ?_)
  refine t_aload_0 dX0_init_145 ?_
  refine x_bipush (v := 12) dX0_init_146 (by decide) ?_
  refine x_bipush (v := 26) dX0_init_148 (by decide) ?_
  refine x_bipush (v := 25) dX0_init_150 (by decide) ?_
  obtain ⟨e260, h⟩ := h
  obtain ⟨e261, h⟩ := h
  refine t_multi3 (tO := 14) (tP := 11) (t1 := 0) (N := 12) (K := 26) (J := 25) dX0_init_152 q328 ⟨rfl, by decide, by decide⟩ (by decide) rfl (Or.inl ⟨by decide, rfl⟩) (by decide) (by decide) (by decide +kernel) (by decide) (by decide) (by decide) (by decide) (by decide) (by decide) (by decide) (by decide) (by decide) (by decide) rfl rfl e260 e261 (fun q h1 h2 h3 => ?_)
  have h := h q h1 h2 (fun j e => h3 j (e.trans (hN 200)))
  refine t_gen h (fun s263 w264 h => ?_)
  obtain ⟨e265, h⟩ := h
  refine t_putFR (j := 17) dX0_init_156 ff_X0_89_0 rfl (by decide) e265 rfl ?_
  refine t_gen h (fun s266 w267 h => ?_)
  refine t_aload_0 dX0_init_159 ?_
  refine x_bipush (v := 12) dX0_init_160 (by decide) ?_
  refine x_bipush (v := 26) dX0_init_162 (by decide) ?_
  refine x_bipush (v := 25) dX0_init_164 (by decide) ?_
  obtain ⟨e268, h⟩ := h
  obtain ⟨e269, h⟩ := h
  refine t_multi3 (tO := 14) (tP := 11) (t1 := 0) (N := 12) (K := 26) (J := 25) dX0_init_166 q328 ⟨rfl, by decide, by decide⟩ (by decide) rfl (Or.inl ⟨by decide, rfl⟩) (by decide) (by decide) (by decide +kernel) (by decide) (by decide) (by decide) (by decide) (by decide) (by decide) (by decide) (by decide) (by decide) (by decide) rfl rfl e268 e269 (fun q h1 h2 h3 => ?_)
  have h := h q h1 h2 (fun j e => h3 j (e.trans (hN 200)))
  refine t_gen h (fun s271 w272 h => ?_)
  obtain ⟨e273, h⟩ := h
  refine t_putFR (j := 18) dX0_init_170 ff_X0_92_0 rfl (by decide) e273 rfl ?_
  refine t_gen h (fun s274 w275 h => ?_)
  refine t_aload_0 dX0_init_173 ?_
  refine x_bipush (v := 13) dX0_init_174 (by decide) ?_
  refine x_bipush (v := 26) dX0_init_176 (by decide) ?_
  obtain ⟨e276, h⟩ := h
  obtain ⟨e277, h⟩ := h
  refine t_multi2 (tO := 11) (t1 := 0) (N := 13) (K := 26) dX0_init_178 q330 ⟨rfl, by decide, by decide⟩ rfl (Or.inl ⟨by decide, rfl⟩) (by decide) (by decide +kernel) (by decide) (by decide) (by decide) (by decide) (by decide) (by decide) (by decide) rfl rfl e276 e277 (fun q h1 h2 h3 => ?_)
  have h := h q h1 h2 (fun j e => h3 j (e.trans (hN 200)))
  refine t_gen h (fun s279 w280 h => ?_)
  obtain ⟨e281, h⟩ := h
  refine t_putFR (j := 19) dX0_init_182 ff_X0_97_0 rfl (by decide) e281 rfl ?_
  refine t_gen h (fun s282 w283 h => ?_)
  refine t_aload_0 dX0_init_185 ?_
  refine x_bipush (v := 13) dX0_init_186 (by decide) ?_
  refine x_bipush (v := 26) dX0_init_188 (by decide) ?_
  obtain ⟨e284, h⟩ := h
  obtain ⟨e285, h⟩ := h
  refine t_multi2 (tO := 11) (t1 := 0) (N := 13) (K := 26) dX0_init_190 q330 ⟨rfl, by decide, by decide⟩ rfl (Or.inl ⟨by decide, rfl⟩) (by decide) (by decide +kernel) (by decide) (by decide) (by decide) (by decide) (by decide) (by decide) (by decide) rfl rfl e284 e285 (fun q h1 h2 h3 => ?_)
  have h := h q h1 h2 (fun j e => h3 j (e.trans (hN 200)))
  refine t_gen h (fun s287 w288 h => ?_)
  obtain ⟨e289, h⟩ := h
  refine t_putFR (j := 20) dX0_init_194 ff_X0_100_0 rfl (by decide) e289 rfl ?_
  refine t_gen h (fun s290 w291 h => ?_)
  refine t_aload_0 dX0_init_197 ?_
  refine x_bipush (v := 13) dX0_init_198 (by decide) ?_
  refine x_bipush (v := 26) dX0_init_200 (by decide) ?_
  obtain ⟨e292, h⟩ := h
  obtain ⟨e293, h⟩ := h
  refine t_multi2 (tO := 11) (t1 := 0) (N := 13) (K := 26) dX0_init_202 q330 ⟨rfl, by decide, by decide⟩ rfl (Or.inl ⟨by decide, rfl⟩) (by decide) (by decide +kernel) (by decide) (by decide) (by decide) (by decide) (by decide) (by decide) (by decide) rfl rfl e292 e293 (fun q h1 h2 h3 => ?_)
  have h := h q h1 h2 (fun j e => h3 j (e.trans (hN 200)))
  refine t_gen h (fun s295 w296 h => ?_)
  obtain ⟨e297, h⟩ := h
  refine t_putFR (j := 21) dX0_init_206 ff_X0_103_0 rfl (by decide) e297 rfl ?_
  refine t_gen h (fun s298 w299 h => ?_)
  refine t_aload_0 dX0_init_209 ?_
  refine x_bipush (v := 13) dX0_init_210 (by decide) ?_
  refine x_bipush (v := 26) dX0_init_212 (by decide) ?_
  obtain ⟨e300, h⟩ := h
  obtain ⟨e301, h⟩ := h
  refine t_multi2 (tO := 15) (t1 := 1) (N := 13) (K := 26) dX0_init_214 q331 ⟨rfl, by decide, by decide⟩ rfl (Or.inr ⟨rfl, rfl⟩) (by decide) (by decide +kernel) (by decide) (by decide) (by decide) (by decide) (by decide) (by decide) (by decide) rfl rfl e300 e301 (fun q h1 h2 h3 => ?_)
  have h := h q h1 h2 (fun j e => h3 j (e.trans (hN 200)))
  refine t_gen h (fun s303 w304 h => ?_)
  obtain ⟨e305, h⟩ := h
  refine t_putFR (j := 22) dX0_init_218 ff_X0_108_0 rfl (by decide) e305 rfl ?_
  refine t_gen h (fun s306 w307 h => ?_)
  refine t_aload_0 dX0_init_221 ?_
  refine x_bipush (v := 12) dX0_init_222 (by decide) ?_
  obtain ⟨e308, h⟩ := h
  obtain ⟨e309, h⟩ := h
  refine t_newarr (t := 0) (N := 12) dX0_init_224 rfl rfl q239 (by decide) rfl (fun _ _ h => h) (by decide) (by decide) (by decide) e308 e309 (fun q h1 h2 h3 => ?_)
  have h := h q h1 h2 (fun e => h3 (e.trans (hN 200)))
  refine t_gen h (fun s311 w312 h => ?_)
  obtain ⟨e313, h⟩ := h
  refine t_putFR (j := 23) dX0_init_226 ff_X0_111_0 rfl (by decide) e313 rfl ?_
  refine t_gen h (fun s314 w315 h => ?_)
  refine t_aload_0 dX0_init_229 ?_
  obtain ⟨e316, h⟩ := h
  obtain ⟨e317, h⟩ := h
  refine t_new (N := 4) dX0_init_230 ne_X0_36 rfl e316 e317 (fun q h1 h2 h3 => ?_)
  have h := h q h1 h2 (fun e => h3 (e.trans (hN 200)))
  refine t_gen h (fun s319 w320 h => ?_)
  have e321 := h2
  refine x_dup dX0_init_233 (rfv_c _) ?_
  obtain ⟨c324, c325, e326, e327, h⟩ := h
  refine t_cIN (As := []) rfl cin_X0_38 e321 rfl rfl (xrm4 (Nat.le_of_ble_eq_true rfl)) dX0_init_234 (e_X2_init hN (by omega) h) ⟨e326, e327⟩ (fun _ _ _ h => h.elim) (fun _ s323 h => ?_)
  obtain ⟨e328, h⟩ := h
  refine t_putFR (j := 26) dX0_init_237 ff_X0_114_0 rfl (by decide) e328 rfl ?_
  refine t_gen h (fun s329 w330 h => ?_)
  refine t_aload_0 dX0_init_240 ?_
  refine x_iconst (v := (-1)) dX0_init_241 (by decide) ?_
  refine t_putI (j := 27) dX0_init_242 fp_X0_117_0 (by decide) (tO_w w330 e328) rfl rfl ?_
  refine t_gen h (fun s331 w332 h => ?_)
  exact x_vret dX0_init_245 rfl (Or.inl ⟨(), _, h, rfl, rfl⟩)
def v_X0_isTerm (x0 : Int32) (x1 : Int32) (s : tM) (Kr : Int32 → tM → Prop) : Prop :=
  (∀ x101 : Int32, x101 = x0 → ((x101 = 0 → (v_X0_in ((x1 : Int32).toInt64) 0 999 s (fun x103 s104 => (xB x103 ∧ (Kr x103 s104))))) ∧ (x101 = 1 → (v_X0_in ((x1 : Int32).toInt64) 0 10 s (fun x107 s108 => (xB x107 ∧ (Kr x107 s108))))) ∧ (x101 = 2 → (v_X0_in ((x1 : Int32).toInt64) 0 9 s (fun x111 s112 => (xB x111 ∧ (Kr x111 s112))))) ∧ (x101 = 3 → (v_X0_isPitch x1 s (fun x115 s116 => (xB x115 ∧ (Kr x115 s116))))) ∧ (x101 = 4 → (v_X0_isPitch x1 s (fun x119 s120 => (xB x119 ∧ (Kr x119 s120))))) ∧ (¬ x101 = 0 → ¬ x101 = 1 → ¬ x101 = 2 → ¬ x101 = 3 → ¬ x101 = 4 → (Kr 0 s))))
theorem e_X0_isTerm {G : xG} {l : Launch} {g : xH} {d : Nat} (hd : 6 ≤ d) {x0 : Int32} {x1 : Int32} {s : tM} {Kr : Int32 → tM → Prop} (h : v_X0_isTerm x0 x1 s Kr) : xC G l kX0_isTerm d 0 0 [.int x0, .int x1] (tH G g s) (tQ G g wi Kr tNo) := by
  obtain ⟨d, rfl⟩ : ∃ z, d = z + 1 := ⟨d - 1, by omega⟩
  refine t_start rfl (by decide +kernel) (by simp [xct_i, xct_l, rfv_c]) (lv := [some (.int x0), some (.int x1)]) (by simp [lv_args, xLv, rfv_c, xct_i, xct_l]) ?_
  unfold v_X0_isTerm at h
  refine x_iload_0 dX0_isTerm_0 ?_
  refine t_topi (fun x101 ex101 => ?_)
  have h := h x101 ex101
  by_cases c102 : x101 = 0
  · have h := h.1 c102
    refine x_cast rfl rfl (by rw [c102]) ?_
    refine x_tabIn 36 dX0_isTerm_1 (by decide) (by decide) (off := 35) (by decide) (by decide) ?_
    refine x_iload_1 dX0_isTerm_36 ?_
    refine x_i2l dX0_isTerm_37 ?_
    refine x_lconst (v := 0) dX0_isTerm_38 (by decide) ?_
    refine x_ldc2 dX0_isTerm_39 q610 ?_
    refine t_cSi (As := [_, _, _]) rfl cs_X0_5 rfl rfl (xrm4 (Nat.le_of_ble_eq_true rfl)) dX0_isTerm_42 (e_X0_in (by omega) h) ⟨Nat.zero_le _, Nat.zero_le _⟩ (fun _ _ _ h => h.elim) (fun x103 s104 h => ?_)
    obtain ⟨e105, h⟩ := h
    exact x_zret dX0_isTerm_45 rfl (xB_n e105) (Or.inl ⟨_, _, h, rfl, rfl⟩)
  by_cases c106 : x101 = 1
  · have h := h.2.1 c106
    refine x_cast rfl rfl (by rw [c106]) ?_
    refine x_tabIn 46 dX0_isTerm_1 (by decide) (by decide) (off := 45) (by decide) (by decide) ?_
    refine x_iload_1 dX0_isTerm_46 ?_
    refine x_i2l dX0_isTerm_47 ?_
    refine x_lconst (v := 0) dX0_isTerm_48 (by decide) ?_
    refine x_ldc2 dX0_isTerm_49 q611 ?_
    refine t_cSi (As := [_, _, _]) rfl cs_X0_5 rfl rfl (xrm4 (Nat.le_of_ble_eq_true rfl)) dX0_isTerm_52 (e_X0_in (by omega) h) ⟨Nat.zero_le _, Nat.zero_le _⟩ (fun _ _ _ h => h.elim) (fun x107 s108 h => ?_)
    obtain ⟨e109, h⟩ := h
    exact x_zret dX0_isTerm_55 rfl (xB_n e109) (Or.inl ⟨_, _, h, rfl, rfl⟩)
  by_cases c110 : x101 = 2
  · have h := h.2.2.1 c110
    refine x_cast rfl rfl (by rw [c110]) ?_
    refine x_tabIn 56 dX0_isTerm_1 (by decide) (by decide) (off := 55) (by decide) (by decide) ?_
    refine x_iload_1 dX0_isTerm_56 ?_
    refine x_i2l dX0_isTerm_57 ?_
    refine x_lconst (v := 0) dX0_isTerm_58 (by decide) ?_
    refine x_ldc2 dX0_isTerm_59 q612 ?_
    refine t_cSi (As := [_, _, _]) rfl cs_X0_5 rfl rfl (xrm4 (Nat.le_of_ble_eq_true rfl)) dX0_isTerm_62 (e_X0_in (by omega) h) ⟨Nat.zero_le _, Nat.zero_le _⟩ (fun _ _ _ h => h.elim) (fun x111 s112 h => ?_)
    obtain ⟨e113, h⟩ := h
    exact x_zret dX0_isTerm_65 rfl (xB_n e113) (Or.inl ⟨_, _, h, rfl, rfl⟩)
  by_cases c114 : x101 = 3
  · have h := h.2.2.2.1 c114
    refine x_cast rfl rfl (by rw [c114]) ?_
    refine x_tabIn 66 dX0_isTerm_1 (by decide) (by decide) (off := 65) (by decide) (by decide) ?_
    refine x_iload_1 dX0_isTerm_66 ?_
    refine t_cSi (As := [_]) rfl cs_X0_153 rfl rfl (xrm4 (Nat.le_of_ble_eq_true rfl)) dX0_isTerm_67 (e_X0_isPitch (by omega) h) ⟨Nat.zero_le _, Nat.zero_le _⟩ (fun _ _ _ h => h.elim) (fun x115 s116 h => ?_)
    obtain ⟨e117, h⟩ := h
    exact x_zret dX0_isTerm_70 rfl (xB_n e117) (Or.inl ⟨_, _, h, rfl, rfl⟩)
  by_cases c118 : x101 = 4
  · have h := h.2.2.2.2.1 c118
    refine x_cast rfl rfl (by rw [c118]) ?_
    refine x_tabIn 66 dX0_isTerm_1 (by decide) (by decide) (off := 65) (by decide) (by decide) ?_
    refine x_iload_1 dX0_isTerm_66 ?_
    refine t_cSi (As := [_]) rfl cs_X0_153 rfl rfl (xrm4 (Nat.le_of_ble_eq_true rfl)) dX0_isTerm_67 (e_X0_isPitch (by omega) h) ⟨Nat.zero_le _, Nat.zero_le _⟩ (fun _ _ _ h => h.elim) (fun x119 s120 h => ?_)
    obtain ⟨e121, h⟩ := h
    exact x_zret dX0_isTerm_70 rfl (xB_n e121) (Or.inl ⟨_, _, h, rfl, rfl⟩)
  have h := h.2.2.2.2.2 c102 c106 c110 c114 c118
  have z0 := xti (v := 0) (z := 0) (by decide) c102
  have z1 := xti (v := 1) (z := 1) (by decide) c106
  have z2 := xti (v := 2) (z := 2) (by decide) c110
  have z3 := xti (v := 3) (z := 3) (by decide) c114
  have z4 := xti (v := 4) (z := 4) (by decide) c118
  refine x_tabOut 71 dX0_isTerm_1 (by omega) (by decide) ?_
  refine x_iconst (v := 0) dX0_isTerm_71 (by decide) ?_
  exact x_zret0 dX0_isTerm_72 rfl (Or.inl ⟨_, _, h, rfl, rfl⟩)
def v_X7_init (N : tP) (x0 : Nat) (x1 : Nat) (x2 : Nat) (k n : Nat) (s : tM) (Kr : tM → Prop) : Prop :=
  (tE s 7 18 x0 ∧ (∀ s102 : tM, s102 = tsR s x0 7 x1 → (1 ≤ k ∧ (50 ≤ n ∧ (∀ q106 : Nat, s102.1 q106 = none → ¬ q106 = 0 → ¬ q106 = N.2.2 200 → (∀ s107 : tM, s107 = tNew s102 q106 (.inr (7, 50)) → (tE s107 7 18 x0 ∧ (∀ s110 : tM, s110 = tsR s107 x0 5 q106 → (∀ s112 : tM, s112 = tsR s110 x0 6 x2 → (Kr s112))))))))))
theorem e_X7_init {G : xG} {l : Launch} {g : xH} {d : Nat} {N : tP} (hN : tNs G N) (hd : 2 ≤ d) {x0 : Nat} {x1 : Nat} {x2 : Nat} {k n : Nat} {s : tM} {Kr : tM → Prop} (h : v_X7_init N x0 x1 x2 k n s Kr) : xC G l kX7_init d k n [rfv x0, rfv x1, rfv x2] (tH G g s) (tQ G g wu (fun _ => Kr) tNo) := by
  obtain ⟨d, rfl⟩ : ∃ z, d = z + 1 := ⟨d - 1, by omega⟩
  refine t_start rfl (by decide +kernel) (by simp [xct_i, xct_l, rfv_c]) (lv := [some (rfv x0), some (rfv x1), some (rfv x2)]) (by simp [lv_args, xLv, rfv_c, xct_i, xct_l]) ?_
  unfold v_X7_init at h
  refine t_aload_0 dX7_init_0 ?_
  refine t_aload_1 dX7_init_1 ?_
  obtain ⟨e101, h⟩ := h
  refine t_putFR2 (j := 7) dX7_init_2 ⟨ff_X7_3_7, ff_X7_3_18⟩ rfl (by decide) e101 rfl ?_
  refine t_gen h (fun s102 w103 h => ?_)
  refine t_aload_0 dX7_init_5 ?_
  refine t_obj dX7_init_6 ob_X7_9 ((tE_w w103 e101).elim And.right And.right) (Nat.le_of_ble_eq_true rfl) (by omega) ?_
  refine t_aload_0 dX7_init_9 ?_
  refine x_bipush (v := 50) dX7_init_10 (by decide) ?_
  obtain ⟨e104, h⟩ := h
  obtain ⟨e105, h⟩ := h
  refine t_anew (t := 7) (N := 50) dX7_init_12 nq_X7_15 (by decide) (by decide) (by decide) e104 e105 (fun q h1 h2 h3 => ?_)
  have h := h q h1 h2 (fun e => h3 (e.trans (hN 200)))
  refine t_gen h (fun s107 w108 h => ?_)
  obtain ⟨e109, h⟩ := h
  refine t_putFR2 (j := 5) dX7_init_15 ⟨ff_X7_17_7, ff_X7_17_18⟩ rfl (by decide) e109 rfl ?_
  refine t_gen h (fun s110 w111 h => ?_)
  refine t_aload_0 dX7_init_18 ?_
  refine t_aload_2 dX7_init_19 ?_
  refine t_putFR2 (j := 6) dX7_init_20 ⟨ff_X7_21_7, ff_X7_21_18⟩ rfl (by decide) (tE_w w111 e109) rfl ?_
  refine t_gen h (fun s112 w113 h => ?_)
  exact x_vret dX7_init_23 rfl (Or.inl ⟨(), _, h, rfl, rfl⟩)
def v_X8_init (N : tP) (x0 : Nat) (x1 : Nat) (k n : Nat) (s : tM) (Kr : tM → Prop) : Prop :=
  (tO s 7 x0 ∧ (∀ s102 : tM, s102 = tsR s x0 10 x1 → (1 ≤ k ∧ (10 ≤ n ∧ (∀ q106 : Nat, s102.1 q106 = none → ¬ q106 = 0 → ¬ q106 = N.2.2 200 → (∀ s107 : tM, s107 = tNew s102 q106 (.inr (9, 10)) → (tX s107 9 q106 0 ∧ (∀ s110 : tM, s110 = tsR s107 q106 0 (N.2.2 0) → (tX s110 9 q106 1 ∧ (∀ s113 : tM, s113 = tsR s110 q106 1 (N.2.2 1) → (tX s113 9 q106 2 ∧ (∀ s116 : tM, s116 = tsR s113 q106 2 (N.2.2 2) → (tX s116 9 q106 3 ∧ (∀ s119 : tM, s119 = tsR s116 q106 3 (N.2.2 3) → (tX s119 9 q106 4 ∧ (∀ s122 : tM, s122 = tsR s119 q106 4 (N.2.2 4) → (tX s122 9 q106 5 ∧ (∀ s125 : tM, s125 = tsR s122 q106 5 (N.2.2 5) → (tX s125 9 q106 6 ∧ (∀ s128 : tM, s128 = tsR s125 q106 6 (N.2.2 6) → (tX s128 9 q106 7 ∧ (∀ s131 : tM, s131 = tsR s128 q106 7 (N.2.2 7) → (tX s131 9 q106 8 ∧ (∀ s134 : tM, s134 = tsR s131 q106 8 (N.2.2 8) → (tX s134 9 q106 9 ∧ (∀ s137 : tM, s137 = tsR s134 q106 9 (N.2.2 9) → (∃ c141 c142 : Nat, c141 ≤ k - 1 ∧ c142 ≤ n - 10 ∧ (tO s137 7 x0 ∧ (v_X7_init N x0 x1 q106 c141 c142 s137 (fun s140 => (1 ≤ ((k - 1) - c141) ∧ (12 ≤ ((n - 10) - c142) ∧ (∀ q148 : Nat, s140.1 q148 = none → ¬ q148 = 0 → ¬ q148 = N.2.2 200 → (∀ s149 : tM, s149 = tNew s140 q148 (.inr (6, 12)) → (tO s149 7 x0 ∧ (∀ s152 : tM, s152 = tsR s149 x0 8 q148 → (1 ≤ (((k - 1) - c141) - 1) ∧ (3 ≤ (((n - 10) - c142) - 12) ∧ (∀ q156 : Nat, s152.1 q156 = none → ¬ q156 = 0 → ¬ q156 = N.2.2 200 → (∀ s157 : tM, s157 = tNew s152 q156 (.inr (9, 3)) → (tX s157 9 q156 0 ∧ (∀ s160 : tM, s160 = tsR s157 q156 0 (N.2.2 10) → (tX s160 9 q156 1 ∧ (∀ s163 : tM, s163 = tsR s160 q156 1 (N.2.2 11) → (tX s163 9 q156 2 ∧ (∀ s166 : tM, s166 = tsR s163 q156 2 (N.2.2 12) → (tO s166 7 x0 ∧ (∀ s169 : tM, s169 = tsR s166 x0 9 q156 → (Kr s169)))))))))))))))))))))))))))))))))))))))))))))))))
theorem e_X8_init {G : xG} {l : Launch} {g : xH} {d : Nat} {N : tP} (hN : tNs G N) (hd : 4 ≤ d) {x0 : Nat} {x1 : Nat} {k n : Nat} {s : tM} {Kr : tM → Prop} (h : v_X8_init N x0 x1 k n s Kr) : xC G l kX8_init d k n [rfv x0, rfv x1] (tH G g s) (tQ G g wu (fun _ => Kr) tNo) := by
  obtain ⟨d, rfl⟩ : ∃ z, d = z + 1 := ⟨d - 1, by omega⟩
  refine t_start rfl (by decide +kernel) (by simp [xct_i, xct_l, rfv_c]) (lv := [some (rfv x0), some (rfv x1)]) (by simp [lv_args, xLv, rfv_c, xct_i, xct_l]) ?_
  unfold v_X8_init at h
  refine t_aload_0 dX8_init_0 ?_
  refine t_aload_1 dX8_init_1 ?_
  obtain ⟨e101, h⟩ := h
  refine t_putFR (j := 10) dX8_init_2 ff_X8_3_7 rfl (by decide) e101 rfl ?_
  refine t_gen h (fun s102 w103 h => ?_)
  refine t_aload_0 dX8_init_5 ?_
  refine t_aload_1 dX8_init_6 ?_
  refine x_bipush (v := 10) dX8_init_7 (by decide) ?_
  obtain ⟨e104, h⟩ := h
  obtain ⟨e105, h⟩ := h
  refine t_anew (t := 9) (N := 10) dX8_init_9 nq_X8_9 (by decide) (by decide) (by decide) e104 e105 (fun q h1 h2 h3 => ?_)
  have h := h q h1 h2 (fun e => h3 (e.trans (hN 200)))
  refine t_gen h (fun s107 w108 h => ?_)
  refine x_dup dX8_init_12 (rfv_c _) ?_
  refine x_iconst (v := 0) dX8_init_13 (by decide) ?_
  refine t_ldcN hN dX8_init_14 (i := 0) ⟨0, rfl⟩ ?_
  obtain ⟨e109, h⟩ := h
  refine t_aastS hN (by decide) dX8_init_16 e109 ?_
  refine t_gen h (fun s110 w111 h => ?_)
  refine x_dup dX8_init_17 (rfv_c _) ?_
  refine x_iconst (v := 1) dX8_init_18 (by decide) ?_
  refine t_ldcN hN dX8_init_19 (i := 1) ⟨1, rfl⟩ ?_
  obtain ⟨e112, h⟩ := h
  refine t_aastS hN (by decide) dX8_init_21 e112 ?_
  refine t_gen h (fun s113 w114 h => ?_)
  refine x_dup dX8_init_22 (rfv_c _) ?_
  refine x_iconst (v := 2) dX8_init_23 (by decide) ?_
  refine t_ldcN hN dX8_init_24 (i := 2) ⟨2, rfl⟩ ?_
  obtain ⟨e115, h⟩ := h
  refine t_aastS hN (by decide) dX8_init_26 e115 ?_
  refine t_gen h (fun s116 w117 h => ?_)
  refine x_dup dX8_init_27 (rfv_c _) ?_
  refine x_iconst (v := 3) dX8_init_28 (by decide) ?_
  refine t_ldcN hN dX8_init_29 (i := 3) ⟨3, rfl⟩ ?_
  obtain ⟨e118, h⟩ := h
  refine t_aastS hN (by decide) dX8_init_31 e118 ?_
  refine t_gen h (fun s119 w120 h => ?_)
  refine x_dup dX8_init_32 (rfv_c _) ?_
  refine x_iconst (v := 4) dX8_init_33 (by decide) ?_
  refine t_ldcN hN dX8_init_34 (i := 4) ⟨4, rfl⟩ ?_
  obtain ⟨e121, h⟩ := h
  refine t_aastS hN (by decide) dX8_init_36 e121 ?_
  refine t_gen h (fun s122 w123 h => ?_)
  refine x_dup dX8_init_37 (rfv_c _) ?_
  refine x_iconst (v := 5) dX8_init_38 (by decide) ?_
  refine t_ldcN hN dX8_init_39 (i := 5) ⟨5, rfl⟩ ?_
  obtain ⟨e124, h⟩ := h
  refine t_aastS hN (by decide) dX8_init_41 e124 ?_
  refine t_gen h (fun s125 w126 h => ?_)
  refine x_dup dX8_init_42 (rfv_c _) ?_
  refine x_bipush (v := 6) dX8_init_43 (by decide) ?_
  refine t_ldcN hN dX8_init_45 (i := 6) ⟨6, rfl⟩ ?_
  obtain ⟨e127, h⟩ := h
  refine t_aastS hN (by decide) dX8_init_47 e127 ?_
  refine t_gen h (fun s128 w129 h => ?_)
  refine x_dup dX8_init_48 (rfv_c _) ?_
  refine x_bipush (v := 7) dX8_init_49 (by decide) ?_
  refine t_ldcN hN dX8_init_51 (i := 7) ⟨7, rfl⟩ ?_
  obtain ⟨e130, h⟩ := h
  refine t_aastS hN (by decide) dX8_init_53 e130 ?_
  refine t_gen h (fun s131 w132 h => ?_)
  refine x_dup dX8_init_54 (rfv_c _) ?_
  refine x_bipush (v := 8) dX8_init_55 (by decide) ?_
  refine t_ldcN hN dX8_init_57 (i := 8) ⟨8, rfl⟩ ?_
  obtain ⟨e133, h⟩ := h
  refine t_aastS hN (by decide) dX8_init_59 e133 ?_
  refine t_gen h (fun s134 w135 h => ?_)
  refine x_dup dX8_init_60 (rfv_c _) ?_
  refine x_bipush (v := 9) dX8_init_61 (by decide) ?_
  refine t_ldcN hN dX8_init_63 (i := 9) ⟨9, rfl⟩ ?_
  obtain ⟨e136, h⟩ := h
  refine t_aastS hN (by decide) dX8_init_65 e136 ?_
  refine t_gen h (fun s137 w138 h => ?_)
  obtain ⟨c141, c142, e143, e144, h⟩ := h
  obtain ⟨e145, h⟩ := h
  refine t_cI (As := [_, _]) rfl ci_X8_31 e145.2 rfl rfl (xrm4 (Nat.le_of_ble_eq_true rfl)) dX8_init_66 (e_X7_init hN (by omega) h) ⟨e143, e144⟩ (fun _ _ _ h => h.elim) (fun _ s140 h => ?_)
  refine t_aload_0 dX8_init_69 ?_
  refine x_bipush (v := 12) dX8_init_70 (by decide) ?_
  obtain ⟨e146, h⟩ := h
  obtain ⟨e147, h⟩ := h
  refine t_anew (t := 6) (N := 12) dX8_init_72 nq_X8_37 (by decide) (by decide) (by decide) e146 e147 (fun q h1 h2 h3 => ?_)
  have h := h q h1 h2 (fun e => h3 (e.trans (hN 200)))
  refine t_gen h (fun s149 w150 h => ?_)
  obtain ⟨e151, h⟩ := h
  refine t_putFR (j := 8) dX8_init_75 ff_X8_39_7 rfl (by decide) e151 rfl ?_
  refine t_gen h (fun s152 w153 h => ?_)
  refine t_aload_0 dX8_init_78 ?_
  refine x_iconst (v := 3) dX8_init_79 (by decide) ?_
  obtain ⟨e154, h⟩ := h
  obtain ⟨e155, h⟩ := h
  refine t_anew (t := 9) (N := 3) dX8_init_80 nq_X8_9 (by decide) (by decide) (by decide) e154 e155 (fun q h1 h2 h3 => ?_)
  have h := h q h1 h2 (fun e => h3 (e.trans (hN 200)))
  refine t_gen h (fun s157 w158 h => ?_)
  refine x_dup dX8_init_83 (rfv_c _) ?_
  refine x_iconst (v := 0) dX8_init_84 (by decide) ?_
  refine t_ldcN hN dX8_init_85 (i := 10) ⟨10, rfl⟩ ?_
  obtain ⟨e159, h⟩ := h
  refine t_aastS hN (by decide) dX8_init_87 e159 ?_
  refine t_gen h (fun s160 w161 h => ?_)
  refine x_dup dX8_init_88 (rfv_c _) ?_
  refine x_iconst (v := 1) dX8_init_89 (by decide) ?_
  refine t_ldcN hN dX8_init_90 (i := 11) ⟨11, rfl⟩ ?_
  obtain ⟨e162, h⟩ := h
  refine t_aastS hN (by decide) dX8_init_92 e162 ?_
  refine t_gen h (fun s163 w164 h => ?_)
  refine x_dup dX8_init_93 (rfv_c _) ?_
  refine x_iconst (v := 2) dX8_init_94 (by decide) ?_
  refine t_ldcN hN dX8_init_95 (i := 12) ⟨12, rfl⟩ ?_
  obtain ⟨e165, h⟩ := h
  refine t_aastS hN (by decide) dX8_init_97 e165 ?_
  refine t_gen h (fun s166 w167 h => ?_)
  obtain ⟨e168, h⟩ := h
  refine t_putFR (j := 9) dX8_init_98 ff_X8_49_7 rfl (by decide) e168 rfl ?_
  refine t_gen h (fun s169 w170 h => ?_)
  exact x_vret dX8_init_101 rfl (Or.inl ⟨(), _, h, rfl, rfl⟩)
def v_X7_readAll_18 (N : tP) (x0 : Nat) (x1 : Int32) (y0 : Nat) (y1 : Int32) (Kr : Int32 → tM → Prop) (Kx : String → Nat → tM → Prop) (K : Int32 → Nat → Nat → tM → Prop) (R : Int32 → Nat → Nat → tM → Prop) (k n : Nat) (s : tM) : Prop :=
  (∃ c103 c104 : Nat, c103 ≤ k ∧ c104 ≤ n ∧ (tE s 7 18 y0 ∧ (v_X7_must N y0 y1 c103 c104 s (fun s102 => (∃ c110 c111 : Nat, c110 ≤ k - c103 ∧ c111 ≤ n - c104 ∧ (v_U_read N x0 x1 c110 c111 s102 (fun s109 => (∀ x114 : Int32, x114 = x1 + 1 → (tE s109 7 18 x0 ∧ (v_X7_accept N x0 (N.2.2 35) s109 (fun x115 s116 => ((¬ x115 = 0 → (R x114 ((k - c103) - c110) ((n - c104) - c111) s116)) ∧ (x115 = 0 → (K x114 ((k - c103) - c110) ((n - c104) - c111) s116)))))))) Kx))) Kx)))
theorem e_X7_readAll_18 {G : xG} {l : Launch} {g : xH} {d : Nat} {N : tP} (hN : tNs G N) (hd : 2 * N.2.1 + 20 ≤ d) (x0 : Nat) (x1 : Int32) (y0 : Nat) (y1 : Int32) (Kr : Int32 → tM → Prop) (Kx : String → Nat → tM → Prop) (K : Int32 → Nat → Nat → tM → Prop) (R : Int32 → Nat → Nat → tM → Prop) (k n : Nat) (s : tM) (h : v_X7_readAll_18 N x0 x1 y0 y1 Kr Kx K R k n s) (hK : ∀ (z1 : Int32) (k n : Nat) (s : tM), K z1 k n s → xF G l kX7_readAll (d + 1) k n (tQ G g wi Kr Kx) 38 [some (rfv x0), some (.int z1)] [] (tH G g s)) (hR : ∀ (z1 : Int32) (k n : Nat) (s : tM), R z1 k n s → xF G l kX7_readAll (d + 1) k n (tQ G g wi Kr Kx) 6 [some (rfv x0), some (.int z1)] [] (tH G g s)) : xF G l kX7_readAll (d + 1) k n (tQ G g wi Kr Kx) 18 [some (rfv x0), some (.int x1)] [.int y1, rfv y0] (tH G g s) := by
  unfold v_X7_readAll_18 at h
  obtain ⟨c103, c104, e105, e106, h⟩ := h
  obtain ⟨e107, h⟩ := h
  refine t_cDv (As := [_]) rfl (e107.elim (fun e => ⟨_, 7, _, _, _, _, _, xcl_X8.1, cu_X7_28_7, e, (e_X7_must hN (by omega) h)⟩) (fun e => ⟨_, 18, _, _, _, _, _, xcl_X21.1, cu_X7_28_18, e, (e_X7_must hN (by omega) h)⟩)) rfl rfl (xrm4 (Nat.le_of_ble_eq_true rfl)) dX7_readAll_18 ⟨e105, e106⟩ (fun E q m1 h => Or.inr ⟨E, q, m1, h, rfl, rfl⟩) (fun _ s102 h => ?_)
  refine t_aload_0 dX7_readAll_21 ?_
  refine x_iload_1 dX7_readAll_22 ?_
  obtain ⟨c110, c111, e112, e113, h⟩ := h
  refine t_cDv (As := [_]) rfl ((fun e => e.elim (fun e => ⟨_, 7, _, _, _, _, _, xcl_X8.1, cu_X7_32_7, e.1, e.2⟩) (fun e => ⟨_, 18, _, _, _, _, _, xcl_X21.1, cu_X7_32_18, e.1, e.2⟩)) (e_U_read hN (by omega) h)) rfl rfl (xrm4 (Nat.le_of_ble_eq_true rfl)) dX7_readAll_23 ⟨e112, e113⟩ (fun E q m1 h => Or.inr ⟨E, q, m1, h, rfl, rfl⟩) (fun _ s109 h => ?_)
  refine x_iinc_1 (v := 1) dX7_readAll_26 (by decide) (by decide) xN2_f ?_
  have h := h _ rfl
  refine t_aload_0 dX7_readAll_29 ?_
  refine t_ldcN hN dX7_readAll_30 (i := 35) ⟨36, rfl⟩ ?_
  obtain ⟨e117, h⟩ := h
  refine t_cDi (As := [_]) rfl (e117.elim (fun e => ⟨_, 7, _, _, _, _, _, xcl_X8.1, cu_X7_38_7, e, (e_X7_accept hN (by omega) h)⟩) (fun e => ⟨_, 18, _, _, _, _, _, xcl_X21.1, cu_X7_38_18, e, (e_X7_accept hN (by omega) h)⟩)) rfl rfl (xrm4 (Nat.le_of_ble_eq_true rfl)) dX7_readAll_32 ⟨Nat.zero_le _, Nat.zero_le _⟩ (fun _ _ _ h => h.elim) (fun x115 s116 h => ?_)
  refine x_if_ne 6 dX7_readAll_35 (by decide) (fun c118 => ?_) (fun c118 => ?_)
  · have h := h.1 c118
    exact x_le (xLe_cons (xLe_cons (xLe_nil))) (hR _ _ _ _ h)
  · have h := h.2 c118
    exact x_le (xLe_cons (xLe_cons (xLe_nil))) (hK _ _ _ _ h)
def v_X7_readAll_6 (N : tP) (x0 : Nat) (Kr : Int32 → tM → Prop) (Kx : String → Nat → tM → Prop) (K : Int32 → Nat → Nat → tM → Prop) : Nat → Int32 → Nat → Nat → tM → Prop
  | 0, _, _, _, _ => False
  | t + 1, x1, k, n, s => ((12 ≤ x1 → (v_X7_readAll_18 N x0 x1 x0 0 Kr Kx K (fun x1 k n s => v_X7_readAll_6 N x0 Kr Kx K t x1 k n s) k n s)) ∧ (¬ 12 ≤ x1 → (v_X7_readAll_18 N x0 x1 x0 1 Kr Kx K (fun x1 k n s => v_X7_readAll_6 N x0 Kr Kx K t x1 k n s) k n s)))
theorem e_X7_readAll_6 {G : xG} {l : Launch} {g : xH} {d : Nat} {N : tP} (hN : tNs G N) (hd : 2 * N.2.1 + 20 ≤ d) (x0 : Nat) (Kr : Int32 → tM → Prop) (Kx : String → Nat → tM → Prop) (K : Int32 → Nat → Nat → tM → Prop) : ∀ (t : Nat) (x1 : Int32) (k n : Nat) (s : tM) , v_X7_readAll_6 N x0 Kr Kx K t x1 k n s → (∀ (z1 : Int32) (k n : Nat) (s : tM), K z1 k n s → xF G l kX7_readAll (d + 1) k n (tQ G g wi Kr Kx) 38 [some (rfv x0), some (.int z1)] [] (tH G g s)) → xF G l kX7_readAll (d + 1) k n (tQ G g wi Kr Kx) 6 [some (rfv x0), some (.int x1)] [] (tH G g s) := by
  intro t
  induction t with
  | zero =>
    intro _ _ _ _ h _
    exact absurd h (by simp [v_X7_readAll_6])
  | succ t ih =>
    intro x1 k n s h hK
    have hR := fun x1 k n s h => ih x1 k n s h hK
    unfold v_X7_readAll_6 at h
    refine t_aload_0 dX7_readAll_6 ?_
    refine x_iload_1 dX7_readAll_7 ?_
    refine x_bipush (v := 12) dX7_readAll_8 (by decide) ?_
    refine x_icmp_ge 17 dX7_readAll_10 (by decide) (fun c101 => ?_) (fun c101 => ?_)
    · have h := h.1 c101
      refine x_iconst (v := 0) dX7_readAll_17 (by decide) ?_
      exact x_le (xLe_cons (xLe_cons (xLe_nil))) (e_X7_readAll_18 hN (by omega) _ _ _ _ _ _ _ _ _ _ _ h hK hR)
    · have h := h.2 c101
      refine x_iconst (v := 1) dX7_readAll_13 (by decide) ?_
      refine x_goto 18 dX7_readAll_14 (by decide) ?_
      exact x_le (xLe_cons (xLe_cons (xLe_nil))) (e_X7_readAll_18 hN (by omega) _ _ _ _ _ _ _ _ _ _ _ h hK hR)
def v_X7_readAll (N : tP) (x0 : Nat) (k n : Nat) (s : tM) (Kr : Int32 → tM → Prop) (Kx : String → Nat → tM → Prop) : Prop :=
  (tE s 7 18 x0 ∧ (v_X7_next N x0 s (fun s102 => (v_X7_readAll_6 N x0 Kr Kx (fun x104 k106 n107 s105 => (tE s105 7 18 x0 ∧ (tO s105 0 (tR s105 x0 7) ∧ ((¬ (tI s105 x0 0) = (tI s105 (tR s105 x0 7) 15) → (∃ c113 c114 : Nat, c113 ≤ k106 ∧ c114 ≤ n107 ∧ (v_X7_must N x0 0 c113 c114 s105 (fun s112 => (Kr x104 s112)) Kx))) ∧ ((tI s105 x0 0) = (tI s105 (tR s105 x0 7) 15) → (∃ c119 c120 : Nat, c119 ≤ k106 ∧ c120 ≤ n107 ∧ (v_X7_must N x0 1 c119 c120 s105 (fun s118 => (Kr x104 s118)) Kx))))))) N.1 0 k n s102))))
theorem e_X7_readAll {G : xG} {l : Launch} {g : xH} {d : Nat} {N : tP} (hN : tNs G N) (hd : 2 * N.2.1 + 21 ≤ d) {x0 : Nat} {k n : Nat} {s : tM} {Kr : Int32 → tM → Prop} {Kx : String → Nat → tM → Prop} (h : v_X7_readAll N x0 k n s Kr Kx) : xC G l kX7_readAll d k n [rfv x0] (tH G g s) (tQ G g wi Kr Kx) := by
  obtain ⟨d, rfl⟩ : ∃ z, d = z + 1 := ⟨d - 1, by omega⟩
  refine t_start rfl (by decide +kernel) (by simp [xct_i, xct_l, rfv_c]) (lv := [some (rfv x0), none]) (by simp [lv_args, xLv, rfv_c, xct_i, xct_l]) ?_
  unfold v_X7_readAll at h
  refine x_iconst (v := 0) dX7_readAll_0 (by decide) ?_
  refine x_istore_1 dX7_readAll_1 (by decide) xN2_f ?_
  refine t_aload_0 dX7_readAll_2 ?_
  obtain ⟨e103, h⟩ := h
  refine t_cDv (As := []) rfl (e103.elim (fun e => ⟨_, 7, _, _, _, _, _, xcl_X8.1, cu_X7_25_7, e, (e_X7_next hN (by omega) h)⟩) (fun e => ⟨_, 18, _, _, _, _, _, xcl_X21.1, cu_X7_25_18, e, (e_X7_next hN (by omega) h)⟩)) rfl rfl (xrm4 (Nat.le_of_ble_eq_true rfl)) dX7_readAll_3 ⟨Nat.zero_le _, Nat.zero_le _⟩ (fun _ _ _ h => h.elim) (fun _ s102 h => ?_)
  refine x_le (xLe_cons (xLe_cons (xLe_nil))) (e_X7_readAll_6 hN (by omega) _ _ _ _  _ _ _ _ _ h (fun x104 k106 n107 s105 h => ?_))
  refine t_aload_0 dX7_readAll_38 ?_
  refine t_aload_0 dX7_readAll_39 ?_
  obtain ⟨e108, h⟩ := h
  refine t_getI2 (j := 0) dX7_readAll_40 ⟨fa_X7_42_7, fa_X7_42_18⟩ (by decide) e108 ?_
  refine t_aload_0 dX7_readAll_43 ?_
  refine t_getR2 (j := 7) dX7_readAll_44 ⟨fa_X7_3_7, fa_X7_3_18⟩ (by decide) e108 ?_
  obtain ⟨e109, h⟩ := h
  refine t_getI dX7_readAll_47 fa_X7_46_0 (by decide) e109 ?_
  refine x_icmp_ne 57 dX7_readAll_50 (by decide) (fun c110 => ?_) (fun c110 => ?_)
  · have h := h.1 c110
    refine x_iconst (v := 0) dX7_readAll_57 (by decide) ?_
    obtain ⟨c113, c114, e115, e116, h⟩ := h
    refine t_cDv (As := [_]) rfl (e108.elim (fun e => ⟨_, 7, _, _, _, _, _, xcl_X8.1, cu_X7_28_7, e, (e_X7_must hN (by omega) h)⟩) (fun e => ⟨_, 18, _, _, _, _, _, xcl_X21.1, cu_X7_28_18, e, (e_X7_must hN (by omega) h)⟩)) rfl rfl (xrm4 (Nat.le_of_ble_eq_true rfl)) dX7_readAll_58 ⟨e115, e116⟩ (fun E q m1 h => Or.inr ⟨E, q, m1, h, rfl, rfl⟩) (fun _ s112 h => ?_)
    refine x_iload_1 dX7_readAll_61 ?_
    exact x_iret dX7_readAll_62 rfl (Or.inl ⟨_, _, h, rfl, rfl⟩)
  · have h := h.2 c110
    refine x_iconst (v := 1) dX7_readAll_53 (by decide) ?_
    refine x_goto 58 dX7_readAll_54 (by decide) ?_
    obtain ⟨c119, c120, e121, e122, h⟩ := h
    refine t_cDv (As := [_]) rfl (e108.elim (fun e => ⟨_, 7, _, _, _, _, _, xcl_X8.1, cu_X7_28_7, e, (e_X7_must hN (by omega) h)⟩) (fun e => ⟨_, 18, _, _, _, _, _, xcl_X21.1, cu_X7_28_18, e, (e_X7_must hN (by omega) h)⟩)) rfl rfl (xrm4 (Nat.le_of_ble_eq_true rfl)) dX7_readAll_58 ⟨e121, e122⟩ (fun E q m1 h => Or.inr ⟨E, q, m1, h, rfl, rfl⟩) (fun _ s118 h => ?_)
    refine x_iload_1 dX7_readAll_61 ?_
    exact x_iret dX7_readAll_62 rfl (Or.inl ⟨_, _, h, rfl, rfl⟩)
def v_X8_read (N : tP) (x0 : Nat) (k n : Nat) (s : tM) (Kr : Nat → tM → Prop) (Kx : String → Nat → tM → Prop) : Prop :=
  (∃ c103 c104 : Nat, c103 ≤ k ∧ c104 ≤ n ∧ (tO s 7 x0 ∧ (v_X7_readAll N x0 c103 c104 s (fun x101 s102 => (¬ x101 < 0 ∧ (x101.toNatClampNeg * 4 ≤ 536870912 ∧ (1 ≤ (k - c103) ∧ (x101.toNatClampNeg ≤ (n - c104) ∧ (∀ q112 : Nat, s102.1 q112 = none → ¬ q112 = 0 → ¬ q112 = N.2.2 200 → (∀ s113 : tM, s113 = tNew s102 q112 (.inr (6, x101.toNatClampNeg)) → (tO s113 7 x0 ∧ ((∃ N, tA s113 6 N q112) ∧ (tCpOk s113 6 (tR s113 x0 8) q112 0 0 (Int32.ofNat (tLen s113 q112)) ∧ ((∀ i : Nat, i < ((Int32.ofNat (tLen s113 q112))).toNatClampNeg → tR s113 (tR s113 x0 8) (0 + i) = 0 ∨ ∃ ci, xSt 6 ci ∧ tO s113 ci (tR s113 (tR s113 x0 8) (0 + i))) ∧ (∀ s119 : tM, s119 = tCpR s113 (tR s113 x0 8) q112 0 0 ((Int32.ofNat (tLen s113 q112))).toNatClampNeg → (1 ≤ ((k - c103) - 1) ∧ (1 ≤ ((n - c104) - x101.toNatClampNeg) ∧ (∀ q123 : Nat, s119.1 q123 = none → ¬ q123 = 0 → ¬ q123 = N.2.2 200 → (∀ s124 : tM, s124 = tNew s119 q123 (.inl 5) → (v_X5_init q123 q112 s124 (fun s128 => (Kr q123 s128))))))))))))))))))) Kx)))
theorem e_X8_read {G : xG} {l : Launch} {g : xH} {d : Nat} {N : tP} (hN : tNs G N) (hd : 2 * N.2.1 + 23 ≤ d) {x0 : Nat} {k n : Nat} {s : tM} {Kr : Nat → tM → Prop} {Kx : String → Nat → tM → Prop} (h : v_X8_read N x0 k n s Kr Kx) : xC G l kX8_read d k n [rfv x0] (tH G g s) (tQ G g wr Kr Kx) := by
  obtain ⟨d, rfl⟩ : ∃ z, d = z + 1 := ⟨d - 1, by omega⟩
  refine t_start rfl (by decide +kernel) (by simp [xct_i, xct_l, rfv_c]) (lv := [some (rfv x0), none]) (by simp [lv_args, xLv, rfv_c, xct_i, xct_l]) ?_
  unfold v_X8_read at h
  refine t_aload_0 dX8_read_0 ?_
  obtain ⟨c103, c104, e105, e106, h⟩ := h
  obtain ⟨e107, h⟩ := h
  refine t_cDi (As := []) rfl ⟨_, 7, _, _, _, _, _, xcl_X8.1, cu_X8_53_7, e107, (e_X7_readAll hN (by omega) h)⟩ rfl rfl (xrm4 (Nat.le_of_ble_eq_true rfl)) dX8_read_1 ⟨e105, e106⟩ (fun E q m1 h => Or.inr ⟨E, q, m1, h, rfl, rfl⟩) (fun x101 s102 h => ?_)
  obtain ⟨e108, h⟩ := h
  obtain ⟨e109, h⟩ := h
  obtain ⟨e110, h⟩ := h
  obtain ⟨e111, h⟩ := h
  refine t_anew (t := 6) (N := _) dX8_read_4 nq_X8_37 e108 rfl e109 e110 e111 (fun q h1 h2 h3 => ?_)
  have h := h q h1 h2 (fun e => h3 (e.trans (hN 200)))
  refine t_gen h (fun s113 w114 h => ?_)
  refine t_astore_1 dX8_read_7 (by decide) xN2_f ?_
  refine t_aload_0 dX8_read_8 ?_
  obtain ⟨e115, h⟩ := h
  refine t_getR dX8_read_9 fa_X8_39_7 (by decide) e115 ?_
  refine x_iconst (v := 0) dX8_read_12 (by decide) ?_
  refine t_aload_1 dX8_read_13 ?_
  refine x_iconst (v := 0) dX8_read_14 (by decide) ?_
  refine t_aload_1 dX8_read_15 ?_
  obtain ⟨e116, h⟩ := h
  refine t_alen (t := 6) dX8_read_16 ⟨rfl, by decide⟩ e116 ?_
  obtain ⟨e117, h⟩ := h
  obtain ⟨e118, h⟩ := h
  refine t_copyR (t := 6) dX8_read_17 na_X8_57 rfl (by decide) rfl e117 e118 (by omega) (by decide) ?_
  refine t_gen h (fun s119 w120 h => ?_)
  obtain ⟨e121, h⟩ := h
  obtain ⟨e122, h⟩ := h
  refine t_new (N := 1) dX8_read_20 ne_X8_63 rfl e121 e122 (fun q h1 h2 h3 => ?_)
  have h := h q h1 h2 (fun e => h3 (e.trans (hN 200)))
  refine t_gen h (fun s124 w125 h => ?_)
  have e126 := h2
  refine x_dup dX8_read_23 (rfv_c _) ?_
  refine t_aload_1 dX8_read_24 ?_
  refine t_cI (As := [_]) rfl ci_X8_65 e126 rfl rfl (xrm4 (Nat.le_of_ble_eq_true rfl)) dX8_read_25 (e_X5_init (by omega) h) ⟨Nat.zero_le _, Nat.zero_le _⟩ (fun _ _ _ h => h.elim) (fun _ s128 h => ?_)
  exact t_aret dX8_read_28 rfl (by first | exact Or.inl ⟨_, rfl⟩ | exact Or.inr ⟨_, rfl⟩) (Or.inl ⟨_, _, h, rfl, rfl⟩)
def v_X0_law (N : tP) (x0 : Nat) (k n : Nat) (s : tM) (Kr : Int32 → tM → Prop) : Prop :=
  (tO s 0 x0 ∧ (tO s 1 (tR s x0 0) ∧ (tO s 20 (tR s (tR s x0 0) 0) ∧ (v_J2_size (tR s (tR s x0 0) 0) s (fun x103 s104 => ((¬ x103 = 6 → (tO s104 0 x0 ∧ (tO s104 1 (tR s104 x0 0) ∧ (1 ≤ k ∧ (11 ≤ n ∧ (∀ q111 : Nat, s104.1 q111 = none → ¬ q111 = 0 → ¬ q111 = N.2.2 200 → (∀ s112 : tM, s112 = tNew s104 q111 (.inl 7) → (∃ c117 c118 : Nat, c117 ≤ k - 1 ∧ c118 ≤ n - 11 ∧ (v_X8_init N q111 x0 c117 c118 s112 (fun s116 => (∃ c123 c124 : Nat, c123 ≤ (k - 1) - c117 ∧ c124 ≤ (n - 11) - c118 ∧ (tO s116 7 q111 ∧ (v_X8_read N q111 c123 c124 s116 (fun x121 s122 => (∃ c130 c131 : Nat, c130 ≤ ((k - 1) - c117) - c123 ∧ c131 ≤ ((n - 11) - c118) - c124 ∧ (tO s122 20 (tR s104 (tR s104 x0 0) 0) ∧ (v_J2_add N (tR s104 (tR s104 x0 0) 0) x121 c130 c131 s122 (fun x128 s129 => (tO s129 0 x0 ∧ (∀ s136 : tM, s136 = tsI s129 x0 11 (-1) → (tO s136 1 (tR s136 x0 0) ∧ (tO s136 20 (tR s136 (tR s136 x0 0) 0) ∧ (v_J2_size (tR s136 (tR s136 x0 0) 0) s136 (fun x139 s140 => (tO s140 0 x0 ∧ (v_X0_tell x0 (x139 - 1) s140 (fun x142 s143 => (tO s143 0 x0 ∧ (∀ s146 : tM, s146 = tsI s143 x0 15 0 → (Kr x142 s146))))))))))))))))) (fun E q148 s149 => E = "CounterDesk$Wrong" ∧ (tO s149 8 q148 ∧ (tO s149 0 x0 ∧ (∀ s152 : tM, s152 = tsI s149 x0 11 (tI s149 q148 6) → (v_X0_tell x0 (-6) s152 (fun x154 s155 => (tO s155 0 x0 ∧ (∀ s157 : tM, s157 = tsI s155 x0 15 0 → (Kr x154 s157)))))))))))))))))))))) ∧ (x103 = 6 → (tO s104 0 x0 ∧ (∀ s160 : tM, s160 = tsI s104 x0 15 0 → (v_X0_tell x0 (-5) s160 (fun x162 s163 => (Kr x162 s163))))))))))))
theorem e_X0_law {G : xG} {l : Launch} {g : xH} {d : Nat} {N : tP} (hN : tNs G N) (hd : 2 * N.2.1 + 25 ≤ d) {x0 : Nat} {k n : Nat} {s : tM} {Kr : Int32 → tM → Prop} (h : v_X0_law N x0 k n s Kr) : xC G l kX0_law d k n [rfv x0] (tH G g s) (tQ G g wi Kr tNo) := by
  obtain ⟨d, rfl⟩ : ∃ z, d = z + 1 := ⟨d - 1, by omega⟩
  refine xC.startH (by decide) (by decide +kernel) (by simp [xct_i, xct_l, rfv_c]) (lv := [some (rfv x0), none, none, none]) (by simp [lv_args, xLv, rfv_c, xct_i, xct_l]) ?_
  unfold v_X0_law at h
  refine t_aload_0 dX0_law_0 ?_
  obtain ⟨e101, h⟩ := h
  refine t_getR dX0_law_1 fa_X0_18_0 (by decide) e101 ?_
  obtain ⟨e102, h⟩ := h
  refine t_getR dX0_law_4 fa_X0_227_1 (by decide) e102 ?_
  obtain ⟨e105, h⟩ := h
  refine t_cViH (As := []) cv_X0_231 rfl e105 rfl rfl (xrm4 (Nat.le_of_ble_eq_true rfl)) dX0_law_7 (e_J2_size (by omega) h) ⟨Nat.zero_le _, Nat.zero_le _⟩ (fun _ _ _ h => h.elim) (fun x103 s104 h => ?_)
  refine x_bipush (v := 6) dX0_law_10 (by decide) ?_
  refine x_icmp_ne 27 dX0_law_12 (by decide) (fun c106 => ?_) (fun c106 => ?_)
  · have h := h.1 c106
    refine t_aload_0 dX0_law_27 ?_
    obtain ⟨e107, h⟩ := h
    refine t_getR dX0_law_28 fa_X0_18_0 (by decide) e107 ?_
    obtain ⟨e108, h⟩ := h
    refine t_getR dX0_law_31 fa_X0_227_1 (by decide) e108 ?_
    obtain ⟨e109, h⟩ := h
    obtain ⟨e110, h⟩ := h
    refine t_new (N := 11) dX0_law_34 ne_X0_236 rfl e109 e110 (fun q h1 h2 h3 => ?_)
    have h := h q h1 h2 (fun e => h3 (e.trans (hN 200)))
    refine t_gen h (fun s112 w113 h => ?_)
    have e114 := h2
    refine x_dup dX0_law_37 (rfv_c _) ?_
    refine t_aload_0 dX0_law_38 ?_
    obtain ⟨c117, c118, e119, e120, h⟩ := h
    refine t_cIH (As := [_]) ci_X0_238 e114 rfl rfl (xrm4 (Nat.le_of_ble_eq_true rfl)) dX0_law_39 (e_X8_init hN (by omega) h) ⟨e119, e120⟩ (fun _ _ _ h => h.elim) (fun _ s116 h => ?_)
    obtain ⟨c123, c124, e125, e126, h⟩ := h
    obtain ⟨e127, h⟩ := h
    refine t_cVrH (As := []) cv_X0_241 rfl e127 rfl rfl (xrm4 (Nat.le_of_ble_eq_true rfl)) dX0_law_42 (e_X8_read hN (by omega) h) ⟨e125, e126⟩ (fun E q s149 h => ?_) (fun x121 s122 h => ?_)
    · obtain ⟨rfl, h⟩ := h
      refine ⟨78, ⟨27, 71, 249, _, rfl, by decide, by decide, by decide, q713, xnw_of q813 rfl⟩, ?_⟩
      refine t_astore_1 dX0_law_78 (by decide) xN2_f ?_
      refine t_aload_0 dX0_law_79 ?_
      refine t_aload_1 dX0_law_80 ?_
      obtain ⟨e150, h⟩ := h
      refine t_getI dX0_law_81 fa_X0_251_8 (by decide) e150 ?_
      obtain ⟨e151, h⟩ := h
      refine t_putI (j := 11) dX0_law_84 fp_X0_71_0 (by decide) e151 rfl rfl ?_
      refine t_gen h (fun s152 w153 h => ?_)
      refine t_aload_0 dX0_law_87 ?_
      refine x_bipush (v := (-6)) dX0_law_88 (by decide) ?_
      refine t_cViH (As := [_]) cv_X0_132 rfl (tO_w w153 e151) rfl rfl (xrm4 (Nat.le_of_ble_eq_true rfl)) dX0_law_90 (e_X0_tell (by omega) h) ⟨Nat.zero_le _, Nat.zero_le _⟩ (fun _ _ _ h => h.elim) (fun x154 s155 h => ?_)
      refine x_istore_2 dX0_law_93 (by decide) xN2_f ?_
      refine t_aload_0 dX0_law_94 ?_
      refine x_iconst (v := 0) dX0_law_95 (by decide) ?_
      obtain ⟨e156, h⟩ := h
      refine t_putI (j := 15) dX0_law_96 fp_X0_146_0 (by decide) e156 rfl rfl ?_
      refine t_gen h (fun s157 w158 h => ?_)
      refine x_iload_2 dX0_law_99 ?_
      exact x_iret dX0_law_100 rfl (Or.inl ⟨_, _, h, rfl, rfl⟩)
    · skip
      obtain ⟨c130, c131, e132, e133, h⟩ := h
      obtain ⟨e134, h⟩ := h
      refine t_cViH (As := [_]) cv_X0_245 rfl e134 rfl rfl (xrm4 (Nat.le_of_ble_eq_true rfl)) dX0_law_45 (e_J2_add hN (by omega) h) ⟨e132, e133⟩ (fun _ _ _ h => h.elim) (fun x128 s129 h => ?_)
      refine x_pop dX0_law_48 rfl ?_
      refine t_aload_0 dX0_law_49 ?_
      refine x_iconst (v := (-1)) dX0_law_50 (by decide) ?_
      obtain ⟨e135, h⟩ := h
      refine t_putI (j := 11) dX0_law_51 fp_X0_71_0 (by decide) e135 rfl rfl ?_
      refine t_gen h (fun s136 w137 h => ?_)
      refine t_aload_0 dX0_law_54 ?_
      refine t_aload_0 dX0_law_55 ?_
      refine t_getR dX0_law_56 fa_X0_18_0 (by decide) (tO_w w137 e135) ?_
      obtain ⟨e138, h⟩ := h
      refine t_getR dX0_law_59 fa_X0_227_1 (by decide) e138 ?_
      obtain ⟨e141, h⟩ := h
      refine t_cViH (As := []) cv_X0_231 rfl e141 rfl rfl (xrm4 (Nat.le_of_ble_eq_true rfl)) dX0_law_62 (e_J2_size (by omega) h) ⟨Nat.zero_le _, Nat.zero_le _⟩ (fun _ _ _ h => h.elim) (fun x139 s140 h => ?_)
      refine x_iconst (v := 1) dX0_law_65 (by decide) ?_
      refine x_isub dX0_law_66 ?_
      obtain ⟨e144, h⟩ := h
      refine t_cViH (As := [_]) cv_X0_132 rfl e144 rfl rfl (xrm4 (Nat.le_of_ble_eq_true rfl)) dX0_law_67 (e_X0_tell (by omega) h) ⟨Nat.zero_le _, Nat.zero_le _⟩ (fun _ _ _ h => h.elim) (fun x142 s143 h => ?_)
      refine x_istore_1 dX0_law_70 (by decide) xN2_f ?_
      refine t_aload_0 dX0_law_71 ?_
      refine x_iconst (v := 0) dX0_law_72 (by decide) ?_
      obtain ⟨e145, h⟩ := h
      refine t_putI (j := 15) dX0_law_73 fp_X0_146_0 (by decide) e145 rfl rfl ?_
      refine t_gen h (fun s146 w147 h => ?_)
      refine x_iload_1 dX0_law_76 ?_
      exact x_iret dX0_law_77 rfl (Or.inl ⟨_, _, h, rfl, rfl⟩)
  · have h := h.2 c106
    refine t_aload_0 dX0_law_15 ?_
    refine x_iconst (v := 0) dX0_law_16 (by decide) ?_
    obtain ⟨e159, h⟩ := h
    refine t_putI (j := 15) dX0_law_17 fp_X0_146_0 (by decide) e159 rfl rfl ?_
    refine t_gen h (fun s160 w161 h => ?_)
    refine t_aload_0 dX0_law_20 ?_
    refine x_bipush (v := (-5)) dX0_law_21 (by decide) ?_
    refine t_cViH (As := [_]) cv_X0_132 rfl (tO_w w161 e159) rfl rfl (xrm4 (Nat.le_of_ble_eq_true rfl)) dX0_law_23 (e_X0_tell (by omega) h) ⟨Nat.zero_le _, Nat.zero_le _⟩ (fun _ _ _ h => h.elim) (fun x162 s163 h => ?_)
    exact x_iret dX0_law_26 rfl (Or.inl ⟨_, _, h, rfl, rfl⟩)
def v_X0_mostAlike_52 (N : tP) (x0 : Nat) (x1 : Int32) (x3 : Int32) (x4 : Int32) (Kr : Int32 → tM → Prop) (K : Int32 → tM → Prop) : Nat → Int32 → Int32 → tM → Prop
  | 0, _, _, _ => False
  | t + 1, x5, x6, s => (tO s 0 x0 ∧ (v_X0_nNotes x0 s (fun x101 s102 => ((x101 ≤ x6 → (K x5 s102)) ∧ (¬ x101 ≤ x6 → (v_X0_has x1 x4 s102 (fun x105 s106 => ((x105 = 0 → (∀ x108 : Int32, x108 = x5 + 0 → (∀ x109 : Int32, x109 = x6 + 1 → ((fun x5 x6 s => v_X0_mostAlike_52 N x0 x1 x3 x4 Kr K t x5 x6 s) x108 x109 s106)))) ∧ (¬ x105 = 0 → (v_X0_has x1 x6 s106 (fun x110 s111 => ((x110 = 0 → (∀ x113 : Int32, x113 = x5 + 0 → (∀ x114 : Int32, x114 = x6 + 1 → ((fun x5 x6 s => v_X0_mostAlike_52 N x0 x1 x3 x4 Kr K t x5 x6 s) x113 x114 s111)))) ∧ (¬ x110 = 0 → (tO s111 0 x0 ∧ (tX s111 0 (tR s111 x0 23) x4 ∧ (tX s111 0 (tR s111 x0 23) x6 ∧ ((¬ (tI s111 (tR s111 x0 23) x4.toNatClampNeg) = (tI s111 (tR s111 x0 23) x6.toNatClampNeg) → (∀ x119 : Int32, x119 = x5 + 0 → (∀ x120 : Int32, x120 = x6 + 1 → ((fun x5 x6 s => v_X0_mostAlike_52 N x0 x1 x3 x4 Kr K t x5 x6 s) x119 x120 s111)))) ∧ ((tI s111 (tR s111 x0 23) x4.toNatClampNeg) = (tI s111 (tR s111 x0 23) x6.toNatClampNeg) → (∀ x121 : Int32, x121 = x5 + 1 → (∀ x122 : Int32, x122 = x6 + 1 → ((fun x5 x6 s => v_X0_mostAlike_52 N x0 x1 x3 x4 Kr K t x5 x6 s) x121 x122 s111)))))))))))))))))))))
theorem e_X0_mostAlike_52 {G : xG} {l : Launch} {g : xH} {d : Nat} {N : tP} (hN : tNs G N) (hd : 2 * N.2.1 + 21 ≤ d) (x0 : Nat) (x1 : Int32) (x3 : Int32) (x4 : Int32) (Kr : Int32 → tM → Prop) (K : Int32 → tM → Prop) : ∀ (t : Nat) (x5 : Int32) (x6 : Int32) (s : tM) , v_X0_mostAlike_52 N x0 x1 x3 x4 Kr K t x5 x6 s → (∀ (z5 : Int32) (s : tM), K z5 s → xF G l kX0_mostAlike (d + 1) 0 0 (tQ G g wi Kr tNo) 112 [some (rfv x0), some (.int x1), none, some (.int x3), some (.int x4), some (.int z5), none] [] (tH G g s)) → xF G l kX0_mostAlike (d + 1) 0 0 (tQ G g wi Kr tNo) 52 [some (rfv x0), some (.int x1), none, some (.int x3), some (.int x4), some (.int x5), some (.int x6)] [] (tH G g s) := by
  intro t
  induction t with
  | zero =>
    intro _ _ _ h _
    exact absurd h (by simp [v_X0_mostAlike_52])
  | succ t ih =>
    intro x5 x6 s h hK
    have hR := fun x5 x6 s h => ih x5 x6 s h hK
    unfold v_X0_mostAlike_52 at h
    refine x_iload_6 dX0_mostAlike_52 ?_
    refine t_aload_0 dX0_mostAlike_54 ?_
    obtain ⟨e103, h⟩ := h
    refine t_cVi (As := []) rfl cv_X0_142 rfl e103 rfl rfl (xrm4 (Nat.le_of_ble_eq_true rfl)) dX0_mostAlike_55 (e_X0_nNotes (by omega) h) ⟨Nat.zero_le _, Nat.zero_le _⟩ (fun _ _ _ h => h.elim) (fun x101 s102 h => ?_)
    refine x_icmp_ge 112 dX0_mostAlike_58 (by decide) (fun c104 => ?_) (fun c104 => ?_)
    · have h := h.1 c104
      exact x_le (xLe_cons (xLe_cons (xLe_cons (xLe_cons (xLe_cons (xLe_cons (xLe_none (xLe_nil)))))))) (hK _ _ h)
    · have h := h.2 c104
      refine x_iload_5 dX0_mostAlike_61 ?_
      refine x_iload_1 dX0_mostAlike_63 ?_
      refine x_iload_4 dX0_mostAlike_64 ?_
      refine t_cSi (As := [_, _]) rfl cs_X0_387 rfl rfl (xrm4 (Nat.le_of_ble_eq_true rfl)) dX0_mostAlike_66 (e_X0_has (by omega) h) ⟨Nat.zero_le _, Nat.zero_le _⟩ (fun _ _ _ h => h.elim) (fun x105 s106 h => ?_)
      refine x_if_eq 102 dX0_mostAlike_69 (by decide) (fun c107 => ?_) (fun c107 => ?_)
      · have h := h.1 c107
        refine x_iconst (v := 0) dX0_mostAlike_102 (by decide) ?_
        refine x_iadd dX0_mostAlike_103 ?_
        refine x_istore_5 dX0_mostAlike_104 (by decide) xN2_i ?_
        have h := h _ rfl
        refine x_iinc_6 (v := 1) dX0_mostAlike_106 (by decide) (by decide) xN2_i ?_
        have h := h _ rfl
        refine x_goto 52 dX0_mostAlike_109 (by decide) ?_
        exact x_le (xLe_cons (xLe_cons (xLe_cons (xLe_cons (xLe_cons (xLe_cons (xLe_cons (xLe_nil)))))))) (hR _ _ _ h)
      · have h := h.2 c107
        refine x_iload_1 dX0_mostAlike_72 ?_
        refine x_iload_6 dX0_mostAlike_73 ?_
        refine t_cSi (As := [_, _]) rfl cs_X0_387 rfl rfl (xrm4 (Nat.le_of_ble_eq_true rfl)) dX0_mostAlike_75 (e_X0_has (by omega) h) ⟨Nat.zero_le _, Nat.zero_le _⟩ (fun _ _ _ h => h.elim) (fun x110 s111 h => ?_)
        refine x_if_eq 102 dX0_mostAlike_78 (by decide) (fun c112 => ?_) (fun c112 => ?_)
        · have h := h.1 c112
          refine x_iconst (v := 0) dX0_mostAlike_102 (by decide) ?_
          refine x_iadd dX0_mostAlike_103 ?_
          refine x_istore_5 dX0_mostAlike_104 (by decide) xN2_i ?_
          have h := h _ rfl
          refine x_iinc_6 (v := 1) dX0_mostAlike_106 (by decide) (by decide) xN2_i ?_
          have h := h _ rfl
          refine x_goto 52 dX0_mostAlike_109 (by decide) ?_
          exact x_le (xLe_cons (xLe_cons (xLe_cons (xLe_cons (xLe_cons (xLe_cons (xLe_cons (xLe_nil)))))))) (hR _ _ _ h)
        · have h := h.2 c112
          refine t_aload_0 dX0_mostAlike_81 ?_
          obtain ⟨e115, h⟩ := h
          refine t_getR dX0_mostAlike_82 fa_X0_111_0 (by decide) e115 ?_
          refine x_iload_4 dX0_mostAlike_85 ?_
          obtain ⟨e116, h⟩ := h
          refine t_iald dX0_mostAlike_87 e116 ?_
          refine t_aload_0 dX0_mostAlike_88 ?_
          refine t_getR dX0_mostAlike_89 fa_X0_111_0 (by decide) e115 ?_
          refine x_iload_6 dX0_mostAlike_92 ?_
          obtain ⟨e117, h⟩ := h
          refine t_iald dX0_mostAlike_94 e117 ?_
          refine x_icmp_ne 102 dX0_mostAlike_95 (by decide) (fun c118 => ?_) (fun c118 => ?_)
          · have h := h.1 c118
            refine x_iconst (v := 0) dX0_mostAlike_102 (by decide) ?_
            refine x_iadd dX0_mostAlike_103 ?_
            refine x_istore_5 dX0_mostAlike_104 (by decide) xN2_i ?_
            have h := h _ rfl
            refine x_iinc_6 (v := 1) dX0_mostAlike_106 (by decide) (by decide) xN2_i ?_
            have h := h _ rfl
            refine x_goto 52 dX0_mostAlike_109 (by decide) ?_
            exact x_le (xLe_cons (xLe_cons (xLe_cons (xLe_cons (xLe_cons (xLe_cons (xLe_cons (xLe_nil)))))))) (hR _ _ _ h)
          · have h := h.2 c118
            refine x_iconst (v := 1) dX0_mostAlike_98 (by decide) ?_
            refine x_goto 103 dX0_mostAlike_99 (by decide) ?_
            refine x_iadd dX0_mostAlike_103 ?_
            refine x_istore_5 dX0_mostAlike_104 (by decide) xN2_i ?_
            have h := h _ rfl
            refine x_iinc_6 (v := 1) dX0_mostAlike_106 (by decide) (by decide) xN2_i ?_
            have h := h _ rfl
            refine x_goto 52 dX0_mostAlike_109 (by decide) ?_
            exact x_le (xLe_cons (xLe_cons (xLe_cons (xLe_cons (xLe_cons (xLe_cons (xLe_cons (xLe_nil)))))))) (hR _ _ _ h)
def v_X0_mostAlike_37 (N : tP) (x0 : Nat) (x1 : Int32) (Kr : Int32 → tM → Prop) (K : Int32 → tM → Prop) : Nat → Int32 → Int32 → tM → Prop
  | 0, _, _, _ => False
  | t + 1, x3, x4, s => (tO s 0 x0 ∧ (v_X0_nNotes x0 s (fun x101 s102 => ((x101 ≤ x4 → (K x3 s102)) ∧ (¬ x101 ≤ x4 → (v_X0_mostAlike_52 N x0 x1 x3 x4 Kr (fun x105 s106 => (∀ x107 : Int32, x107 = (if x3 < x105 then x105 else x3) → (∀ x108 : Int32, x108 = x4 + 1 → ((fun x3 x4 s => v_X0_mostAlike_37 N x0 x1 Kr K t x3 x4 s) x107 x108 s106)))) N.1 0 0 s102))))))
theorem e_X0_mostAlike_37 {G : xG} {l : Launch} {g : xH} {d : Nat} {N : tP} (hN : tNs G N) (hd : 2 * N.2.1 + 21 ≤ d) (x0 : Nat) (x1 : Int32) (Kr : Int32 → tM → Prop) (K : Int32 → tM → Prop) : ∀ (t : Nat) (x3 : Int32) (x4 : Int32) (s : tM) , v_X0_mostAlike_37 N x0 x1 Kr K t x3 x4 s → (∀ (z3 : Int32) (s : tM), K z3 s → xF G l kX0_mostAlike (d + 1) 0 0 (tQ G g wi Kr tNo) 125 [none, none, none, some (.int z3), none, none, none] [] (tH G g s)) → xF G l kX0_mostAlike (d + 1) 0 0 (tQ G g wi Kr tNo) 37 [some (rfv x0), some (.int x1), none, some (.int x3), some (.int x4), none, none] [] (tH G g s) := by
  intro t
  induction t with
  | zero =>
    intro _ _ _ h _
    exact absurd h (by simp [v_X0_mostAlike_37])
  | succ t ih =>
    intro x3 x4 s h hK
    have hR := fun x3 x4 s h => ih x3 x4 s h hK
    unfold v_X0_mostAlike_37 at h
    refine x_iload_4 dX0_mostAlike_37 ?_
    refine t_aload_0 dX0_mostAlike_39 ?_
    obtain ⟨e103, h⟩ := h
    refine t_cVi (As := []) rfl cv_X0_142 rfl e103 rfl rfl (xrm4 (Nat.le_of_ble_eq_true rfl)) dX0_mostAlike_40 (e_X0_nNotes (by omega) h) ⟨Nat.zero_le _, Nat.zero_le _⟩ (fun _ _ _ h => h.elim) (fun x101 s102 h => ?_)
    refine x_icmp_ge 125 dX0_mostAlike_43 (by decide) (fun c104 => ?_) (fun c104 => ?_)
    · have h := h.1 c104
      exact x_le (xLe_none (xLe_none (xLe_cons (xLe_cons (xLe_none (xLe_cons (xLe_cons (xLe_nil)))))))) (hK _ _ h)
    · have h := h.2 c104
      refine x_iconst (v := 0) dX0_mostAlike_46 (by decide) ?_
      refine x_istore_5 dX0_mostAlike_47 (by decide) xN2_i ?_
      refine x_iconst (v := 0) dX0_mostAlike_49 (by decide) ?_
      refine x_istore_6 dX0_mostAlike_50 (by decide) xN2_i ?_
      refine x_le (xLe_cons (xLe_cons (xLe_cons (xLe_cons (xLe_cons (xLe_cons (xLe_cons (xLe_nil)))))))) (e_X0_mostAlike_52 hN (by omega) _ _ _ _ _ _  _ _ _ _ h (fun x105 s106 h => ?_))
      refine x_iload_3 dX0_mostAlike_112 ?_
      refine x_iload_5 dX0_mostAlike_113 ?_
      refine t_mmax ma_X0_346 (by omega) (xrm4 (Nat.le_of_ble_eq_true rfl)) dX0_mostAlike_115 ?_
      have h := h _ rfl
      refine x_istore_3 dX0_mostAlike_118 (by decide) xN2_none ?_
      refine x_iinc_4 (v := 1) dX0_mostAlike_119 (by decide) (by decide) xN2_i ?_
      have h := h _ rfl
      refine x_goto 37 dX0_mostAlike_122 (by decide) ?_
      exact x_le (xLe_cons (xLe_cons (xLe_cons (xLe_cons (xLe_cons (xLe_none (xLe_cons (xLe_nil)))))))) (hR _ _ _ h)
def v_X0_mostAlike_5 (N : tP) (x0 : Nat) (x1 : Int32) (x2 : Int32) (x3 : Int32) (Kr : Int32 → tM → Prop) (K : tM → Prop) : Nat → Int32 → tM → Prop
  | 0, _, _ => False
  | t + 1, x4, s => (tO s 0 x0 ∧ (v_X0_nNotes x0 s (fun x101 s102 => ((x101 ≤ x4 → (K s102)) ∧ (¬ x101 ≤ x4 → (tO s102 0 x0 ∧ (v_X0_fact N x0 x4 x2 s102 (fun x106 s107 => (tX s107 0 (tR s102 x0 23) x4 ∧ (∀ s109 : tM, s109 = tsI s107 (tR s102 x0 23) x4.toNatClampNeg x106 → (∀ x111 : Int32, x111 = x4 + 1 → ((fun x4 s => v_X0_mostAlike_5 N x0 x1 x2 x3 Kr K t x4 s) x111 s109))))))))))))
theorem e_X0_mostAlike_5 {G : xG} {l : Launch} {g : xH} {d : Nat} {N : tP} (hN : tNs G N) (hd : 2 * N.2.1 + 21 ≤ d) (x0 : Nat) (x1 : Int32) (x2 : Int32) (x3 : Int32) (Kr : Int32 → tM → Prop) (K : tM → Prop) : ∀ (t : Nat) (x4 : Int32) (s : tM) , v_X0_mostAlike_5 N x0 x1 x2 x3 Kr K t x4 s → (∀ (s : tM), K s → xF G l kX0_mostAlike (d + 1) 0 0 (tQ G g wi Kr tNo) 34 [some (rfv x0), some (.int x1), none, some (.int x3), none, none, none] [] (tH G g s)) → xF G l kX0_mostAlike (d + 1) 0 0 (tQ G g wi Kr tNo) 5 [some (rfv x0), some (.int x1), some (.int x2), some (.int x3), some (.int x4), none, none] [] (tH G g s) := by
  intro t
  induction t with
  | zero =>
    intro _ _ h _
    exact absurd h (by simp [v_X0_mostAlike_5])
  | succ t ih =>
    intro x4 s h hK
    have hR := fun x4 s h => ih x4 s h hK
    unfold v_X0_mostAlike_5 at h
    refine x_iload_4 dX0_mostAlike_5 ?_
    refine t_aload_0 dX0_mostAlike_7 ?_
    obtain ⟨e103, h⟩ := h
    refine t_cVi (As := []) rfl cv_X0_142 rfl e103 rfl rfl (xrm4 (Nat.le_of_ble_eq_true rfl)) dX0_mostAlike_8 (e_X0_nNotes (by omega) h) ⟨Nat.zero_le _, Nat.zero_le _⟩ (fun _ _ _ h => h.elim) (fun x101 s102 h => ?_)
    refine x_icmp_ge 34 dX0_mostAlike_11 (by decide) (fun c104 => ?_) (fun c104 => ?_)
    · have h := h.1 c104
      exact x_le (xLe_cons (xLe_cons (xLe_none (xLe_cons (xLe_none (xLe_cons (xLe_cons (xLe_nil)))))))) (hK _ h)
    · have h := h.2 c104
      refine t_aload_0 dX0_mostAlike_14 ?_
      obtain ⟨e105, h⟩ := h
      refine t_getR dX0_mostAlike_15 fa_X0_111_0 (by decide) e105 ?_
      refine x_iload_4 dX0_mostAlike_18 ?_
      refine t_aload_0 dX0_mostAlike_20 ?_
      refine x_iload_4 dX0_mostAlike_21 ?_
      refine x_iload_2 dX0_mostAlike_23 ?_
      refine t_cVi (As := [_, _]) rfl cv_X0_384 rfl e105 rfl rfl (xrm4 (Nat.le_of_ble_eq_true rfl)) dX0_mostAlike_24 (e_X0_fact hN (by omega) h) ⟨Nat.zero_le _, Nat.zero_le _⟩ (fun _ _ _ h => h.elim) (fun x106 s107 h => ?_)
      obtain ⟨e108, h⟩ := h
      refine t_iast dX0_mostAlike_27 e108 ?_
      refine t_gen h (fun s109 w110 h => ?_)
      refine x_iinc_4 (v := 1) dX0_mostAlike_28 (by decide) (by decide) xN2_i ?_
      have h := h _ rfl
      refine x_goto 5 dX0_mostAlike_31 (by decide) ?_
      exact x_le (xLe_cons (xLe_cons (xLe_cons (xLe_cons (xLe_cons (xLe_cons (xLe_cons (xLe_nil)))))))) (hR _ _ h)
def v_X0_mostAlike (N : tP) (x0 : Nat) (x1 : Int32) (x2 : Int32) (s : tM) (Kr : Int32 → tM → Prop) : Prop :=
  (v_X0_mostAlike_5 N x0 x1 x2 0 Kr (fun s101 => (v_X0_mostAlike_37 N x0 x1 Kr (fun x102 s103 => (Kr x102 s103)) N.1 0 0 s101)) N.1 0 s)
theorem e_X0_mostAlike {G : xG} {l : Launch} {g : xH} {d : Nat} {N : tP} (hN : tNs G N) (hd : 2 * N.2.1 + 22 ≤ d) {x0 : Nat} {x1 : Int32} {x2 : Int32} {s : tM} {Kr : Int32 → tM → Prop} (h : v_X0_mostAlike N x0 x1 x2 s Kr) : xC G l kX0_mostAlike d 0 0 [rfv x0, .int x1, .int x2] (tH G g s) (tQ G g wi Kr tNo) := by
  obtain ⟨d, rfl⟩ : ∃ z, d = z + 1 := ⟨d - 1, by omega⟩
  refine t_start rfl (by decide +kernel) (by simp [xct_i, xct_l, rfv_c]) (lv := [some (rfv x0), some (.int x1), some (.int x2), none, none, none, none]) (by simp [lv_args, xLv, rfv_c, xct_i, xct_l]) ?_
  unfold v_X0_mostAlike at h
  refine x_iconst (v := 0) dX0_mostAlike_0 (by decide) ?_
  refine x_istore_3 dX0_mostAlike_1 (by decide) xN2_i ?_
  refine x_iconst (v := 0) dX0_mostAlike_2 (by decide) ?_
  refine x_istore_4 dX0_mostAlike_3 (by decide) xN2_i ?_
  refine x_le (xLe_cons (xLe_cons (xLe_cons (xLe_cons (xLe_cons (xLe_cons (xLe_cons (xLe_nil)))))))) (e_X0_mostAlike_5 hN (by omega) _ _ _ _ _ _  _ _ _ h (fun s101 h => ?_))
  refine x_iconst (v := 0) dX0_mostAlike_34 (by decide) ?_
  refine x_istore_4 dX0_mostAlike_35 (by decide) xN2_i ?_
  refine x_le (xLe_cons (xLe_cons (xLe_cons (xLe_cons (xLe_cons (xLe_cons (xLe_cons (xLe_nil)))))))) (e_X0_mostAlike_37 hN (by omega) _ _ _ _  _ _ _ _ h (fun x102 s103 h => ?_))
  refine x_iload_3 dX0_mostAlike_125 ?_
  exact x_iret dX0_mostAlike_126 rfl (Or.inl ⟨_, _, h, rfl, rfl⟩)
def v_X0_listen_31 (N : tP) (x0 : Nat) (x1 : Int32) (x2 : Int32) (Kr : Int32 → tM → Prop) (K : Int32 → Int32 → tM → Prop) : Nat → Int32 → Int32 → Int32 → tM → Prop
  | 0, _, _, _, _ => False
  | t + 1, x3, x4, x5, s => ((4 ≤ x5 → (K x3 x4 s)) ∧ (¬ 4 ≤ x5 → (tO s 0 x0 ∧ (v_X0_mostAlike N x0 x2 x5 s (fun x102 s103 => ((x102 < x3 → (∀ x106 : Int32, x106 = x5 + 1 → ((fun x3 x4 x5 s => v_X0_listen_31 N x0 x1 x2 Kr K t x3 x4 x5 s) x102 x5 x106 s103))) ∧ (¬ x102 < x3 → (∀ x107 : Int32, x107 = x5 + 1 → ((fun x3 x4 x5 s => v_X0_listen_31 N x0 x1 x2 Kr K t x3 x4 x5 s) x3 x4 x107 s103)))))))))
theorem e_X0_listen_31 {G : xG} {l : Launch} {g : xH} {d : Nat} {N : tP} (hN : tNs G N) (hd : 2 * N.2.1 + 23 ≤ d) (x0 : Nat) (x1 : Int32) (x2 : Int32) (Kr : Int32 → tM → Prop) (K : Int32 → Int32 → tM → Prop) : ∀ (t : Nat) (x3 : Int32) (x4 : Int32) (x5 : Int32) (s : tM) , v_X0_listen_31 N x0 x1 x2 Kr K t x3 x4 x5 s → (∀ (z3 : Int32) (z4 : Int32) (s : tM), K z3 z4 s → xF G l kX0_listen (d + 1) 0 0 (tQ G g wi Kr tNo) 68 [none, some (.int x1), none, some (.int z3), some (.int z4), none, none] [] (tH G g s)) → xF G l kX0_listen (d + 1) 0 0 (tQ G g wi Kr tNo) 31 [some (rfv x0), some (.int x1), some (.int x2), some (.int x3), some (.int x4), some (.int x5), none] [] (tH G g s) := by
  intro t
  induction t with
  | zero =>
    intro _ _ _ _ h _
    exact absurd h (by simp [v_X0_listen_31])
  | succ t ih =>
    intro x3 x4 x5 s h hK
    have hR := fun x3 x4 x5 s h => ih x3 x4 x5 s h hK
    unfold v_X0_listen_31 at h
    refine x_iload_5 dX0_listen_31 ?_
    refine x_iconst (v := 4) dX0_listen_33 (by decide) ?_
    refine x_icmp_ge 68 dX0_listen_34 (by decide) (fun c101 => ?_) (fun c101 => ?_)
    · have h := h.1 c101
      exact x_le (xLe_none (xLe_cons (xLe_none (xLe_cons (xLe_cons (xLe_none (xLe_cons (xLe_nil)))))))) (hK _ _ _ h)
    · have h := h.2 c101
      refine t_aload_0 dX0_listen_37 ?_
      refine x_iload_2 dX0_listen_38 ?_
      refine x_iload_5 dX0_listen_39 ?_
      obtain ⟨e104, h⟩ := h
      refine t_cVi (As := [_, _]) rfl cv_X0_392 rfl e104 rfl rfl (xrm4 (Nat.le_of_ble_eq_true rfl)) dX0_listen_41 (e_X0_mostAlike hN (by omega) h) ⟨Nat.zero_le _, Nat.zero_le _⟩ (fun _ _ _ h => h.elim) (fun x102 s103 h => ?_)
      refine x_istore_6 dX0_listen_44 (by decide) xN2_i ?_
      refine x_iload_6 dX0_listen_46 ?_
      refine x_iload_3 dX0_listen_48 ?_
      refine x_icmp_lt 55 dX0_listen_49 (by decide) (fun c105 => ?_) (fun c105 => ?_)
      · have h := h.1 c105
        refine x_iload_6 dX0_listen_55 ?_
        refine x_istore_3 dX0_listen_57 (by decide) xN2_i ?_
        refine x_iload_5 dX0_listen_58 ?_
        refine x_istore_4 dX0_listen_60 (by decide) xN2_i ?_
        refine x_iinc_5 (v := 1) dX0_listen_62 (by decide) (by decide) xN2_i ?_
        have h := h _ rfl
        refine x_goto 31 dX0_listen_65 (by decide) ?_
        exact x_le (xLe_cons (xLe_cons (xLe_cons (xLe_cons (xLe_cons (xLe_cons (xLe_none (xLe_nil)))))))) (hR _ _ _ _ h)
      · have h := h.2 c105
        refine x_goto 62 dX0_listen_52 (by decide) ?_
        refine x_iinc_5 (v := 1) dX0_listen_62 (by decide) (by decide) xN2_i ?_
        have h := h _ rfl
        refine x_goto 31 dX0_listen_65 (by decide) ?_
        exact x_le (xLe_cons (xLe_cons (xLe_cons (xLe_cons (xLe_cons (xLe_cons (xLe_none (xLe_nil)))))))) (hR _ _ _ _ h)
def v_X0_listen (N : tP) (x0 : Nat) (x1 : Int32) (s : tM) (Kr : Int32 → tM → Prop) : Prop :=
  (tO s 0 x0 ∧ (v_X0_canBe N x0 s (fun x101 s102 => (v_X0_in ((x1 : Int32).toInt64) 0 1 s102 (fun x104 s105 => ((x104 = 0 → (Kr (-1) s105)) ∧ (¬ x104 = 0 → ((¬ x101 = 0 → (v_X0_listen_31 N x0 x1 x101 Kr (fun x108 x109 s110 => ((¬ x1 = 0 → (Kr x108 s110)) ∧ (x1 = 0 → (Kr x109 s110)))) N.1 100000000 (-1) 0 s105)) ∧ (x101 = 0 → (Kr (-1) s105))))))))))
theorem e_X0_listen {G : xG} {l : Launch} {g : xH} {d : Nat} {N : tP} (hN : tNs G N) (hd : 2 * N.2.1 + 24 ≤ d) {x0 : Nat} {x1 : Int32} {s : tM} {Kr : Int32 → tM → Prop} (h : v_X0_listen N x0 x1 s Kr) : xC G l kX0_listen d 0 0 [rfv x0, .int x1] (tH G g s) (tQ G g wi Kr tNo) := by
  obtain ⟨d, rfl⟩ : ∃ z, d = z + 1 := ⟨d - 1, by omega⟩
  refine t_start rfl (by decide +kernel) (by simp [xct_i, xct_l, rfv_c]) (lv := [some (rfv x0), some (.int x1), none, none, none, none, none]) (by simp [lv_args, xLv, rfv_c, xct_i, xct_l]) ?_
  unfold v_X0_listen at h
  refine t_aload_0 dX0_listen_0 ?_
  obtain ⟨e103, h⟩ := h
  refine t_cVi (As := []) rfl cv_X0_389 rfl e103 rfl rfl (xrm4 (Nat.le_of_ble_eq_true rfl)) dX0_listen_1 (e_X0_canBe hN (by omega) h) ⟨Nat.zero_le _, Nat.zero_le _⟩ (fun _ _ _ h => h.elim) (fun x101 s102 h => ?_)
  refine x_istore_2 dX0_listen_4 (by decide) xN2_i ?_
  refine x_ldcw dX0_listen_5 q1352 ?_
  refine x_istore_3 dX0_listen_8 (by decide) xN2_i ?_
  refine x_iconst (v := (-1)) dX0_listen_9 (by decide) ?_
  refine x_istore_4 dX0_listen_10 (by decide) xN2_i ?_
  refine x_iload_1 dX0_listen_12 ?_
  refine x_i2l dX0_listen_13 ?_
  refine x_lconst (v := 0) dX0_listen_14 (by decide) ?_
  refine x_lconst (v := 1) dX0_listen_15 (by decide) ?_
  refine t_cSi (As := [_, _, _]) rfl cs_X0_5 rfl rfl (xrm4 (Nat.le_of_ble_eq_true rfl)) dX0_listen_16 (e_X0_in (by omega) h) ⟨Nat.zero_le _, Nat.zero_le _⟩ (fun _ _ _ h => h.elim) (fun x104 s105 h => ?_)
  refine x_if_eq 26 dX0_listen_19 (by decide) (fun c106 => ?_) (fun c106 => ?_)
  · have h := h.1 c106
    refine x_iconst (v := (-1)) dX0_listen_26 (by decide) ?_
    exact x_iret dX0_listen_27 rfl (Or.inl ⟨_, _, h, rfl, rfl⟩)
  · have h := h.2 c106
    refine x_iload_2 dX0_listen_22 ?_
    refine x_if_ne 28 dX0_listen_23 (by decide) (fun c107 => ?_) (fun c107 => ?_)
    · have h := h.1 c107
      refine x_iconst (v := 0) dX0_listen_28 (by decide) ?_
      refine x_istore_5 dX0_listen_29 (by decide) xN2_i ?_
      refine x_le (xLe_cons (xLe_cons (xLe_cons (xLe_cons (xLe_cons (xLe_cons (xLe_cons (xLe_nil)))))))) (e_X0_listen_31 hN (by omega) _ _ _ _ _  _ _ _ _ _ h (fun x108 x109 s110 h => ?_))
      refine x_iload_1 dX0_listen_68 ?_
      refine x_if_ne 77 dX0_listen_69 (by decide) (fun c111 => ?_) (fun c111 => ?_)
      · have h := h.1 c111
        refine x_iload_3 dX0_listen_77 ?_
        exact x_iret dX0_listen_78 rfl (Or.inl ⟨_, _, h, rfl, rfl⟩)
      · have h := h.2 c111
        refine x_iload_4 dX0_listen_72 ?_
        refine x_goto 78 dX0_listen_74 (by decide) ?_
        exact x_iret dX0_listen_78 rfl (Or.inl ⟨_, _, h, rfl, rfl⟩)
    · have h := h.2 c107
      refine x_iconst (v := (-1)) dX0_listen_26 (by decide) ?_
      exact x_iret dX0_listen_27 rfl (Or.inl ⟨_, _, h, rfl, rfl⟩)
