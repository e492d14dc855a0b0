set_option maxRecDepth 100000
def w_goesAlong_264 (N : Nat × Nat) (y1 : Int32) (Kr : mS → Prop) (s : mS) : Prop :=
  (xB y1 ∧ (∀ s102 : mS, s102 = mF s 46 y1 → (∀ s103 : mS, s103 = mF s102 22 ((mFd s102 22) + 1) → (Kr s103))))
theorem c_goesAlong_264 {G : xG} {l : Launch} {a : Nat → Nat} {g : xH} (ha : mInj a) {d : Nat} {N : Nat × Nat} (hd : 2 * N.2 + 8 ≤ d) (y1 : Int32) (Kr : mS → Prop) (s : mS) (h : w_goesAlong_264 N y1 Kr s) : xF G l kX6_goesAlong (d + 1) 0 0 (mQv G a g Kr) 264 [some (.ref (a 51)), none, none, none, none] [.int y1, .ref (a 51)] (mH G a s g) := by
  unfold w_goesAlong_264 at h
  obtain ⟨e101, h⟩ := h
  refine m_put ha dX6_goesAlong_264 fp_X6_464 (mfs_46 _ _ _) (by decide) (xB_n e101) (xB_f e101) ?_
  have h := h _ rfl
  refine x_aload_0 dX6_goesAlong_267 ?_
  refine x_dup dX6_goesAlong_268 rfl ?_
  refine m_get ha dX6_goesAlong_269 fa_X6_261 rfl ?_
  refine x_iconst (v := 1) dX6_goesAlong_272 (by decide) ?_
  refine x_iadd dX6_goesAlong_273 ?_
  refine m_put ha dX6_goesAlong_274 fp_X6_261 (mfs_22 _ _ _) (by decide) rfl rfl ?_
  have h := h _ rfl
  exact x_vret dX6_goesAlong_277 rfl ⟨_, h, rfl, rfl⟩
def w_goesAlong_263 (N : Nat × Nat) (Kr : mS → Prop) (s : mS) : Prop :=
  (w_goesAlong_264 N 0 Kr s)
theorem c_goesAlong_263 {G : xG} {l : Launch} {a : Nat → Nat} {g : xH} (ha : mInj a) {d : Nat} {N : Nat × Nat} (hd : 2 * N.2 + 8 ≤ d) (Kr : mS → Prop) (s : mS) (h : w_goesAlong_263 N Kr s) : xF G l kX6_goesAlong (d + 1) 0 0 (mQv G a g Kr) 263 [some (.ref (a 51)), none, none, none, none] [.ref (a 51)] (mH G a s g) := by
  unfold w_goesAlong_263 at h
  refine x_iconst (v := 0) dX6_goesAlong_263 (by decide) ?_
  exact x_le (xLe_cons (xLe_cons (xLe_cons (xLe_cons (xLe_cons (xLe_nil)))))) (c_goesAlong_264 ha (by omega) _ _ _ h)
def w_goesAlong_241 (N : Nat × Nat) (y1 : Int32) (Kr : mS → Prop) (s : mS) : Prop :=
  (xB y1 ∧ (∀ s102 : mS, s102 = mF s 46 y1 → (((mFd s102 46) = 0 → (w_goesAlong_263 N Kr s102)) ∧ (¬ (mFd s102 46) = 0 → ((¬ (mFd s102 24) = 0 → (w_goesAlong_263 N Kr s102)) ∧ ((mFd s102 24) = 0 → (w_goesAlong_264 N 1 Kr s102)))))))
theorem c_goesAlong_241 {G : xG} {l : Launch} {a : Nat → Nat} {g : xH} (ha : mInj a) {d : Nat} {N : Nat × Nat} (hd : 2 * N.2 + 8 ≤ d) (y1 : Int32) (Kr : mS → Prop) (s : mS) (h : w_goesAlong_241 N y1 Kr s) : xF G l kX6_goesAlong (d + 1) 0 0 (mQv G a g Kr) 241 [some (.ref (a 51)), none, none, none, none] [.int y1, .ref (a 51)] (mH G a s g) := by
  unfold w_goesAlong_241 at h
  obtain ⟨e101, h⟩ := h
  refine m_put ha dX6_goesAlong_241 fp_X6_464 (mfs_46 _ _ _) (by decide) (xB_n e101) (xB_f e101) ?_
  have h := h _ rfl
  refine x_aload_0 dX6_goesAlong_244 ?_
  refine x_aload_0 dX6_goesAlong_245 ?_
  refine m_get ha dX6_goesAlong_246 fa_X6_464 rfl ?_
  refine x_if_eq 263 dX6_goesAlong_249 (by decide) (fun c103 => ?_) (fun c103 => ?_)
  · have h := h.1 c103
    exact x_le (xLe_cons (xLe_cons (xLe_cons (xLe_cons (xLe_cons (xLe_nil)))))) (c_goesAlong_263 ha (by omega) _ _ h)
  · have h := h.2 c103
    refine x_aload_0 dX6_goesAlong_252 ?_
    refine m_get ha dX6_goesAlong_253 fa_X6_271 rfl ?_
    refine x_if_ne 263 dX6_goesAlong_256 (by decide) (fun c104 => ?_) (fun c104 => ?_)
    · have h := h.1 c104
      exact x_le (xLe_cons (xLe_cons (xLe_cons (xLe_cons (xLe_cons (xLe_nil)))))) (c_goesAlong_263 ha (by omega) _ _ h)
    · have h := h.2 c104
      refine x_iconst (v := 1) dX6_goesAlong_259 (by decide) ?_
      refine x_goto 264 dX6_goesAlong_260 (by decide) ?_
      exact x_le (xLe_cons (xLe_cons (xLe_cons (xLe_cons (xLe_cons (xLe_nil)))))) (c_goesAlong_264 ha (by omega) _ _ _ h)
def w_goesAlong_236 (N : Nat × Nat) (Kr : mS → Prop) (s : mS) : Prop :=
  (w_goesAlong_241 N 1 Kr s)
theorem c_goesAlong_236 {G : xG} {l : Launch} {a : Nat → Nat} {g : xH} (ha : mInj a) {d : Nat} {N : Nat × Nat} (hd : 2 * N.2 + 8 ≤ d) (Kr : mS → Prop) (s : mS) (h : w_goesAlong_236 N Kr s) : xF G l kX6_goesAlong (d + 1) 0 0 (mQv G a g Kr) 236 [some (.ref (a 51)), none, none, none, none] [.ref (a 51)] (mH G a s g) := by
  unfold w_goesAlong_236 at h
  refine x_iconst (v := 1) dX6_goesAlong_236 (by decide) ?_
  refine x_goto 241 dX6_goesAlong_237 (by decide) ?_
  exact x_le (xLe_cons (xLe_cons (xLe_cons (xLe_cons (xLe_cons (xLe_nil)))))) (c_goesAlong_241 ha (by omega) _ _ _ h)
def w_goesAlong_214 (N : Nat × Nat) (x2 : Int32) (Kr : mS → Prop) (s : mS) : Prop :=
  (∀ s101 : mS, s101 = mF s 24 0 → (w_passes0 4 s101 (fun x102 s103 => ((x102 = 0 → (w_goesAlong_236 N Kr s103)) ∧ (¬ x102 = 0 → (g_testOf N N.2 0 x2 s103 (fun x105 s106 => ((x105 = 0 → (w_goesAlong_241 N 0 Kr s106)) ∧ (¬ x105 = 0 → (w_goesAlong_236 N Kr s106))))))))))
theorem c_goesAlong_214 {G : xG} {l : Launch} {a : Nat → Nat} {g : xH} (ha : mInj a) {d : Nat} {N : Nat × Nat} (hd : 2 * N.2 + 8 ≤ d) (x2 : Int32) (Kr : mS → Prop) (s : mS) (h : w_goesAlong_214 N x2 Kr s) : xF G l kX6_goesAlong (d + 1) 0 0 (mQv G a g Kr) 214 [some (.ref (a 51)), none, some (.int x2), none, none] [] (mH G a s g) := by
  unfold w_goesAlong_214 at h
  refine x_aload_0 dX6_goesAlong_214 ?_
  refine x_iconst (v := 0) dX6_goesAlong_215 (by decide) ?_
  refine m_put ha dX6_goesAlong_216 fp_X6_271 (mfs_24 _ _ _) (by decide) (xB_n xB_0) (xB_f xB_0) ?_
  have h := h _ rfl
  refine x_aload_0 dX6_goesAlong_219 ?_
  refine x_aload_0 dX6_goesAlong_220 ?_
  refine x_iconst (v := 4) dX6_goesAlong_221 (by decide) ?_
  refine m_cVi1 ha rfl cv_X6_285 (Nat.le_of_ble_eq_true rfl) dX6_goesAlong_222 (c_passes0 ha (by omega) h) (fun x102 s103 h => ?_)
  refine x_if_eq 236 dX6_goesAlong_225 (by decide) (fun c104 => ?_) (fun c104 => ?_)
  · have h := h.1 c104
    exact x_le (xLe_cons (xLe_cons (xLe_none (xLe_cons (xLe_cons (xLe_nil)))))) (c_goesAlong_236 ha (by omega) _ _ h)
  · have h := h.2 c104
    refine x_aload_0 dX6_goesAlong_228 ?_
    refine x_iload_2 dX6_goesAlong_229 ?_
    refine m_cVi1 ha rfl cv_X6_318 (Nat.le_of_ble_eq_true rfl) dX6_goesAlong_230 (c_testOf ha (by omega) h) (fun x105 s106 h => ?_)
    refine x_if_eq 240 dX6_goesAlong_233 (by decide) (fun c107 => ?_) (fun c107 => ?_)
    · have h := h.1 c107
      refine x_iconst (v := 0) dX6_goesAlong_240 (by decide) ?_
      exact x_le (xLe_cons (xLe_cons (xLe_none (xLe_cons (xLe_cons (xLe_nil)))))) (c_goesAlong_241 ha (by omega) _ _ _ h)
    · have h := h.2 c107
      exact x_le (xLe_cons (xLe_cons (xLe_none (xLe_cons (xLe_cons (xLe_nil)))))) (c_goesAlong_236 ha (by omega) _ _ h)
def w_goesAlong_127 (N : Nat × Nat) (x2 : Int32) (x3 : Int32) (x4 : Int32) (Kr : mS → Prop) (K : mS → Prop) (R : Int32 → mS → Prop) (s : mS) : Prop :=
  (∀ s101 : mS, s101 = mF s 24 0 → (g_sumOf N N.2 0 x2 s101 (fun x102 s103 => (vp_in x4 2 ∧ (∀ s105 : mS, s105 = mL s103 47 x4 x102 → (((mFd s105 45) = 0 → (∀ s107 : mS, s107 = mF s105 45 0 → (∀ x108 : Int32, x108 = x4 + 1 → (R x108 s107)))) ∧ (¬ (mFd s105 45) = 0 → ((¬ (mFd s105 24) = 0 → (∀ s110 : mS, s110 = mF s105 45 0 → (∀ x111 : Int32, x111 = x4 + 1 → (R x111 s110)))) ∧ ((mFd s105 24) = 0 → (∀ s112 : mS, s112 = mF s105 45 1 → (∀ x113 : Int32, x113 = x4 + 1 → (R x113 s112))))))))))))
theorem c_goesAlong_127 {G : xG} {l : Launch} {a : Nat → Nat} {g : xH} (ha : mInj a) {d : Nat} {N : Nat × Nat} (hd : 2 * N.2 + 8 ≤ d) (x2 : Int32) (x3 : Int32) (x4 : Int32) (Kr : mS → Prop) (K : mS → Prop) (R : Int32 → mS → Prop) (s : mS) (h : w_goesAlong_127 N x2 x3 x4 Kr K R s) (hK : ∀ (s : mS), K s → xF G l kX6_goesAlong (d + 1) 0 0 (mQv G a g Kr) 173 [some (.ref (a 51)), none, some (.int x2), none, none] [] (mH G a s g)) (hR : ∀ (z4 : Int32) (s : mS), R z4 s → xF G l kX6_goesAlong (d + 1) 0 0 (mQv G a g Kr) 106 [some (.ref (a 51)), none, some (.int x2), some (.int x3), some (.int z4)] [] (mH G a s g)) : xF G l kX6_goesAlong (d + 1) 0 0 (mQv G a g Kr) 127 [some (.ref (a 51)), none, some (.int x2), some (.int x3), some (.int x4)] [] (mH G a s g) := by
  unfold w_goesAlong_127 at h
  refine x_aload_0 dX6_goesAlong_127 ?_
  refine x_iconst (v := 0) dX6_goesAlong_128 (by decide) ?_
  refine m_put ha dX6_goesAlong_129 fp_X6_271 (mfs_24 _ _ _) (by decide) (xB_n xB_0) (xB_f xB_0) ?_
  have h := h _ rfl
  refine x_aload_0 dX6_goesAlong_132 ?_
  refine m_get ha dX6_goesAlong_133 fa_X6_97 rfl ?_
  refine x_iload_4 dX6_goesAlong_136 ?_
  refine x_aload_0 dX6_goesAlong_138 ?_
  refine x_iload_2 dX6_goesAlong_139 ?_
  refine m_cVl1 ha rfl cv_X6_288 (Nat.le_of_ble_eq_true rfl) dX6_goesAlong_140 (c_sumOf ha (by omega) h) (fun x102 s103 h => ?_)
  obtain ⟨e104, h⟩ := h
  refine m_last (j := 47) ha dX6_goesAlong_143 (by decide) (by decide) e104 ?_
  have h := h _ rfl
  refine x_aload_0 dX6_goesAlong_144 ?_
  refine x_aload_0 dX6_goesAlong_145 ?_
  refine m_get ha dX6_goesAlong_146 fa_X6_458 rfl ?_
  refine x_if_eq 163 dX6_goesAlong_149 (by decide) (fun c106 => ?_) (fun c106 => ?_)
  · have h := h.1 c106
    refine x_iconst (v := 0) dX6_goesAlong_163 (by decide) ?_
    refine m_put ha dX6_goesAlong_164 fp_X6_458 (mfs_45 _ _ _) (by decide) (xB_n xB_0) (xB_f xB_0) ?_
    have h := h _ rfl
    refine x_iinc_4 (v := 1) dX6_goesAlong_167 (by decide) (by decide) xN2_i ?_
    have h := h _ rfl
    refine x_goto 106 dX6_goesAlong_170 (by decide) ?_
    exact x_le (xLe_cons (xLe_cons (xLe_cons (xLe_cons (xLe_cons (xLe_nil)))))) (hR _ _ h)
  · have h := h.2 c106
    refine x_aload_0 dX6_goesAlong_152 ?_
    refine m_get ha dX6_goesAlong_153 fa_X6_271 rfl ?_
    refine x_if_ne 163 dX6_goesAlong_156 (by decide) (fun c109 => ?_) (fun c109 => ?_)
    · have h := h.1 c109
      refine x_iconst (v := 0) dX6_goesAlong_163 (by decide) ?_
      refine m_put ha dX6_goesAlong_164 fp_X6_458 (mfs_45 _ _ _) (by decide) (xB_n xB_0) (xB_f xB_0) ?_
      have h := h _ rfl
      refine x_iinc_4 (v := 1) dX6_goesAlong_167 (by decide) (by decide) xN2_i ?_
      have h := h _ rfl
      refine x_goto 106 dX6_goesAlong_170 (by decide) ?_
      exact x_le (xLe_cons (xLe_cons (xLe_cons (xLe_cons (xLe_cons (xLe_nil)))))) (hR _ _ h)
    · have h := h.2 c109
      refine x_iconst (v := 1) dX6_goesAlong_159 (by decide) ?_
      refine x_goto 164 dX6_goesAlong_160 (by decide) ?_
      refine m_put ha dX6_goesAlong_164 fp_X6_458 (mfs_45 _ _ _) (by decide) (xB_n xB_1) (xB_f xB_1) ?_
      have h := h _ rfl
      refine x_iinc_4 (v := 1) dX6_goesAlong_167 (by decide) (by decide) xN2_i ?_
      have h := h _ rfl
      refine x_goto 106 dX6_goesAlong_170 (by decide) ?_
      exact x_le (xLe_cons (xLe_cons (xLe_cons (xLe_cons (xLe_cons (xLe_nil)))))) (hR _ _ h)
def w_goesAlong_106 (N : Nat × Nat) (x2 : Int32) (x3 : Int32) (Kr : mS → Prop) (K : mS → Prop) : Nat → Int32 → mS → Prop
  | 0, _, _ => False
  | t + 1, x4, s => ((x3 ≤ x4 → (K s)) ∧ (¬ x3 ≤ x4 → ((x4 ≤ 0 → (w_goesAlong_127 N x2 x3 x4 Kr K (fun x4 s => w_goesAlong_106 N x2 x3 Kr K t x4 s) s)) ∧ (¬ x4 ≤ 0 → (∀ s103 : mS, s103 = mF s 22 ((mFd s 22) + 1) → (w_goesAlong_127 N x2 x3 x4 Kr K (fun x4 s => w_goesAlong_106 N x2 x3 Kr K t x4 s) s103))))))
theorem c_goesAlong_106 {G : xG} {l : Launch} {a : Nat → Nat} {g : xH} (ha : mInj a) {d : Nat} {N : Nat × Nat} (hd : 2 * N.2 + 8 ≤ d) (Kr : mS → Prop) (K : mS → Prop) (x2 : Int32) (x3 : Int32) : ∀ (t : Nat) (x4 : Int32) (s : mS) , w_goesAlong_106 N x2 x3 Kr K t x4 s → (∀ (s : mS), K s → xF G l kX6_goesAlong (d + 1) 0 0 (mQv G a g Kr) 173 [some (.ref (a 51)), none, some (.int x2), none, none] [] (mH G a s g)) → xF G l kX6_goesAlong (d + 1) 0 0 (mQv G a g Kr) 106 [some (.ref (a 51)), none, some (.int x2), some (.int x3), some (.int x4)] [] (mH G a s g) := by
  intro t
  induction t with
  | zero =>
    intro _ _ h _
    exact absurd h (by simp [w_goesAlong_106])
  | succ t ih =>
    intro x4 s h hK
    have hR := fun x4 s h => ih x4 s h hK
    unfold w_goesAlong_106 at h
    refine x_iload_4 dX6_goesAlong_106 ?_
    refine x_iload_3 dX6_goesAlong_108 ?_
    refine x_icmp_ge 173 dX6_goesAlong_109 (by decide) (fun c101 => ?_) (fun c101 => ?_)
    · have h := h.1 c101
      exact x_le (xLe_cons (xLe_cons (xLe_cons (xLe_none (xLe_none (xLe_nil)))))) (hK _ h)
    · have h := h.2 c101
      refine x_iload_4 dX6_goesAlong_112 ?_
      refine x_if_le 127 dX6_goesAlong_114 (by decide) (fun c102 => ?_) (fun c102 => ?_)
      · have h := h.1 c102
        exact x_le (xLe_cons (xLe_cons (xLe_cons (xLe_cons (xLe_cons (xLe_nil)))))) (c_goesAlong_127 ha (by omega) _ _ _ _ _ _ _ h hK hR)
      · have h := h.2 c102
        refine x_aload_0 dX6_goesAlong_117 ?_
        refine x_dup dX6_goesAlong_118 rfl ?_
        refine m_get ha dX6_goesAlong_119 fa_X6_261 rfl ?_
        refine x_iconst (v := 1) dX6_goesAlong_122 (by decide) ?_
        refine x_iadd dX6_goesAlong_123 ?_
        refine m_put ha dX6_goesAlong_124 fp_X6_261 (mfs_22 _ _ _) (by decide) rfl rfl ?_
        have h := h _ rfl
        exact x_le (xLe_cons (xLe_cons (xLe_cons (xLe_cons (xLe_cons (xLe_nil)))))) (c_goesAlong_127 ha (by omega) _ _ _ _ _ _ _ h hK hR)
def w_goesAlong_102 (N : Nat × Nat) (x2 : Int32) (y0 : Int32) (Kr : mS → Prop) (s : mS) : Prop :=
  (w_goesAlong_106 N x2 y0 Kr (fun s101 => (∀ s102 : mS, s102 = mF s101 43 1 → (w_passes0 27 s102 (fun x103 s104 => ((x103 = 0 → (w_goesAlong_214 N x2 Kr s104)) ∧ (¬ x103 = 0 → (vp_in (2852 + (mFd s104 22)) 5652 ∧ (∀ s107 : mS, s107 = mF s104 43 (mAt s104 2 (2852 + (mFd s104 22))) → (∀ s108 : mS, s108 = mF s107 22 ((mFd s107 22) + 1) → (w_goesAlong_214 N x2 Kr s108)))))))))) N.1 0 s)
theorem c_goesAlong_102 {G : xG} {l : Launch} {a : Nat → Nat} {g : xH} (ha : mInj a) {d : Nat} {N : Nat × Nat} (hd : 2 * N.2 + 8 ≤ d) (x2 : Int32) (y0 : Int32) (Kr : mS → Prop) (s : mS) (h : w_goesAlong_102 N x2 y0 Kr s) : xF G l kX6_goesAlong (d + 1) 0 0 (mQv G a g Kr) 102 [some (.ref (a 51)), none, some (.int x2), none, none] [.int y0] (mH G a s g) := by
  unfold w_goesAlong_102 at h
  refine x_istore_3 dX6_goesAlong_102 (by decide) xN2_i ?_
  refine x_iconst (v := 0) dX6_goesAlong_103 (by decide) ?_
  refine x_istore_4 dX6_goesAlong_104 (by decide) xN2_i ?_
  refine x_le (xLe_cons (xLe_cons (xLe_cons (xLe_cons (xLe_cons (xLe_nil)))))) (c_goesAlong_106 ha (by omega) _ _ _ _ _ _ _ h (fun s101 h => ?_))
  refine x_aload_0 dX6_goesAlong_173 ?_
  refine x_iconst (v := 1) dX6_goesAlong_174 (by decide) ?_
  refine m_put ha dX6_goesAlong_175 fp_X6_461 (mfs_43 _ _ _) (by decide) rfl rfl ?_
  have h := h _ rfl
  refine x_aload_0 dX6_goesAlong_178 ?_
  refine x_bipush (v := 27) dX6_goesAlong_179 (by decide) ?_
  refine m_cVi1 ha rfl cv_X6_285 (Nat.le_of_ble_eq_true rfl) dX6_goesAlong_181 (c_passes0 ha (by omega) h) (fun x103 s104 h => ?_)
  refine x_if_eq 214 dX6_goesAlong_184 (by decide) (fun c105 => ?_) (fun c105 => ?_)
  · have h := h.1 c105
    exact x_le (xLe_cons (xLe_cons (xLe_cons (xLe_cons (xLe_cons (xLe_nil)))))) (c_goesAlong_214 ha (by omega) _ _ _ h)
  · have h := h.2 c105
    refine x_aload_0 dX6_goesAlong_187 ?_
    refine x_aload_0 dX6_goesAlong_188 ?_
    refine m_get ha dX6_goesAlong_189 fa_X6_28 rfl ?_
    refine x_sipush (v := 2852) dX6_goesAlong_192 (by decide) ?_
    refine x_aload_0 dX6_goesAlong_195 ?_
    refine m_get ha dX6_goesAlong_196 fa_X6_261 rfl ?_
    refine x_iadd dX6_goesAlong_199 ?_
    obtain ⟨e106, h⟩ := h
    refine m_iald (j := 2) ha dX6_goesAlong_200 (by decide) (by decide) e106 ?_
    refine m_put ha dX6_goesAlong_201 fp_X6_461 (mfs_43 _ _ _) (by decide) rfl rfl ?_
    have h := h _ rfl
    refine x_aload_0 dX6_goesAlong_204 ?_
    refine x_dup dX6_goesAlong_205 rfl ?_
    refine m_get ha dX6_goesAlong_206 fa_X6_261 rfl ?_
    refine x_iconst (v := 1) dX6_goesAlong_209 (by decide) ?_
    refine x_iadd dX6_goesAlong_210 ?_
    refine m_put ha dX6_goesAlong_211 fp_X6_261 (mfs_22 _ _ _) (by decide) rfl rfl ?_
    have h := h _ rfl
    exact x_le (xLe_cons (xLe_cons (xLe_cons (xLe_cons (xLe_cons (xLe_nil)))))) (c_goesAlong_214 ha (by omega) _ _ _ h)
def w_goesAlong_97 (N : Nat × Nat) (x2 : Int32) (Kr : mS → Prop) (s : mS) : Prop :=
  (w_goesAlong_102 N x2 2 Kr s)
theorem c_goesAlong_97 {G : xG} {l : Launch} {a : Nat → Nat} {g : xH} (ha : mInj a) {d : Nat} {N : Nat × Nat} (hd : 2 * N.2 + 8 ≤ d) (x2 : Int32) (Kr : mS → Prop) (s : mS) (h : w_goesAlong_97 N x2 Kr s) : xF G l kX6_goesAlong (d + 1) 0 0 (mQv G a g Kr) 97 [some (.ref (a 51)), none, some (.int x2), none, none] [] (mH G a s g) := by
  unfold w_goesAlong_97 at h
  refine x_iconst (v := 2) dX6_goesAlong_97 (by decide) ?_
  refine x_goto 102 dX6_goesAlong_98 (by decide) ?_
  exact x_le (xLe_cons (xLe_cons (xLe_cons (xLe_cons (xLe_cons (xLe_nil)))))) (c_goesAlong_102 ha (by omega) _ _ _ _ h)
def w_goesAlong_31 (N : Nat × Nat) (x1 : Int32) (x2 : Int32) (y1 : Int32) (Kr : mS → Prop) (s : mS) : Prop :=
  (∀ s101 : mS, s101 = mF s 30 y1 → (∀ s102 : mS, s102 = mF s101 25 1 → (∀ s103 : mS, s103 = mF s102 23 x1 → (∀ s104 : mS, s104 = mF s103 22 (mFd s103 42) → (w_codeAt (mFd s104 22) s104 (fun x105 s106 => (∀ s107 : mS, s107 = mF s106 44 x105 → (∀ s108 : mS, s108 = mF s107 22 ((mFd s107 22) + 1) → (∀ s109 : mS, s109 = mF s108 45 1 → (((mFd s109 44) = 22 → (w_goesAlong_97 N x2 Kr s109)) ∧ (¬ (mFd s109 44) = 22 → ((¬ (mFd s109 44) = 23 → (w_goesAlong_102 N x2 0 Kr s109)) ∧ ((mFd s109 44) = 23 → (w_goesAlong_97 N x2 Kr s109))))))))))))))
theorem c_goesAlong_31 {G : xG} {l : Launch} {a : Nat → Nat} {g : xH} (ha : mInj a) {d : Nat} {N : Nat × Nat} (hd : 2 * N.2 + 8 ≤ d) (x1 : Int32) (x2 : Int32) (y1 : Int32) (Kr : mS → Prop) (s : mS) (h : w_goesAlong_31 N x1 x2 y1 Kr s) : xF G l kX6_goesAlong (d + 1) 0 0 (mQv G a g Kr) 31 [some (.ref (a 51)), some (.int x1), some (.int x2), none, none] [.int y1, .ref (a 51)] (mH G a s g) := by
  unfold w_goesAlong_31 at h
  refine m_put ha dX6_goesAlong_31 fp_X6_306 (mfs_30 _ _ _) (by decide) rfl rfl ?_
  have h := h _ rfl
  refine x_aload_0 dX6_goesAlong_34 ?_
  refine x_iconst (v := 1) dX6_goesAlong_35 (by decide) ?_
  refine m_put ha dX6_goesAlong_36 fp_X6_291 (mfs_25 _ _ _) (by decide) (xB_n xB_1) (xB_f xB_1) ?_
  have h := h _ rfl
  refine x_aload_0 dX6_goesAlong_39 ?_
  refine x_iload_1 dX6_goesAlong_40 ?_
  refine m_put ha dX6_goesAlong_41 fp_X6_258 (mfs_23 _ _ _) (by decide) rfl rfl ?_
  have h := h _ rfl
  refine x_aload_0 dX6_goesAlong_44 ?_
  refine x_aload_0 dX6_goesAlong_45 ?_
  refine m_get ha dX6_goesAlong_46 fa_X6_446 rfl ?_
  refine m_put ha dX6_goesAlong_49 fp_X6_261 (mfs_22 _ _ _) (by decide) rfl rfl ?_
  have h := h _ rfl
  refine x_aload_0 dX6_goesAlong_52 ?_
  refine x_aload_0 dX6_goesAlong_53 ?_
  refine x_aload_0 dX6_goesAlong_54 ?_
  refine m_get ha dX6_goesAlong_55 fa_X6_261 rfl ?_
  refine m_cVi1 ha rfl cv_X6_264 (Nat.le_of_ble_eq_true rfl) dX6_goesAlong_58 (c_codeAt ha (by omega) h) (fun x105 s106 h => ?_)
  refine m_put ha dX6_goesAlong_61 fp_X6_455 (mfs_44 _ _ _) (by decide) rfl rfl ?_
  have h := h _ rfl
  refine x_aload_0 dX6_goesAlong_64 ?_
  refine x_dup dX6_goesAlong_65 rfl ?_
  refine m_get ha dX6_goesAlong_66 fa_X6_261 rfl ?_
  refine x_iconst (v := 1) dX6_goesAlong_69 (by decide) ?_
  refine x_iadd dX6_goesAlong_70 ?_
  refine m_put ha dX6_goesAlong_71 fp_X6_261 (mfs_22 _ _ _) (by decide) rfl rfl ?_
  have h := h _ rfl
  refine x_aload_0 dX6_goesAlong_74 ?_
  refine x_iconst (v := 1) dX6_goesAlong_75 (by decide) ?_
  refine m_put ha dX6_goesAlong_76 fp_X6_458 (mfs_45 _ _ _) (by decide) (xB_n xB_1) (xB_f xB_1) ?_
  have h := h _ rfl
  refine x_aload_0 dX6_goesAlong_79 ?_
  refine m_get ha dX6_goesAlong_80 fa_X6_455 rfl ?_
  refine x_bipush (v := 22) dX6_goesAlong_83 (by decide) ?_
  refine x_icmp_eq 97 dX6_goesAlong_85 (by decide) (fun c110 => ?_) (fun c110 => ?_)
  · have h := h.1 c110
    exact x_le (xLe_cons (xLe_none (xLe_cons (xLe_cons (xLe_cons (xLe_nil)))))) (c_goesAlong_97 ha (by omega) _ _ _ h)
  · have h := h.2 c110
    refine x_aload_0 dX6_goesAlong_88 ?_
    refine m_get ha dX6_goesAlong_89 fa_X6_455 rfl ?_
    refine x_bipush (v := 23) dX6_goesAlong_92 (by decide) ?_
    refine x_icmp_ne 101 dX6_goesAlong_94 (by decide) (fun c111 => ?_) (fun c111 => ?_)
    · have h := h.1 c111
      refine x_iconst (v := 0) dX6_goesAlong_101 (by decide) ?_
      exact x_le (xLe_cons (xLe_none (xLe_cons (xLe_cons (xLe_cons (xLe_nil)))))) (c_goesAlong_102 ha (by omega) _ _ _ _ h)
    · have h := h.2 c111
      exact x_le (xLe_cons (xLe_none (xLe_cons (xLe_cons (xLe_cons (xLe_nil)))))) (c_goesAlong_97 ha (by omega) _ _ _ h)
def w_goesAlong_14 (N : Nat × Nat) (x1 : Int32) (x2 : Int32) (y1 : Int32) (Kr : mS → Prop) (s : mS) : Prop :=
  (∀ s101 : mS, s101 = mF s 29 y1 → ((x2 = 0 → (w_goesAlong_31 N x1 x2 0 Kr s101)) ∧ (¬ x2 = 0 → (w_allOf N 0 s101 (fun x103 s104 => (w_goesAlong_31 N x1 x2 x103 Kr s104))))))
theorem c_goesAlong_14 {G : xG} {l : Launch} {a : Nat → Nat} {g : xH} (ha : mInj a) {d : Nat} {N : Nat × Nat} (hd : 2 * N.2 + 8 ≤ d) (x1 : Int32) (x2 : Int32) (y1 : Int32) (Kr : mS → Prop) (s : mS) (h : w_goesAlong_14 N x1 x2 y1 Kr s) : xF G l kX6_goesAlong (d + 1) 0 0 (mQv G a g Kr) 14 [some (.ref (a 51)), some (.int x1), some (.int x2), none, none] [.int y1, .ref (a 51)] (mH G a s g) := by
  unfold w_goesAlong_14 at h
  refine m_put ha dX6_goesAlong_14 fp_X6_303 (mfs_29 _ _ _) (by decide) rfl rfl ?_
  have h := h _ rfl
  refine x_aload_0 dX6_goesAlong_17 ?_
  refine x_iload_2 dX6_goesAlong_18 ?_
  refine x_if_eq 30 dX6_goesAlong_19 (by decide) (fun c102 => ?_) (fun c102 => ?_)
  · have h := h.1 c102
    refine x_iconst (v := 0) dX6_goesAlong_30 (by decide) ?_
    exact x_le (xLe_cons (xLe_cons (xLe_cons (xLe_cons (xLe_cons (xLe_nil)))))) (c_goesAlong_31 ha (by omega) _ _ _ _ _ h)
  · have h := h.2 c102
    refine x_aload_0 dX6_goesAlong_22 ?_
    refine x_iconst (v := 0) dX6_goesAlong_23 (by decide) ?_
    refine m_cVi1 ha rfl cv_X6_332 (Nat.le_of_ble_eq_true rfl) dX6_goesAlong_24 (c_allOf ha (by omega) h) (fun x103 s104 h => ?_)
    refine x_goto 31 dX6_goesAlong_27 (by decide) ?_
    exact x_le (xLe_cons (xLe_cons (xLe_cons (xLe_cons (xLe_cons (xLe_nil)))))) (c_goesAlong_31 ha (by omega) _ _ _ _ _ h)
def w_goesAlong (N : Nat × Nat) (x1 : Int32) (x2 : Int32) (s : mS) (Kr : mS → Prop) : Prop :=
  ((x2 = 0 → (w_goesAlong_14 N x1 x2 0 Kr s)) ∧ (¬ x2 = 0 → (w_allOf N 2 s (fun x102 s103 => (w_goesAlong_14 N x1 x2 x102 Kr s103)))))
theorem c_goesAlong {G : xG} {l : Launch} {a : Nat → Nat} {g : xH} (ha : mInj a) {d : Nat} {N : Nat × Nat} (hd : 2 * N.2 + 9 ≤ d) {x1 : Int32} {x2 : Int32} {s : mS} {Kr : mS → Prop} (h : w_goesAlong N x1 x2 s Kr) : xC G l kX6_goesAlong d 0 0 [.ref (a 51), .int x1, .int x2] (mH G a s g) (mQv G a g Kr) := by
  obtain ⟨d, rfl⟩ : ∃ z, d = z + 1 := ⟨d - 1, by omega⟩
  refine xC.start rfl (by decide +kernel) (Nat.le_of_ble_eq_true rfl) (lv := [some (.ref (a 51)), some (.int x1), some (.int x2), none, none]) rfl ?_
  unfold w_goesAlong at h
  refine x_aload_0 dX6_goesAlong_0 ?_
  refine x_iload_2 dX6_goesAlong_1 ?_
  refine x_if_eq 13 dX6_goesAlong_2 (by decide) (fun c101 => ?_) (fun c101 => ?_)
  · have h := h.1 c101
    refine x_iconst (v := 0) dX6_goesAlong_13 (by decide) ?_
    exact x_le (xLe_cons (xLe_cons (xLe_cons (xLe_cons (xLe_cons (xLe_nil)))))) (c_goesAlong_14 ha (by omega) _ _ _ _ _ h)
  · have h := h.2 c101
    refine x_aload_0 dX6_goesAlong_5 ?_
    refine x_iconst (v := 2) dX6_goesAlong_6 (by decide) ?_
    refine m_cVi1 ha rfl cv_X6_332 (Nat.le_of_ble_eq_true rfl) dX6_goesAlong_7 (c_allOf ha (by omega) h) (fun x102 s103 h => ?_)
    refine x_goto 14 dX6_goesAlong_10 (by decide) ?_
    exact x_le (xLe_cons (xLe_cons (xLe_cons (xLe_cons (xLe_cons (xLe_nil)))))) (c_goesAlong_14 ha (by omega) _ _ _ _ _ h)
def w_goodOr (x1 : Int32) (s : mS) (Kr : Int32 → mS → Prop) : Prop :=
  ((0 ≤ x1 → (w_good x1 s (fun x102 s103 => (Kr x102 s103)))) ∧ (¬ 0 ≤ x1 → (w_refuses x1 s (fun x104 s105 => (Kr x104 s105)))))
theorem c_goodOr {G : xG} {l : Launch} {a : Nat → Nat} {g : xH} (ha : mInj a) {d : Nat} (hd : 2 ≤ d) {x1 : Int32} {s : mS} {Kr : Int32 → mS → Prop} (h : w_goodOr x1 s Kr) : xC G l kX6_goodOr d 0 0 [.ref (a 51), .int x1] (mH G a s g) (mQi G a g Kr) := by
  obtain ⟨d, rfl⟩ : ∃ z, d = z + 1 := ⟨d - 1, by omega⟩
  refine xC.start rfl (by decide +kernel) (Nat.le_of_ble_eq_true rfl) (lv := [some (.ref (a 51)), some (.int x1)]) rfl ?_
  unfold w_goodOr at h
  refine x_iload_1 dX6_goodOr_0 ?_
  refine x_if_ge 12 dX6_goodOr_1 (by decide) (fun c101 => ?_) (fun c101 => ?_)
  · have h := h.1 c101
    refine x_aload_0 dX6_goodOr_12 ?_
    refine x_iload_1 dX6_goodOr_13 ?_
    refine m_cVi1 ha rfl cv_X6_14 (Nat.le_of_ble_eq_true rfl) dX6_goodOr_14 (c_good ha (by omega) h) (fun x102 s103 h => ?_)
    exact x_iret dX6_goodOr_17 rfl ⟨_, _, h, rfl, rfl⟩
  · have h := h.2 c101
    refine x_aload_0 dX6_goodOr_4 ?_
    refine x_iload_1 dX6_goodOr_5 ?_
    refine m_cVi1 ha rfl cv_X6_106 (Nat.le_of_ble_eq_true rfl) dX6_goodOr_6 (c_refuses ha (by omega) h) (fun x104 s105 h => ?_)
    refine x_goto 17 dX6_goodOr_9 (by decide) ?_
    exact x_iret dX6_goodOr_17 rfl ⟨_, _, h, rfl, rfl⟩
def w_greater (x0 : Int32) (x1 : Int32) (Kr : Int32 → Prop) : Prop :=
  ((x0 ≤ x1 → (Kr x1)) ∧ (¬ x0 ≤ x1 → (Kr x0)))
theorem c_greater {G : xG} {l : Launch} {h0 : xH} {d : Nat} (hd : 1 ≤ d) {x0 : Int32} {x1 : Int32} {Kr : Int32 → Prop} (h : w_greater x0 x1 Kr) : xC G l kX6_greater d 0 0 [.int x0, .int x1] h0 (xQi h0 Kr) := by
  obtain ⟨d, rfl⟩ : ∃ z, d = z + 1 := ⟨d - 1, by omega⟩
  refine xC.start rfl (by decide +kernel) (Nat.le_of_ble_eq_true rfl) (lv := [some (.int x0), some (.int x1)]) rfl ?_
  unfold w_greater at h
  refine x_iload_0 dX6_greater_0 ?_
  refine x_iload_1 dX6_greater_1 ?_
  refine x_icmp_le 9 dX6_greater_2 (by decide) (fun c101 => ?_) (fun c101 => ?_)
  · have h := h.1 c101
    refine x_iload_1 dX6_greater_9 ?_
    exact x_iret dX6_greater_10 rfl ⟨_, h, rfl, rfl⟩
  · have h := h.2 c101
    refine x_iload_0 dX6_greater_5 ?_
    refine x_goto 10 dX6_greater_6 (by decide) ?_
    exact x_iret dX6_greater_10 rfl ⟨_, h, rfl, rfl⟩
def w_heard (x1 : Int32) (x2 : Int32) (s : mS) (Kr : Int32 → mS → Prop) : Prop :=
  (w_lies x1 0 3 (fun x101 => ((x101 = 0 → (w_refuses (-1) s (fun x104 s105 => (Kr x104 s105)))) ∧ (¬ x101 = 0 → (w_lies x2 (-24) 999 (fun x106 => ((¬ x106 = 0 → (vp_in 42 5652 ∧ (∀ x110 : Int32, x110 = 25 + (2 * (mAt s 2 42)) → (vp_in 42 5652 ∧ ((¬ (mAt s 2 42) = 6 → (vp_in x110 5652 ∧ (∀ s114 : mS, s114 = mI s 2 x110 x1 → (vp_in (x110 + 1) 5652 ∧ (∀ s116 : mS, s116 = mI s114 2 (x110 + 1) x2 → (vp_in 42 5652 ∧ (vp_in 42 5652 ∧ (∀ s119 : mS, s119 = mI s116 2 42 ((mAt s116 2 42) + 1) → (vp_in 42 5652 ∧ (w_good (mAt s119 2 42) s119 (fun x121 s122 => (Kr x121 s122)))))))))))) ∧ ((mAt s 2 42) = 6 → (w_refuses (-5) s (fun x123 s124 => (Kr x123 s124))))))))) ∧ (x106 = 0 → (w_refuses (-1) s (fun x125 s126 => (Kr x125 s126)))))))))))
theorem c_heard {G : xG} {l : Launch} {a : Nat → Nat} {g : xH} (ha : mInj a) {d : Nat} (hd : 2 ≤ d) {x1 : Int32} {x2 : Int32} {s : mS} {Kr : Int32 → mS → Prop} (h : w_heard x1 x2 s Kr) : xC G l kX6_heard d 0 0 [.ref (a 51), .int x1, .int x2] (mH G a s g) (mQi G a g Kr) := by
  obtain ⟨d, rfl⟩ : ∃ z, d = z + 1 := ⟨d - 1, by omega⟩
  refine xC.start rfl (by decide +kernel) (Nat.le_of_ble_eq_true rfl) (lv := [some (.ref (a 51)), some (.int x1), some (.int x2), none]) rfl ?_
  unfold w_heard at h
  refine x_iload_1 dX6_heard_0 ?_
  refine x_iconst (v := 0) dX6_heard_1 (by decide) ?_
  refine x_iconst (v := 3) dX6_heard_2 (by decide) ?_
  refine m_cSi3 rfl cs_X6_18 (Nat.le_of_ble_eq_true rfl) dX6_heard_3 (c_lies (by omega) h) (fun x101 h => ?_)
  refine x_if_eq 21 dX6_heard_6 (by decide) (fun c103 => ?_) (fun c103 => ?_)
  · have h := h.1 c103
    refine x_aload_0 dX6_heard_21 ?_
    refine x_iconst (v := (-1)) dX6_heard_22 (by decide) ?_
    refine m_cVi1 ha rfl cv_X6_106 (Nat.le_of_ble_eq_true rfl) dX6_heard_23 (c_refuses ha (by omega) h) (fun x104 s105 h => ?_)
    exact x_iret dX6_heard_26 rfl ⟨_, _, h, rfl, rfl⟩
  · have h := h.2 c103
    refine x_iload_2 dX6_heard_9 ?_
    refine x_bipush (v := (-24)) dX6_heard_10 (by decide) ?_
    refine x_sipush (v := 999) dX6_heard_12 (by decide) ?_
    refine m_cSi3 rfl cs_X6_18 (Nat.le_of_ble_eq_true rfl) dX6_heard_15 (c_lies (by omega) h) (fun x106 h => ?_)
    refine x_if_ne 27 dX6_heard_18 (by decide) (fun c108 => ?_) (fun c108 => ?_)
    · have h := h.1 c108
      refine x_bipush (v := 25) dX6_heard_27 (by decide) ?_
      refine x_iconst (v := 2) dX6_heard_29 (by decide) ?_
      refine x_aload_0 dX6_heard_30 ?_
      refine m_get ha dX6_heard_31 fa_X6_28 rfl ?_
      refine x_bipush (v := 42) dX6_heard_34 (by decide) ?_
      obtain ⟨e109, h⟩ := h
      refine m_iald (j := 2) ha dX6_heard_36 (by decide) (by decide) e109 ?_
      refine x_imul dX6_heard_37 ?_
      refine x_iadd dX6_heard_38 ?_
      refine x_istore_3 dX6_heard_39 (by decide) xN2_i ?_
      have h := h _ rfl
      refine x_aload_0 dX6_heard_40 ?_
      refine m_get ha dX6_heard_41 fa_X6_28 rfl ?_
      refine x_bipush (v := 42) dX6_heard_44 (by decide) ?_
      obtain ⟨e111, h⟩ := h
      refine m_iald (j := 2) ha dX6_heard_46 (by decide) (by decide) e111 ?_
      refine x_bipush (v := 6) dX6_heard_47 (by decide) ?_
      refine x_icmp_ne 59 dX6_heard_49 (by decide) (fun c112 => ?_) (fun c112 => ?_)
      · have h := h.1 c112
        refine x_aload_0 dX6_heard_59 ?_
        refine m_get ha dX6_heard_60 fa_X6_28 rfl ?_
        refine x_iload_3 dX6_heard_63 ?_
        refine x_iload_1 dX6_heard_64 ?_
        obtain ⟨e113, h⟩ := h
        refine m_iast (j := 2) ha dX6_heard_65 (by decide) (by decide) e113 ?_
        have h := h _ rfl
        refine x_aload_0 dX6_heard_66 ?_
        refine m_get ha dX6_heard_67 fa_X6_28 rfl ?_
        refine x_iload_3 dX6_heard_70 ?_
        refine x_iconst (v := 1) dX6_heard_71 (by decide) ?_
        refine x_iadd dX6_heard_72 ?_
        refine x_iload_2 dX6_heard_73 ?_
        obtain ⟨e115, h⟩ := h
        refine m_iast (j := 2) ha dX6_heard_74 (by decide) (by decide) e115 ?_
        have h := h _ rfl
        refine x_aload_0 dX6_heard_75 ?_
        refine m_get ha dX6_heard_76 fa_X6_28 rfl ?_
        refine x_bipush (v := 42) dX6_heard_79 (by decide) ?_
        refine x_dup2 dX6_heard_81 rfl rfl ?_
        obtain ⟨e117, h⟩ := h
        refine m_iald (j := 2) ha dX6_heard_82 (by decide) (by decide) e117 ?_
        refine x_iconst (v := 1) dX6_heard_83 (by decide) ?_
        refine x_iadd dX6_heard_84 ?_
        obtain ⟨e118, h⟩ := h
        refine m_iast (j := 2) ha dX6_heard_85 (by decide) (by decide) e118 ?_
        have h := h _ rfl
        refine x_aload_0 dX6_heard_86 ?_
        refine x_aload_0 dX6_heard_87 ?_
        refine m_get ha dX6_heard_88 fa_X6_28 rfl ?_
        refine x_bipush (v := 42) dX6_heard_91 (by decide) ?_
        obtain ⟨e120, h⟩ := h
        refine m_iald (j := 2) ha dX6_heard_93 (by decide) (by decide) e120 ?_
        refine m_cVi1 ha rfl cv_X6_14 (Nat.le_of_ble_eq_true rfl) dX6_heard_94 (c_good ha (by omega) h) (fun x121 s122 h => ?_)
        exact x_iret dX6_heard_97 rfl ⟨_, _, h, rfl, rfl⟩
      · have h := h.2 c112
        refine x_aload_0 dX6_heard_52 ?_
        refine x_bipush (v := (-5)) dX6_heard_53 (by decide) ?_
        refine m_cVi1 ha rfl cv_X6_106 (Nat.le_of_ble_eq_true rfl) dX6_heard_55 (c_refuses ha (by omega) h) (fun x123 s124 h => ?_)
        exact x_iret dX6_heard_58 rfl ⟨_, _, h, rfl, rfl⟩
    · have h := h.2 c108
      refine x_aload_0 dX6_heard_21 ?_
      refine x_iconst (v := (-1)) dX6_heard_22 (by decide) ?_
      refine m_cVi1 ha rfl cv_X6_106 (Nat.le_of_ble_eq_true rfl) dX6_heard_23 (c_refuses ha (by omega) h) (fun x125 s126 h => ?_)
      exact x_iret dX6_heard_26 rfl ⟨_, _, h, rfl, rfl⟩
def w_image_17 (N : Nat × Nat) (x1 : Int32) (Kr : Int32 → mS → Prop) (K : mS → Prop) : Nat → Int32 → mS → Prop
  | 0, _, _ => False
  | t + 1, x2, s => ((5652 ≤ x2 → (K s)) ∧ (¬ 5652 ≤ x2 → (vp_in x2 5652 ∧ (vp_in ((5652 * x1) + x2) 11304 ∧ (∀ s104 : mS, s104 = mI s 3 ((5652 * x1) + x2) (mAt s 2 x2) → (∀ x105 : Int32, x105 = x2 + 1 → ((fun x2 s => w_image_17 N x1 Kr K t x2 s) x105 s104)))))))
theorem c_image_17 {G : xG} {l : Launch} {a : Nat → Nat} {g : xH} (ha : mInj a) {d : Nat} {N : Nat × Nat} (hd : 1 ≤ d) (Kr : Int32 → mS → Prop) (K : mS → Prop) (x1 : Int32) : ∀ (t : Nat) (x2 : Int32) (s : mS) , w_image_17 N x1 Kr K t x2 s → (∀ (s : mS), K s → xF G l kX6_image (d + 1) 0 0 (mQi G a g Kr) 48 [some (.ref (a 51)), some (.int x1), none] [] (mH G a s g)) → xF G l kX6_image (d + 1) 0 0 (mQi G a g Kr) 17 [some (.ref (a 51)), some (.int x1), some (.int x2)] [] (mH G a s g) := by
  intro t
  induction t with
  | zero =>
    intro _ _ h _
    exact absurd h (by simp [w_image_17])
  | succ t ih =>
    intro x2 s h hK
    have hR := fun x2 s h => ih x2 s h hK
    unfold w_image_17 at h
    refine x_iload_2 dX6_image_17 ?_
    refine x_sipush (v := 5652) dX6_image_18 (by decide) ?_
    refine x_icmp_ge 48 dX6_image_21 (by decide) (fun c101 => ?_) (fun c101 => ?_)
    · have h := h.1 c101
      exact x_le (xLe_cons (xLe_cons (xLe_none (xLe_nil)))) (hK _ h)
    · have h := h.2 c101
      refine x_aload_0 dX6_image_24 ?_
      refine m_get ha dX6_image_25 fa_X6_31 rfl ?_
      refine x_sipush (v := 5652) dX6_image_28 (by decide) ?_
      refine x_iload_1 dX6_image_31 ?_
      refine x_imul dX6_image_32 ?_
      refine x_iload_2 dX6_image_33 ?_
      refine x_iadd dX6_image_34 ?_
      refine x_aload_0 dX6_image_35 ?_
      refine m_get ha dX6_image_36 fa_X6_28 rfl ?_
      refine x_iload_2 dX6_image_39 ?_
      obtain ⟨e102, h⟩ := h
      refine m_iald (j := 2) ha dX6_image_40 (by decide) (by decide) e102 ?_
      obtain ⟨e103, h⟩ := h
      refine m_iast (j := 3) ha dX6_image_41 (by decide) (by decide) e103 ?_
      have h := h _ rfl
      refine x_iinc_2 (v := 1) dX6_image_42 (by decide) (by decide) xN2_i ?_
      have h := h _ rfl
      refine x_goto 17 dX6_image_45 (by decide) ?_
      exact x_le (xLe_cons (xLe_cons (xLe_cons (xLe_nil)))) (hR _ _ h)
def w_image (N : Nat × Nat) (x1 : Int32) (s : mS) (Kr : Int32 → mS → Prop) : Prop :=
  (w_lies x1 0 1 (fun x101 => ((¬ x101 = 0 → (w_image_17 N x1 Kr (fun s104 => (vp_in x1 2 ∧ (∀ s106 : mS, s106 = mI s104 4 x1 (vp_nar .boolean 1) → (w_good 0 s106 (fun x107 s108 => (Kr x107 s108)))))) N.1 0 s)) ∧ (x101 = 0 → (w_refuses (-1) s (fun x109 s110 => (Kr x109 s110)))))))
theorem c_image {G : xG} {l : Launch} {a : Nat → Nat} {g : xH} (ha : mInj a) {d : Nat} {N : Nat × Nat} (hd : 2 ≤ d) {x1 : Int32} {s : mS} {Kr : Int32 → mS → Prop} (h : w_image N x1 s Kr) : xC G l kX6_image d 0 0 [.ref (a 51), .int x1] (mH G a s g) (mQi G a g Kr) := by
  obtain ⟨d, rfl⟩ : ∃ z, d = z + 1 := ⟨d - 1, by omega⟩
  refine xC.start rfl (by decide +kernel) (Nat.le_of_ble_eq_true rfl) (lv := [some (.ref (a 51)), some (.int x1), none]) rfl ?_
  unfold w_image at h
  refine x_iload_1 dX6_image_0 ?_
  refine x_iconst (v := 0) dX6_image_1 (by decide) ?_
  refine x_iconst (v := 1) dX6_image_2 (by decide) ?_
  refine m_cSi3 rfl cs_X6_18 (Nat.le_of_ble_eq_true rfl) dX6_image_3 (c_lies (by omega) h) (fun x101 h => ?_)
  refine x_if_ne 15 dX6_image_6 (by decide) (fun c103 => ?_) (fun c103 => ?_)
  · have h := h.1 c103
    refine x_iconst (v := 0) dX6_image_15 (by decide) ?_
    refine x_istore_2 dX6_image_16 (by decide) xN2_i ?_
    refine x_le (xLe_cons (xLe_cons (xLe_cons (xLe_nil)))) (c_image_17 ha (by omega) _ _ _ _ _ _ h (fun s104 h => ?_))
    refine x_aload_0 dX6_image_48 ?_
    refine m_get ha dX6_image_49 fa_X6_34 rfl ?_
    refine x_iload_1 dX6_image_52 ?_
    refine x_iconst (v := 1) dX6_image_53 (by decide) ?_
    obtain ⟨e105, h⟩ := h
    refine m_zast (j := 4) ha dX6_image_54 (by decide) (by decide) e105 ?_
    have h := h _ rfl
    refine x_aload_0 dX6_image_55 ?_
    refine x_iconst (v := 0) dX6_image_56 (by decide) ?_
    refine m_cVi1 ha rfl cv_X6_14 (Nat.le_of_ble_eq_true rfl) dX6_image_57 (c_good ha (by omega) h) (fun x107 s108 h => ?_)
    exact x_iret dX6_image_60 rfl ⟨_, _, h, rfl, rfl⟩
  · have h := h.2 c103
    refine x_aload_0 dX6_image_9 ?_
    refine x_iconst (v := (-1)) dX6_image_10 (by decide) ?_
    refine m_cVi1 ha rfl cv_X6_106 (Nat.le_of_ble_eq_true rfl) dX6_image_11 (c_refuses ha (by omega) h) (fun x109 s110 h => ?_)
    exact x_iret dX6_image_14 rfl ⟨_, _, h, rfl, rfl⟩
def w_interval (x1 : Int32) (s : mS) (Kr : Int32 → mS → Prop) : Prop :=
  (w_apartOf x1 s (fun x101 s102 => (w_bare x101 (fun x103 => (Kr (x103 - x103 / 12 * 12) s102)))))
theorem c_interval {G : xG} {l : Launch} {a : Nat → Nat} {g : xH} (ha : mInj a) {d : Nat} (hd : 2 ≤ d) {x1 : Int32} {s : mS} {Kr : Int32 → mS → Prop} (h : w_interval x1 s Kr) : xC G l kX6_interval d 0 0 [.ref (a 51), .int x1] (mH G a s g) (mQi G a g Kr) := by
  obtain ⟨d, rfl⟩ : ∃ z, d = z + 1 := ⟨d - 1, by omega⟩
  refine xC.start rfl (by decide +kernel) (Nat.le_of_ble_eq_true rfl) (lv := [some (.ref (a 51)), some (.int x1)]) rfl ?_
  unfold w_interval at h
  refine x_aload_0 dX6_interval_0 ?_
  refine x_iload_1 dX6_interval_1 ?_
  refine m_cVi1 ha rfl cv_X6_141 (Nat.le_of_ble_eq_true rfl) dX6_interval_2 (c_apartOf ha (by omega) h) (fun x101 s102 h => ?_)
  refine m_cSi1 rfl cs_X6_325 (Nat.le_of_ble_eq_true rfl) dX6_interval_5 (c_bare (by omega) h) (fun x103 h => ?_)
  refine x_bipush (v := 12) dX6_interval_8 (by decide) ?_
  refine x_irem dX6_interval_10 (by decide) ?_
  exact x_iret dX6_interval_11 rfl ⟨_, _, h, rfl, rfl⟩
def w_isDigit (x0 : Int32) (Kr : Int32 → Prop) : Prop :=
  ((x0 < 48 → (Kr 0)) ∧ (¬ x0 < 48 → ((57 < x0 → (Kr 0)) ∧ (¬ 57 < x0 → (Kr 1)))))
theorem c_isDigit {G : xG} {l : Launch} {h0 : xH} {d : Nat} (hd : 1 ≤ d) {x0 : Int32} {Kr : Int32 → Prop} (h : w_isDigit x0 Kr) : xC G l kX6_isDigit d 0 0 [.int x0] h0 (xQi h0 Kr) := by
  obtain ⟨d, rfl⟩ : ∃ z, d = z + 1 := ⟨d - 1, by omega⟩
  refine xC.start rfl (by decide +kernel) (Nat.le_of_ble_eq_true rfl) (lv := [some (.int x0)]) rfl ?_
  unfold w_isDigit at h
  refine x_iload_0 dX6_isDigit_0 ?_
  refine x_bipush (v := 48) dX6_isDigit_1 (by decide) ?_
  refine x_icmp_lt 16 dX6_isDigit_3 (by decide) (fun c101 => ?_) (fun c101 => ?_)
  · have h := h.1 c101
    refine x_iconst (v := 0) dX6_isDigit_16 (by decide) ?_
    exact x_zret0 dX6_isDigit_17 rfl ⟨_, h, rfl, rfl⟩
  · have h := h.2 c101
    refine x_iload_0 dX6_isDigit_6 ?_
    refine x_bipush (v := 57) dX6_isDigit_7 (by decide) ?_
    refine x_icmp_gt 16 dX6_isDigit_9 (by decide) (fun c102 => ?_) (fun c102 => ?_)
    · have h := h.1 c102
      refine x_iconst (v := 0) dX6_isDigit_16 (by decide) ?_
      exact x_zret0 dX6_isDigit_17 rfl ⟨_, h, rfl, rfl⟩
    · have h := h.2 c102
      refine x_iconst (v := 1) dX6_isDigit_12 (by decide) ?_
      refine x_goto 17 dX6_isDigit_13 (by decide) ?_
      exact x_zret1 dX6_isDigit_17 rfl ⟨_, h, rfl, rfl⟩
def w_isIn (x0 : Int32) (x1 : Int32) (Kr : Int32 → Prop) : Prop :=
  ((¬ ((x0 >>> (x1 &&& 31)) &&& 1) = 1 → (Kr 0)) ∧ (((x0 >>> (x1 &&& 31)) &&& 1) = 1 → (Kr 1)))
theorem c_isIn {G : xG} {l : Launch} {h0 : xH} {d : Nat} (hd : 1 ≤ d) {x0 : Int32} {x1 : Int32} {Kr : Int32 → Prop} (h : w_isIn x0 x1 Kr) : xC G l kX6_isIn d 0 0 [.int x0, .int x1] h0 (xQi h0 Kr) := by
  obtain ⟨d, rfl⟩ : ∃ z, d = z + 1 := ⟨d - 1, by omega⟩
  refine xC.start rfl (by decide +kernel) (Nat.le_of_ble_eq_true rfl) (lv := [some (.int x0), some (.int x1)]) rfl ?_
  unfold w_isIn at h
  refine x_iload_0 dX6_isIn_0 ?_
  refine x_iload_1 dX6_isIn_1 ?_
  refine x_ishr dX6_isIn_2 ?_
  refine x_iconst (v := 1) dX6_isIn_3 (by decide) ?_
  refine x_iand dX6_isIn_4 ?_
  refine x_iconst (v := 1) dX6_isIn_5 (by decide) ?_
  refine x_icmp_ne 13 dX6_isIn_6 (by decide) (fun c101 => ?_) (fun c101 => ?_)
  · have h := h.1 c101
    refine x_iconst (v := 0) dX6_isIn_13 (by decide) ?_
    exact x_zret0 dX6_isIn_14 rfl ⟨_, h, rfl, rfl⟩
  · have h := h.2 c101
    refine x_iconst (v := 1) dX6_isIn_9 (by decide) ?_
    refine x_goto 14 dX6_isIn_10 (by decide) ?_
    exact x_zret1 dX6_isIn_14 rfl ⟨_, h, rfl, rfl⟩
def w_isParallel (x1 : Int32) (x2 : Int32) (s : mS) (Kr : Int32 → mS → Prop) : Prop :=
  (w_interval x1 s (fun x101 s102 => ((¬ x101 = x2 → (Kr 0 s102)) ∧ (x101 = x2 → (w_interval (x1 - 1) s102 (fun x104 s105 => ((x104 = x2 → (w_leapOf x1 s105 (fun x107 s108 => ((x107 = 0 → (Kr 0 s108)) ∧ (¬ x107 = 0 → (Kr 1 s108)))))) ∧ (¬ x104 = x2 → (Kr 0 s105)))))))))
theorem c_isParallel {G : xG} {l : Launch} {a : Nat → Nat} {g : xH} (ha : mInj a) {d : Nat} (hd : 3 ≤ d) {x1 : Int32} {x2 : Int32} {s : mS} {Kr : Int32 → mS → Prop} (h : w_isParallel x1 x2 s Kr) : xC G l kX6_isParallel d 0 0 [.ref (a 51), .int x1, .int x2] (mH G a s g) (mQi G a g Kr) := by
  obtain ⟨d, rfl⟩ : ∃ z, d = z + 1 := ⟨d - 1, by omega⟩
  refine xC.start rfl (by decide +kernel) (Nat.le_of_ble_eq_true rfl) (lv := [some (.ref (a 51)), some (.int x1), some (.int x2)]) rfl ?_
  unfold w_isParallel at h
  refine x_aload_0 dX6_isParallel_0 ?_
  refine x_iload_1 dX6_isParallel_1 ?_
  refine m_cVi1 ha rfl cv_X6_413 (Nat.le_of_ble_eq_true rfl) dX6_isParallel_2 (c_interval ha (by omega) h) (fun x101 s102 h => ?_)
  refine x_iload_2 dX6_isParallel_5 ?_
  refine x_icmp_ne 20 dX6_isParallel_6 (by decide) (fun c103 => ?_) (fun c103 => ?_)
  · have h := h.1 c103
    refine x_iconst (v := 0) dX6_isParallel_20 (by decide) ?_
    exact x_zret0 dX6_isParallel_21 rfl ⟨_, _, h, rfl, rfl⟩
  · have h := h.2 c103
    refine x_aload_0 dX6_isParallel_9 ?_
    refine x_iload_1 dX6_isParallel_10 ?_
    refine x_iconst (v := 1) dX6_isParallel_11 (by decide) ?_
    refine x_isub dX6_isParallel_12 ?_
    refine m_cVi1 ha rfl cv_X6_413 (Nat.le_of_ble_eq_true rfl) dX6_isParallel_13 (c_interval ha (by omega) h) (fun x104 s105 h => ?_)
    refine x_iload_2 dX6_isParallel_16 ?_
    refine x_icmp_eq 22 dX6_isParallel_17 (by decide) (fun c106 => ?_) (fun c106 => ?_)
    · have h := h.1 c106
      refine x_aload_0 dX6_isParallel_22 ?_
      refine x_iload_1 dX6_isParallel_23 ?_
      refine m_cVi1 ha rfl cv_X6_144 (Nat.le_of_ble_eq_true rfl) dX6_isParallel_24 (c_leapOf ha (by omega) h) (fun x107 s108 h => ?_)
      refine x_if_eq 34 dX6_isParallel_27 (by decide) (fun c109 => ?_) (fun c109 => ?_)
      · have h := h.1 c109
        refine x_iconst (v := 0) dX6_isParallel_34 (by decide) ?_
        exact x_zret0 dX6_isParallel_35 rfl ⟨_, _, h, rfl, rfl⟩
      · have h := h.2 c109
        refine x_iconst (v := 1) dX6_isParallel_30 (by decide) ?_
        refine x_goto 35 dX6_isParallel_31 (by decide) ?_
        exact x_zret1 dX6_isParallel_35 rfl ⟨_, _, h, rfl, rfl⟩
    · have h := h.2 c106
      refine x_iconst (v := 0) dX6_isParallel_20 (by decide) ?_
      exact x_zret0 dX6_isParallel_21 rfl ⟨_, _, h, rfl, rfl⟩
def w_isSmall (x0 : Int32) (Kr : Int32 → Prop) : Prop :=
  ((x0 < 97 → (Kr 0)) ∧ (¬ x0 < 97 → ((122 < x0 → (Kr 0)) ∧ (¬ 122 < x0 → (Kr 1)))))
theorem c_isSmall {G : xG} {l : Launch} {h0 : xH} {d : Nat} (hd : 1 ≤ d) {x0 : Int32} {Kr : Int32 → Prop} (h : w_isSmall x0 Kr) : xC G l kX6_isSmall d 0 0 [.int x0] h0 (xQi h0 Kr) := by
  obtain ⟨d, rfl⟩ : ∃ z, d = z + 1 := ⟨d - 1, by omega⟩
  refine xC.start rfl (by decide +kernel) (Nat.le_of_ble_eq_true rfl) (lv := [some (.int x0)]) rfl ?_
  unfold w_isSmall at h
  refine x_iload_0 dX6_isSmall_0 ?_
  refine x_bipush (v := 97) dX6_isSmall_1 (by decide) ?_
  refine x_icmp_lt 16 dX6_isSmall_3 (by decide) (fun c101 => ?_) (fun c101 => ?_)
  · have h := h.1 c101
    refine x_iconst (v := 0) dX6_isSmall_16 (by decide) ?_
    exact x_zret0 dX6_isSmall_17 rfl ⟨_, h, rfl, rfl⟩
  · have h := h.2 c101
    refine x_iload_0 dX6_isSmall_6 ?_
    refine x_bipush (v := 122) dX6_isSmall_7 (by decide) ?_
    refine x_icmp_gt 16 dX6_isSmall_9 (by decide) (fun c102 => ?_) (fun c102 => ?_)
    · have h := h.1 c102
      refine x_iconst (v := 0) dX6_isSmall_16 (by decide) ?_
      exact x_zret0 dX6_isSmall_17 rfl ⟨_, h, rfl, rfl⟩
    · have h := h.2 c102
      refine x_iconst (v := 1) dX6_isSmall_12 (by decide) ?_
      refine x_goto 17 dX6_isSmall_13 (by decide) ?_
      exact x_zret1 dX6_isSmall_17 rfl ⟨_, h, rfl, rfl⟩
def w_isTerm (x0 : Int32) (x1 : Int32) (Kr : Int32 → Prop) : Prop :=
  ((x0 = 0 → (w_lies x1 0 999 (fun x102 => (xB x102 ∧ (Kr x102))))) ∧ (x0 = 1 → (w_lies x1 0 10 (fun x106 => (xB x106 ∧ (Kr x106))))) ∧ (x0 = 2 → (w_lies x1 0 9 (fun x110 => (xB x110 ∧ (Kr x110))))) ∧ (x0 = 3 → (w_isPitch x1 (fun x114 => (xB x114 ∧ (Kr x114))))) ∧ (x0 = 4 → (w_isPitch x1 (fun x118 => (xB x118 ∧ (Kr x118))))) ∧ (¬ x0 = 0 → ¬ x0 = 1 → ¬ x0 = 2 → ¬ x0 = 3 → ¬ x0 = 4 → (Kr 0)))
theorem c_isTerm {G : xG} {l : Launch} {h0 : xH} {d : Nat} (hd : 3 ≤ d) {x0 : Int32} {x1 : Int32} {Kr : Int32 → Prop} (h : w_isTerm x0 x1 Kr) : xC G l kX6_isTerm d 0 0 [.int x0, .int x1] h0 (xQi h0 Kr) := by
  obtain ⟨d, rfl⟩ : ∃ z, d = z + 1 := ⟨d - 1, by omega⟩
  refine xC.start rfl (by decide +kernel) (Nat.le_of_ble_eq_true rfl) (lv := [some (.int x0), some (.int x1)]) rfl ?_
  unfold w_isTerm at h
  refine x_iload_0 dX6_isTerm_0 ?_
  by_cases c101 : x0 = 0
  · have h := h.1 c101
    refine x_cast rfl rfl (by rw [c101]) ?_
    refine x_tabIn 36 dX6_isTerm_1 (by decide) (by decide) (off := 35) (by decide) (by decide) ?_
    refine x_iload_1 dX6_isTerm_36 ?_
    refine x_iconst (v := 0) dX6_isTerm_37 (by decide) ?_
    refine x_sipush (v := 999) dX6_isTerm_38 (by decide) ?_
    refine m_cSi3 rfl cs_X6_18 (Nat.le_of_ble_eq_true rfl) dX6_isTerm_41 (c_lies (by omega) h) (fun x102 h => ?_)
    obtain ⟨e104, h⟩ := h
    exact x_zret dX6_isTerm_44 rfl (xB_n e104) ⟨_, h, rfl, rfl⟩
  by_cases c105 : x0 = 1
  · have h := h.2.1 c105
    refine x_cast rfl rfl (by rw [c105]) ?_
    refine x_tabIn 45 dX6_isTerm_1 (by decide) (by decide) (off := 44) (by decide) (by decide) ?_
    refine x_iload_1 dX6_isTerm_45 ?_
    refine x_iconst (v := 0) dX6_isTerm_46 (by decide) ?_
    refine x_bipush (v := 10) dX6_isTerm_47 (by decide) ?_
    refine m_cSi3 rfl cs_X6_18 (Nat.le_of_ble_eq_true rfl) dX6_isTerm_49 (c_lies (by omega) h) (fun x106 h => ?_)
    obtain ⟨e108, h⟩ := h
    exact x_zret dX6_isTerm_52 rfl (xB_n e108) ⟨_, h, rfl, rfl⟩
  by_cases c109 : x0 = 2
  · have h := h.2.2.1 c109
    refine x_cast rfl rfl (by rw [c109]) ?_
    refine x_tabIn 53 dX6_isTerm_1 (by decide) (by decide) (off := 52) (by decide) (by decide) ?_
    refine x_iload_1 dX6_isTerm_53 ?_
    refine x_iconst (v := 0) dX6_isTerm_54 (by decide) ?_
    refine x_bipush (v := 9) dX6_isTerm_55 (by decide) ?_
    refine m_cSi3 rfl cs_X6_18 (Nat.le_of_ble_eq_true rfl) dX6_isTerm_57 (c_lies (by omega) h) (fun x110 h => ?_)
    obtain ⟨e112, h⟩ := h
    exact x_zret dX6_isTerm_60 rfl (xB_n e112) ⟨_, h, rfl, rfl⟩
  by_cases c113 : x0 = 3
  · have h := h.2.2.2.1 c113
    refine x_cast rfl rfl (by rw [c113]) ?_
    refine x_tabIn 61 dX6_isTerm_1 (by decide) (by decide) (off := 60) (by decide) (by decide) ?_
    refine x_iload_1 dX6_isTerm_61 ?_
    refine m_cSi1 rfl cs_X6_116 (Nat.le_of_ble_eq_true rfl) dX6_isTerm_62 (c_isPitch (by omega) h) (fun x114 h => ?_)
    obtain ⟨e116, h⟩ := h
    exact x_zret dX6_isTerm_65 rfl (xB_n e116) ⟨_, h, rfl, rfl⟩
  by_cases c117 : x0 = 4
  · have h := h.2.2.2.2.1 c117
    refine x_cast rfl rfl (by rw [c117]) ?_
    refine x_tabIn 61 dX6_isTerm_1 (by decide) (by decide) (off := 60) (by decide) (by decide) ?_
    refine x_iload_1 dX6_isTerm_61 ?_
    refine m_cSi1 rfl cs_X6_116 (Nat.le_of_ble_eq_true rfl) dX6_isTerm_62 (c_isPitch (by omega) h) (fun x118 h => ?_)
    obtain ⟨e120, h⟩ := h
    exact x_zret dX6_isTerm_65 rfl (xB_n e120) ⟨_, h, rfl, rfl⟩
  have h := h.2.2.2.2.2 c101 c105 c109 c113 c117
  have z0 := xti (v := 0) (z := 0) (by decide) c101
  have z1 := xti (v := 1) (z := 1) (by decide) c105
  have z2 := xti (v := 2) (z := 2) (by decide) c109
  have z3 := xti (v := 3) (z := 3) (by decide) c113
  have z4 := xti (v := 4) (z := 4) (by decide) c117
  refine x_tabOut 66 dX6_isTerm_1 (by omega) (by decide) ?_
  refine x_iconst (v := 0) dX6_isTerm_66 (by decide) ?_
  exact x_zret0 dX6_isTerm_67 rfl ⟨_, h, rfl, rfl⟩
def w_keeps_54 (N : Nat × Nat) (x1 : Int32) (x2 : Int32) (Kr : mS → Prop) (K : mS → Prop) : Nat → Int32 → mS → Prop
  | 0, _, _ => False
  | t + 1, x3, s => ((25 ≤ x3 → (K s)) ∧ (¬ 25 ≤ x3 → (vp_in x3 5652 ∧ (vp_in ((x2 * (mFd s 33)) + x3) 416 ∧ (∀ s104 : mS, s104 = mI s 31 ((x2 * (mFd s 33)) + x3) (mAt s 2 x3) → (∀ x105 : Int32, x105 = x3 + 1 → ((fun x3 s => w_keeps_54 N x1 x2 Kr K t x3 s) x105 s104)))))))
theorem c_keeps_54 {G : xG} {l : Launch} {a : Nat → Nat} {g : xH} (ha : mInj a) {d : Nat} {N : Nat × Nat} (hd : 0 ≤ d) (Kr : mS → Prop) (K : mS → Prop) (x1 : Int32) (x2 : Int32) : ∀ (t : Nat) (x3 : Int32) (s : mS) , w_keeps_54 N x1 x2 Kr K t x3 s → (∀ (s : mS), K s → xF G l kX6_keeps (d + 1) 0 0 (mQv G a g Kr) 85 [some (.ref (a 51)), some (.int x1), some (.int x2), none] [] (mH G a s g)) → xF G l kX6_keeps (d + 1) 0 0 (mQv G a g Kr) 54 [some (.ref (a 51)), some (.int x1), some (.int x2), some (.int x3)] [] (mH G a s g) := by
  intro t
  induction t with
  | zero =>
    intro _ _ h _
    exact absurd h (by simp [w_keeps_54])
  | succ t ih =>
    intro x3 s h hK
    have hR := fun x3 s h => ih x3 s h hK
    unfold w_keeps_54 at h
    refine x_iload_3 dX6_keeps_54 ?_
    refine x_bipush (v := 25) dX6_keeps_55 (by decide) ?_
    refine x_icmp_ge 85 dX6_keeps_57 (by decide) (fun c101 => ?_) (fun c101 => ?_)
    · have h := h.1 c101
      exact x_le (xLe_cons (xLe_cons (xLe_cons (xLe_none (xLe_nil))))) (hK _ h)
    · have h := h.2 c101
      refine x_aload_0 dX6_keeps_60 ?_
      refine m_get ha dX6_keeps_61 fa_X6_66 rfl ?_
      refine x_iload_2 dX6_keeps_64 ?_
      refine x_aload_0 dX6_keeps_65 ?_
      refine m_get ha dX6_keeps_66 fa_X6_11 rfl ?_
      refine x_imul dX6_keeps_69 ?_
      refine x_iload_3 dX6_keeps_70 ?_
      refine x_iadd dX6_keeps_71 ?_
      refine x_aload_0 dX6_keeps_72 ?_
      refine m_get ha dX6_keeps_73 fa_X6_28 rfl ?_
      refine x_iload_3 dX6_keeps_76 ?_
      obtain ⟨e102, h⟩ := h
      refine m_iald (j := 2) ha dX6_keeps_77 (by decide) (by decide) e102 ?_
      obtain ⟨e103, h⟩ := h
      refine m_iast (j := 31) ha dX6_keeps_78 (by decide) (by decide) e103 ?_
      have h := h _ rfl
      refine x_iinc_3 (v := 1) dX6_keeps_79 (by decide) (by decide) xN2_i ?_
      have h := h _ rfl
      refine x_goto 54 dX6_keeps_82 (by decide) ?_
      exact x_le (xLe_cons (xLe_cons (xLe_cons (xLe_cons (xLe_nil))))) (hR _ _ h)
def w_keeps_52 (N : Nat × Nat) (x1 : Int32) (x2 : Int32) (Kr : mS → Prop) (s : mS) : Prop :=
  (w_keeps_54 N x1 x2 Kr (fun s101 => (vp_in ((x2 * (mFd s101 33)) + 25) 416 ∧ (∀ s103 : mS, s103 = mI s101 31 ((x2 * (mFd s101 33)) + 25) x1 → (∀ s104 : mS, s104 = mF s103 33 ((mFd s103 33) + 1) → (Kr s104))))) N.1 0 s)
theorem c_keeps_52 {G : xG} {l : Launch} {a : Nat → Nat} {g : xH} (ha : mInj a) {d : Nat} {N : Nat × Nat} (hd : 0 ≤ d) (x1 : Int32) (x2 : Int32) (Kr : mS → Prop) (s : mS) (h : w_keeps_52 N x1 x2 Kr s) : xF G l kX6_keeps (d + 1) 0 0 (mQv G a g Kr) 52 [some (.ref (a 51)), some (.int x1), some (.int x2), none] [] (mH G a s g) := by
  unfold w_keeps_52 at h
  refine x_iconst (v := 0) dX6_keeps_52 (by decide) ?_
  refine x_istore_3 dX6_keeps_53 (by decide) xN2_i ?_
  refine x_le (xLe_cons (xLe_cons (xLe_cons (xLe_cons (xLe_nil))))) (c_keeps_54 ha (by omega) _ _ _ _ _ _ _ h (fun s101 h => ?_))
  refine x_aload_0 dX6_keeps_85 ?_
  refine m_get ha dX6_keeps_86 fa_X6_66 rfl ?_
  refine x_iload_2 dX6_keeps_89 ?_
  refine x_aload_0 dX6_keeps_90 ?_
  refine m_get ha dX6_keeps_91 fa_X6_11 rfl ?_
  refine x_imul dX6_keeps_94 ?_
  refine x_bipush (v := 25) dX6_keeps_95 (by decide) ?_
  refine x_iadd dX6_keeps_97 ?_
  refine x_iload_1 dX6_keeps_98 ?_
  obtain ⟨e102, h⟩ := h
  refine m_iast (j := 31) ha dX6_keeps_99 (by decide) (by decide) e102 ?_
  have h := h _ rfl
  refine x_aload_0 dX6_keeps_100 ?_
  refine x_dup dX6_keeps_101 rfl ?_
  refine m_get ha dX6_keeps_102 fa_X6_11 rfl ?_
  refine x_iconst (v := 1) dX6_keeps_105 (by decide) ?_
  refine x_iadd dX6_keeps_106 ?_
  refine m_put ha dX6_keeps_107 fp_X6_11 (mfs_33 _ _ _) (by decide) rfl rfl ?_
  have h := h _ rfl
  exact x_vret dX6_keeps_110 rfl ⟨_, h, rfl, rfl⟩
def w_keeps_14 (N : Nat × Nat) (x1 : Int32) (x2 : Int32) (Kr : mS → Prop) (K : mS → Prop) : Nat → Int32 → mS → Prop
  | 0, _, _ => False
  | t + 1, x3, s => (((15 * x2) ≤ x3 → (K s)) ∧ (¬ (15 * x2) ≤ x3 → (vp_in (x3 + x2) 416 ∧ (vp_in x3 416 ∧ (∀ s104 : mS, s104 = mI s 31 x3 (mAt s 31 (x3 + x2)) → (∀ x105 : Int32, x105 = x3 + 1 → ((fun x3 s => w_keeps_14 N x1 x2 Kr K t x3 s) x105 s104)))))))
theorem c_keeps_14 {G : xG} {l : Launch} {a : Nat → Nat} {g : xH} (ha : mInj a) {d : Nat} {N : Nat × Nat} (hd : 0 ≤ d) (Kr : mS → Prop) (K : mS → Prop) (x1 : Int32) (x2 : Int32) : ∀ (t : Nat) (x3 : Int32) (s : mS) , w_keeps_14 N x1 x2 Kr K t x3 s → (∀ (s : mS), K s → xF G l kX6_keeps (d + 1) 0 0 (mQv G a g Kr) 42 [some (.ref (a 51)), some (.int x1), some (.int x2), none] [] (mH G a s g)) → xF G l kX6_keeps (d + 1) 0 0 (mQv G a g Kr) 14 [some (.ref (a 51)), some (.int x1), some (.int x2), some (.int x3)] [] (mH G a s g) := by
  intro t
  induction t with
  | zero =>
    intro _ _ h _
    exact absurd h (by simp [w_keeps_14])
  | succ t ih =>
    intro x3 s h hK
    have hR := fun x3 s h => ih x3 s h hK
    unfold w_keeps_14 at h
    refine x_iload_3 dX6_keeps_14 ?_
    refine x_bipush (v := 15) dX6_keeps_15 (by decide) ?_
    refine x_iload_2 dX6_keeps_17 ?_
    refine x_imul dX6_keeps_18 ?_
    refine x_icmp_ge 42 dX6_keeps_19 (by decide) (fun c101 => ?_) (fun c101 => ?_)
    · have h := h.1 c101
      exact x_le (xLe_cons (xLe_cons (xLe_cons (xLe_none (xLe_nil))))) (hK _ h)
    · have h := h.2 c101
      refine x_aload_0 dX6_keeps_22 ?_
      refine m_get ha dX6_keeps_23 fa_X6_66 rfl ?_
      refine x_iload_3 dX6_keeps_26 ?_
      refine x_aload_0 dX6_keeps_27 ?_
      refine m_get ha dX6_keeps_28 fa_X6_66 rfl ?_
      refine x_iload_3 dX6_keeps_31 ?_
      refine x_iload_2 dX6_keeps_32 ?_
      refine x_iadd dX6_keeps_33 ?_
      obtain ⟨e102, h⟩ := h
      refine m_iald (j := 31) ha dX6_keeps_34 (by decide) (by decide) e102 ?_
      obtain ⟨e103, h⟩ := h
      refine m_iast (j := 31) ha dX6_keeps_35 (by decide) (by decide) e103 ?_
      have h := h _ rfl
      refine x_iinc_3 (v := 1) dX6_keeps_36 (by decide) (by decide) xN2_i ?_
      have h := h _ rfl
      refine x_goto 14 dX6_keeps_39 (by decide) ?_
      exact x_le (xLe_cons (xLe_cons (xLe_cons (xLe_cons (xLe_nil))))) (hR _ _ h)
def w_keeps (N : Nat × Nat) (x1 : Int32) (s : mS) (Kr : mS → Prop) : Prop :=
  ((¬ (mFd s 33) = 16 → (w_keeps_52 N x1 26 Kr s)) ∧ ((mFd s 33) = 16 → (w_keeps_14 N x1 26 Kr (fun s102 => (∀ s103 : mS, s103 = mF s102 33 ((mFd s102 33) - 1) → (w_keeps_52 N x1 26 Kr s103))) N.1 0 s)))
theorem c_keeps {G : xG} {l : Launch} {a : Nat → Nat} {g : xH} (ha : mInj a) {d : Nat} {N : Nat × Nat} (hd : 1 ≤ d) {x1 : Int32} {s : mS} {Kr : mS → Prop} (h : w_keeps N x1 s Kr) : xC G l kX6_keeps d 0 0 [.ref (a 51), .int x1] (mH G a s g) (mQv G a g Kr) := by
  obtain ⟨d, rfl⟩ : ∃ z, d = z + 1 := ⟨d - 1, by omega⟩
  refine xC.start rfl (by decide +kernel) (Nat.le_of_ble_eq_true rfl) (lv := [some (.ref (a 51)), some (.int x1), none, none]) rfl ?_
  unfold w_keeps at h
  refine x_bipush (v := 26) dX6_keeps_0 (by decide) ?_
  refine x_istore_2 dX6_keeps_2 (by decide) xN2_i ?_
  refine x_aload_0 dX6_keeps_3 ?_
  refine m_get ha dX6_keeps_4 fa_X6_11 rfl ?_
  refine x_bipush (v := 16) dX6_keeps_7 (by decide) ?_
  refine x_icmp_ne 52 dX6_keeps_9 (by decide) (fun c101 => ?_) (fun c101 => ?_)
  · have h := h.1 c101
    exact x_le (xLe_cons (xLe_cons (xLe_cons (xLe_cons (xLe_nil))))) (c_keeps_52 ha (by omega) _ _ _ _ h)
  · have h := h.2 c101
    refine x_iconst (v := 0) dX6_keeps_12 (by decide) ?_
    refine x_istore_3 dX6_keeps_13 (by decide) xN2_i ?_
    refine x_le (xLe_cons (xLe_cons (xLe_cons (xLe_cons (xLe_nil))))) (c_keeps_14 ha (by omega) _ _ _ _ _ _ _ h (fun s102 h => ?_))
    refine x_aload_0 dX6_keeps_42 ?_
    refine x_dup dX6_keeps_43 rfl ?_
    refine m_get ha dX6_keeps_44 fa_X6_11 rfl ?_
    refine x_iconst (v := 1) dX6_keeps_47 (by decide) ?_
    refine x_isub dX6_keeps_48 ?_
    refine m_put ha dX6_keeps_49 fp_X6_11 (mfs_33 _ _ _) (by decide) rfl rfl ?_
    have h := h _ rfl
    exact x_le (xLe_cons (xLe_cons (xLe_cons (xLe_cons (xLe_nil))))) (c_keeps_52 ha (by omega) _ _ _ _ h)
def w_lays_15 (N : Nat × Nat) (x1 : Int32) (Kr : mS → Prop) (K : mS → Prop) : Nat → Int32 → mS → Prop
  | 0, _, _ => False
  | t + 1, x2, s => (((mFd s 18) ≤ x2 → (K s)) ∧ (¬ (mFd s 18) ≤ x2 → (vp_in x2 401 ∧ (vp_in ((52 + (400 * x1)) + x2) 5652 ∧ (∀ s104 : mS, s104 = mI s 2 ((52 + (400 * x1)) + x2) (mAt s 15 x2) → (vp_in x2 401 ∧ (vp_in ((2852 + (400 * x1)) + x2) 5652 ∧ (∀ s107 : mS, s107 = mI s104 2 ((2852 + (400 * x1)) + x2) (mAt s104 16 x2) → (∀ x108 : Int32, x108 = x2 + 1 → ((fun x2 s => w_lays_15 N x1 Kr K t x2 s) x108 s107))))))))))
theorem c_lays_15 {G : xG} {l : Launch} {a : Nat → Nat} {g : xH} (ha : mInj a) {d : Nat} {N : Nat × Nat} (hd : 0 ≤ d) (Kr : mS → Prop) (K : mS → Prop) (x1 : Int32) : ∀ (t : Nat) (x2 : Int32) (s : mS) , w_lays_15 N x1 Kr K t x2 s → (∀ (s : mS), K s → xF G l kX6_lays (d + 1) 0 0 (mQv G a g Kr) 72 [some (.ref (a 51)), none, none] [] (mH G a s g)) → xF G l kX6_lays (d + 1) 0 0 (mQv G a g Kr) 15 [some (.ref (a 51)), some (.int x1), some (.int x2)] [] (mH G a s g) := by
  intro t
  induction t with
  | zero =>
    intro _ _ h _
    exact absurd h (by simp [w_lays_15])
  | succ t ih =>
    intro x2 s h hK
    have hR := fun x2 s h => ih x2 s h hK
    unfold w_lays_15 at h
    refine x_iload_2 dX6_lays_15 ?_
    refine x_aload_0 dX6_lays_16 ?_
    refine m_get ha dX6_lays_17 fa_X6_160 rfl ?_
    refine x_icmp_ge 72 dX6_lays_20 (by decide) (fun c101 => ?_) (fun c101 => ?_)
    · have h := h.1 c101
      exact x_le (xLe_cons (xLe_none (xLe_none (xLe_nil)))) (hK _ h)
    · have h := h.2 c101
      refine x_aload_0 dX6_lays_23 ?_
      refine m_get ha dX6_lays_24 fa_X6_28 rfl ?_
      refine x_bipush (v := 52) dX6_lays_27 (by decide) ?_
      refine x_sipush (v := 400) dX6_lays_29 (by decide) ?_
      refine x_iload_1 dX6_lays_32 ?_
      refine x_imul dX6_lays_33 ?_
      refine x_iadd dX6_lays_34 ?_
      refine x_iload_2 dX6_lays_35 ?_
      refine x_iadd dX6_lays_36 ?_
      refine x_aload_0 dX6_lays_37 ?_
      refine m_get ha dX6_lays_38 fa_X6_54 rfl ?_
      refine x_iload_2 dX6_lays_41 ?_
      obtain ⟨e102, h⟩ := h
      refine m_iald (j := 15) ha dX6_lays_42 (by decide) (by decide) e102 ?_
      obtain ⟨e103, h⟩ := h
      refine m_iast (j := 2) ha dX6_lays_43 (by decide) (by decide) e103 ?_
      have h := h _ rfl
      refine x_aload_0 dX6_lays_44 ?_
      refine m_get ha dX6_lays_45 fa_X6_28 rfl ?_
      refine x_sipush (v := 2852) dX6_lays_48 (by decide) ?_
      refine x_sipush (v := 400) dX6_lays_51 (by decide) ?_
      refine x_iload_1 dX6_lays_54 ?_
      refine x_imul dX6_lays_55 ?_
      refine x_iadd dX6_lays_56 ?_
      refine x_iload_2 dX6_lays_57 ?_
      refine x_iadd dX6_lays_58 ?_
      refine x_aload_0 dX6_lays_59 ?_
      refine m_get ha dX6_lays_60 fa_X6_57 rfl ?_
      refine x_iload_2 dX6_lays_63 ?_
      obtain ⟨e105, h⟩ := h
      refine m_iald (j := 16) ha dX6_lays_64 (by decide) (by decide) e105 ?_
      obtain ⟨e106, h⟩ := h
      refine m_iast (j := 2) ha dX6_lays_65 (by decide) (by decide) e106 ?_
      have h := h _ rfl
      refine x_iinc_2 (v := 1) dX6_lays_66 (by decide) (by decide) xN2_i ?_
      have h := h _ rfl
      refine x_goto 15 dX6_lays_69 (by decide) ?_
      exact x_le (xLe_cons (xLe_cons (xLe_cons (xLe_nil)))) (hR _ _ h)
def w_lays (N : Nat × Nat) (x1 : Int32) (s : mS) (Kr : mS → Prop) : Prop :=
  (vp_in (45 + x1) 5652 ∧ (∀ s102 : mS, s102 = mI s 2 (45 + x1) (mFd s 18) → (w_lays_15 N x1 Kr (fun s103 => (Kr s103)) N.1 0 s102)))
theorem c_lays {G : xG} {l : Launch} {a : Nat → Nat} {g : xH} (ha : mInj a) {d : Nat} {N : Nat × Nat} (hd : 1 ≤ d) {x1 : Int32} {s : mS} {Kr : mS → Prop} (h : w_lays N x1 s Kr) : xC G l kX6_lays d 0 0 [.ref (a 51), .int x1] (mH G a s g) (mQv G a g Kr) := by
  obtain ⟨d, rfl⟩ : ∃ z, d = z + 1 := ⟨d - 1, by omega⟩
  refine xC.start rfl (by decide +kernel) (Nat.le_of_ble_eq_true rfl) (lv := [some (.ref (a 51)), some (.int x1), none]) rfl ?_
  unfold w_lays at h
  refine x_aload_0 dX6_lays_0 ?_
  refine m_get ha dX6_lays_1 fa_X6_28 rfl ?_
  refine x_bipush (v := 45) dX6_lays_4 (by decide) ?_
  refine x_iload_1 dX6_lays_6 ?_
  refine x_iadd dX6_lays_7 ?_
  refine x_aload_0 dX6_lays_8 ?_
  refine m_get ha dX6_lays_9 fa_X6_160 rfl ?_
  obtain ⟨e101, h⟩ := h
  refine m_iast (j := 2) ha dX6_lays_12 (by decide) (by decide) e101 ?_
  have h := h _ rfl
  refine x_iconst (v := 0) dX6_lays_13 (by decide) ?_
  refine x_istore_2 dX6_lays_14 (by decide) xN2_i ?_
  refine x_le (xLe_cons (xLe_cons (xLe_cons (xLe_nil)))) (c_lays_15 ha (by omega) _ _ _ _ _ _ h (fun s103 h => ?_))
  exact x_vret dX6_lays_72 rfl ⟨_, h, rfl, rfl⟩
def w_takes0_25 (y0 : Int32) (Kr : Int32 → mS → Prop) (s : mS) : Prop :=
  ((y0 = 0 → (xB y0 ∧ (Kr y0 s))) ∧ (¬ y0 = 0 → (∀ s103 : mS, s103 = mF s 19 ((mFd s 19) + 1) → (xB y0 ∧ (Kr y0 s103)))))
theorem c_takes0_25 {G : xG} {l : Launch} {a : Nat → Nat} {g : xH} (ha : mInj a) {d : Nat} (hd : 1 ≤ d) (y0 : Int32) (Kr : Int32 → mS → Prop) (s : mS) (h : w_takes0_25 y0 Kr s) : xF G l kX6_takes0 (d + 1) 0 0 (mQi G a g Kr) 25 [some (.ref (a 51)), none, none] [.int y0] (mH G a s g) := by
  unfold w_takes0_25 at h
  refine x_istore_2 dX6_takes0_25 (by decide) xN2_none ?_
  refine x_iload_2 dX6_takes0_26 ?_
  refine x_if_eq 40 dX6_takes0_27 (by decide) (fun c101 => ?_) (fun c101 => ?_)
  · have h := h.1 c101
    refine x_iload_2 dX6_takes0_40 ?_
    obtain ⟨e102, h⟩ := h
    exact x_zret dX6_takes0_41 rfl (xB_n e102) ⟨_, _, h, rfl, rfl⟩
  · have h := h.2 c101
    refine x_aload_0 dX6_takes0_30 ?_
    refine x_dup dX6_takes0_31 rfl ?_
    refine m_get ha dX6_takes0_32 fa_X6_180 rfl ?_
    refine x_iconst (v := 1) dX6_takes0_35 (by decide) ?_
    refine x_iadd dX6_takes0_36 ?_
    refine m_put ha dX6_takes0_37 fp_X6_180 (mfs_19 _ _ _) (by decide) rfl rfl ?_
    have h := h _ rfl
    refine x_iload_2 dX6_takes0_40 ?_
    obtain ⟨e104, h⟩ := h
    exact x_zret dX6_takes0_41 rfl (xB_n e104) ⟨_, _, h, rfl, rfl⟩
def w_takes0_24 (Kr : Int32 → mS → Prop) (s : mS) : Prop :=
  (w_takes0_25 0 Kr s)
theorem c_takes0_24 {G : xG} {l : Launch} {a : Nat → Nat} {g : xH} (ha : mInj a) {d : Nat} (hd : 1 ≤ d) (Kr : Int32 → mS → Prop) (s : mS) (h : w_takes0_24 Kr s) : xF G l kX6_takes0 (d + 1) 0 0 (mQi G a g Kr) 24 [some (.ref (a 51)), none, none] [] (mH G a s g) := by
  unfold w_takes0_24 at h
  refine x_iconst (v := 0) dX6_takes0_24 (by decide) ?_
  exact x_le (xLe_cons (xLe_cons (xLe_cons (xLe_nil)))) (c_takes0_25 ha (by omega) _ _ _ h)
def w_takes0 (x1 : Int32) (s : mS) (Kr : Int32 → mS → Prop) : Prop :=
  (w_fine s (fun x101 s102 => ((x101 = 0 → (w_takes0_24 Kr s102)) ∧ (¬ x101 = 0 → (vp_in (mFd s102 19) 401 ∧ ((¬ (mAt s102 15 (mFd s102 19)) = x1 → (w_takes0_24 Kr s102)) ∧ ((mAt s102 15 (mFd s102 19)) = x1 → (w_takes0_25 1 Kr s102))))))))
theorem c_takes0 {G : xG} {l : Launch} {a : Nat → Nat} {g : xH} (ha : mInj a) {d : Nat} (hd : 2 ≤ d) {x1 : Int32} {s : mS} {Kr : Int32 → mS → Prop} (h : w_takes0 x1 s Kr) : xC G l kX6_takes0 d 0 0 [.ref (a 51), .int x1] (mH G a s g) (mQi G a g Kr) := by
  obtain ⟨d, rfl⟩ : ∃ z, d = z + 1 := ⟨d - 1, by omega⟩
  refine xC.start rfl (by decide +kernel) (Nat.le_of_ble_eq_true rfl) (lv := [some (.ref (a 51)), some (.int x1), none]) rfl ?_
  unfold w_takes0 at h
  refine x_aload_0 dX6_takes0_0 ?_
  refine m_cVi0 ha rfl cv_X6_177 (Nat.le_of_ble_eq_true rfl) dX6_takes0_1 (c_fine ha (by omega) h) (fun x101 s102 h => ?_)
  refine x_if_eq 24 dX6_takes0_4 (by decide) (fun c103 => ?_) (fun c103 => ?_)
  · have h := h.1 c103
    exact x_le (xLe_cons (xLe_none (xLe_cons (xLe_nil)))) (c_takes0_24 ha (by omega) _ _ h)
  · have h := h.2 c103
    refine x_aload_0 dX6_takes0_7 ?_
    refine m_get ha dX6_takes0_8 fa_X6_54 rfl ?_
    refine x_aload_0 dX6_takes0_11 ?_
    refine m_get ha dX6_takes0_12 fa_X6_180 rfl ?_
    obtain ⟨e104, h⟩ := h
    refine m_iald (j := 15) ha dX6_takes0_15 (by decide) (by decide) e104 ?_
    refine x_iload_1 dX6_takes0_16 ?_
    refine x_icmp_ne 24 dX6_takes0_17 (by decide) (fun c105 => ?_) (fun c105 => ?_)
    · have h := h.1 c105
      exact x_le (xLe_cons (xLe_none (xLe_cons (xLe_nil)))) (c_takes0_24 ha (by omega) _ _ h)
    · have h := h.2 c105
      refine x_iconst (v := 1) dX6_takes0_20 (by decide) ?_
      refine x_goto 25 dX6_takes0_21 (by decide) ?_
      exact x_le (xLe_cons (xLe_none (xLe_cons (xLe_nil)))) (c_takes0_25 ha (by omega) _ _ _ h)
def w_must (x1 : Int32) (s : mS) (Kr : mS → Prop) : Prop :=
  (w_takes0 x1 s (fun x101 s102 => ((¬ x101 = 0 → (Kr s102)) ∧ (x101 = 0 → (w_faults s102 (fun s105 => (Kr s105)))))))
theorem c_must {G : xG} {l : Launch} {a : Nat → Nat} {g : xH} (ha : mInj a) {d : Nat} (hd : 3 ≤ d) {x1 : Int32} {s : mS} {Kr : mS → Prop} (h : w_must x1 s Kr) : xC G l kX6_must d 0 0 [.ref (a 51), .int x1] (mH G a s g) (mQv G a g Kr) := by
  obtain ⟨d, rfl⟩ : ∃ z, d = z + 1 := ⟨d - 1, by omega⟩
  refine xC.start rfl (by decide +kernel) (Nat.le_of_ble_eq_true rfl) (lv := [some (.ref (a 51)), some (.int x1)]) rfl ?_
  unfold w_must at h
  refine x_aload_0 dX6_must_0 ?_
  refine x_iload_1 dX6_must_1 ?_
  refine m_cVi1 ha rfl cv_X6_183 (Nat.le_of_ble_eq_true rfl) dX6_must_2 (c_takes0 ha (by omega) h) (fun x101 s102 h => ?_)
  refine x_if_ne 12 dX6_must_5 (by decide) (fun c103 => ?_) (fun c103 => ?_)
  · have h := h.1 c103
    exact x_vret dX6_must_12 rfl ⟨_, h, rfl, rfl⟩
  · have h := h.2 c103
    refine x_aload_0 dX6_must_8 ?_
    refine m_cVv0 ha rfl cv_X6_186 (Nat.le_of_ble_eq_true rfl) dX6_must_9 (c_faults ha (by omega) h) (fun s105 h => ?_)
    exact x_vret dX6_must_12 rfl ⟨_, h, rfl, rfl⟩
def w_leaf_13 (Kr : mS → Prop) (s : mS) : Prop :=
  (∀ s101 : mS, s101 = mF s 20 ((mFd s 20) + 1) → (w_fine s101 (fun x102 s103 => ((x102 = 0 → (Kr s103)) ∧ (¬ x102 = 0 → (∀ s105 : mS, s105 = mF s103 19 ((mFd s103 19) + 1) → (Kr s105)))))))
theorem c_leaf_13 {G : xG} {l : Launch} {a : Nat → Nat} {g : xH} (ha : mInj a) {d : Nat} (hd : 2 ≤ d) (Kr : mS → Prop) (s : mS) (h : w_leaf_13 Kr s) : xF G l kX6_leaf (d + 1) 0 0 (mQv G a g Kr) 13 [some (.ref (a 51))] [] (mH G a s g) := by
  unfold w_leaf_13 at h
  refine x_aload_0 dX6_leaf_13 ?_
  refine x_dup dX6_leaf_14 rfl ?_
  refine m_get ha dX6_leaf_15 fa_X6_189 rfl ?_
  refine x_iconst (v := 1) dX6_leaf_18 (by decide) ?_
  refine x_iadd dX6_leaf_19 ?_
  refine m_put ha dX6_leaf_20 fp_X6_189 (mfs_20 _ _ _) (by decide) rfl rfl ?_
  have h := h _ rfl
  refine x_aload_0 dX6_leaf_23 ?_
  refine m_cVi0 ha rfl cv_X6_177 (Nat.le_of_ble_eq_true rfl) dX6_leaf_24 (c_fine ha (by omega) h) (fun x102 s103 h => ?_)
  refine x_if_eq 40 dX6_leaf_27 (by decide) (fun c104 => ?_) (fun c104 => ?_)
  · have h := h.1 c104
    exact x_vret dX6_leaf_40 rfl ⟨_, h, rfl, rfl⟩
  · have h := h.2 c104
    refine x_aload_0 dX6_leaf_30 ?_
    refine x_dup dX6_leaf_31 rfl ?_
    refine m_get ha dX6_leaf_32 fa_X6_180 rfl ?_
    refine x_iconst (v := 1) dX6_leaf_35 (by decide) ?_
    refine x_iadd dX6_leaf_36 ?_
    refine m_put ha dX6_leaf_37 fp_X6_180 (mfs_19 _ _ _) (by decide) rfl rfl ?_
    have h := h _ rfl
    exact x_vret dX6_leaf_40 rfl ⟨_, h, rfl, rfl⟩
def w_leaf (s : mS) (Kr : mS → Prop) : Prop :=
  ((¬ (mFd s 20) = 50 → (w_leaf_13 Kr s)) ∧ ((mFd s 20) = 50 → (w_faults s (fun s103 => (w_leaf_13 Kr s103)))))
theorem c_leaf {G : xG} {l : Launch} {a : Nat → Nat} {g : xH} (ha : mInj a) {d : Nat} (hd : 3 ≤ d) {s : mS} {Kr : mS → Prop} (h : w_leaf s Kr) : xC G l kX6_leaf d 0 0 [.ref (a 51)] (mH G a s g) (mQv G a g Kr) := by
  obtain ⟨d, rfl⟩ : ∃ z, d = z + 1 := ⟨d - 1, by omega⟩
  refine xC.start rfl (by decide +kernel) (Nat.le_of_ble_eq_true rfl) (lv := [some (.ref (a 51))]) rfl ?_
  unfold w_leaf at h
  refine x_aload_0 dX6_leaf_0 ?_
  refine m_get ha dX6_leaf_1 fa_X6_189 rfl ?_
  refine x_bipush (v := 50) dX6_leaf_4 (by decide) ?_
  refine x_icmp_ne 13 dX6_leaf_6 (by decide) (fun c101 => ?_) (fun c101 => ?_)
  · have h := h.1 c101
    exact x_le (xLe_cons (xLe_nil)) (c_leaf_13 ha (by omega) _ _ h)
  · have h := h.2 c101
    refine x_aload_0 dX6_leaf_9 ?_
    refine m_cVv0 ha rfl cv_X6_186 (Nat.le_of_ble_eq_true rfl) dX6_leaf_10 (c_faults ha (by omega) h) (fun s103 h => ?_)
    exact x_le (xLe_cons (xLe_nil)) (c_leaf_13 ha (by omega) _ _ h)
def w_mustNumber_42 (Kr : mS → Prop) (s : mS) : Prop :=
  (w_fine s (fun x101 s102 => ((x101 = 0 → (Kr s102)) ∧ (¬ x101 = 0 → (∀ s104 : mS, s104 = mF s102 19 ((mFd s102 19) + 1) → (Kr s104))))))
theorem c_mustNumber_42 {G : xG} {l : Launch} {a : Nat → Nat} {g : xH} (ha : mInj a) {d : Nat} (hd : 2 ≤ d) (Kr : mS → Prop) (s : mS) (h : w_mustNumber_42 Kr s) : xF G l kX6_mustNumber (d + 1) 0 0 (mQv G a g Kr) 42 [some (.ref (a 51)), none, none] [] (mH G a s g) := by
  unfold w_mustNumber_42 at h
  refine x_aload_0 dX6_mustNumber_42 ?_
  refine m_cVi0 ha rfl cv_X6_177 (Nat.le_of_ble_eq_true rfl) dX6_mustNumber_43 (c_fine ha (by omega) h) (fun x101 s102 h => ?_)
  refine x_if_eq 59 dX6_mustNumber_46 (by decide) (fun c103 => ?_) (fun c103 => ?_)
  · have h := h.1 c103
    exact x_vret dX6_mustNumber_59 rfl ⟨_, h, rfl, rfl⟩
  · have h := h.2 c103
    refine x_aload_0 dX6_mustNumber_49 ?_
    refine x_dup dX6_mustNumber_50 rfl ?_
    refine m_get ha dX6_mustNumber_51 fa_X6_180 rfl ?_
    refine x_iconst (v := 1) dX6_mustNumber_54 (by decide) ?_
    refine x_iadd dX6_mustNumber_55 ?_
    refine m_put ha dX6_mustNumber_56 fp_X6_180 (mfs_19 _ _ _) (by decide) rfl rfl ?_
    have h := h _ rfl
    exact x_vret dX6_mustNumber_59 rfl ⟨_, h, rfl, rfl⟩
def w_mustNumber_38 (Kr : mS → Prop) (s : mS) : Prop :=
  (w_faults s (fun s102 => (w_mustNumber_42 Kr s102)))
theorem c_mustNumber_38 {G : xG} {l : Launch} {a : Nat → Nat} {g : xH} (ha : mInj a) {d : Nat} (hd : 2 ≤ d) (Kr : mS → Prop) (s : mS) (h : w_mustNumber_38 Kr s) : xF G l kX6_mustNumber (d + 1) 0 0 (mQv G a g Kr) 38 [some (.ref (a 51)), none, none] [] (mH G a s g) := by
  unfold w_mustNumber_38 at h
  refine x_aload_0 dX6_mustNumber_38 ?_
  refine m_cVv0 ha rfl cv_X6_186 (Nat.le_of_ble_eq_true rfl) dX6_mustNumber_39 (c_faults ha (by omega) h) (fun s102 h => ?_)
  exact x_le (xLe_cons (xLe_cons (xLe_cons (xLe_nil)))) (c_mustNumber_42 ha (by omega) _ _ h)
def w_mustNumber (x1 : Int32) (x2 : Int32) (s : mS) (Kr : mS → Prop) : Prop :=
  (w_fine s (fun x101 s102 => ((x101 = 0 → (w_mustNumber_42 Kr s102)) ∧ (¬ x101 = 0 → (vp_in (mFd s102 19) 401 ∧ ((¬ (mAt s102 15 (mFd s102 19)) = 50 → (w_mustNumber_38 Kr s102)) ∧ ((mAt s102 15 (mFd s102 19)) = 50 → (vp_in (mFd s102 19) 401 ∧ (w_lies (mAt s102 16 (mFd s102 19)) x1 x2 (fun x107 => ((¬ x107 = 0 → (w_mustNumber_42 Kr s102)) ∧ (x107 = 0 → (w_mustNumber_38 Kr s102)))))))))))))
theorem c_mustNumber {G : xG} {l : Launch} {a : Nat → Nat} {g : xH} (ha : mInj a) {d : Nat} (hd : 3 ≤ d) {x1 : Int32} {x2 : Int32} {s : mS} {Kr : mS → Prop} (h : w_mustNumber x1 x2 s Kr) : xC G l kX6_mustNumber d 0 0 [.ref (a 51), .int x1, .int x2] (mH G a s g) (mQv G a g Kr) := by
  obtain ⟨d, rfl⟩ : ∃ z, d = z + 1 := ⟨d - 1, by omega⟩
  refine xC.start rfl (by decide +kernel) (Nat.le_of_ble_eq_true rfl) (lv := [some (.ref (a 51)), some (.int x1), some (.int x2)]) rfl ?_
  unfold w_mustNumber at h
  refine x_aload_0 dX6_mustNumber_0 ?_
  refine m_cVi0 ha rfl cv_X6_177 (Nat.le_of_ble_eq_true rfl) dX6_mustNumber_1 (c_fine ha (by omega) h) (fun x101 s102 h => ?_)
  refine x_if_eq 42 dX6_mustNumber_4 (by decide) (fun c103 => ?_) (fun c103 => ?_)
  · have h := h.1 c103
    exact x_le (xLe_cons (xLe_none (xLe_none (xLe_nil)))) (c_mustNumber_42 ha (by omega) _ _ h)
  · have h := h.2 c103
    refine x_aload_0 dX6_mustNumber_7 ?_
    refine m_get ha dX6_mustNumber_8 fa_X6_54 rfl ?_
    refine x_aload_0 dX6_mustNumber_11 ?_
    refine m_get ha dX6_mustNumber_12 fa_X6_180 rfl ?_
    obtain ⟨e104, h⟩ := h
    refine m_iald (j := 15) ha dX6_mustNumber_15 (by decide) (by decide) e104 ?_
    refine x_bipush (v := 50) dX6_mustNumber_16 (by decide) ?_
    refine x_icmp_ne 38 dX6_mustNumber_18 (by decide) (fun c105 => ?_) (fun c105 => ?_)
    · have h := h.1 c105
      exact x_le (xLe_cons (xLe_none (xLe_none (xLe_nil)))) (c_mustNumber_38 ha (by omega) _ _ h)
    · have h := h.2 c105
      refine x_aload_0 dX6_mustNumber_21 ?_
      refine m_get ha dX6_mustNumber_22 fa_X6_57 rfl ?_
      refine x_aload_0 dX6_mustNumber_25 ?_
      refine m_get ha dX6_mustNumber_26 fa_X6_180 rfl ?_
      obtain ⟨e106, h⟩ := h
      refine m_iald (j := 16) ha dX6_mustNumber_29 (by decide) (by decide) e106 ?_
      refine x_iload_1 dX6_mustNumber_30 ?_
      refine x_iload_2 dX6_mustNumber_31 ?_
      refine m_cSi3 rfl cs_X6_18 (Nat.le_of_ble_eq_true rfl) dX6_mustNumber_32 (c_lies (by omega) h) (fun x107 h => ?_)
      refine x_if_ne 42 dX6_mustNumber_35 (by decide) (fun c109 => ?_) (fun c109 => ?_)
      · have h := h.1 c109
        exact x_le (xLe_cons (xLe_none (xLe_none (xLe_nil)))) (c_mustNumber_42 ha (by omega) _ _ h)
      · have h := h.2 c109
        exact x_le (xLe_cons (xLe_none (xLe_none (xLe_nil)))) (c_mustNumber_38 ha (by omega) _ _ h)
def w_readTest_5 (N : Nat × Nat) (rc : Nat → Int32 → mS → (mS → Prop) → Prop) (x1 : Int32) (Kr : mS → Prop) (K : mS → Prop) : Nat → mS → Prop
  | 0, _ => False
  | t + 1, s => (w_takes0 5 s (fun x101 s102 => ((x101 = 0 → (K s102)) ∧ (¬ x101 = 0 → (rc 1 x1 s102 (fun s105 => ((fun s => w_readTest_5 N rc x1 Kr K t s) s105)))))))
theorem c_readTest_5 {G : xG} {l : Launch} {a : Nat → Nat} {g : xH} (ha : mInj a) {d : Nat} {N : Nat × Nat} (hd : 3 ≤ d) {rc : Nat → Int32 → mS → (mS → Prop) → Prop} (ih0 : ∀ (x : Int32) (s : mS) (K : mS → Prop), rc 0 x s K → xC G l kX6_readTest d 0 0 [.ref (a 51), .int x] (mH G a s g) (mQv G a g K)) (ih1 : ∀ (x : Int32) (s : mS) (K : mS → Prop), rc 1 x s K → xC G l kX6_readBoth d 0 0 [.ref (a 51), .int x] (mH G a s g) (mQv G a g K)) (ih2 : ∀ (x : Int32) (s : mS) (K : mS → Prop), rc 2 x s K → xC G l kX6_readPlain d 0 0 [.ref (a 51), .int x] (mH G a s g) (mQv G a g K)) (ih3 : ∀ (x : Int32) (s : mS) (K : mS → Prop), rc 3 x s K → xC G l kX6_readSum d 0 0 [.ref (a 51), .int x] (mH G a s g) (mQv G a g K)) (ih4 : ∀ (x : Int32) (s : mS) (K : mS → Prop), rc 4 x s K → xC G l kX6_readTerm d 0 0 [.ref (a 51), .int x] (mH G a s g) (mQv G a g K)) (ih5 : ∀ (x : Int32) (s : mS) (K : mS → Prop), rc 5 x s K → xC G l kX6_readPart d 0 0 [.ref (a 51), .int x] (mH G a s g) (mQv G a g K)) (Kr : mS → Prop) (K : mS → Prop) (x1 : Int32) : ∀ (t : Nat) (s : mS) , w_readTest_5 N rc x1 Kr K t s → (∀ (s : mS), K s → xF G l kX6_readTest (d + 1) 0 0 (mQv G a g Kr) 21 [some (.ref (a 51)), none] [] (mH G a s g)) → xF G l kX6_readTest (d + 1) 0 0 (mQv G a g Kr) 5 [some (.ref (a 51)), some (.int x1)] [] (mH G a s g) := by
  intro t
  induction t with
  | zero =>
    intro _ h _
    exact absurd h (by simp [w_readTest_5])
  | succ t ih =>
    intro s h hK
    have hR := fun s h => ih s h hK
    unfold w_readTest_5 at h
    refine x_aload_0 dX6_readTest_5 ?_
    refine x_iconst (v := 5) dX6_readTest_6 (by decide) ?_
    refine m_cVi1 ha rfl cv_X6_183 (Nat.le_of_ble_eq_true rfl) dX6_readTest_7 (c_takes0 ha (by omega) h) (fun x101 s102 h => ?_)
    refine x_if_eq 21 dX6_readTest_10 (by decide) (fun c103 => ?_) (fun c103 => ?_)
    · have h := h.1 c103
      exact x_le (xLe_cons (xLe_none (xLe_nil))) (hK _ h)
    · have h := h.2 c103
      refine x_aload_0 dX6_readTest_13 ?_
      refine x_iload_1 dX6_readTest_14 ?_
      refine m_cVv1 ha rfl cv_X6_214 (Nat.le_of_ble_eq_true rfl) dX6_readTest_15 (ih1 _ _ _ h) (fun s105 h => ?_)
      refine x_goto 5 dX6_readTest_18 (by decide) ?_
      exact x_le (xLe_cons (xLe_cons (xLe_nil))) (hR _ h)
def w_readTest (N : Nat × Nat) (rc : Nat → Int32 → mS → (mS → Prop) → Prop) (x1 : Int32) (s : mS) (Kr : mS → Prop) : Prop :=
  (rc 1 x1 s (fun s102 => (w_readTest_5 N rc x1 Kr (fun s103 => (Kr s103)) N.1 s102)))
theorem cb_readTest {G : xG} {l : Launch} {a : Nat → Nat} {g : xH} (ha : mInj a) {d : Nat} {N : Nat × Nat} (hd : 3 ≤ d) {rc : Nat → Int32 → mS → (mS → Prop) → Prop} (ih0 : ∀ (x : Int32) (s : mS) (K : mS → Prop), rc 0 x s K → xC G l kX6_readTest d 0 0 [.ref (a 51), .int x] (mH G a s g) (mQv G a g K)) (ih1 : ∀ (x : Int32) (s : mS) (K : mS → Prop), rc 1 x s K → xC G l kX6_readBoth d 0 0 [.ref (a 51), .int x] (mH G a s g) (mQv G a g K)) (ih2 : ∀ (x : Int32) (s : mS) (K : mS → Prop), rc 2 x s K → xC G l kX6_readPlain d 0 0 [.ref (a 51), .int x] (mH G a s g) (mQv G a g K)) (ih3 : ∀ (x : Int32) (s : mS) (K : mS → Prop), rc 3 x s K → xC G l kX6_readSum d 0 0 [.ref (a 51), .int x] (mH G a s g) (mQv G a g K)) (ih4 : ∀ (x : Int32) (s : mS) (K : mS → Prop), rc 4 x s K → xC G l kX6_readTerm d 0 0 [.ref (a 51), .int x] (mH G a s g) (mQv G a g K)) (ih5 : ∀ (x : Int32) (s : mS) (K : mS → Prop), rc 5 x s K → xC G l kX6_readPart d 0 0 [.ref (a 51), .int x] (mH G a s g) (mQv G a g K)) {x1 : Int32} {s : mS} {Kr : mS → Prop} (h : w_readTest N rc x1 s Kr) : xC G l kX6_readTest (d + 1) 0 0 [.ref (a 51), .int x1] (mH G a s g) (mQv G a g Kr) := by
  refine xC.start rfl (by decide +kernel) (Nat.le_of_ble_eq_true rfl) (lv := [some (.ref (a 51)), some (.int x1)]) rfl ?_
  unfold w_readTest at h
  refine x_aload_0 dX6_readTest_0 ?_
  refine x_iload_1 dX6_readTest_1 ?_
  refine m_cVv1 ha rfl cv_X6_214 (Nat.le_of_ble_eq_true rfl) dX6_readTest_2 (ih1 _ _ _ h) (fun s102 h => ?_)
  refine x_le (xLe_cons (xLe_cons (xLe_nil))) (c_readTest_5 ha (by omega) ih0 ih1 ih2 ih3 ih4 ih5 _ _ _ _ _ h (fun s103 h => ?_))
  exact x_vret dX6_readTest_21 rfl ⟨_, h, rfl, rfl⟩
def w_readBoth_5 (N : Nat × Nat) (rc : Nat → Int32 → mS → (mS → Prop) → Prop) (x1 : Int32) (Kr : mS → Prop) (K : mS → Prop) : Nat → mS → Prop
  | 0, _ => False
  | t + 1, s => (w_takes0 6 s (fun x101 s102 => ((x101 = 0 → (K s102)) ∧ (¬ x101 = 0 → (rc 2 x1 s102 (fun s105 => ((fun s => w_readBoth_5 N rc x1 Kr K t s) s105)))))))
theorem c_readBoth_5 {G : xG} {l : Launch} {a : Nat → Nat} {g : xH} (ha : mInj a) {d : Nat} {N : Nat × Nat} (hd : 3 ≤ d) {rc : Nat → Int32 → mS → (mS → Prop) → Prop} (ih0 : ∀ (x : Int32) (s : mS) (K : mS → Prop), rc 0 x s K → xC G l kX6_readTest d 0 0 [.ref (a 51), .int x] (mH G a s g) (mQv G a g K)) (ih1 : ∀ (x : Int32) (s : mS) (K : mS → Prop), rc 1 x s K → xC G l kX6_readBoth d 0 0 [.ref (a 51), .int x] (mH G a s g) (mQv G a g K)) (ih2 : ∀ (x : Int32) (s : mS) (K : mS → Prop), rc 2 x s K → xC G l kX6_readPlain d 0 0 [.ref (a 51), .int x] (mH G a s g) (mQv G a g K)) (ih3 : ∀ (x : Int32) (s : mS) (K : mS → Prop), rc 3 x s K → xC G l kX6_readSum d 0 0 [.ref (a 51), .int x] (mH G a s g) (mQv G a g K)) (ih4 : ∀ (x : Int32) (s : mS) (K : mS → Prop), rc 4 x s K → xC G l kX6_readTerm d 0 0 [.ref (a 51), .int x] (mH G a s g) (mQv G a g K)) (ih5 : ∀ (x : Int32) (s : mS) (K : mS → Prop), rc 5 x s K → xC G l kX6_readPart d 0 0 [.ref (a 51), .int x] (mH G a s g) (mQv G a g K)) (Kr : mS → Prop) (K : mS → Prop) (x1 : Int32) : ∀ (t : Nat) (s : mS) , w_readBoth_5 N rc x1 Kr K t s → (∀ (s : mS), K s → xF G l kX6_readBoth (d + 1) 0 0 (mQv G a g Kr) 22 [some (.ref (a 51)), none] [] (mH G a s g)) → xF G l kX6_readBoth (d + 1) 0 0 (mQv G a g Kr) 5 [some (.ref (a 51)), some (.int x1)] [] (mH G a s g) := by
  intro t
  induction t with
  | zero =>
    intro _ h _
    exact absurd h (by simp [w_readBoth_5])
  | succ t ih =>
    intro s h hK
    have hR := fun s h => ih s h hK
    unfold w_readBoth_5 at h
    refine x_aload_0 dX6_readBoth_5 ?_
    refine x_bipush (v := 6) dX6_readBoth_6 (by decide) ?_
    refine m_cVi1 ha rfl cv_X6_183 (Nat.le_of_ble_eq_true rfl) dX6_readBoth_8 (c_takes0 ha (by omega) h) (fun x101 s102 h => ?_)
    refine x_if_eq 22 dX6_readBoth_11 (by decide) (fun c103 => ?_) (fun c103 => ?_)
    · have h := h.1 c103
      exact x_le (xLe_cons (xLe_none (xLe_nil))) (hK _ h)
    · have h := h.2 c103
      refine x_aload_0 dX6_readBoth_14 ?_
      refine x_iload_1 dX6_readBoth_15 ?_
      refine m_cVv1 ha rfl cv_X6_217 (Nat.le_of_ble_eq_true rfl) dX6_readBoth_16 (ih2 _ _ _ h) (fun s105 h => ?_)
      refine x_goto 5 dX6_readBoth_19 (by decide) ?_
      exact x_le (xLe_cons (xLe_cons (xLe_nil))) (hR _ h)
def w_readBoth (N : Nat × Nat) (rc : Nat → Int32 → mS → (mS → Prop) → Prop) (x1 : Int32) (s : mS) (Kr : mS → Prop) : Prop :=
  (rc 2 x1 s (fun s102 => (w_readBoth_5 N rc x1 Kr (fun s103 => (Kr s103)) N.1 s102)))
theorem cb_readBoth {G : xG} {l : Launch} {a : Nat → Nat} {g : xH} (ha : mInj a) {d : Nat} {N : Nat × Nat} (hd : 3 ≤ d) {rc : Nat → Int32 → mS → (mS → Prop) → Prop} (ih0 : ∀ (x : Int32) (s : mS) (K : mS → Prop), rc 0 x s K → xC G l kX6_readTest d 0 0 [.ref (a 51), .int x] (mH G a s g) (mQv G a g K)) (ih1 : ∀ (x : Int32) (s : mS) (K : mS → Prop), rc 1 x s K → xC G l kX6_readBoth d 0 0 [.ref (a 51), .int x] (mH G a s g) (mQv G a g K)) (ih2 : ∀ (x : Int32) (s : mS) (K : mS → Prop), rc 2 x s K → xC G l kX6_readPlain d 0 0 [.ref (a 51), .int x] (mH G a s g) (mQv G a g K)) (ih3 : ∀ (x : Int32) (s : mS) (K : mS → Prop), rc 3 x s K → xC G l kX6_readSum d 0 0 [.ref (a 51), .int x] (mH G a s g) (mQv G a g K)) (ih4 : ∀ (x : Int32) (s : mS) (K : mS → Prop), rc 4 x s K → xC G l kX6_readTerm d 0 0 [.ref (a 51), .int x] (mH G a s g) (mQv G a g K)) (ih5 : ∀ (x : Int32) (s : mS) (K : mS → Prop), rc 5 x s K → xC G l kX6_readPart d 0 0 [.ref (a 51), .int x] (mH G a s g) (mQv G a g K)) {x1 : Int32} {s : mS} {Kr : mS → Prop} (h : w_readBoth N rc x1 s Kr) : xC G l kX6_readBoth (d + 1) 0 0 [.ref (a 51), .int x1] (mH G a s g) (mQv G a g Kr) := by
  refine xC.start rfl (by decide +kernel) (Nat.le_of_ble_eq_true rfl) (lv := [some (.ref (a 51)), some (.int x1)]) rfl ?_
  unfold w_readBoth at h
  refine x_aload_0 dX6_readBoth_0 ?_
  refine x_iload_1 dX6_readBoth_1 ?_
  refine m_cVv1 ha rfl cv_X6_217 (Nat.le_of_ble_eq_true rfl) dX6_readBoth_2 (ih2 _ _ _ h) (fun s102 h => ?_)
  refine x_le (xLe_cons (xLe_cons (xLe_nil))) (c_readBoth_5 ha (by omega) ih0 ih1 ih2 ih3 ih4 ih5 _ _ _ _ _ h (fun s103 h => ?_))
  exact x_vret dX6_readBoth_22 rfl ⟨_, h, rfl, rfl⟩
def w_readPlain_53 (N : Nat × Nat) (rc : Nat → Int32 → mS → (mS → Prop) → Prop) (x1 : Int32) (Kr : mS → Prop) (s : mS) : Prop :=
  (w_fine s (fun x101 s102 => ((¬ x101 = 0 → (∀ s104 : mS, s104 = mF s102 19 ((mFd s102 19) + 1) → (rc 0 (x1 + 1) s104 (fun s106 => (w_sign 41 (fun x107 => (w_must x107 s106 (fun s110 => (Kr s110))))))))) ∧ (x101 = 0 → (Kr s102)))))
theorem c_readPlain_53 {G : xG} {l : Launch} {a : Nat → Nat} {g : xH} (ha : mInj a) {d : Nat} {N : Nat × Nat} (hd : 3 ≤ d) {rc : Nat → Int32 → mS → (mS → Prop) → Prop} (ih0 : ∀ (x : Int32) (s : mS) (K : mS → Prop), rc 0 x s K → xC G l kX6_readTest d 0 0 [.ref (a 51), .int x] (mH G a s g) (mQv G a g K)) (ih1 : ∀ (x : Int32) (s : mS) (K : mS → Prop), rc 1 x s K → xC G l kX6_readBoth d 0 0 [.ref (a 51), .int x] (mH G a s g) (mQv G a g K)) (ih2 : ∀ (x : Int32) (s : mS) (K : mS → Prop), rc 2 x s K → xC G l kX6_readPlain d 0 0 [.ref (a 51), .int x] (mH G a s g) (mQv G a g K)) (ih3 : ∀ (x : Int32) (s : mS) (K : mS → Prop), rc 3 x s K → xC G l kX6_readSum d 0 0 [.ref (a 51), .int x] (mH G a s g) (mQv G a g K)) (ih4 : ∀ (x : Int32) (s : mS) (K : mS → Prop), rc 4 x s K → xC G l kX6_readTerm d 0 0 [.ref (a 51), .int x] (mH G a s g) (mQv G a g K)) (ih5 : ∀ (x : Int32) (s : mS) (K : mS → Prop), rc 5 x s K → xC G l kX6_readPart d 0 0 [.ref (a 51), .int x] (mH G a s g) (mQv G a g K)) (x1 : Int32) (Kr : mS → Prop) (s : mS) (h : w_readPlain_53 N rc x1 Kr s) : xF G l kX6_readPlain (d + 1) 0 0 (mQv G a g Kr) 53 [some (.ref (a 51)), some (.int x1), none, none] [] (mH G a s g) := by
  unfold w_readPlain_53 at h
  refine x_aload_0 dX6_readPlain_53 ?_
  refine m_cVi0 ha rfl cv_X6_177 (Nat.le_of_ble_eq_true rfl) dX6_readPlain_54 (c_fine ha (by omega) h) (fun x101 s102 h => ?_)
  refine x_if_ne 61 dX6_readPlain_57 (by decide) (fun c103 => ?_) (fun c103 => ?_)
  · have h := h.1 c103
    refine x_aload_0 dX6_readPlain_61 ?_
    refine x_dup dX6_readPlain_62 rfl ?_
    refine m_get ha dX6_readPlain_63 fa_X6_180 rfl ?_
    refine x_iconst (v := 1) dX6_readPlain_66 (by decide) ?_
    refine x_iadd dX6_readPlain_67 ?_
    refine m_put ha dX6_readPlain_68 fp_X6_180 (mfs_19 _ _ _) (by decide) rfl rfl ?_
    have h := h _ rfl
    refine x_aload_0 dX6_readPlain_71 ?_
    refine x_iload_1 dX6_readPlain_72 ?_
    refine x_iconst (v := 1) dX6_readPlain_73 (by decide) ?_
    refine x_iadd dX6_readPlain_74 ?_
    refine m_cVv1 ha rfl cv_X6_198 (Nat.le_of_ble_eq_true rfl) dX6_readPlain_75 (ih0 _ _ _ h) (fun s106 h => ?_)
    refine x_aload_0 dX6_readPlain_78 ?_
    refine x_bipush (v := 41) dX6_readPlain_79 (by decide) ?_
    refine m_cSi1 rfl cs_X6_220 (Nat.le_of_ble_eq_true rfl) dX6_readPlain_81 (c_sign (by omega) h) (fun x107 h => ?_)
    refine m_cVv1 ha rfl cv_X6_195 (Nat.le_of_ble_eq_true rfl) dX6_readPlain_84 (c_must ha (by omega) h) (fun s110 h => ?_)
    refine x_goto 133 dX6_readPlain_87 (by decide) ?_
    exact x_vret dX6_readPlain_133 rfl ⟨_, h, rfl, rfl⟩
  · have h := h.2 c103
    exact x_vret dX6_readPlain_60 rfl ⟨_, h, rfl, rfl⟩
def w_readPlain_2 (N : Nat × Nat) (rc : Nat → Int32 → mS → (mS → Prop) → Prop) (x1 : Int32) (Kr : mS → Prop) (K : mS → Prop) : Nat → Int32 → mS → Prop
  | 0, _, _ => False
  | t + 1, x2, s => ((x2 = 0 → (K s)) ∧ (¬ x2 = 0 → (w_takes0 7 s (fun x102 s103 => ((fun x2 s => w_readPlain_2 N rc x1 Kr K t x2 s) x102 s103)))))
theorem c_readPlain_2 {G : xG} {l : Launch} {a : Nat → Nat} {g : xH} (ha : mInj a) {d : Nat} {N : Nat × Nat} (hd : 3 ≤ d) {rc : Nat → Int32 → mS → (mS → Prop) → Prop} (ih0 : ∀ (x : Int32) (s : mS) (K : mS → Prop), rc 0 x s K → xC G l kX6_readTest d 0 0 [.ref (a 51), .int x] (mH G a s g) (mQv G a g K)) (ih1 : ∀ (x : Int32) (s : mS) (K : mS → Prop), rc 1 x s K → xC G l kX6_readBoth d 0 0 [.ref (a 51), .int x] (mH G a s g) (mQv G a g K)) (ih2 : ∀ (x : Int32) (s : mS) (K : mS → Prop), rc 2 x s K → xC G l kX6_readPlain d 0 0 [.ref (a 51), .int x] (mH G a s g) (mQv G a g K)) (ih3 : ∀ (x : Int32) (s : mS) (K : mS → Prop), rc 3 x s K → xC G l kX6_readSum d 0 0 [.ref (a 51), .int x] (mH G a s g) (mQv G a g K)) (ih4 : ∀ (x : Int32) (s : mS) (K : mS → Prop), rc 4 x s K → xC G l kX6_readTerm d 0 0 [.ref (a 51), .int x] (mH G a s g) (mQv G a g K)) (ih5 : ∀ (x : Int32) (s : mS) (K : mS → Prop), rc 5 x s K → xC G l kX6_readPart d 0 0 [.ref (a 51), .int x] (mH G a s g) (mQv G a g K)) (Kr : mS → Prop) (K : mS → Prop) (x1 : Int32) : ∀ (t : Nat) (x2 : Int32) (s : mS) , w_readPlain_2 N rc x1 Kr K t x2 s → (∀ (s : mS), K s → xF G l kX6_readPlain (d + 1) 0 0 (mQv G a g Kr) 16 [some (.ref (a 51)), some (.int x1), none, none] [] (mH G a s g)) → xF G l kX6_readPlain (d + 1) 0 0 (mQv G a g Kr) 2 [some (.ref (a 51)), some (.int x1), some (.int x2), none] [] (mH G a s g) := by
  intro t
  induction t with
  | zero =>
    intro _ _ h _
    exact absurd h (by simp [w_readPlain_2])
  | succ t ih =>
    intro x2 s h hK
    have hR := fun x2 s h => ih x2 s h hK
    unfold w_readPlain_2 at h
    refine x_iload_2 dX6_readPlain_2 ?_
    refine x_if_eq 16 dX6_readPlain_3 (by decide) (fun c101 => ?_) (fun c101 => ?_)
    · have h := h.1 c101
      exact x_le (xLe_cons (xLe_cons (xLe_none (xLe_cons (xLe_nil))))) (hK _ h)
    · have h := h.2 c101
      refine x_aload_0 dX6_readPlain_6 ?_
      refine x_bipush (v := 7) dX6_readPlain_7 (by decide) ?_
      refine m_cVi1 ha rfl cv_X6_183 (Nat.le_of_ble_eq_true rfl) dX6_readPlain_9 (c_takes0 ha (by omega) h) (fun x102 s103 h => ?_)
      refine x_istore_2 dX6_readPlain_12 (by decide) xN2_i ?_
      refine x_goto 2 dX6_readPlain_13 (by decide) ?_
      exact x_le (xLe_cons (xLe_cons (xLe_cons (xLe_cons (xLe_nil))))) (hR _ _ h)
def w_readPlain (N : Nat × Nat) (rc : Nat → Int32 → mS → (mS → Prop) → Prop) (x1 : Int32) (s : mS) (Kr : mS → Prop) : Prop :=
  (w_readPlain_2 N rc x1 Kr (fun s101 => (w_fine s101 (fun x102 s103 => ((¬ x102 = 0 → (vp_in (mFd s103 19) 401 ∧ (∀ x106 : Int32, x106 = mAt s103 15 (mFd s103 19) → (w_sign 40 (fun x107 => ((¬ x106 = x107 → (rc 3 x1 s103 (fun s111 => (w_sign 60 (fun x112 => (w_takes0 x112 s111 (fun x114 s115 => ((¬ x114 = 0 → (rc 3 x1 s115 (fun s118 => (Kr s118)))) ∧ (x114 = 0 → (w_sign 62 (fun x119 => (w_takes0 x119 s115 (fun x121 s122 => ((¬ x121 = 0 → (rc 3 x1 s122 (fun s125 => (Kr s125)))) ∧ (x121 = 0 → (w_sign 61 (fun x126 => (w_must x126 s122 (fun s129 => (rc 3 x1 s129 (fun s131 => (Kr s131)))))))))))))))))))))) ∧ (x106 = x107 → ((¬ x1 = 8 → (w_readPlain_53 N rc x1 Kr s103)) ∧ (x1 = 8 → (w_faults s103 (fun s134 => (w_readPlain_53 N rc x1 Kr s134)))))))))))) ∧ (x102 = 0 → (Kr s103)))))) N.1 1 s)
theorem cb_readPlain {G : xG} {l : Launch} {a : Nat → Nat} {g : xH} (ha : mInj a) {d : Nat} {N : Nat × Nat} (hd : 3 ≤ d) {rc : Nat → Int32 → mS → (mS → Prop) → Prop} (ih0 : ∀ (x : Int32) (s : mS) (K : mS → Prop), rc 0 x s K → xC G l kX6_readTest d 0 0 [.ref (a 51), .int x] (mH G a s g) (mQv G a g K)) (ih1 : ∀ (x : Int32) (s : mS) (K : mS → Prop), rc 1 x s K → xC G l kX6_readBoth d 0 0 [.ref (a 51), .int x] (mH G a s g) (mQv G a g K)) (ih2 : ∀ (x : Int32) (s : mS) (K : mS → Prop), rc 2 x s K → xC G l kX6_readPlain d 0 0 [.ref (a 51), .int x] (mH G a s g) (mQv G a g K)) (ih3 : ∀ (x : Int32) (s : mS) (K : mS → Prop), rc 3 x s K → xC G l kX6_readSum d 0 0 [.ref (a 51), .int x] (mH G a s g) (mQv G a g K)) (ih4 : ∀ (x : Int32) (s : mS) (K : mS → Prop), rc 4 x s K → xC G l kX6_readTerm d 0 0 [.ref (a 51), .int x] (mH G a s g) (mQv G a g K)) (ih5 : ∀ (x : Int32) (s : mS) (K : mS → Prop), rc 5 x s K → xC G l kX6_readPart d 0 0 [.ref (a 51), .int x] (mH G a s g) (mQv G a g K)) {x1 : Int32} {s : mS} {Kr : mS → Prop} (h : w_readPlain N rc x1 s Kr) : xC G l kX6_readPlain (d + 1) 0 0 [.ref (a 51), .int x1] (mH G a s g) (mQv G a g Kr) := by
  refine xC.start rfl (by decide +kernel) (Nat.le_of_ble_eq_true rfl) (lv := [some (.ref (a 51)), some (.int x1), none, none]) rfl ?_
  unfold w_readPlain at h
  refine x_iconst (v := 1) dX6_readPlain_0 (by decide) ?_
  refine x_istore_2 dX6_readPlain_1 (by decide) xN2_i ?_
  refine x_le (xLe_cons (xLe_cons (xLe_cons (xLe_cons (xLe_nil))))) (c_readPlain_2 ha (by omega) ih0 ih1 ih2 ih3 ih4 ih5 _ _ _ _ _ _ h (fun s101 h => ?_))
  refine x_aload_0 dX6_readPlain_16 ?_
  refine m_cVi0 ha rfl cv_X6_177 (Nat.le_of_ble_eq_true rfl) dX6_readPlain_17 (c_fine ha (by omega) h) (fun x102 s103 h => ?_)
  refine x_if_ne 24 dX6_readPlain_20 (by decide) (fun c104 => ?_) (fun c104 => ?_)
  · have h := h.1 c104
    refine x_aload_0 dX6_readPlain_24 ?_
    refine m_get ha dX6_readPlain_25 fa_X6_54 rfl ?_
    refine x_aload_0 dX6_readPlain_28 ?_
    refine m_get ha dX6_readPlain_29 fa_X6_180 rfl ?_
    obtain ⟨e105, h⟩ := h
    refine m_iald (j := 15) ha dX6_readPlain_32 (by decide) (by decide) e105 ?_
    refine x_istore_3 dX6_readPlain_33 (by decide) xN2_none ?_
    have h := h _ rfl
    refine x_iload_3 dX6_readPlain_34 ?_
    refine x_bipush (v := 40) dX6_readPlain_35 (by decide) ?_
    refine m_cSi1 rfl cs_X6_220 (Nat.le_of_ble_eq_true rfl) dX6_readPlain_37 (c_sign (by omega) h) (fun x107 h => ?_)
    refine x_icmp_ne 90 dX6_readPlain_40 (by decide) (fun c109 => ?_) (fun c109 => ?_)
    · have h := h.1 c109
      refine x_aload_0 dX6_readPlain_90 ?_
      refine x_iload_1 dX6_readPlain_91 ?_
      refine m_cVv1 ha rfl cv_X6_192 (Nat.le_of_ble_eq_true rfl) dX6_readPlain_92 (ih3 _ _ _ h) (fun s111 h => ?_)
      refine x_aload_0 dX6_readPlain_95 ?_
      refine x_bipush (v := 60) dX6_readPlain_96 (by decide) ?_
      refine m_cSi1 rfl cs_X6_220 (Nat.le_of_ble_eq_true rfl) dX6_readPlain_98 (c_sign (by omega) h) (fun x112 h => ?_)
      refine m_cVi1 ha rfl cv_X6_183 (Nat.le_of_ble_eq_true rfl) dX6_readPlain_101 (c_takes0 ha (by omega) h) (fun x114 s115 h => ?_)
      refine x_if_ne 128 dX6_readPlain_104 (by decide) (fun c116 => ?_) (fun c116 => ?_)
      · have h := h.1 c116
        refine x_aload_0 dX6_readPlain_128 ?_
        refine x_iload_1 dX6_readPlain_129 ?_
        refine m_cVv1 ha rfl cv_X6_192 (Nat.le_of_ble_eq_true rfl) dX6_readPlain_130 (ih3 _ _ _ h) (fun s118 h => ?_)
        exact x_vret dX6_readPlain_133 rfl ⟨_, h, rfl, rfl⟩
      · have h := h.2 c116
        refine x_aload_0 dX6_readPlain_107 ?_
        refine x_bipush (v := 62) dX6_readPlain_108 (by decide) ?_
        refine m_cSi1 rfl cs_X6_220 (Nat.le_of_ble_eq_true rfl) dX6_readPlain_110 (c_sign (by omega) h) (fun x119 h => ?_)
        refine m_cVi1 ha rfl cv_X6_183 (Nat.le_of_ble_eq_true rfl) dX6_readPlain_113 (c_takes0 ha (by omega) h) (fun x121 s122 h => ?_)
        refine x_if_ne 128 dX6_readPlain_116 (by decide) (fun c123 => ?_) (fun c123 => ?_)
        · have h := h.1 c123
          refine x_aload_0 dX6_readPlain_128 ?_
          refine x_iload_1 dX6_readPlain_129 ?_
          refine m_cVv1 ha rfl cv_X6_192 (Nat.le_of_ble_eq_true rfl) dX6_readPlain_130 (ih3 _ _ _ h) (fun s125 h => ?_)
          exact x_vret dX6_readPlain_133 rfl ⟨_, h, rfl, rfl⟩
        · have h := h.2 c123
          refine x_aload_0 dX6_readPlain_119 ?_
          refine x_bipush (v := 61) dX6_readPlain_120 (by decide) ?_
          refine m_cSi1 rfl cs_X6_220 (Nat.le_of_ble_eq_true rfl) dX6_readPlain_122 (c_sign (by omega) h) (fun x126 h => ?_)
          refine m_cVv1 ha rfl cv_X6_195 (Nat.le_of_ble_eq_true rfl) dX6_readPlain_125 (c_must ha (by omega) h) (fun s129 h => ?_)
          refine x_aload_0 dX6_readPlain_128 ?_
          refine x_iload_1 dX6_readPlain_129 ?_
          refine m_cVv1 ha rfl cv_X6_192 (Nat.le_of_ble_eq_true rfl) dX6_readPlain_130 (ih3 _ _ _ h) (fun s131 h => ?_)
          exact x_vret dX6_readPlain_133 rfl ⟨_, h, rfl, rfl⟩
    · have h := h.2 c109
      refine x_iload_1 dX6_readPlain_43 ?_
      refine x_bipush (v := 8) dX6_readPlain_44 (by decide) ?_
      refine x_icmp_ne 53 dX6_readPlain_46 (by decide) (fun c132 => ?_) (fun c132 => ?_)
      · have h := h.1 c132
        exact x_le (xLe_cons (xLe_cons (xLe_cons (xLe_none (xLe_nil))))) (c_readPlain_53 ha (by omega) ih0 ih1 ih2 ih3 ih4 ih5 _ _ _ h)
      · have h := h.2 c132
        refine x_aload_0 dX6_readPlain_49 ?_
        refine m_cVv0 ha rfl cv_X6_186 (Nat.le_of_ble_eq_true rfl) dX6_readPlain_50 (c_faults ha (by omega) h) (fun s134 h => ?_)
        exact x_le (xLe_cons (xLe_cons (xLe_cons (xLe_none (xLe_nil))))) (c_readPlain_53 ha (by omega) ih0 ih1 ih2 ih3 ih4 ih5 _ _ _ h)
  · have h := h.2 c104
    exact x_vret dX6_readPlain_23 rfl ⟨_, h, rfl, rfl⟩
def w_readSum_5 (N : Nat × Nat) (rc : Nat → Int32 → mS → (mS → Prop) → Prop) (x1 : Int32) (Kr : mS → Prop) (K : mS → Prop) : Nat → mS → Prop
  | 0, _ => False
  | t + 1, s => (w_sign 43 (fun x101 => (w_takes0 x101 s (fun x103 s104 => ((¬ x103 = 0 → (rc 4 x1 s104 (fun s107 => ((fun s => w_readSum_5 N rc x1 Kr K t s) s107)))) ∧ (x103 = 0 → (w_sign 45 (fun x108 => (w_takes0 x108 s104 (fun x110 s111 => ((x110 = 0 → (K s111)) ∧ (¬ x110 = 0 → (rc 4 x1 s111 (fun s114 => ((fun s => w_readSum_5 N rc x1 Kr K t s) s114)))))))))))))))
theorem c_readSum_5 {G : xG} {l : Launch} {a : Nat → Nat} {g : xH} (ha : mInj a) {d : Nat} {N : Nat × Nat} (hd : 3 ≤ d) {rc : Nat → Int32 → mS → (mS → Prop) → Prop} (ih0 : ∀ (x : Int32) (s : mS) (K : mS → Prop), rc 0 x s K → xC G l kX6_readTest d 0 0 [.ref (a 51), .int x] (mH G a s g) (mQv G a g K)) (ih1 : ∀ (x : Int32) (s : mS) (K : mS → Prop), rc 1 x s K → xC G l kX6_readBoth d 0 0 [.ref (a 51), .int x] (mH G a s g) (mQv G a g K)) (ih2 : ∀ (x : Int32) (s : mS) (K : mS → Prop), rc 2 x s K → xC G l kX6_readPlain d 0 0 [.ref (a 51), .int x] (mH G a s g) (mQv G a g K)) (ih3 : ∀ (x : Int32) (s : mS) (K : mS → Prop), rc 3 x s K → xC G l kX6_readSum d 0 0 [.ref (a 51), .int x] (mH G a s g) (mQv G a g K)) (ih4 : ∀ (x : Int32) (s : mS) (K : mS → Prop), rc 4 x s K → xC G l kX6_readTerm d 0 0 [.ref (a 51), .int x] (mH G a s g) (mQv G a g K)) (ih5 : ∀ (x : Int32) (s : mS) (K : mS → Prop), rc 5 x s K → xC G l kX6_readPart d 0 0 [.ref (a 51), .int x] (mH G a s g) (mQv G a g K)) (Kr : mS → Prop) (K : mS → Prop) (x1 : Int32) : ∀ (t : Nat) (s : mS) , w_readSum_5 N rc x1 Kr K t s → (∀ (s : mS), K s → xF G l kX6_readSum (d + 1) 0 0 (mQv G a g Kr) 37 [some (.ref (a 51)), none] [] (mH G a s g)) → xF G l kX6_readSum (d + 1) 0 0 (mQv G a g Kr) 5 [some (.ref (a 51)), some (.int x1)] [] (mH G a s g) := by
  intro t
  induction t with
  | zero =>
    intro _ h _
    exact absurd h (by simp [w_readSum_5])
  | succ t ih =>
    intro s h hK
    have hR := fun s h => ih s h hK
    unfold w_readSum_5 at h
    refine x_aload_0 dX6_readSum_5 ?_
    refine x_bipush (v := 43) dX6_readSum_6 (by decide) ?_
    refine m_cSi1 rfl cs_X6_220 (Nat.le_of_ble_eq_true rfl) dX6_readSum_8 (c_sign (by omega) h) (fun x101 h => ?_)
    refine m_cVi1 ha rfl cv_X6_183 (Nat.le_of_ble_eq_true rfl) dX6_readSum_11 (c_takes0 ha (by omega) h) (fun x103 s104 h => ?_)
    refine x_if_ne 29 dX6_readSum_14 (by decide) (fun c105 => ?_) (fun c105 => ?_)
    · have h := h.1 c105
      refine x_aload_0 dX6_readSum_29 ?_
      refine x_iload_1 dX6_readSum_30 ?_
      refine m_cVv1 ha rfl cv_X6_224 (Nat.le_of_ble_eq_true rfl) dX6_readSum_31 (ih4 _ _ _ h) (fun s107 h => ?_)
      refine x_goto 5 dX6_readSum_34 (by decide) ?_
      exact x_le (xLe_cons (xLe_cons (xLe_nil))) (hR _ h)
    · have h := h.2 c105
      refine x_aload_0 dX6_readSum_17 ?_
      refine x_bipush (v := 45) dX6_readSum_18 (by decide) ?_
      refine m_cSi1 rfl cs_X6_220 (Nat.le_of_ble_eq_true rfl) dX6_readSum_20 (c_sign (by omega) h) (fun x108 h => ?_)
      refine m_cVi1 ha rfl cv_X6_183 (Nat.le_of_ble_eq_true rfl) dX6_readSum_23 (c_takes0 ha (by omega) h) (fun x110 s111 h => ?_)
      refine x_if_eq 37 dX6_readSum_26 (by decide) (fun c112 => ?_) (fun c112 => ?_)
      · have h := h.1 c112
        exact x_le (xLe_cons (xLe_none (xLe_nil))) (hK _ h)
      · have h := h.2 c112
        refine x_aload_0 dX6_readSum_29 ?_
        refine x_iload_1 dX6_readSum_30 ?_
        refine m_cVv1 ha rfl cv_X6_224 (Nat.le_of_ble_eq_true rfl) dX6_readSum_31 (ih4 _ _ _ h) (fun s114 h => ?_)
        refine x_goto 5 dX6_readSum_34 (by decide) ?_
        exact x_le (xLe_cons (xLe_cons (xLe_nil))) (hR _ h)
def w_readSum (N : Nat × Nat) (rc : Nat → Int32 → mS → (mS → Prop) → Prop) (x1 : Int32) (s : mS) (Kr : mS → Prop) : Prop :=
  (rc 4 x1 s (fun s102 => (w_readSum_5 N rc x1 Kr (fun s103 => (Kr s103)) N.1 s102)))
theorem cb_readSum {G : xG} {l : Launch} {a : Nat → Nat} {g : xH} (ha : mInj a) {d : Nat} {N : Nat × Nat} (hd : 3 ≤ d) {rc : Nat → Int32 → mS → (mS → Prop) → Prop} (ih0 : ∀ (x : Int32) (s : mS) (K : mS → Prop), rc 0 x s K → xC G l kX6_readTest d 0 0 [.ref (a 51), .int x] (mH G a s g) (mQv G a g K)) (ih1 : ∀ (x : Int32) (s : mS) (K : mS → Prop), rc 1 x s K → xC G l kX6_readBoth d 0 0 [.ref (a 51), .int x] (mH G a s g) (mQv G a g K)) (ih2 : ∀ (x : Int32) (s : mS) (K : mS → Prop), rc 2 x s K → xC G l kX6_readPlain d 0 0 [.ref (a 51), .int x] (mH G a s g) (mQv G a g K)) (ih3 : ∀ (x : Int32) (s : mS) (K : mS → Prop), rc 3 x s K → xC G l kX6_readSum d 0 0 [.ref (a 51), .int x] (mH G a s g) (mQv G a g K)) (ih4 : ∀ (x : Int32) (s : mS) (K : mS → Prop), rc 4 x s K → xC G l kX6_readTerm d 0 0 [.ref (a 51), .int x] (mH G a s g) (mQv G a g K)) (ih5 : ∀ (x : Int32) (s : mS) (K : mS → Prop), rc 5 x s K → xC G l kX6_readPart d 0 0 [.ref (a 51), .int x] (mH G a s g) (mQv G a g K)) {x1 : Int32} {s : mS} {Kr : mS → Prop} (h : w_readSum N rc x1 s Kr) : xC G l kX6_readSum (d + 1) 0 0 [.ref (a 51), .int x1] (mH G a s g) (mQv G a g Kr) := by
  refine xC.start rfl (by decide +kernel) (Nat.le_of_ble_eq_true rfl) (lv := [some (.ref (a 51)), some (.int x1)]) rfl ?_
  unfold w_readSum at h
  refine x_aload_0 dX6_readSum_0 ?_
  refine x_iload_1 dX6_readSum_1 ?_
  refine m_cVv1 ha rfl cv_X6_224 (Nat.le_of_ble_eq_true rfl) dX6_readSum_2 (ih4 _ _ _ h) (fun s102 h => ?_)
  refine x_le (xLe_cons (xLe_cons (xLe_nil))) (c_readSum_5 ha (by omega) ih0 ih1 ih2 ih3 ih4 ih5 _ _ _ _ _ h (fun s103 h => ?_))
  exact x_vret dX6_readSum_37 rfl ⟨_, h, rfl, rfl⟩
def w_readTerm_5 (N : Nat × Nat) (rc : Nat → Int32 → mS → (mS → Prop) → Prop) (x1 : Int32) (Kr : mS → Prop) (K : mS → Prop) : Nat → mS → Prop
  | 0, _ => False
  | t + 1, s => (w_sign 42 (fun x101 => (w_takes0 x101 s (fun x103 s104 => ((¬ x103 = 0 → (rc 5 x1 s104 (fun s107 => ((fun s => w_readTerm_5 N rc x1 Kr K t s) s107)))) ∧ (x103 = 0 → (w_sign 47 (fun x108 => (w_takes0 x108 s104 (fun x110 s111 => ((¬ x110 = 0 → (rc 5 x1 s111 (fun s114 => ((fun s => w_readTerm_5 N rc x1 Kr K t s) s114)))) ∧ (x110 = 0 → (w_sign 37 (fun x115 => (w_takes0 x115 s111 (fun x117 s118 => ((x117 = 0 → (K s118)) ∧ (¬ x117 = 0 → (rc 5 x1 s118 (fun s121 => ((fun s => w_readTerm_5 N rc x1 Kr K t s) s121)))))))))))))))))))))
theorem c_readTerm_5 {G : xG} {l : Launch} {a : Nat → Nat} {g : xH} (ha : mInj a) {d : Nat} {N : Nat × Nat} (hd : 3 ≤ d) {rc : Nat → Int32 → mS → (mS → Prop) → Prop} (ih0 : ∀ (x : Int32) (s : mS) (K : mS → Prop), rc 0 x s K → xC G l kX6_readTest d 0 0 [.ref (a 51), .int x] (mH G a s g) (mQv G a g K)) (ih1 : ∀ (x : Int32) (s : mS) (K : mS → Prop), rc 1 x s K → xC G l kX6_readBoth d 0 0 [.ref (a 51), .int x] (mH G a s g) (mQv G a g K)) (ih2 : ∀ (x : Int32) (s : mS) (K : mS → Prop), rc 2 x s K → xC G l kX6_readPlain d 0 0 [.ref (a 51), .int x] (mH G a s g) (mQv G a g K)) (ih3 : ∀ (x : Int32) (s : mS) (K : mS → Prop), rc 3 x s K → xC G l kX6_readSum d 0 0 [.ref (a 51), .int x] (mH G a s g) (mQv G a g K)) (ih4 : ∀ (x : Int32) (s : mS) (K : mS → Prop), rc 4 x s K → xC G l kX6_readTerm d 0 0 [.ref (a 51), .int x] (mH G a s g) (mQv G a g K)) (ih5 : ∀ (x : Int32) (s : mS) (K : mS → Prop), rc 5 x s K → xC G l kX6_readPart d 0 0 [.ref (a 51), .int x] (mH G a s g) (mQv G a g K)) (Kr : mS → Prop) (K : mS → Prop) (x1 : Int32) : ∀ (t : Nat) (s : mS) , w_readTerm_5 N rc x1 Kr K t s → (∀ (s : mS), K s → xF G l kX6_readTerm (d + 1) 0 0 (mQv G a g Kr) 49 [some (.ref (a 51)), none] [] (mH G a s g)) → xF G l kX6_readTerm (d + 1) 0 0 (mQv G a g Kr) 5 [some (.ref (a 51)), some (.int x1)] [] (mH G a s g) := by
  intro t
  induction t with
  | zero =>
    intro _ h _
    exact absurd h (by simp [w_readTerm_5])
  | succ t ih =>
    intro s h hK
    have hR := fun s h => ih s h hK
    unfold w_readTerm_5 at h
    refine x_aload_0 dX6_readTerm_5 ?_
    refine x_bipush (v := 42) dX6_readTerm_6 (by decide) ?_
    refine m_cSi1 rfl cs_X6_220 (Nat.le_of_ble_eq_true rfl) dX6_readTerm_8 (c_sign (by omega) h) (fun x101 h => ?_)
    refine m_cVi1 ha rfl cv_X6_183 (Nat.le_of_ble_eq_true rfl) dX6_readTerm_11 (c_takes0 ha (by omega) h) (fun x103 s104 h => ?_)
    refine x_if_ne 41 dX6_readTerm_14 (by decide) (fun c105 => ?_) (fun c105 => ?_)
    · have h := h.1 c105
      refine x_aload_0 dX6_readTerm_41 ?_
      refine x_iload_1 dX6_readTerm_42 ?_
      refine m_cVv1 ha rfl cv_X6_227 (Nat.le_of_ble_eq_true rfl) dX6_readTerm_43 (ih5 _ _ _ h) (fun s107 h => ?_)
      refine x_goto 5 dX6_readTerm_46 (by decide) ?_
      exact x_le (xLe_cons (xLe_cons (xLe_nil))) (hR _ h)
    · have h := h.2 c105
      refine x_aload_0 dX6_readTerm_17 ?_
      refine x_bipush (v := 47) dX6_readTerm_18 (by decide) ?_
      refine m_cSi1 rfl cs_X6_220 (Nat.le_of_ble_eq_true rfl) dX6_readTerm_20 (c_sign (by omega) h) (fun x108 h => ?_)
      refine m_cVi1 ha rfl cv_X6_183 (Nat.le_of_ble_eq_true rfl) dX6_readTerm_23 (c_takes0 ha (by omega) h) (fun x110 s111 h => ?_)
      refine x_if_ne 41 dX6_readTerm_26 (by decide) (fun c112 => ?_) (fun c112 => ?_)
      · have h := h.1 c112
        refine x_aload_0 dX6_readTerm_41 ?_
        refine x_iload_1 dX6_readTerm_42 ?_
        refine m_cVv1 ha rfl cv_X6_227 (Nat.le_of_ble_eq_true rfl) dX6_readTerm_43 (ih5 _ _ _ h) (fun s114 h => ?_)
        refine x_goto 5 dX6_readTerm_46 (by decide) ?_
        exact x_le (xLe_cons (xLe_cons (xLe_nil))) (hR _ h)
      · have h := h.2 c112
        refine x_aload_0 dX6_readTerm_29 ?_
        refine x_bipush (v := 37) dX6_readTerm_30 (by decide) ?_
        refine m_cSi1 rfl cs_X6_220 (Nat.le_of_ble_eq_true rfl) dX6_readTerm_32 (c_sign (by omega) h) (fun x115 h => ?_)
        refine m_cVi1 ha rfl cv_X6_183 (Nat.le_of_ble_eq_true rfl) dX6_readTerm_35 (c_takes0 ha (by omega) h) (fun x117 s118 h => ?_)
        refine x_if_eq 49 dX6_readTerm_38 (by decide) (fun c119 => ?_) (fun c119 => ?_)
        · have h := h.1 c119
          exact x_le (xLe_cons (xLe_none (xLe_nil))) (hK _ h)
        · have h := h.2 c119
          refine x_aload_0 dX6_readTerm_41 ?_
          refine x_iload_1 dX6_readTerm_42 ?_
          refine m_cVv1 ha rfl cv_X6_227 (Nat.le_of_ble_eq_true rfl) dX6_readTerm_43 (ih5 _ _ _ h) (fun s121 h => ?_)
          refine x_goto 5 dX6_readTerm_46 (by decide) ?_
          exact x_le (xLe_cons (xLe_cons (xLe_nil))) (hR _ h)
def w_readTerm (N : Nat × Nat) (rc : Nat → Int32 → mS → (mS → Prop) → Prop) (x1 : Int32) (s : mS) (Kr : mS → Prop) : Prop :=
  (rc 5 x1 s (fun s102 => (w_readTerm_5 N rc x1 Kr (fun s103 => (Kr s103)) N.1 s102)))
theorem cb_readTerm {G : xG} {l : Launch} {a : Nat → Nat} {g : xH} (ha : mInj a) {d : Nat} {N : Nat × Nat} (hd : 3 ≤ d) {rc : Nat → Int32 → mS → (mS → Prop) → Prop} (ih0 : ∀ (x : Int32) (s : mS) (K : mS → Prop), rc 0 x s K → xC G l kX6_readTest d 0 0 [.ref (a 51), .int x] (mH G a s g) (mQv G a g K)) (ih1 : ∀ (x : Int32) (s : mS) (K : mS → Prop), rc 1 x s K → xC G l kX6_readBoth d 0 0 [.ref (a 51), .int x] (mH G a s g) (mQv G a g K)) (ih2 : ∀ (x : Int32) (s : mS) (K : mS → Prop), rc 2 x s K → xC G l kX6_readPlain d 0 0 [.ref (a 51), .int x] (mH G a s g) (mQv G a g K)) (ih3 : ∀ (x : Int32) (s : mS) (K : mS → Prop), rc 3 x s K → xC G l kX6_readSum d 0 0 [.ref (a 51), .int x] (mH G a s g) (mQv G a g K)) (ih4 : ∀ (x : Int32) (s : mS) (K : mS → Prop), rc 4 x s K → xC G l kX6_readTerm d 0 0 [.ref (a 51), .int x] (mH G a s g) (mQv G a g K)) (ih5 : ∀ (x : Int32) (s : mS) (K : mS → Prop), rc 5 x s K → xC G l kX6_readPart d 0 0 [.ref (a 51), .int x] (mH G a s g) (mQv G a g K)) {x1 : Int32} {s : mS} {Kr : mS → Prop} (h : w_readTerm N rc x1 s Kr) : xC G l kX6_readTerm (d + 1) 0 0 [.ref (a 51), .int x1] (mH G a s g) (mQv G a g Kr) := by
  refine xC.start rfl (by decide +kernel) (Nat.le_of_ble_eq_true rfl) (lv := [some (.ref (a 51)), some (.int x1)]) rfl ?_
  unfold w_readTerm at h
  refine x_aload_0 dX6_readTerm_0 ?_
  refine x_iload_1 dX6_readTerm_1 ?_
  refine m_cVv1 ha rfl cv_X6_227 (Nat.le_of_ble_eq_true rfl) dX6_readTerm_2 (ih5 _ _ _ h) (fun s102 h => ?_)
  refine x_le (xLe_cons (xLe_cons (xLe_nil))) (c_readTerm_5 ha (by omega) ih0 ih1 ih2 ih3 ih4 ih5 _ _ _ _ _ h (fun s103 h => ?_))
  exact x_vret dX6_readTerm_49 rfl ⟨_, h, rfl, rfl⟩
def w_readPart_111 (N : Nat × Nat) (rc : Nat → Int32 → mS → (mS → Prop) → Prop) (x2 : Int32) (Kr : mS → Prop) (s : mS) : Prop :=
  (w_leaf s (fun s102 => (((mFd s102 10) = 0 → (Kr s102)) ∧ (¬ (mFd s102 10) = 0 → ((x2 = 15 → (w_mustNumber 0 11 s102 (fun s106 => (Kr s106)))) ∧ (¬ x2 = 15 → ((¬ x2 = 16 → (Kr s102)) ∧ (x2 = 16 → (w_mustNumber 0 11 s102 (fun s109 => (Kr s109)))))))))))
theorem c_readPart_111 {G : xG} {l : Launch} {a : Nat → Nat} {g : xH} (ha : mInj a) {d : Nat} {N : Nat × Nat} (hd : 3 ≤ d) {rc : Nat → Int32 → mS → (mS → Prop) → Prop} (ih0 : ∀ (x : Int32) (s : mS) (K : mS → Prop), rc 0 x s K → xC G l kX6_readTest d 0 0 [.ref (a 51), .int x] (mH G a s g) (mQv G a g K)) (ih1 : ∀ (x : Int32) (s : mS) (K : mS → Prop), rc 1 x s K → xC G l kX6_readBoth d 0 0 [.ref (a 51), .int x] (mH G a s g) (mQv G a g K)) (ih2 : ∀ (x : Int32) (s : mS) (K : mS → Prop), rc 2 x s K → xC G l kX6_readPlain d 0 0 [.ref (a 51), .int x] (mH G a s g) (mQv G a g K)) (ih3 : ∀ (x : Int32) (s : mS) (K : mS → Prop), rc 3 x s K → xC G l kX6_readSum d 0 0 [.ref (a 51), .int x] (mH G a s g) (mQv G a g K)) (ih4 : ∀ (x : Int32) (s : mS) (K : mS → Prop), rc 4 x s K → xC G l kX6_readTerm d 0 0 [.ref (a 51), .int x] (mH G a s g) (mQv G a g K)) (ih5 : ∀ (x : Int32) (s : mS) (K : mS → Prop), rc 5 x s K → xC G l kX6_readPart d 0 0 [.ref (a 51), .int x] (mH G a s g) (mQv G a g K)) (x2 : Int32) (Kr : mS → Prop) (s : mS) (h : w_readPart_111 N rc x2 Kr s) : xF G l kX6_readPart (d + 1) 0 0 (mQv G a g Kr) 111 [some (.ref (a 51)), none, some (.int x2)] [] (mH G a s g) := by
  unfold w_readPart_111 at h
  refine x_aload_0 dX6_readPart_111 ?_
  refine m_cVv0 ha rfl cv_X6_236 (Nat.le_of_ble_eq_true rfl) dX6_readPart_112 (c_leaf ha (by omega) h) (fun s102 h => ?_)
  refine x_aload_0 dX6_readPart_115 ?_
  refine m_get ha dX6_readPart_116 fa_X6_204 rfl ?_
  refine x_if_eq 148 dX6_readPart_119 (by decide) (fun c103 => ?_) (fun c103 => ?_)
  · have h := h.1 c103
    exact x_vret dX6_readPart_148 rfl ⟨_, h, rfl, rfl⟩
  · have h := h.2 c103
    refine x_iload_2 dX6_readPart_122 ?_
    refine x_bipush (v := 15) dX6_readPart_123 (by decide) ?_
    refine x_icmp_eq 134 dX6_readPart_125 (by decide) (fun c104 => ?_) (fun c104 => ?_)
    · have h := h.1 c104
      refine x_aload_0 dX6_readPart_134 ?_
      refine x_iconst (v := 0) dX6_readPart_135 (by decide) ?_
      refine x_bipush (v := 11) dX6_readPart_136 (by decide) ?_
      refine m_cVv2 ha rfl cv_X6_201 (Nat.le_of_ble_eq_true rfl) dX6_readPart_138 (c_mustNumber ha (by omega) h) (fun s106 h => ?_)
      refine x_goto 148 dX6_readPart_141 (by decide) ?_
      exact x_vret dX6_readPart_148 rfl ⟨_, h, rfl, rfl⟩
    · have h := h.2 c104
      refine x_iload_2 dX6_readPart_128 ?_
      refine x_bipush (v := 16) dX6_readPart_129 (by decide) ?_
      refine x_icmp_ne 148 dX6_readPart_131 (by decide) (fun c107 => ?_) (fun c107 => ?_)
      · have h := h.1 c107
        exact x_vret dX6_readPart_148 rfl ⟨_, h, rfl, rfl⟩
      · have h := h.2 c107
        refine x_aload_0 dX6_readPart_134 ?_
        refine x_iconst (v := 0) dX6_readPart_135 (by decide) ?_
        refine x_bipush (v := 11) dX6_readPart_136 (by decide) ?_
        refine m_cVv2 ha rfl cv_X6_201 (Nat.le_of_ble_eq_true rfl) dX6_readPart_138 (c_mustNumber ha (by omega) h) (fun s109 h => ?_)
        refine x_goto 148 dX6_readPart_141 (by decide) ?_
        exact x_vret dX6_readPart_148 rfl ⟨_, h, rfl, rfl⟩
def w_readPart_95 (N : Nat × Nat) (rc : Nat → Int32 → mS → (mS → Prop) → Prop) (x2 : Int32) (Kr : mS → Prop) (s : mS) : Prop :=
  ((x2 < (mFd s 8) → (w_faults s (fun s103 => (Kr s103)))) ∧ (¬ x2 < (mFd s 8) → (((mFd s 9) < x2 → (w_faults s (fun s106 => (Kr s106)))) ∧ (¬ (mFd s 9) < x2 → (w_readPart_111 N rc x2 Kr s)))))
theorem c_readPart_95 {G : xG} {l : Launch} {a : Nat → Nat} {g : xH} (ha : mInj a) {d : Nat} {N : Nat × Nat} (hd : 3 ≤ d) {rc : Nat → Int32 → mS → (mS → Prop) → Prop} (ih0 : ∀ (x : Int32) (s : mS) (K : mS → Prop), rc 0 x s K → xC G l kX6_readTest d 0 0 [.ref (a 51), .int x] (mH G a s g) (mQv G a g K)) (ih1 : ∀ (x : Int32) (s : mS) (K : mS → Prop), rc 1 x s K → xC G l kX6_readBoth d 0 0 [.ref (a 51), .int x] (mH G a s g) (mQv G a g K)) (ih2 : ∀ (x : Int32) (s : mS) (K : mS → Prop), rc 2 x s K → xC G l kX6_readPlain d 0 0 [.ref (a 51), .int x] (mH G a s g) (mQv G a g K)) (ih3 : ∀ (x : Int32) (s : mS) (K : mS → Prop), rc 3 x s K → xC G l kX6_readSum d 0 0 [.ref (a 51), .int x] (mH G a s g) (mQv G a g K)) (ih4 : ∀ (x : Int32) (s : mS) (K : mS → Prop), rc 4 x s K → xC G l kX6_readTerm d 0 0 [.ref (a 51), .int x] (mH G a s g) (mQv G a g K)) (ih5 : ∀ (x : Int32) (s : mS) (K : mS → Prop), rc 5 x s K → xC G l kX6_readPart d 0 0 [.ref (a 51), .int x] (mH G a s g) (mQv G a g K)) (x2 : Int32) (Kr : mS → Prop) (s : mS) (h : w_readPart_95 N rc x2 Kr s) : xF G l kX6_readPart (d + 1) 0 0 (mQv G a g Kr) 95 [some (.ref (a 51)), none, some (.int x2)] [] (mH G a s g) := by
  unfold w_readPart_95 at h
  refine x_iload_2 dX6_readPart_95 ?_
  refine x_aload_0 dX6_readPart_96 ?_
  refine m_get ha dX6_readPart_97 fa_X6_230 rfl ?_
  refine x_icmp_lt 144 dX6_readPart_100 (by decide) (fun c101 => ?_) (fun c101 => ?_)
  · have h := h.1 c101
    refine x_aload_0 dX6_readPart_144 ?_
    refine m_cVv0 ha rfl cv_X6_186 (Nat.le_of_ble_eq_true rfl) dX6_readPart_145 (c_faults ha (by omega) h) (fun s103 h => ?_)
    exact x_vret dX6_readPart_148 rfl ⟨_, h, rfl, rfl⟩
  · have h := h.2 c101
    refine x_iload_2 dX6_readPart_103 ?_
    refine x_aload_0 dX6_readPart_104 ?_
    refine m_get ha dX6_readPart_105 fa_X6_233 rfl ?_
    refine x_icmp_gt 144 dX6_readPart_108 (by decide) (fun c104 => ?_) (fun c104 => ?_)
    · have h := h.1 c104
      refine x_aload_0 dX6_readPart_144 ?_
      refine m_cVv0 ha rfl cv_X6_186 (Nat.le_of_ble_eq_true rfl) dX6_readPart_145 (c_faults ha (by omega) h) (fun s106 h => ?_)
      exact x_vret dX6_readPart_148 rfl ⟨_, h, rfl, rfl⟩
    · have h := h.2 c104
      exact x_le (xLe_cons (xLe_cons (xLe_cons (xLe_nil)))) (c_readPart_111 ha (by omega) ih0 ih1 ih2 ih3 ih4 ih5 _ _ _ h)
def w_readPart_37 (N : Nat × Nat) (rc : Nat → Int32 → mS → (mS → Prop) → Prop) (x1 : Int32) (Kr : mS → Prop) (s : mS) : Prop :=
  (w_fine s (fun x101 s102 => ((¬ x101 = 0 → (∀ s104 : mS, s104 = mF s102 19 ((mFd s102 19) + 1) → (rc 3 (x1 + 1) s104 (fun s106 => (w_sign 93 (fun x107 => (w_must x107 s106 (fun s110 => (Kr s110))))))))) ∧ (x101 = 0 → (Kr s102)))))
theorem c_readPart_37 {G : xG} {l : Launch} {a : Nat → Nat} {g : xH} (ha : mInj a) {d : Nat} {N : Nat × Nat} (hd : 3 ≤ d) {rc : Nat → Int32 → mS → (mS → Prop) → Prop} (ih0 : ∀ (x : Int32) (s : mS) (K : mS → Prop), rc 0 x s K → xC G l kX6_readTest d 0 0 [.ref (a 51), .int x] (mH G a s g) (mQv G a g K)) (ih1 : ∀ (x : Int32) (s : mS) (K : mS → Prop), rc 1 x s K → xC G l kX6_readBoth d 0 0 [.ref (a 51), .int x] (mH G a s g) (mQv G a g K)) (ih2 : ∀ (x : Int32) (s : mS) (K : mS → Prop), rc 2 x s K → xC G l kX6_readPlain d 0 0 [.ref (a 51), .int x] (mH G a s g) (mQv G a g K)) (ih3 : ∀ (x : Int32) (s : mS) (K : mS → Prop), rc 3 x s K → xC G l kX6_readSum d 0 0 [.ref (a 51), .int x] (mH G a s g) (mQv G a g K)) (ih4 : ∀ (x : Int32) (s : mS) (K : mS → Prop), rc 4 x s K → xC G l kX6_readTerm d 0 0 [.ref (a 51), .int x] (mH G a s g) (mQv G a g K)) (ih5 : ∀ (x : Int32) (s : mS) (K : mS → Prop), rc 5 x s K → xC G l kX6_readPart d 0 0 [.ref (a 51), .int x] (mH G a s g) (mQv G a g K)) (x1 : Int32) (Kr : mS → Prop) (s : mS) (h : w_readPart_37 N rc x1 Kr s) : xF G l kX6_readPart (d + 1) 0 0 (mQv G a g Kr) 37 [some (.ref (a 51)), some (.int x1), none] [] (mH G a s g) := by
  unfold w_readPart_37 at h
  refine x_aload_0 dX6_readPart_37 ?_
  refine m_cVi0 ha rfl cv_X6_177 (Nat.le_of_ble_eq_true rfl) dX6_readPart_38 (c_fine ha (by omega) h) (fun x101 s102 h => ?_)
  refine x_if_ne 45 dX6_readPart_41 (by decide) (fun c103 => ?_) (fun c103 => ?_)
  · have h := h.1 c103
    refine x_aload_0 dX6_readPart_45 ?_
    refine x_dup dX6_readPart_46 rfl ?_
    refine m_get ha dX6_readPart_47 fa_X6_180 rfl ?_
    refine x_iconst (v := 1) dX6_readPart_50 (by decide) ?_
    refine x_iadd dX6_readPart_51 ?_
    refine m_put ha dX6_readPart_52 fp_X6_180 (mfs_19 _ _ _) (by decide) rfl rfl ?_
    have h := h _ rfl
    refine x_aload_0 dX6_readPart_55 ?_
    refine x_iload_1 dX6_readPart_56 ?_
    refine x_iconst (v := 1) dX6_readPart_57 (by decide) ?_
    refine x_iadd dX6_readPart_58 ?_
    refine m_cVv1 ha rfl cv_X6_192 (Nat.le_of_ble_eq_true rfl) dX6_readPart_59 (ih3 _ _ _ h) (fun s106 h => ?_)
    refine x_aload_0 dX6_readPart_62 ?_
    refine x_bipush (v := 93) dX6_readPart_63 (by decide) ?_
    refine m_cSi1 rfl cs_X6_220 (Nat.le_of_ble_eq_true rfl) dX6_readPart_65 (c_sign (by omega) h) (fun x107 h => ?_)
    refine m_cVv1 ha rfl cv_X6_195 (Nat.le_of_ble_eq_true rfl) dX6_readPart_68 (c_must ha (by omega) h) (fun s110 h => ?_)
    refine x_goto 148 dX6_readPart_71 (by decide) ?_
    exact x_vret dX6_readPart_148 rfl ⟨_, h, rfl, rfl⟩
  · have h := h.2 c103
    exact x_vret dX6_readPart_44 rfl ⟨_, h, rfl, rfl⟩
def w_readPart (N : Nat × Nat) (rc : Nat → Int32 → mS → (mS → Prop) → Prop) (x1 : Int32) (s : mS) (Kr : mS → Prop) : Prop :=
  (w_fine s (fun x101 s102 => ((¬ x101 = 0 → (vp_in (mFd s102 19) 401 ∧ (∀ x105 : Int32, x105 = mAt s102 15 (mFd s102 19) → (w_sign 91 (fun x106 => ((¬ x105 = x106 → ((¬ x105 = 50 → (w_readPart_95 N rc x105 Kr s102)) ∧ (x105 = 50 → (vp_in (mFd s102 19) 401 ∧ (((mAt s102 16 (mFd s102 19)) ≤ 1000 → (w_readPart_111 N rc x105 Kr s102)) ∧ (¬ (mAt s102 16 (mFd s102 19)) ≤ 1000 → (w_readPart_95 N rc x105 Kr s102))))))) ∧ (x105 = x106 → ((¬ x1 = 8 → (w_readPart_37 N rc x1 Kr s102)) ∧ (x1 = 8 → (w_faults s102 (fun s114 => (w_readPart_37 N rc x1 Kr s114)))))))))))) ∧ (x101 = 0 → (Kr s102)))))
theorem cb_readPart {G : xG} {l : Launch} {a : Nat → Nat} {g : xH} (ha : mInj a) {d : Nat} {N : Nat × Nat} (hd : 3 ≤ d) {rc : Nat → Int32 → mS → (mS → Prop) → Prop} (ih0 : ∀ (x : Int32) (s : mS) (K : mS → Prop), rc 0 x s K → xC G l kX6_readTest d 0 0 [.ref (a 51), .int x] (mH G a s g) (mQv G a g K)) (ih1 : ∀ (x : Int32) (s : mS) (K : mS → Prop), rc 1 x s K → xC G l kX6_readBoth d 0 0 [.ref (a 51), .int x] (mH G a s g) (mQv G a g K)) (ih2 : ∀ (x : Int32) (s : mS) (K : mS → Prop), rc 2 x s K → xC G l kX6_readPlain d 0 0 [.ref (a 51), .int x] (mH G a s g) (mQv G a g K)) (ih3 : ∀ (x : Int32) (s : mS) (K : mS → Prop), rc 3 x s K → xC G l kX6_readSum d 0 0 [.ref (a 51), .int x] (mH G a s g) (mQv G a g K)) (ih4 : ∀ (x : Int32) (s : mS) (K : mS → Prop), rc 4 x s K → xC G l kX6_readTerm d 0 0 [.ref (a 51), .int x] (mH G a s g) (mQv G a g K)) (ih5 : ∀ (x : Int32) (s : mS) (K : mS → Prop), rc 5 x s K → xC G l kX6_readPart d 0 0 [.ref (a 51), .int x] (mH G a s g) (mQv G a g K)) {x1 : Int32} {s : mS} {Kr : mS → Prop} (h : w_readPart N rc x1 s Kr) : xC G l kX6_readPart (d + 1) 0 0 [.ref (a 51), .int x1] (mH G a s g) (mQv G a g Kr) := by
  refine xC.start rfl (by decide +kernel) (Nat.le_of_ble_eq_true rfl) (lv := [some (.ref (a 51)), some (.int x1), none]) rfl ?_
  unfold w_readPart at h
  refine x_aload_0 dX6_readPart_0 ?_
  refine m_cVi0 ha rfl cv_X6_177 (Nat.le_of_ble_eq_true rfl) dX6_readPart_1 (c_fine ha (by omega) h) (fun x101 s102 h => ?_)
  refine x_if_ne 8 dX6_readPart_4 (by decide) (fun c103 => ?_) (fun c103 => ?_)
  · have h := h.1 c103
    refine x_aload_0 dX6_readPart_8 ?_
    refine m_get ha dX6_readPart_9 fa_X6_54 rfl ?_
    refine x_aload_0 dX6_readPart_12 ?_
    refine m_get ha dX6_readPart_13 fa_X6_180 rfl ?_
    obtain ⟨e104, h⟩ := h
    refine m_iald (j := 15) ha dX6_readPart_16 (by decide) (by decide) e104 ?_
    refine x_istore_2 dX6_readPart_17 (by decide) xN2_i ?_
    have h := h _ rfl
    refine x_iload_2 dX6_readPart_18 ?_
    refine x_bipush (v := 91) dX6_readPart_19 (by decide) ?_
    refine m_cSi1 rfl cs_X6_220 (Nat.le_of_ble_eq_true rfl) dX6_readPart_21 (c_sign (by omega) h) (fun x106 h => ?_)
    refine x_icmp_ne 74 dX6_readPart_24 (by decide) (fun c108 => ?_) (fun c108 => ?_)
    · have h := h.1 c108
      refine x_iload_2 dX6_readPart_74 ?_
      refine x_bipush (v := 50) dX6_readPart_75 (by decide) ?_
      refine x_icmp_ne 95 dX6_readPart_77 (by decide) (fun c109 => ?_) (fun c109 => ?_)
      · have h := h.1 c109
        exact x_le (xLe_cons (xLe_none (xLe_cons (xLe_nil)))) (c_readPart_95 ha (by omega) ih0 ih1 ih2 ih3 ih4 ih5 _ _ _ h)
      · have h := h.2 c109
        refine x_aload_0 dX6_readPart_80 ?_
        refine m_get ha dX6_readPart_81 fa_X6_57 rfl ?_
        refine x_aload_0 dX6_readPart_84 ?_
        refine m_get ha dX6_readPart_85 fa_X6_180 rfl ?_
        obtain ⟨e110, h⟩ := h
        refine m_iald (j := 16) ha dX6_readPart_88 (by decide) (by decide) e110 ?_
        refine x_sipush (v := 1000) dX6_readPart_89 (by decide) ?_
        refine x_icmp_le 111 dX6_readPart_92 (by decide) (fun c111 => ?_) (fun c111 => ?_)
        · have h := h.1 c111
          exact x_le (xLe_cons (xLe_none (xLe_cons (xLe_nil)))) (c_readPart_111 ha (by omega) ih0 ih1 ih2 ih3 ih4 ih5 _ _ _ h)
        · have h := h.2 c111
          exact x_le (xLe_cons (xLe_none (xLe_cons (xLe_nil)))) (c_readPart_95 ha (by omega) ih0 ih1 ih2 ih3 ih4 ih5 _ _ _ h)
    · have h := h.2 c108
      refine x_iload_1 dX6_readPart_27 ?_
      refine x_bipush (v := 8) dX6_readPart_28 (by decide) ?_
      refine x_icmp_ne 37 dX6_readPart_30 (by decide) (fun c112 => ?_) (fun c112 => ?_)
      · have h := h.1 c112
        exact x_le (xLe_cons (xLe_cons (xLe_none (xLe_nil)))) (c_readPart_37 ha (by omega) ih0 ih1 ih2 ih3 ih4 ih5 _ _ _ h)
      · have h := h.2 c112
        refine x_aload_0 dX6_readPart_33 ?_
        refine m_cVv0 ha rfl cv_X6_186 (Nat.le_of_ble_eq_true rfl) dX6_readPart_34 (c_faults ha (by omega) h) (fun s114 h => ?_)
        exact x_le (xLe_cons (xLe_cons (xLe_none (xLe_nil)))) (c_readPart_37 ha (by omega) ih0 ih1 ih2 ih3 ih4 ih5 _ _ _ h)
  · have h := h.2 c103
    exact x_vret dX6_readPart_7 rfl ⟨_, h, rfl, rfl⟩
def g_readTest (N : Nat × Nat) : Nat → Nat → Int32 → mS → (mS → Prop) → Prop
  | 0, _, _, _, _ => False
  | t + 1, 0, x, s, K => w_readTest N (g_readTest N t) x s K
  | t + 1, 1, x, s, K => w_readBoth N (g_readTest N t) x s K
  | t + 1, 2, x, s, K => w_readPlain N (g_readTest N t) x s K
  | t + 1, 3, x, s, K => w_readSum N (g_readTest N t) x s K
  | t + 1, 4, x, s, K => w_readTerm N (g_readTest N t) x s K
  | t + 1, 5, x, s, K => w_readPart N (g_readTest N t) x s K
  | _ + 1, _ + 6, _, _, _ => False
theorem cg_readTest {G : xG} {l : Launch} {a : Nat → Nat} {g : xH} (ha : mInj a) {N : Nat × Nat} : ∀ (t d : Nat), t + (3) ≤ d → (∀ (x : Int32) (s : mS) (K : mS → Prop), g_readTest N t 0 x s K → xC G l kX6_readTest d 0 0 [.ref (a 51), .int x] (mH G a s g) (mQv G a g K)) ∧ (∀ (x : Int32) (s : mS) (K : mS → Prop), g_readTest N t 1 x s K → xC G l kX6_readBoth d 0 0 [.ref (a 51), .int x] (mH G a s g) (mQv G a g K)) ∧ (∀ (x : Int32) (s : mS) (K : mS → Prop), g_readTest N t 2 x s K → xC G l kX6_readPlain d 0 0 [.ref (a 51), .int x] (mH G a s g) (mQv G a g K)) ∧ (∀ (x : Int32) (s : mS) (K : mS → Prop), g_readTest N t 3 x s K → xC G l kX6_readSum d 0 0 [.ref (a 51), .int x] (mH G a s g) (mQv G a g K)) ∧ (∀ (x : Int32) (s : mS) (K : mS → Prop), g_readTest N t 4 x s K → xC G l kX6_readTerm d 0 0 [.ref (a 51), .int x] (mH G a s g) (mQv G a g K)) ∧ (∀ (x : Int32) (s : mS) (K : mS → Prop), g_readTest N t 5 x s K → xC G l kX6_readPart d 0 0 [.ref (a 51), .int x] (mH G a s g) (mQv G a g K)) := by
  intro t
  induction t with
  | zero =>
    intro d _
    exact ⟨fun x s K h => absurd h (by simp [g_readTest]), fun x s K h => absurd h (by simp [g_readTest]), fun x s K h => absurd h (by simp [g_readTest]), fun x s K h => absurd h (by simp [g_readTest]), fun x s K h => absurd h (by simp [g_readTest]), fun x s K h => absurd h (by simp [g_readTest])⟩
  | succ t ih =>
    intro d hd
    obtain ⟨d, rfl⟩ : ∃ z, d = z + 1 := ⟨d - 1, by omega⟩
    obtain ⟨ih0, ih1, ih2, ih3, ih4, ih5⟩ := ih d (by omega)
    exact ⟨fun x s K h => cb_readTest ha (N := N) (by omega) ih0 ih1 ih2 ih3 ih4 ih5 (by unfold g_readTest at h; exact h), fun x s K h => cb_readBoth ha (N := N) (by omega) ih0 ih1 ih2 ih3 ih4 ih5 (by unfold g_readTest at h; exact h), fun x s K h => cb_readPlain ha (N := N) (by omega) ih0 ih1 ih2 ih3 ih4 ih5 (by unfold g_readTest at h; exact h), fun x s K h => cb_readSum ha (N := N) (by omega) ih0 ih1 ih2 ih3 ih4 ih5 (by unfold g_readTest at h; exact h), fun x s K h => cb_readTerm ha (N := N) (by omega) ih0 ih1 ih2 ih3 ih4 ih5 (by unfold g_readTest at h; exact h), fun x s K h => cb_readPart ha (N := N) (by omega) ih0 ih1 ih2 ih3 ih4 ih5 (by unfold g_readTest at h; exact h)⟩
theorem c_readTest {G : xG} {l : Launch} {a : Nat → Nat} {g : xH} (ha : mInj a) {d : Nat} {N : Nat × Nat} (hd : 1 * N.2 + 4 ≤ d) {x : Int32} {s : mS} {K : mS → Prop} (h : g_readTest N N.2 0 x s K) : xC G l kX6_readTest d 0 0 [.ref (a 51), .int x] (mH G a s g) (mQv G a g K) := (cg_readTest ha N.2 d (by omega)).1 x s K h
theorem c_readBoth {G : xG} {l : Launch} {a : Nat → Nat} {g : xH} (ha : mInj a) {d : Nat} {N : Nat × Nat} (hd : 1 * N.2 + 4 ≤ d) {x : Int32} {s : mS} {K : mS → Prop} (h : g_readTest N N.2 1 x s K) : xC G l kX6_readBoth d 0 0 [.ref (a 51), .int x] (mH G a s g) (mQv G a g K) := (cg_readTest ha N.2 d (by omega)).2.1 x s K h
theorem c_readPlain {G : xG} {l : Launch} {a : Nat → Nat} {g : xH} (ha : mInj a) {d : Nat} {N : Nat × Nat} (hd : 1 * N.2 + 4 ≤ d) {x : Int32} {s : mS} {K : mS → Prop} (h : g_readTest N N.2 2 x s K) : xC G l kX6_readPlain d 0 0 [.ref (a 51), .int x] (mH G a s g) (mQv G a g K) := (cg_readTest ha N.2 d (by omega)).2.2.1 x s K h
theorem c_readSum {G : xG} {l : Launch} {a : Nat → Nat} {g : xH} (ha : mInj a) {d : Nat} {N : Nat × Nat} (hd : 1 * N.2 + 4 ≤ d) {x : Int32} {s : mS} {K : mS → Prop} (h : g_readTest N N.2 3 x s K) : xC G l kX6_readSum d 0 0 [.ref (a 51), .int x] (mH G a s g) (mQv G a g K) := (cg_readTest ha N.2 d (by omega)).2.2.2.1 x s K h
theorem c_readTerm {G : xG} {l : Launch} {a : Nat → Nat} {g : xH} (ha : mInj a) {d : Nat} {N : Nat × Nat} (hd : 1 * N.2 + 4 ≤ d) {x : Int32} {s : mS} {K : mS → Prop} (h : g_readTest N N.2 4 x s K) : xC G l kX6_readTerm d 0 0 [.ref (a 51), .int x] (mH G a s g) (mQv G a g K) := (cg_readTest ha N.2 d (by omega)).2.2.2.2.1 x s K h
theorem c_readPart {G : xG} {l : Launch} {a : Nat → Nat} {g : xH} (ha : mInj a) {d : Nat} {N : Nat × Nat} (hd : 1 * N.2 + 4 ≤ d) {x : Int32} {s : mS} {K : mS → Prop} (h : g_readTest N N.2 5 x s K) : xC G l kX6_readPart d 0 0 [.ref (a 51), .int x] (mH G a s g) (mQv G a g K) := (cg_readTest ha N.2 d (by omega)).2.2.2.2.2 x s K h
def w_readClause_29 (N : Nat × Nat) (Kr : mS → Prop) (s : mS) : Prop :=
  (w_takes0 4 s (fun x101 s102 => ((x101 = 0 → (Kr s102)) ∧ (¬ x101 = 0 → (g_readTest N N.2 0 0 s102 (fun s105 => (Kr s105)))))))
theorem c_readClause_29 {G : xG} {l : Launch} {a : Nat → Nat} {g : xH} (ha : mInj a) {d : Nat} {N : Nat × Nat} (hd : 1 * N.2 + 4 ≤ d) (Kr : mS → Prop) (s : mS) (h : w_readClause_29 N Kr s) : xF G l kX6_readClause (d + 1) 0 0 (mQv G a g Kr) 29 [some (.ref (a 51))] [] (mH G a s g) := by
  unfold w_readClause_29 at h
  refine x_aload_0 dX6_readClause_29 ?_
  refine x_iconst (v := 4) dX6_readClause_30 (by decide) ?_
  refine m_cVi1 ha rfl cv_X6_183 (Nat.le_of_ble_eq_true rfl) dX6_readClause_31 (c_takes0 ha (by omega) h) (fun x101 s102 h => ?_)
  refine x_if_eq 42 dX6_readClause_34 (by decide) (fun c103 => ?_) (fun c103 => ?_)
  · have h := h.1 c103
    exact x_vret dX6_readClause_42 rfl ⟨_, h, rfl, rfl⟩
  · have h := h.2 c103
    refine x_aload_0 dX6_readClause_37 ?_
    refine x_iconst (v := 0) dX6_readClause_38 (by decide) ?_
    refine m_cVv1 ha rfl cv_X6_198 (Nat.le_of_ble_eq_true rfl) dX6_readClause_39 (c_readTest ha (by omega) h) (fun s105 h => ?_)
    exact x_vret dX6_readClause_42 rfl ⟨_, h, rfl, rfl⟩
def w_readClause_16 (N : Nat × Nat) (Kr : mS → Prop) (s : mS) : Prop :=
  (g_readTest N N.2 3 0 s (fun s102 => (w_readClause_29 N Kr s102)))
theorem c_readClause_16 {G : xG} {l : Launch} {a : Nat → Nat} {g : xH} (ha : mInj a) {d : Nat} {N : Nat × Nat} (hd : 1 * N.2 + 4 ≤ d) (Kr : mS → Prop) (s : mS) (h : w_readClause_16 N Kr s) : xF G l kX6_readClause (d + 1) 0 0 (mQv G a g Kr) 16 [some (.ref (a 51))] [] (mH G a s g) := by
  unfold w_readClause_16 at h
  refine x_aload_0 dX6_readClause_16 ?_
  refine x_iconst (v := 0) dX6_readClause_17 (by decide) ?_
  refine m_cVv1 ha rfl cv_X6_192 (Nat.le_of_ble_eq_true rfl) dX6_readClause_18 (c_readSum ha (by omega) h) (fun s102 h => ?_)
  refine x_goto 29 dX6_readClause_21 (by decide) ?_
  exact x_le (xLe_cons (xLe_nil)) (c_readClause_29 ha (by omega) _ _ h)
def w_readClause (N : Nat × Nat) (s : mS) (Kr : mS → Prop) : Prop :=
  (w_takes0 1 s (fun x101 s102 => ((¬ x101 = 0 → (w_readClause_16 N Kr s102)) ∧ (x101 = 0 → (w_takes0 2 s102 (fun x104 s105 => ((x104 = 0 → (w_must 3 s105 (fun s108 => (w_readClause_29 N Kr s108)))) ∧ (¬ x104 = 0 → (w_readClause_16 N Kr s105)))))))))
theorem c_readClause {G : xG} {l : Launch} {a : Nat → Nat} {g : xH} (ha : mInj a) {d : Nat} {N : Nat × Nat} (hd : 1 * N.2 + 5 ≤ d) {s : mS} {Kr : mS → Prop} (h : w_readClause N s Kr) : xC G l kX6_readClause d 0 0 [.ref (a 51)] (mH G a s g) (mQv G a g Kr) := by
  obtain ⟨d, rfl⟩ : ∃ z, d = z + 1 := ⟨d - 1, by omega⟩
  refine xC.start rfl (by decide +kernel) (Nat.le_of_ble_eq_true rfl) (lv := [some (.ref (a 51))]) rfl ?_
  unfold w_readClause at h
  refine x_aload_0 dX6_readClause_0 ?_
  refine x_iconst (v := 1) dX6_readClause_1 (by decide) ?_
  refine m_cVi1 ha rfl cv_X6_183 (Nat.le_of_ble_eq_true rfl) dX6_readClause_2 (c_takes0 ha (by omega) h) (fun x101 s102 h => ?_)
  refine x_if_ne 16 dX6_readClause_5 (by decide) (fun c103 => ?_) (fun c103 => ?_)
  · have h := h.1 c103
    exact x_le (xLe_cons (xLe_nil)) (c_readClause_16 ha (by omega) _ _ h)
  · have h := h.2 c103
    refine x_aload_0 dX6_readClause_8 ?_
    refine x_iconst (v := 2) dX6_readClause_9 (by decide) ?_
    refine m_cVi1 ha rfl cv_X6_183 (Nat.le_of_ble_eq_true rfl) dX6_readClause_10 (c_takes0 ha (by omega) h) (fun x104 s105 h => ?_)
    refine x_if_eq 24 dX6_readClause_13 (by decide) (fun c106 => ?_) (fun c106 => ?_)
    · have h := h.1 c106
      refine x_aload_0 dX6_readClause_24 ?_
      refine x_iconst (v := 3) dX6_readClause_25 (by decide) ?_
      refine m_cVv1 ha rfl cv_X6_195 (Nat.le_of_ble_eq_true rfl) dX6_readClause_26 (c_must ha (by omega) h) (fun s108 h => ?_)
      exact x_le (xLe_cons (xLe_nil)) (c_readClause_29 ha (by omega) _ _ h)
    · have h := h.2 c106
      exact x_le (xLe_cons (xLe_nil)) (c_readClause_16 ha (by omega) _ _ h)
def w_readOrder_68 (N : Nat × Nat) (Kr : mS → Prop) (s : mS) : Prop :=
  (w_takes0 4 s (fun x101 s102 => ((x101 = 0 → (Kr s102)) ∧ (¬ x101 = 0 → (g_readTest N N.2 0 0 s102 (fun s105 => (Kr s105)))))))
theorem c_readOrder_68 {G : xG} {l : Launch} {a : Nat → Nat} {g : xH} (ha : mInj a) {d : Nat} {N : Nat × Nat} (hd : 1 * N.2 + 4 ≤ d) (Kr : mS → Prop) (s : mS) (h : w_readOrder_68 N Kr s) : xF G l kX6_readOrder (d + 1) 0 0 (mQv G a g Kr) 68 [some (.ref (a 51))] [] (mH G a s g) := by
  unfold w_readOrder_68 at h
  refine x_aload_0 dX6_readOrder_68 ?_
  refine x_iconst (v := 4) dX6_readOrder_69 (by decide) ?_
  refine m_cVi1 ha rfl cv_X6_183 (Nat.le_of_ble_eq_true rfl) dX6_readOrder_70 (c_takes0 ha (by omega) h) (fun x101 s102 h => ?_)
  refine x_if_eq 81 dX6_readOrder_73 (by decide) (fun c103 => ?_) (fun c103 => ?_)
  · have h := h.1 c103
    exact x_vret dX6_readOrder_81 rfl ⟨_, h, rfl, rfl⟩
  · have h := h.2 c103
    refine x_aload_0 dX6_readOrder_76 ?_
    refine x_iconst (v := 0) dX6_readOrder_77 (by decide) ?_
    refine m_cVv1 ha rfl cv_X6_198 (Nat.le_of_ble_eq_true rfl) dX6_readOrder_78 (c_readTest ha (by omega) h) (fun s105 h => ?_)
    exact x_vret dX6_readOrder_81 rfl ⟨_, h, rfl, rfl⟩
def w_readOrder_52 (N : Nat × Nat) (Kr : mS → Prop) (s : mS) : Prop :=
  (w_takes0 27 s (fun x101 s102 => ((x101 = 0 → (w_readOrder_68 N Kr s102)) ∧ (¬ x101 = 0 → (w_mustNumber 1 20 s102 (fun s105 => (w_readOrder_68 N Kr s105)))))))
theorem c_readOrder_52 {G : xG} {l : Launch} {a : Nat → Nat} {g : xH} (ha : mInj a) {d : Nat} {N : Nat × Nat} (hd : 1 * N.2 + 4 ≤ d) (Kr : mS → Prop) (s : mS) (h : w_readOrder_52 N Kr s) : xF G l kX6_readOrder (d + 1) 0 0 (mQv G a g Kr) 52 [some (.ref (a 51))] [] (mH G a s g) := by
  unfold w_readOrder_52 at h
  refine x_aload_0 dX6_readOrder_52 ?_
  refine x_bipush (v := 27) dX6_readOrder_53 (by decide) ?_
  refine m_cVi1 ha rfl cv_X6_183 (Nat.le_of_ble_eq_true rfl) dX6_readOrder_55 (c_takes0 ha (by omega) h) (fun x101 s102 h => ?_)
  refine x_if_eq 68 dX6_readOrder_58 (by decide) (fun c103 => ?_) (fun c103 => ?_)
  · have h := h.1 c103
    exact x_le (xLe_cons (xLe_nil)) (c_readOrder_68 ha (by omega) _ _ h)
  · have h := h.2 c103
    refine x_aload_0 dX6_readOrder_61 ?_
    refine x_iconst (v := 1) dX6_readOrder_62 (by decide) ?_
    refine x_bipush (v := 20) dX6_readOrder_63 (by decide) ?_
    refine m_cVv2 ha rfl cv_X6_201 (Nat.le_of_ble_eq_true rfl) dX6_readOrder_65 (c_mustNumber ha (by omega) h) (fun s105 h => ?_)
    exact x_le (xLe_cons (xLe_nil)) (c_readOrder_68 ha (by omega) _ _ h)
def w_readOrder_18 (N : Nat × Nat) (Kr : mS → Prop) (s : mS) : Prop :=
  (g_readTest N N.2 3 0 s (fun s102 => (w_must 26 s102 (fun s104 => (g_readTest N N.2 3 0 s104 (fun s106 => (w_readOrder_52 N Kr s106)))))))
theorem c_readOrder_18 {G : xG} {l : Launch} {a : Nat → Nat} {g : xH} (ha : mInj a) {d : Nat} {N : Nat × Nat} (hd : 1 * N.2 + 4 ≤ d) (Kr : mS → Prop) (s : mS) (h : w_readOrder_18 N Kr s) : xF G l kX6_readOrder (d + 1) 0 0 (mQv G a g Kr) 18 [some (.ref (a 51))] [] (mH G a s g) := by
  unfold w_readOrder_18 at h
  refine x_aload_0 dX6_readOrder_18 ?_
  refine x_iconst (v := 0) dX6_readOrder_19 (by decide) ?_
  refine m_cVv1 ha rfl cv_X6_192 (Nat.le_of_ble_eq_true rfl) dX6_readOrder_20 (c_readSum ha (by omega) h) (fun s102 h => ?_)
  refine x_aload_0 dX6_readOrder_23 ?_
  refine x_bipush (v := 26) dX6_readOrder_24 (by decide) ?_
  refine m_cVv1 ha rfl cv_X6_195 (Nat.le_of_ble_eq_true rfl) dX6_readOrder_26 (c_must ha (by omega) h) (fun s104 h => ?_)
  refine x_aload_0 dX6_readOrder_29 ?_
  refine x_iconst (v := 0) dX6_readOrder_30 (by decide) ?_
  refine m_cVv1 ha rfl cv_X6_192 (Nat.le_of_ble_eq_true rfl) dX6_readOrder_31 (c_readSum ha (by omega) h) (fun s106 h => ?_)
  refine x_goto 52 dX6_readOrder_34 (by decide) ?_
  exact x_le (xLe_cons (xLe_nil)) (c_readOrder_52 ha (by omega) _ _ h)
def w_readOrder (N : Nat × Nat) (s : mS) (Kr : mS → Prop) : Prop :=
  (w_takes0 22 s (fun x101 s102 => ((¬ x101 = 0 → (w_readOrder_18 N Kr s102)) ∧ (x101 = 0 → (w_takes0 23 s102 (fun x104 s105 => ((x104 = 0 → (w_takes0 24 s105 (fun x107 s108 => ((¬ x107 = 0 → (w_readOrder_52 N Kr s108)) ∧ (x107 = 0 → (w_must 25 s108 (fun s111 => (w_readOrder_52 N Kr s111)))))))) ∧ (¬ x104 = 0 → (w_readOrder_18 N Kr s105)))))))))
theorem c_readOrder {G : xG} {l : Launch} {a : Nat → Nat} {g : xH} (ha : mInj a) {d : Nat} {N : Nat × Nat} (hd : 1 * N.2 + 5 ≤ d) {s : mS} {Kr : mS → Prop} (h : w_readOrder N s Kr) : xC G l kX6_readOrder d 0 0 [.ref (a 51)] (mH G a s g) (mQv G a g Kr) := by
  obtain ⟨d, rfl⟩ : ∃ z, d = z + 1 := ⟨d - 1, by omega⟩
  refine xC.start rfl (by decide +kernel) (Nat.le_of_ble_eq_true rfl) (lv := [some (.ref (a 51))]) rfl ?_
  unfold w_readOrder at h
  refine x_aload_0 dX6_readOrder_0 ?_
  refine x_bipush (v := 22) dX6_readOrder_1 (by decide) ?_
  refine m_cVi1 ha rfl cv_X6_183 (Nat.le_of_ble_eq_true rfl) dX6_readOrder_3 (c_takes0 ha (by omega) h) (fun x101 s102 h => ?_)
  refine x_if_ne 18 dX6_readOrder_6 (by decide) (fun c103 => ?_) (fun c103 => ?_)
  · have h := h.1 c103
    exact x_le (xLe_cons (xLe_nil)) (c_readOrder_18 ha (by omega) _ _ h)
  · have h := h.2 c103
    refine x_aload_0 dX6_readOrder_9 ?_
    refine x_bipush (v := 23) dX6_readOrder_10 (by decide) ?_
    refine m_cVi1 ha rfl cv_X6_183 (Nat.le_of_ble_eq_true rfl) dX6_readOrder_12 (c_takes0 ha (by omega) h) (fun x104 s105 h => ?_)
    refine x_if_eq 37 dX6_readOrder_15 (by decide) (fun c106 => ?_) (fun c106 => ?_)
    · have h := h.1 c106
      refine x_aload_0 dX6_readOrder_37 ?_
      refine x_bipush (v := 24) dX6_readOrder_38 (by decide) ?_
      refine m_cVi1 ha rfl cv_X6_183 (Nat.le_of_ble_eq_true rfl) dX6_readOrder_40 (c_takes0 ha (by omega) h) (fun x107 s108 h => ?_)
      refine x_if_ne 52 dX6_readOrder_43 (by decide) (fun c109 => ?_) (fun c109 => ?_)
      · have h := h.1 c109
        exact x_le (xLe_cons (xLe_nil)) (c_readOrder_52 ha (by omega) _ _ h)
      · have h := h.2 c109
        refine x_aload_0 dX6_readOrder_46 ?_
        refine x_bipush (v := 25) dX6_readOrder_47 (by decide) ?_
        refine m_cVv1 ha rfl cv_X6_195 (Nat.le_of_ble_eq_true rfl) dX6_readOrder_49 (c_must ha (by omega) h) (fun s111 h => ?_)
        exact x_le (xLe_cons (xLe_nil)) (c_readOrder_52 ha (by omega) _ _ h)
    · have h := h.2 c106
      exact x_le (xLe_cons (xLe_nil)) (c_readOrder_18 ha (by omega) _ _ h)
def w_readOne (N : Nat × Nat) (s : mS) (Kr : mS → Prop) : Prop :=
  (((mFd s 10) = 0 → (w_readClause N s (fun s103 => (Kr s103)))) ∧ (¬ (mFd s 10) = 0 → (w_readOrder N s (fun s105 => (Kr s105)))))
theorem c_readOne {G : xG} {l : Launch} {a : Nat → Nat} {g : xH} (ha : mInj a) {d : Nat} {N : Nat × Nat} (hd : 1 * N.2 + 6 ≤ d) {s : mS} {Kr : mS → Prop} (h : w_readOne N s Kr) : xC G l kX6_readOne d 0 0 [.ref (a 51)] (mH G a s g) (mQv G a g Kr) := by
  obtain ⟨d, rfl⟩ : ∃ z, d = z + 1 := ⟨d - 1, by omega⟩
  refine xC.start rfl (by decide +kernel) (Nat.le_of_ble_eq_true rfl) (lv := [some (.ref (a 51))]) rfl ?_
  unfold w_readOne at h
  refine x_aload_0 dX6_readOne_0 ?_
  refine m_get ha dX6_readOne_1 fa_X6_204 rfl ?_
  refine x_if_eq 14 dX6_readOne_4 (by decide) (fun c101 => ?_) (fun c101 => ?_)
  · have h := h.1 c101
    refine x_aload_0 dX6_readOne_14 ?_
    refine m_cVv0 ha rfl cv_X6_211 (Nat.le_of_ble_eq_true rfl) dX6_readOne_15 (c_readClause ha (by omega) h) (fun s103 h => ?_)
    exact x_vret dX6_readOne_18 rfl ⟨_, h, rfl, rfl⟩
  · have h := h.2 c101
    refine x_aload_0 dX6_readOne_7 ?_
    refine m_cVv0 ha rfl cv_X6_208 (Nat.le_of_ble_eq_true rfl) dX6_readOne_8 (c_readOrder ha (by omega) h) (fun s105 h => ?_)
    refine x_goto 18 dX6_readOne_11 (by decide) ?_
    exact x_vret dX6_readOne_18 rfl ⟨_, h, rfl, rfl⟩
def w_wordOf_57 (N : Nat × Nat) (x1 : Int32) (x2 : Int32) (x3 : Int32) (x4 : Int32) (x5 : Int32) (Kr : Int32 → mS → Prop) (K : Int32 → mS → Prop) : Nat → Int32 → Int32 → mS → Prop
  | 0, _, _, _ => False
  | t + 1, x6, x7, s => ((x5 ≤ x7 → (K x6 s)) ∧ (¬ x5 ≤ x7 → ((x6 = 0 → (K x6 s)) ∧ (¬ x6 = 0 → (vp_in (x4 + x7) 137 ∧ (vp_in (x1 + x7) 400 ∧ ((¬ (mAt s 7 (x4 + x7)) = (mAt s 11 (x1 + x7)) → (∀ x106 : Int32, x106 = x7 + 1 → ((fun x6 x7 s => w_wordOf_57 N x1 x2 x3 x4 x5 Kr K t x6 x7 s) 0 x106 s))) ∧ ((mAt s 7 (x4 + x7)) = (mAt s 11 (x1 + x7)) → (∀ x107 : Int32, x107 = x7 + 1 → ((fun x6 x7 s => w_wordOf_57 N x1 x2 x3 x4 x5 Kr K t x6 x7 s) 1 x107 s))))))))))
theorem c_wordOf_57 {G : xG} {l : Launch} {a : Nat → Nat} {g : xH} (ha : mInj a) {d : Nat} {N : Nat × Nat} (hd : 0 ≤ d) (Kr : Int32 → mS → Prop) (K : Int32 → mS → Prop) (x1 : Int32) (x2 : Int32) (x3 : Int32) (x4 : Int32) (x5 : Int32) : ∀ (t : Nat) (x6 : Int32) (x7 : Int32) (s : mS) , w_wordOf_57 N x1 x2 x3 x4 x5 Kr K t x6 x7 s → (∀ (z6 : Int32) (s : mS), K z6 s → xF G l kX6_wordOf (d + 1) 0 0 (mQi G a g Kr) 104 [some (.ref (a 51)), some (.int x1), some (.int x2), some (.int x3), some (.int x4), some (.int x5), some (.int z6), none] [] (mH G a s g)) → xF G l kX6_wordOf (d + 1) 0 0 (mQi G a g Kr) 57 [some (.ref (a 51)), some (.int x1), some (.int x2), some (.int x3), some (.int x4), some (.int x5), some (.int x6), some (.int x7)] [] (mH G a s g) := by
  intro t
  induction t with
  | zero =>
    intro _ _ _ h _
    exact absurd h (by simp [w_wordOf_57])
  | succ t ih =>
    intro x6 x7 s h hK
    have hR := fun x6 x7 s h => ih x6 x7 s h hK
    unfold w_wordOf_57 at h
    refine x_iload_7 dX6_wordOf_57 ?_
    refine x_iload_5 dX6_wordOf_59 ?_
    refine x_icmp_ge 104 dX6_wordOf_61 (by decide) (fun c101 => ?_) (fun c101 => ?_)
    · have h := h.1 c101
      exact x_le (xLe_cons (xLe_cons (xLe_cons (xLe_cons (xLe_cons (xLe_cons (xLe_cons (xLe_none (xLe_nil))))))))) (hK _ _ h)
    · have h := h.2 c101
      refine x_iload_6 dX6_wordOf_64 ?_
      refine x_if_eq 104 dX6_wordOf_66 (by decide) (fun c102 => ?_) (fun c102 => ?_)
      · have h := h.1 c102
        exact x_le (xLe_cons (xLe_cons (xLe_cons (xLe_cons (xLe_cons (xLe_cons (xLe_cons (xLe_none (xLe_nil))))))))) (hK _ _ h)
      · have h := h.2 c102
        refine x_aload_0 dX6_wordOf_69 ?_
        refine m_get ha dX6_wordOf_70 fa_X6_41 rfl ?_
        refine x_iload_4 dX6_wordOf_73 ?_
        refine x_iload_7 dX6_wordOf_75 ?_
        refine x_iadd dX6_wordOf_77 ?_
        obtain ⟨e103, h⟩ := h
        refine m_bald (j := 7) ha dX6_wordOf_78 (by decide) (by decide) e103 ?_
        refine x_aload_0 dX6_wordOf_79 ?_
        refine m_get ha dX6_wordOf_80 fa_X6_45 rfl ?_
        refine x_iload_1 dX6_wordOf_83 ?_
        refine x_iload_7 dX6_wordOf_84 ?_
        refine x_iadd dX6_wordOf_86 ?_
        obtain ⟨e104, h⟩ := h
        refine m_bald (j := 11) ha dX6_wordOf_87 (by decide) (by decide) e104 ?_
        refine x_icmp_ne 95 dX6_wordOf_88 (by decide) (fun c105 => ?_) (fun c105 => ?_)
        · have h := h.1 c105
          refine x_iconst (v := 0) dX6_wordOf_95 (by decide) ?_
          refine x_istore_6 dX6_wordOf_96 (by decide) xN2_i ?_
          refine x_iinc_7 (v := 1) dX6_wordOf_98 (by decide) (by decide) xN2_i ?_
          have h := h _ rfl
          refine x_goto 57 dX6_wordOf_101 (by decide) ?_
          exact x_le (xLe_cons (xLe_cons (xLe_cons (xLe_cons (xLe_cons (xLe_cons (xLe_cons (xLe_cons (xLe_nil))))))))) (hR _ _ _ h)
        · have h := h.2 c105
          refine x_iconst (v := 1) dX6_wordOf_91 (by decide) ?_
          refine x_goto 96 dX6_wordOf_92 (by decide) ?_
          refine x_istore_6 dX6_wordOf_96 (by decide) xN2_i ?_
          refine x_iinc_7 (v := 1) dX6_wordOf_98 (by decide) (by decide) xN2_i ?_
          have h := h _ rfl
          refine x_goto 57 dX6_wordOf_101 (by decide) ?_
          exact x_le (xLe_cons (xLe_cons (xLe_cons (xLe_cons (xLe_cons (xLe_cons (xLe_cons (xLe_cons (xLe_nil))))))))) (hR _ _ _ h)
def w_wordOf_52 (N : Nat × Nat) (x1 : Int32) (x2 : Int32) (x3 : Int32) (x4 : Int32) (x5 : Int32) (y0 : Int32) (Kr : Int32 → mS → Prop) (K : mS → Prop) (R : Int32 → Int32 → mS → Prop) (s : mS) : Prop :=
  (w_wordOf_57 N x1 x2 x3 x4 x5 Kr (fun x101 s102 => ((x101 = 0 → (∀ x104 : Int32, x104 = x4 + (x5 + 1) → (∀ x105 : Int32, x105 = x3 + 1 → (R x105 x104 s102)))) ∧ (¬ x101 = 0 → (Kr x3 s102)))) N.1 y0 0 s)
theorem c_wordOf_52 {G : xG} {l : Launch} {a : Nat → Nat} {g : xH} (ha : mInj a) {d : Nat} {N : Nat × Nat} (hd : 0 ≤ d) (x1 : Int32) (x2 : Int32) (x3 : Int32) (x4 : Int32) (x5 : Int32) (y0 : Int32) (Kr : Int32 → mS → Prop) (K : mS → Prop) (R : Int32 → Int32 → mS → Prop) (s : mS) (h : w_wordOf_52 N x1 x2 x3 x4 x5 y0 Kr K R s) (hK : ∀ (s : mS), K s → xF G l kX6_wordOf (d + 1) 0 0 (mQi G a g Kr) 126 [some (.ref (a 51)), none, none, none, none, none, none, none] [] (mH G a s g)) (hR : ∀ (z3 : Int32) (z4 : Int32) (s : mS), R z3 z4 s → xF G l kX6_wordOf (d + 1) 0 0 (mQi G a g Kr) 5 [some (.ref (a 51)), some (.int x1), some (.int x2), some (.int z3), some (.int z4), none, none, none] [] (mH G a s g)) : xF G l kX6_wordOf (d + 1) 0 0 (mQi G a g Kr) 52 [some (.ref (a 51)), some (.int x1), some (.int x2), some (.int x3), some (.int x4), some (.int x5), none, none] [.int y0] (mH G a s g) := by
  unfold w_wordOf_52 at h
  refine x_istore_6 dX6_wordOf_52 (by decide) xN2_i ?_
  refine x_iconst (v := 0) dX6_wordOf_54 (by decide) ?_
  refine x_istore_7 dX6_wordOf_55 (by decide) xN2_i ?_
  refine x_le (xLe_cons (xLe_cons (xLe_cons (xLe_cons (xLe_cons (xLe_cons (xLe_cons (xLe_cons (xLe_nil))))))))) (c_wordOf_57 ha (by omega) _ _ _ _ _ _ _ _ _ _ _ h (fun x101 s102 h => ?_))
  refine x_iload_6 dX6_wordOf_104 ?_
  refine x_if_eq 111 dX6_wordOf_106 (by decide) (fun c103 => ?_) (fun c103 => ?_)
  · have h := h.1 c103
    refine x_iload_4 dX6_wordOf_111 ?_
    refine x_iload_5 dX6_wordOf_113 ?_
    refine x_iconst (v := 1) dX6_wordOf_115 (by decide) ?_
    refine x_iadd dX6_wordOf_116 ?_
    refine x_iadd dX6_wordOf_117 ?_
    refine x_istore_4 dX6_wordOf_118 (by decide) xN2_i ?_
    have h := h _ rfl
    refine x_iinc_3 (v := 1) dX6_wordOf_120 (by decide) (by decide) xN2_i ?_
    have h := h _ rfl
    refine x_goto 5 dX6_wordOf_123 (by decide) ?_
    exact x_le (xLe_cons (xLe_cons (xLe_cons (xLe_cons (xLe_cons (xLe_none (xLe_none (xLe_cons (xLe_nil))))))))) (hR _ _ _ h)
  · have h := h.2 c103
    refine x_iload_3 dX6_wordOf_109 ?_
    exact x_iret dX6_wordOf_110 rfl ⟨_, _, h, rfl, rfl⟩
def w_wordOf_18 (N : Nat × Nat) (x1 : Int32) (x2 : Int32) (x3 : Int32) (x4 : Int32) (Kr : Int32 → mS → Prop) (K : Int32 → mS → Prop) : Nat → Int32 → mS → Prop
  | 0, _, _ => False
  | t + 1, x5, s => (vp_in (x4 + x5) 137 ∧ (((mAt s 7 (x4 + x5)) = 32 → (K x5 s)) ∧ (¬ (mAt s 7 (x4 + x5)) = 32 → (∀ x103 : Int32, x103 = x5 + 1 → ((fun x5 s => w_wordOf_18 N x1 x2 x3 x4 Kr K t x5 s) x103 s)))))
theorem c_wordOf_18 {G : xG} {l : Launch} {a : Nat → Nat} {g : xH} (ha : mInj a) {d : Nat} {N : Nat × Nat} (hd : 0 ≤ d) (Kr : Int32 → mS → Prop) (K : Int32 → mS → Prop) (x1 : Int32) (x2 : Int32) (x3 : Int32) (x4 : Int32) : ∀ (t : Nat) (x5 : Int32) (s : mS) , w_wordOf_18 N x1 x2 x3 x4 Kr K t x5 s → (∀ (z5 : Int32) (s : mS), K z5 s → xF G l kX6_wordOf (d + 1) 0 0 (mQi G a g Kr) 39 [some (.ref (a 51)), some (.int x1), some (.int x2), some (.int x3), some (.int x4), some (.int z5), none, none] [] (mH G a s g)) → xF G l kX6_wordOf (d + 1) 0 0 (mQi G a g Kr) 18 [some (.ref (a 51)), some (.int x1), some (.int x2), some (.int x3), some (.int x4), some (.int x5), none, none] [] (mH G a s g) := by
  intro t
  induction t with
  | zero =>
    intro _ _ h _
    exact absurd h (by simp [w_wordOf_18])
  | succ t ih =>
    intro x5 s h hK
    have hR := fun x5 s h => ih x5 s h hK
    unfold w_wordOf_18 at h
    refine x_aload_0 dX6_wordOf_18 ?_
    refine m_get ha dX6_wordOf_19 fa_X6_41 rfl ?_
    refine x_iload_4 dX6_wordOf_22 ?_
    refine x_iload_5 dX6_wordOf_24 ?_
    refine x_iadd dX6_wordOf_26 ?_
    obtain ⟨e101, h⟩ := h
    refine m_bald (j := 7) ha dX6_wordOf_27 (by decide) (by decide) e101 ?_
    refine x_bipush (v := 32) dX6_wordOf_28 (by decide) ?_
    refine x_icmp_eq 39 dX6_wordOf_30 (by decide) (fun c102 => ?_) (fun c102 => ?_)
    · have h := h.1 c102
      exact x_le (xLe_cons (xLe_cons (xLe_cons (xLe_cons (xLe_cons (xLe_cons (xLe_cons (xLe_cons (xLe_nil))))))))) (hK _ _ h)
    · have h := h.2 c102
      refine x_iinc_5 (v := 1) dX6_wordOf_33 (by decide) (by decide) xN2_i ?_
      have h := h _ rfl
      refine x_goto 18 dX6_wordOf_36 (by decide) ?_
      exact x_le (xLe_cons (xLe_cons (xLe_cons (xLe_cons (xLe_cons (xLe_cons (xLe_cons (xLe_cons (xLe_nil))))))))) (hR _ _ h)
def w_wordOf_5 (N : Nat × Nat) (x1 : Int32) (x2 : Int32) (Kr : Int32 → mS → Prop) (K : mS → Prop) : Nat → Int32 → Int32 → mS → Prop
  | 0, _, _, _ => False
  | t + 1, x3, x4, s => ((137 ≤ x4 → (K s)) ∧ (¬ 137 ≤ x4 → (w_wordOf_18 N x1 x2 x3 x4 Kr (fun x102 s103 => ((¬ x102 = (x2 - x1) → (w_wordOf_52 N x1 x2 x3 x4 x102 0 Kr K (fun x3 x4 s => w_wordOf_5 N x1 x2 Kr K t x3 x4 s) s103)) ∧ (x102 = (x2 - x1) → (w_wordOf_52 N x1 x2 x3 x4 x102 1 Kr K (fun x3 x4 s => w_wordOf_5 N x1 x2 Kr K t x3 x4 s) s103)))) N.1 0 s)))
theorem c_wordOf_5 {G : xG} {l : Launch} {a : Nat → Nat} {g : xH} (ha : mInj a) {d : Nat} {N : Nat × Nat} (hd : 0 ≤ d) (Kr : Int32 → mS → Prop) (K : mS → Prop) (x1 : Int32) (x2 : Int32) : ∀ (t : Nat) (x3 : Int32) (x4 : Int32) (s : mS) , w_wordOf_5 N x1 x2 Kr K t x3 x4 s → (∀ (s : mS), K s → xF G l kX6_wordOf (d + 1) 0 0 (mQi G a g Kr) 126 [some (.ref (a 51)), none, none, none, none, none, none, none] [] (mH G a s g)) → xF G l kX6_wordOf (d + 1) 0 0 (mQi G a g Kr) 5 [some (.ref (a 51)), some (.int x1), some (.int x2), some (.int x3), some (.int x4), none, none, none] [] (mH G a s g) := by
  intro t
  induction t with
  | zero =>
    intro _ _ _ h _
    exact absurd h (by simp [w_wordOf_5])
  | succ t ih =>
    intro x3 x4 s h hK
    have hR := fun x3 x4 s h => ih x3 x4 s h hK
    unfold w_wordOf_5 at h
    refine x_iload_4 dX6_wordOf_5 ?_
    refine x_aload_0 dX6_wordOf_7 ?_
    refine m_get ha dX6_wordOf_8 fa_X6_41 rfl ?_
    refine m_alen (j := 7) (v := 137) ha dX6_wordOf_11 (by decide) (by decide) rfl (by decide) ?_
    refine x_icmp_ge 126 dX6_wordOf_12 (by decide) (fun c101 => ?_) (fun c101 => ?_)
    · have h := h.1 c101
      exact x_le (xLe_cons (xLe_none (xLe_none (xLe_none (xLe_none (xLe_cons (xLe_cons (xLe_cons (xLe_nil))))))))) (hK _ h)
    · have h := h.2 c101
      refine x_iconst (v := 0) dX6_wordOf_15 (by decide) ?_
      refine x_istore_5 dX6_wordOf_16 (by decide) xN2_i ?_
      refine x_le (xLe_cons (xLe_cons (xLe_cons (xLe_cons (xLe_cons (xLe_cons (xLe_cons (xLe_cons (xLe_nil))))))))) (c_wordOf_18 ha (by omega) _ _ _ _ _ _ _ _ _ h (fun x102 s103 h => ?_))
      refine x_iload_5 dX6_wordOf_39 ?_
      refine x_iload_2 dX6_wordOf_41 ?_
      refine x_iload_1 dX6_wordOf_42 ?_
      refine x_isub dX6_wordOf_43 ?_
      refine x_icmp_ne 51 dX6_wordOf_44 (by decide) (fun c104 => ?_) (fun c104 => ?_)
      · have h := h.1 c104
        refine x_iconst (v := 0) dX6_wordOf_51 (by decide) ?_
        exact x_le (xLe_cons (xLe_cons (xLe_cons (xLe_cons (xLe_cons (xLe_cons (xLe_cons (xLe_cons (xLe_nil))))))))) (c_wordOf_52 ha (by omega) _ _ _ _ _ _ _ _ _ _ h hK hR)
      · have h := h.2 c104
        refine x_iconst (v := 1) dX6_wordOf_47 (by decide) ?_
        refine x_goto 52 dX6_wordOf_48 (by decide) ?_
        exact x_le (xLe_cons (xLe_cons (xLe_cons (xLe_cons (xLe_cons (xLe_cons (xLe_cons (xLe_cons (xLe_nil))))))))) (c_wordOf_52 ha (by omega) _ _ _ _ _ _ _ _ _ _ h hK hR)
def w_wordOf (N : Nat × Nat) (x1 : Int32) (x2 : Int32) (s : mS) (Kr : Int32 → mS → Prop) : Prop :=
  (w_wordOf_5 N x1 x2 Kr (fun s101 => (Kr 0 s101)) N.1 1 0 s)
theorem c_wordOf {G : xG} {l : Launch} {a : Nat → Nat} {g : xH} (ha : mInj a) {d : Nat} {N : Nat × Nat} (hd : 1 ≤ d) {x1 : Int32} {x2 : Int32} {s : mS} {Kr : Int32 → mS → Prop} (h : w_wordOf N x1 x2 s Kr) : xC G l kX6_wordOf d 0 0 [.ref (a 51), .int x1, .int x2] (mH G a s g) (mQi G a g Kr) := by
  obtain ⟨d, rfl⟩ : ∃ z, d = z + 1 := ⟨d - 1, by omega⟩
  refine xC.start rfl (by decide +kernel) (Nat.le_of_ble_eq_true rfl) (lv := [some (.ref (a 51)), some (.int x1), some (.int x2), none, none, none, none, none]) rfl ?_
  unfold w_wordOf at h
  refine x_iconst (v := 1) dX6_wordOf_0 (by decide) ?_
  refine x_istore_3 dX6_wordOf_1 (by decide) xN2_i ?_
  refine x_iconst (v := 0) dX6_wordOf_2 (by decide) ?_
  refine x_istore_4 dX6_wordOf_3 (by decide) xN2_i ?_
  refine x_le (xLe_cons (xLe_cons (xLe_cons (xLe_cons (xLe_cons (xLe_cons (xLe_cons (xLe_cons (xLe_nil))))))))) (c_wordOf_5 ha (by omega) _ _ _ _ _ _ _ _ h (fun s101 h => ?_))
  refine x_iconst (v := 0) dX6_wordOf_126 (by decide) ?_
  exact x_iret dX6_wordOf_127 rfl ⟨_, _, h, rfl, rfl⟩
def w_splits_169 (N : Nat × Nat) (x1 : Int32) (x3 : Int32) (x4 : Int32) (Kr : mS → Prop) (K : mS → Prop) : Nat → Int32 → mS → Prop
  | 0, _, _ => False
  | t + 1, x5, s => ((x4 ≤ x5 → (K s)) ∧ (¬ x4 ≤ x5 → (w_isDigit x3 (fun x102 => ((x102 = 0 → (K s)) ∧ (¬ x102 = 0 → (vp_in (mFd s 18) 401 ∧ (((mAt s 16 (mFd s 18)) ≤ 1000000 → (vp_in (mFd s 18) 401 ∧ (vp_in x5 400 ∧ (vp_in (mFd s 18) 401 ∧ (∀ s110 : mS, s110 = mI s 16 (mFd s 18) (((10 * (mAt s 16 (mFd s 18))) + (mAt s 11 x5)) - 48) → (∀ x111 : Int32, x111 = x5 + 1 → ((fun x5 s => w_splits_169 N x1 x3 x4 Kr K t x5 s) x111 s110))))))) ∧ (¬ (mAt s 16 (mFd s 18)) ≤ 1000000 → (vp_in (mFd s 18) 401 ∧ (vp_in (mFd s 18) 401 ∧ (∀ s114 : mS, s114 = mI s 16 (mFd s 18) (mAt s 16 (mFd s 18)) → (∀ x115 : Int32, x115 = x5 + 1 → ((fun x5 s => w_splits_169 N x1 x3 x4 Kr K t x5 s) x115 s114))))))))))))))
theorem c_splits_169 {G : xG} {l : Launch} {a : Nat → Nat} {g : xH} (ha : mInj a) {d : Nat} {N : Nat × Nat} (hd : 1 ≤ d) (Kr : mS → Prop) (K : mS → Prop) (x1 : Int32) (x3 : Int32) (x4 : Int32) : ∀ (t : Nat) (x5 : Int32) (s : mS) , w_splits_169 N x1 x3 x4 Kr K t x5 s → (∀ (s : mS), K s → xF G l kX6_splits (d + 1) 0 0 (mQv G a g Kr) 247 [some (.ref (a 51)), some (.int x1), none, none, some (.int x4), none] [] (mH G a s g)) → xF G l kX6_splits (d + 1) 0 0 (mQv G a g Kr) 169 [some (.ref (a 51)), some (.int x1), none, some (.int x3), some (.int x4), some (.int x5)] [] (mH G a s g) := by
  intro t
  induction t with
  | zero =>
    intro _ _ h _
    exact absurd h (by simp [w_splits_169])
  | succ t ih =>
    intro x5 s h hK
    have hR := fun x5 s h => ih x5 s h hK
    unfold w_splits_169 at h
    refine x_iload_5 dX6_splits_169 ?_
    refine x_iload_4 dX6_splits_171 ?_
    refine x_icmp_ge 247 dX6_splits_173 (by decide) (fun c101 => ?_) (fun c101 => ?_)
    · have h := h.1 c101
      exact x_le (xLe_cons (xLe_cons (xLe_cons (xLe_none (xLe_cons (xLe_none (xLe_nil))))))) (hK _ h)
    · have h := h.2 c101
      refine x_iload_3 dX6_splits_176 ?_
      refine m_cSi1 rfl cs_X6_166 (Nat.le_of_ble_eq_true rfl) dX6_splits_177 (c_isDigit (by omega) h) (fun x102 h => ?_)
      refine x_if_eq 247 dX6_splits_180 (by decide) (fun c104 => ?_) (fun c104 => ?_)
      · have h := h.1 c104
        exact x_le (xLe_cons (xLe_cons (xLe_cons (xLe_none (xLe_cons (xLe_none (xLe_nil))))))) (hK _ h)
      · have h := h.2 c104
        refine x_aload_0 dX6_splits_183 ?_
        refine m_get ha dX6_splits_184 fa_X6_57 rfl ?_
        refine x_aload_0 dX6_splits_187 ?_
        refine m_get ha dX6_splits_188 fa_X6_160 rfl ?_
        refine x_aload_0 dX6_splits_191 ?_
        refine m_get ha dX6_splits_192 fa_X6_57 rfl ?_
        refine x_aload_0 dX6_splits_195 ?_
        refine m_get ha dX6_splits_196 fa_X6_160 rfl ?_
        obtain ⟨e105, h⟩ := h
        refine m_iald (j := 16) ha dX6_splits_199 (by decide) (by decide) e105 ?_
        refine x_ldc dX6_splits_200 q1942 ?_
        refine x_icmp_le 217 dX6_splits_202 (by decide) (fun c106 => ?_) (fun c106 => ?_)
        · have h := h.1 c106
          refine x_bipush (v := 10) dX6_splits_217 (by decide) ?_
          refine x_aload_0 dX6_splits_219 ?_
          refine m_get ha dX6_splits_220 fa_X6_57 rfl ?_
          refine x_aload_0 dX6_splits_223 ?_
          refine m_get ha dX6_splits_224 fa_X6_160 rfl ?_
          obtain ⟨e107, h⟩ := h
          refine m_iald (j := 16) ha dX6_splits_227 (by decide) (by decide) e107 ?_
          refine x_imul dX6_splits_228 ?_
          refine x_aload_0 dX6_splits_229 ?_
          refine m_get ha dX6_splits_230 fa_X6_45 rfl ?_
          refine x_iload_5 dX6_splits_233 ?_
          obtain ⟨e108, h⟩ := h
          refine m_bald (j := 11) ha dX6_splits_235 (by decide) (by decide) e108 ?_
          refine x_iadd dX6_splits_236 ?_
          refine x_bipush (v := 48) dX6_splits_237 (by decide) ?_
          refine x_isub dX6_splits_239 ?_
          obtain ⟨e109, h⟩ := h
          refine m_iast (j := 16) ha dX6_splits_240 (by decide) (by decide) e109 ?_
          have h := h _ rfl
          refine x_iinc_5 (v := 1) dX6_splits_241 (by decide) (by decide) xN2_i ?_
          have h := h _ rfl
          refine x_goto 169 dX6_splits_244 (by decide) ?_
          exact x_le (xLe_cons (xLe_cons (xLe_cons (xLe_cons (xLe_cons (xLe_cons (xLe_nil))))))) (hR _ _ h)
        · have h := h.2 c106
          refine x_aload_0 dX6_splits_205 ?_
          refine m_get ha dX6_splits_206 fa_X6_57 rfl ?_
          refine x_aload_0 dX6_splits_209 ?_
          refine m_get ha dX6_splits_210 fa_X6_160 rfl ?_
          obtain ⟨e112, h⟩ := h
          refine m_iald (j := 16) ha dX6_splits_213 (by decide) (by decide) e112 ?_
          refine x_goto 240 dX6_splits_214 (by decide) ?_
          obtain ⟨e113, h⟩ := h
          refine m_iast (j := 16) ha dX6_splits_240 (by decide) (by decide) e113 ?_
          have h := h _ rfl
          refine x_iinc_5 (v := 1) dX6_splits_241 (by decide) (by decide) xN2_i ?_
          have h := h _ rfl
          refine x_goto 169 dX6_splits_244 (by decide) ?_
          exact x_le (xLe_cons (xLe_cons (xLe_cons (xLe_cons (xLe_cons (xLe_cons (xLe_nil))))))) (hR _ _ h)
def w_splits_165 (N : Nat × Nat) (x1 : Int32) (x2 : Int32) (x3 : Int32) (x4 : Int32) (y1 : Int32) (y2 : Int32) (Kr : mS → Prop) (K : mS → Prop) (R : Int32 → mS → Prop) (s : mS) : Prop :=
  (vp_in y1 401 ∧ (∀ s102 : mS, s102 = mI s 15 y1 y2 → (w_splits_169 N x1 x3 x4 Kr (fun s103 => (∀ s104 : mS, s104 = mF s103 18 ((mFd s103 18) + 1) → (R x4 s104))) N.1 x2 s102)))
theorem c_splits_165 {G : xG} {l : Launch} {a : Nat → Nat} {g : xH} (ha : mInj a) {d : Nat} {N : Nat × Nat} (hd : 1 ≤ d) (x1 : Int32) (x2 : Int32) (x3 : Int32) (x4 : Int32) (y1 : Int32) (y2 : Int32) (Kr : mS → Prop) (K : mS → Prop) (R : Int32 → mS → Prop) (s : mS) (h : w_splits_165 N x1 x2 x3 x4 y1 y2 Kr K R s) (hK : ∀ (s : mS), K s → xF G l kX6_splits (d + 1) 0 0 (mQv G a g Kr) 263 [some (.ref (a 51)), some (.int x1), none, none, none, none] [] (mH G a s g)) (hR : ∀ (z2 : Int32) (s : mS), R z2 s → xF G l kX6_splits (d + 1) 0 0 (mQv G a g Kr) 7 [some (.ref (a 51)), some (.int x1), some (.int z2), none, none, none] [] (mH G a s g)) : xF G l kX6_splits (d + 1) 0 0 (mQv G a g Kr) 165 [some (.ref (a 51)), some (.int x1), some (.int x2), some (.int x3), some (.int x4), none] [.int y2, .int y1, .ref (a 15)] (mH G a s g) := by
  unfold w_splits_165 at h
  obtain ⟨e101, h⟩ := h
  refine m_iast (j := 15) ha dX6_splits_165 (by decide) (by decide) e101 ?_
  have h := h _ rfl
  refine x_iload_2 dX6_splits_166 ?_
  refine x_istore_5 dX6_splits_167 (by decide) xN2_i ?_
  refine x_le (xLe_cons (xLe_cons (xLe_none (xLe_cons (xLe_cons (xLe_cons (xLe_nil))))))) (c_splits_169 ha (by omega) _ _ _ _ _ _ _ _ h (fun s103 h => ?_))
  refine x_aload_0 dX6_splits_247 ?_
  refine x_dup dX6_splits_248 rfl ?_
  refine m_get ha dX6_splits_249 fa_X6_160 rfl ?_
  refine x_iconst (v := 1) dX6_splits_252 (by decide) ?_
  refine x_iadd dX6_splits_253 ?_
  refine m_put ha dX6_splits_254 fp_X6_160 (mfs_18 _ _ _) (by decide) rfl rfl ?_
  have h := h _ rfl
  refine x_iload_4 dX6_splits_257 ?_
  refine x_istore_2 dX6_splits_259 (by decide) xN2_i ?_
  refine x_goto 7 dX6_splits_260 (by decide) ?_
  exact x_le (xLe_cons (xLe_cons (xLe_cons (xLe_cons (xLe_none (xLe_cons (xLe_nil))))))) (hR _ _ h)
def w_splits_100 (N : Nat × Nat) (x1 : Int32) (x2 : Int32) (x3 : Int32) (x4 : Int32) (Kr : mS → Prop) (K : mS → Prop) (R : Int32 → mS → Prop) (s : mS) : Prop :=
  (vp_in (mFd s 18) 401 ∧ (∀ s102 : mS, s102 = mI s 17 (mFd s 18) x2 → (vp_in (mFd s102 18) 401 ∧ (∀ s104 : mS, s104 = mI s102 16 (mFd s102 18) 0 → (w_isSmall x3 (fun x105 => ((x105 = 0 → (w_isDigit x3 (fun x108 => ((x108 = 0 → (w_splits_165 N x1 x2 x3 x4 (mFd s104 18) (100 + (x3 &&& 255)) Kr K R s104)) ∧ (¬ x108 = 0 → (w_splits_165 N x1 x2 x3 x4 (mFd s104 18) 50 Kr K R s104)))))) ∧ (¬ x105 = 0 → (w_wordOf N x2 x4 s104 (fun x111 s112 => (w_splits_165 N x1 x2 x3 x4 (mFd s104 18) x111 Kr K R s112)))))))))))
theorem c_splits_100 {G : xG} {l : Launch} {a : Nat → Nat} {g : xH} (ha : mInj a) {d : Nat} {N : Nat × Nat} (hd : 1 ≤ d) (x1 : Int32) (x2 : Int32) (x3 : Int32) (x4 : Int32) (Kr : mS → Prop) (K : mS → Prop) (R : Int32 → mS → Prop) (s : mS) (h : w_splits_100 N x1 x2 x3 x4 Kr K R s) (hK : ∀ (s : mS), K s → xF G l kX6_splits (d + 1) 0 0 (mQv G a g Kr) 263 [some (.ref (a 51)), some (.int x1), none, none, none, none] [] (mH G a s g)) (hR : ∀ (z2 : Int32) (s : mS), R z2 s → xF G l kX6_splits (d + 1) 0 0 (mQv G a g Kr) 7 [some (.ref (a 51)), some (.int x1), some (.int z2), none, none, none] [] (mH G a s g)) : xF G l kX6_splits (d + 1) 0 0 (mQv G a g Kr) 100 [some (.ref (a 51)), some (.int x1), some (.int x2), some (.int x3), some (.int x4), none] [] (mH G a s g) := by
  unfold w_splits_100 at h
  refine x_aload_0 dX6_splits_100 ?_
  refine m_get ha dX6_splits_101 fa_X6_60 rfl ?_
  refine x_aload_0 dX6_splits_104 ?_
  refine m_get ha dX6_splits_105 fa_X6_160 rfl ?_
  refine x_iload_2 dX6_splits_108 ?_
  obtain ⟨e101, h⟩ := h
  refine m_iast (j := 17) ha dX6_splits_109 (by decide) (by decide) e101 ?_
  have h := h _ rfl
  refine x_aload_0 dX6_splits_110 ?_
  refine m_get ha dX6_splits_111 fa_X6_57 rfl ?_
  refine x_aload_0 dX6_splits_114 ?_
  refine m_get ha dX6_splits_115 fa_X6_160 rfl ?_
  refine x_iconst (v := 0) dX6_splits_118 (by decide) ?_
  obtain ⟨e103, h⟩ := h
  refine m_iast (j := 16) ha dX6_splits_119 (by decide) (by decide) e103 ?_
  have h := h _ rfl
  refine x_aload_0 dX6_splits_120 ?_
  refine m_get ha dX6_splits_121 fa_X6_54 rfl ?_
  refine x_aload_0 dX6_splits_124 ?_
  refine m_get ha dX6_splits_125 fa_X6_160 rfl ?_
  refine x_iload_3 dX6_splits_128 ?_
  refine m_cSi1 rfl cs_X6_163 (Nat.le_of_ble_eq_true rfl) dX6_splits_129 (c_isSmall (by omega) h) (fun x105 h => ?_)
  refine x_if_eq 145 dX6_splits_132 (by decide) (fun c107 => ?_) (fun c107 => ?_)
  · have h := h.1 c107
    refine x_iload_3 dX6_splits_145 ?_
    refine m_cSi1 rfl cs_X6_166 (Nat.le_of_ble_eq_true rfl) dX6_splits_146 (c_isDigit (by omega) h) (fun x108 h => ?_)
    refine x_if_eq 157 dX6_splits_149 (by decide) (fun c110 => ?_) (fun c110 => ?_)
    · have h := h.1 c110
      refine x_bipush (v := 100) dX6_splits_157 (by decide) ?_
      refine x_iload_3 dX6_splits_159 ?_
      refine x_sipush (v := 255) dX6_splits_160 (by decide) ?_
      refine x_iand dX6_splits_163 ?_
      refine x_iadd dX6_splits_164 ?_
      exact x_le (xLe_cons (xLe_cons (xLe_cons (xLe_cons (xLe_cons (xLe_cons (xLe_nil))))))) (c_splits_165 ha (by omega) _ _ _ _ _ _ _ _ _ _ h hK hR)
    · have h := h.2 c110
      refine x_bipush (v := 50) dX6_splits_152 (by decide) ?_
      refine x_goto 165 dX6_splits_154 (by decide) ?_
      exact x_le (xLe_cons (xLe_cons (xLe_cons (xLe_cons (xLe_cons (xLe_cons (xLe_nil))))))) (c_splits_165 ha (by omega) _ _ _ _ _ _ _ _ _ _ h hK hR)
  · have h := h.2 c107
    refine x_aload_0 dX6_splits_135 ?_
    refine x_iload_2 dX6_splits_136 ?_
    refine x_iload_4 dX6_splits_137 ?_
    refine m_cVi2 ha rfl cv_X6_169 (Nat.le_of_ble_eq_true rfl) dX6_splits_139 (c_wordOf ha (by omega) h) (fun x111 s112 h => ?_)
    refine x_goto 165 dX6_splits_142 (by decide) ?_
    exact x_le (xLe_cons (xLe_cons (xLe_cons (xLe_cons (xLe_cons (xLe_cons (xLe_nil))))))) (c_splits_165 ha (by omega) _ _ _ _ _ _ _ _ _ _ h hK hR)
def w_splits_75 (N : Nat × Nat) (x1 : Int32) (x2 : Int32) (x3 : Int32) (Kr : mS → Prop) (K : Int32 → mS → Prop) : Nat → Int32 → mS → Prop
  | 0, _, _ => False
  | t + 1, x4, s => ((x1 ≤ x4 → (K x4 s)) ∧ (¬ x1 ≤ x4 → (vp_in x4 400 ∧ (w_isDigit (mAt s 11 x4) (fun x103 => ((x103 = 0 → (K x4 s)) ∧ (¬ x103 = 0 → (∀ x106 : Int32, x106 = x4 + 1 → ((fun x4 s => w_splits_75 N x1 x2 x3 Kr K t x4 s) x106 s)))))))))
theorem c_splits_75 {G : xG} {l : Launch} {a : Nat → Nat} {g : xH} (ha : mInj a) {d : Nat} {N : Nat × Nat} (hd : 1 ≤ d) (Kr : mS → Prop) (K : Int32 → mS → Prop) (x1 : Int32) (x2 : Int32) (x3 : Int32) : ∀ (t : Nat) (x4 : Int32) (s : mS) , w_splits_75 N x1 x2 x3 Kr K t x4 s → (∀ (z4 : Int32) (s : mS), K z4 s → xF G l kX6_splits (d + 1) 0 0 (mQv G a g Kr) 100 [some (.ref (a 51)), some (.int x1), some (.int x2), some (.int x3), some (.int z4), none] [] (mH G a s g)) → xF G l kX6_splits (d + 1) 0 0 (mQv G a g Kr) 75 [some (.ref (a 51)), some (.int x1), some (.int x2), some (.int x3), some (.int x4), none] [] (mH G a s g) := by
  intro t
  induction t with
  | zero =>
    intro _ _ h _
    exact absurd h (by simp [w_splits_75])
  | succ t ih =>
    intro x4 s h hK
    have hR := fun x4 s h => ih x4 s h hK
    unfold w_splits_75 at h
    refine x_iload_4 dX6_splits_75 ?_
    refine x_iload_1 dX6_splits_77 ?_
    refine x_icmp_ge 100 dX6_splits_78 (by decide) (fun c101 => ?_) (fun c101 => ?_)
    · have h := h.1 c101
      exact x_le (xLe_cons (xLe_cons (xLe_cons (xLe_cons (xLe_cons (xLe_cons (xLe_nil))))))) (hK _ _ h)
    · have h := h.2 c101
      refine x_aload_0 dX6_splits_81 ?_
      refine m_get ha dX6_splits_82 fa_X6_45 rfl ?_
      refine x_iload_4 dX6_splits_85 ?_
      obtain ⟨e102, h⟩ := h
      refine m_bald (j := 11) ha dX6_splits_87 (by decide) (by decide) e102 ?_
      refine m_cSi1 rfl cs_X6_166 (Nat.le_of_ble_eq_true rfl) dX6_splits_88 (c_isDigit (by omega) h) (fun x103 h => ?_)
      refine x_if_eq 100 dX6_splits_91 (by decide) (fun c105 => ?_) (fun c105 => ?_)
      · have h := h.1 c105
        exact x_le (xLe_cons (xLe_cons (xLe_cons (xLe_cons (xLe_cons (xLe_cons (xLe_nil))))))) (hK _ _ h)
      · have h := h.2 c105
        refine x_iinc_4 (v := 1) dX6_splits_94 (by decide) (by decide) xN2_i ?_
        have h := h _ rfl
        refine x_goto 75 dX6_splits_97 (by decide) ?_
        exact x_le (xLe_cons (xLe_cons (xLe_cons (xLe_cons (xLe_cons (xLe_cons (xLe_nil))))))) (hR _ _ h)
def w_splits_68 (N : Nat × Nat) (x1 : Int32) (x2 : Int32) (x3 : Int32) (x4 : Int32) (Kr : mS → Prop) (K : mS → Prop) (R : Int32 → mS → Prop) (s : mS) : Prop :=
  (w_isDigit x3 (fun x101 => ((x101 = 0 → (w_splits_100 N x1 x2 x3 x4 Kr K R s)) ∧ (¬ x101 = 0 → (w_splits_75 N x1 x2 x3 Kr (fun x104 s105 => (w_splits_100 N x1 x2 x3 x104 Kr K R s105)) N.1 x4 s)))))
theorem c_splits_68 {G : xG} {l : Launch} {a : Nat → Nat} {g : xH} (ha : mInj a) {d : Nat} {N : Nat × Nat} (hd : 1 ≤ d) (x1 : Int32) (x2 : Int32) (x3 : Int32) (x4 : Int32) (Kr : mS → Prop) (K : mS → Prop) (R : Int32 → mS → Prop) (s : mS) (h : w_splits_68 N x1 x2 x3 x4 Kr K R s) (hK : ∀ (s : mS), K s → xF G l kX6_splits (d + 1) 0 0 (mQv G a g Kr) 263 [some (.ref (a 51)), some (.int x1), none, none, none, none] [] (mH G a s g)) (hR : ∀ (z2 : Int32) (s : mS), R z2 s → xF G l kX6_splits (d + 1) 0 0 (mQv G a g Kr) 7 [some (.ref (a 51)), some (.int x1), some (.int z2), none, none, none] [] (mH G a s g)) : xF G l kX6_splits (d + 1) 0 0 (mQv G a g Kr) 68 [some (.ref (a 51)), some (.int x1), some (.int x2), some (.int x3), some (.int x4), none] [] (mH G a s g) := by
  unfold w_splits_68 at h
  refine x_iload_3 dX6_splits_68 ?_
  refine m_cSi1 rfl cs_X6_166 (Nat.le_of_ble_eq_true rfl) dX6_splits_69 (c_isDigit (by omega) h) (fun x101 h => ?_)
  refine x_if_eq 100 dX6_splits_72 (by decide) (fun c103 => ?_) (fun c103 => ?_)
  · have h := h.1 c103
    exact x_le (xLe_cons (xLe_cons (xLe_cons (xLe_cons (xLe_cons (xLe_cons (xLe_nil))))))) (c_splits_100 ha (by omega) _ _ _ _ _ _ _ _ h hK hR)
  · have h := h.2 c103
    refine x_le (xLe_cons (xLe_cons (xLe_cons (xLe_cons (xLe_cons (xLe_cons (xLe_nil))))))) (c_splits_75 ha (by omega) _ _ _ _ _ _ _ _ h (fun x104 s105 h => ?_))
    exact x_le (xLe_cons (xLe_cons (xLe_cons (xLe_cons (xLe_cons (xLe_cons (xLe_nil))))))) (c_splits_100 ha (by omega) _ _ _ _ _ _ _ _ h hK hR)
def w_splits_43 (N : Nat × Nat) (x1 : Int32) (x2 : Int32) (x3 : Int32) (Kr : mS → Prop) (K : Int32 → mS → Prop) : Nat → Int32 → mS → Prop
  | 0, _, _ => False
  | t + 1, x4, s => ((x1 ≤ x4 → (K x4 s)) ∧ (¬ x1 ≤ x4 → (vp_in x4 400 ∧ (w_isSmall (mAt s 11 x4) (fun x103 => ((x103 = 0 → (K x4 s)) ∧ (¬ x103 = 0 → (∀ x106 : Int32, x106 = x4 + 1 → ((fun x4 s => w_splits_43 N x1 x2 x3 Kr K t x4 s) x106 s)))))))))
theorem c_splits_43 {G : xG} {l : Launch} {a : Nat → Nat} {g : xH} (ha : mInj a) {d : Nat} {N : Nat × Nat} (hd : 1 ≤ d) (Kr : mS → Prop) (K : Int32 → mS → Prop) (x1 : Int32) (x2 : Int32) (x3 : Int32) : ∀ (t : Nat) (x4 : Int32) (s : mS) , w_splits_43 N x1 x2 x3 Kr K t x4 s → (∀ (z4 : Int32) (s : mS), K z4 s → xF G l kX6_splits (d + 1) 0 0 (mQv G a g Kr) 68 [some (.ref (a 51)), some (.int x1), some (.int x2), some (.int x3), some (.int z4), none] [] (mH G a s g)) → xF G l kX6_splits (d + 1) 0 0 (mQv G a g Kr) 43 [some (.ref (a 51)), some (.int x1), some (.int x2), some (.int x3), some (.int x4), none] [] (mH G a s g) := by
  intro t
  induction t with
  | zero =>
    intro _ _ h _
    exact absurd h (by simp [w_splits_43])
  | succ t ih =>
    intro x4 s h hK
    have hR := fun x4 s h => ih x4 s h hK
    unfold w_splits_43 at h
    refine x_iload_4 dX6_splits_43 ?_
    refine x_iload_1 dX6_splits_45 ?_
    refine x_icmp_ge 68 dX6_splits_46 (by decide) (fun c101 => ?_) (fun c101 => ?_)
    · have h := h.1 c101
      exact x_le (xLe_cons (xLe_cons (xLe_cons (xLe_cons (xLe_cons (xLe_cons (xLe_nil))))))) (hK _ _ h)
    · have h := h.2 c101
      refine x_aload_0 dX6_splits_49 ?_
      refine m_get ha dX6_splits_50 fa_X6_45 rfl ?_
      refine x_iload_4 dX6_splits_53 ?_
      obtain ⟨e102, h⟩ := h
      refine m_bald (j := 11) ha dX6_splits_55 (by decide) (by decide) e102 ?_
      refine m_cSi1 rfl cs_X6_163 (Nat.le_of_ble_eq_true rfl) dX6_splits_56 (c_isSmall (by omega) h) (fun x103 h => ?_)
      refine x_if_eq 68 dX6_splits_59 (by decide) (fun c105 => ?_) (fun c105 => ?_)
      · have h := h.1 c105
        exact x_le (xLe_cons (xLe_cons (xLe_cons (xLe_cons (xLe_cons (xLe_cons (xLe_nil))))))) (hK _ _ h)
      · have h := h.2 c105
        refine x_iinc_4 (v := 1) dX6_splits_62 (by decide) (by decide) xN2_i ?_
        have h := h _ rfl
        refine x_goto 43 dX6_splits_65 (by decide) ?_
        exact x_le (xLe_cons (xLe_cons (xLe_cons (xLe_cons (xLe_cons (xLe_cons (xLe_nil))))))) (hR _ _ h)
def w_splits_7 (N : Nat × Nat) (x1 : Int32) (Kr : mS → Prop) (K : mS → Prop) : Nat → Int32 → mS → Prop
  | 0, _, _ => False
  | t + 1, x2, s => ((x1 ≤ x2 → (K s)) ∧ (¬ x1 ≤ x2 → (vp_in x2 400 ∧ (∀ x103 : Int32, x103 = mAt s 11 x2 → ((¬ x103 = 32 → (∀ x105 : Int32, x105 = x2 + 1 → (w_isSmall x103 (fun x106 => ((x106 = 0 → (w_splits_68 N x1 x2 x103 x105 Kr K (fun x2 s => w_splits_7 N x1 Kr K t x2 s) s)) ∧ (¬ x106 = 0 → (w_splits_43 N x1 x2 x103 Kr (fun x109 s110 => (w_splits_68 N x1 x2 x103 x109 Kr K (fun x2 s => w_splits_7 N x1 Kr K t x2 s) s110)) N.1 x105 s))))))) ∧ (x103 = 32 → (∀ x111 : Int32, x111 = x2 + 1 → ((fun x2 s => w_splits_7 N x1 Kr K t x2 s) x111 s))))))))
theorem c_splits_7 {G : xG} {l : Launch} {a : Nat → Nat} {g : xH} (ha : mInj a) {d : Nat} {N : Nat × Nat} (hd : 1 ≤ d) (Kr : mS → Prop) (K : mS → Prop) (x1 : Int32) : ∀ (t : Nat) (x2 : Int32) (s : mS) , w_splits_7 N x1 Kr K t x2 s → (∀ (s : mS), K s → xF G l kX6_splits (d + 1) 0 0 (mQv G a g Kr) 263 [some (.ref (a 51)), some (.int x1), none, none, none, none] [] (mH G a s g)) → xF G l kX6_splits (d + 1) 0 0 (mQv G a g Kr) 7 [some (.ref (a 51)), some (.int x1), some (.int x2), none, none, none] [] (mH G a s g) := by
  intro t
  induction t with
  | zero =>
    intro _ _ h _
    exact absurd h (by simp [w_splits_7])
  | succ t ih =>
    intro x2 s h hK
    have hR := fun x2 s h => ih x2 s h hK
    unfold w_splits_7 at h
    refine x_iload_2 dX6_splits_7 ?_
    refine x_iload_1 dX6_splits_8 ?_
    refine x_icmp_ge 263 dX6_splits_9 (by decide) (fun c101 => ?_) (fun c101 => ?_)
    · have h := h.1 c101
      exact x_le (xLe_cons (xLe_cons (xLe_none (xLe_cons (xLe_cons (xLe_cons (xLe_nil))))))) (hK _ h)
    · have h := h.2 c101
      refine x_aload_0 dX6_splits_12 ?_
      refine m_get ha dX6_splits_13 fa_X6_45 rfl ?_
      refine x_iload_2 dX6_splits_16 ?_
      obtain ⟨e102, h⟩ := h
      refine m_bald (j := 11) ha dX6_splits_17 (by decide) (by decide) e102 ?_
      refine x_istore_3 dX6_splits_18 (by decide) xN2_i ?_
      have h := h _ rfl
      refine x_iload_3 dX6_splits_19 ?_
      refine x_bipush (v := 32) dX6_splits_20 (by decide) ?_
      refine x_icmp_ne 31 dX6_splits_22 (by decide) (fun c104 => ?_) (fun c104 => ?_)
      · have h := h.1 c104
        refine x_iload_2 dX6_splits_31 ?_
        refine x_iconst (v := 1) dX6_splits_32 (by decide) ?_
        refine x_iadd dX6_splits_33 ?_
        refine x_istore_4 dX6_splits_34 (by decide) xN2_i ?_
        have h := h _ rfl
        refine x_iload_3 dX6_splits_36 ?_
        refine m_cSi1 rfl cs_X6_163 (Nat.le_of_ble_eq_true rfl) dX6_splits_37 (c_isSmall (by omega) h) (fun x106 h => ?_)
        refine x_if_eq 68 dX6_splits_40 (by decide) (fun c108 => ?_) (fun c108 => ?_)
        · have h := h.1 c108
          exact x_le (xLe_cons (xLe_cons (xLe_cons (xLe_cons (xLe_cons (xLe_cons (xLe_nil))))))) (c_splits_68 ha (by omega) _ _ _ _ _ _ _ _ h hK hR)
        · have h := h.2 c108
          refine x_le (xLe_cons (xLe_cons (xLe_cons (xLe_cons (xLe_cons (xLe_cons (xLe_nil))))))) (c_splits_43 ha (by omega) _ _ _ _ _ _ _ _ h (fun x109 s110 h => ?_))
          exact x_le (xLe_cons (xLe_cons (xLe_cons (xLe_cons (xLe_cons (xLe_cons (xLe_nil))))))) (c_splits_68 ha (by omega) _ _ _ _ _ _ _ _ h hK hR)
      · have h := h.2 c104
        refine x_iinc_2 (v := 1) dX6_splits_25 (by decide) (by decide) xN2_i ?_
        have h := h _ rfl
        refine x_goto 7 dX6_splits_28 (by decide) ?_
        exact x_le (xLe_cons (xLe_cons (xLe_cons (xLe_none (xLe_cons (xLe_cons (xLe_nil))))))) (hR _ _ h)
def w_splits (N : Nat × Nat) (x1 : Int32) (s : mS) (Kr : mS → Prop) : Prop :=
  (∀ s101 : mS, s101 = mF s 18 0 → (w_splits_7 N x1 Kr (fun s102 => (vp_in (mFd s102 18) 401 ∧ (∀ s104 : mS, s104 = mI s102 17 (mFd s102 18) x1 → (vp_in (mFd s104 18) 401 ∧ (∀ s106 : mS, s106 = mI s104 15 (mFd s104 18) 0 → (vp_in (mFd s106 18) 401 ∧ (∀ s108 : mS, s108 = mI s106 16 (mFd s106 18) 0 → (Kr s108)))))))) N.1 0 s101))
theorem c_splits {G : xG} {l : Launch} {a : Nat → Nat} {g : xH} (ha : mInj a) {d : Nat} {N : Nat × Nat} (hd : 2 ≤ d) {x1 : Int32} {s : mS} {Kr : mS → Prop} (h : w_splits N x1 s Kr) : xC G l kX6_splits d 0 0 [.ref (a 51), .int x1] (mH G a s g) (mQv G a g Kr) := by
  obtain ⟨d, rfl⟩ : ∃ z, d = z + 1 := ⟨d - 1, by omega⟩
  refine xC.start rfl (by decide +kernel) (Nat.le_of_ble_eq_true rfl) (lv := [some (.ref (a 51)), some (.int x1), none, none, none, none]) rfl ?_
  unfold w_splits at h
  refine x_aload_0 dX6_splits_0 ?_
  refine x_iconst (v := 0) dX6_splits_1 (by decide) ?_
  refine m_put ha dX6_splits_2 fp_X6_160 (mfs_18 _ _ _) (by decide) rfl rfl ?_
  have h := h _ rfl
  refine x_iconst (v := 0) dX6_splits_5 (by decide) ?_
  refine x_istore_2 dX6_splits_6 (by decide) xN2_i ?_
  refine x_le (xLe_cons (xLe_cons (xLe_cons (xLe_cons (xLe_cons (xLe_cons (xLe_nil))))))) (c_splits_7 ha (by omega) _ _ _ _ _ _ h (fun s102 h => ?_))
  refine x_aload_0 dX6_splits_263 ?_
  refine m_get ha dX6_splits_264 fa_X6_60 rfl ?_
  refine x_aload_0 dX6_splits_267 ?_
  refine m_get ha dX6_splits_268 fa_X6_160 rfl ?_
  refine x_iload_1 dX6_splits_271 ?_
  obtain ⟨e103, h⟩ := h
  refine m_iast (j := 17) ha dX6_splits_272 (by decide) (by decide) e103 ?_
  have h := h _ rfl
  refine x_aload_0 dX6_splits_273 ?_
  refine m_get ha dX6_splits_274 fa_X6_54 rfl ?_
  refine x_aload_0 dX6_splits_277 ?_
  refine m_get ha dX6_splits_278 fa_X6_160 rfl ?_
  refine x_iconst (v := 0) dX6_splits_281 (by decide) ?_
  obtain ⟨e105, h⟩ := h
  refine m_iast (j := 15) ha dX6_splits_282 (by decide) (by decide) e105 ?_
  have h := h _ rfl
  refine x_aload_0 dX6_splits_283 ?_
  refine m_get ha dX6_splits_284 fa_X6_57 rfl ?_
  refine x_aload_0 dX6_splits_287 ?_
  refine m_get ha dX6_splits_288 fa_X6_160 rfl ?_
  refine x_iconst (v := 0) dX6_splits_291 (by decide) ?_
  obtain ⟨e107, h⟩ := h
  refine m_iast (j := 16) ha dX6_splits_292 (by decide) (by decide) e107 ?_
  have h := h _ rfl
  exact x_vret dX6_splits_293 rfl ⟨_, h, rfl, rfl⟩
