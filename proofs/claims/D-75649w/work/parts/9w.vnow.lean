set_option maxRecDepth 100000
/-! ===== orders: a step of the hands, both sides, with what stays ===== -/
theorem mD_A {F A L : List Nat} (s : mS) {j : Nat} (f : Nat → Int32) (h : j ∈ A) : mD F A L s (sA s j f) := ⟨fun _ _ => rfl, fun q hq => sA_o s f (fun e => hq (e ▸ h)), fun _ _ => rfl⟩
theorem mD_exI {F A L : List Nat} (h : 2 ∈ A) : ∀ (k i : Nat) (m : mS), mD F A L m (exI k i m)
  | 0, _, m => mD_r m
  | k + 1, i, m => mD_t (by unfold exS; exact mD_t (mD_I _ _ _ h) (mD_I _ _ _ h)) (mD_exI h k (i + 1) (exS i m))
theorem vrM_exS {i : Nat} (hi : i < 12) (m : mS) : vrM m (exS i m) := by
  unfold exS
  exact vrM_t (vrM_I m (by omega) _) (vrM_I _ (by omega) _)
theorem vrM_exI : ∀ (k i : Nat) (m : mS), i + k ≤ 12 → vrM m (exI k i m)
  | 0, _, m, _ => vrM_r m
  | k + 1, i, m, h => vrM_t (vrM_exS (by omega) m) (vrM_exI k (i + 1) (exS i m) (by omega))
section KPF
variable {N : Nat × Nat}
theorem w_keeps52F (hN : 60 ≤ N.1) {m : mS} {n : Nat} (hn : n < 16) (h33 : m.1 33 = nI n) {w : Int32} {K : mS → Prop} (h : ∀ g, cE (kAt m n w) g → mD [33] [31] [] m g → K g) : w_keeps_52 N w 26 K m := by
  unfold w_keeps_52
  have e26 : (26 : Int32) * nI n = nI (26 * n) := pk_mul 26 n
  have loop : ∀ f t k g, k + f = 25 → f + 1 ≤ t → g = sA m 31 (fun q => if 26 * n ≤ q ∧ q < 26 * n + k then m.2.1 2 (q - 26 * n) else m.2.1 31 q) → w_keeps_54 N w 26 K (fun s101 => vp_in ((26 * (mFd s101 33)) + 25) 416 ∧ ∀ s103 : mS, s103 = mI s101 31 ((26 * (mFd s101 33)) + 25) w → ∀ s104 : mS, s104 = mF s103 33 ((mFd s103 33) + 1) → K s104) t (nI k) g := by
    intro f
    induction f with
    | zero =>
      intro t k g hk ht hg
      obtain ⟨t, rfl⟩ : ∃ u, t = u + 1 := ⟨t - 1, by omega⟩
      have e1 : k = 25 := by omega
      subst e1
      have g33 : mFd g 33 = nI n := by
        rw [hg]
        exact h33
      simp only [w_keeps_54]
      rw [g33, e26, show (25 : Int32) = nI 25 from rfl, nI_add]
      refine ⟨fun _ => ⟨vpk (by omega) (by decide), fun s3 e3 s4 e4 => ?_⟩, fun z => absurd (nI_le (Nat.le_refl _) (by omega)) z⟩
      have h3 : mFd s3 33 = nI n := by
        rw [e3]
        exact g33
      rw [h3, nI_1] at e4
      refine h s4 ⟨fun j hj => ?_, fun q hq => ?_⟩ (by rw [e4, e3, hg]; exact mD_t (mD_t (mD_A m _ (by decide)) (mD_I _ _ _ (by decide))) (mD_F _ _ (by decide)))
      · rw [e4, e3, hg]
        rfl
      · rw [e4, e3, hg]
        show (mI (sA m 31 _) 31 (nI (26 * n + 25)) w).2.1 q = (sA m 31 _).2.1 q
        by_cases e : q = 31
        · subst e
          funext i
          rw [mI_at _ _ _ (by omega), sA_at, sA_at]
          by_cases c1 : i = 26 * n + 25
          · rw [if_pos c1, if_neg (by omega), if_pos c1]
          · rw [if_neg c1, if_neg c1]
        · rw [mI_o _ _ _ e, sA_o _ _ e, sA_o _ _ e]
    | succ f ih =>
      intro t k g hk ht hg
      obtain ⟨t, rfl⟩ : ∃ u, t = u + 1 := ⟨t - 1, by omega⟩
      have g33 : mFd g 33 = nI n := by
        rw [hg]
        exact h33
      simp only [w_keeps_54]
      rw [g33, e26, nI_add, show (25 : Int32) = nI 25 from rfl, nI_leI (by omega) (by omega)]
      refine ⟨fun z => by omega, fun _ => ⟨vpk (by omega) (by decide), vpk (by omega) (by decide), fun s4 e4 y hy => ?_⟩⟩
      rw [nI_1] at hy
      subst hy
      refine ih t (k + 1) s4 (by omega) (by omega) ?_
      have e2 : mAt g 2 (nI k) = m.2.1 2 k := by
        rw [mAt_n (by omega), hg, sA_o _ _ (by decide)]
      rw [e4, e2, hg]
      refine Prod.ext rfl (Prod.ext (funext fun q => ?_) rfl)
      by_cases e : q = 31
      · subst e
        funext i
        rw [mI_at _ _ _ (by omega), sA_at, sA_at]
        by_cases c1 : i = 26 * n + k
        · rw [if_pos c1, if_pos (by omega), c1, show 26 * n + k - 26 * n = k by omega]
        · rw [if_neg c1]
          by_cases c2 : 26 * n ≤ i ∧ i < 26 * n + k
          · rw [if_pos c2, if_pos (by omega)]
          · rw [if_neg c2, if_neg (by omega)]
      · rw [mI_o _ _ _ e, sA_o _ _ e, sA_o _ _ e]
  refine loop 25 N.1 0 m (by omega) (by omega) ?_
  refine Prod.ext rfl (Prod.ext (funext fun q => ?_) rfl)
  by_cases e : q = 31
  · subst e
    funext i
    rw [sA_at, if_neg (by omega)]
  · rw [sA_o _ _ e]
theorem w_keepsF (hN : 450 ≤ N.1) {m : mS} {n : Nat} (hn : n ≤ 16) (h33 : m.1 33 = nI n) {w : Int32} {K : mS → Prop} (h : ∀ g, cE (kM n w m) g → mD [33] [31] [] m g → K g) : w_keeps N w m K := by
  unfold w_keeps
  have e33 : mFd m 33 = nI n := h33
  have c16 : nI n = 16 ↔ n = 16 := by
    rw [show (16 : Int32) = nI 16 from rfl, nI_eq (by omega) (by omega)]
  rw [e33, c16]
  refine ⟨fun nn => w_keeps52F (by omega) (by omega) h33 (fun g hg hd => h g (by unfold kM; rw [if_neg nn]; exact hg) hd), fun yn => ?_⟩
  have loop : ∀ f t k g, k + f = 390 → f + 1 ≤ t → g = sA m 31 (fun q => if q < k then m.2.1 31 (q + 26) else m.2.1 31 q) → w_keeps_14 N w 26 K (fun s102 => ∀ s103 : mS, s103 = mF s102 33 ((mFd s102 33) - 1) → w_keeps_52 N w 26 K s103) t (nI k) g := by
    intro f
    induction f with
    | zero =>
      intro t k g hk ht hg
      obtain ⟨t, rfl⟩ : ∃ u, t = u + 1 := ⟨t - 1, by omega⟩
      have e1 : k = 390 := by omega
      subst e1
      simp only [w_keeps_14]
      rw [show (15 : Int32) * 26 = nI 390 from by decide]
      refine ⟨fun _ s3 e3 => ?_, fun z => absurd (nI_le (Nat.le_refl _) (by omega)) z⟩
      have g33 : mFd g 33 = nI 16 := by
        rw [hg]
        show m.1 33 = nI 16
        rw [h33, yn]
      rw [g33, show nI 16 - 1 = nI 15 from by decide] at e3
      have e3' : s3 = kRot m := by
        rw [e3, hg]
        rfl
      rw [e3']
      exact w_keeps52F (by omega) (by omega) rfl (fun g hg hd => h g (by unfold kM; rw [if_pos yn]; exact hg) (mD_t (mD_t (mD_A m _ (by decide)) (mD_F _ _ (by decide))) hd))
    | succ f ih =>
      intro t k g hk ht hg
      obtain ⟨t, rfl⟩ : ∃ u, t = u + 1 := ⟨t - 1, by omega⟩
      simp only [w_keeps_14]
      rw [show (15 : Int32) * 26 = nI 390 from by decide, show (26 : Int32) = nI 26 from rfl, nI_add, nI_leI (by omega) (by omega)]
      refine ⟨fun z => by omega, fun _ => ⟨vpk (by omega) (by decide), vpk (by omega) (by decide), fun s4 e4 y hy => ?_⟩⟩
      rw [nI_1] at hy
      subst hy
      refine ih t (k + 1) s4 (by omega) (by omega) ?_
      have e2 : mAt g 31 (nI (k + 26)) = m.2.1 31 (k + 26) := by
        rw [mAt_n (by omega), hg, sA_at, if_neg (by omega)]
      rw [e4, e2, hg]
      refine Prod.ext rfl (Prod.ext (funext fun q => ?_) rfl)
      by_cases e : q = 31
      · subst e
        funext i
        rw [mI_at _ _ _ (by omega), sA_at, sA_at]
        by_cases c1 : i = k
        · rw [if_pos c1, if_pos (by omega), c1]
        · rw [if_neg c1]
          by_cases c2 : i < k
          · rw [if_pos c2, if_pos (by omega)]
          · rw [if_neg c2, if_neg (by omega)]
      · rw [mI_o _ _ _ e, sA_o _ _ e, sA_o _ _ e]
  refine loop 390 N.1 0 m (by omega) (by omega) ?_
  refine Prod.ext rfl (Prod.ext (funext fun q => ?_) rfl)
  by_cases e : q = 31
  · subst e
    funext i
    rw [sA_at, if_neg (by omega)]
  · rw [sA_o _ _ e]
end KPF
/-- voices exchanged; the other roles' cells stay -/
theorem v_exF {N : tP} {L : Nat → Nat} {M O : Nat → Prop} {Kr K : tM → Prop} {n : Nat} (hn : n ≤ 12) : ∀ (k t i : Nat) {s : tM} {m : mS}, RX N s L M O m → k < t → i + k = n → (∀ s', RX N s' L M O (exI k i m) → frM O s s' → nF L s s' → K s') → v_X2_exchange_2 N (L 44) (nI n) Kr K t (nI i) s
  | k, 0, _, _, _, _, h, _, _ => absurd h (Nat.not_lt_zero _)
  | 0, t + 1, i, s, m, hX, _, hi, hK => by
    unfold v_X2_exchange_2
    refine ⟨fun _ => hK s hX (frM_r _ _) (nF_r _ _), fun z => absurd ?_ z⟩
    rw [nI_lle (by omega) (by omega)]
    omega
  | k + 1, t + 1, i, s, m, hX, ht, hi, hK => by
    have hS := hX.S
    obtain ⟨told, k1, k2, -⟩ := hX.told
    have hi12 : i < 12 := by omega
    have b44 := hS.2.2.1.2.1 44 (Or.inr (Or.inr (Or.inr (Or.inl rfl))))
    have l2 : loc 244 i = some (2, 12 + i) := by
      unfold loc
      rw [if_neg (by decide), if_pos rfl, if_pos hi12]
    have l4 : loc 444 i = some (2, i) := by
      unfold loc
      rw [if_pos rfl, if_pos hi12]
    have v2 : tI s (L 244) i = m.2.1 2 (12 + i) := hX.R 244 i 2 (12 + i) l2
    have v4 : tI s (L 444) i = m.2.1 2 i := hX.R 444 i 2 i l4
    have p2 : pI (m.2.1 2 (12 + i)) := hX.I.1.1.1 _ (by omega)
    have p4 : pI (m.2.1 2 i) := hX.I.1.1.1 _ (by omega)
    unfold v_X2_exchange_2
    rw [show tR s (L 44) 0 = L 244 from b44.1, show tR s (L 44) 1 = L 444 from b44.2, nI_clamp (by omega), v2, v4]
    refine ⟨fun z => ?_, fun _ => ⟨hS.o (r := 44) rfl, ⟨12, hS.a (r := 244) rfl, vpk hi12 (by decide)⟩, fun v hv => ⟨⟨12, hS.a (r := 444) rfl, vpk hi12 (by decide)⟩, ⟨12, hS.a (r := 244) rfl, vpk hi12 (by decide)⟩, fun s1 e1 => ?_⟩⟩⟩
    · rw [nI_lle (by omega) (by omega)] at z
      omega
    · have X1 : RX N s1 L M O (mI m 2 (nI (12 + i)) (m.2.1 2 i)) := by
        rw [e1]
        exact hX.w l2 (rd_I _ _ (by decide) (by omega)) (by omega) (invM_I hX.I k2 k1 (by omega) ⟨fun _ => p4, by omega, by omega, by omega, by omega, by omega, by omega, by omega, by omega, by omega⟩)
      have S1 := X1.S
      have b44' := S1.2.2.1.2.1 44 (Or.inr (Or.inr (Or.inr (Or.inl rfl))))
      rw [show tR s1 (L 44) 1 = L 444 from b44'.2]
      refine ⟨⟨12, S1.a (r := 444) rfl, vpk hi12 (by decide)⟩, fun s2 e2 i2 h2 => ?_⟩
      have k2' : (mI m 2 (nI (12 + i)) (m.2.1 2 i)).2.1 2 43 = nI told := by
        rw [mI_at _ _ _ (by omega), if_neg (by omega)]
        exact k2
      have X2 : RX N s2 L M O (exS i m) := by
        rw [e2, hv]
        exact X1.w l4 (rd_I _ _ (by decide) (by omega)) (by omega) (invM_I X1.I k2' k1 (by omega) ⟨fun _ => p2, by omega, by omega, by omega, by omega, by omega, by omega, by omega, by omega, by omega⟩)
      have f2 : frM O s s2 := frM_t (s' := s1) (by rw [e1]; exact frM_I hX (r := 244) (by decide)) (by rw [e2]; exact frM_I X1 (r := 444) (by decide))
      have o2 : nF L s s2 := nF_t (rol_r L) (s' := s1) (by rw [e1]; exact nF_I ⟨by decide, by omega⟩) (by rw [e2]; exact nF_I ⟨by decide, by omega⟩)
      have hi2 : i2 = nI (i + 1) := h2.trans (nI_1 i)
      rw [hi2]
      exact v_exF hn k t (i + 1) X2 (by omega) (by omega) (fun s' X' f' o' => hK s' X' (frM_t f2 f') (nF_t (rol_r L) o2 o'))
def oFF : List Nat := [22, 23, 24, 25, 33]
def oFA : List Nat := [2, 26, 31]
/-- behind the system's step: whatever it gives, the model's step w gives, and K holds -/
def oN (N : tP) (s : tM) (L : Nat → Nat) (M O : Nat → Prop) (m : mS) (w : mS → (Int32 → mS → Prop) → Prop) (Kr : Int32 → tM → Prop) : Prop := ∀ r s' L' m', rol L L' → RX N s' L' M O m' → frM O s s' → nF L s s' → vrM m m' → (-3 ≤ r.toInt ∧ r.toInt ≤ 24) → (∀ m1 K2, cE m m1 → (∀ g, cE m' g → mD oFF oFA [] m1 g → K2 r g) → w m1 K2) → Kr r s'
/-- the model's number for the system's: none where it is too great or too small -/
def smR (a a' : Int32) : Prop := a' = a ∨ (a' = -1 ∧ (a.toInt < 0 ∨ 1000000 < a.toInt))
theorem smR_PI {a a' : Int32} (h : smR a a') : isPI a' = isPI a ∧ (isPI a = true → a' = a) := by
  rcases h with rfl | ⟨rfl, h⟩
  · exact ⟨rfl, fun _ => rfl⟩
  · have e : isPI a = false := by
      unfold isPI
      rw [Bool.and_eq_false_iff, decide_eq_false_iff_not, decide_eq_false_iff_not]
      omega
    rw [e]
    exact ⟨by decide, fun z => by cases z⟩
theorem smR_NI {n : Nat} (hn : n ≤ 12) {a a' : Int32} (h : smR a a') : isNI n a' = isNI n a ∧ (isNI n a = true → a' = a) := by
  rcases h with rfl | ⟨rfl, h⟩
  · exact ⟨rfl, fun _ => rfl⟩
  · have e : isNI n a = false := by
      unfold isNI
      rw [Bool.and_eq_false_iff, decide_eq_false_iff_not, decide_eq_false_iff_not]
      omega
    have e2 : isNI n (-1) = false := by
      unfold isNI
      rw [Bool.and_eq_false_iff, decide_eq_false_iff_not, decide_eq_false_iff_not]
      exact Or.inl (by decide)
    rw [e, e2]
    exact ⟨rfl, fun z => by cases z⟩
theorem mD_oF {m g : mS} (h : mD [33] [31] [] m g) : mD oFF oFA [] m g := mD_w h (by decide) (by decide) (by decide)
theorem r3 : ∀ k : Nat, k < 4 → -3 ≤ (-(nI k)).toInt ∧ (-(nI k)).toInt ≤ 24 := by decide
section NW2
variable {N : tP} {s : tM} {L : Nat → Nat} {M O : Nat → Prop} {m : mS}
theorem oN_no {w : mS → (Int32 → mS → Prop) → Prop} {Kr : Int32 → tM → Prop} (hX : RX N s L M O m) (h : oN N s L M O m w Kr) {k : Nat} (hk : k < 4) (hw : ∀ m1 (K2 : Int32 → mS → Prop), cE m m1 → K2 (-(nI k)) m1 → w m1 K2) : Kr (-(nI k)) s := h _ s L m (rol_r L) hX (frM_r _ _) (nF_r _ _) (vrM_r m) (r3 k hk) (fun m1 K2 hc h2 => hw m1 K2 hc (h2 m1 hc (mD_r m1)))
theorem v_setNowF (hN : nOK N) (hX : RX N s L M O m) (a b : Int32) {Kr : Int32 → tM → Prop} (hK : oN N s L M O m (fun m1 K2 => ∀ a' b', smR a a' → smR b b' → w_movesKept (nP N) 0 0 a' b' m1 K2) Kr) : v_X0_setNow (L 0) a b s Kr := by
  have hS := hX.S
  obtain ⟨told, k1, k2, -⟩ := hX.told
  obtain ⟨n, n1, n2⟩ := hX.I.1.2.2.2.2.1
  obtain ⟨c, c1, c2, c3⟩ := hX.cnt
  have o0 := hS.o (r := 0) rfl
  have hmany : tI s (L 40) 4 = nI n := hX.many.trans n2
  have h450 : 450 ≤ (nP N).1 := Nat.le_trans (by decide) hN.1
  unfold v_X0_setNow
  refine v_isPitchS (bI_d (fun hb => ⟨o0, v_isNoteS hS hmany n1 (bI_d (fun ha => ⟨o0, v_booksS hS ⟨hS.o (r := 44) rfl, ?_⟩⟩) (fun ha => ?_))⟩) (fun hb => ?_))
  · obtain ⟨k, hk, rfl⟩ := isNI_t (by omega) ha
    have hk12 : k < 12 := by omega
    have b44 := hS.2.2.1.2.1 44 (Or.inr (Or.inr (Or.inr (Or.inl rfl))))
    have hloc : loc 444 k = some (2, 0 + k) := by
      unfold loc
      rw [if_pos rfl, if_pos (by omega)]
      exact congrArg some (congrArg (Prod.mk 2) (by omega))
    have ek : tI s (L 444) k = m.2.1 2 (0 + k) := hX.R 444 k 2 (0 + k) hloc
    have epc : (0 : Int32) + nI k = nI (0 + k) := nI_add 0 k
    have hvp : pI (m.2.1 2 (0 + k)) := hX.I.1.1.1 _ (by omega)
    have hw0 : ∀ m1 (K2 : Int32 → mS → Prop), cE m m1 → ((¬ m.2.1 2 (0 + k) = b → ∀ g, cE (kM c 0 m1) g → mD [33] [31] [] m1 g → K2 (m.2.1 2 (0 + k)) (mI g 2 (nI (0 + k)) b)) ∧ (m.2.1 2 (0 + k) = b → K2 (-(nI 3)) m1)) → ∀ a' b', smR (nI k) a' → smR b b' → w_movesKept (nP N) 0 0 a' b' m1 K2 := fun m1 K2 hc h2 a' b' sa sb => by
      have e2 : m1.2.1 2 = m.2.1 2 := hc.2 2 (by decide)
      have e41 : m1.2.1 2 41 = nI n := by rw [e2]; exact n2
      rw [(smR_NI n1 sa).2 ha, (smR_PI sb).2 hb]
      unfold w_movesKept
      rw [epc]
      refine w_isPitchS (bI_d (fun _ => w_isNoteS e41 n1 (bI_d (fun _ => ⟨vpk (by omega) (by decide), fun x hx => ?_⟩) (fun z => absurd (z.symm.trans ha) (by decide)))) (fun z => absurd (z.symm.trans hb) (by decide)))
      have hx' : x = m.2.1 2 (0 + k) := hx.trans ((mAt_n (k := 0 + k) (by omega)).trans (congrFun e2 _))
      rw [hx']
      refine ⟨fun nb => ?_, fun yb => h2.2 yb⟩
      refine w_keepsF h450 c1 ((hc.1 33 (by decide)).trans c2) (fun g hg hd => ⟨vpk (by omega) (by decide), fun s4 e4 => ?_⟩)
      rw [e4]
      exact h2.1 nb g hg hd
    rw [show tR s (L 44) 1 = L 444 from b44.2, nI_clamp (by omega)]
    refine ⟨⟨12, hS.a (r := 444) rfl, vpk hk12 (by decide)⟩, fun v hv => ?_⟩
    have hv' : v = m.2.1 2 (0 + k) := hv.trans ek
    rw [hv']
    refine ⟨fun nb => ⟨o0, v_booksS hS ?_⟩, fun yb => oN_no (k := 3) hX hK (by decide) (fun m1 K2 hc h2 => hw0 m1 K2 hc ⟨fun z => absurd yb z, fun _ => h2⟩)⟩
    rw [hS.t (r := 0) (j := 2) (q := 2) (by decide)]
    refine ⟨hS.o (r := 2) rfl, v_appF hX c1 c2 ⟨0, by decide, rfl⟩ (fun s1 L' hL X1 f1 o1 => ?_)⟩
    have S1 := X1.S
    rw [← hL.lt (r := 0) (by decide)]
    refine ⟨S1.o (r := 0) rfl, v_booksS S1 ⟨S1.o (r := 44) rfl, ?_⟩⟩
    have b44' := S1.2.2.1.2.1 44 (Or.inr (Or.inr (Or.inr (Or.inl rfl))))
    rw [show tR s1 (L' 44) 1 = L' 444 from b44'.2]
    refine ⟨⟨12, S1.a (r := 444) rfl, vpk hk12 (by decide)⟩, fun s2 e2 => ?_⟩
    have X2 : RX N s2 L' M O (mI (kM c 0 m) 2 (nI (0 + k)) b) := by
      rw [e2]
      refine X1.w (r0 := 444) (j0 := k) (q0 := 2) (i0 := 0 + k) hloc (rd_I _ _ (by decide) (by omega)) (by omega) (invM_I X1.I (told := told) ?_ k1 (by omega) ⟨fun _ => pI_of hb, by omega, by omega, by omega, by omega, by omega, by omega, by omega, by omega, by omega⟩)
      exact (congrFun ((kM_o (n := c) (w := 0) (m := m)).2 2 (by decide)) 43).trans k2
    refine hK _ s2 L' _ hL X2 (frM_t f1 (by rw [e2]; exact frM_I X1 (r := 444) (by decide))) (nF_t hL (nF_app o1) (by rw [e2]; exact nF_I ⟨by decide, by omega⟩)) (vrM_t (vrM_kM c 0 m) (vrM_I _ (by omega) b)) ⟨by have := hvp.1; omega, hvp.2⟩ (fun m1 K2 hc h2 => hw0 m1 K2 hc ⟨fun _ g hg hd => h2 _ ?_ ?_, fun z => absurd z nb⟩)
    · exact cE_I (cE_t (cE_kM hc c 0) hg) _ _ _
    · exact mD_t (mD_oF hd) (mD_I _ _ _ (by decide))
  · refine oN_no (k := 2) hX hK (by decide) (fun m1 K2 hc h2 a' b' sa sb => ?_)
    have e41 : m1.2.1 2 41 = nI n := (congrFun (hc.2 2 (by decide)) 41).trans n2
    unfold w_movesKept
    refine w_isPitchS ?_
    rw [(smR_PI sb).1]
    refine bI_d (fun _ => w_isNoteS e41 n1 ?_) (fun z => absurd (z.symm.trans hb) (by decide))
    rw [(smR_NI n1 sa).1]
    exact bI_d (fun z => absurd (z.symm.trans ha) (by decide)) (fun _ => h2)
  · refine oN_no (k := 1) hX hK (by decide) (fun m1 K2 hc h2 a' b' sa sb => ?_)
    unfold w_movesKept
    refine w_isPitchS ?_
    rw [(smR_PI sb).1]
    exact bI_d (fun z => absurd (z.symm.trans hb) (by decide)) (fun _ => h2)
theorem v_shiftNowF (hN : nOK N) (hX : RX N s L M O m) (a b : Int32) {Kr : Int32 → tM → Prop} (hK : oN N s L M O m (fun m1 K2 => ∀ a' b', smR a a' → smR b b' → w_movesKept (nP N) 1 12 a' b' m1 K2) Kr) : v_X0_shiftNow (L 0) a b s Kr := by
  have hS := hX.S
  obtain ⟨told, k1, k2, -⟩ := hX.told
  obtain ⟨n, n1, n2⟩ := hX.I.1.2.2.2.2.1
  obtain ⟨c, c1, c2, c3⟩ := hX.cnt
  have o0 := hS.o (r := 0) rfl
  have hmany : tI s (L 40) 4 = nI n := hX.many.trans n2
  have h450 : 450 ≤ (nP N).1 := Nat.le_trans (by decide) hN.1
  unfold v_X0_shiftNow
  refine v_isPitchS (bI_d (fun hb => ⟨o0, v_isNoteS hS hmany n1 (bI_d (fun ha => ⟨o0, v_booksS hS ⟨hS.o (r := 44) rfl, ?_⟩⟩) (fun ha => ?_))⟩) (fun hb => ?_))
  · obtain ⟨k, hk, rfl⟩ := isNI_t (by omega) ha
    have hk12 : k < 12 := by omega
    have b44 := hS.2.2.1.2.1 44 (Or.inr (Or.inr (Or.inr (Or.inl rfl))))
    have hloc : loc 244 k = some (2, 12 + k) := by
      unfold loc
      rw [if_neg (by decide), if_pos rfl, if_pos (by omega)]
    have ek : tI s (L 244) k = m.2.1 2 (12 + k) := hX.R 244 k 2 (12 + k) hloc
    have epc : (12 : Int32) + nI k = nI (12 + k) := nI_add 12 k
    have hvp : pI (m.2.1 2 (12 + k)) := hX.I.1.1.1 _ (by omega)
    have hw0 : ∀ m1 (K2 : Int32 → mS → Prop), cE m m1 → ((¬ m.2.1 2 (12 + k) = b → ∀ g, cE (kM c 1 m1) g → mD [33] [31] [] m1 g → K2 (m.2.1 2 (12 + k)) (mI g 2 (nI (12 + k)) b)) ∧ (m.2.1 2 (12 + k) = b → K2 (-(nI 3)) m1)) → ∀ a' b', smR (nI k) a' → smR b b' → w_movesKept (nP N) 1 12 a' b' m1 K2 := fun m1 K2 hc h2 a' b' sa sb => by
      have e2 : m1.2.1 2 = m.2.1 2 := hc.2 2 (by decide)
      have e41 : m1.2.1 2 41 = nI n := by rw [e2]; exact n2
      rw [(smR_NI n1 sa).2 ha, (smR_PI sb).2 hb]
      unfold w_movesKept
      rw [epc]
      refine w_isPitchS (bI_d (fun _ => w_isNoteS e41 n1 (bI_d (fun _ => ⟨vpk (by omega) (by decide), fun x hx => ?_⟩) (fun z => absurd (z.symm.trans ha) (by decide)))) (fun z => absurd (z.symm.trans hb) (by decide)))
      have hx' : x = m.2.1 2 (12 + k) := hx.trans ((mAt_n (k := 12 + k) (by omega)).trans (congrFun e2 _))
      rw [hx']
      refine ⟨fun nb => ?_, fun yb => h2.2 yb⟩
      refine w_keepsF h450 c1 ((hc.1 33 (by decide)).trans c2) (fun g hg hd => ⟨vpk (by omega) (by decide), fun s4 e4 => ?_⟩)
      rw [e4]
      exact h2.1 nb g hg hd
    rw [show tR s (L 44) 0 = L 244 from b44.1, nI_clamp (by omega)]
    refine ⟨⟨12, hS.a (r := 244) rfl, vpk hk12 (by decide)⟩, fun v hv => ?_⟩
    have hv' : v = m.2.1 2 (12 + k) := hv.trans ek
    rw [hv']
    refine ⟨fun nb => ⟨o0, v_booksS hS ?_⟩, fun yb => oN_no (k := 3) hX hK (by decide) (fun m1 K2 hc h2 => hw0 m1 K2 hc ⟨fun z => absurd yb z, fun _ => h2⟩)⟩
    rw [hS.t (r := 0) (j := 2) (q := 2) (by decide)]
    refine ⟨hS.o (r := 2) rfl, v_appF hX c1 c2 ⟨1, by decide, rfl⟩ (fun s1 L' hL X1 f1 o1 => ?_)⟩
    have S1 := X1.S
    rw [← hL.lt (r := 0) (by decide)]
    refine ⟨S1.o (r := 0) rfl, v_booksS S1 ⟨S1.o (r := 44) rfl, ?_⟩⟩
    have b44' := S1.2.2.1.2.1 44 (Or.inr (Or.inr (Or.inr (Or.inl rfl))))
    rw [show tR s1 (L' 44) 0 = L' 244 from b44'.1]
    refine ⟨⟨12, S1.a (r := 244) rfl, vpk hk12 (by decide)⟩, fun s2 e2 => ?_⟩
    have X2 : RX N s2 L' M O (mI (kM c 1 m) 2 (nI (12 + k)) b) := by
      rw [e2]
      refine X1.w (r0 := 244) (j0 := k) (q0 := 2) (i0 := 12 + k) hloc (rd_I _ _ (by decide) (by omega)) (by omega) (invM_I X1.I (told := told) ?_ k1 (by omega) ⟨fun _ => pI_of hb, by omega, by omega, by omega, by omega, by omega, by omega, by omega, by omega, by omega⟩)
      exact (congrFun ((kM_o (n := c) (w := 1) (m := m)).2 2 (by decide)) 43).trans k2
    refine hK _ s2 L' _ hL X2 (frM_t f1 (by rw [e2]; exact frM_I X1 (r := 244) (by decide))) (nF_t hL (nF_app o1) (by rw [e2]; exact nF_I ⟨by decide, by omega⟩)) (vrM_t (vrM_kM c 1 m) (vrM_I _ (by omega) b)) ⟨by have := hvp.1; omega, hvp.2⟩ (fun m1 K2 hc h2 => hw0 m1 K2 hc ⟨fun _ g hg hd => h2 _ ?_ ?_, fun z => absurd z nb⟩)
    · exact cE_I (cE_t (cE_kM hc c 1) hg) _ _ _
    · exact mD_t (mD_oF hd) (mD_I _ _ _ (by decide))
  · refine oN_no (k := 2) hX hK (by decide) (fun m1 K2 hc h2 a' b' sa sb => ?_)
    have e41 : m1.2.1 2 41 = nI n := (congrFun (hc.2 2 (by decide)) 41).trans n2
    unfold w_movesKept
    refine w_isPitchS ?_
    rw [(smR_PI sb).1]
    refine bI_d (fun _ => w_isNoteS e41 n1 ?_) (fun z => absurd (z.symm.trans hb) (by decide))
    rw [(smR_NI n1 sa).1]
    exact bI_d (fun z => absurd (z.symm.trans ha) (by decide)) (fun _ => h2)
  · refine oN_no (k := 1) hX hK (by decide) (fun m1 K2 hc h2 a' b' sa sb => ?_)
    unfold w_movesKept
    refine w_isPitchS ?_
    rw [(smR_PI sb).1]
    exact bI_d (fun z => absurd (z.symm.trans hb) (by decide)) (fun _ => h2)
theorem v_swapNowF (hN : nOK N) (hX : RX N s L M O m) {Kr : Int32 → tM → Prop} (hK : oN N s L M O m (fun m1 K2 => w_swapsKept (nP N) m1 K2) Kr) : v_X0_swapNow N (L 0) s Kr := by
  have hS := hX.S
  obtain ⟨n, n1, n2⟩ := hX.I.1.2.2.2.2.1
  obtain ⟨c, c1, c2, c3⟩ := hX.cnt
  have o0 := hS.o (r := 0) rfl
  have hmany : tI s (L 40) 4 = nI n := hX.many.trans n2
  have h450 : 450 ≤ (nP N).1 := Nat.le_trans (by decide) hN.1
  have h0 : nI n = 0 ↔ n = 0 := by
    rw [show (0 : Int32) = nI 0 from rfl, nI_eq (by omega) (by omega)]
  unfold v_X0_swapNow
  refine ⟨o0, v_nNotesS hS ?_⟩
  rw [hmany, h0]
  refine ⟨fun nn => ⟨o0, v_booksS hS ?_⟩, fun yn => oN_no (k := 3) hX hK (by decide) (fun m1 K2 hc h2 => ?_)⟩
  · rw [hS.t (r := 0) (j := 2) (q := 2) (by decide)]
    refine ⟨hS.o (r := 2) rfl, v_appF hX c1 c2 ⟨2, by decide, rfl⟩ (fun s1 L' hL X1 f1 o1 => ?_)⟩
    have S1 := X1.S
    have e41 : (kM c 2 m).2.1 2 41 = nI n := (congrFun ((kM_o (n := c) (w := 2) (m := m)).2 2 (by decide)) 41).trans n2
    have X1' : RX N s1 L' M O (kM c 2 m) := X1
    rw [← hL.lt (r := 0) (by decide)]
    refine ⟨S1.o (r := 0) rfl, v_booksS S1 ⟨S1.o (r := 0) rfl, v_nNotesS S1 ⟨S1.o (r := 44) rfl, ?_⟩⟩⟩
    rw [show tI s1 (L' 40) 4 = nI n from X1'.many.trans e41]
    unfold v_X2_exchange
    refine v_exF n1 n N.1 0 X1' (by have := hN.1; omega) (by omega) (fun s2 X2 f2 o2 => ⟨X2.S.o (r := 0) rfl, v_nNotesS X2.S ?_⟩)
    have e41' : (exI n 0 (kM c 2 m)).2.1 2 41 = nI n := (exI_o n 0 _ (by omega) 41 (by decide)).trans e41
    rw [show tI s2 (L' 40) 4 = nI n from X2.many.trans e41']
    refine hK _ s2 L' _ hL X2 (frM_t f1 f2) (nF_t hL (nF_app o1) o2) (vrM_t (vrM_kM c 2 m) (vrM_exI n 0 _ (by omega))) (by rw [nI_toInt (by omega)]; omega) (fun m1 K2 hc h2 => ?_)
    have e2 : m1.2.1 2 = m.2.1 2 := hc.2 2 (by decide)
    have e41 : m1.2.1 2 41 = nI n := by rw [e2]; exact n2
    unfold w_swapsKept
    refine w_manyS e41 ⟨fun _ => w_keepsF h450 c1 ((hc.1 33 (by decide)).trans c2) (fun g hg hd => ?_), fun z => absurd (h0.mp z) nn⟩
    have hg' : cE (kM c 2 m1) g := hg
    have g41 : g.2.1 2 41 = nI n := (congrFun (hg'.2 2 (by decide)) 41).trans ((congrFun ((kM_o (n := c) (w := 2) (m := m1)).2 2 (by decide)) 41).trans e41)
    unfold w_exchanges
    refine w_exL n1 n (nP N).1 0 g41 (by have := hN.1; show n < N.1; omega) (by omega) (w_manyS ((exI_o n 0 _ (by omega) 41 (by decide)).trans g41) (h2 _ ?_ ?_))
    · exact cE_exI n 0 (cE_t (cE_kM hc c 2) hg')
    · exact mD_t (mD_oF hd) (mD_exI (by decide) n 0 g)
  · have e41 : m1.2.1 2 41 = nI n := (congrFun (hc.2 2 (by decide)) 41).trans n2
    unfold w_swapsKept
    exact w_manyS e41 ⟨fun z => absurd (h0.mpr yn) z, fun _ => h2⟩
theorem v_passNowF (hN : nOK N) (hX : RX N s L M O m) {Kr : Int32 → tM → Prop} (hK : oN N s L M O m (fun m1 K2 => w_passesKept (nP N) m1 K2) Kr) : v_X0_passNow N (L 0) s Kr := by
  have hS := hX.S
  obtain ⟨told, k1, k2, -⟩ := hX.told
  obtain ⟨n, n1, n2⟩ := hX.I.1.2.2.2.2.1
  obtain ⟨c, c1, c2, c3⟩ := hX.cnt
  obtain ⟨lw, hF⟩ := hX.inF
  have o0 := hS.o (r := 0) rfl
  have h450 : 450 ≤ (nP N).1 := Nat.le_trans (by decide) hN.1
  have hd : 0 ≤ (m.2.1 2 24).toInt ∧ (m.2.1 2 24).toInt ≤ 999 := hX.I.1.1.2.2
  have hN1 : 60 ≤ N.1 := by have := hN.1; omega
  have hN2 : 120 ≤ N.2.1 := by have := hN.2; omega
  obtain ⟨u, u1, u2⟩ := @bar_n (m.2.1 2) lw n
  have hu : -3 ≤ (sumI (mOne 2 (m.2.1 2) lw) n).toInt ∧ (sumI (mOne 2 (m.2.1 2) lw) n).toInt ≤ 24 := by
    rw [u2, nI_toInt (by omega)]
    omega
  unfold v_X0_passNow
  refine ⟨o0, v_booksS hS ?_⟩
  rw [hX.d]
  refine ⟨hS.o (r := 44) rfl, fun nn => ⟨o0, v_barredS hN2 hN1 hX hF n2 n1 (fun s1 h1 => ?_)⟩, fun yn => oN_no (k := 3) hX hK (by decide) (fun m1 K2 hc h2 => ?_)⟩
  · have X1 := hX.a h1
    have S1 := X1.S
    have f1 : frM O s s1 := frM_s (aS_M h1 hS) (fun _ => Or.inr)
    refine ⟨S1.o (r := 0) rfl, v_booksS S1 ?_⟩
    rw [S1.t (r := 0) (j := 2) (q := 2) (by decide)]
    refine ⟨S1.o (r := 2) rfl, v_appF X1 c1 c2 ⟨3, by decide, rfl⟩ (fun s2 L' hL X2 f2 o2 => ?_)⟩
    have S2 := X2.S
    have X2' : RX N s2 L' M O (kM c 3 m) := X2
    have e24 : (kM c 3 m).2.1 2 = m.2.1 2 := (kM_o (n := c) (w := 3) (m := m)).2 2 (by decide)
    rw [← hL.lt (r := 0) (by decide)]
    refine ⟨S2.o (r := 0) rfl, v_booksS S2 ⟨S2.o (r := 44) rfl, fun s3 e3 => ?_⟩⟩
    rw [show tI s2 (L' 44) 2 = m.2.1 2 24 from X2'.d.trans (congrFun e24 24)] at e3
    have X3 : RX N s3 L' M O (mI (kM c 3 m) 2 (nI 24) (m.2.1 2 24 + 1)) := by
      rw [e3]
      refine X2'.w (r0 := 44) (j0 := 2) (q0 := 2) (i0 := 24) rfl (rd_I _ _ (by decide) (by omega)) (by omega) (invM_I X2'.I (told := told) ((congrFun e24 43).trans k2) k1 (by omega) ⟨by omega, fun _ => day_1 hd nn, by omega, by omega, by omega, by omega, by omega, by omega, by omega, by omega⟩)
    have f3 : frM O s s3 := frM_t (frM_t f1 f2) (by rw [e3]; exact frM_I X2' (r := 44) (by decide))
    refine hK _ s3 L' _ hL X3 f3 (nF_t hL (nF_t (rol_r L) (nF_a h1) (nF_app o2)) (by rw [e3]; exact nF_I ⟨by decide, by omega⟩)) (vrM_t (vrM_kM c 3 m) (vrM_I _ (by omega) _)) hu (fun m1 K2 hc h2 => ?_)
    have e2 := eqP hc
    unfold w_passesKept
    try dsimp only
    have d1 : mAt m1 2 24 = m.2.1 2 24 := (mAt_n (k := 24) (by decide)).trans (congrFun e2 24)
    rw [d1]
    refine ⟨vpk (k := 24) (by decide) (by decide), fun _ => ?_, fun z => absurd z nn⟩
    refine w_allS (N := nP N) (w := 2) (by have := hN.1; show 402 ≤ N.1; omega) (by have := hN.2; show 40 ≤ N.2.1; omega) (s0 := m1) (lw := lw) (by rw [e2]; exact hF) (by rw [e2]; exact hX.I.1.1) (m := n) (by rw [e2]; exact n2) n1 (by decide) (fun g hg => ?_)
    have hg1 : cE m1 g := cE_D hg (by decide) (by decide)
    rw [e2]
    refine w_keepsF h450 c1 ((hg1.1 33 (by decide)).trans ((hc.1 33 (by decide)).trans c2)) (fun g2 hg2 hd2 => ⟨vpk (k := 24) (by decide) (by decide), vpk (k := 24) (by decide) (by decide), fun s4 e4 => ?_⟩)
    have hg2' : cE (kM c 3 g) g2 := hg2
    have hk : cE (kM c 3 m) g2 := cE_t (cE_kM (cE_t hc hg1) c 3) hg2'
    have d2 : mAt g2 2 24 = m.2.1 2 24 := (mAt_n (k := 24) (by decide)).trans ((congrFun (hk.2 2 (by decide)) 24).trans (congrFun e24 24))
    rw [d2] at e4
    rw [e4]
    exact h2 _ (cE_I hk _ _ _) (mD_t (mD_t (mD_w hg (by decide) (by decide) (by decide)) (mD_oF hd2)) (mD_I _ _ _ (by decide)))
  · have e2 := eqP hc
    unfold w_passesKept
    try dsimp only
    have d1 : mAt m1 2 24 = m.2.1 2 24 := (mAt_n (k := 24) (by decide)).trans (congrFun e2 24)
    rw [d1]
    exact ⟨vpk (k := 24) (by decide) (by decide), fun z => absurd yn z, fun _ => h2⟩
end NW2
