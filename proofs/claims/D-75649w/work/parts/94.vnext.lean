set_option maxRecDepth 100000
/-! ===== the system's reader: next, isWord, accept, which, must, number ===== -/
def TPo (s : tM) (x ta : Nat) (tp : Nat → Int32) (n : Nat) : Prop := tO s 0 x ∧ tR s x 14 = ta ∧ tA s 2 400 ta ∧ (∀ k, k < 400 → tI s ta k = tp k) ∧ tI s x 15 = nI n
def RDo (s : tM) (rd x : Nat) : Prop := tE s 7 18 rd ∧ tR s rd 7 = x
def rdW (s : tM) (rd f t : Nat) : tM := tsI (tsI s rd 0 (nI f)) rd 1 (nI t)
section NX
variable {N : tP} {s : tM} {rd x ta : Nat} {tp : Nat → Int32} {n : Nat}
theorem tsI_tsI {a j : Nat} {v w : Int32} : tsI (tsI s a j v) a j w = tsI s a j w := by
  refine Prod.ext rfl (Prod.ext (funext fun b => funext fun i => ?_) rfl)
  show (if b = a ∧ i = j then w else if b = a ∧ i = j then v else s.2.1 b i) = if b = a ∧ i = j then w else s.2.1 b i
  by_cases c : b = a ∧ i = j
  · rw [if_pos c, if_pos c]
  · rw [if_neg c, if_neg c, if_neg c]
theorem tsI_sw {a i j : Nat} {v w : Int32} (h : i ≠ j) : tsI (tsI s a i v) a j w = tsI (tsI s a j w) a i v := by
  refine Prod.ext rfl (Prod.ext (funext fun b => funext fun q => ?_) rfl)
  show (if b = a ∧ q = j then w else if b = a ∧ q = i then v else s.2.1 b q) = if b = a ∧ q = i then v else if b = a ∧ q = j then w else s.2.1 b q
  by_cases c : b = a ∧ q = j
  · rw [if_pos c, if_neg (fun z => h (z.2.symm.trans c.2)), if_pos c]
  · rw [if_neg c, if_neg c]
theorem tsI_id {a j : Nat} {v : Int32} (h : tI s a j = v) : tsI s a j v = s := by
  refine Prod.ext rfl (Prod.ext (funext fun b => funext fun q => ?_) rfl)
  show (if b = a ∧ q = j then v else s.2.1 b q) = s.2.1 b q
  by_cases c : b = a ∧ q = j
  · rw [if_pos c, c.1, c.2]
    exact h.symm
  · rw [if_neg c]
theorem rdW_0 {f t f' : Nat} : tsI (rdW s rd f t) rd 0 (nI f') = rdW s rd f' t := by
  unfold rdW
  rw [tsI_sw (by decide), tsI_tsI]
theorem rdW_1 {f t t' : Nat} : tsI (rdW s rd f t) rd 1 (nI t') = rdW s rd f t' := tsI_tsI
theorem rdW_id {f t : Nat} (h0 : tI s rd 0 = nI f) (h1 : tI s rd 1 = nI t) : rdW s rd f t = s := by
  unfold rdW
  rw [tsI_id h0, tsI_id h1]
theorem rdW_f {f t : Nat} : tI (rdW s rd f t) rd 0 = nI f := (if_neg (fun z => absurd z.2 (by decide))).trans (if_pos ⟨rfl, rfl⟩)
theorem rdW_t {f t : Nat} : tI (rdW s rd f t) rd 1 = nI t := if_pos ⟨rfl, rfl⟩
theorem rdW_w {f t f' t' : Nat} : rdW (rdW s rd f t) rd f' t' = rdW s rd f' t' := by
  show tsI (tsI (rdW s rd f t) rd 0 (nI f')) rd 1 (nI t') = _
  rw [rdW_0, rdW_1]
theorem rdW_o {f t a j : Nat} (h : ¬ (a = rd ∧ (j = 0 ∨ j = 1))) : tI (rdW s rd f t) a j = tI s a j := by
  refine (if_neg fun z => h ⟨z.1, Or.inr z.2⟩).trans (if_neg fun z => h ⟨z.1, Or.inl z.2⟩)
theorem tE_ne {a c : Nat} (h : tE s 7 18 rd) (ho : tO s c a) (h7 : c ≠ 7) (h18 : c ≠ 18) : rd ≠ a := fun z => by
  subst z
  rcases h with h | h
  · have := h.1.symm.trans ho.1
    cases this
    exact h7 rfl
  · have := h.1.symm.trans ho.1
    cases this
    exact h18 rfl
theorem tE_nA {a t0 n0 : Nat} (h : tE s 7 18 rd) (ho : tA s t0 n0 a) : rd ≠ a := fun z => by
  subst z
  rcases h with h | h
  · have := h.1.symm.trans ho.1
    cases this
  · have := h.1.symm.trans ho.1
    cases this
theorem TPo_i (hT : TPo s x ta tp n) {s' : tM} (h1 : s'.1 = s.1) (hx : s'.2.1 x = s.2.1 x) (ht : s'.2.1 ta = s.2.1 ta) (h2 : s'.2.2.2 x = s.2.2.2 x) : TPo s' x ta tp n := by
  obtain ⟨t1, t2, t3, t4, t5⟩ := hT
  unfold TPo tO tA tR tI at *
  rw [h1, hx, ht, h2]
  exact ⟨t1, t2, t3, t4, t5⟩
theorem TPo_w (hT : TPo s x ta tp n) (hR : tE s 7 18 rd) {f t : Nat} : TPo (rdW s rd f t) x ta tp n := TPo_i hT rfl (funext fun j => rdW_o fun z => tE_ne hR hT.1 (by decide) (by decide) z.1.symm) (funext fun j => rdW_o fun z => tE_nA hR hT.2.2.1 z.1.symm) rfl
theorem RDo_w (hR : RDo s rd x) {f t : Nat} : RDo (rdW s rd f t) rd x := hR
theorem v_ltS {b : Int32} {K : Int32 → tM → Prop} (h : K (bI (isLt b)) s) : v_X0_isLetter b s K := by
  unfold v_X0_isLetter
  unfold isLt at h
  have hn : ∀ a b : Int32, ¬ a < b ↔ b ≤ a := fun a b => by
    rw [i32_lt, i32_le]
    omega
  refine ⟨fun z => ?_, fun z => ⟨fun z2 => ?_, fun z2 => ?_⟩⟩
  · rw [decide_eq_false (fun q => (hn _ _).mpr q z)] at h
    exact h
  · rw [decide_eq_false (p := b ≤ 122) (fun q => (hn _ _).mpr q z2), Bool.and_false] at h
    exact h
  · rw [decide_eq_true ((hn _ _).mp z), decide_eq_true ((hn _ _).mp z2)] at h
    exact h
theorem v_dgS {b : Int32} {K : Int32 → tM → Prop} (h : K (bI (isDg b)) s) : v_X0_isDigit b s K := by
  unfold v_X0_isDigit
  unfold isDg at h
  have hn : ∀ a b : Int32, ¬ a < b ↔ b ≤ a := fun a b => by
    rw [i32_lt, i32_le]
    omega
  refine ⟨fun z => ?_, fun z => ⟨fun z2 => ?_, fun z2 => ?_⟩⟩
  · rw [decide_eq_false (fun q => (hn _ _).mpr q z)] at h
    exact h
  · rw [decide_eq_false (p := b ≤ 57) (fun q => (hn _ _).mpr q z2), Bool.and_false] at h
    exact h
  · rw [decide_eq_true ((hn _ _).mp z), decide_eq_true ((hn _ _).mp z2)] at h
    exact h
theorem v_next8 (hT : TPo s x ta tp n) (hR : RDo s rd x) (hn : n ≤ 400) {t : Nat} {Kr K : tM → Prop} : ∀ (g u f : Nat), f ≤ n → n < f + g → g ≤ u → K (rdW s rd (skW tp n g f) t) → v_X7_next_8 N rd Kr K u (rdW s rd f t)
  | 0, _, _, h1, h2, _, _ => absurd h2 (by omega)
  | g + 1, 0, _, _, _, h, _ => absurd h (Nat.not_succ_le_zero _)
  | g + 1, u + 1, f, h1, h2, hu, hK => by
    have T1 := TPo_w hT hR.1 (f := f) (t := t)
    obtain ⟨t1, t2, t3, t4, t5⟩ := T1
    have e : skW tp n (g + 1) f = if f < n ∧ tp f = 32 then skW tp n g (f + 1) else f := rfl
    have r7 : tR (rdW s rd f t) rd 7 = x := hR.2
    rw [e] at hK
    unfold v_X7_next_8
    rw [r7, t2, t5, rdW_f, nI_lle (by omega) (by omega), nI_clamp (by omega)]
    refine ⟨hR.1, t1, fun z => ?_, fun z => ⟨⟨400, t3, vpk (by omega) (by decide)⟩, ?_⟩⟩
    · rw [if_neg (fun y => by omega)] at hK
      exact hK
    · rw [t4 f (by omega)]
      refine ⟨fun z2 => ?_, fun z2 s2 e2 => ?_⟩
      · rw [if_neg (fun y => z2 y.2)] at hK
        exact hK
      · rw [if_pos ⟨by omega, z2⟩] at hK
        rw [e2, nI_1, rdW_0]
        exact v_next8 hT hR hn g u (f + 1) (by omega) (by omega) (by omega) hK
def prW (lt dg : Bool) (b : Int32) : Bool := (lt && isLt b) || (dg && isDg b)
theorem v_next117 (hT : TPo s x ta tp n) (hR : RDo s rd x) (hn : n ≤ 400) {f : Nat} {lt dg : Bool} {Kr K : tM → Prop} : ∀ (g u t : Nat), t ≤ n → n < t + g → g ≤ u → K (rdW s rd f (runW (prW lt dg) tp n g t)) → v_X7_next_117 N rd (bI lt) (bI dg) Kr K u (rdW s rd f t)
  | 0, _, _, h1, h2, _, _ => absurd h2 (by omega)
  | g + 1, 0, _, _, _, h, _ => absurd h (Nat.not_succ_le_zero _)
  | g + 1, u + 1, t, h1, h2, hu, hK => by
    have T1 := TPo_w hT hR.1 (f := f) (t := t)
    obtain ⟨t1, t2, t3, t4, t5⟩ := T1
    have e : runW (prW lt dg) tp n (g + 1) t = if t < n ∧ prW lt dg (tp t) = true then runW (prW lt dg) tp n g (t + 1) else t := rfl
    have r7 : tR (rdW s rd f t) rd 7 = x := hR.2
    rw [e] at hK
    have x2 : t < n → tX (rdW s rd f t) 2 ta (nI t) := fun h => ⟨400, t3, vpk (by omega) (by decide)⟩
    have go : t < n → prW lt dg (tp t) = true → v_X7_next_175 N rd (bI lt) (bI dg) Kr K (fun s => v_X7_next_117 N rd (bI lt) (bI dg) Kr K u s) (rdW s rd f t) := fun h hp => by
      rw [if_pos ⟨h, hp⟩] at hK
      unfold v_X7_next_175
      refine ⟨hR.1, fun s2 e2 => ?_⟩
      rw [e2, rdW_t, nI_1, rdW_1]
      exact v_next117 hT hR hn g u (t + 1) (by omega) (by omega) (by omega) hK
    have stop : prW lt dg (tp t) = false → K (rdW s rd f t) := fun hp => by
      rw [if_neg (fun y => by rw [hp] at y; exact absurd y.2 (by decide))] at hK
      exact hK
    have d153 : t < n → (lt && isLt (tp t)) = false → v_X7_next_153 N rd (bI lt) (bI dg) Kr K (fun s => v_X7_next_117 N rd (bI lt) (bI dg) Kr K u s) (rdW s rd f t) := fun h hl => by
      unfold v_X7_next_153
      refine bI_c (fun z => stop (by unfold prW; rw [hl, z, Bool.false_and]; rfl)) (fun z => ?_)
      rw [r7, t2, rdW_t, nI_clamp (by omega), t4 t (by omega)]
      exact ⟨hR.1, t1, x2 h, v_dgS (bI_c (fun y => stop (by unfold prW; rw [hl, y, Bool.and_false]; rfl)) (fun y => go h (by unfold prW; rw [z, y, Bool.true_and, Bool.or_true])))⟩
    unfold v_X7_next_117
    rw [r7, t2, t5, rdW_t, nI_lle (by omega) (by omega), nI_clamp (by omega)]
    refine ⟨hR.1, t1, fun z => ?_, fun z => bI_c (fun y => d153 (by omega) (by rw [y, Bool.false_and])) (fun y => ⟨x2 (by omega), ?_⟩)⟩
    · rw [if_neg (fun y => by omega)] at hK
      exact hK
    · rw [t4 t (by omega)]
      exact v_ltS (bI_d (fun w => go (by omega) (by unfold prW; rw [y, w]; rfl)) (fun w => d153 (by omega) (by rw [w, Bool.and_false])))
theorem runW_c {p q : Int32 → Bool} (h : ∀ b, p b = q b) : ∀ g k, runW p tp n g k = runW q tp n g k
  | 0, _ => rfl
  | g + 1, k => by
    show (if k < n ∧ p (tp k) = true then runW p tp n g (k + 1) else k) = if k < n ∧ q (tp k) = true then runW q tp n g (k + 1) else k
    rw [h, runW_c h g (k + 1)]
theorem v_nextT (hN : 402 ≤ N.1) (hT : TPo s x ta tp n) (hR : RDo s rd x) (hn : n ≤ 400) {e : Nat} (he : e ≤ n) (h1 : tI s rd 1 = nI e) {K : tM → Prop} (hK : K (rdW s rd (sk tp n e) (if sk tp n e < n then en tp n (sk tp n e) else sk tp n e))) : v_X7_next N rd s K := by
  unfold v_X7_next
  refine ⟨hR.1, fun s1 e1 => ?_⟩
  have es : s1 = rdW s rd e e := by
    rw [e1, h1]
    unfold rdW
    rw [tsI_sw (by decide), tsI_id h1]
  rw [es]
  have hle := sk_le (tp := tp) (n := n) he
  refine v_next8 hT hR hn 401 N.1 e he (by omega) (by omega) ⟨hR.1, fun s2 e2 => ?_⟩
  rw [rdW_f, rdW_1] at e2
  have hs : skW tp n 401 e = sk tp n e := rfl
  rw [hs] at e2
  rw [e2]
  have T2 := TPo_w hT hR.1 (f := sk tp n e) (t := sk tp n e)
  obtain ⟨t1, t2, t3, t4, t5⟩ := T2
  have r7 : ∀ f t, tR (rdW s rd f t) rd 7 = x := fun f t => hR.2
  rw [r7, t2, t5, rdW_t, nI_eq (by omega) (by omega), nI_clamp (by omega)]
  refine ⟨t1, fun ne => ?_, fun eq => ?_⟩
  · have hlt : sk tp n e < n := by omega
    rw [if_pos hlt] at hK
    have x2 : tX (rdW s rd (sk tp n e) (sk tp n e)) 2 ta (nI (sk tp n e)) := ⟨400, t3, vpk (by omega) (by decide)⟩
    rw [t4 _ (by omega)]
    refine ⟨x2, v_ltS ?_⟩
    rw [r7, t2, rdW_t, nI_clamp (by omega), t4 _ (by omega)]
    refine ⟨hR.1, t1, x2, v_dgS ⟨hR.1, fun s3 e3 => ?_⟩⟩
    rw [rdW_t, nI_1, rdW_1] at e3
    rw [e3]
    refine v_next117 hT hR hn 401 N.1 (sk tp n e + 1) (by omega) (by omega) (by omega) ?_
    have ee : runW (prW (isLt (tp (sk tp n e))) (isDg (tp (sk tp n e)))) tp n 401 (sk tp n e + 1) = en tp n (sk tp n e) := by
      unfold en
      by_cases c1 : isLt (tp (sk tp n e)) = true
      · rw [if_pos c1, c1, lt_dg c1]
        exact runW_c (fun b => by unfold prW; rw [Bool.true_and, Bool.false_and, Bool.or_false]) _ _
      · rw [if_neg c1, Bool.eq_false_iff.mpr c1]
        by_cases c2 : isDg (tp (sk tp n e)) = true
        · rw [if_pos c2, c2]
          exact runW_c (fun b => by unfold prW; rw [Bool.true_and, Bool.false_and, Bool.false_or]) _ _
        · rw [if_neg c2, Bool.eq_false_iff.mpr c2]
          show (if sk tp n e + 1 < n ∧ prW false false (tp (sk tp n e + 1)) = true then _ else sk tp n e + 1) = _
          exact if_neg fun z => absurd z.2 (by unfold prW; simp)
    rw [ee]
    exact hK
  · rw [if_neg (by omega)] at hK
    exact hK
/-- the reader stands at token i -/
def TKo (s : tM) (rd : Nat) (tp : Nat → Int32) (n i : Nat) : Prop := tI s rd 0 = nI (tokP tp n i) ∧ tI s rd 1 = nI (toP tp n i)
theorem toP_le (hn : n ≤ 400) (i : Nat) : tokP tp n i ≤ toP tp n i ∧ toP tp n i ≤ n := by
  have h := tokP_le (tp := tp) (n := n) i
  unfold toP
  by_cases c : tokP tp n i < n
  · rw [if_pos c]
    have := en_le (tp := tp) c
    omega
  · rw [if_neg c]
    omega
theorem v_nextK (hN : 402 ≤ N.1) (hT : TPo s x ta tp n) (hR : RDo s rd x) (hn : n ≤ 400) {i : Nat} (hk : TKo s rd tp n i) {K : tM → Prop} (hK : K (rdW s rd (tokP tp n (i + 1)) (toP tp n (i + 1)))) : v_X7_next N rd s K := by
  refine v_nextT hN hT hR hn (toP_le hn i).2 hk.2 ?_
  have e1 : sk tp n (toP tp n i) = tokP tp n (i + 1) := by
    rw [tokP_s]
    unfold toP
    by_cases c : tokP tp n i < n
    · rw [if_pos c, if_pos c]
    · rw [if_neg c, if_neg c]
      have := tokP_le (tp := tp) (n := n) i
      exact sk_no (fun z => by omega)
  rw [e1]
  exact hK
theorem TKo_w {i : Nat} : TKo (rdW s rd (tokP tp n i) (toP tp n i)) rd tp n i := ⟨rdW_f, rdW_t⟩
theorem len_x : ∀ idx, idx < 40 → xlen.getD idx 0 = (xbyt.getD idx []).length ∧ (xbyt.getD idx []).length < 8 ∧ ∀ j, j < 8 → (xbyt.getD idx []).getD j 0 &&& 255 = (xbyt.getD idx []).getD j 0 := by decide +kernel
theorem v_isW20 (hT : TPo s x ta tp n) (hR : RDo s rd x) {k idx : Nat} (hi : idx < 40) (hk : tI s rd 0 = nI k) (hkm : k + (xbyt.getD idx []).length ≤ 400) {Kr : Int32 → tM → Prop} {K : tM → Prop} (ht : (∀ j, j < (xbyt.getD idx []).length → (xbyt.getD idx []).getD j 0 = tp (k + j)) → K s) (hf : (∃ j, j < (xbyt.getD idx []).length ∧ (xbyt.getD idx []).getD j 0 ≠ tp (k + j)) → Kr 0 s) : ∀ (c u j : Nat), j + c = (xbyt.getD idx []).length → c < u → (∀ i, i < j → (xbyt.getD idx []).getD i 0 = tp (k + i)) → v_X7_isWord_20 N rd (N.2.2 idx) Kr K u (nI j) s
  | _, 0, _, _, h, _ => absurd h (Nat.not_lt_zero _)
  | c, u + 1, j, hj, hu, hb => by
    obtain ⟨l1, l2, l3⟩ := len_x idx hi
    obtain ⟨t1, t2, t3, t4, t5⟩ := hT
    unfold v_X7_isWord_20 v_J11_length
    refine ⟨idx, hi, rfl, ?_⟩
    rw [show Int32.ofNat (xlen.getD idx 0) = nI (xlen.getD idx 0) from rfl, l1]
    dsimp only
    rw [nI_lle (by omega) (by omega), hR.2, t2, hk, nI_add, nI_clamp (by omega)]
    refine ⟨fun z => ht (fun i hi => hb i (by omega)), fun z => ⟨hR.1, t1, ⟨400, t3, vpk (by omega) (by decide)⟩, ?_⟩⟩
    unfold v_J11_charAt
    refine ⟨idx, hi, rfl, ?_, ?_⟩
    · rw [l1]
      exact vpk (by omega) (by omega)
    · rw [nI_clamp (by omega), l3 j (by omega), t4 (k + j) (by omega)]
      refine ⟨fun e y hy => ?_, fun ne => hf ⟨j, by omega, fun e => ne e.symm⟩⟩
      rw [hy, nI_1]
      refine v_isW20 ⟨t1, t2, t3, t4, t5⟩ hR hi hk hkm ht hf (c - 1) u (j + 1) (by omega) (by omega) (fun i hi2 => ?_)
      by_cases ei : i = j
      · rw [ei]
        exact e.symm
      · exact hb i (by omega)
theorem txL_i : ∀ (c : List Int32) (m k : Nat), c.length = m → ((∀ j, j < m → c.getD j 0 = tp (k + j)) ↔ c = txL tp m k)
  | [], 0, _, _ => ⟨fun _ => rfl, fun _ j hj => absurd hj (Nat.not_lt_zero _)⟩
  | a :: c, 0, _, h => absurd h (by simp)
  | [], m + 1, _, h => absurd h (by simp)
  | a :: c, m + 1, k, h => by
    have ih := txL_i c m (k + 1) (by simpa using h)
    have e2 : txL tp (m + 1) k = tp k :: txL tp m (k + 1) := rfl
    rw [e2, List.cons.injEq, ← ih]
    constructor
    · intro z
      refine ⟨z 0 (by omega), fun j hj => ?_⟩
      have := z (j + 1) (by omega)
      rw [show k + (j + 1) = k + 1 + j by omega] at this
      exact this
    · intro ⟨z1, z2⟩ j hj
      cases j with
      | zero => exact z1
      | succ j =>
        have := z2 j (by omega)
        rw [show k + 1 + j = k + (j + 1) by omega] at this
        exact this
theorem v_isWordK (hN : 402 ≤ N.1) (hT : TPo s x ta tp n) (hR : RDo s rd x) (hn : n ≤ 400) (hb : ∀ k, k < 400 → byT (tp k)) {i idx : Nat} (hi : idx < 40) (hk : TKo s rd tp n i) {K : Int32 → tM → Prop} (hK : K (bI (decide (cdT tp n i = cdS idx))) s) : v_X7_isWord N rd (N.2.2 idx) s K := by
  obtain ⟨l1, l2, l3⟩ := len_x idx hi
  have hle := toP_le (tp := tp) hn i
  have hcd := tk_cd hn hb i hi
  have hd : nI (toP tp n i) - nI (tokP tp n i) = nI (toP tp n i - tokP tp n i) := pk_sub hle.1
  have hno : toP tp n i - tokP tp n i ≠ (xbyt.getD idx []).length → ¬ cdT tp n i = cdS idx := fun h z => h (by
    have := hcd.mpr z
    have hl : ∀ (m k : Nat), (txL tp m k).length = m := by
      intro m
      induction m with
      | zero => exact fun _ => rfl
      | succ m ih =>
        intro k
        show (tp k :: txL tp m (k + 1)).length = m + 1
        rw [List.length_cons, ih]
    rw [this, hl])
  unfold v_X7_isWord v_J11_length
  refine ⟨hR.1, idx, hi, rfl, ?_⟩
  rw [show Int32.ofNat (xlen.getD idx 0) = nI (xlen.getD idx 0) from rfl, l1]
  dsimp only
  rw [hk.1, hk.2, hd, nI_eq (by omega) (by omega)]
  refine ⟨fun e => ?_, fun ne => ?_⟩
  · have key := txL_i (tp := tp) (xbyt.getD idx []) (toP tp n i - tokP tp n i) (tokP tp n i) e.symm
    refine v_isW20 hT hR hi hk.1 (by omega) (fun h => ?_) (fun ⟨j, j1, j2⟩ => ?_) (xbyt.getD idx []).length N.1 0 (by omega) (by omega) (fun i h => absurd h (Nat.not_lt_zero _))
    · rw [decide_eq_true (hcd.mp (key.mp (by rw [e]; exact h)))] at hK
      exact hK
    · rw [decide_eq_false (fun z => j2 (key.mpr (hcd.mpr z) j (by rw [e]; exact j1)))] at hK
      exact hK
  · rw [decide_eq_false (hno ne)] at hK
    exact hK
theorem v_acceptK (hN : 402 ≤ N.1) (hT : TPo s x ta tp n) (hR : RDo s rd x) (hn : n ≤ 400) (hb : ∀ k, k < 400 → byT (tp k)) {i idx : Nat} (hi : idx < 40) (hk : TKo s rd tp n i) {K : Int32 → tM → Prop} (h0 : ¬ cdT tp n i = cdS idx → K 0 s) (h1 : cdT tp n i = cdS idx → K 1 (rdW s rd (tokP tp n (i + 1)) (toP tp n (i + 1)))) : v_X7_accept N rd (N.2.2 idx) s K := by
  unfold v_X7_accept
  refine ⟨hR.1, v_isWordK hN hT hR hn hb hi hk (bI_c (fun z => ?_) (fun z => ?_))⟩
  · rw [z]
    exact ⟨xB0, h0 (of_decide_eq_false z)⟩
  · rw [z]
    exact ⟨hR.1, v_nextK hN hT hR hn hk ⟨xB1, h1 (of_decide_eq_true z)⟩⟩
end NX
