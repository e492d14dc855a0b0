set_option maxRecDepth 100000
/-! ===== the reference: a text read from the tape, laid; what else stays as it is ===== -/
/-- what may have changed: fields F, int rows A, long rows L -/
def mD (F A L : List Nat) (s s' : mS) : Prop := (∀ j, j ∉ F → s'.1 j = s.1 j) ∧ (∀ q, q ∉ A → s'.2.1 q = s.2.1 q) ∧ ∀ q, q ∉ L → s'.2.2 q = s.2.2 q
theorem mD_r {F A L : List Nat} (s : mS) : mD F A L s s := ⟨fun _ _ => rfl, fun _ _ => rfl, fun _ _ => rfl⟩
theorem mD_t {F A L : List Nat} {s s' s2 : mS} (h : mD F A L s s') (h2 : mD F A L s' s2) : mD F A L s s2 := ⟨fun j hj => (h2.1 j hj).trans (h.1 j hj), fun j hj => (h2.2.1 j hj).trans (h.2.1 j hj), fun j hj => (h2.2.2 j hj).trans (h.2.2 j hj)⟩
theorem mD_w {F A L F2 A2 L2 : List Nat} {s s' : mS} (h : mD F A L s s') (hF : ∀ j ∈ F, j ∈ F2) (hA : ∀ j ∈ A, j ∈ A2) (hL : ∀ j ∈ L, j ∈ L2) : mD F2 A2 L2 s s' := ⟨fun j hj => h.1 j fun z => hj (hF j z), fun j hj => h.2.1 j fun z => hj (hA j z), fun j hj => h.2.2 j fun z => hj (hL j z)⟩
theorem mD_F {F A L : List Nat} (s : mS) {j : Nat} (x : Int32) (h : j ∈ F) : mD F A L s (mF s j x) := ⟨fun q hq => mF_o s x (fun e => hq (e ▸ h)), fun _ _ => rfl, fun _ _ => rfl⟩
theorem mD_I {F A L : List Nat} (s : mS) {j : Nat} (i x : Int32) (h : j ∈ A) : mD F A L s (mI s j i x) := ⟨fun _ _ => rfl, fun q hq => mI_o s i x (fun e => hq (e ▸ h)), fun _ _ => rfl⟩
theorem mD_L {F A L : List Nat} (s : mS) {j : Nat} (i : Int32) (x : Int64) (h : j ∈ L) : mD F A L s (mL s j i x) := ⟨fun _ _ => rfl, fun _ _ => rfl, fun q hq => if_neg (fun (e : q = j) => hq (e ▸ h))⟩
/-- what is kept: the fields and rows that answers rest on -/
def stF : List Nat := [0, 6, 13, 14, 33, 41, 49]
def stA : List Nat := [1, 2, 3, 4, 7, 11, 31, 48]
def cE (s s' : mS) : Prop := (∀ j ∈ stF, s'.1 j = s.1 j) ∧ ∀ q ∈ stA, s'.2.1 q = s.2.1 q
theorem cE_r (s : mS) : cE s s := ⟨fun _ _ => rfl, fun _ _ => rfl⟩
theorem cE_t {s s' s2 : mS} (h : cE s s') (h2 : cE s' s2) : cE s s2 := ⟨fun j hj => (h2.1 j hj).trans (h.1 j hj), fun q hq => (h2.2 q hq).trans (h.2 q hq)⟩
theorem cE_D {F A L : List Nat} {s s' : mS} (h : mD F A L s s') (hF : ∀ j ∈ stF, j ∉ F) (hA : ∀ q ∈ stA, q ∉ A) : cE s s' := ⟨fun j hj => h.1 j (hF j hj), fun q hq => h.2.1 q (hA q hq)⟩
/-- the letters' row -/
def wdOK (s : mS) : Prop := ∀ j (hj : j < (flatW wrdL).length), s.2.1 7 j = (flatW wrdL)[j]
def rdF : List Nat := [8, 9, 10, 13, 14, 18, 19, 20, 21]
def rdA : List Nat := [15, 16, 17]
section WL
variable {N : Nat × Nat}
/-- a text read by one of both languages -/
theorem w_readsS (hN : 402 ≤ N.1) (hN2 : 40 ≤ N.2) {s : mS} {n : Nat} (hn : n ≤ 400) (hw : wdOK s) (h13 : mFd s 13 = nI n) (io : Bool) {K : Int32 → mS → Prop} (h1 : ∀ u s', pText io (cdT (s.2.1 11) n) (vlT (s.2.1 11) n) (tokT (s.2.1 11) n) = .inr u → mD rdF rdA [] s s' → mFd s' 13 = 0 → mFd s' 14 = -1 → mFd s' 18 = nI (tokT (s.2.1 11) n) → (∀ k, k ≤ tokT (s.2.1 11) n → s'.2.1 15 k = cdT (s.2.1 11) n k ∧ s'.2.1 16 k = vlT (s.2.1 11) n k) → K 1 s') (h2 : ∀ e s', pText io (cdT (s.2.1 11) n) (vlT (s.2.1 11) n) (tokT (s.2.1 11) n) = .inl e → mD rdF rdA [] s s' → mFd s' 13 = 0 → mFd s' 14 = plT (s.2.1 11) n e → K 0 s') : w_readsAs N (bI io) s K := by
  unfold w_readsAs
  refine ⟨bI_x io, fun sa ea => ?_⟩
  have core : ∀ y1 y2 : Int32, (io = false → y1 = 8 ∧ y2 = 17) → (io = true → y1 = 15 ∧ y2 = 21) → ∀ sb : mS, sb = mF (mF (mF s 10 (bI io)) 8 y1) 9 y2 → w_reads N sb (fun x104 s105 => xB x104 ∧ K x104 s105) := fun y1 y2 hy1 hy2 sb eb => by
    have hDb : mD rdF rdA [] s sb := by
      rw [eb]
      exact mD_t (mD_t (mD_F s _ (by decide)) (mD_F _ _ (by decide))) (mD_F _ _ (by decide))
    unfold w_reads
    have e13 : mFd sb 13 = nI n := by
      rw [eb]
      exact h13
    rw [e13]
    have a11 : sb.2.1 11 = s.2.1 11 := hDb.2.1 11 (by decide)
    have a7 : sb.2.1 7 = s.2.1 7 := hDb.2.1 7 (by decide)
    refine w_split (tp := s.2.1 11) hN hn (fun k _ => by rw [a11]) (fun j hj => by rw [a7]; exact hw j hj) (fun s2 hC h18 hF hA hL s3 e3 s4 e4 s5 e5 s6 e6 => ?_)
    have hD2 : mD rdF rdA [] s s2 := mD_t hDb ⟨fun j hj => hF j (fun z => hj (by rw [z]; decide)), fun q hq => hA q (fun z => hq (by rw [z]; decide)) (fun z => hq (by rw [z]; decide)) (fun z => hq (by rw [z]; decide)), fun q _ => by rw [hL]⟩
    have e6' : s6 = pv s3 0 0 (-1) := by
      rw [e6, e5, e4]
      rfl
    have hD3 : mD rdF rdA [] s s3 := mD_t hD2 (by rw [e3]; exact mD_F _ _ (by decide))
    have hC3 : tkP s3 (tokT (s.2.1 11) n) (cdT (s.2.1 11) n) (vlT (s.2.1 11) n) (plT (s.2.1 11) n) := by
      rw [e3]
      exact hC
    have f : ∀ j, j ≠ 13 → j ≠ 18 → s3.1 j = sb.1 j := fun j h1 h2 => by
      rw [e3, mF_o _ _ h1]
      exact hF j h2
    have hW : wdR s3 io := by
      have g8 : mFd s3 8 = y1 := by
        refine (f 8 (by decide) (by decide)).trans ?_
        rw [eb]
        rfl
      have g9 : mFd s3 9 = y2 := by
        refine (f 9 (by decide) (by decide)).trans ?_
        rw [eb]
        rfl
      have g10 : mFd s3 10 = bI io := by
        refine (f 10 (by decide) (by decide)).trans ?_
        rw [eb]
        rfl
      refine ⟨fun z => ⟨g8.trans (hy1 z).1, g9.trans (hy1 z).2, ?_⟩, fun z => ⟨g8.trans (hy2 z).1, g9.trans (hy2 z).2, ?_⟩⟩
      · rw [g10, z]
        rfl
      · rw [g10, z]
        decide
    have h18' : mFd s3 18 = nI (tokT (s.2.1 11) n) := by
      rw [e3]
      exact h18
    rw [e6']
    have hDp : ∀ t l b x, mD rdF rdA [] s3 (mF (pv s3 t l b) 14 x) := fun t l b x => mD_t (mD_t (mD_t (mD_F s3 t (by decide)) (mD_F _ l (by decide))) (mD_F _ b (by decide))) (mD_F _ x (by decide))
    refine r_text hN hN2 hC3 hW h18' (fun u hu t l => ⟨xB1, h1 u _ hu (mD_t hD3 (hDp _ _ _ _)) ?_ rfl ?_ fun k hk => ?_⟩) (fun e he t l => ⟨xB0, h2 e _ he (mD_t hD3 (hDp _ _ _ _)) ?_ rfl⟩)
    · show mFd s3 13 = 0
      rw [e3]
      rfl
    · exact h18'
    · exact ⟨(hC3.2.1 k hk).1, (hC3.2.1 k hk).2.1⟩
    · show mFd s3 13 = 0
      rw [e3]
      rfl
  refine ⟨fun z => ?_, fun z => ?_⟩
  · have hio : io = false := by
      cases io with
      | false => rfl
      | true => exact absurd z (by decide)
    unfold w_readsAs_17
    intro sb eb
    refine ⟨fun _ sc ec => ?_, fun z2 => absurd z z2⟩
    rw [eb, ea] at ec
    exact core 8 17 (fun _ => ⟨rfl, rfl⟩) (fun q => by rw [hio] at q; cases q) sc ec
  · have hio : io = true := by
      cases io with
      | false => exact absurd rfl z
      | true => rfl
    unfold w_readsAs_17
    intro sb eb
    refine ⟨fun z2 => absurd z2 z, fun _ sc ec => ?_⟩
    rw [eb, ea] at ec
    exact core 15 21 (fun q => by rw [hio] at q; cases q) (fun _ => ⟨rfl, rfl⟩) sc ec
/-- tokens laid to text t of the kept row -/
theorem w_lays15 {t T : Nat} (ht : t ≤ 6) (hT : T ≤ 400) {s0 : mS} {cd vl : Nat → Int32} (hc : ∀ k, k < T → s0.2.1 15 k = cd k ∧ s0.2.1 16 k = vl k) {Kr K : mS → Prop} (hK : ∀ s', mFd s' 18 = nI T → (∀ j, s'.1 j = s0.1 j) → (∀ q, q ≠ 2 → s'.2.1 q = s0.2.1 q) → s'.2.2 = s0.2.2 → (∀ q, s'.2.1 2 q = if 52 + 400 * t ≤ q ∧ q < 52 + 400 * t + T then cd (q - (52 + 400 * t)) else if 2852 + 400 * t ≤ q ∧ q < 2852 + 400 * t + T then vl (q - (2852 + 400 * t)) else s0.2.1 2 q) → K s') : ∀ f u k s, k + f = T → f + 1 ≤ u → mFd s 18 = nI T → (∀ j, s.1 j = s0.1 j) → (∀ q, q ≠ 2 → s.2.1 q = s0.2.1 q) → s.2.2 = s0.2.2 → (∀ q, s.2.1 2 q = if 52 + 400 * t ≤ q ∧ q < 52 + 400 * t + k then cd (q - (52 + 400 * t)) else if 2852 + 400 * t ≤ q ∧ q < 2852 + 400 * t + k then vl (q - (2852 + 400 * t)) else s0.2.1 2 q) → w_lays_15 N (nI t) Kr K u (nI k) s := by
  intro f
  induction f with
  | zero =>
    intro u k s hk hu h18 hF hA hL h2
    obtain ⟨u, rfl⟩ : ∃ v, u = v + 1 := ⟨u - 1, by omega⟩
    have hk' : k = T := by omega
    subst hk'
    simp only [w_lays_15]
    rw [h18]
    exact ⟨fun _ => hK s h18 hF hA hL h2, fun z => absurd (nI_le (Nat.le_refl _) (by omega)) z⟩
  | succ f ih =>
    intro u k s hk hu h18 hF hA hL h2
    obtain ⟨u, rfl⟩ : ∃ v, u = v + 1 := ⟨u - 1, by omega⟩
    simp only [w_lays_15]
    rw [h18, nI_leI (by omega) (by omega)]
    have e52 : (52 : Int32) + 400 * nI t + nI k = nI (52 + 400 * t + k) := by
      have a : (400 : Int32) * nI t = nI (400 * t) := pk_mul 400 t
      have b : (52 : Int32) + nI (400 * t) = nI (52 + 400 * t) := nI_add 52 _
      rw [a, b, nI_add]
    have e28 : (2852 : Int32) + 400 * nI t + nI k = nI (2852 + 400 * t + k) := by
      have a : (400 : Int32) * nI t = nI (400 * t) := pk_mul 400 t
      have b : (2852 : Int32) + nI (400 * t) = nI (2852 + 400 * t) := nI_add 2852 _
      rw [a, b, nI_add]
    rw [e52, e28]
    refine ⟨fun z => by omega, fun _ => ⟨vp_in_nI (by omega) (by decide), vp_in_nI (by omega) (by decide), fun s4 e4 => ⟨vp_in_nI (by omega) (by decide), vp_in_nI (by omega) (by decide), fun s7 e7 x hx => ?_⟩⟩⟩
    rw [nI_1] at hx
    subst hx
    have c15 : mAt s 15 (nI k) = cd k := by
      rw [mAt_n (by omega), hA 15 (by decide)]
      exact (hc k (by omega)).1
    have c16 : mAt s4 16 (nI k) = vl k := by
      rw [mAt_n (by omega), e4, mI_o _ _ _ (by decide), hA 16 (by decide)]
      exact (hc k (by omega)).2
    rw [c15] at e4
    rw [c16] at e7
    refine ih u (k + 1) s7 (by omega) (by omega) ?_ ?_ ?_ ?_ ?_
    · rw [e7, e4]
      exact h18
    · intro j
      rw [e7, e4]
      exact hF j
    · intro q hq
      rw [e7, mI_o _ _ _ hq, e4, mI_o _ _ _ hq]
      exact hA q hq
    · rw [e7, e4]
      exact hL
    · intro q
      rw [e7, mI_at _ _ _ (by omega), e4, mI_at _ _ _ (by omega), h2 q]
      by_cases q1 : q = 2852 + 400 * t + k
      · rw [if_pos q1, if_neg (by omega), if_pos (by omega), q1]
        congr 1
        omega
      · rw [if_neg q1]
        by_cases q2 : q = 52 + 400 * t + k
        · rw [if_pos q2, if_pos (by omega), q2]
          congr 1
          omega
        · rw [if_neg q2]
          by_cases q3 : 52 + 400 * t ≤ q ∧ q < 52 + 400 * t + k
          · rw [if_pos q3, if_pos (by omega)]
          · have q3' : ¬ (52 + 400 * t ≤ q ∧ q < 52 + 400 * t + (k + 1)) := by omega
            rw [if_neg q3, if_neg q3']
            by_cases q4 : 2852 + 400 * t ≤ q ∧ q < 2852 + 400 * t + k
            · rw [if_pos q4, if_pos (by omega)]
            · have q4' : ¬ (2852 + 400 * t ≤ q ∧ q < 2852 + 400 * t + (k + 1)) := by omega
              rw [if_neg q4, if_neg q4']
/-- text t of a kept row: how many tokens, their codes and numbers -/
def txT (kp : Nat → Int32) (t : Nat) : Nat := (kp (45 + t)).toNatClampNeg
def txC (kp : Nat → Int32) (t k : Nat) : Int32 := if k < txT kp t then kp (52 + 400 * t + k) else 0
def txV (kp : Nat → Int32) (t k : Nat) : Int32 := if k < txT kp t then kp (2852 + 400 * t + k) else 0
theorem w_laysS (hN : 402 ≤ N.1) {t T : Nat} (ht : t ≤ 6) (hT : T ≤ 400) {s0 : mS} {cd vl : Nat → Int32} (h18 : mFd s0 18 = nI T) (hc : ∀ k, k ≤ T → s0.2.1 15 k = cd k ∧ s0.2.1 16 k = vl k) (hz : ∀ k, T ≤ k → cd k = 0 ∧ vl k = 0) {K : mS → Prop} (hK : ∀ s', mD [] [2] [] s0 s' → (∀ q, q < 45 → s'.2.1 2 q = s0.2.1 2 q) → (∀ u, u ≤ 6 → u ≠ t → txT (s'.2.1 2) u = txT (s0.2.1 2) u ∧ (txT (s0.2.1 2) u ≤ 400 → txC (s'.2.1 2) u = txC (s0.2.1 2) u ∧ txV (s'.2.1 2) u = txV (s0.2.1 2) u)) → txT (s'.2.1 2) t = T → s'.2.1 2 (45 + t) = nI T → txC (s'.2.1 2) t = cd → txV (s'.2.1 2) t = vl → K s') : w_lays N (nI t) s0 K := by
  unfold w_lays
  have e45 : (45 : Int32) + nI t = nI (45 + t) := nI_add 45 t
  rw [e45]
  refine ⟨vp_in_nI (by omega) (by decide), fun s1 e1 => ?_⟩
  rw [h18] at e1
  have a2 : ∀ q, s1.2.1 2 q = if q = 45 + t then nI T else s0.2.1 2 q := fun q => by
    rw [e1, mI_at _ _ _ (by omega)]
  have ao : ∀ q, q ≠ 2 → s1.2.1 q = s0.2.1 q := fun q hq => by
    rw [e1, mI_o _ _ _ hq]
  refine w_lays15 ht hT (s0 := s1) (cd := cd) (vl := vl) (fun k hk => by rw [ao 15 (by decide), ao 16 (by decide)]; exact hc k (by omega)) (fun s' g18 gF gA gL g2 => ?_) T N.1 0 s1 (by omega) (by omega) (by rw [e1]; exact h18) (fun _ => rfl) (fun _ _ => rfl) rfl (fun q => ?_)
  · have gl : ∀ q, q < 52 → s'.2.1 2 q = if q = 45 + t then nI T else s0.2.1 2 q := fun q hq => by
      rw [g2 q, if_neg (by omega), if_neg (by omega), a2]
    have gT : ∀ u, u ≤ 6 → s'.2.1 2 (45 + u) = if u = t then nI T else s0.2.1 2 (45 + u) := fun u hu => by
      rw [gl _ (by omega)]
      by_cases e : u = t
      · rw [if_pos (by omega), if_pos e]
      · rw [if_neg (by omega), if_neg e]
    have htT : txT (s'.2.1 2) t = T := by
      unfold txT
      rw [gT t ht, if_pos rfl, nI_clamp (by omega)]
    refine hK s' ⟨fun j _ => (gF j).trans (by rw [e1]; rfl), fun q hq => (gA q (fun z => hq (by rw [z]; decide))).trans (ao q (fun z => hq (by rw [z]; decide))), fun q _ => by rw [gL, e1]; rfl⟩ (fun q hq => by rw [gl q (by omega), if_neg (by omega)]) (fun u hu hut => ?_) htT (by rw [gT t ht, if_pos rfl]) ?_ ?_
    · have e1 : txT (s'.2.1 2) u = txT (s0.2.1 2) u := by
        unfold txT
        rw [gT u hu, if_neg hut]
      refine ⟨e1, fun hl => ⟨funext fun k => ?_, funext fun k => ?_⟩⟩
      · unfold txC
        rw [e1]
        by_cases hk : k < txT (s0.2.1 2) u
        · rw [if_pos hk, if_pos hk, g2, if_neg (by omega), if_neg (by omega), a2, if_neg (by omega)]
        · rw [if_neg hk, if_neg hk]
      · unfold txV
        rw [e1]
        by_cases hk : k < txT (s0.2.1 2) u
        · rw [if_pos hk, if_pos hk, g2, if_neg (by omega), if_neg (by omega), a2, if_neg (by omega)]
        · rw [if_neg hk, if_neg hk]
    · funext k
      unfold txC
      rw [htT]
      by_cases hk : k < T
      · rw [if_pos hk, g2, if_pos (by omega)]
        congr 1
        omega
      · rw [if_neg hk]
        exact (hz k (by omega)).1.symm
    · funext k
      unfold txV
      rw [htT]
      by_cases hk : k < T
      · rw [if_pos hk, g2, if_neg (by omega), if_pos (by omega)]
        congr 1
        omega
      · rw [if_neg hk]
        exact (hz k (by omega)).2.symm
  · rw [if_neg (by omega), if_neg (by omega)]
end WL
