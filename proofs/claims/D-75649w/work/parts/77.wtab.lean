set_option maxRecDepth 100000
/-! ===== the reference's tables ===== -/
def mix (n b h : Nat) : Nat := 625 * n + 25 * (b - 1) + h
def bOf (n al : Nat) : Nat := if n = 0 then 0 else al + 1
theorem bOf_i {n al : Nat} (h : n = 0 → al = 0) (i : Nat) : mix n (bOf n al) i = 625 * n + 25 * al + i := by
  unfold mix bOf
  by_cases e : n = 0
  · rw [if_pos e, e, h e]
  · rw [if_neg e, Nat.add_sub_cancel]
theorem bOf_k {n al : Nat} (h : n = 0 → al = 0) (h2 : al < 25) : okB n (bOf n al) := by
  unfold okB bOf
  by_cases e : n = 0
  · rw [if_pos e]
    exact ⟨by omega, by omega⟩
  · rw [if_neg e]
    exact ⟨by omega, by omega⟩
theorem bOf_p (n al : Nat) : pab (bOf n al) = if n = 0 then none else some (nI al) := by
  unfold pab bOf
  by_cases e : n = 0
  · rw [if_pos e, if_pos e, if_pos rfl]
  · rw [if_neg e, if_neg e, if_neg (by omega), Nat.add_sub_cancel]
theorem okB_of {n b : Nat} (h : okB n b) : bOf n (b - 1) = b ∧ b - 1 < 25 ∧ (n = 0 → b - 1 = 0) := by
  unfold bOf
  have h1 := h.1
  have h2 := h.2
  by_cases e : n = 0
  · rw [if_pos e]
    omega
  · rw [if_neg e]
    omega
def mC (kp : Nat → Int32) (lw : Option (List cL)) (n b h : Nat) (m : mS) : Prop := m.2.1 36 (mix n b h) = bI (goT kp lw n b h) ∧ (goT kp lw n b h = true → m.2.1 34 (mix n b h) = prT kp lw n b h ∧ m.2.1 35 (mix n b h) = gaT kp lw n b h)
def mT (m m' : mS) : Prop := mD teF [26, 34, 35, 36] [] m m'
/-- of the three tables one place alone changes -/
def cW (i : Nat) (m m' : mS) : Prop := ∀ j, j ≠ i → m'.2.1 34 j = m.2.1 34 j ∧ m'.2.1 35 j = m.2.1 35 j ∧ m'.2.1 36 j = m.2.1 36 j
def cV (n : Nat) (m m' : mS) : Prop := ∀ j, (j < 625 * n ∨ 625 * n + 625 ≤ j) → m'.2.1 34 j = m.2.1 34 j ∧ m'.2.1 35 j = m.2.1 35 j ∧ m'.2.1 36 j = m.2.1 36 j
theorem mT_0 {m m' : mS} (h : mD [] [26] [] m m') : mT m m' := mD_w h (fun j hj => by cases hj) (fun j hj => by rw [List.mem_singleton] at hj; rw [hj]; decide) (fun j hj => hj)
theorem mT_te {m m' : mS} (h : mD teF [] [] m m') : mT m m' := mD_w h (fun j hj => hj) (fun j hj => by cases hj) (fun j hj => hj)
theorem mT_I (m : mS) {q : Nat} (i v : Int32) (h : q = 34 ∨ q = 35 ∨ q = 36) : mT m (mI m q i v) := mD_I m i v (by rcases h with rfl | rfl | rfl <;> decide)
theorem mT_2 {m m' : mS} (h : mT m m') : m'.2.1 2 = m.2.1 2 := h.2.1 2 (by decide)
theorem mT_cE {m m' : mS} (h : mT m m') : cE m m' := cE_D h (by decide) (by decide)
theorem cW_o {i : Nat} {m m' : mS} (h : ∀ q, q = 34 ∨ q = 35 ∨ q = 36 → m'.2.1 q = m.2.1 q) : cW i m m' := fun j _ => ⟨by rw [h 34 (by omega)], by rw [h 35 (by omega)], by rw [h 36 (by omega)]⟩
theorem cW_t {i : Nat} {m m' m2 : mS} (h : cW i m m') (h2 : cW i m' m2) : cW i m m2 := fun j hj => by
  obtain ⟨a1, a2, a3⟩ := h j hj
  obtain ⟨b1, b2, b3⟩ := h2 j hj
  exact ⟨b1.trans a1, b2.trans a2, b3.trans a3⟩
theorem cW_I {i q : Nat} {m : mS} {v : Int32} (hi : i < 2 ^ 31) : cW i m (mI m q (nI i) v) := fun j hj => by
  have key : ∀ r, (mI m q (nI i) v).2.1 r j = m.2.1 r j := fun r => by
    by_cases e : r = q
    · rw [e, mI_at _ _ _ hi, if_neg hj]
    · rw [mI_o _ _ _ e]
  exact ⟨key 34, key 35, key 36⟩
theorem mT_e {m m' : mS} {q : Nat} {i v : Int32} (e : m' = mI m q i v) (h : q = 34 ∨ q = 35 ∨ q = 36) : mT m m' := by
  rw [e]
  exact mT_I m i v h
theorem cW_e {i q : Nat} {m m' : mS} {v : Int32} (e : m' = mI m q (nI i) v) (hi : i < 2 ^ 31) : cW i m m' := by
  rw [e]
  exact cW_I hi
theorem mC_o {kp : Nat → Int32} {lw : Option (List cL)} {n b h i : Nat} {m m' : mS} (hW : cW i m m') (hne : mix n b h ≠ i) (hc : mC kp lw n b h m) : mC kp lw n b h m' := by
  obtain ⟨a1, a2, a3⟩ := hW _ hne
  unfold mC
  rw [a1, a2, a3]
  exact hc
theorem cV_of {n i : Nat} {m m' : mS} (h : cW i m m') (hi : 625 * n ≤ i ∧ i < 625 * n + 625) : cV n m m' := fun j hj => h j (by omega)
theorem cV_t {n : Nat} {m m' m2 : mS} (h : cV n m m') (h2 : cV n m' m2) : cV n m m2 := fun j hj => by
  obtain ⟨a1, a2, a3⟩ := h j hj
  obtain ⟨b1, b2, b3⟩ := h2 j hj
  exact ⟨b1.trans a1, b2.trans a2, b3.trans a3⟩
theorem mC_n {kp : Nat → Int32} {lw : Option (List cL)} {n n' b h : Nat} {m m' : mS} (hV : cV n m m') (hne : n' ≠ n) (hb : b < 26) (hh : h < 25) (hc : mC kp lw n' b h m) : mC kp lw n' b h m' := by
  have : mix n' b h < 625 * n ∨ 625 * n + 625 ≤ mix n' b h := by
    unfold mix
    omega
  obtain ⟨a1, a2, a3⟩ := hV _ this
  unfold mC
  rw [a1, a2, a3]
  exact hc
theorem nt_b {kp : Nat → Int32} (hk : kpN kp) {n b h : Nat} (hn : n < 12) (hb : b < 26) (hh : h < 25) : ntOK kp n (nI h) (pab b) := by
  have pn : ∀ i, i < 25 → pI (nI i) := fun i hi => by
    unfold pI
    rw [nI_toInt (by omega)]
    omega
  refine ⟨hn, pn h hh, hk.1 _ (by omega), hk.1 _ (by omega), fun a ha => ?_, hk.2.1, hk.2.2⟩
  unfold pab at ha
  split at ha
  · cases ha
  · cases ha
    exact pn _ (by omega)
section LW
variable {N : Nat × Nat} {m : mS} {lw : Option (List cL)}
theorem askR_k {m m' : mS} {n : Nat} {here : Int32} {pa : Option Int32} (h : askR m n here pa) (h1 : m'.2.1 26 = m.2.1 26) (h2 : m'.2.1 2 = m.2.1 2) : askR m' n here pa := fun k hk => by
  rw [h1, h2]
  exact h k hk
theorem w_lay66 (hN : 402 ≤ N.1) (hN2 : 40 ≤ N.2) (hF : inF (m.2.1 2) lw) (hk : kpN (m.2.1 2)) {n b h i : Nat} (hn : n < 12) (hb : b < 26) (hh : h < 25) (hi : mix n b h = i) (hA : askR m n (nI h) (pab b)) {g : Bool} (hg : goT (m.2.1 2) lw n b h = g) {x1 x2 : Int32} {Kr K : mS → Prop} {R : Int32 → mS → Prop} (hR : ∀ m', mT m m' → cW i m m' → mC (m.2.1 2) lw n b h m' → R (nI (h + 1)) m') : w_laysNote_66 N x1 x2 (nI h) (nI i) (nI i) (bI g) Kr K R m := by
  have hi2 : i < 7500 := by
    rw [← hi]
    unfold mix
    omega
  have vi : vp_in (nI i) 7500 := vpk hi2 (by decide)
  have hnt := nt_b hk hn hb hh
  unfold w_laysNote_66
  rw [nar_bI]
  refine ⟨vi, fun m1 e1 => ⟨vi, ?_⟩⟩
  have T1 : mT m m1 := by rw [e1]; exact mT_I m _ _ (by omega)
  have W1 : cW i m m1 := by rw [e1]; exact cW_I (by omega)
  have V1 : m1.2.1 36 i = bI g := by rw [e1, mI_at _ _ _ (by omega), if_pos rfl]
  have A1 : askR m1 n (nI h) (pab b) := askR_k hA (by rw [e1, mI_o _ _ _ (by decide)]) (mT_2 T1)
  rw [mAt_n (by omega), V1]
  refine bI_c (fun z => ?_) (fun z => ?_)
  · unfold w_laysNote_91
    refine ⟨vi, fun m2 e2 => ⟨vi, ?_⟩⟩
    have V2 : m2.2.1 36 i = bI g := by rw [e2, mI_o _ _ _ (by decide), V1]
    rw [mAt_n (by omega), V2, z]
    refine ⟨fun _ => ⟨vi, fun m3 e3 y hy => ?_⟩, fun w => absurd rfl w⟩
    rw [hy, nI_1]
    refine hR m3 (mD_t T1 (mD_t (mT_e e2 (by omega)) (mT_e e3 (by omega)))) (cW_t W1 (cW_t (cW_e e2 (by omega)) (cW_e e3 (by omega)))) ⟨?_, fun w => ?_⟩
    · rw [hi, e3, mI_o _ _ _ (by decide), V2, hg]
    · rw [hg, z] at w
      cases w
  · have k1 : m1.2.1 2 = m.2.1 2 := mT_2 T1
    refine w_costsS hN hN2 (by rw [k1]; exact hF) A1 (by rw [k1]; exact hnt) (fun m2 d2 => ?_)
    rw [k1]
    have T2 := mT_te d2
    have k2 : m2.2.1 2 = m.2.1 2 := (mT_2 T2).trans k1
    unfold w_laysNote_91
    refine ⟨vi, fun m3 e3 => ⟨vi, ?_⟩⟩
    have T3 : mT m m3 := mD_t T1 (mD_t T2 (mT_e e3 (by omega)))
    have W3 : cW i m m3 := cW_t W1 (cW_t (cW_o (fun q hq => d2.2.1 q (by intro w; cases w))) (cW_e e3 (by omega)))
    have V3 : m3.2.1 36 i = bI g := by
      rw [e3, mI_o _ _ _ (by decide), d2.2.1 36 (by intro w; cases w), V1]
    have A3 : askR m3 n (nI h) (pab b) := askR_k A1 (by rw [e3, mI_o _ _ _ (by decide), d2.2.1 26 (by intro w; cases w)]) ((mT_2 T3).trans k1.symm)
    have k3 : m3.2.1 2 = m.2.1 2 := mT_2 T3
    rw [mAt_n (by omega), V3, z]
    refine ⟨fun w => absurd w (by decide), fun _ => ?_⟩
    refine w_earnsS hN hN2 (by rw [k3]; exact hF) A3 (by rw [k3]; exact hnt) (fun m4 d4 => ⟨vi, fun m5 e5 y hy => ?_⟩)
    rw [k3] at e5
    rw [hy, nI_1]
    refine hR m5 (mD_t T3 (mD_t (mT_te d4) (mT_e e5 (by omega)))) (cW_t W3 (cW_t (cW_o (fun q hq => d4.2.1 q (by intro w; cases w))) (cW_e e5 (by omega)))) ⟨?_, fun _ => ⟨?_, ?_⟩⟩
    · rw [hi, e5, mI_o _ _ _ (by decide), d4.2.1 36 (by intro w; cases w), V3, hg]
    · rw [hi, e5, mI_o _ _ _ (by decide), d4.2.1 34 (by intro w; cases w), e3, mI_at _ _ _ (by omega), if_pos rfl]
      rfl
    · rw [hi, e5, mI_at _ _ _ (by omega), if_pos rfl]
      rfl
def mJ2 (kp : Nat → Int32) (lw : Option (List cL)) (n al h : Nat) (m m1 : mS) : Prop := mT m m1 ∧ cV n m m1 ∧ (∀ al' h', al' < al → (n = 0 → al' = 0) → al' < 25 → h' < 25 → mC kp lw n (bOf n al') h' m1) ∧ ∀ h', h' < h → mC kp lw n (bOf n al) h' m1
theorem w_lay18 (hN : 402 ≤ N.1) (hN2 : 40 ≤ N.2) (hF : inF (m.2.1 2) lw) (hk : kpN (m.2.1 2)) {n al : Nat} (hn : n < 12) (ha : n = 0 → al = 0) (ha2 : al < 25) {Kr K : mS → Prop} (hK : ∀ m2, mJ2 (m.2.1 2) lw n al 25 m m2 → K m2) : ∀ (c t h : Nat) (m1 : mS), mJ2 (m.2.1 2) lw n al h m m1 → h + c = 25 → c < t → w_laysNote_18 N (nI n) (nI al) Kr K t (nI h) m1
  | _, 0, _, _, _, _, h => absurd h (Nat.not_lt_zero _)
  | 0, t + 1, h, m1, h1, hh, _ => by
    unfold w_laysNote_18
    have : h = 25 := by omega
    subst this
    exact ⟨fun _ => hK m1 h1, fun z => absurd (nI_le (Nat.le_refl 25) (by omega)) z⟩
  | c + 1, t + 1, h, m1, h1, hh, ht => by
    have k1 : m1.2.1 2 = m.2.1 2 := mT_2 h1.1
    have hob := bOf_k ha ha2
    have n0 : nI n ≤ 0 ↔ n = 0 := by
      rw [show (0 : Int32) = nI 0 from rfl, nI_leI (by omega) (by omega)]
      omega
    have go : ∀ x3 : Int32, x3 = (if n = 0 then 0 else 1) → w_laysNote_36 N (nI n) (nI al) (nI h) (nI n) (nI h) x3 Kr K (fun x3 s => w_laysNote_18 N (nI n) (nI al) Kr K t x3 s) m1 := fun x3 hx3 => by
      unfold w_laysNote_36
      refine w_takesNoteS (pa := pab (bOf n al)) hn ?_ (fun m2 d2 A2 => ?_)
      · rw [bOf_p, hx3]
        by_cases e : n = 0
        · rw [if_pos e, if_pos e, if_pos rfl]
        · rw [if_neg e, if_neg e, if_neg (by decide)]
      · unfold w_noteAt
        have ei : (625 : Int32) * nI n + 25 * nI al + nI h = nI (625 * n + 25 * al + h) := by
          rw [show (625 : Int32) * nI n = nI (625 * n) from pk_mul 625 n, show (25 : Int32) * nI al = nI (25 * al) from pk_mul 25 al, nI_add, nI_add]
        rw [ei]
        have T2 : mT m1 m2 := mT_0 d2
        have k2 : m2.2.1 2 = m.2.1 2 := (mT_2 T2).trans k1
        have F2 : inF (m2.2.1 2) lw := by rw [k2]; exact hF
        refine w_barS hN hN2 F2 A2 (by rw [k2]; exact nt_b hk hn hob.1 (by omega)) (fun m3 d3 => ?_)
        have T3 := mT_te d3
        have k3 : m3.2.1 2 = m.2.1 2 := (mT_2 T3).trans k2
        have F3 : inF (m3.2.1 2) lw := by rw [k3]; exact hF
        rw [k2]
        have ih := bOf_i ha h
        have next : ∀ g, goT (m.2.1 2) lw n (bOf n al) h = g → w_laysNote_66 N (nI n) (nI al) (nI h) (nI (625 * n + 25 * al + h)) (nI (625 * n + 25 * al + h)) (bI g) Kr K (fun x3 s => w_laysNote_18 N (nI n) (nI al) Kr K t x3 s) m3 := fun g hg => by
          refine w_lay66 hN hN2 F3 (by rw [k3]; exact hk) hn hob.1 (by omega) ih (askR_k A2 (d3.2.1 26 (by intro w; cases w)) (k3.trans k2.symm)) (by rw [k3]; exact hg) (fun m4 T4 W4 C4 => ?_)
          rw [k3] at C4
          have W : cW (625 * n + 25 * al + h) m1 m4 := cW_t (cW_o (fun q hq => d2.2.1 q (by rcases hq with rfl | rfl | rfl <;> decide))) (cW_t (cW_o (fun q hq => d3.2.1 q (by intro w; cases w))) W4)
          obtain ⟨j1, j2, j3, j4⟩ := h1
          refine w_lay18 hN hN2 hF hk hn ha ha2 hK c t (h + 1) m4 ⟨mD_t j1 (mD_t T2 (mD_t T3 T4)), cV_t j2 (cV_of W (by omega)), fun al' h' z1 z2 z3 z4 => ?_, fun h' z => ?_⟩ (by omega) (by omega)
          · refine mC_o W ?_ (j3 al' h' z1 z2 z3 z4)
            rw [bOf_i z2]
            omega
          · by_cases e : h' = h
            · rw [e]
              exact C4
            · refine mC_o W ?_ (j4 h' (by omega))
              rw [bOf_i ha]
              omega
        exact bI_d (fun z => next false (by unfold goT; rw [z]; rfl)) (fun z => next true (by unfold goT; rw [z]; rfl))
    unfold w_laysNote_18
    rw [show (25 : Int32) = nI 25 from rfl, nI_lle (by omega) (by omega), n0]
    exact ⟨fun z => by omega, fun _ => ⟨fun z => go 0 (by rw [if_pos z]), fun z => go 1 (by rw [if_neg z])⟩⟩
theorem w_lay2 (hN : 402 ≤ N.1) (hN2 : 40 ≤ N.2) (hF : inF (m.2.1 2) lw) (hk : kpN (m.2.1 2)) {n : Nat} (hn : n < 12) {Kr K : mS → Prop} (hK : ∀ m2, mJ2 (m.2.1 2) lw n (if n = 0 then 1 else 25) 0 m m2 → K m2) : ∀ (c t al : Nat) (m1 : mS), mJ2 (m.2.1 2) lw n al 0 m m1 → al + c = (if n = 0 then 1 else 25) → c < t → w_laysNote_2 N (nI n) Kr K t (nI al) m1
  | _, 0, _, _, _, _, h => absurd h (Nat.not_lt_zero _)
  | 0, t + 1, al, m1, h1, hh, _ => by
    unfold w_laysNote_2 w_laysNote_13
    have z0 : nI n = 0 ↔ n = 0 := by
      rw [show (0 : Int32) = nI 0 from rfl, nI_eq (by omega) (by omega)]
    have hb : al = if n = 0 then 1 else 25 := by omega
    rw [z0]
    rw [← hb] at hK
    refine ⟨fun z => ⟨fun _ => hK m1 h1, fun w => absurd ?_ w⟩, fun z => ⟨fun _ => hK m1 h1, fun w => absurd ?_ w⟩⟩
    · rw [if_neg z] at hb
      rw [hb]
      decide
    · rw [if_pos z] at hb
      rw [hb]
      decide
  | c + 1, t + 1, al, m1, h1, hh, ht => by
    have z0 : nI n = 0 ↔ n = 0 := by
      rw [show (0 : Int32) = nI 0 from rfl, nI_eq (by omega) (by omega)]
    have ha : (n = 0 → al = 0) ∧ al < 25 := by
      by_cases e : n = 0
      · rw [if_pos e] at hh
        omega
      · rw [if_neg e] at hh
        omega
    have go : w_laysNote_18 N (nI n) (nI al) Kr (fun s102 => (∀ x103 : Int32, x103 = nI al + 1 → w_laysNote_2 N (nI n) Kr K t x103 s102)) N.1 0 m1 := by
      refine w_lay18 hN hN2 hF hk hn ha.1 ha.2 (fun m2 j2 y hy => ?_) 25 N.1 0 m1 h1 (by omega) (by omega)
      rw [hy, nI_1]
      refine w_lay2 hN hN2 hF hk hn hK c t (al + 1) m2 ⟨j2.1, j2.2.1, fun al' h' k1 k2 k3 k4 => ?_, fun h' k => absurd k (Nat.not_lt_zero _)⟩ (by omega) (by omega)
      by_cases e : al' = al
      · rw [e]
        exact j2.2.2.2 h' k4
      · exact j2.2.2.1 al' h' (by omega) k2 k3 k4
    unfold w_laysNote_2 w_laysNote_13
    rw [z0, show (25 : Int32) = nI 25 from rfl, show (1 : Int32) = nI 1 from rfl, nI_lle (by omega) (by omega), nI_lle (by omega) (by omega)]
    refine ⟨fun z => ⟨fun w => by omega, fun _ => go⟩, fun z => ⟨fun w => ?_, fun _ => go⟩⟩
    rw [if_pos z] at hh
    omega
theorem w_laysNoteS (hN : 402 ≤ N.1) (hN2 : 40 ≤ N.2) (hF : inF (m.2.1 2) lw) (hk : kpN (m.2.1 2)) {n : Nat} (hn : n < 12) {K : mS → Prop} (hK : ∀ m', mT m m' → cV n m m' → (∀ b h, okB n b → h < 25 → mC (m.2.1 2) lw n b h m') → K m') : w_laysNote N (nI n) m K := by
  unfold w_laysNote
  refine w_lay2 (K := fun s101 => K s101) hN hN2 hF hk hn (fun m2 j => hK m2 j.1 j.2.1 (fun b h hb hh => ?_)) (if n = 0 then 1 else 25) N.1 0 m ⟨mD_r m, fun _ _ => ⟨rfl, rfl, rfl⟩, fun al' h' k => absurd k (Nat.not_lt_zero _), fun h' k => absurd k (Nat.not_lt_zero _)⟩ (by omega) ?_
  · obtain ⟨e1, e2, e3⟩ := okB_of hb
    have := j.2.2.1 (b - 1) h ?_ e3 e2 hh
    · rw [e1] at this
      exact this
    · by_cases e : n = 0
      · rw [if_pos e, e3 e]
        omega
      · rw [if_neg e]
        exact e2
  · by_cases e : n = 0
    · rw [if_pos e]
      omega
    · rw [if_neg e]
      omega
theorem w_laysNotesS (hN : 402 ≤ N.1) (hN2 : 40 ≤ N.2) (hF : inF (m.2.1 2) lw) (hk : kpN (m.2.1 2)) {q : Nat} (hq : q ≤ 12) (hqv : m.2.1 2 41 = nI q) {K : mS → Prop} (hK : ∀ m', mT m m' → (∀ n b h, n < q → okB n b → h < 25 → mC (m.2.1 2) lw n b h m') → K m') : w_laysNotes N m K := by
  unfold w_laysNotes
  have key : ∀ c t n m1, n + c = q → c < t → mT m m1 → (∀ n' b h, n' < n → okB n' b → h < 25 → mC (m.2.1 2) lw n' b h m1) → w_laysNotes_2 N K (fun s101 => K s101) t (nI n) m1 := by
    intro c
    induction c with
    | zero =>
      intro t n m1 hn ht h1 hd
      obtain ⟨t, rfl⟩ : ∃ u, t = u + 1 := ⟨t - 1, by omega⟩
      simp only [w_laysNotes_2]
      refine w_manyS (v := nI q) (by rw [mT_2 h1]; exact hqv) ?_
      rw [nI_lle (by omega) (by omega)]
      have e : n = q := by omega
      subst e
      exact ⟨fun _ => hK m1 h1 hd, fun z => absurd (Nat.le_refl _) z⟩
    | succ c ih =>
      intro t n m1 hn ht h1 hd
      obtain ⟨t, rfl⟩ : ∃ u, t = u + 1 := ⟨t - 1, by omega⟩
      have k1 := mT_2 h1
      simp only [w_laysNotes_2]
      refine w_manyS (v := nI q) (by rw [k1]; exact hqv) ?_
      rw [nI_lle (by omega) (by omega)]
      refine ⟨fun z => by omega, fun _ => w_laysNoteS (lw := lw) hN hN2 (by rw [k1]; exact hF) (by rw [k1]; exact hk) (by omega) (fun m2 a2 f2 d2 y hy => ?_)⟩
      rw [hy, nI_1]
      refine ih t (n + 1) m2 (by omega) (by omega) (mD_t h1 a2) (fun n' b h z1 z2 z3 => ?_)
      by_cases e : n' = n
      · rw [e] at z2 ⊢
        have := d2 b h z2 z3
        rw [k1] at this
        exact this
      · exact mC_n f2 e z2.1 z3 (hd n' b h (by omega) z2 z3)
  exact key q N.1 0 m (by omega) (by omega) (mD_r m) (fun n' b h k => absurd k (Nat.not_lt_zero _))
/-! the rests -/
def lesI (x c : Int32) : Int32 := if c ≤ x then c else x
def mLf (g : Nat → Bool) (p r : Nat → Int32) (lo : Nat) : Nat → Int32
  | 0 => 100000000
  | k + 1 => if g (lo + k) = true then lesI (mLf g p r lo k) (p (lo + k) + r (lo + k)) else mLf g p r lo k
def mV (g : Nat → Nat → Nat → Bool) (p : Nat → Nat → Nat → Int32) (q lo hi : Nat) (z : Nat → Int32) : Nat → Nat → Int32
  | 0, b => z b
  | c + 1, b => mLf (g (q - (c + 1)) b) (p (q - (c + 1)) b) (fun j => mV g p q lo hi z c (j + 1)) lo (hi + 1 - lo)
theorem mLf_c {g g' : Nat → Bool} {p p' r r' : Nat → Int32} {lo : Nat} : ∀ k, (∀ h, lo ≤ h → h < lo + k → g h = g' h ∧ (g h = true → p h = p' h) ∧ r h = r' h) → mLf g p r lo k = mLf g' p' r' lo k
  | 0, _ => rfl
  | k + 1, h => by
    have ih := mLf_c k (fun i h1 h2 => h i h1 (by omega))
    obtain ⟨a1, a2, a3⟩ := h (lo + k) (by omega) (by omega)
    show (if g (lo + k) = true then lesI (mLf g p r lo k) (p (lo + k) + r (lo + k)) else mLf g p r lo k) = (if g' (lo + k) = true then lesI (mLf g' p' r' lo k) (p' (lo + k) + r' (lo + k)) else mLf g' p' r' lo k)
    rw [ih, a3, ← a1]
    by_cases c : g (lo + k) = true
    · rw [if_pos c, if_pos c, a2 c]
    · rw [if_neg c, if_neg c]
theorem w_lesserS {x c : Int32} {K : Int32 → Prop} (h : K (lesI x c)) : w_lesser x c K := by
  unfold w_lesser
  unfold lesI at h
  exact ⟨fun z => by rw [if_pos z] at h; exact h, fun z => by rw [if_neg z] at h; exact h⟩
theorem mix_e {n b h : Nat} : (625 : Int32) * nI n + 25 * nI (b - 1) + nI h = nI (mix n b h) := by
  rw [show (625 : Int32) * nI n = nI (625 * n) from pk_mul 625 n, show (25 : Int32) * nI (b - 1) = nI (25 * (b - 1)) from pk_mul 25 (b - 1), nI_add, nI_add]
  rfl
theorem mix_l {n b h : Nat} (hn : n < 12) (hb : b < 26) (hh : h < 25) : mix n b h < 7500 := by
  unfold mix
  omega
theorem r25_e {n h : Nat} : (25 : Int32) * nI n + nI h = nI (25 * n + h) := by
  rw [show (25 : Int32) * nI n = nI (25 * n) from pk_mul 25 n, nI_add]
/-- the price that is looked at: what it costs, or whether it differs -/
def prD (df : Bool) (kp : Nat → Int32) (P : Nat → Nat → Nat → Int32) (n b h : Nat) : Int32 := if df = true then dI kp n h else P n b h
theorem w_priceS {n b h : Nat} (hn : n < 12) (hb : b < 26) (hh : h < 25) {df : Bool} {P : Nat → Nat → Nat → Int32} (hP : df = false → m.2.1 34 (mix n b h) = P n b h) {K : Int32 → mS → Prop} (hK : K (prD df (m.2.1 2) P n b h) m) : w_priceOf (nI n) (nI (b - 1)) (nI h) (bI df) m K := by
  unfold w_priceOf w_noteAt
  dsimp only
  rw [mix_e, nI_0p, mAt_n (by have := mix_l hn hb hh; omega), mAt_n (by omega)]
  unfold prD at hK
  refine bI_c (fun z => ⟨vpk (mix_l hn hb hh) (by decide), ?_⟩) (fun z => ⟨vpk (by omega) (by decide), fun w => ?_, fun w => ?_⟩)
  · rw [z, if_neg (by decide)] at hK
    rw [hP z]
    exact hK
  · rw [if_pos z] at hK
    unfold dI at hK
    rw [if_neg (fun e => w e.symm)] at hK
    exact hK
  · rw [if_pos z] at hK
    unfold dI at hK
    rw [if_pos w.symm] at hK
    exact hK
theorem w_lf8 {n b lo hi : Nat} (hn : n < 12) (hb : b < 26) (hh : hi < 25) (hl : lo < 25) {df : Bool} {g : Nat → Bool} {P : Nat → Nat → Nat → Int32} {r : Nat → Int32} (hg : ∀ h, lo ≤ h → h ≤ hi → m.2.1 36 (mix n b h) = bI (g h) ∧ (g h = true → df = false → m.2.1 34 (mix n b h) = P n b h) ∧ m.2.1 37 (25 * n + h) = r h) {Kr K : Int32 → mS → Prop} (hK : K (mLf g (prD df (m.2.1 2) P n b) r lo (hi + 1 - lo)) m) : ∀ (c t k : Nat), k + c = hi + 1 - lo → c < t → w_leastFrom_8 N (nI n) (nI (b - 1)) (nI hi) (bI df) Kr K t (mLf g (prD df (m.2.1 2) P n b) r lo k) (nI (lo + k)) m
  | _, 0, _, _, h => absurd h (Nat.not_lt_zero _)
  | 0, t + 1, k, hk, _ => by
    unfold w_leastFrom_8
    rw [nI_ltI (by omega) (by omega)]
    have e : k = hi + 1 - lo := by omega
    rw [e]
    exact ⟨fun _ => hK, fun z => absurd (by omega) z⟩
  | c + 1, t + 1, k, hk, ht => by
    have next := w_lf8 hn hb hh hl hg hK (Kr := Kr) c t (k + 1) (by omega) (by omega)
    have e : mLf g (prD df (m.2.1 2) P n b) r lo (k + 1) = if g (lo + k) = true then lesI (mLf g (prD df (m.2.1 2) P n b) r lo k) (prD df (m.2.1 2) P n b (lo + k) + r (lo + k)) else mLf g (prD df (m.2.1 2) P n b) r lo k := rfl
    rw [e] at next
    obtain ⟨g1, g2, g3⟩ := hg (lo + k) (by omega) (by omega)
    have ml := mix_l hn hb (h := lo + k) (by omega)
    unfold w_leastFrom_8 w_noteAt
    dsimp only
    rw [nI_ltI (by omega) (by omega), mix_e, mAt_n (by omega), g1]
    refine ⟨fun z => by omega, fun _ => ⟨vpk ml (by decide), bI_c (fun z y hy => ?_) (fun z => ?_)⟩⟩
    · rw [z, if_neg (by decide)] at next
      rw [hy, nI_1]
      exact next
    · refine w_priceS hn hb (by omega) (g2 z) ?_
      rw [r25_e, mAt_n (by omega), g3]
      refine ⟨vpk (by omega) (by decide), w_lesserS (fun y hy => ?_)⟩
      rw [if_pos z] at next
      rw [hy, nI_1]
      exact next
theorem w_leastFromS (hN : 402 ≤ N.1) {n b lo hi : Nat} (hn : n < 12) (hb : b < 26) (hh : hi < 25) (hl : lo < 25) {df : Bool} {g : Nat → Bool} {P : Nat → Nat → Nat → Int32} {r : Nat → Int32} (hg : ∀ h, lo ≤ h → h ≤ hi → m.2.1 36 (mix n b h) = bI (g h) ∧ (g h = true → df = false → m.2.1 34 (mix n b h) = P n b h) ∧ m.2.1 37 (25 * n + h) = r h) {K : Int32 → mS → Prop} (hK : K (mLf g (prD df (m.2.1 2) P n b) r lo (hi + 1 - lo)) m) : w_leastFrom N (nI n) (nI (b - 1)) (nI lo) (nI hi) (bI df) m K := by
  unfold w_leastFrom
  exact w_lf8 (K := fun x101 s102 => K x101 s102) hn hb hh hl hg hK (hi + 1 - lo) N.1 0 (by omega) (by omega)
/-- one place of a row written -/
theorem m37_at {m : mS} {n h : Nat} {v : Int32} (hi : 25 * n + h < 2 ^ 31) (j : Nat) : (mI m 37 (nI (25 * n + h)) v).2.1 37 j = if j = 25 * n + h then v else m.2.1 37 j := mI_at _ _ _ hi j
def gpR (q lo hi : Nat) (df : Bool) (G : Nat → Nat → Nat → Bool) (P : Nat → Nat → Nat → Int32) (m : mS) : Prop := ∀ n b h, n < q → okB n b → h < 25 → m.2.1 36 (mix n b h) = bI (G n b h) ∧ (G n b h = true → df = false → m.2.1 34 (mix n b h) = P n b h)
theorem w_lr16 (hN : 402 ≤ N.1) {q n lo hi : Nat} (hq : q ≤ 12) (hn : n < q) (hqv : m.2.1 2 41 = nI q) (hh : hi < 25) (hl : lo < 25) {df : Bool} {G : Nat → Nat → Nat → Bool} {P : Nat → Nat → Nat → Int32} (hG : gpR q lo hi df G P m) {Kr K : mS → Prop} (hr : n + 1 < q → ∀ h, lo ≤ h → h ≤ hi → m.2.1 37 (25 * (n + 1) + h) = mV G (prD df (m.2.1 2) P) q lo hi (fun _ => 0) (q - (n + 2)) (h + 1)) (hK : ∀ m2, mD [] [37] [] m m2 → (∀ j, ¬ (25 * n + lo ≤ j ∧ j < 25 * n + 25) → m2.2.1 37 j = m.2.1 37 j) → (∀ h, lo ≤ h → h ≤ hi → m2.2.1 37 (25 * n + h) = mV G (prD df (m.2.1 2) P) q lo hi (fun _ => 0) (q - (n + 1)) (h + 1)) → K m2) : ∀ (c t k : Nat) (m1 : mS), mD [] [37] [] m m1 → (∀ j, ¬ (25 * n + lo ≤ j ∧ j < 25 * n + 25) → m1.2.1 37 j = m.2.1 37 j) → (∀ h, lo ≤ h → h < lo + k → h ≤ hi → m1.2.1 37 (25 * n + h) = mV G (prD df (m.2.1 2) P) q lo hi (fun _ => 0) (q - (n + 1)) (h + 1)) → k + c = hi + 1 - lo → c < t → w_laysRest_16 N (nI lo) (nI hi) (bI df) (nI n) Kr K t (nI (lo + k)) m1
  | _, 0, _, _, _, _, _, _, h => absurd h (Nat.not_lt_zero _)
  | 0, t + 1, k, m1, j1, j2, j3, hk, _ => by
    unfold w_laysRest_16
    rw [nI_ltI (by omega) (by omega)]
    exact ⟨fun _ => hK m1 j1 j2 (fun h z1 z2 => j3 h z1 (by omega) z2), fun z => absurd (by omega) z⟩
  | c + 1, t + 1, k, m1, j1, j2, j3, hk, ht => by
    have k1 : m1.2.1 2 = m.2.1 2 := j1.2.1 2 (by decide)
    have fin : ∀ v, v = mV G (prD df (m.2.1 2) P) q lo hi (fun _ => 0) (q - (n + 1)) (lo + k + 1) → ∀ m2, m2 = mI m1 37 (nI (25 * n + (lo + k))) v → ∀ y : Int32, y = nI (lo + k) + 1 → w_laysRest_16 N (nI lo) (nI hi) (bI df) (nI n) Kr K t y m2 := fun v hv m2 e2 y hy => by
      rw [hy, nI_1]
      have at2 : ∀ j, m2.2.1 37 j = if j = 25 * n + (lo + k) then v else m1.2.1 37 j := fun j => by
        rw [e2]
        exact mI_at _ _ _ (by omega) j
      refine w_lr16 hN hq hn hqv hh hl hG hr hK c t (k + 1) m2 (mD_t j1 (by rw [e2]; exact mD_I m1 _ _ (by decide))) (fun j hj => ?_) (fun h z1 z2 z3 => ?_) (by omega) (by omega)
      · rw [at2, if_neg (by omega)]
        exact j2 j hj
      · rw [at2]
        by_cases e : h = lo + k
        · rw [e, if_pos rfl, hv]
        · rw [if_neg (by omega)]
          exact j3 h z1 (by omega) z3
    have hG1 : ∀ b h, okB (n + 1) b → n + 1 < q → h < 25 → m1.2.1 36 (mix (n + 1) b h) = bI (G (n + 1) b h) ∧ (G (n + 1) b h = true → df = false → m1.2.1 34 (mix (n + 1) b h) = P (n + 1) b h) := fun b h z1 z2 z3 => by
      rw [j1.2.1 36 (by decide), j1.2.1 34 (by decide)]
      exact hG (n + 1) b h z2 z1 z3
    have eq1 : nI n = nI q - 1 ↔ n + 1 = q := by
      rw [show nI q - 1 = nI (q - 1) from pk_sub (b := 1) (by omega), nI_eq (by omega) (by omega)]
      omega
    unfold w_laysRest_16
    rw [nI_ltI (by omega) (by omega)]
    refine ⟨fun z => by omega, fun _ => w_manyS (v := nI q) (by rw [k1]; exact hqv) ?_⟩
    rw [eq1, nI_1, r25_e]
    refine ⟨fun ne => ?_, fun e => ⟨vpk (by omega) (by decide), fin 0 ?_⟩⟩
    · have hb : nI (lo + k) = nI (lo + k + 1 - 1) := by rw [Nat.add_sub_cancel]
      have := w_leastFromS (N := N) (m := m1) hN (n := n + 1) (b := lo + k + 1) (by omega) (by omega) hh hl (df := df) (g := G (n + 1) (lo + k + 1)) (P := P) (r := fun h => mV G (prD df (m.2.1 2) P) q lo hi (fun _ => 0) (q - (n + 2)) (h + 1)) (fun h z1 z2 => ?_) (K := fun x105 s106 => (vp_in (nI (25 * n + (lo + k))) 300 ∧ (∀ s108 : mS, s108 = mI s106 37 (nI (25 * n + (lo + k))) x105 → (∀ x109 : Int32, x109 = nI (lo + k) + 1 → w_laysRest_16 N (nI lo) (nI hi) (bI df) (nI n) Kr K t x109 s108)))) ⟨vpk (by omega) (by decide), fin _ ?_⟩
      · rw [← hb] at this
        exact this
      · obtain ⟨a1, a2⟩ := hG1 (lo + k + 1) h ⟨by omega, by omega⟩ (by omega) (by omega)
        refine ⟨a1, a2, ?_⟩
        rw [j2 _ (by omega)]
        exact hr (by omega) h z1 z2
      · rw [k1, show q - (n + 1) = q - (n + 2) + 1 by omega]
        show _ = mLf (G (q - (q - (n + 2) + 1)) (lo + k + 1)) (prD df (m.2.1 2) P (q - (q - (n + 2) + 1)) (lo + k + 1)) _ _ _
        rw [show q - (q - (n + 2) + 1) = n + 1 by omega]
    · rw [e, Nat.sub_self]
      rfl
theorem w_laysRestS (hN : 402 ≤ N.1) {q lo hi : Nat} (hq : q ≤ 12) (hqv : m.2.1 2 41 = nI q) (hh : hi < 25) (hl : lo < 25) {df : Bool} {G : Nat → Nat → Nat → Bool} {P : Nat → Nat → Nat → Int32} (hG : gpR q lo hi df G P m) {K : mS → Prop} (hK : ∀ m2, mD [] [37] [] m m2 → (∀ n h, n < q → lo ≤ h → h ≤ hi → m2.2.1 37 (25 * n + h) = mV G (prD df (m.2.1 2) P) q lo hi (fun _ => 0) (q - (n + 1)) (h + 1)) → K m2) : w_laysRest N (nI lo) (nI hi) (bI df) m K := by
  unfold w_laysRest
  refine w_manyS (v := nI q) hqv ?_
  intro x hx
  rw [hx]
  have key : ∀ k t m1, k ≤ q → k < t → mD [] [37] [] m m1 → (∀ n h, k ≤ n → n < q → lo ≤ h → h ≤ hi → m1.2.1 37 (25 * n + h) = mV G (prD df (m.2.1 2) P) q lo hi (fun _ => 0) (q - (n + 1)) (h + 1)) → w_laysRest_8 N (nI lo) (nI hi) (bI df) K (fun s104 => K s104) t (nI k - 1) m1 := by
    intro k
    induction k with
    | zero =>
      intro t m1 hk ht j1 j2
      obtain ⟨t, rfl⟩ : ∃ u, t = u + 1 := ⟨t - 1, by omega⟩
      simp only [w_laysRest_8]
      exact ⟨fun _ => hK m1 j1 (fun n h z1 => j2 n h (Nat.zero_le _) z1), fun z => absurd (by decide) z⟩
    | succ k ih =>
      intro t m1 hk ht j1 j2
      obtain ⟨t, rfl⟩ : ∃ u, t = u + 1 := ⟨t - 1, by omega⟩
      have k1 : m1.2.1 2 = m.2.1 2 := j1.2.1 2 (by decide)
      simp only [w_laysRest_8]
      rw [nI_pred]
      refine ⟨fun z => absurd z (nI_pos (by omega)), fun _ => ?_⟩
      refine w_lr16 (m := m1) hN hq (n := k) (by omega) (by rw [k1]; exact hqv) hh hl (df := df) (G := G) (P := P) (fun n b h z1 z2 z3 => ?_) (fun z1 h z2 z3 => ?_) (fun m2 i1 i2 i3 y hy => ?_) (hi + 1 - lo) N.1 0 m1 (mD_r m1) (fun _ _ => rfl) (fun h z1 z2 => by omega) (by omega) (by omega)
      · rw [j1.2.1 36 (by decide), j1.2.1 34 (by decide)]
        exact hG n b h z1 z2 z3
      · rw [k1]
        exact j2 (k + 1) h (by omega) z1 z2 z3
      · have ey : y = nI k - 1 := by rw [hy, Int32.sub_eq_add_neg]
        rw [ey]
        refine ih t m2 (by omega) (by omega) (mD_t j1 i1) (fun n h z1 z2 z3 z4 => ?_)
        by_cases e : n = k
        · rw [e, i3 h z3 z4, k1]
        · rw [i2 _ (by omega)]
          exact j2 n h (by omega) z2 z3 z4
  exact key q N.1 m (Nat.le_refl _) (by omega) (mD_r m) (fun n h z1 z2 => by omega)
end LW
