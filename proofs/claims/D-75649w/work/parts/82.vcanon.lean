set_option maxRecDepth 100000
/-! ===== canon ===== -/
/-- the pitch that a canon d behind and k - 24 higher gives note n -/
def cnP (kp : Nat → Int32) (d k n : Nat) : Int32 := kp (12 + (n - d)) + (nI k - 24)
def cnB (kp : Nat → Int32) (lw : Option (List cL)) (d k n : Nat) : Bool := isPI (cnP kp d k n) && !mBar kp lw n (cnP kp d k n) (if n = d then none else some (cnP kp d k (n - 1)))
def cnA (kp : Nat → Int32) (lw : Option (List cL)) (d k : Nat) : Nat → Nat → Bool
  | 0, _ => true
  | c + 1, n => if cnB kp lw d k n = true then cnA kp lw d k c (n + 1) else false
/-- over all heights: how many went, or where it stopped -/
def cnL (kp : Nat → Int32) (lw : Option (List cL)) (d q : Nat) (x2 : Int32) : Nat → Nat → Int32 → Int32 × Bool
  | 0, _, n => (n, false)
  | c + 1, k, n => if cnA kp lw d k (q - d) d = true then (if n = x2 then (nI k - 24, true) else cnL kp lw d q x2 c (k + 1) (n + 1)) else cnL kp lw d q x2 c (k + 1) n
theorem cnP_t {kp : Nat → Int32} (hk : kpN kp) {d k n : Nat} (hn : n < 12) (hk2 : k < 49) : ∃ a : Int32, pI a ∧ (cnP kp d k n).toInt = a.toInt + ((k : Int) - 24) := by
  refine ⟨kp (12 + (n - d)), hk.1 _ (by omega), ?_⟩
  have h1 := hk.1 (12 + (n - d)) (by omega)
  have t := pk_sub_toInt (a := k) (b := 24) (by omega) (by omega)
  unfold pI at h1
  have t2 : (nI k - 24).toInt = (k : Int) - 24 := t
  unfold cnP
  rw [i32_add (by omega) (by omega), t2]
theorem isPI_f {x : Int32} (h : isPI x = false) : ¬ pI x := fun z => by
  rw [isPI_t.mpr z] at h
  cases h
section CN
variable {N : tP} {s : tM} {L : Nat → Nat} {M O : Nat → Prop} {m : mS} {lw : Option (List cL)}
theorem v_gc2 (hN : 120 ≤ N.2.1) (hN1 : 60 ≤ N.1) (hX : RX N s L M O m) (hF : inF (m.2.1 2) lw) {q d k : Nat} (hq : q ≤ 12) (hd : 1 ≤ d) (hk : k < 49) (hqv : m.2.1 2 41 = nI q) {Kr : Int32 → tM → Prop} {b : Bool} (hK : ∀ s', aT L s s' → Kr (bI b) s') : ∀ (c t n : Nat) (s1 : tM), aT L s s1 → n + c = q → d ≤ n → (n = d ∨ pI (cnP (m.2.1 2) d k (n - 1))) → cnA (m.2.1 2) lw d k c n = b → c < t → v_X0_goesInCanon_2 N (L 0) (nI d) (nI k - 24) Kr (fun s101 => Kr 1 s101) t (nI n) s1
  | _, 0, _, _, _, _, _, _, _, h => absurd h (Nat.not_lt_zero _)
  | 0, t + 1, n, s1, h1, hn, hdn, hp, hb, _ => by
    have X1 := hX.t h1
    have hS := X1.S
    unfold v_X0_goesInCanon_2
    refine ⟨hS.o (r := 0) rfl, v_nNotesS hS ?_⟩
    rw [show tI s1 (L 40) 4 = nI q from X1.many.trans hqv, nI_lle (by omega) (by omega)]
    have e : true = b := hb
    have := hK s1 h1
    rw [← e] at this
    exact ⟨fun _ => this, fun z => absurd (by omega) z⟩
  | c + 1, t + 1, n, s1, h1, hn, hdn, hp, hb, ht => by
    have X1 := hX.t h1
    have hS := X1.S
    have hn2 : n < 12 := by omega
    have b44 := hS.2.2.1.2.1 44 (Or.inr (Or.inr (Or.inr (Or.inl rfl))))
    have tu : tR s1 (L 44) 0 = L 244 := b44.1
    have ed : nI n - nI d = nI (n - d) := pk_sub hdn
    have e : cnA (m.2.1 2) lw d k (c + 1) n = if cnB (m.2.1 2) lw d k n = true then cnA (m.2.1 2) lw d k c (n + 1) else false := rfl
    rw [e] at hb
    have core : ∀ y : Int32, ∀ pa : Option Int32, pa = (if n = d then none else some (cnP (m.2.1 2) d k (n - 1))) → paR pa y → v_X0_goesInCanon_49 N (L 0) (nI d) (nI k - 24) (nI n) (cnP (m.2.1 2) d k n) y Kr (fun s101 => Kr 1 s101) (fun x3 s => v_X0_goesInCanon_2 N (L 0) (nI d) (nI k - 24) Kr (fun s101 => Kr 1 s101) t x3 s) s1 := fun y pa hpa hpr => by
      have no : cnB (m.2.1 2) lw d k n = false → ∀ s2, aT L s s2 → Kr 0 s2 := fun z s2 h2 => by
        rw [if_neg (by rw [z]; decide)] at hb
        have := hK s2 h2
        rw [← hb] at this
        exact this
      unfold v_X0_goesInCanon_49
      refine v_isPitchS (bI_c (fun z => no (by unfold cnB; rw [z, Bool.false_and]) s1 h1) (fun z => ⟨hS.o (r := 0) rfl, v_barS hN hN1 X1 hF hn2 (fun w => ?_) hpr (fun s2 a2 => ?_)⟩))
      · have : n ≠ d := fun y => w (by rw [hpa, if_pos y])
        omega
      · have h2 : aT L s s2 := aT_t h1 (aT_a a2)
        refine bI_c (fun w y hy => ?_) (fun w => no (by unfold cnB; rw [← hpa, w, Bool.not_true, Bool.and_false]) s2 h2)
        rw [hy, nI_1]
        refine v_gc2 hN hN1 hX hF hq hd hk hqv hK c t (n + 1) s2 h2 (by omega) (by omega) (Or.inr ?_) ?_ (by omega)
        · rw [Nat.add_sub_cancel]
          exact isPI_t.mp z
        · rw [if_pos (by unfold cnB; rw [← hpa, z, w]; rfl)] at hb
          exact hb
    unfold v_X0_goesInCanon_2
    refine ⟨hS.o (r := 0) rfl, v_nNotesS hS ?_⟩
    rw [show tI s1 (L 40) 4 = nI q from X1.many.trans hqv, nI_lle (by omega) (by omega), ed]
    refine ⟨fun z => by omega, fun _ => ⟨hS.o (r := 0) rfl, v_booksS hS ?_⟩⟩
    rw [tu, nI_clamp (by omega), X1.u (n := n - d) (by omega)]
    refine ⟨hS.o (r := 44) rfl, ⟨12, hS.a (r := 244) rfl, vpk (by omega) (by decide)⟩, fun x hx => ?_⟩
    have hx' : x = cnP (m.2.1 2) d k n := hx
    subst hx'
    rw [nI_eq (by omega) (by omega)]
    refine ⟨fun ne => ⟨hS.o (r := 0) rfl, v_booksS hS ?_⟩, fun eq => core (-1) none (by rw [if_pos eq]) (Or.inl ⟨rfl, rfl⟩)⟩
    have e1 : nI (n - d) - 1 = nI (n - 1 - d) := by
      rw [show nI (n - d) - 1 = nI (n - d - 1) from pk_sub (b := 1) (by omega), show n - d - 1 = n - 1 - d by omega]
    rw [tu, e1, nI_clamp (by omega), X1.u (n := n - 1 - d) (by omega)]
    refine ⟨hS.o (r := 44) rfl, ⟨12, hS.a (r := 244) rfl, vpk (by omega) (by decide)⟩, core _ (some (cnP (m.2.1 2) d k (n - 1))) (by rw [if_neg ne]) (Or.inr ⟨rfl, fun z => ?_⟩)⟩
    have hp2 := hp.resolve_left ne
    have z2 : cnP (m.2.1 2) d k (n - 1) = -1 := z
    rw [z2] at hp2
    exact absurd hp2.1 (by decide)
theorem v_cn35 (hN : 120 ≤ N.2.1) (hN1 : 60 ≤ N.1) (hX : RX N s L M O m) (hF : inF (m.2.1 2) lw) {q d : Nat} (hq : q ≤ 12) (hd : 1 ≤ d) (hdq : d < q) (hqv : m.2.1 2 41 = nI q) {x2 : Int32} {Kr K : Int32 → tM → Prop} : ∀ (c t k : Nat) (n : Int32) (s1 : tM), aT L s s1 → k + c = 49 → (∀ s', aT L s s' → if (cnL (m.2.1 2) lw d q x2 c k n).2 = true then Kr (cnL (m.2.1 2) lw d q x2 c k n).1 s' else K (cnL (m.2.1 2) lw d q x2 c k n).1 s') → c < t → v_X0_canon_35 N (L 0) (nI d) x2 Kr K t n (nI k - 24) s1
  | _, 0, _, _, _, _, _, _, h => absurd h (Nat.not_lt_zero _)
  | 0, t + 1, k, n, s1, h1, hk, hK, _ => by
    unfold v_X0_canon_35
    have : k = 49 := by omega
    subst this
    have := hK s1 h1
    exact ⟨fun _ => this, fun z => absurd (by decide) z⟩
  | c + 1, t + 1, k, n, s1, h1, hk, hK, ht => by
    have X1 := hX.t h1
    have hS := X1.S
    have tk : (nI k - 24).toInt = (k : Int) - 24 := pk_sub_toInt (a := k) (b := 24) (by omega) (by omega)
    have e1 : nI k - 24 + 1 = nI (k + 1) - 24 := by
      rw [← nI_1, Int32.sub_eq_add_neg, Int32.sub_eq_add_neg, Int32.add_assoc, Int32.add_assoc, Int32.add_comm (-24) 1]
    have e : cnL (m.2.1 2) lw d q x2 (c + 1) k n = if cnA (m.2.1 2) lw d k (q - d) d = true then (if n = x2 then (nI k - 24, true) else cnL (m.2.1 2) lw d q x2 c (k + 1) (n + 1)) else cnL (m.2.1 2) lw d q x2 c (k + 1) n := rfl
    rw [e] at hK
    unfold v_X0_canon_35
    refine ⟨fun z => ?_, fun _ => ⟨hS.o (r := 0) rfl, ?_⟩⟩
    · rw [i32_lt, tk, show (24 : Int32).toInt = 24 by decide] at z
      omega
    · unfold v_X0_goesInCanon
      have go : ∀ b, cnA (m.2.1 2) lw d k (q - d) d = b → ∀ s2, aT L s s2 → (¬ bI b = 0 → ((¬ n = x2 → (∀ x107 : Int32, x107 = n + 1 → (∀ x108 : Int32, x108 = nI k - 24 + 1 → v_X0_canon_35 N (L 0) (nI d) x2 Kr K t x107 x108 s2))) ∧ (n = x2 → (Kr (nI k - 24) s2)))) ∧ (bI b = 0 → (∀ x109 : Int32, x109 = nI k - 24 + 1 → v_X0_canon_35 N (L 0) (nI d) x2 Kr K t n x109 s2)) := fun b hb s2 h2 => by
        rw [hb] at hK
        refine bI_d (fun z => ?_) (fun z y hy => ?_)
        · rw [if_pos z] at hK
          refine ⟨fun ne x hx y hy => ?_, fun eq => ?_⟩
          · rw [if_neg ne] at hK
            rw [hx, hy, e1]
            exact v_cn35 hN hN1 hX hF hq hd hdq hqv c t (k + 1) (n + 1) s2 h2 (by omega) hK (by omega)
          · rw [if_pos eq] at hK
            exact hK s2 h2
        · rw [if_neg (by rw [z]; decide)] at hK
          rw [hy, e1]
          exact v_cn35 hN hN1 hX hF hq hd hdq hqv c t (k + 1) n s2 h2 (by omega) hK (by omega)
      exact v_gc2 hN hN1 X1 hF hq hd (by omega) hqv (fun s2 a2 => go _ rfl s2 (aT_t h1 a2)) (q - d) N.1 d s1 (aT_r L s1) (by omega) (Nat.le_refl _) (Or.inl rfl) rfl (by omega)
end CN
section CW
variable {N : Nat × Nat} {m : mS} {lw : Option (List cL)}
theorem cn_bar (kp : Nat → Int32) (d k n : Nat) : (if n = d then none else some (cnP kp d k (n - 1))) = if n = d then (none : Option Int32) else some (cnP kp d k (n - 1)) := rfl
theorem w_cn5 (hN : 402 ≤ N.1) (hN2 : 40 ≤ N.2) (hF : inF (m.2.1 2) lw) (hk : kpN (m.2.1 2)) {q d k : Nat} (hq : q ≤ 12) (hd : 1 ≤ d) (hk2 : k < 49) (hqv : m.2.1 2 41 = nI q) {Kr : Int32 → mS → Prop} {K : Int32 → mS → Prop} {b : Bool} (hK : ∀ m', mT m m' → K (bI b) m') : ∀ (c t n : Nat) (x3 : Int32) (m1 : mS), mT m m1 → n + c = q → d ≤ n → (x3 = 0 ∧ b = false ∨ x3 = 1 ∧ (n = d ∨ pI (cnP (m.2.1 2) d k (n - 1))) ∧ cnA (m.2.1 2) lw d k c n = b) → c < t → w_isCanon_5 N (nI d) (nI k - 24) Kr K t x3 (nI n) m1
  | _, 0, _, _, _, _, _, _, _, h => absurd h (Nat.not_lt_zero _)
  | 0, t + 1, n, x3, m1, h1, hn, hdn, hb, _ => by
    unfold w_isCanon_5
    refine w_manyS (v := nI q) (by rw [mT_2 h1]; exact hqv) ?_
    rw [nI_lle (by omega) (by omega)]
    have := hK m1 h1
    refine ⟨fun _ => ?_, fun z => absurd (by omega) z⟩
    rcases hb with ⟨rfl, e⟩ | ⟨rfl, -, e⟩
    · rw [e] at this
      exact this
    · have e' : true = b := e
      rw [← e'] at this
      exact this
  | c + 1, t + 1, n, x3, m1, h1, hn, hdn, hb, ht => by
    have k1 := mT_2 h1
    have hn2 : n < 12 := by omega
    unfold w_isCanon_5
    refine w_manyS (v := nI q) (by rw [k1]; exact hqv) ?_
    rw [nI_lle (by omega) (by omega)]
    refine ⟨fun z => by omega, fun _ => ⟨fun z => ?_, fun z => ?_⟩⟩
    · have := hK m1 h1
      rcases hb with ⟨e0, e⟩ | ⟨e0, -, -⟩
      · rw [e] at this
        rw [e0]
        exact this
      · rw [e0] at z
        exact absurd z (by decide)
    · rcases hb with ⟨e0, -⟩ | ⟨e0, hp, hb⟩
      · exact absurd e0 z
      have e : cnA (m.2.1 2) lw d k (c + 1) n = if cnB (m.2.1 2) lw d k n = true then cnA (m.2.1 2) lw d k c (n + 1) else false := rfl
      rw [e] at hb
      have ei : (12 : Int32) + nI n - nI d = nI (12 + (n - d)) := by
        rw [show (12 : Int32) + nI n = nI (12 + n) from nI_add 12 n, pk_sub (by omega), show 12 + n - d = 12 + (n - d) by omega]
      have ei1 : (12 : Int32) + nI n - 1 - nI d = nI (12 + n - 1 - d) := by
        rw [show (12 : Int32) + nI n = nI (12 + n) from nI_add 12 n, show nI (12 + n) - 1 = nI (12 + n - 1) from pk_sub (b := 1) (by omega), pk_sub (by omega)]
      rw [ei, mAt_n (by omega), k1]
      refine ⟨vpk (by omega) (by decide), fun x hx => w_isPitchS ?_⟩
      have hx' : x = cnP (m.2.1 2) d k n := hx
      subst hx'
      have no : cnB (m.2.1 2) lw d k n = false → b = false := fun z => by
        rw [if_neg (by rw [z]; decide)] at hb
        exact hb.symm
      refine bI_d (fun pz => ?_) (fun pz y hy => ?_)
      · have core : ∀ y4 y3 : Int32, (if y3 = 0 then none else some y4) = (if n = d then none else some (cnP (m.2.1 2) d k (n - 1))) → w_isCanon_89 N (nI d) (nI k - 24) (nI n) (nI n) (cnP (m.2.1 2) d k n) y3 y4 Kr K (fun x3 x4 s => w_isCanon_5 N (nI d) (nI k - 24) Kr K t x3 x4 s) m1 := fun y4 y3 hy => by
          unfold w_isCanon_89
          refine w_takesNoteS hn2 hy.symm (fun m2 d2 A2 => ?_)
          have T2 : mT m1 m2 := mT_0 d2
          have k2 : m2.2.1 2 = m.2.1 2 := (mT_2 T2).trans k1
          have nt : ntOK (m2.2.1 2) n (cnP (m.2.1 2) d k n) (if n = d then none else some (cnP (m.2.1 2) d k (n - 1))) := by
            rw [k2]
            refine ⟨hn2, isPI_t.mp pz, hk.1 _ (by omega), hk.1 _ (by omega), fun a ha => ?_, hk.2.1, hk.2.2⟩
            by_cases e : n = d
            · rw [if_pos e] at ha
              cases ha
            · rw [if_neg e] at ha
              cases ha
              exact hp.resolve_left e
          refine w_barS hN hN2 (by rw [k2]; exact hF) A2 nt (fun m3 d3 => ?_)
          rw [k2]
          have T3 : mT m m3 := mD_t h1 (mD_t T2 (mT_te d3))
          refine bI_d (fun w y hy => ?_) (fun w y hy => ?_)
          · rw [hy, nI_1]
            exact w_cn5 hN hN2 hF hk hq hd hk2 hqv hK c t (n + 1) 0 m3 T3 (by omega) (by omega) (Or.inl ⟨rfl, no (by unfold cnB; rw [w, Bool.not_true, Bool.and_false])⟩) (by omega)
          · rw [hy, nI_1]
            refine w_cn5 hN hN2 hF hk hq hd hk2 hqv hK c t (n + 1) 1 m3 T3 (by omega) (by omega) (Or.inr ⟨rfl, Or.inr ?_, ?_⟩) (by omega)
            · rw [Nat.add_sub_cancel]
              exact isPI_t.mp pz
            · rw [if_pos (by unfold cnB; rw [pz, w]; rfl)] at hb
              exact hb
        have le : nI n ≤ nI d ↔ n = d := by
          rw [nI_lle (by omega) (by omega)]
          omega
        unfold w_isCanon_63
        rw [le, ei1]
        refine ⟨fun eq => ⟨fun _ => core 0 0 (by rw [if_pos eq, if_pos rfl]), fun w => absurd eq w⟩, fun ne => ⟨fun w => absurd w ne, fun _ => ⟨vpk (by omega) (by decide), ?_⟩⟩⟩
        rw [mAt_n (by omega), k1]
        refine core _ 1 ?_
        rw [if_neg (by decide), if_neg ne]
        unfold cnP
        rw [show 12 + n - 1 - d = 12 + (n - 1 - d) by omega]
      · rw [hy, nI_1, pz]
        exact w_cn5 hN hN2 hF hk hq hd hk2 hqv hK c t (n + 1) 0 m1 h1 (by omega) (by omega) (Or.inl ⟨rfl, no (by unfold cnB; rw [pz, Bool.false_and])⟩) (by omega)
theorem w_cn29 (hN : 402 ≤ N.1) (hN2 : 40 ≤ N.2) (hF : inF (m.2.1 2) lw) (hk : kpN (m.2.1 2)) {q d : Nat} (hq : q ≤ 12) (hd : 1 ≤ d) (hdq : d < q) (hqv : m.2.1 2 41 = nI q) {x2 : Int32} {Kr K : Int32 → mS → Prop} : ∀ (c t k : Nat) (n : Int32) (m1 : mS), mT m m1 → k + c = 49 → (∀ m', mT m m' → if (cnL (m.2.1 2) lw d q x2 c k n).2 = true then Kr (cnL (m.2.1 2) lw d q x2 c k n).1 m' else K (cnL (m.2.1 2) lw d q x2 c k n).1 m') → c < t → w_canon_29 N (nI d) x2 Kr K t n (nI k - 24) m1
  | _, 0, _, _, _, _, _, _, h => absurd h (Nat.not_lt_zero _)
  | 0, t + 1, k, n, m1, h1, hk', hK, _ => by
    unfold w_canon_29
    have : k = 49 := by omega
    subst this
    have := hK m1 h1
    exact ⟨fun _ => this, fun z => absurd (by decide) z⟩
  | c + 1, t + 1, k, n, m1, h1, hk', hK, ht => by
    have k1 := mT_2 h1
    have tk : (nI k - 24).toInt = (k : Int) - 24 := pk_sub_toInt (a := k) (b := 24) (by omega) (by omega)
    have e1 : nI k - 24 + 1 = nI (k + 1) - 24 := by
      rw [← nI_1, Int32.sub_eq_add_neg, Int32.sub_eq_add_neg, Int32.add_assoc, Int32.add_assoc, Int32.add_comm (-24) 1]
    have e : cnL (m.2.1 2) lw d q x2 (c + 1) k n = if cnA (m.2.1 2) lw d k (q - d) d = true then (if n = x2 then (nI k - 24, true) else cnL (m.2.1 2) lw d q x2 c (k + 1) (n + 1)) else cnL (m.2.1 2) lw d q x2 c (k + 1) n := rfl
    rw [e] at hK
    unfold w_canon_29
    refine ⟨fun z => ?_, fun _ => ?_⟩
    · rw [i32_le, tk, show (25 : Int32).toInt = 25 by decide] at z
      omega
    · unfold w_isCanon
      refine w_cn5 (b := cnA (m.2.1 2) lw d k (q - d) d) hN hN2 (by rw [k1]; exact hF) (by rw [k1]; exact hk) hq hd (by omega) (by rw [k1]; exact hqv) (fun m2 T2 => ⟨bI_x _, ?_⟩) (q - d) N.1 d 1 m1 (mD_r m1) (by omega) (Nat.le_refl _) (Or.inr ⟨rfl, Or.inl rfl, by rw [k1]⟩) (by omega)
      have h2 : mT m m2 := mD_t h1 T2
      refine bI_d (fun z => ?_) (fun z y hy => ?_)
      · rw [if_pos z] at hK
        refine ⟨fun ne x hx y hy => ?_, fun eq => ?_⟩
        · rw [if_neg ne] at hK
          rw [hx, hy, e1]
          exact w_cn29 hN hN2 hF hk hq hd hdq hqv c t (k + 1) (n + 1) m2 h2 (by omega) hK (by omega)
        · rw [if_pos eq] at hK
          exact hK m2 h2
      · rw [if_neg (by rw [z]; decide)] at hK
        rw [hy, e1]
        exact w_cn29 hN hN2 hF hk hq hd hdq hqv c t (k + 1) n m2 h2 (by omega) hK (by omega)
end CW
section OC
variable {N : tP} {s : tM} {x o : Nat} {K : tM → Prop}
theorem op_canon (hN : nOK N) (hX : RXo N s x o) (hK : ∀ s', RXo N s' x o → K s') (a b : Int32) : v_X0_canon N x a b s (pK o (w_canon (nP N) a b) K) := by
  obtain ⟨L, M, rfl, hX, hm⟩ := hX
  have hS := hX.S
  obtain ⟨q, n1, n2⟩ := hX.I.1.2.2.2.2.1
  obtain ⟨lw, hF⟩ := hX.inF
  have hN1 : 60 ≤ N.1 := by have := hN.1; omega
  have hN2 : 120 ≤ N.2.1 := by have := hN.2; omega
  have hM1 : 402 ≤ (nP N).1 := by have := hN.1; show 402 ≤ N.1; omega
  have hM2 : 40 ≤ (nP N).2 := by have := hN.2; show 40 ≤ N.2.1; omega
  have bad : (decide ((1 : Int32) ≤ a) && decide (a ≤ nI q - 1)) = false ∨ ¬ (-1 : Int32) ≤ b → pK o (w_canon (nP N) a b) K (-1000) s := fun h => by
    refine pfin hX hm (frM_r _ _) rfl hK (fun m1 K2 hc h2 => ?_)
    unfold w_canon
    refine w_manyS (v := nI q) (by rw [eqP hc]; exact n2) (w_liesS (bI_c (fun _ => h2 m1 hc) (fun z => ⟨fun w => ?_, fun _ => h2 m1 hc⟩)))
    rcases h with h | h
    · rw [h] at z
      cases z
    · exact absurd w h
  unfold v_X0_canon
  refine v_inS ?_
  rw [inl (lo' := 1) (hi' := 11) (by decide) (by decide)]
  have t1 : (1 : Int32).toInt = 1 := by decide
  have t11 : (11 : Int32).toInt = 11 := by decide
  refine bI_c (fun z => bad (Or.inl ?_)) (fun z => ⟨hS.o (r := 0) rfl, v_nNotesS hS ?_⟩)
  · simp only [i32_le, t1, t11, m1s (n := q) (by omega), Bool.and_eq_false_iff, decide_eq_false_iff_not] at z ⊢
    omega
  · have hr := in_t z
    rw [t1, t11] at hr
    obtain ⟨d, d1, d2⟩ := i32N (c := a) (by omega)
    subst d1
    rw [show tI s (L 40) 4 = nI q from hX.many.trans n2, nI_lle (by omega) (by omega)]
    refine ⟨fun w => bad (Or.inl ?_), fun w => ⟨fun hb => ?_, fun hb => bad (Or.inr hb)⟩⟩
    · simp only [i32_le, t1, m1s (n := q) (by omega), Bool.and_eq_false_iff, decide_eq_false_iff_not, nI_toInt (n := d) (by omega)]
      omega
    · have e0 : (-24 : Int32) = nI 0 - 24 := by decide
      have hdl : (decide ((1 : Int32) ≤ nI d) && decide (nI d ≤ nI q - 1)) = true := by
        simp only [i32_le, t1, m1s (n := q) (by omega), Bool.and_eq_true, decide_eq_true_eq, nI_toInt (n := d) (by omega)]
        rw [nI_toInt (by omega)] at hr
        omega
      rw [nI_toInt (by omega)] at hr
      rw [e0]
      refine v_cn35 hN2 hN1 hX hF n1 (d := d) (by omega) (by omega) n2 49 N.1 0 0 s (aT_r L s) (by omega) (fun s1 a1 => ?_) (by omega)
      have X1 := hX.t a1
      have f1 : frM (mO s o) s s1 := frM_s (aT_M a1 hS) (fun _ => Or.inr)
      have fin : ∀ r, r = (if (cnL ((sM s o).2.1 2) lw d q b 49 0 0).2 = true then (cnL ((sM s o).2.1 2) lw d q b 49 0 0).1 else if b = -1 then (cnL ((sM s o).2.1 2) lw d q b 49 0 0).1 else -1000) → pK o (w_canon (nP N) (nI d) b) K r s1 := fun r hr2 => by
        refine pfin X1 hm f1 rfl hK (fun m1 K2 hc h2 => ?_)
        have e2 := eqP hc
        unfold w_canon
        refine w_manyS (v := nI q) (by rw [e2]; exact n2) (w_liesS ?_)
        rw [hdl]
        refine ⟨fun w => absurd w (by decide), fun _ => ⟨fun _ => ?_, fun w => absurd hb w⟩⟩
        rw [e0]
        refine w_cn29 (lw := lw) hM1 hM2 (by rw [e2]; exact hF) (by rw [e2]; exact hX.I.1.1) n1 (d := d) (by omega) (by omega) (by rw [e2]; exact n2) 49 (nP N).1 0 0 m1 (mD_r m1) (by omega) (fun m2 T2 => ?_) (by omega)
        have g2 := h2 m2 (cE_t hc (mT_cE T2))
        rw [e2]
        by_cases cc : (cnL ((sM s o).2.1 2) lw d q b 49 0 0).2 = true
        · rw [if_pos cc] at hr2 ⊢
          rw [← hr2]
          exact g2
        · rw [if_neg cc] at hr2 ⊢
          refine ⟨fun nb => ?_, fun yb => ?_⟩
          · rw [if_neg nb] at hr2
            rw [← hr2]
            exact g2
          · rw [if_pos yb] at hr2
            rw [← hr2]
            exact g2
      by_cases cc : (cnL ((sM s o).2.1 2) lw d q b 49 0 0).2 = true
      · rw [if_pos cc] at fin ⊢
        exact fin _ rfl
      · rw [if_neg cc] at fin ⊢
        refine ⟨fun nb => ?_, fun yb => ?_⟩
        · rw [if_neg nb] at fin
          exact fin _ rfl
        · rw [if_pos yb] at fin
          exact fin _ rfl
end OC
