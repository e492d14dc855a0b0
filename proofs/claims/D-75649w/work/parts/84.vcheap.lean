set_option maxRecDepth 100000
/-! ===== cheapest ===== -/
/-- the kept row with note n's under at another pitch -/
def kqU (kp : Nat → Int32) (n : Nat) (v : Int32) : Nat → Int32 := fun i => if i = 12 + n then v else kp i
theorem mI_kq (m : mS) {n : Nat} (hn : n < 12) (v : Int32) : (mI m 2 (nI (12 + n)) v).2.1 2 = kqU (m.2.1 2) n v := funext fun i => mI_at m 2 v (by omega) i
theorem cE_II {m : mS} {k : Nat} {v w : Int32} (hk : k < 2 ^ 31) (hw : w = m.2.1 2 k) : cE m (mI (mI m 2 (nI k) v) 2 (nI k) w) := ⟨fun _ _ => rfl, fun q _ => by
  by_cases e : q = 2
  · subst e
    funext i
    rw [mI_at _ _ _ hk, mI_at _ _ _ hk]
    by_cases c : i = k
    · rw [if_pos c, hw, c]
    · rw [if_neg c, if_neg c]
  · rw [mI_o _ _ _ e, mI_o _ _ _ e]⟩
theorem cE_I2 {m : mS} {k : Nat} {v w : Int32} (hk : k < 2 ^ 31) : cE (mI (mI m 2 (nI k) v) 2 (nI k) w) (mI m 2 (nI k) w) := ⟨fun _ _ => rfl, fun q _ => by
  by_cases e : q = 2
  · subst e
    funext i
    rw [mI_at _ _ _ hk, mI_at _ _ _ hk, mI_at _ _ _ hk]
    by_cases c : i = k
    · rw [if_pos c, if_pos c]
    · rw [if_neg c, if_neg c, if_neg c]
  · rw [mI_o _ _ _ e, mI_o _ _ _ e, mI_o _ _ _ e]⟩
theorem cE_s {m m' : mS} (h : cE m m') : cE m' m := ⟨fun j hj => (h.1 j hj).symm, fun q hq => (h.2 q hq).symm⟩
theorem nE_ind {kp : Nat → Int32} {n n' : Nat} {v here : Int32} {pa : Option Int32} (hn : n < 12) (h1 : n' ≠ n) (h2 : n' ≠ n + 1) : nE (kqU kp n v) n' here pa = nE kp n' here pa := by
  funext c
  have k : ∀ i, i ≠ 12 + n → kqU kp n v i = kp i := fun i hi => if_neg hi
  unfold nE nE32
  rw [k (12 + n') (by omega), k 41 (by omega), k 38 (by omega), k 24 (by omega), k (12 + n' - 1) (by omega)]
theorem T_ind {kp : Nat → Int32} {lw : Option (List cL)} {n n' b h : Nat} {v : Int32} (hn : n < 12) (h1 : n' ≠ n) (h2 : n' ≠ n + 1) : goT (kqU kp n v) lw n' b h = goT kp lw n' b h ∧ prT (kqU kp n v) lw n' b h = prT kp lw n' b h ∧ gaT (kqU kp n v) lw n' b h = gaT kp lw n' b h := by
  unfold goT prT gaT mBar mCost mEarn
  rw [nE_ind hn h1 h2]
  exact ⟨rfl, rfl, rfl⟩
theorem inF_kq {kp : Nat → Int32} {lw : Option (List cL)} {n : Nat} {v : Int32} (hn : n < 12) (h : inF kp lw) : inF (kqU kp n v) lw := by
  have k : ∀ i, i ≠ 12 + n → kqU kp n v i = kp i := fun i hi => if_neg hi
  rcases h with ⟨a1, a2⟩ | ⟨t, cls, t1, t2, t3, t4⟩
  · exact Or.inl ⟨(k 44 (by omega)).trans a1, a2⟩
  · exact Or.inr ⟨t, cls, t1, (k 44 (by omega)).trans t2, txOK_e (fun i hi => k i (by omega)) t3, t4⟩
theorem kpN_kq {kp : Nat → Int32} {n : Nat} {v : Int32} (hn : n < 12) (hv : pI v) (h : kpN kp) : kpN (kqU kp n v) := by
  have k : ∀ i, i ≠ 12 + n → kqU kp n v i = kp i := fun i hi => if_neg hi
  obtain ⟨a1, a2, a3⟩ := h
  refine ⟨fun i hi => ?_, ?_, ?_⟩
  · by_cases e : i = 12 + n
    · rw [e]
      rw [show kqU kp n v (12 + n) = v from if_pos rfl]
      exact hv
    · rw [k i e]
      exact a1 i hi
  · rw [k 38 (by omega)]
    exact a2
  · rw [k 24 (by omega)]
    exact a3
/-- the voices' whole, of a kept row -/
def lsV (kp : Nat → Int32) (lw : Option (List cL)) (q lo hi : Nat) : T4 := sV (goT kp lw) (prT kp lw) (gaT kp lw) (dI kp) q lo hi (fnI (-1)) q 0
def chF (kp : Nat → Int32) (lw : Option (List cL)) (n q lo hi w : Nat) : Nat → Int32 × Int32
  | 0 => (100000000, -1)
  | p + 1 => if p = w then chF kp lw n q lo hi w p else if ¬ (lsV (kqU kp n (nI p)) lw q lo hi).2.2.2 = 0 ∧ (lsV (kqU kp n (nI p)) lw q lo hi).1 < (chF kp lw n q lo hi w p).1 then ((lsV (kqU kp n (nI p)) lw q lo hi).1, nI p) else chF kp lw n q lo hi w p
section CH
variable {N : tP} {s : tM} {L : Nat → Nat} {M O : Nat → Prop} {m : mS} {lw : Option (List cL)}
theorem pI_n {p : Nat} (h : p < 25) : pI (nI p) := by
  unfold pI
  rw [nI_toInt (by omega)]
  omega
/-- the tables of the notes apart from n and the one behind it -/
def othS (kp : Nat → Int32) (lw : Option (List cL)) (L : Nat → Nat) (n q : Nat) (s : tM) : Prop := ∀ n' b h, n' < q → n' ≠ n → n' ≠ n + 1 → okB n' b → h < 25 → cDt kp lw L 1 n' b h s
theorem cDt_ind {kp : Nat → Int32} {n n' b h : Nat} {v : Int32} (hn : n < 12) (h1 : n' ≠ n) (h2 : n' ≠ n + 1) : cDt (kqU kp n v) lw L 1 n' b h s ↔ cDt kp lw L 1 n' b h s := by
  obtain ⟨a1, a2, a3⟩ := T_ind (lw := lw) (b := b) (h := h) (kp := kp) (v := v) hn h1 h2
  unfold cDt
  rw [a1, a2, a3]
theorem v_ch97 (hN : 120 ≤ N.2.1) (hN1 : 60 ≤ N.1) (hX : RX N s L M O m) {q lo hi : Nat} (hq : q ≤ 12) (hqv : m.2.1 2 41 = nI q) (hh : hi < 25) (hl : lo < 25) (hlv : m.2.1 2 39 = nI lo) (hhv : m.2.1 2 40 = nI hi) (hd : ∀ n b h, n < q → okB n b → h < 25 → cDt (m.2.1 2) lw L 1 n b h s) {x1 x2 x3 x4 x5 : Int32} {p : Nat} {Kr : Int32 → tM → Prop} {K : Int32 → Int32 → tM → Prop} {R : Int32 → Int32 → Int32 → tM → Prop} (hR : ∀ s', aT L s s' → (∀ n b h, n < q → okB n b → h < 25 → cDt (m.2.1 2) lw L 1 n b h s') → (¬ (lsV (m.2.1 2) lw q lo hi).2.2.2 = 0 ∧ (lsV (m.2.1 2) lw q lo hi).1 < x4 → R (lsV (m.2.1 2) lw q lo hi).1 (nI p) (nI (p + 1)) s') ∧ (¬ (¬ (lsV (m.2.1 2) lw q lo hi).2.2.2 = 0 ∧ (lsV (m.2.1 2) lw q lo hi).1 < x4) → R x4 x5 (nI (p + 1)) s')) : v_X0_cheapest_97 N (L 0) x1 x2 x3 x4 x5 (nI p) Kr K R s := by
  unfold v_X0_cheapest_97
  obtain ⟨t1, t2, t3, t4, t5, t6⟩ := v_lowS hX hlv
  have t7 : tI s (L 42) 4 = nI hi := (hX.R 42 4 2 40 rfl).trans hhv
  rw [t2, t4, t6, t7]
  refine ⟨t1, t3, t5, ⟨5, hX.S.a (r := 42) rfl, vpk (k := 4) (by decide) (by decide)⟩, v_layVS hN1 hX hq hqv hh hl hd (fun s2 a2 l2 => ?_)⟩
  have X2 := hX.t a2
  have S2 := X2.S
  have l0 := laid_0 l2
  have ok := sV_ok (lo := lo) (hi := hi) (fin := fnI (-1)) (tbB_T (m.2.1 2) lw q) hq hh q (Nat.le_refl _) 0 ⟨by omega, Or.inr (by omega)⟩
  obtain ⟨r1, r2⟩ := hR s2 a2 l2.1
  refine ⟨S2.o (r := 0) rfl, v_isThereS X2 (congrArg (fun v : T4 => v.2.2.2) l0) ok ?_⟩
  refine bI_c (fun z y hy => ?_) (fun z => ?_)
  · have z' : (lsV (m.2.1 2) lw q lo hi).2.2.2 = 0 := by
      rw [Bool.not_eq_false', decide_eq_true_eq] at z
      exact z
    rw [hy, nI_1]
    exact r2 (fun w => w.1 z')
  · have z' : ¬ (lsV (m.2.1 2) lw q lo hi).2.2.2 = 0 := by
      rw [Bool.not_eq_true', decide_eq_false_iff_not] at z
      exact z
    have qr := S2.q0.2.2.2.1
    have rr := (S2.q19 (n := 0) (by omega)).1
    have ev : tI s2 (L (660 + 0)) 0 = (lsV (m.2.1 2) lw q lo hi).1 := congrArg (fun v : T4 => v.1) l0
    have xa := (S2.x19 (n := 0) (by omega)).1
    have xb := (S2.x660 (n := 0) (b := 0) (by omega) (by omega)).1
    rw [qr, rr, ev]
    refine ⟨S2.o (r := 0) rfl, xa, xb, fun w => ⟨xa, xb, fun y hy z hz => ?_⟩, fun w z hz => ?_⟩
    · rw [hy, hz, nI_1]
      exact r1 ⟨z', w⟩
    · rw [hz, nI_1]
      exact r2 (fun y => w y.2)
theorem v_ch46 (hN : 120 ≤ N.2.1) (hN1 : 60 ≤ N.1) (hX : RX N s L M O m) (hF : inF (m.2.1 2) lw) {n q lo hi w : Nat} (hn : n < q) (hq : q ≤ 12) (hqv : m.2.1 2 41 = nI q) (hh : hi < 25) (hl : lo < 25) (hlv : m.2.1 2 39 = nI lo) (hhv : m.2.1 2 40 = nI hi) (hw : w < 25) {x2 : Int32} {Kr : Int32 → tM → Prop} {K : Int32 → Int32 → tM → Prop} (hK : ∀ s1 v, RX N s1 L M O (mI m 2 (nI (12 + n)) v) → frM O s s1 → K (chF (m.2.1 2) lw n q lo hi w 25).1 (chF (m.2.1 2) lw n q lo hi w 25).2 s1) : ∀ (c t p : Nat) (s1 : tM) (v : Int32), pI v → RX N s1 L M O (mI m 2 (nI (12 + n)) v) → frM O s s1 → othS (m.2.1 2) lw L n q s1 → p + c = 25 → c < t → v_X0_cheapest_46 N (L 0) (nI n) x2 (nI w) Kr K t (chF (m.2.1 2) lw n q lo hi w p).1 (chF (m.2.1 2) lw n q lo hi w p).2 (nI p) s1
  | _, 0, _, _, _, _, _, _, _, _, h => absurd h (Nat.not_lt_zero _)
  | 0, t + 1, p, s1, v, pv, X1, f1, o1, hp, _ => by
    unfold v_X0_cheapest_46
    have : p = 25 := by omega
    subst this
    exact ⟨fun _ => hK s1 v X1 f1, fun z => absurd (nI_le (Nat.le_refl 25) (by omega)) z⟩
  | c + 1, t + 1, p, s1, v, pv, X1, f1, o1, hp, ht => by
    have hn2 : n < 12 := by omega
    have S1 := X1.S
    have e : chF (m.2.1 2) lw n q lo hi w (p + 1) = if p = w then chF (m.2.1 2) lw n q lo hi w p else if ¬ (lsV (kqU (m.2.1 2) n (nI p)) lw q lo hi).2.2.2 = 0 ∧ (lsV (kqU (m.2.1 2) n (nI p)) lw q lo hi).1 < (chF (m.2.1 2) lw n q lo hi w p).1 then ((lsV (kqU (m.2.1 2) n (nI p)) lw q lo hi).1, nI p) else chF (m.2.1 2) lw n q lo hi w p := rfl
    unfold v_X0_cheapest_46
    rw [show (25 : Int32) = nI 25 from rfl, nI_lle (by omega) (by omega), nI_eq (by omega) (by omega)]
    refine ⟨fun z => by omega, fun _ => ⟨fun ne => ⟨S1.o (r := 0) rfl, v_booksS S1 ?_⟩, fun eq y hy => ?_⟩⟩
    · have b44 := S1.2.2.1.2.1 44 (Or.inr (Or.inr (Or.inr (Or.inl rfl))))
      have tu : tR s1 (L 44) 0 = L 244 := b44.1
      rw [tu, nI_clamp (by omega)]
      refine ⟨S1.o (r := 44) rfl, ⟨12, S1.a (r := 244) rfl, vpk hn2 (by decide)⟩, fun s2 e2 => ?_⟩
      have X2 : RX N s2 L M O (mI m 2 (nI (12 + n)) (nI p)) := by
        rw [e2]
        obtain ⟨told, k1, k2, -⟩ := X1.told
        refine (X1.w (r0 := 244) (j0 := n) (q0 := 2) (i0 := 12 + n) ?_ (rd_I _ _ (by decide) (by omega)) (by omega) (invM_I X1.I k2 k1 (by omega) ⟨fun _ => pI_n (by omega), by omega, by omega, by omega, by omega, by omega, by omega, by omega, by omega, by omega⟩)).c (cE_I2 (by omega))
        unfold loc
        rw [if_neg (by decide), if_pos rfl, if_pos hn2]
      have f2 : frM O s s2 := by
        rw [e2]
        exact frM_t f1 (frM_I X1 (by decide))
      have o2 : othS (m.2.1 2) lw L n q s2 := fun n' b h z1 z2 z3 z4 z5 => by
        obtain ⟨e1, e2', e3⟩ := shp_cell (n := n') (b := b) (by omega) z4.1
        have := o1 n' b h z1 z2 z3 z4 z5
        unfold cDt at this ⊢
        rw [e2, tsI_r S1 (r0 := 244) (by decide) (shp_some e1), tsI_r S1 (r0 := 244) (by decide) (shp_some e2'), tsI_r S1 (r0 := 244) (by decide) (shp_some e3), if_neg (by omega), if_neg (by omega), if_neg (by omega)]
        exact this
      have kq := mI_kq m hn2 (nI p)
      have k : ∀ i, i ≠ 12 + n → (mI m 2 (nI (12 + n)) (nI p)).2.1 2 i = m.2.1 2 i := fun i hi => by
        rw [kq]
        exact if_neg hi
      have hF2 : inF ((mI m 2 (nI (12 + n)) (nI p)).2.1 2) lw := by
        rw [kq]
        exact inF_kq hn2 hF
      have hqv2 : (mI m 2 (nI (12 + n)) (nI p)).2.1 2 41 = nI q := (k 41 (by omega)).trans hqv
      have hlv2 : (mI m 2 (nI (12 + n)) (nI p)).2.1 2 39 = nI lo := (k 39 (by omega)).trans hlv
      have hhv2 : (mI m 2 (nI (12 + n)) (nI p)).2.1 2 40 = nI hi := (k 40 (by omega)).trans hhv
      have done : ∀ s3, aT L s2 s3 → (∀ n' b h, n' < q → okB n' b → h < 25 → cDt ((mI m 2 (nI (12 + n)) (nI p)).2.1 2) lw L 1 n' b h s3) → v_X0_cheapest_97 N (L 0) (nI n) x2 (nI w) (chF (m.2.1 2) lw n q lo hi w p).1 (chF (m.2.1 2) lw n q lo hi w p).2 (nI p) Kr K (fun x4 x5 x6 s => v_X0_cheapest_46 N (L 0) (nI n) x2 (nI w) Kr K t x4 x5 x6 s) s3 := fun s3 a3 d3 => by
        have X3 := X2.t a3
        refine v_ch97 hN hN1 X3 hq hqv2 hh hl hlv2 hhv2 d3 (fun s4 a4 d4 => ?_)
        have X4 := X3.t a4
        have f4 : frM O s s4 := frM_t f2 (frM_t (frM_s (aT_M a3 X2.S) (fun _ => Or.inr)) (frM_s (aT_M a4 X3.S) (fun _ => Or.inr)))
        have o4 : othS (m.2.1 2) lw L n q s4 := fun n' b h z1 z2 z3 z4 z5 => by
          have := d4 n' b h z1 z4 z5
          rw [kq] at this
          exact (cDt_ind hn2 z2 z3).mp this
        have next := v_ch46 hN hN1 hX hF hn hq hqv hh hl hlv hhv hw hK (x2 := x2) (Kr := Kr) c t (p + 1) s4 (nI p) (pI_n (by omega)) X4 f4 o4 (by omega) (by omega)
        rw [e, if_neg ne] at next
        rw [kq]
        refine ⟨fun z => ?_, fun z => ?_⟩
        · rw [if_pos z] at next
          exact next
        · rw [if_neg z] at next
          exact next
      refine ⟨X2.S.o (r := 0) rfl, v_layNoteS (x2 := 1) hN hN1 X2 hF2 hn2 (fun s3 a3 c3 d3 => ?_)⟩
      have X3 := X2.t a3
      refine ⟨X3.S.o (r := 0) rfl, v_nNotesS X3.S ?_⟩
      rw [show tI s3 (L 40) 4 = nI q from X3.many.trans hqv2, nI_1, nI_lle (by omega) (by omega)]
      refine ⟨fun z => done s3 a3 (fun n' b h z1 z2 z3 => ?_), fun z => ⟨X3.S.o (r := 0) rfl, v_layNoteS (x2 := 1) hN hN1 X3 hF2 (n := n + 1) (by omega) (fun s4 a4 c4 d4 => done s4 (aT_t a3 a4) (fun n' b h z1 z2 z3 => ?_))⟩⟩
      · by_cases en : n' = n
        · rw [en] at z2 ⊢
          exact d3 b h z2 z3
        · refine cDt_n c3 hn2 (by omega) z2.1 en ?_
          rw [kq]
          exact (cDt_ind hn2 en (by omega)).mpr (o2 n' b h z1 en (by omega) z2 z3)
      · by_cases en1 : n' = n + 1
        · rw [en1] at z2 ⊢
          exact d4 b h z2 z3
        · refine cDt_n c4 (by omega) (by omega) z2.1 en1 ?_
          by_cases en : n' = n
          · rw [en] at z2 ⊢
            exact d3 b h z2 z3
          · refine cDt_n c3 hn2 (by omega) z2.1 en ?_
            rw [kq]
            exact (cDt_ind hn2 en en1).mpr (o2 n' b h z1 en en1 z2 z3)
    · have next := v_ch46 hN hN1 hX hF hn hq hqv hh hl hlv hhv hw hK (x2 := x2) (Kr := Kr) c t (p + 1) s1 v pv X1 f1 o1 (by omega) (by omega)
      rw [e, if_pos eq] at next
      rw [hy, nI_1]
      exact next
end CH
section CJ
variable {N : Nat × Nat} {m : mS} {lw : Option (List cL)}
def othM (kp : Nat → Int32) (lw : Option (List cL)) (n q : Nat) (m : mS) : Prop := ∀ n' b h, n' < q → n' ≠ n → n' ≠ n + 1 → okB n' b → h < 25 → mC kp lw n' b h m
theorem mC_ind {kp : Nat → Int32} {n n' b h : Nat} {v : Int32} (hn : n < 12) (h1 : n' ≠ n) (h2 : n' ≠ n + 1) : mC (kqU kp n v) lw n' b h m ↔ mC kp lw n' b h m := by
  obtain ⟨a1, a2, a3⟩ := T_ind (lw := lw) (b := b) (h := h) (kp := kp) (v := v) hn h1 h2
  unfold mC
  rw [a1, a2, a3]
theorem w_shS (hN : 402 ≤ N.1) (hN2 : 40 ≤ N.2) (hF : inF (m.2.1 2) lw) (hk : kpN (m.2.1 2)) {n q lo hi p : Nat} (hn : n < q) (hq : q ≤ 12) (hqv : m.2.1 2 41 = nI q) (hh : hi < 25) (hl : lo < 25) (hlv : m.2.1 2 39 = nI lo) (hhv : m.2.1 2 40 = nI hi) (hp : p < 25) (hO : othM (m.2.1 2) lw n q m) {K : Int32 → mS → Prop} (hK : ∀ m', cE m m' → othM (m.2.1 2) lw n q m' → K (if (lsV (kqU (m.2.1 2) n (nI p)) lw q lo hi).2.2.2 = 0 then -1 else (lsV (kqU (m.2.1 2) n (nI p)) lw q lo hi).1) m') : w_leastShifted N (nI n) (nI p) m K := by
  have hn2 : n < 12 := by omega
  have e12 : (12 : Int32) + nI n = nI (12 + n) := nI_add 12 n
  have v12 : vp_in (nI (12 + n)) 5652 := vpk (by omega) (by decide)
  have kq := mI_kq m hn2 (nI p)
  have k : ∀ i, i ≠ 12 + n → (mI m 2 (nI (12 + n)) (nI p)).2.1 2 i = m.2.1 2 i := fun i hi => by
    rw [kq]
    exact if_neg hi
  unfold w_leastShifted
  rw [e12]
  refine ⟨v12, fun was hwas => ⟨v12, fun m1 e1 => ?_⟩⟩
  have hwas' : was = m.2.1 2 (12 + n) := hwas.trans (mAt_n (by omega))
  have k1 : m1.2.1 2 = kqU (m.2.1 2) n (nI p) := by rw [e1]; exact kq
  have kk : ∀ i, i ≠ 12 + n → kqU (m.2.1 2) n (nI p) i = m.2.1 2 i := fun i hi => if_neg hi
  have hF1 : inF (kqU (m.2.1 2) n (nI p)) lw := inF_kq hn2 hF
  have hk1 : kpN (kqU (m.2.1 2) n (nI p)) := kpN_kq hn2 (pI_n hp) hk
  have hqv1 : kqU (m.2.1 2) n (nI p) 41 = nI q := (kk 41 (by omega)).trans hqv
  have hlv1 : kqU (m.2.1 2) n (nI p) 39 = nI lo := (kk 39 (by omega)).trans hlv
  have hhv1 : kqU (m.2.1 2) n (nI p) 40 = nI hi := (kk 40 (by omega)).trans hhv
  have O1 : ∀ n' b h, n' < q → n' ≠ n → n' ≠ n + 1 → okB n' b → h < 25 → mC (kqU (m.2.1 2) n (nI p)) lw n' b h m1 := fun n' b h z1 z2 z3 z4 z5 => by
    refine (mC_ind hn2 z2 z3).mpr ?_
    have := hO n' b h z1 z2 z3 z4 z5
    unfold mC at this ⊢
    rw [e1, mI_o _ _ _ (by decide), mI_o _ _ _ (by decide), mI_o _ _ _ (by decide)]
    exact this
  have last : ∀ m4, mT m1 m4 → (∀ n' b h, n' < q → okB n' b → h < 25 → mC (kqU (m.2.1 2) n (nI p)) lw n' b h m4) → w_leastShifted_42 N (nI n) was K m4 := fun m4 T4' C4 => by
    have k4 : m4.2.1 2 = kqU (m.2.1 2) n (nI p) := (mT_2 T4').trans k1
    unfold w_leastShifted_42
    rw [e12]
    refine w_leastOfS (lw := lw) (lo := lo) (hi := hi) (df := false) hN hq (by rw [k4]; exact hqv1) hh hl (by rw [k4]; exact hlv1) (by rw [k4]; exact hhv1) (by rw [k4]; exact C4) (fun m5 d5 r5 => ⟨v12, fun m6 e6 => ?_⟩)
    rw [k4]
    refine hK m6 ?_ (fun n' b h z1 z2 z3 z4 z5 => ?_)
    · have c5 : cE (mI m 2 (nI (12 + n)) (nI p)) m5 := by
        rw [← e1]
        exact cE_t (mT_cE T4') (cE_D d5 (by decide) (by decide))
      rw [e6]
      exact cE_t (cE_II (by omega) hwas') (cE_I c5 _ _ _)
    · refine (mC_ind (v := nI p) hn2 z2 z3).mp ?_
      have := C4 n' b h z1 z4 z5
      unfold mC at this ⊢
      rw [e6, mI_o _ _ _ (by decide), mI_o _ _ _ (by decide), mI_o _ _ _ (by decide), d5.2.1 36 (by decide), d5.2.1 34 (by decide), d5.2.1 35 (by decide)]
      exact this
  refine w_laysNoteS (lw := lw) hN hN2 (by rw [k1]; exact hF1) (by rw [k1]; exact hk1) hn2 (fun m2 T2 V2 C2 => w_manyS (v := nI q) (by rw [mT_2 T2, k1]; exact hqv1) ?_)
  rw [k1] at C2
  have k2 : m2.2.1 2 = kqU (m.2.1 2) n (nI p) := (mT_2 T2).trans k1
  rw [nI_1, nI_lle (by omega) (by omega)]
  refine ⟨fun z => last m2 T2 (fun n' b h z1 z2 z3 => ?_), fun z => w_laysNoteS (lw := lw) hN hN2 (by rw [k2]; exact hF1) (by rw [k2]; exact hk1) (n := n + 1) (by omega) (fun m3 T3 V3 C3 => last m3 (mD_t T2 T3) (fun n' b h z1 z2 z3 => ?_))⟩
  · by_cases en : n' = n
    · rw [en] at z2 ⊢
      exact C2 b h z2 z3
    · exact mC_n V2 en z2.1 z3 (O1 n' b h z1 en (by omega) z2 z3)
  · rw [k2] at C3
    by_cases en1 : n' = n + 1
    · rw [en1] at z2 ⊢
      exact C3 b h z2 z3
    · refine mC_n V3 en1 z2.1 z3 ?_
      by_cases en : n' = n
      · rw [en] at z2 ⊢
        exact C2 b h z2 z3
      · exact mC_n V2 en z2.1 z3 (O1 n' b h z1 en en1 z2 z3)
theorem w_ch33 (hN : 402 ≤ N.1) (hN2 : 40 ≤ N.2) (hF : inF (m.2.1 2) lw) (hk : kpN (m.2.1 2)) {n q lo hi w : Nat} (hn : n < q) (hq : q ≤ 12) (hqv : m.2.1 2 41 = nI q) (hh : hi < 25) (hl : lo < 25) (hlv : m.2.1 2 39 = nI lo) (hhv : m.2.1 2 40 = nI hi) (hw : w < 25) (hwv : m.2.1 2 (12 + n) = nI w) {x2 : Int32} {Kr : Int32 → mS → Prop} {K : Int32 → Int32 → mS → Prop} (hK : ∀ m', cE m m' → K (chF (m.2.1 2) lw n q lo hi w 25).2 (chF (m.2.1 2) lw n q lo hi w 25).1 m') : ∀ (c t p : Nat) (m1 : mS), cE m m1 → othM (m.2.1 2) lw n q m1 → p + c = 25 → c < t → w_cheapest_33 N (nI n) x2 Kr K t (chF (m.2.1 2) lw n q lo hi w p).2 (chF (m.2.1 2) lw n q lo hi w p).1 (nI p) m1
  | _, 0, _, _, _, _, _, h => absurd h (Nat.not_lt_zero _)
  | 0, t + 1, p, m1, j1, j2, hp, _ => by
    unfold w_cheapest_33
    have : p = 25 := by omega
    subst this
    exact ⟨fun _ => hK m1 j1, fun z => absurd (nI_le (Nat.le_refl 25) (by omega)) z⟩
  | c + 1, t + 1, p, m1, j1, j2, hp, ht => by
    have hn2 : n < 12 := by omega
    have k1 := eqP j1
    have e12 : (12 : Int32) + nI n = nI (12 + n) := nI_add 12 n
    have e : chF (m.2.1 2) lw n q lo hi w (p + 1) = if p = w then chF (m.2.1 2) lw n q lo hi w p else if ¬ (lsV (kqU (m.2.1 2) n (nI p)) lw q lo hi).2.2.2 = 0 ∧ (lsV (kqU (m.2.1 2) n (nI p)) lw q lo hi).1 < (chF (m.2.1 2) lw n q lo hi w p).1 then ((lsV (kqU (m.2.1 2) n (nI p)) lw q lo hi).1, nI p) else chF (m.2.1 2) lw n q lo hi w p := rfl
    unfold w_cheapest_33
    rw [show (25 : Int32) = nI 25 from rfl, nI_lle (by omega) (by omega), e12, mAt_n (by omega), k1, hwv, nI_eq (by omega) (by omega)]
    refine ⟨fun z => by omega, fun _ => ⟨vpk (by omega) (by decide), fun ne => ?_, fun eq => ?_⟩⟩
    · refine w_shS (lw := lw) hN hN2 (by rw [k1]; exact hF) (by rw [k1]; exact hk) hn hq (by rw [k1]; exact hqv) hh hl (by rw [k1]; exact hlv) (by rw [k1]; exact hhv) (p := p) (by omega) (by rw [k1]; exact j2) (fun m2 c2 o2 => ?_)
      rw [k1] at o2 ⊢
      have next := w_ch33 hN hN2 hF hk hn hq hqv hh hl hlv hhv hw hwv hK (x2 := x2) (Kr := Kr) c t (p + 1) m2 (cE_t j1 c2) o2 (by omega) (by omega)
      rw [e, if_neg ne] at next
      have ok := sV_ok (lo := lo) (hi := hi) (fin := fnI (-1)) (tbB_T (kqU (m.2.1 2) n (nI p)) lw q) hq hh q (Nat.le_refl _) 0 ⟨by omega, Or.inr (by omega)⟩
      unfold w_cheapest_65
      by_cases cz : (lsV (kqU (m.2.1 2) n (nI p)) lw q lo hi).2.2.2 = 0
      · rw [if_neg (fun z => z.1 cz)] at next
        rw [if_pos cz]
        refine ⟨fun _ y hy => ?_, fun z => absurd rfl z⟩
        rw [hy, nI_1]
        exact next
      · rw [if_neg cz]
        have r := (cmp_r (df := false) (by omega) ok).resolve_right (fun z => z.1 cz)
        have r1 : 0 ≤ (lsV (kqU (m.2.1 2) n (nI p)) lw q lo hi).1.toInt := r.2.1
        refine ⟨fun z => ?_, fun _ => ⟨fun z y hy => ?_, fun z y hy => ?_⟩⟩
        · rw [z, m1toI] at r1
          omega
        · rw [if_pos ⟨cz, z⟩] at next
          rw [hy, nI_1]
          exact next
        · rw [if_neg (fun y => z y.2)] at next
          rw [hy, nI_1]
          exact next
    · have next := w_ch33 hN hN2 hF hk hn hq hqv hh hl hlv hhv hw hwv hK (x2 := x2) (Kr := Kr) c t (p + 1) m1 j1 j2 (by omega) (by omega)
      rw [e, if_pos eq] at next
      unfold w_cheapest_65
      refine ⟨fun _ y hy => ?_, fun z => absurd rfl z⟩
      rw [hy, nI_1]
      exact next
end CJ
section CK
variable {N : tP} {s : tM} {x o : Nat} {K : tM → Prop}
theorem op_cheapest (hN : nOK N) (hX : RXo N s x o) (hK : ∀ s', RXo N s' x o → K s') (a b : Int32) : v_X0_cheapest N x a b s (pK o (w_cheapest (nP N) a b) K) := by
  obtain ⟨L, M, rfl, hX, hm⟩ := hX
  have hS := hX.S
  obtain ⟨q, n1, n2⟩ := hX.I.1.2.2.2.2.1
  obtain ⟨lo, lo1, lo2⟩ := i32N hX.I.1.2.2.1.1
  obtain ⟨hi, hi1, hi2⟩ := i32N hX.I.1.2.2.2.1.1
  have hl : lo < 25 := by have := hX.I.1.2.2.1.2; omega
  have hh : hi < 25 := by have := hX.I.1.2.2.2.1.2; omega
  obtain ⟨lw, hF⟩ := hX.inF
  have hN1 : 60 ≤ N.1 := by have := hN.1; omega
  have hN2 : 120 ≤ N.2.1 := by have := hN.2; omega
  have hM1 : 402 ≤ (nP N).1 := by have := hN.1; show 402 ≤ N.1; omega
  have hM2 : 40 ≤ (nP N).2 := by have := hN.2; show 40 ≤ N.2.1; omega
  have hmany : tI s (L 40) 4 = nI q := hX.many.trans n2
  have bad : isNI q a = false ∨ (decide ((0 : Int32) ≤ b) && decide (b ≤ 1)) = false → pK o (w_cheapest (nP N) a b) K (-1) s := fun h => by
    refine pfin hX hm (frM_r _ _) rfl hK (fun m1 K2 hc h2 => ?_)
    unfold w_cheapest
    refine w_isNoteS (n := q) (by rw [eqP hc]; exact n2) n1 (bI_c (fun _ => h2 m1 hc) (fun z => w_liesS (bI_d (fun z2 => ?_) (fun _ => h2 m1 hc))))
    rcases h with h | h
    · rw [h] at z
      cases z
    · rw [h] at z2
      cases z2
  unfold v_X0_cheapest
  refine ⟨hS.o (r := 0) rfl, v_isNoteS hS hmany n1 (bI_c (fun z => bad (Or.inl z)) (fun za => v_inS ?_))⟩
  rw [inl (lo' := 0) (hi' := 1) (by decide) (by decide)]
  refine bI_d (fun zb => ⟨hS.o (r := 0) rfl, v_booksS hS ?_⟩) (fun z => bad (Or.inr z))
  obtain ⟨n, hn, rfl⟩ := isNI_t (by omega) za
  have hn2 : n < 12 := by omega
  have b44 := hS.2.2.1.2.1 44 (Or.inr (Or.inr (Or.inr (Or.inl rfl))))
  have tu : tR s (L 44) 0 = L 244 := b44.1
  have pw := hX.I.1.1.1 (12 + n) (by omega)
  obtain ⟨w, w1, w2⟩ := i32N pw.1
  have hw : w < 25 := by have := pw.2; omega
  rw [tu, nI_clamp (by omega), hX.u hn2, w1]
  refine ⟨hS.o (r := 44) rfl, ⟨12, hS.a (r := 244) rfl, vpk hn2 (by decide)⟩, fun was hwas => ⟨hS.o (r := 0) rfl, v_layNotesS hN2 hN1 hX hF n1 n2 (fun s1 a1 d1 => ?_)⟩⟩
  rw [hwas]
  have X1 := hX.t a1
  have f1 : frM (mO s o) s s1 := frM_s (aT_M a1 hS) (fun _ => Or.inr)
  have X1' : RX N s1 L M (mO s o) (mI (sM s o) 2 (nI (12 + n)) (nI w)) := X1.c ⟨fun _ _ => rfl, fun q' _ => by
    by_cases e : q' = 2
    · subst e
      funext i
      rw [mI_at _ _ _ (by omega)]
      by_cases c : i = 12 + n
      · rw [if_pos c, c, w1]
      · rw [if_neg c]
    · rw [mI_o _ _ _ e]⟩
  refine v_ch46 (s := s) hN2 hN1 hX hF hn n1 n2 hh hl lo1 hi1 hw (fun s2 v X2 f2 => ?_) 25 N.1 0 s1 (nI w) (pI_n hw) X1' f1 (fun n' b' h z1 _ _ z4 z5 => d1 n' b' h z1 z4 z5) (by omega) (by omega)
  have S2 := X2.S
  have b44' := S2.2.2.1.2.1 44 (Or.inr (Or.inr (Or.inr (Or.inl rfl))))
  have tu' : tR s2 (L 44) 0 = L 244 := b44'.1
  refine ⟨S2.o (r := 0) rfl, v_booksS S2 ?_⟩
  rw [tu']
  refine ⟨S2.o (r := 44) rfl, ⟨12, S2.a (r := 244) rfl, vpk hn2 (by decide)⟩, fun s3 e3 => ?_⟩
  have X3 : RX N s3 L M (mO s o) (mI (mI (sM s o) 2 (nI (12 + n)) v) 2 (nI (12 + n)) (nI w)) := by
    rw [e3]
    obtain ⟨told, k1, k2, -⟩ := X2.told
    refine X2.w (r0 := 244) (j0 := n) (q0 := 2) (i0 := 12 + n) ?_ (rd_I _ _ (by decide) (by omega)) (by omega) (invM_I X2.I k2 k1 (by omega) ⟨fun _ => pI_n hw, by omega, by omega, by omega, by omega, by omega, by omega, by omega, by omega, by omega⟩)
    unfold loc
    rw [if_neg (by decide), if_pos rfl, if_pos hn2]
  have f3 : frM (mO s o) s s3 := by
    rw [e3]
    exact frM_t f2 (frM_I X2 (by decide))
  have fin : ∀ r, (((chF ((sM s o).2.1 2) lw n q lo hi w 25).2 = -1 → r = (chF ((sM s o).2.1 2) lw n q lo hi w 25).2) ∧ (¬ (chF ((sM s o).2.1 2) lw n q lo hi w 25).2 = -1 → (¬ b = 0 → r = (chF ((sM s o).2.1 2) lw n q lo hi w 25).1) ∧ (b = 0 → r = (chF ((sM s o).2.1 2) lw n q lo hi w 25).2))) → pK o (w_cheapest (nP N) (nI n) b) K r s3 := fun r hr => by
    refine pfin X3 hm f3 rfl hK (fun m1 K2 hc h2 => ?_)
    have e2 := eqP hc
    unfold w_cheapest
    refine w_isNoteS (n := q) (by rw [e2]; exact n2) n1 ?_
    rw [za]
    refine ⟨fun z => absurd z (by decide), fun _ => w_liesS ?_⟩
    rw [zb]
    refine ⟨fun _ => w_laysNotesS (lw := lw) hM1 hM2 (by rw [e2]; exact hF) (by rw [e2]; exact hX.I.1.1) n1 (by rw [e2]; exact n2) (fun m2 T2 C2 => ?_), fun z => absurd z (by decide)⟩
    have k2 : m2.2.1 2 = (sM s o).2.1 2 := (mT_2 T2).trans e2
    have := w_ch33 (N := nP N) (m := m2) (lw := lw) (x2 := b) (lo := lo) (hi := hi) (w := w) (n := n) (Kr := K2) (K := fun x109 x110 s111 => ((x109 = (-1) → (K2 x109 s111)) ∧ (¬ x109 = (-1) → ((¬ b = 0 → (K2 x110 s111)) ∧ (b = 0 → (K2 x109 s111)))))) hM1 hM2 (by rw [k2]; exact hF) (by rw [k2]; exact hX.I.1.1) hn n1 (by rw [k2]; exact n2) hh hl (by rw [k2]; exact lo1) (by rw [k2]; exact hi1) hw (by rw [k2]; exact w1) (fun m3 c3 => ?_) 25 (nP N).1 0 m2 (cE_r m2) (fun n' b' h z1 _ _ z4 z5 => by rw [mT_2 T2]; exact C2 n' b' h z1 z4 z5) (by omega) (by omega)
    · exact this
    · have g3 := h2 m3 (cE_t (cE_s (cE_II (by omega) w1.symm)) (cE_t hc (cE_t (mT_cE T2) c3)))
      rw [k2]
      refine ⟨fun z => ?_, fun z => ⟨fun y => ?_, fun y => ?_⟩⟩
      · rw [← hr.1 z]
        exact g3
      · rw [← (hr.2 z).1 y]
        exact g3
      · rw [← (hr.2 z).2 y]
        exact g3
  refine ⟨fun z => fin _ ⟨fun _ => rfl, fun y => absurd z y⟩, fun z => ⟨fun y => fin _ ⟨fun w => absurd w z, fun _ => ⟨fun _ => rfl, fun w => absurd w y⟩⟩, fun y => fin _ ⟨fun _ => rfl, fun _ => ⟨fun w => absurd y w, fun _ => rfl⟩⟩⟩⟩
end CK
