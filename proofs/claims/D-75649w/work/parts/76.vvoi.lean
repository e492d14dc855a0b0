set_option maxRecDepth 100000
/-! ===== the system's voices: from the last note on ===== -/
abbrev T4 : Type := Int32 × Int32 × Int32 × Int64
def v4 (s : tM) (L : Nat → Nat) (n b : Nat) : T4 := (tI s (L (660 + n)) b, tI s (L (680 + n)) b, tI s (L (700 + n)) b, tJ s (L (720 + n)) b)
/-- one pitch here taken in -/
def sS (g : Bool) (p a d : Int32) (v w : T4) : T4 := if g = true ∧ ¬ v.2.2.2 = 0 then (if p + v.1 < w.1 then p + v.1 else w.1, if w.2.1 < a + v.2.1 then a + v.2.1 else w.2.1, if d + v.2.2.1 < w.2.2.1 then d + v.2.2.1 else w.2.2.1, w.2.2.2 + v.2.2.2) else w
def sF (g : Nat → Bool) (p a d : Nat → Int32) (V : Nat → T4) (lo : Nat) : Nat → T4
  | 0 => (100000000, -100000000, 100000000, 0)
  | k + 1 => sS (g (lo + k)) (p (lo + k)) (a (lo + k)) (d (lo + k)) (V (lo + k + 1)) (sF g p a d V lo k)
def ini (f : Bool) : T4 := (if f = true then 0 else 100000000, if f = true then 0 else -100000000, if f = true then 0 else 100000000, if f = true then 1 else 0)
def sV (g : Nat → Nat → Nat → Bool) (p a : Nat → Nat → Nat → Int32) (d : Nat → Nat → Int32) (q lo hi : Nat) (fin : Nat → Bool) : Nat → Nat → T4
  | 0, b => ini (fin b)
  | c + 1, b => sF (g (q - (c + 1)) b) (p (q - (c + 1)) b) (a (q - (c + 1)) b) (d (q - (c + 1))) (fun j => sV g p a d q lo hi fin c j) lo (hi + 1 - lo)
def gS (s : tM) (L : Nat → Nat) (n b h : Nat) : Bool := !decide (tI s (L (1000 + (26 * n + b))) h = 0)
def pS (s : tM) (L : Nat → Nat) (n b h : Nat) : Int32 := tI s (L (1400 + (26 * n + b))) h
def eS (s : tM) (L : Nat → Nat) (n b h : Nat) : Int32 := tI s (L (1800 + (26 * n + b))) h
def dI (kp : Nat → Int32) (n h : Nat) : Int32 := if kp n = nI h then 0 else 1
def okQ (q n b : Nat) : Prop := b < 26 ∧ (n = q ∨ (b = 0 ↔ n = 0))
theorem sF_c {g g' : Nat → Bool} {p p' a a' d d' : Nat → Int32} {V V' : Nat → T4} {lo : Nat} : ∀ k, (∀ h, lo ≤ h → h < lo + k → g h = g' h ∧ (g h = true → p h = p' h ∧ a h = a' h) ∧ d h = d' h ∧ V (h + 1) = V' (h + 1)) → sF g p a d V lo k = sF g' p' a' d' V' lo k
  | 0, _ => rfl
  | k + 1, h => by
    have ih := sF_c k (fun i h1 h2 => h i h1 (by omega))
    obtain ⟨a1, a2, a3, a4⟩ := h (lo + k) (by omega) (by omega)
    show sS _ _ _ _ _ _ = sS _ _ _ _ _ _
    rw [ih, a4, a3, ← a1]
    unfold sS
    by_cases c : g (lo + k) = true ∧ ¬ (V' (lo + k + 1)).2.2.2 = 0
    · rw [if_pos c, if_pos c, (a2 c.1).1, (a2 c.1).2]
    · rw [if_neg c, if_neg c]
theorem sV_c {g g' : Nat → Nat → Nat → Bool} {p p' a a' : Nat → Nat → Nat → Int32} {d : Nat → Nat → Int32} {q lo hi : Nat} {fin : Nat → Bool} (hh : hi < 25) (h : ∀ n b i, n < q → okB n b → i < 25 → g n b i = g' n b i ∧ (g n b i = true → p n b i = p' n b i ∧ a n b i = a' n b i)) : ∀ c, c ≤ q → ∀ b, okQ q (q - c) b → sV g p a d q lo hi fin c b = sV g' p' a' d q lo hi fin c b
  | 0, _, _, _ => rfl
  | c + 1, hc, b, hb => by
    refine sF_c _ (fun i h1 h2 => ?_)
    have ob : okB (q - (c + 1)) b := ⟨hb.1, hb.2.resolve_left (by omega)⟩
    obtain ⟨b1, b2⟩ := h (q - (c + 1)) b i (by omega) ob (by omega)
    exact ⟨b1, b2, rfl, sV_c hh h c (by omega) (i + 1) ⟨by omega, Or.inr (by omega)⟩⟩
/-- of the voices' rows one place alone may change; the tables stay -/
def vF (L : Nat → Nat) (n b : Nat) (s s' : tM) : Prop := (∀ r, shp r ≠ none → 1000 ≤ r → s'.2.1 (L r) = s.2.1 (L r)) ∧ ∀ n' b', n' < 13 → ¬ (n' = n ∧ b' = b) → v4 s' L n' b' = v4 s L n' b'
section VF
variable {s s' s2 : tM} {L : Nat → Nat} {M : Nat → Prop} {n b : Nat}
theorem vF_r : vF L n b s s := ⟨fun _ _ _ => rfl, fun _ _ _ _ => rfl⟩
theorem vF_t (h1 : vF L n b s s') (h2 : vF L n b s' s2) : vF L n b s s2 := ⟨fun r hr h6 => (h2.1 r hr h6).trans (h1.1 r hr h6), fun n' b' h3 h4 => (h2.2 n' b' h3 h4).trans (h1.2 n' b' h3 h4)⟩
theorem tsI_r (hR : RS s L M) {r r0 j j0 : Nat} {v : Int32} (h0 : shp r0 ≠ none) (hr : shp r ≠ none) (s1 : tM) : tI (tsI s1 (L r0) j0 v) (L r) j = if r = r0 ∧ j = j0 then v else tI s1 (L r) j := by
  show (if L r = L r0 ∧ j = j0 then v else s1.2.1 (L r) j) = _
  by_cases c : r = r0 ∧ j = j0
  · rw [if_pos c, if_pos ⟨by rw [c.1], c.2⟩]
  · rw [if_neg c, if_neg (fun z => c ⟨hR.2.1 r r0 hr h0 z.1, z.2⟩)]
theorem tsJ_r (hR : RS s L M) {r r0 j j0 : Nat} {v : Int64} (h0 : shp r0 ≠ none) (hr : shp r ≠ none) (s1 : tM) : tJ (tsJ s1 (L r0) j0 v) (L r) j = if r = r0 ∧ j = j0 then v else tJ s1 (L r) j := by
  show (if L r = L r0 ∧ j = j0 then v else s1.2.2.1 (L r) j) = _
  by_cases c : r = r0 ∧ j = j0
  · rw [if_pos c, if_pos ⟨by rw [c.1], c.2⟩]
  · rw [if_neg c, if_neg (fun z => c ⟨hR.2.1 r r0 hr h0 z.1, z.2⟩)]
theorem v4_w (hR : RS s L M) (hn : n < 13) (x y z : Int32) (w : Int64) {s9 : tM} (e : s9 = tsJ (tsI (tsI (tsI s (L (660 + n)) b x) (L (680 + n)) b y) (L (700 + n)) b z) (L (720 + n)) b w) : aT L s s9 ∧ vF L n b s s9 ∧ v4 s9 L n b = (x, y, z, w) := by
  obtain ⟨e1, e2, e3, e4⟩ := shp_660 hn
  have u1 := shp_some e1
  have u2 := shp_some e2
  have u3 := shp_some e3
  have u4 := shp_some e4
  have tIv : ∀ r j, shp r ≠ none → tI s9 (L r) j = if r = 700 + n ∧ j = b then z else if r = 680 + n ∧ j = b then y else if r = 660 + n ∧ j = b then x else tI s (L r) j := fun r j hr => by
    rw [e]
    show tI (tsI (tsI (tsI s (L (660 + n)) b x) (L (680 + n)) b y) (L (700 + n)) b z) (L r) j = _
    rw [tsI_r hR u3 hr, tsI_r hR u2 hr, tsI_r hR u1 hr]
  have tJv : ∀ r j, shp r ≠ none → tJ s9 (L r) j = if r = 720 + n ∧ j = b then w else tJ s (L r) j := fun r j hr => by
    rw [e, tsJ_r hR u4 hr]
    rfl
  refine ⟨?_, ⟨fun r hr h6 => funext fun j => ?_, fun n' b' h3 h4 => ?_⟩, ?_⟩
  · rw [e]
    exact aT_t (aT_t (aT_t (aT_I (fre_c u1 (by omega))) (aT_I (fre_c u2 (by omega)))) (aT_I (fre_c u3 (by omega)))) (aT_J (fre_c u4 (by omega)))
  · refine (tIv r j hr).trans ?_
    rw [if_neg (by omega), if_neg (by omega), if_neg (by omega)]
  · obtain ⟨f1, f2, f3, f4⟩ := shp_660 h3
    unfold v4
    rw [tIv _ _ (shp_some f1), tIv _ _ (shp_some f2), tIv _ _ (shp_some f3), tJv _ _ (shp_some f4)]
    rw [if_neg (by omega), if_neg (by omega), if_neg (by omega), if_neg (by omega), if_neg (by omega), if_neg (by omega), if_neg (by omega), if_neg (by omega), if_neg (by omega), if_neg (by omega)]
  · unfold v4
    rw [tIv _ _ u1, tIv _ _ u2, tIv _ _ u3, tJv _ _ u4]
    rw [if_neg (by omega), if_neg (by omega), if_pos ⟨rfl, rfl⟩, if_neg (by omega), if_pos ⟨rfl, rfl⟩, if_pos ⟨rfl, rfl⟩, if_pos ⟨rfl, rfl⟩]
end VF
section LV
variable {N : tP} {s : tM} {L : Nat → Nat} {M O : Nat → Prop} {m : mS}
theorem v_differsS (hX : RX N s L M O m) {n h : Nat} (hn : n < 12) {K : Int32 → tM → Prop} (hK : K (dI (m.2.1 2) n h) s) : v_X0_differs (L 0) (nI n) (nI h) s K := by
  have hS := hX.S
  have b44 := hS.2.2.1.2.1 44 (Or.inr (Or.inr (Or.inr (Or.inl rfl))))
  have th : tR s (L 44) 1 = L 444 := b44.2
  unfold v_X0_differs
  refine ⟨hS.o (r := 0) rfl, v_booksS hS ?_⟩
  rw [th, nI_clamp (by omega), hX.h hn]
  unfold dI at hK
  refine ⟨hS.o (r := 44) rfl, ⟨12, hS.a (r := 444) rfl, vpk hn (by decide)⟩, fun z => ?_, fun z => ?_⟩
  · rw [if_neg z] at hK
    exact hK
  · rw [if_pos z] at hK
    exact hK
theorem v_lf45 (hX : RX N s L M O m) {n b lo hi : Nat} (hn : n < 12) (hb : b < 26) (hh : hi < 25) (hl : lo < 25) {Kr K : tM → Prop} {F : Nat → T4} (hFe : F = sF (gS s L n b) (pS s L n b) (eS s L n b) (dI (m.2.1 2) n) (fun j => v4 s L (n + 1) j) lo) (hK : ∀ s2, aT L s s2 → vF L n b s s2 → v4 s2 L n b = F (hi + 1 - lo) → K s2) : ∀ (c t k : Nat) (s1 : tM), aT L s s1 → vF L n b s s1 → v4 s1 L n b = F k → k + c = hi + 1 - lo → c < t → v_X0_layFrom_45 N (L 0) (nI n) (nI b) (nI hi) Kr K t (nI (lo + k)) s1
  | _, 0, _, _, _, _, _, _, h => absurd h (Nat.not_lt_zero _)
  | 0, t + 1, k, s1, j1, j2, j3, hk, _ => by
    unfold v_X0_layFrom_45
    rw [nI_ltI (by omega) (by omega)]
    have e : k = hi + 1 - lo := by omega
    rw [e] at j3
    exact ⟨fun _ => hK s1 j1 j2 j3, fun z => absurd (by omega) z⟩
  | c + 1, t + 1, k, s1, j1, j2, j3, hk, ht => by
    have X1 := hX.t j1
    have S1 := X1.S
    have hi' : lo + k < 25 := by omega
    have cn : (nI n).toNatClampNeg = n := nI_clamp (by omega)
    have cb : (nI b).toNatClampNeg = b := nI_clamp (by omega)
    have ch : (nI (lo + k)).toNatClampNeg = lo + k := nI_clamp (by omega)
    have cn1 : (nI (n + 1)).toNatClampNeg = n + 1 := nI_clamp (by omega)
    have ch1 : (nI (lo + k + 1)).toNatClampNeg = lo + k + 1 := nI_clamp (by omega)
    have hn3 : n < 13 := by omega
    have hn1 : n + 1 < 13 := by omega
    have hb1 : lo + k + 1 < 26 := by omega
    obtain ⟨q16, q17, q18, q19, q20, q21, q22⟩ := S1.q0
    obtain ⟨r16, r17, r18⟩ := S1.q16 hn
    obtain ⟨r19, r20, r21, r22⟩ := S1.q19 hn3
    obtain ⟨p19, p20, p21, p22⟩ := S1.q19 hn1
    obtain ⟨g16, g17, g18⟩ := S1.qg hn hb
    obtain ⟨sh1, sh2, sh3⟩ := shp_cell hn hb
    obtain ⟨f1, f2, f3, f4⟩ := shp_660 hn3
    obtain ⟨f1', f2', f3', f4'⟩ := shp_660 hn1
    have eF : F (k + 1) = sS (gS s L n b (lo + k)) (pS s L n b (lo + k)) (eS s L n b (lo + k)) (dI (m.2.1 2) n (lo + k)) (v4 s L (n + 1) (lo + k + 1)) (F k) := by
      rw [hFe]
      rfl
    have hv := j2.2 (n + 1) (lo + k + 1) hn1 (by omega)
    have eg : tI s1 (L (1000 + (26 * n + b))) (lo + k) = tI s (L (1000 + (26 * n + b))) (lo + k) := congrFun (j2.1 _ (shp_some sh1) (by omega)) _
    have ep : tI s1 (L (1400 + (26 * n + b))) (lo + k) = pS s L n b (lo + k) := congrFun (j2.1 _ (shp_some sh2) (by omega)) _
    have ee : tI s1 (L (1800 + (26 * n + b))) (lo + k) = eS s L n b (lo + k) := congrFun (j2.1 _ (shp_some sh3) (by omega)) _
    have next : ∀ s2, aT L s s2 → vF L n b s s2 → v4 s2 L n b = F (k + 1) → v_X0_layFrom_45 N (L 0) (nI n) (nI b) (nI hi) Kr K t (nI (lo + k + 1)) s2 := fun s2 i1 i2 i3 => v_lf45 hX hn hb hh hl hFe hK c t (k + 1) s2 i1 i2 i3 (by omega) (by omega)
    unfold v_X0_layFrom_45
    rw [nI_ltI (by omega) (by omega)]
    refine ⟨fun z => by omega, fun _ => ?_⟩
    simp only [q16, q17, q19, q22, cn, cb, ch, nI_1, cn1, ch1, r16, r17, r19, r22, p19, p22, g16, g17]
    refine ⟨S1.o (r := 0) rfl, (S1.x16 hn).1, (S1.x600 hn hb).1, (S1.x1000 hn hb hi').1, fun gz y hy => ?_, fun gnz => ⟨(S1.x19 hn1).2.2.2, (S1.x660 hn1 hb1).2.2.2, fun mnz => ?_, fun mz y hy => ?_⟩⟩
    · rw [hy]
      refine next s1 j1 j2 (j3.trans ?_)
      rw [eF]
      unfold sS gS
      rw [← eg, gz]
      exact (if_neg fun z => absurd z.1 (by decide)).symm
    · rw [lgc_z] at mnz
      have cG : gS s L n b (lo + k) = true ∧ ¬ (v4 s L (n + 1) (lo + k + 1)).2.2.2 = 0 := by
        refine ⟨?_, ?_⟩
        · unfold gS
          rw [← eg, decide_eq_false gnz]
          rfl
        · rw [← hv]
          exact mnz
      rw [ep]
      refine ⟨(S1.x19 hn3).1, (S1.x19 hn3).1, (S1.x660 hn3 hb).1, (S1.x16 hn).2.1, (S1.x600 hn hb).2.1, (S1.x1000 hn hb hi').2.1, (S1.x19 hn1).1, (S1.x660 hn1 hb1).1, fun a1 h1 => ⟨(S1.x660 hn3 hb).1, fun s3 e3 => ?_⟩⟩
      have A3 : aT L s s3 := by
        rw [e3]
        exact aT_t j1 (aT_I (fre_c (shp_some f1) (by omega)))
      have X3 := hX.t A3
      have S3 := X3.S
      have T3 : ∀ r j, shp r ≠ none → r ≠ 660 + n → tI s3 (L r) j = tI s1 (L r) j := fun r j hr hne => by
        rw [e3, tsI_r S1 (shp_some f1) hr, if_neg (fun z => hne z.1)]
      obtain ⟨-, -, q18, -, q20, -⟩ := S3.q0
      obtain ⟨-, -, r18⟩ := S3.q16 hn
      obtain ⟨-, r20, -⟩ := S3.q19 hn3
      obtain ⟨-, p20, -⟩ := S3.q19 hn1
      obtain ⟨-, -, g18⟩ := S3.qg hn hb
      simp only [q18, q20, cn, cb, ch, nI_1, cn1, ch1, r18, r20, p20, g18]
      rw [T3 _ _ (shp_some f2) (by omega), T3 _ _ (shp_some f2') (by omega), T3 _ _ (shp_some sh3) (by omega), ee]
      refine ⟨(S3.x19 hn3).2.1, (S3.x19 hn3).2.1, (S3.x660 hn3 hb).2.1, (S3.x16 hn).2.2, (S3.x600 hn hb).2.2, (S3.x1000 hn hb hi').2.2, (S3.x19 hn1).2.1, (S3.x660 hn1 hb1).2.1, fun a2 h2 => ⟨(S3.x660 hn3 hb).2.1, fun s5 e5 => ?_⟩⟩
      have A5 : aT L s s5 := by
        rw [e5]
        exact aT_t A3 (aT_I (fre_c (shp_some f2) (by omega)))
      have X5 := hX.t A5
      have S5 := X5.S
      have T5 : ∀ r j, shp r ≠ none → r ≠ 660 + n → r ≠ 680 + n → tI s5 (L r) j = tI s1 (L r) j := fun r j hr hne hne2 => by
        rw [e5, tsI_r S1 (shp_some f2) hr, if_neg (fun z => hne2 z.1)]
        exact T3 r j hr hne
      obtain ⟨-, -, -, -, -, q21, -⟩ := S5.q0
      obtain ⟨-, -, r21, -⟩ := S5.q19 hn3
      obtain ⟨-, -, p21, -⟩ := S5.q19 hn1
      simp only [q21, cn, cb, r21]
      refine ⟨(S5.x19 hn3).2.2.1, (S5.x19 hn3).2.2.1, (S5.x660 hn3 hb).2.2.1, v_differsS X5 hn ?_⟩
      simp only [q21, nI_1, cn1, ch1, p21]
      rw [T5 _ _ (shp_some f3) (by omega) (by omega), T5 _ _ (shp_some f3') (by omega) (by omega)]
      refine ⟨S5.o (r := 0) rfl, (S5.x19 hn1).2.2.1, (S5.x660 hn1 hb1).2.2.1, fun a3 h3 => ⟨(S5.x660 hn3 hb).2.2.1, fun s7 e7 => ?_⟩⟩
      have A7 : aT L s s7 := by
        rw [e7]
        exact aT_t A5 (aT_I (fre_c (shp_some f3) (by omega)))
      have X7 := hX.t A7
      have S7 := X7.S
      have J7 : ∀ r j, tJ s7 r j = tJ s1 r j := fun r j => by
        rw [e7, e5, e3]
        rfl
      obtain ⟨-, -, -, -, -, -, q22⟩ := S7.q0
      obtain ⟨-, -, -, r22⟩ := S7.q19 hn3
      obtain ⟨-, -, -, p22⟩ := S7.q19 hn1
      simp only [q22, cn, cb, nI_1, cn1, ch1, r22, p22, J7]
      refine ⟨(S7.x19 hn3).2.2.2, (S7.x660 hn3 hb).2.2.2, (S7.x19 hn1).2.2.2, (S7.x660 hn1 hb1).2.2.2, (S7.x660 hn3 hb).2.2.2, fun s9 e9 y hy => ?_⟩
      rw [hy]
      rw [e7, e5, e3] at e9
      obtain ⟨i1, i2, i3⟩ := v4_w S1 hn3 _ _ _ _ e9
      refine next s9 (aT_t j1 i1) (vF_t j2 i2) ?_
      rw [i3, eF, ← hv, ← j3]
      unfold sS
      rw [hv, if_pos cG, ← hv, h1, h2, h3]
      rfl
    · rw [lgc_z] at mz
      rw [hy]
      refine next s1 j1 j2 (j3.trans ?_)
      rw [eF]
      unfold sS
      refine (if_neg fun z => z.2 ?_).symm
      rw [← hv]
      exact mz
theorem v_layFromS (hN1 : 60 ≤ N.1) (hX : RX N s L M O m) {n b lo hi : Nat} (hn : n < 12) (hb : b < 26) (hh : hi < 25) (hl : lo < 25) {K : tM → Prop} (hK : ∀ s2, aT L s s2 → vF L n b s s2 → v4 s2 L n b = sF (gS s L n b) (pS s L n b) (eS s L n b) (dI (m.2.1 2) n) (fun j => v4 s L (n + 1) j) lo (hi + 1 - lo) → K s2) : v_X0_layFrom N (L 0) (nI n) (nI b) (nI lo) (nI hi) s K := by
  have hS := hX.S
  have cn : (nI n).toNatClampNeg = n := nI_clamp (by omega)
  have cb : (nI b).toNatClampNeg = b := nI_clamp (by omega)
  have hn3 : n < 13 := by omega
  obtain ⟨f1, f2, f3, f4⟩ := shp_660 hn3
  obtain ⟨-, -, -, q19, -⟩ := hS.q0
  obtain ⟨r19, -⟩ := hS.q19 hn3
  unfold v_X0_layFrom
  simp only [q19, cn, cb, r19]
  refine ⟨hS.o (r := 0) rfl, (hS.x19 hn3).1, (hS.x660 hn3 hb).1, fun s1 e1 => ?_⟩
  have X1 : RX N s1 L M O m := by
    rw [e1]
    exact hX.t (aT_I (fre_c (shp_some f1) (by omega)))
  have S1 := X1.S
  obtain ⟨-, -, -, -, q20, -⟩ := S1.q0
  obtain ⟨-, r20, -⟩ := S1.q19 hn3
  simp only [q20, cn, cb, r20]
  refine ⟨(S1.x19 hn3).2.1, (S1.x660 hn3 hb).2.1, fun s2 e2 => ?_⟩
  have X2 : RX N s2 L M O m := by
    rw [e2]
    exact X1.t (aT_I (fre_c (shp_some f2) (by omega)))
  have S2 := X2.S
  obtain ⟨-, -, -, -, -, q21, -⟩ := S2.q0
  obtain ⟨-, -, r21, -⟩ := S2.q19 hn3
  simp only [q21, cn, cb, r21]
  refine ⟨(S2.x19 hn3).2.2.1, (S2.x660 hn3 hb).2.2.1, fun s3 e3 => ?_⟩
  have X3 : RX N s3 L M O m := by
    rw [e3]
    exact X2.t (aT_I (fre_c (shp_some f3) (by omega)))
  have S3 := X3.S
  obtain ⟨-, -, -, -, -, -, q22⟩ := S3.q0
  obtain ⟨-, -, -, r22⟩ := S3.q19 hn3
  simp only [q22, cn, cb, r22]
  refine ⟨(S3.x19 hn3).2.2.2, (S3.x660 hn3 hb).2.2.2, fun s4 e4 => ?_⟩
  rw [e3, e2, e1] at e4
  obtain ⟨i1, i2, i3⟩ := v4_w hS hn3 _ _ _ _ e4
  exact v_lf45 hX hn hb hh hl rfl hK (hi + 1 - lo) N.1 0 s4 i1 i2 i3 (by omega) (by omega)
theorem v_lv34 (hX : RX N s L M O m) {q b : Nat} (hq : q < 13) (hb : b < 26) {x1 x2 x3 : Int32} {f : Bool} {Kr K : tM → Prop} {R : Int32 → tM → Prop} (hR : ∀ s2, aT L s s2 → vF L q b s s2 → v4 s2 L q b = ini f → R (nI (b + 1)) s2) : v_X0_layVoices_34 N (L 0) x1 x2 x3 (nI q) (nI b) (bI f) Kr K R s := by
  have hS := hX.S
  have cn : (nI q).toNatClampNeg = q := nI_clamp (by omega)
  have cb : (nI b).toNatClampNeg = b := nI_clamp (by omega)
  obtain ⟨f1, f2, f3, f4⟩ := shp_660 hq
  have sel : ∀ (A B : Int32) (P : Int32 → Prop), P (if f = true then B else A) → (bI f = 0 → P A) ∧ (¬ bI f = 0 → P B) := fun A B P h => bI_c (fun z => by rw [z] at h; exact h) (fun z => by rw [z] at h; exact h)
  unfold v_X0_layVoices_34
  obtain ⟨-, -, -, q19, -⟩ := hS.q0
  obtain ⟨r19, -⟩ := hS.q19 hq
  rw [q19, cn, r19]
  refine ⟨hS.o (r := 0) rfl, (hS.x19 hq).1, sel 100000000 0 (fun v => v_X0_layVoices_57 N (L 0) x1 x2 x3 (nI q) (nI b) (bI f) (L (660 + q)) (nI b) v Kr K R s) ?_⟩
  unfold v_X0_layVoices_57
  rw [cb]
  refine ⟨(hS.x660 hq hb).1, fun s1 e1 => ?_⟩
  have X1 : RX N s1 L M O m := by
    rw [e1]
    exact hX.t (aT_I (fre_c (shp_some f1) (by omega)))
  have S1 := X1.S
  obtain ⟨-, -, -, -, q20, -⟩ := S1.q0
  obtain ⟨-, r20, -⟩ := S1.q19 hq
  rw [q20, cn, r20]
  refine ⟨S1.o (r := 0) rfl, (S1.x19 hq).2.1, sel (-100000000) 0 (fun v => v_X0_layVoices_79 N (L 0) x1 x2 x3 (nI q) (nI b) (bI f) (L (680 + q)) (nI b) v Kr K R s1) ?_⟩
  unfold v_X0_layVoices_79
  rw [cb]
  refine ⟨(S1.x660 hq hb).2.1, fun s2 e2 => ?_⟩
  have X2 : RX N s2 L M O m := by
    rw [e2]
    exact X1.t (aT_I (fre_c (shp_some f2) (by omega)))
  have S2 := X2.S
  obtain ⟨-, -, -, -, -, q21, -⟩ := S2.q0
  obtain ⟨-, -, r21, -⟩ := S2.q19 hq
  rw [q21, cn, r21]
  refine ⟨S2.o (r := 0) rfl, (S2.x19 hq).2.2.1, sel 100000000 0 (fun v => v_X0_layVoices_101 N (L 0) x1 x2 x3 (nI q) (nI b) (bI f) (L (700 + q)) (nI b) v Kr K R s2) ?_⟩
  unfold v_X0_layVoices_101
  rw [cb]
  refine ⟨(S2.x660 hq hb).2.2.1, fun s3 e3 => ?_⟩
  have X3 : RX N s3 L M O m := by
    rw [e3]
    exact X2.t (aT_I (fre_c (shp_some f3) (by omega)))
  have S3 := X3.S
  obtain ⟨-, -, -, -, -, -, q22⟩ := S3.q0
  obtain ⟨-, -, -, r22⟩ := S3.q19 hq
  rw [q22, cn, r22]
  have fin : ∀ w : Int64, w = (if f = true then 1 else 0) → ∀ s4, s4 = tsJ s3 (L (720 + q)) b w → R (nI (b + 1)) s4 := fun w hw s4 e4 => by
    rw [e3, e2, e1, hw] at e4
    obtain ⟨i1, i2, i3⟩ := v4_w hS hq _ _ _ _ e4
    exact hR s4 i1 i2 i3
  refine ⟨S3.o (r := 0) rfl, (S3.x19 hq).2.2.2, bI_c (fun z => ⟨(S3.x660 hq hb).2.2.2, fun s4 e4 y hy => ?_⟩) (fun z => ⟨(S3.x660 hq hb).2.2.2, fun s4 e4 y hy => ?_⟩)⟩
  · rw [hy, nI_1]
    exact fin 0 (by rw [z]; rfl) s4 e4
  · rw [hy, nI_1]
    exact fin 1 (by rw [z]; rfl) s4 e4
/-- where a last voice's pitch is told (none: any) -/
def fnI (x3 : Int32) (b : Nat) : Bool := decide (x3 = -1 ∨ nI b = x3 + 1)
theorem v_lv9 (hX : RX N s L M O m) {q : Nat} (hq : q < 13) {x1 x2 x3 : Int32} {Kr K : tM → Prop} (hK : ∀ s2, aT L s s2 → (∀ r, shp r ≠ none → 1000 ≤ r → s2.2.1 (L r) = s.2.1 (L r)) → (∀ b, b < 26 → v4 s2 L q b = ini (fnI x3 b)) → K s2) : ∀ (c t b : Nat) (s1 : tM), aT L s s1 → (∀ r, shp r ≠ none → 1000 ≤ r → s1.2.1 (L r) = s.2.1 (L r)) → (∀ b', b' < b → v4 s1 L q b' = ini (fnI x3 b')) → b + c = 26 → c < t → v_X0_layVoices_9 N (L 0) x1 x2 x3 (nI q) Kr K t (nI b) s1
  | _, 0, _, _, _, _, _, _, h => absurd h (Nat.not_lt_zero _)
  | 0, t + 1, b, s1, j1, j2, j3, hb, _ => by
    unfold v_X0_layVoices_9
    have : b = 26 := by omega
    subst this
    exact ⟨fun _ => hK s1 j1 j2 j3, fun z => absurd (nI_lt (a := 25) (b := 26) (by omega) (by omega)) z⟩
  | c + 1, t + 1, b, s1, j1, j2, j3, hb, ht => by
    have X1 := hX.t j1
    have go : ∀ f, fnI x3 b = f → v_X0_layVoices_34 N (L 0) x1 x2 x3 (nI q) (nI b) (bI f) Kr K (fun x5 s => v_X0_layVoices_9 N (L 0) x1 x2 x3 (nI q) Kr K t x5 s) s1 := fun f hf => by
      refine v_lv34 X1 hq (by omega) (fun s2 i1 i2 i3 => v_lv9 hX hq hK c t (b + 1) s2 (aT_t j1 i1) (fun r hr h6 => (i2.1 r hr h6).trans (j2 r hr h6)) (fun b' h => ?_) (by omega) (by omega))
      by_cases e : b' = b
      · rw [e, i3, hf]
      · exact (i2.2 q b' hq (fun z => e z.2)).trans (j3 b' (by omega))
    unfold v_X0_layVoices_9
    rw [show (25 : Int32) = nI 25 from rfl, nI_ltI (by omega) (by omega)]
    refine ⟨fun z => by omega, fun _ => ⟨fun z => ?_, fun nz => ⟨fun z => ?_, fun z => ?_⟩⟩⟩
    · exact go true (decide_eq_true (Or.inl z))
    · exact go false (decide_eq_false (fun w => w.elim nz z))
    · exact go true (decide_eq_true (Or.inr z))
theorem v_lv142 (hN1 : 60 ≤ N.1) (hX : RX N s L M O m) {q n lo hi : Nat} (hn : n < 12) (hh : hi < 25) (hl : lo < 25) {Kr K : tM → Prop} (hK : ∀ s2, aT L s s2 → (∀ r, shp r ≠ none → 1000 ≤ r → s2.2.1 (L r) = s.2.1 (L r)) → (∀ n' b, n' < 13 → n' ≠ n → v4 s2 L n' b = v4 s L n' b) → (∀ b, okB n b → v4 s2 L n b = sF (gS s L n b) (pS s L n b) (eS s L n b) (dI (m.2.1 2) n) (fun j => v4 s L (n + 1) j) lo (hi + 1 - lo)) → K s2) : ∀ (c t b : Nat) (s1 : tM), aT L s s1 → (∀ r, shp r ≠ none → 1000 ≤ r → s1.2.1 (L r) = s.2.1 (L r)) → (∀ n' b, n' < 13 → n' ≠ n → v4 s1 L n' b = v4 s L n' b) → (∀ b', b' < b → okB n b' → v4 s1 L n b' = sF (gS s L n b') (pS s L n b') (eS s L n b') (dI (m.2.1 2) n) (fun j => v4 s L (n + 1) j) lo (hi + 1 - lo)) → b + c = 26 → c < t → v_X0_layVoices_142 N (L 0) (nI lo) (nI hi) (nI n) Kr K t (nI b) s1
  | _, 0, _, _, _, _, _, _, _, h => absurd h (Nat.not_lt_zero _)
  | 0, t + 1, b, s1, j1, j2, j3, j4, hb, _ => by
    unfold v_X0_layVoices_142
    have : b = 26 := by omega
    subst this
    exact ⟨fun _ => hK s1 j1 j2 j3 (fun b' h => j4 b' h.1 h), fun z => absurd (nI_lt (a := 25) (b := 26) (by omega) (by omega)) z⟩
  | c + 1, t + 1, b, s1, j1, j2, j3, j4, hb, ht => by
    have X1 := hX.t j1
    have z0 : ∀ k, k < 26 → (nI k = 0 ↔ k = 0) := fun k hk => by
      rw [show (0 : Int32) = nI 0 from rfl, nI_eq (by omega) (by omega)]
    have yes : (b = 0 ↔ n = 0) → v_X0_layFrom N (L 0) (nI n) (nI b) (nI lo) (nI hi) s1 (fun s104 => (∀ x106 : Int32, x106 = nI b + 1 → v_X0_layVoices_142 N (L 0) (nI lo) (nI hi) (nI n) Kr K t x106 s104)) := fun hbn => by
      refine v_layFromS hN1 X1 hn (by omega) hh hl (fun s2 i1 i2 i3 y hy => ?_)
      rw [hy, nI_1]
      refine v_lv142 hN1 hX (q := q) hn hh hl hK c t (b + 1) s2 (aT_t j1 i1) (fun r hr h6 => (i2.1 r hr h6).trans (j2 r hr h6)) (fun n' b' h3 h4 => (i2.2 n' b' h3 (fun z => h4 z.1)).trans (j3 n' b' h3 h4)) (fun b' h hob => ?_) (by omega) (by omega)
      by_cases e : b' = b
      · rw [e, i3]
        obtain ⟨sh1, sh2, sh3⟩ := shp_cell hn (b := b) (by omega)
        refine sF_c _ (fun i k1 k2 => ⟨?_, fun _ => ⟨?_, ?_⟩, rfl, ?_⟩)
        · unfold gS tI
          rw [j2 _ (shp_some sh1) (by omega)]
        · unfold pS tI
          rw [j2 _ (shp_some sh2) (by omega)]
        · unfold eS tI
          rw [j2 _ (shp_some sh3) (by omega)]
        · exact j3 (n + 1) (i + 1) (by omega) (by omega)
      · exact (i2.2 n b' (by omega) (fun z => e z.2)).trans (j4 b' (by omega) hob)
    have no : ¬ (b = 0 ↔ n = 0) → v_X0_layVoices_142 N (L 0) (nI lo) (nI hi) (nI n) Kr K t (nI (b + 1)) s1 := fun hbn => by
      refine v_lv142 hN1 hX (q := q) hn hh hl hK c t (b + 1) s1 j1 j2 j3 (fun b' h hob => ?_) (by omega) (by omega)
      by_cases e : b' = b
      · rw [e] at hob
        exact absurd hob.2 hbn
      · exact j4 b' (by omega) hob
    unfold v_X0_layVoices_142 v_X0_layVoices_159 v_X0_layVoices_169
    rw [show (25 : Int32) = nI 25 from rfl, nI_ltI (by omega) (by omega), z0 b (by omega), z0 n (by omega)]
    refine ⟨fun z => by omega, fun _ => ⟨fun b0 => ⟨fun n0 => ⟨fun z => absurd rfl z, fun _ => ⟨X1.S.o (r := 0) rfl, yes (by omega)⟩⟩, fun n0 => ⟨fun _ y hy => ?_, fun z => absurd z (by decide)⟩⟩, fun b0 => ⟨fun n0 => ⟨fun _ y hy => ?_, fun z => absurd z (by decide)⟩, fun n0 => ⟨fun z => absurd rfl z, fun _ => ⟨X1.S.o (r := 0) rfl, yes (by omega)⟩⟩⟩⟩⟩
    · rw [hy, nI_1]
      exact no (by omega)
    · rw [hy, nI_1]
      exact no (by omega)
theorem v_layVoicesS (hN1 : 60 ≤ N.1) (hX : RX N s L M O m) {q lo hi : Nat} (hq : q ≤ 12) (hqv : m.2.1 2 41 = nI q) (hh : hi < 25) (hl : lo < 25) {x3 : Int32} {K : tM → Prop} (hK : ∀ s', aT L s s' → (∀ r, shp r ≠ none → 1000 ≤ r → s'.2.1 (L r) = s.2.1 (L r)) → (∀ c b, c ≤ q → okQ q (q - c) b → v4 s' L (q - c) b = sV (gS s L) (pS s L) (eS s L) (dI (m.2.1 2)) q lo hi (fnI x3) c b) → K s') : v_X0_layVoices N (L 0) (nI lo) (nI hi) x3 s K := by
  unfold v_X0_layVoices
  refine ⟨hX.S.o (r := 0) rfl, v_nNotesS hX.S ?_⟩
  rw [show tI s (L 40) 4 = nI q from hX.many.trans hqv]
  have key : ∀ k t c s1, k + c = q → k < t → aT L s s1 → (∀ r, shp r ≠ none → 1000 ≤ r → s1.2.1 (L r) = s.2.1 (L r)) → (∀ c' b, c' ≤ c → okQ q (q - c') b → v4 s1 L (q - c') b = sV (gS s L) (pS s L) (eS s L) (dI (m.2.1 2)) q lo hi (fnI x3) c' b) → v_X0_layVoices_134 N (L 0) (nI lo) (nI hi) K (fun s106 => K s106) t (nI k - 1) s1 := by
    intro k
    induction k with
    | zero =>
      intro t c s1 hk ht j1 j2 j3
      obtain ⟨t, rfl⟩ : ∃ u, t = u + 1 := ⟨t - 1, by omega⟩
      simp only [v_X0_layVoices_134]
      have e : c = q := by omega
      rw [e] at j3
      exact ⟨fun _ => hK s1 j1 j2 (fun c' b h => j3 c' b h), fun z => absurd (by decide) z⟩
    | succ k ih =>
      intro t c s1 hk ht j1 j2 j3
      obtain ⟨t, rfl⟩ : ∃ u, t = u + 1 := ⟨t - 1, by omega⟩
      have X1 := hX.t j1
      simp only [v_X0_layVoices_134]
      rw [nI_pred]
      refine ⟨fun z => absurd z (nI_pos (by omega)), fun _ => v_lv142 hN1 X1 (q := q) (n := k) (by omega) hh hl (fun s2 i1 i2 i3 i4 y hy => ?_) 26 N.1 0 s1 (aT_r L s1) (fun _ _ _ => rfl) (fun _ _ _ _ => rfl) (fun b' h => absurd h (Nat.not_lt_zero _)) (by omega) (by omega)⟩
      have ey : y = nI k - 1 := by
        rw [hy, Int32.sub_eq_add_neg]
      rw [ey]
      refine ih t (c + 1) s2 (by omega) (by omega) (aT_t j1 i1) (fun r hr h6 => (i2 r hr h6).trans (j2 r hr h6)) (fun c' b h hob => ?_)
      by_cases e : c' = c + 1
      · subst e
        have ek : q - (c + 1) = k := by omega
        rw [ek] at hob ⊢
        have ob : okB k b := ⟨hob.1, hob.2.resolve_left (by omega)⟩
        obtain ⟨sh1, sh2, sh3⟩ := shp_cell (n := k) (b := b) (by omega) ob.1
        rw [i4 b ob]
        show _ = sF (gS s L (q - (c + 1)) b) (pS s L (q - (c + 1)) b) (eS s L (q - (c + 1)) b) (dI (m.2.1 2) (q - (c + 1))) (fun j => sV (gS s L) (pS s L) (eS s L) (dI (m.2.1 2)) q lo hi (fnI x3) c j) lo (hi + 1 - lo)
        rw [ek]
        refine sF_c _ (fun i k1 k2 => ⟨?_, fun _ => ⟨?_, ?_⟩, rfl, ?_⟩)
        · unfold gS tI
          rw [j2 _ (shp_some sh1) (by omega)]
        · unfold pS tI
          rw [j2 _ (shp_some sh2) (by omega)]
        · unfold eS tI
          rw [j2 _ (shp_some sh3) (by omega)]
        · have := j3 c (i + 1) (Nat.le_refl _) ⟨by omega, Or.inr (by omega)⟩
          rw [show q - c = k + 1 by omega] at this
          exact this
      · have hk' : q - c' ≠ k := by omega
        exact (i3 (q - c') b (by omega) hk').trans (j3 c' b (by omega) hob)
  refine v_lv9 hX (q := q) (by omega) (fun s1 j1 j2 j3 y hy => ?_) 26 N.1 0 s (aT_r L s) (fun _ _ _ => rfl) (fun b' h => absurd h (Nat.not_lt_zero _)) (by omega) (by omega)
  rw [hy]
  refine key q N.1 0 s1 (by omega) (by omega) j1 j2 (fun c' b h hob => ?_)
  have : c' = 0 := by omega
  subst this
  exact j3 b hob.1
end LV
