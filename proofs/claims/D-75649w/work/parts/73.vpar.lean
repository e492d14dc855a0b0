set_option maxRecDepth 100000
/-! ===== parallels ===== -/
def ivF (kp : Nat → Int32) (n : Nat) : Int32 := let d := (if 0 ≤ kp n - kp (12 + n) then kp n - kp (12 + n) else 0 - (kp n - kp (12 + n))); d - d / 12 * 12
def parB (kp : Nat → Int32) (a : Int32) (n : Nat) : Bool := decide (ivF kp n = a) && (decide (ivF kp (n - 1) = a) && !decide (kp n - kp (n - 1) = 0))
def parF (kp : Nat → Int32) (a : Int32) : Nat → Int32
  | 0 => 0
  | i + 1 => parF kp a i ||| (if parB kp a (i + 1) = true then 1 <<< (nI (i + 1) &&& 31) else 0)
section PA2
variable {N : tP} {s : tM} {L : Nat → Nat} {M O : Nat → Prop} {m : mS}
theorem v_apartS (hX : RX N s L M O m) {n : Nat} (hn : n < 12) {K : Int32 → tM → Prop} (hK : K (m.2.1 2 n - m.2.1 2 (12 + n)) s) : v_X0_apart (L 0) (nI n) s K := by
  have hS := hX.S
  have o0 := hS.o (r := 0) rfl
  have o44 := hS.o (r := 44) rfl
  have b44 := hS.2.2.1.2.1 44 (Or.inr (Or.inr (Or.inr (Or.inl rfl))))
  have th : tR s (L 44) 1 = L 444 := b44.2
  have tu : tR s (L 44) 0 = L 244 := b44.1
  unfold v_X0_apart
  refine ⟨o0, v_booksS hS ?_⟩
  rw [th, nI_clamp (by omega), hX.h hn]
  refine ⟨o44, ⟨12, hS.a (r := 444) rfl, vpk hn (by decide)⟩, o0, v_booksS hS ?_⟩
  rw [tu, hX.u hn]
  exact ⟨o44, ⟨12, hS.a (r := 244) rfl, vpk hn (by decide)⟩, hK⟩
theorem v_leapS (hX : RX N s L M O m) {k : Nat} (hn : k + 1 < 12) {K : Int32 → tM → Prop} (hK : K (m.2.1 2 (k + 1) - m.2.1 2 k) s) : v_X0_leap (L 0) (nI (k + 1)) s K := by
  have hS := hX.S
  have o0 := hS.o (r := 0) rfl
  have o44 := hS.o (r := 44) rfl
  have b44 := hS.2.2.1.2.1 44 (Or.inr (Or.inr (Or.inr (Or.inl rfl))))
  have th : tR s (L 44) 1 = L 444 := b44.2
  have h0 : ¬ nI (k + 1) = 0 := by
    rw [show (0 : Int32) = nI 0 from rfl, nI_eq (by omega) (by omega)]
    omega
  have ep : nI (k + 1) - 1 = nI k := nI_pred k
  unfold v_X0_leap
  refine ⟨fun _ => ⟨o0, v_booksS hS ?_⟩, fun z => absurd z h0⟩
  rw [th, nI_clamp (by omega), hX.h hn, ep]
  refine ⟨o44, ⟨12, hS.a (r := 444) rfl, vpk hn (by decide)⟩, o0, v_booksS hS ?_⟩
  rw [th, nI_clamp (by omega), hX.h (n := k) (by omega)]
  exact ⟨o44, ⟨12, hS.a (r := 444) rfl, vpk (by omega) (by decide)⟩, hK⟩
theorem v_parL (hX : RX N s L M O m) {q : Nat} (hq : q ≤ 12) (hqv : m.2.1 2 41 = nI q) {a : Int32} {Kr K : Int32 → tM → Prop} (hK : K (parF (m.2.1 2) a (q - 1)) s) : ∀ (c t i : Nat), i + c = q - 1 → c < t → v_X0_parallels_18 N (L 0) a Kr K t (parF (m.2.1 2) a i) (nI (i + 1)) s
  | _, 0, _, _, h => absurd h (Nat.not_lt_zero _)
  | 0, t + 1, i, hi, _ => by
    have hS := hX.S
    unfold v_X0_parallels_18
    refine ⟨hS.o (r := 0) rfl, v_nNotesS hS ?_⟩
    rw [show tI s (L 40) 4 = nI q from hX.many.trans hqv, nI_lle (by omega) (by omega)]
    have : i = q - 1 := by omega
    subst this
    exact ⟨fun _ => hK, fun z => absurd (by omega) z⟩
  | c + 1, t + 1, i, hi, ht => by
    have hS := hX.S
    have next := v_parL hX hq hqv hK (Kr := Kr) c t (i + 1) (by omega) (by omega)
    have e : parF (m.2.1 2) a (i + 1) = parF (m.2.1 2) a i ||| (if parB (m.2.1 2) a (i + 1) = true then 1 <<< (nI (i + 1) &&& 31) else 0) := rfl
    rw [e] at next
    have ep : nI (i + 1) - 1 = nI i := nI_pred i
    unfold v_X0_parallels_18
    refine ⟨hS.o (r := 0) rfl, v_nNotesS hS ?_⟩
    rw [show tI s (L 40) 4 = nI q from hX.many.trans hqv, nI_lle (by omega) (by omega), ep]
    refine ⟨fun z => by omega, fun _ => ⟨hS.o (r := 0) rfl, v_apartS hX (by omega) (fun y hy => ?_)⟩⟩
    have ey : y - y / 12 * 12 = ivF (m.2.1 2) (i + 1) := by rw [hy]; rfl
    rw [ey]
    have no : parB (m.2.1 2) a (i + 1) = false → ∀ y, y = parF (m.2.1 2) a i ||| 0 → ∀ z, z = nI (i + 1) + 1 → v_X0_parallels_18 N (L 0) a Kr K t y z s := fun hb y hy z hz => by
      rw [hb, if_neg (by decide)] at next
      rw [nI_1] at hz
      rw [hy, hz]
      exact next
    refine ⟨fun ne => no (by unfold parB; rw [decide_eq_false ne, Bool.false_and]), fun eq => ⟨hS.o (r := 0) rfl, v_apartS hX (by omega) (fun y2 hy2 => ?_)⟩⟩
    have ey2 : y2 - y2 / 12 * 12 = ivF (m.2.1 2) i := by rw [hy2]; rfl
    rw [ey2]
    have ei : parB (m.2.1 2) a (i + 1) = (decide (ivF (m.2.1 2) (i + 1) = a) && (decide (ivF (m.2.1 2) i = a) && !decide (m.2.1 2 (i + 1) - m.2.1 2 i = 0))) := rfl
    refine ⟨fun ne => no (by rw [ei, decide_eq_false ne, Bool.false_and, Bool.and_false]), fun eq2 => ⟨hS.o (r := 0) rfl, v_leapS hX (by omega) ⟨fun z => no (by rw [ei, decide_eq_true z, Bool.not_true, Bool.and_false, Bool.and_false]), fun nz y hy z hz => ?_⟩⟩⟩
    have hb : parB (m.2.1 2) a (i + 1) = true := by
      rw [ei, decide_eq_true eq, decide_eq_true eq2, decide_eq_false nz]
      rfl
    rw [if_pos hb] at next
    rw [nI_1] at hz
    rw [hy, hz]
    exact next
end PA2
