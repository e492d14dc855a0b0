set_option maxRecDepth 100000
/-! ===== few ===== -/
def fwS (v : Int32) (i : Nat) (f : Nat → Int64) : Nat → Int64 := vp_updL (vp_updL f (i + 1) (f (i + 1) + f i * v.toInt64 / 10)) i (vp_updL f (i + 1) (f (i + 1) + f i * v.toInt64 / 10) i * (10 - v).toInt64 / 10)
def fwI (v : Int32) : Nat → (Nat → Int64) → Nat → Int64
  | 0, f => f
  | c + 1, f => fwI v c (fwS v c f)
def fwO (v : Int32) (a : Nat) : Nat → (Nat → Int64) → Nat → Int64
  | 0, f => f
  | c + 1, f => fwO v a c (fwI v a f)
def fwT (f : Nat → Int64) : Nat → Nat → Int64 → Int64
  | 0, _, x => x
  | c + 1, i, x => fwT f c (i + 1) (x + f i)
def fw0 (j : Nat) : Int64 := if j = 0 then 1000000000000 else 0
theorem updL_o (f : Nat → Int64) {k j : Nat} (v : Int64) (h : j ≠ k) : vp_updL f k v j = f j := if_neg h
theorem updL_s (f : Nat → Int64) (k : Nat) (v : Int64) : vp_updL f k v k = v := if_pos rfl
theorem fw_dn (c : Nat) : nI (c + 1) - 1 = nI c := nI_pred c
theorem fw_m1 (c : Nat) : nI c + (-1) = nI c - 1 := by
  rw [Int32.sub_eq_add_neg]
theorem neg_1 : nI 0 - 1 < 0 := by decide
/-! the reference -/
def lA (m : mS) (f : Nat → Int64) : mS := (m.1, m.2.1, fun q => if q = 40 then f else m.2.2 q)
theorem lA_t (m : mS) (f : Nat → Int64) {i : Nat} (hi : i < 2 ^ 31) : mLt (lA m f) 40 (nI i) = f i := by
  show (if 40 = 40 then f else m.2.2 40) (nI i).toNatClampNeg = f i
  rw [if_pos rfl, nI_clamp hi]
theorem lA_l (m : mS) (f : Nat → Int64) {i : Nat} (hi : i < 2 ^ 31) (v : Int64) : mL (lA m f) 40 (nI i) v = lA m (vp_updL f i v) := by
  have h : (mL (lA m f) 40 (nI i) v).2.2 = (lA m (vp_updL f i v)).2.2 := funext fun q => by
    show (if q = 40 then vp_updL (if 40 = 40 then f else m.2.2 40) (nI i).toNatClampNeg v else (if q = 40 then f else m.2.2 q)) = if q = 40 then vp_updL f i v else m.2.2 q
    by_cases e : q = 40
    · rw [if_pos e, if_pos e, if_pos rfl, nI_clamp hi]
    · rw [if_neg e, if_neg e, if_neg e]
  exact Prod.ext rfl (Prod.ext rfl h)
theorem lA_0 (m : mS) : m = lA m (m.2.2 40) := by
  have h : m.2.2 = (lA m (m.2.2 40)).2.2 := funext fun q => by
    show m.2.2 q = if q = 40 then m.2.2 40 else m.2.2 q
    by_cases e : q = 40
    · rw [if_pos e, e]
    · rw [if_neg e]
  exact Prod.ext rfl (Prod.ext rfl h)
section FW
variable {N : Nat × Nat} {m : mS} {v : Int32} {x1 x2 x3 : Int32} {Kr : Int64 → mS → Prop}
theorem w_few26 {K : mS → Prop} (hK : ∀ f, (∀ i, i < 21 → f i = fw0 i) → K (lA m f)) : ∀ (c t i : Nat) (f : Nat → Int64), (∀ j, j < i → f j = fw0 j) → i + c = 21 → c < t → w_few_26 N x1 x2 Kr K t (nI i) (lA m f)
  | _, 0, _, _, _, _, h => absurd h (Nat.not_lt_zero _)
  | 0, t + 1, i, f, hf, hi, _ => by
    unfold w_few_26
    refine ⟨fun _ => hK f (fun j hj => hf j (by omega)), fun z => absurd ?_ z⟩
    rw [i32_lt, nI_toInt (by omega), show (20 : Int32).toInt = 20 by decide]
    omega
  | c + 1, t + 1, i, f, hf, hi, ht => by
    unfold w_few_26
    have h0 : nI i = 0 ↔ i = 0 := by
      rw [show (0 : Int32) = nI 0 from rfl, nI_eq (by omega) (by omega)]
    have go : ∀ w, w = fw0 i → w_few_26 N x1 x2 Kr K t (nI (i + 1)) (lA m (vp_updL f i w)) := fun w hw => w_few26 hK c t (i + 1) _ (fun j hj => by
      by_cases e : j = i
      · rw [e, updL_s, hw]
      · rw [updL_o _ _ e]
        exact hf j (by omega)) (by omega) (by omega)
    refine ⟨fun z => ?_, fun _ => ⟨fun ni => ⟨vpk (by omega) (by decide), fun s4 e4 y hy => ?_⟩, fun yi => ⟨vpk (by omega) (by decide), fun s4 e4 y hy => ?_⟩⟩⟩
    · rw [i32_lt, nI_toInt (by omega), show (20 : Int32).toInt = 20 by decide] at z
      omega
    · rw [nI_1] at hy
      rw [hy, e4, lA_l _ _ (by omega)]
      exact go 0 (if_neg (fun z => ni (h0.mpr z))).symm
    · rw [nI_1] at hy
      rw [hy, e4, lA_l _ _ (by omega)]
      exact go _ (if_pos (h0.mp yi)).symm
theorem w_few67 (h37 : m.2.1 2 37 = v) {K : mS → Prop} : ∀ (c t : Nat) (f : Nat → Int64), c ≤ 20 → c < t → K (lA m (fwI v c f)) → w_few_67 N x1 x2 x3 Kr K t (nI c - 1) (lA m f)
  | _, 0, _, _, h, _ => absurd h (Nat.not_lt_zero _)
  | 0, t + 1, f, _, _, hK => by
    unfold w_few_67
    exact ⟨fun _ => hK, fun z => absurd neg_1 z⟩
  | c + 1, t + 1, f, hc, ht, hK => by
    unfold w_few_67
    rw [fw_dn]
    have a37 : ∀ g, mAt (lA m g) 2 37 = v := fun g => (mAt_n (k := 37) (by decide)).trans h37
    refine ⟨fun z => ?_, fun _ y hy => ?_⟩
    · rw [i32_lt, nI_toInt (by omega), show (0 : Int32).toInt = 0 by decide] at z
      omega
    rw [nI_1] at hy
    subst hy
    refine ⟨vpk (by omega) (by decide), vpk (by omega) (by decide), vpk (k := 37) (by decide) (by decide), fun p hp => ⟨vpk (by omega) (by decide), fun s8 e8 => ⟨vpk (by omega) (by decide), vpk (k := 37) (by decide) (by decide), fun p2 hp2 => ⟨vpk (by omega) (by decide), fun s13 e13 y hy => ?_⟩⟩⟩⟩
    rw [lA_t _ _ (by omega), a37] at hp
    rw [lA_t _ _ (by omega), lA_l _ _ (by omega)] at e8
    rw [e8, lA_t _ _ (by omega), a37] at hp2
    rw [e8, lA_l _ _ (by omega)] at e13
    rw [fw_m1] at hy
    rw [hy, e13, hp2, hp]
    exact w_few67 h37 c t _ (by omega) (by omega) hK
theorem w_few57 (h37 : m.2.1 2 37 = v) {a b : Nat} (ha : a ≤ 20) (hN : 100 ≤ N.1) (hb : b ≤ 99) {K : mS → Prop} : ∀ (c t i : Nat) (f : Nat → Int64), i + c = b → c < t → K (lA m (fwO v a c f)) → w_few_57 N (nI a) (nI b) Kr K t (nI i) (lA m f)
  | _, 0, _, _, _, h, _ => absurd h (Nat.not_lt_zero _)
  | 0, t + 1, i, f, hi, _, hK => by
    unfold w_few_57
    refine ⟨fun _ => hK, fun z => absurd ?_ z⟩
    rw [nI_lle (by omega) (by omega)]
    omega
  | c + 1, t + 1, i, f, hi, ht, hK => by
    unfold w_few_57
    refine ⟨fun z => ?_, fun _ y hy => ?_⟩
    · rw [nI_lle (by omega) (by omega)] at z
      omega
    subst hy
    refine w_few67 h37 a N.1 f ha (by omega) (fun y hy => ?_)
    rw [nI_1] at hy
    rw [hy]
    exact w_few57 h37 ha hN hb c t (i + 1) _ (by omega) (by omega) hK
theorem w_few151 {a : Nat} (ha : a ≤ 20) {f : Nat → Int64} {K : Int64 → mS → Prop} : ∀ (c t i : Nat) (x : Int64), i + c = a → c < t → K (fwT f c i x) (lA m f) → w_few_151 N (nI a) Kr K t x (nI i) (lA m f)
  | _, 0, _, _, _, h, _ => absurd h (Nat.not_lt_zero _)
  | 0, t + 1, i, x, hi, _, hK => by
    unfold w_few_151
    refine ⟨fun _ => hK, fun z => absurd ?_ z⟩
    rw [nI_lle (by omega) (by omega)]
    omega
  | c + 1, t + 1, i, x, hi, ht, hK => by
    unfold w_few_151
    refine ⟨fun z => ?_, fun _ => ⟨vpk (by omega) (by decide), fun y hy z hz => ?_⟩⟩
    · rw [nI_lle (by omega) (by omega)] at z
      omega
    rw [lA_t _ _ (by omega)] at hy
    rw [nI_1] at hz
    rw [hz, hy]
    exact w_few151 ha c t (i + 1) _ (by omega) (by omega) hK
end FW
/-! what the loops read of the row: its first places alone -/
theorem fwS_e {v : Int32} {i n : Nat} (hi : i + 1 < n) {f g : Nat → Int64} (h : ∀ j, j < n → f j = g j) : ∀ j, j < n → fwS v i f j = fwS v i g j := fun j hj => by
  unfold fwS
  have h1 : ∀ j, j < n → vp_updL f (i + 1) (f (i + 1) + f i * v.toInt64 / 10) j = vp_updL g (i + 1) (g (i + 1) + g i * v.toInt64 / 10) j := fun j hj => by
    by_cases e : j = i + 1
    · rw [e, updL_s, updL_s, h _ hi, h i (by omega)]
    · rw [updL_o _ _ e, updL_o _ _ e, h j hj]
  by_cases e : j = i
  · rw [e, updL_s, updL_s, h1 i (by omega)]
  · rw [updL_o _ _ e, updL_o _ _ e, h1 j hj]
theorem fwI_e {v : Int32} {n : Nat} : ∀ c {f g : Nat → Int64}, c < n → (∀ j, j < n → f j = g j) → ∀ j, j < n → fwI v c f j = fwI v c g j
  | 0, _, _, _, h => h
  | c + 1, _, _, hc, h => fwI_e c (by omega) (fwS_e (by omega) h)
theorem fwO_e {v : Int32} {n a : Nat} (ha : a < n) : ∀ c {f g : Nat → Int64}, (∀ j, j < n → f j = g j) → ∀ j, j < n → fwO v a c f j = fwO v a c g j
  | 0, _, _, h => h
  | c + 1, _, _, h => fwO_e ha c (fwI_e a ha h)
theorem fwT_e {n : Nat} {f g : Nat → Int64} (h : ∀ j, j < n → f j = g j) : ∀ c i x, i + c ≤ n → fwT f c i x = fwT g c i x
  | 0, _, _, _ => rfl
  | c + 1, i, x, hc => by
    show fwT f c (i + 1) (x + f i) = fwT g c (i + 1) (x + g i)
    rw [h i (by omega)]
    exact fwT_e h c (i + 1) _ (by omega)
