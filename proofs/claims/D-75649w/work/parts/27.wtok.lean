set_option maxRecDepth 100000
/-! ===== the tape cut into tokens: the middle's functions, and the reference's ===== -/
def isLt (b : Int32) : Bool := decide (97 ≤ b) && decide (b ≤ 122)
def isDg (b : Int32) : Bool := decide (48 ≤ b) && decide (b ≤ 57)
def skW (tp : Nat → Int32) (n : Nat) : Nat → Nat → Nat
  | 0, k => k
  | f + 1, k => if k < n ∧ tp k = 32 then skW tp n f (k + 1) else k
def runW (p : Int32 → Bool) (tp : Nat → Int32) (n : Nat) : Nat → Nat → Nat
  | 0, k => k
  | f + 1, k => if k < n ∧ p (tp k) = true then runW p tp n f (k + 1) else k
/-- the first place that is no space, from k on -/
def sk (tp : Nat → Int32) (n k : Nat) : Nat := skW tp n 401 k
/-- the end of the token that begins at k -/
def en (tp : Nat → Int32) (n k : Nat) : Nat := if isLt (tp k) = true then runW isLt tp n 401 (k + 1) else if isDg (tp k) = true then runW isDg tp n 401 (k + 1) else k + 1
def tokP (tp : Nat → Int32) (n : Nat) : Nat → Nat
  | 0 => sk tp n 0
  | i + 1 => if tokP tp n i < n then sk tp n (en tp n (tokP tp n i)) else tokP tp n i
def tokW (tp : Nat → Int32) (n : Nat) : Nat → Nat → Nat
  | 0, i => i
  | f + 1, i => if tokP tp n i < n then tokW tp n f (i + 1) else i
/-- how many tokens there are -/
def tokT (tp : Nat → Int32) (n : Nat) : Nat := tokW tp n 401 0
def eqL (tp : Nat → Int32) : List Int32 → Nat → Bool
  | [], _ => true
  | c :: cs, k => decide (c = tp k) && eqL tp cs (k + 1)
def findW (tp : Nat → Int32) (k to : Nat) : Nat → List (List Int32) → Nat
  | _, [] => 0
  | w, c :: cs => if c.length = to - k ∧ eqL tp c k = true then w else findW tp k to (w + 1) cs
def wrdL : List (List Int32) := [[99, 111, 115, 116, 115], [101, 97, 114, 110, 115], [98, 97, 114, 115], [105, 102], [111, 114], [97, 110, 100], [110, 111, 116], [112, 108, 97, 99, 101], [97, 112, 97, 114, 116], [97, 104, 101, 97, 100], [108, 101, 97, 112], [109, 111, 118, 101, 115], [108, 97, 115, 116], [109, 111, 111, 100], [104, 101, 114, 101], [117, 110, 100, 101, 114], [100, 97, 121], [100, 111, 110, 101], [108, 97, 116, 101, 115, 116], [98, 97, 114, 114, 101, 100], [97, 108, 108], [115, 101, 116], [115, 104, 105, 102, 116], [115, 119, 97, 112], [112, 97, 115, 115], [116, 111], [116, 105, 109, 101, 115]]
def flatW : List (List Int32) → List Int32
  | [] => []
  | c :: cs => c ++ 32 :: flatW cs
def wordOf (tp : Nat → Int32) (k to : Nat) : Nat := findW tp k to 1 wrdL
def valW (tp : Nat → Int32) (to : Nat) : Nat → Nat → Int32 → Int32
  | 0, _, v => v
  | f + 1, k, v => if k < to then valW tp to f (k + 1) (if v ≤ 1000000 then ((10 * v) + tp k) - 48 else v) else v
def cdT (tp : Nat → Int32) (n i : Nat) : Int32 := if tokP tp n i < n then (if isLt (tp (tokP tp n i)) = true then nI (wordOf tp (tokP tp n i) (en tp n (tokP tp n i))) else if isDg (tp (tokP tp n i)) = true then 50 else 100 + (tp (tokP tp n i) &&& 255)) else 0
def vlT (tp : Nat → Int32) (n i : Nat) : Int32 := if tokP tp n i < n ∧ isDg (tp (tokP tp n i)) = true then valW tp (en tp n (tokP tp n i)) 401 (tokP tp n i) 0 else 0
def plT (tp : Nat → Int32) (n i : Nat) : Int32 := nI (tokP tp n i)
section TOK
variable {tp : Nat → Int32} {n : Nat}
theorem skW_le : ∀ f k, k ≤ n → k ≤ skW tp n f k ∧ skW tp n f k ≤ n := by
  intro f
  induction f with
  | zero => exact fun k h => ⟨Nat.le_refl _, h⟩
  | succ f ih =>
    intro k h
    show k ≤ (if k < n ∧ tp k = 32 then skW tp n f (k + 1) else k) ∧ (if k < n ∧ tp k = 32 then skW tp n f (k + 1) else k) ≤ n
    by_cases hc : k < n ∧ tp k = 32
    · rw [if_pos hc]
      have := ih (k + 1) hc.1
      exact ⟨by omega, this.2⟩
    · rw [if_neg hc]
      exact ⟨Nat.le_refl _, h⟩
theorem runW_le {p : Int32 → Bool} : ∀ f k, k ≤ n → k ≤ runW p tp n f k ∧ runW p tp n f k ≤ n := by
  intro f
  induction f with
  | zero => exact fun k h => ⟨Nat.le_refl _, h⟩
  | succ f ih =>
    intro k h
    show k ≤ (if k < n ∧ p (tp k) = true then runW p tp n f (k + 1) else k) ∧ (if k < n ∧ p (tp k) = true then runW p tp n f (k + 1) else k) ≤ n
    by_cases hc : k < n ∧ p (tp k) = true
    · rw [if_pos hc]
      have := ih (k + 1) hc.1
      exact ⟨by omega, this.2⟩
    · rw [if_neg hc]
      exact ⟨Nat.le_refl _, h⟩
theorem skW_f : ∀ f g k, n ≤ k + f → n ≤ k + g → skW tp n f k = skW tp n g k := by
  intro f
  induction f with
  | zero =>
    intro g k hf hg
    cases g with
    | zero => rfl
    | succ g =>
      show k = if k < n ∧ tp k = 32 then _ else k
      rw [if_neg (fun z => by omega)]
  | succ f ih =>
    intro g k hf hg
    cases g with
    | zero =>
      show (if k < n ∧ tp k = 32 then _ else k) = k
      rw [if_neg (fun z => by omega)]
    | succ g =>
      show (if k < n ∧ tp k = 32 then skW tp n f (k + 1) else k) = if k < n ∧ tp k = 32 then skW tp n g (k + 1) else k
      rw [ih g (k + 1) (by omega) (by omega)]
theorem sk_le {k : Nat} (h : k ≤ n) : k ≤ sk tp n k ∧ sk tp n k ≤ n := skW_le 401 k h
theorem sk_sp {k : Nat} (hn : n ≤ 400) (h : k < n) (h2 : tp k = 32) : sk tp n k = sk tp n (k + 1) := by
  show (if k < n ∧ tp k = 32 then skW tp n 400 (k + 1) else k) = skW tp n 401 (k + 1)
  rw [if_pos ⟨h, h2⟩]
  exact skW_f 400 401 (k + 1) (by omega) (by omega)
theorem sk_no {k : Nat} (h : ¬ (k < n ∧ tp k = 32)) : sk tp n k = k := by
  show (if k < n ∧ tp k = 32 then skW tp n 400 (k + 1) else k) = k
  rw [if_neg h]
theorem en_le {k : Nat} (h : k < n) : k < en tp n k ∧ en tp n k ≤ n := by
  unfold en
  split
  · have := runW_le (tp := tp) (p := isLt) 401 (k + 1) h
    exact ⟨by omega, this.2⟩
  · split
    · have := runW_le (tp := tp) (p := isDg) 401 (k + 1) h
      exact ⟨by omega, this.2⟩
    · exact ⟨by omega, h⟩
theorem tokP_s {i : Nat} : tokP tp n (i + 1) = if tokP tp n i < n then sk tp n (en tp n (tokP tp n i)) else tokP tp n i := rfl
theorem tokP_le : ∀ i, tokP tp n i ≤ n := by
  intro i
  induction i with
  | zero => exact (sk_le (Nat.zero_le n)).2
  | succ i ih =>
    rw [tokP_s]
    split
    · next h => exact (sk_le (en_le h).2).2
    · exact ih
theorem tokP_gt {i : Nat} (h : tokP tp n i < n) : tokP tp n i < tokP tp n (i + 1) := by
  rw [tokP_s, if_pos h]
  have h1 := en_le (tp := tp) h
  have h2 := sk_le (tp := tp) h1.2
  omega
theorem tokP_ge : ∀ i, tokP tp n i < n → i ≤ tokP tp n i := by
  intro i
  induction i with
  | zero => exact fun _ => Nat.zero_le _
  | succ i ih =>
    intro h
    by_cases h2 : tokP tp n i < n
    · have := ih h2
      have := tokP_gt h2
      omega
    · rw [tokP_s, if_neg h2] at h
      exact absurd h h2
theorem tokP_mono {i : Nat} (h : ¬ tokP tp n i < n) : ∀ j, i ≤ j → tokP tp n j = tokP tp n i := by
  intro j
  induction j with
  | zero =>
    intro hj
    rw [show i = 0 by omega]
  | succ j ih =>
    intro hj
    by_cases e : i = j + 1
    · rw [e]
    · have h2 := ih (by omega)
      rw [tokP_s, h2, if_neg h]
theorem tokW_spec : ∀ f i, n + 1 ≤ i + f → (∀ j, j < i → tokP tp n j < n) → ∀ j, j < tokW tp n f i ↔ tokP tp n j < n := by
  intro f
  induction f with
  | zero =>
    intro i hf h j
    have hn : ¬ tokP tp n n < n := fun z => by
      have := tokP_ge n z
      omega
    exact absurd (h n (by omega)) hn
  | succ f ih =>
    intro i hf h j
    show j < (if tokP tp n i < n then tokW tp n f (i + 1) else i) ↔ _
    by_cases hc : tokP tp n i < n
    · rw [if_pos hc]
      refine ih (i + 1) (by omega) (fun j hj => ?_) j
      by_cases e : j = i
      · rw [e]
        exact hc
      · exact h j (by omega)
    · rw [if_neg hc]
      refine ⟨h j, fun hj => Nat.lt_of_not_le fun z => hc ?_⟩
      rw [← tokP_mono hc j z]
      exact hj
theorem tokT_iff (hn : n ≤ 400) (j : Nat) : j < tokT tp n ↔ tokP tp n j < n := tokW_spec 401 0 (by omega) (fun j hj => by omega) j
theorem tokT_le (hn : n ≤ 400) : tokT tp n ≤ 400 := by
  refine Nat.le_of_not_lt fun z => ?_
  have h1 := (tokT_iff hn 400).mp z
  have := tokP_ge 400 h1
  omega
theorem tokP_T (hn : n ≤ 400) : tokP tp n (tokT tp n) = n := by
  have h1 : ¬ tokP tp n (tokT tp n) < n := fun z => Nat.lt_irrefl _ ((tokT_iff hn _).mpr z)
  have := tokP_le (tp := tp) (n := n) (tokT tp n)
  omega
theorem cdT_z (hn : n ≤ 400) (k : Nat) (h : tokT tp n ≤ k) : cdT tp n k = 0 := by
  unfold cdT
  rw [if_neg]
  intro z
  have := (tokT_iff hn k).mpr z
  omega
theorem plT_m1 (hn : n ≤ 400) (k : Nat) : ¬ plT tp n k = -1 := by
  unfold plT
  have := tokP_le (tp := tp) (n := n) k
  intro z
  have e := congrArg Int32.toInt z
  rw [nI_toInt (by omega)] at e
  have e1 : (-1 : Int32).toInt = -1 := by decide
  rw [e1] at e
  omega
end TOK
theorem i32_lt {a b : Int32} : a < b ↔ a.toInt < b.toInt := Int32.lt_iff_toInt_lt
theorem i32_le {a b : Int32} : a ≤ b ↔ a.toInt ≤ b.toInt := Int32.le_iff_toInt_le
theorem wsmall {b : Int32} {K : Int32 → Prop} (h : K (bI (isLt b))) : w_isSmall b K := by
  unfold w_isSmall
  refine ⟨fun c => ?_, fun c => ⟨fun c2 => ?_, fun c2 => ?_⟩⟩
  · have : isLt b = false := by
      simp only [isLt, Bool.and_eq_false_iff, decide_eq_false_iff_not]
      exact Or.inl (by rw [i32_lt] at c; rw [i32_le]; omega)
    rw [this] at h
    exact h
  · have : isLt b = false := by
      simp only [isLt, Bool.and_eq_false_iff, decide_eq_false_iff_not]
      exact Or.inr (by rw [i32_lt] at c2; rw [i32_le]; omega)
    rw [this] at h
    exact h
  · have : isLt b = true := by
      simp only [isLt, Bool.and_eq_true, decide_eq_true_eq]
      rw [i32_lt] at c c2
      rw [i32_le, i32_le]
      exact ⟨by omega, by omega⟩
    rw [this] at h
    exact h
theorem wdigit {b : Int32} {K : Int32 → Prop} (h : K (bI (isDg b))) : w_isDigit b K := by
  unfold w_isDigit
  refine ⟨fun c => ?_, fun c => ⟨fun c2 => ?_, fun c2 => ?_⟩⟩
  · have : isDg b = false := by
      simp only [isDg, Bool.and_eq_false_iff, decide_eq_false_iff_not]
      exact Or.inl (by rw [i32_lt] at c; rw [i32_le]; omega)
    rw [this] at h
    exact h
  · have : isDg b = false := by
      simp only [isDg, Bool.and_eq_false_iff, decide_eq_false_iff_not]
      exact Or.inr (by rw [i32_lt] at c2; rw [i32_le]; omega)
    rw [this] at h
    exact h
  · have : isDg b = true := by
      simp only [isDg, Bool.and_eq_true, decide_eq_true_eq]
      rw [i32_lt] at c c2
      rw [i32_le, i32_le]
      exact ⟨by omega, by omega⟩
    rw [this] at h
    exact h
theorem bI_t : bI true = 1 := rfl
theorem bI_f : bI false = 0 := rfl
theorem lt_dg {b : Int32} (h : isLt b = true) : isDg b = false := by
  simp only [isLt, Bool.and_eq_true, decide_eq_true_eq] at h
  simp only [isDg, Bool.and_eq_false_iff, decide_eq_false_iff_not]
  right
  have h1 := i32_le.mp h.1
  have e1 : (97 : Int32).toInt = 97 := by decide
  rw [e1] at h1
  rw [i32_le]
  have e2 : (57 : Int32).toInt = 57 := by decide
  rw [e2]
  omega
section WTOK
variable {N : Nat × Nat} {tp : Nat → Int32} {n : Nat} {s : mS}
theorem mAt_n {s : mS} {j k : Nat} (h : k < 2 ^ 31) : mAt s j (nI k) = s.2.1 j k := by
  show s.2.1 j (nI k).toNatClampNeg = _
  rw [nI_clamp h]
theorem w43 (htp : ∀ k, k < 400 → s.2.1 11 k = tp k) (hn : n ≤ 400) {x2 x3 : Int32} {Kr : mS → Prop} {K : Int32 → mS → Prop} : ∀ f t k, k ≤ n → n < k + f → f ≤ t → K (nI (runW isLt tp n f k)) s → w_splits_43 N (nI n) x2 x3 Kr K t (nI k) s := by
  intro f
  induction f with
  | zero =>
    intro t k hk hf
    omega
  | succ f ih =>
    intro t k hk hf ht h
    obtain ⟨t, rfl⟩ : ∃ u, t = u + 1 := ⟨t - 1, by omega⟩
    have e1 : runW isLt tp n (f + 1) k = if k < n ∧ isLt (tp k) = true then runW isLt tp n f (k + 1) else k := rfl
    rw [e1] at h
    simp only [w_splits_43]
    rw [nI_leI (by omega) (by omega)]
    refine ⟨fun c => ?_, fun c => ⟨vp_in_nI (by omega) (by decide), ?_⟩⟩
    · rw [if_neg (fun z => by omega)] at h
      exact h
    · rw [mAt_n (by omega), htp k (by omega)]
      refine wsmall ?_
      cases hb : isLt (tp k) with
      | true =>
        rw [if_pos ⟨by omega, hb⟩] at h
        refine ⟨fun z => absurd z (by decide), fun _ x hx => ?_⟩
        rw [nI_1] at hx
        subst hx
        exact ih t (k + 1) (by omega) (by omega) (by omega) h
      | false =>
        rw [if_neg (fun z => by rw [hb] at z; exact absurd z.2 (by decide))] at h
        exact ⟨fun _ => h, fun z => absurd rfl z⟩
theorem w75 (htp : ∀ k, k < 400 → s.2.1 11 k = tp k) (hn : n ≤ 400) {x2 x3 : Int32} {Kr : mS → Prop} {K : Int32 → mS → Prop} : ∀ f t k, k ≤ n → n < k + f → f ≤ t → K (nI (runW isDg tp n f k)) s → w_splits_75 N (nI n) x2 x3 Kr K t (nI k) s := by
  intro f
  induction f with
  | zero =>
    intro t k hk hf
    omega
  | succ f ih =>
    intro t k hk hf ht h
    obtain ⟨t, rfl⟩ : ∃ u, t = u + 1 := ⟨t - 1, by omega⟩
    have e1 : runW isDg tp n (f + 1) k = if k < n ∧ isDg (tp k) = true then runW isDg tp n f (k + 1) else k := rfl
    rw [e1] at h
    simp only [w_splits_75]
    rw [nI_leI (by omega) (by omega)]
    refine ⟨fun c => ?_, fun c => ⟨vp_in_nI (by omega) (by decide), ?_⟩⟩
    · rw [if_neg (fun z => by omega)] at h
      exact h
    · rw [mAt_n (by omega), htp k (by omega)]
      refine wdigit ?_
      cases hb : isDg (tp k) with
      | true =>
        rw [if_pos ⟨by omega, hb⟩] at h
        refine ⟨fun z => absurd z (by decide), fun _ x hx => ?_⟩
        rw [nI_1] at hx
        subst hx
        exact ih t (k + 1) (by omega) (by omega) (by omega) h
      | false =>
        rw [if_neg (fun z => by rw [hb] at z; exact absurd z.2 (by decide))] at h
        exact ⟨fun _ => h, fun z => absurd rfl z⟩
/-- a word of the row told apart from the tape's -/
theorem w57 (htp : ∀ k, k < 400 → s.2.1 11 k = tp k) {k o m : Nat} {x2 x3 : Int32} {Kr K : Int32 → mS → Prop} (ho : o + m ≤ 137) (hk : k + m ≤ 400) : ∀ (wd : List Int32) (t i : Nat), i + wd.length = m → (∀ j (hj : j < wd.length), s.2.1 7 (o + i + j) = wd[j]) → wd.length + 2 ≤ t → K (bI (eqL tp wd (k + i))) s → w_wordOf_57 N (nI k) x2 x3 (nI o) (nI m) Kr K t 1 (nI i) s := by
  intro wd
  induction wd with
  | nil =>
    intro t i hi hw ht h
    obtain ⟨t, rfl⟩ : ∃ u, t = u + 1 := ⟨t - 1, by omega⟩
    simp only [w_wordOf_57]
    have hi' : i = m := by simpa using hi
    subst hi'
    exact ⟨fun _ => h, fun z => absurd (nI_le (Nat.le_refl i) (by omega)) z⟩
  | cons c wd ih =>
    intro t i hi hw ht h
    have hl : (c :: wd).length = wd.length + 1 := rfl
    rw [hl] at hi ht
    obtain ⟨t, rfl⟩ : ∃ u, t = u + 1 := ⟨t - 1, by omega⟩
    have e1 : eqL tp (c :: wd) (k + i) = (decide (c = tp (k + i)) && eqL tp wd (k + i + 1)) := rfl
    rw [e1] at h
    simp only [w_wordOf_57]
    rw [nI_leI (by omega) (by omega), nI_add, nI_add]
    refine ⟨fun z => by omega, fun _ => ⟨fun z => absurd z (by decide), fun _ => ⟨vp_in_nI (by omega) (by decide), vp_in_nI (by omega) (by decide), ?_⟩⟩⟩
    rw [mAt_n (by omega), mAt_n (by omega), htp (k + i) (by omega)]
    have hc := hw 0 (by rw [hl]; omega)
    have hc2 : s.2.1 7 (o + i) = c := hc
    rw [hc2]
    refine ⟨fun ne x hx => ?_, fun eq x hx => ?_⟩
    · rw [nI_1] at hx
      subst hx
      rw [decide_eq_false ne, Bool.false_and] at h
      obtain ⟨t, rfl⟩ : ∃ u, t = u + 1 := ⟨t - 1, by omega⟩
      simp only [w_wordOf_57]
      exact ⟨fun _ => h, fun _ => ⟨fun _ => h, fun z => absurd trivial z⟩⟩
    · rw [nI_1] at hx
      subst hx
      rw [decide_eq_true eq, Bool.true_and] at h
      refine ih t (i + 1) (by omega) (fun j hj => ?_) (by omega) ?_
      · have := hw (j + 1) (by rw [hl]; omega)
        rw [show o + (i + 1) + j = o + i + (j + 1) by omega]
        exact this
      · rw [show k + (i + 1) = k + i + 1 by omega]
        exact h
theorem w18 {o : Nat} {x1 x2 x3 : Int32} {Kr K : Int32 → mS → Prop} : ∀ (wd : List Int32) (t i : Nat), (∀ j (hj : j < wd.length), s.2.1 7 (o + i + j) = wd[j] ∧ ¬ wd[j] = 32) → s.2.1 7 (o + i + wd.length) = 32 → o + i + wd.length < 137 → wd.length + 1 ≤ t → K (nI (i + wd.length)) s → w_wordOf_18 N x1 x2 x3 (nI o) Kr K t (nI i) s := by
  intro wd
  induction wd with
  | nil =>
    intro t i hw h32 hb ht h
    obtain ⟨t, rfl⟩ : ∃ u, t = u + 1 := ⟨t - 1, by omega⟩
    simp only [w_wordOf_18]
    rw [nI_add]
    have h32' : s.2.1 7 (o + i) = 32 := h32
    have hb' : o + i < 137 := hb
    rw [mAt_n (by omega), h32']
    exact ⟨vp_in_nI hb' (by decide), fun _ => h, fun z => absurd rfl z⟩
  | cons c wd ih =>
    intro t i hw h32 hb ht h
    have hl : (c :: wd).length = wd.length + 1 := rfl
    rw [hl] at h32 hb ht h
    obtain ⟨t, rfl⟩ : ∃ u, t = u + 1 := ⟨t - 1, by omega⟩
    simp only [w_wordOf_18]
    rw [nI_add, mAt_n (by omega)]
    have hc : s.2.1 7 (o + i) = c ∧ ¬ c = 32 := hw 0 (by rw [hl]; omega)
    rw [hc.1]
    refine ⟨vp_in_nI (by omega) (by decide), fun z => absurd z hc.2, fun _ x hx => ?_⟩
    rw [nI_1] at hx
    subst hx
    refine ih t (i + 1) (fun j hj => ?_) ?_ (by omega) (by omega) ?_
    · have := hw (j + 1) (by rw [hl]; omega)
      rw [show o + (i + 1) + j = o + i + (j + 1) by omega]
      exact this
    · rw [show o + (i + 1) + wd.length = o + i + (wd.length + 1) by omega]
      exact h32
    · rw [show i + 1 + wd.length = i + (wd.length + 1) by omega]
      exact h
theorem w5 (hN : 402 ≤ N.1) (htp : ∀ k, k < 400 → s.2.1 11 k = tp k) {k to : Nat} {Kr : Int32 → mS → Prop} {K : mS → Prop} (hk : k ≤ to) (hto : to ≤ 400) : ∀ (ws : List (List Int32)) (w o t : Nat), o + (flatW ws).length = 137 → (∀ j (hj : j < (flatW ws).length), s.2.1 7 (o + j) = (flatW ws)[j]) → (∀ c ∈ ws, ∀ x ∈ c, ¬ x = 32) → ws.length + 1 ≤ t → (∀ r, r = findW tp k to w ws → (r = 0 → K s) ∧ (¬ r = 0 → Kr (nI r) s)) → 0 < w → w_wordOf_5 N (nI k) (nI to) Kr K t (nI w) (nI o) s := by
  intro ws
  induction ws with
  | nil =>
    intro w o t ho hw h32 ht h hw0
    obtain ⟨t, rfl⟩ : ∃ u, t = u + 1 := ⟨t - 1, by omega⟩
    have ho' : o = 137 := by simpa [flatW] using ho
    subst ho'
    simp only [w_wordOf_5]
    exact ⟨fun _ => (h 0 rfl).1 rfl, fun z => absurd (nI_le (Nat.le_refl 137) (by omega)) z⟩
  | cons c ws ih =>
    intro w o t ho hw h32 ht h hw0
    obtain ⟨t, rfl⟩ : ∃ u, t = u + 1 := ⟨t - 1, by omega⟩
    have hfl : flatW (c :: ws) = c ++ 32 :: flatW ws := rfl
    have hlen : (flatW (c :: ws)).length = c.length + 1 + (flatW ws).length := by
      rw [hfl, List.length_append, List.length_cons]
      omega
    have hl : (c :: ws).length = ws.length + 1 := rfl
    rw [hl] at ht
    have g1 : ∀ j (hj : j < c.length), s.2.1 7 (o + j) = c[j] := fun j hj => by
      rw [hw j (by omega)]
      simp only [hfl]
      exact List.getElem_append_left hj
    have g2 : s.2.1 7 (o + c.length) = 32 := by
      rw [hw c.length (by omega)]
      simp only [hfl]
      rw [List.getElem_append_right (Nat.le_refl _)]
      simp
    have g3 : ∀ j (hj : j < (flatW ws).length), s.2.1 7 (o + (c.length + 1) + j) = (flatW ws)[j] := fun j hj => by
      rw [show o + (c.length + 1) + j = o + (c.length + 1 + j) by omega, hw (c.length + 1 + j) (by omega)]
      simp only [hfl]
      rw [List.getElem_append_right (by omega)]
      simp only [show c.length + 1 + j - c.length = j + 1 by omega]
      rfl
    have hfw : findW tp k to w (c :: ws) = if c.length = to - k ∧ eqL tp c k = true then w else findW tp k to (w + 1) ws := rfl
    have next : ¬ (c.length = to - k ∧ eqL tp c k = true) → w_wordOf_5 N (nI k) (nI to) Kr K t (nI (w + 1)) (nI (o + (c.length + 1))) s := fun hn => by
      refine ih (w + 1) (o + (c.length + 1)) t (by omega) g3 (fun c' hc' => h32 c' (List.mem_cons_of_mem _ hc')) (by omega) (fun r hr => h r ?_) (by omega)
      rw [hr, hfw, if_neg hn]
    have found : c.length = to - k ∧ eqL tp c k = true → Kr (nI w) s := fun hc => by
      refine (h w ?_).2 (by omega)
      rw [hfw, if_pos hc]
    simp only [w_wordOf_5]
    refine ⟨fun z => ?_, fun _ => ?_⟩
    · have e137 : (137 : Int32) = nI 137 := rfl
      rw [e137, nI_leI (by omega) (by omega)] at z
      omega
    · have fin : ∀ b : Bool, (b = true ↔ c.length = to - k ∧ eqL tp c k = true) → (bI b = 0 → ∀ x, x = nI o + (nI c.length + 1) → ∀ y, y = nI w + 1 → w_wordOf_5 N (nI k) (nI to) Kr K t y x s) ∧ (¬ bI b = 0 → Kr (nI w) s) := fun b hb => by
        refine ⟨fun z x hx y hy => ?_, fun z => ?_⟩
        · rw [hx, hy, nI_1, nI_1, nI_add]
          refine next (fun q => ?_)
          rw [hb.mpr q] at z
          exact absurd z (by decide)
        · refine found (hb.mp ?_)
          cases b with
          | true => rfl
          | false => exact absurd rfl z
      refine w18 c N.1 0 (fun j hj => ⟨by rw [Nat.add_zero]; exact g1 j hj, h32 c List.mem_cons_self _ (List.getElem_mem hj)⟩) (by rw [Nat.add_zero]; exact g2) (by omega) (by omega) ?_
      rw [Nat.zero_add, pk_sub hk]
      have hcl : c.length < 2 ^ 31 := by omega
      rw [nI_eq hcl (by omega)]
      refine ⟨fun ne => ?_, fun eq => ?_⟩
      · unfold w_wordOf_52
        obtain ⟨u, hu⟩ : ∃ u, N.1 = u + 1 := ⟨N.1 - 1, by omega⟩
        have f0 := fin false ⟨fun z => absurd z (by decide), fun q => absurd q.1 ne⟩
        have hd : ∀ K2 : Int32 → mS → Prop, K2 0 s → w_wordOf_57 N (nI k) (nI to) (nI w) (nI o) (nI c.length) Kr K2 N.1 0 0 s := fun K2 hk2 => by
          rw [hu]
          simp only [w_wordOf_57]
          exact ⟨fun _ => hk2, fun _ => ⟨fun _ => hk2, fun z => absurd trivial z⟩⟩
        exact hd _ f0
      · unfold w_wordOf_52
        refine w57 htp (m := c.length) (by omega) (by omega) c N.1 0 (by omega) (fun j hj => by rw [Nat.add_zero]; exact g1 j hj) (by omega) ?_
        rw [Nat.add_zero]
        exact fin (eqL tp c k) ⟨fun z => ⟨eq, z⟩, fun z => z.2⟩
theorem w_word (hN : 402 ≤ N.1) (htp : ∀ k, k < 400 → s.2.1 11 k = tp k) (hwd : ∀ j (hj : j < (flatW wrdL).length), s.2.1 7 j = (flatW wrdL)[j]) {k to : Nat} {K : Int32 → mS → Prop} (hk : k ≤ to) (hto : to ≤ 400) (h : K (nI (wordOf tp k to)) s) : w_wordOf N (nI k) (nI to) s K := by
  unfold w_wordOf
  refine w5 hN htp hk hto wrdL 1 0 N.1 (by decide) (fun j hj => by rw [Nat.zero_add]; exact hwd j hj) (by decide) ?_ (fun r hr => ?_) (by omega)
  · have : wrdL.length = 27 := rfl
    omega
  · rw [← show r = wordOf tp k to from hr] at h
    exact ⟨fun z => by rw [z] at h; exact h, fun _ => h⟩
end WTOK
