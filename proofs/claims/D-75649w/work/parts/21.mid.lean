set_option maxRecDepth 100000
/-! ===== the middle: what a text of either language means (no machine in sight): sums and tests as functions of the asked numbers, the parser over tokens ===== -/
abbrev dS : Type := (Nat → Int64) → Option Int64
abbrev dT : Type := (Nat → Int64) → Option Bool
abbrev pR (α : Type) : Type := Nat ⊕ α
def pb {α β : Type} (x : pR α) (f : α → pR β) : pR β := match x with
  | .inl e => .inl e
  | .inr a => f a
theorem pb_r {α β : Type} {x : pR α} {f : α → pR β} {b : β} (h : pb x f = .inr b) : ∃ a, x = .inr a ∧ f a = .inr b := by
  cases x with
  | inl e => cases h
  | inr a => exact ⟨a, rfl, h⟩
theorem pb_l {α β : Type} {x : pR α} {f : α → pR β} {e : Nat} (h : pb x f = .inl e) : x = .inl e ∨ ∃ a, x = .inr a ∧ f a = .inl e := by
  cases x with
  | inl e' =>
    have h' : (Sum.inl e' : pR β) = Sum.inl e := h
    cases h'
    exact Or.inl rfl
  | inr a => exact Or.inr ⟨a, rfl, h⟩
theorem lgc_pos {x y : Int64} : 0 < lg_cmp x y ↔ y < x := by
  unfold lg_cmp
  split
  · next h => exact ⟨fun _ => h, fun _ => by decide⟩
  · next h =>
    split
    · exact ⟨fun z => absurd z (by decide), fun z => absurd z h⟩
    · exact ⟨fun z => absurd z (by decide), fun z => absurd z h⟩
theorem lgc_z {x y : Int64} : lg_cmp x y = 0 ↔ x = y := by
  unfold lg_cmp
  split
  · next h => exact ⟨fun z => absurd z (by decide), fun z => by subst z; exact absurd h (by simp only [Int64.lt_iff_toInt_lt, GT.gt]; omega)⟩
  · next h =>
    split
    · next h2 => exact ⟨fun _ => h2, fun _ => rfl⟩
    · next h2 => exact ⟨fun z => absurd z (by decide), fun z => absurd z h2⟩
theorem lgc_nneg {x y : Int64} : 0 ≤ lg_cmp x y ↔ y ≤ x := by
  unfold lg_cmp
  simp only [GT.gt, Int64.lt_iff_toInt_lt, Int64.le_iff_toInt_le, ← Int64.toInt_inj]
  split
  · exact ⟨fun _ => by omega, fun _ => by decide⟩
  · split
    · exact ⟨fun _ => by omega, fun _ => by decide⟩
    · exact ⟨fun z => absurd z (by decide), fun z => by omega⟩
theorem lgc_npos {x y : Int64} : lg_cmp x y ≤ 0 ↔ x ≤ y := by
  unfold lg_cmp
  simp only [GT.gt, Int64.lt_iff_toInt_lt, Int64.le_iff_toInt_le, ← Int64.toInt_inj]
  split
  · exact ⟨fun z => absurd z (by decide), fun z => by omega⟩
  · split
    · exact ⟨fun _ => by omega, fun _ => by decide⟩
    · exact ⟨fun _ => by omega, fun _ => by decide⟩
theorem lgc_neg {x y : Int64} : lg_cmp x y < 0 ↔ x < y := by
  unfold lg_cmp
  simp only [GT.gt, Int64.lt_iff_toInt_lt, ← Int64.toInt_inj]
  split
  · exact ⟨fun z => absurd z (by decide), fun z => by omega⟩
  · split
    · exact ⟨fun z => absurd z (by decide), fun z => by omega⟩
    · exact ⟨fun _ => by omega, fun _ => by decide⟩
/-- a value within a thousand millions; none beyond -/
def wiO (v : Int64) : Option Int64 := if 1000000000 < v ∨ v < -1000000000 then none else some v
def inB (v : Int64) : Prop := -1000000000 ≤ v.toInt ∧ v.toInt ≤ 1000000000
theorem i64_1e9 : (1000000000 : Int64).toInt = 1000000000 := by decide
theorem i64_m1e9 : (-1000000000 : Int64).toInt = -1000000000 := by decide
theorem wiO_in {v : Int64} (h : inB v) : wiO v = some v := by
  unfold wiO
  rw [if_neg]
  simp only [Int64.lt_iff_toInt_lt, i64_1e9, i64_m1e9]
  obtain ⟨h1, h2⟩ := h
  omega
theorem wiO_some {v w : Int64} (h : wiO v = some w) : v = w ∧ inB w := by
  unfold wiO at h
  split at h
  · cases h
  · next hn =>
    cases h
    refine ⟨rfl, ?_⟩
    simp only [Int64.lt_iff_toInt_lt, i64_1e9, i64_m1e9] at hn
    exact ⟨by omega, by omega⟩
/-- two sums joined by a sign (its token's code) -/
def jD (c : Int32) (D1 D2 : dS) : dS := fun e => match D1 e with
  | none => none
  | some p => match D2 e with
    | none => none
    | some q => if c = 147 ∨ c = 137 then (if q = 0 then none else some (if c = 147 then p / q else p - p / q * q)) else wiO (if c = 143 then p + q else if c = 145 then p - q else p * q)
def cD (c : Int32) (D1 D2 : dS) : dT := fun e => match D1 e with
  | none => none
  | some p => match D2 e with
    | none => none
    | some q => some (if c = 160 then decide (p < q) else if c = 162 then decide (q < p) else decide (p = q))
def nD (b : Bool) (D : dT) : dT := fun e => (D e).map fun v => (b != v)
def aD (D1 D2 : dT) : dT := fun e => match D1 e with
  | none => none
  | some false => some false
  | some true => D2 e
def oD (D1 D2 : dT) : dT := fun e => match D1 e with
  | none => none
  | some true => some true
  | some false => D2 e
/-- where the numbers lie that a note's word asks: here 100 and on, under 200 and on -/
def ntI (c k : Int32) : Nat := (if c = 15 then 100 else 200) + k.toNatClampNeg
def isW (io : Bool) (c : Int32) : Bool := if io = true then decide (15 ≤ c) && decide (c ≤ 21) else decide (8 ≤ c) && decide (c ≤ 17)
section PARSE
variable (cd vl : Nat → Int32) (io : Bool)
def pLoop {α : Type} (sep : Int32 → Bool) (item : Nat → Nat → pR (Nat × Nat × α)) (cb : Int32 → α → α → α) : Nat → Nat → Nat → α → pR (Nat × Nat × α)
  | 0, i, l, a => .inr (i, l, a)
  | f + 1, i, l, a => if sep (cd i) = true then pb (item (i + 1) l) (fun z => pLoop sep item cb f z.1 z.2.1 (cb (cd i) a z.2.2)) else .inr (i, l, a)
def pSeq {α : Type} (sep : Int32 → Bool) (item : Nat → Nat → pR (Nat × Nat × α)) (cb : Int32 → α → α → α) (i l : Nat) : pR (Nat × Nat × α) := pb (item i l) (fun z => pLoop cd sep item cb 401 z.1 z.2.1 z.2.2)
def sepT (c : Int32) : Bool := c == 142 || c == 147 || c == 137
def sepS (c : Int32) : Bool := c == 143 || c == 145
def pTermOf (item : Nat → Nat → pR (Nat × Nat × dS)) : Nat → Nat → pR (Nat × Nat × dS) := pSeq cd sepT item jD
def pSumOf (item : Nat → Nat → pR (Nat × Nat × dS)) : Nat → Nat → pR (Nat × Nat × dS) := pSeq cd sepS (pTermOf cd item) jD
def pLeaf (i l : Nat) : pR (Nat × Nat × dS) :=
  if (cd i = 50 ∧ vl i ≤ 1000) ∨ isW io (cd i) = true then
    if l = 50 then .inl i
    else if cd i = 50 then .inr (i + 1, l + 1, fun _ => some (vl i).toInt64)
    else if io = true ∧ (cd i = 15 ∨ cd i = 16) then
      if cd (i + 1) = 50 ∧ 0 ≤ vl (i + 1) ∧ vl (i + 1) ≤ 11 then .inr (i + 2, l + 1, fun e => some (e (ntI (cd i) (vl (i + 1))))) else .inl (i + 1)
    else .inr (i + 1, l + 1, fun e => some (e (cd i).toNatClampNeg))
  else .inl i
def pPart : Nat → Nat → Nat → pR (Nat × Nat × dS)
  | 0, i, l => if cd i = 191 then .inl i else pLeaf cd vl io i l
  | dp + 1, i, l => if cd i = 191 then pb (pSumOf cd (pPart dp) (i + 1) l) (fun z => if cd z.1 = 193 then .inr (z.1 + 1, z.2.1, z.2.2) else .inl z.1) else pLeaf cd vl io i l
def pTerm (dp : Nat) : Nat → Nat → pR (Nat × Nat × dS) := pTermOf cd (pPart cd vl io dp)
def pSum (dp : Nat) : Nat → Nat → pR (Nat × Nat × dS) := pSumOf cd (pPart cd vl io dp)
def pNots : Nat → Nat → Bool → Nat × Bool
  | 0, i, b => (i, b)
  | f + 1, i, b => if cd i = 7 then pNots f (i + 1) (!b) else (i, b)
def pComp (dp i l : Nat) (b : Bool) : pR (Nat × Nat × dT) := pb (pSum cd vl io dp i l) fun z => if cd z.1 = 160 ∨ cd z.1 = 162 ∨ cd z.1 = 161 then pb (pSum cd vl io dp (z.1 + 1) z.2.1) (fun w => .inr (w.1, w.2.1, nD b (cD (cd z.1) z.2.2 w.2.2))) else .inl z.1
def pBothOf (item : Nat → Nat → pR (Nat × Nat × dT)) : Nat → Nat → pR (Nat × Nat × dT) := pSeq cd (fun c => c == 6) item (fun _ => aD)
def pTestOf (item : Nat → Nat → pR (Nat × Nat × dT)) : Nat → Nat → pR (Nat × Nat × dT) := pSeq cd (fun c => c == 5) (pBothOf cd item) (fun _ => oD)
def pPlain : Nat → Nat → Nat → pR (Nat × Nat × dT)
  | 0, i, l => if cd (pNots cd 401 i false).1 = 140 then .inl (pNots cd 401 i false).1 else pComp cd vl io 0 (pNots cd 401 i false).1 l (pNots cd 401 i false).2
  | dp + 1, i, l => if cd (pNots cd 401 i false).1 = 140 then pb (pTestOf cd (pPlain dp) ((pNots cd 401 i false).1 + 1) l) (fun w => if cd w.1 = 141 then .inr (w.1 + 1, w.2.1, nD (pNots cd 401 i false).2 w.2.2) else .inl w.1) else pComp cd vl io (dp + 1) (pNots cd 401 i false).1 l (pNots cd 401 i false).2
def pTest (dp : Nat) : Nat → Nat → pR (Nat × Nat × dT) := pTestOf cd (pPlain cd vl io dp)
def pOpt (i l : Nat) : pR (Nat × Nat × Option dT) := if cd i = 4 then pb (pTest cd vl io 8 (i + 1) l) (fun z => .inr (z.1, z.2.1, some z.2.2)) else .inr (i, l, none)
/-- a clause of a law: its head's code, its sum, its test -/
abbrev cL : Type := Int32 × Option dS × Option dT
/-- a clause of orders: its head's code, its sums, how often, its test -/
abbrev cO : Type := Int32 × Option (dS × dS) × Int32 × Option dT
def pClause (i l : Nat) : pR (Nat × Nat × cL) :=
  if cd i = 1 ∨ cd i = 2 then pb (pSum cd vl io 8 (i + 1) l) (fun z => pb (pOpt cd vl io z.1 z.2.1) fun w => .inr (w.1, w.2.1, cd i, some z.2.2, w.2.2))
  else if cd i = 3 then pb (pOpt cd vl io (i + 1) l) (fun w => .inr (w.1, w.2.1, 3, none, w.2.2))
  else .inl i
def pTail (i l : Nat) (h : Int32) (o : Option (dS × dS)) : pR (Nat × Nat × cO) :=
  if cd i = 27 then
    if cd (i + 1) = 50 ∧ 1 ≤ vl (i + 1) ∧ vl (i + 1) ≤ 20 then pb (pOpt cd vl io (i + 2) l) (fun w => .inr (w.1, w.2.1, h, o, vl (i + 1), w.2.2)) else .inl (i + 1)
  else pb (pOpt cd vl io i l) (fun w => .inr (w.1, w.2.1, h, o, 1, w.2.2))
def pOrder (i l : Nat) : pR (Nat × Nat × cO) :=
  if cd i = 22 ∨ cd i = 23 then pb (pSum cd vl io 8 (i + 1) l) (fun z => if cd z.1 = 26 then pb (pSum cd vl io 8 (z.1 + 1) z.2.1) (fun w => pTail cd vl io w.1 w.2.1 (cd i) (some (z.2.2, w.2.2))) else .inl z.1)
  else if cd i = 24 ∨ cd i = 25 then pTail cd vl io (i + 1) l (cd i) none
  else .inl i
def pAll {α : Type} (T : Nat) (item : Nat → Nat → pR (Nat × Nat × α)) : Nat → Nat → Nat → Nat → List α → pR (List α)
  | 0, _, _, _, _ => .inl 0
  | f + 1, n, i, l, acc => pb (item i l) fun z => if cd z.1 = 159 then (if n + 1 = 12 then .inl (z.1 + 1) else pAll T item f (n + 1) (z.1 + 1) z.2.1 (acc ++ [z.2.2])) else if z.1 < T then .inl z.1 else .inr (acc ++ [z.2.2])
end PARSE
def pLaw (cd vl : Nat → Int32) (T : Nat) : pR (List cL) := pAll cd T (pClause cd vl false) 12 0 0 0 []
def pOrders (cd vl : Nat → Int32) (T : Nat) : pR (List cO) := pAll cd T (pOrder cd vl true) 12 0 0 0 []
/-! what a law tells -/
def tstOk (e : Nat → Int64) (t : Option dT) : Bool := match t with
  | none => true
  | some D => D e == some true
def clOk (e : Nat → Int64) (h : Int32) (c : cL) : Option Int64 := if c.1 = h ∧ tstOk e c.2.2 = true then (match c.2.1 with
  | none => some 1
  | some D => D e) else none
def clamp (top : Int64) (v : Int64) : Int64 := if v < 0 then 0 else if top < v then top else v
def tellsL (e : Nat → Int64) (h : Int32) (top : Int64) (a : Int64) (cs : List cL) : Int64 := cs.foldl (fun a c => match clOk e h c with
  | none => a
  | some v => clamp top v) a
def hasL (e : Nat → Int64) (cs : List cL) : Bool := cs.any fun c => decide (c.1 = 3) && tstOk e c.2.2
/-! the parser goes on, and stays within the tokens -/
def pM {α : Type} (T : Nat) (item : Nat → Nat → pR (Nat × Nat × α)) : Prop := ∀ i l, i ≤ T → (∀ e, item i l = .inl e → i ≤ e ∧ e ≤ T) ∧ ∀ z, item i l = .inr z → i < z.1 ∧ z.1 ≤ T ∧ l < z.2.1 ∧ (l ≤ 50 → z.2.1 ≤ 50)
/-- as pM, but what is taken may be nothing -/
def pM0 {α : Type} (T i l : Nat) (r : pR (Nat × Nat × α)) : Prop := (∀ e, r = .inl e → i ≤ e ∧ e ≤ T) ∧ ∀ z, r = .inr z → i ≤ z.1 ∧ z.1 ≤ T ∧ l ≤ z.2.1 ∧ (l ≤ 50 → z.2.1 ≤ 50)
section PM
variable {cd vl : Nat → Int32} {io : Bool} {T : Nat}
theorem pLoop_s {α : Type} {sep : Int32 → Bool} {item : Nat → Nat → pR (Nat × Nat × α)} {cb : Int32 → α → α → α} {f i l : Nat} {a : α} : pLoop cd sep item cb (f + 1) i l a = if sep (cd i) = true then pb (item (i + 1) l) (fun z => pLoop cd sep item cb f z.1 z.2.1 (cb (cd i) a z.2.2)) else .inr (i, l, a) := rfl
theorem pM0_r {α : Type} {i l : Nat} {a : α} (h : i ≤ T) : pM0 T i l (.inr (i, l, a)) := ⟨fun e h => (by cases h), fun z h => by cases h; exact ⟨Nat.le_refl _, by assumption, Nat.le_refl _, id⟩⟩
theorem pM0_l {α : Type} {i j l : Nat} (h : i ≤ j) (h2 : j ≤ T) : pM0 (α := α) T i l (.inl j) := ⟨fun e h => by cases h; exact ⟨by assumption, by assumption⟩, fun z h => by cases h⟩
theorem pM0_b {α β : Type} {i l : Nat} {r : pR (Nat × Nat × α)} {f : Nat × Nat × α → pR (Nat × Nat × β)} (h : pM0 T i l r) (h2 : ∀ z, r = .inr z → i ≤ z.1 → z.1 ≤ T → l ≤ z.2.1 → pM0 T z.1 z.2.1 (f z)) : pM0 T i l (pb r f) := by
  refine ⟨fun e he => ?_, fun z hz => ?_⟩
  · rcases pb_l he with he | ⟨a, h3, h4⟩
    · exact h.1 e he
    · have h5 := h.2 a h3
      have h6 := (h2 a h3 h5.1 h5.2.1 h5.2.2.1).1 e h4
      exact ⟨by omega, h6.2⟩
  · obtain ⟨a, h3, h4⟩ := pb_r hz
    have h5 := h.2 a h3
    have h6 := (h2 a h3 h5.1 h5.2.1 h5.2.2.1).2 z h4
    exact ⟨by omega, h6.2.1, by omega, fun q => h6.2.2.2 (h5.2.2.2 q)⟩
theorem pM0_s {α : Type} {i i2 l l2 : Nat} {r : pR (Nat × Nat × α)} (h : pM0 T i2 l2 r) (hi : i ≤ i2) (hl : l ≤ l2) (hl2 : l ≤ 50 → l2 ≤ 50) : pM0 T i l r := ⟨fun e he => by have := h.1 e he; exact ⟨by omega, this.2⟩, fun z hz => by have := h.2 z hz; exact ⟨by omega, this.2.1, by omega, fun q => this.2.2.2 (hl2 q)⟩⟩
theorem pM.o {α : Type} {item : Nat → Nat → pR (Nat × Nat × α)} (h : pM T item) {i l : Nat} (hi : i ≤ T) : pM0 T i l (item i l) := ⟨(h i l hi).1, fun z hz => by have := (h i l hi).2 z hz; exact ⟨by omega, this.2.1, by omega, this.2.2.2⟩⟩
theorem pM_loop {α : Type} {sep : Int32 → Bool} {item : Nat → Nat → pR (Nat × Nat × α)} {cb : Int32 → α → α → α} (hz : ∀ k, T ≤ k → cd k = 0) (h0 : sep 0 = false) (hi : pM T item) : ∀ f i l a, i ≤ T → pM0 T i l (pLoop cd sep item cb f i l a) := by
  intro f
  induction f with
  | zero =>
    intro i l a h
    exact pM0_r h
  | succ f ih =>
    intro i l a h
    rw [pLoop_s]
    by_cases hs : sep (cd i) = true
    · rw [if_pos hs]
      have hlt : i < T := Nat.lt_of_not_le fun z => by
        rw [hz i z, h0] at hs
        cases hs
      exact pM0_b (pM0_s (hi.o hlt) (Nat.le_succ i) (Nat.le_refl l) id) (fun z _ _ h3 _ => ih _ _ _ h3)
    · rw [if_neg hs]
      exact pM0_r h
theorem pM_seq {α : Type} {sep : Int32 → Bool} {item : Nat → Nat → pR (Nat × Nat × α)} {cb : Int32 → α → α → α} (hz : ∀ k, T ≤ k → cd k = 0) (h0 : sep 0 = false) (hi : pM T item) : pM T (pSeq cd sep item cb) := by
  intro i l h
  have h1 := hi i l h
  refine ⟨fun e he => ?_, fun z hz2 => ?_⟩
  · rcases pb_l he with he | ⟨a, h3, h4⟩
    · exact h1.1 e he
    · have h5 := h1.2 a h3
      have h6 := (pM_loop (cb := cb) hz h0 hi 401 _ a.2.1 a.2.2 h5.2.1).1 e h4
      exact ⟨by omega, h6.2⟩
  · obtain ⟨a, h3, h4⟩ := pb_r hz2
    have h5 := h1.2 a h3
    have h6 := (pM_loop (cb := cb) hz h0 hi 401 _ a.2.1 a.2.2 h5.2.1).2 z h4
    exact ⟨by omega, h6.2.1, by omega, fun q => h6.2.2.2 (h5.2.2.2 q)⟩
theorem cd_lt {k : Nat} (hz : ∀ k, T ≤ k → cd k = 0) {c : Int32} (h : cd k = c) (h0 : c ≠ 0) : k < T := Nat.lt_of_not_le fun z => h0 (by rw [← h]; exact hz k z)
theorem isW_lt {k : Nat} (hz : ∀ k, T ≤ k → cd k = 0) (h : isW io (cd k) = true) : k < T := Nat.lt_of_not_le fun z => by
  rw [hz k z] at h
  cases io <;> exact absurd h (by decide)
theorem pM_leaf (hz : ∀ k, T ≤ k → cd k = 0) : pM T (pLeaf cd vl io) := by
  intro i l h
  unfold pLeaf
  by_cases hc : (cd i = 50 ∧ vl i ≤ 1000) ∨ isW io (cd i) = true
  · rw [if_pos hc]
    have hlt : i < T := hc.elim (fun z => cd_lt hz z.1 (by decide)) (isW_lt hz)
    by_cases hl : l = 50
    · rw [if_pos hl]
      exact ⟨fun e he => by cases he; exact ⟨Nat.le_refl _, h⟩, fun z hz => by cases hz⟩
    · rw [if_neg hl]
      by_cases h5 : cd i = 50
      · rw [if_pos h5]
        exact ⟨fun e he => (by cases he), fun z hz => by cases hz; exact ⟨Nat.lt_succ_self i, hlt, Nat.lt_succ_self l, fun q => by show l + 1 ≤ 50; omega⟩⟩
      · rw [if_neg h5]
        by_cases h6 : io = true ∧ (cd i = 15 ∨ cd i = 16)
        · rw [if_pos h6]
          by_cases h7 : cd (i + 1) = 50 ∧ 0 ≤ vl (i + 1) ∧ vl (i + 1) ≤ 11
          · rw [if_pos h7]
            have := cd_lt hz h7.1 (by decide)
            exact ⟨fun e he => (by cases he), fun z hz => by cases hz; exact ⟨by show i < i + 2; omega, by show i + 2 ≤ T; omega, Nat.lt_succ_self l, fun q => by show l + 1 ≤ 50; omega⟩⟩
          · rw [if_neg h7]
            exact ⟨fun e he => by cases he; exact ⟨by omega, hlt⟩, fun z hz => by cases hz⟩
        · rw [if_neg h6]
          exact ⟨fun e he => (by cases he), fun z hz => by cases hz; exact ⟨Nat.lt_succ_self i, hlt, Nat.lt_succ_self l, fun q => by show l + 1 ≤ 50; omega⟩⟩
  · rw [if_neg hc]
    exact ⟨fun e he => by cases he; exact ⟨Nat.le_refl _, h⟩, fun z hz => by cases hz⟩
theorem pPart_0 {i l : Nat} : pPart cd vl io 0 i l = if cd i = 191 then .inl i else pLeaf cd vl io i l := rfl
theorem pPart_s {dp i l : Nat} : pPart cd vl io (dp + 1) i l = if cd i = 191 then pb (pSum cd vl io dp (i + 1) l) (fun z => if cd z.1 = 193 then .inr (z.1 + 1, z.2.1, z.2.2) else .inl z.1) else pLeaf cd vl io i l := rfl
theorem pM_sumOf {item : Nat → Nat → pR (Nat × Nat × dS)} (hz : ∀ k, T ≤ k → cd k = 0) (hi : pM T item) : pM T (pSumOf cd item) := pM_seq hz rfl (pM_seq hz rfl hi)
theorem pM_part (hz : ∀ k, T ≤ k → cd k = 0) : ∀ dp, pM T (pPart cd vl io dp) := by
  intro dp
  induction dp with
  | zero =>
    intro i l h
    rw [pPart_0]
    by_cases hc : cd i = 191
    · rw [if_pos hc]
      exact ⟨fun e he => by cases he; exact ⟨Nat.le_refl _, h⟩, fun z hz => by cases hz⟩
    · rw [if_neg hc]
      exact pM_leaf hz i l h
  | succ dp ih =>
    intro i l h
    rw [pPart_s]
    by_cases hc : cd i = 191
    · rw [if_pos hc]
      have hlt := cd_lt hz hc (by decide)
      have h1 := pM_sumOf hz ih (i + 1) l hlt
      refine ⟨fun e he => ?_, fun z hz2 => ?_⟩
      · rcases pb_l he with he | ⟨a, h3, h4⟩
        · have := h1.1 e he
          exact ⟨by omega, this.2⟩
        · have h5 := h1.2 a h3
          by_cases h6 : cd a.1 = 193
          · rw [if_pos h6] at h4
            cases h4
          · rw [if_neg h6] at h4
            cases h4
            exact ⟨by omega, h5.2.1⟩
      · obtain ⟨a, h3, h4⟩ := pb_r hz2
        have h5 := h1.2 a h3
        by_cases h6 : cd a.1 = 193
        · rw [if_pos h6] at h4
          cases h4
          have := cd_lt hz h6 (by decide)
          exact ⟨by show i < a.1 + 1; omega, this, h5.2.2.1, h5.2.2.2⟩
        · rw [if_neg h6] at h4
          cases h4
    · rw [if_neg hc]
      exact pM_leaf hz i l h
theorem pM_sum (hz : ∀ k, T ≤ k → cd k = 0) (dp : Nat) : pM T (pSum cd vl io dp) := pM_sumOf hz (pM_part hz dp)
theorem pM_term (hz : ∀ k, T ≤ k → cd k = 0) (dp : Nat) : pM T (pTerm cd vl io dp) := pM_seq hz rfl (pM_part hz dp)
theorem pNots_le (hz : ∀ k, T ≤ k → cd k = 0) : ∀ f i b, i ≤ T → i ≤ (pNots cd f i b).1 ∧ (pNots cd f i b).1 ≤ T := by
  intro f
  induction f with
  | zero => exact fun i b h => ⟨Nat.le_refl _, h⟩
  | succ f ih =>
    intro i b h
    show i ≤ (if cd i = 7 then pNots cd f (i + 1) (!b) else (i, b)).1 ∧ (if cd i = 7 then pNots cd f (i + 1) (!b) else (i, b)).1 ≤ T
    by_cases h7 : cd i = 7
    · rw [if_pos h7]
      have := ih (i + 1) (!b) (cd_lt hz h7 (by decide))
      exact ⟨by omega, this.2⟩
    · rw [if_neg h7]
      exact ⟨Nat.le_refl _, h⟩
theorem pM_comp (hz : ∀ k, T ≤ k → cd k = 0) (dp : Nat) (b : Bool) : pM T (fun i l => pComp cd vl io dp i l b) := by
  intro i l h
  have h1 := pM_sum (vl := vl) (io := io) hz dp i l h
  refine ⟨fun e he => ?_, fun z hz2 => ?_⟩
  · rcases pb_l he with he | ⟨a, h3, h4⟩
    · exact h1.1 e he
    · have h5 := h1.2 a h3
      by_cases h6 : cd a.1 = 160 ∨ cd a.1 = 162 ∨ cd a.1 = 161
      · rw [if_pos h6] at h4
        have hlt : a.1 < T := h6.elim (fun z => cd_lt hz z (by decide)) fun z => z.elim (fun z => cd_lt hz z (by decide)) fun z => cd_lt hz z (by decide)
        rcases pb_l h4 with h4 | ⟨w, h7, h8⟩
        · have := (pM_sum (vl := vl) (io := io) hz dp (a.1 + 1) a.2.1 hlt).1 e h4
          exact ⟨by omega, this.2⟩
        · cases h8
      · rw [if_neg h6] at h4
        cases h4
        exact ⟨by omega, h5.2.1⟩
  · obtain ⟨a, h3, h4⟩ := pb_r hz2
    have h5 := h1.2 a h3
    by_cases h6 : cd a.1 = 160 ∨ cd a.1 = 162 ∨ cd a.1 = 161
    · rw [if_pos h6] at h4
      have hlt : a.1 < T := h6.elim (fun z => cd_lt hz z (by decide)) fun z => z.elim (fun z => cd_lt hz z (by decide)) fun z => cd_lt hz z (by decide)
      obtain ⟨w, h7, h8⟩ := pb_r h4
      cases h8
      have := (pM_sum (vl := vl) (io := io) hz dp (a.1 + 1) a.2.1 hlt).2 w h7
      exact ⟨by show i < w.1; omega, this.2.1, by show l < w.2.1; omega, fun q => this.2.2.2 (h5.2.2.2 q)⟩
    · rw [if_neg h6] at h4
      cases h4
theorem pM_testOf {item : Nat → Nat → pR (Nat × Nat × dT)} (hz : ∀ k, T ≤ k → cd k = 0) (hi : pM T item) : pM T (pTestOf cd item) := pM_seq hz rfl (pM_seq hz rfl hi)
theorem pPlain_0 {i l : Nat} : pPlain cd vl io 0 i l = if cd (pNots cd 401 i false).1 = 140 then .inl (pNots cd 401 i false).1 else pComp cd vl io 0 (pNots cd 401 i false).1 l (pNots cd 401 i false).2 := rfl
theorem pPlain_s {dp i l : Nat} : pPlain cd vl io (dp + 1) i l = if cd (pNots cd 401 i false).1 = 140 then pb (pTest cd vl io dp ((pNots cd 401 i false).1 + 1) l) (fun w => if cd w.1 = 141 then .inr (w.1 + 1, w.2.1, nD (pNots cd 401 i false).2 w.2.2) else .inl w.1) else pComp cd vl io (dp + 1) (pNots cd 401 i false).1 l (pNots cd 401 i false).2 := rfl
theorem pM_plain (hz : ∀ k, T ≤ k → cd k = 0) : ∀ dp, pM T (pPlain cd vl io dp) := by
  have hcomp : ∀ dp i l, i ≤ T → (∀ e, pComp cd vl io dp (pNots cd 401 i false).1 l (pNots cd 401 i false).2 = .inl e → i ≤ e ∧ e ≤ T) ∧ ∀ z, pComp cd vl io dp (pNots cd 401 i false).1 l (pNots cd 401 i false).2 = .inr z → i < z.1 ∧ z.1 ≤ T ∧ l < z.2.1 ∧ (l ≤ 50 → z.2.1 ≤ 50) := fun dp i l h => by
    have hn := pNots_le hz 401 i false h
    have hc := pM_comp (vl := vl) (io := io) hz dp (pNots cd 401 i false).2 (pNots cd 401 i false).1 l hn.2
    exact ⟨fun e he => by have := hc.1 e he; exact ⟨by omega, this.2⟩, fun z hz => by have := hc.2 z hz; exact ⟨by omega, this.2⟩⟩
  intro dp
  induction dp with
  | zero =>
    intro i l h
    rw [pPlain_0]
    by_cases hc : cd (pNots cd 401 i false).1 = 140
    · rw [if_pos hc]
      exact ⟨fun e he => by cases he; exact pNots_le hz 401 i false h, fun z hz => by cases hz⟩
    · rw [if_neg hc]
      exact hcomp 0 i l h
  | succ dp ih =>
    intro i l h
    rw [pPlain_s]
    by_cases hc : cd (pNots cd 401 i false).1 = 140
    · rw [if_pos hc]
      have hn := pNots_le hz 401 i false h
      have hlt := cd_lt hz hc (by decide)
      have h1 := pM_testOf hz ih ((pNots cd 401 i false).1 + 1) l hlt
      refine ⟨fun e he => ?_, fun z hz2 => ?_⟩
      · rcases pb_l he with he | ⟨a, h3, h4⟩
        · have := h1.1 e he
          exact ⟨by omega, this.2⟩
        · have h5 := h1.2 a h3
          by_cases h6 : cd a.1 = 141
          · rw [if_pos h6] at h4
            cases h4
          · rw [if_neg h6] at h4
            cases h4
            exact ⟨by omega, h5.2.1⟩
      · obtain ⟨a, h3, h4⟩ := pb_r hz2
        have h5 := h1.2 a h3
        by_cases h6 : cd a.1 = 141
        · rw [if_pos h6] at h4
          cases h4
          have := cd_lt hz h6 (by decide)
          exact ⟨by show i < a.1 + 1; omega, this, h5.2.2.1, h5.2.2.2⟩
        · rw [if_neg h6] at h4
          cases h4
    · rw [if_neg hc]
      exact hcomp (dp + 1) i l h
theorem pM_test (hz : ∀ k, T ≤ k → cd k = 0) (dp : Nat) : pM T (pTest cd vl io dp) := pM_testOf hz (pM_plain hz dp)
theorem pM_both (hz : ∀ k, T ≤ k → cd k = 0) (dp : Nat) : pM T (pBothOf cd (pPlain cd vl io dp)) := pM_seq hz rfl (pM_plain hz dp)
theorem pM_opt (hz : ∀ k, T ≤ k → cd k = 0) {i l : Nat} (h : i ≤ T) : pM0 T i l (pOpt cd vl io i l) := by
  unfold pOpt
  by_cases h4 : cd i = 4
  · rw [if_pos h4]
    have hlt := cd_lt hz h4 (by decide)
    exact pM0_b (pM0_s ((pM_test hz 8).o hlt) (Nat.le_succ i) (Nat.le_refl l) id) (fun z _ _ h2 _ => pM0_r h2)
  · rw [if_neg h4]
    exact pM0_r h
end PM
