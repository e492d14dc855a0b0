/-! ===== typed memory: shapes, ints, longs, references, by address (a field of an object, an element of an array) ===== -/
set_option maxRecDepth 100000
abbrev tM : Type := (Nat → Option (Nat ⊕ (Nat × Nat))) × (Nat → Nat → Int32) × (Nat → Nat → Int64) × (Nat → Nat → Nat)
abbrev tI (m : tM) (a j : Nat) : Int32 := m.2.1 a j
abbrev tJ (m : tM) (a j : Nat) : Int64 := m.2.2.1 a j
abbrev tR (m : tM) (a j : Nat) : Nat := m.2.2.2 a j
def tO (m : tM) (ci a : Nat) : Prop := m.1 a = some (.inl ci) ∧ a ≠ 0
def tA (m : tM) (t n a : Nat) : Prop := m.1 a = some (.inr (t, n)) ∧ a ≠ 0
/-- i is a place of the array a of type t -/
def tX (m : tM) (t a : Nat) (i : Int32) : Prop := ∃ n, tA m t n a ∧ vp_in i n
def tLen (m : tM) (a : Nat) : Nat := match m.1 a with
  | some (.inr (_, n)) => n
  | _ => 0
/-- a reference by its number: 0 is null, a + 1 the cell a -/
def rfv (a : Nat) : Value := match a with
  | 0 => .null
  | a + 1 => .ref a
theorem rfv_0 : rfv 0 = .null := rfl
theorem rfv_c (a : Nat) : (rfv a).category = 1 := by cases a <;> rfl
theorem rfv_or (a : Nat) : rfv a = .null ∨ ∃ b, rfv a = .ref b := by
  cases a with
  | zero => exact Or.inl rfl
  | succ a => exact Or.inr ⟨a, rfl⟩
def tsI (m : tM) (a j : Nat) (x : Int32) : tM := (m.1, (fun b i => if b = a ∧ i = j then x else m.2.1 b i), m.2.2.1, m.2.2.2)
def tsJ (m : tM) (a j : Nat) (x : Int64) : tM := (m.1, m.2.1, (fun b i => if b = a ∧ i = j then x else m.2.2.1 b i), m.2.2.2)
def tsR (m : tM) (a j : Nat) (x : Nat) : tM := (m.1, m.2.1, m.2.2.1, fun b i => if b = a ∧ i = j then x else m.2.2.2 b i)
def tNew (m : tM) (q : Nat) (s : Nat ⊕ (Nat × Nat)) : tM := ((fun b => if b = q then some s else m.1 b), (fun b i => if b = q then 0 else m.2.1 b i), (fun b i => if b = q then 0 else m.2.2.1 b i), fun b i => if b = q then 0 else m.2.2.2 b i)
/-- the kind of a class's field: 0 a number or truth value, 1 a long, 2 a reference -/
def tk : Nat → Nat → Nat := fun c j => match c with
  | 0 => ([2, 2, 2, 2, 2, 2, 2, 2, 2, 2, 0, 0, 0, 0, 2, 0, 2, 2, 2, 2, 2, 2, 2, 2, 0, 0, 2, 0] : List Nat).getD j 2
  | 1 => ([2, 2, 2, 2, 0, 0, 0] : List Nat).getD j 2
  | 2 => ([2, 2, 0, 0] : List Nat).getD j 2
  | 3 => ([2, 0] : List Nat).getD j 2
  | 4 => ([2, 0] : List Nat).getD j 2
  | 5 => ([2] : List Nat).getD j 2
  | 6 => ([0, 2, 2, 2, 2, 2, 0, 2, 0, 0, 0, 2, 2, 0, 0, 2, 2, 2, 0, 0, 0, 0, 0, 0, 0, 0, 2, 0, 0, 0, 0, 2, 2, 0, 2, 2, 2, 2, 2, 2, 2, 0, 0, 0, 0, 0, 0, 2, 2, 0, 0] : List Nat).getD j 2
  | 7 => ([0, 0, 0, 0, 0, 2, 2, 2, 2, 2, 2] : List Nat).getD j 2
  | 8 => ([2, 2, 2, 2, 2, 0, 0] : List Nat).getD j 2
  | 9 => ([0] : List Nat).getD j 2
  | 10 => ([0] : List Nat).getD j 2
  | 11 => ([0, 0, 2] : List Nat).getD j 2
  | 12 => ([2, 2, 0] : List Nat).getD j 2
  | 13 => ([0, 2, 2, 1] : List Nat).getD j 2
  | 14 => ([2, 2, 0] : List Nat).getD j 2
  | 15 => ([2] : List Nat).getD j 2
  | 16 => ([0, 2] : List Nat).getD j 2
  | 17 => ([0, 2, 2, 2, 0, 0, 2] : List Nat).getD j 2
  | 18 => ([0, 0, 0, 0, 0, 2, 2, 2, 2, 2] : List Nat).getD j 2
  | 19 => ([1] : List Nat).getD j 2
  | 20 => ([0, 2, 0] : List Nat).getD j 2
  | 21 => ([2, 2, 2, 2, 2] : List Nat).getD j 2
  | 22 => ([2, 2, 2, 2, 0, 2] : List Nat).getD j 2
  | 23 => ([2, 0] : List Nat).getD j 2
  | _ => 2
def tN : Nat → Nat := fun c => match c with
  | 0 => 28
  | 1 => 7
  | 2 => 4
  | 3 => 2
  | 4 => 2
  | 5 => 1
  | 6 => 51
  | 7 => 11
  | 8 => 7
  | 9 => 1
  | 10 => 1
  | 11 => 3
  | 12 => 3
  | 13 => 4
  | 14 => 3
  | 15 => 1
  | 16 => 2
  | 17 => 7
  | 18 => 10
  | 19 => 1
  | 20 => 3
  | 21 => 5
  | 22 => 6
  | 23 => 2
  | _ => 0
def tv (k : Nat) (m : tM) (a j : Nat) : Value := if k = 0 then .int (tI m a j) else if k = 1 then .long (tJ m a j) else rfv (tR m a j)
def tfs (m : tM) (ci a : Nat) : List Value := (List.range (tN ci)).map fun j => tv (tk ci j) m a j
def tof (m : tM) (a : Nat) : Nat → Option Nat := fun i => match tR m a i with
  | 0 => none
  | r + 1 => some r
def tcell (G : xG) (m : tM) (a : Nat) (s : Nat ⊕ (Nat × Nat)) : va_E := match s with
  | .inl ci => .inr (ci, tfs m ci a)
  | .inr (t, n) => if t = 1 then xJ G n (m.2.2.1 a) else if t = 0 ∨ t = 2 ∨ t = 3 then xI G t n (m.2.1 a) else xO G t n (tof m a)
/-- a foreign cell: what it holds is g's -/
abbrev tFo : Nat ⊕ (Nat × Nat) := .inr (99, 0)
theorem tFo_ne {t n : Nat} (h : t < 99) : (Sum.inr (t, n) : Nat ⊕ (Nat × Nat)) ≠ tFo := fun e => by
  injection e with e
  injection e with e1 e2
  omega
def tH (G : xG) (g : xH) (m : tM) : xH := fun a => match m.1 (a + 1) with
  | none => none
  | some s => if s = tFo then some ((g a).getD (.inr (0, []))) else some (tcell G m (a + 1) s)
theorem tH_at {G : xG} {g : xH} {m : tM} {a : Nat} {s : Nat ⊕ (Nat × Nat)} (h : m.1 (a + 1) = some s) (hs : s ≠ tFo) : tH G g m a = some (tcell G m (a + 1) s) := by unfold tH; rw [h]; exact if_neg hs
theorem tH_atO {G : xG} {g : xH} {m : tM} {a ci : Nat} (h : tO m ci (a + 1)) : tH G g m a = some (.inr (ci, tfs m ci (a + 1))) := tH_at h.1 (fun z => by cases z)
theorem tH_atA {G : xG} {g : xH} {m : tM} {a t n : Nat} (h : tA m t n (a + 1)) (ht : t < 99) : tH G g m a = some (tcell G m (a + 1) (.inr (t, n))) := tH_at h.1 (tFo_ne ht)
theorem tH_no {G : xG} {g : xH} {m : tM} {a : Nat} (h : tH G g m a = none) : m.1 (a + 1) = none := by
  unfold tH at h
  cases hm : m.1 (a + 1) with
  | none => rfl
  | some s =>
    rw [hm] at h
    dsimp only at h
    split at h <;> cases h
theorem tfs_len (m : tM) (ci a : Nat) : (tfs m ci a).length = tN ci := by simp [tfs]
theorem tfs_at {m : tM} {ci a j : Nat} (hj : j < tN ci) : (tfs m ci a)[j]? = some (tv (tk ci j) m a j) := by
  unfold tfs
  rw [List.getElem?_map, List.getElem?_range hj]
  rfl
/-- one cell written -/
theorem tH_up {G : xG} {g : xH} {m m2 : tM} {a : Nat} {s : Nat ⊕ (Nat × Nat)} {e : va_E} (hs : m.1 (a + 1) = some s) (hf : s ≠ tFo) (h1 : m2.1 = m.1) (h2 : tcell G m2 (a + 1) s = e) (h3 : ∀ b, b ≠ a + 1 → ∀ s', tcell G m2 b s' = tcell G m b s') : xUp (tH G g m) a e = tH G g m2 := by
  funext b
  by_cases hb : b = a
  · subst hb
    rw [xUp_self]
    unfold tH
    rw [h1, hs, ← h2]
    exact (if_neg hf).symm
  · rw [xUp_ne _ _ hb]
    unfold tH
    rw [h1]
    cases m.1 (b + 1) with
    | none => rfl
    | some s' =>
      dsimp only
      rw [h3 (b + 1) (fun z => hb (by omega)) s']
theorem tcell_ext {G : xG} {m m2 : tM} {b : Nat} (h1 : m2.2.1 b = m.2.1 b) (h2 : m2.2.2.1 b = m.2.2.1 b) (h3 : m2.2.2.2 b = m.2.2.2 b) (s : Nat ⊕ (Nat × Nat)) : tcell G m2 b s = tcell G m b s := by
  unfold tcell tfs tof tv tI tJ tR
  rw [h1, h2, h3]
theorem tsI_ne {m : tM} {a b j : Nat} {x : Int32} (h : b ≠ a) : (tsI m a j x).2.1 b = m.2.1 b := by funext i; simp [tsI, h]
theorem tsJ_ne {m : tM} {a b j : Nat} {x : Int64} (h : b ≠ a) : (tsJ m a j x).2.2.1 b = m.2.2.1 b := by funext i; simp [tsJ, h]
theorem tsR_ne {m : tM} {a b j : Nat} {x : Nat} (h : b ≠ a) : (tsR m a j x).2.2.2 b = m.2.2.2 b := by funext i; simp [tsR, h]
theorem map_range_set {α : Type} (f : Nat → α) {n j : Nat} (v : α) : ((List.range n).map f).set j v = (List.range n).map fun i => if i = j then v else f i := by
  apply List.ext_getElem?
  intro i
  rw [List.getElem?_set, List.getElem?_map, List.getElem?_map]
  by_cases hij : j = i
  · subst hij
    by_cases hn : j < n
    · simp [hn]
    · simp [hn]
  · rw [if_neg hij]
    by_cases hn : i < n
    · simp [hn, Ne.symm hij]
    · simp [hn]
theorem tfs_setI {m : tM} {ci a j : Nat} {x : Int32} (hk : tk ci j = 0) : (tfs m ci a).set j (.int x) = tfs (tsI m a j x) ci a := by
  unfold tfs
  rw [map_range_set]
  refine List.map_congr_left fun i _ => ?_
  by_cases hi : i = j
  · subst hi
    simp [tv, hk, tsI, tI, tJ, tR]
  · simp [hi, tv, tsI, tI, tJ, tR]
theorem tfs_setJ {m : tM} {ci a j : Nat} {x : Int64} (hk : tk ci j = 1) : (tfs m ci a).set j (.long x) = tfs (tsJ m a j x) ci a := by
  unfold tfs
  rw [map_range_set]
  refine List.map_congr_left fun i _ => ?_
  by_cases hi : i = j
  · subst hi
    simp [tv, hk, tsJ, tI, tJ, tR]
  · simp [hi, tv, tsJ, tI, tJ, tR]
theorem tfs_setR {m : tM} {ci a j : Nat} {x : Nat} (hk : tk ci j = 2) : (tfs m ci a).set j (rfv x) = tfs (tsR m a j x) ci a := by
  unfold tfs
  rw [map_range_set]
  refine List.map_congr_left fun i _ => ?_
  by_cases hi : i = j
  · subst hi
    simp [tv, hk, tsR, tI, tJ, tR]
  · simp [hi, tv, tsR, tI, tJ, tR]
section TR
variable {G : xG} {l : Launch} {M : xM} {d k n : Nat} {Q : xR → xH → Prop} {pc : Nat} {lv : xLs} {st : List Value} {h g : xH} {m : tM}
theorem t_getI {a ci j idx : Nat} (hdg : decode M.2.1 pc = .ok (.getfield idx, 3)) (hf : xFa M.1.cls idx ci j) (hk : tk ci j = 0 ∧ j < tN ci) (ho : tO m ci a)
    (kk : xF G l M d k n Q (pc + 3) lv (.int (tI m a j) :: st) (tH G g m)) : xF G l M d k n Q pc lv (rfv a :: st) (tH G g m) := by
  obtain ⟨a, rfl⟩ := Nat.exists_eq_succ_of_ne_zero ho.2
  exact x_get hdg hf (tH_atO ho) (tfs_at hk.2) (by unfold tv; rw [if_pos hk.1]; exact kk)
theorem t_getJ {a ci j idx : Nat} (hdg : decode M.2.1 pc = .ok (.getfield idx, 3)) (hf : xFa M.1.cls idx ci j) (hk : tk ci j = 1 ∧ j < tN ci) (ho : tO m ci a)
    (kk : xF G l M d k n Q (pc + 3) lv (.long (tJ m a j) :: st) (tH G g m)) : xF G l M d k n Q pc lv (rfv a :: st) (tH G g m) := by
  obtain ⟨a, rfl⟩ := Nat.exists_eq_succ_of_ne_zero ho.2
  exact x_get hdg hf (tH_atO ho) (tfs_at hk.2) (by unfold tv; rw [if_neg (by rw [hk.1]; decide), if_pos hk.1]; exact kk)
theorem t_getR {a ci j idx : Nat} (hdg : decode M.2.1 pc = .ok (.getfield idx, 3)) (hf : xFa M.1.cls idx ci j) (hk : tk ci j = 2 ∧ j < tN ci) (ho : tO m ci a)
    (kk : xF G l M d k n Q (pc + 3) lv (rfv (tR m a j) :: st) (tH G g m)) : xF G l M d k n Q pc lv (rfv a :: st) (tH G g m) := by
  obtain ⟨a, rfl⟩ := Nat.exists_eq_succ_of_ne_zero ho.2
  exact x_get hdg hf (tH_atO ho) (tfs_at hk.2) (by unfold tv; rw [if_neg (by rw [hk.1]; decide), if_neg (by rw [hk.1]; decide)]; exact kk)
theorem tH_upI {a ci j : Nat} {x : Int32} (ho : tO m ci (a + 1)) (hk : tk ci j = 0) : xUp (tH G g m) a (.inr (ci, (tfs m ci (a + 1)).set j (.int x))) = tH G g (tsI m (a + 1) j x) :=
  tH_up (m := m) (m2 := tsI m (a + 1) j x) ho.1 (fun z => by cases z) rfl (by rw [tfs_setI hk]; rfl) fun b hb s' => tcell_ext (m := m) (m2 := tsI m (a + 1) j x) (tsI_ne hb) rfl rfl s'
theorem tH_upJ {a ci j : Nat} {x : Int64} (ho : tO m ci (a + 1)) (hk : tk ci j = 1) : xUp (tH G g m) a (.inr (ci, (tfs m ci (a + 1)).set j (.long x))) = tH G g (tsJ m (a + 1) j x) :=
  tH_up (m := m) (m2 := tsJ m (a + 1) j x) ho.1 (fun z => by cases z) rfl (by rw [tfs_setJ hk]; rfl) fun b hb s' => tcell_ext (m := m) (m2 := tsJ m (a + 1) j x) rfl (tsJ_ne hb) rfl s'
theorem tH_upR {a ci j x : Nat} (ho : tO m ci (a + 1)) (hk : tk ci j = 2) : xUp (tH G g m) a (.inr (ci, (tfs m ci (a + 1)).set j (rfv x))) = tH G g (tsR m (a + 1) j x) :=
  tH_up (m := m) (m2 := tsR m (a + 1) j x) ho.1 (fun z => by cases z) rfl (by rw [tfs_setR hk]; rfl) fun b hb s' => tcell_ext (m := m) (m2 := tsR m (a + 1) j x) rfl rfl (tsR_ne hb) s'
theorem t_putI {a ci j idx : Nat} {x : Int32} {t : FieldType} (hdg : decode M.2.1 pc = .ok (.putfield idx, 3)) (hf : xFp M.1.cls idx ci j t) (hk : tk ci j = 0 ∧ j < tN ci) (ho : tO m ci a) (hn : narrow t (.int x) = .int x) (hfit : fits t (.int x) = true)
    (kk : xF G l M d k n Q (pc + 3) lv st (tH G g (tsI m a j x))) : xF G l M d k n Q pc lv (.int x :: rfv a :: st) (tH G g m) := by
  obtain ⟨a, rfl⟩ := Nat.exists_eq_succ_of_ne_zero ho.2
  exact x_put hdg hf (tH_atO ho) (by rw [tfs_len]; exact hk.2) hn hfit (x_eqh (tH_upI ho hk.1) kk)
theorem t_putJ {a ci j idx : Nat} {x : Int64} (hdg : decode M.2.1 pc = .ok (.putfield idx, 3)) (hf : xFp M.1.cls idx ci j .long) (hk : tk ci j = 1 ∧ j < tN ci) (ho : tO m ci a)
    (kk : xF G l M d k n Q (pc + 3) lv st (tH G g (tsJ m a j x))) : xF G l M d k n Q pc lv (.long x :: rfv a :: st) (tH G g m) := by
  obtain ⟨a, rfl⟩ := Nat.exists_eq_succ_of_ne_zero ho.2
  exact x_put hdg hf (tH_atO ho) (by rw [tfs_len]; exact hk.2) rfl rfl (x_eqh (tH_upJ ho hk.1) kk)
theorem rfv_nar {t : FieldType} (ht : t.isReference = true) (x : Nat) : narrow t (rfv x) = rfv x := by
  cases x <;> cases t <;> first | rfl | (simp [FieldType.isReference] at ht)
theorem rfv_fit {t : FieldType} (ht : t.isReference = true) (x : Nat) : fits t (rfv x) = true := by
  cases x <;> cases t <;> first | rfl | (simp [FieldType.isReference] at ht)
theorem t_putR {a ci j idx x : Nat} {t : FieldType} (hdg : decode M.2.1 pc = .ok (.putfield idx, 3)) (hf : xFp M.1.cls idx ci j t) (hk : tk ci j = 2 ∧ j < tN ci) (ho : tO m ci a) (ht : t.isReference = true)
    (kk : xF G l M d k n Q (pc + 3) lv st (tH G g (tsR m a j x))) : xF G l M d k n Q pc lv (rfv x :: rfv a :: st) (tH G g m) := by
  obtain ⟨a, rfl⟩ := Nat.exists_eq_succ_of_ne_zero ho.2
  exact x_put hdg hf (tH_atO ho) (by rw [tfs_len]; exact hk.2) (rfv_nar ht x) (rfv_fit ht x) (x_eqh (tH_upR ho hk.1) kk)
/-! final fields, in constructors -/
theorem t_putFI {a ci j idx : Nat} {x : Int32} {t : FieldType} (hdg : decode M.2.1 pc = .ok (.putfield idx, 3)) (hf : xFf M.1.cls idx ci j t) (hm : M.1.name = "<init>") (hk : tk ci j = 0 ∧ j < tN ci) (ho : tO m ci a) (hn : narrow t (.int x) = .int x) (hfit : fits t (.int x) = true)
    (kk : xF G l M d k n Q (pc + 3) lv st (tH G g (tsI m a j x))) : xF G l M d k n Q pc lv (.int x :: rfv a :: st) (tH G g m) := by
  obtain ⟨a, rfl⟩ := Nat.exists_eq_succ_of_ne_zero ho.2
  exact x_putF hdg hf hm (tH_atO ho) (by rw [tfs_len]; exact hk.2) hn hfit (x_eqh (tH_upI ho hk.1) kk)
theorem t_putFR {a ci j idx x : Nat} {t : FieldType} (hdg : decode M.2.1 pc = .ok (.putfield idx, 3)) (hf : xFf M.1.cls idx ci j t) (hm : M.1.name = "<init>") (hk : tk ci j = 2 ∧ j < tN ci) (ho : tO m ci a) (ht : t.isReference = true)
    (kk : xF G l M d k n Q (pc + 3) lv st (tH G g (tsR m a j x))) : xF G l M d k n Q pc lv (rfv x :: rfv a :: st) (tH G g m) := by
  obtain ⟨a, rfl⟩ := Nat.exists_eq_succ_of_ne_zero ho.2
  exact x_putF hdg hf hm (tH_atO ho) (by rw [tfs_len]; exact hk.2) (rfv_nar ht x) (rfv_fit ht x) (x_eqh (tH_upR ho hk.1) kk)
/-! arrays -/
theorem tH_I {t N a : Nat} (ht : t = 0 ∨ t = 2 ∨ t = 3) (ho : tA m t N (a + 1)) : tH G g m a = some (xI G t N (m.2.1 (a + 1))) := by
  rw [tH_atA ho (by omega)]
  unfold tcell
  dsimp only
  rw [if_neg (by omega), if_pos ht]
theorem tH_J {N a : Nat} (ho : tA m 1 N (a + 1)) : tH G g m a = some (xJ G N (m.2.2.1 (a + 1))) := by rw [tH_atA ho (by decide)]; rfl
theorem tH_O {t N a : Nat} (ht : 4 ≤ t) (ht2 : t < 99) (ho : tA m t N (a + 1)) : tH G g m a = some (xO G t N (tof m (a + 1))) := by
  rw [tH_atA ho ht2]
  unfold tcell
  dsimp only
  rw [if_neg (by omega), if_neg (by omega)]
theorem t_iald {a : Nat} {i : Int32} (hdg : decode M.2.1 pc = .ok (.iaload, 1)) (ho : tX m 0 a i)
    (kk : xF G l M d k n Q (pc + 1) lv (.int (tI m a i.toNatClampNeg) :: st) (tH G g m)) : xF G l M d k n Q pc lv (.int i :: rfv a :: st) (tH G g m) := by
  obtain ⟨N, ho, hin⟩ := ho
  obtain ⟨a, rfl⟩ := Nat.exists_eq_succ_of_ne_zero ho.2
  exact x_iald hdg (tH_I (Or.inl rfl) ho) hin kk
theorem t_bald {a : Nat} {i : Int32} (hdg : decode M.2.1 pc = .ok (.baload, 1)) (ho : tX m 2 a i)
    (kk : xF G l M d k n Q (pc + 1) lv (.int (tI m a i.toNatClampNeg) :: st) (tH G g m)) : xF G l M d k n Q pc lv (.int i :: rfv a :: st) (tH G g m) := by
  obtain ⟨N, ho, hin⟩ := ho
  obtain ⟨a, rfl⟩ := Nat.exists_eq_succ_of_ne_zero ho.2
  exact x_bald hdg (tH_I (Or.inr (Or.inl rfl)) ho) hin kk
theorem t_zald {a : Nat} {i : Int32} (hdg : decode M.2.1 pc = .ok (.baload, 1)) (ho : tX m 3 a i)
    (kk : xF G l M d k n Q (pc + 1) lv (.int (tI m a i.toNatClampNeg) :: st) (tH G g m)) : xF G l M d k n Q pc lv (.int i :: rfv a :: st) (tH G g m) := by
  obtain ⟨N, ho, hin⟩ := ho
  obtain ⟨a, rfl⟩ := Nat.exists_eq_succ_of_ne_zero ho.2
  exact x_zald hdg (tH_I (Or.inr (Or.inr rfl)) ho) hin kk
theorem t_lald {a : Nat} {i : Int32} (hdg : decode M.2.1 pc = .ok (.laload, 1)) (ho : tX m 1 a i)
    (kk : xF G l M d k n Q (pc + 1) lv (.long (tJ m a i.toNatClampNeg) :: st) (tH G g m)) : xF G l M d k n Q pc lv (.int i :: rfv a :: st) (tH G g m) := by
  obtain ⟨N, ho, hin⟩ := ho
  obtain ⟨a, rfl⟩ := Nat.exists_eq_succ_of_ne_zero ho.2
  exact x_lald hdg (tH_J ho) hin kk
theorem t_aald {a t : Nat} {ty : FieldType} {i : Int32} (hdg : decode M.2.1 pc = .ok (.aaload, 1)) (ht : xtys[t]? = some ty ∧ 4 ≤ t ∧ t < 99) (hty : ty.isReference = true) (ho : tX m t a i)
    (kk : xF G l M d k n Q (pc + 1) lv (rfv (tR m a i.toNatClampNeg) :: st) (tH G g m)) : xF G l M d k n Q pc lv (.int i :: rfv a :: st) (tH G g m) := by
  obtain ⟨N, ho, hin⟩ := ho
  obtain ⟨a, rfl⟩ := Nat.exists_eq_succ_of_ne_zero ho.2
  refine x_aald hdg ht.1 hty (tH_O ht.2.1 ht.2.2 ho) hin ?_
  have e : va_rf (tof m (a + 1) i.toNatClampNeg) = rfv (tR m (a + 1) i.toNatClampNeg) := by
    unfold tof rfv
    cases tR m (a + 1) i.toNatClampNeg <;> rfl
  rw [e]
  exact kk
theorem t_alen {a t : Nat} {ty : FieldType} (hdg : decode M.2.1 pc = .ok (.arraylength, 1)) (ht : xtys[t]? = some ty ∧ t < 99) (ho : ∃ N, tA m t N a)
    (kk : xF G l M d k n Q (pc + 1) lv (.int (Int32.ofNat (tLen m a)) :: st) (tH G g m)) : xF G l M d k n Q pc lv (rfv a :: st) (tH G g m) := by
  obtain ⟨N, ho⟩ := ho
  obtain ⟨a, rfl⟩ := Nat.exists_eq_succ_of_ne_zero ho.2
  have e : tLen m (a + 1) = N := by unfold tLen; rw [ho.1]
  rw [e] at kk
  have e2 : ∃ x : vp_A, tcell G m (a + 1) (.inr (t, N)) = .inl (G.2.1 t, x) ∧ x.1 = N := by
    unfold tcell
    dsimp only
    split
    · rename_i h1
      subst h1
      exact ⟨_, rfl, rfl⟩
    · split
      · exact ⟨_, rfl, rfl⟩
      · exact ⟨_, rfl, rfl⟩
  obtain ⟨x, e3, e4⟩ := e2
  exact x_alen (N := 0) (x := x) hdg ht.1 (by rw [tH_atA ho ht.2, e3]) (by rw [e4]) kk
theorem tH_upA {t N a : Nat} {i : Nat} {x : Int32} (ht : t = 0 ∨ t = 2 ∨ t = 3) (ho : tA m t N (a + 1)) : xUp (tH G g m) a (xI G t N (upd (m.2.1 (a + 1)) i x)) = tH G g (tsI m (a + 1) i x) := by
  refine tH_up (m := m) (m2 := tsI m (a + 1) i x) ho.1 (tFo_ne (by omega)) rfl ?_ fun b hb s' => tcell_ext (m := m) (m2 := tsI m (a + 1) i x) (tsI_ne hb) rfl rfl s'
  unfold tcell
  dsimp only
  rw [if_neg (by omega), if_pos ht]
  have : (tsI m (a + 1) i x).2.1 (a + 1) = upd (m.2.1 (a + 1)) i x := by funext j; simp [tsI, upd]
  rw [this]
theorem t_iast {a : Nat} {i x : Int32} (hdg : decode M.2.1 pc = .ok (.iastore, 1)) (ho : tX m 0 a i)
    (kk : xF G l M d k n Q (pc + 1) lv st (tH G g (tsI m a i.toNatClampNeg x))) : xF G l M d k n Q pc lv (.int x :: .int i :: rfv a :: st) (tH G g m) := by
  obtain ⟨N, ho, hin⟩ := ho
  obtain ⟨a, rfl⟩ := Nat.exists_eq_succ_of_ne_zero ho.2
  exact x_iast hdg (tH_I (Or.inl rfl) ho) hin (x_eqh (tH_upA (Or.inl rfl) ho) kk)
theorem t_bast {a : Nat} {i x : Int32} (hdg : decode M.2.1 pc = .ok (.bastore, 1)) (ho : tX m 2 a i)
    (kk : xF G l M d k n Q (pc + 1) lv st (tH G g (tsI m a i.toNatClampNeg (vp_nar .byte x)))) : xF G l M d k n Q pc lv (.int x :: .int i :: rfv a :: st) (tH G g m) := by
  obtain ⟨N, ho, hin⟩ := ho
  obtain ⟨a, rfl⟩ := Nat.exists_eq_succ_of_ne_zero ho.2
  exact x_bast hdg (tH_I (Or.inr (Or.inl rfl)) ho) hin (x_eqh (tH_upA (Or.inr (Or.inl rfl)) ho) kk)
theorem t_zast {a : Nat} {i x : Int32} (hdg : decode M.2.1 pc = .ok (.bastore, 1)) (ho : tX m 3 a i)
    (kk : xF G l M d k n Q (pc + 1) lv st (tH G g (tsI m a i.toNatClampNeg (vp_nar .boolean x)))) : xF G l M d k n Q pc lv (.int x :: .int i :: rfv a :: st) (tH G g m) := by
  obtain ⟨N, ho, hin⟩ := ho
  obtain ⟨a, rfl⟩ := Nat.exists_eq_succ_of_ne_zero ho.2
  exact x_zast hdg (tH_I (Or.inr (Or.inr rfl)) ho) hin (x_eqh (tH_upA (Or.inr (Or.inr rfl)) ho) kk)
theorem t_last {a : Nat} {i : Int32} {x : Int64} (hdg : decode M.2.1 pc = .ok (.lastore, 1)) (ho : tX m 1 a i)
    (kk : xF G l M d k n Q (pc + 1) lv st (tH G g (tsJ m a i.toNatClampNeg x))) : xF G l M d k n Q pc lv (.long x :: .int i :: rfv a :: st) (tH G g m) := by
  obtain ⟨N, ho, hin⟩ := ho
  obtain ⟨a, rfl⟩ := Nat.exists_eq_succ_of_ne_zero ho.2
  refine x_last hdg (tH_J ho) hin (x_eqh (tH_up (m := m) (m2 := tsJ m (a + 1) i.toNatClampNeg x) ho.1 (tFo_ne (by decide)) rfl ?_ fun b hb s' => tcell_ext (m := m) (m2 := tsJ m (a + 1) i.toNatClampNeg x) rfl (tsJ_ne hb) rfl s') kk)
  have : (tsJ m (a + 1) i.toNatClampNeg x).2.2.1 (a + 1) = vp_updL (m.2.2.1 (a + 1)) i.toNatClampNeg x := by funext j; simp [tsJ, vp_updL]
  unfold tcell
  dsimp only
  rw [if_pos rfl, this]
/-! locals and stack with references -/
theorem t_ifnull {off : Int} {x : Nat} (tgt : Nat) (hdg : decode M.2.1 pc = .ok (.ifnull off, 3)) (ht : (pc : Int) + off = (tgt : Int)) (kt : x = 0 → xF G l M d k n Q tgt lv st h) (kf : ¬ x = 0 → xF G l M d k n Q (pc + 3) lv st h) : xF G l M d k n Q pc lv (rfv x :: st) h := by
  cases x with
  | zero => exact x_ifnullN tgt hdg ht (kt rfl)
  | succ x => exact x_ifnull hdg (kf (Nat.succ_ne_zero x))
theorem t_ifnonnull {off : Int} {x : Nat} (tgt : Nat) (hdg : decode M.2.1 pc = .ok (.ifnonnull off, 3)) (ht : (pc : Int) + off = (tgt : Int)) (kt : ¬ x = 0 → xF G l M d k n Q tgt lv st h) (kf : x = 0 → xF G l M d k n Q (pc + 3) lv st h) : xF G l M d k n Q pc lv (rfv x :: st) h := by
  cases x with
  | zero => exact x_ifnonnullN hdg (kf rfl)
  | succ x => exact x_ifnonnull tgt hdg ht (kt (Nat.succ_ne_zero x))
theorem t_null (hdg : decode M.2.1 pc = .ok (.aconst_null, 1)) (kk : xF G l M d k n Q (pc + 1) lv (rfv 0 :: st) h) : xF G l M d k n Q pc lv st h := x_aconst hdg kk
theorem t_aret {x : Nat} {rt : FieldType} (hdg : decode M.2.1 pc = .ok (.areturn, 1)) (hr : M.2.2.2.1 = some rt) (hrt : (∃ n, rt = .object n) ∨ ∃ t, rt = .array t) (hq : Q (.inl (some (rfv x))) h) : xF G l M d k n Q pc lv [rfv x] h := x_aret hdg hr hrt (rfv_or x) hq
theorem xN2_f {x : Nat} : xN2 (some (rfv x)) := fun w h => by cases h; exact rfv_c x
/-! what is made -/
theorem tH_new {q : Nat} {s : Nat ⊕ (Nat × Nat)} {e : va_E} (hs : s ≠ tFo) (he : tcell G (tNew m (q + 1) s) (q + 1) s = e) : xUp (tH G g m) q e = tH G g (tNew m (q + 1) s) := by
  funext b
  by_cases hb : b = q
  · subst hb
    rw [xUp_self]
    have : (tNew m (b + 1) s).1 (b + 1) = some s := by simp [tNew]
    rw [tH_at this hs, he]
  · rw [xUp_ne _ _ hb]
    unfold tH
    have h1 : (tNew m (q + 1) s).1 (b + 1) = m.1 (b + 1) := by simp [tNew, hb]
    rw [h1]
    cases m.1 (b + 1) with
    | none => rfl
    | some s' =>
      have : tcell G (tNew m (q + 1) s) (b + 1) s' = tcell G m (b + 1) s' := tcell_ext (by funext i; simp [tNew, hb]) (by funext i; simp [tNew, hb]) (by funext i; simp [tNew, hb]) s'
      dsimp only
      rw [this]
/-- the empty table lies below the new cells -/
theorem xOld {G : xG} {U : State} (h : xK G U) : G.2.2.1 200 < G.2.2.2 := by
  obtain ⟨cell, -, -, -, -, -, -, hn⟩ := h.2.2.2.2.2.2.2.2.1
  exact Nat.lt_of_not_le hn
/-- new: class ci through the pool's entry idx -/
def xNe (own : String) (idx ci : Nat) : Prop := ∃ (C : String) (T : u_T) (N : Nat) (ty : Nat → FieldType), xCl ci C T N ty ∧ Cond.classLink own idx C ∈ lw_all ∧ Cond.instantiable C N ∈ lw_all ∧ Cond.initialized C ∈ lw_all ∧ N = tN ci ∧ ∀ j, j < N → (tk ci j = 0 ∧ defaultValue (ty j) = .int 0) ∨ (tk ci j = 1 ∧ defaultValue (ty j) = .long 0) ∨ (tk ci j = 2 ∧ defaultValue (ty j) = .null)
theorem t_new {ci idx N : Nat} (hdg : decode M.2.1 pc = .ok (.new idx, 3)) (hf : xNe M.1.cls idx ci) (hN : tN ci = N) (hk : 1 ≤ k) (hn : N ≤ n)
    (kk : ∀ q : Nat, m.1 q = none → q ≠ 0 → q ≠ G.2.2.1 200 + 1 → xF G l M d (k - 1) (n - N) Q (pc + 3) lv (rfv q :: st) (tH G g (tNew m q (.inl ci)))) : xF G l M d k n Q pc lv st (tH G g m) := by
  subst hN
  intro p e R s m₀ args below meth c H locs cells slots ls F hL hc hs hR hS
  obtain ⟨C, T, N, ty, ⟨hcl, hin, hty⟩, w1, w2, w3, rfl, hdef⟩ := hf
  have hK := F.2.2.2.2.2.2.2.2.2.2.1
  have hKn := hK.1.1 ci _ hcl
  refine W.newcK F.1 F.2.1 F.2.2.2.2.1 (F.2.2.2.2.2.1 _ w1) (F.2.2.2.2.2.1 _ w2) (F.2.2.2.2.2.1 _ w3) rfl hdg (by omega) (by omega) hKn.2.1 rfl fun H1 kC hkC e1 z1 o1 => ?_
  have hq : m.1 (H.size + 1) = none := tH_no hR.fresh
  have hA : xA G H.size := Nat.le_trans hK.2.1 hS.1
  have hob := (u_born ty F.2.2.2.2.2.1 hin hKn hkC e1 hty).to (V' := vp_V (tfs (tNew m (H.size + 1) (.inl ci)) ci (H.size + 1))) (fun j hj => by
    unfold vp_V
    rw [List.getD_eq_getElem?_getD, tfs_at hj]
    rcases hdef j hj with ⟨h1, h2⟩ | ⟨h1, h2⟩ | ⟨h1, h2⟩
    · simp [tv, h1, h2, tNew, tI, tJ, tR]
    · simp [tv, h1, h2, tNew, tI, tJ, tR]
    · simp [tv, h1, h2, tNew, tI, tJ, tR, rfv])
  have hR1 : xRep G (tH G g (tNew m (H.size + 1) (.inl ci))) H1 := by
    rw [← tH_new (e := .inr (ci, tfs (tNew m (H.size + 1) (.inl ci)) ci (H.size + 1))) (fun z => by cases z) rfl]
    exact hR.push hA ⟨_, hcl, hob⟩ o1
  exact kk (H.size + 1) hq (Nat.succ_ne_zero _) (fun e9 => by have h8 := xOld hK; have h9 : G.2.2.2 ≤ H.size := hA; omega) p e R s m₀ args below meth c H1 locs (cells + 1) (slots + tN ci) ls F hL (by omega) (by omega) hR1 ⟨Nat.le_trans hS.1 (by omega), fun x h1 h2 => (o1 x (Nat.lt_of_lt_of_le h1 hS.1)).trans (hS.2.1 x h1 h2), hS.2.2⟩
theorem arr_uniq {s : State} {a b : ClassId} {nm : String} (h1 : s.vm.findClass nm = some a) (h2 : s.vm.findClass nm = some b) : a = b := Option.some.inj (h1.symm.trans h2)
/-- a new array of numbers -/
theorem t_newarr {t N : Nat} {ty : FieldType} {atype : ArrayType} {z : Int32} (hdg : decode M.2.1 pc = .ok (.newarray atype, 2)) (ht : xtys[t]? = some ty) (hty : newarray.typeOf atype = ty) (hw : Cond.arrayClass ty ∈ lw_all) (hk4 : t < 4) (hdef : defaultValue ty = if t = 1 then .long 0 else .int 0) (hra : ∀ (U : State) (cA : ClassId), va_RA U cA ty → U.vm.findClass ("[" ++ ty.toString) = some cA) (hz : ¬ z < 0) (hN : z.toNatClampNeg = N) (hb : N * componentBytes ty ≤ 536870912) (hk : 1 ≤ k) (hn : N ≤ n)
    (kk : ∀ q : Nat, m.1 q = none → q ≠ 0 → q ≠ G.2.2.1 200 + 1 → xF G l M d (k - 1) (n - N) Q (pc + 2) lv (rfv q :: st) (tH G g (tNew m q (.inr (t, N))))) : xF G l M d k n Q pc lv (.int z :: st) (tH G g m) := by
  subst hty
  intro p e R s m₀ args below meth c H locs cells slots ls F hL hc hs hR hS
  have hK := F.2.2.2.2.2.2.2.2.2.2.1
  refine va_newaK F.1 F.2.1 (F.2.2.2.2.2.1 _ hw) rfl hdg rfl hz hN hb (by omega) (by omega) rfl fun H1 cA e1 z1 o1 hAr hNm => ?_
  have hcA : cA = G.2.1 t := arr_uniq hNm (hra s _ (hK.1.2.1 t _ ht).2)
  subst hcA
  have hq : m.1 (H.size + 1) = none := tH_no hR.fresh
  have hA : xA G H.size := Nat.le_trans hK.2.1 hS.1
  have hR1 : xRep G (tH G g (tNew m (H.size + 1) (.inr (t, N)))) H1 := by
    rw [← tH_new (tFo_ne (by omega)) rfl]
    refine hR.push hA ?_ o1
    unfold tcell
    dsimp only
    by_cases h1 : t = 1
    · subst h1
      rw [if_pos rfl]
      show H1[H.size]? = some (vp_cell _ _)
      rw [vp_cell_l, e1, hdef]
      simp [tNew]
    · rw [if_neg h1, if_pos (by have : t = 0 ∨ t = 1 ∨ t = 2 ∨ t = 3 := by omega
                                rcases this with h | h | h | h
                                · exact Or.inl h
                                · exact absurd h h1
                                · exact Or.inr (Or.inl h)
                                · exact Or.inr (Or.inr h))]
      show H1[H.size]? = some (vp_cell _ _)
      rw [vp_cell_i, e1, hdef, if_neg h1]
      simp [tNew]
  exact kk (H.size + 1) hq (Nat.succ_ne_zero _) (fun e9 => by have h8 := xOld hK; have h9 : G.2.2.2 ≤ H.size := hA; omega) p e R s m₀ args below meth c H1 locs (cells + 1) (slots + N) ls F hL (by omega) (by omega) hR1 ⟨Nat.le_trans hS.1 (by omega), fun x h1 h2 => (o1 x (Nat.lt_of_lt_of_le h1 hS.1)).trans (hS.2.1 x h1 h2), hS.2.2⟩
/-- a new array of objects -/
def xNq (own : String) (idx t : Nat) : Prop := ∃ C : String, xtys[t]? = some (.object C) ∧ 4 ≤ t ∧ t < 99 ∧ Cond.classLink own idx C ∈ lw_all ∧ Cond.arrayOver (.object C) ∈ xnw
theorem t_anew {t N idx : Nat} {z : Int32} (hdg : decode M.2.1 pc = .ok (.anewarray idx, 3)) (hf : xNq M.1.cls idx t) (hz : ¬ z < 0) (hN : z.toNatClampNeg = N) (hb : N * 4 ≤ 536870912) (hk : 1 ≤ k) (hn : N ≤ n)
    (kk : ∀ q : Nat, m.1 q = none → q ≠ 0 → q ≠ G.2.2.1 200 + 1 → xF G l M d (k - 1) (n - N) Q (pc + 3) lv (rfv q :: st) (tH G g (tNew m q (.inr (t, N))))) : xF G l M d k n Q pc lv (.int z :: st) (tH G g m) := by
  subst hN
  intro p e R s m₀ args below meth c H locs cells slots ls F hL hc hs hR hS
  obtain ⟨C, ht, h4, h99, w1, w2⟩ := hf
  have hK := F.2.2.2.2.2.2.2.2.2.2.1
  refine W.anew F.1 F.2.1 F.2.2.2.2.1 (F.2.2.2.2.2.1 _ w1) (va_AO.use (hK.2.2.1 _ w2)) rfl hdg rfl hz hb (by omega) (by omega) fun cA kA comp f1 f2 f3 f4 => ?_
  generalize hH1 : H.push ({ cls := cA, slots := Array.replicate z.toNatClampNeg .null, vm := .none } : Cell) = H1
  have z1 : H1.size = H.size + 1 := by rw [← hH1, Array.size_push]
  have e1 : H1[H.size]? = some (arrV cA z.toNatClampNeg (fun _ => .null)) := by rw [← hH1, Array.getElem?_push_size, ← arrV_new]
  have o1 : ∀ q : Nat, q < H.size → H1[q]? = H[q]? := fun q hq => by rw [← hH1, Array.getElem?_push, if_neg (Nat.ne_of_lt hq)]
  obtain ⟨kB, comp2, -, -, -, f5⟩ := (hK.1.2.1 t _ ht).2
  have hcA : cA = G.2.1 t := arr_uniq f1 f5
  subst hcA
  have hq : m.1 (H.size + 1) = none := tH_no hR.fresh
  have hA : xA G H.size := Nat.le_trans hK.2.1 hS.1
  have hR1 : xRep G (tH G g (tNew m (H.size + 1) (.inr (t, z.toNatClampNeg)))) H1 := by
    rw [← tH_new (tFo_ne h99) rfl]
    refine hR.push hA ?_ o1
    unfold tcell
    dsimp only
    rw [if_neg (by omega), if_neg (by omega)]
    show H1[H.size]? = some (vp_cell _ _)
    rw [vp_cell_q, e1]
    simp [tNew, tof, va_rf, tR]
  exact kk (H.size + 1) hq (Nat.succ_ne_zero _) (fun e9 => by have h8 := xOld hK; have h9 : G.2.2.2 ≤ H.size := hA; omega) p e R s m₀ args below meth c H1 locs (cells + 1) (slots + z.toNatClampNeg) ls F hL (by omega) (by omega) hR1 ⟨Nat.le_trans hS.1 (by omega), fun x h1 h2 => (o1 x (Nat.lt_of_lt_of_le h1 hS.1)).trans (hS.2.1 x h1 h2), hS.2.2⟩
/-- what may be stored in an array of references of type t -/
def xSt (t ci : Nat) : Prop := ∃ (E C : String) (T : u_T) (N : Nat), xtys[t]? = some (.object E) ∧ 4 ≤ t ∧ t < 99 ∧ xcl[ci]? = some (C, T, N) ∧ (E = C ∨ Cond.castable C E ∈ xnw)
theorem tH_upR2 {t N a i v : Nat} (h4 : 4 ≤ t) (h99 : t < 99) (ho : tA m t N (a + 1)) : xUp (tH G g m) a (xO G t N (va_up (tof m (a + 1)) i (match v with | 0 => none | r + 1 => some r))) = tH G g (tsR m (a + 1) i v) := by
  refine tH_up (m := m) (m2 := tsR m (a + 1) i v) ho.1 (tFo_ne h99) rfl ?_ fun b hb s' => tcell_ext (m := m) (m2 := tsR m (a + 1) i v) rfl rfl (tsR_ne hb) s'
  unfold tcell
  dsimp only
  rw [if_neg (by omega), if_neg (by omega)]
  have : tof (tsR m (a + 1) i v) (a + 1) = va_up (tof m (a + 1)) i (match v with | 0 => none | r + 1 => some r) := by
    funext j
    unfold tof va_up
    by_cases hj : j = i
    · subst hj
      simp [tsR, tR]
    · simp [tsR, tR, hj]
  rw [this]
theorem t_aast {a t v ci : Nat} {i : Int32} (hdg : decode M.2.1 pc = .ok (.aastore, 1)) (hf : xSt t ci) (hv : tO m ci v) (ho : tX m t a i)
    (kk : xF G l M d k n Q (pc + 1) lv st (tH G g (tsR m a i.toNatClampNeg v))) : xF G l M d k n Q pc lv (rfv v :: .int i :: rfv a :: st) (tH G g m) := by
  obtain ⟨E, C, T, N0, ht, h4, h99, hcl, has⟩ := hf
  obtain ⟨N, ho, hin⟩ := ho
  obtain ⟨a, rfl⟩ := Nat.exists_eq_succ_of_ne_zero ho.2
  obtain ⟨v, rfl⟩ := Nat.exists_eq_succ_of_ne_zero hv.2
  intro p e R s m₀ args below meth c H locs cells slots ls F hL hc hs hR hS
  have hK := F.2.2.2.2.2.2.2.2.2.2.1
  obtain ⟨hA, hcell⟩ := hR a _ (tH_O h4 h99 ho)
  have hka : va_K G.1 xcl [(G.2.1 t, .object E)] s := ⟨hK.1.1, fun j q hj => by
    cases j with
    | zero => cases hj; exact hK.1.2.1 t _ ht
    | succ j => simp at hj⟩
  have hrecv : ∃ cellV : Cell, H[v]? = some cellV ∧ cellV.vm.isStatics = false ∧ s.vm.findClass C = some cellV.cls := by
    obtain ⟨-, cell, g1, g2, g3, -⟩ := hR.cell (tH_atO hv) hcl
    exact ⟨cell, g1, by rw [g3]; rfl, by rw [g2]; exact (hK.1.1 ci _ hcl).2.1⟩
  have hasg : ∀ comp c0 : ClassId, s.vm.findClass E = some comp → s.vm.findClass C = some c0 → s.vm.assignable c0 comp = true := by
    rcases has with e1 | e1
    · subst e1
      exact vb_asgS
    · exact vb_asgC (hK.2.2.1 _ e1)
  have hlt : i.toNatClampNeg < N := Nat.not_le.mp fun q => hin (Or.inr q)
  have hi0 : ¬ i < 0 := fun q => hin (Or.inl q)
  obtain ⟨cellV, g1, g2, g3⟩ := hrecv
  obtain ⟨kA, comp, k1, k2, k3, -⟩ := (hK.1.2.1 t _ ht).2
  have hcls := (hK.1.1 ci _ hcl).2
  obtain ⟨kC, hkC, -⟩ := hcls.2
  have hcv : cellV.cls = G.1.1 ci := Option.some.inj (g3.symm.trans hcls.1)
  obtain ⟨kcomp, hkcomp⟩ : ∃ kc : Class, s.vm.classes[comp]? = some kc := by
    obtain ⟨k9, h9, -⟩ := Vm.findClass_spec k3
    exact ⟨k9, h9⟩
  refine W.aast F.1 F.2.1 hcell (fun q h => by cases h) (fun h => by cases h) k1 k2 rfl hkcomp ⟨hi0, by show _ < (arrV _ _ _).slots.size; rw [arrV_size]; exact hlt⟩ g1 (fun q h => by rw [h] at g2; cases g2) (by rw [hcv]; exact hkC) (hasg _ _ k3 g3) rfl rfl hdg fun H1 e z oq => ?_
  refine kk p _ R s m₀ args below meth c H1 _ cells slots ls F hL hc hs ?_ (hS.put z oq hA)
  rw [← tH_upR2 h4 h99 ho]
  refine hR.set hA ?_ oq
  show H1[a]? = some (vp_cell _ _)
  rw [e, vp_cell_q, vp_cell_q, arrV_store]
  congr 2
  funext q
  by_cases hq : q = i.toNatClampNeg
  · subst hq
    simp [updV, va_up, va_rf]
  · simp [updV, va_up, hq]
end TR
/-- what stands on the stack behind a call -/
theorem xcat {v : Value} : v.category ≤ 2 := by cases v <;> simp [Value.category]
theorem xrm4 {rest : List Value} (h : rest.length ≤ 4) : (rest.map fun v => v.category).sum ≤ 8 := by
  have : ∀ r : List Value, (r.map fun v => v.category).sum ≤ 2 * r.length := by
    intro r
    induction r with
    | nil => simp
    | cons a r ih =>
      have := @xcat a
      simp only [List.map_cons, List.sum_cons, List.length_cons]
      omega
  have := this rest
  omega
theorem t_aload_0 {G : xG} {l : Launch} {M : xM} {d k n : Nat} {Q : xR → xH → Prop} {pc : Nat} {st : List Value} {h : xH} {r : xLs} {x : Nat} (hdg : decode M.2.1 pc = .ok (.aload_n 0, 1)) (kk : xF G l M d k n Q (pc + 1) (some (rfv x) :: r) (rfv x :: st) h) : xF G l M d k n Q pc (some (rfv x) :: r) st h := by
  cases x with
  | zero => exact x_aloadN_0 hdg kk
  | succ x => exact x_aload_0 hdg kk
theorem t_astore_0 {G : xG} {l : Launch} {M : xM} {d k n : Nat} {Q : xR → xH → Prop} {pc : Nat} {st : List Value} {h : xH} {b : Option Value} {r : xLs} {x : Nat} (hdg : decode M.2.1 pc = .ok (.astore_n 0, 1)) (hM : 0 < M.2.2.1) (kk : xF G l M d k n Q (pc + 1) (some (rfv x) :: r) st h) : xF G l M d k n Q pc (b :: r) (rfv x :: st) h := by
  cases x with
  | zero => exact x_astoreN_0 hdg hM kk
  | succ x => exact x_astore_0 hdg hM kk
theorem t_aload_1 {G : xG} {l : Launch} {M : xM} {d k n : Nat} {Q : xR → xH → Prop} {pc : Nat} {st : List Value} {h : xH} {a0 : Option Value} {r : xLs} {x : Nat} (hdg : decode M.2.1 pc = .ok (.aload_n 1, 1)) (kk : xF G l M d k n Q (pc + 1) (a0 :: some (rfv x) :: r) (rfv x :: st) h) : xF G l M d k n Q pc (a0 :: some (rfv x) :: r) st h := by
  cases x with
  | zero => exact x_aloadN_1 hdg kk
  | succ x => exact x_aload_1 hdg kk
theorem t_astore_1 {G : xG} {l : Launch} {M : xM} {d k n : Nat} {Q : xR → xH → Prop} {pc : Nat} {st : List Value} {h : xH} {a0 : Option Value} {b : Option Value} {r : xLs} {x : Nat} (hdg : decode M.2.1 pc = .ok (.astore_n 1, 1)) (hM : 1 < M.2.2.1) (hn : xN2 a0) (kk : xF G l M d k n Q (pc + 1) (a0 :: some (rfv x) :: r) st h) : xF G l M d k n Q pc (a0 :: b :: r) (rfv x :: st) h := by
  cases x with
  | zero => exact x_astoreN_1 hdg hM hn kk
  | succ x => exact x_astore_1 hdg hM hn kk
theorem t_astoreC_1 {G : xG} {l : Launch} {M : xM} {d k n : Nat} {Q : xR → xH → Prop} {pc : Nat} {st : List Value} {h : xH} {a0 : Option Value} {b : Option Value} {r : xLs} {x : Nat} (hdg : decode M.2.1 pc = .ok (.astore_n 1, 1)) (hM : 1 < M.2.2.1) (kk : xF G l M d k n Q (pc + 1) (none :: some (rfv x) :: r) st h) : xF G l M d k n Q pc (a0 :: b :: r) (rfv x :: st) h := by
  cases x with
  | zero => exact x_astoreNC_1 hdg hM kk
  | succ x => exact x_astoreC_1 hdg hM kk
theorem t_aload_2 {G : xG} {l : Launch} {M : xM} {d k n : Nat} {Q : xR → xH → Prop} {pc : Nat} {st : List Value} {h : xH} {a0 a1 : Option Value} {r : xLs} {x : Nat} (hdg : decode M.2.1 pc = .ok (.aload_n 2, 1)) (kk : xF G l M d k n Q (pc + 1) (a0 :: a1 :: some (rfv x) :: r) (rfv x :: st) h) : xF G l M d k n Q pc (a0 :: a1 :: some (rfv x) :: r) st h := by
  cases x with
  | zero => exact x_aloadN_2 hdg kk
  | succ x => exact x_aload_2 hdg kk
theorem t_astore_2 {G : xG} {l : Launch} {M : xM} {d k n : Nat} {Q : xR → xH → Prop} {pc : Nat} {st : List Value} {h : xH} {a0 a1 : Option Value} {b : Option Value} {r : xLs} {x : Nat} (hdg : decode M.2.1 pc = .ok (.astore_n 2, 1)) (hM : 2 < M.2.2.1) (hn : xN2 a1) (kk : xF G l M d k n Q (pc + 1) (a0 :: a1 :: some (rfv x) :: r) st h) : xF G l M d k n Q pc (a0 :: a1 :: b :: r) (rfv x :: st) h := by
  cases x with
  | zero => exact x_astoreN_2 hdg hM hn kk
  | succ x => exact x_astore_2 hdg hM hn kk
theorem t_astoreC_2 {G : xG} {l : Launch} {M : xM} {d k n : Nat} {Q : xR → xH → Prop} {pc : Nat} {st : List Value} {h : xH} {a0 a1 : Option Value} {b : Option Value} {r : xLs} {x : Nat} (hdg : decode M.2.1 pc = .ok (.astore_n 2, 1)) (hM : 2 < M.2.2.1) (kk : xF G l M d k n Q (pc + 1) (a0 :: none :: some (rfv x) :: r) st h) : xF G l M d k n Q pc (a0 :: a1 :: b :: r) (rfv x :: st) h := by
  cases x with
  | zero => exact x_astoreNC_2 hdg hM kk
  | succ x => exact x_astoreC_2 hdg hM kk
theorem t_aload_3 {G : xG} {l : Launch} {M : xM} {d k n : Nat} {Q : xR → xH → Prop} {pc : Nat} {st : List Value} {h : xH} {a0 a1 a2 : Option Value} {r : xLs} {x : Nat} (hdg : decode M.2.1 pc = .ok (.aload_n 3, 1)) (kk : xF G l M d k n Q (pc + 1) (a0 :: a1 :: a2 :: some (rfv x) :: r) (rfv x :: st) h) : xF G l M d k n Q pc (a0 :: a1 :: a2 :: some (rfv x) :: r) st h := by
  cases x with
  | zero => exact x_aloadN_3 hdg kk
  | succ x => exact x_aload_3 hdg kk
theorem t_astore_3 {G : xG} {l : Launch} {M : xM} {d k n : Nat} {Q : xR → xH → Prop} {pc : Nat} {st : List Value} {h : xH} {a0 a1 a2 : Option Value} {b : Option Value} {r : xLs} {x : Nat} (hdg : decode M.2.1 pc = .ok (.astore_n 3, 1)) (hM : 3 < M.2.2.1) (hn : xN2 a2) (kk : xF G l M d k n Q (pc + 1) (a0 :: a1 :: a2 :: some (rfv x) :: r) st h) : xF G l M d k n Q pc (a0 :: a1 :: a2 :: b :: r) (rfv x :: st) h := by
  cases x with
  | zero => exact x_astoreN_3 hdg hM hn kk
  | succ x => exact x_astore_3 hdg hM hn kk
theorem t_astoreC_3 {G : xG} {l : Launch} {M : xM} {d k n : Nat} {Q : xR → xH → Prop} {pc : Nat} {st : List Value} {h : xH} {a0 a1 a2 : Option Value} {b : Option Value} {r : xLs} {x : Nat} (hdg : decode M.2.1 pc = .ok (.astore_n 3, 1)) (hM : 3 < M.2.2.1) (kk : xF G l M d k n Q (pc + 1) (a0 :: a1 :: none :: some (rfv x) :: r) st h) : xF G l M d k n Q pc (a0 :: a1 :: a2 :: b :: r) (rfv x :: st) h := by
  cases x with
  | zero => exact x_astoreNC_3 hdg hM kk
  | succ x => exact x_astoreC_3 hdg hM kk
theorem t_aload_4 {G : xG} {l : Launch} {M : xM} {d k n : Nat} {Q : xR → xH → Prop} {pc : Nat} {st : List Value} {h : xH} {a0 a1 a2 a3 : Option Value} {r : xLs} {x : Nat} (hdg : decode M.2.1 pc = .ok (.aload 4, 2)) (kk : xF G l M d k n Q (pc + 2) (a0 :: a1 :: a2 :: a3 :: some (rfv x) :: r) (rfv x :: st) h) : xF G l M d k n Q pc (a0 :: a1 :: a2 :: a3 :: some (rfv x) :: r) st h := by
  cases x with
  | zero => exact x_aloadN_4 hdg kk
  | succ x => exact x_aload_4 hdg kk
theorem t_astore_4 {G : xG} {l : Launch} {M : xM} {d k n : Nat} {Q : xR → xH → Prop} {pc : Nat} {st : List Value} {h : xH} {a0 a1 a2 a3 : Option Value} {b : Option Value} {r : xLs} {x : Nat} (hdg : decode M.2.1 pc = .ok (.astore 4, 2)) (hM : 4 < M.2.2.1) (hn : xN2 a3) (kk : xF G l M d k n Q (pc + 2) (a0 :: a1 :: a2 :: a3 :: some (rfv x) :: r) st h) : xF G l M d k n Q pc (a0 :: a1 :: a2 :: a3 :: b :: r) (rfv x :: st) h := by
  cases x with
  | zero => exact x_astoreN_4 hdg hM hn kk
  | succ x => exact x_astore_4 hdg hM hn kk
theorem t_astoreC_4 {G : xG} {l : Launch} {M : xM} {d k n : Nat} {Q : xR → xH → Prop} {pc : Nat} {st : List Value} {h : xH} {a0 a1 a2 a3 : Option Value} {b : Option Value} {r : xLs} {x : Nat} (hdg : decode M.2.1 pc = .ok (.astore 4, 2)) (hM : 4 < M.2.2.1) (kk : xF G l M d k n Q (pc + 2) (a0 :: a1 :: a2 :: none :: some (rfv x) :: r) st h) : xF G l M d k n Q pc (a0 :: a1 :: a2 :: a3 :: b :: r) (rfv x :: st) h := by
  cases x with
  | zero => exact x_astoreNC_4 hdg hM kk
  | succ x => exact x_astoreC_4 hdg hM kk
theorem t_aload_5 {G : xG} {l : Launch} {M : xM} {d k n : Nat} {Q : xR → xH → Prop} {pc : Nat} {st : List Value} {h : xH} {a0 a1 a2 a3 a4 : Option Value} {r : xLs} {x : Nat} (hdg : decode M.2.1 pc = .ok (.aload 5, 2)) (kk : xF G l M d k n Q (pc + 2) (a0 :: a1 :: a2 :: a3 :: a4 :: some (rfv x) :: r) (rfv x :: st) h) : xF G l M d k n Q pc (a0 :: a1 :: a2 :: a3 :: a4 :: some (rfv x) :: r) st h := by
  cases x with
  | zero => exact x_aloadN_5 hdg kk
  | succ x => exact x_aload_5 hdg kk
theorem t_astore_5 {G : xG} {l : Launch} {M : xM} {d k n : Nat} {Q : xR → xH → Prop} {pc : Nat} {st : List Value} {h : xH} {a0 a1 a2 a3 a4 : Option Value} {b : Option Value} {r : xLs} {x : Nat} (hdg : decode M.2.1 pc = .ok (.astore 5, 2)) (hM : 5 < M.2.2.1) (hn : xN2 a4) (kk : xF G l M d k n Q (pc + 2) (a0 :: a1 :: a2 :: a3 :: a4 :: some (rfv x) :: r) st h) : xF G l M d k n Q pc (a0 :: a1 :: a2 :: a3 :: a4 :: b :: r) (rfv x :: st) h := by
  cases x with
  | zero => exact x_astoreN_5 hdg hM hn kk
  | succ x => exact x_astore_5 hdg hM hn kk
theorem t_astoreC_5 {G : xG} {l : Launch} {M : xM} {d k n : Nat} {Q : xR → xH → Prop} {pc : Nat} {st : List Value} {h : xH} {a0 a1 a2 a3 a4 : Option Value} {b : Option Value} {r : xLs} {x : Nat} (hdg : decode M.2.1 pc = .ok (.astore 5, 2)) (hM : 5 < M.2.2.1) (kk : xF G l M d k n Q (pc + 2) (a0 :: a1 :: a2 :: a3 :: none :: some (rfv x) :: r) st h) : xF G l M d k n Q pc (a0 :: a1 :: a2 :: a3 :: a4 :: b :: r) (rfv x :: st) h := by
  cases x with
  | zero => exact x_astoreNC_5 hdg hM kk
  | succ x => exact x_astoreC_5 hdg hM kk
theorem t_aload_6 {G : xG} {l : Launch} {M : xM} {d k n : Nat} {Q : xR → xH → Prop} {pc : Nat} {st : List Value} {h : xH} {a0 a1 a2 a3 a4 a5 : Option Value} {r : xLs} {x : Nat} (hdg : decode M.2.1 pc = .ok (.aload 6, 2)) (kk : xF G l M d k n Q (pc + 2) (a0 :: a1 :: a2 :: a3 :: a4 :: a5 :: some (rfv x) :: r) (rfv x :: st) h) : xF G l M d k n Q pc (a0 :: a1 :: a2 :: a3 :: a4 :: a5 :: some (rfv x) :: r) st h := by
  cases x with
  | zero => exact x_aloadN_6 hdg kk
  | succ x => exact x_aload_6 hdg kk
theorem t_astore_6 {G : xG} {l : Launch} {M : xM} {d k n : Nat} {Q : xR → xH → Prop} {pc : Nat} {st : List Value} {h : xH} {a0 a1 a2 a3 a4 a5 : Option Value} {b : Option Value} {r : xLs} {x : Nat} (hdg : decode M.2.1 pc = .ok (.astore 6, 2)) (hM : 6 < M.2.2.1) (hn : xN2 a5) (kk : xF G l M d k n Q (pc + 2) (a0 :: a1 :: a2 :: a3 :: a4 :: a5 :: some (rfv x) :: r) st h) : xF G l M d k n Q pc (a0 :: a1 :: a2 :: a3 :: a4 :: a5 :: b :: r) (rfv x :: st) h := by
  cases x with
  | zero => exact x_astoreN_6 hdg hM hn kk
  | succ x => exact x_astore_6 hdg hM hn kk
theorem t_astoreC_6 {G : xG} {l : Launch} {M : xM} {d k n : Nat} {Q : xR → xH → Prop} {pc : Nat} {st : List Value} {h : xH} {a0 a1 a2 a3 a4 a5 : Option Value} {b : Option Value} {r : xLs} {x : Nat} (hdg : decode M.2.1 pc = .ok (.astore 6, 2)) (hM : 6 < M.2.2.1) (kk : xF G l M d k n Q (pc + 2) (a0 :: a1 :: a2 :: a3 :: a4 :: none :: some (rfv x) :: r) st h) : xF G l M d k n Q pc (a0 :: a1 :: a2 :: a3 :: a4 :: a5 :: b :: r) (rfv x :: st) h := by
  cases x with
  | zero => exact x_astoreNC_6 hdg hM kk
  | succ x => exact x_astoreC_6 hdg hM kk
theorem t_aload_7 {G : xG} {l : Launch} {M : xM} {d k n : Nat} {Q : xR → xH → Prop} {pc : Nat} {st : List Value} {h : xH} {a0 a1 a2 a3 a4 a5 a6 : Option Value} {r : xLs} {x : Nat} (hdg : decode M.2.1 pc = .ok (.aload 7, 2)) (kk : xF G l M d k n Q (pc + 2) (a0 :: a1 :: a2 :: a3 :: a4 :: a5 :: a6 :: some (rfv x) :: r) (rfv x :: st) h) : xF G l M d k n Q pc (a0 :: a1 :: a2 :: a3 :: a4 :: a5 :: a6 :: some (rfv x) :: r) st h := by
  cases x with
  | zero => exact x_aloadN_7 hdg kk
  | succ x => exact x_aload_7 hdg kk
theorem t_astore_7 {G : xG} {l : Launch} {M : xM} {d k n : Nat} {Q : xR → xH → Prop} {pc : Nat} {st : List Value} {h : xH} {a0 a1 a2 a3 a4 a5 a6 : Option Value} {b : Option Value} {r : xLs} {x : Nat} (hdg : decode M.2.1 pc = .ok (.astore 7, 2)) (hM : 7 < M.2.2.1) (hn : xN2 a6) (kk : xF G l M d k n Q (pc + 2) (a0 :: a1 :: a2 :: a3 :: a4 :: a5 :: a6 :: some (rfv x) :: r) st h) : xF G l M d k n Q pc (a0 :: a1 :: a2 :: a3 :: a4 :: a5 :: a6 :: b :: r) (rfv x :: st) h := by
  cases x with
  | zero => exact x_astoreN_7 hdg hM hn kk
  | succ x => exact x_astore_7 hdg hM hn kk
theorem t_astoreC_7 {G : xG} {l : Launch} {M : xM} {d k n : Nat} {Q : xR → xH → Prop} {pc : Nat} {st : List Value} {h : xH} {a0 a1 a2 a3 a4 a5 a6 : Option Value} {b : Option Value} {r : xLs} {x : Nat} (hdg : decode M.2.1 pc = .ok (.astore 7, 2)) (hM : 7 < M.2.2.1) (kk : xF G l M d k n Q (pc + 2) (a0 :: a1 :: a2 :: a3 :: a4 :: a5 :: none :: some (rfv x) :: r) st h) : xF G l M d k n Q pc (a0 :: a1 :: a2 :: a3 :: a4 :: a5 :: a6 :: b :: r) (rfv x :: st) h := by
  cases x with
  | zero => exact x_astoreNC_7 hdg hM kk
  | succ x => exact x_astoreC_7 hdg hM kk
theorem t_aload_8 {G : xG} {l : Launch} {M : xM} {d k n : Nat} {Q : xR → xH → Prop} {pc : Nat} {st : List Value} {h : xH} {a0 a1 a2 a3 a4 a5 a6 a7 : Option Value} {r : xLs} {x : Nat} (hdg : decode M.2.1 pc = .ok (.aload 8, 2)) (kk : xF G l M d k n Q (pc + 2) (a0 :: a1 :: a2 :: a3 :: a4 :: a5 :: a6 :: a7 :: some (rfv x) :: r) (rfv x :: st) h) : xF G l M d k n Q pc (a0 :: a1 :: a2 :: a3 :: a4 :: a5 :: a6 :: a7 :: some (rfv x) :: r) st h := by
  cases x with
  | zero => exact x_aloadN_8 hdg kk
  | succ x => exact x_aload_8 hdg kk
theorem t_astore_8 {G : xG} {l : Launch} {M : xM} {d k n : Nat} {Q : xR → xH → Prop} {pc : Nat} {st : List Value} {h : xH} {a0 a1 a2 a3 a4 a5 a6 a7 : Option Value} {b : Option Value} {r : xLs} {x : Nat} (hdg : decode M.2.1 pc = .ok (.astore 8, 2)) (hM : 8 < M.2.2.1) (hn : xN2 a7) (kk : xF G l M d k n Q (pc + 2) (a0 :: a1 :: a2 :: a3 :: a4 :: a5 :: a6 :: a7 :: some (rfv x) :: r) st h) : xF G l M d k n Q pc (a0 :: a1 :: a2 :: a3 :: a4 :: a5 :: a6 :: a7 :: b :: r) (rfv x :: st) h := by
  cases x with
  | zero => exact x_astoreN_8 hdg hM hn kk
  | succ x => exact x_astore_8 hdg hM hn kk
theorem t_astoreC_8 {G : xG} {l : Launch} {M : xM} {d k n : Nat} {Q : xR → xH → Prop} {pc : Nat} {st : List Value} {h : xH} {a0 a1 a2 a3 a4 a5 a6 a7 : Option Value} {b : Option Value} {r : xLs} {x : Nat} (hdg : decode M.2.1 pc = .ok (.astore 8, 2)) (hM : 8 < M.2.2.1) (kk : xF G l M d k n Q (pc + 2) (a0 :: a1 :: a2 :: a3 :: a4 :: a5 :: a6 :: none :: some (rfv x) :: r) st h) : xF G l M d k n Q pc (a0 :: a1 :: a2 :: a3 :: a4 :: a5 :: a6 :: a7 :: b :: r) (rfv x :: st) h := by
  cases x with
  | zero => exact x_astoreNC_8 hdg hM kk
  | succ x => exact x_astoreC_8 hdg hM kk
theorem t_aload_9 {G : xG} {l : Launch} {M : xM} {d k n : Nat} {Q : xR → xH → Prop} {pc : Nat} {st : List Value} {h : xH} {a0 a1 a2 a3 a4 a5 a6 a7 a8 : Option Value} {r : xLs} {x : Nat} (hdg : decode M.2.1 pc = .ok (.aload 9, 2)) (kk : xF G l M d k n Q (pc + 2) (a0 :: a1 :: a2 :: a3 :: a4 :: a5 :: a6 :: a7 :: a8 :: some (rfv x) :: r) (rfv x :: st) h) : xF G l M d k n Q pc (a0 :: a1 :: a2 :: a3 :: a4 :: a5 :: a6 :: a7 :: a8 :: some (rfv x) :: r) st h := by
  cases x with
  | zero => exact x_aloadN_9 hdg kk
  | succ x => exact x_aload_9 hdg kk
theorem t_astore_9 {G : xG} {l : Launch} {M : xM} {d k n : Nat} {Q : xR → xH → Prop} {pc : Nat} {st : List Value} {h : xH} {a0 a1 a2 a3 a4 a5 a6 a7 a8 : Option Value} {b : Option Value} {r : xLs} {x : Nat} (hdg : decode M.2.1 pc = .ok (.astore 9, 2)) (hM : 9 < M.2.2.1) (hn : xN2 a8) (kk : xF G l M d k n Q (pc + 2) (a0 :: a1 :: a2 :: a3 :: a4 :: a5 :: a6 :: a7 :: a8 :: some (rfv x) :: r) st h) : xF G l M d k n Q pc (a0 :: a1 :: a2 :: a3 :: a4 :: a5 :: a6 :: a7 :: a8 :: b :: r) (rfv x :: st) h := by
  cases x with
  | zero => exact x_astoreN_9 hdg hM hn kk
  | succ x => exact x_astore_9 hdg hM hn kk
theorem t_astoreC_9 {G : xG} {l : Launch} {M : xM} {d k n : Nat} {Q : xR → xH → Prop} {pc : Nat} {st : List Value} {h : xH} {a0 a1 a2 a3 a4 a5 a6 a7 a8 : Option Value} {b : Option Value} {r : xLs} {x : Nat} (hdg : decode M.2.1 pc = .ok (.astore 9, 2)) (hM : 9 < M.2.2.1) (kk : xF G l M d k n Q (pc + 2) (a0 :: a1 :: a2 :: a3 :: a4 :: a5 :: a6 :: a7 :: none :: some (rfv x) :: r) st h) : xF G l M d k n Q pc (a0 :: a1 :: a2 :: a3 :: a4 :: a5 :: a6 :: a7 :: a8 :: b :: r) (rfv x :: st) h := by
  cases x with
  | zero => exact x_astoreNC_9 hdg hM kk
  | succ x => exact x_astoreC_9 hdg hM kk
theorem t_aload_10 {G : xG} {l : Launch} {M : xM} {d k n : Nat} {Q : xR → xH → Prop} {pc : Nat} {st : List Value} {h : xH} {a0 a1 a2 a3 a4 a5 a6 a7 a8 a9 : Option Value} {r : xLs} {x : Nat} (hdg : decode M.2.1 pc = .ok (.aload 10, 2)) (kk : xF G l M d k n Q (pc + 2) (a0 :: a1 :: a2 :: a3 :: a4 :: a5 :: a6 :: a7 :: a8 :: a9 :: some (rfv x) :: r) (rfv x :: st) h) : xF G l M d k n Q pc (a0 :: a1 :: a2 :: a3 :: a4 :: a5 :: a6 :: a7 :: a8 :: a9 :: some (rfv x) :: r) st h := by
  cases x with
  | zero => exact x_aloadN_10 hdg kk
  | succ x => exact x_aload_10 hdg kk
theorem t_astore_10 {G : xG} {l : Launch} {M : xM} {d k n : Nat} {Q : xR → xH → Prop} {pc : Nat} {st : List Value} {h : xH} {a0 a1 a2 a3 a4 a5 a6 a7 a8 a9 : Option Value} {b : Option Value} {r : xLs} {x : Nat} (hdg : decode M.2.1 pc = .ok (.astore 10, 2)) (hM : 10 < M.2.2.1) (hn : xN2 a9) (kk : xF G l M d k n Q (pc + 2) (a0 :: a1 :: a2 :: a3 :: a4 :: a5 :: a6 :: a7 :: a8 :: a9 :: some (rfv x) :: r) st h) : xF G l M d k n Q pc (a0 :: a1 :: a2 :: a3 :: a4 :: a5 :: a6 :: a7 :: a8 :: a9 :: b :: r) (rfv x :: st) h := by
  cases x with
  | zero => exact x_astoreN_10 hdg hM hn kk
  | succ x => exact x_astore_10 hdg hM hn kk
theorem t_astoreC_10 {G : xG} {l : Launch} {M : xM} {d k n : Nat} {Q : xR → xH → Prop} {pc : Nat} {st : List Value} {h : xH} {a0 a1 a2 a3 a4 a5 a6 a7 a8 a9 : Option Value} {b : Option Value} {r : xLs} {x : Nat} (hdg : decode M.2.1 pc = .ok (.astore 10, 2)) (hM : 10 < M.2.2.1) (kk : xF G l M d k n Q (pc + 2) (a0 :: a1 :: a2 :: a3 :: a4 :: a5 :: a6 :: a7 :: a8 :: none :: some (rfv x) :: r) st h) : xF G l M d k n Q pc (a0 :: a1 :: a2 :: a3 :: a4 :: a5 :: a6 :: a7 :: a8 :: a9 :: b :: r) (rfv x :: st) h := by
  cases x with
  | zero => exact x_astoreNC_10 hdg hM kk
  | succ x => exact x_astoreC_10 hdg hM kk
theorem t_aload_11 {G : xG} {l : Launch} {M : xM} {d k n : Nat} {Q : xR → xH → Prop} {pc : Nat} {st : List Value} {h : xH} {a0 a1 a2 a3 a4 a5 a6 a7 a8 a9 a10 : Option Value} {r : xLs} {x : Nat} (hdg : decode M.2.1 pc = .ok (.aload 11, 2)) (kk : xF G l M d k n Q (pc + 2) (a0 :: a1 :: a2 :: a3 :: a4 :: a5 :: a6 :: a7 :: a8 :: a9 :: a10 :: some (rfv x) :: r) (rfv x :: st) h) : xF G l M d k n Q pc (a0 :: a1 :: a2 :: a3 :: a4 :: a5 :: a6 :: a7 :: a8 :: a9 :: a10 :: some (rfv x) :: r) st h := by
  cases x with
  | zero => exact x_aloadN_11 hdg kk
  | succ x => exact x_aload_11 hdg kk
theorem t_astore_11 {G : xG} {l : Launch} {M : xM} {d k n : Nat} {Q : xR → xH → Prop} {pc : Nat} {st : List Value} {h : xH} {a0 a1 a2 a3 a4 a5 a6 a7 a8 a9 a10 : Option Value} {b : Option Value} {r : xLs} {x : Nat} (hdg : decode M.2.1 pc = .ok (.astore 11, 2)) (hM : 11 < M.2.2.1) (hn : xN2 a10) (kk : xF G l M d k n Q (pc + 2) (a0 :: a1 :: a2 :: a3 :: a4 :: a5 :: a6 :: a7 :: a8 :: a9 :: a10 :: some (rfv x) :: r) st h) : xF G l M d k n Q pc (a0 :: a1 :: a2 :: a3 :: a4 :: a5 :: a6 :: a7 :: a8 :: a9 :: a10 :: b :: r) (rfv x :: st) h := by
  cases x with
  | zero => exact x_astoreN_11 hdg hM hn kk
  | succ x => exact x_astore_11 hdg hM hn kk
theorem t_astoreC_11 {G : xG} {l : Launch} {M : xM} {d k n : Nat} {Q : xR → xH → Prop} {pc : Nat} {st : List Value} {h : xH} {a0 a1 a2 a3 a4 a5 a6 a7 a8 a9 a10 : Option Value} {b : Option Value} {r : xLs} {x : Nat} (hdg : decode M.2.1 pc = .ok (.astore 11, 2)) (hM : 11 < M.2.2.1) (kk : xF G l M d k n Q (pc + 2) (a0 :: a1 :: a2 :: a3 :: a4 :: a5 :: a6 :: a7 :: a8 :: a9 :: none :: some (rfv x) :: r) st h) : xF G l M d k n Q pc (a0 :: a1 :: a2 :: a3 :: a4 :: a5 :: a6 :: a7 :: a8 :: a9 :: a10 :: b :: r) (rfv x :: st) h := by
  cases x with
  | zero => exact x_astoreNC_11 hdg hM kk
  | succ x => exact x_astoreC_11 hdg hM kk
