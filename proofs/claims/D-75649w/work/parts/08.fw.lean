/-! classes (their numbers: places in xcl), array types, string constants -/
set_option maxRecDepth 100000
abbrev xcl : List vw_C := [(RX0, TX0, 28), (RX1, TX1, 7), (RX2, TX2, 4), (RX3, TX3, 2), (RX4, TX4, 2), (RX5, TX5, 1), (RX6, TX6, 51), (RX8, TX8, 11), (RX9, TX9, 7), (RX11, TX11, 1), (RX12, TX12, 1), (RX13, TX13, 3), (RX14, TX14, 3), (RX15, TX15, 4), (RX17, TX17, 3), (RX18, TX18, 1), (RX19, TX19, 2), (RX20, TX20, 7), (RX21, TX21, 10), (RX22, TX22, 1), (RJ2, TJ2, 3), (RJ6, TJ6, 5), (RJ10, TJ10, 6), (RJ11, TJ11, 2)]
abbrev xtys : List FieldType := [.int, .long, .byte, .boolean, .object "CounterDesk$Desk", .object "CounterDesk$Books", .object "CounterDesk$Clause", .object "CounterDesk$Test", .object "CounterDesk$Act", .object "java/lang/String", .object "java/lang/Object", .array .int, .array .boolean, .array (.array .boolean), .array (.array .int), .array .long]
abbrev xcomp : List (Nat × Nat × FieldType) := [(11, 0, .array .int), (14, 11, .array (.array .int)), (12, 3, .array .boolean), (13, 12, .array (.array .boolean)), (15, 1, .array .long)]
abbrev xstr : List (String × Nat × String × Nat) := [("CounterDesk$LawReader", 11, "place", 0), ("CounterDesk$LawReader", 13, "here", 1), ("CounterDesk$LawReader", 15, "under", 2), ("CounterDesk$LawReader", 17, "apart", 3), ("CounterDesk$LawReader", 19, "ahead", 4), ("CounterDesk$LawReader", 21, "leap", 5), ("CounterDesk$LawReader", 23, "moves", 6), ("CounterDesk$LawReader", 25, "last", 7), ("CounterDesk$LawReader", 27, "day", 8), ("CounterDesk$LawReader", 29, "mood", 9), ("CounterDesk$LawReader", 43, "costs", 10), ("CounterDesk$LawReader", 45, "earns", 11), ("CounterDesk$LawReader", 47, "bars", 12), ("CounterDesk$Reader", 173, "[", 13), ("CounterDesk$Reader", 175, "]", 14), ("CounterDesk$Reader", 167, "*", 15), ("CounterDesk$Reader", 169, "/", 16), ("CounterDesk$Reader", 171, "%", 17), ("CounterDesk$Reader", 157, "+", 18), ("CounterDesk$Reader", 159, "-", 19), ("CounterDesk$LawReader", 84, "if", 20), ("CounterDesk$Reader", 119, "not", 21), ("CounterDesk$Reader", 121, "(", 22), ("CounterDesk$Reader", 129, ")", 23), ("CounterDesk$Reader", 139, "<", 24), ("CounterDesk$Reader", 141, ">", 25), ("CounterDesk$Reader", 143, "=", 26), ("CounterDesk$Reader", 100, "and", 27), ("CounterDesk$Reader", 91, "or", 28), ("CounterDesk$OrderReader", 86, "pass", 29), ("CounterDesk$OrderReader", 91, "swap", 30), ("CounterDesk$OrderReader", 93, "set", 31), ("CounterDesk$OrderReader", 95, "shift", 32), ("CounterDesk$OrderReader", 97, "to", 33), ("CounterDesk$OrderReader", 106, "times", 34), ("CounterDesk$OrderReader", 114, "if", 20), ("CounterDesk$Reader", 36, ";", 35), ("CounterDesk$OrderReader", 11, "day", 8), ("CounterDesk$OrderReader", 13, "done", 36), ("CounterDesk$OrderReader", 15, "latest", 37), ("CounterDesk$OrderReader", 17, "barred", 38), ("CounterDesk$OrderReader", 19, "all", 39), ("CounterDesk$OrderReader", 21, "here", 1), ("CounterDesk$OrderReader", 23, "under", 2)]
abbrev xlen : List Nat := [5, 4, 5, 5, 5, 4, 5, 4, 3, 4, 5, 5, 4, 1, 1, 1, 1, 1, 1, 1, 2, 3, 1, 1, 1, 1, 1, 3, 2, 4, 4, 3, 5, 2, 5, 1, 4, 6, 6, 3]
abbrev xbyt : List (List Int32) := [[112, 108, 97, 99, 101], [104, 101, 114, 101], [117, 110, 100, 101, 114], [97, 112, 97, 114, 116], [97, 104, 101, 97, 100], [108, 101, 97, 112], [109, 111, 118, 101, 115], [108, 97, 115, 116], [100, 97, 121], [109, 111, 111, 100], [99, 111, 115, 116, 115], [101, 97, 114, 110, 115], [98, 97, 114, 115], [91], [93], [42], [47], [37], [43], [45], [105, 102], [110, 111, 116], [40], [41], [60], [62], [61], [97, 110, 100], [111, 114], [112, 97, 115, 115], [115, 119, 97, 112], [115, 101, 116], [115, 104, 105, 102, 116], [116, 111], [116, 105, 109, 101, 115], [59], [100, 111, 110, 101], [108, 97, 116, 101, 115, 116], [98, 97, 114, 114, 101, 100], [97, 108, 108]]
/-! ===== the layer: a machine's world as a function from addresses to cells; one judgement xF a frame, one contract xC a method ===== -/
abbrev xH : Type := Nat → Option va_E
abbrev xR : Type := Option Value ⊕ (String × Nat)
/-- a method: its name, code, locals, answer, handlers -/
abbrev xM : Type := MethodName × ByteArray × Nat × Option FieldType × List (Nat × Nat × Nat × Nat)
/-- classes' ids and slots; array classes' ids; addresses of constants; the heap's size at the start -/
abbrev xG : Type := va_G × (Nat → ClassId) × (Nat → Nat) × Nat
abbrev xLs : Type := List (Option Value)
def xA (G : xG) : Nat → Prop := fun q => G.2.2.2 ≤ q
def xUp (h : xH) (a : Nat) (e : va_E) : xH := fun q => if q = a then some e else h q
def xRep (G : xG) (h : xH) (H : Heap) : Prop := ∀ (a : Nat) (e : va_E), h a = some e → xA G a ∧ va_at G.1 xcl (a, e) H
theorem xUp_self (h : xH) (a : Nat) (e : va_E) : xUp h a e a = some e := by simp [xUp]
theorem xUp_ne (h : xH) {a b : Nat} (e : va_E) (hn : b ≠ a) : xUp h a e b = h b := by simp [xUp, hn]
/-- the cell's class, where it has one -/
def xNw (w : Cond) : Bool := match w with
  | .fieldLinkNest .. => true
  | .methodLinkNest .. => true
  | .castable .. => true
  | .declares _ => true
  | .arrayOver (.object _) => true
  | _ => false
def xnw : List Cond := lw_tbl.filter xNw
theorem xnw_of {w : Cond} (h : w ∈ lw_tbl) (g : xNw w = true) : w ∈ xnw := List.mem_filter.mpr ⟨h, g⟩
theorem xNw_same {w : Cond} (g : xNw w = true) {s U : State} (hv : s.vm = U.vm) (hZ : va_Nw w s) : va_Nw w U := by
  cases w
  case arrayOver ty => cases ty <;> first | exact va_AO.moved (hv ▸ Vm.Alike.refl s.vm) hZ | (exfalso; simp [xNw] at g)
  all_goals first | exact va_Nw.same rfl hv hZ | (exfalso; simp [xNw] at g)
theorem xNw_warm {w : Cond} (g : xNw w = true) {s U : State} (hW : s.WarmedH U.vm) (hZ : va_Nw w s) : va_Nw w U := by
  cases w
  case arrayOver ty => cases ty <;> first | exact va_AO.moved hW.alike hZ | (exfalso; simp [xNw] at g)
  all_goals first | exact va_Nw.warmF hW hZ | exact va_Nw.warmM hW hZ | exact va_Nw.warmC hW hZ | exact va_Nw.warmD hW hZ | (exfalso; simp [xNw] at g)
/-- what the tables say, as it holds all through a run -/
def xK0 (G : xG) (U : State) : Prop :=
  (∀ (c : Nat) (q : vw_C), xcl[c]? = some q → u_Kn U q.1 q.2.1 q.2.2 (G.1.1 c) (G.1.2 c)) ∧
  (∀ (t : Nat) (ty : FieldType), xtys[t]? = some ty → ArrOfT U (G.2.1 t) ty ∧ va_RA U (G.2.1 t) ty) ∧
  ∀ q ∈ xcomp, ∃ kA : Class, U.vm.classes[G.2.1 q.1]? = some kA ∧ kA.kind = .array (G.2.1 q.2.1) q.2.2
def xK2 (G : xG) (U : State) : Prop := ∀ w ∈ xnw, va_Nw w U
/-- two fields of a class have two slots -/
def xK3 (G : xG) : Prop := (∀ (c : Nat) (q : vw_C), xcl[c]? = some q → ∀ x y, x < q.2.2 → y < q.2.2 → x ≠ y → G.1.2 c x ≠ G.1.2 c y) ∧ 1 ≤ G.2.2.2
/-- constants: strings, statics, a mirror -/
def xKs (G : xG) (U : State) : Prop :=
  (∀ (i : Nat) (q : String × Nat × String × Nat), xstr[i]? = some q → vk_R q.1 q.2.1 q.2.2.1 (G.2.2.1 q.2.2.2) U) ∧
  vk_S 40 xlen xbyt (fun i => G.2.2.1 i) (fun i => G.2.2.1 (100 + i)) (xA G) U U.heap ∧
  va_Z "java/lang/String" "COMPACT_STRINGS" "Z" (.int 1) (xA G) U U.heap ∧
  va_Z "java/util/ArrayList" "DEFAULTCAPACITY_EMPTY_ELEMENTDATA" "[Ljava/lang/Object;" (.ref (G.2.2.1 200)) (xA G) U U.heap ∧
  va_T (.object "java/lang/Object") (G.2.2.1 200) 0 (fun _ => .null) (xA G) U U.heap ∧
  vx_Zq Bundle.tN "UNASSIGNED_STACK" Bundle.steD (xA G) U U.heap ∧ vx_Zq Bundle.tN "SUPPRESSED_SENTINEL" Bundle.listD (xA G) U U.heap ∧
  va_Zq "jdk/internal/util/Preconditions" "SIOOBE_FORMATTER" "Ljava/util/function/BiFunction;" (xA G) U U.heap ∧
  va_Mi "[Ljava/lang/Object;" (G.2.2.1 201) U ∧ va_O "[Ljava/lang/Object;" (G.2.2.1 200) (xA G) U U.heap ∧
  va_Fw "java/util/ArrayList" ⟨"java/util/Collection", "toArray", "()[Ljava/lang/Object;"⟩ ⟨"java/util/ArrayList", "toArray", "()[Ljava/lang/Object;"⟩ U ∧
  va_T .int (G.2.2.1 202) (G.2.2.1 203) (fun j => .int (UInt32.ofNat (G.2.2.1 (1000 + j))).toInt32) (xA G) U U.heap
theorem xKs.warm {G : xG} {s U : State} (hW : s.WarmedH U.vm) (hk : ∀ q : Nat, q < s.heap.size → ¬ xA G q → U.heap[q]? = s.heap[q]?) (h : xKs G s) : xKs G U := by
  obtain ⟨h1, h2, h3, h4, h5, h6, h7, h8, h9, h10, h11, h12⟩ := h
  exact ⟨fun i q hq => (h1 i q hq).warm hW, (h2.kept hk).moved hW.alike, (h3.kept hk).moved hW.alike, (h4.kept hk).moved hW.alike, (h5.kept hk).moved hW.alike, (h6.kept hk).moved hW.alike, (h7.kept hk).moved hW.alike, (h8.kept hk).moved hW.alike, h9.moved hW.alike, (h10.kept hk).moved hW.alike, h11.moved (by decide) hW.alike, (h12.kept hk).moved hW.alike⟩
theorem xKs.same {G : xG} {s U : State} (hv : s.vm = U.vm) (hh : U.heap = s.heap) (h : xKs G s) : xKs G U := by
  obtain ⟨h1, h2, h3, h4, h5, h6, h7, h8, h9, h10, h11, h12⟩ := h
  have ha : s.vm.Alike U.vm := hv ▸ Vm.Alike.refl s.vm
  unfold xKs
  rw [hh]
  exact ⟨fun i q hq => (h1 i q hq).same hv.symm, h2.moved ha, h3.moved ha, h4.moved ha, h5.moved ha, h6.moved ha, h7.moved ha, h8.moved ha, h9.moved ha, h10.moved ha, h11.moved (by decide) ha, h12.moved ha⟩
def xK (G : xG) (U : State) : Prop := xK0 G U ∧ G.2.2.2 ≤ U.heap.size ∧ xK2 G U ∧ xK3 G ∧ xKs G U
theorem xK0.moved {G : xG} {u U : State} (hvm : u.vm.Alike U.vm) (h : xK0 G u) : xK0 G U :=
  ⟨fun c q hq => u_Kn_moved hvm (h.1 c q hq), fun t ty ht => ⟨arrOfT_moved hvm (h.2.1 t ty ht).1, (h.2.1 t ty ht).2.moved hvm⟩, fun q hq => by
    obtain ⟨kA, h1, h2⟩ := h.2.2 q hq
    obtain ⟨k', hk', he⟩ := hvm.2.2 _ _ h1
    exact ⟨k', hk', by rw [he]; exact h2⟩⟩
theorem xK2.warm {G : xG} {s U : State} (hW : s.WarmedH U.vm) (h : xK2 G s) : xK2 G U := fun w hw => xNw_warm (List.mem_filter.mp hw).2 hW (h w hw)
theorem xK2.same {G : xG} {s U : State} (hv : s.vm = U.vm) (h : xK2 G s) : xK2 G U := fun w hw => xNw_same (List.mem_filter.mp hw).2 hv (h w hw)
theorem xK.warm {G : xG} {s U : State} {locs : List Loc} (hW : s.WarmedH U.vm) (hS : va_S (xA G) s.heap U.heap locs) (h : xK G s) : xK G U :=
  ⟨h.1.moved hW.alike, Nat.le_trans h.2.1 hS.1, h.2.2.1.warm hW, h.2.2.2.1, h.2.2.2.2.warm hW hS.2.1⟩
theorem xK.same {G : xG} {s U : State} (hv : s.vm = U.vm) (hh : U.heap = s.heap) (h : xK G s) : xK G U :=
  ⟨h.1.moved (hv ▸ Vm.Alike.refl s.vm), by rw [hh]; exact h.2.1, h.2.2.1.same hv, h.2.2.2.1, h.2.2.2.2.same hv hh⟩
/-! locals -/
def xLv : Nat → xLs → List (Nat × Value)
  | _, [] => []
  | i, none :: r => xLv (i + 1) r
  | i, some v :: r => (i, v) :: xLv (i + 1) r
theorem xLv_mem : ∀ (lv : xLs) (i j : Nat) (v : Value), lv[j]? = some (some v) → (i + j, v) ∈ xLv i lv
  | [], _, _, _, h => by simp at h
  | none :: r, i, 0, v, h => by simp at h
  | some w :: r, i, 0, v, h => by
    simp at h
    subst h
    simp [xLv]
  | none :: r, i, j + 1, v, h => by
    have := xLv_mem r (i + 1) j v (by simpa using h)
    simpa [xLv, Nat.add_assoc, Nat.add_comm 1 j] using this
  | some w :: r, i, j + 1, v, h => by
    have := xLv_mem r (i + 1) j v (by simpa using h)
    simp only [xLv, List.mem_cons]
    right
    simpa [Nat.add_assoc, Nat.add_comm 1 j] using this
theorem xLv_of : ∀ (lv : xLs) (i : Nat) (q : Nat × Value), q ∈ xLv i lv → ∃ j, q.1 = i + j ∧ lv[j]? = some (some q.2)
  | [], _, _, h => by simp [xLv] at h
  | none :: r, i, q, h => by
    obtain ⟨j, h1, h2⟩ := xLv_of r (i + 1) q (by simpa [xLv] using h)
    exact ⟨j + 1, by omega, by simpa using h2⟩
  | some w :: r, i, q, h => by
    simp only [xLv, List.mem_cons] at h
    rcases h with rfl | h
    · exact ⟨0, rfl, rfl⟩
    · obtain ⟨j, h1, h2⟩ := xLv_of r (i + 1) q h
      exact ⟨j + 1, by omega, by simpa using h2⟩
def xHas (ls : Array Slot) (nL : Nat) (lv : xLs) : Prop := lv_has ls nL (xLv 0 lv)
theorem xHas.at {ls : Array Slot} {nL : Nat} {lv : xLs} (h : xHas ls nL lv) {i : Nat} {v : Value} (hv : lv[i]? = some (some v)) : ls[i]? = some (.val v) := by
  have := h.2.2 _ (xLv_mem lv 0 i v hv)
  simpa using this
/-- lv2 says no more than lv -/
def xLe (lv2 lv : xLs) : Prop := ∀ (j : Nat) (v : Value), lv2[j]? = some (some v) → lv[j]? = some (some v)
theorem xHas.le {ls : Array Slot} {nL : Nat} {lv lv2 : xLs} (h : xHas ls nL lv) (hl : xLe lv2 lv) : xHas ls nL lv2 := by
  refine ⟨h.1, h.2.1, fun q hq => ?_⟩
  obtain ⟨j, h1, h2⟩ := xLv_of lv2 0 q hq
  have h3 := h.at (hl j _ h2)
  rw [h1, Nat.zero_add]
  exact h3
theorem xLe_nil {lv : xLs} : xLe [] lv := fun j v h => by simp at h
theorem xLe_none {lv2 lv : xLs} {o : Option Value} (h : xLe lv2 lv) : xLe (none :: lv2) (o :: lv) := fun j v hv => by
  cases j with
  | zero => simp at hv
  | succ j => simpa using h j v (by simpa using hv)
theorem xLe_cons {lv2 lv : xLs} {o : Option Value} (h : xLe lv2 lv) : xLe (o :: lv2) (o :: lv) := fun j v hv => by
  cases j with
  | zero => simpa using hv
  | succ j => simpa using h j v (by simpa using hv)
/-- lv2 is lv with v at i (one place) -/
def xS1 (i : Nat) (v : Value) (lv lv2 : xLs) : Prop := ∀ (j : Nat) (w : Value), lv2[j]? = some (some w) → (j = i ∧ w = v) ∨ (j ≠ i ∧ lv[j]? = some (some w) ∧ ¬ (j + 1 = i ∧ w.category = 2))
def xS2 (i : Nat) (v : Value) (lv lv2 : xLs) : Prop := ∀ (j : Nat) (w : Value), lv2[j]? = some (some w) → (j = i ∧ w = v) ∨ (j ≠ i ∧ j ≠ i + 1 ∧ lv[j]? = some (some w) ∧ ¬ (j + 1 = i ∧ w.category = 2))
/-- what is at a place is no long -/
def xN2 (o : Option Value) : Prop := ∀ w : Value, o = some w → w.category = 1
theorem xN2_none : xN2 none := fun _ h => by cases h
theorem xN2_i {x : Int32} : xN2 (some (.int x)) := fun _ h => by cases h; rfl
theorem xN2_r {x : Nat} : xN2 (some (.ref x)) := fun _ h => by cases h; rfl
theorem xN2_n : xN2 (some .null) := fun _ h => by cases h; rfl
theorem xHas.s1 {ls' : Array Slot} {nL : Nat} {lv lv2 : xLs} {i : Nat} {v : Value} (h : lv_has ls' nL ((i, v) :: (xLv 0 lv).filter (fun q => !(q.1 == i) && !(q.1 + 1 == i && q.2.category == 2)))) (hs : xS1 i v lv lv2) : xHas ls' nL lv2 := by
  refine ⟨h.1, h.2.1, fun q hq => ?_⟩
  obtain ⟨j, h1, h2⟩ := xLv_of lv2 0 q hq
  rw [Nat.zero_add] at h1
  refine h.2.2 q ?_
  rcases hs j _ h2 with ⟨e1, e2⟩ | ⟨e1, e2, e3⟩
  · rw [List.mem_cons]
    left
    rw [← e1, ← e2, ← h1]
  · rw [List.mem_cons]
    right
    have hm := xLv_mem lv 0 j _ e2
    rw [Nat.zero_add, ← h1] at hm
    rw [← h1] at e1 e3
    rw [List.mem_filter]
    refine ⟨hm, ?_⟩
    rcases Nat.decEq (q.1 + 1) i with f | f
    · simp [e1, f]
    · have e4 : q.2.category ≠ 2 := fun z => e3 ⟨f, z⟩
      simp [e1, e4]
theorem xHas.s2 {ls' : Array Slot} {nL : Nat} {lv lv2 : xLs} {i : Nat} {v : Value} (h : lv_has ls' nL ((i, v) :: (xLv 0 lv).filter (fun q => !(q.1 == i) && (!(q.1 == i + 1) && !(q.1 + 1 == i && q.2.category == 2))))) (hs : xS2 i v lv lv2) : xHas ls' nL lv2 := by
  refine ⟨h.1, h.2.1, fun q hq => ?_⟩
  obtain ⟨j, h1, h2⟩ := xLv_of lv2 0 q hq
  rw [Nat.zero_add] at h1
  refine h.2.2 q ?_
  rcases hs j _ h2 with ⟨e1, e2⟩ | ⟨e1, e0, e2, e3⟩
  · rw [List.mem_cons]
    left
    rw [← e1, ← e2, ← h1]
  · rw [List.mem_cons]
    right
    have hm := xLv_mem lv 0 j _ e2
    rw [Nat.zero_add, ← h1] at hm
    rw [← h1] at e1 e3 e0
    rw [List.mem_filter]
    refine ⟨hm, ?_⟩
    rcases Nat.decEq (q.1 + 1) i with f | f
    · simp [e1, e0, f]
    · have e4 : q.2.category ≠ 2 := fun z => e3 ⟨f, z⟩
      simp [e1, e0, e4]
/-! the judgements -/
def xQ (G : xG) (Q : xR → xH → Prop) : Array Value → State → Outcome → State → Prop := fun _ st oc t => (∃ (v : Option Value) (h1 : xH), oc = .returned v ∧ Q (.inl v) h1 ∧ xRep G h1 t.heap) ∧ va_F (xA G) st t
def xX (G : xG) (Q : xR → xH → Prop) : String → Addr → State → State → Prop := fun E q st t => (∃ h1 : xH, Q (.inr (E, q)) h1 ∧ xRep G h1 t.heap) ∧ va_F (xA G) st t
/-- what a frame stands on -/
def xFr (G : xG) (l : Launch) (M : xM) (d : Nat) (p : Program) (R : Room) (s : State) (m : MethodId) (args : Array Value) (meth : Method) (c : Code) : Prop :=
  p.tables.exec = Jvm.exec ∧ c.code = M.2.1 ∧ meth.sig.returnType = M.2.2.2.1 ∧ c.maxLocals = M.2.2.1 ∧ s.vm.findClass M.1.cls = some m.cls ∧ (∀ w ∈ lw_all, w.before args s = true) ∧ meth.locks = false ∧ meth.name = M.1.name ∧ d ≤ R.frames ∧ 64 * d ≤ R.locals ∧ xK G s ∧ c.exceptionTable.toList.map (fun x => (x.startPc, x.endPc, x.handlerPc, x.catchType)) = M.2.2.2.2
/-- frame of M at pc: locals lv, stack st, world h; k cells, n slots are left; calls d deep; it ends with Q -/
def xF (G : xG) (l : Launch) (M : xM) (d k n : Nat) (Q : xR → xH → Prop) (pc : Nat) (lv : xLs) (st : List Value) (h : xH) : Prop :=
  ∀ (p : Program) (e : Env) (R : Room) (s : State) (m : MethodId) (args : Array Value) (below : List Frame) (meth : Method) (c : Code) (H : Heap) (locs : List Loc) (cells slots : Nat) (ls : Array Slot),
    xFr G l M d p R s m args meth c → xHas ls M.2.2.1 lv → cells + k ≤ R.cells → slots + n ≤ R.slots → xRep G h H → va_S (xA G) s.heap H locs →
    W p l e R s m args below meth c H locs cells slots (vx_MQ below (xQ G Q) (xX G Q) args s R.cells R.slots (xA G)) (F0 m pc ls st)
def xwd (M : xM) : Cond := match M.2.2.2.2 with
  | [] => .code M.1 M.2.1 M.2.2.1 M.2.2.2.1
  | hh => .codeWith M.1 M.2.1 M.2.2.1 M.2.2.2.1 hh
abbrev xws (M : xM) : List Cond := xwd M :: lw_all
abbrev xrm (d mc ms : Nat) : Room := { frames := d, cells := mc, slots := ms, locals := 64 * d }
def xPc (G : xG) (av : List Value) (h : xH) : Array Value → State → Prop := va_Pc av (fun U => xK G U ∧ xRep G h U.heap)
/-- the contract: called with av on h, d deep at most, making at most mc cells, ms slots, M ends with Q -/
def xC (G : xG) (l : Launch) (M : xM) (d mc ms : Nat) (av : List Value) (h : xH) (Q : xR → xH → Prop) : Prop :=
  vx_Met l M.1 (xws M) (xrm d mc ms) (xPc G av h) (xQ G Q) (xX G Q) mc ms (xA G)
theorem xPc.blind {G : xG} {av : List Value} {h : xH} : FrameBlind (xPc G av h) := fun a U g mk q => ⟨q.1, xK.same (s := U) (U := U.calling g mk a) rfl rfl q.2.1, q.2.2⟩
theorem xLe_refl (lv : xLs) : xLe lv lv := fun _ _ h => h
/-- a method without handlers, from its entry -/
theorem xC.start {G : xG} {l : Launch} {M : xM} {d mc ms : Nat} {av : List Value} {h : xH} {Q : xR → xH → Prop} {lv : xLs} (hh : M.2.2.2.2 = []) (hy : plainName M.1.cls = true) (hn : (lg_sl av).length ≤ M.2.2.1) (hlv : xLv 0 lv = lv_args 0 av)
    (k : xF G l M d mc ms Q 0 lv [] h) : xC G l M d mc ms av h Q := by
  have hw : xws M = Cond.code M.1 M.2.1 M.2.2.1 M.2.2.2.1 :: lw_all := by unfold xws xwd; rw [hh]
  refine vx_ofW (cc := M.2.1) (maxL := M.2.2.1) (ret := M.2.2.2.1) hy hw ?_
  intro p e s m args below meth c s₁ B hml ht hv
  obtain ⟨rfl, hK, hR⟩ := hv
  have hts := atoms_spec (ws := xws M) B.pre
  have hown : s.vm.findClass M.1.cls = some m.cls := findClass_of_methodNamed B.named
  have hin : meth.name = M.1.name := (name_of_methodNamed B.named B.method).1
  have hl := lv_entry av (n := M.2.2.1) hn
  rw [lg_entry_eq]
  generalize (lg_sl av ++ List.replicate (M.2.2.1 - (lg_sl av).length) Slot.unset).toArray = ls at hl ⊢
  have hL : xHas ls M.2.2.1 lv := by unfold xHas; rw [hlv]; exact hl
  have htab : c.exceptionTable.toList.map (fun x => (x.startPc, x.endPc, x.handlerPc, x.catchType)) = M.2.2.2.2 := by
    rw [hh, List.map_eq_nil_iff]
    cases hc : c.exceptionTable.toList with
    | nil => rfl
    | cons x r => exact absurd (by rw [hc]; exact List.mem_cons_self) (ht x)
  exact k p e (xrm d mc ms) s m _ below meth c s.heap [] 0 0 ls ⟨B.exec, B.bytes, B.returns, hml, hown, fun w hw => hts w (List.mem_cons_of_mem _ hw), B.notSynchronized, hin, Nat.le_refl _, Nat.le_refl _, hK, htab⟩ hL (by simp) (by simp) hR va_S.rf

/-! ===== rows ===== -/
theorem x_end {G : xG} {l : Launch} {k n : Nat} {Q : xR → xH → Prop} {pc : Nat} {st : List Value} {h : xH} {v : Option Value} {p : Program} {e : Env} {R : Room} {s : State} {m : MethodId} {args : Array Value} {below : List Frame} {meth : Method} {c : Code} {H : Heap} {locs : List Loc} {cells slots : Nat} {ls : Array Slot}
    (hq : Q (.inl v) h) (hR : xRep G h H) (hS : va_S (xA G) s.heap H locs) (hc : cells + k ≤ R.cells) (hs : slots + n ≤ R.slots)
    (row : (∀ t : State, t.heap = H → s.WarmedH t.vm → xQ G Q args s (.returned v) t) → (∀ q ∈ locs, xA G q.base) → W p l e R s m args below meth c H locs R.cells R.slots (MQ below (xQ G Q) args s R.cells R.slots (xA G)) (F0 m pc ls st)) :
    W p l e R s m args below meth c H locs cells slots (vx_MQ below (xQ G Q) (xX G Q) args s R.cells R.slots (xA G)) (F0 m pc ls st) := by
  refine vx_ret (W.widen (k := R.cells) (n := R.slots) (by omega) (by omega) (row (fun t ht _ => ⟨⟨v, h, rfl, hq, by rw [ht]; exact hR⟩, hS.F ht⟩) hS.2.2))
section XR
variable {G : xG} {l : Launch} {M : xM} {d k n : Nat} {Q : xR → xH → Prop} {pc : Nat} {lv : xLs} {st : List Value} {h : xH}
theorem x_le {lv2 : xLs} (hl : xLe lv2 lv) (kk : xF G l M d k n Q pc lv2 st h) : xF G l M d k n Q pc lv st h := by
  intro p e R s m args below meth c H locs cells slots ls F hL hc hs hR hS
  exact kk p e R s m args below meth c H locs cells slots ls F (hL.le hl) hc hs hR hS
theorem x_wide {k2 n2 : Nat} (h1 : k2 ≤ k) (h2 : n2 ≤ n) (kk : xF G l M d k2 n2 Q pc lv st h) : xF G l M d k n Q pc lv st h := by
  intro p e R s m args below meth c H locs cells slots ls F hL hc hs hR hS
  exact kk p e R s m args below meth c H locs cells slots ls F hL (by omega) (by omega) hR hS
theorem x_cast {h2 : xH} {pc2 : Nat} {st2 : List Value} (eh : h = h2) (ep : pc = pc2) (es : st = st2) (kk : xF G l M d k n Q pc2 lv st2 h2) : xF G l M d k n Q pc lv st h := by
  subst eh ep es
  exact kk
theorem x_eqh {h2 : xH} (eh : h = h2) (kk : xF G l M d k n Q pc lv st h2) : xF G l M d k n Q pc lv st h := eh ▸ kk
theorem x_post {Q2 : xR → xH → Prop} (hq : ∀ r h1, Q2 r h1 → Q r h1) (kk : xF G l M d k n Q2 pc lv st h) : xF G l M d k n Q pc lv st h := by
  intro p e R s m args below meth c H locs cells slots ls F hL hc hs hR hS T hT X
  obtain ⟨t, a, o, b1, b2, b3⟩ := kk p e R s m args below meth c H locs cells slots ls F hL hc hs hR hS T hT X
  refine ⟨t, a, o, b1, b2, ?_⟩
  rcases b3 with ⟨⟨⟨v, h1, e1, q1, r1⟩, f1⟩, L1⟩ | ⟨q, e1, E, ce, L, ⟨⟨h1, q1, r1⟩, f1⟩, r2⟩
  · exact Or.inl ⟨⟨⟨v, h1, e1, hq _ _ q1, r1⟩, f1⟩, L1⟩
  · exact Or.inr ⟨q, e1, E, ce, L, ⟨⟨h1, hq _ _ q1, r1⟩, f1⟩, r2⟩
/-- a row of the kit that leaves world and locals -/
theorem x_iincA {p : Program} {e : Env} {R : Room} {s : State} {m : MethodId} {args : Array Value} {below : List Frame} {meth : Method} {c : Code} {H : Heap} {locs : List Loc} {cells slots : Nat} {Qf : State → Prop} {ls : Array Slot} (F : xFr G l M d p R s m args meth c) (hL : xHas ls M.2.2.1 lv) {i : Nat} {x v : Int32} {z : Int} (hx : lv[i]? = some (some (.int x))) (hdg : decode M.2.1 pc = .ok (.iinc i z, 3)) (hv : Int32.ofInt z = v) (hn : i < M.2.2.1)
    (kk : ∀ ls' : Array Slot, lv_has ls' M.2.2.1 ((i, Value.int (x + v)) :: (xLv 0 lv).filter (fun q => !(q.1 == i) && !(q.1 + 1 == i && q.2.category == 2))) → W p l e R s m args below meth c H locs cells slots Qf (F0 m (pc + 3) ls' st)) : W p l e R s m args below meth c H locs cells slots Qf (F0 m pc ls st) := by
  subst hv
  have hg := hL.at hx
  obtain ⟨ls', e', h'⟩ := lv_store1 (v := .int (x + Int32.ofInt z)) hL hn rfl
  intro T hT X
  obtain ⟨t, a, b⟩ := kk ls' h' T hT X
  refine ⟨t, ?_, b⟩
  jvm_step X.here [X.here.top, ↓top_set X.here.top, F.1, F.2.1, hdg, hg, e']
  exact a
/-! ends -/
theorem x_iret {x : Int32} (hdg : decode M.2.1 pc = .ok (.ireturn, 1)) (hr : M.2.2.2.1 = some .int) (hq : Q (.inl (some (.int x))) h) : xF G l M d k n Q pc lv [.int x] h := by
  intro p e R s m args below meth c H locs cells slots ls F hL hc hs hR hS
  exact x_end hq hR hS hc hs fun q1 q2 => W.iret F.1 F.2.1 (F.2.2.1.trans hr) q1 q2 hdg F.2.2.2.2.2.2.1
theorem x_zret {x : Int32} (hdg : decode M.2.1 pc = .ok (.ireturn, 1)) (hr : M.2.2.2.1 = some .boolean) (hn : narrow .boolean (.int x) = .int x) (hq : Q (.inl (some (.int x))) h) : xF G l M d k n Q pc lv [.int x] h := by
  intro p e R s m args below meth c H locs cells slots ls F hL hc hs hR hS
  exact x_end hq hR hS hc hs fun q1 q2 => W.zret F.1 F.2.1 (F.2.2.1.trans hr) hn q1 q2 hdg F.2.2.2.2.2.2.1
theorem x_zret1 (hdg : decode M.2.1 pc = .ok (.ireturn, 1)) (hr : M.2.2.2.1 = some .boolean) (hq : Q (.inl (some (.int 1))) h) : xF G l M d k n Q pc lv [.int 1] h := x_zret hdg hr (by decide) hq
theorem x_zret0 (hdg : decode M.2.1 pc = .ok (.ireturn, 1)) (hr : M.2.2.2.1 = some .boolean) (hq : Q (.inl (some (.int 0))) h) : xF G l M d k n Q pc lv [.int 0] h := x_zret hdg hr (by decide) hq
theorem x_lret {x : Int64} (hdg : decode M.2.1 pc = .ok (.lreturn, 1)) (hr : M.2.2.2.1 = some .long) (hq : Q (.inl (some (.long x))) h) : xF G l M d k n Q pc lv [.long x] h := by
  intro p e R s m args below meth c H locs cells slots ls F hL hc hs hR hS
  exact x_end hq hR hS hc hs fun q1 q2 => W.lret F.1 F.2.1 (F.2.2.1.trans hr) q1 q2 hdg F.2.2.2.2.2.2.1
theorem x_vret (hdg : decode M.2.1 pc = .ok (.return_, 1)) (hr : M.2.2.2.1 = none) (hq : Q (.inl none) h) : xF G l M d k n Q pc lv [] h := by
  intro p e R s m args below meth c H locs cells slots ls F hL hc hs hR hS
  exact x_end hq hR hS hc hs fun q1 q2 => W.vret F.1 F.2.1 (F.2.2.1.trans hr) q1 q2 hdg F.2.2.2.2.2.2.1
theorem x_aret {v : Value} {rt : FieldType} (hdg : decode M.2.1 pc = .ok (.areturn, 1)) (hr : M.2.2.2.1 = some rt) (hrt : (∃ n, rt = .object n) ∨ ∃ t, rt = .array t) (hv : v = .null ∨ ∃ a, v = .ref a) (hq : Q (.inl (some v)) h) : xF G l M d k n Q pc lv [v] h := by
  intro p e R s m args below meth c H locs cells slots ls F hL hc hs hR hS
  exact x_end hq hR hS hc hs fun q1 q2 => W.aret F.1 F.2.1 (F.2.2.1.trans hr) hrt hv q1 q2 hdg F.2.2.2.2.2.2.1
/-! fields -/
/-- class ci of xcl: its words -/
def xCl (ci : Nat) (C : String) (T : u_T) (N : Nat) (ty : Nat → FieldType) : Prop := xcl[ci]? = some (C, T, N) ∧ (∀ w ∈ u_ws C T N, w ∈ lw_all) ∧ ∀ j, j < N → parseFieldDescriptor (T j).2.2.1 = some (ty j)
/-- the pool's entry idx of class own is field j of class ci -/
def xFa (own : String) (idx ci j : Nat) : Prop := ∃ (C : String) (T : u_T) (N : Nat) (ty : Nat → FieldType) (ref : String), xCl ci C T N ty ∧ j < N ∧ ((Cond.fieldLink own idx ref (T j).2.1 (T j).2.2.1 ∈ lw_all) ∨ ∃ host, Cond.fieldLinkNest own idx ref (T j).2.1 (T j).2.2.1 host ∈ xnw) ∧ (ref = (T j).1 ∨ Cond.sameField ref (T j).1 (T j).2.1 (T j).2.2.1 ∈ lw_all)
/-- and may be written, with what has type t -/
def xFp (own : String) (idx ci j : Nat) (t : FieldType) : Prop := ∃ (C : String) (T : u_T) (N : Nat) (ty : Nat → FieldType) (ref : String), xCl ci C T N ty ∧ j < N ∧ ((Cond.fieldLink own idx ref (T j).2.1 (T j).2.2.1 ∈ lw_all) ∨ ∃ host, Cond.fieldLinkNest own idx ref (T j).2.1 (T j).2.2.1 host ∈ xnw) ∧ (ref = (T j).1 ∨ Cond.sameField ref (T j).1 (T j).2.1 (T j).2.2.1 ∈ lw_all) ∧ (T j).2.2.2 = false ∧ parseFieldDescriptor (T j).2.2.1 = some t
/-- a final one, in a constructor of own -/
def xFf (own : String) (idx ci j : Nat) (t : FieldType) : Prop := ∃ (C : String) (T : u_T) (N : Nat) (ty : Nat → FieldType) (ref : String), xCl ci C T N ty ∧ j < N ∧ (Cond.fieldLink own idx ref (T j).2.1 (T j).2.2.1 ∈ lw_all) ∧ (ref = (T j).1 ∨ Cond.sameField ref (T j).1 (T j).2.1 (T j).2.2.1 ∈ lw_all) ∧ (T j).2.2.2 = true ∧ (T j).1 = own ∧ parseFieldDescriptor (T j).2.2.1 = some t
theorem xRep.cell {G : xG} {h : xH} {H : Heap} (hR : xRep G h H) {a : Nat} {ci : Nat} {fs : List Value} (ha : h a = some (.inr (ci, fs))) {C : String} {T : u_T} {N : Nat} (hc : xcl[ci]? = some (C, T, N)) :
    xA G a ∧ t_OB a (G.1.1 ci) N (G.1.2 ci) H (vp_V fs) := by
  obtain ⟨h1, r, h2, h3⟩ := hR a _ ha
  cases Option.some.inj (h2.symm.trans hc)
  exact ⟨h1, h3⟩
theorem xRep.set {G : xG} {h : xH} {H H1 : Heap} (hR : xRep G h H) {a : Nat} {e : va_E} (hA : xA G a) (he : va_at G.1 xcl (a, e) H1) (oq : ∀ q : Nat, q ≠ a → H1[q]? = H[q]?) : xRep G (xUp h a e) H1 := by
  intro b e' hb
  by_cases hba : b = a
  · subst hba
    rw [xUp_self] at hb
    cases hb
    exact ⟨hA, he⟩
  · rw [xUp_ne _ _ hba] at hb
    obtain ⟨h1, h2⟩ := hR b e' hb
    exact ⟨h1, h2.kept (oq b hba)⟩
theorem xRep.push {G : xG} {h : xH} {H H1 : Heap} (hR : xRep G h H) {e : va_E} (hA : xA G H.size) (he : va_at G.1 xcl (H.size, e) H1) (oq : ∀ q : Nat, q < H.size → H1[q]? = H[q]?) : xRep G (xUp h H.size e) H1 := by
  intro b e' hb
  by_cases hba : b = H.size
  · subst hba
    rw [xUp_self] at hb
    cases hb
    exact ⟨hA, he⟩
  · rw [xUp_ne _ _ hba] at hb
    obtain ⟨h1, h2⟩ := hR b e' hb
    exact ⟨h1, h2.kept (oq b h2.lt)⟩
theorem xRep.lt {G : xG} {h : xH} {H : Heap} (hR : xRep G h H) {a : Nat} {e : va_E} (ha : h a = some e) : a < H.size := (hR a e ha).2.lt
theorem xRep.fresh {G : xG} {h : xH} {H : Heap} (hR : xRep G h H) : h H.size = none := by
  cases hh : h H.size with
  | none => rfl
  | some e => exact absurd (hR.lt hh) (Nat.lt_irrefl _)
theorem x_get {a ci j idx : Nat} {fs : List Value} {v : Value} (hdg : decode M.2.1 pc = .ok (.getfield idx, 3)) (hf : xFa M.1.cls idx ci j) (ha : h a = some (.inr (ci, fs))) (hv : fs[j]? = some v)
    (kk : xF G l M d k n Q (pc + 3) lv (v :: st) h) : xF G l M d k n Q pc lv (.ref a :: st) h := by
  intro p e R s m args below meth c H locs cells slots ls F hL hc hs hR hS
  obtain ⟨C, T, N, ty, ref, ⟨hcl, hin, hty⟩, hj, hlink, hsame⟩ := hf
  have hK := F.2.2.2.2.2.2.2.2.2.2.1
  have hsm : ∀ x, s.fieldFound? (T j).1 (T j).2.1 (T j).2.2.1 = some x → s.fieldFound? ref (T j).2.1 (T j).2.2.1 = some x := by
    rcases hsame with e1 | e1
    · intro x hx; rw [e1]; exact hx
    · exact u_same (F.2.2.2.2.2.1 _ e1)
  obtain ⟨-, cell, q1, q2, q3, q4⟩ := hR.cell ha hcl
  obtain ⟨hS1, hfc, kC, hkC, hkind⟩ := hK.1.1 ci _ hcl
  obtain ⟨cf, kf, fi, f, hi, hsl⟩ := hS1 j hj
  have hst := (u_facts hfc hkC (u_lays F.2.2.2.2.2.1 hin hj) hi).1
  have hslot : cell.slots[f.slot]? = some v := by
    rw [hsl, q4 j hj]
    simp [vp_V, hv]
  rcases hlink with e1 | ⟨host, e1⟩
  · exact W.getf F.1 F.2.1 F.2.2.2.2.1 (F.2.2.2.2.2.1 _ e1) (hsm _ hi) hst q1 (by rw [q3]; exact fun z => by cases z) hslot rfl rfl hdg (kk p e R s m args below meth c H locs cells slots ls F hL hc hs hR hS)
  · exact va_Wgetf F.1 F.2.1 F.2.2.2.2.1 (va_Nw.use rfl (hK.2.2.1 _ e1)) (hsm _ hi) hst q1 (by rw [q3]; exact fun z => by cases z) hslot rfl rfl hdg (kk p e R s m args below meth c H locs cells slots ls F hL hc hs hR hS)
theorem x_put {a ci j idx : Nat} {fs : List Value} {v : Value} {t : FieldType} (hdg : decode M.2.1 pc = .ok (.putfield idx, 3)) (hf : xFp M.1.cls idx ci j t) (ha : h a = some (.inr (ci, fs))) (hl : j < fs.length) (hn : narrow t v = v) (hfit : fits t v = true)
    (kk : xF G l M d k n Q (pc + 3) lv st (xUp h a (.inr (ci, fs.set j v)))) : xF G l M d k n Q pc lv (v :: .ref a :: st) h := by
  intro p e R s m args below meth c H locs cells slots ls F hL hc hs hR hS
  obtain ⟨C, T, N, ty, ref, ⟨hcl, hin, hty⟩, hj, hlink, hsame, hfin, hd⟩ := hf
  have hK := F.2.2.2.2.2.2.2.2.2.2.1
  have hsm : ∀ x, s.fieldFound? (T j).1 (T j).2.1 (T j).2.2.1 = some x → s.fieldFound? ref (T j).2.1 (T j).2.2.1 = some x := by
    rcases hsame with e1 | e1
    · intro x hx; rw [e1]; exact hx
    · exact u_same (F.2.2.2.2.2.1 _ e1)
  obtain ⟨hA, cell, q1, q2, q3, q4⟩ := hR.cell ha hcl
  have hap : ∀ x y, x < N → y < N → x ≠ y → G.1.2 ci x ≠ G.1.2 ci y := hK.2.2.2.1.1 ci _ hcl
  obtain ⟨hS1, hfc, kC, hkC, hkind⟩ := hK.1.1 ci _ hcl
  obtain ⟨cf, kf, fi, f, hi, hsl⟩ := hS1 j hj
  have hlay := F.2.2.2.2.2.1 _ (hin _ (u_in_lay hj))
  unfold u_lay at hlay
  rw [if_neg (by rw [hfin]; decide)] at hlay
  have hst := (u_facts hfc hkC (u_lays F.2.2.2.2.2.1 hin hj) hi).1
  have h6 := u_store hfc hkC hkind hlay hi hd hn hfit
  have go : ∀ H' : Heap, H'[a]? = some (cell.setSlot f.slot v) → H'.size = H.size → (∀ q, q ≠ a → H'[q]? = H[q]?) → W p l e R s m args below meth c H' (locs ++ [⟨a, f.slot⟩]) cells slots (vx_MQ below (xQ G Q) (xX G Q) args s R.cells R.slots (xA G)) (F0 m (pc + 3) ls st) := by
    intro H' e1 e2 e3
    rw [hsl] at e1 ⊢
    exact kk p e R s m args below meth c H' _ cells slots ls F hL hc hs (hR.set hA ⟨_, hcl, t_OB.to (V := updV (vp_V fs) j v) ⟨_, e1, q2, q3, t_set q4 hap hj v⟩ (fun i _ => vp_updV_set hl v i)⟩ e3) (hS.put e2 e3 hA)
  rcases hlink with e1 | ⟨host, e1⟩
  · exact W.putK F.1 F.2.1 (f := f) ⟨F.2.2.2.2.1, F.2.2.2.2.2.1 _ e1, ⟨_, _, _, hsm _ hi⟩, hst⟩ (by rw [q2]; exact h6) q1 q3 (by rw [hsl]; exact k2_hasslot (q4 j hj)) rfl rfl hdg go
  · exact va_WputK F.1 F.2.1 (f := f) F.2.2.2.2.1 (va_Nw.use rfl (hK.2.2.1 _ e1)) (hsm _ hi) hst (by rw [q2]; exact h6) q1 q3 (by rw [hsl]; exact k2_hasslot (q4 j hj)) rfl rfl hdg go
theorem x_putF {a ci j idx : Nat} {fs : List Value} {v : Value} {t : FieldType} (hdg : decode M.2.1 pc = .ok (.putfield idx, 3)) (hf : xFf M.1.cls idx ci j t) (hm : M.1.name = "<init>") (ha : h a = some (.inr (ci, fs))) (hl : j < fs.length) (hn : narrow t v = v) (hfit : fits t v = true)
    (kk : xF G l M d k n Q (pc + 3) lv st (xUp h a (.inr (ci, fs.set j v)))) : xF G l M d k n Q pc lv (v :: .ref a :: st) h := by
  intro p e R s m args below meth c H locs cells slots ls F hL hc hs hR hS
  obtain ⟨C, T, N, ty, ref, ⟨hcl, hin, hty⟩, hj, hlink, hsame, hfin, hdecl, hd⟩ := hf
  have hK := F.2.2.2.2.2.2.2.2.2.2.1
  have hsm : ∀ x, s.fieldFound? (T j).1 (T j).2.1 (T j).2.2.1 = some x → s.fieldFound? ref (T j).2.1 (T j).2.2.1 = some x := by
    rcases hsame with e1 | e1
    · intro x hx; rw [e1]; exact hx
    · exact u_same (F.2.2.2.2.2.1 _ e1)
  obtain ⟨hA, cell, q1, q2, q3, q4⟩ := hR.cell ha hcl
  have hap : ∀ x y, x < N → y < N → x ≠ y → G.1.2 ci x ≠ G.1.2 ci y := hK.2.2.2.1.1 ci _ hcl
  obtain ⟨hS1, hfc, kC, hkC, hkind⟩ := hK.1.1 ci _ hcl
  obtain ⟨cf, kf, fi, f, hi, hsl⟩ := hS1 j hj
  have hlay := F.2.2.2.2.2.1 _ (hin _ (u_in_lay hj))
  unfold u_lay at hlay
  rw [if_pos hfin] at hlay
  have hst := (u_facts hfc hkC (u_lays F.2.2.2.2.2.1 hin hj) hi).1
  have hcf : m.cls = cf := by
    obtain ⟨_, _, c', _, _, _, -, -, hf', -, -, -, hown2, -⟩ := Cond.laysFinal_spec hlay
    have e1 : c' = cf := by have := hi.symm.trans hf'; simp at this; exact this.1.symm
    rw [hdecl] at hown2
    rw [← e1]; exact Option.some.inj (F.2.2.2.2.1.symm.trans hown2)
  have h6 := u_fits hfc hkC hkind (Or.inr hlay) hi hd hn hfit
  refine W.putFinK F.1 F.2.1 F.2.2.2.2.1 (F.2.2.2.2.2.1 _ hlink) (hsm _ hi) hst hcf (F.2.2.2.2.2.2.2.1.trans hm) (by rw [q2]; exact h6) q1 q3 (by rw [hsl]; exact k2_hasslot (q4 j hj)) rfl rfl hdg fun H' e1 e2 e3 => ?_
  rw [hsl] at e1 ⊢
  exact kk p e R s m args below meth c H' _ cells slots ls F hL hc hs (hR.set hA ⟨_, hcl, t_OB.to (V := updV (vp_V fs) j v) ⟨_, e1, q2, q3, t_set q4 hap hj v⟩ (fun i _ => vp_updV_set hl v i)⟩ e3) (hS.put e2 e3 hA)
/-! arrays -/
abbrev xI (G : xG) (t N : Nat) (f : Nat → Int32) : va_E := .inl (G.2.1 t, N, .inl f)
abbrev xJ (G : xG) (N : Nat) (f : Nat → Int64) : va_E := .inl (G.2.1 1, N, .inr (.inl f))
abbrev xO (G : xG) (t N : Nat) (f : Nat → Option Nat) : va_E := .inl (G.2.1 t, N, .inr (.inr (.inr (.inr f))))
theorem xFr.arr {p : Program} {R : Room} {s : State} {m : MethodId} {args : Array Value} {meth : Method} {c : Code} (F : xFr G l M d p R s m args meth c) {t : Nat} {ty : FieldType} (ht : xtys[t]? = some ty) : ArrOfT s (G.2.1 t) ty := ((F.2.2.2.2.2.2.2.2.2.2.1).1.2.1 t ty ht).1
theorem x_iald {a N : Nat} {f : Nat → Int32} {i : Int32} (hdg : decode M.2.1 pc = .ok (.iaload, 1)) (ha : h a = some (xI G 0 N f)) (hin : vp_in i N)
    (kk : xF G l M d k n Q (pc + 1) lv (.int (f i.toNatClampNeg) :: st) h) : xF G l M d k n Q pc lv (.int i :: .ref a :: st) h := by
  intro p e R s m args below meth c H locs cells slots ls F hL hc hs hR hS
  have hlt : i.toNatClampNeg < N := Nat.not_le.mp fun q => hin (Or.inr q)
  exact W.iald (v := .int (f i.toNatClampNeg)) F.1 F.2.1 (hR a _ ha).2 (F.arr (t := 0) rfl N (fun j => .int (f j))) (fun q => by cases q) (by show ¬ (i < 0 ∨ (arrV _ _ _).slots.size ≤ _); rw [arrV_size]; exact hin) (by show (arrV _ _ _).slots[_]? = _; rw [arrV_read _ _ hlt]) rfl rfl hdg (kk p e R s m args below meth c H locs cells slots ls F hL hc hs hR hS)
theorem x_bald {a N : Nat} {f : Nat → Int32} {i : Int32} (hdg : decode M.2.1 pc = .ok (.baload, 1)) (ha : h a = some (xI G 2 N f)) (hin : vp_in i N)
    (kk : xF G l M d k n Q (pc + 1) lv (.int (f i.toNatClampNeg) :: st) h) : xF G l M d k n Q pc lv (.int i :: .ref a :: st) h := by
  intro p e R s m args below meth c H locs cells slots ls F hL hc hs hR hS
  have hlt : i.toNatClampNeg < N := Nat.not_le.mp fun q => hin (Or.inr q)
  exact W.bald (v := .int (f i.toNatClampNeg)) F.1 F.2.1 (hR a _ ha).2 (F.arr (t := 2) rfl N (fun j => .int (f j))) (fun q => by cases q) (by show ¬ (i < 0 ∨ (arrV _ _ _).slots.size ≤ _); rw [arrV_size]; exact hin) (by show (arrV _ _ _).slots[_]? = _; rw [arrV_read _ _ hlt]) rfl rfl hdg (kk p e R s m args below meth c H locs cells slots ls F hL hc hs hR hS)
theorem x_zald {a N : Nat} {f : Nat → Int32} {i : Int32} (hdg : decode M.2.1 pc = .ok (.baload, 1)) (ha : h a = some (xI G 3 N f)) (hin : vp_in i N)
    (kk : xF G l M d k n Q (pc + 1) lv (.int (f i.toNatClampNeg) :: st) h) : xF G l M d k n Q pc lv (.int i :: .ref a :: st) h := by
  intro p e R s m args below meth c H locs cells slots ls F hL hc hs hR hS
  have hlt : i.toNatClampNeg < N := Nat.not_le.mp fun q => hin (Or.inr q)
  exact W.zald (v := .int (f i.toNatClampNeg)) F.1 F.2.1 (hR a _ ha).2 (F.arr (t := 3) rfl N (fun j => .int (f j))) (fun q => by cases q) (by show ¬ (i < 0 ∨ (arrV _ _ _).slots.size ≤ _); rw [arrV_size]; exact hin) (by show (arrV _ _ _).slots[_]? = _; rw [arrV_read _ _ hlt]) rfl rfl hdg (kk p e R s m args below meth c H locs cells slots ls F hL hc hs hR hS)
theorem x_lald {a N : Nat} {f : Nat → Int64} {i : Int32} (hdg : decode M.2.1 pc = .ok (.laload, 1)) (ha : h a = some (xJ G N f)) (hin : vp_in i N)
    (kk : xF G l M d k n Q (pc + 1) lv (.long (f i.toNatClampNeg) :: st) h) : xF G l M d k n Q pc lv (.int i :: .ref a :: st) h := by
  intro p e R s m args below meth c H locs cells slots ls F hL hc hs hR hS
  have hlt : i.toNatClampNeg < N := Nat.not_le.mp fun q => hin (Or.inr q)
  exact W.lald (v := .long (f i.toNatClampNeg)) F.1 F.2.1 (hR a _ ha).2 (F.arr (t := 1) rfl N (fun j => .long (f j))) (fun q => by cases q) (by show ¬ (i < 0 ∨ (arrV _ _ _).slots.size ≤ _); rw [arrV_size]; exact hin) (by show (arrV _ _ _).slots[_]? = _; rw [arrV_read _ _ hlt]) rfl rfl hdg (kk p e R s m args below meth c H locs cells slots ls F hL hc hs hR hS)
theorem x_aald {a N t : Nat} {ty : FieldType} {f : Nat → Option Nat} {i : Int32} (hdg : decode M.2.1 pc = .ok (.aaload, 1)) (ht : xtys[t]? = some ty) (hty : ty.isReference = true) (ha : h a = some (xO G t N f)) (hin : vp_in i N)
    (kk : xF G l M d k n Q (pc + 1) lv (va_rf (f i.toNatClampNeg) :: st) h) : xF G l M d k n Q pc lv (.int i :: .ref a :: st) h := by
  intro p e R s m args below meth c H locs cells slots ls F hL hc hs hR hS
  have hlt : i.toNatClampNeg < N := Nat.not_le.mp fun q => hin (Or.inr q)
  exact W.aald (v := va_rf (f i.toNatClampNeg)) F.1 F.2.1 (hR a _ ha).2 (F.arr ht N (fun j => va_rf (f j))) hty (fun q => by cases q) (by show ¬ (i < 0 ∨ (arrV _ _ _).slots.size ≤ _); rw [arrV_size]; exact hin) (by show (arrV _ _ _).slots[_]? = _; rw [arrV_read _ _ hlt]) rfl rfl hdg (kk p e R s m args below meth c H locs cells slots ls F hL hc hs hR hS)
theorem x_alen {a N t : Nat} {ty : FieldType} {x : vp_A} {v : Int32} (hdg : decode M.2.1 pc = .ok (.arraylength, 1)) (ht : xtys[t]? = some ty) (ha : h a = some (.inl (G.2.1 t, x))) (hv : Int32.ofNat x.1 = v)
    (kk : xF G l M d k n Q (pc + 1) lv (.int v :: st) h) : xF G l M d k n Q pc lv (.ref a :: st) h := by
  intro p e R s m args below meth c H locs cells slots ls F hL hc hs hR hS
  have hk : va_K G.1 xcl [(G.2.1 t, ty)] s := ⟨F.2.2.2.2.2.2.2.2.2.2.1.1.1, fun j q hj => by
    cases j with
    | zero => cases hj; exact F.2.2.2.2.2.2.2.2.2.2.1.1.2.1 t ty ht
    | succ j => simp at hj⟩
  have hp : va_P G.1 xcl [(a, .inl (G.2.1 t, x))] H := fun j q hj => by
    cases j with
    | zero => cases hj; exact (hR a _ ha).2
    | succ j => simp at hj
  exact va_alen F.1 F.2.1 hk hp 0 0 rfl rfl hv hdg (kk p e R s m args below meth c H locs cells slots ls F hL hc hs hR hS)
theorem x_iast {a N : Nat} {f : Nat → Int32} {i x : Int32} (hdg : decode M.2.1 pc = .ok (.iastore, 1)) (ha : h a = some (xI G 0 N f)) (hin : vp_in i N)
    (kk : xF G l M d k n Q (pc + 1) lv st (xUp h a (xI G 0 N (upd f i.toNatClampNeg x)))) : xF G l M d k n Q pc lv (.int x :: .int i :: .ref a :: st) h := by
  intro p e R s m args below meth c H locs cells slots ls F hL hc hs hR hS
  obtain ⟨hA, hcell⟩ := hR a _ ha
  refine W.iast F.1 F.2.1 hcell (F.arr (t := 0) rfl N (fun j => .int (f j))) (fun q => by cases q) (by show ¬ (i < 0 ∨ (arrV _ _ _).slots.size ≤ _); rw [arrV_size]; exact hin) rfl rfl hdg fun H1 e1 z oq => ?_
  refine kk p e R s m args below meth c H1 _ cells slots ls F hL hc hs (hR.set hA ?_ oq) (hS.put z oq hA)
  show H1[a]? = some (vp_cell _ _)
  rw [e1, vp_cell_i, vp_cell_i, arrV_store]
  congr 2
  funext q
  by_cases hq : q = i.toNatClampNeg
  · subst hq
    simp [updV, upd]
  · simp [updV, upd, hq]
theorem x_bast {a N : Nat} {f : Nat → Int32} {i x : Int32} (hdg : decode M.2.1 pc = .ok (.bastore, 1)) (ha : h a = some (xI G 2 N f)) (hin : vp_in i N)
    (kk : xF G l M d k n Q (pc + 1) lv st (xUp h a (xI G 2 N (upd f i.toNatClampNeg (vp_nar .byte x))))) : xF G l M d k n Q pc lv (.int x :: .int i :: .ref a :: st) h := by
  intro p e R s m args below meth c H locs cells slots ls F hL hc hs hR hS
  obtain ⟨hA, hcell⟩ := hR a _ ha
  refine W.bast F.1 F.2.1 hcell (F.arr (t := 2) rfl N (fun j => .int (f j))) (fun q => by cases q) (by show ¬ (i < 0 ∨ (arrV _ _ _).slots.size ≤ _); rw [arrV_size]; exact hin) rfl rfl hdg fun H1 e1 z oq => ?_
  refine kk p e R s m args below meth c H1 _ cells slots ls F hL hc hs (hR.set hA ?_ oq) (hS.put z oq hA)
  show H1[a]? = some (vp_cell _ _)
  rw [e1, vp_cell_i, vp_cell_i, arrV_store]
  congr 2
  funext q
  by_cases hq : q = i.toNatClampNeg
  · subst hq
    simp [updV, upd, vp_nar, narrow]
  · simp [updV, upd, hq]
theorem x_zast {a N : Nat} {f : Nat → Int32} {i x : Int32} (hdg : decode M.2.1 pc = .ok (.bastore, 1)) (ha : h a = some (xI G 3 N f)) (hin : vp_in i N)
    (kk : xF G l M d k n Q (pc + 1) lv st (xUp h a (xI G 3 N (upd f i.toNatClampNeg (vp_nar .boolean x))))) : xF G l M d k n Q pc lv (.int x :: .int i :: .ref a :: st) h := by
  intro p e R s m args below meth c H locs cells slots ls F hL hc hs hR hS
  obtain ⟨hA, hcell⟩ := hR a _ ha
  refine W.zast F.1 F.2.1 hcell (F.arr (t := 3) rfl N (fun j => .int (f j))) (fun q => by cases q) (by show ¬ (i < 0 ∨ (arrV _ _ _).slots.size ≤ _); rw [arrV_size]; exact hin) rfl rfl hdg fun H1 e1 z oq => ?_
  refine kk p e R s m args below meth c H1 _ cells slots ls F hL hc hs (hR.set hA ?_ oq) (hS.put z oq hA)
  show H1[a]? = some (vp_cell _ _)
  rw [e1, vp_cell_i, vp_cell_i, arrV_store]
  congr 2
  funext q
  by_cases hq : q = i.toNatClampNeg
  · subst hq
    simp [updV, upd, vp_nar, narrow]
  · simp [updV, upd, hq]
theorem x_last {a N : Nat} {f : Nat → Int64} {i : Int32} {x : Int64} (hdg : decode M.2.1 pc = .ok (.lastore, 1)) (ha : h a = some (xJ G N f)) (hin : vp_in i N)
    (kk : xF G l M d k n Q (pc + 1) lv st (xUp h a (xJ G N (vp_updL f i.toNatClampNeg x)))) : xF G l M d k n Q pc lv (.long x :: .int i :: .ref a :: st) h := by
  intro p e R s m args below meth c H locs cells slots ls F hL hc hs hR hS
  obtain ⟨hA, hcell⟩ := hR a _ ha
  refine W.last F.1 F.2.1 hcell (F.arr (t := 1) rfl N (fun j => .long (f j))) (fun q => by cases q) (by show ¬ (i < 0 ∨ (arrV _ _ _).slots.size ≤ _); rw [arrV_size]; exact hin) rfl rfl hdg fun H1 e1 z oq => ?_
  refine kk p e R s m args below meth c H1 _ cells slots ls F hL hc hs (hR.set hA ?_ oq) (hS.put z oq hA)
  show H1[a]? = some (vp_cell _ _)
  rw [e1, vp_cell_l, vp_cell_l, arrV_store]
  congr 2
  funext q
  by_cases hq : q = i.toNatClampNeg
  · subst hq
    simp [updV, vp_updL]
  · simp [updV, vp_updL, hq]
end XR

theorem x_iload_0 {G : xG} {l : Launch} {M : xM} {d k n : Nat} {Q : xR → xH → Prop} {pc : Nat} {st : List Value} {h : xH} {r : xLs} {x : Int32} (hdg : decode M.2.1 pc = .ok (.iload_n 0, 1)) (kk : xF G l M d k n Q (pc + 1) (some (.int x) :: r) (.int x :: st) h) : xF G l M d k n Q pc (some (.int x) :: r) st h := by
  intro p e R s m args below meth c H locs cells slots ls F hL hc hs hR hS
  exact lv_iload_n F.1 F.2.1 hdg rfl (hL.at (i := 0) rfl) (kk p e R s m args below meth c H locs cells slots ls F hL hc hs hR hS)
theorem x_lload_0 {G : xG} {l : Launch} {M : xM} {d k n : Nat} {Q : xR → xH → Prop} {pc : Nat} {st : List Value} {h : xH} {r : xLs} {x : Int64} (hdg : decode M.2.1 pc = .ok (.lload_n 0, 1)) (kk : xF G l M d k n Q (pc + 1) (some (.long x) :: r) (.long x :: st) h) : xF G l M d k n Q pc (some (.long x) :: r) st h := by
  intro p e R s m args below meth c H locs cells slots ls F hL hc hs hR hS
  exact lv_lload_n F.1 F.2.1 hdg rfl (hL.at (i := 0) rfl) (kk p e R s m args below meth c H locs cells slots ls F hL hc hs hR hS)
theorem x_aload_0 {G : xG} {l : Launch} {M : xM} {d k n : Nat} {Q : xR → xH → Prop} {pc : Nat} {st : List Value} {h : xH} {r : xLs} {x : Nat} (hdg : decode M.2.1 pc = .ok (.aload_n 0, 1)) (kk : xF G l M d k n Q (pc + 1) (some (.ref x) :: r) (.ref x :: st) h) : xF G l M d k n Q pc (some (.ref x) :: r) st h := by
  intro p e R s m args below meth c H locs cells slots ls F hL hc hs hR hS
  exact lv_aload_n F.1 F.2.1 hdg rfl (hL.at (i := 0) rfl) (kk p e R s m args below meth c H locs cells slots ls F hL hc hs hR hS)
theorem x_aloadN_0 {G : xG} {l : Launch} {M : xM} {d k n : Nat} {Q : xR → xH → Prop} {pc : Nat} {st : List Value} {h : xH} {r : xLs} (hdg : decode M.2.1 pc = .ok (.aload_n 0, 1)) (kk : xF G l M d k n Q (pc + 1) (some .null :: r) (.null :: st) h) : xF G l M d k n Q pc (some .null :: r) st h := by
  intro p e R s m args below meth c H locs cells slots ls F hL hc hs hR hS
  exact lv_aload_nN F.1 F.2.1 hdg rfl (hL.at (i := 0) rfl) (kk p e R s m args below meth c H locs cells slots ls F hL hc hs hR hS)
theorem x_istore_0 {G : xG} {l : Launch} {M : xM} {d k n : Nat} {Q : xR → xH → Prop} {pc : Nat} {st : List Value} {h : xH} {b : Option Value} {r : xLs} {x : Int32} (hdg : decode M.2.1 pc = .ok (.istore_n 0, 1)) (hM : 0 < M.2.2.1) (kk : xF G l M d k n Q (pc + 1) (some (.int x) :: r) st h) : xF G l M d k n Q pc (b :: r) (.int x :: st) h := by
  intro p e R s m args below meth c H locs cells slots ls F hL hc hs hR hS
  refine lv_istore_n (lv' := _) F.1 F.2.1 hdg rfl hL hM rfl (fun ls1 hL1 => kk p e R s m args below meth c H locs cells slots ls1 F (xHas.s1 (i := 0) (v := .int x) hL1 ?_) hc hs hR hS)
  intro j w hj
  rcases Nat.lt_or_ge j 1 with q | q
  · match j, q, hj with
    | 0, _, hj => exact Or.inl ⟨rfl, by simpa using hj.symm⟩
  · obtain ⟨j, rfl⟩ : ∃ z, j = z + 1 := ⟨j - 1, by omega⟩
    exact Or.inr ⟨by omega, by simpa using hj, fun z => absurd z.1 (by omega)⟩
theorem x_astore_0 {G : xG} {l : Launch} {M : xM} {d k n : Nat} {Q : xR → xH → Prop} {pc : Nat} {st : List Value} {h : xH} {b : Option Value} {r : xLs} {x : Nat} (hdg : decode M.2.1 pc = .ok (.astore_n 0, 1)) (hM : 0 < M.2.2.1) (kk : xF G l M d k n Q (pc + 1) (some (.ref x) :: r) st h) : xF G l M d k n Q pc (b :: r) (.ref x :: st) h := by
  intro p e R s m args below meth c H locs cells slots ls F hL hc hs hR hS
  refine lv_astore_n (lv' := _) F.1 F.2.1 hdg rfl hL hM rfl (fun ls1 hL1 => kk p e R s m args below meth c H locs cells slots ls1 F (xHas.s1 (i := 0) (v := .ref x) hL1 ?_) hc hs hR hS)
  intro j w hj
  rcases Nat.lt_or_ge j 1 with q | q
  · match j, q, hj with
    | 0, _, hj => exact Or.inl ⟨rfl, by simpa using hj.symm⟩
  · obtain ⟨j, rfl⟩ : ∃ z, j = z + 1 := ⟨j - 1, by omega⟩
    exact Or.inr ⟨by omega, by simpa using hj, fun z => absurd z.1 (by omega)⟩
theorem x_astoreN_0 {G : xG} {l : Launch} {M : xM} {d k n : Nat} {Q : xR → xH → Prop} {pc : Nat} {st : List Value} {h : xH} {b : Option Value} {r : xLs}  (hdg : decode M.2.1 pc = .ok (.astore_n 0, 1)) (hM : 0 < M.2.2.1) (kk : xF G l M d k n Q (pc + 1) (some (.null) :: r) st h) : xF G l M d k n Q pc (b :: r) (.null :: st) h := by
  intro p e R s m args below meth c H locs cells slots ls F hL hc hs hR hS
  refine lv_astore_nN (lv' := _) F.1 F.2.1 hdg rfl hL hM rfl (fun ls1 hL1 => kk p e R s m args below meth c H locs cells slots ls1 F (xHas.s1 (i := 0) (v := .null) hL1 ?_) hc hs hR hS)
  intro j w hj
  rcases Nat.lt_or_ge j 1 with q | q
  · match j, q, hj with
    | 0, _, hj => exact Or.inl ⟨rfl, by simpa using hj.symm⟩
  · obtain ⟨j, rfl⟩ : ∃ z, j = z + 1 := ⟨j - 1, by omega⟩
    exact Or.inr ⟨by omega, by simpa using hj, fun z => absurd z.1 (by omega)⟩
theorem x_lstore_0 {G : xG} {l : Launch} {M : xM} {d k n : Nat} {Q : xR → xH → Prop} {pc : Nat} {st : List Value} {h : xH} {b b2 : Option Value} {r : xLs} {x : Int64} (hdg : decode M.2.1 pc = .ok (.lstore_n 0, 1)) (hM : 0 + 1 < M.2.2.1) (kk : xF G l M d k n Q (pc + 1) (some (.long x) :: none :: r) st h) : xF G l M d k n Q pc (b :: b2 :: r) (.long x :: st) h := by
  intro p e R s m args below meth c H locs cells slots ls F hL hc hs hR hS
  refine lv_lstore_n (lv' := _) F.1 F.2.1 hdg rfl hL hM rfl (fun ls1 hL1 => kk p e R s m args below meth c H locs cells slots ls1 F (xHas.s2 (i := 0) (v := .long x) hL1 ?_) hc hs hR hS)
  intro j w hj
  rcases Nat.lt_or_ge j 2 with q | q
  · match j, q, hj with
    | 0, _, hj => exact Or.inl ⟨rfl, by simpa using hj.symm⟩
    | 1, _, hj => simp at hj
  · obtain ⟨j, rfl⟩ : ∃ z, j = z + 2 := ⟨j - 2, by omega⟩
    exact Or.inr ⟨by omega, by omega, by simpa using hj, fun z => absurd z.1 (by omega)⟩
theorem x_iinc_0 {G : xG} {l : Launch} {M : xM} {d k n : Nat} {Q : xR → xH → Prop} {pc : Nat} {st : List Value} {h : xH} {r : xLs} {x v : Int32} {z : Int} (hdg : decode M.2.1 pc = .ok (.iinc 0 z, 3)) (hv : (Int32.ofInt z) = v) (hM : 0 < M.2.2.1) (kk : xF G l M d k n Q (pc + 3) (some (.int (x + v)) :: r) st h) : xF G l M d k n Q pc (some (.int x) :: r) st h := by
  intro p e R s m args below meth c H locs cells slots ls F hL hc hs hR hS
  refine x_iincA F hL (i := 0) rfl hdg hv hM (fun ls1 hL1 => kk p e R s m args below meth c H locs cells slots ls1 F (xHas.s1 (i := 0) (v := .int (x + v)) hL1 ?_) hc hs hR hS)
  intro j w hj
  rcases Nat.lt_or_ge j 1 with q | q
  · match j, q, hj with
    | 0, _, hj => exact Or.inl ⟨rfl, by simpa using hj.symm⟩
  · obtain ⟨j, rfl⟩ : ∃ z, j = z + 1 := ⟨j - 1, by omega⟩
    exact Or.inr ⟨by omega, by simpa using hj, fun z => absurd z.1 (by omega)⟩
theorem x_iload_1 {G : xG} {l : Launch} {M : xM} {d k n : Nat} {Q : xR → xH → Prop} {pc : Nat} {st : List Value} {h : xH} {a0 : Option Value} {r : xLs} {x : Int32} (hdg : decode M.2.1 pc = .ok (.iload_n 1, 1)) (kk : xF G l M d k n Q (pc + 1) (a0 :: some (.int x) :: r) (.int x :: st) h) : xF G l M d k n Q pc (a0 :: some (.int x) :: r) st h := by
  intro p e R s m args below meth c H locs cells slots ls F hL hc hs hR hS
  exact lv_iload_n F.1 F.2.1 hdg rfl (hL.at (i := 1) rfl) (kk p e R s m args below meth c H locs cells slots ls F hL hc hs hR hS)
theorem x_lload_1 {G : xG} {l : Launch} {M : xM} {d k n : Nat} {Q : xR → xH → Prop} {pc : Nat} {st : List Value} {h : xH} {a0 : Option Value} {r : xLs} {x : Int64} (hdg : decode M.2.1 pc = .ok (.lload_n 1, 1)) (kk : xF G l M d k n Q (pc + 1) (a0 :: some (.long x) :: r) (.long x :: st) h) : xF G l M d k n Q pc (a0 :: some (.long x) :: r) st h := by
  intro p e R s m args below meth c H locs cells slots ls F hL hc hs hR hS
  exact lv_lload_n F.1 F.2.1 hdg rfl (hL.at (i := 1) rfl) (kk p e R s m args below meth c H locs cells slots ls F hL hc hs hR hS)
theorem x_aload_1 {G : xG} {l : Launch} {M : xM} {d k n : Nat} {Q : xR → xH → Prop} {pc : Nat} {st : List Value} {h : xH} {a0 : Option Value} {r : xLs} {x : Nat} (hdg : decode M.2.1 pc = .ok (.aload_n 1, 1)) (kk : xF G l M d k n Q (pc + 1) (a0 :: some (.ref x) :: r) (.ref x :: st) h) : xF G l M d k n Q pc (a0 :: some (.ref x) :: r) st h := by
  intro p e R s m args below meth c H locs cells slots ls F hL hc hs hR hS
  exact lv_aload_n F.1 F.2.1 hdg rfl (hL.at (i := 1) rfl) (kk p e R s m args below meth c H locs cells slots ls F hL hc hs hR hS)
theorem x_aloadN_1 {G : xG} {l : Launch} {M : xM} {d k n : Nat} {Q : xR → xH → Prop} {pc : Nat} {st : List Value} {h : xH} {a0 : Option Value} {r : xLs} (hdg : decode M.2.1 pc = .ok (.aload_n 1, 1)) (kk : xF G l M d k n Q (pc + 1) (a0 :: some .null :: r) (.null :: st) h) : xF G l M d k n Q pc (a0 :: some .null :: r) st h := by
  intro p e R s m args below meth c H locs cells slots ls F hL hc hs hR hS
  exact lv_aload_nN F.1 F.2.1 hdg rfl (hL.at (i := 1) rfl) (kk p e R s m args below meth c H locs cells slots ls F hL hc hs hR hS)
theorem x_istore_1 {G : xG} {l : Launch} {M : xM} {d k n : Nat} {Q : xR → xH → Prop} {pc : Nat} {st : List Value} {h : xH} {a0 : Option Value} {b : Option Value} {r : xLs} {x : Int32} (hdg : decode M.2.1 pc = .ok (.istore_n 1, 1)) (hM : 1 < M.2.2.1) (hn : xN2 a0) (kk : xF G l M d k n Q (pc + 1) (a0 :: some (.int x) :: r) st h) : xF G l M d k n Q pc (a0 :: b :: r) (.int x :: st) h := by
  intro p e R s m args below meth c H locs cells slots ls F hL hc hs hR hS
  refine lv_istore_n (lv' := _) F.1 F.2.1 hdg rfl hL hM rfl (fun ls1 hL1 => kk p e R s m args below meth c H locs cells slots ls1 F (xHas.s1 (i := 1) (v := .int x) hL1 ?_) hc hs hR hS)
  intro j w hj
  rcases Nat.lt_or_ge j 2 with q | q
  · match j, q, hj with
    | 0, _, hj => exact Or.inr ⟨by decide, by simpa using hj, fun z => by have := hn w (by simpa using hj); omega⟩
    | 1, _, hj => exact Or.inl ⟨rfl, by simpa using hj.symm⟩
  · obtain ⟨j, rfl⟩ : ∃ z, j = z + 2 := ⟨j - 2, by omega⟩
    exact Or.inr ⟨by omega, by simpa using hj, fun z => absurd z.1 (by omega)⟩
theorem x_istoreC_1 {G : xG} {l : Launch} {M : xM} {d k n : Nat} {Q : xR → xH → Prop} {pc : Nat} {st : List Value} {h : xH} {a0 : Option Value} {b : Option Value} {r : xLs} {x : Int32} (hdg : decode M.2.1 pc = .ok (.istore_n 1, 1)) (hM : 1 < M.2.2.1) (kk : xF G l M d k n Q (pc + 1) (none :: some (.int x) :: r) st h) : xF G l M d k n Q pc (a0 :: b :: r) (.int x :: st) h := by
  intro p e R s m args below meth c H locs cells slots ls F hL hc hs hR hS
  refine lv_istore_n (lv' := _) F.1 F.2.1 hdg rfl hL hM rfl (fun ls1 hL1 => kk p e R s m args below meth c H locs cells slots ls1 F (xHas.s1 (i := 1) (v := .int x) hL1 ?_) hc hs hR hS)
  intro j w hj
  rcases Nat.lt_or_ge j 2 with q | q
  · match j, q, hj with
    | 0, _, hj => simp at hj
    | 1, _, hj => exact Or.inl ⟨rfl, by simpa using hj.symm⟩
  · obtain ⟨j, rfl⟩ : ∃ z, j = z + 2 := ⟨j - 2, by omega⟩
    exact Or.inr ⟨by omega, by simpa using hj, fun z => absurd z.1 (by omega)⟩
theorem x_astore_1 {G : xG} {l : Launch} {M : xM} {d k n : Nat} {Q : xR → xH → Prop} {pc : Nat} {st : List Value} {h : xH} {a0 : Option Value} {b : Option Value} {r : xLs} {x : Nat} (hdg : decode M.2.1 pc = .ok (.astore_n 1, 1)) (hM : 1 < M.2.2.1) (hn : xN2 a0) (kk : xF G l M d k n Q (pc + 1) (a0 :: some (.ref x) :: r) st h) : xF G l M d k n Q pc (a0 :: b :: r) (.ref x :: st) h := by
  intro p e R s m args below meth c H locs cells slots ls F hL hc hs hR hS
  refine lv_astore_n (lv' := _) F.1 F.2.1 hdg rfl hL hM rfl (fun ls1 hL1 => kk p e R s m args below meth c H locs cells slots ls1 F (xHas.s1 (i := 1) (v := .ref x) hL1 ?_) hc hs hR hS)
  intro j w hj
  rcases Nat.lt_or_ge j 2 with q | q
  · match j, q, hj with
    | 0, _, hj => exact Or.inr ⟨by decide, by simpa using hj, fun z => by have := hn w (by simpa using hj); omega⟩
    | 1, _, hj => exact Or.inl ⟨rfl, by simpa using hj.symm⟩
  · obtain ⟨j, rfl⟩ : ∃ z, j = z + 2 := ⟨j - 2, by omega⟩
    exact Or.inr ⟨by omega, by simpa using hj, fun z => absurd z.1 (by omega)⟩
theorem x_astoreC_1 {G : xG} {l : Launch} {M : xM} {d k n : Nat} {Q : xR → xH → Prop} {pc : Nat} {st : List Value} {h : xH} {a0 : Option Value} {b : Option Value} {r : xLs} {x : Nat} (hdg : decode M.2.1 pc = .ok (.astore_n 1, 1)) (hM : 1 < M.2.2.1) (kk : xF G l M d k n Q (pc + 1) (none :: some (.ref x) :: r) st h) : xF G l M d k n Q pc (a0 :: b :: r) (.ref x :: st) h := by
  intro p e R s m args below meth c H locs cells slots ls F hL hc hs hR hS
  refine lv_astore_n (lv' := _) F.1 F.2.1 hdg rfl hL hM rfl (fun ls1 hL1 => kk p e R s m args below meth c H locs cells slots ls1 F (xHas.s1 (i := 1) (v := .ref x) hL1 ?_) hc hs hR hS)
  intro j w hj
  rcases Nat.lt_or_ge j 2 with q | q
  · match j, q, hj with
    | 0, _, hj => simp at hj
    | 1, _, hj => exact Or.inl ⟨rfl, by simpa using hj.symm⟩
  · obtain ⟨j, rfl⟩ : ∃ z, j = z + 2 := ⟨j - 2, by omega⟩
    exact Or.inr ⟨by omega, by simpa using hj, fun z => absurd z.1 (by omega)⟩
theorem x_astoreN_1 {G : xG} {l : Launch} {M : xM} {d k n : Nat} {Q : xR → xH → Prop} {pc : Nat} {st : List Value} {h : xH} {a0 : Option Value} {b : Option Value} {r : xLs}  (hdg : decode M.2.1 pc = .ok (.astore_n 1, 1)) (hM : 1 < M.2.2.1) (hn : xN2 a0) (kk : xF G l M d k n Q (pc + 1) (a0 :: some (.null) :: r) st h) : xF G l M d k n Q pc (a0 :: b :: r) (.null :: st) h := by
  intro p e R s m args below meth c H locs cells slots ls F hL hc hs hR hS
  refine lv_astore_nN (lv' := _) F.1 F.2.1 hdg rfl hL hM rfl (fun ls1 hL1 => kk p e R s m args below meth c H locs cells slots ls1 F (xHas.s1 (i := 1) (v := .null) hL1 ?_) hc hs hR hS)
  intro j w hj
  rcases Nat.lt_or_ge j 2 with q | q
  · match j, q, hj with
    | 0, _, hj => exact Or.inr ⟨by decide, by simpa using hj, fun z => by have := hn w (by simpa using hj); omega⟩
    | 1, _, hj => exact Or.inl ⟨rfl, by simpa using hj.symm⟩
  · obtain ⟨j, rfl⟩ : ∃ z, j = z + 2 := ⟨j - 2, by omega⟩
    exact Or.inr ⟨by omega, by simpa using hj, fun z => absurd z.1 (by omega)⟩
theorem x_astoreNC_1 {G : xG} {l : Launch} {M : xM} {d k n : Nat} {Q : xR → xH → Prop} {pc : Nat} {st : List Value} {h : xH} {a0 : Option Value} {b : Option Value} {r : xLs}  (hdg : decode M.2.1 pc = .ok (.astore_n 1, 1)) (hM : 1 < M.2.2.1) (kk : xF G l M d k n Q (pc + 1) (none :: some (.null) :: r) st h) : xF G l M d k n Q pc (a0 :: b :: r) (.null :: st) h := by
  intro p e R s m args below meth c H locs cells slots ls F hL hc hs hR hS
  refine lv_astore_nN (lv' := _) F.1 F.2.1 hdg rfl hL hM rfl (fun ls1 hL1 => kk p e R s m args below meth c H locs cells slots ls1 F (xHas.s1 (i := 1) (v := .null) hL1 ?_) hc hs hR hS)
  intro j w hj
  rcases Nat.lt_or_ge j 2 with q | q
  · match j, q, hj with
    | 0, _, hj => simp at hj
    | 1, _, hj => exact Or.inl ⟨rfl, by simpa using hj.symm⟩
  · obtain ⟨j, rfl⟩ : ∃ z, j = z + 2 := ⟨j - 2, by omega⟩
    exact Or.inr ⟨by omega, by simpa using hj, fun z => absurd z.1 (by omega)⟩
theorem x_lstore_1 {G : xG} {l : Launch} {M : xM} {d k n : Nat} {Q : xR → xH → Prop} {pc : Nat} {st : List Value} {h : xH} {a0 : Option Value} {b b2 : Option Value} {r : xLs} {x : Int64} (hdg : decode M.2.1 pc = .ok (.lstore_n 1, 1)) (hM : 1 + 1 < M.2.2.1) (hn : xN2 a0) (kk : xF G l M d k n Q (pc + 1) (a0 :: some (.long x) :: none :: r) st h) : xF G l M d k n Q pc (a0 :: b :: b2 :: r) (.long x :: st) h := by
  intro p e R s m args below meth c H locs cells slots ls F hL hc hs hR hS
  refine lv_lstore_n (lv' := _) F.1 F.2.1 hdg rfl hL hM rfl (fun ls1 hL1 => kk p e R s m args below meth c H locs cells slots ls1 F (xHas.s2 (i := 1) (v := .long x) hL1 ?_) hc hs hR hS)
  intro j w hj
  rcases Nat.lt_or_ge j 3 with q | q
  · match j, q, hj with
    | 0, _, hj => exact Or.inr ⟨by decide, by decide, by simpa using hj, fun z => by have := hn w (by simpa using hj); omega⟩
    | 1, _, hj => exact Or.inl ⟨rfl, by simpa using hj.symm⟩
    | 2, _, hj => simp at hj
  · obtain ⟨j, rfl⟩ : ∃ z, j = z + 3 := ⟨j - 3, by omega⟩
    exact Or.inr ⟨by omega, by omega, by simpa using hj, fun z => absurd z.1 (by omega)⟩
theorem x_lstoreC_1 {G : xG} {l : Launch} {M : xM} {d k n : Nat} {Q : xR → xH → Prop} {pc : Nat} {st : List Value} {h : xH} {a0 : Option Value} {b b2 : Option Value} {r : xLs} {x : Int64} (hdg : decode M.2.1 pc = .ok (.lstore_n 1, 1)) (hM : 1 + 1 < M.2.2.1) (kk : xF G l M d k n Q (pc + 1) (none :: some (.long x) :: none :: r) st h) : xF G l M d k n Q pc (a0 :: b :: b2 :: r) (.long x :: st) h := by
  intro p e R s m args below meth c H locs cells slots ls F hL hc hs hR hS
  refine lv_lstore_n (lv' := _) F.1 F.2.1 hdg rfl hL hM rfl (fun ls1 hL1 => kk p e R s m args below meth c H locs cells slots ls1 F (xHas.s2 (i := 1) (v := .long x) hL1 ?_) hc hs hR hS)
  intro j w hj
  rcases Nat.lt_or_ge j 3 with q | q
  · match j, q, hj with
    | 0, _, hj => simp at hj
    | 1, _, hj => exact Or.inl ⟨rfl, by simpa using hj.symm⟩
    | 2, _, hj => simp at hj
  · obtain ⟨j, rfl⟩ : ∃ z, j = z + 3 := ⟨j - 3, by omega⟩
    exact Or.inr ⟨by omega, by omega, by simpa using hj, fun z => absurd z.1 (by omega)⟩
theorem x_iinc_1 {G : xG} {l : Launch} {M : xM} {d k n : Nat} {Q : xR → xH → Prop} {pc : Nat} {st : List Value} {h : xH} {a0 : Option Value} {r : xLs} {x v : Int32} {z : Int} (hdg : decode M.2.1 pc = .ok (.iinc 1 z, 3)) (hv : (Int32.ofInt z) = v) (hM : 1 < M.2.2.1) (hn : xN2 a0) (kk : xF G l M d k n Q (pc + 3) (a0 :: some (.int (x + v)) :: r) st h) : xF G l M d k n Q pc (a0 :: some (.int x) :: r) st h := by
  intro p e R s m args below meth c H locs cells slots ls F hL hc hs hR hS
  refine x_iincA F hL (i := 1) rfl hdg hv hM (fun ls1 hL1 => kk p e R s m args below meth c H locs cells slots ls1 F (xHas.s1 (i := 1) (v := .int (x + v)) hL1 ?_) hc hs hR hS)
  intro j w hj
  rcases Nat.lt_or_ge j 2 with q | q
  · match j, q, hj with
    | 0, _, hj => exact Or.inr ⟨by decide, by simpa using hj, fun z => by have := hn w (by simpa using hj); omega⟩
    | 1, _, hj => exact Or.inl ⟨rfl, by simpa using hj.symm⟩
  · obtain ⟨j, rfl⟩ : ∃ z, j = z + 2 := ⟨j - 2, by omega⟩
    exact Or.inr ⟨by omega, by simpa using hj, fun z => absurd z.1 (by omega)⟩
theorem x_iload_2 {G : xG} {l : Launch} {M : xM} {d k n : Nat} {Q : xR → xH → Prop} {pc : Nat} {st : List Value} {h : xH} {a0 a1 : Option Value} {r : xLs} {x : Int32} (hdg : decode M.2.1 pc = .ok (.iload_n 2, 1)) (kk : xF G l M d k n Q (pc + 1) (a0 :: a1 :: some (.int x) :: r) (.int x :: st) h) : xF G l M d k n Q pc (a0 :: a1 :: some (.int x) :: r) st h := by
  intro p e R s m args below meth c H locs cells slots ls F hL hc hs hR hS
  exact lv_iload_n F.1 F.2.1 hdg rfl (hL.at (i := 2) rfl) (kk p e R s m args below meth c H locs cells slots ls F hL hc hs hR hS)
theorem x_lload_2 {G : xG} {l : Launch} {M : xM} {d k n : Nat} {Q : xR → xH → Prop} {pc : Nat} {st : List Value} {h : xH} {a0 a1 : Option Value} {r : xLs} {x : Int64} (hdg : decode M.2.1 pc = .ok (.lload_n 2, 1)) (kk : xF G l M d k n Q (pc + 1) (a0 :: a1 :: some (.long x) :: r) (.long x :: st) h) : xF G l M d k n Q pc (a0 :: a1 :: some (.long x) :: r) st h := by
  intro p e R s m args below meth c H locs cells slots ls F hL hc hs hR hS
  exact lv_lload_n F.1 F.2.1 hdg rfl (hL.at (i := 2) rfl) (kk p e R s m args below meth c H locs cells slots ls F hL hc hs hR hS)
theorem x_aload_2 {G : xG} {l : Launch} {M : xM} {d k n : Nat} {Q : xR → xH → Prop} {pc : Nat} {st : List Value} {h : xH} {a0 a1 : Option Value} {r : xLs} {x : Nat} (hdg : decode M.2.1 pc = .ok (.aload_n 2, 1)) (kk : xF G l M d k n Q (pc + 1) (a0 :: a1 :: some (.ref x) :: r) (.ref x :: st) h) : xF G l M d k n Q pc (a0 :: a1 :: some (.ref x) :: r) st h := by
  intro p e R s m args below meth c H locs cells slots ls F hL hc hs hR hS
  exact lv_aload_n F.1 F.2.1 hdg rfl (hL.at (i := 2) rfl) (kk p e R s m args below meth c H locs cells slots ls F hL hc hs hR hS)
theorem x_aloadN_2 {G : xG} {l : Launch} {M : xM} {d k n : Nat} {Q : xR → xH → Prop} {pc : Nat} {st : List Value} {h : xH} {a0 a1 : Option Value} {r : xLs} (hdg : decode M.2.1 pc = .ok (.aload_n 2, 1)) (kk : xF G l M d k n Q (pc + 1) (a0 :: a1 :: some .null :: r) (.null :: st) h) : xF G l M d k n Q pc (a0 :: a1 :: some .null :: r) st h := by
  intro p e R s m args below meth c H locs cells slots ls F hL hc hs hR hS
  exact lv_aload_nN F.1 F.2.1 hdg rfl (hL.at (i := 2) rfl) (kk p e R s m args below meth c H locs cells slots ls F hL hc hs hR hS)
theorem x_istore_2 {G : xG} {l : Launch} {M : xM} {d k n : Nat} {Q : xR → xH → Prop} {pc : Nat} {st : List Value} {h : xH} {a0 a1 : Option Value} {b : Option Value} {r : xLs} {x : Int32} (hdg : decode M.2.1 pc = .ok (.istore_n 2, 1)) (hM : 2 < M.2.2.1) (hn : xN2 a1) (kk : xF G l M d k n Q (pc + 1) (a0 :: a1 :: some (.int x) :: r) st h) : xF G l M d k n Q pc (a0 :: a1 :: b :: r) (.int x :: st) h := by
  intro p e R s m args below meth c H locs cells slots ls F hL hc hs hR hS
  refine lv_istore_n (lv' := _) F.1 F.2.1 hdg rfl hL hM rfl (fun ls1 hL1 => kk p e R s m args below meth c H locs cells slots ls1 F (xHas.s1 (i := 2) (v := .int x) hL1 ?_) hc hs hR hS)
  intro j w hj
  rcases Nat.lt_or_ge j 3 with q | q
  · match j, q, hj with
    | 0, _, hj => exact Or.inr ⟨by decide, by simpa using hj, fun z => absurd z.1 (by decide)⟩
    | 1, _, hj => exact Or.inr ⟨by decide, by simpa using hj, fun z => by have := hn w (by simpa using hj); omega⟩
    | 2, _, hj => exact Or.inl ⟨rfl, by simpa using hj.symm⟩
  · obtain ⟨j, rfl⟩ : ∃ z, j = z + 3 := ⟨j - 3, by omega⟩
    exact Or.inr ⟨by omega, by simpa using hj, fun z => absurd z.1 (by omega)⟩
theorem x_istoreC_2 {G : xG} {l : Launch} {M : xM} {d k n : Nat} {Q : xR → xH → Prop} {pc : Nat} {st : List Value} {h : xH} {a0 a1 : Option Value} {b : Option Value} {r : xLs} {x : Int32} (hdg : decode M.2.1 pc = .ok (.istore_n 2, 1)) (hM : 2 < M.2.2.1) (kk : xF G l M d k n Q (pc + 1) (a0 :: none :: some (.int x) :: r) st h) : xF G l M d k n Q pc (a0 :: a1 :: b :: r) (.int x :: st) h := by
  intro p e R s m args below meth c H locs cells slots ls F hL hc hs hR hS
  refine lv_istore_n (lv' := _) F.1 F.2.1 hdg rfl hL hM rfl (fun ls1 hL1 => kk p e R s m args below meth c H locs cells slots ls1 F (xHas.s1 (i := 2) (v := .int x) hL1 ?_) hc hs hR hS)
  intro j w hj
  rcases Nat.lt_or_ge j 3 with q | q
  · match j, q, hj with
    | 0, _, hj => exact Or.inr ⟨by decide, by simpa using hj, fun z => absurd z.1 (by decide)⟩
    | 1, _, hj => simp at hj
    | 2, _, hj => exact Or.inl ⟨rfl, by simpa using hj.symm⟩
  · obtain ⟨j, rfl⟩ : ∃ z, j = z + 3 := ⟨j - 3, by omega⟩
    exact Or.inr ⟨by omega, by simpa using hj, fun z => absurd z.1 (by omega)⟩
theorem x_astore_2 {G : xG} {l : Launch} {M : xM} {d k n : Nat} {Q : xR → xH → Prop} {pc : Nat} {st : List Value} {h : xH} {a0 a1 : Option Value} {b : Option Value} {r : xLs} {x : Nat} (hdg : decode M.2.1 pc = .ok (.astore_n 2, 1)) (hM : 2 < M.2.2.1) (hn : xN2 a1) (kk : xF G l M d k n Q (pc + 1) (a0 :: a1 :: some (.ref x) :: r) st h) : xF G l M d k n Q pc (a0 :: a1 :: b :: r) (.ref x :: st) h := by
  intro p e R s m args below meth c H locs cells slots ls F hL hc hs hR hS
  refine lv_astore_n (lv' := _) F.1 F.2.1 hdg rfl hL hM rfl (fun ls1 hL1 => kk p e R s m args below meth c H locs cells slots ls1 F (xHas.s1 (i := 2) (v := .ref x) hL1 ?_) hc hs hR hS)
  intro j w hj
  rcases Nat.lt_or_ge j 3 with q | q
  · match j, q, hj with
    | 0, _, hj => exact Or.inr ⟨by decide, by simpa using hj, fun z => absurd z.1 (by decide)⟩
    | 1, _, hj => exact Or.inr ⟨by decide, by simpa using hj, fun z => by have := hn w (by simpa using hj); omega⟩
    | 2, _, hj => exact Or.inl ⟨rfl, by simpa using hj.symm⟩
  · obtain ⟨j, rfl⟩ : ∃ z, j = z + 3 := ⟨j - 3, by omega⟩
    exact Or.inr ⟨by omega, by simpa using hj, fun z => absurd z.1 (by omega)⟩
theorem x_astoreC_2 {G : xG} {l : Launch} {M : xM} {d k n : Nat} {Q : xR → xH → Prop} {pc : Nat} {st : List Value} {h : xH} {a0 a1 : Option Value} {b : Option Value} {r : xLs} {x : Nat} (hdg : decode M.2.1 pc = .ok (.astore_n 2, 1)) (hM : 2 < M.2.2.1) (kk : xF G l M d k n Q (pc + 1) (a0 :: none :: some (.ref x) :: r) st h) : xF G l M d k n Q pc (a0 :: a1 :: b :: r) (.ref x :: st) h := by
  intro p e R s m args below meth c H locs cells slots ls F hL hc hs hR hS
  refine lv_astore_n (lv' := _) F.1 F.2.1 hdg rfl hL hM rfl (fun ls1 hL1 => kk p e R s m args below meth c H locs cells slots ls1 F (xHas.s1 (i := 2) (v := .ref x) hL1 ?_) hc hs hR hS)
  intro j w hj
  rcases Nat.lt_or_ge j 3 with q | q
  · match j, q, hj with
    | 0, _, hj => exact Or.inr ⟨by decide, by simpa using hj, fun z => absurd z.1 (by decide)⟩
    | 1, _, hj => simp at hj
    | 2, _, hj => exact Or.inl ⟨rfl, by simpa using hj.symm⟩
  · obtain ⟨j, rfl⟩ : ∃ z, j = z + 3 := ⟨j - 3, by omega⟩
    exact Or.inr ⟨by omega, by simpa using hj, fun z => absurd z.1 (by omega)⟩
theorem x_astoreN_2 {G : xG} {l : Launch} {M : xM} {d k n : Nat} {Q : xR → xH → Prop} {pc : Nat} {st : List Value} {h : xH} {a0 a1 : Option Value} {b : Option Value} {r : xLs}  (hdg : decode M.2.1 pc = .ok (.astore_n 2, 1)) (hM : 2 < M.2.2.1) (hn : xN2 a1) (kk : xF G l M d k n Q (pc + 1) (a0 :: a1 :: some (.null) :: r) st h) : xF G l M d k n Q pc (a0 :: a1 :: b :: r) (.null :: st) h := by
  intro p e R s m args below meth c H locs cells slots ls F hL hc hs hR hS
  refine lv_astore_nN (lv' := _) F.1 F.2.1 hdg rfl hL hM rfl (fun ls1 hL1 => kk p e R s m args below meth c H locs cells slots ls1 F (xHas.s1 (i := 2) (v := .null) hL1 ?_) hc hs hR hS)
  intro j w hj
  rcases Nat.lt_or_ge j 3 with q | q
  · match j, q, hj with
    | 0, _, hj => exact Or.inr ⟨by decide, by simpa using hj, fun z => absurd z.1 (by decide)⟩
    | 1, _, hj => exact Or.inr ⟨by decide, by simpa using hj, fun z => by have := hn w (by simpa using hj); omega⟩
    | 2, _, hj => exact Or.inl ⟨rfl, by simpa using hj.symm⟩
  · obtain ⟨j, rfl⟩ : ∃ z, j = z + 3 := ⟨j - 3, by omega⟩
    exact Or.inr ⟨by omega, by simpa using hj, fun z => absurd z.1 (by omega)⟩
theorem x_astoreNC_2 {G : xG} {l : Launch} {M : xM} {d k n : Nat} {Q : xR → xH → Prop} {pc : Nat} {st : List Value} {h : xH} {a0 a1 : Option Value} {b : Option Value} {r : xLs}  (hdg : decode M.2.1 pc = .ok (.astore_n 2, 1)) (hM : 2 < M.2.2.1) (kk : xF G l M d k n Q (pc + 1) (a0 :: none :: some (.null) :: r) st h) : xF G l M d k n Q pc (a0 :: a1 :: b :: r) (.null :: st) h := by
  intro p e R s m args below meth c H locs cells slots ls F hL hc hs hR hS
  refine lv_astore_nN (lv' := _) F.1 F.2.1 hdg rfl hL hM rfl (fun ls1 hL1 => kk p e R s m args below meth c H locs cells slots ls1 F (xHas.s1 (i := 2) (v := .null) hL1 ?_) hc hs hR hS)
  intro j w hj
  rcases Nat.lt_or_ge j 3 with q | q
  · match j, q, hj with
    | 0, _, hj => exact Or.inr ⟨by decide, by simpa using hj, fun z => absurd z.1 (by decide)⟩
    | 1, _, hj => simp at hj
    | 2, _, hj => exact Or.inl ⟨rfl, by simpa using hj.symm⟩
  · obtain ⟨j, rfl⟩ : ∃ z, j = z + 3 := ⟨j - 3, by omega⟩
    exact Or.inr ⟨by omega, by simpa using hj, fun z => absurd z.1 (by omega)⟩
theorem x_lstore_2 {G : xG} {l : Launch} {M : xM} {d k n : Nat} {Q : xR → xH → Prop} {pc : Nat} {st : List Value} {h : xH} {a0 a1 : Option Value} {b b2 : Option Value} {r : xLs} {x : Int64} (hdg : decode M.2.1 pc = .ok (.lstore_n 2, 1)) (hM : 2 + 1 < M.2.2.1) (hn : xN2 a1) (kk : xF G l M d k n Q (pc + 1) (a0 :: a1 :: some (.long x) :: none :: r) st h) : xF G l M d k n Q pc (a0 :: a1 :: b :: b2 :: r) (.long x :: st) h := by
  intro p e R s m args below meth c H locs cells slots ls F hL hc hs hR hS
  refine lv_lstore_n (lv' := _) F.1 F.2.1 hdg rfl hL hM rfl (fun ls1 hL1 => kk p e R s m args below meth c H locs cells slots ls1 F (xHas.s2 (i := 2) (v := .long x) hL1 ?_) hc hs hR hS)
  intro j w hj
  rcases Nat.lt_or_ge j 4 with q | q
  · match j, q, hj with
    | 0, _, hj => exact Or.inr ⟨by decide, by decide, by simpa using hj, fun z => absurd z.1 (by decide)⟩
    | 1, _, hj => exact Or.inr ⟨by decide, by decide, by simpa using hj, fun z => by have := hn w (by simpa using hj); omega⟩
    | 2, _, hj => exact Or.inl ⟨rfl, by simpa using hj.symm⟩
    | 3, _, hj => simp at hj
  · obtain ⟨j, rfl⟩ : ∃ z, j = z + 4 := ⟨j - 4, by omega⟩
    exact Or.inr ⟨by omega, by omega, by simpa using hj, fun z => absurd z.1 (by omega)⟩
theorem x_lstoreC_2 {G : xG} {l : Launch} {M : xM} {d k n : Nat} {Q : xR → xH → Prop} {pc : Nat} {st : List Value} {h : xH} {a0 a1 : Option Value} {b b2 : Option Value} {r : xLs} {x : Int64} (hdg : decode M.2.1 pc = .ok (.lstore_n 2, 1)) (hM : 2 + 1 < M.2.2.1) (kk : xF G l M d k n Q (pc + 1) (a0 :: none :: some (.long x) :: none :: r) st h) : xF G l M d k n Q pc (a0 :: a1 :: b :: b2 :: r) (.long x :: st) h := by
  intro p e R s m args below meth c H locs cells slots ls F hL hc hs hR hS
  refine lv_lstore_n (lv' := _) F.1 F.2.1 hdg rfl hL hM rfl (fun ls1 hL1 => kk p e R s m args below meth c H locs cells slots ls1 F (xHas.s2 (i := 2) (v := .long x) hL1 ?_) hc hs hR hS)
  intro j w hj
  rcases Nat.lt_or_ge j 4 with q | q
  · match j, q, hj with
    | 0, _, hj => exact Or.inr ⟨by decide, by decide, by simpa using hj, fun z => absurd z.1 (by decide)⟩
    | 1, _, hj => simp at hj
    | 2, _, hj => exact Or.inl ⟨rfl, by simpa using hj.symm⟩
    | 3, _, hj => simp at hj
  · obtain ⟨j, rfl⟩ : ∃ z, j = z + 4 := ⟨j - 4, by omega⟩
    exact Or.inr ⟨by omega, by omega, by simpa using hj, fun z => absurd z.1 (by omega)⟩
theorem x_iinc_2 {G : xG} {l : Launch} {M : xM} {d k n : Nat} {Q : xR → xH → Prop} {pc : Nat} {st : List Value} {h : xH} {a0 a1 : Option Value} {r : xLs} {x v : Int32} {z : Int} (hdg : decode M.2.1 pc = .ok (.iinc 2 z, 3)) (hv : (Int32.ofInt z) = v) (hM : 2 < M.2.2.1) (hn : xN2 a1) (kk : xF G l M d k n Q (pc + 3) (a0 :: a1 :: some (.int (x + v)) :: r) st h) : xF G l M d k n Q pc (a0 :: a1 :: some (.int x) :: r) st h := by
  intro p e R s m args below meth c H locs cells slots ls F hL hc hs hR hS
  refine x_iincA F hL (i := 2) rfl hdg hv hM (fun ls1 hL1 => kk p e R s m args below meth c H locs cells slots ls1 F (xHas.s1 (i := 2) (v := .int (x + v)) hL1 ?_) hc hs hR hS)
  intro j w hj
  rcases Nat.lt_or_ge j 3 with q | q
  · match j, q, hj with
    | 0, _, hj => exact Or.inr ⟨by decide, by simpa using hj, fun z => absurd z.1 (by decide)⟩
    | 1, _, hj => exact Or.inr ⟨by decide, by simpa using hj, fun z => by have := hn w (by simpa using hj); omega⟩
    | 2, _, hj => exact Or.inl ⟨rfl, by simpa using hj.symm⟩
  · obtain ⟨j, rfl⟩ : ∃ z, j = z + 3 := ⟨j - 3, by omega⟩
    exact Or.inr ⟨by omega, by simpa using hj, fun z => absurd z.1 (by omega)⟩
theorem x_iload_3 {G : xG} {l : Launch} {M : xM} {d k n : Nat} {Q : xR → xH → Prop} {pc : Nat} {st : List Value} {h : xH} {a0 a1 a2 : Option Value} {r : xLs} {x : Int32} (hdg : decode M.2.1 pc = .ok (.iload_n 3, 1)) (kk : xF G l M d k n Q (pc + 1) (a0 :: a1 :: a2 :: some (.int x) :: r) (.int x :: st) h) : xF G l M d k n Q pc (a0 :: a1 :: a2 :: some (.int x) :: r) st h := by
  intro p e R s m args below meth c H locs cells slots ls F hL hc hs hR hS
  exact lv_iload_n F.1 F.2.1 hdg rfl (hL.at (i := 3) rfl) (kk p e R s m args below meth c H locs cells slots ls F hL hc hs hR hS)
theorem x_lload_3 {G : xG} {l : Launch} {M : xM} {d k n : Nat} {Q : xR → xH → Prop} {pc : Nat} {st : List Value} {h : xH} {a0 a1 a2 : Option Value} {r : xLs} {x : Int64} (hdg : decode M.2.1 pc = .ok (.lload_n 3, 1)) (kk : xF G l M d k n Q (pc + 1) (a0 :: a1 :: a2 :: some (.long x) :: r) (.long x :: st) h) : xF G l M d k n Q pc (a0 :: a1 :: a2 :: some (.long x) :: r) st h := by
  intro p e R s m args below meth c H locs cells slots ls F hL hc hs hR hS
  exact lv_lload_n F.1 F.2.1 hdg rfl (hL.at (i := 3) rfl) (kk p e R s m args below meth c H locs cells slots ls F hL hc hs hR hS)
theorem x_aload_3 {G : xG} {l : Launch} {M : xM} {d k n : Nat} {Q : xR → xH → Prop} {pc : Nat} {st : List Value} {h : xH} {a0 a1 a2 : Option Value} {r : xLs} {x : Nat} (hdg : decode M.2.1 pc = .ok (.aload_n 3, 1)) (kk : xF G l M d k n Q (pc + 1) (a0 :: a1 :: a2 :: some (.ref x) :: r) (.ref x :: st) h) : xF G l M d k n Q pc (a0 :: a1 :: a2 :: some (.ref x) :: r) st h := by
  intro p e R s m args below meth c H locs cells slots ls F hL hc hs hR hS
  exact lv_aload_n F.1 F.2.1 hdg rfl (hL.at (i := 3) rfl) (kk p e R s m args below meth c H locs cells slots ls F hL hc hs hR hS)
theorem x_aloadN_3 {G : xG} {l : Launch} {M : xM} {d k n : Nat} {Q : xR → xH → Prop} {pc : Nat} {st : List Value} {h : xH} {a0 a1 a2 : Option Value} {r : xLs} (hdg : decode M.2.1 pc = .ok (.aload_n 3, 1)) (kk : xF G l M d k n Q (pc + 1) (a0 :: a1 :: a2 :: some .null :: r) (.null :: st) h) : xF G l M d k n Q pc (a0 :: a1 :: a2 :: some .null :: r) st h := by
  intro p e R s m args below meth c H locs cells slots ls F hL hc hs hR hS
  exact lv_aload_nN F.1 F.2.1 hdg rfl (hL.at (i := 3) rfl) (kk p e R s m args below meth c H locs cells slots ls F hL hc hs hR hS)
theorem x_istore_3 {G : xG} {l : Launch} {M : xM} {d k n : Nat} {Q : xR → xH → Prop} {pc : Nat} {st : List Value} {h : xH} {a0 a1 a2 : Option Value} {b : Option Value} {r : xLs} {x : Int32} (hdg : decode M.2.1 pc = .ok (.istore_n 3, 1)) (hM : 3 < M.2.2.1) (hn : xN2 a2) (kk : xF G l M d k n Q (pc + 1) (a0 :: a1 :: a2 :: some (.int x) :: r) st h) : xF G l M d k n Q pc (a0 :: a1 :: a2 :: b :: r) (.int x :: st) h := by
  intro p e R s m args below meth c H locs cells slots ls F hL hc hs hR hS
  refine lv_istore_n (lv' := _) F.1 F.2.1 hdg rfl hL hM rfl (fun ls1 hL1 => kk p e R s m args below meth c H locs cells slots ls1 F (xHas.s1 (i := 3) (v := .int x) hL1 ?_) hc hs hR hS)
  intro j w hj
  rcases Nat.lt_or_ge j 4 with q | q
  · match j, q, hj with
    | 0, _, hj => exact Or.inr ⟨by decide, by simpa using hj, fun z => absurd z.1 (by decide)⟩
    | 1, _, hj => exact Or.inr ⟨by decide, by simpa using hj, fun z => absurd z.1 (by decide)⟩
    | 2, _, hj => exact Or.inr ⟨by decide, by simpa using hj, fun z => by have := hn w (by simpa using hj); omega⟩
    | 3, _, hj => exact Or.inl ⟨rfl, by simpa using hj.symm⟩
  · obtain ⟨j, rfl⟩ : ∃ z, j = z + 4 := ⟨j - 4, by omega⟩
    exact Or.inr ⟨by omega, by simpa using hj, fun z => absurd z.1 (by omega)⟩
theorem x_istoreC_3 {G : xG} {l : Launch} {M : xM} {d k n : Nat} {Q : xR → xH → Prop} {pc : Nat} {st : List Value} {h : xH} {a0 a1 a2 : Option Value} {b : Option Value} {r : xLs} {x : Int32} (hdg : decode M.2.1 pc = .ok (.istore_n 3, 1)) (hM : 3 < M.2.2.1) (kk : xF G l M d k n Q (pc + 1) (a0 :: a1 :: none :: some (.int x) :: r) st h) : xF G l M d k n Q pc (a0 :: a1 :: a2 :: b :: r) (.int x :: st) h := by
  intro p e R s m args below meth c H locs cells slots ls F hL hc hs hR hS
  refine lv_istore_n (lv' := _) F.1 F.2.1 hdg rfl hL hM rfl (fun ls1 hL1 => kk p e R s m args below meth c H locs cells slots ls1 F (xHas.s1 (i := 3) (v := .int x) hL1 ?_) hc hs hR hS)
  intro j w hj
  rcases Nat.lt_or_ge j 4 with q | q
  · match j, q, hj with
    | 0, _, hj => exact Or.inr ⟨by decide, by simpa using hj, fun z => absurd z.1 (by decide)⟩
    | 1, _, hj => exact Or.inr ⟨by decide, by simpa using hj, fun z => absurd z.1 (by decide)⟩
    | 2, _, hj => simp at hj
    | 3, _, hj => exact Or.inl ⟨rfl, by simpa using hj.symm⟩
  · obtain ⟨j, rfl⟩ : ∃ z, j = z + 4 := ⟨j - 4, by omega⟩
    exact Or.inr ⟨by omega, by simpa using hj, fun z => absurd z.1 (by omega)⟩
theorem x_astore_3 {G : xG} {l : Launch} {M : xM} {d k n : Nat} {Q : xR → xH → Prop} {pc : Nat} {st : List Value} {h : xH} {a0 a1 a2 : Option Value} {b : Option Value} {r : xLs} {x : Nat} (hdg : decode M.2.1 pc = .ok (.astore_n 3, 1)) (hM : 3 < M.2.2.1) (hn : xN2 a2) (kk : xF G l M d k n Q (pc + 1) (a0 :: a1 :: a2 :: some (.ref x) :: r) st h) : xF G l M d k n Q pc (a0 :: a1 :: a2 :: b :: r) (.ref x :: st) h := by
  intro p e R s m args below meth c H locs cells slots ls F hL hc hs hR hS
  refine lv_astore_n (lv' := _) F.1 F.2.1 hdg rfl hL hM rfl (fun ls1 hL1 => kk p e R s m args below meth c H locs cells slots ls1 F (xHas.s1 (i := 3) (v := .ref x) hL1 ?_) hc hs hR hS)
  intro j w hj
  rcases Nat.lt_or_ge j 4 with q | q
  · match j, q, hj with
    | 0, _, hj => exact Or.inr ⟨by decide, by simpa using hj, fun z => absurd z.1 (by decide)⟩
    | 1, _, hj => exact Or.inr ⟨by decide, by simpa using hj, fun z => absurd z.1 (by decide)⟩
    | 2, _, hj => exact Or.inr ⟨by decide, by simpa using hj, fun z => by have := hn w (by simpa using hj); omega⟩
    | 3, _, hj => exact Or.inl ⟨rfl, by simpa using hj.symm⟩
  · obtain ⟨j, rfl⟩ : ∃ z, j = z + 4 := ⟨j - 4, by omega⟩
    exact Or.inr ⟨by omega, by simpa using hj, fun z => absurd z.1 (by omega)⟩
theorem x_astoreC_3 {G : xG} {l : Launch} {M : xM} {d k n : Nat} {Q : xR → xH → Prop} {pc : Nat} {st : List Value} {h : xH} {a0 a1 a2 : Option Value} {b : Option Value} {r : xLs} {x : Nat} (hdg : decode M.2.1 pc = .ok (.astore_n 3, 1)) (hM : 3 < M.2.2.1) (kk : xF G l M d k n Q (pc + 1) (a0 :: a1 :: none :: some (.ref x) :: r) st h) : xF G l M d k n Q pc (a0 :: a1 :: a2 :: b :: r) (.ref x :: st) h := by
  intro p e R s m args below meth c H locs cells slots ls F hL hc hs hR hS
  refine lv_astore_n (lv' := _) F.1 F.2.1 hdg rfl hL hM rfl (fun ls1 hL1 => kk p e R s m args below meth c H locs cells slots ls1 F (xHas.s1 (i := 3) (v := .ref x) hL1 ?_) hc hs hR hS)
  intro j w hj
  rcases Nat.lt_or_ge j 4 with q | q
  · match j, q, hj with
    | 0, _, hj => exact Or.inr ⟨by decide, by simpa using hj, fun z => absurd z.1 (by decide)⟩
    | 1, _, hj => exact Or.inr ⟨by decide, by simpa using hj, fun z => absurd z.1 (by decide)⟩
    | 2, _, hj => simp at hj
    | 3, _, hj => exact Or.inl ⟨rfl, by simpa using hj.symm⟩
  · obtain ⟨j, rfl⟩ : ∃ z, j = z + 4 := ⟨j - 4, by omega⟩
    exact Or.inr ⟨by omega, by simpa using hj, fun z => absurd z.1 (by omega)⟩
theorem x_astoreN_3 {G : xG} {l : Launch} {M : xM} {d k n : Nat} {Q : xR → xH → Prop} {pc : Nat} {st : List Value} {h : xH} {a0 a1 a2 : Option Value} {b : Option Value} {r : xLs}  (hdg : decode M.2.1 pc = .ok (.astore_n 3, 1)) (hM : 3 < M.2.2.1) (hn : xN2 a2) (kk : xF G l M d k n Q (pc + 1) (a0 :: a1 :: a2 :: some (.null) :: r) st h) : xF G l M d k n Q pc (a0 :: a1 :: a2 :: b :: r) (.null :: st) h := by
  intro p e R s m args below meth c H locs cells slots ls F hL hc hs hR hS
  refine lv_astore_nN (lv' := _) F.1 F.2.1 hdg rfl hL hM rfl (fun ls1 hL1 => kk p e R s m args below meth c H locs cells slots ls1 F (xHas.s1 (i := 3) (v := .null) hL1 ?_) hc hs hR hS)
  intro j w hj
  rcases Nat.lt_or_ge j 4 with q | q
  · match j, q, hj with
    | 0, _, hj => exact Or.inr ⟨by decide, by simpa using hj, fun z => absurd z.1 (by decide)⟩
    | 1, _, hj => exact Or.inr ⟨by decide, by simpa using hj, fun z => absurd z.1 (by decide)⟩
    | 2, _, hj => exact Or.inr ⟨by decide, by simpa using hj, fun z => by have := hn w (by simpa using hj); omega⟩
    | 3, _, hj => exact Or.inl ⟨rfl, by simpa using hj.symm⟩
  · obtain ⟨j, rfl⟩ : ∃ z, j = z + 4 := ⟨j - 4, by omega⟩
    exact Or.inr ⟨by omega, by simpa using hj, fun z => absurd z.1 (by omega)⟩
theorem x_astoreNC_3 {G : xG} {l : Launch} {M : xM} {d k n : Nat} {Q : xR → xH → Prop} {pc : Nat} {st : List Value} {h : xH} {a0 a1 a2 : Option Value} {b : Option Value} {r : xLs}  (hdg : decode M.2.1 pc = .ok (.astore_n 3, 1)) (hM : 3 < M.2.2.1) (kk : xF G l M d k n Q (pc + 1) (a0 :: a1 :: none :: some (.null) :: r) st h) : xF G l M d k n Q pc (a0 :: a1 :: a2 :: b :: r) (.null :: st) h := by
  intro p e R s m args below meth c H locs cells slots ls F hL hc hs hR hS
  refine lv_astore_nN (lv' := _) F.1 F.2.1 hdg rfl hL hM rfl (fun ls1 hL1 => kk p e R s m args below meth c H locs cells slots ls1 F (xHas.s1 (i := 3) (v := .null) hL1 ?_) hc hs hR hS)
  intro j w hj
  rcases Nat.lt_or_ge j 4 with q | q
  · match j, q, hj with
    | 0, _, hj => exact Or.inr ⟨by decide, by simpa using hj, fun z => absurd z.1 (by decide)⟩
    | 1, _, hj => exact Or.inr ⟨by decide, by simpa using hj, fun z => absurd z.1 (by decide)⟩
    | 2, _, hj => simp at hj
    | 3, _, hj => exact Or.inl ⟨rfl, by simpa using hj.symm⟩
  · obtain ⟨j, rfl⟩ : ∃ z, j = z + 4 := ⟨j - 4, by omega⟩
    exact Or.inr ⟨by omega, by simpa using hj, fun z => absurd z.1 (by omega)⟩
theorem x_lstore_3 {G : xG} {l : Launch} {M : xM} {d k n : Nat} {Q : xR → xH → Prop} {pc : Nat} {st : List Value} {h : xH} {a0 a1 a2 : Option Value} {b b2 : Option Value} {r : xLs} {x : Int64} (hdg : decode M.2.1 pc = .ok (.lstore_n 3, 1)) (hM : 3 + 1 < M.2.2.1) (hn : xN2 a2) (kk : xF G l M d k n Q (pc + 1) (a0 :: a1 :: a2 :: some (.long x) :: none :: r) st h) : xF G l M d k n Q pc (a0 :: a1 :: a2 :: b :: b2 :: r) (.long x :: st) h := by
  intro p e R s m args below meth c H locs cells slots ls F hL hc hs hR hS
  refine lv_lstore_n (lv' := _) F.1 F.2.1 hdg rfl hL hM rfl (fun ls1 hL1 => kk p e R s m args below meth c H locs cells slots ls1 F (xHas.s2 (i := 3) (v := .long x) hL1 ?_) hc hs hR hS)
  intro j w hj
  rcases Nat.lt_or_ge j 5 with q | q
  · match j, q, hj with
    | 0, _, hj => exact Or.inr ⟨by decide, by decide, by simpa using hj, fun z => absurd z.1 (by decide)⟩
    | 1, _, hj => exact Or.inr ⟨by decide, by decide, by simpa using hj, fun z => absurd z.1 (by decide)⟩
    | 2, _, hj => exact Or.inr ⟨by decide, by decide, by simpa using hj, fun z => by have := hn w (by simpa using hj); omega⟩
    | 3, _, hj => exact Or.inl ⟨rfl, by simpa using hj.symm⟩
    | 4, _, hj => simp at hj
  · obtain ⟨j, rfl⟩ : ∃ z, j = z + 5 := ⟨j - 5, by omega⟩
    exact Or.inr ⟨by omega, by omega, by simpa using hj, fun z => absurd z.1 (by omega)⟩
theorem x_lstoreC_3 {G : xG} {l : Launch} {M : xM} {d k n : Nat} {Q : xR → xH → Prop} {pc : Nat} {st : List Value} {h : xH} {a0 a1 a2 : Option Value} {b b2 : Option Value} {r : xLs} {x : Int64} (hdg : decode M.2.1 pc = .ok (.lstore_n 3, 1)) (hM : 3 + 1 < M.2.2.1) (kk : xF G l M d k n Q (pc + 1) (a0 :: a1 :: none :: some (.long x) :: none :: r) st h) : xF G l M d k n Q pc (a0 :: a1 :: a2 :: b :: b2 :: r) (.long x :: st) h := by
  intro p e R s m args below meth c H locs cells slots ls F hL hc hs hR hS
  refine lv_lstore_n (lv' := _) F.1 F.2.1 hdg rfl hL hM rfl (fun ls1 hL1 => kk p e R s m args below meth c H locs cells slots ls1 F (xHas.s2 (i := 3) (v := .long x) hL1 ?_) hc hs hR hS)
  intro j w hj
  rcases Nat.lt_or_ge j 5 with q | q
  · match j, q, hj with
    | 0, _, hj => exact Or.inr ⟨by decide, by decide, by simpa using hj, fun z => absurd z.1 (by decide)⟩
    | 1, _, hj => exact Or.inr ⟨by decide, by decide, by simpa using hj, fun z => absurd z.1 (by decide)⟩
    | 2, _, hj => simp at hj
    | 3, _, hj => exact Or.inl ⟨rfl, by simpa using hj.symm⟩
    | 4, _, hj => simp at hj
  · obtain ⟨j, rfl⟩ : ∃ z, j = z + 5 := ⟨j - 5, by omega⟩
    exact Or.inr ⟨by omega, by omega, by simpa using hj, fun z => absurd z.1 (by omega)⟩
theorem x_iinc_3 {G : xG} {l : Launch} {M : xM} {d k n : Nat} {Q : xR → xH → Prop} {pc : Nat} {st : List Value} {h : xH} {a0 a1 a2 : Option Value} {r : xLs} {x v : Int32} {z : Int} (hdg : decode M.2.1 pc = .ok (.iinc 3 z, 3)) (hv : (Int32.ofInt z) = v) (hM : 3 < M.2.2.1) (hn : xN2 a2) (kk : xF G l M d k n Q (pc + 3) (a0 :: a1 :: a2 :: some (.int (x + v)) :: r) st h) : xF G l M d k n Q pc (a0 :: a1 :: a2 :: some (.int x) :: r) st h := by
  intro p e R s m args below meth c H locs cells slots ls F hL hc hs hR hS
  refine x_iincA F hL (i := 3) rfl hdg hv hM (fun ls1 hL1 => kk p e R s m args below meth c H locs cells slots ls1 F (xHas.s1 (i := 3) (v := .int (x + v)) hL1 ?_) hc hs hR hS)
  intro j w hj
  rcases Nat.lt_or_ge j 4 with q | q
  · match j, q, hj with
    | 0, _, hj => exact Or.inr ⟨by decide, by simpa using hj, fun z => absurd z.1 (by decide)⟩
    | 1, _, hj => exact Or.inr ⟨by decide, by simpa using hj, fun z => absurd z.1 (by decide)⟩
    | 2, _, hj => exact Or.inr ⟨by decide, by simpa using hj, fun z => by have := hn w (by simpa using hj); omega⟩
    | 3, _, hj => exact Or.inl ⟨rfl, by simpa using hj.symm⟩
  · obtain ⟨j, rfl⟩ : ∃ z, j = z + 4 := ⟨j - 4, by omega⟩
    exact Or.inr ⟨by omega, by simpa using hj, fun z => absurd z.1 (by omega)⟩
theorem x_iload_4 {G : xG} {l : Launch} {M : xM} {d k n : Nat} {Q : xR → xH → Prop} {pc : Nat} {st : List Value} {h : xH} {a0 a1 a2 a3 : Option Value} {r : xLs} {x : Int32} (hdg : decode M.2.1 pc = .ok (.iload 4, 2)) (kk : xF G l M d k n Q (pc + 2) (a0 :: a1 :: a2 :: a3 :: some (.int x) :: r) (.int x :: st) h) : xF G l M d k n Q pc (a0 :: a1 :: a2 :: a3 :: some (.int x) :: r) st h := by
  intro p e R s m args below meth c H locs cells slots ls F hL hc hs hR hS
  exact lv_iload F.1 F.2.1 hdg (hL.at (i := 4) rfl) (kk p e R s m args below meth c H locs cells slots ls F hL hc hs hR hS)
theorem x_lload_4 {G : xG} {l : Launch} {M : xM} {d k n : Nat} {Q : xR → xH → Prop} {pc : Nat} {st : List Value} {h : xH} {a0 a1 a2 a3 : Option Value} {r : xLs} {x : Int64} (hdg : decode M.2.1 pc = .ok (.lload 4, 2)) (kk : xF G l M d k n Q (pc + 2) (a0 :: a1 :: a2 :: a3 :: some (.long x) :: r) (.long x :: st) h) : xF G l M d k n Q pc (a0 :: a1 :: a2 :: a3 :: some (.long x) :: r) st h := by
  intro p e R s m args below meth c H locs cells slots ls F hL hc hs hR hS
  exact lv_lload F.1 F.2.1 hdg (hL.at (i := 4) rfl) (kk p e R s m args below meth c H locs cells slots ls F hL hc hs hR hS)
theorem x_aload_4 {G : xG} {l : Launch} {M : xM} {d k n : Nat} {Q : xR → xH → Prop} {pc : Nat} {st : List Value} {h : xH} {a0 a1 a2 a3 : Option Value} {r : xLs} {x : Nat} (hdg : decode M.2.1 pc = .ok (.aload 4, 2)) (kk : xF G l M d k n Q (pc + 2) (a0 :: a1 :: a2 :: a3 :: some (.ref x) :: r) (.ref x :: st) h) : xF G l M d k n Q pc (a0 :: a1 :: a2 :: a3 :: some (.ref x) :: r) st h := by
  intro p e R s m args below meth c H locs cells slots ls F hL hc hs hR hS
  exact lv_aload F.1 F.2.1 hdg (hL.at (i := 4) rfl) (kk p e R s m args below meth c H locs cells slots ls F hL hc hs hR hS)
theorem x_aloadN_4 {G : xG} {l : Launch} {M : xM} {d k n : Nat} {Q : xR → xH → Prop} {pc : Nat} {st : List Value} {h : xH} {a0 a1 a2 a3 : Option Value} {r : xLs} (hdg : decode M.2.1 pc = .ok (.aload 4, 2)) (kk : xF G l M d k n Q (pc + 2) (a0 :: a1 :: a2 :: a3 :: some .null :: r) (.null :: st) h) : xF G l M d k n Q pc (a0 :: a1 :: a2 :: a3 :: some .null :: r) st h := by
  intro p e R s m args below meth c H locs cells slots ls F hL hc hs hR hS
  exact lv_aloadN F.1 F.2.1 hdg (hL.at (i := 4) rfl) (kk p e R s m args below meth c H locs cells slots ls F hL hc hs hR hS)
theorem x_istore_4 {G : xG} {l : Launch} {M : xM} {d k n : Nat} {Q : xR → xH → Prop} {pc : Nat} {st : List Value} {h : xH} {a0 a1 a2 a3 : Option Value} {b : Option Value} {r : xLs} {x : Int32} (hdg : decode M.2.1 pc = .ok (.istore 4, 2)) (hM : 4 < M.2.2.1) (hn : xN2 a3) (kk : xF G l M d k n Q (pc + 2) (a0 :: a1 :: a2 :: a3 :: some (.int x) :: r) st h) : xF G l M d k n Q pc (a0 :: a1 :: a2 :: a3 :: b :: r) (.int x :: st) h := by
  intro p e R s m args below meth c H locs cells slots ls F hL hc hs hR hS
  refine lv_istore (lv' := _) F.1 F.2.1 hdg hL hM rfl (fun ls1 hL1 => kk p e R s m args below meth c H locs cells slots ls1 F (xHas.s1 (i := 4) (v := .int x) hL1 ?_) hc hs hR hS)
  intro j w hj
  rcases Nat.lt_or_ge j 5 with q | q
  · match j, q, hj with
    | 0, _, hj => exact Or.inr ⟨by decide, by simpa using hj, fun z => absurd z.1 (by decide)⟩
    | 1, _, hj => exact Or.inr ⟨by decide, by simpa using hj, fun z => absurd z.1 (by decide)⟩
    | 2, _, hj => exact Or.inr ⟨by decide, by simpa using hj, fun z => absurd z.1 (by decide)⟩
    | 3, _, hj => exact Or.inr ⟨by decide, by simpa using hj, fun z => by have := hn w (by simpa using hj); omega⟩
    | 4, _, hj => exact Or.inl ⟨rfl, by simpa using hj.symm⟩
  · obtain ⟨j, rfl⟩ : ∃ z, j = z + 5 := ⟨j - 5, by omega⟩
    exact Or.inr ⟨by omega, by simpa using hj, fun z => absurd z.1 (by omega)⟩
theorem x_istoreC_4 {G : xG} {l : Launch} {M : xM} {d k n : Nat} {Q : xR → xH → Prop} {pc : Nat} {st : List Value} {h : xH} {a0 a1 a2 a3 : Option Value} {b : Option Value} {r : xLs} {x : Int32} (hdg : decode M.2.1 pc = .ok (.istore 4, 2)) (hM : 4 < M.2.2.1) (kk : xF G l M d k n Q (pc + 2) (a0 :: a1 :: a2 :: none :: some (.int x) :: r) st h) : xF G l M d k n Q pc (a0 :: a1 :: a2 :: a3 :: b :: r) (.int x :: st) h := by
  intro p e R s m args below meth c H locs cells slots ls F hL hc hs hR hS
  refine lv_istore (lv' := _) F.1 F.2.1 hdg hL hM rfl (fun ls1 hL1 => kk p e R s m args below meth c H locs cells slots ls1 F (xHas.s1 (i := 4) (v := .int x) hL1 ?_) hc hs hR hS)
  intro j w hj
  rcases Nat.lt_or_ge j 5 with q | q
  · match j, q, hj with
    | 0, _, hj => exact Or.inr ⟨by decide, by simpa using hj, fun z => absurd z.1 (by decide)⟩
    | 1, _, hj => exact Or.inr ⟨by decide, by simpa using hj, fun z => absurd z.1 (by decide)⟩
    | 2, _, hj => exact Or.inr ⟨by decide, by simpa using hj, fun z => absurd z.1 (by decide)⟩
    | 3, _, hj => simp at hj
    | 4, _, hj => exact Or.inl ⟨rfl, by simpa using hj.symm⟩
  · obtain ⟨j, rfl⟩ : ∃ z, j = z + 5 := ⟨j - 5, by omega⟩
    exact Or.inr ⟨by omega, by simpa using hj, fun z => absurd z.1 (by omega)⟩
theorem x_astore_4 {G : xG} {l : Launch} {M : xM} {d k n : Nat} {Q : xR → xH → Prop} {pc : Nat} {st : List Value} {h : xH} {a0 a1 a2 a3 : Option Value} {b : Option Value} {r : xLs} {x : Nat} (hdg : decode M.2.1 pc = .ok (.astore 4, 2)) (hM : 4 < M.2.2.1) (hn : xN2 a3) (kk : xF G l M d k n Q (pc + 2) (a0 :: a1 :: a2 :: a3 :: some (.ref x) :: r) st h) : xF G l M d k n Q pc (a0 :: a1 :: a2 :: a3 :: b :: r) (.ref x :: st) h := by
  intro p e R s m args below meth c H locs cells slots ls F hL hc hs hR hS
  refine lv_astore (lv' := _) F.1 F.2.1 hdg hL hM rfl (fun ls1 hL1 => kk p e R s m args below meth c H locs cells slots ls1 F (xHas.s1 (i := 4) (v := .ref x) hL1 ?_) hc hs hR hS)
  intro j w hj
  rcases Nat.lt_or_ge j 5 with q | q
  · match j, q, hj with
    | 0, _, hj => exact Or.inr ⟨by decide, by simpa using hj, fun z => absurd z.1 (by decide)⟩
    | 1, _, hj => exact Or.inr ⟨by decide, by simpa using hj, fun z => absurd z.1 (by decide)⟩
    | 2, _, hj => exact Or.inr ⟨by decide, by simpa using hj, fun z => absurd z.1 (by decide)⟩
    | 3, _, hj => exact Or.inr ⟨by decide, by simpa using hj, fun z => by have := hn w (by simpa using hj); omega⟩
    | 4, _, hj => exact Or.inl ⟨rfl, by simpa using hj.symm⟩
  · obtain ⟨j, rfl⟩ : ∃ z, j = z + 5 := ⟨j - 5, by omega⟩
    exact Or.inr ⟨by omega, by simpa using hj, fun z => absurd z.1 (by omega)⟩
theorem x_astoreC_4 {G : xG} {l : Launch} {M : xM} {d k n : Nat} {Q : xR → xH → Prop} {pc : Nat} {st : List Value} {h : xH} {a0 a1 a2 a3 : Option Value} {b : Option Value} {r : xLs} {x : Nat} (hdg : decode M.2.1 pc = .ok (.astore 4, 2)) (hM : 4 < M.2.2.1) (kk : xF G l M d k n Q (pc + 2) (a0 :: a1 :: a2 :: none :: some (.ref x) :: r) st h) : xF G l M d k n Q pc (a0 :: a1 :: a2 :: a3 :: b :: r) (.ref x :: st) h := by
  intro p e R s m args below meth c H locs cells slots ls F hL hc hs hR hS
  refine lv_astore (lv' := _) F.1 F.2.1 hdg hL hM rfl (fun ls1 hL1 => kk p e R s m args below meth c H locs cells slots ls1 F (xHas.s1 (i := 4) (v := .ref x) hL1 ?_) hc hs hR hS)
  intro j w hj
  rcases Nat.lt_or_ge j 5 with q | q
  · match j, q, hj with
    | 0, _, hj => exact Or.inr ⟨by decide, by simpa using hj, fun z => absurd z.1 (by decide)⟩
    | 1, _, hj => exact Or.inr ⟨by decide, by simpa using hj, fun z => absurd z.1 (by decide)⟩
    | 2, _, hj => exact Or.inr ⟨by decide, by simpa using hj, fun z => absurd z.1 (by decide)⟩
    | 3, _, hj => simp at hj
    | 4, _, hj => exact Or.inl ⟨rfl, by simpa using hj.symm⟩
  · obtain ⟨j, rfl⟩ : ∃ z, j = z + 5 := ⟨j - 5, by omega⟩
    exact Or.inr ⟨by omega, by simpa using hj, fun z => absurd z.1 (by omega)⟩
theorem x_astoreN_4 {G : xG} {l : Launch} {M : xM} {d k n : Nat} {Q : xR → xH → Prop} {pc : Nat} {st : List Value} {h : xH} {a0 a1 a2 a3 : Option Value} {b : Option Value} {r : xLs}  (hdg : decode M.2.1 pc = .ok (.astore 4, 2)) (hM : 4 < M.2.2.1) (hn : xN2 a3) (kk : xF G l M d k n Q (pc + 2) (a0 :: a1 :: a2 :: a3 :: some (.null) :: r) st h) : xF G l M d k n Q pc (a0 :: a1 :: a2 :: a3 :: b :: r) (.null :: st) h := by
  intro p e R s m args below meth c H locs cells slots ls F hL hc hs hR hS
  refine lv_astoreN (lv' := _) F.1 F.2.1 hdg hL hM rfl (fun ls1 hL1 => kk p e R s m args below meth c H locs cells slots ls1 F (xHas.s1 (i := 4) (v := .null) hL1 ?_) hc hs hR hS)
  intro j w hj
  rcases Nat.lt_or_ge j 5 with q | q
  · match j, q, hj with
    | 0, _, hj => exact Or.inr ⟨by decide, by simpa using hj, fun z => absurd z.1 (by decide)⟩
    | 1, _, hj => exact Or.inr ⟨by decide, by simpa using hj, fun z => absurd z.1 (by decide)⟩
    | 2, _, hj => exact Or.inr ⟨by decide, by simpa using hj, fun z => absurd z.1 (by decide)⟩
    | 3, _, hj => exact Or.inr ⟨by decide, by simpa using hj, fun z => by have := hn w (by simpa using hj); omega⟩
    | 4, _, hj => exact Or.inl ⟨rfl, by simpa using hj.symm⟩
  · obtain ⟨j, rfl⟩ : ∃ z, j = z + 5 := ⟨j - 5, by omega⟩
    exact Or.inr ⟨by omega, by simpa using hj, fun z => absurd z.1 (by omega)⟩
theorem x_astoreNC_4 {G : xG} {l : Launch} {M : xM} {d k n : Nat} {Q : xR → xH → Prop} {pc : Nat} {st : List Value} {h : xH} {a0 a1 a2 a3 : Option Value} {b : Option Value} {r : xLs}  (hdg : decode M.2.1 pc = .ok (.astore 4, 2)) (hM : 4 < M.2.2.1) (kk : xF G l M d k n Q (pc + 2) (a0 :: a1 :: a2 :: none :: some (.null) :: r) st h) : xF G l M d k n Q pc (a0 :: a1 :: a2 :: a3 :: b :: r) (.null :: st) h := by
  intro p e R s m args below meth c H locs cells slots ls F hL hc hs hR hS
  refine lv_astoreN (lv' := _) F.1 F.2.1 hdg hL hM rfl (fun ls1 hL1 => kk p e R s m args below meth c H locs cells slots ls1 F (xHas.s1 (i := 4) (v := .null) hL1 ?_) hc hs hR hS)
  intro j w hj
  rcases Nat.lt_or_ge j 5 with q | q
  · match j, q, hj with
    | 0, _, hj => exact Or.inr ⟨by decide, by simpa using hj, fun z => absurd z.1 (by decide)⟩
    | 1, _, hj => exact Or.inr ⟨by decide, by simpa using hj, fun z => absurd z.1 (by decide)⟩
    | 2, _, hj => exact Or.inr ⟨by decide, by simpa using hj, fun z => absurd z.1 (by decide)⟩
    | 3, _, hj => simp at hj
    | 4, _, hj => exact Or.inl ⟨rfl, by simpa using hj.symm⟩
  · obtain ⟨j, rfl⟩ : ∃ z, j = z + 5 := ⟨j - 5, by omega⟩
    exact Or.inr ⟨by omega, by simpa using hj, fun z => absurd z.1 (by omega)⟩
theorem x_lstore_4 {G : xG} {l : Launch} {M : xM} {d k n : Nat} {Q : xR → xH → Prop} {pc : Nat} {st : List Value} {h : xH} {a0 a1 a2 a3 : Option Value} {b b2 : Option Value} {r : xLs} {x : Int64} (hdg : decode M.2.1 pc = .ok (.lstore 4, 2)) (hM : 4 + 1 < M.2.2.1) (hn : xN2 a3) (kk : xF G l M d k n Q (pc + 2) (a0 :: a1 :: a2 :: a3 :: some (.long x) :: none :: r) st h) : xF G l M d k n Q pc (a0 :: a1 :: a2 :: a3 :: b :: b2 :: r) (.long x :: st) h := by
  intro p e R s m args below meth c H locs cells slots ls F hL hc hs hR hS
  refine lv_lstore (lv' := _) F.1 F.2.1 hdg hL hM rfl (fun ls1 hL1 => kk p e R s m args below meth c H locs cells slots ls1 F (xHas.s2 (i := 4) (v := .long x) hL1 ?_) hc hs hR hS)
  intro j w hj
  rcases Nat.lt_or_ge j 6 with q | q
  · match j, q, hj with
    | 0, _, hj => exact Or.inr ⟨by decide, by decide, by simpa using hj, fun z => absurd z.1 (by decide)⟩
    | 1, _, hj => exact Or.inr ⟨by decide, by decide, by simpa using hj, fun z => absurd z.1 (by decide)⟩
    | 2, _, hj => exact Or.inr ⟨by decide, by decide, by simpa using hj, fun z => absurd z.1 (by decide)⟩
    | 3, _, hj => exact Or.inr ⟨by decide, by decide, by simpa using hj, fun z => by have := hn w (by simpa using hj); omega⟩
    | 4, _, hj => exact Or.inl ⟨rfl, by simpa using hj.symm⟩
    | 5, _, hj => simp at hj
  · obtain ⟨j, rfl⟩ : ∃ z, j = z + 6 := ⟨j - 6, by omega⟩
    exact Or.inr ⟨by omega, by omega, by simpa using hj, fun z => absurd z.1 (by omega)⟩
theorem x_lstoreC_4 {G : xG} {l : Launch} {M : xM} {d k n : Nat} {Q : xR → xH → Prop} {pc : Nat} {st : List Value} {h : xH} {a0 a1 a2 a3 : Option Value} {b b2 : Option Value} {r : xLs} {x : Int64} (hdg : decode M.2.1 pc = .ok (.lstore 4, 2)) (hM : 4 + 1 < M.2.2.1) (kk : xF G l M d k n Q (pc + 2) (a0 :: a1 :: a2 :: none :: some (.long x) :: none :: r) st h) : xF G l M d k n Q pc (a0 :: a1 :: a2 :: a3 :: b :: b2 :: r) (.long x :: st) h := by
  intro p e R s m args below meth c H locs cells slots ls F hL hc hs hR hS
  refine lv_lstore (lv' := _) F.1 F.2.1 hdg hL hM rfl (fun ls1 hL1 => kk p e R s m args below meth c H locs cells slots ls1 F (xHas.s2 (i := 4) (v := .long x) hL1 ?_) hc hs hR hS)
  intro j w hj
  rcases Nat.lt_or_ge j 6 with q | q
  · match j, q, hj with
    | 0, _, hj => exact Or.inr ⟨by decide, by decide, by simpa using hj, fun z => absurd z.1 (by decide)⟩
    | 1, _, hj => exact Or.inr ⟨by decide, by decide, by simpa using hj, fun z => absurd z.1 (by decide)⟩
    | 2, _, hj => exact Or.inr ⟨by decide, by decide, by simpa using hj, fun z => absurd z.1 (by decide)⟩
    | 3, _, hj => simp at hj
    | 4, _, hj => exact Or.inl ⟨rfl, by simpa using hj.symm⟩
    | 5, _, hj => simp at hj
  · obtain ⟨j, rfl⟩ : ∃ z, j = z + 6 := ⟨j - 6, by omega⟩
    exact Or.inr ⟨by omega, by omega, by simpa using hj, fun z => absurd z.1 (by omega)⟩
theorem x_iinc_4 {G : xG} {l : Launch} {M : xM} {d k n : Nat} {Q : xR → xH → Prop} {pc : Nat} {st : List Value} {h : xH} {a0 a1 a2 a3 : Option Value} {r : xLs} {x v : Int32} {z : Int} (hdg : decode M.2.1 pc = .ok (.iinc 4 z, 3)) (hv : (Int32.ofInt z) = v) (hM : 4 < M.2.2.1) (hn : xN2 a3) (kk : xF G l M d k n Q (pc + 3) (a0 :: a1 :: a2 :: a3 :: some (.int (x + v)) :: r) st h) : xF G l M d k n Q pc (a0 :: a1 :: a2 :: a3 :: some (.int x) :: r) st h := by
  intro p e R s m args below meth c H locs cells slots ls F hL hc hs hR hS
  refine x_iincA F hL (i := 4) rfl hdg hv hM (fun ls1 hL1 => kk p e R s m args below meth c H locs cells slots ls1 F (xHas.s1 (i := 4) (v := .int (x + v)) hL1 ?_) hc hs hR hS)
  intro j w hj
  rcases Nat.lt_or_ge j 5 with q | q
  · match j, q, hj with
    | 0, _, hj => exact Or.inr ⟨by decide, by simpa using hj, fun z => absurd z.1 (by decide)⟩
    | 1, _, hj => exact Or.inr ⟨by decide, by simpa using hj, fun z => absurd z.1 (by decide)⟩
    | 2, _, hj => exact Or.inr ⟨by decide, by simpa using hj, fun z => absurd z.1 (by decide)⟩
    | 3, _, hj => exact Or.inr ⟨by decide, by simpa using hj, fun z => by have := hn w (by simpa using hj); omega⟩
    | 4, _, hj => exact Or.inl ⟨rfl, by simpa using hj.symm⟩
  · obtain ⟨j, rfl⟩ : ∃ z, j = z + 5 := ⟨j - 5, by omega⟩
    exact Or.inr ⟨by omega, by simpa using hj, fun z => absurd z.1 (by omega)⟩
theorem x_iload_5 {G : xG} {l : Launch} {M : xM} {d k n : Nat} {Q : xR → xH → Prop} {pc : Nat} {st : List Value} {h : xH} {a0 a1 a2 a3 a4 : Option Value} {r : xLs} {x : Int32} (hdg : decode M.2.1 pc = .ok (.iload 5, 2)) (kk : xF G l M d k n Q (pc + 2) (a0 :: a1 :: a2 :: a3 :: a4 :: some (.int x) :: r) (.int x :: st) h) : xF G l M d k n Q pc (a0 :: a1 :: a2 :: a3 :: a4 :: some (.int x) :: r) st h := by
  intro p e R s m args below meth c H locs cells slots ls F hL hc hs hR hS
  exact lv_iload F.1 F.2.1 hdg (hL.at (i := 5) rfl) (kk p e R s m args below meth c H locs cells slots ls F hL hc hs hR hS)
theorem x_lload_5 {G : xG} {l : Launch} {M : xM} {d k n : Nat} {Q : xR → xH → Prop} {pc : Nat} {st : List Value} {h : xH} {a0 a1 a2 a3 a4 : Option Value} {r : xLs} {x : Int64} (hdg : decode M.2.1 pc = .ok (.lload 5, 2)) (kk : xF G l M d k n Q (pc + 2) (a0 :: a1 :: a2 :: a3 :: a4 :: some (.long x) :: r) (.long x :: st) h) : xF G l M d k n Q pc (a0 :: a1 :: a2 :: a3 :: a4 :: some (.long x) :: r) st h := by
  intro p e R s m args below meth c H locs cells slots ls F hL hc hs hR hS
  exact lv_lload F.1 F.2.1 hdg (hL.at (i := 5) rfl) (kk p e R s m args below meth c H locs cells slots ls F hL hc hs hR hS)
theorem x_aload_5 {G : xG} {l : Launch} {M : xM} {d k n : Nat} {Q : xR → xH → Prop} {pc : Nat} {st : List Value} {h : xH} {a0 a1 a2 a3 a4 : Option Value} {r : xLs} {x : Nat} (hdg : decode M.2.1 pc = .ok (.aload 5, 2)) (kk : xF G l M d k n Q (pc + 2) (a0 :: a1 :: a2 :: a3 :: a4 :: some (.ref x) :: r) (.ref x :: st) h) : xF G l M d k n Q pc (a0 :: a1 :: a2 :: a3 :: a4 :: some (.ref x) :: r) st h := by
  intro p e R s m args below meth c H locs cells slots ls F hL hc hs hR hS
  exact lv_aload F.1 F.2.1 hdg (hL.at (i := 5) rfl) (kk p e R s m args below meth c H locs cells slots ls F hL hc hs hR hS)
theorem x_aloadN_5 {G : xG} {l : Launch} {M : xM} {d k n : Nat} {Q : xR → xH → Prop} {pc : Nat} {st : List Value} {h : xH} {a0 a1 a2 a3 a4 : Option Value} {r : xLs} (hdg : decode M.2.1 pc = .ok (.aload 5, 2)) (kk : xF G l M d k n Q (pc + 2) (a0 :: a1 :: a2 :: a3 :: a4 :: some .null :: r) (.null :: st) h) : xF G l M d k n Q pc (a0 :: a1 :: a2 :: a3 :: a4 :: some .null :: r) st h := by
  intro p e R s m args below meth c H locs cells slots ls F hL hc hs hR hS
  exact lv_aloadN F.1 F.2.1 hdg (hL.at (i := 5) rfl) (kk p e R s m args below meth c H locs cells slots ls F hL hc hs hR hS)
theorem x_istore_5 {G : xG} {l : Launch} {M : xM} {d k n : Nat} {Q : xR → xH → Prop} {pc : Nat} {st : List Value} {h : xH} {a0 a1 a2 a3 a4 : Option Value} {b : Option Value} {r : xLs} {x : Int32} (hdg : decode M.2.1 pc = .ok (.istore 5, 2)) (hM : 5 < M.2.2.1) (hn : xN2 a4) (kk : xF G l M d k n Q (pc + 2) (a0 :: a1 :: a2 :: a3 :: a4 :: some (.int x) :: r) st h) : xF G l M d k n Q pc (a0 :: a1 :: a2 :: a3 :: a4 :: b :: r) (.int x :: st) h := by
  intro p e R s m args below meth c H locs cells slots ls F hL hc hs hR hS
  refine lv_istore (lv' := _) F.1 F.2.1 hdg hL hM rfl (fun ls1 hL1 => kk p e R s m args below meth c H locs cells slots ls1 F (xHas.s1 (i := 5) (v := .int x) hL1 ?_) hc hs hR hS)
  intro j w hj
  rcases Nat.lt_or_ge j 6 with q | q
  · match j, q, hj with
    | 0, _, hj => exact Or.inr ⟨by decide, by simpa using hj, fun z => absurd z.1 (by decide)⟩
    | 1, _, hj => exact Or.inr ⟨by decide, by simpa using hj, fun z => absurd z.1 (by decide)⟩
    | 2, _, hj => exact Or.inr ⟨by decide, by simpa using hj, fun z => absurd z.1 (by decide)⟩
    | 3, _, hj => exact Or.inr ⟨by decide, by simpa using hj, fun z => absurd z.1 (by decide)⟩
    | 4, _, hj => exact Or.inr ⟨by decide, by simpa using hj, fun z => by have := hn w (by simpa using hj); omega⟩
    | 5, _, hj => exact Or.inl ⟨rfl, by simpa using hj.symm⟩
  · obtain ⟨j, rfl⟩ : ∃ z, j = z + 6 := ⟨j - 6, by omega⟩
    exact Or.inr ⟨by omega, by simpa using hj, fun z => absurd z.1 (by omega)⟩
theorem x_istoreC_5 {G : xG} {l : Launch} {M : xM} {d k n : Nat} {Q : xR → xH → Prop} {pc : Nat} {st : List Value} {h : xH} {a0 a1 a2 a3 a4 : Option Value} {b : Option Value} {r : xLs} {x : Int32} (hdg : decode M.2.1 pc = .ok (.istore 5, 2)) (hM : 5 < M.2.2.1) (kk : xF G l M d k n Q (pc + 2) (a0 :: a1 :: a2 :: a3 :: none :: some (.int x) :: r) st h) : xF G l M d k n Q pc (a0 :: a1 :: a2 :: a3 :: a4 :: b :: r) (.int x :: st) h := by
  intro p e R s m args below meth c H locs cells slots ls F hL hc hs hR hS
  refine lv_istore (lv' := _) F.1 F.2.1 hdg hL hM rfl (fun ls1 hL1 => kk p e R s m args below meth c H locs cells slots ls1 F (xHas.s1 (i := 5) (v := .int x) hL1 ?_) hc hs hR hS)
  intro j w hj
  rcases Nat.lt_or_ge j 6 with q | q
  · match j, q, hj with
    | 0, _, hj => exact Or.inr ⟨by decide, by simpa using hj, fun z => absurd z.1 (by decide)⟩
    | 1, _, hj => exact Or.inr ⟨by decide, by simpa using hj, fun z => absurd z.1 (by decide)⟩
    | 2, _, hj => exact Or.inr ⟨by decide, by simpa using hj, fun z => absurd z.1 (by decide)⟩
    | 3, _, hj => exact Or.inr ⟨by decide, by simpa using hj, fun z => absurd z.1 (by decide)⟩
    | 4, _, hj => simp at hj
    | 5, _, hj => exact Or.inl ⟨rfl, by simpa using hj.symm⟩
  · obtain ⟨j, rfl⟩ : ∃ z, j = z + 6 := ⟨j - 6, by omega⟩
    exact Or.inr ⟨by omega, by simpa using hj, fun z => absurd z.1 (by omega)⟩
theorem x_astore_5 {G : xG} {l : Launch} {M : xM} {d k n : Nat} {Q : xR → xH → Prop} {pc : Nat} {st : List Value} {h : xH} {a0 a1 a2 a3 a4 : Option Value} {b : Option Value} {r : xLs} {x : Nat} (hdg : decode M.2.1 pc = .ok (.astore 5, 2)) (hM : 5 < M.2.2.1) (hn : xN2 a4) (kk : xF G l M d k n Q (pc + 2) (a0 :: a1 :: a2 :: a3 :: a4 :: some (.ref x) :: r) st h) : xF G l M d k n Q pc (a0 :: a1 :: a2 :: a3 :: a4 :: b :: r) (.ref x :: st) h := by
  intro p e R s m args below meth c H locs cells slots ls F hL hc hs hR hS
  refine lv_astore (lv' := _) F.1 F.2.1 hdg hL hM rfl (fun ls1 hL1 => kk p e R s m args below meth c H locs cells slots ls1 F (xHas.s1 (i := 5) (v := .ref x) hL1 ?_) hc hs hR hS)
  intro j w hj
  rcases Nat.lt_or_ge j 6 with q | q
  · match j, q, hj with
    | 0, _, hj => exact Or.inr ⟨by decide, by simpa using hj, fun z => absurd z.1 (by decide)⟩
    | 1, _, hj => exact Or.inr ⟨by decide, by simpa using hj, fun z => absurd z.1 (by decide)⟩
    | 2, _, hj => exact Or.inr ⟨by decide, by simpa using hj, fun z => absurd z.1 (by decide)⟩
    | 3, _, hj => exact Or.inr ⟨by decide, by simpa using hj, fun z => absurd z.1 (by decide)⟩
    | 4, _, hj => exact Or.inr ⟨by decide, by simpa using hj, fun z => by have := hn w (by simpa using hj); omega⟩
    | 5, _, hj => exact Or.inl ⟨rfl, by simpa using hj.symm⟩
  · obtain ⟨j, rfl⟩ : ∃ z, j = z + 6 := ⟨j - 6, by omega⟩
    exact Or.inr ⟨by omega, by simpa using hj, fun z => absurd z.1 (by omega)⟩
theorem x_astoreC_5 {G : xG} {l : Launch} {M : xM} {d k n : Nat} {Q : xR → xH → Prop} {pc : Nat} {st : List Value} {h : xH} {a0 a1 a2 a3 a4 : Option Value} {b : Option Value} {r : xLs} {x : Nat} (hdg : decode M.2.1 pc = .ok (.astore 5, 2)) (hM : 5 < M.2.2.1) (kk : xF G l M d k n Q (pc + 2) (a0 :: a1 :: a2 :: a3 :: none :: some (.ref x) :: r) st h) : xF G l M d k n Q pc (a0 :: a1 :: a2 :: a3 :: a4 :: b :: r) (.ref x :: st) h := by
  intro p e R s m args below meth c H locs cells slots ls F hL hc hs hR hS
  refine lv_astore (lv' := _) F.1 F.2.1 hdg hL hM rfl (fun ls1 hL1 => kk p e R s m args below meth c H locs cells slots ls1 F (xHas.s1 (i := 5) (v := .ref x) hL1 ?_) hc hs hR hS)
  intro j w hj
  rcases Nat.lt_or_ge j 6 with q | q
  · match j, q, hj with
    | 0, _, hj => exact Or.inr ⟨by decide, by simpa using hj, fun z => absurd z.1 (by decide)⟩
    | 1, _, hj => exact Or.inr ⟨by decide, by simpa using hj, fun z => absurd z.1 (by decide)⟩
    | 2, _, hj => exact Or.inr ⟨by decide, by simpa using hj, fun z => absurd z.1 (by decide)⟩
    | 3, _, hj => exact Or.inr ⟨by decide, by simpa using hj, fun z => absurd z.1 (by decide)⟩
    | 4, _, hj => simp at hj
    | 5, _, hj => exact Or.inl ⟨rfl, by simpa using hj.symm⟩
  · obtain ⟨j, rfl⟩ : ∃ z, j = z + 6 := ⟨j - 6, by omega⟩
    exact Or.inr ⟨by omega, by simpa using hj, fun z => absurd z.1 (by omega)⟩
theorem x_astoreN_5 {G : xG} {l : Launch} {M : xM} {d k n : Nat} {Q : xR → xH → Prop} {pc : Nat} {st : List Value} {h : xH} {a0 a1 a2 a3 a4 : Option Value} {b : Option Value} {r : xLs}  (hdg : decode M.2.1 pc = .ok (.astore 5, 2)) (hM : 5 < M.2.2.1) (hn : xN2 a4) (kk : xF G l M d k n Q (pc + 2) (a0 :: a1 :: a2 :: a3 :: a4 :: some (.null) :: r) st h) : xF G l M d k n Q pc (a0 :: a1 :: a2 :: a3 :: a4 :: b :: r) (.null :: st) h := by
  intro p e R s m args below meth c H locs cells slots ls F hL hc hs hR hS
  refine lv_astoreN (lv' := _) F.1 F.2.1 hdg hL hM rfl (fun ls1 hL1 => kk p e R s m args below meth c H locs cells slots ls1 F (xHas.s1 (i := 5) (v := .null) hL1 ?_) hc hs hR hS)
  intro j w hj
  rcases Nat.lt_or_ge j 6 with q | q
  · match j, q, hj with
    | 0, _, hj => exact Or.inr ⟨by decide, by simpa using hj, fun z => absurd z.1 (by decide)⟩
    | 1, _, hj => exact Or.inr ⟨by decide, by simpa using hj, fun z => absurd z.1 (by decide)⟩
    | 2, _, hj => exact Or.inr ⟨by decide, by simpa using hj, fun z => absurd z.1 (by decide)⟩
    | 3, _, hj => exact Or.inr ⟨by decide, by simpa using hj, fun z => absurd z.1 (by decide)⟩
    | 4, _, hj => exact Or.inr ⟨by decide, by simpa using hj, fun z => by have := hn w (by simpa using hj); omega⟩
    | 5, _, hj => exact Or.inl ⟨rfl, by simpa using hj.symm⟩
  · obtain ⟨j, rfl⟩ : ∃ z, j = z + 6 := ⟨j - 6, by omega⟩
    exact Or.inr ⟨by omega, by simpa using hj, fun z => absurd z.1 (by omega)⟩
theorem x_astoreNC_5 {G : xG} {l : Launch} {M : xM} {d k n : Nat} {Q : xR → xH → Prop} {pc : Nat} {st : List Value} {h : xH} {a0 a1 a2 a3 a4 : Option Value} {b : Option Value} {r : xLs}  (hdg : decode M.2.1 pc = .ok (.astore 5, 2)) (hM : 5 < M.2.2.1) (kk : xF G l M d k n Q (pc + 2) (a0 :: a1 :: a2 :: a3 :: none :: some (.null) :: r) st h) : xF G l M d k n Q pc (a0 :: a1 :: a2 :: a3 :: a4 :: b :: r) (.null :: st) h := by
  intro p e R s m args below meth c H locs cells slots ls F hL hc hs hR hS
  refine lv_astoreN (lv' := _) F.1 F.2.1 hdg hL hM rfl (fun ls1 hL1 => kk p e R s m args below meth c H locs cells slots ls1 F (xHas.s1 (i := 5) (v := .null) hL1 ?_) hc hs hR hS)
  intro j w hj
  rcases Nat.lt_or_ge j 6 with q | q
  · match j, q, hj with
    | 0, _, hj => exact Or.inr ⟨by decide, by simpa using hj, fun z => absurd z.1 (by decide)⟩
    | 1, _, hj => exact Or.inr ⟨by decide, by simpa using hj, fun z => absurd z.1 (by decide)⟩
    | 2, _, hj => exact Or.inr ⟨by decide, by simpa using hj, fun z => absurd z.1 (by decide)⟩
    | 3, _, hj => exact Or.inr ⟨by decide, by simpa using hj, fun z => absurd z.1 (by decide)⟩
    | 4, _, hj => simp at hj
    | 5, _, hj => exact Or.inl ⟨rfl, by simpa using hj.symm⟩
  · obtain ⟨j, rfl⟩ : ∃ z, j = z + 6 := ⟨j - 6, by omega⟩
    exact Or.inr ⟨by omega, by simpa using hj, fun z => absurd z.1 (by omega)⟩
theorem x_lstore_5 {G : xG} {l : Launch} {M : xM} {d k n : Nat} {Q : xR → xH → Prop} {pc : Nat} {st : List Value} {h : xH} {a0 a1 a2 a3 a4 : Option Value} {b b2 : Option Value} {r : xLs} {x : Int64} (hdg : decode M.2.1 pc = .ok (.lstore 5, 2)) (hM : 5 + 1 < M.2.2.1) (hn : xN2 a4) (kk : xF G l M d k n Q (pc + 2) (a0 :: a1 :: a2 :: a3 :: a4 :: some (.long x) :: none :: r) st h) : xF G l M d k n Q pc (a0 :: a1 :: a2 :: a3 :: a4 :: b :: b2 :: r) (.long x :: st) h := by
  intro p e R s m args below meth c H locs cells slots ls F hL hc hs hR hS
  refine lv_lstore (lv' := _) F.1 F.2.1 hdg hL hM rfl (fun ls1 hL1 => kk p e R s m args below meth c H locs cells slots ls1 F (xHas.s2 (i := 5) (v := .long x) hL1 ?_) hc hs hR hS)
  intro j w hj
  rcases Nat.lt_or_ge j 7 with q | q
  · match j, q, hj with
    | 0, _, hj => exact Or.inr ⟨by decide, by decide, by simpa using hj, fun z => absurd z.1 (by decide)⟩
    | 1, _, hj => exact Or.inr ⟨by decide, by decide, by simpa using hj, fun z => absurd z.1 (by decide)⟩
    | 2, _, hj => exact Or.inr ⟨by decide, by decide, by simpa using hj, fun z => absurd z.1 (by decide)⟩
    | 3, _, hj => exact Or.inr ⟨by decide, by decide, by simpa using hj, fun z => absurd z.1 (by decide)⟩
    | 4, _, hj => exact Or.inr ⟨by decide, by decide, by simpa using hj, fun z => by have := hn w (by simpa using hj); omega⟩
    | 5, _, hj => exact Or.inl ⟨rfl, by simpa using hj.symm⟩
    | 6, _, hj => simp at hj
  · obtain ⟨j, rfl⟩ : ∃ z, j = z + 7 := ⟨j - 7, by omega⟩
    exact Or.inr ⟨by omega, by omega, by simpa using hj, fun z => absurd z.1 (by omega)⟩
theorem x_lstoreC_5 {G : xG} {l : Launch} {M : xM} {d k n : Nat} {Q : xR → xH → Prop} {pc : Nat} {st : List Value} {h : xH} {a0 a1 a2 a3 a4 : Option Value} {b b2 : Option Value} {r : xLs} {x : Int64} (hdg : decode M.2.1 pc = .ok (.lstore 5, 2)) (hM : 5 + 1 < M.2.2.1) (kk : xF G l M d k n Q (pc + 2) (a0 :: a1 :: a2 :: a3 :: none :: some (.long x) :: none :: r) st h) : xF G l M d k n Q pc (a0 :: a1 :: a2 :: a3 :: a4 :: b :: b2 :: r) (.long x :: st) h := by
  intro p e R s m args below meth c H locs cells slots ls F hL hc hs hR hS
  refine lv_lstore (lv' := _) F.1 F.2.1 hdg hL hM rfl (fun ls1 hL1 => kk p e R s m args below meth c H locs cells slots ls1 F (xHas.s2 (i := 5) (v := .long x) hL1 ?_) hc hs hR hS)
  intro j w hj
  rcases Nat.lt_or_ge j 7 with q | q
  · match j, q, hj with
    | 0, _, hj => exact Or.inr ⟨by decide, by decide, by simpa using hj, fun z => absurd z.1 (by decide)⟩
    | 1, _, hj => exact Or.inr ⟨by decide, by decide, by simpa using hj, fun z => absurd z.1 (by decide)⟩
    | 2, _, hj => exact Or.inr ⟨by decide, by decide, by simpa using hj, fun z => absurd z.1 (by decide)⟩
    | 3, _, hj => exact Or.inr ⟨by decide, by decide, by simpa using hj, fun z => absurd z.1 (by decide)⟩
    | 4, _, hj => simp at hj
    | 5, _, hj => exact Or.inl ⟨rfl, by simpa using hj.symm⟩
    | 6, _, hj => simp at hj
  · obtain ⟨j, rfl⟩ : ∃ z, j = z + 7 := ⟨j - 7, by omega⟩
    exact Or.inr ⟨by omega, by omega, by simpa using hj, fun z => absurd z.1 (by omega)⟩
theorem x_iinc_5 {G : xG} {l : Launch} {M : xM} {d k n : Nat} {Q : xR → xH → Prop} {pc : Nat} {st : List Value} {h : xH} {a0 a1 a2 a3 a4 : Option Value} {r : xLs} {x v : Int32} {z : Int} (hdg : decode M.2.1 pc = .ok (.iinc 5 z, 3)) (hv : (Int32.ofInt z) = v) (hM : 5 < M.2.2.1) (hn : xN2 a4) (kk : xF G l M d k n Q (pc + 3) (a0 :: a1 :: a2 :: a3 :: a4 :: some (.int (x + v)) :: r) st h) : xF G l M d k n Q pc (a0 :: a1 :: a2 :: a3 :: a4 :: some (.int x) :: r) st h := by
  intro p e R s m args below meth c H locs cells slots ls F hL hc hs hR hS
  refine x_iincA F hL (i := 5) rfl hdg hv hM (fun ls1 hL1 => kk p e R s m args below meth c H locs cells slots ls1 F (xHas.s1 (i := 5) (v := .int (x + v)) hL1 ?_) hc hs hR hS)
  intro j w hj
  rcases Nat.lt_or_ge j 6 with q | q
  · match j, q, hj with
    | 0, _, hj => exact Or.inr ⟨by decide, by simpa using hj, fun z => absurd z.1 (by decide)⟩
    | 1, _, hj => exact Or.inr ⟨by decide, by simpa using hj, fun z => absurd z.1 (by decide)⟩
    | 2, _, hj => exact Or.inr ⟨by decide, by simpa using hj, fun z => absurd z.1 (by decide)⟩
    | 3, _, hj => exact Or.inr ⟨by decide, by simpa using hj, fun z => absurd z.1 (by decide)⟩
    | 4, _, hj => exact Or.inr ⟨by decide, by simpa using hj, fun z => by have := hn w (by simpa using hj); omega⟩
    | 5, _, hj => exact Or.inl ⟨rfl, by simpa using hj.symm⟩
  · obtain ⟨j, rfl⟩ : ∃ z, j = z + 6 := ⟨j - 6, by omega⟩
    exact Or.inr ⟨by omega, by simpa using hj, fun z => absurd z.1 (by omega)⟩
theorem x_iload_6 {G : xG} {l : Launch} {M : xM} {d k n : Nat} {Q : xR → xH → Prop} {pc : Nat} {st : List Value} {h : xH} {a0 a1 a2 a3 a4 a5 : Option Value} {r : xLs} {x : Int32} (hdg : decode M.2.1 pc = .ok (.iload 6, 2)) (kk : xF G l M d k n Q (pc + 2) (a0 :: a1 :: a2 :: a3 :: a4 :: a5 :: some (.int x) :: r) (.int x :: st) h) : xF G l M d k n Q pc (a0 :: a1 :: a2 :: a3 :: a4 :: a5 :: some (.int x) :: r) st h := by
  intro p e R s m args below meth c H locs cells slots ls F hL hc hs hR hS
  exact lv_iload F.1 F.2.1 hdg (hL.at (i := 6) rfl) (kk p e R s m args below meth c H locs cells slots ls F hL hc hs hR hS)
theorem x_lload_6 {G : xG} {l : Launch} {M : xM} {d k n : Nat} {Q : xR → xH → Prop} {pc : Nat} {st : List Value} {h : xH} {a0 a1 a2 a3 a4 a5 : Option Value} {r : xLs} {x : Int64} (hdg : decode M.2.1 pc = .ok (.lload 6, 2)) (kk : xF G l M d k n Q (pc + 2) (a0 :: a1 :: a2 :: a3 :: a4 :: a5 :: some (.long x) :: r) (.long x :: st) h) : xF G l M d k n Q pc (a0 :: a1 :: a2 :: a3 :: a4 :: a5 :: some (.long x) :: r) st h := by
  intro p e R s m args below meth c H locs cells slots ls F hL hc hs hR hS
  exact lv_lload F.1 F.2.1 hdg (hL.at (i := 6) rfl) (kk p e R s m args below meth c H locs cells slots ls F hL hc hs hR hS)
theorem x_aload_6 {G : xG} {l : Launch} {M : xM} {d k n : Nat} {Q : xR → xH → Prop} {pc : Nat} {st : List Value} {h : xH} {a0 a1 a2 a3 a4 a5 : Option Value} {r : xLs} {x : Nat} (hdg : decode M.2.1 pc = .ok (.aload 6, 2)) (kk : xF G l M d k n Q (pc + 2) (a0 :: a1 :: a2 :: a3 :: a4 :: a5 :: some (.ref x) :: r) (.ref x :: st) h) : xF G l M d k n Q pc (a0 :: a1 :: a2 :: a3 :: a4 :: a5 :: some (.ref x) :: r) st h := by
  intro p e R s m args below meth c H locs cells slots ls F hL hc hs hR hS
  exact lv_aload F.1 F.2.1 hdg (hL.at (i := 6) rfl) (kk p e R s m args below meth c H locs cells slots ls F hL hc hs hR hS)
theorem x_aloadN_6 {G : xG} {l : Launch} {M : xM} {d k n : Nat} {Q : xR → xH → Prop} {pc : Nat} {st : List Value} {h : xH} {a0 a1 a2 a3 a4 a5 : Option Value} {r : xLs} (hdg : decode M.2.1 pc = .ok (.aload 6, 2)) (kk : xF G l M d k n Q (pc + 2) (a0 :: a1 :: a2 :: a3 :: a4 :: a5 :: some .null :: r) (.null :: st) h) : xF G l M d k n Q pc (a0 :: a1 :: a2 :: a3 :: a4 :: a5 :: some .null :: r) st h := by
  intro p e R s m args below meth c H locs cells slots ls F hL hc hs hR hS
  exact lv_aloadN F.1 F.2.1 hdg (hL.at (i := 6) rfl) (kk p e R s m args below meth c H locs cells slots ls F hL hc hs hR hS)
theorem x_istore_6 {G : xG} {l : Launch} {M : xM} {d k n : Nat} {Q : xR → xH → Prop} {pc : Nat} {st : List Value} {h : xH} {a0 a1 a2 a3 a4 a5 : Option Value} {b : Option Value} {r : xLs} {x : Int32} (hdg : decode M.2.1 pc = .ok (.istore 6, 2)) (hM : 6 < M.2.2.1) (hn : xN2 a5) (kk : xF G l M d k n Q (pc + 2) (a0 :: a1 :: a2 :: a3 :: a4 :: a5 :: some (.int x) :: r) st h) : xF G l M d k n Q pc (a0 :: a1 :: a2 :: a3 :: a4 :: a5 :: b :: r) (.int x :: st) h := by
  intro p e R s m args below meth c H locs cells slots ls F hL hc hs hR hS
  refine lv_istore (lv' := _) F.1 F.2.1 hdg hL hM rfl (fun ls1 hL1 => kk p e R s m args below meth c H locs cells slots ls1 F (xHas.s1 (i := 6) (v := .int x) hL1 ?_) hc hs hR hS)
  intro j w hj
  rcases Nat.lt_or_ge j 7 with q | q
  · match j, q, hj with
    | 0, _, hj => exact Or.inr ⟨by decide, by simpa using hj, fun z => absurd z.1 (by decide)⟩
    | 1, _, hj => exact Or.inr ⟨by decide, by simpa using hj, fun z => absurd z.1 (by decide)⟩
    | 2, _, hj => exact Or.inr ⟨by decide, by simpa using hj, fun z => absurd z.1 (by decide)⟩
    | 3, _, hj => exact Or.inr ⟨by decide, by simpa using hj, fun z => absurd z.1 (by decide)⟩
    | 4, _, hj => exact Or.inr ⟨by decide, by simpa using hj, fun z => absurd z.1 (by decide)⟩
    | 5, _, hj => exact Or.inr ⟨by decide, by simpa using hj, fun z => by have := hn w (by simpa using hj); omega⟩
    | 6, _, hj => exact Or.inl ⟨rfl, by simpa using hj.symm⟩
  · obtain ⟨j, rfl⟩ : ∃ z, j = z + 7 := ⟨j - 7, by omega⟩
    exact Or.inr ⟨by omega, by simpa using hj, fun z => absurd z.1 (by omega)⟩
theorem x_istoreC_6 {G : xG} {l : Launch} {M : xM} {d k n : Nat} {Q : xR → xH → Prop} {pc : Nat} {st : List Value} {h : xH} {a0 a1 a2 a3 a4 a5 : Option Value} {b : Option Value} {r : xLs} {x : Int32} (hdg : decode M.2.1 pc = .ok (.istore 6, 2)) (hM : 6 < M.2.2.1) (kk : xF G l M d k n Q (pc + 2) (a0 :: a1 :: a2 :: a3 :: a4 :: none :: some (.int x) :: r) st h) : xF G l M d k n Q pc (a0 :: a1 :: a2 :: a3 :: a4 :: a5 :: b :: r) (.int x :: st) h := by
  intro p e R s m args below meth c H locs cells slots ls F hL hc hs hR hS
  refine lv_istore (lv' := _) F.1 F.2.1 hdg hL hM rfl (fun ls1 hL1 => kk p e R s m args below meth c H locs cells slots ls1 F (xHas.s1 (i := 6) (v := .int x) hL1 ?_) hc hs hR hS)
  intro j w hj
  rcases Nat.lt_or_ge j 7 with q | q
  · match j, q, hj with
    | 0, _, hj => exact Or.inr ⟨by decide, by simpa using hj, fun z => absurd z.1 (by decide)⟩
    | 1, _, hj => exact Or.inr ⟨by decide, by simpa using hj, fun z => absurd z.1 (by decide)⟩
    | 2, _, hj => exact Or.inr ⟨by decide, by simpa using hj, fun z => absurd z.1 (by decide)⟩
    | 3, _, hj => exact Or.inr ⟨by decide, by simpa using hj, fun z => absurd z.1 (by decide)⟩
    | 4, _, hj => exact Or.inr ⟨by decide, by simpa using hj, fun z => absurd z.1 (by decide)⟩
    | 5, _, hj => simp at hj
    | 6, _, hj => exact Or.inl ⟨rfl, by simpa using hj.symm⟩
  · obtain ⟨j, rfl⟩ : ∃ z, j = z + 7 := ⟨j - 7, by omega⟩
    exact Or.inr ⟨by omega, by simpa using hj, fun z => absurd z.1 (by omega)⟩
theorem x_astore_6 {G : xG} {l : Launch} {M : xM} {d k n : Nat} {Q : xR → xH → Prop} {pc : Nat} {st : List Value} {h : xH} {a0 a1 a2 a3 a4 a5 : Option Value} {b : Option Value} {r : xLs} {x : Nat} (hdg : decode M.2.1 pc = .ok (.astore 6, 2)) (hM : 6 < M.2.2.1) (hn : xN2 a5) (kk : xF G l M d k n Q (pc + 2) (a0 :: a1 :: a2 :: a3 :: a4 :: a5 :: some (.ref x) :: r) st h) : xF G l M d k n Q pc (a0 :: a1 :: a2 :: a3 :: a4 :: a5 :: b :: r) (.ref x :: st) h := by
  intro p e R s m args below meth c H locs cells slots ls F hL hc hs hR hS
  refine lv_astore (lv' := _) F.1 F.2.1 hdg hL hM rfl (fun ls1 hL1 => kk p e R s m args below meth c H locs cells slots ls1 F (xHas.s1 (i := 6) (v := .ref x) hL1 ?_) hc hs hR hS)
  intro j w hj
  rcases Nat.lt_or_ge j 7 with q | q
  · match j, q, hj with
    | 0, _, hj => exact Or.inr ⟨by decide, by simpa using hj, fun z => absurd z.1 (by decide)⟩
    | 1, _, hj => exact Or.inr ⟨by decide, by simpa using hj, fun z => absurd z.1 (by decide)⟩
    | 2, _, hj => exact Or.inr ⟨by decide, by simpa using hj, fun z => absurd z.1 (by decide)⟩
    | 3, _, hj => exact Or.inr ⟨by decide, by simpa using hj, fun z => absurd z.1 (by decide)⟩
    | 4, _, hj => exact Or.inr ⟨by decide, by simpa using hj, fun z => absurd z.1 (by decide)⟩
    | 5, _, hj => exact Or.inr ⟨by decide, by simpa using hj, fun z => by have := hn w (by simpa using hj); omega⟩
    | 6, _, hj => exact Or.inl ⟨rfl, by simpa using hj.symm⟩
  · obtain ⟨j, rfl⟩ : ∃ z, j = z + 7 := ⟨j - 7, by omega⟩
    exact Or.inr ⟨by omega, by simpa using hj, fun z => absurd z.1 (by omega)⟩
theorem x_astoreC_6 {G : xG} {l : Launch} {M : xM} {d k n : Nat} {Q : xR → xH → Prop} {pc : Nat} {st : List Value} {h : xH} {a0 a1 a2 a3 a4 a5 : Option Value} {b : Option Value} {r : xLs} {x : Nat} (hdg : decode M.2.1 pc = .ok (.astore 6, 2)) (hM : 6 < M.2.2.1) (kk : xF G l M d k n Q (pc + 2) (a0 :: a1 :: a2 :: a3 :: a4 :: none :: some (.ref x) :: r) st h) : xF G l M d k n Q pc (a0 :: a1 :: a2 :: a3 :: a4 :: a5 :: b :: r) (.ref x :: st) h := by
  intro p e R s m args below meth c H locs cells slots ls F hL hc hs hR hS
  refine lv_astore (lv' := _) F.1 F.2.1 hdg hL hM rfl (fun ls1 hL1 => kk p e R s m args below meth c H locs cells slots ls1 F (xHas.s1 (i := 6) (v := .ref x) hL1 ?_) hc hs hR hS)
  intro j w hj
  rcases Nat.lt_or_ge j 7 with q | q
  · match j, q, hj with
    | 0, _, hj => exact Or.inr ⟨by decide, by simpa using hj, fun z => absurd z.1 (by decide)⟩
    | 1, _, hj => exact Or.inr ⟨by decide, by simpa using hj, fun z => absurd z.1 (by decide)⟩
    | 2, _, hj => exact Or.inr ⟨by decide, by simpa using hj, fun z => absurd z.1 (by decide)⟩
    | 3, _, hj => exact Or.inr ⟨by decide, by simpa using hj, fun z => absurd z.1 (by decide)⟩
    | 4, _, hj => exact Or.inr ⟨by decide, by simpa using hj, fun z => absurd z.1 (by decide)⟩
    | 5, _, hj => simp at hj
    | 6, _, hj => exact Or.inl ⟨rfl, by simpa using hj.symm⟩
  · obtain ⟨j, rfl⟩ : ∃ z, j = z + 7 := ⟨j - 7, by omega⟩
    exact Or.inr ⟨by omega, by simpa using hj, fun z => absurd z.1 (by omega)⟩
theorem x_astoreN_6 {G : xG} {l : Launch} {M : xM} {d k n : Nat} {Q : xR → xH → Prop} {pc : Nat} {st : List Value} {h : xH} {a0 a1 a2 a3 a4 a5 : Option Value} {b : Option Value} {r : xLs}  (hdg : decode M.2.1 pc = .ok (.astore 6, 2)) (hM : 6 < M.2.2.1) (hn : xN2 a5) (kk : xF G l M d k n Q (pc + 2) (a0 :: a1 :: a2 :: a3 :: a4 :: a5 :: some (.null) :: r) st h) : xF G l M d k n Q pc (a0 :: a1 :: a2 :: a3 :: a4 :: a5 :: b :: r) (.null :: st) h := by
  intro p e R s m args below meth c H locs cells slots ls F hL hc hs hR hS
  refine lv_astoreN (lv' := _) F.1 F.2.1 hdg hL hM rfl (fun ls1 hL1 => kk p e R s m args below meth c H locs cells slots ls1 F (xHas.s1 (i := 6) (v := .null) hL1 ?_) hc hs hR hS)
  intro j w hj
  rcases Nat.lt_or_ge j 7 with q | q
  · match j, q, hj with
    | 0, _, hj => exact Or.inr ⟨by decide, by simpa using hj, fun z => absurd z.1 (by decide)⟩
    | 1, _, hj => exact Or.inr ⟨by decide, by simpa using hj, fun z => absurd z.1 (by decide)⟩
    | 2, _, hj => exact Or.inr ⟨by decide, by simpa using hj, fun z => absurd z.1 (by decide)⟩
    | 3, _, hj => exact Or.inr ⟨by decide, by simpa using hj, fun z => absurd z.1 (by decide)⟩
    | 4, _, hj => exact Or.inr ⟨by decide, by simpa using hj, fun z => absurd z.1 (by decide)⟩
    | 5, _, hj => exact Or.inr ⟨by decide, by simpa using hj, fun z => by have := hn w (by simpa using hj); omega⟩
    | 6, _, hj => exact Or.inl ⟨rfl, by simpa using hj.symm⟩
  · obtain ⟨j, rfl⟩ : ∃ z, j = z + 7 := ⟨j - 7, by omega⟩
    exact Or.inr ⟨by omega, by simpa using hj, fun z => absurd z.1 (by omega)⟩
theorem x_astoreNC_6 {G : xG} {l : Launch} {M : xM} {d k n : Nat} {Q : xR → xH → Prop} {pc : Nat} {st : List Value} {h : xH} {a0 a1 a2 a3 a4 a5 : Option Value} {b : Option Value} {r : xLs}  (hdg : decode M.2.1 pc = .ok (.astore 6, 2)) (hM : 6 < M.2.2.1) (kk : xF G l M d k n Q (pc + 2) (a0 :: a1 :: a2 :: a3 :: a4 :: none :: some (.null) :: r) st h) : xF G l M d k n Q pc (a0 :: a1 :: a2 :: a3 :: a4 :: a5 :: b :: r) (.null :: st) h := by
  intro p e R s m args below meth c H locs cells slots ls F hL hc hs hR hS
  refine lv_astoreN (lv' := _) F.1 F.2.1 hdg hL hM rfl (fun ls1 hL1 => kk p e R s m args below meth c H locs cells slots ls1 F (xHas.s1 (i := 6) (v := .null) hL1 ?_) hc hs hR hS)
  intro j w hj
  rcases Nat.lt_or_ge j 7 with q | q
  · match j, q, hj with
    | 0, _, hj => exact Or.inr ⟨by decide, by simpa using hj, fun z => absurd z.1 (by decide)⟩
    | 1, _, hj => exact Or.inr ⟨by decide, by simpa using hj, fun z => absurd z.1 (by decide)⟩
    | 2, _, hj => exact Or.inr ⟨by decide, by simpa using hj, fun z => absurd z.1 (by decide)⟩
    | 3, _, hj => exact Or.inr ⟨by decide, by simpa using hj, fun z => absurd z.1 (by decide)⟩
    | 4, _, hj => exact Or.inr ⟨by decide, by simpa using hj, fun z => absurd z.1 (by decide)⟩
    | 5, _, hj => simp at hj
    | 6, _, hj => exact Or.inl ⟨rfl, by simpa using hj.symm⟩
  · obtain ⟨j, rfl⟩ : ∃ z, j = z + 7 := ⟨j - 7, by omega⟩
    exact Or.inr ⟨by omega, by simpa using hj, fun z => absurd z.1 (by omega)⟩
theorem x_lstore_6 {G : xG} {l : Launch} {M : xM} {d k n : Nat} {Q : xR → xH → Prop} {pc : Nat} {st : List Value} {h : xH} {a0 a1 a2 a3 a4 a5 : Option Value} {b b2 : Option Value} {r : xLs} {x : Int64} (hdg : decode M.2.1 pc = .ok (.lstore 6, 2)) (hM : 6 + 1 < M.2.2.1) (hn : xN2 a5) (kk : xF G l M d k n Q (pc + 2) (a0 :: a1 :: a2 :: a3 :: a4 :: a5 :: some (.long x) :: none :: r) st h) : xF G l M d k n Q pc (a0 :: a1 :: a2 :: a3 :: a4 :: a5 :: b :: b2 :: r) (.long x :: st) h := by
  intro p e R s m args below meth c H locs cells slots ls F hL hc hs hR hS
  refine lv_lstore (lv' := _) F.1 F.2.1 hdg hL hM rfl (fun ls1 hL1 => kk p e R s m args below meth c H locs cells slots ls1 F (xHas.s2 (i := 6) (v := .long x) hL1 ?_) hc hs hR hS)
  intro j w hj
  rcases Nat.lt_or_ge j 8 with q | q
  · match j, q, hj with
    | 0, _, hj => exact Or.inr ⟨by decide, by decide, by simpa using hj, fun z => absurd z.1 (by decide)⟩
    | 1, _, hj => exact Or.inr ⟨by decide, by decide, by simpa using hj, fun z => absurd z.1 (by decide)⟩
    | 2, _, hj => exact Or.inr ⟨by decide, by decide, by simpa using hj, fun z => absurd z.1 (by decide)⟩
    | 3, _, hj => exact Or.inr ⟨by decide, by decide, by simpa using hj, fun z => absurd z.1 (by decide)⟩
    | 4, _, hj => exact Or.inr ⟨by decide, by decide, by simpa using hj, fun z => absurd z.1 (by decide)⟩
    | 5, _, hj => exact Or.inr ⟨by decide, by decide, by simpa using hj, fun z => by have := hn w (by simpa using hj); omega⟩
    | 6, _, hj => exact Or.inl ⟨rfl, by simpa using hj.symm⟩
    | 7, _, hj => simp at hj
  · obtain ⟨j, rfl⟩ : ∃ z, j = z + 8 := ⟨j - 8, by omega⟩
    exact Or.inr ⟨by omega, by omega, by simpa using hj, fun z => absurd z.1 (by omega)⟩
theorem x_lstoreC_6 {G : xG} {l : Launch} {M : xM} {d k n : Nat} {Q : xR → xH → Prop} {pc : Nat} {st : List Value} {h : xH} {a0 a1 a2 a3 a4 a5 : Option Value} {b b2 : Option Value} {r : xLs} {x : Int64} (hdg : decode M.2.1 pc = .ok (.lstore 6, 2)) (hM : 6 + 1 < M.2.2.1) (kk : xF G l M d k n Q (pc + 2) (a0 :: a1 :: a2 :: a3 :: a4 :: none :: some (.long x) :: none :: r) st h) : xF G l M d k n Q pc (a0 :: a1 :: a2 :: a3 :: a4 :: a5 :: b :: b2 :: r) (.long x :: st) h := by
  intro p e R s m args below meth c H locs cells slots ls F hL hc hs hR hS
  refine lv_lstore (lv' := _) F.1 F.2.1 hdg hL hM rfl (fun ls1 hL1 => kk p e R s m args below meth c H locs cells slots ls1 F (xHas.s2 (i := 6) (v := .long x) hL1 ?_) hc hs hR hS)
  intro j w hj
  rcases Nat.lt_or_ge j 8 with q | q
  · match j, q, hj with
    | 0, _, hj => exact Or.inr ⟨by decide, by decide, by simpa using hj, fun z => absurd z.1 (by decide)⟩
    | 1, _, hj => exact Or.inr ⟨by decide, by decide, by simpa using hj, fun z => absurd z.1 (by decide)⟩
    | 2, _, hj => exact Or.inr ⟨by decide, by decide, by simpa using hj, fun z => absurd z.1 (by decide)⟩
    | 3, _, hj => exact Or.inr ⟨by decide, by decide, by simpa using hj, fun z => absurd z.1 (by decide)⟩
    | 4, _, hj => exact Or.inr ⟨by decide, by decide, by simpa using hj, fun z => absurd z.1 (by decide)⟩
    | 5, _, hj => simp at hj
    | 6, _, hj => exact Or.inl ⟨rfl, by simpa using hj.symm⟩
    | 7, _, hj => simp at hj
  · obtain ⟨j, rfl⟩ : ∃ z, j = z + 8 := ⟨j - 8, by omega⟩
    exact Or.inr ⟨by omega, by omega, by simpa using hj, fun z => absurd z.1 (by omega)⟩
theorem x_iinc_6 {G : xG} {l : Launch} {M : xM} {d k n : Nat} {Q : xR → xH → Prop} {pc : Nat} {st : List Value} {h : xH} {a0 a1 a2 a3 a4 a5 : Option Value} {r : xLs} {x v : Int32} {z : Int} (hdg : decode M.2.1 pc = .ok (.iinc 6 z, 3)) (hv : (Int32.ofInt z) = v) (hM : 6 < M.2.2.1) (hn : xN2 a5) (kk : xF G l M d k n Q (pc + 3) (a0 :: a1 :: a2 :: a3 :: a4 :: a5 :: some (.int (x + v)) :: r) st h) : xF G l M d k n Q pc (a0 :: a1 :: a2 :: a3 :: a4 :: a5 :: some (.int x) :: r) st h := by
  intro p e R s m args below meth c H locs cells slots ls F hL hc hs hR hS
  refine x_iincA F hL (i := 6) rfl hdg hv hM (fun ls1 hL1 => kk p e R s m args below meth c H locs cells slots ls1 F (xHas.s1 (i := 6) (v := .int (x + v)) hL1 ?_) hc hs hR hS)
  intro j w hj
  rcases Nat.lt_or_ge j 7 with q | q
  · match j, q, hj with
    | 0, _, hj => exact Or.inr ⟨by decide, by simpa using hj, fun z => absurd z.1 (by decide)⟩
    | 1, _, hj => exact Or.inr ⟨by decide, by simpa using hj, fun z => absurd z.1 (by decide)⟩
    | 2, _, hj => exact Or.inr ⟨by decide, by simpa using hj, fun z => absurd z.1 (by decide)⟩
    | 3, _, hj => exact Or.inr ⟨by decide, by simpa using hj, fun z => absurd z.1 (by decide)⟩
    | 4, _, hj => exact Or.inr ⟨by decide, by simpa using hj, fun z => absurd z.1 (by decide)⟩
    | 5, _, hj => exact Or.inr ⟨by decide, by simpa using hj, fun z => by have := hn w (by simpa using hj); omega⟩
    | 6, _, hj => exact Or.inl ⟨rfl, by simpa using hj.symm⟩
  · obtain ⟨j, rfl⟩ : ∃ z, j = z + 7 := ⟨j - 7, by omega⟩
    exact Or.inr ⟨by omega, by simpa using hj, fun z => absurd z.1 (by omega)⟩
theorem x_iload_7 {G : xG} {l : Launch} {M : xM} {d k n : Nat} {Q : xR → xH → Prop} {pc : Nat} {st : List Value} {h : xH} {a0 a1 a2 a3 a4 a5 a6 : Option Value} {r : xLs} {x : Int32} (hdg : decode M.2.1 pc = .ok (.iload 7, 2)) (kk : xF G l M d k n Q (pc + 2) (a0 :: a1 :: a2 :: a3 :: a4 :: a5 :: a6 :: some (.int x) :: r) (.int x :: st) h) : xF G l M d k n Q pc (a0 :: a1 :: a2 :: a3 :: a4 :: a5 :: a6 :: some (.int x) :: r) st h := by
  intro p e R s m args below meth c H locs cells slots ls F hL hc hs hR hS
  exact lv_iload F.1 F.2.1 hdg (hL.at (i := 7) rfl) (kk p e R s m args below meth c H locs cells slots ls F hL hc hs hR hS)
theorem x_lload_7 {G : xG} {l : Launch} {M : xM} {d k n : Nat} {Q : xR → xH → Prop} {pc : Nat} {st : List Value} {h : xH} {a0 a1 a2 a3 a4 a5 a6 : Option Value} {r : xLs} {x : Int64} (hdg : decode M.2.1 pc = .ok (.lload 7, 2)) (kk : xF G l M d k n Q (pc + 2) (a0 :: a1 :: a2 :: a3 :: a4 :: a5 :: a6 :: some (.long x) :: r) (.long x :: st) h) : xF G l M d k n Q pc (a0 :: a1 :: a2 :: a3 :: a4 :: a5 :: a6 :: some (.long x) :: r) st h := by
  intro p e R s m args below meth c H locs cells slots ls F hL hc hs hR hS
  exact lv_lload F.1 F.2.1 hdg (hL.at (i := 7) rfl) (kk p e R s m args below meth c H locs cells slots ls F hL hc hs hR hS)
theorem x_aload_7 {G : xG} {l : Launch} {M : xM} {d k n : Nat} {Q : xR → xH → Prop} {pc : Nat} {st : List Value} {h : xH} {a0 a1 a2 a3 a4 a5 a6 : Option Value} {r : xLs} {x : Nat} (hdg : decode M.2.1 pc = .ok (.aload 7, 2)) (kk : xF G l M d k n Q (pc + 2) (a0 :: a1 :: a2 :: a3 :: a4 :: a5 :: a6 :: some (.ref x) :: r) (.ref x :: st) h) : xF G l M d k n Q pc (a0 :: a1 :: a2 :: a3 :: a4 :: a5 :: a6 :: some (.ref x) :: r) st h := by
  intro p e R s m args below meth c H locs cells slots ls F hL hc hs hR hS
  exact lv_aload F.1 F.2.1 hdg (hL.at (i := 7) rfl) (kk p e R s m args below meth c H locs cells slots ls F hL hc hs hR hS)
theorem x_aloadN_7 {G : xG} {l : Launch} {M : xM} {d k n : Nat} {Q : xR → xH → Prop} {pc : Nat} {st : List Value} {h : xH} {a0 a1 a2 a3 a4 a5 a6 : Option Value} {r : xLs} (hdg : decode M.2.1 pc = .ok (.aload 7, 2)) (kk : xF G l M d k n Q (pc + 2) (a0 :: a1 :: a2 :: a3 :: a4 :: a5 :: a6 :: some .null :: r) (.null :: st) h) : xF G l M d k n Q pc (a0 :: a1 :: a2 :: a3 :: a4 :: a5 :: a6 :: some .null :: r) st h := by
  intro p e R s m args below meth c H locs cells slots ls F hL hc hs hR hS
  exact lv_aloadN F.1 F.2.1 hdg (hL.at (i := 7) rfl) (kk p e R s m args below meth c H locs cells slots ls F hL hc hs hR hS)
theorem x_istore_7 {G : xG} {l : Launch} {M : xM} {d k n : Nat} {Q : xR → xH → Prop} {pc : Nat} {st : List Value} {h : xH} {a0 a1 a2 a3 a4 a5 a6 : Option Value} {b : Option Value} {r : xLs} {x : Int32} (hdg : decode M.2.1 pc = .ok (.istore 7, 2)) (hM : 7 < M.2.2.1) (hn : xN2 a6) (kk : xF G l M d k n Q (pc + 2) (a0 :: a1 :: a2 :: a3 :: a4 :: a5 :: a6 :: some (.int x) :: r) st h) : xF G l M d k n Q pc (a0 :: a1 :: a2 :: a3 :: a4 :: a5 :: a6 :: b :: r) (.int x :: st) h := by
  intro p e R s m args below meth c H locs cells slots ls F hL hc hs hR hS
  refine lv_istore (lv' := _) F.1 F.2.1 hdg hL hM rfl (fun ls1 hL1 => kk p e R s m args below meth c H locs cells slots ls1 F (xHas.s1 (i := 7) (v := .int x) hL1 ?_) hc hs hR hS)
  intro j w hj
  rcases Nat.lt_or_ge j 8 with q | q
  · match j, q, hj with
    | 0, _, hj => exact Or.inr ⟨by decide, by simpa using hj, fun z => absurd z.1 (by decide)⟩
    | 1, _, hj => exact Or.inr ⟨by decide, by simpa using hj, fun z => absurd z.1 (by decide)⟩
    | 2, _, hj => exact Or.inr ⟨by decide, by simpa using hj, fun z => absurd z.1 (by decide)⟩
    | 3, _, hj => exact Or.inr ⟨by decide, by simpa using hj, fun z => absurd z.1 (by decide)⟩
    | 4, _, hj => exact Or.inr ⟨by decide, by simpa using hj, fun z => absurd z.1 (by decide)⟩
    | 5, _, hj => exact Or.inr ⟨by decide, by simpa using hj, fun z => absurd z.1 (by decide)⟩
    | 6, _, hj => exact Or.inr ⟨by decide, by simpa using hj, fun z => by have := hn w (by simpa using hj); omega⟩
    | 7, _, hj => exact Or.inl ⟨rfl, by simpa using hj.symm⟩
  · obtain ⟨j, rfl⟩ : ∃ z, j = z + 8 := ⟨j - 8, by omega⟩
    exact Or.inr ⟨by omega, by simpa using hj, fun z => absurd z.1 (by omega)⟩
theorem x_istoreC_7 {G : xG} {l : Launch} {M : xM} {d k n : Nat} {Q : xR → xH → Prop} {pc : Nat} {st : List Value} {h : xH} {a0 a1 a2 a3 a4 a5 a6 : Option Value} {b : Option Value} {r : xLs} {x : Int32} (hdg : decode M.2.1 pc = .ok (.istore 7, 2)) (hM : 7 < M.2.2.1) (kk : xF G l M d k n Q (pc + 2) (a0 :: a1 :: a2 :: a3 :: a4 :: a5 :: none :: some (.int x) :: r) st h) : xF G l M d k n Q pc (a0 :: a1 :: a2 :: a3 :: a4 :: a5 :: a6 :: b :: r) (.int x :: st) h := by
  intro p e R s m args below meth c H locs cells slots ls F hL hc hs hR hS
  refine lv_istore (lv' := _) F.1 F.2.1 hdg hL hM rfl (fun ls1 hL1 => kk p e R s m args below meth c H locs cells slots ls1 F (xHas.s1 (i := 7) (v := .int x) hL1 ?_) hc hs hR hS)
  intro j w hj
  rcases Nat.lt_or_ge j 8 with q | q
  · match j, q, hj with
    | 0, _, hj => exact Or.inr ⟨by decide, by simpa using hj, fun z => absurd z.1 (by decide)⟩
    | 1, _, hj => exact Or.inr ⟨by decide, by simpa using hj, fun z => absurd z.1 (by decide)⟩
    | 2, _, hj => exact Or.inr ⟨by decide, by simpa using hj, fun z => absurd z.1 (by decide)⟩
    | 3, _, hj => exact Or.inr ⟨by decide, by simpa using hj, fun z => absurd z.1 (by decide)⟩
    | 4, _, hj => exact Or.inr ⟨by decide, by simpa using hj, fun z => absurd z.1 (by decide)⟩
    | 5, _, hj => exact Or.inr ⟨by decide, by simpa using hj, fun z => absurd z.1 (by decide)⟩
    | 6, _, hj => simp at hj
    | 7, _, hj => exact Or.inl ⟨rfl, by simpa using hj.symm⟩
  · obtain ⟨j, rfl⟩ : ∃ z, j = z + 8 := ⟨j - 8, by omega⟩
    exact Or.inr ⟨by omega, by simpa using hj, fun z => absurd z.1 (by omega)⟩
theorem x_astore_7 {G : xG} {l : Launch} {M : xM} {d k n : Nat} {Q : xR → xH → Prop} {pc : Nat} {st : List Value} {h : xH} {a0 a1 a2 a3 a4 a5 a6 : Option Value} {b : Option Value} {r : xLs} {x : Nat} (hdg : decode M.2.1 pc = .ok (.astore 7, 2)) (hM : 7 < M.2.2.1) (hn : xN2 a6) (kk : xF G l M d k n Q (pc + 2) (a0 :: a1 :: a2 :: a3 :: a4 :: a5 :: a6 :: some (.ref x) :: r) st h) : xF G l M d k n Q pc (a0 :: a1 :: a2 :: a3 :: a4 :: a5 :: a6 :: b :: r) (.ref x :: st) h := by
  intro p e R s m args below meth c H locs cells slots ls F hL hc hs hR hS
  refine lv_astore (lv' := _) F.1 F.2.1 hdg hL hM rfl (fun ls1 hL1 => kk p e R s m args below meth c H locs cells slots ls1 F (xHas.s1 (i := 7) (v := .ref x) hL1 ?_) hc hs hR hS)
  intro j w hj
  rcases Nat.lt_or_ge j 8 with q | q
  · match j, q, hj with
    | 0, _, hj => exact Or.inr ⟨by decide, by simpa using hj, fun z => absurd z.1 (by decide)⟩
    | 1, _, hj => exact Or.inr ⟨by decide, by simpa using hj, fun z => absurd z.1 (by decide)⟩
    | 2, _, hj => exact Or.inr ⟨by decide, by simpa using hj, fun z => absurd z.1 (by decide)⟩
    | 3, _, hj => exact Or.inr ⟨by decide, by simpa using hj, fun z => absurd z.1 (by decide)⟩
    | 4, _, hj => exact Or.inr ⟨by decide, by simpa using hj, fun z => absurd z.1 (by decide)⟩
    | 5, _, hj => exact Or.inr ⟨by decide, by simpa using hj, fun z => absurd z.1 (by decide)⟩
    | 6, _, hj => exact Or.inr ⟨by decide, by simpa using hj, fun z => by have := hn w (by simpa using hj); omega⟩
    | 7, _, hj => exact Or.inl ⟨rfl, by simpa using hj.symm⟩
  · obtain ⟨j, rfl⟩ : ∃ z, j = z + 8 := ⟨j - 8, by omega⟩
    exact Or.inr ⟨by omega, by simpa using hj, fun z => absurd z.1 (by omega)⟩
theorem x_astoreC_7 {G : xG} {l : Launch} {M : xM} {d k n : Nat} {Q : xR → xH → Prop} {pc : Nat} {st : List Value} {h : xH} {a0 a1 a2 a3 a4 a5 a6 : Option Value} {b : Option Value} {r : xLs} {x : Nat} (hdg : decode M.2.1 pc = .ok (.astore 7, 2)) (hM : 7 < M.2.2.1) (kk : xF G l M d k n Q (pc + 2) (a0 :: a1 :: a2 :: a3 :: a4 :: a5 :: none :: some (.ref x) :: r) st h) : xF G l M d k n Q pc (a0 :: a1 :: a2 :: a3 :: a4 :: a5 :: a6 :: b :: r) (.ref x :: st) h := by
  intro p e R s m args below meth c H locs cells slots ls F hL hc hs hR hS
  refine lv_astore (lv' := _) F.1 F.2.1 hdg hL hM rfl (fun ls1 hL1 => kk p e R s m args below meth c H locs cells slots ls1 F (xHas.s1 (i := 7) (v := .ref x) hL1 ?_) hc hs hR hS)
  intro j w hj
  rcases Nat.lt_or_ge j 8 with q | q
  · match j, q, hj with
    | 0, _, hj => exact Or.inr ⟨by decide, by simpa using hj, fun z => absurd z.1 (by decide)⟩
    | 1, _, hj => exact Or.inr ⟨by decide, by simpa using hj, fun z => absurd z.1 (by decide)⟩
    | 2, _, hj => exact Or.inr ⟨by decide, by simpa using hj, fun z => absurd z.1 (by decide)⟩
    | 3, _, hj => exact Or.inr ⟨by decide, by simpa using hj, fun z => absurd z.1 (by decide)⟩
    | 4, _, hj => exact Or.inr ⟨by decide, by simpa using hj, fun z => absurd z.1 (by decide)⟩
    | 5, _, hj => exact Or.inr ⟨by decide, by simpa using hj, fun z => absurd z.1 (by decide)⟩
    | 6, _, hj => simp at hj
    | 7, _, hj => exact Or.inl ⟨rfl, by simpa using hj.symm⟩
  · obtain ⟨j, rfl⟩ : ∃ z, j = z + 8 := ⟨j - 8, by omega⟩
    exact Or.inr ⟨by omega, by simpa using hj, fun z => absurd z.1 (by omega)⟩
theorem x_astoreN_7 {G : xG} {l : Launch} {M : xM} {d k n : Nat} {Q : xR → xH → Prop} {pc : Nat} {st : List Value} {h : xH} {a0 a1 a2 a3 a4 a5 a6 : Option Value} {b : Option Value} {r : xLs}  (hdg : decode M.2.1 pc = .ok (.astore 7, 2)) (hM : 7 < M.2.2.1) (hn : xN2 a6) (kk : xF G l M d k n Q (pc + 2) (a0 :: a1 :: a2 :: a3 :: a4 :: a5 :: a6 :: some (.null) :: r) st h) : xF G l M d k n Q pc (a0 :: a1 :: a2 :: a3 :: a4 :: a5 :: a6 :: b :: r) (.null :: st) h := by
  intro p e R s m args below meth c H locs cells slots ls F hL hc hs hR hS
  refine lv_astoreN (lv' := _) F.1 F.2.1 hdg hL hM rfl (fun ls1 hL1 => kk p e R s m args below meth c H locs cells slots ls1 F (xHas.s1 (i := 7) (v := .null) hL1 ?_) hc hs hR hS)
  intro j w hj
  rcases Nat.lt_or_ge j 8 with q | q
  · match j, q, hj with
    | 0, _, hj => exact Or.inr ⟨by decide, by simpa using hj, fun z => absurd z.1 (by decide)⟩
    | 1, _, hj => exact Or.inr ⟨by decide, by simpa using hj, fun z => absurd z.1 (by decide)⟩
    | 2, _, hj => exact Or.inr ⟨by decide, by simpa using hj, fun z => absurd z.1 (by decide)⟩
    | 3, _, hj => exact Or.inr ⟨by decide, by simpa using hj, fun z => absurd z.1 (by decide)⟩
    | 4, _, hj => exact Or.inr ⟨by decide, by simpa using hj, fun z => absurd z.1 (by decide)⟩
    | 5, _, hj => exact Or.inr ⟨by decide, by simpa using hj, fun z => absurd z.1 (by decide)⟩
    | 6, _, hj => exact Or.inr ⟨by decide, by simpa using hj, fun z => by have := hn w (by simpa using hj); omega⟩
    | 7, _, hj => exact Or.inl ⟨rfl, by simpa using hj.symm⟩
  · obtain ⟨j, rfl⟩ : ∃ z, j = z + 8 := ⟨j - 8, by omega⟩
    exact Or.inr ⟨by omega, by simpa using hj, fun z => absurd z.1 (by omega)⟩
theorem x_astoreNC_7 {G : xG} {l : Launch} {M : xM} {d k n : Nat} {Q : xR → xH → Prop} {pc : Nat} {st : List Value} {h : xH} {a0 a1 a2 a3 a4 a5 a6 : Option Value} {b : Option Value} {r : xLs}  (hdg : decode M.2.1 pc = .ok (.astore 7, 2)) (hM : 7 < M.2.2.1) (kk : xF G l M d k n Q (pc + 2) (a0 :: a1 :: a2 :: a3 :: a4 :: a5 :: none :: some (.null) :: r) st h) : xF G l M d k n Q pc (a0 :: a1 :: a2 :: a3 :: a4 :: a5 :: a6 :: b :: r) (.null :: st) h := by
  intro p e R s m args below meth c H locs cells slots ls F hL hc hs hR hS
  refine lv_astoreN (lv' := _) F.1 F.2.1 hdg hL hM rfl (fun ls1 hL1 => kk p e R s m args below meth c H locs cells slots ls1 F (xHas.s1 (i := 7) (v := .null) hL1 ?_) hc hs hR hS)
  intro j w hj
  rcases Nat.lt_or_ge j 8 with q | q
  · match j, q, hj with
    | 0, _, hj => exact Or.inr ⟨by decide, by simpa using hj, fun z => absurd z.1 (by decide)⟩
    | 1, _, hj => exact Or.inr ⟨by decide, by simpa using hj, fun z => absurd z.1 (by decide)⟩
    | 2, _, hj => exact Or.inr ⟨by decide, by simpa using hj, fun z => absurd z.1 (by decide)⟩
    | 3, _, hj => exact Or.inr ⟨by decide, by simpa using hj, fun z => absurd z.1 (by decide)⟩
    | 4, _, hj => exact Or.inr ⟨by decide, by simpa using hj, fun z => absurd z.1 (by decide)⟩
    | 5, _, hj => exact Or.inr ⟨by decide, by simpa using hj, fun z => absurd z.1 (by decide)⟩
    | 6, _, hj => simp at hj
    | 7, _, hj => exact Or.inl ⟨rfl, by simpa using hj.symm⟩
  · obtain ⟨j, rfl⟩ : ∃ z, j = z + 8 := ⟨j - 8, by omega⟩
    exact Or.inr ⟨by omega, by simpa using hj, fun z => absurd z.1 (by omega)⟩
theorem x_lstore_7 {G : xG} {l : Launch} {M : xM} {d k n : Nat} {Q : xR → xH → Prop} {pc : Nat} {st : List Value} {h : xH} {a0 a1 a2 a3 a4 a5 a6 : Option Value} {b b2 : Option Value} {r : xLs} {x : Int64} (hdg : decode M.2.1 pc = .ok (.lstore 7, 2)) (hM : 7 + 1 < M.2.2.1) (hn : xN2 a6) (kk : xF G l M d k n Q (pc + 2) (a0 :: a1 :: a2 :: a3 :: a4 :: a5 :: a6 :: some (.long x) :: none :: r) st h) : xF G l M d k n Q pc (a0 :: a1 :: a2 :: a3 :: a4 :: a5 :: a6 :: b :: b2 :: r) (.long x :: st) h := by
  intro p e R s m args below meth c H locs cells slots ls F hL hc hs hR hS
  refine lv_lstore (lv' := _) F.1 F.2.1 hdg hL hM rfl (fun ls1 hL1 => kk p e R s m args below meth c H locs cells slots ls1 F (xHas.s2 (i := 7) (v := .long x) hL1 ?_) hc hs hR hS)
  intro j w hj
  rcases Nat.lt_or_ge j 9 with q | q
  · match j, q, hj with
    | 0, _, hj => exact Or.inr ⟨by decide, by decide, by simpa using hj, fun z => absurd z.1 (by decide)⟩
    | 1, _, hj => exact Or.inr ⟨by decide, by decide, by simpa using hj, fun z => absurd z.1 (by decide)⟩
    | 2, _, hj => exact Or.inr ⟨by decide, by decide, by simpa using hj, fun z => absurd z.1 (by decide)⟩
    | 3, _, hj => exact Or.inr ⟨by decide, by decide, by simpa using hj, fun z => absurd z.1 (by decide)⟩
    | 4, _, hj => exact Or.inr ⟨by decide, by decide, by simpa using hj, fun z => absurd z.1 (by decide)⟩
    | 5, _, hj => exact Or.inr ⟨by decide, by decide, by simpa using hj, fun z => absurd z.1 (by decide)⟩
    | 6, _, hj => exact Or.inr ⟨by decide, by decide, by simpa using hj, fun z => by have := hn w (by simpa using hj); omega⟩
    | 7, _, hj => exact Or.inl ⟨rfl, by simpa using hj.symm⟩
    | 8, _, hj => simp at hj
  · obtain ⟨j, rfl⟩ : ∃ z, j = z + 9 := ⟨j - 9, by omega⟩
    exact Or.inr ⟨by omega, by omega, by simpa using hj, fun z => absurd z.1 (by omega)⟩
theorem x_lstoreC_7 {G : xG} {l : Launch} {M : xM} {d k n : Nat} {Q : xR → xH → Prop} {pc : Nat} {st : List Value} {h : xH} {a0 a1 a2 a3 a4 a5 a6 : Option Value} {b b2 : Option Value} {r : xLs} {x : Int64} (hdg : decode M.2.1 pc = .ok (.lstore 7, 2)) (hM : 7 + 1 < M.2.2.1) (kk : xF G l M d k n Q (pc + 2) (a0 :: a1 :: a2 :: a3 :: a4 :: a5 :: none :: some (.long x) :: none :: r) st h) : xF G l M d k n Q pc (a0 :: a1 :: a2 :: a3 :: a4 :: a5 :: a6 :: b :: b2 :: r) (.long x :: st) h := by
  intro p e R s m args below meth c H locs cells slots ls F hL hc hs hR hS
  refine lv_lstore (lv' := _) F.1 F.2.1 hdg hL hM rfl (fun ls1 hL1 => kk p e R s m args below meth c H locs cells slots ls1 F (xHas.s2 (i := 7) (v := .long x) hL1 ?_) hc hs hR hS)
  intro j w hj
  rcases Nat.lt_or_ge j 9 with q | q
  · match j, q, hj with
    | 0, _, hj => exact Or.inr ⟨by decide, by decide, by simpa using hj, fun z => absurd z.1 (by decide)⟩
    | 1, _, hj => exact Or.inr ⟨by decide, by decide, by simpa using hj, fun z => absurd z.1 (by decide)⟩
    | 2, _, hj => exact Or.inr ⟨by decide, by decide, by simpa using hj, fun z => absurd z.1 (by decide)⟩
    | 3, _, hj => exact Or.inr ⟨by decide, by decide, by simpa using hj, fun z => absurd z.1 (by decide)⟩
    | 4, _, hj => exact Or.inr ⟨by decide, by decide, by simpa using hj, fun z => absurd z.1 (by decide)⟩
    | 5, _, hj => exact Or.inr ⟨by decide, by decide, by simpa using hj, fun z => absurd z.1 (by decide)⟩
    | 6, _, hj => simp at hj
    | 7, _, hj => exact Or.inl ⟨rfl, by simpa using hj.symm⟩
    | 8, _, hj => simp at hj
  · obtain ⟨j, rfl⟩ : ∃ z, j = z + 9 := ⟨j - 9, by omega⟩
    exact Or.inr ⟨by omega, by omega, by simpa using hj, fun z => absurd z.1 (by omega)⟩
theorem x_iinc_7 {G : xG} {l : Launch} {M : xM} {d k n : Nat} {Q : xR → xH → Prop} {pc : Nat} {st : List Value} {h : xH} {a0 a1 a2 a3 a4 a5 a6 : Option Value} {r : xLs} {x v : Int32} {z : Int} (hdg : decode M.2.1 pc = .ok (.iinc 7 z, 3)) (hv : (Int32.ofInt z) = v) (hM : 7 < M.2.2.1) (hn : xN2 a6) (kk : xF G l M d k n Q (pc + 3) (a0 :: a1 :: a2 :: a3 :: a4 :: a5 :: a6 :: some (.int (x + v)) :: r) st h) : xF G l M d k n Q pc (a0 :: a1 :: a2 :: a3 :: a4 :: a5 :: a6 :: some (.int x) :: r) st h := by
  intro p e R s m args below meth c H locs cells slots ls F hL hc hs hR hS
  refine x_iincA F hL (i := 7) rfl hdg hv hM (fun ls1 hL1 => kk p e R s m args below meth c H locs cells slots ls1 F (xHas.s1 (i := 7) (v := .int (x + v)) hL1 ?_) hc hs hR hS)
  intro j w hj
  rcases Nat.lt_or_ge j 8 with q | q
  · match j, q, hj with
    | 0, _, hj => exact Or.inr ⟨by decide, by simpa using hj, fun z => absurd z.1 (by decide)⟩
    | 1, _, hj => exact Or.inr ⟨by decide, by simpa using hj, fun z => absurd z.1 (by decide)⟩
    | 2, _, hj => exact Or.inr ⟨by decide, by simpa using hj, fun z => absurd z.1 (by decide)⟩
    | 3, _, hj => exact Or.inr ⟨by decide, by simpa using hj, fun z => absurd z.1 (by decide)⟩
    | 4, _, hj => exact Or.inr ⟨by decide, by simpa using hj, fun z => absurd z.1 (by decide)⟩
    | 5, _, hj => exact Or.inr ⟨by decide, by simpa using hj, fun z => absurd z.1 (by decide)⟩
    | 6, _, hj => exact Or.inr ⟨by decide, by simpa using hj, fun z => by have := hn w (by simpa using hj); omega⟩
    | 7, _, hj => exact Or.inl ⟨rfl, by simpa using hj.symm⟩
  · obtain ⟨j, rfl⟩ : ∃ z, j = z + 8 := ⟨j - 8, by omega⟩
    exact Or.inr ⟨by omega, by simpa using hj, fun z => absurd z.1 (by omega)⟩
theorem x_iload_8 {G : xG} {l : Launch} {M : xM} {d k n : Nat} {Q : xR → xH → Prop} {pc : Nat} {st : List Value} {h : xH} {a0 a1 a2 a3 a4 a5 a6 a7 : Option Value} {r : xLs} {x : Int32} (hdg : decode M.2.1 pc = .ok (.iload 8, 2)) (kk : xF G l M d k n Q (pc + 2) (a0 :: a1 :: a2 :: a3 :: a4 :: a5 :: a6 :: a7 :: some (.int x) :: r) (.int x :: st) h) : xF G l M d k n Q pc (a0 :: a1 :: a2 :: a3 :: a4 :: a5 :: a6 :: a7 :: some (.int x) :: r) st h := by
  intro p e R s m args below meth c H locs cells slots ls F hL hc hs hR hS
  exact lv_iload F.1 F.2.1 hdg (hL.at (i := 8) rfl) (kk p e R s m args below meth c H locs cells slots ls F hL hc hs hR hS)
theorem x_lload_8 {G : xG} {l : Launch} {M : xM} {d k n : Nat} {Q : xR → xH → Prop} {pc : Nat} {st : List Value} {h : xH} {a0 a1 a2 a3 a4 a5 a6 a7 : Option Value} {r : xLs} {x : Int64} (hdg : decode M.2.1 pc = .ok (.lload 8, 2)) (kk : xF G l M d k n Q (pc + 2) (a0 :: a1 :: a2 :: a3 :: a4 :: a5 :: a6 :: a7 :: some (.long x) :: r) (.long x :: st) h) : xF G l M d k n Q pc (a0 :: a1 :: a2 :: a3 :: a4 :: a5 :: a6 :: a7 :: some (.long x) :: r) st h := by
  intro p e R s m args below meth c H locs cells slots ls F hL hc hs hR hS
  exact lv_lload F.1 F.2.1 hdg (hL.at (i := 8) rfl) (kk p e R s m args below meth c H locs cells slots ls F hL hc hs hR hS)
theorem x_aload_8 {G : xG} {l : Launch} {M : xM} {d k n : Nat} {Q : xR → xH → Prop} {pc : Nat} {st : List Value} {h : xH} {a0 a1 a2 a3 a4 a5 a6 a7 : Option Value} {r : xLs} {x : Nat} (hdg : decode M.2.1 pc = .ok (.aload 8, 2)) (kk : xF G l M d k n Q (pc + 2) (a0 :: a1 :: a2 :: a3 :: a4 :: a5 :: a6 :: a7 :: some (.ref x) :: r) (.ref x :: st) h) : xF G l M d k n Q pc (a0 :: a1 :: a2 :: a3 :: a4 :: a5 :: a6 :: a7 :: some (.ref x) :: r) st h := by
  intro p e R s m args below meth c H locs cells slots ls F hL hc hs hR hS
  exact lv_aload F.1 F.2.1 hdg (hL.at (i := 8) rfl) (kk p e R s m args below meth c H locs cells slots ls F hL hc hs hR hS)
theorem x_aloadN_8 {G : xG} {l : Launch} {M : xM} {d k n : Nat} {Q : xR → xH → Prop} {pc : Nat} {st : List Value} {h : xH} {a0 a1 a2 a3 a4 a5 a6 a7 : Option Value} {r : xLs} (hdg : decode M.2.1 pc = .ok (.aload 8, 2)) (kk : xF G l M d k n Q (pc + 2) (a0 :: a1 :: a2 :: a3 :: a4 :: a5 :: a6 :: a7 :: some .null :: r) (.null :: st) h) : xF G l M d k n Q pc (a0 :: a1 :: a2 :: a3 :: a4 :: a5 :: a6 :: a7 :: some .null :: r) st h := by
  intro p e R s m args below meth c H locs cells slots ls F hL hc hs hR hS
  exact lv_aloadN F.1 F.2.1 hdg (hL.at (i := 8) rfl) (kk p e R s m args below meth c H locs cells slots ls F hL hc hs hR hS)
theorem x_istore_8 {G : xG} {l : Launch} {M : xM} {d k n : Nat} {Q : xR → xH → Prop} {pc : Nat} {st : List Value} {h : xH} {a0 a1 a2 a3 a4 a5 a6 a7 : Option Value} {b : Option Value} {r : xLs} {x : Int32} (hdg : decode M.2.1 pc = .ok (.istore 8, 2)) (hM : 8 < M.2.2.1) (hn : xN2 a7) (kk : xF G l M d k n Q (pc + 2) (a0 :: a1 :: a2 :: a3 :: a4 :: a5 :: a6 :: a7 :: some (.int x) :: r) st h) : xF G l M d k n Q pc (a0 :: a1 :: a2 :: a3 :: a4 :: a5 :: a6 :: a7 :: b :: r) (.int x :: st) h := by
  intro p e R s m args below meth c H locs cells slots ls F hL hc hs hR hS
  refine lv_istore (lv' := _) F.1 F.2.1 hdg hL hM rfl (fun ls1 hL1 => kk p e R s m args below meth c H locs cells slots ls1 F (xHas.s1 (i := 8) (v := .int x) hL1 ?_) hc hs hR hS)
  intro j w hj
  rcases Nat.lt_or_ge j 9 with q | q
  · match j, q, hj with
    | 0, _, hj => exact Or.inr ⟨by decide, by simpa using hj, fun z => absurd z.1 (by decide)⟩
    | 1, _, hj => exact Or.inr ⟨by decide, by simpa using hj, fun z => absurd z.1 (by decide)⟩
    | 2, _, hj => exact Or.inr ⟨by decide, by simpa using hj, fun z => absurd z.1 (by decide)⟩
    | 3, _, hj => exact Or.inr ⟨by decide, by simpa using hj, fun z => absurd z.1 (by decide)⟩
    | 4, _, hj => exact Or.inr ⟨by decide, by simpa using hj, fun z => absurd z.1 (by decide)⟩
    | 5, _, hj => exact Or.inr ⟨by decide, by simpa using hj, fun z => absurd z.1 (by decide)⟩
    | 6, _, hj => exact Or.inr ⟨by decide, by simpa using hj, fun z => absurd z.1 (by decide)⟩
    | 7, _, hj => exact Or.inr ⟨by decide, by simpa using hj, fun z => by have := hn w (by simpa using hj); omega⟩
    | 8, _, hj => exact Or.inl ⟨rfl, by simpa using hj.symm⟩
  · obtain ⟨j, rfl⟩ : ∃ z, j = z + 9 := ⟨j - 9, by omega⟩
    exact Or.inr ⟨by omega, by simpa using hj, fun z => absurd z.1 (by omega)⟩
theorem x_istoreC_8 {G : xG} {l : Launch} {M : xM} {d k n : Nat} {Q : xR → xH → Prop} {pc : Nat} {st : List Value} {h : xH} {a0 a1 a2 a3 a4 a5 a6 a7 : Option Value} {b : Option Value} {r : xLs} {x : Int32} (hdg : decode M.2.1 pc = .ok (.istore 8, 2)) (hM : 8 < M.2.2.1) (kk : xF G l M d k n Q (pc + 2) (a0 :: a1 :: a2 :: a3 :: a4 :: a5 :: a6 :: none :: some (.int x) :: r) st h) : xF G l M d k n Q pc (a0 :: a1 :: a2 :: a3 :: a4 :: a5 :: a6 :: a7 :: b :: r) (.int x :: st) h := by
  intro p e R s m args below meth c H locs cells slots ls F hL hc hs hR hS
  refine lv_istore (lv' := _) F.1 F.2.1 hdg hL hM rfl (fun ls1 hL1 => kk p e R s m args below meth c H locs cells slots ls1 F (xHas.s1 (i := 8) (v := .int x) hL1 ?_) hc hs hR hS)
  intro j w hj
  rcases Nat.lt_or_ge j 9 with q | q
  · match j, q, hj with
    | 0, _, hj => exact Or.inr ⟨by decide, by simpa using hj, fun z => absurd z.1 (by decide)⟩
    | 1, _, hj => exact Or.inr ⟨by decide, by simpa using hj, fun z => absurd z.1 (by decide)⟩
    | 2, _, hj => exact Or.inr ⟨by decide, by simpa using hj, fun z => absurd z.1 (by decide)⟩
    | 3, _, hj => exact Or.inr ⟨by decide, by simpa using hj, fun z => absurd z.1 (by decide)⟩
    | 4, _, hj => exact Or.inr ⟨by decide, by simpa using hj, fun z => absurd z.1 (by decide)⟩
    | 5, _, hj => exact Or.inr ⟨by decide, by simpa using hj, fun z => absurd z.1 (by decide)⟩
    | 6, _, hj => exact Or.inr ⟨by decide, by simpa using hj, fun z => absurd z.1 (by decide)⟩
    | 7, _, hj => simp at hj
    | 8, _, hj => exact Or.inl ⟨rfl, by simpa using hj.symm⟩
  · obtain ⟨j, rfl⟩ : ∃ z, j = z + 9 := ⟨j - 9, by omega⟩
    exact Or.inr ⟨by omega, by simpa using hj, fun z => absurd z.1 (by omega)⟩
theorem x_astore_8 {G : xG} {l : Launch} {M : xM} {d k n : Nat} {Q : xR → xH → Prop} {pc : Nat} {st : List Value} {h : xH} {a0 a1 a2 a3 a4 a5 a6 a7 : Option Value} {b : Option Value} {r : xLs} {x : Nat} (hdg : decode M.2.1 pc = .ok (.astore 8, 2)) (hM : 8 < M.2.2.1) (hn : xN2 a7) (kk : xF G l M d k n Q (pc + 2) (a0 :: a1 :: a2 :: a3 :: a4 :: a5 :: a6 :: a7 :: some (.ref x) :: r) st h) : xF G l M d k n Q pc (a0 :: a1 :: a2 :: a3 :: a4 :: a5 :: a6 :: a7 :: b :: r) (.ref x :: st) h := by
  intro p e R s m args below meth c H locs cells slots ls F hL hc hs hR hS
  refine lv_astore (lv' := _) F.1 F.2.1 hdg hL hM rfl (fun ls1 hL1 => kk p e R s m args below meth c H locs cells slots ls1 F (xHas.s1 (i := 8) (v := .ref x) hL1 ?_) hc hs hR hS)
  intro j w hj
  rcases Nat.lt_or_ge j 9 with q | q
  · match j, q, hj with
    | 0, _, hj => exact Or.inr ⟨by decide, by simpa using hj, fun z => absurd z.1 (by decide)⟩
    | 1, _, hj => exact Or.inr ⟨by decide, by simpa using hj, fun z => absurd z.1 (by decide)⟩
    | 2, _, hj => exact Or.inr ⟨by decide, by simpa using hj, fun z => absurd z.1 (by decide)⟩
    | 3, _, hj => exact Or.inr ⟨by decide, by simpa using hj, fun z => absurd z.1 (by decide)⟩
    | 4, _, hj => exact Or.inr ⟨by decide, by simpa using hj, fun z => absurd z.1 (by decide)⟩
    | 5, _, hj => exact Or.inr ⟨by decide, by simpa using hj, fun z => absurd z.1 (by decide)⟩
    | 6, _, hj => exact Or.inr ⟨by decide, by simpa using hj, fun z => absurd z.1 (by decide)⟩
    | 7, _, hj => exact Or.inr ⟨by decide, by simpa using hj, fun z => by have := hn w (by simpa using hj); omega⟩
    | 8, _, hj => exact Or.inl ⟨rfl, by simpa using hj.symm⟩
  · obtain ⟨j, rfl⟩ : ∃ z, j = z + 9 := ⟨j - 9, by omega⟩
    exact Or.inr ⟨by omega, by simpa using hj, fun z => absurd z.1 (by omega)⟩
theorem x_astoreC_8 {G : xG} {l : Launch} {M : xM} {d k n : Nat} {Q : xR → xH → Prop} {pc : Nat} {st : List Value} {h : xH} {a0 a1 a2 a3 a4 a5 a6 a7 : Option Value} {b : Option Value} {r : xLs} {x : Nat} (hdg : decode M.2.1 pc = .ok (.astore 8, 2)) (hM : 8 < M.2.2.1) (kk : xF G l M d k n Q (pc + 2) (a0 :: a1 :: a2 :: a3 :: a4 :: a5 :: a6 :: none :: some (.ref x) :: r) st h) : xF G l M d k n Q pc (a0 :: a1 :: a2 :: a3 :: a4 :: a5 :: a6 :: a7 :: b :: r) (.ref x :: st) h := by
  intro p e R s m args below meth c H locs cells slots ls F hL hc hs hR hS
  refine lv_astore (lv' := _) F.1 F.2.1 hdg hL hM rfl (fun ls1 hL1 => kk p e R s m args below meth c H locs cells slots ls1 F (xHas.s1 (i := 8) (v := .ref x) hL1 ?_) hc hs hR hS)
  intro j w hj
  rcases Nat.lt_or_ge j 9 with q | q
  · match j, q, hj with
    | 0, _, hj => exact Or.inr ⟨by decide, by simpa using hj, fun z => absurd z.1 (by decide)⟩
    | 1, _, hj => exact Or.inr ⟨by decide, by simpa using hj, fun z => absurd z.1 (by decide)⟩
    | 2, _, hj => exact Or.inr ⟨by decide, by simpa using hj, fun z => absurd z.1 (by decide)⟩
    | 3, _, hj => exact Or.inr ⟨by decide, by simpa using hj, fun z => absurd z.1 (by decide)⟩
    | 4, _, hj => exact Or.inr ⟨by decide, by simpa using hj, fun z => absurd z.1 (by decide)⟩
    | 5, _, hj => exact Or.inr ⟨by decide, by simpa using hj, fun z => absurd z.1 (by decide)⟩
    | 6, _, hj => exact Or.inr ⟨by decide, by simpa using hj, fun z => absurd z.1 (by decide)⟩
    | 7, _, hj => simp at hj
    | 8, _, hj => exact Or.inl ⟨rfl, by simpa using hj.symm⟩
  · obtain ⟨j, rfl⟩ : ∃ z, j = z + 9 := ⟨j - 9, by omega⟩
    exact Or.inr ⟨by omega, by simpa using hj, fun z => absurd z.1 (by omega)⟩
theorem x_astoreN_8 {G : xG} {l : Launch} {M : xM} {d k n : Nat} {Q : xR → xH → Prop} {pc : Nat} {st : List Value} {h : xH} {a0 a1 a2 a3 a4 a5 a6 a7 : Option Value} {b : Option Value} {r : xLs}  (hdg : decode M.2.1 pc = .ok (.astore 8, 2)) (hM : 8 < M.2.2.1) (hn : xN2 a7) (kk : xF G l M d k n Q (pc + 2) (a0 :: a1 :: a2 :: a3 :: a4 :: a5 :: a6 :: a7 :: some (.null) :: r) st h) : xF G l M d k n Q pc (a0 :: a1 :: a2 :: a3 :: a4 :: a5 :: a6 :: a7 :: b :: r) (.null :: st) h := by
  intro p e R s m args below meth c H locs cells slots ls F hL hc hs hR hS
  refine lv_astoreN (lv' := _) F.1 F.2.1 hdg hL hM rfl (fun ls1 hL1 => kk p e R s m args below meth c H locs cells slots ls1 F (xHas.s1 (i := 8) (v := .null) hL1 ?_) hc hs hR hS)
  intro j w hj
  rcases Nat.lt_or_ge j 9 with q | q
  · match j, q, hj with
    | 0, _, hj => exact Or.inr ⟨by decide, by simpa using hj, fun z => absurd z.1 (by decide)⟩
    | 1, _, hj => exact Or.inr ⟨by decide, by simpa using hj, fun z => absurd z.1 (by decide)⟩
    | 2, _, hj => exact Or.inr ⟨by decide, by simpa using hj, fun z => absurd z.1 (by decide)⟩
    | 3, _, hj => exact Or.inr ⟨by decide, by simpa using hj, fun z => absurd z.1 (by decide)⟩
    | 4, _, hj => exact Or.inr ⟨by decide, by simpa using hj, fun z => absurd z.1 (by decide)⟩
    | 5, _, hj => exact Or.inr ⟨by decide, by simpa using hj, fun z => absurd z.1 (by decide)⟩
    | 6, _, hj => exact Or.inr ⟨by decide, by simpa using hj, fun z => absurd z.1 (by decide)⟩
    | 7, _, hj => exact Or.inr ⟨by decide, by simpa using hj, fun z => by have := hn w (by simpa using hj); omega⟩
    | 8, _, hj => exact Or.inl ⟨rfl, by simpa using hj.symm⟩
  · obtain ⟨j, rfl⟩ : ∃ z, j = z + 9 := ⟨j - 9, by omega⟩
    exact Or.inr ⟨by omega, by simpa using hj, fun z => absurd z.1 (by omega)⟩
theorem x_astoreNC_8 {G : xG} {l : Launch} {M : xM} {d k n : Nat} {Q : xR → xH → Prop} {pc : Nat} {st : List Value} {h : xH} {a0 a1 a2 a3 a4 a5 a6 a7 : Option Value} {b : Option Value} {r : xLs}  (hdg : decode M.2.1 pc = .ok (.astore 8, 2)) (hM : 8 < M.2.2.1) (kk : xF G l M d k n Q (pc + 2) (a0 :: a1 :: a2 :: a3 :: a4 :: a5 :: a6 :: none :: some (.null) :: r) st h) : xF G l M d k n Q pc (a0 :: a1 :: a2 :: a3 :: a4 :: a5 :: a6 :: a7 :: b :: r) (.null :: st) h := by
  intro p e R s m args below meth c H locs cells slots ls F hL hc hs hR hS
  refine lv_astoreN (lv' := _) F.1 F.2.1 hdg hL hM rfl (fun ls1 hL1 => kk p e R s m args below meth c H locs cells slots ls1 F (xHas.s1 (i := 8) (v := .null) hL1 ?_) hc hs hR hS)
  intro j w hj
  rcases Nat.lt_or_ge j 9 with q | q
  · match j, q, hj with
    | 0, _, hj => exact Or.inr ⟨by decide, by simpa using hj, fun z => absurd z.1 (by decide)⟩
    | 1, _, hj => exact Or.inr ⟨by decide, by simpa using hj, fun z => absurd z.1 (by decide)⟩
    | 2, _, hj => exact Or.inr ⟨by decide, by simpa using hj, fun z => absurd z.1 (by decide)⟩
    | 3, _, hj => exact Or.inr ⟨by decide, by simpa using hj, fun z => absurd z.1 (by decide)⟩
    | 4, _, hj => exact Or.inr ⟨by decide, by simpa using hj, fun z => absurd z.1 (by decide)⟩
    | 5, _, hj => exact Or.inr ⟨by decide, by simpa using hj, fun z => absurd z.1 (by decide)⟩
    | 6, _, hj => exact Or.inr ⟨by decide, by simpa using hj, fun z => absurd z.1 (by decide)⟩
    | 7, _, hj => simp at hj
    | 8, _, hj => exact Or.inl ⟨rfl, by simpa using hj.symm⟩
  · obtain ⟨j, rfl⟩ : ∃ z, j = z + 9 := ⟨j - 9, by omega⟩
    exact Or.inr ⟨by omega, by simpa using hj, fun z => absurd z.1 (by omega)⟩
theorem x_lstore_8 {G : xG} {l : Launch} {M : xM} {d k n : Nat} {Q : xR → xH → Prop} {pc : Nat} {st : List Value} {h : xH} {a0 a1 a2 a3 a4 a5 a6 a7 : Option Value} {b b2 : Option Value} {r : xLs} {x : Int64} (hdg : decode M.2.1 pc = .ok (.lstore 8, 2)) (hM : 8 + 1 < M.2.2.1) (hn : xN2 a7) (kk : xF G l M d k n Q (pc + 2) (a0 :: a1 :: a2 :: a3 :: a4 :: a5 :: a6 :: a7 :: some (.long x) :: none :: r) st h) : xF G l M d k n Q pc (a0 :: a1 :: a2 :: a3 :: a4 :: a5 :: a6 :: a7 :: b :: b2 :: r) (.long x :: st) h := by
  intro p e R s m args below meth c H locs cells slots ls F hL hc hs hR hS
  refine lv_lstore (lv' := _) F.1 F.2.1 hdg hL hM rfl (fun ls1 hL1 => kk p e R s m args below meth c H locs cells slots ls1 F (xHas.s2 (i := 8) (v := .long x) hL1 ?_) hc hs hR hS)
  intro j w hj
  rcases Nat.lt_or_ge j 10 with q | q
  · match j, q, hj with
    | 0, _, hj => exact Or.inr ⟨by decide, by decide, by simpa using hj, fun z => absurd z.1 (by decide)⟩
    | 1, _, hj => exact Or.inr ⟨by decide, by decide, by simpa using hj, fun z => absurd z.1 (by decide)⟩
    | 2, _, hj => exact Or.inr ⟨by decide, by decide, by simpa using hj, fun z => absurd z.1 (by decide)⟩
    | 3, _, hj => exact Or.inr ⟨by decide, by decide, by simpa using hj, fun z => absurd z.1 (by decide)⟩
    | 4, _, hj => exact Or.inr ⟨by decide, by decide, by simpa using hj, fun z => absurd z.1 (by decide)⟩
    | 5, _, hj => exact Or.inr ⟨by decide, by decide, by simpa using hj, fun z => absurd z.1 (by decide)⟩
    | 6, _, hj => exact Or.inr ⟨by decide, by decide, by simpa using hj, fun z => absurd z.1 (by decide)⟩
    | 7, _, hj => exact Or.inr ⟨by decide, by decide, by simpa using hj, fun z => by have := hn w (by simpa using hj); omega⟩
    | 8, _, hj => exact Or.inl ⟨rfl, by simpa using hj.symm⟩
    | 9, _, hj => simp at hj
  · obtain ⟨j, rfl⟩ : ∃ z, j = z + 10 := ⟨j - 10, by omega⟩
    exact Or.inr ⟨by omega, by omega, by simpa using hj, fun z => absurd z.1 (by omega)⟩
theorem x_lstoreC_8 {G : xG} {l : Launch} {M : xM} {d k n : Nat} {Q : xR → xH → Prop} {pc : Nat} {st : List Value} {h : xH} {a0 a1 a2 a3 a4 a5 a6 a7 : Option Value} {b b2 : Option Value} {r : xLs} {x : Int64} (hdg : decode M.2.1 pc = .ok (.lstore 8, 2)) (hM : 8 + 1 < M.2.2.1) (kk : xF G l M d k n Q (pc + 2) (a0 :: a1 :: a2 :: a3 :: a4 :: a5 :: a6 :: none :: some (.long x) :: none :: r) st h) : xF G l M d k n Q pc (a0 :: a1 :: a2 :: a3 :: a4 :: a5 :: a6 :: a7 :: b :: b2 :: r) (.long x :: st) h := by
  intro p e R s m args below meth c H locs cells slots ls F hL hc hs hR hS
  refine lv_lstore (lv' := _) F.1 F.2.1 hdg hL hM rfl (fun ls1 hL1 => kk p e R s m args below meth c H locs cells slots ls1 F (xHas.s2 (i := 8) (v := .long x) hL1 ?_) hc hs hR hS)
  intro j w hj
  rcases Nat.lt_or_ge j 10 with q | q
  · match j, q, hj with
    | 0, _, hj => exact Or.inr ⟨by decide, by decide, by simpa using hj, fun z => absurd z.1 (by decide)⟩
    | 1, _, hj => exact Or.inr ⟨by decide, by decide, by simpa using hj, fun z => absurd z.1 (by decide)⟩
    | 2, _, hj => exact Or.inr ⟨by decide, by decide, by simpa using hj, fun z => absurd z.1 (by decide)⟩
    | 3, _, hj => exact Or.inr ⟨by decide, by decide, by simpa using hj, fun z => absurd z.1 (by decide)⟩
    | 4, _, hj => exact Or.inr ⟨by decide, by decide, by simpa using hj, fun z => absurd z.1 (by decide)⟩
    | 5, _, hj => exact Or.inr ⟨by decide, by decide, by simpa using hj, fun z => absurd z.1 (by decide)⟩
    | 6, _, hj => exact Or.inr ⟨by decide, by decide, by simpa using hj, fun z => absurd z.1 (by decide)⟩
    | 7, _, hj => simp at hj
    | 8, _, hj => exact Or.inl ⟨rfl, by simpa using hj.symm⟩
    | 9, _, hj => simp at hj
  · obtain ⟨j, rfl⟩ : ∃ z, j = z + 10 := ⟨j - 10, by omega⟩
    exact Or.inr ⟨by omega, by omega, by simpa using hj, fun z => absurd z.1 (by omega)⟩
theorem x_iinc_8 {G : xG} {l : Launch} {M : xM} {d k n : Nat} {Q : xR → xH → Prop} {pc : Nat} {st : List Value} {h : xH} {a0 a1 a2 a3 a4 a5 a6 a7 : Option Value} {r : xLs} {x v : Int32} {z : Int} (hdg : decode M.2.1 pc = .ok (.iinc 8 z, 3)) (hv : (Int32.ofInt z) = v) (hM : 8 < M.2.2.1) (hn : xN2 a7) (kk : xF G l M d k n Q (pc + 3) (a0 :: a1 :: a2 :: a3 :: a4 :: a5 :: a6 :: a7 :: some (.int (x + v)) :: r) st h) : xF G l M d k n Q pc (a0 :: a1 :: a2 :: a3 :: a4 :: a5 :: a6 :: a7 :: some (.int x) :: r) st h := by
  intro p e R s m args below meth c H locs cells slots ls F hL hc hs hR hS
  refine x_iincA F hL (i := 8) rfl hdg hv hM (fun ls1 hL1 => kk p e R s m args below meth c H locs cells slots ls1 F (xHas.s1 (i := 8) (v := .int (x + v)) hL1 ?_) hc hs hR hS)
  intro j w hj
  rcases Nat.lt_or_ge j 9 with q | q
  · match j, q, hj with
    | 0, _, hj => exact Or.inr ⟨by decide, by simpa using hj, fun z => absurd z.1 (by decide)⟩
    | 1, _, hj => exact Or.inr ⟨by decide, by simpa using hj, fun z => absurd z.1 (by decide)⟩
    | 2, _, hj => exact Or.inr ⟨by decide, by simpa using hj, fun z => absurd z.1 (by decide)⟩
    | 3, _, hj => exact Or.inr ⟨by decide, by simpa using hj, fun z => absurd z.1 (by decide)⟩
    | 4, _, hj => exact Or.inr ⟨by decide, by simpa using hj, fun z => absurd z.1 (by decide)⟩
    | 5, _, hj => exact Or.inr ⟨by decide, by simpa using hj, fun z => absurd z.1 (by decide)⟩
    | 6, _, hj => exact Or.inr ⟨by decide, by simpa using hj, fun z => absurd z.1 (by decide)⟩
    | 7, _, hj => exact Or.inr ⟨by decide, by simpa using hj, fun z => by have := hn w (by simpa using hj); omega⟩
    | 8, _, hj => exact Or.inl ⟨rfl, by simpa using hj.symm⟩
  · obtain ⟨j, rfl⟩ : ∃ z, j = z + 9 := ⟨j - 9, by omega⟩
    exact Or.inr ⟨by omega, by simpa using hj, fun z => absurd z.1 (by omega)⟩
theorem x_iload_9 {G : xG} {l : Launch} {M : xM} {d k n : Nat} {Q : xR → xH → Prop} {pc : Nat} {st : List Value} {h : xH} {a0 a1 a2 a3 a4 a5 a6 a7 a8 : Option Value} {r : xLs} {x : Int32} (hdg : decode M.2.1 pc = .ok (.iload 9, 2)) (kk : xF G l M d k n Q (pc + 2) (a0 :: a1 :: a2 :: a3 :: a4 :: a5 :: a6 :: a7 :: a8 :: some (.int x) :: r) (.int x :: st) h) : xF G l M d k n Q pc (a0 :: a1 :: a2 :: a3 :: a4 :: a5 :: a6 :: a7 :: a8 :: some (.int x) :: r) st h := by
  intro p e R s m args below meth c H locs cells slots ls F hL hc hs hR hS
  exact lv_iload F.1 F.2.1 hdg (hL.at (i := 9) rfl) (kk p e R s m args below meth c H locs cells slots ls F hL hc hs hR hS)
theorem x_lload_9 {G : xG} {l : Launch} {M : xM} {d k n : Nat} {Q : xR → xH → Prop} {pc : Nat} {st : List Value} {h : xH} {a0 a1 a2 a3 a4 a5 a6 a7 a8 : Option Value} {r : xLs} {x : Int64} (hdg : decode M.2.1 pc = .ok (.lload 9, 2)) (kk : xF G l M d k n Q (pc + 2) (a0 :: a1 :: a2 :: a3 :: a4 :: a5 :: a6 :: a7 :: a8 :: some (.long x) :: r) (.long x :: st) h) : xF G l M d k n Q pc (a0 :: a1 :: a2 :: a3 :: a4 :: a5 :: a6 :: a7 :: a8 :: some (.long x) :: r) st h := by
  intro p e R s m args below meth c H locs cells slots ls F hL hc hs hR hS
  exact lv_lload F.1 F.2.1 hdg (hL.at (i := 9) rfl) (kk p e R s m args below meth c H locs cells slots ls F hL hc hs hR hS)
theorem x_aload_9 {G : xG} {l : Launch} {M : xM} {d k n : Nat} {Q : xR → xH → Prop} {pc : Nat} {st : List Value} {h : xH} {a0 a1 a2 a3 a4 a5 a6 a7 a8 : Option Value} {r : xLs} {x : Nat} (hdg : decode M.2.1 pc = .ok (.aload 9, 2)) (kk : xF G l M d k n Q (pc + 2) (a0 :: a1 :: a2 :: a3 :: a4 :: a5 :: a6 :: a7 :: a8 :: some (.ref x) :: r) (.ref x :: st) h) : xF G l M d k n Q pc (a0 :: a1 :: a2 :: a3 :: a4 :: a5 :: a6 :: a7 :: a8 :: some (.ref x) :: r) st h := by
  intro p e R s m args below meth c H locs cells slots ls F hL hc hs hR hS
  exact lv_aload F.1 F.2.1 hdg (hL.at (i := 9) rfl) (kk p e R s m args below meth c H locs cells slots ls F hL hc hs hR hS)
theorem x_aloadN_9 {G : xG} {l : Launch} {M : xM} {d k n : Nat} {Q : xR → xH → Prop} {pc : Nat} {st : List Value} {h : xH} {a0 a1 a2 a3 a4 a5 a6 a7 a8 : Option Value} {r : xLs} (hdg : decode M.2.1 pc = .ok (.aload 9, 2)) (kk : xF G l M d k n Q (pc + 2) (a0 :: a1 :: a2 :: a3 :: a4 :: a5 :: a6 :: a7 :: a8 :: some .null :: r) (.null :: st) h) : xF G l M d k n Q pc (a0 :: a1 :: a2 :: a3 :: a4 :: a5 :: a6 :: a7 :: a8 :: some .null :: r) st h := by
  intro p e R s m args below meth c H locs cells slots ls F hL hc hs hR hS
  exact lv_aloadN F.1 F.2.1 hdg (hL.at (i := 9) rfl) (kk p e R s m args below meth c H locs cells slots ls F hL hc hs hR hS)
theorem x_istore_9 {G : xG} {l : Launch} {M : xM} {d k n : Nat} {Q : xR → xH → Prop} {pc : Nat} {st : List Value} {h : xH} {a0 a1 a2 a3 a4 a5 a6 a7 a8 : Option Value} {b : Option Value} {r : xLs} {x : Int32} (hdg : decode M.2.1 pc = .ok (.istore 9, 2)) (hM : 9 < M.2.2.1) (hn : xN2 a8) (kk : xF G l M d k n Q (pc + 2) (a0 :: a1 :: a2 :: a3 :: a4 :: a5 :: a6 :: a7 :: a8 :: some (.int x) :: r) st h) : xF G l M d k n Q pc (a0 :: a1 :: a2 :: a3 :: a4 :: a5 :: a6 :: a7 :: a8 :: b :: r) (.int x :: st) h := by
  intro p e R s m args below meth c H locs cells slots ls F hL hc hs hR hS
  refine lv_istore (lv' := _) F.1 F.2.1 hdg hL hM rfl (fun ls1 hL1 => kk p e R s m args below meth c H locs cells slots ls1 F (xHas.s1 (i := 9) (v := .int x) hL1 ?_) hc hs hR hS)
  intro j w hj
  rcases Nat.lt_or_ge j 10 with q | q
  · match j, q, hj with
    | 0, _, hj => exact Or.inr ⟨by decide, by simpa using hj, fun z => absurd z.1 (by decide)⟩
    | 1, _, hj => exact Or.inr ⟨by decide, by simpa using hj, fun z => absurd z.1 (by decide)⟩
    | 2, _, hj => exact Or.inr ⟨by decide, by simpa using hj, fun z => absurd z.1 (by decide)⟩
    | 3, _, hj => exact Or.inr ⟨by decide, by simpa using hj, fun z => absurd z.1 (by decide)⟩
    | 4, _, hj => exact Or.inr ⟨by decide, by simpa using hj, fun z => absurd z.1 (by decide)⟩
    | 5, _, hj => exact Or.inr ⟨by decide, by simpa using hj, fun z => absurd z.1 (by decide)⟩
    | 6, _, hj => exact Or.inr ⟨by decide, by simpa using hj, fun z => absurd z.1 (by decide)⟩
    | 7, _, hj => exact Or.inr ⟨by decide, by simpa using hj, fun z => absurd z.1 (by decide)⟩
    | 8, _, hj => exact Or.inr ⟨by decide, by simpa using hj, fun z => by have := hn w (by simpa using hj); omega⟩
    | 9, _, hj => exact Or.inl ⟨rfl, by simpa using hj.symm⟩
  · obtain ⟨j, rfl⟩ : ∃ z, j = z + 10 := ⟨j - 10, by omega⟩
    exact Or.inr ⟨by omega, by simpa using hj, fun z => absurd z.1 (by omega)⟩
theorem x_istoreC_9 {G : xG} {l : Launch} {M : xM} {d k n : Nat} {Q : xR → xH → Prop} {pc : Nat} {st : List Value} {h : xH} {a0 a1 a2 a3 a4 a5 a6 a7 a8 : Option Value} {b : Option Value} {r : xLs} {x : Int32} (hdg : decode M.2.1 pc = .ok (.istore 9, 2)) (hM : 9 < M.2.2.1) (kk : xF G l M d k n Q (pc + 2) (a0 :: a1 :: a2 :: a3 :: a4 :: a5 :: a6 :: a7 :: none :: some (.int x) :: r) st h) : xF G l M d k n Q pc (a0 :: a1 :: a2 :: a3 :: a4 :: a5 :: a6 :: a7 :: a8 :: b :: r) (.int x :: st) h := by
  intro p e R s m args below meth c H locs cells slots ls F hL hc hs hR hS
  refine lv_istore (lv' := _) F.1 F.2.1 hdg hL hM rfl (fun ls1 hL1 => kk p e R s m args below meth c H locs cells slots ls1 F (xHas.s1 (i := 9) (v := .int x) hL1 ?_) hc hs hR hS)
  intro j w hj
  rcases Nat.lt_or_ge j 10 with q | q
  · match j, q, hj with
    | 0, _, hj => exact Or.inr ⟨by decide, by simpa using hj, fun z => absurd z.1 (by decide)⟩
    | 1, _, hj => exact Or.inr ⟨by decide, by simpa using hj, fun z => absurd z.1 (by decide)⟩
    | 2, _, hj => exact Or.inr ⟨by decide, by simpa using hj, fun z => absurd z.1 (by decide)⟩
    | 3, _, hj => exact Or.inr ⟨by decide, by simpa using hj, fun z => absurd z.1 (by decide)⟩
    | 4, _, hj => exact Or.inr ⟨by decide, by simpa using hj, fun z => absurd z.1 (by decide)⟩
    | 5, _, hj => exact Or.inr ⟨by decide, by simpa using hj, fun z => absurd z.1 (by decide)⟩
    | 6, _, hj => exact Or.inr ⟨by decide, by simpa using hj, fun z => absurd z.1 (by decide)⟩
    | 7, _, hj => exact Or.inr ⟨by decide, by simpa using hj, fun z => absurd z.1 (by decide)⟩
    | 8, _, hj => simp at hj
    | 9, _, hj => exact Or.inl ⟨rfl, by simpa using hj.symm⟩
  · obtain ⟨j, rfl⟩ : ∃ z, j = z + 10 := ⟨j - 10, by omega⟩
    exact Or.inr ⟨by omega, by simpa using hj, fun z => absurd z.1 (by omega)⟩
theorem x_astore_9 {G : xG} {l : Launch} {M : xM} {d k n : Nat} {Q : xR → xH → Prop} {pc : Nat} {st : List Value} {h : xH} {a0 a1 a2 a3 a4 a5 a6 a7 a8 : Option Value} {b : Option Value} {r : xLs} {x : Nat} (hdg : decode M.2.1 pc = .ok (.astore 9, 2)) (hM : 9 < M.2.2.1) (hn : xN2 a8) (kk : xF G l M d k n Q (pc + 2) (a0 :: a1 :: a2 :: a3 :: a4 :: a5 :: a6 :: a7 :: a8 :: some (.ref x) :: r) st h) : xF G l M d k n Q pc (a0 :: a1 :: a2 :: a3 :: a4 :: a5 :: a6 :: a7 :: a8 :: b :: r) (.ref x :: st) h := by
  intro p e R s m args below meth c H locs cells slots ls F hL hc hs hR hS
  refine lv_astore (lv' := _) F.1 F.2.1 hdg hL hM rfl (fun ls1 hL1 => kk p e R s m args below meth c H locs cells slots ls1 F (xHas.s1 (i := 9) (v := .ref x) hL1 ?_) hc hs hR hS)
  intro j w hj
  rcases Nat.lt_or_ge j 10 with q | q
  · match j, q, hj with
    | 0, _, hj => exact Or.inr ⟨by decide, by simpa using hj, fun z => absurd z.1 (by decide)⟩
    | 1, _, hj => exact Or.inr ⟨by decide, by simpa using hj, fun z => absurd z.1 (by decide)⟩
    | 2, _, hj => exact Or.inr ⟨by decide, by simpa using hj, fun z => absurd z.1 (by decide)⟩
    | 3, _, hj => exact Or.inr ⟨by decide, by simpa using hj, fun z => absurd z.1 (by decide)⟩
    | 4, _, hj => exact Or.inr ⟨by decide, by simpa using hj, fun z => absurd z.1 (by decide)⟩
    | 5, _, hj => exact Or.inr ⟨by decide, by simpa using hj, fun z => absurd z.1 (by decide)⟩
    | 6, _, hj => exact Or.inr ⟨by decide, by simpa using hj, fun z => absurd z.1 (by decide)⟩
    | 7, _, hj => exact Or.inr ⟨by decide, by simpa using hj, fun z => absurd z.1 (by decide)⟩
    | 8, _, hj => exact Or.inr ⟨by decide, by simpa using hj, fun z => by have := hn w (by simpa using hj); omega⟩
    | 9, _, hj => exact Or.inl ⟨rfl, by simpa using hj.symm⟩
  · obtain ⟨j, rfl⟩ : ∃ z, j = z + 10 := ⟨j - 10, by omega⟩
    exact Or.inr ⟨by omega, by simpa using hj, fun z => absurd z.1 (by omega)⟩
theorem x_astoreC_9 {G : xG} {l : Launch} {M : xM} {d k n : Nat} {Q : xR → xH → Prop} {pc : Nat} {st : List Value} {h : xH} {a0 a1 a2 a3 a4 a5 a6 a7 a8 : Option Value} {b : Option Value} {r : xLs} {x : Nat} (hdg : decode M.2.1 pc = .ok (.astore 9, 2)) (hM : 9 < M.2.2.1) (kk : xF G l M d k n Q (pc + 2) (a0 :: a1 :: a2 :: a3 :: a4 :: a5 :: a6 :: a7 :: none :: some (.ref x) :: r) st h) : xF G l M d k n Q pc (a0 :: a1 :: a2 :: a3 :: a4 :: a5 :: a6 :: a7 :: a8 :: b :: r) (.ref x :: st) h := by
  intro p e R s m args below meth c H locs cells slots ls F hL hc hs hR hS
  refine lv_astore (lv' := _) F.1 F.2.1 hdg hL hM rfl (fun ls1 hL1 => kk p e R s m args below meth c H locs cells slots ls1 F (xHas.s1 (i := 9) (v := .ref x) hL1 ?_) hc hs hR hS)
  intro j w hj
  rcases Nat.lt_or_ge j 10 with q | q
  · match j, q, hj with
    | 0, _, hj => exact Or.inr ⟨by decide, by simpa using hj, fun z => absurd z.1 (by decide)⟩
    | 1, _, hj => exact Or.inr ⟨by decide, by simpa using hj, fun z => absurd z.1 (by decide)⟩
    | 2, _, hj => exact Or.inr ⟨by decide, by simpa using hj, fun z => absurd z.1 (by decide)⟩
    | 3, _, hj => exact Or.inr ⟨by decide, by simpa using hj, fun z => absurd z.1 (by decide)⟩
    | 4, _, hj => exact Or.inr ⟨by decide, by simpa using hj, fun z => absurd z.1 (by decide)⟩
    | 5, _, hj => exact Or.inr ⟨by decide, by simpa using hj, fun z => absurd z.1 (by decide)⟩
    | 6, _, hj => exact Or.inr ⟨by decide, by simpa using hj, fun z => absurd z.1 (by decide)⟩
    | 7, _, hj => exact Or.inr ⟨by decide, by simpa using hj, fun z => absurd z.1 (by decide)⟩
    | 8, _, hj => simp at hj
    | 9, _, hj => exact Or.inl ⟨rfl, by simpa using hj.symm⟩
  · obtain ⟨j, rfl⟩ : ∃ z, j = z + 10 := ⟨j - 10, by omega⟩
    exact Or.inr ⟨by omega, by simpa using hj, fun z => absurd z.1 (by omega)⟩
theorem x_astoreN_9 {G : xG} {l : Launch} {M : xM} {d k n : Nat} {Q : xR → xH → Prop} {pc : Nat} {st : List Value} {h : xH} {a0 a1 a2 a3 a4 a5 a6 a7 a8 : Option Value} {b : Option Value} {r : xLs}  (hdg : decode M.2.1 pc = .ok (.astore 9, 2)) (hM : 9 < M.2.2.1) (hn : xN2 a8) (kk : xF G l M d k n Q (pc + 2) (a0 :: a1 :: a2 :: a3 :: a4 :: a5 :: a6 :: a7 :: a8 :: some (.null) :: r) st h) : xF G l M d k n Q pc (a0 :: a1 :: a2 :: a3 :: a4 :: a5 :: a6 :: a7 :: a8 :: b :: r) (.null :: st) h := by
  intro p e R s m args below meth c H locs cells slots ls F hL hc hs hR hS
  refine lv_astoreN (lv' := _) F.1 F.2.1 hdg hL hM rfl (fun ls1 hL1 => kk p e R s m args below meth c H locs cells slots ls1 F (xHas.s1 (i := 9) (v := .null) hL1 ?_) hc hs hR hS)
  intro j w hj
  rcases Nat.lt_or_ge j 10 with q | q
  · match j, q, hj with
    | 0, _, hj => exact Or.inr ⟨by decide, by simpa using hj, fun z => absurd z.1 (by decide)⟩
    | 1, _, hj => exact Or.inr ⟨by decide, by simpa using hj, fun z => absurd z.1 (by decide)⟩
    | 2, _, hj => exact Or.inr ⟨by decide, by simpa using hj, fun z => absurd z.1 (by decide)⟩
    | 3, _, hj => exact Or.inr ⟨by decide, by simpa using hj, fun z => absurd z.1 (by decide)⟩
    | 4, _, hj => exact Or.inr ⟨by decide, by simpa using hj, fun z => absurd z.1 (by decide)⟩
    | 5, _, hj => exact Or.inr ⟨by decide, by simpa using hj, fun z => absurd z.1 (by decide)⟩
    | 6, _, hj => exact Or.inr ⟨by decide, by simpa using hj, fun z => absurd z.1 (by decide)⟩
    | 7, _, hj => exact Or.inr ⟨by decide, by simpa using hj, fun z => absurd z.1 (by decide)⟩
    | 8, _, hj => exact Or.inr ⟨by decide, by simpa using hj, fun z => by have := hn w (by simpa using hj); omega⟩
    | 9, _, hj => exact Or.inl ⟨rfl, by simpa using hj.symm⟩
  · obtain ⟨j, rfl⟩ : ∃ z, j = z + 10 := ⟨j - 10, by omega⟩
    exact Or.inr ⟨by omega, by simpa using hj, fun z => absurd z.1 (by omega)⟩
theorem x_astoreNC_9 {G : xG} {l : Launch} {M : xM} {d k n : Nat} {Q : xR → xH → Prop} {pc : Nat} {st : List Value} {h : xH} {a0 a1 a2 a3 a4 a5 a6 a7 a8 : Option Value} {b : Option Value} {r : xLs}  (hdg : decode M.2.1 pc = .ok (.astore 9, 2)) (hM : 9 < M.2.2.1) (kk : xF G l M d k n Q (pc + 2) (a0 :: a1 :: a2 :: a3 :: a4 :: a5 :: a6 :: a7 :: none :: some (.null) :: r) st h) : xF G l M d k n Q pc (a0 :: a1 :: a2 :: a3 :: a4 :: a5 :: a6 :: a7 :: a8 :: b :: r) (.null :: st) h := by
  intro p e R s m args below meth c H locs cells slots ls F hL hc hs hR hS
  refine lv_astoreN (lv' := _) F.1 F.2.1 hdg hL hM rfl (fun ls1 hL1 => kk p e R s m args below meth c H locs cells slots ls1 F (xHas.s1 (i := 9) (v := .null) hL1 ?_) hc hs hR hS)
  intro j w hj
  rcases Nat.lt_or_ge j 10 with q | q
  · match j, q, hj with
    | 0, _, hj => exact Or.inr ⟨by decide, by simpa using hj, fun z => absurd z.1 (by decide)⟩
    | 1, _, hj => exact Or.inr ⟨by decide, by simpa using hj, fun z => absurd z.1 (by decide)⟩
    | 2, _, hj => exact Or.inr ⟨by decide, by simpa using hj, fun z => absurd z.1 (by decide)⟩
    | 3, _, hj => exact Or.inr ⟨by decide, by simpa using hj, fun z => absurd z.1 (by decide)⟩
    | 4, _, hj => exact Or.inr ⟨by decide, by simpa using hj, fun z => absurd z.1 (by decide)⟩
    | 5, _, hj => exact Or.inr ⟨by decide, by simpa using hj, fun z => absurd z.1 (by decide)⟩
    | 6, _, hj => exact Or.inr ⟨by decide, by simpa using hj, fun z => absurd z.1 (by decide)⟩
    | 7, _, hj => exact Or.inr ⟨by decide, by simpa using hj, fun z => absurd z.1 (by decide)⟩
    | 8, _, hj => simp at hj
    | 9, _, hj => exact Or.inl ⟨rfl, by simpa using hj.symm⟩
  · obtain ⟨j, rfl⟩ : ∃ z, j = z + 10 := ⟨j - 10, by omega⟩
    exact Or.inr ⟨by omega, by simpa using hj, fun z => absurd z.1 (by omega)⟩
theorem x_lstore_9 {G : xG} {l : Launch} {M : xM} {d k n : Nat} {Q : xR → xH → Prop} {pc : Nat} {st : List Value} {h : xH} {a0 a1 a2 a3 a4 a5 a6 a7 a8 : Option Value} {b b2 : Option Value} {r : xLs} {x : Int64} (hdg : decode M.2.1 pc = .ok (.lstore 9, 2)) (hM : 9 + 1 < M.2.2.1) (hn : xN2 a8) (kk : xF G l M d k n Q (pc + 2) (a0 :: a1 :: a2 :: a3 :: a4 :: a5 :: a6 :: a7 :: a8 :: some (.long x) :: none :: r) st h) : xF G l M d k n Q pc (a0 :: a1 :: a2 :: a3 :: a4 :: a5 :: a6 :: a7 :: a8 :: b :: b2 :: r) (.long x :: st) h := by
  intro p e R s m args below meth c H locs cells slots ls F hL hc hs hR hS
  refine lv_lstore (lv' := _) F.1 F.2.1 hdg hL hM rfl (fun ls1 hL1 => kk p e R s m args below meth c H locs cells slots ls1 F (xHas.s2 (i := 9) (v := .long x) hL1 ?_) hc hs hR hS)
  intro j w hj
  rcases Nat.lt_or_ge j 11 with q | q
  · match j, q, hj with
    | 0, _, hj => exact Or.inr ⟨by decide, by decide, by simpa using hj, fun z => absurd z.1 (by decide)⟩
    | 1, _, hj => exact Or.inr ⟨by decide, by decide, by simpa using hj, fun z => absurd z.1 (by decide)⟩
    | 2, _, hj => exact Or.inr ⟨by decide, by decide, by simpa using hj, fun z => absurd z.1 (by decide)⟩
    | 3, _, hj => exact Or.inr ⟨by decide, by decide, by simpa using hj, fun z => absurd z.1 (by decide)⟩
    | 4, _, hj => exact Or.inr ⟨by decide, by decide, by simpa using hj, fun z => absurd z.1 (by decide)⟩
    | 5, _, hj => exact Or.inr ⟨by decide, by decide, by simpa using hj, fun z => absurd z.1 (by decide)⟩
    | 6, _, hj => exact Or.inr ⟨by decide, by decide, by simpa using hj, fun z => absurd z.1 (by decide)⟩
    | 7, _, hj => exact Or.inr ⟨by decide, by decide, by simpa using hj, fun z => absurd z.1 (by decide)⟩
    | 8, _, hj => exact Or.inr ⟨by decide, by decide, by simpa using hj, fun z => by have := hn w (by simpa using hj); omega⟩
    | 9, _, hj => exact Or.inl ⟨rfl, by simpa using hj.symm⟩
    | 10, _, hj => simp at hj
  · obtain ⟨j, rfl⟩ : ∃ z, j = z + 11 := ⟨j - 11, by omega⟩
    exact Or.inr ⟨by omega, by omega, by simpa using hj, fun z => absurd z.1 (by omega)⟩
theorem x_lstoreC_9 {G : xG} {l : Launch} {M : xM} {d k n : Nat} {Q : xR → xH → Prop} {pc : Nat} {st : List Value} {h : xH} {a0 a1 a2 a3 a4 a5 a6 a7 a8 : Option Value} {b b2 : Option Value} {r : xLs} {x : Int64} (hdg : decode M.2.1 pc = .ok (.lstore 9, 2)) (hM : 9 + 1 < M.2.2.1) (kk : xF G l M d k n Q (pc + 2) (a0 :: a1 :: a2 :: a3 :: a4 :: a5 :: a6 :: a7 :: none :: some (.long x) :: none :: r) st h) : xF G l M d k n Q pc (a0 :: a1 :: a2 :: a3 :: a4 :: a5 :: a6 :: a7 :: a8 :: b :: b2 :: r) (.long x :: st) h := by
  intro p e R s m args below meth c H locs cells slots ls F hL hc hs hR hS
  refine lv_lstore (lv' := _) F.1 F.2.1 hdg hL hM rfl (fun ls1 hL1 => kk p e R s m args below meth c H locs cells slots ls1 F (xHas.s2 (i := 9) (v := .long x) hL1 ?_) hc hs hR hS)
  intro j w hj
  rcases Nat.lt_or_ge j 11 with q | q
  · match j, q, hj with
    | 0, _, hj => exact Or.inr ⟨by decide, by decide, by simpa using hj, fun z => absurd z.1 (by decide)⟩
    | 1, _, hj => exact Or.inr ⟨by decide, by decide, by simpa using hj, fun z => absurd z.1 (by decide)⟩
    | 2, _, hj => exact Or.inr ⟨by decide, by decide, by simpa using hj, fun z => absurd z.1 (by decide)⟩
    | 3, _, hj => exact Or.inr ⟨by decide, by decide, by simpa using hj, fun z => absurd z.1 (by decide)⟩
    | 4, _, hj => exact Or.inr ⟨by decide, by decide, by simpa using hj, fun z => absurd z.1 (by decide)⟩
    | 5, _, hj => exact Or.inr ⟨by decide, by decide, by simpa using hj, fun z => absurd z.1 (by decide)⟩
    | 6, _, hj => exact Or.inr ⟨by decide, by decide, by simpa using hj, fun z => absurd z.1 (by decide)⟩
    | 7, _, hj => exact Or.inr ⟨by decide, by decide, by simpa using hj, fun z => absurd z.1 (by decide)⟩
    | 8, _, hj => simp at hj
    | 9, _, hj => exact Or.inl ⟨rfl, by simpa using hj.symm⟩
    | 10, _, hj => simp at hj
  · obtain ⟨j, rfl⟩ : ∃ z, j = z + 11 := ⟨j - 11, by omega⟩
    exact Or.inr ⟨by omega, by omega, by simpa using hj, fun z => absurd z.1 (by omega)⟩
theorem x_iinc_9 {G : xG} {l : Launch} {M : xM} {d k n : Nat} {Q : xR → xH → Prop} {pc : Nat} {st : List Value} {h : xH} {a0 a1 a2 a3 a4 a5 a6 a7 a8 : Option Value} {r : xLs} {x v : Int32} {z : Int} (hdg : decode M.2.1 pc = .ok (.iinc 9 z, 3)) (hv : (Int32.ofInt z) = v) (hM : 9 < M.2.2.1) (hn : xN2 a8) (kk : xF G l M d k n Q (pc + 3) (a0 :: a1 :: a2 :: a3 :: a4 :: a5 :: a6 :: a7 :: a8 :: some (.int (x + v)) :: r) st h) : xF G l M d k n Q pc (a0 :: a1 :: a2 :: a3 :: a4 :: a5 :: a6 :: a7 :: a8 :: some (.int x) :: r) st h := by
  intro p e R s m args below meth c H locs cells slots ls F hL hc hs hR hS
  refine x_iincA F hL (i := 9) rfl hdg hv hM (fun ls1 hL1 => kk p e R s m args below meth c H locs cells slots ls1 F (xHas.s1 (i := 9) (v := .int (x + v)) hL1 ?_) hc hs hR hS)
  intro j w hj
  rcases Nat.lt_or_ge j 10 with q | q
  · match j, q, hj with
    | 0, _, hj => exact Or.inr ⟨by decide, by simpa using hj, fun z => absurd z.1 (by decide)⟩
    | 1, _, hj => exact Or.inr ⟨by decide, by simpa using hj, fun z => absurd z.1 (by decide)⟩
    | 2, _, hj => exact Or.inr ⟨by decide, by simpa using hj, fun z => absurd z.1 (by decide)⟩
    | 3, _, hj => exact Or.inr ⟨by decide, by simpa using hj, fun z => absurd z.1 (by decide)⟩
    | 4, _, hj => exact Or.inr ⟨by decide, by simpa using hj, fun z => absurd z.1 (by decide)⟩
    | 5, _, hj => exact Or.inr ⟨by decide, by simpa using hj, fun z => absurd z.1 (by decide)⟩
    | 6, _, hj => exact Or.inr ⟨by decide, by simpa using hj, fun z => absurd z.1 (by decide)⟩
    | 7, _, hj => exact Or.inr ⟨by decide, by simpa using hj, fun z => absurd z.1 (by decide)⟩
    | 8, _, hj => exact Or.inr ⟨by decide, by simpa using hj, fun z => by have := hn w (by simpa using hj); omega⟩
    | 9, _, hj => exact Or.inl ⟨rfl, by simpa using hj.symm⟩
  · obtain ⟨j, rfl⟩ : ∃ z, j = z + 10 := ⟨j - 10, by omega⟩
    exact Or.inr ⟨by omega, by simpa using hj, fun z => absurd z.1 (by omega)⟩
theorem x_iload_10 {G : xG} {l : Launch} {M : xM} {d k n : Nat} {Q : xR → xH → Prop} {pc : Nat} {st : List Value} {h : xH} {a0 a1 a2 a3 a4 a5 a6 a7 a8 a9 : Option Value} {r : xLs} {x : Int32} (hdg : decode M.2.1 pc = .ok (.iload 10, 2)) (kk : xF G l M d k n Q (pc + 2) (a0 :: a1 :: a2 :: a3 :: a4 :: a5 :: a6 :: a7 :: a8 :: a9 :: some (.int x) :: r) (.int x :: st) h) : xF G l M d k n Q pc (a0 :: a1 :: a2 :: a3 :: a4 :: a5 :: a6 :: a7 :: a8 :: a9 :: some (.int x) :: r) st h := by
  intro p e R s m args below meth c H locs cells slots ls F hL hc hs hR hS
  exact lv_iload F.1 F.2.1 hdg (hL.at (i := 10) rfl) (kk p e R s m args below meth c H locs cells slots ls F hL hc hs hR hS)
theorem x_lload_10 {G : xG} {l : Launch} {M : xM} {d k n : Nat} {Q : xR → xH → Prop} {pc : Nat} {st : List Value} {h : xH} {a0 a1 a2 a3 a4 a5 a6 a7 a8 a9 : Option Value} {r : xLs} {x : Int64} (hdg : decode M.2.1 pc = .ok (.lload 10, 2)) (kk : xF G l M d k n Q (pc + 2) (a0 :: a1 :: a2 :: a3 :: a4 :: a5 :: a6 :: a7 :: a8 :: a9 :: some (.long x) :: r) (.long x :: st) h) : xF G l M d k n Q pc (a0 :: a1 :: a2 :: a3 :: a4 :: a5 :: a6 :: a7 :: a8 :: a9 :: some (.long x) :: r) st h := by
  intro p e R s m args below meth c H locs cells slots ls F hL hc hs hR hS
  exact lv_lload F.1 F.2.1 hdg (hL.at (i := 10) rfl) (kk p e R s m args below meth c H locs cells slots ls F hL hc hs hR hS)
theorem x_aload_10 {G : xG} {l : Launch} {M : xM} {d k n : Nat} {Q : xR → xH → Prop} {pc : Nat} {st : List Value} {h : xH} {a0 a1 a2 a3 a4 a5 a6 a7 a8 a9 : Option Value} {r : xLs} {x : Nat} (hdg : decode M.2.1 pc = .ok (.aload 10, 2)) (kk : xF G l M d k n Q (pc + 2) (a0 :: a1 :: a2 :: a3 :: a4 :: a5 :: a6 :: a7 :: a8 :: a9 :: some (.ref x) :: r) (.ref x :: st) h) : xF G l M d k n Q pc (a0 :: a1 :: a2 :: a3 :: a4 :: a5 :: a6 :: a7 :: a8 :: a9 :: some (.ref x) :: r) st h := by
  intro p e R s m args below meth c H locs cells slots ls F hL hc hs hR hS
  exact lv_aload F.1 F.2.1 hdg (hL.at (i := 10) rfl) (kk p e R s m args below meth c H locs cells slots ls F hL hc hs hR hS)
theorem x_aloadN_10 {G : xG} {l : Launch} {M : xM} {d k n : Nat} {Q : xR → xH → Prop} {pc : Nat} {st : List Value} {h : xH} {a0 a1 a2 a3 a4 a5 a6 a7 a8 a9 : Option Value} {r : xLs} (hdg : decode M.2.1 pc = .ok (.aload 10, 2)) (kk : xF G l M d k n Q (pc + 2) (a0 :: a1 :: a2 :: a3 :: a4 :: a5 :: a6 :: a7 :: a8 :: a9 :: some .null :: r) (.null :: st) h) : xF G l M d k n Q pc (a0 :: a1 :: a2 :: a3 :: a4 :: a5 :: a6 :: a7 :: a8 :: a9 :: some .null :: r) st h := by
  intro p e R s m args below meth c H locs cells slots ls F hL hc hs hR hS
  exact lv_aloadN F.1 F.2.1 hdg (hL.at (i := 10) rfl) (kk p e R s m args below meth c H locs cells slots ls F hL hc hs hR hS)
theorem x_istore_10 {G : xG} {l : Launch} {M : xM} {d k n : Nat} {Q : xR → xH → Prop} {pc : Nat} {st : List Value} {h : xH} {a0 a1 a2 a3 a4 a5 a6 a7 a8 a9 : Option Value} {b : Option Value} {r : xLs} {x : Int32} (hdg : decode M.2.1 pc = .ok (.istore 10, 2)) (hM : 10 < M.2.2.1) (hn : xN2 a9) (kk : xF G l M d k n Q (pc + 2) (a0 :: a1 :: a2 :: a3 :: a4 :: a5 :: a6 :: a7 :: a8 :: a9 :: some (.int x) :: r) st h) : xF G l M d k n Q pc (a0 :: a1 :: a2 :: a3 :: a4 :: a5 :: a6 :: a7 :: a8 :: a9 :: b :: r) (.int x :: st) h := by
  intro p e R s m args below meth c H locs cells slots ls F hL hc hs hR hS
  refine lv_istore (lv' := _) F.1 F.2.1 hdg hL hM rfl (fun ls1 hL1 => kk p e R s m args below meth c H locs cells slots ls1 F (xHas.s1 (i := 10) (v := .int x) hL1 ?_) hc hs hR hS)
  intro j w hj
  rcases Nat.lt_or_ge j 11 with q | q
  · match j, q, hj with
    | 0, _, hj => exact Or.inr ⟨by decide, by simpa using hj, fun z => absurd z.1 (by decide)⟩
    | 1, _, hj => exact Or.inr ⟨by decide, by simpa using hj, fun z => absurd z.1 (by decide)⟩
    | 2, _, hj => exact Or.inr ⟨by decide, by simpa using hj, fun z => absurd z.1 (by decide)⟩
    | 3, _, hj => exact Or.inr ⟨by decide, by simpa using hj, fun z => absurd z.1 (by decide)⟩
    | 4, _, hj => exact Or.inr ⟨by decide, by simpa using hj, fun z => absurd z.1 (by decide)⟩
    | 5, _, hj => exact Or.inr ⟨by decide, by simpa using hj, fun z => absurd z.1 (by decide)⟩
    | 6, _, hj => exact Or.inr ⟨by decide, by simpa using hj, fun z => absurd z.1 (by decide)⟩
    | 7, _, hj => exact Or.inr ⟨by decide, by simpa using hj, fun z => absurd z.1 (by decide)⟩
    | 8, _, hj => exact Or.inr ⟨by decide, by simpa using hj, fun z => absurd z.1 (by decide)⟩
    | 9, _, hj => exact Or.inr ⟨by decide, by simpa using hj, fun z => by have := hn w (by simpa using hj); omega⟩
    | 10, _, hj => exact Or.inl ⟨rfl, by simpa using hj.symm⟩
  · obtain ⟨j, rfl⟩ : ∃ z, j = z + 11 := ⟨j - 11, by omega⟩
    exact Or.inr ⟨by omega, by simpa using hj, fun z => absurd z.1 (by omega)⟩
theorem x_istoreC_10 {G : xG} {l : Launch} {M : xM} {d k n : Nat} {Q : xR → xH → Prop} {pc : Nat} {st : List Value} {h : xH} {a0 a1 a2 a3 a4 a5 a6 a7 a8 a9 : Option Value} {b : Option Value} {r : xLs} {x : Int32} (hdg : decode M.2.1 pc = .ok (.istore 10, 2)) (hM : 10 < M.2.2.1) (kk : xF G l M d k n Q (pc + 2) (a0 :: a1 :: a2 :: a3 :: a4 :: a5 :: a6 :: a7 :: a8 :: none :: some (.int x) :: r) st h) : xF G l M d k n Q pc (a0 :: a1 :: a2 :: a3 :: a4 :: a5 :: a6 :: a7 :: a8 :: a9 :: b :: r) (.int x :: st) h := by
  intro p e R s m args below meth c H locs cells slots ls F hL hc hs hR hS
  refine lv_istore (lv' := _) F.1 F.2.1 hdg hL hM rfl (fun ls1 hL1 => kk p e R s m args below meth c H locs cells slots ls1 F (xHas.s1 (i := 10) (v := .int x) hL1 ?_) hc hs hR hS)
  intro j w hj
  rcases Nat.lt_or_ge j 11 with q | q
  · match j, q, hj with
    | 0, _, hj => exact Or.inr ⟨by decide, by simpa using hj, fun z => absurd z.1 (by decide)⟩
    | 1, _, hj => exact Or.inr ⟨by decide, by simpa using hj, fun z => absurd z.1 (by decide)⟩
    | 2, _, hj => exact Or.inr ⟨by decide, by simpa using hj, fun z => absurd z.1 (by decide)⟩
    | 3, _, hj => exact Or.inr ⟨by decide, by simpa using hj, fun z => absurd z.1 (by decide)⟩
    | 4, _, hj => exact Or.inr ⟨by decide, by simpa using hj, fun z => absurd z.1 (by decide)⟩
    | 5, _, hj => exact Or.inr ⟨by decide, by simpa using hj, fun z => absurd z.1 (by decide)⟩
    | 6, _, hj => exact Or.inr ⟨by decide, by simpa using hj, fun z => absurd z.1 (by decide)⟩
    | 7, _, hj => exact Or.inr ⟨by decide, by simpa using hj, fun z => absurd z.1 (by decide)⟩
    | 8, _, hj => exact Or.inr ⟨by decide, by simpa using hj, fun z => absurd z.1 (by decide)⟩
    | 9, _, hj => simp at hj
    | 10, _, hj => exact Or.inl ⟨rfl, by simpa using hj.symm⟩
  · obtain ⟨j, rfl⟩ : ∃ z, j = z + 11 := ⟨j - 11, by omega⟩
    exact Or.inr ⟨by omega, by simpa using hj, fun z => absurd z.1 (by omega)⟩
theorem x_astore_10 {G : xG} {l : Launch} {M : xM} {d k n : Nat} {Q : xR → xH → Prop} {pc : Nat} {st : List Value} {h : xH} {a0 a1 a2 a3 a4 a5 a6 a7 a8 a9 : Option Value} {b : Option Value} {r : xLs} {x : Nat} (hdg : decode M.2.1 pc = .ok (.astore 10, 2)) (hM : 10 < M.2.2.1) (hn : xN2 a9) (kk : xF G l M d k n Q (pc + 2) (a0 :: a1 :: a2 :: a3 :: a4 :: a5 :: a6 :: a7 :: a8 :: a9 :: some (.ref x) :: r) st h) : xF G l M d k n Q pc (a0 :: a1 :: a2 :: a3 :: a4 :: a5 :: a6 :: a7 :: a8 :: a9 :: b :: r) (.ref x :: st) h := by
  intro p e R s m args below meth c H locs cells slots ls F hL hc hs hR hS
  refine lv_astore (lv' := _) F.1 F.2.1 hdg hL hM rfl (fun ls1 hL1 => kk p e R s m args below meth c H locs cells slots ls1 F (xHas.s1 (i := 10) (v := .ref x) hL1 ?_) hc hs hR hS)
  intro j w hj
  rcases Nat.lt_or_ge j 11 with q | q
  · match j, q, hj with
    | 0, _, hj => exact Or.inr ⟨by decide, by simpa using hj, fun z => absurd z.1 (by decide)⟩
    | 1, _, hj => exact Or.inr ⟨by decide, by simpa using hj, fun z => absurd z.1 (by decide)⟩
    | 2, _, hj => exact Or.inr ⟨by decide, by simpa using hj, fun z => absurd z.1 (by decide)⟩
    | 3, _, hj => exact Or.inr ⟨by decide, by simpa using hj, fun z => absurd z.1 (by decide)⟩
    | 4, _, hj => exact Or.inr ⟨by decide, by simpa using hj, fun z => absurd z.1 (by decide)⟩
    | 5, _, hj => exact Or.inr ⟨by decide, by simpa using hj, fun z => absurd z.1 (by decide)⟩
    | 6, _, hj => exact Or.inr ⟨by decide, by simpa using hj, fun z => absurd z.1 (by decide)⟩
    | 7, _, hj => exact Or.inr ⟨by decide, by simpa using hj, fun z => absurd z.1 (by decide)⟩
    | 8, _, hj => exact Or.inr ⟨by decide, by simpa using hj, fun z => absurd z.1 (by decide)⟩
    | 9, _, hj => exact Or.inr ⟨by decide, by simpa using hj, fun z => by have := hn w (by simpa using hj); omega⟩
    | 10, _, hj => exact Or.inl ⟨rfl, by simpa using hj.symm⟩
  · obtain ⟨j, rfl⟩ : ∃ z, j = z + 11 := ⟨j - 11, by omega⟩
    exact Or.inr ⟨by omega, by simpa using hj, fun z => absurd z.1 (by omega)⟩
theorem x_astoreC_10 {G : xG} {l : Launch} {M : xM} {d k n : Nat} {Q : xR → xH → Prop} {pc : Nat} {st : List Value} {h : xH} {a0 a1 a2 a3 a4 a5 a6 a7 a8 a9 : Option Value} {b : Option Value} {r : xLs} {x : Nat} (hdg : decode M.2.1 pc = .ok (.astore 10, 2)) (hM : 10 < M.2.2.1) (kk : xF G l M d k n Q (pc + 2) (a0 :: a1 :: a2 :: a3 :: a4 :: a5 :: a6 :: a7 :: a8 :: none :: some (.ref x) :: r) st h) : xF G l M d k n Q pc (a0 :: a1 :: a2 :: a3 :: a4 :: a5 :: a6 :: a7 :: a8 :: a9 :: b :: r) (.ref x :: st) h := by
  intro p e R s m args below meth c H locs cells slots ls F hL hc hs hR hS
  refine lv_astore (lv' := _) F.1 F.2.1 hdg hL hM rfl (fun ls1 hL1 => kk p e R s m args below meth c H locs cells slots ls1 F (xHas.s1 (i := 10) (v := .ref x) hL1 ?_) hc hs hR hS)
  intro j w hj
  rcases Nat.lt_or_ge j 11 with q | q
  · match j, q, hj with
    | 0, _, hj => exact Or.inr ⟨by decide, by simpa using hj, fun z => absurd z.1 (by decide)⟩
    | 1, _, hj => exact Or.inr ⟨by decide, by simpa using hj, fun z => absurd z.1 (by decide)⟩
    | 2, _, hj => exact Or.inr ⟨by decide, by simpa using hj, fun z => absurd z.1 (by decide)⟩
    | 3, _, hj => exact Or.inr ⟨by decide, by simpa using hj, fun z => absurd z.1 (by decide)⟩
    | 4, _, hj => exact Or.inr ⟨by decide, by simpa using hj, fun z => absurd z.1 (by decide)⟩
    | 5, _, hj => exact Or.inr ⟨by decide, by simpa using hj, fun z => absurd z.1 (by decide)⟩
    | 6, _, hj => exact Or.inr ⟨by decide, by simpa using hj, fun z => absurd z.1 (by decide)⟩
    | 7, _, hj => exact Or.inr ⟨by decide, by simpa using hj, fun z => absurd z.1 (by decide)⟩
    | 8, _, hj => exact Or.inr ⟨by decide, by simpa using hj, fun z => absurd z.1 (by decide)⟩
    | 9, _, hj => simp at hj
    | 10, _, hj => exact Or.inl ⟨rfl, by simpa using hj.symm⟩
  · obtain ⟨j, rfl⟩ : ∃ z, j = z + 11 := ⟨j - 11, by omega⟩
    exact Or.inr ⟨by omega, by simpa using hj, fun z => absurd z.1 (by omega)⟩
theorem x_astoreN_10 {G : xG} {l : Launch} {M : xM} {d k n : Nat} {Q : xR → xH → Prop} {pc : Nat} {st : List Value} {h : xH} {a0 a1 a2 a3 a4 a5 a6 a7 a8 a9 : Option Value} {b : Option Value} {r : xLs}  (hdg : decode M.2.1 pc = .ok (.astore 10, 2)) (hM : 10 < M.2.2.1) (hn : xN2 a9) (kk : xF G l M d k n Q (pc + 2) (a0 :: a1 :: a2 :: a3 :: a4 :: a5 :: a6 :: a7 :: a8 :: a9 :: some (.null) :: r) st h) : xF G l M d k n Q pc (a0 :: a1 :: a2 :: a3 :: a4 :: a5 :: a6 :: a7 :: a8 :: a9 :: b :: r) (.null :: st) h := by
  intro p e R s m args below meth c H locs cells slots ls F hL hc hs hR hS
  refine lv_astoreN (lv' := _) F.1 F.2.1 hdg hL hM rfl (fun ls1 hL1 => kk p e R s m args below meth c H locs cells slots ls1 F (xHas.s1 (i := 10) (v := .null) hL1 ?_) hc hs hR hS)
  intro j w hj
  rcases Nat.lt_or_ge j 11 with q | q
  · match j, q, hj with
    | 0, _, hj => exact Or.inr ⟨by decide, by simpa using hj, fun z => absurd z.1 (by decide)⟩
    | 1, _, hj => exact Or.inr ⟨by decide, by simpa using hj, fun z => absurd z.1 (by decide)⟩
    | 2, _, hj => exact Or.inr ⟨by decide, by simpa using hj, fun z => absurd z.1 (by decide)⟩
    | 3, _, hj => exact Or.inr ⟨by decide, by simpa using hj, fun z => absurd z.1 (by decide)⟩
    | 4, _, hj => exact Or.inr ⟨by decide, by simpa using hj, fun z => absurd z.1 (by decide)⟩
    | 5, _, hj => exact Or.inr ⟨by decide, by simpa using hj, fun z => absurd z.1 (by decide)⟩
    | 6, _, hj => exact Or.inr ⟨by decide, by simpa using hj, fun z => absurd z.1 (by decide)⟩
    | 7, _, hj => exact Or.inr ⟨by decide, by simpa using hj, fun z => absurd z.1 (by decide)⟩
    | 8, _, hj => exact Or.inr ⟨by decide, by simpa using hj, fun z => absurd z.1 (by decide)⟩
    | 9, _, hj => exact Or.inr ⟨by decide, by simpa using hj, fun z => by have := hn w (by simpa using hj); omega⟩
    | 10, _, hj => exact Or.inl ⟨rfl, by simpa using hj.symm⟩
  · obtain ⟨j, rfl⟩ : ∃ z, j = z + 11 := ⟨j - 11, by omega⟩
    exact Or.inr ⟨by omega, by simpa using hj, fun z => absurd z.1 (by omega)⟩
theorem x_astoreNC_10 {G : xG} {l : Launch} {M : xM} {d k n : Nat} {Q : xR → xH → Prop} {pc : Nat} {st : List Value} {h : xH} {a0 a1 a2 a3 a4 a5 a6 a7 a8 a9 : Option Value} {b : Option Value} {r : xLs}  (hdg : decode M.2.1 pc = .ok (.astore 10, 2)) (hM : 10 < M.2.2.1) (kk : xF G l M d k n Q (pc + 2) (a0 :: a1 :: a2 :: a3 :: a4 :: a5 :: a6 :: a7 :: a8 :: none :: some (.null) :: r) st h) : xF G l M d k n Q pc (a0 :: a1 :: a2 :: a3 :: a4 :: a5 :: a6 :: a7 :: a8 :: a9 :: b :: r) (.null :: st) h := by
  intro p e R s m args below meth c H locs cells slots ls F hL hc hs hR hS
  refine lv_astoreN (lv' := _) F.1 F.2.1 hdg hL hM rfl (fun ls1 hL1 => kk p e R s m args below meth c H locs cells slots ls1 F (xHas.s1 (i := 10) (v := .null) hL1 ?_) hc hs hR hS)
  intro j w hj
  rcases Nat.lt_or_ge j 11 with q | q
  · match j, q, hj with
    | 0, _, hj => exact Or.inr ⟨by decide, by simpa using hj, fun z => absurd z.1 (by decide)⟩
    | 1, _, hj => exact Or.inr ⟨by decide, by simpa using hj, fun z => absurd z.1 (by decide)⟩
    | 2, _, hj => exact Or.inr ⟨by decide, by simpa using hj, fun z => absurd z.1 (by decide)⟩
    | 3, _, hj => exact Or.inr ⟨by decide, by simpa using hj, fun z => absurd z.1 (by decide)⟩
    | 4, _, hj => exact Or.inr ⟨by decide, by simpa using hj, fun z => absurd z.1 (by decide)⟩
    | 5, _, hj => exact Or.inr ⟨by decide, by simpa using hj, fun z => absurd z.1 (by decide)⟩
    | 6, _, hj => exact Or.inr ⟨by decide, by simpa using hj, fun z => absurd z.1 (by decide)⟩
    | 7, _, hj => exact Or.inr ⟨by decide, by simpa using hj, fun z => absurd z.1 (by decide)⟩
    | 8, _, hj => exact Or.inr ⟨by decide, by simpa using hj, fun z => absurd z.1 (by decide)⟩
    | 9, _, hj => simp at hj
    | 10, _, hj => exact Or.inl ⟨rfl, by simpa using hj.symm⟩
  · obtain ⟨j, rfl⟩ : ∃ z, j = z + 11 := ⟨j - 11, by omega⟩
    exact Or.inr ⟨by omega, by simpa using hj, fun z => absurd z.1 (by omega)⟩
theorem x_lstore_10 {G : xG} {l : Launch} {M : xM} {d k n : Nat} {Q : xR → xH → Prop} {pc : Nat} {st : List Value} {h : xH} {a0 a1 a2 a3 a4 a5 a6 a7 a8 a9 : Option Value} {b b2 : Option Value} {r : xLs} {x : Int64} (hdg : decode M.2.1 pc = .ok (.lstore 10, 2)) (hM : 10 + 1 < M.2.2.1) (hn : xN2 a9) (kk : xF G l M d k n Q (pc + 2) (a0 :: a1 :: a2 :: a3 :: a4 :: a5 :: a6 :: a7 :: a8 :: a9 :: some (.long x) :: none :: r) st h) : xF G l M d k n Q pc (a0 :: a1 :: a2 :: a3 :: a4 :: a5 :: a6 :: a7 :: a8 :: a9 :: b :: b2 :: r) (.long x :: st) h := by
  intro p e R s m args below meth c H locs cells slots ls F hL hc hs hR hS
  refine lv_lstore (lv' := _) F.1 F.2.1 hdg hL hM rfl (fun ls1 hL1 => kk p e R s m args below meth c H locs cells slots ls1 F (xHas.s2 (i := 10) (v := .long x) hL1 ?_) hc hs hR hS)
  intro j w hj
  rcases Nat.lt_or_ge j 12 with q | q
  · match j, q, hj with
    | 0, _, hj => exact Or.inr ⟨by decide, by decide, by simpa using hj, fun z => absurd z.1 (by decide)⟩
    | 1, _, hj => exact Or.inr ⟨by decide, by decide, by simpa using hj, fun z => absurd z.1 (by decide)⟩
    | 2, _, hj => exact Or.inr ⟨by decide, by decide, by simpa using hj, fun z => absurd z.1 (by decide)⟩
    | 3, _, hj => exact Or.inr ⟨by decide, by decide, by simpa using hj, fun z => absurd z.1 (by decide)⟩
    | 4, _, hj => exact Or.inr ⟨by decide, by decide, by simpa using hj, fun z => absurd z.1 (by decide)⟩
    | 5, _, hj => exact Or.inr ⟨by decide, by decide, by simpa using hj, fun z => absurd z.1 (by decide)⟩
    | 6, _, hj => exact Or.inr ⟨by decide, by decide, by simpa using hj, fun z => absurd z.1 (by decide)⟩
    | 7, _, hj => exact Or.inr ⟨by decide, by decide, by simpa using hj, fun z => absurd z.1 (by decide)⟩
    | 8, _, hj => exact Or.inr ⟨by decide, by decide, by simpa using hj, fun z => absurd z.1 (by decide)⟩
    | 9, _, hj => exact Or.inr ⟨by decide, by decide, by simpa using hj, fun z => by have := hn w (by simpa using hj); omega⟩
    | 10, _, hj => exact Or.inl ⟨rfl, by simpa using hj.symm⟩
    | 11, _, hj => simp at hj
  · obtain ⟨j, rfl⟩ : ∃ z, j = z + 12 := ⟨j - 12, by omega⟩
    exact Or.inr ⟨by omega, by omega, by simpa using hj, fun z => absurd z.1 (by omega)⟩
theorem x_lstoreC_10 {G : xG} {l : Launch} {M : xM} {d k n : Nat} {Q : xR → xH → Prop} {pc : Nat} {st : List Value} {h : xH} {a0 a1 a2 a3 a4 a5 a6 a7 a8 a9 : Option Value} {b b2 : Option Value} {r : xLs} {x : Int64} (hdg : decode M.2.1 pc = .ok (.lstore 10, 2)) (hM : 10 + 1 < M.2.2.1) (kk : xF G l M d k n Q (pc + 2) (a0 :: a1 :: a2 :: a3 :: a4 :: a5 :: a6 :: a7 :: a8 :: none :: some (.long x) :: none :: r) st h) : xF G l M d k n Q pc (a0 :: a1 :: a2 :: a3 :: a4 :: a5 :: a6 :: a7 :: a8 :: a9 :: b :: b2 :: r) (.long x :: st) h := by
  intro p e R s m args below meth c H locs cells slots ls F hL hc hs hR hS
  refine lv_lstore (lv' := _) F.1 F.2.1 hdg hL hM rfl (fun ls1 hL1 => kk p e R s m args below meth c H locs cells slots ls1 F (xHas.s2 (i := 10) (v := .long x) hL1 ?_) hc hs hR hS)
  intro j w hj
  rcases Nat.lt_or_ge j 12 with q | q
  · match j, q, hj with
    | 0, _, hj => exact Or.inr ⟨by decide, by decide, by simpa using hj, fun z => absurd z.1 (by decide)⟩
    | 1, _, hj => exact Or.inr ⟨by decide, by decide, by simpa using hj, fun z => absurd z.1 (by decide)⟩
    | 2, _, hj => exact Or.inr ⟨by decide, by decide, by simpa using hj, fun z => absurd z.1 (by decide)⟩
    | 3, _, hj => exact Or.inr ⟨by decide, by decide, by simpa using hj, fun z => absurd z.1 (by decide)⟩
    | 4, _, hj => exact Or.inr ⟨by decide, by decide, by simpa using hj, fun z => absurd z.1 (by decide)⟩
    | 5, _, hj => exact Or.inr ⟨by decide, by decide, by simpa using hj, fun z => absurd z.1 (by decide)⟩
    | 6, _, hj => exact Or.inr ⟨by decide, by decide, by simpa using hj, fun z => absurd z.1 (by decide)⟩
    | 7, _, hj => exact Or.inr ⟨by decide, by decide, by simpa using hj, fun z => absurd z.1 (by decide)⟩
    | 8, _, hj => exact Or.inr ⟨by decide, by decide, by simpa using hj, fun z => absurd z.1 (by decide)⟩
    | 9, _, hj => simp at hj
    | 10, _, hj => exact Or.inl ⟨rfl, by simpa using hj.symm⟩
    | 11, _, hj => simp at hj
  · obtain ⟨j, rfl⟩ : ∃ z, j = z + 12 := ⟨j - 12, by omega⟩
    exact Or.inr ⟨by omega, by omega, by simpa using hj, fun z => absurd z.1 (by omega)⟩
theorem x_iinc_10 {G : xG} {l : Launch} {M : xM} {d k n : Nat} {Q : xR → xH → Prop} {pc : Nat} {st : List Value} {h : xH} {a0 a1 a2 a3 a4 a5 a6 a7 a8 a9 : Option Value} {r : xLs} {x v : Int32} {z : Int} (hdg : decode M.2.1 pc = .ok (.iinc 10 z, 3)) (hv : (Int32.ofInt z) = v) (hM : 10 < M.2.2.1) (hn : xN2 a9) (kk : xF G l M d k n Q (pc + 3) (a0 :: a1 :: a2 :: a3 :: a4 :: a5 :: a6 :: a7 :: a8 :: a9 :: some (.int (x + v)) :: r) st h) : xF G l M d k n Q pc (a0 :: a1 :: a2 :: a3 :: a4 :: a5 :: a6 :: a7 :: a8 :: a9 :: some (.int x) :: r) st h := by
  intro p e R s m args below meth c H locs cells slots ls F hL hc hs hR hS
  refine x_iincA F hL (i := 10) rfl hdg hv hM (fun ls1 hL1 => kk p e R s m args below meth c H locs cells slots ls1 F (xHas.s1 (i := 10) (v := .int (x + v)) hL1 ?_) hc hs hR hS)
  intro j w hj
  rcases Nat.lt_or_ge j 11 with q | q
  · match j, q, hj with
    | 0, _, hj => exact Or.inr ⟨by decide, by simpa using hj, fun z => absurd z.1 (by decide)⟩
    | 1, _, hj => exact Or.inr ⟨by decide, by simpa using hj, fun z => absurd z.1 (by decide)⟩
    | 2, _, hj => exact Or.inr ⟨by decide, by simpa using hj, fun z => absurd z.1 (by decide)⟩
    | 3, _, hj => exact Or.inr ⟨by decide, by simpa using hj, fun z => absurd z.1 (by decide)⟩
    | 4, _, hj => exact Or.inr ⟨by decide, by simpa using hj, fun z => absurd z.1 (by decide)⟩
    | 5, _, hj => exact Or.inr ⟨by decide, by simpa using hj, fun z => absurd z.1 (by decide)⟩
    | 6, _, hj => exact Or.inr ⟨by decide, by simpa using hj, fun z => absurd z.1 (by decide)⟩
    | 7, _, hj => exact Or.inr ⟨by decide, by simpa using hj, fun z => absurd z.1 (by decide)⟩
    | 8, _, hj => exact Or.inr ⟨by decide, by simpa using hj, fun z => absurd z.1 (by decide)⟩
    | 9, _, hj => exact Or.inr ⟨by decide, by simpa using hj, fun z => by have := hn w (by simpa using hj); omega⟩
    | 10, _, hj => exact Or.inl ⟨rfl, by simpa using hj.symm⟩
  · obtain ⟨j, rfl⟩ : ∃ z, j = z + 11 := ⟨j - 11, by omega⟩
    exact Or.inr ⟨by omega, by simpa using hj, fun z => absurd z.1 (by omega)⟩
theorem x_iload_11 {G : xG} {l : Launch} {M : xM} {d k n : Nat} {Q : xR → xH → Prop} {pc : Nat} {st : List Value} {h : xH} {a0 a1 a2 a3 a4 a5 a6 a7 a8 a9 a10 : Option Value} {r : xLs} {x : Int32} (hdg : decode M.2.1 pc = .ok (.iload 11, 2)) (kk : xF G l M d k n Q (pc + 2) (a0 :: a1 :: a2 :: a3 :: a4 :: a5 :: a6 :: a7 :: a8 :: a9 :: a10 :: some (.int x) :: r) (.int x :: st) h) : xF G l M d k n Q pc (a0 :: a1 :: a2 :: a3 :: a4 :: a5 :: a6 :: a7 :: a8 :: a9 :: a10 :: some (.int x) :: r) st h := by
  intro p e R s m args below meth c H locs cells slots ls F hL hc hs hR hS
  exact lv_iload F.1 F.2.1 hdg (hL.at (i := 11) rfl) (kk p e R s m args below meth c H locs cells slots ls F hL hc hs hR hS)
theorem x_lload_11 {G : xG} {l : Launch} {M : xM} {d k n : Nat} {Q : xR → xH → Prop} {pc : Nat} {st : List Value} {h : xH} {a0 a1 a2 a3 a4 a5 a6 a7 a8 a9 a10 : Option Value} {r : xLs} {x : Int64} (hdg : decode M.2.1 pc = .ok (.lload 11, 2)) (kk : xF G l M d k n Q (pc + 2) (a0 :: a1 :: a2 :: a3 :: a4 :: a5 :: a6 :: a7 :: a8 :: a9 :: a10 :: some (.long x) :: r) (.long x :: st) h) : xF G l M d k n Q pc (a0 :: a1 :: a2 :: a3 :: a4 :: a5 :: a6 :: a7 :: a8 :: a9 :: a10 :: some (.long x) :: r) st h := by
  intro p e R s m args below meth c H locs cells slots ls F hL hc hs hR hS
  exact lv_lload F.1 F.2.1 hdg (hL.at (i := 11) rfl) (kk p e R s m args below meth c H locs cells slots ls F hL hc hs hR hS)
theorem x_aload_11 {G : xG} {l : Launch} {M : xM} {d k n : Nat} {Q : xR → xH → Prop} {pc : Nat} {st : List Value} {h : xH} {a0 a1 a2 a3 a4 a5 a6 a7 a8 a9 a10 : Option Value} {r : xLs} {x : Nat} (hdg : decode M.2.1 pc = .ok (.aload 11, 2)) (kk : xF G l M d k n Q (pc + 2) (a0 :: a1 :: a2 :: a3 :: a4 :: a5 :: a6 :: a7 :: a8 :: a9 :: a10 :: some (.ref x) :: r) (.ref x :: st) h) : xF G l M d k n Q pc (a0 :: a1 :: a2 :: a3 :: a4 :: a5 :: a6 :: a7 :: a8 :: a9 :: a10 :: some (.ref x) :: r) st h := by
  intro p e R s m args below meth c H locs cells slots ls F hL hc hs hR hS
  exact lv_aload F.1 F.2.1 hdg (hL.at (i := 11) rfl) (kk p e R s m args below meth c H locs cells slots ls F hL hc hs hR hS)
theorem x_aloadN_11 {G : xG} {l : Launch} {M : xM} {d k n : Nat} {Q : xR → xH → Prop} {pc : Nat} {st : List Value} {h : xH} {a0 a1 a2 a3 a4 a5 a6 a7 a8 a9 a10 : Option Value} {r : xLs} (hdg : decode M.2.1 pc = .ok (.aload 11, 2)) (kk : xF G l M d k n Q (pc + 2) (a0 :: a1 :: a2 :: a3 :: a4 :: a5 :: a6 :: a7 :: a8 :: a9 :: a10 :: some .null :: r) (.null :: st) h) : xF G l M d k n Q pc (a0 :: a1 :: a2 :: a3 :: a4 :: a5 :: a6 :: a7 :: a8 :: a9 :: a10 :: some .null :: r) st h := by
  intro p e R s m args below meth c H locs cells slots ls F hL hc hs hR hS
  exact lv_aloadN F.1 F.2.1 hdg (hL.at (i := 11) rfl) (kk p e R s m args below meth c H locs cells slots ls F hL hc hs hR hS)
theorem x_istore_11 {G : xG} {l : Launch} {M : xM} {d k n : Nat} {Q : xR → xH → Prop} {pc : Nat} {st : List Value} {h : xH} {a0 a1 a2 a3 a4 a5 a6 a7 a8 a9 a10 : Option Value} {b : Option Value} {r : xLs} {x : Int32} (hdg : decode M.2.1 pc = .ok (.istore 11, 2)) (hM : 11 < M.2.2.1) (hn : xN2 a10) (kk : xF G l M d k n Q (pc + 2) (a0 :: a1 :: a2 :: a3 :: a4 :: a5 :: a6 :: a7 :: a8 :: a9 :: a10 :: some (.int x) :: r) st h) : xF G l M d k n Q pc (a0 :: a1 :: a2 :: a3 :: a4 :: a5 :: a6 :: a7 :: a8 :: a9 :: a10 :: b :: r) (.int x :: st) h := by
  intro p e R s m args below meth c H locs cells slots ls F hL hc hs hR hS
  refine lv_istore (lv' := _) F.1 F.2.1 hdg hL hM rfl (fun ls1 hL1 => kk p e R s m args below meth c H locs cells slots ls1 F (xHas.s1 (i := 11) (v := .int x) hL1 ?_) hc hs hR hS)
  intro j w hj
  rcases Nat.lt_or_ge j 12 with q | q
  · match j, q, hj with
    | 0, _, hj => exact Or.inr ⟨by decide, by simpa using hj, fun z => absurd z.1 (by decide)⟩
    | 1, _, hj => exact Or.inr ⟨by decide, by simpa using hj, fun z => absurd z.1 (by decide)⟩
    | 2, _, hj => exact Or.inr ⟨by decide, by simpa using hj, fun z => absurd z.1 (by decide)⟩
    | 3, _, hj => exact Or.inr ⟨by decide, by simpa using hj, fun z => absurd z.1 (by decide)⟩
    | 4, _, hj => exact Or.inr ⟨by decide, by simpa using hj, fun z => absurd z.1 (by decide)⟩
    | 5, _, hj => exact Or.inr ⟨by decide, by simpa using hj, fun z => absurd z.1 (by decide)⟩
    | 6, _, hj => exact Or.inr ⟨by decide, by simpa using hj, fun z => absurd z.1 (by decide)⟩
    | 7, _, hj => exact Or.inr ⟨by decide, by simpa using hj, fun z => absurd z.1 (by decide)⟩
    | 8, _, hj => exact Or.inr ⟨by decide, by simpa using hj, fun z => absurd z.1 (by decide)⟩
    | 9, _, hj => exact Or.inr ⟨by decide, by simpa using hj, fun z => absurd z.1 (by decide)⟩
    | 10, _, hj => exact Or.inr ⟨by decide, by simpa using hj, fun z => by have := hn w (by simpa using hj); omega⟩
    | 11, _, hj => exact Or.inl ⟨rfl, by simpa using hj.symm⟩
  · obtain ⟨j, rfl⟩ : ∃ z, j = z + 12 := ⟨j - 12, by omega⟩
    exact Or.inr ⟨by omega, by simpa using hj, fun z => absurd z.1 (by omega)⟩
theorem x_istoreC_11 {G : xG} {l : Launch} {M : xM} {d k n : Nat} {Q : xR → xH → Prop} {pc : Nat} {st : List Value} {h : xH} {a0 a1 a2 a3 a4 a5 a6 a7 a8 a9 a10 : Option Value} {b : Option Value} {r : xLs} {x : Int32} (hdg : decode M.2.1 pc = .ok (.istore 11, 2)) (hM : 11 < M.2.2.1) (kk : xF G l M d k n Q (pc + 2) (a0 :: a1 :: a2 :: a3 :: a4 :: a5 :: a6 :: a7 :: a8 :: a9 :: none :: some (.int x) :: r) st h) : xF G l M d k n Q pc (a0 :: a1 :: a2 :: a3 :: a4 :: a5 :: a6 :: a7 :: a8 :: a9 :: a10 :: b :: r) (.int x :: st) h := by
  intro p e R s m args below meth c H locs cells slots ls F hL hc hs hR hS
  refine lv_istore (lv' := _) F.1 F.2.1 hdg hL hM rfl (fun ls1 hL1 => kk p e R s m args below meth c H locs cells slots ls1 F (xHas.s1 (i := 11) (v := .int x) hL1 ?_) hc hs hR hS)
  intro j w hj
  rcases Nat.lt_or_ge j 12 with q | q
  · match j, q, hj with
    | 0, _, hj => exact Or.inr ⟨by decide, by simpa using hj, fun z => absurd z.1 (by decide)⟩
    | 1, _, hj => exact Or.inr ⟨by decide, by simpa using hj, fun z => absurd z.1 (by decide)⟩
    | 2, _, hj => exact Or.inr ⟨by decide, by simpa using hj, fun z => absurd z.1 (by decide)⟩
    | 3, _, hj => exact Or.inr ⟨by decide, by simpa using hj, fun z => absurd z.1 (by decide)⟩
    | 4, _, hj => exact Or.inr ⟨by decide, by simpa using hj, fun z => absurd z.1 (by decide)⟩
    | 5, _, hj => exact Or.inr ⟨by decide, by simpa using hj, fun z => absurd z.1 (by decide)⟩
    | 6, _, hj => exact Or.inr ⟨by decide, by simpa using hj, fun z => absurd z.1 (by decide)⟩
    | 7, _, hj => exact Or.inr ⟨by decide, by simpa using hj, fun z => absurd z.1 (by decide)⟩
    | 8, _, hj => exact Or.inr ⟨by decide, by simpa using hj, fun z => absurd z.1 (by decide)⟩
    | 9, _, hj => exact Or.inr ⟨by decide, by simpa using hj, fun z => absurd z.1 (by decide)⟩
    | 10, _, hj => simp at hj
    | 11, _, hj => exact Or.inl ⟨rfl, by simpa using hj.symm⟩
  · obtain ⟨j, rfl⟩ : ∃ z, j = z + 12 := ⟨j - 12, by omega⟩
    exact Or.inr ⟨by omega, by simpa using hj, fun z => absurd z.1 (by omega)⟩
theorem x_astore_11 {G : xG} {l : Launch} {M : xM} {d k n : Nat} {Q : xR → xH → Prop} {pc : Nat} {st : List Value} {h : xH} {a0 a1 a2 a3 a4 a5 a6 a7 a8 a9 a10 : Option Value} {b : Option Value} {r : xLs} {x : Nat} (hdg : decode M.2.1 pc = .ok (.astore 11, 2)) (hM : 11 < M.2.2.1) (hn : xN2 a10) (kk : xF G l M d k n Q (pc + 2) (a0 :: a1 :: a2 :: a3 :: a4 :: a5 :: a6 :: a7 :: a8 :: a9 :: a10 :: some (.ref x) :: r) st h) : xF G l M d k n Q pc (a0 :: a1 :: a2 :: a3 :: a4 :: a5 :: a6 :: a7 :: a8 :: a9 :: a10 :: b :: r) (.ref x :: st) h := by
  intro p e R s m args below meth c H locs cells slots ls F hL hc hs hR hS
  refine lv_astore (lv' := _) F.1 F.2.1 hdg hL hM rfl (fun ls1 hL1 => kk p e R s m args below meth c H locs cells slots ls1 F (xHas.s1 (i := 11) (v := .ref x) hL1 ?_) hc hs hR hS)
  intro j w hj
  rcases Nat.lt_or_ge j 12 with q | q
  · match j, q, hj with
    | 0, _, hj => exact Or.inr ⟨by decide, by simpa using hj, fun z => absurd z.1 (by decide)⟩
    | 1, _, hj => exact Or.inr ⟨by decide, by simpa using hj, fun z => absurd z.1 (by decide)⟩
    | 2, _, hj => exact Or.inr ⟨by decide, by simpa using hj, fun z => absurd z.1 (by decide)⟩
    | 3, _, hj => exact Or.inr ⟨by decide, by simpa using hj, fun z => absurd z.1 (by decide)⟩
    | 4, _, hj => exact Or.inr ⟨by decide, by simpa using hj, fun z => absurd z.1 (by decide)⟩
    | 5, _, hj => exact Or.inr ⟨by decide, by simpa using hj, fun z => absurd z.1 (by decide)⟩
    | 6, _, hj => exact Or.inr ⟨by decide, by simpa using hj, fun z => absurd z.1 (by decide)⟩
    | 7, _, hj => exact Or.inr ⟨by decide, by simpa using hj, fun z => absurd z.1 (by decide)⟩
    | 8, _, hj => exact Or.inr ⟨by decide, by simpa using hj, fun z => absurd z.1 (by decide)⟩
    | 9, _, hj => exact Or.inr ⟨by decide, by simpa using hj, fun z => absurd z.1 (by decide)⟩
    | 10, _, hj => exact Or.inr ⟨by decide, by simpa using hj, fun z => by have := hn w (by simpa using hj); omega⟩
    | 11, _, hj => exact Or.inl ⟨rfl, by simpa using hj.symm⟩
  · obtain ⟨j, rfl⟩ : ∃ z, j = z + 12 := ⟨j - 12, by omega⟩
    exact Or.inr ⟨by omega, by simpa using hj, fun z => absurd z.1 (by omega)⟩
theorem x_astoreC_11 {G : xG} {l : Launch} {M : xM} {d k n : Nat} {Q : xR → xH → Prop} {pc : Nat} {st : List Value} {h : xH} {a0 a1 a2 a3 a4 a5 a6 a7 a8 a9 a10 : Option Value} {b : Option Value} {r : xLs} {x : Nat} (hdg : decode M.2.1 pc = .ok (.astore 11, 2)) (hM : 11 < M.2.2.1) (kk : xF G l M d k n Q (pc + 2) (a0 :: a1 :: a2 :: a3 :: a4 :: a5 :: a6 :: a7 :: a8 :: a9 :: none :: some (.ref x) :: r) st h) : xF G l M d k n Q pc (a0 :: a1 :: a2 :: a3 :: a4 :: a5 :: a6 :: a7 :: a8 :: a9 :: a10 :: b :: r) (.ref x :: st) h := by
  intro p e R s m args below meth c H locs cells slots ls F hL hc hs hR hS
  refine lv_astore (lv' := _) F.1 F.2.1 hdg hL hM rfl (fun ls1 hL1 => kk p e R s m args below meth c H locs cells slots ls1 F (xHas.s1 (i := 11) (v := .ref x) hL1 ?_) hc hs hR hS)
  intro j w hj
  rcases Nat.lt_or_ge j 12 with q | q
  · match j, q, hj with
    | 0, _, hj => exact Or.inr ⟨by decide, by simpa using hj, fun z => absurd z.1 (by decide)⟩
    | 1, _, hj => exact Or.inr ⟨by decide, by simpa using hj, fun z => absurd z.1 (by decide)⟩
    | 2, _, hj => exact Or.inr ⟨by decide, by simpa using hj, fun z => absurd z.1 (by decide)⟩
    | 3, _, hj => exact Or.inr ⟨by decide, by simpa using hj, fun z => absurd z.1 (by decide)⟩
    | 4, _, hj => exact Or.inr ⟨by decide, by simpa using hj, fun z => absurd z.1 (by decide)⟩
    | 5, _, hj => exact Or.inr ⟨by decide, by simpa using hj, fun z => absurd z.1 (by decide)⟩
    | 6, _, hj => exact Or.inr ⟨by decide, by simpa using hj, fun z => absurd z.1 (by decide)⟩
    | 7, _, hj => exact Or.inr ⟨by decide, by simpa using hj, fun z => absurd z.1 (by decide)⟩
    | 8, _, hj => exact Or.inr ⟨by decide, by simpa using hj, fun z => absurd z.1 (by decide)⟩
    | 9, _, hj => exact Or.inr ⟨by decide, by simpa using hj, fun z => absurd z.1 (by decide)⟩
    | 10, _, hj => simp at hj
    | 11, _, hj => exact Or.inl ⟨rfl, by simpa using hj.symm⟩
  · obtain ⟨j, rfl⟩ : ∃ z, j = z + 12 := ⟨j - 12, by omega⟩
    exact Or.inr ⟨by omega, by simpa using hj, fun z => absurd z.1 (by omega)⟩
theorem x_astoreN_11 {G : xG} {l : Launch} {M : xM} {d k n : Nat} {Q : xR → xH → Prop} {pc : Nat} {st : List Value} {h : xH} {a0 a1 a2 a3 a4 a5 a6 a7 a8 a9 a10 : Option Value} {b : Option Value} {r : xLs}  (hdg : decode M.2.1 pc = .ok (.astore 11, 2)) (hM : 11 < M.2.2.1) (hn : xN2 a10) (kk : xF G l M d k n Q (pc + 2) (a0 :: a1 :: a2 :: a3 :: a4 :: a5 :: a6 :: a7 :: a8 :: a9 :: a10 :: some (.null) :: r) st h) : xF G l M d k n Q pc (a0 :: a1 :: a2 :: a3 :: a4 :: a5 :: a6 :: a7 :: a8 :: a9 :: a10 :: b :: r) (.null :: st) h := by
  intro p e R s m args below meth c H locs cells slots ls F hL hc hs hR hS
  refine lv_astoreN (lv' := _) F.1 F.2.1 hdg hL hM rfl (fun ls1 hL1 => kk p e R s m args below meth c H locs cells slots ls1 F (xHas.s1 (i := 11) (v := .null) hL1 ?_) hc hs hR hS)
  intro j w hj
  rcases Nat.lt_or_ge j 12 with q | q
  · match j, q, hj with
    | 0, _, hj => exact Or.inr ⟨by decide, by simpa using hj, fun z => absurd z.1 (by decide)⟩
    | 1, _, hj => exact Or.inr ⟨by decide, by simpa using hj, fun z => absurd z.1 (by decide)⟩
    | 2, _, hj => exact Or.inr ⟨by decide, by simpa using hj, fun z => absurd z.1 (by decide)⟩
    | 3, _, hj => exact Or.inr ⟨by decide, by simpa using hj, fun z => absurd z.1 (by decide)⟩
    | 4, _, hj => exact Or.inr ⟨by decide, by simpa using hj, fun z => absurd z.1 (by decide)⟩
    | 5, _, hj => exact Or.inr ⟨by decide, by simpa using hj, fun z => absurd z.1 (by decide)⟩
    | 6, _, hj => exact Or.inr ⟨by decide, by simpa using hj, fun z => absurd z.1 (by decide)⟩
    | 7, _, hj => exact Or.inr ⟨by decide, by simpa using hj, fun z => absurd z.1 (by decide)⟩
    | 8, _, hj => exact Or.inr ⟨by decide, by simpa using hj, fun z => absurd z.1 (by decide)⟩
    | 9, _, hj => exact Or.inr ⟨by decide, by simpa using hj, fun z => absurd z.1 (by decide)⟩
    | 10, _, hj => exact Or.inr ⟨by decide, by simpa using hj, fun z => by have := hn w (by simpa using hj); omega⟩
    | 11, _, hj => exact Or.inl ⟨rfl, by simpa using hj.symm⟩
  · obtain ⟨j, rfl⟩ : ∃ z, j = z + 12 := ⟨j - 12, by omega⟩
    exact Or.inr ⟨by omega, by simpa using hj, fun z => absurd z.1 (by omega)⟩
theorem x_astoreNC_11 {G : xG} {l : Launch} {M : xM} {d k n : Nat} {Q : xR → xH → Prop} {pc : Nat} {st : List Value} {h : xH} {a0 a1 a2 a3 a4 a5 a6 a7 a8 a9 a10 : Option Value} {b : Option Value} {r : xLs}  (hdg : decode M.2.1 pc = .ok (.astore 11, 2)) (hM : 11 < M.2.2.1) (kk : xF G l M d k n Q (pc + 2) (a0 :: a1 :: a2 :: a3 :: a4 :: a5 :: a6 :: a7 :: a8 :: a9 :: none :: some (.null) :: r) st h) : xF G l M d k n Q pc (a0 :: a1 :: a2 :: a3 :: a4 :: a5 :: a6 :: a7 :: a8 :: a9 :: a10 :: b :: r) (.null :: st) h := by
  intro p e R s m args below meth c H locs cells slots ls F hL hc hs hR hS
  refine lv_astoreN (lv' := _) F.1 F.2.1 hdg hL hM rfl (fun ls1 hL1 => kk p e R s m args below meth c H locs cells slots ls1 F (xHas.s1 (i := 11) (v := .null) hL1 ?_) hc hs hR hS)
  intro j w hj
  rcases Nat.lt_or_ge j 12 with q | q
  · match j, q, hj with
    | 0, _, hj => exact Or.inr ⟨by decide, by simpa using hj, fun z => absurd z.1 (by decide)⟩
    | 1, _, hj => exact Or.inr ⟨by decide, by simpa using hj, fun z => absurd z.1 (by decide)⟩
    | 2, _, hj => exact Or.inr ⟨by decide, by simpa using hj, fun z => absurd z.1 (by decide)⟩
    | 3, _, hj => exact Or.inr ⟨by decide, by simpa using hj, fun z => absurd z.1 (by decide)⟩
    | 4, _, hj => exact Or.inr ⟨by decide, by simpa using hj, fun z => absurd z.1 (by decide)⟩
    | 5, _, hj => exact Or.inr ⟨by decide, by simpa using hj, fun z => absurd z.1 (by decide)⟩
    | 6, _, hj => exact Or.inr ⟨by decide, by simpa using hj, fun z => absurd z.1 (by decide)⟩
    | 7, _, hj => exact Or.inr ⟨by decide, by simpa using hj, fun z => absurd z.1 (by decide)⟩
    | 8, _, hj => exact Or.inr ⟨by decide, by simpa using hj, fun z => absurd z.1 (by decide)⟩
    | 9, _, hj => exact Or.inr ⟨by decide, by simpa using hj, fun z => absurd z.1 (by decide)⟩
    | 10, _, hj => simp at hj
    | 11, _, hj => exact Or.inl ⟨rfl, by simpa using hj.symm⟩
  · obtain ⟨j, rfl⟩ : ∃ z, j = z + 12 := ⟨j - 12, by omega⟩
    exact Or.inr ⟨by omega, by simpa using hj, fun z => absurd z.1 (by omega)⟩
theorem x_lstore_11 {G : xG} {l : Launch} {M : xM} {d k n : Nat} {Q : xR → xH → Prop} {pc : Nat} {st : List Value} {h : xH} {a0 a1 a2 a3 a4 a5 a6 a7 a8 a9 a10 : Option Value} {b b2 : Option Value} {r : xLs} {x : Int64} (hdg : decode M.2.1 pc = .ok (.lstore 11, 2)) (hM : 11 + 1 < M.2.2.1) (hn : xN2 a10) (kk : xF G l M d k n Q (pc + 2) (a0 :: a1 :: a2 :: a3 :: a4 :: a5 :: a6 :: a7 :: a8 :: a9 :: a10 :: some (.long x) :: none :: r) st h) : xF G l M d k n Q pc (a0 :: a1 :: a2 :: a3 :: a4 :: a5 :: a6 :: a7 :: a8 :: a9 :: a10 :: b :: b2 :: r) (.long x :: st) h := by
  intro p e R s m args below meth c H locs cells slots ls F hL hc hs hR hS
  refine lv_lstore (lv' := _) F.1 F.2.1 hdg hL hM rfl (fun ls1 hL1 => kk p e R s m args below meth c H locs cells slots ls1 F (xHas.s2 (i := 11) (v := .long x) hL1 ?_) hc hs hR hS)
  intro j w hj
  rcases Nat.lt_or_ge j 13 with q | q
  · match j, q, hj with
    | 0, _, hj => exact Or.inr ⟨by decide, by decide, by simpa using hj, fun z => absurd z.1 (by decide)⟩
    | 1, _, hj => exact Or.inr ⟨by decide, by decide, by simpa using hj, fun z => absurd z.1 (by decide)⟩
    | 2, _, hj => exact Or.inr ⟨by decide, by decide, by simpa using hj, fun z => absurd z.1 (by decide)⟩
    | 3, _, hj => exact Or.inr ⟨by decide, by decide, by simpa using hj, fun z => absurd z.1 (by decide)⟩
    | 4, _, hj => exact Or.inr ⟨by decide, by decide, by simpa using hj, fun z => absurd z.1 (by decide)⟩
    | 5, _, hj => exact Or.inr ⟨by decide, by decide, by simpa using hj, fun z => absurd z.1 (by decide)⟩
    | 6, _, hj => exact Or.inr ⟨by decide, by decide, by simpa using hj, fun z => absurd z.1 (by decide)⟩
    | 7, _, hj => exact Or.inr ⟨by decide, by decide, by simpa using hj, fun z => absurd z.1 (by decide)⟩
    | 8, _, hj => exact Or.inr ⟨by decide, by decide, by simpa using hj, fun z => absurd z.1 (by decide)⟩
    | 9, _, hj => exact Or.inr ⟨by decide, by decide, by simpa using hj, fun z => absurd z.1 (by decide)⟩
    | 10, _, hj => exact Or.inr ⟨by decide, by decide, by simpa using hj, fun z => by have := hn w (by simpa using hj); omega⟩
    | 11, _, hj => exact Or.inl ⟨rfl, by simpa using hj.symm⟩
    | 12, _, hj => simp at hj
  · obtain ⟨j, rfl⟩ : ∃ z, j = z + 13 := ⟨j - 13, by omega⟩
    exact Or.inr ⟨by omega, by omega, by simpa using hj, fun z => absurd z.1 (by omega)⟩
theorem x_lstoreC_11 {G : xG} {l : Launch} {M : xM} {d k n : Nat} {Q : xR → xH → Prop} {pc : Nat} {st : List Value} {h : xH} {a0 a1 a2 a3 a4 a5 a6 a7 a8 a9 a10 : Option Value} {b b2 : Option Value} {r : xLs} {x : Int64} (hdg : decode M.2.1 pc = .ok (.lstore 11, 2)) (hM : 11 + 1 < M.2.2.1) (kk : xF G l M d k n Q (pc + 2) (a0 :: a1 :: a2 :: a3 :: a4 :: a5 :: a6 :: a7 :: a8 :: a9 :: none :: some (.long x) :: none :: r) st h) : xF G l M d k n Q pc (a0 :: a1 :: a2 :: a3 :: a4 :: a5 :: a6 :: a7 :: a8 :: a9 :: a10 :: b :: b2 :: r) (.long x :: st) h := by
  intro p e R s m args below meth c H locs cells slots ls F hL hc hs hR hS
  refine lv_lstore (lv' := _) F.1 F.2.1 hdg hL hM rfl (fun ls1 hL1 => kk p e R s m args below meth c H locs cells slots ls1 F (xHas.s2 (i := 11) (v := .long x) hL1 ?_) hc hs hR hS)
  intro j w hj
  rcases Nat.lt_or_ge j 13 with q | q
  · match j, q, hj with
    | 0, _, hj => exact Or.inr ⟨by decide, by decide, by simpa using hj, fun z => absurd z.1 (by decide)⟩
    | 1, _, hj => exact Or.inr ⟨by decide, by decide, by simpa using hj, fun z => absurd z.1 (by decide)⟩
    | 2, _, hj => exact Or.inr ⟨by decide, by decide, by simpa using hj, fun z => absurd z.1 (by decide)⟩
    | 3, _, hj => exact Or.inr ⟨by decide, by decide, by simpa using hj, fun z => absurd z.1 (by decide)⟩
    | 4, _, hj => exact Or.inr ⟨by decide, by decide, by simpa using hj, fun z => absurd z.1 (by decide)⟩
    | 5, _, hj => exact Or.inr ⟨by decide, by decide, by simpa using hj, fun z => absurd z.1 (by decide)⟩
    | 6, _, hj => exact Or.inr ⟨by decide, by decide, by simpa using hj, fun z => absurd z.1 (by decide)⟩
    | 7, _, hj => exact Or.inr ⟨by decide, by decide, by simpa using hj, fun z => absurd z.1 (by decide)⟩
    | 8, _, hj => exact Or.inr ⟨by decide, by decide, by simpa using hj, fun z => absurd z.1 (by decide)⟩
    | 9, _, hj => exact Or.inr ⟨by decide, by decide, by simpa using hj, fun z => absurd z.1 (by decide)⟩
    | 10, _, hj => simp at hj
    | 11, _, hj => exact Or.inl ⟨rfl, by simpa using hj.symm⟩
    | 12, _, hj => simp at hj
  · obtain ⟨j, rfl⟩ : ∃ z, j = z + 13 := ⟨j - 13, by omega⟩
    exact Or.inr ⟨by omega, by omega, by simpa using hj, fun z => absurd z.1 (by omega)⟩
theorem x_iinc_11 {G : xG} {l : Launch} {M : xM} {d k n : Nat} {Q : xR → xH → Prop} {pc : Nat} {st : List Value} {h : xH} {a0 a1 a2 a3 a4 a5 a6 a7 a8 a9 a10 : Option Value} {r : xLs} {x v : Int32} {z : Int} (hdg : decode M.2.1 pc = .ok (.iinc 11 z, 3)) (hv : (Int32.ofInt z) = v) (hM : 11 < M.2.2.1) (hn : xN2 a10) (kk : xF G l M d k n Q (pc + 3) (a0 :: a1 :: a2 :: a3 :: a4 :: a5 :: a6 :: a7 :: a8 :: a9 :: a10 :: some (.int (x + v)) :: r) st h) : xF G l M d k n Q pc (a0 :: a1 :: a2 :: a3 :: a4 :: a5 :: a6 :: a7 :: a8 :: a9 :: a10 :: some (.int x) :: r) st h := by
  intro p e R s m args below meth c H locs cells slots ls F hL hc hs hR hS
  refine x_iincA F hL (i := 11) rfl hdg hv hM (fun ls1 hL1 => kk p e R s m args below meth c H locs cells slots ls1 F (xHas.s1 (i := 11) (v := .int (x + v)) hL1 ?_) hc hs hR hS)
  intro j w hj
  rcases Nat.lt_or_ge j 12 with q | q
  · match j, q, hj with
    | 0, _, hj => exact Or.inr ⟨by decide, by simpa using hj, fun z => absurd z.1 (by decide)⟩
    | 1, _, hj => exact Or.inr ⟨by decide, by simpa using hj, fun z => absurd z.1 (by decide)⟩
    | 2, _, hj => exact Or.inr ⟨by decide, by simpa using hj, fun z => absurd z.1 (by decide)⟩
    | 3, _, hj => exact Or.inr ⟨by decide, by simpa using hj, fun z => absurd z.1 (by decide)⟩
    | 4, _, hj => exact Or.inr ⟨by decide, by simpa using hj, fun z => absurd z.1 (by decide)⟩
    | 5, _, hj => exact Or.inr ⟨by decide, by simpa using hj, fun z => absurd z.1 (by decide)⟩
    | 6, _, hj => exact Or.inr ⟨by decide, by simpa using hj, fun z => absurd z.1 (by decide)⟩
    | 7, _, hj => exact Or.inr ⟨by decide, by simpa using hj, fun z => absurd z.1 (by decide)⟩
    | 8, _, hj => exact Or.inr ⟨by decide, by simpa using hj, fun z => absurd z.1 (by decide)⟩
    | 9, _, hj => exact Or.inr ⟨by decide, by simpa using hj, fun z => absurd z.1 (by decide)⟩
    | 10, _, hj => exact Or.inr ⟨by decide, by simpa using hj, fun z => by have := hn w (by simpa using hj); omega⟩
    | 11, _, hj => exact Or.inl ⟨rfl, by simpa using hj.symm⟩
  · obtain ⟨j, rfl⟩ : ∃ z, j = z + 12 := ⟨j - 12, by omega⟩
    exact Or.inr ⟨by omega, by simpa using hj, fun z => absurd z.1 (by omega)⟩
theorem x_iload_12 {G : xG} {l : Launch} {M : xM} {d k n : Nat} {Q : xR → xH → Prop} {pc : Nat} {st : List Value} {h : xH} {a0 a1 a2 a3 a4 a5 a6 a7 a8 a9 a10 a11 : Option Value} {r : xLs} {x : Int32} (hdg : decode M.2.1 pc = .ok (.iload 12, 2)) (kk : xF G l M d k n Q (pc + 2) (a0 :: a1 :: a2 :: a3 :: a4 :: a5 :: a6 :: a7 :: a8 :: a9 :: a10 :: a11 :: some (.int x) :: r) (.int x :: st) h) : xF G l M d k n Q pc (a0 :: a1 :: a2 :: a3 :: a4 :: a5 :: a6 :: a7 :: a8 :: a9 :: a10 :: a11 :: some (.int x) :: r) st h := by
  intro p e R s m args below meth c H locs cells slots ls F hL hc hs hR hS
  exact lv_iload F.1 F.2.1 hdg (hL.at (i := 12) rfl) (kk p e R s m args below meth c H locs cells slots ls F hL hc hs hR hS)
theorem x_lload_12 {G : xG} {l : Launch} {M : xM} {d k n : Nat} {Q : xR → xH → Prop} {pc : Nat} {st : List Value} {h : xH} {a0 a1 a2 a3 a4 a5 a6 a7 a8 a9 a10 a11 : Option Value} {r : xLs} {x : Int64} (hdg : decode M.2.1 pc = .ok (.lload 12, 2)) (kk : xF G l M d k n Q (pc + 2) (a0 :: a1 :: a2 :: a3 :: a4 :: a5 :: a6 :: a7 :: a8 :: a9 :: a10 :: a11 :: some (.long x) :: r) (.long x :: st) h) : xF G l M d k n Q pc (a0 :: a1 :: a2 :: a3 :: a4 :: a5 :: a6 :: a7 :: a8 :: a9 :: a10 :: a11 :: some (.long x) :: r) st h := by
  intro p e R s m args below meth c H locs cells slots ls F hL hc hs hR hS
  exact lv_lload F.1 F.2.1 hdg (hL.at (i := 12) rfl) (kk p e R s m args below meth c H locs cells slots ls F hL hc hs hR hS)
theorem x_aload_12 {G : xG} {l : Launch} {M : xM} {d k n : Nat} {Q : xR → xH → Prop} {pc : Nat} {st : List Value} {h : xH} {a0 a1 a2 a3 a4 a5 a6 a7 a8 a9 a10 a11 : Option Value} {r : xLs} {x : Nat} (hdg : decode M.2.1 pc = .ok (.aload 12, 2)) (kk : xF G l M d k n Q (pc + 2) (a0 :: a1 :: a2 :: a3 :: a4 :: a5 :: a6 :: a7 :: a8 :: a9 :: a10 :: a11 :: some (.ref x) :: r) (.ref x :: st) h) : xF G l M d k n Q pc (a0 :: a1 :: a2 :: a3 :: a4 :: a5 :: a6 :: a7 :: a8 :: a9 :: a10 :: a11 :: some (.ref x) :: r) st h := by
  intro p e R s m args below meth c H locs cells slots ls F hL hc hs hR hS
  exact lv_aload F.1 F.2.1 hdg (hL.at (i := 12) rfl) (kk p e R s m args below meth c H locs cells slots ls F hL hc hs hR hS)
theorem x_aloadN_12 {G : xG} {l : Launch} {M : xM} {d k n : Nat} {Q : xR → xH → Prop} {pc : Nat} {st : List Value} {h : xH} {a0 a1 a2 a3 a4 a5 a6 a7 a8 a9 a10 a11 : Option Value} {r : xLs} (hdg : decode M.2.1 pc = .ok (.aload 12, 2)) (kk : xF G l M d k n Q (pc + 2) (a0 :: a1 :: a2 :: a3 :: a4 :: a5 :: a6 :: a7 :: a8 :: a9 :: a10 :: a11 :: some .null :: r) (.null :: st) h) : xF G l M d k n Q pc (a0 :: a1 :: a2 :: a3 :: a4 :: a5 :: a6 :: a7 :: a8 :: a9 :: a10 :: a11 :: some .null :: r) st h := by
  intro p e R s m args below meth c H locs cells slots ls F hL hc hs hR hS
  exact lv_aloadN F.1 F.2.1 hdg (hL.at (i := 12) rfl) (kk p e R s m args below meth c H locs cells slots ls F hL hc hs hR hS)
theorem x_istore_12 {G : xG} {l : Launch} {M : xM} {d k n : Nat} {Q : xR → xH → Prop} {pc : Nat} {st : List Value} {h : xH} {a0 a1 a2 a3 a4 a5 a6 a7 a8 a9 a10 a11 : Option Value} {b : Option Value} {r : xLs} {x : Int32} (hdg : decode M.2.1 pc = .ok (.istore 12, 2)) (hM : 12 < M.2.2.1) (hn : xN2 a11) (kk : xF G l M d k n Q (pc + 2) (a0 :: a1 :: a2 :: a3 :: a4 :: a5 :: a6 :: a7 :: a8 :: a9 :: a10 :: a11 :: some (.int x) :: r) st h) : xF G l M d k n Q pc (a0 :: a1 :: a2 :: a3 :: a4 :: a5 :: a6 :: a7 :: a8 :: a9 :: a10 :: a11 :: b :: r) (.int x :: st) h := by
  intro p e R s m args below meth c H locs cells slots ls F hL hc hs hR hS
  refine lv_istore (lv' := _) F.1 F.2.1 hdg hL hM rfl (fun ls1 hL1 => kk p e R s m args below meth c H locs cells slots ls1 F (xHas.s1 (i := 12) (v := .int x) hL1 ?_) hc hs hR hS)
  intro j w hj
  rcases Nat.lt_or_ge j 13 with q | q
  · match j, q, hj with
    | 0, _, hj => exact Or.inr ⟨by decide, by simpa using hj, fun z => absurd z.1 (by decide)⟩
    | 1, _, hj => exact Or.inr ⟨by decide, by simpa using hj, fun z => absurd z.1 (by decide)⟩
    | 2, _, hj => exact Or.inr ⟨by decide, by simpa using hj, fun z => absurd z.1 (by decide)⟩
    | 3, _, hj => exact Or.inr ⟨by decide, by simpa using hj, fun z => absurd z.1 (by decide)⟩
    | 4, _, hj => exact Or.inr ⟨by decide, by simpa using hj, fun z => absurd z.1 (by decide)⟩
    | 5, _, hj => exact Or.inr ⟨by decide, by simpa using hj, fun z => absurd z.1 (by decide)⟩
    | 6, _, hj => exact Or.inr ⟨by decide, by simpa using hj, fun z => absurd z.1 (by decide)⟩
    | 7, _, hj => exact Or.inr ⟨by decide, by simpa using hj, fun z => absurd z.1 (by decide)⟩
    | 8, _, hj => exact Or.inr ⟨by decide, by simpa using hj, fun z => absurd z.1 (by decide)⟩
    | 9, _, hj => exact Or.inr ⟨by decide, by simpa using hj, fun z => absurd z.1 (by decide)⟩
    | 10, _, hj => exact Or.inr ⟨by decide, by simpa using hj, fun z => absurd z.1 (by decide)⟩
    | 11, _, hj => exact Or.inr ⟨by decide, by simpa using hj, fun z => by have := hn w (by simpa using hj); omega⟩
    | 12, _, hj => exact Or.inl ⟨rfl, by simpa using hj.symm⟩
  · obtain ⟨j, rfl⟩ : ∃ z, j = z + 13 := ⟨j - 13, by omega⟩
    exact Or.inr ⟨by omega, by simpa using hj, fun z => absurd z.1 (by omega)⟩
theorem x_istoreC_12 {G : xG} {l : Launch} {M : xM} {d k n : Nat} {Q : xR → xH → Prop} {pc : Nat} {st : List Value} {h : xH} {a0 a1 a2 a3 a4 a5 a6 a7 a8 a9 a10 a11 : Option Value} {b : Option Value} {r : xLs} {x : Int32} (hdg : decode M.2.1 pc = .ok (.istore 12, 2)) (hM : 12 < M.2.2.1) (kk : xF G l M d k n Q (pc + 2) (a0 :: a1 :: a2 :: a3 :: a4 :: a5 :: a6 :: a7 :: a8 :: a9 :: a10 :: none :: some (.int x) :: r) st h) : xF G l M d k n Q pc (a0 :: a1 :: a2 :: a3 :: a4 :: a5 :: a6 :: a7 :: a8 :: a9 :: a10 :: a11 :: b :: r) (.int x :: st) h := by
  intro p e R s m args below meth c H locs cells slots ls F hL hc hs hR hS
  refine lv_istore (lv' := _) F.1 F.2.1 hdg hL hM rfl (fun ls1 hL1 => kk p e R s m args below meth c H locs cells slots ls1 F (xHas.s1 (i := 12) (v := .int x) hL1 ?_) hc hs hR hS)
  intro j w hj
  rcases Nat.lt_or_ge j 13 with q | q
  · match j, q, hj with
    | 0, _, hj => exact Or.inr ⟨by decide, by simpa using hj, fun z => absurd z.1 (by decide)⟩
    | 1, _, hj => exact Or.inr ⟨by decide, by simpa using hj, fun z => absurd z.1 (by decide)⟩
    | 2, _, hj => exact Or.inr ⟨by decide, by simpa using hj, fun z => absurd z.1 (by decide)⟩
    | 3, _, hj => exact Or.inr ⟨by decide, by simpa using hj, fun z => absurd z.1 (by decide)⟩
    | 4, _, hj => exact Or.inr ⟨by decide, by simpa using hj, fun z => absurd z.1 (by decide)⟩
    | 5, _, hj => exact Or.inr ⟨by decide, by simpa using hj, fun z => absurd z.1 (by decide)⟩
    | 6, _, hj => exact Or.inr ⟨by decide, by simpa using hj, fun z => absurd z.1 (by decide)⟩
    | 7, _, hj => exact Or.inr ⟨by decide, by simpa using hj, fun z => absurd z.1 (by decide)⟩
    | 8, _, hj => exact Or.inr ⟨by decide, by simpa using hj, fun z => absurd z.1 (by decide)⟩
    | 9, _, hj => exact Or.inr ⟨by decide, by simpa using hj, fun z => absurd z.1 (by decide)⟩
    | 10, _, hj => exact Or.inr ⟨by decide, by simpa using hj, fun z => absurd z.1 (by decide)⟩
    | 11, _, hj => simp at hj
    | 12, _, hj => exact Or.inl ⟨rfl, by simpa using hj.symm⟩
  · obtain ⟨j, rfl⟩ : ∃ z, j = z + 13 := ⟨j - 13, by omega⟩
    exact Or.inr ⟨by omega, by simpa using hj, fun z => absurd z.1 (by omega)⟩
theorem x_astore_12 {G : xG} {l : Launch} {M : xM} {d k n : Nat} {Q : xR → xH → Prop} {pc : Nat} {st : List Value} {h : xH} {a0 a1 a2 a3 a4 a5 a6 a7 a8 a9 a10 a11 : Option Value} {b : Option Value} {r : xLs} {x : Nat} (hdg : decode M.2.1 pc = .ok (.astore 12, 2)) (hM : 12 < M.2.2.1) (hn : xN2 a11) (kk : xF G l M d k n Q (pc + 2) (a0 :: a1 :: a2 :: a3 :: a4 :: a5 :: a6 :: a7 :: a8 :: a9 :: a10 :: a11 :: some (.ref x) :: r) st h) : xF G l M d k n Q pc (a0 :: a1 :: a2 :: a3 :: a4 :: a5 :: a6 :: a7 :: a8 :: a9 :: a10 :: a11 :: b :: r) (.ref x :: st) h := by
  intro p e R s m args below meth c H locs cells slots ls F hL hc hs hR hS
  refine lv_astore (lv' := _) F.1 F.2.1 hdg hL hM rfl (fun ls1 hL1 => kk p e R s m args below meth c H locs cells slots ls1 F (xHas.s1 (i := 12) (v := .ref x) hL1 ?_) hc hs hR hS)
  intro j w hj
  rcases Nat.lt_or_ge j 13 with q | q
  · match j, q, hj with
    | 0, _, hj => exact Or.inr ⟨by decide, by simpa using hj, fun z => absurd z.1 (by decide)⟩
    | 1, _, hj => exact Or.inr ⟨by decide, by simpa using hj, fun z => absurd z.1 (by decide)⟩
    | 2, _, hj => exact Or.inr ⟨by decide, by simpa using hj, fun z => absurd z.1 (by decide)⟩
    | 3, _, hj => exact Or.inr ⟨by decide, by simpa using hj, fun z => absurd z.1 (by decide)⟩
    | 4, _, hj => exact Or.inr ⟨by decide, by simpa using hj, fun z => absurd z.1 (by decide)⟩
    | 5, _, hj => exact Or.inr ⟨by decide, by simpa using hj, fun z => absurd z.1 (by decide)⟩
    | 6, _, hj => exact Or.inr ⟨by decide, by simpa using hj, fun z => absurd z.1 (by decide)⟩
    | 7, _, hj => exact Or.inr ⟨by decide, by simpa using hj, fun z => absurd z.1 (by decide)⟩
    | 8, _, hj => exact Or.inr ⟨by decide, by simpa using hj, fun z => absurd z.1 (by decide)⟩
    | 9, _, hj => exact Or.inr ⟨by decide, by simpa using hj, fun z => absurd z.1 (by decide)⟩
    | 10, _, hj => exact Or.inr ⟨by decide, by simpa using hj, fun z => absurd z.1 (by decide)⟩
    | 11, _, hj => exact Or.inr ⟨by decide, by simpa using hj, fun z => by have := hn w (by simpa using hj); omega⟩
    | 12, _, hj => exact Or.inl ⟨rfl, by simpa using hj.symm⟩
  · obtain ⟨j, rfl⟩ : ∃ z, j = z + 13 := ⟨j - 13, by omega⟩
    exact Or.inr ⟨by omega, by simpa using hj, fun z => absurd z.1 (by omega)⟩
theorem x_astoreC_12 {G : xG} {l : Launch} {M : xM} {d k n : Nat} {Q : xR → xH → Prop} {pc : Nat} {st : List Value} {h : xH} {a0 a1 a2 a3 a4 a5 a6 a7 a8 a9 a10 a11 : Option Value} {b : Option Value} {r : xLs} {x : Nat} (hdg : decode M.2.1 pc = .ok (.astore 12, 2)) (hM : 12 < M.2.2.1) (kk : xF G l M d k n Q (pc + 2) (a0 :: a1 :: a2 :: a3 :: a4 :: a5 :: a6 :: a7 :: a8 :: a9 :: a10 :: none :: some (.ref x) :: r) st h) : xF G l M d k n Q pc (a0 :: a1 :: a2 :: a3 :: a4 :: a5 :: a6 :: a7 :: a8 :: a9 :: a10 :: a11 :: b :: r) (.ref x :: st) h := by
  intro p e R s m args below meth c H locs cells slots ls F hL hc hs hR hS
  refine lv_astore (lv' := _) F.1 F.2.1 hdg hL hM rfl (fun ls1 hL1 => kk p e R s m args below meth c H locs cells slots ls1 F (xHas.s1 (i := 12) (v := .ref x) hL1 ?_) hc hs hR hS)
  intro j w hj
  rcases Nat.lt_or_ge j 13 with q | q
  · match j, q, hj with
    | 0, _, hj => exact Or.inr ⟨by decide, by simpa using hj, fun z => absurd z.1 (by decide)⟩
    | 1, _, hj => exact Or.inr ⟨by decide, by simpa using hj, fun z => absurd z.1 (by decide)⟩
    | 2, _, hj => exact Or.inr ⟨by decide, by simpa using hj, fun z => absurd z.1 (by decide)⟩
    | 3, _, hj => exact Or.inr ⟨by decide, by simpa using hj, fun z => absurd z.1 (by decide)⟩
    | 4, _, hj => exact Or.inr ⟨by decide, by simpa using hj, fun z => absurd z.1 (by decide)⟩
    | 5, _, hj => exact Or.inr ⟨by decide, by simpa using hj, fun z => absurd z.1 (by decide)⟩
    | 6, _, hj => exact Or.inr ⟨by decide, by simpa using hj, fun z => absurd z.1 (by decide)⟩
    | 7, _, hj => exact Or.inr ⟨by decide, by simpa using hj, fun z => absurd z.1 (by decide)⟩
    | 8, _, hj => exact Or.inr ⟨by decide, by simpa using hj, fun z => absurd z.1 (by decide)⟩
    | 9, _, hj => exact Or.inr ⟨by decide, by simpa using hj, fun z => absurd z.1 (by decide)⟩
    | 10, _, hj => exact Or.inr ⟨by decide, by simpa using hj, fun z => absurd z.1 (by decide)⟩
    | 11, _, hj => simp at hj
    | 12, _, hj => exact Or.inl ⟨rfl, by simpa using hj.symm⟩
  · obtain ⟨j, rfl⟩ : ∃ z, j = z + 13 := ⟨j - 13, by omega⟩
    exact Or.inr ⟨by omega, by simpa using hj, fun z => absurd z.1 (by omega)⟩
theorem x_astoreN_12 {G : xG} {l : Launch} {M : xM} {d k n : Nat} {Q : xR → xH → Prop} {pc : Nat} {st : List Value} {h : xH} {a0 a1 a2 a3 a4 a5 a6 a7 a8 a9 a10 a11 : Option Value} {b : Option Value} {r : xLs}  (hdg : decode M.2.1 pc = .ok (.astore 12, 2)) (hM : 12 < M.2.2.1) (hn : xN2 a11) (kk : xF G l M d k n Q (pc + 2) (a0 :: a1 :: a2 :: a3 :: a4 :: a5 :: a6 :: a7 :: a8 :: a9 :: a10 :: a11 :: some (.null) :: r) st h) : xF G l M d k n Q pc (a0 :: a1 :: a2 :: a3 :: a4 :: a5 :: a6 :: a7 :: a8 :: a9 :: a10 :: a11 :: b :: r) (.null :: st) h := by
  intro p e R s m args below meth c H locs cells slots ls F hL hc hs hR hS
  refine lv_astoreN (lv' := _) F.1 F.2.1 hdg hL hM rfl (fun ls1 hL1 => kk p e R s m args below meth c H locs cells slots ls1 F (xHas.s1 (i := 12) (v := .null) hL1 ?_) hc hs hR hS)
  intro j w hj
  rcases Nat.lt_or_ge j 13 with q | q
  · match j, q, hj with
    | 0, _, hj => exact Or.inr ⟨by decide, by simpa using hj, fun z => absurd z.1 (by decide)⟩
    | 1, _, hj => exact Or.inr ⟨by decide, by simpa using hj, fun z => absurd z.1 (by decide)⟩
    | 2, _, hj => exact Or.inr ⟨by decide, by simpa using hj, fun z => absurd z.1 (by decide)⟩
    | 3, _, hj => exact Or.inr ⟨by decide, by simpa using hj, fun z => absurd z.1 (by decide)⟩
    | 4, _, hj => exact Or.inr ⟨by decide, by simpa using hj, fun z => absurd z.1 (by decide)⟩
    | 5, _, hj => exact Or.inr ⟨by decide, by simpa using hj, fun z => absurd z.1 (by decide)⟩
    | 6, _, hj => exact Or.inr ⟨by decide, by simpa using hj, fun z => absurd z.1 (by decide)⟩
    | 7, _, hj => exact Or.inr ⟨by decide, by simpa using hj, fun z => absurd z.1 (by decide)⟩
    | 8, _, hj => exact Or.inr ⟨by decide, by simpa using hj, fun z => absurd z.1 (by decide)⟩
    | 9, _, hj => exact Or.inr ⟨by decide, by simpa using hj, fun z => absurd z.1 (by decide)⟩
    | 10, _, hj => exact Or.inr ⟨by decide, by simpa using hj, fun z => absurd z.1 (by decide)⟩
    | 11, _, hj => exact Or.inr ⟨by decide, by simpa using hj, fun z => by have := hn w (by simpa using hj); omega⟩
    | 12, _, hj => exact Or.inl ⟨rfl, by simpa using hj.symm⟩
  · obtain ⟨j, rfl⟩ : ∃ z, j = z + 13 := ⟨j - 13, by omega⟩
    exact Or.inr ⟨by omega, by simpa using hj, fun z => absurd z.1 (by omega)⟩
theorem x_astoreNC_12 {G : xG} {l : Launch} {M : xM} {d k n : Nat} {Q : xR → xH → Prop} {pc : Nat} {st : List Value} {h : xH} {a0 a1 a2 a3 a4 a5 a6 a7 a8 a9 a10 a11 : Option Value} {b : Option Value} {r : xLs}  (hdg : decode M.2.1 pc = .ok (.astore 12, 2)) (hM : 12 < M.2.2.1) (kk : xF G l M d k n Q (pc + 2) (a0 :: a1 :: a2 :: a3 :: a4 :: a5 :: a6 :: a7 :: a8 :: a9 :: a10 :: none :: some (.null) :: r) st h) : xF G l M d k n Q pc (a0 :: a1 :: a2 :: a3 :: a4 :: a5 :: a6 :: a7 :: a8 :: a9 :: a10 :: a11 :: b :: r) (.null :: st) h := by
  intro p e R s m args below meth c H locs cells slots ls F hL hc hs hR hS
  refine lv_astoreN (lv' := _) F.1 F.2.1 hdg hL hM rfl (fun ls1 hL1 => kk p e R s m args below meth c H locs cells slots ls1 F (xHas.s1 (i := 12) (v := .null) hL1 ?_) hc hs hR hS)
  intro j w hj
  rcases Nat.lt_or_ge j 13 with q | q
  · match j, q, hj with
    | 0, _, hj => exact Or.inr ⟨by decide, by simpa using hj, fun z => absurd z.1 (by decide)⟩
    | 1, _, hj => exact Or.inr ⟨by decide, by simpa using hj, fun z => absurd z.1 (by decide)⟩
    | 2, _, hj => exact Or.inr ⟨by decide, by simpa using hj, fun z => absurd z.1 (by decide)⟩
    | 3, _, hj => exact Or.inr ⟨by decide, by simpa using hj, fun z => absurd z.1 (by decide)⟩
    | 4, _, hj => exact Or.inr ⟨by decide, by simpa using hj, fun z => absurd z.1 (by decide)⟩
    | 5, _, hj => exact Or.inr ⟨by decide, by simpa using hj, fun z => absurd z.1 (by decide)⟩
    | 6, _, hj => exact Or.inr ⟨by decide, by simpa using hj, fun z => absurd z.1 (by decide)⟩
    | 7, _, hj => exact Or.inr ⟨by decide, by simpa using hj, fun z => absurd z.1 (by decide)⟩
    | 8, _, hj => exact Or.inr ⟨by decide, by simpa using hj, fun z => absurd z.1 (by decide)⟩
    | 9, _, hj => exact Or.inr ⟨by decide, by simpa using hj, fun z => absurd z.1 (by decide)⟩
    | 10, _, hj => exact Or.inr ⟨by decide, by simpa using hj, fun z => absurd z.1 (by decide)⟩
    | 11, _, hj => simp at hj
    | 12, _, hj => exact Or.inl ⟨rfl, by simpa using hj.symm⟩
  · obtain ⟨j, rfl⟩ : ∃ z, j = z + 13 := ⟨j - 13, by omega⟩
    exact Or.inr ⟨by omega, by simpa using hj, fun z => absurd z.1 (by omega)⟩
theorem x_lstore_12 {G : xG} {l : Launch} {M : xM} {d k n : Nat} {Q : xR → xH → Prop} {pc : Nat} {st : List Value} {h : xH} {a0 a1 a2 a3 a4 a5 a6 a7 a8 a9 a10 a11 : Option Value} {b b2 : Option Value} {r : xLs} {x : Int64} (hdg : decode M.2.1 pc = .ok (.lstore 12, 2)) (hM : 12 + 1 < M.2.2.1) (hn : xN2 a11) (kk : xF G l M d k n Q (pc + 2) (a0 :: a1 :: a2 :: a3 :: a4 :: a5 :: a6 :: a7 :: a8 :: a9 :: a10 :: a11 :: some (.long x) :: none :: r) st h) : xF G l M d k n Q pc (a0 :: a1 :: a2 :: a3 :: a4 :: a5 :: a6 :: a7 :: a8 :: a9 :: a10 :: a11 :: b :: b2 :: r) (.long x :: st) h := by
  intro p e R s m args below meth c H locs cells slots ls F hL hc hs hR hS
  refine lv_lstore (lv' := _) F.1 F.2.1 hdg hL hM rfl (fun ls1 hL1 => kk p e R s m args below meth c H locs cells slots ls1 F (xHas.s2 (i := 12) (v := .long x) hL1 ?_) hc hs hR hS)
  intro j w hj
  rcases Nat.lt_or_ge j 14 with q | q
  · match j, q, hj with
    | 0, _, hj => exact Or.inr ⟨by decide, by decide, by simpa using hj, fun z => absurd z.1 (by decide)⟩
    | 1, _, hj => exact Or.inr ⟨by decide, by decide, by simpa using hj, fun z => absurd z.1 (by decide)⟩
    | 2, _, hj => exact Or.inr ⟨by decide, by decide, by simpa using hj, fun z => absurd z.1 (by decide)⟩
    | 3, _, hj => exact Or.inr ⟨by decide, by decide, by simpa using hj, fun z => absurd z.1 (by decide)⟩
    | 4, _, hj => exact Or.inr ⟨by decide, by decide, by simpa using hj, fun z => absurd z.1 (by decide)⟩
    | 5, _, hj => exact Or.inr ⟨by decide, by decide, by simpa using hj, fun z => absurd z.1 (by decide)⟩
    | 6, _, hj => exact Or.inr ⟨by decide, by decide, by simpa using hj, fun z => absurd z.1 (by decide)⟩
    | 7, _, hj => exact Or.inr ⟨by decide, by decide, by simpa using hj, fun z => absurd z.1 (by decide)⟩
    | 8, _, hj => exact Or.inr ⟨by decide, by decide, by simpa using hj, fun z => absurd z.1 (by decide)⟩
    | 9, _, hj => exact Or.inr ⟨by decide, by decide, by simpa using hj, fun z => absurd z.1 (by decide)⟩
    | 10, _, hj => exact Or.inr ⟨by decide, by decide, by simpa using hj, fun z => absurd z.1 (by decide)⟩
    | 11, _, hj => exact Or.inr ⟨by decide, by decide, by simpa using hj, fun z => by have := hn w (by simpa using hj); omega⟩
    | 12, _, hj => exact Or.inl ⟨rfl, by simpa using hj.symm⟩
    | 13, _, hj => simp at hj
  · obtain ⟨j, rfl⟩ : ∃ z, j = z + 14 := ⟨j - 14, by omega⟩
    exact Or.inr ⟨by omega, by omega, by simpa using hj, fun z => absurd z.1 (by omega)⟩
theorem x_lstoreC_12 {G : xG} {l : Launch} {M : xM} {d k n : Nat} {Q : xR → xH → Prop} {pc : Nat} {st : List Value} {h : xH} {a0 a1 a2 a3 a4 a5 a6 a7 a8 a9 a10 a11 : Option Value} {b b2 : Option Value} {r : xLs} {x : Int64} (hdg : decode M.2.1 pc = .ok (.lstore 12, 2)) (hM : 12 + 1 < M.2.2.1) (kk : xF G l M d k n Q (pc + 2) (a0 :: a1 :: a2 :: a3 :: a4 :: a5 :: a6 :: a7 :: a8 :: a9 :: a10 :: none :: some (.long x) :: none :: r) st h) : xF G l M d k n Q pc (a0 :: a1 :: a2 :: a3 :: a4 :: a5 :: a6 :: a7 :: a8 :: a9 :: a10 :: a11 :: b :: b2 :: r) (.long x :: st) h := by
  intro p e R s m args below meth c H locs cells slots ls F hL hc hs hR hS
  refine lv_lstore (lv' := _) F.1 F.2.1 hdg hL hM rfl (fun ls1 hL1 => kk p e R s m args below meth c H locs cells slots ls1 F (xHas.s2 (i := 12) (v := .long x) hL1 ?_) hc hs hR hS)
  intro j w hj
  rcases Nat.lt_or_ge j 14 with q | q
  · match j, q, hj with
    | 0, _, hj => exact Or.inr ⟨by decide, by decide, by simpa using hj, fun z => absurd z.1 (by decide)⟩
    | 1, _, hj => exact Or.inr ⟨by decide, by decide, by simpa using hj, fun z => absurd z.1 (by decide)⟩
    | 2, _, hj => exact Or.inr ⟨by decide, by decide, by simpa using hj, fun z => absurd z.1 (by decide)⟩
    | 3, _, hj => exact Or.inr ⟨by decide, by decide, by simpa using hj, fun z => absurd z.1 (by decide)⟩
    | 4, _, hj => exact Or.inr ⟨by decide, by decide, by simpa using hj, fun z => absurd z.1 (by decide)⟩
    | 5, _, hj => exact Or.inr ⟨by decide, by decide, by simpa using hj, fun z => absurd z.1 (by decide)⟩
    | 6, _, hj => exact Or.inr ⟨by decide, by decide, by simpa using hj, fun z => absurd z.1 (by decide)⟩
    | 7, _, hj => exact Or.inr ⟨by decide, by decide, by simpa using hj, fun z => absurd z.1 (by decide)⟩
    | 8, _, hj => exact Or.inr ⟨by decide, by decide, by simpa using hj, fun z => absurd z.1 (by decide)⟩
    | 9, _, hj => exact Or.inr ⟨by decide, by decide, by simpa using hj, fun z => absurd z.1 (by decide)⟩
    | 10, _, hj => exact Or.inr ⟨by decide, by decide, by simpa using hj, fun z => absurd z.1 (by decide)⟩
    | 11, _, hj => simp at hj
    | 12, _, hj => exact Or.inl ⟨rfl, by simpa using hj.symm⟩
    | 13, _, hj => simp at hj
  · obtain ⟨j, rfl⟩ : ∃ z, j = z + 14 := ⟨j - 14, by omega⟩
    exact Or.inr ⟨by omega, by omega, by simpa using hj, fun z => absurd z.1 (by omega)⟩
theorem x_iinc_12 {G : xG} {l : Launch} {M : xM} {d k n : Nat} {Q : xR → xH → Prop} {pc : Nat} {st : List Value} {h : xH} {a0 a1 a2 a3 a4 a5 a6 a7 a8 a9 a10 a11 : Option Value} {r : xLs} {x v : Int32} {z : Int} (hdg : decode M.2.1 pc = .ok (.iinc 12 z, 3)) (hv : (Int32.ofInt z) = v) (hM : 12 < M.2.2.1) (hn : xN2 a11) (kk : xF G l M d k n Q (pc + 3) (a0 :: a1 :: a2 :: a3 :: a4 :: a5 :: a6 :: a7 :: a8 :: a9 :: a10 :: a11 :: some (.int (x + v)) :: r) st h) : xF G l M d k n Q pc (a0 :: a1 :: a2 :: a3 :: a4 :: a5 :: a6 :: a7 :: a8 :: a9 :: a10 :: a11 :: some (.int x) :: r) st h := by
  intro p e R s m args below meth c H locs cells slots ls F hL hc hs hR hS
  refine x_iincA F hL (i := 12) rfl hdg hv hM (fun ls1 hL1 => kk p e R s m args below meth c H locs cells slots ls1 F (xHas.s1 (i := 12) (v := .int (x + v)) hL1 ?_) hc hs hR hS)
  intro j w hj
  rcases Nat.lt_or_ge j 13 with q | q
  · match j, q, hj with
    | 0, _, hj => exact Or.inr ⟨by decide, by simpa using hj, fun z => absurd z.1 (by decide)⟩
    | 1, _, hj => exact Or.inr ⟨by decide, by simpa using hj, fun z => absurd z.1 (by decide)⟩
    | 2, _, hj => exact Or.inr ⟨by decide, by simpa using hj, fun z => absurd z.1 (by decide)⟩
    | 3, _, hj => exact Or.inr ⟨by decide, by simpa using hj, fun z => absurd z.1 (by decide)⟩
    | 4, _, hj => exact Or.inr ⟨by decide, by simpa using hj, fun z => absurd z.1 (by decide)⟩
    | 5, _, hj => exact Or.inr ⟨by decide, by simpa using hj, fun z => absurd z.1 (by decide)⟩
    | 6, _, hj => exact Or.inr ⟨by decide, by simpa using hj, fun z => absurd z.1 (by decide)⟩
    | 7, _, hj => exact Or.inr ⟨by decide, by simpa using hj, fun z => absurd z.1 (by decide)⟩
    | 8, _, hj => exact Or.inr ⟨by decide, by simpa using hj, fun z => absurd z.1 (by decide)⟩
    | 9, _, hj => exact Or.inr ⟨by decide, by simpa using hj, fun z => absurd z.1 (by decide)⟩
    | 10, _, hj => exact Or.inr ⟨by decide, by simpa using hj, fun z => absurd z.1 (by decide)⟩
    | 11, _, hj => exact Or.inr ⟨by decide, by simpa using hj, fun z => by have := hn w (by simpa using hj); omega⟩
    | 12, _, hj => exact Or.inl ⟨rfl, by simpa using hj.symm⟩
  · obtain ⟨j, rfl⟩ : ∃ z, j = z + 13 := ⟨j - 13, by omega⟩
    exact Or.inr ⟨by omega, by simpa using hj, fun z => absurd z.1 (by omega)⟩
theorem x_iload_13 {G : xG} {l : Launch} {M : xM} {d k n : Nat} {Q : xR → xH → Prop} {pc : Nat} {st : List Value} {h : xH} {a0 a1 a2 a3 a4 a5 a6 a7 a8 a9 a10 a11 a12 : Option Value} {r : xLs} {x : Int32} (hdg : decode M.2.1 pc = .ok (.iload 13, 2)) (kk : xF G l M d k n Q (pc + 2) (a0 :: a1 :: a2 :: a3 :: a4 :: a5 :: a6 :: a7 :: a8 :: a9 :: a10 :: a11 :: a12 :: some (.int x) :: r) (.int x :: st) h) : xF G l M d k n Q pc (a0 :: a1 :: a2 :: a3 :: a4 :: a5 :: a6 :: a7 :: a8 :: a9 :: a10 :: a11 :: a12 :: some (.int x) :: r) st h := by
  intro p e R s m args below meth c H locs cells slots ls F hL hc hs hR hS
  exact lv_iload F.1 F.2.1 hdg (hL.at (i := 13) rfl) (kk p e R s m args below meth c H locs cells slots ls F hL hc hs hR hS)
theorem x_lload_13 {G : xG} {l : Launch} {M : xM} {d k n : Nat} {Q : xR → xH → Prop} {pc : Nat} {st : List Value} {h : xH} {a0 a1 a2 a3 a4 a5 a6 a7 a8 a9 a10 a11 a12 : Option Value} {r : xLs} {x : Int64} (hdg : decode M.2.1 pc = .ok (.lload 13, 2)) (kk : xF G l M d k n Q (pc + 2) (a0 :: a1 :: a2 :: a3 :: a4 :: a5 :: a6 :: a7 :: a8 :: a9 :: a10 :: a11 :: a12 :: some (.long x) :: r) (.long x :: st) h) : xF G l M d k n Q pc (a0 :: a1 :: a2 :: a3 :: a4 :: a5 :: a6 :: a7 :: a8 :: a9 :: a10 :: a11 :: a12 :: some (.long x) :: r) st h := by
  intro p e R s m args below meth c H locs cells slots ls F hL hc hs hR hS
  exact lv_lload F.1 F.2.1 hdg (hL.at (i := 13) rfl) (kk p e R s m args below meth c H locs cells slots ls F hL hc hs hR hS)
theorem x_aload_13 {G : xG} {l : Launch} {M : xM} {d k n : Nat} {Q : xR → xH → Prop} {pc : Nat} {st : List Value} {h : xH} {a0 a1 a2 a3 a4 a5 a6 a7 a8 a9 a10 a11 a12 : Option Value} {r : xLs} {x : Nat} (hdg : decode M.2.1 pc = .ok (.aload 13, 2)) (kk : xF G l M d k n Q (pc + 2) (a0 :: a1 :: a2 :: a3 :: a4 :: a5 :: a6 :: a7 :: a8 :: a9 :: a10 :: a11 :: a12 :: some (.ref x) :: r) (.ref x :: st) h) : xF G l M d k n Q pc (a0 :: a1 :: a2 :: a3 :: a4 :: a5 :: a6 :: a7 :: a8 :: a9 :: a10 :: a11 :: a12 :: some (.ref x) :: r) st h := by
  intro p e R s m args below meth c H locs cells slots ls F hL hc hs hR hS
  exact lv_aload F.1 F.2.1 hdg (hL.at (i := 13) rfl) (kk p e R s m args below meth c H locs cells slots ls F hL hc hs hR hS)
theorem x_aloadN_13 {G : xG} {l : Launch} {M : xM} {d k n : Nat} {Q : xR → xH → Prop} {pc : Nat} {st : List Value} {h : xH} {a0 a1 a2 a3 a4 a5 a6 a7 a8 a9 a10 a11 a12 : Option Value} {r : xLs} (hdg : decode M.2.1 pc = .ok (.aload 13, 2)) (kk : xF G l M d k n Q (pc + 2) (a0 :: a1 :: a2 :: a3 :: a4 :: a5 :: a6 :: a7 :: a8 :: a9 :: a10 :: a11 :: a12 :: some .null :: r) (.null :: st) h) : xF G l M d k n Q pc (a0 :: a1 :: a2 :: a3 :: a4 :: a5 :: a6 :: a7 :: a8 :: a9 :: a10 :: a11 :: a12 :: some .null :: r) st h := by
  intro p e R s m args below meth c H locs cells slots ls F hL hc hs hR hS
  exact lv_aloadN F.1 F.2.1 hdg (hL.at (i := 13) rfl) (kk p e R s m args below meth c H locs cells slots ls F hL hc hs hR hS)
theorem x_istore_13 {G : xG} {l : Launch} {M : xM} {d k n : Nat} {Q : xR → xH → Prop} {pc : Nat} {st : List Value} {h : xH} {a0 a1 a2 a3 a4 a5 a6 a7 a8 a9 a10 a11 a12 : Option Value} {b : Option Value} {r : xLs} {x : Int32} (hdg : decode M.2.1 pc = .ok (.istore 13, 2)) (hM : 13 < M.2.2.1) (hn : xN2 a12) (kk : xF G l M d k n Q (pc + 2) (a0 :: a1 :: a2 :: a3 :: a4 :: a5 :: a6 :: a7 :: a8 :: a9 :: a10 :: a11 :: a12 :: some (.int x) :: r) st h) : xF G l M d k n Q pc (a0 :: a1 :: a2 :: a3 :: a4 :: a5 :: a6 :: a7 :: a8 :: a9 :: a10 :: a11 :: a12 :: b :: r) (.int x :: st) h := by
  intro p e R s m args below meth c H locs cells slots ls F hL hc hs hR hS
  refine lv_istore (lv' := _) F.1 F.2.1 hdg hL hM rfl (fun ls1 hL1 => kk p e R s m args below meth c H locs cells slots ls1 F (xHas.s1 (i := 13) (v := .int x) hL1 ?_) hc hs hR hS)
  intro j w hj
  rcases Nat.lt_or_ge j 14 with q | q
  · match j, q, hj with
    | 0, _, hj => exact Or.inr ⟨by decide, by simpa using hj, fun z => absurd z.1 (by decide)⟩
    | 1, _, hj => exact Or.inr ⟨by decide, by simpa using hj, fun z => absurd z.1 (by decide)⟩
    | 2, _, hj => exact Or.inr ⟨by decide, by simpa using hj, fun z => absurd z.1 (by decide)⟩
    | 3, _, hj => exact Or.inr ⟨by decide, by simpa using hj, fun z => absurd z.1 (by decide)⟩
    | 4, _, hj => exact Or.inr ⟨by decide, by simpa using hj, fun z => absurd z.1 (by decide)⟩
    | 5, _, hj => exact Or.inr ⟨by decide, by simpa using hj, fun z => absurd z.1 (by decide)⟩
    | 6, _, hj => exact Or.inr ⟨by decide, by simpa using hj, fun z => absurd z.1 (by decide)⟩
    | 7, _, hj => exact Or.inr ⟨by decide, by simpa using hj, fun z => absurd z.1 (by decide)⟩
    | 8, _, hj => exact Or.inr ⟨by decide, by simpa using hj, fun z => absurd z.1 (by decide)⟩
    | 9, _, hj => exact Or.inr ⟨by decide, by simpa using hj, fun z => absurd z.1 (by decide)⟩
    | 10, _, hj => exact Or.inr ⟨by decide, by simpa using hj, fun z => absurd z.1 (by decide)⟩
    | 11, _, hj => exact Or.inr ⟨by decide, by simpa using hj, fun z => absurd z.1 (by decide)⟩
    | 12, _, hj => exact Or.inr ⟨by decide, by simpa using hj, fun z => by have := hn w (by simpa using hj); omega⟩
    | 13, _, hj => exact Or.inl ⟨rfl, by simpa using hj.symm⟩
  · obtain ⟨j, rfl⟩ : ∃ z, j = z + 14 := ⟨j - 14, by omega⟩
    exact Or.inr ⟨by omega, by simpa using hj, fun z => absurd z.1 (by omega)⟩
theorem x_istoreC_13 {G : xG} {l : Launch} {M : xM} {d k n : Nat} {Q : xR → xH → Prop} {pc : Nat} {st : List Value} {h : xH} {a0 a1 a2 a3 a4 a5 a6 a7 a8 a9 a10 a11 a12 : Option Value} {b : Option Value} {r : xLs} {x : Int32} (hdg : decode M.2.1 pc = .ok (.istore 13, 2)) (hM : 13 < M.2.2.1) (kk : xF G l M d k n Q (pc + 2) (a0 :: a1 :: a2 :: a3 :: a4 :: a5 :: a6 :: a7 :: a8 :: a9 :: a10 :: a11 :: none :: some (.int x) :: r) st h) : xF G l M d k n Q pc (a0 :: a1 :: a2 :: a3 :: a4 :: a5 :: a6 :: a7 :: a8 :: a9 :: a10 :: a11 :: a12 :: b :: r) (.int x :: st) h := by
  intro p e R s m args below meth c H locs cells slots ls F hL hc hs hR hS
  refine lv_istore (lv' := _) F.1 F.2.1 hdg hL hM rfl (fun ls1 hL1 => kk p e R s m args below meth c H locs cells slots ls1 F (xHas.s1 (i := 13) (v := .int x) hL1 ?_) hc hs hR hS)
  intro j w hj
  rcases Nat.lt_or_ge j 14 with q | q
  · match j, q, hj with
    | 0, _, hj => exact Or.inr ⟨by decide, by simpa using hj, fun z => absurd z.1 (by decide)⟩
    | 1, _, hj => exact Or.inr ⟨by decide, by simpa using hj, fun z => absurd z.1 (by decide)⟩
    | 2, _, hj => exact Or.inr ⟨by decide, by simpa using hj, fun z => absurd z.1 (by decide)⟩
    | 3, _, hj => exact Or.inr ⟨by decide, by simpa using hj, fun z => absurd z.1 (by decide)⟩
    | 4, _, hj => exact Or.inr ⟨by decide, by simpa using hj, fun z => absurd z.1 (by decide)⟩
    | 5, _, hj => exact Or.inr ⟨by decide, by simpa using hj, fun z => absurd z.1 (by decide)⟩
    | 6, _, hj => exact Or.inr ⟨by decide, by simpa using hj, fun z => absurd z.1 (by decide)⟩
    | 7, _, hj => exact Or.inr ⟨by decide, by simpa using hj, fun z => absurd z.1 (by decide)⟩
    | 8, _, hj => exact Or.inr ⟨by decide, by simpa using hj, fun z => absurd z.1 (by decide)⟩
    | 9, _, hj => exact Or.inr ⟨by decide, by simpa using hj, fun z => absurd z.1 (by decide)⟩
    | 10, _, hj => exact Or.inr ⟨by decide, by simpa using hj, fun z => absurd z.1 (by decide)⟩
    | 11, _, hj => exact Or.inr ⟨by decide, by simpa using hj, fun z => absurd z.1 (by decide)⟩
    | 12, _, hj => simp at hj
    | 13, _, hj => exact Or.inl ⟨rfl, by simpa using hj.symm⟩
  · obtain ⟨j, rfl⟩ : ∃ z, j = z + 14 := ⟨j - 14, by omega⟩
    exact Or.inr ⟨by omega, by simpa using hj, fun z => absurd z.1 (by omega)⟩
theorem x_astore_13 {G : xG} {l : Launch} {M : xM} {d k n : Nat} {Q : xR → xH → Prop} {pc : Nat} {st : List Value} {h : xH} {a0 a1 a2 a3 a4 a5 a6 a7 a8 a9 a10 a11 a12 : Option Value} {b : Option Value} {r : xLs} {x : Nat} (hdg : decode M.2.1 pc = .ok (.astore 13, 2)) (hM : 13 < M.2.2.1) (hn : xN2 a12) (kk : xF G l M d k n Q (pc + 2) (a0 :: a1 :: a2 :: a3 :: a4 :: a5 :: a6 :: a7 :: a8 :: a9 :: a10 :: a11 :: a12 :: some (.ref x) :: r) st h) : xF G l M d k n Q pc (a0 :: a1 :: a2 :: a3 :: a4 :: a5 :: a6 :: a7 :: a8 :: a9 :: a10 :: a11 :: a12 :: b :: r) (.ref x :: st) h := by
  intro p e R s m args below meth c H locs cells slots ls F hL hc hs hR hS
  refine lv_astore (lv' := _) F.1 F.2.1 hdg hL hM rfl (fun ls1 hL1 => kk p e R s m args below meth c H locs cells slots ls1 F (xHas.s1 (i := 13) (v := .ref x) hL1 ?_) hc hs hR hS)
  intro j w hj
  rcases Nat.lt_or_ge j 14 with q | q
  · match j, q, hj with
    | 0, _, hj => exact Or.inr ⟨by decide, by simpa using hj, fun z => absurd z.1 (by decide)⟩
    | 1, _, hj => exact Or.inr ⟨by decide, by simpa using hj, fun z => absurd z.1 (by decide)⟩
    | 2, _, hj => exact Or.inr ⟨by decide, by simpa using hj, fun z => absurd z.1 (by decide)⟩
    | 3, _, hj => exact Or.inr ⟨by decide, by simpa using hj, fun z => absurd z.1 (by decide)⟩
    | 4, _, hj => exact Or.inr ⟨by decide, by simpa using hj, fun z => absurd z.1 (by decide)⟩
    | 5, _, hj => exact Or.inr ⟨by decide, by simpa using hj, fun z => absurd z.1 (by decide)⟩
    | 6, _, hj => exact Or.inr ⟨by decide, by simpa using hj, fun z => absurd z.1 (by decide)⟩
    | 7, _, hj => exact Or.inr ⟨by decide, by simpa using hj, fun z => absurd z.1 (by decide)⟩
    | 8, _, hj => exact Or.inr ⟨by decide, by simpa using hj, fun z => absurd z.1 (by decide)⟩
    | 9, _, hj => exact Or.inr ⟨by decide, by simpa using hj, fun z => absurd z.1 (by decide)⟩
    | 10, _, hj => exact Or.inr ⟨by decide, by simpa using hj, fun z => absurd z.1 (by decide)⟩
    | 11, _, hj => exact Or.inr ⟨by decide, by simpa using hj, fun z => absurd z.1 (by decide)⟩
    | 12, _, hj => exact Or.inr ⟨by decide, by simpa using hj, fun z => by have := hn w (by simpa using hj); omega⟩
    | 13, _, hj => exact Or.inl ⟨rfl, by simpa using hj.symm⟩
  · obtain ⟨j, rfl⟩ : ∃ z, j = z + 14 := ⟨j - 14, by omega⟩
    exact Or.inr ⟨by omega, by simpa using hj, fun z => absurd z.1 (by omega)⟩
theorem x_astoreC_13 {G : xG} {l : Launch} {M : xM} {d k n : Nat} {Q : xR → xH → Prop} {pc : Nat} {st : List Value} {h : xH} {a0 a1 a2 a3 a4 a5 a6 a7 a8 a9 a10 a11 a12 : Option Value} {b : Option Value} {r : xLs} {x : Nat} (hdg : decode M.2.1 pc = .ok (.astore 13, 2)) (hM : 13 < M.2.2.1) (kk : xF G l M d k n Q (pc + 2) (a0 :: a1 :: a2 :: a3 :: a4 :: a5 :: a6 :: a7 :: a8 :: a9 :: a10 :: a11 :: none :: some (.ref x) :: r) st h) : xF G l M d k n Q pc (a0 :: a1 :: a2 :: a3 :: a4 :: a5 :: a6 :: a7 :: a8 :: a9 :: a10 :: a11 :: a12 :: b :: r) (.ref x :: st) h := by
  intro p e R s m args below meth c H locs cells slots ls F hL hc hs hR hS
  refine lv_astore (lv' := _) F.1 F.2.1 hdg hL hM rfl (fun ls1 hL1 => kk p e R s m args below meth c H locs cells slots ls1 F (xHas.s1 (i := 13) (v := .ref x) hL1 ?_) hc hs hR hS)
  intro j w hj
  rcases Nat.lt_or_ge j 14 with q | q
  · match j, q, hj with
    | 0, _, hj => exact Or.inr ⟨by decide, by simpa using hj, fun z => absurd z.1 (by decide)⟩
    | 1, _, hj => exact Or.inr ⟨by decide, by simpa using hj, fun z => absurd z.1 (by decide)⟩
    | 2, _, hj => exact Or.inr ⟨by decide, by simpa using hj, fun z => absurd z.1 (by decide)⟩
    | 3, _, hj => exact Or.inr ⟨by decide, by simpa using hj, fun z => absurd z.1 (by decide)⟩
    | 4, _, hj => exact Or.inr ⟨by decide, by simpa using hj, fun z => absurd z.1 (by decide)⟩
    | 5, _, hj => exact Or.inr ⟨by decide, by simpa using hj, fun z => absurd z.1 (by decide)⟩
    | 6, _, hj => exact Or.inr ⟨by decide, by simpa using hj, fun z => absurd z.1 (by decide)⟩
    | 7, _, hj => exact Or.inr ⟨by decide, by simpa using hj, fun z => absurd z.1 (by decide)⟩
    | 8, _, hj => exact Or.inr ⟨by decide, by simpa using hj, fun z => absurd z.1 (by decide)⟩
    | 9, _, hj => exact Or.inr ⟨by decide, by simpa using hj, fun z => absurd z.1 (by decide)⟩
    | 10, _, hj => exact Or.inr ⟨by decide, by simpa using hj, fun z => absurd z.1 (by decide)⟩
    | 11, _, hj => exact Or.inr ⟨by decide, by simpa using hj, fun z => absurd z.1 (by decide)⟩
    | 12, _, hj => simp at hj
    | 13, _, hj => exact Or.inl ⟨rfl, by simpa using hj.symm⟩
  · obtain ⟨j, rfl⟩ : ∃ z, j = z + 14 := ⟨j - 14, by omega⟩
    exact Or.inr ⟨by omega, by simpa using hj, fun z => absurd z.1 (by omega)⟩
theorem x_astoreN_13 {G : xG} {l : Launch} {M : xM} {d k n : Nat} {Q : xR → xH → Prop} {pc : Nat} {st : List Value} {h : xH} {a0 a1 a2 a3 a4 a5 a6 a7 a8 a9 a10 a11 a12 : Option Value} {b : Option Value} {r : xLs}  (hdg : decode M.2.1 pc = .ok (.astore 13, 2)) (hM : 13 < M.2.2.1) (hn : xN2 a12) (kk : xF G l M d k n Q (pc + 2) (a0 :: a1 :: a2 :: a3 :: a4 :: a5 :: a6 :: a7 :: a8 :: a9 :: a10 :: a11 :: a12 :: some (.null) :: r) st h) : xF G l M d k n Q pc (a0 :: a1 :: a2 :: a3 :: a4 :: a5 :: a6 :: a7 :: a8 :: a9 :: a10 :: a11 :: a12 :: b :: r) (.null :: st) h := by
  intro p e R s m args below meth c H locs cells slots ls F hL hc hs hR hS
  refine lv_astoreN (lv' := _) F.1 F.2.1 hdg hL hM rfl (fun ls1 hL1 => kk p e R s m args below meth c H locs cells slots ls1 F (xHas.s1 (i := 13) (v := .null) hL1 ?_) hc hs hR hS)
  intro j w hj
  rcases Nat.lt_or_ge j 14 with q | q
  · match j, q, hj with
    | 0, _, hj => exact Or.inr ⟨by decide, by simpa using hj, fun z => absurd z.1 (by decide)⟩
    | 1, _, hj => exact Or.inr ⟨by decide, by simpa using hj, fun z => absurd z.1 (by decide)⟩
    | 2, _, hj => exact Or.inr ⟨by decide, by simpa using hj, fun z => absurd z.1 (by decide)⟩
    | 3, _, hj => exact Or.inr ⟨by decide, by simpa using hj, fun z => absurd z.1 (by decide)⟩
    | 4, _, hj => exact Or.inr ⟨by decide, by simpa using hj, fun z => absurd z.1 (by decide)⟩
    | 5, _, hj => exact Or.inr ⟨by decide, by simpa using hj, fun z => absurd z.1 (by decide)⟩
    | 6, _, hj => exact Or.inr ⟨by decide, by simpa using hj, fun z => absurd z.1 (by decide)⟩
    | 7, _, hj => exact Or.inr ⟨by decide, by simpa using hj, fun z => absurd z.1 (by decide)⟩
    | 8, _, hj => exact Or.inr ⟨by decide, by simpa using hj, fun z => absurd z.1 (by decide)⟩
    | 9, _, hj => exact Or.inr ⟨by decide, by simpa using hj, fun z => absurd z.1 (by decide)⟩
    | 10, _, hj => exact Or.inr ⟨by decide, by simpa using hj, fun z => absurd z.1 (by decide)⟩
    | 11, _, hj => exact Or.inr ⟨by decide, by simpa using hj, fun z => absurd z.1 (by decide)⟩
    | 12, _, hj => exact Or.inr ⟨by decide, by simpa using hj, fun z => by have := hn w (by simpa using hj); omega⟩
    | 13, _, hj => exact Or.inl ⟨rfl, by simpa using hj.symm⟩
  · obtain ⟨j, rfl⟩ : ∃ z, j = z + 14 := ⟨j - 14, by omega⟩
    exact Or.inr ⟨by omega, by simpa using hj, fun z => absurd z.1 (by omega)⟩
theorem x_astoreNC_13 {G : xG} {l : Launch} {M : xM} {d k n : Nat} {Q : xR → xH → Prop} {pc : Nat} {st : List Value} {h : xH} {a0 a1 a2 a3 a4 a5 a6 a7 a8 a9 a10 a11 a12 : Option Value} {b : Option Value} {r : xLs}  (hdg : decode M.2.1 pc = .ok (.astore 13, 2)) (hM : 13 < M.2.2.1) (kk : xF G l M d k n Q (pc + 2) (a0 :: a1 :: a2 :: a3 :: a4 :: a5 :: a6 :: a7 :: a8 :: a9 :: a10 :: a11 :: none :: some (.null) :: r) st h) : xF G l M d k n Q pc (a0 :: a1 :: a2 :: a3 :: a4 :: a5 :: a6 :: a7 :: a8 :: a9 :: a10 :: a11 :: a12 :: b :: r) (.null :: st) h := by
  intro p e R s m args below meth c H locs cells slots ls F hL hc hs hR hS
  refine lv_astoreN (lv' := _) F.1 F.2.1 hdg hL hM rfl (fun ls1 hL1 => kk p e R s m args below meth c H locs cells slots ls1 F (xHas.s1 (i := 13) (v := .null) hL1 ?_) hc hs hR hS)
  intro j w hj
  rcases Nat.lt_or_ge j 14 with q | q
  · match j, q, hj with
    | 0, _, hj => exact Or.inr ⟨by decide, by simpa using hj, fun z => absurd z.1 (by decide)⟩
    | 1, _, hj => exact Or.inr ⟨by decide, by simpa using hj, fun z => absurd z.1 (by decide)⟩
    | 2, _, hj => exact Or.inr ⟨by decide, by simpa using hj, fun z => absurd z.1 (by decide)⟩
    | 3, _, hj => exact Or.inr ⟨by decide, by simpa using hj, fun z => absurd z.1 (by decide)⟩
    | 4, _, hj => exact Or.inr ⟨by decide, by simpa using hj, fun z => absurd z.1 (by decide)⟩
    | 5, _, hj => exact Or.inr ⟨by decide, by simpa using hj, fun z => absurd z.1 (by decide)⟩
    | 6, _, hj => exact Or.inr ⟨by decide, by simpa using hj, fun z => absurd z.1 (by decide)⟩
    | 7, _, hj => exact Or.inr ⟨by decide, by simpa using hj, fun z => absurd z.1 (by decide)⟩
    | 8, _, hj => exact Or.inr ⟨by decide, by simpa using hj, fun z => absurd z.1 (by decide)⟩
    | 9, _, hj => exact Or.inr ⟨by decide, by simpa using hj, fun z => absurd z.1 (by decide)⟩
    | 10, _, hj => exact Or.inr ⟨by decide, by simpa using hj, fun z => absurd z.1 (by decide)⟩
    | 11, _, hj => exact Or.inr ⟨by decide, by simpa using hj, fun z => absurd z.1 (by decide)⟩
    | 12, _, hj => simp at hj
    | 13, _, hj => exact Or.inl ⟨rfl, by simpa using hj.symm⟩
  · obtain ⟨j, rfl⟩ : ∃ z, j = z + 14 := ⟨j - 14, by omega⟩
    exact Or.inr ⟨by omega, by simpa using hj, fun z => absurd z.1 (by omega)⟩
theorem x_lstore_13 {G : xG} {l : Launch} {M : xM} {d k n : Nat} {Q : xR → xH → Prop} {pc : Nat} {st : List Value} {h : xH} {a0 a1 a2 a3 a4 a5 a6 a7 a8 a9 a10 a11 a12 : Option Value} {b b2 : Option Value} {r : xLs} {x : Int64} (hdg : decode M.2.1 pc = .ok (.lstore 13, 2)) (hM : 13 + 1 < M.2.2.1) (hn : xN2 a12) (kk : xF G l M d k n Q (pc + 2) (a0 :: a1 :: a2 :: a3 :: a4 :: a5 :: a6 :: a7 :: a8 :: a9 :: a10 :: a11 :: a12 :: some (.long x) :: none :: r) st h) : xF G l M d k n Q pc (a0 :: a1 :: a2 :: a3 :: a4 :: a5 :: a6 :: a7 :: a8 :: a9 :: a10 :: a11 :: a12 :: b :: b2 :: r) (.long x :: st) h := by
  intro p e R s m args below meth c H locs cells slots ls F hL hc hs hR hS
  refine lv_lstore (lv' := _) F.1 F.2.1 hdg hL hM rfl (fun ls1 hL1 => kk p e R s m args below meth c H locs cells slots ls1 F (xHas.s2 (i := 13) (v := .long x) hL1 ?_) hc hs hR hS)
  intro j w hj
  rcases Nat.lt_or_ge j 15 with q | q
  · match j, q, hj with
    | 0, _, hj => exact Or.inr ⟨by decide, by decide, by simpa using hj, fun z => absurd z.1 (by decide)⟩
    | 1, _, hj => exact Or.inr ⟨by decide, by decide, by simpa using hj, fun z => absurd z.1 (by decide)⟩
    | 2, _, hj => exact Or.inr ⟨by decide, by decide, by simpa using hj, fun z => absurd z.1 (by decide)⟩
    | 3, _, hj => exact Or.inr ⟨by decide, by decide, by simpa using hj, fun z => absurd z.1 (by decide)⟩
    | 4, _, hj => exact Or.inr ⟨by decide, by decide, by simpa using hj, fun z => absurd z.1 (by decide)⟩
    | 5, _, hj => exact Or.inr ⟨by decide, by decide, by simpa using hj, fun z => absurd z.1 (by decide)⟩
    | 6, _, hj => exact Or.inr ⟨by decide, by decide, by simpa using hj, fun z => absurd z.1 (by decide)⟩
    | 7, _, hj => exact Or.inr ⟨by decide, by decide, by simpa using hj, fun z => absurd z.1 (by decide)⟩
    | 8, _, hj => exact Or.inr ⟨by decide, by decide, by simpa using hj, fun z => absurd z.1 (by decide)⟩
    | 9, _, hj => exact Or.inr ⟨by decide, by decide, by simpa using hj, fun z => absurd z.1 (by decide)⟩
    | 10, _, hj => exact Or.inr ⟨by decide, by decide, by simpa using hj, fun z => absurd z.1 (by decide)⟩
    | 11, _, hj => exact Or.inr ⟨by decide, by decide, by simpa using hj, fun z => absurd z.1 (by decide)⟩
    | 12, _, hj => exact Or.inr ⟨by decide, by decide, by simpa using hj, fun z => by have := hn w (by simpa using hj); omega⟩
    | 13, _, hj => exact Or.inl ⟨rfl, by simpa using hj.symm⟩
    | 14, _, hj => simp at hj
  · obtain ⟨j, rfl⟩ : ∃ z, j = z + 15 := ⟨j - 15, by omega⟩
    exact Or.inr ⟨by omega, by omega, by simpa using hj, fun z => absurd z.1 (by omega)⟩
theorem x_lstoreC_13 {G : xG} {l : Launch} {M : xM} {d k n : Nat} {Q : xR → xH → Prop} {pc : Nat} {st : List Value} {h : xH} {a0 a1 a2 a3 a4 a5 a6 a7 a8 a9 a10 a11 a12 : Option Value} {b b2 : Option Value} {r : xLs} {x : Int64} (hdg : decode M.2.1 pc = .ok (.lstore 13, 2)) (hM : 13 + 1 < M.2.2.1) (kk : xF G l M d k n Q (pc + 2) (a0 :: a1 :: a2 :: a3 :: a4 :: a5 :: a6 :: a7 :: a8 :: a9 :: a10 :: a11 :: none :: some (.long x) :: none :: r) st h) : xF G l M d k n Q pc (a0 :: a1 :: a2 :: a3 :: a4 :: a5 :: a6 :: a7 :: a8 :: a9 :: a10 :: a11 :: a12 :: b :: b2 :: r) (.long x :: st) h := by
  intro p e R s m args below meth c H locs cells slots ls F hL hc hs hR hS
  refine lv_lstore (lv' := _) F.1 F.2.1 hdg hL hM rfl (fun ls1 hL1 => kk p e R s m args below meth c H locs cells slots ls1 F (xHas.s2 (i := 13) (v := .long x) hL1 ?_) hc hs hR hS)
  intro j w hj
  rcases Nat.lt_or_ge j 15 with q | q
  · match j, q, hj with
    | 0, _, hj => exact Or.inr ⟨by decide, by decide, by simpa using hj, fun z => absurd z.1 (by decide)⟩
    | 1, _, hj => exact Or.inr ⟨by decide, by decide, by simpa using hj, fun z => absurd z.1 (by decide)⟩
    | 2, _, hj => exact Or.inr ⟨by decide, by decide, by simpa using hj, fun z => absurd z.1 (by decide)⟩
    | 3, _, hj => exact Or.inr ⟨by decide, by decide, by simpa using hj, fun z => absurd z.1 (by decide)⟩
    | 4, _, hj => exact Or.inr ⟨by decide, by decide, by simpa using hj, fun z => absurd z.1 (by decide)⟩
    | 5, _, hj => exact Or.inr ⟨by decide, by decide, by simpa using hj, fun z => absurd z.1 (by decide)⟩
    | 6, _, hj => exact Or.inr ⟨by decide, by decide, by simpa using hj, fun z => absurd z.1 (by decide)⟩
    | 7, _, hj => exact Or.inr ⟨by decide, by decide, by simpa using hj, fun z => absurd z.1 (by decide)⟩
    | 8, _, hj => exact Or.inr ⟨by decide, by decide, by simpa using hj, fun z => absurd z.1 (by decide)⟩
    | 9, _, hj => exact Or.inr ⟨by decide, by decide, by simpa using hj, fun z => absurd z.1 (by decide)⟩
    | 10, _, hj => exact Or.inr ⟨by decide, by decide, by simpa using hj, fun z => absurd z.1 (by decide)⟩
    | 11, _, hj => exact Or.inr ⟨by decide, by decide, by simpa using hj, fun z => absurd z.1 (by decide)⟩
    | 12, _, hj => simp at hj
    | 13, _, hj => exact Or.inl ⟨rfl, by simpa using hj.symm⟩
    | 14, _, hj => simp at hj
  · obtain ⟨j, rfl⟩ : ∃ z, j = z + 15 := ⟨j - 15, by omega⟩
    exact Or.inr ⟨by omega, by omega, by simpa using hj, fun z => absurd z.1 (by omega)⟩
theorem x_iinc_13 {G : xG} {l : Launch} {M : xM} {d k n : Nat} {Q : xR → xH → Prop} {pc : Nat} {st : List Value} {h : xH} {a0 a1 a2 a3 a4 a5 a6 a7 a8 a9 a10 a11 a12 : Option Value} {r : xLs} {x v : Int32} {z : Int} (hdg : decode M.2.1 pc = .ok (.iinc 13 z, 3)) (hv : (Int32.ofInt z) = v) (hM : 13 < M.2.2.1) (hn : xN2 a12) (kk : xF G l M d k n Q (pc + 3) (a0 :: a1 :: a2 :: a3 :: a4 :: a5 :: a6 :: a7 :: a8 :: a9 :: a10 :: a11 :: a12 :: some (.int (x + v)) :: r) st h) : xF G l M d k n Q pc (a0 :: a1 :: a2 :: a3 :: a4 :: a5 :: a6 :: a7 :: a8 :: a9 :: a10 :: a11 :: a12 :: some (.int x) :: r) st h := by
  intro p e R s m args below meth c H locs cells slots ls F hL hc hs hR hS
  refine x_iincA F hL (i := 13) rfl hdg hv hM (fun ls1 hL1 => kk p e R s m args below meth c H locs cells slots ls1 F (xHas.s1 (i := 13) (v := .int (x + v)) hL1 ?_) hc hs hR hS)
  intro j w hj
  rcases Nat.lt_or_ge j 14 with q | q
  · match j, q, hj with
    | 0, _, hj => exact Or.inr ⟨by decide, by simpa using hj, fun z => absurd z.1 (by decide)⟩
    | 1, _, hj => exact Or.inr ⟨by decide, by simpa using hj, fun z => absurd z.1 (by decide)⟩
    | 2, _, hj => exact Or.inr ⟨by decide, by simpa using hj, fun z => absurd z.1 (by decide)⟩
    | 3, _, hj => exact Or.inr ⟨by decide, by simpa using hj, fun z => absurd z.1 (by decide)⟩
    | 4, _, hj => exact Or.inr ⟨by decide, by simpa using hj, fun z => absurd z.1 (by decide)⟩
    | 5, _, hj => exact Or.inr ⟨by decide, by simpa using hj, fun z => absurd z.1 (by decide)⟩
    | 6, _, hj => exact Or.inr ⟨by decide, by simpa using hj, fun z => absurd z.1 (by decide)⟩
    | 7, _, hj => exact Or.inr ⟨by decide, by simpa using hj, fun z => absurd z.1 (by decide)⟩
    | 8, _, hj => exact Or.inr ⟨by decide, by simpa using hj, fun z => absurd z.1 (by decide)⟩
    | 9, _, hj => exact Or.inr ⟨by decide, by simpa using hj, fun z => absurd z.1 (by decide)⟩
    | 10, _, hj => exact Or.inr ⟨by decide, by simpa using hj, fun z => absurd z.1 (by decide)⟩
    | 11, _, hj => exact Or.inr ⟨by decide, by simpa using hj, fun z => absurd z.1 (by decide)⟩
    | 12, _, hj => exact Or.inr ⟨by decide, by simpa using hj, fun z => by have := hn w (by simpa using hj); omega⟩
    | 13, _, hj => exact Or.inl ⟨rfl, by simpa using hj.symm⟩
  · obtain ⟨j, rfl⟩ : ∃ z, j = z + 14 := ⟨j - 14, by omega⟩
    exact Or.inr ⟨by omega, by simpa using hj, fun z => absurd z.1 (by omega)⟩
theorem x_iconst {G : xG} {l : Launch} {M : xM} {d k n : Nat} {Q : xR → xH → Prop} {pc : Nat} {st : List Value} {h : xH} {lv : xLs} {z : Int} {v : Int32} (hdg : decode M.2.1 pc = .ok (.iconst z, 1)) (hv : Int32.ofInt z = v) (kk : xF G l M d k n Q (pc + 1) lv (.int v :: st) h) : xF G l M d k n Q pc lv st h := by
  intro p e R s m args below meth c H locs cells slots ls F hL hc hs hR hS
  exact lv_iconst F.1 F.2.1 hdg hv (kk p e R s m args below meth c H locs cells slots ls F hL hc hs hR hS)
theorem x_lconst {G : xG} {l : Launch} {M : xM} {d k n : Nat} {Q : xR → xH → Prop} {pc : Nat} {st : List Value} {h : xH} {lv : xLs} {z : Fin 2} {v : Int64} (hdg : decode M.2.1 pc = .ok (.lconst z, 1)) (hv : Int64.ofNat z.val = v) (kk : xF G l M d k n Q (pc + 1) lv (.long v :: st) h) : xF G l M d k n Q pc lv st h := by
  intro p e R s m args below meth c H locs cells slots ls F hL hc hs hR hS
  exact lv_lconst F.1 F.2.1 hdg hv (kk p e R s m args below meth c H locs cells slots ls F hL hc hs hR hS)
theorem x_aconst {G : xG} {l : Launch} {M : xM} {d k n : Nat} {Q : xR → xH → Prop} {pc : Nat} {st : List Value} {h : xH} {lv : xLs}  (hdg : decode M.2.1 pc = .ok (.aconst_null, 1)) (kk : xF G l M d k n Q (pc + 1) lv (.null :: st) h) : xF G l M d k n Q pc lv st h := by
  intro p e R s m args below meth c H locs cells slots ls F hL hc hs hR hS
  exact lv_null F.1 F.2.1 hdg (kk p e R s m args below meth c H locs cells slots ls F hL hc hs hR hS)
theorem x_bipush {G : xG} {l : Launch} {M : xM} {d k n : Nat} {Q : xR → xH → Prop} {pc : Nat} {st : List Value} {h : xH} {lv : xLs} {z : Int} {v : Int32} (hdg : decode M.2.1 pc = .ok (.bipush z, 2)) (hv : (Int8.ofInt z).toInt32 = v) (kk : xF G l M d k n Q (pc + 2) lv (.int v :: st) h) : xF G l M d k n Q pc lv st h := by
  intro p e R s m args below meth c H locs cells slots ls F hL hc hs hR hS
  exact lv_bipush F.1 F.2.1 hdg hv (kk p e R s m args below meth c H locs cells slots ls F hL hc hs hR hS)
theorem x_sipush {G : xG} {l : Launch} {M : xM} {d k n : Nat} {Q : xR → xH → Prop} {pc : Nat} {st : List Value} {h : xH} {lv : xLs} {z : Int} {v : Int32} (hdg : decode M.2.1 pc = .ok (.sipush z, 3)) (hv : (Int16.ofInt z).toInt32 = v) (kk : xF G l M d k n Q (pc + 3) lv (.int v :: st) h) : xF G l M d k n Q pc lv st h := by
  intro p e R s m args below meth c H locs cells slots ls F hL hc hs hR hS
  exact lv_sipush F.1 F.2.1 hdg hv (kk p e R s m args below meth c H locs cells slots ls F hL hc hs hR hS)
theorem x_iadd {G : xG} {l : Launch} {M : xM} {d k n : Nat} {Q : xR → xH → Prop} {pc : Nat} {st : List Value} {h : xH} {lv : xLs} {x y : Int32} (hdg : decode M.2.1 pc = .ok (.iadd, 1)) (kk : xF G l M d k n Q (pc + 1) lv (.int (x + y) :: st) h) : xF G l M d k n Q pc lv (.int y :: .int x :: st) h := by
  intro p e R s m args below meth c H locs cells slots ls F hL hc hs hR hS
  exact lv_iadd F.1 F.2.1 hdg (kk p e R s m args below meth c H locs cells slots ls F hL hc hs hR hS)
theorem x_isub {G : xG} {l : Launch} {M : xM} {d k n : Nat} {Q : xR → xH → Prop} {pc : Nat} {st : List Value} {h : xH} {lv : xLs} {x y : Int32} (hdg : decode M.2.1 pc = .ok (.isub, 1)) (kk : xF G l M d k n Q (pc + 1) lv (.int (x - y) :: st) h) : xF G l M d k n Q pc lv (.int y :: .int x :: st) h := by
  intro p e R s m args below meth c H locs cells slots ls F hL hc hs hR hS
  exact lv_isub F.1 F.2.1 hdg (kk p e R s m args below meth c H locs cells slots ls F hL hc hs hR hS)
theorem x_imul {G : xG} {l : Launch} {M : xM} {d k n : Nat} {Q : xR → xH → Prop} {pc : Nat} {st : List Value} {h : xH} {lv : xLs} {x y : Int32} (hdg : decode M.2.1 pc = .ok (.imul, 1)) (kk : xF G l M d k n Q (pc + 1) lv (.int (x * y) :: st) h) : xF G l M d k n Q pc lv (.int y :: .int x :: st) h := by
  intro p e R s m args below meth c H locs cells slots ls F hL hc hs hR hS
  exact lv_imul F.1 F.2.1 hdg (kk p e R s m args below meth c H locs cells slots ls F hL hc hs hR hS)
theorem x_iand {G : xG} {l : Launch} {M : xM} {d k n : Nat} {Q : xR → xH → Prop} {pc : Nat} {st : List Value} {h : xH} {lv : xLs} {x y : Int32} (hdg : decode M.2.1 pc = .ok (.iand, 1)) (kk : xF G l M d k n Q (pc + 1) lv (.int (x &&& y) :: st) h) : xF G l M d k n Q pc lv (.int y :: .int x :: st) h := by
  intro p e R s m args below meth c H locs cells slots ls F hL hc hs hR hS
  exact lv_iand F.1 F.2.1 hdg (kk p e R s m args below meth c H locs cells slots ls F hL hc hs hR hS)
theorem x_ior {G : xG} {l : Launch} {M : xM} {d k n : Nat} {Q : xR → xH → Prop} {pc : Nat} {st : List Value} {h : xH} {lv : xLs} {x y : Int32} (hdg : decode M.2.1 pc = .ok (.ior, 1)) (kk : xF G l M d k n Q (pc + 1) lv (.int (x ||| y) :: st) h) : xF G l M d k n Q pc lv (.int y :: .int x :: st) h := by
  intro p e R s m args below meth c H locs cells slots ls F hL hc hs hR hS
  exact lv_ior F.1 F.2.1 hdg (kk p e R s m args below meth c H locs cells slots ls F hL hc hs hR hS)
theorem x_ishl {G : xG} {l : Launch} {M : xM} {d k n : Nat} {Q : xR → xH → Prop} {pc : Nat} {st : List Value} {h : xH} {lv : xLs} {x y : Int32} (hdg : decode M.2.1 pc = .ok (.ishl, 1)) (kk : xF G l M d k n Q (pc + 1) lv (.int (x <<< (y &&& 31)) :: st) h) : xF G l M d k n Q pc lv (.int y :: .int x :: st) h := by
  intro p e R s m args below meth c H locs cells slots ls F hL hc hs hR hS
  exact lv_ishl F.1 F.2.1 hdg (kk p e R s m args below meth c H locs cells slots ls F hL hc hs hR hS)
theorem x_ishr {G : xG} {l : Launch} {M : xM} {d k n : Nat} {Q : xR → xH → Prop} {pc : Nat} {st : List Value} {h : xH} {lv : xLs} {x y : Int32} (hdg : decode M.2.1 pc = .ok (.ishr, 1)) (kk : xF G l M d k n Q (pc + 1) lv (.int (x >>> (y &&& 31)) :: st) h) : xF G l M d k n Q pc lv (.int y :: .int x :: st) h := by
  intro p e R s m args below meth c H locs cells slots ls F hL hc hs hR hS
  exact lv_ishr F.1 F.2.1 hdg (kk p e R s m args below meth c H locs cells slots ls F hL hc hs hR hS)
theorem x_idiv {G : xG} {l : Launch} {M : xM} {d k n : Nat} {Q : xR → xH → Prop} {pc : Nat} {st : List Value} {h : xH} {lv : xLs} {x y : Int32} (hdg : decode M.2.1 pc = .ok (.idiv, 1)) (hne : ¬ y = 0) (kk : xF G l M d k n Q (pc + 1) lv (.int (x / y) :: st) h) : xF G l M d k n Q pc lv (.int y :: .int x :: st) h := by
  intro p e R s m args below meth c H locs cells slots ls F hL hc hs hR hS
  exact lv_idiv F.1 F.2.1 hdg hne (kk p e R s m args below meth c H locs cells slots ls F hL hc hs hR hS)
theorem x_irem {G : xG} {l : Launch} {M : xM} {d k n : Nat} {Q : xR → xH → Prop} {pc : Nat} {st : List Value} {h : xH} {lv : xLs} {x y : Int32} (hdg : decode M.2.1 pc = .ok (.irem, 1)) (hne : ¬ y = 0) (kk : xF G l M d k n Q (pc + 1) lv (.int (x - x / y * y) :: st) h) : xF G l M d k n Q pc lv (.int y :: .int x :: st) h := by
  intro p e R s m args below meth c H locs cells slots ls F hL hc hs hR hS
  exact lv_irem F.1 F.2.1 hdg hne (kk p e R s m args below meth c H locs cells slots ls F hL hc hs hR hS)
theorem x_ladd {G : xG} {l : Launch} {M : xM} {d k n : Nat} {Q : xR → xH → Prop} {pc : Nat} {st : List Value} {h : xH} {lv : xLs} {x y : Int64} (hdg : decode M.2.1 pc = .ok (.ladd, 1)) (kk : xF G l M d k n Q (pc + 1) lv (.long (x + y) :: st) h) : xF G l M d k n Q pc lv (.long y :: .long x :: st) h := by
  intro p e R s m args below meth c H locs cells slots ls F hL hc hs hR hS
  exact lv_ladd F.1 F.2.1 hdg (kk p e R s m args below meth c H locs cells slots ls F hL hc hs hR hS)
theorem x_lsub {G : xG} {l : Launch} {M : xM} {d k n : Nat} {Q : xR → xH → Prop} {pc : Nat} {st : List Value} {h : xH} {lv : xLs} {x y : Int64} (hdg : decode M.2.1 pc = .ok (.lsub, 1)) (kk : xF G l M d k n Q (pc + 1) lv (.long (x - y) :: st) h) : xF G l M d k n Q pc lv (.long y :: .long x :: st) h := by
  intro p e R s m args below meth c H locs cells slots ls F hL hc hs hR hS
  exact lv_lsub F.1 F.2.1 hdg (kk p e R s m args below meth c H locs cells slots ls F hL hc hs hR hS)
theorem x_lmul {G : xG} {l : Launch} {M : xM} {d k n : Nat} {Q : xR → xH → Prop} {pc : Nat} {st : List Value} {h : xH} {lv : xLs} {x y : Int64} (hdg : decode M.2.1 pc = .ok (.lmul, 1)) (kk : xF G l M d k n Q (pc + 1) lv (.long (x * y) :: st) h) : xF G l M d k n Q pc lv (.long y :: .long x :: st) h := by
  intro p e R s m args below meth c H locs cells slots ls F hL hc hs hR hS
  exact lv_lmul F.1 F.2.1 hdg (kk p e R s m args below meth c H locs cells slots ls F hL hc hs hR hS)
theorem x_ldiv {G : xG} {l : Launch} {M : xM} {d k n : Nat} {Q : xR → xH → Prop} {pc : Nat} {st : List Value} {h : xH} {lv : xLs} {x y : Int64} (hdg : decode M.2.1 pc = .ok (.ldiv, 1)) (hne : ¬ y = 0) (kk : xF G l M d k n Q (pc + 1) lv (.long (x / y) :: st) h) : xF G l M d k n Q pc lv (.long y :: .long x :: st) h := by
  intro p e R s m args below meth c H locs cells slots ls F hL hc hs hR hS
  exact lv_ldiv F.1 F.2.1 hdg hne (kk p e R s m args below meth c H locs cells slots ls F hL hc hs hR hS)
theorem x_lrem {G : xG} {l : Launch} {M : xM} {d k n : Nat} {Q : xR → xH → Prop} {pc : Nat} {st : List Value} {h : xH} {lv : xLs} {x y : Int64} (hdg : decode M.2.1 pc = .ok (.lrem, 1)) (hne : ¬ y = 0) (kk : xF G l M d k n Q (pc + 1) lv (.long (x - x / y * y) :: st) h) : xF G l M d k n Q pc lv (.long y :: .long x :: st) h := by
  intro p e R s m args below meth c H locs cells slots ls F hL hc hs hR hS
  exact lv_lrem F.1 F.2.1 hdg hne (kk p e R s m args below meth c H locs cells slots ls F hL hc hs hR hS)
theorem x_ineg {G : xG} {l : Launch} {M : xM} {d k n : Nat} {Q : xR → xH → Prop} {pc : Nat} {st : List Value} {h : xH} {lv : xLs} {x : Int32} (hdg : decode M.2.1 pc = .ok (.ineg, 1)) (kk : xF G l M d k n Q (pc + 1) lv (.int (-x) :: st) h) : xF G l M d k n Q pc lv (.int x :: st) h := by
  intro p e R s m args below meth c H locs cells slots ls F hL hc hs hR hS
  exact lv_ineg F.1 F.2.1 hdg (kk p e R s m args below meth c H locs cells slots ls F hL hc hs hR hS)
theorem x_i2l {G : xG} {l : Launch} {M : xM} {d k n : Nat} {Q : xR → xH → Prop} {pc : Nat} {st : List Value} {h : xH} {lv : xLs} {x : Int32} (hdg : decode M.2.1 pc = .ok (.i2l, 1)) (kk : xF G l M d k n Q (pc + 1) lv (.long x.toInt64 :: st) h) : xF G l M d k n Q pc lv (.int x :: st) h := by
  intro p e R s m args below meth c H locs cells slots ls F hL hc hs hR hS
  exact lv_i2l F.1 F.2.1 hdg rfl (kk p e R s m args below meth c H locs cells slots ls F hL hc hs hR hS)
theorem x_l2i {G : xG} {l : Launch} {M : xM} {d k n : Nat} {Q : xR → xH → Prop} {pc : Nat} {st : List Value} {h : xH} {lv : xLs} {x : Int64} (hdg : decode M.2.1 pc = .ok (.l2i, 1)) (kk : xF G l M d k n Q (pc + 1) lv (.int x.toInt32 :: st) h) : xF G l M d k n Q pc lv (.long x :: st) h := by
  intro p e R s m args below meth c H locs cells slots ls F hL hc hs hR hS
  exact lv_l2i F.1 F.2.1 hdg rfl (kk p e R s m args below meth c H locs cells slots ls F hL hc hs hR hS)
theorem x_i2b {G : xG} {l : Launch} {M : xM} {d k n : Nat} {Q : xR → xH → Prop} {pc : Nat} {st : List Value} {h : xH} {lv : xLs} {x : Int32} (hdg : decode M.2.1 pc = .ok (.i2b, 1)) (kk : xF G l M d k n Q (pc + 1) lv (.int x.toInt8.toInt32 :: st) h) : xF G l M d k n Q pc lv (.int x :: st) h := by
  intro p e R s m args below meth c H locs cells slots ls F hL hc hs hR hS
  exact lv_i2b F.1 F.2.1 hdg rfl (kk p e R s m args below meth c H locs cells slots ls F hL hc hs hR hS)
theorem x_dup {G : xG} {l : Launch} {M : xM} {d k n : Nat} {Q : xR → xH → Prop} {pc : Nat} {st : List Value} {h : xH} {lv : xLs} {x : Value} (hdg : decode M.2.1 pc = .ok (.dup, 1)) (hx : x.category = 1) (kk : xF G l M d k n Q (pc + 1) lv (x :: x :: st) h) : xF G l M d k n Q pc lv (x :: st) h := by
  intro p e R s m args below meth c H locs cells slots ls F hL hc hs hR hS
  exact lv_dup F.1 F.2.1 hdg hx (kk p e R s m args below meth c H locs cells slots ls F hL hc hs hR hS)
theorem x_pop {G : xG} {l : Launch} {M : xM} {d k n : Nat} {Q : xR → xH → Prop} {pc : Nat} {st : List Value} {h : xH} {lv : xLs} {x : Value} (hdg : decode M.2.1 pc = .ok (.pop, 1)) (hx : x.category = 1) (kk : xF G l M d k n Q (pc + 1) lv st h) : xF G l M d k n Q pc lv (x :: st) h := by
  intro p e R s m args below meth c H locs cells slots ls F hL hc hs hR hS
  exact lv_pop F.1 F.2.1 hdg hx (kk p e R s m args below meth c H locs cells slots ls F hL hc hs hR hS)
theorem x_dup_x1 {G : xG} {l : Launch} {M : xM} {d k n : Nat} {Q : xR → xH → Prop} {pc : Nat} {st : List Value} {h : xH} {lv : xLs} {x y : Value} (hdg : decode M.2.1 pc = .ok (.dup_x1, 1)) (hx : x.category = 1) (hy : y.category = 1) (kk : xF G l M d k n Q (pc + 1) lv (x :: y :: x :: st) h) : xF G l M d k n Q pc lv (x :: y :: st) h := by
  intro p e R s m args below meth c H locs cells slots ls F hL hc hs hR hS
  exact lv_dup_x1 F.1 F.2.1 hdg hx hy (kk p e R s m args below meth c H locs cells slots ls F hL hc hs hR hS)
theorem x_dup2 {G : xG} {l : Launch} {M : xM} {d k n : Nat} {Q : xR → xH → Prop} {pc : Nat} {st : List Value} {h : xH} {lv : xLs} {x y : Value} (hdg : decode M.2.1 pc = .ok (.dup2, 1)) (hx : x.category = 1) (hy : y.category = 1) (kk : xF G l M d k n Q (pc + 1) lv (x :: y :: x :: y :: st) h) : xF G l M d k n Q pc lv (x :: y :: st) h := by
  intro p e R s m args below meth c H locs cells slots ls F hL hc hs hR hS
  exact lv_dup2_11 F.1 F.2.1 hdg hx hy (kk p e R s m args below meth c H locs cells slots ls F hL hc hs hR hS)
theorem x_dup2L {G : xG} {l : Launch} {M : xM} {d k n : Nat} {Q : xR → xH → Prop} {pc : Nat} {st : List Value} {h : xH} {lv : xLs} {x : Value} (hdg : decode M.2.1 pc = .ok (.dup2, 1)) (hx : x.category = 2) (kk : xF G l M d k n Q (pc + 1) lv (x :: x :: st) h) : xF G l M d k n Q pc lv (x :: st) h := by
  intro p e R s m args below meth c H locs cells slots ls F hL hc hs hR hS
  exact lv_dup2_2 F.1 F.2.1 hdg hx (kk p e R s m args below meth c H locs cells slots ls F hL hc hs hR hS)
theorem x_lcmp {G : xG} {l : Launch} {M : xM} {d k n : Nat} {Q : xR → xH → Prop} {pc : Nat} {st : List Value} {h : xH} {lv : xLs} {x y : Int64} (hdg : decode M.2.1 pc = .ok (.lcmp, 1)) (kk : xF G l M d k n Q (pc + 1) lv (.int (lg_cmp x y) :: st) h) : xF G l M d k n Q pc lv (.long y :: .long x :: st) h := by
  intro p e R s m args below meth c H locs cells slots ls F hL hc hs hR hS
  exact W.lcmp F.1 F.2.1 hdg (kk p e R s m args below meth c H locs cells slots ls F hL hc hs hR hS)
theorem x_ldc {G : xG} {l : Launch} {M : xM} {d k n : Nat} {Q : xR → xH → Prop} {pc : Nat} {st : List Value} {h : xH} {lv : xLs} {i : Nat} {v : Int32} (hdg : decode M.2.1 pc = .ok (.ldc i, 2)) (hw : Cond.constant M.1.cls i v ∈ lw_all) (kk : xF G l M d k n Q (pc + 2) lv (.int v :: st) h) : xF G l M d k n Q pc lv st h := by
  intro p e R s m args below meth c H locs cells slots ls F hL hc hs hR hS
  exact lv_ldc F.1 F.2.1 F.2.2.2.2.1 (F.2.2.2.2.2.1 _ hw) hdg (kk p e R s m args below meth c H locs cells slots ls F hL hc hs hR hS)
theorem x_ldcw {G : xG} {l : Launch} {M : xM} {d k n : Nat} {Q : xR → xH → Prop} {pc : Nat} {st : List Value} {h : xH} {lv : xLs} {i : Nat} {v : Int32} (hdg : decode M.2.1 pc = .ok (.ldc_w i, 3)) (hw : Cond.constant M.1.cls i v ∈ lw_all) (kk : xF G l M d k n Q (pc + 3) lv (.int v :: st) h) : xF G l M d k n Q pc lv st h := by
  intro p e R s m args below meth c H locs cells slots ls F hL hc hs hR hS
  exact lv_ldcw F.1 F.2.1 F.2.2.2.2.1 (F.2.2.2.2.2.1 _ hw) hdg (kk p e R s m args below meth c H locs cells slots ls F hL hc hs hR hS)
theorem x_ldc2 {G : xG} {l : Launch} {M : xM} {d k n : Nat} {Q : xR → xH → Prop} {pc : Nat} {st : List Value} {h : xH} {lv : xLs} {i : Nat} {v : Int64} (hdg : decode M.2.1 pc = .ok (.ldc2_w i, 3)) (hw : Cond.constantLong M.1.cls i v ∈ lw_all) (kk : xF G l M d k n Q (pc + 3) lv (.long v :: st) h) : xF G l M d k n Q pc lv st h := by
  intro p e R s m args below meth c H locs cells slots ls F hL hc hs hR hS
  exact lv_ldc2 F.1 F.2.1 F.2.2.2.2.1 (F.2.2.2.2.2.1 _ hw) hdg (kk p e R s m args below meth c H locs cells slots ls F hL hc hs hR hS)
theorem x_if_eq {G : xG} {l : Launch} {M : xM} {d k n : Nat} {Q : xR → xH → Prop} {pc : Nat} {st : List Value} {h : xH} {lv : xLs} {x : Int32} {off : Int} (tgt : Nat) (hdg : decode M.2.1 pc = .ok (.ifCond .eq off, 3)) (ht : (pc : Int) + off = (tgt : Int)) (kt : x = 0 → xF G l M d k n Q tgt lv st h) (kf : ¬ x = 0 → xF G l M d k n Q (pc + 3) lv st h) : xF G l M d k n Q pc lv (.int x :: st) h := by
  intro p e R s m args below meth c H locs cells slots ls F hL hc hs hR hS
  exact lv_if_eq F.1 F.2.1 hdg ht (fun z => kt z p e R s m args below meth c H locs cells slots ls F hL hc hs hR hS) (fun z => kf z p e R s m args below meth c H locs cells slots ls F hL hc hs hR hS)
theorem x_icmp_eq {G : xG} {l : Launch} {M : xM} {d k n : Nat} {Q : xR → xH → Prop} {pc : Nat} {st : List Value} {h : xH} {lv : xLs} {x y : Int32} {off : Int} (tgt : Nat) (hdg : decode M.2.1 pc = .ok (.if_icmp .eq off, 3)) (ht : (pc : Int) + off = (tgt : Int)) (kt : x = y → xF G l M d k n Q tgt lv st h) (kf : ¬ x = y → xF G l M d k n Q (pc + 3) lv st h) : xF G l M d k n Q pc lv (.int y :: .int x :: st) h := by
  intro p e R s m args below meth c H locs cells slots ls F hL hc hs hR hS
  exact lv_icmp_eq F.1 F.2.1 hdg ht (fun z => kt z p e R s m args below meth c H locs cells slots ls F hL hc hs hR hS) (fun z => kf z p e R s m args below meth c H locs cells slots ls F hL hc hs hR hS)
theorem x_if_ne {G : xG} {l : Launch} {M : xM} {d k n : Nat} {Q : xR → xH → Prop} {pc : Nat} {st : List Value} {h : xH} {lv : xLs} {x : Int32} {off : Int} (tgt : Nat) (hdg : decode M.2.1 pc = .ok (.ifCond .ne off, 3)) (ht : (pc : Int) + off = (tgt : Int)) (kt : ¬ x = 0 → xF G l M d k n Q tgt lv st h) (kf : x = 0 → xF G l M d k n Q (pc + 3) lv st h) : xF G l M d k n Q pc lv (.int x :: st) h := by
  intro p e R s m args below meth c H locs cells slots ls F hL hc hs hR hS
  exact lv_if_ne F.1 F.2.1 hdg ht (fun z => kt z p e R s m args below meth c H locs cells slots ls F hL hc hs hR hS) (fun z => kf z p e R s m args below meth c H locs cells slots ls F hL hc hs hR hS)
theorem x_icmp_ne {G : xG} {l : Launch} {M : xM} {d k n : Nat} {Q : xR → xH → Prop} {pc : Nat} {st : List Value} {h : xH} {lv : xLs} {x y : Int32} {off : Int} (tgt : Nat) (hdg : decode M.2.1 pc = .ok (.if_icmp .ne off, 3)) (ht : (pc : Int) + off = (tgt : Int)) (kt : ¬ x = y → xF G l M d k n Q tgt lv st h) (kf : x = y → xF G l M d k n Q (pc + 3) lv st h) : xF G l M d k n Q pc lv (.int y :: .int x :: st) h := by
  intro p e R s m args below meth c H locs cells slots ls F hL hc hs hR hS
  exact lv_icmp_ne F.1 F.2.1 hdg ht (fun z => kt z p e R s m args below meth c H locs cells slots ls F hL hc hs hR hS) (fun z => kf z p e R s m args below meth c H locs cells slots ls F hL hc hs hR hS)
theorem x_if_lt {G : xG} {l : Launch} {M : xM} {d k n : Nat} {Q : xR → xH → Prop} {pc : Nat} {st : List Value} {h : xH} {lv : xLs} {x : Int32} {off : Int} (tgt : Nat) (hdg : decode M.2.1 pc = .ok (.ifCond .lt off, 3)) (ht : (pc : Int) + off = (tgt : Int)) (kt : x < 0 → xF G l M d k n Q tgt lv st h) (kf : ¬ x < 0 → xF G l M d k n Q (pc + 3) lv st h) : xF G l M d k n Q pc lv (.int x :: st) h := by
  intro p e R s m args below meth c H locs cells slots ls F hL hc hs hR hS
  exact lv_if_lt F.1 F.2.1 hdg ht (fun z => kt z p e R s m args below meth c H locs cells slots ls F hL hc hs hR hS) (fun z => kf z p e R s m args below meth c H locs cells slots ls F hL hc hs hR hS)
theorem x_icmp_lt {G : xG} {l : Launch} {M : xM} {d k n : Nat} {Q : xR → xH → Prop} {pc : Nat} {st : List Value} {h : xH} {lv : xLs} {x y : Int32} {off : Int} (tgt : Nat) (hdg : decode M.2.1 pc = .ok (.if_icmp .lt off, 3)) (ht : (pc : Int) + off = (tgt : Int)) (kt : x < y → xF G l M d k n Q tgt lv st h) (kf : ¬ x < y → xF G l M d k n Q (pc + 3) lv st h) : xF G l M d k n Q pc lv (.int y :: .int x :: st) h := by
  intro p e R s m args below meth c H locs cells slots ls F hL hc hs hR hS
  exact lv_icmp_lt F.1 F.2.1 hdg ht (fun z => kt z p e R s m args below meth c H locs cells slots ls F hL hc hs hR hS) (fun z => kf z p e R s m args below meth c H locs cells slots ls F hL hc hs hR hS)
theorem x_if_ge {G : xG} {l : Launch} {M : xM} {d k n : Nat} {Q : xR → xH → Prop} {pc : Nat} {st : List Value} {h : xH} {lv : xLs} {x : Int32} {off : Int} (tgt : Nat) (hdg : decode M.2.1 pc = .ok (.ifCond .ge off, 3)) (ht : (pc : Int) + off = (tgt : Int)) (kt : 0 ≤ x → xF G l M d k n Q tgt lv st h) (kf : ¬ 0 ≤ x → xF G l M d k n Q (pc + 3) lv st h) : xF G l M d k n Q pc lv (.int x :: st) h := by
  intro p e R s m args below meth c H locs cells slots ls F hL hc hs hR hS
  exact lv_if_ge F.1 F.2.1 hdg ht (fun z => kt z p e R s m args below meth c H locs cells slots ls F hL hc hs hR hS) (fun z => kf z p e R s m args below meth c H locs cells slots ls F hL hc hs hR hS)
theorem x_icmp_ge {G : xG} {l : Launch} {M : xM} {d k n : Nat} {Q : xR → xH → Prop} {pc : Nat} {st : List Value} {h : xH} {lv : xLs} {x y : Int32} {off : Int} (tgt : Nat) (hdg : decode M.2.1 pc = .ok (.if_icmp .ge off, 3)) (ht : (pc : Int) + off = (tgt : Int)) (kt : y ≤ x → xF G l M d k n Q tgt lv st h) (kf : ¬ y ≤ x → xF G l M d k n Q (pc + 3) lv st h) : xF G l M d k n Q pc lv (.int y :: .int x :: st) h := by
  intro p e R s m args below meth c H locs cells slots ls F hL hc hs hR hS
  exact lv_icmp_ge F.1 F.2.1 hdg ht (fun z => kt z p e R s m args below meth c H locs cells slots ls F hL hc hs hR hS) (fun z => kf z p e R s m args below meth c H locs cells slots ls F hL hc hs hR hS)
theorem x_if_gt {G : xG} {l : Launch} {M : xM} {d k n : Nat} {Q : xR → xH → Prop} {pc : Nat} {st : List Value} {h : xH} {lv : xLs} {x : Int32} {off : Int} (tgt : Nat) (hdg : decode M.2.1 pc = .ok (.ifCond .gt off, 3)) (ht : (pc : Int) + off = (tgt : Int)) (kt : 0 < x → xF G l M d k n Q tgt lv st h) (kf : ¬ 0 < x → xF G l M d k n Q (pc + 3) lv st h) : xF G l M d k n Q pc lv (.int x :: st) h := by
  intro p e R s m args below meth c H locs cells slots ls F hL hc hs hR hS
  exact lv_if_gt F.1 F.2.1 hdg ht (fun z => kt z p e R s m args below meth c H locs cells slots ls F hL hc hs hR hS) (fun z => kf z p e R s m args below meth c H locs cells slots ls F hL hc hs hR hS)
theorem x_icmp_gt {G : xG} {l : Launch} {M : xM} {d k n : Nat} {Q : xR → xH → Prop} {pc : Nat} {st : List Value} {h : xH} {lv : xLs} {x y : Int32} {off : Int} (tgt : Nat) (hdg : decode M.2.1 pc = .ok (.if_icmp .gt off, 3)) (ht : (pc : Int) + off = (tgt : Int)) (kt : y < x → xF G l M d k n Q tgt lv st h) (kf : ¬ y < x → xF G l M d k n Q (pc + 3) lv st h) : xF G l M d k n Q pc lv (.int y :: .int x :: st) h := by
  intro p e R s m args below meth c H locs cells slots ls F hL hc hs hR hS
  exact lv_icmp_gt F.1 F.2.1 hdg ht (fun z => kt z p e R s m args below meth c H locs cells slots ls F hL hc hs hR hS) (fun z => kf z p e R s m args below meth c H locs cells slots ls F hL hc hs hR hS)
theorem x_if_le {G : xG} {l : Launch} {M : xM} {d k n : Nat} {Q : xR → xH → Prop} {pc : Nat} {st : List Value} {h : xH} {lv : xLs} {x : Int32} {off : Int} (tgt : Nat) (hdg : decode M.2.1 pc = .ok (.ifCond .le off, 3)) (ht : (pc : Int) + off = (tgt : Int)) (kt : x ≤ 0 → xF G l M d k n Q tgt lv st h) (kf : ¬ x ≤ 0 → xF G l M d k n Q (pc + 3) lv st h) : xF G l M d k n Q pc lv (.int x :: st) h := by
  intro p e R s m args below meth c H locs cells slots ls F hL hc hs hR hS
  exact lv_if_le F.1 F.2.1 hdg ht (fun z => kt z p e R s m args below meth c H locs cells slots ls F hL hc hs hR hS) (fun z => kf z p e R s m args below meth c H locs cells slots ls F hL hc hs hR hS)
theorem x_icmp_le {G : xG} {l : Launch} {M : xM} {d k n : Nat} {Q : xR → xH → Prop} {pc : Nat} {st : List Value} {h : xH} {lv : xLs} {x y : Int32} {off : Int} (tgt : Nat) (hdg : decode M.2.1 pc = .ok (.if_icmp .le off, 3)) (ht : (pc : Int) + off = (tgt : Int)) (kt : x ≤ y → xF G l M d k n Q tgt lv st h) (kf : ¬ x ≤ y → xF G l M d k n Q (pc + 3) lv st h) : xF G l M d k n Q pc lv (.int y :: .int x :: st) h := by
  intro p e R s m args below meth c H locs cells slots ls F hL hc hs hR hS
  exact lv_icmp_le F.1 F.2.1 hdg ht (fun z => kt z p e R s m args below meth c H locs cells slots ls F hL hc hs hR hS) (fun z => kf z p e R s m args below meth c H locs cells slots ls F hL hc hs hR hS)
theorem x_goto {G : xG} {l : Launch} {M : xM} {d k n : Nat} {Q : xR → xH → Prop} {pc : Nat} {st : List Value} {h : xH} {lv : xLs} {off : Int} (tgt : Nat) (hdg : decode M.2.1 pc = .ok (.goto off, 3)) (ht : (pc : Int) + off = (tgt : Int)) (kk : xF G l M d k n Q tgt lv st h) : xF G l M d k n Q pc lv st h := by
  intro p e R s m args below meth c H locs cells slots ls F hL hc hs hR hS
  exact lv_goto F.1 F.2.1 hdg ht (kk p e R s m args below meth c H locs cells slots ls F hL hc hs hR hS)
theorem x_ifnonnull {G : xG} {l : Launch} {M : xM} {d k n : Nat} {Q : xR → xH → Prop} {pc : Nat} {st : List Value} {h : xH} {lv : xLs} {off : Int} {x : Nat} (tgt : Nat) (hdg : decode M.2.1 pc = .ok (.ifnonnull off, 3)) (ht : (pc : Int) + off = (tgt : Int)) (kk : xF G l M d k n Q tgt lv st h) : xF G l M d k n Q pc lv (.ref x :: st) h := by
  intro p e R s m args below meth c H locs cells slots ls F hL hc hs hR hS
  exact lv_ifnonnull F.1 F.2.1 hdg ht (kk p e R s m args below meth c H locs cells slots ls F hL hc hs hR hS)
theorem x_ifnonnullN {G : xG} {l : Launch} {M : xM} {d k n : Nat} {Q : xR → xH → Prop} {pc : Nat} {st : List Value} {h : xH} {lv : xLs} {off : Int} (hdg : decode M.2.1 pc = .ok (.ifnonnull off, 3)) (kk : xF G l M d k n Q (pc + 3) lv st h) : xF G l M d k n Q pc lv (.null :: st) h := by
  intro p e R s m args below meth c H locs cells slots ls F hL hc hs hR hS
  exact lv_ifnonnullN F.1 F.2.1 hdg (kk p e R s m args below meth c H locs cells slots ls F hL hc hs hR hS)
theorem x_ifnull {G : xG} {l : Launch} {M : xM} {d k n : Nat} {Q : xR → xH → Prop} {pc : Nat} {st : List Value} {h : xH} {lv : xLs} {off : Int} {x : Nat} (hdg : decode M.2.1 pc = .ok (.ifnull off, 3)) (kk : xF G l M d k n Q (pc + 3) lv st h) : xF G l M d k n Q pc lv (.ref x :: st) h := by
  intro p e R s m args below meth c H locs cells slots ls F hL hc hs hR hS
  exact lv_ifnull F.1 F.2.1 hdg (kk p e R s m args below meth c H locs cells slots ls F hL hc hs hR hS)
theorem x_ifnullN {G : xG} {l : Launch} {M : xM} {d k n : Nat} {Q : xR → xH → Prop} {pc : Nat} {st : List Value} {h : xH} {lv : xLs} {off : Int} (tgt : Nat) (hdg : decode M.2.1 pc = .ok (.ifnull off, 3)) (ht : (pc : Int) + off = (tgt : Int)) (kk : xF G l M d k n Q tgt lv st h) : xF G l M d k n Q pc lv (.null :: st) h := by
  intro p e R s m args below meth c H locs cells slots ls F hL hc hs hR hS
  exact lv_ifnullN F.1 F.2.1 hdg ht (kk p e R s m args below meth c H locs cells slots ls F hL hc hs hR hS)
theorem x_tabIn {G : xG} {l : Launch} {M : xM} {d k n : Nat} {Q : xR → xH → Prop} {pc : Nat} {st : List Value} {h : xH} {lv : xLs} {dflt lo hi off : Int} {offs : Array Int} {len : Nat} {x : Int32} (tgt : Nat) (hdg : decode M.2.1 pc = .ok (.tableswitch dflt lo hi offs, len)) (h1 : ¬ x.toInt < lo) (h2 : ¬ hi < x.toInt) (ho : offs[(x.toInt - lo).toNat]? = some off) (ht : (pc : Int) + off = (tgt : Int)) (kk : xF G l M d k n Q tgt lv st h) : xF G l M d k n Q pc lv (.int x :: st) h := by
  intro p e R s m args below meth c H locs cells slots ls F hL hc hs hR hS
  exact lv_tableIn F.1 F.2.1 hdg h1 h2 ho ht (kk p e R s m args below meth c H locs cells slots ls F hL hc hs hR hS)
theorem x_tabOut {G : xG} {l : Launch} {M : xM} {d k n : Nat} {Q : xR → xH → Prop} {pc : Nat} {st : List Value} {h : xH} {lv : xLs} {dflt lo hi : Int} {offs : Array Int} {len : Nat} {x : Int32} (tgt : Nat) (hdg : decode M.2.1 pc = .ok (.tableswitch dflt lo hi offs, len)) (ho : x.toInt < lo ∨ hi < x.toInt) (ht : (pc : Int) + dflt = (tgt : Int)) (kk : xF G l M d k n Q tgt lv st h) : xF G l M d k n Q pc lv (.int x :: st) h := by
  intro p e R s m args below meth c H locs cells slots ls F hL hc hs hR hS
  exact lv_tableOut F.1 F.2.1 hdg ho ht (kk p e R s m args below meth c H locs cells slots ls F hL hc hs hR hS)
theorem x_lookup {G : xG} {l : Launch} {M : xM} {d k n : Nat} {Q : xR → xH → Prop} {pc : Nat} {st : List Value} {h : xH} {lv : xLs} {dflt off : Int} {ps : Array (Int × Int)} {len : Nat} {x : Int32} (tgt : Nat) (hdg : decode M.2.1 pc = .ok (.lookupswitch dflt ps, len)) (hp : (ps.toList.zip (ps.toList.drop 1)).all (fun (a, next) => a.1 < next.1) = true) (ho : Op.lookupswitch.offset ps.toList dflt x.toInt = off) (ht : (pc : Int) + off = (tgt : Int)) (kk : xF G l M d k n Q tgt lv st h) : xF G l M d k n Q pc lv (.int x :: st) h := by
  intro p e R s m args below meth c H locs cells slots ls F hL hc hs hR hS
  exact lv_lookup F.1 F.2.1 hdg hp ho ht (kk p e R s m args below meth c H locs cells slots ls F hL hc hs hR hS)
/-! ===== calls ===== -/
section XC
variable {G : xG} {l : Launch} {M M' : xM} {d k n mc ms : Nat} {Q Q' : xR → xH → Prop} {pc : Nat} {lv : xLs} {st : List Value} {h : xH}
theorem xgood {ws : List Cond} (h : ∀ w ∈ ws, w ∈ lw_all) : GoodIn lw_all ws := fun w hw => lw_self w (h w hw)
/-- from the run of a call to what comes behind it -/
theorem x_run {p : Program} {e : Env} {R : Room} {s : State} {m : MethodId} {args : Array Value} {below : List Frame} {meth : Method} {c : Code} {H : Heap} {locs : List Loc} {cells slots : Nat} {Qf : State → Prop} {a : Array Value} {ls : Array Slot} {st0 rest : List Value}
    (hr : vx_Run p l e R s m args below meth c H locs cells slots mc ms (F0 m pc ls st0) rest (xQ G Q' a) (xX G Q') (xA G)) (hS : va_S (xA G) s.heap H locs)
    (kx : ∀ (E : String) (ce : Cell) (q : Addr) (h1 : xH) (H1 : Heap) (locs1 : List Loc), Q' (.inr (E, q)) h1 → xRep G h1 H1 → va_S (xA G) s.heap H1 locs1 → H1[q]? = some ce → ce.vm = .none → s.vm.findClass E = some ce.cls → vx_W p l e R s m args below meth c H1 locs1 (cells + mc) (slots + ms) Qf (F0 m pc ls rest) q)
    (kk : ∀ (v : Option Value) (h1 : xH) (H1 : Heap) (locs1 : List Loc), Q' (.inl v) h1 → xRep G h1 H1 → va_S (xA G) s.heap H1 locs1 → W p l e R s m args below meth c H1 locs1 (cells + mc) (slots + ms) Qf (F0 m (pc + 3) ls (v.toList ++ rest))) :
    W p l e R s m args below meth c H locs cells slots Qf (F0 m pc ls st0) := by
  intro T hT X
  rcases hr T hT X with ⟨v, st₀, t, T', L, h0, X', hL, e1, e2, ⟨⟨v2, h1, hv, hq, hRep⟩, hF⟩, st⟩ | ⟨q, st₀, t, T', L, E, ce, h0, X', hL, e1, e2, ⟨⟨h1, hq, hRep⟩, hF⟩, hce, hcv, hcl, st⟩
  · cases hv
    obtain ⟨k1, k2, k3⟩ := vx_keep h0 e1 hS (fun _ _ z => z) (fun _ z => z) hL hF
    obtain ⟨t2, a1, b1⟩ := kk v h1 T'.heap (locs ++ L) hq (by rw [e1]; exact hRep) k3 T' rfl X'
    exact ⟨t2, st t2 a1, b1⟩
  · obtain ⟨k1, k2, k3⟩ := vx_keep h0 e1 hS (fun _ _ z => z) (fun _ z => z) hL hF
    obtain ⟨t2, a1, b1⟩ := kx E ce q h1 T'.heap (locs ++ L) hq (by rw [e1]; exact hRep) k3 (by rw [e1]; exact hce) hcv hcl T' rfl X'
    exact ⟨t2, st.trans a1, b1⟩
/-- the call's frame in a method without handlers -/
theorem x_goes {p : Program} {e : Env} {R : Room} {s : State} {m : MethodId} {args : Array Value} {below : List Frame} {meth : Method} {c : Code} {H : Heap} {locs : List Loc} {cells slots : Nat} {a : Array Value} {ls : Array Slot} {st0 rest : List Value} (hh : M.2.2.2.2 = []) (F : xFr G l M (d + 1) p R s m args meth c) (hL : xHas ls M.2.2.1 lv) (hc : cells + k ≤ R.cells) (hs : slots + n ≤ R.slots) (hm : mc ≤ k ∧ ms ≤ n)
    (hr : vx_Run p l e R s m args below meth c H locs cells slots mc ms (F0 m pc ls st0) rest (xQ G Q' a) (xX G Q') (xA G)) (hS : va_S (xA G) s.heap H locs)
    (kx : ∀ (E : String) (q : Addr) (h1 : xH), Q' (.inr (E, q)) h1 → Q (.inr (E, q)) h1)
    (kk : ∀ (v : Option Value) (h1 : xH), Q' (.inl v) h1 → xF G l M (d + 1) (k - mc) (n - ms) Q (pc + 3) lv (v.toList ++ rest) h1) :
    W p l e R s m args below meth c H locs cells slots (vx_MQ below (xQ G Q) (xX G Q) args s R.cells R.slots (xA G)) (F0 m pc ls st0) := by
  refine x_run hr hS (fun E ce q h1 H1 locs1 q1 r1 s1 hce hcv hcl => ?_) (fun v h1 H1 locs1 q1 r1 s1 => ?_)
  · refine vx_out (fun x hx => ?_) F.2.2.2.2.2.2.1 hce hcv hcl (fun t ht hal => ⟨⟨h1, kx E q h1 q1, by rw [ht]; exact r1⟩, s1.F ht⟩) s1.2.2 (by omega) (by omega)
    have h9 := F.2.2.2.2.2.2.2.2.2.2.2
    rw [hh, List.map_eq_nil_iff] at h9
    rw [h9] at hx
    cases hx
  · exact kk v h1 q1 p e R s m args below meth c H1 locs1 (cells + mc) (slots + ms) ls F hL (by omega) (by omega) r1 s1
/-- words of a call through an object of class C -/
def xCV (own : String) (idx : Nat) (C : String) (M' : xM) (ar : Nat) : Prop := Cond.methodLink own idx M'.1 ∈ lw_all ∧ Cond.instanceMethod M'.1 ∈ lw_all ∧ Cond.selects C M'.1 M'.1 ∈ lw_all ∧ Cond.initialized C ∈ lw_all ∧ xwd M' ∈ lw_all ∧ M'.2.2.2.2 = [] ∧
  (M'.1.cls = C ∧ M'.1.cls ≠ "java/lang/invoke/MethodHandle" ∧ M'.1.cls ≠ "java/lang/invoke/VarHandle" ∧ (parseMethodDescriptor M'.1.desc).map (fun d => d.parameters.length) = some ar) ∧ M'.2.2.1 ≤ 45
def xCS (own : String) (idx : Nat) (M' : xM) (ar : Nat) : Prop := Cond.methodLink own idx M'.1 ∈ lw_all ∧ Cond.static M'.1 ∈ lw_all ∧ Cond.initialized M'.1.cls ∈ lw_all ∧ xwd M' ∈ lw_all ∧ M'.2.2.2.2 = [] ∧
  (M'.1.cls ≠ "java/lang/invoke/MethodHandle" ∧ M'.1.cls ≠ "java/lang/invoke/VarHandle" ∧ (parseMethodDescriptor M'.1.desc).map (fun d => d.parameters.length) = some ar) ∧ M'.2.2.1 ≤ 45
theorem xws_eq (hh : M'.2.2.2.2 = []) : xws M' = Cond.code M'.1 M'.2.1 M'.2.2.1 M'.2.2.2.1 :: lw_all := by unfold xws xwd; rw [hh]
theorem xws_good (hw : xwd M' ∈ lw_all) : GoodIn lw_all (xws M') := by
  intro w hw2
  rcases List.mem_cons.mp hw2 with e | e
  · rw [e]; exact lw_self _ hw
  · exact lw_self _ e
theorem x_room {R : Room} {maxL : Nat} (h1 : d + 1 ≤ R.frames) (h2 : 64 * (d + 1) ≤ R.locals) (h3 : maxL ≤ 45) : (xrm d mc ms).frames + 1 ≤ R.frames ∧ 8 + (maxL + 11) + (xrm d mc ms).locals ≤ R.locals := ⟨h1, by show 8 + (maxL + 11) + 64 * d ≤ R.locals; omega⟩
theorem xPc.callee {p : Program} {R : Room} {s : State} {m : MethodId} {args : Array Value} {meth : Method} {c : Code} {H : Heap} {locs : List Loc} {d' : Nat} (F : xFr G l M d' p R s m args meth c) (hR : xRep G h H) (hS : va_S (xA G) s.heap H locs) {av : List Value} : ∀ U : State, U.heap = H → s.WarmedH U.vm → xPc G av h av.toArray U :=
  fun U hU hW => ⟨rfl, F.2.2.2.2.2.2.2.2.2.2.1.warm hW (by rw [hU]; exact hS), by rw [hU]; exact hR⟩
theorem x_cV {idx ci b ar : Nat} {C : String} {T : u_T} {N : Nat} {fs As rest : List Value} (hh : M.2.2.2.2 = []) (hw : xCV M.1.cls idx C M' ar) (hcl : xcl[ci]? = some (C, T, N)) (hb : h b = some (.inr (ci, fs))) (har : As.length = ar) (hst : st = As.reverse ++ .ref b :: rest) (hrm : (rest.map fun v => v.category).sum ≤ 8) (hdg : decode M.2.1 pc = .ok (.invokevirtual idx, 3)) (hC : xC G l M' d mc ms (.ref b :: As) h Q') (hm : mc ≤ k ∧ ms ≤ n)
    (kx : ∀ (E : String) (q : Addr) (h1 : xH), Q' (.inr (E, q)) h1 → Q (.inr (E, q)) h1)
    (kk : ∀ (v : Option Value) (h1 : xH), Q' (.inl v) h1 → xF G l M (d + 1) (k - mc) (n - ms) Q (pc + 3) lv (v.toList ++ rest) h1) : xF G l M (d + 1) k n Q pc lv st h := by
  intro p e R s m args below meth c H locs cells slots ls F hL hc hs hR hS
  obtain ⟨w1, w2, w3, w4, w5, w6, w7, w8⟩ := hw
  have cw : CallW R s args M.1.cls C idx M'.1 M'.2.1 M'.2.2.1 M'.2.2.2.1 (xws M') (xrm d mc ms) mc ms ar := cwV ar F.2.2.2.2.2.1 (lw_app (by
    intro w hw
    simp only [List.mem_cons, List.not_mem_nil, or_false] at hw
    rcases hw with e | e | e | e
    · rw [e]; exact w1
    · rw [e]; exact w2
    · rw [e]; exact w3
    · rw [e]; exact w4) (xws_good w5)) (xws_eq w6) rfl rfl w7 (x_room F.2.2.2.2.2.2.2.2.1 F.2.2.2.2.2.2.2.2.2.1 w8)
  have hrecv : ∃ cellB : Cell, H[b]? = some cellB ∧ cellB.vm.isStatics = false ∧ s.vm.findClass C = some cellB.cls := by
    obtain ⟨-, cell, g1, g2, g3, -⟩ := hR.cell hb hcl
    exact ⟨cell, g1, by rw [g3]; rfl, by rw [g2]; exact (F.2.2.2.2.2.2.2.2.2.2.1.1.1 ci _ hcl).2.1⟩
  have hr := vx_runV (rest := rest) (below := below) (e := e) (meth := meth) (locs := locs) (cells := cells) (slots := slots) (g := F0 m pc ls st) ⟨F.1, F.2.1, F.2.2.2.1, F.2.2.2.2.1, F.2.2.2.2.2.1⟩ hC cw ⟨xPc.blind, hrecv, xPc.callee F hR hS⟩ rfl har hL.1 hst (lv_room hrm) hdg ⟨by omega, by omega⟩
  exact x_goes hh F hL hc hs hm hr hS kx kk
theorem x_cS {idx ar : Nat} {As rest : List Value} (hh : M.2.2.2.2 = []) (hw : xCS M.1.cls idx M' ar) (har : As.length = ar) (hst : st = As.reverse ++ rest) (hrm : (rest.map fun v => v.category).sum ≤ 8) (hdg : decode M.2.1 pc = .ok (.invokestatic idx, 3)) (hC : xC G l M' d mc ms As h Q') (hm : mc ≤ k ∧ ms ≤ n)
    (kx : ∀ (E : String) (q : Addr) (h1 : xH), Q' (.inr (E, q)) h1 → Q (.inr (E, q)) h1)
    (kk : ∀ (v : Option Value) (h1 : xH), Q' (.inl v) h1 → xF G l M (d + 1) (k - mc) (n - ms) Q (pc + 3) lv (v.toList ++ rest) h1) : xF G l M (d + 1) k n Q pc lv st h := by
  intro p e R s m args below meth c H locs cells slots ls F hL hc hs hR hS
  obtain ⟨w1, w2, w4, w5, w6, w7, w8⟩ := hw
  have cw := va_cwS (R := R) (ws := xws M') (rm := xrm d mc ms) (mc := mc) (ms := ms) ar F.2.2.2.2.2.1 (lw_app (by
    intro w hw
    simp only [List.mem_cons, List.not_mem_nil, or_false] at hw
    rcases hw with e | e | e
    · rw [e]; exact w1
    · rw [e]; exact w2
    · rw [e]; exact w4) (xws_good w5)) (xws_eq w6) rfl rfl w7 (x_room F.2.2.2.2.2.2.2.2.1 F.2.2.2.2.2.2.2.2.2.1 w8)
  have hr := vx_runS (rest := rest) (below := below) (e := e) (meth := meth) (locs := locs) (cells := cells) (slots := slots) (g := F0 m pc ls st) ⟨F.1, F.2.1, F.2.2.2.1, F.2.2.2.2.1, F.2.2.2.2.2.1⟩ hC cw ⟨xPc.blind, xPc.callee F hR hS⟩ rfl har hL.1 hst (lv_room hrm) hdg ⟨by omega, by omega⟩
  exact x_goes hh F hL hc hs hm hr hS kx kk
/-! answers that are known: xD -/
abbrev xD (v : Option Value) (h1 : xH) : xR → xH → Prop := fun r h2 => r = .inl v ∧ h2 = h1
end XC

