set_option maxRecDepth 100000
/-! ===== multianewarray of two and three dimensions ===== -/
def mm_outer (c : ClassId) (N h0 w : Nat) : Nat → Cell
  | 0 => { cls := c, slots := Array.replicate N .null, vm := .none }
  | i + 1 => (mm_outer c N h0 w i).setSlot i (.ref (h0 + 1 + i * w))
def mm_fill (s : State) (c c1 c2 : ClassId) (N M K : Nat) (dv : Value) : Nat → State
  | 0 => s.pushCell (mm_outer c N s.heap.size (1 + M) 0)
  | i + 1 => (Jvm.Free.Multi.fill (mm_fill s c c1 c2 N M K dv i) c1 c2 M K dv M).setCell s.heap.size (mm_outer c N s.heap.size (1 + M) (i + 1))
theorem mm_outer_facts (c : ClassId) (N h0 w : Nat) : ∀ i, (mm_outer c N h0 w i).cls = c ∧ (mm_outer c N h0 w i).vm = .none ∧ (mm_outer c N h0 w i).slots.size = N
  | 0 => ⟨rfl, rfl, by simp [mm_outer]⟩
  | i + 1 => by
    obtain ⟨a, b, d⟩ := mm_outer_facts c N h0 w i
    exact ⟨by simp [mm_outer, Cell.setSlot, a], by simp [mm_outer, Cell.setSlot, b], by simp [mm_outer, Cell.setSlot, d]⟩
theorem mm_facts (s : State) (c c1 c2 : ClassId) (N M K : Nat) (dv : Value) : ∀ i, (mm_fill s c c1 c2 N M K dv i).heap.size = s.heap.size + 1 + i * (1 + M) ∧ (mm_fill s c c1 c2 N M K dv i).heap[s.heap.size]? = some (mm_outer c N s.heap.size (1 + M) i) ∧
    (mm_fill s c c1 c2 N M K dv i).vm = s.vm ∧ (mm_fill s c c1 c2 N M K dv i).slotsUsed = s.slotsUsed + N + i * (M + M * K)
  | 0 => ⟨by simp [mm_fill], by simp [mm_fill], rfl, by simp [mm_fill, mm_outer]⟩
  | i + 1 => by
    obtain ⟨a, b, d, u⟩ := mm_facts s c c1 c2 N M K dv i
    obtain ⟨f1, f2, f3, f4⟩ := Jvm.Free.Multi.fill_facts (mm_fill s c c1 c2 N M K dv i) c1 c2 M K dv M
    have hlt : s.heap.size < (mm_fill s c c1 c2 N M K dv i).heap.size := by omega
    have hb' : (Jvm.Free.Multi.fill (mm_fill s c c1 c2 N M K dv i) c1 c2 M K dv M).heap[s.heap.size]? = some (mm_outer c N s.heap.size (1 + M) i) := by rw [Jvm.Free.Multi.fill_old _ _ _ _ _ _ hlt]; exact b
    refine ⟨?_, State.heap_setCell_self hb', by simp [mm_fill, d, f3], ?_⟩
    · simp [mm_fill, State.setCell, f1, a, Nat.succ_mul]; omega
    · simp [mm_fill, u, f4, Nat.succ_mul]; omega
theorem mm_setTop (s : State) (f : JFrame) (c c1 c2 : ClassId) (N M K : Nat) (dv : Value) : ∀ i, mm_fill (s.setTop f) c c1 c2 N M K dv i = (mm_fill s c c1 c2 N M K dv i).setTop f
  | 0 => rfl
  | i + 1 => by simp only [mm_fill, mm_setTop s f c c1 c2 N M K dv i, State.heap_setTop, Jvm.Free.Multi.fill_setTop, State.setCell_setTop]
section MW
variable {E : CtlPost} {e : Env} {d : Bool} {acts : List Action} {s : State}
theorem mm_make3 {c c1 c2 cc : ClassId} {k k1 k2 : Class} {t0 t1 type : FieldType} {n m q : Int32} (hk : s.vm.classes[c]? = some k) (hkind : k.kind = .array c1 t0) (href : t0.isReference = true)
    (hk1 : s.vm.classes[c1]? = some k1) (hkind1 : k1.kind = .array c2 t1) (href1 : t1.isReference = true)
    (hkc : s.vm.classes[c2]? = some k2) (hkindc : k2.kind = .array cc type) (hn : ¬ n < 0) (hm : ¬ m < 0) (hq9 : ¬ q < 0)
    (hl1 : ¬ n.toNatClampNeg > e.platform.arrayLengthLimit) (hh1 : ¬ n.toNatClampNeg * componentBytes t0 > e.platform.maxHeapBytes)
    (hl2 : ¬ m.toNatClampNeg > e.platform.arrayLengthLimit) (hh2 : ¬ m.toNatClampNeg * componentBytes t1 > e.platform.maxHeapBytes)
    (hl3 : ¬ q.toNatClampNeg > e.platform.arrayLengthLimit) (hh3 : ¬ q.toNatClampNeg * componentBytes type > e.platform.maxHeapBytes)
    (hdf : fits type (defaultValue type) = true) (hdd : (defaultValue type).isDefault = true)
    (hc : s.heap.size + 1 + n.toNatClampNeg * (1 + m.toNatClampNeg) ≤ e.platform.maxCells) (hs : s.slotsUsed + n.toNatClampNeg + n.toNatClampNeg * (m.toNatClampNeg + m.toNatClampNeg * q.toNatClampNeg) ≤ e.platform.maxSlots)
    {Q : Addr → Pre} (hq : ∀ d' acts', Q s.heap.size d' acts' (mm_fill s c c1 c2 n.toNatClampNeg m.toNatClampNeg q.toNatClampNeg (defaultValue type) n.toNatClampNeg)) :
    wp (multianewarray.make c [n, m, q]) Q E e d acts s := by
  have hfind : ([m, q].find? (· < 0)) = none := by simp [hm, hq9]
  rw [multianewarray.make]
  simp only [wp_bind', W.ite, hn, if_false, wp_pure', W.theClass, hk, hkind, Option.some.injEq, exists_eq_left']
  refine Jvm.Free.Multi.wp_newArray hk hkind hl1 hh1 (Jvm.Free.Multi.refFits href _ (Or.inl rfl)) rfl (by omega) (by omega) ?_
  simp only [hfind]
  rw [ite_self, wp_bind', Std.Legacy.Range.forIn_eq_forIn_range']
  have hsz : ([:n.toNatClampNeg] : Std.Legacy.Range).size = n.toNatClampNeg := by simp [Std.Legacy.Range.size]
  rw [hsz]
  show wp (forIn (List.range' 0 n.toNatClampNeg 1) PUnit.unit _) _ E e d acts _
  refine wp_forIn_inv (fun rest s' => ∃ i, i ≤ n.toNatClampNeg ∧ rest = List.range' i (n.toNatClampNeg - i) ∧ s' = mm_fill s c c1 c2 n.toNatClampNeg m.toNatClampNeg q.toNatClampNeg (defaultValue type) i) _ _ ⟨0, Nat.zero_le _, rfl, rfl⟩ ?_ ?_
  · rintro x rest s' d' acts' Q' ⟨i, hi, hl, rfl⟩ hnext
    have hlt : i < n.toNatClampNeg := by
      rcases Nat.lt_or_ge i n.toNatClampNeg with h | h
      · exact h
      · rw [show n.toNatClampNeg - i = 0 from by omega] at hl; simp at hl
    obtain ⟨rfl, hrest⟩ : x = i ∧ rest = List.range' (i + 1) (n.toNatClampNeg - (i + 1)) := by
      rw [show n.toNatClampNeg - i = (n.toNatClampNeg - (i + 1)) + 1 from by omega, List.range'_succ] at hl
      exact ⟨(List.cons.inj hl).1, (List.cons.inj hl).2⟩
    obtain ⟨f1, f2, f3, f4⟩ := mm_facts s c c1 c2 n.toNatClampNeg m.toNatClampNeg q.toNatClampNeg (defaultValue type) x
    obtain ⟨o1, o2, o3⟩ := mm_outer_facts c n.toNatClampNeg s.heap.size (1 + m.toNatClampNeg) x
    have hmul : x * (m.toNatClampNeg + m.toNatClampNeg * q.toNatClampNeg) + (m.toNatClampNeg + m.toNatClampNeg * q.toNatClampNeg) ≤ n.toNatClampNeg * (m.toNatClampNeg + m.toNatClampNeg * q.toNatClampNeg) := by
      have := Nat.mul_le_mul_right (m.toNatClampNeg + m.toNatClampNeg * q.toNatClampNeg) (show x + 1 ≤ n.toNatClampNeg from hlt)
      rw [Nat.succ_mul] at this; exact this
    have hmul2 : x * (1 + m.toNatClampNeg) + (1 + m.toNatClampNeg) ≤ n.toNatClampNeg * (1 + m.toNatClampNeg) := by
      have := Nat.mul_le_mul_right (1 + m.toNatClampNeg) (show x + 1 ≤ n.toNatClampNeg from hlt)
      rw [Nat.succ_mul] at this; exact this
    simp only [wp_bind']
    refine Jvm.Free.Multi.wp_make2 (k := k1) (kc := k2) (t0 := t1) (by rw [f3]; exact hk1) hkind1 href1 (by rw [f3]; exact hkc) hkindc hm hq9 hl2 hh2 hl3 hh3 hdf hdd (by rw [f1]; omega) (by rw [f4]; omega) (fun d9 acts9 => ?_)
    have hlt0 : s.heap.size < (mm_fill s c c1 c2 n.toNatClampNeg m.toNatClampNeg q.toNatClampNeg (defaultValue type) x).heap.size := by rw [f1]; omega
    simp only [wp_bind', W.writeLoc, wp_pure']
    obtain ⟨g1, g2, g3, g4⟩ := Jvm.Free.Multi.fill_facts (mm_fill s c c1 c2 n.toNatClampNeg m.toNatClampNeg q.toNatClampNeg (defaultValue type) x) c1 c2 m.toNatClampNeg q.toNatClampNeg (defaultValue type) m.toNatClampNeg
    refine ⟨mm_outer c n.toNatClampNeg s.heap.size (1 + m.toNatClampNeg) x, by rw [Jvm.Free.Multi.fill_old _ _ _ _ _ _ hlt0]; exact f2, by rw [o2]; simp, by rw [o3]; exact hlt, ?_, hnext _ _ _ ⟨x + 1, hlt, hrest, ?_⟩⟩
    · rw [o1, o2]
      simp [State.fitsSlot, State.slotType?, g3, f3, hk, hkind, Jvm.Free.Multi.refFits href _ (Or.inr ⟨_, rfl⟩)]
    · rw [f1]; rfl
  · rintro s' d' acts' ⟨i, hi, hl, rfl⟩
    have hiN : i = n.toNatClampNeg := by
      rcases Nat.lt_or_ge i n.toNatClampNeg with h | h
      · rw [show n.toNatClampNeg - i = (n.toNatClampNeg - (i + 1)) + 1 from by omega, List.range'_succ] at hl; cases hl
      · omega
    subst hiN
    simp only [wp_pure']
    exact hq _ _
end MW
section MS
variable {p : Program} {l : Launch} {e : Env} {R : Room} {s : State} {m : MethodId} {args : Array Value} {below : List Frame} {meth : Method} {c : Code} {T : State} {locs : List Loc} {cells slots : Nat}
theorem mm_filled (X : Stand p l e R s m args below meth c T locs cells slots) (cA c1 c2 : ClassId) (N M K : Nat) (dv : Value) :
    ∀ i, ∃ L : List Loc, (∀ x ∈ L, T.heap.size ≤ x.base) ∧ Stand p l e R s m args below meth c (mm_fill T cA c1 c2 N M K dv i) (locs ++ L) (cells + 1 + i * (1 + M)) (slots + N + i * (M + M * K))
  | 0 => by
    have h := X.pushed (mm_outer cA N T.heap.size (1 + M) 0)
    rw [(mm_outer_facts cA N T.heap.size (1 + M) 0).2.2] at h
    exact ⟨[], (fun x hx => nomatch hx), by simpa [mm_fill] using h⟩
  | i + 1 => by
    obtain ⟨L, hL, Xi⟩ := mm_filled X cA c1 c2 N M K dv i
    obtain ⟨f1, f2, f3, f4⟩ := mm_facts T cA c1 c2 N M K dv i
    have hlt0 : T.heap.size < (mm_fill T cA c1 c2 N M K dv i).heap.size := by rw [f1]; omega
    have hcell : (Jvm.Free.Multi.fill (mm_fill T cA c1 c2 N M K dv i) c1 c2 M K dv M).heap[T.heap.size]? = some (mm_outer cA N T.heap.size (1 + M) i) := by rw [Jvm.Free.Multi.fill_old _ _ _ _ _ _ hlt0]; exact f2
    have h := (Xi.filled c1 c2 M K dv M).stored hcell i (.ref (T.heap.size + 1 + i * (1 + M)))
    refine ⟨L ++ ((List.range M).map fun j => (⟨(mm_fill T cA c1 c2 N M K dv i).heap.size, j⟩ : Loc)) ++ [⟨T.heap.size, i⟩], fun x hx => ?_, ?_⟩
    · rcases List.mem_append.mp hx with hx | hx
      · rcases List.mem_append.mp hx with hx | hx
        · exact hL x hx
        · obtain ⟨j, -, rfl⟩ := List.mem_map.mp hx
          exact Nat.le_of_lt hlt0
      · rw [List.mem_singleton.mp hx]
        exact Nat.le_refl _
    · have e3 : slots + N + (i + 1) * (M + M * K) = slots + N + i * (M + M * K) + M + M * K := by rw [Nat.succ_mul]; omega
      have e4 : cells + 1 + (i + 1) * (1 + M) = cells + 1 + i * (1 + M) + 1 + M := by rw [Nat.succ_mul]; omega
      rw [e3, e4, ← List.append_assoc, ← List.append_assoc]
      exact h
theorem mm_run3 (X : Stand p l e R s m args below meth c T locs cells slots) (hexec : p.tables.exec = Jvm.exec) {own nm : String} {index : Nat} {ty : FieldType} {cA c1 c2 cc : ClassId} {kA k1 k2 : Class}
    (hown : s.vm.findClass own = some m.cls) (hclink : (Cond.classLink own index nm).before args s = true) (hnm : s.vm.findClass nm = some cA)
    (hkA : s.vm.classes[cA]? = some kA) (hkindA : kA.kind = .array c1 (.array (.array ty))) (hk1 : s.vm.classes[c1]? = some k1) (hkind1 : k1.kind = .array c2 (.array ty)) (hk2 : s.vm.classes[c2]? = some k2) (hkind2 : k2.kind = .array cc ty)
    {g : JFrame} (hg : g.method = m) (hdg : decode c.code g.pc = .ok (.multianewarray index 3, 4)) {n k q : Int32} {rest : List Value} (hstack : g.stack = .int q :: .int k :: .int n :: rest)
    (hn : ¬ n < 0) (hk : ¬ k < 0) (hq : ¬ q < 0) (hb1 : n.toNatClampNeg * 4 ≤ 536870912) (hb2 : k.toNatClampNeg * 4 ≤ 536870912) (hb4 : q.toNatClampNeg * componentBytes ty ≤ 536870912) (hb3 : q.toNatClampNeg ≤ 536870912)
    (hdf : fits ty (defaultValue ty) = true) (hdd : (defaultValue ty).isDefault = true)
    (hcells : cells + (1 + n.toNatClampNeg * (1 + k.toNatClampNeg)) ≤ R.cells) (hslots : slots + (n.toNatClampNeg + n.toNatClampNeg * (k.toNatClampNeg + k.toNatClampNeg * q.toNatClampNeg)) ≤ R.slots) :
    ∃ (vm₁ : Vm), s.WarmedH vm₁ ∧
      Stand p l e R s m args below meth c (mm_fill (T.setVm vm₁) cA c1 c2 n.toNatClampNeg k.toNatClampNeg q.toNatClampNeg (defaultValue ty) n.toNatClampNeg) locs (cells + 1 + n.toNatClampNeg * (1 + k.toNatClampNeg)) (slots + n.toNatClampNeg + n.toNatClampNeg * (k.toNatClampNeg + k.toNatClampNeg * q.toNatClampNeg)) ∧
      ∀ target, Steps p.tables e below ((mm_fill (T.setVm vm₁) cA c1 c2 n.toNatClampNeg k.toNatClampNeg q.toNatClampNeg (defaultValue ty) n.toNatClampNeg).setTop { g with pc := g.pc + 4, stack := .ref T.heap.size :: rest }) target →
        Steps p.tables e below (T.setTop g) target := by
  subst hg
  have hpl : e.platform.magicAccessors = ({} : Platform).magicAccessors := by rw [X.admits.platform]
  obtain ⟨c0, hfc0, hcl⟩ := Cond.classLink_spec hown hclink e.platform hpl
  cases hnm.symm.trans hfc0
  obtain ⟨hg₁, hwarm₁, hready₁⟩ := State.classEntry (e := e) X.warmed hcl
  generalize T.vm.noted g.method.cls index (.cls cA) = vm₁ at hg₁ hwarm₁ hready₁
  have hal : s.vm.Alike vm₁ := hwarm₁.alike
  obtain ⟨kA₁, hkA₁, heA⟩ := hal.2.2 _ _ hkA
  obtain ⟨kB₁, hkB₁, heB⟩ := hal.2.2 _ _ hk1
  obtain ⟨kC₁, hkC₁, heC⟩ := hal.2.2 _ _ hk2
  have hkindA₁ : kA₁.kind = .array c1 (.array (.array ty)) := by rw [heA]; exact hkindA
  have hkindB₁ : kB₁.kind = .array c2 (.array ty) := by rw [heB]; exact hkind1
  have hkindC₁ : kC₁.kind = .array cc ty := by rw [heC]; exact hkind2
  have X₁ := X.noted hwarm₁
  obtain ⟨hr1, hr2⟩ := X.roomAbove hcells hslots
  obtain ⟨L, hL, XF⟩ := mm_filled X₁ cA c1 c2 n.toNatClampNeg k.toNatClampNeg q.toNatClampNeg (defaultValue ty) n.toNatClampNeg
  refine ⟨vm₁, hwarm₁, XF.dropFresh (fun x hx => Nat.le_trans X.heapGrown (hL x hx)), fun target hrest => ?_⟩
  have hl1 : ¬ n.toNatClampNeg > e.platform.arrayLengthLimit := by rw [Launch.admits_arrayLengthLimit X.admits]; omega
  have hh1 : ¬ n.toNatClampNeg * componentBytes (.array (.array ty)) > e.platform.maxHeapBytes := by
    rw [Launch.admits_maxHeapBytes X.admits]; show ¬ n.toNatClampNeg * 4 > 536870912; omega
  have hl2 : ¬ k.toNatClampNeg > e.platform.arrayLengthLimit := by rw [Launch.admits_arrayLengthLimit X.admits]; omega
  have hh2 : ¬ k.toNatClampNeg * componentBytes (.array ty) > e.platform.maxHeapBytes := by
    rw [Launch.admits_maxHeapBytes X.admits]; show ¬ k.toNatClampNeg * 4 > 536870912; omega
  have hl3 : ¬ q.toNatClampNeg > e.platform.arrayLengthLimit := by rw [Launch.admits_arrayLengthLimit X.admits]; omega
  have hh3 : ¬ q.toNatClampNeg * componentBytes ty > e.platform.maxHeapBytes := by rw [Launch.admits_maxHeapBytes X.admits]; omega
  jvm_step X.here [hexec, hdg]
  simp only [multianewarray.sem, wp_bind', W.resolveClassAt_links (State.method?_setTop g X.here.top) hg₁]
  rw [W.popN, if_neg (by decide)]
  refine ⟨g, State.topJava?_setTop' (s := T.setVm vm₁) g X.here.top, [.int n, .int k, .int q], rest, rfl, hstack, ?_⟩
  simp only [List.mapM_cons, List.mapM_nil, wp_bind', wp_pure']
  refine mm_make3 (k := kA₁) (k1 := kB₁) (k2 := kC₁) (c1 := c1) (c2 := c2) (cc := cc) (t0 := .array (.array ty)) (t1 := .array ty) (type := ty) hkA₁ hkindA₁ rfl hkB₁ hkindB₁ rfl hkC₁ hkindC₁ hn hk hq hl1 hh1 hl2 hh2 hl3 hh3 hdf hdd (by show T.heap.size + 1 + _ ≤ _; omega) (by show T.slotsUsed + _ + _ ≤ _; omega) (fun d' acts' => ?_)
  have eS : ((T.setTop g).setVm vm₁).setTop { g with stack := rest } = (T.setVm vm₁).setTop { g with stack := rest } := by
    show ((T.setVm vm₁).setTop g).setTop _ = _
    rw [State.setTop_setTop]
  rw [eS, mm_setTop]
  simp only [wp_bind', W.mark, W.pushRef, State.topJava?_setTop' _ XF.here.top, Option.some.injEq, exists_eq_left', State.setTop_setTop, State.heap_setTop]
  intro acts
  simp [jvm, XF.here.top]
  exact hrest
theorem mm_run2 (X : Stand p l e R s m args below meth c T locs cells slots) (hexec : p.tables.exec = Jvm.exec) {own nm : String} {index : Nat} {ty : FieldType} {cA c1 cc : ClassId} {kA k1 : Class}
    (hown : s.vm.findClass own = some m.cls) (hclink : (Cond.classLink own index nm).before args s = true) (hnm : s.vm.findClass nm = some cA)
    (hkA : s.vm.classes[cA]? = some kA) (hkindA : kA.kind = .array c1 (.array ty)) (hk1 : s.vm.classes[c1]? = some k1) (hkind1 : k1.kind = .array cc ty)
    {g : JFrame} (hg : g.method = m) (hdg : decode c.code g.pc = .ok (.multianewarray index 2, 4)) {n k : Int32} {rest : List Value} (hstack : g.stack = .int k :: .int n :: rest)
    (hn : ¬ n < 0) (hk : ¬ k < 0) (hb1 : n.toNatClampNeg * 4 ≤ 536870912) (hb2 : k.toNatClampNeg * componentBytes ty ≤ 536870912) (hb3 : k.toNatClampNeg ≤ 536870912)
    (hdf : fits ty (defaultValue ty) = true) (hdd : (defaultValue ty).isDefault = true)
    (hcells : cells + (1 + n.toNatClampNeg) ≤ R.cells) (hslots : slots + (n.toNatClampNeg + n.toNatClampNeg * k.toNatClampNeg) ≤ R.slots) :
    ∃ (vm₁ : Vm), s.WarmedH vm₁ ∧
      Stand p l e R s m args below meth c (Jvm.Free.Multi.fill (T.setVm vm₁) cA c1 n.toNatClampNeg k.toNatClampNeg (defaultValue ty) n.toNatClampNeg) locs (cells + 1 + n.toNatClampNeg) (slots + n.toNatClampNeg + n.toNatClampNeg * k.toNatClampNeg) ∧
      ∀ target, Steps p.tables e below ((Jvm.Free.Multi.fill (T.setVm vm₁) cA c1 n.toNatClampNeg k.toNatClampNeg (defaultValue ty) n.toNatClampNeg).setTop { g with pc := g.pc + 4, stack := .ref T.heap.size :: rest }) target →
        Steps p.tables e below (T.setTop g) target := by
  subst hg
  have hpl : e.platform.magicAccessors = ({} : Platform).magicAccessors := by rw [X.admits.platform]
  obtain ⟨c0, hfc0, hcl⟩ := Cond.classLink_spec hown hclink e.platform hpl
  cases hnm.symm.trans hfc0
  obtain ⟨hg₁, hwarm₁, hready₁⟩ := State.classEntry (e := e) X.warmed hcl
  generalize T.vm.noted g.method.cls index (.cls cA) = vm₁ at hg₁ hwarm₁ hready₁
  have hal : s.vm.Alike vm₁ := hwarm₁.alike
  obtain ⟨kA₁, hkA₁, heA⟩ := hal.2.2 _ _ hkA
  obtain ⟨kB₁, hkB₁, heB⟩ := hal.2.2 _ _ hk1
  have hkindA₁ : kA₁.kind = .array c1 (.array ty) := by rw [heA]; exact hkindA
  have hkindB₁ : kB₁.kind = .array cc ty := by rw [heB]; exact hkind1
  have X₁ := X.noted hwarm₁
  obtain ⟨hr1, hr2⟩ := X.roomAbove hcells hslots
  have XF := X₁.filled cA c1 n.toNatClampNeg k.toNatClampNeg (defaultValue ty) n.toNatClampNeg
  refine ⟨vm₁, hwarm₁, XF.dropFresh (fun x hx => ?_), fun target hrest => ?_⟩
  · obtain ⟨j, -, rfl⟩ := List.mem_map.mp hx
    exact X.heapGrown
  have hl1 : ¬ n.toNatClampNeg > e.platform.arrayLengthLimit := by rw [Launch.admits_arrayLengthLimit X.admits]; omega
  have hh1 : ¬ n.toNatClampNeg * componentBytes (.array ty) > e.platform.maxHeapBytes := by
    rw [Launch.admits_maxHeapBytes X.admits]; show ¬ n.toNatClampNeg * 4 > 536870912; omega
  have hl2 : ¬ k.toNatClampNeg > e.platform.arrayLengthLimit := by rw [Launch.admits_arrayLengthLimit X.admits]; omega
  have hh2 : ¬ k.toNatClampNeg * componentBytes ty > e.platform.maxHeapBytes := by rw [Launch.admits_maxHeapBytes X.admits]; omega
  jvm_step X.here [hexec, hdg]
  simp only [multianewarray.sem, wp_bind', W.resolveClassAt_links (State.method?_setTop g X.here.top) hg₁]
  rw [W.popN, if_neg (by decide)]
  refine ⟨g, State.topJava?_setTop' (s := T.setVm vm₁) g X.here.top, [.int n, .int k], rest, rfl, hstack, ?_⟩
  simp only [List.mapM_cons, List.mapM_nil, wp_bind', wp_pure']
  refine Jvm.Free.Multi.wp_make2 (k := kA₁) (kc := kB₁) (comp := c1) (cc := cc) (t0 := .array ty) (type := ty) hkA₁ hkindA₁ rfl hkB₁ hkindB₁ hn hk hl1 hh1 hl2 hh2 hdf hdd (by show T.heap.size + 1 + _ ≤ _; omega) (by show T.slotsUsed + _ + _ ≤ _; omega) (fun d' acts' => ?_)
  have eS : ((T.setTop g).setVm vm₁).setTop { g with stack := rest } = (T.setVm vm₁).setTop { g with stack := rest } := by
    show ((T.setVm vm₁).setTop g).setTop _ = _
    rw [State.setTop_setTop]
  rw [eS, Jvm.Free.Multi.fill_setTop]
  simp only [wp_bind', W.mark, W.pushRef, State.topJava?_setTop' _ XF.here.top, Option.some.injEq, exists_eq_left', State.setTop_setTop, State.heap_setTop]
  intro acts
  simp [jvm, XF.here.top]
  exact hrest
end MS
