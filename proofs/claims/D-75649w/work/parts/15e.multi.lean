set_option maxRecDepth 100000
/-! ===== arrays of arrays in typed memory ===== -/
/-- an array of N arrays of length M, the first i of them made -/
def tMk (m : tM) (q tO N t1 M : Nat) : Nat → tM
  | 0 => tNew m q (.inr (tO, N))
  | i + 1 => tsR (tNew (tMk m q tO N t1 M i) (q + 1 + i) (.inr (t1, M))) q i (q + 1 + i)
def tMk3 (m : tM) (q tO N tP M t1 K : Nat) : Nat → tM
  | 0 => tNew m q (.inr (tO, N))
  | i + 1 => tsR (tMk (tMk3 m q tO N tP M t1 K i) (q + 1 + i * (1 + M)) tP M t1 K M) q i (q + 1 + i * (1 + M))
section MM
variable {G : xG} {g : xH}
theorem mm_push {m : tM} {H H1 : Heap} {t N : Nat} (hR : xRep G (tH G g m) H) (hA : xA G H.size) (ht : t < 99) (he : va_at G.1 xcl (H.size, tcell G (tNew m (H.size + 1) (.inr (t, N))) (H.size + 1) (.inr (t, N))) H1) (oq : ∀ q : Nat, q < H.size → H1[q]? = H[q]?) : xRep G (tH G g (tNew m (H.size + 1) (.inr (t, N)))) H1 := by
  rw [← tH_new (tFo_ne ht) rfl]
  exact hR.push hA he oq
theorem mm_newO {m : tM} {q a t N : Nat} {H1 : Heap} (h4 : 4 ≤ t) (he : H1[a]? = some ({ cls := G.2.1 t, slots := Array.replicate N .null, vm := .none } : Cell)) : va_at G.1 xcl (a, tcell G (tNew m q (.inr (t, N))) q (.inr (t, N))) H1 := by
  unfold tcell
  dsimp only
  rw [if_neg (by omega), if_neg (by omega)]
  show H1[a]? = some (vp_cell _ _)
  rw [vp_cell_q, he, arrV_new]
  simp [tNew, tof, va_rf, tR]
theorem mm_newI {m : tM} {q a t N : Nat} {H1 : Heap} (h4 : t = 0 ∨ t = 2 ∨ t = 3) (he : H1[a]? = some ({ cls := G.2.1 t, slots := Array.replicate N (.int 0), vm := .none } : Cell)) : va_at G.1 xcl (a, tcell G (tNew m q (.inr (t, N))) q (.inr (t, N))) H1 := by
  unfold tcell
  dsimp only
  rw [if_neg (by omega), if_pos h4]
  show H1[a]? = some (vp_cell _ _)
  rw [vp_cell_i, he, arrV_new]
  simp [tNew]
theorem mm_newJ {m : tM} {q a N : Nat} {H1 : Heap} (he : H1[a]? = some ({ cls := G.2.1 1, slots := Array.replicate N (.long 0), vm := .none } : Cell)) : va_at G.1 xcl (a, tcell G (tNew m q (.inr (1, N))) q (.inr (1, N))) H1 := by
  unfold tcell
  dsimp only
  rw [if_pos rfl]
  show H1[a]? = some (vp_cell _ _)
  rw [vp_cell_l, he, arrV_new]
  simp [tNew]
/-- a reference stored in an array -/
theorem mm_store {m : tM} {H H1 : Heap} {t N a i v : Nat} {cell : Cell} (hR : xRep G (tH G g m) H) (h4 : 4 ≤ t) (h99 : t < 99) (ho : tA m t N (a + 1)) (hc : H[a]? = some cell) (he : H1[a]? = some (cell.setSlot i (rfv v))) (oq : ∀ q : Nat, q ≠ a → H1[q]? = H[q]?) : xRep G (tH G g (tsR m (a + 1) i v)) H1 := by
  obtain ⟨hA, hcell⟩ := hR a _ (tH_O h4 h99 ho)
  have hc2 : H[a]? = some (arrV (G.2.1 t) N (fun j => va_rf (tof m (a + 1) j))) := hcell
  rw [hc] at hc2
  cases hc2
  rw [← tH_upR2 h4 h99 ho]
  refine hR.set hA ?_ oq
  show H1[a]? = some (vp_cell _ _)
  rw [he, vp_cell_q, arrV_store]
  congr 2
  funext q
  by_cases hq : q = i
  · subst hq
    cases v <;> simp [updV, va_up, va_rf, rfv]
  · simp [updV, va_up, hq]
theorem tMk_at {m : tM} {q tO N t1 M : Nat} (hq : q ≠ 0) : ∀ i, tA (tMk m q tO N t1 M i) tO N q
  | 0 => ⟨if_pos rfl, hq⟩
  | i + 1 => by
    refine ⟨?_, hq⟩
    show (if q = q + 1 + i then _ else (tMk m q tO N t1 M i).1 q) = _
    rw [if_neg (by omega)]
    exact (tMk_at hq i).1
theorem mm_rep2 {m : tM} {s : State} {tO N t1 M : Nat} {dv : Value} (h4 : 4 ≤ tO) (h99 : tO < 99) (h1 : t1 < 99) (hz : G.2.2.2 ≤ s.heap.size) (hR : xRep G (tH G g m) s.heap)
    (hin : ∀ (mm : tM) (q a : Nat) (H1 : Heap), H1[a]? = some (Jvm.Free.Multi.innerC (G.2.1 t1) M dv) → va_at G.1 xcl (a, tcell G (tNew mm q (.inr (t1, M))) q (.inr (t1, M))) H1) :
    ∀ i, i ≤ N → xRep G (tH G g (tMk m (s.heap.size + 1) tO N t1 M i)) (Jvm.Free.Multi.fill s (G.2.1 tO) (G.2.1 t1) N M dv i).heap
  | 0, _ => by
    refine mm_push hR hz h99 (mm_newO h4 ?_) (fun q hq => State.heap_pushCell_of_lt _ _ hq)
    exact State.heap_pushCell_size _ _
  | i + 1, hi => by
    have ih := mm_rep2 (N := N) h4 h99 h1 hz hR hin i (by omega)
    obtain ⟨f1, f2, f3, f4⟩ := Jvm.Free.Multi.fill_facts s (G.2.1 tO) (G.2.1 t1) N M dv i
    have hlt : s.heap.size < (Jvm.Free.Multi.fill s (G.2.1 tO) (G.2.1 t1) N M dv i).heap.size := by omega
    have e1 : s.heap.size + 1 + 1 + i = (Jvm.Free.Multi.fill s (G.2.1 tO) (G.2.1 t1) N M dv i).heap.size + 1 := by omega
    have hp : xRep G (tH G g (tNew (tMk m (s.heap.size + 1) tO N t1 M i) (s.heap.size + 1 + 1 + i) (.inr (t1, M)))) ((Jvm.Free.Multi.fill s (G.2.1 tO) (G.2.1 t1) N M dv i).pushCell (Jvm.Free.Multi.innerC (G.2.1 t1) M dv)).heap := by
      rw [e1]
      exact mm_push ih (Nat.le_trans hz (Nat.le_of_lt hlt)) h1 (hin _ _ _ _ (State.heap_pushCell_size _ _)) (fun q hq => State.heap_pushCell_of_lt _ _ hq)
    have hb' : ((Jvm.Free.Multi.fill s (G.2.1 tO) (G.2.1 t1) N M dv i).pushCell (Jvm.Free.Multi.innerC (G.2.1 t1) M dv)).heap[s.heap.size]? = some (Jvm.Free.Multi.outerC (G.2.1 tO) N s.heap.size i) := by rw [State.heap_pushCell_of_lt (h := hlt)]; exact f2
    have ho : tA (tNew (tMk m (s.heap.size + 1) tO N t1 M i) (s.heap.size + 1 + 1 + i) (.inr (t1, M))) tO N (s.heap.size + 1) := by
      refine ⟨?_, by omega⟩
      show (if s.heap.size + 1 = s.heap.size + 1 + 1 + i then _ else (tMk m (s.heap.size + 1) tO N t1 M i).1 (s.heap.size + 1)) = _
      rw [if_neg (by omega)]
      exact (tMk_at (by omega) i).1
    refine mm_store (v := s.heap.size + 1 + 1 + i) hp h4 h99 ho hb' ?_ (fun q hq => State.heap_setCell_other (Ne.symm hq))
    have : rfv (s.heap.size + 1 + 1 + i) = .ref (s.heap.size + 1 + i) := by
      rw [show s.heap.size + 1 + 1 + i = (s.heap.size + 1 + i) + 1 from by omega]
      rfl
    rw [this]
    exact State.heap_setCell_self hb'
theorem tMk_other {m : tM} {q tO N t1 M a : Nat} (hn : a ≠ q) : ∀ i, a < q + 1 ∨ q + 1 + i ≤ a → (tMk m q tO N t1 M i).1 a = m.1 a
  | 0, _ => by show (if a = q then _ else m.1 a) = _; rw [if_neg hn]
  | i + 1, h => by
    show (if a = q + 1 + i then _ else (tMk m q tO N t1 M i).1 a) = _
    rw [if_neg (by omega)]
    exact tMk_other hn i (by omega)
theorem tMk3_at {m : tM} {q tO N tP M t1 K : Nat} (hq : q ≠ 0) : ∀ i, tA (tMk3 m q tO N tP M t1 K i) tO N q
  | 0 => ⟨if_pos rfl, hq⟩
  | i + 1 => by
    refine ⟨?_, hq⟩
    show (tMk (tMk3 m q tO N tP M t1 K i) (q + 1 + i * (1 + M)) tP M t1 K M).1 q = _
    rw [tMk_other (by omega) M (by omega)]
    exact (tMk3_at hq i).1
theorem mm_rep3 {m : tM} {s : State} {tO N tP M t1 K : Nat} {dv : Value} (h4 : 4 ≤ tO) (h99 : tO < 99) (h4p : 4 ≤ tP) (h99p : tP < 99) (h1 : t1 < 99) (hz : G.2.2.2 ≤ s.heap.size) (hR : xRep G (tH G g m) s.heap)
    (hin : ∀ (mm : tM) (q a : Nat) (H1 : Heap), H1[a]? = some (Jvm.Free.Multi.innerC (G.2.1 t1) K dv) → va_at G.1 xcl (a, tcell G (tNew mm q (.inr (t1, K))) q (.inr (t1, K))) H1) :
    ∀ i, i ≤ N → xRep G (tH G g (tMk3 m (s.heap.size + 1) tO N tP M t1 K i)) (mm_fill s (G.2.1 tO) (G.2.1 tP) (G.2.1 t1) N M K dv i).heap
  | 0, _ => by
    refine mm_push hR hz h99 (mm_newO h4 ?_) (fun q hq => State.heap_pushCell_of_lt _ _ hq)
    exact State.heap_pushCell_size _ _
  | i + 1, hi => by
    have ih := mm_rep3 (N := N) (M := M) h4 h99 h4p h99p h1 hz hR hin i (by omega)
    obtain ⟨f1, f2, f3, f4⟩ := mm_facts s (G.2.1 tO) (G.2.1 tP) (G.2.1 t1) N M K dv i
    have hlt : s.heap.size < (mm_fill s (G.2.1 tO) (G.2.1 tP) (G.2.1 t1) N M K dv i).heap.size := by omega
    have e1 : s.heap.size + 1 + 1 + i * (1 + M) = (mm_fill s (G.2.1 tO) (G.2.1 tP) (G.2.1 t1) N M K dv i).heap.size + 1 := by omega
    have hp : xRep G (tH G g (tMk (tMk3 m (s.heap.size + 1) tO N tP M t1 K i) (s.heap.size + 1 + 1 + i * (1 + M)) tP M t1 K M)) (Jvm.Free.Multi.fill (mm_fill s (G.2.1 tO) (G.2.1 tP) (G.2.1 t1) N M K dv i) (G.2.1 tP) (G.2.1 t1) M K dv M).heap := by
      rw [e1]
      exact mm_rep2 h4p h99p h1 (Nat.le_trans hz (Nat.le_of_lt hlt)) ih hin M (Nat.le_refl _)
    have hb' : (Jvm.Free.Multi.fill (mm_fill s (G.2.1 tO) (G.2.1 tP) (G.2.1 t1) N M K dv i) (G.2.1 tP) (G.2.1 t1) M K dv M).heap[s.heap.size]? = some (mm_outer (G.2.1 tO) N s.heap.size (1 + M) i) := by rw [Jvm.Free.Multi.fill_old _ _ _ _ _ _ hlt]; exact f2
    have ho : tA (tMk (tMk3 m (s.heap.size + 1) tO N tP M t1 K i) (s.heap.size + 1 + 1 + i * (1 + M)) tP M t1 K M) tO N (s.heap.size + 1) := by
      refine ⟨?_, by omega⟩
      rw [tMk_other (by omega) M (by omega)]
      exact (tMk3_at (by omega) i).1
    refine mm_store (v := s.heap.size + 1 + 1 + i * (1 + M)) hp h4 h99 ho hb' ?_ (fun q hq => State.heap_setCell_other (Ne.symm hq))
    have : rfv (s.heap.size + 1 + 1 + i * (1 + M)) = .ref (s.heap.size + 1 + i * (1 + M)) := by
      rw [show s.heap.size + 1 + 1 + i * (1 + M) = (s.heap.size + 1 + i * (1 + M)) + 1 from by omega]
      rfl
    rw [this]
    exact State.heap_setCell_self hb'
end MM
section MR
variable {G : xG} {l : Launch} {M : xM} {d k n : Nat} {Q : xR → xH → Prop} {pc : Nat} {lv : xLs} {st rest : List Value} {g : xH} {m : tM} {idx : Nat}
/-- two dimensions, of elements of type t1 -/
theorem t_multi2 {tO t1 N K : Nat} {ty : FieldType} {nm : String} {a b : Int32} (hdg : decode M.2.1 pc = .ok (.multianewarray idx 2, 4)) (hw : Cond.classLink M.1.cls idx nm ∈ lw_all) (hO : xtys[tO]? = some (.array ty) ∧ 4 ≤ tO ∧ tO < 99) (h1 : xtys[t1]? = some ty) (h13 : (t1 = 0 ∨ t1 = 2 ∨ t1 = 3) ∧ defaultValue ty = .int 0 ∨ t1 = 1 ∧ defaultValue ty = .long 0)
    (hc : (tO, t1, .array ty) ∈ xcomp) (hnm : "[" ++ (FieldType.array ty).toString = nm) (ha : ¬ a < 0) (hb : ¬ b < 0) (hN : a.toNatClampNeg = N) (hK : b.toNatClampNeg = K) (hb1 : N * 4 ≤ 536870912) (hb2 : K * componentBytes ty ≤ 536870912) (hb3 : K ≤ 536870912) (hdf : fits ty (defaultValue ty) = true) (hdd : (defaultValue ty).isDefault = true)
    (hk : 1 + N ≤ k) (hn : N + N * K ≤ n)
    (kk : ∀ q : Nat, (∀ j, j ≤ N → m.1 (q + j) = none) → q ≠ 0 → (∀ j : Nat, q + j ≠ G.2.2.1 200 + 1) → xF G l M d (k - (1 + N)) (n - (N + N * K)) Q (pc + 4) lv (rfv q :: rest) (tH G g (tMk m q tO N t1 K N))) : xF G l M d k n Q pc lv (.int b :: .int a :: rest) (tH G g m) := by
  subst hN hK
  intro p e R s m₀ args below meth c H locs cells slots ls F hL hc' hs hR hS T hT X
  have hKn := F.2.2.2.2.2.2.2.2.2.2.1
  obtain ⟨kA, k1, k2⟩ := hKn.1.2.2 _ hc
  have hnA : s.vm.findClass nm = some (G.2.1 tO) := by
    rw [← hnm]
    exact (hKn.1.2.1 tO _ hO.1).2
  obtain ⟨-, kB, j1, cB, j2⟩ := F.arr h1 0 (fun _ => .null)
  obtain ⟨vm₁, hW, X1, step⟩ := mm_run2 X F.1 (nm := nm) (ty := ty) (cA := G.2.1 tO) (c1 := G.2.1 t1) F.2.2.2.2.1 (F.2.2.2.2.2.1 _ hw) hnA k1 k2 j1 j2 (g := F0 m₀ pc ls (.int b :: .int a :: rest)) rfl (by rw [F.2.1]; exact hdg) rfl ha hb hb1 hb2 hb3 hdf hdd (by omega) (by omega)
  have hT1 : (T.setVm vm₁).heap = H := hT
  have hz : G.2.2.2 ≤ (T.setVm vm₁).heap.size := by rw [hT1]; exact Nat.le_trans hKn.2.1 hS.1
  have hrep := mm_rep2 (g := g) (m := m) (s := T.setVm vm₁) (tO := tO) (N := a.toNatClampNeg) (t1 := t1) (M := b.toNatClampNeg) (dv := defaultValue ty) hO.2.1 hO.2.2 (by omega) hz (by rw [hT1]; exact hR) (fun mm q a9 H1 h => by
    rcases h13 with ⟨h13, hd⟩ | ⟨rfl, hd⟩
    · rw [hd] at h
      exact mm_newI h13 h
    · rw [hd] at h
      exact mm_newJ h) a.toNatClampNeg (Nat.le_refl _)
  rw [hT1] at hrep
  have hsz : T.heap.size = H.size := by rw [hT]
  have hold : ∀ q : Nat, q < H.size → (Jvm.Free.Multi.fill (T.setVm vm₁) (G.2.1 tO) (G.2.1 t1) a.toNatClampNeg b.toNatClampNeg (defaultValue ty) a.toNatClampNeg).heap[q]? = H[q]? := fun q hq => by
    rw [Jvm.Free.Multi.fill_old _ _ _ _ _ _ (by rw [hT1]; exact hq), hT1]
  obtain ⟨f1, -, -, -⟩ := Jvm.Free.Multi.fill_facts (T.setVm vm₁) (G.2.1 tO) (G.2.1 t1) a.toNatClampNeg b.toNatClampNeg (defaultValue ty) a.toNatClampNeg
  rw [hT1] at f1
  obtain ⟨t2, a1, b1⟩ := kk (H.size + 1) (fun j _ => by
      have : tH G g m (H.size + j) = none := by
        cases hh : tH G g m (H.size + j) with
        | none => rfl
        | some e9 => exact absurd (hR.lt hh) (by omega)
      have := tH_no this
      rw [show H.size + 1 + j = H.size + j + 1 from by omega]
      exact this) (Nat.succ_ne_zero _) (fun j e9 => by have h8 := xOld hKn; have h9 : G.2.2.2 ≤ H.size := Nat.le_trans hKn.2.1 hS.1; omega) p e R s m₀ args below meth c _ locs (cells + 1 + a.toNatClampNeg) (slots + a.toNatClampNeg + a.toNatClampNeg * b.toNatClampNeg) ls F hL (by omega) (by omega) hrep
      ⟨by rw [f1]; exact Nat.le_trans hS.1 (by omega), fun x g1 g2 => (hold x (Nat.lt_of_lt_of_le g1 hS.1)).trans (hS.2.1 x g1 g2), hS.2.2⟩ _ rfl X1
  refine ⟨t2, step t2 ?_, b1⟩
  rw [hsz]
  exact a1
/-- three dimensions -/
theorem t_multi3 {tO tP t1 N K J : Nat} {ty : FieldType} {nm : String} {a b c3 : Int32} (hdg : decode M.2.1 pc = .ok (.multianewarray idx 3, 4)) (hw : Cond.classLink M.1.cls idx nm ∈ lw_all) (hO : xtys[tO]? = some (.array (.array ty)) ∧ 4 ≤ tO ∧ tO < 99) (hP : 4 ≤ tP ∧ tP < 99) (h1 : xtys[t1]? = some ty) (h13 : (t1 = 0 ∨ t1 = 2 ∨ t1 = 3) ∧ defaultValue ty = .int 0 ∨ t1 = 1 ∧ defaultValue ty = .long 0)
    (hc : (tO, tP, .array (.array ty)) ∈ xcomp) (hcp : (tP, t1, .array ty) ∈ xcomp) (hnm : "[" ++ (FieldType.array (.array ty)).toString = nm) (ha : ¬ a < 0) (hb : ¬ b < 0) (hc3 : ¬ c3 < 0) (hN : a.toNatClampNeg = N) (hK : b.toNatClampNeg = K) (hJ : c3.toNatClampNeg = J) (hb1 : N * 4 ≤ 536870912) (hb2 : K * 4 ≤ 536870912) (hb4 : J * componentBytes ty ≤ 536870912) (hb3 : J ≤ 536870912) (hdf : fits ty (defaultValue ty) = true) (hdd : (defaultValue ty).isDefault = true)
    (hk : 1 + N * (1 + K) ≤ k) (hn : N + N * (K + K * J) ≤ n)
    (kk : ∀ q : Nat, (∀ j, j ≤ N * (1 + K) → m.1 (q + j) = none) → q ≠ 0 → (∀ j : Nat, q + j ≠ G.2.2.1 200 + 1) → xF G l M d (k - (1 + N * (1 + K))) (n - (N + N * (K + K * J))) Q (pc + 4) lv (rfv q :: rest) (tH G g (tMk3 m q tO N tP K t1 J N))) : xF G l M d k n Q pc lv (.int c3 :: .int b :: .int a :: rest) (tH G g m) := by
  subst hN hK hJ
  intro p e R s m₀ args below meth c H locs cells slots ls F hL hc' hs hR hS T hT X
  have hKn := F.2.2.2.2.2.2.2.2.2.2.1
  obtain ⟨kA, k1, k2⟩ := hKn.1.2.2 _ hc
  obtain ⟨kP, k3, k4⟩ := hKn.1.2.2 _ hcp
  have hnA : s.vm.findClass nm = some (G.2.1 tO) := by
    rw [← hnm]
    exact (hKn.1.2.1 tO _ hO.1).2
  obtain ⟨-, kB, j1, cB, j2⟩ := F.arr h1 0 (fun _ => .null)
  obtain ⟨vm₁, hW, X1, step⟩ := mm_run3 X F.1 (nm := nm) (ty := ty) (cA := G.2.1 tO) (c1 := G.2.1 tP) (c2 := G.2.1 t1) F.2.2.2.2.1 (F.2.2.2.2.2.1 _ hw) hnA k1 k2 k3 k4 j1 j2 (g := F0 m₀ pc ls (.int c3 :: .int b :: .int a :: rest)) rfl (by rw [F.2.1]; exact hdg) rfl ha hb hc3 hb1 hb2 hb4 hb3 hdf hdd (by omega) (by omega)
  have hT1 : (T.setVm vm₁).heap = H := hT
  have hz : G.2.2.2 ≤ (T.setVm vm₁).heap.size := by rw [hT1]; exact Nat.le_trans hKn.2.1 hS.1
  have hrep := mm_rep3 (g := g) (m := m) (s := T.setVm vm₁) (tO := tO) (N := a.toNatClampNeg) (tP := tP) (M := b.toNatClampNeg) (t1 := t1) (K := c3.toNatClampNeg) (dv := defaultValue ty) hO.2.1 hO.2.2 hP.1 hP.2 (by omega) hz (by rw [hT1]; exact hR) (fun mm q a9 H1 h => by
    rcases h13 with ⟨h13, hd⟩ | ⟨rfl, hd⟩
    · rw [hd] at h
      exact mm_newI h13 h
    · rw [hd] at h
      exact mm_newJ h) a.toNatClampNeg (Nat.le_refl _)
  rw [hT1] at hrep
  have hsz : T.heap.size = H.size := by rw [hT]
  have hold : ∀ i, ∀ q : Nat, q < H.size → (mm_fill (T.setVm vm₁) (G.2.1 tO) (G.2.1 tP) (G.2.1 t1) a.toNatClampNeg b.toNatClampNeg c3.toNatClampNeg (defaultValue ty) i).heap[q]? = H[q]? := by
    intro i
    induction i with
    | zero =>
      intro q hq
      show ((T.setVm vm₁).pushCell _).heap[q]? = _
      rw [State.heap_pushCell_of_lt _ _ (by rw [hT1]; exact hq), hT1]
    | succ i ih =>
      intro q hq
      obtain ⟨f1, -, -, -⟩ := mm_facts (T.setVm vm₁) (G.2.1 tO) (G.2.1 tP) (G.2.1 t1) a.toNatClampNeg b.toNatClampNeg c3.toNatClampNeg (defaultValue ty) i
      rw [hT1] at f1
      show ((Jvm.Free.Multi.fill _ _ _ _ _ _ _).setCell (T.setVm vm₁).heap.size _).heap[q]? = _
      have hq2 : q < (mm_fill (T.setVm vm₁) (G.2.1 tO) (G.2.1 tP) (G.2.1 t1) a.toNatClampNeg b.toNatClampNeg c3.toNatClampNeg (defaultValue ty) i).heap.size := by rw [f1]; exact Nat.lt_of_lt_of_le hq (by rw [Nat.add_assoc]; exact Nat.le_add_right _ _)
      have hne : (T.setVm vm₁).heap.size ≠ q := by rw [hT1]; exact Nat.ne_of_gt hq
      rw [State.heap_setCell_other hne, Jvm.Free.Multi.fill_old _ _ _ _ _ _ hq2]
      exact ih q hq
  obtain ⟨f1, -, -, -⟩ := mm_facts (T.setVm vm₁) (G.2.1 tO) (G.2.1 tP) (G.2.1 t1) a.toNatClampNeg b.toNatClampNeg c3.toNatClampNeg (defaultValue ty) a.toNatClampNeg
  rw [hT1] at f1
  obtain ⟨t2, a1, b1⟩ := kk (H.size + 1) (fun j _ => by
      have : tH G g m (H.size + j) = none := by
        cases hh : tH G g m (H.size + j) with
        | none => rfl
        | some e9 => exact absurd (hR.lt hh) (by omega)
      have := tH_no this
      rw [show H.size + 1 + j = H.size + j + 1 from by omega]
      exact this) (Nat.succ_ne_zero _) (fun j e9 => by have h8 := xOld hKn; have h9 : G.2.2.2 ≤ H.size := Nat.le_trans hKn.2.1 hS.1; omega) p e R s m₀ args below meth c _ locs (cells + 1 + a.toNatClampNeg * (1 + b.toNatClampNeg)) (slots + a.toNatClampNeg + a.toNatClampNeg * (b.toNatClampNeg + b.toNatClampNeg * c3.toNatClampNeg)) ls F hL (by omega) (by omega) hrep
      ⟨by rw [f1]; exact Nat.le_trans hS.1 (by omega), fun x g1 g2 => (hold _ x (Nat.lt_of_lt_of_le g1 hS.1)).trans (hS.2.1 x g1 g2), hS.2.2⟩ _ rfl X1
  refine ⟨t2, step t2 ?_, b1⟩
  rw [hsz]
  exact a1
end MR
