set_option maxRecDepth 100000
/-- n elements of array a from sp on copied into b from dp on -/
def tCpI (m : tM) (a b sp dp n : Nat) : tM := (m.1, (fun q i => if q = b then va_cpy (m.2.1 a) (m.2.1 b) sp dp n i else m.2.1 q i), m.2.2.1, m.2.2.2)
def tCpR (m : tM) (a b sp dp n : Nat) : tM := (m.1, m.2.1, m.2.2.1, fun q i => if q = b then va_cpy (m.2.2.2 a) (m.2.2.2 b) sp dp n i else m.2.2.2 q i)
def xNat (own : String) (idx : Nat) : Prop := Cond.methodLink own idx arraycopyName ∈ lw_all ∧ Cond.native arraycopyName ∈ lw_all ∧ Cond.static arraycopyName ∈ lw_all ∧ Cond.initialized "java/lang/System" ∈ lw_all
theorem nn_toInt {z : Int32} (hz : ¬ z < 0) : z.toInt = (z.toNatClampNeg : Int) := by
  have hz0 : (0 : Int) ≤ z.toInt := by
    have := Int32.not_lt.mp hz
    simpa using Int32.le_iff_toInt_le.mp this
  show z.toInt = ((z.toInt.toNat : Nat) : Int)
  omega
section TM
variable {G : xG} {l : Launch} {M : xM} {d k n : Nat} {Q : xR → xH → Prop} {pc : Nat} {lv : xLs} {st rest : List Value} {h g : xH} {m : tM} {idx : Nat}
/-- may be copied: places of both arrays of type t -/
def tCpOk (m : tM) (t a b : Nat) (sp dp z : Int32) : Prop := ∃ n0 n1, tA m t n0 a ∧ tA m t n1 b ∧ ¬ sp < 0 ∧ ¬ dp < 0 ∧ ¬ z < 0 ∧ sp.toNatClampNeg + z.toNatClampNeg ≤ n0 ∧ dp.toNatClampNeg + z.toNatClampNeg ≤ n1
theorem t_copyI {a b t : Nat} {ty : FieldType} {sp dp z : Int32} (hdg : decode M.2.1 pc = .ok (.invokestatic idx, 3)) (hw : xNat M.1.cls idx) (ht : xtys[t]? = some ty) (ht3 : t = 0 ∨ t = 2 ∨ t = 3) (hpr : refKind ty = false) (ho : tCpOk m t a b sp dp z) (hfit : ∀ i, i < z.toNatClampNeg → fits ty (.int (tI m a (sp.toNatClampNeg + i))) = true) (hd : 1 ≤ d) (hrm : (rest.map fun v => v.category).sum + (nativeFrameWords "java/lang/System" "arraycopy" 5 + 11) ≤ 64)
    (kk : xF G l M d k n Q (pc + 3) lv rest (tH G g (tCpI m a b sp.toNatClampNeg dp.toNatClampNeg z.toNatClampNeg))) : xF G l M d k n Q pc lv (.int z :: .int dp :: rfv b :: .int sp :: rfv a :: rest) (tH G g m) := by
  obtain ⟨n0, n1, ha, hb, h1, h2, h3, h4, h5⟩ := ho
  obtain ⟨a, rfl⟩ := Nat.exists_eq_succ_of_ne_zero ha.2
  obtain ⟨b, rfl⟩ := Nat.exists_eq_succ_of_ne_zero hb.2
  intro p e R s m₀ args below meth c H locs cells slots ls F hL hc hs hR hS T hT X
  obtain ⟨w1, w2, w3, w4⟩ := hw
  have hts := F.2.2.2.2.2.1
  obtain ⟨-, hc0⟩ := hR a _ (tH_I ht3 ha)
  obtain ⟨hA, hc1⟩ := hR b _ (tH_I ht3 hb)
  have hc0 : H[a]? = some (vp_cell (G.2.1 t) (n0, .inl (m.2.1 (a + 1)))) := hc0
  have hc1 : H[b]? = some (vp_cell (G.2.1 t) (n1, .inl (m.2.1 (b + 1)))) := hc1
  obtain ⟨-, k0, hk0, cm0, hkk0⟩ := F.arr ht n0 (fun j => .int (m.2.1 (a + 1) j))
  obtain ⟨-, k1, hk1, cm1, hkk1⟩ := F.arr ht n1 (fun j => .int (m.2.1 (b + 1) j))
  obtain ⟨vm', X', step⟩ := X.arraycopy F.1 F.2.2.2.2.1 (hts _ w1) (hts _ w2) (hts _ w3) (hts _ w4) (src := a) (dst := b) (cs := vp_cell (G.2.1 t) (n0, .inl (m.2.1 (a + 1)))) (cd := vp_cell (G.2.1 t) (n1, .inl (m.2.1 (b + 1)))) (srcPos := sp) (destPos := dp) (n := z) (by rw [hT]; exact hc0) (by rw [hT]; exact hc1)
    (fun _ h => by cases h) (fun _ h => by cases h) (fun h => by cases h) (fun h => by cases h) hk0 hk1 hkk0 hkk1 (by simp [hpr]) h1 h2 h3
    (by rw [nn_toInt h1, nn_toInt h3]; show ¬ _ > ((arrV (G.2.1 t) n0 (fun j => .int (m.2.1 (a + 1) j))).slots.size : Int); rw [arrV_size]; omega)
    (by rw [nn_toInt h2, nn_toInt h3]; show ¬ _ > ((arrV (G.2.1 t) n1 (fun j => .int (m.2.1 (b + 1) j))).slots.size : Int); rw [arrV_size]; omega)
    (fun vm₁ _ i hi => by
      have e : (vp_cell (G.2.1 t) (n0, .inl (m.2.1 (a + 1)))).slots.getD (sp.toNatClampNeg + i) .null = .int (m.2.1 (a + 1) (sp.toNatClampNeg + i)) := by
        show (arrV (G.2.1 t) n0 (fun j => .int (m.2.1 (a + 1) j))).slots.getD _ _ = _
        rw [Array.getD_eq_getD_getElem?, arrV_read _ _ (by omega)]
        rfl
      refine ⟨?_, ?_⟩
      · rw [e]
        exact hfit i hi
      · rw [e]
        exact trivial)
    (g := F0 m₀ pc ls (.int z :: .int dp :: .ref b :: .int sp :: .ref a :: rest)) rfl (by rw [F.2.2.2.1]; exact hL.1) (rest := rest) rfl (by rw [F.2.1]; exact hdg) (by have := F.2.2.2.2.2.2.2.2.1; omega) (by have := F.2.2.2.2.2.2.2.2.2.1; show 2 * 0 + _ + _ ≤ _; omega)
  have e1 : copied (vp_cell (G.2.1 t) (n0, .inl (m.2.1 (a + 1)))) (vp_cell (G.2.1 t) (n1, .inl (m.2.1 (b + 1)))) sp dp z = vp_cell (G.2.1 t) (n1, .inl (va_cpy (m.2.1 (a + 1)) (m.2.1 (b + 1)) sp.toNatClampNeg dp.toNatClampNeg z.toNatClampNeg)) := va_copied (fun z => .int z) (G.2.1 t) (G.2.1 t) (m.2.1 (a + 1)) (m.2.1 (b + 1)) h4
  rw [e1] at X' step
  have hl : b < H.size := (Array.getElem?_eq_some_iff.mp hc1).1
  generalize hcell : vp_cell (G.2.1 t) (n1, .inl (va_cpy (m.2.1 (a + 1)) (m.2.1 (b + 1)) sp.toNatClampNeg dp.toNatClampNeg z.toNatClampNeg)) = cell at X' step
  have hheap : ((T.setVm vm').setCell b cell).heap = H.setIfInBounds b cell := by rw [← hT]; rfl
  have oq : ∀ q : Nat, q ≠ b → (H.setIfInBounds b cell)[q]? = H[q]? := fun q hq => by simp [Array.getElem?_setIfInBounds, Ne.symm hq]
  have hup : xUp (tH G g m) b (xI G t n1 (va_cpy (m.2.1 (a + 1)) (m.2.1 (b + 1)) sp.toNatClampNeg dp.toNatClampNeg z.toNatClampNeg)) = tH G g (tCpI m (a + 1) (b + 1) sp.toNatClampNeg dp.toNatClampNeg z.toNatClampNeg) := by
    refine tH_up (m := m) (m2 := tCpI m (a + 1) (b + 1) sp.toNatClampNeg dp.toNatClampNeg z.toNatClampNeg) hb.1 (tFo_ne (by omega)) rfl ?_ fun q hq s' => tcell_ext (m := m) (m2 := tCpI m (a + 1) (b + 1) sp.toNatClampNeg dp.toNatClampNeg z.toNatClampNeg) (by funext i; simp [tCpI, hq]) rfl rfl s'
    unfold tcell
    dsimp only
    rw [if_neg (by omega), if_pos ht3]
    have : (tCpI m (a + 1) (b + 1) sp.toNatClampNeg dp.toNatClampNeg z.toNatClampNeg).2.1 (b + 1) = va_cpy (m.2.1 (a + 1)) (m.2.1 (b + 1)) sp.toNatClampNeg dp.toNatClampNeg z.toNatClampNeg := by funext i; simp [tCpI]
    rw [this]
  obtain ⟨t2, a1, b1⟩ := kk p e R s m₀ args below meth c (H.setIfInBounds b cell) _ cells slots ls F hL hc hs
    (by rw [← hup]; exact hR.set hA (show (H.setIfInBounds b cell)[b]? = some _ by rw [← hcell]; simp [Array.getElem?_setIfInBounds, hl]) oq)
    ⟨by simp; exact hS.1, fun q g1 g2 => by
      rw [oq q (fun e => g2 (by rw [e]; exact hA))]
      exact hS.2.1 q g1 g2, fun q hq => by
      rcases List.mem_append.mp hq with h | h
      · exact hS.2.2 q h
      · obtain ⟨z, -, hz⟩ := List.mem_map.mp h
        rw [← hz]
        exact hA⟩ _ hheap X'
  exact ⟨t2, step t2 a1, b1⟩
theorem va_rf_tof {m : tM} {a i : Nat} : va_rf (tof m a i) = rfv (tR m a i) := by
  unfold tof rfv
  cases tR m a i <;> rfl
theorem tH_setO {t N b : Nat} (h4 : 4 ≤ t) (h99 : t < 99) (ho : tA m t N (b + 1)) {m2 : tM} (h1 : m2.1 = m.1) (h2 : m2.2.1 = m.2.1) (h3 : m2.2.2.1 = m.2.2.1) (h5 : ∀ q, q ≠ b + 1 → m2.2.2.2 q = m.2.2.2 q) : xUp (tH G g m) b (xO G t N (tof m2 (b + 1))) = tH G g m2 := by
  refine tH_up (m := m) (m2 := m2) ho.1 (tFo_ne h99) h1 ?_ fun q hq s' => tcell_ext (m := m) (m2 := m2) (by rw [h2]) (by rw [h3]) (h5 q hq) s'
  unfold tcell
  dsimp only
  rw [if_neg (by omega), if_neg (by omega)]
theorem t_copyR {a b t : Nat} {ty : FieldType} {sp dp z : Int32} (hdg : decode M.2.1 pc = .ok (.invokestatic idx, 3)) (hw : xNat M.1.cls idx) (ht : xtys[t]? = some ty) (h4t : 4 ≤ t ∧ t < 99) (hpr : refKind ty = true) (ho : tCpOk m t a b sp dp z) (hfit : ∀ i, i < z.toNatClampNeg → tR m a (sp.toNatClampNeg + i) = 0 ∨ ∃ ci, xSt t ci ∧ tO m ci (tR m a (sp.toNatClampNeg + i))) (hd : 1 ≤ d) (hrm : (rest.map fun v => v.category).sum + (nativeFrameWords "java/lang/System" "arraycopy" 5 + 11) ≤ 64)
    (kk : xF G l M d k n Q (pc + 3) lv rest (tH G g (tCpR m a b sp.toNatClampNeg dp.toNatClampNeg z.toNatClampNeg))) : xF G l M d k n Q pc lv (.int z :: .int dp :: rfv b :: .int sp :: rfv a :: rest) (tH G g m) := by
  obtain ⟨n0, n1, ha, hb, h1, h2, h3, h4, h5⟩ := ho
  obtain ⟨a, rfl⟩ := Nat.exists_eq_succ_of_ne_zero ha.2
  obtain ⟨b, rfl⟩ := Nat.exists_eq_succ_of_ne_zero hb.2
  intro p e R s m₀ args below meth c H locs cells slots ls F hL hc hs hR hS T hT X
  obtain ⟨w1, w2, w3, w4⟩ := hw
  have hts := F.2.2.2.2.2.1
  have hK := F.2.2.2.2.2.2.2.2.2.2.1
  obtain ⟨-, hc0⟩ := hR a _ (tH_O h4t.1 h4t.2 ha)
  obtain ⟨hA, hc1⟩ := hR b _ (tH_O h4t.1 h4t.2 hb)
  have hc0 : H[a]? = some (arrV (G.2.1 t) n0 (fun j => va_rf (tof m (a + 1) j))) := hc0
  have hc1 : H[b]? = some (arrV (G.2.1 t) n1 (fun j => va_rf (tof m (b + 1) j))) := hc1
  obtain ⟨-, k0, hk0, cm0, hkk0⟩ := F.arr ht n0 (fun j => va_rf (tof m (a + 1) j))
  obtain ⟨-, k1, hk1, cm1, hkk1⟩ := F.arr ht n1 (fun j => va_rf (tof m (b + 1) j))
  obtain ⟨vm', X', step⟩ := X.arraycopy F.1 F.2.2.2.2.1 (hts _ w1) (hts _ w2) (hts _ w3) (hts _ w4) (src := a) (dst := b) (cs := arrV (G.2.1 t) n0 (fun j => va_rf (tof m (a + 1) j))) (cd := arrV (G.2.1 t) n1 (fun j => va_rf (tof m (b + 1) j))) (srcPos := sp) (destPos := dp) (n := z) (by rw [hT]; exact hc0) (by rw [hT]; exact hc1)
    (fun _ h => by cases h) (fun _ h => by cases h) (fun h => by cases h) (fun h => by cases h) hk0 hk1 hkk0 hkk1 (by simp [hpr]) h1 h2 h3
    (by rw [nn_toInt h1, nn_toInt h3, arrV_size]; omega)
    (by rw [nn_toInt h2, nn_toInt h3, arrV_size]; omega)
    (fun vm₁ hal i hi => by
      have e : (arrV (G.2.1 t) n0 (fun j => va_rf (tof m (a + 1) j))).slots.getD (sp.toNatClampNeg + i) .null = rfv (tR m (a + 1) (sp.toNatClampNeg + i)) := by
        rw [Array.getD_eq_getD_getElem?, arrV_read _ _ (by omega)]
        exact va_rf_tof
      rw [e]
      rcases hfit i hi with e0 | ⟨ci, ⟨E, C, T9, N9, hte, -, -, hcl, has⟩, hO⟩
      · rw [e0]
        refine ⟨?_, trivial⟩
        cases ty <;> first | rfl | (simp [refKind] at hpr)
      · obtain ⟨r, hr⟩ := Nat.exists_eq_succ_of_ne_zero hO.2
        rw [hr] at hO ⊢
        obtain ⟨-, cellV, g1, g2, g3, -⟩ := hR.cell (tH_atO hO) hcl
        refine ⟨?_, ?_⟩
        · cases ty <;> first | rfl | (simp [refKind] at hpr)
        · have hcls := (hK.1.1 ci _ hcl).2
          cases Option.some.inj (hte.symm.trans ht)
          obtain ⟨kA, comp, q1, q2, q3, -⟩ := (hK.1.2.1 t _ ht).2
          have hcm : comp = cm1 := by
            rw [show (arrV (G.2.1 t) n1 (fun j => va_rf (tof m (b + 1) j))).cls = G.2.1 t from rfl] at hk1
            cases Option.some.inj (q1.symm.trans hk1)
            rw [q2] at hkk1
            injection hkk1
          subst hcm
          have hasg : s.vm.assignable (G.1.1 ci) comp = true := by
            rcases has with e1 | e1
            · subst e1
              exact vb_asgS _ _ q3 hcls.1
            · exact vb_asgC (hK.2.2.1 _ e1) _ _ q3 hcls.1
          obtain ⟨kC, hkC, -⟩ := hcls.2
          obtain ⟨k8, hk8, -⟩ := hal.2.2 _ _ hkC
          obtain ⟨k9, hk9, -⟩ := hal.2.2 _ _ (Vm.findClass_spec q3).choose_spec.1
          exact ⟨cellV, by show T.heap[_]? = _; rw [hT]; exact g1, (fun k h => by rw [h] at g3; cases g3), ⟨k8, by rw [g2]; exact hk8⟩, ⟨k9, hk9⟩, by rw [g2]; exact (hal.assignable _ _).trans hasg⟩)
    (g := F0 m₀ pc ls (.int z :: .int dp :: .ref b :: .int sp :: .ref a :: rest)) rfl (by rw [F.2.2.2.1]; exact hL.1) (rest := rest) rfl (by rw [F.2.1]; exact hdg) (by have := F.2.2.2.2.2.2.2.2.1; omega) (by have := F.2.2.2.2.2.2.2.2.2.1; show 2 * 0 + _ + _ ≤ _; omega)
  have e1 : copied (arrV (G.2.1 t) n0 (fun j => va_rf (tof m (a + 1) j))) (arrV (G.2.1 t) n1 (fun j => va_rf (tof m (b + 1) j))) sp dp z = arrV (G.2.1 t) n1 (fun j => va_rf (va_cpy (tof m (a + 1)) (tof m (b + 1)) sp.toNatClampNeg dp.toNatClampNeg z.toNatClampNeg j)) := va_copied va_rf (G.2.1 t) (G.2.1 t) (tof m (a + 1)) (tof m (b + 1)) h4
  rw [e1] at X' step
  have hl : b < H.size := (Array.getElem?_eq_some_iff.mp hc1).1
  generalize hcell : arrV (G.2.1 t) n1 (fun j => va_rf (va_cpy (tof m (a + 1)) (tof m (b + 1)) sp.toNatClampNeg dp.toNatClampNeg z.toNatClampNeg j)) = cell at X' step
  have hheap : ((T.setVm vm').setCell b cell).heap = H.setIfInBounds b cell := by rw [← hT]; rfl
  have oq : ∀ q : Nat, q ≠ b → (H.setIfInBounds b cell)[q]? = H[q]? := fun q hq => by simp [Array.getElem?_setIfInBounds, Ne.symm hq]
  have htof : va_cpy (tof m (a + 1)) (tof m (b + 1)) sp.toNatClampNeg dp.toNatClampNeg z.toNatClampNeg = tof (tCpR m (a + 1) (b + 1) sp.toNatClampNeg dp.toNatClampNeg z.toNatClampNeg) (b + 1) := by
    funext i
    unfold va_cpy tof tR tCpR va_cpy
    simp only [if_true]
    split <;> rfl
  have hup := tH_setO (G := G) (g := g) h4t.1 h4t.2 hb (m2 := tCpR m (a + 1) (b + 1) sp.toNatClampNeg dp.toNatClampNeg z.toNatClampNeg) rfl rfl rfl (fun q hq => by funext i; simp [tCpR, hq])
  obtain ⟨t2, a1, b1⟩ := kk p e R s m₀ args below meth c (H.setIfInBounds b cell) _ cells slots ls F hL hc hs
    (by rw [← hup]; exact hR.set hA (show (H.setIfInBounds b cell)[b]? = some _ by rw [← hcell, htof]; simp [Array.getElem?_setIfInBounds, hl]; rfl) oq)
    ⟨by simp; exact hS.1, fun q g1 g2 => by
      rw [oq q (fun e => g2 (by rw [e]; exact hA))]
      exact hS.2.1 q g1 g2, fun q hq => by
      rcases List.mem_append.mp hq with h | h
      · exact hS.2.2 q h
      · obtain ⟨z, -, hz⟩ := List.mem_map.mp h
        rw [← hz]
        exact hA⟩ _ hheap X'
  exact ⟨t2, step t2 a1, b1⟩
/-- athrow in a method without handlers -/
theorem t_throw {a ci : Nat} {C : String} {T : u_T} {N : Nat} (hh : M.2.2.2.2 = []) (hdg : decode M.2.1 pc = .ok (.athrow, 1)) (hcl : xcl[ci]? = some (C, T, N)) (ho : tO m ci (a + 1)) (hq : Q (.inr (C, a)) (tH G g m)) : xF G l M d k n Q pc lv (rfv (a + 1) :: rest) (tH G g m) := by
  intro p e R s m₀ args below meth c H locs cells slots ls F hL hc hs hR hS
  obtain ⟨-, cell, g1, g2, g3, -⟩ := hR.cell (tH_atO ho) hcl
  refine vx_athrow F.1 F.2.1 hdg (vx_out (E := C) (fun x hx => ?_) F.2.2.2.2.2.2.1 g1 g3 (by rw [g2]; exact (F.2.2.2.2.2.2.2.2.2.2.1.1.1 ci _ hcl).2.1) (fun t ht hal => ⟨⟨_, hq, by rw [ht]; exact hR⟩, hS.F ht⟩) hS.2.2 (by omega) (by omega))
  have h9 := F.2.2.2.2.2.2.2.2.2.2.2
  rw [hh, List.map_eq_nil_iff] at h9
  rw [h9] at hx
  cases hx
/-- a string constant -/
theorem t_ldcS {i : Nat} {tx : String} (hdg : decode M.2.1 pc = .ok (.ldc idx, 2)) (hx : ∃ j : Nat, xstr[j]? = some (M.1.cls, idx, tx, i))
    (kk : xF G l M d k n Q (pc + 2) lv (rfv (G.2.2.1 i + 1) :: rest) h) : xF G l M d k n Q pc lv rest h := by
  intro p e R s m₀ args below meth c H locs cells slots ls F hL hc hs hR hS
  obtain ⟨j, hj⟩ := hx
  exact va_ldcS F.1 F.2.1 F.2.2.2.2.1 (F.2.2.2.2.2.2.2.2.2.2.1.2.2.2.2.1 j _ hj) hdg (kk p e R s m₀ args below meth c H locs cells slots ls F hL hc hs hR hS)
/-- checkcast to the object's own class -/
theorem t_cast {a ci : Nat} {C : String} {T : u_T} {N : Nat} (hdg : decode M.2.1 pc = .ok (.checkcast idx, 3)) (hw : Cond.classLink M.1.cls idx C ∈ lw_all) (hcl : xcl[ci]? = some (C, T, N)) (ho : tO m ci a)
    (kk : xF G l M d k n Q (pc + 3) lv (rfv a :: rest) (tH G g m)) : xF G l M d k n Q pc lv (rfv a :: rest) (tH G g m) := by
  obtain ⟨a, rfl⟩ := Nat.exists_eq_succ_of_ne_zero ho.2
  intro p e R s m₀ args below meth c H locs cells slots ls F hL hc hs hR hS
  exact va_castS F.1 F.2.1 F.2.2.2.2.1 (F.2.2.2.2.2.1 _ hw) (F.2.2.2.2.2.2.2.2.2.2.1.1.1 ci _ hcl).2 (x_recv F hR hcl (tH_atO ho)) hdg (kk p e R s m₀ args below meth c H locs cells slots ls F hL hc hs hR hS)
/-! an object of one of two classes -/
def tE (m : tM) (c1 c2 a : Nat) : Prop := tO m c1 a ∨ tO m c2 a
theorem t_getI2 {a c1 c2 j : Nat} (hdg : decode M.2.1 pc = .ok (.getfield idx, 3)) (hf : xFa M.1.cls idx c1 j ∧ xFa M.1.cls idx c2 j) (hk : (tk c1 j = 0 ∧ j < tN c1) ∧ tk c2 j = 0 ∧ j < tN c2) (ho : tE m c1 c2 a)
    (kk : xF G l M d k n Q (pc + 3) lv (.int (tI m a j) :: rest) (tH G g m)) : xF G l M d k n Q pc lv (rfv a :: rest) (tH G g m) := by
  rcases ho with ho | ho
  · exact t_getI hdg hf.1 hk.1 ho kk
  · exact t_getI hdg hf.2 hk.2 ho kk
theorem t_getR2 {a c1 c2 j : Nat} (hdg : decode M.2.1 pc = .ok (.getfield idx, 3)) (hf : xFa M.1.cls idx c1 j ∧ xFa M.1.cls idx c2 j) (hk : (tk c1 j = 2 ∧ j < tN c1) ∧ tk c2 j = 2 ∧ j < tN c2) (ho : tE m c1 c2 a)
    (kk : xF G l M d k n Q (pc + 3) lv (rfv (tR m a j) :: rest) (tH G g m)) : xF G l M d k n Q pc lv (rfv a :: rest) (tH G g m) := by
  rcases ho with ho | ho
  · exact t_getR hdg hf.1 hk.1 ho kk
  · exact t_getR hdg hf.2 hk.2 ho kk
theorem t_putI2 {a c1 c2 j : Nat} {x : Int32} {t : FieldType} (hdg : decode M.2.1 pc = .ok (.putfield idx, 3)) (hf : xFp M.1.cls idx c1 j t ∧ xFp M.1.cls idx c2 j t) (hk : (tk c1 j = 0 ∧ j < tN c1) ∧ tk c2 j = 0 ∧ j < tN c2) (ho : tE m c1 c2 a) (hn : narrow t (.int x) = .int x) (hfit : fits t (.int x) = true)
    (kk : xF G l M d k n Q (pc + 3) lv rest (tH G g (tsI m a j x))) : xF G l M d k n Q pc lv (.int x :: rfv a :: rest) (tH G g m) := by
  rcases ho with ho | ho
  · exact t_putI hdg hf.1 hk.1 ho hn hfit kk
  · exact t_putI hdg hf.2 hk.2 ho hn hfit kk
theorem t_putFR2 {a c1 c2 j x : Nat} {t : FieldType} (hdg : decode M.2.1 pc = .ok (.putfield idx, 3)) (hf : xFf M.1.cls idx c1 j t ∧ xFf M.1.cls idx c2 j t) (hm : M.1.name = "<init>") (hk : (tk c1 j = 2 ∧ j < tN c1) ∧ tk c2 j = 2 ∧ j < tN c2) (ho : tE m c1 c2 a) (ht : t.isReference = true)
    (kk : xF G l M d k n Q (pc + 3) lv rest (tH G g (tsR m a j x))) : xF G l M d k n Q pc lv (rfv x :: rfv a :: rest) (tH G g m) := by
  rcases ho with ho | ho
  · exact t_putFR hdg hf.1 hm hk.1 ho ht kk
  · exact t_putFR hdg hf.2 hm hk.2 ho ht kk
end TM
