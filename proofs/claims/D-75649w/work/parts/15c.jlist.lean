set_option maxRecDepth 100000
/-- an array of objects, or the list's empty table -/
def tLE (N : tP) (m : tM) (a : Nat) : Prop := (∃ n, tA m 10 n a) ∨ (a = N.2.2 200 ∧ tLen m a = 0)
section JL
variable {G : xG} {l : Launch} {M M' : xM} {d k n mc ms : Nat} {Q Q' : xR → xH → Prop} {pc : Nat} {lv : xLs} {st rest : List Value} {h g : xH} {m : tM} {idx i : Nat} {N : tP}
theorem t_gsE (hN : tNs G N) (hw : Cond.fieldLink M.1.cls idx "java/util/ArrayList" "DEFAULTCAPACITY_EMPTY_ELEMENTDATA" "[Ljava/lang/Object;" ∈ lw_all) (hdg : decode M.2.1 pc = .ok (.getstatic idx, 3)) (kk : xF G l M d k n Q (pc + 3) lv (rfv (N.2.2 200) :: rest) h) : xF G l M d k n Q pc lv rest h := x_gsE hw hdg (by rw [hN 200] at kk; exact kk)
def rfo (a : Nat) : Option Nat := match a with
  | 0 => none
  | a + 1 => some a
theorem rfo_v (a : Nat) : va_rf (rfo a) = rfv a := by cases a <;> rfl
theorem rfo_i {a b : Nat} : rfo a = rfo b ↔ a = b := by
  cases a <;> cases b <;> simp [rfo]
theorem t_acmp_eq {a b : Nat} {off : Int} (tgt : Nat) (hdg : decode M.2.1 pc = .ok (.if_acmp .eq off, 3)) (ht : (pc : Int) + off = (tgt : Int)) (kt : a = b → xF G l M d k n Q tgt lv rest h) (kf : ¬ a = b → xF G l M d k n Q (pc + 3) lv rest h) : xF G l M d k n Q pc lv (rfv b :: rfv a :: rest) h := by
  intro p e R s m args below meth c H locs cells slots ls F hL hc hs hR hS
  rw [← rfo_v a, ← rfo_v b]
  exact lv_acmp_eq F.1 F.2.1 hdg ht (fun e1 => kt (rfo_i.mp e1) p e R s m args below meth c H locs cells slots ls F hL hc hs hR hS) (fun e1 => kf (fun e2 => e1 (rfo_i.mpr e2)) p e R s m args below meth c H locs cells slots ls F hL hc hs hR hS)
theorem t_acmp_ne {a b : Nat} {off : Int} (tgt : Nat) (hdg : decode M.2.1 pc = .ok (.if_acmp .ne off, 3)) (ht : (pc : Int) + off = (tgt : Int)) (kt : ¬ a = b → xF G l M d k n Q tgt lv rest h) (kf : a = b → xF G l M d k n Q (pc + 3) lv rest h) : xF G l M d k n Q pc lv (rfv b :: rfv a :: rest) h := by
  intro p e R s m args below meth c H locs cells slots ls F hL hc hs hR hS
  rw [← rfo_v a, ← rfo_v b]
  exact lv_acmp_ne F.1 F.2.1 hdg ht (fun e1 => kt (fun e2 => e1 (rfo_i.mpr e2)) p e R s m args below meth c H locs cells slots ls F hL hc hs hR hS) (fun e1 => kf (rfo_i.mp (Decidable.not_not.mp (fun e2 => e2 e1))) p e R s m args below meth c H locs cells slots ls F hL hc hs hR hS)
theorem t_alenE {a : Nat} (hN : tNs G N) (hdg : decode M.2.1 pc = .ok (.arraylength, 1)) (ho : tLE N m a)
    (kk : xF G l M d k n Q (pc + 1) lv (.int (Int32.ofNat (tLen m a)) :: st) (tH G g m)) : xF G l M d k n Q pc lv (rfv a :: st) (tH G g m) := by
  rcases ho with ho | ⟨rfl, h0⟩
  · exact t_alen (t := 10) hdg ⟨rfl, by decide⟩ ho kk
  · rw [h0] at kk
    rw [hN 200]
    intro p e R s m args below meth c H locs cells slots ls F hL hc hs hR hS
    exact va_tlen F.1 F.2.1 F.2.2.2.2.2.2.2.2.2.2.1.2.2.2.2.2.2.2.2.1 hS rfl hdg (kk p e R s m args below meth c H locs cells slots ls F hL hc hs hR hS)
theorem t_ldcM (hN : tNs G N) (hw : Cond.classLink M.1.cls idx "[Ljava/lang/Object;" ∈ lw_all) (hdg : decode M.2.1 pc = .ok (.ldc idx, 2)) (kk : xF G l M d k n Q (pc + 2) lv (rfv (N.2.2 201) :: rest) h) : xF G l M d k n Q pc lv rest h := by
  rw [hN 201] at kk
  intro p e R s m args below meth c H locs cells slots ls F hL hc hs hR hS
  exact va_ldcM F.1 F.2.1 F.2.2.2.2.1 (F.2.2.2.2.2.1 _ hw) F.2.2.2.2.2.2.2.2.2.2.1.2.2.2.2.2.2.2.2.2.2.2.2.1 hdg (kk p e R s m args below meth c H locs cells slots ls F hL hc hs hR hS)
theorem t_getC {a : Nat} (hN : tNs G N) (hw : Cond.methodLink M.1.cls idx ⟨"java/lang/Object", "getClass", "()Ljava/lang/Class;"⟩ ∈ lw_all) (ho : tLE N m a) (hd : 1 ≤ d) (hrm : (rest.map fun v => v.category).sum ≤ 8) (hdg : decode M.2.1 pc = .ok (.invokevirtual idx, 3)) (kk : xF G l M d k n Q (pc + 3) lv (rfv (N.2.2 201) :: rest) (tH G g m)) : xF G l M d k n Q pc lv (rfv a :: rest) (tH G g m) := by
  rw [hN 201] at kk
  obtain ⟨b, rfl⟩ : ∃ b, a = b + 1 := by
    rcases ho with ⟨n, ho⟩ | ⟨rfl, -⟩
    · exact Nat.exists_eq_succ_of_ne_zero ho.2
    · exact ⟨_, hN 200⟩
  intro p e R s m₀ args below meth c H locs cells slots ls F hL hc hs hR hS
  have hts := F.2.2.2.2.2.1
  have hK := F.2.2.2.2.2.2.2.2.2.2.1
  have hr : ∃ cell : Cell, H[b]? = some cell ∧ cell.vm.isStatics = false ∧ s.vm.findClass "[Ljava/lang/Object;" = some cell.cls := by
    rcases ho with ⟨n, ho⟩ | ⟨e0, -⟩
    · obtain ⟨hA, hcell⟩ := hR b _ (tH_O (by decide) (by decide) ho)
      obtain ⟨kA, comp, k1, k2, k3, k4⟩ := (hK.1.2.1 10 _ rfl).2
      exact ⟨_, hcell, rfl, k4⟩
    · have e1 : b = G.2.2.1 200 := by have := hN 200; omega
      obtain ⟨cell, h1, h2, h3, -⟩ := (hK.2.2.2.2.2.2.2.2.2.2.2.2.2.1).kept hS.2.1
      exact ⟨cell, by rw [e1]; exact h1, h2, h3⟩
  exact va_getC F.1 F.2.1 (by rw [F.2.2.2.1]; exact hL.1.symm) F.2.2.2.2.1 (hts _ hw) (va_Nw.use rfl (hK.2.2.1 _ (xnw_of q2341 rfl))) (hts _ q2340) (hts _ q1222) (hts _ q1246) hK.2.2.2.2.2.2.2.2.2.2.2.2.1 hr (by have := F.2.2.2.2.2.2.2.2.1; omega) (by have := F.2.2.2.2.2.2.2.2.2.1; omega) hdg (kk p e R s m₀ args below meth c H locs cells slots ls F hL hc hs hR hS)
theorem x_run5 {p : Program} {e : Env} {R : Room} {s : State} {m : MethodId} {args : Array Value} {below : List Frame} {meth : Method} {c : Code} {H : Heap} {locs : List Loc} {cells slots : Nat} {Qf : State → Prop} {a : Array Value} {ls : Array Slot} {st0 rest : List Value}
    (hr : vx_Run5 p l e R s m args below meth c H locs cells slots mc ms (F0 m pc ls st0) rest (xQ G Q' a) (xX G Q') (xA G)) (hS : va_S (xA G) s.heap H locs)
    (kx : ∀ (E : String) (ce : Cell) (q : Addr) (h1 : xH) (H1 : Heap) (locs1 : List Loc), Q' (.inr (E, q)) h1 → xRep G h1 H1 → va_S (xA G) s.heap H1 locs1 → H1[q]? = some ce → ce.vm = .none → s.vm.findClass E = some ce.cls → vx_W p l e R s m args below meth c H1 locs1 (cells + mc) (slots + ms) Qf (F0 m pc ls rest) q)
    (kk : ∀ (v : Option Value) (h1 : xH) (H1 : Heap) (locs1 : List Loc), Q' (.inl v) h1 → xRep G h1 H1 → va_S (xA G) s.heap H1 locs1 → W p l e R s m args below meth c H1 locs1 (cells + mc) (slots + ms) Qf (F0 m (pc + 5) ls (v.toList ++ rest))) :
    W p l e R s m args below meth c H locs cells slots Qf (F0 m pc ls st0) := by
  intro T hT X
  rcases hr T hT X with ⟨v, st₀, t, T', L, h0, X', hL, e1, e2, ⟨⟨v2, h1, hv, hq, hRep⟩, hF⟩, st⟩ | ⟨q, st₀, t, T', L, E, ce, h0, X', hL, e1, e2, ⟨⟨h1, hq, hRep⟩, hF⟩, hce, hcv, hcl, st⟩
  · cases hv
    obtain ⟨k1, k2, k3⟩ := vx_keep h0 e1 hS (fun _ _ z => z) (fun _ z => z) hL hF
    obtain ⟨t2, a1, b1⟩ := kk v h1 T'.heap (locs ++ L) hq (by rw [e1]; exact hRep) k3 T' rfl X'
    exact ⟨t2, st t2 a1, b1⟩
  · obtain ⟨k1, k2, k3⟩ := vx_keep h0 e1 hS (fun _ _ z => z) (fun _ z => z) hL hF
    obtain ⟨t2, a1, b1⟩ := kx E ce q h1 T'.heap (locs ++ L) hq (by rw [e1]; exact hRep) k3 (by rw [e1]; exact hce) hcv hcl T' rfl X'
    exact ⟨t2, st.trans a1, b1⟩
/-- Collection.toArray on a list -/
theorem t_toArr {b : Nat} {K : Nat → tM → Prop} {count : Nat} (hh : M.2.2.2.2 = []) (hw : Cond.methodLink M.1.cls idx ⟨"java/util/Collection", "toArray", "()[Ljava/lang/Object;"⟩ ∈ lw_all) (hb : tO m 20 b) (hst : st = rfv b :: rest) (hrm : (rest.map fun v => v.category).sum ≤ 8) (hdg : decode M.2.1 pc = .ok (.invokeinterface idx count, 5))
    (hC : xC G l kJ2_toArray d mc ms [rfv b] (tH G g m) (tQ G g wr K tNo)) (hm : mc ≤ k ∧ ms ≤ n) (kk : ∀ (v : Nat) (m1 : tM), K v m1 → xF G l M (d + 1) (k - mc) (n - ms) Q (pc + 5) lv (rfv v :: rest) (tH G g m1)) : xF G l M (d + 1) k n Q pc lv st (tH G g m) := by
  obtain ⟨b, rfl⟩ := Nat.exists_eq_succ_of_ne_zero hb.2
  intro p e R s m₀ args below meth c H locs cells slots ls F hL hc hs hR hS
  have hts := F.2.2.2.2.2.1
  have hK := F.2.2.2.2.2.2.2.2.2.2.1
  obtain ⟨f1, f2, f3, f4, f5⟩ := hK.2.2.2.2.2.2.2.2.2.2.2.2.2.2.1
  have cw : va_CI R s args M.1.cls "java/util/ArrayList" idx ⟨"java/util/Collection", "toArray", "()[Ljava/lang/Object;"⟩ yJ2_toArray cJ2_toArray 1 (some (.array (.object "java/lang/Object"))) (xws kJ2_toArray) (xrm d mc ms) mc ms 0 :=
    ⟨⟨rfl, rfl, F.2.2.2.2.2.2.2.2.1, by have := F.2.2.2.2.2.2.2.2.2.1; show 8 + (1 + 11) + 64 * d ≤ R.locals; omega, fun w hw a' U hW => word_at hW (xws_good (M' := kJ2_toArray) q1578 w hw).2 (hts w (xws_good (M' := kJ2_toArray) q1578 w hw).1), by rw [xws_eq rfl]; exact List.mem_cons_self⟩,
      hts _ hw, va_any rfl f1, va_any rfl f2, hts _ q1574, hts _ q1576, va_any rfl f3, va_any rfl f4, va_any rfl f5, hts _ q134, hts _ q1578, by decide, fun sig hsig => by
        have : parseMethodDescriptor "()[Ljava/lang/Object;" = some sig := hsig
        have h2 : (parseMethodDescriptor "()[Ljava/lang/Object;").map (fun d => d.parameters.length) = some 0 := by decide +kernel
        rw [this] at h2
        exact (Option.some.inj h2).symm⟩
  have hat : ClassAt s "java/util/ArrayList" (G.1.1 20) := (hK.1.1 20 _ xcl_J2.1).2
  have hr := vx_runF (rest := rest) (below := below) (e := e) (meth := meth) (locs := locs) (cells := cells) (slots := slots) (g := F0 m₀ pc ls st) (As := []) hat ⟨F.1, F.2.1, F.2.2.2.1, F.2.2.2.2.1, F.2.2.2.2.2.1⟩ hC cw ⟨xPc.blind, x_recv F hR xcl_J2.1 (tH_atO hb), xPc.callee F hR hS⟩ rfl rfl hL.1 hst (lv_room hrm) hdg ⟨by omega, by omega⟩
  refine x_run5 hr hS (fun E ce q h1 H1 locs1 q1 r1 s1 hce hcv hcl => ?_) (fun v h1 H1 locs1 q1 r1 s1 => ?_)
  · rcases q1 with ⟨v, m1, -, e, -⟩ | ⟨E', q', m1, hx, -⟩
    · cases e
    · exact hx.elim
  · rcases q1 with ⟨v', m1, h2, e, rfl⟩ | ⟨E', q', m1, hx, -⟩
    · cases e
      exact kk v' m1 h2 p e R s m₀ args below meth c H1 locs1 (cells + mc) (slots + ms) ls F hL (by omega) (by omega) r1 s1
    · exact hx.elim
/-- the script: a table that nobody writes -/
theorem t_scrLen {a : Nat} (ha : a = N.2.2 202) (hN : tNs G N) (hdg : decode M.2.1 pc = .ok (.arraylength, 1)) (kk : xF G l M d k n Q (pc + 1) lv (.int (Int32.ofNat (N.2.2 203 - 1)) :: st) h) : xF G l M d k n Q pc lv (rfv a :: st) h := by
  subst ha
  rw [hN 203] at kk
  rw [hN 202]
  intro p e R s m args below meth c H locs cells slots ls F hL hc hs hR hS
  exact va_tlen F.1 F.2.1 F.2.2.2.2.2.2.2.2.2.2.1.2.2.2.2.2.2.2.2.2.2.2.2.2.2.2 hS rfl hdg (kk p e R s m args below meth c H locs cells slots ls F hL hc hs hR hS)
def scr (N : tP) (j : Nat) : Int32 := (UInt32.ofNat (N.2.2 (1000 + j) - 1)).toInt32
theorem t_scrI {a : Nat} {z : Int32} (ha : a = N.2.2 202) (hN : tNs G N) (hdg : decode M.2.1 pc = .ok (.iaload, 1)) (hz : vp_in z (N.2.2 203 - 1)) (kk : xF G l M d k n Q (pc + 1) lv (.int (scr N z.toNatClampNeg) :: st) h) : xF G l M d k n Q pc lv (.int z :: rfv a :: st) h := by
  subst ha
  unfold scr at kk
  rw [hN (1000 + z.toNatClampNeg)] at kk
  rw [hN 203] at hz
  rw [hN 202]
  intro p e R s m args below meth c H locs cells slots ls F hL hc hs hR hS
  exact va_ti F.1 F.2.1 F.2.2.2.2.2.2.2.2.2.2.1.2.2.2.2.2.2.2.2.2.2.2.2.2.2.2 hS hz rfl hdg (kk p e R s m args below meth c H locs cells slots ls F hL hc hs hR hS)
/-- nothing copied from the empty table -/
theorem t_copyE {a b : Nat} {sp dp z : Int32} (hN : tNs G N) (hdg : decode M.2.1 pc = .ok (.invokestatic idx, 3)) (hw : xNat M.1.cls idx)
    (ho : (tCpOk m 10 a b sp dp z ∧ ∀ i, i < z.toNatClampNeg → tR m a (sp.toNatClampNeg + i) = 0 ∨ ∃ ci, xSt 10 ci ∧ tO m ci (tR m a (sp.toNatClampNeg + i))) ∨ (a = N.2.2 200 ∧ sp = 0 ∧ dp = 0 ∧ z = 0 ∧ ∃ n1, tA m 10 n1 b)) (hd : 1 ≤ d) (hrm : (rest.map fun v => v.category).sum + (nativeFrameWords "java/lang/System" "arraycopy" 5 + 11) ≤ 64)
    (kk : xF G l M d k n Q (pc + 3) lv rest (tH G g (tCpR m a b sp.toNatClampNeg dp.toNatClampNeg z.toNatClampNeg))) : xF G l M d k n Q pc lv (.int z :: .int dp :: rfv b :: .int sp :: rfv a :: rest) (tH G g m) := by
  rcases ho with ⟨ho, hfit⟩ | ⟨rfl, rfl, rfl, rfl, n1, hb⟩
  · exact t_copyR (t := 10) hdg hw rfl ⟨by decide, by decide⟩ rfl ho hfit hd hrm kk
  obtain ⟨b, rfl⟩ := Nat.exists_eq_succ_of_ne_zero hb.2
  have hsame : tCpR m (N.2.2 200) (b + 1) (0 : Int32).toNatClampNeg (0 : Int32).toNatClampNeg (0 : Int32).toNatClampNeg = m := by
    obtain ⟨m1, m2, m3, m4⟩ := m
    simp only [tCpR, Prod.mk.injEq, true_and]
    funext q i
    by_cases hq : q = b + 1
    · subst hq
      simp [va_cpy]
    · simp [hq]
  rw [hsame] at kk
  rw [hN 200]
  intro p e R s m₀ args below meth c H locs cells slots ls F hL hc hs hR hS T hT X
  obtain ⟨w1, w2, w3, w4⟩ := hw
  have hts := F.2.2.2.2.2.1
  have hK := F.2.2.2.2.2.2.2.2.2.2.1
  obtain ⟨hA, hc1⟩ := hR b _ (tH_O (by decide) (by decide) hb)
  have hc1 : H[b]? = some (arrV (G.2.1 10) n1 (fun j => va_rf (tof m (b + 1) j))) := hc1
  obtain ⟨scr, h1, h2, h3, h4, h5, h6, h7⟩ := hK.2.2.2.2.2.2.2.2.1
  have hc0 : H[G.2.2.1 200]? = some scr := by rw [hS.2.1 _ (Array.getElem?_eq_some_iff.mp h1).1 h7]; exact h1
  obtain ⟨hv0, k0, hk0, cm0, hkk0⟩ := h2
  obtain ⟨-, k1, hk1, cm1, hkk1⟩ := F.arr (t := 10) rfl n1 (fun j => va_rf (tof m (b + 1) j))
  obtain ⟨vm', X', step⟩ := X.arraycopy F.1 F.2.2.2.2.1 (hts _ w1) (hts _ w2) (hts _ w3) (hts _ w4) (src := G.2.2.1 200) (dst := b) (cs := scr) (cd := arrV (G.2.1 10) n1 (fun j => va_rf (tof m (b + 1) j))) (srcPos := 0) (destPos := 0) (n := 0) (by rw [hT]; exact hc0) (by rw [hT]; exact hc1)
    hv0 (fun _ h => by cases h) h3 (fun h => by cases h) hk0 hk1 hkk0 hkk1 (by simp [refKind]) (by decide) (by decide) (by decide)
    (by simp) (by simp)
    (fun vm₁ hal i hi => by simp at hi)
    (g := F0 m₀ pc ls (.int 0 :: .int 0 :: .ref b :: .int 0 :: .ref (G.2.2.1 200) :: rest)) rfl (by rw [F.2.2.2.1]; exact hL.1) (rest := rest) rfl (by rw [F.2.1]; exact hdg) (by have := F.2.2.2.2.2.2.2.2.1; omega) (by have := F.2.2.2.2.2.2.2.2.2.1; show 2 * 0 + _ + _ ≤ _; omega)
  have e1 : copied scr (arrV (G.2.1 10) n1 (fun j => va_rf (tof m (b + 1) j))) 0 0 0 = arrV (G.2.1 10) n1 (fun j => va_rf (tof m (b + 1) j)) := by simp [copied, Cell.stretch, Cell.storeRun, Cell.storePairs]
  rw [e1] at X' step
  have hl : b < H.size := (Array.getElem?_eq_some_iff.mp hc1).1
  generalize hcell : arrV (G.2.1 10) n1 (fun j => va_rf (tof m (b + 1) j)) = cell at X' step hc1
  have hheap : ((T.setVm vm').setCell b cell).heap = H := by
    show T.heap.setIfInBounds b cell = H
    rw [hT]
    apply Array.ext_getElem?
    intro q
    rw [Array.getElem?_setIfInBounds]
    split
    · rename_i hq
      subst hq
      simp [hl]
      exact (Array.getElem?_eq_some_iff.mp hc1).2.symm
    · rfl
  obtain ⟨t2, a1, b1⟩ := kk p e R s m₀ args below meth c H _ cells slots ls F hL hc hs hR ⟨hS.1, hS.2.1, fun q hq => by
      rcases List.mem_append.mp hq with h | h
      · exact hS.2.2 q h
      · obtain ⟨z, -, hz⟩ := List.mem_map.mp h
        rw [← hz]
        exact hA⟩ _ hheap X'
  exact ⟨t2, step t2 a1, b1⟩
end JL
