set_option maxRecDepth 100000
/-! ===== calls over typed memory: returns or throws ===== -/
def tQ {β : Type} (G : xG) (g : xH) (w : β → Option Value) (K : β → tM → Prop) (Kx : String → Nat → tM → Prop) : xR → xH → Prop := fun r h1 => (∃ (v : β) (m1 : tM), K v m1 ∧ r = .inl (w v) ∧ h1 = tH G g m1) ∨ ∃ (E : String) (q : Nat) (m1 : tM), Kx E (q + 1) m1 ∧ r = .inr (E, q) ∧ h1 = tH G g m1
abbrev wi : Int32 → Option Value := fun v => some (.int v)
abbrev wl : Int64 → Option Value := fun v => some (.long v)
abbrev wr : Nat → Option Value := fun v => some (rfv v)
abbrev wu : Unit → Option Value := fun _ => none
def tNo : String → Nat → tM → Prop := fun _ _ _ => False
section TC
variable {G : xG} {l : Launch} {M M' : xM} {d k n mc ms : Nat} {Q Q' : xR → xH → Prop} {pc : Nat} {lv : xLs} {st As rest : List Value} {h g : xH} {m : tM} {idx ar : Nat}
/-- words of a constructor's call -/
def xCI (own : String) (idx : Nat) (M' : xM) (ar : Nat) : Prop := Cond.methodLink own idx M'.1 ∈ lw_all ∧ Cond.instanceMethod M'.1 ∈ lw_all ∧ Cond.initialized M'.1.cls ∈ lw_all ∧ xwd M' ∈ lw_all ∧ M'.2.2.2.2 = [] ∧ M'.2.2.2.1 = none ∧ M'.1.name = "<init>" ∧
  (M'.1.cls ≠ "java/lang/invoke/MethodHandle" ∧ M'.1.cls ≠ "java/lang/invoke/VarHandle" ∧ (parseMethodDescriptor M'.1.desc).map (fun d => d.parameters.length) = some ar) ∧ M'.2.2.1 ≤ 45
def xCIN (own : String) (idx : Nat) (host : String) (M' : xM) (ar : Nat) : Prop := Cond.methodLinkNest own idx M'.1 host ∈ xnw ∧ Cond.instanceMethod M'.1 ∈ lw_all ∧ Cond.initialized M'.1.cls ∈ lw_all ∧ xwd M' ∈ lw_all ∧ M'.2.2.2.2 = [] ∧ M'.2.2.2.1 = none ∧ M'.1.name = "<init>" ∧
  (M'.1.cls ≠ "java/lang/invoke/MethodHandle" ∧ M'.1.cls ≠ "java/lang/invoke/VarHandle" ∧ (parseMethodDescriptor M'.1.desc).map (fun d => d.parameters.length) = some ar) ∧ M'.2.2.1 ≤ 45
def xCVN (own : String) (idx : Nat) (host C : String) (M' : xM) (ar : Nat) : Prop := Cond.methodLinkNest own idx M'.1 host ∈ xnw ∧ Cond.instanceMethod M'.1 ∈ lw_all ∧ Cond.selects C M'.1 M'.1 ∈ lw_all ∧ Cond.initialized M'.1.cls ∈ lw_all ∧ xwd M' ∈ lw_all ∧ M'.2.2.2.2 = [] ∧
  (M'.1.cls ≠ "java/lang/invoke/MethodHandle" ∧ M'.1.cls ≠ "java/lang/invoke/VarHandle" ∧ (parseMethodDescriptor M'.1.desc).map (fun d => d.parameters.length) = some ar) ∧ M'.2.2.1 ≤ 45
def xCSN (own : String) (idx : Nat) (host : String) (M' : xM) (ar : Nat) : Prop := Cond.methodLinkNest own idx M'.1 host ∈ xnw ∧ Cond.static M'.1 ∈ lw_all ∧ Cond.initialized M'.1.cls ∈ lw_all ∧ xwd M' ∈ lw_all ∧ M'.2.2.2.2 = [] ∧
  (M'.1.cls ≠ "java/lang/invoke/MethodHandle" ∧ M'.1.cls ≠ "java/lang/invoke/VarHandle" ∧ (parseMethodDescriptor M'.1.desc).map (fun d => d.parameters.length) = some ar) ∧ M'.2.2.1 ≤ 45
/-- an inherited, overridden or abstract method x of owner, on an object of class C: M' runs -/
def xCU (own : String) (idx : Nat) (C owner : String) (x : MethodName) (M' : xM) (ar : Nat) : Prop := Cond.methodLink own idx x ∈ lw_all ∧ Cond.sameMethod x.cls owner x.name x.desc ∈ lw_all ∧ Cond.selects C x M'.1 ∈ lw_all ∧ Cond.instanceMethod M'.1 ∈ lw_all ∧ Cond.initialized M'.1.cls ∈ lw_all ∧ xwd M' ∈ lw_all ∧ M'.2.2.2.2 = [] ∧
  (M'.1 = ⟨owner, x.name, x.desc⟩ ∨ Cond.declares ⟨owner, x.name, x.desc⟩ ∈ xnw ∨ ∃ (b0 : ByteArray) (m0 : Nat) (r0 : Option FieldType), Cond.code ⟨owner, x.name, x.desc⟩ b0 m0 r0 ∈ lw_all ∧ Cond.instanceMethod ⟨owner, x.name, x.desc⟩ ∈ lw_all) ∧
  (owner ≠ "java/lang/invoke/MethodHandle" ∧ owner ≠ "java/lang/invoke/VarHandle" ∧ (parseMethodDescriptor x.desc).map (fun d => d.parameters.length) = some ar) ∧ M'.2.2.1 ≤ 45
theorem x_recv {p : Program} {R : Room} {s : State} {m₀ : MethodId} {args : Array Value} {meth : Method} {c : Code} {H : Heap} {d' ci b : Nat} {C : String} {T : u_T} {N : Nat} {fs : List Value} (F : xFr G l M d' p R s m₀ args meth c) (hR : xRep G h H) (hcl : xcl[ci]? = some (C, T, N)) (hb : h b = some (.inr (ci, fs))) : ∃ cellB : Cell, H[b]? = some cellB ∧ cellB.vm.isStatics = false ∧ s.vm.findClass C = some cellB.cls := by
  obtain ⟨-, cell, g1, g2, g3, -⟩ := hR.cell hb hcl
  exact ⟨cell, g1, by rw [g3]; rfl, by rw [g2]; exact (F.2.2.2.2.2.2.2.2.2.2.1.1.1 ci _ hcl).2.1⟩
theorem x_cI {b : Nat} (hh : M.2.2.2.2 = []) (hw : xCI M.1.cls idx M' ar) (har : As.length = ar) (hst : st = As.reverse ++ .ref b :: rest) (hrm : (rest.map fun v => v.category).sum ≤ 8) (hdg : decode M.2.1 pc = .ok (.invokespecial idx, 3)) (hC : xC G l M' d mc ms (.ref b :: As) h Q') (hm : mc ≤ k ∧ ms ≤ n)
    (kx : ∀ (E : String) (q : Addr) (h1 : xH), Q' (.inr (E, q)) h1 → Q (.inr (E, q)) h1)
    (kk : ∀ (v : Option Value) (h1 : xH), Q' (.inl v) h1 → xF G l M (d + 1) (k - mc) (n - ms) Q (pc + 3) lv (v.toList ++ rest) h1) : xF G l M (d + 1) k n Q pc lv st h := by
  intro p e R s m₀ args below meth c H locs cells slots ls F hL hc hs hR hS
  obtain ⟨w1, w2, w4, w5, w6, w9, wn, w7, w8⟩ := hw
  have cb := callB_of (R := R) (own := M.1.cls) (index := idx) (y := M'.1) (bytes := M'.2.1) (maxL := M'.2.2.1) (ret := none) (ws := xws M') (ws' := lw_all) (rm := xrm d mc ms) (mc := mc) (ms := ms) ar F.2.2.2.2.2.1 (xws_good w5) (by rw [xws_eq w6, w9]) rfl rfl (F.2.2.2.2.2.1 _ w4) (F.2.2.2.2.2.1 _ w1) w7 (x_room F.2.2.2.2.2.2.2.2.1 F.2.2.2.2.2.2.2.2.2.1 w8)
  have hr := vx_runI (b := b) (rest := rest) (below := below) (e := e) (meth := meth) (locs := locs) (cells := cells) (slots := slots) (g := F0 m₀ pc ls st) ⟨F.1, F.2.1, F.2.2.2.1, F.2.2.2.2.1, F.2.2.2.2.2.1⟩ hC ⟨cb, wn, F.2.2.2.2.2.1 _ w2⟩ ⟨xPc.blind, xPc.callee F hR hS⟩ rfl har hL.1 hst (lv_room hrm) hdg ⟨by omega, by omega⟩
  exact x_goes hh F hL hc hs hm hr hS kx kk
theorem x_cIN {b : Nat} {host : String} (hh : M.2.2.2.2 = []) (hw : xCIN M.1.cls idx host M' ar) (har : As.length = ar) (hst : st = As.reverse ++ .ref b :: rest) (hrm : (rest.map fun v => v.category).sum ≤ 8) (hdg : decode M.2.1 pc = .ok (.invokespecial idx, 3)) (hC : xC G l M' d mc ms (.ref b :: As) h Q') (hm : mc ≤ k ∧ ms ≤ n)
    (kx : ∀ (E : String) (q : Addr) (h1 : xH), Q' (.inr (E, q)) h1 → Q (.inr (E, q)) h1)
    (kk : ∀ (v : Option Value) (h1 : xH), Q' (.inl v) h1 → xF G l M (d + 1) (k - mc) (n - ms) Q (pc + 3) lv (v.toList ++ rest) h1) : xF G l M (d + 1) k n Q pc lv st h := by
  intro p e R s m₀ args below meth c H locs cells slots ls F hL hc hs hR hS
  obtain ⟨w1, w2, w4, w5, w6, w9, wn, w7, w8⟩ := hw
  have hK := F.2.2.2.2.2.2.2.2.2.2.1
  have cb := va_cnB (R := R) (own := M.1.cls) (host := host) (index := idx) (y := M'.1) (bytes := M'.2.1) (maxL := M'.2.2.1) (ret := none) (ws := xws M') (ws' := lw_all) (rm := xrm d mc ms) (mc := mc) (ms := ms) ar F.2.2.2.2.2.1 (xws_good w5) (by rw [xws_eq w6, w9]) rfl rfl (hK.2.2.1 _ w1) (F.2.2.2.2.2.1 _ w4) w7 (x_room F.2.2.2.2.2.2.2.2.1 F.2.2.2.2.2.2.2.2.2.1 w8)
  have hr := vx_runIN (b := b) (rest := rest) (below := below) (e := e) (meth := meth) (locs := locs) (cells := cells) (slots := slots) (g := F0 m₀ pc ls st) ⟨F.1, F.2.1, F.2.2.2.1, F.2.2.2.2.1, F.2.2.2.2.2.1⟩ hC ⟨cb, wn, F.2.2.2.2.2.1 _ w2⟩ ⟨xPc.blind, xPc.callee F hR hS⟩ rfl har hL.1 hst (lv_room hrm) hdg ⟨by omega, by omega⟩
  exact x_goes hh F hL hc hs hm hr hS kx kk
theorem x_cVN {ci b : Nat} {host C : String} {T : u_T} {N : Nat} {fs : List Value} (hh : M.2.2.2.2 = []) (hw : xCVN M.1.cls idx host C M' ar) (hC' : M'.1.cls = C) (hcl : xcl[ci]? = some (C, T, N)) (hb : h b = some (.inr (ci, fs))) (har : As.length = ar) (hst : st = As.reverse ++ .ref b :: rest) (hrm : (rest.map fun v => v.category).sum ≤ 8) (hdg : decode M.2.1 pc = .ok (.invokevirtual idx, 3)) (hC : xC G l M' d mc ms (.ref b :: As) h Q') (hm : mc ≤ k ∧ ms ≤ n)
    (kx : ∀ (E : String) (q : Addr) (h1 : xH), Q' (.inr (E, q)) h1 → Q (.inr (E, q)) h1)
    (kk : ∀ (v : Option Value) (h1 : xH), Q' (.inl v) h1 → xF G l M (d + 1) (k - mc) (n - ms) Q (pc + 3) lv (v.toList ++ rest) h1) : xF G l M (d + 1) k n Q pc lv st h := by
  intro p e R s m₀ args below meth c H locs cells slots ls F hL hc hs hR hS
  obtain ⟨w1, w2, w3, w4, w5, w6, w7, w8⟩ := hw
  have hK := F.2.2.2.2.2.2.2.2.2.2.1
  have cb := va_cnB (R := R) (own := M.1.cls) (host := host) (index := idx) (y := M'.1) (bytes := M'.2.1) (maxL := M'.2.2.1) (ret := M'.2.2.2.1) (ws := xws M') (ws' := lw_all) (rm := xrm d mc ms) (mc := mc) (ms := ms) ar F.2.2.2.2.2.1 (xws_good w5) (xws_eq w6) rfl rfl (hK.2.2.1 _ w1) (F.2.2.2.2.2.1 _ w4) w7 (x_room F.2.2.2.2.2.2.2.2.1 F.2.2.2.2.2.2.2.2.2.1 w8)
  have hr := vx_runVN (C := C) (rest := rest) (below := below) (e := e) (meth := meth) (locs := locs) (cells := cells) (slots := slots) (g := F0 m₀ pc ls st) ⟨F.1, F.2.1, F.2.2.2.1, F.2.2.2.2.1, F.2.2.2.2.2.1⟩ hC ⟨cb, F.2.2.2.2.2.1 _ w2, F.2.2.2.2.2.1 _ w3⟩ ⟨xPc.blind, x_recv F hR hcl hb, xPc.callee F hR hS⟩ rfl har hL.1 hst (lv_room hrm) hdg ⟨by omega, by omega⟩
  exact x_goes hh F hL hc hs hm hr hS kx kk
theorem x_cSN {host : String} (hh : M.2.2.2.2 = []) (hw : xCSN M.1.cls idx host M' ar) (har : As.length = ar) (hst : st = As.reverse ++ rest) (hrm : (rest.map fun v => v.category).sum ≤ 8) (hdg : decode M.2.1 pc = .ok (.invokestatic idx, 3)) (hC : xC G l M' d mc ms As h Q') (hm : mc ≤ k ∧ ms ≤ n)
    (kx : ∀ (E : String) (q : Addr) (h1 : xH), Q' (.inr (E, q)) h1 → Q (.inr (E, q)) h1)
    (kk : ∀ (v : Option Value) (h1 : xH), Q' (.inl v) h1 → xF G l M (d + 1) (k - mc) (n - ms) Q (pc + 3) lv (v.toList ++ rest) h1) : xF G l M (d + 1) k n Q pc lv st h := by
  intro p e R s m₀ args below meth c H locs cells slots ls F hL hc hs hR hS
  obtain ⟨w1, w2, w4, w5, w6, w7, w8⟩ := hw
  have hK := F.2.2.2.2.2.2.2.2.2.2.1
  have cb := va_cnB (R := R) (own := M.1.cls) (host := host) (index := idx) (y := M'.1) (bytes := M'.2.1) (maxL := M'.2.2.1) (ret := M'.2.2.2.1) (ws := xws M') (ws' := lw_all) (rm := xrm d mc ms) (mc := mc) (ms := ms) ar F.2.2.2.2.2.1 (xws_good w5) (xws_eq w6) rfl rfl (hK.2.2.1 _ w1) (F.2.2.2.2.2.1 _ w4) w7 (x_room F.2.2.2.2.2.2.2.2.1 F.2.2.2.2.2.2.2.2.2.1 w8)
  have hr := vx_runSN (rest := rest) (below := below) (e := e) (meth := meth) (locs := locs) (cells := cells) (slots := slots) (g := F0 m₀ pc ls st) ⟨F.1, F.2.1, F.2.2.2.1, F.2.2.2.2.1, F.2.2.2.2.2.1⟩ hC ⟨cb, F.2.2.2.2.2.1 _ w2, trivial⟩ ⟨xPc.blind, xPc.callee F hR hS⟩ rfl har hL.1 hst (lv_room hrm) hdg ⟨by omega, by omega⟩
  exact x_goes hh F hL hc hs hm hr hS kx kk
theorem x_cU {ci b : Nat} {C owner : String} {x : MethodName} {T : u_T} {N : Nat} {fs : List Value} (hh : M.2.2.2.2 = []) (hw : xCU M.1.cls idx C owner x M' ar) (hcl : xcl[ci]? = some (C, T, N)) (hb : h b = some (.inr (ci, fs))) (har : As.length = ar) (hst : st = As.reverse ++ .ref b :: rest) (hrm : (rest.map fun v => v.category).sum ≤ 8) (hdg : decode M.2.1 pc = .ok (.invokevirtual idx, 3)) (hC : xC G l M' d mc ms (.ref b :: As) h Q') (hm : mc ≤ k ∧ ms ≤ n)
    (kx : ∀ (E : String) (q : Addr) (h1 : xH), Q' (.inr (E, q)) h1 → Q (.inr (E, q)) h1)
    (kk : ∀ (v : Option Value) (h1 : xH), Q' (.inl v) h1 → xF G l M (d + 1) (k - mc) (n - ms) Q (pc + 3) lv (v.toList ++ rest) h1) : xF G l M (d + 1) k n Q pc lv st h := by
  intro p e R s m₀ args below meth c H locs cells slots ls F hL hc hs hR hS
  obtain ⟨w1, w2, w3, w4, w5, w6, w7, wz, w8, w9⟩ := hw
  have hK := F.2.2.2.2.2.2.2.2.2.2.1
  have hG : GoodIn lw_all (va_wsU M.1.cls idx C owner x M'.1 (xws M')) := lw_app (by
    intro w hw
    simp only [List.mem_cons, List.not_mem_nil, or_false] at hw
    rcases hw with e | e | e | e | e
    · rw [e]; exact w1
    · rw [e]; exact w2
    · rw [e]; exact w3
    · rw [e]; exact w4
    · rw [e]; exact w5) (xws_good w6)
  have cb : va_CU R s args M.1.cls C owner idx x M'.1 M'.2.1 M'.2.2.1 M'.2.2.2.1 (xws M') (xrm d mc ms) mc ms ar := by
    rcases wz with e1 | e1 | ⟨b0, m0, r0, e1, e2⟩
    · exact va_cwU ar F.2.2.2.2.2.1 hG (xws_eq w7) rfl rfl e1 w8 (x_room F.2.2.2.2.2.2.2.2.1 F.2.2.2.2.2.2.2.2.2.1 w9)
    · exact va_cwA ar F.2.2.2.2.2.1 hG (xws_eq w7) rfl rfl (hK.2.2.1 _ e1) w8 (x_room F.2.2.2.2.2.2.2.2.1 F.2.2.2.2.2.2.2.2.2.1 w9)
    · exact va_cwO ar F.2.2.2.2.2.1 (lw_app (by
        intro w hw
        simp only [List.mem_cons, List.not_mem_nil, or_false] at hw
        rcases hw with e | e | e | e | e | e
        · rw [e]; exact w1
        · rw [e]; exact w2
        · rw [e]; exact e2
        · rw [e]; exact w3
        · rw [e]; exact w4
        · rw [e]; exact w5) (xws_good w6)) (xws_eq w7) rfl rfl e1 w8 (x_room F.2.2.2.2.2.2.2.2.1 F.2.2.2.2.2.2.2.2.2.1 w9)
  have hr := vx_runU (C := C) (rest := rest) (below := below) (e := e) (meth := meth) (locs := locs) (cells := cells) (slots := slots) (g := F0 m₀ pc ls st) ⟨F.1, F.2.1, F.2.2.2.1, F.2.2.2.2.1, F.2.2.2.2.2.1⟩ hC cb ⟨xPc.blind, x_recv F hR hcl hb, xPc.callee F hR hS⟩ rfl har hL.1 hst (lv_room hrm) hdg ⟨by omega, by omega⟩
  exact x_goes hh F hL hc hs hm hr hS kx kk
/-- Object() -/
def xOb (own : String) (idx : Nat) : Prop := Cond.methodLink own idx objectInit ∈ lw_all ∧ Cond.instanceMethod objectInit ∈ lw_all ∧ Cond.code objectInit ⟨#[0xb1]⟩ 1 none ∈ lw_all
theorem t_obj {a : Nat} (hdg : decode M.2.1 pc = .ok (.invokespecial idx, 3)) (hw : xOb M.1.cls idx) (ha : a ≠ 0) (hrm : (rest.map fun v => v.category).sum ≤ 4) (hd : 1 ≤ d)
    (kk : xF G l M d k n Q (pc + 3) lv rest h) : xF G l M d k n Q pc lv (rfv a :: rest) h := by
  obtain ⟨a, rfl⟩ := Nat.exists_eq_succ_of_ne_zero ha
  intro p e R s m₀ args below meth c H locs cells slots ls F hL hc hs hR hS
  obtain ⟨w1, w2, w3⟩ := hw
  have h1 := F.2.2.2.2.2.2.2.2.1
  have h2 := F.2.2.2.2.2.2.2.2.2.1
  exact W.objInit F.1 F.2.1 F.2.2.2.2.1 (F.2.2.2.2.2.1 _ w1) (F.2.2.2.2.2.1 _ w2) (F.2.2.2.2.2.1 _ w3) rfl (by rw [F.2.2.2.1]; exact hL.1) rfl hdg (by omega) (by show 2 * 0 + _ + 12 ≤ R.locals; omega) (kk p e R s m₀ args below meth c H locs cells slots ls F hL hc hs hR hS)

theorem t_cVi {ci b : Nat} {C : String} {T : u_T} {N : Nat} {K : Int32 → tM → Prop} {Kx : String → Nat → tM → Prop} (hh : M.2.2.2.2 = []) (hw : xCV M.1.cls idx C M' ar) (hcl : xcl[ci]? = some (C, T, N)) (hb : tO m ci b) (har : As.length = ar) (hst : st = As.reverse ++ rfv b :: rest) (hrm : (rest.map fun v => v.category).sum ≤ 8) (hdg : decode M.2.1 pc = .ok (.invokevirtual idx, 3)) (hC : xC G l M' d mc ms (rfv b :: As) (tH G g m) (tQ G g wi K Kx)) (hm : mc ≤ k ∧ ms ≤ n) (kx : ∀ (E : String) (q : Nat) (m1 : tM), Kx E (q + 1) m1 → Q (.inr (E, q)) (tH G g m1)) (kk : ∀ (v : Int32) (m1 : tM), K v m1 → xF G l M (d + 1) (k - mc) (n - ms) Q (pc + 3) lv (.int v :: rest) (tH G g m1)) : xF G l M (d + 1) k n Q pc lv st (tH G g m) := by
  obtain ⟨b, rfl⟩ := Nat.exists_eq_succ_of_ne_zero hb.2
  refine x_cV hh hw hcl (tH_atO hb) har hst hrm hdg hC hm (fun E q h1 hq => ?_) (fun v h1 hq => ?_)
  · rcases hq with ⟨v, m1, -, e, -⟩ | ⟨E', q', m1, hx, e, rfl⟩
    · cases e
    · cases e
      exact kx _ _ _ hx
  · rcases hq with ⟨v', m1, h2, e, rfl⟩ | ⟨E', q', m1, -, e, -⟩
    · cases e
      exact kk v' m1 h2
    · cases e
theorem t_cVNi {ci b : Nat} {host C : String} {T : u_T} {N : Nat} {K : Int32 → tM → Prop} {Kx : String → Nat → tM → Prop} (hh : M.2.2.2.2 = []) (hw : xCVN M.1.cls idx host C M' ar) (hC1 : M'.1.cls = C) (hcl : xcl[ci]? = some (C, T, N)) (hb : tO m ci b) (har : As.length = ar) (hst : st = As.reverse ++ rfv b :: rest) (hrm : (rest.map fun v => v.category).sum ≤ 8) (hdg : decode M.2.1 pc = .ok (.invokevirtual idx, 3)) (hC : xC G l M' d mc ms (rfv b :: As) (tH G g m) (tQ G g wi K Kx)) (hm : mc ≤ k ∧ ms ≤ n) (kx : ∀ (E : String) (q : Nat) (m1 : tM), Kx E (q + 1) m1 → Q (.inr (E, q)) (tH G g m1)) (kk : ∀ (v : Int32) (m1 : tM), K v m1 → xF G l M (d + 1) (k - mc) (n - ms) Q (pc + 3) lv (.int v :: rest) (tH G g m1)) : xF G l M (d + 1) k n Q pc lv st (tH G g m) := by
  obtain ⟨b, rfl⟩ := Nat.exists_eq_succ_of_ne_zero hb.2
  refine x_cVN hh hw hC1 hcl (tH_atO hb) har hst hrm hdg hC hm (fun E q h1 hq => ?_) (fun v h1 hq => ?_)
  · rcases hq with ⟨v, m1, -, e, -⟩ | ⟨E', q', m1, hx, e, rfl⟩
    · cases e
    · cases e
      exact kx _ _ _ hx
  · rcases hq with ⟨v', m1, h2, e, rfl⟩ | ⟨E', q', m1, -, e, -⟩
    · cases e
      exact kk v' m1 h2
    · cases e
theorem t_cDi {b : Nat} {K : Int32 → tM → Prop} {Kx : String → Nat → tM → Prop} (hh : M.2.2.2.2 = []) (hD : ∃ (C : String) (ci : Nat) (T : u_T) (N : Nat) (owner : String) (x : MethodName) (M1 : xM), xcl[ci]? = some (C, T, N) ∧ xCU M.1.cls idx C owner x M1 ar ∧ tO m ci b ∧ xC G l M1 d mc ms (rfv b :: As) (tH G g m) (tQ G g wi K Kx)) (har : As.length = ar) (hst : st = As.reverse ++ rfv b :: rest) (hrm : (rest.map fun v => v.category).sum ≤ 8) (hdg : decode M.2.1 pc = .ok (.invokevirtual idx, 3)) (hm : mc ≤ k ∧ ms ≤ n) (kx : ∀ (E : String) (q : Nat) (m1 : tM), Kx E (q + 1) m1 → Q (.inr (E, q)) (tH G g m1)) (kk : ∀ (v : Int32) (m1 : tM), K v m1 → xF G l M (d + 1) (k - mc) (n - ms) Q (pc + 3) lv (.int v :: rest) (tH G g m1)) : xF G l M (d + 1) k n Q pc lv st (tH G g m) := by
  obtain ⟨C, ci, T, N, owner, x, M1, hcl, hw, hb, hC⟩ := hD
  obtain ⟨b, rfl⟩ := Nat.exists_eq_succ_of_ne_zero hb.2
  refine x_cU hh hw hcl (tH_atO hb) har hst hrm hdg hC hm (fun E q h1 hq => ?_) (fun v h1 hq => ?_)
  · rcases hq with ⟨v, m1, -, e, -⟩ | ⟨E', q', m1, hx, e, rfl⟩
    · cases e
    · cases e
      exact kx _ _ _ hx
  · rcases hq with ⟨v', m1, h2, e, rfl⟩ | ⟨E', q', m1, -, e, -⟩
    · cases e
      exact kk v' m1 h2
    · cases e
theorem t_cSi {K : Int32 → tM → Prop} {Kx : String → Nat → tM → Prop} (hh : M.2.2.2.2 = []) (hw : xCS M.1.cls idx M' ar) (har : As.length = ar) (hst : st = As.reverse ++ rest) (hrm : (rest.map fun v => v.category).sum ≤ 8) (hdg : decode M.2.1 pc = .ok (.invokestatic idx, 3)) (hC : xC G l M' d mc ms As (tH G g m) (tQ G g wi K Kx)) (hm : mc ≤ k ∧ ms ≤ n) (kx : ∀ (E : String) (q : Nat) (m1 : tM), Kx E (q + 1) m1 → Q (.inr (E, q)) (tH G g m1)) (kk : ∀ (v : Int32) (m1 : tM), K v m1 → xF G l M (d + 1) (k - mc) (n - ms) Q (pc + 3) lv (.int v :: rest) (tH G g m1)) : xF G l M (d + 1) k n Q pc lv st (tH G g m) := by
  refine x_cS hh hw har hst hrm hdg hC hm (fun E q h1 hq => ?_) (fun v h1 hq => ?_)
  · rcases hq with ⟨v, m1, -, e, -⟩ | ⟨E', q', m1, hx, e, rfl⟩
    · cases e
    · cases e
      exact kx _ _ _ hx
  · rcases hq with ⟨v', m1, h2, e, rfl⟩ | ⟨E', q', m1, -, e, -⟩
    · cases e
      exact kk v' m1 h2
    · cases e
theorem t_cPi {K : Int32 → Prop} (hh : M.2.2.2.2 = []) (hw : xCS M.1.cls idx M' ar) (har : As.length = ar) (hst : st = As.reverse ++ rest) (hrm : (rest.map fun v => v.category).sum ≤ 8) (hdg : decode M.2.1 pc = .ok (.invokestatic idx, 3)) (hC : xC G l M' d 0 0 As h (xQi h K)) (kk : ∀ v : Int32, K v → xF G l M (d + 1) k n Q (pc + 3) lv (.int v :: rest) h) : xF G l M (d + 1) k n Q pc lv st h := by
  refine x_cS hh hw har hst hrm hdg hC ⟨Nat.zero_le _, Nat.zero_le _⟩ (fun E q h1 hq => ?_) (fun v h1 hq => ?_)
  · obtain ⟨v, -, e, -⟩ := hq
    cases e
  · obtain ⟨v, h2, e, rfl⟩ := hq
    cases e
    exact kk v h2
theorem t_cPNi {host : String} {K : Int32 → Prop} (hh : M.2.2.2.2 = []) (hw : xCSN M.1.cls idx host M' ar) (har : As.length = ar) (hst : st = As.reverse ++ rest) (hrm : (rest.map fun v => v.category).sum ≤ 8) (hdg : decode M.2.1 pc = .ok (.invokestatic idx, 3)) (hC : xC G l M' d 0 0 As h (xQi h K)) (kk : ∀ v : Int32, K v → xF G l M (d + 1) k n Q (pc + 3) lv (.int v :: rest) h) : xF G l M (d + 1) k n Q pc lv st h := by
  refine x_cSN hh hw har hst hrm hdg hC ⟨Nat.zero_le _, Nat.zero_le _⟩ (fun E q h1 hq => ?_) (fun v h1 hq => ?_)
  · obtain ⟨v, -, e, -⟩ := hq
    cases e
  · obtain ⟨v, h2, e, rfl⟩ := hq
    cases e
    exact kk v h2
theorem t_cVl {ci b : Nat} {C : String} {T : u_T} {N : Nat} {K : Int64 → tM → Prop} {Kx : String → Nat → tM → Prop} (hh : M.2.2.2.2 = []) (hw : xCV M.1.cls idx C M' ar) (hcl : xcl[ci]? = some (C, T, N)) (hb : tO m ci b) (har : As.length = ar) (hst : st = As.reverse ++ rfv b :: rest) (hrm : (rest.map fun v => v.category).sum ≤ 8) (hdg : decode M.2.1 pc = .ok (.invokevirtual idx, 3)) (hC : xC G l M' d mc ms (rfv b :: As) (tH G g m) (tQ G g wl K Kx)) (hm : mc ≤ k ∧ ms ≤ n) (kx : ∀ (E : String) (q : Nat) (m1 : tM), Kx E (q + 1) m1 → Q (.inr (E, q)) (tH G g m1)) (kk : ∀ (v : Int64) (m1 : tM), K v m1 → xF G l M (d + 1) (k - mc) (n - ms) Q (pc + 3) lv (.long v :: rest) (tH G g m1)) : xF G l M (d + 1) k n Q pc lv st (tH G g m) := by
  obtain ⟨b, rfl⟩ := Nat.exists_eq_succ_of_ne_zero hb.2
  refine x_cV hh hw hcl (tH_atO hb) har hst hrm hdg hC hm (fun E q h1 hq => ?_) (fun v h1 hq => ?_)
  · rcases hq with ⟨v, m1, -, e, -⟩ | ⟨E', q', m1, hx, e, rfl⟩
    · cases e
    · cases e
      exact kx _ _ _ hx
  · rcases hq with ⟨v', m1, h2, e, rfl⟩ | ⟨E', q', m1, -, e, -⟩
    · cases e
      exact kk v' m1 h2
    · cases e
theorem t_cVNl {ci b : Nat} {host C : String} {T : u_T} {N : Nat} {K : Int64 → tM → Prop} {Kx : String → Nat → tM → Prop} (hh : M.2.2.2.2 = []) (hw : xCVN M.1.cls idx host C M' ar) (hC1 : M'.1.cls = C) (hcl : xcl[ci]? = some (C, T, N)) (hb : tO m ci b) (har : As.length = ar) (hst : st = As.reverse ++ rfv b :: rest) (hrm : (rest.map fun v => v.category).sum ≤ 8) (hdg : decode M.2.1 pc = .ok (.invokevirtual idx, 3)) (hC : xC G l M' d mc ms (rfv b :: As) (tH G g m) (tQ G g wl K Kx)) (hm : mc ≤ k ∧ ms ≤ n) (kx : ∀ (E : String) (q : Nat) (m1 : tM), Kx E (q + 1) m1 → Q (.inr (E, q)) (tH G g m1)) (kk : ∀ (v : Int64) (m1 : tM), K v m1 → xF G l M (d + 1) (k - mc) (n - ms) Q (pc + 3) lv (.long v :: rest) (tH G g m1)) : xF G l M (d + 1) k n Q pc lv st (tH G g m) := by
  obtain ⟨b, rfl⟩ := Nat.exists_eq_succ_of_ne_zero hb.2
  refine x_cVN hh hw hC1 hcl (tH_atO hb) har hst hrm hdg hC hm (fun E q h1 hq => ?_) (fun v h1 hq => ?_)
  · rcases hq with ⟨v, m1, -, e, -⟩ | ⟨E', q', m1, hx, e, rfl⟩
    · cases e
    · cases e
      exact kx _ _ _ hx
  · rcases hq with ⟨v', m1, h2, e, rfl⟩ | ⟨E', q', m1, -, e, -⟩
    · cases e
      exact kk v' m1 h2
    · cases e
theorem t_cDl {b : Nat} {K : Int64 → tM → Prop} {Kx : String → Nat → tM → Prop} (hh : M.2.2.2.2 = []) (hD : ∃ (C : String) (ci : Nat) (T : u_T) (N : Nat) (owner : String) (x : MethodName) (M1 : xM), xcl[ci]? = some (C, T, N) ∧ xCU M.1.cls idx C owner x M1 ar ∧ tO m ci b ∧ xC G l M1 d mc ms (rfv b :: As) (tH G g m) (tQ G g wl K Kx)) (har : As.length = ar) (hst : st = As.reverse ++ rfv b :: rest) (hrm : (rest.map fun v => v.category).sum ≤ 8) (hdg : decode M.2.1 pc = .ok (.invokevirtual idx, 3)) (hm : mc ≤ k ∧ ms ≤ n) (kx : ∀ (E : String) (q : Nat) (m1 : tM), Kx E (q + 1) m1 → Q (.inr (E, q)) (tH G g m1)) (kk : ∀ (v : Int64) (m1 : tM), K v m1 → xF G l M (d + 1) (k - mc) (n - ms) Q (pc + 3) lv (.long v :: rest) (tH G g m1)) : xF G l M (d + 1) k n Q pc lv st (tH G g m) := by
  obtain ⟨C, ci, T, N, owner, x, M1, hcl, hw, hb, hC⟩ := hD
  obtain ⟨b, rfl⟩ := Nat.exists_eq_succ_of_ne_zero hb.2
  refine x_cU hh hw hcl (tH_atO hb) har hst hrm hdg hC hm (fun E q h1 hq => ?_) (fun v h1 hq => ?_)
  · rcases hq with ⟨v, m1, -, e, -⟩ | ⟨E', q', m1, hx, e, rfl⟩
    · cases e
    · cases e
      exact kx _ _ _ hx
  · rcases hq with ⟨v', m1, h2, e, rfl⟩ | ⟨E', q', m1, -, e, -⟩
    · cases e
      exact kk v' m1 h2
    · cases e
theorem t_cSl {K : Int64 → tM → Prop} {Kx : String → Nat → tM → Prop} (hh : M.2.2.2.2 = []) (hw : xCS M.1.cls idx M' ar) (har : As.length = ar) (hst : st = As.reverse ++ rest) (hrm : (rest.map fun v => v.category).sum ≤ 8) (hdg : decode M.2.1 pc = .ok (.invokestatic idx, 3)) (hC : xC G l M' d mc ms As (tH G g m) (tQ G g wl K Kx)) (hm : mc ≤ k ∧ ms ≤ n) (kx : ∀ (E : String) (q : Nat) (m1 : tM), Kx E (q + 1) m1 → Q (.inr (E, q)) (tH G g m1)) (kk : ∀ (v : Int64) (m1 : tM), K v m1 → xF G l M (d + 1) (k - mc) (n - ms) Q (pc + 3) lv (.long v :: rest) (tH G g m1)) : xF G l M (d + 1) k n Q pc lv st (tH G g m) := by
  refine x_cS hh hw har hst hrm hdg hC hm (fun E q h1 hq => ?_) (fun v h1 hq => ?_)
  · rcases hq with ⟨v, m1, -, e, -⟩ | ⟨E', q', m1, hx, e, rfl⟩
    · cases e
    · cases e
      exact kx _ _ _ hx
  · rcases hq with ⟨v', m1, h2, e, rfl⟩ | ⟨E', q', m1, -, e, -⟩
    · cases e
      exact kk v' m1 h2
    · cases e
theorem t_cPl {K : Int64 → Prop} (hh : M.2.2.2.2 = []) (hw : xCS M.1.cls idx M' ar) (har : As.length = ar) (hst : st = As.reverse ++ rest) (hrm : (rest.map fun v => v.category).sum ≤ 8) (hdg : decode M.2.1 pc = .ok (.invokestatic idx, 3)) (hC : xC G l M' d 0 0 As h (xQl h K)) (kk : ∀ v : Int64, K v → xF G l M (d + 1) k n Q (pc + 3) lv (.long v :: rest) h) : xF G l M (d + 1) k n Q pc lv st h := by
  refine x_cS hh hw har hst hrm hdg hC ⟨Nat.zero_le _, Nat.zero_le _⟩ (fun E q h1 hq => ?_) (fun v h1 hq => ?_)
  · obtain ⟨v, -, e, -⟩ := hq
    cases e
  · obtain ⟨v, h2, e, rfl⟩ := hq
    cases e
    exact kk v h2
theorem t_cPNl {host : String} {K : Int64 → Prop} (hh : M.2.2.2.2 = []) (hw : xCSN M.1.cls idx host M' ar) (har : As.length = ar) (hst : st = As.reverse ++ rest) (hrm : (rest.map fun v => v.category).sum ≤ 8) (hdg : decode M.2.1 pc = .ok (.invokestatic idx, 3)) (hC : xC G l M' d 0 0 As h (xQl h K)) (kk : ∀ v : Int64, K v → xF G l M (d + 1) k n Q (pc + 3) lv (.long v :: rest) h) : xF G l M (d + 1) k n Q pc lv st h := by
  refine x_cSN hh hw har hst hrm hdg hC ⟨Nat.zero_le _, Nat.zero_le _⟩ (fun E q h1 hq => ?_) (fun v h1 hq => ?_)
  · obtain ⟨v, -, e, -⟩ := hq
    cases e
  · obtain ⟨v, h2, e, rfl⟩ := hq
    cases e
    exact kk v h2
theorem t_cVr {ci b : Nat} {C : String} {T : u_T} {N : Nat} {K : Nat → tM → Prop} {Kx : String → Nat → tM → Prop} (hh : M.2.2.2.2 = []) (hw : xCV M.1.cls idx C M' ar) (hcl : xcl[ci]? = some (C, T, N)) (hb : tO m ci b) (har : As.length = ar) (hst : st = As.reverse ++ rfv b :: rest) (hrm : (rest.map fun v => v.category).sum ≤ 8) (hdg : decode M.2.1 pc = .ok (.invokevirtual idx, 3)) (hC : xC G l M' d mc ms (rfv b :: As) (tH G g m) (tQ G g wr K Kx)) (hm : mc ≤ k ∧ ms ≤ n) (kx : ∀ (E : String) (q : Nat) (m1 : tM), Kx E (q + 1) m1 → Q (.inr (E, q)) (tH G g m1)) (kk : ∀ (v : Nat) (m1 : tM), K v m1 → xF G l M (d + 1) (k - mc) (n - ms) Q (pc + 3) lv (rfv v :: rest) (tH G g m1)) : xF G l M (d + 1) k n Q pc lv st (tH G g m) := by
  obtain ⟨b, rfl⟩ := Nat.exists_eq_succ_of_ne_zero hb.2
  refine x_cV hh hw hcl (tH_atO hb) har hst hrm hdg hC hm (fun E q h1 hq => ?_) (fun v h1 hq => ?_)
  · rcases hq with ⟨v, m1, -, e, -⟩ | ⟨E', q', m1, hx, e, rfl⟩
    · cases e
    · cases e
      exact kx _ _ _ hx
  · rcases hq with ⟨v', m1, h2, e, rfl⟩ | ⟨E', q', m1, -, e, -⟩
    · cases e
      exact kk v' m1 h2
    · cases e
theorem t_cVNr {ci b : Nat} {host C : String} {T : u_T} {N : Nat} {K : Nat → tM → Prop} {Kx : String → Nat → tM → Prop} (hh : M.2.2.2.2 = []) (hw : xCVN M.1.cls idx host C M' ar) (hC1 : M'.1.cls = C) (hcl : xcl[ci]? = some (C, T, N)) (hb : tO m ci b) (har : As.length = ar) (hst : st = As.reverse ++ rfv b :: rest) (hrm : (rest.map fun v => v.category).sum ≤ 8) (hdg : decode M.2.1 pc = .ok (.invokevirtual idx, 3)) (hC : xC G l M' d mc ms (rfv b :: As) (tH G g m) (tQ G g wr K Kx)) (hm : mc ≤ k ∧ ms ≤ n) (kx : ∀ (E : String) (q : Nat) (m1 : tM), Kx E (q + 1) m1 → Q (.inr (E, q)) (tH G g m1)) (kk : ∀ (v : Nat) (m1 : tM), K v m1 → xF G l M (d + 1) (k - mc) (n - ms) Q (pc + 3) lv (rfv v :: rest) (tH G g m1)) : xF G l M (d + 1) k n Q pc lv st (tH G g m) := by
  obtain ⟨b, rfl⟩ := Nat.exists_eq_succ_of_ne_zero hb.2
  refine x_cVN hh hw hC1 hcl (tH_atO hb) har hst hrm hdg hC hm (fun E q h1 hq => ?_) (fun v h1 hq => ?_)
  · rcases hq with ⟨v, m1, -, e, -⟩ | ⟨E', q', m1, hx, e, rfl⟩
    · cases e
    · cases e
      exact kx _ _ _ hx
  · rcases hq with ⟨v', m1, h2, e, rfl⟩ | ⟨E', q', m1, -, e, -⟩
    · cases e
      exact kk v' m1 h2
    · cases e
theorem t_cDr {b : Nat} {K : Nat → tM → Prop} {Kx : String → Nat → tM → Prop} (hh : M.2.2.2.2 = []) (hD : ∃ (C : String) (ci : Nat) (T : u_T) (N : Nat) (owner : String) (x : MethodName) (M1 : xM), xcl[ci]? = some (C, T, N) ∧ xCU M.1.cls idx C owner x M1 ar ∧ tO m ci b ∧ xC G l M1 d mc ms (rfv b :: As) (tH G g m) (tQ G g wr K Kx)) (har : As.length = ar) (hst : st = As.reverse ++ rfv b :: rest) (hrm : (rest.map fun v => v.category).sum ≤ 8) (hdg : decode M.2.1 pc = .ok (.invokevirtual idx, 3)) (hm : mc ≤ k ∧ ms ≤ n) (kx : ∀ (E : String) (q : Nat) (m1 : tM), Kx E (q + 1) m1 → Q (.inr (E, q)) (tH G g m1)) (kk : ∀ (v : Nat) (m1 : tM), K v m1 → xF G l M (d + 1) (k - mc) (n - ms) Q (pc + 3) lv (rfv v :: rest) (tH G g m1)) : xF G l M (d + 1) k n Q pc lv st (tH G g m) := by
  obtain ⟨C, ci, T, N, owner, x, M1, hcl, hw, hb, hC⟩ := hD
  obtain ⟨b, rfl⟩ := Nat.exists_eq_succ_of_ne_zero hb.2
  refine x_cU hh hw hcl (tH_atO hb) har hst hrm hdg hC hm (fun E q h1 hq => ?_) (fun v h1 hq => ?_)
  · rcases hq with ⟨v, m1, -, e, -⟩ | ⟨E', q', m1, hx, e, rfl⟩
    · cases e
    · cases e
      exact kx _ _ _ hx
  · rcases hq with ⟨v', m1, h2, e, rfl⟩ | ⟨E', q', m1, -, e, -⟩
    · cases e
      exact kk v' m1 h2
    · cases e
theorem t_cSr {K : Nat → tM → Prop} {Kx : String → Nat → tM → Prop} (hh : M.2.2.2.2 = []) (hw : xCS M.1.cls idx M' ar) (har : As.length = ar) (hst : st = As.reverse ++ rest) (hrm : (rest.map fun v => v.category).sum ≤ 8) (hdg : decode M.2.1 pc = .ok (.invokestatic idx, 3)) (hC : xC G l M' d mc ms As (tH G g m) (tQ G g wr K Kx)) (hm : mc ≤ k ∧ ms ≤ n) (kx : ∀ (E : String) (q : Nat) (m1 : tM), Kx E (q + 1) m1 → Q (.inr (E, q)) (tH G g m1)) (kk : ∀ (v : Nat) (m1 : tM), K v m1 → xF G l M (d + 1) (k - mc) (n - ms) Q (pc + 3) lv (rfv v :: rest) (tH G g m1)) : xF G l M (d + 1) k n Q pc lv st (tH G g m) := by
  refine x_cS hh hw har hst hrm hdg hC hm (fun E q h1 hq => ?_) (fun v h1 hq => ?_)
  · rcases hq with ⟨v, m1, -, e, -⟩ | ⟨E', q', m1, hx, e, rfl⟩
    · cases e
    · cases e
      exact kx _ _ _ hx
  · rcases hq with ⟨v', m1, h2, e, rfl⟩ | ⟨E', q', m1, -, e, -⟩
    · cases e
      exact kk v' m1 h2
    · cases e
theorem t_cVv {ci b : Nat} {C : String} {T : u_T} {N : Nat} {K : Unit → tM → Prop} {Kx : String → Nat → tM → Prop} (hh : M.2.2.2.2 = []) (hw : xCV M.1.cls idx C M' ar) (hcl : xcl[ci]? = some (C, T, N)) (hb : tO m ci b) (har : As.length = ar) (hst : st = As.reverse ++ rfv b :: rest) (hrm : (rest.map fun v => v.category).sum ≤ 8) (hdg : decode M.2.1 pc = .ok (.invokevirtual idx, 3)) (hC : xC G l M' d mc ms (rfv b :: As) (tH G g m) (tQ G g wu K Kx)) (hm : mc ≤ k ∧ ms ≤ n) (kx : ∀ (E : String) (q : Nat) (m1 : tM), Kx E (q + 1) m1 → Q (.inr (E, q)) (tH G g m1)) (kk : ∀ (v : Unit) (m1 : tM), K v m1 → xF G l M (d + 1) (k - mc) (n - ms) Q (pc + 3) lv (rest) (tH G g m1)) : xF G l M (d + 1) k n Q pc lv st (tH G g m) := by
  obtain ⟨b, rfl⟩ := Nat.exists_eq_succ_of_ne_zero hb.2
  refine x_cV hh hw hcl (tH_atO hb) har hst hrm hdg hC hm (fun E q h1 hq => ?_) (fun v h1 hq => ?_)
  · rcases hq with ⟨v, m1, -, e, -⟩ | ⟨E', q', m1, hx, e, rfl⟩
    · cases e
    · cases e
      exact kx _ _ _ hx
  · rcases hq with ⟨v', m1, h2, e, rfl⟩ | ⟨E', q', m1, -, e, -⟩
    · cases e
      exact kk v' m1 h2
    · cases e
theorem t_cVNv {ci b : Nat} {host C : String} {T : u_T} {N : Nat} {K : Unit → tM → Prop} {Kx : String → Nat → tM → Prop} (hh : M.2.2.2.2 = []) (hw : xCVN M.1.cls idx host C M' ar) (hC1 : M'.1.cls = C) (hcl : xcl[ci]? = some (C, T, N)) (hb : tO m ci b) (har : As.length = ar) (hst : st = As.reverse ++ rfv b :: rest) (hrm : (rest.map fun v => v.category).sum ≤ 8) (hdg : decode M.2.1 pc = .ok (.invokevirtual idx, 3)) (hC : xC G l M' d mc ms (rfv b :: As) (tH G g m) (tQ G g wu K Kx)) (hm : mc ≤ k ∧ ms ≤ n) (kx : ∀ (E : String) (q : Nat) (m1 : tM), Kx E (q + 1) m1 → Q (.inr (E, q)) (tH G g m1)) (kk : ∀ (v : Unit) (m1 : tM), K v m1 → xF G l M (d + 1) (k - mc) (n - ms) Q (pc + 3) lv (rest) (tH G g m1)) : xF G l M (d + 1) k n Q pc lv st (tH G g m) := by
  obtain ⟨b, rfl⟩ := Nat.exists_eq_succ_of_ne_zero hb.2
  refine x_cVN hh hw hC1 hcl (tH_atO hb) har hst hrm hdg hC hm (fun E q h1 hq => ?_) (fun v h1 hq => ?_)
  · rcases hq with ⟨v, m1, -, e, -⟩ | ⟨E', q', m1, hx, e, rfl⟩
    · cases e
    · cases e
      exact kx _ _ _ hx
  · rcases hq with ⟨v', m1, h2, e, rfl⟩ | ⟨E', q', m1, -, e, -⟩
    · cases e
      exact kk v' m1 h2
    · cases e
theorem t_cDv {b : Nat} {K : Unit → tM → Prop} {Kx : String → Nat → tM → Prop} (hh : M.2.2.2.2 = []) (hD : ∃ (C : String) (ci : Nat) (T : u_T) (N : Nat) (owner : String) (x : MethodName) (M1 : xM), xcl[ci]? = some (C, T, N) ∧ xCU M.1.cls idx C owner x M1 ar ∧ tO m ci b ∧ xC G l M1 d mc ms (rfv b :: As) (tH G g m) (tQ G g wu K Kx)) (har : As.length = ar) (hst : st = As.reverse ++ rfv b :: rest) (hrm : (rest.map fun v => v.category).sum ≤ 8) (hdg : decode M.2.1 pc = .ok (.invokevirtual idx, 3)) (hm : mc ≤ k ∧ ms ≤ n) (kx : ∀ (E : String) (q : Nat) (m1 : tM), Kx E (q + 1) m1 → Q (.inr (E, q)) (tH G g m1)) (kk : ∀ (v : Unit) (m1 : tM), K v m1 → xF G l M (d + 1) (k - mc) (n - ms) Q (pc + 3) lv (rest) (tH G g m1)) : xF G l M (d + 1) k n Q pc lv st (tH G g m) := by
  obtain ⟨C, ci, T, N, owner, x, M1, hcl, hw, hb, hC⟩ := hD
  obtain ⟨b, rfl⟩ := Nat.exists_eq_succ_of_ne_zero hb.2
  refine x_cU hh hw hcl (tH_atO hb) har hst hrm hdg hC hm (fun E q h1 hq => ?_) (fun v h1 hq => ?_)
  · rcases hq with ⟨v, m1, -, e, -⟩ | ⟨E', q', m1, hx, e, rfl⟩
    · cases e
    · cases e
      exact kx _ _ _ hx
  · rcases hq with ⟨v', m1, h2, e, rfl⟩ | ⟨E', q', m1, -, e, -⟩
    · cases e
      exact kk v' m1 h2
    · cases e
theorem t_cSv {K : Unit → tM → Prop} {Kx : String → Nat → tM → Prop} (hh : M.2.2.2.2 = []) (hw : xCS M.1.cls idx M' ar) (har : As.length = ar) (hst : st = As.reverse ++ rest) (hrm : (rest.map fun v => v.category).sum ≤ 8) (hdg : decode M.2.1 pc = .ok (.invokestatic idx, 3)) (hC : xC G l M' d mc ms As (tH G g m) (tQ G g wu K Kx)) (hm : mc ≤ k ∧ ms ≤ n) (kx : ∀ (E : String) (q : Nat) (m1 : tM), Kx E (q + 1) m1 → Q (.inr (E, q)) (tH G g m1)) (kk : ∀ (v : Unit) (m1 : tM), K v m1 → xF G l M (d + 1) (k - mc) (n - ms) Q (pc + 3) lv (rest) (tH G g m1)) : xF G l M (d + 1) k n Q pc lv st (tH G g m) := by
  refine x_cS hh hw har hst hrm hdg hC hm (fun E q h1 hq => ?_) (fun v h1 hq => ?_)
  · rcases hq with ⟨v, m1, -, e, -⟩ | ⟨E', q', m1, hx, e, rfl⟩
    · cases e
    · cases e
      exact kx _ _ _ hx
  · rcases hq with ⟨v', m1, h2, e, rfl⟩ | ⟨E', q', m1, -, e, -⟩
    · cases e
      exact kk v' m1 h2
    · cases e
theorem t_cI {b : Nat} {K : Unit → tM → Prop} {Kx : String → Nat → tM → Prop} (hh : M.2.2.2.2 = []) (hw : xCI M.1.cls idx M' ar) (hb : b ≠ 0) (har : As.length = ar) (hst : st = As.reverse ++ rfv b :: rest) (hrm : (rest.map fun v => v.category).sum ≤ 8) (hdg : decode M.2.1 pc = .ok (.invokespecial idx, 3)) (hC : xC G l M' d mc ms (rfv b :: As) (tH G g m) (tQ G g wu K Kx)) (hm : mc ≤ k ∧ ms ≤ n) (kx : ∀ (E : String) (q : Nat) (m1 : tM), Kx E (q + 1) m1 → Q (.inr (E, q)) (tH G g m1)) (kk : ∀ (v : Unit) (m1 : tM), K v m1 → xF G l M (d + 1) (k - mc) (n - ms) Q (pc + 3) lv (rest) (tH G g m1)) : xF G l M (d + 1) k n Q pc lv st (tH G g m) := by
  obtain ⟨b, rfl⟩ := Nat.exists_eq_succ_of_ne_zero hb
  refine x_cI hh hw har hst hrm hdg hC hm (fun E q h1 hq => ?_) (fun v h1 hq => ?_)
  · rcases hq with ⟨v, m1, -, e, -⟩ | ⟨E', q', m1, hx, e, rfl⟩
    · cases e
    · cases e
      exact kx _ _ _ hx
  · rcases hq with ⟨v', m1, h2, e, rfl⟩ | ⟨E', q', m1, -, e, -⟩
    · cases e
      exact kk v' m1 h2
    · cases e
theorem t_cIN {b : Nat} {host : String} {K : Unit → tM → Prop} {Kx : String → Nat → tM → Prop} (hh : M.2.2.2.2 = []) (hw : xCIN M.1.cls idx host M' ar) (hb : b ≠ 0) (har : As.length = ar) (hst : st = As.reverse ++ rfv b :: rest) (hrm : (rest.map fun v => v.category).sum ≤ 8) (hdg : decode M.2.1 pc = .ok (.invokespecial idx, 3)) (hC : xC G l M' d mc ms (rfv b :: As) (tH G g m) (tQ G g wu K Kx)) (hm : mc ≤ k ∧ ms ≤ n) (kx : ∀ (E : String) (q : Nat) (m1 : tM), Kx E (q + 1) m1 → Q (.inr (E, q)) (tH G g m1)) (kk : ∀ (v : Unit) (m1 : tM), K v m1 → xF G l M (d + 1) (k - mc) (n - ms) Q (pc + 3) lv (rest) (tH G g m1)) : xF G l M (d + 1) k n Q pc lv st (tH G g m) := by
  obtain ⟨b, rfl⟩ := Nat.exists_eq_succ_of_ne_zero hb
  refine x_cIN hh hw har hst hrm hdg hC hm (fun E q h1 hq => ?_) (fun v h1 hq => ?_)
  · rcases hq with ⟨v, m1, -, e, -⟩ | ⟨E', q', m1, hx, e, rfl⟩
    · cases e
    · cases e
      exact kx _ _ _ hx
  · rcases hq with ⟨v', m1, h2, e, rfl⟩ | ⟨E', q', m1, -, e, -⟩
    · cases e
      exact kk v' m1 h2
    · cases e
theorem t_topi {x : Int32} (kk : ∀ y : Int32, y = x → xF G l M d k n Q pc lv (.int y :: rest) h) : xF G l M d k n Q pc lv (.int x :: rest) h := kk x rfl
end TC
/-- a method from its entry: its arguments may be references -/
theorem t_start {G : xG} {l : Launch} {M : xM} {d mc ms : Nat} {av : List Value} {h : xH} {Q : xR → xH → Prop} {lv : xLs} (hh : M.2.2.2.2 = []) (hy : plainName M.1.cls = true) (hn : (av.map fun v => v.category).sum ≤ M.2.2.1) (hlv : xLv 0 lv = lv_args 0 av) (k : xF G l M d mc ms Q 0 lv [] h) : xC G l M d mc ms av h Q := by
  refine xC.start hh hy ?_ hlv k
  have : ∀ r : List Value, (lg_sl r).length ≤ (r.map fun v => v.category).sum := by
    intro r
    induction r with
    | nil => simp [lg_sl]
    | cons a r ih =>
      rcases lv_cat a with h | h
      · simp [lg_sl, h] at ih ⊢
        omega
      · simp [lg_sl, h] at ih ⊢
        omega
  exact Nat.le_trans (this av) hn
/-! ===== certificates ===== -/
theorem xcl_X0 : xCl 0 RX0 TX0 28 tyX0 := ⟨rfl, in_X0, tyX0_ok⟩
theorem xcl_X1 : xCl 1 RX1 TX1 7 tyX1 := ⟨rfl, in_X1, tyX1_ok⟩
theorem xcl_X2 : xCl 2 RX2 TX2 4 tyX2 := ⟨rfl, in_X2, tyX2_ok⟩
theorem xcl_X3 : xCl 3 RX3 TX3 2 tyX3 := ⟨rfl, in_X3, tyX3_ok⟩
theorem xcl_X4 : xCl 4 RX4 TX4 2 tyX4 := ⟨rfl, in_X4, tyX4_ok⟩
theorem xcl_X5 : xCl 5 RX5 TX5 1 tyX5 := ⟨rfl, in_X5, tyX5_ok⟩
theorem xcl_X8 : xCl 7 RX8 TX8 11 tyX8 := ⟨rfl, in_X8, tyX8_ok⟩
theorem xcl_X9 : xCl 8 RX9 TX9 7 tyX9 := ⟨rfl, in_X9, tyX9_ok⟩
theorem xcl_X11 : xCl 9 RX11 TX11 1 tyX11 := ⟨rfl, in_X11, tyX11_ok⟩
theorem xcl_X12 : xCl 10 RX12 TX12 1 tyX12 := ⟨rfl, in_X12, tyX12_ok⟩
theorem xcl_X13 : xCl 11 RX13 TX13 3 tyX13 := ⟨rfl, in_X13, tyX13_ok⟩
theorem xcl_X14 : xCl 12 RX14 TX14 3 tyX14 := ⟨rfl, in_X14, tyX14_ok⟩
theorem xcl_X15 : xCl 13 RX15 TX15 4 tyX15 := ⟨rfl, in_X15, tyX15_ok⟩
theorem xcl_X17 : xCl 14 RX17 TX17 3 tyX17 := ⟨rfl, in_X17, tyX17_ok⟩
theorem xcl_X18 : xCl 15 RX18 TX18 1 tyX18 := ⟨rfl, in_X18, tyX18_ok⟩
theorem xcl_X19 : xCl 16 RX19 TX19 2 tyX19 := ⟨rfl, in_X19, tyX19_ok⟩
theorem xcl_X20 : xCl 17 RX20 TX20 7 tyX20 := ⟨rfl, in_X20, tyX20_ok⟩
theorem xcl_X21 : xCl 18 RX21 TX21 10 tyX21 := ⟨rfl, in_X21, tyX21_ok⟩
theorem xcl_X22 : xCl 19 RX22 TX22 1 tyX22 := ⟨rfl, in_X22, tyX22_ok⟩
theorem xcl_J2 : xCl 20 RJ2 TJ2 3 tyJ2 := ⟨rfl, in_J2, tyJ2_ok⟩
theorem xcl_J6 : xCl 21 RJ6 TJ6 5 tyJ6 := ⟨rfl, in_J6, tyJ6_ok⟩
theorem xcl_J10 : xCl 22 RJ10 TJ10 6 tyJ10 := ⟨rfl, in_J10, tyJ10_ok⟩
theorem xcl_J11 : xCl 23 RJ11 TJ11 2 tyJ11 := ⟨rfl, in_J11, tyJ11_ok⟩
theorem fa_X0_18_0 : xFa RX0 18 0 0 := ⟨RX0, TX0, 28, tyX0, RX0, xcl_X0, by decide, Or.inl q333, Or.inl rfl⟩
theorem fp_X0_18_0 : xFp RX0 18 0 0 (.object "CounterDesk$Desk") := ⟨RX0, TX0, 28, tyX0, RX0, xcl_X0, by decide, Or.inl q333, Or.inl rfl, rfl, rfl⟩
theorem fa_X0_22_0 : xFa RX0 22 0 1 := ⟨RX0, TX0, 28, tyX0, RX0, xcl_X0, by decide, Or.inl q334, Or.inl rfl⟩
theorem ff_X0_22_0 : xFf RX0 22 0 1 (.array (.object "CounterDesk$Desk")) := ⟨RX0, TX0, 28, tyX0, RX0, xcl_X0, by decide, q334, Or.inl rfl, rfl, rfl, rfl⟩
theorem fa_X0_29_0 : xFa RX0 29 0 2 := ⟨RX0, TX0, 28, tyX0, RX0, xcl_X0, by decide, Or.inl q335, Or.inl rfl⟩
theorem ff_X0_29_0 : xFf RX0 29 0 2 (.object "CounterDesk$Steps") := ⟨RX0, TX0, 28, tyX0, RX0, xcl_X0, by decide, q335, Or.inl rfl, rfl, rfl, rfl⟩
theorem fa_X0_33_0 : xFa RX0 33 0 3 := ⟨RX0, TX0, 28, tyX0, RX0, xcl_X0, by decide, Or.inl q336, Or.inl rfl⟩
theorem ff_X0_33_0 : xFf RX0 33 0 3 (.object "CounterDesk$Steps") := ⟨RX0, TX0, 28, tyX0, RX0, xcl_X0, by decide, q336, Or.inl rfl, rfl, rfl, rfl⟩
theorem fa_X0_39_0 : xFa RX0 39 0 4 := ⟨RX0, TX0, 28, tyX0, RX0, xcl_X0, by decide, Or.inl q337, Or.inl rfl⟩
theorem ff_X0_39_0 : xFf RX0 39 0 4 (.object "CounterDesk$Books") := ⟨RX0, TX0, 28, tyX0, RX0, xcl_X0, by decide, q337, Or.inl rfl, rfl, rfl, rfl⟩
theorem fa_X0_43_0 : xFa RX0 43 0 5 := ⟨RX0, TX0, 28, tyX0, RX0, xcl_X0, by decide, Or.inl q338, Or.inl rfl⟩
theorem ff_X0_43_0 : xFf RX0 43 0 5 (.object "CounterDesk$Books") := ⟨RX0, TX0, 28, tyX0, RX0, xcl_X0, by decide, q338, Or.inl rfl, rfl, rfl, rfl⟩
theorem fa_X0_49_0 : xFa RX0 49 0 6 := ⟨RX0, TX0, 28, tyX0, RX0, xcl_X0, by decide, Or.inl q339, Or.inl rfl⟩
theorem ff_X0_49_0 : xFf RX0 49 0 6 (.object "CounterDesk$Asked") := ⟨RX0, TX0, 28, tyX0, RX0, xcl_X0, by decide, q339, Or.inl rfl, rfl, rfl, rfl⟩
theorem fa_X0_53_0 : xFa RX0 53 0 7 := ⟨RX0, TX0, 28, tyX0, RX0, xcl_X0, by decide, Or.inl q341, Or.inl rfl⟩
theorem ff_X0_53_0 : xFf RX0 53 0 7 (.object "CounterDesk$Asked") := ⟨RX0, TX0, 28, tyX0, RX0, xcl_X0, by decide, q341, Or.inl rfl, rfl, rfl, rfl⟩
theorem fa_X0_63_0 : xFa RX0 63 0 8 := ⟨RX0, TX0, 28, tyX0, RX0, xcl_X0, by decide, Or.inl q342, Or.inl rfl⟩
theorem ff_X0_63_0 : xFf RX0 63 0 8 (.object "CounterDesk$Text") := ⟨RX0, TX0, 28, tyX0, RX0, xcl_X0, by decide, q342, Or.inl rfl, rfl, rfl, rfl⟩
theorem fa_X0_67_0 : xFa RX0 67 0 9 := ⟨RX0, TX0, 28, tyX0, RX0, xcl_X0, by decide, Or.inl q343, Or.inl rfl⟩
theorem ff_X0_67_0 : xFf RX0 67 0 9 (.array .int) := ⟨RX0, TX0, 28, tyX0, RX0, xcl_X0, by decide, q343, Or.inl rfl, rfl, rfl, rfl⟩
theorem fa_X0_71_0 : xFa RX0 71 0 11 := ⟨RX0, TX0, 28, tyX0, RX0, xcl_X0, by decide, Or.inl q345, Or.inl rfl⟩
theorem fp_X0_71_0 : xFp RX0 71 0 11 .int := ⟨RX0, TX0, 28, tyX0, RX0, xcl_X0, by decide, Or.inl q345, Or.inl rfl, rfl, rfl⟩
theorem fa_X0_75_0 : xFa RX0 75 0 13 := ⟨RX0, TX0, 28, tyX0, RX0, xcl_X0, by decide, Or.inl q347, Or.inl rfl⟩
theorem fp_X0_75_0 : xFp RX0 75 0 13 .int := ⟨RX0, TX0, 28, tyX0, RX0, xcl_X0, by decide, Or.inl q347, Or.inl rfl, rfl, rfl⟩
theorem fa_X0_78_0 : xFa RX0 78 0 14 := ⟨RX0, TX0, 28, tyX0, RX0, xcl_X0, by decide, Or.inl q350, Or.inl rfl⟩
theorem ff_X0_78_0 : xFf RX0 78 0 14 (.array .byte) := ⟨RX0, TX0, 28, tyX0, RX0, xcl_X0, by decide, q350, Or.inl rfl, rfl, rfl, rfl⟩
theorem fa_X0_84_0 : xFa RX0 84 0 16 := ⟨RX0, TX0, 28, tyX0, RX0, xcl_X0, by decide, Or.inl q353, Or.inl rfl⟩
theorem ff_X0_84_0 : xFf RX0 84 0 16 (.array (.array (.array .boolean))) := ⟨RX0, TX0, 28, tyX0, RX0, xcl_X0, by decide, q353, Or.inl rfl, rfl, rfl, rfl⟩
theorem fa_X0_89_0 : xFa RX0 89 0 17 := ⟨RX0, TX0, 28, tyX0, RX0, xcl_X0, by decide, Or.inl q354, Or.inl rfl⟩
theorem ff_X0_89_0 : xFf RX0 89 0 17 (.array (.array (.array .int))) := ⟨RX0, TX0, 28, tyX0, RX0, xcl_X0, by decide, q354, Or.inl rfl, rfl, rfl, rfl⟩
theorem fa_X0_92_0 : xFa RX0 92 0 18 := ⟨RX0, TX0, 28, tyX0, RX0, xcl_X0, by decide, Or.inl q355, Or.inl rfl⟩
theorem ff_X0_92_0 : xFf RX0 92 0 18 (.array (.array (.array .int))) := ⟨RX0, TX0, 28, tyX0, RX0, xcl_X0, by decide, q355, Or.inl rfl, rfl, rfl, rfl⟩
theorem fa_X0_97_0 : xFa RX0 97 0 19 := ⟨RX0, TX0, 28, tyX0, RX0, xcl_X0, by decide, Or.inl q356, Or.inl rfl⟩
theorem ff_X0_97_0 : xFf RX0 97 0 19 (.array (.array .int)) := ⟨RX0, TX0, 28, tyX0, RX0, xcl_X0, by decide, q356, Or.inl rfl, rfl, rfl, rfl⟩
theorem fa_X0_100_0 : xFa RX0 100 0 20 := ⟨RX0, TX0, 28, tyX0, RX0, xcl_X0, by decide, Or.inl q357, Or.inl rfl⟩
theorem ff_X0_100_0 : xFf RX0 100 0 20 (.array (.array .int)) := ⟨RX0, TX0, 28, tyX0, RX0, xcl_X0, by decide, q357, Or.inl rfl, rfl, rfl, rfl⟩
theorem fa_X0_103_0 : xFa RX0 103 0 21 := ⟨RX0, TX0, 28, tyX0, RX0, xcl_X0, by decide, Or.inl q358, Or.inl rfl⟩
theorem ff_X0_103_0 : xFf RX0 103 0 21 (.array (.array .int)) := ⟨RX0, TX0, 28, tyX0, RX0, xcl_X0, by decide, q358, Or.inl rfl, rfl, rfl, rfl⟩
theorem fa_X0_108_0 : xFa RX0 108 0 22 := ⟨RX0, TX0, 28, tyX0, RX0, xcl_X0, by decide, Or.inl q359, Or.inl rfl⟩
theorem ff_X0_108_0 : xFf RX0 108 0 22 (.array (.array .long)) := ⟨RX0, TX0, 28, tyX0, RX0, xcl_X0, by decide, q359, Or.inl rfl, rfl, rfl, rfl⟩
theorem fa_X0_111_0 : xFa RX0 111 0 23 := ⟨RX0, TX0, 28, tyX0, RX0, xcl_X0, by decide, Or.inl q360, Or.inl rfl⟩
theorem ff_X0_111_0 : xFf RX0 111 0 23 (.array .int) := ⟨RX0, TX0, 28, tyX0, RX0, xcl_X0, by decide, q360, Or.inl rfl, rfl, rfl, rfl⟩
theorem fa_X0_114_0 : xFa RX0 114 0 26 := ⟨RX0, TX0, 28, tyX0, RX0, xcl_X0, by decide, Or.inl q365, Or.inl rfl⟩
theorem ff_X0_114_0 : xFf RX0 114 0 26 (.object "CounterDesk$Books") := ⟨RX0, TX0, 28, tyX0, RX0, xcl_X0, by decide, q365, Or.inl rfl, rfl, rfl, rfl⟩
theorem fa_X0_117_0 : xFa RX0 117 0 27 := ⟨RX0, TX0, 28, tyX0, RX0, xcl_X0, by decide, Or.inl q366, Or.inl rfl⟩
theorem fp_X0_117_0 : xFp RX0 117 0 27 .int := ⟨RX0, TX0, 28, tyX0, RX0, xcl_X0, by decide, Or.inl q366, Or.inl rfl, rfl, rfl⟩
theorem fa_X0_126_0 : xFa RX0 126 0 10 := ⟨RX0, TX0, 28, tyX0, RX0, xcl_X0, by decide, Or.inl q344, Or.inl rfl⟩
theorem fp_X0_126_0 : xFp RX0 126 0 10 .int := ⟨RX0, TX0, 28, tyX0, RX0, xcl_X0, by decide, Or.inl q344, Or.inl rfl, rfl, rfl⟩
theorem fa_X0_146_0 : xFa RX0 146 0 15 := ⟨RX0, TX0, 28, tyX0, RX0, xcl_X0, by decide, Or.inl q352, Or.inl rfl⟩
theorem fp_X0_146_0 : xFp RX0 146 0 15 .int := ⟨RX0, TX0, 28, tyX0, RX0, xcl_X0, by decide, Or.inl q352, Or.inl rfl, rfl, rfl⟩
theorem fa_X0_218_0 : xFa RX0 218 0 12 := ⟨RX0, TX0, 28, tyX0, RX0, xcl_X0, by decide, Or.inl q346, Or.inl rfl⟩
theorem fp_X0_218_0 : xFp RX0 218 0 12 .int := ⟨RX0, TX0, 28, tyX0, RX0, xcl_X0, by decide, Or.inl q346, Or.inl rfl, rfl, rfl⟩
theorem fa_X0_411_0 : xFa RX0 411 0 24 := ⟨RX0, TX0, 28, tyX0, RX0, xcl_X0, by decide, Or.inl q362, Or.inl rfl⟩
theorem fp_X0_411_0 : xFp RX0 411 0 24 .int := ⟨RX0, TX0, 28, tyX0, RX0, xcl_X0, by decide, Or.inl q362, Or.inl rfl, rfl, rfl⟩
theorem fa_X0_423_0 : xFa RX0 423 0 25 := ⟨RX0, TX0, 28, tyX0, RX0, xcl_X0, by decide, Or.inl q364, Or.inl rfl⟩
theorem fp_X0_423_0 : xFp RX0 423 0 25 .int := ⟨RX0, TX0, 28, tyX0, RX0, xcl_X0, by decide, Or.inl q364, Or.inl rfl, rfl, rfl⟩
theorem fa_X20_3_17 : xFa RX20 3 17 6 := ⟨RX20, TX20, 7, tyX20, RX20, xcl_X20, by decide, Or.inl q1149, Or.inl rfl⟩
theorem ff_X20_3_17 : xFf RX20 3 17 6 (.object "CounterDesk") := ⟨RX20, TX20, 7, tyX20, RX20, xcl_X20, by decide, q1149, Or.inl rfl, rfl, rfl, rfl⟩
theorem fa_X20_15_17 : xFa RX20 15 17 4 := ⟨RX20, TX20, 7, tyX20, RX20, xcl_X20, by decide, Or.inl q1145, Or.inl rfl⟩
theorem fp_X20_15_17 : xFp RX20 15 17 4 .int := ⟨RX20, TX20, 7, tyX20, RX20, xcl_X20, by decide, Or.inl q1145, Or.inl rfl, rfl, rfl⟩
theorem fa_X20_19_17 : xFa RX20 19 17 0 := ⟨RX20, TX20, 7, tyX20, RX20, xcl_X20, by decide, Or.inl q1140, Or.inl rfl⟩
theorem ff_X20_19_17 : xFf RX20 19 17 0 .int := ⟨RX20, TX20, 7, tyX20, RX20, xcl_X20, by decide, q1140, Or.inl rfl, rfl, rfl, rfl⟩
theorem fa_X20_22_17 : xFa RX20 22 17 1 := ⟨RX20, TX20, 7, tyX20, RX20, xcl_X20, by decide, Or.inl q1141, Or.inl rfl⟩
theorem ff_X20_22_17 : xFf RX20 22 17 1 (.object "CounterDesk$Sum") := ⟨RX20, TX20, 7, tyX20, RX20, xcl_X20, by decide, q1141, Or.inl rfl, rfl, rfl, rfl⟩
theorem fa_X20_26_17 : xFa RX20 26 17 2 := ⟨RX20, TX20, 7, tyX20, RX20, xcl_X20, by decide, Or.inl q1142, Or.inl rfl⟩
theorem ff_X20_26_17 : xFf RX20 26 17 2 (.object "CounterDesk$Sum") := ⟨RX20, TX20, 7, tyX20, RX20, xcl_X20, by decide, q1142, Or.inl rfl, rfl, rfl, rfl⟩
theorem fa_X20_66_17 : xFa RX20 66 17 5 := ⟨RX20, TX20, 7, tyX20, RX20, xcl_X20, by decide, Or.inl q1148, Or.inl rfl⟩
theorem fp_X20_66_17 : xFp RX20 66 17 5 .boolean := ⟨RX20, TX20, 7, tyX20, RX20, xcl_X20, by decide, Or.inl q1148, Or.inl rfl, rfl, rfl⟩
theorem fa_X20_95_17 : xFa RX20 95 17 3 := ⟨RX20, TX20, 7, tyX20, RX20, xcl_X20, by decide, Or.inl q1143, Or.inl rfl⟩
theorem fp_X20_95_17 : xFp RX20 95 17 3 (.object "CounterDesk$Test") := ⟨RX20, TX20, 7, tyX20, RX20, xcl_X20, by decide, Or.inl q1143, Or.inl rfl, rfl, rfl⟩
theorem fa_X11_7_9 : xFa RX11 7 9 0 := ⟨RX11, TX11, 1, tyX11, RX11, xcl_X11, by decide, Or.inl q958, Or.inl rfl⟩
theorem ff_X11_7_9 : xFf RX11 7 9 0 .int := ⟨RX11, TX11, 1, tyX11, RX11, xcl_X11, by decide, q958, Or.inl rfl, rfl, rfl, rfl⟩
theorem fa_X4_7_4 : xFa RX4 7 4 0 := ⟨RX4, TX4, 2, tyX4, RX4, xcl_X4, by decide, Or.inl q296, Or.inl rfl⟩
theorem ff_X4_7_4 : xFf RX4 7 4 0 (.array .long) := ⟨RX4, TX4, 2, tyX4, RX4, xcl_X4, by decide, q296, Or.inl rfl, rfl, rfl, rfl⟩
theorem fa_X4_13_4 : xFa RX4 13 4 1 := ⟨RX4, TX4, 2, tyX4, RX4, xcl_X4, by decide, Or.inl q301, Or.inl rfl⟩
theorem fp_X4_13_4 : xFp RX4 13 4 1 .boolean := ⟨RX4, TX4, 2, tyX4, RX4, xcl_X4, by decide, Or.inl q301, Or.inl rfl, rfl, rfl⟩
theorem fa_X2_9_2 : xFa RX2 9 2 0 := ⟨RX2, TX2, 4, tyX2, RX2, xcl_X2, by decide, Or.inl q218, Or.inl rfl⟩
theorem ff_X2_9_2 : xFf RX2 9 2 0 (.array .int) := ⟨RX2, TX2, 4, tyX2, RX2, xcl_X2, by decide, q218, Or.inl rfl, rfl, rfl, rfl⟩
theorem fa_X2_15_2 : xFa RX2 15 2 1 := ⟨RX2, TX2, 4, tyX2, RX2, xcl_X2, by decide, Or.inl q221, Or.inl rfl⟩
theorem ff_X2_15_2 : xFf RX2 15 2 1 (.array .int) := ⟨RX2, TX2, 4, tyX2, RX2, xcl_X2, by decide, q221, Or.inl rfl, rfl, rfl, rfl⟩
theorem fa_X2_24_2 : xFa RX2 24 2 2 := ⟨RX2, TX2, 4, tyX2, RX2, xcl_X2, by decide, Or.inl q225, Or.inl rfl⟩
theorem fp_X2_24_2 : xFp RX2 24 2 2 .int := ⟨RX2, TX2, 4, tyX2, RX2, xcl_X2, by decide, Or.inl q225, Or.inl rfl, rfl, rfl⟩
theorem fa_X2_28_2 : xFa RX2 28 2 3 := ⟨RX2, TX2, 4, tyX2, RX2, xcl_X2, by decide, Or.inl q227, Or.inl rfl⟩
theorem fp_X2_28_2 : xFp RX2 28 2 3 .int := ⟨RX2, TX2, 4, tyX2, RX2, xcl_X2, by decide, Or.inl q227, Or.inl rfl, rfl, rfl⟩
theorem fa_X15_7_13 : xFa RX15 7 13 0 := ⟨RX15, TX15, 4, tyX15, RX15, xcl_X15, by decide, Or.inl q1107, Or.inl rfl⟩
theorem ff_X15_7_13 : xFf RX15 7 13 0 .int := ⟨RX15, TX15, 4, tyX15, RX15, xcl_X15, by decide, q1107, Or.inl rfl, rfl, rfl, rfl⟩
theorem fa_X15_13_13 : xFa RX15 13 13 1 := ⟨RX15, TX15, 4, tyX15, RX15, xcl_X15, by decide, Or.inl q1109, Or.inl rfl⟩
theorem ff_X15_13_13 : xFf RX15 13 13 1 (.object "CounterDesk$Sum") := ⟨RX15, TX15, 4, tyX15, RX15, xcl_X15, by decide, q1109, Or.inl rfl, rfl, rfl, rfl⟩
theorem fa_X15_17_13 : xFa RX15 17 13 2 := ⟨RX15, TX15, 4, tyX15, RX15, xcl_X15, by decide, Or.inl q1110, Or.inl rfl⟩
theorem ff_X15_17_13 : xFf RX15 17 13 2 (.object "CounterDesk$Test") := ⟨RX15, TX15, 4, tyX15, RX15, xcl_X15, by decide, q1110, Or.inl rfl, rfl, rfl, rfl⟩
theorem fa_X15_38_13 : xFa RX15 38 13 3 := ⟨RX15, TX15, 4, tyX15, RX15, xcl_X15, by decide, Or.inl q1111, Or.inl rfl⟩
theorem fp_X15_38_13 : xFp RX15 38 13 3 .long := ⟨RX15, TX15, 4, tyX15, RX15, xcl_X15, by decide, Or.inl q1111, Or.inl rfl, rfl, rfl⟩
theorem fa_X17_7_14 : xFa RX17 7 14 0 := ⟨RX17, TX17, 3, tyX17, RX17, xcl_X17, by decide, Or.inl q1059, Or.inl rfl⟩
theorem ff_X17_7_14 : xFf RX17 7 14 0 (.object "CounterDesk$Sum") := ⟨RX17, TX17, 3, tyX17, RX17, xcl_X17, by decide, q1059, Or.inl rfl, rfl, rfl, rfl⟩
theorem fa_X17_13_14 : xFa RX17 13 14 2 := ⟨RX17, TX17, 3, tyX17, RX17, xcl_X17, by decide, Or.inl q1061, Or.inl rfl⟩
theorem ff_X17_13_14 : xFf RX17 13 14 2 .int := ⟨RX17, TX17, 3, tyX17, RX17, xcl_X17, by decide, q1061, Or.inl rfl, rfl, rfl, rfl⟩
theorem fa_X17_17_14 : xFa RX17 17 14 1 := ⟨RX17, TX17, 3, tyX17, RX17, xcl_X17, by decide, Or.inl q1060, Or.inl rfl⟩
theorem ff_X17_17_14 : xFf RX17 17 14 1 (.object "CounterDesk$Sum") := ⟨RX17, TX17, 3, tyX17, RX17, xcl_X17, by decide, q1060, Or.inl rfl, rfl, rfl, rfl⟩
theorem fa_X1_12_1 : xFa RX1 12 1 0 := ⟨RX1, TX1, 7, tyX1, RX1, xcl_X1, by decide, Or.inl q240, Or.inl rfl⟩
theorem ff_X1_12_1 : xFf RX1 12 1 0 (.object "java/util/ArrayList") := ⟨RX1, TX1, 7, tyX1, RX1, xcl_X1, by decide, q240, Or.inl rfl, rfl, rfl, rfl⟩
theorem fa_X1_18_1 : xFa RX1 18 1 1 := ⟨RX1, TX1, 7, tyX1, RX1, xcl_X1, by decide, Or.inl q242, Or.inl rfl⟩
theorem ff_X1_18_1 : xFf RX1 18 1 1 (.array .int) := ⟨RX1, TX1, 7, tyX1, RX1, xcl_X1, by decide, q242, Or.inl rfl, rfl, rfl, rfl⟩
theorem fa_X1_24_1 : xFa RX1 24 1 2 := ⟨RX1, TX1, 7, tyX1, RX1, xcl_X1, by decide, Or.inl q244, Or.inl rfl⟩
theorem ff_X1_24_1 : xFf RX1 24 1 2 (.array (.array .int)) := ⟨RX1, TX1, 7, tyX1, RX1, xcl_X1, by decide, q244, Or.inl rfl, rfl, rfl, rfl⟩
theorem fa_X1_30_1 : xFa RX1 30 1 3 := ⟨RX1, TX1, 7, tyX1, RX1, xcl_X1, by decide, Or.inl q246, Or.inl rfl⟩
theorem ff_X1_30_1 : xFf RX1 30 1 3 (.object "CounterDesk$Books") := ⟨RX1, TX1, 7, tyX1, RX1, xcl_X1, by decide, q246, Or.inl rfl, rfl, rfl, rfl⟩
theorem fa_X1_34_1 : xFa RX1 34 1 6 := ⟨RX1, TX1, 7, tyX1, RX1, xcl_X1, by decide, Or.inl q252, Or.inl rfl⟩
theorem fp_X1_34_1 : xFp RX1 34 1 6 .int := ⟨RX1, TX1, 7, tyX1, RX1, xcl_X1, by decide, Or.inl q252, Or.inl rfl, rfl, rfl⟩
theorem fa_X1_53_1 : xFa RX1 53 1 4 := ⟨RX1, TX1, 7, tyX1, RX1, xcl_X1, by decide, Or.inl q248, Or.inl rfl⟩
theorem fp_X1_53_1 : xFp RX1 53 1 4 .int := ⟨RX1, TX1, 7, tyX1, RX1, xcl_X1, by decide, Or.inl q248, Or.inl rfl, rfl, rfl⟩
theorem fa_X1_56_1 : xFa RX1 56 1 5 := ⟨RX1, TX1, 7, tyX1, RX1, xcl_X1, by decide, Or.inl q250, Or.inl rfl⟩
theorem fp_X1_56_1 : xFp RX1 56 1 5 .int := ⟨RX1, TX1, 7, tyX1, RX1, xcl_X1, by decide, Or.inl q250, Or.inl rfl, rfl, rfl⟩
theorem fa_X22_7_19 : xFa RX22 7 19 0 := ⟨RX22, TX22, 1, tyX22, RX22, xcl_X22, by decide, Or.inl q1540, Or.inl rfl⟩
theorem fp_X22_7_19 : xFp RX22 7 19 0 .long := ⟨RX22, TX22, 1, tyX22, RX22, xcl_X22, by decide, Or.inl q1540, Or.inl rfl, rfl, rfl⟩
theorem fa_X14_7_12 : xFa RX14 7 12 0 := ⟨RX14, TX14, 3, tyX14, RX14, xcl_X14, by decide, Or.inl q1011, Or.inl rfl⟩
theorem ff_X14_7_12 : xFf RX14 7 12 0 (.object "CounterDesk$Sum") := ⟨RX14, TX14, 3, tyX14, RX14, xcl_X14, by decide, q1011, Or.inl rfl, rfl, rfl, rfl⟩
theorem fa_X14_13_12 : xFa RX14 13 12 2 := ⟨RX14, TX14, 3, tyX14, RX14, xcl_X14, by decide, Or.inl q1013, Or.inl rfl⟩
theorem ff_X14_13_12 : xFf RX14 13 12 2 .int := ⟨RX14, TX14, 3, tyX14, RX14, xcl_X14, by decide, q1013, Or.inl rfl, rfl, rfl, rfl⟩
theorem fa_X14_17_12 : xFa RX14 17 12 1 := ⟨RX14, TX14, 3, tyX14, RX14, xcl_X14, by decide, Or.inl q1012, Or.inl rfl⟩
theorem ff_X14_17_12 : xFf RX14 17 12 1 (.object "CounterDesk$Sum") := ⟨RX14, TX14, 3, tyX14, RX14, xcl_X14, by decide, q1012, Or.inl rfl, rfl, rfl, rfl⟩
theorem fa_X8_3_7 : xFa RX8 3 7 10 := ⟨RX8, TX8, 11, tyX8, RX8, xcl_X8, by decide, Or.inl q747, Or.inl rfl⟩
theorem ff_X8_3_7 : xFf RX8 3 7 10 (.object "CounterDesk") := ⟨RX8, TX8, 11, tyX8, RX8, xcl_X8, by decide, q747, Or.inl rfl, rfl, rfl, rfl⟩
theorem fa_X8_39_7 : xFa RX8 39 7 8 := ⟨RX8, TX8, 11, tyX8, RX8, xcl_X8, by decide, Or.inl q745, Or.inl rfl⟩
theorem ff_X8_39_7 : xFf RX8 39 7 8 (.array (.object "CounterDesk$Clause")) := ⟨RX8, TX8, 11, tyX8, RX8, xcl_X8, by decide, q745, Or.inl rfl, rfl, rfl, rfl⟩
theorem fa_X8_49_7 : xFa RX8 49 7 9 := ⟨RX8, TX8, 11, tyX8, RX8, xcl_X8, by decide, Or.inl q746, Or.inl rfl⟩
theorem ff_X8_49_7 : xFf RX8 49 7 9 (.array (.object "java/lang/String")) := ⟨RX8, TX8, 11, tyX8, RX8, xcl_X8, by decide, q746, Or.inl rfl, rfl, rfl, rfl⟩
theorem fa_X18_7_15 : xFa RX18 7 15 0 := ⟨RX18, TX18, 1, tyX18, RX18, xcl_X18, by decide, Or.inl q1075, Or.inl rfl⟩
theorem ff_X18_7_15 : xFf RX18 7 15 0 (.object "CounterDesk$Test") := ⟨RX18, TX18, 1, tyX18, RX18, xcl_X18, by decide, q1075, Or.inl rfl, rfl, rfl, rfl⟩
theorem fa_X13_3_11 : xFa RX13 3 11 2 := ⟨RX13, TX13, 3, tyX13, RX13, xcl_X13, by decide, Or.inl q991, Or.inl rfl⟩
theorem ff_X13_3_11 : xFf RX13 3 11 2 (.object "CounterDesk") := ⟨RX13, TX13, 3, tyX13, RX13, xcl_X13, by decide, q991, Or.inl rfl, rfl, rfl, rfl⟩
theorem fa_X13_15_11 : xFa RX13 15 11 0 := ⟨RX13, TX13, 3, tyX13, RX13, xcl_X13, by decide, Or.inl q989, Or.inl rfl⟩
theorem ff_X13_15_11 : xFf RX13 15 11 0 .int := ⟨RX13, TX13, 3, tyX13, RX13, xcl_X13, by decide, q989, Or.inl rfl, rfl, rfl, rfl⟩
theorem fa_X13_19_11 : xFa RX13 19 11 1 := ⟨RX13, TX13, 3, tyX13, RX13, xcl_X13, by decide, Or.inl q990, Or.inl rfl⟩
theorem ff_X13_19_11 : xFf RX13 19 11 1 .int := ⟨RX13, TX13, 3, tyX13, RX13, xcl_X13, by decide, q990, Or.inl rfl, rfl, rfl, rfl⟩
theorem fa_X21_3_18 : xFa RX21 3 18 9 := ⟨RX21, TX21, 10, tyX21, RX21, xcl_X21, by decide, Or.inl q1469, Or.inl rfl⟩
theorem ff_X21_3_18 : xFf RX21 3 18 9 (.object "CounterDesk") := ⟨RX21, TX21, 10, tyX21, RX21, xcl_X21, by decide, q1469, Or.inl rfl, rfl, rfl, rfl⟩
theorem fa_X21_33_18 : xFa RX21 33 18 8 := ⟨RX21, TX21, 10, tyX21, RX21, xcl_X21, by decide, Or.inl q1468, Or.inl rfl⟩
theorem ff_X21_33_18 : xFf RX21 33 18 8 (.array (.object "CounterDesk$Act")) := ⟨RX21, TX21, 10, tyX21, RX21, xcl_X21, by decide, q1468, Or.inl rfl, rfl, rfl, rfl⟩
theorem fa_X21_59_18 : xFa RX21 59 18 0 := ⟨RX21, TX21, 10, tyX21, RX21, xcl_X21, by decide, Or.inl q749, Or.inr q750⟩
theorem fp_X21_59_18 : xFp RX21 59 18 0 .int := ⟨RX21, TX21, 10, tyX21, RX21, xcl_X21, by decide, Or.inl q749, Or.inr q750, rfl, rfl⟩
theorem fa_X21_63_18 : xFa RX21 63 18 1 := ⟨RX21, TX21, 10, tyX21, RX21, xcl_X21, by decide, Or.inl q752, Or.inr q753⟩
theorem fp_X21_63_18 : xFp RX21 63 18 1 .int := ⟨RX21, TX21, 10, tyX21, RX21, xcl_X21, by decide, Or.inl q752, Or.inr q753, rfl, rfl⟩
theorem fa_X12_7_10 : xFa RX12 7 10 0 := ⟨RX12, TX12, 1, tyX12, RX12, xcl_X12, by decide, Or.inl q975, Or.inl rfl⟩
theorem ff_X12_7_10 : xFf RX12 7 10 0 .int := ⟨RX12, TX12, 1, tyX12, RX12, xcl_X12, by decide, q975, Or.inl rfl, rfl, rfl, rfl⟩
theorem fa_X7_3_7 : xFa RX7 3 7 7 := ⟨RX8, TX8, 11, tyX8, RX7, xcl_X8, by decide, Or.inl q759, Or.inl rfl⟩
theorem ff_X7_3_7 : xFf RX7 3 7 7 (.object "CounterDesk") := ⟨RX8, TX8, 11, tyX8, RX7, xcl_X8, by decide, q759, Or.inl rfl, rfl, rfl, rfl⟩
theorem fa_X7_3_18 : xFa RX7 3 18 7 := ⟨RX21, TX21, 10, tyX21, RX7, xcl_X21, by decide, Or.inl q759, Or.inl rfl⟩
theorem ff_X7_3_18 : xFf RX7 3 18 7 (.object "CounterDesk") := ⟨RX21, TX21, 10, tyX21, RX7, xcl_X21, by decide, q759, Or.inl rfl, rfl, rfl, rfl⟩
theorem fa_X7_17_7 : xFa RX7 17 7 5 := ⟨RX8, TX8, 11, tyX8, RX7, xcl_X8, by decide, Or.inl q757, Or.inl rfl⟩
theorem ff_X7_17_7 : xFf RX7 17 7 5 (.array (.object "CounterDesk$Test")) := ⟨RX8, TX8, 11, tyX8, RX7, xcl_X8, by decide, q757, Or.inl rfl, rfl, rfl, rfl⟩
theorem fa_X7_17_18 : xFa RX7 17 18 5 := ⟨RX21, TX21, 10, tyX21, RX7, xcl_X21, by decide, Or.inl q757, Or.inl rfl⟩
theorem ff_X7_17_18 : xFf RX7 17 18 5 (.array (.object "CounterDesk$Test")) := ⟨RX21, TX21, 10, tyX21, RX7, xcl_X21, by decide, q757, Or.inl rfl, rfl, rfl, rfl⟩
theorem fa_X7_21_7 : xFa RX7 21 7 6 := ⟨RX8, TX8, 11, tyX8, RX7, xcl_X8, by decide, Or.inl q758, Or.inl rfl⟩
theorem ff_X7_21_7 : xFf RX7 21 7 6 (.array (.object "java/lang/String")) := ⟨RX8, TX8, 11, tyX8, RX7, xcl_X8, by decide, q758, Or.inl rfl, rfl, rfl, rfl⟩
theorem fa_X7_21_18 : xFa RX7 21 18 6 := ⟨RX21, TX21, 10, tyX21, RX7, xcl_X21, by decide, Or.inl q758, Or.inl rfl⟩
theorem ff_X7_21_18 : xFf RX7 21 18 6 (.array (.object "java/lang/String")) := ⟨RX21, TX21, 10, tyX21, RX7, xcl_X21, by decide, q758, Or.inl rfl, rfl, rfl, rfl⟩
theorem fa_X7_42_7 : xFa RX7 42 7 0 := ⟨RX8, TX8, 11, tyX8, RX7, xcl_X8, by decide, Or.inl q748, Or.inl rfl⟩
theorem fp_X7_42_7 : xFp RX7 42 7 0 .int := ⟨RX8, TX8, 11, tyX8, RX7, xcl_X8, by decide, Or.inl q748, Or.inl rfl, rfl, rfl⟩
theorem fa_X7_42_18 : xFa RX7 42 18 0 := ⟨RX21, TX21, 10, tyX21, RX7, xcl_X21, by decide, Or.inl q748, Or.inl rfl⟩
theorem fp_X7_42_18 : xFp RX7 42 18 0 .int := ⟨RX21, TX21, 10, tyX21, RX7, xcl_X21, by decide, Or.inl q748, Or.inl rfl, rfl, rfl⟩
theorem fa_X7_49_7 : xFa RX7 49 7 1 := ⟨RX8, TX8, 11, tyX8, RX7, xcl_X8, by decide, Or.inl q751, Or.inl rfl⟩
theorem fp_X7_49_7 : xFp RX7 49 7 1 .int := ⟨RX8, TX8, 11, tyX8, RX7, xcl_X8, by decide, Or.inl q751, Or.inl rfl, rfl, rfl⟩
theorem fa_X7_49_18 : xFa RX7 49 18 1 := ⟨RX21, TX21, 10, tyX21, RX7, xcl_X21, by decide, Or.inl q751, Or.inl rfl⟩
theorem fp_X7_49_18 : xFp RX7 49 18 1 .int := ⟨RX21, TX21, 10, tyX21, RX7, xcl_X21, by decide, Or.inl q751, Or.inl rfl, rfl, rfl⟩
theorem fa_X7_80_7 : xFa RX7 80 7 4 := ⟨RX8, TX8, 11, tyX8, RX7, xcl_X8, by decide, Or.inl q756, Or.inl rfl⟩
theorem fp_X7_80_7 : xFp RX7 80 7 4 .int := ⟨RX8, TX8, 11, tyX8, RX7, xcl_X8, by decide, Or.inl q756, Or.inl rfl, rfl, rfl⟩
theorem fa_X7_80_18 : xFa RX7 80 18 4 := ⟨RX21, TX21, 10, tyX21, RX7, xcl_X21, by decide, Or.inl q756, Or.inl rfl⟩
theorem fp_X7_80_18 : xFp RX7 80 18 4 .int := ⟨RX21, TX21, 10, tyX21, RX7, xcl_X21, by decide, Or.inl q756, Or.inl rfl, rfl, rfl⟩
theorem fa_X7_113_7 : xFa RX7 113 7 3 := ⟨RX8, TX8, 11, tyX8, RX7, xcl_X8, by decide, Or.inl q755, Or.inl rfl⟩
theorem fp_X7_113_7 : xFp RX7 113 7 3 .int := ⟨RX8, TX8, 11, tyX8, RX7, xcl_X8, by decide, Or.inl q755, Or.inl rfl, rfl, rfl⟩
theorem fa_X7_113_18 : xFa RX7 113 18 3 := ⟨RX21, TX21, 10, tyX21, RX7, xcl_X21, by decide, Or.inl q755, Or.inl rfl⟩
theorem fp_X7_113_18 : xFp RX7 113 18 3 .int := ⟨RX21, TX21, 10, tyX21, RX7, xcl_X21, by decide, Or.inl q755, Or.inl rfl, rfl, rfl⟩
theorem fa_X7_116_7 : xFa RX7 116 7 2 := ⟨RX8, TX8, 11, tyX8, RX7, xcl_X8, by decide, Or.inl q754, Or.inl rfl⟩
theorem fp_X7_116_7 : xFp RX7 116 7 2 .int := ⟨RX8, TX8, 11, tyX8, RX7, xcl_X8, by decide, Or.inl q754, Or.inl rfl, rfl, rfl⟩
theorem fa_X7_116_18 : xFa RX7 116 18 2 := ⟨RX21, TX21, 10, tyX21, RX7, xcl_X21, by decide, Or.inl q754, Or.inl rfl⟩
theorem fp_X7_116_18 : xFp RX7 116 18 2 .int := ⟨RX21, TX21, 10, tyX21, RX7, xcl_X21, by decide, Or.inl q754, Or.inl rfl, rfl, rfl⟩
theorem fa_X19_7_16 : xFa RX19 7 16 0 := ⟨RX19, TX19, 2, tyX19, RX19, xcl_X19, by decide, Or.inl q1095, Or.inl rfl⟩
theorem ff_X19_7_16 : xFf RX19 7 16 0 .boolean := ⟨RX19, TX19, 2, tyX19, RX19, xcl_X19, by decide, q1095, Or.inl rfl, rfl, rfl, rfl⟩
theorem fa_X19_13_16 : xFa RX19 13 16 1 := ⟨RX19, TX19, 2, tyX19, RX19, xcl_X19, by decide, Or.inl q1096, Or.inl rfl⟩
theorem ff_X19_13_16 : xFf RX19 13 16 1 (.array (.object "CounterDesk$Test")) := ⟨RX19, TX19, 2, tyX19, RX19, xcl_X19, by decide, q1096, Or.inl rfl, rfl, rfl, rfl⟩
theorem fa_X3_11_3 : xFa RX3 11 3 0 := ⟨RX3, TX3, 2, tyX3, RX3, xcl_X3, by decide, Or.inl q279, Or.inl rfl⟩
theorem ff_X3_11_3 : xFf RX3 11 3 0 (.array (.object "CounterDesk$Books")) := ⟨RX3, TX3, 2, tyX3, RX3, xcl_X3, by decide, q279, Or.inl rfl, rfl, rfl, rfl⟩
theorem fa_X3_18_3 : xFa RX3 18 3 1 := ⟨RX3, TX3, 2, tyX3, RX3, xcl_X3, by decide, Or.inl q281, Or.inl rfl⟩
theorem fp_X3_18_3 : xFp RX3 18 3 1 .int := ⟨RX3, TX3, 2, tyX3, RX3, xcl_X3, by decide, Or.inl q281, Or.inl rfl, rfl, rfl⟩
theorem fa_X5_7_5 : xFa RX5 7 5 0 := ⟨RX5, TX5, 1, tyX5, RX5, xcl_X5, by decide, Or.inl q321, Or.inl rfl⟩
theorem ff_X5_7_5 : xFf RX5 7 5 0 (.array (.object "CounterDesk$Clause")) := ⟨RX5, TX5, 1, tyX5, RX5, xcl_X5, by decide, q321, Or.inl rfl, rfl, rfl, rfl⟩
theorem fa_X9_7_8 : xFa RX9 7 8 6 := ⟨RX9, TX9, 7, tyX9, RX9, xcl_X9, by decide, Or.inl q829, Or.inl rfl⟩
theorem ff_X9_7_8 : xFf RX9 7 8 6 .int := ⟨RX9, TX9, 7, tyX9, RX9, xcl_X9, by decide, q829, Or.inl rfl, rfl, rfl, rfl⟩
theorem fa_J11_9_23 : xFa RJ11 9 23 0 := ⟨RJ11, TJ11, 2, tyJ11, RJ11, xcl_J11, by decide, Or.inl q2358, Or.inl rfl⟩
theorem ff_J11_9_23 : xFf RJ11 9 23 0 (.array .byte) := ⟨RJ11, TJ11, 2, tyJ11, RJ11, xcl_J11, by decide, q2358, Or.inl rfl, rfl, rfl, rfl⟩
theorem fa_J11_15_23 : xFa RJ11 15 23 1 := ⟨RJ11, TJ11, 2, tyJ11, RJ11, xcl_J11, by decide, Or.inl q2359, Or.inl rfl⟩
theorem ff_J11_15_23 : xFf RJ11 15 23 1 .byte := ⟨RJ11, TJ11, 2, tyJ11, RJ11, xcl_J11, by decide, q2359, Or.inl rfl, rfl, rfl, rfl⟩
theorem fa_J6_7_8 : xFa RJ6 7 8 0 := ⟨RX9, TX9, 7, tyX9, RJ6, xcl_X9, by decide, Or.inl q659, Or.inl rfl⟩
theorem fp_J6_7_8 : xFp RJ6 7 8 0 (.object "java/lang/Throwable") := ⟨RX9, TX9, 7, tyX9, RJ6, xcl_X9, by decide, Or.inl q659, Or.inl rfl, rfl, rfl⟩
theorem fa_J6_7_21 : xFa RJ6 7 21 0 := ⟨RJ6, TJ6, 5, tyJ6, RJ6, xcl_J6, by decide, Or.inl q659, Or.inl rfl⟩
theorem fp_J6_7_21 : xFp RJ6 7 21 0 (.object "java/lang/Throwable") := ⟨RJ6, TJ6, 5, tyJ6, RJ6, xcl_J6, by decide, Or.inl q659, Or.inl rfl, rfl, rfl⟩
theorem fa_J6_7_22 : xFa RJ6 7 22 2 := ⟨RJ10, TJ10, 6, tyJ10, RJ6, xcl_J10, by decide, Or.inl q659, Or.inl rfl⟩
theorem fp_J6_7_22 : xFp RJ6 7 22 2 (.object "java/lang/Throwable") := ⟨RJ10, TJ10, 6, tyJ10, RJ6, xcl_J10, by decide, Or.inl q659, Or.inl rfl, rfl, rfl⟩
theorem fa_J6_17_8 : xFa RJ6 17 8 1 := ⟨RX9, TX9, 7, tyX9, RJ6, xcl_X9, by decide, Or.inl q660, Or.inl rfl⟩
theorem fp_J6_17_8 : xFp RJ6 17 8 1 (.array (.object "java/lang/StackTraceElement")) := ⟨RX9, TX9, 7, tyX9, RJ6, xcl_X9, by decide, Or.inl q660, Or.inl rfl, rfl, rfl⟩
theorem fa_J6_17_21 : xFa RJ6 17 21 1 := ⟨RJ6, TJ6, 5, tyJ6, RJ6, xcl_J6, by decide, Or.inl q660, Or.inl rfl⟩
theorem fp_J6_17_21 : xFp RJ6 17 21 1 (.array (.object "java/lang/StackTraceElement")) := ⟨RJ6, TJ6, 5, tyJ6, RJ6, xcl_J6, by decide, Or.inl q660, Or.inl rfl, rfl, rfl⟩
theorem fa_J6_17_22 : xFa RJ6 17 22 3 := ⟨RJ10, TJ10, 6, tyJ10, RJ6, xcl_J10, by decide, Or.inl q660, Or.inl rfl⟩
theorem fp_J6_17_22 : xFp RJ6 17 22 3 (.array (.object "java/lang/StackTraceElement")) := ⟨RJ10, TJ10, 6, tyJ10, RJ6, xcl_J10, by decide, Or.inl q660, Or.inl rfl, rfl, rfl⟩
theorem fa_J6_24_8 : xFa RJ6 24 8 2 := ⟨RX9, TX9, 7, tyX9, RJ6, xcl_X9, by decide, Or.inl q661, Or.inl rfl⟩
theorem fp_J6_24_8 : xFp RJ6 24 8 2 (.object "java/util/List") := ⟨RX9, TX9, 7, tyX9, RJ6, xcl_X9, by decide, Or.inl q661, Or.inl rfl, rfl, rfl⟩
theorem fa_J6_24_21 : xFa RJ6 24 21 2 := ⟨RJ6, TJ6, 5, tyJ6, RJ6, xcl_J6, by decide, Or.inl q661, Or.inl rfl⟩
theorem fp_J6_24_21 : xFp RJ6 24 21 2 (.object "java/util/List") := ⟨RJ6, TJ6, 5, tyJ6, RJ6, xcl_J6, by decide, Or.inl q661, Or.inl rfl, rfl, rfl⟩
theorem fa_J6_24_22 : xFa RJ6 24 22 5 := ⟨RJ10, TJ10, 6, tyJ10, RJ6, xcl_J10, by decide, Or.inl q661, Or.inl rfl⟩
theorem fp_J6_24_22 : xFp RJ6 24 22 5 (.object "java/util/List") := ⟨RJ10, TJ10, 6, tyJ10, RJ6, xcl_J10, by decide, Or.inl q661, Or.inl rfl, rfl, rfl⟩
theorem fa_J6_31_8 : xFa RJ6 31 8 3 := ⟨RX9, TX9, 7, tyX9, RJ6, xcl_X9, by decide, Or.inl q658, Or.inl rfl⟩
theorem fp_J6_31_8 : xFp RJ6 31 8 3 (.object "java/lang/String") := ⟨RX9, TX9, 7, tyX9, RJ6, xcl_X9, by decide, Or.inl q658, Or.inl rfl, rfl, rfl⟩
theorem fa_J6_31_21 : xFa RJ6 31 21 3 := ⟨RJ6, TJ6, 5, tyJ6, RJ6, xcl_J6, by decide, Or.inl q658, Or.inl rfl⟩
theorem fp_J6_31_21 : xFp RJ6 31 21 3 (.object "java/lang/String") := ⟨RJ6, TJ6, 5, tyJ6, RJ6, xcl_J6, by decide, Or.inl q658, Or.inl rfl, rfl, rfl⟩
theorem fa_J6_31_22 : xFa RJ6 31 22 1 := ⟨RJ10, TJ10, 6, tyJ10, RJ6, xcl_J10, by decide, Or.inl q658, Or.inl rfl⟩
theorem fp_J6_31_22 : xFp RJ6 31 22 1 (.object "java/lang/String") := ⟨RJ10, TJ10, 6, tyJ10, RJ6, xcl_J10, by decide, Or.inl q658, Or.inl rfl, rfl, rfl⟩
theorem fa_J6_198_8 : xFa RJ6 198 8 4 := ⟨RX9, TX9, 7, tyX9, RJ6, xcl_X9, by decide, Or.inl q690, Or.inl rfl⟩
theorem fp_J6_198_8 : xFp RJ6 198 8 4 (.object "java/lang/Object") := ⟨RX9, TX9, 7, tyX9, RJ6, xcl_X9, by decide, Or.inl q690, Or.inl rfl, rfl, rfl⟩
theorem fa_J6_198_21 : xFa RJ6 198 21 4 := ⟨RJ6, TJ6, 5, tyJ6, RJ6, xcl_J6, by decide, Or.inl q690, Or.inl rfl⟩
theorem fp_J6_198_21 : xFp RJ6 198 21 4 (.object "java/lang/Object") := ⟨RJ6, TJ6, 5, tyJ6, RJ6, xcl_J6, by decide, Or.inl q690, Or.inl rfl, rfl, rfl⟩
theorem fa_J6_198_22 : xFa RJ6 198 22 0 := ⟨RJ10, TJ10, 6, tyJ10, RJ6, xcl_J10, by decide, Or.inl q690, Or.inl rfl⟩
theorem fp_J6_198_22 : xFp RJ6 198 22 0 (.object "java/lang/Object") := ⟨RJ10, TJ10, 6, tyJ10, RJ6, xcl_J10, by decide, Or.inl q690, Or.inl rfl, rfl, rfl⟩
theorem fa_J1_7_20 : xFa RJ1 7 20 0 := ⟨RJ2, TJ2, 3, tyJ2, RJ1, xcl_J2, by decide, Or.inl q200, Or.inl rfl⟩
theorem fp_J1_7_20 : xFp RJ1 7 20 0 .int := ⟨RJ2, TJ2, 3, tyJ2, RJ1, xcl_J2, by decide, Or.inl q200, Or.inl rfl, rfl, rfl⟩
theorem fa_J2_9_20 : xFa RJ2 9 20 1 := ⟨RJ2, TJ2, 3, tyJ2, RJ2, xcl_J2, by decide, Or.inl q198, Or.inl rfl⟩
theorem fp_J2_9_20 : xFp RJ2 9 20 1 (.array (.object "java/lang/Object")) := ⟨RJ2, TJ2, 3, tyJ2, RJ2, xcl_J2, by decide, Or.inl q198, Or.inl rfl, rfl, rfl⟩
theorem fa_J2_48_20 : xFa RJ2 48 20 2 := ⟨RJ2, TJ2, 3, tyJ2, RJ2, xcl_J2, by decide, Or.inl q199, Or.inl rfl⟩
theorem fp_J2_48_20 : xFp RJ2 48 20 2 .int := ⟨RJ2, TJ2, 3, tyJ2, RJ2, xcl_J2, by decide, Or.inl q199, Or.inl rfl, rfl, rfl⟩
theorem fa_J2_63_20 : xFa RJ2 63 20 0 := ⟨RJ2, TJ2, 3, tyJ2, RJ2, xcl_J2, by decide, Or.inl q201, Or.inr q202⟩
theorem fp_J2_63_20 : xFp RJ2 63 20 0 .int := ⟨RJ2, TJ2, 3, tyJ2, RJ2, xcl_J2, by decide, Or.inl q201, Or.inr q202, rfl, rfl⟩
theorem fa_X0_129_3 : xFa RX0 129 3 1 := ⟨RX3, TX3, 2, tyX3, RX3, xcl_X3, by decide, Or.inr ⟨_, xnw_of q282 rfl⟩, Or.inl rfl⟩
theorem fp_X0_129_3 : xFp RX0 129 3 1 .int := ⟨RX3, TX3, 2, tyX3, RX3, xcl_X3, by decide, Or.inr ⟨_, xnw_of q282 rfl⟩, Or.inl rfl, rfl, rfl⟩
theorem fa_X0_136_1 : xFa RX0 136 1 3 := ⟨RX1, TX1, 7, tyX1, RX1, xcl_X1, by decide, Or.inr ⟨_, xnw_of q247 rfl⟩, Or.inl rfl⟩
theorem fa_X0_139_1 : xFa RX0 139 1 4 := ⟨RX1, TX1, 7, tyX1, RX1, xcl_X1, by decide, Or.inr ⟨_, xnw_of q249 rfl⟩, Or.inl rfl⟩
theorem fp_X0_139_1 : xFp RX0 139 1 4 .int := ⟨RX1, TX1, 7, tyX1, RX1, xcl_X1, by decide, Or.inr ⟨_, xnw_of q249 rfl⟩, Or.inl rfl, rfl, rfl⟩
theorem fa_X0_160_2 : xFa RX0 160 2 0 := ⟨RX2, TX2, 4, tyX2, RX2, xcl_X2, by decide, Or.inr ⟨_, xnw_of q220 rfl⟩, Or.inl rfl⟩
theorem fa_X0_163_2 : xFa RX0 163 2 1 := ⟨RX2, TX2, 4, tyX2, RX2, xcl_X2, by decide, Or.inr ⟨_, xnw_of q223 rfl⟩, Or.inl rfl⟩
theorem fa_X0_196_2 : xFa RX0 196 2 2 := ⟨RX2, TX2, 4, tyX2, RX2, xcl_X2, by decide, Or.inr ⟨_, xnw_of q226 rfl⟩, Or.inl rfl⟩
theorem fp_X0_196_2 : xFp RX0 196 2 2 .int := ⟨RX2, TX2, 4, tyX2, RX2, xcl_X2, by decide, Or.inr ⟨_, xnw_of q226 rfl⟩, Or.inl rfl, rfl, rfl⟩
theorem fa_X0_199_1 : xFa RX0 199 1 1 := ⟨RX1, TX1, 7, tyX1, RX1, xcl_X1, by decide, Or.inr ⟨_, xnw_of q243 rfl⟩, Or.inl rfl⟩
theorem fa_X0_227_1 : xFa RX0 227 1 0 := ⟨RX1, TX1, 7, tyX1, RX1, xcl_X1, by decide, Or.inr ⟨_, xnw_of q241 rfl⟩, Or.inl rfl⟩
theorem fa_X0_251_8 : xFa RX0 251 8 6 := ⟨RX9, TX9, 7, tyX9, RX9, xcl_X9, by decide, Or.inr ⟨_, xnw_of q830 rfl⟩, Or.inl rfl⟩
theorem fa_X0_257_1 : xFa RX0 257 1 6 := ⟨RX1, TX1, 7, tyX1, RX1, xcl_X1, by decide, Or.inr ⟨_, xnw_of q253 rfl⟩, Or.inl rfl⟩
theorem fp_X0_257_1 : xFp RX0 257 1 6 .int := ⟨RX1, TX1, 7, tyX1, RX1, xcl_X1, by decide, Or.inr ⟨_, xnw_of q253 rfl⟩, Or.inl rfl, rfl, rfl⟩
theorem fa_X0_264_4 : xFa RX0 264 4 0 := ⟨RX4, TX4, 2, tyX4, RX4, xcl_X4, by decide, Or.inr ⟨_, xnw_of q299 rfl⟩, Or.inl rfl⟩
theorem fa_X0_325_3 : xFa RX0 325 3 0 := ⟨RX3, TX3, 2, tyX3, RX3, xcl_X3, by decide, Or.inr ⟨_, xnw_of q280 rfl⟩, Or.inl rfl⟩
theorem fa_X0_333_2 : xFa RX0 333 2 3 := ⟨RX2, TX2, 4, tyX2, RX2, xcl_X2, by decide, Or.inr ⟨_, xnw_of q229 rfl⟩, Or.inl rfl⟩
theorem fp_X0_333_2 : xFp RX0 333 2 3 .int := ⟨RX2, TX2, 4, tyX2, RX2, xcl_X2, by decide, Or.inr ⟨_, xnw_of q229 rfl⟩, Or.inl rfl, rfl, rfl⟩
theorem fa_X0_378_1 : xFa RX0 378 1 5 := ⟨RX1, TX1, 7, tyX1, RX1, xcl_X1, by decide, Or.inr ⟨_, xnw_of q251 rfl⟩, Or.inl rfl⟩
theorem fp_X0_378_1 : xFp RX0 378 1 5 .int := ⟨RX1, TX1, 7, tyX1, RX1, xcl_X1, by decide, Or.inr ⟨_, xnw_of q251 rfl⟩, Or.inl rfl, rfl, rfl⟩
theorem fa_X0_381_1 : xFa RX0 381 1 2 := ⟨RX1, TX1, 7, tyX1, RX1, xcl_X1, by decide, Or.inr ⟨_, xnw_of q245 rfl⟩, Or.inl rfl⟩
theorem fa_X0_403_17 : xFa RX0 403 17 4 := ⟨RX20, TX20, 7, tyX20, RX20, xcl_X20, by decide, Or.inr ⟨_, xnw_of q1147 rfl⟩, Or.inl rfl⟩
theorem fp_X0_403_17 : xFp RX0 403 17 4 .int := ⟨RX20, TX20, 7, tyX20, RX20, xcl_X20, by decide, Or.inr ⟨_, xnw_of q1147 rfl⟩, Or.inl rfl, rfl, rfl⟩
theorem fa_X20_29_0 : xFa RX20 29 0 7 := ⟨RX0, TX0, 28, tyX0, RX0, xcl_X0, by decide, Or.inr ⟨_, xnw_of q340 rfl⟩, Or.inl rfl⟩
theorem fa_X20_33_4 : xFa RX20 33 4 0 := ⟨RX4, TX4, 2, tyX4, RX4, xcl_X4, by decide, Or.inr ⟨_, xnw_of q298 rfl⟩, Or.inl rfl⟩
theorem fa_X20_43_2 : xFa RX20 43 2 2 := ⟨RX2, TX2, 4, tyX2, RX2, xcl_X2, by decide, Or.inr ⟨_, xnw_of q224 rfl⟩, Or.inl rfl⟩
theorem fp_X20_43_2 : xFp RX20 43 2 2 .int := ⟨RX2, TX2, 4, tyX2, RX2, xcl_X2, by decide, Or.inr ⟨_, xnw_of q224 rfl⟩, Or.inl rfl, rfl, rfl⟩
theorem fa_X20_48_0 : xFa RX20 48 0 24 := ⟨RX0, TX0, 28, tyX0, RX0, xcl_X0, by decide, Or.inr ⟨_, xnw_of q361 rfl⟩, Or.inl rfl⟩
theorem fp_X20_48_0 : xFp RX20 48 0 24 .int := ⟨RX0, TX0, 28, tyX0, RX0, xcl_X0, by decide, Or.inr ⟨_, xnw_of q361 rfl⟩, Or.inl rfl, rfl, rfl⟩
theorem fa_X20_51_0 : xFa RX20 51 0 25 := ⟨RX0, TX0, 28, tyX0, RX0, xcl_X0, by decide, Or.inr ⟨_, xnw_of q363 rfl⟩, Or.inl rfl⟩
theorem fp_X20_51_0 : xFp RX20 51 0 25 .int := ⟨RX0, TX0, 28, tyX0, RX0, xcl_X0, by decide, Or.inr ⟨_, xnw_of q363 rfl⟩, Or.inl rfl, rfl, rfl⟩
theorem fa_X20_62_4 : xFa RX20 62 4 1 := ⟨RX4, TX4, 2, tyX4, RX4, xcl_X4, by decide, Or.inr ⟨_, xnw_of q306 rfl⟩, Or.inl rfl⟩
theorem fp_X20_62_4 : xFp RX20 62 4 1 .boolean := ⟨RX4, TX4, 2, tyX4, RX4, xcl_X4, by decide, Or.inr ⟨_, xnw_of q306 rfl⟩, Or.inl rfl, rfl, rfl⟩
theorem fa_X15_21_4 : xFa RX15 21 4 1 := ⟨RX4, TX4, 2, tyX4, RX4, xcl_X4, by decide, Or.inr ⟨_, xnw_of q300 rfl⟩, Or.inl rfl⟩
theorem fp_X15_21_4 : xFp RX15 21 4 1 .boolean := ⟨RX4, TX4, 2, tyX4, RX4, xcl_X4, by decide, Or.inr ⟨_, xnw_of q300 rfl⟩, Or.inl rfl, rfl, rfl⟩
theorem fa_X17_26_4 : xFa RX17 26 4 1 := ⟨RX4, TX4, 2, tyX4, RX4, xcl_X4, by decide, Or.inr ⟨_, xnw_of q303 rfl⟩, Or.inl rfl⟩
theorem fp_X17_26_4 : xFp RX17 26 4 1 .boolean := ⟨RX4, TX4, 2, tyX4, RX4, xcl_X4, by decide, Or.inr ⟨_, xnw_of q303 rfl⟩, Or.inl rfl, rfl, rfl⟩
theorem fa_X14_24_4 : xFa RX14 24 4 1 := ⟨RX4, TX4, 2, tyX4, RX4, xcl_X4, by decide, Or.inr ⟨_, xnw_of q302 rfl⟩, Or.inl rfl⟩
theorem fp_X14_24_4 : xFp RX14 24 4 1 .boolean := ⟨RX4, TX4, 2, tyX4, RX4, xcl_X4, by decide, Or.inr ⟨_, xnw_of q302 rfl⟩, Or.inl rfl, rfl, rfl⟩
theorem fa_X18_17_4 : xFa RX18 17 4 1 := ⟨RX4, TX4, 2, tyX4, RX4, xcl_X4, by decide, Or.inr ⟨_, xnw_of q304 rfl⟩, Or.inl rfl⟩
theorem fp_X18_17_4 : xFp RX18 17 4 1 .boolean := ⟨RX4, TX4, 2, tyX4, RX4, xcl_X4, by decide, Or.inr ⟨_, xnw_of q304 rfl⟩, Or.inl rfl, rfl, rfl⟩
theorem fa_X13_34_2 : xFa RX13 34 2 1 := ⟨RX2, TX2, 4, tyX2, RX2, xcl_X2, by decide, Or.inr ⟨_, xnw_of q222 rfl⟩, Or.inl rfl⟩
theorem fa_X13_40_2 : xFa RX13 40 2 0 := ⟨RX2, TX2, 4, tyX2, RX2, xcl_X2, by decide, Or.inr ⟨_, xnw_of q219 rfl⟩, Or.inl rfl⟩
theorem fa_X21_66_0 : xFa RX21 66 0 14 := ⟨RX0, TX0, 28, tyX0, RX0, xcl_X0, by decide, Or.inr ⟨_, xnw_of q349 rfl⟩, Or.inl rfl⟩
theorem fa_X21_112_17 : xFa RX21 112 17 4 := ⟨RX20, TX20, 7, tyX20, RX20, xcl_X20, by decide, Or.inr ⟨_, xnw_of q1146 rfl⟩, Or.inl rfl⟩
theorem fp_X21_112_17 : xFp RX21 112 17 4 .int := ⟨RX20, TX20, 7, tyX20, RX20, xcl_X20, by decide, Or.inr ⟨_, xnw_of q1146 rfl⟩, Or.inl rfl, rfl, rfl⟩
theorem fa_X21_120_17 : xFa RX21 120 17 3 := ⟨RX20, TX20, 7, tyX20, RX20, xcl_X20, by decide, Or.inr ⟨_, xnw_of q1144 rfl⟩, Or.inl rfl⟩
theorem fp_X21_120_17 : xFp RX21 120 17 3 (.object "CounterDesk$Test") := ⟨RX20, TX20, 7, tyX20, RX20, xcl_X20, by decide, Or.inr ⟨_, xnw_of q1144 rfl⟩, Or.inl rfl, rfl, rfl⟩
theorem fa_X12_13_4 : xFa RX12 13 4 0 := ⟨RX4, TX4, 2, tyX4, RX4, xcl_X4, by decide, Or.inr ⟨_, xnw_of q297 rfl⟩, Or.inl rfl⟩
theorem fa_X7_46_0 : xFa RX7 46 0 15 := ⟨RX0, TX0, 28, tyX0, RX0, xcl_X0, by decide, Or.inr ⟨_, xnw_of q351 rfl⟩, Or.inl rfl⟩
theorem fp_X7_46_0 : xFp RX7 46 0 15 .int := ⟨RX0, TX0, 28, tyX0, RX0, xcl_X0, by decide, Or.inr ⟨_, xnw_of q351 rfl⟩, Or.inl rfl, rfl, rfl⟩
theorem fa_X7_52_0 : xFa RX7 52 0 14 := ⟨RX0, TX0, 28, tyX0, RX0, xcl_X0, by decide, Or.inr ⟨_, xnw_of q348 rfl⟩, Or.inl rfl⟩
theorem fa_X19_21_4 : xFa RX19 21 4 1 := ⟨RX4, TX4, 2, tyX4, RX4, xcl_X4, by decide, Or.inr ⟨_, xnw_of q305 rfl⟩, Or.inl rfl⟩
theorem fp_X19_21_4 : xFp RX19 21 4 1 .boolean := ⟨RX4, TX4, 2, tyX4, RX4, xcl_X4, by decide, Or.inr ⟨_, xnw_of q305 rfl⟩, Or.inl rfl, rfl, rfl⟩
theorem fa_X3_32_2 : xFa RX3 32 2 3 := ⟨RX2, TX2, 4, tyX2, RX2, xcl_X2, by decide, Or.inr ⟨_, xnw_of q228 rfl⟩, Or.inl rfl⟩
theorem fp_X3_32_2 : xFp RX3 32 2 3 .int := ⟨RX2, TX2, 4, tyX2, RX2, xcl_X2, by decide, Or.inr ⟨_, xnw_of q228 rfl⟩, Or.inl rfl, rfl, rfl⟩
theorem fa_X5_13_13 : xFa RX5 13 13 0 := ⟨RX15, TX15, 4, tyX15, RX15, xcl_X15, by decide, Or.inr ⟨_, xnw_of q1108 rfl⟩, Or.inl rfl⟩
theorem fa_X5_23_13 : xFa RX5 23 13 3 := ⟨RX15, TX15, 4, tyX15, RX15, xcl_X15, by decide, Or.inr ⟨_, xnw_of q1112 rfl⟩, Or.inl rfl⟩
theorem fp_X5_23_13 : xFp RX5 23 13 3 .long := ⟨RX15, TX15, 4, tyX15, RX15, xcl_X15, by decide, Or.inr ⟨_, xnw_of q1112 rfl⟩, Or.inl rfl, rfl, rfl⟩
theorem df_X0 : ∀ j, j < 28 → (tk 0 j = 0 ∧ defaultValue (tyX0 j) = .int 0) ∨ (tk 0 j = 1 ∧ defaultValue (tyX0 j) = .long 0) ∨ (tk 0 j = 2 ∧ defaultValue (tyX0 j) = .null) := by
  intro j hj
  match j, hj with
  | 0, _ => exact Or.inr (Or.inr ⟨rfl, rfl⟩)
  | 1, _ => exact Or.inr (Or.inr ⟨rfl, rfl⟩)
  | 2, _ => exact Or.inr (Or.inr ⟨rfl, rfl⟩)
  | 3, _ => exact Or.inr (Or.inr ⟨rfl, rfl⟩)
  | 4, _ => exact Or.inr (Or.inr ⟨rfl, rfl⟩)
  | 5, _ => exact Or.inr (Or.inr ⟨rfl, rfl⟩)
  | 6, _ => exact Or.inr (Or.inr ⟨rfl, rfl⟩)
  | 7, _ => exact Or.inr (Or.inr ⟨rfl, rfl⟩)
  | 8, _ => exact Or.inr (Or.inr ⟨rfl, rfl⟩)
  | 9, _ => exact Or.inr (Or.inr ⟨rfl, rfl⟩)
  | 10, _ => exact Or.inl ⟨rfl, rfl⟩
  | 11, _ => exact Or.inl ⟨rfl, rfl⟩
  | 12, _ => exact Or.inl ⟨rfl, rfl⟩
  | 13, _ => exact Or.inl ⟨rfl, rfl⟩
  | 14, _ => exact Or.inr (Or.inr ⟨rfl, rfl⟩)
  | 15, _ => exact Or.inl ⟨rfl, rfl⟩
  | 16, _ => exact Or.inr (Or.inr ⟨rfl, rfl⟩)
  | 17, _ => exact Or.inr (Or.inr ⟨rfl, rfl⟩)
  | 18, _ => exact Or.inr (Or.inr ⟨rfl, rfl⟩)
  | 19, _ => exact Or.inr (Or.inr ⟨rfl, rfl⟩)
  | 20, _ => exact Or.inr (Or.inr ⟨rfl, rfl⟩)
  | 21, _ => exact Or.inr (Or.inr ⟨rfl, rfl⟩)
  | 22, _ => exact Or.inr (Or.inr ⟨rfl, rfl⟩)
  | 23, _ => exact Or.inr (Or.inr ⟨rfl, rfl⟩)
  | 24, _ => exact Or.inl ⟨rfl, rfl⟩
  | 25, _ => exact Or.inl ⟨rfl, rfl⟩
  | 26, _ => exact Or.inr (Or.inr ⟨rfl, rfl⟩)
  | 27, _ => exact Or.inl ⟨rfl, rfl⟩
  | j + 28, hj => omega
theorem df_X1 : ∀ j, j < 7 → (tk 1 j = 0 ∧ defaultValue (tyX1 j) = .int 0) ∨ (tk 1 j = 1 ∧ defaultValue (tyX1 j) = .long 0) ∨ (tk 1 j = 2 ∧ defaultValue (tyX1 j) = .null) := by
  intro j hj
  match j, hj with
  | 0, _ => exact Or.inr (Or.inr ⟨rfl, rfl⟩)
  | 1, _ => exact Or.inr (Or.inr ⟨rfl, rfl⟩)
  | 2, _ => exact Or.inr (Or.inr ⟨rfl, rfl⟩)
  | 3, _ => exact Or.inr (Or.inr ⟨rfl, rfl⟩)
  | 4, _ => exact Or.inl ⟨rfl, rfl⟩
  | 5, _ => exact Or.inl ⟨rfl, rfl⟩
  | 6, _ => exact Or.inl ⟨rfl, rfl⟩
  | j + 7, hj => omega
theorem df_X2 : ∀ j, j < 4 → (tk 2 j = 0 ∧ defaultValue (tyX2 j) = .int 0) ∨ (tk 2 j = 1 ∧ defaultValue (tyX2 j) = .long 0) ∨ (tk 2 j = 2 ∧ defaultValue (tyX2 j) = .null) := by
  intro j hj
  match j, hj with
  | 0, _ => exact Or.inr (Or.inr ⟨rfl, rfl⟩)
  | 1, _ => exact Or.inr (Or.inr ⟨rfl, rfl⟩)
  | 2, _ => exact Or.inl ⟨rfl, rfl⟩
  | 3, _ => exact Or.inl ⟨rfl, rfl⟩
  | j + 4, hj => omega
theorem df_X3 : ∀ j, j < 2 → (tk 3 j = 0 ∧ defaultValue (tyX3 j) = .int 0) ∨ (tk 3 j = 1 ∧ defaultValue (tyX3 j) = .long 0) ∨ (tk 3 j = 2 ∧ defaultValue (tyX3 j) = .null) := by
  intro j hj
  match j, hj with
  | 0, _ => exact Or.inr (Or.inr ⟨rfl, rfl⟩)
  | 1, _ => exact Or.inl ⟨rfl, rfl⟩
  | j + 2, hj => omega
theorem df_X4 : ∀ j, j < 2 → (tk 4 j = 0 ∧ defaultValue (tyX4 j) = .int 0) ∨ (tk 4 j = 1 ∧ defaultValue (tyX4 j) = .long 0) ∨ (tk 4 j = 2 ∧ defaultValue (tyX4 j) = .null) := by
  intro j hj
  match j, hj with
  | 0, _ => exact Or.inr (Or.inr ⟨rfl, rfl⟩)
  | 1, _ => exact Or.inl ⟨rfl, rfl⟩
  | j + 2, hj => omega
theorem df_X5 : ∀ j, j < 1 → (tk 5 j = 0 ∧ defaultValue (tyX5 j) = .int 0) ∨ (tk 5 j = 1 ∧ defaultValue (tyX5 j) = .long 0) ∨ (tk 5 j = 2 ∧ defaultValue (tyX5 j) = .null) := by
  intro j hj
  match j, hj with
  | 0, _ => exact Or.inr (Or.inr ⟨rfl, rfl⟩)
  | j + 1, hj => omega
theorem df_X8 : ∀ j, j < 11 → (tk 7 j = 0 ∧ defaultValue (tyX8 j) = .int 0) ∨ (tk 7 j = 1 ∧ defaultValue (tyX8 j) = .long 0) ∨ (tk 7 j = 2 ∧ defaultValue (tyX8 j) = .null) := by
  intro j hj
  match j, hj with
  | 0, _ => exact Or.inl ⟨rfl, rfl⟩
  | 1, _ => exact Or.inl ⟨rfl, rfl⟩
  | 2, _ => exact Or.inl ⟨rfl, rfl⟩
  | 3, _ => exact Or.inl ⟨rfl, rfl⟩
  | 4, _ => exact Or.inl ⟨rfl, rfl⟩
  | 5, _ => exact Or.inr (Or.inr ⟨rfl, rfl⟩)
  | 6, _ => exact Or.inr (Or.inr ⟨rfl, rfl⟩)
  | 7, _ => exact Or.inr (Or.inr ⟨rfl, rfl⟩)
  | 8, _ => exact Or.inr (Or.inr ⟨rfl, rfl⟩)
  | 9, _ => exact Or.inr (Or.inr ⟨rfl, rfl⟩)
  | 10, _ => exact Or.inr (Or.inr ⟨rfl, rfl⟩)
  | j + 11, hj => omega
theorem df_X9 : ∀ j, j < 7 → (tk 8 j = 0 ∧ defaultValue (tyX9 j) = .int 0) ∨ (tk 8 j = 1 ∧ defaultValue (tyX9 j) = .long 0) ∨ (tk 8 j = 2 ∧ defaultValue (tyX9 j) = .null) := by
  intro j hj
  match j, hj with
  | 0, _ => exact Or.inr (Or.inr ⟨rfl, rfl⟩)
  | 1, _ => exact Or.inr (Or.inr ⟨rfl, rfl⟩)
  | 2, _ => exact Or.inr (Or.inr ⟨rfl, rfl⟩)
  | 3, _ => exact Or.inr (Or.inr ⟨rfl, rfl⟩)
  | 4, _ => exact Or.inr (Or.inr ⟨rfl, rfl⟩)
  | 5, _ => exact Or.inl ⟨rfl, rfl⟩
  | 6, _ => exact Or.inl ⟨rfl, rfl⟩
  | j + 7, hj => omega
theorem df_X11 : ∀ j, j < 1 → (tk 9 j = 0 ∧ defaultValue (tyX11 j) = .int 0) ∨ (tk 9 j = 1 ∧ defaultValue (tyX11 j) = .long 0) ∨ (tk 9 j = 2 ∧ defaultValue (tyX11 j) = .null) := by
  intro j hj
  match j, hj with
  | 0, _ => exact Or.inl ⟨rfl, rfl⟩
  | j + 1, hj => omega
theorem df_X12 : ∀ j, j < 1 → (tk 10 j = 0 ∧ defaultValue (tyX12 j) = .int 0) ∨ (tk 10 j = 1 ∧ defaultValue (tyX12 j) = .long 0) ∨ (tk 10 j = 2 ∧ defaultValue (tyX12 j) = .null) := by
  intro j hj
  match j, hj with
  | 0, _ => exact Or.inl ⟨rfl, rfl⟩
  | j + 1, hj => omega
theorem df_X13 : ∀ j, j < 3 → (tk 11 j = 0 ∧ defaultValue (tyX13 j) = .int 0) ∨ (tk 11 j = 1 ∧ defaultValue (tyX13 j) = .long 0) ∨ (tk 11 j = 2 ∧ defaultValue (tyX13 j) = .null) := by
  intro j hj
  match j, hj with
  | 0, _ => exact Or.inl ⟨rfl, rfl⟩
  | 1, _ => exact Or.inl ⟨rfl, rfl⟩
  | 2, _ => exact Or.inr (Or.inr ⟨rfl, rfl⟩)
  | j + 3, hj => omega
theorem df_X14 : ∀ j, j < 3 → (tk 12 j = 0 ∧ defaultValue (tyX14 j) = .int 0) ∨ (tk 12 j = 1 ∧ defaultValue (tyX14 j) = .long 0) ∨ (tk 12 j = 2 ∧ defaultValue (tyX14 j) = .null) := by
  intro j hj
  match j, hj with
  | 0, _ => exact Or.inr (Or.inr ⟨rfl, rfl⟩)
  | 1, _ => exact Or.inr (Or.inr ⟨rfl, rfl⟩)
  | 2, _ => exact Or.inl ⟨rfl, rfl⟩
  | j + 3, hj => omega
theorem df_X15 : ∀ j, j < 4 → (tk 13 j = 0 ∧ defaultValue (tyX15 j) = .int 0) ∨ (tk 13 j = 1 ∧ defaultValue (tyX15 j) = .long 0) ∨ (tk 13 j = 2 ∧ defaultValue (tyX15 j) = .null) := by
  intro j hj
  match j, hj with
  | 0, _ => exact Or.inl ⟨rfl, rfl⟩
  | 1, _ => exact Or.inr (Or.inr ⟨rfl, rfl⟩)
  | 2, _ => exact Or.inr (Or.inr ⟨rfl, rfl⟩)
  | 3, _ => exact Or.inr (Or.inl ⟨rfl, rfl⟩)
  | j + 4, hj => omega
theorem df_X17 : ∀ j, j < 3 → (tk 14 j = 0 ∧ defaultValue (tyX17 j) = .int 0) ∨ (tk 14 j = 1 ∧ defaultValue (tyX17 j) = .long 0) ∨ (tk 14 j = 2 ∧ defaultValue (tyX17 j) = .null) := by
  intro j hj
  match j, hj with
  | 0, _ => exact Or.inr (Or.inr ⟨rfl, rfl⟩)
  | 1, _ => exact Or.inr (Or.inr ⟨rfl, rfl⟩)
  | 2, _ => exact Or.inl ⟨rfl, rfl⟩
  | j + 3, hj => omega
theorem df_X18 : ∀ j, j < 1 → (tk 15 j = 0 ∧ defaultValue (tyX18 j) = .int 0) ∨ (tk 15 j = 1 ∧ defaultValue (tyX18 j) = .long 0) ∨ (tk 15 j = 2 ∧ defaultValue (tyX18 j) = .null) := by
  intro j hj
  match j, hj with
  | 0, _ => exact Or.inr (Or.inr ⟨rfl, rfl⟩)
  | j + 1, hj => omega
theorem df_X19 : ∀ j, j < 2 → (tk 16 j = 0 ∧ defaultValue (tyX19 j) = .int 0) ∨ (tk 16 j = 1 ∧ defaultValue (tyX19 j) = .long 0) ∨ (tk 16 j = 2 ∧ defaultValue (tyX19 j) = .null) := by
  intro j hj
  match j, hj with
  | 0, _ => exact Or.inl ⟨rfl, rfl⟩
  | 1, _ => exact Or.inr (Or.inr ⟨rfl, rfl⟩)
  | j + 2, hj => omega
theorem df_X20 : ∀ j, j < 7 → (tk 17 j = 0 ∧ defaultValue (tyX20 j) = .int 0) ∨ (tk 17 j = 1 ∧ defaultValue (tyX20 j) = .long 0) ∨ (tk 17 j = 2 ∧ defaultValue (tyX20 j) = .null) := by
  intro j hj
  match j, hj with
  | 0, _ => exact Or.inl ⟨rfl, rfl⟩
  | 1, _ => exact Or.inr (Or.inr ⟨rfl, rfl⟩)
  | 2, _ => exact Or.inr (Or.inr ⟨rfl, rfl⟩)
  | 3, _ => exact Or.inr (Or.inr ⟨rfl, rfl⟩)
  | 4, _ => exact Or.inl ⟨rfl, rfl⟩
  | 5, _ => exact Or.inl ⟨rfl, rfl⟩
  | 6, _ => exact Or.inr (Or.inr ⟨rfl, rfl⟩)
  | j + 7, hj => omega
theorem df_X21 : ∀ j, j < 10 → (tk 18 j = 0 ∧ defaultValue (tyX21 j) = .int 0) ∨ (tk 18 j = 1 ∧ defaultValue (tyX21 j) = .long 0) ∨ (tk 18 j = 2 ∧ defaultValue (tyX21 j) = .null) := by
  intro j hj
  match j, hj with
  | 0, _ => exact Or.inl ⟨rfl, rfl⟩
  | 1, _ => exact Or.inl ⟨rfl, rfl⟩
  | 2, _ => exact Or.inl ⟨rfl, rfl⟩
  | 3, _ => exact Or.inl ⟨rfl, rfl⟩
  | 4, _ => exact Or.inl ⟨rfl, rfl⟩
  | 5, _ => exact Or.inr (Or.inr ⟨rfl, rfl⟩)
  | 6, _ => exact Or.inr (Or.inr ⟨rfl, rfl⟩)
  | 7, _ => exact Or.inr (Or.inr ⟨rfl, rfl⟩)
  | 8, _ => exact Or.inr (Or.inr ⟨rfl, rfl⟩)
  | 9, _ => exact Or.inr (Or.inr ⟨rfl, rfl⟩)
  | j + 10, hj => omega
theorem df_X22 : ∀ j, j < 1 → (tk 19 j = 0 ∧ defaultValue (tyX22 j) = .int 0) ∨ (tk 19 j = 1 ∧ defaultValue (tyX22 j) = .long 0) ∨ (tk 19 j = 2 ∧ defaultValue (tyX22 j) = .null) := by
  intro j hj
  match j, hj with
  | 0, _ => exact Or.inr (Or.inl ⟨rfl, rfl⟩)
  | j + 1, hj => omega
theorem df_J2 : ∀ j, j < 3 → (tk 20 j = 0 ∧ defaultValue (tyJ2 j) = .int 0) ∨ (tk 20 j = 1 ∧ defaultValue (tyJ2 j) = .long 0) ∨ (tk 20 j = 2 ∧ defaultValue (tyJ2 j) = .null) := by
  intro j hj
  match j, hj with
  | 0, _ => exact Or.inl ⟨rfl, rfl⟩
  | 1, _ => exact Or.inr (Or.inr ⟨rfl, rfl⟩)
  | 2, _ => exact Or.inl ⟨rfl, rfl⟩
  | j + 3, hj => omega
theorem ne_X0_15 : xNe RX0 15 1 := ⟨RX1, TX1, 7, tyX1, xcl_X1, q178, q179, q131, rfl, df_X1⟩
theorem ne_X0_26 : xNe RX0 26 3 := ⟨RX3, TX3, 2, tyX3, xcl_X3, q270, q271, q136, rfl, df_X3⟩
theorem ne_X0_36 : xNe RX0 36 2 := ⟨RX2, TX2, 4, tyX2, xcl_X2, q288, q213, q135, rfl, df_X2⟩
theorem ne_X0_46 : xNe RX0 46 4 := ⟨RX4, TX4, 2, tyX4, xcl_X4, q290, q291, q137, rfl, df_X4⟩
theorem ne_X0_56 : xNe RX0 56 5 := ⟨RX5, TX5, 1, tyX5, xcl_X5, q313, q314, q138, rfl, df_X5⟩
theorem ne_X0_58 : xNe RX0 58 13 := ⟨RX15, TX15, 4, tyX15, xcl_X15, q315, q1023, q160, rfl, df_X15⟩
theorem ne_X0_236 : xNe RX0 236 7 := ⟨RX8, TX8, 11, tyX8, xcl_X8, q718, q719, q151, rfl, df_X8⟩
theorem ne_X0_249 : xNe RX0 249 8 := ⟨RX9, TX9, 7, tyX9, xcl_X9, q713, q812, q152, rfl, df_X9⟩
theorem ne_X0_414 : xNe RX0 414 18 := ⟨RX21, TX21, 10, tyX21, xcl_X21, q1454, q1128, q168, rfl, df_X21⟩
theorem ne_X0_434 : xNe RX0 434 19 := ⟨RX22, TX22, 1, tyX22, xcl_X22, q1534, q1535, q169, rfl, df_X22⟩
theorem ne_X1_9 : xNe RX1 9 20 := ⟨RJ2, TJ2, 3, tyJ2, xcl_J2, q184, q185, q134, rfl, df_J2⟩
theorem ne_X1_13 : xNe RX1 13 1 := ⟨RX1, TX1, 7, tyX1, xcl_X1, q1563, q179, q131, rfl, df_X1⟩
theorem ne_X1_27 : xNe RX1 27 2 := ⟨RX2, TX2, 4, tyX2, xcl_X2, q212, q213, q135, rfl, df_X2⟩
theorem ne_X8_37 : xNe RX8 37 13 := ⟨RX15, TX15, 4, tyX15, xcl_X15, q741, q1023, q160, rfl, df_X15⟩
theorem ne_X8_63 : xNe RX8 63 5 := ⟨RX5, TX5, 1, tyX5, xcl_X5, q1190, q314, q138, rfl, df_X5⟩
theorem ne_X21_31 : xNe RX21 31 17 := ⟨RX20, TX20, 7, tyX20, xcl_X20, q1134, q1135, q165, rfl, df_X20⟩
theorem ne_X21_72 : xNe RX21 72 10 := ⟨RX12, TX12, 1, tyX12, xcl_X12, q969, q970, q157, rfl, df_X12⟩
theorem ne_X21_77 : xNe RX21 77 11 := ⟨RX13, TX13, 3, tyX13, xcl_X13, q979, q980, q158, rfl, df_X13⟩
theorem ne_X7_76 : xNe RX7 76 8 := ⟨RX9, TX9, 7, tyX9, xcl_X9, q811, q812, q152, rfl, df_X9⟩
theorem ne_X7_108 : xNe RX7 108 16 := ⟨RX19, TX19, 2, tyX19, xcl_X19, q1089, q1090, q164, rfl, df_X19⟩
theorem ne_X7_145 : xNe RX7 145 14 := ⟨RX17, TX17, 3, tyX17, xcl_X17, q1050, q1051, q162, rfl, df_X17⟩
theorem ne_X7_150 : xNe RX7 150 15 := ⟨RX18, TX18, 1, tyX18, xcl_X18, q1069, q1070, q163, rfl, df_X18⟩
theorem ne_X7_161 : xNe RX7 161 12 := ⟨RX14, TX14, 3, tyX14, xcl_X14, q1005, q1006, q159, rfl, df_X14⟩
theorem ne_X7_184 : xNe RX7 184 9 := ⟨RX11, TX11, 1, tyX11, xcl_X11, q943, q944, q156, rfl, df_X11⟩
theorem ne_X7_195 : xNe RX7 195 10 := ⟨RX12, TX12, 1, tyX12, xcl_X12, q1000, q970, q157, rfl, df_X12⟩
theorem ne_X3_9 : xNe RX3 9 2 := ⟨RX2, TX2, 4, tyX2, xcl_X2, q276, q213, q135, rfl, df_X2⟩
theorem nq_X0_15 : xNq RX0 15 4 := ⟨"CounterDesk$Desk", rfl, by decide, by decide, q178, xnw_of q269 rfl⟩
theorem nq_X0_36 : xNq RX0 36 5 := ⟨"CounterDesk$Books", rfl, by decide, by decide, q288, xnw_of q277 rfl⟩
theorem nq_X0_58 : xNq RX0 58 6 := ⟨"CounterDesk$Clause", rfl, by decide, by decide, q315, xnw_of q316 rfl⟩
theorem nq_X1_13 : xNq RX1 13 4 := ⟨"CounterDesk$Desk", rfl, by decide, by decide, q1563, xnw_of q269 rfl⟩
theorem nq_X1_27 : xNq RX1 27 5 := ⟨"CounterDesk$Books", rfl, by decide, by decide, q212, xnw_of q277 rfl⟩
theorem nq_X8_9 : xNq RX8 9 9 := ⟨"java/lang/String", rfl, by decide, by decide, q723, xnw_of q724 rfl⟩
theorem nq_X8_37 : xNq RX8 37 6 := ⟨"CounterDesk$Clause", rfl, by decide, by decide, q741, xnw_of q316 rfl⟩
theorem nq_X21_9 : xNq RX21 9 9 := ⟨"java/lang/String", rfl, by decide, by decide, q1458, xnw_of q724 rfl⟩
theorem nq_X21_31 : xNq RX21 31 8 := ⟨"CounterDesk$Act", rfl, by decide, by decide, q1134, xnw_of q1467 rfl⟩
theorem nq_X7_15 : xNq RX7 15 7 := ⟨"CounterDesk$Test", rfl, by decide, by decide, q739, xnw_of q740 rfl⟩
theorem nq_X3_9 : xNq RX3 9 5 := ⟨"CounterDesk$Books", rfl, by decide, by decide, q276, xnw_of q277 rfl⟩
theorem nq_J2_7 : xNq RJ2 7 10 := ⟨"java/lang/Object", rfl, by decide, by decide, q1256, xnw_of q1251 rfl⟩
theorem nq_J15_2 : xNq RJ15 2 10 := ⟨"java/lang/Object", rfl, by decide, by decide, q1252, xnw_of q1251 rfl⟩
theorem st_4_1 : xSt 4 1 := ⟨"CounterDesk$Desk", RX1, TX1, 7, rfl, by decide, by decide, rfl, Or.inl rfl⟩
theorem st_5_2 : xSt 5 2 := ⟨"CounterDesk$Books", RX2, TX2, 4, rfl, by decide, by decide, rfl, Or.inl rfl⟩
theorem st_6_13 : xSt 6 13 := ⟨"CounterDesk$Clause", RX15, TX15, 4, rfl, by decide, by decide, rfl, Or.inl rfl⟩
theorem st_7_14 : xSt 7 14 := ⟨"CounterDesk$Test", RX17, TX17, 3, rfl, by decide, by decide, rfl, Or.inr (xnw_of q2336 rfl)⟩
theorem st_7_15 : xSt 7 15 := ⟨"CounterDesk$Test", RX18, TX18, 1, rfl, by decide, by decide, rfl, Or.inr (xnw_of q2337 rfl)⟩
theorem st_7_16 : xSt 7 16 := ⟨"CounterDesk$Test", RX19, TX19, 2, rfl, by decide, by decide, rfl, Or.inr (xnw_of q2338 rfl)⟩
theorem st_8_17 : xSt 8 17 := ⟨"CounterDesk$Act", RX20, TX20, 7, rfl, by decide, by decide, rfl, Or.inl rfl⟩
theorem st_10_5 : xSt 10 5 := ⟨"java/lang/Object", RX5, TX5, 1, rfl, by decide, by decide, rfl, Or.inr (xnw_of q2321 rfl)⟩
abbrev kX0_init : xM := (yX0_init, cX0_init, 1, none, [])
abbrev kX0_feed : xM := (yX0_feed, cX0_feed, 6, some (.int), [])
abbrev kX0_four : xM := (yX0_four, cX0_four, 3, none, [])
abbrev kX0_end : xM := (yX0_end, cX0_end, 2, some (.int), [])
abbrev kX0_in : xM := (yX0_in, cX0_in, 6, some (.boolean), [])
abbrev kX0_note : xM := (yX0_note, cX0_note, 3, some (.int), [])
abbrev kX0_come : xM := (yX0_come, cX0_come, 4, some (.int), [])
abbrev kX0_isPitch : xM := (yX0_isPitch, cX0_isPitch, 1, some (.boolean), [])
abbrev kX0_nNotes : xM := (yX0_nNotes, cX0_nNotes, 1, some (.int), [])
abbrev kX0_books : xM := (yX0_books, cX0_books, 1, some ((.object "CounterDesk$Books")), [])
abbrev kX0_settled : xM := (yX0_settled, cX0_settled, 2, some (.int), [])
abbrev kX0_tell : xM := (yX0_tell, cX0_tell, 2, some (.int), [])
abbrev kX0_of : xM := (yX0_of, cX0_of, 3, some (.int), [])
abbrev kX0_isNote : xM := (yX0_isNote, cX0_isNote, 2, some (.boolean), [])
abbrev kX0_costsHere : xM := (yX0_costsHere, cX0_costsHere, 2, some (.int), [])
abbrev kX0_beforeOf : xM := (yX0_beforeOf, cX0_beforeOf, 2, some (.int), [])
abbrev kX0_costs : xM := (yX0_costs, cX0_costs, 4, some (.int), [])
abbrev kX0_about : xM := (yX0_about, cX0_about, 5, none, [])
abbrev kX0_law1 : xM := (yX0_law1, cX0_law1, 1, some ((.object "CounterDesk$Text")), [])
abbrev kX0_earnsHere : xM := (yX0_earnsHere, cX0_earnsHere, 2, some (.int), [])
abbrev kX0_earns : xM := (yX0_earns, cX0_earns, 4, some (.int), [])
abbrev kX0_isBarredHere : xM := (yX0_isBarredHere, cX0_isBarredHere, 2, some (.boolean), [])
abbrev kX0_isBarred : xM := (yX0_isBarred, cX0_isBarred, 4, some (.boolean), [])
abbrev kX0_at : xM := (yX0_at, cX0_at, 3, some (.int), [])
abbrev kX0_apart : xM := (yX0_apart, cX0_apart, 2, some (.int), [])
abbrev kX0_leap : xM := (yX0_leap, cX0_leap, 2, some (.int), [])
abbrev kX0_terms : xM := (yX0_terms, cX0_terms, 4, some (.int), [])
abbrev kX0_isTerm : xM := (yX0_isTerm, cX0_isTerm, 2, some (.boolean), [])
abbrev kX0_term : xM := (yX0_term, cX0_term, 2, some (.int), [])
abbrev kX0_had : xM := (yX0_had, cX0_had, 2, some (.int), [])
abbrev kX0_row : xM := (yX0_row, cX0_row, 7, some (.int), [((58), (84), (119), (225)), ((58), (84), (159), (0)), ((119), (124), (159), (0)), ((159), (161), (159), (0))])
abbrev kX0_byteAt : xM := (yX0_byteAt, cX0_byteAt, 2, some (.int), [])
abbrev kX0_blots : xM := (yX0_blots, cX0_blots, 1, some (.int), [])
abbrev kX0_law : xM := (yX0_law, cX0_law, 4, some (.int), [((27), (71), (78), (249)), ((27), (71), (101), (0)), ((78), (94), (101), (0))])
abbrev kX0_isLetter : xM := (yX0_isLetter, cX0_isLetter, 1, some (.boolean), [])
abbrev kX0_isDigit : xM := (yX0_isDigit, cX0_isDigit, 1, some (.boolean), [])
abbrev kX0_fault : xM := (yX0_fault, cX0_fault, 1, some (.int), [])
abbrev kX0_force : xM := (yX0_force, cX0_force, 3, some (.int), [])
abbrev kX0_isLaw : xM := (yX0_isLaw, cX0_isLaw, 2, some (.boolean), [])
abbrev kX0_all : xM := (yX0_all, cX0_all, 2, some (.int), [])
abbrev kX0_barredOnes : xM := (yX0_barredOnes, cX0_barredOnes, 3, some (.int), [])
abbrev kX0_sumOf : xM := (yX0_sumOf, cX0_sumOf, 4, some (.int), [])
abbrev kX0_set : xM := (yX0_set, cX0_set, 3, some (.int), [])
abbrev kX0_setNow : xM := (yX0_setNow, cX0_setNow, 4, some (.int), [])
abbrev kX0_shift : xM := (yX0_shift, cX0_shift, 3, some (.int), [])
abbrev kX0_shiftNow : xM := (yX0_shiftNow, cX0_shiftNow, 4, some (.int), [])
abbrev kX0_swap : xM := (yX0_swap, cX0_swap, 1, some (.int), [])
abbrev kX0_swapNow : xM := (yX0_swapNow, cX0_swapNow, 1, some (.int), [])
abbrev kX0_pass : xM := (yX0_pass, cX0_pass, 1, some (.int), [])
abbrev kX0_passNow : xM := (yX0_passNow, cX0_passNow, 2, some (.int), [])
abbrev kX0_undo : xM := (yX0_undo, cX0_undo, 1, some (.int), [])
abbrev kX0_best : xM := (yX0_best, cX0_best, 5, some (.int), [])
abbrev kX0_layAll : xM := (yX0_layAll, cX0_layAll, 1, none, [])
abbrev kX0_layNotes : xM := (yX0_layNotes, cX0_layNotes, 3, none, [])
abbrev kX0_layNote : xM := (yX0_layNote, cX0_layNote, 5, none, [])
abbrev kX0_layVoices : xM := (yX0_layVoices, cX0_layVoices, 7, none, [])
abbrev kX0_layFrom : xM := (yX0_layFrom, cX0_layFrom, 6, none, [])
abbrev kX0_differs : xM := (yX0_differs, cX0_differs, 3, some (.int), [])
abbrev kX0_isThere : xM := (yX0_isThere, cX0_isThere, 1, some (.boolean), [])
abbrev kX0_between : xM := (yX0_between, cX0_between, 5, some (.int), [])
abbrev kX0_richest : xM := (yX0_richest, cX0_richest, 1, some (.int), [])
abbrev kX0_ways : xM := (yX0_ways, cX0_ways, 1, some (.long), [])
abbrev kX0_mend : xM := (yX0_mend, cX0_mend, 5, some (.int), [])
abbrev kX0_compass : xM := (yX0_compass, cX0_compass, 6, some (.int), [])
abbrev kX0_cheapest : xM := (yX0_cheapest, cX0_cheapest, 7, some (.int), [])
abbrev kX0_compare : xM := (yX0_compare, cX0_compare, 4, some (.int), [])
abbrev kX0_bestCosts : xM := (yX0_bestCosts, cX0_bestCosts, 1, some (.int), [])
abbrev kX0_canon : xM := (yX0_canon, cX0_canon, 5, some (.int), [])
abbrev kX0_goesInCanon : xM := (yX0_goesInCanon, cX0_goesInCanon, 6, some (.boolean), [])
abbrev kX0_parallels : xM := (yX0_parallels, cX0_parallels, 4, some (.int), [])
abbrev kX0_heard : xM := (yX0_heard, cX0_heard, 4, some (.int), [])
abbrev kX0_forget : xM := (yX0_forget, cX0_forget, 2, some (.int), [])
abbrev kX0_canBe : xM := (yX0_canBe, cX0_canBe, 5, some (.int), [])
abbrev kX0_fact : xM := (yX0_fact, cX0_fact, 3, some (.int), [])
abbrev kX0_listen : xM := (yX0_listen, cX0_listen, 7, some (.int), [])
abbrev kX0_mostAlike : xM := (yX0_mostAlike, cX0_mostAlike, 7, some (.int), [])
abbrev kX0_has : xM := (yX0_has, cX0_has, 2, some (.boolean), [])
abbrev kX0_few : xM := (yX0_few, cX0_few, 8, some (.long), [])
abbrev kX0_orders : xM := (yX0_orders, cX0_orders, 5, some (.int), [((5), (22), (30), (249)), ((5), (22), (53), (0)), ((30), (46), (53), (0)), ((53), (55), (53), (0))])
abbrev kX0_runAll : xM := (yX0_runAll, cX0_runAll, 4, some (.int), [])
abbrev kX0_stopped : xM := (yX0_stopped, cX0_stopped, 1, some (.int), [])
abbrev kX0_weeks : xM := (yX0_weeks, cX0_weeks, 9, some (.int), [])
abbrev kX0_drawn : xM := (yX0_drawn, cX0_drawn, 3, some (.int), [])
abbrev kX0_image : xM := (yX0_image, cX0_image, 2, some (.int), [])
abbrev kX0_back : xM := (yX0_back, cX0_back, 2, some (.int), [])
abbrev kX0_count : xM := (yX0_count, cX0_count, 2, some (.int), [])
abbrev kX0_status : xM := (yX0_status, cX0_status, 1, some (.int), [])
abbrev kJ0_init : xM := (yJ0_init, cJ0_init, 1, none, [])
abbrev kJ1_init : xM := (yJ1_init, cJ1_init, 1, none, [])
abbrev kJ10_init : xM := (yJ10_init, cJ10_init, 2, none, [])
abbrev kJ11_length : xM := (yJ11_length, cJ11_length, 1, some (.int), [])
abbrev kJ11_coder : xM := (yJ11_coder, cJ11_coder, 1, some (.byte), [])
abbrev kJ11_charAt : xM := (yJ11_charAt, cJ11_charAt, 2, some (.char), [])
abbrev kJ11_isLatin1 : xM := (yJ11_isLatin1, cJ11_isLatin1, 1, some (.boolean), [])
abbrev kJ11_checkIndex : xM := (yJ11_checkIndex, cJ11_checkIndex, 2, none, [])
abbrev kJ12_charAt : xM := (yJ12_charAt, cJ12_charAt, 2, some (.char), [])
abbrev kJ13_charAt : xM := (yJ13_charAt, cJ13_charAt, 2, some (.char), [])
abbrev kJ13_checkIndex : xM := (yJ13_checkIndex, cJ13_checkIndex, 2, none, [])
abbrev kJ13_length : xM := (yJ13_length, cJ13_length, 1, some (.int), [])
abbrev kJ13_getChar : xM := (yJ13_getChar, cJ13_getChar, 2, some (.char), [])
abbrev kJ14_newLength : xM := (yJ14_newLength, cJ14_newLength, 4, some (.int), [])
abbrev kJ14_hugeLength : xM := (yJ14_hugeLength, cJ14_hugeLength, 3, some (.int), [])
abbrev kJ15_copyOf : xM := (yJ15_copyOf, cJ15_copyOf, 2, some ((.array (.object "java/lang/Object"))), [])
abbrev kJ15_copyOf_2 : xM := (yJ15_copyOf_2, cJ15_copyOf_2, 4, some ((.array (.object "java/lang/Object"))), [])
abbrev kJ16_init : xM := (yJ16_init, cJ16_init, 1, none, [])
abbrev kJ2_init : xM := (yJ2_init, cJ2_init, 1, none, [])
abbrev kJ2_get : xM := (yJ2_get, cJ2_get, 2, some ((.object "java/lang/Object")), [])
abbrev kJ2_elementData : xM := (yJ2_elementData, cJ2_elementData, 2, some ((.object "java/lang/Object")), [])
abbrev kJ2_size : xM := (yJ2_size, cJ2_size, 1, some (.int), [])
abbrev kJ2_add : xM := (yJ2_add, cJ2_add, 2, some (.boolean), [])
abbrev kJ2_add_2 : xM := (yJ2_add_2, cJ2_add_2, 4, none, [])
abbrev kJ2_grow : xM := (yJ2_grow, cJ2_grow, 1, some ((.array (.object "java/lang/Object"))), [])
abbrev kJ2_grow_2 : xM := (yJ2_grow_2, cJ2_grow_2, 4, some ((.array (.object "java/lang/Object"))), [])
abbrev kJ2_addAll : xM := (yJ2_addAll, cJ2_addAll, 6, some (.boolean), [])
abbrev kJ2_toArray : xM := (yJ2_toArray, cJ2_toArray, 1, some ((.array (.object "java/lang/Object"))), [])
abbrev kJ3_min : xM := (yJ3_min, cJ3_min, 2, some (.int), [])
abbrev kJ3_abs : xM := (yJ3_abs, cJ3_abs, 1, some (.int), [])
abbrev kJ3_min_2 : xM := (yJ3_min_2, cJ3_min_2, 4, some (.long), [])
abbrev kJ3_max : xM := (yJ3_max, cJ3_max, 4, some (.long), [])
abbrev kJ3_max_2 : xM := (yJ3_max_2, cJ3_max_2, 2, some (.int), [])
abbrev kJ4_checkIndex : xM := (yJ4_checkIndex, cJ4_checkIndex, 2, some (.int), [])
abbrev kJ5_checkIndex : xM := (yJ5_checkIndex, cJ5_checkIndex, 3, some (.int), [])
abbrev kJ6_init : xM := (yJ6_init, cJ6_init, 2, none, [])
abbrev kJ6_init_2 : xM := (yJ6_init_2, cJ6_init_2, 1, none, [])
abbrev kJ6_init_3 : xM := (yJ6_init_3, cJ6_init_3, 5, none, [])
abbrev kJ7_init : xM := (yJ7_init, cJ7_init, 2, none, [])
abbrev kJ7_init_2 : xM := (yJ7_init_2, cJ7_init_2, 5, none, [])
abbrev kJ8_init : xM := (yJ8_init, cJ8_init, 2, none, [])
abbrev kJ9_init : xM := (yJ9_init, cJ9_init, 2, none, [])
abbrev kX1_init : xM := (yX1_init, cX1_init, 1, none, [])
abbrev kX1_copy : xM := (yX1_copy, cX1_copy, 3, some ((.object "CounterDesk$Desk")), [])
abbrev kX10_init : xM := (yX10_init, cX10_init, 1, none, [])
abbrev kX11_of : xM := (yX11_of, cX11_of, 2, some (.long), [])
abbrev kX11_init : xM := (yX11_init, cX11_init, 2, none, [])
abbrev kX12_of : xM := (yX12_of, cX12_of, 2, some (.long), [])
abbrev kX12_init : xM := (yX12_init, cX12_init, 2, none, [])
abbrev kX13_of : xM := (yX13_of, cX13_of, 2, some (.long), [])
abbrev kX13_init : xM := (yX13_init, cX13_init, 4, none, [])
abbrev kX14_of : xM := (yX14_of, cX14_of, 6, some (.long), [])
abbrev kX14_init : xM := (yX14_init, cX14_init, 4, none, [])
abbrev kX15_holds : xM := (yX15_holds, cX15_holds, 2, some (.boolean), [])
abbrev kX15_init : xM := (yX15_init, cX15_init, 4, none, [])
abbrev kX16_init : xM := (yX16_init, cX16_init, 1, none, [])
abbrev kX17_of : xM := (yX17_of, cX17_of, 6, some (.boolean), [])
abbrev kX17_init : xM := (yX17_init, cX17_init, 4, none, [])
abbrev kX18_of : xM := (yX18_of, cX18_of, 2, some (.boolean), [])
abbrev kX18_init : xM := (yX18_init, cX18_init, 2, none, [])
abbrev kX19_of : xM := (yX19_of, cX19_of, 7, some (.boolean), [])
abbrev kX19_init : xM := (yX19_init, cX19_init, 3, none, [])
abbrev kX2_init : xM := (yX2_init, cX2_init, 1, none, [])
abbrev kX2_as : xM := (yX2_as, cX2_as, 2, some ((.object "CounterDesk$Books")), [])
abbrev kX2_exchange : xM := (yX2_exchange, cX2_exchange, 4, none, [])
abbrev kX20_init : xM := (yX20_init, cX20_init, 5, none, [])
abbrev kX20_run : xM := (yX20_run, cX20_run, 1, some (.int), [])
abbrev kX20_setAll : xM := (yX20_setAll, cX20_setAll, 1, none, [])
abbrev kX20_does : xM := (yX20_does, cX20_does, 4, some (.int), [])
abbrev kX20_reckoned : xM := (yX20_reckoned, cX20_reckoned, 4, some (.int), [])
abbrev kX21_behindWord : xM := (yX21_behindWord, cX21_behindWord, 2, some ((.object "CounterDesk$Sum")), [])
abbrev kX21_read : xM := (yX21_read, cX21_read, 3, none, [])
abbrev kX21_act : xM := (yX21_act, cX21_act, 3, some ((.object "CounterDesk$Act")), [])
abbrev kX21_behind : xM := (yX21_behind, cX21_behind, 2, some ((.object "CounterDesk$Sum")), [])
abbrev kX21_isNought : xM := (yX21_isNought, cX21_isNought, 3, some (.boolean), [])
abbrev kX21_init : xM := (yX21_init, cX21_init, 2, none, [])
abbrev kX21_read_2 : xM := (yX21_read_2, cX21_read_2, 2, some ((.array (.object "CounterDesk$Act"))), [])
abbrev kX22_init : xM := (yX22_init, cX22_init, 2, none, [])
abbrev kX22_next : xM := (yX22_next, cX22_next, 2, some (.int), [])
abbrev kX3_init : xM := (yX3_init, cX3_init, 2, none, [])
abbrev kX3_append : xM := (yX3_append, cX3_append, 4, none, [])
abbrev kX3_as : xM := (yX3_as, cX3_as, 3, none, [])
abbrev kX4_init : xM := (yX4_init, cX4_init, 1, none, [])
abbrev kX4_within : xM := (yX4_within, cX4_within, 3, some (.long), [])
abbrev kX5_init : xM := (yX5_init, cX5_init, 2, none, [])
abbrev kX5_tells : xM := (yX5_tells, cX5_tells, 8, some (.int), [])
abbrev kX5_has : xM := (yX5_has, cX5_has, 4, some (.boolean), [])
abbrev kX7_init : xM := (yX7_init, cX7_init, 3, none, [])
abbrev kX7_readAll : xM := (yX7_readAll, cX7_readAll, 2, some (.int), [])
abbrev kX7_next : xM := (yX7_next, cX7_next, 3, none, [])
abbrev kX7_must : xM := (yX7_must, cX7_must, 2, none, [])
abbrev kX7_which : xM := (yX7_which, cX7_which, 3, some (.int), [])
abbrev kX7_isWord : xM := (yX7_isWord, cX7_isWord, 3, some (.boolean), [])
abbrev kX7_sum : xM := (yX7_sum, cX7_sum, 3, some ((.object "CounterDesk$Sum")), [])
abbrev kX7_term : xM := (yX7_term, cX7_term, 3, some ((.object "CounterDesk$Sum")), [])
abbrev kX7_part : xM := (yX7_part, cX7_part, 2, some ((.object "CounterDesk$Sum")), [])
abbrev kX7_open : xM := (yX7_open, cX7_open, 1, none, [])
abbrev kX7_close : xM := (yX7_close, cX7_close, 2, none, [])
abbrev kX7_accept : xM := (yX7_accept, cX7_accept, 3, some (.boolean), [])
abbrev kX7_leaf : xM := (yX7_leaf, cX7_leaf, 1, none, [])
abbrev kX7_number : xM := (yX7_number, cX7_number, 4, some (.int), [])
abbrev kX7_behindWord : xM := (yX7_behindWord, cX7_behindWord, 2, some ((.object "CounterDesk$Sum")), [])
abbrev kX7_test : xM := (yX7_test, cX7_test, 2, some ((.object "CounterDesk$Test")), [])
abbrev kX7_both : xM := (yX7_both, cX7_both, 2, some ((.object "CounterDesk$Test")), [])
abbrev kX7_plain : xM := (yX7_plain, cX7_plain, 5, some ((.object "CounterDesk$Test")), [])
abbrev kX7_add : xM := (yX7_add, cX7_add, 2, none, [])
abbrev kX7_joined : xM := (yX7_joined, cX7_joined, 5, some ((.object "CounterDesk$Test")), [])
abbrev kX8_init : xM := (yX8_init, cX8_init, 2, none, [])
abbrev kX8_read : xM := (yX8_read, cX8_read, 2, some ((.object "CounterDesk$Text")), [])
abbrev kX8_read_2 : xM := (yX8_read_2, cX8_read_2, 4, none, [])
abbrev kX9_init : xM := (yX9_init, cX9_init, 2, none, [])
theorem cs_X0_5 : xCS RX0 5 kX0_in 3 := ⟨q438, q439, q130, q440, rfl, ⟨by decide +kernel, by decide +kernel, by decide +kernel⟩, by decide⟩
theorem ob_X0_9 : xOb RX0 9 := ⟨q175, q176, q177⟩
theorem ci_X0_28 : xCI RX0 28 kX3_init 0 := ⟨q272, q273, q136, q274, rfl, rfl, rfl, ⟨by decide +kernel, by decide +kernel, by decide +kernel⟩, by decide⟩
theorem ci_X0_60 : xCI RX0 60 kX5_init 1 := ⟨q317, q318, q138, q319, rfl, rfl, rfl, ⟨by decide +kernel, by decide +kernel, by decide +kernel⟩, by decide⟩
theorem cs_X0_120 : xCS RX0 120 kJ3_min 2 := ⟨q469, q470, q140, q471, rfl, ⟨by decide +kernel, by decide +kernel, by decide +kernel⟩, by decide⟩
theorem cv_X0_132 : xCV RX0 132 RX0 kX0_tell 1 := ⟨q465, q467, qs5, q130, q468, rfl, ⟨rfl, by decide +kernel, by decide +kernel, by decide +kernel⟩, by decide⟩
theorem cv_X0_142 : xCV RX0 142 RX0 kX0_nNotes 0 := ⟨q453, q455, qs2, q130, q456, rfl, ⟨rfl, by decide +kernel, by decide +kernel, by decide +kernel⟩, by decide⟩
theorem cv_X0_149 : xCV RX0 149 RX0 kX0_four 1 := ⟨q430, q432, qs0, q130, q433, rfl, ⟨rfl, by decide +kernel, by decide +kernel, by decide +kernel⟩, by decide⟩
theorem cs_X0_153 : xCS RX0 153 kX0_isPitch 1 := ⟨q449, q450, q130, q451, rfl, ⟨by decide +kernel, by decide +kernel, by decide +kernel⟩, by decide⟩
theorem cv_X0_157 : xCV RX0 157 RX0 kX0_books 0 := ⟨q457, q459, qs3, q130, q460, rfl, ⟨rfl, by decide +kernel, by decide +kernel, by decide +kernel⟩, by decide⟩
theorem cv_X0_166 : xCV RX0 166 RX0 kX0_come 2 := ⟨q445, q447, qs1, q130, q448, rfl, ⟨rfl, by decide +kernel, by decide +kernel, by decide +kernel⟩, by decide⟩
theorem cv_X0_169 : xCV RX0 169 RX0 kX0_settled 1 := ⟨q461, q463, qs4, q130, q464, rfl, ⟨rfl, by decide +kernel, by decide +kernel, by decide +kernel⟩, by decide⟩
theorem cv_X0_172 : xCV RX0 172 RX0 kX0_isNote 1 := ⟨q476, q478, qs6, q130, q479, rfl, ⟨rfl, by decide +kernel, by decide +kernel, by decide +kernel⟩, by decide⟩
theorem cv_X0_175 : xCV RX0 175 RX0 kX0_costsHere 1 := ⟨q480, q482, qs7, q130, q483, rfl, ⟨rfl, by decide +kernel, by decide +kernel, by decide +kernel⟩, by decide⟩
theorem cv_X0_178 : xCV RX0 178 RX0 kX0_earnsHere 1 := ⟨q571, q573, qs12, q130, q574, rfl, ⟨rfl, by decide +kernel, by decide +kernel, by decide +kernel⟩, by decide⟩
theorem cv_X0_181 : xCV RX0 181 RX0 kX0_isBarredHere 1 := ⟨q579, q581, qs14, q130, q582, rfl, ⟨rfl, by decide +kernel, by decide +kernel, by decide +kernel⟩, by decide⟩
theorem cv_X0_184 : xCV RX0 184 RX0 kX0_apart 1 := ⟨q595, q597, qs16, q130, q598, rfl, ⟨rfl, by decide +kernel, by decide +kernel, by decide +kernel⟩, by decide⟩
theorem cv_X0_187 : xCV RX0 187 RX0 kX0_leap 1 := ⟨q599, q601, qs17, q130, q602, rfl, ⟨rfl, by decide +kernel, by decide +kernel, by decide +kernel⟩, by decide⟩
theorem cs_X0_202 : xCS RX0 202 kX0_isTerm 2 := ⟨q607, q608, q130, q609, rfl, ⟨by decide +kernel, by decide +kernel, by decide +kernel⟩, by decide⟩
theorem cv_X0_206 : xCV RX0 206 RX0 kX0_term 1 := ⟨q613, q615, qs18, q130, q616, rfl, ⟨rfl, by decide +kernel, by decide +kernel, by decide +kernel⟩, by decide⟩
theorem cv_X0_209 : xCV RX0 209 RX0 kX0_had 1 := ⟨q617, q619, qs19, q130, q620, rfl, ⟨rfl, by decide +kernel, by decide +kernel, by decide +kernel⟩, by decide⟩
theorem cs_X0_221 : xCS RX0 221 kX0_byteAt 2 := ⟨q702, q703, q130, q704, rfl, ⟨by decide +kernel, by decide +kernel, by decide +kernel⟩, by decide⟩
theorem cv_X0_231 : xCV RX0 231 RJ2 kJ2_size 0 := ⟨q714, q715, q716, q134, q717, rfl, ⟨rfl, by decide +kernel, by decide +kernel, by decide +kernel⟩, by decide⟩
theorem ci_X0_238 : xCI RX0 238 kX8_init 1 := ⟨q720, q721, q151, q722, rfl, rfl, rfl, ⟨by decide +kernel, by decide +kernel, by decide +kernel⟩, by decide⟩
theorem cv_X0_241 : xCV RX0 241 RX8 kX8_read 0 := ⟨q783, q784, q785, q151, q786, rfl, ⟨rfl, by decide +kernel, by decide +kernel, by decide +kernel⟩, by decide⟩
theorem cv_X0_245 : xCV RX0 245 RJ2 kJ2_add 1 := ⟨q1192, q1193, q1194, q134, q1195, rfl, ⟨rfl, by decide +kernel, by decide +kernel, by decide +kernel⟩, by decide⟩
theorem cv_X0_254 : xCV RX0 254 RX0 kX0_isLaw 1 := ⟨q1265, q1267, qs27, q130, q1268, rfl, ⟨rfl, by decide +kernel, by decide +kernel, by decide +kernel⟩, by decide⟩
theorem cv_X0_260 : xCV RX0 260 RJ2 kJ2_get 1 := ⟨q500, q501, q502, q134, q503, rfl, ⟨rfl, by decide +kernel, by decide +kernel, by decide +kernel⟩, by decide⟩
theorem cv_X0_268 : xCV RX0 268 RX0 kX0_about 3 := ⟨q492, q494, qs10, q130, q495, rfl, ⟨rfl, by decide +kernel, by decide +kernel, by decide +kernel⟩, by decide⟩
theorem cv_X0_272 : xCV RX0 272 RX0 kX0_law1 0 := ⟨q496, q498, qs11, q130, q499, rfl, ⟨rfl, by decide +kernel, by decide +kernel, by decide +kernel⟩, by decide⟩
theorem cs_X0_275 : xCS RX0 275 kJ3_abs 1 := ⟨q514, q515, q140, q516, rfl, ⟨by decide +kernel, by decide +kernel, by decide +kernel⟩, by decide⟩
theorem cv_X0_278 : xCV RX0 278 RX5 kX5_tells 4 := ⟨q517, q518, q519, q138, q520, rfl, ⟨rfl, by decide +kernel, by decide +kernel, by decide +kernel⟩, by decide⟩
theorem cv_X0_282 : xCV RX0 282 RX5 kX5_has 2 := ⟨q587, q588, q589, q138, q590, rfl, ⟨rfl, by decide +kernel, by decide +kernel, by decide +kernel⟩, by decide⟩
theorem cv_X0_286 : xCV RX0 286 RX0 kX0_beforeOf 1 := ⟨q484, q486, qs8, q130, q487, rfl, ⟨rfl, by decide +kernel, by decide +kernel, by decide +kernel⟩, by decide⟩
theorem cv_X0_289 : xCV RX0 289 RX0 kX0_costs 3 := ⟨q488, q490, qs9, q130, q491, rfl, ⟨rfl, by decide +kernel, by decide +kernel, by decide +kernel⟩, by decide⟩
theorem cv_X0_293 : xCV RX0 293 RX0 kX0_earns 3 := ⟨q575, q577, qs13, q130, q578, rfl, ⟨rfl, by decide +kernel, by decide +kernel, by decide +kernel⟩, by decide⟩
theorem cv_X0_296 : xCV RX0 296 RX0 kX0_isBarred 3 := ⟨q583, q585, qs15, q130, q586, rfl, ⟨rfl, by decide +kernel, by decide +kernel, by decide +kernel⟩, by decide⟩
theorem cv_X0_300 : xCV RX0 300 RX0 kX0_barredOnes 0 := ⟨q1273, q1275, qs28, q130, q1276, rfl, ⟨rfl, by decide +kernel, by decide +kernel, by decide +kernel⟩, by decide⟩
theorem cv_X0_303 : xCV RX0 303 RX0 kX0_sumOf 1 := ⟨q1277, q1279, qs29, q130, q1280, rfl, ⟨rfl, by decide +kernel, by decide +kernel, by decide +kernel⟩, by decide⟩
theorem cv_X0_306 : xCV RX0 306 RX3 kX3_append 2 := ⟨q1289, q1290, q1291, q136, q1292, rfl, ⟨rfl, by decide +kernel, by decide +kernel, by decide +kernel⟩, by decide⟩
theorem cv_X0_310 : xCV RX0 310 RX0 kX0_setNow 2 := ⟨q1285, q1287, qs30, q130, q1288, rfl, ⟨rfl, by decide +kernel, by decide +kernel, by decide +kernel⟩, by decide⟩
theorem cv_X0_313 : xCV RX0 313 RX0 kX0_shiftNow 2 := ⟨q1303, q1305, qs31, q130, q1306, rfl, ⟨rfl, by decide +kernel, by decide +kernel, by decide +kernel⟩, by decide⟩
theorem cv_X0_316 : xCV RX0 316 RX2 kX2_exchange 1 := ⟨q1315, q1316, q1317, q135, q1318, rfl, ⟨rfl, by decide +kernel, by decide +kernel, by decide +kernel⟩, by decide⟩
theorem cv_X0_319 : xCV RX0 319 RX0 kX0_swapNow 0 := ⟨q1311, q1313, qs32, q130, q1314, rfl, ⟨rfl, by decide +kernel, by decide +kernel, by decide +kernel⟩, by decide⟩
theorem cv_X0_322 : xCV RX0 322 RX0 kX0_passNow 0 := ⟨q1323, q1325, qs33, q130, q1326, rfl, ⟨rfl, by decide +kernel, by decide +kernel, by decide +kernel⟩, by decide⟩
theorem cv_X0_329 : xCV RX0 329 RX2 kX2_as 1 := ⟨q1331, q1295, q1296, q135, q1297, rfl, ⟨rfl, by decide +kernel, by decide +kernel, by decide +kernel⟩, by decide⟩
theorem cv_X0_336 : xCV RX0 336 RX0 kX0_layNote 2 := ⟨q1344, q1346, qs36, q130, q1347, rfl, ⟨rfl, by decide +kernel, by decide +kernel, by decide +kernel⟩, by decide⟩
theorem cv_X0_342 : xCV RX0 342 RX0 kX0_layFrom 4 := ⟨q1354, q1356, qs38, q130, q1357, rfl, ⟨rfl, by decide +kernel, by decide +kernel, by decide +kernel⟩, by decide⟩
theorem cs_X0_346 : xCS RX0 346 kJ3_max_2 2 := ⟨q1358, q1212, q140, q1213, rfl, ⟨by decide +kernel, by decide +kernel, by decide +kernel⟩, by decide⟩
theorem cv_X0_349 : xCV RX0 349 RX0 kX0_differs 2 := ⟨q1359, q1361, qs39, q130, q1362, rfl, ⟨rfl, by decide +kernel, by decide +kernel, by decide +kernel⟩, by decide⟩
theorem cv_X0_352 : xCV RX0 352 RX0 kX0_layNotes 1 := ⟨q1340, q1342, qs35, q130, q1343, rfl, ⟨rfl, by decide +kernel, by decide +kernel, by decide +kernel⟩, by decide⟩
theorem cv_X0_356 : xCV RX0 356 RX0 kX0_layVoices 3 := ⟨q1348, q1350, qs37, q130, q1351, rfl, ⟨rfl, by decide +kernel, by decide +kernel, by decide +kernel⟩, by decide⟩
theorem cv_X0_359 : xCV RX0 359 RX0 kX0_layAll 0 := ⟨q1336, q1338, qs34, q130, q1339, rfl, ⟨rfl, by decide +kernel, by decide +kernel, by decide +kernel⟩, by decide⟩
theorem cv_X0_362 : xCV RX0 362 RX0 kX0_isThere 0 := ⟨q1363, q1365, qs40, q130, q1366, rfl, ⟨rfl, by decide +kernel, by decide +kernel, by decide +kernel⟩, by decide⟩
theorem cv_X0_366 : xCV RX0 366 RX0 kX0_bestCosts 0 := ⟨q1395, q1397, qs41, q130, q1398, rfl, ⟨rfl, by decide +kernel, by decide +kernel, by decide +kernel⟩, by decide⟩
theorem cv_X0_371 : xCV RX0 371 RX0 kX0_goesInCanon 2 := ⟨q1404, q1406, qs42, q130, q1407, rfl, ⟨rfl, by decide +kernel, by decide +kernel, by decide +kernel⟩, by decide⟩
theorem cv_X0_384 : xCV RX0 384 RX0 kX0_fact 2 := ⟨q1426, q1428, qs43, q130, q1429, rfl, ⟨rfl, by decide +kernel, by decide +kernel, by decide +kernel⟩, by decide⟩
theorem cs_X0_387 : xCS RX0 387 kX0_has 2 := ⟨q1439, q1440, q130, q1441, rfl, ⟨by decide +kernel, by decide +kernel, by decide +kernel⟩, by decide⟩
theorem cv_X0_389 : xCV RX0 389 RX0 kX0_canBe 0 := ⟨q1434, q1423, q1424, q130, q1425, rfl, ⟨rfl, by decide +kernel, by decide +kernel, by decide +kernel⟩, by decide⟩
theorem cv_X0_392 : xCV RX0 392 RX0 kX0_mostAlike 2 := ⟨q1435, q1437, qs44, q130, q1438, rfl, ⟨rfl, by decide +kernel, by decide +kernel, by decide +kernel⟩, by decide⟩
theorem cv_X0_408 : xCV RX0 408 RX20 kX20_run 0 := ⟨q1499, q1500, q1501, q165, q1502, rfl, ⟨rfl, by decide +kernel, by decide +kernel, by decide +kernel⟩, by decide⟩
theorem ci_X0_416 : xCI RX0 416 kX21_init 1 := ⟨q1455, q1456, q168, q1457, rfl, rfl, rfl, ⟨by decide +kernel, by decide +kernel, by decide +kernel⟩, by decide⟩
theorem cv_X0_417 : xCV RX0 417 RX21 kX21_read_2 0 := ⟨q1483, q1484, q1485, q168, q1486, rfl, ⟨rfl, by decide +kernel, by decide +kernel, by decide +kernel⟩, by decide⟩
theorem cv_X0_420 : xCV RX0 420 RX3 kX3_as 1 := ⟨q1491, q1492, q1493, q136, q1494, rfl, ⟨rfl, by decide +kernel, by decide +kernel, by decide +kernel⟩, by decide⟩
theorem cv_X0_426 : xCV RX0 426 RX0 kX0_runAll 1 := ⟨q1495, q1497, qs45, q130, q1498, rfl, ⟨rfl, by decide +kernel, by decide +kernel, by decide +kernel⟩, by decide⟩
theorem ci_X0_436 : xCI RX0 436 kX22_init 1 := ⟨q1536, q1537, q169, q1538, rfl, rfl, rfl, ⟨by decide +kernel, by decide +kernel, by decide +kernel⟩, by decide⟩
theorem cv_X0_438 : xCV RX0 438 RX22 kX22_next 1 := ⟨q1544, q1545, q1546, q169, q1547, rfl, ⟨rfl, by decide +kernel, by decide +kernel, by decide +kernel⟩, by decide⟩
theorem cv_X0_441 : xCV RX0 441 RX1 kX1_copy 0 := ⟨q1559, q1560, q1561, q131, q1562, rfl, ⟨rfl, by decide +kernel, by decide +kernel, by decide +kernel⟩, by decide⟩
theorem ob_X20_9 : xOb RX20 9 := ⟨q1139, q176, q177⟩
theorem cu_X20_69_9 : xCU RX20 69 RX11 "CounterDesk$Sum" ⟨"CounterDesk$Sum", "of", "(LCounterDesk$Asked;)J"⟩ kX11_of 1 := ⟨q1519, q533, q534, q535, q156, q536, rfl, Or.inr (Or.inl (xnw_of q532 rfl)), ⟨by decide +kernel, by decide +kernel, by decide +kernel⟩, by decide⟩
theorem cu_X20_69_10 : xCU RX20 69 RX12 "CounterDesk$Sum" ⟨"CounterDesk$Sum", "of", "(LCounterDesk$Asked;)J"⟩ kX12_of 1 := ⟨q1519, q533, q555, q546, q157, q547, rfl, Or.inr (Or.inl (xnw_of q532 rfl)), ⟨by decide +kernel, by decide +kernel, by decide +kernel⟩, by decide⟩
theorem cu_X20_69_11 : xCU RX20 69 RX13 "CounterDesk$Sum" ⟨"CounterDesk$Sum", "of", "(LCounterDesk$Asked;)J"⟩ kX13_of 1 := ⟨q1519, q533, q554, q541, q158, q542, rfl, Or.inr (Or.inl (xnw_of q532 rfl)), ⟨by decide +kernel, by decide +kernel, by decide +kernel⟩, by decide⟩
theorem cu_X20_69_12 : xCU RX20 69 RX14 "CounterDesk$Sum" ⟨"CounterDesk$Sum", "of", "(LCounterDesk$Asked;)J"⟩ kX14_of 1 := ⟨q1519, q533, q537, q538, q159, q539, rfl, Or.inr (Or.inl (xnw_of q532 rfl)), ⟨by decide +kernel, by decide +kernel, by decide +kernel⟩, by decide⟩
theorem cv_X20_75 : xCV RX20 75 RX20 kX20_reckoned 1 := ⟨q1515, q1517, qs48, q165, q1518, rfl, ⟨rfl, by decide +kernel, by decide +kernel, by decide +kernel⟩, by decide⟩
theorem cv_X20_92 : xCV RX20 92 RX20 kX20_setAll 0 := ⟨q1503, q1505, qs46, q165, q1506, rfl, ⟨rfl, by decide +kernel, by decide +kernel, by decide +kernel⟩, by decide⟩
theorem cu_X20_99_14 : xCU RX20 99 RX17 "CounterDesk$Test" ⟨"CounterDesk$Test", "of", "(LCounterDesk$Asked;)Z"⟩ kX17_of 1 := ⟨q1510, q527, q528, q529, q162, q530, rfl, Or.inr (Or.inl (xnw_of q526 rfl)), ⟨by decide +kernel, by decide +kernel, by decide +kernel⟩, by decide⟩
theorem cu_X20_99_15 : xCU RX20 99 RX18 "CounterDesk$Test" ⟨"CounterDesk$Test", "of", "(LCounterDesk$Asked;)Z"⟩ kX18_of 1 := ⟨q1510, q527, q556, q557, q163, q558, rfl, Or.inr (Or.inl (xnw_of q526 rfl)), ⟨by decide +kernel, by decide +kernel, by decide +kernel⟩, by decide⟩
theorem cu_X20_99_16 : xCU RX20 99 RX19 "CounterDesk$Test" ⟨"CounterDesk$Test", "of", "(LCounterDesk$Asked;)Z"⟩ kX19_of 1 := ⟨q1510, q527, q563, q560, q164, q561, rfl, Or.inr (Or.inl (xnw_of q526 rfl)), ⟨by decide +kernel, by decide +kernel, by decide +kernel⟩, by decide⟩
theorem cv_X20_104 : xCV RX20 104 RX20 kX20_does 0 := ⟨q1511, q1513, qs47, q165, q1514, rfl, ⟨rfl, by decide +kernel, by decide +kernel, by decide +kernel⟩, by decide⟩
theorem ob_X4_1 : xOb RX4 1 := ⟨q295, q176, q177⟩
theorem ob_X2_3 : xOb RX2 3 := ⟨q217, q176, q177⟩
theorem ob_X15_1 : xOb RX15 1 := ⟨q1106, q176, q177⟩
theorem cu_X15_27_14 : xCU RX15 27 RX17 "CounterDesk$Test" ⟨"CounterDesk$Test", "of", "(LCounterDesk$Asked;)Z"⟩ kX17_of 1 := ⟨q525, q527, q528, q529, q162, q530, rfl, Or.inr (Or.inl (xnw_of q526 rfl)), ⟨by decide +kernel, by decide +kernel, by decide +kernel⟩, by decide⟩
theorem cu_X15_27_15 : xCU RX15 27 RX18 "CounterDesk$Test" ⟨"CounterDesk$Test", "of", "(LCounterDesk$Asked;)Z"⟩ kX18_of 1 := ⟨q525, q527, q556, q557, q163, q558, rfl, Or.inr (Or.inl (xnw_of q526 rfl)), ⟨by decide +kernel, by decide +kernel, by decide +kernel⟩, by decide⟩
theorem cu_X15_27_16 : xCU RX15 27 RX19 "CounterDesk$Test" ⟨"CounterDesk$Test", "of", "(LCounterDesk$Asked;)Z"⟩ kX19_of 1 := ⟨q525, q527, q563, q560, q164, q561, rfl, Or.inr (Or.inl (xnw_of q526 rfl)), ⟨by decide +kernel, by decide +kernel, by decide +kernel⟩, by decide⟩
theorem cu_X15_33_9 : xCU RX15 33 RX11 "CounterDesk$Sum" ⟨"CounterDesk$Sum", "of", "(LCounterDesk$Asked;)J"⟩ kX11_of 1 := ⟨q564, q533, q534, q535, q156, q536, rfl, Or.inr (Or.inl (xnw_of q532 rfl)), ⟨by decide +kernel, by decide +kernel, by decide +kernel⟩, by decide⟩
theorem cu_X15_33_10 : xCU RX15 33 RX12 "CounterDesk$Sum" ⟨"CounterDesk$Sum", "of", "(LCounterDesk$Asked;)J"⟩ kX12_of 1 := ⟨q564, q533, q555, q546, q157, q547, rfl, Or.inr (Or.inl (xnw_of q532 rfl)), ⟨by decide +kernel, by decide +kernel, by decide +kernel⟩, by decide⟩
theorem cu_X15_33_11 : xCU RX15 33 RX13 "CounterDesk$Sum" ⟨"CounterDesk$Sum", "of", "(LCounterDesk$Asked;)J"⟩ kX13_of 1 := ⟨q564, q533, q554, q541, q158, q542, rfl, Or.inr (Or.inl (xnw_of q532 rfl)), ⟨by decide +kernel, by decide +kernel, by decide +kernel⟩, by decide⟩
theorem cu_X15_33_12 : xCU RX15 33 RX14 "CounterDesk$Sum" ⟨"CounterDesk$Sum", "of", "(LCounterDesk$Asked;)J"⟩ kX14_of 1 := ⟨q564, q533, q537, q538, q159, q539, rfl, Or.inr (Or.inl (xnw_of q532 rfl)), ⟨by decide +kernel, by decide +kernel, by decide +kernel⟩, by decide⟩
theorem cu_X17_20_9 : xCU RX17 20 RX11 "CounterDesk$Sum" ⟨"CounterDesk$Sum", "of", "(LCounterDesk$Asked;)J"⟩ kX11_of 1 := ⟨q531, q533, q534, q535, q156, q536, rfl, Or.inr (Or.inl (xnw_of q532 rfl)), ⟨by decide +kernel, by decide +kernel, by decide +kernel⟩, by decide⟩
theorem cu_X17_20_10 : xCU RX17 20 RX12 "CounterDesk$Sum" ⟨"CounterDesk$Sum", "of", "(LCounterDesk$Asked;)J"⟩ kX12_of 1 := ⟨q531, q533, q555, q546, q157, q547, rfl, Or.inr (Or.inl (xnw_of q532 rfl)), ⟨by decide +kernel, by decide +kernel, by decide +kernel⟩, by decide⟩
theorem cu_X17_20_11 : xCU RX17 20 RX13 "CounterDesk$Sum" ⟨"CounterDesk$Sum", "of", "(LCounterDesk$Asked;)J"⟩ kX13_of 1 := ⟨q531, q533, q554, q541, q158, q542, rfl, Or.inr (Or.inl (xnw_of q532 rfl)), ⟨by decide +kernel, by decide +kernel, by decide +kernel⟩, by decide⟩
theorem cu_X17_20_12 : xCU RX17 20 RX14 "CounterDesk$Sum" ⟨"CounterDesk$Sum", "of", "(LCounterDesk$Asked;)J"⟩ kX14_of 1 := ⟨q531, q533, q537, q538, q159, q539, rfl, Or.inr (Or.inl (xnw_of q532 rfl)), ⟨by decide +kernel, by decide +kernel, by decide +kernel⟩, by decide⟩
theorem ob_X1_3 : xOb RX1 3 := ⟨q183, q176, q177⟩
theorem ci_X1_11 : xCI RX1 11 kJ2_init 0 := ⟨q186, q187, q134, q188, rfl, rfl, rfl, ⟨by decide +kernel, by decide +kernel, by decide +kernel⟩, by decide⟩
theorem ci_X1_38 : xCI RX1 38 kX1_init 0 := ⟨q1564, q181, q131, q182, rfl, rfl, rfl, ⟨by decide +kernel, by decide +kernel, by decide +kernel⟩, by decide⟩
theorem cv_X1_39 : xCV RX1 39 RJ2 kJ2_addAll 1 := ⟨q1565, q1566, q1567, q134, q1568, rfl, ⟨rfl, by decide +kernel, by decide +kernel, by decide +kernel⟩, by decide⟩
theorem cv_X1_49 : xCV RX1 49 RX2 kX2_as 1 := ⟨q1581, q1295, q1296, q135, q1297, rfl, ⟨rfl, by decide +kernel, by decide +kernel, by decide +kernel⟩, by decide⟩
theorem ob_X22_1 : xOb RX22 1 := ⟨q1539, q176, q177⟩
theorem cu_X14_20_9 : xCU RX14 20 RX11 "CounterDesk$Sum" ⟨"CounterDesk$Sum", "of", "(LCounterDesk$Asked;)J"⟩ kX11_of 1 := ⟨q540, q533, q534, q535, q156, q536, rfl, Or.inr (Or.inl (xnw_of q532 rfl)), ⟨by decide +kernel, by decide +kernel, by decide +kernel⟩, by decide⟩
theorem cu_X14_20_10 : xCU RX14 20 RX12 "CounterDesk$Sum" ⟨"CounterDesk$Sum", "of", "(LCounterDesk$Asked;)J"⟩ kX12_of 1 := ⟨q540, q533, q555, q546, q157, q547, rfl, Or.inr (Or.inl (xnw_of q532 rfl)), ⟨by decide +kernel, by decide +kernel, by decide +kernel⟩, by decide⟩
theorem cu_X14_20_11 : xCU RX14 20 RX13 "CounterDesk$Sum" ⟨"CounterDesk$Sum", "of", "(LCounterDesk$Asked;)J"⟩ kX13_of 1 := ⟨q540, q533, q554, q541, q158, q542, rfl, Or.inr (Or.inl (xnw_of q532 rfl)), ⟨by decide +kernel, by decide +kernel, by decide +kernel⟩, by decide⟩
theorem cu_X14_20_12 : xCU RX14 20 RX14 "CounterDesk$Sum" ⟨"CounterDesk$Sum", "of", "(LCounterDesk$Asked;)J"⟩ kX14_of 1 := ⟨q540, q533, q537, q538, q159, q539, rfl, Or.inr (Or.inl (xnw_of q532 rfl)), ⟨by decide +kernel, by decide +kernel, by decide +kernel⟩, by decide⟩
theorem cv_X14_30 : xCV RX14 30 RX4 kX4_within 1 := ⟨q548, q549, q550, q137, q551, rfl, ⟨rfl, by decide +kernel, by decide +kernel, by decide +kernel⟩, by decide⟩
theorem ci_X8_31 : xCI RX8 31 kX7_init 2 := ⟨q735, q736, q150, q737, rfl, rfl, rfl, ⟨by decide +kernel, by decide +kernel, by decide +kernel⟩, by decide⟩
theorem cu_X8_53_7 : xCU RX8 53 RX8 "CounterDesk$Reader" ⟨"CounterDesk$LawReader", "readAll", "()I"⟩ kX7_readAll 0 := ⟨q787, q788, q790, q791, q150, q792, rfl, Or.inl rfl, ⟨by decide +kernel, by decide +kernel, by decide +kernel⟩, by decide⟩
theorem ci_X8_65 : xCI RX8 65 kX5_init 1 := ⟨q1191, q318, q138, q319, rfl, rfl, rfl, ⟨by decide +kernel, by decide +kernel, by decide +kernel⟩, by decide⟩
theorem cu_X8_68_7 : xCU RX8 68 RX8 "CounterDesk$Reader" ⟨"CounterDesk$LawReader", "which", "([Ljava/lang/String;)I"⟩ kX7_which 1 := ⟨q841, q842, q844, q845, q150, q846, rfl, Or.inl rfl, ⟨by decide +kernel, by decide +kernel, by decide +kernel⟩, by decide⟩
theorem cu_X8_72_7 : xCU RX8 72 RX8 "CounterDesk$Reader" ⟨"CounterDesk$LawReader", "must", "(Z)V"⟩ kX7_must 1 := ⟨q899, q900, q902, q806, q150, q810, rfl, Or.inl rfl, ⟨by decide +kernel, by decide +kernel, by decide +kernel⟩, by decide⟩
theorem cu_X8_76_7 : xCU RX8 76 RX8 "CounterDesk$Reader" ⟨"CounterDesk$LawReader", "next", "()V"⟩ kX7_next 0 := ⟨q903, q904, q906, q794, q150, q798, rfl, Or.inl rfl, ⟨by decide +kernel, by decide +kernel, by decide +kernel⟩, by decide⟩
theorem cu_X8_80_7 : xCU RX8 80 RX8 "CounterDesk$Reader" ⟨"CounterDesk$LawReader", "sum", "()LCounterDesk$Sum;"⟩ kX7_sum 0 := ⟨q907, q908, q910, q911, q150, q912, rfl, Or.inl rfl, ⟨by decide +kernel, by decide +kernel, by decide +kernel⟩, by decide⟩
theorem cu_X8_86_7 : xCU RX8 86 RX8 "CounterDesk$Reader" ⟨"CounterDesk$LawReader", "accept", "(Ljava/lang/String;)Z"⟩ kX7_accept 1 := ⟨q1025, q1026, q1028, q933, q150, q937, rfl, Or.inl rfl, ⟨by decide +kernel, by decide +kernel, by decide +kernel⟩, by decide⟩
theorem cu_X8_90_7 : xCU RX8 90 RX8 "CounterDesk$Reader" ⟨"CounterDesk$LawReader", "test", "()LCounterDesk$Test;"⟩ kX7_test 0 := ⟨q1029, q1030, q1032, q1033, q150, q1034, rfl, Or.inl rfl, ⟨by decide +kernel, by decide +kernel, by decide +kernel⟩, by decide⟩
theorem ci_X8_94 : xCI RX8 94 kX15_init 3 := ⟨q1103, q1104, q160, q1105, rfl, rfl, rfl, ⟨by decide +kernel, by decide +kernel, by decide +kernel⟩, by decide⟩
theorem cu_X18_13_14 : xCU RX18 13 RX17 "CounterDesk$Test" ⟨"CounterDesk$Test", "of", "(LCounterDesk$Asked;)Z"⟩ kX17_of 1 := ⟨q559, q527, q528, q529, q162, q530, rfl, Or.inr (Or.inl (xnw_of q526 rfl)), ⟨by decide +kernel, by decide +kernel, by decide +kernel⟩, by decide⟩
theorem cu_X18_13_15 : xCU RX18 13 RX18 "CounterDesk$Test" ⟨"CounterDesk$Test", "of", "(LCounterDesk$Asked;)Z"⟩ kX18_of 1 := ⟨q559, q527, q556, q557, q163, q558, rfl, Or.inr (Or.inl (xnw_of q526 rfl)), ⟨by decide +kernel, by decide +kernel, by decide +kernel⟩, by decide⟩
theorem cu_X18_13_16 : xCU RX18 13 RX19 "CounterDesk$Test" ⟨"CounterDesk$Test", "of", "(LCounterDesk$Asked;)Z"⟩ kX19_of 1 := ⟨q559, q527, q563, q560, q164, q561, rfl, Or.inr (Or.inl (xnw_of q526 rfl)), ⟨by decide +kernel, by decide +kernel, by decide +kernel⟩, by decide⟩
theorem ci_X21_25 : xCI RX21 25 kX7_init 2 := ⟨q1466, q736, q150, q737, rfl, rfl, rfl, ⟨by decide +kernel, by decide +kernel, by decide +kernel⟩, by decide⟩
theorem cu_X21_37_18 : xCU RX21 37 RX21 "CounterDesk$Reader" ⟨"CounterDesk$OrderReader", "readAll", "()I"⟩ kX7_readAll 0 := ⟨q1487, q1488, q1489, q791, q150, q792, rfl, Or.inl rfl, ⟨by decide +kernel, by decide +kernel, by decide +kernel⟩, by decide⟩
theorem cu_X21_47_18 : xCU RX21 47 RX21 "CounterDesk$Reader" ⟨"CounterDesk$OrderReader", "accept", "(Ljava/lang/String;)Z"⟩ kX7_accept 1 := ⟨q1131, q1132, q1133, q933, q150, q937, rfl, Or.inl rfl, ⟨by decide +kernel, by decide +kernel, by decide +kernel⟩, by decide⟩
theorem cu_X21_51_18 : xCU RX21 51 RX21 "CounterDesk$Reader" ⟨"CounterDesk$OrderReader", "must", "(Z)V"⟩ kX7_must 1 := ⟨q1168, q1169, q1170, q806, q150, q810, rfl, Or.inl rfl, ⟨by decide +kernel, by decide +kernel, by decide +kernel⟩, by decide⟩
theorem cu_X21_55_18 : xCU RX21 55 RX21 "CounterDesk$Reader" ⟨"CounterDesk$OrderReader", "sum", "()LCounterDesk$Sum;"⟩ kX7_sum 0 := ⟨q1171, q1172, q1173, q911, q150, q912, rfl, Or.inl rfl, ⟨by decide +kernel, by decide +kernel, by decide +kernel⟩, by decide⟩
theorem ci_X21_74 : xCI RX21 74 kX12_init 1 := ⟨q971, q972, q157, q973, rfl, rfl, rfl, ⟨by decide +kernel, by decide +kernel, by decide +kernel⟩, by decide⟩
theorem cu_X21_79_18 : xCU RX21 79 RX21 "CounterDesk$Reader" ⟨"CounterDesk$OrderReader", "number", "(I)I"⟩ kX7_number 1 := ⟨q981, q982, q984, q946, q150, q950, rfl, Or.inl rfl, ⟨by decide +kernel, by decide +kernel, by decide +kernel⟩, by decide⟩
theorem ci_X21_83 : xCI RX21 83 kX13_init 3 := ⟨q985, q986, q158, q987, rfl, rfl, rfl, ⟨by decide +kernel, by decide +kernel, by decide +kernel⟩, by decide⟩
theorem ci_X21_88 : xCI RX21 88 kX20_init 4 := ⟨q1136, q1137, q165, q1138, rfl, rfl, rfl, ⟨by decide +kernel, by decide +kernel, by decide +kernel⟩, by decide⟩
theorem cv_X21_98 : xCV RX21 98 RX21 kX21_behind 1 := ⟨q1175, q1177, qs22, q168, q1178, rfl, ⟨rfl, by decide +kernel, by decide +kernel, by decide +kernel⟩, by decide⟩
theorem cv_X21_102 : xCV RX21 102 RX21 kX21_act 0 := ⟨q1125, q1127, qs21, q168, q1129, rfl, ⟨rfl, by decide +kernel, by decide +kernel, by decide +kernel⟩, by decide⟩
theorem cv_X21_108 : xCV RX21 108 RX21 kX21_isNought 0 := ⟨q1180, q1182, qs23, q168, q1183, rfl, ⟨rfl, by decide +kernel, by decide +kernel, by decide +kernel⟩, by decide⟩
theorem cu_X21_116_18 : xCU RX21 116 RX21 "CounterDesk$Reader" ⟨"CounterDesk$OrderReader", "test", "()LCounterDesk$Test;"⟩ kX7_test 0 := ⟨q1185, q1186, q1187, q1033, q150, q1034, rfl, Or.inl rfl, ⟨by decide +kernel, by decide +kernel, by decide +kernel⟩, by decide⟩
theorem ob_X7_9 : xOb RX7 9 := ⟨q738, q176, q177⟩
theorem cu_X7_25_18 : xCU RX7 25 RX21 "CounterDesk$Reader" ⟨"CounterDesk$Reader", "next", "()V"⟩ kX7_next 0 := ⟨q793, q795, q797, q794, q150, q798, rfl, Or.inl rfl, ⟨by decide +kernel, by decide +kernel, by decide +kernel⟩, by decide⟩
theorem cu_X7_25_7 : xCU RX7 25 RX8 "CounterDesk$Reader" ⟨"CounterDesk$Reader", "next", "()V"⟩ kX7_next 0 := ⟨q793, q795, q796, q794, q150, q798, rfl, Or.inl rfl, ⟨by decide +kernel, by decide +kernel, by decide +kernel⟩, by decide⟩
theorem cu_X7_28_18 : xCU RX7 28 RX21 "CounterDesk$Reader" ⟨"CounterDesk$Reader", "must", "(Z)V"⟩ kX7_must 1 := ⟨q805, q807, q809, q806, q150, q810, rfl, Or.inl rfl, ⟨by decide +kernel, by decide +kernel, by decide +kernel⟩, by decide⟩
theorem cu_X7_28_7 : xCU RX7 28 RX8 "CounterDesk$Reader" ⟨"CounterDesk$Reader", "must", "(Z)V"⟩ kX7_must 1 := ⟨q805, q807, q808, q806, q150, q810, rfl, Or.inl rfl, ⟨by decide +kernel, by decide +kernel, by decide +kernel⟩, by decide⟩
theorem cu_X7_32_18 : xCU RX7 32 RX21 "CounterDesk$Reader" ⟨"CounterDesk$Reader", "read", "(I)V"⟩ kX21_read 1 := ⟨q835, q837, q1122, q1123, q168, q1124, rfl, Or.inr (Or.inl (xnw_of q836 rfl)), ⟨by decide +kernel, by decide +kernel, by decide +kernel⟩, by decide⟩
theorem cu_X7_32_7 : xCU RX7 32 RX8 "CounterDesk$Reader" ⟨"CounterDesk$Reader", "read", "(I)V"⟩ kX8_read_2 1 := ⟨q835, q837, q838, q839, q151, q840, rfl, Or.inr (Or.inl (xnw_of q836 rfl)), ⟨by decide +kernel, by decide +kernel, by decide +kernel⟩, by decide⟩
theorem cu_X7_38_18 : xCU RX7 38 RX21 "CounterDesk$Reader" ⟨"CounterDesk$Reader", "accept", "(Ljava/lang/String;)Z"⟩ kX7_accept 1 := ⟨q932, q934, q936, q933, q150, q937, rfl, Or.inl rfl, ⟨by decide +kernel, by decide +kernel, by decide +kernel⟩, by decide⟩
theorem cu_X7_38_7 : xCU RX7 38 RX8 "CounterDesk$Reader" ⟨"CounterDesk$Reader", "accept", "(Ljava/lang/String;)Z"⟩ kX7_accept 1 := ⟨q932, q934, q935, q933, q150, q937, rfl, Or.inl rfl, ⟨by decide +kernel, by decide +kernel, by decide +kernel⟩, by decide⟩
theorem cv_X7_63 : xCV RX7 63 RJ11 kJ11_length 0 := ⟨q853, q854, q855, q148, q856, rfl, ⟨rfl, by decide +kernel, by decide +kernel, by decide +kernel⟩, by decide⟩
theorem cv_X7_69 : xCV RX7 69 RJ11 kJ11_charAt 1 := ⟨q863, q864, q865, q148, q866, rfl, ⟨rfl, by decide +kernel, by decide +kernel, by decide +kernel⟩, by decide⟩
theorem cu_X7_73_18 : xCU RX7 73 RX21 "CounterDesk$Reader" ⟨"CounterDesk$Reader", "isWord", "(Ljava/lang/String;)Z"⟩ kX7_isWord 1 := ⟨q847, q849, q851, q848, q150, q852, rfl, Or.inl rfl, ⟨by decide +kernel, by decide +kernel, by decide +kernel⟩, by decide⟩
theorem cu_X7_73_7 : xCU RX7 73 RX8 "CounterDesk$Reader" ⟨"CounterDesk$Reader", "isWord", "(Ljava/lang/String;)Z"⟩ kX7_isWord 1 := ⟨q847, q849, q850, q848, q150, q852, rfl, Or.inl rfl, ⟨by decide +kernel, by decide +kernel, by decide +kernel⟩, by decide⟩
theorem ci_X7_78 : xCI RX7 78 kX9_init 1 := ⟨q820, q821, q152, q822, rfl, rfl, rfl, ⟨by decide +kernel, by decide +kernel, by decide +kernel⟩, by decide⟩
theorem cu_X7_83_7 : xCU RX7 83 RX8 "CounterDesk$Reader" ⟨"CounterDesk$Reader", "both", "()LCounterDesk$Test;"⟩ kX7_both 0 := ⟨q1035, q2303, qx1, q1037, q150, q1038, rfl, Or.inl rfl, ⟨by decide +kernel, by decide +kernel, by decide +kernel⟩, by decide⟩
theorem cu_X7_83_18 : xCU RX7 83 RX21 "CounterDesk$Reader" ⟨"CounterDesk$Reader", "both", "()LCounterDesk$Test;"⟩ kX7_both 0 := ⟨q1035, q2303, qx10, q1037, q150, q1038, rfl, Or.inl rfl, ⟨by decide +kernel, by decide +kernel, by decide +kernel⟩, by decide⟩
theorem cu_X7_87_7 : xCU RX7 87 RX8 "CounterDesk$Reader" ⟨"CounterDesk$Reader", "add", "(LCounterDesk$Test;)V"⟩ kX7_add 1 := ⟨q1079, q2308, qx0, q1081, q150, q1082, rfl, Or.inl rfl, ⟨by decide +kernel, by decide +kernel, by decide +kernel⟩, by decide⟩
theorem cu_X7_87_18 : xCU RX7 87 RX21 "CounterDesk$Reader" ⟨"CounterDesk$Reader", "add", "(LCounterDesk$Test;)V"⟩ kX7_add 1 := ⟨q1079, q2308, qx9, q1081, q150, q1082, rfl, Or.inl rfl, ⟨by decide +kernel, by decide +kernel, by decide +kernel⟩, by decide⟩
theorem cu_X7_93_7 : xCU RX7 93 RX8 "CounterDesk$Reader" ⟨"CounterDesk$Reader", "joined", "(ZI)LCounterDesk$Test;"⟩ kX7_joined 2 := ⟨q1084, q2309, qx3, q1086, q150, q1087, rfl, Or.inl rfl, ⟨by decide +kernel, by decide +kernel, by decide +kernel⟩, by decide⟩
theorem cu_X7_93_18 : xCU RX7 93 RX21 "CounterDesk$Reader" ⟨"CounterDesk$Reader", "joined", "(ZI)LCounterDesk$Test;"⟩ kX7_joined 2 := ⟨q1084, q2309, qx12, q1086, q150, q1087, rfl, Or.inl rfl, ⟨by decide +kernel, by decide +kernel, by decide +kernel⟩, by decide⟩
theorem cu_X7_97_7 : xCU RX7 97 RX8 "CounterDesk$Reader" ⟨"CounterDesk$Reader", "plain", "()LCounterDesk$Test;"⟩ kX7_plain 0 := ⟨q1039, q2304, qx7, q1041, q150, q1042, rfl, Or.inl rfl, ⟨by decide +kernel, by decide +kernel, by decide +kernel⟩, by decide⟩
theorem cu_X7_97_18 : xCU RX7 97 RX21 "CounterDesk$Reader" ⟨"CounterDesk$Reader", "plain", "()LCounterDesk$Test;"⟩ kX7_plain 0 := ⟨q1039, q2304, qx16, q1041, q150, q1042, rfl, Or.inl rfl, ⟨by decide +kernel, by decide +kernel, by decide +kernel⟩, by decide⟩
theorem ci_X7_110 : xCI RX7 110 kX19_init 2 := ⟨q1091, q1092, q164, q1093, rfl, rfl, rfl, ⟨by decide +kernel, by decide +kernel, by decide +kernel⟩, by decide⟩
theorem cu_X7_123_7 : xCU RX7 123 RX8 "CounterDesk$Reader" ⟨"CounterDesk$Reader", "open", "()V"⟩ kX7_open 0 := ⟨q922, q2294, qx5, q924, q150, q925, rfl, Or.inl rfl, ⟨by decide +kernel, by decide +kernel, by decide +kernel⟩, by decide⟩
theorem cu_X7_123_18 : xCU RX7 123 RX21 "CounterDesk$Reader" ⟨"CounterDesk$Reader", "open", "()V"⟩ kX7_open 0 := ⟨q922, q2294, qx14, q924, q150, q925, rfl, Or.inl rfl, ⟨by decide +kernel, by decide +kernel, by decide +kernel⟩, by decide⟩
theorem cu_X7_126_18 : xCU RX7 126 RX21 "CounterDesk$Reader" ⟨"CounterDesk$Reader", "test", "()LCounterDesk$Test;"⟩ kX7_test 0 := ⟨q1045, q2305, q2307, q1033, q150, q1034, rfl, Or.inl rfl, ⟨by decide +kernel, by decide +kernel, by decide +kernel⟩, by decide⟩
theorem cu_X7_126_7 : xCU RX7 126 RX8 "CounterDesk$Reader" ⟨"CounterDesk$Reader", "test", "()LCounterDesk$Test;"⟩ kX7_test 0 := ⟨q1045, q2305, q2306, q1033, q150, q1034, rfl, Or.inl rfl, ⟨by decide +kernel, by decide +kernel, by decide +kernel⟩, by decide⟩
theorem cu_X7_131_7 : xCU RX7 131 RX8 "CounterDesk$Reader" ⟨"CounterDesk$Reader", "close", "(Ljava/lang/String;)V"⟩ kX7_close 1 := ⟨q928, q2298, qx2, q930, q150, q931, rfl, Or.inl rfl, ⟨by decide +kernel, by decide +kernel, by decide +kernel⟩, by decide⟩
theorem cu_X7_131_18 : xCU RX7 131 RX21 "CounterDesk$Reader" ⟨"CounterDesk$Reader", "close", "(Ljava/lang/String;)V"⟩ kX7_close 1 := ⟨q928, q2298, qx11, q930, q150, q931, rfl, Or.inl rfl, ⟨by decide +kernel, by decide +kernel, by decide +kernel⟩, by decide⟩
theorem cu_X7_135_18 : xCU RX7 135 RX21 "CounterDesk$Reader" ⟨"CounterDesk$Reader", "sum", "()LCounterDesk$Sum;"⟩ kX7_sum 0 := ⟨q926, q2295, q2297, q911, q150, q912, rfl, Or.inl rfl, ⟨by decide +kernel, by decide +kernel, by decide +kernel⟩, by decide⟩
theorem cu_X7_135_7 : xCU RX7 135 RX8 "CounterDesk$Reader" ⟨"CounterDesk$Reader", "sum", "()LCounterDesk$Sum;"⟩ kX7_sum 0 := ⟨q926, q2295, q2296, q911, q150, q912, rfl, Or.inl rfl, ⟨by decide +kernel, by decide +kernel, by decide +kernel⟩, by decide⟩
theorem ci_X7_147 : xCI RX7 147 kX17_init 3 := ⟨q1052, q1053, q162, q1054, rfl, rfl, rfl, ⟨by decide +kernel, by decide +kernel, by decide +kernel⟩, by decide⟩
theorem ci_X7_152 : xCI RX7 152 kX18_init 1 := ⟨q1071, q1072, q163, q1073, rfl, rfl, rfl, ⟨by decide +kernel, by decide +kernel, by decide +kernel⟩, by decide⟩
theorem cu_X7_154_7 : xCU RX7 154 RX8 "CounterDesk$Reader" ⟨"CounterDesk$Reader", "term", "()LCounterDesk$Sum;"⟩ kX7_term 0 := ⟨q913, q2292, qx8, q915, q150, q916, rfl, Or.inl rfl, ⟨by decide +kernel, by decide +kernel, by decide +kernel⟩, by decide⟩
theorem cu_X7_154_18 : xCU RX7 154 RX21 "CounterDesk$Reader" ⟨"CounterDesk$Reader", "term", "()LCounterDesk$Sum;"⟩ kX7_term 0 := ⟨q913, q2292, qx17, q915, q150, q916, rfl, Or.inl rfl, ⟨by decide +kernel, by decide +kernel, by decide +kernel⟩, by decide⟩
theorem ci_X7_163 : xCI RX7 163 kX14_init 3 := ⟨q1007, q1008, q159, q1009, rfl, rfl, rfl, ⟨by decide +kernel, by decide +kernel, by decide +kernel⟩, by decide⟩
theorem cu_X7_164_7 : xCU RX7 164 RX8 "CounterDesk$Reader" ⟨"CounterDesk$Reader", "part", "()LCounterDesk$Sum;"⟩ kX7_part 0 := ⟨q917, q2293, qx6, q919, q150, q920, rfl, Or.inl rfl, ⟨by decide +kernel, by decide +kernel, by decide +kernel⟩, by decide⟩
theorem cu_X7_164_18 : xCU RX7 164 RX21 "CounterDesk$Reader" ⟨"CounterDesk$Reader", "part", "()LCounterDesk$Sum;"⟩ kX7_part 0 := ⟨q917, q2293, qx15, q919, q150, q920, rfl, Or.inl rfl, ⟨by decide +kernel, by decide +kernel, by decide +kernel⟩, by decide⟩
theorem cu_X7_177_18 : xCU RX7 177 RX21 "CounterDesk$Reader" ⟨"CounterDesk$Reader", "which", "([Ljava/lang/String;)I"⟩ kX7_which 1 := ⟨q938, q2299, q2301, q845, q150, q846, rfl, Or.inl rfl, ⟨by decide +kernel, by decide +kernel, by decide +kernel⟩, by decide⟩
theorem cu_X7_177_7 : xCU RX7 177 RX8 "CounterDesk$Reader" ⟨"CounterDesk$Reader", "which", "([Ljava/lang/String;)I"⟩ kX7_which 1 := ⟨q938, q2299, q2300, q845, q150, q846, rfl, Or.inl rfl, ⟨by decide +kernel, by decide +kernel, by decide +kernel⟩, by decide⟩
theorem cu_X7_181_7 : xCU RX7 181 RX8 "CounterDesk$Reader" ⟨"CounterDesk$Reader", "leaf", "()V"⟩ kX7_leaf 0 := ⟨q939, q2302, qx4, q941, q150, q942, rfl, Or.inl rfl, ⟨by decide +kernel, by decide +kernel, by decide +kernel⟩, by decide⟩
theorem cu_X7_181_18 : xCU RX7 181 RX21 "CounterDesk$Reader" ⟨"CounterDesk$Reader", "leaf", "()V"⟩ kX7_leaf 0 := ⟨q939, q2302, qx13, q941, q150, q942, rfl, Or.inl rfl, ⟨by decide +kernel, by decide +kernel, by decide +kernel⟩, by decide⟩
theorem cu_X7_186_18 : xCU RX7 186 RX21 "CounterDesk$Reader" ⟨"CounterDesk$Reader", "number", "(I)I"⟩ kX7_number 1 := ⟨q945, q947, q949, q946, q150, q950, rfl, Or.inl rfl, ⟨by decide +kernel, by decide +kernel, by decide +kernel⟩, by decide⟩
theorem cu_X7_186_7 : xCU RX7 186 RX8 "CounterDesk$Reader" ⟨"CounterDesk$Reader", "number", "(I)I"⟩ kX7_number 1 := ⟨q945, q947, q948, q946, q150, q950, rfl, Or.inl rfl, ⟨by decide +kernel, by decide +kernel, by decide +kernel⟩, by decide⟩
theorem ci_X7_190 : xCI RX7 190 kX11_init 1 := ⟨q951, q952, q156, q953, rfl, rfl, rfl, ⟨by decide +kernel, by decide +kernel, by decide +kernel⟩, by decide⟩
theorem cu_X7_191_18 : xCU RX7 191 RX21 "CounterDesk$Reader" ⟨"CounterDesk$Reader", "behindWord", "(I)LCounterDesk$Sum;"⟩ kX21_behindWord 1 := ⟨q962, q964, q966, q967, q168, q968, rfl, Or.inr (Or.inr ⟨_, _, _, q999, q963⟩), ⟨by decide +kernel, by decide +kernel, by decide +kernel⟩, by decide⟩
theorem cu_X7_191_7 : xCU RX7 191 RX8 "CounterDesk$Reader" ⟨"CounterDesk$Reader", "behindWord", "(I)LCounterDesk$Sum;"⟩ kX7_behindWord 1 := ⟨q962, q964, q965, q963, q150, q999, rfl, Or.inl rfl, ⟨by decide +kernel, by decide +kernel, by decide +kernel⟩, by decide⟩
theorem ci_X7_197 : xCI RX7 197 kX12_init 1 := ⟨q1001, q972, q157, q973, rfl, rfl, rfl, ⟨by decide +kernel, by decide +kernel, by decide +kernel⟩, by decide⟩
theorem cu_X19_17_14 : xCU RX19 17 RX17 "CounterDesk$Test" ⟨"CounterDesk$Test", "of", "(LCounterDesk$Asked;)Z"⟩ kX17_of 1 := ⟨q562, q527, q528, q529, q162, q530, rfl, Or.inr (Or.inl (xnw_of q526 rfl)), ⟨by decide +kernel, by decide +kernel, by decide +kernel⟩, by decide⟩
theorem cu_X19_17_15 : xCU RX19 17 RX18 "CounterDesk$Test" ⟨"CounterDesk$Test", "of", "(LCounterDesk$Asked;)Z"⟩ kX18_of 1 := ⟨q562, q527, q556, q557, q163, q558, rfl, Or.inr (Or.inl (xnw_of q526 rfl)), ⟨by decide +kernel, by decide +kernel, by decide +kernel⟩, by decide⟩
theorem cu_X19_17_16 : xCU RX19 17 RX19 "CounterDesk$Test" ⟨"CounterDesk$Test", "of", "(LCounterDesk$Asked;)Z"⟩ kX19_of 1 := ⟨q562, q527, q563, q560, q164, q561, rfl, Or.inr (Or.inl (xnw_of q526 rfl)), ⟨by decide +kernel, by decide +kernel, by decide +kernel⟩, by decide⟩
theorem ob_X3_3 : xOb RX3 3 := ⟨q275, q176, q177⟩
theorem cv_X3_28 : xCV RX3 28 RX2 kX2_as 1 := ⟨q1294, q1295, q1296, q135, q1297, rfl, ⟨rfl, by decide +kernel, by decide +kernel, by decide +kernel⟩, by decide⟩
theorem ob_X10_1 : xOb RX10 1 := ⟨q957, q176, q177⟩
theorem ob_X16_1 : xOb RX16 1 := ⟨q1058, q176, q177⟩
theorem ob_X5_1 : xOb RX5 1 := ⟨q320, q176, q177⟩
theorem cv_X5_19 : xCV RX5 19 RX15 kX15_holds 1 := ⟨q521, q522, q523, q160, q524, rfl, ⟨rfl, by decide +kernel, by decide +kernel, by decide +kernel⟩, by decide⟩
theorem cs_X5_27 : xCS RX5 27 kJ3_min_2 2 := ⟨q565, q566, q140, q567, rfl, ⟨by decide +kernel, by decide +kernel, by decide +kernel⟩, by decide⟩
theorem cs_X5_33 : xCS RX5 33 kJ3_max 2 := ⟨q568, q569, q140, q570, rfl, ⟨by decide +kernel, by decide +kernel, by decide +kernel⟩, by decide⟩
theorem ci_X9_1 : xCI RX9 1 kJ7_init_2 4 := ⟨q823, q824, q144, q825, rfl, rfl, rfl, ⟨by decide +kernel, by decide +kernel, by decide +kernel⟩, by decide⟩
theorem ci_J10_7 : xCI RJ10 7 kJ9_init 1 := ⟨q629, q630, q146, q631, rfl, rfl, rfl, ⟨by decide +kernel, by decide +kernel, by decide +kernel⟩, by decide⟩
theorem ci_J7_7 : xCI RJ7 7 kJ6_init 1 := ⟨q638, q639, q143, q640, rfl, rfl, rfl, ⟨by decide +kernel, by decide +kernel, by decide +kernel⟩, by decide⟩
theorem ci_J7_16 : xCI RJ7 16 kJ6_init_3 4 := ⟨q826, q827, q143, q828, rfl, rfl, rfl, ⟨by decide +kernel, by decide +kernel, by decide +kernel⟩, by decide⟩
theorem ci_J9_7 : xCI RJ9 7 kJ8_init 1 := ⟨q632, q633, q145, q634, rfl, rfl, rfl, ⟨by decide +kernel, by decide +kernel, by decide +kernel⟩, by decide⟩
theorem ci_J8_7 : xCI RJ8 7 kJ7_init 1 := ⟨q635, q636, q144, q637, rfl, rfl, rfl, ⟨by decide +kernel, by decide +kernel, by decide +kernel⟩, by decide⟩
theorem cv_J11_335 : xCV RJ11 335 RJ11 kJ11_coder 0 := ⟨q857, q858, q859, q148, q860, rfl, ⟨rfl, by decide +kernel, by decide +kernel, by decide +kernel⟩, by decide⟩
theorem cv_J11_492 : xCV RJ11 492 RJ11 kJ11_isLatin1 0 := ⟨q867, q868, q869, q148, q870, rfl, ⟨rfl, by decide +kernel, by decide +kernel, by decide +kernel⟩, by decide⟩
theorem cs_J11_495 : xCS RJ11 495 kJ12_charAt 2 := ⟨q871, q872, q153, q873, rfl, ⟨by decide +kernel, by decide +kernel, by decide +kernel⟩, by decide⟩
theorem cs_J11_498 : xCS RJ11 498 kJ13_charAt 2 := ⟨q880, q881, q154, q882, rfl, ⟨by decide +kernel, by decide +kernel, by decide +kernel⟩, by decide⟩
theorem cs_J11_1059 : xCS RJ11 1059 kJ5_checkIndex 3 := ⟨q879, q508, q142, q509, rfl, ⟨by decide +kernel, by decide +kernel, by decide +kernel⟩, by decide⟩
theorem cs_J12_9 : xCS RJ12 9 kJ11_checkIndex 2 := ⟨q874, q875, q148, q876, rfl, ⟨by decide +kernel, by decide +kernel, by decide +kernel⟩, by decide⟩
theorem cs_J13_48 : xCS RJ13 48 kJ13_length 1 := ⟨q886, q887, q154, q888, rfl, ⟨by decide +kernel, by decide +kernel, by decide +kernel⟩, by decide⟩
theorem cs_J13_67 : xCS RJ13 67 kJ13_checkIndex 2 := ⟨q883, q884, q154, q885, rfl, ⟨by decide +kernel, by decide +kernel, by decide +kernel⟩, by decide⟩
theorem cs_J13_71 : xCS RJ13 71 kJ13_getChar 2 := ⟨q890, q891, q154, q892, rfl, ⟨by decide +kernel, by decide +kernel, by decide +kernel⟩, by decide⟩
theorem cs_J13_414 : xCS RJ13 414 kJ11_checkIndex 2 := ⟨q889, q875, q148, q876, rfl, ⟨by decide +kernel, by decide +kernel, by decide +kernel⟩, by decide⟩
theorem ob_J6_1 : xOb RJ6 1 := ⟨q641, q176, q177⟩
theorem ob_J0_1 : xOb RJ0 1 := ⟨q195, q176, q177⟩
theorem ci_J1_1 : xCI RJ1 1 kJ0_init 0 := ⟨q192, q193, q132, q194, rfl, rfl, rfl, ⟨by decide +kernel, by decide +kernel, by decide +kernel⟩, by decide⟩
theorem ci_J2_1 : xCI RJ2 1 kJ1_init 0 := ⟨q189, q190, q133, q191, rfl, rfl, rfl, ⟨by decide +kernel, by decide +kernel, by decide +kernel⟩, by decide⟩
theorem cs_J2_66 : xCS RJ2 66 kJ15_copyOf 2 := ⟨q1218, q1219, q167, q1220, rfl, ⟨by decide +kernel, by decide +kernel, by decide +kernel⟩, by decide⟩
theorem cv_J2_69 : xCV RJ2 69 RJ2 kJ2_grow_2 1 := ⟨q1204, q1206, qs26, q134, q1207, rfl, ⟨rfl, by decide +kernel, by decide +kernel, by decide +kernel⟩, by decide⟩
theorem cs_J2_73 : xCS RJ2 73 kJ14_newLength 3 := ⟨q1208, q1209, q166, q1210, rfl, ⟨by decide +kernel, by decide +kernel, by decide +kernel⟩, by decide⟩
theorem cs_J2_79 : xCS RJ2 79 kJ3_max_2 2 := ⟨q1255, q1212, q140, q1213, rfl, ⟨by decide +kernel, by decide +kernel, by decide +kernel⟩, by decide⟩
theorem cs_J2_118 : xCS RJ2 118 kJ4_checkIndex 2 := ⟨q504, q505, q141, q506, rfl, ⟨by decide +kernel, by decide +kernel, by decide +kernel⟩, by decide⟩
theorem cv_J2_123 : xCV RJ2 123 RJ2 kJ2_elementData 1 := ⟨q510, q511, q512, q134, q513, rfl, ⟨rfl, by decide +kernel, by decide +kernel, by decide +kernel⟩, by decide⟩
theorem cv_J2_129 : xCV RJ2 129 RJ2 kJ2_grow 0 := ⟨q1200, q1202, qs25, q134, q1203, rfl, ⟨rfl, by decide +kernel, by decide +kernel, by decide +kernel⟩, by decide⟩
theorem cv_J2_131 : xCV RJ2 131 RJ2 kJ2_add_2 3 := ⟨q1196, q1198, qs24, q134, q1199, rfl, ⟨rfl, by decide +kernel, by decide +kernel, by decide +kernel⟩, by decide⟩
theorem cs_J15_300 : xCS RJ15 300 kJ15_copyOf_2 3 := ⟨q1247, q1248, q167, q1249, rfl, ⟨by decide +kernel, by decide +kernel, by decide +kernel⟩, by decide⟩
theorem cs_J15_304 : xCS RJ15 304 kJ3_min 2 := ⟨q1253, q470, q140, q471, rfl, ⟨by decide +kernel, by decide +kernel, by decide +kernel⟩, by decide⟩
theorem cs_J4_105 : xCS RJ4 105 kJ5_checkIndex 3 := ⟨q507, q508, q142, q509, rfl, ⟨by decide +kernel, by decide +kernel, by decide +kernel⟩, by decide⟩
theorem cs_J14_194 : xCS RJ14 194 kJ3_max_2 2 := ⟨q1211, q1212, q140, q1213, rfl, ⟨by decide +kernel, by decide +kernel, by decide +kernel⟩, by decide⟩
theorem cs_J14_201 : xCS RJ14 201 kJ14_hugeLength 2 := ⟨q1215, q1216, q166, q1217, rfl, ⟨by decide +kernel, by decide +kernel, by decide +kernel⟩, by decide⟩
theorem cin_X0_17 : xCIN RX0 17 "CounterDesk" kX1_init 0 := ⟨xnw_of q180 rfl, q181, q131, q182, rfl, rfl, rfl, ⟨by decide +kernel, by decide +kernel, by decide +kernel⟩, by decide⟩
theorem cin_X0_38 : xCIN RX0 38 "CounterDesk" kX2_init 0 := ⟨xnw_of q289 rfl, q215, q135, q216, rfl, rfl, rfl, ⟨by decide +kernel, by decide +kernel, by decide +kernel⟩, by decide⟩
theorem cin_X0_48 : xCIN RX0 48 "CounterDesk" kX4_init 0 := ⟨xnw_of q292 rfl, q293, q137, q294, rfl, rfl, rfl, ⟨by decide +kernel, by decide +kernel, by decide +kernel⟩, by decide⟩
theorem cvn_X20_39 : xCVN RX20 39 "CounterDesk" RX0 kX0_books 0 := ⟨xnw_of q1507 rfl, q459, qs3, q130, q460, rfl, ⟨by decide +kernel, by decide +kernel, by decide +kernel⟩, by decide⟩
theorem cvn_X20_54 : xCVN RX20 54 "CounterDesk" RX0 kX0_barredOnes 0 := ⟨xnw_of q1508 rfl, q1275, qs28, q130, q1276, rfl, ⟨by decide +kernel, by decide +kernel, by decide +kernel⟩, by decide⟩
theorem cvn_X20_58 : xCVN RX20 58 "CounterDesk" RX0 kX0_sumOf 1 := ⟨xnw_of q1509 rfl, q1279, qs29, q130, q1280, rfl, ⟨by decide +kernel, by decide +kernel, by decide +kernel⟩, by decide⟩
theorem cvn_X20_79 : xCVN RX20 79 "CounterDesk" RX0 kX0_setNow 2 := ⟨xnw_of q1520 rfl, q1287, qs30, q130, q1288, rfl, ⟨by decide +kernel, by decide +kernel, by decide +kernel⟩, by decide⟩
theorem cvn_X20_83 : xCVN RX20 83 "CounterDesk" RX0 kX0_shiftNow 2 := ⟨xnw_of q1521 rfl, q1305, qs31, q130, q1306, rfl, ⟨by decide +kernel, by decide +kernel, by decide +kernel⟩, by decide⟩
theorem cvn_X20_86 : xCVN RX20 86 "CounterDesk" RX0 kX0_swapNow 0 := ⟨xnw_of q1522 rfl, q1313, qs32, q130, q1314, rfl, ⟨by decide +kernel, by decide +kernel, by decide +kernel⟩, by decide⟩
theorem cvn_X20_89 : xCVN RX20 89 "CounterDesk" RX0 kX0_passNow 0 := ⟨xnw_of q1523 rfl, q1325, qs33, q130, q1326, rfl, ⟨by decide +kernel, by decide +kernel, by decide +kernel⟩, by decide⟩
theorem cin_X11_1 : xCIN RX11 1 "CounterDesk" kX10_init 0 := ⟨xnw_of q954 rfl, q955, q155, q956, rfl, rfl, rfl, ⟨by decide +kernel, by decide +kernel, by decide +kernel⟩, by decide⟩
theorem cin_X17_1 : xCIN RX17 1 "CounterDesk" kX16_init 0 := ⟨xnw_of q1055 rfl, q1056, q161, q1057, rfl, rfl, rfl, ⟨by decide +kernel, by decide +kernel, by decide +kernel⟩, by decide⟩
theorem cin_X1_29 : xCIN RX1 29 "CounterDesk" kX2_init 0 := ⟨xnw_of q214 rfl, q215, q135, q216, rfl, rfl, rfl, ⟨by decide +kernel, by decide +kernel, by decide +kernel⟩, by decide⟩
theorem cin_X14_1 : xCIN RX14 1 "CounterDesk" kX10_init 0 := ⟨xnw_of q1010 rfl, q955, q155, q956, rfl, rfl, rfl, ⟨by decide +kernel, by decide +kernel, by decide +kernel⟩, by decide⟩
theorem cin_X18_1 : xCIN RX18 1 "CounterDesk" kX16_init 0 := ⟨xnw_of q1074 rfl, q1056, q161, q1057, rfl, rfl, rfl, ⟨by decide +kernel, by decide +kernel, by decide +kernel⟩, by decide⟩
theorem cin_X13_9 : xCIN RX13 9 "CounterDesk" kX10_init 0 := ⟨xnw_of q988 rfl, q955, q155, q956, rfl, rfl, rfl, ⟨by decide +kernel, by decide +kernel, by decide +kernel⟩, by decide⟩
theorem cvn_X13_22 : xCVN RX13 22 "CounterDesk" RX0 kX0_isNote 1 := ⟨xnw_of q543 rfl, q478, qs6, q130, q479, rfl, ⟨by decide +kernel, by decide +kernel, by decide +kernel⟩, by decide⟩
theorem cvn_X13_30 : xCVN RX13 30 "CounterDesk" RX0 kX0_books 0 := ⟨xnw_of q545 rfl, q459, qs3, q130, q460, rfl, ⟨by decide +kernel, by decide +kernel, by decide +kernel⟩, by decide⟩
theorem cin_X12_1 : xCIN RX12 1 "CounterDesk" kX10_init 0 := ⟨xnw_of q974 rfl, q955, q155, q956, rfl, rfl, rfl, ⟨by decide +kernel, by decide +kernel, by decide +kernel⟩, by decide⟩
theorem csn_X7_56 : xCSN RX7 56 "CounterDesk" kX0_isLetter 1 := ⟨xnw_of q799 rfl, q800, q130, q801, rfl, ⟨by decide +kernel, by decide +kernel, by decide +kernel⟩, by decide⟩
theorem csn_X7_60 : xCSN RX7 60 "CounterDesk" kX0_isDigit 1 := ⟨xnw_of q802 rfl, q803, q130, q804, rfl, ⟨by decide +kernel, by decide +kernel, by decide +kernel⟩, by decide⟩
theorem cin_X19_1 : xCIN RX19 1 "CounterDesk" kX16_init 0 := ⟨xnw_of q1094 rfl, q1056, q161, q1057, rfl, rfl, rfl, ⟨by decide +kernel, by decide +kernel, by decide +kernel⟩, by decide⟩
theorem cin_X3_17 : xCIN RX3 17 "CounterDesk" kX2_init 0 := ⟨xnw_of q278 rfl, q215, q135, q216, rfl, rfl, rfl, ⟨by decide +kernel, by decide +kernel, by decide +kernel⟩, by decide⟩
