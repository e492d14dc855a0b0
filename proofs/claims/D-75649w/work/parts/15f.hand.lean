set_option maxRecDepth 100000
/-! ===== methods with handlers ===== -/
/-- what is thrown at pc as an E is caught by the first entry of the table, at hp -/
def xHd (M : xM) (pc hp : Nat) (E : String) : Prop := ∃ (s0 e0 ct : Nat) (hs : List (Nat × Nat × Nat × Nat)), M.2.2.2.2 = (s0, e0, hp, ct) :: hs ∧ s0 ≤ pc ∧ pc < e0 ∧ ct ≠ 0 ∧ Cond.classLink M.1.cls ct E ∈ lw_all ∧ Cond.castable E E ∈ xnw
theorem xC.startH {G : xG} {l : Launch} {M : xM} {d mc ms : Nat} {av : List Value} {h : xH} {Q : xR → xH → Prop} {lv : xLs} (hh : M.2.2.2.2 ≠ []) (hy : plainName M.1.cls = true) (hn : (av.map fun v => v.category).sum ≤ M.2.2.1) (hlv : xLv 0 lv = lv_args 0 av)
    (k : xF G l M d mc ms Q 0 lv [] h) : xC G l M d mc ms av h Q := by
  have hw : xws M = Cond.codeWith M.1 M.2.1 M.2.2.1 M.2.2.2.1 M.2.2.2.2 :: lw_all := by
    unfold xws xwd
    cases hM : M.2.2.2.2 with
    | nil => exact absurd hM hh
    | cons x r => rfl
  refine vx_ofWH (cc := M.2.1) (maxL := M.2.2.1) (ret := M.2.2.2.1) (hh := M.2.2.2.2) hy hw ?_
  intro p e s m args below meth c s₁ B hml hv
  obtain ⟨rfl, hK, hR⟩ := hv
  have hts := atoms_spec (ws := xws M) B.pre
  have hown : s.vm.findClass M.1.cls = some m.cls := findClass_of_methodNamed B.named
  have hin : meth.name = M.1.name := (name_of_methodNamed B.named B.method).1
  have hl := lv_entry av (n := M.2.2.1) (by
      have : ∀ r : List Value, (lg_sl r).length ≤ (r.map fun v => v.category).sum := by
        intro r
        induction r with
        | nil => simp [lg_sl]
        | cons a r ih =>
          rcases lv_cat a with h | h
          · simp [lg_sl, h] at ih ⊢
            omega
          · simp [lg_sl, h] at ih ⊢
            omega
      exact Nat.le_trans (this av) hn)
  rw [lg_entry_eq]
  generalize (lg_sl av ++ List.replicate (M.2.2.1 - (lg_sl av).length) Slot.unset).toArray = ls at hl ⊢
  have hL : xHas ls M.2.2.1 lv := by unfold xHas; rw [hlv]; exact hl
  have htab : c.exceptionTable.toList.map (fun x => (x.startPc, x.endPc, x.handlerPc, x.catchType)) = M.2.2.2.2 := by
    obtain ⟨m9, meth9, c9, hn9, h1, h2, -, -, h5, -⟩ := Cond.codeWith_spec (hts _ (by rw [hw]; exact List.mem_cons_self))
    cases B.named.symm.trans hn9
    cases Option.some.inj (h1.symm.trans B.method)
    cases Option.some.inj (h2.symm.trans (Stand.of_body B).code)
    exact h5
  exact k p e (xrm d mc ms) s m _ below meth c s.heap [] 0 0 ls ⟨B.exec, B.bytes, B.returns, hml, hown, fun w hw9 => hts w (by rw [hw]; exact List.mem_cons_of_mem _ hw9), B.notSynchronized, hin, Nat.le_refl _, Nat.le_refl _, hK, htab⟩ hL (by simp) (by simp) hR va_S.rf
section XH
variable {G : xG} {l : Launch} {M M' : xM} {d k n mc ms : Nat} {Q Q' : xR → xH → Prop} {pc : Nat} {lv : xLs} {st As rest : List Value} {h g : xH} {m : tM} {idx ar : Nat}
theorem x_goesH {p : Program} {e : Env} {R : Room} {s : State} {m : MethodId} {args : Array Value} {below : List Frame} {meth : Method} {c : Code} {H : Heap} {locs : List Loc} {cells slots : Nat} {a : Array Value} {ls : Array Slot} {st0 rest : List Value} (F : xFr G l M (d + 1) p R s m args meth c) (hL : xHas ls M.2.2.1 lv) (hc : cells + k ≤ R.cells) (hs : slots + n ≤ R.slots) (hm : mc ≤ k ∧ ms ≤ n)
    (hr : vx_Run p l e R s m args below meth c H locs cells slots mc ms (F0 m pc ls st0) rest (xQ G Q' a) (xX G Q') (xA G)) (hS : va_S (xA G) s.heap H locs)
    (kx : ∀ (E : String) (q : Addr) (h1 : xH), Q' (.inr (E, q)) h1 → ∃ hp, xHd M pc hp E ∧ xF G l M (d + 1) (k - mc) (n - ms) Q hp lv [.ref q] h1)
    (kk : ∀ (v : Option Value) (h1 : xH), Q' (.inl v) h1 → xF G l M (d + 1) (k - mc) (n - ms) Q (pc + 3) lv (v.toList ++ rest) h1) :
    W p l e R s m args below meth c H locs cells slots (vx_MQ below (xQ G Q) (xX G Q) args s R.cells R.slots (xA G)) (F0 m pc ls st0) := by
  refine x_run hr hS (fun E ce q h1 H1 locs1 q1 r1 s1 hce hcv hcl => ?_) (fun v h1 H1 locs1 q1 r1 s1 => ?_)
  · obtain ⟨hp, ⟨s0, e0, ct, hs9, hM, c1, c2, c3, w1, w2⟩, hk⟩ := kx E q h1 q1
    have h9 := F.2.2.2.2.2.2.2.2.2.2.2
    rw [hM] at h9
    cases hc9 : c.exceptionTable.toList with
    | nil => rw [hc9] at h9; cases h9
    | cons x suf =>
      rw [hc9, List.map_cons] at h9
      obtain ⟨hx, -⟩ := List.cons.inj h9
      simp only [Prod.mk.injEq] at hx
      obtain ⟨x1, x2, x3, x4⟩ := hx
      refine vx_catch F.2.2.2.2.1 [] x suf hc9 (fun z hz => nomatch hz) (by simp [covers, x1, x2, c1, c2]) (by rw [x4]; exact c3) (by rw [x4]; exact F.2.2.2.2.2.1 _ w1) (va_Nw.use rfl (F.2.2.2.2.2.2.2.2.2.2.1.2.2.1 _ w2)) hce hcv hcl ?_
      rw [x3]
      exact hk p e R s m args below meth c H1 locs1 (cells + mc) (slots + ms) ls F hL (by omega) (by omega) r1 s1
  · exact kk v h1 q1 p e R s m args below meth c H1 locs1 (cells + mc) (slots + ms) ls F hL (by omega) (by omega) r1 s1
theorem x_cVH {ci b : Nat} {C : String} {T : u_T} {N : Nat} {fs : List Value} (hw : xCV M.1.cls idx C M' ar) (hcl : xcl[ci]? = some (C, T, N)) (hb : h b = some (.inr (ci, fs))) (har : As.length = ar) (hst : st = As.reverse ++ .ref b :: rest) (hrm : (rest.map fun v => v.category).sum ≤ 8) (hdg : decode M.2.1 pc = .ok (.invokevirtual idx, 3)) (hC : xC G l M' d mc ms (.ref b :: As) h Q') (hm : mc ≤ k ∧ ms ≤ n)
    (kx : ∀ (E : String) (q : Addr) (h1 : xH), Q' (.inr (E, q)) h1 → ∃ hp, xHd M pc hp E ∧ xF G l M (d + 1) (k - mc) (n - ms) Q hp lv [.ref q] h1)
    (kk : ∀ (v : Option Value) (h1 : xH), Q' (.inl v) h1 → xF G l M (d + 1) (k - mc) (n - ms) Q (pc + 3) lv (v.toList ++ rest) h1) : xF G l M (d + 1) k n Q pc lv st h := by
  intro p e R s m args below meth c H locs cells slots ls F hL hc hs hR hS
  obtain ⟨w1, w2, w3, w4, w5, w6, w7, w8⟩ := hw
  have cw : CallW R s args M.1.cls C idx M'.1 M'.2.1 M'.2.2.1 M'.2.2.2.1 (xws M') (xrm d mc ms) mc ms ar := cwV ar F.2.2.2.2.2.1 (lw_app (by
    intro w hw
    simp only [List.mem_cons, List.not_mem_nil, or_false] at hw
    rcases hw with e | e | e | e
    · rw [e]; exact w1
    · rw [e]; exact w2
    · rw [e]; exact w3
    · rw [e]; exact w4) (xws_good w5)) (xws_eq w6) rfl rfl w7 (x_room F.2.2.2.2.2.2.2.2.1 F.2.2.2.2.2.2.2.2.2.1 w8)
  have hrecv : ∃ cellB : Cell, H[b]? = some cellB ∧ cellB.vm.isStatics = false ∧ s.vm.findClass C = some cellB.cls := by
    obtain ⟨-, cell, g1, g2, g3, -⟩ := hR.cell hb hcl
    exact ⟨cell, g1, by rw [g3]; rfl, by rw [g2]; exact (F.2.2.2.2.2.2.2.2.2.2.1.1.1 ci _ hcl).2.1⟩
  have hr := vx_runV (rest := rest) (below := below) (e := e) (meth := meth) (locs := locs) (cells := cells) (slots := slots) (g := F0 m pc ls st) ⟨F.1, F.2.1, F.2.2.2.1, F.2.2.2.2.1, F.2.2.2.2.2.1⟩ hC cw ⟨xPc.blind, hrecv, xPc.callee F hR hS⟩ rfl har hL.1 hst (lv_room hrm) hdg ⟨by omega, by omega⟩
  exact x_goesH F hL hc hs hm hr hS kx kk
theorem x_cSH   (hw : xCS M.1.cls idx M' ar) (har : As.length = ar) (hst : st = As.reverse ++ rest) (hrm : (rest.map fun v => v.category).sum ≤ 8) (hdg : decode M.2.1 pc = .ok (.invokestatic idx, 3)) (hC : xC G l M' d mc ms As h Q') (hm : mc ≤ k ∧ ms ≤ n)
    (kx : ∀ (E : String) (q : Addr) (h1 : xH), Q' (.inr (E, q)) h1 → ∃ hp, xHd M pc hp E ∧ xF G l M (d + 1) (k - mc) (n - ms) Q hp lv [.ref q] h1)
    (kk : ∀ (v : Option Value) (h1 : xH), Q' (.inl v) h1 → xF G l M (d + 1) (k - mc) (n - ms) Q (pc + 3) lv (v.toList ++ rest) h1) : xF G l M (d + 1) k n Q pc lv st h := by
  intro p e R s m args below meth c H locs cells slots ls F hL hc hs hR hS
  obtain ⟨w1, w2, w4, w5, w6, w7, w8⟩ := hw
  have cw := va_cwS (R := R) (ws := xws M') (rm := xrm d mc ms) (mc := mc) (ms := ms) ar F.2.2.2.2.2.1 (lw_app (by
    intro w hw
    simp only [List.mem_cons, List.not_mem_nil, or_false] at hw
    rcases hw with e | e | e
    · rw [e]; exact w1
    · rw [e]; exact w2
    · rw [e]; exact w4) (xws_good w5)) (xws_eq w6) rfl rfl w7 (x_room F.2.2.2.2.2.2.2.2.1 F.2.2.2.2.2.2.2.2.2.1 w8)
  have hr := vx_runS (rest := rest) (below := below) (e := e) (meth := meth) (locs := locs) (cells := cells) (slots := slots) (g := F0 m pc ls st) ⟨F.1, F.2.1, F.2.2.2.1, F.2.2.2.2.1, F.2.2.2.2.2.1⟩ hC cw ⟨xPc.blind, xPc.callee F hR hS⟩ rfl har hL.1 hst (lv_room hrm) hdg ⟨by omega, by omega⟩
  exact x_goesH F hL hc hs hm hr hS kx kk
theorem x_cIH {b : Nat} (hw : xCI M.1.cls idx M' ar) (har : As.length = ar) (hst : st = As.reverse ++ .ref b :: rest) (hrm : (rest.map fun v => v.category).sum ≤ 8) (hdg : decode M.2.1 pc = .ok (.invokespecial idx, 3)) (hC : xC G l M' d mc ms (.ref b :: As) h Q') (hm : mc ≤ k ∧ ms ≤ n)
    (kx : ∀ (E : String) (q : Addr) (h1 : xH), Q' (.inr (E, q)) h1 → ∃ hp, xHd M pc hp E ∧ xF G l M (d + 1) (k - mc) (n - ms) Q hp lv [.ref q] h1)
    (kk : ∀ (v : Option Value) (h1 : xH), Q' (.inl v) h1 → xF G l M (d + 1) (k - mc) (n - ms) Q (pc + 3) lv (v.toList ++ rest) h1) : xF G l M (d + 1) k n Q pc lv st h := by
  intro p e R s m₀ args below meth c H locs cells slots ls F hL hc hs hR hS
  obtain ⟨w1, w2, w4, w5, w6, w9, wn, w7, w8⟩ := hw
  have cb := callB_of (R := R) (own := M.1.cls) (index := idx) (y := M'.1) (bytes := M'.2.1) (maxL := M'.2.2.1) (ret := none) (ws := xws M') (ws' := lw_all) (rm := xrm d mc ms) (mc := mc) (ms := ms) ar F.2.2.2.2.2.1 (xws_good w5) (by rw [xws_eq w6, w9]) rfl rfl (F.2.2.2.2.2.1 _ w4) (F.2.2.2.2.2.1 _ w1) w7 (x_room F.2.2.2.2.2.2.2.2.1 F.2.2.2.2.2.2.2.2.2.1 w8)
  have hr := vx_runI (b := b) (rest := rest) (below := below) (e := e) (meth := meth) (locs := locs) (cells := cells) (slots := slots) (g := F0 m₀ pc ls st) ⟨F.1, F.2.1, F.2.2.2.1, F.2.2.2.2.1, F.2.2.2.2.2.1⟩ hC ⟨cb, wn, F.2.2.2.2.2.1 _ w2⟩ ⟨xPc.blind, xPc.callee F hR hS⟩ rfl har hL.1 hst (lv_room hrm) hdg ⟨by omega, by omega⟩
  exact x_goesH F hL hc hs hm hr hS kx kk
theorem t_cViH {ci b : Nat} {C : String} {T : u_T} {N : Nat} {K : Int32 → tM → Prop} {Kx : String → Nat → tM → Prop} (hw : xCV M.1.cls idx C M' ar) (hcl : xcl[ci]? = some (C, T, N)) (hb : tO m ci b) (har : As.length = ar) (hst : st = As.reverse ++ rfv b :: rest) (hrm : (rest.map fun v => v.category).sum ≤ 8) (hdg : decode M.2.1 pc = .ok (.invokevirtual idx, 3)) (hC : xC G l M' d mc ms (rfv b :: As) (tH G g m) (tQ G g wi K Kx)) (hm : mc ≤ k ∧ ms ≤ n) (kx : ∀ (E : String) (q : Nat) (m1 : tM), Kx E (q + 1) m1 → ∃ hp, xHd M pc hp E ∧ xF G l M (d + 1) (k - mc) (n - ms) Q hp lv [rfv (q + 1)] (tH G g m1)) (kk : ∀ (v : Int32) (m1 : tM), K v m1 → xF G l M (d + 1) (k - mc) (n - ms) Q (pc + 3) lv (.int v :: rest) (tH G g m1)) : xF G l M (d + 1) k n Q pc lv st (tH G g m) := by
  obtain ⟨b, rfl⟩ := Nat.exists_eq_succ_of_ne_zero hb.2
  refine x_cVH hw hcl (tH_atO hb) har hst hrm hdg hC hm (fun E q h1 hq => ?_) (fun v h1 hq => ?_)
  · rcases hq with ⟨v, m1, -, e, -⟩ | ⟨E', q', m1, hx, e, rfl⟩
    · cases e
    · cases e
      exact kx _ _ _ hx
  · rcases hq with ⟨v', m1, h2, e, rfl⟩ | ⟨E', q', m1, -, e, -⟩
    · cases e
      exact kk v' m1 h2
    · cases e
theorem t_cVrH {ci b : Nat} {C : String} {T : u_T} {N : Nat} {K : Nat → tM → Prop} {Kx : String → Nat → tM → Prop} (hw : xCV M.1.cls idx C M' ar) (hcl : xcl[ci]? = some (C, T, N)) (hb : tO m ci b) (har : As.length = ar) (hst : st = As.reverse ++ rfv b :: rest) (hrm : (rest.map fun v => v.category).sum ≤ 8) (hdg : decode M.2.1 pc = .ok (.invokevirtual idx, 3)) (hC : xC G l M' d mc ms (rfv b :: As) (tH G g m) (tQ G g wr K Kx)) (hm : mc ≤ k ∧ ms ≤ n) (kx : ∀ (E : String) (q : Nat) (m1 : tM), Kx E (q + 1) m1 → ∃ hp, xHd M pc hp E ∧ xF G l M (d + 1) (k - mc) (n - ms) Q hp lv [rfv (q + 1)] (tH G g m1)) (kk : ∀ (v : Nat) (m1 : tM), K v m1 → xF G l M (d + 1) (k - mc) (n - ms) Q (pc + 3) lv (rfv v :: rest) (tH G g m1)) : xF G l M (d + 1) k n Q pc lv st (tH G g m) := by
  obtain ⟨b, rfl⟩ := Nat.exists_eq_succ_of_ne_zero hb.2
  refine x_cVH hw hcl (tH_atO hb) har hst hrm hdg hC hm (fun E q h1 hq => ?_) (fun v h1 hq => ?_)
  · rcases hq with ⟨v, m1, -, e, -⟩ | ⟨E', q', m1, hx, e, rfl⟩
    · cases e
    · cases e
      exact kx _ _ _ hx
  · rcases hq with ⟨v', m1, h2, e, rfl⟩ | ⟨E', q', m1, -, e, -⟩
    · cases e
      exact kk v' m1 h2
    · cases e
theorem t_cVvH {ci b : Nat} {C : String} {T : u_T} {N : Nat} {K : Unit → tM → Prop} {Kx : String → Nat → tM → Prop} (hw : xCV M.1.cls idx C M' ar) (hcl : xcl[ci]? = some (C, T, N)) (hb : tO m ci b) (har : As.length = ar) (hst : st = As.reverse ++ rfv b :: rest) (hrm : (rest.map fun v => v.category).sum ≤ 8) (hdg : decode M.2.1 pc = .ok (.invokevirtual idx, 3)) (hC : xC G l M' d mc ms (rfv b :: As) (tH G g m) (tQ G g wu K Kx)) (hm : mc ≤ k ∧ ms ≤ n) (kx : ∀ (E : String) (q : Nat) (m1 : tM), Kx E (q + 1) m1 → ∃ hp, xHd M pc hp E ∧ xF G l M (d + 1) (k - mc) (n - ms) Q hp lv [rfv (q + 1)] (tH G g m1)) (kk : ∀ (v : Unit) (m1 : tM), K v m1 → xF G l M (d + 1) (k - mc) (n - ms) Q (pc + 3) lv (rest) (tH G g m1)) : xF G l M (d + 1) k n Q pc lv st (tH G g m) := by
  obtain ⟨b, rfl⟩ := Nat.exists_eq_succ_of_ne_zero hb.2
  refine x_cVH hw hcl (tH_atO hb) har hst hrm hdg hC hm (fun E q h1 hq => ?_) (fun v h1 hq => ?_)
  · rcases hq with ⟨v, m1, -, e, -⟩ | ⟨E', q', m1, hx, e, rfl⟩
    · cases e
    · cases e
      exact kx _ _ _ hx
  · rcases hq with ⟨v', m1, h2, e, rfl⟩ | ⟨E', q', m1, -, e, -⟩
    · cases e
      exact kk v' m1 h2
    · cases e
theorem t_cSiH {K : Int32 → tM → Prop} {Kx : String → Nat → tM → Prop} (hw : xCS M.1.cls idx M' ar) (har : As.length = ar) (hst : st = As.reverse ++ rest) (hrm : (rest.map fun v => v.category).sum ≤ 8) (hdg : decode M.2.1 pc = .ok (.invokestatic idx, 3)) (hC : xC G l M' d mc ms As (tH G g m) (tQ G g wi K Kx)) (hm : mc ≤ k ∧ ms ≤ n) (kx : ∀ (E : String) (q : Nat) (m1 : tM), Kx E (q + 1) m1 → ∃ hp, xHd M pc hp E ∧ xF G l M (d + 1) (k - mc) (n - ms) Q hp lv [rfv (q + 1)] (tH G g m1)) (kk : ∀ (v : Int32) (m1 : tM), K v m1 → xF G l M (d + 1) (k - mc) (n - ms) Q (pc + 3) lv (.int v :: rest) (tH G g m1)) : xF G l M (d + 1) k n Q pc lv st (tH G g m) := by
  refine x_cSH hw har hst hrm hdg hC hm (fun E q h1 hq => ?_) (fun v h1 hq => ?_)
  · rcases hq with ⟨v, m1, -, e, -⟩ | ⟨E', q', m1, hx, e, rfl⟩
    · cases e
    · cases e
      exact kx _ _ _ hx
  · rcases hq with ⟨v', m1, h2, e, rfl⟩ | ⟨E', q', m1, -, e, -⟩
    · cases e
      exact kk v' m1 h2
    · cases e
theorem t_cIH {b : Nat} {K : Unit → tM → Prop} {Kx : String → Nat → tM → Prop} (hw : xCI M.1.cls idx M' ar) (hb : b ≠ 0) (har : As.length = ar) (hst : st = As.reverse ++ rfv b :: rest) (hrm : (rest.map fun v => v.category).sum ≤ 8) (hdg : decode M.2.1 pc = .ok (.invokespecial idx, 3)) (hC : xC G l M' d mc ms (rfv b :: As) (tH G g m) (tQ G g wu K Kx)) (hm : mc ≤ k ∧ ms ≤ n) (kx : ∀ (E : String) (q : Nat) (m1 : tM), Kx E (q + 1) m1 → ∃ hp, xHd M pc hp E ∧ xF G l M (d + 1) (k - mc) (n - ms) Q hp lv [rfv (q + 1)] (tH G g m1)) (kk : ∀ (v : Unit) (m1 : tM), K v m1 → xF G l M (d + 1) (k - mc) (n - ms) Q (pc + 3) lv (rest) (tH G g m1)) : xF G l M (d + 1) k n Q pc lv st (tH G g m) := by
  obtain ⟨b, rfl⟩ := Nat.exists_eq_succ_of_ne_zero hb
  refine x_cIH hw har hst hrm hdg hC hm (fun E q h1 hq => ?_) (fun v h1 hq => ?_)
  · rcases hq with ⟨v, m1, -, e, -⟩ | ⟨E', q', m1, hx, e, rfl⟩
    · cases e
    · cases e
      exact kx _ _ _ hx
  · rcases hq with ⟨v', m1, h2, e, rfl⟩ | ⟨E', q', m1, -, e, -⟩
    · cases e
      exact kk v' m1 h2
    · cases e
end XH
