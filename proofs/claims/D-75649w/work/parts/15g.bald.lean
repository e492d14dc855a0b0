set_option maxRecDepth 100000
/-! ===== a byte behind the end: the machine throws ===== -/
theorem bx_ot : ∀ w ∈ vx_atM "java/lang/ArrayIndexOutOfBoundsException" ["java/lang/IndexOutOfBoundsException", "java/lang/RuntimeException", "java/lang/Exception"], vx_ot w = true := by decide +kernel
theorem bx_nw : ∀ w ∈ vx_atM "java/lang/ArrayIndexOutOfBoundsException" ["java/lang/IndexOutOfBoundsException", "java/lang/RuntimeException", "java/lang/Exception"], goodWord w = true ∨ xNw w = true := by decide +kernel
theorem bx_on : ∀ w ∈ vx_atM "java/lang/ArrayIndexOutOfBoundsException" ["java/lang/IndexOutOfBoundsException", "java/lang/RuntimeException", "java/lang/Exception"], xNw w = true → w.onTables = true := by decide +kernel
theorem bx_at : ∀ w ∈ vx_atM "java/lang/ArrayIndexOutOfBoundsException" ["java/lang/IndexOutOfBoundsException", "java/lang/RuntimeException", "java/lang/Exception"], lw_tbl.contains w = true := by decide +kernel
def bx_P (n : Nat) : Bool := decide ((stringBytes (stringToUtf16 (toString "Index " ++ toString (Int32.ofNat n) ++ toString " out of bounds for length " ++ toString n : String))).size ≤ 60) && !((toString "Index " ++ toString (Int32.ofNat n) ++ toString " out of bounds for length " ++ toString n : String) == notModelled)
theorem bx_t0 : (List.range 41).all (fun n => bx_P (n + 0)) = true := by decide +kernel
theorem bx_t1 : (List.range 41).all (fun n => bx_P (n + 41)) = true := by decide +kernel
theorem bx_t2 : (List.range 41).all (fun n => bx_P (n + 82)) = true := by decide +kernel
theorem bx_t3 : (List.range 41).all (fun n => bx_P (n + 123)) = true := by decide +kernel
theorem bx_t4 : (List.range 41).all (fun n => bx_P (n + 164)) = true := by decide +kernel
theorem bx_t5 : (List.range 41).all (fun n => bx_P (n + 205)) = true := by decide +kernel
theorem bx_t6 : (List.range 41).all (fun n => bx_P (n + 246)) = true := by decide +kernel
theorem bx_t7 : (List.range 41).all (fun n => bx_P (n + 287)) = true := by decide +kernel
theorem bx_t8 : (List.range 41).all (fun n => bx_P (n + 328)) = true := by decide +kernel
theorem bx_t9 : (List.range 41).all (fun n => bx_P (n + 369)) = true := by decide +kernel
theorem bx_text (n : Nat) (hn : n < 401) : ((stringBytes (stringToUtf16 (toString "Index " ++ toString (Int32.ofNat n) ++ toString " out of bounds for length " ++ toString n : String))).size ≤ 60 ∧ ((toString "Index " ++ toString (Int32.ofNat n) ++ toString " out of bounds for length " ++ toString n : String) == notModelled) = false) := by
  have h : bx_P n = true := by
    have hall : ∀ k, ∀ i, i < 41 → (List.range 41).all (fun n => bx_P (n + k)) = true → bx_P (i + k) = true := fun k i hi h => List.all_eq_true.mp h i (List.mem_range.mpr hi)
    have hm : n % 41 < 41 := Nat.mod_lt _ (by decide)
    have e := Nat.div_add_mod n 41
    have hd : n / 41 < 10 := by omega
    generalize n / 41 = q at e hd
    generalize n % 41 = r at e hm
    have : n = r + 41 * q := by omega
    rw [this]
    match q, hd with
    | 0, _ => exact hall _ r hm bx_t0
    | 1, _ => exact hall _ r hm bx_t1
    | 2, _ => exact hall _ r hm bx_t2
    | 3, _ => exact hall _ r hm bx_t3
    | 4, _ => exact hall _ r hm bx_t4
    | 5, _ => exact hall _ r hm bx_t5
    | 6, _ => exact hall _ r hm bx_t6
    | 7, _ => exact hall _ r hm bx_t7
    | 8, _ => exact hall _ r hm bx_t8
    | 9, _ => exact hall _ r hm bx_t9
  unfold bx_P at h
  rw [Bool.and_eq_true] at h
  exact ⟨of_decide_eq_true h.1, by simpa using h.2⟩
theorem bx_out : ∀ n : Nat, n < 401 → n ≤ (Int32.ofNat n).toNatClampNeg := by decide +kernel
section BX
variable {G : xG} {l : Launch} {M : xM} {d k n : Nat} {Q : xR → xH → Prop} {pc : Nat} {lv : xLs} {g : xH} {m : tM}
theorem x_baldX {a N0 : Nat} {i : Int32} (hl : l.stackTraces = false) (hh : M.2.2.2.2 = []) (hdg : decode M.2.1 pc = .ok (.baload, 1)) (ho : tA m 2 N0 a) (hi : i = Int32.ofNat N0) (hN : N0 ≤ 400) (hk : 3 ≤ k) (hn : 70 ≤ n) (hd : 200 ≤ d)
    (hq : ∀ q, Q (.inr ("java/lang/ArrayIndexOutOfBoundsException", q)) (tH G g m)) : xF G l M d k n Q pc lv [.int i, rfv a] (tH G g m) := by
  obtain ⟨a, rfl⟩ := Nat.exists_eq_succ_of_ne_zero ho.2
  subst hi
  intro p e R s m₀ args below meth c H locs cells slots ls F hL hc hs hR hS
  have hts := F.2.2.2.2.2.1
  have hK := F.2.2.2.2.2.2.2.2.2.2.1
  have hKs := hK.2.2.2.2
  have tx1 := bx_text N0 (by omega)
  have tx2 : ¬ vp_in (Int32.ofNat N0) N0 := fun q => q (Or.inr (bx_out N0 (by omega)))
  obtain ⟨hA, hcell⟩ := hR a _ (tH_I (Or.inr (Or.inl rfl)) ho)
  have hka : va_K G.1 xcl [(G.2.1 2, .byte)] s := ⟨hK.1.1, fun j q hj => by
    cases j with
    | zero => cases hj; exact hK.1.2.1 2 _ rfl
    | succ j => simp at hj⟩
  have hpa : va_P G.1 xcl [(a, .inl (G.2.1 2, N0, .inl (m.2.1 (a + 1))))] H := fun j q hj => by
    cases j with
    | zero => cases hj; exact hcell
    | succ j => simp at hj
  refine vx_baldZ F.1 F.2.1 hka hpa 0 0 rfl rfl tx2 hdg (fun tx htx => ?_)
  subst htx
  have h1 := F.2.2.2.2.2.2.2.2.1
  have h2 := F.2.2.2.2.2.2.2.2.2.1
  refine vx_vm (names := ["java/lang/IndexOutOfBoundsException", "java/lang/RuntimeException", "java/lang/Exception"]) (nb := 60) (A := xA G) F.1 hl (by decide +kernel) (by decide +kernel) (by decide) (by decide) (fun w hw => ?_) bx_ot hKs.2.2.2.2.2.1 hKs.2.2.2.2.2.2.1 hS (by rw [F.2.2.2.1]; exact hL.1) tx1.2 tx1.1 (by decide) (by show 3 + 4 < R.frames; omega) (by show 0 + 10240 ≤ R.locals; omega) (by decide) (by omega) (by omega) F.2.2.2.2.2.2.1 (fun H1 q9 ce hsz hold hS1 hce hcv hcl => ?_)
  · have hm : w ∈ lw_tbl := List.contains_iff_mem.mp (bx_at w hw)
    rcases bx_nw w hw with hg | hg
    · exact hts w (lw_g hm hg)
    · exact (by have hx := hK.2.2.1 w (xnw_of hm hg); have ho2 := bx_on w hw hg; exact va_any ho2 hx)
  · refine vx_out (E := "java/lang/ArrayIndexOutOfBoundsException") (fun x hx => ?_) F.2.2.2.2.2.2.1 hce hcv hcl (fun t ht hal => ⟨⟨_, hq q9, by
        rw [ht]
        intro b e9 hb
        obtain ⟨r1, r2⟩ := hR b e9 hb
        exact ⟨r1, r2.kept (hold b r2.lt)⟩⟩, hS1.F ht⟩) hS1.2.2 (by omega) (by omega)
    have h9 := F.2.2.2.2.2.2.2.2.2.2.2
    rw [hh, List.map_eq_nil_iff] at h9
    rw [h9] at hx
    cases hx
end BX
def v_X0_byteAtX (x0 : Nat) (x1 : Int32) (k n : Nat) (s : tM) (Kr : Int32 → tM → Prop) (Kx : String → Nat → tM → Prop) : Prop := ∃ N0, tA s 2 N0 x0 ∧ ((vp_in x1 N0 ∧ Kr (tI s x0 x1.toNatClampNeg &&& 255) s) ∨ (x1 = Int32.ofNat N0 ∧ N0 ≤ 400 ∧ 3 ≤ k ∧ 70 ≤ n ∧ ∀ q, Kx "java/lang/ArrayIndexOutOfBoundsException" q s))
theorem e_X0_byteAtX {G : xG} {l : Launch} {g : xH} {d : Nat} (hl : l.stackTraces = false) (hd : 200 ≤ d) {x0 : Nat} {x1 : Int32} {k n : Nat} {s : tM} {Kr : Int32 → tM → Prop} {Kx : String → Nat → tM → Prop} (h : v_X0_byteAtX x0 x1 k n s Kr Kx) : xC G l kX0_byteAt d k n [rfv x0, .int x1] (tH G g s) (tQ G g wi Kr Kx) := by
  refine t_start rfl (by decide +kernel) (by simp [xct_i, rfv_c]) (lv := [some (rfv x0), some (.int x1)]) (by simp [lv_args, xLv, rfv_c, xct_i]) ?_
  obtain ⟨N0, ho, h⟩ := h
  refine t_aload_0 dX0_byteAt_0 ?_
  refine x_iload_1 dX0_byteAt_1 ?_
  rcases h with ⟨hin, h⟩ | ⟨e1, e2, e3, e4, h⟩
  · refine t_bald dX0_byteAt_2 ⟨N0, ho, hin⟩ ?_
    refine x_sipush (v := 255) dX0_byteAt_3 (by decide) ?_
    refine x_iand dX0_byteAt_6 ?_
    exact x_iret dX0_byteAt_7 rfl (Or.inl ⟨_, _, h, rfl, rfl⟩)
  · exact x_baldX hl rfl dX0_byteAt_2 ho e1 e2 e3 e4 hd (fun q => Or.inr ⟨_, _, _, h (q + 1), rfl, rfl⟩)
