set_option maxRecDepth 100000
/-! CORE 6: more rows -/
theorem w_mem4 {a b c d : Cond} (h1 : a ∈ lw_all) (h2 : b ∈ lw_all) (h3 : c ∈ lw_all) (h4 : d ∈ lw_all) : ∀ w ∈ [a, b, c, d], w ∈ lw_all := by
  intro w hw
  simp only [List.mem_cons, List.not_mem_nil, or_false] at hw
  rcases hw with rfl | rfl | rfl | rfl <;> assumption
theorem w_mem5 {a b c d e : Cond} (h1 : a ∈ lw_all) (h2 : b ∈ lw_all) (h3 : c ∈ lw_all) (h4 : d ∈ lw_all) (h5 : e ∈ lw_all) : ∀ w ∈ [a, b, c, d, e], w ∈ lw_all := by
  intro w hw
  simp only [List.mem_cons, List.not_mem_nil, or_false] at hw
  rcases hw with rfl | rfl | rfl | rfl | rfl <;> assumption
theorem w_mem6 {a b c d e f : Cond} (h1 : a ∈ lw_all) (h2 : b ∈ lw_all) (h3 : c ∈ lw_all) (h4 : d ∈ lw_all) (h5 : e ∈ lw_all) (h6 : f ∈ lw_all) : ∀ w ∈ [a, b, c, d, e, f], w ∈ lw_all := by
  intro w hw
  simp only [List.mem_cons, List.not_mem_nil, or_false] at hw
  rcases hw with rfl | rfl | rfl | rfl | rfl | rfl <;> assumption
def w_objq (i : Nat) (q : Cond) : Prop := q ∈ lw_tbl
theorem w_obj : ∀ (ci : Nat) (q : vw_C), wCl[ci]? = some q → Cond.castable q.1 "java/lang/Object" ∈ lw_tbl := by
  intro ci q h
  have hlt : ci < 27 := (List.getElem?_eq_some_iff.mp h).1
  have hc : ci = 0 ∨ ci = 1 ∨ ci = 2 ∨ ci = 3 ∨ ci = 4 ∨ ci = 5 ∨ ci = 6 ∨ ci = 7 ∨ ci = 8 ∨ ci = 9 ∨ ci = 10 ∨ ci = 11 ∨ ci = 12 ∨ ci = 13 ∨ ci = 14 ∨ ci = 15 ∨ ci = 16 ∨ ci = 17 ∨ ci = 18 ∨ ci = 19 ∨ ci = 20 ∨ ci = 21 ∨ ci = 22 ∨ ci = 23 ∨ ci = 24 ∨ ci = 25 ∨ ci = 26 := by omega
  rcases hc with rfl | rfl | rfl | rfl | rfl | rfl | rfl | rfl | rfl | rfl | rfl | rfl | rfl | rfl | rfl | rfl | rfl | rfl | rfl | rfl | rfl | rfl | rfl | rfl | rfl | rfl | rfl <;> cases Option.some.inj h
  · exact q3830
  · exact q3831
  · exact q3832
  · exact q3840
  · exact q3841
  · exact q3846
  · exact q3847
  · exact q3848
  · exact q3849
  · exact q3860
  · exact q3861
  · exact q3862
  · exact q3863
  · exact q3864
  · exact q3865
  · exact q3867
  · exact q3833
  · exact q3834
  · exact q3844
  · exact q3855
  · exact q3851
  · exact q3835
  · exact q3839
  · exact q3837
  · exact q3829
  · exact q3857
  · exact q3842
theorem w_recat {G : wG} {args : Array Value} {s : State} (hts : ∀ w ∈ lw_all, w.before args s = true) (hK : wK G s) {L : List Cond} (h : ∀ w ∈ L, w ∈ lw_all ∨ (w ∈ lw_tbl ∧ wNwKind w = true)) : ∀ w ∈ L, w.before args s = true := by
  intro w hw
  rcases h w hw with h1 | ⟨h1, h2⟩
  · exact hts w h1
  · have h3 := hK.2.2.1 w h1 h2
    cases w <;> first | exact va_Nw.use rfl h3 | exact absurd h2 (by simp [wNwKind])
theorem w_run_slots (at_ : Nat) : ∀ (xs : List Value) (i : Nat) (cd : Cell) (k : Nat), at_ + i + xs.length ≤ cd.slots.size → (cd.storePairs at_ (xs.zipIdx i)).slots[k]? = if at_ + i ≤ k ∧ k < at_ + i + xs.length then some (xs.getD (k - (at_ + i)) .null) else cd.slots[k]?
  | [], i, cd, k, h => by
    rw [if_neg (by simp only [List.length_nil]; omega)]
    rfl
  | x :: xs, i, cd, k, h => by
    rw [List.zipIdx_cons]
    show ((cd.setSlot (at_ + i) x).storePairs at_ (xs.zipIdx (i + 1))).slots[k]? = _
    have hl : (x :: xs).length = xs.length + 1 := rfl
    rw [w_run_slots at_ xs (i + 1) _ k (by rw [w_slot_size]; omega), w_slot_set (by omega)]
    by_cases hk : k = at_ + i
    · subst hk
      rw [if_neg (by omega), if_pos rfl, if_pos (by omega)]
      simp
    · by_cases h2 : at_ + (i + 1) ≤ k ∧ k < at_ + (i + 1) + xs.length
      · rw [if_pos h2, if_pos (by omega)]
        rw [show k - (at_ + i) = (k - (at_ + (i + 1))) + 1 by omega]
        simp
      · rw [if_neg h2, if_neg hk, if_neg (by omega)]
theorem w_copied {cs cd : Cell} {n0 n1 sp dp n : Nat} {f g f' : Nat → Value} (hs : ∀ j, j < n0 → cs.slots[j]? = some (f j)) (hd : ∀ j, j < n1 → cd.slots[j]? = some (g j)) (hz : cd.slots.size = n1) (h1 : sp + n ≤ n0) (h2 : dp + n ≤ n1) (hf : ∀ k, k < n1 → f' k = if dp ≤ k ∧ k < dp + n then f (sp + (k - dp)) else g k) :
    (cd.storeRun dp (cs.stretch sp n)).cls = cd.cls ∧ (cd.storeRun dp (cs.stretch sp n)).vm = cd.vm ∧ (cd.storeRun dp (cs.stretch sp n)).slots.size = n1 ∧ ∀ k, k < n1 → (cd.storeRun dp (cs.stretch sp n)).slots[k]? = some (f' k) := by
  obtain ⟨e1, e2, e3, -⟩ := Cell.storePairs_facts cd dp (cs.stretch sp n).zipIdx
  refine ⟨e1, e2, by rw [← hz]; exact e3, fun k hk => ?_⟩
  have e : cs.stretch sp n = (List.range n).map (fun i => f (sp + i)) := by
    unfold Cell.stretch
    apply List.map_congr_left
    intro i hi
    have hi' := List.mem_range.mp hi
    rw [Array.getD_eq_getD_getElem?, hs _ (by omega)]
    rfl
  rw [e, Cell.storeRun, w_run_slots dp _ 0 cd k (by rw [List.length_map, List.length_range]; omega), hf k hk]
  simp only [List.length_map, List.length_range, Nat.add_zero]
  by_cases h : dp ≤ k ∧ k < dp + n
  · rw [if_pos h, if_pos h, List.getD_eq_getElem?_getD, List.getElem?_map, List.getElem?_range (by omega)]
    rfl
  · rw [if_neg h, if_neg h, hd k hk]
theorem w_nn {z : Int32} (hz : ¬ z < 0) : z.toInt = (z.toNatClampNeg : Int) := by
  have hz0 : (0 : Int) ≤ z.toInt := by
    have := Int32.not_lt.mp hz
    simpa using Int32.le_iff_toInt_le.mp this
  show z.toInt = ((z.toInt.toNat : Nat) : Int)
  omega
def oCopyI (G : wG) (ty : FieldType) (M : wM) (src : Nat) (sp : Int32) (dst : Nat) (dp n : Int32) (κ : wM → Prop) : Prop :=
  ∃ n0 f n1 g, M src = some (.inl (ty, n0, .inl f)) ∧ M dst = some (.inl (ty, n1, .inl g)) ∧ wz G ≤ dst ∧ ¬ sp < 0 ∧ ¬ dp < 0 ∧ ¬ n < 0 ∧ sp.toNatClampNeg + n.toNatClampNeg ≤ n0 ∧ dp.toNatClampNeg + n.toNatClampNeg ≤ n1 ∧ (∀ i, i < n.toNatClampNeg → fits ty (.int (f (sp.toNatClampNeg + i))) = true) ∧ κ (wIns M dst (.inl (ty, n1, .inl (va_cpy f g sp.toNatClampNeg dp.toNatClampNeg n.toNatClampNeg))))
def oCopyR (G : wG) (M : wM) (src : Nat) (sp : Int32) (dst : Nat) (dp n : Int32) (κ : wM → Prop) : Prop :=
  ∃ n0 f n1 g, M src = some (.inl (.object "java/lang/Object", n0, .inr (.inr (.inr (.inr f))))) ∧ M dst = some (.inl (.object "java/lang/Object", n1, .inr (.inr (.inr (.inr g))))) ∧ wz G ≤ dst ∧ ¬ sp < 0 ∧ ¬ dp < 0 ∧ ¬ n < 0 ∧ sp.toNatClampNeg + n.toNatClampNeg ≤ n0 ∧ dp.toNatClampNeg + n.toNatClampNeg ≤ n1 ∧ (∀ i, i < n.toNatClampNeg → ∀ y, f (sp.toNatClampNeg + i) = some y → ∃ o, M y = some (.inr o)) ∧ κ (wIns M dst (.inl (.object "java/lang/Object", n1, .inr (.inr (.inr (.inr (va_cpy f g sp.toNatClampNeg dp.toNatClampNeg n.toNatClampNeg)))))))
section ROWS6
variable {p : Program} {l : Launch} {e : Env} {R : Room} {s : State} {m : MethodId} {args : Array Value} {below : List Frame} {meth : Method} {c : Code} {H : Heap} {locs : List Loc} {cells slots : Nat} {Q : State → Prop}
variable {cc : ByteArray} {nL pc : Nat} {ls : Array Slot} {rest st0 : List Value} {own : String} {G : wG} {M : wM} {a b b1 B : Nat} {H0 : Heap}
theorem x_ldcSw (X : CallFix p m c cc nL s args lw_all own) (hK : wK G s) {tx : String} {index k : Nat} (ht : (own, index, tx, k) ∈ wStrs) (hd : decode cc pc = .ok (.ldc_w index, 3)) (kk : W p l e R s m args below meth c H locs cells slots Q (F0 m (pc + 3) ls (.ref (G.2.2.2 k) :: rest))) : W p l e R s m args below meth c H locs cells slots Q (F0 m pc ls rest) := by
  obtain ⟨hx, hb, hml, hown, hts⟩ := X
  have hZ : vk_R own index tx (G.2.2.2 k) s := hK.2.2.2.2.2.2.1 _ ht
  intro T hT Y
  obtain ⟨kC, cf, i, a', hk, hcf, hcp, -, hr, hev'⟩ := Cond.stringRef_spec hown hZ.1
  cases hZ.2.symm.trans hev'
  obtain ⟨k', hk', he⟩ := Y.warmed.alike.2.2 _ _ hk
  have hr' : k'.resolved[index]? = some (some (.string (G.2.2.2 k))) := by
    rcases Y.warmed.entry hk hk' index with h | ⟨h, -⟩
    · rw [h]; exact hr
    · rw [hr] at h; cases h
  obtain ⟨t, a1, b1⟩ := kk T hT Y
  refine ⟨t, ?_, b1⟩
  have hd' : decode c.code pc = .ok (.ldc_w index, 3) := by rw [hb]; exact hd
  jvm_step Y.here [hx, hd', ldc_w.wp_string (e := e) (s := T) (f := F0 m pc ls rest) Y.here.top hk' (by rw [he]; exact hcf) hcp hr']
  exact a1
theorem x_fret {Qp : Option Value → wM → Prop} {Xp : String → Nat → wM → Prop} (X : CallFix p m c cc nL s args lw_all own) (hr : meth.sig.returnType = some .float) (hlk : meth.locks = false) (hM : wR G M H) (hS : va_S (wA G) s.heap H locs) (hcs : cells ≤ B ∧ slots ≤ B) {v : UInt32} (hd : decode cc pc = .ok (.freturn, 1)) (hq : Qp (some (.float v)) M) : W p l e R s m args below meth c H locs cells slots (vx_MQ below (wQ G Qp) (wXC G Xp) args s B B (wA G)) (F0 m pc ls [.float v]) :=
  vx_ret (W.widen hcs.1 hcs.2 (W.fret X.1 X.2.1 hr (fun t ht _ => w_end hM hS hq t ht) hS.2.2 hd))
theorem w_exc (hK : wK G s) (hM : wR G M H) {ci : Nat} {q : vw_C} (hc : wCl[ci]? = some q) (h : ∃ fs, M a = some (.inr (ci, fs))) (hz : wz G ≤ a) : ∃ ce : Cell, H[a]? = some ce ∧ ce.vm = .none ∧ s.vm.findClass q.1 = some ce.cls := by
  obtain ⟨fs, h1⟩ := h
  obtain ⟨cell, g1, g2, g3, g4, r, g5, g6, g7⟩ := hM a _ h1
  cases Option.some.inj (g5.symm.trans hc)
  exact ⟨cell, g1, g4 hz, by rw [g6]; exact (hK.1.1 ci _ hc).2.1⟩
theorem w_copy_end {n n1 : Nat} {ty : FieldType} {f' : (Nat → Int32) ⊕ (Nat → Int64) ⊕ (Nat → UInt32) ⊕ (Nat → UInt64) ⊕ (Nat → Option Nat)} {cd cell' : Cell} {L : List Loc} (hM : wR G M H) (hS : va_S (wA G) H0 H locs) (hza : wz G ≤ a) (hc1 : H[a]? = some cd) (h2 : cd.vm ≠ .unknown) (h3 : cd.vm.isStatics = false) (h4 : wz G ≤ a → cd.vm = .none) (h5 : cd.cls = G.2.1 ty) (e1 : cell'.cls = cd.cls) (e2 : cell'.vm = cd.vm) (e3 : cell'.slots.size = n1) (e4 : ∀ k, k < n1 → cell'.slots[k]? = some (wav (n1, f') k)) (hL : ∀ q ∈ L, q.base = a) : wR G (wIns M a (.inl (ty, n1, f'))) (H.setIfInBounds a cell') ∧ va_S (wA G) H0 (H.setIfInBounds a cell') (locs ++ L) := by
  have hl : a < H.size := (Array.getElem?_eq_some_iff.mp hc1).1
  have oq : ∀ q : Nat, q ≠ a → (H.setIfInBounds a cell')[q]? = H[q]? := fun q hq => by simp [Array.getElem?_setIfInBounds, Ne.symm hq]
  refine ⟨hM.ins ⟨cell', by simp [Array.getElem?_setIfInBounds, hl], by rw [e2]; exact h2, by rw [e2]; exact h3, fun h => by rw [e2]; exact h4 h, by rw [e1]; exact h5, e3, e4⟩ (fun q hq _ => oq q hq), by simp; exact hS.1, fun q g1 g2 => ?_, fun q hq => ?_⟩
  · rw [oq q (fun e => g2 (by rw [e]; exact hza))]
    exact hS.2.1 q g1 g2
  · rcases List.mem_append.mp hq with h | h
    · exact hS.2.2 q h
    · show wz G ≤ q.base
      rw [hL q h]; exact hza
theorem x_copyI (X : CallFix p m c cc nL s args lw_all own) (hls : c.maxLocals = ls.size) (hC : wC G s) (hM : wR G M H) (hS : va_S (wA G) H0 H locs) {index : Nat} (hlink : Cond.methodLink own index arraycopyName ∈ lw_all) (hnat : Cond.native arraycopyName ∈ lw_all) (hstat : Cond.static arraycopyName ∈ lw_all) (hini : Cond.initialized "java/lang/System" ∈ lw_all) (ty : FieldType) (hty : ty ∈ wTys) (hprim : refKind ty = false) {src dst : Nat} {sp dp n : Int32} (hframes : 1 ≤ R.frames) (hlocals : (rest.map fun v => v.category).sum + (nativeFrameWords "java/lang/System" "arraycopy" 5 + 11) ≤ R.locals) (hd : decode cc pc = .ok (.invokestatic index, 3)) {κ : wM → Prop} (hp : oCopyI G ty M src sp dst dp n κ)
    (kk : ∀ (M1 : wM) (H1 : Heap) (locs1 : List Loc), wR G M1 H1 → va_S (wA G) H0 H1 locs1 → κ M1 → W p l e R s m args below meth c H1 locs1 cells slots Q (F0 m (pc + 3) ls rest)) : W p l e R s m args below meth c H locs cells slots Q (F0 m pc ls (.int n :: .int dp :: .ref dst :: .int sp :: .ref src :: rest)) := by
  obtain ⟨hx, hb, hml, hown, hts⟩ := X
  obtain ⟨n0, f, n1, g, m0, m1, hza, h1, h2, h3, h4, h5, hfit, hp⟩ := hp
  obtain ⟨cs, s1, s2, s3, s4, s5, s6, s7⟩ := hM src _ m0
  obtain ⟨cd, d1, d2, d3, d4, d5, d6, d7⟩ := hM dst _ m1
  obtain ⟨-, ks, hks, cms, hkks⟩ := w_arr hC.1 hty s5 s3
  obtain ⟨-, kd, hkd, cmd, hkkd⟩ := w_arr hC.1 hty d5 d3
  intro T hT Y
  obtain ⟨vm', Y', step⟩ := Y.arraycopy hx hown (hts _ hlink) (hts _ hnat) (hts _ hstat) (hts _ hini) (src := src) (dst := dst) (cs := cs) (cd := cd) (srcPos := sp) (destPos := dp) (n := n) (by rw [hT]; exact s1) (by rw [hT]; exact d1) (w_nost s3) (w_nost d3) s2 d2 hks hkd hkks hkkd (by rw [hprim]; simp) h1 h2 h3
    (by rw [w_nn h1, w_nn h3, s6]; show ¬ _ > ((n0 : Nat) : Int); omega) (by rw [w_nn h2, w_nn h3, d6]; show ¬ _ > ((n1 : Nat) : Int); omega)
    (fun vm₁ hal i hi => by
      have e : cs.slots.getD (sp.toNatClampNeg + i) .null = .int (f (sp.toNatClampNeg + i)) := by
        rw [Array.getD_eq_getD_getElem?, s7 _ (show sp.toNatClampNeg + i < n0 by omega)]
        rfl
      rw [e]
      exact ⟨hfit i hi, trivial⟩)
    (g := F0 m pc ls (.int n :: .int dp :: .ref dst :: .int sp :: .ref src :: rest)) rfl (by rw [hls]) (rest := rest) rfl (by rw [hb]; exact hd) hframes (by show 2 * 0 + _ + _ ≤ _; omega)
  obtain ⟨e1, e2, e3, e4⟩ := w_copied (cs := cs) (cd := cd) (n0 := n0) (n1 := n1) (sp := sp.toNatClampNeg) (dp := dp.toNatClampNeg) (n := n.toNatClampNeg) (f := fun j => .int (f j)) (g := fun j => .int (g j)) (f' := wav (n1, .inl (va_cpy f g sp.toNatClampNeg dp.toNatClampNeg n.toNatClampNeg))) s7 d7 d6 h4 h5 (fun k hk => by simp only [wav, va_cpy]; split <;> rfl)
  have hheap : ((T.setVm vm').setCell dst (copied cs cd sp dp n)).heap = H.setIfInBounds dst (copied cs cd sp dp n) := by rw [← hT]; rfl
  obtain ⟨r1, r2⟩ := w_copy_end (ty := ty) (f' := .inl (va_cpy f g sp.toNatClampNeg dp.toNatClampNeg n.toNatClampNeg)) (L := (cs.stretch sp.toNatClampNeg n.toNatClampNeg).zipIdx.map fun q => ⟨dst, dp.toNatClampNeg + q.2⟩) (n := 0) hM hS hza d1 d2 d3 d4 d5 e1 e2 e3 e4 (fun q hq => by obtain ⟨z, -, hz⟩ := List.mem_map.mp hq; rw [← hz])
  obtain ⟨t, a1, b1⟩ := kk _ _ _ r1 r2 hp _ hheap Y'
  exact ⟨t, step t a1, b1⟩
theorem x_copyR (X : CallFix p m c cc nL s args lw_all own) (hls : c.maxLocals = ls.size) (hC : wC G s) (hM : wR G M H) (hS : va_S (wA G) H0 H locs) {index : Nat} (hlink : Cond.methodLink own index arraycopyName ∈ lw_all) (hnat : Cond.native arraycopyName ∈ lw_all) (hstat : Cond.static arraycopyName ∈ lw_all) (hini : Cond.initialized "java/lang/System" ∈ lw_all) {src dst : Nat} {sp dp n : Int32} (hframes : 1 ≤ R.frames) (hlocals : (rest.map fun v => v.category).sum + (nativeFrameWords "java/lang/System" "arraycopy" 5 + 11) ≤ R.locals) (hd : decode cc pc = .ok (.invokestatic index, 3)) {κ : wM → Prop} (hp : oCopyR G M src sp dst dp n κ)
    (kk : ∀ (M1 : wM) (H1 : Heap) (locs1 : List Loc), wR G M1 H1 → va_S (wA G) H0 H1 locs1 → κ M1 → W p l e R s m args below meth c H1 locs1 cells slots Q (F0 m (pc + 3) ls rest)) : W p l e R s m args below meth c H locs cells slots Q (F0 m pc ls (.int n :: .int dp :: .ref dst :: .int sp :: .ref src :: rest)) := by
  obtain ⟨hx, hb, hml, hown, hts⟩ := X
  obtain ⟨n0, f, n1, g, m0, m1, hza, h1, h2, h3, h4, h5, hel, hp⟩ := hp
  obtain ⟨cs, s1, s2, s3, s4, s5, s6, s7⟩ := hM src _ m0
  obtain ⟨cd, d1, d2, d3, d4, d5, d6, d7⟩ := hM dst _ m1
  obtain ⟨-, ks, hks, cms, hkks⟩ := w_arr hC.1 (ty := .object "java/lang/Object") (by decide) s5 s3
  obtain ⟨kA, comp, k1, k2, k3, k4⟩ := hC.1.2.1.2 (.object "java/lang/Object") (by decide)
  have hkd : s.vm.classes[cd.cls]? = some kA := by rw [d5]; exact k1
  obtain ⟨kcomp, hkcomp, -⟩ := Vm.findClass_spec k3
  intro T hT Y
  obtain ⟨vm', Y', step⟩ := Y.arraycopy hx hown (hts _ hlink) (hts _ hnat) (hts _ hstat) (hts _ hini) (src := src) (dst := dst) (cs := cs) (cd := cd) (srcPos := sp) (destPos := dp) (n := n) (by rw [hT]; exact s1) (by rw [hT]; exact d1) (w_nost s3) (w_nost d3) s2 d2 hks hkd hkks k2 rfl h1 h2 h3
    (by rw [w_nn h1, w_nn h3, s6]; show ¬ _ > ((n0 : Nat) : Int); omega) (by rw [w_nn h2, w_nn h3, d6]; show ¬ _ > ((n1 : Nat) : Int); omega)
    (fun vm₁ hal i hi => by
      have e : cs.slots.getD (sp.toNatClampNeg + i) .null = va_rf (f (sp.toNatClampNeg + i)) := by
        rw [Array.getD_eq_getD_getElem?, s7 _ (show sp.toNatClampNeg + i < n0 by omega)]
        rfl
      rw [e]
      cases hy : f (sp.toNatClampNeg + i) with
      | none => exact ⟨rfl, trivial⟩
      | some y =>
        obtain ⟨o, ho⟩ := hel i hi y hy
        obtain ⟨cv, v1, v2, v3, v4, r5, v5, v6, v7⟩ := hM y _ ho
        obtain ⟨hS2, hfc, kC, hkC, hkind⟩ := hC.1.1.1 o.1 _ v5
        have hcs := va_Nw.use rfl (hC.1.2.2.1 _ (w_obj _ _ v5) rfl) (A := args)
        obtain ⟨c3, c4, hc3, hc4, hasg⟩ := Cond.castable_spec hcs
        cases Option.some.inj (hc3.symm.trans hfc)
        cases Option.some.inj (hc4.symm.trans k3)
        obtain ⟨kC', hkC', -⟩ := hal.2.2 _ _ hkC
        obtain ⟨kE', hkE', -⟩ := hal.2.2 _ _ hkcomp
        refine ⟨rfl, cv, (show T.heap[y]? = some cv by rw [hT]; exact v1), w_nost v3, ⟨kC', by rw [v6]; exact hkC'⟩, ?_, ?_⟩
        · exact ⟨kE', hkE'⟩
        · show vm₁.assignable _ _ = true
          rw [hal.assignable, v6]
          exact hasg)
    (g := F0 m pc ls (.int n :: .int dp :: .ref dst :: .int sp :: .ref src :: rest)) rfl (by rw [hls]) (rest := rest) rfl (by rw [hb]; exact hd) hframes (by show 2 * 0 + _ + _ ≤ _; omega)
  obtain ⟨e1, e2, e3, e4⟩ := w_copied (cs := cs) (cd := cd) (n0 := n0) (n1 := n1) (sp := sp.toNatClampNeg) (dp := dp.toNatClampNeg) (n := n.toNatClampNeg) (f := fun j => va_rf (f j)) (g := fun j => va_rf (g j)) (f' := wav (n1, .inr (.inr (.inr (.inr (va_cpy f g sp.toNatClampNeg dp.toNatClampNeg n.toNatClampNeg)))))) s7 d7 d6 h4 h5 (fun k hk => by simp only [wav, va_cpy]; split <;> rfl)
  have hheap : ((T.setVm vm').setCell dst (copied cs cd sp dp n)).heap = H.setIfInBounds dst (copied cs cd sp dp n) := by rw [← hT]; rfl
  obtain ⟨r1, r2⟩ := w_copy_end (ty := .object "java/lang/Object") (f' := .inr (.inr (.inr (.inr (va_cpy f g sp.toNatClampNeg dp.toNatClampNeg n.toNatClampNeg))))) (L := (cs.stretch sp.toNatClampNeg n.toNatClampNeg).zipIdx.map fun q => ⟨dst, dp.toNatClampNeg + q.2⟩) (n := 0) hM hS hza d1 d2 d3 d4 d5 e1 e2 e3 e4 (fun q hq => by obtain ⟨z, -, hz⟩ := List.mem_map.mp hq; rw [← hz])
  obtain ⟨t, a1, b1⟩ := kk _ _ _ r1 r2 hp _ hheap Y'
  exact ⟨t, step t a1, b1⟩
theorem w_recvA (hK : wK G s) (hM : wR G M H) {x : vp_A} (h : M a = some (.inl (.object "java/lang/Object", x))) : ∃ cell : Cell, H[a]? = some cell ∧ cell.vm.isStatics = false ∧ s.vm.findClass "[Ljava/lang/Object;" = some cell.cls := by
  obtain ⟨cell, g1, g2, g3, g4, g5, g6⟩ := hM a _ h
  obtain ⟨kA, comp, k1, k2, k3, k4⟩ := hK.2.1.2 (.object "java/lang/Object") (by decide)
  exact ⟨cell, g1, g3, by rw [g5]; exact k4⟩
def oIsA (M : wM) (a : Nat) (P : Prop) : Prop := (∃ x, M a = some (.inl (.object "java/lang/Object", x))) ∧ P
theorem x_ldcM (X : CallFix p m c cc nL s args lw_all own) (hK : wK G s) {C : String} {index k : Nat} (ht : (C, k) ∈ wMirs) (hlink : Cond.classLink own index C ∈ lw_all) (hd : decode cc pc = .ok (.ldc index, 2)) (kk : W p l e R s m args below meth c H locs cells slots Q (F0 m (pc + 2) ls (.ref (G.2.2.2 k) :: rest))) : W p l e R s m args below meth c H locs cells slots Q (F0 m pc ls rest) :=
  va_ldcM X.1 X.2.1 X.2.2.2.1 (X.2.2.2.2 _ hlink) (hK.2.2.2.2.2.2.2.1 _ ht) hd kk
theorem x_castA (X : CallFix p m c cc nL s args lw_all own) (hK : wK G s) (hM : wR G M H) {index : Nat} (hlink : Cond.classLink own index "[Ljava/lang/Object;" ∈ lw_all) (hd : decode cc pc = .ok (.checkcast index, 3)) {P : Prop} (hp : oIsA M a P) (kk : P → W p l e R s m args below meth c H locs cells slots Q (F0 m (pc + 3) ls (.ref a :: rest))) : W p l e R s m args below meth c H locs cells slots Q (F0 m pc ls (.ref a :: rest)) := by
  obtain ⟨⟨x, h⟩, hp⟩ := hp
  exact va_castE X.1 X.2.1 X.2.2.2.1 (X.2.2.2.2 _ hlink) (w_recvA hK hM h) hd (kk hp)
end ROWS6
