set_option maxRecDepth 100000
/-! CORE 8: casts to byte[], clone() of a byte[], getClass() of an array -/
section ROWS8
variable {p : Program} {l : Launch} {e : Env} {R : Room} {s : State} {m : MethodId} {args : Array Value} {below : List Frame} {meth : Method} {c : Code} {H : Heap} {locs : List Loc} {cells slots : Nat} {Q : State → Prop}
variable {cc : ByteArray} {nL pc : Nat} {ls : Array Slot} {rest : List Value} {own : String} {G : wG} {M : wM} {a b : Nat}
theorem w_recvB (hK : wK G s) (hM : wR G M H) {x : vp_A} (h : M a = some (.inl (.byte, x))) : ∃ cell : Cell, H[a]? = some cell ∧ cell.vm.isStatics = false ∧ s.vm.findClass "[B" = some cell.cls := by
  obtain ⟨cell, g1, g2, g3, g4, g5, g6⟩ := hM a _ h
  exact ⟨cell, g1, g3, by rw [g5]; exact va_nm_byte (hK.2.1.2 .byte (by decide))⟩
def oIsB (M : wM) (a : Nat) (P : Prop) : Prop := (∃ x, M a = some (.inl (.byte, x))) ∧ P
theorem x_castB (X : CallFix p m c cc nL s args lw_all own) (hK : wK G s) (hM : wR G M H) {index : Nat} (hlink : Cond.classLink own index "[B" ∈ lw_all) (hd : decode cc pc = .ok (.checkcast index, 3)) {P : Prop} (hp : oIsB M a P) (kk : P → W p l e R s m args below meth c H locs cells slots Q (F0 m (pc + 3) ls (.ref a :: rest))) : W p l e R s m args below meth c H locs cells slots Q (F0 m pc ls (.ref a :: rest)) := by
  obtain ⟨⟨x, h⟩, hp⟩ := hp
  exact va_castE X.1 X.2.1 X.2.2.2.1 (X.2.2.2.2 _ hlink) (w_recvB hK hM h) hd (kk hp)
def oClone (G : wG) (M : wM) (b a : Nat) (κ : Nat → wM → Nat → Prop) : Prop := ∃ (n : Nat) (f : Nat → Int32), M a = some (.inl (.byte, n, .inl f)) ∧ n + 1 ≤ b ∧ (∀ j, j < n → fits .byte (.int (f j)) = true) ∧ ∀ q, M q = none → wz G ≤ q → κ q (wIns M q (.inl (.byte, n, .inl f))) (b - (n + 1))
theorem x_cloneB (X : CallFix p m c cc nL s args lw_all own) (hls : c.maxLocals = ls.size) (hC : wC G s) (hM : wR G M H) (hS : va_S (wA G) s.heap H locs) (hB : cells + b ≤ R.cells ∧ slots + b ≤ R.slots) {index : Nat}
    (hlink : Cond.methodLink own index ⟨"[B", "clone", "()Ljava/lang/Object;"⟩ ∈ lw_all) (hsame : Cond.sameMethod "[B" "java/lang/Object" "clone" "()Ljava/lang/Object;" ∈ lw_all)
    (hnat : Cond.native ⟨"java/lang/Object", "clone", "()Ljava/lang/Object;"⟩ ∈ lw_all) (hinst : Cond.instanceMethod ⟨"java/lang/Object", "clone", "()Ljava/lang/Object;"⟩ ∈ lw_all)
    (hsel : Cond.selects "[B" ⟨"[B", "clone", "()Ljava/lang/Object;"⟩ ⟨"java/lang/Object", "clone", "()Ljava/lang/Object;"⟩ ∈ lw_all) (hcl : Cond.castable "[B" "java/lang/Cloneable" ∈ lw_tbl)
    (hframes : 1 ≤ R.frames) (hlocals : (rest.map fun v => v.category).sum + 14 ≤ R.locals) (hd : decode cc pc = .ok (.invokevirtual index, 3)) {κ : Nat → wM → Nat → Prop} (hp : oClone G M b a κ)
    (kk : ∀ (q : Nat) (M1 : wM) (H1 : Heap) (b1 cells1 slots1 : Nat), wR G M1 H1 → va_S (wA G) s.heap H1 locs → (cells1 + b1 ≤ R.cells ∧ slots1 + b1 ≤ R.slots) → κ q M1 b1 → W p l e R s m args below meth c H1 locs cells1 slots1 Q (F0 m (pc + 3) ls (.ref q :: rest))) : W p l e R s m args below meth c H locs cells slots Q (F0 m pc ls (.ref a :: rest)) := by
  obtain ⟨hx, hb, hml, hown, hts⟩ := X
  obtain ⟨n, f, ha, hnb, hfit, hk⟩ := hp
  obtain ⟨cell, g1, g2, g3, g4, g5, g6, g7⟩ := hM a _ ha
  have g6 : cell.slots.size = n := g6
  have g7 : ∀ j, j < n → cell.slots[j]? = some (.int (f j)) := g7
  have hnm : s.vm.findClass "[B" = some cell.cls := by rw [g5]; exact va_nm_byte (hC.1.2.1.2 .byte (by decide))
  obtain ⟨c0, t0', f1, f2, f3⟩ := Cond.castable_spec (va_Nw.use (A := args) rfl (hC.1.2.2.1 _ hcl rfl))
  cases hnm.symm.trans f1
  intro T hT X
  have hcellT : T.heap[a]? = some cell := by rw [hT]; exact g1
  have hArr := hC.1.2.1.1 .byte (by decide)
  obtain ⟨-, kA, hkA, comp, hkind⟩ := State.isArrayOf_alike X.warmed.alike (hArr 0 (fun _ => .null))
  obtain ⟨-, kS, hkS, compS, hkindS⟩ := hArr 0 (fun _ => .null)
  obtain ⟨vm', X', st⟩ := X.cloneArray hx hown (hts _ hlink) (hts _ hsame) (hts _ hnat) (hts _ hinst) (hts _ hsel) (a := a) (cell := cell) hcellT (fun k h => by rw [h] at g3; cases g3) g2 hnm f2 f3
    (fun i v hv => by
      have hi : i < n := by rw [← g6]; exact (Array.getElem?_eq_some_iff.mp hv).1
      have hv' := (g7 i hi).symm.trans hv
      cases hv'
      rw [g5]
      have hk' : T.vm.classes[G.2.1 .byte]? = some kA := hkA
      simpa [State.fitsSlot, State.slotType?, hk', hkind, wav] using hfit i hi)
    (g := F0 m pc ls (.ref a :: rest)) rfl (by rw [hls]) rfl (by rw [hb]; exact hd) hframes (by show 2 * 0 + _ + 14 ≤ _; omega) (by omega) (by rw [g6]; omega) (hloader := by rw [g5]; exact Vm.clonesLoader_of_array hkS hkindS)
  have hz : wz G ≤ H.size := Nat.le_trans hC.2.2 hS.1
  rw [g6] at X'
  generalize hH1 : H.push ({ cls := cell.cls, slots := cell.slots } : Cell) = H1
  have z1 : H1.size = H.size + 1 := by rw [← hH1, Array.size_push]
  have e1 : H1[H.size]? = some ({ cls := cell.cls, slots := cell.slots } : Cell) := by rw [← hH1, Array.getElem?_push_size]
  have o1 : ∀ q : Nat, q < H.size → H1[q]? = H[q]? := fun q hq => by rw [← hH1, Array.getElem?_push, if_neg (Nat.ne_of_lt hq)]
  obtain ⟨t, b1, b2⟩ := kk H.size (wIns M H.size (.inl (.byte, n, .inl f))) H1 (b - (n + 1)) (cells + 1) (slots + n) (w_grow hM hz e1 rfl ⟨g5, g6, g7⟩ o1) (w_S_grow hS z1 o1) (by omega) (hk _ hM.fresh hz)
    ((T.setVm vm').pushCell { cls := cell.cls, slots := cell.slots }) (by rw [← hH1, ← hT]; rfl) X'
  refine ⟨t, st t ?_, b2⟩
  rw [hT]
  exact b1
theorem x_getCA (X : CallFix p m c cc nL s args lw_all own) (hls : c.maxLocals = ls.size) (hK : wK G s) (hM : wR G M H) {index : Nat} (hlink : Cond.methodLink own index ⟨"java/lang/Object", "getClass", "()Ljava/lang/Class;"⟩ ∈ lw_all) (hdecl : Cond.declares ⟨"java/lang/Object", "getClass", "()Ljava/lang/Class;"⟩ ∈ lw_tbl)
    (hsel : Cond.selects "[Ljava/lang/Object;" ⟨"java/lang/Object", "getClass", "()Ljava/lang/Class;"⟩ ⟨"java/lang/Object", "getClass", "()Ljava/lang/Class;"⟩ ∈ lw_all) (hinst : Cond.instanceMethod ⟨"java/lang/Object", "getClass", "()Ljava/lang/Class;"⟩ ∈ lw_all) (hnat : Cond.native ⟨"java/lang/Object", "getClass", "()Ljava/lang/Class;"⟩ ∈ lw_all)
    (hframes : 1 ≤ R.frames) (hlocals : (rest.map fun v => v.category).sum + 14 ≤ R.locals) (hd : decode cc pc = .ok (.invokevirtual index, 3)) {P : Prop} (hp : oIsA M a P) (kk : P → W p l e R s m args below meth c H locs cells slots Q (F0 m (pc + 3) ls (.ref (G.2.2.2 60) :: rest))) : W p l e R s m args below meth c H locs cells slots Q (F0 m pc ls (.ref a :: rest)) := by
  obtain ⟨⟨x, h⟩, hp⟩ := hp
  obtain ⟨hx, hb, hml, hown, hts⟩ := X
  exact va_getC hx hb hls hown (hts _ hlink) (va_Nw.use rfl (hK.2.2.1 _ hdecl rfl)) (hts _ hsel) (hts _ hinst) (hts _ hnat) (hK.2.2.2.2.2.2.2.1 _ (List.mem_of_getElem? (i := 0) rfl)) (w_recvA hK hM h) hframes hlocals hd (kk hp)
end ROWS8
