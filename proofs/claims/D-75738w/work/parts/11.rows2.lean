set_option maxRecDepth 100000
/-! CORE 4: making objects, calls, ends -/
/-- what a method's body stands on, beside its words: the classes, the statics, the heap's size at the start -/
def wC (G : wG) (s : State) : Prop := wK G s ∧ (wZ G s s.heap ∧ wZq G s s.heap) ∧ wz G ≤ s.heap.size
def wqV (Q : wM → Prop) : Option Value → wM → Prop := fun v M => v = none ∧ Q M
def wqI (Q : Int32 → wM → Prop) : Option Value → wM → Prop := fun v M => ∃ r : Int32, v = some (.int r) ∧ Q r M
def wqZ (Q : Bool → wM → Prop) : Option Value → wM → Prop := fun v M => ∃ r : Bool, v = some (.int (wb r)) ∧ Q r M
def wqJ (Q : Int64 → wM → Prop) : Option Value → wM → Prop := fun v M => ∃ r : Int64, v = some (.long r) ∧ Q r M
def wqF (Q : UInt32 → wM → Prop) : Option Value → wM → Prop := fun v M => ∃ r : UInt32, v = some (.float r) ∧ Q r M
def wqR (Q : Option Nat → wM → Prop) : Option Value → wM → Prop := fun v M => ∃ r : Option Nat, v = some (va_rf r) ∧ Q r M
abbrev wX0 : String → Nat → wM → Prop := fun _ _ _ => False
section ROWS2
variable {p : Program} {l : Launch} {e : Env} {R : Room} {s : State} {m : MethodId} {args : Array Value} {below : List Frame} {meth : Method} {c : Code} {H : Heap} {locs : List Loc} {cells slots : Nat} {Q : State → Prop}
variable {cc : ByteArray} {nL pc : Nat} {ls : Array Slot} {rest st0 : List Value} {own : String} {G : wG} {M : wM} {a b b1 : Nat} {H0 : Heap}
theorem w_grow (hM : wR G M H) (hC : wz G ≤ H.size) {x : wE} {H1 : Heap} {cell : Cell} (e1 : H1[H.size]? = some cell) (hv : cell.vm = .none) (hx : wIn G x cell) (o1 : ∀ q, q < H.size → H1[q]? = H[q]?) : wR G (wIns M H.size x) H1 :=
  hM.ins ⟨cell, e1, (by rw [hv]; decide), (by rw [hv]; rfl), fun _ => hv, hx⟩ (fun q _ hq => o1 q hq)
theorem w_S_grow (hS : va_S (wA G) H0 H locs) {H1 : Heap} (z1 : H1.size = H.size + 1) (o1 : ∀ q, q < H.size → H1[q]? = H[q]?) : va_S (wA G) H0 H1 locs :=
  ⟨Nat.le_trans hS.1 (by omega), fun x h1 h2 => (o1 x (Nat.lt_of_lt_of_le h1 hS.1)).trans (hS.2.1 x h1 h2), hS.2.2⟩
theorem x_new (X : CallFix p m c cc nL s args lw_all own) (hC : wC G s) (hM : wR G M H) (hS : va_S (wA G) s.heap H locs) (hB : cells + b ≤ R.cells ∧ slots + b ≤ R.slots) {C : String} {T : u_T} {N ci index : Nat} (hc : wCl[ci]? = some (C, T, N)) (hin : ∀ w ∈ u_ws C T N, w ∈ lw_all) (ty : Nat → FieldType) (hty : ∀ k, k < N → parseFieldDescriptor (T k).2.2.1 = some (ty k)) (hcl : Cond.classLink own index C ∈ lw_all) (hinst : Cond.instantiable C N ∈ lw_all) (hini : Cond.initialized C ∈ lw_all) {fs : List Value} (hlen : fs.length = N) (hfs : ∀ j, j < N → defaultValue (ty j) = vp_V fs j) (hd : decode cc pc = .ok (.new index, 3)) {κ : Nat → wM → Nat → Prop} (hp : oNew G M b ci fs κ)
    (kk : ∀ (q : Nat) (M1 : wM) (H1 : Heap) (b1 cells1 slots1 : Nat), wR G M1 H1 → va_S (wA G) s.heap H1 locs → (cells1 + b1 ≤ R.cells ∧ slots1 + b1 ≤ R.slots) → κ q M1 b1 → W p l e R s m args below meth c H1 locs cells1 slots1 Q (F0 m (pc + 3) ls (.ref q :: rest))) : W p l e R s m args below meth c H locs cells slots Q (F0 m pc ls rest) := by
  obtain ⟨hx, hb, hml, hown, hts⟩ := X
  obtain ⟨hp1, hp2⟩ := hp
  have hKn := hC.1.1.1 ci _ hc
  refine W.newcK hx hb hown (hts _ hcl) (hts _ hinst) (hts _ hini) rfl hd (by omega) (by omega) hKn.2.1 rfl fun H1 kC hkC e1 z1 o1 => ?_
  obtain ⟨cell, q1, q2, q3, q4⟩ := u_born ty hts hin hKn hkC e1 hty
  have hz : wz G ≤ H.size := Nat.le_trans hC.2.2 hS.1
  refine kk H.size (wIns M H.size (.inr (ci, fs))) H1 (b - (fs.length + 1)) (cells + 1) (slots + N) (w_grow hM hz q1 q3 ?_ o1) (w_S_grow hS z1 o1) (by omega) (hp2 _ hM.fresh hz)
  exact ⟨_, hc, q2, fun k hk => (q4 k hk).trans (congrArg some (hfs k hk))⟩
theorem x_newa (X : CallFix p m c cc nL s args lw_all own) (hC : wC G s) (hM : wR G M H) (hS : va_S (wA G) s.heap H locs) (hB : cells + b ≤ R.cells ∧ slots + b ≤ R.slots) {atype : ArrayType} (ty : FieldType) (hty : newarray.typeOf atype = ty) (hw : Cond.arrayClass ty ∈ lw_all) (hTy : ty ∈ wTysN) (hcb : componentBytes ty ≤ 8) (hnm : ∀ cA, va_RA s cA ty → s.vm.findClass ("[" ++ ty.toString) = some cA) {x : (Nat → Int32) ⊕ (Nat → Int64) ⊕ (Nat → UInt32) ⊕ (Nat → UInt64) ⊕ (Nat → Option Nat)} (hx0 : ∀ n j, wav (n, x) j = defaultValue ty) {n : Int32} (hd : decode cc pc = .ok (.newarray atype, 2)) {κ : Nat → wM → Nat → Prop} (hp : oNewa G M b ty x n κ)
    (kk : ∀ (q : Nat) (M1 : wM) (H1 : Heap) (b1 cells1 slots1 : Nat), wR G M1 H1 → va_S (wA G) s.heap H1 locs → (cells1 + b1 ≤ R.cells ∧ slots1 + b1 ≤ R.slots) → κ q M1 b1 → W p l e R s m args below meth c H1 locs cells1 slots1 Q (F0 m (pc + 2) ls (.ref q :: rest))) : W p l e R s m args below meth c H locs cells slots Q (F0 m pc ls (.int n :: rest)) := by
  obtain ⟨hx, hb, hml, hown, hts⟩ := X
  obtain ⟨hn, hp1, hp2, hp3⟩ := hp
  subst hty
  have hz : wz G ≤ H.size := Nat.le_trans hC.2.2 hS.1
  refine va_newaK hx hb (hts _ hw) rfl hd rfl hn rfl (by have := Nat.mul_le_mul hp2 hcb; omega) (by omega) (by omega) rfl fun H1 cA e1 z1 o1 hAr hNm => ?_
  have hcA : cA = G.2.1 (newarray.typeOf atype) := Option.some.inj (hNm.symm.trans (hnm _ (hC.1.2.1.2 _ hTy)))
  refine kk H.size (wIns M H.size (.inl (newarray.typeOf atype, n.toNatClampNeg, x))) H1 (b - (n.toNatClampNeg + 1)) (cells + 1) (slots + n.toNatClampNeg) (w_grow hM hz e1 rfl ?_ o1) (w_S_grow hS z1 o1) (by omega) (hp3 _ hM.fresh hz)
  refine ⟨hcA, arrV_size _ _ _, fun j hj => ?_⟩
  rw [arrV_read _ _ hj, hx0]
theorem x_newq (X : CallFix p m c cc nL s args lw_all own) (hC : wC G s) (hM : wR G M H) (hS : va_S (wA G) s.heap H locs) (hB : cells + b ≤ R.cells ∧ slots + b ≤ R.slots) {C : String} {index : Nat} (hcl : Cond.classLink own index C ∈ lw_all) (hAO : va_AO C s) (hTy : FieldType.object C ∈ wTysN) {n : Int32} (hd : decode cc pc = .ok (.anewarray index, 3)) {κ : Nat → wM → Nat → Prop} (hp : oNewa G M b (.object C) (.inr (.inr (.inr (.inr (fun _ => none))))) n κ)
    (kk : ∀ (q : Nat) (M1 : wM) (H1 : Heap) (b1 cells1 slots1 : Nat), wR G M1 H1 → va_S (wA G) s.heap H1 locs → (cells1 + b1 ≤ R.cells ∧ slots1 + b1 ≤ R.slots) → κ q M1 b1 → W p l e R s m args below meth c H1 locs cells1 slots1 Q (F0 m (pc + 3) ls (.ref q :: rest))) : W p l e R s m args below meth c H locs cells slots Q (F0 m pc ls (.int n :: rest)) := by
  obtain ⟨hx, hb, hml, hown, hts⟩ := X
  obtain ⟨hn, hp1, hp2, hp3⟩ := hp
  have hz : wz G ≤ H.size := Nat.le_trans hC.2.2 hS.1
  refine W.anew hx hb hown (hts _ hcl) (va_AO.use hAO) rfl hd rfl hn (by omega) (by omega) (by omega) fun cA kA comp f1 f2 f3 f4 => ?_
  generalize hH1 : H.push ({ cls := cA, slots := Array.replicate n.toNatClampNeg .null, vm := .none } : Cell) = H1
  have z1 : H1.size = H.size + 1 := by rw [← hH1, Array.size_push]
  have e1 : H1[H.size]? = some (arrV cA n.toNatClampNeg (fun _ => .null)) := by rw [← hH1, Array.getElem?_push_size, ← arrV_new]
  have o1 : ∀ q : Nat, q < H.size → H1[q]? = H[q]? := fun q hq => by rw [← hH1, Array.getElem?_push, if_neg (Nat.ne_of_lt hq)]
  have hcA : cA = G.2.1 (.object C) := by
    obtain ⟨kA2, comp2, g1, g2, g3, g4⟩ := hC.1.2.1.2 _ hTy
    exact Option.some.inj (f1.symm.trans g4)
  refine kk H.size (wIns M H.size (.inl (.object C, n.toNatClampNeg, _))) H1 (b - (n.toNatClampNeg + 1)) (cells + 1) (slots + n.toNatClampNeg) (w_grow hM hz e1 rfl ?_ o1) (w_S_grow hS z1 o1) (by omega) (hp3 _ hM.fresh hz)
  refine ⟨hcA, arrV_size _ _ _, fun j hj => ?_⟩
  rw [arrV_read _ _ hj]
  rfl
theorem w_recv (hK : wK G s) (hM : wR G M H) {ci : Nat} {q : vw_C} (hc : wCl[ci]? = some q) (h : ∃ fs, M a = some (.inr (ci, fs))) : ∃ cell : Cell, H[a]? = some cell ∧ cell.vm.isStatics = false ∧ s.vm.findClass q.1 = some cell.cls := by
  obtain ⟨fs, h1⟩ := h
  obtain ⟨cell, g1, g2, g3, g4, r, g5, g6, g7⟩ := hM a _ h1
  cases Option.some.inj (g5.symm.trans hc)
  exact ⟨cell, g1, g3, by rw [g6]; exact (hK.1.1 ci _ hc).2.1⟩
theorem x_aast (X : CallFix p m c cc nL s args lw_all own) (hC : wC G s) (hM : wR G M H) (hS : va_S (wA G) H0 H locs) (hobj : ∀ (ci : Nat) (q : vw_C), wCl[ci]? = some q → Cond.castable q.1 "java/lang/Object" ∈ lw_tbl) {C : String} (hTy : FieldType.object C ∈ wTysN) {i : Int32} {r : Option Nat} (hd : decode cc pc = .ok (.aastore, 1)) {κ : wM → Prop} (hp : oAast G (.object C) M a i r κ)
    (kk : ∀ (M1 : wM) (H1 : Heap) (locs1 : List Loc), wR G M1 H1 → va_S (wA G) H0 H1 locs1 → κ M1 → W p l e R s m args below meth c H1 locs1 cells slots Q (F0 m (pc + 1) ls rest)) : W p l e R s m args below meth c H locs cells slots Q (F0 m pc ls (va_rf r :: .int i :: .ref a :: rest)) := by
  obtain ⟨hx, hb, hml, hown, hts⟩ := X
  obtain ⟨n, f, h1, hza, h2, hob, hp⟩ := hp
  obtain ⟨cell, g1, g2, g3, g4, g5, g6, g7⟩ := hM a _ h1
  have hlt : i.toNatClampNeg < n := Nat.not_le.mp fun q => h2 (Or.inr q)
  have hTy2 : FieldType.object C ∈ wTys := by
    simp only [wTysN, wTys, List.mem_cons, List.not_mem_nil, or_false] at hTy ⊢
    rcases hTy with h | h | h | h | h <;> simp [h]
  have hw : ∀ (v : Value), v = va_rf r → ∀ H1 : Heap, H1[a]? = some (cell.setSlot i.toNatClampNeg v) → H1.size = H.size → (∀ q, q ≠ a → H1[q]? = H[q]?) → W p l e R s m args below meth c H1 (locs ++ [⟨a, i.toNatClampNeg⟩]) cells slots Q (F0 m (pc + 1) ls rest) := by
    intro v hv H1 e1 z oq
    refine kk _ H1 _ (w_astore hM h1 g1 hlt e1 oq fun j hj => ?_) (hS.put z oq hza) hp
    by_cases ej : j = i.toNatClampNeg
    · subst ej; simp [wav, va_up, hv]
    · simp [wav, va_up, ej]
  cases r with
  | none => exact va_WaastN hx hb g1 (w_arr hC.1 hTy2 g5 g3) g2 (by rw [g6]; exact h2) rfl rfl hd (fun H1 e1 z oq => hw _ rfl H1 e1 z oq)
  | some v =>
    obtain ⟨kA, comp, k1, k2, k3, k4⟩ := hC.1.2.1.2 _ hTy
    have main : ∀ (ci : Nat) (q : vw_C) (cv : Cell), wCl[ci]? = some q → H[v]? = some cv → cv.vm.isStatics = false → cv.cls = G.1.1 ci → (q.1 = C ∨ Cond.castable q.1 C ∈ lw_tbl) → W p l e R s m args below meth c H locs cells slots Q (F0 m pc ls (va_rf (some v) :: .int i :: .ref a :: rest)) := by
      intro ci q cv hcq hv hst hcls hq
      obtain ⟨hS2, hfc, kC, hkC, hkind⟩ := hC.1.1.1 ci _ hcq
      obtain ⟨kcomp, hkcomp, -⟩ := Vm.findClass_spec k3
      have hasg : s.vm.assignable cv.cls comp = true := by
        rcases hq with hq | hq
        · rw [hcls]
          have : comp = G.1.1 ci := by rw [hq] at hfc; exact Option.some.inj (k3.symm.trans hfc)
          rw [this]
          exact va_assign ⟨hfc, kC, hkC, hkind⟩
        · have hcs := va_Nw.use rfl (hC.1.2.2.1 _ hq rfl) (A := args)
          obtain ⟨c3, c4, hc3, hc4, hasg⟩ := Cond.castable_spec hcs
          cases Option.some.inj (hc3.symm.trans hfc)
          cases Option.some.inj (hc4.symm.trans k3)
          rw [hcls]; exact hasg
      exact W.aast hx hb g1 (w_nost g3) g2 (by rw [g5]; exact k1) k2 rfl hkcomp ⟨fun q => h2 (Or.inl q), by rw [g6]; exact hlt⟩ hv (w_nost hst) (by rw [hcls]; exact hkC) hasg rfl rfl hd (fun H1 e1 z oq => hw _ rfl H1 e1 z oq)
    rcases hob v rfl with ⟨hty, o, ho⟩ | ⟨hty, fs, ho⟩
    · obtain ⟨cv, v1, v2, v3, v4, r5, v5, v6, v7⟩ := hM v _ ho
      cases hty
      exact main o.1 r5 cv v5 v1 v3 v6 (Or.inr (hobj _ _ v5))
    · obtain ⟨cv, v1, v2, v3, v4, r5, v5, v6, v7⟩ := hM v _ ho
      cases hty
      cases Option.some.inj (v5.symm.trans (show wCl[24]? = some (RJ19, TJ19, 4) from rfl))
      exact main 24 _ cv rfl v1 v3 v6 (Or.inl rfl)
/-! calls -/
theorem w_pre (hC : wC G s) (hM : wR G M H) (hS : va_S (wA G) s.heap H locs) (av : List Value) : ∀ U : State, U.heap = H → s.WarmedH U.vm → wPc G av M av.toArray U := by
  intro U hU hW
  refine ⟨rfl, by rw [hU]; exact hM, hC.1.warm hW, ⟨fun t ht => ?_, ?_, ?_, ?_⟩, by rw [hU]; exact Nat.le_trans hC.2.2 hS.1⟩
  · rw [hU]
    exact va_Z.moved hW.alike ((hC.2.1.1 t ht).kept hS.2.1)
  · rw [hU]
    exact va_Zq.moved hW.alike (hC.2.1.2.1.kept hS.2.1)
  · rw [hU]
    exact vx_Zq.moved hW.alike (hC.2.1.2.2.1.kept hS.2.1)
  · rw [hU]
    exact vx_Zq.moved hW.alike (hC.2.1.2.2.2.kept hS.2.1)
theorem x_call {av : Array Value} {Qp : Option Value → wM → Prop} {Xp : String → Nat → wM → Prop} (hr : vx_Run p l e R s m args below meth c H locs cells slots b1 b1 (F0 m pc ls st0) rest (wQ G Qp av) (wXC G Xp) (wA G)) (hS : va_S (wA G) s.heap H locs) (hB : cells + b ≤ R.cells ∧ slots + b ≤ R.slots) (hb1 : b1 ≤ b)
    (kx : ∀ (E : String) (ce : Cell) (q : Nat) (M1 : wM) (H1 : Heap) (locs1 : List Loc), Xp E q M1 → wR G M1 H1 → va_S (wA G) s.heap H1 locs1 → ((cells + b1) + (b - b1) ≤ R.cells ∧ (slots + b1) + (b - b1) ≤ R.slots) → H1[q]? = some ce → ce.vm = .none → s.vm.findClass E = some ce.cls → vx_W p l e R s m args below meth c H1 locs1 (cells + b1) (slots + b1) Q (F0 m pc ls rest) q)
    (kk : ∀ (v : Option Value) (M1 : wM) (H1 : Heap) (locs1 : List Loc), Qp v M1 → wR G M1 H1 → va_S (wA G) s.heap H1 locs1 → ((cells + b1) + (b - b1) ≤ R.cells ∧ (slots + b1) + (b - b1) ≤ R.slots) → W p l e R s m args below meth c H1 locs1 (cells + b1) (slots + b1) Q (F0 m (pc + 3) ls (v.toList ++ rest))) : W p l e R s m args below meth c H locs cells slots Q (F0 m pc ls st0) := by
  intro T hT X
  rcases hr T hT X with ⟨v, st₀, t, T', L, h0, X', hL, e1, e2, ⟨⟨v', M1, hv, hp, hR⟩, hF⟩, st⟩ | ⟨q, st₀, t, T', L, E, ce, h0, X', hL, e1, e2, ⟨⟨M1, hp, hR⟩, hF⟩, hce, hcv, hcl, st⟩
  · cases hv
    obtain ⟨k1, k2, k3⟩ := vx_keep h0 e1 hS (fun q _ h => h) (fun q h => h) hL hF
    obtain ⟨t2, a1, b1⟩ := kk v M1 T'.heap (locs ++ L) hp (by rw [e1]; exact hR) k3 (by omega) T' rfl X'
    exact ⟨t2, st t2 a1, b1⟩
  · obtain ⟨k1, k2, k3⟩ := vx_keep h0 e1 hS (fun q _ h => h) (fun q h => h) hL hF
    obtain ⟨t2, a1, b1⟩ := kx E ce q M1 T'.heap (locs ++ L) hp (by rw [e1]; exact hR) k3 (by omega) (by rw [e1]; exact hce) hcv hcl T' rfl X'
    exact ⟨t2, st.trans a1, b1⟩
theorem x_call5 {av : Array Value} {Qp : Option Value → wM → Prop} {Xp : String → Nat → wM → Prop} (hr : vx_Run5 p l e R s m args below meth c H locs cells slots b1 b1 (F0 m pc ls st0) rest (wQ G Qp av) (wXC G Xp) (wA G)) (hS : va_S (wA G) s.heap H locs) (hB : cells + b ≤ R.cells ∧ slots + b ≤ R.slots) (hb1 : b1 ≤ b)
    (kx : ∀ (E : String) (ce : Cell) (q : Nat) (M1 : wM) (H1 : Heap) (locs1 : List Loc), Xp E q M1 → wR G M1 H1 → va_S (wA G) s.heap H1 locs1 → ((cells + b1) + (b - b1) ≤ R.cells ∧ (slots + b1) + (b - b1) ≤ R.slots) → H1[q]? = some ce → ce.vm = .none → s.vm.findClass E = some ce.cls → vx_W p l e R s m args below meth c H1 locs1 (cells + b1) (slots + b1) Q (F0 m pc ls rest) q)
    (kk : ∀ (v : Option Value) (M1 : wM) (H1 : Heap) (locs1 : List Loc), Qp v M1 → wR G M1 H1 → va_S (wA G) s.heap H1 locs1 → ((cells + b1) + (b - b1) ≤ R.cells ∧ (slots + b1) + (b - b1) ≤ R.slots) → W p l e R s m args below meth c H1 locs1 (cells + b1) (slots + b1) Q (F0 m (pc + 5) ls (v.toList ++ rest))) : W p l e R s m args below meth c H locs cells slots Q (F0 m pc ls st0) := by
  intro T hT X
  rcases hr T hT X with ⟨v, st₀, t, T', L, h0, X', hL, e1, e2, ⟨⟨v', M1, hv, hp, hR⟩, hF⟩, st⟩ | ⟨q, st₀, t, T', L, E, ce, h0, X', hL, e1, e2, ⟨⟨M1, hp, hR⟩, hF⟩, hce, hcv, hcl, st⟩
  · cases hv
    obtain ⟨k1, k2, k3⟩ := vx_keep h0 e1 hS (fun q _ h => h) (fun q h => h) hL hF
    obtain ⟨t2, a1, b1⟩ := kk v M1 T'.heap (locs ++ L) hp (by rw [e1]; exact hR) k3 (by omega) T' rfl X'
    exact ⟨t2, st t2 a1, b1⟩
  · obtain ⟨k1, k2, k3⟩ := vx_keep h0 e1 hS (fun q _ h => h) (fun q h => h) hL hF
    obtain ⟨t2, a1, b1⟩ := kx E ce q M1 T'.heap (locs ++ L) hp (by rw [e1]; exact hR) k3 (by omega) (by rw [e1]; exact hce) hcv hcl T' rfl X'
    exact ⟨t2, st.trans a1, b1⟩
/-! ends -/
variable {Qp : Option Value → wM → Prop} {Xp : String → Nat → wM → Prop} {B : Nat}
theorem w_end (hM : wR G M H) (hS : va_S (wA G) s.heap H locs) {v : Option Value} (hq : Qp v M) (t : State) (ht : t.heap = H) : wQ G Qp args s (.returned v) t :=
  ⟨⟨v, M, rfl, hq, by rw [ht]; exact hM⟩, hS.F ht⟩
theorem x_iret (X : CallFix p m c cc nL s args lw_all own) (hr : meth.sig.returnType = some .int) (hlk : meth.locks = false) (hM : wR G M H) (hS : va_S (wA G) s.heap H locs) (hcs : cells ≤ B ∧ slots ≤ B) {v : Int32} (hd : decode cc pc = .ok (.ireturn, 1)) (hq : Qp (some (.int v)) M) : W p l e R s m args below meth c H locs cells slots (vx_MQ below (wQ G Qp) (wXC G Xp) args s B B (wA G)) (F0 m pc ls [.int v]) :=
  vx_ret (W.widen hcs.1 hcs.2 (W.iret X.1 X.2.1 hr (fun t ht _ => w_end hM hS hq t ht) hS.2.2 hd))
theorem x_zret (X : CallFix p m c cc nL s args lw_all own) {ty : FieldType} (hr : meth.sig.returnType = some ty) (hlk : meth.locks = false) (hM : wR G M H) (hS : va_S (wA G) s.heap H locs) (hcs : cells ≤ B ∧ slots ≤ B) {v : Int32} (hn : narrow ty (.int v) = .int v) (hd : decode cc pc = .ok (.ireturn, 1)) (hq : Qp (some (.int v)) M) : W p l e R s m args below meth c H locs cells slots (vx_MQ below (wQ G Qp) (wXC G Xp) args s B B (wA G)) (F0 m pc ls [.int v]) :=
  vx_ret (W.widen hcs.1 hcs.2 (W.zret X.1 X.2.1 hr hn (fun t ht _ => w_end hM hS hq t ht) hS.2.2 hd))
theorem x_lret (X : CallFix p m c cc nL s args lw_all own) (hr : meth.sig.returnType = some .long) (hlk : meth.locks = false) (hM : wR G M H) (hS : va_S (wA G) s.heap H locs) (hcs : cells ≤ B ∧ slots ≤ B) {v : Int64} (hd : decode cc pc = .ok (.lreturn, 1)) (hq : Qp (some (.long v)) M) : W p l e R s m args below meth c H locs cells slots (vx_MQ below (wQ G Qp) (wXC G Xp) args s B B (wA G)) (F0 m pc ls [.long v]) :=
  vx_ret (W.widen hcs.1 hcs.2 (W.lret X.1 X.2.1 hr (fun t ht _ => w_end hM hS hq t ht) hS.2.2 hd))
theorem x_vret (X : CallFix p m c cc nL s args lw_all own) (hr : meth.sig.returnType = none) (hlk : meth.locks = false) (hM : wR G M H) (hS : va_S (wA G) s.heap H locs) (hcs : cells ≤ B ∧ slots ≤ B) (hd : decode cc pc = .ok (.return_, 1)) (hq : Qp none M) : W p l e R s m args below meth c H locs cells slots (vx_MQ below (wQ G Qp) (wXC G Xp) args s B B (wA G)) (F0 m pc ls []) :=
  vx_ret (W.widen hcs.1 hcs.2 (W.vret X.1 X.2.1 hr (fun t ht _ => w_end hM hS hq t ht) hS.2.2 hd))
theorem x_aret (X : CallFix p m c cc nL s args lw_all own) {rt : FieldType} (hr : meth.sig.returnType = some rt) (hrt : (∃ n, rt = .object n) ∨ ∃ t, rt = .array t) (hlk : meth.locks = false) (hM : wR G M H) (hS : va_S (wA G) s.heap H locs) (hcs : cells ≤ B ∧ slots ≤ B) {v : Option Nat} (hd : decode cc pc = .ok (.areturn, 1)) (hq : Qp (some (va_rf v)) M) : W p l e R s m args below meth c H locs cells slots (vx_MQ below (wQ G Qp) (wXC G Xp) args s B B (wA G)) (F0 m pc ls [va_rf v]) :=
  vx_ret (W.widen hcs.1 hcs.2 (W.aret X.1 X.2.1 hr hrt (by cases v with | none => exact Or.inl rfl | some a => exact Or.inr ⟨a, rfl⟩) (fun t ht _ => w_end hM hS hq t ht) hS.2.2 hd))
/-- a thrown object leaves the method -/
theorem x_out {E : String} {ce : Cell} {q : Nat} (hlk : meth.locks = false) (hout : ∀ x ∈ c.exceptionTable.toList, covers x pc = false) (hM : wR G M H) (hS : va_S (wA G) s.heap H locs) (hcs : cells ≤ B ∧ slots ≤ B) (hcell : H[q]? = some ce) (hv : ce.vm = .none) (hcl : s.vm.findClass E = some ce.cls) (hx : Xp E q M) : vx_W p l e R s m args below meth c H locs cells slots (vx_MQ below (wQ G Qp) (wXC G Xp) args s B B (wA G)) (F0 m pc ls rest) q :=
  vx_out hout hlk hcell hv hcl (fun t ht _ => ⟨⟨M, hx, by rw [ht]; exact hM⟩, hS.F ht⟩) hS.2.2 hcs.1 hcs.2
/-! references of either kind -/
theorem x_aload_n {r : Option Nat} (hx : p.tables.exec = Jvm.exec) (hb : c.code = cc) {k : Fin 4} {i : Nat} (hd : decode cc pc = .ok (.aload_n k, 1)) (hi : (k : Nat) = i) (hl : ls[i]? = some (.val (va_rf r))) (kk : W p l e R s m args below meth c H locs cells slots Q (F0 m (pc + 1) ls (va_rf r :: rest))) : W p l e R s m args below meth c H locs cells slots Q (F0 m pc ls rest) := by
  cases r with
  | none => exact lv_aload_nN hx hb hd hi hl kk
  | some a => exact lv_aload_n hx hb hd hi hl kk
theorem x_aload {r : Option Nat} (hx : p.tables.exec = Jvm.exec) (hb : c.code = cc) {i : Nat} (hd : decode cc pc = .ok (.aload i, 2)) (hl : ls[i]? = some (.val (va_rf r))) (kk : W p l e R s m args below meth c H locs cells slots Q (F0 m (pc + 2) ls (va_rf r :: rest))) : W p l e R s m args below meth c H locs cells slots Q (F0 m pc ls rest) := by
  cases r with
  | none => exact lv_aloadN hx hb hd hl kk
  | some a => exact lv_aload hx hb hd hl kk
theorem w_filter1 {lv : List (Nat × Value)} {i : Nat} : lv.filter (fun q => !(q.1 == i) && !(q.1 + 1 == i && q.2.category == 2)) = lv.filter (fun q => !(q.1 == i) && !(q.1 + 1 == i && q.2.category == 2)) := rfl
theorem x_astore_n {r : Option Nat} (hx : p.tables.exec = Jvm.exec) (hb : c.code = cc) {k : Fin 4} {i nL : Nat} {lv lv' : List (Nat × Value)} (hd : decode cc pc = .ok (.astore_n k, 1)) (hi : (k : Nat) = i) (h : lv_has ls nL lv) (hn : i < nL) (hl : (i, va_rf r) :: lv.filter (fun q => !(q.1 == i) && !(q.1 + 1 == i && q.2.category == 2)) = lv') (kk : ∀ ls' : Array Slot, lv_has ls' nL lv' → W p l e R s m args below meth c H locs cells slots Q (F0 m (pc + 1) ls' rest)) : W p l e R s m args below meth c H locs cells slots Q (F0 m pc ls (va_rf r :: rest)) := by
  cases r with
  | none => exact lv_astore_nN hx hb hd hi h hn hl kk
  | some a => exact lv_astore_n hx hb hd hi h hn hl kk
theorem x_astore {r : Option Nat} (hx : p.tables.exec = Jvm.exec) (hb : c.code = cc) {i nL : Nat} {lv lv' : List (Nat × Value)} (hd : decode cc pc = .ok (.astore i, 2)) (h : lv_has ls nL lv) (hn : i < nL) (hl : (i, va_rf r) :: lv.filter (fun q => !(q.1 == i) && !(q.1 + 1 == i && q.2.category == 2)) = lv') (kk : ∀ ls' : Array Slot, lv_has ls' nL lv' → W p l e R s m args below meth c H locs cells slots Q (F0 m (pc + 2) ls' rest)) : W p l e R s m args below meth c H locs cells slots Q (F0 m pc ls (va_rf r :: rest)) := by
  cases r with
  | none => exact lv_astoreN hx hb hd h hn hl kk
  | some a => exact lv_astore hx hb hd h hn hl kk
theorem x_ifnull {r : Option Nat} (hx : p.tables.exec = Jvm.exec) (hb : c.code = cc) {off : Int} {tgt : Nat} (hd : decode cc pc = .ok (.ifnull off, 3)) (ht : (pc : Int) + off = (tgt : Int)) (kt : r = none → W p l e R s m args below meth c H locs cells slots Q (F0 m tgt ls rest)) (kf : ∀ a, r = some a → W p l e R s m args below meth c H locs cells slots Q (F0 m (pc + 3) ls rest)) : W p l e R s m args below meth c H locs cells slots Q (F0 m pc ls (va_rf r :: rest)) := by
  cases r with
  | none => exact lv_ifnullN hx hb hd ht (kt rfl)
  | some a => exact lv_ifnull hx hb hd (kf a rfl)
theorem x_ifnonnull {r : Option Nat} (hx : p.tables.exec = Jvm.exec) (hb : c.code = cc) {off : Int} {tgt : Nat} (hd : decode cc pc = .ok (.ifnonnull off, 3)) (ht : (pc : Int) + off = (tgt : Int)) (kt : ∀ a, r = some a → W p l e R s m args below meth c H locs cells slots Q (F0 m tgt ls rest)) (kf : r = none → W p l e R s m args below meth c H locs cells slots Q (F0 m (pc + 3) ls rest)) : W p l e R s m args below meth c H locs cells slots Q (F0 m pc ls (va_rf r :: rest)) := by
  cases r with
  | none => exact lv_ifnonnullN hx hb hd (kf rfl)
  | some a => exact lv_ifnonnull hx hb hd ht (kt a rfl)
/-! checkcast, statics, constants -/
theorem x_cast (X : CallFix p m c cc nL s args lw_all own) (hK : wK G s) (hM : wR G M H) {nm : String} {index ci : Nat} {q : vw_C} (hlink : Cond.classLink own index nm ∈ lw_all) (hc : wCl[ci]? = some q) (hcs : q.1 = nm ∨ Cond.castable q.1 nm ∈ lw_tbl) {r : Option Nat} (hd : decode cc pc = .ok (.checkcast index, 3)) {P : Prop} (hp : oCast M r ci P) (kk : P → W p l e R s m args below meth c H locs cells slots Q (F0 m (pc + 3) ls (va_rf r :: rest))) : W p l e R s m args below meth c H locs cells slots Q (F0 m pc ls (va_rf r :: rest)) := by
  obtain ⟨hx, hb, hml, hown, hts⟩ := X
  cases r with
  | none => exact lv_castN hx hb hd (kk hp.2)
  | some a =>
    have hr := w_recv hK hM hc (hp.1 a rfl)
    rcases hcs with h | h
    · rw [h] at hr
      exact va_castE hx hb hown (hts _ hlink) hr hd (kk hp.2)
    · exact va_castY hx hb hown (hts _ hlink) (hK.2.2.1 _ h rfl) hr hd (kk hp.2)
theorem x_gets (X : CallFix p m c cc nL s args lw_all own) (hC : wC G s) (hS : va_S (wA G) s.heap H locs) {C n d ref : String} {index : Nat} {v : Int32 ⊕ Nat} (ht : (C, n, d, v) ∈ wStat) (hlink : Cond.fieldLink own index ref n d ∈ lw_all) (hsame : ∀ x, s.fieldFound? C n d = some x → s.fieldFound? ref n d = some x) (hd : decode cc pc = .ok (.getstatic index, 3)) (kk : W p l e R s m args below meth c H locs cells slots Q (F0 m (pc + 3) ls (wsv G v :: rest))) : W p l e R s m args below meth c H locs cells slots Q (F0 m pc ls rest) :=
  va_gets X.1 X.2.1 (hC.2.1.1 _ ht) hS X.2.2.2.1 (X.2.2.2.2 _ hlink) hsame hd kk
theorem x_ldcS (X : CallFix p m c cc nL s args lw_all own) (hK : wK G s) {tx : String} {index k : Nat} (ht : (own, index, tx, k) ∈ wStrs) (hd : decode cc pc = .ok (.ldc index, 2)) (kk : W p l e R s m args below meth c H locs cells slots Q (F0 m (pc + 2) ls (.ref (G.2.2.2 k) :: rest))) : W p l e R s m args below meth c H locs cells slots Q (F0 m pc ls rest) :=
  va_ldcS X.1 X.2.1 X.2.2.2.1 (hK.2.2.2.2.2.2.1 _ ht) hd kk
theorem x_throw0 (X : CallFix p m c cc nL s args lw_all own) (hC : wC G s) (hl : l.stackTraces = false) (hM : wR G M H) (hS : va_S (wA G) s.heap H locs) (hB : cells + b ≤ R.cells ∧ slots + b ≤ R.slots) (hB2 : R.cells ≤ B ∧ R.slots ≤ B) {cls : String} {names : List String} {ik ic : Nat} (hcls : Bundle.fit cls = true) (hnames : ∀ n ∈ names, Bundle.fit n = true) (hk : Cond.classLink own ik cls ∈ lw_all) (hini : Cond.initialized cls ∈ lw_all) (hgood : ∀ w ∈ Cond.classLink own ik cls :: Cond.initialized cls :: vx_at0 own ic cls names, vx_ot w = true) (htb2 : ∀ w ∈ vx_at0 own ic cls names, w.before args s = true) (hsize : ls.size = c.maxLocals)
    (d0 : decode cc pc = .ok (.new ik, 3)) (d3 : decode cc (pc + 3) = .ok (.dup, 1)) (d4 : decode cc (pc + 4) = .ok (.invokespecial ic, 3)) (d7 : decode cc (pc + 7) = .ok (.athrow, 1)) (hout : ∀ x ∈ c.exceptionTable.toList, covers x (pc + 7) = false) (hRframes : names.length + 3 < R.frames) (hRlocals : (rest.map fun v => v.category).sum + (13 * (names.length + 1) + 42) ≤ R.locals) (hlk : meth.locks = false) (hb6 : 7 ≤ b) (hx : ∀ q, Xp cls q M) : W p l e R s m args below meth c H locs cells slots (vx_MQ below (wQ G Qp) (wXC G Xp) args s B B (wA G)) (F0 m pc ls rest) := by
  obtain ⟨hx0, hb, hml, hown, hts⟩ := X
  refine vx_throw0 hx0 hb hl hown hcls hnames (hts _ hk) (hts _ hini) htb2 hgood hC.2.1.2.2.1 hC.2.1.2.2.2 hS hsize d0 d3 d4 d7 hout hRframes hRlocals (by omega) (by omega) hlk (fun q9 t hal h1 h2 => ⟨⟨M, hx q9, fun a x ha => (hM a x ha).kept (h2 a (hM.lt ha))⟩, ⟨Nat.le_trans hS.1 h1, fun q g1 g2 => (h2 q (Nat.lt_of_lt_of_le g1 hS.1)).trans (hS.2.1 q g1 g2)⟩⟩) hS.2.2 (by omega) (by omega)
end ROWS2
