set_option maxRecDepth 100000
/-! CORE 1: worlds as maps from addresses to cells; contracts over them -/
/-- a cell's picture: an array (element type, length, contents) or an object (class number in wCl, fields) -/
abbrev wE : Type := (FieldType × vp_A) ⊕ (Nat × List Value)
abbrev wM : Type := Nat → Option wE
def wIns (M : wM) (a : Nat) (x : wE) : wM := fun q => if q = a then some x else M q
/-- class numbers and slots, array classes, the heap's size at the law's start, addresses of constants -/
abbrev wG : Type := va_G × (FieldType → ClassId) × Nat × (Nat → Nat)
abbrev wz (G : wG) : Nat := G.2.2.1
def wav (a : vp_A) (j : Nat) : Value := match a.2 with
  | .inl f => .int (f j)
  | .inr (.inl f) => .long (f j)
  | .inr (.inr (.inl f)) => .float (f j)
  | .inr (.inr (.inr (.inl f))) => .double (f j)
  | .inr (.inr (.inr (.inr f))) => va_rf (f j)
def wIn (G : wG) (x : wE) (cell : Cell) : Prop := match x with
  | .inl y => cell.cls = G.2.1 y.1 ∧ cell.slots.size = y.2.1 ∧ ∀ j, j < y.2.1 → cell.slots[j]? = some (wav y.2 j)
  | .inr o => ∃ r : vw_C, wCl[o.1]? = some r ∧ cell.cls = G.1.1 o.1 ∧ ∀ k, k < r.2.2 → cell.slots[G.1.2 o.1 k]? = some (vp_V o.2 k)
def wAt (G : wG) (H : Heap) (a : Nat) (x : wE) : Prop :=
  ∃ cell : Cell, H[a]? = some cell ∧ cell.vm ≠ .unknown ∧ cell.vm.isStatics = false ∧ (wz G ≤ a → cell.vm = .none) ∧ wIn G x cell
def wR (G : wG) (M : wM) (H : Heap) : Prop := ∀ a x, M a = some x → wAt G H a x
def wA (G : wG) : Nat → Prop := fun q => wz G ≤ q
theorem wR.lt {G : wG} {M : wM} {H : Heap} (h : wR G M H) {a : Nat} {x : wE} (hx : M a = some x) : a < H.size := by
  obtain ⟨c, h1, -⟩ := h a x hx
  exact (Array.getElem?_eq_some_iff.mp h1).1
theorem wR.fresh {G : wG} {M : wM} {H : Heap} (h : wR G M H) : M H.size = none := by
  cases e : M H.size with
  | none => rfl
  | some x => exact absurd (h.lt e) (Nat.lt_irrefl _)
theorem wAt.kept {G : wG} {H H1 : Heap} {a : Nat} {x : wE} (h : wAt G H a x) (e : H1[a]? = H[a]?) : wAt G H1 a x := by
  obtain ⟨c, h1, h2⟩ := h
  exact ⟨c, by rw [e]; exact h1, h2⟩
theorem wR.ins {G : wG} {M : wM} {H H1 : Heap} (h : wR G M H) {a : Nat} {x : wE} (hx : wAt G H1 a x) (o : ∀ q, q ≠ a → q < H.size → H1[q]? = H[q]?) : wR G (wIns M a x) H1 := by
  intro q y hy
  unfold wIns at hy
  by_cases e : q = a
  · subst e
    rw [if_pos rfl] at hy
    cases hy
    exact hx
  · rw [if_neg e] at hy
    exact (h q y hy).kept (o q e (h.lt hy))
/-- what the tables say of the classes: it stays -/
def wTys : List FieldType := [.int, .long, .byte, .object "java/lang/Object", .object "java/lang/String", .object "java/lang/Integer"]
def wTysN : List FieldType := [.int, .long, .byte, .object "java/lang/Object", .object "java/lang/String"]
def wNwKind (w : Cond) : Bool := match w with
  | .fieldLinkNest .. => true
  | .methodLinkNest .. => true
  | .castable .. => true
  | .declares .. => true
  | _ => false
def wNW (U : State) : Prop := ∀ w ∈ lw_tbl, wNwKind w = true → va_Nw w U
theorem wNW.warm {s U : State} (hW : s.WarmedH U.vm) (h : wNW s) : wNW U := by
  intro w hw hk
  have h1 := h w hw hk
  cases w <;> first | exact va_Nw.warmF hW h1 | exact va_Nw.warmM hW h1 | exact va_Nw.warmC hW h1 | exact va_Nw.warmD hW h1 | exact absurd hk (by simp [wNwKind])
/-- a site that makes objects stays such a site -/
theorem w_lam {s U : State} (hW : s.WarmedH U.vm) {x : MethodName} {pc index : Nat} {σ : Lambda.Shape} {c : ClassId} (h : s.lambdaAt? x pc index σ = some (c, none)) : U.lambdaAt? x pc index σ = some (c, none) := by
  obtain ⟨m, kc, cf, i0, p0, l, hm, hk, hcf, hsh, hin, hfind, hmade, hcall, hl⟩ := State.lambdaAt?_spec h
  have hcall' : U.lambdaCallable σ c = true := by
    have hA := hW.alike
    simp only [State.lambdaCallable, hA.findClass, hA.assignable, hA.superclasses, hA.declaredIn] at hcall ⊢
    exact hcall
  obtain ⟨kc', hk', he⟩ := hW.alike.2.2 _ _ hk
  have hm' : U.methodNamed? x = some m := by
    have := State.methodNamed?_setVm (s := s) hW.alike x
    rw [hm] at this
    exact this
  have hcf' : kc'.cf = some cf := by rw [he]; exact hcf
  have hin' : (m.idx, pc, index, σ) ∈ Lambda.sitesOf kc' := by rw [he]; exact hin
  have hfind' : (kc'.callSites.find? fun y => y.1 == m.idx && y.2.1 == pc) = some (i0, p0, l) := by rw [he]; exact hfind
  have hmade' := Lambda.isMade_warmer hW hmade
  obtain ⟨m2, k2, hm2, hk2, hjdk, howes⟩ := State.lambdaAt?_road h
  cases hm.symm.trans hm2
  cases hk.symm.trans hk2
  have hjdk' : jdkName kc'.name = false := by rw [he]; exact hjdk
  have howes' : (U.vm.findClass σ.iface).bind (Lambda.owesInit U.vm) = none := by
    rw [hW.alike.findClass]
    cases hfi : s.vm.findClass σ.iface with
    | none => rfl
    | some i => rw [hfi] at howes; simpa [Lambda.owesInit_alike hW.alike] using howes
  have hany : ((Lambda.sitesOf kc').any fun y => decide (y = (m.idx, pc, index, σ))) = true := by simpa using hin'
  rcases hl with ⟨a, cell, -, h0, -⟩ | ⟨rfl, -, hcap⟩
  · cases h0
  · simp [State.lambdaAt?, guard, hjdk', howes', hm', hk', hcf', hsh, hany, hfind', hcap, hmade', hcall']
theorem w_ifm {x : MethodName} (hx : x.cls ≠ "java/lang/invoke/MethodHandle" ∧ x.cls ≠ "java/lang/invoke/VarHandle") {u U : State} (hvm : u.vm.Alike U.vm) (h : (Cond.declares x).before #[] u = true ∧ (Cond.interfaceMethod x.cls x.cls x.name x.desc).before #[] u = true) : (Cond.declares x).before #[] U = true ∧ (Cond.interfaceMethod x.cls x.cls x.name x.desc).before #[] U = true := by
  obtain ⟨h1, h2⟩ := h
  obtain ⟨r, meth, hn, -⟩ := Cond.declares_spec h1
  have tr : ∀ {c : Cond}, c.onTables = true → c.before #[] (u.setVm U.vm) = true → c.before #[] U = true := by
    intro c hc h
    have e := Cond.onTables_vm (A := #[]) (A' := #[]) (U := u) (U' := U) U.vm c hc
    have hU : U.setVm U.vm = U := rfl
    rw [hU] at e
    rw [← e]
    exact h
  exact ⟨tr rfl (by rw [Cond.declares_setVm hvm]; exact h1), tr rfl (by rw [Cond.interfaceMethod_setVm hvm (r := r) hn hx]; exact h2)⟩
def wWh : MethodName := ⟨"ParkingOffice$Which", "is", "(LParkingOffice$Permit;)Z"⟩
def wIf (U : State) : Prop := (Cond.declares wWh).before #[] U = true ∧ (Cond.interfaceMethod wWh.cls wWh.cls wWh.name wWh.desc).before #[] U = true
theorem wIf.moved {u U : State} (hvm : u.vm.Alike U.vm) (h : wIf u) : wIf U := w_ifm (by decide) hvm h
/-- the calls that land in an interface's default method -/
def wRuns (C : String) : MethodName := ⟨C, "runs", "(I)Z"⟩
def wDf (U : State) : Prop := (∀ w ∈ defaultWords_1, w.before #[] U = true) ∧ ∀ C, C = "ParkingOffice$Visit" ∨ C = "ParkingOffice$Zone" → (Cond.landsInDefault C (wRuns C) (wRuns "ParkingOffice$Timed")).before #[] U = true
theorem w_dgood : ∀ w ∈ defaultWords_1, goodWord w = true := by decide +kernel
theorem wDf.warm {s U : State} (hW : s.WarmedH U.vm) (h : wDf s) : wDf U := by
  refine ⟨fun w hw => word_at hW (good_of_word (w_dgood w hw)) (h.1 w hw), fun C hC => ?_⟩
  have h1 : (Cond.landsInDefault C (wRuns C) (wRuns "ParkingOffice$Timed")).before #[] (s.setVm U.vm) = true := (Cond.landsInDefault_setVm hW.alike (State.methodFound?_setVm hW.alike _ _ _)).trans (h.2 C hC)
  exact h1
/-- private methods of a superclass that are called -/
def wPrv : List MethodName := ["ensureCapacityInternal", "newCapacity", "putStringAt", "inflateIfNeededFor"].zip ["(I)V", "(I)I", "(ILjava/lang/String;)V", "(Ljava/lang/String;)V"] |>.map fun t => ⟨"java/lang/AbstractStringBuilder", t.1, t.2⟩
theorem w_priv {s U : State} (hW : s.WarmedH U.vm) {y : MethodName} (h : s.PrivateAt y) : U.PrivateAt y := by
  intro mk meth h1 h2
  have e := State.methodNamed?_setVm (s := s) hW.alike y
  have e2 : U.vm.method? mk = s.vm.method? mk := hW.alike.method? mk
  exact h mk meth (e.symm.trans h1) (e2.symm.trans h2)
def wK (G : wG) (U : State) : Prop := va_K G.1 wCl [] U ∧ ((∀ ty ∈ wTys, ArrOfT U (G.2.1 ty) ty) ∧ ∀ ty ∈ wTysN, va_RA U (G.2.1 ty) ty) ∧ wNW U ∧ (∀ t ∈ wFws, va_Fw t.1 t.2.1 t.2.2 U) ∧ (va_AO "java/lang/Object" U ∧ va_AO "java/lang/String" U) ∧ (∀ t ∈ wNcs, va_Nc t.1 t.2 U) ∧ (∀ t ∈ wStrs, vk_R t.1 t.2.1 t.2.2.1 (G.2.2.2 t.2.2.2) U) ∧ (∀ t ∈ wMirs, va_Mi t.1 (G.2.2.2 t.2) U) ∧ (∀ t ∈ wLams, U.lambdaAt? t.1 t.2.1 t.2.2.1 t.2.2.2.1 = some (G.2.1 (.object t.2.2.2.2), none)) ∧ wIf U ∧ wDf U ∧ ∀ y ∈ wPrv, U.PrivateAt y
theorem wK.warm {G : wG} {s U : State} (hW : s.WarmedH U.vm) (h : wK G s) : wK G U := by
  obtain ⟨h1, h2, h3, h4, h5, h6, h7, h8, h9, h10, h11, h12⟩ := h
  refine ⟨va_K.moved hW.alike h1, ⟨fun ty hty => arrOfT_moved hW.alike (h2.1 ty hty), fun ty hty => (h2.2 ty hty).moved hW.alike⟩, h3.warm hW, fun t ht => va_Fw.moved (wFws_ok t ht) hW.alike (h4 t ht), ⟨va_AO.moved hW.alike h5.1, va_AO.moved hW.alike h5.2⟩, fun t ht => va_Nc.moved hW.alike (h6 t ht), fun t ht => vk_R.warm hW (h7 t ht), fun t ht => va_Mi.moved hW.alike (h8 t ht), fun t ht => w_lam hW (h9 t ht), h10.moved hW.alike, h11.warm hW, fun y hy => w_priv hW (h12 y hy)⟩
def wsv (G : wG) (v : Int32 ⊕ Nat) : Value := match v with
  | .inl v => .int v
  | .inr k => .ref (G.2.2.2 k)
/-- static fields that nobody writes -/
def wZ (G : wG) (U : State) (H : Heap) : Prop := ∀ t ∈ wStat, va_Z t.1 t.2.1 t.2.2.1 (wsv G t.2.2.2) (wA G) U H
def wZq (G : wG) (U : State) (H : Heap) : Prop := va_Zq "jdk/internal/util/Preconditions" "SIOOBE_FORMATTER" "Ljava/util/function/BiFunction;" (wA G) U H ∧ vx_Zq Bundle.tN "UNASSIGNED_STACK" Bundle.steD (wA G) U H ∧ vx_Zq Bundle.tN "SUPPRESSED_SENTINEL" Bundle.listD (wA G) U H
/-- a method's start -/
def wI (G : wG) (M : wM) (U : State) : Prop := wR G M U.heap ∧ wK G U ∧ (wZ G U U.heap ∧ wZq G U U.heap) ∧ wz G ≤ U.heap.size
def wPc (G : wG) (av : List Value) (M : wM) : Array Value → State → Prop := va_Pc av (fun U => wI G M U)
theorem wPc.blind {G : wG} {av : List Value} {M : wM} : FrameBlind (wPc G av M) := by
  intro a U g mk h
  obtain ⟨h1, h2, h3, ⟨h4, h7, h5⟩, h6⟩ := h
  refine ⟨h1, h2, h3.warm (State.WarmedH.refl U), ⟨fun t ht => va_Z.moved (u := U) (U := U.calling g mk a) (Vm.Alike.refl U.vm) (h4 t ht), va_Zq.moved (u := U) (U := U.calling g mk a) (Vm.Alike.refl U.vm) h7, vx_Zq.moved (u := U) (U := U.calling g mk a) (Vm.Alike.refl U.vm) h5.1, vx_Zq.moved (u := U) (U := U.calling g mk a) (Vm.Alike.refl U.vm) h5.2⟩, h6⟩
def wQ (G : wG) (Q : Option Value → wM → Prop) : Array Value → State → Outcome → State → Prop := fun _ st o t => (∃ v M', o = .returned v ∧ Q v M' ∧ wR G M' t.heap) ∧ va_F (wA G) st t
def wXC (G : wG) (X : String → Nat → wM → Prop) : String → Addr → State → State → Prop := fun E q st t => (∃ M', X E q M' ∧ wR G M' t.heap) ∧ va_F (wA G) st t
def wMet (l : Launch) (y : MethodName) (ws : List Cond) (fr lo : Nat) (G : wG) (av : List Value) (M : wM) (b : Nat) (Q : Option Value → wM → Prop) (X : String → Nat → wM → Prop) : Prop :=
  vx_Met l y ws ({ frames := fr, cells := b, slots := b, locals := lo }) (wPc G av M) (wQ G Q) (wXC G X) b b (wA G)
/-! CORE 2: the operations on worlds that the printed predicates use -/
def wb (r : Bool) : Int32 := if r then 1 else 0
def oGetI (M : wM) (a ci k : Nat) (κ : Int32 → Prop) : Prop := ∃ fs v, M a = some (.inr (ci, fs)) ∧ fs[k]? = some (.int v) ∧ κ v
def oGetJ (M : wM) (a ci k : Nat) (κ : Int64 → Prop) : Prop := ∃ fs v, M a = some (.inr (ci, fs)) ∧ fs[k]? = some (.long v) ∧ κ v
def oGetA (M : wM) (a ci k : Nat) (κ : Nat → Prop) : Prop := ∃ fs v, M a = some (.inr (ci, fs)) ∧ fs[k]? = some (.ref v) ∧ κ v
def oGetR (M : wM) (a ci k : Nat) (κ : Option Nat → Prop) : Prop := ∃ fs v, M a = some (.inr (ci, fs)) ∧ fs[k]? = some (va_rf v) ∧ κ v
def oPut (G : wG) (M : wM) (a ci k : Nat) (v : Value) (κ : wM → Prop) : Prop := ∃ fs, M a = some (.inr (ci, fs)) ∧ k < fs.length ∧ wz G ≤ a ∧ κ (wIns M a (.inr (ci, fs.set k v)))
def oRef (r : Option Nat) (κ : Nat → Prop) : Prop := ∃ a, r = some a ∧ κ a
def oIald (ty : FieldType) (M : wM) (a : Nat) (i : Int32) (κ : Int32 → Prop) : Prop := ∃ n f, M a = some (.inl (ty, n, .inl f)) ∧ vp_in i n ∧ κ (f i.toNatClampNeg)
def oLald (M : wM) (a : Nat) (i : Int32) (κ : Int64 → Prop) : Prop := ∃ n f, M a = some (.inl (.long, n, .inr (.inl f))) ∧ vp_in i n ∧ κ (f i.toNatClampNeg)
def oAald (ty : FieldType) (M : wM) (a : Nat) (i : Int32) (κ : Option Nat → Prop) : Prop := ∃ n f, M a = some (.inl (ty, n, .inr (.inr (.inr (.inr f))))) ∧ vp_in i n ∧ κ (f i.toNatClampNeg)
def oAlen (ty : FieldType) (M : wM) (a : Nat) (κ : Int32 → Prop) : Prop := ∃ n f, M a = some (.inl (ty, n, f)) ∧ κ (nI n)
def oIast (G : wG) (M : wM) (a : Nat) (i x : Int32) (κ : wM → Prop) : Prop := ∃ n f, M a = some (.inl (.int, n, .inl f)) ∧ wz G ≤ a ∧ vp_in i n ∧ κ (wIns M a (.inl (.int, n, .inl (upd f i.toNatClampNeg x))))
def oBast (G : wG) (M : wM) (a : Nat) (i x : Int32) (κ : wM → Prop) : Prop := ∃ n f, M a = some (.inl (.byte, n, .inl f)) ∧ wz G ≤ a ∧ vp_in i n ∧ κ (wIns M a (.inl (.byte, n, .inl (upd f i.toNatClampNeg x.toInt8.toInt32))))
def oLast (G : wG) (M : wM) (a : Nat) (i : Int32) (x : Int64) (κ : wM → Prop) : Prop := ∃ n f, M a = some (.inl (.long, n, .inr (.inl f))) ∧ wz G ≤ a ∧ vp_in i n ∧ κ (wIns M a (.inl (.long, n, .inr (.inl (vp_updL f i.toNatClampNeg x)))))
/-- what is stored into an array of references: null, or an object of a class of wCl (any object goes into Object[]; a String into String[]) -/
def oObj (M : wM) (ty : FieldType) (r : Option Nat) : Prop := ∀ v, r = some v → (ty = .object "java/lang/Object" ∧ ∃ o, M v = some (.inr o)) ∨ (ty = .object "java/lang/String" ∧ ∃ fs, M v = some (.inr (24, fs)))
def oAast (G : wG) (ty : FieldType) (M : wM) (a : Nat) (i : Int32) (r : Option Nat) (κ : wM → Prop) : Prop := ∃ n f, M a = some (.inl (ty, n, .inr (.inr (.inr (.inr f))))) ∧ wz G ≤ a ∧ vp_in i n ∧ oObj M ty r ∧ κ (wIns M a (.inl (ty, n, .inr (.inr (.inr (.inr (va_up f i.toNatClampNeg r)))))))
/-- a new object: any address that is not in the world -/
def oNew (G : wG) (M : wM) (b ci : Nat) (fs : List Value) (κ : Nat → wM → Nat → Prop) : Prop := fs.length + 1 ≤ b ∧ ∀ q, M q = none → wz G ≤ q → κ q (wIns M q (.inr (ci, fs))) (b - (fs.length + 1))
def oNewa (G : wG) (M : wM) (b : Nat) (ty : FieldType) (x : (Nat → Int32) ⊕ (Nat → Int64) ⊕ (Nat → UInt32) ⊕ (Nat → UInt64) ⊕ (Nat → Option Nat)) (n : Int32) (κ : Nat → wM → Nat → Prop) : Prop := ¬ n < 0 ∧ n.toNatClampNeg + 1 ≤ b ∧ n.toNatClampNeg ≤ 1000000 ∧ ∀ q, M q = none → wz G ≤ q → κ q (wIns M q (.inl (ty, n.toNatClampNeg, x))) (b - (n.toNatClampNeg + 1))
/-- the object at a has the class of that number -/
def oIs (M : wM) (a ci : Nat) (P : Prop) : Prop := (∃ fs, M a = some (.inr (ci, fs))) ∧ P
/-- checkcast of null or of an object of the class ci -/
def oCast (M : wM) (r : Option Nat) (ci : Nat) (P : Prop) : Prop := (∀ a, r = some a → ∃ fs, M a = some (.inr (ci, fs))) ∧ P
def oIf (c A B : Prop) : Prop := (c → A) ∧ (¬ c → B)
def oNull (r : Option Nat) (A : Prop) (B : Nat → Prop) : Prop := (r = none → A) ∧ ∀ a, r = some a → B a
