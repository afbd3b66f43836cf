set_option maxRecDepth 100000
/-! CORE 9: a call by a name that the named class does not declare; long arrays copied -/
section ROWS9
variable {p : Program} {l : Launch} {e : Env} {R : Room} {s : State} {m : MethodId} {args : Array Value} {below : List Frame} {meth : Method} {c : Code} {H : Heap} {locs : List Loc} {cells slots : Nat} {Q : State → Prop}
theorem w_callVM {T : State} (X : Stand p l e R s m args below meth c T locs cells slots) (hexec : p.tables.exec = Jvm.exec) {own C owner : String} {index : Nat} {x y : MethodName} {bytes : ByteArray} {maxL : Nat} {ret : Option FieldType}
    (hown : s.vm.findClass own = some m.cls) (hlink : (Cond.methodLink own index x).before args s = true) (hsame : (Cond.sameMethod x.cls owner x.name x.desc).before args s = true)
    (hd0 : va_Decl s ⟨owner, x.name, x.desc⟩) (howner : owner ≠ "java/lang/invoke/MethodHandle" ∧ owner ≠ "java/lang/invoke/VarHandle")
    (hsel : (Cond.selects C ⟨owner, x.name, x.desc⟩ y).before args s = true) (hface : (Cond.interfaceMethod owner owner x.name x.desc).before args s = true) (hinst : (Cond.instanceMethod y).before args s = true) (hcode : (Cond.code y bytes maxL ret).before args s = true)
    {W : Nat} {Pre : Pt → Array Value → Prop} {Post : Pt → Array Value → Option Value → Pt → Prop} {PostX : Pt → Array Value → Addr → Pt → Prop} (hK : vx_Back l R p e below s args y 3 W Pre Post PostX)
    {b : Addr} {cellB : Cell} (hcell : T.heap[b]? = some cellB) (hobj : cellB.vm.isStatics = false) (hcls : s.vm.findClass C = some cellB.cls)
    {g : JFrame} (hg : g.method = m) (hsize : g.locals.size = c.maxLocals) {argsL rest : List Value} (hlen : ∀ sig, parseMethodDescriptor x.desc = some sig → argsL.length = sig.parameters.length)
    (hstack : g.stack = argsL.reverse ++ .ref b :: rest) (hW : 2 * g.monitorRoom + (rest.map fun v => v.category).sum ≤ W) (hdg : decode c.code g.pc = .ok (.invokevirtual index, 3))
    (hpre : ∀ vm₁, s.WarmedH vm₁ → Pre ⟨T.setVm vm₁, locs, cells, slots⟩ (Value.ref b :: argsL).toArray) :
    (∃ (v : Option Value) (vm₁ : Vm) (B : Pt), s.WarmedH vm₁ ∧ Stand p l e R s m args below meth c B.U B.locs B.cells B.slots ∧ Post ⟨T.setVm vm₁, locs, cells, slots⟩ (Value.ref b :: argsL).toArray v B ∧
      ∀ target, Steps p.tables e below (B.U.setTop { g with pc := g.pc + 3, stack := v.toList ++ rest }) target → Steps p.tables e below (T.setTop g) target) ∨
    (∃ (q : Addr) (vm₁ : Vm) (B : Pt), s.WarmedH vm₁ ∧ Stand p l e R s m args below meth c B.U B.locs B.cells B.slots ∧ PostX ⟨T.setVm vm₁, locs, cells, slots⟩ (Value.ref b :: argsL).toArray q B ∧
      Steps p.tables e below (T.setTop g) ((B.U.setTop { g with stack := rest }).pushFrame (.throwing q))) := by
  obtain ⟨r0, r, hn, hrm, hstR, hsigR⟩ := hd0
  obtain ⟨cn, ck, r1, hcn, hck, hni, hf, hn1⟩ := Cond.sameMethod_found hsame
  cases hn.symm.trans hn1
  obtain ⟨mk, methM, hnamed, hmethM, -, habM⟩ := Cond.instanceMethod_spec hinst
  obtain ⟨c2, r2, m2, q1, q2, q3, q4, kP, hkP, hkPi⟩ := Cond.selects_spec hsel
  obtain ⟨cF, kF, rF, hcF, hkF, hiF, hfF, hnF⟩ := Cond.interfaceMethod_spec hface
  cases hn.symm.trans hnF
  cases hcls.symm.trans q1
  cases hfF.symm.trans q2
  cases hnamed.symm.trans q3
  have hselP : selectMethod e.platform s.vm cellB.cls r0 = .method mk := by rw [Launch.admits_selectMethod X.admits]; exact q4
  obtain ⟨vm₁, X₁, hstep₁⟩ := X.invokevirtualUp hexec hown hlink hsame howner hn hrm hstR (a := b) (cell := cellB) hcell
    (fun z h => by rw [h] at hobj; cases hobj) hselP hmethM habM hkP hkPi (g := g) hg (argsL := argsL) (rest := rest) (hlen _ hsigR) hstack hdg
  rcases hK m meth c ⟨T.setVm vm₁, locs, cells, slots⟩ { g with stack := rest } (.invokevirtual index) mk (Value.ref b :: argsL).toArray X₁ hg hsize hdg hW (X₁.named hnamed) (hpre vm₁ X₁.warmed) with ⟨v, B, X', hpost, hsteps⟩ | ⟨q, B, X', hpost, hsteps⟩
  · exact Or.inl ⟨v, vm₁, B, X₁.warmed, X', hpost, fun target h => hstep₁ _ fun acts => by rw [doInvoke_state]; exact hsteps.trans h⟩
  · exact Or.inr ⟨q, vm₁, B, X₁.warmed, X', hpost, hstep₁ _ fun acts => by rw [doInvoke_state]; exact hsteps⟩
def wAIL : String := "java/util/ImmutableCollections$AbstractImmutableList"
def wIxL : MethodName := ⟨"java/util/List", "indexOf", "(Ljava/lang/Object;)I"⟩
def wIxN : MethodName := ⟨"java/util/ImmutableCollections$ListN", "indexOf", "(Ljava/lang/Object;)I"⟩
def wIxA : MethodName := ⟨"java/util/ImmutableCollections$AbstractImmutableList", "indexOf", "(Ljava/lang/Object;)I"⟩
/-- contains of List.of(..): indexOf, by a name that the class does not declare -/
theorem w_runM {bytes cc : ByteArray} {maxL nL b1 index : Nat} {ret : Option FieldType} {rm : Room} {Pc : Array Value → State → Prop} {Qc : Array Value → State → Outcome → State → Prop} {XC : String → Addr → State → State → Prop} {free : Addr → Prop} {own C : String} {b : Addr} {As rest : List Value} {g : JFrame} {G : wG} (hC : wC G s)
    (S : CallFix p m c cc nL s args lw_all own) (hM : vx_Met l wIxN (ws_ wIxN bytes maxL ret) rm Pc Qc XC b1 b1 free) (hcode : Cond.code wIxN bytes maxL ret ∈ lw_all) (hinst : Cond.instanceMethod wIxN ∈ lw_all) (hini : Cond.initialized "java/util/ImmutableCollections$ListN" ∈ lw_all) (hdecl : Cond.declares wIxL ∈ lw_tbl) (hface : (Cond.interfaceMethod "java/util/List" "java/util/List" "indexOf" "(Ljava/lang/Object;)I").before #[] s = true) (hsel : Cond.selects "java/util/ImmutableCollections$ListN" wIxL wIxN ∈ lw_all)
    (hCC : C = "java/util/ImmutableCollections$ListN") (hlink : Cond.methodLink own index wIxA ∈ defaultWords_1) (hsame : Cond.sameMethod wAIL "java/util/List" "indexOf" "(Ljava/lang/Object;)I" ∈ defaultWords_1) (hrc : rm.cells = b1) (hrs : rm.slots = b1) (hR : rm.frames + 1 ≤ R.frames ∧ 8 + (maxL + 11) + rm.locals ≤ R.locals) (hp : PreV s H C b Pc As)
    (hg : g.method = m) (hn : As.length = 1) (hsize : g.locals.size = nL) (hstack : g.stack = As.reverse ++ .ref b :: rest) (hW : 2 * g.monitorRoom + (rest.map fun v => v.category).sum ≤ 8) (hdg : decode cc g.pc = .ok (.invokevirtual index, 3)) (hf : cells + b1 ≤ R.cells ∧ slots + b1 ≤ R.slots) :
    vx_Run p l e R s m args below meth c H locs cells slots b1 b1 g rest (Qc (Value.ref b :: As).toArray) XC free := by
  have hts := S.2.2.2.2
  have hG := lw_meth hcode
  have hini' := hts _ hini
  have hK : vx_Back l R p e below s args wIxN 3 8 (PreOf R b1 b1 Pc) (PostOf Qc b1 b1 free) (vx_Post XC b1 b1 free) := vx_back (bytes := bytes) (maxL := maxL) (ret := ret) hM hp.1 hrc hrs hR.1 hR.2 (pay_in hts hG) List.mem_cons_self (fun a' U hW => word_at hW (Or.inl rfl) hini')
  obtain ⟨hx, hb, hml, ho, -⟩ := S
  obtain ⟨-, ⟨cellB, hcB, hoB, hclB⟩, hPc⟩ := hp
  have hDf := hC.1.2.2.2.2.2.2.2.2.2.2.1
  subst hCC
  intro T hT X
  rcases w_callVM X hx (C := "java/util/ImmutableCollections$ListN") (owner := "java/util/List") (x := wIxA) (y := wIxN) (bytes := bytes) (maxL := maxL) (ret := ret) ho (w_word _ rfl (hDf.1 _ hlink)) (w_word _ rfl (hDf.1 _ hsame)) (va_Decl.abs (hC.1.2.2.1 _ hdecl rfl)) (by decide) (hts _ hsel) (w_word _ rfl hface) (hts _ hinst) (hts _ hcode) hK (by rw [hT]; exact hcB) hoB hclB hg (hsize.trans hml.symm) (argsL := As) (rest := rest) (fun sig h => by
      have h2 : parseMethodDescriptor "(Ljava/lang/Object;)I" = some sig := h
      have h3 : (parseMethodDescriptor "(Ljava/lang/Object;)I").map (fun d => d.parameters.length) = some 1 := by decide +kernel
      rw [h2] at h3
      exact hn.trans (Option.some.inj h3).symm) hstack hW (by rw [hb]; exact hdg)
    (fun vm₁ hW₁ => ⟨hf.1, hf.2, hPc (T.setVm vm₁) hT hW₁⟩) with ⟨v, vm₁, ⟨U', l2, c2, s2⟩, hW₁, X', ⟨g', mk, t, L, e1, e2, hq, h1, hL, h2, h3⟩, st⟩ | ⟨q, vm₁, ⟨U', l2, c2, s2⟩, hW₁, X', ⟨g', mk, t, L, E, ce, e1, e2, hq, hce, hcv, hcl, h1, hL, h2, h3⟩, st⟩
  · dsimp only [Pt.U, Pt.locs, Pt.cells, Pt.slots] at X' e1 e2 h1 h2 h3 st
    subst h1; subst h2; subst h3
    exact Or.inl ⟨v, (T.setVm vm₁).calling g' mk (Value.ref b :: As).toArray, t, U', L, hT, X', hL, e1, e2, hq, st⟩
  · dsimp only [Pt.U, Pt.locs, Pt.cells, Pt.slots] at X' e1 e2 h1 h2 h3 st hcl
    subst h1; subst h2; subst h3
    exact Or.inr ⟨q, (T.setVm vm₁).calling g' mk (Value.ref b :: As).toArray, t, U', L, E, ce, hT, X', hL, e1, e2, hq, hce, hcv, vx_cls hW₁ hcl, st⟩
variable {cc : ByteArray} {nL pc : Nat} {ls : Array Slot} {rest : List Value} {own : String} {G : wG} {M : wM} {a b : Nat} {H0 : Heap}
def oCopyJ (G : wG) (M : wM) (src : Nat) (sp : Int32) (dst : Nat) (dp n : Int32) (κ : wM → Prop) : Prop :=
  ∃ (n0 : Nat) (f : Nat → Int64) (n1 : Nat) (g : Nat → Int64), M src = some (.inl (.long, n0, .inr (.inl f))) ∧ M dst = some (.inl (.long, n1, .inr (.inl g))) ∧ wz G ≤ dst ∧ ¬ sp < 0 ∧ ¬ dp < 0 ∧ ¬ n < 0 ∧ sp.toNatClampNeg + n.toNatClampNeg ≤ n0 ∧ dp.toNatClampNeg + n.toNatClampNeg ≤ n1 ∧ κ (wIns M dst (.inl (.long, n1, .inr (.inl (va_cpy f g sp.toNatClampNeg dp.toNatClampNeg n.toNatClampNeg)))))
theorem x_copyJ (X : CallFix p m c cc nL s args lw_all own) (hls : c.maxLocals = ls.size) (hC : wC G s) (hM : wR G M H) (hS : va_S (wA G) H0 H locs) {index : Nat} (hlink : Cond.methodLink own index arraycopyName ∈ lw_all) (hnat : Cond.native arraycopyName ∈ lw_all) (hstat : Cond.static arraycopyName ∈ lw_all) (hini : Cond.initialized "java/lang/System" ∈ lw_all) {src dst : Nat} {sp dp n : Int32} (hframes : 1 ≤ R.frames) (hlocals : (rest.map fun v => v.category).sum + (nativeFrameWords "java/lang/System" "arraycopy" 5 + 11) ≤ R.locals) (hd : decode cc pc = .ok (.invokestatic index, 3)) {κ : wM → Prop} (hp : oCopyJ G M src sp dst dp n κ)
    (kk : ∀ (M1 : wM) (H1 : Heap) (locs1 : List Loc), wR G M1 H1 → va_S (wA G) H0 H1 locs1 → κ M1 → W p l e R s m args below meth c H1 locs1 cells slots Q (F0 m (pc + 3) ls rest)) : W p l e R s m args below meth c H locs cells slots Q (F0 m pc ls (.int n :: .int dp :: .ref dst :: .int sp :: .ref src :: rest)) := by
  obtain ⟨hx, hb, hml, hown, hts⟩ := X
  obtain ⟨n0, f, n1, g, m0, m1, hza, h1, h2, h3, h4, h5, hp⟩ := hp
  obtain ⟨cs, s1, s2, s3, s4, s5, s6, s7⟩ := hM src _ m0
  obtain ⟨cd, d1, d2, d3, d4, d5, d6, d7⟩ := hM dst _ m1
  obtain ⟨-, ks, hks, cms, hkks⟩ := w_arr hC.1 (show FieldType.long ∈ wTys by decide) s5 s3
  obtain ⟨-, kd, hkd, cmd, hkkd⟩ := w_arr hC.1 (show FieldType.long ∈ wTys by decide) d5 d3
  intro T hT Y
  obtain ⟨vm', Y', step⟩ := Y.arraycopy hx hown (hts _ hlink) (hts _ hnat) (hts _ hstat) (hts _ hini) (src := src) (dst := dst) (cs := cs) (cd := cd) (srcPos := sp) (destPos := dp) (n := n) (by rw [hT]; exact s1) (by rw [hT]; exact d1) (w_nost s3) (w_nost d3) s2 d2 hks hkd hkks hkkd (by simp [refKind]) h1 h2 h3
    (by rw [w_nn h1, w_nn h3, s6]; show ¬ _ > ((n0 : Nat) : Int); omega) (by rw [w_nn h2, w_nn h3, d6]; show ¬ _ > ((n1 : Nat) : Int); omega)
    (fun vm₁ hal i hi => by
      have e : cs.slots.getD (sp.toNatClampNeg + i) .null = .long (f (sp.toNatClampNeg + i)) := by
        rw [Array.getD_eq_getD_getElem?, s7 _ (show sp.toNatClampNeg + i < n0 by omega)]
        rfl
      rw [e]
      exact ⟨rfl, trivial⟩)
    (g := F0 m pc ls (.int n :: .int dp :: .ref dst :: .int sp :: .ref src :: rest)) rfl (by rw [hls]) (rest := rest) rfl (by rw [hb]; exact hd) hframes (by show 2 * 0 + _ + _ ≤ _; omega)
  obtain ⟨e1, e2, e3, e4⟩ := w_copied (cs := cs) (cd := cd) (n0 := n0) (n1 := n1) (sp := sp.toNatClampNeg) (dp := dp.toNatClampNeg) (n := n.toNatClampNeg) (f := fun j => .long (f j)) (g := fun j => .long (g j)) (f' := wav (n1, .inr (.inl (va_cpy f g sp.toNatClampNeg dp.toNatClampNeg n.toNatClampNeg)))) s7 d7 d6 h4 h5 (fun k hk => by simp only [wav, va_cpy]; split <;> rfl)
  have hheap : ((T.setVm vm').setCell dst (copied cs cd sp dp n)).heap = H.setIfInBounds dst (copied cs cd sp dp n) := by rw [← hT]; rfl
  obtain ⟨r1, r2⟩ := w_copy_end (ty := .long) (f' := .inr (.inl (va_cpy f g sp.toNatClampNeg dp.toNatClampNeg n.toNatClampNeg))) (L := (cs.stretch sp.toNatClampNeg n.toNatClampNeg).zipIdx.map fun q => ⟨dst, dp.toNatClampNeg + q.2⟩) (n := 0) hM hS hza d1 d2 d3 d4 d5 e1 e2 e3 e4 (fun q hq => by obtain ⟨z, -, hz⟩ := List.mem_map.mp hq; rw [← hz])
  obtain ⟨t, a1, b1⟩ := kk _ _ _ r1 r2 hp _ hheap Y'
  exact ⟨t, step t a1, b1⟩
end ROWS9
