set_option maxRecDepth 100000
/-! CORE 7: calls that land in a default method; statics of which little is known -/
section ROWS7
variable {p : Program} {l : Launch} {e : Env} {R : Room} {s : State} {m : MethodId} {args : Array Value} {below : List Frame} {meth : Method} {c : Code} {H : Heap} {locs : List Loc} {cells slots : Nat} {Q : State → Prop}
theorem w_callVD {T : State} (X : Stand p l e R s m args below meth c T locs cells slots) (hexec : p.tables.exec = Jvm.exec) {own C owner : String} {index : Nat} {x y : MethodName} {bytes : ByteArray} {maxL : Nat} {ret : Option FieldType}
    (hown : s.vm.findClass own = some m.cls) (hlink : (Cond.methodLink own index x).before args s = true) (hsame : (Cond.sameMethod x.cls owner x.name x.desc).before args s = true)
    (hd0 : va_Decl s ⟨owner, x.name, x.desc⟩) (howner : owner ≠ "java/lang/invoke/MethodHandle" ∧ owner ≠ "java/lang/invoke/VarHandle")
    (hsel : (Cond.landsInDefault C x y).before args s = true) (hinst : (Cond.instanceMethod y).before args s = true) (hcode : (Cond.code y bytes maxL ret).before args s = true)
    {W : Nat} {Pre : Pt → Array Value → Prop} {Post : Pt → Array Value → Option Value → Pt → Prop} {PostX : Pt → Array Value → Addr → Pt → Prop} (hK : vx_Back l R p e below s args y 3 W Pre Post PostX)
    {b : Addr} {cellB : Cell} (hcell : T.heap[b]? = some cellB) (hobj : cellB.vm.isStatics = false) (hcls : s.vm.findClass C = some cellB.cls)
    {g : JFrame} (hg : g.method = m) (hsize : g.locals.size = c.maxLocals) {argsL rest : List Value} (hlen : ∀ sig, parseMethodDescriptor x.desc = some sig → argsL.length = sig.parameters.length)
    (hstack : g.stack = argsL.reverse ++ .ref b :: rest) (hW : 2 * g.monitorRoom + (rest.map fun v => v.category).sum ≤ W) (hdg : decode c.code g.pc = .ok (.invokevirtual index, 3))
    (hpre : ∀ vm₁, s.WarmedH vm₁ → Pre ⟨T.setVm vm₁, locs, cells, slots⟩ (Value.ref b :: argsL).toArray) :
    (∃ (v : Option Value) (vm₁ : Vm) (B : Pt), s.WarmedH vm₁ ∧ Stand p l e R s m args below meth c B.U B.locs B.cells B.slots ∧ Post ⟨T.setVm vm₁, locs, cells, slots⟩ (Value.ref b :: argsL).toArray v B ∧
      ∀ target, Steps p.tables e below (B.U.setTop { g with pc := g.pc + 3, stack := v.toList ++ rest }) target → Steps p.tables e below (T.setTop g) target) ∨
    (∃ (q : Addr) (vm₁ : Vm) (B : Pt), s.WarmedH vm₁ ∧ Stand p l e R s m args below meth c B.U B.locs B.cells B.slots ∧ PostX ⟨T.setVm vm₁, locs, cells, slots⟩ (Value.ref b :: argsL).toArray q B ∧
      Steps p.tables e below (T.setTop g) ((B.U.setTop { g with stack := rest }).pushFrame (.throwing q))) := by
  obtain ⟨r0, r, hn, hrm, hstR, hsigR⟩ := hd0
  obtain ⟨cn, ck, r1, hcn, hck, hni, hf, hn1⟩ := Cond.sameMethod_found hsame
  cases hn.symm.trans hn1
  obtain ⟨mk, methM, hnamed, hmethM, -, habM⟩ := Cond.instanceMethod_spec hinst
  obtain ⟨c2, r2, m2, rm, q1, q2, q3, q5, q4, ⟨kP, hkP, hkPi⟩, -, q7⟩ := Cond.landsInDefault_spec hsel
  cases hcls.symm.trans q1
  cases hf.symm.trans q2
  cases hnamed.symm.trans q3
  cases hrm.symm.trans q5
  have hselP : selectMethod e.platform s.vm cellB.cls r0 = .method mk := by rw [Launch.admits_selectMethod X.admits]; exact q4
  obtain ⟨vm₁, X₁, hstep₁⟩ := X.invokevirtualUpD hexec hown hlink hsame howner hn hrm hstR (a := b) (cell := cellB) hcell
    (fun z h => by rw [h] at hobj; cases hobj) hselP hmethM habM hkP hkPi q7 (g := g) hg (argsL := argsL) (rest := rest) (hlen _ hsigR) hstack hdg
  rcases hK m meth c ⟨T.setVm vm₁, locs, cells, slots⟩ { g with stack := rest } (.invokevirtual index) mk (Value.ref b :: argsL).toArray X₁ hg hsize hdg hW (X₁.named hnamed) (hpre vm₁ X₁.warmed) with ⟨v, B, X', hpost, hsteps⟩ | ⟨q, B, X', hpost, hsteps⟩
  · exact Or.inl ⟨v, vm₁, B, X₁.warmed, X', hpost, fun target h => hstep₁ _ fun acts => by rw [doInvoke_state]; exact hsteps.trans h⟩
  · exact Or.inr ⟨q, vm₁, B, X₁.warmed, X', hpost, hstep₁ _ fun acts => by rw [doInvoke_state]; exact hsteps⟩
theorem w_word (w : Cond) (hw : w.onTables = true) {A : Array Value} {U : State} (h : w.before #[] U = true) : w.before A U = true := va_Nw.use hw (va_Nw.of hw h)
/-- Visit.runs, Zone.runs: Timed's default -/
theorem w_runD {bytes cc : ByteArray} {maxL nL b1 index : Nat} {ret : Option FieldType} {rm : Room} {Pc : Array Value → State → Prop} {Qc : Array Value → State → Outcome → State → Prop} {XC : String → Addr → State → State → Prop} {free : Addr → Prop} {own C : String} {b : Addr} {As rest : List Value} {g : JFrame} {G : wG} (hC : wC G s)
    (S : CallFix p m c cc nL s args lw_all own) (hM : vx_Met l (wRuns "ParkingOffice$Timed") (ws_ (wRuns "ParkingOffice$Timed") bytes maxL ret) rm Pc Qc XC b1 b1 free) (hcode : Cond.code (wRuns "ParkingOffice$Timed") bytes maxL ret ∈ lw_all) (hinst : Cond.instanceMethod (wRuns "ParkingOffice$Timed") ∈ lw_all) (hini : Cond.initialized "ParkingOffice$Timed" ∈ lw_all) (hdecl : Cond.declares (wRuns "ParkingOffice$Timed") ∈ lw_tbl)
    (hCC : C = "ParkingOffice$Visit" ∨ C = "ParkingOffice$Zone") (hlink : Cond.methodLink own index (wRuns C) ∈ defaultWords_1) (hsame : Cond.sameMethod C "ParkingOffice$Timed" "runs" "(I)Z" ∈ defaultWords_1) (hrc : rm.cells = b1) (hrs : rm.slots = b1) (hR : rm.frames + 1 ≤ R.frames ∧ 8 + (maxL + 11) + rm.locals ≤ R.locals) (hp : PreV s H C b Pc As)
    (hg : g.method = m) (hn : As.length = 1) (hsize : g.locals.size = nL) (hstack : g.stack = As.reverse ++ .ref b :: rest) (hW : 2 * g.monitorRoom + (rest.map fun v => v.category).sum ≤ 8) (hdg : decode cc g.pc = .ok (.invokevirtual index, 3)) (hf : cells + b1 ≤ R.cells ∧ slots + b1 ≤ R.slots) :
    vx_Run p l e R s m args below meth c H locs cells slots b1 b1 g rest (Qc (Value.ref b :: As).toArray) XC free := by
  have hts := S.2.2.2.2
  have hG := lw_meth hcode
  have hini' := hts _ hini
  have hK : vx_Back l R p e below s args (wRuns "ParkingOffice$Timed") 3 8 (PreOf R b1 b1 Pc) (PostOf Qc b1 b1 free) (vx_Post XC b1 b1 free) := vx_back (bytes := bytes) (maxL := maxL) (ret := ret) hM hp.1 hrc hrs hR.1 hR.2 (pay_in hts hG) List.mem_cons_self (fun a' U hW => word_at hW (Or.inl rfl) hini')
  obtain ⟨hx, hb, hml, ho, -⟩ := S
  obtain ⟨-, ⟨cellB, hcB, hoB, hclB⟩, hPc⟩ := hp
  have hDf := hC.1.2.2.2.2.2.2.2.2.2.2.1
  have hsel : (Cond.landsInDefault C (wRuns C) (wRuns "ParkingOffice$Timed")).before args s = true := hDf.2 C hCC
  intro T hT X
  rcases w_callVD X hx (C := C) (owner := "ParkingOffice$Timed") (x := wRuns C) (y := wRuns "ParkingOffice$Timed") (bytes := bytes) (maxL := maxL) (ret := ret) ho (w_word _ rfl (hDf.1 _ hlink)) (w_word _ rfl (hDf.1 _ hsame)) (va_Decl.abs (hC.1.2.2.1 _ hdecl rfl)) (by decide) hsel (hts _ hinst) (hts _ hcode) hK (by rw [hT]; exact hcB) hoB hclB hg (hsize.trans hml.symm) (argsL := As) (rest := rest) (fun sig h => by
      have h2 : parseMethodDescriptor "(I)Z" = some sig := h
      have h3 : (parseMethodDescriptor "(I)Z").map (fun d => d.parameters.length) = some 1 := by decide +kernel
      rw [h2] at h3
      exact hn.trans (Option.some.inj h3).symm) hstack hW (by rw [hb]; exact hdg)
    (fun vm₁ hW₁ => ⟨hf.1, hf.2, hPc (T.setVm vm₁) hT hW₁⟩) with ⟨v, vm₁, ⟨U', l2, c2, s2⟩, hW₁, X', ⟨g', mk, t, L, e1, e2, hq, h1, hL, h2, h3⟩, st⟩ | ⟨q, vm₁, ⟨U', l2, c2, s2⟩, hW₁, X', ⟨g', mk, t, L, E, ce, e1, e2, hq, hce, hcv, hcl, h1, hL, h2, h3⟩, st⟩
  · dsimp only [Pt.U, Pt.locs, Pt.cells, Pt.slots] at X' e1 e2 h1 h2 h3 st
    subst h1; subst h2; subst h3
    exact Or.inl ⟨v, (T.setVm vm₁).calling g' mk (Value.ref b :: As).toArray, t, U', L, hT, X', hL, e1, e2, hq, st⟩
  · dsimp only [Pt.U, Pt.locs, Pt.cells, Pt.slots] at X' e1 e2 h1 h2 h3 st hcl
    subst h1; subst h2; subst h3
    exact Or.inr ⟨q, (T.setVm vm₁).calling g' mk (Value.ref b :: As).toArray, t, U', L, E, ce, hT, X', hL, e1, e2, hq, hce, hcv, vx_cls hW₁ hcl, st⟩
variable {cc : ByteArray} {nL pc : Nat} {ls : Array Slot} {rest st0 : List Value} {own : String} {G : wG} {M : wM} {a b b1 B : Nat} {H0 : Heap}
/-- getstatic of a field that holds null or some reference -/
theorem x_getsQ (X : CallFix p m c cc nL s args lw_all own) (hS : va_S (wA G) s.heap H locs) {C n d ref : String} {index : Nat} (hZ : va_Zq C n d (wA G) s s.heap) (hlink : Cond.fieldLink own index ref n d ∈ lw_all) (hsame : ∀ x, s.fieldFound? C n d = some x → s.fieldFound? ref n d = some x) (hd : decode cc pc = .ok (.getstatic index, 3)) (kk : ∀ r : Option Nat, W p l e R s m args below meth c H locs cells slots Q (F0 m (pc + 3) ls (va_rf r :: rest))) : W p l e R s m args below meth c H locs cells slots Q (F0 m pc ls rest) := by
  rcases hZ with h | ⟨t, h⟩
  · exact va_gets X.1 X.2.1 h hS X.2.2.2.1 (X.2.2.2.2 _ hlink) hsame hd (kk none)
  · exact va_gets X.1 X.2.1 h hS X.2.2.2.1 (X.2.2.2.2 _ hlink) hsame hd (kk (some t))
end ROWS7
