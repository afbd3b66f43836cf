set_option maxRecDepth 100000
/-! CORE 14: a call of an object that a lambda's site made -/
theorem w_weaken {tb : Tables} {e : Env} {mid below : List Frame} {a b : State} (h : Steps tb e (mid ++ below) a b) : Steps tb e below a b := by
  obtain ⟨n, hn, w⟩ := h
  exact ⟨n, hn, fun k hk => (w k hk).weaken⟩
section ROWS14
variable {p : Program} {l : Launch} {e : Env} {R : Room} {s : State} {m : MethodId} {args : Array Value} {below : List Frame} {meth : Method} {c : Code} {H : Heap} {locs : List Loc} {cells slots : Nat} {Q : State → Prop}
variable {cc : ByteArray} {nL pc : Nat} {ls : Array Slot} {rest : List Value} {own : String} {G : wG} {M : wM} {lam pm : Nat}
set_option maxHeartbeats 2000000 in
theorem x_which (X0 : CallFix p m c cc nL s args lw_all own) (hls : c.maxLocals = ls.size) (hC : wC G s) (hM : wR G M H) (hS : va_S (wA G) s.heap H locs) {index count : Nat} (hlink : Cond.methodLink own index wWh ∈ lw_all) (hO : Cond.instantiable "java/lang/Object" 0 ∈ lw_all)
    {x0 : MethodName} {pc0 ix0 : Nat} {σ : Lambda.Shape} {nm : String} (ht : (x0, pc0, ix0, σ, nm) ∈ wLams) {f : Nat → Int32} (hlam : M lam = some (.inl (.object nm, 1, .inl f))) (hz : wz G ≤ lam)
    {y : MethodName} (hy : y = ⟨σ.implClass, σ.implName, σ.implDesc.toString⟩) (hi : σ.iface = "ParkingOffice$Which" ∧ σ.name = "is" ∧ σ.sam.toString = "(LParkingOffice$Permit;)Z") (hmh : y.cls ≠ "java/lang/invoke/MethodHandle" ∧ y.cls ≠ "java/lang/invoke/VarHandle") (hpl : plainName (x0.cls ++ "$$Lambda") = true) (hpar : (parseMethodDescriptor y.desc).map (fun d => d.parameters.length) = some 2)
    {bytes : ByteArray} {maxL fr lo : Nat} {ret : Option FieldType} {Qq : Bool → wM → Prop} (hMet : wMet l y (ws_ y bytes maxL ret) fr lo G [.int (f 0), .ref pm] M 0 (wqZ Qq) wX0) (hcode : Cond.code y bytes maxL ret ∈ lw_all) (hstat : Cond.static y ∈ lw_all) (hini : Cond.initialized y.cls ∈ lw_all)
    (hB : cells ≤ R.cells ∧ slots ≤ R.slots) (hfr : fr + 2 ≤ R.frames) (hlo : (rest.map fun v => v.category).sum + (2 + 11) + (8 + (maxL + 11) + lo) ≤ R.locals) (hd : decode cc pc = .ok (.invokeinterface index count, 5)) :
    vx_Run5 p l e R s m args below meth c H locs cells slots 0 0 (F0 m pc ls (.ref pm :: .ref lam :: rest)) rest (wQ G (wqZ Qq) #[]) (wXC G wX0) (wA G) := by
  obtain ⟨hx, hb, hml, hown, hts⟩ := X0
  intro T hT X
  have hat := hC.1.2.2.2.2.2.2.2.2.1 _ ht
  dsimp only at hat
  have hOK := w_lamOK_all _ ht
  dsimp only at hOK
  obtain ⟨mS, kS, cfS, i0, p0, lk, hmS, hkS, hcfS, hshape, -, hfind, hmade, hcan, hlk⟩ := State.lambdaAt?_spec hat
  obtain ⟨kS', hkS', hnameS⟩ := className_of_methodNamed hmS
  cases hkS.symm.trans hkS'
  obtain ⟨cell, g1, g2, g3, g4, g5, g6, g7⟩ := hM lam _ hlam
  have g5 : cell.cls = G.2.1 (.object nm) := g5
  have g7 : ∀ j, j < 1 → cell.slots[j]? = some (.int (f j)) := g7
  generalize hcK : G.2.1 (.object nm) = cK at hat hmade hcan g5 hlk
  have hif := hC.1.2.2.2.2.2.2.2.2.2.1
  obtain ⟨r0, r, hn, hrm, hstR, hsigR⟩ := Cond.declares_spec hif.1
  obtain ⟨cL, kL, r1, hcL, hkL, hiL, hfoundL, hn1⟩ := Cond.interfaceMethod_spec hif.2
  cases hn.symm.trans hn1
  have hr0cls : r0.cls = cL := Option.some.inj ((findClass_of_methodNamed hn).symm.trans hcL)
  obtain ⟨hnameR, hdescR⟩ := name_of_methodNamed hn hrm
  have hOz : ∀ o ok, s.vm.findClass "java/lang/Object" = some o → s.vm.classes[o]? = some ok → ok.instanceTypes.size = 0 := by
    intro o ok h1 h2
    obtain ⟨cO, kO, hfO, hkO, -, -, -, hsz⟩ := Cond.instantiable_spec (hts _ hO)
    cases hfO.symm.trans h1
    cases hkO.symm.trans h2
    exact hsz
  obtain ⟨kF, hkF, hasgF, hselF⟩ : ∃ kF, s.vm.classes[cK]? = some kF ∧ s.vm.assignable cK cL = true ∧ selectMethod {} s.vm cK r0 = .method ⟨cK, 1⟩ := by
    obtain ⟨-, kF, -, -, -, -, -, iface', -, -, -, -, found, -, hkF, -, -, -, hi', -, -, -, -, -, -, hfound', -, -, -, -, -, -, -, -, -, -, hsel⟩ := Lambda.isMade_spec hmade
    rw [hi.1] at hi'
    cases hcL.symm.trans hi'
    have hfr : found = r0 := by
      have h1 : s.methodFound? "ParkingOffice$Which" "is" "(LParkingOffice$Permit;)Z" = some r0 := hfoundL
      have hcL' : s.vm.findClass "ParkingOffice$Which" = some cL := hcL
      simp only [State.methodFound?, hcL', hkL, hiL, Option.bind_eq_bind, Option.bind_some] at h1
      rw [hi.2.1, hi.2.2] at hfound'
      rw [hfound'] at h1
      exact Option.some.inj h1
    subst hfr
    obtain ⟨i2, hi2, hasg, -⟩ := State.lambdaCallable_spec hcan
    rw [hi.1] at hi2
    cases hcL.symm.trans hi2
    exact ⟨kF, hkF, hasg, hsel⟩
  have hway : ((cK :: s.vm.superclasses cK).any fun k => (declaredIn s.vm r.name r.desc k).any fun (_, z) => z.isPrivate || z.isStatic) = false := by
    obtain ⟨-, -, -, h⟩ := State.lambdaCallable_spec hcan
    rw [hnameR, hdescR]
    rw [hi.2.1, hi.2.2] at h
    exact h
  obtain ⟨kM, tk, methk, ck, toy, tI, f0, hkM, hkMn, hmk, hck, hcb, hmlk, hlkk, hfl, hrtk, htoy, htk, hitf, hlook, hready, hclsR, hfR, hf0s, hf0l, file, hfile, hpoolM, hpoolN⟩ := w_fwdFacts hkS (by rw [hnameS]; exact hOK) hmade hOz
  have hselP : selectMethod e.platform s.vm cell.cls r0 = .method ⟨cK, 1⟩ := by rw [Launch.admits_selectMethod X.admits, g5]; exact hselF
  obtain ⟨vm₁, X₁, hstep₁⟩ := X.invokeinterface hx hown (hts _ hlink) hn hrm hstR (by rw [hr0cls]; exact hkL) hiL (by decide) (a := lam) (cell := cell) (kcell := kF) (by rw [hT]; exact g1)
    (fun z h => by rw [h] at g3; cases g3) (by rw [g5]; exact hkF) (by rw [g5, hr0cls]; exact hasgF) hselP hmk (by rw [g5]; exact hway) (by rw [hfl]; decide) (by simp [Method.isAbstract, hfl, hasFlag, Acc.abstract])
    (g := F0 m pc ls (.ref pm :: .ref lam :: rest)) rfl (argsL := [.ref pm]) (rest := rest) (by
      have h3 : (parseMethodDescriptor "(LParkingOffice$Permit;)Z").map (fun d => d.parameters.length) = some 1 := by decide +kernel
      have h2 : parseMethodDescriptor "(LParkingOffice$Permit;)Z" = some r.sig := hsigR
      rw [h2] at h3
      exact (Option.some.inj h3).symm) rfl (by rw [hb]; exact hd)
  have hW₁ : s.WarmedH vm₁ := X₁.warmed
  have hmade₁ : Lambda.isMade { classPath := fun _ => none } vm₁ mS.cls σ cK = true := Lambda.isMade_warmer hW₁ hmade
  obtain ⟨kS₁, hkS₁, heS⟩ := hW₁.alike.2.2 _ _ hkS
  have hnS₁ : kS₁.name = x0.cls := by rw [heS]; exact hnameS
  have hOz₁ : ∀ o ok, vm₁.findClass "java/lang/Object" = some o → vm₁.classes[o]? = some ok → ok.instanceTypes.size = 0 := by
    intro o ok h1 h2
    have h0 : (Cond.instantiable "java/lang/Object" 0).before args (T.setVm vm₁) = true := word_at hW₁ (good_of_word (by decide)) (hts _ hO)
    obtain ⟨cO, kO, hfO, hkO, -, -, -, hsz⟩ := Cond.instantiable_spec h0
    cases hfO.symm.trans h1
    cases hkO.symm.trans h2
    exact hsz
  clear hkM hkMn hmk hck hcb hmlk hlkk hfl hrtk htoy htk hitf hlook hready hclsR hfR hf0s hf0l hfile hpoolM hpoolN
  obtain ⟨kM1, tk1, methk1, ck1, toy1, t1, fd, hkM, hkMn, hmk, hck, hcb, hmlk, hlkk, hfl, hrtk, htoy, htk, hitf, hlook, hready, hclsR, hfR, hf0s, hf0l, file1, hfile, hpoolM, hpoolN⟩ := w_fwdFacts hkS₁ (by rw [hnS₁]; exact hOK) hmade₁ hOz₁
  obtain ⟨mI, hnamedI⟩ := Cond.code_named (hts _ hcode)
  obtain ⟨methI, cI, hmethI, -, -, -, -, -, -, hsigI⟩ := Cond.code_spec hnamedI (hts _ hcode)
  have hstaticI : methI.isStatic = true := Cond.static_spec hnamedI hmethI (hts _ hstat)
  obtain ⟨kP, hkP, hnP⟩ := className_of_methodNamed hnamedI
  have hinitP : kP.init = .initialized := Cond.initialized_spec (findClass_of_methodNamed hnamedI) hkP (hts _ hini)
  have hnI₁ : (T.setVm vm₁).methodNamed? y = some mI := X₁.named hnamedI
  have htoyI : toy1 = mI.cls := by
    have h1 : vm₁.findClass y.cls = some mI.cls := findClass_of_methodNamed hnI₁
    rw [hy] at h1
    exact Option.some.inj (htoy.symm.trans h1)
  subst htoyI
  obtain ⟨kP1, hkP1, heP⟩ := hW₁.alike.2.2 _ _ hkP
  have htkP : tk1 = kP1 := Option.some.inj (htk.symm.trans hkP1)
  subst htkP
  have hinit1 : tk1.init = .initialized := by rw [heP]; exact hinitP
  have hname1 : tk1.name = y.cls := by rw [heP]; exact hnP
  have ht1 : t1 = mI := by
    have hf := State.methodFound?_of_named hnI₁ hmh
    have a1 : (T.setVm vm₁).vm.findClass σ.implClass = some mI.cls := htoy
    have a2 : (T.setVm vm₁).vm.classes[mI.cls]? = some tk1 := htk
    have a3 : ((methodIn mI.cls σ.implName σ.implDesc.toString tk1.isInterface none).ask { classPath := fun _ => none } (T.setVm vm₁).vm).1 = .ok t1 := hlook
    rw [hy] at hf
    simp only [State.methodFound?, a1, a2, Option.bind_eq_bind, Option.bind_some] at hf
    rw [a3] at hf
    exact Option.some.inj hf
  subst ht1
  have hmeth1 : vm₁.method? t1 = some methI := (hW₁.alike.method? t1).trans hmethI
  have hpoly : signaturePolymorphic tk1 methI = false := signaturePolymorphic_of_name (by rw [hname1]; exact hmh) methI
  have hparI : 2 = methI.sig.parameters.length := by
    have h2 : parseMethodDescriptor y.desc = some methI.sig := hsigI
    rw [h2] at hpar
    exact (Option.some.inj hpar).symm
  obtain ⟨Y₀, hin⟩ := X₁.into (g := F0 m pc ls rest) rfl (by rw [hls]) (ig := .invokeinterface index count) (len := 5) (by rw [hb]; exact hd) #[.ref lam, .ref pm] (R' := { frames := fr + 1, cells := 0, slots := 0, locals := 8 + (maxL + 11) + lo }) (mk := ⟨cK, 1⟩) hmk hck hlkk
    (State.plainMethod.of_name (fun k' hk' => by
      have h2 : vm₁.classes[cK]? = some k' := hk'
      cases hkM.symm.trans h2
      rw [hkMn, hnS₁]; exact hpl)) (by show fr + 1 + 1 ≤ _; omega) (by rw [hmlk]; show 2 * 0 + (rest.map fun v => v.category).sum + (2 + 11) + (8 + (maxL + 11) + lo) ≤ _; omega) (by show cells + 0 ≤ _; omega) (by show slots + 0 ≤ _; omega)
  have hs0 : s.WarmedH ((T.setVm vm₁).calling (F0 m pc ls rest) ⟨cK, 1⟩ #[.ref lam, .ref pm]).vm := hW₁
  have hK : vx_Back l { frames := fr + 1, cells := 0, slots := 0, locals := 8 + (maxL + 11) + lo } p e (.java (F0 m pc ls rest) :: below) ((T.setVm vm₁).calling (F0 m pc ls rest) ⟨cK, 1⟩ #[.ref lam, .ref pm]) #[.ref lam, .ref pm] y 3 8 (PreOf { frames := fr + 1, cells := 0, slots := 0, locals := 8 + (maxL + 11) + lo } 0 0 (wPc G [.int (f 0), .ref pm] M)) (PostOf (wQ G (wqZ Qq)) 0 0 (wA G)) (vx_Post (wXC G wX0) 0 0 (wA G)) :=
    vx_back (bytes := bytes) (maxL := maxL) (ret := ret) hMet wPc.blind rfl rfl (Nat.le_refl _) (Nat.le_refl _) (fun w hw a' U' hWU => pay_in hts (lw_meth hcode) w hw a' U' (hs0.trans hWU)) List.mem_cons_self (fun a' U' hWU => word_at (hs0.trans hWU) (Or.inl rfl) (hts _ hini))
  generalize hU : ((T.setVm vm₁).setTop (F0 m pc ls rest)).pushFrame (.java (entryFrame ⟨cK, 1⟩ #[.ref lam, .ref pm] ck1.maxLocals)) = U at Y₀ hin
  have hvm : U.vm = vm₁ := by rw [← hU]; rfl
  have hheap : U.heap = H := by rw [← hU]; exact hT
  have hnU : U.methodNamed? y = some t1 := by rw [← hU]; exact hnI₁
  rcases hK ⟨cK, 1⟩ methk1 ck1 ⟨U, [], 0, 0⟩ { method := ⟨cK, 1⟩, pc := 5, locals := #[.val (.ref lam), .val (.ref pm)], stack := [], locked := none } (.invokestatic 23) t1 #[.int (f 0), .ref pm] Y₀ rfl (by rw [hmlk]; rfl) (by rw [hcb]; exact w_fwd5) (by show 2 * 0 + 0 ≤ 8; decide) hnU
    ⟨Nat.le_refl _, Nat.le_refl _, w_pre hC hM hS [.int (f 0), .ref pm] U hheap (by rw [hvm]; exact hW₁)⟩ with ⟨v, B, X', hpost, hsteps⟩ | ⟨q, B, X', hpost, hsteps⟩
  · obtain ⟨U', l2, c2, s2⟩ := B
    obtain ⟨g', mk', t', L', e1, e2, hq, h1, hL, h2, h3⟩ := hpost
    dsimp only [Pt.U, Pt.locs, Pt.cells, Pt.slots] at X' e1 e2 h1 h2 h3 hsteps
    subst h1; subst h2; subst h3
    obtain ⟨⟨v', M', hv, hqv, hR'⟩, hF'⟩ := hq
    obtain rfl : v = v' := Outcome.returned.inj hv
    obtain ⟨rr, rfl, hqq⟩ := hqv
    obtain ⟨fs, hleave, -, hended, hWe, hsame⟩ := X'.leave (v := some (.int (wb rr))) (fun h => by rw [hrtk] at h; cases h) hlkk
    obtain ⟨T', X2, hW2, -, htt⟩ := X₁.outOf (g := F0 m pc ls rest) rfl (ig := .invokeinterface index count) (len := 5) (by rw [hb]; exact hd) hended hWe hsame
    have hTh : T'.heap = U'.heap := (congrArg State.heap htt).symm
    have hTv : T'.vm = U'.vm := (congrArg State.vm htt).symm
    refine Or.inl ⟨some (.int (wb rr)), U.calling g' mk' #[.int (f 0), .ref pm], t', T', _, hheap, X2, hL, hTh.trans e1, hTv.trans e2, ⟨⟨_, M', rfl, ⟨rr, rfl, hqq⟩, hR'⟩, hF'⟩, fun target htgt => hstep₁ target fun acts => ?_⟩
    show Steps p.tables e below (doInvoke e ((T.setVm vm₁).setTop (F0 m pc ls rest)) acts ⟨cK, 1⟩ #[.ref lam, .ref pm]).1 target
    rw [hin acts]
    refine Steps.trans ?_ htgt
    show Steps p.tables e below _ (T'.setTop { F0 m pc ls rest with pc := pc + 5, stack := (some (Value.int (wb rr))).toList ++ (F0 m pc ls rest).stack })
    rw [← htt]
    refine w_weaken (mid := [.java (F0 m pc ls rest)]) ?_
    have hloc : entryFrame ⟨cK, 1⟩ #[.ref lam, .ref pm] ck1.maxLocals = { method := ⟨cK, 1⟩, pc := 0, locals := #[.val (.ref lam), .val (.ref pm)], stack := [], locked := none } := by rw [hmlk]; rfl
    rw [hloc]
    have hs : U.topJava?.isSome := Y₀.here.top
    obtain ⟨bb, hmem⟩ := memberRef_ask' (e := e) (vm := vm₁) (d := cK) (index := 23) hkM hfile (Or.inl hpoolM) hpoolN
    have href : plainRef U e cK 23 := ⟨19, σ.implName, σ.implDesc.toString, bb, t1.cls, tk1, by rw [hvm]; exact hmem, by rw [hvm]; exact hclsR, by rw [hvm]; exact htk, by simp [signaturePolymorphic_of_name (k := tk1) (by rw [hname1]; exact hmh)]⟩
    jvm_step Y₀.here [hx, hcb, w_fwd0, Value.isRef]
    jvm_step Y₀.here [hx, hcb, w_fwd1, getfield.wp_ready (e := e) (s := U) (c := cK) (field := fd) (a := lam) (rest := []) (cell := cell) (v := .int (f 0))
      (f := { method := ⟨cK, 1⟩, pc := 1, locals := #[.val (.ref lam), .val (.ref pm)], stack := [.ref lam], locked := none }) hs (by rw [hvm]; exact hfR) hf0s rfl (by rw [hheap]; exact g1) g2 (by rw [hf0l]; exact g7 0 (by decide))]
    jvm_step Y₀.here [hx, hcb, w_fwd4, Value.isRef]
    jvm_step Y₀.here [hx, hcb, w_fwd5, invokestatic.wp_ready (e := e) (s := U) (m := t1) (k := tk1) (meth := methI) (args := [.int (f 0), .ref pm]) (rest := [])
      (f := { method := ⟨cK, 1⟩, pc := 5, locals := #[.val (.ref lam), .val (.ref pm)], stack := [.ref pm, .int (f 0)], locked := none }) hs href (by rw [hvm]; exact hready) (by rw [hvm]; exact htk) (by rw [hvm]; exact hmeth1) hpoly hstaticI hinit1 hparI rfl]
    intro acts'
    rw [doInvoke_state]
    refine hsteps.trans ?_
    show Steps p.tables e (.java (F0 m pc ls rest) :: below) (U'.setTop { method := ⟨cK, 1⟩, pc := 8, locals := #[.val (.ref lam), .val (.ref pm)], stack := [.int (wb rr)], locked := none }) _
    jvm_step X'.here [X'.here.top, hx, hcb, w_fwd8, X'.method', hrtk, w_nz]
    intro acts''
    rw [hleave { method := ⟨cK, 1⟩, pc := 8, locals := #[.val (.ref lam), .val (.ref pm)], stack := [], locked := none } acts'' rfl rfl rfl]
    exact Steps.refl _
  · obtain ⟨g9, m9, t9, L9, E9, ce9, h91, h92, hxc, h93⟩ := hpost
    exact hxc.1.elim fun M' h => h.1.elim
theorem x_outP {E : String} {ce : Cell} {q B : Nat} {Qp : Option Value → wM → Prop} {Xp : String → Nat → wM → Prop} (hown : s.vm.findClass own = some m.cls) (hlk : meth.locks = false) (hpass : ∀ z ∈ c.exceptionTable.toList, covers z pc = false ∨ (z.catchType ≠ 0 ∧ ∃ nm : String, (Cond.classLink own z.catchType nm).before args s = true ∧ va_Nc E nm s)) (hM : wR G M H) (hS : va_S (wA G) s.heap H locs) (hcs : cells ≤ B ∧ slots ≤ B) (hcell : H[q]? = some ce) (hv : ce.vm = .none) (hcl : s.vm.findClass E = some ce.cls) (hx : Xp E q M) : vx_W p l e R s m args below meth c H locs cells slots (vx_MQ below (wQ G Qp) (wXC G Xp) args s B B (wA G)) (F0 m pc ls rest) q :=
  vx_outP hown hlk hpass hcell hv hcl (fun t ht _ => ⟨⟨M, hx, by rw [ht]; exact hM⟩, hS.F ht⟩) hS.2.2 hcs.1 hcs.2
end ROWS14
