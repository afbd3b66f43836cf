set_option maxRecDepth 100000
/-! CORE 13: what an object of a lambda's site runs -/
def w_fwd : ByteArray := ⟨#[42, 180, 0, 15, 43, 184, 0, 23, 172]⟩
theorem w_fwd0 : decode w_fwd 0 = .ok (.aload_n 0, 1) := by decide +kernel
theorem w_fwd1 : decode w_fwd 1 = .ok (.getfield 15, 3) := by decide +kernel
theorem w_fwd4 : decode w_fwd 4 = .ok (.aload_n 1, 1) := by decide +kernel
theorem w_fwd5 : decode w_fwd 5 = .ok (.invokestatic 23, 3) := by decide +kernel
theorem w_fwd8 : decode w_fwd 8 = .ok (.ireturn, 1) := by decide +kernel
def w_lamOK (σ : Lambda.Shape) (own : String) : Bool :=
  (σ.file own).any fun D =>
    ((layoutMethods D).any fun ms => ms[1]?.any fun f => (f.code.any fun c => decide (c.code.data = w_fwd.data) && decide (c.maxLocals = 2)) && (decide (f.accessFlags = 1) && (decide (f.name = "is") && decide (f.sig.returnType = some .boolean)))) &&
    (((layoutFields D 0).any fun lay => decide (lay.1.findIdx? (·.name == "arg$1") = some 0) && (lay.1[0]?.any fun f => decide (f.isStatic = false) && decide (f.slot = 0))) &&
    (decide (D.constantPool[23]? = some (.methodref 19 22)) && (decide (D.constantPool.className? 19 = some σ.implClass) && (decide (D.constantPool.nameAndType? 22 = some (σ.implName, σ.implDesc.toString)) &&
    (decide (D.constantPool[19]? = some (.class_ 18)) && (decide (D.constantPool.string? 18 = some σ.implClass) && (decide (19 ≠ D.thisClass) && (decide (D.constantPool[15]? = some (.fieldref 2 14)) && decide (D.constantPool.nameAndType? 14 = some ("arg$1", "I"))))))))))
theorem w_lamOK_all : ∀ t ∈ wLams, w_lamOK t.2.2.2.1 t.1.cls = true := by decide +kernel
theorem w_fwdFacts {e : Setting} {vm : Vm} {d c : ClassId} {dk : Class} {σ : Lambda.Shape} (hd : vm.classes[d]? = some dk) (hOK : w_lamOK σ dk.name = true) (h : Lambda.isMade e vm d σ c = true)
    (hO : ∀ o ok, vm.findClass "java/lang/Object" = some o → vm.classes[o]? = some ok → ok.instanceTypes.size = 0) :
    ∃ (k tk : Class) (methk : Method) (ck : Code) (toy : ClassId) (t : MethodId) (f0 : Field), vm.classes[c]? = some k ∧ k.name = dk.name ++ "$$Lambda" ∧
      vm.method? ⟨c, 1⟩ = some methk ∧ methk.code = some ck ∧ ck.code = w_fwd ∧ ck.maxLocals = 2 ∧ methk.locks = false ∧ methk.accessFlags = 0x0001 ∧ methk.sig.returnType = some .boolean ∧
      vm.findClass σ.implClass = some toy ∧ vm.classes[toy]? = some tk ∧ tk.isInterface = σ.implItf ∧ ((methodIn toy σ.implName σ.implDesc.toString tk.isInterface none).ask e vm).1 = .ok t ∧
      vm.methodReady c 23 t ∧ vm.classReady c 19 toy ∧ vm.fieldReady c 15 c f0 ∧ f0.isStatic = false ∧ f0.slot = 0 ∧ (∃ file, k.cf = some file ∧ file.constantPool[23]? = some (.methodref 19 22) ∧ file.constantPool.nameAndType? 22 = some (σ.implName, σ.implDesc.toString)) := by
  obtain ⟨dk', k, ok, tk, file, cf, object, iface, toy, lay, methods, target, found, hd', hk, hfile, hcf, hobj, -, hok, hlay, hms, ht, htk, hg, -, hrec, -, -, -, hitf, hpool, hmeth, hfields, -, hres, -⟩ := Lambda.isMade_spec h
  cases hd.symm.trans hd'
  unfold w_lamOK at hOK
  rw [hcf] at hOK
  simp only [Option.any_some, Bool.and_eq_true, decide_eq_true_eq, Option.any_eq_true] at hOK
  obtain ⟨⟨ms, hms2, fw, hfw, ⟨x, hfc, hx1, hx2⟩, hfl, hnm, hrt⟩, ⟨lay2, hlay2, hi, g0, hg0, hst, hsl⟩, m1, m2, m3, c1, c2, c3, f1, f2⟩ := hOK
  rw [hO object ok hobj hok] at hlay
  cases hlay.symm.trans hlay2
  cases hms.symm.trans hms2
  obtain ⟨b, hb, hsame⟩ := hmeth 1 fw hfw
  simp only [Lambda.sameMethod, Bool.and_eq_true, decide_eq_true_eq] at hsame
  obtain ⟨⟨hn, -, hsig, hflg⟩, hcode⟩ := hsame
  cases hbc : b.code with
  | none => simp [hfc, hbc] at hcode
  | some y =>
    simp only [hfc, hbc, Bool.and_eq_true, decide_eq_true_eq] at hcode
    refine ⟨k, tk, b, y, toy, target, g0, hk, hrec.1, by simp [Vm.method?, hk, hb], hbc, ?_, by rw [← hcode.1.1.1.1.2.1]; exact hx2, ?_, by rw [← hflg]; exact hfl, by rw [← hsig]; exact hrt, ht, htk, hitf, hg,
      ⟨k, hk, hres 23 _ (Lambda.resolvedOf_method m1 m2 ht htk m3 hg)⟩, ⟨k, hk, hres 19 _ (Lambda.resolvedOf_class c1 c3 c2 ht)⟩,
      ⟨k, 0, k, hk, hres 15 _ (Lambda.resolvedOf_field f1 f2 hi), hk, hfields 0 _ hg0⟩, hst, hsl, file, hfile, by rw [hpool.2.1]; exact m1, by rw [hpool.2.1]; exact m3⟩
    · rw [← hcode.1.1.1.1.2.2]
      exact ByteArray.ext hx1
    · simp [Method.locks, Method.isSynchronized, ← hflg, hfl, hasFlag, Acc.synchronized]
