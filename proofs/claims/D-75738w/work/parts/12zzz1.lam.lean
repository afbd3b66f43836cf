set_option maxRecDepth 100000
/-! CORE 12: objects that stand for a lambda: the site makes one -/
section LAM12
variable {α : Type}
theorem w_ivC {x : Option CpInfo} {f : Nat → Nat → Option α} {r : α} (h : Lambda.shapeOf?.match_19 (fun _ => Option α) x f (fun _ => none) = some r) : ∃ b nt, x = some (.invokeDynamic b nt) ∧ f b nt = some r := by
  split at h
  · exact ⟨_, _, rfl, h⟩
  · cases h
theorem w_ivM {x : Option CpInfo} {f : Nat → Option α} {r : α} (h : Lambda.shapeOf?.match_17 (fun _ => Option α) x f (fun _ => none) = some r) : ∃ y, f y = some r := by
  split at h
  · exact ⟨_, h⟩
  · cases h
theorem w_ivA {x : Array Nat} {f : Nat → Nat → Nat → Option α} {r : α} (h : Lambda.shapeOf?.match_15 (fun _ => Option α) x f (fun _ => none) = some r) : ∃ a0 a1 a2, f a0 a1 a2 = some r := by
  obtain ⟨l⟩ := x
  match l, h with
  | [], h => cases h
  | [_], h => cases h
  | [_, _], h => cases h
  | [a, b, c], h => exact ⟨a, b, c, h⟩
  | _ :: _ :: _ :: _ :: _, h => cases h
theorem w_ivT {x : Option CpInfo} {f : Nat → Option α} {r : α} (h : Lambda.shapeOf?.match_9 (fun _ => Option α) x f (fun _ => none) = some r) : ∃ y, f y = some r := by
  split at h
  · exact ⟨_, h⟩
  · cases h
theorem w_ivH {x : Option CpInfo} {f : Nat → Nat → Option α} {r : α} (h : Lambda.shapeOf?.match_12 (fun _ => Option α) x f (fun _ => none) = some r) : ∃ y z, f y z = some r := by
  split at h
  · exact ⟨_, _, h⟩
  · cases h
theorem w_ivF {x : Option FieldType} {f : String → Option α} {r : α} (h : Lambda.shapeOf?.match_6 (fun _ => Option α) x f (fun _ => none) = some r) : ∃ y, f y = some r := by
  split at h
  · exact ⟨_, h⟩
  · cases h
end LAM12
theorem w_shape {cf : ClassFile} {index : Nat} {σ : Lambda.Shape} (h : Lambda.shapeOf? cf index = some σ) : ∃ (b nt : Nat) (name desc : String) (sig : MethodDescriptor), cf.constantPool[index]? = some (.invokeDynamic b nt) ∧ cf.constantPool.nameAndType? nt = some (name, desc) ∧ parseMethodDescriptor desc = some sig ∧ sig.parameters = σ.captured := by
  unfold Lambda.shapeOf? at h
  obtain ⟨b, nt, hc, h⟩ := w_ivC h
  obtain ⟨_, -, h⟩ := Option.bind_eq_some_iff.mp h
  obtain ⟨_, -, h⟩ := Option.bind_eq_some_iff.mp h
  obtain ⟨_, h⟩ := w_ivM h
  obtain ⟨_, -, h⟩ := Option.bind_eq_some_iff.mp h
  obtain ⟨_, _, _, h⟩ := w_ivA h
  obtain ⟨_, h⟩ := w_ivT h
  obtain ⟨_, _, h⟩ := w_ivH h
  obtain ⟨_, h⟩ := w_ivT h
  obtain ⟨⟨name, desc⟩, hnt, h⟩ := Option.bind_eq_some_iff.mp h
  obtain ⟨sig, hsig, h⟩ := Option.bind_eq_some_iff.mp h
  obtain ⟨_, h⟩ := w_ivF h
  obtain ⟨⟨_, _, _, _⟩, -, h⟩ := Option.bind_eq_some_iff.mp h
  obtain ⟨_, -, h⟩ := Option.bind_eq_some_iff.mp h
  obtain ⟨_, -, h⟩ := Option.bind_eq_some_iff.mp h
  obtain ⟨_, -, h⟩ := Option.bind_eq_some_iff.mp h
  obtain ⟨_, -, h⟩ := Option.bind_eq_some_iff.mp h
  obtain ⟨_, -, h⟩ := Option.bind_eq_some_iff.mp h
  cases h
  exact ⟨b, nt, name, desc, sig, hc, hnt, hsig, rfl⟩
/-- the fields of an object of a site -/
theorem w_made {s : State} {args : Array Value} {d c : ClassId} {σ : Lambda.Shape} {dk : Class} {τ : Array FieldType} (h : Lambda.isMade { classPath := fun _ => none } s.vm d σ c = true) (hd : s.vm.classes[d]? = some dk)
    (hO : (Cond.instantiable "java/lang/Object" 0).before args s = true) (hlay : ((σ.file dk.name).bind (layoutFields · 0)).map (·.2.1) = some τ) : ∃ k, s.vm.classes[c]? = some k ∧ k.instanceTypes = τ ∧ k.kind = .ordinary := by
  obtain ⟨dk', k, ok, tk, file, cf, object, iface, t, lay, methods, target, found, h1, h2, h3, h4, h5, h6, h7, h8, h9, h10, h11, h12, h13, ⟨-, hkind, -⟩, -, -, -, -, -, -, -, ⟨hty, -⟩, -⟩ := Lambda.isMade_spec h
  cases hd.symm.trans h1
  obtain ⟨cO, kO, hfO, hkO, -, -, -, hsz⟩ := Cond.instantiable_spec hO
  cases hfO.symm.trans h5
  cases hkO.symm.trans h7
  have hemp : ok.instanceTypes = #[] := Array.eq_empty_of_size_eq_zero hsz
  rw [hsz] at h8
  rw [h4] at hlay
  simp only [Option.bind_some, h8, Option.map_some, Option.some.injEq] at hlay
  exact ⟨k, h2, by rw [hty, hemp, hlay]; simp, hkind⟩
theorem w_lays : ∀ t ∈ wLams, t.2.2.2.1.captured = [.int] ∧ ((t.2.2.2.1.file t.1.cls).bind (layoutFields · 0)).map (·.2.1) = some #[.int] := by decide +kernel
def oLam (G : wG) (M : wM) (b : Nat) (nm : String) (v : Int32) (κ : Nat → wM → Nat → Prop) : Prop := 2 ≤ b ∧ ∀ q, M q = none → wz G ≤ q → κ q (wIns M q (.inl (.object nm, 1, .inl (fun _ => v)))) (b - 2)
section ROWS12
variable {p : Program} {l : Launch} {e : Env} {R : Room} {s : State} {m : MethodId} {args : Array Value} {below : List Frame} {meth : Method} {c : Code} {H : Heap} {locs : List Loc} {cells slots : Nat} {Q : State → Prop}
variable {cc : ByteArray} {nL pc : Nat} {ls : Array Slot} {rest : List Value} {own : String} {G : wG} {M : wM} {a b : Nat}
theorem x_indy (X : CallFix p m c cc nL s args lw_all own) (hls : c.maxLocals = ls.size) {x : MethodName} (hnm : s.methodNamed? x = some m) (hC : wC G s) (hM : wR G M H) (hS : va_S (wA G) s.heap H locs) (hB : cells + b ≤ R.cells ∧ slots + b ≤ R.slots) {index : Nat} {σ : Lambda.Shape} {nm : String} (ht : (x, pc, index, σ, nm) ∈ wLams) (hO : Cond.instantiable "java/lang/Object" 0 ∈ lw_all)
    (hd : decode cc pc = .ok (.invokedynamic index, 5)) (hlocals : (rest.map fun v => v.category).sum + 3073 ≤ R.locals) {v : Int32} {κ : Nat → wM → Nat → Prop} (hp : oLam G M b nm v κ)
    (kk : ∀ (q : Nat) (M1 : wM) (H1 : Heap) (b1 cells1 slots1 : Nat), wR G M1 H1 → va_S (wA G) s.heap H1 locs → (cells1 + b1 ≤ R.cells ∧ slots1 + b1 ≤ R.slots) → κ q M1 b1 → W p l e R s m args below meth c H1 locs cells1 slots1 Q (F0 m (pc + 5) ls (.ref q :: rest))) : W p l e R s m args below meth c H locs cells slots Q (F0 m pc ls (.int v :: rest)) := by
  obtain ⟨hx, hb, hml, hown, hts⟩ := X
  obtain ⟨hb2, hk⟩ := hp
  have hat := hC.1.2.2.2.2.2.2.2.2.1 _ ht
  dsimp only at hat
  obtain ⟨hcap, hlay⟩ := w_lays _ ht
  dsimp only at hcap hlay
  obtain ⟨m', kS, cfS, i0, p0, lk, hm', hkS, hcfS, hshape, -, hfind, hmade, hcan, hlk⟩ := State.lambdaAt?_spec hat
  cases hnm.symm.trans hm'
  obtain ⟨rfl, -, -⟩ : lk = .makes (G.2.1 (.object nm)) ∧ (none : Option Addr) = none ∧ σ.captured ≠ [] := by
    rcases hlk with ⟨a, cell, -, h, -⟩ | h
    · cases h
    · exact h
  obtain ⟨kS', hkS', hnameS⟩ := className_of_methodNamed hnm
  cases hkS.symm.trans hkS'
  obtain ⟨bsm, nt, name, desc, sig, hc, hnt, hsig, hpar⟩ := w_shape hshape
  obtain ⟨kK, hkK, htyK, hkindK⟩ := w_made hmade hkS (hts _ hO) (by rw [hnameS]; exact hlay)
  have hslotsE : ((kK.instanceTypes.toList.zip [(.int v : Value)]).map fun (t, v) => narrow t v) = [.int v] := by
    rw [htyK]
    simp [narrow]
  intro T hT X
  obtain ⟨X₁, st1⟩ := X.lambdaMakes hx (g := F0 m pc ls (.int v :: rest)) rfl (by rw [hls]) (by rw [hb]; exact hd) (vals := [.int v]) (rest := rest)
    hkS hfind hcfS hc hnt (parseLong_of_parse hsig) (by rw [hpar, hcap]; rfl) rfl hkK
    (by rw [X.admits.platform]; show 2 * 0 + (1 + (rest.map fun v => v.category).sum) + 3072 ≤ _; omega) (by omega) (by rw [hslotsE]; show slots + 1 ≤ _; omega)
    (fun i w hv => by
      rw [hslotsE] at hv
      match i, hv with
      | 0, hv => simp at hv; subst hv; simp [State.fitsSlot, State.slotType?, hkK, hkindK, htyK, fits]
      | k + 1, hv => simp at hv)
  rw [hslotsE] at X₁ st1
  have hz : wz G ≤ H.size := Nat.le_trans hC.2.2 hS.1
  generalize hH1 : H.push ({ cls := G.2.1 (.object nm), slots := [.int v].toArray, vm := .none } : Cell) = H1
  have z1 : H1.size = H.size + 1 := by rw [← hH1, Array.size_push]
  have e1 : H1[H.size]? = some ({ cls := G.2.1 (.object nm), slots := [.int v].toArray, vm := .none } : Cell) := by rw [← hH1, Array.getElem?_push_size]
  have o1 : ∀ q : Nat, q < H.size → H1[q]? = H[q]? := fun q hq => by rw [← hH1, Array.getElem?_push, if_neg (Nat.ne_of_lt hq)]
  obtain ⟨t, b1, b2⟩ := kk H.size (wIns M H.size (.inl (.object nm, 1, .inl (fun _ => v)))) H1 (b - 2) (cells + 1) (slots + 1) (w_grow hM hz e1 rfl ⟨rfl, rfl, fun j hj => by
      have hj : j < 1 := hj
      rw [show j = 0 by omega]; rfl⟩ o1) (w_S_grow hS z1 o1) (by omega) (hk _ hM.fresh hz)
    (T.pushCell { cls := G.2.1 (.object nm), slots := [.int v].toArray, vm := .none }) (by rw [← hH1, ← hT]; rfl) X₁
  refine ⟨t, st1 t ?_, b2⟩
  rw [hT]
  exact b1
end ROWS12
