set_option maxRecDepth 100000
/-! CORE 15: a paper that is a permit or a visit; the class object of a list, asked through an interface -/
def oPap (M : wM) (r : Option Nat) (A B : Nat → Prop) : Prop := (∃ a fs, r = some a ∧ M a = some (.inr (9, fs)) ∧ A a) ∨ (∃ a fs, r = some a ∧ M a = some (.inr (10, fs)) ∧ B a)
section ROWS15
variable {p : Program} {l : Launch} {e : Env} {R : Room} {s : State} {m : MethodId} {args : Array Value} {below : List Frame} {meth : Method} {c : Code} {H : Heap} {locs : List Loc} {cells slots : Nat} {Q : State → Prop}
variable {cc : ByteArray} {nL pc : Nat} {ls : Array Slot} {rest : List Value} {own : String} {G : wG} {M : wM}
theorem x_getCI (X : CallFix p m c cc nL s args lw_all own) (hls : c.maxLocals = ls.size) (hK : wK G s) (hM : wR G M H) {index count a : Nat} (hlink : Cond.methodLink own index ⟨"java/util/Collection", "getClass", "()Ljava/lang/Class;"⟩ ∈ lw_all)
    (hframes : 1 ≤ R.frames) (hlocals : (rest.map fun v => v.category).sum + 14 ≤ R.locals) (hd : decode cc pc = .ok (.invokeinterface index count, 5)) {P : Prop} (hp : oIs M a 16 P) (kk : P → W p l e R s m args below meth c H locs cells slots Q (F0 m (pc + 5) ls (.ref (G.2.2.2 61) :: rest))) : W p l e R s m args below meth c H locs cells slots Q (F0 m pc ls (.ref a :: rest)) := by
  sorry
end ROWS15
