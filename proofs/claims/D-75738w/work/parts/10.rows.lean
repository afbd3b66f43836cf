set_option maxRecDepth 100000
/-! CORE 3: a row an instruction, over worlds -/
theorem w_arr {G : wG} {s : State} (hK : wK G s) {ty : FieldType} (hty : ty ∈ wTys) {cell : Cell} (hc : cell.cls = G.2.1 ty) (hst : cell.vm.isStatics = false) : s.isArrayOf cell ty := by
  refine ⟨fun k e => (by rw [e] at hst; exact nomatch hst), ?_⟩
  have h := (hK.2.1.1 ty hty 0 (fun _ => .null)).2
  rw [hc]
  exact h
theorem w_nost {c : Cell} (h : c.vm.isStatics = false) : ∀ q, c.vm ≠ .statics q := fun q e => (by rw [e] at h; exact nomatch h)
theorem w_slot_set {cell : Cell} {i j : Nat} {v : Value} (h : i < cell.slots.size) : (cell.setSlot i v).slots[j]? = if j = i then some v else cell.slots[j]? := by
  show (cell.slots.setIfInBounds i v)[j]? = _
  rw [Array.getElem?_setIfInBounds]
  by_cases e : j = i
  · subst e; simp [h]
  · rw [if_neg (fun q => e q.symm), if_neg e]
theorem w_slot_size {cell : Cell} {i : Nat} {v : Value} : (cell.setSlot i v).slots.size = cell.slots.size := by
  show (cell.slots.setIfInBounds i v).size = _
  simp
theorem w_fresh_ne {G : wG} {M : wM} {H : Heap} (h : wR G M H) {a : Nat} {x : wE} (hx : M a = some x) : a ≠ H.size := fun e => by have := h.lt hx; omega
/-- the static fields in a later heap -/
theorem wZ.at {G : wG} {s : State} {H : Heap} {locs : List Loc} (hZ : wZ G s s.heap) (hS : va_S (wA G) s.heap H locs) : wZ G s H := fun t ht => (hZ t ht).kept hS.2.1
section ROWS
variable {p : Program} {l : Launch} {e : Env} {R : Room} {s : State} {m : MethodId} {args : Array Value} {below : List Frame} {meth : Method} {c : Code} {H : Heap} {locs : List Loc} {cells slots : Nat} {Q : State → Prop}
variable {cc : ByteArray} {nL pc : Nat} {ls : Array Slot} {rest : List Value} {own : String} {G : wG} {M : wM} {a : Nat} {H0 : Heap}
/-- what getfield needs, and the slot's value -/
theorem w_field (hts : ∀ w ∈ lw_all, w.before args s = true) (hK : wK G s) (hM : wR G M H) {C : String} {T : u_T} {N ci : Nat} (hc : wCl[ci]? = some (C, T, N)) (hin : ∀ w ∈ u_ws C T N, w ∈ lw_all) (k : Nat) (hk : k < N) {fs : List Value} {v : Value} (h1 : M a = some (.inr (ci, fs))) (h2 : fs[k]? = some v) :
    ∃ (cell : Cell) (cf i : Nat) (kf : Class) (f : Field), H[a]? = some cell ∧ cell.vm ≠ .unknown ∧ s.fieldFound? (T k).1 (T k).2.1 (T k).2.2.1 = some (cf, kf, i, f) ∧ f.isStatic = false ∧ cell.slots[f.slot]? = some v := by
  obtain ⟨cell, g1, g2, g3, g4, r, g5, g6, g7⟩ := hM a _ h1
  have hr : r = (C, T, N) := Option.some.inj (g5.symm.trans hc)
  subst hr
  obtain ⟨hSl, hfc, kC, hkC, hkind⟩ := hK.1.1 ci _ hc
  obtain ⟨cf, kf, fi, f, hi, hsl⟩ := hSl k hk
  refine ⟨cell, cf, fi, kf, f, g1, g2, hi, (u_facts hfc hkC (u_lays hts hin hk) hi).1, ?_⟩
  rw [hsl, g7 k hk]
  simp [vp_V, h2]
theorem x_get (X : CallFix p m c cc nL s args lw_all own) (hK : wK G s) (hM : wR G M H) {ref C : String} {T : u_T} {N ci index : Nat} (hc : wCl[ci]? = some (C, T, N)) (hin : ∀ w ∈ u_ws C T N, w ∈ lw_all) (k : Nat) (hk : k < N) (hl : Cond.fieldLink own index ref (T k).2.1 (T k).2.2.1 ∈ lw_all) (hsame : ∀ x, s.fieldFound? (T k).1 (T k).2.1 (T k).2.2.1 = some x → s.fieldFound? ref (T k).2.1 (T k).2.2.1 = some x) (hd : decode cc pc = .ok (.getfield index, 3)) {fs : List Value} {v : Value} (h1 : M a = some (.inr (ci, fs))) (h2 : fs[k]? = some v)
    (kk : W p l e R s m args below meth c H locs cells slots Q (F0 m (pc + 3) ls (v :: rest))) : W p l e R s m args below meth c H locs cells slots Q (F0 m pc ls (.ref a :: rest)) := by
  obtain ⟨hx, hb, hml, hown, hts⟩ := X
  obtain ⟨cell, cf, fi, kf, f, g1, g2, g3, g4, g5⟩ := w_field hts hK hM hc hin k hk h1 h2
  exact W.getf hx hb hown (hts _ hl) (hsame _ g3) g4 g1 g2 g5 rfl rfl hd kk
theorem x_getN (X : CallFix p m c cc nL s args lw_all own) (hK : wK G s) (hM : wR G M H) {ref C host : String} {T : u_T} {N ci index : Nat} (hc : wCl[ci]? = some (C, T, N)) (hin : ∀ w ∈ u_ws C T N, w ∈ lw_all) (k : Nat) (hk : k < N) (hl : Cond.fieldLinkNest own index ref (T k).2.1 (T k).2.2.1 host ∈ lw_tbl) (hsame : ∀ x, s.fieldFound? (T k).1 (T k).2.1 (T k).2.2.1 = some x → s.fieldFound? ref (T k).2.1 (T k).2.2.1 = some x) (hd : decode cc pc = .ok (.getfield index, 3)) {fs : List Value} {v : Value} (h1 : M a = some (.inr (ci, fs))) (h2 : fs[k]? = some v)
    (kk : W p l e R s m args below meth c H locs cells slots Q (F0 m (pc + 3) ls (v :: rest))) : W p l e R s m args below meth c H locs cells slots Q (F0 m pc ls (.ref a :: rest)) := by
  obtain ⟨hx, hb, hml, hown, hts⟩ := X
  obtain ⟨cell, cf, fi, kf, f, g1, g2, g3, g4, g5⟩ := w_field hts hK hM hc hin k hk h1 h2
  exact va_Wgetf hx hb hown (va_Nw.use rfl (hK.2.2.1 _ hl rfl)) (hsame _ g3) g4 g1 g2 g5 rfl rfl hd kk
/-- the world behind a putfield -/
theorem w_put (hts : ∀ w ∈ lw_all, w.before args s = true) (hK : wK G s) (hM : wR G M H) {C : String} {T : u_T} {N ci : Nat} (hc : wCl[ci]? = some (C, T, N)) (hin : ∀ w ∈ u_ws C T N, w ∈ lw_all) (ty0 : Nat → FieldType) (hty : ∀ k, k < N → parseFieldDescriptor (T k).2.2.1 = some (ty0 k)) (hnm : ∀ a, a < N → ∀ b, b < N → a ≠ b → (T a).2.1 ≠ (T b).2.1) {k : Nat} (hk : k < N) {fs : List Value} {v : Value} (h1 : M a = some (.inr (ci, fs))) (hl : k < fs.length) {cell : Cell} (hcell : H[a]? = some cell) {f : Field} (hsl : f.slot = G.1.2 ci k) {H1 : Heap} (e1 : H1[a]? = some (cell.setSlot f.slot v)) (oq : ∀ q, q ≠ a → H1[q]? = H[q]?) : wR G (wIns M a (.inr (ci, fs.set k v))) H1 := by
  have hap := va_apart (own := "") hts hin ty0 hty hnm hK.1 hc
  refine hM.ins ?_ (fun q hq _ => oq q hq)
  obtain ⟨cell2, g1, g2, g3, g4, r, g5, g6, g7⟩ := hM a _ h1
  cases Option.some.inj (g1.symm.trans hcell)
  have hr : r = (C, T, N) := Option.some.inj (g5.symm.trans hc)
  subst hr
  have hlt : f.slot < cell.slots.size := by
    rw [hsl]
    exact (Array.getElem?_eq_some_iff.mp (g7 k hk)).1
  refine ⟨cell.setSlot f.slot v, e1, g2, g3, g4, (C, T, N), g5, g6, fun j hj => ?_⟩
  rw [w_slot_set hlt, hsl]
  show _ = some ((fs.set k v).getD j .null)
  by_cases ej : j = k
  · subst ej
    rw [if_pos rfl]
    simp [hl]
  · rw [if_neg (fun z => hap j k hj hk ej z), g7 j hj]
    simp [vp_V, List.getElem?_set, Ne.symm ej]
theorem x_put (X : CallFix p m c cc nL s args lw_all own) (hK : wK G s) (hM : wR G M H) (hS : va_S (wA G) H0 H locs) {ref C : String} {T : u_T} {N ci index : Nat} (hc : wCl[ci]? = some (C, T, N)) (hin : ∀ w ∈ u_ws C T N, w ∈ lw_all) (ty0 : Nat → FieldType) (hty : ∀ k, k < N → parseFieldDescriptor (T k).2.2.1 = some (ty0 k)) (hnm : ∀ a, a < N → ∀ b, b < N → a ≠ b → (T a).2.1 ≠ (T b).2.1) (k : Nat) (hk : k < N) (hl : Cond.fieldLink own index ref (T k).2.1 (T k).2.2.1 ∈ lw_all) (hsame : ∀ x, s.fieldFound? (T k).1 (T k).2.1 (T k).2.2.1 = some x → s.fieldFound? ref (T k).2.1 (T k).2.2.1 = some x) (hfin : (T k).2.2.2 = false) {v : Value} (hn : narrow (ty0 k) v = v) (hfit : fits (ty0 k) v = true) (hd : decode cc pc = .ok (.putfield index, 3)) {κ : wM → Prop} (hp : oPut G M a ci k v κ)
    (kk : ∀ (M1 : wM) (H1 : Heap) (locs1 : List Loc), wR G M1 H1 → va_S (wA G) H0 H1 locs1 → κ M1 → W p l e R s m args below meth c H1 locs1 cells slots Q (F0 m (pc + 3) ls rest)) : W p l e R s m args below meth c H locs cells slots Q (F0 m pc ls (v :: .ref a :: rest)) := by
  obtain ⟨hx, hb, hml, hown, hts⟩ := X
  obtain ⟨fs, h1, hlen, hza, hp⟩ := hp
  obtain ⟨cell, g1, g2, g3, g4, r, g5, g6, g7⟩ := hM a _ h1
  have hr : r = (C, T, N) := Option.some.inj (g5.symm.trans hc)
  subst hr
  obtain ⟨hSl, hfc, kC, hkC, hkind⟩ := hK.1.1 ci _ hc
  obtain ⟨cf, kf, fi, f, hi, hsl⟩ := hSl k hk
  have hlay := hts _ (hin _ (u_in_lay hk))
  unfold u_lay at hlay
  rw [if_neg (by rw [hfin]; decide)] at hlay
  have hst := (u_facts hfc hkC (u_lays hts hin hk) hi).1
  have h6 := u_store hfc hkC hkind hlay hi (hty k hk) hn hfit
  refine W.putK hx hb (f := f) ⟨hown, hts _ hl, ⟨_, _, _, hsame _ hi⟩, hst⟩ (by rw [g6]; exact h6) g1 (g4 hza) (by rw [hsl]; exact k2_hasslot (g7 k hk)) rfl rfl hd fun H1 e1 e2 e3 => ?_
  exact kk _ H1 _ (w_put hts hK hM hc hin ty0 hty hnm hk h1 hlen g1 hsl e1 e3) (hS.put e2 e3 hza) hp
theorem x_putN (X : CallFix p m c cc nL s args lw_all own) (hK : wK G s) (hM : wR G M H) (hS : va_S (wA G) H0 H locs) {ref C host : String} {T : u_T} {N ci index : Nat} (hc : wCl[ci]? = some (C, T, N)) (hin : ∀ w ∈ u_ws C T N, w ∈ lw_all) (ty0 : Nat → FieldType) (hty : ∀ k, k < N → parseFieldDescriptor (T k).2.2.1 = some (ty0 k)) (hnm : ∀ a, a < N → ∀ b, b < N → a ≠ b → (T a).2.1 ≠ (T b).2.1) (k : Nat) (hk : k < N) (hl : Cond.fieldLinkNest own index ref (T k).2.1 (T k).2.2.1 host ∈ lw_tbl) (hsame : ∀ x, s.fieldFound? (T k).1 (T k).2.1 (T k).2.2.1 = some x → s.fieldFound? ref (T k).2.1 (T k).2.2.1 = some x) (hfin : (T k).2.2.2 = false) {v : Value} (hn : narrow (ty0 k) v = v) (hfit : fits (ty0 k) v = true) (hd : decode cc pc = .ok (.putfield index, 3)) {κ : wM → Prop} (hp : oPut G M a ci k v κ)
    (kk : ∀ (M1 : wM) (H1 : Heap) (locs1 : List Loc), wR G M1 H1 → va_S (wA G) H0 H1 locs1 → κ M1 → W p l e R s m args below meth c H1 locs1 cells slots Q (F0 m (pc + 3) ls rest)) : W p l e R s m args below meth c H locs cells slots Q (F0 m pc ls (v :: .ref a :: rest)) := by
  obtain ⟨hx, hb, hml, hown, hts⟩ := X
  obtain ⟨fs, h1, hlen, hza, hp⟩ := hp
  obtain ⟨cell, g1, g2, g3, g4, r, g5, g6, g7⟩ := hM a _ h1
  have hr : r = (C, T, N) := Option.some.inj (g5.symm.trans hc)
  subst hr
  obtain ⟨hSl, hfc, kC, hkC, hkind⟩ := hK.1.1 ci _ hc
  obtain ⟨cf, kf, fi, f, hi, hsl⟩ := hSl k hk
  have hlay := hts _ (hin _ (u_in_lay hk))
  unfold u_lay at hlay
  rw [if_neg (by rw [hfin]; decide)] at hlay
  have hst := (u_facts hfc hkC (u_lays hts hin hk) hi).1
  have h6 := u_store hfc hkC hkind hlay hi (hty k hk) hn hfit
  refine va_WputK hx hb (f := f) hown (va_Nw.use rfl (hK.2.2.1 _ hl rfl)) (hsame _ hi) hst (by rw [g6]; exact h6) g1 (g4 hza) (by rw [hsl]; exact k2_hasslot (g7 k hk)) rfl rfl hd fun H1 e1 e2 e3 => ?_
  exact kk _ H1 _ (w_put hts hK hM hc hin ty0 hty hnm hk h1 hlen g1 hsl e1 e3) (hS.put e2 e3 hza) hp
theorem x_putF (X : CallFix p m c cc nL s args lw_all own) (hK : wK G s) (hM : wR G M H) (hS : va_S (wA G) H0 H locs) {ref C : String} {T : u_T} {N ci index : Nat} (hc : wCl[ci]? = some (C, T, N)) (hin : ∀ w ∈ u_ws C T N, w ∈ lw_all) (ty0 : Nat → FieldType) (hty : ∀ k, k < N → parseFieldDescriptor (T k).2.2.1 = some (ty0 k)) (hnm : ∀ a, a < N → ∀ b, b < N → a ≠ b → (T a).2.1 ≠ (T b).2.1) (k : Nat) (hk : k < N) (hl : Cond.fieldLink own index ref (T k).2.1 (T k).2.2.1 ∈ lw_all) (hsame : ∀ x, s.fieldFound? (T k).1 (T k).2.1 (T k).2.2.1 = some x → s.fieldFound? ref (T k).2.1 (T k).2.2.1 = some x) (hfin : (T k).2.2.2 = true) (hin2 : meth.name = "<init>") (hdecl : (T k).1 = own) {v : Value} (hn : narrow (ty0 k) v = v) (hfit : fits (ty0 k) v = true) (hd : decode cc pc = .ok (.putfield index, 3)) {κ : wM → Prop} (hp : oPut G M a ci k v κ)
    (kk : ∀ (M1 : wM) (H1 : Heap) (locs1 : List Loc), wR G M1 H1 → va_S (wA G) H0 H1 locs1 → κ M1 → W p l e R s m args below meth c H1 locs1 cells slots Q (F0 m (pc + 3) ls rest)) : W p l e R s m args below meth c H locs cells slots Q (F0 m pc ls (v :: .ref a :: rest)) := by
  obtain ⟨hx, hb, hml, hown, hts⟩ := X
  obtain ⟨fs, h1, hlen, hza, hp⟩ := hp
  obtain ⟨cell, g1, g2, g3, g4, r, g5, g6, g7⟩ := hM a _ h1
  have hr : r = (C, T, N) := Option.some.inj (g5.symm.trans hc)
  subst hr
  obtain ⟨hSl, hfc, kC, hkC, hkind⟩ := hK.1.1 ci _ hc
  obtain ⟨cf, kf, fi, f, hi, hsl⟩ := hSl k hk
  have hlay := hts _ (hin _ (u_in_lay hk))
  unfold u_lay at hlay
  rw [if_pos hfin] at hlay
  have hst := (u_facts hfc hkC (u_lays hts hin hk) hi).1
  have hcf : m.cls = cf := by
    obtain ⟨_, _, c', _, _, _, -, -, hf', -, -, -, hown2, -⟩ := Cond.laysFinal_spec hlay
    have e1 : c' = cf := by have := hi.symm.trans hf'; simp at this; exact this.1.symm
    rw [hdecl] at hown2
    rw [← e1]; exact Option.some.inj (hown.symm.trans hown2)
  have h6 := u_fits hfc hkC hkind (Or.inr hlay) hi (hty k hk) hn hfit
  refine W.putFinK hx hb hown (hts _ hl) (hsame _ hi) hst hcf hin2 (by rw [g6]; exact h6) g1 (g4 hza) (by rw [hsl]; exact k2_hasslot (g7 k hk)) rfl rfl hd fun H1 e1 e2 e3 => ?_
  exact kk _ H1 _ (w_put hts hK hM hc hin ty0 hty hnm hk h1 hlen g1 hsl e1 e3) (hS.put e2 e3 hza) hp
/-! arrays -/
theorem x_iald (X : CallFix p m c cc nL s args lw_all own) (hK : wK G s) (hM : wR G M H) {i : Int32} (hd : decode cc pc = .ok (.iaload, 1)) {κ : Int32 → Prop} (hp : oIald .int M a i κ)
    (kk : ∀ v, κ v → W p l e R s m args below meth c H locs cells slots Q (F0 m (pc + 1) ls (.int v :: rest))) : W p l e R s m args below meth c H locs cells slots Q (F0 m pc ls (.int i :: .ref a :: rest)) := by
  obtain ⟨n, f, h1, h2, hp⟩ := hp
  obtain ⟨cell, g1, g2, g3, g4, g5, g6, g7⟩ := hM a _ h1
  have hlt : i.toNatClampNeg < n := Nat.not_le.mp fun q => h2 (Or.inr q)
  exact W.iald (v := .int (f i.toNatClampNeg)) X.1 X.2.1 g1 (w_arr hK (by decide) g5 g3) g2 (by rw [g6]; exact h2) (g7 _ hlt) rfl rfl hd (kk _ hp)
theorem x_bald (X : CallFix p m c cc nL s args lw_all own) (hK : wK G s) (hM : wR G M H) {i : Int32} (hd : decode cc pc = .ok (.baload, 1)) {κ : Int32 → Prop} (hp : oIald .byte M a i κ)
    (kk : ∀ v, κ v → W p l e R s m args below meth c H locs cells slots Q (F0 m (pc + 1) ls (.int v :: rest))) : W p l e R s m args below meth c H locs cells slots Q (F0 m pc ls (.int i :: .ref a :: rest)) := by
  obtain ⟨n, f, h1, h2, hp⟩ := hp
  obtain ⟨cell, g1, g2, g3, g4, g5, g6, g7⟩ := hM a _ h1
  have hlt : i.toNatClampNeg < n := Nat.not_le.mp fun q => h2 (Or.inr q)
  exact W.bald (v := .int (f i.toNatClampNeg)) X.1 X.2.1 g1 (w_arr hK (by decide) g5 g3) g2 (by rw [g6]; exact h2) (g7 _ hlt) rfl rfl hd (kk _ hp)
theorem x_lald (X : CallFix p m c cc nL s args lw_all own) (hK : wK G s) (hM : wR G M H) {i : Int32} (hd : decode cc pc = .ok (.laload, 1)) {κ : Int64 → Prop} (hp : oLald M a i κ)
    (kk : ∀ v, κ v → W p l e R s m args below meth c H locs cells slots Q (F0 m (pc + 1) ls (.long v :: rest))) : W p l e R s m args below meth c H locs cells slots Q (F0 m pc ls (.int i :: .ref a :: rest)) := by
  obtain ⟨n, f, h1, h2, hp⟩ := hp
  obtain ⟨cell, g1, g2, g3, g4, g5, g6, g7⟩ := hM a _ h1
  have hlt : i.toNatClampNeg < n := Nat.not_le.mp fun q => h2 (Or.inr q)
  exact W.lald (v := .long (f i.toNatClampNeg)) X.1 X.2.1 g1 (w_arr hK (by decide) g5 g3) g2 (by rw [g6]; exact h2) (g7 _ hlt) rfl rfl hd (kk _ hp)
theorem x_aald (X : CallFix p m c cc nL s args lw_all own) (hK : wK G s) (hM : wR G M H) {ty : FieldType} (hty : ty ∈ wTys) (href : ty.isReference = true) {i : Int32} (hd : decode cc pc = .ok (.aaload, 1)) {κ : Option Nat → Prop} (hp : oAald ty M a i κ)
    (kk : ∀ v, κ v → W p l e R s m args below meth c H locs cells slots Q (F0 m (pc + 1) ls (va_rf v :: rest))) : W p l e R s m args below meth c H locs cells slots Q (F0 m pc ls (.int i :: .ref a :: rest)) := by
  obtain ⟨n, f, h1, h2, hp⟩ := hp
  obtain ⟨cell, g1, g2, g3, g4, g5, g6, g7⟩ := hM a _ h1
  have hlt : i.toNatClampNeg < n := Nat.not_le.mp fun q => h2 (Or.inr q)
  exact W.aald (v := va_rf (f i.toNatClampNeg)) X.1 X.2.1 g1 (w_arr hK hty g5 g3) href g2 (by rw [g6]; exact h2) (g7 _ hlt) rfl rfl hd (kk _ hp)
theorem x_alen (X : CallFix p m c cc nL s args lw_all own) (hK : wK G s) (hM : wR G M H) {ty : FieldType} (hty : ty ∈ wTys) (hd : decode cc pc = .ok (.arraylength, 1)) {κ : Int32 → Prop} (hp : oAlen ty M a κ)
    (kk : ∀ v, κ v → W p l e R s m args below meth c H locs cells slots Q (F0 m (pc + 1) ls (.int v :: rest))) : W p l e R s m args below meth c H locs cells slots Q (F0 m pc ls (.ref a :: rest)) := by
  obtain ⟨n, f, h1, hp⟩ := hp
  obtain ⟨cell, g1, g2, g3, g4, g5, g6, g7⟩ := hM a _ h1
  exact W.alen (n := nI n) X.1 X.2.1 g1 (w_arr hK hty g5 g3) (by rw [g6]; rfl) rfl rfl hd (kk _ hp)
theorem w_astore {n : Nat} {ty : FieldType} {f f' : (Nat → Int32) ⊕ (Nat → Int64) ⊕ (Nat → UInt32) ⊕ (Nat → UInt64) ⊕ (Nat → Option Nat)} (hM : wR G M H) (h1 : M a = some (.inl (ty, n, f))) {cell : Cell} (hcell : H[a]? = some cell) {i : Nat} (hi : i < n) {v : Value} {H1 : Heap} (e1 : H1[a]? = some (cell.setSlot i v)) (oq : ∀ q, q ≠ a → H1[q]? = H[q]?) (hf : ∀ j, j < n → wav (n, f') j = if j = i then v else wav (n, f) j) : wR G (wIns M a (.inl (ty, n, f'))) H1 := by
  refine hM.ins ?_ (fun q hq _ => oq q hq)
  obtain ⟨cell2, g1, g2, g3, g4, g5, g6, g7⟩ := hM a _ h1
  cases Option.some.inj (g1.symm.trans hcell)
  refine ⟨cell.setSlot i v, e1, g2, g3, g4, g5, by rw [w_slot_size]; exact g6, fun j hj => ?_⟩
  rw [w_slot_set (by rw [g6]; exact hi), hf j hj]
  by_cases ej : j = i
  · rw [if_pos ej, if_pos ej]
  · rw [if_neg ej, if_neg ej]; exact g7 j hj
theorem x_iast (X : CallFix p m c cc nL s args lw_all own) (hK : wK G s) (hM : wR G M H) (hS : va_S (wA G) H0 H locs) {i x : Int32} (hd : decode cc pc = .ok (.iastore, 1)) {κ : wM → Prop} (hp : oIast G M a i x κ)
    (kk : ∀ (M1 : wM) (H1 : Heap) (locs1 : List Loc), wR G M1 H1 → va_S (wA G) H0 H1 locs1 → κ M1 → W p l e R s m args below meth c H1 locs1 cells slots Q (F0 m (pc + 1) ls rest)) : W p l e R s m args below meth c H locs cells slots Q (F0 m pc ls (.int x :: .int i :: .ref a :: rest)) := by
  obtain ⟨n, f, h1, hza, h2, hp⟩ := hp
  obtain ⟨cell, g1, g2, g3, g4, g5, g6, g7⟩ := hM a _ h1
  have hlt : i.toNatClampNeg < n := Nat.not_le.mp fun q => h2 (Or.inr q)
  refine W.iast X.1 X.2.1 g1 (w_arr hK (by decide) g5 g3) g2 (by rw [g6]; exact h2) rfl rfl hd fun H1 e1 z oq => ?_
  refine kk _ H1 _ (w_astore hM h1 g1 hlt e1 oq fun j hj => ?_) (hS.put z oq hza) hp
  by_cases ej : j = i.toNatClampNeg
  · subst ej; simp [wav, upd]
  · simp [wav, upd, ej]
theorem x_bast (X : CallFix p m c cc nL s args lw_all own) (hK : wK G s) (hM : wR G M H) (hS : va_S (wA G) H0 H locs) {i x : Int32} (hd : decode cc pc = .ok (.bastore, 1)) {κ : wM → Prop} (hp : oBast G M a i x κ)
    (kk : ∀ (M1 : wM) (H1 : Heap) (locs1 : List Loc), wR G M1 H1 → va_S (wA G) H0 H1 locs1 → κ M1 → W p l e R s m args below meth c H1 locs1 cells slots Q (F0 m (pc + 1) ls rest)) : W p l e R s m args below meth c H locs cells slots Q (F0 m pc ls (.int x :: .int i :: .ref a :: rest)) := by
  obtain ⟨n, f, h1, hza, h2, hp⟩ := hp
  obtain ⟨cell, g1, g2, g3, g4, g5, g6, g7⟩ := hM a _ h1
  have hlt : i.toNatClampNeg < n := Nat.not_le.mp fun q => h2 (Or.inr q)
  refine W.bast X.1 X.2.1 g1 (w_arr hK (by decide) g5 g3) g2 (by rw [g6]; exact h2) rfl rfl hd fun H1 e1 z oq => ?_
  refine kk _ H1 _ (w_astore hM h1 g1 hlt e1 oq fun j hj => ?_) (hS.put z oq hza) hp
  by_cases ej : j = i.toNatClampNeg
  · subst ej; simp [wav, upd, narrow]
  · simp [wav, upd, ej]
theorem x_last (X : CallFix p m c cc nL s args lw_all own) (hK : wK G s) (hM : wR G M H) (hS : va_S (wA G) H0 H locs) {i : Int32} {x : Int64} (hd : decode cc pc = .ok (.lastore, 1)) {κ : wM → Prop} (hp : oLast G M a i x κ)
    (kk : ∀ (M1 : wM) (H1 : Heap) (locs1 : List Loc), wR G M1 H1 → va_S (wA G) H0 H1 locs1 → κ M1 → W p l e R s m args below meth c H1 locs1 cells slots Q (F0 m (pc + 1) ls rest)) : W p l e R s m args below meth c H locs cells slots Q (F0 m pc ls (.long x :: .int i :: .ref a :: rest)) := by
  obtain ⟨n, f, h1, hza, h2, hp⟩ := hp
  obtain ⟨cell, g1, g2, g3, g4, g5, g6, g7⟩ := hM a _ h1
  have hlt : i.toNatClampNeg < n := Nat.not_le.mp fun q => h2 (Or.inr q)
  refine W.last X.1 X.2.1 g1 (w_arr hK (by decide) g5 g3) g2 (by rw [g6]; exact h2) rfl rfl hd fun H1 e1 z oq => ?_
  refine kk _ H1 _ (w_astore hM h1 g1 hlt e1 oq fun j hj => ?_) (hS.put z oq hza) hp
  by_cases ej : j = i.toNatClampNeg
  · subst ej; simp [wav, vp_updL]
  · simp [wav, vp_updL, ej]
end ROWS
