set_option maxRecDepth 100000
/-! STAGE 2, JDK 1: owners of cells; ArrayList -/
/-- from (M, ow) to (M1, ow1): old cells keep their owner and their class; those of owners not in T keep their contents -/
def Mv (T : List Nat) (M : wM) (ow : Nat → Nat) (M1 : wM) (ow1 : Nat → Nat) : Prop := 0 ∉ T ∧ ∀ q x, M q = some x → ow1 q = ow q ∧ ∃ y, M1 q = some y ∧ (ow q ∉ T → y = x) ∧ ∀ ci fs, x = .inr (ci, fs) → ∃ fs1, y = .inr (ci, fs1)
theorem Mv.rf {T : List Nat} {M : wM} {ow : Nat → Nat} (h : 0 ∉ T) : Mv T M ow M ow := ⟨h, fun _ x hx => ⟨rfl, x, hx, fun _ => rfl, fun _ fs e => ⟨fs, e⟩⟩⟩
theorem Mv.tr {T : List Nat} {M M1 M2 : wM} {ow ow1 ow2 : Nat → Nat} (h : Mv T M ow M1 ow1) (h2 : Mv T M1 ow1 M2 ow2) : Mv T M ow M2 ow2 := by
  refine ⟨h.1, fun q x hx => ?_⟩
  obtain ⟨e1, y, hy, f1, c1⟩ := h.2 q x hx
  obtain ⟨e2, w, hw, f2, c2⟩ := h2.2 q y hy
  exact ⟨e2.trans e1, w, hw, fun hn => by rw [f2 (by rw [e1]; exact hn), f1 hn], fun ci fs e => by obtain ⟨g1, k1⟩ := c1 ci fs e; exact c2 ci g1 k1⟩
theorem Mv.mono {T U : List Nat} {M M1 : wM} {ow ow1 : Nat → Nat} (h : Mv T M ow M1 ow1) (hs : ∀ x ∈ T, x ∈ U) (h0 : 0 ∉ U) : Mv U M ow M1 ow1 :=
  ⟨h0, fun q x hx => by obtain ⟨e1, y, hy, f1, c1⟩ := h.2 q x hx; exact ⟨e1, y, hy, fun hn => f1 fun hm => hn (hs _ hm), c1⟩⟩
theorem Mv.wr {T : List Nat} {M : wM} {ow : Nat → Nat} (h0 : 0 ∉ T) {a : Nat} (ha : ow a ∈ T) {x0 : wE} (hx0 : M a = some x0) (x : wE) (hc : ∀ ci fs, x0 = .inr (ci, fs) → ∃ fs1, x = .inr (ci, fs1)) : Mv T M ow (wIns M a x) ow := by
  refine ⟨h0, fun q y hy => ⟨rfl, ?_⟩⟩
  by_cases e : q = a
  · subst e
    rw [hx0] at hy
    cases hy
    exact ⟨x, wIns_eq _ _ _, fun hn => absurd ha hn, hc⟩
  · exact ⟨y, by rw [wIns_ne M x e]; exact hy, fun _ => rfl, fun _ fs e => ⟨fs, e⟩⟩
theorem Mv.nw {T : List Nat} {M : wM} {ow : Nat → Nat} (h0 : 0 ∉ T) {a : Nat} (ha : M a = none) (x : wE) (τ : Nat) : Mv T M ow (wIns M a x) (va_up ow a τ) := by
  refine ⟨h0, fun q y hy => ?_⟩
  have e : q ≠ a := fun e => by rw [e, ha] at hy; cases hy
  exact ⟨va_up_ne ow τ e, y, by rw [wIns_ne M x e]; exact hy, fun _ => rfl, fun _ fs e => ⟨fs, e⟩⟩
/-- a new cell that is written once more -/
theorem Mv.nw2 {T : List Nat} {M M1 : wM} {ow ow1 : Nat → Nat} (h : Mv T M ow M1 ow1) {a : Nat} (ha : M a = none) (x : wE) : Mv T M ow (wIns M1 a x) ow1 := by
  refine ⟨h.1, fun q y hy => ?_⟩
  have e : q ≠ a := fun e => by rw [e, ha] at hy; cases hy
  obtain ⟨e1, w, hw, f⟩ := h.2 q y hy
  exact ⟨e1, w, by rw [wIns_ne M1 x e]; exact hw, f⟩
theorem Mv.at {T : List Nat} {M M1 : wM} {ow ow1 : Nat → Nat} (h : Mv T M ow M1 ow1) {q : Nat} {x : wE} (hx : M q = some x) (hn : ow q ∉ T) : M1 q = some x := by
  obtain ⟨-, y, hy, f, -⟩ := h.2 q x hx
  rw [hy, f hn]
theorem Mv.at0 {M M1 : wM} {ow ow1 : Nat → Nat} (h : Mv [] M ow M1 ow1) {q : Nat} {x : wE} (hx : M q = some x) : M1 q = some x := h.at hx (by simp)
theorem Mv.ow {T : List Nat} {M M1 : wM} {ow ow1 : Nat → Nat} (h : Mv T M ow M1 ow1) {q : Nat} {x : wE} (hx : M q = some x) : ow1 q = ow q := (h.2 q x hx).1
theorem Mv.ne {T : List Nat} {M M1 : wM} {ow ow1 : Nat → Nat} (h : Mv T M ow M1 ow1) {q : Nat} (hq : M1 q = none) : M q = none := by
  cases e : M q with
  | none => rfl
  | some x => obtain ⟨-, y, hy, -⟩ := h.2 q x e; rw [hq] at hy; cases hy
/-- some object lies there -/
def Ob (M : wM) (x : Nat) : Prop := ∃ o, M x = some (.inr o)
theorem Ob.stp {T : List Nat} {M M1 : wM} {ow ow1 : Nat → Nat} {x : Nat} (h : Ob M x) (hs : Mv T M ow M1 ow1) : Ob M1 x := by
  obtain ⟨⟨ci, fs⟩, ho⟩ := h
  obtain ⟨-, y, hy, -, c⟩ := hs.2 x _ ho
  obtain ⟨fs1, e⟩ := c ci fs rfl
  exact ⟨(ci, fs1), by rw [hy, e]⟩
theorem Mv.cls {T : List Nat} {M M1 : wM} {ow ow1 : Nat → Nat} (hs : Mv T M ow M1 ow1) {x ci : Nat} (h : ∃ fs, M x = some (.inr (ci, fs))) : ∃ fs, M1 x = some (.inr (ci, fs)) := by
  obtain ⟨fs, ho⟩ := h
  obtain ⟨-, y, hy, -, c⟩ := hs.2 x _ ho
  obtain ⟨fs1, e⟩ := c ci fs rfl
  exact ⟨fs1, by rw [hy, e]⟩
theorem wIns_wIns (M : wM) (a : Nat) (x y : wE) : wIns (wIns M a x) a y = wIns M a y := by
  funext q; unfold wIns; split <;> rfl
theorem wIns_sw (M : wM) {a b : Nat} (x y : wE) (h : a ≠ b) : wIns (wIns M a x) b y = wIns (wIns M b y) a x := by
  funext q; unfold wIns
  by_cases e : q = b
  · rw [if_pos e, if_pos e, if_neg (fun e2 => h (e2.symm.trans e))]
  · rw [if_neg e, if_neg e]
/-- a cell that somebody owns; what may be written lies behind the start -/
def Cl (G : wG) (M : wM) (ow : Nat → Nat) (τ a : Nat) (x : wE) : Prop := M a = some x ∧ ow a = τ ∧ (τ ≠ 0 → wz G ≤ a)
theorem Cl.stp {G : wG} {M M1 : wM} {ow ow1 : Nat → Nat} {T : List Nat} {τ a : Nat} {x : wE} (h : Cl G M ow τ a x) (hs : Mv T M ow M1 ow1) (hn : τ ∉ T) : Cl G M1 ow1 τ a x :=
  ⟨hs.at h.1 (by rw [h.2.1]; exact hn), (hs.ow h.1).trans h.2.1, h.2.2⟩
theorem Cl.nw {G : wG} (M : wM) (ow : Nat → Nat) {a : Nat} (hz : wz G ≤ a) (x : wE) (τ : Nat) : Cl G (wIns M a x) (va_up ow a τ) τ a x := ⟨wIns_eq _ _ _, va_up_self _ _ _, fun _ => hz⟩
theorem Cl.wr {G : wG} {M : wM} {ow : Nat → Nat} {τ a : Nat} {x : wE} (h : Cl G M ow τ a x) (y : wE) : Cl G (wIns M a y) ow τ a y := ⟨wIns_eq _ _ _, h.2.1, h.2.2⟩
theorem Cl.ne {G : wG} {M : wM} {ow : Nat → Nat} {τ σ a b : Nat} {x y : wE} (h : Cl G M ow τ a x) (h2 : Cl G M ow σ b y) (e : x ≠ y) : a ≠ b := fun e2 => by
  have := h.1; rw [e2, h2.1] at this; exact e (Option.some.inj this).symm
theorem Cl.neT {G : wG} {M : wM} {ow : Nat → Nat} {τ σ a b : Nat} {x y : wE} (h : Cl G M ow τ a x) (h2 : Cl G M ow σ b y) (e : τ ≠ σ) : a ≠ b := fun e2 => by
  have := h.2.1; rw [e2, h2.2.1] at this; exact e this.symm
theorem Cl.off {G : wG} {M : wM} {ow : Nat → Nat} {τ a b : Nat} {x : wE} (h : Cl G M ow τ a x) (e : a ≠ b) (y : wE) : Cl G (wIns M b y) ow τ a x := ⟨by rw [wIns_ne M y e]; exact h.1, h.2⟩
theorem t0 {τ : Nat} (h : τ ≠ 0) : 0 ∉ [τ] := by simpa using fun e => h e.symm
theorem oPut.m {G : wG} {M : wM} {ow : Nat → Nat} {τ a ci k : Nat} {fs fs1 : List Value} {v : Value} {κ : wM → Prop} (h : Cl G M ow τ a (.inr (ci, fs))) (hτ : τ ≠ 0) (hk : k < fs.length) (he : fs.set k v = fs1) (hp : ∀ M1, M1 = wIns M a (.inr (ci, fs1)) → Mv [τ] M ow M1 ow → Cl G M1 ow τ a (.inr (ci, fs1)) → κ M1) : oPut G M a ci k v κ :=
  oPut.i h.1 hk (h.2.2 hτ) (hp _ (by rw [he]) (Mv.wr (t0 hτ) (by rw [h.2.1]; exact List.mem_singleton_self _) h.1 _ (fun _ _ e => by cases e; exact ⟨_, rfl⟩)) (by rw [← he]; exact h.wr _))
theorem oAast.m {G : wG} {M : wM} {ow : Nat → Nat} {τ a n i : Nat} {y : Int32} {ty : FieldType} {r : Option Nat} {g : Nat → Option Nat} {κ : wM → Prop} (h : Cl G M ow τ a (.inl (ty, n, .inr (.inr (.inr (.inr g)))))) (hτ : τ ≠ 0) (e : y = nI i) (hi : i < n) (hn : n < 2 ^ 31) (ho : oObj M ty r) (hp : ∀ M1, M1 = wIns M a (.inl (ty, n, .inr (.inr (.inr (.inr (va_up g i r)))))) → Mv [τ] M ow M1 ow → Cl G M1 ow τ a (.inl (ty, n, .inr (.inr (.inr (.inr (va_up g i r)))))) → κ M1) : oAast G ty M a y r κ :=
  oAast.e e h.1 (h.2.2 hτ) hi hn ho (hp _ rfl (Mv.wr (t0 hτ) (by rw [h.2.1]; exact List.mem_singleton_self _) h.1 _ (fun _ _ e => by cases e)) (h.wr _))
theorem oIast.m {G : wG} {M : wM} {ow : Nat → Nat} {τ a n i : Nat} {y x : Int32} {g : Nat → Int32} {κ : wM → Prop} (h : Cl G M ow τ a (.inl (.int, n, .inl g))) (hτ : τ ≠ 0) (e : y = nI i) (hi : i < n) (hn : n < 2 ^ 31) (hp : ∀ M1, M1 = wIns M a (.inl (.int, n, .inl (upd g i x))) → Mv [τ] M ow M1 ow → Cl G M1 ow τ a (.inl (.int, n, .inl (upd g i x))) → κ M1) : oIast G M a y x κ :=
  oIast.e e h.1 (h.2.2 hτ) hi hn (hp _ rfl (Mv.wr (t0 hτ) (by rw [h.2.1]; exact List.mem_singleton_self _) h.1 _ (fun _ _ e => by cases e)) (h.wr _))
theorem oBast.m {G : wG} {M : wM} {ow : Nat → Nat} {τ a n i : Nat} {y x : Int32} {g : Nat → Int32} {κ : wM → Prop} (h : Cl G M ow τ a (.inl (.byte, n, .inl g))) (hτ : τ ≠ 0) (e : y = nI i) (hi : i < n) (hn : n < 2 ^ 31) (hp : ∀ M1, M1 = wIns M a (.inl (.byte, n, .inl (upd g i x.toInt8.toInt32))) → Mv [τ] M ow M1 ow → Cl G M1 ow τ a (.inl (.byte, n, .inl (upd g i x.toInt8.toInt32))) → κ M1) : oBast G M a y x κ :=
  oBast.e e h.1 (h.2.2 hτ) hi hn (hp _ rfl (Mv.wr (t0 hτ) (by rw [h.2.1]; exact List.mem_singleton_self _) h.1 _ (fun _ _ e => by cases e)) (h.wr _))
theorem oLast.m {G : wG} {M : wM} {ow : Nat → Nat} {τ a n i : Nat} {y : Int32} {x : Int64} {g : Nat → Int64} {κ : wM → Prop} (h : Cl G M ow τ a (.inl (.long, n, .inr (.inl g)))) (hτ : τ ≠ 0) (e : y = nI i) (hi : i < n) (hn : n < 2 ^ 31) (hp : ∀ M1, M1 = wIns M a (.inl (.long, n, .inr (.inl (vp_updL g i x)))) → Mv [τ] M ow M1 ow → Cl G M1 ow τ a (.inl (.long, n, .inr (.inl (vp_updL g i x)))) → κ M1) : oLast G M a y x κ :=
  oLast.e e h.1 (h.2.2 hτ) hi hn (hp _ rfl (Mv.wr (t0 hτ) (by rw [h.2.1]; exact List.mem_singleton_self _) h.1 _ (fun _ _ e => by cases e)) (h.wr _))
theorem oNew.m {G : wG} {M : wM} {ow : Nat → Nat} {b ci : Nat} {fs : List Value} {κ : Nat → wM → Nat → Prop} (τ : Nat) (hb : fs.length + 1 ≤ b) (hp : ∀ q M1, M q = none → wz G ≤ q → M1 = wIns M q (.inr (ci, fs)) → Mv [] M ow M1 (va_up ow q τ) → Cl G M1 (va_up ow q τ) τ q (.inr (ci, fs)) → κ q M1 (b - (fs.length + 1))) : oNew G M b ci fs κ :=
  ⟨hb, fun q hq hz => hp q _ hq hz rfl (Mv.nw (by decide) hq _ _) (Cl.nw M ow hz _ _)⟩
theorem oNewa.m {G : wG} {M : wM} {ow : Nat → Nat} {b n : Nat} {ty : FieldType} {x} {y : Int32} {κ : Nat → wM → Nat → Prop} (τ : Nat) (e : y = nI n) (hn : n ≤ 1000000) (hb : n + 1 ≤ b) (hp : ∀ q M1, M q = none → wz G ≤ q → M1 = wIns M q (.inl (ty, n, x)) → Mv [] M ow M1 (va_up ow q τ) → Cl G M1 (va_up ow q τ) τ q (.inl (ty, n, x)) → κ q M1 (b - (n + 1))) : oNewa G M b ty x y κ := by
  subst e
  refine ⟨nI_pos (by omega), ?_, ?_, fun q hq hz => ?_⟩
  · rw [nI_clamp (by omega)]; exact hb
  · rw [nI_clamp (by omega)]; exact hn
  · rw [nI_clamp (by omega)]
    exact hp q _ hq hz rfl (Mv.nw (by decide) hq _ _) (Cl.nw M ow hz _ _)
abbrev oarr (cap : Nat) (r : Nat → Option Nat) : wE := .inl (.object "java/lang/Object", cap, .inr (.inr (.inr (.inr r))))
abbrev obO : FieldType := .object "java/lang/Object"
abbrev alC (mc : Int32) (e n : Nat) : wE := .inr (16, [.int mc, .ref e, .int (nI n)])
/-- an ArrayList of n objects g; its array e of cap places -/
def AL (G : wG) (M : wM) (ow : Nat → Nat) (τ a n : Nat) (g : Nat → Nat) (mc : Int32) : Prop := n ≤ 400 ∧ (∀ k, k < n → Ob M (g k)) ∧ ∃ (e cap : Nat) (r : Nat → Option Nat), Cl G M ow τ a (alC mc e n) ∧ n ≤ cap ∧ cap ≤ 2 * n + 16 ∧ (∀ k, k < n → r k = some (g k)) ∧ (∀ k, n ≤ k → r k = none) ∧
  ((cap = 0 ∧ Cl G M ow 0 e (oarr 0 r) ∧ (e = G.2.2.2 1 ∨ e = G.2.2.2 0)) ∨ (0 < cap ∧ Cl G M ow τ e (oarr cap r)))
section JDK1
variable {G : wG} {M : wM} {ow : Nat → Nat} {τ a n : Nat} {g : Nat → Nat} {mc : Int32}
theorem AL.stp {M1 : wM} {ow1 : Nat → Nat} {T : List Nat} (h : AL G M ow τ a n g mc) (hs : Mv T M ow M1 ow1) (hn : τ ∉ T) : AL G M1 ow1 τ a n g mc := by
  obtain ⟨h1, h9, e, cap, r, h2, h3, h4, h5, h8, h6⟩ := h
  refine ⟨h1, fun k hk => (h9 k hk).stp hs, e, cap, r, h2.stp hs hn, h3, h4, h5, h8, ?_⟩
  rcases h6 with ⟨h6, h7, h8⟩ | ⟨h6, h7⟩
  · exact .inl ⟨h6, h7.stp hs hs.1, h8⟩
  · exact .inr ⟨h6, h7.stp hs hn⟩
theorem AL.o (h : AL G M ow τ a n g mc) : ∃ e, M a = some (alC mc e n) := by obtain ⟨h1, h9, e, cap, r, h2, -⟩ := h; exact ⟨e, h2.1⟩
theorem AL.is (h : AL G M ow τ a n g mc) {P : Prop} (hp : P) : oIs M a 16 P := by obtain ⟨e, he⟩ := h.o; exact oIs.i he hp
theorem S_size (h : AL G M ow τ a n g mc) {Q : Int32 → wM → Prop} (hQ : Q (nI n) M) : P_J2_size G a M Q := by obtain ⟨e, he⟩ := h.o; exact oGetI.i he rfl hQ
theorem S_ckI {k n : Nat} (hk : k < n) (hn : n < 2 ^ 31) {Q : Int32 → wM → Prop} (hQ : Q (nI k) M) : P_J11_checkIndex G (nI k) (nI n) M Q :=
  oIf.n (nI_pos (by omega)) (oIf.y (nI_lt hk hn) hQ)
theorem AL.arr (h : AL G M ow τ a n g mc) : ∃ e cap r, M a = some (alC mc e n) ∧ M e = some (oarr cap r) ∧ n ≤ cap ∧ cap ≤ 2 * n + 16 ∧ n ≤ 400 ∧ (∀ k, k < n → r k = some (g k)) ∧ (∀ k y, r k = some y → Ob M y) ∧ ∀ k, n ≤ k → r k = none := by
  obtain ⟨h1, h9, e, cap, r, h2, h3, h4, h5, h8, h6⟩ := h
  have ho : ∀ k y, r k = some y → Ob M y := fun k y hy => by
    by_cases c : k < n
    · rw [h5 k c] at hy; cases hy; exact h9 k c
    · rw [h8 k (by omega)] at hy; cases hy
  rcases h6 with ⟨h6, h7, -⟩ | ⟨h6, h7⟩
  · subst h6; exact ⟨e, 0, r, h2.1, h7.1, h3, h4, h1, h5, ho, h8⟩
  · exact ⟨e, cap, r, h2.1, h7.1, h3, h4, h1, h5, ho, h8⟩
theorem S_get (h : AL G M ow τ a n g mc) {k : Nat} (hk : k < n) {Q : Option Nat → wM → Prop} (hQ : Q (some (g k)) M) : P_J2_get G a (nI k) M Q := by
  obtain ⟨e, cap, r, h1, h2, h3, h4, h5, h6, -⟩ := h.arr
  refine oGetI.i h1 rfl (S_ckI hk (by omega) (oIs.i h1 (oGetA.i h1 rfl (oAald.e rfl h2 (by omega) (by omega) ?_))))
  rw [h6 k hk]; exact hQ
theorem S_isEmpty (h : AL G M ow τ a n g mc) {Q : Bool → wM → Prop} (hQ : Q (decide (n = 0)) M) : P_J2_isEmpty G a M Q := by
  obtain ⟨e, he⟩ := h.o
  refine oGetI.i he rfl ?_
  by_cases c : n = 0
  · subst c; exact oIf.y rfl ⟨true, rfl, hQ⟩
  · rw [decide_eq_false c] at hQ
    exact oIf.n (nI_ne0 (by omega) (by have := h.1; omega)) ⟨false, rfl, hQ⟩
/-- a new list -/
theorem S_alinit {q : Nat} (hq : M q = none) (hz : wz G ≤ q) (hc : Cl G M ow 0 (G.2.2.2 1) (oarr 0 (fun _ => none))) (τ : Nat) (fs : List Value) (hfs : fs = [.int 0, .null, .int 0]) {Q : wM → Prop} (hQ : ∀ M1, M1 = wIns M q (alC 0 (G.2.2.2 1) 0) → Mv [] M ow M1 (va_up ow q τ) → AL G M1 (va_up ow q τ) τ q 0 g 0 → Q M1) : P_J2_init G q (wIns M q (.inr (16, fs))) Q := by
  subst hfs
  refine oPut.i (wIns_eq _ _ _) (by decide : 0 < 3) hz ?_
  rw [wIns_wIns]
  refine oPut.i (wIns_eq _ _ _) (by decide : 1 < 3) hz ?_
  rw [wIns_wIns]
  have hs : Mv [] M ow (wIns M q (alC 0 (G.2.2.2 1) 0)) (va_up ow q τ) := Mv.nw (by decide) hq _ _
  exact hQ _ rfl hs ⟨by omega, fun k hk => by omega, _, 0, _, Cl.nw M ow hz _ τ, Nat.le_refl _, by omega, fun k hk => by omega, fun _ _ => rfl, .inl ⟨rfl, hc.stp hs (by decide), .inl rfl⟩⟩
theorem oObO {x : Nat} (hx : Ob M x) : oObj M obO (some x) := fun v e => by cases e; exact .inl ⟨rfl, hx⟩
/-- a copy of an array of references -/
theorem S_copyOf {p1 k b cap : Nat} {r : Nat → Option Nat} (h : M p1 = some (oarr cap r)) (hc : cap < 2 ^ 31) (ho : ∀ k y, r k = some y → Ob M y) (hk : k ≤ 1000000) (hb : k + 1 ≤ b) (σ : Nat) {Q : Option Nat → wM → Prop} (hQ : ∀ q M1 r1, M q = none → M1 = wIns M q (oarr k r1) → Mv [] M ow M1 (va_up ow q σ) → Cl G M1 (va_up ow q σ) σ q (oarr k r1) → (∀ j, r1 j = if j < k ∧ j < cap then r j else none) → Q (some q) M1) : P_J5_copyOf G p1 (nI k) b M Q := by
  refine ⟨⟨_, h⟩, b, Nat.le_refl _, oIf.y rfl (oNewa.m (ow := ow) σ rfl hk hb fun q M1 hq hz e hs hC => ?_)⟩
  unfold B_J5_copyOf_2_24
  have hp : M1 p1 = some (oarr cap r) := hs.at0 h
  have ek : (if nI k < nI cap then nI k else nI cap) = nI (if k < cap then k else cap) := by
    by_cases c : k < cap
    · rw [if_pos c, if_pos (nI_lt c hc)]
    · rw [if_neg c, if_neg (nI_nlt (by omega) (by omega))]
  refine oAlen.i hp ?_
  rw [ek]
  have hmin : (if k < cap then k else cap) ≤ k ∧ (if k < cap then k else cap) ≤ cap ∧ ∀ j, (j < (if k < cap then k else cap) ↔ j < k ∧ j < cap) := by
    split
    · exact ⟨by omega, by omega, fun j => by omega⟩
    · exact ⟨by omega, by omega, fun j => by omega⟩
  generalize (if k < cap then k else cap) = m at hmin ⊢
  obtain ⟨m1, m2, m3⟩ := hmin
  have h0 : (0 : Int32).toNatClampNeg = 0 := rfl
  refine ⟨cap, r, k, fun _ => none, hp, hC.1, hz, by decide, by decide, nI_pos (by omega), ?_, ?_, ?_, ?_⟩
  · rw [nI_clamp (by omega), h0]; omega
  · rw [nI_clamp (by omega), h0]; omega
  · intro j _ y hy
    exact (ho _ _ hy).stp hs
  · rw [nI_clamp (by omega), h0]
    subst e
    rw [wIns_wIns]
    refine hQ q _ _ hq rfl (Mv.nw (by decide) hq _ _) (Cl.nw M ow hz _ σ) fun j => ?_
    unfold va_cpy
    by_cases c : j < m
    · rw [if_pos (by omega), if_pos ((m3 j).mp c)]; congr 1; omega
    · rw [if_neg (by omega), if_neg (fun x => c ((m3 j).mpr x))]
theorem nI_half {x : Nat} (hx : x < 2 ^ 31) : nI x >>> ((1 : Int32) &&& 31) = nI (x / 2) := pk_shrN hx _ 1 (by decide +kernel)
/-- the new capacity of a list that is full -/
theorem S_newLength {c d : Nat} (hc : c ≤ 100000) (hd : 0 < d) (hd2 : d ≤ 100000) {Q : Int32 → wM → Prop} (hQ : Q (nI (c + (if d < c / 2 then c / 2 else d))) M) : P_J3_newLength G (nI c) (nI d) (nI (c / 2)) M Q := by
  have e : nI c + (if nI d < nI (c / 2) then nI (c / 2) else nI d) = nI (c + (if d < c / 2 then c / 2 else d)) := by
    by_cases h : d < c / 2
    · rw [if_pos h, if_pos (nI_lt h (by omega)), nI_add]
    · rw [if_neg h, if_neg (nI_nlt (by omega) (by omega)), nI_add]
  unfold P_J3_newLength
  rw [e]
  have hb : 0 < c + (if d < c / 2 then c / 2 else d) ∧ c + (if d < c / 2 then c / 2 else d) ≤ 200000 := by split <;> omega
  refine oIf.n (nI_nle hb.1 (by omega)) (oIf.n ?_ hQ)
  exact nI_nlt (b := c + (if d < c / 2 then c / 2 else d)) (a := 2147483639) (by omega) (by decide)
/-- a list grows: the new array -/
theorem S_grow_2 (h : AL G M ow τ a n g mc) (hτ : τ ≠ 0) {d b : Nat} (hd : 0 < d) (hd2 : d ≤ 400) (hfull : ∀ e cap, M a = some (alC mc e n) → (∃ r, M e = some (oarr cap r)) → cap < n + d) (hb : 2 * n + d + 40 ≤ b) {Q : Option Nat → wM → Prop}
    (hQ : ∀ q M1 ow1 cap r, Mv [τ] M ow M1 ow1 → Cl G M1 ow1 τ a (alC mc q n) → Cl G M1 ow1 τ q (oarr cap r) → n + d ≤ cap → cap ≤ 2 * (n + d) + 16 → (∀ k, k < n → r k = some (g k)) → (∀ k, n ≤ k → r k = none) → Q (some q) M1) : P_J2_grow_2 G a (nI (n + d)) b M Q := by
  obtain ⟨e, cap, r, i1, i2, i3, i4, i5, i6, i7, i8⟩ := h.arr
  have hfull := hfull e cap i1 ⟨r, i2⟩
  obtain ⟨-, -, e', cap', r', h2, -⟩ := h
  have hee : e' = e := by have := h2.1; rw [i1] at this; simpa using this.symm
  subst hee
  have k20 : ∀ b, n + d + cap / 2 + 2 ≤ b → B_J2_grow_2_20 G Q a (nI (n + d)) (nI cap) M b := by
    intro b hb
    unfold B_J2_grow_2_20
    rw [nI_sub (by omega), nI_half (by omega)]
    refine S_newLength (by omega) (by omega) (by omega) (oGetA.i i1 rfl ⟨b, Nat.le_refl _, ?_⟩)
    have hm : n + d ≤ cap + (if n + d - cap < cap / 2 then cap / 2 else n + d - cap) ∧ cap + (if n + d - cap < cap / 2 then cap / 2 else n + d - cap) ≤ n + d + cap / 2 := by split <;> omega
    generalize cap + (if n + d - cap < cap / 2 then cap / 2 else n + d - cap) = m at hm ⊢
    refine S_copyOf (ow := ow) i2 (by omega) i7 (by omega) (by omega) τ fun q M1 r1 hq e1 hs hC hr => ?_
    have hA := h2.stp hs (by simp)
    refine oPut.m hA hτ (Nat.le_of_ble_eq_true rfl) (fs1 := [.int mc, .ref q, .int (nI n)]) rfl fun M2 e2 hs2 hA2 => ?_
    refine hQ q M2 _ m r1 ((hs.mono (by simp) (t0 hτ)).tr hs2) hA2 ?_ hm.1 (by omega) (fun k hk => ?_) (fun k hk => ?_)
    · rw [e2]; exact hC.off (fun x => by rw [x] at hC; have := hC.1; rw [hA.1] at this; cases this) _
    · rw [hr, if_pos (by omega)]; exact i6 k hk
    · rw [hr]; split
      · exact i8 k hk
      · rfl
  unfold P_J2_grow_2
  refine oGetA.i i1 rfl (oAlen.i i2 ?_)
  by_cases c : 0 < cap
  · exact oIf.y (nI_lt c (by omega)) (k20 b (by omega))
  · refine oIf.n (show ¬ nI 0 < nI cap from nI_nlt (by omega) (by omega)) (oGetA.i i1 rfl (oIf.c (fun c2 => ?_) (fun _ => k20 b (by omega))))
    have en : n = 0 := by omega
    have em : (if (10 : Int32) < nI (n + d) then nI (n + d) else (10 : Int32)) = nI (if 10 < n + d then n + d else 10) := by
      by_cases h : 10 < n + d
      · rw [if_pos h, if_pos (show (10 : Int32) < nI (n + d) from nI_lt (a := 10) h (by omega))]
      · rw [if_neg h, if_neg (show ¬ (10 : Int32) < nI (n + d) from nI_nlt (b := n + d) (a := 10) (by omega) (by decide))]; rfl
    rw [em]
    have hm : n + d ≤ (if 10 < n + d then n + d else 10) ∧ (if 10 < n + d then n + d else 10) ≤ n + d + 10 := by split <;> omega
    generalize (if 10 < n + d then n + d else 10) = m at hm ⊢
    refine oNewa.m (ow := ow) τ rfl (by omega) (by omega) fun q M1 hq hz e1 hs hC => ?_
    have hA := h2.stp hs (by simp)
    refine oPut.m hA hτ (Nat.le_of_ble_eq_true rfl) (fs1 := [.int mc, .ref q, .int (nI n)]) rfl fun M2 e2 hs2 hA2 => ?_
    refine hQ q M2 _ m (fun _ => none) ((hs.mono (by simp) (t0 hτ)).tr hs2) hA2 ?_ hm.1 (by omega) (fun k hk => by omega) (fun k hk => rfl)
    rw [e2]; exact hC.off (fun x => by rw [x] at hC; have := hC.1; rw [hA.1] at this; cases this) _
/-- what an ArrayList does -/
theorem S_add (h : AL G M ow τ a n g mc) (hτ : τ ≠ 0) {x b : Nat} (hn : n < 400) (hb : 2 * n + 60 ≤ b) (hx : Ob M x) {Q : Bool → wM → Prop} (hQ : ∀ M1 ow1, Mv [τ] M ow M1 ow1 → AL G M1 ow1 τ a (n + 1) (va_up g n x) (mc + 1) → Q true M1) : P_J2_add G a (some x) b M Q := by
  have fin : ∀ {M2 : wM} {ow2 : Nat → Nat} {e cap : Nat} {r : Nat → Option Nat} (b : Nat), Mv [τ] M ow M2 ow2 → Cl G M2 ow2 τ a (alC (mc + 1) e n) → Cl G M2 ow2 τ e (oarr cap r) → n < cap → cap ≤ 2 * (n + 1) + 16 → (∀ k, k < n → r k = some (g k)) → (∀ k, n ≤ k → r k = none) → B_J2_add_2_11 G (fun M5 => Q true M5) a (some x) (some e) (nI n) M2 b := by
    intro M2 ow2 e cap r b hs hA hE h1 h2 h3 h4
    have hne : a ≠ e := hA.ne hE (by simp)
    refine oRef.s (oAast.m hE hτ rfl h1 (by omega) (oObO (hx.stp hs)) fun M3 e3 hs3 hE3 => ?_)
    have hA3 : Cl G M3 ow2 τ a (alC (mc + 1) e n) := by rw [e3]; exact hA.off hne _
    refine oPut.m hA3 hτ (Nat.le_of_ble_eq_true rfl) (fs1 := [.int (mc + 1), .ref e, .int (nI (n + 1))]) (by rw [nI_1]; rfl) fun M4 e4 hs4 hA4 => ?_
    have hE4 : Cl G M4 ow2 τ e (oarr cap (va_up r n (some x))) := by rw [e4]; exact hE3.off (fun y => hne y.symm) _
    have hst := (hs.tr hs3).tr hs4
    refine hQ M4 ow2 hst ⟨by omega, fun k hk => ?_, e, cap, _, hA4, by omega, by omega, fun k hk => ?_, fun k hk => ?_, .inr ⟨by omega, hE4⟩⟩
    · by_cases c : k = n
      · subst c; rw [va_up_self]; exact hx.stp hst
      · rw [va_up_ne g x c]; exact (h.2.1 k (by omega)).stp hst
    · by_cases c : k = n
      · subst c; rw [va_up_self, va_up_self]
      · rw [va_up_ne g x c, va_up_ne r _ c]; exact h3 k (by omega)
    · rw [va_up_ne r _ (by omega)]; exact h4 k (by omega)
  obtain ⟨e, cap, r, i1, i2, i3, i4, i5, i6, i7, i8⟩ := h.arr
  have h' := h
  obtain ⟨h1, h9, e', cap', r', h2, h3, h4, h5, h8, h6⟩ := h
  have hee : e' = e := by have := h2.1; rw [i1] at this; simpa using this.symm
  subst hee
  have hne : e' ≠ a := fun y => by rw [y, i1] at i2; cases i2
  refine oGetI.i h2.1 rfl (oPut.m h2 hτ (Nat.le_of_ble_eq_true rfl) (fs1 := [.int (mc + 1), .ref e', .int (nI n)]) rfl fun M1 e1 hs1 hA1 => ?_)
  have i2' : M1 e' = some (oarr cap r) := by rw [e1, wIns_ne _ _ hne]; exact i2
  refine oGetA.i hA1.1 rfl (oGetI.i hA1.1 rfl (oIs.i hA1.1 ⟨b, Nat.le_refl _, oAlen.i i2' (oIf.c (fun c => ?_) (fun c => ?_))⟩))
  · have ec : n = cap := nI_inj (by omega) (by omega) c
    have hal : AL G M1 ow τ a n g (mc + 1) := by
      refine ⟨h1, fun k hk => (h9 k hk).stp hs1, e', cap', r', hA1, h3, h4, h5, h8, ?_⟩
      rcases h6 with ⟨j1, j2, j3⟩ | ⟨j1, j2⟩
      · exact .inl ⟨j1, j2.stp hs1 hs1.1, j3⟩
      · exact .inr ⟨j1, by rw [e1]; exact j2.off hne _⟩
    refine oIs.i hA1.1 ⟨b, Nat.le_refl _, oGetI.i hA1.1 rfl (oIs.i hA1.1 ⟨b, Nat.le_refl _, ?_⟩)⟩
    rw [nI_1]
    refine S_grow_2 hal hτ (by decide) (by omega) (fun e2 c2 x1 x2 => ?_) (by omega) fun q M2 ow2 cap2 r2 hs2 hA2 hE2 k1 k2 k3 k4 => ?_
    · have : e2 = e' := by rw [hA1.1] at x1; simpa using x1.symm
      subst this
      obtain ⟨r3, x2⟩ := x2
      rw [i2'] at x2
      have : cap = c2 := by simpa using congrArg (fun z => match z with | some (.inl (_, n, _)) => n | _ => 0) x2
      omega
    · exact fin _ (hs1.tr hs2) hA2 hE2 (by omega) (by omega) k3 k4
  · have hlt : n < cap := by
      rcases Nat.lt_or_ge n cap with y | y
      · exact y
      · exact absurd (congrArg nI (show n = cap by omega)) c
    rcases h6 with ⟨j1, j2, j3⟩ | ⟨j1, j2⟩
    · exfalso
      have hcc : cap = 0 := by have := j2.1; rw [i2] at this; simp at this; omega
      omega
    · have hcc : cap' = cap ∧ r' = r := by have := j2.1; rw [i2] at this; simpa using Eq.symm this
      obtain ⟨rfl, rfl⟩ := hcc
      exact fin _ hs1 hA1 (by rw [e1]; exact j2.off hne _) hlt (by omega) i6 i8
theorem S_set (h : AL G M ow τ a n g mc) (hτ : τ ≠ 0) {x k : Nat} (hk : k < n) (hx : Ob M x) {Q : Option Nat → wM → Prop} (hQ : ∀ M1, Mv [τ] M ow M1 ow → AL G M1 ow τ a n (va_up g k x) mc → Q (some (g k)) M1) : P_J2_set G a (nI k) (some x) M Q := by
  obtain ⟨h1, h9, e, cap, r, h2, h3, h4, h5, h8, h6⟩ := h
  rcases h6 with ⟨j1, j2, j3⟩ | ⟨j1, j2⟩
  · exfalso; omega
  have hne : a ≠ e := h2.ne j2 (by simp)
  refine oGetI.i h2.1 rfl (S_ckI hk (by omega) (oIs.i h2.1 (oGetA.i h2.1 rfl (oAald.e rfl j2.1 (by omega) (by omega) (oGetA.i h2.1 rfl ?_)))))
  rw [h5 k hk]
  refine oAast.m j2 hτ rfl (by omega) (by omega) (oObO hx) fun M1 e1 hs hE => hQ M1 hs ?_
  refine ⟨h1, fun i hi => ?_, e, cap, _, by rw [e1]; exact h2.off hne _, h3, h4, fun i hi => ?_, fun i hi => ?_, .inr ⟨j1, hE⟩⟩
  · by_cases c : i = k
    · subst c; rw [va_up_self]; exact hx.stp hs
    · rw [va_up_ne g x c]; exact (h9 i hi).stp hs
  · by_cases c : i = k
    · subst c; rw [va_up_self, va_up_self]
    · rw [va_up_ne g x c, va_up_ne r _ c]; exact h5 i hi
  · rw [va_up_ne r _ (by omega)]; exact h8 i hi
/-- the iterator of an ArrayList, ahead of place k -/
def aiC (a k : Nat) (lr mc : Int32) : wE := .inr (20, [.int (nI k), .int lr, .int mc, .ref a])
theorem S_aliter (h : AL G M ow τ a n g mc) {b : Nat} (hb : 5 ≤ b) (σ : Nat) {Q : Option Nat → wM → Prop} (hQ : ∀ q M1, M q = none → M1 = wIns M q (aiC a 0 (-1) mc) → Mv [] M ow M1 (va_up ow q σ) → Cl G M1 (va_up ow q σ) σ q (aiC a 0 (-1) mc) → Q (some q) M1) : P_J2_iterator G a b M Q := by
  obtain ⟨e, he⟩ := h.o
  refine oNew.m (ow := ow) 1 hb fun q M1 hq hz e1 hs hC => ?_
  refine oPut.m hC (by decide) (Nat.le_of_ble_eq_true rfl) (fs1 := [.int 0, .int 0, .int 0, .ref a]) rfl fun M2 e2 hs2 hC2 => ?_
  refine oPut.m hC2 (by decide) (Nat.le_of_ble_eq_true rfl) (fs1 := [.int 0, .int (-1), .int 0, .ref a]) rfl fun M3 e3 hs3 hC3 => ?_
  have hqa : a ≠ q := fun x => by rw [x, hq] at he; cases he
  refine oGetA.i hC3.1 rfl (oGetI.i (fs := [.int mc, .ref e, .int (nI n)]) ?_ rfl ?_)
  · rw [e3, e2, e1, wIns_wIns, wIns_wIns, wIns_ne _ _ hqa]; exact he
  refine oPut.m hC3 (by decide) (Nat.le_of_ble_eq_true rfl) (fs1 := [.int 0, .int (-1), .int mc, .ref a]) rfl fun M4 e4 hs4 hC4 => ?_
  have e5 : M4 = wIns M q (aiC a 0 (-1) mc) := by rw [e4, e3, e2, e1, wIns_wIns, wIns_wIns, wIns_wIns]; rfl
  refine hQ q M4 hq e5 ?_ ?_
  · rw [e5]; exact Mv.nw (by decide) hq _ _
  · rw [e5]; exact Cl.nw M ow hz _ _
theorem S_aihas (h : AL G M ow τ a n g mc) {k q : Nat} {lr : Int32} (hk : k ≤ n) (hi : M q = some (aiC a k lr mc)) {Q : Bool → wM → Prop} (hQ : Q (decide (k < n)) M) : P_J32_hasNext G q M Q := by
  obtain ⟨e, he⟩ := h.o
  have hn := h.1
  refine oGetI.i hi rfl (oGetA.i hi rfl (oGetI.i he rfl ?_))
  by_cases c : k < n
  · rw [decide_eq_true c] at hQ
    exact oIf.n (fun x => by have := nI_inj (by omega) (by omega) x; omega) ⟨true, rfl, hQ⟩
  · rw [decide_eq_false c] at hQ
    rw [show k = n by omega]
    exact oIf.y rfl ⟨false, rfl, hQ⟩
theorem S_ainext (h : AL G M ow τ a n g mc) {σ k q : Nat} {lr : Int32} (hk : k < n) (hi : Cl G M ow σ q (aiC a k lr mc)) (hσ : σ ≠ 0) {Q : Option Nat → wM → Prop} (hQ : ∀ M1, M1 = wIns M q (aiC a (k + 1) (nI k) mc) → Mv [σ] M ow M1 ow → Cl G M1 ow σ q (aiC a (k + 1) (nI k) mc) → Q (some (g k)) M1) : P_J32_next G q M Q := by
  obtain ⟨e, cap, r, i1, i2, i3, i4, i5, i6, i7, i8⟩ := h.arr
  have hne : e ≠ q := fun x => by have := hi.1; rw [← x, i2] at this; cases this
  refine oIs.i hi.1 (oGetA.i hi.1 rfl (oGetI.i i1 rfl (oGetI.i hi.1 rfl (oIf.y rfl (oGetI.i hi.1 rfl (oGetA.i hi.1 rfl (oGetI.i i1 rfl (oIf.y (nI_lt hk (by omega)) (oGetA.i hi.1 rfl (oGetA.i i1 rfl (oAlen.i i2 (oIf.y (nI_lt (by omega) (by omega)) ?_))))))))))))
  refine oPut.m hi hσ (Nat.le_of_ble_eq_true rfl) (fs1 := [.int (nI (k + 1)), .int lr, .int mc, .ref a]) (by rw [nI_1]; rfl) fun M1 e1 hs1 hC1 => ?_
  refine oPut.m hC1 hσ (Nat.le_of_ble_eq_true rfl) (fs1 := [.int (nI (k + 1)), .int (nI k), .int mc, .ref a]) rfl fun M2 e2 hs2 hC2 => ?_
  have i2' : M2 e = some (oarr cap r) := by rw [e2, e1, wIns_wIns, wIns_ne _ _ hne]; exact i2
  refine oAald.e rfl i2' (by omega) (by omega) ?_
  rw [i6 k hk]
  exact hQ M2 (by rw [e2, e1, wIns_wIns]; rfl) (hs1.tr hs2) hC2
end JDK1
