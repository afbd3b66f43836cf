set_option maxRecDepth 100000
/-! STAGE 2, component: the books in the heap -/
abbrev PmC (S N : Rw) (p : Nat) : wE := .inr (9, [.int (pP N p 0), .int (pP N p 1), .int (zP S N p), .int (pP N p 3), .int (pP N p 2), .int (pP N p 4), .int (pP N p 5), .int (pP N p 6)])
abbrev VsC (N : Rw) (v : Nat) : wE := .inr (10, [.int (vP N v 0), .int (vP N v 1), .int (vP N v 2), .int (vP N v 3)])
abbrev CrC (N : Rw) (c : Nat) : wE := .inr (14, [.int (cP N c 0), .int (cP N c 1), .int (cP N c 2)])
abbrev FnC (S N : Rw) (f : Nat) : wE := .inr (15, [.int (fP N f 0), .int (fP N f 1), .int (fP N f 2), .int (fP N f 3), .int (amt S (fP N f 3)), .int (fP N f 4)])
abbrev ZnC (S : Rw) (z : Nat) : wE := .inr (6, [.int (S (3 + z)), .int (S (9 + z)), .int (S (15 + z)), .int (S (21 + z))])
abbrev StC (S : Rw) (s : Nat) : wE := .inr (7, [.int (S (27 + s)), .int (S (39 + s)), .int (S (51 + s))])
abbrev HsC (S : Rw) (h : Nat) : wE := .inr (8, [.int (S (63 + h)), .int (S (79 + h)), .int (S (95 + h))])
abbrev suC (S : Rw) (y : Nat → Nat → Nat) : wE := .inr (2, [.ref (y 9 0), .ref (y 9 1), .ref (y 9 2), .ref (y 9 3), .ref (y 9 4), .int (S 111), .int (S 112), .int (S 113)])
abbrev bkC (N : Rw) (y : Nat → Nat → Nat) : wE := .inr (1, [.ref (y 0 0), .ref (y 0 1), .ref (y 0 2), .ref (y 0 3), .ref (y 0 4), .ref (y 0 5), .ref (y 0 6), .ref (y 0 7), .int (N 0)])
def nmC (S : Rw) (c : Nat) : Nat := if c = 0 then nz S else if c = 1 then ns S else nh S
/-- the setup in the heap; y 6, 7, 8: zones, streets, houses; y 9: its fields -/
def SR (G : wG) (l : Nat → Nat → Int64) (M : wM) (ow : Nat → Nat) (σ a : Nat) (y : Nat → Nat → Nat) (S : Rw) : Prop :=
  Cl G M ow σ a (suC S y) ∧
  (ALe G M ow σ (y 9 0) (nz S) (y 6) ∧ ∀ z, z < nz S → Cl G M ow σ (y 6 z) (ZnC S z)) ∧
  (ALe G M ow σ (y 9 1) (ns S) (y 7) ∧ ∀ s, s < ns S → Cl G M ow σ (y 7 s) (StC S s)) ∧
  (ALe G M ow σ (y 9 2) (nh S) (y 8) ∧ ∀ h, h < nh S → Cl G M ow σ (y 8 h) (HsC S h)) ∧
  (∃ r, Cl G M ow σ (y 9 4) (.inl (.int, 7, .inl r)) ∧ r 0 = 0 ∧ ∀ k, 1 ≤ k → k ≤ 6 → r k = S (113 + k)) ∧
  NM G M ow σ (y 9 3) (nmC S) (fun c => l (10 + c))
/-- the books in the heap: y 0: the fields; y 1: permits; y 2: visits; y 3, 4: nodes, cars; y 5: fines; τ: the owners of the parts, τ 10 the setup's -/
def BR (G : wG) (l : Nat → Nat → Int64) (M : wM) (ow : Nat → Nat) (τ : Nat → Nat) (a : Nat) (y : Nat → Nat → Nat) (S N : Rw) : Prop :=
  Cl G M ow (τ 0) a (bkC N y) ∧ SR G l M ow (τ 10) (y 0 0) y S ∧
  ((ALe G M ow (τ 1) (y 0 1) (np N) (y 1) ∧ ∀ p, p < np N → Cl G M ow (τ 2) (y 1 p) (PmC S N p)) ∧ ∀ p q, p < np N → q < np N → y 1 p = y 1 q → p = q) ∧
  ((ALe G M ow (τ 3) (y 0 2) (nv N) (y 2) ∧ ∀ v, v < nv N → Cl G M ow (τ 4) (y 2 v) (VsC N v)) ∧ ∀ p q, p < nv N → q < nv N → y 2 p = y 2 q → p = q) ∧
  (LLe G M ow (τ 5) (y 0 3) (nc N) (y 3) (y 4) ∧ ∀ c, c < nc N → Cl G M ow 0 (y 4 c) (CrC N c)) ∧
  (ALe G M ow (τ 6) (y 0 4) (nf N) (y 5) ∧ ∀ f, f < nf N → Cl G M ow 0 (y 5 f) (FnC S N f)) ∧
  (∃ w, BS G M ow (τ 7) (y 0 5) w ∧ ∀ s, s < 12 → (bitG w s = true ↔ N (11 + s) = 1)) ∧
  (∃ r, Cl G M ow (τ 8) (y 0 6) (.inl (.int, 6, .inl r)) ∧ ∀ z, z < nz S → r z = N (5 + z)) ∧
  ∃ r, Cl G M ow (τ 9) (y 0 7) (.inl (.int, 16, .inl r)) ∧ ∀ h, h < nh S → r h = N (23 + h)
theorem SR.stp {G : wG} {l : Nat → Nat → Int64} {M M1 : wM} {ow ow1 : Nat → Nat} {T : List Nat} {σ a : Nat} {y : Nat → Nat → Nat} {S : Rw} (h : SR G l M ow σ a y S) (hs : Mv T M ow M1 ow1) (hn : σ ∉ T) : SR G l M1 ow1 σ a y S := by
  obtain ⟨h1, ⟨h2, h3⟩, ⟨h4, h5⟩, ⟨h6, h7⟩, ⟨r, h8, h9⟩, h10⟩ := h
  exact ⟨h1.stp hs hn, ⟨h2.stp hs hn, fun z hz => (h3 z hz).stp hs hn⟩, ⟨h4.stp hs hn, fun z hz => (h5 z hz).stp hs hn⟩, ⟨h6.stp hs hn, fun z hz => (h7 z hz).stp hs hn⟩, ⟨r, h8.stp hs hn, h9⟩, h10.stp hs hn⟩
theorem BR.stp {G : wG} {l : Nat → Nat → Int64} {M M1 : wM} {ow ow1 : Nat → Nat} {T : List Nat} {τ : Nat → Nat} {a : Nat} {y : Nat → Nat → Nat} {S N : Rw} (h : BR G l M ow τ a y S N) (hs : Mv T M ow M1 ow1) (hn : ∀ k, k ≤ 10 → τ k ∉ T) : BR G l M1 ow1 τ a y S N := by
  obtain ⟨h1, h2, ⟨⟨h3, h4⟩, h5⟩, ⟨⟨h6, h7⟩, h8⟩, ⟨h9, h10⟩, ⟨h11, h12⟩, ⟨w, h13, h14⟩, ⟨r, h15, h16⟩, r2, h17, h18⟩ := h
  have n0 := hn 0 (by decide)
  have n1 := hn 1 (by decide)
  have n2 := hn 2 (by decide)
  have n3 := hn 3 (by decide)
  have n4 := hn 4 (by decide)
  have n5 := hn 5 (by decide)
  have n6 := hn 6 (by decide)
  have n7 := hn 7 (by decide)
  have n8 := hn 8 (by decide)
  have n9 := hn 9 (by decide)
  have n10 := hn 10 (by decide)
  exact ⟨h1.stp hs n0, h2.stp hs n10, ⟨⟨h3.stp hs n1, fun p hp => (h4 p hp).stp hs n2⟩, h5⟩, ⟨⟨h6.stp hs n3, fun p hp => (h7 p hp).stp hs n4⟩, h8⟩, ⟨h9.stp hs n5, fun p hp => (h10 p hp).stp hs hs.1⟩, ⟨h11.stp hs n6, fun p hp => (h12 p hp).stp hs hs.1⟩, ⟨w, h13.stp hs n7, h14⟩, ⟨r, h15.stp hs n8, h16⟩, r2, h17.stp hs n9, h18⟩
section COMP
variable {G : wG} {l : Nat → Nat → Int64} {M : wM} {ow : Nat → Nat} {τ : Nat → Nat} {a : Nat} {y : Nat → Nat → Nat} {S N : Rw}
theorem BR.bk (h : BR G l M ow τ a y S N) : M a = some (bkC N y) := h.1.1
theorem BR.su (h : BR G l M ow τ a y S N) : M (y 0 0) = some (suC S y) := h.2.1.1.1
theorem BR.zl (h : BR G l M ow τ a y S N) : ALe G M ow (τ 10) (y 9 0) (nz S) (y 6) := h.2.1.2.1.1
theorem BR.zo (h : BR G l M ow τ a y S N) {z : Nat} (hz : z < nz S) : M (y 6 z) = some (ZnC S z) := (h.2.1.2.1.2 z hz).1
theorem BR.sl (h : BR G l M ow τ a y S N) : ALe G M ow (τ 10) (y 9 1) (ns S) (y 7) := h.2.1.2.2.1.1
theorem BR.so (h : BR G l M ow τ a y S N) {z : Nat} (hz : z < ns S) : M (y 7 z) = some (StC S z) := (h.2.1.2.2.1.2 z hz).1
theorem BR.hl (h : BR G l M ow τ a y S N) : ALe G M ow (τ 10) (y 9 2) (nh S) (y 8) := h.2.1.2.2.2.1.1
theorem BR.ho (h : BR G l M ow τ a y S N) {z : Nat} (hz : z < nh S) : M (y 8 z) = some (HsC S z) := (h.2.1.2.2.2.1.2 z hz).1
theorem BR.pl (h : BR G l M ow τ a y S N) : ALe G M ow (τ 1) (y 0 1) (np N) (y 1) := h.2.2.1.1.1
theorem BR.po (h : BR G l M ow τ a y S N) {p : Nat} (hp : p < np N) : M (y 1 p) = some (PmC S N p) := (h.2.2.1.1.2 p hp).1
theorem BR.vl (h : BR G l M ow τ a y S N) : ALe G M ow (τ 3) (y 0 2) (nv N) (y 2) := h.2.2.2.1.1.1
theorem BR.vo (h : BR G l M ow τ a y S N) {p : Nat} (hp : p < nv N) : M (y 2 p) = some (VsC N p) := (h.2.2.2.1.1.2 p hp).1
theorem BR.cl (h : BR G l M ow τ a y S N) : LLe G M ow (τ 5) (y 0 3) (nc N) (y 3) (y 4) := h.2.2.2.2.1.1
theorem BR.co (h : BR G l M ow τ a y S N) {p : Nat} (hp : p < nc N) : M (y 4 p) = some (CrC N p) := (h.2.2.2.2.1.2 p hp).1
theorem BR.fl (h : BR G l M ow τ a y S N) : ALe G M ow (τ 6) (y 0 4) (nf N) (y 5) := h.2.2.2.2.2.1.1
theorem BR.fo (h : BR G l M ow τ a y S N) {p : Nat} (hp : p < nf N) : M (y 5 p) = some (FnC S N p) := (h.2.2.2.2.2.1.2 p hp).1
theorem isA {τ a n : Nat} {g : Nat → Nat} (h : ALe G M ow τ a n g) {P : Prop} (hp : P) : oIs M a 16 P := by obtain ⟨mc, h⟩ := h; exact h.is hp
theorem isL {τ a n : Nat} {nd g : Nat → Nat} (h : LLe G M ow τ a n nd g) {P : Prop} (hp : P) : oIs M a 17 P := by obtain ⟨mc, h⟩ := h; exact h.is hp
theorem E_size {τ a n : Nat} {g : Nat → Nat} (h : ALe G M ow τ a n g) {Q : Int32 → wM → Prop} (hQ : Q (nI n) M) : P_J2_size G a M Q := by obtain ⟨mc, h⟩ := h; exact S_size h hQ
theorem E_get {τ a n : Nat} {g : Nat → Nat} (h : ALe G M ow τ a n g) {k : Nat} (hk : k < n) {Q : Option Nat → wM → Prop} (hQ : Q (some (g k)) M) : P_J2_get G a (nI k) M Q := by obtain ⟨mc, h⟩ := h; exact S_get h hk hQ
theorem E_llsize {τ a n : Nat} {nd g : Nat → Nat} (h : LLe G M ow τ a n nd g) {Q : Int32 → wM → Prop} (hQ : Q (nI n) M) : P_J8_size G a M Q := by obtain ⟨mc, h⟩ := h; exact S_llsize h hQ
end COMP
