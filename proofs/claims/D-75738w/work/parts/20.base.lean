set_option maxRecDepth 100000
/-! STAGE 2, base: steps of printed predicates; small numbers; loops -/
theorem oGetI.i {M : wM} {a ci k : Nat} {κ : Int32 → Prop} {fs : List Value} {v : Int32} (h : M a = some (.inr (ci, fs))) (e : fs[k]? = some (.int v)) (hk : κ v) : oGetI M a ci k κ := ⟨fs, v, h, e, hk⟩
theorem oGetJ.i {M : wM} {a ci k : Nat} {κ : Int64 → Prop} {fs : List Value} {v : Int64} (h : M a = some (.inr (ci, fs))) (e : fs[k]? = some (.long v)) (hk : κ v) : oGetJ M a ci k κ := ⟨fs, v, h, e, hk⟩
theorem oGetA.i {M : wM} {a ci k : Nat} {κ : Nat → Prop} {fs : List Value} {v : Nat} (h : M a = some (.inr (ci, fs))) (e : fs[k]? = some (.ref v)) (hk : κ v) : oGetA M a ci k κ := ⟨fs, v, h, e, hk⟩
theorem oGetR.i {M : wM} {a ci k : Nat} {κ : Option Nat → Prop} {fs : List Value} {v : Option Nat} (h : M a = some (.inr (ci, fs))) (e : fs[k]? = some (va_rf v)) (hk : κ v) : oGetR M a ci k κ := ⟨fs, v, h, e, hk⟩
theorem oGetR.s {M : wM} {a ci k : Nat} {κ : Option Nat → Prop} {fs : List Value} {v : Nat} (h : M a = some (.inr (ci, fs))) (e : fs[k]? = some (.ref v)) (hk : κ (some v)) : oGetR M a ci k κ := ⟨fs, some v, h, e, hk⟩
theorem oGetR.n {M : wM} {a ci k : Nat} {κ : Option Nat → Prop} {fs : List Value} (h : M a = some (.inr (ci, fs))) (e : fs[k]? = some .null) (hk : κ none) : oGetR M a ci k κ := ⟨fs, none, h, e, hk⟩
theorem oPut.i {G : wG} {M : wM} {ci k : Nat} {a : Nat} {v : Value} {κ : wM → Prop} {fs : List Value} (h : M a = some (.inr (ci, fs))) (hk : k < fs.length) (hz : wz G ≤ a) (hp : κ (wIns M a (.inr (ci, fs.set k v)))) : oPut G M a ci k v κ := ⟨fs, h, hk, hz, hp⟩
theorem oIs.i {M : wM} {a ci : Nat} {P : Prop} {fs : List Value} (h : M a = some (.inr (ci, fs))) (hk : P) : oIs M a ci P := ⟨⟨fs, h⟩, hk⟩
theorem oCast.s {M : wM} {a ci : Nat} {P : Prop} {fs : List Value} (h : M a = some (.inr (ci, fs))) (hk : P) : oCast M (some a) ci P := ⟨fun b e => by cases e; exact ⟨fs, h⟩, hk⟩
theorem oCast.n {M : wM} {ci : Nat} {P : Prop} (hk : P) : oCast M none ci P := ⟨fun b e => (by cases e), hk⟩
theorem oRef.s {a : Nat} {κ : Nat → Prop} (hk : κ a) : oRef (some a) κ := ⟨a, rfl, hk⟩
theorem oNull.s {a : Nat} {A : Prop} {B : Nat → Prop} (h : B a) : oNull (some a) A B := ⟨fun e => (by cases e), fun b e => by cases e; exact h⟩
theorem oNull.n {A : Prop} {B : Nat → Prop} (h : A) : oNull none A B := ⟨fun _ => h, fun b e => by cases e⟩
theorem oIf.y {c A B : Prop} (hc : c) (h : A) : oIf c A B := ⟨fun _ => h, fun h1 => absurd hc h1⟩
theorem oIf.n {c A B : Prop} (hc : ¬ c) (h : B) : oIf c A B := ⟨fun h1 => absurd h1 hc, fun _ => h⟩
theorem oIf.c {c A B : Prop} (h1 : c → A) (h2 : ¬ c → B) : oIf c A B := ⟨h1, h2⟩
theorem nI_mul (a b : Nat) : nI a * nI b = nI (a * b) := (Int32.ofNat_mul a b).symm
theorem nI_sub {a b : Nat} (h : b ≤ a) : nI a - nI b = nI (a - b) := by
  have : nI a = nI (a - b) + nI b := by rw [nI_add, Nat.sub_add_cancel h]
  rw [this]; exact Int32.add_sub_cancel _ _
theorem nI_inj {a b : Nat} (ha : a < 2 ^ 31) (hb : b < 2 ^ 31) (h : nI a = nI b) : a = b := by
  have := congrArg Int32.toNatClampNeg h
  rwa [nI_clamp ha, nI_clamp hb] at this
theorem nI_neg {a : Nat} (ha : a < 2 ^ 31) : nI a ≠ -1 := fun h => by
  have h1 := nI_pos ha
  rw [h] at h1
  exact h1 (by decide)
/-- a row is read: by a number; by an expression of two numbers -/
theorem oIald.e {ty : FieldType} {M : wM} {a : Nat} {x : Int32} {κ : Int32 → Prop} {n i : Nat} {f : Nat → Int32} (e : x = nI i) (h : M a = some (.inl (ty, n, .inl f))) (hi : i < n) (hn : n < 2 ^ 31) (hk : κ (f i)) : oIald ty M a x κ :=
  ⟨n, f, h, e ▸ nI_in hi hn, by rw [e, nI_clamp (by omega)]; exact hk⟩
theorem oIald.c {ty : FieldType} {M : wM} {a : Nat} {cc : Int32} {κ : Int32 → Prop} {n c z : Nat} {f : Nat → Int32} (e : cc = nI c) (h : M a = some (.inl (ty, n, .inl f))) (hi : c + z < n) (hn : n < 2 ^ 31) (hk : κ (f (c + z))) : oIald ty M a (cc + nI z) κ :=
  oIald.e (by rw [e, nI_add]) h hi hn hk
theorem oLald.e {M : wM} {a : Nat} {x : Int32} {κ : Int64 → Prop} {n i : Nat} {f : Nat → Int64} (e : x = nI i) (h : M a = some (.inl (.long, n, .inr (.inl f)))) (hi : i < n) (hn : n < 2 ^ 31) (hk : κ (f i)) : oLald M a x κ :=
  ⟨n, f, h, e ▸ nI_in hi hn, by rw [e, nI_clamp (by omega)]; exact hk⟩
theorem oAald.e {ty : FieldType} {M : wM} {a : Nat} {x : Int32} {κ : Option Nat → Prop} {n i : Nat} {f : Nat → Option Nat} (e : x = nI i) (h : M a = some (.inl (ty, n, .inr (.inr (.inr (.inr f)))))) (hi : i < n) (hn : n < 2 ^ 31) (hk : κ (f i)) : oAald ty M a x κ :=
  ⟨n, f, h, e ▸ nI_in hi hn, by rw [e, nI_clamp (by omega)]; exact hk⟩
theorem oAlen.i {ty : FieldType} {M : wM} {a : Nat} {κ : Int32 → Prop} {n : Nat} {f} (h : M a = some (.inl (ty, n, f))) (hk : κ (nI n)) : oAlen ty M a κ := ⟨n, f, h, hk⟩
theorem oIast.e {G : wG} {M : wM} {a i : Nat} {y x : Int32} {κ : wM → Prop} {n : Nat} {g : Nat → Int32} (e : y = nI i) (h : M a = some (.inl (.int, n, .inl g))) (hz : wz G ≤ a) (hi : i < n) (hn : n < 2 ^ 31) (hp : κ (wIns M a (.inl (.int, n, .inl (upd g i x))))) : oIast G M a y x κ :=
  ⟨n, g, h, hz, e ▸ nI_in hi hn, by rw [e, nI_clamp (by omega)]; exact hp⟩
theorem oBast.e {G : wG} {M : wM} {a i : Nat} {y x : Int32} {κ : wM → Prop} {n : Nat} {g : Nat → Int32} (e : y = nI i) (h : M a = some (.inl (.byte, n, .inl g))) (hz : wz G ≤ a) (hi : i < n) (hn : n < 2 ^ 31) (hp : κ (wIns M a (.inl (.byte, n, .inl (upd g i x.toInt8.toInt32))))) : oBast G M a y x κ :=
  ⟨n, g, h, hz, e ▸ nI_in hi hn, by rw [e, nI_clamp (by omega)]; exact hp⟩
theorem oLast.e {G : wG} {M : wM} {a i : Nat} {y : Int32} {x : Int64} {κ : wM → Prop} {n : Nat} {g : Nat → Int64} (e : y = nI i) (h : M a = some (.inl (.long, n, .inr (.inl g)))) (hz : wz G ≤ a) (hi : i < n) (hn : n < 2 ^ 31) (hp : κ (wIns M a (.inl (.long, n, .inr (.inl (vp_updL g i x)))))) : oLast G M a y x κ :=
  ⟨n, g, h, hz, e ▸ nI_in hi hn, by rw [e, nI_clamp (by omega)]; exact hp⟩
theorem oAast.e {G : wG} {ty : FieldType} {M : wM} {a i : Nat} {y : Int32} {r : Option Nat} {κ : wM → Prop} {n : Nat} {g : Nat → Option Nat} (e : y = nI i) (h : M a = some (.inl (ty, n, .inr (.inr (.inr (.inr g)))))) (hz : wz G ≤ a) (hi : i < n) (hn : n < 2 ^ 31) (ho : oObj M ty r) (hp : κ (wIns M a (.inl (ty, n, .inr (.inr (.inr (.inr (va_up g i r)))))))) : oAast G ty M a y r κ :=
  ⟨n, g, h, hz, e ▸ nI_in hi hn, ho, by rw [e, nI_clamp (by omega)]; exact hp⟩
/-- loops: counted up to N; with a claim that is carried; by a measure -/
theorem st_loop {F : Nat → Nat → Prop} {N : Nat} (hend : ∀ n, F (n + 1) N) (hstep : ∀ n k, k < N → F n (k + 1) → F (n + 1) k) : ∀ k, k ≤ N → ∃ n, F n k := by
  have key : ∀ d k, k + d = N → F (d + 1) k := by
    intro d
    induction d with
    | zero => intro k hk; rw [show k = N by omega]; exact hend 0
    | succ d ih => intro k hk; exact hstep (d + 1) k (by omega) (ih (k + 1) (by omega))
  exact fun k hk => ⟨_, key (N - k) k (by omega)⟩
theorem st_loopP {F : Nat → Nat → Prop} {P : Nat → Prop} {N : Nat} (hend : ∀ n, P N → F (n + 1) N) (hstep : ∀ n k, k < N → P k → (P (k + 1) → F n (k + 1)) → F (n + 1) k) : ∀ k, k ≤ N → P k → ∃ n, F n k := by
  intro k hk hp
  obtain ⟨n, h⟩ := st_loop (F := fun n k => P k → F n k) (N := N) (fun n => hend n) (fun n k hk ih hp => hstep n k hk hp ih) k hk
  exact ⟨n, h hp⟩
theorem st_loopM {α : Type} {F : Nat → α → Prop} (μ : α → Nat) (I : α → Prop) (hstep : ∀ n x, I x → (∀ y, I y → μ y < μ x → F n y) → F (n + 1) x) : ∀ x, I x → ∃ n, F n x := by
  have key : ∀ d n x, I x → μ x < n → n = d → F n x := by
    intro d
    induction d with
    | zero => intro n x _ h e; omega
    | succ d ih =>
      intro n x hI h e
      subst e
      exact hstep d x hI fun y hy hlt => ih d y hy (by omega) rfl
  exact fun x hI => ⟨_, key _ _ x hI (Nat.lt_succ_self _) rfl⟩
/-- counts, searches -/
def cnt (p : Nat → Bool) : Nat → Nat
  | 0 => 0
  | n + 1 => cnt p n + (if p n then 1 else 0)
theorem cnt_le (p : Nat → Bool) (n : Nat) : cnt p n ≤ n := by
  induction n with
  | zero => exact Nat.le_refl 0
  | succ n ih => unfold cnt; split <;> omega
theorem cnt_y {p : Nat → Bool} {n : Nat} (h : p n = true) : cnt p n + 1 = cnt p (n + 1) := by simp [cnt, h]
theorem cnt_n {p : Nat → Bool} {n : Nat} (h : ¬ p n = true) : cnt p n = cnt p (n + 1) := by simp [cnt, h]
def srch (p : Nat → Bool) : Nat → Nat → Int32
  | 0, _ => -1
  | d + 1, k => if p k then nI k else srch p d (k + 1)
theorem srch_y {p : Nat → Bool} {N k : Nat} (hk : k < N) (h : p k = true) : srch p (N - k) k = nI k := by
  rw [show N - k = (N - (k + 1)) + 1 by omega]; simp [srch, h]
theorem srch_n {p : Nat → Bool} {N k : Nat} (hk : k < N) (h : ¬ p k = true) : srch p (N - k) k = srch p (N - (k + 1)) (k + 1) := by
  rw [show N - k = (N - (k + 1)) + 1 by omega]; simp [srch, h]
def anyB (p : Nat → Bool) : Nat → Nat → Bool
  | 0, _ => false
  | d + 1, k => if p k then true else anyB p d (k + 1)
theorem anyB_y {p : Nat → Bool} {N k : Nat} (hk : k < N) (h : p k = true) : anyB p (N - k) k = true := by
  rw [show N - k = (N - (k + 1)) + 1 by omega]; simp [anyB, h]
theorem anyB_n {p : Nat → Bool} {N k : Nat} (hk : k < N) (h : ¬ p k = true) : anyB p (N - k) k = anyB p (N - (k + 1)) (k + 1) := by
  rw [show N - k = (N - (k + 1)) + 1 by omega]; simp [anyB, h]
/-- a fold over 0 .. n - 1 -/
def fo {α : Type} (s : Nat → α → α) (a : α) : Nat → α
  | 0 => a
  | k + 1 => s k (fo s a k)
/-- rows that are laid place by place -/
def lay (o n : Nat) (g r : Nat → Int32) : Nat → Int32 := fun j => if o ≤ j ∧ j < o + n then g (j - o) else r j
theorem lay_0 (o : Nat) (g r : Nat → Int32) : lay o 0 g r = r := by
  funext j; unfold lay; rw [if_neg (by omega)]
theorem lay_s (o n : Nat) (g r : Nat → Int32) : upd (lay o n g r) (o + n) (g n) = lay o (n + 1) g r := by
  funext j; simp only [lay, upd]
  by_cases e : j = o + n
  · subst e; rw [if_pos rfl, if_pos (by omega)]; congr 1; omega
  · rw [if_neg e]
    by_cases h : o ≤ j ∧ j < o + n
    · rw [if_pos h, if_pos (by omega)]
    · rw [if_neg h, if_neg (by omega)]
theorem upd_eq (f : Nat → Int32) (k : Nat) (x : Int32) : upd f k x k = x := by simp [upd]
theorem upd_ne (f : Nat → Int32) {k j : Nat} (x : Int32) (h : j ≠ k) : upd f k x j = f j := by simp [upd, h]
theorem wIns_eq (M : wM) (a : Nat) (x : wE) : wIns M a x a = some x := by simp [wIns]
theorem wIns_ne (M : wM) {a q : Nat} (x : wE) (h : q ≠ a) : wIns M a x q = M q := by simp [wIns, h]
/-- comparisons of longs -/
theorem st_lt {x y : Int64} : lg_cmp x y < 0 ↔ x < y := by
  unfold lg_cmp
  by_cases h : x > y
  · rw [if_pos h]
    exact ⟨fun h1 => absurd h1 (by decide), fun h1 => (Int64.lt_irrefl (Int64.lt_trans h h1)).elim⟩
  · rw [if_neg h]
    by_cases e : x = y
    · rw [if_pos e]
      exact ⟨fun h1 => absurd h1 (by decide), fun h1 => (Int64.lt_irrefl (show y < y from e ▸ h1)).elim⟩
    · rw [if_neg e]
      refine ⟨fun _ => ?_, fun _ => by decide⟩
      rcases Int64.lt_or_lt_of_ne e with h2 | h2
      · exact h2
      · exact absurd h2 h
theorem st_gt {x y : Int64} : 0 < lg_cmp x y ↔ y < x := by
  unfold lg_cmp
  by_cases h : x > y
  · rw [if_pos h]; exact ⟨fun _ => h, fun _ => by decide⟩
  · rw [if_neg h]
    by_cases e : x = y
    · rw [if_pos e]; exact ⟨fun h1 => absurd h1 (by decide), fun h1 => absurd h1 h⟩
    · rw [if_neg e]; exact ⟨fun h1 => absurd h1 (by decide), fun h1 => absurd h1 h⟩
theorem st_l {a b : Int32} : a.toInt64 < b.toInt64 ↔ a < b := by
  rw [Int64.lt_iff_toInt_lt, Int32.lt_iff_toInt_lt, Int32.toInt_toInt64, Int32.toInt_toInt64]
def inR (a lo hi : Int32) : Bool := !decide (a < lo) && !decide (hi < a)
/-- a number in a range of small numbers -/
theorem inR_nI {x : Int32} {n : Nat} (hn : n < 2 ^ 31) (h : inR x 0 (nI n - 1) = true) : ∃ k, k < n ∧ x = nI k := by
  unfold inR at h
  simp only [Bool.and_eq_true, Bool.not_eq_true', decide_eq_false_iff_not] at h
  obtain ⟨j, hj, e⟩ := nI_of h.1
  refine ⟨j, ?_, e⟩
  cases n with
  | zero => exact absurd (show nI 0 - 1 < x from by rw [e, show (nI 0 : Int32) - 1 = -1 from rfl]; exact Int32.lt_of_lt_of_le (by decide) (nI_pos' hj)) h.2
  | succ n =>
    rw [nI_pred, e] at h
    have := mt (nI_ltI (a := n) (b := j) (by omega) hj).mpr h.2
    omega
