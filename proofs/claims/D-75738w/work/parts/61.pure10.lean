set_option maxRecDepth 100000
/-! STAGE 2, pure 10: reading texts: bytes, words, the state of a reader -/
def chB (B : Rw) (k : Nat) : Int32 := B k &&& 255
def wsB (B : Rw) (k : Nat) : Bool := decide (chB B k = 32) || decide (chB B k = 10)
def ltB (B : Rw) (k : Nat) : Bool := inR (chB B k) 97 122
def dgB (B : Rw) (k : Nat) : Bool := inR (chB B k) 48 57
def hereB (B : Rw) (n k : Nat) : Int32 := if k < n then chB B k else -1
def runTo (p : Nat → Bool) : Nat → Nat → Nat
  | 0, a => a
  | d + 1, a => if p a then runTo p d (a + 1) else a
def runE (p : Nat → Bool) (n a : Nat) : Nat := runTo p (n - a) a
theorem runE_y {p : Nat → Bool} {n a : Nat} (h : a < n) (hp : p a = true) : runE p n a = runE p n (a + 1) := by
  unfold runE
  rw [show n - a = (n - (a + 1)) + 1 by omega]
  simp [runTo, hp]
theorem runE_n {p : Nat → Bool} {n a : Nat} (hp : a < n → p a = false) : runE p n a = a := by
  unfold runE
  cases h : n - a with
  | zero => rfl
  | succ d => simp [runTo, hp (by omega)]
theorem runE_sp (p : Nat → Bool) (n : Nat) : ∀ d a, n - a = d → a ≤ n → a ≤ runE p n a ∧ runE p n a ≤ n ∧ (∀ k, a ≤ k → k < runE p n a → p k = true) ∧ (runE p n a < n → p (runE p n a) = false) := by
  intro d
  induction d with
  | zero =>
    intro a h1 h2
    have : a = n := by omega
    subst this
    rw [runE_n (fun h => absurd h (Nat.lt_irrefl _))]
    exact ⟨Nat.le_refl _, Nat.le_refl _, fun k h3 h4 => by omega, fun h => absurd h (Nat.lt_irrefl _)⟩
  | succ d ih =>
    intro a h1 h2
    by_cases c : p a = true
    · rw [runE_y (by omega) c]
      obtain ⟨q1, q2, q3, q4⟩ := ih (a + 1) (by omega) (by omega)
      refine ⟨by omega, q2, fun k h3 h4 => ?_, q4⟩
      by_cases e : k = a
      · rw [e]; exact c
      · exact q3 k (by omega) h4
    · rw [Bool.not_eq_true] at c
      rw [runE_n (fun _ => c)]
      exact ⟨Nat.le_refl _, h2, fun k h3 h4 => by omega, fun _ => c⟩
/-- numbers: the first three digits -/
def valB (B : Rw) (b : Nat) : Nat → Int32
  | 0 => 0
  | k + 1 => if k < 3 then (10 * valB B b k + chB B (b + k)) - 48 else valB B b k
/-- the words, one behind another -/
def WDl : List Nat := [122,111,110,101,32,108,105,109,105,116,32,104,111,117,114,115,32,103,114,97,99,101,32,115,116,114,101,101,116,32,105,110,32,115,112,97,99,101,115,32,119,105,116,104,32,104,111,117,115,101,32,97,116,32,99,97,114,115,32,98,111,111,107,32,116,101,114,109,32,111,102,102,101,114,32,114,101,110,101,119,32,102,105,110,101,32]
def WD (k : Nat) : Nat := WDl.getD k 0
def wst (n : Nat) : Nat := [0, 5, 11, 17, 23, 30, 33, 40, 45, 51, 54, 59, 64, 69, 75, 81, 86].getD n 0
def wln (n : Nat) : Nat := [4, 5, 5, 5, 6, 2, 6, 4, 5, 2, 4, 4, 4, 5, 5, 4].getD n 0
theorem wd_ok : ∀ n, n < 16 → wst (n + 1) = wst n + wln n + 1 ∧ WD (wst n + wln n) = 32 ∧ wst n + wln n < 86 ∧ 2 ≤ wln n ∧ wln n ≤ 6 ∧ ∀ i, i < 6 → i < wln n → WD (wst n + i) ≠ 32 := by decide +kernel
theorem wd_le : ∀ k, k < 86 → 32 ≤ WD k ∧ WD k ≤ 122 := by decide +kernel
def eqW (B : Rw) (a e n : Nat) : Bool := decide (e = a + wln n) && !anyB (fun i => !decide (B (a + i) = nI (WD (wst n + i)))) (wln n - 0) 0
def wordF (B : Rw) (a e : Nat) : Int32 := srch (eqW B a e) (16 - 0) 0
/-- a reader: where it stands, where the token began, token, word, value, code, offset -/
abbrev PS := Nat × Nat × Int32 × Int32 × Int32 × Int32 × Int32
def pI (i : Rw) (p : PS) : Rw := fun j => if j = 16 then nI p.1 else if j = 17 then nI p.2.1 else if j = 18 then p.2.2.1 else if j = 19 then p.2.2.2.1 else if j = 20 then p.2.2.2.2.1 else if j = 21 then p.2.2.2.2.2.1 else if j = 22 then p.2.2.2.2.2.2 else i j
section IPs
variable (i : Rw) (a b a1 : Nat) (k w v c o x : Int32)
theorem pI_16 : upd (pI i (a, b, k, w, v, c, o)) 16 (nI a1) = pI i (a1, b, k, w, v, c, o) := by
  funext j; unfold upd pI
  by_cases h : j = 16
  · simp [h]
  · simp [h]
theorem pI_17 : upd (pI i (a, b, k, w, v, c, o)) 17 (nI a1) = pI i (a, a1, k, w, v, c, o) := by
  funext j; unfold upd pI
  by_cases h : j = 17
  · simp [h]
  · simp [h]
theorem pI_18 : upd (pI i (a, b, k, w, v, c, o)) 18 x = pI i (a, b, x, w, v, c, o) := by
  funext j; unfold upd pI
  by_cases h : j = 18
  · simp [h]
  · simp [h]
theorem pI_19 : upd (pI i (a, b, k, w, v, c, o)) 19 x = pI i (a, b, k, x, v, c, o) := by
  funext j; unfold upd pI
  by_cases h : j = 19
  · simp [h]
  · simp [h]
theorem pI_20 : upd (pI i (a, b, k, w, v, c, o)) 20 x = pI i (a, b, k, w, x, c, o) := by
  funext j; unfold upd pI
  by_cases h : j = 20
  · simp [h]
  · simp [h]
theorem pI_21 : upd (pI i (a, b, k, w, v, c, o)) 21 x = pI i (a, b, k, w, v, x, o) := by
  funext j; unfold upd pI
  by_cases h : j = 21
  · simp [h]
  · simp [h]
theorem pI_22 : upd (pI i (a, b, k, w, v, c, o)) 22 x = pI i (a, b, k, w, v, c, x) := by
  funext j; unfold upd pI
  by_cases h : j = 22
  · simp [h]
  · simp [h]
end IPs
/-- the next token of the first n bytes -/
def nextP (B : Rw) (n : Nat) (p : PS) : PS :=
  if n ≤ runE (wsB B) n p.1 then (runE (wsB B) n p.1, runE (wsB B) n p.1, 0, p.2.2.2)
  else if ltB B (runE (wsB B) n p.1) then (runE (ltB B) n (runE (wsB B) n p.1), runE (wsB B) n p.1, 1, wordF B (runE (wsB B) n p.1) (runE (ltB B) n (runE (wsB B) n p.1)), p.2.2.2.2)
  else if dgB B (runE (wsB B) n p.1) then (runE (dgB B) n (runE (wsB B) n p.1), runE (wsB B) n p.1, (if runE (dgB B) n (runE (wsB B) n p.1) - runE (wsB B) n p.1 ≤ 3 then 2 else 4), p.2.2.2.1, valB B (runE (wsB B) n p.1) (runE (dgB B) n (runE (wsB B) n p.1) - runE (wsB B) n p.1), p.2.2.2.2.2)
  else (runE (wsB B) n p.1 + 1, runE (wsB B) n p.1, (if chB B (runE (wsB B) n p.1) = 59 then 3 else 4), p.2.2.2)
/-- a reader stands within the bytes -/
def PSo (n : Nat) (p : PS) : Prop := p.1 ≤ n ∧ p.2.1 ≤ p.1
theorem nextP_o {B : Rw} {n : Nat} {p : PS} (h1 : p.1 ≤ n) : PSo n (nextP B n p) := by
  obtain ⟨q1, q2, q3, q4⟩ := runE_sp (wsB B) n _ p.1 rfl h1
  unfold nextP
  generalize runE (wsB B) n p.1 = a at *
  split
  · exact ⟨q2, Nat.le_refl _⟩
  · split
    · obtain ⟨r1, r2, r3, r4⟩ := runE_sp (ltB B) n _ a rfl q2
      exact ⟨r2, r1⟩
    · split
      · obtain ⟨r1, r2, r3, r4⟩ := runE_sp (dgB B) n _ a rfl q2
        exact ⟨r2, r1⟩
      · exact ⟨by show a + 1 ≤ n; omega, by show a ≤ a + 1; omega⟩
