set_option maxRecDepth 100000
/-! STAGE 2, pure 3: history, changed rows -/
theorem upd_upd (f : Nat → Int32) (k : Nat) (x y : Int32) : upd (upd f k x) k y = upd f k y := by
  funext j; unfold upd; split <;> rfl
theorem lay0_s (n : Nat) (g r : Nat → Int32) : upd (lay 0 n g r) n (g n) = lay 0 (n + 1) g r := by
  have := lay_s 0 n g r
  rwa [Nat.zero_add] at this
/-- two rows of books that are alike where books are kept -/
def EqR (N N1 : Rw) : Prop := ∀ j, j < 1435 → N1 j = N j
theorem EqR.rfl' {N : Rw} : EqR N N := fun _ _ => rfl
theorem EqR.lay {N N1 : Rw} : EqR N (lay 0 1435 N N1) := fun j hj => by rw [lay_in (by omega) (by omega), Nat.sub_zero]
theorem EqR.tr {a b c : Rw} (h1 : EqR a b) (h2 : EqR b c) : EqR a c := fun j hj => (h2 j hj).trans (h1 j hj)
theorem EqR.sy {a b : Rw} (h1 : EqR a b) : EqR b a := fun j hj => (h1 j hj).symm
def rowH (H : Rw) (k : Nat) : Rw := fun j => H (1435 * k + j)
def shiftH (H : Rw) : Rw := fun j => if j < 12915 then H (j + 1435) else H j
def shiftK (H : Rw) (k : Nat) : Rw := fun j => if j < k then H (j + 1435) else H j
theorem shiftK_s (H : Rw) (k : Nat) : upd (shiftK H k) k (H (k + 1435)) = shiftK H (k + 1) := by
  funext j; simp only [upd, shiftK]
  by_cases e : j = k
  · subst e; rw [if_pos rfl, if_pos (by omega)]
  · rw [if_neg e]
    by_cases h : j < k
    · rw [if_pos h, if_pos (by omega)]
    · rw [if_neg h, if_neg (by omega)]
theorem shiftK_0 (H : Rw) : shiftK H 0 = H := by funext j; unfold shiftK; rw [if_neg (by omega)]
def keepN (m : Nat) : Nat := if m = 10 then 10 else m + 1
def keepH (m : Nat) (A H : Rw) : Rw := if m = 10 then lay 12915 1435 A (shiftH H) else lay (1435 * m) 1435 A H
/-- what calls do to the rows -/
def applyN (N : Rw) (h x : Int32) : Rw :=
  upd (upd (upd (upd (upd (upd (upd (upd N 1 (N 1 + 1)) (40 + 7 * np N + 0) h) (40 + 7 * np N + 1) x) (40 + 7 * np N + 2) 0) (40 + 7 * np N + 3) (N 0)) (40 + 7 * np N + 4) (-1)) (40 + 7 * np N + 5) (-1)) (40 + 7 * np N + 6) 0
def acceptN (S N : Rw) (p : Nat) : Rw := upd (upd N (40 + 7 * p + 2) 2) (40 + 7 * p + 4) (N 0 + 1440 * S 111)
def renewN (S N : Rw) (p : Nat) : Rw := upd (upd N (40 + 7 * p + 4) (pP N p 4 + 1440 * S 111)) (40 + 7 * p + 6) (pP N p 6 + 1)
def cancelN (N : Rw) (p : Nat) : Rw := upd N (40 + 7 * p + 2) 4
def admitN (N : Rw) (h : Nat) (x k : Int32) : Rw :=
  upd (upd (upd (upd (upd (upd N 2 (N 2 + 1)) (460 + 4 * nv N + 0) (nI h)) (460 + 4 * nv N + 1) x) (460 + 4 * nv N + 2) (N 0)) (460 + 4 * nv N + 3) (N 0 + 60 * k)) (23 + h) (N (23 + h) - k)
def extendN (N : Rw) (v h : Nat) (k : Int32) : Rw := upd (upd N (23 + h) (N (23 + h) - k)) (460 + 4 * v + 3) (vP N v 3 + 60 * k)
def backV (S N : Rw) (v h : Nat) : Int32 := if N (23 + h) + (vP N v 3 - N 0) / 60 ≤ S (95 + h) then N (23 + h) + (vP N v 3 - N 0) / 60 else S (95 + h)
def endN (S N : Rw) (v h : Nat) : Rw := upd (upd N (23 + h) (backV S N v h)) (460 + 4 * v + 3) (N 0)
def parkN (N : Rw) (x s : Int32) : Rw :=
  upd (upd (upd (upd N 3 (N 3 + 1)) (700 + 3 * nc N + 0) x) (700 + 3 * nc N + 1) s) (700 + 3 * nc N + 2) (N 0)
def shiftC (N : Rw) (a b : Nat) : Rw := fun j => if a ≤ j ∧ j < b then N (j + 3) else N j
theorem shiftC_s (N : Rw) {a b : Nat} (h : a ≤ b) : upd (shiftC N a b) b (N (b + 3)) = shiftC N a (b + 1) := by
  funext j; simp only [upd, shiftC]
  by_cases e : j = b
  · subst e; rw [if_pos rfl, if_pos (by omega)]
  · rw [if_neg e]
    by_cases h : a ≤ j ∧ j < b
    · rw [if_pos h, if_pos (by omega)]
    · rw [if_neg h, if_neg (by omega)]
theorem shiftC_0 (N : Rw) (a : Nat) : shiftC N a a = N := by funext j; unfold shiftC; rw [if_neg (by omega)]
def leaveN (N : Rw) (c : Nat) : Rw := shiftC (upd N 3 (N 3 - 1)) (700 + 3 * c + 0) (700 + 3 * (nc N - 1) + 0)
def fineN (N : Rw) (c : Nat) (r : Int32) : Rw :=
  upd (upd (upd (upd (upd (upd N 4 (N 4 + 1)) (940 + 5 * nf N + 0) (cP N c 0)) (940 + 5 * nf N + 1) (cP N c 1)) (940 + 5 * nf N + 2) (N 0)) (940 + 5 * nf N + 3) r) (940 + 5 * nf N + 4) 0
def inspS (S : Rw) (s : Int32) (c : Nat) (N : Rw) : Rw := if cP N c 1 = s ∧ ¬ N 4 = 99 ∧ ¬ finedC S N c = 0 then fineN N c (finedC S N c) else N
def inspN (S N : Rw) (s : Int32) : Rw := fo (inspS S s) N (nc N)
def apIs (S N : Rw) (k : Nat) : Bool := (decide (fP N k 3 = 1) || decide (fP N k 3 = 3)) && hasTh S N (fP N k 0) 2 (fP N k 1).toNatClampNeg
def appealN (S N : Rw) (k : Nat) : Rw := upd N (940 + 5 * k + 4) (if apIs S N k then 1 else 2)
def limitN (N : Rw) (z : Nat) (x : Int32) : Rw := upd N (5 + z) x
def suspN (N : Rw) (s : Nat) (x : Int32) : Rw := upd N (11 + s) x
