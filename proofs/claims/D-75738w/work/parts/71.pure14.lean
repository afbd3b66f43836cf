set_option maxRecDepth 100000
/-! STAGE 2, pure 14: what is printed -/
def bytF (c : Int32) : Int32 := (c.toInt8.toInt32).toInt8.toInt32
def sayO (c : Int32) (o : Rw × Nat) : Rw × Nat := (upd o.1 o.2 (bytF c), o.2 + 1)
def sayP (c x : Int32) (o : Rw × Nat) : Rw × Nat :=
  if x ≤ 9 then sayO 10 (sayO (48 + (x - x / 10 * 10)) (sayO c o)) else sayO 10 (sayO (48 + (x - x / 10 * 10)) (sayO (48 + x / 10) (sayO c o)))
def allS (S N : Rw) (z st c : Int32) (p : Nat) (o : Rw × Nat) : Rw × Nat := if zP S N p = z ∧ pP N p 2 = st then sayP c (nI p) o else o
def allF (S N : Rw) (z st c : Int32) (o : Rw × Nat) : Rw × Nat := fo (allS S N z st c) o (np N)
def waiF (S N : Rw) (z : Int32) (k : Nat) (o : Rw × Nat) : Rw × Nat := fo (fun k o => sayP 119 (waitAt S N z (nI k)) o) o k
def prtF (S N : Rw) (z : Int32) (O : Rw) : Rw × Nat := allF S N z 2 118 (allF S N z 1 111 (waiF S N z (manyZ S N z 0) (O, 0)))
theorem sayP_2 (c x : Int32) (o : Rw × Nat) : (sayP c x o).2 ≤ o.2 + 4 := by
  unfold sayP sayO; split
  · show o.2 + 1 + 1 + 1 ≤ _; omega
  · show o.2 + 1 + 1 + 1 + 1 ≤ _; omega
theorem waiF_2 (S N : Rw) (z : Int32) (o : Rw × Nat) : ∀ k, (waiF S N z k o).2 ≤ o.2 + 4 * k := by
  intro k
  induction k with
  | zero => exact Nat.le_refl _
  | succ k ih =>
    have := sayP_2 119 (waitAt S N z (nI k)) (waiF S N z k o)
    show (sayP 119 (waitAt S N z (nI k)) (waiF S N z k o)).2 ≤ _
    omega
theorem allF_2 (S N : Rw) (z st c : Int32) (o : Rw × Nat) : ∀ k, (fo (allS S N z st c) o k).2 ≤ o.2 + 4 * cnt (qZS S N z st) k := by
  intro k
  induction k with
  | zero => exact Nat.le_refl _
  | succ k ih =>
    show (allS S N z st c k (fo (allS S N z st c) o k)).2 ≤ _
    unfold allS
    by_cases e : zP S N k = z ∧ pP N k 2 = st
    · rw [if_pos e]
      have := sayP_2 c (nI k) (fo (allS S N z st c) o k)
      have h2 : cnt (qZS S N z st) k + 1 = cnt (qZS S N z st) (k + 1) := cnt_y (by unfold qZS; rw [decide_eq_true e.1, decide_eq_true e.2]; rfl)
      unfold allS at this ih
      omega
    · rw [if_neg e]
      have h2 : cnt (qZS S N z st) k = cnt (qZS S N z st) (k + 1) := cnt_n (by unfold qZS; simpa using e)
      unfold allS at ih
      omega
theorem cnt3 {p q r : Nat → Bool} (h1 : ∀ k, p k = true → q k = false) (h2 : ∀ k, p k = true → r k = false) (h3 : ∀ k, q k = true → r k = false) : ∀ n, cnt p n + cnt q n + cnt r n ≤ n := by
  intro n
  induction n with
  | zero => exact Nat.le_refl _
  | succ n ih =>
    unfold cnt
    have a1 := h1 n
    have a2 := h2 n
    have a3 := h3 n
    cases hp : p n <;> cases hq : q n <;> cases hr : r n <;> simp [hp, hq, hr] at a1 a2 a3 ⊢ <;> omega
theorem many3 (S N : Rw) (z : Int32) (k : Nat) : cnt (qZS S N z 0) k + cnt (qZS S N z 1) k + cnt (qZS S N z 2) k ≤ k := by
  have d : ∀ a b : Int32, a ≠ b → ∀ k, qZS S N z a k = true → qZS S N z b k = false := fun a b hne k h => by
    unfold qZS at h ⊢
    rw [Bool.and_eq_true, decide_eq_true_eq, decide_eq_true_eq] at h
    rw [decide_eq_false (fun e => hne (h.2.symm.trans e)), Bool.and_false]
  exact cnt3 (d 0 1 (by decide)) (d 0 2 (by decide)) (d 1 2 (by decide)) k
theorem cnt_lem (p : Nat → Bool) {a b : Nat} (h : a ≤ b) : cnt p a ≤ cnt p b := by
  induction b with
  | zero => rw [Nat.le_zero.mp h]; exact Nat.le_refl _
  | succ b ih =>
    by_cases e : a = b + 1
    · rw [e]; exact Nat.le_refl _
    · have h1 := ih (by omega)
      have e2 : cnt p (b + 1) = cnt p b + (if p b then 1 else 0) := rfl
      rw [e2]
      exact Nat.le_trans h1 (Nat.le_add_right _ _)
/-- one permit more than those that are printed is one of the room's -/
theorem prt_room {S N : Rw} {z : Int32} (hn : np N ≤ 60) :
    (∀ k, k < manyZ S N z 0 → ∀ O, (waiF S N z k (O, 0)).2 ≤ 236) ∧
    (∀ k, k < np N → qZS S N z 1 k = true → ∀ O, (fo (allS S N z 1 111) (waiF S N z (manyZ S N z 0) (O, 0)) k).2 ≤ 236) ∧
    (∀ k, k < np N → qZS S N z 2 k = true → ∀ O, (fo (allS S N z 2 118) (allF S N z 1 111 (waiF S N z (manyZ S N z 0) (O, 0))) k).2 ≤ 236) ∧ ∀ O, (prtF S N z O).2 ≤ 240 := by
  have h3 := many3 S N z (np N)
  refine ⟨fun k hk O => ?_, fun k hk hq O => ?_, fun k hk hq O => ?_, fun O => ?_⟩
  · have h1 := waiF_2 S N z (O, 0) k
    have h2 : manyZ S N z 0 ≤ np N := cnt_le _ _
    have e : ((O, 0) : Rw × Nat).2 = 0 := rfl
    omega
  · have h1 := waiF_2 S N z (O, 0) (manyZ S N z 0)
    have h2 := allF_2 S N z 1 111 (waiF S N z (manyZ S N z 0) (O, 0)) k
    have h4 : cnt (qZS S N z 1) k + 1 = cnt (qZS S N z 1) (k + 1) := cnt_y hq
    have h5 : cnt (qZS S N z 1) (k + 1) ≤ cnt (qZS S N z 1) (np N) := cnt_lem _ hk
    have e : ((O, 0) : Rw × Nat).2 = 0 := rfl
    have e2 : manyZ S N z 0 = cnt (qZS S N z 0) (np N) := rfl
    omega
  · have h1 := waiF_2 S N z (O, 0) (manyZ S N z 0)
    have h2 := allF_2 S N z 1 111 (waiF S N z (manyZ S N z 0) (O, 0)) (np N)
    have h6 := allF_2 S N z 2 118 (allF S N z 1 111 (waiF S N z (manyZ S N z 0) (O, 0))) k
    have h4 : cnt (qZS S N z 2) k + 1 = cnt (qZS S N z 2) (k + 1) := cnt_y hq
    have h5 : cnt (qZS S N z 2) (k + 1) ≤ cnt (qZS S N z 2) (np N) := cnt_lem _ hk
    have e : ((O, 0) : Rw × Nat).2 = 0 := rfl
    have e2 : manyZ S N z 0 = cnt (qZS S N z 0) (np N) := rfl
    unfold allF at h6 ⊢
    omega
  · have h1 := waiF_2 S N z (O, 0) (manyZ S N z 0)
    have h2 := allF_2 S N z 1 111 (waiF S N z (manyZ S N z 0) (O, 0)) (np N)
    have h6 := allF_2 S N z 2 118 (allF S N z 1 111 (waiF S N z (manyZ S N z 0) (O, 0))) (np N)
    have e : ((O, 0) : Rw × Nat).2 = 0 := rfl
    have e2 : manyZ S N z 0 = cnt (qZS S N z 0) (np N) := rfl
    unfold prtF allF at *
    omega
