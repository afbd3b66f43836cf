set_option maxRecDepth 100000
/-! STAGE 2, pure 6: what the calls answer that change nothing: told, value -/
def cntS (S : Rw) (o n : Nat) (x : Int32) : Nat := cnt (fun k => decide (S (o + k) = x)) n
def v_zone (S N : Rw) (z : Nat) (w : Int32) : Int32 := if w = 0 then N (5 + z) else if w = 1 then S (9 + z) else if w = 2 then S (15 + z) else if w = 3 then S (21 + z) else if w = 4 then nI (manyZ S N (nI z) 2) else if w = 5 then nI (manyZ S N (nI z) 1) else if w = 6 then nI (manyZ S N (nI z) 0) else nI (cntS S 27 (ns S) (nI z))
def r_zone (S N : Rw) (z w : Int32) : Int32 × Int32 := if inR z 0 (S 0 - 1) then (if inR w 0 7 then (0, v_zone S N z.toNatClampNeg w) else (1, 0)) else (1, 0)
def v_street (S N : Rw) (s : Nat) (w : Int32) : Int32 := if w = 0 then S (27 + s) else if w = 1 then S (39 + s) else if w = 2 then S (51 + s) else if w = 3 then N (11 + s) else if w = 4 then nI (carsIn N (nI s)) else nI (cntS S 63 (nh S) (nI s))
def r_street (S N : Rw) (z w : Int32) : Int32 × Int32 := if inR z 0 (S 1 - 1) then (if inR w 0 5 then (0, v_street S N z.toNatClampNeg w) else (1, 0)) else (1, 0)
def v_house (S N : Rw) (h : Nat) (w : Int32) : Int32 := if w = 0 then S (63 + h) else if w = 1 then zH S (nI h) else if w = 2 then S (79 + h) else if w = 3 then S (95 + h) else if w = 4 then N (23 + h) else if w = 5 then nI (activeH N (nI h)) else if w = 6 then nI (validH N (nI h)) else nI (visitsH N (nI h))
def r_house (S N : Rw) (z w : Int32) : Int32 × Int32 := if inR z 0 (S 2 - 1) then (if inR w 0 7 then (0, v_house S N z.toNatClampNeg w) else (1, 0)) else (1, 0)
def v_permit (S N : Rw) (p : Nat) (w : Int32) : Int32 := if w = 0 then pP N p 0 else if w = 1 then pP N p 1 else if w = 2 then zP S N p else if w = 3 then pP N p 2 else if w = 4 then pP N p 3 else if w = 5 then pP N p 4 else if w = 6 then pP N p 5 else pP N p 6
def r_permit (S N : Rw) (z w : Int32) : Int32 × Int32 := if inR z 0 (N 1 - 1) then (if inR w 0 7 then (0, v_permit S N z.toNatClampNeg w) else (1, 0)) else (1, 0)
def v_visit (N : Rw) (v : Nat) (w : Int32) : Int32 := if w = 4 then (if runsV N v then 1 else 0) else vP N v w.toNatClampNeg
def r_visit (N : Rw) (z w : Int32) : Int32 × Int32 := if inR z 0 (N 2 - 1) then (if inR w 0 4 then (0, v_visit N z.toNatClampNeg w) else (1, 0)) else (1, 0)
def v_fine (S N : Rw) (f : Nat) (w : Int32) : Int32 := if 4 ≤ w then (if w = 4 then amt S (fP N f 3) else fP N f 4) else fP N f w.toNatClampNeg
def r_fine (S N : Rw) (z w : Int32) : Int32 × Int32 := if inR z 0 (N 4 - 1) then (if inR w 0 5 then (0, v_fine S N z.toNatClampNeg w) else (1, 0)) else (1, 0)
def r_amount (S : Rw) (r : Int32) : Int32 × Int32 := if inR r 1 6 then (0, amt S r) else (1, 0)
def r_waiting (S N : Rw) (z k : Int32) : Int32 × Int32 := if inR z 0 (S 0 - 1) then (if inR k 0 (nI (manyZ S N z 0) - 1) then (0, waitAt S N z k) else (2, 0)) else (1, 0)
def nxS (S N : Rw) (z : Int32) (p : Nat) (b : Int32) : Int32 := if zP S N p = z ∧ pP N p 2 = 2 ∧ (b = -1 ∨ pP N p 4 < pP N b.toNatClampNeg 4) then nI p else b
def r_next (S N : Rw) (z : Int32) : Int32 × Int32 := if inR z 0 (S 0 - 1) then (0, fo (nxS S N z) (-1) (np N)) else (1, 0)
def r_rule (S N : Rw) (x s : Int32) : Int32 × Int32 := if inR s 0 (S 1 - 1) then (if inR x 1 9999 then (0, ruleF S N x s.toNatClampNeg) else (2, 0)) else (1, 0)
def bsS (S N : Rw) (x : Int32) (s : Nat) (b : Int32) : Int32 := if ¬ freeIn S N s ≤ 0 ∧ isAll S N x s = true ∧ (b = -1 ∨ freeIn S N b.toNatClampNeg < freeIn S N s) then nI s else b
def r_best (S N : Rw) (x : Int32) : Int32 × Int32 := if inR x 1 9999 then (0, fo (bsS S N x) (-1) (ns S)) else (1, 0)
def totS (S N : Rw) (w : Int32) (f : Nat) (a : Int32) : Int32 := if w = 0 ∨ fP N f 4 = w then a + amt S (fP N f 3) else a
def r_total (S N : Rw) (w : Int32) : Int32 × Int32 := if inR w 0 2 then (0, fo (totS S N w) 0 (nf N)) else (1, 0)
def r_finesBy (N : Rw) (r : Int32) : Int32 × Int32 := if inR r 1 6 then (0, nI (cnt (fun f => decide (fP N f 3 = r)) (nf N))) else (1, 0)
def r_enough (S N : Rw) (z : Int32) : Int32 × Int32 := if inR z 0 (S 0 - 1) then (0, nI (takenZ S N z + manyZ S N z 0)) else (1, 0)
def r_place (S N : Rw) (p : Int32) : Int32 × Int32 := if inR p 0 (N 1 - 1) then (0, if pP N p.toNatClampNeg 2 = 0 then nI (aheadN S N p.toNatClampNeg) else -1) else (1, 0)
def v_streetOf (N : Rw) (x : Int32) : Int32 := if carOf N x = -1 then -1 else cP N (carOf N x).toNatClampNeg 1
/-- the k-th car of a street -/
def carK (N : Rw) (s : Int32) : Nat → Nat → Nat → Int32
  | 0, _, _ => 0
  | d + 1, c, k => if cP N c 1 = s then (if k = 0 then cP N c 0 else carK N s d (c + 1) (k - 1)) else carK N s d (c + 1) k
def r_car (S N : Rw) (s k : Int32) : Int32 × Int32 := if inR s 0 (S 1 - 1) then (if inR k 0 (nI (carsIn N s) - 1) then (0, carK N s (nc N) 0 k.toNatClampNeg) else (2, 0)) else (1, 0)
def v_count (S N : Rw) (m w : Int32) : Int32 := if w = 0 then S 0 else if w = 1 then S 1 else if w = 2 then S 2 else if w = 3 then N 1 else if w = 4 then N 2 else if w = 5 then N 3 else if w = 6 then N 4 else if w = 7 then N 0 else if w = 8 then m else if w = 9 then S 111 else if w = 10 then S 112 else if w = 11 then S 113 else -1
theorem inR_lo {x lo hi : Int32} (h : inR x lo hi = true) : ¬ x < lo ∧ ¬ hi < x := by
  unfold inR at h; simpa only [Bool.and_eq_true, Bool.not_eq_true', decide_eq_false_iff_not] using h
theorem inR_n {x : Int32} {n : Nat} (hn : n < 2 ^ 31) (h : inR x 0 (nI n) = true) : ∃ k, k ≤ n ∧ x = nI k := by
  obtain ⟨h1, h2⟩ := inR_lo h
  obtain ⟨j, hj, e⟩ := nI_of h1
  refine ⟨j, ?_, e⟩
  rw [e] at h2
  have := mt (nI_ltI (a := n) (b := j) hn hj).mpr h2
  omega
theorem inR_1n {x : Int32} {n : Nat} (hn : n < 2 ^ 31) (h : inR x 1 (nI n) = true) : ∃ k, 1 ≤ k ∧ k ≤ n ∧ x = nI k := by
  obtain ⟨h1, h2⟩ := inR_lo h
  obtain ⟨j, hj, e⟩ := nI_of (x := x) (fun h3 => h1 (Int32.lt_trans h3 (by decide)))
  rw [e] at h1 h2
  have a1 := mt (nI_ltI (a := n) (b := j) hn hj).mpr h2
  have a2 := mt (nI_ltI (a := j) (b := 1) hj (by decide)).mpr h1
  exact ⟨j, by omega, by omega, e⟩
