set_option maxRecDepth 100000
/-! STAGE 2, pure: the books as rows of numbers (S the setup's, N what changes); no program here -/
abbrev Rw := Nat → Int32
def np (N : Rw) : Nat := (N 1).toNatClampNeg
def nv (N : Rw) : Nat := (N 2).toNatClampNeg
def nc (N : Rw) : Nat := (N 3).toNatClampNeg
def nf (N : Rw) : Nat := (N 4).toNatClampNeg
def nz (S : Rw) : Nat := (S 0).toNatClampNeg
def ns (S : Rw) : Nat := (S 1).toNatClampNeg
def nh (S : Rw) : Nat := (S 2).toNatClampNeg
def pP (N : Rw) (p k : Nat) : Int32 := N (40 + 7 * p + k)
def vP (N : Rw) (v k : Nat) : Int32 := N (460 + 4 * v + k)
def cP (N : Rw) (c k : Nat) : Int32 := N (700 + 3 * c + k)
def fP (N : Rw) (f k : Nat) : Int32 := N (940 + 5 * f + k)
def zS (S : Rw) (s : Int32) : Int32 := S (27 + s.toNatClampNeg)
def zH (S : Rw) (h : Int32) : Int32 := zS S (S (63 + h.toNatClampNeg))
def zP (S N : Rw) (p : Nat) : Int32 := zH S (pP N p 0)
/-- the setup's rows lead to places that are there -/
def OKS (S : Rw) : Prop := (S 0 = nI (nz S) ∧ nz S ≤ 6) ∧ (S 1 = nI (ns S) ∧ ns S ≤ 12) ∧ (S 2 = nI (nh S) ∧ nh S ≤ 16) ∧
  (∀ s, s < ns S → ∃ z, z < nz S ∧ S (27 + s) = nI z) ∧ (∀ h, h < nh S → ∃ s, s < ns S ∧ S (63 + h) = nI s) ∧ (∀ s, s < ns S → S (51 + s) = -1 ∨ ∃ z, z < nz S ∧ S (51 + s) = nI z)
def OK (S N : Rw) : Prop := OKS S ∧ (N 1 = nI (np N) ∧ np N ≤ 60) ∧ (N 2 = nI (nv N) ∧ nv N ≤ 60) ∧ (N 3 = nI (nc N) ∧ nc N ≤ 80) ∧ (N 4 = nI (nf N) ∧ nf N ≤ 99) ∧
  (∀ p, p < np N → ∃ h, h < nh S ∧ pP N p 0 = nI h) ∧ (∀ v, v < nv N → ∃ h, h < nh S ∧ vP N v 0 = nI h) ∧ (∀ c, c < nc N → ∃ s, s < ns S ∧ cP N c 1 = nI s) ∧
  (∀ f, f < nf N → ∃ s, s < ns S ∧ fP N f 1 = nI s) ∧ ∀ f, f < nf N → ∃ r, 1 ≤ r ∧ r ≤ 6 ∧ fP N f 3 = nI r
theorem OK.b {S N : Rw} (h : OK S N) : np N ≤ 60 ∧ nv N ≤ 60 ∧ nc N ≤ 80 ∧ nf N ≤ 99 ∧ nz S ≤ 6 ∧ ns S ≤ 12 ∧ nh S ≤ 16 :=
  ⟨h.2.1.2, h.2.2.1.2, h.2.2.2.1.2, h.2.2.2.2.1.2, h.1.1.2, h.1.2.1.2, h.1.2.2.1.2⟩
/-- permits that are counted -/
def qZS (S N : Rw) (z st : Int32) (p : Nat) : Bool := decide (zP S N p = z) && decide (pP N p 2 = st)
def qHS (N : Rw) (h st : Int32) (p : Nat) : Bool := decide (pP N p 0 = h) && decide (pP N p 2 = st)
def qHA (N : Rw) (h : Int32) (p : Nat) : Bool := decide (pP N p 0 = h) && !decide (2 < pP N p 2)
def qPA (N : Rw) (x : Int32) (p : Nat) : Bool := decide (pP N p 1 = x) && !decide (2 < pP N p 2)
def manyZ (S N : Rw) (z st : Int32) : Nat := cnt (qZS S N z st) (np N)
def takenZ (S N : Rw) (z : Int32) : Nat := manyZ S N z 1 + manyZ S N z 2
def validH (N : Rw) (h : Int32) : Nat := cnt (qHS N h 2) (np N)
def activeH (N : Rw) (h : Int32) : Nat := cnt (qHA N h) (np N)
def activeP (N : Rw) (x : Int32) : Int32 := srch (qPA N x) (np N - 0) 0
/-- waiting permits, those ahead of one -/
def vH (N : Rw) (p : Nat) : Nat := validH N (pP N p 0)
def isW (S N : Rw) (z : Int32) (p : Nat) : Bool := decide (zP S N p = z) && decide (pP N p 2 = 0)
def qAh (S N : Rw) (z : Int32) (p q : Nat) : Bool := decide (q ≠ p) && (isW S N z q && (decide (vH N q < vH N p) || decide (vH N q = vH N p) && decide (q < p)))
def aheadN (S N : Rw) (p : Nat) : Nat := cnt (qAh S N (zP S N p) p) (np N)
def qAt (S N : Rw) (z k : Int32) (p : Nat) : Bool := isW S N z p && decide (nI (aheadN S N p) = k)
def waitAt (S N : Rw) (z k : Int32) : Int32 := srch (qAt S N z k) (np N - 0) 0
/-- offers: of a zone; of the first zones -/
def offW (S N : Rw) (p : Nat) : Rw := upd (upd N (40 + 7 * p + 2) 1) (40 + 7 * p + 5) (N 0 + 60 * S 112)
def offZ (S : Rw) (z : Nat) : Nat → Rw → Rw
  | 0, N => N
  | d + 1, N => if waitAt S N (nI z) 0 = -1 then N else if takenZ S N (nI z) < (N (5 + z)).toNatClampNeg then offZ S z d (offW S N (waitAt S N (nI z) 0).toNatClampNeg) else N
def offA (S N : Rw) : Nat → Rw := fo (fun z N => offZ S z 61 N) N
def offF (S N : Rw) : Rw := offA S N (nz S)
/-- time -/
def dueS (N : Rw) (p : Nat) (a : Int32) : Int32 :=
  let b := if pP N p 2 = 2 ∧ pP N p 4 < a then pP N p 4 else a
  if pP N p 2 = 1 ∧ pP N p 5 < b then pP N p 5 else b
def due0 (N : Rw) : Int32 := (N 0 / 43200 + 1) * 43200
def dueF (N : Rw) : Int32 := fo (dueS N) (due0 N) (np N)
def booksF (S N : Rw) : Rw := lay 23 16 (fun h => S (95 + h)) N
def expS (p : Nat) (N : Rw) : Rw := if pP N p 2 = 2 ∧ pP N p 4 = N 0 then upd N (40 + 7 * p + 2) 3 else N
def lapS (p : Nat) (N : Rw) : Rw := if pP N p 2 = 1 ∧ pP N p 5 = N 0 then upd N (40 + 7 * p + 2) 5 else N
def hap0 (S N : Rw) : Rw := if N 0 - N 0 / 43200 * 43200 = 0 then booksF S N else N
def hapF (S N : Rw) : Rw := offF S (fo lapS (fo expS (hap0 S N) (np N)) (np N))
def goF (S : Rw) (T : Int32) : Nat → Rw → Rw
  | 0, N => upd N 0 T
  | d + 1, N => if T < dueF N then upd N 0 T else goF S T d (hapF S (upd N 0 (dueF N)))
/-- visits, cars -/
def runsV (N : Rw) (v : Nat) : Bool := !decide (vP N v 3 ≤ N 0)
def qVH (N : Rw) (h : Int32) (v : Nat) : Bool := decide (vP N v 0 = h) && runsV N v
def qVP (N : Rw) (x : Int32) (v : Nat) : Bool := decide (vP N v 1 = x) && runsV N v
def visitsH (N : Rw) (h : Int32) : Nat := cnt (qVH N h) (nv N)
def visiting (N : Rw) (x : Int32) : Bool := anyB (qVP N x) (nv N - 0) 0
def carOf (N : Rw) (x : Int32) : Int32 := srch (fun c => decide (cP N c 0 = x)) (nc N - 0) 0
def carsIn (N : Rw) (s : Int32) : Nat := cnt (fun c => decide (cP N c 1 = s)) (nc N)
def freeIn (S N : Rw) (s : Nat) : Int32 := S (39 + s) - nI (carsIn N (nI s))
/-- rules -/
def secondOf (S N : Rw) (s : Nat) : Int32 := if N (11 + s) = 1 then -1 else S (51 + s)
def qHP (S N : Rw) (x st z : Int32) (p : Nat) : Bool := decide (pP N p 1 = x) && (decide (pP N p 2 = st) && (decide (z = -1) || decide (zP S N p = z)))
def hasP (S N : Rw) (x st z : Int32) : Bool := anyB (qHP S N x st z) (np N - 0) 0
def hasTh (S N : Rw) (x st : Int32) (s : Nat) : Bool := hasP S N x st (S (27 + s)) || (!decide (secondOf S N s = -1) && hasP S N x st (secondOf S N s))
def qHV (S N : Rw) (x : Int32) (s : Nat) (b : Bool) (v : Nat) : Bool := decide (vP N v 1 = x) && (decide (zH S (vP N v 0) = S (27 + s)) && decide (runsV N v = b))
def hasV (S N : Rw) (x : Int32) (s : Nat) (b : Bool) : Bool := anyB (qHV S N x s b) (nv N - 0) 0
def dayT (N : Rw) : Int32 := N 0 - N 0 / 1440 * 1440
def inHrs (S N : Rw) (s : Nat) : Bool := !decide (dayT N < 60 * S (9 + (S (27 + s)).toNatClampNeg)) && !decide (60 * S (15 + (S (27 + s)).toNatClampNeg) ≤ dayT N)
def isAll (S N : Rw) (x : Int32) (s : Nat) : Bool := !inHrs S N s || (hasTh S N x 2 s || hasV S N x s true)
def ruleF (S N : Rw) (x : Int32) (s : Nat) : Int32 :=
  if isAll S N x s then 0 else if hasTh S N x 3 s then 1 else if hasV S N x s false then 2 else if hasTh S N x 0 s || hasTh S N x 1 s then 3 else if hasP S N x 2 (-1) then 4 else if hasP S N x 4 (-1) || hasP S N x 5 (-1) then 5 else 6
/-- fines -/
def qJF (N : Rw) (x : Int32) (f : Nat) : Bool := decide (fP N f 0 = x) && !decide (720 ≤ N 0 - fP N f 2)
def justF (N : Rw) (x : Int32) : Bool := anyB (qJF N x) (nf N - 0) 0
def finedC (S N : Rw) (c : Nat) : Int32 :=
  if N 0 - cP N c 2 ≤ S (21 + (zS S (cP N c 1)).toNatClampNeg) then 0 else if justF N (cP N c 0) then 0 else ruleF S N (cP N c 0) (cP N c 1).toNatClampNeg
def qWF (S N : Rw) (s : Int32) (c : Nat) : Bool := decide (cP N c 1 = s) && !decide (finedC S N c ≤ 0)
def wouldN (S N : Rw) (s : Int32) : Nat := cnt (qWF S N s) (nc N)
def wouldF (S N : Rw) (s : Int32) : Int32 := if nI (wouldN S N s) ≤ 99 - N 4 then nI (wouldN S N s) else 99 - N 4
def amt (S : Rw) (r : Int32) : Int32 := S (113 + r.toNatClampNeg)
