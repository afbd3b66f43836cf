set_option maxRecDepth 100000
/-! STAGE 2, pure 11: reading a setup: a reader's state, a draft, its names -/
def pT (p : PS) : Int32 := p.2.2.1
def pW (p : PS) : Int32 := p.2.2.2.1
def pV (p : PS) : Int32 := p.2.2.2.2.1
def pC (p : PS) : Int32 := p.2.2.2.2.2.1
def pO (p : PS) : Int32 := p.2.2.2.2.2.2
def needsP (b : Bool) (c : Int32) (p : PS) : PS := if pC p = 0 ∧ b = false then (p.1, p.2.1, p.2.2.1, p.2.2.2.1, p.2.2.2.2.1, c, nI p.2.1) else p
def goP (B : Rw) (n : Nat) (p : PS) : PS := if pC p = 0 then nextP B n p else p
def isWP (p : PS) (w : Int32) : Bool := decide (pC p = 0) && (decide (pT p = 1) && decide (pW p = w))
def passP (B : Rw) (n : Nat) (w : Int32) (p : PS) : PS := goP B n (needsP (isWP p w) 1 p)
def lookP (lo hi : Int32) (p : PS) : PS := if pC (needsP (decide (pT p = 2)) 1 p) = 0 then needsP (inR (pV p) lo hi) 2 (needsP (decide (pT p = 2)) 1 p) else needsP (decide (pT p = 2)) 1 p
def numP (B : Rw) (n : Nat) (lo hi : Int32) (p : PS) : PS := goP B n (lookP lo hi p)
def nbP (B : Rw) (n : Nat) (w lo hi : Int32) (p : PS) : PS := numP B n lo hi (passP B n w p)
def nbV (B : Rw) (n : Nat) (w : Int32) (p : PS) : Int32 := pV (passP B n w p)
def laysD (p : PS) (j : Nat) (v : Int32) (D : Rw) : Rw := if pC p = 0 then upd D j v else D
/-- the name that stands here -/
def nmB (B : Rw) (p : PS) : Int64 := nmF (fun j => B (p.2.1 + j)) (p.1 - p.2.1)
def placeF (g : Nat → Int64) (m : Nat) (x : Int64) : Int32 := srch (fun k => decide (g k = x)) (m - 0) 0
def isNm (p : PS) : Bool := decide (pT p = 1) && (decide (pW p = -1) && decide (p.1 - p.2.1 ≤ 8))
def nnmP (p : PS) : PS := needsP (isNm p) 1 p
def sl (l : Nat → Nat → Int64) (k : Nat) (r : Nat → Int64) : Nat → Nat → Int64 := fun j => if j = k then r else l j
def newQ (B : Rw) (g : Nat → Int64) (m : Nat) (p : PS) : PS := needsP (decide (placeF g m (nmB B p) = -1)) 3 p
def newP (B : Rw) (n : Nat) (g : Nat → Int64) (m : Nat) (p : PS) : PS := if pC (nnmP p) = 0 then goP B n (newQ B g m (nnmP p)) else nnmP p
def newG (B : Rw) (g : Nat → Int64) (m : Nat) (p : PS) : Nat → Int64 := if pC (nnmP p) = 0 ∧ pC (newQ B g m (nnmP p)) = 0 then vp_updL g m (nmB B p) else g
def oldQ (B : Rw) (g : Nat → Int64) (m : Nat) (x : Int32) (p : PS) : PS := needsP (!decide (placeF g m (nmB B p) = -1) && !decide (placeF g m (nmB B p) = x)) 3 p
def oldP (B : Rw) (n : Nat) (g : Nat → Int64) (m : Nat) (x : Int32) (p : PS) : PS := if pC (nnmP p) = 0 then goP B n (oldQ B g m x (nnmP p)) else nnmP p
def oldV (B : Rw) (g : Nat → Int64) (m : Nat) (p : PS) : Int32 := if pC (nnmP p) = 0 then placeF g m (nmB B p) else 0
def begP (B : Rw) (n j : Nat) (most : Int32) (p : PS) (D : Rw) : PS := goP B n (needsP (decide (D j < most)) 4 p)
/-- a state: reader, draft, names -/
abbrev XS := PS × Rw × (Nat → Nat → Int64)
def zn1 (B : Rw) (n : Nat) (p : PS) (D : Rw) (l : Nat → Nat → Int64) : PS := newP B n (l 23) (nz D) (begP B n 0 6 p D)
def zn5 (B : Rw) (n : Nat) (k : Nat) (p : PS) (D : Rw) : PS × Rw :=
  let p2 := nbP B n 1 0 40 p
  let p3 := nbP B n 2 0 23 p2
  let f := nbV B n 2 p2
  let p4 := numP B n (f + 1) 24 p3
  (p4, laysD p4 (15 + k) (pV p3) (laysD p3 (9 + k) f (laysD p2 (3 + k) (nbV B n 1 p) D)))
def zn7 (B : Rw) (n : Nat) (k : Nat) (x : PS × Rw) : PS × Rw :=
  let p5 := if isWP x.1 3 then nbP B n 3 0 120 x.1 else x.1
  let v5 := if isWP x.1 3 then nbV B n 3 x.1 else 0
  (p5, laysD p5 0 (nI k + 1) (laysD p5 (21 + k) v5 x.2))
def zoneX (B : Rw) (n : Nat) (x : XS) : XS :=
  let p1 := begP B n 0 6 x.1 x.2.1
  let k := nz x.2.1
  if pC p1 = 0 then
    let y := zn7 B n k (zn5 B n k (newP B n (x.2.2 23) k p1) x.2.1)
    (y.1, y.2, sl x.2.2 23 (newG B (x.2.2 23) k p1))
  else (p1, x.2)
def st5 (B : Rw) (n : Nat) (k : Nat) (g : Nat → Int64) (m : Nat) (p : PS) (D : Rw) : PS × Rw × Int32 :=
  let p2 := passP B n 5 p
  let p3 := oldP B n g m (-1) p2
  let z := oldV B g m p2
  let p4 := nbP B n 6 0 60 p3
  (p4, laysD p4 (51 + k) (-1) (laysD p4 (39 + k) (nbV B n 6 p3) (laysD p3 (27 + k) z D)), z)
def st7 (B : Rw) (n : Nat) (k : Nat) (g : Nat → Int64) (m : Nat) (x : PS × Rw × Int32) : PS × Rw :=
  let p5 := goP B n x.1
  let p6 := if isWP x.1 7 then oldP B n g m x.2.2 p5 else x.1
  let D6 := if isWP x.1 7 then laysD p6 (51 + k) (oldV B g m p5) x.2.1 else x.2.1
  (p6, laysD p6 1 (nI k + 1) D6)
def streetX (B : Rw) (n : Nat) (x : XS) : XS :=
  let p1 := begP B n 1 12 x.1 x.2.1
  let k := ns x.2.1
  let m := nz x.2.1
  if pC p1 = 0 then
    let y := st7 B n k (x.2.2 23) m (st5 B n k (x.2.2 23) m (newP B n (x.2.2 24) k p1) x.2.1)
    (y.1, y.2, sl x.2.2 24 (newG B (x.2.2 24) k p1))
  else (p1, x.2)
def hs7 (B : Rw) (n : Nat) (k : Nat) (g : Nat → Int64) (m : Nat) (p : PS) (D : Rw) : PS × Rw :=
  let p2 := passP B n 9 p
  let p3 := oldP B n g m (-1) p2
  let p4 := nbP B n 10 1 3 p3
  let p5 := nbP B n 11 0 100 p4
  (p5, laysD p5 2 (nI k + 1) (laysD p5 (95 + k) (nbV B n 11 p4) (laysD p4 (79 + k) (nbV B n 10 p3) (laysD p3 (63 + k) (oldV B g m p2) D))))
def houseX (B : Rw) (n : Nat) (x : XS) : XS :=
  let p1 := begP B n 2 16 x.1 x.2.1
  let k := nh x.2.1
  if pC p1 = 0 then
    let y := hs7 B n k (x.2.2 24) (ns x.2.1) (newP B n (x.2.2 25) k p1) x.2.1
    (y.1, y.2, sl x.2.2 25 (newG B (x.2.2 25) k p1))
  else (p1, x.2)
def onceX (B : Rw) (n : Nat) (w j : Nat) (lo hi : Int32) (x : XS) : XS :=
  let p1 := goP B n (needsP (decide (x.2.1 (120 + w) = 0)) 3 x.1)
  let p2 := numP B n lo hi p1
  (p2, laysD p2 j (pV p1) (laysD p1 (120 + w) 1 x.2.1), x.2.2)
def fn3 (D : Rw) (r : Int32) (p : PS) : PS := if pC p = 0 then needsP (decide (D (122 + r.toNatClampNeg) = 0)) 3 p else p
def fineX (B : Rw) (n : Nat) (x : XS) : XS :=
  let p1 := goP B n x.1
  let r := pV p1
  let p3 := goP B n (fn3 x.2.1 r (lookP 1 6 p1))
  let p4 := numP B n 0 999 p3
  (p4, if pC p4 = 0 then upd (upd x.2.1 (122 + r.toNatClampNeg) 1) (114 + r.toNatClampNeg - 1) (pV p3) else x.2.1, x.2.2)
def stmtX (B : Rw) (n : Nat) (x : XS) : XS :=
  if isWP x.1 0 then zoneX B n x else if isWP x.1 4 then streetX B n x else if isWP x.1 8 then houseX B n x else if isWP x.1 12 then onceX B n 0 111 1 365 x else if isWP x.1 13 then onceX B n 1 112 1 99 x
  else if isWP x.1 14 then onceX B n 2 113 0 30 x else if isWP x.1 15 then fineX B n x else (needsP false 1 x.1, x.2)
def endX (B : Rw) (n : Nat) (x : XS) : XS := (goP B n (needsP (decide (pT x.1 = 3)) 1 x.1), x.2)
def stepX (B : Rw) (n : Nat) (x : XS) : XS := endX B n (stmtX B n x)
def readX (B : Rw) (n : Nat) : Nat → XS → XS
  | 0, x => x
  | d + 1, x => if pC x.1 = 0 ∧ pT x.1 ≠ 0 then readX B n d (stepX B n x) else x
theorem need_s {p : PS} (h : pC p ≠ 0) (b : Bool) (c : Int32) : needsP b c p = p := by unfold needsP; rw [if_neg (fun x => h x.1)]
theorem go_s {B : Rw} {n : Nat} {p : PS} (h : pC p ≠ 0) : goP B n p = p := by unfold goP; rw [if_neg h]
theorem isW_s {p : PS} (h : pC p ≠ 0) (w : Int32) : isWP p w = false := by unfold isWP; rw [decide_eq_false h]; rfl
theorem pass_s {B : Rw} {n : Nat} {p : PS} (h : pC p ≠ 0) (w : Int32) : passP B n w p = p := by unfold passP; rw [need_s h, go_s h]
theorem look_s {p : PS} (h : pC p ≠ 0) (lo hi : Int32) : lookP lo hi p = p := by unfold lookP; rw [need_s h, if_neg h]
theorem num_s {B : Rw} {n : Nat} {p : PS} (h : pC p ≠ 0) (lo hi : Int32) : numP B n lo hi p = p := by unfold numP; rw [look_s h, go_s h]
theorem nb_s {B : Rw} {n : Nat} {p : PS} (h : pC p ≠ 0) (w lo hi : Int32) : nbP B n w lo hi p = p := by unfold nbP; rw [pass_s h, num_s h]
theorem lays_s {p : PS} (h : pC p ≠ 0) (j : Nat) (v : Int32) (D : Rw) : laysD p j v D = D := by unfold laysD; rw [if_neg h]
theorem nnm_s {p : PS} (h : pC p ≠ 0) : nnmP p = p := need_s h _ _
theorem new_s {B : Rw} {n : Nat} {p : PS} (h : pC p ≠ 0) (g : Nat → Int64) (m : Nat) : newP B n g m p = p := by unfold newP; rw [nnm_s h, if_neg h]
theorem old_s {B : Rw} {n : Nat} {p : PS} (h : pC p ≠ 0) (g : Nat → Int64) (m : Nat) (x : Int32) : oldP B n g m x p = p := by unfold oldP; rw [nnm_s h, if_neg h]
theorem needsP_o {n : Nat} {p : PS} (h : PSo n p) (b : Bool) (c : Int32) : PSo n (needsP b c p) := by unfold needsP; split <;> exact h
theorem goP_o {B : Rw} {n : Nat} {p : PS} (h : PSo n p) : PSo n (goP B n p) := by unfold goP; split; exact nextP_o h.1; exact h
theorem passP_o {B : Rw} {n : Nat} {p : PS} (h : PSo n p) (w : Int32) : PSo n (passP B n w p) := goP_o (needsP_o h _ _)
theorem lookP_o {n : Nat} {p : PS} (h : PSo n p) (lo hi : Int32) : PSo n (lookP lo hi p) := by
  unfold lookP; split
  · exact needsP_o (needsP_o h _ _) _ _
  · exact needsP_o h _ _
theorem numP_o {B : Rw} {n : Nat} {p : PS} (h : PSo n p) (lo hi : Int32) : PSo n (numP B n lo hi p) := goP_o (lookP_o h _ _)
theorem nbP_o {B : Rw} {n : Nat} {p : PS} (h : PSo n p) (w lo hi : Int32) : PSo n (nbP B n w lo hi p) := numP_o (passP_o h _) _ _
theorem newP_o {B : Rw} {n : Nat} {p : PS} (h : PSo n p) (g : Nat → Int64) (m : Nat) : PSo n (newP B n g m p) := by
  unfold newP; split
  · exact goP_o (needsP_o (needsP_o h _ _) _ _)
  · exact needsP_o h _ _
theorem oldP_o {B : Rw} {n : Nat} {p : PS} (h : PSo n p) (g : Nat → Int64) (m : Nat) (x : Int32) : PSo n (oldP B n g m x p) := by
  unfold oldP; split
  · exact goP_o (needsP_o (needsP_o h _ _) _ _)
  · exact needsP_o h _ _
