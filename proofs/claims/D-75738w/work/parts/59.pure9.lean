set_option maxRecDepth 100000
/-! STAGE 2, pure 9: shares, texts that come in -/
theorem fdiv_ok : ∀ b, b < 100 → ∀ a, a < 100 → b ≠ 0 → FP.fdiv (FP.i2f (nI a)) (FP.i2f (nI b)) &&& 0x7fffffff ≤ 0x7f800000 := by decide +kernel
def wdN (N : Rw) : Nat := cnt (fun f => decide (fP N f 4 = 1)) (nf N)
def shareF (N : Rw) : UInt32 := if nf N = 0 then FP.fconst0 else FP.fdiv (FP.i2f (nI (wdN N))) (FP.i2f (nI (nf N)))
theorem share_ok {N : Rw} (h : nf N ≤ 99) (h0 : nf N ≠ 0) : vf_n32 (FP.fdiv (FP.i2f (nI (wdN N))) (FP.i2f (nI (nf N)))) :=
  fdiv_ok (nf N) (by omega) (wdN N) (by have := cnt_le (fun f => decide (fP N f 4 = 1)) (nf N); unfold wdN; omega) h0
/-- bytes of a word that come in -/
def byteF (w : Int32) (j : Nat) : Int32 := ((w >>> (((24 : Int32) - (8 : Int32) * nI j) &&& 31)).toInt8.toInt32).toInt8.toInt32
def w5 (a b c d e : Int32) (j : Nat) : Int32 := if j = 0 then a else if j = 1 then b else if j = 2 then c else if j = 3 then d else e
def fedB (B : Rw) (n : Nat) (w : Nat → Int32) (k : Nat) : Rw := fo (fun k B => upd B (n + k) (byteF (w (k / 4)) (k % 4))) B k
theorem nI_mod4 : ∀ k, k < 20 → nI k - nI k / (4 : Int32) * (4 : Int32) = nI (k % 4) := by decide +kernel
theorem nI_pred64 : ∀ n, n < 301 → (nI n).toInt64 - (1 : Int64) = (nI n - 1).toInt64 := by decide +kernel
