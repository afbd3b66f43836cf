set_option maxRecDepth 100000
/-! STAGE 2, component: feed -/
theorem sh_bits (v : BitVec 32) {s : Nat} (hs : s ≤ 24) : (v >>> s).signExtend 8 = (v.sshiftRight s).signExtend 8 := by
  rw [BitVec.signExtend_eq_setWidth_of_le _ (by decide), BitVec.signExtend_eq_setWidth_of_le _ (by decide)]
  apply BitVec.eq_of_getLsbD_eq
  intro i hi
  rw [BitVec.getLsbD_setWidth, BitVec.getLsbD_setWidth, BitVec.getLsbD_ushiftRight, BitVec.getLsbD_sshiftRight, if_pos (by omega), decide_eq_false (show ¬ 32 ≤ i by omega), Bool.not_false, Bool.true_and]
theorem sh_u (w s : Int32) : (w.toUInt32 >>> s.toUInt32).toInt32.toInt8.toBitVec = (w.toBitVec >>> (s.toBitVec % 32#32).toNat).signExtend 8 := rfl
theorem sh_s (w s : Int32) : (w >>> s).toInt8.toBitVec = (w.toBitVec.sshiftRight (s.toBitVec.smod 32#32).toNat).signExtend 8 := rfl
def shF (j : Nat) : Int32 := 24 - 8 * nI j
theorem sh_w (w : Int32) {j : Nat} (hj : j < 4) : ((w.toUInt32 >>> ((shF j).toUInt32 &&& Int32.toUInt32 31)).toInt32).toInt8 = (w >>> (((24 : Int32) - (8 : Int32) * nI j) &&& 31)).toInt8 := by
  rw [← Int8.toBitVec_inj]
  have e1 := sh_u w (shF j &&& 31)
  have e2 := sh_s w (shF j &&& 31)
  have e3 : ∀ j, j < 4 → ((shF j &&& 31).toBitVec % 32#32).toNat = ((shF j &&& 31).toBitVec.smod 32#32).toNat ∧ ((shF j &&& 31).toBitVec % 32#32).toNat ≤ 24 := by decide +kernel
  obtain ⟨e4, e5⟩ := e3 j hj
  rw [← e4, ← sh_bits _ e5, ← e1] at e2
  exact e2.symm
theorem shF_s : ∀ j, j < 4 → shF j + (-8) = shF (j + 1) ∧ ¬ shF j < 0 := by decide +kernel
section C29
variable {G : wG} {l : Nat → Nat → Int64} {M : wM} {ow : Nat → Nat} {a : Nat}
theorem S_append {bk : Nat} {sv : Option Nat} {dq bf sb n0 i : Nat} {ec eo : Int32} {r0 : Rw} {w : Nat → Int32} (h1 : Cl G M ow 2 a (ofC bk sv dq bf (n0 + 4 * i) ec eo sb)) (h2 : Cl G M ow 4 bf (.inl (.byte, 900, .inl (fedB r0 n0 w (4 * i))))) (hn : n0 + 4 * i + 4 ≤ 900) {Q : wM → Prop} (hQ : ∀ M1, Mv [2, 4] M ow M1 ow → Cl G M1 ow 2 a (ofC bk sv dq bf (n0 + 4 * (i + 1)) ec eo sb) → Cl G M1 ow 4 bf (.inl (.byte, 900, .inl (fedB r0 n0 w (4 * (i + 1))))) → Q M1) : P_X1_append G a (w i) M Q := by
  have run : ∀ d j, j + d = 4 → ∀ M2, Mv [2, 4] M ow M2 ow → Cl G M2 ow 2 a (ofC bk sv dq bf (n0 + (4 * i + j)) ec eo sb) → Cl G M2 ow 4 bf (.inl (.byte, 900, .inl (fedB r0 n0 w (4 * i + j)))) → L_X1_append_3 G Q (d + 1) a (w i) (shF j) M2 := by
    intro d
    induction d with
    | zero =>
      intro j e M2 hs2 c1 c2
      have e : j = 4 := by omega
      subst e
      unfold L_X1_append_3; unfold B_X1_append_3
      exact oIf.y (by decide) (hQ M2 hs2 c1 c2)
    | succ d ih =>
      intro j e M2 hs2 c1 c2
      unfold L_X1_append_3; unfold B_X1_append_3
      obtain ⟨s1, s2⟩ := shF_s j (by omega)
      refine oIf.n s2 (oGetA.i c1.1 rfl (oGetI.i c1.1 rfl (oBast.m c2 (by decide) rfl (by omega) (by decide) fun M3 e3 hs3 c3 => ?_)))
      have c13 := c1.stp hs3 (by decide)
      refine oGetI.i c13.1 rfl (oPut.m c13 (by decide) (by simp) (fs1 := [.ref bk, va_rf sv, .ref dq, .ref bf, .int (nI (n0 + (4 * i + (j + 1)))), .int ec, .int eo, .ref sb]) (by rw [nI_1]; rfl) fun M4 e4 hs4 c4 => ?_)
      have c34 := c3.stp hs4 (by decide)
      rw [s1]
      have eb : upd (fedB r0 n0 w (4 * i + j)) (n0 + (4 * i + j)) (((w i).toUInt32 >>> ((shF j).toUInt32 &&& Int32.toUInt32 31)).toInt32.toInt8.toInt32).toInt8.toInt32 = fedB r0 n0 w (4 * i + (j + 1)) := by
        rw [sh_w _ (by omega)]
        have : fedB r0 n0 w (4 * i + (j + 1)) = upd (fedB r0 n0 w (4 * i + j)) (n0 + (4 * i + j)) (byteF (w ((4 * i + j) / 4)) ((4 * i + j) % 4)) := rfl
        rw [this, show (4 * i + j) / 4 = i by omega, show (4 * i + j) % 4 = j by omega]
        rfl
      rw [eb] at c34
      exact ih (j + 1) (by omega) M4 (hs2.tr ((hs3.mono (by decide) (by decide)).tr (hs4.mono (by decide) (by decide)))) c4 c34
  exact ⟨5, run 4 0 rfl M (Mv.rf (by decide)) h1 h2⟩
theorem fed_lo {r B : Rw} {n : Nat} {w : Nat → Int32} (h : ∀ k, k < n → r k = B k) : ∀ i k, k < n + i → fedB r n w i k = fedB B n w i k := by
  intro i
  induction i with
  | zero => intro k hk; exact h k (by omega)
  | succ i ih =>
    intro k hk
    show upd (fedB r n w i) (n + i) _ k = upd (fedB B n w i) (n + i) _ k
    by_cases e : k = n + i
    · rw [e, upd_eq, upd_eq]
    · rw [upd_ne _ _ e, upd_ne _ _ e]; exact ih k (by omega)
end C29
section C29B
variable {G : wG} {l : Nat → Nat → Int64} {M : wM} {ow : Nat → Nat} {a m : Nat} {S N H V : Rw} {b0 : Bool} {n : Nat} {B : Rw} {ec eo : Int32} {w : Nat} {O : Rw}
def tB : List Nat := [1, 2, 4]
theorem C_feed (h : CP G l M ow tF a S N m H b0 V n B ec eo w O) {p q r s t : Int32} {Q : Int32 → wM → Prop} (hf : 880 < n → Q (-1) M)
    (hQ : n ≤ 880 → ∀ M1, Mv tB M ow M1 ow → CP G l M1 ow tF a S N m H b0 V (n + 20) (fedB B n (w5 p q r s t) 20) ec eo w O → Q (nI (n + 20)) M1) : P_X1_feed G a p q r s t M Q := by
  obtain ⟨bk, sv, dq, bf, sb, y, h1, h2, h3, h4, ⟨h50, r0, h5, h5b⟩, h6⟩ := h
  refine oGetI.i h1.1 rfl ?_
  rw [show (20 : Int32) = nI 20 from rfl, nI_add]
  refine oIf.c (fun c => ?_) (fun c => hf ?_)
  · have c : n + 20 ≤ 900 := (nI_leI (a := n + 20) (b := 900) (by omega) (by decide)).mp c
    refine oIs.i h1.1 (S_append (w := w5 p q r s t) (i := 0) (n0 := n) (r0 := r0) h1 h5 (by omega) fun M1 s1 a1 b1 => ?_)
    refine oIs.i a1.1 (S_append (w := w5 p q r s t) (i := 1) a1 b1 (by omega) fun M2 s2 a2 b2 => ?_)
    refine oIs.i a2.1 (S_append (w := w5 p q r s t) (i := 2) a2 b2 (by omega) fun M3 s3 a3 b3 => ?_)
    refine oIs.i a3.1 (S_append (w := w5 p q r s t) (i := 3) a3 b3 (by omega) fun M4 s4 a4 b4 => ?_)
    refine oIs.i a4.1 (S_append (w := w5 p q r s t) (i := 4) a4 b4 (by omega) fun M5 s5 a5 b5 => ?_)
    have ss := (((s1.tr s2).tr s3).tr s4).tr s5
    refine oGetI.i a5.1 rfl (hQ (by omega) M5 (ss.mono (by decide) (by decide)) ⟨bk, sv, dq, bf, sb, y, a5, h2.z ss, h3.stp ss (by decide), h4.stp ss, ⟨by omega, _, b5, fun k hk => fed_lo h5b 20 k hk⟩, h6.stp ss (by decide)⟩)
  · rcases Nat.lt_or_ge 880 n with z | z
    · exact z
    · exact absurd ((nI_leI (a := n + 20) (b := 900) (by omega) (by decide)).mpr (by omega)) c
end C29B
