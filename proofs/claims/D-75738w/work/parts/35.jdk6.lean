set_option maxRecDepth 100000
/-! STAGE 2, JDK 6: an ArrayDeque of 17 places that never grows -/
def pos (hd k : Nat) : Nat := if hd + k < 17 then hd + k else hd + k - 17
abbrev dqC (e hd tl : Nat) : wE := .inr (22, [.ref e, .int (nI hd), .int (nI tl)])
/-- a deque of m objects g -/
def DQ (G : wG) (M : wM) (ow : Nat → Nat) (τ a m : Nat) (g : Nat → Nat) : Prop := m ≤ 10 ∧ (∀ k, k < m → Ob M (g k)) ∧ ∃ (e hd : Nat) (r : Nat → Option Nat), Cl G M ow τ a (dqC e hd (pos hd m)) ∧ Cl G M ow τ e (oarr 17 r) ∧ hd < 17 ∧ ∀ k, k < m → r (pos hd k) = some (g k)
section JDK6
variable {G : wG} {M : wM} {ow : Nat → Nat} {τ a m : Nat} {g : Nat → Nat}
theorem pos_lt {hd k : Nat} (h : hd < 17) (hk : k ≤ 16) : pos hd k < 17 := by unfold pos; split <;> omega
theorem pos_inj {hd j k : Nat} (h : hd < 17) (hj : j ≤ 16) (hk : k ≤ 16) (e : pos hd j = pos hd k) : j = k := by unfold pos at e; split at e <;> split at e <;> omega
theorem DQ.stp {M1 : wM} {ow1 : Nat → Nat} {T : List Nat} (h : DQ G M ow τ a m g) (hs : Mv T M ow M1 ow1) (hn : τ ∉ T) : DQ G M1 ow1 τ a m g := by
  obtain ⟨h0, h9, e, hd, r, h1, h2, h3, h4⟩ := h
  exact ⟨h0, fun k hk => (h9 k hk).stp hs, e, hd, r, h1.stp hs hn, h2.stp hs hn, h3, h4⟩
theorem DQ.is (h : DQ G M ow τ a m g) {P : Prop} (hp : P) : oIs M a 22 P := by
  obtain ⟨h0, h9, e, hd, r, h1, h2, h3, h4⟩ := h; exact oIs.i h1.1 hp
theorem S_inc {k : Nat} (hk : k < 17) {Q : Int32 → wM → Prop} (hQ : Q (nI (pos k 1)) M) : P_J25_inc G (nI k) (nI 17) M Q := by
  unfold P_J25_inc
  rw [nI_1]
  unfold pos at hQ
  by_cases c : k + 1 < 17
  · rw [if_pos c] at hQ; exact oIf.y (nI_lt c (by decide)) hQ
  · rw [if_neg c, show k + 1 - 17 = 0 by omega] at hQ; exact oIf.n (nI_nlt (by omega) (by omega)) hQ
theorem pos_s {hd k : Nat} (h : hd < 17) (hk : k ≤ 15) : pos (pos hd k) 1 = pos hd (k + 1) := by unfold pos; split <;> split <;> (try split) <;> omega
theorem pos_h {hd k : Nat} (h : hd < 17) (hk : k ≤ 15) : pos (pos hd 1) k = pos hd (k + 1) := by unfold pos; split <;> split <;> (try split) <;> omega
theorem pos_0 {hd : Nat} (h : hd < 17) : pos hd 0 = hd := by unfold pos; rw [if_pos (by omega)]; rfl
theorem S_dqsize (h : DQ G M ow τ a m g) {Q : Int32 → wM → Prop} (hQ : Q (nI m) M) : P_J25_size G a M Q := by
  obtain ⟨h0, h9, e, hd, r, h1, h2, h3, h4⟩ := h
  have hp := pos_lt h3 (show m ≤ 16 by omega)
  refine oGetI.i h1.1 rfl (oGetI.i h1.1 rfl (oGetA.i h1.1 rfl (oAlen.i h2.1 ?_)))
  unfold P_J25_sub
  by_cases c : hd ≤ pos hd m
  · rw [nI_sub c]
    refine oIf.y (nI_pos' (by omega)) ?_
    have : pos hd m - hd = m := by unfold pos at c ⊢; split at c <;> split <;> omega
    unfold B_J25_sub_12; rw [this]; exact hQ
  · have e1 : nI (pos hd m) - nI hd + nI 17 = nI m := by
      rw [Int32.sub_eq_add_neg, Int32.add_assoc, Int32.add_comm (-nI hd), ← Int32.sub_eq_add_neg, nI_sub (by omega), nI_add]
      congr 1; unfold pos at c ⊢; split at c <;> split <;> omega
    have e2 : ¬ (0 : Int32) ≤ nI (pos hd m) - nI hd := by
      rw [Int32.le_iff_toInt_le]
      have : (nI (pos hd m) - nI hd).toInt = (pos hd m : Int) - hd := by
        rw [Int32.toInt_sub, nI_toInt (by omega), nI_toInt (by omega)]
        apply Int.bmod_eq_of_le <;> omega
      rw [this]
      show ¬ ((0 : Int) ≤ _)
      omega
    refine oIf.n e2 ?_
    unfold B_J25_sub_12; rw [e1]; exact hQ
theorem S_dqempty (h : DQ G M ow τ a m g) {Q : Bool → wM → Prop} (hQ : Q (decide (m = 0)) M) : P_J25_isEmpty G a M Q := by
  obtain ⟨h0, h9, e, hd, r, h1, h2, h3, h4⟩ := h
  have hp := pos_lt h3 (show m ≤ 16 by omega)
  refine oGetI.i h1.1 rfl (oGetI.i h1.1 rfl ?_)
  by_cases c : m = 0
  · subst c; rw [pos_0 h3]; exact oIf.y rfl ⟨true, rfl, hQ⟩
  · rw [decide_eq_false c] at hQ
    refine oIf.n (fun x => c ?_) ⟨false, rfl, hQ⟩
    have := nI_inj (by omega) (by omega) x
    exact (pos_inj h3 (by omega) (by omega) ((pos_0 h3).trans this)).symm
theorem S_dqadd (h : DQ G M ow τ a m g) (hτ : τ ≠ 0) (hm : m < 10) {x b : Nat} (hx : Ob M x) {Q : wM → Prop} (hQ : ∀ M1, Mv [τ] M ow M1 ow → DQ G M1 ow τ a (m + 1) (va_up g m x) → Q M1) : P_J25_addLast G a (some x) b M Q := by
  obtain ⟨h0, h9, e, hd, r, h1, h2, h3, h4⟩ := h
  have hp := pos_lt h3 (show m ≤ 16 by omega)
  have hne : a ≠ e := h1.ne h2 (by simp)
  refine oNull.s (oGetA.i h1.1 rfl (oGetI.i h1.1 rfl (oAast.m h2 hτ rfl hp (by decide) (oObO hx) fun M1 e1 hs1 hE1 => ?_)))
  have hA1 : Cl G M1 ow τ a (dqC e hd (pos hd m)) := by rw [e1]; exact h1.off hne _
  refine oGetI.i hA1.1 rfl (oGetI.i hA1.1 rfl (oAlen.i hE1.1 (S_inc hp ?_)))
  rw [pos_s h3 (by omega)]
  refine oPut.m hA1 hτ (Nat.le_of_ble_eq_true rfl) (fs1 := [.ref e, .int (nI hd), .int (nI (pos hd (m + 1)))]) rfl fun M2 e2 hs2 hA2 => ?_
  have hp1 := pos_lt h3 (show m + 1 ≤ 16 by omega)
  refine oIf.n (fun z => ?_) (hQ M2 (hs1.tr hs2) ⟨by omega, fun k hk => ?_, e, hd, _, hA2, by rw [e2]; exact hE1.off (fun z => hne z.symm) _, h3, fun k hk => ?_⟩)
  · have := nI_inj (by omega) (by omega) z
    have := pos_inj h3 (by omega) (show m + 1 ≤ 16 by omega) ((pos_0 h3).trans this)
    omega
  · by_cases c : k = m
    · subst c; rw [va_up_self]; exact (hx.stp hs1).stp hs2
    · rw [va_up_ne _ _ c]; exact ((h9 k (by omega)).stp hs1).stp hs2
  · by_cases c : k = m
    · subst c; rw [va_up_self, va_up_self]
    · rw [va_up_ne g _ c, va_up_ne _ _ (fun z => c (pos_inj h3 (by omega) (by omega) z))]; exact h4 k (by omega)
theorem S_dqfirst (h : DQ G M ow τ a m g) (hτ : τ ≠ 0) (hm : 0 < m) {Q : Option Nat → wM → Prop} (hQ : ∀ M1, Mv [τ] M ow M1 ow → DQ G M1 ow τ a (m - 1) (fun k => g (k + 1)) → Q (some (g 0)) M1) : P_J25_removeFirst G a M Q := by
  obtain ⟨h0, h9, e, hd, r, h1, h2, h3, h4⟩ := h
  have hp := pos_lt h3 (show m ≤ 16 by omega)
  have hne : a ≠ e := h1.ne h2 (by simp)
  have hr := h4 0 hm
  rw [pos_0 h3] at hr
  refine oIs.i h1.1 (oGetA.i h1.1 rfl (oGetI.i h1.1 rfl (oAald.e rfl h2.1 h3 (by decide) ?_)))
  rw [hr]
  refine oNull.s (oAast.m h2 hτ rfl h3 (by decide) (fun v z => by cases z) fun M1 e1 hs1 hE1 => ?_)
  have hA1 : Cl G M1 ow τ a (dqC e hd (pos hd m)) := by rw [e1]; exact h1.off hne _
  refine oAlen.i hE1.1 (S_inc h3 ?_)
  refine oPut.m hA1 hτ (Nat.le_of_ble_eq_true rfl) (fs1 := [.ref e, .int (nI (pos hd 1)), .int (nI (pos hd m))]) rfl fun M2 e2 hs2 hA2 => ?_
  refine oNull.s (hQ M2 (hs1.tr hs2) ⟨by omega, fun k hk => ((h9 (k + 1) (by omega)).stp hs1).stp hs2, e, pos hd 1, _, ?_, by rw [e2]; exact hE1.off (fun z => hne z.symm) _, pos_lt h3 (by decide), fun k hk => ?_⟩)
  · rw [pos_h h3 (by omega), show m - 1 + 1 = m by omega]; exact hA2
  · rw [pos_h h3 (by omega), va_up_ne _ _ (fun z => ?_)]
    · exact h4 (k + 1) (by omega)
    · have := pos_inj h3 (show k + 1 ≤ 16 by omega) (by omega) (z.trans (pos_0 h3).symm); omega
theorem S_dec {k : Nat} (hk : k < 17) {Q : Int32 → wM → Prop} (hQ : Q (nI (if k = 0 then 16 else k - 1)) M) : P_J25_dec G (nI k) (nI 17) M Q := by
  unfold P_J25_dec
  rw [← Int32.sub_eq_add_neg]
  by_cases c : k = 0
  · subst c; exact oIf.n (by decide) hQ
  · rw [if_neg c] at hQ
    rw [show (1 : Int32) = nI 1 from rfl, nI_sub (by omega)]
    exact oIf.y (nI_pos' (by omega)) hQ
theorem S_dqlast (h : DQ G M ow τ a m g) (hτ : τ ≠ 0) (hm : 0 < m) {Q : Option Nat → wM → Prop} (hQ : ∀ M1, Mv [τ] M ow M1 ow → DQ G M1 ow τ a (m - 1) g → Q (some (g (m - 1))) M1) : P_J25_removeLast G a M Q := by
  obtain ⟨h0, h9, e, hd, r, h1, h2, h3, h4⟩ := h
  have hp := pos_lt h3 (show m ≤ 16 by omega)
  have hne : a ≠ e := h1.ne h2 (by simp)
  have hd1 : (if pos hd m = 0 then 16 else pos hd m - 1) = pos hd (m - 1) := by unfold pos; split <;> split <;> (try split) <;> omega
  have hp1 := pos_lt h3 (show m - 1 ≤ 16 by omega)
  refine oIs.i h1.1 (oGetA.i h1.1 rfl (oGetI.i h1.1 rfl (oAlen.i h2.1 (S_dec hp ?_))))
  rw [hd1]
  refine oAald.e rfl h2.1 hp1 (by decide) ?_
  rw [h4 (m - 1) (by omega)]
  refine oNull.s (oPut.m h1 hτ (Nat.le_of_ble_eq_true rfl) (fs1 := [.ref e, .int (nI hd), .int (nI (pos hd (m - 1)))]) rfl fun M1 e1 hs1 hA1 => ?_)
  have hE1 : Cl G M1 ow τ e (oarr 17 r) := by rw [e1]; exact h2.off (fun z => hne z.symm) _
  refine oAast.m hE1 hτ rfl hp1 (by decide) (fun v z => by cases z) fun M2 e2 hs2 hE2 => ?_
  refine oNull.s (hQ M2 (hs1.tr hs2) ⟨by omega, fun k hk => ((h9 k (by omega)).stp hs1).stp hs2, e, hd, _, by rw [e2]; exact hA1.off hne _, hE2, h3, fun k hk => ?_⟩)
  rw [va_up_ne _ _ (fun z => ?_)]
  · exact h4 k (by omega)
  · have := pos_inj h3 (show k ≤ 16 by omega) (by omega) z; omega
theorem S_dqinit {q : Nat} (hq : Cl G M ow τ q (.inr (22, [.null, .int 0, .int 0]))) (hτ : τ ≠ 0) {b : Nat} (hb : 18 ≤ b) {Q : wM → Prop} (hQ : ∀ M1 ow1, Mv [τ] M ow M1 ow1 → DQ G M1 ow1 τ q 0 g → Q M1) : P_J25_init G q b M Q := by
  unfold P_J25_init P_J0_init_J25
  refine oNewa.m (ow := ow) (n := 17) τ rfl (by decide) hb fun p M1 hp hz e1 hs1 hC1 => ?_
  refine oPut.m (hq.stp hs1 (by simp)) hτ (Nat.le_of_ble_eq_true rfl) (fs1 := [.ref p, .int 0, .int 0]) rfl fun M2 e2 hs2 hA2 => ?_
  have hne : q ≠ p := fun z => by have := hq.1; rw [z, hp] at this; cases this
  refine hQ M2 _ ((hs1.mono (by simp) (t0 hτ)).tr hs2) ⟨by omega, fun k hk => by omega, p, 0, fun _ => none, hA2, ?_, by decide, fun k hk => by omega⟩
  rw [e2]; exact hC1.off (fun z => hne z.symm) _
/-- all is forgotten -/
theorem S_dqclear (h : DQ G M ow τ a m g) (hτ : τ ≠ 0) {Q : wM → Prop} (hQ : ∀ M1, Mv [τ] M ow M1 ow → DQ G M1 ow τ a 0 g → Q M1) : P_J25_clear G a M Q := by
  obtain ⟨h0, h9, e, hd, r, h1, h2, h3, h4⟩ := h
  have hp := pos_lt h3 (show m ≤ 16 by omega)
  have hne : a ≠ e := h1.ne h2 (by simp)
  refine oGetA.i h1.1 rfl (oGetI.i h1.1 rfl (oGetI.i h1.1 rfl ?_))
  have fin : ∀ M1 r1, Mv [τ] M ow M1 ow → Cl G M1 ow τ a (dqC e hd (pos hd m)) → Cl G M1 ow τ e (oarr 17 r1) → oPut G M1 a 22 2 (.int (0 : Int32)) (fun M6 => oPut G M6 a 22 1 (.int (0 : Int32)) (fun M7 => Q M7)) := by
    intro M1 r1 hs1 hA1 hE1
    refine oPut.m hA1 hτ (Nat.le_of_ble_eq_true rfl) (fs1 := [.ref e, .int (nI hd), .int 0]) rfl fun M2 e2 hs2 hA2 => ?_
    refine oPut.m hA2 hτ (Nat.le_of_ble_eq_true rfl) (fs1 := [.ref e, .int 0, .int 0]) rfl fun M3 e3 hs3 hA3 => ?_
    refine hQ M3 ((hs1.tr hs2).tr hs3) ⟨by omega, fun k hk => by omega, e, 0, r1, hA3, ?_, by decide, fun k hk => by omega⟩
    rw [e3, e2]
    exact (hE1.off (fun z => hne z.symm) _).off (fun z => hne z.symm) _
  -- the places from k up to t are emptied, then those from 0 up to u
  have run : ∀ u, u < 17 → ∀ d k t, k + d = t → t ≤ 17 → (t = u ∨ t = 17) → ∀ M1 r1, Mv [τ] M ow M1 ow → Cl G M1 ow τ a (dqC e hd (pos hd m)) → Cl G M1 ow τ e (oarr 17 r1) → ∃ n, L_J25_circularClear_12 G (fun M4 => oPut G M4 a 22 2 (.int (0 : Int32)) (fun M6 => oPut G M6 a 22 1 (.int (0 : Int32)) (fun M7 => Q M7))) n e (nI k) (nI u) (nI t) M1 := by
    intro u hu
    have one : ∀ d k t, k + d = t → t ≤ 17 → (∀ M1 r1, Mv [τ] M ow M1 ow → Cl G M1 ow τ a (dqC e hd (pos hd m)) → Cl G M1 ow τ e (oarr 17 r1) → ∃ n, L_J25_circularClear_12 G (fun M4 => oPut G M4 a 22 2 (.int (0 : Int32)) (fun M6 => oPut G M6 a 22 1 (.int (0 : Int32)) (fun M7 => Q M7))) n e (nI t) (nI u) (nI t) M1) → ∀ M1 r1, Mv [τ] M ow M1 ow → Cl G M1 ow τ a (dqC e hd (pos hd m)) → Cl G M1 ow τ e (oarr 17 r1) → ∃ n, L_J25_circularClear_12 G (fun M4 => oPut G M4 a 22 2 (.int (0 : Int32)) (fun M6 => oPut G M6 a 22 1 (.int (0 : Int32)) (fun M7 => Q M7))) n e (nI k) (nI u) (nI t) M1 := by
      intro d
      induction d with
      | zero => intro k t hk ht hend M1 r1 hs1 hA1 hE1; rw [show k = t by omega]; exact hend M1 r1 hs1 hA1 hE1
      | succ d ih =>
        intro k t hk ht hend M1 r1 hs1 hA1 hE1
        have h2n : Mv [τ] M1 ow (wIns M1 e (oarr 17 (va_up r1 k none))) ow := Mv.wr (t0 hτ) (by rw [hE1.2.1]; simp) hE1.1 _ (fun _ _ x => by cases x)
        obtain ⟨n, hn⟩ := ih (k + 1) t (by omega) ht hend (wIns M1 e (oarr 17 (va_up r1 k none))) (va_up r1 k none) (hs1.tr h2n) (hA1.off hne _) (hE1.wr _)
        refine ⟨n + 1, ?_⟩
        unfold L_J25_circularClear_12; unfold B_J25_circularClear_12
        refine oIf.n (nI_ge (by omega) (by omega)) (oAast.e rfl hE1.1 (hE1.2.2 hτ) (by omega) (by decide) (fun v z => by cases z) ?_)
        rw [nI_1]; exact hn
    have endu : ∀ M1 r1, Mv [τ] M ow M1 ow → Cl G M1 ow τ a (dqC e hd (pos hd m)) → Cl G M1 ow τ e (oarr 17 r1) → ∃ n, L_J25_circularClear_12 G (fun M4 => oPut G M4 a 22 2 (.int (0 : Int32)) (fun M6 => oPut G M6 a 22 1 (.int (0 : Int32)) (fun M7 => Q M7))) n e (nI u) (nI u) (nI u) M1 := by
      intro M1 r1 hs1 hA1 hE1
      refine ⟨1, ?_⟩
      unfold L_J25_circularClear_12; unfold B_J25_circularClear_12
      exact oIf.y (nI_le (Nat.le_refl _) (by omega)) (oIf.y rfl (fin M1 r1 hs1 hA1 hE1))
    intro d k t hk ht htu
    refine one d k t hk ht fun M1 r1 hs1 hA1 hE1 => ?_
    by_cases c : t = u
    · subst c; exact endu M1 r1 hs1 hA1 hE1
    · obtain ⟨n, hn⟩ := one u 0 u (by omega) (by omega) endu M1 r1 hs1 hA1 hE1
      refine ⟨n + 1, ?_⟩
      unfold L_J25_circularClear_12; unfold B_J25_circularClear_12
      refine oIf.y (nI_le (Nat.le_refl _) (by omega)) (oIf.n (fun z => c (nI_inj (by omega) (by omega) z)) hn)
  unfold P_J25_circularClear
  by_cases c : pos hd m < hd
  · refine oIf.y (nI_lt c (by omega)) (oAlen.i h2.1 ?_)
    exact run (pos hd m) hp (17 - hd) hd 17 (by omega) (by omega) (.inr rfl) M r (Mv.rf (t0 hτ)) h1 h2
  · refine oIf.n (nI_nlt (by omega) (by omega)) ?_
    exact run (pos hd m) hp (pos hd m - hd) hd (pos hd m) (by omega) (by omega) (.inl rfl) M r (Mv.rf (t0 hτ)) h1 h2
end JDK6
