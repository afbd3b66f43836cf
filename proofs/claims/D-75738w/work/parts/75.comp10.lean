set_option maxRecDepth 100000
/-! STAGE 2, component: what is remembered -/
def tR : List Nat := [1, 2, 3, 10, 11, 12, 13, 14, 15, 16, 17, 18, 19]
theorem keep_row {m : Nat} (hm : m ≤ 10) (A H : Rw) : EqR A (rowH (keepH m A H) (keepN m - 1)) ∧ ∀ k, k < keepN m - 1 → EqR (rowH H (if m = 10 then k + 1 else k)) (rowH (keepH m A H) k) := by
  unfold keepN keepH
  by_cases c : m = 10
  · rw [if_pos c, if_pos c]
    refine ⟨fun j hj => ?_, fun k hk j hj => ?_⟩
    · unfold rowH; rw [lay_in (by omega) (by omega)]; congr 1; omega
    · rw [if_pos c]
      unfold rowH
      rw [lay_out (by omega)]
      unfold shiftH
      rw [if_pos (by omega)]; congr 1; omega
  · rw [if_neg c, if_neg c]
    refine ⟨fun j hj => ?_, fun k hk j hj => ?_⟩
    · unfold rowH; rw [lay_in (by omega) (by omega)]; congr 1; omega
    · rw [if_neg c]
      unfold rowH
      rw [lay_out (by omega)]
section C10
variable {G : wG} {l : Nat → Nat → Int64} {M : wM} {ow : Nat → Nat} {a m : Nat} {S N H V : Rw} {b0 : Bool} {n : Nat} {B : Rw} {ec eo : Int32} {w : Nat} {O : Rw}
theorem C_rememberK {bk : Nat} {sv : Option Nat} {dq bf sb : Nat} {y : Nat → Nat → Nat} (h1 : Cl G M ow 2 a (ofC bk sv dq bf n ec eo sb)) (h2 : BR G l M ow tF bk y S N) (hH : CH G l M ow dq m S H) (h4 : CS G l M ow sv b0 S V) (h5 : CB G M ow bf n B) (h6 : SB G M ow 7 sb w O) (hg : OK S N) (hh : ∀ k, k < m → OK S (rowH H k)) (hm : m ≤ 10) (hc : Cl G M ow 0 (G.2.2.2 1) (oarr 0 (fun _ => none))) {A : Rw} (hA : EqR N A) {b : Nat} (hb : 30100 ≤ b) {Q : wM → Prop}
    (hQ : ∀ M1 ow1 q y1, Mv tR M ow M1 ow1 → Cl G M1 ow1 2 a (ofC q sv dq bf n ec eo sb) → BR G l M1 ow1 tL q y1 S N → CH G l M1 ow1 dq (keepN m) S (keepH m A H) → CS G l M1 ow1 sv b0 S V → CB G M1 ow1 bf n B → SB G M1 ow1 7 sb w O → (∀ c, c < nc N → y1 4 c = y 4 c) → Q M1) : P_X1_remember G a b M Q := by
  obtain ⟨g, h3, h3b⟩ := hH
  obtain ⟨kr1, kr2⟩ := keep_row hm A H
  have fin : ∀ (m1 : Nat) (g1 : Nat → Nat) (M1 : wM), m1 < 10 → keepN m = m1 + 1 → Mv [3] M ow M1 ow → DQ G M1 ow 3 dq m1 g1 → (∀ k, k < m1 → ∃ y, BR G l M ow tF (g1 k) y S (rowH (keepH m A H) k)) → B_X1_remember_20 G Q a M1 b := fun m1 g1 M1 hm1 ek hs hd hr => by
    have c1 := h1.stp hs (by decide)
    have r1 := h2.z hs
    refine oGetA.i c1.1 rfl (oGetA.i c1.1 rfl (hd.is ⟨0, Nat.zero_le _, S_dqadd hd (by decide) hm1 ⟨_, r1.bk⟩ fun M2 hs2 hd2 => ?_⟩))
    have c2 := c1.stp hs2 (by decide)
    have r2 := r1.z hs2
    refine oGetA.i c2.1 rfl (oIs.i r2.bk ⟨30000, by omega, C_copyK r2 hg ((hc.stp hs (by decide)).stp hs2 (by decide)) (Nat.le_refl _) fun q M3 ow3 y3 hq hs3 hr3 hy3 => ?_⟩)
    have c3 := c2.stp hs3 (by decide)
    refine oPut.m c3 (by decide) (by simp) rfl fun M4 e4 hs4 c4 => ?_
    have s04 : Mv tR M ow M4 ow3 := ((hs.mono (U := tR) (by decide) (by decide)).tr (hs2.mono (by decide) (by decide))).tr ((hs3.mono (by decide) (by decide)).tr (hs4.mono (by decide) (by decide)))
    have s24 : Mv (tR) M2 ow M4 ow3 := (hs3.mono (by decide) (by decide)).tr (hs4.mono (by decide) (by decide))
    have s234 : Mv [1, 2, 10, 11, 12, 13, 14, 15, 16, 17, 18, 19] M2 ow M4 ow3 := (hs3.mono (by decide) (by decide)).tr (hs4.mono (by decide) (by decide))
    refine hQ M4 ow3 q y3 s04 c4 (hr3.stp hs4 (by decide)) ⟨va_up g1 m1 bk, ?_, fun k hk => ?_⟩ (h4.stp s04) (h5.stp s04 (by decide)) (h6.stp s04 (by decide)) hy3
    · rw [ek]; exact hd2.stp s234 (by decide)
    · rw [ek] at hk kr1
      by_cases e : k = m1
      · rw [e, va_up_self]
        exact ⟨y, (h2.z s04).val hg (hA.tr kr1)⟩
      · rw [va_up_ne _ _ e]
        obtain ⟨y', hy'⟩ := hr k (by omega)
        exact ⟨y', hy'.z s04⟩
  refine oGetA.i h1.1 rfl (h3.is (S_dqsize h3 ?_))
  by_cases c : m = 10
  · subst c
    refine oIf.y rfl (oGetA.i h1.1 rfl (h3.is (S_dqfirst h3 (by decide) (by decide) fun M1 hs1 hd1 => ?_)))
    refine fin 9 _ M1 (by decide) rfl hs1 hd1 fun k hk => ?_
    obtain ⟨y', hy'⟩ := h3b (k + 1) (by omega)
    exact ⟨y', hy'.val (hh (k + 1) (by omega)) (kr2 k hk)⟩
  · refine oIf.n (fun e => c (nI_inj (by omega) (by decide) e)) ?_
    have ek : keepN m = m + 1 := by unfold keepN; rw [if_neg c]
    refine fin m g M (by omega) ek (Mv.rf (by decide)) h3 fun k hk => ?_
    obtain ⟨y', hy'⟩ := h3b k hk
    have := kr2 k (by rw [ek]; exact hk)
    rw [if_neg c] at this
    exact ⟨y', hy'.val (hh k hk) this⟩
theorem C_remember (h : CP G l M ow tF a S N m H b0 V n B ec eo w O) (hg : OK S N) (hh : ∀ k, k < m → OK S (rowH H k)) (hm : m ≤ 10) (hc : Cl G M ow 0 (G.2.2.2 1) (oarr 0 (fun _ => none))) {A : Rw} (hA : EqR N A) {b : Nat} (hb : 30100 ≤ b) {Q : wM → Prop}
    (hQ : ∀ M1 ow1, Mv tR M ow M1 ow1 → CP G l M1 ow1 tL a S N (keepN m) (keepH m A H) b0 V n B ec eo w O → Q M1) : P_X1_remember G a b M Q := by
  obtain ⟨bk, sv, dq, bf, sb, y, h1, h2, h3, h4, h5, h6⟩ := h
  exact C_rememberK h1 h2 h3 h4 h5 h6 hg hh hm hc hA hb fun M1 ow1 q y1 hs k1 k2 k3 k4 k5 k6 _ => hQ M1 ow1 hs ⟨q, sv, dq, bf, sb, y1, k1, k2, k3, k4, k5, k6⟩
end C10
