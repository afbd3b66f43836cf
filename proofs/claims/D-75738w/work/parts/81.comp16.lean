set_option maxRecDepth 100000
/-! STAGE 2, component: calls that change: pass, accept -/
theorem offZ_ne {S : Rw} {z d j : Nat} (hj : ∀ p, p < 60 → j ≠ 40 + 7 * p + 2 ∧ j ≠ 40 + 7 * p + 5) : ∀ {N : Rw}, OK S N → offZ S z d N j = N j := by
  induction d with
  | zero => intro N h; rfl
  | succ d ih =>
    intro N h
    have hb := h.b
    unfold offZ
    rcases waitAt_sp h (nI z) 0 with ⟨e, -⟩ | ⟨p, hp, e, -, -⟩
    · rw [if_pos e]
    · rw [e, if_neg (nI_neg (by omega)), nI_clamp (by omega)]
      split
      · rw [ih (offW_ok h hp)]
        have := hj p (by omega)
        unfold offW
        rw [upd_ne _ _ this.2, upd_ne _ _ this.1]
      · rfl
theorem offF_ne {S N : Rw} {j : Nat} (h : OK S N) (hj : ∀ p, p < 60 → j ≠ 40 + 7 * p + 2 ∧ j ≠ 40 + 7 * p + 5) : offF S N j = N j := by
  have : ∀ k, offA S N k j = N j := by
    intro k
    induction k with
    | zero => rfl
    | succ k ih => exact (offZ_ne hj (offA_ok h k)).trans ih
  exact this _
section C16
variable {G : wG} {l : Nat → Nat → Int64} {M : wM} {ow : Nat → Nat} {a m : Nat} {S N H V : Rw} {b0 : Bool} {n : Nat} {B : Rw} {ec eo : Int32} {w : Nat} {O : Rw}
theorem lvR {M1 : wM} {ow1 : Nat → Nat} (h : Mv (lvT tL) M ow M1 ow1) : Mv tR M ow M1 ow1 := h.mono (by decide) (by decide)
/-- the office behind a change of its live books -/
theorem CP.up {M1 : wM} {bk : Nat} {sv : Option Nat} {dq bf sb : Nat} {y : Nat → Nat → Nat} {N1 : Rw} (h1 : Cl G M ow 2 a (ofC bk sv dq bf n ec eo sb)) (h3 : CH G l M ow dq m S H) (h4 : CS G l M ow sv b0 S V) (h5 : CB G M ow bf n B) (h6 : SB G M ow 7 sb w O) {ow1 : Nat → Nat} (hs : Mv (lvT tL) M ow M1 ow1) (hr : BR G l M1 ow1 tL bk y S N1) : CP G l M1 ow1 tL a S N1 m H b0 V n B ec eo w O :=
  ⟨bk, sv, dq, bf, sb, y, h1.stp hs (by decide), hr, h3.stp hs (by decide), h4.stp hs, h5.stp hs (by decide), h6.stp hs (by decide)⟩
theorem C_pass (h : CP G l M ow tF a S N m H b0 V n B ec eo w O) (hg : OK S N) (hh : ∀ k, k < m → OK S (rowH H k)) (hm : m ≤ 10) (hc : Cl G M ow 0 (G.2.2.2 1) (oarr 0 (fun _ => none))) {A : Rw} (hA : EqR N A) {x : Int32} (d : Nat) (hd : goEnds S (N 0 + x) d N) {b : Nat} (hb : 31000 ≤ b) {Q : Int32 → wM → Prop} {Xp : String → Nat → wM → Prop} (hf : c_pass x ≠ 0 → ∀ q, Xp eArg q M)
    (hQ : c_pass x = 0 → ∀ M1 ow1, Mv tR M ow M1 ow1 → CP G l M1 ow1 tL a S (goF S (N 0 + x) d N) (keepN m) (keepH m A H) b0 V n B ec eo w O → Q (goF S (N 0 + x) d N 0) M1) : P_X1_pass G a x b M Q Xp := by
  unfold c_pass at hf hQ
  refine S_inR ⟨7, by omega, C_ckA (Nat.le_refl _) (fun c => ?_) (fun c q => ⟨rfl, ?_⟩)⟩
  · rw [if_pos c] at hQ
    have hofc : ∃ bk sv dq bf sb, Cl G M ow 2 a (ofC bk sv dq bf n ec eo sb) := by obtain ⟨bk, sv, dq, bf, sb, y, h1, -⟩ := h; exact ⟨bk, sv, dq, bf, sb, h1⟩
    obtain ⟨bk0, sv0, dq0, bf0, sb0, hof⟩ := hofc
    refine oIs.i hof.1 ⟨30100, by omega, C_remember h hg hh hm hc hA (Nat.le_refl _) fun M1 ow1 hs1 hp1 => ?_⟩
    obtain ⟨bk, sv, dq, bf, sb, y, h1, h2, h3, h4, h5, h6⟩ := hp1
    refine oGetA.i h1.1 rfl (oGetA.i h1.1 rfl (oGetI.i h2.bk rfl (oIs.i h2.bk (C_passTo h2 lvL hg d hd fun M2 hs2 hr2 => ?_))))
    have c2 := h1.stp hs2 (by decide)
    exact oGetA.i c2.1 rfl (oGetI.i hr2.bk rfl (hQ rfl M2 ow1 (hs1.tr (lvR hs2)) (CP.up h1 h3 h4 h5 h6 hs2 hr2)))
  · rw [if_neg (by rw [c]; decide)] at hf
    exact hf (by decide) q
theorem C_accept (h : CP G l M ow tF a S N m H b0 V n B ec eo w O) (hg : OK S N) (hh : ∀ k, k < m → OK S (rowH H k)) (hm : m ≤ 10) (hc : Cl G M ow 0 (G.2.2.2 1) (oarr 0 (fun _ => none))) {A : Rw} (hA : EqR N A) {x : Int32} {b : Nat} (hb : 31000 ≤ b) {Q : Int32 → wM → Prop} {Xp : String → Nat → wM → Prop} (hf1 : c_accept N x = 1 → ∀ q, Xp eIdx q M) (hf2 : c_accept N x = 2 → ∀ q, Xp eSt q M)
    (hQ : c_accept N x = 0 → ∀ M1 ow1, Mv tR M ow M1 ow1 → CP G l M1 ow1 tL a S (offF S (acceptN S N x.toNatClampNeg)) (keepN m) (keepH m A H) b0 V n B ec eo w O → Q (N 0 + 1440 * S 111) M1) : P_X1_accept G a x b M Q Xp := by
  have hbd := hg.b
  unfold c_accept at hf1 hf2 hQ
  have hcp := h
  obtain ⟨bk0, sv0, dq0, bf0, sb0, y0, hof, hbr, -⟩ := hcp
  have ho : OF M a bk0 := ⟨_, hof.1⟩
  refine ho.is ⟨7, by omega, C_permitAt ho hbr hg (Nat.le_refl _) (fun k hk ek c => ?_) (fun c q => ⟨rfl, ?_⟩)⟩
  · rw [if_pos c] at hf1 hf2 hQ
    rw [ek, nI_clamp (by omega)] at hf1 hf2 hQ
    rw [ek]
    refine oRef.s (gP4 hbr hk (oIf.c (fun c1 => ?_) (fun c1 => ?_)))
    · rw [if_pos c1] at hQ
      refine ⟨7, by omega, C_ckS (b := true) (Nat.le_refl _) (fun _ => ?_) (fun c => by cases c)⟩
      refine oIs.i hof.1 ⟨30100, by omega, C_remember h hg hh hm hc hA (Nat.le_refl _) fun M1 ow1 hs1 hp1 => ?_⟩
      obtain ⟨bk, sv, dq, bf, sb, y, h1, h2, h3, h4, h5, h6⟩ := hp1
      refine oGetA.i h1.1 rfl (oGetA.i h2.bk rfl (isA h2.pl (E_get h2.pl hk (kP h2 hk (oRef.s (C_putS h2 lvL hg hk fun M2 hs2 hr2 => ?_))))))
      have g2 : OK S (upd N (40 + 7 * k + 2) 2) := hg.upd (by unfold OKi; omega) _
      have s2 : Mv (lvT tL) M1 ow1 M2 ow1 := lvL.m (k := 2) (by decide) hs2
      have c2 := h1.stp s2 (by decide)
      have o2 : OF M2 a bk := ⟨_, c2.1⟩
      have n2 : np (upd N (40 + 7 * k + 2) 2) = np N := np_upd (by omega) _
      refine oGetA.i c2.1 rfl (oGetI.i hr2.bk rfl (oIs.i c2.1 (C_setup o2 hr2 (oRef.s (oGetI.i hr2.su rfl (C_putE hr2 lvL g2 (by omega) fun M3 hs3 hr3 => ?_))))))
      have s3 : Mv (lvT tL) M1 ow1 M3 ow1 := s2.tr (lvL.m (k := 2) (by decide) hs3)
      have c3 := h1.stp s3 (by decide)
      have e0 : upd N (40 + 7 * k + 2) 2 0 = N 0 := upd_ne _ _ (by omega)
      have eN : upd (upd N (40 + 7 * k + 2) 2) (40 + 7 * k + 4) (upd N (40 + 7 * k + 2) 2 0 + S 111 * 1440) = acceptN S N k := by
        unfold acceptN; rw [e0, Int32.mul_comm]
      rw [eN] at hr3
      have g3 : OK S (acceptN S N k) := (hg.upd (by unfold OKi; omega) _).upd (by unfold OKi; omega) _
      refine oGetA.i c3.1 rfl (oIs.i hr3.bk (C_offer hr3 lvL g3 fun M4 hs4 hr4 => ?_))
      have s4 : Mv (lvT tL) M1 ow1 M4 ow1 := s3.tr hs4
      have n3 : np (offF S (acceptN S N k)) = np N := by
        unfold offF
        rw [offA_np g3]
        unfold acceptN
        rw [np_upd (by omega), np_upd (by omega)]
      refine gP5 hr4 (by omega) ?_
      have e4 : pP (offF S (acceptN S N k)) k 4 = N 0 + 1440 * S 111 := by
        unfold pP
        rw [offF_ne g3 (fun p hp => by omega)]
        unfold acceptN
        rw [upd_eq]
      rw [e4]
      exact hQ rfl M4 ow1 (hs1.tr (lvR s4)) (CP.up h1 h3 h4 h5 h6 s4 hr4)
    · rw [if_neg c1] at hf2
      exact ⟨7, by omega, C_ckS (b := false) (Nat.le_refl _) (fun c => by cases c) (fun _ q => ⟨rfl, hf2 rfl q⟩)⟩
  · rw [if_neg (by rw [c]; decide)] at hf1
    exact hf1 rfl q
end C16
