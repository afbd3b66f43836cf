set_option maxRecDepth 100000
/-! STAGE 2, component: cancel, set a limit, renew -/
section C17
variable {G : wG} {l : Nat → Nat → Int64} {M : wM} {ow : Nat → Nat} {a m : Nat} {S N H V : Rw} {b0 : Bool} {n : Nat} {B : Rw} {ec eo : Int32} {w : Nat} {O : Rw}
theorem C_cancel (h : CP G l M ow tF a S N m H b0 V n B ec eo w O) (hg : OK S N) (hh : ∀ k, k < m → OK S (rowH H k)) (hm : m ≤ 10) (hc : Cl G M ow 0 (G.2.2.2 1) (oarr 0 (fun _ => none))) {A : Rw} (hA : EqR N A) {x : Int32} {b : Nat} (hb : 31000 ≤ b) {Q : Int32 → wM → Prop} {Xp : String → Nat → wM → Prop} (hf1 : c_cancel N x = 1 → ∀ q, Xp eIdx q M) (hf2 : c_cancel N x = 2 → ∀ q, Xp eSt q M)
    (hQ : c_cancel N x = 0 → ∀ M1 ow1, Mv tR M ow M1 ow1 → CP G l M1 ow1 tL a S (offF S (cancelN N x.toNatClampNeg)) (keepN m) (keepH m A H) b0 V n B ec eo w O → Q (pP N x.toNatClampNeg 2) M1) : P_X1_cancel G a x b M Q Xp := by
  have hbd := hg.b
  unfold c_cancel at hf1 hf2 hQ
  have hcp := h
  obtain ⟨bk0, sv0, dq0, bf0, sb0, y0, hof, hbr, -⟩ := hcp
  have ho : OF M a bk0 := ⟨_, hof.1⟩
  refine ho.is ⟨7, by omega, C_permitAt ho hbr hg (Nat.le_refl _) (fun k hk ek c => ?_) (fun c q => ⟨rfl, ?_⟩)⟩
  · rw [if_pos c] at hf1 hf2 hQ
    rw [ek, nI_clamp (by omega)] at hf1 hf2 hQ
    rw [ek]
    refine oRef.s (oIs.i (hbr.po hk) (C_active hbr hk ⟨7, by omega, C_ckS (Nat.le_refl _) (fun c1 => ?_) (fun c1 q => ⟨rfl, ?_⟩)⟩))
    · rw [Bool.not_eq_true', decide_eq_false_iff_not] at c1
      rw [if_neg c1] at hQ
      refine oIs.i hof.1 ⟨30100, by omega, C_remember h hg hh hm hc hA (Nat.le_refl _) fun M1 ow1 hs1 hp1 => ?_⟩
      obtain ⟨bk, sv, dq, bf, sb, y, h1, h2, h3, h4, h5, h6⟩ := hp1
      refine oGetA.i h1.1 rfl (oGetA.i h2.bk rfl (isA h2.pl (E_get h2.pl hk (kP h2 hk (oRef.s (C_putS h2 lvL hg hk fun M2 hs2 hr2 => ?_))))))
      have g2 : OK S (cancelN N k) := hg.upd (by unfold OKi; omega) _
      have s2 : Mv (lvT tL) M1 ow1 M2 ow1 := lvL.m (k := 2) (by decide) hs2
      have c2 := h1.stp s2 (by decide)
      refine oGetA.i c2.1 rfl (oIs.i hr2.bk (C_offer hr2 lvL g2 fun M4 hs4 hr4 => ?_))
      have s4 : Mv (lvT tL) M1 ow1 M4 ow1 := s2.tr hs4
      have old := hbr.z (hs1.tr (lvR s4))
      exact gP4 old hk (hQ rfl M4 ow1 (hs1.tr (lvR s4)) (CP.up h1 h3 h4 h5 h6 s4 hr4))
    · rw [Bool.not_eq_false', decide_eq_true_eq] at c1
      rw [if_pos c1] at hf2
      exact hf2 rfl q
  · rw [if_neg (by rw [c]; decide)] at hf1
    exact hf1 rfl q
theorem C_setLimit (h : CP G l M ow tF a S N m H b0 V n B ec eo w O) (hg : OK S N) (hh : ∀ k, k < m → OK S (rowH H k)) (hm : m ≤ 10) (hc : Cl G M ow 0 (G.2.2.2 1) (oarr 0 (fun _ => none))) {A : Rw} (hA : EqR N A) {z x : Int32} {b : Nat} (hb : 31000 ≤ b) {Q : Int32 → wM → Prop} {Xp : String → Nat → wM → Prop} (hf1 : c_setLimit S N z x = 1 → ∀ q, Xp eIdx q M) (hf2 : c_setLimit S N z x = 2 → ∀ q, Xp eArg q M) (hf3 : c_setLimit S N z x = 3 → ∀ q, Xp eSt q M)
    (hQ : c_setLimit S N z x = 0 → ∀ M1 ow1, Mv tR M ow M1 ow1 → CP G l M1 ow1 tL a S (offF S (limitN N z.toNatClampNeg x)) (keepN m) (keepH m A H) b0 V n B ec eo w O → Q (N (5 + z.toNatClampNeg)) M1) : P_X1_setLimit G a z x b M Q Xp := by
  have hbd := hg.b
  unfold c_setLimit at hf1 hf2 hf3 hQ
  have hcp := h
  obtain ⟨bk0, sv0, dq0, bf0, sb0, y0, hof, hbr, -⟩ := hcp
  have ho : OF M a bk0 := ⟨_, hof.1⟩
  refine ho.is ⟨7, by omega, C_checkZone ho hbr hg (Nat.le_refl _) (fun k hk ek c => ?_) (fun c q => ⟨rfl, ?_⟩)⟩
  · rw [if_pos c] at hf1 hf2 hf3 hQ
    refine S_inR ⟨7, by omega, C_ckA (Nat.le_refl _) (fun c2 => ?_) (fun c2 q => ⟨rfl, ?_⟩)⟩
    · rw [if_pos c2] at hf1 hf2 hf3 hQ
      rw [ek, nI_clamp (by omega)] at hQ
      rw [ek] at hf3
      rw [ek]
      refine ho.g (oIs.i hbr.bk (C_taken hbr hg (oIf.c (fun c3 => ?_) (fun c3 => ?_))))
      · rw [if_neg (Int32.not_le.mpr c3)] at hf3
        exact ⟨7, by omega, C_ckS (b := false) (Nat.le_refl _) (fun c => by cases c) (fun _ q => ⟨rfl, hf3 rfl q⟩)⟩
      · rw [if_pos (Int32.not_lt.mp c3)] at hQ
        refine ⟨7, by omega, C_ckS (b := true) (Nat.le_refl _) (fun _ => ?_) (fun c => by cases c)⟩
        refine ho.g (oGetA.i hbr.bk rfl (C_ldL hbr hg hk (oIs.i hof.1 ⟨30100, by omega, C_remember h hg hh hm hc hA (Nat.le_refl _) fun M1 ow1 hs1 hp1 => ?_⟩)))
        obtain ⟨bk, sv, dq, bf, sb, y, h1, h2, h3, h4, h5, h6⟩ := hp1
        refine oGetA.i h1.1 rfl (oGetA.i h2.bk rfl (C_stL h2 lvL hg hk fun M2 hs2 hr2 => ?_))
        have g2 : OK S (limitN N k x) := hg.upd (by unfold OKi; omega) _
        have s2 : Mv (lvT tL) M1 ow1 M2 ow1 := lvL.m (k := 8) (by decide) hs2
        have c2 := h1.stp s2 (by decide)
        refine oGetA.i c2.1 rfl (oIs.i hr2.bk (C_offer hr2 lvL g2 fun M4 hs4 hr4 => ?_))
        have s4 : Mv (lvT tL) M1 ow1 M4 ow1 := s2.tr hs4
        exact hQ rfl M4 ow1 (hs1.tr (lvR s4)) (CP.up h1 h3 h4 h5 h6 s4 hr4)
    · rw [if_neg (by rw [c2]; decide)] at hf2
      exact hf2 rfl q
  · rw [if_neg (by rw [c]; decide)] at hf1
    exact hf1 rfl q
end C17
