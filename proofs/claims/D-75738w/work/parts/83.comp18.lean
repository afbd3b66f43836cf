set_option maxRecDepth 100000
/-! STAGE 2, component: undo, save, restore -/
section C18
variable {G : wG} {l : Nat → Nat → Int64} {M : wM} {ow : Nat → Nat} {a m : Nat} {S N H V : Rw} {b0 : Bool} {n : Nat} {B : Rw} {ec eo : Int32} {w : Nat} {O : Rw}
theorem C_undo (h : CP G l M ow tF a S N m H b0 V n B ec eo w O) {b : Nat} (hb : 31000 ≤ b) {Q : Int32 → wM → Prop} {Xp : String → Nat → wM → Prop} (hf : m = 0 → ∀ q, Xp eSt q M)
    (hQ : 0 < m → ∀ M1, Mv tR M ow M1 ow → CP G l M1 ow tF a S (rowH H (m - 1)) (m - 1) H b0 V n B ec eo w O → Q (nI (m - 1)) M1) : P_X1_undo G a b M Q Xp := by
  obtain ⟨bk, sv, dq, bf, sb, y, h1, h2, ⟨g, h3, h3b⟩, h4, h5, h6⟩ := h
  refine oGetA.i h1.1 rfl (h3.is (S_dqempty h3 (oIf.c (fun c => ?_) (fun c => ?_))))
  · exact ⟨7, by omega, C_ckS (b := false) (Nat.le_refl _) (fun c => by cases c) (fun _ q => ⟨rfl, hf (of_decide_eq_true c) q⟩)⟩
  · have c0 : 0 < m := by
      have : m ≠ 0 := fun e => c (decide_eq_true e)
      omega
    refine ⟨7, by omega, C_ckS (b := true) (Nat.le_refl _) (fun _ => ?_) (fun c => by cases c)⟩
    refine oGetA.i h1.1 rfl (h3.is (S_dqlast h3 (by decide) c0 fun M1 hs1 hd1 => ?_))
    obtain ⟨y1, hy1⟩ := h3b (m - 1) (by omega)
    have c1 := h1.stp hs1 (by decide)
    have r1 := hy1.z hs1
    refine oCast.s r1.bk (oPut.m c1 (by decide) (by simp) rfl fun M2 e2 hs2 c2 => ?_)
    have s02 : Mv tR M ow M2 ow := (hs1.mono (U := tR) (by decide) (by decide)).tr (hs2.mono (by decide) (by decide))
    have d2 := hd1.stp hs2 (by decide)
    refine oGetA.i c2.1 rfl (d2.is (S_dqsize d2 (hQ c0 M2 s02 ⟨g (m - 1), sv, dq, bf, sb, y1, c2, r1.z hs2, ⟨g, d2, fun k hk => ?_⟩, h4.stp s02, h5.stp s02 (by decide), h6.stp s02 (by decide)⟩)))
    obtain ⟨y', hy'⟩ := h3b k (by omega)
    exact ⟨y', hy'.z s02⟩
/-- freezes and lives: what a call changes in the owners -/
theorem C_saveState (h : CP G l M ow tF a S N m H b0 V n B ec eo w O) (hg : OK S N) (hc : Cl G M ow 0 (G.2.2.2 1) (oarr 0 (fun _ => none))) {V1 : Rw} (hV : EqR N V1) {b : Nat} (hb : 31000 ≤ b) {Q : Int32 → wM → Prop}
    (hQ : ∀ M1 ow1, Mv tR M ow M1 ow1 → CP G l M1 (fun q => fzO (ow1 q)) tF a S N m H true V1 n B ec eo w O → Q (N 0) M1) : P_X1_saveState G a b M Q := by
  obtain ⟨bk, sv, dq, bf, sb, y, h1, h2, h3, h4, h5, h6⟩ := h
  refine oGetA.i h1.1 rfl (oIs.i h2.bk ⟨30000, by omega, C_copy h2 hg hc (Nat.le_refl _) fun q M3 ow3 y3 hq hs3 hr3 => ?_⟩)
  have c3 := h1.stp hs3 (by decide)
  refine oPut.m c3 (by decide) (by simp) rfl fun M4 e4 hs4 c4 => ?_
  have s04 : Mv tR M ow M4 ow3 := (hs3.mono (U := tR) (by decide) (by decide)).tr (hs4.mono (by decide) (by decide))
  have s124 : Mv [1, 2, 10, 11, 12, 13, 14, 15, 16, 17, 18, 19] M ow M4 ow3 := (hs3.mono (by decide) (by decide)).tr (hs4.mono (by decide) (by decide))
  have r4 := h2.z s04
  refine oGetA.i c4.1 rfl (oGetI.i r4.bk rfl (hQ M4 ow3 s04 ?_))
  refine ⟨bk, some q, dq, bf, sb, y, c4.mp (φ := fzO) rfl, r4.fz0, (h3.stp s124 (by decide)).fz, ?_, (h5.stp s04 (by decide)).fz, (h6.stp s04 (by decide)).mp (φ := fzO) rfl⟩
  have r5 := (hr3.stp hs4 (by decide)).val hg hV
  exact .inr ⟨q, y3, rfl, rfl, r5.fz⟩
theorem C_restoreState (h : CP G l M ow tF a S N m H b0 V n B ec eo w O) (hg : b0 = true → OK S V) (hc : Cl G M ow 0 (G.2.2.2 1) (oarr 0 (fun _ => none))) {H1 : Rw} {b : Nat} (hb : 31000 ≤ b) {Q : Int32 → wM → Prop} {Xp : String → Nat → wM → Prop} (hf : b0 = false → ∀ q, Xp eSt q M)
    (hQ : b0 = true → ∀ M1 ow1, Mv tR M ow M1 ow1 → CP G l M1 ow1 tL a S V 0 H1 b0 V n B ec eo w O → Q (V 0) M1) : P_X1_restoreState G a b M Q Xp := by
  obtain ⟨bk, sv, dq, bf, sb, y, h1, h2, ⟨g, h3, h3b⟩, h4, h5, h6⟩ := h
  have h4' := h4
  rcases h4' with ⟨e1, e2⟩ | ⟨s, ys, e1, e2, hr⟩
  · refine oGetR.i h1.1 rfl ?_
    rw [e1]
    exact oNull.n ⟨7, by omega, C_ckS (b := false) (Nat.le_refl _) (fun c => by cases c) (fun _ q => ⟨rfl, hf e2 q⟩)⟩
  · refine oGetR.i h1.1 rfl ?_
    rw [e1]
    refine oNull.s ⟨7, by omega, C_ckS (b := true) (Nat.le_refl _) (fun _ => ?_) (fun c => by cases c)⟩
    refine oGetR.i h1.1 rfl ?_
    rw [e1]
    refine oRef.s (oIs.i hr.bk ⟨30000, by omega, C_copy hr (hg e2) hc (Nat.le_refl _) fun q M3 ow3 y3 hq hs3 hr3 => ?_⟩)
    have c3 := h1.stp hs3 (by decide)
    refine oPut.m c3 (by decide) (by simp) rfl fun M4 e4 hs4 c4 => ?_
    have s124 : Mv [1, 2, 10, 11, 12, 13, 14, 15, 16, 17, 18, 19] M ow M4 ow3 := (hs3.mono (by decide) (by decide)).tr (hs4.mono (by decide) (by decide))
    have d4 := h3.stp s124 (by decide)
    refine oGetA.i c4.1 rfl (d4.is (S_dqclear d4 (by decide) fun M5 hs5 hd5 => ?_))
    have s05 : Mv tR M ow M5 ow3 := (s124.mono (U := tR) (by decide) (by decide)).tr (hs5.mono (by decide) (by decide))
    have c5 := c4.stp hs5 (by decide)
    have r5 := (hr3.stp hs4 (by decide)).stp hs5 (by decide)
    refine oGetA.i c5.1 rfl (oGetI.i r5.bk rfl (hQ e2 M5 ow3 s05 ?_))
    exact ⟨q, sv, dq, bf, sb, y3, c5, r5, ⟨g, hd5, fun k hk => by omega⟩, h4.stp s05, h5.stp s05 (by decide), h6.stp s05 (by decide)⟩
end C18
