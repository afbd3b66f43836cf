set_option maxRecDepth 100000
/-! STAGE 2, component: appeals -/
section C21
variable {G : wG} {l : Nat → Nat → Int64} {M : wM} {ow : Nat → Nat} {a m : Nat} {S N N1 H V : Rw} {b0 : Bool} {n : Nat} {B : Rw} {ec eo : Int32} {w : Nat} {O : Rw}
theorem C_as {x k b : Nat} {st : Int32} (hx : M x = some (FnC S N k)) (hb : 7 ≤ b) (he : FnC S N1 k = .inr (15, [.int (fP N k 0), .int (fP N k 1), .int (fP N k 2), .int (fP N k 3), .int (amt S (fP N k 3)), .int st])) {Q : Option Nat → wM → Prop} (hQ : ∀ q M1, M q = none → Mv [] M ow M1 (va_up ow q 0) → Cl G M1 (va_up ow q 0) 0 q (FnC S N1 k) → Q (some q) M1) : P_X19_as G x st b M Q := by
  refine ⟨hb, fun q hq hz => ?_⟩
  have hne : x ≠ q := fun e => by rw [← e, hx] at hq; cases hq
  have h2 : wIns M q (.inr (15, [.int 0, .int 0, .int 0, .int 0, .int 0, .int 0])) x = some (FnC S N k) := (wIns_ne _ _ hne).trans hx
  refine oGetI.i h2 rfl (oGetI.i h2 rfl (oGetI.i h2 rfl (oGetI.i h2 rfl (oGetI.i h2 rfl ?_))))
  unfold P_X19_init
  refine oPut.f (Nat.le_of_ble_eq_true rfl) hz ?_
  refine oPut.f (Nat.le_of_ble_eq_true rfl) hz ?_
  refine oPut.f (Nat.le_of_ble_eq_true rfl) hz ?_
  refine oPut.f (Nat.le_of_ble_eq_true rfl) hz ?_
  refine oPut.f (Nat.le_of_ble_eq_true rfl) hz ?_
  refine oPut.f (Nat.le_of_ble_eq_true rfl) hz ?_
  refine hQ q _ hq (Mv.nw (by decide) hq _ _) ?_
  rw [he]
  exact Cl.nw M ow hz _ _
theorem C_appeal (h : CP G l M ow tF a S N m H b0 V n B ec eo w O) (hg : OK S N) (hh : ∀ k, k < m → OK S (rowH H k)) (hm : m ≤ 10) (hc : Cl G M ow 0 (G.2.2.2 1) (oarr 0 (fun _ => none))) {A : Rw} (hA : EqR N A) {x : Int32} {b : Nat} (hb : 31000 ≤ b) {Q : Bool → wM → Prop} {Xp : String → Nat → wM → Prop} (hf1 : c_appeal N x = 1 → ∀ q, Xp eIdx q M) (hf2 : c_appeal N x = 2 → ∀ q, Xp eSt q M)
    (hQ : c_appeal N x = 0 → ∀ M1 ow1, Mv tR M ow M1 ow1 → CP G l M1 ow1 tL a S (appealN S N x.toNatClampNeg) (keepN m) (keepH m A H) b0 V n B ec eo w O → Q (apIs S N x.toNatClampNeg) M1) : P_X1_appeal G a x b M Q Xp := by
  have hbd := hg.b
  unfold c_appeal at hf1 hf2 hQ
  have hcp := h
  obtain ⟨bk0, sv0, dq0, bf0, sb0, y0, hof, hbr, -⟩ := hcp
  have ho : OF M a bk0 := ⟨_, hof.1⟩
  refine ho.is ⟨7, by omega, C_fineAt ho hbr hg (Nat.le_refl _) (fun k hk ek c => ?_) (fun c q => ⟨rfl, ?_⟩)⟩
  · rw [if_pos c] at hf1 hf2 hQ
    rw [ek, nI_clamp (by omega)] at hf1 hf2 hQ
    rw [ek]
    have bad : ¬ (fP N k 4 = 0 ∧ ¬ 1440 < N 0 - fP N k 2) → B_X1_appeal_35 G Q Xp a (nI k) (y0 5 k) M (b - 7) := fun e => by
      rw [if_neg e] at hf2
      exact ⟨7, by omega, C_ckS (b := false) (Nat.le_refl _) (fun c => by cases c) (fun _ q => ⟨rfl, hf2 rfl q⟩)⟩
    refine oRef.s (gF5 hbr hk (oIf.c (fun c1 => ?_) (fun c1 => bad fun e => c1 e.1)))
    refine ho.g (oGetI.i hbr.bk rfl (gF2 hbr hk (oIf.c (fun c2 => bad fun e => e.2 c2) (fun c2 => ?_))))
    rw [if_pos ⟨c1, c2⟩] at hQ
    clear bad
    have hQ := hQ rfl
    refine ⟨7, by omega, C_ckS (b := true) (Nat.le_refl _) (fun _ => ?_) (fun c => by cases c)⟩
    refine oIs.i hof.1 ⟨30100, by omega, C_remember h hg hh hm hc hA (Nat.le_refl _) fun M1 ow1 hs1 hp1 => ?_⟩
    obtain ⟨bk, sv, dq, bf, sb, y, h1, h2, h3, h4, h5, h6⟩ := hp1
    have old := hbr.z hs1
    obtain ⟨s, hs, es⟩ := hg.2.2.2.2.2.2.2.2.1 k hk
    have fin : ∀ bb, apIs S N k = bb → B_X1_appeal_83 G Q Xp a (nI k) (y0 5 k) (wb bb) M1 (b - 7 - 7 - 30100) := fun bb ebb => by
      unfold appealN at hQ
      rw [ebb] at hQ
      have step : ∀ st : Int32, st = (if bb then 1 else 2) → B_X1_appeal_102 G Q Xp (wb bb) st (y0 5 k) (nI k) (y 0 4) M1 (b - 7 - 7 - 30100) := fun st est => by
        rw [← est] at hQ
        have hN : FnC S (upd N (940 + 5 * k + 4) st) k = .inr (15, [.int (fP N k 0), .int (fP N k 1), .int (fP N k 2), .int (fP N k 3), .int (amt S (fP N k 3)), .int st]) := by
          have e : ∀ j, j < 4 → fP (upd N (940 + 5 * k + 4) st) k j = fP N k j := fun j hj => upd_ne _ _ (by omega)
          have e4 : fP (upd N (940 + 5 * k + 4) st) k 4 = st := upd_eq _ _ _
          unfold FnC
          rw [e 0 (by decide), e 1 (by decide), e 2 (by decide), e 3 (by decide), e4]
        refine oIs.i (old.fo hk) ⟨7, by omega, C_as (ow := ow1) (N1 := upd N (940 + 5 * k + 4) st) (old.fo hk) (Nat.le_refl _) hN fun q M2 hq hs2 hC2 => ?_⟩
        have r2 := h2.stp hs2 (fun _ _ => by simp)
        refine isA r2.fl (C_setF r2 lvL hbd hk hC2 (fun j hj => upd_ne _ _ (by omega)) fun M3 hs3 hr3 => ⟨bb, rfl, ?_⟩)
        have s3 : Mv (lvT tL) M1 ow1 M3 (va_up ow1 q 0) := (hs2.mono (by simp) (by decide)).tr hs3
        exact hQ M3 _ (hs1.tr (lvR s3)) (CP.up h1 h3 h4 h5 h6 s3 hr3)
      refine oGetA.i h1.1 rfl (oGetA.i h2.bk rfl ?_)
      cases bb with
      | false => exact oIf.y rfl (step 2 rfl)
      | true => exact oIf.n (by decide) (step 1 rfl)
    have chk : (fP N k 3 = 1 ∨ fP N k 3 = 3) → B_X1_appeal_59 G Q Xp a (nI k) (y0 5 k) M1 (b - 7 - 7 - 30100) := fun e => by
      refine oGetA.i h1.1 rfl (gF0 old hk (gF1 old hk ?_))
      have e2 : (decide (fP N k 3 = 1) || decide (fP N k 3 = 3)) = true := by simpa using e
      unfold apIs at fin
      rw [e2, Bool.true_and, es, nI_clamp (by omega)] at fin
      rw [es]
      exact oIs.i h2.bk (C_hasPermit h2 hg hs (bl _ (fun z => fin true z) (fun z => fin false z)))
    refine gF3 old hk (oIf.c (fun e => chk (.inl e)) (fun e => gF3 old hk (oIf.c (fun e2 => chk (.inr e2)) (fun e2 => fin false ?_))))
    unfold apIs
    rw [decide_eq_false e, decide_eq_false e2]; rfl
  · rw [if_neg (by rw [c]; decide)] at hf1
    exact hf1 rfl q
end C21
