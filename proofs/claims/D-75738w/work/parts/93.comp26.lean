set_option maxRecDepth 100000
/-! STAGE 2, component: extend, endVisit, park -/
theorem upd_sw (f : Nat → Int32) {a b : Nat} (x y : Int32) (h : a ≠ b) : upd (upd f a x) b y = upd (upd f b y) a x := by
  funext j; unfold upd
  by_cases e : j = b
  · rw [if_pos e, if_neg (fun z => h (z.symm.trans e)), if_pos e]
  · rw [if_neg e, if_neg e]
section C26
variable {G : wG} {l : Nat → Nat → Int64} {M : wM} {ow : Nat → Nat} {a m : Nat} {S N H V : Rw} {b0 : Bool} {n : Nat} {B : Rw} {ec eo : Int32} {w : Nat} {O : Rw}
theorem C_extend (h : CP G l M ow tF a S N m H b0 V n B ec eo w O) (hg : OK S N) (hv : VB N) (hh : ∀ k, k < m → OK S (rowH H k)) (hm : m ≤ 10) (hc : Cl G M ow 0 (G.2.2.2 1) (oarr 0 (fun _ => none))) {A : Rw} (hA : EqR N A) {x u : Int32} {b : Nat} (hb : 32000 ≤ b) {Q : Int32 → wM → Prop} {Xp : String → Nat → wM → Prop} (hf1 : c_extend N x u = 1 → ∀ q, Xp eIdx q M) (hf2 : c_extend N x u = 2 → ∀ q, Xp eArg q M) (hf3 : c_extend N x u = 3 → ∀ q, Xp eSt q M)
    (hQ : c_extend N x u = 0 → ∀ M1 ow1, Mv tR M ow M1 ow1 → CP G l M1 ow1 tL a S (extendN N x.toNatClampNeg (vP N x.toNatClampNeg 0).toNatClampNeg u) (keepN m) (keepH m A H) b0 V n B ec eo w O → Q (vP N x.toNatClampNeg 3 + 60 * u) M1) : P_X1_extend G a x u b M Q Xp := by
  have hbd := hg.b
  unfold c_extend at hf1 hf2 hf3 hQ
  have hcp := h
  obtain ⟨bk0, sv0, dq0, bf0, sb0, y0, hof, hbr, -⟩ := hcp
  have ho : OF M a bk0 := ⟨_, hof.1⟩
  refine ho.is ⟨7, by omega, C_visitAt ho hbr hg (Nat.le_refl _) (fun k hk ek c => ?_) (fun c q => ⟨rfl, ?_⟩)⟩
  · rw [if_pos c] at hf1 hf2 hf3 hQ
    refine ⟨7, by omega, C_checkHours (Nat.le_refl _) (fun c2 => ?_) (fun c2 q => ⟨rfl, ?_⟩)⟩
    · rw [if_pos c2] at hf1 hf2 hf3 hQ
      subst ek
      rw [nI_clamp (show k < 2 ^ 31 by omega)] at hf3 hQ
      obtain ⟨hh0, hhh, eh⟩ := hg.2.2.2.2.2.2.1 k hk
      rw [eh, nI_clamp (show hh0 < 2 ^ 31 by omega)] at hf3 hQ
      have bad : ¬ (runsV N k = true ∧ u ≤ N (23 + hh0)) → B_X1_extend_44 G Q Xp a (nI k) u M (b - 7 - 7) := fun e => by
        rw [if_neg e] at hf3
        exact ⟨7, by omega, C_ckS (b := false) (Nat.le_refl _) (fun c => by cases c) (fun _ q => ⟨rfl, hf3 rfl q⟩)⟩
      refine ho.g (oGetI.i hbr.bk rfl (oRef.s (iV hbr hk (C_runs hbr hv hk (bl _ (fun c3 => ?_) (fun c3 => bad fun e => by rw [c3] at e; exact absurd e.1 (by decide)))))))
      refine ho.g (oGetA.i hbr.bk rfl (gV0 hbr hk ?_))
      rw [eh]
      refine C_ldH hbr hg hhh (oIf.c (fun c4 => bad fun e => Int32.not_le.mpr c4 e.2) (fun c4 => ?_))
      clear bad
      rw [if_pos ⟨c3, Int32.not_lt.mp c4⟩] at hQ
      refine ⟨7, by omega, C_ckS (b := true) (Nat.le_refl _) (fun _ => ?_) (fun c => by cases c)⟩
      refine oIs.i hof.1 ⟨30100, by omega, C_remember h hg hh hm hc hA (Nat.le_refl _) fun M1 ow1 hs1 hp1 => ?_⟩
      obtain ⟨bk, sv, dq, bf, sb, y, h1, h2, h3, h4, h5, h6⟩ := hp1
      refine oGetA.i h1.1 rfl (oGetA.i h2.bk rfl (isA h2.vl (E_get h2.vl hk (kV h2 hk (oGetA.i h1.1 rfl (oRef.s (gV0 h2 hk (oIs.i h2.bk ⟨100, by omega, ?_⟩))))))))
      rw [eh]
      refine oGetA.i h2.bk rfl (C_ldH h2 hg hhh (oIf.y (Int32.not_lt.mp c4) (oGetA.i h2.bk rfl (C_ldH h2 hg hhh (C_stH h2 lvL hg hhh fun M2 hs2 hr2 => ?_)))))
      have s2 : Mv (lvT tL) M1 ow1 M2 ow1 := lvL.m (k := 9) (by decide) hs2
      have g2 : OK S (upd N (23 + hh0) (N (23 + hh0) - u)) := hg.upd (by unfold OKi; omega) _
      have nv2 : nv (upd N (23 + hh0) (N (23 + hh0) - u)) = nv N := nv_c (upd_ne _ _ (by omega))
      have e23 : vP (upd N (23 + hh0) (N (23 + hh0) - u)) k 3 = vP N k 3 := upd_ne _ _ (by omega)
      refine gV3 hr2 (by rw [nv2]; exact hk) ?_
      rw [e23]
      unfold P_X10_hours
      refine C_putV hr2 lvL g2.b (by rw [nv2]; exact hk) fun M3 hs3 hr3 => ?_
      have s3 : Mv (lvT tL) M1 ow1 M3 ow1 := s2.tr hs3
      rw [Int32.mul_comm u] at hr3
      have eN : upd (upd N (23 + hh0) (N (23 + hh0) - u)) (460 + 4 * k + 3) (vP N k 3 + 60 * u) = extendN N k hh0 u := rfl
      rw [eN] at hr3
      have nv3 : nv (extendN N k hh0 u) = nv N := by rw [← eN]; exact (nv_c (upd_ne _ _ (by omega))).trans nv2
      refine gV3 hr3 (by rw [nv3]; exact hk) ?_
      have e33 : vP (extendN N k hh0 u) k 3 = vP N k 3 + 60 * u := upd_eq _ _ _
      rw [e33]
      exact hQ rfl M3 ow1 (hs1.tr (lvR s3)) (CP.up h1 h3 h4 h5 h6 s3 hr3)
    · rw [if_neg (by rw [c2]; decide)] at hf2
      exact hf2 rfl q
  · rw [if_neg (by rw [c]; decide)] at hf1
    exact hf1 rfl q
theorem C_endVisit (h : CP G l M ow tF a S N m H b0 V n B ec eo w O) (hg : OK S N) (hv : VB N) (hh : ∀ k, k < m → OK S (rowH H k)) (hm : m ≤ 10) (hc : Cl G M ow 0 (G.2.2.2 1) (oarr 0 (fun _ => none))) {A : Rw} (hA : EqR N A) {x : Int32} {b : Nat} (hb : 32000 ≤ b) {Q : Int32 → wM → Prop} {Xp : String → Nat → wM → Prop} (hf1 : c_endVisit N x = 1 → ∀ q, Xp eIdx q M) (hf2 : c_endVisit N x = 2 → ∀ q, Xp eSt q M)
    (hQ : c_endVisit N x = 0 → ∀ M1 ow1, Mv tR M ow M1 ow1 → CP G l M1 ow1 tL a S (endN S N x.toNatClampNeg (vP N x.toNatClampNeg 0).toNatClampNeg) (keepN m) (keepH m A H) b0 V n B ec eo w O → Q (backV S N x.toNatClampNeg (vP N x.toNatClampNeg 0).toNatClampNeg) M1) : P_X1_endVisit G a x b M Q Xp := by
  have hbd := hg.b
  unfold c_endVisit at hf1 hf2 hQ
  have hcp := h
  obtain ⟨bk0, sv0, dq0, bf0, sb0, y0, hof, hbr, -⟩ := hcp
  have ho : OF M a bk0 := ⟨_, hof.1⟩
  refine ho.is ⟨7, by omega, C_visitAt ho hbr hg (Nat.le_refl _) (fun k hk ek c => ?_) (fun c q => ⟨rfl, ?_⟩)⟩
  · rw [if_pos c] at hf1 hf2 hQ
    subst ek
    rw [nI_clamp (show k < 2 ^ 31 by omega)] at hf2 hQ
    obtain ⟨hh0, hhh, eh⟩ := hg.2.2.2.2.2.2.1 k hk
    rw [eh, nI_clamp (show hh0 < 2 ^ 31 by omega)] at hQ
    refine ho.g (oGetI.i hbr.bk rfl (oRef.s (iV hbr hk (C_runs hbr hv hk ⟨7, by omega, C_ckS (Nat.le_refl _) (fun c3 => ?_) (fun c3 q => ⟨rfl, ?_⟩)⟩))))
    · rw [if_pos c3] at hQ
      refine oIs.i hof.1 ⟨30100, by omega, C_remember h hg hh hm hc hA (Nat.le_refl _) fun M1 ow1 hs1 hp1 => ?_⟩
      obtain ⟨bk, sv, dq, bf, sb, y, h1, h2, h3, h4, h5, h6⟩ := hp1
      refine oGetA.i h1.1 rfl (oGetA.i h2.bk rfl (isA h2.vl (E_get h2.vl hk (kV h2 hk (oRef.s (gV3 h2 hk (oGetA.i h1.1 rfl (oGetI.i h2.bk rfl (oGetA.i h1.1 rfl (oGetI.i h2.bk rfl ?_))))))))))
      refine C_putV h2 lvL hbd hk fun M2 hs2 hr2 => ?_
      have c2 := h1.stp hs2 (by decide)
      have o2 : OF M2 a bk := ⟨_, c2.1⟩
      have g2 : OK S (upd N (460 + 4 * k + 3) (N 0)) := hg.upd (by unfold OKi; omega) _
      have nv2 : nv (upd N (460 + 4 * k + 3) (N 0)) = nv N := nv_c (upd_ne _ _ (by omega))
      have e20 : vP (upd N (460 + 4 * k + 3) (N 0)) k 0 = nI hh0 := (upd_ne _ _ (by omega)).trans eh
      have e2h : upd N (460 + 4 * k + 3) (N 0) (23 + hh0) = N (23 + hh0) := upd_ne _ _ (by omega)
      refine oGetA.i c2.1 rfl (oGetA.i hr2.bk rfl (gV0 hr2 (by rw [nv2]; exact hk) (oIs.i c2.1 (C_setup o2 hr2 (oRef.s (oGetA.i hr2.su rfl (gV0 hr2 (by rw [nv2]; exact hk) (isA hr2.hl ?_))))))))
      rw [e20]
      refine E_get hr2.hl hhh (kH hr2 hhh (oRef.s (gH2 hr2 hhh (oGetA.i c2.1 rfl (oGetA.i hr2.bk rfl (gV0 hr2 (by rw [nv2]; exact hk) ?_))))))
      rw [e20]
      refine C_ldH hr2 g2 hhh ?_
      rw [e2h]
      have eb : (if N (23 + hh0) + (vP N k 3 - N 0) / (60 : Int32) < S (95 + hh0) then N (23 + hh0) + (vP N k 3 - N 0) / (60 : Int32) else S (95 + hh0)) = backV S N k hh0 := by
        unfold backV
        by_cases z : N (23 + hh0) + (vP N k 3 - N 0) / (60 : Int32) < S (95 + hh0)
        · rw [if_pos z, if_pos (Int32.le_of_lt z)]
        · rw [if_neg z]
          by_cases z2 : N (23 + hh0) + (vP N k 3 - N 0) / (60 : Int32) ≤ S (95 + hh0)
          · rw [if_pos z2]; exact Int32.le_antisymm (Int32.not_lt.mp z) z2
          · rw [if_neg z2]
      rw [eb]
      refine C_stH hr2 lvL g2 hhh fun M3 hs3 hr3 => ?_
      have s3 : Mv (lvT tL) M1 ow1 M3 ow1 := hs2.tr (lvL.m (k := 9) (by decide) hs3)
      have c3' := h1.stp s3 (by decide)
      have eN : upd (upd N (460 + 4 * k + 3) (N 0)) (23 + hh0) (backV S N k hh0) = endN S N k hh0 := upd_sw _ _ _ (by omega)
      rw [eN] at hr3
      have g3 : OK S (endN S N k hh0) := (hg.upd (by unfold OKi; omega) _).upd (by unfold OKi; omega) _
      have nv3 : nv (endN S N k hh0) = nv N := nv_c (by rw [← eN]; exact (upd_ne _ _ (by omega)).trans (upd_ne _ _ (by omega)))
      have e30 : vP (endN S N k hh0) k 0 = nI hh0 := by rw [← eN]; exact (upd_ne _ _ (by omega)).trans e20
      have e3h : endN S N k hh0 (23 + hh0) = backV S N k hh0 := by rw [← eN]; exact upd_eq _ _ _
      refine oGetA.i c3'.1 rfl (oGetA.i hr3.bk rfl (gV0 hr3 (by rw [nv3]; exact hk) ?_))
      rw [e30]
      refine C_ldH hr3 g3 hhh ?_
      rw [e3h]
      exact hQ rfl M3 ow1 (hs1.tr (lvR s3)) (CP.up h1 h3 h4 h5 h6 s3 hr3)
    · rw [if_neg (by rw [c3]; decide)] at hf2
      exact hf2 rfl q
  · rw [if_neg (by rw [c]; decide)] at hf1
    exact hf1 rfl q
end C26
section C26B
variable {G : wG} {l : Nat → Nat → Int64} {M : wM} {ow : Nat → Nat} {τ : Nat → Nat} {a : Nat} {y : Nat → Nat → Nat} {S N : Rw}
def pkOk (S N : Rw) (k : Nat) (x : Int32) : Prop := carOf N x = -1 ∧ ¬ freeIn S N k ≤ 0 ∧ nc N < 80
theorem C_checkPark (h : BR G l M ow τ a y S N) (hi : I1 τ) (hg : OK S N) {k : Nat} (hk : k < ns S) {x : Int32} {b : Nat} (hb : 100 ≤ b) {Q : wM → Prop} {Xp : String → Nat → wM → Prop} (hQ : pkOk S N k x → ∀ M1 ow1, Mv [1] M ow M1 ow1 → Q M1) (hX : ¬ pkOk S N k x → ∀ q M1 ow1, Mv [1] M ow M1 ow1 → Xp eNP q M1 ∧ Xp eNN q M1) : P_X2_checkPark G a x (nI k) b M Q Xp := by
  have hbd := hg.b
  have bad : ∀ M1 ow1 b', 7 ≤ b' → Mv [1] M ow M1 ow1 → ¬ pkOk S N k x → B_X2_checkPark_37 G Q Xp M1 b' := fun M1 ow1 b' hb' hs hn => by
    unfold B_X2_checkPark_37
    exact S_nNP (ow := ow1) hb' fun q M2 ow2 hs2 => (hX hn q M2 ow2 (hs.tr hs2)).1
  refine oIs.i h.bk ⟨6, by omega, C_carOf h hi hg (Nat.le_refl _) fun M1 ow1 hs1 => ?_⟩
  have h1 := h.stp hs1 hi
  by_cases c : carOf N x = -1
  · rw [if_pos c]
    refine oNull.n (oIs.i h1.bk ⟨6, by omega, C_free h1 hi hg hk (Nat.le_refl _) fun M2 ow2 hs2 => ?_⟩)
    have s2 := hs1.tr hs2
    have h2 := h.stp s2 hi
    refine oIf.c (fun c2 => bad M2 ow2 _ (by omega) s2 fun e => e.2.1 c2) (fun c2 => oGetA.i h2.bk rfl (isL h2.cl (E_llsize h2.cl (oIf.c (fun c3 => bad M2 ow2 _ (by omega) s2 fun e => ?_) (fun c3 => hQ ⟨c, c2, ?_⟩ M2 ow2 s2)))))
    · have := nI_inj (b := 80) (by omega) (by decide) c3
      have := e.2.2
      omega
    · rcases Nat.lt_or_ge (nc N) 80 with z | z
      · exact z
      · exact absurd (congrArg nI (show nc N = 80 by omega)) c3
  · rw [if_neg c]
    refine oNull.s ?_
    exact S_nNN (ow := ow1) (by omega) fun q M2 ow2 hs2 => (hX (fun e => c e.1) q M2 ow2 (hs1.tr hs2)).2
end C26B
theorem S_cin {G : wG} {M : wM} {q : Nat} {p1 p2 p3 : Int32} {v0 v1 v2 : Value} {E : wE} {κ : wM → Prop} (hz : wz G ≤ q) (hE : E = .inr (14, [.int p1, .int p2, .int p3])) (hp : κ (wIns M q E)) : P_X18_init G q p1 p2 p3 (wIns M q (.inr (14, [v0, v1, v2]))) κ := by
  subst hE
  unfold P_X18_init
  exact oPut.f (Nat.le_of_ble_eq_true rfl) hz (oPut.f (Nat.le_of_ble_eq_true rfl) hz (oPut.f (Nat.le_of_ble_eq_true rfl) hz hp))
section C26C
variable {G : wG} {l : Nat → Nat → Int64} {M : wM} {ow : Nat → Nat} {a m : Nat} {S N H V : Rw} {b0 : Bool} {n : Nat} {B : Rw} {ec eo : Int32} {w : Nat} {O : Rw}
theorem C_park (h : CP G l M ow tF a S N m H b0 V n B ec eo w O) (hg : OK S N) (hh : ∀ k, k < m → OK S (rowH H k)) (hm : m ≤ 10) (hc : Cl G M ow 0 (G.2.2.2 1) (oarr 0 (fun _ => none))) {A : Rw} (hA : EqR N A) {x s : Int32} {b : Nat} (hb : 32000 ≤ b) {Q : Int32 → wM → Prop} {Xp : String → Nat → wM → Prop} (hf1 : c_park S N x s = 1 → ∀ q, Xp eIdx q M) (hf2 : c_park S N x s = 2 → ∀ q, Xp eArg q M) (hf3 : c_park S N x s = 3 → ∀ M1 ow1, Mv [1] M ow M1 ow1 → ∀ q, Xp eSt q M1)
    (hQ : c_park S N x s = 0 → ∀ M1 ow1, Mv tR M ow M1 ow1 → CP G l M1 ow1 tL a S (parkN N x s) (keepN m) (keepH m A H) b0 V n B ec eo w O → Q (nI (carsIn (parkN N x s) s)) M1) : P_X1_park G a x s b M Q Xp := by
  have hbd := hg.b
  unfold c_park at hf1 hf2 hf3 hQ
  have hcp := h
  obtain ⟨bk0, sv0, dq0, bf0, sb0, y0, hof, hbr, -⟩ := hcp
  have ho : OF M a bk0 := ⟨_, hof.1⟩
  refine ho.is ⟨7, by omega, C_checkStreet ho hbr hg (Nat.le_refl _) (fun k hk ek c => ?_) (fun c q => ⟨rfl, ?_⟩)⟩
  · rw [if_pos c] at hf1 hf2 hf3 hQ
    refine ⟨7, by omega, C_checkPlate (Nat.le_refl _) (fun c2 => ?_) (fun c2 q => ⟨rfl, ?_⟩)⟩
    · rw [if_pos c2] at hf1 hf2 hf3 hQ
      subst ek
      rw [nI_clamp (show k < 2 ^ 31 by omega)] at hf3 hQ
      have bad : ¬ pkOk S N k x → ∀ q M1 ow1, Mv [1] M ow M1 ow1 → B_X1_park_21 G Q Xp q M1 (b - 7 - 7 - 100) := fun e q M1 ow1 hs1 => by
        unfold pkOk at e
        rw [if_neg e] at hf3
        exact ⟨by omega, hf3 rfl M1 ow1 hs1⟩
      refine ho.g (oIs.i hbr.bk ⟨100, by omega, C_checkPark hbr i1F hg hk (Nat.le_refl _) (fun e M1 ow1 hs1 => ?_) (fun e q M1 ow1 hs1 => ⟨.inl ⟨rfl, bad e q M1 ow1 hs1⟩, .inr ⟨rfl, bad e q M1 ow1 hs1⟩⟩)⟩)
      have e' := e
      unfold pkOk at e'
      rw [if_pos e'] at hQ
      clear bad
      have hn : nc N < 80 := e'.2.2
      have hp1 := h.s1 hs1
      have hof1 := hof.stp hs1 (by decide)
      refine oIs.i hof1.1 ⟨30100, by omega, C_remember hp1 hg hh hm (hc.stp hs1 (by decide)) hA (Nat.le_refl _) fun M2 ow2 hs2 hp2 => ?_⟩
      obtain ⟨bk, sv, dq, bf, sb, y, h1, h2, h3, h4, h5, h6⟩ := hp2
      refine oGetA.i h1.1 rfl (oGetA.i h2.bk rfl ⟨by simp; omega, fun q hq hz => ?_⟩)
      have hN3 : ∀ fs, Mv [] M2 ow2 (wIns M2 q (.inr (14, fs))) (va_up ow2 q 0) := fun fs => Mv.nw (by decide) hq _ _
      have n1 := h1.stp (hN3 [.int 0, .int 0, .int 0]) (by decide)
      have n2 := h2.stp (hN3 [.int 0, .int 0, .int 0]) (fun _ _ => by simp)
      refine oGetA.i n1.1 rfl (oGetI.i n2.bk rfl ?_)
      have hN : CrC (parkN N x (nI k)) (nc N) = .inr (14, [.int x, .int (nI k), .int (N 0)]) := by
        unfold CrC
        rw [parkN_c (by decide), parkN_c (by decide), parkN_c (by decide)]
        rfl
      have hs4 := hN3 [.int x, .int (nI k), .int (N 0)]
      have hC4 : Cl G (wIns M2 q (CrC (parkN N x (nI k)) (nc N))) (va_up ow2 q 0) 0 q (CrC (parkN N x (nI k)) (nc N)) := Cl.nw M2 ow2 hz _ _
      rw [← hN] at hs4
      refine S_cin hz hN ?_
      generalize wIns M2 q (CrC (parkN N x (nI k)) (nc N)) = M4 at hs4 hC4 ⊢
      generalize va_up ow2 q 0 = ow4 at hs4 hC4
      have r4 := h2.stp hs4 (fun _ _ => by simp)
      have s4 : Mv (lvT tL) M2 ow2 M4 ow4 := lvL.e hs4
      refine isL r4.cl ⟨4, by simp; omega, C_addC r4 lvL hbd hC4 hn (by rw [parkN_3, hg.2.2.2.1.1, nI_1]) (fun j j1 j2 => parkN_o j1 j2) (Nat.le_refl _) fun M5 ow5 nd hs5 hr5 => ?_⟩
      have s5 := s4.tr hs5
      have c5 := h1.stp s5 (by decide)
      have g5 : OK S (parkN N x (nI k)) := parkN_ok hg hk hn
      refine oGetA.i c5.1 rfl (oIs.i hr5.bk ⟨6, by simp; omega, C_parkedIn hr5 i1L g5 (Nat.le_refl _) fun M6 ow6 hs6 => ?_⟩)
      have s6 : Mv tR M2 ow2 M6 ow6 := (lvR s5).tr (tR1 hs6)
      refine hQ rfl M6 ow6 (((tR1 hs1).tr hs2).tr s6) ⟨bk, sv, dq, bf, sb, _, c5.stp hs6 (by decide), hr5.i hs6, (h3.stp s5 (by decide)).stp hs6 (by decide), (h4.stp s5).stp hs6, (h5.stp s5 (by decide)).stp hs6 (by decide), (h6.stp s5 (by decide)).stp hs6 (by decide)⟩
    · rw [if_neg (by rw [c2]; decide)] at hf2
      exact hf2 rfl q
  · rw [if_neg (by rw [c]; decide)] at hf1
    exact hf1 rfl q
end C26C
