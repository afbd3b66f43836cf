set_option maxRecDepth 100000
/-! STAGE 2, component: apply, admit -/
theorem S_pin {G : wG} {M : wM} {q : Nat} {p1 p2 p3 p4 i4 i7 : Int32} {v0 v1 v2 v3 v5 v6 : Value} {E : wE} {κ : wM → Prop} (hz : wz G ≤ q) (hE : E = .inr (9, [.int p1, .int p2, .int p3, .int p4, .int i4, .int (-1), .int (-1), .int i7])) (hp : κ (wIns M q E)) : P_X12_init G q p1 p2 p3 p4 (wIns M q (.inr (9, [v0, v1, v2, v3, .int i4, v5, v6, .int i7]))) κ := by
  subst hE
  unfold P_X12_init P_X11_init_X12
  exact oPut.f (Nat.le_of_ble_eq_true rfl) hz (oPut.f (Nat.le_of_ble_eq_true rfl) hz (oPut.f (Nat.le_of_ble_eq_true rfl) hz (oPut.f (Nat.le_of_ble_eq_true rfl) hz (oPut.f (Nat.le_of_ble_eq_true rfl) hz (oPut.f (Nat.le_of_ble_eq_true rfl) hz hp)))))
theorem S_vin {G : wG} {M : wM} {q : Nat} {p1 p2 p3 p4 : Int32} {v0 v1 v2 v3 : Value} {E : wE} {κ : wM → Prop} (hz : wz G ≤ q) (hE : E = .inr (10, [.int p1, .int p2, .int p3, .int p4])) (hp : κ (wIns M q E)) : P_X13_init G q p1 p2 p3 p4 (wIns M q (.inr (10, [v0, v1, v2, v3]))) κ := by
  subst hE
  unfold P_X13_init P_X11_init_X13
  exact oPut.f (Nat.le_of_ble_eq_true rfl) hz (oPut.f (Nat.le_of_ble_eq_true rfl) hz (oPut.f (Nat.le_of_ble_eq_true rfl) hz (oPut.f (Nat.le_of_ble_eq_true rfl) hz hp)))
section C25
variable {G : wG} {l : Nat → Nat → Int64} {M : wM} {ow : Nat → Nat} {a m : Nat} {S N H V : Rw} {b0 : Bool} {n : Nat} {B : Rw} {ec eo : Int32} {w : Nat} {O : Rw}
theorem C_apply (h : CP G l M ow tF a S N m H b0 V n B ec eo w O) (hg : OK S N) (hh : ∀ k, k < m → OK S (rowH H k)) (hm : m ≤ 10) (hc : Cl G M ow 0 (G.2.2.2 1) (oarr 0 (fun _ => none))) {A : Rw} (hA : EqR N A) {hs x : Int32} {b : Nat} (hb : 32000 ≤ b) {Q : Int32 → wM → Prop} {Xp : String → Nat → wM → Prop} (hf1 : c_apply S N hs x = 1 → ∀ q, Xp eIdx q M) (hf2 : c_apply S N hs x = 2 → ∀ q, Xp eArg q M) (hf3 : c_apply S N hs x = 3 → ∀ M1 ow1, Mv [1] M ow M1 ow1 → ∀ q, Xp eSt q M1)
    (hQ : c_apply S N hs x = 0 → ∀ M1 ow1, Mv tR M ow M1 ow1 → CP G l M1 ow1 tL a S (offF S (applyN N hs x)) (keepN m) (keepH m A H) b0 V n B ec eo w O → Q (nI (np N)) M1) : P_X1_apply G a hs x b M Q Xp := by
  have hbd := hg.b
  unfold c_apply at hf1 hf2 hf3 hQ
  have hcp := h
  obtain ⟨bk0, sv0, dq0, bf0, sb0, y0, hof, hbr, -⟩ := hcp
  have ho : OF M a bk0 := ⟨_, hof.1⟩
  refine ho.is ⟨7, by omega, C_checkHouse ho hbr hg (Nat.le_refl _) (fun k hk ek c => ?_) (fun c q => ⟨rfl, ?_⟩)⟩
  · rw [if_pos c] at hf1 hf2 hf3 hQ
    refine ⟨7, by omega, C_checkPlate (Nat.le_refl _) (fun c2 => ?_) (fun c2 q => ⟨rfl, ?_⟩)⟩
    · rw [if_pos c2] at hf1 hf2 hf3 hQ
      subst ek
      rw [nI_clamp (show k < 2 ^ 31 by omega)] at hf3 hQ
      refine ho.g (oIs.i hbr.bk ⟨100, by omega, C_checkApply hbr i1F hg hk (Nat.le_refl _) (fun e M1 ow1 hs1 => ?_) (fun e q M1 ow1 hs1 => ⟨rfl, ?_⟩)⟩)
      · have e' := e
        unfold apOk at e'
        rw [if_pos e'] at hQ
        have hn : np N < 60 := e'.2.2
        have hp1 := h.s1 hs1
        have hof1 := hof.stp hs1 (by decide)
        refine oIs.i hof1.1 ⟨30100, by omega, C_remember hp1 hg hh hm (hc.stp hs1 (by decide)) hA (Nat.le_refl _) fun M2 ow2 hs2 hp2 => ?_⟩
        obtain ⟨bk, sv, dq, bf, sb, y, h1, h2, h3, h4, h5, h6⟩ := hp2
        refine oGetA.i h1.1 rfl (oGetA.i h2.bk rfl ⟨by simp; omega, fun q hq hz => ?_⟩)
        have hfr : ∀ p, p < np N → y 1 p ≠ q := fun p hp e => by have := h2.po hp; rw [e, hq] at this; cases this
        have hN3 : ∀ fs, Mv [] M2 ow2 (wIns M2 q (.inr (9, fs))) (va_up ow2 q 12) := fun fs => Mv.nw (by decide) hq _ _
        have n1 := h1.stp (hN3 [.int 0, .int 0, .int 0, .int 0, .int 0, .int 0, .int 0, .int 0]) (by decide)
        have n2 := h2.stp (hN3 [.int 0, .int 0, .int 0, .int 0, .int 0, .int 0, .int 0, .int 0]) (fun _ _ => by simp)
        have no : OF (wIns M2 q (.inr (9, [.int 0, .int 0, .int 0, .int 0, .int 0, .int 0, .int 0, .int 0]))) a bk := ⟨_, n1.1⟩
        refine oIs.i n1.1 (C_setup no n2 (oRef.s (oIs.i n2.su (C_zoneOf n2 hg ⟨k, hk, rfl⟩ (oGetA.i n1.1 rfl (oGetI.i n2.bk rfl ?_))))))
        have hN : PmC S (applyN N (nI k) x) (np N) = .inr (9, [.int (nI k), .int x, .int (zH S (nI k)), .int (N 0), .int 0, .int (-1), .int (-1), .int 0]) := by
          unfold PmC zP
          rw [applyN_p (by decide), applyN_p (by decide), applyN_p (by decide), applyN_p (by decide), applyN_p (by decide), applyN_p (by decide), applyN_p (by decide)]
          rfl
        have hs3 := hN3 [.int (nI k), .int x, .int (zH S (nI k)), .int (N 0), .int 0, .int (-1), .int (-1), .int 0]
        have hC3 : Cl G (wIns M2 q (PmC S (applyN N (nI k) x) (np N))) (va_up ow2 q 12) 12 q (PmC S (applyN N (nI k) x) (np N)) := Cl.nw M2 ow2 hz _ _
        rw [← hN] at hs3
        refine S_pin hz hN ?_
        generalize wIns M2 q (PmC S (applyN N (nI k) x) (np N)) = M3 at hs3 hC3 ⊢
        generalize va_up ow2 q 12 = ow3 at hs3 hC3
        have r3 := h2.stp hs3 (fun _ _ => by simp)
        have g4 : OK S (applyN N (nI k) x) := applyN_ok hg hk hn
        have s3 : Mv (lvT tL) M2 ow2 M3 ow3 := lvL.e hs3
        refine isA r3.pl ⟨200, by simp; omega, C_addP r3 lvL hbd hC3 hfr hn (by rw [applyN_1, hg.2.1.1, nI_1]) (fun j j1 j2 => applyN_o j1 j2) (Nat.le_refl _) fun M4 ow4 hs4 hr4 => ?_⟩
        have s4 := s3.tr hs4
        have c4 := h1.stp s4 (by decide)
        refine oGetA.i c4.1 rfl (oIs.i hr4.bk (C_offer hr4 lvL g4 fun M5 hs5 hr5 => ?_))
        have s5 := s4.tr hs5
        have c5 := h1.stp s5 (by decide)
        have n5 : np (offF S (applyN N (nI k) x)) = np N + 1 := by
          unfold offF
          rw [offA_np g4, applyN_np hg.2.1.1 hn]
        refine oGetA.i c5.1 rfl (oGetA.i hr5.bk rfl (isA hr5.pl (E_size hr5.pl ?_)))
        rw [n5, nI_pred]
        exact hQ rfl M5 ow4 (((tR1 hs1).tr hs2).tr (lvR s5)) (CP.up h1 h3 h4 h5 h6 s5 hr5)
      · unfold apOk at e
        rw [if_neg e] at hf3
        exact ⟨by omega, hf3 rfl M1 ow1 hs1⟩
    · rw [if_neg (by rw [c2]; decide)] at hf2
      exact hf2 rfl q
  · rw [if_neg (by rw [c]; decide)] at hf1
    exact hf1 rfl q
theorem C_admit (h : CP G l M ow tF a S N m H b0 V n B ec eo w O) (hg : OK S N) (hv : VB N) (h2v : ∀ k, k < nh S → visitsH N (nI k) ≤ 2) (hh : ∀ k, k < m → OK S (rowH H k)) (hm : m ≤ 10) (hc : Cl G M ow 0 (G.2.2.2 1) (oarr 0 (fun _ => none))) {A : Rw} (hA : EqR N A) {hs x u : Int32} {b : Nat} (hb : 32000 ≤ b) {Q : Int32 → wM → Prop} {Xp : String → Nat → wM → Prop} (hf1 : c_admit S N hs x u = 1 → ∀ q, Xp eIdx q M) (hf2 : c_admit S N hs x u = 2 → ∀ q, Xp eArg q M) (hf3 : c_admit S N hs x u = 3 → ∀ M1 ow1, Mv [1] M ow M1 ow1 → ∀ q, Xp eSt q M1)
    (hQ : c_admit S N hs x u = 0 → ∀ M1 ow1, Mv tR M ow M1 ow1 → CP G l M1 ow1 tL a S (admitN N hs.toNatClampNeg x u) (keepN m) (keepH m A H) b0 V n B ec eo w O → Q (nI (nv N)) M1) : P_X1_admit G a hs x u b M Q Xp := by
  have hbd := hg.b
  unfold c_admit at hf1 hf2 hf3 hQ
  have hcp := h
  obtain ⟨bk0, sv0, dq0, bf0, sb0, y0, hof, hbr, -⟩ := hcp
  have ho : OF M a bk0 := ⟨_, hof.1⟩
  refine ho.is ⟨7, by omega, C_checkHouse ho hbr hg (Nat.le_refl _) (fun k hk ek c => ?_) (fun c q => ⟨rfl, ?_⟩)⟩
  · rw [if_pos c] at hf1 hf2 hf3 hQ
    refine ⟨7, by omega, C_checkPlate (Nat.le_refl _) (fun c2 => ?_) (fun c2 q => ⟨rfl, ?_⟩)⟩
    · rw [c2, Bool.true_and] at hf1 hf2 hf3 hQ
      refine ⟨7, by omega, C_checkHours (Nat.le_refl _) (fun c3 => ?_) (fun c3 q => ⟨rfl, ?_⟩)⟩
      · rw [if_pos c3] at hf1 hf2 hf3 hQ
        subst ek
        rw [nI_clamp (show k < 2 ^ 31 by omega)] at hf3 hQ
        have bad : ¬ adOk N k x u → ∀ q M1 ow1, Mv [1] M ow M1 ow1 → B_X1_admit_26 G Q Xp q M1 (b - 7 - 7 - 7 - 100) := fun e q M1 ow1 hs1 => by
          unfold adOk at e
          rw [if_neg e] at hf3
          exact ⟨by omega, hf3 rfl M1 ow1 hs1⟩
        refine ho.g (oIs.i hbr.bk ⟨100, by omega, C_checkVisit hbr hg hv hk (h2v k hk) (Nat.le_refl _) (fun e => ?_) (fun e q M1 ow1 hs1 => ⟨.inr ⟨rfl, bad e q M1 ow1 hs1⟩, .inl ⟨rfl, bad e q M1 ow1 hs1⟩⟩)⟩)
        have e' := e
        unfold adOk at e'
        rw [if_pos e'] at hQ
        clear bad
        have hn : nv N < 60 := e'.2.2.2
        refine oIs.i hof.1 ⟨30100, by omega, C_remember h hg hh hm hc hA (Nat.le_refl _) fun M2 ow2 hs2 hp2 => ?_⟩
        obtain ⟨bk, sv, dq, bf, sb, y, h1, h2, h3, h4, h5, h6⟩ := hp2
        refine oGetA.i h1.1 rfl (oGetA.i h2.bk rfl (C_ldH h2 hg hk (C_stH h2 lvL hg hk fun M3 hs3 hr3 => ?_)))
        have s3 : Mv (lvT tL) M2 ow2 M3 ow2 := lvL.m (k := 9) (by decide) hs3
        have c3 := h1.stp s3 (by decide)
        have g3 : OK S (upd N (23 + k) (N (23 + k) - u)) := hg.upd (by unfold OKi; omega) _
        have bd3 : Bd S (upd N (23 + k) (N (23 + k) - u)) := g3.b
        have nv3 : nv (upd N (23 + k) (N (23 + k) - u)) = nv N := nv_c (upd_ne _ _ (by omega))
        have e03 : upd N (23 + k) (N (23 + k) - u) 0 = N 0 := upd_ne _ _ (by omega)
        refine oGetA.i c3.1 rfl (oGetA.i hr3.bk rfl ⟨by simp; omega, fun q hq hz => ?_⟩)
        have hfr : ∀ p, p < nv N → y 2 p ≠ q := fun p hp e => by have := hr3.vo (p := p) (by rw [nv3]; exact hp); rw [e, hq] at this; cases this
        have hN3 : ∀ fs, Mv [] M3 ow2 (wIns M3 q (.inr (10, fs))) (va_up ow2 q 14) := fun fs => Mv.nw (by decide) hq _ _
        have n1 := c3.stp (hN3 [.int 0, .int 0, .int 0, .int 0]) (by decide)
        have n2 := hr3.stp (hN3 [.int 0, .int 0, .int 0, .int 0]) (fun _ _ => by simp)
        refine oGetA.i n1.1 rfl (oGetI.i n2.bk rfl (oGetA.i n1.1 rfl (oGetI.i n2.bk rfl ?_)))
        rw [e03]
        have hN : VsC (admitN N k x u) (nv N) = .inr (10, [.int (nI k), .int x, .int (N 0), .int (N 0 + u * 60)]) := by
          unfold VsC
          rw [admitN_v (by decide) (by omega), admitN_v (by decide) (by omega), admitN_v (by decide) (by omega), admitN_v (by decide) (by omega), Int32.mul_comm u]
          rfl
        have hs4 := hN3 [.int (nI k), .int x, .int (N 0), .int (N 0 + u * 60)]
        have hC4 : Cl G (wIns M3 q (VsC (admitN N k x u) (nv N))) (va_up ow2 q 14) 14 q (VsC (admitN N k x u) (nv N)) := Cl.nw M3 ow2 hz _ _
        rw [← hN] at hs4
        unfold P_X10_hours
        refine S_vin hz hN ?_
        generalize wIns M3 q (VsC (admitN N k x u) (nv N)) = M4 at hs4 hC4 ⊢
        generalize va_up ow2 q 14 = ow4 at hs4 hC4
        have r4 := hr3.stp hs4 (fun _ _ => by simp)
        have s4 : Mv (lvT tL) M2 ow2 M4 ow4 := s3.tr (lvL.e hs4)
        refine isA r4.vl ⟨200, by simp; omega, C_addV (N1 := admitN N k x u) r4 lvL bd3 (by rw [nv3]; exact hC4) (by rw [nv3]; exact hfr) (by rw [nv3]; exact hn) (by rw [nv3, admitN_2, hg.2.2.1.1, nI_1]) (fun j j1 j2 => ?_) (Nat.le_refl _) fun M5 ow5 hs5 hr5 => ?_⟩
        · rw [nv3] at j2
          by_cases ej : j = 23 + k
          · rw [ej, upd_eq]; unfold admitN; rw [upd_eq]
          · rw [upd_ne _ _ ej]; exact admitN_o j1 j2 ej
        have s5 := s4.tr hs5
        have c5 := h1.stp s5 (by decide)
        refine oGetA.i c5.1 rfl (oGetA.i hr5.bk rfl (isA hr5.vl (E_size hr5.vl ?_)))
        rw [admitN_nv hg.2.2.1.1 hn, nI_pred]
        exact hQ rfl M5 ow5 (hs2.tr (lvR s5)) (CP.up h1 h3 h4 h5 h6 s5 hr5)
      · rw [if_neg (by rw [c3]; decide)] at hf2
        exact hf2 rfl q
    · rw [c2, Bool.false_and, if_neg (by decide)] at hf2
      exact hf2 rfl q
  · rw [if_neg (by rw [c]; decide)] at hf1
    exact hf1 rfl q
end C25
