set_option maxRecDepth 100000
/-! STAGE 2, component: suspend, renew -/
section C19a
variable {G : wG} {l : Nat → Nat → Int64} {M : wM} {ow : Nat → Nat} {τ : Nat → Nat} {a : Nat} {y : Nat → Nat → Nat} {S N : Rw}
theorem C_stB (h : BR G l M ow τ a y S N) (hl : LV τ) (hg : OK S N) {k : Nat} (hk : k < 12) {b : Bool} {bq : Nat} {Q : wM → Prop} (hQ : ∀ M1, Mv [τ 7] M ow M1 ow → BR G l M1 ow τ a y S (upd N (11 + k) (wb b)) → Q M1) : P_J9_set_2 G (y 0 5) (nI k) (wb b) bq M Q := by
  have hb := hg.b
  obtain ⟨h1, h2, h3, h4, h5, h6, ⟨w, h7, h10⟩, h8, h9⟩ := h
  have hd : ∀ j, j ≠ 11 + k → upd N (11 + k) (wb b) j = N j := fun j hj => upd_ne _ _ hj
  have fin : ∀ (w1 : Int64) (M1 : wM), Mv [τ 7] M ow M1 ow → BS G M1 ow (τ 7) (y 0 5) w1 → (∀ s, s < 12 → (bitG w1 s = true ↔ upd N (11 + k) (wb b) (11 + s) = 1)) → Q M1 := fun w1 M1 hs hC hw => by
    refine hQ M1 hs ⟨?_, h2.stp hs (hl.n (by decide) (by decide) (by decide)), (BP.stp h3 hs (hl.n (by decide) (by decide) (by decide)) (hl.n (by decide) (by decide) (by decide))).val hb.1 (hd 1 (by omega)) fun j _ _ => hd j (by omega), (BV.stp h4 hs (hl.n (by decide) (by decide) (by decide)) (hl.n (by decide) (by decide) (by decide))).val hb.2.1 (hd 2 (by omega)) fun j _ _ => hd j (by omega), (BC.stp h5 hs (hl.n (by decide) (by decide) (by decide))).val hb.2.2.1 (hd 3 (by omega)) fun j _ _ => hd j (by omega), (BF.stp h6 hs (hl.n (by decide) (by decide) (by decide))).val hb.2.2.2.1 (hd 4 (by omega)) fun j _ _ => hd j (by omega), ⟨w1, hC, hw⟩, (BL.stp h8 hs (hl.n (by decide) (by decide) (by decide))).val hb.2.2.2.2.1 fun j _ _ => hd j (by omega), (BH.stp h9 hs (hl.n (by decide) (by decide) (by decide))).val hb.2.2.2.2.2.2 fun j _ _ => hd j (by omega)⟩
    unfold bkC; rw [hd 0 (by omega)]; exact h1.stp hs (hl.n (by decide) (by decide) (by decide))
  cases b with
  | false =>
    refine oIf.y rfl (h7.is (S_bsclr h7 (hl.1 7 (by decide)).1 (by omega) fun M1 hs hC => fin _ M1 hs hC fun s hs => ?_))
    rw [bit_an (by omega) (by omega)]
    by_cases e : s = k
    · subst e
      rw [upd_eq, decide_eq_true rfl]
      simp [wb]
    · rw [upd_ne _ _ (by omega), decide_eq_false (fun x => e x.symm), Bool.not_false, Bool.and_true]
      exact h10 s hs
  | true =>
    refine oIf.n (by decide) (h7.is ⟨bq, Nat.le_refl _, S_bsset h7 (hl.1 7 (by decide)).1 (by omega) fun M1 hs hC => fin _ M1 hs hC fun s hs => ?_⟩)
    rw [bit_or (by omega) (by omega)]
    by_cases e : s = k
    · subst e
      rw [upd_eq, decide_eq_true rfl, Bool.or_true]
      simp [wb]
    · rw [upd_ne _ _ (by omega), decide_eq_false (fun x => e x.symm), Bool.or_false]
      exact h10 s hs
end C19a
section C19
variable {G : wG} {l : Nat → Nat → Int64} {M : wM} {ow : Nat → Nat} {a m : Nat} {S N H V : Rw} {b0 : Bool} {n : Nat} {B : Rw} {ec eo : Int32} {w : Nat} {O : Rw}
/-- suspensions change no offers at once: no offer is made by the component -/
theorem C_suspend (h : CP G l M ow tF a S N m H b0 V n B ec eo w O) (hg : OK S N) (hh : ∀ k, k < m → OK S (rowH H k)) (hm : m ≤ 10) (hc : Cl G M ow 0 (G.2.2.2 1) (oarr 0 (fun _ => none))) {A : Rw} (hA : EqR N A) {x : Int32} {bb : Bool} {b : Nat} (hb : 31000 ≤ b) {Q : Bool → wM → Prop} {Xp : String → Nat → wM → Prop} (hf1 : c_suspend S x = 1 → ∀ q, Xp eIdx q M) (hf2 : c_suspend S x = 2 → ∀ q, Xp eSt q M)
    (hQ : c_suspend S x = 0 → ∀ M1 ow1, Mv tR M ow M1 ow1 → CP G l M1 ow1 tL a S (suspN N x.toNatClampNeg (wb bb)) (keepN m) (keepH m A H) b0 V n B ec eo w O → Q (decide (N (11 + x.toNatClampNeg) = 1)) M1) : P_X1_suspend G a x (wb bb) b M Q Xp := by
  have hbd := hg.b
  unfold c_suspend at hf1 hf2 hQ
  have hcp := h
  obtain ⟨bk0, sv0, dq0, bf0, sb0, y0, hof, hbr, -⟩ := hcp
  have ho : OF M a bk0 := ⟨_, hof.1⟩
  refine ho.is ⟨7, by omega, C_checkStreet ho hbr hg (Nat.le_refl _) (fun k hk ek c => ?_) (fun c q => ⟨rfl, ?_⟩)⟩
  · rw [if_pos c] at hf1 hf2 hQ
    rw [ek, nI_clamp (by omega)] at hf1 hf2 hQ
    rw [ek]
    refine ho.is (C_setup ho hbr (oRef.s (oGetA.i hbr.su rfl (isA hbr.sl (E_get hbr.sl hk (oCast.s (hbr.so hk) (oRef.s (oGetI.i (hbr.so hk) rfl (oIf.c (fun c1 => ?_) (fun c1 => ?_))))))))))
    · rw [if_pos c1] at hf2
      exact ⟨7, by omega, C_ckS (b := false) (Nat.le_refl _) (fun c => by cases c) (fun _ q => ⟨rfl, hf2 rfl q⟩)⟩
    · rw [if_neg c1] at hQ
      refine ⟨7, by omega, C_ckS (b := true) (Nat.le_refl _) (fun _ => ?_) (fun c => by cases c)⟩
      obtain ⟨w7, h7, h10⟩ := hbr.2.2.2.2.2.2.1
      have ev : bitG w7 k = decide (N (11 + k) = 1) := by
        rw [Bool.eq_iff_iff, decide_eq_true_eq]; exact h10 k (by omega)
      refine ho.g (oGetA.i hbr.bk rfl (h7.is (S_bsget h7 (by omega) (oIs.i hof.1 ⟨30100, by omega, C_remember h hg hh hm hc hA (Nat.le_refl _) fun M1 ow1 hs1 hp1 => ?_⟩))))
      obtain ⟨bk, sv, dq, bf, sb, y, h1, h2, h3, h4, h5, h6⟩ := hp1
      obtain ⟨w8, h8, -⟩ := h2.2.2.2.2.2.2.1
      refine oGetA.i h1.1 rfl (oGetA.i h2.bk rfl (h8.is ⟨0, Nat.zero_le _, C_stB h2 lvL hg (by omega) fun M2 hs2 hr2 => ?_⟩))
      have s2 : Mv (lvT tL) M1 ow1 M2 ow1 := lvL.m (k := 7) (by decide) hs2
      rw [ev]
      exact hQ rfl M2 ow1 (hs1.tr (lvR s2)) (CP.up h1 h3 h4 h5 h6 s2 hr2)
  · rw [if_neg (by rw [c]; decide)] at hf1
    exact hf1 rfl q
/-- renewals: what is left is compared as a difference -/
def RNW (S N : Rw) : Prop := ∀ k, k < np N → pP N k 2 = 2 → (S 113 * 1440 < pP N k 4 - N 0 ↔ ¬ pP N k 4 ≤ N 0 + 1440 * S 113)
theorem C_renew (h : CP G l M ow tF a S N m H b0 V n B ec eo w O) (hg : OK S N) (hh : ∀ k, k < m → OK S (rowH H k)) (hm : m ≤ 10) (hc : Cl G M ow 0 (G.2.2.2 1) (oarr 0 (fun _ => none))) {A : Rw} (hA : EqR N A) (hrn : RNW S N) {x : Int32} {b : Nat} (hb : 31000 ≤ b) {Q : Int32 → wM → Prop} {Xp : String → Nat → wM → Prop} (hf1 : c_renew S N x = 1 → ∀ q, Xp eIdx q M) (hf2 : c_renew S N x = 2 → ∀ q, Xp eSt q M)
    (hQ : c_renew S N x = 0 → ∀ M1 ow1, Mv tR M ow M1 ow1 → CP G l M1 ow1 tL a S (offF S (renewN S N x.toNatClampNeg)) (keepN m) (keepH m A H) b0 V n B ec eo w O → Q (pP N x.toNatClampNeg 4 + 1440 * S 111) M1) : P_X1_renew G a x b M Q Xp := by
  have hbd := hg.b
  unfold c_renew at hf1 hf2 hQ
  have hcp := h
  obtain ⟨bk0, sv0, dq0, bf0, sb0, y0, hof, hbr, -⟩ := hcp
  have ho : OF M a bk0 := ⟨_, hof.1⟩
  refine ho.is ⟨7, by omega, C_permitAt ho hbr hg (Nat.le_refl _) (fun k hk ek c => ?_) (fun c q => ⟨rfl, ?_⟩)⟩
  · rw [if_pos c] at hf1 hf2 hQ
    rw [ek, nI_clamp (by omega)] at hf1 hf2 hQ
    rw [ek]
    have bad : ¬ (pP N k 2 = 2 ∧ pP N k 4 ≤ N 0 + 1440 * S 113) → B_X1_renew_44 G Q (fun E q6 M7 => (E = "java/lang/IndexOutOfBoundsException" ∧ Xp E q6 M7)) a (nI k) M (b - 7) ∨ B_X1_renew_44 G Q Xp a (nI k) M (b - 7) := fun e => by
      rw [if_neg e] at hf2
      exact .inr ⟨7, by omega, C_ckS (b := false) (Nat.le_refl _) (fun c => by cases c) (fun _ q => ⟨rfl, hf2 rfl q⟩)⟩
    have bad2 : ¬ (pP N k 2 = 2 ∧ pP N k 4 ≤ N 0 + 1440 * S 113) → B_X1_renew_44 G Q Xp a (nI k) M (b - 7) := fun e => by
      rw [if_neg e] at hf2
      exact ⟨7, by omega, C_ckS (b := false) (Nat.le_refl _) (fun c => by cases c) (fun _ q => ⟨rfl, hf2 rfl q⟩)⟩
    clear bad
    refine oRef.s (gP4 hbr hk (oIf.c (fun c1 => ?_) (fun c1 => bad2 fun e => c1 e.1)))
    refine gP5 hbr hk (ho.g (oGetI.i hbr.bk rfl (ho.is (C_setup ho hbr (oRef.s (oGetI.i hbr.su rfl (oIf.c (fun c2 => bad2 fun e => (hrn k hk c1).mp c2 e.2) (fun c2 => ?_))))))))
    have c3 : pP N k 4 ≤ N 0 + 1440 * S 113 := Decidable.not_not.mp fun e => c2 ((hrn k hk c1).mpr e)
    rw [if_pos ⟨c1, c3⟩] at hQ
    refine ⟨7, by omega, C_ckS (b := true) (Nat.le_refl _) (fun _ => ?_) (fun c => by cases c)⟩
    refine oIs.i hof.1 ⟨30100, by omega, C_remember h hg hh hm hc hA (Nat.le_refl _) fun M1 ow1 hs1 hp1 => ?_⟩
    obtain ⟨bk, sv, dq, bf, sb, y, h1, h2, h3, h4, h5, h6⟩ := hp1
    have o1 : OF M1 a bk := ⟨_, h1.1⟩
    refine oGetA.i h1.1 rfl (oGetA.i h2.bk rfl (isA h2.pl (E_get h2.pl hk (kP h2 hk (oRef.s (gP5 h2 hk (oIs.i h1.1 (C_setup o1 h2 (oRef.s (oGetI.i h2.su rfl (C_putE h2 lvL hg hk fun M2 hs2 hr2 => ?_)))))))))))
    have s2 : Mv (lvT tL) M1 ow1 M2 ow1 := lvL.m (k := 2) (by decide) hs2
    have g2 : OK S (upd N (40 + 7 * k + 4) (pP N k 4 + S 111 * 1440)) := hg.upd (by unfold OKi; omega) _
    have n2 : np (upd N (40 + 7 * k + 4) (pP N k 4 + S 111 * 1440)) = np N := np_upd (by omega) _
    refine gP7 hr2 (by omega) (C_putR hr2 lvL g2 (by omega) fun M3 hs3 hr3 => ?_)
    have s3 : Mv (lvT tL) M1 ow1 M3 ow1 := s2.tr (lvL.m (k := 2) (by decide) hs3)
    have c4 := h1.stp s3 (by decide)
    have eN : upd (upd N (40 + 7 * k + 4) (pP N k 4 + S 111 * 1440)) (40 + 7 * k + 6) (pP (upd N (40 + 7 * k + 4) (pP N k 4 + S 111 * 1440)) k 6 + 1) = renewN S N k := by
      unfold renewN
      rw [show pP (upd N (40 + 7 * k + 4) (pP N k 4 + S 111 * 1440)) k 6 = pP N k 6 from upd_ne _ _ (by omega), Int32.mul_comm (S 111)]
    rw [eN] at hr3
    have g3 : OK S (renewN S N k) := (hg.upd (by unfold OKi; omega) _).upd (by unfold OKi; omega) _
    refine oGetA.i c4.1 rfl (oIs.i hr3.bk (C_offer hr3 lvL g3 fun M4 hs4 hr4 => ?_))
    have s4 : Mv (lvT tL) M1 ow1 M4 ow1 := s3.tr hs4
    have n3 : np (offF S (renewN S N k)) = np N := by
      unfold offF
      rw [offA_np g3]
      unfold renewN
      rw [np_upd (by omega), np_upd (by omega)]
    refine gP5 hr4 (by omega) ?_
    have e4 : pP (offF S (renewN S N k)) k 4 = pP N k 4 + 1440 * S 111 := by
      unfold pP
      rw [offF_ne g3 (fun p hp => by omega)]
      unfold renewN
      rw [upd_ne _ _ (by omega), upd_eq]; rfl
    rw [e4]
    exact hQ rfl M4 ow1 (hs1.tr (lvR s4)) (CP.up h1 h3 h4 h5 h6 s4 hr4)
  · rw [if_neg (by rw [c]; decide)] at hf1
    exact hf1 rfl q
end C19
