set_option maxRecDepth 100000
/-! STAGE 2, component, reading 8: what is said once; fines -/
section C39
variable {G : wG} {M : wM} {ow : Nat → Nat} {a n t : Nat} {u : Nat × (Nat → Nat)} {B : Rw} {p p1 : PS} {D E : Rw} {l l1 : Nat → Nat → Int64} {cc c1 : Nat → Nat}
/-- the setup does not see what was said once -/
theorem SRP.dE {ll : Nat → Nat → Int64} {su : Nat} {y : Nat → Nat → Nat} (h : SRP G ll M ow su y D cc) (hg : OKS D) (ed : ∀ j, j < 120 → E j = D j) : SRP G ll M ow su y E cc := by
  obtain ⟨g1, ⟨a2, a3⟩, ⟨a4, a5⟩, ⟨a6, a7⟩, ⟨ra, a8, a9⟩, g3⟩ := h
  have b1 := hg.1.2
  have b2 := hg.2.1.2
  have b3 := hg.2.2.1.2
  have e1 : nz E = nz D := by unfold nz; rw [ed 0 (by omega)]
  have e2 : ns E = ns D := by unfold ns; rw [ed 1 (by omega)]
  have e3 : nh E = nh D := by unfold nh; rw [ed 2 (by omega)]
  have es : suC E y = suC D y := by unfold suC; rw [ed 111 (by omega), ed 112 (by omega), ed 113 (by omega)]
  refine ⟨by rw [es]; exact g1, ⟨by rw [e1]; exact a2, fun z hz => ?_⟩, ⟨by rw [e2]; exact a4, fun z hz => ?_⟩, ⟨by rw [e3]; exact a6, fun z hz => ?_⟩, ⟨ra, a8, a9.1, fun k k1 k2 => by rw [ed _ (by omega)]; exact a9.2 k k1 k2⟩, g3⟩
  · rw [e1] at hz
    unfold ZnC
    rw [ed _ (by omega), ed _ (by omega), ed _ (by omega), ed _ (by omega)]
    exact a3 z hz
  · rw [e2] at hz
    unfold StC
    rw [ed _ (by omega), ed _ (by omega), ed _ (by omega)]
    exact a5 z hz
  · rw [e3] at hz
    unfold HsC
    rw [ed _ (by omega), ed _ (by omega), ed _ (by omega)]
    exact a7 z hz
theorem K_once (h : PST G M ow a n B t u p D l cc) {κ : Nat → Prop} {κ2 : Nat → Int64 → Prop} (hk : ∀ on bw, BS G M ow 32 on bw → ONC bw D → κ on) : oGetA M t 4 2 κ := by
  obtain ⟨kl, su, on, w, y, ⟨ht, ⟨v, hC, hv⟩, hE, ⟨bw, hO, hO2⟩, hS⟩, hW⟩ := h
  exact oGetA.i hC.1 rfl (hk on bw hO hO2)
/-- something is said -/
theorem K_set (h : PST G M ow a n B t u p D l cc) (hg : OKS D) {x i : Nat} (hx : x < 64) (ei : (∃ j, j < 3 ∧ x = 10 + j ∧ i = 120 + j) ∨ ∃ r, 1 ≤ r ∧ r ≤ 6 ∧ x = r ∧ i = 122 + r) {b : Nat} {Q : Nat → wM → Prop} (hQ : ∀ M1 ow1, Mv tQ M ow M1 ow1 → PST G M1 ow1 a n B t u p (upd D i 1) l cc → Q 0 M1) : oGetA M t 4 2 (fun a3 => oIs M a3 21 (∃ c5, c5 ≤ b ∧ P_J9_set G a3 (nI x) c5 M (Q c5))) := by
  obtain ⟨kl, su, on, w, y, ⟨ht, ⟨v, hC, hv⟩, hE, ⟨bw, hO, hO2⟩, hS⟩, hW⟩ := h
  refine oGetA.i hC.1 rfl (hO.is ⟨0, Nat.zero_le _, S_bsset hO (by decide) hx fun M1 hs1 hO1 => hQ M1 ow (tq1 (x := 32) (by decide) hs1) ?_⟩)
  refine ⟨kl, su, on, w, y, ⟨ht, ⟨v, hC.stp hs1 (by decide), hv⟩, hE.stp hs1 (by decide) (by decide) (by decide), ⟨_, hO1, ?_⟩, SRP.dE (hS.stp hs1 fun k hk => ne1 (by omega)) hg fun j hj => upd_ne _ _ (by rcases ei with ⟨q, q1, q2, q3⟩ | ⟨q, q1, q2, q3, q4⟩ <;> omega)⟩, hW.stp hs1 (by decide)⟩
  refine ⟨fun j hj => ?_, fun r r1 r2 => ?_⟩
  · rw [bit_or hx (by omega)]
    by_cases e : x = 10 + j
    · have e2 : 120 + j = i := by rcases ei with ⟨q, q1, q2, q3⟩ | ⟨q, q1, q2, q3, q4⟩ <;> omega
      rw [e2, upd_eq, ← e]; simp
    · have e2 : 120 + j ≠ i := by rcases ei with ⟨q, q1, q2, q3⟩ | ⟨q, q1, q2, q3, q4⟩ <;> omega
      rw [upd_ne _ _ e2, ← hO2.1 j hj]
      simp [e]
  · rw [bit_or hx (by omega)]
    by_cases e : x = r
    · have e2 : 122 + r = i := by rcases ei with ⟨q, q1, q2, q3⟩ | ⟨q, q1, q2, q3, q4⟩ <;> omega
      rw [e2, upd_eq, ← e]; simp
    · have e2 : 122 + r ≠ i := by rcases ei with ⟨q, q1, q2, q3⟩ | ⟨q, q1, q2, q3, q4⟩ <;> omega
      rw [upd_ne _ _ e2, ← hO2.2 r r1 r2]
      simp [e]
/-- a number of the setup is written -/
theorem K_put (h : PST G M ow a n B t u p D l cc) (hg : OKS D) {j : Nat} (hj : j < 3) {v : Int32} {κ : wM → Prop} (hQ : ∀ M1 ow1, Mv tQ M ow M1 ow1 → PST G M1 ow1 a n B t u p (upd D (111 + j) v) l cc → κ M1) : oPut G M u.1 2 (5 + j) (.int v) κ := by
  obtain ⟨kl, su, on, w, y, ⟨ht, ⟨v0, hC, hv⟩, hE, ⟨bw, hO, hO2⟩, g1, ⟨a2, a3⟩, ⟨a4, a5⟩, ⟨a6, a7⟩, ⟨ra, a8, a9⟩, gl, gs, g3, g4⟩, hW⟩ := h
  have b1 := hg.1.2
  have b2 := hg.2.1.2
  have b3 := hg.2.2.1.2
  have eu : u.1 = su := by rw [hW.2.2]
  rw [eu]
  have ed : ∀ i, i ≠ 111 + j → upd D (111 + j) v i = D i := fun i hi => upd_ne _ _ hi
  have es : ([.ref (y 9 0), .ref (y 9 1), .ref (y 9 2), .ref (y 9 3), .ref (y 9 4), .int (D 111), .int (D 112), .int (D 113)] : List Value).set (5 + j) (.int v) = [.ref (y 9 0), .ref (y 9 1), .ref (y 9 2), .ref (y 9 3), .ref (y 9 4), .int (upd D (111 + j) v 111), .int (upd D (111 + j) v 112), .int (upd D (111 + j) v 113)] := by
    have hj : j = 0 ∨ j = 1 ∨ j = 2 := by omega
    rcases hj with e | e | e <;> subst e <;> rfl
  refine oPut.m g1 (by decide) (by simp; omega) es fun M1 e1 hs1 hA1 => hQ M1 ow (tq1 (x := 20) (by decide) hs1) ?_
  generalize hE2 : upd D (111 + j) v = E at *
  have e1 : nz E = nz D := by unfold nz; rw [ed 0 (by omega)]
  have e2 : ns E = ns D := by unfold ns; rw [ed 1 (by omega)]
  have e3 : nh E = nh D := by unfold nh; rw [ed 2 (by omega)]
  refine ⟨kl, su, on, w, y, ⟨ht, ⟨v0, hC.stp hs1 (by decide), hv⟩, hE.stp hs1 (by decide) (by decide) (by decide), ⟨bw, hO.stp hs1 (by decide), hO2.c fun i hi => ed i (by omega)⟩, hA1, ⟨by rw [e1]; exact a2.stp hs1 (by decide), fun z hz => ?_⟩, ⟨by rw [e2]; exact a4.stp hs1 (by decide), fun z hz => ?_⟩, ⟨by rw [e3]; exact a6.stp hs1 (by decide), fun z hz => ?_⟩, ⟨ra, a8.stp hs1 (by decide), a9.1, fun k k1 k2 => by rw [ed _ (by omega)]; exact a9.2 k k1 k2⟩, gl, gs, g3.stp hs1 (by decide), fun c hc => ⟨(g4 c hc).1.stp hs1 (ne1 (by omega)), fun i hi => ((g4 c hc).2 i hi).stp hs1 (by decide)⟩⟩, hW.stp hs1 (by decide)⟩
  · rw [e1] at hz
    unfold ZnC
    rw [ed _ (by omega), ed _ (by omega), ed _ (by omega), ed _ (by omega)]
    exact (a3 z hz).stp hs1 (by decide)
  · rw [e2] at hz
    unfold StC
    rw [ed _ (by omega), ed _ (by omega), ed _ (by omega)]
    exact (a5 z hz).stp hs1 (by decide)
  · rw [e3] at hz
    unfold HsC
    rw [ed _ (by omega), ed _ (by omega), ed _ (by omega)]
    exact (a7 z hz).stp hs1 (ne1 (by omega))
theorem K_amt (h : PST G M ow a n B t u p D l cc) (hg : OKS D) {j : Nat} (hj1 : 1 ≤ j) (hj : j ≤ 6) {v : Int32} {κ : wM → Prop} (hQ : ∀ M1 ow1, Mv tQ M ow M1 ow1 → PST G M1 ow1 a n B t u p (upd D (113 + j) v) l cc → κ M1) : oIast G M (u.2 4) (nI j) v κ := by
  obtain ⟨kl, su, on, w, y, ⟨ht, ⟨v0, hC, hv⟩, hE, ⟨bw, hO, hO2⟩, g1, ⟨a2, a3⟩, ⟨a4, a5⟩, ⟨a6, a7⟩, ⟨ra, a8, a9⟩, gl, gs, g3, g4⟩, hW⟩ := h
  have b1 := hg.1.2
  have b2 := hg.2.1.2
  have b3 := hg.2.2.1.2
  have eu : u.2 4 = y 9 4 := by rw [hW.2.2]
  rw [eu]
  have ed : ∀ i, i ≠ 113 + j → upd D (113 + j) v i = D i := fun i hi => upd_ne _ _ hi
  refine oIast.m a8 (by decide) rfl (by omega) (by decide) fun M1 e1 hs1 hA1 => hQ M1 ow (tq1 (x := 29) (by decide) hs1) ?_
  have ev : upd D (113 + j) v (113 + j) = v := upd_eq _ _ _
  generalize hE2 : upd D (113 + j) v = E at *
  have e1 : nz E = nz D := by unfold nz; rw [ed 0 (by omega)]
  have e2 : ns E = ns D := by unfold ns; rw [ed 1 (by omega)]
  have e3 : nh E = nh D := by unfold nh; rw [ed 2 (by omega)]
  have es : suC E y = suC D y := by unfold suC; rw [ed 111 (by omega), ed 112 (by omega), ed 113 (by omega)]
  refine ⟨kl, su, on, w, y, ⟨ht, ⟨v0, hC.stp hs1 (by decide), hv⟩, hE.stp hs1 (by decide) (by decide) (by decide), ⟨bw, hO.stp hs1 (by decide), hO2.c fun i hi => ed i (by omega)⟩, by rw [es]; exact g1.stp hs1 (by decide), ⟨by rw [e1]; exact a2.stp hs1 (by decide), fun z hz => ?_⟩, ⟨by rw [e2]; exact a4.stp hs1 (by decide), fun z hz => ?_⟩, ⟨by rw [e3]; exact a6.stp hs1 (by decide), fun z hz => ?_⟩, ⟨_, hA1, by rw [upd_ne _ _ (by omega)]; exact a9.1, fun k k1 k2 => ?_⟩, gl, gs, g3.stp hs1 (by decide), fun c hc => ⟨(g4 c hc).1.stp hs1 (ne1 (by omega)), fun i hi => ((g4 c hc).2 i hi).stp hs1 (by decide)⟩⟩, hW.stp hs1 (by decide)⟩
  · rw [e1] at hz
    unfold ZnC
    rw [ed _ (by omega), ed _ (by omega), ed _ (by omega), ed _ (by omega)]
    exact (a3 z hz).stp hs1 (by decide)
  · rw [e2] at hz
    unfold StC
    rw [ed _ (by omega), ed _ (by omega), ed _ (by omega)]
    exact (a5 z hz).stp hs1 (by decide)
  · rw [e3] at hz
    unfold HsC
    rw [ed _ (by omega), ed _ (by omega), ed _ (by omega)]
    exact (a7 z hz).stp hs1 (ne1 (by omega))
  · by_cases e : k = j
    · rw [e, upd_eq, ev]
    · rw [upd_ne _ _ e, ed _ (by omega)]; exact a9.2 k k1 k2
/-- term, offer, renew -/
theorem R_single (h : PST G M ow a n B t u p D l cc) (hB : BYT B) (hc : pC p = 0) (hg : OKS D) {j : Nat} (hj : j < 3) {x lo hi : Int32} (ex : x = nI (10 + j)) {p2 : PS} (ep1 : p1 = goP B n (needsP (decide (D (120 + j) = 0)) 3 p)) (ep2 : p2 = numP B n lo hi p1) {b e : Nat} (hb : cs p p2 e ≤ b) {Q : Int32 → wM → Prop} {Xp : String → Nat → wM → Prop} (hQ : pC p2 = 0 → ∀ M1 ow1, Mv tQ M ow M1 ow1 → PST G M1 ow1 a n B t u p2 (upd D (120 + j) 1) l cc → Q (pV p1) M1) (hX : pC p2 ≠ 0 → ∀ q M1 ow1, Mv tQ M ow M1 ow1 → EXC M1 q p2 → Xp ePE q M1) : P_X5_single G t x lo hi b M Q Xp := by
  subst ex
  have ho := h.o.1
  have o1 : PSo n p1 := by rw [ep1]; exact goP_o (needsP_o ho _ _)
  have m2 : p1.1 ≤ p2.1 := by rw [ep2]; exact numP_a o1 _ _
  have s2 : pC p1 ≠ 0 → p2 = p1 := fun c => by rw [ep2]; exact num_s c _ _
  have go : ∀ y0, y0 = wb (decide (D (120 + j) = 0)) → B_X5_single_17 G Q Xp t (nI (10 + j)) lo hi y0 t M b := fun y0 ey => by
    unfold B_X5_single_17
    cases eb : decide (D (120 + j) = 0) with
    | false =>
      rw [eb] at ey
      have hne := need_fc hc (x := 3) (by decide)
      rw [eb, go_s hne] at ep1
      have c1 : pC p1 ≠ 0 := by rw [ep1]; exact hne
      have e2 := s2 c1
      rw [e2] at hb hX
      exact h.is ⟨b, Nat.le_refl _, R_req h hc (bb := false) ey (fun _ => cs_9 c1 hb) (fun e => by cases e) (fun _ q M1 ow1 hs1 hx => ⟨rfl, hX c1 q M1 ow1 hs1 (by rw [ep1]; exact hx)⟩)⟩
    | true =>
      rw [eb] at ey
      rw [eb, need_t] at ep1
      have c1 : pC p1 = 0 := by rw [ep1, goP_c]; exact hc
      obtain ⟨w1, w2⟩ := cs_2 (p1 := p1) (e1 := 0) (by rw [ep1]; exact goP_a ho) m2 s2 (Nat.zero_le _) hb
      refine h.is ⟨0, Nat.zero_le _, R_req h hc (bb := true) ey (fun e => by cases e) (fun _ => ?_) (fun e => by cases e)⟩
      refine K_set h hg (x := 10 + j) (i := 120 + j) (by omega) (.inl ⟨j, hj, rfl, rfl⟩) fun M1 ow1 hs1 g1 => ?_
      refine g1.is ⟨cs p p1 0, w1, R_go g1 hB hc (e := 0) (by rw [ep1]; exact Nat.le_refl _) fun M2 ow2 hs2 g2 => ?_⟩
      have g2 : PST G M2 ow2 a n B t u p1 (upd D (120 + j) 1) l cc := by rw [ep1]; exact g2.s
      have hs2 := hs1.tr hs2
      exact K_number g2 hB c1 ep2 (Nat.le_refl _) (fun _ => rfl) (w2 c1) (fun c2 M3 ow3 b3 hs3 g3 hb3 => hQ c2 M3 ow3 (hs2.tr hs3) g3) (fun c2 q M3 ow3 hs hx => hX c2 q M3 ow3 (hs2.tr hs) hx)
  unfold P_X5_single
  obtain ⟨kl, su, on, w, y, ⟨ht, ⟨v, hC, hv⟩, hE, ⟨bw, hO, hO2⟩, hS⟩, hW⟩ := h
  refine oGetA.i hC.1 rfl (hO.is (S_bsget hO (by omega) (bl _ (fun c => go 0 ?_) (fun c => go 1 ?_))))
  · rw [decide_eq_false ((hO2.1 j hj).mp c)]; rfl
  · rw [decide_eq_true (Decidable.not_not.mp (fun z => by rw [(hO2.1 j hj).mpr z] at c; cases c))]; rfl
end C39
