set_option maxRecDepth 100000
/-! STAGE 2, component, reading 9: fines, statements -/
theorem fX (B : Rw) (n : Nat) (p : PS) (D : Rw) (l : Nat → Nat → Int64) : fineX B n (p, D, l) = (numP B n 0 999 (goP B n (fn3 D (pV (goP B n p)) (lookP 1 6 (goP B n p)))), (if pC (numP B n 0 999 (goP B n (fn3 D (pV (goP B n p)) (lookP 1 6 (goP B n p))))) = 0 then upd (upd D (122 + (pV (goP B n p)).toNatClampNeg) 1) (114 + (pV (goP B n p)).toNatClampNeg - 1) (pV (goP B n (fn3 D (pV (goP B n p)) (lookP 1 6 (goP B n p))))) else D), l) := by
  unfold fineX; dsimp only
theorem fX' (B : Rw) (n : Nat) (p : PS) (D : Rw) (l : Nat → Nat → Int64) : ∃ p1 p2 p3 p4, p1 = goP B n p ∧ p2 = fn3 D (pV p1) (lookP 1 6 p1) ∧ p3 = goP B n p2 ∧ p4 = numP B n 0 999 p3 ∧ (fineX B n (p, D, l)).1 = p4 ∧ (fineX B n (p, D, l)).2.1 = (if pC p4 = 0 then upd (upd D (122 + (pV p1).toNatClampNeg) 1) (114 + (pV p1).toNatClampNeg - 1) (pV p3) else D) := by
  refine ⟨_, _, _, _, rfl, rfl, rfl, rfl, ?_, ?_⟩
  · rw [fX]
  · rw [fX]
section C40
variable {G : wG} {M : wM} {ow : Nat → Nat} {a n t : Nat} {u : Nat × (Nat → Nat)} {B : Rw} {p p1 : PS} {D E : Rw} {l l1 : Nat → Nat → Int64} {cc c1 : Nat → Nat}
theorem K_setF (h : PST G M ow a n B t u p D l cc) (hg : OKS D) {x i : Nat} (hx : x < 64) (ei : (∃ j, j < 3 ∧ x = 10 + j ∧ i = 120 + j) ∨ ∃ r, 1 ≤ r ∧ r ≤ 6 ∧ x = r ∧ i = 122 + r) (c2 : pT p = 2) (ev : pV p = nI x) {b : Nat} {Q : Nat → wM → Prop} (hQ : ∀ M1 ow1, Mv tQ M ow M1 ow1 → PST G M1 ow1 a n B t u p (upd D i 1) l cc → Q 0 M1) : oGetA M t 4 2 (fun a3 => oGetI M t 4 6 (fun v4 => oIs M a3 21 (∃ c5, c5 ≤ b ∧ P_J9_set G a3 v4 c5 M (Q c5)))) := by
  obtain ⟨fs, on, k1, k2, k3⟩ := K_set (b := b) h hg hx ei hQ
  exact ⟨fs, on, k1, k2, h.va c2 (by rw [ev]; exact k3)⟩
theorem K_a4 (h : PST G M ow a n B t u p D l cc) {κ : Nat → Prop} (hk : κ (u.2 4)) : oGetA M t 4 1 (fun a15 => oGetA M a15 2 4 κ) := by
  obtain ⟨kl, su, on, w, y, ⟨ht, ⟨v, hC, hv⟩, hE, hO, g1, -⟩, hW⟩ := h
  have ea : u.2 4 = y 9 4 := by rw [hW.2.2]
  rw [ea] at hk
  exact oGetA.i hC.1 rfl (oGetA.i g1.1 rfl hk)
theorem K_su (h : PST G M ow a n B t u p D l cc) {κ : Nat → Prop} (hk : κ u.1) : oGetA M t 4 1 κ := by
  obtain ⟨kl, su, on, w, y, ⟨ht, ⟨v, hC, hv⟩, -⟩, hW⟩ := h
  have ea : u.1 = su := by rw [hW.2.2]
  rw [ea] at hk
  exact oGetA.i hC.1 rfl hk
theorem nmC_u (ed : ∀ j, j < 3 → E j = D j) : nmC E = nmC D := by
  funext j; unfold nmC nz ns nh
  rw [ed 0 (by decide), ed 1 (by decide), ed 2 (by decide)]
theorem OKS.uu (hg : OKS D) (ed : ∀ j, j < 111 → E j = D j) : OKS E := by
  have b1 := hg.1.2
  have b2 := hg.2.1.2
  have b3 := hg.2.2.1.2
  exact hg.cg (ed _ (by omega)) (ed _ (by omega)) (ed _ (by omega)) (fun s hs => ed _ (by omega)) (fun s hs => ed _ (by omega)) (fun s hs => ed _ (by omega))
theorem R_fine (h : PST G M ow a n B t u p D l cc) (hB : BYT B) (hc : pC p = 0) (hg : OKS D) {b e : Nat} (hb : cs p (fineX B n (p, D, l)).1 e ≤ b) {Q : wM → Prop} {Xp : String → Nat → wM → Prop} (hQ : pC (fineX B n (p, D, l)).1 = 0 → ∀ M1 ow1, Mv tQ M ow M1 ow1 → PST G M1 ow1 a n B t u (fineX B n (p, D, l)).1 (fineX B n (p, D, l)).2.1 l cc → Q M1) (hX : pC (fineX B n (p, D, l)).1 ≠ 0 → ∀ q M1 ow1, Mv tQ M ow M1 ow1 → EXC M1 q (fineX B n (p, D, l)).1 → Xp ePE q M1) : P_X5_fine G t b M Q Xp := by
  obtain ⟨p1, p2, p3, p4, e1, e2, e3, e4, e5, e6⟩ := fX' B n p D l
  rw [e5, e6] at hQ
  rw [e5] at hb hX
  clear e5 e6
  have ho := h.o.1
  have o1 : PSo n p1 := by rw [e1]; exact goP_o ho
  have c1 : pC p1 = 0 := by rw [e1, goP_c]; exact hc
  have m3 : p3.1 ≤ p4.1 → pC p2 = 0 → p2 = p1 → p1.1 ≤ p4.1 := fun z _ z2 => by
    have : p1.1 ≤ p3.1 := by rw [e3, z2]; exact goP_a o1
    omega
  have s2 : pC p2 ≠ 0 → p4 = p2 := fun c => by
    have x : p3 = p2 := by rw [e3]; exact go_s c
    rw [e4, x]; exact num_s c _ _
  have p21 : p2.1 = p1.1 ∧ p2.2.1 = p1.2.1 := by
    have k : ∀ b c p, (needsP b c p).1 = p.1 ∧ (needsP b c p).2.1 = p.2.1 := fun b c p => by unfold needsP; split <;> exact ⟨rfl, rfl⟩
    have kl : (lookP 1 6 p1).1 = p1.1 ∧ (lookP 1 6 p1).2.1 = p1.2.1 := by
      unfold lookP
      split
      · exact ⟨(k _ _ _).1.trans (k _ _ _).1, (k _ _ _).2.trans (k _ _ _).2⟩
      · exact k _ _ _
    rw [e2]; unfold fn3
    split
    · exact ⟨(k _ _ _).1.trans kl.1, (k _ _ _).2.trans kl.2⟩
    · exact kl
  have o2 : PSo n p2 := by unfold PSo; rw [p21.1, p21.2]; exact o1
  have o3 : PSo n p3 := by rw [e3]; exact goP_o o2
  have m4 : p3.1 ≤ p4.1 := by rw [e4]; exact numP_a o3 _ _
  have m1 : p1.1 ≤ p4.1 := by
    have : p2.1 ≤ p3.1 := by rw [e3]; exact goP_a o2
    rw [p21.1] at this; omega
  obtain ⟨w1, w2⟩ := cs_2 (p1 := p1) (e1 := 0) (by rw [e1]; exact goP_a ho) m1 (fun z => absurd c1 z) (Nat.zero_le _) hb
  unfold P_X5_fine
  refine h.is ⟨cs p p1 0, w1, R_go h hB hc (e := 0) (by rw [e1]; exact Nat.le_refl _) fun M1 ow1 hs1 g1 => ?_⟩
  have g1 : PST G M1 ow1 a n B t u p1 D l cc := by rw [e1]; exact g1.s
  have hb1 := w2 c1
  clear hb w1 w2
  have bad : ∀ (x : Int32) (bq : Nat) (y0 : Int32) {K : wM → Prop}, x ≠ 0 → p2 = needsP false x p1 → y0 = 0 → cs p1 p4 (e - 0) ≤ bq → P_X5_require G t y0 x bq M1 K (fun E q M6 => E = "ParkingOffice$ParseException" ∧ Xp E q M6) := fun x bq y0 K hx ep ey hbq => by
    have hne := need_fc c1 hx
    rw [← ep] at hne
    have e4' := s2 hne
    rw [e4'] at hbq
    exact R_req g1 c1 (bb := false) (by rw [ey]; rfl) (fun _ => cs_9 hne hbq) (fun e => by cases e) (fun _ q M2 ow2 hs hx2 => ⟨rfl, hX (by rw [e4']; exact hne) q M2 ow2 (hs1.tr hs) (by rw [e4', ep]; exact hx2)⟩)
  refine g1.kd (oIf.c (fun k1 => ?_) (fun k1 => ?_))
  · have ek : needsP (decide (pT p1 = 2)) 1 p1 = p1 := by rw [decide_eq_true k1, need_t]
    have el : lookP 1 6 p1 = needsP (inR (pV p1) 1 6) 2 p1 := by unfold lookP; rw [ek, if_pos c1]
    unfold B_X5_fine_18
    refine g1.is ⟨0, Nat.zero_le _, R_req g1 c1 (bb := true) rfl (fun e => by cases e) (fun _ => g1.va k1 (S_inR (g1.is ?_))) (fun e => by cases e)⟩
    cases ei : inR (pV p1) 1 6 with
    | false =>
      rw [ei] at el
      have hne := need_fc c1 (x := 2) (by decide)
      exact ⟨_, Nat.le_refl _, bad 2 _ _ (by decide) (by rw [e2, el]; unfold fn3; rw [if_neg hne]) rfl hb1⟩
    | true =>
      rw [ei, need_t] at el
      obtain ⟨r, r1, r6, er⟩ := inR_1n (n := 6) (by decide) ei
      have e2' : p2 = needsP (decide (D (122 + r) = 0)) 3 p1 := by rw [e2, el]; unfold fn3; rw [if_pos c1, er, nI_clamp (by omega)]
      refine ⟨0, Nat.zero_le _, R_req g1 c1 (bb := true) rfl (fun e => by cases e) (fun _ => ?_) (fun e => by cases e)⟩
      have go : ∀ y0 bq, y0 = wb (decide (D (122 + r) = 0)) → cs p1 p4 (e - 0) ≤ bq → B_X5_fine_57 G Q Xp t y0 t M1 bq := fun y0 bq ey hbq => by
        unfold B_X5_fine_57
        cases eb : decide (D (122 + r) = 0) with
        | false =>
          rw [eb] at ey e2'
          exact g1.is ⟨_, Nat.le_refl _, bad 3 _ _ (by decide) e2' ey hbq⟩
        | true =>
          rw [eb] at ey e2'
          rw [need_t] at e2'
          refine g1.is ⟨0, Nat.zero_le _, R_req g1 c1 (bb := true) ey (fun e => by cases e) (fun _ => ?_) (fun e => by cases e)⟩
          refine K_setF g1 hg (x := r) (i := 122 + r) (by omega) (.inr ⟨r, r1, r6, rfl, rfl⟩) k1 er fun M2 ow2 hs2 g2 => ?_
          have hs2 := hs1.tr hs2
          have e3' : p3 = numP B n 1 6 p1 := by rw [e3, e2']; unfold numP; rw [el]
          refine K_number g2 hB c1 e3' m4 (fun z => by rw [e4]; exact num_s z _ _) hbq (fun c3 M3 ow3 b3 hs3 g3 hb3 => ?_) (fun c3 q M3 ow3 hs hx => ?_)
          · have hs3 := hs2.tr hs3
            refine K_a4 g3 (K_number g3 hB c3 e4 (Nat.le_refl _) (fun _ => rfl) hb3 (fun c4 M4 ow4 b4 hs4 g4 hb4 => ?_) (fun c4 q M4 ow4 hs hx => hX c4 q M4 ow4 (hs3.tr hs) hx))
            have hs4 := hs3.tr hs4
            rw [er]
            refine K_amt g4 (hg.uu fun j hj => upd_ne _ _ (by omega)) r1 r6 fun M5 ow5 hs5 g5 => ?_
            have hq := hQ c4 M5 ow5 (hs4.tr hs5)
            rw [if_pos c4, er, nI_clamp (by omega), show 114 + r - 1 = 113 + r by omega] at hq
            exact hq g5
          · have e43 : p4 = p3 := by rw [e4]; exact num_s c3 _ _
            exact hX (by rw [e43]; exact c3) q M3 ow3 (hs2.tr hs) (by rw [e43]; exact hx)
      obtain ⟨kl, su, on, w, y, ⟨ht, ⟨v, hC, hv⟩, hE, ⟨bw, hO, hO2⟩, hS⟩, hW⟩ := g1
      refine oGetA.i hC.1 rfl (oGetI.i hC.1 rfl ?_)
      rw [hv k1, er]
      refine hO.is (S_bsget hO (by omega) (bl _ (fun c => go 0 _ ?_ hb1) (fun c => go 1 _ ?_ hb1)))
      · rw [decide_eq_false ((hO2.2 r r1 r6).mp c)]; rfl
      · rw [decide_eq_true (Decidable.not_not.mp (fun z => by rw [(hO2.2 r r1 r6).mpr z] at c; cases c))]; rfl
  · have hne := need_fc c1 (x := 1) (by decide)
    have el : lookP 1 6 p1 = needsP false 1 p1 := by unfold lookP; rw [decide_eq_false k1, if_neg hne]
    unfold B_X5_fine_18
    exact g1.is ⟨_, Nat.le_refl _, bad 1 _ _ (by decide) (by rw [e2, el]; unfold fn3; rw [if_neg hne]) rfl hb1⟩
end C40
