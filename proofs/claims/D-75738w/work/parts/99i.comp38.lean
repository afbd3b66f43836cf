set_option maxRecDepth 100000
/-! STAGE 2, component, reading 7: the statements street, house -/
theorem sX (B : Rw) (n : Nat) (p : PS) (D : Rw) (l : Nat → Nat → Int64) : ∃ p1 p2 p3 p4 p5 p6 z, p1 = begP B n 1 12 p D ∧ p2 = newP B n (l 24) (ns D) p1 ∧ p3 = passP B n 5 p2 ∧ p4 = oldP B n (l 23) (nz D) (-1) p3 ∧ z = oldV B (l 23) (nz D) p3 ∧ p5 = nbP B n 6 0 60 p4 ∧ p6 = (if isWP p5 7 then oldP B n (l 23) (nz D) z (goP B n p5) else p5) ∧ (streetX B n (p, D, l)).1 = p6 ∧
    (pC p6 = 0 → (streetX B n (p, D, l)).2.2 = sl l 24 (newG B (l 24) (ns D) p1) ∧ (streetX B n (p, D, l)).2.1 1 = nI (ns D) + 1 ∧ (streetX B n (p, D, l)).2.1 (27 + ns D) = z ∧ (streetX B n (p, D, l)).2.1 (39 + ns D) = nbV B n 6 p4 ∧ (streetX B n (p, D, l)).2.1 (51 + ns D) = (if isWP p5 7 then oldV B (l 23) (nz D) (goP B n p5) else -1) ∧ (∀ j, j ≠ 1 → j ≠ 27 + ns D → j ≠ 39 + ns D → j ≠ 51 + ns D → (streetX B n (p, D, l)).2.1 j = D j)) := by
  refine ⟨_, _, _, _, _, _, _, rfl, rfl, rfl, rfl, rfl, rfl, rfl, ?_, ?_⟩
  · unfold streetX
    dsimp only
    split
    · rw [st7_1, st5_1, st5_z]
    · rename_i c
      rw [new_s c, pass_s c, old_s c, nb_s c, isW_s c]
      rfl
  · intro c6
    generalize e1 : begP B n 1 12 p D = p1 at *
    generalize e2 : newP B n (l 24) (ns D) p1 = p2 at *
    generalize e3 : passP B n 5 p2 = p3 at *
    generalize e4 : oldP B n (l 23) (nz D) (-1) p3 = p4 at *
    generalize ez : oldV B (l 23) (nz D) p3 = z at *
    generalize e5 : nbP B n 6 0 60 p4 = p5 at *
    have c5 : pC p5 = 0 := Decidable.byContradiction fun z => z (by rw [if_neg (by rw [isW_s z]; decide)] at c6; exact c6)
    have c4 : pC p4 = 0 := Decidable.byContradiction fun z => z (by rw [nb_s z] at e5; rw [e5]; exact c5)
    have c3 : pC p3 = 0 := Decidable.byContradiction fun z => z (by rw [old_s z] at e4; rw [e4]; exact c4)
    have c2 : pC p2 = 0 := Decidable.byContradiction fun z => z (by rw [pass_s z] at e3; rw [e3]; exact c3)
    have c1 : pC p1 = 0 := Decidable.byContradiction fun z => z (by rw [new_s z] at e2; rw [e2]; exact c2)
    have e2x : (streetX B n (p, D, l)).2 = (upd (if isWP p5 7 then upd (upd (upd (upd D (27 + ns D) z) (39 + ns D) (nbV B n 6 p4)) (51 + ns D) (-1)) (51 + ns D) (oldV B (l 23) (nz D) (goP B n p5)) else upd (upd (upd D (27 + ns D) z) (39 + ns D) (nbV B n 6 p4)) (51 + ns D) (-1)) 1 (nI (ns D) + 1), sl l 24 (newG B (l 24) (ns D) p1)) := by
      unfold streetX
      dsimp only
      rw [e1, if_pos c1, e2, st7_2, st5_1, st5_z, st5_2, e3, e4, ez, e5, lays_0 c6, lays_0 c6, lays_0 c5, lays_0 c5, lays_0 c4]
    rw [e2x]
    dsimp only
    refine ⟨rfl, upd_eq _ _ _, ?_, ?_, ?_, fun j j0 j1 j2 j3 => ?_⟩
    · rw [upd_ne _ _ (by omega)]
      split
      · rw [upd_ne _ _ (by omega), upd_ne _ _ (by omega), upd_ne _ _ (by omega), upd_eq]
      · rw [upd_ne _ _ (by omega), upd_ne _ _ (by omega), upd_eq]
    · rw [upd_ne _ _ (by omega)]
      split
      · rw [upd_ne _ _ (by omega), upd_ne _ _ (by omega), upd_eq]
      · rw [upd_ne _ _ (by omega), upd_eq]
    · rw [upd_ne _ _ (by omega)]
      split
      · rw [upd_eq]
      · rw [upd_eq]
    · rw [upd_ne _ _ j0]
      split
      · rw [upd_ne _ _ j3, upd_ne _ _ j3, upd_ne _ _ j2, upd_ne _ _ j1]
      · rw [upd_ne _ _ j3, upd_ne _ _ j2, upd_ne _ _ j1]
theorem hX (B : Rw) (n : Nat) (p : PS) (D : Rw) (l : Nat → Nat → Int64) : ∃ p1 p2 p3 p4 p5 p6, p1 = begP B n 2 16 p D ∧ p2 = newP B n (l 25) (nh D) p1 ∧ p3 = passP B n 9 p2 ∧ p4 = oldP B n (l 24) (ns D) (-1) p3 ∧ p5 = nbP B n 10 1 3 p4 ∧ p6 = nbP B n 11 0 100 p5 ∧ (houseX B n (p, D, l)).1 = p6 ∧
    (pC p6 = 0 → (houseX B n (p, D, l)).2 = (upd (upd (upd (upd D (63 + nh D) (oldV B (l 24) (ns D) p3)) (79 + nh D) (nbV B n 10 p4)) (95 + nh D) (nbV B n 11 p5)) 2 (nI (nh D) + 1), sl l 25 (newG B (l 25) (nh D) p1))) := by
  refine ⟨_, _, _, _, _, _, rfl, rfl, rfl, rfl, rfl, rfl, ?_, ?_⟩
  · unfold houseX
    dsimp only
    split
    · rw [hs7_1]
    · rename_i c
      rw [new_s c, pass_s c, old_s c, nb_s c, nb_s c]
  · intro c6
    generalize e1 : begP B n 2 16 p D = p1 at *
    generalize e2 : newP B n (l 25) (nh D) p1 = p2 at *
    generalize e3 : passP B n 9 p2 = p3 at *
    generalize e4 : oldP B n (l 24) (ns D) (-1) p3 = p4 at *
    generalize e5 : nbP B n 10 1 3 p4 = p5 at *
    have c5 : pC p5 = 0 := Decidable.byContradiction fun z => z (by rw [nb_s z] at c6; exact c6)
    have c4 : pC p4 = 0 := Decidable.byContradiction fun z => z (by rw [nb_s z] at e5; rw [e5]; exact c5)
    have c3 : pC p3 = 0 := Decidable.byContradiction fun z => z (by rw [old_s z] at e4; rw [e4]; exact c4)
    have c2 : pC p2 = 0 := Decidable.byContradiction fun z => z (by rw [pass_s z] at e3; rw [e3]; exact c3)
    have c1 : pC p1 = 0 := Decidable.byContradiction fun z => z (by rw [new_s z] at e2; rw [e2]; exact c2)
    unfold houseX
    dsimp only
    rw [e1, if_pos c1, e2, hs7_1, hs7_2, e3, e4, e5, lays_0 c6, lays_0 c6, lays_0 c5, lays_0 c4]
section C38
variable {G : wG} {M : wM} {ow : Nat → Nat} {a n t : Nat} {u : Nat × (Nat → Nat)} {B : Rw} {p p1 : PS} {D E : Rw} {l l1 : Nat → Nat → Int64} {cc c1 : Nat → Nat}
theorem K_a2 (h : PST G M ow a n B t u p D l cc) {κ : Nat → Prop} (hk : κ (u.2 2)) : oGetA M t 4 1 (fun a15 => oGetA M a15 2 2 κ) := by
  obtain ⟨kl, su, on, w, y, ⟨ht, ⟨v, hC, hv⟩, hE, hO, g1, -⟩, hW⟩ := h
  have ea : u.2 2 = y 9 2 := by rw [hW.2.2]
  rw [ea] at hk
  exact oGetA.i hC.1 rfl (oGetA.i g1.1 rfl hk)
theorem nmC_1 {k : Nat} (e0 : nz E = nz D) (e1 : ns E = ns D + 1) (e2 : nh E = nh D) : cU (nmC D) 1 = nmC E := by
  funext j
  unfold cU nmC
  rw [e0, e1, e2]
  by_cases c : j = 1
  · rw [if_pos c, c]; rfl
  · rw [if_neg c]
    by_cases c2 : j = 0
    · rw [if_pos c2, if_pos c2]
    · rw [if_neg c2, if_neg c2, if_neg c, if_neg c]
theorem nmC_2 (e0 : nz E = nz D) (e1 : ns E = ns D) (e2 : nh E = nh D + 1) : ∀ j, j < 3 → cU (nmC D) 2 j = nmC E j := by
  intro j hj
  unfold cU nmC
  rw [e0, e1, e2]
  have hj : j = 0 ∨ j = 1 ∨ j = 2 := by omega
  rcases hj with c | c | c <;> subst c <;> rfl
theorem PST.ccE (h : PST G M ow a n B t u p D l cc) (e : ∀ j, j < 3 → cc j = c1 j) : PST G M ow a n B t u p D l c1 := by
  obtain ⟨kl, su, on, w, y, ⟨ht, hC, hE, hO, g1, g2, g4, g5, g6, gl, gs, g7, g8⟩, hW⟩ := h
  exact ⟨kl, su, on, w, y, ⟨ht, hC, hE, hO, g1, g2, g4, g5, g6, gl, gs, g7, fun c hc => by rw [← e c hc]; exact g8 c hc⟩, hW⟩
theorem PST.st0 {M1 : wM} {ow1 : Nat → Nat} (h : PST G M ow a n B t u p D l cc) (hs : Mv [] M ow M1 ow1) : PST G M1 ow1 a n B t u p D l cc := by
  obtain ⟨kl, su, on, w, y, ⟨ht, ⟨v, hC, hv⟩, hE, ⟨bw, hO, hO2⟩, hS⟩, hW⟩ := h
  exact ⟨kl, su, on, w, y, ⟨ht, ⟨v, hC.stp hs (by simp), hv⟩, hE.stp hs (by simp) (by simp) (by simp), ⟨bw, hO.stp hs (by simp), hO2⟩, hS.stp hs fun k hk => by simp⟩, hW.stp hs (by simp)⟩
theorem R_street (h : PST G M ow a n B t u p D l (nmC D)) (hB : BYT B) (hc : pC p = 0) (hg : OKS D) {b e : Nat} (he : 210 ≤ e) (hb : cs p (streetX B n (p, D, l)).1 e ≤ b) {Q : wM → Prop} {Xp : String → Nat → wM → Prop} (hQ : pC (streetX B n (p, D, l)).1 = 0 → ∀ M1 ow1, Mv tQ M ow M1 ow1 → PST G M1 ow1 a n B t u (streetX B n (p, D, l)).1 (streetX B n (p, D, l)).2.1 (streetX B n (p, D, l)).2.2 (nmC (streetX B n (p, D, l)).2.1) → Q M1) (hX : pC (streetX B n (p, D, l)).1 ≠ 0 → ∀ q M1 ow1, Mv tQ M ow M1 ow1 → EXC M1 q (streetX B n (p, D, l)).1 → Xp ePE q M1) : P_X5_street G t b M Q Xp := by
  obtain ⟨p1, p2, p3, p4, p5, p6, z, e1, e2, e3, e4, ez, e5, e6, ex, ed⟩ := sX B n p D l
  rw [ex] at hb hQ hX
  have ho := h.o.1
  have s6 : pC p5 ≠ 0 → p6 = p5 := fun c => by rw [e6, if_neg (by rw [isW_s c]; decide)]
  have s5 : pC p4 ≠ 0 → p6 = p4 := fun c => by have x : p5 = p4 := by rw [e5]; exact nb_s c _ _ _
                                               rw [s6 (by rw [x]; exact c), x]
  have s4 : pC p3 ≠ 0 → p6 = p3 := fun c => by have x : p4 = p3 := by rw [e4]; exact old_s c _ _ _
                                               rw [s5 (by rw [x]; exact c), x]
  have s3 : pC p2 ≠ 0 → p6 = p2 := fun c => by have x : p3 = p2 := by rw [e3]; exact pass_s c _
                                               rw [s4 (by rw [x]; exact c), x]
  have s2 : pC p1 ≠ 0 → p6 = p1 := fun c => by have x : p2 = p1 := by rw [e2]; exact new_s c _ _
                                               rw [s3 (by rw [x]; exact c), x]
  have o1 : PSo n p1 := by rw [e1]; exact goP_o (needsP_o ho _ _)
  have o2 : PSo n p2 := by rw [e2]; exact newP_o o1 _ _
  have o3 : PSo n p3 := by rw [e3]; exact passP_o o2 _
  have o4 : PSo n p4 := by rw [e4]; exact oldP_o o3 _ _ _
  have o5 : PSo n p5 := by rw [e5]; exact nbP_o o4 _ _ _
  have ma : (goP B n p5).1 ≤ p6.1 ∨ isWP p5 7 = false := by
    cases ew : isWP p5 7 with
    | false => exact .inr rfl
    | true => rw [e6, if_pos ew]; exact .inl (oldP_a (goP_o o5) _ _ _)
  have m6 : p5.1 ≤ p6.1 := by
    cases ew : isWP p5 7 with
    | false => rw [e6, if_neg (by rw [ew]; decide)]; exact Nat.le_refl _
    | true =>
      rcases ma with z | z
      · exact Nat.le_trans (goP_a o5) z
      · rw [ew] at z; cases z
  have m5 : p4.1 ≤ p6.1 := Nat.le_trans (by rw [e5]; exact nbP_a o4 _ _ _) m6
  have m4 : p3.1 ≤ p6.1 := Nat.le_trans (by rw [e4]; exact oldP_a o3 _ _ _) m5
  have m3 : p2.1 ≤ p6.1 := Nat.le_trans (by rw [e3]; exact passP_a o2 _) m4
  have m2 : p1.1 ≤ p6.1 := Nat.le_trans (by rw [e2]; exact newP_a o1 _ _) m3
  have bad : ∀ pi, pC pi ≠ 0 → p6 = pi → ∀ q M1 ow1, Mv tQ M ow M1 ow1 → EXC M1 q pi → Xp ePE q M1 := fun pi ci ei q M1 ow1 hs hx => hX (by rw [ei]; exact ci) q M1 ow1 hs (by rw [ei]; exact hx)
  have hz6 : nz D ≤ 6 := hg.1.2
  have hs12 : ns D ≤ 12 := hg.2.1.2
  have fin : ∀ M6 ow6 b6 v, pC p6 = 0 → ns D < 12 → v = (if isWP p5 7 then oldV B (l 23) (nz D) (goP B n p5) else -1) → Mv tQ M ow M6 ow6 → PST G M6 ow6 a n B t u p6 D (sl l 24 (newG B (l 24) (ns D) p1)) (cU (nmC D) 1) → 97 ≤ b6 → B_X5_street_105 G Q Xp t z (nbV B n 6 p4) v M6 b6 := fun M6 ow6 b6 v c6 hlt ev hs6 g6 hb6 => by
    obtain ⟨d0, d1, d2, d3, d4, d5⟩ := ed c6
    have hq := hQ c6
    rw [d0] at hq
    rw [← ev] at d4
    have ke := d5
    generalize (streetX B n (p, D, l)).2.1 = E at d1 d2 d3 d4 ke hq
    have kz : ns E = ns D + 1 := ns_e (D := D) (by rw [d1, nI_1]) (by omega)
    refine R_addS g6 hlt hz6 kz ?_ ke hb6 fun M7 ow7 hs7 g7 => hq M7 ow7 (hs6.tr hs7) ?_
    · unfold StC
      rw [d2, d3, d4]
    · have k1 : nz E = nz D := by unfold nz; rw [ke 0 (by omega) (by omega) (by omega) (by omega)]
      have k2 : nh E = nh D := by unfold nh; rw [ke 2 (by omega) (by omega) (by omega) (by omega)]
      rw [← nmC_1 (k := 0) k1 kz k2]; exact g7
  unfold P_X5_street
  refine K_ns h ?_
  have go : ∀ y0, y0 = wb (decide (D 1 < 12)) → B_X5_street_23 G Q Xp t y0 t M b := fun y0 ey => by
    unfold B_X5_street_23
    refine h.is (K_begin h hB hc e1 ey m2 s2 hb (fun c1 M1 ow1 d1 d2 hs1 g1 hb1 => ?_) (fun c1 q M1 ow1 hs hx => bad p1 c1 (s2 c1) q M1 ow1 hs hx))
    have hlt : ns D < 12 := by
      have := beg_ok (e1 ▸ c1)
      rw [hg.2.1.1] at this
      rcases Nat.lt_or_ge (ns D) 12 with z | z
      · exact z
      · exact absurd this (nI_nlt (b := 12) z (by omega))
    refine K_name (c := 1) (e := e) g1 hB c1 (by decide) (show ns D ≤ 16 by omega) rfl e2 rfl rfl (by omega) m3 s3 hb1 (fun c2 M2 ow2 b2 hs2 g2 hb2 => ?_) (fun c2 q M2 ow2 hs hx => bad p2 c2 (s3 c2) q M2 ow2 (hs1.tr hs) hx)
    have hs2 := hs1.tr hs2
    refine K_expect (k := 5) (x := 5) g2 hB c2 (by decide) rfl e3 m4 s4 hb2 (fun c3 M3 ow3 b3 hs3 g3 hb3 => ?_) (fun c3 q M3 ow3 hs hx => bad p3 c3 (s4 c3) q M3 ow3 (hs2.tr hs) hx)
    have hs3 := hs2.tr hs3
    refine K_known (c := 0) (x := 0) g3 hB c3 (by decide) rfl (show l 23 = sl l (23 + 1) (newG B (l (23 + 1)) (nmC D 1) p1) (23 + 0) from rfl) (show nz D = cU (nmC D) 1 0 from rfl) e4 m5 s5 hb3 (fun c4 M4 ow4 b4 hs4 g4 hb4 => ?_) (fun c4 q M4 ow4 hs hx => bad p4 c4 (s5 c4) q M4 ow4 (hs3.tr hs) hx)
    have hs4 := hs3.tr hs4
    rw [← ez]
    refine K_numB (k := 6) (x := 6) g4 hB c4 (by decide) rfl e5 m6 s6 hb4 (fun c5 M5 ow5 b5 hs5 g5 hb5 => ?_) (fun c5 q M5 ow5 hs hx => bad p5 c5 (s6 c5) q M5 ow5 (hs4.tr hs) hx)
    have hs5 := hs4.tr hs5
    cases ew : isWP p5 7 with
    | false =>
      have e6' : p6 = p5 := by rw [e6, if_neg (by rw [ew]; decide)]
      refine g5.is ⟨0, Nat.zero_le _, R_accept (k := 7) (x := 7) (e := 0) g5 hB c5 (by decide) rfl (fun z => by rw [ew] at z; cases z) (fun z => by rw [ew] at z; cases z) (fun _ => oIf.n (by decide) ?_)⟩
      refine fin M5 ow5 _ _ (by rw [e6']; exact c5) hlt (by rw [if_neg (by rw [ew]; decide)]) hs5 (by rw [e6']; exact g5) ?_
      have := cs_x hb5; omega
    | true =>
      have e6' : p6 = oldP B n (l 23) (nz D) z (goP B n p5) := by rw [e6, if_pos ew]
      have ma : (goP B n p5).1 ≤ p6.1 := by rw [e6']; exact oldP_a (goP_o o5) _ _ _
      have ca : pC (goP B n p5) = 0 := by rw [goP_c]; exact c5
      obtain ⟨x1, x2⟩ := cs_2 (p1 := goP B n p5) (e1 := 0) (goP_a o5) ma (fun z => absurd ca z) (Nat.zero_le _) hb5
      refine g5.is ⟨_, x1, R_accept (k := 7) (x := 7) (e := 0) g5 hB c5 (by decide) rfl (fun _ => Nat.le_refl _) (fun _ M6 ow6 hs6 g6 => oIf.y rfl ?_) (fun z => by rw [ew] at z; cases z)⟩
      have hs6 := hs5.tr hs6
      have hb6 := x2 ca
      have ev : (if isWP p5 7 then oldV B (l 23) (nz D) (goP B n p5) else -1) = oldV B (l 23) (nz D) (goP B n p5) := if_pos ew
      rw [ev] at fin
      have g6 := g6.s
      generalize goP B n p5 = pa at *
      cases en : isNm pa with
      | false =>
        have k1 : nnmP pa = needsP false 1 pa := by unfold nnmP; rw [en]
        have hne := need_fc ca (x := 1) (by decide)
        have k2 : p6 = nnmP pa := by rw [e6']; unfold oldP; rw [if_neg (by rw [k1]; exact hne)]
        rw [k2] at hb6
        exact g6.is ⟨_, Nat.le_refl _, R_name (c := 0) g6 hB ca (by decide) rfl hb6 (fun e => by rw [en] at e; cases e) (fun _ q M7 ow7 hs7 hx => ⟨rfl, hX (by rw [k2, k1]; exact hne) q M7 ow7 (hs6.tr hs7) (by rw [k2]; exact hx)⟩)⟩
      | true =>
        have k1 : nnmP pa = pa := by unfold nnmP; rw [en, need_t]
        have k2 : p6 = goP B n (needsP (!decide (placeF (l 23) (nz D) (nmB B pa) = -1) && !decide (placeF (l 23) (nz D) (nmB B pa) = z)) 3 pa) := by rw [e6']; unfold oldP oldQ; rw [k1, if_pos ca]
        have k3 : oldV B (l 23) (nz D) pa = placeF (l 23) (nz D) (nmB B pa) := by unfold oldV; rw [k1, if_pos ca]
        rw [k3] at fin
        have key : ∀ v bq, v = placeF (l 23) (nz D) (nmB B pa) → cs pa p6 (e - 92) ≤ bq → oIf (v = -1) (B_X5_street_93 G Q Xp t z (nbV B n 6 p4) v t M6 bq) (oIf (v = z) (B_X5_street_93 G Q Xp t z (nbV B n 6 p4) v t M6 bq) (B_X5_street_94 G Q Xp t z (nbV B n 6 p4) v (1 : Int32) t M6 bq)) := fun v bq evv hbq => by
          rw [← evv] at fin k2
          have go2 : ∀ y0 bb, y0 = wb bb → bb = (!decide (v = -1) && !decide (v = z)) → B_X5_street_94 G Q Xp t z (nbV B n 6 p4) v y0 t M6 bq := fun y0 bb ey eb => by
            unfold B_X5_street_94
            rw [← eb] at k2
            cases bb with
            | true =>
              rw [need_t] at k2
              have c6 : pC p6 = 0 := by rw [k2, goP_c]; exact ca
              obtain ⟨w1, w2⟩ := cs_2 (p1 := p6) (e1 := 0) (by rw [k2]; exact goP_a g6.o.1) (Nat.le_refl _) (fun _ => rfl) (Nat.zero_le _) hbq
              refine g6.is ⟨0, Nat.zero_le _, R_req g6 ca (bb := true) ey (fun e => by cases e) (fun _ => g6.is ⟨cs pa p6 0, w1, R_go g6 hB ca (e := 0) (by rw [k2]; exact Nat.le_refl _) fun M7 ow7 hs7 g7 => ?_⟩) (fun e => by cases e)⟩
              refine fin M7 ow7 _ _ c6 hlt rfl (hs6.tr hs7) (by rw [k2]; exact g7.s) ?_
              have := cs_x (w2 c6); show 97 ≤ bq - 0 - cs pa p6 0; omega
            | false =>
              have hne := need_fc ca (x := 3) (by decide)
              rw [go_s hne] at k2
              have c6 : pC p6 ≠ 0 := by rw [k2]; exact hne
              rw [k2] at hbq
              exact g6.is ⟨bq, Nat.le_refl _, R_req g6 ca (bb := false) ey (fun _ => cs_9 hne hbq) (fun e => by cases e) (fun _ q M7 ow7 hs7 hx => ⟨rfl, hX c6 q M7 ow7 (hs6.tr hs7) (by rw [k2]; exact hx)⟩)⟩
          exact oIf.c (fun k => by unfold B_X5_street_93; exact go2 0 false rfl (by rw [decide_eq_true k]; rfl)) (fun k => oIf.c (fun k2 => by unfold B_X5_street_93; exact go2 0 false rfl (by rw [decide_eq_true k2, Bool.not_true, Bool.and_false])) (fun k2 => go2 1 true rfl (by rw [decide_eq_false k, decide_eq_false k2]; rfl)))
        exact g6.is ⟨0, Nat.zero_le _, R_name (c := 0) (e := 0) g6 hB ca (by decide) rfl (by rw [k1]; exact cs_0 ca (Nat.le_refl _)) (fun _ => key _ _ rfl hb6) (fun e => by rw [en] at e; cases e)⟩
  refine oIf.c (fun c => go 0 ?_) (fun c => go 1 ?_)
  · rw [hg.2.1.1, decide_eq_false]; rfl
    exact fun z => Int32.not_lt.mpr c z
  · rw [hg.2.1.1, decide_eq_true]; rfl
    exact Int32.not_le.mp c
theorem R_house (h : PST G M ow a n B t u p D l (nmC D)) (hB : BYT B) (hc : pC p = 0) (hg : OKS D) {b e : Nat} (he : 210 ≤ e) (hb : cs p (houseX B n (p, D, l)).1 e ≤ b) {Q : wM → Prop} {Xp : String → Nat → wM → Prop} (hQ : pC (houseX B n (p, D, l)).1 = 0 → ∀ M1 ow1, Mv tQ M ow M1 ow1 → PST G M1 ow1 a n B t u (houseX B n (p, D, l)).1 (houseX B n (p, D, l)).2.1 (houseX B n (p, D, l)).2.2 (nmC (houseX B n (p, D, l)).2.1) → Q M1) (hX' : pC (houseX B n (p, D, l)).1 ≠ 0 → ∀ q M1 ow1, Mv tQ M ow M1 ow1 → EXC M1 q (houseX B n (p, D, l)).1 → Xp ePE q M1) : P_X5_house G t b M Q Xp := by
  obtain ⟨p1, p2, p3, p4, p5, p6, e1, e2, e3, e4, e5, e6, ex, ed⟩ := hX B n p D l
  rw [ex] at hb hQ hX'
  have ho := h.o.1
  have s6 : pC p5 ≠ 0 → p6 = p5 := fun c => by rw [e6]; exact nb_s c _ _ _
  have s5 : pC p4 ≠ 0 → p6 = p4 := fun c => by have x : p5 = p4 := by rw [e5]; exact nb_s c _ _ _
                                               rw [s6 (by rw [x]; exact c), x]
  have s4 : pC p3 ≠ 0 → p6 = p3 := fun c => by have x : p4 = p3 := by rw [e4]; exact old_s c _ _ _
                                               rw [s5 (by rw [x]; exact c), x]
  have s3 : pC p2 ≠ 0 → p6 = p2 := fun c => by have x : p3 = p2 := by rw [e3]; exact pass_s c _
                                               rw [s4 (by rw [x]; exact c), x]
  have s2 : pC p1 ≠ 0 → p6 = p1 := fun c => by have x : p2 = p1 := by rw [e2]; exact new_s c _ _
                                               rw [s3 (by rw [x]; exact c), x]
  have o1 : PSo n p1 := by rw [e1]; exact goP_o (needsP_o ho _ _)
  have o2 : PSo n p2 := by rw [e2]; exact newP_o o1 _ _
  have o3 : PSo n p3 := by rw [e3]; exact passP_o o2 _
  have o4 : PSo n p4 := by rw [e4]; exact oldP_o o3 _ _ _
  have o5 : PSo n p5 := by rw [e5]; exact nbP_o o4 _ _ _
  have m6 : p5.1 ≤ p6.1 := by rw [e6]; exact nbP_a o5 _ _ _
  have m5 : p4.1 ≤ p6.1 := Nat.le_trans (by rw [e5]; exact nbP_a o4 _ _ _) m6
  have m4 : p3.1 ≤ p6.1 := Nat.le_trans (by rw [e4]; exact oldP_a o3 _ _ _) m5
  have m3 : p2.1 ≤ p6.1 := Nat.le_trans (by rw [e3]; exact passP_a o2 _) m4
  have m2 : p1.1 ≤ p6.1 := Nat.le_trans (by rw [e2]; exact newP_a o1 _ _) m3
  have bad : ∀ pi, pC pi ≠ 0 → p6 = pi → ∀ q M1 ow1, Mv tQ M ow M1 ow1 → EXC M1 q pi → Xp ePE q M1 := fun pi ci ei q M1 ow1 hs hx => hX' (by rw [ei]; exact ci) q M1 ow1 hs (by rw [ei]; exact hx)
  have hz6 : nz D ≤ 6 := hg.1.2
  have hs12 : ns D ≤ 12 := hg.2.1.2
  have hh16 : nh D ≤ 16 := hg.2.2.1.2
  unfold P_X5_house
  refine K_nh h ?_
  have go : ∀ y0, y0 = wb (decide (D 2 < 16)) → B_X5_house_23 G Q Xp t y0 t M b := fun y0 ey => by
    unfold B_X5_house_23
    refine h.is (K_begin h hB hc e1 ey m2 s2 hb (fun c1 M1 ow1 d1 d2 hs1 g1 hb1 => ?_) (fun c1 q M1 ow1 hs hx => bad p1 c1 (s2 c1) q M1 ow1 hs hx))
    have hlt : nh D < 16 := by
      have := beg_ok (e1 ▸ c1)
      rw [hg.2.2.1.1] at this
      rcases Nat.lt_or_ge (nh D) 16 with z | z
      · exact z
      · exact absurd this (nI_nlt (b := 16) z (by omega))
    refine K_name (c := 2) (e := e) g1 hB c1 (by decide) (show nh D ≤ 16 by omega) rfl e2 rfl rfl (by omega) m3 s3 hb1 (fun c2 M2 ow2 b2 hs2 g2 hb2 => ?_) (fun c2 q M2 ow2 hs hx => bad p2 c2 (s3 c2) q M2 ow2 (hs1.tr hs) hx)
    have hs2 := hs1.tr hs2
    refine K_expect (k := 9) (x := 9) g2 hB c2 (by decide) rfl e3 m4 s4 hb2 (fun c3 M3 ow3 b3 hs3 g3 hb3 => ?_) (fun c3 q M3 ow3 hs hx => bad p3 c3 (s4 c3) q M3 ow3 (hs2.tr hs) hx)
    have hs3 := hs2.tr hs3
    refine K_known (c := 1) (x := 1) g3 hB c3 (by decide) rfl (show l 24 = sl l (23 + 2) (newG B (l (23 + 2)) (nmC D 2) p1) (23 + 1) from rfl) (show ns D = cU (nmC D) 2 1 from rfl) e4 m5 s5 hb3 (fun c4 M4 ow4 b4 hs4 g4 hb4 => ?_) (fun c4 q M4 ow4 hs hx => bad p4 c4 (s5 c4) q M4 ow4 (hs3.tr hs) hx)
    have hs4 := hs3.tr hs4
    refine K_numB (k := 10) (x := 10) g4 hB c4 (by decide) rfl e5 m6 s6 hb4 (fun c5 M5 ow5 b5 hs5 g5 hb5 => ?_) (fun c5 q M5 ow5 hs hx => bad p5 c5 (s6 c5) q M5 ow5 (hs4.tr hs) hx)
    have hs5 := hs4.tr hs5
    refine K_a2 g5 ⟨?_, fun q hq hz => ?_⟩
    · have := cs_x hb5; simp; omega
    have hb6 := cs_m (k := 4) hb5 (by omega)
    have hsq : Mv [] M5 ow5 (wIns M5 q (.inr (8, [.int 0, .int 0, .int 0]))) (va_up ow5 q (100 + nh D)) := Mv.nw (by decide) hq _ _
    have hCq : Cl G (wIns M5 q (.inr (8, [.int 0, .int 0, .int 0]))) (va_up ow5 q (100 + nh D)) (100 + nh D) q (.inr (8, [.int 0, .int 0, .int 0])) := Cl.nw M5 ow5 hz _ _
    generalize wIns M5 q (.inr (8, [.int 0, .int 0, .int 0])) = M6 at hsq hCq ⊢
    generalize va_up ow5 q (100 + nh D) = ow6 at hsq hCq
    have g6 := g5.st0 hsq
    have hs6 := hs5.tr (tq0 hsq)
    refine K_numB (k := 11) (x := 11) g6 hB c5 (by decide) rfl e6 (Nat.le_refl _) (fun _ => rfl) hb6 (fun c6 M7 ow7 b7 hs7 g7 hb7 => ?_) (fun c6 q M7 ow7 hs hx => hX' c6 q M7 ow7 (hs6.tr hs) hx)
    have ed := ed c6
    rw [ed] at hQ
    have hq6 := hQ c6
    dsimp only at hq6
    generalize eE : upd (upd (upd (upd D (63 + nh D) (oldV B (l 24) (ns D) p3)) (79 + nh D) (nbV B n 10 p4)) (95 + nh D) (nbV B n 11 p5)) 2 (nI (nh D) + 1) = E at hq6
    have kz : nh E = nh D + 1 := nh_e (D := D) (by rw [← eE, upd_eq, nI_1]) (by omega)
    have ke : ∀ j, j ≠ 2 → j ≠ 63 + nh D → j ≠ 79 + nh D → j ≠ 95 + nh D → E j = D j := fun j j0 j1 j2 j3 => by rw [← eE, upd_ne _ _ j0, upd_ne _ _ j3, upd_ne _ _ j2, upd_ne _ _ j1]
    have hC7 := hCq.stp hs7 (by unfold tQ; simp; omega)
    refine R_addH g7 hlt hz6 hs12 hC7 kz ?_ ke (b := _) (Xp := Xp) ?_ fun M8 ow8 hs8 g8 => hq6 M8 ow8 (hs8 M ow (hs5.ne hq) (hs6.tr hs7)) ?_
    · unfold HsC
      rw [← eE, upd_ne _ _ (by omega), upd_ne _ _ (by omega), upd_ne _ _ (by omega), upd_eq, upd_ne _ _ (by omega), upd_ne _ _ (by omega), upd_eq, upd_ne _ _ (by omega), upd_eq]
    · have := cs_x hb7
      have e3 : ([.int 0, .int 0, .int 0] : List Value).length + 1 = 4 := rfl
      rw [e3]
      omega
    · have k1 : nz E = nz D := by unfold nz; rw [ke 0 (by omega) (by omega) (by omega) (by omega)]
      have k2 : ns E = ns D := by unfold ns; rw [ke 1 (by omega) (by omega) (by omega) (by omega)]
      exact g8.ccE (nmC_2 k1 k2 kz)
  refine oIf.c (fun c => go 0 ?_) (fun c => go 1 ?_)
  · rw [hg.2.2.1.1, decide_eq_false]; rfl
    exact fun z => Int32.not_lt.mpr c z
  · rw [hg.2.2.1.1, decide_eq_true]; rfl
    exact Int32.not_le.mp c
end C38
