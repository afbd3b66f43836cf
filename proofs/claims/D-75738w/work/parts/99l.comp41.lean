set_option maxRecDepth 100000
/-! STAGE 2, component, reading 10: a statement; the loop -/
theorem wf {p : PS} {i j : Int32} (h : isWP p i = true) (e : i ≠ j) : isWP p j = false := by
  unfold isWP at h ⊢
  simp only [Bool.and_eq_true, decide_eq_true_eq] at h
  rw [decide_eq_false (show ¬ pW p = j from fun z => e (h.2.2.symm.trans z)), Bool.and_false, Bool.and_false]
theorem wfn {p : PS} {i : Int32} (h : isWP p i = false) : ¬ isWP p i = true := by rw [h]; decide
theorem oX (B : Rw) (n w j : Nat) (lo hi : Int32) (p : PS) (D : Rw) (l : Nat → Nat → Int64) : onceX B n w j lo hi (p, D, l) = (numP B n lo hi (goP B n (needsP (decide (D (120 + w) = 0)) 3 p)), laysD (numP B n lo hi (goP B n (needsP (decide (D (120 + w) = 0)) 3 p))) j (pV (goP B n (needsP (decide (D (120 + w) = 0)) 3 p))) (laysD (goP B n (needsP (decide (D (120 + w) = 0)) 3 p)) (120 + w) 1 D), l) := by
  unfold onceX; dsimp only
def eS (p : PS) : Nat := if isWP p 0 || (isWP p 4 || isWP p 8) then 210 else 0
section C41
variable {G : wG} {M : wM} {ow : Nat → Nat} {a n t : Nat} {u : Nat × (Nat → Nat)} {B : Rw} {p p1 : PS} {D E : Rw} {l l1 : Nat → Nat → Int64} {cc c1 : Nat → Nat}
theorem st_0 (h : isWP p 0 = true) : stmtX B n (p, D, l) = zoneX B n (p, D, l) := by unfold stmtX; rw [if_pos h]
theorem st_4 (h : isWP p 4 = true) : stmtX B n (p, D, l) = streetX B n (p, D, l) := by unfold stmtX; rw [if_neg (wfn (wf h (by decide))), if_pos h]
theorem st_8 (h : isWP p 8 = true) : stmtX B n (p, D, l) = houseX B n (p, D, l) := by unfold stmtX; rw [if_neg (wfn (wf h (by decide))), if_neg (wfn (wf h (by decide))), if_pos h]
theorem st_12 (h : isWP p 12 = true) : stmtX B n (p, D, l) = onceX B n 0 111 1 365 (p, D, l) := by unfold stmtX; rw [if_neg (wfn (wf h (by decide))), if_neg (wfn (wf h (by decide))), if_neg (wfn (wf h (by decide))), if_pos h]
theorem st_13 (h : isWP p 13 = true) : stmtX B n (p, D, l) = onceX B n 1 112 1 99 (p, D, l) := by unfold stmtX; rw [if_neg (wfn (wf h (by decide))), if_neg (wfn (wf h (by decide))), if_neg (wfn (wf h (by decide))), if_neg (wfn (wf h (by decide))), if_pos h]
theorem st_14 (h : isWP p 14 = true) : stmtX B n (p, D, l) = onceX B n 2 113 0 30 (p, D, l) := by unfold stmtX; rw [if_neg (wfn (wf h (by decide))), if_neg (wfn (wf h (by decide))), if_neg (wfn (wf h (by decide))), if_neg (wfn (wf h (by decide))), if_neg (wfn (wf h (by decide))), if_pos h]
theorem st_15 (h : isWP p 15 = true) : stmtX B n (p, D, l) = fineX B n (p, D, l) := by unfold stmtX; rw [if_neg (wfn (wf h (by decide))), if_neg (wfn (wf h (by decide))), if_neg (wfn (wf h (by decide))), if_neg (wfn (wf h (by decide))), if_neg (wfn (wf h (by decide))), if_neg (wfn (wf h (by decide))), if_pos h]
theorem st_no (h0 : isWP p 0 = false) (h4 : isWP p 4 = false) (h8 : isWP p 8 = false) (h12 : isWP p 12 = false) (h13 : isWP p 13 = false) (h14 : isWP p 14 = false) (h15 : isWP p 15 = false) : stmtX B n (p, D, l) = (needsP false 1 p, D, l) := by
  unfold stmtX; rw [if_neg (wfn h0), if_neg (wfn h4), if_neg (wfn h8), if_neg (wfn h12), if_neg (wfn h13), if_neg (wfn h14), if_neg (wfn h15)]
theorem R_once (h : PST G M ow a n B t u p D l (nmC D)) (hB : BYT B) (hc : pC p = 0) (hg : OKS D) {j : Nat} (hj : j < 3) {x lo hi : Int32} (ex : x = nI (10 + j)) {b e : Nat} (hb : cs p (onceX B n j (111 + j) lo hi (p, D, l)).1 e ≤ b) {Q : Nat → wM → Prop} {Xp : String → Nat → wM → Prop} (hQ : pC (onceX B n j (111 + j) lo hi (p, D, l)).1 = 0 → ∀ M1 ow1, Mv tQ M ow M1 ow1 → PST G M1 ow1 a n B t u (onceX B n j (111 + j) lo hi (p, D, l)).1 (onceX B n j (111 + j) lo hi (p, D, l)).2.1 l (nmC (onceX B n j (111 + j) lo hi (p, D, l)).2.1) → Q b M1) (hX : pC (onceX B n j (111 + j) lo hi (p, D, l)).1 ≠ 0 → ∀ q M1 ow1, Mv tQ M ow M1 ow1 → EXC M1 q (onceX B n j (111 + j) lo hi (p, D, l)).1 → Xp ePE q M1) : oGetA M t 4 1 (fun a19 => oIs M t 4 (∃ c21, c21 ≤ b ∧ P_X5_single G t x lo hi c21 M (fun v22 M20 => oPut G M20 a19 2 (5 + j) (.int v22) (fun M23 => Q c21 M23)) (fun E q24 M25 => (E = "ParkingOffice$ParseException" ∧ Xp E q24 M25)))) := by
  rw [oX] at hb hQ hX
  dsimp only at hb hQ hX
  obtain ⟨p1, e1⟩ : ∃ p1, p1 = goP B n (needsP (decide (D (120 + j) = 0)) 3 p) := ⟨_, rfl⟩
  obtain ⟨p2, e2⟩ : ∃ p2, p2 = numP B n lo hi p1 := ⟨_, rfl⟩
  rw [← e1, ← e2] at hb hQ hX
  refine K_su h (h.is ⟨b, Nat.le_refl _, R_single h hB hc hg hj ex e1 e2 hb (fun c2 M1 ow1 hs1 g1 => ?_) (fun c q M1 ow1 hs hx => ⟨rfl, hX c q M1 ow1 hs hx⟩)⟩)
  have c1 : pC p1 = 0 := Decidable.byContradiction fun z => z (by rw [num_s z] at e2; rw [← e2]; exact c2)
  refine K_put g1 (hg.uu fun i hi => upd_ne _ _ (by omega)) hj fun M2 ow2 hs2 g2 => ?_
  have hq := hQ c2 M2 ow2 (hs1.tr hs2)
  rw [lays_0 c2, lays_0 c1] at hq
  refine hq ?_
  rw [nmC_u (D := D) fun i hi => by rw [upd_ne _ _ (by omega), upd_ne _ _ (by omega)]]
  exact g2
theorem R_172 (h : PST G M ow a n B t u p D l (nmC D)) (hB : BYT B) (hc : pC p = 0) (hg : OKS D) {b : Nat} (hb : cs p (stmtX B n (p, D, l)).1 (eS p) ≤ b) {Q : wM → Prop} {Xp : String → Nat → wM → Prop} (hQ : pC (stmtX B n (p, D, l)).1 = 0 → ∀ M1 ow1, Mv tQ M ow M1 ow1 → PST G M1 ow1 a n B t u (stmtX B n (p, D, l)).1 (stmtX B n (p, D, l)).2.1 (stmtX B n (p, D, l)).2.2 (nmC (stmtX B n (p, D, l)).2.1) → Q M1) (hX : pC (stmtX B n (p, D, l)).1 ≠ 0 → ∀ q M1 ow1, Mv tQ M ow M1 ow1 → EXC M1 q (stmtX B n (p, D, l)).1 → Xp ePE q M1) :
    (isWP p 0 = true → B_X5_statement_172 G Q Xp t (0 : Int32) M b) ∧ (isWP p 4 = true → B_X5_statement_172 G Q Xp t (1 : Int32) M b) ∧ (isWP p 8 = true → B_X5_statement_172 G Q Xp t (2 : Int32) M b) ∧ (isWP p 12 = true → B_X5_statement_172 G Q Xp t (3 : Int32) M b) ∧ (isWP p 13 = true → B_X5_statement_172 G Q Xp t (4 : Int32) M b) ∧ (isWP p 14 = true → B_X5_statement_172 G Q Xp t (5 : Int32) M b) ∧ (isWP p 15 = true → B_X5_statement_172 G Q Xp t (6 : Int32) M b) ∧
    (isWP p 0 = false → isWP p 4 = false → isWP p 8 = false → isWP p 12 = false → isWP p 13 = false → isWP p 14 = false → isWP p 15 = false → B_X5_statement_172 G Q Xp t (-1 : Int32) M b) := by
  refine ⟨fun k => ?_, fun k => ?_, fun k => ?_, fun k => ?_, fun k => ?_, fun k => ?_, fun k => ?_, fun k0 k4 k8 k12 k13 k14 k15 => ?_⟩
  · rw [st_0 k] at hb hQ hX
    have ee : eS p = 210 := by unfold eS; rw [k]; rfl
    unfold B_X5_statement_172 B_X5_statement_315
    exact oIf.y rfl (h.is ⟨b, Nat.le_refl _, R_zone h hB hc hg (Nat.le_of_eq ee.symm) hb hQ (fun c q M1 ow1 hs hx => ⟨rfl, hX c q M1 ow1 hs hx⟩)⟩)
  · rw [st_4 k] at hb hQ hX
    have ee : eS p = 210 := by unfold eS; rw [k, Bool.true_or, Bool.or_true]; rfl
    unfold B_X5_statement_172 B_X5_statement_315
    exact oIf.n (by decide) (oIf.y rfl (h.is ⟨b, Nat.le_refl _, R_street h hB hc hg (Nat.le_of_eq ee.symm) hb hQ (fun c q M1 ow1 hs hx => ⟨rfl, hX c q M1 ow1 hs hx⟩)⟩))
  · rw [st_8 k] at hb hQ hX
    have ee : eS p = 210 := by unfold eS; rw [k, Bool.or_true, Bool.or_true]; rfl
    unfold B_X5_statement_172 B_X5_statement_315
    exact oIf.n (by decide) (oIf.n (by decide) (oIf.y rfl (h.is ⟨b, Nat.le_refl _, R_house h hB hc hg (Nat.le_of_eq ee.symm) hb hQ (fun c q M1 ow1 hs hx => ⟨rfl, hX c q M1 ow1 hs hx⟩)⟩)))
  · rw [st_12 k] at hb hQ hX
    unfold B_X5_statement_172 B_X5_statement_315
    refine oIf.n (by decide) (oIf.n (by decide) (oIf.n (by decide) (oIf.y rfl ?_)))
    exact R_once h hB hc hg (j := 0) (by decide) rfl hb (Q := fun _ => Q) hQ hX
  · rw [st_13 k] at hb hQ hX
    unfold B_X5_statement_172 B_X5_statement_315
    refine oIf.n (by decide) (oIf.n (by decide) (oIf.n (by decide) (oIf.n (by decide) (oIf.y rfl ?_))))
    exact R_once h hB hc hg (j := 1) (by decide) rfl hb (Q := fun _ => Q) hQ hX
  · rw [st_14 k] at hb hQ hX
    unfold B_X5_statement_172 B_X5_statement_315
    refine oIf.n (by decide) (oIf.n (by decide) (oIf.n (by decide) (oIf.n (by decide) (oIf.n (by decide) (oIf.y rfl ?_)))))
    exact R_once h hB hc hg (j := 2) (by decide) rfl hb (Q := fun _ => Q) hQ hX
  · rw [st_15 k] at hb hQ hX
    unfold B_X5_statement_172 B_X5_statement_315
    refine oIf.n (by decide) (oIf.n (by decide) (oIf.n (by decide) (oIf.n (by decide) (oIf.n (by decide) (oIf.n (by decide) (oIf.y rfl (h.is ⟨b, Nat.le_refl _, R_fine h hB hc hg hb (fun c M1 ow1 hs g1 => hQ c M1 ow1 hs ?_) (fun c q M1 ow1 hs hx => ⟨rfl, hX c q M1 ow1 hs hx⟩)⟩)))))))
    have e1 : (fineX B n (p, D, l)).2.2 = l := by rw [fX]
    rw [e1, nmC_u (D := D)]
    · exact g1
    · intro i hi
      rw [fX]
      dsimp only
      split
      · rw [upd_ne _ _ (by omega), upd_ne _ _ (by omega)]
      · rfl
  · rw [st_no k0 k4 k8 k12 k13 k14 k15] at hb hX
    have hne := need_fc hc (x := 1) (by decide)
    unfold B_X5_statement_172
    refine oIf.n (by decide) (oIf.n (by decide) (oIf.n (by decide) (oIf.n (by decide) (oIf.n (by decide) (oIf.n (by decide) (oIf.n (by decide) ?_))))))
    have e := need_f hc (1 : Int32)
    have := R_exc h (p1 := needsP false 1 p) (by rw [e]; rfl) (cs_9 hne hb) (hX hne)
    rw [show pC (needsP false 1 p) = 1 by rw [e]; rfl] at this
    exact this
theorem R_stmt (h : PSTf G M ow a n B t u p D l (nmC D)) (hB : BYT B) (hc : pC p = 0) (hg : OKS D) {b : Nat} (hb : cs p (stmtX B n (p, D, l)).1 (eS p) ≤ b) {Q : wM → Prop} {Xp : String → Nat → wM → Prop} (hQ : pC (stmtX B n (p, D, l)).1 = 0 → ∀ M1 ow1, Mv tQ M ow M1 ow1 → PST G M1 ow1 a n B t u (stmtX B n (p, D, l)).1 (stmtX B n (p, D, l)).2.1 (stmtX B n (p, D, l)).2.2 (nmC (stmtX B n (p, D, l)).2.1) → Q M1) (hX : pC (stmtX B n (p, D, l)).1 ≠ 0 → ∀ q M1 ow1, Mv tQ M ow M1 ow1 → EXC M1 q (stmtX B n (p, D, l)).1 → Xp ePE q M1) : P_X5_statement G t b M Q Xp := by
  have h0 := h.s
  obtain ⟨kl, su, on, w, y, ⟨ht, ⟨v, hC, hv⟩, hE, ⟨bw, hO, hO2⟩, hS⟩, hW⟩ := h
  have hn := hE.n9
  by_cases c1 : pT p = 1
  · obtain ⟨r, hr1, hr2⟩ := hW.1 c1
    have hlen : p.1 - p.2.1 < 2 ^ 31 := by have := ht.1.1; omega
    refine oGetA.i hC.1 rfl (hr1.s.is (S_hash hr1 (by decide) hlen fun sv h0' h1' hw hs => ?_))
    have hst := hr1.s.rw (h0 := h0') (h1 := h1') hw
    have g : PST G (wIns M w (.inr (24, [.ref sv, .int 0, .int h0', .int h1']))) ow a n B t u p D l (nmC D) := by
      obtain ⟨g1, ⟨a2, a3⟩, ⟨a4, a5⟩, ⟨a6, a7⟩, ⟨ra, a8, a9⟩, gl, gs, g3, g4⟩ := hS
      exact ⟨kl, su, on, w, y, ⟨ht, ⟨v, hC.stp hs (by decide), hv⟩, hE.stp hs (by decide) (by decide) (by decide), ⟨bw, hO.stp hs (by decide), hO2⟩, g1.stp hs (by decide), ⟨a2.stp hs (by decide), fun z hz => (a3 z hz).stp hs hs.1⟩, ⟨a4.stp hs (by decide), fun z hz => (a5 z hz).stp hs hs.1⟩, ⟨a6.stp hs (by decide), fun z hz => (a7 z hz).stp hs (ne1 (by omega))⟩, ⟨ra, a8.stp hs (by decide), a9⟩, gl, gs, g3.stp hs (by decide), fun c hc => ⟨(g4 c hc).1.stp hs (ne1 (by omega)), fun j hj => ((g4 c hc).2 j hj).rw hw⟩⟩, fun _ => ⟨r, hst, hr2⟩, hW.2.1, hW.2.2⟩
    have hkw := (hE.stp hs (by decide) (by decide) (by decide)).2.1
    have hs' : Mv tQ M ow (wIns M w (.inr (24, [.ref sv, .int 0, .int h0', .int h1']))) ow := tq1 (by decide) hs
    generalize wIns M w (.inr (24, [.ref sv, .int 0, .int h0', .int h1'])) = M2 at hst g hkw hs'
    obtain ⟨k0, k4, k8, k12, k13, k14, k15, kno⟩ := R_172 g hB hc hg hb (fun c M1 ow1 hs1 g1 => hQ c M1 ow1 (hs'.tr hs1) g1) (fun c q M1 ow1 hs1 hx => hX c q M1 ow1 (hs'.tr hs1) hx)
    have hH : ∀ k, k < 16 → ∀ x, x = nI k → isWP p x = true → hshF r (p.1 - p.2.1) = hshF (kwR k) (wln k) := fun k hk x ex hw => by
      subst ex
      have e1 : eqS (p.1 - p.2.1) r (wln k) (kwR k) = true := by
        rw [wk_eq ht c1 hr2 hk]
        unfold isWP at hw
        simp only [Bool.and_eq_true, decide_eq_true_eq] at hw
        exact decide_eq_true hw.2.2
      rw [eqS_iff] at e1
      rw [hsh_c _ e1.2, e1.1]
    obtain ⟨q4, q15, q12, q0, q8, q13, q14⟩ := hsh_k
    have f0 := fun z => (hH 0 (by decide) 0 rfl z).trans q0
    have f4 := fun z => (hH 4 (by decide) 4 rfl z).trans q4
    have f8 := fun z => (hH 8 (by decide) 8 rfl z).trans q8
    have f12 := fun z => (hH 12 (by decide) 12 rfl z).trans q12
    have f13 := fun z => (hH 13 (by decide) 13 rfl z).trans q13
    have f14 := fun z => (hH 14 (by decide) 14 rfl z).trans q14
    have f15 := fun z => (hH 15 (by decide) 15 rfl z).trans q15
    generalize hshF r (p.1 - p.2.1) = hv at *
    have eqk : ∀ {k : Nat} {x : Int32} {A C : wM → Prop}, k < 16 → x = nI k → (isWP p x = true → A M2) → (isWP p x = false → C M2) → oIs M2 w 24 (P_J19_equals G w (some (G.2.2.2 (10 + k))) M2 (fun r7 M5 => oIf (r7 = true) (A M5) (C M5))) := fun {k x A C} hk ex hA hN => by
      subst ex
      have hw := wd_ok k hk
      refine hst.is (S_strEq hst (hkw k hk) hlen (by omega) ?_)
      rw [wk_eq ht c1 hr2 hk]
      have ei : isWP p (nI k) = decide (pW p = nI k) := by
        unfold isWP; rw [decide_eq_true hc, decide_eq_true c1]; simp
      rw [← ei]
      exact bl _ hA hN
    have nt : ∀ {i : Int32} {X Y : Int32}, (isWP p i = true → hv = X) → hv = Y → X ≠ Y → isWP p i = false := fun f e ne => Bool.eq_false_iff.mpr fun z => ne ((f z).symm.trans e)
    have nn : ∀ {i : Int32} {X : Int32}, (isWP p i = true → hv = X) → ¬ hv = X → isWP p i = false := fun f e => Bool.eq_false_iff.mpr fun z => e (f z)
    refine oIf.c (fun c => eqk (k := 4) (x := 4) (by decide) rfl k4 fun z => kno (nt f0 c (by decide)) z (nt f8 c (by decide)) (nt f12 c (by decide)) (nt f13 c (by decide)) (nt f14 c (by decide)) (nt f15 c (by decide))) (fun d4 => ?_)
    refine oIf.c (fun c => eqk (k := 15) (x := 15) (by decide) rfl k15 fun z => kno (nt f0 c (by decide)) (nt f4 c (by decide)) (nt f8 c (by decide)) (nt f12 c (by decide)) (nt f13 c (by decide)) (nt f14 c (by decide)) z) (fun d15 => ?_)
    refine oIf.c (fun c => eqk (k := 12) (x := 12) (by decide) rfl k12 fun z => kno (nt f0 c (by decide)) (nt f4 c (by decide)) (nt f8 c (by decide)) z (nt f13 c (by decide)) (nt f14 c (by decide)) (nt f15 c (by decide))) (fun d12 => ?_)
    refine oIf.c (fun c => eqk (k := 0) (x := 0) (by decide) rfl k0 fun z => kno z (nt f4 c (by decide)) (nt f8 c (by decide)) (nt f12 c (by decide)) (nt f13 c (by decide)) (nt f14 c (by decide)) (nt f15 c (by decide))) (fun d0 => ?_)
    refine oIf.c (fun c => eqk (k := 8) (x := 8) (by decide) rfl k8 fun z => kno (nt f0 c (by decide)) (nt f4 c (by decide)) z (nt f12 c (by decide)) (nt f13 c (by decide)) (nt f14 c (by decide)) (nt f15 c (by decide))) (fun d8 => ?_)
    refine oIf.c (fun c => eqk (k := 13) (x := 13) (by decide) rfl k13 fun z => kno (nt f0 c (by decide)) (nt f4 c (by decide)) (nt f8 c (by decide)) (nt f12 c (by decide)) z (nt f14 c (by decide)) (nt f15 c (by decide))) (fun d13 => ?_)
    refine oIf.c (fun c => eqk (k := 14) (x := 14) (by decide) rfl k14 fun z => kno (nt f0 c (by decide)) (nt f4 c (by decide)) (nt f8 c (by decide)) (nt f12 c (by decide)) (nt f13 c (by decide)) z (nt f15 c (by decide))) (fun d14 => ?_)
    exact kno (nn f0 d0) (nn f4 d4) (nn f8 d8) (nn f12 d12) (nn f13 d13) (nn f14 d14) (nn f15 d15)
  · have ew := hW.2.1 c1
    obtain ⟨-, -, -, -, -, -, -, kno⟩ := R_172 h0 hB hc hg hb hQ hX
    have no : ∀ i, isWP p i = false := fun i => by unfold isWP; rw [decide_eq_false c1]; simp
    have kno := kno (no _) (no _) (no _) (no _) (no _) (no _) (no _)
    obtain ⟨ev, er, e1, e2⟩ := hE.2.2.1
    subst ew
    refine oGetA.i hC.1 rfl (oIs.i e1.1 (oGetI.i e1.1 rfl (oIf.y rfl (oGetI.i e1.1 rfl (oIf.n (by decide) ?_)))))
    exact oIf.n (by decide) (oIf.n (by decide) (oIf.n (by decide) (oIf.n (by decide) (oIf.n (by decide) (oIf.n (by decide) (oIf.n (by decide) kno))))))
end C41
