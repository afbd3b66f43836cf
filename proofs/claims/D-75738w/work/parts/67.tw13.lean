set_option maxRecDepth 100000
/-! STAGE 2, the twin: a setup is read, statement by statement -/
section TW13
variable {G : wG} {M0 M : wM} {t : Nat} {f : Nat → Nat} {i S D N A T V H : Nat → Int32} {l : Nat → Nat → Int64} {B O : Nat → Int32} {p : PS} {n : Nat}
theorem rd_d (h : TW G M0 M t f i S D N A T V H l B O) {y : Int32} {j : Nat} (e : y = nI j) (hj : j < 130) {κ : Int32 → Prop} (hk : κ (D j)) : oIald .int M (f 2) y κ := oIald.e (i := j) e h.dr hj (by decide) hk
theorem rd_d0 (h : TW G M0 M t f i S D N A T V H l B O) (hg : OKS D) {κ : Int32 → Prop} (hk : κ (nI (nz D))) : oIald .int M (f 2) 0 κ := oIald.e (i := 0) rfl h.dr (by decide) (by decide) (hg.1.1 ▸ hk)
theorem rd_d1 (h : TW G M0 M t f i S D N A T V H l B O) (hg : OKS D) {κ : Int32 → Prop} (hk : κ (nI (ns D))) : oIald .int M (f 2) 1 κ := oIald.e (i := 1) rfl h.dr (by decide) (by decide) (hg.2.1.1 ▸ hk)
theorem rd_d2 (h : TW G M0 M t f i S D N A T V H l B O) (hg : OKS D) {κ : Int32 → Prop} (hk : κ (nI (nh D))) : oIald .int M (f 2) 2 κ := oIald.e (i := 2) rfl h.dr (by decide) (by decide) (hg.2.2.1.1 ▸ hk)
theorem S_layc (h : TW G M0 M t f (pI i p) S D N A T V H l B O) {cc v : Int32} {c k : Nat} (e : cc = nI c) (hj : c + k < 130) {Q : wM → Prop} (hQ : ∀ M1, TW G M0 M1 t f (pI i p) S (laysD p (c + k) v D) N A T V H l B O → Q M1) : P_X4_lays G t (cc + nI k) v M Q :=
  S_lays h (by rw [e, nI_add]) hj hQ
theorem S_begins (h : TW G M0 M t f (pI i p) S D N A T V H l B O) (hr : RDo G M0 i n) (hp : PSo n p) {y most : Int32} {j : Nat} (e : y = nI j) (hj : j < 130) {Q : wM → Prop} (hQ : ∀ M1, TW G M0 M1 t f (pI i (begP B n j most p D)) S D N A T V H l B O → Q M1) : P_X4_begins G t y most M Q := by
  have key : ∀ b, b = decide (D j < most) → B_X4_begins_16 G Q t (wb b) t M := fun b eb => by
    unfold begP at hQ
    rw [← eb] at hQ
    exact oIs.i h.obj (S_needs h b fun M1 h1 => oIs.i h1.obj (S_goOn h1 hr (needsP_o hp _ _) hQ))
  refine oGetA.i h.obj rfl (rd_d h e hj (oIf.c (fun c => key false (decide_eq_false (Int32.not_lt.mpr c)).symm) (fun c => key true (decide_eq_true (Int32.not_le.mp c)).symm)))
theorem S_readsZone (h : TW G M0 M t f (pI i p) S D N A T V H l B O) (hr : RDo G M0 i n) (hp : PSo n p) (hg : OKS D) {Q : wM → Prop} (hQ : ∀ M1, TW G M0 M1 t f (pI i (zoneX B n (p, D, l)).1) S ((zoneX B n (p, D, l)).2.1) N A T V H ((zoneX B n (p, D, l)).2.2) B O → Q M1) : P_X4_readsZone G t M Q := by
  have hk : nz D ≤ 6 := hg.1.2
  refine oGetA.i h.obj rfl (rd_d0 h hg (oIs.i h.obj (S_begins h hr hp (j := 0) rfl (by decide) fun M1 h1 => ?_)))
  unfold zoneX at hQ
  dsimp only at hQ
  have hp1 : PSo n (begP B n 0 6 p D) := goP_o (needsP_o hp _ _)
  have hb := beg_ok (B := B) (n := n) (j := 0) (most := 6) (p := p) (D := D)
  generalize begP B n 0 6 p D = p1 at *
  refine oIs.i h1.obj (S_fine_2 h1 (bl _ (fun c => ?_) (fun c => ?_)))
  · have c := of_decide_eq_true c
    have hk6 : nz D < 6 := by
      have := hb c
      rw [hg.1.1] at this
      exact (nI_ltI (a := nz D) (b := 6) (by omega) (by decide)).mp this
    rw [if_pos c] at hQ
    dsimp only at hQ
    refine oGetA.i h1.obj rfl (oIs.i h1.obj (S_newName23 h1 hr hp1 hk6 fun M2 h2 => ?_))
    have hp2 := newP_o (B := B) hp1 (l 23) (nz D)
    generalize newP B n (l 23) (nz D) p1 = p2 at *
    rw [zn7_1, zn7_2, zn5_1, zn5_2] at hQ
    refine oIs.i h2.obj (S_numberBehind h2 hr hp2 fun M3 h3 => oIs.i h3.obj (S_layc (c := 3) h3 rfl (by omega) fun M4 h4 => ?_))
    have hp3 := nbP_o (B := B) hp2 1 0 40
    refine oIs.i h4.obj (S_numberBehind h4 hr hp3 fun M5 h5 => oIs.i h5.obj (S_layc (c := 9) h5 rfl (by omega) fun M6 h6 => ?_))
    have hp4 := nbP_o (B := B) hp3 2 0 23
    refine oIs.i h6.obj (S_number h6 hr hp4 fun M7 h7 => oIs.i h7.obj (S_layc (c := 15) h7 rfl (by omega) fun M8 h8 => ?_))
    have hp5 := numP_o (B := B) hp4 (nbV B n 2 (nbP B n 1 0 40 p2) + 1) 24
    refine oIs.i h8.obj (S_isWord h8 (bl _ (fun cw => ?_) (fun cw => ?_)))
    · rw [if_pos cw, if_pos cw] at hQ
      refine oIs.i h8.obj (S_numberBehind h8 hr hp5 fun M9 h9 => oIs.i h9.obj (S_layc (c := 21) h9 rfl (by omega) fun M10 h10 => oIs.i h10.obj (S_lays (j := 0) h10 rfl (by decide) fun M11 h11 => hQ M11 h11)))
    · have cw' : ¬ isWP (numP B n (nbV B n 2 (nbP B n 1 0 40 p2) + 1) 24 (nbP B n 2 0 23 (nbP B n 1 0 40 p2))) 3 = true := by rw [cw]; decide
      rw [if_neg cw', if_neg cw'] at hQ
      exact oIs.i h8.obj (S_layc (c := 21) h8 rfl (by omega) fun M10 h10 => oIs.i h10.obj (S_lays (j := 0) h10 rfl (by decide) fun M11 h11 => hQ M11 h11))
  · rw [if_neg (of_decide_eq_false c)] at hQ
    exact hQ M1 h1
theorem S_readsStreet (h : TW G M0 M t f (pI i p) S D N A T V H l B O) (hr : RDo G M0 i n) (hp : PSo n p) (hg : OKS D) {Q : wM → Prop} (hQ : ∀ M1, TW G M0 M1 t f (pI i (streetX B n (p, D, l)).1) S ((streetX B n (p, D, l)).2.1) N A T V H ((streetX B n (p, D, l)).2.2) B O → Q M1) : P_X4_readsStreet G t M Q := by
  have hk : ns D ≤ 12 := hg.2.1.2
  have hm : nz D ≤ 6 := hg.1.2
  refine oGetA.i h.obj rfl (rd_d1 h hg (oIs.i h.obj (S_begins h hr hp (j := 1) rfl (by decide) fun M1 h1 => ?_)))
  unfold streetX at hQ
  dsimp only at hQ
  have hp1 : PSo n (begP B n 1 12 p D) := goP_o (needsP_o hp _ _)
  have hb := beg_ok (B := B) (n := n) (j := 1) (most := 12) (p := p) (D := D)
  generalize begP B n 1 12 p D = p1 at *
  refine oIs.i h1.obj (S_fine_2 h1 (bl _ (fun c => ?_) (fun c => ?_)))
  · have c := of_decide_eq_true c
    have hk6 : ns D < 12 := by
      have := hb c
      rw [hg.2.1.1] at this
      exact (nI_ltI (a := ns D) (b := 12) (by omega) (by decide)).mp this
    rw [if_pos c] at hQ
    dsimp only at hQ
    refine oGetA.i h1.obj rfl (oIs.i h1.obj (S_newName24 h1 hr hp1 hk6 fun M2 h2 => ?_))
    have hp2 := newP_o (B := B) hp1 (l 24) (ns D)
    generalize newP B n (l 24) (ns D) p1 = p2 at *
    generalize newG B (l 24) (ns D) p1 = g2 at *
    rw [st7_1, st7_2, st5_1, st5_2, st5_z] at hQ
    refine oIs.i h2.obj (S_passes h2 hr hp2 fun M3 h3 => ?_)
    have hp3 := passP_o (B := B) hp2 5
    refine oGetA.i h3.obj rfl (oGetA.i h3.obj rfl (rd_d0 h3 hg (oIs.i h3.obj (S_oldName23 h3 hr hp3 hm fun M4 h4 => ?_))))
    have e23 : sl l 24 g2 23 = l 23 := rfl
    rw [e23] at h4
    rw [e23]
    have hp4 := oldP_o (B := B) hp3 (l 23) (nz D) (-1)
    refine oIs.i h4.obj (S_layc (c := 27) h4 rfl (by omega) fun M5 h5 => ?_)
    refine oIs.i h5.obj (S_numberBehind h5 hr hp4 fun M6 h6 => oIs.i h6.obj (S_layc (c := 39) h6 rfl (by omega) fun M7 h7 => oIs.i h7.obj (S_layc (c := 51) h7 rfl (by omega) fun M8 h8 => ?_)))
    have hp5 := nbP_o (B := B) hp4 6 0 60
    refine oIs.i h8.obj (S_isWord h8 (bl _ (fun cw => ?_) (fun cw => ?_)))
    · rw [if_pos cw, if_pos cw] at hQ
      refine oIs.i h8.obj (S_goOn h8 hr hp5 fun M9 h9 => ?_)
      have hp6 := goP_o (B := B) hp5
      refine oGetA.i h9.obj rfl (oGetA.i h9.obj rfl (rd_d h9 (j := 0) rfl (by decide) ?_))
      rw [laysD_ne _ _ _ (by omega), laysD_ne _ _ _ (by omega), laysD_ne _ _ _ (by omega), hg.1.1]
      refine oIs.i h9.obj (S_oldName23 h9 hr hp6 hm fun M10 h10 => ?_)
      rw [e23] at h10
      rw [e23]
      exact oIs.i h10.obj (S_layc (c := 51) h10 rfl (by omega) fun M11 h11 => oIs.i h11.obj (S_lays (j := 1) h11 rfl (by decide) fun M12 h12 => hQ M12 h12))
    · have cw' : ¬ isWP (nbP B n 6 0 60 (oldP B n (l 23) (nz D) (-1) (passP B n 5 p2))) 7 = true := by rw [cw]; decide
      rw [if_neg cw', if_neg cw'] at hQ
      exact oIs.i h8.obj (S_lays (j := 1) h8 rfl (by decide) fun M11 h11 => hQ M11 h11)
  · rw [if_neg (of_decide_eq_false c)] at hQ
    exact hQ M1 h1
theorem S_readsHouse (h : TW G M0 M t f (pI i p) S D N A T V H l B O) (hr : RDo G M0 i n) (hp : PSo n p) (hg : OKS D) {Q : wM → Prop} (hQ : ∀ M1, TW G M0 M1 t f (pI i (houseX B n (p, D, l)).1) S ((houseX B n (p, D, l)).2.1) N A T V H ((houseX B n (p, D, l)).2.2) B O → Q M1) : P_X4_readsHouse G t M Q := by
  have hk : nh D ≤ 16 := hg.2.2.1.2
  have hm : ns D ≤ 12 := hg.2.1.2
  refine oGetA.i h.obj rfl (rd_d2 h hg (oIs.i h.obj (S_begins h hr hp (j := 2) rfl (by decide) fun M1 h1 => ?_)))
  unfold houseX at hQ
  dsimp only at hQ
  have hp1 : PSo n (begP B n 2 16 p D) := goP_o (needsP_o hp _ _)
  have hb := beg_ok (B := B) (n := n) (j := 2) (most := 16) (p := p) (D := D)
  generalize begP B n 2 16 p D = p1 at *
  refine oIs.i h1.obj (S_fine_2 h1 (bl _ (fun c => ?_) (fun c => ?_)))
  · have c := of_decide_eq_true c
    have hk6 : nh D < 16 := by
      have := hb c
      rw [hg.2.2.1.1] at this
      exact (nI_ltI (a := nh D) (b := 16) (by omega) (by decide)).mp this
    rw [if_pos c] at hQ
    dsimp only at hQ
    refine oGetA.i h1.obj rfl (oIs.i h1.obj (S_newName25 h1 hr hp1 hk6 fun M2 h2 => ?_))
    have hp2 := newP_o (B := B) hp1 (l 25) (nh D)
    generalize newP B n (l 25) (nh D) p1 = p2 at *
    generalize newG B (l 25) (nh D) p1 = g2 at *
    rw [hs7_1, hs7_2] at hQ
    refine oIs.i h2.obj (S_passes h2 hr hp2 fun M3 h3 => ?_)
    have hp3 := passP_o (B := B) hp2 9
    refine oGetA.i h3.obj rfl (oGetA.i h3.obj rfl (rd_d1 h3 hg (oIs.i h3.obj (S_oldName24 h3 hr hp3 hm fun M4 h4 => ?_))))
    have e24 : sl l 25 g2 24 = l 24 := rfl
    rw [e24] at h4
    rw [e24]
    have hp4 := oldP_o (B := B) hp3 (l 24) (ns D) (-1)
    refine oIs.i h4.obj (S_layc (c := 63) h4 rfl (by omega) fun M5 h5 => ?_)
    refine oIs.i h5.obj (S_numberBehind h5 hr hp4 fun M6 h6 => oIs.i h6.obj (S_layc (c := 79) h6 rfl (by omega) fun M7 h7 => ?_))
    have hp5 := nbP_o (B := B) hp4 10 1 3
    refine oIs.i h7.obj (S_numberBehind h7 hr hp5 fun M8 h8 => oIs.i h8.obj (S_layc (c := 95) h8 rfl (by omega) fun M9 h9 => oIs.i h9.obj (S_lays (j := 2) h9 rfl (by decide) fun M10 h10 => hQ M10 h10)))
  · rw [if_neg (of_decide_eq_false c)] at hQ
    exact hQ M1 h1
theorem S_readsOnce (h : TW G M0 M t f (pI i p) S D N A T V H l B O) (hr : RDo G M0 i n) (hp : PSo n p) {w j : Nat} (hw : w < 3) (hj : j < 130) {wi ji lo hi : Int32} (ew : wi = nI w) (ej : ji = nI j) {Q : wM → Prop} (hQ : ∀ M1, TW G M0 M1 t f (pI i (onceX B n w j lo hi (p, D, l)).1) S ((onceX B n w j lo hi (p, D, l)).2.1) N A T V H ((onceX B n w j lo hi (p, D, l)).2.2) B O → Q M1) : P_X4_readsOnce G t wi ji lo hi M Q := by
  unfold onceX at hQ
  dsimp only at hQ
  have key : ∀ b, b = decide (D (120 + w) = 0) → B_X4_readsOnce_18 G Q t wi ji lo hi (wb b) t M := fun b eb => by
    rw [← eb] at hQ
    refine oIs.i h.obj (S_needs h b fun M1 h1 => oIs.i h1.obj (S_goOn h1 hr (needsP_o hp _ _) fun M2 h2 => ?_))
    have hp2 := goP_o (B := B) (needsP_o hp b 3)
    rw [ew]
    refine oIs.i h2.obj (S_layc (c := 120) h2 rfl (by omega) fun M3 h3 => oIs.i h3.obj (S_number h3 hr hp2 fun M4 h4 => oIs.i h4.obj (S_lays h4 ej hj fun M5 h5 => hQ M5 h5)))
  refine oGetA.i h.obj rfl (rd_d h (j := 120 + w) (by rw [ew, show (120 : Int32) = nI 120 from rfl, nI_add]) (by omega) (oIf.c (fun c => key true (decide_eq_true c).symm) (fun c => key false (decide_eq_false c).symm)))
/-- a number that was looked at -/
theorem look_in {lo hi : Int32} {p : PS} (h : pC (lookP lo hi p) = 0) : inR (pV p) lo hi = true := by
  unfold lookP at h
  split at h
  · exact (need_ok (by decide) h).2.1
  · rename_i c; exact absurd h c
theorem S_readsFine (h : TW G M0 M t f (pI i p) S D N A T V H l B O) (hr : RDo G M0 i n) (hp : PSo n p) {Q : wM → Prop} (hQ : ∀ M1, TW G M0 M1 t f (pI i (fineX B n (p, D, l)).1) S ((fineX B n (p, D, l)).2.1) N A T V H ((fineX B n (p, D, l)).2.2) B O → Q M1) : P_X4_readsFine G t M Q := by
  unfold fineX at hQ
  dsimp only at hQ
  refine oIs.i h.obj (S_goOn h hr hp fun M1 h1 => ?_)
  have hp1 := goP_o (B := B) hp
  generalize goP B n p = p1 at *
  refine oIs.i h1.obj (S_look h1 fun M2 h2 => ?_)
  have hp2 := lookP_o hp1 1 6
  have hl := look_in (lo := 1) (hi := 6) (p := p1)
  generalize lookP 1 6 p1 = p2 at *
  generalize pV p1 = r at *
  have fin : ∀ p3 M3, PSo n p3 → (pC p3 = 0 → pC p2 = 0) → fn3 D r p2 = p3 → TW G M0 M3 t f (pI i p3) S D N A T V H l B O → B_X4_readsFine_41 G Q t r M3 := fun p3 M3 hp3 hc3 e3 h3 => by
    rw [e3] at hQ
    refine oIs.i h3.obj (S_goOn h3 hr hp3 fun M4 h4 => ?_)
    have hp4 := goP_o (B := B) hp3
    have hc4 := goP_c B n p3
    generalize goP B n p3 = p4 at *
    refine oIs.i h4.obj (S_number h4 hr hp4 fun M5 h5 => ?_)
    have hc5 : pC (numP B n 0 999 p4) = 0 → pC p4 = 0 := fun c => by
      by_cases x : pC p4 = 0
      · exact x
      · rw [num_s x] at c; exact c
    generalize numP B n 0 999 p4 = p5 at *
    refine oIs.i h5.obj (S_fine_2 h5 (bl _ (fun c => ?_) (fun c => ?_)))
    · have c := of_decide_eq_true c
      rw [if_pos c] at hQ
      obtain ⟨k, k1, k2, ek⟩ := inR_1n (n := 6) (by decide) (hl (hc3 (hc4.symm.trans (hc5 c))))
      rw [ek, nI_clamp (by omega)] at hQ
      rw [ek]
      refine oGetA.i h5.obj rfl (st_dr_c h5 (c := 122) rfl (by omega) fun M6 h6 => oGetA.i h6.obj rfl (st_dr_e h6 (j := 114 + k - 1) ?_ (by omega) hQ))
      rw [show (114 : Int32) = nI 114 from rfl, nI_add, show (1 : Int32) = nI 1 from rfl, nI_sub (by omega)]
    · rw [if_neg (of_decide_eq_false c)] at hQ
      exact hQ M5 h5
  unfold fn3 at fin
  refine oIs.i h2.obj (S_fine_2 h2 (bl _ (fun c => ?_) (fun c => ?_)))
  · have c := of_decide_eq_true c
    rw [if_pos c] at fin
    obtain ⟨k, k1, k2, ek⟩ := inR_1n (n := 6) (by decide) (hl c)
    have key : ∀ b, b = decide (D (122 + k) = 0) → B_X4_readsFine_37 G Q t r (wb b) t M2 := fun b eb => by
      rw [ek, nI_clamp (by omega), ← eb] at fin
      rw [ek]
      exact oIs.i h2.obj (S_needs h2 b fun M3 h3 => fin _ M3 (needsP_o hp2 _ _) (fun _ => c) rfl h3)
    refine oGetA.i h2.obj rfl (rd_d h2 (j := 122 + k) (by rw [ek, show (122 : Int32) = nI 122 from rfl, nI_add]) (by omega) (oIf.c (fun c => key true (decide_eq_true c).symm) (fun c => key false (decide_eq_false c).symm)))
  · have c := of_decide_eq_false c
    rw [if_neg c] at fin
    exact fin _ M2 hp2 (fun x => x) rfl h2
theorem S_statement (h : TW G M0 M t f (pI i p) S D N A T V H l B O) (hr : RDo G M0 i n) (hp : PSo n p) (hg : OKS D) {Q : wM → Prop} (hQ : ∀ M1, TW G M0 M1 t f (pI i (stepX B n (p, D, l)).1) S ((stepX B n (p, D, l)).2.1) N A T V H ((stepX B n (p, D, l)).2.2) B O → Q M1) : P_X4_statement G t M Q := by
  have hp2 := (stmtX_o (B := B) (x := (p, D, l)) hp).1
  unfold stepX at hQ
  have fin : ∀ x : XS, x = stmtX B n (p, D, l) → ∀ M1, TW G M0 M1 t f (pI i x.1) S x.2.1 N A T V H x.2.2 B O → B_X4_statement_135 G Q t M1 := fun x ex M1 h1 => by
    rw [← ex] at hQ hp2
    unfold endX at hQ
    dsimp only at hQ
    have key : ∀ b, b = decide (pT x.1 = 3) → B_X4_statement_149 G Q t (wb b) t M1 := fun b eb => by
      rw [← eb] at hQ
      exact oIs.i h1.obj (S_needs h1 b fun M2 h2 => oIs.i h2.obj (S_goOn h2 hr (needsP_o hp2 _ _) hQ))
    exact oGetI.i h1.obj rfl (oIf.c (fun c => key true (decide_eq_true (show pT x.1 = 3 from c)).symm) (fun c => key false (decide_eq_false (show ¬ pT x.1 = 3 from c)).symm))
  clear hQ hp2
  unfold stmtX at fin
  have nt : ∀ {w}, isWP p w = false → ¬ isWP p w = true := fun e => by rw [e]; decide
  refine oIs.i h.obj (S_isWord h (bl _ (fun c => ?_) (fun c => ?_)))
  · rw [if_pos c] at fin; exact oIs.i h.obj (S_readsZone h hr hp hg (fin _ rfl))
  rw [if_neg (nt c)] at fin
  refine oIs.i h.obj (S_isWord h (bl _ (fun c => ?_) (fun c => ?_)))
  · rw [if_pos c] at fin; exact oIs.i h.obj (S_readsStreet h hr hp hg (fin _ rfl))
  rw [if_neg (nt c)] at fin
  refine oIs.i h.obj (S_isWord h (bl _ (fun c => ?_) (fun c => ?_)))
  · rw [if_pos c] at fin; exact oIs.i h.obj (S_readsHouse h hr hp hg (fin _ rfl))
  rw [if_neg (nt c)] at fin
  refine oIs.i h.obj (S_isWord h (bl _ (fun c => ?_) (fun c => ?_)))
  · rw [if_pos c] at fin; exact oIs.i h.obj (S_readsOnce h hr hp (w := 0) (j := 111) (by decide) (by decide) rfl rfl (fin _ rfl))
  rw [if_neg (nt c)] at fin
  refine oIs.i h.obj (S_isWord h (bl _ (fun c => ?_) (fun c => ?_)))
  · rw [if_pos c] at fin; exact oIs.i h.obj (S_readsOnce h hr hp (w := 1) (j := 112) (by decide) (by decide) rfl rfl (fin _ rfl))
  rw [if_neg (nt c)] at fin
  refine oIs.i h.obj (S_isWord h (bl _ (fun c => ?_) (fun c => ?_)))
  · rw [if_pos c] at fin; exact oIs.i h.obj (S_readsOnce h hr hp (w := 2) (j := 113) (by decide) (by decide) rfl rfl (fin _ rfl))
  rw [if_neg (nt c)] at fin
  refine oIs.i h.obj (S_isWord h (bl _ (fun c => ?_) (fun c => ?_)))
  · rw [if_pos c] at fin; exact oIs.i h.obj (S_readsFine h hr hp (fin _ rfl))
  rw [if_neg (nt c)] at fin
  exact oIs.i h.obj (S_needs h false (fin _ rfl))
end TW13
