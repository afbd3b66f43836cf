set_option maxRecDepth 100000
/-! STAGE 2, the twin: a setup is read -/
section TW12
variable {G : wG} {M0 M : wM} {t : Nat} {f : Nat → Nat} {i S D N A T V H : Nat → Int32} {l : Nat → Nat → Int64} {B O : Nat → Int32} {p : PS} {n : Nat}
theorem TW.w10 (h : TW G M0 M t f i S D N A T V H l B O) (r : Nat → Int64) : TW G M0 (wIns M (f 10) (.inl (.long, 6, .inr (.inl r)))) t f i S D N A T V H (sl l 10 r) B O := by
  have o : ∀ j, tI j → j ≠ 10 → wIns M (f 10) (.inl (.long, 6, .inr (.inl r))) (f j) = M (f j) := fun j hj e => wIns_ne M _ (h.ne hj (.inr (.inl (by omega))) e)
  exact ⟨(wIns_ne M _ (h.neT (.inr (.inl (by omega)))).symm).trans h.obj, h.2.1, h.2.2.1, h.2.2.2.1, h.off (.inr ⟨10, (.inr (.inl (by omega))), rfl⟩) _, ⟨(o 1 (.inl (by omega)) (by decide)).trans h.set, (o 2 (.inl (by omega)) (by decide)).trans h.dr, (o 3 (.inl (by omega)) (by decide)).trans h.now, (o 4 (.inl (by omega)) (by decide)).trans h.asd, (o 5 (.inl (by omega)) (by decide)).trans h.tri, (o 6 (.inl (by omega)) (by decide)).trans h.sav, (o 7 (.inl (by omega)) (by decide)).trans h.his⟩, ⟨wIns_eq _ _ _, (o 11 (.inr (.inl (by omega))) (by decide)).trans h.l11, (o 12 (.inr (.inl (by omega))) (by decide)).trans h.l12, (o 23 (.inr (.inr (by omega))) (by decide)).trans h.l23, (o 24 (.inr (.inr (by omega))) (by decide)).trans h.l24, (o 25 (.inr (.inr (by omega))) (by decide)).trans h.l25⟩, (o 13 (.inr (.inl (by omega))) (by decide)).trans h.buf, (o 26 (.inr (.inr (by omega))) (by decide)).trans h.out⟩
theorem st_l10 (h : TW G M0 M t f i S D N A T V H l B O) {y : Int32} {x : Int64} {j : Nat} {κ : wM → Prop} (e : y = nI j) (hj : j < 6) (hp : ∀ M1, TW G M0 M1 t f i S D N A T V H (sl l 10 (vp_updL (l 10) j x)) B O → κ M1) : oLast G M (f 10) y x κ :=
  oLast.e e h.l10 (h.z 10 (.inr (.inl (by omega)))) hj (by decide) (hp _ (h.w10 _))
theorem TW.w11 (h : TW G M0 M t f i S D N A T V H l B O) (r : Nat → Int64) : TW G M0 (wIns M (f 11) (.inl (.long, 12, .inr (.inl r)))) t f i S D N A T V H (sl l 11 r) B O := by
  have o : ∀ j, tI j → j ≠ 11 → wIns M (f 11) (.inl (.long, 12, .inr (.inl r))) (f j) = M (f j) := fun j hj e => wIns_ne M _ (h.ne hj (.inr (.inl (by omega))) e)
  exact ⟨(wIns_ne M _ (h.neT (.inr (.inl (by omega)))).symm).trans h.obj, h.2.1, h.2.2.1, h.2.2.2.1, h.off (.inr ⟨11, (.inr (.inl (by omega))), rfl⟩) _, ⟨(o 1 (.inl (by omega)) (by decide)).trans h.set, (o 2 (.inl (by omega)) (by decide)).trans h.dr, (o 3 (.inl (by omega)) (by decide)).trans h.now, (o 4 (.inl (by omega)) (by decide)).trans h.asd, (o 5 (.inl (by omega)) (by decide)).trans h.tri, (o 6 (.inl (by omega)) (by decide)).trans h.sav, (o 7 (.inl (by omega)) (by decide)).trans h.his⟩, ⟨(o 10 (.inr (.inl (by omega))) (by decide)).trans h.l10, wIns_eq _ _ _, (o 12 (.inr (.inl (by omega))) (by decide)).trans h.l12, (o 23 (.inr (.inr (by omega))) (by decide)).trans h.l23, (o 24 (.inr (.inr (by omega))) (by decide)).trans h.l24, (o 25 (.inr (.inr (by omega))) (by decide)).trans h.l25⟩, (o 13 (.inr (.inl (by omega))) (by decide)).trans h.buf, (o 26 (.inr (.inr (by omega))) (by decide)).trans h.out⟩
theorem st_l11 (h : TW G M0 M t f i S D N A T V H l B O) {y : Int32} {x : Int64} {j : Nat} {κ : wM → Prop} (e : y = nI j) (hj : j < 12) (hp : ∀ M1, TW G M0 M1 t f i S D N A T V H (sl l 11 (vp_updL (l 11) j x)) B O → κ M1) : oLast G M (f 11) y x κ :=
  oLast.e e h.l11 (h.z 11 (.inr (.inl (by omega)))) hj (by decide) (hp _ (h.w11 _))
theorem TW.w12 (h : TW G M0 M t f i S D N A T V H l B O) (r : Nat → Int64) : TW G M0 (wIns M (f 12) (.inl (.long, 16, .inr (.inl r)))) t f i S D N A T V H (sl l 12 r) B O := by
  have o : ∀ j, tI j → j ≠ 12 → wIns M (f 12) (.inl (.long, 16, .inr (.inl r))) (f j) = M (f j) := fun j hj e => wIns_ne M _ (h.ne hj (.inr (.inl (by omega))) e)
  exact ⟨(wIns_ne M _ (h.neT (.inr (.inl (by omega)))).symm).trans h.obj, h.2.1, h.2.2.1, h.2.2.2.1, h.off (.inr ⟨12, (.inr (.inl (by omega))), rfl⟩) _, ⟨(o 1 (.inl (by omega)) (by decide)).trans h.set, (o 2 (.inl (by omega)) (by decide)).trans h.dr, (o 3 (.inl (by omega)) (by decide)).trans h.now, (o 4 (.inl (by omega)) (by decide)).trans h.asd, (o 5 (.inl (by omega)) (by decide)).trans h.tri, (o 6 (.inl (by omega)) (by decide)).trans h.sav, (o 7 (.inl (by omega)) (by decide)).trans h.his⟩, ⟨(o 10 (.inr (.inl (by omega))) (by decide)).trans h.l10, (o 11 (.inr (.inl (by omega))) (by decide)).trans h.l11, wIns_eq _ _ _, (o 23 (.inr (.inr (by omega))) (by decide)).trans h.l23, (o 24 (.inr (.inr (by omega))) (by decide)).trans h.l24, (o 25 (.inr (.inr (by omega))) (by decide)).trans h.l25⟩, (o 13 (.inr (.inl (by omega))) (by decide)).trans h.buf, (o 26 (.inr (.inr (by omega))) (by decide)).trans h.out⟩
theorem st_l12 (h : TW G M0 M t f i S D N A T V H l B O) {y : Int32} {x : Int64} {j : Nat} {κ : wM → Prop} (e : y = nI j) (hj : j < 16) (hp : ∀ M1, TW G M0 M1 t f i S D N A T V H (sl l 12 (vp_updL (l 12) j x)) B O → κ M1) : oLast G M (f 12) y x κ :=
  oLast.e e h.l12 (h.z 12 (.inr (.inl (by omega)))) hj (by decide) (hp _ (h.w12 _))
theorem TW.w23 (h : TW G M0 M t f i S D N A T V H l B O) (r : Nat → Int64) : TW G M0 (wIns M (f 23) (.inl (.long, 6, .inr (.inl r)))) t f i S D N A T V H (sl l 23 r) B O := by
  have o : ∀ j, tI j → j ≠ 23 → wIns M (f 23) (.inl (.long, 6, .inr (.inl r))) (f j) = M (f j) := fun j hj e => wIns_ne M _ (h.ne hj (.inr (.inr (by omega))) e)
  exact ⟨(wIns_ne M _ (h.neT (.inr (.inr (by omega)))).symm).trans h.obj, h.2.1, h.2.2.1, h.2.2.2.1, h.off (.inr ⟨23, (.inr (.inr (by omega))), rfl⟩) _, ⟨(o 1 (.inl (by omega)) (by decide)).trans h.set, (o 2 (.inl (by omega)) (by decide)).trans h.dr, (o 3 (.inl (by omega)) (by decide)).trans h.now, (o 4 (.inl (by omega)) (by decide)).trans h.asd, (o 5 (.inl (by omega)) (by decide)).trans h.tri, (o 6 (.inl (by omega)) (by decide)).trans h.sav, (o 7 (.inl (by omega)) (by decide)).trans h.his⟩, ⟨(o 10 (.inr (.inl (by omega))) (by decide)).trans h.l10, (o 11 (.inr (.inl (by omega))) (by decide)).trans h.l11, (o 12 (.inr (.inl (by omega))) (by decide)).trans h.l12, wIns_eq _ _ _, (o 24 (.inr (.inr (by omega))) (by decide)).trans h.l24, (o 25 (.inr (.inr (by omega))) (by decide)).trans h.l25⟩, (o 13 (.inr (.inl (by omega))) (by decide)).trans h.buf, (o 26 (.inr (.inr (by omega))) (by decide)).trans h.out⟩
theorem st_l23 (h : TW G M0 M t f i S D N A T V H l B O) {y : Int32} {x : Int64} {j : Nat} {κ : wM → Prop} (e : y = nI j) (hj : j < 6) (hp : ∀ M1, TW G M0 M1 t f i S D N A T V H (sl l 23 (vp_updL (l 23) j x)) B O → κ M1) : oLast G M (f 23) y x κ :=
  oLast.e e h.l23 (h.z 23 (.inr (.inr (by omega)))) hj (by decide) (hp _ (h.w23 _))
theorem TW.w24 (h : TW G M0 M t f i S D N A T V H l B O) (r : Nat → Int64) : TW G M0 (wIns M (f 24) (.inl (.long, 12, .inr (.inl r)))) t f i S D N A T V H (sl l 24 r) B O := by
  have o : ∀ j, tI j → j ≠ 24 → wIns M (f 24) (.inl (.long, 12, .inr (.inl r))) (f j) = M (f j) := fun j hj e => wIns_ne M _ (h.ne hj (.inr (.inr (by omega))) e)
  exact ⟨(wIns_ne M _ (h.neT (.inr (.inr (by omega)))).symm).trans h.obj, h.2.1, h.2.2.1, h.2.2.2.1, h.off (.inr ⟨24, (.inr (.inr (by omega))), rfl⟩) _, ⟨(o 1 (.inl (by omega)) (by decide)).trans h.set, (o 2 (.inl (by omega)) (by decide)).trans h.dr, (o 3 (.inl (by omega)) (by decide)).trans h.now, (o 4 (.inl (by omega)) (by decide)).trans h.asd, (o 5 (.inl (by omega)) (by decide)).trans h.tri, (o 6 (.inl (by omega)) (by decide)).trans h.sav, (o 7 (.inl (by omega)) (by decide)).trans h.his⟩, ⟨(o 10 (.inr (.inl (by omega))) (by decide)).trans h.l10, (o 11 (.inr (.inl (by omega))) (by decide)).trans h.l11, (o 12 (.inr (.inl (by omega))) (by decide)).trans h.l12, (o 23 (.inr (.inr (by omega))) (by decide)).trans h.l23, wIns_eq _ _ _, (o 25 (.inr (.inr (by omega))) (by decide)).trans h.l25⟩, (o 13 (.inr (.inl (by omega))) (by decide)).trans h.buf, (o 26 (.inr (.inr (by omega))) (by decide)).trans h.out⟩
theorem st_l24 (h : TW G M0 M t f i S D N A T V H l B O) {y : Int32} {x : Int64} {j : Nat} {κ : wM → Prop} (e : y = nI j) (hj : j < 12) (hp : ∀ M1, TW G M0 M1 t f i S D N A T V H (sl l 24 (vp_updL (l 24) j x)) B O → κ M1) : oLast G M (f 24) y x κ :=
  oLast.e e h.l24 (h.z 24 (.inr (.inr (by omega)))) hj (by decide) (hp _ (h.w24 _))
theorem TW.w25 (h : TW G M0 M t f i S D N A T V H l B O) (r : Nat → Int64) : TW G M0 (wIns M (f 25) (.inl (.long, 16, .inr (.inl r)))) t f i S D N A T V H (sl l 25 r) B O := by
  have o : ∀ j, tI j → j ≠ 25 → wIns M (f 25) (.inl (.long, 16, .inr (.inl r))) (f j) = M (f j) := fun j hj e => wIns_ne M _ (h.ne hj (.inr (.inr (by omega))) e)
  exact ⟨(wIns_ne M _ (h.neT (.inr (.inr (by omega)))).symm).trans h.obj, h.2.1, h.2.2.1, h.2.2.2.1, h.off (.inr ⟨25, (.inr (.inr (by omega))), rfl⟩) _, ⟨(o 1 (.inl (by omega)) (by decide)).trans h.set, (o 2 (.inl (by omega)) (by decide)).trans h.dr, (o 3 (.inl (by omega)) (by decide)).trans h.now, (o 4 (.inl (by omega)) (by decide)).trans h.asd, (o 5 (.inl (by omega)) (by decide)).trans h.tri, (o 6 (.inl (by omega)) (by decide)).trans h.sav, (o 7 (.inl (by omega)) (by decide)).trans h.his⟩, ⟨(o 10 (.inr (.inl (by omega))) (by decide)).trans h.l10, (o 11 (.inr (.inl (by omega))) (by decide)).trans h.l11, (o 12 (.inr (.inl (by omega))) (by decide)).trans h.l12, (o 23 (.inr (.inr (by omega))) (by decide)).trans h.l23, (o 24 (.inr (.inr (by omega))) (by decide)).trans h.l24, wIns_eq _ _ _⟩, (o 13 (.inr (.inl (by omega))) (by decide)).trans h.buf, (o 26 (.inr (.inr (by omega))) (by decide)).trans h.out⟩
theorem st_l25 (h : TW G M0 M t f i S D N A T V H l B O) {y : Int32} {x : Int64} {j : Nat} {κ : wM → Prop} (e : y = nI j) (hj : j < 16) (hp : ∀ M1, TW G M0 M1 t f i S D N A T V H (sl l 25 (vp_updL (l 25) j x)) B O → κ M1) : oLast G M (f 25) y x κ :=
  oLast.e e h.l25 (h.z 25 (.inr (.inr (by omega)))) hj (by decide) (hp _ (h.w25 _))
theorem sl_id (l : Nat → Nat → Int64) (k : Nat) : sl l k (l k) = l := by
  funext j; unfold sl; split
  · rename_i e; rw [e]
  · rfl
theorem lg_eq0 {x y : Int64} : lg_cmp x y = 0 ↔ x = y := by
  unfold lg_cmp
  by_cases h : x > y
  · rw [if_pos h]
    refine ⟨fun h1 => absurd h1 (by decide), fun e => ?_⟩
    rw [e] at h; exact absurd h Int64.lt_irrefl
  · rw [if_neg h]
    by_cases e : x = y
    · rw [if_pos e]; exact ⟨fun _ => e, fun _ => rfl⟩
    · rw [if_neg e]; exact ⟨fun h1 => absurd h1 (by decide), fun h1 => absurd h1 e⟩
def RDo (G : wG) (M0 : wM) (i : Rw) (n : Nat) : Prop := WW G M0 ∧ n ≤ 900 ∧ i 15 = nI n
theorem S_fine_2 (h : TW G M0 M t f (pI i p) S D N A T V H l B O) {Q : Bool → wM → Prop} (hQ : Q (decide (pC p = 0)) M) : P_X4_fine_2 G t M Q := by
  refine oGetI.i h.obj rfl (oIf.c (fun c => ⟨true, rfl, ?_⟩) (fun c => ⟨false, rfl, ?_⟩))
  · rw [decide_eq_true (show pC p = 0 from c)] at hQ; exact hQ
  · rw [decide_eq_false (show ¬ pC p = 0 from c)] at hQ; exact hQ
theorem S_needs (h : TW G M0 M t f (pI i p) S D N A T V H l B O) (b : Bool) {c : Int32} {Q : wM → Prop} (hQ : ∀ M1, TW G M0 M1 t f (pI i (needsP b c p)) S D N A T V H l B O → Q M1) : P_X4_needs G t (wb b) c M Q := by
  obtain ⟨a, b0, k, w, v, c0, o⟩ := p
  unfold needsP at hQ
  refine oGetI.i h.obj rfl (oIf.c (fun c1 => ?_) (fun c1 => ?_))
  · cases b with
    | false =>
      rw [if_pos ⟨c1, rfl⟩] at hQ
      refine oIf.y rfl (pt_21 h fun M2 h2 => ?_)
      rw [pI_21] at h2
      refine oGetI.i h2.obj rfl (pt_22 h2 fun M3 h3 => ?_)
      have h3' : TW G M0 M3 t f (upd (pI i (a, b0, k, w, v, c, o)) 22 (nI b0)) S D N A T V H l B O := h3
      rw [pI_22] at h3'
      exact hQ M3 h3'
    | true =>
      rw [if_neg (fun x => by cases x.2)] at hQ
      exact oIf.n (by decide) (hQ M h)
  · rw [if_neg (fun x => c1 x.1)] at hQ
    exact hQ M h
theorem S_goOn (h : TW G M0 M t f (pI i p) S D N A T V H l B O) (hr : RDo G M0 i n) (hp : PSo n p) {Q : wM → Prop} (hQ : ∀ M1, TW G M0 M1 t f (pI i (goP B n p)) S D N A T V H l B O → Q M1) : P_X4_goOn G t M Q := by
  unfold goP at hQ
  refine oIs.i h.obj (S_fine_2 h (bl _ (fun c => ?_) (fun c => ?_)))
  · rw [if_pos (of_decide_eq_true c)] at hQ
    exact oIs.i h.obj (S_next h hr.1 hr.2.1 hr.2.2 hp.1 hQ)
  · rw [if_neg (of_decide_eq_false c)] at hQ
    exact hQ M h
theorem S_isWord (h : TW G M0 M t f (pI i p) S D N A T V H l B O) {w : Int32} {Q : Bool → wM → Prop} (hQ : Q (isWP p w) M) : P_X4_isWord G t w M Q := by
  unfold isWP at hQ
  refine oIs.i h.obj (S_fine_2 h (bl _ (fun c => ?_) (fun c => ?_)))
  · rw [c, Bool.true_and] at hQ
    refine oGetI.i h.obj rfl (oIf.c (fun c2 => ?_) (fun c2 => ?_))
    · rw [decide_eq_true (show pT p = 1 from c2), Bool.true_and] at hQ
      refine oGetI.i h.obj rfl (oIf.c (fun c3 => ⟨true, rfl, ?_⟩) (fun c3 => ⟨false, rfl, ?_⟩))
      · rw [decide_eq_true (show pW p = w from c3)] at hQ; exact hQ
      · rw [decide_eq_false (show ¬ pW p = w from c3)] at hQ; exact hQ
    · rw [decide_eq_false (show ¬ pT p = 1 from c2), Bool.false_and] at hQ
      exact ⟨false, rfl, hQ⟩
  · rw [c, Bool.false_and] at hQ
    exact ⟨false, rfl, hQ⟩
theorem S_passes (h : TW G M0 M t f (pI i p) S D N A T V H l B O) (hr : RDo G M0 i n) (hp : PSo n p) {w : Int32} {Q : wM → Prop} (hQ : ∀ M1, TW G M0 M1 t f (pI i (passP B n w p)) S D N A T V H l B O → Q M1) : P_X4_passes G t w M Q :=
  oIs.i h.obj (S_isWord h (oIs.i h.obj (S_needs h _ fun M1 h1 => oIs.i h1.obj (S_goOn h1 hr (needsP_o hp _ _) hQ))))
theorem needsP_v (b : Bool) (c : Int32) (p : PS) : pV (needsP b c p) = pV p := by unfold needsP; split <;> rfl
theorem lookP_v (lo hi : Int32) (p : PS) : pV (lookP lo hi p) = pV p := by
  unfold lookP; split
  · rw [needsP_v, needsP_v]
  · exact needsP_v _ _ _
theorem S_look (h : TW G M0 M t f (pI i p) S D N A T V H l B O) {lo hi : Int32} {Q : Int32 → wM → Prop} (hQ : ∀ M1, TW G M0 M1 t f (pI i (lookP lo hi p)) S D N A T V H l B O → Q (pV p) M1) : P_X4_look G t lo hi M Q := by
  have key : ∀ b, b = decide (pT p = 2) → B_X4_look_14 G Q t lo hi (wb b) t M := fun b eb => by
    unfold lookP at hQ
    rw [← eb] at hQ
    have ev := needsP_v b 1 p
    refine oIs.i h.obj (S_needs h b fun M1 h1 => ?_)
    generalize needsP b 1 p = p1 at *
    refine oIs.i h1.obj (S_fine_2 h1 (bl _ (fun c => ?_) (fun c => ?_)))
    · rw [if_pos (of_decide_eq_true c)] at hQ
      refine oGetI.i h1.obj rfl (S_isIn (oIs.i h1.obj (S_needs h1 _ fun M2 h2 => ?_)))
      have h2' : TW G M0 M2 t f (pI i (needsP (inR (pV p1) lo hi) 2 p1)) S D N A T V H l B O := h2
      rw [ev] at h2'
      have ev2 := needsP_v (inR (pV p) lo hi) 2 p1
      generalize needsP (inR (pV p) lo hi) 2 p1 = p2 at *
      refine oGetI.i h2'.obj rfl ?_
      show Q (pV p2) M2
      rw [ev2, ev]
      exact hQ M2 h2'
    · rw [if_neg (of_decide_eq_false c)] at hQ
      refine oGetI.i h1.obj rfl ?_
      show Q (pV p1) M1
      rw [ev]
      exact hQ M1 h1
  refine oGetI.i h.obj rfl (oIf.c (fun c => ?_) (fun c => ?_))
  · exact key true (decide_eq_true (show pT p = 2 from c)).symm
  · exact key false (decide_eq_false (show ¬ pT p = 2 from c)).symm
theorem S_number (h : TW G M0 M t f (pI i p) S D N A T V H l B O) (hr : RDo G M0 i n) (hp : PSo n p) {lo hi : Int32} {Q : Int32 → wM → Prop} (hQ : ∀ M1, TW G M0 M1 t f (pI i (numP B n lo hi p)) S D N A T V H l B O → Q (pV p) M1) : P_X4_number G t lo hi M Q :=
  oIs.i h.obj (S_look h fun M1 h1 => oIs.i h1.obj (S_goOn h1 hr (lookP_o hp _ _) hQ))
theorem S_numberBehind (h : TW G M0 M t f (pI i p) S D N A T V H l B O) (hr : RDo G M0 i n) (hp : PSo n p) {w lo hi : Int32} {Q : Int32 → wM → Prop} (hQ : ∀ M1, TW G M0 M1 t f (pI i (nbP B n w lo hi p)) S D N A T V H l B O → Q (nbV B n w p) M1) : P_X4_numberBehind G t w lo hi M Q :=
  oIs.i h.obj (S_passes h hr hp fun M1 h1 => oIs.i h1.obj (S_number h1 hr (passP_o hp _) hQ))
theorem S_lays (h : TW G M0 M t f (pI i p) S D N A T V H l B O) {y v : Int32} {j : Nat} (ey : y = nI j) (hj : j < 130) {Q : wM → Prop} (hQ : ∀ M1, TW G M0 M1 t f (pI i p) S (laysD p j v D) N A T V H l B O → Q M1) : P_X4_lays G t y v M Q := by
  unfold laysD at hQ
  refine oIs.i h.obj (S_fine_2 h (bl _ (fun c => ?_) (fun c => ?_)))
  · rw [if_pos (of_decide_eq_true c)] at hQ
    exact oGetA.i h.obj rfl (st_dr_e h ey hj hQ)
  · rw [if_neg (of_decide_eq_false c)] at hQ
    exact hQ M h
theorem nmF_s (g : Nat → Int32) (k : Nat) : nmF g (k + 1) = 27 * nmF g k + (g k).toInt64 - 96 := rfl
theorem S_nameTo (h : TW G M0 M t f (pI i p) S D N A T V H l B O) (hn : n ≤ 900) (hp : PSo n p) {Q : Int64 → wM → Prop} (hQ : Q (nmB B p) M) : P_X4_nameTo G t (nI p.1) M Q := by
  obtain ⟨h1, h2⟩ := hp
  refine oGetI.i h.obj rfl ?_
  have key := st_loop (F := fun n' k => L_X4_nameTo_8 G Q n' t (nI p.1) (nmF (fun j => B (p.2.1 + j)) k) (nI (p.2.1 + k)) M) (N := p.1 - p.2.1) (fun n' => ?_) (fun n' k hk ih => ?_) 0 (Nat.zero_le _)
  · obtain ⟨n', hn'⟩ := key
    exact ⟨n', hn'⟩
  · unfold L_X4_nameTo_8; unfold B_X4_nameTo_8
    exact oIf.y (nI_le (by omega) (by omega)) hQ
  · unfold L_X4_nameTo_8; unfold B_X4_nameTo_8
    refine oIf.n (nI_ge (by omega) (by omega)) (oGetA.i h.obj rfl (oIald.e (i := p.2.1 + k) rfl h.buf (by omega) (by decide) ?_))
    rw [nI_1]
    exact ih
theorem S_placeOf {a sz m : Nat} {g : Nat → Int64} {x : Int64} (ha : M a = some (.inl (.long, sz, .inr (.inl g)))) (hm : m ≤ sz) (hsz : sz < 2 ^ 31) {Q : Int32 → wM → Prop} (hQ : Q (placeF g m x) M) : P_X4_placeOf G x a (nI m) M Q := by
  unfold placeF at hQ
  have key := st_loop (F := fun n' k => Q (srch (fun k => decide (g k = x)) (m - k) k) M → L_X4_placeOf_3 G Q n' x a (nI m) (nI k) M) (N := m) (fun n' hQ => ?_) (fun n' k hk ih hQ => ?_) 0 (Nat.zero_le _)
  · obtain ⟨n', hn'⟩ := key
    exact ⟨n', hn' hQ⟩
  · unfold L_X4_placeOf_3; unfold B_X4_placeOf_3
    refine oIf.y (nI_le (Nat.le_refl _) (by omega)) ?_
    rw [Nat.sub_self] at hQ; exact hQ
  · unfold L_X4_placeOf_3; unfold B_X4_placeOf_3
    refine oIf.n (nI_ge hk (by omega)) (oLald.e rfl ha (by omega) hsz (oIf.c (fun c => ?_) (fun c => ?_)))
    · rw [srch_y hk (by rw [decide_eq_true_eq]; exact lg_eq0.mp c)] at hQ; exact hQ
    · rw [srch_n hk (by rw [decide_eq_true_eq]; exact fun e => c (lg_eq0.mpr e))] at hQ
      rw [nI_1]; exact ih hQ
theorem S_needsName (h : TW G M0 M t f (pI i p) S D N A T V H l B O) (hn : n ≤ 900) (hp : PSo n p) {Q : wM → Prop} (hQ : ∀ M1, TW G M0 M1 t f (pI i (nnmP p)) S D N A T V H l B O → Q M1) : P_X4_needsName G t M Q := by
  obtain ⟨h1, h2⟩ := hp
  unfold nnmP at hQ
  have key : ∀ b, b = isNm p → B_X4_needsName_36 G Q (wb b) t M := fun b eb => by
    rw [← eb] at hQ
    exact oIs.i h.obj (S_needs h b hQ)
  unfold isNm at key
  refine oGetI.i h.obj rfl (oIf.c (fun c => ?_) (fun c => ?_))
  · rw [decide_eq_true (show pT p = 1 from c), Bool.true_and] at key
    refine oGetI.i h.obj rfl (oIf.c (fun c2 => ?_) (fun c2 => ?_))
    · rw [decide_eq_true (show pW p = -1 from c2), Bool.true_and] at key
      refine oGetI.i h.obj rfl (oGetI.i h.obj rfl ?_)
      show oIf (8 < nI p.1 - nI p.2.1) _ _
      rw [nI_sub h2]
      by_cases c3 : p.1 - p.2.1 ≤ 8
      · refine oIf.n (fun x => ?_) (key true (decide_eq_true c3).symm)
        have := (nI_ltI (a := 8) (b := p.1 - p.2.1) (by decide) (by omega)).mp x
        omega
      · exact oIf.y ((nI_ltI (a := 8) (b := p.1 - p.2.1) (by decide) (by omega)).mpr (by omega)) (key false (decide_eq_false c3).symm)
    · rw [decide_eq_false (show ¬ pW p = -1 from c2), Bool.false_and] at key
      exact key false rfl
  · rw [decide_eq_false (show ¬ pT p = 1 from c), Bool.false_and] at key
    exact key false rfl
theorem S_newName23 (h : TW G M0 M t f (pI i p) S D N A T V H l B O) (hr : RDo G M0 i n) (hp : PSo n p) {m : Nat} (hm : m < 6) {Q : wM → Prop} (hQ : ∀ M1, TW G M0 M1 t f (pI i (newP B n (l 23) m p)) S D N A T V H (sl l 23 (newG B (l 23) m p)) B O → Q M1) : P_X4_newName G t (f 23) (nI m) M Q := by
  unfold newP newG at hQ
  have hp1 : PSo n (nnmP p) := needsP_o hp _ _
  have enm : nmB B (nnmP p) = nmB B p := by unfold nmB nnmP needsP; split <;> rfl
  refine oIs.i h.obj (S_needsName h hr.2.1 hp fun M1 h1 => ?_)
  generalize nnmP p = p1 at *
  refine oIs.i h1.obj (S_fine_2 h1 (bl _ (fun c => ?_) (fun c => ?_)))
  · have c := of_decide_eq_true c
    rw [if_pos c] at hQ
    have hQ2 : ∀ M1, TW G M0 M1 t f (pI i (goP B n (newQ B (l 23) m p1))) S D N A T V H (sl l 23 (if pC (newQ B (l 23) m p1) = 0 then vp_updL (l 23) m (nmB B p1) else l 23)) B O → Q M1 := fun M1 h1 => hQ M1 (by
      by_cases c2 : pC (newQ B (l 23) m p1) = 0
      · rw [if_pos c2] at h1; rw [if_pos ⟨c, c2⟩, ← enm]; exact h1
      · rw [if_neg c2] at h1; rw [if_neg (fun x => c2 x.2)]; exact h1)
    refine oGetI.i h1.obj rfl (oIs.i h1.obj (S_nameTo h1 hr.2.1 hp1 (S_placeOf h1.l23 (by omega) (by decide) ?_)))
    have key : ∀ b, b = decide (placeF (l 23) m (nmB B p1) = -1) → B_X4_newName_35 G Q t (f 23) (nI m) (wb b) t M1 := fun b eb => by
      unfold newQ at hQ2
      rw [← eb] at hQ2
      have hp2 : PSo n (needsP b 3 p1) := needsP_o hp1 _ _
      have en2 : nmB B (needsP b 3 p1) = nmB B p1 := by unfold nmB needsP; split <;> rfl
      refine oIs.i h1.obj (S_needs h1 b fun M2 h2 => ?_)
      generalize needsP b 3 p1 = p2 at *
      refine oIs.i h2.obj (S_fine_2 h2 (bl _ (fun c2 => ?_) (fun c2 => ?_)))
      · rw [if_pos (of_decide_eq_true c2)] at hQ2
        refine oGetI.i h2.obj rfl (oIs.i h2.obj (S_nameTo h2 hr.2.1 hp2 (st_l23 h2 rfl hm fun M3 h3 => ?_)))
        rw [en2] at h3
        exact oIs.i h3.obj (S_goOn h3 hr hp2 hQ2)
      · rw [if_neg (of_decide_eq_false c2)] at hQ2
        refine oIs.i h2.obj (S_goOn h2 hr hp2 fun M3 h3 => hQ2 M3 ?_)
        rw [sl_id]; exact h3
    exact oIf.c (fun c => key true (decide_eq_true c).symm) (fun c => key false (decide_eq_false c).symm)
  · have c := of_decide_eq_false c
    rw [if_neg c, if_neg (fun x => c x.1)] at hQ
    refine hQ M1 ?_
    rw [sl_id]; exact h1
theorem S_newName24 (h : TW G M0 M t f (pI i p) S D N A T V H l B O) (hr : RDo G M0 i n) (hp : PSo n p) {m : Nat} (hm : m < 12) {Q : wM → Prop} (hQ : ∀ M1, TW G M0 M1 t f (pI i (newP B n (l 24) m p)) S D N A T V H (sl l 24 (newG B (l 24) m p)) B O → Q M1) : P_X4_newName G t (f 24) (nI m) M Q := by
  unfold newP newG at hQ
  have hp1 : PSo n (nnmP p) := needsP_o hp _ _
  have enm : nmB B (nnmP p) = nmB B p := by unfold nmB nnmP needsP; split <;> rfl
  refine oIs.i h.obj (S_needsName h hr.2.1 hp fun M1 h1 => ?_)
  generalize nnmP p = p1 at *
  refine oIs.i h1.obj (S_fine_2 h1 (bl _ (fun c => ?_) (fun c => ?_)))
  · have c := of_decide_eq_true c
    rw [if_pos c] at hQ
    have hQ2 : ∀ M1, TW G M0 M1 t f (pI i (goP B n (newQ B (l 24) m p1))) S D N A T V H (sl l 24 (if pC (newQ B (l 24) m p1) = 0 then vp_updL (l 24) m (nmB B p1) else l 24)) B O → Q M1 := fun M1 h1 => hQ M1 (by
      by_cases c2 : pC (newQ B (l 24) m p1) = 0
      · rw [if_pos c2] at h1; rw [if_pos ⟨c, c2⟩, ← enm]; exact h1
      · rw [if_neg c2] at h1; rw [if_neg (fun x => c2 x.2)]; exact h1)
    refine oGetI.i h1.obj rfl (oIs.i h1.obj (S_nameTo h1 hr.2.1 hp1 (S_placeOf h1.l24 (by omega) (by decide) ?_)))
    have key : ∀ b, b = decide (placeF (l 24) m (nmB B p1) = -1) → B_X4_newName_35 G Q t (f 24) (nI m) (wb b) t M1 := fun b eb => by
      unfold newQ at hQ2
      rw [← eb] at hQ2
      have hp2 : PSo n (needsP b 3 p1) := needsP_o hp1 _ _
      have en2 : nmB B (needsP b 3 p1) = nmB B p1 := by unfold nmB needsP; split <;> rfl
      refine oIs.i h1.obj (S_needs h1 b fun M2 h2 => ?_)
      generalize needsP b 3 p1 = p2 at *
      refine oIs.i h2.obj (S_fine_2 h2 (bl _ (fun c2 => ?_) (fun c2 => ?_)))
      · rw [if_pos (of_decide_eq_true c2)] at hQ2
        refine oGetI.i h2.obj rfl (oIs.i h2.obj (S_nameTo h2 hr.2.1 hp2 (st_l24 h2 rfl hm fun M3 h3 => ?_)))
        rw [en2] at h3
        exact oIs.i h3.obj (S_goOn h3 hr hp2 hQ2)
      · rw [if_neg (of_decide_eq_false c2)] at hQ2
        refine oIs.i h2.obj (S_goOn h2 hr hp2 fun M3 h3 => hQ2 M3 ?_)
        rw [sl_id]; exact h3
    exact oIf.c (fun c => key true (decide_eq_true c).symm) (fun c => key false (decide_eq_false c).symm)
  · have c := of_decide_eq_false c
    rw [if_neg c, if_neg (fun x => c x.1)] at hQ
    refine hQ M1 ?_
    rw [sl_id]; exact h1
theorem S_newName25 (h : TW G M0 M t f (pI i p) S D N A T V H l B O) (hr : RDo G M0 i n) (hp : PSo n p) {m : Nat} (hm : m < 16) {Q : wM → Prop} (hQ : ∀ M1, TW G M0 M1 t f (pI i (newP B n (l 25) m p)) S D N A T V H (sl l 25 (newG B (l 25) m p)) B O → Q M1) : P_X4_newName G t (f 25) (nI m) M Q := by
  unfold newP newG at hQ
  have hp1 : PSo n (nnmP p) := needsP_o hp _ _
  have enm : nmB B (nnmP p) = nmB B p := by unfold nmB nnmP needsP; split <;> rfl
  refine oIs.i h.obj (S_needsName h hr.2.1 hp fun M1 h1 => ?_)
  generalize nnmP p = p1 at *
  refine oIs.i h1.obj (S_fine_2 h1 (bl _ (fun c => ?_) (fun c => ?_)))
  · have c := of_decide_eq_true c
    rw [if_pos c] at hQ
    have hQ2 : ∀ M1, TW G M0 M1 t f (pI i (goP B n (newQ B (l 25) m p1))) S D N A T V H (sl l 25 (if pC (newQ B (l 25) m p1) = 0 then vp_updL (l 25) m (nmB B p1) else l 25)) B O → Q M1 := fun M1 h1 => hQ M1 (by
      by_cases c2 : pC (newQ B (l 25) m p1) = 0
      · rw [if_pos c2] at h1; rw [if_pos ⟨c, c2⟩, ← enm]; exact h1
      · rw [if_neg c2] at h1; rw [if_neg (fun x => c2 x.2)]; exact h1)
    refine oGetI.i h1.obj rfl (oIs.i h1.obj (S_nameTo h1 hr.2.1 hp1 (S_placeOf h1.l25 (by omega) (by decide) ?_)))
    have key : ∀ b, b = decide (placeF (l 25) m (nmB B p1) = -1) → B_X4_newName_35 G Q t (f 25) (nI m) (wb b) t M1 := fun b eb => by
      unfold newQ at hQ2
      rw [← eb] at hQ2
      have hp2 : PSo n (needsP b 3 p1) := needsP_o hp1 _ _
      have en2 : nmB B (needsP b 3 p1) = nmB B p1 := by unfold nmB needsP; split <;> rfl
      refine oIs.i h1.obj (S_needs h1 b fun M2 h2 => ?_)
      generalize needsP b 3 p1 = p2 at *
      refine oIs.i h2.obj (S_fine_2 h2 (bl _ (fun c2 => ?_) (fun c2 => ?_)))
      · rw [if_pos (of_decide_eq_true c2)] at hQ2
        refine oGetI.i h2.obj rfl (oIs.i h2.obj (S_nameTo h2 hr.2.1 hp2 (st_l25 h2 rfl hm fun M3 h3 => ?_)))
        rw [en2] at h3
        exact oIs.i h3.obj (S_goOn h3 hr hp2 hQ2)
      · rw [if_neg (of_decide_eq_false c2)] at hQ2
        refine oIs.i h2.obj (S_goOn h2 hr hp2 fun M3 h3 => hQ2 M3 ?_)
        rw [sl_id]; exact h3
    exact oIf.c (fun c => key true (decide_eq_true c).symm) (fun c => key false (decide_eq_false c).symm)
  · have c := of_decide_eq_false c
    rw [if_neg c, if_neg (fun x => c x.1)] at hQ
    refine hQ M1 ?_
    rw [sl_id]; exact h1
theorem S_oldName23 (h : TW G M0 M t f (pI i p) S D N A T V H l B O) (hr : RDo G M0 i n) (hp : PSo n p) {m : Nat} (hm : m ≤ 6) {x : Int32} {Q : Int32 → wM → Prop} (hQ : ∀ M1, TW G M0 M1 t f (pI i (oldP B n (l 23) m x p)) S D N A T V H l B O → Q (oldV B (l 23) m p) M1) : P_X4_oldName G t (f 23) (nI m) x M Q := by
  unfold oldP oldV at hQ
  have hp1 : PSo n (nnmP p) := needsP_o hp _ _
  have enm : nmB B (nnmP p) = nmB B p := by unfold nmB nnmP needsP; split <;> rfl
  rw [← enm] at hQ
  refine oIs.i h.obj (S_needsName h hr.2.1 hp fun M1 h1 => ?_)
  generalize nnmP p = p1 at *
  refine oIs.i h1.obj (S_fine_2 h1 (bl _ (fun c => ?_) (fun c => ?_)))
  · have c := of_decide_eq_true c
    rw [if_pos c, if_pos c] at hQ
    refine oGetI.i h1.obj rfl (oIs.i h1.obj (S_nameTo h1 hr.2.1 hp1 (S_placeOf h1.l23 (by omega) (by decide) ?_)))
    unfold oldQ at hQ
    generalize placeF (l 23) m (nmB B p1) = y at *
    have key : ∀ b, b = (!decide (y = -1) && !decide (y = x)) → B_X4_oldName_46 G Q t y (wb b) t M1 := fun b eb => by
      rw [← eb] at hQ
      have hp2 : PSo n (needsP b 3 p1) := needsP_o hp1 _ _
      exact oIs.i h1.obj (S_needs h1 b fun M2 h2 => oIs.i h2.obj (S_goOn h2 hr hp2 hQ))
    refine oIf.c (fun c2 => key false (by rw [decide_eq_true c2]; rfl)) (fun c2 => oIf.c (fun c3 => key false (by rw [decide_eq_true c3]; simp)) (fun c3 => key true (by rw [decide_eq_false c2, decide_eq_false c3]; rfl)))
  · have c := of_decide_eq_false c
    rw [if_neg c, if_neg c] at hQ
    exact hQ M1 h1
theorem S_oldName24 (h : TW G M0 M t f (pI i p) S D N A T V H l B O) (hr : RDo G M0 i n) (hp : PSo n p) {m : Nat} (hm : m ≤ 12) {x : Int32} {Q : Int32 → wM → Prop} (hQ : ∀ M1, TW G M0 M1 t f (pI i (oldP B n (l 24) m x p)) S D N A T V H l B O → Q (oldV B (l 24) m p) M1) : P_X4_oldName G t (f 24) (nI m) x M Q := by
  unfold oldP oldV at hQ
  have hp1 : PSo n (nnmP p) := needsP_o hp _ _
  have enm : nmB B (nnmP p) = nmB B p := by unfold nmB nnmP needsP; split <;> rfl
  rw [← enm] at hQ
  refine oIs.i h.obj (S_needsName h hr.2.1 hp fun M1 h1 => ?_)
  generalize nnmP p = p1 at *
  refine oIs.i h1.obj (S_fine_2 h1 (bl _ (fun c => ?_) (fun c => ?_)))
  · have c := of_decide_eq_true c
    rw [if_pos c, if_pos c] at hQ
    refine oGetI.i h1.obj rfl (oIs.i h1.obj (S_nameTo h1 hr.2.1 hp1 (S_placeOf h1.l24 (by omega) (by decide) ?_)))
    unfold oldQ at hQ
    generalize placeF (l 24) m (nmB B p1) = y at *
    have key : ∀ b, b = (!decide (y = -1) && !decide (y = x)) → B_X4_oldName_46 G Q t y (wb b) t M1 := fun b eb => by
      rw [← eb] at hQ
      have hp2 : PSo n (needsP b 3 p1) := needsP_o hp1 _ _
      exact oIs.i h1.obj (S_needs h1 b fun M2 h2 => oIs.i h2.obj (S_goOn h2 hr hp2 hQ))
    refine oIf.c (fun c2 => key false (by rw [decide_eq_true c2]; rfl)) (fun c2 => oIf.c (fun c3 => key false (by rw [decide_eq_true c3]; simp)) (fun c3 => key true (by rw [decide_eq_false c2, decide_eq_false c3]; rfl)))
  · have c := of_decide_eq_false c
    rw [if_neg c, if_neg c] at hQ
    exact hQ M1 h1
end TW12
