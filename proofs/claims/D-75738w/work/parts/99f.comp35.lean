set_option maxRecDepth 100000
/-! STAGE 2, component, reading 4: names -/
def cU (cc : Nat → Nat) (c : Nat) : Nat → Nat := fun j => if j = c then cc c + 1 else cc j
theorem cs_m {p p1 : PS} {e k b : Nat} (hb : cs p p1 e ≤ b) (hk : k ≤ e) : cs p p1 (e - k) ≤ b - k := by unfold cs at *; generalize (if pC p1 = 0 then 0 else 9) = z at *; omega
section C35
variable {G : wG} {M : wM} {ow : Nat → Nat} {a n t : Nat} {u : Nat × (Nat → Nat)} {B : Rw} {p : PS} {D : Rw} {l : Nat → Nat → Int64} {cc : Nat → Nat}
theorem S_kw {kl x m : Nat} {r : Nat → Int32} (hE : PEV G M ow a n B kl) (hx : STR G M ow 22 x m r) (hm : m < 2 ^ 31) {Q : Bool → wM → Prop} (hy : ∀ k, k < 16 → eqS m r (wln k) (kwR k) = true → Q true M) (hn : (∀ k, k < 16 → eqS m r (wln k) (kwR k) = false) → Q false M) : P_J28_contains_J30 G kl x M Q := by
  obtain ⟨-, hk, -, ka, g, e7, e8, e9⟩ := hE
  have hx' := hx
  obtain ⟨v, hh, zz, x1, x2⟩ := hx'
  have key := st_loopP (F := fun i k => L_J30_indexOf_26 G (fun v3 M1 => oIf (v3 < 0) (B_J28_contains_J30_13 G Q (0 : Int32) M1) (B_J28_contains_J30_13 G Q (1 : Int32) M1)) i x ka (nI k) M) (P := fun k => ∀ j, j < k → eqS m r (wln j) (kwR j) = false) (N := 16) (fun i hq => ?_) (fun i k hk1 hq ih => ?_) 0 (Nat.zero_le _) (fun j hj => by omega)
  · refine oIs.i e7.1 (oGetI.i e7.1 rfl (oIf.y rfl ?_))
    unfold B_J30_indexOf_19
    exact oGetA.i e7.1 rfl key
  · unfold L_J30_indexOf_26; unfold B_J30_indexOf_26
    exact oAlen.i e8.1 (oIf.y (by decide) (oIf.y (by decide) ⟨false, rfl, hn hq⟩))
  · unfold L_J30_indexOf_26; unfold B_J30_indexOf_26
    refine oAlen.i e8.1 (oIf.n (nI_ge (b := 16) hk1 (by decide)) (oAald.e rfl e8.1 hk1 (by decide) ?_))
    rw [e9 k hk1]
    have hne : x ≠ G.2.2.2 (10 + k) := fun e => by
      obtain ⟨v', h', z', y1, y2⟩ := hk k hk1
      have := x1.2.1
      rw [e, y1.2.1] at this
      exact absurd this (by decide)
    have hw := wd_ok k hk1
    refine oIf.n (fun e => hne (Option.some.inj e)) (hx.is (S_strEq hx (hk k hk1) hm (by omega) (bl _ (fun c => ?_) (fun c => ?_))))
    · exact ⟨true, rfl, oIf.y rfl (oIf.n (nI_pos (by omega)) ⟨true, rfl, hy k hk1 c⟩)⟩
    · refine ⟨false, rfl, oIf.n (by decide) ?_⟩
      rw [nI_1]
      refine ih fun j hj => ?_
      by_cases e : j = k
      · rw [e]; exact c
      · exact hq j (by omega)
theorem wk_no {w : Nat} {r : Nat → Int32} (ht : TK B n p) (c : pT p = 1) (hr : ∀ j, j < p.1 - p.2.1 → r j = B (p.2.1 + j)) : pW p = -1 ↔ ∀ k, k < 16 → eqS (p.1 - p.2.1) r (wln k) (kwR k) = false := by
  obtain ⟨h1, h2, h3⟩ := ht.2 c
  constructor
  · intro e k hk
    rw [wk_eq ht c hr hk, e]
    exact decide_eq_false fun z => nI_neg (a := k) (by omega) z.symm
  · intro h
    rw [h3]
    unfold wordF
    rcases srch_c (p := eqW B p.2.1 p.1) (n := 16) (by decide) with ⟨e1, e2⟩ | ⟨j, j1, j2, e1, -⟩
    · exact e1
    · have := h j j1
      rw [wk_eq ht c hr j1, h3, decide_eq_false_iff_not] at this
      exact absurd ((wordF_i j1 (by omega)).mpr j2) this
/-- what stands here is a name -/
theorem nm_ok (hB : BYT B) {r : Nat → Int32} (ht : TK B n p) (c : pT p = 1) (h8 : p.1 - p.2.1 ≤ 8) (hr : ∀ j, j < p.1 - p.2.1 → r j = B (p.2.1 + j)) : isNmS (p.1 - p.2.1) r ∧ nmF r (p.1 - p.2.1) = nmB B p := by
  obtain ⟨h1, h2, h3⟩ := ht.2 c
  refine ⟨⟨by omega, h8, fun j hj => ?_⟩, nmF_c _ hr⟩
  obtain ⟨d, d1, d2, d3⟩ := (lt_iff hB (p.2.1 + j)).mp (h2 _ (by omega) (by omega))
  exact ⟨d, d1, d2, by rw [hr j hj]; exact d3⟩
theorem isNm_i : isNm p = true ↔ pT p = 1 ∧ pW p = -1 ∧ p.1 - p.2.1 ≤ 8 := by
  unfold isNm; simp
theorem R_name (h : PST G M ow a n B t u p D l cc) (hB : BYT B) (hc : pC p = 0) {c : Nat} (hc3 : c < 3) {x : Int32} (ex : x = nI c) {b e : Nat} (hb : cs p (nnmP p) e ≤ b) {Q : Int32 → wM → Prop} {Xp : String → Nat → wM → Prop} (hQ : isNm p = true → Q (placeF (l (23 + c)) (cc c) (nmB B p)) M) (hX : isNm p = false → ∀ q M1 ow1, Mv tQ M ow M1 ow1 → EXC M1 q (nnmP p) → Xp ePE q M1) : P_X5_name G t x b M Q Xp := by
  subst ex
  unfold nnmP at hb hX
  have bad : isNm p = false → B_X5_name_40 G Q Xp t (nI c) M b := fun e1 => by
    unfold B_X5_name_40 B_X5_name_41
    have hne := need_fc hc (x := 1) (by decide)
    rw [e1] at hb
    exact h.is ⟨b, Nat.le_refl _, R_req h hc (bb := false) rfl (fun _ => cs_9 hne hb) (fun e => by cases e) (fun _ q M1 ow1 hs1 hx => ⟨rfl, hX e1 q M1 ow1 hs1 (by rw [e1]; exact hx)⟩)⟩
  have h' := h
  obtain ⟨kl, su, on, w, y, ⟨ht, ⟨v, hC, -⟩, hE, -, hS⟩, hW⟩ := h
  have hn := hE.n9
  have ho := ht.1
  have no : (¬ (pT p = 1 ∧ pW p = -1 ∧ p.1 - p.2.1 ≤ 8)) → isNm p = false := fun z => by
    rw [← Bool.not_eq_true, isNm_i]; exact z
  refine oGetI.i hC.1 rfl (oIf.c (fun c1 => ?_) (fun c1 => bad (no fun z => c1 z.1)))
  obtain ⟨r, hr1, hr2⟩ := hW.1 c1
  have hlen : p.1 - p.2.1 < 2 ^ 31 := by have := ho.1; omega
  have hr1' := hr1
  obtain ⟨sv, sh, sz, s1, s2⟩ := hr1'
  refine oGetA.i hC.1 rfl (hr1.is (S_strlen s1.1 s2.1 hlen (oIf.c (fun c2 => bad (no fun z => ?_)) (fun c2 => ?_))))
  · exact nI_nlt (a := 8) (b := p.1 - p.2.1) z.2.2 (by decide) c2
  have h8 : p.1 - p.2.1 ≤ 8 := by
    rcases Nat.lt_or_ge 8 (p.1 - p.2.1) with z | z
    · exact absurd (nI_lt (a := 8) z hlen) c2
    · exact z
  have hkl := hE.2.2.2
  obtain ⟨ka, kg, e7, -⟩ := hkl
  refine oGetA.i hC.1 rfl (oGetA.i hC.1 rfl (oIs.i e7.1 (S_kw hE hr1 hlen (fun k hk ek => oIf.y rfl (bad (no fun z => ?_))) (fun hk => oIf.n (by decide) ?_))))
  · have := (wk_no (w := 0) ht c1 hr2).mp z.2.1 k hk
    rw [ek] at this; cases this
  have hw := (wk_no (w := 0) ht c1 hr2).mpr hk
  have e1 : isNm p = true := isNm_i.mpr ⟨c1, hw, h8⟩
  obtain ⟨n1, n2⟩ := nm_ok hB ht c1 h8 hr2
  obtain ⟨g1, g2⟩ := hS
  obtain ⟨gl, gs, g3, g4⟩ := g2.2.2.2.2
  obtain ⟨g5, g6⟩ := g4 c hc3
  unfold B_X5_name_41
  refine h'.is ⟨0, Nat.zero_le _, R_req h' hc (bb := true) rfl (fun e => by cases e) (fun _ => ?_) (fun e => by cases e)⟩
  have g5' := g5
  obtain ⟨mc, g5'⟩ := g5'
  obtain ⟨ea, he⟩ := g5'.o
  refine oGetA.i hC.1 rfl (oGetA.i g1.1 rfl (isA g3 (E_get g3 hc3 (oCast.s he (oGetA.i hC.1 rfl (oRef.s (isA g5 (S_idxNm g5 hr1 hlen g6 (fun _ => ?_) (fun z => absurd n1 z)))))))))
  rw [n2]
  exact hQ e1
theorem R_known (h : PST G M ow a n B t u p D l cc) (hB : BYT B) (hc : pC p = 0) {c : Nat} (hc3 : c < 3) {x : Int32} (ex : x = nI c) {b e : Nat} (hb : cs p (oldP B n (l (23 + c)) (cc c) (-1) p) e ≤ b) {Q : Int32 → wM → Prop} {Xp : String → Nat → wM → Prop} (hQ : pC (oldP B n (l (23 + c)) (cc c) (-1) p) = 0 → ∀ M1 ow1, Mv tQ M ow M1 ow1 → PSTf G M1 ow1 a n B t u (oldP B n (l (23 + c)) (cc c) (-1) p) D l cc → Q (oldV B (l (23 + c)) (cc c) p) M1) (hX : pC (oldP B n (l (23 + c)) (cc c) (-1) p) ≠ 0 → ∀ q M1 ow1, Mv tQ M ow M1 ow1 → EXC M1 q (oldP B n (l (23 + c)) (cc c) (-1) p) → Xp ePE q M1) : P_X5_knownName G t x b M Q Xp := by
  cases en : isNm p with
  | false =>
    have e1 : nnmP p = needsP false 1 p := by unfold nnmP; rw [en]
    have hne := need_fc hc (x := 1) (by decide)
    have e2 : oldP B n (l (23 + c)) (cc c) (-1) p = nnmP p := by unfold oldP; rw [if_neg (by rw [e1]; exact hne)]
    rw [e2] at hb hX
    exact h.is ⟨b, Nat.le_refl _, R_name h hB hc hc3 ex hb (fun e => by rw [en] at e; cases e) (fun _ q M1 ow1 hs1 hx => ⟨rfl, hX (by rw [e1]; exact hne) q M1 ow1 hs1 hx⟩)⟩
  | true =>
    have e1 : nnmP p = p := by unfold nnmP; rw [en, need_t]
    have e2 : oldP B n (l (23 + c)) (cc c) (-1) p = goP B n (needsP (!decide (placeF (l (23 + c)) (cc c) (nmB B p) = -1)) 3 p) := by unfold oldP oldQ; rw [e1, if_pos hc, Bool.and_self]
    have e3 : oldV B (l (23 + c)) (cc c) p = placeF (l (23 + c)) (cc c) (nmB B p) := by unfold oldV; rw [e1, if_pos hc]
    rw [e2] at hb hX hQ
    rw [e3] at hQ
    refine h.is ⟨0, Nat.zero_le _, R_name (e := 0) h hB hc hc3 ex (by rw [e1]; exact cs_0 hc (Nat.le_refl _)) (fun _ => ?_) (fun e => by rw [en] at e; cases e)⟩
    have go : ∀ y0 bb, y0 = wb bb → bb = (!decide (placeF (l (23 + c)) (cc c) (nmB B p) = -1)) → B_X5_knownName_17 G Q Xp t (placeF (l (23 + c)) (cc c) (nmB B p)) y0 t M (b - 0) := fun y0 bb ey eb => by
      unfold B_X5_knownName_17
      rw [← eb] at hb hX hQ
      cases bb with
      | true =>
        rw [need_t] at hb hQ
        exact h.is ⟨0, Nat.zero_le _, R_req h hc (bb := true) ey (fun e => by cases e) (fun _ => h.is ⟨b, by omega, R_go h hB hc hb fun M1 ow1 hs1 g1 => hQ (by rw [goP_c]; exact hc) M1 ow1 hs1 g1⟩) (fun e => by cases e)⟩
      | false =>
        have hne := need_fc hc (x := 3) (by decide)
        rw [go_s hne] at hb hX
        exact h.is ⟨b, by omega, R_req h hc (bb := false) ey (fun _ => cs_9 hne hb) (fun e => by cases e) (fun _ q M1 ow1 hs1 hx => ⟨rfl, hX hne q M1 ow1 hs1 hx⟩)⟩
    exact oIf.c (fun c1 => go 0 false rfl (by rw [c1]; rfl)) (fun c1 => go 1 true rfl (by rw [decide_eq_false c1]; rfl))
theorem R_newName (h : PST G M ow a n B t u p D l cc) (hB : BYT B) (hc : pC p = 0) {c : Nat} (hc3 : c < 3) (hm : cc c ≤ 16) {x : Int32} (ex : x = nI c) {b e : Nat} (he : 92 ≤ e) (hb : cs p (newP B n (l (23 + c)) (cc c) p) e ≤ b) {Q : wM → Prop} {Xp : String → Nat → wM → Prop}
    (hQ : pC (newP B n (l (23 + c)) (cc c) p) = 0 → ∀ M1 ow1, Mv tQ M ow M1 ow1 → PSTf G M1 ow1 a n B t u (newP B n (l (23 + c)) (cc c) p) D (sl l (23 + c) (newG B (l (23 + c)) (cc c) p)) (cU cc c) → Q M1) (hX : pC (newP B n (l (23 + c)) (cc c) p) ≠ 0 → ∀ q M1 ow1, Mv tQ M ow M1 ow1 → EXC M1 q (newP B n (l (23 + c)) (cc c) p) → Xp ePE q M1) : P_X5_newName G t x b M Q Xp := by
  cases en : isNm p with
  | false =>
    have e1 : nnmP p = needsP false 1 p := by unfold nnmP; rw [en]
    have hne := need_fc hc (x := 1) (by decide)
    have e2 : newP B n (l (23 + c)) (cc c) p = nnmP p := by unfold newP; rw [if_neg (by rw [e1]; exact hne)]
    rw [e2] at hb hX
    exact h.is ⟨b, Nat.le_refl _, R_name h hB hc hc3 ex hb (fun e => by rw [en] at e; cases e) (fun _ q M1 ow1 hs1 hx => ⟨rfl, hX (by rw [e1]; exact hne) q M1 ow1 hs1 hx⟩)⟩
  | true =>
    have e1 : nnmP p = p := by unfold nnmP; rw [en, need_t]
    have e2 : newP B n (l (23 + c)) (cc c) p = goP B n (needsP (decide (placeF (l (23 + c)) (cc c) (nmB B p) = -1)) 3 p) := by unfold newP newQ; rw [e1, if_pos hc]
    have e3 : newG B (l (23 + c)) (cc c) p = if pC (needsP (decide (placeF (l (23 + c)) (cc c) (nmB B p) = -1)) 3 p) = 0 then vp_updL (l (23 + c)) (cc c) (nmB B p) else l (23 + c) := by unfold newG newQ; rw [e1]; simp only [hc, true_and]
    rw [e2] at hb hX hQ
    rw [e3] at hQ
    refine h.is ⟨0, Nat.zero_le _, R_name (e := 0) h hB hc hc3 ex (by rw [e1]; exact cs_0 hc (Nat.le_refl _)) (fun _ => ?_) (fun e => by rw [en] at e; cases e)⟩
    refine oIf.c (fun c1 => ?_) (fun c1 => ?_)
    · rw [decide_eq_true c1, need_t] at hb hQ
      rw [if_pos hc] at hQ
      subst ex
      unfold B_X5_newName_17
      refine h.is ⟨0, Nat.zero_le _, R_req h hc (bb := true) rfl (fun e => by cases e) (fun _ => ?_) (fun e => by cases e)⟩
      obtain ⟨kl, su, on, w, y, ⟨ht, ⟨v, hC, hv⟩, hE, ⟨bw, hO, hO2⟩, hS⟩, hW⟩ := h
      obtain ⟨i1, i2, i3⟩ := isNm_i.mp en
      obtain ⟨r, hr1, hr2⟩ := hW.1 i1
      obtain ⟨n1, n2⟩ := nm_ok hB ht i1 i3 hr2
      obtain ⟨g1, ⟨a2, a3⟩, ⟨a4, a5⟩, ⟨a6, a7⟩, ⟨ra, a8, a9⟩, gl, gs, g3, g4⟩ := hS
      obtain ⟨g5, g6⟩ := g4 c hc3
      have g5' := g5
      obtain ⟨mc, g5'⟩ := g5'
      obtain ⟨ea, hea⟩ := g5'.o
      have hOb : Ob M w := by obtain ⟨sv, sh, sz, s1, s2⟩ := hr1; exact ⟨_, s1.1⟩
      refine oGetA.i hC.1 rfl (oGetA.i g1.1 rfl (isA g3 (E_get (k := c) g3 hc3 (oCast.s hea (oGetA.i hC.1 rfl (oRef.s (isA g5 ⟨92, ?_, S_add g5' (by omega) (by omega) (by omega) hOb fun M1 ow1 hs1 hA1 => ?_⟩)))))))
      · have : 92 ≤ cs p (goP B n p) e := by unfold cs; omega
        omega
      have hT : ∀ k, k ≠ 26 + c → k ∉ [26 + c] := fun k hk => by simpa using hk
      have h1 : PST G M1 ow1 a n B t u p D (sl l (23 + c) (vp_updL (l (23 + c)) (cc c) (nmB B p))) (cU cc c) := by
        refine ⟨kl, su, on, w, y, ⟨ht, ⟨v, hC.stp hs1 (hT _ (by omega)), hv⟩, hE.stp hs1 (hT _ (by omega)) (hT _ (by omega)) (hT _ (by omega)), ⟨bw, hO.stp hs1 (hT _ (by omega)), hO2⟩, ?_⟩, hW.stp hs1 (hT _ (by omega))⟩
        refine ⟨g1.stp hs1 (hT _ (by omega)), ⟨a2.stp hs1 (hT _ (by omega)), fun z hz => (a3 z hz).stp hs1 hs1.1⟩, ⟨a4.stp hs1 (hT _ (by omega)), fun z hz => (a5 z hz).stp hs1 hs1.1⟩, ⟨a6.stp hs1 (hT _ (by omega)), fun z hz => (a7 z hz).stp hs1 (hT _ (by omega))⟩, ⟨ra, a8.stp hs1 (hT _ (by omega)), a9⟩, gl, fun c' => if c' = c then va_up (gs c) (cc c) w else gs c', g3.stp hs1 (hT _ (by omega)), fun c' hc' => ?_⟩
        by_cases ec : c' = c
        · subst ec
          unfold cU sl
          simp only [if_true]
          refine ⟨⟨_, hA1⟩, fun j hj => ?_⟩
          by_cases ej : j = cc c'
          · rw [ej, va_up_self]
            refine ⟨_, r, hr1.stp hs1 (hT _ (by omega)), n1.1, n1.2.1, n1.2.2, ?_⟩
            rw [n2]; unfold vp_updL; simp
          · rw [va_up_ne _ _ ej]
            have := (g6 j (by omega)).stp hs1 (hT 22 (by omega))
            unfold vp_updL; rw [if_neg ej]; exact this
        · have e4 : cU cc c c' = cc c' := if_neg ec
          have e5 : sl l (23 + c) (vp_updL (l (23 + c)) (cc c) (nmB B p)) (23 + c') = l (23 + c') := if_neg (by omega)
          show ALe G M1 ow1 (26 + c') (gl c') (cU cc c c') (if c' = c then va_up (gs c) (cc c) w else gs c') ∧ ∀ j, j < cU cc c c' → NMS G M1 ow1 22 ((if c' = c then va_up (gs c) (cc c) w else gs c') j) (sl l (23 + c) (vp_updL (l (23 + c)) (cc c) (nmB B p)) (23 + c') j)
          rw [e4, e5, if_neg ec]
          exact ⟨(g4 c' hc').1.stp hs1 (hT _ (by omega)), fun j hj => ((g4 c' hc').2 j hj).stp hs1 (hT 22 (by omega))⟩
      have hs1' : Mv tQ M ow M1 ow1 := hs1.mono (fun x hx => by rw [List.mem_singleton] at hx; rw [hx]; unfold tQ; simp; omega) (by decide)
      refine h1.is ⟨b - 92, by omega, R_go h1 hB hc (cs_m hb he) fun M2 ow2 hs2 g2 => hQ (by rw [goP_c]; exact hc) M2 ow2 (hs1'.tr hs2) g2⟩
    · have hne := need_fc hc (x := 3) (by decide)
      rw [decide_eq_false c1, go_s hne] at hb hX
      unfold B_X5_newName_17
      exact h.is ⟨b, by omega, R_req h hc (bb := false) rfl (fun _ => cs_9 hne hb) (fun e => by cases e) (fun _ q M1 ow1 hs1 hx => ⟨rfl, hX hne q M1 ow1 hs1 hx⟩)⟩
end C35
