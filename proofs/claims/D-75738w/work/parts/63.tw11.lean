set_option maxRecDepth 100000
/-! STAGE 2, the twin: the next token -/
theorem chB_pos (B : Rw) (k : Nat) : chB B k ≠ -1 := fun h => by
  have := congrArg (fun y : Int32 => y.toBitVec.getLsbD 31) h
  unfold chB at this
  simp at this
section TW11
variable {G : wG} {M0 M : wM} {t : Nat} {f : Nat → Nat} {i S D N A T V H : Nat → Int32} {l : Nat → Nat → Int64} {B O : Nat → Int32}
theorem S_here (h : TW G M0 M t f i S D N A T V H l B O) {n k : Nat} (hn : n ≤ 900) (e15 : i 15 = nI n) (hk : k ≤ 900) {Q : Int32 → wM → Prop} (hQ : Q (hereB B n k) M) : P_X4_here G t (nI k) M Q := by
  unfold hereB at hQ
  refine oGetI.i h.obj rfl ?_
  rw [e15]
  by_cases c : k < n
  · rw [if_pos c] at hQ
    exact oIf.n (nI_ge c (by omega)) (oGetA.i h.obj rfl (oIald.e rfl h.buf (by omega) (by decide) hQ))
  · rw [if_neg c] at hQ
    exact oIf.y (nI_le (by omega) (by omega)) hQ
theorem S_next {p : PS} (h : TW G M0 M t f (pI i p) S D N A T V H l B O) (hw : WW G M0) {n : Nat} (hn : n ≤ 900) (e15 : i 15 = nI n) (hp : p.1 ≤ n) {Q : wM → Prop} (hQ : ∀ M1, TW G M0 M1 t f (pI i (nextP B n p)) S D N A T V H l B O → Q M1) : P_X4_next G t M Q := by
  obtain ⟨a0, b0, k0, w0, v0, c0, o0⟩ := p
  have hp1 : a0 ≤ n := hp
  obtain ⟨q1, q2, q3, q4⟩ := runE_sp (wsB B) n _ a0 rfl hp1
  unfold nextP at hQ
  simp only [] at hQ
  generalize ea : runE (wsB B) n a0 = a at *
  have key := st_loopP (F := fun n' k => ∀ M2, TW G M0 M2 t f (pI i (k, b0, k0, w0, v0, c0, o0)) S D N A T V H l B O → L_X4_next_0 G Q n' t M2) (P := fun k => a0 ≤ k) (N := a) (fun n' hk M2 h2 => ?_) (fun n' k hk hk0 ih M2 h2 => ?_) a0 q1 (Nat.le_refl _)
  · obtain ⟨n', hn'⟩ := key
    exact ⟨n', hn' M h⟩
  · unfold L_X4_next_0; unfold B_X4_next_0
    have hh : hereB B n a ≠ 32 ∧ hereB B n a ≠ 10 := by
      unfold hereB
      by_cases c : a < n
      · have := q4 c
        unfold wsB at this
        simp only [Bool.or_eq_false_iff, decide_eq_false_iff_not] at this
        rw [if_pos c]; exact this
      · rw [if_neg c]; exact ⟨by decide, by decide⟩
    refine oGetI.i h2.obj rfl (oIs.i h2.obj (S_here h2 hn e15 (by omega) (oIf.n hh.1 (oGetI.i h2.obj rfl (oIs.i h2.obj (S_here h2 hn e15 (by omega) (oIf.n hh.2 (oGetI.i h2.obj rfl (pt_17 h2 fun M3 h3 => ?_)))))))))
    have h3' : TW G M0 M3 t f (upd (pI i (a, b0, k0, w0, v0, c0, o0)) 17 (nI a)) S D N A T V H l B O := h3
    rw [pI_17] at h3'
    have h3 := h3'
    refine oGetI.i h3.obj rfl (oIs.i h3.obj (S_here h3 hn e15 (by omega) ?_))
    by_cases c : n ≤ a
    · rw [if_pos c] at hQ
      refine oIf.y (by unfold hereB; rw [if_neg (by omega)]) (pt_18 h3 fun M4 h4 => ?_)
      rw [pI_18] at h4
      exact hQ M4 h4
    · rw [if_neg c] at hQ
      have e1 : hereB B n a = chB B a := by unfold hereB; rw [if_pos (by omega)]
      rw [e1]
      refine oIf.n (chB_pos B a) (S_isIn (lo := 97) (hi := 122) (bl _ (fun cl => ?_) (fun cl => ?_)))
      · rw [if_pos (show ltB B a = true from cl)] at hQ
        obtain ⟨r1, r2, r3, r4⟩ := runE_sp (ltB B) n _ a rfl q2
        generalize runE (ltB B) n a = e at *
        have key2 := st_loopP (F := fun n' k => ∀ M4, TW G M0 M4 t f (pI i (k, a, k0, w0, v0, c0, o0)) S D N A T V H l B O → L_X4_next_83 G Q n' t M4) (P := fun k => a ≤ k) (N := e) (fun n' hk M4 h4 => ?_) (fun n' k hk hk0 ih M4 h4 => ?_) a r1 (Nat.le_refl _)
        · obtain ⟨n2, hn2⟩ := key2
          exact ⟨n2, hn2 M3 h3⟩
        · unfold L_X4_next_83; unfold B_X4_next_83
          refine oGetI.i h4.obj rfl (oIs.i h4.obj (S_here h4 hn e15 (by omega) (S_isIn (lo := 97) (hi := 122) ?_)))
          have e2 : inR (hereB B n e) 97 122 = false := by
            unfold hereB
            by_cases c2 : e < n
            · rw [if_pos c2]; exact r4 c2
            · rw [if_neg c2]; decide
          rw [e2]
          refine oIf.n (by decide) (pt_18 h4 fun M5 h5 => ?_)
          rw [pI_18] at h5
          refine oIs.i h5.obj (S_wordHere h5 hw (a := a) (e := e) (by omega) r1 rfl rfl (pt_19 h5 fun M6 h6 => ?_))
          rw [pI_19] at h6
          exact hQ M6 h6
        · unfold L_X4_next_83; unfold B_X4_next_83
          refine oGetI.i h4.obj rfl (oIs.i h4.obj (S_here h4 hn e15 (by omega) (S_isIn (lo := 97) (hi := 122) ?_)))
          have e2 : inR (hereB B n k) 97 122 = true := by
            unfold hereB
            rw [if_pos (by omega)]; exact r3 k hk0 hk
          rw [e2]
          refine oIf.y rfl (oGetI.i h4.obj rfl (pt_16 h4 fun M5 h5 => ?_))
          have h5' : TW G M0 M5 t f (upd (pI i (k, a, k0, w0, v0, c0, o0)) 16 (nI k + 1)) S D N A T V H l B O := h5
          rw [nI_1, pI_16] at h5'
          exact ih (by omega) M5 h5'
      · rw [if_neg (by rw [show ltB B a = false from cl]; decide)] at hQ
        refine S_isIn (lo := 48) (hi := 57) (bl _ (fun cd => ?_) (fun cd => ?_))
        · rw [if_pos (show dgB B a = true from cd)] at hQ
          obtain ⟨r1, r2, r3, r4⟩ := runE_sp (dgB B) n _ a rfl q2
          generalize runE (dgB B) n a = e at *
          refine pt_20 h3 fun M4 h4 => ?_
          rw [pI_20] at h4
          have key2 := st_loopP (F := fun n' k => ∀ M5, TW G M0 M5 t f (pI i (k, a, k0, w0, valB B a (k - a), c0, o0)) S D N A T V H l B O → L_X4_next_152 G Q n' t M5) (P := fun k => a ≤ k) (N := e) (fun n' hk M5 h5 => ?_) (fun n' k hk hk0 ih M5 h5 => ?_) a r1 (Nat.le_refl _)
          · obtain ⟨n2, hn2⟩ := key2
            exact ⟨n2, hn2 M4 (by rw [Nat.sub_self]; exact h4)⟩
          · unfold L_X4_next_152; unfold B_X4_next_152
            refine oGetI.i h5.obj rfl (oIs.i h5.obj (S_here h5 hn e15 (by omega) (S_isIn (lo := 48) (hi := 57) ?_)))
            have e2 : inR (hereB B n e) 48 57 = false := by
              unfold hereB
              by_cases c2 : e < n
              · rw [if_pos c2]; exact r4 c2
              · rw [if_neg c2]; decide
            rw [e2]
            refine oIf.n (by decide) (oGetI.i h5.obj rfl (oGetI.i h5.obj rfl ?_))
            have e3 : nI e - nI a = nI (e - a) := nI_sub r1
            show oIf (nI e - nI a ≤ 3) _ _
            rw [e3]
            by_cases c3 : e - a ≤ 3
            · rw [if_pos c3] at hQ
              refine oIf.y (nI_le (b := 3) c3 (by decide)) (pt_18 h5 fun M6 h6 => ?_)
              rw [pI_18] at h6
              exact hQ M6 h6
            · rw [if_neg c3] at hQ
              refine oIf.n (nI_ge (a := 3) (by omega) (by omega)) (pt_18 h5 fun M6 h6 => ?_)
              rw [pI_18] at h6
              exact hQ M6 h6
          · unfold L_X4_next_152; unfold B_X4_next_152
            refine oGetI.i h5.obj rfl (oIs.i h5.obj (S_here h5 hn e15 (by omega) (S_isIn (lo := 48) (hi := 57) ?_)))
            have e1k : hereB B n k = chB B k := by unfold hereB; rw [if_pos (by omega)]
            have e2 : inR (hereB B n k) 48 57 = true := by rw [e1k]; exact r3 k hk0 hk
            rw [e2]
            refine oIf.y rfl (oGetI.i h5.obj rfl (oGetI.i h5.obj rfl ?_))
            have e3 : nI k - nI a = nI (k - a) := nI_sub hk0
            have ev : valB B a (k + 1 - a) = if k - a < 3 then (10 * valB B a (k - a) + chB B (a + (k - a))) - 48 else valB B a (k - a) := by
              rw [show k + 1 - a = (k - a) + 1 by omega]; rfl
            rw [show a + (k - a) = k by omega] at ev
            have fin : ∀ M6, TW G M0 M6 t f (pI i (k, a, k0, w0, valB B a (k + 1 - a), c0, o0)) S D N A T V H l B O → B_X4_next_209 G (L_X4_next_152 G Q n') Q t M6 := fun M6 h6 => by
              refine oGetI.i h6.obj rfl (pt_16 h6 fun M7 h7 => ?_)
              have h7' : TW G M0 M7 t f (upd (pI i (k, a, k0, w0, valB B a (k + 1 - a), c0, o0)) 16 (nI k + 1)) S D N A T V H l B O := h7
              rw [nI_1, pI_16] at h7'
              exact ih (by omega) M7 h7'
            show oIf (3 ≤ nI k - nI a) _ _
            rw [e3]
            by_cases c3 : k - a < 3
            · rw [if_pos c3] at ev
              refine oIf.n (nI_ge (b := 3) c3 (by decide)) (oGetI.i h5.obj rfl (oGetI.i h5.obj rfl (oIs.i h5.obj (S_here h5 hn e15 (by omega) (pt_20 h5 fun M6 h6 => ?_)))))
              rw [e1k] at h6
              have h6' : TW G M0 M6 t f (upd (pI i (k, a, k0, w0, valB B a (k - a), c0, o0)) 20 (10 * valB B a (k - a) + chB B k - 48)) S D N A T V H l B O := h6
              rw [pI_20, ← ev] at h6'
              exact fin M6 h6'
            · rw [if_neg c3] at ev
              refine oIf.y (nI_le (a := 3) (by omega) (by omega)) (fin M5 ?_)
              rw [ev]; exact h5
        · rw [if_neg (by rw [show dgB B a = false from cd]; decide)] at hQ
          refine oGetI.i h3.obj rfl (pt_16 h3 fun M4 h4 => ?_)
          have h4' : TW G M0 M4 t f (upd (pI i (a, a, k0, w0, v0, c0, o0)) 16 (nI a + 1)) S D N A T V H l B O := h4
          rw [nI_1, pI_16] at h4'
          refine oIf.c (fun c5 => pt_18 h4' fun M5 h5 => ?_) (fun c5 => pt_18 h4' fun M5 h5 => ?_)
          · rw [if_pos c5] at hQ
            rw [pI_18] at h5
            exact hQ M5 h5
          · rw [if_neg c5] at hQ
            rw [pI_18] at h5
            exact hQ M5 h5
  · unfold L_X4_next_0; unfold B_X4_next_0
    have e1k : hereB B n k = chB B k := by unfold hereB; rw [if_pos (by omega)]
    have hwk := q3 k hk0 hk
    have fin : B_X4_next_26 G (L_X4_next_0 G Q n') Q t M2 := by
      refine oGetI.i h2.obj rfl (pt_16 h2 fun M3 h3 => ?_)
      have h3' : TW G M0 M3 t f (upd (pI i (k, b0, k0, w0, v0, c0, o0)) 16 (nI k + 1)) S D N A T V H l B O := h3
      rw [nI_1, pI_16] at h3'
      exact ih (by omega) M3 h3'
    refine oGetI.i h2.obj rfl (oIs.i h2.obj (S_here h2 hn e15 (by omega) ?_))
    rw [e1k]
    refine oIf.c (fun _ => fin) (fun c => oGetI.i h2.obj rfl (oIs.i h2.obj (S_here h2 hn e15 (by omega) ?_)))
    rw [e1k]
    refine oIf.y ?_ fin
    unfold wsB at hwk
    simp only [Bool.or_eq_true, decide_eq_true_eq] at hwk
    rcases hwk with x | x
    · exact absurd x c
    · exact x
end TW11
