set_option maxRecDepth 100000
/-! STAGE 2, component: cars, one after the other -/
def I1 (τ : Nat → Nat) : Prop := ∀ k, k ≤ 10 → τ k ∉ [1]
theorem i1F : I1 tF := fun _ _ => (by decide : (0 : Nat) ∉ [1])
theorem i1L : I1 tL := fun k _ => by unfold tL; rw [List.mem_singleton]; split <;> omega
section COMP8
variable {G : wG} {l : Nat → Nat → Int64} {M : wM} {ow : Nat → Nat} {τ : Nat → Nat} {a : Nat} {y : Nat → Nat → Nat} {S N : Rw}
/-- a walk over the cars: what is true ahead of each of them -/
theorem C_cars (h : BR G l M ow τ a y S N) (hi : I1 τ) (hg : OK S N) {b : Nat} (hb : 6 ≤ b) {Q : Option Nat → wM → Prop} (hQ : ∀ it mc M1 ow1, Mv [1] M ow M1 ow1 → LL G M1 ow1 (τ 5) (y 0 3) (nc N) (y 3) (y 4) mc → Cl G M1 ow1 1 it (liC (y 3) (nc N) (y 0 3) 0 mc) → Q (some it) M1) : P_J7_iterator_J8 G (y 0 3) b M Q := by
  obtain ⟨mc, hll⟩ := h.cl
  exact S_iterator hll hb 1 fun it M1 hit e hs hI => hQ it mc M1 _ (hs.mono (by simp) (by decide)) (hll.stp hs (by simp)) hI
theorem C_carOf (h : BR G l M ow τ a y S N) (hi : I1 τ) (hg : OK S N) {x : Int32} {b : Nat} (hb : 6 ≤ b) {Q : Option Nat → wM → Prop} (hQ : ∀ M1 ow1, Mv [1] M ow M1 ow1 → Q (if carOf N x = -1 then none else some (y 4 (carOf N x).toNatClampNeg)) M1) : P_X2_carOf G a x b M Q := by
  have hbd := hg.b
  refine oGetA.i h.bk rfl (isL h.cl ⟨6, hb, C_cars h hi hg (Nat.le_refl _) fun it mc M1 ow1 hs1 hl1 hI1 => ?_⟩)
  have key := st_loopP (F := fun n k => ∀ M2 ow2 b, Mv [1] M1 ow1 M2 ow2 → Cl G M2 ow2 1 it (liC (y 3) (nc N) (y 0 3) k mc) → L_X2_carOf_8 G Q n x (some it) M2 b) (P := fun k => ∀ M1 ow1, Mv [1] M ow M1 ow1 → Q (if srch (fun c => decide (cP N c 0 = x)) (nc N - k) k = -1 then none else some (y 4 (srch (fun c => decide (cP N c 0 = x)) (nc N - k) k).toNatClampNeg)) M1) (N := nc N) (fun n hq M2 ow2 b hs2 hI2 => ?_) (fun n k hk hq ih M2 ow2 b hs2 hI2 => ?_) 0 (Nat.zero_le _) hQ
  · obtain ⟨n, hn⟩ := key
    exact ⟨n, hn M1 ow1 _ (Mv.rf (by decide)) hI1⟩
  · unfold L_X2_carOf_8; unfold B_X2_carOf_8
    refine oRef.s (oIs.i hI2.1 (S_lihas (hl1.stp hs2 (hi 5 (by decide))) (Nat.le_refl _) hI2.1 ?_))
    rw [decide_eq_false (Nat.lt_irrefl _)]
    have hq := hq M2 ow2 (hs1.tr hs2)
    rw [Nat.sub_self] at hq
    exact oIf.n (by decide) hq
  · unfold L_X2_carOf_8; unfold B_X2_carOf_8
    refine oRef.s (oIs.i hI2.1 (S_lihas (hl1.stp hs2 (hi 5 (by decide))) (Nat.le_of_lt hk) hI2.1 ?_))
    rw [decide_eq_true hk]
    refine oIf.y rfl (oIs.i hI2.1 (S_linext (hl1.stp hs2 (hi 5 (by decide))) hk hI2 (by decide) fun M3 e3 hs3 hI3 => ?_))
    have h3 := h.stp ((hs1.tr hs2).tr hs3) hi
    refine kC h3 hk (oRef.s (gC0 h3 hk (oIf.c (fun c => ?_) (fun c => ?_))))
    · have hq := hq M3 ow2 ((hs1.tr hs2).tr hs3)
      rw [srch_y hk (by simp [c]), if_neg (nI_neg (by omega)), nI_clamp (by omega)] at hq
      exact hq
    · exact ih (fun M4 ow4 hs4 => by have := hq M4 ow4 hs4; rw [srch_n hk (by simp [c])] at this; exact this) M3 ow2 _ (hs2.tr hs3) hI3
theorem C_parkedIn (h : BR G l M ow τ a y S N) (hi : I1 τ) (hg : OK S N) {z : Int32} {b : Nat} (hb : 6 ≤ b) {Q : Int32 → wM → Prop} (hQ : ∀ M1 ow1, Mv [1] M ow M1 ow1 → Q (nI (carsIn N z)) M1) : P_X2_parkedIn G a z b M Q := by
  have hbd := hg.b
  refine oGetA.i h.bk rfl (isL h.cl ⟨6, hb, C_cars h hi hg (Nat.le_refl _) fun it mc M1 ow1 hs1 hl1 hI1 => ?_⟩)
  have key := st_loop (F := fun n k => ∀ M2 ow2 b, Mv [1] M1 ow1 M2 ow2 → Cl G M2 ow2 1 it (liC (y 3) (nc N) (y 0 3) k mc) → L_X2_parkedIn_10 G Q n z (nI (cnt (fun c => decide (cP N c 1 = z)) k)) (some it) M2 b) (N := nc N) (fun n M2 ow2 b hs2 hI2 => ?_) (fun n k hk ih M2 ow2 b hs2 hI2 => ?_) 0 (Nat.zero_le _)
  · obtain ⟨n, hn⟩ := key
    exact ⟨n, hn M1 ow1 _ (Mv.rf (by decide)) hI1⟩
  · unfold L_X2_parkedIn_10; unfold B_X2_parkedIn_10
    refine oRef.s (oIs.i hI2.1 (S_lihas (hl1.stp hs2 (hi 5 (by decide))) (Nat.le_refl _) hI2.1 ?_))
    rw [decide_eq_false (Nat.lt_irrefl _)]
    exact oIf.n (by decide) (hQ M2 ow2 (hs1.tr hs2))
  · unfold L_X2_parkedIn_10; unfold B_X2_parkedIn_10
    refine oRef.s (oIs.i hI2.1 (S_lihas (hl1.stp hs2 (hi 5 (by decide))) (Nat.le_of_lt hk) hI2.1 ?_))
    rw [decide_eq_true hk]
    refine oIf.y rfl (oIs.i hI2.1 (S_linext (hl1.stp hs2 (hi 5 (by decide))) hk hI2 (by decide) fun M3 e3 hs3 hI3 => ?_))
    have h3 := h.stp ((hs1.tr hs2).tr hs3) hi
    refine kC h3 hk (oRef.s (gC1 h3 hk (oIf.c (fun c => ?_) (fun c => ?_))))
    · unfold B_X2_parkedIn_42; rw [nI_1, cnt_y (p := fun c => decide (cP N c 1 = z)) (by simp [c])]
      exact ih M3 ow2 _ (hs2.tr hs3) hI3
    · unfold B_X2_parkedIn_42; rw [cnt_n (p := fun c => decide (cP N c 1 = z)) (by simp [c])]
      exact ih M3 ow2 _ (hs2.tr hs3) hI3
theorem C_free (h : BR G l M ow τ a y S N) (hi : I1 τ) (hg : OK S N) {s : Nat} (hs : s < ns S) {b : Nat} (hb : 6 ≤ b) {Q : Int32 → wM → Prop} (hQ : ∀ M1 ow1, Mv [1] M ow M1 ow1 → Q (freeIn S N s) M1) : P_X2_free G a (nI s) b M Q := by
  refine oGetA.i h.bk rfl (oGetA.i h.su rfl (isA h.sl (E_get h.sl hs (kS h hs (oRef.s (gS1 h hs (oIs.i h.bk ⟨b, Nat.le_refl _, ?_⟩)))))))
  exact C_parkedIn h hi hg hb hQ
theorem C_countFines (h : BR G l M ow τ a y S N) (hi : I1 τ) (hg : OK S N) (hv : VB N) (hf : FT N) {z : Int32} {b : Nat} (hb : 6 ≤ b) {Q : Int32 → wM → Prop} (hQ : ∀ M1 ow1, Mv [1] M ow M1 ow1 → Q (wouldF S N z) M1) : P_X2_countFines G a z b M Q := by
  have hbd := hg.b
  refine oGetA.i h.bk rfl (isL h.cl ⟨6, hb, C_cars h hi hg (Nat.le_refl _) fun it mc M1 ow1 hs1 hl1 hI1 => ?_⟩)
  have key := st_loop (F := fun n k => ∀ M2 ow2 b, Mv [1] M1 ow1 M2 ow2 → Cl G M2 ow2 1 it (liC (y 3) (nc N) (y 0 3) k mc) → L_X2_countFines_10 G Q n a z (nI (cnt (qWF S N z) k)) (some it) M2 b) (N := nc N) (fun n M2 ow2 b hs2 hI2 => ?_) (fun n k hk ih M2 ow2 b hs2 hI2 => ?_) 0 (Nat.zero_le _)
  · obtain ⟨n, hn⟩ := key
    exact ⟨n, hn M1 ow1 _ (Mv.rf (by decide)) hI1⟩
  · unfold L_X2_countFines_10; unfold B_X2_countFines_10
    refine oRef.s (oIs.i hI2.1 (S_lihas (hl1.stp hs2 (hi 5 (by decide))) (Nat.le_refl _) hI2.1 ?_))
    rw [decide_eq_false (Nat.lt_irrefl _)]
    have h2 := h.stp (hs1.tr hs2) hi
    refine oIf.n (by decide) (oGetA.i h2.bk rfl (isA h2.fl (E_size h2.fl ?_)))
    have hq := hQ M2 ow2 (hs1.tr hs2)
    unfold wouldF wouldN at hq
    rw [hg.2.2.2.2.1.1] at hq
    by_cases c : nI (cnt (qWF S N z) (nc N)) ≤ 99 - nI (nf N)
    · rw [if_pos c] at hq
      rw [if_neg (Int32.not_lt.mpr c)]
      exact hq
    · rw [if_neg c] at hq
      rw [if_pos (Int32.not_le.mp c)]
      exact hq
  · unfold L_X2_countFines_10; unfold B_X2_countFines_10
    refine oRef.s (oIs.i hI2.1 (S_lihas (hl1.stp hs2 (hi 5 (by decide))) (Nat.le_of_lt hk) hI2.1 ?_))
    rw [decide_eq_true hk]
    refine oIf.y rfl (oIs.i hI2.1 (S_linext (hl1.stp hs2 (hi 5 (by decide))) hk hI2 (by decide) fun M3 e3 hs3 hI3 => ?_))
    have h3 := h.stp ((hs1.tr hs2).tr hs3) hi
    have no : ¬ qWF S N z k = true → B_X2_countFines_51 G (L_X2_countFines_10 G Q n) Q a z (nI (cnt (qWF S N z) k)) it M3 b := fun e => by
      unfold B_X2_countFines_51; rw [cnt_n e]; exact ih M3 ow2 _ (hs2.tr hs3) hI3
    refine kC h3 hk (oRef.s (gC1 h3 hk (oIf.c (fun c => ?_) (fun c => no (by simp [qWF, c])))))
    refine oIs.i h3.bk (C_fineRule h3 hg hv hf hk (oIf.c (fun c2 => no (by simp [qWF, c2])) (fun c2 => ?_)))
    unfold B_X2_countFines_51; rw [nI_1, cnt_y (p := qWF S N z) (by simp [qWF, c, c2])]
    exact ih M3 ow2 _ (hs2.tr hs3) hI3
end COMP8
