set_option maxRecDepth 100000
/-! STAGE 2, component: zone, street, house -/
section C12
variable {G : wG} {l : Nat → Nat → Int64} {M : wM} {ow : Nat → Nat} {τ : Nat → Nat} {a bk : Nat} {y : Nat → Nat → Nat} {S N : Rw}
theorem C_streetsIn (ho : OF M a bk) (h : BR G l M ow τ bk y S N) (hi : I1 τ) (hg : OK S N) {z : Int32} {b : Nat} (hb : 5 ≤ b) {Q : Int32 → wM → Prop} (hQ : ∀ M1 ow1, Mv [1] M ow M1 ow1 → Q (nI (cntS S 27 (ns S) z)) M1) : P_X1_streetsIn G a z b M Q := by
  have hbd := hg.b
  have hl := h.sl
  obtain ⟨mc, hl1⟩ := h.sl
  refine ho.is (C_setup ho h (oRef.s (oGetA.i h.su rfl (isA hl ⟨5, hb, S_aliter hl1 (Nat.le_refl _) 1 fun it M1 hq e1 hs1 hI1 => ?_⟩))))
  have hs1 : Mv [1] M ow M1 (va_up ow it 1) := hs1.mono (by simp) (by decide)
  generalize va_up ow it 1 = ow1 at *
  have key := st_loop (F := fun n k => ∀ M2 ow2 lr b, Mv [1] M ow M2 ow2 → Cl G M2 ow2 1 it (aiC (y 9 1) k lr mc) → L_X1_streetsIn_15 G Q n z (nI (cnt (fun k => decide (S (27 + k) = z)) k)) (some it) M2 b) (N := ns S) (fun n M2 ow2 lr b hs2 hI2 => ?_) (fun n k hk ih M2 ow2 lr b hs2 hI2 => ?_) 0 (Nat.zero_le _)
  · obtain ⟨n, hn⟩ := key
    exact ⟨n, hn M1 ow1 _ _ hs1 hI1⟩
  · unfold L_X1_streetsIn_15; unfold B_X1_streetsIn_15
    refine oRef.s (oIs.i hI2.1 (S_aihas (hl1.stp hs2 (hi 10 (by decide))) (Nat.le_refl _) hI2.1 ?_))
    rw [decide_eq_false (Nat.lt_irrefl _)]
    exact oIf.n (by decide) (hQ M2 ow2 hs2)
  · unfold L_X1_streetsIn_15; unfold B_X1_streetsIn_15
    refine oRef.s (oIs.i hI2.1 (S_aihas (hl1.stp hs2 (hi 10 (by decide))) (Nat.le_of_lt hk) hI2.1 ?_))
    rw [decide_eq_true hk]
    refine oIf.y rfl (oIs.i hI2.1 (S_ainext (hl1.stp hs2 (hi 10 (by decide))) hk hI2 (by decide) fun M3 e3 hs3 hI3 => ?_))
    have h3 := h.stp (hs2.tr hs3) hi
    refine oCast.s (h3.so hk) (oRef.s (oGetI.i (h3.so hk) rfl (oIf.c (fun c => ?_) (fun c => ?_))))
    · unfold B_X1_streetsIn_47; rw [nI_1, cnt_y (p := fun k => decide (S (27 + k) = z)) (by simp [c])]
      exact ih M3 ow2 _ _ (hs2.tr hs3) hI3
    · unfold B_X1_streetsIn_47; rw [cnt_n (p := fun k => decide (S (27 + k) = z)) (by simp [c])]
      exact ih M3 ow2 _ _ (hs2.tr hs3) hI3
theorem C_housesAt (ho : OF M a bk) (h : BR G l M ow τ bk y S N) (hi : I1 τ) (hg : OK S N) {z : Int32} {b : Nat} (hb : 5 ≤ b) {Q : Int32 → wM → Prop} (hQ : ∀ M1 ow1, Mv [1] M ow M1 ow1 → Q (nI (cntS S 63 (nh S) z)) M1) : P_X1_housesAt G a z b M Q := by
  have hbd := hg.b
  have hl := h.hl
  obtain ⟨mc, hl1⟩ := h.hl
  refine ho.is (C_setup ho h (oRef.s (oGetA.i h.su rfl (isA hl ⟨5, hb, S_aliter hl1 (Nat.le_refl _) 1 fun it M1 hq e1 hs1 hI1 => ?_⟩))))
  have hs1 : Mv [1] M ow M1 (va_up ow it 1) := hs1.mono (by simp) (by decide)
  generalize va_up ow it 1 = ow1 at *
  have key := st_loop (F := fun n k => ∀ M2 ow2 lr b, Mv [1] M ow M2 ow2 → Cl G M2 ow2 1 it (aiC (y 9 2) k lr mc) → L_X1_housesAt_15 G Q n z (nI (cnt (fun k => decide (S (63 + k) = z)) k)) (some it) M2 b) (N := nh S) (fun n M2 ow2 lr b hs2 hI2 => ?_) (fun n k hk ih M2 ow2 lr b hs2 hI2 => ?_) 0 (Nat.zero_le _)
  · obtain ⟨n, hn⟩ := key
    exact ⟨n, hn M1 ow1 _ _ hs1 hI1⟩
  · unfold L_X1_housesAt_15; unfold B_X1_housesAt_15
    refine oRef.s (oIs.i hI2.1 (S_aihas (hl1.stp hs2 (hi 10 (by decide))) (Nat.le_refl _) hI2.1 ?_))
    rw [decide_eq_false (Nat.lt_irrefl _)]
    exact oIf.n (by decide) (hQ M2 ow2 hs2)
  · unfold L_X1_housesAt_15; unfold B_X1_housesAt_15
    refine oRef.s (oIs.i hI2.1 (S_aihas (hl1.stp hs2 (hi 10 (by decide))) (Nat.le_of_lt hk) hI2.1 ?_))
    rw [decide_eq_true hk]
    refine oIf.y rfl (oIs.i hI2.1 (S_ainext (hl1.stp hs2 (hi 10 (by decide))) hk hI2 (by decide) fun M3 e3 hs3 hI3 => ?_))
    have h3 := h.stp (hs2.tr hs3) hi
    refine oCast.s (h3.ho hk) (oRef.s (oGetI.i (h3.ho hk) rfl (oIf.c (fun c => ?_) (fun c => ?_))))
    · unfold B_X1_housesAt_47; rw [nI_1, cnt_y (p := fun k => decide (S (63 + k) = z)) (by simp [c])]
      exact ih M3 ow2 _ _ (hs2.tr hs3) hI3
    · unfold B_X1_housesAt_47; rw [cnt_n (p := fun k => decide (S (63 + k) = z)) (by simp [c])]
      exact ih M3 ow2 _ _ (hs2.tr hs3) hI3
/-- what a question is asked for: told and value; a place that is not there -/
def AnsI (M : wM) (ow : Nat → Nat) (r : Int32 × Int32) (Q : Int32 → wM → Prop) (Xp : String → Nat → wM → Prop) : Prop := (r.1 = 0 → ∀ M1 ow1, Mv [1] M ow M1 ow1 → Q r.2 M1) ∧ (r.1 ≠ 0 → ∀ q, Xp eIdx q M)
theorem C_zone (ho : OF M a bk) (h : BR G l M ow τ bk y S N) (hi : I1 τ) (hg : OK S N) {z w : Int32} {b : Nat} (hb : 30 ≤ b) {Q : Int32 → wM → Prop} {Xp : String → Nat → wM → Prop} (hQ : AnsI M ow (r_zone S N z w) Q Xp) : P_X1_zone G a z w b M Q Xp := by
  have hbd := hg.b
  unfold r_zone at hQ
  refine ho.is ⟨7, by omega, C_checkZone ho h hg (Nat.le_refl _) (fun k hk ek c => ?_) (fun c q => ⟨rfl, ?_⟩)⟩
  · rw [if_pos c] at hQ
    refine S_inR ⟨7, by omega, C_ckI (Nat.le_refl _) (fun c2 => ?_) (fun c2 q => ⟨rfl, ?_⟩)⟩
    · rw [if_pos c2] at hQ
      have hQ := hQ.1 rfl
      obtain ⟨j, hj, ej⟩ := inR_n (n := 7) (by decide) c2
      rw [ek, nI_clamp (by omega)] at hQ
      rw [ek]
      have rf := Mv.rf (M := M) (ow := ow) (T := [1]) (by decide)
      refine ho.is (C_setup ho h (oRef.s (oGetA.i h.su rfl (isA h.zl (E_get h.zl hk (oCast.s (h.zo hk) ?_))))))
      unfold v_zone at hQ
      refine oIf.c (fun c => ?_) (fun c => ?_)
      · rw [if_pos c] at hQ; exact ho.g (oGetA.i h.bk rfl (C_ldL h hg hk (hQ M ow rf)))
      rw [if_neg c] at hQ
      refine oIf.c (fun c => ?_) (fun c => ?_)
      · rw [if_pos c] at hQ; exact oRef.s (oGetI.i (h.zo hk) rfl (hQ M ow rf))
      rw [if_neg c] at hQ
      refine oIf.c (fun c => ?_) (fun c => ?_)
      · rw [if_pos c] at hQ; exact oRef.s (oGetI.i (h.zo hk) rfl (hQ M ow rf))
      rw [if_neg c] at hQ
      refine oIf.c (fun c => ?_) (fun c => ?_)
      · rw [if_pos c] at hQ; exact oRef.s (oGetI.i (h.zo hk) rfl (hQ M ow rf))
      rw [if_neg c] at hQ
      refine oIf.c (fun c => ?_) (fun c => ?_)
      · rw [if_pos c] at hQ; exact ho.g (oIs.i h.bk (C_inZone h hg (hQ M ow rf)))
      rw [if_neg c] at hQ
      refine oIf.c (fun c => ?_) (fun c => ?_)
      · rw [if_pos c] at hQ; exact ho.g (oIs.i h.bk (C_inZone h hg (hQ M ow rf)))
      rw [if_neg c] at hQ
      refine oIf.c (fun c => ?_) (fun c => ?_)
      · rw [if_pos c] at hQ; exact ho.g (oIs.i h.bk (C_inZone h hg (hQ M ow rf)))
      rw [if_neg c] at hQ
      exact ho.is ⟨5, by omega, C_streetsIn ho h hi hg (Nat.le_refl _) hQ⟩
    · rw [if_neg (by rw [c2]; decide)] at hQ
      exact hQ.2 (by decide) q
  · rw [if_neg (by rw [c]; decide)] at hQ
    exact hQ.2 (by decide) q
end C12
