set_option maxRecDepth 100000
/-! STAGE 2, component: next to expire, rule, totals, shares -/
section C15
variable {G : wG} {l : Nat → Nat → Int64} {M : wM} {ow : Nat → Nat} {τ : Nat → Nat} {a bk : Nat} {y : Nat → Nat → Nat} {S N : Rw}
theorem nx_i {S N : Rw} {z : Int32} : ∀ k, k ≤ np N → (fo (nxS S N z) (-1) k = -1 ∨ ∃ q, q < np N ∧ fo (nxS S N z) (-1) k = nI q) :=
  fo_ind (I := fun b => b = -1 ∨ ∃ q, q < np N ∧ b = nI q) (.inl rfl) fun k b hk hb => by
    unfold nxS; split
    · exact .inr ⟨k, hk, rfl⟩
    · exact hb
theorem C_nextToExpire (ho : OF M a bk) (h : BR G l M ow τ bk y S N) (hg : OK S N) {z : Int32} {b : Nat} (hb : 30 ≤ b) {Q : Int32 → wM → Prop} {Xp : String → Nat → wM → Prop} (hQ : AnsI M ow (r_next S N z) Q Xp) : P_X1_nextToExpire G a z b M Q Xp := by
  have hbd := hg.b
  unfold r_next at hQ
  refine ho.is ⟨7, by omega, C_checkZone ho h hg (Nat.le_refl _) (fun k hk ek c => ?_) (fun c q => ⟨rfl, ?_⟩)⟩
  · rw [if_pos c] at hQ
    have hQ := hQ.1 rfl M ow (Mv.rf (by decide))
    clear ek
    refine st_loop (F := fun n k => L_X1_nextToExpire_9 G Q Xp n a z (fo (nxS S N z) (-1) k) (nI k) M (b - 7)) (N := np N) (fun n => ?_) (fun n k hk ih => ?_) 0 (Nat.zero_le _)
    · unfold L_X1_nextToExpire_9; unfold B_X1_nextToExpire_9
      exact ho.g (oGetA.i h.bk rfl (isA h.pl (E_size h.pl (oIf.y (nI_le (Nat.le_refl _) (by omega)) hQ))))
    · unfold L_X1_nextToExpire_9; unfold B_X1_nextToExpire_9
      have hb := nx_i (S := S) (N := N) (z := z) k (Nat.le_of_lt hk)
      have e0 : fo (nxS S N z) (-1) (k + 1) = nxS S N z k (fo (nxS S N z) (-1) k) := rfl
      rw [e0] at ih
      generalize fo (nxS S N z) (-1) k = d at *
      unfold nxS at ih
      have no : ¬ (zP S N k = z ∧ pP N k 2 = 2 ∧ (d = -1 ∨ pP N k 4 < pP N d.toNatClampNeg 4)) → B_X1_nextToExpire_95 G (L_X1_nextToExpire_9 G Q Xp n) Q Xp a z d (nI k) M (b - 7) := fun e => by
        rw [if_neg e] at ih
        unfold B_X1_nextToExpire_95; rw [nI_1]; exact ih
      have yes : (zP S N k = z ∧ pP N k 2 = 2 ∧ (d = -1 ∨ pP N k 4 < pP N d.toNatClampNeg 4)) → B_X1_nextToExpire_93 G (L_X1_nextToExpire_9 G Q Xp n) Q Xp a z (nI k) M (b - 7) := fun e => by
        rw [if_pos e] at ih
        unfold B_X1_nextToExpire_93 B_X1_nextToExpire_95; rw [nI_1]; exact ih
      refine ho.g (oGetA.i h.bk rfl (isA h.pl (E_size h.pl (oIf.n (nI_ge hk (by omega)) (ho.g (oGetA.i h.bk rfl (isA h.pl (E_get h.pl hk (kP h hk (oRef.s (gP2 h hk ?_)))))))))))
      refine oIf.c (fun c1 => gP4 h hk (oIf.c (fun c2 => oIf.c (fun c3 => yes ⟨c1, c2, .inl c3⟩) (fun c3 => ?_)) (fun c2 => no fun e => c2 e.2.1))) (fun c1 => no fun e => c1 e.1)
      rcases hb with hb | ⟨q, hq, eq⟩
      · exact absurd hb c3
      rw [eq, nI_clamp (by omega)] at yes no
      rw [eq]
      refine gP5 h hk (ho.g (oGetA.i h.bk rfl (isA h.pl (E_get h.pl hq (kP h hq (oRef.s (gP5 h hq (oIf.c (fun c4 => no ?_) (fun c4 => yes ⟨c1, c2, .inr (Int32.not_le.mp c4)⟩)))))))))
      rintro ⟨-, -, e | e⟩
      · exact nI_neg (by omega) e
      · exact Int32.not_lt.mpr c4 e
  · rw [if_neg (by rw [c]; decide)] at hQ
    exact hQ.2 (by decide) q
/-- two grounds to refuse: 1 and 2 -/
def AnsIA (M : wM) (ow : Nat → Nat) (r : Int32 × Int32) (Q : Int32 → wM → Prop) (Xp : String → Nat → wM → Prop) : Prop := (r.1 = 0 → ∀ M1 ow1, Mv [1] M ow M1 ow1 → Q r.2 M1) ∧ (r.1 = 1 → ∀ q, Xp eIdx q M) ∧ (r.1 = 2 → ∀ q, Xp eArg q M)
theorem C_checkPlate {z : Int32} {bq : Nat} (hb : 7 ≤ bq) {Q : wM → Prop} {Xp : String → Nat → wM → Prop} (h1 : inR z 1 9999 = true → Q M) (h2 : inR z 1 9999 = false → ∀ q, Xp eArg q M) : P_X1_checkPlate G z bq M Q Xp :=
  S_inR ⟨7, hb, C_ckA (Nat.le_refl _) h1 (fun c q => ⟨rfl, h2 c q⟩)⟩
theorem C_ruleOf (ho : OF M a bk) (h : BR G l M ow τ bk y S N) (hg : OK S N) (hv : VB N) {x s : Int32} {b : Nat} (hb : 30 ≤ b) {Q : Int32 → wM → Prop} {Xp : String → Nat → wM → Prop} (hQ : AnsIA M ow (r_rule S N x s) Q Xp) : P_X1_rule G a x s b M Q Xp := by
  have hbd := hg.b
  unfold r_rule at hQ
  refine ho.is ⟨7, by omega, C_checkStreet ho h hg (Nat.le_refl _) (fun k hk ek c => ?_) (fun c q => ⟨rfl, ?_⟩)⟩
  · rw [if_pos c] at hQ
    refine ⟨7, by omega, C_checkPlate (Nat.le_refl _) (fun c2 => ?_) (fun c2 q => ⟨rfl, ?_⟩)⟩
    · rw [if_pos c2] at hQ
      have hQ := hQ.1 rfl M ow (Mv.rf (by decide))
      rw [ek, nI_clamp (by omega)] at hQ
      rw [ek]
      exact ho.g (oIs.i h.bk (C_rule h hg hv hk hQ))
    · rw [if_neg (by rw [c2]; decide)] at hQ
      exact hQ.2.2 rfl q
  · rw [if_neg (by rw [c]; decide)] at hQ
    exact hQ.2.1 rfl q
theorem C_total (ho : OF M a bk) (h : BR G l M ow τ bk y S N) (hi : I1 τ) (hg : OK S N) {w : Int32} {b : Nat} (hb : 30 ≤ b) {Q : Int32 → wM → Prop} {Xp : String → Nat → wM → Prop} (hQ : AnsA M ow (r_total S N w) Q Xp) : P_X1_total G a w b M Q Xp := by
  have hbd := hg.b
  unfold r_total at hQ
  refine S_inR ⟨7, by omega, C_ckA (Nat.le_refl _) (fun c => ?_) (fun c q => ⟨rfl, ?_⟩)⟩
  · rw [if_pos c] at hQ
    have hQ := hQ.1 rfl
    have hl := h.fl
    obtain ⟨mc, hl1⟩ := h.fl
    refine ho.g (oGetA.i h.bk rfl (isA hl ⟨5, by omega, S_aliter hl1 (Nat.le_refl _) 1 fun it M1 hq e1 hs1 hI1 => ?_⟩))
    have hs1 : Mv [1] M ow M1 (va_up ow it 1) := hs1.mono (by simp) (by decide)
    generalize va_up ow it 1 = ow1 at *
    have key := st_loop (F := fun n k => ∀ M2 ow2 lr b, Mv [1] M ow M2 ow2 → Cl G M2 ow2 1 it (aiC (y 0 4) k lr mc) → L_X1_total_24 G Q Xp n w (fo (totS S N w) 0 k) (some it) M2 b) (N := nf N) (fun n M2 ow2 lr b hs2 hI2 => ?_) (fun n k hk ih M2 ow2 lr b hs2 hI2 => ?_) 0 (Nat.zero_le _)
    · obtain ⟨n, hn⟩ := key
      exact ⟨n, hn M1 ow1 _ _ hs1 hI1⟩
    · unfold L_X1_total_24; unfold B_X1_total_24
      refine oRef.s (oIs.i hI2.1 (S_aihas (hl1.stp hs2 (hi 6 (by decide))) (Nat.le_refl _) hI2.1 ?_))
      rw [decide_eq_false (Nat.lt_irrefl _)]
      exact oIf.n (by decide) (hQ M2 ow2 hs2)
    · unfold L_X1_total_24; unfold B_X1_total_24
      refine oRef.s (oIs.i hI2.1 (S_aihas (hl1.stp hs2 (hi 6 (by decide))) (Nat.le_of_lt hk) hI2.1 ?_))
      rw [decide_eq_true hk]
      refine oIf.y rfl (oIs.i hI2.1 (S_ainext (hl1.stp hs2 (hi 6 (by decide))) hk hI2 (by decide) fun M3 e3 hs3 hI3 => ?_))
      have h3 := h.stp (hs2.tr hs3) hi
      have e0 : fo (totS S N w) 0 (k + 1) = totS S N w k (fo (totS S N w) 0 k) := rfl
      rw [e0] at ih
      generalize fo (totS S N w) 0 k = d at *
      unfold totS at ih
      refine kF h3 hk (oIf.c (fun c1 => ?_) (fun c1 => oRef.s (gF5 h3 hk (oIf.c (fun c2 => ?_) (fun c2 => ?_)))))
      · rw [if_pos (.inl c1)] at ih
        exact oRef.s (gF4 h3 hk (ih M3 ow2 _ _ (hs2.tr hs3) hI3))
      · rw [if_pos (.inr c2)] at ih
        exact oRef.s (gF4 h3 hk (ih M3 ow2 _ _ (hs2.tr hs3) hI3))
      · rw [if_neg (fun e => e.elim c1 c2)] at ih
        exact ih M3 ow2 _ _ (hs2.tr hs3) hI3
  · rw [if_neg (by rw [c]; decide)] at hQ
    exact hQ.2 (by decide) q
theorem C_finesBy (ho : OF M a bk) (h : BR G l M ow τ bk y S N) (hi : I1 τ) (hg : OK S N) {w : Int32} {b : Nat} (hb : 30 ≤ b) {Q : Int32 → wM → Prop} {Xp : String → Nat → wM → Prop} (hQ : AnsA M ow (r_finesBy N w) Q Xp) : P_X1_finesBy G a w b M Q Xp := by
  have hbd := hg.b
  unfold r_finesBy at hQ
  refine ⟨7, by omega, C_checkRule (Nat.le_refl _) (fun c => ?_) (fun c q => ⟨rfl, ?_⟩)⟩
  · rw [if_pos c] at hQ
    have hQ := hQ.1 rfl
    have hl := h.fl
    obtain ⟨mc, hl1⟩ := h.fl
    refine ho.g (oGetA.i h.bk rfl (isA hl ⟨5, by omega, S_aliter hl1 (Nat.le_refl _) 1 fun it M1 hq e1 hs1 hI1 => ?_⟩))
    have hs1 : Mv [1] M ow M1 (va_up ow it 1) := hs1.mono (by simp) (by decide)
    generalize va_up ow it 1 = ow1 at *
    have key := st_loop (F := fun n k => ∀ M2 ow2 lr b, Mv [1] M ow M2 ow2 → Cl G M2 ow2 1 it (aiC (y 0 4) k lr mc) → L_X1_finesBy_19 G Q Xp n w (nI (cnt (fun f => decide (fP N f 3 = w)) k)) (some it) M2 b) (N := nf N) (fun n M2 ow2 lr b hs2 hI2 => ?_) (fun n k hk ih M2 ow2 lr b hs2 hI2 => ?_) 0 (Nat.zero_le _)
    · obtain ⟨n, hn⟩ := key
      exact ⟨n, hn M1 ow1 _ _ hs1 hI1⟩
    · unfold L_X1_finesBy_19; unfold B_X1_finesBy_19
      refine oRef.s (oIs.i hI2.1 (S_aihas (hl1.stp hs2 (hi 6 (by decide))) (Nat.le_refl _) hI2.1 ?_))
      rw [decide_eq_false (Nat.lt_irrefl _)]
      exact oIf.n (by decide) (hQ M2 ow2 hs2)
    · unfold L_X1_finesBy_19; unfold B_X1_finesBy_19
      refine oRef.s (oIs.i hI2.1 (S_aihas (hl1.stp hs2 (hi 6 (by decide))) (Nat.le_of_lt hk) hI2.1 ?_))
      rw [decide_eq_true hk]
      refine oIf.y rfl (oIs.i hI2.1 (S_ainext (hl1.stp hs2 (hi 6 (by decide))) hk hI2 (by decide) fun M3 e3 hs3 hI3 => ?_))
      have h3 := h.stp (hs2.tr hs3) hi
      refine kF h3 hk (oRef.s (gF3 h3 hk (oIf.c (fun c => ?_) (fun c => ?_))))
      · unfold B_X1_finesBy_51; rw [nI_1, cnt_y (p := fun f => decide (fP N f 3 = w)) (by simp [c])]
        exact ih M3 ow2 _ _ (hs2.tr hs3) hI3
      · unfold B_X1_finesBy_51; rw [cnt_n (p := fun f => decide (fP N f 3 = w)) (by simp [c])]
        exact ih M3 ow2 _ _ (hs2.tr hs3) hI3
  · rw [if_neg (by rw [c]; decide)] at hQ
    exact hQ.2 (by decide) q
theorem C_withdrawnShare (ho : OF M a bk) (h : BR G l M ow τ bk y S N) (hi : I1 τ) (hg : OK S N) {b : Nat} (hb : 30 ≤ b) {Q : UInt32 → wM → Prop} (hn : ow a ∉ [1]) (hQ : ∀ M1 ow1, Mv [1] M ow M1 ow1 → Q (shareF N) M1) : P_X1_withdrawnShare G a b M Q := by
  have hbd := hg.b
  have hl := h.fl
  obtain ⟨mc, hl1⟩ := h.fl
  refine ho.g (oGetA.i h.bk rfl (isA hl ⟨5, by omega, S_aliter hl1 (Nat.le_refl _) 1 fun it M1 hq e1 hs1 hI1 => ?_⟩))
  have hs1 : Mv [1] M ow M1 (va_up ow it 1) := hs1.mono (by simp) (by decide)
  generalize va_up ow it 1 = ow1 at *
  have key := st_loop (F := fun n k => ∀ M2 ow2 lr b, Mv [1] M ow M2 ow2 → Cl G M2 ow2 1 it (aiC (y 0 4) k lr mc) → L_X1_withdrawnShare_15 G Q n a (nI (cnt (fun f => decide (fP N f 4 = 1)) k)) (some it) M2 b) (N := nf N) (fun n M2 ow2 lr b hs2 hI2 => ?_) (fun n k hk ih M2 ow2 lr b hs2 hI2 => ?_) 0 (Nat.zero_le _)
  · obtain ⟨n, hn⟩ := key
    exact ⟨n, hn M1 ow1 _ _ hs1 hI1⟩
  · unfold L_X1_withdrawnShare_15; unfold B_X1_withdrawnShare_15
    refine oRef.s (oIs.i hI2.1 (S_aihas (hl1.stp hs2 (hi 6 (by decide))) (Nat.le_refl _) hI2.1 ?_))
    rw [decide_eq_false (Nat.lt_irrefl _)]
    have h2 := h.stp hs2 hi
    have ho2 := ho.stp hs2 hn
    have hQ := hQ M2 ow2 hs2
    unfold shareF at hQ
    obtain ⟨mc2, hl2⟩ := h2.fl
    refine oIf.n (by decide) (ho2.g (oGetA.i h2.bk rfl (hl2.is (S_isEmpty hl2 (oIf.c (fun c => ?_) (fun c => ?_))))))
    · rw [if_pos (of_decide_eq_true c)] at hQ
      exact hQ
    · have c0 : nf N ≠ 0 := fun e => c (decide_eq_true e)
      rw [if_neg c0] at hQ
      exact ho2.g (oGetA.i h2.bk rfl (hl2.is (S_size hl2 ⟨share_ok hbd.2.2.2.1 c0, hQ⟩)))
  · unfold L_X1_withdrawnShare_15; unfold B_X1_withdrawnShare_15
    refine oRef.s (oIs.i hI2.1 (S_aihas (hl1.stp hs2 (hi 6 (by decide))) (Nat.le_of_lt hk) hI2.1 ?_))
    rw [decide_eq_true hk]
    refine oIf.y rfl (oIs.i hI2.1 (S_ainext (hl1.stp hs2 (hi 6 (by decide))) hk hI2 (by decide) fun M3 e3 hs3 hI3 => ?_))
    have h3 := h.stp (hs2.tr hs3) hi
    refine kF h3 hk (oRef.s (gF5 h3 hk (oIf.c (fun c => ?_) (fun c => ?_))))
    · unfold B_X1_withdrawnShare_45; rw [nI_1, cnt_y (p := fun f => decide (fP N f 4 = 1)) (by simp [c])]
      exact ih M3 ow2 _ _ (hs2.tr hs3) hI3
    · unfold B_X1_withdrawnShare_45; rw [cnt_n (p := fun f => decide (fP N f 4 = 1)) (by simp [c])]
      exact ih M3 ow2 _ _ (hs2.tr hs3) hI3
end C15
