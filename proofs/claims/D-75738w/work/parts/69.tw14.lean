set_option maxRecDepth 100000
/-! STAGE 2, the twin: a whole text is read; a name is found -/
def layL (n : Nat) (g r : Nat → Int64) : Nat → Int64 := fun j => if j < n then g j else r j
theorem layL_0 (g r : Nat → Int64) : layL 0 g r = r := by funext j; unfold layL; rw [if_neg (by omega)]
theorem layL_s (n : Nat) (g r : Nat → Int64) : vp_updL (layL n g r) n (g n) = layL (n + 1) g r := by
  funext j; simp only [layL, vp_updL]
  by_cases e : j = n
  · subst e; rw [if_pos rfl, if_pos (by omega)]
  · rw [if_neg e]
    by_cases h : j < n
    · rw [if_pos h, if_pos (by omega)]
    · rw [if_neg h, if_neg (by omega)]
theorem sl_sl (l : Nat → Nat → Int64) (k : Nat) (r s : Nat → Int64) : sl (sl l k r) k s = sl l k s := by
  funext j; unfold sl; split <;> rfl
def clrD (D : Rw) : Rw := lay 114 6 (fun k => 10 * (nI k + 1)) (upd (upd (upd (lay 0 130 zeroR D) 111 30) 112 24) 113 5)
def tdN (S N : Rw) : Rw := booksF S (lay 5 6 (fun k => S (3 + k)) (lay 0 1435 zeroR N))
def tdL (l : Nat → Nat → Int64) : Nat → Nat → Int64 := sl (sl (sl l 10 (layL 6 (l 23) (l 10))) 11 (layL 12 (l 24) (l 11))) 12 (layL 16 (l 25) (l 12))
section TW14
variable {G : wG} {M0 M : wM} {t : Nat} {f : Nat → Nat} {i S D N A T V H : Nat → Int32} {l : Nat → Nat → Int64} {B O : Nat → Int32} {p : PS} {n : Nat}
theorem S_clears (h : TW G M0 M t f i S D N A T V H l B O) {Q : wM → Prop} (hQ : ∀ M1, TW G M0 M1 t f i S (clrD D) N A T V H l B O → Q M1) : P_X4_clears G t M Q := by
  have key := st_loop (F := fun n k => ∀ M1, TW G M0 M1 t f i S (lay 0 k zeroR D) N A T V H l B O → L_X4_clears_2 G Q n t (nI k) M1) (N := 130) (fun n M1 h1 => ?_) (fun n k hk ih M1 h1 => ?_) 0 (Nat.zero_le _)
  · obtain ⟨n, hn⟩ := key
    exact ⟨n, hn M (by rw [lay_0]; exact h)⟩
  · unfold L_X4_clears_2; unfold B_X4_clears_2
    refine oIf.y (by decide) (oGetA.i h1.obj rfl (st_dr_e h1 (j := 111) rfl (by decide) fun M2 h2 => oGetA.i h2.obj rfl (st_dr_e h2 (j := 112) rfl (by decide) fun M3 h3 => oGetA.i h3.obj rfl (st_dr_e h3 (j := 113) rfl (by decide) fun M4 h4 => ?_))))
    unfold clrD at hQ
    generalize upd (upd (upd (lay 0 130 zeroR D) 111 30) 112 24) 113 5 = E at *
    have key2 := st_loop (F := fun n k => ∀ M5, TW G M0 M5 t f i S (lay 114 k (fun k => 10 * (nI k + 1)) E) N A T V H l B O → L_X4_clears_50 G Q n t (nI k) M5) (N := 6) (fun n M5 h5 => ?_) (fun n k hk ih M5 h5 => ?_) 0 (Nat.zero_le _)
    · obtain ⟨n, hn⟩ := key2
      exact ⟨n, hn M4 (by rw [lay_0]; exact h4)⟩
    · unfold L_X4_clears_50; unfold B_X4_clears_50
      exact oIf.y (by decide) (hQ M5 h5)
    · unfold L_X4_clears_50; unfold B_X4_clears_50
      refine oIf.n (nI_ge hk (by decide)) (oGetA.i h5.obj rfl (st_dr_c h5 (c := 114) rfl (by omega) fun M6 h6 => ?_))
      rw [lay_s 114 k (fun k => 10 * (nI k + 1)) E] at h6
      rw [nI_1]
      exact ih M6 h6
  · unfold L_X4_clears_2; unfold B_X4_clears_2
    refine oIf.n (nI_ge hk (by decide)) (oGetA.i h1.obj rfl (st_dr_e h1 rfl hk fun M2 h2 => ?_))
    have := lay0_s k zeroR D
    rw [show zeroR k = 0 from rfl] at this
    rw [this] at h2
    rw [nI_1]
    exact ih M2 h2
theorem S_takesDraft (h : TW G M0 M t f i S D N A T V H l B O) {Q : wM → Prop} (hQ : ∀ M1, TW G M0 M1 t f (upd (upd i 8 0) 9 0) (lay 0 130 D S) D (tdN (lay 0 130 D S) N) A T V H (tdL l) B O → Q M1) : P_X4_takesDraft G t M Q := by
  have key := st_loop (F := fun n k => ∀ M1, TW G M0 M1 t f i (lay 0 k D S) D N A T V H l B O → L_X4_takesDraft_2 G Q n t (nI k) M1) (N := 130) (fun n M1 h1 => ?_) (fun n k hk ih M1 h1 => ?_) 0 (Nat.zero_le _)
  · obtain ⟨n, hn⟩ := key
    exact ⟨n, hn M (by rw [lay_0]; exact h)⟩
  · unfold L_X4_takesDraft_2; unfold B_X4_takesDraft_2
    refine oIf.y (by decide) ?_
    unfold tdN tdL at hQ
    generalize lay 0 130 D S = S1 at *
    have k29 := st_loop (F := fun n k => ∀ M2, TW G M0 M2 t f i S1 D N A T V H (sl l 10 (layL k (l 23) (l 10))) B O → L_X4_takesDraft_29 G Q n t (nI k) M2) (N := 6) (fun n M2 h2 => ?_) (fun n k hk ih M2 h2 => ?_) 0 (Nat.zero_le _)
    · obtain ⟨n, hn⟩ := k29
      exact ⟨n, hn M1 (by rw [layL_0, sl_id]; exact h1)⟩
    · unfold L_X4_takesDraft_29; unfold B_X4_takesDraft_29
      refine oIf.y (by decide) ?_
      generalize el2 : sl l 10 (layL 6 (l 23) (l 10)) = l2 at *
      have g1 : l2 24 = l 24 := by rw [← el2]; rfl
      have g2 : l2 11 = l 11 := by rw [← el2]; rfl
      have g3 : l2 25 = l 25 := by rw [← el2]; rfl
      have g4 : l2 12 = l 12 := by rw [← el2]; rfl
      have k55 := st_loop (F := fun n k => ∀ M3, TW G M0 M3 t f i S1 D N A T V H (sl l2 11 (layL k (l 24) (l 11))) B O → L_X4_takesDraft_55 G Q n t (nI k) M3) (N := 12) (fun n M3 h3 => ?_) (fun n k hk ih M3 h3 => ?_) 0 (Nat.zero_le _)
      · obtain ⟨n, hn⟩ := k55
        exact ⟨n, hn M2 (by rw [layL_0, ← g2, sl_id]; exact h2)⟩
      · unfold L_X4_takesDraft_55; unfold B_X4_takesDraft_55
        refine oIf.y (by decide) ?_
        generalize el3 : sl l2 11 (layL 12 (l 24) (l 11)) = l3 at *
        have g5 : l3 25 = l 25 := by rw [← el3, ← g3]; rfl
        have g6 : l3 12 = l 12 := by rw [← el3, ← g4]; rfl
        have k81 := st_loop (F := fun n k => ∀ M4, TW G M0 M4 t f i S1 D N A T V H (sl l3 12 (layL k (l 25) (l 12))) B O → L_X4_takesDraft_81 G Q n t (nI k) M4) (N := 16) (fun n M4 h4 => ?_) (fun n k hk ih M4 h4 => ?_) 0 (Nat.zero_le _)
        · obtain ⟨n, hn⟩ := k81
          exact ⟨n, hn M3 (by rw [layL_0, ← g6, sl_id]; exact h3)⟩
        · unfold L_X4_takesDraft_81; unfold B_X4_takesDraft_81
          refine oIf.y (by decide) ?_
          have k107 := st_loop (F := fun n k => ∀ M5, TW G M0 M5 t f i S1 D (lay 0 k zeroR N) A T V H (sl l3 12 (layL 16 (l 25) (l 12))) B O → L_X4_takesDraft_107 G Q n t (nI k) M5) (N := 1435) (fun n M5 h5 => ?_) (fun n k hk ih M5 h5 => ?_) 0 (Nat.zero_le _)
          · obtain ⟨n, hn⟩ := k107
            exact ⟨n, hn M4 (by rw [lay_0]; exact h4)⟩
          · unfold L_X4_takesDraft_107; unfold B_X4_takesDraft_107
            refine oIf.y (by decide) ?_
            have k129 := st_loop (F := fun n k => ∀ M6, TW G M0 M6 t f i S1 D (lay 5 k (fun k => S1 (3 + k)) (lay 0 1435 zeroR N)) A T V H (sl l3 12 (layL 16 (l 25) (l 12))) B O → L_X4_takesDraft_129 G Q n t (nI k) M6) (N := 6) (fun n M6 h6 => ?_) (fun n k hk ih M6 h6 => ?_) 0 (Nat.zero_le _)
            · obtain ⟨n, hn⟩ := k129
              exact ⟨n, hn M5 (by rw [lay_0]; exact h5)⟩
            · unfold L_X4_takesDraft_129; unfold B_X4_takesDraft_129
              refine oIf.y (by decide) (oIs.i h6.obj (S_laysBooks h6 fun M7 h7 => pt_8 h7 fun M8 h8 => pt_9 h8 fun M9 h9 => ?_))
              exact hQ M9 h9
            · unfold L_X4_takesDraft_129; unfold B_X4_takesDraft_129
              refine oIf.n (nI_ge hk (by decide)) (oGetA.i h6.obj rfl (oGetA.i h6.obj rfl (oIald.c (c := 3) rfl h6.set (by omega) (by decide) (st_now_c h6 (c := 5) rfl (by omega) fun M7 h7 => ?_))))
              rw [lay_s 5 k (fun k => S1 (3 + k)) (lay 0 1435 zeroR N)] at h7
              rw [nI_1]
              exact ih M7 h7
          · unfold L_X4_takesDraft_107; unfold B_X4_takesDraft_107
            refine oIf.n (nI_ge hk (by decide)) (oGetA.i h5.obj rfl (st_now_e h5 rfl hk fun M6 h6 => ?_))
            have := lay0_s k zeroR N
            rw [show zeroR k = 0 from rfl] at this
            rw [this] at h6
            rw [nI_1]
            exact ih M6 h6
        · unfold L_X4_takesDraft_81; unfold B_X4_takesDraft_81
          refine oIf.n (nI_ge hk (by decide)) (oGetA.i h4.obj rfl (oGetA.i h4.obj rfl (oLald.e rfl h4.l25 hk (by decide) (st_l12 h4 rfl hk fun M5 h5 => ?_))))
          have e1 : sl l3 12 (layL k (l 25) (l 12)) 25 = l 25 := g5
          have e2 : sl l3 12 (layL k (l 25) (l 12)) 12 = layL k (l 25) (l 12) := rfl
          rw [sl_sl, e1, e2, layL_s] at h5
          rw [nI_1]
          exact ih M5 h5
      · unfold L_X4_takesDraft_55; unfold B_X4_takesDraft_55
        refine oIf.n (nI_ge hk (by decide)) (oGetA.i h3.obj rfl (oGetA.i h3.obj rfl (oLald.e rfl h3.l24 hk (by decide) (st_l11 h3 rfl hk fun M5 h5 => ?_))))
        have e1 : sl l2 11 (layL k (l 24) (l 11)) 24 = l 24 := g1
        have e2 : sl l2 11 (layL k (l 24) (l 11)) 11 = layL k (l 24) (l 11) := rfl
        rw [sl_sl, e1, e2, layL_s] at h5
        rw [nI_1]
        exact ih M5 h5
    · unfold L_X4_takesDraft_29; unfold B_X4_takesDraft_29
      refine oIf.n (nI_ge hk (by decide)) (oGetA.i h2.obj rfl (oGetA.i h2.obj rfl (oLald.e rfl h2.l23 hk (by decide) (st_l10 h2 rfl hk fun M5 h5 => ?_))))
      have e1 : sl l 10 (layL k (l 23) (l 10)) 23 = l 23 := rfl
      have e2 : sl l 10 (layL k (l 23) (l 10)) 10 = layL k (l 23) (l 10) := rfl
      rw [sl_sl, e1, e2, layL_s] at h5
      rw [nI_1]
      exact ih M5 h5
  · unfold L_X4_takesDraft_2; unfold B_X4_takesDraft_2
    refine oIf.n (nI_ge hk (by decide)) (oGetA.i h1.obj rfl (oGetA.i h1.obj rfl (oIald.e rfl h1.dr hk (by decide) (st_set_e h1 rfl hk fun M2 h2 => ?_))))
    rw [lay0_s] at h2
    rw [nI_1]
    exact ih M2 h2
end TW14
