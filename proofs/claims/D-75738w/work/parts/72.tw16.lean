set_option maxRecDepth 100000
/-! STAGE 2, the twin: what is printed -/
section TW16
variable {G : wG} {M0 M : wM} {t : Nat} {f : Nat → Nat} {i S D N A T V H : Nat → Int32} {l : Nat → Nat → Int64} {B O : Nat → Int32}
theorem S_says {o : Rw × Nat} (h : TW G M0 M t f (upd i 27 (nI o.2)) S D N A T V H l B o.1) (ho : o.2 < 300) {c : Int32} {Q : wM → Prop} (hQ : ∀ M1, TW G M0 M1 t f (upd i 27 (nI (sayO c o).2)) S D N A T V H l B ((sayO c o).1) → Q M1) : P_X4_says G t c M Q := by
  refine oGetA.i h.obj rfl (oGetI.i h.obj rfl (st_out_e h rfl ho fun M1 h1 => oGetI.i h1.obj rfl (pt_27 h1 fun M2 h2 => hQ M2 ?_)))
  rw [upd_upd] at h2
  have e : upd i 27 (nI o.2) 27 + 1 = nI (o.2 + 1) := nI_1 o.2
  rw [e] at h2
  exact h2
theorem S_saysPermit {o : Rw × Nat} (h : TW G M0 M t f (upd i 27 (nI o.2)) S D N A T V H l B o.1) (ho : o.2 ≤ 236) {c x : Int32} {Q : wM → Prop} (hQ : ∀ M1, TW G M0 M1 t f (upd i 27 (nI (sayP c x o).2)) S D N A T V H l B ((sayP c x o).1) → Q M1) : P_X4_saysPermit G t c x M Q := by
  unfold sayP at hQ
  have fin : ∀ (q : Rw × Nat) (M1 : wM), q.2 ≤ 238 → TW G M0 M1 t f (upd i 27 (nI q.2)) S D N A T V H l B q.1 → (∀ M1, TW G M0 M1 t f (upd i 27 (nI (sayO 10 (sayO (48 + (x - x / 10 * 10)) q)).2)) S D N A T V H l B ((sayO 10 (sayO (48 + (x - x / 10 * 10)) q)).1) → Q M1) → B_X4_saysPermit_22 G Q t x M1 := fun q M1 hq h1 hQ =>
    oIs.i h1.obj (S_says h1 (by omega) fun M2 h2 => oIs.i h2.obj (S_says h2 (by show q.2 + 1 < 300; omega) hQ))
  refine oIs.i h.obj (S_says h (by omega) fun M1 h1 => oIf.c (fun c1 => ?_) (fun c1 => ?_))
  · rw [if_pos c1] at hQ
    exact fin _ M1 (by show o.2 + 1 ≤ 238; omega) h1 hQ
  · rw [if_neg c1] at hQ
    exact oIs.i h1.obj (S_says h1 (by show o.2 + 1 < 300; omega) fun M2 h2 => fin _ M2 (by show o.2 + 1 + 1 ≤ 238; omega) h2 hQ)
theorem S_saysAll {o : Rw × Nat} (h : TW G M0 M t f (upd i 27 (nI o.2)) S D N A T V H l B o.1) (hg : OK S N) {z st c : Int32} (ho : ∀ k, k < np N → qZS S N z st k = true → (fo (allS S N z st c) o k).2 ≤ 236) {Q : wM → Prop} (hQ : ∀ M1, TW G M0 M1 t f (upd i 27 (nI (allF S N z st c o).2)) S D N A T V H l B ((allF S N z st c o).1) → Q M1) : P_X4_saysAll G t z st c M Q := by
  have hb := hg.b
  unfold allF at hQ
  have key := st_loop (F := fun n k => ∀ M1, TW G M0 M1 t f (upd i 27 (nI (fo (allS S N z st c) o k).2)) S D N A T V H l B ((fo (allS S N z st c) o k).1) → L_X4_saysAll_3 G Q n t z st c (nI k) M1) (N := np N) (fun n M1 h1 => ?_) (fun n k hk ih M1 h1 => ?_) 0 (Nat.zero_le _)
  · obtain ⟨n, hn⟩ := key
    exact ⟨n, hn M h⟩
  · unfold L_X4_saysAll_3; unfold B_X4_saysAll_3
    exact oGetA.i h1.obj rfl (rd_np h1 hg (oIf.y (nI_le (Nat.le_refl _) (by omega)) (hQ M1 h1)))
  · unfold L_X4_saysAll_3; unfold B_X4_saysAll_3
    have ho := ho k hk
    have e0 : fo (allS S N z st c) o (k + 1) = allS S N z st c k (fo (allS S N z st c) o k) := rfl
    rw [e0] at ih
    generalize fo (allS S N z st c) o k = q at *
    unfold allS at ih
    have no : ¬ (zP S N k = z ∧ pP N k 2 = st) → B_X4_saysAll_42 G (L_X4_saysAll_3 G Q n) Q t z st c (nI k) M1 := fun e => by
      rw [if_neg e] at ih
      unfold B_X4_saysAll_42; rw [nI_1]; exact ih M1 h1
    refine oGetA.i h1.obj rfl (rd_np h1 hg (oIf.n (nI_ge hk (by omega)) (oIs.i h1.obj (S_zoneOf h1 hg hk (oIf.c (fun c1 => ?_) (fun c1 => no (fun e => c1 e.1)))))))
    refine oIs.i h1.obj (S_ofP2 h1 (by omega) (oIf.c (fun c2 => ?_) (fun c2 => no (fun e => c2 e.2))))
    rw [if_pos ⟨c1, c2⟩] at ih
    refine oIs.i h1.obj (S_saysPermit h1 (ho (by unfold qZS; rw [decide_eq_true c1, decide_eq_true c2]; rfl)) fun M2 h2 => ?_)
    unfold B_X4_saysAll_42; rw [nI_1]; exact ih M2 h2
theorem S_printZone (h : TW G M0 M t f i S D N A T V H l B O) (hg : OK S N) {z : Int32} {Q : Int32 → wM → Prop} (hf : inR z 0 (S 0 - 1) = false → ∀ M1, TW G M0 M1 t f (upd i 0 1) S D N A T V H l B O → Q 0 M1) (hs : inR z 0 (S 0 - 1) = true → ∀ M1, TW G M0 M1 t f (upd (upd i 0 0) 27 (nI (prtF S N z O).2)) S D N A T V H l B ((prtF S N z O).1) → Q (nI (prtF S N z O).2) M1) : P_X4_printZone G t z M Q := by
  have hb := hg.b
  obtain ⟨r1, r2, r3, r4⟩ := prt_room (S := S) (N := N) (z := z) hb.1
  refine oIs.i h.obj (S_isZone h (oIs.i h.obj (S_is h fun M1 h1 => bl _ (fun c => ?_) (fun c => ?_))))
  · rw [c] at h1
    have h1' : TW G M0 M1 t f (upd i 0 0) S D N A T V H l B O := h1
    refine pt_27 h1' fun M2 h2 => ?_
    have hs := hs c
    unfold prtF at hs
    have key := st_loop (F := fun n k => ∀ M3, TW G M0 M3 t f (upd (upd i 0 0) 27 (nI (waiF S N z k (O, 0)).2)) S D N A T V H l B ((waiF S N z k (O, 0)).1) → L_X4_printZone_21 G Q n t z (nI k) M3) (N := manyZ S N z 0) (fun n M3 h3 => ?_) (fun n k hk ih M3 h3 => ?_) 0 (Nat.zero_le _)
    · obtain ⟨n, hn⟩ := key
      exact ⟨n, hn M2 h2⟩
    · unfold L_X4_printZone_21; unfold B_X4_printZone_21
      have hm : manyZ S N z 0 ≤ np N := cnt_le _ _
      refine oIs.i h3.obj (S_manyOf h3 hg (oIf.y (nI_le (Nat.le_refl _) (by omega)) ?_))
      refine oIs.i h3.obj (S_saysAll h3 hg (fun k hk hq => r2 k hk hq O) fun M4 h4 => oIs.i h4.obj (S_saysAll h4 hg (fun k hk hq => r3 k hk hq O) fun M5 h5 => oGetI.i h5.obj rfl (hs M5 h5)))
    · unfold L_X4_printZone_21; unfold B_X4_printZone_21
      have hm : manyZ S N z 0 ≤ np N := cnt_le _ _
      refine oIs.i h3.obj (S_manyOf h3 hg (oIf.n (nI_ge hk (by omega)) (oIs.i h3.obj (S_waitingAt h3 hg (oIs.i h3.obj (S_saysPermit h3 (r1 k hk O) fun M4 h4 => ?_))))))
      rw [nI_1]
      exact ih M4 h4
  · rw [c] at h1
    exact hf c M1 h1
end TW16
