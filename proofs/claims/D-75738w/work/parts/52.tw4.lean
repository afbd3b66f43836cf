set_option maxRecDepth 100000
/-! STAGE 2, the twin: calls that change nothing -/
section TW4
variable {G : wG} {M0 M : wM} {t : Nat} {f : Nat → Nat} {i S D N A T V H : Nat → Int32} {l : Nat → Nat → Int64} {B O : Nat → Int32}
theorem S_counts (h : TW G M0 M t f i S D N A T V H l B O) {o n : Nat} {x oo : Int32} (eo : oo = nI o) (hn : n ≤ 16) (ho : o ≤ 100) {Q : Int32 → wM → Prop} (hQ : Q (nI (cntS S o n x)) M) : P_X4_counts G t oo (nI n) x M Q := by
  subst eo
  unfold P_X4_counts
  refine st_loop (F := fun n' k => L_X4_counts_6 G Q n' t (nI o) (nI n) x (nI (cnt (fun k => decide (S (o + k) = x)) k)) (nI k) M) (N := n) (fun n' => ?_) (fun n' k hk ih => ?_) 0 (Nat.zero_le _)
  · unfold L_X4_counts_6; unfold B_X4_counts_6
    exact oIf.y (nI_le (Nat.le_refl _) (by omega)) hQ
  · unfold L_X4_counts_6; unfold B_X4_counts_6
    refine oIf.n (nI_ge hk (by omega)) (oGetA.i h.obj rfl (oIald.c (c := o) rfl h.set (by omega) (by decide) (oIf.c (fun c => ?_) (fun c => ?_))))
    · unfold B_X4_counts_31; simp only [nI_1]; rw [cnt_y (p := fun k => decide (S (o + k) = x)) (by simp [c])]; exact ih
    · unfold B_X4_counts_31; simp only [nI_1]; rw [cnt_n (p := fun k => decide (S (o + k) = x)) (by simp [c])]; exact ih
theorem S_zone (h : TW G M0 M t f i S D N A T V H l B O) (hg : OK S N) {z w : Int32} {Q : Int32 → wM → Prop} (hQ : ∀ M1, TW G M0 M1 t f (upd i 0 (r_zone S N z w).1) S D N A T V H l B O → Q (r_zone S N z w).2 M1) : P_X4_zone G t z w M Q := by
  have hb := hg.b
  unfold r_zone at hQ
  have bad : (∀ M1, TW G M0 M1 t f (upd i 0 1) S D N A T V H l B O → Q 0 M1) → B_X4_zone_26 G Q t z w 0 t M := fun hq => oIs.i h.obj (S_is (b := false) h fun M1 h1 => oIf.n (by decide) (hq M1 h1))
  refine oIs.i h.obj (S_isZone h (bl _ (fun c => S_isIn (lo := 0) (hi := 7) (bl _ (fun c2 => ?_) (fun c2 => bad (by simpa [c, c2] using hQ)))) (fun c => bad (by simpa [c] using hQ))))
  rw [c, c2] at hQ
  simp only [if_true] at hQ
  obtain ⟨k, hk, rfl⟩ := inR_nI (by omega) (hg.1.1.1 ▸ c)
  rw [nI_clamp (by omega)] at hQ
  unfold v_zone at hQ
  clear bad
  refine oIs.i h.obj (S_is (b := true) h fun M1 h => oIf.y rfl ?_)
  clear c
  repeat' (first | ((with_reducible refine oIald.c (c := 5) ?_ h.now ?_ (by decide) ?_); rfl; omega) | ((with_reducible refine oIald.c (c := 9) ?_ h.set ?_ (by decide) ?_); rfl; omega) | ((with_reducible refine oIald.c (c := 15) ?_ h.set ?_ (by decide) ?_); rfl; omega) | ((with_reducible refine oIald.c (c := 21) ?_ h.set ?_ (by decide) ?_); rfl; omega) | with_reducible refine S_manyOf h hg ?_ | ((with_reducible refine S_counts h (o := 27) ?_ ?_ ?_ ?_); rfl; omega; omega) | ((with_reducible apply oGetA.i h.obj); rfl) | ((with_reducible apply oGetI.i h.obj); rfl) | ((with_reducible refine oIs.i h.obj ?_)) | ((with_reducible refine S_ofP0 h ?_ ?_); omega) | ((with_reducible refine S_ofP1 h ?_ ?_); omega) | ((with_reducible refine S_ofP2 h ?_ ?_); omega) | ((with_reducible refine S_ofP3 h ?_ ?_); omega) | ((with_reducible refine S_ofP4 h ?_ ?_); omega) | ((with_reducible refine S_ofP5 h ?_ ?_); omega) | ((with_reducible refine S_ofP6 h ?_ ?_); omega) | ((with_reducible refine S_ofV0 h ?_ ?_); omega) | ((with_reducible refine S_ofV1 h ?_ ?_); omega) | ((with_reducible refine S_ofV2 h ?_ ?_); omega) | ((with_reducible refine S_ofV3 h ?_ ?_); omega) | ((with_reducible refine S_ofC0 h ?_ ?_); omega) | ((with_reducible refine S_ofC1 h ?_ ?_); omega) | ((with_reducible refine S_ofC2 h ?_ ?_); omega) | ((with_reducible refine S_ofF0 h ?_ ?_); omega) | ((with_reducible refine S_ofF1 h ?_ ?_); omega) | ((with_reducible refine S_ofF2 h ?_ ?_); omega) | ((with_reducible refine S_ofF3 h ?_ ?_); omega) | ((with_reducible refine S_ofF4 h ?_ ?_); omega) | ((with_reducible refine S_zoneOf h hg ?_ ?_); omega) | ((with_reducible refine S_zoneOfStreet h ?_ ?_); omega) | ((with_reducible refine S_zoneOfHouse h hg ?_ ?_); omega) | ((with_reducible refine oIf.y (nI_le ?_ ?_) ?_); omega; omega) | ((with_reducible refine oIf.n (nI_ge ?_ ?_) ?_); omega; omega) | ((with_reducible refine rd_np h hg ?_)) | ((with_reducible refine rd_nv h hg ?_)) | ((with_reducible refine rd_nc h hg ?_)) | ((with_reducible refine rd_nf h hg ?_)) | ((with_reducible refine rd_nz h hg ?_)) | ((with_reducible refine rd_ns h hg ?_)) | ((with_reducible refine rd_nh h hg ?_)) | ((with_reducible refine rd_0 h ?_)) | with_reducible refine oIf.c (fun c => ?_) (fun c => ?_) | unfold B_X4_zone_26 | unfold B_X4_zone_25)
  all_goals (simpa [*] using hQ _ h)
theorem S_street (h : TW G M0 M t f i S D N A T V H l B O) (hg : OK S N) {z w : Int32} {Q : Int32 → wM → Prop} (hQ : ∀ M1, TW G M0 M1 t f (upd i 0 (r_street S N z w).1) S D N A T V H l B O → Q (r_street S N z w).2 M1) : P_X4_street G t z w M Q := by
  have hb := hg.b
  unfold r_street at hQ
  have bad : (∀ M1, TW G M0 M1 t f (upd i 0 1) S D N A T V H l B O → Q 0 M1) → B_X4_street_26 G Q t z w 0 t M := fun hq => oIs.i h.obj (S_is (b := false) h fun M1 h1 => oIf.n (by decide) (hq M1 h1))
  refine oIs.i h.obj (S_isStreet h (bl _ (fun c => S_isIn (lo := 0) (hi := 5) (bl _ (fun c2 => ?_) (fun c2 => bad (by simpa [c, c2] using hQ)))) (fun c => bad (by simpa [c] using hQ))))
  rw [c, c2] at hQ
  simp only [if_true] at hQ
  obtain ⟨k, hk, rfl⟩ := inR_nI (by omega) (hg.1.2.1.1 ▸ c)
  rw [nI_clamp (by omega)] at hQ
  unfold v_street at hQ
  clear bad
  refine oIs.i h.obj (S_is (b := true) h fun M1 h => oIf.y rfl ?_)
  clear c
  repeat' (first | ((with_reducible refine oIald.c (c := 11) ?_ h.now ?_ (by decide) ?_); rfl; omega) | ((with_reducible refine oIald.c (c := 39) ?_ h.set ?_ (by decide) ?_); rfl; omega) | ((with_reducible refine oIald.c (c := 51) ?_ h.set ?_ (by decide) ?_); rfl; omega) | with_reducible refine S_carsIn h hg ?_ | ((with_reducible refine S_counts h (o := 63) ?_ ?_ ?_ ?_); rfl; omega; omega) | ((with_reducible apply oGetA.i h.obj); rfl) | ((with_reducible apply oGetI.i h.obj); rfl) | ((with_reducible refine oIs.i h.obj ?_)) | ((with_reducible refine S_ofP0 h ?_ ?_); omega) | ((with_reducible refine S_ofP1 h ?_ ?_); omega) | ((with_reducible refine S_ofP2 h ?_ ?_); omega) | ((with_reducible refine S_ofP3 h ?_ ?_); omega) | ((with_reducible refine S_ofP4 h ?_ ?_); omega) | ((with_reducible refine S_ofP5 h ?_ ?_); omega) | ((with_reducible refine S_ofP6 h ?_ ?_); omega) | ((with_reducible refine S_ofV0 h ?_ ?_); omega) | ((with_reducible refine S_ofV1 h ?_ ?_); omega) | ((with_reducible refine S_ofV2 h ?_ ?_); omega) | ((with_reducible refine S_ofV3 h ?_ ?_); omega) | ((with_reducible refine S_ofC0 h ?_ ?_); omega) | ((with_reducible refine S_ofC1 h ?_ ?_); omega) | ((with_reducible refine S_ofC2 h ?_ ?_); omega) | ((with_reducible refine S_ofF0 h ?_ ?_); omega) | ((with_reducible refine S_ofF1 h ?_ ?_); omega) | ((with_reducible refine S_ofF2 h ?_ ?_); omega) | ((with_reducible refine S_ofF3 h ?_ ?_); omega) | ((with_reducible refine S_ofF4 h ?_ ?_); omega) | ((with_reducible refine S_zoneOf h hg ?_ ?_); omega) | ((with_reducible refine S_zoneOfStreet h ?_ ?_); omega) | ((with_reducible refine S_zoneOfHouse h hg ?_ ?_); omega) | ((with_reducible refine oIf.y (nI_le ?_ ?_) ?_); omega; omega) | ((with_reducible refine oIf.n (nI_ge ?_ ?_) ?_); omega; omega) | ((with_reducible refine rd_np h hg ?_)) | ((with_reducible refine rd_nv h hg ?_)) | ((with_reducible refine rd_nc h hg ?_)) | ((with_reducible refine rd_nf h hg ?_)) | ((with_reducible refine rd_nz h hg ?_)) | ((with_reducible refine rd_ns h hg ?_)) | ((with_reducible refine rd_nh h hg ?_)) | ((with_reducible refine rd_0 h ?_)) | with_reducible refine oIf.c (fun c => ?_) (fun c => ?_) | unfold B_X4_street_26 | unfold B_X4_street_25)
  all_goals (simpa [*] using hQ _ h)
theorem S_house (h : TW G M0 M t f i S D N A T V H l B O) (hg : OK S N) {z w : Int32} {Q : Int32 → wM → Prop} (hQ : ∀ M1, TW G M0 M1 t f (upd i 0 (r_house S N z w).1) S D N A T V H l B O → Q (r_house S N z w).2 M1) : P_X4_house G t z w M Q := by
  have hb := hg.b
  unfold r_house at hQ
  have bad : (∀ M1, TW G M0 M1 t f (upd i 0 1) S D N A T V H l B O → Q 0 M1) → B_X4_house_26 G Q t z w 0 t M := fun hq => oIs.i h.obj (S_is (b := false) h fun M1 h1 => oIf.n (by decide) (hq M1 h1))
  refine oIs.i h.obj (S_isHouse h (bl _ (fun c => S_isIn (lo := 0) (hi := 7) (bl _ (fun c2 => ?_) (fun c2 => bad (by simpa [c, c2] using hQ)))) (fun c => bad (by simpa [c] using hQ))))
  rw [c, c2] at hQ
  simp only [if_true] at hQ
  obtain ⟨k, hk, rfl⟩ := inR_nI (by omega) (hg.1.2.2.1.1 ▸ c)
  rw [nI_clamp (by omega)] at hQ
  unfold v_house at hQ
  clear bad
  refine oIs.i h.obj (S_is (b := true) h fun M1 h => oIf.y rfl ?_)
  clear c
  repeat' (first | ((with_reducible refine oIald.c (c := 23) ?_ h.now ?_ (by decide) ?_); rfl; omega) | ((with_reducible refine oIald.c (c := 63) ?_ h.set ?_ (by decide) ?_); rfl; omega) | ((with_reducible refine oIald.c (c := 79) ?_ h.set ?_ (by decide) ?_); rfl; omega) | ((with_reducible refine oIald.c (c := 95) ?_ h.set ?_ (by decide) ?_); rfl; omega) | with_reducible refine S_activeOfHouse h hg ?_ | with_reducible refine S_validOfHouse h hg ?_ | with_reducible refine S_visitsOf h hg ?_ | ((with_reducible apply oGetA.i h.obj); rfl) | ((with_reducible apply oGetI.i h.obj); rfl) | ((with_reducible refine oIs.i h.obj ?_)) | ((with_reducible refine S_ofP0 h ?_ ?_); omega) | ((with_reducible refine S_ofP1 h ?_ ?_); omega) | ((with_reducible refine S_ofP2 h ?_ ?_); omega) | ((with_reducible refine S_ofP3 h ?_ ?_); omega) | ((with_reducible refine S_ofP4 h ?_ ?_); omega) | ((with_reducible refine S_ofP5 h ?_ ?_); omega) | ((with_reducible refine S_ofP6 h ?_ ?_); omega) | ((with_reducible refine S_ofV0 h ?_ ?_); omega) | ((with_reducible refine S_ofV1 h ?_ ?_); omega) | ((with_reducible refine S_ofV2 h ?_ ?_); omega) | ((with_reducible refine S_ofV3 h ?_ ?_); omega) | ((with_reducible refine S_ofC0 h ?_ ?_); omega) | ((with_reducible refine S_ofC1 h ?_ ?_); omega) | ((with_reducible refine S_ofC2 h ?_ ?_); omega) | ((with_reducible refine S_ofF0 h ?_ ?_); omega) | ((with_reducible refine S_ofF1 h ?_ ?_); omega) | ((with_reducible refine S_ofF2 h ?_ ?_); omega) | ((with_reducible refine S_ofF3 h ?_ ?_); omega) | ((with_reducible refine S_ofF4 h ?_ ?_); omega) | ((with_reducible refine S_zoneOf h hg ?_ ?_); omega) | ((with_reducible refine S_zoneOfStreet h ?_ ?_); omega) | ((with_reducible refine S_zoneOfHouse h hg ?_ ?_); omega) | ((with_reducible refine oIf.y (nI_le ?_ ?_) ?_); omega; omega) | ((with_reducible refine oIf.n (nI_ge ?_ ?_) ?_); omega; omega) | ((with_reducible refine rd_np h hg ?_)) | ((with_reducible refine rd_nv h hg ?_)) | ((with_reducible refine rd_nc h hg ?_)) | ((with_reducible refine rd_nf h hg ?_)) | ((with_reducible refine rd_nz h hg ?_)) | ((with_reducible refine rd_ns h hg ?_)) | ((with_reducible refine rd_nh h hg ?_)) | ((with_reducible refine rd_0 h ?_)) | with_reducible refine oIf.c (fun c => ?_) (fun c => ?_) | unfold B_X4_house_26 | unfold B_X4_house_25)
  all_goals (simpa [*] using hQ _ h)
theorem S_permit (h : TW G M0 M t f i S D N A T V H l B O) (hg : OK S N) {z w : Int32} {Q : Int32 → wM → Prop} (hQ : ∀ M1, TW G M0 M1 t f (upd i 0 (r_permit S N z w).1) S D N A T V H l B O → Q (r_permit S N z w).2 M1) : P_X4_permit G t z w M Q := by
  have hb := hg.b
  unfold r_permit at hQ
  have bad : (∀ M1, TW G M0 M1 t f (upd i 0 1) S D N A T V H l B O → Q 0 M1) → B_X4_permit_26 G Q t z w 0 t M := fun hq => oIs.i h.obj (S_is (b := false) h fun M1 h1 => oIf.n (by decide) (hq M1 h1))
  refine oIs.i h.obj (S_isPermit h (bl _ (fun c => S_isIn (lo := 0) (hi := 7) (bl _ (fun c2 => ?_) (fun c2 => bad (by simpa [c, c2] using hQ)))) (fun c => bad (by simpa [c] using hQ))))
  rw [c, c2] at hQ
  simp only [if_true] at hQ
  obtain ⟨k, hk, rfl⟩ := inR_nI (by omega) (hg.2.1.1 ▸ c)
  rw [nI_clamp (by omega)] at hQ
  unfold v_permit at hQ
  clear bad
  refine oIs.i h.obj (S_is (b := true) h fun M1 h => oIf.y rfl ?_)
  clear c
  repeat' (first | ((with_reducible apply oGetA.i h.obj); rfl) | ((with_reducible apply oGetI.i h.obj); rfl) | ((with_reducible refine oIs.i h.obj ?_)) | ((with_reducible refine S_ofP0 h ?_ ?_); omega) | ((with_reducible refine S_ofP1 h ?_ ?_); omega) | ((with_reducible refine S_ofP2 h ?_ ?_); omega) | ((with_reducible refine S_ofP3 h ?_ ?_); omega) | ((with_reducible refine S_ofP4 h ?_ ?_); omega) | ((with_reducible refine S_ofP5 h ?_ ?_); omega) | ((with_reducible refine S_ofP6 h ?_ ?_); omega) | ((with_reducible refine S_ofV0 h ?_ ?_); omega) | ((with_reducible refine S_ofV1 h ?_ ?_); omega) | ((with_reducible refine S_ofV2 h ?_ ?_); omega) | ((with_reducible refine S_ofV3 h ?_ ?_); omega) | ((with_reducible refine S_ofC0 h ?_ ?_); omega) | ((with_reducible refine S_ofC1 h ?_ ?_); omega) | ((with_reducible refine S_ofC2 h ?_ ?_); omega) | ((with_reducible refine S_ofF0 h ?_ ?_); omega) | ((with_reducible refine S_ofF1 h ?_ ?_); omega) | ((with_reducible refine S_ofF2 h ?_ ?_); omega) | ((with_reducible refine S_ofF3 h ?_ ?_); omega) | ((with_reducible refine S_ofF4 h ?_ ?_); omega) | ((with_reducible refine S_zoneOf h hg ?_ ?_); omega) | ((with_reducible refine S_zoneOfStreet h ?_ ?_); omega) | ((with_reducible refine S_zoneOfHouse h hg ?_ ?_); omega) | ((with_reducible refine oIf.y (nI_le ?_ ?_) ?_); omega; omega) | ((with_reducible refine oIf.n (nI_ge ?_ ?_) ?_); omega; omega) | ((with_reducible refine rd_np h hg ?_)) | ((with_reducible refine rd_nv h hg ?_)) | ((with_reducible refine rd_nc h hg ?_)) | ((with_reducible refine rd_nf h hg ?_)) | ((with_reducible refine rd_nz h hg ?_)) | ((with_reducible refine rd_ns h hg ?_)) | ((with_reducible refine rd_nh h hg ?_)) | ((with_reducible refine rd_0 h ?_)) | with_reducible refine oIf.c (fun c => ?_) (fun c => ?_) | unfold B_X4_permit_26 | unfold B_X4_permit_25)
  all_goals (simpa [*] using hQ _ h)
theorem S_visit (h : TW G M0 M t f i S D N A T V H l B O) (hg : OK S N) {z w : Int32} {Q : Int32 → wM → Prop} (hQ : ∀ M1, TW G M0 M1 t f (upd i 0 (r_visit N z w).1) S D N A T V H l B O → Q (r_visit N z w).2 M1) : P_X4_visit G t z w M Q := by
  have hb := hg.b
  unfold r_visit at hQ
  have bad : (∀ M1, TW G M0 M1 t f (upd i 0 1) S D N A T V H l B O → Q 0 M1) → B_X4_visit_26 G Q t z w 0 t M := fun hq => oIs.i h.obj (S_is (b := false) h fun M1 h1 => oIf.n (by decide) (hq M1 h1))
  refine oIs.i h.obj (S_isVisit h (bl _ (fun c => S_isIn (lo := 0) (hi := 4) (bl _ (fun c2 => ?_) (fun c2 => bad (by simpa [c, c2] using hQ)))) (fun c => bad (by simpa [c] using hQ))))
  rw [c, c2] at hQ
  simp only [if_true] at hQ
  obtain ⟨k, hk, rfl⟩ := inR_nI (by omega) (hg.2.2.1.1 ▸ c)
  obtain ⟨j, hj, rfl⟩ := inR_n (n := 4) (by decide) c2
  rw [nI_clamp (by omega)] at hQ
  unfold v_visit at hQ
  rw [nI_clamp (by omega)] at hQ
  refine oIs.i h.obj (S_is (b := true) h fun M1 h => oIf.y rfl (oIf.c (fun c3 => ?_) (fun c3 => ?_)))
  · refine oIs.i h.obj (S_runs h (by omega) (bl _ (fun c4 => ?_) (fun c4 => ?_)))
    · simpa [c3, c4, B_X4_visit_52] using hQ _ h
    · simpa [c3, c4, B_X4_visit_52] using hQ _ h
  · have : j ≠ 4 := fun e => c3 (by rw [e]; rfl)
    have := hQ _ h
    rw [if_neg c3] at this
    exact oIs.i h.obj (S_ofV h rfl (by omega) (by omega) this)
theorem S_fine (h : TW G M0 M t f i S D N A T V H l B O) (hg : OK S N) {z w : Int32} {Q : Int32 → wM → Prop} (hQ : ∀ M1, TW G M0 M1 t f (upd i 0 (r_fine S N z w).1) S D N A T V H l B O → Q (r_fine S N z w).2 M1) : P_X4_fine G t z w M Q := by
  have hb := hg.b
  unfold r_fine at hQ
  have bad : (∀ M1, TW G M0 M1 t f (upd i 0 1) S D N A T V H l B O → Q 0 M1) → B_X4_fine_26 G Q t z w 0 t M := fun hq => oIs.i h.obj (S_is (b := false) h fun M1 h1 => oIf.n (by decide) (hq M1 h1))
  refine oIs.i h.obj (S_isFine h (bl _ (fun c => S_isIn (lo := 0) (hi := 5) (bl _ (fun c2 => ?_) (fun c2 => bad (by simpa [c, c2] using hQ)))) (fun c => bad (by simpa [c] using hQ))))
  rw [c, c2] at hQ
  simp only [if_true] at hQ
  obtain ⟨k, hk, rfl⟩ := inR_nI (by omega) (hg.2.2.2.2.1.1 ▸ c)
  obtain ⟨j, hj, rfl⟩ := inR_n (n := 5) (by decide) c2
  rw [nI_clamp (by omega)] at hQ
  unfold v_fine at hQ
  rw [nI_clamp (by omega)] at hQ
  refine oIs.i h.obj (S_is (b := true) h fun M1 h => oIf.y rfl (oIf.c (fun c3 => ?_) (fun c3 => ?_)))
  · have hq := hQ _ h
    rw [if_pos c3] at hq
    refine oIf.c (fun c4 => ?_) (fun c4 => ?_)
    · rw [if_pos c4] at hq
      obtain ⟨r, r1, r6, er⟩ := hg.2.2.2.2.2.2.2.2.2 k hk
      refine oIs.i h.obj (S_ofF3 h (by omega) (oIs.i h.obj ?_))
      rw [er] at hq ⊢
      exact S_amountOf h r1 r6 hq
    · rw [if_neg c4] at hq
      exact oIs.i h.obj (S_ofF4 h (by omega) hq)
  · have : ¬ 4 ≤ j := fun e => c3 (nI_le (a := 4) e (by omega))
    have hq := hQ _ h
    rw [if_neg c3] at hq
    exact oIs.i h.obj (S_ofF h rfl (by omega) (by omega) hq)
theorem S_amount (h : TW G M0 M t f i S D N A T V H l B O) {r : Int32} {Q : Int32 → wM → Prop} (hQ : ∀ M1, TW G M0 M1 t f (upd i 0 (r_amount S r).1) S D N A T V H l B O → Q (r_amount S r).2 M1) : P_X4_amount G t r M Q := by
  unfold r_amount at hQ
  refine S_isRule (oIs.i h.obj (S_is h fun M1 h1 => bl _ (fun c => ?_) (fun c => ?_)))
  · obtain ⟨k, k1, k6, rfl⟩ := inR_1n (n := 6) (by decide) c
    simp only [c, if_true] at hQ h1
    exact oIs.i h1.obj (S_amountOf h1 k1 k6 (hQ _ h1))
  · simp only [c] at hQ h1
    exact hQ _ h1
theorem S_waiting (h : TW G M0 M t f i S D N A T V H l B O) (hg : OK S N) {z k : Int32} {Q : Int32 → wM → Prop} (hQ : ∀ M1, TW G M0 M1 t f (upd i 0 (r_waiting S N z k).1) S D N A T V H l B O → Q (r_waiting S N z k).2 M1) : P_X4_waiting G t z k M Q := by
  unfold r_waiting at hQ
  refine oIs.i h.obj (S_isZone h (oIs.i h.obj (S_is h fun M1 h1 => bl _ (fun c => ?_) (fun c => ?_))))
  · simp only [c, if_true] at hQ h1
    refine oIs.i h1.obj (S_manyOf h1 hg (S_isIn (lo := 0) (oIs.i h1.obj (S_may h1 fun M2 h2 => bl _ (fun c2 => ?_) (fun c2 => ?_)))))
    · simp only [c2, if_true] at hQ h2
      rw [upd_upd] at h2
      exact oIs.i h2.obj (S_waitingAt h2 hg (hQ _ h2))
    · simp only [c2] at hQ h2
      rw [upd_upd] at h2
      exact hQ _ h2
  · simp only [c] at hQ h1
    exact hQ _ h1
theorem nx_v {S N : Rw} {z : Int32} : ∀ k, fo (nxS S N z) (-1) k = -1 ∨ ∃ p, p < k ∧ fo (nxS S N z) (-1) k = nI p := by
  intro k
  induction k with
  | zero => exact .inl rfl
  | succ k ih =>
    show nxS S N z k (fo (nxS S N z) (-1) k) = -1 ∨ ∃ p, p < k + 1 ∧ nxS S N z k (fo (nxS S N z) (-1) k) = nI p
    generalize fo (nxS S N z) (-1) k = b at ih
    unfold nxS
    split
    · exact .inr ⟨k, by omega, rfl⟩
    · rcases ih with e | ⟨p, hp, e⟩
      · exact .inl e
      · exact .inr ⟨p, by omega, e⟩
theorem S_nextToExpire (h : TW G M0 M t f i S D N A T V H l B O) (hg : OK S N) {z : Int32} {Q : Int32 → wM → Prop} (hQ : ∀ M1, TW G M0 M1 t f (upd i 0 (r_next S N z).1) S D N A T V H l B O → Q (r_next S N z).2 M1) : P_X4_nextToExpire G t z M Q := by
  have hb := hg.b
  unfold r_next at hQ
  refine oIs.i h.obj (S_isZone h (oIs.i h.obj (S_is h fun M1 h1 => bl _ (fun c => ?_) (fun c => ?_))))
  · simp only [c, if_true] at hQ h1
    have hq := hQ _ h1
    refine st_loop (F := fun n k => L_X4_nextToExpire_18 G Q n t z (fo (nxS S N z) (-1) k) (nI k) M1) (N := np N) (fun n => ?_) (fun n k hk ih => ?_) 0 (Nat.zero_le _)
    · unfold L_X4_nextToExpire_18; unfold B_X4_nextToExpire_18
      exact oGetA.i h1.obj rfl (rd_np h1 hg (oIf.y (nI_le (by omega) (by omega)) hq))
    · unfold L_X4_nextToExpire_18; unfold B_X4_nextToExpire_18
      have fin : ∀ x, nxS S N z k (fo (nxS S N z) (-1) k) = x → B_X4_nextToExpire_72 G (L_X4_nextToExpire_18 G Q n) Q t z x (nI k) M1 := fun x e => by
        unfold B_X4_nextToExpire_72; rw [nI_1, ← e]; exact ih
      have hi := nx_v (S := S) (N := N) (z := z) k
      generalize fo (nxS S N z) (-1) k = b at hi fin ⊢
      refine oGetA.i h1.obj rfl (rd_np h1 hg (oIf.n (nI_ge hk (by omega)) (oIs.i h1.obj (S_zoneOf h1 hg hk (oIf.c (fun c1 => ?_) (fun c1 => fin _ (by unfold nxS; rw [if_neg (fun x => c1 x.1)])))))))
      refine oIs.i h1.obj (S_ofP2 h1 (by omega) (oIf.c (fun c2 => ?_) (fun c2 => fin _ (by unfold nxS; rw [if_neg (fun x => c2 x.2.1)]))))
      refine oIf.c (fun c3 => fin _ (by unfold nxS; rw [if_pos ⟨c1, c2, .inl c3⟩])) (fun c3 => ?_)
      rcases hi with e | ⟨p, hp, e⟩
      · exact absurd e c3
      subst e
      refine oIs.i h1.obj (S_ofP4 h1 (by omega) (oIs.i h1.obj (S_ofP4 h1 (by omega) (oIf.c (fun c4 => fin _ ?_) (fun c4 => fin _ ?_)))))
      · unfold nxS; rw [nI_clamp (by omega), if_neg]
        rintro ⟨-, -, x | x⟩
        · exact c3 x
        · exact absurd x (Int32.not_lt.mpr c4)
      · unfold nxS; rw [nI_clamp (by omega), if_pos ⟨c1, c2, .inr (Int32.not_le.mp c4)⟩]
  · simp only [c] at hQ h1
    exact hQ _ h1
theorem S_rule (h : TW G M0 M t f i S D N A T V H l B O) (hg : OK S N) {x s : Int32} {Q : Int32 → wM → Prop} (hQ : ∀ M1, TW G M0 M1 t f (upd i 0 (r_rule S N x s).1) S D N A T V H l B O → Q (r_rule S N x s).2 M1) : P_X4_rule G t x s M Q := by
  have hb := hg.b
  unfold r_rule at hQ
  refine oIs.i h.obj (S_isStreet h (oIs.i h.obj (S_is h fun M1 h1 => bl _ (fun c => ?_) (fun c => ?_))))
  · simp only [c, if_true] at hQ h1
    refine S_isPlate (oIs.i h1.obj (S_may h1 fun M2 h2 => bl _ (fun c2 => ?_) (fun c2 => ?_)))
    · simp only [c2, if_true] at hQ h2
      rw [upd_upd] at h2
      obtain ⟨k, hk, rfl⟩ := inR_nI (by omega) (hg.1.2.1.1 ▸ c)
      rw [nI_clamp (by omega)] at hQ
      exact oIs.i h2.obj (S_ruleOf h2 hg hk (hQ _ h2))
    · simp only [c2] at hQ h2
      rw [upd_upd] at h2
      exact hQ _ h2
  · simp only [c] at hQ h1
    exact hQ _ h1
end TW4
