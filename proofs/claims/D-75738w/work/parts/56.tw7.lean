set_option maxRecDepth 100000
/-! STAGE 2, the twin: visits, cars, fines, the rest of the changes -/
section TW7
variable {G : wG} {M0 M : wM} {t : Nat} {f : Nat → Nat} {i S D N A T V H : Nat → Int32} {l : Nat → Nat → Int64} {B O : Nat → Int32} {m : Nat}
theorem S_admit (h : TW G M0 M t f i S D N A T V H l B O) (hg : OK S N) (hm : m ≤ 10) (e8 : i 8 = nI m) {p x k : Int32} {Q : Int32 → wM → Prop} (hf : c_admit S N p x k ≠ 0 → ∀ M1, TW G M0 M1 t f (upd i 0 (c_admit S N p x k)) S D N A T V H l B O → Q 0 M1) (hs : c_admit S N p x k = 0 → ∀ M1, TW G M0 M1 t f (upd (upd i 0 0) 8 (nI (keepN m))) S D (offF S (admitN N p.toNatClampNeg x k)) (lay 0 1435 N A) T V (keepH m (lay 0 1435 N A) H) l B O → Q (nI (nv N)) M1) : P_X4_admit G t p x k M Q := by
  have hb := hg.b
  unfold c_admit at hf hs
  refine oIs.i h.obj (S_isHouse h (oIs.i h.obj (S_is h fun M1 h1 => bl _ (fun c => ?_) (fun c => ?_))))
  · simp only [c, if_true] at hf hs h1
    obtain ⟨j, hj, rfl⟩ := inR_nI (by omega) (hg.1.2.2.1.1 ▸ c)
    rw [nI_clamp (by omega)] at hf hs
    have bad : ∀ b, (inR x 1 9999 && inR k 1 24) = b → b = false → B_X4_admit_31 G Q t (nI j) x k t M1 := fun b e e2 => by
      rw [e, e2] at hf
      simp only [Bool.false_eq_true, if_false] at hf
      refine oIs.i h1.obj (S_may (b := false) h1 fun M3 h3 => oIf.n (by decide) ?_)
      rw [upd_upd] at h3
      exact hf (by decide) _ h3
    refine S_isPlate (bl _ (fun c1 => S_areHours (bl _ (fun c2 => ?_) (fun c2 => bad _ rfl (by rw [c2, Bool.and_false])))) (fun c1 => bad _ rfl (by rw [c1, Bool.false_and])))
    rw [c1, c2] at hf hs
    simp only [Bool.and_self, if_true] at hf hs
    clear bad
    refine oIs.i h1.obj (S_may (b := true) h1 fun M2 h2 => oIf.y rfl ?_)
    rw [upd_upd] at h2
    have hle : visitsH N (nI j) ≤ nv N := cnt_le _ _
    have no : ¬ (k ≤ N (23 + j) ∧ visitsH N (nI j) < 2 ∧ visiting N x = false ∧ nv N < 60) → B_X4_admit_87 G Q t (nI j) x k t M2 := fun e => by
      rw [if_neg e] at hf
      refine oIs.i h2.obj (S_may (b := false) h2 fun M3 h3 => oIf.n (by decide) ?_)
      rw [upd_upd] at h3
      exact hf (by decide) _ h3
    refine oGetA.i h2.obj rfl (oIald.c (c := 23) rfl h2.now (by omega) (by decide) (oIf.c (fun c3 => no (fun z => absurd z.1 (Int32.not_le.mpr c3))) (fun c3 => ?_)))
    refine oIs.i h2.obj (S_visitsOf h2 hg (oIf.c (fun c4 => no (fun z => ?_)) (fun c4 => ?_)))
    · have := (nI_leI (a := 2) (by decide) (by omega)).mp c4; omega
    refine oIs.i h2.obj (S_isVisiting h2 hg (bl _ (fun c5 => no (fun z => by rw [c5] at z; cases z.2.2.1)) (fun c5 => ?_)))
    refine oGetA.i h2.obj rfl (rd_nv h2 hg (oIf.c (fun c6 => no (fun z => ?_)) (fun c6 => ?_)))
    · have := (nI_leI (a := 60) (b := nv N) (by decide) (by omega)).mp c6; omega
    have hn : nv N < 60 := by
      have := mt (nI_leI (a := 60) (b := nv N) (by decide) (by omega)).mpr c6; omega
    have hv2 : visitsH N (nI j) < 2 := by
      have := mt (nI_leI (a := 2) (b := visitsH N (nI j)) (by decide) (by omega)).mpr c4; omega
    rw [if_pos ⟨Int32.not_lt.mp c3, hv2, c5, hn⟩] at hs
    refine oIs.i h2.obj (S_may (b := true) h2 fun M3 h3 => oIf.y rfl ?_)
    rw [upd_upd] at h3
    refine oIs.i h3.obj (S_starts h3 fun M4 h4 => ?_)
    refine oGetA.i h4.obj rfl (rd_nv h4 hg (oGetA.i h4.obj rfl ?_))
    refine st_now_e h4 (j := 2) rfl (by decide) fun M5 h5 => ?_
    refine oGetA.i h5.obj rfl (oIs.i h5.obj (S_visitAt (k := 0) rfl (st_now_e h5 rfl (by omega) fun M6 h6 => ?_)))
    refine oGetA.i h6.obj rfl (oIs.i h6.obj (S_visitAt (k := 1) rfl (st_now_e h6 rfl (by omega) fun M7 h7 => ?_)))
    refine oGetA.i h7.obj rfl (oIs.i h7.obj (S_visitAt (k := 2) rfl (oGetA.i h7.obj rfl (oIald.e (i := 0) rfl h7.now (by decide) (by decide) (st_now_e h7 rfl (by omega) fun M8 h8 => ?_)))))
    refine oGetA.i h8.obj rfl (oIs.i h8.obj (S_visitAt (k := 3) rfl (oGetA.i h8.obj rfl (oIald.e (i := 0) rfl h8.now (by decide) (by decide) (st_now_e h8 rfl (by omega) fun M9 h9 => ?_)))))
    refine oGetA.i h9.obj rfl (oGetA.i h9.obj rfl (oIald.c (c := 23) rfl h9.now (by omega) (by decide) (st_now_c h9 (c := 23) rfl (by omega) fun M10 h10 => ?_)))
    rw [upd_ne _ _ (show 0 ≠ 460 + 4 * nv N + 2 by omega), upd_ne _ _ (show 0 ≠ 460 + 4 * nv N + 1 by omega), upd_ne _ _ (show 0 ≠ 460 + 4 * nv N + 0 by omega), upd_ne _ _ (show 0 ≠ 2 by omega), upd_ne _ _ (show 23 + j ≠ 460 + 4 * nv N + 3 by omega), upd_ne _ _ (show 23 + j ≠ 460 + 4 * nv N + 2 by omega), upd_ne _ _ (show 23 + j ≠ 460 + 4 * nv N + 1 by omega), upd_ne _ _ (show 23 + j ≠ 460 + 4 * nv N + 0 by omega), upd_ne _ _ (show 23 + j ≠ 2 by omega)] at h10
    have e1 : nI (nv N) + 1 = N 2 + 1 := by rw [hg.2.2.1.1]
    rw [e1] at h10
    exact oIs.i h10.obj (S_done (show TW G M0 M10 t f _ S D (admitN N j x k) _ T V H l B O from h10) (admitN_ok hg hj hn) hm (e8_0 e8 _) fun M13 h13 => hs rfl M13 h13)
  · simp only [c, Bool.false_eq_true, if_false] at hf h1
    exact hf (by decide) _ h1
theorem S_extend (h : TW G M0 M t f i S D N A T V H l B O) (hg : OK S N) (hm : m ≤ 10) (e8 : i 8 = nI m) {v k : Int32} {Q : Int32 → wM → Prop} (hf : c_extend N v k ≠ 0 → ∀ M1, TW G M0 M1 t f (upd i 0 (c_extend N v k)) S D N A T V H l B O → Q 0 M1) (hs : c_extend N v k = 0 → ∀ M1, TW G M0 M1 t f (upd (upd i 0 0) 8 (nI (keepN m))) S D (offF S (extendN N v.toNatClampNeg (vP N v.toNatClampNeg 0).toNatClampNeg k)) (lay 0 1435 N A) T V (keepH m (lay 0 1435 N A) H) l B O → Q (vP N v.toNatClampNeg 3 + 60 * k) M1) : P_X4_extend G t v k M Q := by
  have hb := hg.b
  unfold c_extend at hf hs
  refine oIs.i h.obj (S_isVisit h (oIs.i h.obj (S_is h fun M1 h1 => bl _ (fun c => ?_) (fun c => ?_))))
  · simp only [c, if_true] at hf hs h1
    obtain ⟨j, hj, rfl⟩ := inR_nI (by omega) (hg.2.2.1.1 ▸ c)
    obtain ⟨p, hp, ep⟩ := hg.2.2.2.2.2.2.1 j hj
    rw [nI_clamp (by omega), ep, nI_clamp (by omega)] at hf hs
    refine S_areHours (oIs.i h1.obj (S_may h1 fun M2 h2 => bl _ (fun c2 => ?_) (fun c2 => ?_)))
    · simp only [c2, if_true] at hf hs h2
      rw [upd_upd] at h2
      have no : ¬ (runsV N j = true ∧ k ≤ N (23 + p)) → B_X4_extend_59 G Q t (nI j) k (nI p) t M2 := fun e => by
        rw [if_neg e] at hf
        refine oIs.i h2.obj (S_may (b := false) h2 fun M3 h3 => oIf.n (by decide) ?_)
        rw [upd_upd] at h3
        exact hf (by decide) _ h3
      refine oIs.i h2.obj (S_ofV0 h2 (by omega) ?_)
      rw [ep]
      refine oIs.i h2.obj (S_runs h2 (by omega) (bl _ (fun c3 => ?_) (fun c3 => no (fun z => by rw [c3] at z; cases z.1))))
      refine oGetA.i h2.obj rfl (oIald.c (c := 23) rfl h2.now (by omega) (by decide) (oIf.c (fun c4 => no (fun z => absurd z.2 (Int32.not_le.mpr c4))) (fun c4 => ?_)))
      rw [if_pos ⟨c3, Int32.not_lt.mp c4⟩] at hs
      refine oIs.i h2.obj (S_may (b := true) h2 fun M3 h3 => oIf.y rfl ?_)
      rw [upd_upd] at h3
      refine oIs.i h3.obj (S_starts h3 fun M4 h4 => ?_)
      refine oGetA.i h4.obj rfl (oGetA.i h4.obj rfl (oIald.c (c := 23) rfl h4.now (by omega) (by decide) (st_now_c h4 (c := 23) rfl (by omega) fun M5 h5 => ?_)))
      refine oGetA.i h5.obj rfl (oIs.i h5.obj (S_visitAt (k := 3) rfl (oIs.i h5.obj (S_ofV3 h5 (by omega) (st_now_e h5 rfl (by omega) fun M6 h6 => ?_)))))
      have e6 : vP (upd N (23 + p) (N (23 + p) - k)) j 3 = vP N j 3 := upd_ne _ _ (by omega)
      rw [e6] at h6
      have h7 : TW G M0 M6 t f _ S D (extendN N j p k) _ T V H l B O := h6
      refine oIs.i h7.obj (S_ofV3 h7 (by omega) (oIs.i h7.obj (S_done h7 ((hg.upd (by unfold OKi; omega) _).upd (by unfold OKi; omega) _) hm (e8_0 e8 _) fun M8 h8 => ?_)))
      have ev : vP (extendN N j p k) j 3 = vP N j 3 + 60 * k := by unfold extendN vP; rw [upd_eq]
      rw [ev]
      exact hs rfl M8 h8
    · simp only [c2, Bool.false_eq_true, if_false] at hf h2
      rw [upd_upd] at h2
      exact hf (by decide) _ h2
  · simp only [c, Bool.false_eq_true, if_false] at hf h1
    exact hf (by decide) _ h1
theorem S_endVisit (h : TW G M0 M t f i S D N A T V H l B O) (hg : OK S N) (hm : m ≤ 10) (e8 : i 8 = nI m) {v : Int32} {Q : Int32 → wM → Prop} (hf : c_endVisit N v ≠ 0 → ∀ M1, TW G M0 M1 t f (upd i 0 (c_endVisit N v)) S D N A T V H l B O → Q 0 M1) (hs : c_endVisit N v = 0 → ∀ M1, TW G M0 M1 t f (upd (upd i 0 0) 8 (nI (keepN m))) S D (offF S (endN S N v.toNatClampNeg (vP N v.toNatClampNeg 0).toNatClampNeg)) (lay 0 1435 N A) T V (keepH m (lay 0 1435 N A) H) l B O → Q (backV S N v.toNatClampNeg (vP N v.toNatClampNeg 0).toNatClampNeg) M1) : P_X4_endVisit G t v M Q := by
  have hb := hg.b
  unfold c_endVisit at hf hs
  refine oIs.i h.obj (S_isVisit h (oIs.i h.obj (S_is h fun M1 h1 => bl _ (fun c => ?_) (fun c => ?_))))
  · simp only [c, if_true] at hf hs h1
    obtain ⟨j, hj, rfl⟩ := inR_nI (by omega) (hg.2.2.1.1 ▸ c)
    obtain ⟨p, hp, ep⟩ := hg.2.2.2.2.2.2.1 j hj
    rw [nI_clamp (by omega)] at hf hs
    rw [ep, nI_clamp (by omega)] at hs
    refine oIs.i h1.obj (S_runs h1 (by omega) (oIs.i h1.obj (S_may h1 fun M2 h2 => bl _ (fun c2 => ?_) (fun c2 => ?_))))
    · simp only [c2, if_true] at hf hs h2
      rw [upd_upd] at h2
      refine oIs.i h2.obj (S_starts h2 fun M4 h4 => ?_)
      refine oIs.i h4.obj (S_ofV0 h4 (by omega) ?_)
      rw [ep]
      refine oGetA.i h4.obj rfl (oIald.c (c := 23) rfl h4.now (by omega) (by decide) (oIs.i h4.obj (S_ofV3 h4 (by omega) (oGetA.i h4.obj rfl (oIald.e (i := 0) rfl h4.now (by decide) (by decide) (oGetA.i h4.obj rfl (oGetA.i h4.obj rfl (oIald.c (c := 95) rfl h4.set (by omega) (by decide) ?_))))))))
      have fin : ∀ b, backV S N j p = b → B_X4_endVisit_99 G Q t (nI j) (nI p) b (23 + nI p) (f 3) M4 := fun b eb => by
        refine st_now_c h4 (c := 23) rfl (by omega) fun M5 h5 => ?_
        refine oGetA.i h5.obj rfl (oIs.i h5.obj (S_visitAt (k := 3) rfl (oGetA.i h5.obj rfl (oIald.e (i := 0) rfl h5.now (by decide) (by decide) (st_now_e h5 rfl (by omega) fun M6 h6 => ?_)))))
        rw [upd_ne _ _ (show 0 ≠ 23 + p by omega), ← eb] at h6
        have h7 : TW G M0 M6 t f _ S D (endN S N j p) _ T V H l B O := h6
        refine oGetA.i h7.obj rfl (oIald.c (c := 23) rfl h7.now (by omega) (by decide) (oIs.i h7.obj (S_done h7 ((hg.upd (by unfold OKi; omega) _).upd (by unfold OKi; omega) _) hm (e8_0 e8 _) fun M8 h8 => ?_)))
        have ev : endN S N j p (23 + p) = backV S N j p := by unfold endN; rw [upd_ne _ _ (by omega), upd_eq]
        rw [ev]
        exact hs trivial M8 h8
      refine oIf.c (fun c3 => fin _ (by unfold backV; rw [if_pos c3])) (fun c3 => ?_)
      exact oGetA.i h4.obj rfl (oIald.c (c := 95) rfl h4.set (by omega) (by decide) (fin _ (by unfold backV; rw [if_neg c3])))
    · simp only [c2, Bool.false_eq_true, if_false] at hf h2
      rw [upd_upd] at h2
      exact hf (by decide) _ h2
  · simp only [c, Bool.false_eq_true, if_false] at hf h1
    exact hf (by decide) _ h1
theorem S_park (h : TW G M0 M t f i S D N A T V H l B O) (hg : OK S N) (hm : m ≤ 10) (e8 : i 8 = nI m) {x s : Int32} {Q : Int32 → wM → Prop} (hf : c_park S N x s ≠ 0 → ∀ M1, TW G M0 M1 t f (upd i 0 (c_park S N x s)) S D N A T V H l B O → Q 0 M1) (hs : c_park S N x s = 0 → ∀ M1, TW G M0 M1 t f (upd (upd i 0 0) 8 (nI (keepN m))) S D (offF S (parkN N x s)) (lay 0 1435 N A) T V (keepH m (lay 0 1435 N A) H) l B O → Q (nI (carsIn (parkN N x s) s)) M1) : P_X4_park G t x s M Q := by
  have hb := hg.b
  unfold c_park at hf hs
  refine oIs.i h.obj (S_isStreet h (oIs.i h.obj (S_is h fun M1 h1 => bl _ (fun c => ?_) (fun c => ?_))))
  · simp only [c, if_true] at hf hs h1
    obtain ⟨k, hk, rfl⟩ := inR_nI (by omega) (hg.1.2.1.1 ▸ c)
    rw [nI_clamp (by omega)] at hf hs
    refine S_isPlate (oIs.i h1.obj (S_may h1 fun M2 h2 => bl _ (fun c2 => ?_) (fun c2 => ?_)))
    · simp only [c2, if_true] at hf hs h2
      rw [upd_upd] at h2
      have no : ¬ (carOf N x = -1 ∧ ¬ freeIn S N k ≤ 0 ∧ nc N < 80) → B_X4_park_59 G Q t x (nI k) t M2 := fun e => by
        rw [if_neg e] at hf
        refine oIs.i h2.obj (S_may (b := false) h2 fun M3 h3 => oIf.n (by decide) ?_)
        rw [upd_upd] at h3
        exact hf (by decide) _ h3
      refine oIs.i h2.obj (S_carOf h2 hg (oIf.c (fun c3 => ?_) (fun c3 => no (fun z => c3 z.1))))
      refine oIs.i h2.obj (S_freeIn h2 hg (by omega) (oIf.c (fun c4 => no (fun z => z.2.1 c4)) (fun c4 => ?_)))
      refine oGetA.i h2.obj rfl (rd_nc h2 hg (oIf.c (fun c5 => no (fun z => ?_)) (fun c5 => ?_)))
      · have := (nI_leI (a := 80) (b := nc N) (by decide) (by omega)).mp c5; omega
      have hn : nc N < 80 := by
        have := mt (nI_leI (a := 80) (b := nc N) (by decide) (by omega)).mpr c5; omega
      rw [if_pos ⟨c3, c4, hn⟩] at hs
      refine oIs.i h2.obj (S_may (b := true) h2 fun M3 h3 => oIf.y rfl ?_)
      rw [upd_upd] at h3
      refine oIs.i h3.obj (S_starts h3 fun M4 h4 => ?_)
      refine oGetA.i h4.obj rfl (rd_nc h4 hg (oGetA.i h4.obj rfl ?_))
      refine st_now_e h4 (j := 3) rfl (by decide) fun M5 h5 => ?_
      refine oGetA.i h5.obj rfl (oIs.i h5.obj (S_carAt (k := 0) rfl (st_now_e h5 rfl (by omega) fun M6 h6 => ?_)))
      refine oGetA.i h6.obj rfl (oIs.i h6.obj (S_carAt (k := 1) rfl (st_now_e h6 rfl (by omega) fun M7 h7 => ?_)))
      refine oGetA.i h7.obj rfl (oIs.i h7.obj (S_carAt (k := 2) rfl (oGetA.i h7.obj rfl (oIald.e (i := 0) rfl h7.now (by decide) (by decide) (st_now_e h7 rfl (by omega) fun M8 h8 => ?_)))))
      rw [upd_ne _ _ (show 0 ≠ 700 + 3 * nc N + 1 by omega), upd_ne _ _ (show 0 ≠ 700 + 3 * nc N + 0 by omega), upd_ne _ _ (show 0 ≠ 3 by omega)] at h8
      have e1 : nI (nc N) + 1 = N 3 + 1 := by rw [hg.2.2.2.1.1]
      rw [e1] at h8
      have h9 : TW G M0 M8 t f _ S D (parkN N x (nI k)) _ T V H l B O := h8
      have hg9 : OK S (parkN N x (nI k)) := parkN_ok hg hk hn
      exact oIs.i h9.obj (S_carsIn h9 hg9 (oIs.i h9.obj (S_done h9 hg9 hm (e8_0 e8 _) fun M13 h13 => hs rfl M13 h13)))
    · simp only [c2, Bool.false_eq_true, if_false] at hf h2
      rw [upd_upd] at h2
      exact hf (by decide) _ h2
  · simp only [c, Bool.false_eq_true, if_false] at hf h1
    exact hf (by decide) _ h1
theorem S_leave (h : TW G M0 M t f i S D N A T V H l B O) (hg : OK S N) (hm : m ≤ 10) (e8 : i 8 = nI m) {x : Int32} {Q : Int32 → wM → Prop} (hf : c_leave N x ≠ 0 → ∀ M1, TW G M0 M1 t f (upd i 0 (c_leave N x)) S D N A T V H l B O → Q 0 M1) (hs : c_leave N x = 0 → ∀ M1, TW G M0 M1 t f (upd (upd i 0 0) 8 (nI (keepN m))) S D (offF S (leaveN N (carOf N x).toNatClampNeg)) (lay 0 1435 N A) T V (keepH m (lay 0 1435 N A) H) l B O → Q (N 0 - cP N (carOf N x).toNatClampNeg 2) M1) : P_X4_leave G t x M Q := by
  have hb := hg.b
  unfold c_leave at hf hs
  refine oIs.i h.obj (S_carOf h hg (oIf.c (fun c => ?_) (fun c => ?_)))
  · rw [if_pos c] at hf
    exact oIs.i h.obj (S_is (b := false) h fun M1 h1 => oIf.n (by decide) (hf (by decide) _ h1))
  · rw [if_neg c] at hs
    rcases carOf_v hb.2.2.1 x with e | ⟨k, hk, e, -⟩
    · exact absurd e c
    rw [e] at hs ⊢
    rw [nI_clamp (by omega)] at hs
    refine oIs.i h.obj (S_is (b := true) h fun M1 h1 => oIf.y rfl ?_)
    refine oIs.i h1.obj (S_starts h1 fun M4 h4 => ?_)
    refine oGetA.i h4.obj rfl (oIald.e (i := 0) rfl h4.now (by decide) (by decide) (oIs.i h4.obj (S_ofC2 h4 (by omega) (oGetA.i h4.obj rfl (oGetA.i h4.obj rfl (rd_nc h4 hg ?_))))))
    refine st_now_e h4 (j := 3) rfl (by decide) fun M5 h5 => oIs.i h5.obj (S_carAt (k := 0) rfl ?_)
    have e3 : nI (nc N) - 1 = N 3 - 1 := by rw [hg.2.2.2.1.1]
    rw [e3] at h5
    have e3' : N 3 - 1 = nI (nc N - 1) := by rw [← e3, show (1 : Int32) = nI 1 from rfl, nI_sub (by omega)]
    generalize hN1 : upd N 3 (N 3 - 1) = N1 at h5
    have r3 : N1 3 = nI (nc N - 1) := by rw [← hN1, upd_eq, e3']
    have key := st_loop (F := fun n' d => ∀ M6, TW G M0 M6 t f (upd i 0 (if true then 0 else 1)) S D (shiftC N1 (700 + 3 * k + 0) (700 + 3 * k + 0 + d)) (lay 0 1435 N A) T V H l B O → L_X4_leave_65 G Q n' t (N 0 - cP N k 2) (nI (700 + 3 * k + 0 + d)) M6) (N := 3 * (nc N - 1 - k)) (fun n' M6 h6 => ?_) (fun n' d hd ih M6 h6 => ?_) 0 (Nat.zero_le _)
    · obtain ⟨n', hn'⟩ := key
      exact ⟨n', hn' M5 (by rw [Nat.add_zero, shiftC_0]; exact h5)⟩
    · unfold L_X4_leave_65; unfold B_X4_leave_65
      have q3 : shiftC N1 (700 + 3 * k + 0) (700 + 3 * k + 0 + 3 * (nc N - 1 - k)) 3 = nI (nc N - 1) := by unfold shiftC; rw [if_neg (by omega)]; exact r3
      refine oGetA.i h6.obj rfl (oIald.e (i := 3) rfl h6.now (by decide) (by decide) ?_)
      rw [q3]
      refine oIs.i h6.obj (S_carAt (k := 0) rfl (oIf.y (nI_le (by omega) (by omega)) ?_))
      have eN : shiftC N1 (700 + 3 * k + 0) (700 + 3 * k + 0 + 3 * (nc N - 1 - k)) = leaveN N k := by
        unfold leaveN; rw [hN1]; congr 1; omega
      rw [eN] at h6
      exact oIs.i h6.obj (S_done h6 (leaveN_ok hg hk) hm (e8_0 e8 _) fun M13 h13 => hs rfl M13 h13)
    · unfold L_X4_leave_65; unfold B_X4_leave_65
      have q3 : shiftC N1 (700 + 3 * k + 0) (700 + 3 * k + 0 + d) 3 = nI (nc N - 1) := by unfold shiftC; rw [if_neg (by omega)]; exact r3
      refine oGetA.i h6.obj rfl (oIald.e (i := 3) rfl h6.now (by decide) (by decide) ?_)
      rw [q3]
      refine oIs.i h6.obj (S_carAt (k := 0) rfl (oIf.n (nI_ge (by omega) (by omega)) ?_))
      refine oGetA.i h6.obj rfl (oGetA.i h6.obj rfl (oIald.e (i := 700 + 3 * k + 0 + d + 3) (by rw [show (3 : Int32) = nI 3 from rfl, nI_add]) h6.now (by omega) (by decide) (st_now_e h6 rfl (by omega) fun M7 h7 => ?_)))
      have e4 : shiftC N1 (700 + 3 * k + 0) (700 + 3 * k + 0 + d) (700 + 3 * k + 0 + d + 3) = N1 (700 + 3 * k + 0 + d + 3) := by unfold shiftC; rw [if_neg (by omega)]
      rw [e4, shiftC_s N1 (by omega)] at h7
      rw [nI_1]
      exact ih M7 h7
end TW7
