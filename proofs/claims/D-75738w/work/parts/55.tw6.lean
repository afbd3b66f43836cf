set_option maxRecDepth 100000
/-! STAGE 2, the twin: calls that change the books -/
section TW6
variable {G : wG} {M0 M : wM} {t : Nat} {f : Nat → Nat} {i S D N A T V H : Nat → Int32} {l : Nat → Nat → Int64} {B O : Nat → Int32} {m : Nat}
theorem e8_0 (e : i 8 = nI m) (c : Int32) : upd i 0 c 8 = nI m := (upd_ne i c (by decide)).trans e
theorem S_pass (h : TW G M0 M t f i S D N A T V H l B O) (hg : OK S N) (hm : m ≤ 10) (e8 : i 8 = nI m) {x : Int32} (d : Nat) (hd : goEnds S (N 0 + x) d N) {Q : Int32 → wM → Prop} (hf : c_pass x ≠ 0 → ∀ M1, TW G M0 M1 t f (upd i 0 (c_pass x)) S D N A T V H l B O → Q 0 M1) (hs : c_pass x = 0 → ∀ M1, TW G M0 M1 t f (upd (upd i 0 0) 8 (nI (keepN m))) S D (goF S (N 0 + x) d N) (lay 0 1435 N A) T V (keepH m (lay 0 1435 N A) H) l B O → Q (goF S (N 0 + x) d N 0) M1) : P_X4_pass G t x M Q := by
  unfold c_pass at hf hs
  refine S_isIn (lo := 1) (hi := 20160) (oIs.i h.obj (S_is h fun M1 h1 => bl _ (fun c => ?_) (fun c => ?_)))
  · simp only [c, if_true] at hs h1
    refine oIs.i h1.obj (S_starts h1 fun M2 h2 => oGetA.i h2.obj rfl (oIald.e (i := 0) rfl h2.now (by decide) (by decide) (oIs.i h2.obj (S_goesTo h2 hg d hd fun M3 h3 => oIs.i h3.obj (S_keeps h3 hm (e8_0 e8 _) fun M4 h4 => ?_)))))
    exact oGetA.i h4.obj rfl (oIald.e (i := 0) rfl h4.now (by decide) (by decide) (hs trivial M4 h4))
  · simp only [c, Bool.false_eq_true, if_false] at hf h1
    exact hf (by decide) _ h1
theorem S_apply (h : TW G M0 M t f i S D N A T V H l B O) (hg : OK S N) (hm : m ≤ 10) (e8 : i 8 = nI m) {p x : Int32} {Q : Int32 → wM → Prop} (hf : c_apply S N p x ≠ 0 → ∀ M1, TW G M0 M1 t f (upd i 0 (c_apply S N p x)) S D N A T V H l B O → Q 0 M1) (hs : c_apply S N p x = 0 → ∀ M1, TW G M0 M1 t f (upd (upd i 0 0) 8 (nI (keepN m))) S D (offF S (applyN N p x)) (lay 0 1435 N A) T V (keepH m (lay 0 1435 N A) H) l B O → Q (nI (np N)) M1) : P_X4_apply G t p x M Q := by
  have hb := hg.b
  unfold c_apply at hf hs
  refine oIs.i h.obj (S_isHouse h (oIs.i h.obj (S_is h fun M1 h1 => bl _ (fun c => ?_) (fun c => ?_))))
  · simp only [c, if_true] at hf hs h1
    refine S_isPlate (oIs.i h1.obj (S_may h1 fun M2 h2 => bl _ (fun c2 => ?_) (fun c2 => ?_)))
    · simp only [c2, if_true] at hf hs h2
      rw [upd_upd] at h2
      obtain ⟨k, hk, rfl⟩ := inR_nI (by omega) (hg.1.2.2.1.1 ▸ c)
      rw [nI_clamp (by omega)] at hf hs
      have no : ¬ (nI (activeH N (nI k)) < S (79 + k) ∧ activeP N x = -1 ∧ np N < 60) → B_X4_apply_69 G Q t (nI k) x 0 t M2 := fun e => by
        rw [if_neg e] at hf
        refine oIs.i h2.obj (S_may (b := false) h2 fun M3 h3 => oIf.n (by decide) ?_)
        rw [upd_upd] at h3
        exact hf (by decide) _ h3
      refine oIs.i h2.obj (S_activeOfHouse h2 hg (oGetA.i h2.obj rfl (oIald.c (c := 79) rfl h2.set (by omega) (by decide) (oIf.c (fun c3 => no (fun z => absurd z.1 (Int32.not_lt.mpr c3))) (fun c3 => ?_)))))
      refine oIs.i h2.obj (S_activeOf h2 hg (oIf.c (fun c4 => ?_) (fun c4 => no (fun z => c4 z.2.1))))
      refine oGetA.i h2.obj rfl (rd_np h2 hg (oIf.c (fun c5 => no (fun z => ?_)) (fun c5 => ?_)))
      · have := (nI_leI (a := 60) (b := np N) (by decide) (by omega)).mp c5; omega
      have hn : np N < 60 := by
        have := mt (nI_leI (a := 60) (b := np N) (by decide) (by omega)).mpr c5; omega
      rw [if_pos ⟨Int32.not_le.mp c3, c4, hn⟩] at hs
      refine oIs.i h2.obj (S_may (b := true) h2 fun M3 h3 => oIf.y rfl ?_)
      rw [upd_upd] at h3
      refine oIs.i h3.obj (S_starts h3 fun M4 h4 => ?_)
      refine oGetA.i h4.obj rfl (rd_np h4 hg (oGetA.i h4.obj rfl ?_))
      refine st_now_e h4 (j := 1) rfl (by decide) fun M5 h5 => ?_
      refine oGetA.i h5.obj rfl (oIs.i h5.obj (S_permitAt (k := 0) rfl (st_now_e h5 rfl (by omega) fun M6 h6 => ?_)))
      refine oGetA.i h6.obj rfl (oIs.i h6.obj (S_permitAt (k := 1) rfl (st_now_e h6 rfl (by omega) fun M7 h7 => ?_)))
      refine oGetA.i h7.obj rfl (oIs.i h7.obj (S_permitAt (k := 2) rfl (st_now_e h7 rfl (by omega) fun M8 h8 => ?_)))
      refine oGetA.i h8.obj rfl (oIs.i h8.obj (S_permitAt (k := 3) rfl (oGetA.i h8.obj rfl (oIald.e (i := 0) rfl h8.now (by decide) (by decide) (st_now_e h8 rfl (by omega) fun M9 h9 => ?_)))))
      refine oGetA.i h9.obj rfl (oIs.i h9.obj (S_permitAt (k := 4) rfl (st_now_e h9 rfl (by omega) fun M10 h10 => ?_)))
      refine oGetA.i h10.obj rfl (oIs.i h10.obj (S_permitAt (k := 5) rfl (st_now_e h10 rfl (by omega) fun M11 h11 => ?_)))
      refine oGetA.i h11.obj rfl (oIs.i h11.obj (S_permitAt (k := 6) rfl (st_now_e h11 rfl (by omega) fun M12 h12 => ?_)))
      rw [upd_ne _ _ (show 0 ≠ 40 + 7 * np N + 2 by omega), upd_ne _ _ (show 0 ≠ 40 + 7 * np N + 1 by omega), upd_ne _ _ (show 0 ≠ 40 + 7 * np N + 0 by omega), upd_ne _ _ (show 0 ≠ 1 by omega)] at h12
      have e1 : nI (np N) + 1 = N 1 + 1 := by rw [hg.2.1.1]
      rw [e1] at h12
      exact oIs.i h12.obj (S_done (show TW G M0 M12 t f _ S D (applyN N (nI k) x) _ T V H l B O from h12) (applyN_ok hg hk hn) hm (e8_0 e8 _) fun M13 h13 => hs rfl M13 h13)
    · simp only [c2, Bool.false_eq_true, if_false] at hf h2
      rw [upd_upd] at h2
      exact hf (by decide) _ h2
  · simp only [c, Bool.false_eq_true, if_false] at hf h1
    exact hf (by decide) _ h1
theorem S_accept (h : TW G M0 M t f i S D N A T V H l B O) (hg : OK S N) (hm : m ≤ 10) (e8 : i 8 = nI m) {p : Int32} {Q : Int32 → wM → Prop} (hf : c_accept N p ≠ 0 → ∀ M1, TW G M0 M1 t f (upd i 0 (c_accept N p)) S D N A T V H l B O → Q 0 M1) (hs : c_accept N p = 0 → ∀ M1, TW G M0 M1 t f (upd (upd i 0 0) 8 (nI (keepN m))) S D (offF S (acceptN S N p.toNatClampNeg)) (lay 0 1435 N A) T V (keepH m (lay 0 1435 N A) H) l B O → Q (N 0 + 1440 * S 111) M1) : P_X4_accept G t p M Q := by
  have hb := hg.b
  unfold c_accept at hf hs
  refine oIs.i h.obj (S_isPermit h (oIs.i h.obj (S_is h fun M1 h1 => bl _ (fun c => ?_) (fun c => ?_))))
  · simp only [c, if_true] at hf hs h1
    obtain ⟨k, hk, rfl⟩ := inR_nI (by omega) (hg.2.1.1 ▸ c)
    rw [nI_clamp (by omega)] at hf hs
    refine oIs.i h1.obj (S_ofP2 h1 (by omega) (oIf.c (fun c2 => ?_) (fun c2 => ?_)))
    · rw [if_pos c2] at hs
      refine oIs.i h1.obj (S_may (b := true) h1 fun M3 h3 => oIf.y rfl ?_)
      rw [upd_upd] at h3
      refine oIs.i h3.obj (S_starts h3 fun M4 h4 => ?_)
      refine oGetA.i h4.obj rfl (oIs.i h4.obj (S_permitAt (k := 2) rfl (st_now_e h4 rfl (by omega) fun M5 h5 => ?_)))
      refine oGetA.i h5.obj rfl (oIs.i h5.obj (S_permitAt (k := 4) rfl (oGetA.i h5.obj rfl (oIald.e (i := 0) rfl h5.now (by decide) (by decide) (oGetA.i h5.obj rfl (oIald.e (i := 111) rfl h5.set (by decide) (by decide) (st_now_e h5 rfl (by omega) fun M6 h6 => ?_)))))))
      rw [upd_ne _ _ (show 0 ≠ 40 + 7 * k + 2 by omega)] at h6
      have h7 : TW G M0 M6 t f _ S D (acceptN S N k) _ T V H l B O := h6
      refine oIs.i h7.obj (S_ofP4 h7 (by omega) (oIs.i h7.obj (S_done h7 ((hg.upd (by unfold OKi; omega) _).upd (by unfold OKi; omega) _) hm (e8_0 e8 _) fun M8 h8 => ?_)))
      have ev : pP (acceptN S N k) k 4 = N 0 + 1440 * S 111 := by unfold acceptN pP; rw [upd_eq]
      rw [ev]
      exact hs rfl M8 h8
    · rw [if_neg c2] at hf
      refine oIs.i h1.obj (S_may (b := false) h1 fun M3 h3 => oIf.n (by decide) ?_)
      rw [upd_upd] at h3
      exact hf (by decide) _ h3
  · simp only [c, Bool.false_eq_true, if_false] at hf h1
    exact hf (by decide) _ h1
theorem S_renew (h : TW G M0 M t f i S D N A T V H l B O) (hg : OK S N) (hm : m ≤ 10) (e8 : i 8 = nI m) {p : Int32} {Q : Int32 → wM → Prop} (hf : c_renew S N p ≠ 0 → ∀ M1, TW G M0 M1 t f (upd i 0 (c_renew S N p)) S D N A T V H l B O → Q 0 M1) (hs : c_renew S N p = 0 → ∀ M1, TW G M0 M1 t f (upd (upd i 0 0) 8 (nI (keepN m))) S D (offF S (renewN S N p.toNatClampNeg)) (lay 0 1435 N A) T V (keepH m (lay 0 1435 N A) H) l B O → Q (pP N p.toNatClampNeg 4 + 1440 * S 111) M1) : P_X4_renew G t p M Q := by
  have hb := hg.b
  unfold c_renew at hf hs
  refine oIs.i h.obj (S_isPermit h (oIs.i h.obj (S_is h fun M1 h1 => bl _ (fun c => ?_) (fun c => ?_))))
  · simp only [c, if_true] at hf hs h1
    obtain ⟨k, hk, rfl⟩ := inR_nI (by omega) (hg.2.1.1 ▸ c)
    rw [nI_clamp (by omega)] at hf hs
    have no : ¬ (pP N k 2 = 2 ∧ pP N k 4 ≤ N 0 + 1440 * S 113) → B_X4_renew_54 G Q t (nI k) t M1 := fun e => by
      rw [if_neg e] at hf
      refine oIs.i h1.obj (S_may (b := false) h1 fun M3 h3 => oIf.n (by decide) ?_)
      rw [upd_upd] at h3
      exact hf (by decide) _ h3
    refine oIs.i h1.obj (S_ofP2 h1 (by omega) (oIf.c (fun c2 => ?_) (fun c2 => no (fun z => c2 z.1))))
    refine oIs.i h1.obj (S_ofP4 h1 (by omega) (oGetA.i h1.obj rfl (oIald.e (i := 0) rfl h1.now (by decide) (by decide) (oGetA.i h1.obj rfl (oIald.e (i := 113) rfl h1.set (by decide) (by decide) (oIf.c (fun c3 => no (fun z => absurd z.2 (Int32.not_le.mpr c3))) (fun c3 => ?_)))))))
    rw [if_pos ⟨c2, Int32.not_lt.mp c3⟩] at hs
    refine oIs.i h1.obj (S_may (b := true) h1 fun M3 h3 => oIf.y rfl ?_)
    rw [upd_upd] at h3
    refine oIs.i h3.obj (S_starts h3 fun M4 h4 => ?_)
    refine oGetA.i h4.obj rfl (oIs.i h4.obj (S_permitAt (k := 4) rfl (oIs.i h4.obj (S_ofP4 h4 (by omega) (oGetA.i h4.obj rfl (oIald.e (i := 111) rfl h4.set (by decide) (by decide) (st_now_e h4 rfl (by omega) fun M5 h5 => ?_)))))))
    refine oGetA.i h5.obj rfl (oIs.i h5.obj (S_permitAt (k := 6) rfl (oIs.i h5.obj (S_ofP6 h5 (by omega) (st_now_e h5 rfl (by omega) fun M6 h6 => ?_)))))
    have e6 : pP (upd N (40 + 7 * k + 4) (pP N k 4 + 1440 * S 111)) k 6 = pP N k 6 := by rw [pP_upd _ _ (by decide) (by decide), if_neg (by omega)]
    rw [e6] at h6
    have h7 : TW G M0 M6 t f _ S D (renewN S N k) _ T V H l B O := h6
    refine oIs.i h7.obj (S_ofP4 h7 (by omega) (oIs.i h7.obj (S_done h7 ((hg.upd (by unfold OKi; omega) _).upd (by unfold OKi; omega) _) hm (e8_0 e8 _) fun M8 h8 => ?_)))
    have ev : pP (renewN S N k) k 4 = pP N k 4 + 1440 * S 111 := by unfold renewN; rw [pP_upd _ _ (by decide) (by decide), if_neg (by omega), pP_upd _ _ (by decide) (by decide), if_pos ⟨rfl, rfl⟩]
    rw [ev]
    exact hs rfl M8 h8
  · simp only [c, Bool.false_eq_true, if_false] at hf h1
    exact hf (by decide) _ h1
theorem S_cancel (h : TW G M0 M t f i S D N A T V H l B O) (hg : OK S N) (hm : m ≤ 10) (e8 : i 8 = nI m) {p : Int32} {Q : Int32 → wM → Prop} (hf : c_cancel N p ≠ 0 → ∀ M1, TW G M0 M1 t f (upd i 0 (c_cancel N p)) S D N A T V H l B O → Q 0 M1) (hs : c_cancel N p = 0 → ∀ M1, TW G M0 M1 t f (upd (upd i 0 0) 8 (nI (keepN m))) S D (offF S (cancelN N p.toNatClampNeg)) (lay 0 1435 N A) T V (keepH m (lay 0 1435 N A) H) l B O → Q (pP N p.toNatClampNeg 2) M1) : P_X4_cancel G t p M Q := by
  have hb := hg.b
  unfold c_cancel at hf hs
  refine oIs.i h.obj (S_isPermit h (oIs.i h.obj (S_is h fun M1 h1 => bl _ (fun c => ?_) (fun c => ?_))))
  · simp only [c, if_true] at hf hs h1
    obtain ⟨k, hk, rfl⟩ := inR_nI (by omega) (hg.2.1.1 ▸ c)
    rw [nI_clamp (by omega)] at hf hs
    refine oIs.i h1.obj (S_isActive h1 (by omega) (oIs.i h1.obj (S_may h1 fun M3 h3 => ?_)))
    rw [upd_upd] at h3
    refine bl _ (fun c2 => ?_) (fun c2 => ?_)
    · rw [Bool.not_eq_true', decide_eq_false_iff_not] at c2
      rw [if_neg c2] at hs
      rw [decide_eq_false c2] at h3
      simp only [Bool.not_false, if_true] at h3
      refine oIs.i h3.obj (S_starts h3 fun M4 h4 => ?_)
      refine oIs.i h4.obj (S_ofP2 h4 (by omega) (oGetA.i h4.obj rfl (oIs.i h4.obj (S_permitAt (k := 2) rfl (st_now_e h4 rfl (by omega) fun M5 h5 => ?_)))))
      exact oIs.i h5.obj (S_done h5 (hg.upd (by unfold OKi; omega) _) hm (e8_0 e8 _) fun M8 h8 => hs rfl M8 h8)
    · rw [Bool.not_eq_false', decide_eq_true_eq] at c2
      rw [if_pos c2] at hf
      rw [decide_eq_true c2] at h3
      exact hf (by decide) _ h3
  · simp only [c, Bool.false_eq_true, if_false] at hf h1
    exact hf (by decide) _ h1
theorem S_setLimit (h : TW G M0 M t f i S D N A T V H l B O) (hg : OK S N) (hm : m ≤ 10) (e8 : i 8 = nI m) {z x : Int32} {Q : Int32 → wM → Prop} (hf : c_setLimit S N z x ≠ 0 → ∀ M1, TW G M0 M1 t f (upd i 0 (c_setLimit S N z x)) S D N A T V H l B O → Q 0 M1) (hs : c_setLimit S N z x = 0 → ∀ M1, TW G M0 M1 t f (upd (upd i 0 0) 8 (nI (keepN m))) S D (offF S (limitN N z.toNatClampNeg x)) (lay 0 1435 N A) T V (keepH m (lay 0 1435 N A) H) l B O → Q (N (5 + z.toNatClampNeg)) M1) : P_X4_setLimit G t z x M Q := by
  have hb := hg.b
  unfold c_setLimit at hf hs
  refine oIs.i h.obj (S_isZone h (oIs.i h.obj (S_is h fun M1 h1 => bl _ (fun c => ?_) (fun c => ?_))))
  · simp only [c, if_true] at hf hs h1
    refine S_isIn (lo := 0) (hi := 40) (oIs.i h1.obj (S_may h1 fun M2 h2 => bl _ (fun c2 => ?_) (fun c2 => ?_)))
    · simp only [c2, if_true] at hf hs h2
      rw [upd_upd] at h2
      obtain ⟨k, hk, rfl⟩ := inR_nI (by omega) (hg.1.1.1 ▸ c)
      rw [nI_clamp (by omega)] at hs
      refine oIs.i h2.obj (S_taken h2 hg (oIf.c (fun c3 => ?_) (fun c3 => ?_)))
      · rw [if_neg (Int32.not_le.mpr c3)] at hf
        refine oIs.i h2.obj (S_may (b := false) h2 fun M3 h3 => oIf.n (by decide) ?_)
        rw [upd_upd] at h3
        exact hf (by decide) _ h3
      · rw [if_pos (Int32.not_lt.mp c3)] at hs
        refine oIs.i h2.obj (S_may (b := true) h2 fun M3 h3 => oIf.y rfl ?_)
        rw [upd_upd] at h3
        refine oIs.i h3.obj (S_starts h3 fun M4 h4 => oGetA.i h4.obj rfl (oIald.c (c := 5) rfl h4.now (by omega) (by decide) (oGetA.i h4.obj rfl (st_now_c h4 (c := 5) rfl (by omega) fun M5 h5 => ?_))))
        exact oIs.i h5.obj (S_done h5 (hg.upd (by unfold OKi; omega) _) hm (e8_0 e8 _) fun M8 h8 => hs rfl M8 h8)
    · simp only [c2, Bool.false_eq_true, if_false] at hf h2
      rw [upd_upd] at h2
      exact hf (by decide) _ h2
  · simp only [c, Bool.false_eq_true, if_false] at hf h1
    exact hf (by decide) _ h1
end TW6
