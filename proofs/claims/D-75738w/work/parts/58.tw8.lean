set_option maxRecDepth 100000
/-! STAGE 2, the twin: inspections, appeals, undo, forecasts -/
section TW8
variable {G : wG} {M0 M : wM} {t : Nat} {f : Nat → Nat} {i S D N A T V H : Nat → Int32} {l : Nat → Nat → Int64} {B O : Nat → Int32} {m : Nat}
theorem S_inspect (h : TW G M0 M t f i S D N A T V H l B O) (hg : OK S N) (hv : VB N) (hft : FT N) (hm : m ≤ 10) (e8 : i 8 = nI m) {s : Int32} {Q : Int32 → wM → Prop} (hf : c_inspect S s ≠ 0 → ∀ M1, TW G M0 M1 t f (upd i 0 (c_inspect S s)) S D N A T V H l B O → Q 0 M1) (hs : c_inspect S s = 0 → ∀ M1, TW G M0 M1 t f (upd (upd i 0 0) 8 (nI (keepN m))) S D (offF S (inspN S N s)) (lay 0 1435 N A) T V (keepH m (lay 0 1435 N A) H) l B O → Q (nI (nf (inspN S N s)) - nI (nf N)) M1) : P_X4_inspect G t s M Q := by
  have hb := hg.b
  unfold c_inspect at hf hs
  refine oIs.i h.obj (S_isStreet h (oIs.i h.obj (S_is h fun M1 h1 => bl _ (fun c => ?_) (fun c => ?_))))
  · simp only [c, if_true] at hs h1
    refine oIs.i h1.obj (S_starts h1 fun M4 h4 => oGetA.i h4.obj rfl (rd_nf h4 hg ?_))
    have key := st_loop (F := fun n' k => ∀ M6, TW G M0 M6 t f (upd i 0 0) S D (fo (inspS S s) N k) (lay 0 1435 N A) T V H l B O → L_X4_inspect_27 G Q n' t s (nI (nf N)) (nI k) M6) (N := nc N) (fun n' M6 h6 => ?_) (fun n' k hk ih M6 h6 => ?_) 0 (Nat.zero_le _)
    · obtain ⟨n', hn'⟩ := key
      exact ⟨n', hn' M4 h4⟩
    · unfold L_X4_inspect_27; unfold B_X4_inspect_27
      obtain ⟨q1, q2, q3, q4, q5, q6⟩ := inspI_k (s := s) hg hv hft (nc N) (Nat.le_refl _)
      refine oGetA.i h6.obj rfl (rd_nc h6 q1 ?_)
      rw [q4]
      refine oIf.y (nI_le (Nat.le_refl _) (by omega)) (oGetA.i h6.obj rfl (rd_nf h6 q1 (oIs.i h6.obj (S_done h6 q1 hm (e8_0 e8 _) fun M8 h8 => ?_))))
      exact hs trivial M8 h8
    · unfold L_X4_inspect_27; unfold B_X4_inspect_27
      obtain ⟨q1, q2, q3, q4, q5, q6⟩ := inspI_k (s := s) hg hv hft k (by omega)
      have hb1 := q1.b
      have e0 : fo (inspS S s) N (k + 1) = inspS S s k (fo (inspS S s) N k) := rfl
      rw [e0] at ih
      generalize fo (inspS S s) N k = N1 at *
      unfold inspS at ih
      have no : ¬ (cP N1 k 1 = s ∧ ¬ N1 4 = 99 ∧ ¬ finedC S N1 k = 0) → B_X4_inspect_170 G (L_X4_inspect_27 G Q n') Q t s (nI (nf N)) (nI k) M6 := fun e => by
        rw [if_neg e] at ih
        unfold B_X4_inspect_170; rw [nI_1]; exact ih M6 h6
      refine oGetA.i h6.obj rfl (rd_nc h6 q1 ?_)
      rw [q4]
      refine oIf.n (nI_ge hk (by omega)) (oIs.i h6.obj (S_ofC1 h6 (by omega) (oIf.c (fun c1 => ?_) (fun c1 => no (fun z => c1 z.1)))))
      refine oGetA.i h6.obj rfl (rd_nf h6 q1 (oIf.c (fun c2 => no (fun z => z.2.1 (q1.2.2.2.2.1.1.trans c2))) (fun c2 => ?_)))
      have hn : nf N1 < 99 := by
        have : nf N1 ≠ 99 := fun z => c2 (by rw [z]; rfl)
        omega
      refine oIs.i h6.obj (S_finedBy h6 q1 (by omega) (oIf.c (fun c3 => no (fun z => z.2.2 c3)) (fun c3 => ?_)))
      rw [if_pos ⟨c1, (fun z => c2 (q1.2.2.2.2.1.1.symm.trans z)), c3⟩] at ih
      refine oGetA.i h6.obj rfl (rd_nf h6 q1 (oGetA.i h6.obj rfl (st_now_e h6 (j := 4) rfl (by decide) fun M7 h7 => ?_)))
      refine oGetA.i h7.obj rfl (oIs.i h7.obj (S_fineAt (k := 0) rfl (oIs.i h7.obj (S_ofC0 h7 (by omega) (st_now_e h7 rfl (by omega) fun M8 h8 => ?_)))))
      refine oGetA.i h8.obj rfl (oIs.i h8.obj (S_fineAt (k := 1) rfl (st_now_e h8 rfl (by omega) fun M9 h9 => ?_)))
      refine oGetA.i h9.obj rfl (oIs.i h9.obj (S_fineAt (k := 2) rfl (oGetA.i h9.obj rfl (oIald.e (i := 0) rfl h9.now (by decide) (by decide) (st_now_e h9 rfl (by omega) fun M10 h10 => ?_)))))
      refine oGetA.i h10.obj rfl (oIs.i h10.obj (S_fineAt (k := 3) rfl (st_now_e h10 rfl (by omega) fun M11 h11 => ?_)))
      refine oGetA.i h11.obj rfl (oIs.i h11.obj (S_fineAt (k := 4) rfl (st_now_e h11 rfl (by omega) fun M12 h12 => ?_)))
      have ec : cP (upd N1 4 (nI (nf N1) + 1)) k 0 = cP N1 k 0 := upd_ne _ _ (by omega)
      rw [ec, upd_ne _ _ (show 0 ≠ 940 + 5 * nf N1 + 1 by omega), upd_ne _ _ (show 0 ≠ 940 + 5 * nf N1 + 0 by omega), upd_ne _ _ (show 0 ≠ 4 by omega)] at h12
      have e1 : nI (nf N1) + 1 = N1 4 + 1 := by rw [q1.2.2.2.2.1.1]
      rw [e1] at h12
      unfold B_X4_inspect_170; rw [nI_1]
      refine ih M12 ?_
      unfold fineN
      rw [c1]
      exact h12
  · simp only [c, Bool.false_eq_true, if_false] at hf h1
    exact hf (by decide) _ h1
theorem S_appeal (h : TW G M0 M t f i S D N A T V H l B O) (hg : OK S N) (hm : m ≤ 10) (e8 : i 8 = nI m) {k : Int32} {Q : Bool → wM → Prop} (hf : c_appeal N k ≠ 0 → ∀ M1, TW G M0 M1 t f (upd i 0 (c_appeal N k)) S D N A T V H l B O → Q false M1) (hs : c_appeal N k = 0 → ∀ M1, TW G M0 M1 t f (upd (upd i 0 0) 8 (nI (keepN m))) S D (offF S (appealN S N k.toNatClampNeg)) (lay 0 1435 N A) T V (keepH m (lay 0 1435 N A) H) l B O → Q (apIs S N k.toNatClampNeg) M1) : P_X4_appeal G t k M Q := by
  have hb := hg.b
  unfold c_appeal at hf hs
  refine oIs.i h.obj (S_isFine h (oIs.i h.obj (S_is h fun M1 h1 => bl _ (fun c => ?_) (fun c => ?_))))
  · simp only [c, if_true] at hf hs h1
    obtain ⟨j, hj, rfl⟩ := inR_nI (by omega) (hg.2.2.2.2.1.1 ▸ c)
    rw [nI_clamp (by omega)] at hf hs
    have no : ¬ (fP N j 4 = 0 ∧ ¬ 1440 < N 0 - fP N j 2) → B_X4_appeal_45 G Q t (nI j) t M1 := fun e => by
      rw [if_neg e] at hf
      refine oIs.i h1.obj (S_may (b := false) h1 fun M3 h3 => oIf.n (by decide) ?_)
      rw [upd_upd] at h3
      exact hf (by decide) _ h3
    refine oIs.i h1.obj (S_ofF4 h1 (by omega) (oIf.c (fun c2 => ?_) (fun c2 => no (fun z => c2 z.1))))
    refine oGetA.i h1.obj rfl (oIald.e (i := 0) rfl h1.now (by decide) (by decide) (oIs.i h1.obj (S_ofF2 h1 (by omega) (oIf.c (fun c3 => no (fun z => z.2 c3)) (fun c3 => ?_)))))
    rw [if_pos ⟨c2, c3⟩] at hs
    clear no hf
    refine oIs.i h1.obj (S_may (b := true) h1 fun M3 h3 => oIf.y rfl ?_)
    rw [upd_upd] at h3
    refine oIs.i h3.obj (S_starts h3 fun M4 h4 => ?_)
    obtain ⟨sv, hsv, esv⟩ := hg.2.2.2.2.2.2.2.2.1 j hj
    have fin : ∀ b, apIs S N j = b → B_X4_appeal_101 G Q t (nI j) (wb b) M4 := fun b eb => by
      have hs := hs rfl
      unfold appealN at hs
      rw [eb] at hs
      refine oGetA.i h4.obj rfl (oIs.i h4.obj (S_fineAt (k := 4) rfl ?_))
      cases b with
      | false =>
        refine oIf.y rfl (st_now_e h4 rfl (by omega) fun M5 h5 => ?_)
        refine oIs.i h5.obj (S_done h5 (hg.upd (by unfold OKi; omega) _) hm (e8_0 e8 _) fun M8 h8 => oIf.y rfl (oIf.y rfl ⟨false, rfl, hs M8 h8⟩))
      | true =>
        refine oIf.n (by decide) (st_now_e h4 rfl (by omega) fun M5 h5 => ?_)
        refine oIs.i h5.obj (S_done h5 (hg.upd (by unfold OKi; omega) _) hm (e8_0 e8 _) fun M8 h8 => oIf.y rfl (oIf.n (by decide) ⟨true, rfl, hs M8 h8⟩))
    have chk : (fP N j 3 = 1 ∨ fP N j 3 = 3) → B_X4_appeal_76 G Q t (nI j) M4 := fun e => by
      refine oIs.i h4.obj (S_ofF0 h4 (by omega) (oIs.i h4.obj (S_ofF1 h4 (by omega) ?_)))
      have e2 : (decide (fP N j 3 = 1) || decide (fP N j 3 = 3)) = true := by simpa using e
      unfold apIs at fin
      rw [e2, Bool.true_and, esv, nI_clamp (by omega)] at fin
      rw [esv]
      exact oIs.i h4.obj (S_hasThere h4 hg (by omega) (bl _ (fun z => fin true z) (fun z => fin false z)))
    refine oIs.i h4.obj (S_ofF3 h4 (by omega) (oIf.c (fun e => chk (.inl e)) (fun e => oIf.c (fun e2 => chk (.inr e2)) (fun e2 => fin false ?_))))
    unfold apIs
    rw [decide_eq_false e, decide_eq_false e2]; rfl
  · simp only [c, Bool.false_eq_true, if_false] at hf h1
    exact hf (by decide) _ h1
theorem S_suspend (h : TW G M0 M t f i S D N A T V H l B O) (hg : OK S N) (hm : m ≤ 10) (e8 : i 8 = nI m) {s : Int32} {b : Bool} {Q : Bool → wM → Prop} (hf : c_suspend S s ≠ 0 → ∀ M1, TW G M0 M1 t f (upd i 0 (c_suspend S s)) S D N A T V H l B O → Q false M1) (hs : c_suspend S s = 0 → ∀ M1, TW G M0 M1 t f (upd (upd i 0 0) 8 (nI (keepN m))) S D (offF S (suspN N s.toNatClampNeg (wb b))) (lay 0 1435 N A) T V (keepH m (lay 0 1435 N A) H) l B O → Q (decide (N (11 + s.toNatClampNeg) = 1)) M1) : P_X4_suspend G t s (wb b) M Q := by
  have hb := hg.b
  unfold c_suspend at hf hs
  refine oIs.i h.obj (S_isStreet h (oIs.i h.obj (S_is h fun M1 h1 => bl _ (fun c => ?_) (fun c => ?_))))
  · simp only [c, if_true] at hf hs h1
    obtain ⟨k, hk, rfl⟩ := inR_nI (by omega) (hg.1.2.1.1 ▸ c)
    rw [nI_clamp (by omega)] at hf hs
    refine oGetA.i h1.obj rfl (oIald.c (c := 51) rfl h1.set (by omega) (by decide) (oIf.c (fun c2 => ?_) (fun c2 => ?_)))
    · rw [if_pos c2] at hf
      refine oIs.i h1.obj (S_may (b := false) h1 fun M3 h3 => oIf.n (by decide) ?_)
      rw [upd_upd] at h3
      exact hf (by decide) _ h3
    · rw [if_neg c2] at hs
      refine oIs.i h1.obj (S_may (b := true) h1 fun M3 h3 => oIf.y rfl ?_)
      rw [upd_upd] at h3
      refine oIs.i h3.obj (S_starts h3 fun M4 h4 => oGetA.i h4.obj rfl (oIald.c (c := 11) rfl h4.now (by omega) (by decide) (oGetA.i h4.obj rfl ?_)))
      have fin : ∀ x, x = wb b → B_X4_suspend_71 G Q t (N (11 + k)) x (11 + nI k) (f 3) M4 := fun x ex => by
        refine st_now_c h4 (c := 11) rfl (by omega) fun M5 h5 => ?_
        rw [ex] at h5
        refine oIs.i h5.obj (S_done h5 (hg.upd (by unfold OKi; omega) _) hm (e8_0 e8 _) fun M8 h8 => ?_)
        have hq := hs rfl M8 h8
        refine oIf.c (fun e => ⟨true, rfl, ?_⟩) (fun e => ⟨false, rfl, ?_⟩)
        · rw [decide_eq_true e] at hq; exact hq
        · rw [decide_eq_false e] at hq; exact hq
      cases b with
      | false => exact oIf.y rfl (fin 0 rfl)
      | true => exact oIf.n (by decide) (fin 1 rfl)
  · simp only [c, Bool.false_eq_true, if_false] at hf h1
    exact hf (by decide) _ h1
theorem S_undo (h : TW G M0 M t f i S D N A T V H l B O) (hm : m ≤ 10) (e8 : i 8 = nI m) {Q : Int32 → wM → Prop} (hf : m = 0 → ∀ M1, TW G M0 M1 t f (upd i 0 1) S D N A T V H l B O → Q 0 M1) (hs : 0 < m → ∀ M1, TW G M0 M1 t f (upd (upd i 0 0) 8 (nI (m - 1))) S D (lay 0 1435 (rowH H (m - 1)) N) A T V H l B O → Q (nI (m - 1)) M1) : P_X4_undo G t M Q := by
  refine oGetI.i h.obj rfl ?_
  rw [e8]
  by_cases c : m = 0
  · subst c
    refine oIf.y (by decide) (oIs.i h.obj (S_is (b := false) h fun M1 h1 => oIf.n (by decide) (hf rfl _ h1)))
  · refine oIf.n (nI_nle (by omega) (by omega)) (oIs.i h.obj (S_is (b := true) h fun M1 h1 => oIf.y rfl ?_))
    refine oGetI.i h1.obj rfl ?_
    rw [e8_0 e8, show (1 : Int32) = nI 1 from rfl, nI_sub (by omega)]
    refine pt_8 h1 fun M2 h2 => ?_
    have key := st_loop (F := fun n k => ∀ M3, TW G M0 M3 t f (upd (upd i 0 0) 8 (nI (m - 1))) S D (lay 0 k (rowH H (m - 1)) N) A T V H l B O → L_X4_undo_33 G Q n t (nI k) M3) (N := 1435) (fun n M3 h3 => ?_) (fun n k hk ih M3 h3 => ?_) 0 (Nat.zero_le _)
    · obtain ⟨n, hn⟩ := key
      exact ⟨n, hn M2 (by rw [lay_0]; exact h2)⟩
    · unfold L_X4_undo_33; unfold B_X4_undo_33
      refine oIf.y (by decide) (oGetI.i h3.obj rfl ?_)
      rw [upd_eq]
      exact hs (by omega) M3 h3
    · unfold L_X4_undo_33; unfold B_X4_undo_33
      refine oIf.n (nI_ge hk (by decide)) (oGetA.i h3.obj rfl (oGetA.i h3.obj rfl (oGetI.i h3.obj rfl ?_)))
      rw [upd_eq]
      refine oIald.e (i := 1435 * (m - 1) + k) (by rw [show (1435 : Int32) = nI 1435 from rfl, nI_mul, nI_add]) h3.his (by omega) (by decide) ?_
      refine st_now_e h3 rfl hk fun M4 h4 => ?_
      have := lay0_s k (rowH H (m - 1)) N
      rw [show H (1435 * (m - 1) + k) = rowH H (m - 1) k from rfl, this] at h4
      rw [nI_1]
      exact ih M4 h4
theorem S_saveState (h : TW G M0 M t f i S D N A T V H l B O) {Q : Int32 → wM → Prop} (hs : ∀ M1, TW G M0 M1 t f (upd (upd i 0 0) 9 1) S D N A T (lay 0 1435 N V) H l B O → Q (N 0) M1) : P_X4_saveState G t M Q :=
  pt_0 h fun M1 h1 => oGetA.i h1.obj rfl (oGetA.i h1.obj rfl (S_copies_36 h1 fun M2 h2 => pt_9 h2 fun M3 h3 => oGetA.i h3.obj rfl (oIald.e (i := 0) rfl h3.now (by decide) (by decide) (hs M3 h3))))
theorem S_restoreState (h : TW G M0 M t f i S D N A T V H l B O) {b : Bool} (e9 : i 9 = wb b) {Q : Int32 → wM → Prop} (hf : b = false → ∀ M1, TW G M0 M1 t f (upd i 0 1) S D N A T V H l B O → Q 0 M1) (hs : b = true → ∀ M1, TW G M0 M1 t f (upd (upd i 0 0) 8 0) S D (lay 0 1435 V N) A T V H l B O → Q (lay 0 1435 V N 0) M1) : P_X4_restoreState G t M Q := by
  refine oGetI.i h.obj rfl ?_
  rw [e9]
  refine oIs.i h.obj (S_is h fun M1 h1 => bl _ (fun c => ?_) (fun c => ?_))
  · rw [c] at h1
    exact oGetA.i h1.obj rfl (oGetA.i h1.obj rfl (S_copies_63 h1 fun M2 h2 => pt_8 h2 fun M3 h3 => oGetA.i h3.obj rfl (oIald.e (i := 0) rfl h3.now (by decide) (by decide) (hs c M3 h3))))
  · rw [c] at h1
    exact hf c _ h1
/-- behind a forecast all is laid back -/
theorem S_offerIn (h : TW G M0 M t f i S D N A T V H l B O) (hg : OK S N) {p x : Int32} (hd : ∀ k, k < np N → p = nI k → pP N k 2 = 0 → oiEnds S k (N 0 + 1440 * x) fuelD N) {Q : Int32 → wM → Prop} (hf : c_offerIn N p x ≠ 0 → ∀ M1, TW G M0 M1 t f (upd i 0 (c_offerIn N p x)) S D N A T V H l B O → Q 0 M1) (hs : c_offerIn N p x = 0 → ∀ M1 N1 T1, EqR N N1 → TW G M0 M1 t f (upd i 0 0) S D N1 A T1 V H l B O → Q (v_offerIn S N p x) M1) : P_X4_offerIn G t p x M Q := by
  have hb := hg.b
  unfold c_offerIn at hf hs
  refine oIs.i h.obj (S_isPermit h (oIs.i h.obj (S_is h fun M1 h1 => bl _ (fun c => ?_) (fun c => ?_))))
  · simp only [c, if_true] at hf hs h1
    obtain ⟨k, hk, rfl⟩ := inR_nI (by omega) (hg.2.1.1 ▸ c)
    refine S_isIn (lo := 1) (hi := 60) (oIs.i h1.obj (S_may h1 fun M2 h2 => bl _ (fun c2 => ?_) (fun c2 => ?_)))
    · simp only [c2, if_true] at hs h2
      rw [upd_upd] at h2
      unfold v_offerIn at hs
      rw [nI_clamp (by omega)] at hs
      refine oIs.i h2.obj (S_ofP2 h2 (by omega) (oIf.c (fun c3 => ?_) (fun c3 => ?_)))
      · rw [if_pos c3] at hs
        refine oIs.i h2.obj (S_tries h2 fun M3 h3 => oGetA.i h3.obj rfl (oIald.e (i := 0) rfl h3.now (by decide) (by decide) (oIs.i h3.obj (S_nextDue h3 hg ?_))))
        have hd := hd k hk rfl c3
        have key : ∀ d {M3 : wM} {N1 : Rw}, OK S N1 → np N1 = np N → oiEnds S k (N 0 + 1440 * x) d N1 → TW G M0 M3 t f (upd i 0 0) S D N1 A (lay 0 1435 N T) V H l B O → (∀ M1 N2 T1, EqR N N2 → TW G M0 M1 t f (upd i 0 0) S D N2 A T1 V H l B O → Q (oiF S k (N 0 + 1440 * x) (N 0) d N1) M1) → L_X4_offerIn_68 G Q d t (nI k) (N 0) (N 0 + 1440 * x) (dueF N1) M3 := by
          intro d
          induction d with
          | zero => intro M3 N1 _ _ hd; exact absurd hd (by unfold oiEnds; exact fun z => z)
          | succ d ih =>
            intro M3 N1 hg1 hn1 hd h3 hq
            unfold L_X4_offerIn_68; unfold B_X4_offerIn_68
            unfold oiF at hq
            by_cases c4 : N 0 + 1440 * x < dueF N1
            · rw [if_pos c4] at hq
              exact oIf.y c4 (oIs.i h3.obj (S_laysBack h3 fun M4 h4 => hq M4 _ _ (EqR.lay.tr EqR.lay) h4))
            · rw [if_neg c4] at hq
              rcases hd with hd | ⟨hd1, hd2⟩
              · exact absurd hd c4
              refine oIf.n c4 (oIs.i h3.obj (S_goesTo h3 hg1 1 hd1 fun M4 h4 => ?_))
              have hg4 : OK S (goF S (dueF N1) 1 N1) := goF_ok hg1
              refine oIs.i h4.obj (S_ofP2 h4 (by omega) (oIf.c (fun c5 => ?_) (fun c5 => ?_)))
              · rw [if_pos c5] at hq
                have hn4 : np (goF S (dueF N1) 1 N1) = np N := (goF_np hg1).trans hn1
                exact oIs.i h4.obj (S_nextDue h4 hg4 (ih hg4 hn4 (hd2 c5) h4 hq))
              · rw [if_neg c5] at hq
                exact oIs.i h4.obj (S_laysBack h4 fun M5 h5 => hq M5 _ _ (EqR.lay.tr EqR.lay) h5)
        exact ⟨fuelD, key fuelD hg rfl hd h3 (hs trivial)⟩
      · rw [if_neg c3] at hs
        exact hs trivial M2 N T EqR.rfl' h2
    · simp only [c2, Bool.false_eq_true, if_false] at hf h2
      rw [upd_upd] at h2
      exact hf (by decide) _ h2
  · simp only [c, Bool.false_eq_true, if_false] at hf h1
    exact hf (by decide) _ h1
theorem S_finesIn (h : TW G M0 M t f i S D N A T V H l B O) (hg : OK S N) {s x : Int32} (hd : goEnds S (N 0 + x) fuelD N) {Q : Int32 → wM → Prop} (hf : c_finesIn S s x ≠ 0 → ∀ M1, TW G M0 M1 t f (upd i 0 (c_finesIn S s x)) S D N A T V H l B O → Q 0 M1) (hs : c_finesIn S s x = 0 → ∀ M1 N1 T1, EqR N N1 → TW G M0 M1 t f (upd i 0 0) S D N1 A T1 V H l B O → Q (v_finesIn S N s x) M1) : P_X4_finesIn G t s x M Q := by
  unfold c_finesIn at hf hs
  refine oIs.i h.obj (S_isStreet h (oIs.i h.obj (S_is h fun M1 h1 => bl _ (fun c => ?_) (fun c => ?_))))
  · simp only [c, if_true] at hf hs h1
    refine S_isIn (lo := 0) (hi := 20160) (oIs.i h1.obj (S_may h1 fun M2 h2 => bl _ (fun c2 => ?_) (fun c2 => ?_)))
    · simp only [c2, if_true] at hs h2
      rw [upd_upd] at h2
      refine oIs.i h2.obj (S_tries h2 fun M3 h3 => oGetA.i h3.obj rfl (oIald.e (i := 0) rfl h3.now (by decide) (by decide) (oIs.i h3.obj (S_goesTo h3 hg fuelD hd fun M4 h4 => ?_))))
      exact oIs.i h4.obj (S_wouldFine h4 (goF_ok hg) (oIs.i h4.obj (S_laysBack h4 fun M5 h5 => hs trivial M5 _ _ (EqR.lay.tr EqR.lay) h5)))
    · simp only [c2, Bool.false_eq_true, if_false] at hf h2
      rw [upd_upd] at h2
      exact hf (by decide) _ h2
  · simp only [c, Bool.false_eq_true, if_false] at hf h1
    exact hf (by decide) _ h1
theorem S_bestInspection (h : TW G M0 M t f i S D N A T V H l B O) (hg : OK S N) {s x : Int32} (hd : ∀ k, k < 72 → goEnds S (first0 N + 60 * nI k) fuelD (biR S N s k).2.2) {Q : Int32 → wM → Prop} (hf : c_bestI S s x ≠ 0 → ∀ M1, TW G M0 M1 t f (upd i 0 (c_bestI S s x)) S D N A T V H l B O → Q 0 M1) (hs : c_bestI S s x = 0 → ∀ M1 N1 T1, EqR N N1 → TW G M0 M1 t f (upd i 0 0) S D N1 A T1 V H l B O → Q (biR S N s x.toNatClampNeg).1 M1) : P_X4_bestInspection G t s x M Q := by
  unfold c_bestI at hf hs
  refine oIs.i h.obj (S_isStreet h (oIs.i h.obj (S_is h fun M1 h1 => bl _ (fun c => ?_) (fun c => ?_))))
  · simp only [c, if_true] at hf hs h1
    refine S_isIn (lo := 1) (hi := 72) (oIs.i h1.obj (S_may h1 fun M2 h2 => bl _ (fun c2 => ?_) (fun c2 => ?_)))
    · simp only [c2, if_true] at hs h2
      rw [upd_upd] at h2
      obtain ⟨j, j1, j2, rfl⟩ := inR_1n (n := 72) (by decide) c2
      rw [nI_clamp (by omega)] at hs
      refine oIs.i h2.obj (S_tries h2 fun M3 h3 => oGetA.i h3.obj rfl (oIald.e (i := 0) rfl h3.now (by decide) (by decide) ?_))
      have key := st_loop (F := fun n k => ∀ M4, TW G M0 M4 t f (upd i 0 0) S D (biR S N s k).2.2 A (lay 0 1435 N T) V H l B O → L_X4_bestInspection_62 G Q n t s (nI j) (first0 N) (biR S N s k).1 (biR S N s k).2.1 (nI k) M4) (N := j) (fun n M4 h4 => ?_) (fun n k hk ih M4 h4 => ?_) 0 (Nat.zero_le _)
      · obtain ⟨n, hn⟩ := key
        exact ⟨n, hn M3 h3⟩
      · unfold L_X4_bestInspection_62; unfold B_X4_bestInspection_62
        exact oIf.y (nI_le (Nat.le_refl _) (by omega)) (oIs.i h4.obj (S_laysBack h4 fun M5 h5 => hs trivial M5 _ _ (EqR.lay.tr EqR.lay) h5))
      · unfold L_X4_bestInspection_62; unfold B_X4_bestInspection_62
        have hd := hd k (by omega)
        have hgk := biR_ok (s := s) hg k
        have e0 : biR S N s (k + 1) = biS S s (first0 N) k (biR S N s k) := rfl
        rw [e0] at ih
        generalize biR S N s k = a at *
        unfold biS at ih
        refine oIf.n (nI_ge hk (by omega)) (oIs.i h4.obj (S_goesTo h4 hgk fuelD hd fun M5 h5 => oIs.i h5.obj (S_wouldFine h5 (goF_ok hgk) (oIf.c (fun c3 => ?_) (fun c3 => ?_)))))
        · rw [if_pos c3] at ih
          refine oGetA.i h5.obj rfl (oIald.e (i := 0) rfl h5.now (by decide) (by decide) ?_)
          unfold B_X4_bestInspection_108; rw [nI_1]; exact ih M5 h5
        · rw [if_neg c3] at ih
          unfold B_X4_bestInspection_108; rw [nI_1]; exact ih M5 h5
    · simp only [c2, Bool.false_eq_true, if_false] at hf h2
      rw [upd_upd] at h2
      exact hf (by decide) _ h2
  · simp only [c, Bool.false_eq_true, if_false] at hf h1
    exact hf (by decide) _ h1
end TW8
