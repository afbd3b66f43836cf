set_option maxRecDepth 100000
/-! STAGE 2, the twin: offers, time -/
section TW2
variable {G : wG} {M0 M : wM} {t : Nat} {f : Nat → Nat} {i S D N A T V H : Nat → Int32} {l : Nat → Nat → Int64} {B O : Nat → Int32}
theorem S_ahead (h : TW G M0 M t f i S D N A T V H l B O) (hg : OK S N) {p : Nat} (hp : p < np N) {Q : Int32 → wM → Prop} (hQ : Q (nI (aheadN S N p)) M) : P_X4_ahead G t (nI p) M Q := by
  have hb := hg.b
  refine oIs.i h.obj (S_zoneOf h hg hp (oIs.i h.obj (S_ofP0 h (by omega) (oIs.i h.obj (S_validOfHouse h hg ?_)))))
  refine st_loop (F := fun n k => L_X4_ahead_23 G Q n t (nI p) (zP S N p) (nI (vH N p)) (nI (cnt (qAh S N (zP S N p) p) k)) (nI k) M) (N := np N) (fun n => ?_) (fun n k hk ih => ?_) 0 (Nat.zero_le _)
  · unfold L_X4_ahead_23; unfold B_X4_ahead_23
    refine oGetA.i h.obj rfl (rd_np h hg (oIf.y (nI_le (by omega) (by omega)) ?_))
    exact hQ
  · unfold L_X4_ahead_23; unfold B_X4_ahead_23
    have hv1 : vH N k ≤ np N := cnt_le _ _
    have hv2 : vH N p ≤ np N := cnt_le _ _
    have y : qAh S N (zP S N p) p k = true → B_X4_ahead_90 G (L_X4_ahead_23 G Q n) Q t (nI p) (zP S N p) (nI (vH N p)) (nI (cnt (qAh S N (zP S N p) p) k) + 1) (nI k) M := fun e => by
      unfold B_X4_ahead_90; simp only [nI_1]; rw [cnt_y e]; exact ih
    have nn : ¬ qAh S N (zP S N p) p k = true → B_X4_ahead_90 G (L_X4_ahead_23 G Q n) Q t (nI p) (zP S N p) (nI (vH N p)) (nI (cnt (qAh S N (zP S N p) p) k)) (nI k) M := fun e => by
      unfold B_X4_ahead_90; simp only [nI_1]; rw [cnt_n e]; exact ih
    refine oGetA.i h.obj rfl (rd_np h hg (oIf.n (nI_ge hk (by omega)) ?_))
    by_cases c1 : k = p
    · subst c1; exact oIf.y rfl (nn (by simp [qAh]))
    · refine oIf.n (fun e => c1 (nI_inj (by omega) (by omega) e)) (oIs.i h.obj (S_isWaiting h hg hk (bl _ (fun c2 => ?_) (fun c2 => nn (by simp [qAh, c2])))))
      refine oIs.i h.obj (S_ofP0 h (by omega) (oIs.i h.obj (S_validOfHouse h hg ?_)))
      by_cases c3 : vH N k < vH N p
      · exact oIf.y (nI_lt c3 (by omega)) (y (by simp [qAh, c1, c2, c3]))
      · refine oIf.n (nI_nlt (Nat.le_of_not_lt c3) (show vH N k < 2 ^ 31 by omega)) ?_
        by_cases c4 : vH N k = vH N p
        · refine oIf.y (congrArg nI c4) ?_
          by_cases c5 : p ≤ k
          · exact oIf.y (nI_le c5 (by omega)) (nn (by simp [qAh, c4]; omega))
          · exact oIf.n (nI_ge (by omega) (by omega)) (y (by simp [qAh, c1, c2, c4]; omega))
        · exact oIf.n (fun e => c4 (nI_inj (show vH N k < 2 ^ 31 by omega) (by omega) e)) (nn (by simp [qAh, c3, c4]))
theorem S_waitingAt (h : TW G M0 M t f i S D N A T V H l B O) (hg : OK S N) {z x : Int32} {Q : Int32 → wM → Prop} (hQ : Q (waitAt S N z x) M) : P_X4_waitingAt G t z x M Q := by
  have hb := hg.b
  unfold P_X4_waitingAt
  refine st_loopP (F := fun n k => L_X4_waitingAt_2 G Q n t z x (nI k) M) (P := fun k => Q (srch (qAt S N z x) (np N - k) k) M) (N := np N) (fun n hq => ?_) (fun n k hk hq ih => ?_) 0 (Nat.zero_le _) hQ
  · unfold L_X4_waitingAt_2; unfold B_X4_waitingAt_2
    refine oGetA.i h.obj rfl (rd_np h hg (oIf.y (nI_le (by omega) (by omega)) ?_))
    rw [Nat.sub_self] at hq
    exact hq
  · unfold L_X4_waitingAt_2; unfold B_X4_waitingAt_2
    have nn : ¬ qAt S N z x k = true → B_X4_waitingAt_32 G (L_X4_waitingAt_2 G Q n) Q t z x (nI k) M := fun e => by
      unfold B_X4_waitingAt_32; simp only [nI_1]; rw [srch_n hk e] at hq; exact ih hq
    refine oGetA.i h.obj rfl (rd_np h hg (oIf.n (nI_ge hk (by omega)) ?_))
    refine oIs.i h.obj (S_isWaiting h hg hk (bl _ (fun c2 => ?_) (fun c2 => nn (by simp [qAt, c2]))))
    refine oIs.i h.obj (S_ahead h hg hk (oIf.c (fun c3 => ?_) (fun c3 => nn (by simp [qAt, c3]))))
    rw [srch_y hk (by simp [qAt, c2, c3])] at hq
    exact hq
theorem S_offZ {z : Nat} {Q : wM → Prop} {rec2 : Nat → Int32 → wM → Prop} (hz : z < 6) : ∀ (d : Nat) {M : wM} {N : Rw}, TW G M0 M t f i S D N A T V H l B O → OK S N → manyZ S N (nI z) 0 < d → (∀ M1, TW G M0 M1 t f i S D (offZ S z d N) A T V H l B O → rec2 t (nI (z + 1)) M1) → L_X4_offers_19 G rec2 Q d t (nI z) (waitAt S N (nI z) 0) M := by
  intro d
  induction d with
  | zero => intro M N h hg hm hQ; omega
  | succ d ih =>
    intro M N h hg hm hQ
    have hb := hg.b
    unfold L_X4_offers_19; unfold B_X4_offers_19
    unfold offZ at hQ
    have stop : (∀ M1, TW G M0 M1 t f i S D N A T V H l B O → rec2 t (nI (z + 1)) M1) → B_X4_offers_90 G rec2 Q t (nI z) M := fun hq => by
      unfold B_X4_offers_90; rw [nI_1]; exact hq M h
    rcases waitAt_sp hg (nI z) 0 with ⟨e, -⟩ | ⟨p, hp, e, hq, -⟩
    · rw [if_pos e] at hQ
      exact oIf.y e (stop hQ)
    · have hw : isW S N (nI z) p = true := by unfold qAt at hq; exact (Bool.and_eq_true _ _ ▸ hq).1
      rw [e, if_neg (nI_neg (by omega)), nI_clamp (by omega)] at hQ
      rw [e]
      have ht : takenZ S N (nI z) ≤ 2 * np N := by
        have h1 : manyZ S N (nI z) 1 ≤ np N := cnt_le _ _
        have h2 : manyZ S N (nI z) 2 ≤ np N := cnt_le _ _
        unfold takenZ; omega
      refine oIf.n (nI_neg (by omega)) (oIs.i h.obj (S_taken h hg (oGetA.i h.obj rfl (oIald.c (c := 5) rfl h.now (by omega) (by decide) ?_))))
      by_cases c : takenZ S N (nI z) < (N (5 + z)).toNatClampNeg
      · rw [if_pos c] at hQ
        refine oIf.n (fun x => ?_) ?_
        · have := (nI_leC (by omega)).mp x; omega
        refine oGetA.i h.obj rfl (oIs.i h.obj (S_permitAt (k := 2) rfl (st_now_e h (j := 40 + 7 * p + 2) rfl (by omega) fun M1 h1 => ?_)))
        refine oGetA.i h1.obj rfl (oIs.i h1.obj (S_permitAt (k := 5) rfl (oGetA.i h1.obj rfl (oIald.e (i := 0) rfl h1.now (by decide) (by decide) (oGetA.i h1.obj rfl (oIald.e (i := 112) rfl h1.set (by decide) (by decide) ?_))))))
        refine st_now_e h1 (j := 40 + 7 * p + 5) rfl (by omega) fun M2 h2 => ?_
        rw [upd_ne N _ (show 0 ≠ 40 + 7 * p + 2 by omega)] at h2
        have h3 : TW G M0 M2 t f i S D (offW S N p) A T V H l B O := h2
        have hg3 := offW_ok hg hp
        refine oIs.i h3.obj (S_waitingAt h3 hg3 ?_)
        refine ih h3 hg3 ?_ hQ
        have := offW_many hp hw
        omega
      · rw [if_neg c] at hQ
        exact oIf.y ((nI_leC (by omega)).mpr (by omega)) (stop hQ)
theorem S_offers (h : TW G M0 M t f i S D N A T V H l B O) (hg : OK S N) {Q : wM → Prop} (hQ : ∀ M1, TW G M0 M1 t f i S D (offF S N) A T V H l B O → Q M1) : P_X4_offers G t M Q := by
  have hb := hg.b
  have key := st_loop (F := fun n k => ∀ M1, TW G M0 M1 t f i S D (offA S N k) A T V H l B O → L_X4_offers_2 G Q n t (nI k) M1) (N := nz S) (fun n M1 h1 => ?_) (fun n k hk ih M1 h1 => ?_) 0 (Nat.zero_le _)
  · obtain ⟨n, hn⟩ := key
    exact ⟨n, hn M h⟩
  · unfold L_X4_offers_2; unfold B_X4_offers_2
    have hg1 := offA_ok hg (nz S)
    exact oGetA.i h1.obj rfl (rd_nz h1 hg1 (oIf.y (nI_le (by omega) (by omega)) (hQ M1 h1)))
  · unfold L_X4_offers_2; unfold B_X4_offers_2
    have hg1 := offA_ok hg k
    refine oGetA.i h1.obj rfl (rd_nz h1 hg1 (oIf.n (nI_ge hk (by omega)) (oIs.i h1.obj (S_waitingAt h1 hg1 ⟨61, ?_⟩))))
    have hm : manyZ S (offA S N k) (nI k) 0 ≤ np (offA S N k) := cnt_le _ _
    have hb1 := hg1.b
    exact S_offZ (by omega) 61 h1 hg1 (by omega) fun M2 h2 => ih M2 h2
theorem S_nextDue (h : TW G M0 M t f i S D N A T V H l B O) (hg : OK S N) {Q : Int32 → wM → Prop} (hQ : Q (dueF N) M) : P_X4_nextDue G t M Q := by
  have hb := hg.b
  refine oGetA.i h.obj rfl (oIald.e (i := 0) rfl h.now (by decide) (by decide) ?_)
  refine st_loop (F := fun n k => L_X4_nextDue_17 G Q n t (fo (dueS N) (due0 N) k) (nI k) M) (N := np N) (fun n => ?_) (fun n k hk ih => ?_) 0 (Nat.zero_le _)
  · unfold L_X4_nextDue_17; unfold B_X4_nextDue_17
    exact oGetA.i h.obj rfl (rd_np h hg (oIf.y (nI_le (by omega) (by omega)) hQ))
  · unfold L_X4_nextDue_17; unfold B_X4_nextDue_17
    have fin : ∀ x, fo (dueS N) (due0 N) (k + 1) = x → B_X4_nextDue_78 G (L_X4_nextDue_17 G Q n) Q t x (nI k) M := fun x e => by
      unfold B_X4_nextDue_78; rw [nI_1, ← e]; exact ih
    have e0 : fo (dueS N) (due0 N) (k + 1) = dueS N k (fo (dueS N) (due0 N) k) := rfl
    rw [e0] at fin
    generalize fo (dueS N) (due0 N) k = a at fin ⊢
    have mid : ∀ b, (if pP N k 2 = 2 ∧ pP N k 4 < a then pP N k 4 else a) = b → B_X4_nextDue_56 G (L_X4_nextDue_17 G Q n) Q t b (nI k) (pP N k 2) M := fun b e => by
      unfold B_X4_nextDue_56
      unfold dueS at fin
      simp only [e] at fin
      refine oIf.c (fun c => ?_) (fun c => fin _ (by rw [if_neg (fun x => c x.1)]))
      refine oIs.i h.obj (S_ofP5 h (by omega) (oIf.c (fun c2 => fin _ ?_) (fun c2 => ?_)))
      · rw [if_neg (fun x => absurd x.2 (Int32.not_lt.mpr c2))]
      · refine oIs.i h.obj (S_ofP5 h (by omega) (fin _ ?_))
        rw [if_pos ⟨c, Int32.not_le.mp c2⟩]
    refine oGetA.i h.obj rfl (rd_np h hg (oIf.n (nI_ge hk (by omega)) (oIs.i h.obj (S_ofP2 h (by omega) ?_))))
    refine oIf.c (fun c => ?_) (fun c => mid _ (by rw [if_neg (fun x => c x.1)]))
    refine oIs.i h.obj (S_ofP4 h (by omega) (oIf.c (fun c2 => mid _ ?_) (fun c2 => ?_)))
    · rw [if_neg (fun x => absurd x.2 (Int32.not_lt.mpr c2))]
    · refine oIs.i h.obj (S_ofP4 h (by omega) (mid _ ?_))
      rw [if_pos ⟨c, Int32.not_le.mp c2⟩]
theorem S_laysBooks (h : TW G M0 M t f i S D N A T V H l B O) {Q : wM → Prop} (hQ : ∀ M1, TW G M0 M1 t f i S D (booksF S N) A T V H l B O → Q M1) : P_X4_laysBooks G t M Q := by
  have key := st_loop (F := fun n k => ∀ M1, TW G M0 M1 t f i S D (lay 23 k (fun j => S (95 + j)) N) A T V H l B O → L_X4_laysBooks_2 G Q n t (nI k) M1) (N := 16) (fun n M1 h1 => ?_) (fun n k hk ih M1 h1 => ?_) 0 (Nat.zero_le _)
  · obtain ⟨n, hn⟩ := key
    exact ⟨n, hn M (by rw [lay_0]; exact h)⟩
  · unfold L_X4_laysBooks_2; unfold B_X4_laysBooks_2
    exact oIf.y (by decide) (hQ M1 h1)
  · unfold L_X4_laysBooks_2; unfold B_X4_laysBooks_2
    refine oIf.n (nI_ge hk (by decide)) (oGetA.i h1.obj rfl (oGetA.i h1.obj rfl (oIald.c (c := 95) rfl h1.set (by omega) (by decide) ?_)))
    refine st_now_c h1 (c := 23) rfl (by omega) fun M2 h2 => ?_
    rw [lay_s] at h2
    rw [nI_1]
    exact ih M2 h2
theorem S_happens (h : TW G M0 M t f i S D N A T V H l B O) (hg : OK S N) {Q : wM → Prop} (hQ : ∀ M1, TW G M0 M1 t f i S D (hapF S N) A T V H l B O → Q M1) : P_X4_happens G t M Q := by
  have hb := hg.b
  have k3 : ∀ M1, TW G M0 M1 t f i S D (fo expS (hap0 S N) (np N)) A T V H l B O → ∃ n, L_X4_happens_73 G Q n t (nI 0) M1 := by
    intro M1 h1
    have key := st_loop (F := fun n k => ∀ M1, TW G M0 M1 t f i S D (fo lapS (fo expS (hap0 S N) (np N)) k) A T V H l B O → L_X4_happens_73 G Q n t (nI k) M1) (N := np N) (fun n M1 h1 => ?_) (fun n k hk ih M1 h1 => ?_) 0 (Nat.zero_le _)
    · obtain ⟨n, hn⟩ := key
      exact ⟨n, hn M1 h1⟩
    · unfold L_X4_happens_73; unfold B_X4_happens_73
      obtain ⟨hg1, hn1⟩ := hap2_ok hg (k := np N) (by omega)
      refine oGetA.i h1.obj rfl (rd_np h1 hg1 ?_)
      rw [hn1]
      exact oIf.y (nI_le (by omega) (by omega)) (oIs.i h1.obj (S_offers h1 hg1 hQ))
    · unfold L_X4_happens_73; unfold B_X4_happens_73
      obtain ⟨hg1, hn1⟩ := hap2_ok hg (k := k) (by omega)
      have e0 : fo lapS (fo expS (hap0 S N) (np N)) (k + 1) = lapS k (fo lapS (fo expS (hap0 S N) (np N)) k) := rfl
      rw [e0] at ih
      generalize fo lapS (fo expS (hap0 S N) (np N)) k = N1 at *
      unfold lapS at ih
      refine oGetA.i h1.obj rfl (rd_np h1 hg1 ?_)
      rw [hn1]
      refine oIf.n (nI_ge hk (by omega)) (oIs.i h1.obj (S_ofP2 h1 (by omega) (oIf.c (fun c => ?_) (fun c => ?_))))
      · refine oIs.i h1.obj (S_ofP5 h1 (by omega) (oGetA.i h1.obj rfl (oIald.e (i := 0) rfl h1.now (by decide) (by decide) (oIf.c (fun c2 => ?_) (fun c2 => ?_)))))
        · rw [if_pos ⟨c, c2⟩] at ih
          refine oGetA.i h1.obj rfl (oIs.i h1.obj (S_permitAt (k := 2) rfl (st_now_e h1 (j := 40 + 7 * k + 2) rfl (by omega) fun M2 h2 => ?_)))
          unfold B_X4_happens_120
          rw [nI_1]; exact ih M2 h2
        · rw [if_neg (fun x => c2 x.2)] at ih
          unfold B_X4_happens_120
          rw [nI_1]; exact ih M1 h1
      · rw [if_neg (fun x => c x.1)] at ih
        unfold B_X4_happens_120
        rw [nI_1]; exact ih M1 h1
  have k2 : ∀ M1, TW G M0 M1 t f i S D (hap0 S N) A T V H l B O → B_X4_happens_16 G Q t M1 := by
    intro M1 h1
    have key := st_loop (F := fun n k => ∀ M1, TW G M0 M1 t f i S D (fo expS (hap0 S N) k) A T V H l B O → L_X4_happens_18 G Q n t (nI k) M1) (N := np N) (fun n M1 h1 => ?_) (fun n k hk ih M1 h1 => ?_) 0 (Nat.zero_le _)
    · obtain ⟨n, hn⟩ := key
      exact ⟨n, hn M1 h1⟩
    · unfold L_X4_happens_18; unfold B_X4_happens_18
      obtain ⟨hg1, hn1⟩ := hap1_ok hg (k := np N) (by omega)
      refine oGetA.i h1.obj rfl (rd_np h1 hg1 ?_)
      rw [hn1]
      exact oIf.y (nI_le (by omega) (by omega)) (k3 M1 h1)
    · unfold L_X4_happens_18; unfold B_X4_happens_18
      obtain ⟨hg1, hn1⟩ := hap1_ok hg (k := k) (by omega)
      have e0 : fo expS (hap0 S N) (k + 1) = expS k (fo expS (hap0 S N) k) := rfl
      rw [e0] at ih
      generalize fo expS (hap0 S N) k = N1 at *
      unfold expS at ih
      refine oGetA.i h1.obj rfl (rd_np h1 hg1 ?_)
      rw [hn1]
      refine oIf.n (nI_ge hk (by omega)) (oIs.i h1.obj (S_ofP2 h1 (by omega) (oIf.c (fun c => ?_) (fun c => ?_))))
      · refine oIs.i h1.obj (S_ofP4 h1 (by omega) (oGetA.i h1.obj rfl (oIald.e (i := 0) rfl h1.now (by decide) (by decide) (oIf.c (fun c2 => ?_) (fun c2 => ?_)))))
        · rw [if_pos ⟨c, c2⟩] at ih
          refine oGetA.i h1.obj rfl (oIs.i h1.obj (S_permitAt (k := 2) rfl (st_now_e h1 (j := 40 + 7 * k + 2) rfl (by omega) fun M2 h2 => ?_)))
          unfold B_X4_happens_65
          rw [nI_1]; exact ih M2 h2
        · rw [if_neg (fun x => c2 x.2)] at ih
          unfold B_X4_happens_65
          rw [nI_1]; exact ih M1 h1
      · rw [if_neg (fun x => c x.1)] at ih
        unfold B_X4_happens_65
        rw [nI_1]; exact ih M1 h1
  refine oGetA.i h.obj rfl (oIald.e (i := 0) rfl h.now (by decide) (by decide) ?_)
  unfold hap0 at k2
  refine oIf.c (fun c => ?_) (fun c => ?_)
  · rw [if_pos c] at k2
    exact oIs.i h.obj (S_laysBooks h fun M1 h1 => k2 M1 h1)
  · rw [if_neg c] at k2
    exact k2 M h
/-- time goes on: d events at most up to T -/
def goEnds (S : Rw) (T : Int32) : Nat → Rw → Prop
  | 0, N => T < dueF N
  | d + 1, N => T < dueF N ∨ goEnds S T d (hapF S (upd N 0 (dueF N)))
theorem goEnds_goF {S : Rw} {T : Int32} : ∀ (d : Nat) (N : Rw), goEnds S T d N → ∀ e, d ≤ e → goF S T e N = goF S T d N := by
  intro d
  induction d with
  | zero =>
    intro N h e he
    have h : T < dueF N := h
    cases e with
    | zero => rfl
    | succ e => unfold goF; rw [if_pos h]
  | succ d ih =>
    intro N h e he
    cases e with
    | zero => omega
    | succ e =>
      unfold goF
      by_cases c : T < dueF N
      · rw [if_pos c, if_pos c]
      · rw [if_neg c, if_neg c]
        rcases h with h | h
        · exact absurd h c
        · exact ih _ h e (by omega)
theorem S_goesTo {T0 : Int32} {Q : wM → Prop} (h : TW G M0 M t f i S D N A T V H l B O) (hg : OK S N) (d : Nat) (hd : goEnds S T0 d N) (hQ : ∀ M1, TW G M0 M1 t f i S D (goF S T0 d N) A T V H l B O → Q M1) : P_X4_goesTo G t T0 M Q := by
  have key : ∀ (d : Nat) {M : wM} {N : Rw}, TW G M0 M t f i S D N A T V H l B O → OK S N → goEnds S T0 d N → (∀ M1, TW G M0 M1 t f i S D (goF S T0 d N) A T V H l B O → Q M1) → L_X4_goesTo_5 G Q (d + 1) t T0 (dueF N) M := by
    intro d
    induction d with
    | zero =>
      intro M N h hg hd hQ
      have hd : T0 < dueF N := hd
      unfold L_X4_goesTo_5; unfold B_X4_goesTo_5
      exact oIf.y hd (oGetA.i h.obj rfl (st_now_e h (j := 0) rfl (by decide) fun M1 h1 => hQ M1 h1))
    | succ d ih =>
      intro M N h hg hd hQ
      unfold L_X4_goesTo_5; unfold B_X4_goesTo_5
      unfold goF at hQ
      by_cases c : T0 < dueF N
      · rw [if_pos c] at hQ
        exact oIf.y c (oGetA.i h.obj rfl (st_now_e h (j := 0) rfl (by decide) fun M1 h1 => hQ M1 h1))
      · rw [if_neg c] at hQ
        rcases hd with hd | hd
        · exact absurd hd c
        refine oIf.n c (oGetA.i h.obj rfl (st_now_e h (j := 0) rfl (by decide) fun M1 h1 => ?_))
        refine oIs.i h1.obj (S_happens h1 (up0_ok hg _) fun M2 h2 => ?_)
        have hg2 := hapF_ok (up0_ok hg (dueF N))
        exact oIs.i h2.obj (S_nextDue h2 hg2 (ih h2 hg2 hd hQ))
  exact oIs.i h.obj (S_nextDue h hg ⟨d + 1, key d h hg hd hQ⟩)
end TW2
