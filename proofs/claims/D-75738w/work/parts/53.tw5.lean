set_option maxRecDepth 100000
/-! STAGE 2, the twin: calls that change nothing, the rest -/
theorem bs_v {S N : Rw} {x : Int32} : ∀ k, fo (bsS S N x) (-1) k = -1 ∨ ∃ p, p < k ∧ fo (bsS S N x) (-1) k = nI p := by
  intro k
  induction k with
  | zero => exact .inl rfl
  | succ k ih =>
    show bsS S N x k (fo (bsS S N x) (-1) k) = -1 ∨ ∃ p, p < k + 1 ∧ bsS S N x k (fo (bsS S N x) (-1) k) = nI p
    generalize fo (bsS S N x) (-1) k = b at ih
    unfold bsS
    split
    · exact .inr ⟨k, by omega, rfl⟩
    · rcases ih with e | ⟨p, hp, e⟩
      · exact .inl e
      · exact .inr ⟨p, by omega, e⟩
theorem carOf_v {N : Rw} (hn : nc N ≤ 80) (x : Int32) : carOf N x = -1 ∨ ∃ c, c < nc N ∧ carOf N x = nI c ∧ cP N c 0 = x ∧ ∀ j, j < c → cP N j 0 ≠ x := by
  rcases srch_c (p := fun c => decide (cP N c 0 = x)) (n := nc N) (by omega) with ⟨h, -⟩ | ⟨c, h1, h2, h3, h4⟩
  · exact .inl h
  · exact .inr ⟨c, h1, h3, of_decide_eq_true h2, fun j hj => of_decide_eq_false (h4 j hj)⟩
section TW5
variable {G : wG} {M0 M : wM} {t : Nat} {f : Nat → Nat} {i S D N A T V H : Nat → Int32} {l : Nat → Nat → Int64} {B O : Nat → Int32}
theorem S_bestStreet (h : TW G M0 M t f i S D N A T V H l B O) (hg : OK S N) {x : Int32} {Q : Int32 → wM → Prop} (hQ : ∀ M1, TW G M0 M1 t f (upd i 0 (r_best S N x).1) S D N A T V H l B O → Q (r_best S N x).2 M1) : P_X4_bestStreet G t x M Q := by
  have hb := hg.b
  unfold r_best at hQ
  refine S_isPlate (oIs.i h.obj (S_is h fun M1 h1 => bl _ (fun c => ?_) (fun c => ?_)))
  · simp only [c, if_true] at hQ h1
    have hq := hQ _ h1
    refine st_loop (F := fun n k => L_X4_bestStreet_17 G Q n t x (fo (bsS S N x) (-1) k) (nI k) M1) (N := ns S) (fun n => ?_) (fun n k hk ih => ?_) 0 (Nat.zero_le _)
    · unfold L_X4_bestStreet_17; unfold B_X4_bestStreet_17
      exact oGetA.i h1.obj rfl (rd_ns h1 hg (oIf.y (nI_le (by omega) (by omega)) hq))
    · unfold L_X4_bestStreet_17; unfold B_X4_bestStreet_17
      have fin : ∀ y, bsS S N x k (fo (bsS S N x) (-1) k) = y → B_X4_bestStreet_67 G (L_X4_bestStreet_17 G Q n) Q t x y (nI k) M1 := fun y e => by
        unfold B_X4_bestStreet_67; rw [nI_1, ← e]; exact ih
      have hi := bs_v (S := S) (N := N) (x := x) k
      generalize fo (bsS S N x) (-1) k = b at hi fin ⊢
      refine oGetA.i h1.obj rfl (rd_ns h1 hg (oIf.n (nI_ge hk (by omega)) (oIs.i h1.obj (S_freeIn h1 hg (by omega) (oIf.c (fun c1 => fin _ (by unfold bsS; rw [if_neg (fun x => x.1 c1)])) (fun c1 => ?_))))))
      refine oIs.i h1.obj (S_isAllowed h1 hg hk (bl _ (fun c2 => ?_) (fun c2 => fin _ (by unfold bsS; rw [if_neg (fun x => by rw [c2] at x; cases x.2.1)]))))
      refine oIf.c (fun c3 => fin _ (by unfold bsS; rw [if_pos ⟨c1, c2, .inl c3⟩])) (fun c3 => ?_)
      rcases hi with e | ⟨p, hp, e⟩
      · exact absurd e c3
      subst e
      refine oIs.i h1.obj (S_freeIn h1 hg (by omega) (oIs.i h1.obj (S_freeIn h1 hg (by omega) (oIf.c (fun c4 => fin _ ?_) (fun c4 => fin _ ?_)))))
      · unfold bsS; rw [nI_clamp (by omega), if_neg]
        rintro ⟨-, -, z | z⟩
        · exact c3 z
        · exact absurd z (Int32.not_lt.mpr c4)
      · unfold bsS; rw [nI_clamp (by omega), if_pos ⟨c1, c2, .inr (Int32.not_le.mp c4)⟩]
  · simp only [c] at hQ h1
    exact hQ _ h1
theorem S_total (h : TW G M0 M t f i S D N A T V H l B O) (hg : OK S N) {w : Int32} {Q : Int32 → wM → Prop} (hQ : ∀ M1, TW G M0 M1 t f (upd i 0 (r_total S N w).1) S D N A T V H l B O → Q (r_total S N w).2 M1) : P_X4_total G t w M Q := by
  have hb := hg.b
  unfold r_total at hQ
  refine S_isIn (lo := 0) (hi := 2) (oIs.i h.obj (S_is h fun M1 h1 => bl _ (fun c => ?_) (fun c => ?_)))
  · simp only [c, if_true] at hQ h1
    have hq := hQ _ h1
    refine st_loop (F := fun n k => L_X4_total_22 G Q n t w (fo (totS S N w) 0 k) (nI k) M1) (N := nf N) (fun n => ?_) (fun n k hk ih => ?_) 0 (Nat.zero_le _)
    · unfold L_X4_total_22; unfold B_X4_total_22
      exact oGetA.i h1.obj rfl (rd_nf h1 hg (oIf.y (nI_le (by omega) (by omega)) hq))
    · unfold L_X4_total_22; unfold B_X4_total_22
      have fin : ∀ y, totS S N w k (fo (totS S N w) 0 k) = y → B_X4_total_59 G (L_X4_total_22 G Q n) Q t w y (nI k) M1 := fun y e => by
        unfold B_X4_total_59; rw [nI_1, ← e]; exact ih
      generalize fo (totS S N w) 0 k = b at fin ⊢
      have yes : (w = 0 ∨ fP N k 4 = w) → B_X4_total_46 G (L_X4_total_22 G Q n) Q t w b (nI k) M1 := fun e => by
        obtain ⟨r, r1, r6, er⟩ := hg.2.2.2.2.2.2.2.2.2 k hk
        refine oIs.i h1.obj (S_ofF3 h1 (by omega) (oIs.i h1.obj ?_))
        have fin := fin _ (show totS S N w k b = b + amt S (fP N k 3) by unfold totS; rw [if_pos e])
        rw [er] at fin ⊢
        exact S_amountOf h1 r1 r6 fin
      refine oGetA.i h1.obj rfl (rd_nf h1 hg (oIf.n (nI_ge hk (by omega)) (oIf.c (fun c1 => yes (.inl c1)) (fun c1 => ?_))))
      refine oIs.i h1.obj (S_ofF4 h1 (by omega) (oIf.c (fun c2 => yes (.inr c2)) (fun c2 => fin _ ?_)))
      unfold totS; rw [if_neg (fun z => z.elim c1 c2)]
  · simp only [c] at hQ h1
    exact hQ _ h1
theorem S_finesBy (h : TW G M0 M t f i S D N A T V H l B O) (hg : OK S N) {w : Int32} {Q : Int32 → wM → Prop} (hQ : ∀ M1, TW G M0 M1 t f (upd i 0 (r_finesBy N w).1) S D N A T V H l B O → Q (r_finesBy N w).2 M1) : P_X4_finesBy G t w M Q := by
  have hb := hg.b
  unfold r_finesBy at hQ
  refine S_isRule (oIs.i h.obj (S_is h fun M1 h1 => bl _ (fun c => ?_) (fun c => ?_)))
  · simp only [c, if_true] at hQ h1
    have hq := hQ _ h1
    refine st_loop (F := fun n k => L_X4_finesBy_17 G Q n t w (nI (cnt (fun f => decide (fP N f 3 = w)) k)) (nI k) M1) (N := nf N) (fun n => ?_) (fun n k hk ih => ?_) 0 (Nat.zero_le _)
    · unfold L_X4_finesBy_17; unfold B_X4_finesBy_17
      exact oGetA.i h1.obj rfl (rd_nf h1 hg (oIf.y (nI_le (by omega) (by omega)) hq))
    · unfold L_X4_finesBy_17; unfold B_X4_finesBy_17
      refine oGetA.i h1.obj rfl (rd_nf h1 hg (oIf.n (nI_ge hk (by omega)) (oIs.i h1.obj (S_ofF3 h1 (by omega) (oIf.c (fun c1 => ?_) (fun c1 => ?_))))))
      · unfold B_X4_finesBy_41; simp only [nI_1]; rw [cnt_y (p := fun f => decide (fP N f 3 = w)) (by simp [c1])]; exact ih
      · unfold B_X4_finesBy_41; simp only [nI_1]; rw [cnt_n (p := fun f => decide (fP N f 3 = w)) (by simp [c1])]; exact ih
  · simp only [c] at hQ h1
    exact hQ _ h1
theorem S_enoughLimit (h : TW G M0 M t f i S D N A T V H l B O) (hg : OK S N) {z : Int32} {Q : Int32 → wM → Prop} (hQ : ∀ M1, TW G M0 M1 t f (upd i 0 (r_enough S N z).1) S D N A T V H l B O → Q (r_enough S N z).2 M1) : P_X4_enoughLimit G t z M Q := by
  unfold r_enough at hQ
  refine oIs.i h.obj (S_isZone h (oIs.i h.obj (S_is h fun M1 h1 => bl _ (fun c => ?_) (fun c => ?_))))
  · simp only [c, if_true] at hQ h1
    refine oIs.i h1.obj (S_taken h1 hg (oIs.i h1.obj (S_manyOf h1 hg ?_)))
    rw [nI_add]
    exact hQ _ h1
  · simp only [c] at hQ h1
    exact hQ _ h1
theorem S_waitingPlace (h : TW G M0 M t f i S D N A T V H l B O) (hg : OK S N) {p : Int32} {Q : Int32 → wM → Prop} (hQ : ∀ M1, TW G M0 M1 t f (upd i 0 (r_place S N p).1) S D N A T V H l B O → Q (r_place S N p).2 M1) : P_X4_waitingPlace G t p M Q := by
  have hb := hg.b
  unfold r_place at hQ
  refine oIs.i h.obj (S_isPermit h (oIs.i h.obj (S_is h fun M1 h1 => bl _ (fun c => ?_) (fun c => ?_))))
  · simp only [c, if_true] at hQ h1
    obtain ⟨k, hk, rfl⟩ := inR_nI (by omega) (hg.2.1.1 ▸ c)
    have hq := hQ _ h1
    rw [nI_clamp (by omega)] at hq
    refine oIs.i h1.obj (S_ofP2 h1 (by omega) (oIf.c (fun c2 => ?_) (fun c2 => ?_)))
    · rw [if_pos c2] at hq; exact oIs.i h1.obj (S_ahead h1 hg hk hq)
    · rw [if_neg c2] at hq; exact hq
  · simp only [c] at hQ h1
    exact hQ _ h1
theorem S_permitOf (h : TW G M0 M t f i S D N A T V H l B O) (hg : OK S N) {x : Int32} {Q : Int32 → wM → Prop} (hQ : ∀ M1, TW G M0 M1 t f (upd i 0 0) S D N A T V H l B O → Q (activeP N x) M1) : P_X4_permitOf G t x M Q :=
  pt_0 h fun M1 h1 => oIs.i h1.obj (S_activeOf h1 hg (hQ _ h1))
theorem S_streetOf (h : TW G M0 M t f i S D N A T V H l B O) (hg : OK S N) {x : Int32} {Q : Int32 → wM → Prop} (hQ : ∀ M1, TW G M0 M1 t f (upd i 0 0) S D N A T V H l B O → Q (v_streetOf N x) M1) : P_X4_streetOf G t x M Q := by
  have hb := hg.b
  refine pt_0 h fun M1 h1 => oIs.i h1.obj (S_carOf h1 hg ?_)
  have hq := hQ _ h1
  unfold v_streetOf at hq
  rcases carOf_v hb.2.2.1 x with e | ⟨c, hc, e, -⟩
  · rw [e] at hq ⊢
    exact oIf.y rfl hq
  · rw [e, if_neg (nI_neg (by omega)), nI_clamp (by omega)] at hq
    rw [e]
    exact oIf.n (nI_neg (by omega)) (oIs.i h1.obj (S_ofC1 h1 (by omega) hq))
theorem S_count (h : TW G M0 M t f i S D N A T V H l B O) (hg : OK S N) {w : Int32} {Q : Int32 → wM → Prop} (hQ : ∀ M1, TW G M0 M1 t f (upd i 0 0) S D N A T V H l B O → Q (v_count S N (i 8) w) M1) : P_X4_count G t w M Q := by
  refine pt_0 h fun M1 h1 => ?_
  have hq := hQ _ h1
  unfold v_count at hq
  have e8 : upd i 0 0 8 = i 8 := upd_ne _ _ (by decide)
  refine oIf.c (fun c => ?_) (fun c => ?_)
  · rw [if_pos c] at hq; exact oGetA.i h1.obj rfl (oIald.e (i := 0) rfl h1.set (by decide) (by decide) hq)
  rw [if_neg c] at hq; clear c
  refine oIf.c (fun c => ?_) (fun c => ?_)
  · rw [if_pos c] at hq; exact oGetA.i h1.obj rfl (oIald.e (i := 1) rfl h1.set (by decide) (by decide) hq)
  rw [if_neg c] at hq; clear c
  refine oIf.c (fun c => ?_) (fun c => ?_)
  · rw [if_pos c] at hq; exact oGetA.i h1.obj rfl (oIald.e (i := 2) rfl h1.set (by decide) (by decide) hq)
  rw [if_neg c] at hq; clear c
  refine oIf.c (fun c => ?_) (fun c => ?_)
  · rw [if_pos c] at hq; exact oGetA.i h1.obj rfl (oIald.e (i := 1) rfl h1.now (by decide) (by decide) hq)
  rw [if_neg c] at hq; clear c
  refine oIf.c (fun c => ?_) (fun c => ?_)
  · rw [if_pos c] at hq; exact oGetA.i h1.obj rfl (oIald.e (i := 2) rfl h1.now (by decide) (by decide) hq)
  rw [if_neg c] at hq; clear c
  refine oIf.c (fun c => ?_) (fun c => ?_)
  · rw [if_pos c] at hq; exact oGetA.i h1.obj rfl (oIald.e (i := 3) rfl h1.now (by decide) (by decide) hq)
  rw [if_neg c] at hq; clear c
  refine oIf.c (fun c => ?_) (fun c => ?_)
  · rw [if_pos c] at hq; exact oGetA.i h1.obj rfl (oIald.e (i := 4) rfl h1.now (by decide) (by decide) hq)
  rw [if_neg c] at hq; clear c
  refine oIf.c (fun c => ?_) (fun c => ?_)
  · rw [if_pos c] at hq; exact oGetA.i h1.obj rfl (oIald.e (i := 0) rfl h1.now (by decide) (by decide) hq)
  rw [if_neg c] at hq; clear c
  refine oIf.c (fun c => ?_) (fun c => ?_)
  · rw [if_pos c] at hq; exact oGetI.i h1.obj rfl (e8 ▸ hq)
  rw [if_neg c] at hq; clear c
  refine oIf.c (fun c => ?_) (fun c => ?_)
  · rw [if_pos c] at hq; exact oGetA.i h1.obj rfl (oIald.e (i := 111) rfl h1.set (by decide) (by decide) hq)
  rw [if_neg c] at hq; clear c
  refine oIf.c (fun c => ?_) (fun c => ?_)
  · rw [if_pos c] at hq; exact oGetA.i h1.obj rfl (oIald.e (i := 112) rfl h1.set (by decide) (by decide) hq)
  rw [if_neg c] at hq; clear c
  refine oIf.c (fun c => ?_) (fun c => ?_)
  · rw [if_pos c] at hq; exact oGetA.i h1.obj rfl (oIald.e (i := 113) rfl h1.set (by decide) (by decide) hq)
  rw [if_neg c] at hq; exact hq
theorem S_car (h : TW G M0 M t f i S D N A T V H l B O) (hg : OK S N) {s k : Int32} {Q : Int32 → wM → Prop} (hQ : ∀ M1, TW G M0 M1 t f (upd i 0 (r_car S N s k).1) S D N A T V H l B O → Q (r_car S N s k).2 M1) : P_X4_car G t s k M Q := by
  have hb := hg.b
  unfold r_car at hQ
  refine oIs.i h.obj (S_isStreet h (oIs.i h.obj (S_is h fun M1 h1 => bl _ (fun c => ?_) (fun c => ?_))))
  · simp only [c, if_true] at hQ h1
    refine oIs.i h1.obj (S_carsIn h1 hg (S_isIn (lo := 0) (oIs.i h1.obj (S_may h1 fun M2 h2 => bl _ (fun c2 => ?_) (fun c2 => ?_)))))
    · simp only [c2, if_true] at hQ h2
      rw [upd_upd] at h2
      have hle : carsIn N s ≤ nc N := cnt_le _ _
      obtain ⟨j, hj, rfl⟩ := inR_nI (by omega) c2
      rw [nI_clamp (by omega)] at hQ
      have hq := hQ _ h2
      -- from car d on j more cars of the street are passed; enough are there
      have key : ∀ d c j, c + d = nc N → j + cnt (fun c => decide (cP N c 1 = s)) c < carsIn N s → Q (carK N s d c j) M2 → ∃ n, L_X4_car_41 G Q n t s (nI j) (nI c) M2 := by
        intro d
        induction d with
        | zero =>
          intro c j hc hlt hq
          rw [show c = nc N by omega] at hlt
          unfold carsIn at hlt
          omega
        | succ d ih =>
          intro c j hc hlt hq
          unfold carK at hq
          by_cases c1 : cP N c 1 = s
          · rw [if_pos c1] at hq
            by_cases c2 : j = 0
            · rw [if_pos c2] at hq
              refine ⟨1, ?_⟩
              unfold L_X4_car_41; unfold B_X4_car_41
              refine oIs.i h2.obj (S_ofC1 h2 (by omega) (oIf.y c1 (oIf.y (by rw [c2]; decide) (oIs.i h2.obj (S_ofC0 h2 (by omega) hq)))))
            · rw [if_neg c2] at hq
              obtain ⟨n, hn⟩ := ih (c + 1) (j - 1) (by omega) (by have e : (if decide (cP N c 1 = s) = true then 1 else 0) = 1 := by simp [c1]
                                                                  show j - 1 + (cnt _ c + (if decide (cP N c 1 = s) = true then 1 else 0)) < _
                                                                  rw [e]; omega) hq
              refine ⟨n + 1, ?_⟩
              unfold L_X4_car_41; unfold B_X4_car_41
              refine oIs.i h2.obj (S_ofC1 h2 (by omega) (oIf.y c1 (oIf.n (nI_nle (by omega) (by omega)) (oIs.i h2.obj (S_ofC1 h2 (by omega) (oIf.y c1 ?_))))))
              unfold B_X4_car_71
              rw [nI_1, show (1 : Int32) = nI 1 from rfl, nI_sub (by omega)]
              exact hn
          · rw [if_neg c1] at hq
            obtain ⟨n, hn⟩ := ih (c + 1) j (by omega) (by have e : (if decide (cP N c 1 = s) = true then 1 else 0) = 0 := by simp [c1]
                                                          show j + (cnt _ c + (if decide (cP N c 1 = s) = true then 1 else 0)) < _
                                                          rw [e]; exact hlt) hq
            refine ⟨n + 1, ?_⟩
            unfold L_X4_car_41; unfold B_X4_car_41
            refine oIs.i h2.obj (S_ofC1 h2 (by omega) (oIf.n c1 (oIs.i h2.obj (S_ofC1 h2 (by omega) (oIf.n c1 ?_)))))
            unfold B_X4_car_71
            rw [nI_1]
            exact hn
      exact key (nc N) 0 j (by omega) (by show j + 0 < _; omega) hq
    · simp only [c2] at hQ h2
      rw [upd_upd] at h2
      exact hQ _ h2
  · simp only [c] at hQ h1
    exact hQ _ h1
end TW5
