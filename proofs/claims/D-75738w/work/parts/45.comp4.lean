set_option maxRecDepth 100000
/-! STAGE 2, component: offers, time -/
def lvT (τ : Nat → Nat) : List Nat := [τ 0, τ 1, τ 2, τ 3, τ 4, τ 5, τ 6, τ 7, τ 8, τ 9]
theorem LV.t0 {τ : Nat → Nat} (h : LV τ) : 0 ∉ lvT τ := by
  unfold lvT
  simp only [List.mem_cons, List.not_mem_nil, or_false, not_or]
  exact ⟨fun e => (h.1 0 (by decide)).1 e.symm, fun e => (h.1 1 (by decide)).1 e.symm, fun e => (h.1 2 (by decide)).1 e.symm, fun e => (h.1 3 (by decide)).1 e.symm, fun e => (h.1 4 (by decide)).1 e.symm, fun e => (h.1 5 (by decide)).1 e.symm, fun e => (h.1 6 (by decide)).1 e.symm, fun e => (h.1 7 (by decide)).1 e.symm, fun e => (h.1 8 (by decide)).1 e.symm, fun e => (h.1 9 (by decide)).1 e.symm⟩
theorem LV.in {τ : Nat → Nat} {k : Nat} (hk : k ≤ 9) : τ k ∈ lvT τ := by
  have : k = 0 ∨ k = 1 ∨ k = 2 ∨ k = 3 ∨ k = 4 ∨ k = 5 ∨ k = 6 ∨ k = 7 ∨ k = 8 ∨ k = 9 := by omega
  unfold lvT
  rcases this with rfl | rfl | rfl | rfl | rfl | rfl | rfl | rfl | rfl | rfl <;> simp
theorem LV.m {τ : Nat → Nat} (h : LV τ) {k : Nat} (hk : k ≤ 9) {M M1 : wM} {ow ow1 : Nat → Nat} (hs : Mv [τ k] M ow M1 ow1) : Mv (lvT τ) M ow M1 ow1 :=
  hs.mono (fun x hx => by rw [List.mem_singleton] at hx; rw [hx]; exact LV.in hk) h.t0
theorem LV.e {τ : Nat → Nat} (h : LV τ) {M M1 : wM} {ow ow1 : Nat → Nat} (hs : Mv [] M ow M1 ow1) : Mv (lvT τ) M ow M1 ow1 := hs.mono (by simp) h.t0
section COMP4
variable {G : wG} {l : Nat → Nat → Int64} {M : wM} {ow : Nat → Nat} {τ : Nat → Nat} {a : Nat} {y : Nat → Nat → Nat} {S N : Rw}
theorem BR.valH {N1 : Rw} (h : BR G l M ow τ a y S N) (hg : OK S N) (e : ∀ j, j < 1435 → j < 23 + nh S ∨ 39 ≤ j → N1 j = N j) : BR G l M ow τ a y S N1 := by
  have hb := hg.b
  obtain ⟨h1, h2, h3, h4, h5, h6, h7, h8, r, h9, h10⟩ := h
  have c : ∀ j, j < 23 ∨ 39 ≤ j ∧ j < 1435 → N1 j = N j := fun j hj => e j (by omega) (by omega)
  exact ⟨by unfold bkC; rw [c 0 (by decide)]; exact h1, h2, BP.val (N := N) h3 hb.1 (c 1 (by decide)) fun j _ _ => c j (by omega), BV.val (N := N) h4 hb.2.1 (c 2 (by decide)) fun j _ _ => c j (by omega), BC.val (N := N) h5 hb.2.2.1 (c 3 (by decide)) fun j _ _ => c j (by omega), BF.val (N := N) h6 hb.2.2.2.1 (c 4 (by decide)) fun j _ _ => c j (by omega), BB.val (N := N) h7 fun j _ _ => c j (by omega), BL.val (N := N) h8 hb.2.2.2.2.1 fun j _ _ => c j (by omega), r, h9, fun k hk => by rw [e _ (by omega) (by omega)]; exact h10 k hk⟩
theorem layH_ok {k : Nat} (hg : OK S N) (hk : k ≤ 16) : OK S (lay 23 k (fun j => S (95 + j)) N) := hg.cong fun j hj => lay_out (by unfold OKi at hj; omega)
theorem C_refill (h : BR G l M ow τ a y S N) (hl : LV τ) (hg : OK S N) {Q : wM → Prop} (hQ : ∀ M1, Mv (lvT τ) M ow M1 ow → BR G l M1 ow τ a y S (booksF S N) → Q M1) : P_X2_refill G a M Q := by
  have hb := hg.b
  have key := st_loop (F := fun n k => ∀ M1, Mv (lvT τ) M ow M1 ow → BR G l M1 ow τ a y S (lay 23 k (fun j => S (95 + j)) N) → L_X2_refill_2 G Q n a (nI k) M1) (N := nh S) (fun n M1 hs h => ?_) (fun n k hk ih M1 hs h => ?_) 0 (Nat.zero_le _)
  · obtain ⟨n, hn⟩ := key
    exact ⟨n, hn M (Mv.rf hl.t0) (by rw [lay_0]; exact h)⟩
  · unfold L_X2_refill_2; unfold B_X2_refill_2
    refine oGetA.i h.bk rfl (oGetA.i h.su rfl (isA h.hl (E_size h.hl (oIf.y (nI_le (by omega) (by omega)) (hQ M1 hs (h.valH (layH_ok hg (by omega)) fun j h1 h2 => ?_))))))
    unfold booksF
    rcases h2 with h2 | h2
    · by_cases c : 23 ≤ j
      · rw [lay_in c (by omega), lay_in c (by omega)]
      · rw [lay_out (by omega), lay_out (by omega)]
    · rw [lay_out (by omega), lay_out (by omega)]
  · unfold L_X2_refill_2; unfold B_X2_refill_2
    refine oGetA.i h.bk rfl (oGetA.i h.su rfl (isA h.hl (E_size h.hl (oIf.n (nI_ge hk (by omega)) (oGetA.i h.bk rfl (oGetA.i h.bk rfl (oGetA.i h.su rfl (isA h.hl (E_get h.hl hk (kH h hk (oRef.s (gH2 h hk ?_))))))))))))
    refine C_stH h hl (layH_ok hg (by omega)) hk fun M2 hs2 h2 => ?_
    rw [lay_s] at h2
    rw [nI_1]
    exact ih M2 (hs.tr (hl.m (by decide) hs2)) h2
theorem C_offZ (hl : LV τ) {z : Nat} {Q : wM → Prop} {rec2 : Nat → Int32 → wM → Prop} (hz : z < nz S) : ∀ (d : Nat) {M : wM} {N : Rw}, BR G l M ow τ a y S N → OK S N → manyZ S N (nI z) 0 < d → (∀ M1, Mv (lvT τ) M ow M1 ow → BR G l M1 ow τ a y S (offZ S z d N) → rec2 a (nI (z + 1)) M1) → L_X2_offer_24 G rec2 Q d a (nI z) (waitAt S N (nI z) 0) M := by
  intro d
  induction d with
  | zero => intro M N h hg hm hQ; omega
  | succ d ih =>
    intro M N h hg hm hQ
    have hb := hg.b
    unfold L_X2_offer_24; unfold B_X2_offer_24
    unfold offZ at hQ
    have stop : (∀ M1, Mv (lvT τ) M ow M1 ow → BR G l M1 ow τ a y S N → rec2 a (nI (z + 1)) M1) → B_X2_offer_90 G rec2 Q a (nI z) M := fun hq => by
      unfold B_X2_offer_90; rw [nI_1]; exact hq M (Mv.rf hl.t0) h
    rcases waitAt_sp hg (nI z) 0 with ⟨e, -⟩ | ⟨p, hp, e, hq, -⟩
    · rw [if_pos e] at hQ
      exact oIf.y e (stop hQ)
    · have hw : isW S N (nI z) p = true := by unfold qAt at hq; rw [Bool.and_eq_true] at hq; exact hq.1
      rw [e, if_neg (nI_neg (by omega)), nI_clamp (by omega)] at hQ
      rw [e]
      have ht : takenZ S N (nI z) ≤ 2 * np N := by
        have h1 : manyZ S N (nI z) 1 ≤ np N := cnt_le _ _
        have h2 : manyZ S N (nI z) 2 ≤ np N := cnt_le _ _
        unfold takenZ; omega
      refine oIf.n (nI_neg (by omega)) (oIs.i h.bk (C_taken h hg (oGetA.i h.bk rfl (C_ldL h hg hz ?_))))
      by_cases c : takenZ S N (nI z) < (N (5 + z)).toNatClampNeg
      · rw [if_pos c] at hQ
        refine oIf.n (fun x => ?_) ?_
        · have := (nI_leC (by omega)).mp x; omega
        refine oGetA.i h.bk rfl (isA h.pl (E_get h.pl hp (kP h hp (oRef.s (C_putS h hl hg hp fun M1 hs1 h1 => ?_)))))
        have hg1 : OK S (upd N (40 + 7 * p + 2) 1) := hg.upd (by unfold OKi; omega) _
        refine oGetI.i h1.bk rfl (oGetA.i h1.bk rfl (oGetI.i h1.su rfl ?_))
        unfold P_X10_hours
        refine C_putL h1 hl hg1 (by rw [np_upd (by omega)]; exact hp) fun M2 hs2 h2 => ?_
        rw [upd_ne N _ (show 0 ≠ 40 + 7 * p + 2 by omega), Int32.mul_comm] at h2
        have h3 : BR G l M2 ow τ a y S (offW S N p) := h2
        have hg3 := offW_ok hg hp
        refine oIs.i h3.bk (C_firstWaiting h3 hg3 ?_)
        refine ih h3 hg3 ?_ fun M4 hs4 h4 => hQ M4 (((hl.m (by decide) hs1).tr (hl.m (by decide) hs2)).tr hs4) h4
        have := offW_many hp hw
        omega
      · rw [if_neg c] at hQ
        exact oIf.y ((nI_leC (by omega)).mpr (by omega)) (stop hQ)
theorem C_offer (h : BR G l M ow τ a y S N) (hl : LV τ) (hg : OK S N) {Q : wM → Prop} (hQ : ∀ M1, Mv (lvT τ) M ow M1 ow → BR G l M1 ow τ a y S (offF S N) → Q M1) : P_X2_offer G a M Q := by
  have hb := hg.b
  have key := st_loop (F := fun n k => ∀ M1, Mv (lvT τ) M ow M1 ow → BR G l M1 ow τ a y S (offA S N k) → L_X2_offer_2 G Q n a (nI k) M1) (N := nz S) (fun n M1 hs h1 => ?_) (fun n k hk ih M1 hs h1 => ?_) 0 (Nat.zero_le _)
  · obtain ⟨n, hn⟩ := key
    exact ⟨n, hn M (Mv.rf hl.t0) h⟩
  · unfold L_X2_offer_2; unfold B_X2_offer_2
    exact oGetA.i h1.bk rfl (oGetA.i h1.su rfl (isA h1.zl (E_size h1.zl (oIf.y (nI_le (by omega) (by omega)) (hQ M1 hs h1)))))
  · unfold L_X2_offer_2; unfold B_X2_offer_2
    have hg1 := offA_ok hg k
    refine oGetA.i h1.bk rfl (oGetA.i h1.su rfl (isA h1.zl (E_size h1.zl (oIf.n (nI_ge hk (by omega)) (oIs.i h1.bk (C_firstWaiting h1 hg1 ⟨61, ?_⟩))))))
    have hm : manyZ S (offA S N k) (nI k) 0 ≤ np (offA S N k) := cnt_le _ _
    have hb1 := hg1.b
    exact C_offZ hl hk 61 h1 hg1 (by omega) fun M2 hs2 h2 => ih M2 (hs.tr hs2) h2
theorem C_happen (h : BR G l M ow τ a y S N) (hl : LV τ) (hg : OK S N) {Q : wM → Prop} (hQ : ∀ M1, Mv (lvT τ) M ow M1 ow → BR G l M1 ow τ a y S (hapF S N) → Q M1) : P_X2_happen G a M Q := by
  have hb := hg.b
  have k3 : ∀ M1, Mv (lvT τ) M ow M1 ow → BR G l M1 ow τ a y S (fo expS (hap0 S N) (np N)) → ∃ n, L_X2_happen_97 G Q n a (nI 0) M1 := by
    intro M1 hs1 h1
    have key := st_loop (F := fun n k => ∀ M1, Mv (lvT τ) M ow M1 ow → BR G l M1 ow τ a y S (fo lapS (fo expS (hap0 S N) (np N)) k) → L_X2_happen_97 G Q n a (nI k) M1) (N := np N) (fun n M1 hs1 h => ?_) (fun n k hk ih M1 hs1 h => ?_) 0 (Nat.zero_le _)
    · obtain ⟨n, hn⟩ := key
      exact ⟨n, hn M1 hs1 h1⟩
    · unfold L_X2_happen_97; unfold B_X2_happen_97
      obtain ⟨hg1, hn1⟩ := hap2_ok hg (k := np N) (by omega)
      have hb1 := hg1.b
      refine oGetA.i h.bk rfl (isA h.pl (E_size h.pl ?_))
      rw [hn1]
      exact oIf.y (nI_le (by omega) (by omega)) (oIs.i h.bk (C_offer h hl hg1 fun M2 hs2 h2 => hQ M2 (hs1.tr hs2) h2))
    · unfold L_X2_happen_97; unfold B_X2_happen_97
      obtain ⟨hg1, hn1⟩ := hap2_ok hg (k := k) (by omega)
      have e0 : fo lapS (fo expS (hap0 S N) (np N)) (k + 1) = lapS k (fo lapS (fo expS (hap0 S N) (np N)) k) := rfl
      rw [e0] at ih
      generalize fo lapS (fo expS (hap0 S N) (np N)) k = N1 at *
      unfold lapS at ih
      have hk1 : k < np N1 := by omega
      refine oGetA.i h.bk rfl (isA h.pl (E_size h.pl ?_))
      rw [hn1]
      refine oIf.n (nI_ge hk (by omega)) (oGetA.i h.bk rfl (isA h.pl (E_get h.pl hk1 (kP h hk1 (oRef.s (gP4 h hk1 (oIf.c (fun c => ?_) (fun c => ?_))))))))
      · refine oGetA.i h.bk rfl (isA h.pl (E_get h.pl hk1 (kP h hk1 (oRef.s (gP6 h hk1 (oGetI.i h.bk rfl (oIf.c (fun c2 => ?_) (fun c2 => ?_))))))))
        · rw [if_pos ⟨c, c2⟩] at ih
          refine oGetA.i h.bk rfl (isA h.pl (E_get h.pl hk1 (kP h hk1 (oRef.s (C_putS h hl hg1 hk1 fun M2 hs2 h2 => ?_)))))
          unfold B_X2_happen_170
          rw [nI_1]; exact ih M2 (hs1.tr (hl.m (by decide) hs2)) h2
        · rw [if_neg (fun x => c2 x.2)] at ih
          unfold B_X2_happen_170
          rw [nI_1]; exact ih M1 hs1 h
      · rw [if_neg (fun x => c x.1)] at ih
        unfold B_X2_happen_170
        rw [nI_1]; exact ih M1 hs1 h
  have k2 : ∀ M1, Mv (lvT τ) M ow M1 ow → BR G l M1 ow τ a y S (hap0 S N) → B_X2_happen_14 G Q a M1 := by
    intro M1 hs1 h1
    have key := st_loop (F := fun n k => ∀ M1, Mv (lvT τ) M ow M1 ow → BR G l M1 ow τ a y S (fo expS (hap0 S N) k) → L_X2_happen_16 G Q n a (nI k) M1) (N := np N) (fun n M1 hs1 h => ?_) (fun n k hk ih M1 hs1 h => ?_) 0 (Nat.zero_le _)
    · obtain ⟨n, hn⟩ := key
      exact ⟨n, hn M1 hs1 h1⟩
    · unfold L_X2_happen_16; unfold B_X2_happen_16
      obtain ⟨hg1, hn1⟩ := hap1_ok hg (k := np N) (by omega)
      refine oGetA.i h.bk rfl (isA h.pl (E_size h.pl ?_))
      rw [hn1]
      exact oIf.y (nI_le (by omega) (by omega)) (k3 M1 hs1 h)
    · unfold L_X2_happen_16; unfold B_X2_happen_16
      obtain ⟨hg1, hn1⟩ := hap1_ok hg (k := k) (by omega)
      have e0 : fo expS (hap0 S N) (k + 1) = expS k (fo expS (hap0 S N) k) := rfl
      rw [e0] at ih
      generalize fo expS (hap0 S N) k = N1 at *
      unfold expS at ih
      have hk1 : k < np N1 := by omega
      refine oGetA.i h.bk rfl (isA h.pl (E_size h.pl ?_))
      rw [hn1]
      refine oIf.n (nI_ge hk (by omega)) (oGetA.i h.bk rfl (isA h.pl (E_get h.pl hk1 (kP h hk1 (oRef.s (gP4 h hk1 (oIf.c (fun c => ?_) (fun c => ?_))))))))
      · refine oGetA.i h.bk rfl (isA h.pl (E_get h.pl hk1 (kP h hk1 (oRef.s (gP5 h hk1 (oGetI.i h.bk rfl (oIf.c (fun c2 => ?_) (fun c2 => ?_))))))))
        · rw [if_pos ⟨c, c2⟩] at ih
          refine oGetA.i h.bk rfl (isA h.pl (E_get h.pl hk1 (kP h hk1 (oRef.s (C_putS h hl hg1 hk1 fun M2 hs2 h2 => ?_)))))
          unfold B_X2_happen_89
          rw [nI_1]; exact ih M2 (hs1.tr (hl.m (by decide) hs2)) h2
        · rw [if_neg (fun x => c2 x.2)] at ih
          unfold B_X2_happen_89
          rw [nI_1]; exact ih M1 hs1 h
      · rw [if_neg (fun x => c x.1)] at ih
        unfold B_X2_happen_89
        rw [nI_1]; exact ih M1 hs1 h
  refine oGetI.i h.bk rfl ?_
  unfold hap0 at k2
  refine oIf.c (fun c => ?_) (fun c => ?_)
  · rw [if_pos c] at k2
    exact oIs.i h.bk (C_refill h hl hg fun M1 hs1 h1 => k2 M1 hs1 h1)
  · rw [if_neg c] at k2
    exact k2 M (Mv.rf hl.t0) h
theorem C_passTo {T0 : Int32} {Q : wM → Prop} (h : BR G l M ow τ a y S N) (hl : LV τ) (hg : OK S N) (d : Nat) (hd : goEnds S T0 d N) (hQ : ∀ M1, Mv (lvT τ) M ow M1 ow → BR G l M1 ow τ a y S (goF S T0 d N) → Q M1) : P_X2_passTo G a T0 M Q := by
  have key : ∀ (d : Nat) {M : wM} {N : Rw}, BR G l M ow τ a y S N → OK S N → goEnds S T0 d N → (∀ M1, Mv (lvT τ) M ow M1 ow → BR G l M1 ow τ a y S (goF S T0 d N) → Q M1) → L_X2_passTo_5 G Q (d + 1) a T0 (dueF N) M := by
    intro d
    induction d with
    | zero =>
      intro M N h hg hd hQ
      have hd : T0 < dueF N := hd
      unfold L_X2_passTo_5; unfold B_X2_passTo_5
      exact oIf.y hd (C_putT h hl hg fun M1 hs1 h1 => hQ M1 (hl.m (by decide) hs1) h1)
    | succ d ih =>
      intro M N h hg hd hQ
      unfold L_X2_passTo_5; unfold B_X2_passTo_5
      unfold goF at hQ
      by_cases c : T0 < dueF N
      · rw [if_pos c] at hQ
        exact oIf.y c (C_putT h hl hg fun M1 hs1 h1 => hQ M1 (hl.m (by decide) hs1) h1)
      · rw [if_neg c] at hQ
        rcases hd with hd | hd
        · exact absurd hd c
        refine oIf.n c (C_putT h hl hg fun M1 hs1 h1 => ?_)
        refine oIs.i h1.bk (C_happen h1 hl (up0_ok hg _) fun M2 hs2 h2 => ?_)
        have hg2 := hapF_ok (up0_ok hg (dueF N))
        exact oIs.i h2.bk (C_nextEvent h2 hg2 (ih h2 hg2 hd fun M3 hs3 h3 => hQ M3 (((hl.m (by decide) hs1).tr hs2).tr hs3) h3))
  exact oIs.i h.bk (C_nextEvent h hg ⟨d + 1, key d h hg hd hQ⟩)
end COMP4
