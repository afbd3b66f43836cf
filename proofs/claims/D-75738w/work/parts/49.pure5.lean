set_option maxRecDepth 100000
/-! STAGE 2, pure 5: fines -/
theorem fineN_o {N : Rw} {c j : Nat} {r : Int32} (h : j ≠ 4) (h2 : ¬ (940 + 5 * nf N ≤ j ∧ j < 940 + 5 * nf N + 5)) : fineN N c r j = N j := by
  unfold fineN
  rw [upd_ne _ _ (by omega), upd_ne _ _ (by omega), upd_ne _ _ (by omega), upd_ne _ _ (by omega), upd_ne _ _ (by omega), upd_ne _ _ h]
theorem fineN_4 {N : Rw} {c : Nat} {r : Int32} : fineN N c r 4 = N 4 + 1 := by
  unfold fineN
  rw [upd_ne _ _ (by omega), upd_ne _ _ (by omega), upd_ne _ _ (by omega), upd_ne _ _ (by omega), upd_ne _ _ (by omega), upd_eq]
theorem fineN_f {N : Rw} {c f k : Nat} {r : Int32} (hk : k < 5) : fP (fineN N c r) f k = if f = nf N then (if k = 0 then cP N c 0 else if k = 1 then cP N c 1 else if k = 2 then N 0 else if k = 3 then r else 0) else fP N f k := by
  by_cases e : f = nf N
  · rw [if_pos e, e]
    unfold fP fineN
    have : k = 0 ∨ k = 1 ∨ k = 2 ∨ k = 3 ∨ k = 4 := by omega
    rcases this with rfl | rfl | rfl | rfl | rfl
    · rw [upd_ne _ _ (by omega), upd_ne _ _ (by omega), upd_ne _ _ (by omega), upd_ne _ _ (by omega), upd_eq]; rfl
    · rw [upd_ne _ _ (by omega), upd_ne _ _ (by omega), upd_ne _ _ (by omega), upd_eq]; rfl
    · rw [upd_ne _ _ (by omega), upd_ne _ _ (by omega), upd_eq]; rfl
    · rw [upd_ne _ _ (by omega), upd_eq]; rfl
    · rw [upd_eq]; rfl
  · rw [if_neg e]
    exact fineN_o (by omega) (by omega)
theorem fineN_nf {N : Rw} {c : Nat} {r : Int32} (h : N 4 = nI (nf N)) (hn : nf N < 99) : nf (fineN N c r) = nf N + 1 := by
  have : fineN N c r 4 = nI (nf N + 1) := by rw [fineN_4, h, nI_1]
  show (fineN N c r 4).toNatClampNeg = nf N + 1
  rw [this, nI_clamp (by omega)]
theorem fineN_ok {S N : Rw} (h : OK S N) {c r : Nat} (hc : c < nc N) (h1 : 1 ≤ r) (h6 : r ≤ 6) (hn : nf N < 99) : OK S (fineN N c (nI r)) := by
  have hb := h.b
  obtain ⟨g0, g1, g2, g3, g4, g5, g6, g7, g8, g9⟩ := h
  have e : ∀ j, j ≠ 4 → j < 940 → fineN N c (nI r) j = N j := fun j a b => fineN_o a (by omega)
  have f1 : np (fineN N c (nI r)) = np N := by unfold np; rw [e 1 (by omega) (by omega)]
  have f2 : nv (fineN N c (nI r)) = nv N := by unfold nv; rw [e 2 (by omega) (by omega)]
  have f3 : nc (fineN N c (nI r)) = nc N := by unfold nc; rw [e 3 (by omega) (by omega)]
  have f4 : nf (fineN N c (nI r)) = nf N + 1 := fineN_nf g4.1 hn
  unfold OK
  rw [f1, f2, f3, f4, e 1 (by omega) (by omega), e 2 (by omega) (by omega), e 3 (by omega) (by omega), fineN_4]
  refine ⟨g0, g1, g2, g3, ⟨by rw [g4.1, nI_1], by omega⟩, fun p hp => ?_, fun p hp => ?_, fun p hp => ?_, fun f hf => ?_, fun f hf => ?_⟩
  · unfold pP; rw [e _ (by omega) (by omega)]; exact g5 p hp
  · unfold vP; rw [e _ (by omega) (by omega)]; exact g6 p hp
  · unfold cP; rw [e _ (by omega) (by omega)]; exact g7 p hp
  · rw [fineN_f (by decide)]
    by_cases x : f = nf N
    · rw [if_pos x]; exact g7 c hc
    · rw [if_neg x]; exact g8 f (by omega)
  · rw [fineN_f (by decide)]
    by_cases x : f = nf N
    · rw [if_pos x]; exact ⟨r, h1, h6, rfl⟩
    · rw [if_neg x]; exact g9 f (by omega)
theorem fineN_cP {N : Rw} {c c' k : Nat} {r : Int32} (hc : c' < 80) (hk : k < 3) : cP (fineN N c r) c' k = cP N c' k := by unfold cP; exact fineN_o (by omega) (by omega)
theorem fineN_ft {N : Rw} {c : Nat} {r : Int32} (h : FT N) (h4 : N 4 = nI (nf N)) (hn : nf N < 99) : FT (fineN N c r) := by
  obtain ⟨T, tt, e0, hT, h1, h2⟩ := h
  refine ⟨T, fun f => if f = nf N then T else tt f, by rw [fineN_o (by omega) (by omega)]; exact e0, hT, fun f hf => ?_, fun i j hij hj => ?_⟩
  · rw [fineN_nf h4 hn] at hf
    rw [fineN_f (by decide)]
    by_cases x : f = nf N
    · simp only [if_pos x]; exact ⟨e0, Nat.le_refl _⟩
    · simp only [if_neg x]; exact h1 f (by omega)
  · rw [fineN_nf h4 hn] at hj
    by_cases x : j = nf N
    · simp only [if_pos x]
      by_cases z : i = nf N
      · rw [if_pos z]; exact Nat.le_refl _
      · rw [if_neg z]; exact (h1 i (by omega)).2
    · simp only [if_neg x]
      rw [if_neg (show i ≠ nf N by omega)]
      exact h2 i j hij (by omega)
theorem ruleF_v (S N : Rw) (x : Int32) (s : Nat) : ∃ r, r ≤ 6 ∧ ruleF S N x s = nI r := by
  unfold ruleF
  split
  · exact ⟨0, by decide, rfl⟩
  split
  · exact ⟨1, by decide, rfl⟩
  split
  · exact ⟨2, by decide, rfl⟩
  split
  · exact ⟨3, by decide, rfl⟩
  split
  · exact ⟨4, by decide, rfl⟩
  split
  · exact ⟨5, by decide, rfl⟩
  · exact ⟨6, by decide, rfl⟩
theorem finedC_v (S N : Rw) (c : Nat) : ∃ r, r ≤ 6 ∧ finedC S N c = nI r := by
  unfold finedC
  split
  · exact ⟨0, by decide, rfl⟩
  split
  · exact ⟨0, by decide, rfl⟩
  · exact ruleF_v S N _ _
/-- what an inspection keeps -/
def inspI (S N N1 : Rw) : Prop := OK S N1 ∧ VB N1 ∧ FT N1 ∧ nc N1 = nc N ∧ (∀ c k, c < 80 → k < 3 → cP N1 c k = cP N c k) ∧ ∀ j, j ≠ 4 → j < 940 → N1 j = N j
theorem inspI_s {S N N1 : Rw} {s : Int32} {c : Nat} (hc : c < nc N) (h : inspI S N N1) : inspI S N (inspS S s c N1) := by
  obtain ⟨h1, h2, h3, h4, h5, h6⟩ := h
  have hb := h1.b
  unfold inspS
  split
  · rename_i hh
    obtain ⟨e1, e2, e3⟩ := hh
    obtain ⟨r, hr, er⟩ := finedC_v S N1 c
    have hn : nf N1 < 99 := by
      have a1 := h1.2.2.2.2.1
      have : nf N1 ≠ 99 := fun x => e2 (by rw [a1.1, x]; rfl)
      omega
    have hr0 : r ≠ 0 := fun x => e3 (by rw [er, x]; rfl)
    rw [er]
    have oj : ∀ j, j ≠ 4 → j < 940 → fineN N1 c (nI r) j = N1 j := fun j a b => fineN_o a (by omega)
    refine ⟨fineN_ok h1 (by omega) (by omega) hr hn, ?_, fineN_ft h3 h1.2.2.2.2.1.1 hn, ?_, fun c' k hc' hk => ?_, fun j j1 j2 => ?_⟩
    · intro v hv
      have hv' : v < nv N1 := by unfold nv at hv ⊢; rw [oj 2 (by omega) (by omega)] at hv; exact hv
      unfold vP
      rw [oj _ (by omega) (by omega), oj 0 (by omega) (by omega)]
      exact h2 v hv'
    · unfold nc; rw [oj 3 (by omega) (by omega)]; exact h4
    · rw [fineN_cP hc' hk]; exact h5 c' k hc' hk
    · rw [oj j j1 j2]; exact h6 j j1 j2
  · exact ⟨h1, h2, h3, h4, h5, h6⟩
theorem inspI_k {S N : Rw} {s : Int32} (h : OK S N) (hv : VB N) (hf : FT N) : ∀ k, k ≤ nc N → inspI S N (fo (inspS S s) N k) :=
  fo_ind (I := inspI S N) ⟨h, hv, hf, rfl, fun _ _ _ _ => rfl, fun _ _ _ => rfl⟩ fun k x hk hx => inspI_s hk hx
