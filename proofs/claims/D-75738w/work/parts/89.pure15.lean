set_option maxRecDepth 100000
/-! STAGE 2, pure 15: the order of waiting permits -/
theorem cnt_img {g : Nat → Nat} {N : Nat} : ∀ (j : Nat) (p : Nat → Bool), (∀ i, i < j → g i < N) → (∀ a b, a < j → b < j → g a = g b → a = b) → (∀ q, q < N → (p q = true ↔ ∃ i, i < j ∧ g i = q)) → cnt p N = j := by
  intro j
  induction j with
  | zero =>
    intro p _ _ h
    exact cnt_0 fun k hk => by
      rw [← Bool.not_eq_true]; intro e
      obtain ⟨i, hi, -⟩ := (h k hk).mp e
      omega
  | succ j ih =>
    intro p h1 h2 h3
    have e : cnt (fun q => p q && !decide (q = g j)) N = j := by
      refine ih _ (fun i hi => h1 i (by omega)) (fun a b ha hb => h2 a b (by omega) (by omega)) fun q hq => ?_
      simp only [Bool.and_eq_true, Bool.not_eq_true', decide_eq_false_iff_not]
      rw [h3 q hq]
      constructor
      · rintro ⟨⟨i, hi, ei⟩, hne⟩
        refine ⟨i, ?_, ei⟩
        by_cases c : i = j
        · subst c; exact absurd ei.symm hne
        · omega
      · rintro ⟨i, hi, ei⟩
        refine ⟨⟨i, by omega, ei⟩, fun e => ?_⟩
        have := h2 i j (by omega) (by omega) (ei.trans e)
        omega
    have hj := h1 j (by omega)
    have := cnt_flip (p := p) (q := fun q => p q && !decide (q = g j)) hj ((h3 _ hj).mpr ⟨j, by omega, rfl⟩) (by simp) fun k hk hne => by simp [hne]
    omega
def keyL (N : Rw) (p q : Nat) : Prop := vH N p < vH N q ∨ vH N p = vH N q ∧ p < q
/-- o: the n waiting permits among the first k, in their order -/
def QI (S N : Rw) (z : Int32) (k n : Nat) (o : Nat → Nat) : Prop := (∀ j, j < n → o j < k ∧ isW S N z (o j) = true) ∧ (∀ q, q < k → isW S N z q = true → ∃ j, j < n ∧ o j = q) ∧ ∀ i j, i < j → j < n → keyL N (o i) (o j)
theorem QI.z (S N : Rw) (z : Int32) (o : Nat → Nat) : QI S N z 0 0 o := ⟨fun j hj => by omega, fun q hq => by omega, fun i j _ hj => by omega⟩
theorem QI.sk {S N : Rw} {z : Int32} {k n : Nat} {o : Nat → Nat} (h : QI S N z k n o) (hw : isW S N z k = false) : QI S N z (k + 1) n o :=
  ⟨fun j hj => ⟨by have := (h.1 j hj).1; omega, (h.1 j hj).2⟩, fun q hq hq2 => h.2.1 q (by
    by_cases e : q = k
    · rw [e, hw] at hq2; cases hq2
    · omega) hq2, h.2.2⟩
theorem QI.ins {S N : Rw} {z : Int32} {k n pl : Nat} {o : Nat → Nat} (h : QI S N z k n o) (hw : isW S N z k = true) (hpl : pl ≤ n) (h1 : ∀ j, pl ≤ j → j < n → vH N k < vH N (o j)) (h2 : pl = 0 ∨ ¬ vH N k < vH N (o (pl - 1))) : QI S N z (k + 1) (n + 1) (insN o pl k) := by
  obtain ⟨g1, g2, g3⟩ := h
  refine ⟨fun j hj => ?_, fun q hq hq2 => ?_, fun i j hij hj => ?_⟩
  · by_cases c : j < pl
    · rw [insN_l c]; exact ⟨by have := (g1 j (by omega)).1; omega, (g1 j (by omega)).2⟩
    · by_cases c2 : j = pl
      · rw [c2, insN_e]; exact ⟨by omega, hw⟩
      · rw [insN_g (by omega)]; exact ⟨by have := (g1 (j - 1) (by omega)).1; omega, (g1 (j - 1) (by omega)).2⟩
  · by_cases e : q = k
    · exact ⟨pl, by omega, by rw [insN_e, e]⟩
    · obtain ⟨j, hj, ej⟩ := g2 q (by omega) hq2
      by_cases c : j < pl
      · exact ⟨j, by omega, by rw [insN_l c, ej]⟩
      · exact ⟨j + 1, by omega, by rw [insN_g (by omega), show j + 1 - 1 = j by omega, ej]⟩
  · have key : ∀ i, i < pl → keyL N (o i) k := fun i hi => by
      have a1 := (g1 i (by omega)).1
      have a2 : vH N (o i) ≤ vH N (o (pl - 1)) := by
        by_cases c : i = pl - 1
        · rw [c]; exact Nat.le_refl _
        · have := g3 i (pl - 1) (by omega) (by omega)
          unfold keyL at this; omega
      unfold keyL; omega
    by_cases c : i < pl
    · rw [insN_l c]
      by_cases c2 : j < pl
      · rw [insN_l c2]; exact g3 i j hij (by omega)
      · by_cases c3 : j = pl
        · rw [c3, insN_e]; exact key i c
        · rw [insN_g (by omega)]; exact g3 i (j - 1) (by omega) (by omega)
    · by_cases c2 : i = pl
      · rw [c2, insN_e, insN_g (by omega)]; exact .inl (h1 (j - 1) (by omega) (by omega))
      · rw [insN_g (by omega), insN_g (by omega)]; exact g3 (i - 1) (j - 1) (by omega) (by omega)
theorem QI.inj {S N : Rw} {z : Int32} {k n : Nat} {o : Nat → Nat} (h : QI S N z k n o) : ∀ a b, a < n → b < n → o a = o b → a = b := by
  intro a b ha hb e
  rcases Nat.lt_trichotomy a b with c | c | c
  · have := h.2.2 a b c hb; unfold keyL at this; rw [e] at this; omega
  · exact c
  · have := h.2.2 b a c ha; unfold keyL at this; rw [e] at this; omega
theorem QI.n {S N : Rw} {z : Int32} {n : Nat} {o : Nat → Nat} (h : QI S N z (np N) n o) : n = manyZ S N z 0 := by
  refine (cnt_img (g := o) n _ (fun i hi => (h.1 i hi).1) h.inj fun q hq => ?_).symm
  exact ⟨fun e => h.2.1 q hq e, fun ⟨i, hi, ei⟩ => by rw [← ei]; exact (h.1 i hi).2⟩
theorem QI.ah {S N : Rw} {z : Int32} {n j : Nat} {o : Nat → Nat} (h : QI S N z (np N) n o) (hj : j < n) : aheadN S N (o j) = j := by
  unfold aheadN
  rw [isW_z (h.1 j hj).2]
  refine cnt_img (g := o) j _ (fun i hi => (h.1 i (by omega)).1) (fun a b ha hb => h.inj a b (by omega) (by omega)) fun q hq => ?_
  unfold qAh
  simp only [Bool.and_eq_true, Bool.or_eq_true, decide_eq_true_eq]
  constructor
  · rintro ⟨hne, hw, hk⟩
    obtain ⟨i, hi, ei⟩ := h.2.1 q hq hw
    refine ⟨i, ?_, ei⟩
    subst ei
    rcases Nat.lt_trichotomy i j with c | c | c
    · exact c
    · subst c; exact absurd rfl hne
    · have := h.2.2 j i c hi; unfold keyL at this; omega
  · rintro ⟨i, hi, ei⟩
    subst ei
    have := h.2.2 i j hi hj
    unfold keyL at this
    exact ⟨fun e => by have := h.inj i j (by omega) hj e; omega, (h.1 i (by omega)).2, by omega⟩
theorem QI.at {S N : Rw} {z : Int32} {n j : Nat} {o : Nat → Nat} (hg : OK S N) (h : QI S N z (np N) n o) (hj : j < n) : waitAt S N z (nI j) = nI (o j) := by
  have hb := hg.b
  have hn : n ≤ 60 := by rw [h.n]; exact Nat.le_trans (cnt_le _ _) hb.1
  rcases waitAt_sp hg z (nI j) with ⟨-, e⟩ | ⟨p, hp, e, h1, -⟩
  · have := e (o j) (h.1 j hj).1
    unfold qAt at this
    rw [(h.1 j hj).2, h.ah hj] at this
    simp at this
  · rw [e]
    unfold qAt at h1
    simp only [Bool.and_eq_true, decide_eq_true_eq] at h1
    obtain ⟨i, hi, ei⟩ := h.2.1 p hp h1.1
    subst ei
    have h2 := h1.2
    rw [h.ah hi] at h2
    rw [nI_inj (by omega) (by omega) h2]
