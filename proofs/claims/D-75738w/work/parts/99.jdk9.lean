set_option maxRecDepth 100000
/-! STAGE 2, JDK 9: texts that are compared, sought -/
section JDK9
variable {G : wG} {M : wM} {ow : Nat → Nat} {σ σ' x z n n' : Nat} {r r' : Nat → Int32}
theorem STR.is (h : STR G M ow σ x n r) {P : Prop} (hp : P) : oIs M x 24 P := by obtain ⟨v, hh, zz, h1, -⟩ := h; exact oIs.i h1.1 hp
theorem S_strEq (hx : STR G M ow σ x n r) (hz : STR G M ow σ' z n' r') (hn : n < 2 ^ 31) (hn' : n' < 2 ^ 31) {Q : Bool → wM → Prop} (hQ : Q (eqS n r n' r') M) : P_J19_equals G x (some z) M Q := by
  obtain ⟨v, hh, zz, h1, h2⟩ := hx
  obtain ⟨v', hh', zz', g1, g2⟩ := hz
  refine oIf.c (fun e => ?_) (fun e => ?_)
  · have e : x = z := Option.some.inj e
    subst e
    have e1 := h1.1
    rw [g1.1] at e1
    simp only [Option.some.injEq, Sum.inr.injEq, Prod.mk.injEq, List.cons.injEq, Value.ref.injEq, true_and, and_true] at e1
    obtain ⟨e1, -⟩ := e1
    have e2 := h2.1
    rw [← e1, g2.1] at e2
    simp only [Option.some.injEq, Sum.inl.injEq, Prod.mk.injEq, true_and] at e2
    obtain ⟨e2, e3⟩ := e2
    subst e2
    rw [eqS_iff.mpr ⟨rfl, fun j _ => by rw [e3]⟩] at hQ
    exact hQ
  refine oRef.s (oIs.i g1.1 (oIf.n (by decide) (oCast.s g1.1 (oIf.n (by decide) (oGetI.i h1.1 rfl (oGetI.i g1.1 rfl (oIf.y rfl (oGetA.i h1.1 rfl (oGetA.i g1.1 rfl ?_)))))))))
  refine oAlen.i h2.1 (oAlen.i g2.1 (oIf.c (fun c => ?_) (fun c => ?_)))
  · have c : n = n' := nI_inj hn hn' c
    subst c
    refine st_loopP (F := fun m k => L_J21_equals_9 G (fun r5 M3 => oIf (r5 = true) (B_J19_equals_55 G Q (1 : Int32) M3) (B_J19_equals_54 G Q M3)) m v v' (nI k) M) (P := fun k => ∀ j, j < k → r j = r' j) (N := n) (fun m hq => ?_) (fun m k hk hq ih => ?_) 0 (Nat.zero_le _) (fun j hj => by omega)
    · unfold L_J21_equals_9; unfold B_J21_equals_9
      rw [eqS_iff.mpr ⟨rfl, hq⟩] at hQ
      exact oAlen.i h2.1 (oIf.y (nI_le (Nat.le_refl _) hn) (oIf.y rfl ⟨true, rfl, hQ⟩))
    · unfold L_J21_equals_9; unfold B_J21_equals_9
      refine oAlen.i h2.1 (oIf.n (nI_ge hk hn) (oIald.e rfl h2.1 hk hn (oIald.e rfl g2.1 hk hn (oIf.c (fun c => ?_) (fun c => ?_)))))
      · rw [nI_1]
        refine ih fun j hj => ?_
        by_cases e : j = k
        · rw [e]; exact c
        · exact hq j (by omega)
      · have e : eqS n r n r' = false := by
          rw [← Bool.not_eq_true, eqS_iff]
          exact fun h => c (h.2 k hk)
        rw [e] at hQ
        exact oIf.n (by decide) ⟨false, rfl, hQ⟩
  · have e : eqS n r n' r' = false := by
      rw [← Bool.not_eq_true, eqS_iff]
      exact fun h => c (by rw [h.1])
    rw [e] at hQ
    exact oIf.n (by decide) ⟨false, rfl, hQ⟩
/-- a text is sought in a list of texts -/
theorem S_idxOf {τ a m : Nat} {g : Nat → Nat} {ln : Nat → Nat} {rr : Nat → Nat → Int32} (h : ALe G M ow τ a m g) (hx : STR G M ow σ x n r) (hn : n < 2 ^ 31) (hs : ∀ k, k < m → STR G M ow σ' (g k) (ln k) (rr k) ∧ ln k < 2 ^ 31) {Q : Int32 → wM → Prop} (hQ : Q (srch (fun k => eqS n r (ln k) (rr k)) (m - 0) 0) M) : P_J2_indexOf G a x M Q := by
  obtain ⟨mc, h⟩ := h
  obtain ⟨e, cap, rf, h1, h2, h3, h4, h5, h6, -⟩ := h.arr
  refine oGetI.i h1 rfl (oIs.i h1 (oGetA.i h1 rfl ?_))
  refine st_loopP (F := fun i k => L_J2_indexOfRange_42 G (fun v4 M2 => Q v4 M2) i x (nI m) e (nI k) M) (P := fun k => Q (srch (fun k => eqS n r (ln k) (rr k)) (m - k) k) M) (N := m) (fun i hq => ?_) (fun i k hk hq ih => ?_) 0 (Nat.zero_le _) hQ
  · unfold L_J2_indexOfRange_42; unfold B_J2_indexOfRange_42
    rw [Nat.sub_self] at hq
    exact oIf.y (nI_le (Nat.le_refl _) (by omega)) hq
  · unfold L_J2_indexOfRange_42; unfold B_J2_indexOfRange_42
    refine oIf.n (nI_ge hk (by omega)) (oAald.e rfl h2 (by omega) (by omega) ?_)
    rw [h6 k hk]
    refine hx.is (S_strEq hx (hs k hk).1 hn (hs k hk).2 (bl _ (fun c => ?_) (fun c => ?_)))
    · rw [srch_y hk c] at hq; exact hq
    · rw [srch_n hk (by rw [c]; decide)] at hq
      rw [nI_1]; exact ih hq
/-- names that are sought by their number -/
theorem S_idxNm {τ a m : Nat} {g : Nat → Nat} {ll : Nat → Int64} (h : ALe G M ow τ a m g) (hx : STR G M ow σ x n r) (hn : n < 2 ^ 31) (hs : ∀ k, k < m → NMS G M ow σ' (g k) (ll k)) {Q : Int32 → wM → Prop} (h1 : isNmS n r → Q (placeF ll m (nmF r n)) M) (h2 : ¬ isNmS n r → Q (-1) M) : P_J2_indexOf G a x M Q := by
  have hc : ∀ k, ∃ p : Nat × (Nat → Int32), k < m → STR G M ow σ' (g k) p.1 p.2 ∧ isNmS p.1 p.2 ∧ ll k = nmF p.2 p.1 := fun k => by
    by_cases c : k < m
    · obtain ⟨n, r, k1, k2, k3, k4, k5⟩ := hs k c
      exact ⟨(n, r), fun _ => ⟨k1, ⟨k2, k3, k4⟩, k5⟩⟩
    · exact ⟨(0, fun _ => 0), fun z => absurd z c⟩
  have hf := fun k => Classical.choose_spec (hc k)
  generalize hfe : (fun k => Classical.choose (hc k)) = f at *
  have hf : ∀ k, k < m → STR G M ow σ' (g k) (f k).1 (f k).2 ∧ isNmS (f k).1 (f k).2 ∧ ll k = nmF (f k).2 (f k).1 := fun k hk => by
    have := hf k hk
    rw [← hfe]; exact this
  obtain ⟨s1, s2⟩ := srch_nm (n := n) (r := r) (m := m) (ln := fun k => (f k).1) (rr := fun k => (f k).2) (g := ll) (fun k hk => (hf k hk).2)
  refine S_idxOf h hx hn (ln := fun k => (f k).1) (rr := fun k => (f k).2) (fun k hk => ⟨(hf k hk).1, by have := (hf k hk).2.1.2.1; omega⟩) ?_
  by_cases c : isNmS n r
  · rw [s1 c]; exact h1 c
  · rw [s2 c]; exact h2 c
end JDK9
