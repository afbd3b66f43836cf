set_option maxRecDepth 100000
/-! STAGE 2, the twin: it is made -/
def xT (k : Nat) : wE :=
  if k < 2 then .inl (.int, 130, .inl (fun _ => 0)) else if k < 6 then .inl (.int, 1435, .inl (fun _ => 0)) else if k = 6 then .inl (.int, 14350, .inl (fun _ => 0)) else if k = 7 then .inl (.long, 6, .inr (.inl (fun _ => 0))) else if k = 8 then .inl (.long, 12, .inr (.inl (fun _ => 0)))
  else if k = 9 then .inl (.long, 16, .inr (.inl (fun _ => 0))) else if k = 10 then .inl (.byte, 900, .inl (fun _ => 0)) else if k = 11 then .inl (.long, 6, .inr (.inl (fun _ => 0))) else if k = 12 then .inl (.long, 12, .inr (.inl (fun _ => 0)))
  else if k = 13 then .inl (.long, 16, .inr (.inl (fun _ => 0))) else .inl (.byte, 300, .inl (fun _ => 0))
def NA (G : wG) (M0 : wM) (t : Nat) (fs : List Value) (M : wM) (g : Nat → Nat) (k : Nat) : Prop :=
  M t = some (.inr (3, fs)) ∧ wz G ≤ t ∧ (∀ i, i < k → M (g i) = some (xT i) ∧ wz G ≤ g i ∧ M0 (g i) = none) ∧ (∀ i j, i < k → j < k → g i = g j → i = j) ∧ ∀ q, q ≠ t → (∀ i, i < k → q ≠ g i) → M q = M0 q
theorem xT_l (k : Nat) : ∃ y, xT k = .inl y := by
  unfold xT
  repeat' (first | exact ⟨_, rfl⟩ | split)
theorem NA.st {G : wG} {M0 M : wM} {t : Nat} {fs : List Value} {g : Nat → Nat} {k : Nat} (h : NA G M0 t fs M g k) {ty : FieldType} {n : Nat} {x} {y : Int32} {b j : Nat} {κ : wM → Nat → Prop} (hx : xT k = .inl (ty, n, x)) (e : y = nI n) (hn : n ≤ 20000) (hb : n + 1 ≤ b) (hj : j < fs.length)
    (hp : ∀ a M2, NA G M0 t (fs.set j (.ref a)) M2 (va_up g k a) (k + 1) → κ M2 (b - (n + 1))) : oNewa G M b ty x y (fun a M2 b3 => oPut G M2 t 3 j (.ref a) (fun M4 => κ M4 b3)) := by
  obtain ⟨h1, h2, h3, h4, h5⟩ := h
  subst e
  refine ⟨nI_pos (by omega), by rw [nI_clamp (by omega)]; exact hb, by rw [nI_clamp (by omega)]; omega, fun q hq hz => ?_⟩
  rw [nI_clamp (by omega)]
  have hqt : q ≠ t := fun e => by rw [e, h1] at hq; cases hq
  have hqg : ∀ i, i < k → q ≠ g i := fun i hi e => by rw [e, (h3 i hi).1] at hq; cases hq
  have hgt : ∀ i, i < k → g i ≠ t := fun i hi e => by
    obtain ⟨y, ey⟩ := xT_l i
    have := (h3 i hi).1
    rw [e, h1, ey] at this
    cases this
  have hg1 : ∀ i, i < k → va_up g k q i = g i := fun i hi => by unfold va_up; rw [if_neg (by omega)]
  have hg2 : va_up g k q k = q := va_up_self _ _ _
  refine oPut.i ((wIns_ne _ _ hqt.symm).trans h1) hj h2 (hp q _ ⟨wIns_eq _ _ _, h2, fun i hi => ?_, fun i j hi hj e => ?_, fun r hr hr2 => ?_⟩)
  · by_cases e : i = k
    · rw [e, hg2, wIns_ne _ _ hqt, wIns_eq, hx]
      exact ⟨rfl, hz, (h5 q hqt hqg).symm.trans hq⟩
    · have hi : i < k := by omega
      rw [hg1 i hi, wIns_ne _ _ (hgt i hi), wIns_ne _ _ (hqg i hi).symm]
      exact h3 i hi
  · by_cases e1 : i = k
    · by_cases e2 : j = k
      · rw [e1, e2]
      · rw [e1, hg2, hg1 j (by omega)] at e; exact absurd e (hqg j (by omega))
    · by_cases e2 : j = k
      · rw [e2, hg2, hg1 i (by omega)] at e; exact absurd e.symm (hqg i (by omega))
      · rw [hg1 i (by omega), hg1 j (by omega)] at e; exact h4 i j (by omega) (by omega) e
  · have a1 : r ≠ q := by have := hr2 k (by omega); rw [hg2] at this; exact this
    rw [wIns_ne _ _ hr, wIns_ne _ _ a1]
    exact h5 r hr (fun i hi => by have := hr2 i (by omega); rw [hg1 i hi] at this; exact this)
theorem NA.pt {G : wG} {M0 M : wM} {t : Nat} {fs : List Value} {g : Nat → Nat} {k : Nat} (h : NA G M0 t fs M g k) {j : Nat} {v : Value} {κ : wM → Prop} (hj : j < fs.length) (hp : ∀ M1, NA G M0 t (fs.set j v) M1 g k → κ M1) : oPut G M t 3 j v κ := by
  obtain ⟨h1, h2, h3, h4, h5⟩ := h
  have hgt : ∀ i, i < k → g i ≠ t := fun i hi e => by
    obtain ⟨y, ey⟩ := xT_l i
    have := (h3 i hi).1
    rw [e, h1, ey] at this
    cases this
  exact oPut.i h1 hj h2 (hp _ ⟨wIns_eq _ _ _, h2, fun i hi => by rw [wIns_ne _ _ (hgt i hi)]; exact h3 i hi, h4, fun q hq hq2 => by rw [wIns_ne _ _ hq]; exact h5 q hq hq2⟩)
abbrev fs0T : List Value := [.int 0, .null, .null, .null, .null, .null, .null, .null, .int 0, .int 0, .null, .null, .null, .null, .int 0, .int 0, .int 0, .int 0, .int 0, .int 0, .int 0, .int 0, .int 0, .null, .null, .null, .null, .int 0]
def idT (k : Nat) : Nat := if k ≤ 7 then k - 1 else if k ≤ 13 then k - 3 else k - 12
def i0T : Rw := upd zeroR 22 (-1)
theorem S_init {G : wG} {M : wM} {t b : Nat} (h : M t = some (.inr (3, fs0T))) (hz : wz G ≤ t) (hb : 22000 ≤ b) {Q : wM → Prop}
    (hQ : ∀ f M1, (∀ k, tI k → M (f k) = none) → TW G M M1 t f (upd (upd i0T 8 0) 9 0) (lay 0 130 (clrD zeroR) zeroR) (clrD zeroR) (tdN (lay 0 130 (clrD zeroR) zeroR) zeroR) zeroR zeroR zeroR zeroR (tdL (fun _ _ => 0)) zeroR zeroR → Q M1) : P_X4_init G t b M Q := by
  have h0 : NA G M t fs0T M (fun _ => 0) 0 := ⟨h, hz, fun i hi => by omega, fun i j hi => by omega, fun _ _ _ => rfl⟩
  refine h0.st (n := 130) (j := 1) rfl rfl (by decide) (by omega) (by simp) fun a1 M1 h1 => ?_
  refine h1.st (n := 130) (j := 2) rfl rfl (by decide) (by omega) (by simp) fun a2 M2 h2 => ?_
  refine h2.st (n := 1435) (j := 3) rfl rfl (by decide) (by omega) (by simp) fun a3 M3 h3 => ?_
  refine h3.st (n := 1435) (j := 4) rfl rfl (by decide) (by omega) (by simp) fun a4 M4 h4 => ?_
  refine h4.st (n := 1435) (j := 5) rfl rfl (by decide) (by omega) (by simp) fun a5 M5 h5 => ?_
  refine h5.st (n := 1435) (j := 6) rfl rfl (by decide) (by omega) (by simp) fun a6 M6 h6 => ?_
  refine h6.st (n := 14350) (j := 7) rfl rfl (by decide) (by omega) (by simp) fun a7 M7 h7 => ?_
  refine h7.st (n := 6) (j := 10) rfl rfl (by decide) (by omega) (by simp) fun a8 M8 h8 => ?_
  refine h8.st (n := 12) (j := 11) rfl rfl (by decide) (by omega) (by simp) fun a9 M9 h9 => ?_
  refine h9.st (n := 16) (j := 12) rfl rfl (by decide) (by omega) (by simp) fun a10 M10 h10 => ?_
  refine h10.st (n := 900) (j := 13) rfl rfl (by decide) (by omega) (by simp) fun a11 M11 h11 => ?_
  refine h11.pt (j := 22) (by simp) fun M11b h12 => ?_
  refine h12.st (n := 6) (j := 23) rfl rfl (by decide) (by omega) (by simp) fun a12 M12 h13 => ?_
  refine h13.st (n := 12) (j := 24) rfl rfl (by decide) (by omega) (by simp) fun a13 M13 h14 => ?_
  refine h14.st (n := 16) (j := 25) rfl rfl (by decide) (by omega) (by simp) fun a14 M14 h15 => ?_
  refine h15.st (n := 300) (j := 26) rfl rfl (by decide) (by omega) (by simp) fun a15 M15 h16 => ?_
  generalize eg : va_up _ 14 a15 = g at h16
  have e1 : ∀ k, k < 15 → g k = [a1, a2, a3, a4, a5, a6, a7, a8, a9, a10, a11, a12, a13, a14, a15].getD k 0 := fun k hk => by
    rw [← eg]
    have : k = 0 ∨ k = 1 ∨ k = 2 ∨ k = 3 ∨ k = 4 ∨ k = 5 ∨ k = 6 ∨ k = 7 ∨ k = 8 ∨ k = 9 ∨ k = 10 ∨ k = 11 ∨ k = 12 ∨ k = 13 ∨ k = 14 := by omega
    rcases this with rfl | rfl | rfl | rfl | rfl | rfl | rfl | rfl | rfl | rfl | rfl | rfl | rfl | rfl | rfl <;> rfl
  have hT : TW G M M15 t (fun k => g (idT k)) i0T zeroR zeroR zeroR zeroR zeroR zeroR zeroR (fun _ _ => 0) zeroR zeroR := by
    obtain ⟨q1, q2, q3, q4, q5⟩ := h16
    have c : ∀ k, tI k → idT k < 15 := fun k hk => by unfold tI at hk; unfold idT; split; omega; split <;> omega
    have m : ∀ k, k < 15 → M15 (g k) = some (xT k) := fun k hk => (q3 k hk).1
    refine ⟨?_, q2, fun k hk => (q3 _ (c k hk)).2.1, fun a b ha hb e => ?_, fun q hq => ?_, ⟨m 0 (by decide), m 1 (by decide), m 2 (by decide), m 3 (by decide), m 4 (by decide), m 5 (by decide), m 6 (by decide)⟩, ⟨m 7 (by decide), m 8 (by decide), m 9 (by decide), m 11 (by decide), m 12 (by decide), m 13 (by decide)⟩, m 10 (by decide), m 14 (by decide)⟩
    · rw [q1]
      show _ = some (Sum.inr (3, tFs (fun k => g (idT k)) i0T))
      unfold tFs
      show _ = some (Sum.inr (3, [Value.int 0, .ref (g 0), .ref (g 1), .ref (g 2), .ref (g 3), .ref (g 4), .ref (g 5), .ref (g 6), .int 0, .int 0, .ref (g 7), .ref (g 8), .ref (g 9), .ref (g 10), .int 0, .int 0, .int 0, .int 0, .int 0, .int 0, .int 0, .int 0, .int (-1), .ref (g 11), .ref (g 12), .ref (g 13), .ref (g 14), .int 0]))
      rw [e1 0 (by decide), e1 1 (by decide), e1 2 (by decide), e1 3 (by decide), e1 4 (by decide), e1 5 (by decide), e1 6 (by decide), e1 7 (by decide), e1 8 (by decide), e1 9 (by decide), e1 10 (by decide), e1 11 (by decide), e1 12 (by decide), e1 13 (by decide), e1 14 (by decide)]
      rfl
    · have := q4 _ _ (c a ha) (c b hb) e
      unfold tI at ha hb
      unfold idT at this
      split at this <;> split at this <;> (try split at this) <;> (try split at this) <;> omega
    · refine q5 q (fun e => hq (.inl e)) fun i hi e => hq ?_
      refine .inr ⟨if i < 7 then i + 1 else if i < 11 then i + 3 else i + 12, ?_, ?_⟩
      · unfold tI; split; omega; split <;> omega
      · rw [e]
        show g i = g (idT _)
        congr 1
        unfold idT
        split
        · rw [if_pos (by omega)]; omega
        · split
          · rw [if_neg (by omega), if_pos (by omega)]; omega
          · rw [if_neg (by omega), if_neg (by omega)]; omega
  refine oIs.i hT.obj (S_clears hT fun M16 h17 => oIs.i h17.obj (S_takesDraft h17 fun M17 h18 => hQ _ M17 (fun k hk => ?_) h18))
  have c : idT k < 15 := by unfold tI at hk; unfold idT; split; omega; split <;> omega
  exact (h16.2.2.1 _ c).2.2
