set_option maxRecDepth 100000
/-! STAGE 2, pure 12: reading goes on, drafts stay good -/
theorem needsP_a (b : Bool) (c : Int32) (p : PS) : (needsP b c p).1 = p.1 := by unfold needsP; split <;> rfl
theorem need_ok {b : Bool} {c : Int32} {p : PS} (hc : c ≠ 0) (h : pC (needsP b c p) = 0) : pC p = 0 ∧ b = true ∧ needsP b c p = p := by
  unfold needsP at h ⊢
  by_cases e : pC p = 0 ∧ b = false
  · rw [if_pos e] at h; exact absurd h hc
  · rw [if_neg e] at h ⊢
    refine ⟨h, ?_, rfl⟩
    cases b with
    | false => exact absurd ⟨h, rfl⟩ e
    | true => rfl
theorem nextP_c (B : Rw) (n : Nat) (p : PS) : pC (nextP B n p) = pC p := by
  unfold nextP; split
  · rfl
  · split
    · rfl
    · split <;> rfl
theorem goP_c (B : Rw) (n : Nat) (p : PS) : pC (goP B n p) = pC p := by
  unfold goP; split
  · exact nextP_c _ _ _
  · rfl
theorem nextP_a {B : Rw} {n : Nat} {p : PS} (h : PSo n p) : p.1 ≤ (nextP B n p).1 ∧ (pT (nextP B n p) = 0 ∨ p.1 < (nextP B n p).1) := by
  obtain ⟨h1, h2⟩ := h
  obtain ⟨q1, q2, q3, q4⟩ := runE_sp (wsB B) n _ p.1 rfl h1
  unfold nextP
  generalize runE (wsB B) n p.1 = a at *
  split
  · exact ⟨q1, .inl rfl⟩
  · split
    · rename_i c1 c2
      have e : runE (ltB B) n a = runE (ltB B) n (a + 1) := runE_y (by omega) c2
      obtain ⟨r1, r2, r3, r4⟩ := runE_sp (ltB B) n _ (a + 1) rfl (by omega)
      rw [e]
      exact ⟨by show p.1 ≤ _; omega, .inr (by show p.1 < runE (ltB B) n (a + 1); omega)⟩
    · split
      · rename_i c1 c2 c3
        have e : runE (dgB B) n a = runE (dgB B) n (a + 1) := runE_y (by omega) c3
        obtain ⟨r1, r2, r3, r4⟩ := runE_sp (dgB B) n _ (a + 1) rfl (by omega)
        rw [e]
        exact ⟨by show p.1 ≤ _; omega, .inr (by show p.1 < runE (dgB B) n (a + 1); omega)⟩
      · exact ⟨by show p.1 ≤ a + 1; omega, .inr (by show p.1 < a + 1; omega)⟩
theorem goP_a {B : Rw} {n : Nat} {p : PS} (h : PSo n p) : p.1 ≤ (goP B n p).1 := by
  unfold goP; split
  · exact (nextP_a h).1
  · exact Nat.le_refl _
theorem passP_a {B : Rw} {n : Nat} {p : PS} (h : PSo n p) (w : Int32) : p.1 ≤ (passP B n w p).1 := by
  have := goP_a (B := B) (needsP_o h (isWP p w) 1); rw [needsP_a] at this; exact this
theorem lookP_a (lo hi : Int32) (p : PS) : (lookP lo hi p).1 = p.1 := by
  unfold lookP; split
  · rw [needsP_a, needsP_a]
  · exact needsP_a _ _ _
theorem numP_a {B : Rw} {n : Nat} {p : PS} (h : PSo n p) (lo hi : Int32) : p.1 ≤ (numP B n lo hi p).1 := by
  have := goP_a (B := B) (lookP_o h lo hi); rw [lookP_a] at this; exact this
theorem nbP_a {B : Rw} {n : Nat} {p : PS} (h : PSo n p) (w lo hi : Int32) : p.1 ≤ (nbP B n w lo hi p).1 :=
  Nat.le_trans (passP_a h w) (numP_a (passP_o h w) lo hi)
theorem newP_a {B : Rw} {n : Nat} {p : PS} (h : PSo n p) (g : Nat → Int64) (m : Nat) : p.1 ≤ (newP B n g m p).1 := by
  have h1 : PSo n (nnmP p) := needsP_o h _ _
  have e1 : (nnmP p).1 = p.1 := needsP_a _ _ _
  unfold newP; split
  · have := goP_a (B := B) (needsP_o h1 (decide (placeF g m (nmB B (nnmP p)) = -1)) 3); rw [needsP_a, e1] at this; exact this
  · rw [e1]; exact Nat.le_refl _
theorem oldP_a {B : Rw} {n : Nat} {p : PS} (h : PSo n p) (g : Nat → Int64) (m : Nat) (x : Int32) : p.1 ≤ (oldP B n g m x p).1 := by
  have h1 : PSo n (nnmP p) := needsP_o h _ _
  have e1 : (nnmP p).1 = p.1 := needsP_a _ _ _
  unfold oldP; split
  · have := goP_a (B := B) (needsP_o h1 (!decide (placeF g m (nmB B (nnmP p)) = -1) && !decide (placeF g m (nmB B (nnmP p)) = x)) 3); rw [needsP_a, e1] at this; exact this
  · rw [e1]; exact Nat.le_refl _
theorem laysD_ne (p : PS) {j q : Nat} (v : Int32) (D : Rw) (h : q ≠ j) : laysD p j v D q = D q := by
  unfold laysD; split
  · exact upd_ne _ _ h
  · rfl
theorem zn5_1 (B : Rw) (n k : Nat) (p : PS) (D : Rw) : (zn5 B n k p D).1 = numP B n (nbV B n 2 (nbP B n 1 0 40 p) + 1) 24 (nbP B n 2 0 23 (nbP B n 1 0 40 p)) := by unfold zn5; dsimp only
theorem zn7_1 (B : Rw) (n k : Nat) (x : PS × Rw) : (zn7 B n k x).1 = if isWP x.1 3 then nbP B n 3 0 120 x.1 else x.1 := by unfold zn7; dsimp only
theorem st5_1 (B : Rw) (n k : Nat) (g : Nat → Int64) (m : Nat) (p : PS) (D : Rw) : (st5 B n k g m p D).1 = nbP B n 6 0 60 (oldP B n g m (-1) (passP B n 5 p)) := by unfold st5; dsimp only
theorem st5_z (B : Rw) (n k : Nat) (g : Nat → Int64) (m : Nat) (p : PS) (D : Rw) : (st5 B n k g m p D).2.2 = oldV B g m (passP B n 5 p) := by unfold st5; dsimp only
theorem st7_1 (B : Rw) (n k : Nat) (g : Nat → Int64) (m : Nat) (x : PS × Rw × Int32) : (st7 B n k g m x).1 = if isWP x.1 7 then oldP B n g m x.2.2 (goP B n x.1) else x.1 := by unfold st7; dsimp only
theorem hs7_1 (B : Rw) (n k : Nat) (g : Nat → Int64) (m : Nat) (p : PS) (D : Rw) : (hs7 B n k g m p D).1 = nbP B n 11 0 100 (nbP B n 10 1 3 (oldP B n g m (-1) (passP B n 9 p))) := by unfold hs7; dsimp only
/-- the statements: where the reader stands -/
theorem zoneX_o {B : Rw} {n : Nat} {x : XS} (h : PSo n x.1) : PSo n (zoneX B n x).1 ∧ x.1.1 ≤ (zoneX B n x).1.1 := by
  have h1 : PSo n (begP B n 0 6 x.1 x.2.1) := goP_o (needsP_o h _ _)
  have a1 : x.1.1 ≤ (begP B n 0 6 x.1 x.2.1).1 := by
    have := goP_a (B := B) (needsP_o h (decide (x.2.1 0 < 6)) 4); rw [needsP_a] at this; exact this
  unfold zoneX
  generalize begP B n 0 6 x.1 x.2.1 = p1 at *
  dsimp only
  split
  · have h2 := newP_o (B := B) h1 (x.2.2 23) (nz x.2.1)
    have a2 := newP_a (B := B) h1 (x.2.2 23) (nz x.2.1)
    generalize newP B n (x.2.2 23) (nz x.2.1) p1 = p2 at *
    rw [zn7_1, zn5_1]
    have h3 := nbP_o (B := B) h2 1 0 40
    have a3 := nbP_a (B := B) h2 1 0 40
    generalize nbP B n 1 0 40 p2 = p3 at *
    have h4 := nbP_o (B := B) h3 2 0 23
    have a4 := nbP_a (B := B) h3 2 0 23
    generalize nbP B n 2 0 23 p3 = p4 at *
    generalize nbV B n 2 p3 = v at *
    have h5 := numP_o (B := B) h4 (v + 1) 24
    have a5 := numP_a (B := B) h4 (v + 1) 24
    generalize numP B n (v + 1) 24 p4 = p5 at *
    split
    · exact ⟨nbP_o h5 _ _ _, by have := nbP_a (B := B) h5 3 0 120; omega⟩
    · exact ⟨h5, by omega⟩
  · exact ⟨h1, a1⟩
theorem streetX_o {B : Rw} {n : Nat} {x : XS} (h : PSo n x.1) : PSo n (streetX B n x).1 ∧ x.1.1 ≤ (streetX B n x).1.1 := by
  have h1 : PSo n (begP B n 1 12 x.1 x.2.1) := goP_o (needsP_o h _ _)
  have a1 : x.1.1 ≤ (begP B n 1 12 x.1 x.2.1).1 := by
    have := goP_a (B := B) (needsP_o h (decide (x.2.1 1 < 12)) 4); rw [needsP_a] at this; exact this
  unfold streetX
  generalize begP B n 1 12 x.1 x.2.1 = p1 at *
  dsimp only
  split
  · have h2 := newP_o (B := B) h1 (x.2.2 24) (ns x.2.1)
    have a2 := newP_a (B := B) h1 (x.2.2 24) (ns x.2.1)
    generalize newP B n (x.2.2 24) (ns x.2.1) p1 = p2 at *
    rw [st7_1, st5_1, st5_z]
    have h3 := passP_o (B := B) h2 5
    have a3 := passP_a (B := B) h2 5
    generalize passP B n 5 p2 = p3 at *
    generalize oldV B (x.2.2 23) (nz x.2.1) p3 = z at *
    have h4 := oldP_o (B := B) h3 (x.2.2 23) (nz x.2.1) (-1)
    have a4 := oldP_a (B := B) h3 (x.2.2 23) (nz x.2.1) (-1)
    generalize oldP B n (x.2.2 23) (nz x.2.1) (-1) p3 = p4 at *
    have h5 := nbP_o (B := B) h4 6 0 60
    have a5 := nbP_a (B := B) h4 6 0 60
    generalize nbP B n 6 0 60 p4 = p5 at *
    split
    · have h6 := goP_o (B := B) h5
      have a6 := goP_a (B := B) h5
      exact ⟨oldP_o h6 _ _ _, by have := oldP_a (B := B) h6 (x.2.2 23) (nz x.2.1) z; omega⟩
    · exact ⟨h5, by omega⟩
  · exact ⟨h1, a1⟩
theorem houseX_o {B : Rw} {n : Nat} {x : XS} (h : PSo n x.1) : PSo n (houseX B n x).1 ∧ x.1.1 ≤ (houseX B n x).1.1 := by
  have h1 : PSo n (begP B n 2 16 x.1 x.2.1) := goP_o (needsP_o h _ _)
  have a1 : x.1.1 ≤ (begP B n 2 16 x.1 x.2.1).1 := by
    have := goP_a (B := B) (needsP_o h (decide (x.2.1 2 < 16)) 4); rw [needsP_a] at this; exact this
  unfold houseX
  generalize begP B n 2 16 x.1 x.2.1 = p1 at *
  dsimp only
  split
  · have h2 := newP_o (B := B) h1 (x.2.2 25) (nh x.2.1)
    have a2 := newP_a (B := B) h1 (x.2.2 25) (nh x.2.1)
    generalize newP B n (x.2.2 25) (nh x.2.1) p1 = p2 at *
    rw [hs7_1]
    have h3 := passP_o (B := B) h2 9
    have a3 := passP_a (B := B) h2 9
    generalize passP B n 9 p2 = p3 at *
    have h4 := oldP_o (B := B) h3 (x.2.2 24) (ns x.2.1) (-1)
    have a4 := oldP_a (B := B) h3 (x.2.2 24) (ns x.2.1) (-1)
    generalize oldP B n (x.2.2 24) (ns x.2.1) (-1) p3 = p4 at *
    have h5 := nbP_o (B := B) h4 10 1 3
    have a5 := nbP_a (B := B) h4 10 1 3
    generalize nbP B n 10 1 3 p4 = p5 at *
    exact ⟨nbP_o h5 _ _ _, by have := nbP_a (B := B) h5 11 0 100; omega⟩
  · exact ⟨h1, a1⟩
theorem onceX_o {B : Rw} {n : Nat} {x : XS} (h : PSo n x.1) (w j : Nat) (lo hi : Int32) : PSo n (onceX B n w j lo hi x).1 ∧ x.1.1 ≤ (onceX B n w j lo hi x).1.1 := by
  have h1 := needsP_o h (decide (x.2.1 (120 + w) = 0)) 3
  have a1 := needsP_a (decide (x.2.1 (120 + w) = 0)) 3 x.1
  unfold onceX
  dsimp only
  generalize needsP (decide (x.2.1 (120 + w) = 0)) 3 x.1 = p1 at *
  have h2 := goP_o (B := B) h1
  have a2 := goP_a (B := B) h1
  exact ⟨numP_o h2 _ _, by have := numP_a (B := B) h2 lo hi; omega⟩
theorem fineX_o {B : Rw} {n : Nat} {x : XS} (h : PSo n x.1) : PSo n (fineX B n x).1 ∧ x.1.1 ≤ (fineX B n x).1.1 := by
  unfold fineX
  dsimp only
  have h1 := goP_o (B := B) h
  have a1 := goP_a (B := B) h
  generalize goP B n x.1 = p1 at *
  have h2 := lookP_o h1 1 6
  have a2 := lookP_a 1 6 p1
  generalize lookP 1 6 p1 = p2 at *
  have h3 : PSo n (fn3 x.2.1 (pV p1) p2) ∧ (fn3 x.2.1 (pV p1) p2).1 = p2.1 := by
    unfold fn3; split
    · exact ⟨needsP_o h2 _ _, needsP_a _ _ _⟩
    · exact ⟨h2, rfl⟩
  generalize fn3 x.2.1 (pV p1) p2 = p3 at *
  have h4 := goP_o (B := B) h3.1
  have a4 := goP_a (B := B) h3.1
  generalize goP B n p3 = p4 at *
  exact ⟨numP_o h4 _ _, by have := numP_a (B := B) h4 0 999; omega⟩
theorem stmtX_o {B : Rw} {n : Nat} {x : XS} (h : PSo n x.1) : PSo n (stmtX B n x).1 ∧ x.1.1 ≤ (stmtX B n x).1.1 := by
  unfold stmtX
  split
  · exact zoneX_o h
  split
  · exact streetX_o h
  split
  · exact houseX_o h
  split
  · exact onceX_o h _ _ _ _
  split
  · exact onceX_o h _ _ _ _
  split
  · exact onceX_o h _ _ _ _
  split
  · exact fineX_o h
  · exact ⟨needsP_o h _ _, Nat.le_of_eq (needsP_a _ _ _).symm⟩
theorem stepX_o {B : Rw} {n : Nat} {x : XS} (h : PSo n x.1) : PSo n (stepX B n x).1 ∧ (pC (stepX B n x).1 ≠ 0 ∨ pT (stepX B n x).1 = 0 ∨ x.1.1 < (stepX B n x).1.1) := by
  obtain ⟨h1, a1⟩ := stmtX_o (B := B) h
  unfold stepX endX
  dsimp only
  generalize (stmtX B n x).1 = p1 at *
  have h2 := needsP_o h1 (decide (pT p1 = 3)) 1
  have a2 := needsP_a (decide (pT p1 = 3)) 1 p1
  generalize needsP (decide (pT p1 = 3)) 1 p1 = p2 at *
  refine ⟨goP_o h2, ?_⟩
  by_cases c : pC p2 = 0
  · unfold goP; rw [if_pos c]
    rcases (nextP_a (B := B) h2).2 with e | e
    · exact .inr (.inl e)
    · exact .inr (.inr (by omega))
  · exact .inl (by rw [goP_c]; exact c)
/-- reading ends -/
theorem readX_end {B : Rw} {n : Nat} : ∀ d {x : XS}, PSo n x.1 → n + 1 ≤ d + x.1.1 → pC (readX B n d x).1 ≠ 0 ∨ pT (readX B n d x).1 = 0 := by
  intro d
  induction d with
  | zero => intro x h hd; have := h.1; omega
  | succ d ih =>
    intro x h hd
    unfold readX
    by_cases c : pC x.1 = 0 ∧ pT x.1 ≠ 0
    · rw [if_pos c]
      obtain ⟨h1, h2⟩ := stepX_o (B := B) h
      by_cases c2 : pC (stepX B n x).1 = 0 ∧ pT (stepX B n x).1 ≠ 0
      · exact ih h1 (by rcases h2 with h2 | h2 | h2; exact absurd c2.1 h2; exact absurd h2 c2.2; omega)
      · have e : readX B n d (stepX B n x) = stepX B n x := by
          cases d with
          | zero => rfl
          | succ d => unfold readX; rw [if_neg c2]
        rw [e]
        by_cases c3 : pC (stepX B n x).1 = 0
        · exact .inr (Decidable.not_not.mp (fun e => c2 ⟨c3, e⟩))
        · exact .inl c3
    · rw [if_neg c]
      by_cases c3 : pC x.1 = 0
      · exact .inr (Decidable.not_not.mp (fun e => c ⟨c3, e⟩))
      · exact .inl c3
theorem zn5_2 (B : Rw) (n k : Nat) (p : PS) (D : Rw) : (zn5 B n k p D).2 = laysD (numP B n (nbV B n 2 (nbP B n 1 0 40 p) + 1) 24 (nbP B n 2 0 23 (nbP B n 1 0 40 p))) (15 + k) (pV (nbP B n 2 0 23 (nbP B n 1 0 40 p))) (laysD (nbP B n 2 0 23 (nbP B n 1 0 40 p)) (9 + k) (nbV B n 2 (nbP B n 1 0 40 p)) (laysD (nbP B n 1 0 40 p) (3 + k) (nbV B n 1 p) D)) := by unfold zn5; dsimp only
theorem zn7_2 (B : Rw) (n k : Nat) (x : PS × Rw) : (zn7 B n k x).2 = laysD (if isWP x.1 3 then nbP B n 3 0 120 x.1 else x.1) 0 (nI k + 1) (laysD (if isWP x.1 3 then nbP B n 3 0 120 x.1 else x.1) (21 + k) (if isWP x.1 3 then nbV B n 3 x.1 else 0) x.2) := by unfold zn7; dsimp only
theorem st5_2 (B : Rw) (n k : Nat) (g : Nat → Int64) (m : Nat) (p : PS) (D : Rw) : (st5 B n k g m p D).2.1 = laysD (nbP B n 6 0 60 (oldP B n g m (-1) (passP B n 5 p))) (51 + k) (-1) (laysD (nbP B n 6 0 60 (oldP B n g m (-1) (passP B n 5 p))) (39 + k) (nbV B n 6 (oldP B n g m (-1) (passP B n 5 p))) (laysD (oldP B n g m (-1) (passP B n 5 p)) (27 + k) (oldV B g m (passP B n 5 p)) D)) := by unfold st5; dsimp only
theorem st7_2 (B : Rw) (n k : Nat) (g : Nat → Int64) (m : Nat) (x : PS × Rw × Int32) : (st7 B n k g m x).2 = laysD (if isWP x.1 7 then oldP B n g m x.2.2 (goP B n x.1) else x.1) 1 (nI k + 1) (if isWP x.1 7 then laysD (if isWP x.1 7 then oldP B n g m x.2.2 (goP B n x.1) else x.1) (51 + k) (oldV B g m (goP B n x.1)) x.2.1 else x.2.1) := by unfold st7; dsimp only
theorem hs7_2 (B : Rw) (n k : Nat) (g : Nat → Int64) (m : Nat) (p : PS) (D : Rw) : (hs7 B n k g m p D).2 = laysD (nbP B n 11 0 100 (nbP B n 10 1 3 (oldP B n g m (-1) (passP B n 9 p)))) 2 (nI k + 1) (laysD (nbP B n 11 0 100 (nbP B n 10 1 3 (oldP B n g m (-1) (passP B n 9 p)))) (95 + k) (nbV B n 11 (nbP B n 10 1 3 (oldP B n g m (-1) (passP B n 9 p)))) (laysD (nbP B n 10 1 3 (oldP B n g m (-1) (passP B n 9 p))) (79 + k) (nbV B n 10 (oldP B n g m (-1) (passP B n 9 p))) (laysD (oldP B n g m (-1) (passP B n 9 p)) (63 + k) (oldV B g m (passP B n 9 p)) D))) := by unfold hs7; dsimp only
theorem beg_ok {B : Rw} {n j : Nat} {most : Int32} {p : PS} {D : Rw} (h : pC (begP B n j most p D) = 0) : D j < most := by
  unfold begP at h
  rw [goP_c] at h
  exact of_decide_eq_true (need_ok (by decide) h).2.1
