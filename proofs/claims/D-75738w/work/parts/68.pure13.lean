set_option maxRecDepth 100000
/-! STAGE 2, pure 13: drafts stay good -/
theorem OKS.cg {D E : Rw} (h : OKS D) (e0 : E 0 = D 0) (e1 : E 1 = D 1) (e2 : E 2 = D 2) (e3 : ∀ s, s < ns D → E (27 + s) = D (27 + s)) (e4 : ∀ s, s < ns D → E (51 + s) = D (51 + s)) (e5 : ∀ s, s < nh D → E (63 + s) = D (63 + s)) : OKS E := by
  have f0 : nz E = nz D := by unfold nz; rw [e0]
  have f1 : ns E = ns D := by unfold ns; rw [e1]
  have f2 : nh E = nh D := by unfold nh; rw [e2]
  obtain ⟨h0, h1, h2, h3, h4, h5⟩ := h
  unfold OKS
  rw [e0, e1, e2, f0, f1, f2]
  exact ⟨h0, h1, h2, fun s hs => by rw [e3 s hs]; exact h3 s hs, fun s hs => by rw [e5 s hs]; exact h4 s hs, fun s hs => by rw [e4 s hs]; exact h5 s hs⟩
/-- term, offer, renewals -/
def RG (S : Rw) : Prop := ∃ a b c : Nat, S 111 = nI a ∧ 1 ≤ a ∧ a ≤ 365 ∧ S 112 = nI b ∧ 1 ≤ b ∧ b ≤ 99 ∧ S 113 = nI c ∧ c ≤ 30
theorem RG.cg {D E : Rw} (h : RG D) (e1 : E 111 = D 111) (e2 : E 112 = D 112) (e3 : E 113 = D 113) : RG E := by
  unfold RG; rw [e1, e2, e3]; exact h
theorem pass_ok {B : Rw} {n : Nat} {p : PS} {w : Int32} (h : pC (passP B n w p) = 0) : pC p = 0 := by
  unfold passP at h; rw [goP_c] at h; exact (need_ok (by decide) h).1
theorem look_ok {lo hi : Int32} {p : PS} (h : pC (lookP lo hi p) = 0) : pC p = 0 := by
  by_cases c : pC p = 0
  · exact c
  · rw [look_s c] at h; exact h
theorem num_ok {B : Rw} {n : Nat} {p : PS} {lo hi : Int32} (h : pC (numP B n lo hi p) = 0) : pC p = 0 ∧ inR (pV p) lo hi = true := by
  unfold numP at h; rw [goP_c] at h; exact ⟨look_ok h, look_in h⟩
theorem nb_ok {B : Rw} {n : Nat} {p : PS} {w lo hi : Int32} (h : pC (nbP B n w lo hi p) = 0) : pC p = 0 ∧ inR (nbV B n w p) lo hi = true := by
  obtain ⟨h1, h2⟩ := num_ok h
  exact ⟨pass_ok h1, h2⟩
theorem place_ok {g : Nat → Int64} {m : Nat} {x : Int64} (hm : m < 2 ^ 31) (h : placeF g m x ≠ -1) : ∃ z, z < m ∧ placeF g m x = nI z := by
  unfold placeF at h ⊢
  rcases srch_c (p := fun k => decide (g k = x)) hm with ⟨e, -⟩ | ⟨z, hz, -, e, -⟩
  · exact absurd e h
  · exact ⟨z, hz, e⟩
theorem old_ok {B : Rw} {n : Nat} {g : Nat → Int64} {m : Nat} {x : Int32} {p : PS} (hm : m < 2 ^ 31) (h : pC (oldP B n g m x p) = 0) : pC p = 0 ∧ ∃ z, z < m ∧ oldV B g m p = nI z := by
  unfold oldP at h
  split at h
  · rename_i c
    obtain ⟨c1, -, c3⟩ := need_ok (by decide) c
    rw [goP_c] at h
    obtain ⟨d1, d2, -⟩ := need_ok (by decide) h
    refine ⟨c1, ?_⟩
    rw [Bool.and_eq_true] at d2
    unfold oldV
    rw [if_pos c]
    have e : nmB B (nnmP p) = nmB B p := by rw [show nnmP p = p from c3]
    rw [e] at d2
    refine place_ok hm fun e => ?_
    rw [e] at d2
    exact absurd d2.1 (by decide)
  · rename_i c; exact absurd h c
theorem lt_nI {n m : Nat} {D : Rw} {j : Nat} {most : Int32} (e : D j = nI n) (hn : n < 2 ^ 31) (hm : m < 2 ^ 31) (em : most = nI m) (h : D j < most) : n < m := by
  rw [e, em] at h; exact (nI_ltI hn hm).mp h
theorem laysD_y {p : PS} (h : pC p = 0) (j : Nat) (v : Int32) (D : Rw) : laysD p j v D = upd D j v := by unfold laysD; rw [if_pos h]
theorem nI_suc {k : Nat} (hk : k + 1 < 2 ^ 31) : nI k + 1 = nI (k + 1) ∧ (nI k + 1).toNatClampNeg = k + 1 := by
  have : nI k + 1 = nI (k + 1) := nI_1 k
  exact ⟨this, by rw [this, nI_clamp hk]⟩
theorem zoneX_g {B : Rw} {n : Nat} {x : XS} (h : OKS x.2.1) (hr : RG x.2.1) : OKS (zoneX B n x).2.1 ∧ RG (zoneX B n x).2.1 := by
  obtain ⟨p, D, l⟩ := x
  replace h : OKS D := h
  replace hr : RG D := hr
  have hk : nz D ≤ 6 := h.1.2
  have hb := beg_ok (B := B) (n := n) (j := 0) (most := 6) (p := p) (D := D)
  unfold zoneX
  dsimp only
  generalize begP B n 0 6 p D = p1 at *
  split
  · rename_i c
    have hk6 : nz D < 6 := lt_nI h.1.1 (by omega) (by decide) rfl (hb c)
    dsimp only
    rw [zn7_2, zn5_2, zn5_1]
    generalize (numP B n _ 24 _) = p5
    generalize (nbP B n 2 0 23 _) = p4
    generalize nbV B n 2 _ = v4
    generalize nbV B n 1 _ = v3
    generalize (nbP B n 1 0 40 _) = p3
    generalize (if isWP p5 3 = true then nbP B n 3 0 120 p5 else p5) = p6
    generalize (if isWP p5 3 = true then nbV B n 3 p5 else 0) = v6
    generalize hE : laysD p6 (21 + nz D) v6 (laysD p5 (15 + nz D) (pV p4) (laysD p4 (9 + nz D) v4 (laysD p3 (3 + nz D) v3 D))) = E
    have e : ∀ q, (q < 3 ∨ 27 ≤ q) → E q = D q := fun q hq => by
      rw [← hE, laysD_ne _ _ _ (by omega), laysD_ne _ _ _ (by omega), laysD_ne _ _ _ (by omega), laysD_ne _ _ _ (by omega)]
    have hE2 : OKS E := h.cg (e 0 (by omega)) (e 1 (by omega)) (e 2 (by omega)) (fun s _ => e _ (by omega)) (fun s _ => e _ (by omega)) (fun s _ => e _ (by omega))
    have hE3 : RG E := hr.cg (e _ (by omega)) (e _ (by omega)) (e _ (by omega))
    have ez : nz E = nz D := by unfold nz; rw [e 0 (by omega)]
    unfold laysD
    split
    · refine ⟨?_, hE3.cg (upd_ne _ _ (by decide)) (upd_ne _ _ (by decide)) (upd_ne _ _ (by decide))⟩
      obtain ⟨s1, s2⟩ := nI_suc (k := nz D) (by omega)
      obtain ⟨h0, h1, h2, h3, h4, h5⟩ := hE2
      have f0 : nz (upd E 0 (nI (nz D) + 1)) = nz D + 1 := by show (upd E 0 (nI (nz D) + 1) 0).toNatClampNeg = nz D + 1; rw [upd_eq, s2]
      have f1 : ns (upd E 0 (nI (nz D) + 1)) = ns E := by unfold ns; rw [upd_ne _ _ (by decide)]
      have f2 : nh (upd E 0 (nI (nz D) + 1)) = nh E := by unfold nh; rw [upd_ne _ _ (by decide)]
      have g : ∀ q, 0 < q → upd E 0 (nI (nz D) + 1) q = E q := fun q hq => upd_ne _ _ (by omega)
      unfold OKS
      rw [f0, f1, f2, upd_eq, g 1 (by omega), g 2 (by omega)]
      refine ⟨⟨s1, by omega⟩, h1, h2, fun s hs => ?_, fun s hs => ?_, fun s hs => ?_⟩
      · rw [g _ (by omega)]; obtain ⟨z, hz, ez2⟩ := h3 s hs; exact ⟨z, by omega, ez2⟩
      · rw [g _ (by omega)]; exact h4 s hs
      · rw [g _ (by omega)]
        rcases h5 s hs with y | ⟨z, hz, ez2⟩
        · exact .inl y
        · exact .inr ⟨z, by omega, ez2⟩
    · exact ⟨hE2, hE3⟩
  · exact ⟨h, hr⟩
theorem streetX_g {B : Rw} {n : Nat} {x : XS} (h : OKS x.2.1) (hr : RG x.2.1) : OKS (streetX B n x).2.1 ∧ RG (streetX B n x).2.1 := by
  obtain ⟨p, D, l⟩ := x
  replace h : OKS D := h
  replace hr : RG D := hr
  have hz6 : nz D ≤ 6 := h.1.2
  have hk : ns D ≤ 12 := h.2.1.2
  have hb := beg_ok (B := B) (n := n) (j := 1) (most := 12) (p := p) (D := D)
  unfold streetX
  dsimp only
  generalize begP B n 1 12 p D = p1 at *
  split
  · rename_i c
    have hk6 : ns D < 12 := lt_nI h.2.1.1 (by omega) (by decide) rfl (hb c)
    dsimp only
    rw [st7_2, st5_2, st5_1, st5_z]
    have o1 := old_ok (B := B) (n := n) (g := l 23) (m := nz D) (x := -1) (p := passP B n 5 (newP B n (l 24) (ns D) p1)) (by omega)
    generalize oldV B (l 23) (nz D) (passP B n 5 (newP B n (l 24) (ns D) p1)) = z1 at *
    generalize (oldP B n (l 23) (nz D) (-1) (passP B n 5 (newP B n (l 24) (ns D) p1))) = p4 at *
    have o2 := nb_ok (B := B) (n := n) (p := p4) (w := 6) (lo := 0) (hi := 60)
    generalize nbV B n 6 p4 = v5 at *
    generalize nbP B n 6 0 60 p4 = p5 at *
    have o3 := old_ok (B := B) (n := n) (g := l 23) (m := nz D) (x := z1) (p := goP B n p5) (by omega)
    rw [goP_c] at o3
    generalize oldV B (l 23) (nz D) (goP B n p5) = z2 at *
    generalize (oldP B n (l 23) (nz D) z1 (goP B n p5)) = p6 at *
    have fin : ∀ (q : PS) (y : Int32) (E : Rw), (pC q = 0 → pC p4 = 0 ∧ (y = -1 ∨ ∃ z, z < nz D ∧ y = nI z)) → (∀ j, j ≠ 27 + ns D → j ≠ 39 + ns D → j ≠ 51 + ns D → E j = D j) → (pC q = 0 → E (27 + ns D) = z1 ∧ E (51 + ns D) = y) → OKS (laysD q 1 (nI (ns D) + 1) E) ∧ RG (laysD q 1 (nI (ns D) + 1) E) := fun q y E hq e e2 => by
      have hE2 : OKS E := h.cg (e 0 (by omega) (by omega) (by omega)) (e 1 (by omega) (by omega) (by omega)) (e 2 (by omega) (by omega) (by omega)) (fun s _ => e _ (by omega) (by omega) (by omega)) (fun s _ => e _ (by omega) (by omega) (by omega)) (fun s _ => e _ (by omega) (by omega) (by omega))
      have hE3 : RG E := hr.cg (e _ (by omega) (by omega) (by omega)) (e _ (by omega) (by omega) (by omega)) (e _ (by omega) (by omega) (by omega))
      have es : ns E = ns D := by unfold ns; rw [e 1 (by omega) (by omega) (by omega)]
      have ez : nz E = nz D := by unfold nz; rw [e 0 (by omega) (by omega) (by omega)]
      unfold laysD
      split
      · rename_i c
        obtain ⟨c1, c2⟩ := hq c
        obtain ⟨c3, c4⟩ := e2 c
        obtain ⟨-, z, hz, ez1⟩ := o1 c1
        refine ⟨?_, hE3.cg (upd_ne _ _ (by decide)) (upd_ne _ _ (by decide)) (upd_ne _ _ (by decide))⟩
        obtain ⟨s1, s2⟩ := nI_suc (k := ns D) (by omega)
        obtain ⟨h0, h1, h2, h3, h4, h5⟩ := hE2
        have f0 : nz (upd E 1 (nI (ns D) + 1)) = nz E := by unfold nz; rw [upd_ne _ _ (by decide)]
        have f1 : ns (upd E 1 (nI (ns D) + 1)) = ns D + 1 := by show (upd E 1 (nI (ns D) + 1) 1).toNatClampNeg = ns D + 1; rw [upd_eq, s2]
        have f2 : nh (upd E 1 (nI (ns D) + 1)) = nh E := by unfold nh; rw [upd_ne _ _ (by decide)]
        have g : ∀ q, q ≠ 1 → upd E 1 (nI (ns D) + 1) q = E q := fun q hq => upd_ne _ _ hq
        unfold OKS
        rw [f0, f1, f2, upd_eq, g 0 (by omega), g 2 (by omega)]
        refine ⟨h0, ⟨s1, by omega⟩, h2, fun s hs => ?_, fun s hs => ?_, fun s hs => ?_⟩
        · rw [g _ (by omega)]
          by_cases e3 : s = ns D
          · rw [e3, c3]; exact ⟨z, by omega, ez1⟩
          · exact h3 s (by omega)
        · rw [g _ (by omega)]; obtain ⟨s', hs', e3⟩ := h4 s hs; exact ⟨s', by omega, e3⟩
        · rw [g _ (by omega)]
          by_cases e3 : s = ns D
          · rw [e3, c4]
            rcases c2 with c2 | ⟨z, hz, e4⟩
            · exact .inl c2
            · exact .inr ⟨z, by omega, e4⟩
          · exact h5 s (by omega)
      · exact ⟨hE2, hE3⟩
    split
    · refine fin p6 z2 _ (fun c => ?_) (fun j j1 j2 j3 => ?_) (fun c => ?_)
      · obtain ⟨c1, c2⟩ := o3 c
        exact ⟨(o2 c1).1, .inr c2⟩
      · rw [laysD_ne _ _ _ j3, laysD_ne _ _ _ j3, laysD_ne _ _ _ j2, laysD_ne _ _ _ j1]
      · obtain ⟨c1, c2⟩ := o3 c
        refine ⟨?_, ?_⟩
        · rw [laysD_ne _ _ _ (by omega), laysD_ne _ _ _ (by omega), laysD_ne _ _ _ (by omega), laysD_y (o2 c1).1, upd_eq]
        · rw [laysD_y c, upd_eq]
    · refine fin p5 (-1) _ (fun c => ⟨(o2 c).1, .inl rfl⟩) (fun j j1 j2 j3 => ?_) (fun c => ?_)
      · rw [laysD_ne _ _ _ j3, laysD_ne _ _ _ j2, laysD_ne _ _ _ j1]
      · refine ⟨?_, ?_⟩
        · rw [laysD_ne _ _ _ (by omega), laysD_ne _ _ _ (by omega), laysD_y (o2 c).1, upd_eq]
        · rw [laysD_y c, upd_eq]
  · exact ⟨h, hr⟩
theorem houseX_g {B : Rw} {n : Nat} {x : XS} (h : OKS x.2.1) (hr : RG x.2.1) : OKS (houseX B n x).2.1 ∧ RG (houseX B n x).2.1 := by
  obtain ⟨p, D, l⟩ := x
  replace h : OKS D := h
  replace hr : RG D := hr
  have hz6 : ns D ≤ 12 := h.2.1.2
  have hk : nh D ≤ 16 := h.2.2.1.2
  have hb := beg_ok (B := B) (n := n) (j := 2) (most := 16) (p := p) (D := D)
  unfold houseX
  dsimp only
  generalize begP B n 2 16 p D = p1 at *
  split
  · rename_i c
    have hk6 : nh D < 16 := lt_nI h.2.2.1.1 (by omega) (by decide) rfl (hb c)
    dsimp only
    rw [hs7_2]
    have o1 := old_ok (B := B) (n := n) (g := l 24) (m := ns D) (x := -1) (p := passP B n 9 (newP B n (l 25) (nh D) p1)) (by omega)
    generalize oldV B (l 24) (ns D) (passP B n 9 (newP B n (l 25) (nh D) p1)) = z1 at *
    generalize (oldP B n (l 24) (ns D) (-1) (passP B n 9 (newP B n (l 25) (nh D) p1))) = p4 at *
    have o2 := nb_ok (B := B) (n := n) (p := p4) (w := 10) (lo := 1) (hi := 3)
    generalize nbV B n 10 p4 = v5 at *
    generalize nbP B n 10 1 3 p4 = p5 at *
    have o3 := nb_ok (B := B) (n := n) (p := p5) (w := 11) (lo := 0) (hi := 100)
    generalize nbV B n 11 p5 = v6 at *
    generalize nbP B n 11 0 100 p5 = p6 at *
    generalize hE : laysD p6 (95 + nh D) v6 (laysD p5 (79 + nh D) v5 (laysD p4 (63 + nh D) z1 D)) = E
    have e : ∀ j, j ≠ 63 + nh D → j ≠ 79 + nh D → j ≠ 95 + nh D → E j = D j := fun j j1 j2 j3 => by
      rw [← hE, laysD_ne _ _ _ j3, laysD_ne _ _ _ j2, laysD_ne _ _ _ j1]
    have hE2 : OKS E := h.cg (e 0 (by omega) (by omega) (by omega)) (e 1 (by omega) (by omega) (by omega)) (e 2 (by omega) (by omega) (by omega)) (fun s _ => e _ (by omega) (by omega) (by omega)) (fun s _ => e _ (by omega) (by omega) (by omega)) (fun s _ => e _ (by omega) (by omega) (by omega))
    have hE3 : RG E := hr.cg (e _ (by omega) (by omega) (by omega)) (e _ (by omega) (by omega) (by omega)) (e _ (by omega) (by omega) (by omega))
    have es : ns E = ns D := by unfold ns; rw [e 1 (by omega) (by omega) (by omega)]
    have ez : nh E = nh D := by unfold nh; rw [e 2 (by omega) (by omega) (by omega)]
    have e63 : pC p4 = 0 → E (63 + nh D) = z1 := fun c => by
      rw [← hE, laysD_ne _ _ _ (by omega), laysD_ne _ _ _ (by omega), laysD_y c, upd_eq]
    unfold laysD
    split
    · rename_i c
      have c1 := (o2 (o3 c).1).1
      obtain ⟨-, z, hz, ez1⟩ := o1 c1
      have c3 := e63 c1
      refine ⟨?_, hE3.cg (upd_ne _ _ (by decide)) (upd_ne _ _ (by decide)) (upd_ne _ _ (by decide))⟩
      obtain ⟨s1, s2⟩ := nI_suc (k := nh D) (by omega)
      obtain ⟨h0, h1, h2, h3, h4, h5⟩ := hE2
      have f0 : nz (upd E 2 (nI (nh D) + 1)) = nz E := by unfold nz; rw [upd_ne _ _ (by decide)]
      have f1 : ns (upd E 2 (nI (nh D) + 1)) = ns E := by unfold ns; rw [upd_ne _ _ (by decide)]
      have f2 : nh (upd E 2 (nI (nh D) + 1)) = nh D + 1 := by show (upd E 2 (nI (nh D) + 1) 2).toNatClampNeg = nh D + 1; rw [upd_eq, s2]
      have g : ∀ q, q ≠ 2 → upd E 2 (nI (nh D) + 1) q = E q := fun q hq => upd_ne _ _ hq
      unfold OKS
      rw [f0, f1, f2, upd_eq, g 0 (by omega), g 1 (by omega)]
      refine ⟨h0, h1, ⟨s1, by omega⟩, fun s hs => ?_, fun s hs => ?_, fun s hs => ?_⟩
      · rw [g _ (by omega)]; exact h3 s hs
      · rw [g _ (by omega)]
        by_cases e3 : s = nh D
        · rw [e3, c3]; exact ⟨z, by omega, ez1⟩
        · exact h4 s (by omega)
      · rw [g _ (by omega)]; exact h5 s hs
    · exact ⟨hE2, hE3⟩
  · exact ⟨h, hr⟩
theorem onceX_g {B : Rw} {n : Nat} {x : XS} (h : OKS x.2.1) (hr : RG x.2.1) {w j : Nat} {lo hi : Int32} (hw : w < 3) (hj : (j = 111 ∧ lo = 1 ∧ hi = 365) ∨ (j = 112 ∧ lo = 1 ∧ hi = 99) ∨ (j = 113 ∧ lo = 0 ∧ hi = 30)) : OKS (onceX B n w j lo hi x).2.1 ∧ RG (onceX B n w j lo hi x).2.1 := by
  obtain ⟨p, D, l⟩ := x
  replace h : OKS D := h
  replace hr : RG D := hr
  have hb := h.1.2
  have hb1 := h.2.1.2
  have hb2 := h.2.2.1.2
  unfold onceX
  dsimp only
  generalize goP B n (needsP (decide (D (120 + w) = 0)) 3 p) = p1
  have o := num_ok (B := B) (n := n) (p := p1) (lo := lo) (hi := hi)
  generalize numP B n lo hi p1 = p2 at *
  have e : ∀ q, q ≠ 120 + w → q ≠ j → laysD p2 j (pV p1) (laysD p1 (120 + w) 1 D) q = D q := fun q h1 h2 => by
    rw [laysD_ne _ _ _ h2, laysD_ne _ _ _ h1]
  have hok : OKS (laysD p2 j (pV p1) (laysD p1 (120 + w) 1 D)) := h.cg (e 0 (by omega) (by omega)) (e 1 (by omega) (by omega)) (e 2 (by omega) (by omega)) (fun s hs => e _ (by have : ns D ≤ 12 := hb1; omega) (by have : ns D ≤ 12 := hb1; omega)) (fun s hs => e _ (by have : ns D ≤ 12 := hb1; omega) (by have : ns D ≤ 12 := hb1; omega)) (fun s hs => e _ (by have : nh D ≤ 16 := hb2; omega) (by have : nh D ≤ 16 := hb2; omega))
  refine ⟨hok, ?_⟩
  have hr1 : RG (laysD p1 (120 + w) 1 D) := hr.cg (laysD_ne _ _ _ (by omega)) (laysD_ne _ _ _ (by omega)) (laysD_ne _ _ _ (by omega))
  generalize laysD p1 (120 + w) 1 D = E at *
  unfold laysD
  split
  · rename_i c
    obtain ⟨-, c2⟩ := o c
    obtain ⟨a, b, d, r1, r2, r3, r4, r5, r6, r7, r8⟩ := hr1
    rcases hj with ⟨rfl, rfl, rfl⟩ | ⟨rfl, rfl, rfl⟩ | ⟨rfl, rfl, rfl⟩
    · obtain ⟨k, k1, k2, ek⟩ := inR_1n (n := 365) (by decide) c2
      exact ⟨k, b, d, by rw [upd_eq]; exact ek, k1, k2, (upd_ne _ _ (by decide)).trans r4, r5, r6, (upd_ne _ _ (by decide)).trans r7, r8⟩
    · obtain ⟨k, k1, k2, ek⟩ := inR_1n (n := 99) (by decide) c2
      exact ⟨a, k, d, (upd_ne _ _ (by decide)).trans r1, r2, r3, by rw [upd_eq]; exact ek, k1, k2, (upd_ne _ _ (by decide)).trans r7, r8⟩
    · obtain ⟨k, k2, ek⟩ := inR_n (n := 30) (by decide) c2
      exact ⟨a, b, k, (upd_ne _ _ (by decide)).trans r1, r2, r3, (upd_ne _ _ (by decide)).trans r4, r5, r6, by rw [upd_eq]; exact ek, k2⟩
  · exact hr1
theorem fineX_g {B : Rw} {n : Nat} {x : XS} (h : OKS x.2.1) (hr : RG x.2.1) : OKS (fineX B n x).2.1 ∧ RG (fineX B n x).2.1 := by
  obtain ⟨p, D, l⟩ := x
  replace h : OKS D := h
  replace hr : RG D := hr
  have hb1 : ns D ≤ 12 := h.2.1.2
  have hb2 : nh D ≤ 16 := h.2.2.1.2
  unfold fineX
  dsimp only
  generalize goP B n p = p1
  have hl := look_in (lo := 1) (hi := 6) (p := p1)
  generalize lookP 1 6 p1 = p2 at *
  generalize pV p1 = r at *
  have o1 : pC (fn3 D r p2) = 0 → pC p2 = 0 := fun c => by
    unfold fn3 at c
    split at c
    · assumption
    · exact c
  generalize fn3 D r p2 = p3 at *
  have o2 := goP_c B n p3
  generalize goP B n p3 = p4 at *
  have o3 := num_ok (B := B) (n := n) (p := p4) (lo := 0) (hi := 999)
  generalize numP B n 0 999 p4 = p5 at *
  split
  · rename_i c
    obtain ⟨k, k1, k2, ek⟩ := inR_1n (n := 6) (by decide) (hl (o1 (o2.symm.trans (o3 c).1)))
    rw [ek, nI_clamp (by omega)]
    have e : ∀ q, q < 114 → upd (upd D (122 + k) 1) (114 + k - 1) (pV p4) q = D q := fun q hq => by
      rw [upd_ne _ _ (by omega), upd_ne _ _ (by omega)]
    exact ⟨h.cg (e 0 (by omega)) (e 1 (by omega)) (e 2 (by omega)) (fun s hs => e _ (by omega)) (fun s hs => e _ (by omega)) (fun s hs => e _ (by omega)), hr.cg (e _ (by omega)) (e _ (by omega)) (e _ (by omega))⟩
  · exact ⟨h, hr⟩
theorem stepX_g {B : Rw} {n : Nat} {x : XS} (h : OKS x.2.1) (hr : RG x.2.1) : OKS (stepX B n x).2.1 ∧ RG (stepX B n x).2.1 := by
  unfold stepX endX
  dsimp only
  unfold stmtX
  split
  · exact zoneX_g h hr
  split
  · exact streetX_g h hr
  split
  · exact houseX_g h hr
  split
  · exact onceX_g h hr (by decide) (.inl ⟨rfl, rfl, rfl⟩)
  split
  · exact onceX_g h hr (by decide) (.inr (.inl ⟨rfl, rfl, rfl⟩))
  split
  · exact onceX_g h hr (by decide) (.inr (.inr ⟨rfl, rfl, rfl⟩))
  split
  · exact fineX_g h hr
  · exact ⟨h, hr⟩
