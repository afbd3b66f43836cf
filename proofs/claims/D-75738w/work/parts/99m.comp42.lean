set_option maxRecDepth 100000
/-! STAGE 2, component, reading 11: the loop -/
def cnD (D : Rw) : Nat := nz D + ns D + nh D
theorem cn_le {D : Rw} (hg : OKS D) : cnD D ≤ 34 := by
  have b1 := hg.1.2
  have b2 := hg.2.1.2
  have b3 := hg.2.2.1.2
  unfold cnD; omega
theorem cn_e {D E : Rw} (ed : ∀ j, j < 3 → E j = D j) : cnD E = cnD D := by
  unfold cnD nz ns nh
  rw [ed 0 (by decide), ed 1 (by decide), ed 2 (by decide)]
theorem stm_ct {B : Rw} {n : Nat} {p : PS} {D : Rw} {l : Nat → Nat → Int64} (hg : OKS D) (hc : pC (stmtX B n (p, D, l)).1 = 0) : 210 * cnD D + eS p ≤ 210 * cnD (stmtX B n (p, D, l)).2.1 := by
  have b1 := hg.1.2
  have b2 := hg.2.1.2
  have b3 := hg.2.2.1.2
  have h210 : eS p ≤ 210 := by unfold eS; split <;> omega
  have n210 : isWP p 0 = false → isWP p 4 = false → isWP p 8 = false → eS p = 0 := fun a b c => by unfold eS; rw [a, b, c]; rfl
  cases k0 : isWP p 0 with
  | true =>
    rw [st_0 k0] at hc ⊢
    obtain ⟨p1, p2, p3, p4, p5, p6, -, -, -, -, -, -, ez, ed⟩ := zX B n p D l
    rw [ez] at hc
    rw [ed hc]
    dsimp only
    unfold cnD
    have e0 : nz (upd (upd (upd (upd (upd D (3 + nz D) (nbV B n 1 p2)) (9 + nz D) (nbV B n 2 p3)) (15 + nz D) (pV p4)) (21 + nz D) (if isWP p5 3 then nbV B n 3 p5 else 0)) 0 (nI (nz D) + 1)) = nz D + 1 := nz_e (D := D) (by rw [upd_eq, nI_1]) (by omega)
    have e1 : ns (upd (upd (upd (upd (upd D (3 + nz D) (nbV B n 1 p2)) (9 + nz D) (nbV B n 2 p3)) (15 + nz D) (pV p4)) (21 + nz D) (if isWP p5 3 then nbV B n 3 p5 else 0)) 0 (nI (nz D) + 1)) = ns D := by
      unfold ns; rw [upd_ne _ _ (by omega), upd_ne _ _ (by omega), upd_ne _ _ (by omega), upd_ne _ _ (by omega), upd_ne _ _ (by omega)]
    have e2 : nh (upd (upd (upd (upd (upd D (3 + nz D) (nbV B n 1 p2)) (9 + nz D) (nbV B n 2 p3)) (15 + nz D) (pV p4)) (21 + nz D) (if isWP p5 3 then nbV B n 3 p5 else 0)) 0 (nI (nz D) + 1)) = nh D := by
      unfold nh; rw [upd_ne _ _ (by omega), upd_ne _ _ (by omega), upd_ne _ _ (by omega), upd_ne _ _ (by omega), upd_ne _ _ (by omega)]
    rw [e0, e1, e2]
    omega
  | false =>
  cases k4 : isWP p 4 with
  | true =>
    rw [st_4 k4] at hc ⊢
    obtain ⟨p1, p2, p3, p4, p5, p6, z, e1, -, -, -, -, -, -, ez, ed⟩ := sX B n p D l
    rw [ez] at hc
    obtain ⟨-, d1, -, -, -, d5⟩ := ed hc
    generalize (streetX B n (p, D, l)).2.1 = E at d1 d5 ⊢
    unfold cnD
    have e0 : ns E = ns D + 1 := ns_e (D := D) (by rw [d1, nI_1]) (by omega)
    have e1 : nz E = nz D := by unfold nz; rw [d5 0 (by omega) (by omega) (by omega) (by omega)]
    have e2 : nh E = nh D := by unfold nh; rw [d5 2 (by omega) (by omega) (by omega) (by omega)]
    rw [e0, e1, e2]
    omega
  | false =>
  cases k8 : isWP p 8 with
  | true =>
    rw [st_8 k8] at hc ⊢
    obtain ⟨p1, p2, p3, p4, p5, p6, -, -, -, -, -, -, ez, ed⟩ := hX B n p D l
    rw [ez] at hc
    rw [ed hc]
    dsimp only
    unfold cnD
    generalize eE : upd (upd (upd (upd D (63 + nh D) (oldV B (l 24) (ns D) p3)) (79 + nh D) (nbV B n 10 p4)) (95 + nh D) (nbV B n 11 p5)) 2 (nI (nh D) + 1) = E
    have e0 : nh E = nh D + 1 := nh_e (D := D) (by rw [← eE, upd_eq, nI_1]) (by omega)
    have e1 : ns E = ns D := by unfold ns; rw [← eE, upd_ne _ _ (by omega), upd_ne _ _ (by omega), upd_ne _ _ (by omega), upd_ne _ _ (by omega)]
    have e2 : nz E = nz D := by unfold nz; rw [← eE, upd_ne _ _ (by omega), upd_ne _ _ (by omega), upd_ne _ _ (by omega), upd_ne _ _ (by omega)]
    rw [e0, e1, e2]
    omega
  | false =>
  rw [n210 k0 k4 k8]
  have on : ∀ w j lo hi, 110 ≤ j → cnD (onceX B n w j lo hi (p, D, l)).2.1 = cnD D := fun w j lo hi hj => by
    rw [oX]
    refine cn_e fun i hi => ?_
    dsimp only
    rw [laysD_ne _ _ _ (by omega), laysD_ne _ _ _ (by omega)]
  have fi : cnD (fineX B n (p, D, l)).2.1 = cnD D := by
    rw [fX]
    refine cn_e fun i hi => ?_
    dsimp only
    split
    · rw [upd_ne _ _ (by omega), upd_ne _ _ (by omega)]
    · rfl
  unfold stmtX
  rw [if_neg (wfn k0), if_neg (wfn k4), if_neg (wfn k8)]
  split
  · rw [on _ _ _ _ (by decide)]; omega
  split
  · rw [on _ _ _ _ (by decide)]; omega
  split
  · rw [on _ _ _ _ (by decide)]; omega
  split
  · rw [fi]; omega
  · exact Nat.le_refl _
theorem eS_le (p : PS) : eS p ≤ 210 := by unfold eS; split <;> omega
section C42
variable {G : wG} {M : wM} {ow : Nat → Nat} {a n t : Nat} {u : Nat × (Nat → Nat)} {B : Rw} {p p1 : PS} {D E : Rw} {l l1 : Nat → Nat → Int64} {cc c1 : Nat → Nat}
theorem R_loop (hB : BYT B) {Q : Option Nat → wM → Prop} {Xp : String → Nat → wM → Prop} : ∀ d (x : XS) M ow b, PSTf G M ow a n B t u x.1 x.2.1 x.2.2 (nmC x.2.1) → pC x.1 = 0 → OKS x.2.1 → RG x.2.1 → (n + 1 ≤ d + x.1.1 ∨ pT x.1 = 0) → 29 * (n - x.1.1) + 210 * (35 - cnD x.2.1) + 9 ≤ b →
    (pC (readX B n d x).1 = 0 → ∀ M1 ow1, Mv tQ M ow M1 ow1 → PST G M1 ow1 a n B t u (readX B n d x).1 (readX B n d x).2.1 (readX B n d x).2.2 (nmC (readX B n d x).2.1) → Q (some u.1) M1) →
    (pC (readX B n d x).1 ≠ 0 → ∀ q M1 ow1, Mv tQ M ow M1 ow1 → EXC M1 q (readX B n d x).1 → Xp ePE q M1) → L_X5_parse_0 G Q Xp (d + 1) t M b := by
  have stop : ∀ d x, pC x.1 ≠ 0 → readX B n d x = x := fun d x h => by
    cases d with
    | zero => rfl
    | succ d => unfold readX; exact if_neg fun z => h z.1
  have fin : ∀ d (x : XS) M ow b, PSTf G M ow a n B t u x.1 x.2.1 x.2.2 (nmC x.2.1) → pC x.1 = 0 → pT x.1 = 0 →
    (pC (readX B n d x).1 = 0 → ∀ M1 ow1, Mv tQ M ow M1 ow1 → PST G M1 ow1 a n B t u (readX B n d x).1 (readX B n d x).2.1 (readX B n d x).2.2 (nmC (readX B n d x).2.1) → Q (some u.1) M1) → L_X5_parse_0 G Q Xp (d + 1) t M b := fun d x M ow b h hc hT hQ => by
    have e : readX B n d x = x := by
      cases d with
      | zero => rfl
      | succ d => unfold readX; exact if_neg fun z => z.2 hT
    rw [e] at hQ
    rw [show L_X5_parse_0 G Q Xp (d + 1) t M b = B_X5_parse_0 G (L_X5_parse_0 G Q Xp d) Q Xp t M b from rfl]
    unfold B_X5_parse_0
    exact h.s.kd (oIf.y hT (K_su h.s (hQ hc M ow (Mv.rf (by decide)) h.s)))
  intro d
  induction d with
  | zero =>
    intro x M ow b h hc hg hr hd hb hQ hX
    have hT : pT x.1 = 0 := by
      rcases hd with hd | hd
      · have := h.s.o.1.1; omega
      · exact hd
    exact fin 0 x M ow b h hc hT hQ
  | succ d ih =>
    intro x M ow b h hc hg hr hd hb hQ hX
    by_cases hT : pT x.1 = 0
    · exact fin (d + 1) x M ow b h hc hT hQ
    · have e : readX B n (d + 1) x = readX B n d (stepX B n x) := by
        show (if pC x.1 = 0 ∧ pT x.1 ≠ 0 then readX B n d (stepX B n x) else x) = _
        exact if_pos ⟨hc, hT⟩
      rw [e] at hQ hX
      rw [show L_X5_parse_0 G Q Xp (d + 1 + 1) t M b = B_X5_parse_0 G (L_X5_parse_0 G Q Xp (d + 1)) Q Xp t M b from rfl]
      unfold B_X5_parse_0
      obtain ⟨o1, m1⟩ := stmtX_o (B := B) h.s.o.1
      obtain ⟨o2, m2⟩ := stepX_o (B := B) h.s.o.1
      obtain ⟨g2, r2⟩ := stepX_g (B := B) (n := n) hg hr
      have ct := stm_ct (B := B) (n := n) (p := x.1) (l := x.2.2) hg
      have hcn := cn_le hg
      have hes := eS_le x.1
      have hx : (x.1, x.2.1, x.2.2) = x := rfl
      rw [hx] at ct
      have es : stepX B n x = (goP B n (needsP (decide (pT (stmtX B n x).1 = 3)) 1 (stmtX B n x).1), (stmtX B n x).2) := rfl
      have hcs : cs x.1 (stmtX B n x).1 (eS x.1) ≤ b := by
        have := o1.1
        unfold cs; split <;> omega
      refine h.s.kd (oIf.n hT (h.s.is ⟨cs x.1 (stmtX B n x).1 (eS x.1), hcs, R_stmt (D := x.2.1) (l := x.2.2) h hB hc hg (Nat.le_refl _) (fun c1 M1 ow1 hs1 g1 => ?_) (fun c1 q M1 ow1 hs hx => ⟨rfl, ?_⟩)⟩))
      · rw [hx] at c1 g1
        have ct := ct c1
        have hcv : cs x.1 (stmtX B n x).1 (eS x.1) = 29 * ((stmtX B n x).1.1 - x.1.1) + eS x.1 := by unfold cs; rw [if_pos c1]; rfl
        have hon := o1.1
        rw [hcv] at hcs ⊢
        clear hcv
        rw [es] at hQ hX o2 m2 g2 r2
        generalize stmtX B n x = z at *
        clear es
        have go : ∀ y0 bq, y0 = wb (decide (pT z.1 = 3)) → bq = b - (29 * (z.1.1 - x.1.1) + eS x.1) → B_X5_parse_25 G (L_X5_parse_0 G Q Xp (d + 1)) Q Xp t y0 t M1 bq := fun y0 bq ey ebq => by
          unfold B_X5_parse_25
          cases eb : decide (pT z.1 = 3) with
          | false =>
            have hne := need_fc c1 (x := 1) (by decide)
            rw [eb] at ey hX
            rw [go_s hne] at hX
            rw [stop d (needsP false 1 z.1, z.2) hne] at hX
            refine g1.is ⟨bq, Nat.le_refl _, R_req g1 c1 (bb := false) ey (fun _ => by omega) (fun e => by cases e) (fun _ q M2 ow2 hs2 hx2 => ⟨rfl, hX hne q M2 ow2 (hs1.tr hs2) hx2⟩)⟩
          | true =>
            rw [eb] at ey hX hQ o2 m2 g2 r2
            rw [need_t] at hX hQ o2 m2 g2 r2
            have m3 : z.1.1 ≤ (goP B n z.1).1 := goP_a g1.o.1
            have hon2 : (goP B n z.1).1 ≤ n := o2.1
            refine g1.is ⟨0, Nat.zero_le _, R_req g1 c1 (bb := true) ey (fun e => by cases e) (fun _ => g1.is ⟨29 * ((goP B n z.1).1 - z.1.1), by omega, R_go g1 hB c1 (e := 0) (by unfold cs; rw [if_pos (by rw [goP_c]; exact c1)]; exact Nat.le_refl _) fun M2 ow2 hs2 g2' => ?_⟩) (fun e => by cases e)⟩
            have hs2 := hs1.tr hs2
            refine ih (goP B n z.1, z.2) M2 ow2 _ g2' (by rw [goP_c]; exact c1) g2 r2 ?_ ?_ (fun c M3 ow3 hs3 g3 => hQ c M3 ow3 (hs2.tr hs3) g3) (fun c q M3 ow3 hs3 hx => hX c q M3 ow3 (hs2.tr hs3) hx)
            · rcases m2 with m2 | m2 | m2
              · exact absurd (show pC (goP B n z.1) = 0 by rw [goP_c]; exact c1) m2
              · exact .inr m2
              · rcases hd with hd | hd
                · refine .inl ?_
                  show n + 1 ≤ d + (goP B n z.1).1
                  have : x.1.1 < (goP B n z.1).1 := m2
                  omega
                · exact absurd hd hT
            · show 29 * (n - (goP B n z.1).1) + 210 * (35 - cnD z.2.1) + 9 ≤ bq - 0 - 29 * ((goP B n z.1).1 - z.1.1)
              omega
        refine g1.kd (oIf.c (fun k => go 1 _ (by rw [decide_eq_true k]; rfl) rfl) (fun k => go 0 _ (by rw [decide_eq_false k]; rfl) rfl))
      · have e1 : stepX B n x = stmtX B n x := by rw [es, need_s c1, go_s c1]
        rw [e1, stop d _ c1] at hX
        exact hX c1 q M1 ow1 hs hx
end C42
