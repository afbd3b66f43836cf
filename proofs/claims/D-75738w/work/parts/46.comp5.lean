set_option maxRecDepth 100000
/-! STAGE 2, component: lists of the books grow -/
abbrev Bd (S N : Rw) : Prop := np N ≤ 60 ∧ nv N ≤ 60 ∧ nc N ≤ 80 ∧ nf N ≤ 99 ∧ nz S ≤ 6 ∧ ns S ≤ 12 ∧ nh S ≤ 16
def sY (y : Nat → Nat → Nat) (i : Nat) (f : Nat → Nat) : Nat → Nat → Nat := fun j => if j = i then f else y j
section COMP5
variable {G : wG} {l : Nat → Nat → Int64} {M : wM} {ow : Nat → Nat} {τ : Nat → Nat} {a : Nat} {y : Nat → Nat → Nat} {S N N1 : Rw}
theorem np_s {n : Nat} (hn : n < 2 ^ 31) (e : N1 1 = nI n) : np N1 = n := by unfold np; rw [e, nI_clamp hn]
theorem nv_s {n : Nat} (hn : n < 2 ^ 31) (e : N1 2 = nI n) : nv N1 = n := by unfold nv; rw [e, nI_clamp hn]
theorem nc_s {n : Nat} (hn : n < 2 ^ 31) (e : N1 3 = nI n) : nc N1 = n := by unfold nc; rw [e, nI_clamp hn]
theorem nf_s {n : Nat} (hn : n < 2 ^ 31) (e : N1 4 = nI n) : nf N1 = n := by unfold nf; rw [e, nI_clamp hn]
theorem Cl.ob {σ q ci : Nat} {fs : List Value} (h : Cl G M ow σ q (.inr (ci, fs))) : Ob M q := ⟨_, h.1⟩
/-- a permit more -/
theorem C_addP (h : BR G l M ow τ a y S N) (hl : LV τ) (hb : Bd S N) {q b : Nat} (hq : Cl G M ow (τ 2) q (PmC S N1 (np N))) (hf : ∀ p, p < np N → y 1 p ≠ q) (hn : np N < 60) (e1 : N1 1 = nI (np N + 1)) (hd : ∀ j, j ≠ 1 → ¬ (40 + 7 * np N ≤ j ∧ j < 40 + 7 * np N + 7) → N1 j = N j) (hbb : 200 ≤ b) {Q : Bool → wM → Prop} (hQ : ∀ M1 ow1, Mv (lvT τ) M ow M1 ow1 → BR G l M1 ow1 τ a (sY y 1 (va_up (y 1) (np N) q)) S N1 → Q true M1) : P_J2_add G (y 0 1) (some q) b M Q := by
  obtain ⟨h1, h2, h3, h4, h5, h6, h7, h8, h9⟩ := h
  obtain ⟨mc, hal⟩ := h3.1.1
  have c1 : np N1 = np N + 1 := np_s (by omega) e1
  refine S_add hal (hl.1 1 (by decide)).1 (by omega) (by omega) hq.ob fun M1 ow1 hs hA => hQ M1 ow1 (hl.m (by decide) hs) ?_
  refine ⟨?_, h2.stp hs (hl.n (by decide) (by decide) (by decide)), ?_, (BV.stp h4 hs (hl.n (by decide) (by decide) (by decide)) (hl.n (by decide) (by decide) (by decide))).val hb.2.1 (hd 2 (by omega) (by omega)) fun j _ _ => hd j (by omega) (by omega), (BC.stp h5 hs (hl.n (by decide) (by decide) (by decide))).val hb.2.2.1 (hd 3 (by omega) (by omega)) fun j _ _ => hd j (by omega) (by omega), (BF.stp h6 hs (hl.n (by decide) (by decide) (by decide))).val hb.2.2.2.1 (hd 4 (by omega) (by omega)) fun j _ _ => hd j (by omega) (by omega), (BB.stp h7 hs (hl.n (by decide) (by decide) (by decide))).val fun j _ _ => hd j (by omega) (by omega), (BL.stp h8 hs (hl.n (by decide) (by decide) (by decide))).val hb.2.2.2.2.1 fun j _ _ => hd j (by omega) (by omega), (BH.stp h9 hs (hl.n (by decide) (by decide) (by decide))).val hb.2.2.2.2.2.2 fun j _ _ => hd j (by omega) (by omega)⟩
  · unfold bkC; rw [hd 0 (by omega) (by omega)]; exact h1.stp hs (hl.n (by decide) (by decide) (by decide))
  · rw [c1]
    refine ⟨⟨⟨_, hA⟩, fun p hp => ?_⟩, fun p p' hp hp' e => ?_⟩
    · show Cl G M1 ow1 (τ 2) (va_up (y 1) (np N) q p) (PmC S N1 p)
      by_cases c : p = np N
      · rw [c, va_up_self]; exact hq.stp hs (hl.n (by decide) (by decide) (by decide))
      · rw [va_up_ne _ _ c, PmC_c (N := N) S fun k hk => hd _ (by omega) (by omega)]
        exact (h3.1.2 p (by omega)).stp hs (hl.n (by decide) (by decide) (by decide))
    · have e : va_up (y 1) (np N) q p = va_up (y 1) (np N) q p' := e
      by_cases c : p = np N
      · by_cases c' : p' = np N
        · omega
        · rw [c, va_up_self, va_up_ne _ _ c'] at e
          exact absurd e.symm (hf p' (by omega))
      · by_cases c' : p' = np N
        · rw [c', va_up_self, va_up_ne _ _ c] at e
          exact absurd e (hf p (by omega))
        · rw [va_up_ne _ _ c, va_up_ne _ _ c'] at e
          exact h3.2 p p' (by omega) (by omega) e
/-- a visit more -/
theorem C_addV (h : BR G l M ow τ a y S N) (hl : LV τ) (hb : Bd S N) {q b : Nat} (hq : Cl G M ow (τ 4) q (VsC N1 (nv N))) (hf : ∀ p, p < nv N → y 2 p ≠ q) (hn : nv N < 60) (e1 : N1 2 = nI (nv N + 1)) (hd : ∀ j, j ≠ 2 → ¬ (460 + 4 * nv N ≤ j ∧ j < 460 + 4 * nv N + 4) → N1 j = N j) (hbb : 200 ≤ b) {Q : Bool → wM → Prop} (hQ : ∀ M1 ow1, Mv (lvT τ) M ow M1 ow1 → BR G l M1 ow1 τ a (sY y 2 (va_up (y 2) (nv N) q)) S N1 → Q true M1) : P_J2_add G (y 0 2) (some q) b M Q := by
  obtain ⟨h1, h2, h3, h4, h5, h6, h7, h8, h9⟩ := h
  obtain ⟨mc, hal⟩ := h4.1.1
  have c1 : nv N1 = nv N + 1 := nv_s (by omega) e1
  refine S_add hal (hl.1 3 (by decide)).1 (by omega) (by omega) hq.ob fun M1 ow1 hs hA => hQ M1 ow1 (hl.m (by decide) hs) ?_
  refine ⟨?_, h2.stp hs (hl.n (by decide) (by decide) (by decide)), (BP.stp h3 hs (hl.n (by decide) (by decide) (by decide)) (hl.n (by decide) (by decide) (by decide))).val hb.1 (hd 1 (by omega) (by omega)) fun j _ _ => hd j (by omega) (by omega), ?_, (BC.stp h5 hs (hl.n (by decide) (by decide) (by decide))).val hb.2.2.1 (hd 3 (by omega) (by omega)) fun j _ _ => hd j (by omega) (by omega), (BF.stp h6 hs (hl.n (by decide) (by decide) (by decide))).val hb.2.2.2.1 (hd 4 (by omega) (by omega)) fun j _ _ => hd j (by omega) (by omega), (BB.stp h7 hs (hl.n (by decide) (by decide) (by decide))).val fun j _ _ => hd j (by omega) (by omega), (BL.stp h8 hs (hl.n (by decide) (by decide) (by decide))).val hb.2.2.2.2.1 fun j _ _ => hd j (by omega) (by omega), (BH.stp h9 hs (hl.n (by decide) (by decide) (by decide))).val hb.2.2.2.2.2.2 fun j _ _ => hd j (by omega) (by omega)⟩
  · unfold bkC; rw [hd 0 (by omega) (by omega)]; exact h1.stp hs (hl.n (by decide) (by decide) (by decide))
  · rw [c1]
    refine ⟨⟨⟨_, hA⟩, fun p hp => ?_⟩, fun p p' hp hp' e => ?_⟩
    · show Cl G M1 ow1 (τ 4) (va_up (y 2) (nv N) q p) (VsC N1 p)
      by_cases c : p = nv N
      · rw [c, va_up_self]; exact hq.stp hs (hl.n (by decide) (by decide) (by decide))
      · rw [va_up_ne _ _ c, VsC_c (N := N) fun k hk => hd _ (by omega) (by omega)]
        exact (h4.1.2 p (by omega)).stp hs (hl.n (by decide) (by decide) (by decide))
    · have e : va_up (y 2) (nv N) q p = va_up (y 2) (nv N) q p' := e
      by_cases c : p = nv N
      · by_cases c' : p' = nv N
        · omega
        · rw [c, va_up_self, va_up_ne _ _ c'] at e
          exact absurd e.symm (hf p' (by omega))
      · by_cases c' : p' = nv N
        · rw [c', va_up_self, va_up_ne _ _ c] at e
          exact absurd e (hf p (by omega))
        · rw [va_up_ne _ _ c, va_up_ne _ _ c'] at e
          exact h4.2 p p' (by omega) (by omega) e
/-- a car more -/
theorem C_addC (h : BR G l M ow τ a y S N) (hl : LV τ) (hb : Bd S N) {q b : Nat} (hq : Cl G M ow 0 q (CrC N1 (nc N))) (hn : nc N < 80) (e1 : N1 3 = nI (nc N + 1)) (hd : ∀ j, j ≠ 3 → ¬ (700 + 3 * nc N ≤ j ∧ j < 700 + 3 * nc N + 3) → N1 j = N j) (hbb : 4 ≤ b) {Q : wM → Prop} (hQ : ∀ M1 ow1 nd, Mv (lvT τ) M ow M1 ow1 → BR G l M1 ow1 τ a (sY (sY y 3 nd) 4 (va_up (y 4) (nc N) q)) S N1 → Q M1) : P_J8_addLast G (y 0 3) (some q) b M Q := by
  obtain ⟨h1, h2, h3, h4, h5, h6, h7, h8, h9⟩ := h
  obtain ⟨mc, hll⟩ := h5.1
  have c1 : nc N1 = nc N + 1 := nc_s (by omega) e1
  refine S_addLast hll (hl.1 5 (by decide)).1 (by omega) (by omega) hq.ob fun nq M1 ow1 hs hA => hQ M1 ow1 (va_up (y 3) (nc N) nq) (hl.m (by decide) hs) ?_
  refine ⟨?_, h2.stp hs (hl.n (by decide) (by decide) (by decide)), (BP.stp h3 hs (hl.n (by decide) (by decide) (by decide)) (hl.n (by decide) (by decide) (by decide))).val hb.1 (hd 1 (by omega) (by omega)) fun j _ _ => hd j (by omega) (by omega), (BV.stp h4 hs (hl.n (by decide) (by decide) (by decide)) (hl.n (by decide) (by decide) (by decide))).val hb.2.1 (hd 2 (by omega) (by omega)) fun j _ _ => hd j (by omega) (by omega), ?_, (BF.stp h6 hs (hl.n (by decide) (by decide) (by decide))).val hb.2.2.2.1 (hd 4 (by omega) (by omega)) fun j _ _ => hd j (by omega) (by omega), (BB.stp h7 hs (hl.n (by decide) (by decide) (by decide))).val fun j _ _ => hd j (by omega) (by omega), (BL.stp h8 hs (hl.n (by decide) (by decide) (by decide))).val hb.2.2.2.2.1 fun j _ _ => hd j (by omega) (by omega), (BH.stp h9 hs (hl.n (by decide) (by decide) (by decide))).val hb.2.2.2.2.2.2 fun j _ _ => hd j (by omega) (by omega)⟩
  · unfold bkC; rw [hd 0 (by omega) (by omega)]; exact h1.stp hs (hl.n (by decide) (by decide) (by decide))
  · rw [c1]
    refine ⟨⟨_, hA⟩, fun p hp => ?_⟩
    show Cl G M1 ow1 0 (va_up (y 4) (nc N) q p) (CrC N1 p)
    by_cases c : p = nc N
    · rw [c, va_up_self]; exact hq.stp hs hs.1
    · rw [va_up_ne _ _ c, CrC_c (N := N) fun k hk => hd _ (by omega) (by omega)]
      exact (h5.2 p (by omega)).stp hs hs.1
/-- a fine more; a fine is changed -/
theorem C_addF (h : BR G l M ow τ a y S N) (hl : LV τ) (hb : Bd S N) {q b : Nat} (hq : Cl G M ow 0 q (FnC S N1 (nf N))) (hn : nf N < 99) (e1 : N1 4 = nI (nf N + 1)) (hd : ∀ j, j ≠ 4 → ¬ (940 + 5 * nf N ≤ j ∧ j < 940 + 5 * nf N + 5) → N1 j = N j) (hbb : 300 ≤ b) {Q : Bool → wM → Prop} (hQ : ∀ M1 ow1, Mv [τ 6] M ow M1 ow1 → BR G l M1 ow1 τ a (sY y 5 (va_up (y 5) (nf N) q)) S N1 → Q true M1) : P_J2_add G (y 0 4) (some q) b M Q := by
  obtain ⟨h1, h2, h3, h4, h5, h6, h7, h8, h9⟩ := h
  obtain ⟨mc, hal⟩ := h6.1
  have c1 : nf N1 = nf N + 1 := nf_s (by omega) e1
  refine S_add hal (hl.1 6 (by decide)).1 (by omega) (by omega) hq.ob fun M1 ow1 hs hA => hQ M1 ow1 hs ?_
  refine ⟨?_, h2.stp hs (hl.n (by decide) (by decide) (by decide)), (BP.stp h3 hs (hl.n (by decide) (by decide) (by decide)) (hl.n (by decide) (by decide) (by decide))).val hb.1 (hd 1 (by omega) (by omega)) fun j _ _ => hd j (by omega) (by omega), (BV.stp h4 hs (hl.n (by decide) (by decide) (by decide)) (hl.n (by decide) (by decide) (by decide))).val hb.2.1 (hd 2 (by omega) (by omega)) fun j _ _ => hd j (by omega) (by omega), (BC.stp h5 hs (hl.n (by decide) (by decide) (by decide))).val hb.2.2.1 (hd 3 (by omega) (by omega)) fun j _ _ => hd j (by omega) (by omega), ?_, (BB.stp h7 hs (hl.n (by decide) (by decide) (by decide))).val fun j _ _ => hd j (by omega) (by omega), (BL.stp h8 hs (hl.n (by decide) (by decide) (by decide))).val hb.2.2.2.2.1 fun j _ _ => hd j (by omega) (by omega), (BH.stp h9 hs (hl.n (by decide) (by decide) (by decide))).val hb.2.2.2.2.2.2 fun j _ _ => hd j (by omega) (by omega)⟩
  · unfold bkC; rw [hd 0 (by omega) (by omega)]; exact h1.stp hs (hl.n (by decide) (by decide) (by decide))
  · rw [c1]
    refine ⟨⟨_, hA⟩, fun p hp => ?_⟩
    show Cl G M1 ow1 0 (va_up (y 5) (nf N) q p) (FnC S N1 p)
    by_cases c : p = nf N
    · rw [c, va_up_self]; exact hq.stp hs hs.1
    · rw [va_up_ne _ _ c, FnC_c (N := N) S fun k hk => hd _ (by omega) (by omega)]
      exact (h6.2 p (by omega)).stp hs hs.1
theorem C_setF (h : BR G l M ow τ a y S N) (hl : LV τ) (hb : Bd S N) {q k : Nat} (hk : k < nf N) (hq : Cl G M ow 0 q (FnC S N1 k)) (hd : ∀ j, ¬ (940 + 5 * k ≤ j ∧ j < 940 + 5 * k + 5) → N1 j = N j) {Q : Option Nat → wM → Prop} (hQ : ∀ M1, Mv (lvT τ) M ow M1 ow → BR G l M1 ow τ a (sY y 5 (va_up (y 5) k q)) S N1 → Q (some (y 5 k)) M1) : P_J2_set G (y 0 4) (nI k) (some q) M Q := by
  obtain ⟨h1, h2, h3, h4, h5, h6, h7, h8, h9⟩ := h
  obtain ⟨mc, hal⟩ := h6.1
  have c1 : nf N1 = nf N := nf_c (hd 4 (by omega))
  refine S_set hal (hl.1 6 (by decide)).1 hk hq.ob fun M1 hs hA => hQ M1 (hl.m (by decide) hs) ?_
  refine ⟨?_, h2.stp hs (hl.n (by decide) (by decide) (by decide)), (BP.stp h3 hs (hl.n (by decide) (by decide) (by decide)) (hl.n (by decide) (by decide) (by decide))).val hb.1 (hd 1 (by omega)) fun j _ _ => hd j (by omega), (BV.stp h4 hs (hl.n (by decide) (by decide) (by decide)) (hl.n (by decide) (by decide) (by decide))).val hb.2.1 (hd 2 (by omega)) fun j _ _ => hd j (by omega), (BC.stp h5 hs (hl.n (by decide) (by decide) (by decide))).val hb.2.2.1 (hd 3 (by omega)) fun j _ _ => hd j (by omega), ?_, (BB.stp h7 hs (hl.n (by decide) (by decide) (by decide))).val fun j _ _ => hd j (by omega), (BL.stp h8 hs (hl.n (by decide) (by decide) (by decide))).val hb.2.2.2.2.1 fun j _ _ => hd j (by omega), (BH.stp h9 hs (hl.n (by decide) (by decide) (by decide))).val hb.2.2.2.2.2.2 fun j _ _ => hd j (by omega)⟩
  · unfold bkC; rw [hd 0 (by omega)]; exact h1.stp hs (hl.n (by decide) (by decide) (by decide))
  · rw [c1]
    refine ⟨⟨_, hA⟩, fun p hp => ?_⟩
    show Cl G M1 ow 0 (va_up (y 5) k q p) (FnC S N1 p)
    by_cases c : p = k
    · rw [c, va_up_self]; exact hq.stp hs hs.1
    · rw [va_up_ne _ _ c, FnC_c (N := N) S fun i hi => hd _ (by omega)]
      exact (h6.2 p hp).stp hs hs.1
/-- the end of a visit is written -/
theorem C_putV (h : BR G l M ow τ a y S N) (hl : LV τ) (hb : Bd S N) {v : Nat} (hv : v < nv N) {x : Int32} {κ : wM → Prop} (hQ : ∀ M1, Mv (lvT τ) M ow M1 ow → BR G l M1 ow τ a y S (upd N (460 + 4 * v + 3) x) → κ M1) : oPut G M (y 2 v) 10 3 (.int x) κ := by
  obtain ⟨h1, h2, h3, h4, h5, h6, h7, h8, h9⟩ := h
  have hd : ∀ j, j ≠ 460 + 4 * v + 3 → upd N (460 + 4 * v + 3) x j = N j := fun j hj => upd_ne _ _ hj
  refine oPut.m (h4.1.2 v hv) (hl.1 4 (by decide)).1 (Nat.le_of_ble_eq_true rfl) (fs1 := [.int (vP N v 0), .int (vP N v 1), .int (vP N v 2), .int x]) rfl fun M1 e1 hs hC => hQ M1 (hl.m (by decide) hs) ?_
  refine ⟨?_, h2.stp hs (hl.n (by decide) (by decide) (by decide)), (BP.stp h3 hs (hl.n (by decide) (by decide) (by decide)) (hl.n (by decide) (by decide) (by decide))).val hb.1 (hd 1 (by omega)) fun j _ _ => hd j (by omega), ?_, (BC.stp h5 hs (hl.n (by decide) (by decide) (by decide))).val hb.2.2.1 (hd 3 (by omega)) fun j _ _ => hd j (by omega), (BF.stp h6 hs (hl.n (by decide) (by decide) (by decide))).val hb.2.2.2.1 (hd 4 (by omega)) fun j _ _ => hd j (by omega), (BB.stp h7 hs (hl.n (by decide) (by decide) (by decide))).val fun j _ _ => hd j (by omega), (BL.stp h8 hs (hl.n (by decide) (by decide) (by decide))).val hb.2.2.2.2.1 fun j _ _ => hd j (by omega), (BH.stp h9 hs (hl.n (by decide) (by decide) (by decide))).val hb.2.2.2.2.2.2 fun j _ _ => hd j (by omega)⟩
  · unfold bkC; rw [hd 0 (by omega)]; exact h1.stp hs (hl.n (by decide) (by decide) (by decide))
  · rw [nv_c (hd 2 (by omega))]
    refine ⟨⟨h4.1.1.stp hs (hl.n (by decide) (by decide) (by decide)), fun q hq => ?_⟩, h4.2⟩
    by_cases e : q = v
    · subst e
      have : VsC (upd N (460 + 4 * q + 3) x) q = .inr (10, [.int (vP N q 0), .int (vP N q 1), .int (vP N q 2), .int x]) := by
        unfold VsC vP; rw [upd_ne _ _ (by omega), upd_ne _ _ (by omega), upd_ne _ _ (by omega), upd_eq]
      rw [this]; exact hC
    · have ev : VsC (upd N (460 + 4 * v + 3) x) q = VsC N q := VsC_c fun k hk => hd _ (by omega)
      rw [ev, e1]
      exact (h4.1.2 q hq).off (fun z => e (h4.2 q v hq hv z)) _
end COMP5
