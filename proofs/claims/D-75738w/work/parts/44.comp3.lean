set_option maxRecDepth 100000
/-! STAGE 2, component: the parts of the books, one by one; writes -/
def BP (G : wG) (M : wM) (ow : Nat → Nat) (τ1 τ2 aP : Nat) (gP : Nat → Nat) (S N : Rw) : Prop := (ALe G M ow τ1 aP (np N) gP ∧ ∀ p, p < np N → Cl G M ow τ2 (gP p) (PmC S N p)) ∧ ∀ p q, p < np N → q < np N → gP p = gP q → p = q
def BV (G : wG) (M : wM) (ow : Nat → Nat) (τ1 τ2 aV : Nat) (gV : Nat → Nat) (N : Rw) : Prop := (ALe G M ow τ1 aV (nv N) gV ∧ ∀ v, v < nv N → Cl G M ow τ2 (gV v) (VsC N v)) ∧ ∀ p q, p < nv N → q < nv N → gV p = gV q → p = q
def BC (G : wG) (M : wM) (ow : Nat → Nat) (τ1 aC : Nat) (nd gC : Nat → Nat) (N : Rw) : Prop := LLe G M ow τ1 aC (nc N) nd gC ∧ ∀ c, c < nc N → Cl G M ow 0 (gC c) (CrC N c)
def BF (G : wG) (M : wM) (ow : Nat → Nat) (τ1 aF : Nat) (gF : Nat → Nat) (S N : Rw) : Prop := ALe G M ow τ1 aF (nf N) gF ∧ ∀ f, f < nf N → Cl G M ow 0 (gF f) (FnC S N f)
def BB (G : wG) (M : wM) (ow : Nat → Nat) (τ1 aB : Nat) (N : Rw) : Prop := ∃ w, BS G M ow τ1 aB w ∧ ∀ s, s < 12 → (bitG w s = true ↔ N (11 + s) = 1)
def BL (G : wG) (M : wM) (ow : Nat → Nat) (τ1 aL : Nat) (S N : Rw) : Prop := ∃ r, Cl G M ow τ1 aL (.inl (.int, 6, .inl r)) ∧ ∀ z, z < nz S → r z = N (5 + z)
def BH (G : wG) (M : wM) (ow : Nat → Nat) (τ1 aH : Nat) (S N : Rw) : Prop := ∃ r, Cl G M ow τ1 aH (.inl (.int, 16, .inl r)) ∧ ∀ h, h < nh S → r h = N (23 + h)
section COMP3
variable {G : wG} {M M1 : wM} {ow ow1 : Nat → Nat} {T : List Nat} {τ1 τ2 x : Nat} {g nd : Nat → Nat} {S N N1 : Rw}
theorem BP.stp (h : BP G M ow τ1 τ2 x g S N) (hs : Mv T M ow M1 ow1) (h1 : τ1 ∉ T) (h2 : τ2 ∉ T) : BP G M1 ow1 τ1 τ2 x g S N := ⟨⟨h.1.1.stp hs h1, fun p hp => (h.1.2 p hp).stp hs h2⟩, h.2⟩
theorem BV.stp (h : BV G M ow τ1 τ2 x g N) (hs : Mv T M ow M1 ow1) (h1 : τ1 ∉ T) (h2 : τ2 ∉ T) : BV G M1 ow1 τ1 τ2 x g N := ⟨⟨h.1.1.stp hs h1, fun p hp => (h.1.2 p hp).stp hs h2⟩, h.2⟩
theorem BC.stp (h : BC G M ow τ1 x nd g N) (hs : Mv T M ow M1 ow1) (h1 : τ1 ∉ T) : BC G M1 ow1 τ1 x nd g N := ⟨h.1.stp hs h1, fun p hp => (h.2 p hp).stp hs hs.1⟩
theorem BF.stp (h : BF G M ow τ1 x g S N) (hs : Mv T M ow M1 ow1) (h1 : τ1 ∉ T) : BF G M1 ow1 τ1 x g S N := ⟨h.1.stp hs h1, fun p hp => (h.2 p hp).stp hs hs.1⟩
theorem BB.stp (h : BB G M ow τ1 x N) (hs : Mv T M ow M1 ow1) (h1 : τ1 ∉ T) : BB G M1 ow1 τ1 x N := by obtain ⟨w, a, b⟩ := h; exact ⟨w, a.stp hs h1, b⟩
theorem BL.stp (h : BL G M ow τ1 x S N) (hs : Mv T M ow M1 ow1) (h1 : τ1 ∉ T) : BL G M1 ow1 τ1 x S N := by obtain ⟨w, a, b⟩ := h; exact ⟨w, a.stp hs h1, b⟩
theorem BH.stp (h : BH G M ow τ1 x S N) (hs : Mv T M ow M1 ow1) (h1 : τ1 ∉ T) : BH G M1 ow1 τ1 x S N := by obtain ⟨w, a, b⟩ := h; exact ⟨w, a.stp hs h1, b⟩
theorem np_c (e : N1 1 = N 1) : np N1 = np N := by unfold np; rw [e]
theorem nv_c (e : N1 2 = N 2) : nv N1 = nv N := by unfold nv; rw [e]
theorem nc_c (e : N1 3 = N 3) : nc N1 = nc N := by unfold nc; rw [e]
theorem nf_c (e : N1 4 = N 4) : nf N1 = nf N := by unfold nf; rw [e]
theorem PmC_c (S : Rw) {p : Nat} (e : ∀ k, k < 7 → pP N1 p k = pP N p k) : PmC S N1 p = PmC S N p := by
  unfold PmC zP; rw [e 0 (by decide), e 1 (by decide), e 2 (by decide), e 3 (by decide), e 4 (by decide), e 5 (by decide), e 6 (by decide)]
theorem VsC_c {p : Nat} (e : ∀ k, k < 4 → vP N1 p k = vP N p k) : VsC N1 p = VsC N p := by
  unfold VsC; rw [e 0 (by decide), e 1 (by decide), e 2 (by decide), e 3 (by decide)]
theorem CrC_c {p : Nat} (e : ∀ k, k < 3 → cP N1 p k = cP N p k) : CrC N1 p = CrC N p := by
  unfold CrC; rw [e 0 (by decide), e 1 (by decide), e 2 (by decide)]
theorem FnC_c (S : Rw) {p : Nat} (e : ∀ k, k < 5 → fP N1 p k = fP N p k) : FnC S N1 p = FnC S N p := by
  unfold FnC; rw [e 0 (by decide), e 1 (by decide), e 2 (by decide), e 3 (by decide), e 4 (by decide)]
theorem BP.val (h : BP G M ow τ1 τ2 x g S N) (hn : np N ≤ 60) (e1 : N1 1 = N 1) (e : ∀ j, 40 ≤ j → j < 460 → N1 j = N j) : BP G M ow τ1 τ2 x g S N1 := by
  unfold BP; rw [np_c e1]
  exact ⟨⟨h.1.1, fun p hp => by rw [PmC_c (N := N) S fun k hk => e _ (by omega) (by omega)]; exact h.1.2 p hp⟩, h.2⟩
theorem BV.val (h : BV G M ow τ1 τ2 x g N) (hn : nv N ≤ 60) (e1 : N1 2 = N 2) (e : ∀ j, 460 ≤ j → j < 700 → N1 j = N j) : BV G M ow τ1 τ2 x g N1 := by
  unfold BV; rw [nv_c e1]
  exact ⟨⟨h.1.1, fun p hp => by rw [VsC_c (N := N) fun k hk => e _ (by omega) (by omega)]; exact h.1.2 p hp⟩, h.2⟩
theorem BC.val (h : BC G M ow τ1 x nd g N) (hn : nc N ≤ 80) (e1 : N1 3 = N 3) (e : ∀ j, 700 ≤ j → j < 940 → N1 j = N j) : BC G M ow τ1 x nd g N1 := by
  unfold BC; rw [nc_c e1]
  exact ⟨h.1, fun p hp => by rw [CrC_c (N := N) fun k hk => e _ (by omega) (by omega)]; exact h.2 p hp⟩
theorem BF.val (h : BF G M ow τ1 x g S N) (hn : nf N ≤ 99) (e1 : N1 4 = N 4) (e : ∀ j, 940 ≤ j → j < 1435 → N1 j = N j) : BF G M ow τ1 x g S N1 := by
  unfold BF; rw [nf_c e1]
  exact ⟨h.1, fun p hp => by rw [FnC_c (N := N) S fun k hk => e _ (by omega) (by omega)]; exact h.2 p hp⟩
theorem BB.val (h : BB G M ow τ1 x N) (e : ∀ j, 11 ≤ j → j < 23 → N1 j = N j) : BB G M ow τ1 x N1 := by
  obtain ⟨w, a, b⟩ := h; exact ⟨w, a, fun s hs => by rw [e _ (by omega) (by omega)]; exact b s hs⟩
theorem BL.val (h : BL G M ow τ1 x S N) (hn : nz S ≤ 6) (e : ∀ j, 5 ≤ j → j < 11 → N1 j = N j) : BL G M ow τ1 x S N1 := by
  obtain ⟨w, a, b⟩ := h; exact ⟨w, a, fun s hs => by rw [e _ (by omega) (by omega)]; exact b s hs⟩
theorem BH.val (h : BH G M ow τ1 x S N) (hn : nh S ≤ 16) (e : ∀ j, 23 ≤ j → j < 40 → N1 j = N j) : BH G M ow τ1 x S N1 := by
  obtain ⟨w, a, b⟩ := h; exact ⟨w, a, fun s hs => by rw [e _ (by omega) (by omega)]; exact b s hs⟩
end COMP3
/-- books that are written: the parts have owners of their own -/
def LV (τ : Nat → Nat) : Prop := (∀ k, k ≤ 9 → τ k ≠ 0 ∧ τ k ≠ τ 10) ∧ ∀ i j, i ≤ 9 → j ≤ 9 → i ≠ j → τ i ≠ τ j
theorem LV.n {τ : Nat → Nat} (h : LV τ) {i j : Nat} (hi : i ≤ 10) (hj : j ≤ 9) (e : i ≠ j) : τ i ∉ [τ j] := by
  rw [List.mem_singleton]
  by_cases c : i = 10
  · subst c; exact fun x => (h.1 j hj).2 x.symm
  · exact h.2 i j (by omega) hj e
section COMP3B
variable {G : wG} {l : Nat → Nat → Int64} {M : wM} {ow : Nat → Nat} {τ : Nat → Nat} {a : Nat} {y : Nat → Nat → Nat} {S N : Rw}
theorem BR.val {N1 : Rw} (h : BR G l M ow τ a y S N) (hg : OK S N) (e : EqR N N1) : BR G l M ow τ a y S N1 := by
  have hb := hg.b
  obtain ⟨h1, h2, h3, h4, h5, h6, h7, h8, h9⟩ := h
  have c : ∀ j, j < 1435 → N1 j = N j := e
  refine ⟨by unfold bkC; rw [c 0 (by decide)]; exact h1, h2, BP.val (N := N) h3 hb.1 (c 1 (by decide)) fun j _ _ => c j (by omega), BV.val (N := N) h4 hb.2.1 (c 2 (by decide)) fun j _ _ => c j (by omega), BC.val (N := N) h5 hb.2.2.1 (c 3 (by decide)) fun j _ _ => c j (by omega), BF.val (N := N) h6 hb.2.2.2.1 (c 4 (by decide)) fun j _ _ => c j (by omega), BB.val (N := N) h7 fun j _ _ => c j (by omega), BL.val (N := N) h8 hb.2.2.2.2.1 fun j _ _ => c j (by omega), BH.val (N := N) h9 hb.2.2.2.2.2.2 fun j _ _ => c j (by omega)⟩
/-- a field of a permit is written -/
theorem C_putP (h : BR G l M ow τ a y S N) (hl : LV τ) (hg : OK S N) {p k : Nat} (hp : p < np N) {v : Int32} {N1 : Rw} (hd : ∀ j, ¬ (40 + 7 * p < j ∧ j < 40 + 7 * p + 7) → N1 j = N j) (hk : k < 8)
    (he : [Value.int (pP N p 0), .int (pP N p 1), .int (zP S N p), .int (pP N p 3), .int (pP N p 2), .int (pP N p 4), .int (pP N p 5), .int (pP N p 6)].set k (.int v) = [Value.int (pP N1 p 0), .int (pP N1 p 1), .int (zP S N1 p), .int (pP N1 p 3), .int (pP N1 p 2), .int (pP N1 p 4), .int (pP N1 p 5), .int (pP N1 p 6)]) {κ : wM → Prop} (hQ : ∀ M1, Mv [τ 2] M ow M1 ow → BR G l M1 ow τ a y S N1 → κ M1) : oPut G M (y 1 p) 9 k (.int v) κ := by
  have hb := hg.b
  obtain ⟨h1, h2, h3, h4, h5, h6, h7, h8, h9⟩ := h
  refine oPut.m (h3.1.2 p hp) (hl.1 2 (by decide)).1 hk he fun M1 e1 hs hC => hQ M1 hs ?_
  have c1 : N1 1 = N 1 := hd 1 (by omega)
  refine ⟨?_, h2.stp hs (hl.n (by decide) (by decide) (by decide)), ?_, (BV.stp h4 hs (hl.n (by decide) (by decide) (by decide)) (hl.n (by decide) (by decide) (by decide))).val hb.2.1 (hd 2 (by omega)) fun j _ _ => hd j (by omega), (BC.stp h5 hs (hl.n (by decide) (by decide) (by decide))).val hb.2.2.1 (hd 3 (by omega)) fun j _ _ => hd j (by omega), (BF.stp h6 hs (hl.n (by decide) (by decide) (by decide))).val hb.2.2.2.1 (hd 4 (by omega)) fun j _ _ => hd j (by omega), (BB.stp h7 hs (hl.n (by decide) (by decide) (by decide))).val fun j _ _ => hd j (by omega), (BL.stp h8 hs (hl.n (by decide) (by decide) (by decide))).val hb.2.2.2.2.1 fun j _ _ => hd j (by omega), (BH.stp h9 hs (hl.n (by decide) (by decide) (by decide))).val hb.2.2.2.2.2.2 fun j _ _ => hd j (by omega)⟩
  · unfold bkC; rw [hd 0 (by omega)]; exact h1.stp hs (hl.n (by decide) (by decide) (by decide))
  · rw [np_c c1]
    refine ⟨⟨h3.1.1.stp hs (hl.n (by decide) (by decide) (by decide)), fun q hq => ?_⟩, h3.2⟩
    by_cases e : q = p
    · subst e; exact hC
    · rw [PmC_c (N := N) S fun k hk => hd _ (by omega), e1]
      exact (h3.1.2 q hq).off (fun x => e (h3.2 q p hq hp x)) _
theorem C_putS (h : BR G l M ow τ a y S N) (hl : LV τ) (hg : OK S N) {p : Nat} (hp : p < np N) {v : Int32} {κ : wM → Prop} (hQ : ∀ M1, Mv [τ 2] M ow M1 ow → BR G l M1 ow τ a y S (upd N (40 + 7 * p + 2) v) → κ M1) : oPut G M (y 1 p) 9 4 (.int v) κ := by
  refine C_putP h hl hg hp (fun j hj => upd_ne _ _ (by omega)) (by decide) ?_ hQ
  unfold zP; simp [pP_upd]
theorem C_putE (h : BR G l M ow τ a y S N) (hl : LV τ) (hg : OK S N) {p : Nat} (hp : p < np N) {v : Int32} {κ : wM → Prop} (hQ : ∀ M1, Mv [τ 2] M ow M1 ow → BR G l M1 ow τ a y S (upd N (40 + 7 * p + 4) v) → κ M1) : oPut G M (y 1 p) 9 5 (.int v) κ := by
  refine C_putP h hl hg hp (fun j hj => upd_ne _ _ (by omega)) (by decide) ?_ hQ
  unfold zP; simp [pP_upd]
theorem C_putL (h : BR G l M ow τ a y S N) (hl : LV τ) (hg : OK S N) {p : Nat} (hp : p < np N) {v : Int32} {κ : wM → Prop} (hQ : ∀ M1, Mv [τ 2] M ow M1 ow → BR G l M1 ow τ a y S (upd N (40 + 7 * p + 5) v) → κ M1) : oPut G M (y 1 p) 9 6 (.int v) κ := by
  refine C_putP h hl hg hp (fun j hj => upd_ne _ _ (by omega)) (by decide) ?_ hQ
  unfold zP; simp [pP_upd]
theorem C_putR (h : BR G l M ow τ a y S N) (hl : LV τ) (hg : OK S N) {p : Nat} (hp : p < np N) {v : Int32} {κ : wM → Prop} (hQ : ∀ M1, Mv [τ 2] M ow M1 ow → BR G l M1 ow τ a y S (upd N (40 + 7 * p + 6) v) → κ M1) : oPut G M (y 1 p) 9 7 (.int v) κ := by
  refine C_putP h hl hg hp (fun j hj => upd_ne _ _ (by omega)) (by decide) ?_ hQ
  unfold zP; simp [pP_upd]
/-- the time is written -/
theorem C_putT (h : BR G l M ow τ a y S N) (hl : LV τ) (hg : OK S N) {v : Int32} {κ : wM → Prop} (hQ : ∀ M1, Mv [τ 0] M ow M1 ow → BR G l M1 ow τ a y S (upd N 0 v) → κ M1) : oPut G M a 1 8 (.int v) κ := by
  have hb := hg.b
  obtain ⟨h1, h2, h3, h4, h5, h6, h7, h8, h9⟩ := h
  have hd : ∀ j, j ≠ 0 → upd N 0 v j = N j := fun j hj => upd_ne _ _ hj
  refine oPut.m h1 (hl.1 0 (by decide)).1 (Nat.le_of_ble_eq_true rfl) (fs1 := [.ref (y 0 0), .ref (y 0 1), .ref (y 0 2), .ref (y 0 3), .ref (y 0 4), .ref (y 0 5), .ref (y 0 6), .ref (y 0 7), .int v]) rfl fun M1 e1 hs hC => hQ M1 hs ?_
  exact ⟨hC, h2.stp hs (hl.n (by decide) (by decide) (by decide)), (BP.stp h3 hs (hl.n (by decide) (by decide) (by decide)) (hl.n (by decide) (by decide) (by decide))).val hb.1 (hd 1 (by omega)) fun j _ _ => hd j (by omega), (BV.stp h4 hs (hl.n (by decide) (by decide) (by decide)) (hl.n (by decide) (by decide) (by decide))).val hb.2.1 (hd 2 (by omega)) fun j _ _ => hd j (by omega), (BC.stp h5 hs (hl.n (by decide) (by decide) (by decide))).val hb.2.2.1 (hd 3 (by omega)) fun j _ _ => hd j (by omega), (BF.stp h6 hs (hl.n (by decide) (by decide) (by decide))).val hb.2.2.2.1 (hd 4 (by omega)) fun j _ _ => hd j (by omega), (BB.stp h7 hs (hl.n (by decide) (by decide) (by decide))).val fun j _ _ => hd j (by omega), (BL.stp h8 hs (hl.n (by decide) (by decide) (by decide))).val hb.2.2.2.2.1 fun j _ _ => hd j (by omega), (BH.stp h9 hs (hl.n (by decide) (by decide) (by decide))).val hb.2.2.2.2.2.2 fun j _ _ => hd j (by omega)⟩
/-- hours of a house are written; the limit of a zone -/
theorem C_stH (h : BR G l M ow τ a y S N) (hl : LV τ) (hg : OK S N) {k : Nat} (hk : k < nh S) {v : Int32} {κ : wM → Prop} (hQ : ∀ M1, Mv [τ 9] M ow M1 ow → BR G l M1 ow τ a y S (upd N (23 + k) v) → κ M1) : oIast G M (y 0 7) (nI k) v κ := by
  have hb := hg.b
  obtain ⟨h1, h2, h3, h4, h5, h6, h7, h8, r, h9, h10⟩ := h
  have hd : ∀ j, j ≠ 23 + k → upd N (23 + k) v j = N j := fun j hj => upd_ne _ _ hj
  refine oIast.m h9 (hl.1 9 (by decide)).1 rfl (by omega) (by decide) fun M1 e1 hs hC => hQ M1 hs ?_
  refine ⟨?_, h2.stp hs (hl.n (by decide) (by decide) (by decide)), (BP.stp h3 hs (hl.n (by decide) (by decide) (by decide)) (hl.n (by decide) (by decide) (by decide))).val hb.1 (hd 1 (by omega)) fun j _ _ => hd j (by omega), (BV.stp h4 hs (hl.n (by decide) (by decide) (by decide)) (hl.n (by decide) (by decide) (by decide))).val hb.2.1 (hd 2 (by omega)) fun j _ _ => hd j (by omega), (BC.stp h5 hs (hl.n (by decide) (by decide) (by decide))).val hb.2.2.1 (hd 3 (by omega)) fun j _ _ => hd j (by omega), (BF.stp h6 hs (hl.n (by decide) (by decide) (by decide))).val hb.2.2.2.1 (hd 4 (by omega)) fun j _ _ => hd j (by omega), (BB.stp h7 hs (hl.n (by decide) (by decide) (by decide))).val fun j _ _ => hd j (by omega), (BL.stp h8 hs (hl.n (by decide) (by decide) (by decide))).val hb.2.2.2.2.1 fun j _ _ => hd j (by omega), _, hC, fun q hq => ?_⟩
  · unfold bkC; rw [hd 0 (by omega)]; exact h1.stp hs (hl.n (by decide) (by decide) (by decide))
  · by_cases e : q = k
    · subst e; rw [upd_eq, upd_eq]
    · rw [upd_ne _ _ e, upd_ne _ _ (by omega)]; exact h10 q hq
theorem C_stL (h : BR G l M ow τ a y S N) (hl : LV τ) (hg : OK S N) {k : Nat} (hk : k < nz S) {v : Int32} {κ : wM → Prop} (hQ : ∀ M1, Mv [τ 8] M ow M1 ow → BR G l M1 ow τ a y S (upd N (5 + k) v) → κ M1) : oIast G M (y 0 6) (nI k) v κ := by
  have hb := hg.b
  obtain ⟨h1, h2, h3, h4, h5, h6, h7, ⟨r, h8, h10⟩, h9⟩ := h
  have hd : ∀ j, j ≠ 5 + k → upd N (5 + k) v j = N j := fun j hj => upd_ne _ _ hj
  refine oIast.m h8 (hl.1 8 (by decide)).1 rfl (by omega) (by decide) fun M1 e1 hs hC => hQ M1 hs ?_
  refine ⟨?_, h2.stp hs (hl.n (by decide) (by decide) (by decide)), (BP.stp h3 hs (hl.n (by decide) (by decide) (by decide)) (hl.n (by decide) (by decide) (by decide))).val hb.1 (hd 1 (by omega)) fun j _ _ => hd j (by omega), (BV.stp h4 hs (hl.n (by decide) (by decide) (by decide)) (hl.n (by decide) (by decide) (by decide))).val hb.2.1 (hd 2 (by omega)) fun j _ _ => hd j (by omega), (BC.stp h5 hs (hl.n (by decide) (by decide) (by decide))).val hb.2.2.1 (hd 3 (by omega)) fun j _ _ => hd j (by omega), (BF.stp h6 hs (hl.n (by decide) (by decide) (by decide))).val hb.2.2.2.1 (hd 4 (by omega)) fun j _ _ => hd j (by omega), (BB.stp h7 hs (hl.n (by decide) (by decide) (by decide))).val fun j _ _ => hd j (by omega), ⟨_, hC, fun q hq => ?_⟩, (BH.stp h9 hs (hl.n (by decide) (by decide) (by decide))).val hb.2.2.2.2.2.2 fun j _ _ => hd j (by omega)⟩
  · unfold bkC; rw [hd 0 (by omega)]; exact h1.stp hs (hl.n (by decide) (by decide) (by decide))
  · by_cases e : q = k
    · subst e; rw [upd_eq, upd_eq]
    · rw [upd_ne _ _ e, upd_ne _ _ (by omega)]; exact h10 q hq
theorem C_ldL (h : BR G l M ow τ a y S N) (hg : OK S N) {k : Nat} (hk : k < nz S) {κ : Int32 → Prop} (hQ : κ (N (5 + k))) : oIald .int M (y 0 6) (nI k) κ := by
  have hb := hg.b
  obtain ⟨h1, h2, h3, h4, h5, h6, h7, ⟨r, h8, h10⟩, h9⟩ := h
  exact oIald.e rfl h8.1 (by omega) (by decide) (by rw [h10 k hk]; exact hQ)
theorem C_ldH (h : BR G l M ow τ a y S N) (hg : OK S N) {k : Nat} (hk : k < nh S) {κ : Int32 → Prop} (hQ : κ (N (23 + k))) : oIald .int M (y 0 7) (nI k) κ := by
  have hb := hg.b
  obtain ⟨h1, h2, h3, h4, h5, h6, h7, h8, r, h9, h10⟩ := h
  exact oIald.e rfl h9.1 (by omega) (by decide) (by rw [h10 k hk]; exact hQ)
end COMP3B
