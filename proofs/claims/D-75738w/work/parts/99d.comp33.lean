set_option maxRecDepth 100000
/-! STAGE 2, component, reading 2: the picture of a reader; the next token -/
abbrev psC (kl su on : Nat) (p : PS) (v : Int32) (w a : Nat) : wE := .inr (4, [.ref kl, .ref su, .ref on, .int (nI p.1), .int (nI p.2.1), .int (pT p), .int v, .ref w, .ref a])
/-- owners: 20 setup, 21 reader, 22 words, 23 .. 25 zones, streets, houses, 26 .. 28 their names, 29 amounts, 30 the lists of names, 31 keywords, 32 once -/
def tQ : List Nat := [1, 20, 21, 22, 23, 24, 25, 26, 27, 28, 29, 30, 31, 32]
/-- a token, as it was read -/
def TK (B : Rw) (n : Nat) (p : PS) : Prop := PSo n p ∧ (pT p = 1 → p.2.1 < p.1 ∧ (∀ j, p.2.1 ≤ j → j < p.1 → ltB B j = true) ∧ pW p = wordF B p.2.1 p.1)
theorem nextP_tk {B : Rw} {n : Nat} {p : PS} (h1 : p.1 ≤ n) : TK B n (nextP B n p) := by
  refine ⟨nextP_o h1, ?_⟩
  obtain ⟨q1, q2, q3, q4⟩ := runE_sp (wsB B) n _ p.1 rfl h1
  unfold nextP
  generalize runE (wsB B) n p.1 = a at *
  split
  · intro e; exact absurd (show (0 : Int32) = 1 from e) (by decide)
  · split
    · rename_i c1 c2
      have e : runE (ltB B) n a = runE (ltB B) n (a + 1) := runE_y (by omega) c2
      obtain ⟨r1, r2, r3, r4⟩ := runE_sp (ltB B) n _ a rfl q2
      obtain ⟨s1, -⟩ := runE_sp (ltB B) n _ (a + 1) rfl (by omega)
      intro _
      refine ⟨?_, r3, rfl⟩
      show a < runE (ltB B) n a
      rw [e]; omega
    · split
      · intro e
        exfalso
        change (if _ then (2 : Int32) else 4) = 1 at e
        split at e <;> exact absurd e (by decide)
      · intro e
        exfalso
        change (if _ then (3 : Int32) else 4) = 1 at e
        split at e <;> exact absurd e (by decide)
/-- the word of a token: a fresh one, one that may have been asked -/
def WR0 (G : wG) (M : wM) (ow : Nat → Nat) (B : Rw) (p : PS) (w : Nat) : Prop := (pT p = 1 → ∃ r, STf G M ow 22 w (p.1 - p.2.1) r ∧ ∀ j, j < p.1 - p.2.1 → r j = B (p.2.1 + j)) ∧ (pT p ≠ 1 → w = G.2.2.2 26)
def WRf (G : wG) (M : wM) (ow : Nat → Nat) (B : Rw) (p : PS) (w : Nat) (z : Prop) : Prop := (pT p = 1 → ∃ r, STf G M ow 22 w (p.1 - p.2.1) r ∧ ∀ j, j < p.1 - p.2.1 → r j = B (p.2.1 + j)) ∧ (pT p ≠ 1 → w = G.2.2.2 26) ∧ z
def WRD (G : wG) (M : wM) (ow : Nat → Nat) (B : Rw) (p : PS) (w : Nat) (z : Prop) : Prop := (pT p = 1 → ∃ r, STR G M ow 22 w (p.1 - p.2.1) r ∧ ∀ j, j < p.1 - p.2.1 → r j = B (p.2.1 + j)) ∧ (pT p ≠ 1 → w = G.2.2.2 26) ∧ z
/-- what lies around a reader: office, buffer, keywords -/
def PEV (G : wG) (M : wM) (ow : Nat → Nat) (a n : Nat) (B : Rw) (kl : Nat) : Prop :=
  (∃ bk sv dq bf ec eo sb, Cl G M ow 2 a (ofC bk sv dq bf n ec eo sb) ∧ CB G M ow bf n B) ∧
  (∀ k, k < 16 → STR G M ow 0 (G.2.2.2 (10 + k)) (wln k) (kwR k)) ∧
  (∃ v r, Cl G M ow 0 (G.2.2.2 26) (.inr (24, [.ref v, .int 0, .int 0, .int 1])) ∧ Cl G M ow 0 v (.inl (.byte, 0, .inl r))) ∧
  ∃ ka g, Cl G M ow 31 kl (.inr (26, [.ref ka, .int 0])) ∧ Cl G M ow 31 ka (oarr 16 g) ∧ ∀ k, k < 16 → g k = some (G.2.2.2 (10 + k))
def NMP (G : wG) (M : wM) (ow : Nat → Nat) (a : Nat) (cc : Nat → Nat) (ll : Nat → Nat → Int64) : Prop := ∃ (gl : Nat → Nat) (gs : Nat → Nat → Nat), ALe G M ow 30 a 3 gl ∧ ∀ c, c < 3 → ALe G M ow (26 + c) (gl c) (cc c) (gs c) ∧ ∀ j, j < cc c → NMS G M ow 22 (gs c j) (ll c j)
/-- a setup that is being read -/
def SRP (G : wG) (ll : Nat → Nat → Int64) (M : wM) (ow : Nat → Nat) (a : Nat) (y : Nat → Nat → Nat) (D : Rw) (cc : Nat → Nat) : Prop :=
  Cl G M ow 20 a (suC D y) ∧
  (ALe G M ow 23 (y 9 0) (nz D) (y 6) ∧ ∀ z, z < nz D → Cl G M ow 0 (y 6 z) (ZnC D z)) ∧
  (ALe G M ow 24 (y 9 1) (ns D) (y 7) ∧ ∀ s, s < ns D → Cl G M ow 0 (y 7 s) (StC D s)) ∧
  (ALe G M ow 25 (y 9 2) (nh D) (y 8) ∧ ∀ h, h < nh D → Cl G M ow (100 + h) (y 8 h) (HsC D h)) ∧
  (∃ r, Cl G M ow 29 (y 9 4) (.inl (.int, 7, .inl r)) ∧ r 0 = 0 ∧ ∀ k, 1 ≤ k → k ≤ 6 → r k = D (113 + k)) ∧
  NMP G M ow (y 9 3) cc ll
/-- what was said once -/
def ONC (w : Int64) (D : Rw) : Prop := (∀ j, j < 3 → (bitG w (10 + j) = true ↔ ¬ D (120 + j) = 0)) ∧ ∀ r, 1 ≤ r → r ≤ 6 → (bitG w r = true ↔ ¬ D (122 + r) = 0)
def PSX (G : wG) (M : wM) (ow : Nat → Nat) (a n : Nat) (B : Rw) (t kl su on w : Nat) (y : Nat → Nat → Nat) (p : PS) (D : Rw) (l : Nat → Nat → Int64) (cc : Nat → Nat) : Prop :=
  TK B n p ∧ (∃ v, Cl G M ow 21 t (psC kl su on p v w a) ∧ (pT p = 2 → v = pV p)) ∧ PEV G M ow a n B kl ∧ (∃ bw, BS G M ow 32 on bw ∧ ONC bw D) ∧ SRP G (fun c => l (23 + c)) M ow su y D cc
/-- a reader -/
def PST (G : wG) (M : wM) (ow : Nat → Nat) (a n : Nat) (B : Rw) (t : Nat) (u : Nat × (Nat → Nat)) (p : PS) (D : Rw) (l : Nat → Nat → Int64) (cc : Nat → Nat) : Prop :=
  ∃ kl su on w y, PSX G M ow a n B t kl su on w y p D l cc ∧ WRD G M ow B p w (u = (su, y 9))
def PSTf (G : wG) (M : wM) (ow : Nat → Nat) (a n : Nat) (B : Rw) (t : Nat) (u : Nat × (Nat → Nat)) (p : PS) (D : Rw) (l : Nat → Nat → Int64) (cc : Nat → Nat) : Prop :=
  ∃ kl su on w y, PSX G M ow a n B t kl su on w y p D l cc ∧ WRf G M ow B p w (u = (su, y 9))
section C33
variable {G : wG} {M M1 : wM} {ow ow1 : Nat → Nat} {T : List Nat} {a n t kl su on w : Nat} {u : Nat × (Nat → Nat)} {z : Prop} {B : Rw} {p : PS} {y : Nat → Nat → Nat} {D : Rw} {l : Nat → Nat → Int64} {cc : Nat → Nat}
theorem WRf.s (h : WRf G M ow B p w z) : WRD G M ow B p w z := ⟨fun e => by obtain ⟨r, h1, h2⟩ := h.1 e; exact ⟨r, h1.s, h2⟩, h.2⟩
theorem PSTf.s (h : PSTf G M ow a n B t u p D l cc) : PST G M ow a n B t u p D l cc := by
  obtain ⟨kl, su, on, w, y, h1, h2⟩ := h; exact ⟨kl, su, on, w, y, h1, h2.s⟩
theorem WRD.stp (h : WRD G M ow B p w z) (hs : Mv T M ow M1 ow1) (h22 : 22 ∉ T) : WRD G M1 ow1 B p w z := ⟨fun e => by obtain ⟨r, h1, h2⟩ := h.1 e; exact ⟨r, h1.stp hs h22, h2⟩, h.2⟩
theorem PEV.stp (h : PEV G M ow a n B kl) (hs : Mv T M ow M1 ow1) (h2 : 2 ∉ T) (h4 : 4 ∉ T) (h31 : 31 ∉ T) : PEV G M1 ow1 a n B kl := by
  obtain ⟨⟨bk, sv, dq, bf, ec, eo, sb, e1, e2, r, e3, e4⟩, k1, ⟨v, r2, e5, e6⟩, ka, g, e7, e8, e9⟩ := h
  exact ⟨⟨bk, sv, dq, bf, ec, eo, sb, e1.stp hs h2, e2, r, e3.stp hs h4, e4⟩, fun k hk => (k1 k hk).stp hs hs.1, ⟨v, r2, e5.stp hs hs.1, e6.stp hs hs.1⟩, ka, g, e7.stp hs h31, e8.stp hs h31, e9⟩
theorem NMP.stp {ll : Nat → Nat → Int64} {x : Nat} (h : NMP G M ow x cc ll) (hs : Mv T M ow M1 ow1) (hT : ∀ k, (22 ≤ k ∧ k ≤ 30) ∨ k = 20 ∨ 100 ≤ k → k ∉ T) : NMP G M1 ow1 x cc ll := by
  obtain ⟨gl, gs, h1, h2⟩ := h
  exact ⟨gl, gs, h1.stp hs (hT 30 (by decide)), fun c hc => ⟨(h2 c hc).1.stp hs (hT (26 + c) (.inl (by omega))), fun j hj => ((h2 c hc).2 j hj).stp hs (hT 22 (by decide))⟩⟩
theorem SRP.stp {ll : Nat → Nat → Int64} (h : SRP G ll M ow su y D cc) (hs : Mv T M ow M1 ow1) (hT : ∀ k, (22 ≤ k ∧ k ≤ 30) ∨ k = 20 ∨ 100 ≤ k → k ∉ T) : SRP G ll M1 ow1 su y D cc := by
  obtain ⟨h1, ⟨h2, h3⟩, ⟨h4, h5⟩, ⟨h6, h7⟩, ⟨r, h8, h9⟩, h10⟩ := h
  exact ⟨h1.stp hs (hT 20 (by decide)), ⟨h2.stp hs (hT 23 (by decide)), fun z hz => (h3 z hz).stp hs hs.1⟩, ⟨h4.stp hs (hT 24 (by decide)), fun z hz => (h5 z hz).stp hs hs.1⟩, ⟨h6.stp hs (hT 25 (by decide)), fun z hz => (h7 z hz).stp hs (hT _ (.inr (.inr (by omega))))⟩, ⟨r, h8.stp hs (hT 29 (by decide)), h9⟩, h10.stp hs hT⟩
theorem PEV.n9 (h : PEV G M ow a n B kl) : n ≤ 900 := by obtain ⟨⟨bk, sv, dq, bf, ec, eo, sb, e1, e2, -⟩, -⟩ := h; exact e2
theorem S_byteAt (h : PEV G M ow a n B kl) {k : Nat} (hk : k ≤ 900) {fs : List Value} (ht : M t = some (.inr (4, fs))) (h8 : fs[8]? = some (.ref a)) {Q : Int32 → wM → Prop} (hQ : Q (hereB B n k) M) : P_X5_byteAt G t (nI k) M Q := by
  obtain ⟨⟨bk, sv, dq, bf, ec, eo, sb, e1, e2, r, e3, e4⟩, -⟩ := h
  unfold hereB at hQ
  refine oGetA.i ht h8 (oGetI.i e1.1 rfl ?_)
  by_cases c : k < n
  · rw [if_pos c] at hQ
    refine oIf.n (nI_ge c (by omega)) (oGetA.i ht h8 (oGetA.i e1.1 rfl (oIald.e rfl e3.1 (by omega) (by decide) ?_)))
    rw [e4 k c]; exact hQ
  · rw [if_neg c] at hQ
    exact oIf.y (nI_le (by omega) (by omega)) hQ
/-- what a step of the reader alone leaves -/
theorem RST.st (h1 : PEV G M ow a n B kl) (h2 : ∃ bw, BS G M ow 32 on bw ∧ ONC bw D) (h4 : SRP G (fun c => l (23 + c)) M ow su y D cc) (hs : Mv [1, 21] M ow M1 ow1) : PEV G M1 ow1 a n B kl ∧ (∃ bw, BS G M1 ow1 32 on bw ∧ ONC bw D) ∧ SRP G (fun c => l (23 + c)) M1 ow1 su y D cc := by
  obtain ⟨bw, h2, h3⟩ := h2
  exact ⟨h1.stp hs (by decide) (by decide) (by decide), ⟨bw, h2.stp hs (by decide), h3⟩, h4.stp hs fun k h1 => by simp; omega⟩
abbrev pcC (kl su on k s : Nat) (kd v : Int32) (w a : Nat) : wE := .inr (4, [.ref kl, .ref su, .ref on, .int (nI k), .int (nI s), .int kd, .int v, .ref w, .ref a])
theorem bytB (hB : BYT B) (k : Nat) : bytF (chF (B k)) = B k ∧ ¬ (255 : Int32) < chF (B k) := by
  obtain ⟨d, hd, e⟩ := hB k
  rw [e]
  exact ⟨(bv_ok d hd).1, (bv_ok d hd).2.1⟩
theorem C_adv (h : PST G M ow a n B t u p D l cc) (hB : BYT B) {b : Nat} (hb : 29 * ((nextP B n p).1 - p.1) ≤ b) {Q : wM → Prop} (hQ : ∀ M1 ow1, Mv tQ M ow M1 ow1 → PSTf G M1 ow1 a n B t u (nextP B n p) D l cc → Q M1) : P_X5_advance G t b M Q := by
  obtain ⟨kl, su, on, w0, y, ⟨⟨⟨hp1, hp2⟩, -⟩, ⟨v0, hC, -⟩, hE, hO, hS⟩, hW0⟩ := h
  have hn := hE.n9
  have fin : ∀ (p1 : PS) (v : Int32) (w : Nat) (M1 : wM) (ow1 : Nat → Nat), p1 = nextP B n p → Mv [1, 21] M ow M1 ow1 → Cl G M1 ow1 21 t (psC kl su on p1 v w a) → (pT p1 = 2 → v = pV p1) → WR0 G M1 ow1 B p1 w → Q M1 := fun p1 v w M1 ow1 e hs h1 h2 h3 => by
    subst e
    obtain ⟨g1, g2, g3⟩ := RST.st hE hO hS hs
    exact hQ M1 ow1 (hs.mono (by decide) (by decide)) ⟨kl, su, on, w, y, ⟨nextP_tk hp1, ⟨v, h1, h2⟩, g1, g2, g3⟩, h3.1, h3.2, hW0.2.2⟩
  clear hQ
  obtain ⟨a0, b0, k0, x0, z0, c0, o0⟩ := p
  have hp1 : a0 ≤ n := hp1
  have hC : Cl G M ow 21 t (pcC kl su on a0 b0 k0 v0 w0 a) := hC
  obtain ⟨q1, q2, q3, q4⟩ := runE_sp (wsB B) n _ a0 rfl hp1
  unfold nextP at fin hb
  dsimp only at fin hb
  generalize ea : runE (wsB B) n a0 = a1 at *
  have T21 : (21 : Nat) ≠ 0 := by decide
  have up : ∀ {M1 M2 : wM} {ow1 : Nat → Nat}, Mv [21] M1 ow1 M2 ow1 → Mv [1, 21] M1 ow1 M2 ow1 := fun h => h.mono (by decide) (by decide)
  have key := st_loopP (F := fun n' k => ∀ M2, Mv [1, 21] M ow M2 ow → Cl G M2 ow 21 t (pcC kl su on k b0 k0 v0 w0 a) → L_X5_advance_0 G Q n' t M2 b) (P := fun k => a0 ≤ k) (N := a1) (fun n' hk M2 hs2 h2 => ?_) (fun n' k hk hk0 ih M2 hs2 h2 => ?_) a0 q1 (Nat.le_refl _)
  · obtain ⟨n', hn'⟩ := key
    exact ⟨n', hn' M (Mv.rf (by decide)) hC⟩
  · unfold L_X5_advance_0; unfold B_X5_advance_0
    have E2 := (RST.st hE hO hS hs2).1
    have hh : hereB B n a1 ≠ 32 ∧ hereB B n a1 ≠ 10 := by
      unfold hereB
      by_cases c : a1 < n
      · have := q4 c
        unfold wsB at this
        simp only [Bool.or_eq_false_iff, decide_eq_false_iff_not] at this
        rw [if_pos c]; exact this
      · rw [if_neg c]; exact ⟨by decide, by decide⟩
    refine oGetI.i h2.1 rfl (oIs.i h2.1 (S_byteAt E2 (by omega) h2.1 rfl (oIf.n hh.1 (oGetI.i h2.1 rfl (oIs.i h2.1 (S_byteAt E2 (by omega) h2.1 rfl (oIf.n hh.2 (oGetI.i h2.1 rfl ?_))))))))
    refine oPut.m h2 T21 (Nat.le_of_ble_eq_true rfl) (fs1 := [.ref kl, .ref su, .ref on, .int (nI a1), .int (nI a1), .int k0, .int v0, .ref w0, .ref a]) rfl fun M3 e3 hs3 h3 => ?_
    have s3 := hs2.tr (up hs3)
    have E3 := (RST.st hE hO hS s3).1
    refine oGetI.i h3.1 rfl (oIs.i h3.1 (S_byteAt E3 (by omega) h3.1 rfl ?_))
    refine oPut.m h3 T21 (Nat.le_of_ble_eq_true rfl) (fs1 := [.ref kl, .ref su, .ref on, .int (nI a1), .int (nI a1), .int k0, .int v0, .ref (G.2.2.2 26), .ref a]) rfl fun M4 e4 hs4 h4 => ?_
    refine oPut.m h4 T21 (Nat.le_of_ble_eq_true rfl) (fs1 := [.ref kl, .ref su, .ref on, .int (nI a1), .int (nI a1), .int k0, .int 0, .ref (G.2.2.2 26), .ref a]) rfl fun M5 e5 hs5 h5 => ?_
    have s5 := (s3.tr (up hs4)).tr (up hs5)
    have E5 := (RST.st hE hO hS s5).1
    by_cases c : n ≤ a1
    · rw [if_pos c] at fin
      refine oIf.y (by unfold hereB; rw [if_neg (by omega)]) ?_
      refine oPut.m h5 T21 (Nat.le_of_ble_eq_true rfl) (fs1 := [.ref kl, .ref su, .ref on, .int (nI a1), .int (nI a1), .int 0, .int 0, .ref (G.2.2.2 26), .ref a]) rfl fun M6 e6 hs6 h6 => ?_
      exact fin (a1, a1, 0, x0, z0, c0, o0) 0 _ M6 ow rfl (s5.tr (up hs6)) h6 (fun e => absurd (show (0 : Int32) = 2 from e) (by decide)) ⟨fun e => absurd (show (0 : Int32) = 1 from e) (by decide), fun _ => rfl⟩
    · rw [if_neg c] at fin hb
      have e1 : hereB B n a1 = chB B a1 := by unfold hereB; rw [if_pos (by omega)]
      rw [e1]
      refine oIf.n (chB_pos B a1) (S_inR (bl _ (fun cl => ?_) (fun cl => ?_)))
      · rw [if_pos (show ltB B a1 = true from cl)] at fin hb
        have ee : runE (ltB B) n a1 = runE (ltB B) n (a1 + 1) := runE_y (by omega) cl
        obtain ⟨r1, r2, r3, r4⟩ := runE_sp (ltB B) n _ a1 rfl q2
        obtain ⟨t1, -⟩ := runE_sp (ltB B) n _ (a1 + 1) rfl (by omega)
        rw [← ee] at t1
        generalize runE (ltB B) n a1 = e at *
        have hb : 29 * (e - a0) ≤ b := hb
        obtain ⟨F0, f1, f2, f3⟩ : ∃ F0, 16 ≤ F0 ∧ 2 * (e - a1) ≤ F0 ∧ (F0 = 16 ∨ F0 = 2 * (e - a1)) := by
          rcases Nat.le_total 16 (2 * (e - a1)) with z | z
          · exact ⟨_, z, Nat.le_refl _, .inr rfl⟩
          · exact ⟨16, Nat.le_refl _, z, .inl rfl⟩
        refine ⟨by simp; omega, fun q hq hz => ⟨17, by simp; omega, S_sbinit (ow := ow) hq hz (τ := 1) (by decide) fun M6 ow6 hs6 ho6 hsb => ?_⟩⟩
        have hs6' : Mv [1, 21] M5 ow M6 ow6 := hs6.mono (by simp) (by decide)
        have key2 := st_loopP (F := fun n' k => ∀ M7 ow7 cap b', Mv [1, 21] M ow M7 ow7 → Cl G M7 ow7 21 t (pcC kl su on k a1 k0 0 (G.2.2.2 26) a) → SBc G M7 ow7 1 q (k - a1) (fun j => B (a1 + j)) cap → cap ≤ F0 → 2 * F0 + (e - a1) + 6 ≤ b' + 2 * cap → L_X5_advance_99 G Q n' t q M7 b') (P := fun k => a1 ≤ k) (N := e) (fun n' hk M7 ow7 cap b' hs7 h7 hS7 hF hb7 => ?_) (fun n' k hk hk0 ih M7 ow7 cap b' hs7 h7 hS7 hF hb7 => ?_) a1 r1 (Nat.le_refl _)
        · obtain ⟨n2, hn2⟩ := key2
          exact ⟨n2, hn2 M6 ow6 16 _ (s5.tr hs6') (h5.stp hs6 (by simp)) (by rw [Nat.sub_self]; exact hsb _) f1 (by simp; omega)⟩
        · unfold L_X5_advance_99; unfold B_X5_advance_99
          have E7 := (RST.st hE hO hS hs7).1
          refine oGetI.i h7.1 rfl (oIs.i h7.1 (S_byteAt E7 (by omega) h7.1 rfl (S_inR ?_)))
          have e2 : inR (hereB B n e) 97 122 = false := by
            unfold hereB
            by_cases c2 : e < n
            · rw [if_pos c2]; exact r4 c2
            · rw [if_neg c2]; decide
          rw [e2]
          have hcb := hS7.b
          refine oIf.n (by decide) (hS7.is ⟨(e - a1) + 6, by omega, S_sbStrF hS7 (σ := 22) (by decide) (Nat.le_refl _) fun q2 M8 ow8 r8 hq2 hs8 hst hr8 => ?_⟩)
          have h8 := h7.stp hs8 (by simp)
          refine oPut.m h8 T21 (Nat.le_of_ble_eq_true rfl) (fs1 := [.ref kl, .ref su, .ref on, .int (nI e), .int (nI a1), .int k0, .int 0, .ref q2, .ref a]) rfl fun M9 e9 hs9 h9 => ?_
          refine oPut.m h9 T21 (Nat.le_of_ble_eq_true rfl) (fs1 := [.ref kl, .ref su, .ref on, .int (nI e), .int (nI a1), .int 1, .int 0, .ref q2, .ref a]) rfl fun M10 e10 hs10 h10 => ?_
          refine fin (e, a1, 1, wordF B a1 e, z0, c0, o0) 0 q2 M10 ow8 rfl (((hs7.tr (hs8.mono (by simp) (by decide))).tr (up hs9)).tr (up hs10)) h10 (fun e => absurd (show (1 : Int32) = 2 from e) (by decide)) ⟨fun _ => ⟨r8, (hst.stp hs9 (by decide)).stp hs10 (by decide), hr8⟩, fun e => absurd (show (1 : Int32) = 1 from rfl) e⟩
        · unfold L_X5_advance_99; unfold B_X5_advance_99
          have E7 := (RST.st hE hO hS hs7).1
          have e1k : hereB B n k = chB B k := by unfold hereB; rw [if_pos (by omega)]
          have e2 : inR (chB B k) 97 122 = true := r3 k hk0 hk
          refine oGetI.i h7.1 rfl (oIs.i h7.1 (S_byteAt E7 (by omega) h7.1 rfl (S_inR ?_)))
          rw [e1k, e2]
          refine oIf.y rfl (oGetI.i h7.1 rfl (oIs.i h7.1 (S_byteAt E7 (by omega) h7.1 rfl (hS7.is ?_))))
          rw [e1k]
          have hcb := hS7.b
          obtain ⟨k1, k2, k3, k4⟩ := cap_ok (cap := cap) (k := k - a1 + 1) (by omega)
          refine ⟨cstF cap (k - a1 + 1), by omega, S_sbC hS7 (by decide) (p := chF (B k)) (bytB hB k).2 (by omega) (Nat.le_refl _) fun M8 ow8 hs8 hS8 => ?_⟩
          have eu : upd (fun j => B (a1 + j)) (k - a1) (bytF (chF (B k))) = fun j => B (a1 + j) := by
            rw [(bytB hB k).1]
            have := upd_id (fun j => B (a1 + j)) (k - a1)
            rwa [show a1 + (k - a1) = k by omega] at this
          rw [eu, show k - a1 + 1 = k + 1 - a1 by omega] at hS8
          have h8 := h7.stp hs8 (by decide)
          refine oGetI.i h8.1 rfl (oPut.m h8 T21 (Nat.le_of_ble_eq_true rfl) (fs1 := [.ref kl, .ref su, .ref on, .int (nI (k + 1)), .int (nI a1), .int k0, .int 0, .ref (G.2.2.2 26), .ref a]) (by rw [nI_1]; rfl) fun M9 e9 hs9 h9 => ?_)
          rw [show k - a1 + 1 = k + 1 - a1 by omega] at k1 k2 k3 k4 ⊢
          exact ih (by omega) M9 ow8 _ _ ((hs7.tr (hs8.mono (by simp) (by decide))).tr (up hs9)) h9 (hS8.stp hs9 (by decide)) (by omega) (by omega)
      · rw [if_neg (by rw [show ltB B a1 = false from cl]; decide)] at fin hb
        refine S_inR (bl _ (fun cd => ?_) (fun cd => ?_))
        · rw [if_pos (show dgB B a1 = true from cd)] at fin
          obtain ⟨r1, r2, r3, r4⟩ := runE_sp (dgB B) n _ a1 rfl q2
          generalize runE (dgB B) n a1 = e at *
          have key2 := st_loopP (F := fun n' k => ∀ M7, Mv [1, 21] M ow M7 ow → Cl G M7 ow 21 t (pcC kl su on k a1 k0 (valB B a1 (k - a1)) (G.2.2.2 26) a) → L_X5_advance_171 G Q n' t M7 b) (P := fun k => a1 ≤ k) (N := e) (fun n' hk M7 hs7 h7 => ?_) (fun n' k hk hk0 ih M7 hs7 h7 => ?_) a1 r1 (Nat.le_refl _)
          · obtain ⟨n2, hn2⟩ := key2
            exact ⟨n2, hn2 M5 s5 (by rw [Nat.sub_self]; exact h5)⟩
          · unfold L_X5_advance_171; unfold B_X5_advance_171
            have E7 := (RST.st hE hO hS hs7).1
            refine oGetI.i h7.1 rfl (oIs.i h7.1 (S_byteAt E7 (by omega) h7.1 rfl (S_inR ?_)))
            have e2 : inR (hereB B n e) 48 57 = false := by
              unfold hereB
              by_cases c2 : e < n
              · rw [if_pos c2]; exact r4 c2
              · rw [if_neg c2]; decide
            rw [e2]
            refine oIf.n (by decide) (oGetI.i h7.1 rfl (oGetI.i h7.1 rfl ?_))
            rw [nI_sub r1]
            have go : ∀ kd, kd = (if e - a1 ≤ 3 then 2 else 4 : Int32) → B_X5_advance_257 G Q kd t M7 b := fun kd ek => by
              unfold B_X5_advance_257
              refine oPut.m h7 T21 (Nat.le_of_ble_eq_true rfl) (fs1 := [.ref kl, .ref su, .ref on, .int (nI e), .int (nI a1), .int kd, .int (valB B a1 (e - a1)), .ref (G.2.2.2 26), .ref a]) rfl fun M8 e8 hs8 h8 => ?_
              rw [← ek] at fin
              refine fin (e, a1, kd, x0, valB B a1 (e - a1), c0, o0) _ _ M8 ow rfl (hs7.tr (up hs8)) h8 (fun _ => rfl) ⟨fun z => ?_, fun _ => rfl⟩
              have z : kd = 1 := z
              exfalso
              rw [z] at ek
              split at ek <;> exact absurd ek (by decide)
            by_cases c3 : e - a1 ≤ 3
            · exact oIf.y (nI_le (b := 3) c3 (by decide)) (go 2 (by rw [if_pos c3]))
            · exact oIf.n (nI_ge (a := 3) (by omega) (by omega)) (go 4 (by rw [if_neg c3]))
          · unfold L_X5_advance_171; unfold B_X5_advance_171
            have E7 := (RST.st hE hO hS hs7).1
            have e1k : hereB B n k = chB B k := by unfold hereB; rw [if_pos (by omega)]
            have e2 : inR (chB B k) 48 57 = true := r3 k hk0 hk
            refine oGetI.i h7.1 rfl (oIs.i h7.1 (S_byteAt E7 (by omega) h7.1 rfl (S_inR ?_)))
            rw [e1k, e2]
            refine oIf.y rfl (oGetI.i h7.1 rfl (oGetI.i h7.1 rfl ?_))
            rw [nI_sub hk0]
            have ev : valB B a1 (k + 1 - a1) = if k - a1 < 3 then (10 * valB B a1 (k - a1) + chB B (a1 + (k - a1))) - 48 else valB B a1 (k - a1) := by
              rw [show k + 1 - a1 = (k - a1) + 1 by omega]; rfl
            rw [show a1 + (k - a1) = k by omega] at ev
            have go : ∀ M8, Mv [1, 21] M ow M8 ow → Cl G M8 ow 21 t (pcC kl su on k a1 k0 (valB B a1 (k + 1 - a1)) (G.2.2.2 26) a) → B_X5_advance_225 G (L_X5_advance_171 G Q n') Q t M8 b := fun M8 hs8 h8 => by
              refine oGetI.i h8.1 rfl (oPut.m h8 T21 (Nat.le_of_ble_eq_true rfl) (fs1 := [.ref kl, .ref su, .ref on, .int (nI (k + 1)), .int (nI a1), .int k0, .int (valB B a1 (k + 1 - a1)), .ref (G.2.2.2 26), .ref a]) (by rw [nI_1]; rfl) fun M9 e9 hs9 h9 => ?_)
              exact ih (by omega) M9 (hs8.tr (up hs9)) h9
            by_cases c3 : k - a1 < 3
            · rw [if_pos c3] at ev
              refine oIf.n (nI_ge (b := 3) c3 (by decide)) (oGetI.i h7.1 rfl (oGetI.i h7.1 rfl (oIs.i h7.1 (S_byteAt E7 (by omega) h7.1 rfl ?_))))
              rw [e1k]
              refine oPut.m h7 T21 (Nat.le_of_ble_eq_true rfl) (fs1 := [.ref kl, .ref su, .ref on, .int (nI k), .int (nI a1), .int k0, .int (valB B a1 (k + 1 - a1)), .ref (G.2.2.2 26), .ref a]) (by rw [ev]; rfl) fun M8 e8 hs8 h8 => go M8 (hs7.tr (up hs8)) h8
            · rw [if_neg c3] at ev
              refine oIf.y (nI_le (a := 3) (by omega) (by omega)) (go M7 hs7 ?_)
              rw [ev]; exact h7
        · rw [if_neg (by rw [show dgB B a1 = false from cd]; decide)] at fin
          have go : ∀ kd, kd = (if chB B a1 = 59 then 3 else 4 : Int32) → B_X5_advance_275 G Q t kd t M5 b := fun kd ek => by
            unfold B_X5_advance_275
            refine oPut.m h5 T21 (Nat.le_of_ble_eq_true rfl) (fs1 := [.ref kl, .ref su, .ref on, .int (nI a1), .int (nI a1), .int kd, .int 0, .ref (G.2.2.2 26), .ref a]) rfl fun M6 e6 hs6 h6 => ?_
            refine oGetI.i h6.1 rfl (oPut.m h6 T21 (Nat.le_of_ble_eq_true rfl) (fs1 := [.ref kl, .ref su, .ref on, .int (nI (a1 + 1)), .int (nI a1), .int kd, .int 0, .ref (G.2.2.2 26), .ref a]) (by rw [nI_1]; rfl) fun M7 e7 hs7 h7 => ?_)
            rw [← ek] at fin
            have ne : ∀ z : Int32, z ≠ 3 → z ≠ 4 → kd ≠ z := fun z z1 z2 ez => by
              rw [ez] at ek
              split at ek
              · exact z1 ek
              · exact z2 ek
            exact fin (a1 + 1, a1, kd, x0, z0, c0, o0) 0 _ M7 ow rfl ((s5.tr (up hs6)).tr (up hs7)) h7 (fun z => absurd z (ne 2 (by decide) (by decide))) ⟨fun z => absurd z (ne 1 (by decide) (by decide)), fun _ => rfl⟩
          refine oIf.c (fun c5 => go 3 (by rw [if_pos c5])) (fun c5 => go 4 (by rw [if_neg c5]))
  · unfold L_X5_advance_0; unfold B_X5_advance_0
    have E2 := (RST.st hE hO hS hs2).1
    have e1k : hereB B n k = chB B k := by unfold hereB; rw [if_pos (by omega)]
    have hwk := q3 k hk0 hk
    have go : B_X5_advance_26 G (L_X5_advance_0 G Q n') Q t M2 b := by
      refine oGetI.i h2.1 rfl (oPut.m h2 T21 (Nat.le_of_ble_eq_true rfl) (fs1 := [.ref kl, .ref su, .ref on, .int (nI (k + 1)), .int (nI b0), .int k0, .int v0, .ref w0, .ref a]) (by rw [nI_1]; rfl) fun M3 e3 hs3 h3 => ?_)
      exact ih (by omega) M3 (hs2.tr (up hs3)) h3
    refine oGetI.i h2.1 rfl (oIs.i h2.1 (S_byteAt E2 (by omega) h2.1 rfl ?_))
    rw [e1k]
    refine oIf.c (fun _ => go) (fun c => oGetI.i h2.1 rfl (oIs.i h2.1 (S_byteAt E2 (by omega) h2.1 rfl ?_)))
    rw [e1k]
    refine oIf.y ?_ go
    unfold wsB at hwk
    simp only [Bool.or_eq_true, decide_eq_true_eq] at hwk
    rcases hwk with x | x
    · exact absurd x c
    · exact x
end C33
