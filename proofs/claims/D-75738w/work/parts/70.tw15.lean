set_option maxRecDepth 100000
/-! STAGE 2, the twin: parse, find -/
theorem nI_any (x : Int32) : ∃ k, x = nI k := ⟨x.toBitVec.toNat, by apply Int32.toBitVec_inj.mp; simp [nI]⟩
theorem pI_any (i : Rw) : ∃ a b, i = pI i (a, b, i 18, i 19, i 20, i 21, i 22) := by
  obtain ⟨a, ha⟩ := nI_any (i 16)
  obtain ⟨b, hb⟩ := nI_any (i 17)
  refine ⟨a, b, ?_⟩
  funext j
  unfold pI
  split
  · rename_i e; rw [e]; exact ha
  split
  · rename_i e; rw [e]; exact hb
  split
  · rename_i e; rw [e]
  split
  · rename_i e; rw [e]
  split
  · rename_i e; rw [e]
  split
  · rename_i e; rw [e]
  split
  · rename_i e; rw [e]
  · rfl
theorem pI_i (i : Rw) (p : PS) {k : Nat} (x : Int32) (hk : k < 16 ∨ 22 < k) : upd (pI i p) k x = pI (upd i k x) p := by
  funext j; simp only [upd, pI]
  by_cases e : j = k
  · subst e
    rw [if_pos rfl, if_neg (by omega), if_neg (by omega), if_neg (by omega), if_neg (by omega), if_neg (by omega), if_neg (by omega), if_neg (by omega), if_pos rfl]
  · rw [if_neg e, if_neg e]
theorem nextP_b (B : Rw) (n a b : Nat) (k k2 : Int32) (r : Int32 × Int32 × Int32 × Int32) (b2 : Nat) : nextP B n (a, b, k, r) = nextP B n (a, b2, k2, r) := by unfold nextP; dsimp only
section TW15
variable {G : wG} {M0 M : wM} {t : Nat} {f : Nat → Nat} {i S D N A T V H : Nat → Int32} {l : Nat → Nat → Int64} {B O : Nat → Int32} {p : PS} {n : Nat}
def startI (i : Rw) (n : Nat) : Rw := upd (upd i 15 (nI n)) 14 0
theorem startI_15 (i : Rw) (n : Nat) : startI i n 15 = nI n := rfl
theorem S_startsReading (h : TW G M0 M t f (pI i p) S D N A T V H l B O) (hw : WW G M0) (hn : n ≤ 900) (e14 : i 14 = nI n) {Q : wM → Prop} (hQ : ∀ M1, TW G M0 M1 t f (pI (startI i n) (nextP B n (0, 0, 0, p.2.2.2))) S D N A T V H l B O → Q M1) : P_X4_startsReading G t M Q := by
  obtain ⟨a, b, k, w, v, c, o⟩ := p
  refine oGetI.i h.obj rfl (pt_15 h fun M1 h1 => pt_14 h1 fun M2 h2 => pt_16 h2 fun M3 h3 => ?_)
  have h3' : TW G M0 M3 t f (upd (upd (upd (pI i (a, b, k, w, v, c, o)) 15 (i 14)) 14 0) 16 (nI 0)) S D N A T V H l B O := h3
  rw [pI_i _ _ _ (by decide), pI_i _ _ _ (by decide), pI_16, e14] at h3'
  refine oIs.i h3'.obj (S_next (i := startI i n) h3' hw hn (startI_15 i n) (Nat.zero_le _) fun M4 h4 => hQ M4 ?_)
  rw [nextP_b B n 0 0 0 k (w, v, c, o) b]
  exact h4
theorem S_parse (h : TW G M0 M t f i S D N A T V H l B O) (hw : WW G M0) (hn : n ≤ 900) (e14 : i 14 = nI n) (hD : OKS (clrD D)) (hR : RG (clrD D)) {Q : Int32 → wM → Prop} (hQ : ∀ x, x = readX B n (n + 1) (nextP B n (0, 0, 0, i 19, i 20, 0, -1), clrD D, l) → (pC x.1 ≠ 0 ∨ pT x.1 = 0) → OKS x.2.1 → RG x.2.1 →
    (pC x.1 = 0 → ∀ M1, TW G M0 M1 t f (upd (upd (pI (startI (upd i 0 0) n) x.1) 8 0) 9 0) (lay 0 130 x.2.1 S) x.2.1 (tdN (lay 0 130 x.2.1 S) N) A T V H (tdL x.2.2) B O → Q (nI (nh x.2.1)) M1) ∧
    (pC x.1 ≠ 0 → ∀ M1, TW G M0 M1 t f (pI (startI (upd i 0 0) n) x.1) S x.2.1 N A T V H x.2.2 B O → Q (-1) M1)) : P_X4_parse G t M Q := by
  obtain ⟨a, b, ei⟩ := pI_any i
  refine pt_0 h fun M1 h1 => pt_21 h1 fun M2 h2 => pt_22 h2 fun M3 h3 => ?_
  have e3 : upd (upd (upd i 0 0) 21 0) 22 (-1) = pI (upd i 0 0) (a, b, i 18, i 19, i 20, 0, -1) := by
    have e4 : upd i 0 0 = pI (upd i 0 0) (a, b, i 18, i 19, i 20, i 21, i 22) := by
      rw [← pI_i _ _ _ (by decide), ← ei]
    have e5 := congrArg (fun z => upd (upd z 21 0) 22 (-1)) e4
    rw [pI_21, pI_22] at e5
    exact e5
  rw [e3] at h3
  refine oIs.i h3.obj (S_clears h3 fun M4 h4 => oIs.i h4.obj (S_startsReading h4 hw hn (i := upd i 0 0) e14 fun M5 h5 => ?_))
  have hr : RDo G M0 (startI (upd i 0 0) n) n := ⟨hw, hn, startI_15 _ _⟩
  have h5' : TW G M0 M5 t f (pI (startI (upd i 0 0) n) (nextP B n (0, 0, 0, i 19, i 20, 0, -1))) S (clrD D) N A T V H l B O := h5
  have hp0 : PSo n (nextP B n (0, 0, 0, i 19, i 20, 0, -1)) := nextP_o (Nat.zero_le _)
  generalize nextP B n (0, 0, 0, i 19, i 20, 0, -1) = p0 at *
  have fin44 : ∀ (x : XS) (M6 : wM), (pC x.1 ≠ 0 ∨ pT x.1 = 0) → OKS x.2.1 → (pC x.1 = 0 → ∀ M1, TW G M0 M1 t f (upd (upd (pI (startI (upd i 0 0) n) x.1) 8 0) 9 0) (lay 0 130 x.2.1 S) x.2.1 (tdN (lay 0 130 x.2.1 S) N) A T V H (tdL x.2.2) B O → Q (nI (nh x.2.1)) M1) →
    (pC x.1 ≠ 0 → ∀ M1, TW G M0 M1 t f (pI (startI (upd i 0 0) n) x.1) S x.2.1 N A T V H x.2.2 B O → Q (-1) M1) → TW G M0 M6 t f (pI (startI (upd i 0 0) n) x.1) S x.2.1 N A T V H x.2.2 B O → B_X4_parse_44 G Q t M6 := fun x M6 hx hg q1 q2 h6 => by
    refine oIs.i h6.obj (S_fine_2 h6 (bl _ (fun c => ?_) (fun c => ?_)))
    · refine oIs.i h6.obj (S_takesDraft h6 fun M7 h7 => oGetA.i h7.obj rfl (oIald.e (i := 2) rfl h7.set (by decide) (by decide) ?_))
      have := q1 (of_decide_eq_true c) M7 h7
      rw [← hg.2.2.1.1] at this
      exact this
    · exact q2 (of_decide_eq_false c) M6 h6
  have key : ∀ d {x : XS} {M6 : wM}, PSo n x.1 → OKS x.2.1 → RG x.2.1 → (n + 1 ≤ d + x.1.1 ∨ pC x.1 ≠ 0 ∨ pT x.1 = 0) → TW G M0 M6 t f (pI (startI (upd i 0 0) n) x.1) S x.2.1 N A T V H x.2.2 B O →
      (∀ y, y = readX B n d x → (pC y.1 ≠ 0 ∨ pT y.1 = 0) → OKS y.2.1 → RG y.2.1 → (pC y.1 = 0 → ∀ M1, TW G M0 M1 t f (upd (upd (pI (startI (upd i 0 0) n) y.1) 8 0) 9 0) (lay 0 130 y.2.1 S) y.2.1 (tdN (lay 0 130 y.2.1 S) N) A T V H (tdL y.2.2) B O → Q (nI (nh y.2.1)) M1) ∧
        (pC y.1 ≠ 0 → ∀ M1, TW G M0 M1 t f (pI (startI (upd i 0 0) n) y.1) S y.2.1 N A T V H y.2.2 B O → Q (-1) M1)) → L_X4_parse_23 G Q (d + 1) t M6 := by
    intro d
    induction d with
    | zero =>
      intro x M6 hp hg hR hd h6 q
      unfold L_X4_parse_23; unfold B_X4_parse_23
      have hd : pC x.1 ≠ 0 ∨ pT x.1 = 0 := by
        rcases hd with hd | hd
        · have := hp.1; omega
        · exact hd
      obtain ⟨q1, q2⟩ := q x rfl hd hg hR
      refine oIs.i h6.obj (S_fine_2 h6 (bl _ (fun c => ?_) (fun c => ?_)))
      · refine oGetI.i h6.obj rfl (oIf.y ?_ (fin44 x M6 hd hg q1 q2 h6))
        rcases hd with hd | hd
        · exact absurd (of_decide_eq_true c) hd
        · exact hd
      · exact fin44 x M6 hd hg q1 q2 h6
    | succ d ih =>
      intro x M6 hp hg hR hd h6 q
      unfold readX at q
      rw [show L_X4_parse_23 G Q (d + 1 + 1) t M6 = B_X4_parse_23 G (L_X4_parse_23 G Q (d + 1)) Q t M6 from rfl]
      unfold B_X4_parse_23
      by_cases c : pC x.1 = 0 ∧ pT x.1 ≠ 0
      · rw [if_pos c] at q
        refine oIs.i h6.obj (S_fine_2 h6 ?_)
        rw [decide_eq_true c.1]
        refine oIf.y rfl (oGetI.i h6.obj rfl (oIf.n (show ¬ pT x.1 = 0 from c.2) (oIs.i h6.obj (S_statement h6 hr hp hg fun M7 h7 => ?_))))
        obtain ⟨s1, s2⟩ := stepX_o (B := B) hp
        obtain ⟨s3, s4⟩ := stepX_g (B := B) (n := n) hg hR
        refine ih s1 s3 s4 ?_ h7 q
        rcases s2 with s2 | s2 | s2
        · exact .inr (.inl s2)
        · exact .inr (.inr s2)
        · rcases hd with hd | hd | hd
          · exact .inl (by omega)
          · exact absurd c.1 hd
          · exact absurd hd c.2
      · rw [if_neg c] at q
        have hd2 : pC x.1 ≠ 0 ∨ pT x.1 = 0 := by
          by_cases c3 : pC x.1 = 0
          · exact .inr (Decidable.not_not.mp (fun e => c ⟨c3, e⟩))
          · exact .inl c3
        obtain ⟨q1, q2⟩ := q x rfl hd2 hg hR
        refine oIs.i h6.obj (S_fine_2 h6 (bl _ (fun c => ?_) (fun c => ?_)))
        · refine oGetI.i h6.obj rfl (oIf.y ?_ (fin44 x M6 hd2 hg q1 q2 h6))
          rcases hd2 with hd2 | hd2
          · exact absurd (of_decide_eq_true c) hd2
          · exact hd2
        · exact fin44 x M6 hd2 hg q1 q2 h6
  exact ⟨n + 2, key (n + 1) (x := (p0, clrD D, l)) hp0 hD hR (.inl (by omega)) h5' hQ⟩
/-- a name is looked for -/
def findV (S : Rw) (l : Nat → Nat → Int64) (B : Rw) (n : Nat) (k : Nat) (p : PS) : Int32 := if pT p = 1 ∧ p.2.1 = 0 ∧ p.1 = n ∧ n ≤ 8 then placeF (l (10 + k)) (nmC S k) (nmB B p) else -1
theorem S_find (h : TW G M0 M t f i S D N A T V H l B O) (hw : WW G M0) (hg : OKS S) (hn : n ≤ 900) (e14 : i 14 = nI n) {k : Int32} {Q : Int32 → wM → Prop} (hf : inR k 0 2 = false → ∀ M1, TW G M0 M1 t f (upd i 0 1) S D N A T V H l B O → Q 0 M1) (hs : inR k 0 2 = true → ∀ M1, TW G M0 M1 t f (pI (startI (upd i 0 0) n) (nextP B n (0, 0, 0, i 19, i 20, i 21, i 22))) S D N A T V H l B O → Q (findV S l B n k.toNatClampNeg (nextP B n (0, 0, 0, i 19, i 20, i 21, i 22))) M1) : P_X4_find G t k M Q := by
  have hb0 := hg.1.2
  have hb1 := hg.2.1.2
  have hb2 := hg.2.2.1.2
  obtain ⟨a, b, ei⟩ := pI_any i
  refine S_isIn (lo := 0) (hi := 2) (oIs.i h.obj (S_is h fun M1 h1 => bl _ (fun c => ?_) (fun c => ?_)))
  · rw [c] at h1
    have hs := hs c
    obtain ⟨j, hj, ej⟩ := inR_n (n := 2) (by decide) c
    rw [ej, nI_clamp (by omega)] at hs
    refine oGetI.i h1.obj rfl ?_
    have h1' : TW G M0 M1 t f (upd i 0 0) S D N A T V H l B O := h1
    have e4 : upd i 0 0 = pI (upd i 0 0) (a, b, i 18, i 19, i 20, i 21, i 22) := by
      rw [← pI_i _ _ _ (by decide), ← ei]
    rw [e4] at h1'
    show oIs M1 t 3 (P_X4_startsReading G t M1 _)
    refine oIs.i h1'.obj (S_startsReading h1' hw hn (i := upd i 0 0) e14 fun M2 h2 => ?_)
    have h2' : TW G M0 M2 t f (pI (startI (upd i 0 0) n) (nextP B n (0, 0, 0, i 19, i 20, i 21, i 22))) S D N A T V H l B O := h2
    have hp0 : PSo n (nextP B n (0, 0, 0, i 19, i 20, i 21, i 22)) := nextP_o (Nat.zero_le _)
    have hs := hs M2 h2'
    clear h2
    generalize nextP B n (0, 0, 0, i 19, i 20, i 21, i 22) = p at *
    unfold findV at hs
    obtain ⟨o1, o2⟩ := hp0
    refine oGetI.i h2'.obj rfl (oIf.c (fun c1 => oGetI.i h2'.obj rfl (oIf.c (fun c2 => oGetI.i h2'.obj rfl ?_) (fun c2 => ?_))) (fun c1 => ?_))
    · rw [show upd i 0 (if true = true then 0 else 1) 14 = nI n from e14]
      have c2' : p.2.1 = 0 := nI_inj (by omega) (by decide) c2
      refine oIf.c (fun c3 => ?_) (fun c3 => ?_)
      · have c3' : p.1 = n := nI_inj (by omega) (by omega) c3
        by_cases c4 : n ≤ 8
        · rw [if_pos ⟨c1, c2', c3', c4⟩] at hs
          refine oIf.y (nI_le (b := 8) c4 (by decide)) ?_
          rw [ej]
          have hj : j = 0 ∨ j = 1 ∨ j = 2 := by omega
          rcases hj with rfl | rfl | rfl
          · exact oIf.y rfl (oGetI.i h2'.obj rfl (oIs.i h2'.obj (S_nameTo h2' hn ⟨o1, o2⟩ (oGetA.i h2'.obj rfl (oGetA.i h2'.obj rfl (oIald.e (i := 0) rfl h2'.set (by decide) (by decide) (by rw [hg.1.1]; exact S_placeOf h2'.l10 (by omega) (by decide) hs)))))))
          · exact oIf.n (by decide) (oIf.y rfl (oGetI.i h2'.obj rfl (oIs.i h2'.obj (S_nameTo h2' hn ⟨o1, o2⟩ (oGetA.i h2'.obj rfl (oGetA.i h2'.obj rfl (oIald.e (i := 1) rfl h2'.set (by decide) (by decide) (by rw [hg.2.1.1]; exact S_placeOf h2'.l11 (by omega) (by decide) hs))))))))
          · exact oIf.n (by decide) (oIf.n (by decide) (oGetI.i h2'.obj rfl (oIs.i h2'.obj (S_nameTo h2' hn ⟨o1, o2⟩ (oGetA.i h2'.obj rfl (oGetA.i h2'.obj rfl (oIald.e (i := 2) rfl h2'.set (by decide) (by decide) (by rw [hg.2.2.1.1]; exact S_placeOf h2'.l12 (by omega) (by decide) hs))))))))
        · rw [if_neg (fun x => c4 x.2.2.2)] at hs
          exact oIf.n (nI_ge (a := 8) (by omega) (by omega)) hs
      · rw [if_neg (fun x => c3 (by show nI p.1 = nI n; rw [x.2.2.1]))] at hs
        exact hs
    · rw [if_neg (fun x => c2 (by show nI p.2.1 = 0; rw [x.2.1]; rfl))] at hs
      exact hs
    · rw [if_neg (fun x => c1 x.1)] at hs
      exact hs
  · rw [c] at h1
    exact hf c M1 h1
end TW15
