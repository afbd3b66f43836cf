set_option maxRecDepth 100000
/-! STAGE 2, the twin: the words, the next token -/
def WW (G : wG) (M : wM) : Prop := ∃ (v : Nat) (h z : Int32) (r : Nat → Int32), G.2.2.2 27 < wz G ∧ v < wz G ∧ M (G.2.2.2 27) = some (.inr (24, [.ref v, .int 0, .int h, .int z])) ∧ M v = some (.inl (.byte, 86, .inl r)) ∧ ∀ k, k < 86 → r k = nI (WD k)
theorem chr_ok : ∀ c, c < 256 → ((nI c &&& (255 : Int32)).toUInt32 % 65536).toInt32 = nI c ∧ narrow .char (.int (nI c)) = .int (nI c) := by decide +kernel
/-- a character of a string of letters -/
theorem S_charAt {G : wG} {M : wM} {a v n k c : Nat} {h z : Int32} {r : Nat → Int32} (h1 : M a = some (.inr (24, [.ref v, .int 0, .int h, .int z]))) (h2 : M v = some (.inl (.byte, n, .inl r))) (hk : k < n) (hn : n < 2 ^ 31) (hc : c < 256) (e : r k = nI c) {Q : Int32 → wM → Prop} (hQ : Q (nI c) M) : P_J19_charAt G a (nI k) M Q := by
  obtain ⟨e1, e2⟩ := chr_ok c hc
  refine oIs.i h1 (oIf.n (by decide) (oGetI.i h1 rfl (oIf.y rfl ⟨true, rfl, oIf.y rfl (oGetA.i h1 rfl (oAlen.i h2 ?_))⟩)))
  intro rr
  refine oIf.n (nI_pos (by omega)) (oIf.y (nI_lt hk hn) (oIald.e rfl h2 hk hn ?_))
  rw [e, e1]
  exact ⟨e2, e2, hQ⟩
theorem S_strlen {G : wG} {M : wM} {a v n : Nat} {h z : Int32} {r : Nat → Int32} (h1 : M a = some (.inr (24, [.ref v, .int 0, .int h, .int z]))) (h2 : M v = some (.inl (.byte, n, .inl r))) (hn : n < 2 ^ 31) {Q : Int32 → wM → Prop} (hQ : Q (nI n) M) : P_J19_length G a M Q := by
  refine oGetA.i h1 rfl (oAlen.i h2 (oIs.i h1 (oIf.n (by decide) (oGetI.i h1 rfl ?_))))
  have : nI n >>> ((0 : Int32) &&& 31) = nI n := by
    have := pk_shrN hn 0 0 (by decide +kernel)
    rw [Nat.pow_zero, Nat.div_one] at this
    exact this
  have hQ2 : Q (nI n >>> ((0 : Int32) &&& 31)) M := by rw [this]; exact hQ
  exact ⟨rfl, hQ2⟩
section TW10
variable {G : wG} {M0 M : wM} {t : Nat} {f : Nat → Nat} {i S D N A T V H : Nat → Int32} {l : Nat → Nat → Int64} {B O : Nat → Int32}
theorem WW.tw (hw : WW G M0) (h : TW G M0 M t f i S D N A T V H l B O) : WW G M := by
  obtain ⟨v, hh, z, r, h1, h2, h3, h4, h5⟩ := hw
  have o : ∀ q, q < wz G → M q = M0 q := fun q hq => h.2.2.2.2.1 q (by
    rintro (e | ⟨k, hk, e⟩)
    · have := h.2.1; omega
    · have := h.z k hk; omega)
  exact ⟨v, hh, z, r, h1, h2, (o _ h1).trans h3, (o _ h2).trans h4, h5⟩
theorem S_wch (hw : WW G M) {k : Nat} (hk : k < 86) {x : Int32} (ex : x = nI k) {Q : Int32 → wM → Prop} (hQ : Q (nI (WD k)) M) : oIs M (G.2.2.2 27) 24 (P_J19_charAt G (G.2.2.2 27) x M Q) := by
  obtain ⟨v, hh, z, r, h1, h2, h3, h4, h5⟩ := hw
  have := wd_le k hk
  rw [ex]
  exact oIs.i h3 (S_charAt h3 h4 hk (by decide) (by omega) (h5 k hk) hQ)
theorem eqW_n1 {B : Rw} {a e n : Nat} (h : e ≠ a + wln n) : eqW B a e n = false := by unfold eqW; simp [h]
theorem eqW_n2 {B : Rw} {a e n j : Nat} (hj : j < wln n) (h : B (a + j) ≠ nI (WD (wst n + j))) : eqW B a e n = false := by
  unfold eqW
  have : anyB (fun i => !decide (B (a + i) = nI (WD (wst n + i)))) (wln n - 0) 0 = true := any_iff.mpr ⟨j, hj, by simp [h]⟩
  rw [this]; simp
theorem eqW_y {B : Rw} {a e n : Nat} (h : e = a + wln n) (h2 : ∀ j, j < wln n → B (a + j) = nI (WD (wst n + j))) : eqW B a e n = true := by
  unfold eqW
  have : anyB (fun i => !decide (B (a + i) = nI (WD (wst n + i)))) (wln n - 0) 0 = false := by
    rw [← Bool.not_eq_true, any_iff]
    rintro ⟨j, hj, h3⟩
    simp [h2 j hj] at h3
  rw [this]; simp [h]
theorem S_wordHere (h : TW G M0 M t f i S D N A T V H l B O) (hw : WW G M0) {a e : Nat} (he : e ≤ 900) (hae : a ≤ e) (e17 : i 17 = nI a) (e16 : i 16 = nI e) {Q : Int32 → wM → Prop} (hQ : Q (wordF B a e) M) : P_X4_wordHere G t M Q := by
  have hw := hw.tw h
  unfold wordF at hQ
  have key := st_loop (F := fun n k => Q (srch (eqW B a e) (16 - k) k) M → L_X4_wordHere_4 G Q n t (nI k) (nI (wst k)) M) (N := 16) (fun n hQ => ?_) (fun n k hk ih hQ => ?_) 0 (Nat.zero_le _)
  · obtain ⟨n, hn⟩ := key
    exact ⟨n, hn hQ⟩
  · unfold L_X4_wordHere_4; unfold B_X4_wordHere_4
    obtain ⟨v, hh, z, r, h1, h2, h3, h4, h5⟩ := hw
    exact oIs.i h3 (S_strlen h3 h4 (by decide) (oIf.y (by decide) hQ))
  · unfold L_X4_wordHere_4; unfold B_X4_wordHere_4
    obtain ⟨w1, w2, w3, w4, w5', w6⟩ := wd_ok k hk
    have hw' := hw
    obtain ⟨v, hh, z, r, h1, h2, h3, h4, h5⟩ := hw'
    refine oIs.i h3 (S_strlen h3 h4 (by decide) (oIf.n (nI_ge (b := 86) (by omega) (by decide)) ?_))
    -- behind the word
    have skip : eqW B a e k = false → ∃ n', L_X4_wordHere_102 G (L_X4_wordHere_4 G Q n) Q n' t (nI k) (nI (wst k)) M := fun ef => by
      rw [srch_n hk (by rw [ef]; decide)] at hQ
      refine st_loop (F := fun n' j => L_X4_wordHere_102 G (L_X4_wordHere_4 G Q n) Q n' t (nI k) (nI (wst k + j)) M) (N := wln k) (fun n' => ?_) (fun n' j hj ihj => ?_) 0 (Nat.zero_le _)
      · unfold L_X4_wordHere_102; unfold B_X4_wordHere_102
        refine S_wch hw (k := wst k + wln k) w3 rfl (oIf.y (by rw [w2]; rfl) ?_)
        rw [nI_1, nI_1, ← w1]
        exact ih hQ
      · unfold L_X4_wordHere_102; unfold B_X4_wordHere_102
        refine S_wch hw (k := wst k + j) (by omega) rfl (oIf.n (fun x => w6 j (by omega) hj (nI_inj (by have := wd_le (wst k + j) (by omega); omega) (by decide) x)) ?_)
        rw [nI_1]
        exact ihj
    have b73 : ∀ j, j ≤ wln k → (∀ q, q < j → B (a + q) = nI (WD (wst k + q))) → (j = wln k ∨ e ≤ a + j ∨ B (a + j) ≠ nI (WD (wst k + j))) → B_X4_wordHere_73 G (L_X4_wordHere_4 G Q n) Q t (nI k) (nI (wst k)) (nI j) M := fun j hj hq hc => by
      refine S_wch hw (k := wst k + j) (by omega) (nI_add _ _) (oIf.c (fun c => ?_) (fun c => ?_))
      · have ej : j = wln k := by
          by_cases x : j = wln k
          · exact x
          · exact absurd (nI_inj (by have := wd_le (wst k + j) (by omega); omega) (by decide) c) (w6 j (by omega) (by omega))
        refine oGetI.i h.obj rfl (oGetI.i h.obj rfl ?_)
        rw [e17, e16, nI_add]
        refine oIf.c (fun c2 => ?_) (fun c2 => skip ?_)
        · rw [srch_y hk (eqW_y (by rw [← ej]; exact (nI_inj (by omega) (by omega) c2).symm) (by rw [← ej]; exact hq))] at hQ
          exact hQ
        · exact eqW_n1 (fun x => c2 (by rw [x, ej]))
      · have ej : j < wln k := by
          by_cases x : j = wln k
          · exact absurd (by rw [x, w2]; rfl) c
          · omega
        rcases hc with hc | hc | hc
        · omega
        · exact skip (eqW_n1 (by omega))
        · exact skip (eqW_n2 ej hc)
    have k16 := st_loop (F := fun n' j => (∀ q, q < j → B (a + q) = nI (WD (wst k + q))) → L_X4_wordHere_16 G (L_X4_wordHere_4 G Q n) Q n' t (nI k) (nI (wst k)) (nI j) M) (N := wln k) (fun n' hq => ?_) (fun n' j hj ihj hq => ?_) 0 (Nat.zero_le _)
    · obtain ⟨n', hn'⟩ := k16
      exact ⟨n', hn' fun q hq => by omega⟩
    · unfold L_X4_wordHere_16; unfold B_X4_wordHere_16
      exact S_wch hw (k := wst k + wln k) w3 (nI_add _ _) (oIf.y (by rw [w2]; rfl) (b73 _ (Nat.le_refl _) hq (.inl rfl)))
    · unfold L_X4_wordHere_16; unfold B_X4_wordHere_16
      refine S_wch hw (k := wst k + j) (by omega) (nI_add _ _) (oIf.n (fun x => w6 j (by omega) hj (nI_inj (by have := wd_le (wst k + j) (by omega); omega) (by decide) x)) ?_)
      refine oGetI.i h.obj rfl (oGetI.i h.obj rfl ?_)
      rw [e17, e16, nI_add]
      by_cases c : e ≤ a + j
      · exact oIf.y (nI_le c (by omega)) (b73 j (by omega) hq (.inr (.inl c)))
      · refine oIf.n (nI_ge (by omega) (by omega)) (oGetA.i h.obj rfl (oGetI.i h.obj rfl ?_))
        rw [e17, nI_add]
        refine oIald.e (i := a + j) rfl h.buf (by omega) (by decide) (S_wch hw (k := wst k + j) (by omega) (nI_add _ _) (oIf.c (fun c2 => ?_) (fun c2 => b73 j (by omega) hq (.inr (.inr c2)))))
        rw [nI_1]
        refine ihj fun q hq2 => ?_
        by_cases eq : q = j
        · rw [eq]; exact c2
        · exact hq q (by omega)
end TW10
