set_option maxRecDepth 100000
/-! STAGE 2, the twin: shares, texts that come in, bytes that go out -/
section TW9
variable {G : wG} {M0 M : wM} {t : Nat} {f : Nat → Nat} {i S D N A T V H : Nat → Int32} {l : Nat → Nat → Int64} {B O : Nat → Int32}
theorem S_withdrawnShare (h : TW G M0 M t f i S D N A T V H l B O) (hg : OK S N) {Q : UInt32 → wM → Prop} (hQ : ∀ M1, TW G M0 M1 t f (upd i 0 0) S D N A T V H l B O → Q (shareF N) M1) : P_X4_withdrawnShare G t M Q := by
  have hb := hg.b
  refine pt_0 h fun M1 h1 => ?_
  have hQ := hQ M1 h1
  have h := h1
  refine st_loop (F := fun n k => L_X4_withdrawnShare_9 G Q n t (nI (cnt (fun f => decide (fP N f 4 = 1)) k)) (nI k) M1) (N := nf N) (fun n => ?_) (fun n k hk ih => ?_) 0 (Nat.zero_le _)
  · unfold L_X4_withdrawnShare_9; unfold B_X4_withdrawnShare_9
    refine oGetA.i h.obj rfl (rd_nf h hg (oIf.y (nI_le (Nat.le_refl _) (by omega)) (oGetA.i h.obj rfl (rd_nf h hg (oIf.c (fun c => ?_) (fun c => ?_))))))
    · have e0 : nf N = 0 := nI_inj (by omega) (by decide) c
      unfold shareF at hQ
      rw [if_pos e0] at hQ
      exact hQ
    · have e0 : nf N ≠ 0 := fun e => c (by rw [e]; rfl)
      unfold shareF at hQ
      rw [if_neg e0] at hQ
      exact oGetA.i h.obj rfl (rd_nf h hg ⟨share_ok hb.2.2.2.1 e0, hQ⟩)
  · unfold L_X4_withdrawnShare_9; unfold B_X4_withdrawnShare_9
    refine oGetA.i h.obj rfl (rd_nf h hg (oIf.n (nI_ge hk (by omega)) (oIs.i h.obj (S_ofF4 h (by omega) (oIf.c (fun c => ?_) (fun c => ?_))))))
    · rw [nI_1, cnt_y (decide_eq_true c)]
      unfold B_X4_withdrawnShare_33; rw [nI_1]; exact ih
    · rw [cnt_n (by simpa using c)]
      unfold B_X4_withdrawnShare_33; rw [nI_1]; exact ih
theorem S_errorCode (h : TW G M0 M t f i S D N A T V H l B O) {Q : Int32 → wM → Prop} (hQ : ∀ M1, TW G M0 M1 t f (upd i 0 0) S D N A T V H l B O → Q (i 21) M1) : P_X4_errorCode G t M Q :=
  pt_0 h fun M1 h1 => oGetI.i h1.obj rfl (hQ M1 h1)
theorem S_errorOffset (h : TW G M0 M t f i S D N A T V H l B O) {Q : Int32 → wM → Prop} (hQ : ∀ M1, TW G M0 M1 t f (upd i 0 0) S D N A T V H l B O → Q (i 22) M1) : P_X4_errorOffset G t M Q :=
  pt_0 h fun M1 h1 => oGetI.i h1.obj rfl (hQ M1 h1)
theorem S_outputByte (h : TW G M0 M t f i S D N A T V H l B O) {n : Nat} (hn : n ≤ 300) (e27 : i 27 = nI n) {k : Int32} {Q : Int32 → wM → Prop} (hQ : ∀ M1, TW G M0 M1 t f (upd i 0 0) S D N A T V H l B O → Q (if inR k 0 (nI n - 1) then O k.toNatClampNeg else -1) M1) : P_X4_outputByte G t k M Q := by
  refine pt_0 h fun M1 h1 => oGetI.i h1.obj rfl ?_
  have hQ := hQ M1 h1
  rw [show upd i 0 0 27 = nI n from e27]
  have e : (nI n).toInt64 - (1 : Int64) = (nI n - 1).toInt64 := nI_pred64 n (by omega)
  rw [e]
  refine S_isIn (lo := 0) (bl _ (fun c => ?_) (fun c => ?_))
  · rw [c] at hQ
    obtain ⟨j, hj, rfl⟩ := inR_nI (by omega) c
    rw [if_pos rfl, nI_clamp (by omega)] at hQ
    exact oGetA.i h1.obj rfl (oIald.e (i := j) rfl h1.out (by omega) (by decide) hQ)
  · rw [c] at hQ
    exact hQ
theorem S_truncate (h : TW G M0 M t f i S D N A T V H l B O) {x : Int32} {Q : Bool → wM → Prop} (hf : inR x 0 (i 14) = false → ∀ M1, TW G M0 M1 t f (upd i 0 0) S D N A T V H l B O → Q false M1) (hs : inR x 0 (i 14) = true → ∀ M1, TW G M0 M1 t f (upd (upd i 0 0) 14 x) S D N A T V H l B O → Q true M1) : P_X4_truncate G t x M Q := by
  refine pt_0 h fun M1 h1 => oGetI.i h1.obj rfl (S_isIn (lo := 0) (bl _ (fun c => ?_) (fun c => ?_)))
  · exact pt_14 h1 fun M2 h2 => hs c M2 h2
  · exact hf c M1 h1
theorem S_feed (h : TW G M0 M t f i S D N A T V H l B O) {n : Nat} (hn : n ≤ 900) (e14 : i 14 = nI n) {a b c d e : Int32} {Q : Int32 → wM → Prop} (hf : 880 < n → ∀ M1, TW G M0 M1 t f (upd i 0 0) S D N A T V H l B O → Q (-1) M1) (hs : n ≤ 880 → ∀ M1, TW G M0 M1 t f (upd (upd i 0 0) 14 (nI (n + 20))) S D N A T V H l (fedB B n (w5 a b c d e) 20) O → Q (nI (n + 20)) M1) : P_X4_feed G t a b c d e M Q := by
  refine pt_0 h fun M1 h1 => oGetI.i h1.obj rfl ?_
  rw [show upd i 0 0 14 = nI n from e14, show (20 : Int32) = nI 20 from rfl, nI_add]
  by_cases hc : n ≤ 880
  · refine oIf.y (nI_le (a := n + 20) (b := 900) (by omega) (by decide)) ?_
    have hs := hs hc
    have key := st_loop (F := fun n' k => ∀ M2, TW G M0 M2 t f (upd (upd i 0 0) 14 (nI (n + k))) S D N A T V H l (fedB B n (w5 a b c d e) k) O → L_X4_feed_23 G Q n' t a b c d e (nI k) M2) (N := 20) (fun n' M2 h2 => ?_) (fun n' k hk ih M2 h2 => ?_) 0 (Nat.zero_le _)
    · obtain ⟨n', hn'⟩ := key
      refine ⟨n', hn' M1 ?_⟩
      have : upd (upd i 0 0) 14 (i 14) = upd i 0 0 := by
        funext j; simp only [upd]; split
        · rename_i x; rw [x, if_neg (by decide)]
        · rfl
      rw [Nat.add_zero, ← e14, this]
      exact h1
    · unfold L_X4_feed_23; unfold B_X4_feed_23
      exact oIf.y (by decide) (oGetI.i h2.obj rfl (hs M2 h2))
    · unfold L_X4_feed_23; unfold B_X4_feed_23
      have st : ∀ y0, y0 = w5 a b c d e (k / 4) → B_X4_feed_76 G (L_X4_feed_23 G Q n') Q t a b c d e (nI k) y0 M2 := fun y0 ey => by
        refine oGetA.i h2.obj rfl (oGetI.i h2.obj rfl (st_buf_e h2 (upd_eq _ _ _) (by omega) fun M3 h3 => oGetI.i h3.obj rfl (pt_14 h3 fun M4 h4 => ?_)))
        rw [upd_upd, upd_eq, nI_1] at h4
        rw [nI_1]
        refine ih M4 ?_
        rw [ey, nI_mod4 k hk] at h4
        exact h4
      unfold w5 at st
      refine oIf.n (nI_ge hk (by decide)) (oIf.c (fun c4 => ?_) (fun c4 => ?_))
      · have c4 := (nI_leI (a := 4) (by decide) (by omega)).mp c4
        refine oIf.c (fun c8 => ?_) (fun c8 => ?_)
        · have c8 := (nI_leI (a := 8) (by decide) (by omega)).mp c8
          refine oIf.c (fun c12 => ?_) (fun c12 => ?_)
          · have c12 := (nI_leI (a := 12) (by decide) (by omega)).mp c12
            refine oIf.c (fun c16 => ?_) (fun c16 => ?_)
            · have c16 := (nI_leI (a := 16) (by decide) (by omega)).mp c16
              exact st e (by rw [if_neg (by omega), if_neg (by omega), if_neg (by omega), if_neg (by omega)])
            · have c16 := mt (nI_leI (a := 16) (by decide) (by omega)).mpr c16
              exact st d (by rw [if_neg (by omega), if_neg (by omega), if_neg (by omega), if_pos (by omega)])
          · have c12 := mt (nI_leI (a := 12) (by decide) (by omega)).mpr c12
            exact st c (by rw [if_neg (by omega), if_neg (by omega), if_pos (by omega)])
        · have c8 := mt (nI_leI (a := 8) (by decide) (by omega)).mpr c8
          exact st b (by rw [if_neg (by omega), if_pos (by omega)])
      · have c4 := mt (nI_leI (a := 4) (by decide) (by omega)).mpr c4
        exact st a (by rw [if_pos (by omega)])
  · refine oIf.n (nI_ge (a := 900) (b := n + 20) (by omega) (by omega)) (hf (by omega) M1 h1)
end TW9
