set_option maxRecDepth 100000
/-! STAGE 2, JDK 3: BitSet of one word; addAll; ArrayDeque of 17 places -/
def bm (k : Nat) : Int64 := (1 : Int64) <<< ((nI k).toInt64 &&& 63)
theorem bm_v : ∀ k, k < 64 → (bm k).toBitVec = BitVec.twoPow 64 k := by decide +kernel
def bitG (w : Int64) (k : Nat) : Bool := w.toBitVec.getLsbD k
theorem bit_0 (k : Nat) : bitG 0 k = false := by show (0 : BitVec 64).getLsbD k = false; simp
theorem bit_t {w : Int64} {k : Nat} (hk : k < 64) : w &&& bm k = 0 ↔ bitG w k = false := by
  rw [← Int64.toBitVec_inj, Int64.toBitVec_and, bm_v k hk]
  show w.toBitVec &&& BitVec.twoPow 64 k = 0#64 ↔ _
  constructor
  · intro h
    have t := congrArg (fun x => x.getLsbD k) h
    simp only [BitVec.getLsbD_and, BitVec.getLsbD_twoPow] at t
    simpa [hk, bitG] using t
  · intro h
    apply BitVec.eq_of_getLsbD_eq
    intro i hi
    rw [BitVec.getLsbD_and, BitVec.getLsbD_twoPow]
    by_cases e : k = i
    · subst e; rw [show w.toBitVec.getLsbD k = false from h]; simp
    · simp [e]
theorem bit_or {w : Int64} {k j : Nat} (hk : k < 64) (hj : j < 64) : bitG (w ||| bm k) j = (bitG w j || decide (k = j)) := by
  unfold bitG
  rw [Int64.toBitVec_or, bm_v k hk, BitVec.getLsbD_or, BitVec.getLsbD_twoPow]
  simp [hk]
theorem bit_an {w : Int64} {k j : Nat} (hk : k < 64) (hj : j < 64) : bitG (w &&& (bm k ^^^ (-1))) j = (bitG w j && !decide (k = j)) := by
  have ha : (-1 : Int64).toBitVec = BitVec.allOnes 64 := by decide
  unfold bitG
  rw [Int64.toBitVec_and, Int64.toBitVec_xor, bm_v k hk, ha, BitVec.getLsbD_and, BitVec.getLsbD_xor, BitVec.getLsbD_twoPow, BitVec.getLsbD_allOnes]
  simp [hj, hk]
theorem bm_ne {w : Int64} {k : Nat} (hk : k < 64) : w ||| bm k ≠ 0 := fun h => by
  have := bit_or (w := w) hk hk
  rw [h, bit_0] at this
  simp at this
theorem cmp0 {x : Int64} : lg_cmp x 0 = 0 ↔ x = 0 := by
  unfold lg_cmp
  by_cases h : x > 0
  · rw [if_pos h]; exact ⟨fun h1 => absurd h1 (by decide), fun e => by rw [e] at h; exact absurd h (by decide)⟩
  · rw [if_neg h]
    by_cases e : x = 0
    · rw [if_pos e]; exact ⟨fun _ => e, fun _ => rfl⟩
    · rw [if_neg e]; exact ⟨fun h1 => absurd h1 (by decide), fun h1 => absurd h1 e⟩
theorem nI_w6 {k : Nat} (hk : k < 64) : nI k >>> ((6 : Int32) &&& 31) = 0 := by
  rw [pk_shrN (by omega) _ 6 (by decide +kernel), Nat.div_eq_of_lt (by omega)]; rfl
abbrev bsC (e wi : Nat) (st : Int32) : wE := .inr (21, [.ref e, .int (nI wi), .int st])
abbrev bsW (r : Nat → Int64) : wE := .inl (.long, 1, .inr (.inl r))
/-- a BitSet of one word w -/
def BS (G : wG) (M : wM) (ow : Nat → Nat) (τ a : Nat) (w : Int64) : Prop := ∃ e st r wi, Cl G M ow τ a (bsC e wi st) ∧ Cl G M ow τ e (bsW r) ∧ r 0 = w ∧ (w = 0 ∧ wi = 0 ∨ w ≠ 0 ∧ wi = 1)
section JDK3
variable {G : wG} {M : wM} {ow : Nat → Nat} {τ a : Nat} {w : Int64}
theorem BS.stp {M1 : wM} {ow1 : Nat → Nat} {T : List Nat} (h : BS G M ow τ a w) (hs : Mv T M ow M1 ow1) (hn : τ ∉ T) : BS G M1 ow1 τ a w := by
  obtain ⟨e, st, r, wi, h1, h2, h3⟩ := h
  exact ⟨e, st, r, wi, h1.stp hs hn, h2.stp hs hn, h3⟩
theorem BS.is (h : BS G M ow τ a w) {P : Prop} (hp : P) : oIs M a 21 P := by obtain ⟨e, st, r, wi, h1, -⟩ := h; exact oIs.i h1.1 hp
theorem S_bsInv {Q : wM → Prop} (hQ : Q M) : P_J9_checkInvariants G a M Q :=
  oIf.n (by decide) (oIf.n (by decide) (oIf.n (by decide) hQ))
theorem S_bsget (h : BS G M ow τ a w) {k : Nat} (hk : k < 64) {Q : Bool → wM → Prop} (hQ : Q (bitG w k) M) : P_J9_get G a (nI k) M Q := by
  obtain ⟨e, st, r, wi, h1, h2, h3, h4⟩ := h
  refine oIf.y (nI_pos' (by omega)) (oIs.i h1.1 (S_bsInv ?_))
  unfold P_J9_wordIndex
  rw [nI_w6 hk]
  refine oGetI.i h1.1 rfl ?_
  rcases h4 with ⟨h4, h5⟩ | ⟨h4, h5⟩
  · subst h5; rw [h4, bit_0] at hQ; exact oIf.y (by decide) ⟨false, rfl, hQ⟩
  · subst h5
    refine oIf.n (by decide) (oGetA.i h1.1 rfl (oLald.e (i := 0) rfl h2.1 (by decide) (by decide) ?_))
    rw [h3]
    by_cases c : bitG w k = false
    · rw [c] at hQ
      exact oIf.y (cmp0.mpr ((bit_t hk).mpr c)) ⟨false, rfl, hQ⟩
    · rw [Bool.not_eq_false] at c
      rw [c] at hQ
      exact oIf.n (fun x => by have := (bit_t hk).mp (cmp0.mp x); rw [c] at this; cases this) ⟨true, rfl, hQ⟩
theorem S_bsinit {q : Nat} (hq : M q = none) (hz : wz G ≤ q) {τ : Nat} (hτ : τ ≠ 0) {b : Nat} (hb : 2 ≤ b) {Q : wM → Prop} (hQ : ∀ M1 ow1, Mv [] M ow M1 ow1 → ow1 q = τ → BS G M1 ow1 τ q 0 → Q M1) : P_J9_init G q b (wIns M q (.inr (21, [.null, .int 0, .int 0]))) Q := by
  have hC : Cl G (wIns M q (.inr (21, [.null, .int 0, .int 0]))) (va_up ow q τ) τ q (.inr (21, [.null, .int 0, .int 0])) := Cl.nw M ow hz _ _
  have hs : Mv [] M ow (wIns M q (.inr (21, [.null, .int 0, .int 0]))) (va_up ow q τ) := Mv.nw (by decide) hq _ _
  refine oPut.m hC hτ (Nat.le_of_ble_eq_true rfl) (fs1 := [.null, .int 0, .int 0]) rfl fun M1 e1 _ hC1 => ?_
  refine oPut.m hC1 hτ (Nat.le_of_ble_eq_true rfl) (fs1 := [.null, .int 0, .int 0]) rfl fun M2 e2 _ hC2 => ?_
  have E2 : M2 = wIns M q (.inr (21, [.null, .int 0, .int 0])) := by rw [e2, e1, wIns_wIns, wIns_wIns]
  refine oIs.i hC2.1 ⟨b, Nat.le_refl _, ?_⟩
  unfold P_J9_initWords P_J9_wordIndex
  refine oNewa.m (ow := va_up ow q τ) (n := 1) τ (by decide +kernel) (by omega) hb fun p M3 hp hz3 e3 hs3 hC3 => ?_
  have hqp : q ≠ p := fun x => by have := hC2.1; rw [x, hp] at this; cases this
  have hA3 : Cl G M3 (va_up (va_up ow q τ) p τ) τ q (.inr (21, [.null, .int 0, .int 0])) := hC2.stp hs3 (by simp)
  refine oPut.m hA3 hτ (Nat.le_of_ble_eq_true rfl) (fs1 := [.ref p, .int 0, .int 0]) rfl fun M4 e4 hs4 hA4 => ?_
  refine oPut.m hA4 hτ (Nat.le_of_ble_eq_true rfl) (fs1 := [.ref p, .int 0, .int 0]) rfl fun M5 e5 hs5 hA5 => ?_
  have hs3' : Mv [] M ow M3 (va_up (va_up ow q τ) p τ) := (E2 ▸ hs : Mv [] M ow M2 (va_up ow q τ)).tr hs3
  refine hQ M5 _ ?_ (by rw [va_up_ne _ _ hqp, va_up_self]) ⟨p, 0, fun _ => 0, 0, hA5, ?_, rfl, .inl ⟨rfl, rfl⟩⟩
  · rw [e5, e4, wIns_wIns]; exact hs3'.nw2 hq _
  · rw [e5, e4, wIns_wIns]; exact hC3.off (fun x => hqp x.symm) _
theorem bit_oo (w v : Int64) (j : Nat) : bitG (w ||| v) j = (bitG w j || bitG v j) := by
  unfold bitG; rw [Int64.toBitVec_or, BitVec.getLsbD_or]
theorem or_0 {w v : Int64} (h : w ≠ 0) : w ||| v ≠ 0 := fun e => by
  apply h
  rw [← Int64.toBitVec_inj]
  apply BitVec.eq_of_getLsbD_eq
  intro i _
  have := bit_oo w v i
  rw [e, bit_0] at this
  simp only [Bool.false_eq, Bool.or_eq_false_iff] at this
  show bitG w i = bitG 0 i
  rw [this.1, bit_0]
theorem or_z (w : Int64) : w ||| 0 = w := Int64.or_zero
theorem z_or (w : Int64) : 0 ||| w = w := Int64.zero_or
/-- or with another set -/
theorem S_bsor {σ p : Nat} {v : Int64} (h : BS G M ow τ a w) (hp : BS G M ow σ p v) (hτ : τ ≠ 0) (hne : τ ≠ σ) {b : Nat} {Q : wM → Prop} (hQ : ∀ M1, Mv [τ] M ow M1 ow → BS G M1 ow τ a (w ||| v) → Q M1) : P_J9_or G a p b M Q := by
  obtain ⟨e, st, r, wi, h1, h2, h3, h4⟩ := h
  obtain ⟨e', st', r', wi', g1, g2, g3, g4⟩ := hp
  have hea : e ≠ a := fun x => by have := h2.1; rw [x, h1.1] at this; cases this
  have hst : τ ∉ [σ] → True := fun _ => trivial
  refine oIf.n (fun x => by cases x; exact hne (h1.2.1.symm.trans g1.2.1)) (oGetI.i h1.1 rfl (oGetI.i g1.1 rfl (oGetI.i h1.1 rfl (oGetI.i g1.1 rfl ?_))))
  rcases g4 with ⟨g4, g5⟩ | ⟨g4, g5⟩
  · subst g5
    have emin : (if nI 0 < nI wi then nI 0 else nI wi) = nI 0 := by
      rcases h4 with ⟨-, x⟩ | ⟨-, x⟩ <;> subst x <;> decide
    rw [emin]
    refine oIf.y (nI_le (Nat.zero_le _) (by rcases h4 with ⟨-, x⟩ | ⟨-, x⟩ <;> subst x <;> decide)) ⟨1, ?_⟩
    unfold L_J9_or_47; unfold B_J9_or_47
    refine oIf.y (by decide) (oGetI.i g1.1 rfl (oIf.y (by decide) (oIs.i h1.1 (S_bsInv ?_))))
    exact hQ M (Mv.rf (t0 hτ)) ⟨e, st, r, wi, h1, h2, by rw [h3, g4, or_z], by rw [g4, or_z]; exact h4⟩
  · subst g5
    rcases h4 with ⟨h4, h5⟩ | ⟨h4, h5⟩
    · subst h5
      have emin : (if nI 1 < nI 0 then nI 1 else nI 0) = nI 0 := by decide
      rw [emin]
      refine oIf.n (by decide) (oGetI.i g1.1 rfl (oIs.i h1.1 ⟨b, Nat.le_refl _, ?_⟩))
      refine oGetA.i h1.1 rfl (oAlen.i h2.1 (oIf.y (by decide) (oGetI.i g1.1 rfl ?_)))
      refine oPut.m h1 hτ (Nat.le_of_ble_eq_true rfl) (fs1 := [.ref e, .int (nI 1), .int st]) rfl fun M1 e1 hs1 hA1 => ?_
      have hE1 : Cl G M1 ow τ e (bsW r) := by rw [e1]; exact h2.off hea _
      have hP1 := g1.stp hs1 (by simpa using fun x => hne x.symm)
      have hW1 := g2.stp hs1 (by simpa using fun x => hne x.symm)
      refine ⟨1, ?_⟩
      unfold L_J9_or_47; unfold B_J9_or_47
      refine oIf.y (by decide) (oGetI.i hP1.1 rfl (oIf.n (by decide) (oGetA.i hP1.1 rfl (oGetA.i hA1.1 rfl (oGetI.i hA1.1 rfl ?_)))))
      have q0 : (nI 0).toNatClampNeg = 0 := rfl
      have q1 : (nI 1 - nI 0).toNatClampNeg = 1 := rfl
      refine ⟨1, r', 1, r, hW1.1, hE1.1, hE1.2.2 hτ, by decide, by decide, by decide, by decide, by decide, ?_⟩
      rw [q0, q1]
      have hs2 : Mv [τ] M1 ow (wIns M1 e (bsW (va_cpy r' r 0 0 1))) ow := Mv.wr (t0 hτ) (by rw [hE1.2.1]; simp) hE1.1 _ (fun _ _ x => by cases x)
      refine oIs.i (fs := [.ref e, .int (nI 1), .int st]) ?_ (S_bsInv ?_)
      · rw [wIns_ne _ _ (fun x => hea x.symm)]; exact hA1.1
      · refine hQ _ (hs1.tr hs2) ⟨e, st, _, 1, hA1.off (fun x => hea x.symm) _, hE1.wr _, ?_, .inr ⟨by rw [h4, z_or]; exact g4, rfl⟩⟩
        unfold va_cpy
        rw [if_pos (by decide), h4, z_or]
        exact g3
    · subst h5
      have emin : (if nI 1 < nI 1 then nI 1 else nI 1) = nI 1 := by decide
      rw [emin]
      refine oIf.y (by decide) ⟨2, ?_⟩
      unfold L_J9_or_47; unfold B_J9_or_47
      refine oIf.n (by decide) (oGetA.i h1.1 rfl (oLald.e (i := 0) rfl h2.1 (by decide) (by decide) (oGetA.i g1.1 rfl (oLald.e (i := 0) rfl g2.1 (by decide) (by decide) ?_))))
      refine oLast.m h2 hτ (i := 0) rfl (by decide) (by decide) fun M2 e2 hs2 hE2 => ?_
      have hA2 : Cl G M2 ow τ a (bsC e 1 st) := by rw [e2]; exact h1.off (fun x => hea x.symm) _
      have hP2 := g1.stp hs2 (by simpa using fun x => hne x.symm)
      unfold L_J9_or_47; unfold B_J9_or_47
      refine oIf.y (by decide) (oGetI.i hP2.1 rfl (oIf.y (by decide) (oIs.i hA2.1 (S_bsInv ?_))))
      refine hQ M2 hs2 ⟨e, st, _, 1, hA2, hE2, ?_, .inr ⟨or_0 h4, rfl⟩⟩
      unfold vp_updL; rw [if_pos rfl, h3, g3]
theorem S_bsset (h : BS G M ow τ a w) (hτ : τ ≠ 0) {k : Nat} (hk : k < 64) {b : Nat} {Q : wM → Prop} (hQ : ∀ M1, Mv [τ] M ow M1 ow → BS G M1 ow τ a (w ||| bm k) → Q M1) : P_J9_set G a (nI k) b M Q := by
  obtain ⟨e, st, r, wi, h1, h2, h3, h4⟩ := h
  have hea : e ≠ a := fun x => by have := h2.1; rw [x, h1.1] at this; cases this
  refine oIf.y (nI_pos' (by omega)) ?_
  unfold P_J9_wordIndex
  rw [nI_w6 hk]
  have fin : ∀ M1 (b : Nat), Mv [τ] M ow M1 ow → Cl G M1 ow τ a (bsC e 1 st) → Cl G M1 ow τ e (bsW r) → oGetA M1 a 21 0 (fun a6 => oLald M1 a6 0 (fun v7 => oLast G M1 a6 0 (v7 ||| ((1 : Int64) <<< ((nI k).toInt64 &&& 63))) (fun M8 => oIs M8 a 21 (P_J9_checkInvariants G a M8 (fun M9 => Q M9))))) := by
    intro M1 b hs hA hE
    refine oGetA.i hA.1 rfl (oLald.e (i := 0) rfl hE.1 (by decide) (by decide) ?_)
    refine oLast.m hE hτ (i := 0) rfl (by decide) (by decide) fun M2 e2 hs2 hE2 => ?_
    have hA2 : Cl G M2 ow τ a (bsC e 1 st) := by rw [e2]; exact hA.off (fun x => hea x.symm) _
    refine oIs.i hA2.1 (S_bsInv (hQ M2 (hs.tr hs2) ⟨e, st, _, 1, hA2, hE2, ?_, .inr ⟨bm_ne hk, rfl⟩⟩))
    unfold vp_updL; rw [if_pos rfl, h3]; rfl
  refine oIs.i h1.1 ⟨b, Nat.le_refl _, oGetI.i h1.1 rfl ?_⟩
  rcases h4 with ⟨h4, h5⟩ | ⟨h4, h5⟩
  · subst h5
    refine oIf.n (by decide) (oIs.i h1.1 ⟨b, Nat.le_refl _, oGetA.i h1.1 rfl (oAlen.i h2.1 (oIf.y (by decide) ?_))⟩)
    unfold B_J9_ensureCapacity_38
    refine oPut.m h1 hτ (Nat.le_of_ble_eq_true rfl) (fs1 := [.ref e, .int (nI 1), .int st]) rfl fun M1 e1 hs1 hA1 => ?_
    exact fin M1 b hs1 hA1 (by rw [e1]; exact h2.off hea _)
  · subst h5
    exact oIf.y (by decide) (fin M b (Mv.rf (t0 hτ)) h1 h2)
theorem S_bsclr (h : BS G M ow τ a w) (hτ : τ ≠ 0) {k : Nat} (hk : k < 64) {Q : wM → Prop} (hQ : ∀ M1, Mv [τ] M ow M1 ow → BS G M1 ow τ a (w &&& (bm k ^^^ (-1))) → Q M1) : P_J9_clear G a (nI k) M Q := by
  obtain ⟨e, st, r, wi, h1, h2, h3, h4⟩ := h
  have hea : e ≠ a := fun x => by have := h2.1; rw [x, h1.1] at this; cases this
  refine oIf.y (nI_pos' (by omega)) ?_
  unfold P_J9_wordIndex
  rw [nI_w6 hk]
  refine oGetI.i h1.1 rfl ?_
  rcases h4 with ⟨h4, h5⟩ | ⟨h4, h5⟩
  · subst h5
    refine oIf.n (by decide) (hQ M (Mv.rf (t0 hτ)) ⟨e, st, r, 0, h1, h2, ?_, .inl ⟨?_, rfl⟩⟩)
    · rw [h3, h4]; exact (Int64.zero_and).symm
    · rw [h4]; exact Int64.zero_and
  · subst h5
    refine oIf.y (by decide) (oGetA.i h1.1 rfl (oLald.e (i := 0) rfl h2.1 (by decide) (by decide) ?_))
    refine oLast.m h2 hτ (i := 0) rfl (by decide) (by decide) fun M2 e2 hs2 hE2 => ?_
    have hA2 : Cl G M2 ow τ a (bsC e 1 st) := by rw [e2]; exact h1.off (fun x => hea x.symm) _
    have hv : vp_updL r 0 (r 0 &&& ((1 : Int64) <<< ((nI k).toInt64 &&& 63) ^^^ (-1))) 0 = w &&& (bm k ^^^ (-1)) := by unfold vp_updL; rw [if_pos rfl, h3]; rfl
    have fin : ∀ x wi', x = nI wi' - 1 → (w &&& (bm k ^^^ (-1)) = 0 ∧ wi' = 0 ∨ w &&& (bm k ^^^ (-1)) ≠ 0 ∧ wi' = 1) → B_J9_recalculateWordsInUse_31 G (fun M8 => oIs M8 a 21 (P_J9_checkInvariants G a M8 (fun M10 => Q M10))) a x M2 := by
      intro x wi' hx hw
      have ex : x + 1 = nI wi' := by rw [hx]; rcases hw with ⟨-, y⟩ | ⟨-, y⟩ <;> subst y <;> decide
      refine oPut.m hA2 hτ (Nat.le_of_ble_eq_true rfl) (fs1 := [.ref e, .int (nI wi'), .int st]) (by rw [ex]; rfl) fun M3 e3 hs3 hA3 => ?_
      exact oIs.i hA3.1 (S_bsInv (hQ M3 (hs2.tr hs3) ⟨e, st, _, wi', hA3, by rw [e3]; exact hE2.off hea _, hv, hw⟩))
    refine oIs.i hA2.1 (oGetI.i hA2.1 rfl ?_)
    by_cases c : w &&& (bm k ^^^ (-1)) = 0
    · refine ⟨2, ?_⟩
      unfold L_J9_recalculateWordsInUse_7; unfold B_J9_recalculateWordsInUse_7
      refine oIf.n (by decide) (oGetA.i hA2.1 rfl (oLald.e (i := 0) rfl hE2.1 (by decide) (by decide) ?_))
      rw [hv]
      refine oIf.y (cmp0.mpr c) ?_
      unfold L_J9_recalculateWordsInUse_7; unfold B_J9_recalculateWordsInUse_7
      exact oIf.y (by decide) (fin _ 0 (by decide) (.inl ⟨c, rfl⟩))
    · refine ⟨1, ?_⟩
      unfold L_J9_recalculateWordsInUse_7; unfold B_J9_recalculateWordsInUse_7
      refine oIf.n (by decide) (oGetA.i hA2.1 rfl (oLald.e (i := 0) rfl hE2.1 (by decide) (by decide) ?_))
      rw [hv]
      exact oIf.n (fun x => c (cmp0.mp x)) (fin _ 1 (by decide) (.inr ⟨c, rfl⟩))
end JDK3
