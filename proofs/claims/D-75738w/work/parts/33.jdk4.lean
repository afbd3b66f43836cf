set_option maxRecDepth 100000
/-! STAGE 2, JDK 4: addAll; a new object is filled; ArrayDeque of 17 places -/
def ALe (G : wG) (M : wM) (ow : Nat → Nat) (τ a n : Nat) (g : Nat → Nat) : Prop := ∃ mc, AL G M ow τ a n g mc
def LLe (G : wG) (M : wM) (ow : Nat → Nat) (τ a n : Nat) (nd g : Nat → Nat) : Prop := ∃ mc, LL G M ow τ a n nd g mc
theorem oPut.f {G : wG} {M : wM} {q ci k : Nat} {fs : List Value} {v : Value} {κ : wM → Prop} (hk : k < fs.length) (hz : wz G ≤ q) (hp : κ (wIns M q (.inr (ci, fs.set k v)))) : oPut G (wIns M q (.inr (ci, fs))) q ci k v κ :=
  oPut.i (wIns_eq _ _ _) hk hz (by rw [wIns_wIns]; exact hp)
def apL (n : Nat) (g gs : Nat → Nat) : Nat → Nat := fun k => if k < n then g k else gs (k - n)
section JDK4
variable {G : wG} {M : wM} {ow : Nat → Nat} {τ a n : Nat} {g : Nat → Nat} {mc : Int32}
theorem S_addAll (h : AL G M ow τ a n g mc) (hτ : τ ≠ 0) {σ p m b : Nat} {gs : Nat → Nat} {mcs : Int32} (hp : AL G M ow σ p m gs mcs) (hσ : τ ≠ σ) (hnm : n + m ≤ 200) (hb : 2 * n + 2 * m + 60 ≤ b) {Q : Bool → wM → Prop} (hQ : ∀ r M1 ow1, Mv [τ] M ow M1 ow1 → ALe G M1 ow1 τ a (n + m) (apL n g gs) → Q r M1) : P_J2_addAll G a p b M Q := by
  obtain ⟨ep, cp, rp, p1, p2, p3, p4, p5, p6, p7, p8⟩ := hp.arr
  refine oIs.i p1 ⟨m + 1, by omega, oGetA.i p1 rfl (oGetI.i p1 rfl ⟨m + 1, Nat.le_refl _, ?_⟩)⟩
  refine S_copyOf (ow := ow) p2 (by omega) p7 (by omega) (Nat.le_refl _) 0 fun q M1 r1 hq e1 hs1 hC1 hr1 => ?_
  have h1 := AL.stp h hs1 (by simp)
  obtain ⟨g1, g2, e, cap, r, i1, i2, i3, i4, i5, i6⟩ := h1
  refine oGetI.i i1.1 rfl (oPut.m i1 hτ (Nat.le_of_ble_eq_true rfl) (fs1 := [.int (mc + 1), .ref e, .int (nI n)]) rfl fun M2 e2 hs2 hA2 => ?_)
  have hqa : q ≠ a := fun x => by have := hC1.1; rw [x, i1.1] at this; cases this
  have hC2 : Cl G M2 (va_up ow q 0) 0 q (oarr m r1) := by rw [e2]; exact hC1.off hqa _
  have hst : Mv [τ] M ow M2 (va_up ow q 0) := (hs1.mono (by simp) (t0 hτ)).tr hs2
  have hal : AL G M2 (va_up ow q 0) τ a n g (mc + 1) := by
    refine ⟨g1, fun k hk => (g2 k hk).stp hs2, e, cap, r, hA2, i2, i3, i4, i5, ?_⟩
    rcases i6 with ⟨j1, j2, j3⟩ | ⟨j1, j2⟩
    · exact .inl ⟨j1, j2.stp hs2 hs2.1, j3⟩
    · exact .inr ⟨j1, by rw [e2]; exact j2.off (fun x => by have := j2.1; rw [x, i1.1] at this; cases this) _⟩
  refine oRef.s (oAlen.i hC2.1 ?_)
  by_cases c0 : m = 0
  · subst c0
    refine oIf.y rfl (hQ _ M2 _ hst ⟨mc + 1, ?_⟩)
    obtain ⟨g1', g2', e', cap', r', i1', i2', i3', i4', i5', i6'⟩ := hal
    refine ⟨g1', fun k hk => by unfold apL; rw [if_pos (by omega)]; exact g2' k (by omega), e', cap', r', i1', i2', i3', fun k hk => by unfold apL; rw [if_pos (by omega)]; exact i4' k (by omega), i5', i6'⟩
  refine oIf.n (fun x => c0 (nI_inj (by omega) (by decide) x)) ?_
  have fin : ∀ {M3 : wM} {ow3 : Nat → Nat} {e3 cap3 : Nat} {r3 : Nat → Option Nat} (b : Nat), Mv [τ] M2 (va_up ow q 0) M3 ow3 → Cl G M3 ow3 0 q (oarr m r1) → Cl G M3 ow3 τ a (alC (mc + 1) e3 n) → Cl G M3 ow3 τ e3 (oarr cap3 r3) → n + m ≤ cap3 → cap3 ≤ 2 * (n + m) + 16 → (∀ k, k < n → r3 k = some (g k)) → (∀ k, n ≤ k → r3 k = none) → B_J2_addAll_56 G Q a q (nI m) (some e3) (nI n) M3 b := by
    intro M3 ow3 e3 cap3 r3 b hs3 hq3 hA3 hE3 k1 k2 k3 k4
    have hne : a ≠ e3 := hA3.ne hE3 (by simp)
    have z0 : (0 : Int32).toNatClampNeg = 0 := rfl
    refine oRef.s ⟨m, r1, cap3, r3, hq3.1, hE3.1, hE3.2.2 hτ, by decide, nI_pos (by omega), nI_pos (by omega), ?_, ?_, ?_, ?_⟩
    · rw [nI_clamp (by omega), z0]; omega
    · rw [nI_clamp (by omega), nI_clamp (by omega)]; omega
    · intro j _ v hv
      rw [z0, hr1] at hv
      split at hv
      · exact ((p7 _ _ hv).stp hst).stp hs3
      · cases hv
    · rw [nI_clamp (by omega), nI_clamp (by omega), z0]
      have hs4 : Mv [τ] M3 ow3 (wIns M3 e3 (oarr cap3 (va_cpy r1 r3 0 n m))) ow3 := Mv.wr (t0 hτ) (by rw [hE3.2.1]; simp) hE3.1 _ (fun _ _ x => by cases x)
      refine oPut.m (hA3.off hne _) hτ (Nat.le_of_ble_eq_true rfl) (fs1 := [.int (mc + 1), .ref e3, .int (nI (n + m))]) (by rw [nI_add]; rfl) fun M5 e5 hs5 hA5 => ?_
      have hst5 := ((hst.tr hs3).tr hs4).tr hs5
      have hE5 : Cl G M5 ow3 τ e3 (oarr cap3 (va_cpy r1 r3 0 n m)) := by rw [e5]; exact (hE3.wr _).off (fun x => hne x.symm) _
      refine hQ _ M5 _ hst5 ⟨mc + 1, by omega, fun k hk => ?_, e3, cap3, _, hA5, k1, k2, fun k hk => ?_, fun k hk => ?_, .inr ⟨by omega, hE5⟩⟩
      · unfold apL
        by_cases c : k < n
        · rw [if_pos c]; exact (h.2.1 k c).stp hst5
        · rw [if_neg c]; exact (hp.2.1 (k - n) (by omega)).stp hst5
      · unfold apL va_cpy
        by_cases c : k < n
        · rw [if_pos c, if_neg (by omega)]; exact k3 k c
        · rw [if_neg c, if_pos (by omega), hr1, if_pos (by omega), Nat.zero_add, p6 (k - n) (by omega)]
      · unfold va_cpy
        rw [if_neg (by omega)]; exact k4 k (by omega)
  obtain ⟨e', cap', r', x1, x2, x3, x4, x5, x6, x7, x8⟩ := hal.arr
  have hee : e' = e := by have := hA2.1; rw [x1] at this; simpa using this
  subst hee
  refine oGetA.i hA2.1 rfl (oAlen.i x2 (oGetI.i hA2.1 rfl ?_))
  rw [nI_sub x3]
  by_cases c : m ≤ cap' - n
  · refine oIf.y (nI_le c (by omega)) ?_
    obtain ⟨_, _, e2', c2', r2', y1, y2, y3, y4, y5, y6⟩ := hal
    have hee2 : e2' = e' := by have := y1.1; rw [x1] at this; simpa using this.symm
    subst hee2
    rcases y6 with ⟨z1, z2, z3⟩ | ⟨z1, z2⟩
    · exfalso
      have : cap' = 0 := by have := z2.1; rw [x2] at this; simp at this; omega
      omega
    · have hcc : c2' = cap' ∧ r2' = r' := by have := z2.1; rw [x2] at this; simpa using Eq.symm this
      obtain ⟨rfl, rfl⟩ := hcc
      exact fin _ (Mv.rf (t0 hτ)) hC2 hA2 z2 (by omega) (by omega) x6 x8
  · refine oIf.n (nI_ge (by omega) (by omega)) (oIs.i hA2.1 ⟨b - (m + 1), Nat.le_refl _, ?_⟩)
    rw [nI_add]
    refine S_grow_2 hal hτ (by omega) (by omega) (fun e2 c2 y1 y2 => ?_) (by omega) fun q3 M3 ow3 cap3 r3 hs3 hA3 hE3 k1 k2 k3 k4 => ?_
    · have : e2 = e' := by rw [hA2.1] at y1; simpa using y1.symm
      subst this
      obtain ⟨r3, y2⟩ := y2
      rw [x2] at y2
      have : cap' = c2 := by simpa using congrArg (fun z => match z with | some (.inl (_, n, _)) => n | _ => 0) y2
      omega
    · exact fin _ hs3 (hC2.stp hs3 (t0 hτ)) hA3 hE3 k1 k2 k3 k4
end JDK4
