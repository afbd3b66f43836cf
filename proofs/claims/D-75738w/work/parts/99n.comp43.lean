set_option maxRecDepth 100000
/-! STAGE 2, component, reading 12: an empty setup, a new reader -/
def D0k (D : Rw) : Prop := (∀ j, j < 3 → D j = 0) ∧ D 111 = 30 ∧ D 112 = 24 ∧ D 113 = 5 ∧ (∀ k, k < 6 → D (114 + k) = 10 * (nI k + 1)) ∧ ∀ j, 120 ≤ j → j < 129 → D j = 0
theorem D0k.z {D : Rw} (h : D0k D) : nz D = 0 ∧ ns D = 0 ∧ nh D = 0 := by
  unfold nz ns nh
  rw [h.1 0 (by decide), h.1 1 (by decide), h.1 2 (by decide)]
  exact ⟨rfl, rfl, rfl⟩
theorem clrD_k (D : Rw) : D0k (clrD D) := by
  unfold clrD
  refine ⟨fun j hj => ?_, ?_, ?_, ?_, fun k hk => ?_, fun j h1 h2 => ?_⟩
  · rw [lay_out (by omega), upd_ne _ _ (by omega), upd_ne _ _ (by omega), upd_ne _ _ (by omega), lay_in (by omega) (by omega)]; rfl
  · rw [lay_out (by omega), upd_ne _ _ (by omega), upd_ne _ _ (by omega), upd_eq]
  · rw [lay_out (by omega), upd_ne _ _ (by omega), upd_eq]
  · rw [lay_out (by omega), upd_eq]
  · rw [lay_in (by omega) (by omega), show 114 + k - 114 = k by omega]
  · rw [lay_out (by omega), upd_ne _ _ (by omega), upd_ne _ _ (by omega), upd_ne _ _ (by omega), lay_in (by omega) (by omega)]; rfl
section C43
variable {G : wG} {M : wM} {ow : Nat → Nat} {a n t : Nat} {u : Nat × (Nat → Nat)} {B : Rw} {p p1 : PS} {D E : Rw} {l l1 : Nat → Nat → Int64} {cc c1 : Nat → Nat}
def tS : List Nat := [20, 30, 29]
theorem R_x3 {s b : Nat} {ll : Nat → Nat → Int64} (hA : Cl G M ow 20 s (.inr (2, [.null, .null, .null, .null, .null, .int 0, .int 0, .int 0]))) (hc : Cl G M ow 0 (G.2.2.2 1) (oarr 0 (fun _ => none))) (hD : D0k D) (hb : 300 ≤ b) {Q : wM → Prop} (hQ : ∀ M1 ow1 y, Mv tS M ow M1 ow1 → SRP G ll M1 ow1 s y D (nmC D) → Q M1) : P_X3_init G s b M Q := by
  have n20 : (20 : Nat) ≠ 0 := by decide
  have up20 : ∀ {M1 M2 : wM} {ow1 ow2 : Nat → Nat}, Mv [20] M1 ow1 M2 ow2 → Mv tS M1 ow1 M2 ow2 := fun h => h.mono (by decide) (by decide)
  have up0 : ∀ {M1 M2 : wM} {ow1 ow2 : Nat → Nat}, Mv [] M1 ow1 M2 ow2 → Mv tS M1 ow1 M2 ow2 := fun h => h.mono (by simp) (by decide)
  unfold P_X3_init
  refine nAL hc 23 (fun _ => 0) (by omega) fun z1 M1 ow1 f1 hs1 _ h1 => ?_
  have hA1 := hA.stp hs1 (by simp)
  have hc1 := hc.stp hs1 (by simp)
  refine oPut.m hA1 n20 (Nat.le_of_ble_eq_true rfl) (fs1 := [.ref z1, .null, .null, .null, .null, .int 0, .int 0, .int 0]) rfl fun M2 e2 hs2 hA2 => ?_
  have hc2 := hc1.stp hs2 (by decide)
  have l0 := h1.stp hs2 (by decide)
  have s0 := (up0 hs1).tr (up20 hs2)
  refine nAL hc2 24 (fun _ => 0) (by omega) fun z2 M3 ow3 f3 hs3 _ h3 => ?_
  have hA3 := hA2.stp hs3 (by simp)
  have hc3 := hc2.stp hs3 (by simp)
  have l0 := l0.stp hs3 (by simp)
  refine oPut.m hA3 n20 (Nat.le_of_ble_eq_true rfl) (fs1 := [.ref z1, .ref z2, .null, .null, .null, .int 0, .int 0, .int 0]) rfl fun M4 e4 hs4 hA4 => ?_
  have hc4 := hc3.stp hs4 (by decide)
  have l1 := h3.stp hs4 (by decide)
  have l0 := l0.stp hs4 (by decide)
  have s1 := (s0.tr (up0 hs3)).tr (up20 hs4)
  refine nAL hc4 25 (fun _ => 0) (by omega) fun z3 M5 ow5 f5 hs5 _ h5 => ?_
  have hA5 := hA4.stp hs5 (by simp)
  have hc5 := hc4.stp hs5 (by simp)
  have l0 := l0.stp hs5 (by simp)
  have l1 := l1.stp hs5 (by simp)
  refine oPut.m hA5 n20 (Nat.le_of_ble_eq_true rfl) (fs1 := [.ref z1, .ref z2, .ref z3, .null, .null, .int 0, .int 0, .int 0]) rfl fun M6 e6 hs6 hA6 => ?_
  have hc6 := hc5.stp hs6 (by decide)
  have l2 := h5.stp hs6 (by decide)
  have l0 := l0.stp hs6 (by decide)
  have l1 := l1.stp hs6 (by decide)
  have s2 := (s1.tr (up0 hs5)).tr (up20 hs6)
  refine nAL hc6 30 (fun _ => 0) (by omega) fun z4 M7 ow7 f7 hs7 _ h7 => ?_
  have hA7 := hA6.stp hs7 (by simp)
  have hc7 := hc6.stp hs7 (by simp)
  have l0 := l0.stp hs7 (by simp)
  have l1 := l1.stp hs7 (by simp)
  have l2 := l2.stp hs7 (by simp)
  refine oPut.m hA7 n20 (Nat.le_of_ble_eq_true rfl) (fs1 := [.ref z1, .ref z2, .ref z3, .ref z4, .null, .int 0, .int 0, .int 0]) rfl fun M8 e8 hs8 hA8 => ?_
  have hc8 := hc7.stp hs8 (by decide)
  have l3 := h7.stp hs8 (by decide)
  have l0 := l0.stp hs8 (by decide)
  have l1 := l1.stp hs8 (by decide)
  have l2 := l2.stp hs8 (by decide)
  have s3 := (s2.tr (up0 hs7)).tr (up20 hs8)
  refine oNewa.m (ow := ow7) (n := 7) 29 rfl (by decide) (by omega) fun ra M9 hq9 hz9 e9 hs9 hR9 => ?_
  have hA9 := hA8.stp hs9 (by simp)
  have hc9 := hc8.stp hs9 (by simp)
  have l0 := l0.stp hs9 (by simp)
  have l1 := l1.stp hs9 (by simp)
  have l2 := l2.stp hs9 (by simp)
  have l3 := l3.stp hs9 (by simp)
  have s9 := s3.tr (up0 hs9)
  have st : ∀ {M1 : wM} {ow1 : Nat → Nat} {g : Nat → Int32} {i : Nat} {x : Int32} {κ : wM → Prop}, (Cl G M1 ow1 29 ra (.inl (.int, 7, .inl g)) ∧ Cl G M1 ow1 20 s (.inr (2, [.ref z1, .ref z2, .ref z3, .ref z4, .null, .int 0, .int 0, .int 0])) ∧ Cl G M1 ow1 0 (G.2.2.2 1) (oarr 0 (fun _ => none)) ∧ ALe G M1 ow1 23 z1 0 (fun _ => 0) ∧ ALe G M1 ow1 24 z2 0 (fun _ => 0) ∧ ALe G M1 ow1 25 z3 0 (fun _ => 0) ∧ ALe G M1 ow1 30 z4 0 (fun _ => 0) ∧ Mv tS M ow M1 ow1) → i < 7 → (∀ M2, (Cl G M2 ow1 29 ra (.inl (.int, 7, .inl (upd g i x))) ∧ Cl G M2 ow1 20 s (.inr (2, [.ref z1, .ref z2, .ref z3, .ref z4, .null, .int 0, .int 0, .int 0])) ∧ Cl G M2 ow1 0 (G.2.2.2 1) (oarr 0 (fun _ => none)) ∧ ALe G M2 ow1 23 z1 0 (fun _ => 0) ∧ ALe G M2 ow1 24 z2 0 (fun _ => 0) ∧ ALe G M2 ow1 25 z3 0 (fun _ => 0) ∧ ALe G M2 ow1 30 z4 0 (fun _ => 0) ∧ Mv tS M ow M2 ow1) → κ M2) → oIast G M1 ra (nI i) x κ := fun ⟨k1, k2, k3, k4, k5, k6, k7, k8⟩ hi hk =>
    oIast.m k1 (by decide) rfl hi (by decide) fun M2 e2 hs2 hR2 => hk M2 ⟨hR2, k2.stp hs2 (by decide), k3.stp hs2 (by decide), k4.stp hs2 (by decide), k5.stp hs2 (by decide), k6.stp hs2 (by decide), k7.stp hs2 (by decide), k8.tr (hs2.mono (by decide) (by decide))⟩
  refine st (i := 0) ⟨hR9, hA9, hc9, l0, l1, l2, l3, s9⟩ (by decide) fun M10 k10 => ?_
  refine st (i := 1) k10 (by decide) fun M11 k11 => ?_
  refine st (i := 2) k11 (by decide) fun M12 k12 => ?_
  refine st (i := 3) k12 (by decide) fun M13 k13 => ?_
  refine st (i := 4) k13 (by decide) fun M14 k14 => ?_
  refine st (i := 5) k14 (by decide) fun M15 k15 => ?_
  refine st (i := 6) k15 (by decide) fun M16 k16 => ?_
  obtain ⟨hR, hA, hc, l0, l1, l2, l3, hs⟩ := k16
  generalize hra : (upd (upd (upd (upd (upd (upd (upd (fun _ => 0) 0 0) 1 10) 2 20) 3 30) 4 40) 5 50) 6 60 : Nat → Int32) = rr at hR
  have hr0 : rr 0 = 0 ∧ ∀ k, 1 ≤ k → k ≤ 6 → rr k = D (113 + k) := by
    subst hra
    refine ⟨rfl, fun k h1 h2 => ?_⟩
    have := hD.2.2.2.2.1 (k - 1) (by omega)
    rw [show 114 + (k - 1) = 113 + k by omega] at this
    rw [this]
    have hk : k = 1 ∨ k = 2 ∨ k = 3 ∨ k = 4 ∨ k = 5 ∨ k = 6 := by omega
    rcases hk with e | e | e | e | e | e <;> subst e <;> decide
  refine oPut.m hA n20 (Nat.le_of_ble_eq_true rfl) (fs1 := [.ref z1, .ref z2, .ref z3, .ref z4, .ref ra, .int 0, .int 0, .int 0]) rfl fun M17 e17 hs17 hA17 => ?_
  refine oPut.m hA17 n20 (Nat.le_of_ble_eq_true rfl) (fs1 := [.ref z1, .ref z2, .ref z3, .ref z4, .ref ra, .int 30, .int 0, .int 0]) rfl fun M18 e18 hs18 hA18 => ?_
  refine oPut.m hA18 n20 (Nat.le_of_ble_eq_true rfl) (fs1 := [.ref z1, .ref z2, .ref z3, .ref z4, .ref ra, .int 30, .int 24, .int 0]) rfl fun M19 e19 hs19 hA19 => ?_
  refine oPut.m hA19 n20 (Nat.le_of_ble_eq_true rfl) (fs1 := [.ref z1, .ref z2, .ref z3, .ref z4, .ref ra, .int 30, .int 24, .int 5]) rfl fun M20 e20 hs20 hA20 => ?_
  have hss := ((hs17.tr hs18).tr hs19).tr hs20
  have hR := hR.stp hss (by decide)
  have hc := hc.stp hss (by decide)
  have l0 := l0.stp hss (by decide)
  have l1 := l1.stp hss (by decide)
  have l2 := l2.stp hss (by decide)
  have l3 := l3.stp hss (by decide)
  have hs := hs.tr (up20 hss)
  obtain ⟨d1, d2, d3⟩ := hD.z
  have key := st_loop (F := fun m k => ∀ M2 ow2 gl b, 70 * (3 - k) ≤ b → Mv tS M ow M2 ow2 → Cl G M2 ow2 20 s (.inr (2, [.ref z1, .ref z2, .ref z3, .ref z4, .ref ra, .int 30, .int 24, .int 5])) → Cl G M2 ow2 0 (G.2.2.2 1) (oarr 0 (fun _ => none)) → Cl G M2 ow2 29 ra (.inl (.int, 7, .inl rr)) → ALe G M2 ow2 23 z1 0 (fun _ => 0) → ALe G M2 ow2 24 z2 0 (fun _ => 0) → ALe G M2 ow2 25 z3 0 (fun _ => 0) → ALe G M2 ow2 30 z4 k gl → (∀ c, c < k → ALe G M2 ow2 (26 + c) (gl c) 0 (fun _ => 0)) → L_X3_init_110 G Q m s (nI k) M2 b) (N := 3) (fun m M2 ow2 gl b hb2 q1 q2 q3 q4 q5 q6 q7 q8 q9 => ?_) (fun m k hk ih M2 ow2 gl b hb2 q1 q2 q3 q4 q5 q6 q7 q8 q9 => ?_) 0 (Nat.zero_le _)
  · obtain ⟨m, hm⟩ := key
    exact ⟨m, hm M20 _ _ _ (by simp; omega) hs hA20 hc hR l0 l1 l2 l3 (fun c hc => by omega)⟩
  · unfold L_X3_init_110; unfold B_X3_init_110
    refine oIf.y (by decide) (hQ M2 ow2 (fun i => if i = 9 then (fun j => if j = 0 then z1 else if j = 1 then z2 else if j = 2 then z3 else if j = 3 then z4 else ra) else fun _ => 0) q1 ⟨?_, ⟨?_, fun z hz => ?_⟩, ⟨?_, fun z hz => ?_⟩, ⟨?_, fun z hz => ?_⟩, ⟨rr, q4, hr0⟩, gl, fun _ _ => 0, q8, fun c hc => ?_⟩)
    · unfold suC
      rw [hD.2.1, hD.2.2.1, hD.2.2.2.1]
      exact q2
    · rw [d1]; exact q5
    · rw [d1] at hz; omega
    · rw [d2]; exact q6
    · rw [d2] at hz; omega
    · rw [d3]; exact q7
    · rw [d3] at hz; omega
    · have e : nmC D c = 0 := by unfold nmC; rw [d1, d2, d3]; split <;> (try split) <;> rfl
      rw [e]
      exact ⟨q9 c hc, fun j hj => by omega⟩
  · unfold L_X3_init_110; unfold B_X3_init_110
    refine oIf.n (nI_ge (b := 3) hk (by decide)) (oGetA.i q2.1 rfl (nAL q3 (26 + k) (fun _ => 0) (by omega) fun z M3 ow3 f3 hs3 ez3 h3 => ?_))
    have x8 := q8.stp hs3 (by simp)
    obtain ⟨mc, x8⟩ := x8
    have h3' := h3
    obtain ⟨mc3, h3'⟩ := h3'
    obtain ⟨ee, he⟩ := h3'.o
    refine isA ⟨mc, x8⟩ ⟨66, by omega, S_add x8 (by decide) (by omega) (by omega) ⟨_, he⟩ fun M4 ow4 hs4 hA4 => ?_⟩
    have ne : ∀ c, c < 3 → 26 + c ∉ [30] := fun c hc => by simp; omega
    rw [nI_1]
    refine ih M4 ow4 (va_up gl k z) _ (by omega) ((q1.tr (up0 hs3)).tr (hs4.mono (by decide) (by decide))) ((q2.stp hs3 (by simp)).stp hs4 (by decide)) ((q3.stp hs3 (by simp)).stp hs4 (by decide)) ((q4.stp hs3 (by simp)).stp hs4 (by decide)) ((q5.stp hs3 (by simp)).stp hs4 (by decide)) ((q6.stp hs3 (by simp)).stp hs4 (by decide)) ((q7.stp hs3 (by simp)).stp hs4 (by decide)) ⟨_, hA4⟩ fun c hc => ?_
    by_cases e : c = k
    · rw [e, va_up_self]; exact h3.stp hs4 (ne k hk)
    · rw [va_up_ne _ _ e]; exact ((q9 c (by omega)).stp hs3 (by simp)).stp hs4 (ne c (by omega))
end C43
