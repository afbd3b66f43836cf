set_option maxRecDepth 100000
/-! STAGE 2, component, reading 13: a new reader -/
/-- what a reader finds: office, buffer, constant texts -/
def BAS (G : wG) (M : wM) (ow : Nat → Nat) (a n : Nat) (B : Rw) : Prop :=
  (∃ bk sv dq bf ec eo sb, Cl G M ow 2 a (ofC bk sv dq bf n ec eo sb) ∧ CB G M ow bf n B) ∧
  (∀ k, k < 16 → STR G M ow 0 (G.2.2.2 (10 + k)) (wln k) (kwR k)) ∧
  ∃ v r, Cl G M ow 0 (G.2.2.2 26) (.inr (24, [.ref v, .int 0, .int 0, .int 1])) ∧ Cl G M ow 0 v (.inl (.byte, 0, .inl r))
abbrev sarr (g : Nat → Option Nat) : wE := .inl (.object "java/lang/String", 16, .inr (.inr (.inr (.inr g))))
section C44
variable {G : wG} {M M1 : wM} {ow ow1 : Nat → Nat} {T : List Nat} {a n t : Nat} {u : Nat × (Nat → Nat)} {B : Rw} {p p1 : PS} {D E : Rw} {l l1 : Nat → Nat → Int64} {cc c1 : Nat → Nat}
theorem BAS.stp (h : BAS G M ow a n B) (hs : Mv T M ow M1 ow1) (h2 : 2 ∉ T) (h4 : 4 ∉ T) : BAS G M1 ow1 a n B := by
  obtain ⟨⟨bk, sv, dq, bf, ec, eo, sb, e1, e2, r, e3, e4⟩, k1, v, r2, e5, e6⟩ := h
  exact ⟨⟨bk, sv, dq, bf, ec, eo, sb, e1.stp hs h2, e2, r, e3.stp hs h4, e4⟩, fun k hk => (k1 k hk).stp hs hs.1, v, r2, e5.stp hs hs.1, e6.stp hs hs.1⟩
theorem BAS.n9 (h : BAS G M ow a n B) : n ≤ 900 := by obtain ⟨⟨bk, sv, dq, bf, ec, eo, sb, e1, e2, -⟩, -⟩ := h; exact e2
def FIL (G : wG) (M0 : wM) (ow0 : Nat → Nat) (M : wM) (ow : Nat → Nat) (a n : Nat) (B : Rw) (t q i : Nat) (C : wE) : Prop := (∃ g, Cl G M ow 31 q (sarr g) ∧ ∀ j, j < i → g j = some (G.2.2.2 (10 + j))) ∧ Cl G M ow 21 t C ∧ Cl G M ow 0 (G.2.2.2 1) (oarr 0 (fun _ => none)) ∧ BAS G M ow a n B ∧ Mv tQ M0 ow0 M ow
theorem S_fill {M0 : wM} {ow0 : Nat → Nat} {q i : Nat} {C : wE} (h : FIL G M0 ow0 M ow a n B t q i C) (hi : i < 16) {κ : wM → Prop} (hp : ∀ M1, FIL G M0 ow0 M1 ow a n B t q (i + 1) C → κ M1) : oAast G (.object "java/lang/String") M q (nI i) (some (G.2.2.2 (10 + i))) κ := by
  obtain ⟨⟨g, h1, h2⟩, h3, h4, h5, h6⟩ := h
  refine oAast.m h1 (by decide) rfl hi (by decide) (fun v e => ?_) fun M1 _ hs hC => hp M1 ⟨⟨_, hC, fun j hj => ?_⟩, h3.stp hs (by decide), h4.stp hs (by decide), h5.stp hs (by decide) (by decide), h6.tr (tq1 (x := 31) (by decide) hs)⟩
  · cases e
    obtain ⟨w, hh, z, k1, k2⟩ := h5.2.1 i hi
    exact .inr ⟨rfl, _, k1.1⟩
  · by_cases e : j = i
    · rw [e, va_up_self]
    · rw [va_up_ne _ _ e]; exact h2 j (by omega)
theorem R_new (hT : Cl G M ow 21 t (.inr (4, [.null, .null, .null, .int 0, .int 0, .int 0, .int 0, .null, .null]))) (hb0 : BAS G M ow a n B) (hc : Cl G M ow 0 (G.2.2.2 1) (oarr 0 (fun _ => none))) (hB : BYT B) (hD : D0k D) {x0 z0 o0 : Int32} {b : Nat} (hb : 29 * n + 400 ≤ b) {Q : wM → Prop} (hQ : ∀ M1 ow1 u, Mv tQ M ow M1 ow1 → PSTf G M1 ow1 a n B t u (nextP B n (0, 0, 0, x0, z0, 0, o0)) D l (nmC D) → Q M1) : P_X5_init G t a b M Q := by
  have n21 : (21 : Nat) ≠ 0 := by decide
  unfold P_X5_init
  refine oPut.m hT n21 (Nat.le_of_ble_eq_true rfl) (fs1 := [.null, .null, .null, .int 0, .int 0, .int 0, .int 0, .null, .ref a]) rfl fun M1 e1 hs1 hT1 => ?_
  refine oNewa.m (ow := ow) (n := 16) 31 rfl (by decide) (by omega) fun q M2 hq2 hz2 e2 hs2 hq => ?_
  have k0 : FIL G M ow M2 (va_up ow q 31) a n B t q 0 (.inr (4, [.null, .null, .null, .int 0, .int 0, .int 0, .int 0, .null, .ref a])) := ⟨⟨_, hq, fun j hj => by omega⟩, hT1.stp hs2 (by simp), (hc.stp hs1 (by decide)).stp hs2 (by simp), (hb0.stp hs1 (by decide) (by decide)).stp hs2 (by simp) (by simp), (tq1 (x := 21) (by decide) hs1).tr (tq0 hs2)⟩
  generalize va_up ow q 31 = ow2 at k0
  refine S_fill (i := 0) k0 (by decide) fun N0 k1 => ?_
  refine S_fill (i := 1) k1 (by decide) fun N1 k2 => ?_
  refine S_fill (i := 2) k2 (by decide) fun N2 k3 => ?_
  refine S_fill (i := 3) k3 (by decide) fun N3 k4 => ?_
  refine S_fill (i := 4) k4 (by decide) fun N4 k5 => ?_
  refine S_fill (i := 5) k5 (by decide) fun N5 k6 => ?_
  refine S_fill (i := 6) k6 (by decide) fun N6 k7 => ?_
  refine S_fill (i := 7) k7 (by decide) fun N7 k8 => ?_
  refine S_fill (i := 8) k8 (by decide) fun N8 k9 => ?_
  refine S_fill (i := 9) k9 (by decide) fun N9 k10 => ?_
  refine S_fill (i := 10) k10 (by decide) fun N10 k11 => ?_
  refine S_fill (i := 11) k11 (by decide) fun N11 k12 => ?_
  refine S_fill (i := 12) k12 (by decide) fun N12 k13 => ?_
  refine S_fill (i := 13) k13 (by decide) fun N13 k14 => ?_
  refine S_fill (i := 14) k14 (by decide) fun N14 k15 => ?_
  refine S_fill (i := 15) k15 (by decide) fun N15 k16 => ?_
  obtain ⟨⟨g, i1, i2⟩, i3, i4, i5, i6⟩ := k16
  -- the list
  refine ⟨20, by omega, oAlen.i i1.1 (oIf.n (by decide) (oIf.n (by decide) (oIf.n (by decide) ⟨20, Nat.le_refl _, oAlen.i i1.1 ?_⟩)))⟩
  refine oNewa.m (ow := ow2) (n := 16) 31 rfl (by decide) (by decide) fun ka M3 hq3 hz3 e3 hs3 hka => ?_
  have hne : q ≠ ka := fun e => by have := i1.1; rw [e, hq3] at this; cases this
  have i1 := i1.stp hs3 (by simp)
  have i3 := i3.stp hs3 (by simp)
  have i4 := i4.stp hs3 (by simp)
  have i5 := i5.stp hs3 (by simp) (by simp)
  have i6 := i6.tr (tq0 hs3)
  generalize va_up ow2 ka 31 = ow3 at *
  refine st_loop (F := fun m k => ∀ M4 g2, (∀ j, j < k → g2 j = some (G.2.2.2 (10 + j))) → Cl G M4 ow3 31 ka (oarr 16 g2) → Cl G M4 ow3 31 q (sarr g) → Cl G M4 ow3 21 t (.inr (4, [.null, .null, .null, .int 0, .int 0, .int 0, .int 0, .null, .ref a])) → Cl G M4 ow3 0 (G.2.2.2 1) (oarr 0 (fun _ => none)) → BAS G M4 ow3 a n B → Mv tQ M ow M4 ow3 → L_J10_listFromArray_8 G _ m q ka (nI k) M4 3) (N := 16) (fun m M4 g2 r1 r2 r3 r4 r5 r6 r7 => ?_) (fun m k hk ih M4 g2 r1 r2 r3 r4 r5 r6 r7 => ?_) 0 (Nat.zero_le _) |>.imp fun m h => h M3 _ (fun j hj => by omega) hka i1 i3 i4 i5 i6
  · unfold L_J10_listFromArray_8; unfold B_J10_listFromArray_8
    refine oAlen.i r3.1 (oIf.y (by decide) (oNew.m (ow := ow3) 31 (by simp) fun kl M5 hq5 hz5 e5 hs5 hkl => ?_))
    unfold P_J30_init P_J28_init_J30 P_J27_init_J30 P_J0_init_J30
    refine oPut.m hkl (by decide) (Nat.le_of_ble_eq_true rfl) (fs1 := [.ref ka, .int 0]) rfl fun M6 e6 hs6 hkl6 => ⟨by decide, ?_⟩
    refine oPut.m hkl6 (by decide) (Nat.le_of_ble_eq_true rfl) (fs1 := [.ref ka, .int 0]) rfl fun M7 e7 hs7 hkl7 => ?_
    have hnk : ka ≠ kl := fun e => by have := r2.1; rw [e, hq5] at this; cases this
    have r2 : Cl G M7 (va_up ow3 kl 31) 31 ka (oarr 16 g2) := by rw [e7, e6]; exact ((r2.stp hs5 (by simp)).off hnk _).off hnk _
    have hs57 := hs6.tr hs7
    have r4 := (r4.stp hs5 (by simp)).stp hs57 (by decide)
    have r5 := (r5.stp hs5 (by simp)).stp hs57 (by decide)
    have r6 := (r6.stp hs5 (by simp) (by simp)).stp hs57 (by decide) (by decide)
    have r7 := (r7.tr (tq0 hs5)).tr (tq1 (x := 31) (by decide) hs57)
    generalize va_up ow3 kl 31 = ow7 at *
    refine oPut.m r4 n21 (Nat.le_of_ble_eq_true rfl) (fs1 := [.ref kl, .null, .null, .int 0, .int 0, .int 0, .int 0, .null, .ref a]) rfl fun M8 e8 hs8 hT8 => ?_
    have r2 := r2.stp hs8 (by decide)
    have hkl8 := hkl7.stp hs8 (by decide)
    have r5 := r5.stp hs8 (by decide)
    have r6 := r6.stp hs8 (by decide) (by decide)
    have r7 := r7.tr (tq1 (x := 21) (by decide) hs8)
    -- the setup
    refine oNew.m (ow := ow7) 20 (by simp; omega) fun s M9 hq9 hz9 e9 hs9 hs => ?_
    have hT9 := hT8.stp hs9 (by simp)
    have r2 := r2.stp hs9 (by simp)
    have hkl9 := hkl8.stp hs9 (by simp)
    have r5 := r5.stp hs9 (by simp)
    have r6 := r6.stp hs9 (by simp) (by simp)
    have r7 := r7.tr (tq0 hs9)
    generalize va_up ow7 s 20 = ow9 at *
    refine ⟨300, by simp; omega, R_x3 (ll := fun c => l (23 + c)) hs r5 hD (Nat.le_refl _) fun M10 ow10 y hs10 hS10 => ?_⟩
    have hT10 := hT9.stp hs10 (by decide)
    have r2 := r2.stp hs10 (by decide)
    have hkl10 := hkl9.stp hs10 (by decide)
    have r6 := r6.stp hs10 (by decide) (by decide)
    have r7 := r7.tr (hs10.mono (U := tQ) (by decide) (by decide))
    refine oPut.m hT10 n21 (Nat.le_of_ble_eq_true rfl) (fs1 := [.ref kl, .ref s, .null, .int 0, .int 0, .int 0, .int 0, .null, .ref a]) rfl fun M11 e11 hs11 hT11 => ?_
    have r2 := r2.stp hs11 (by decide)
    have hkl11 := hkl10.stp hs11 (by decide)
    have r6 := r6.stp hs11 (by decide) (by decide)
    have r7 := r7.tr (tq1 (x := 21) (by decide) hs11)
    have hS11 := hS10.stp hs11 fun k hk => ne1 (by omega)
    -- once
    refine ⟨by simp; omega, fun on hqo hzo => ⟨2, by simp; omega, S_bsinit (ow := ow10) hqo hzo (τ := 32) (by decide) (Nat.le_refl _) fun M12 ow12 hs12 ho12 hO12 => ?_⟩⟩
    have hT12 := hT11.stp hs12 (by simp)
    refine oPut.m hT12 n21 (Nat.le_of_ble_eq_true rfl) (fs1 := [.ref kl, .ref s, .ref on, .int 0, .int 0, .int 0, .int 0, .null, .ref a]) rfl fun M13 e13 hs13 hT13 => ?_
    refine oPut.m hT13 n21 (Nat.le_of_ble_eq_true rfl) (fs1 := [.ref kl, .ref s, .ref on, .int 0, .int 0, .int 0, .int 0, .ref (G.2.2.2 26), .ref a]) rfl fun M14 e14 hs14 hT14 => ?_
    have h34 := hs13.tr hs14
    have r2 := (r2.stp hs12 (by simp)).stp h34 (by decide)
    have hkl14 := (hkl11.stp hs12 (by simp)).stp h34 (by decide)
    have r6 := (r6.stp hs12 (by simp) (by simp)).stp h34 (by decide) (by decide)
    have r7 := (r7.tr (tq0 hs12)).tr (tq1 (x := 21) (by decide) h34)
    have hS14 := (hS11.stp hs12 fun k hk => by simp).stp h34 fun k hk => ne1 (by omega)
    have hO14 := hO12.stp h34 (by decide)
    have hp : PST G M14 ow12 a n B t (s, y 9) (0, 0, 0, x0, z0, 0, o0) D l (nmC D) := by
      refine ⟨kl, s, on, G.2.2.2 26, y, ⟨⟨⟨Nat.zero_le _, Nat.le_refl _⟩, fun e => absurd (show (0 : Int32) = 1 from e) (by decide)⟩, ⟨0, hT14, fun e => absurd (show (0 : Int32) = 2 from e) (by decide)⟩, ⟨r6.1, r6.2.1, r6.2.2, ka, g2, hkl14, r2, r1⟩, ⟨0, hO14, fun j hj => ?_, fun r r1 r2 => ?_⟩, hS14⟩, fun e => absurd (show (0 : Int32) = 1 from e) (by decide), fun _ => rfl, rfl⟩
      · rw [bit_0, hD.2.2.2.2.2 (120 + j) (by omega) (by omega)]; simp
      · rw [bit_0, hD.2.2.2.2.2 (122 + r) (by omega) (by omega)]; simp
    have hno : (nextP B n (0, 0, 0, x0, z0, 0, o0)).1 ≤ n := (nextP_o (Nat.zero_le _)).1
    exact oIs.i hT14.1 ⟨29 * n, by simp; omega, C_adv hp hB (by omega) fun M15 ow15 hs15 g15 => hQ M15 ow15 _ (r7.tr hs15) g15⟩
  · unfold L_J10_listFromArray_8; unfold B_J10_listFromArray_8
    refine oAlen.i r3.1 (oIf.n (nI_ge (b := 16) hk (by decide)) (oAald.e rfl r3.1 hk (by decide) ?_))
    rw [i2 k hk]
    obtain ⟨w, hh, z, k1, k2⟩ := r6.2.1 k hk
    refine oRef.s ?_
    unfold P_J11_requireNonNull
    refine oAast.m r2 (by decide) rfl hk (by decide) (oObO ⟨_, k1.1⟩) fun M5 e5 hs5 hC5 => ?_
    rw [nI_1]
    have r3' : Cl G M5 ow3 31 q (sarr g) := by rw [e5]; exact r3.off hne _
    refine ih M5 _ (fun j hj => ?_) hC5 r3' (r4.stp hs5 (by decide)) (r5.stp hs5 (by decide)) (r6.stp hs5 (by decide) (by decide)) (r7.tr (tq1 (x := 31) (by decide) hs5))
    by_cases e : j = k
    · rw [e, va_up_self]
    · rw [va_up_ne _ _ e]; exact r1 j (by omega)
end C44
