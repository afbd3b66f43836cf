set_option maxRecDepth 100000
/-! STAGE 2, JDK 8: StringBuilder, String -/
theorem fitB (x : Int8) : fits .byte (.int x.toInt32) = true := by
  show (decide ((-128 : Int32) ≤ x.toInt32) && decide (x.toInt32 ≤ (127 : Int32))) = true
  rw [Bool.and_eq_true, decide_eq_true_eq, decide_eq_true_eq, Int32.le_iff_toInt_le, Int32.le_iff_toInt_le, Int8.toInt_toInt32]
  have h1 := Int8.le_toInt x
  have h2 := Int8.toInt_lt x
  refine ⟨?_, ?_⟩
  · show (-128 : Int) ≤ x.toInt
    omega
  · show x.toInt ≤ (127 : Int)
    omega
theorem fit0 : fits .byte (.int 0) = true := by decide
theorem nI_subT {a b : Nat} (ha : a < 2 ^ 30) (hb : b < 2 ^ 30) : (nI a - nI b).toInt = (a : Int) - b := by
  rw [Int32.toInt_sub, nI_toInt (by omega), nI_toInt (by omega)]
  apply Int.bmod_eq_of_le <;> omega
theorem nI_subLe {a b : Nat} (ha : a < 2 ^ 30) (hb : b < 2 ^ 30) : nI a - nI b ≤ 0 ↔ a ≤ b := by
  rw [Int32.le_iff_toInt_le, nI_subT ha hb]
  show (a : Int) - b ≤ (0 : Int) ↔ a ≤ b
  omega
theorem shl0 {x : Int32} : x <<< ((0 : Int32) &&& 31) = x := by
  have : ((0 : Int32) &&& 31) = 0 := by decide
  rw [this]
  exact Int32.shiftLeft_zero
def SBc (G : wG) (M : wM) (ow : Nat → Nat) (τ a n : Nat) (r : Nat → Int32) (cap : Nat) : Prop := ∃ e mx g, Cl G M ow τ a (.inr (23, [.ref e, .int 0, .int mx, .int (nI n)])) ∧ Cl G M ow τ e (.inl (.byte, cap, .inl g)) ∧ n ≤ cap ∧ cap ≤ 2000 ∧ (∀ k, k < n → g k = r k) ∧ ∀ k, fits .byte (.int (g k)) = true
/-- capacities, and what growing costs -/
def capF (cap k : Nat) : Nat := if k ≤ cap then cap else 2 * cap + 2
def cstF (cap k : Nat) : Nat := if k ≤ cap then 0 else 2 * cap + 3
theorem cap_ok {cap k : Nat} (h : k ≤ cap + 2) : cstF cap k + 2 * cap ≤ 2 * capF cap k ∧ (capF cap k = cap ∨ capF cap k ≤ 2 * k) ∧ k ≤ capF cap k ∧ cap ≤ capF cap k := by
  unfold capF cstF; split <;> omega
section JDK8
variable {G : wG} {M : wM} {ow : Nat → Nat} {τ a n cap : Nat} {r : Nat → Int32}
theorem SB.c (h : SB G M ow τ a n r) : ∃ cap, SBc G M ow τ a n r cap := by
  obtain ⟨e, cap, mx, g, h1, h2, h3⟩ := h; exact ⟨cap, e, mx, g, h1, h2, h3⟩
theorem SBc.s (h : SBc G M ow τ a n r cap) : SB G M ow τ a n r := by
  obtain ⟨e, mx, g, h1, h2, h3⟩ := h; exact ⟨e, cap, mx, g, h1, h2, h3⟩
theorem SBc.stp {M1 : wM} {ow1 : Nat → Nat} {T : List Nat} (h : SBc G M ow τ a n r cap) (hs : Mv T M ow M1 ow1) (hn : τ ∉ T) : SBc G M1 ow1 τ a n r cap := by
  obtain ⟨e, mx, g, h1, h2, h3⟩ := h
  exact ⟨e, mx, g, h1.stp hs hn, h2.stp hs hn, h3⟩
theorem SBc.is (h : SBc G M ow τ a n r cap) {P : Prop} (hp : P) : oIs M a 23 P := by
  obtain ⟨e, mx, g, h1, h2, h3⟩ := h; exact oIs.i h1.1 hp
theorem SBc.b (h : SBc G M ow τ a n r cap) : n ≤ cap ∧ cap ≤ 2000 := by
  obtain ⟨e, mx, g, h1, h2, h3, h4, -⟩ := h; exact ⟨h3, h4⟩
theorem S_sbinit {q : Nat} (hq : M q = none) (hz : wz G ≤ q) {τ : Nat} (hτ : τ ≠ 0) {Q : wM → Prop} (hQ : ∀ M1 ow1, Mv [] M ow M1 ow1 → ow1 q = τ → (∀ r, SBc G M1 ow1 τ q 0 r 16) → Q M1) : P_J18_init G q 17 (wIns M q (.inr (23, [.null, .int 0, .int 0, .int 0]))) Q := by
  have hC : Cl G (wIns M q (.inr (23, [.null, .int 0, .int 0, .int 0]))) (va_up ow q τ) τ q (.inr (23, [.null, .int 0, .int 0, .int 0])) := Cl.nw M ow hz _ _
  have hs : Mv [] M ow (wIns M q (.inr (23, [.null, .int 0, .int 0, .int 0]))) (va_up ow q τ) := Mv.nw (by decide) hq _ _
  refine ⟨17, Nat.le_refl _, oIf.n (by decide) (oNewa.m (ow := va_up ow q τ) (n := 16) τ rfl (by decide) (by decide) fun p M3 hp hz3 e3 hs3 hC3 => ?_)⟩
  have hqp : q ≠ p := fun x => by have h1 := hC.1; rw [← x] at hp; rw [hp] at h1; cases h1
  have hA3 := hC.stp hs3 (by simp)
  refine oPut.m hA3 hτ (Nat.le_of_ble_eq_true rfl) (fs1 := [.ref p, .int 0, .int 0, .int 0]) rfl fun M4 e4 hs4 hA4 => ?_
  refine oPut.m hA4 hτ (Nat.le_of_ble_eq_true rfl) (fs1 := [.ref p, .int 0, .int 0, .int 0]) rfl fun M5 e5 hs5 hA5 => ?_
  refine hQ M5 _ ?_ (by rw [va_up_ne _ _ hqp, va_up_self]) fun r => ⟨p, 0, fun _ => 0, hA5, ?_, by omega, by omega, fun k hk => by omega, fun _ => fit0⟩
  · rw [e5, e4, wIns_wIns]; exact (hs.tr hs3).nw2 hq _
  · rw [e5, e4, wIns_wIns]; exact hC3.off (fun x => hqp x.symm) _
theorem oCopyB.m {σ src dst n0 n1 k : Nat} {f g : Nat → Int32} {z : Int32} {κ : wM → Prop} (hsrc : M src = some (.inl (.byte, n0, .inl f))) (hf : ∀ j, fits .byte (.int (f j)) = true) (h : Cl G M ow σ dst (.inl (.byte, n1, .inl g))) (hσ : σ ≠ 0) (hz : z = nI k) (hn : k ≤ n0) (hn1 : k ≤ n1) (hn2 : k < 2 ^ 31) (hp : ∀ M1 g1, M1 = wIns M dst (.inl (.byte, n1, .inl g1)) → Mv [σ] M ow M1 ow → Cl G M1 ow σ dst (.inl (.byte, n1, .inl g1)) → (∀ j, g1 j = if j < k then f j else g j) → κ M1) : oCopyI G .byte M src 0 dst 0 z κ := by
  have z0 : (0 : Int32).toNatClampNeg = 0 := rfl
  refine ⟨n0, f, n1, g, hsrc, h.1, h.2.2 hσ, by decide, by decide, by rw [hz]; exact nI_pos hn2, ?_, ?_, fun i _ => hf _, ?_⟩
  · rw [hz, nI_clamp hn2, z0]; omega
  · rw [hz, nI_clamp hn2, z0]; omega
  · rw [hz, nI_clamp hn2, z0]
    refine hp _ _ rfl (Mv.wr (t0 hσ) (by rw [h.2.1]; exact List.mem_singleton_self _) h.1 _ (fun _ _ e => by cases e)) (h.wr _) fun j => ?_
    unfold va_cpy
    by_cases c : j < k
    · rw [if_pos (by omega), if_pos c]; congr 1; omega
    · rw [if_neg (by omega), if_neg c]
theorem S_newLength2 {c d e : Nat} (hc : c ≤ 100000) (hd : 0 < d) (hd2 : d ≤ 100000) (he : e ≤ 100000) {Q : Int32 → wM → Prop} (hQ : Q (nI (c + (if d < e then e else d))) M) : P_J3_newLength G (nI c) (nI d) (nI e) M Q := by
  have e1 : nI c + (if nI d < nI e then nI e else nI d) = nI (c + (if d < e then e else d)) := by
    by_cases h : d < e
    · rw [if_pos h, if_pos (nI_lt h (by omega)), nI_add]
    · rw [if_neg h, if_neg (nI_nlt (by omega) (by omega)), nI_add]
  unfold P_J3_newLength
  rw [e1]
  have hb : 0 < c + (if d < e then e else d) ∧ c + (if d < e then e else d) ≤ 200000 := by split <;> omega
  refine oIf.n (nI_nle hb.1 (by omega)) (oIf.n ?_ hQ)
  exact nI_nlt (b := c + (if d < e then e else d)) (a := 2147483639) (by omega) (by decide)
theorem S_sbens (h : SBc G M ow τ a n r cap) (hτ : τ ≠ 0) {k b : Nat} (hk : k ≤ cap + 2) (hkb : k ≤ 1000) (hb : cstF cap k ≤ b) {Q : wM → Prop} (hQ : ∀ M1 ow1, Mv [τ] M ow M1 ow1 → SBc G M1 ow1 τ a n r (capF cap k) → Q M1) : P_J17_ensureCapacityInternal_J18 G a (nI k) b M Q := by
  have h0 := h
  obtain ⟨e, mx, g, h1, h2, h3, h4, h5, h6⟩ := h
  unfold capF at hQ
  unfold cstF at hb
  by_cases c : k ≤ cap
  · rw [if_pos c] at hQ
    refine oGetA.i h1.1 rfl (oAlen.i h2.1 (oGetI.i h1.1 rfl (oIf.y ?_ (hQ M ow (Mv.rf (t0 hτ)) h0))))
    rw [sh0]; exact (nI_subLe (by omega) (by omega)).mpr c
  · rw [if_neg c] at hQ hb
    refine oGetA.i h1.1 rfl (oAlen.i h2.1 (oGetI.i h1.1 rfl (oIf.n ?_ (oGetA.i h1.1 rfl (oIs.i h1.1 (oGetA.i h1.1 rfl (oAlen.i h2.1 (oGetI.i h1.1 rfl (oGetI.i h1.1 rfl ?_)))))))))
    · rw [sh0]; exact fun z => c ((nI_subLe (by omega) (by omega)).mp z)
    rw [shl0, shl0, nI_sub (by omega), show (2 : Int32) = nI 2 from rfl, nI_add]
    refine S_newLength2 (by omega) (by omega) (by omega) (by omega) ?_
    rw [show cap + (if k - cap < cap + 2 then cap + 2 else k - cap) = 2 * cap + 2 by split <;> omega]
    refine oIf.n (fun z => ?_) (oGetI.i h1.1 rfl (oGetI.i h1.1 rfl ⟨2 * cap + 3, hb, oAlen.i h2.1 (oIf.n (fun z => ?_) ?_)⟩))
    · have := nI_inj (b := 2147483647) (by omega) (by decide) z
      omega
    · rw [sh0, shl0] at z
      have := nI_inj (by omega) (by omega) z
      omega
    rw [sh0, shl0]
    refine oNewa.m (ow := ow) (n := 2 * cap + 2) τ rfl (by omega) (by omega) fun q M1 hq hz e1 hs1 hC1 => ?_
    have h21 := h2.stp hs1 (by simp)
    have h11 := h1.stp hs1 (by simp)
    refine oAlen.i h21.1 (oCopyB.m h21.1 h6 hC1 hτ (k := cap) (by rw [if_neg (nI_nlt (by omega) (by omega))]) (Nat.le_refl _) (by omega) (by omega) fun M2 g1 e2 hs2 hC2 eg => ?_)
    have hqa : a ≠ q := fun x => by have := h1.1; rw [x, hq] at this; cases this
    have h12 : Cl G M2 (va_up ow q τ) τ a (.inr (23, [.ref e, .int 0, .int mx, .int (nI n)])) := by rw [e2]; exact h11.off hqa _
    refine oPut.m h12 hτ (Nat.le_of_ble_eq_true rfl) (fs1 := [.ref q, .int 0, .int mx, .int (nI n)]) rfl fun M3 e3 hs3 hA3 => ?_
    refine hQ M3 _ (((hs1.mono (by simp) (t0 hτ)).tr hs2).tr hs3) ⟨q, mx, g1, hA3, by rw [e3]; exact hC2.off (fun x => hqa x.symm) _, by omega, by omega, fun j hj => ?_, fun j => ?_⟩
    · rw [eg, if_pos (by omega)]; exact h5 j hj
    · rw [eg]; split
      · exact h6 j
      · exact fit0
theorem S_lat (h : SBc G M ow τ a n r cap) {Q : Bool → wM → Prop} (hQ : Q true M) : P_J17_isLatin1_J18 G a M Q := by
  obtain ⟨e, mx, g, h1, -⟩ := h
  exact oIf.n (by decide) (oGetI.i h1.1 rfl (oIf.y rfl ⟨true, rfl, hQ⟩))
theorem S_sbC (h : SBc G M ow τ a n r cap) (hτ : τ ≠ 0) {p : Int32} (hp : ¬ (255 : Int32) < p) (hn : n + 1 ≤ 1000) {b : Nat} (hb : cstF cap (n + 1) ≤ b) {Q : Option Nat → wM → Prop} (hQ : ∀ M1 ow1, Mv [τ] M ow M1 ow1 → SBc G M1 ow1 τ a (n + 1) (upd r n (bytF p)) (capF cap (n + 1)) → Q (some a) M1) : P_J18_append_3 G a p b M Q := by
  have hcb := h.b
  have k4 := (cap_ok (cap := cap) (k := n + 1) (by omega)).2.2.1
  refine h.is ⟨b, Nat.le_refl _, ?_⟩
  have h0 := h
  obtain ⟨e, mx, g, h1, -⟩ := h
  refine oGetI.i h1.1 rfl (oIs.i h1.1 ⟨b, Nat.le_refl _, ?_⟩)
  rw [nI_1]
  refine S_sbens h0 hτ (by omega) hn hb fun M1 ow1 hs1 hb1 => hb1.is (S_lat hb1 (oIf.y rfl (oIf.n hp ⟨true, rfl, oIf.y rfl ?_⟩)))
  obtain ⟨e', mx', g', q1, q2, q3, q4, q5, q6⟩ := hb1
  refine oGetA.i q1.1 rfl (oGetI.i q1.1 rfl (oPut.m q1 hτ (Nat.le_of_ble_eq_true rfl) (fs1 := [.ref e', .int 0, .int mx', .int (nI (n + 1))]) (by rw [nI_1]; rfl) fun M2 e2 hs2 hA2 => ?_))
  have hne : e' ≠ a := fun x => by have := q2.1; rw [x, q1.1] at this; cases this
  have q22 : Cl G M2 ow1 τ e' (.inl (.byte, capF cap (n + 1), .inl g')) := by rw [e2]; exact q2.off hne _
  refine oBast.m q22 hτ rfl (by omega) (by omega) fun M3 e3 hs3 hC3 => ?_
  refine hQ M3 ow1 ((hs1.tr hs2).tr hs3) ⟨e', mx', _, by rw [e3]; exact hA2.off (fun x => hne x.symm) _, hC3, by omega, q4, fun k hk => ?_, fun k => ?_⟩
  · by_cases c : k = n
    · rw [c, upd_eq, upd_eq]; rfl
    · rw [upd_ne _ _ c, upd_ne _ _ c]; exact q5 k (by omega)
  · by_cases c : k = n
    · rw [c, upd_eq]; exact fitB _
    · rw [upd_ne _ _ c]; exact q6 k
/-- digits of numbers -/
def DG (G : wG) (M : wM) (ow : Nat → Nat) : Prop := ∃ f0 f1 : Nat → Int32, Cl G M ow 0 (G.2.2.2 50) (.inl (.byte, 100, .inl f0)) ∧ Cl G M ow 0 (G.2.2.2 51) (.inl (.byte, 100, .inl f1)) ∧ ∀ v, v < 100 → f0 v = nI (48 + v / 10) ∧ f1 v = nI (48 + v % 10)
theorem DG.stp {M1 : wM} {ow1 : Nat → Nat} {T : List Nat} (h : DG G M ow) (hs : Mv T M ow M1 ow1) : DG G M1 ow1 := by
  obtain ⟨f0, f1, h1, h2, h3⟩ := h; exact ⟨f0, f1, h1.stp hs hs.1, h2.stp hs hs.1, h3⟩
def digR (r : Nat → Int32) (n v : Nat) : Nat → Int32 := if v ≤ 9 then upd r n (bytF (48 + (nI v - nI v / 10 * 10))) else upd (upd r n (bytF (48 + nI v / 10))) (n + 1) (bytF (48 + (nI v - nI v / 10 * 10)))
def digL (v : Nat) : Nat := if v ≤ 9 then 1 else 2
theorem dig_ok : ∀ v, v < 100 → bytF (48 + (nI v - nI v / 10 * 10)) = nI (48 + v % 10) ∧ bytF (48 + nI v / 10) = nI (48 + v / 10) ∧ (nI (48 + v % 10)).toInt8.toInt32 = nI (48 + v % 10) ∧ (nI (48 + v / 10)).toInt8.toInt32 = nI (48 + v / 10) := by decide +kernel
theorem neg_ok : ∀ v, v < 100 → - -nI v = nI v ∧ (-nI v ≤ (-10 : Int32) ↔ ¬ v ≤ 9) ∧ ¬ -nI v ≤ (10 : Int32) * (-10 : Int32) ∧ (-100 : Int32) < -nI v ∧ ((-9 : Int32) ≤ -nI v ↔ v ≤ 9) := by decide +kernel
theorem S_strSize {v : Nat} (hv : v < 100) {Q : Int32 → wM → Prop} (hQ : Q (nI (digL v)) M) : P_J23_stringSize G (nI v) M Q := by
  obtain ⟨n1, n2, n3, n4, n5⟩ := neg_ok v hv
  unfold digL at hQ
  refine oIf.n (nI_pos (by omega)) ?_
  by_cases c : v ≤ 9
  · rw [if_pos c] at hQ
    refine ⟨1, ?_⟩
    unfold L_J23_stringSize_16; unfold B_J23_stringSize_16
    exact oIf.n (by decide) (oIf.n (fun z => n2.mp z c) hQ)
  · rw [if_neg c] at hQ
    refine ⟨2, ?_⟩
    unfold L_J23_stringSize_16; unfold B_J23_stringSize_16
    refine oIf.n (by decide) (oIf.y (n2.mpr c) ?_)
    unfold L_J23_stringSize_16; unfold B_J23_stringSize_16
    exact oIf.n (by decide) (oIf.n n3 hQ)
theorem S_sbI (h : SBc G M ow τ a n r cap) (hτ : τ ≠ 0) (hd : DG G M ow) {v : Nat} (hv : v < 100) (hn : n + 2 ≤ 1000) {b : Nat} (hb : cstF cap (n + digL v) ≤ b) {Q : Option Nat → wM → Prop} (hQ : ∀ M1 ow1, Mv [τ] M ow M1 ow1 → SBc G M1 ow1 τ a (n + digL v) (digR r n v) (capF cap (n + digL v)) → Q (some a) M1) : P_J18_append_2 G a (nI v) b M Q := by
  have hdl : digL v ≤ 2 := by unfold digL; split <;> omega
  have hcb := h.b
  have k4 := (cap_ok (cap := cap) (k := n + digL v) (by omega)).2.2.1
  have h0 := h
  obtain ⟨n1, n2, n3, n4, n5⟩ := neg_ok v hv
  obtain ⟨d1, d2, d3, d4⟩ := dig_ok v hv
  refine h.is ⟨b, Nat.le_refl _, ?_⟩
  obtain ⟨e, mx, g, h1, -⟩ := h
  refine oGetI.i h1.1 rfl (S_strSize hv (oIs.i h1.1 ⟨b, Nat.le_refl _, ?_⟩))
  rw [nI_add]
  refine S_sbens h0 hτ (by omega) (by omega) hb fun M1 ow1 hs1 hb1 => hb1.is (S_lat hb1 (oIf.y rfl ?_))
  obtain ⟨e', mx', g', q1, q2, q3, q4, q5, q6⟩ := hb1
  obtain ⟨f0, f1, j0, j1, jj⟩ := hd.stp hs1
  have hne : e' ≠ a := fun x => by have := q2.1; rw [x, q1.1] at this; cases this
  refine oGetA.i q1.1 rfl (oIf.y (nI_pos' (by omega)) (oIf.y rfl ⟨1, ?_⟩))
  unfold L_J23_getChars_22; unfold B_J23_getChars_22
  rw [n1]
  refine oIf.y n4 (oIald.e rfl j1.1 (by omega) (by decide) ?_)
  have fin : ∀ M2 g2 x5, Mv [τ] M1 ow1 M2 ow1 → Cl G M2 ow1 τ e' (.inl (.byte, capF cap (n + digL v), .inl g2)) → Cl G M2 ow1 τ a (.inr (23, [.ref e', .int 0, .int mx', .int (nI n)])) → (∀ k, k < n + digL v → g2 k = digR r n v k) → (∀ k, fits .byte (.int (g2 k)) = true) → B_J23_getChars_104 G (fun v14 M12 => B_J17_append_2_J18_48 G (fun r3 M1 => Q (some a) M1) a (nI (n + digL v)) M12 (b - b)) e' x5 0 M2 := fun M2 g2 x5 hs2 hg2 ha2 hk2 hf2 => by
    refine oIf.y rfl (oPut.m ha2 hτ (Nat.le_of_ble_eq_true rfl) (fs1 := [.ref e', .int 0, .int mx', .int (nI (n + digL v))]) rfl fun M3 e3 hs3 hA3 => ?_)
    exact hQ M3 ow1 ((hs1.tr hs2).tr hs3) ⟨e', mx', g2, hA3, by rw [e3]; exact hg2.off hne _, by omega, q4, hk2, hf2⟩
  generalize capF cap (n + digL v) = cap' at *
  unfold digL at fin k4 ⊢
  unfold digR at fin
  rw [(jj v hv).2]
  by_cases cv : v ≤ 9
  · rw [if_pos cv] at fin k4 ⊢
    rw [if_pos cv] at fin
    have ei : nI (n + 1) + (-1) = nI n := by rw [← Int32.sub_eq_add_neg, nI_pred]
    rw [ei]
    refine oBast.m q2 hτ rfl (by omega) (by omega) fun M2 e2 hs2 hC2 => oIf.y (n5.mpr cv) ?_
    refine fin M2 _ _ hs2 hC2 (by rw [e2]; exact q1.off (fun x => hne x.symm) _) (fun k hk => ?_) fun k => ?_
    · by_cases ck : k = n
      · rw [ck, upd_eq, upd_eq, d1, d3]
      · rw [upd_ne _ _ ck, upd_ne _ _ ck]; exact q5 k (by omega)
    · by_cases ck : k = n
      · rw [ck, upd_eq]; exact fitB _
      · rw [upd_ne _ _ ck]; exact q6 k
  · rw [if_neg cv] at fin k4 ⊢
    rw [if_neg cv] at fin
    have ei : nI (n + 2) + (-1) = nI (n + 1) := by rw [← Int32.sub_eq_add_neg, nI_pred]
    have ei2 : nI (n + 1) + (-1) = nI n := by rw [← Int32.sub_eq_add_neg, nI_pred]
    rw [ei]
    refine oBast.m q2 hτ rfl (by omega) (by omega) fun M2 e2 hs2 hC2 => oIf.n (fun z => cv (n5.mp z)) ?_
    have j02 := j0.stp hs2 hs2.1
    rw [ei2]
    refine oIald.e rfl j02.1 (by omega) (by decide) ?_
    rw [(jj v hv).1]
    refine oBast.m hC2 hτ rfl (by omega) (by omega) fun M3 e3 hs3 hC3 => ?_
    refine fin M3 _ _ (hs2.tr hs3) hC3 (by rw [e3, e2]; exact (q1.off (fun x => hne x.symm) _).off (fun x => hne x.symm) _) (fun k hk => ?_) fun k => ?_
    · by_cases ck : k = n
      · rw [ck, upd_eq, upd_ne _ _ (by omega), upd_eq, d2, d4]
      · rw [upd_ne _ _ ck]
        by_cases ck2 : k = n + 1
        · rw [ck2, upd_eq, upd_eq, d1, d3]
        · rw [upd_ne _ _ ck2, upd_ne _ _ ck2, upd_ne _ _ ck]; exact q5 k (by omega)
    · by_cases ck : k = n
      · rw [ck, upd_eq]; exact fitB _
      · rw [upd_ne _ _ ck]
        by_cases ck2 : k = n + 1
        · rw [ck2, upd_eq]; exact fitB _
        · rw [upd_ne _ _ ck2]; exact q6 k
theorem S_sb0 (h : SBc G M ow τ a n r cap) (hτ : τ ≠ 0) {Q : wM → Prop} (hQ : ∀ M1, Mv [τ] M ow M1 ow → (∀ r', SBc G M1 ow τ a 0 r' cap) → Q M1) : P_J18_setLength G a 0 0 M Q := by
  obtain ⟨e, mx, g, h1, h2, h3, h4, h5, h6⟩ := h
  refine oIs.i h1.1 ⟨0, Nat.le_refl _, oIf.y (by decide) (oIs.i h1.1 ⟨0, Nat.le_refl _, oGetA.i h1.1 rfl (oAlen.i h2.1 (oGetI.i h1.1 rfl (oIf.y ?_ (oGetI.i h1.1 rfl (oIf.y (nI_pos' (by omega)) (oGetI.i h1.1 rfl (oIf.c (fun c => ?_) (fun c => ?_))))))))⟩)⟩
  · rw [sh0]; exact (nI_subLe (a := 0) (by omega) (by omega)).mpr (Nat.zero_le _)
  · have ne : e ≠ a := fun x => by have := h2.1; rw [x, h1.1] at this; cases this
    refine oPut.m h1 hτ (Nat.le_of_ble_eq_true rfl) (fs1 := [.ref e, .int 0, .int mx, .int (nI 0)]) rfl fun M1 e1 hs1 hA1 => hQ M1 hs1 fun r' => ⟨e, mx, g, hA1, by rw [e1]; exact h2.off ne _, by omega, h4, fun k hk => by omega, h6⟩
  · have ne : e ≠ a := fun x => by have := h2.1; rw [x, h1.1] at this; cases this
    refine oPut.m h1 hτ (Nat.le_of_ble_eq_true rfl) (fs1 := [.ref e, .int 0, .int 1, .int (nI n)]) rfl fun M1 e1 hs1 hA1 => ?_
    refine oPut.m hA1 hτ (Nat.le_of_ble_eq_true rfl) (fs1 := [.ref e, .int 0, .int 1, .int (nI 0)]) rfl fun M2 e2 hs2 hA2 => hQ M2 (hs1.tr hs2) fun r' => ⟨e, 1, g, hA2, by rw [e2, e1]; exact (h2.off ne _).off ne _, by omega, h4, fun k hk => by omega, h6⟩
/-- a String that was never asked for its hash -/
def STf (G : wG) (M : wM) (ow : Nat → Nat) (σ a n : Nat) (r : Nat → Int32) : Prop := ∃ v, Cl G M ow σ a (.inr (24, [.ref v, .int 0, .int 0, .int 0])) ∧ Cl G M ow σ v (.inl (.byte, n, .inl r))
theorem STf.s {σ : Nat} (h : STf G M ow σ a n r) : STR G M ow σ a n r := by obtain ⟨v, h1, h2⟩ := h; exact ⟨v, 0, 0, h1, h2⟩
/-- a String of what was built -/
theorem S_sbStrF (h : SBc G M ow τ a n r cap) {σ b : Nat} (hσ : σ ≠ 0) (hb : n + 6 ≤ b) {Q : Option Nat → wM → Prop} (hQ : ∀ q M1 ow1 r1, M q = none → Mv [] M ow M1 ow1 → STf G M1 ow1 σ q n r1 → (∀ j, j < n → r1 j = r j) → Q (some q) M1) : P_J18_toString G a b M Q := by
  obtain ⟨e, mx, g, h1, h2, h3, h4, h5, h6⟩ := h
  refine oNew.m (ow := ow) σ (by simp; omega) fun q M1 hq hz e1 hs1 hC1 => ⟨n + 1, by simp; omega, n + 1, Nat.le_refl _, ?_⟩
  have h11 := h1.stp hs1 (by simp)
  refine oIs.i h11.1 (oGetA.i h11.1 rfl (oIs.i h11.1 (oIs.i h11.1 (oGetI.i h11.1 rfl (oIs.i h11.1 (oIf.n (by decide) (oGetI.i h11.1 rfl (oIf.y rfl ⟨true, rfl, oIf.y rfl ?_⟩))))))))
  refine oPut.m hC1 hσ (Nat.le_of_ble_eq_true rfl) (fs1 := [.null, .int 0, .int 0, .int 0]) rfl fun M2 e2 hs2 hC2 => oRef.s ⟨n + 1, Nat.le_refl _, ?_⟩
  have E2 : M2 = wIns M q (.inr (24, [.null, .int 0, .int 0, .int 0])) := by rw [e2, e1, wIns_wIns]
  have hne : e ≠ q := fun x => by have := h2.1; rw [x, hq] at this; cases this
  have h22 : M2 e = some (.inl (.byte, cap, .inl g)) := by rw [E2, wIns_ne _ _ hne]; exact h2.1
  have s2 : Mv [] M ow M2 (va_up ow q σ) := by rw [E2]; exact Mv.nw (by decide) hq _ _
  have fin : ∀ p M3 r1, M2 p = none → Mv [] M2 (va_up ow q σ) M3 (va_up (va_up ow q σ) p σ) → Cl G M3 (va_up (va_up ow q σ) p σ) σ p (.inl (.byte, n, .inl r1)) → (∀ j, j < n → r1 j = r j) → oPut G M3 q 24 0 (va_rf (some p)) (fun M16 => B_J19_init_2_97 G (fun M1 => Q (some q) M1) M16 (n + 1 - (n + 1))) := fun p M3 r1 hp hs3 hC3 hr1 => by
    have hq3 := hC2.stp hs3 (by simp)
    have hqp : p ≠ q := fun x => by have := hC2.1; rw [← x, hp] at this; cases this
    refine oPut.m hq3 hσ (Nat.le_of_ble_eq_true rfl) (fs1 := [.ref p, .int 0, .int 0, .int 0]) rfl fun M4 e4 hs4 hA4 => ?_
    refine hQ q M4 _ r1 hq ?_ ⟨p, hA4, by rw [e4]; exact hC3.off hqp _⟩ hr1
    rw [e4]; exact (s2.tr hs3).nw2 hq _
  have gr : ∀ j, j < n → g j = r j := h5
  refine oIf.y rfl (oAlen.i h22 (oIf.c (fun c => ?_) (fun c => ?_)))
  · have ec : n = cap := nI_inj (by omega) (by omega) c
    subst ec
    refine ⟨n, g, h22, Nat.le_refl _, fun j _ => h6 j, fun p hp hz3 => ⟨⟨_, wIns_eq _ _ _⟩, ?_⟩⟩
    exact fin p _ g hp (Mv.nw (by decide) hp _ _) (Cl.nw M2 _ hz3 _ _) gr
  · have hlt : n < cap := by
      rcases Nat.lt_or_ge n cap with z | z
      · exact z
      · exact absurd (congrArg nI (show n = cap by omega)) c
    refine ⟨n + 1, Nat.le_refl _, oIf.y (nI_pos' (by omega)) ?_⟩
    rw [Int32.sub_zero]
    refine oNewa.m (ow := va_up ow q σ) (n := n) σ rfl (by omega) (Nat.le_refl _) fun p M3 hp hz3 e3 hs3 hC3 => ?_
    have h23 : M3 e = some (.inl (.byte, cap, .inl g)) := hs3.at0 h22
    refine oAlen.i h23 ?_
    rw [Int32.sub_zero]
    refine oCopyB.m h23 h6 hC3 hσ (k := n) (by rw [if_pos (nI_lt hlt (by omega))]) (by omega) (Nat.le_refl _) (by omega) fun M4 g1 e4 hs4 hC4 eg => ?_
    refine fin p M4 g1 hp ?_ hC4 fun j hj => by rw [eg, if_pos hj]; exact gr j hj
    rw [e4]; exact hs3.nw2 hp _
theorem S_sbStr (h : SBc G M ow τ a n r cap) {σ b : Nat} (hσ : σ ≠ 0) (hb : n + 6 ≤ b) {Q : Option Nat → wM → Prop} (hQ : ∀ q M1 ow1 r1, M q = none → Mv [] M ow M1 ow1 → STR G M1 ow1 σ q n r1 → (∀ j, j < n → r1 j = r j) → Q (some q) M1) : P_J18_toString G a b M Q :=
  S_sbStrF h hσ hb fun q M1 ow1 r1 h1 h2 h3 h4 => hQ q M1 ow1 r1 h1 h2 h3.s h4
end JDK8
