set_option maxRecDepth 100000
/-! STAGE 2, JDK 2: LinkedList -/
def opt (c : Prop) [Decidable c] (x : Nat) : Option Nat := if c then some x else none
theorem opt_y {c : Prop} [Decidable c] {x : Nat} (h : c) : opt c x = some x := if_pos h
theorem opt_n {c : Prop} [Decidable c] {x : Nat} (h : ¬ c) : opt c x = none := if_neg h
abbrev llC (mc : Int32) (n : Nat) (nd : Nat → Nat) : wE := .inr (17, [.int mc, .int (nI n), va_rf (opt (0 < n) (nd 0)), va_rf (opt (0 < n) (nd (n - 1)))])
abbrev ndC (g : Nat → Nat) (n : Nat) (nd : Nat → Nat) (k : Nat) : wE := .inr (18, [.ref (g k), va_rf (opt (k + 1 < n) (nd (k + 1))), va_rf (opt (0 < k) (nd (k - 1)))])
/-- a LinkedList of n objects g in the nodes nd -/
def LL (G : wG) (M : wM) (ow : Nat → Nat) (τ a n : Nat) (nd g : Nat → Nat) (mc : Int32) : Prop := n ≤ 400 ∧ (∀ k, k < n → Ob M (g k)) ∧ Cl G M ow τ a (llC mc n nd) ∧ (∀ k, k < n → Cl G M ow τ (nd k) (ndC g n nd k)) ∧ ∀ i j, i < n → j < n → nd i = nd j → i = j
section JDK2
variable {G : wG} {M : wM} {ow : Nat → Nat} {τ a n : Nat} {nd g : Nat → Nat} {mc : Int32}
theorem LL.stp {M1 : wM} {ow1 : Nat → Nat} {T : List Nat} (h : LL G M ow τ a n nd g mc) (hs : Mv T M ow M1 ow1) (hn : τ ∉ T) : LL G M1 ow1 τ a n nd g mc :=
  ⟨h.1, fun k hk => (h.2.1 k hk).stp hs, h.2.2.1.stp hs hn, fun k hk => (h.2.2.2.1 k hk).stp hs hn, h.2.2.2.2⟩
theorem LL.is (h : LL G M ow τ a n nd g mc) {P : Prop} (hp : P) : oIs M a 17 P := oIs.i h.2.2.1.1 hp
theorem S_llsize (h : LL G M ow τ a n nd g mc) {Q : Int32 → wM → Prop} (hQ : Q (nI n) M) : P_J8_size G a M Q := oGetI.i h.2.2.1.1 rfl hQ
theorem S_llinit {q : Nat} (hq : M q = none) (hz : wz G ≤ q) (τ : Nat) {Q : wM → Prop} (hQ : ∀ M1, M1 = wIns M q (llC 0 0 nd) → Mv [] M ow M1 (va_up ow q τ) → LL G M1 (va_up ow q τ) τ q 0 nd g 0 → Q M1) : P_J8_init G q (wIns M q (.inr (17, [.int 0, .int 0, .null, .null]))) Q := by
  refine oPut.i (wIns_eq _ _ _) (by decide : 0 < 4) hz ?_
  rw [wIns_wIns]
  refine oPut.i (wIns_eq _ _ _) (by decide : 1 < 4) hz ?_
  rw [wIns_wIns]
  exact hQ _ rfl (Mv.nw (by decide) hq _ _) ⟨by omega, fun k hk => by omega, Cl.nw M ow hz _ τ, fun k hk => by omega, fun i j hi => by omega⟩
/-- a new node at the end -/
theorem S_linkLast (h : LL G M ow τ a n nd g mc) (hτ : τ ≠ 0) {x b : Nat} (hn : n < 400) (hb : 4 ≤ b) (hx : Ob M x) {Q : wM → Prop} (hQ : ∀ q M1 ow1, Mv [τ] M ow M1 ow1 → LL G M1 ow1 τ a (n + 1) (va_up nd n q) (va_up g n x) (mc + 1) → Q M1) : P_J8_linkLast G a (some x) b M Q := by
  obtain ⟨h1, h2, h3, h4, h5⟩ := h
  refine oGetR.i (v := opt (0 < n) (nd (n - 1))) h3.1 rfl (oNew.m (ow := ow) τ hb fun q M1 hq hz e1 hs1 hC1 => ?_)
  have hqd : ∀ k, k < n → nd k ≠ q := fun k hk y => by have := (h4 k hk).1; rw [y, hq] at this; cases this
  have hqa : a ≠ q := fun y => by have := h3.1; rw [y, hq] at this; cases this
  have hs1' : Mv [τ] M ow M1 (va_up ow q τ) := hs1.mono (by simp) (t0 hτ)
  unfold P_J6_init
  refine oPut.m hC1 hτ (Nat.le_of_ble_eq_true rfl) (fs1 := [.ref x, .null, .null]) rfl fun M2 e2 hs2 hC2 => ?_
  refine oPut.m hC2 hτ (Nat.le_of_ble_eq_true rfl) (fs1 := [.ref x, .null, .null]) rfl fun M3 e3 hs3 hC3 => ?_
  refine oPut.m hC3 hτ (Nat.le_of_ble_eq_true rfl) (fs1 := [.ref x, .null, va_rf (opt (0 < n) (nd (n - 1)))]) rfl fun M4 e4 hs4 hC4 => ?_
  have E4 : M4 = wIns M q (.inr (18, [.ref x, .null, va_rf (opt (0 < n) (nd (n - 1)))])) := by rw [e4, e3, e2, e1, wIns_wIns, wIns_wIns, wIns_wIns]
  have hs4' : Mv [τ] M ow M4 (va_up ow q τ) := ((hs1'.tr hs2).tr hs3).tr hs4
  have hA4 : Cl G M4 (va_up ow q τ) τ a (llC mc n nd) := by
    refine ⟨by rw [E4, wIns_ne _ _ hqa]; exact h3.1, by rw [va_up_ne _ _ hqa]; exact h3.2.1, h3.2.2⟩
  have hN4 : ∀ k, k < n → Cl G M4 (va_up ow q τ) τ (nd k) (ndC g n nd k) := fun k hk =>
    ⟨by rw [E4, wIns_ne _ _ (hqd k hk)]; exact (h4 k hk).1, by rw [va_up_ne _ _ (hqd k hk)]; exact (h4 k hk).2.1, (h4 k hk).2.2⟩
  refine oPut.m hA4 hτ (Nat.le_of_ble_eq_true rfl) (fs1 := [.int mc, .int (nI n), va_rf (opt (0 < n) (nd 0)), .ref q]) rfl fun M5 e5 hs5 hA5 => ?_
  have hCne : ∀ k, k < n → a ≠ nd k := fun k hk => hA4.ne (hN4 k hk) (by simp)
  have hQ5 : Cl G M5 (va_up ow q τ) τ q (.inr (18, [.ref x, .null, va_rf (opt (0 < n) (nd (n - 1)))])) := by rw [e5]; exact hC4.off (fun y => hqa y.symm) _
  have hN5 : ∀ k, k < n → Cl G M5 (va_up ow q τ) τ (nd k) (ndC g n nd k) := fun k hk => by rw [e5]; exact (hN4 k hk).off (fun y => hCne k hk y.symm) _
  have hs5' := hs4'.tr hs5
  have fin : ∀ M6, Mv [τ] M ow M6 (va_up ow q τ) → Cl G M6 (va_up ow q τ) τ a (.inr (17, [.int mc, .int (nI n), .ref (va_up nd n q 0), .ref q])) → Cl G M6 (va_up ow q τ) τ q (.inr (18, [.ref x, .null, va_rf (opt (0 < n) (nd (n - 1)))])) →
      (∀ k, k < n → Cl G M6 (va_up ow q τ) τ (nd k) (.inr (18, [.ref (g k), .ref (va_up nd n q (k + 1)), va_rf (opt (0 < k) (nd (k - 1)))]))) → B_J8_linkLast_38 G Q a M6 (b - 4) := by
    intro M6 hs6 hA6 hQ6 hN6
    refine oGetI.i hA6.1 rfl (oPut.m hA6 hτ (Nat.le_of_ble_eq_true rfl) (fs1 := [.int mc, .int (nI (n + 1)), .ref (va_up nd n q 0), .ref q]) (by rw [nI_1]; rfl) fun M7 e7 hs7 hA7 => ?_)
    refine oGetI.i hA7.1 rfl (oPut.m hA7 hτ (Nat.le_of_ble_eq_true rfl) (fs1 := [.int (mc + 1), .int (nI (n + 1)), .ref (va_up nd n q 0), .ref q]) rfl fun M8 e8 hs8 hA8 => ?_)
    have E8 : M8 = wIns M6 a (.inr (17, [.int (mc + 1), .int (nI (n + 1)), .ref (va_up nd n q 0), .ref q])) := by rw [e8, e7, wIns_wIns]
    have hst := (hs6.tr hs7).tr hs8
    refine hQ q M8 _ hst ⟨by omega, fun k hk => ?_, ?_, fun k hk => ?_, fun i j hi hj e => ?_⟩
    · by_cases c : k = n
      · subst c; rw [va_up_self]; exact hx.stp hst
      · rw [va_up_ne g x c]; exact (h2 k (by omega)).stp hst
    · unfold llC
      rw [opt_y (by omega), opt_y (by omega), show n + 1 - 1 = n by omega, va_up_self]
      exact hA8
    · unfold ndC
      by_cases c : k = n
      · subst c
        rw [va_up_self, va_up_self, opt_n (by omega), E8]
        have e1 : (opt (0 < k) (va_up nd k q (k - 1))) = opt (0 < k) (nd (k - 1)) := by
          by_cases c : 0 < k
          · rw [opt_y c, opt_y c, va_up_ne _ _ (by omega)]
          · rw [opt_n c, opt_n c]
        rw [e1]
        exact hQ6.off (fun y => hqa y.symm) _
      · have hk' : k < n := by omega
        rw [va_up_ne g x c, va_up_ne nd q c, opt_y (by omega), E8]
        have e1 : (opt (0 < k) (va_up nd n q (k - 1))) = opt (0 < k) (nd (k - 1)) := by
          by_cases c : 0 < k
          · rw [opt_y c, opt_y c, va_up_ne _ _ (by omega)]
          · rw [opt_n c, opt_n c]
        rw [e1]
        exact (hN6 k hk').off (fun y => hCne k hk' y.symm) _
    · by_cases ci : i = n
      · by_cases cj : j = n
        · omega
        · rw [ci, va_up_self, va_up_ne nd q cj] at e
          exact absurd e.symm (hqd j (by omega))
      · by_cases cj : j = n
        · rw [cj, va_up_self, va_up_ne nd q ci] at e
          exact absurd e (hqd i (by omega))
        · rw [va_up_ne nd q ci, va_up_ne nd q cj] at e
          exact h5 i j (by omega) (by omega) e
  by_cases c : 0 < n
  · rw [opt_y c] at *
    refine oNull.s ?_
    have hl := hN5 (n - 1) (by omega)
    refine oPut.m hl hτ (Nat.le_of_ble_eq_true rfl) (fs1 := [.ref (g (n - 1)), .ref q, va_rf (opt (0 < n - 1) (nd (n - 1 - 1)))]) rfl fun M6 e6 hs6 hL6 => ?_
    refine fin M6 (hs5'.tr hs6) ?_ ?_ fun k hk => ?_
    · rw [e6, va_up_ne nd q (by omega)]; exact hA5.off (hCne _ (by omega)) _
    · rw [e6]; exact hQ5.off (fun y => hqd _ (by omega) y.symm) _
    · by_cases ck : k = n - 1
      · subst ck
        rw [show n - 1 + 1 = n by omega, va_up_self]
        exact hL6
      · rw [e6, va_up_ne nd q (by omega)]
        have := (hN5 k hk).off (fun y => ck (h5 _ _ hk (by omega) y)) (.inr (18, [.ref (g (n - 1)), .ref q, va_rf (opt (0 < n - 1) (nd (n - 1 - 1)))]))
        unfold ndC at this
        rw [opt_y (c := k + 1 < n) (by omega)] at this
        exact this
  · have hn0 : n = 0 := by omega
    subst hn0
    rw [opt_n c] at *
    refine oNull.n ?_
    refine oPut.m hA5 hτ (Nat.le_of_ble_eq_true rfl) (fs1 := [.int mc, .int (nI 0), .ref q, .ref q]) rfl fun M6 e6 hs6 hA6 => ?_
    refine fin M6 (hs5'.tr hs6) ?_ ?_ fun k hk => by omega
    · rw [va_up_self]; exact hA6
    · rw [e6]; exact hQ5.off (fun y => hqa y.symm) _
theorem S_addLast (h : LL G M ow τ a n nd g mc) (hτ : τ ≠ 0) {x b : Nat} (hn : n < 400) (hb : 4 ≤ b) (hx : Ob M x) {Q : wM → Prop} (hQ : ∀ q M1 ow1, Mv [τ] M ow M1 ow1 → LL G M1 ow1 τ a (n + 1) (va_up nd n q) (va_up g n x) (mc + 1) → Q M1) : P_J8_addLast G a (some x) b M Q :=
  h.is ⟨b, Nat.le_refl _, S_linkLast h hτ hn hb hx hQ⟩
/-- the iterator, ahead of place k -/
def liC (nd : Nat → Nat) (n a k : Nat) (mc : Int32) : wE := .inr (19, [va_rf (opt (0 < k) (nd (k - 1))), va_rf (opt (k < n) (nd k)), .int (nI k), .int mc, .ref a])
theorem S_iterator (h : LL G M ow τ a n nd g mc) {b : Nat} (hb : 6 ≤ b) (σ : Nat) {Q : Option Nat → wM → Prop} (hQ : ∀ q M1, M q = none → M1 = wIns M q (liC nd n a 0 mc) → Mv [] M ow M1 (va_up ow q σ) → Cl G M1 (va_up ow q σ) σ q (liC nd n a 0 mc) → Q (some q) M1) : P_J7_iterator_J8 G a b M Q := by
  obtain ⟨h1, h2, h3, h4, h5⟩ := h
  refine oIs.i h3.1 ⟨b, Nat.le_refl _, oIs.i h3.1 ⟨b, Nat.le_refl _, oIs.i h3.1 (oIs.i h3.1 ?_)⟩⟩
  refine oIf.n (by decide) (oGetI.i h3.1 rfl (oIf.n ?_ ⟨true, rfl, oIf.y rfl ?_⟩))
  · exact nI_nlt (b := 0) (Nat.zero_le _) (by omega)
  refine oNew.m (ow := ow) 1 hb fun q M1 hq hz e1 hs hC => ?_
  have hqa : a ≠ q := fun x => by have := h3.1; rw [x, hq] at this; cases this
  refine oPut.m hC (by decide) (Nat.le_of_ble_eq_true rfl) (fs1 := [.null, .null, .int 0, .int 0, .ref a]) rfl fun M2 e2 hs2 hC2 => ?_
  have hA2 : M2 a = some (llC mc n nd) := by rw [e2, e1, wIns_wIns, wIns_ne _ _ hqa]; exact h3.1
  refine oGetA.i hC2.1 rfl (oGetI.i hA2 rfl (oPut.m hC2 (by decide) (Nat.le_of_ble_eq_true rfl) (fs1 := [.null, .null, .int 0, .int mc, .ref a]) rfl fun M3 e3 hs3 hC3 => ?_))
  have hA3 : M3 a = some (llC mc n nd) := by rw [e3, wIns_ne _ _ hqa]; exact hA2
  have fin : ∀ y, y = opt (0 < n) (nd 0) → B_J36_init_38 G (fun M6 => Q (some q) M6) q 0 y q M3 := by
    intro y hy
    refine oPut.m hC3 (by decide) (Nat.le_of_ble_eq_true rfl) (fs1 := [.null, va_rf y, .int 0, .int mc, .ref a]) rfl fun M4 e4 hs4 hC4 => ?_
    refine oPut.m hC4 (by decide) (Nat.le_of_ble_eq_true rfl) (fs1 := [.null, va_rf y, .int 0, .int mc, .ref a]) rfl fun M5 e5 hs5 hC5 => ?_
    have e6 : M5 = wIns M q (liC nd n a 0 mc) := by rw [e5, e4, e3, e2, e1, wIns_wIns, wIns_wIns, wIns_wIns, wIns_wIns, hy]; rfl
    refine hQ q M5 hq e6 ?_ ?_
    · rw [e6]; exact Mv.nw (by decide) hq _ _
    · rw [e6]; exact Cl.nw M ow hz _ _
  refine oGetI.i hA3 rfl ?_
  by_cases c : n = 0
  · subst c
    exact oIf.y rfl (fin none (by rw [opt_n (by omega)]))
  · refine oIf.n (fun x => c (nI_inj (a := 0) (by omega) (by omega) x).symm) (oIs.i hA3 (oGetI.i hA3 rfl ?_))
    rw [nI_half (by omega)]
    by_cases c2 : n / 2 = 0
    · have c3 : n = 1 := by omega
      subst c3
      refine oIf.y (by decide) (oGetR.i (v := opt (0 < 1) (nd 0)) hA3 rfl (oGetI.i hA3 rfl ⟨1, ?_⟩))
      unfold L_J8_node_47; unfold B_J8_node_47
      exact oIf.y (by decide) (fin _ rfl)
    · refine oIf.n (nI_nle (by omega) (by omega)) (oGetR.i (v := opt (0 < n) (nd 0)) hA3 rfl ⟨1, ?_⟩)
      unfold L_J8_node_17; unfold B_J8_node_17
      exact oIf.y (by decide) (fin _ rfl)
theorem S_lihas (h : LL G M ow τ a n nd g mc) {k q : Nat} (hk : k ≤ n) (hi : M q = some (liC nd n a k mc)) {Q : Bool → wM → Prop} (hQ : Q (decide (k < n)) M) : P_J36_hasNext G q M Q := by
  obtain ⟨h1, h2, h3, h4, h5⟩ := h
  refine oGetI.i hi rfl (oGetA.i hi rfl (oGetI.i h3.1 rfl ?_))
  by_cases c : k < n
  · rw [decide_eq_true c] at hQ
    exact oIf.n (nI_ge c (by omega)) ⟨true, rfl, hQ⟩
  · rw [decide_eq_false c] at hQ
    exact oIf.y (nI_le (by omega) (by omega)) ⟨false, rfl, hQ⟩
theorem S_linext (h : LL G M ow τ a n nd g mc) {σ k q : Nat} (hk : k < n) (hi : Cl G M ow σ q (liC nd n a k mc)) (hσ : σ ≠ 0) {Q : Option Nat → wM → Prop} (hQ : ∀ M1, M1 = wIns M q (liC nd n a (k + 1) mc) → Mv [σ] M ow M1 ow → Cl G M1 ow σ q (liC nd n a (k + 1) mc) → Q (some (g k)) M1) : P_J36_next G q M Q := by
  have hh := h
  obtain ⟨h1, h2, h3, h4, h5⟩ := h
  have hne : nd k ≠ q := fun x => by have := hi.1; rw [← x, (h4 k hk).1] at this; simp [liC] at this
  unfold liC at hi
  rw [opt_y hk] at hi
  refine oIs.i hi.1 (oGetA.i hi.1 rfl (oGetI.i h3.1 rfl (oGetI.i hi.1 rfl (oIf.y rfl (oIs.i hi.1 ?_)))))
  refine S_lihas hh (Nat.le_of_lt hk) (by unfold liC; rw [opt_y hk]; exact hi.1) ?_
  rw [decide_eq_true hk]
  refine oIf.y rfl (oGetR.s hi.1 rfl ?_)
  refine oPut.m hi hσ (Nat.le_of_ble_eq_true rfl) (fs1 := [.ref (nd k), .ref (nd k), .int (nI k), .int mc, .ref a]) rfl fun M1 e1 hs1 hC1 => ?_
  refine oGetR.s hC1.1 rfl (oRef.s (oGetR.i (v := opt (k + 1 < n) (nd (k + 1))) (fs := [.ref (g k), va_rf (opt (k + 1 < n) (nd (k + 1))), va_rf (opt (0 < k) (nd (k - 1)))]) ?_ rfl ?_))
  · rw [e1, wIns_ne _ _ hne]; exact (h4 k hk).1
  refine oPut.m hC1 hσ (Nat.le_of_ble_eq_true rfl) (fs1 := [.ref (nd k), va_rf (opt (k + 1 < n) (nd (k + 1))), .int (nI k), .int mc, .ref a]) rfl fun M2 e2 hs2 hC2 => ?_
  refine oGetI.i hC2.1 rfl (oPut.m hC2 hσ (Nat.le_of_ble_eq_true rfl) (fs1 := [.ref (nd k), va_rf (opt (k + 1 < n) (nd (k + 1))), .int (nI (k + 1)), .int mc, .ref a]) (by rw [nI_1]; rfl) fun M3 e3 hs3 hC3 => ?_)
  refine oGetR.s hC3.1 rfl (oRef.s (oGetR.s (fs := [.ref (g k), va_rf (opt (k + 1 < n) (nd (k + 1))), va_rf (opt (0 < k) (nd (k - 1)))]) ?_ rfl ?_))
  · rw [e3, e2, e1, wIns_wIns, wIns_wIns, wIns_ne _ _ hne]; exact (h4 k hk).1
  have el : liC nd n a (k + 1) mc = .inr (19, [.ref (nd k), va_rf (opt (k + 1 < n) (nd (k + 1))), .int (nI (k + 1)), .int mc, .ref a]) := by
    unfold liC; rw [opt_y (by omega), show k + 1 - 1 = k by omega]; rfl
  refine hQ M3 ?_ ((hs1.tr hs2).tr hs3) ?_
  · rw [e3, e2, e1, wIns_wIns, wIns_wIns, el]
  · rw [el]; exact hC3
end JDK2
