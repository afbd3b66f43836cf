set_option maxRecDepth 100000
/-! STAGE 2, JDK 7: LinkedList: nodes by place, insertions, removals by an iterator; Integers -/
def insN (g : Nat → Nat) (k x : Nat) : Nat → Nat := fun j => if j < k then g j else if j = k then x else g (j - 1)
theorem insN_l {g : Nat → Nat} {k x j : Nat} (h : j < k) : insN g k x j = g j := by unfold insN; rw [if_pos h]
theorem insN_e {g : Nat → Nat} {k x : Nat} : insN g k x k = x := by unfold insN; rw [if_neg (Nat.lt_irrefl _), if_pos rfl]
theorem insN_g {g : Nat → Nat} {k x j : Nat} (h : k < j) : insN g k x j = g (j - 1) := by unfold insN; rw [if_neg (by omega), if_neg (by omega)]
def delN (g : Nat → Nat) (k : Nat) : Nat → Nat := fun j => if j < k then g j else g (j + 1)
theorem delN_l {g : Nat → Nat} {k j : Nat} (h : j < k) : delN g k j = g j := by unfold delN; rw [if_pos h]
theorem delN_g {g : Nat → Nat} {k j : Nat} (h : k ≤ j) : delN g k j = g (j + 1) := by unfold delN; rw [if_neg (by omega)]
theorem opt_c {c d : Prop} [Decidable c] [Decidable d] {x y : Nat} (h : c ↔ d) (e : c → x = y) : opt c x = opt d y := by
  by_cases k : c
  · rw [opt_y k, opt_y (h.mp k), e k]
  · rw [opt_n k, opt_n (fun z => k (h.mpr z))]
theorem nI_sub1 {n : Nat} (h : 0 < n) : nI n - 1 = nI (n - 1) := by rw [show (1 : Int32) = nI 1 from rfl, nI_sub h]
abbrev inC (v : Int32) : wE := .inr (25, [.int v])
section JDK7
variable {G : wG} {M : wM} {ow : Nat → Nat} {τ a n : Nat} {nd g : Nat → Nat} {mc : Int32}
theorem S_node (h : LL G M ow τ a n nd g mc) {k : Nat} (hk : k < n) {Q : Option Nat → wM → Prop} (hQ : Q (some (nd k)) M) : P_J8_node G a (nI k) M Q := by
  obtain ⟨h1, h2, h3, h4, h5⟩ := h
  have dn : ∀ d i, i = k + d → i < n → ∃ m, L_J8_node_47 G Q m (nI k) (some (nd i)) (nI i) M := by
    intro d
    induction d with
    | zero =>
      intro i e hi
      have e : i = k := by omega
      subst e
      refine ⟨1, ?_⟩
      unfold L_J8_node_47; unfold B_J8_node_47
      exact oIf.y (nI_le (Nat.le_refl _) (by omega)) hQ
    | succ d ih =>
      intro i e hi
      obtain ⟨m, hm⟩ := ih (i - 1) (by omega) (by omega)
      refine ⟨m + 1, ?_⟩
      unfold L_J8_node_47; unfold B_J8_node_47
      refine oIf.n (nI_ge (by omega) (by omega)) (oRef.s (oGetR.i (v := opt (0 < i) (nd (i - 1))) (h4 i hi).1 rfl ?_))
      rw [opt_y (by omega), ← Int32.sub_eq_add_neg, nI_sub1 (by omega)]
      exact hm
  have up : ∀ d i, i + d = k → ∃ m, L_J8_node_17 G Q m (nI k) (some (nd i)) (nI i) M := by
    intro d
    induction d with
    | zero =>
      intro i e
      have e : i = k := by omega
      subst e
      refine ⟨1, ?_⟩
      unfold L_J8_node_17; unfold B_J8_node_17
      exact oIf.y (nI_le (Nat.le_refl _) (by omega)) hQ
    | succ d ih =>
      intro i e
      obtain ⟨m, hm⟩ := ih (i + 1) (by omega)
      refine ⟨m + 1, ?_⟩
      unfold L_J8_node_17; unfold B_J8_node_17
      refine oIf.n (nI_ge (by omega) (by omega)) (oRef.s (oGetR.i (v := opt (i + 1 < n) (nd (i + 1))) (h4 i (by omega)).1 rfl ?_))
      rw [opt_y (by omega), nI_1]
      exact hm
  refine oGetI.i h3.1 rfl ?_
  rw [nI_half (by omega)]
  refine oIf.c (fun c => ?_) (fun c => ?_)
  · refine oGetR.i (v := opt (0 < n) (nd (n - 1))) h3.1 rfl (oGetI.i h3.1 rfl ?_)
    rw [opt_y (by omega), nI_sub1 (by omega)]
    exact dn (n - 1 - k) (n - 1) (by omega) (by omega)
  · refine oGetR.i (v := opt (0 < n) (nd 0)) h3.1 rfl ?_
    rw [opt_y (by omega)]
    exact up k 0 (by omega)
theorem S_llget (h : LL G M ow τ a n nd g mc) {k : Nat} (hk : k < n) {Q : Option Nat → wM → Prop} (hQ : Q (some (g k)) M) : P_J8_get G a (nI k) M Q := by
  have h1 := h.1
  exact oIs.i h.2.2.1.1 (oIs.i h.2.2.1.1 (oIf.n (nI_pos (by omega)) (oGetI.i h.2.2.1.1 rfl (oIf.n (nI_ge hk (by omega)) ⟨true, rfl, oIf.y rfl (oIs.i h.2.2.1.1 (S_node h hk (oRef.s (oGetR.s (h.2.2.2.1 k hk).1 rfl hQ))))⟩))))
theorem LL.insF {M1 : wM} {ow1 : Nat → Nat} {k q x : Nat} (h0 : n < 400) (hk : k < n) (hg : ∀ i, i < n → Ob M1 (g i)) (hx : Ob M1 x) (hqd : ∀ i, i < n → nd i ≠ q) (hinj : ∀ i j, i < n → j < n → nd i = nd j → i = j)
    (hA : Cl G M1 ow1 τ a (.inr (17, [.int (mc + 1), .int (nI (n + 1)), .ref (if k = 0 then q else nd 0), va_rf (opt (0 < n) (nd (n - 1)))])))
    (hq : Cl G M1 ow1 τ q (.inr (18, [.ref x, .ref (nd k), va_rf (opt (0 < k) (nd (k - 1)))])))
    (hN : ∀ i, i < n → Cl G M1 ow1 τ (nd i) (.inr (18, [.ref (g i), va_rf (if i + 1 = k then some q else opt (i + 1 < n) (nd (i + 1))), va_rf (if i = k then some q else opt (0 < i) (nd (i - 1)))]))) : LL G M1 ow1 τ a (n + 1) (insN nd k q) (insN g k x) (mc + 1) := by
  refine ⟨by omega, fun j hj => ?_, ?_, fun j hj => ?_, fun i j hi hj e => ?_⟩
  · by_cases c : j < k
    · rw [insN_l c]; exact hg j (by omega)
    · by_cases c2 : j = k
      · rw [c2, insN_e]; exact hx
      · rw [insN_g (by omega)]; exact hg _ (by omega)
  · unfold llC
    rw [opt_y (by omega), opt_y (by omega), show n + 1 - 1 = n by omega, insN_g hk]
    rw [opt_y (by omega)] at hA
    by_cases c : k = 0
    · subst c; rw [if_pos rfl] at hA; rw [insN_e]; exact hA
    · rw [if_neg c] at hA; rw [insN_l (by omega)]; exact hA
  · unfold ndC
    by_cases c : j < k
    · rw [insN_l c, insN_l c]
      have := hN j (by omega)
      rw [if_neg (show ¬ j = k by omega)] at this
      have e2 : opt (0 < j) (insN nd k q (j - 1)) = opt (0 < j) (nd (j - 1)) := opt_c Iff.rfl fun z => insN_l (by omega)
      rw [e2, opt_y (by omega)]
      by_cases c2 : j + 1 = k
      · rw [if_pos c2] at this; rw [c2, insN_e]; exact this
      · rw [if_neg c2, opt_y (by omega)] at this; rw [insN_l (by omega)]; exact this
    · by_cases c2 : j = k
      · subst c2
        rw [insN_e, insN_e, opt_y (by omega), insN_g (by omega), show j + 1 - 1 = j by omega]
        have e2 : opt (0 < j) (insN nd j q (j - 1)) = opt (0 < j) (nd (j - 1)) := opt_c Iff.rfl fun z => insN_l (by omega)
        rw [e2]; exact hq
      · obtain ⟨i, rfl⟩ : ∃ i, j = i + 1 := ⟨j - 1, by omega⟩
        rw [insN_g (by omega), insN_g (by omega), show i + 1 - 1 = i by omega, opt_y (show 0 < i + 1 by omega)]
        have := hN i (by omega)
        rw [if_neg (show ¬ i + 1 = k by omega)] at this
        have e1 : opt (i + 1 + 1 < n + 1) (insN nd k q (i + 1 + 1)) = opt (i + 1 < n) (nd (i + 1)) := opt_c (by omega) fun z => insN_g (by omega)
        rw [e1]
        by_cases c3 : i = k
        · rw [if_pos c3] at this; rw [c3, insN_e]; rw [c3] at this; exact this
        · rw [if_neg c3, opt_y (show 0 < i by omega)] at this; rw [insN_g (show k < i by omega)]; exact this
  · have key : ∀ j, j < n + 1 → (j = k ∧ insN nd k q j = q) ∨ (j ≠ k ∧ (if j < k then j else j - 1) < n ∧ insN nd k q j = nd (if j < k then j else j - 1)) := fun j hj => by
      by_cases c : j < k
      · exact .inr ⟨by omega, by rw [if_pos c]; omega, by rw [if_pos c, insN_l c]⟩
      · by_cases c2 : j = k
        · exact .inl ⟨c2, by rw [c2, insN_e]⟩
        · exact .inr ⟨c2, by rw [if_neg c]; omega, by rw [if_neg c, insN_g (by omega)]⟩
    rcases key i hi with ⟨e1, e2⟩ | ⟨e1, e2, e3⟩
    · rcases key j hj with ⟨f1, f2⟩ | ⟨f1, f2, f3⟩
      · omega
      · rw [e2, f3] at e; exact absurd e.symm (hqd _ f2)
    · rcases key j hj with ⟨f1, f2⟩ | ⟨f1, f2, f3⟩
      · rw [e3, f2] at e; exact absurd e (hqd _ e2)
      · rw [e3, f3] at e
        have := hinj _ _ e2 f2 e
        split at this <;> split at this <;> omega
theorem S_linkBefore (h : LL G M ow τ a n nd g mc) (hτ : τ ≠ 0) {x k b : Nat} (hk : k < n) (hn : n < 400) (hb : 4 ≤ b) (hx : Ob M x) {Q : wM → Prop} (hQ : ∀ q M1 ow1, Mv [τ] M ow M1 ow1 → LL G M1 ow1 τ a (n + 1) (insN nd k q) (insN g k x) (mc + 1) → Q M1) : P_J8_linkBefore G a (some x) (some (nd k)) b M Q := by
  obtain ⟨h1, h2, h3, h4, h5⟩ := h
  refine oRef.s (oGetR.i (v := opt (0 < k) (nd (k - 1))) (h4 k hk).1 rfl (oNew.m (ow := ow) τ hb fun q M1 hq hz e1 hs1 hC1 => ?_))
  have hqd : ∀ k, k < n → nd k ≠ q := fun k hk y => by have := (h4 k hk).1; rw [y, hq] at this; cases this
  have hqa : a ≠ q := fun y => by have := h3.1; rw [y, hq] at this; cases this
  have hs1' : Mv [τ] M ow M1 (va_up ow q τ) := hs1.mono (by simp) (t0 hτ)
  unfold P_J6_init
  refine oPut.m hC1 hτ (Nat.le_of_ble_eq_true rfl) (fs1 := [.ref x, .null, .null]) rfl fun M2 e2 hs2 hC2 => ?_
  refine oPut.m hC2 hτ (Nat.le_of_ble_eq_true rfl) (fs1 := [.ref x, .ref (nd k), .null]) rfl fun M3 e3 hs3 hC3 => ?_
  refine oPut.m hC3 hτ (Nat.le_of_ble_eq_true rfl) (fs1 := [.ref x, .ref (nd k), va_rf (opt (0 < k) (nd (k - 1)))]) rfl fun M4 e4 hs4 hC4 => ?_
  have E4 : M4 = wIns M q (.inr (18, [.ref x, .ref (nd k), va_rf (opt (0 < k) (nd (k - 1)))])) := by rw [e4, e3, e2, e1, wIns_wIns, wIns_wIns, wIns_wIns]
  have hs4' : Mv [τ] M ow M4 (va_up ow q τ) := ((hs1'.tr hs2).tr hs3).tr hs4
  generalize va_up ow q τ = ow1 at *
  have hA4 : Cl G M4 ow1 τ a (llC mc n nd) := ⟨by rw [E4, wIns_ne _ _ hqa]; exact h3.1, (hs4'.ow h3.1).trans h3.2.1, h3.2.2⟩
  have hN4 : ∀ k, k < n → Cl G M4 ow1 τ (nd k) (ndC g n nd k) := fun k hk => ⟨by rw [E4, wIns_ne _ _ (hqd k hk)]; exact (h4 k hk).1, (hs4'.ow (h4 k hk).1).trans (h4 k hk).2.1, (h4 k hk).2.2⟩
  have hCne : ∀ k, k < n → a ≠ nd k := fun k hk => hA4.ne (hN4 k hk) (by simp)
  refine oPut.m (hN4 k hk) hτ (Nat.le_of_ble_eq_true rfl) (fs1 := [.ref (g k), va_rf (opt (k + 1 < n) (nd (k + 1))), .ref q]) rfl fun M5 e5 hs5 hK5 => ?_
  have hs5' := hs4'.tr hs5
  have hA5 : Cl G M5 ow1 τ a (llC mc n nd) := by rw [e5]; exact hA4.off (hCne k hk) _
  have hQ5 : Cl G M5 ow1 τ q (.inr (18, [.ref x, .ref (nd k), va_rf (opt (0 < k) (nd (k - 1)))])) := by rw [e5]; exact hC4.off (fun y => hqd k hk y.symm) _
  have hN5 : ∀ i, i < n → i ≠ k → Cl G M5 ow1 τ (nd i) (ndC g n nd i) := fun i hi hne => by rw [e5]; exact (hN4 i hi).off (fun y => hne (h5 _ _ hi hk y)) _
  have fin : ∀ M6, Mv [τ] M ow M6 ow1 → Cl G M6 ow1 τ a (.inr (17, [.int mc, .int (nI n), .ref (if k = 0 then q else nd 0), va_rf (opt (0 < n) (nd (n - 1)))])) → Cl G M6 ow1 τ q (.inr (18, [.ref x, .ref (nd k), va_rf (opt (0 < k) (nd (k - 1)))])) →
      (∀ i, i < n → Cl G M6 ow1 τ (nd i) (.inr (18, [.ref (g i), va_rf (if i + 1 = k then some q else opt (i + 1 < n) (nd (i + 1))), va_rf (if i = k then some q else opt (0 < i) (nd (i - 1)))]))) → B_J8_linkBefore_42 G Q a M6 (b - 4) := by
    intro M6 hs6 hA6 hQ6 hN6
    refine oGetI.i hA6.1 rfl (oPut.m hA6 hτ (Nat.le_of_ble_eq_true rfl) (fs1 := [.int mc, .int (nI (n + 1)), .ref (if k = 0 then q else nd 0), va_rf (opt (0 < n) (nd (n - 1)))]) (by rw [nI_1]; rfl) fun M7 e7 hs7 hA7 => ?_)
    refine oGetI.i hA7.1 rfl (oPut.m hA7 hτ (Nat.le_of_ble_eq_true rfl) (fs1 := [.int (mc + 1), .int (nI (n + 1)), .ref (if k = 0 then q else nd 0), va_rf (opt (0 < n) (nd (n - 1)))]) rfl fun M8 e8 hs8 hA8 => ?_)
    have hst := (hs6.tr hs7).tr hs8
    refine hQ q M8 _ hst (LL.insF hn hk (fun i hi => (h2 i hi).stp hst) (hx.stp hst) hqd h5 hA8 ?_ fun i hi => ?_)
    · rw [e8, e7]; exact (hQ6.off (fun y => hqa y.symm) _).off (fun y => hqa y.symm) _
    · rw [e8, e7]; exact ((hN6 i hi).off (fun y => hCne i hi y.symm) _).off (fun y => hCne i hi y.symm) _
  by_cases c : 0 < k
  · rw [opt_y c]
    refine oNull.s ?_
    have hl := hN5 (k - 1) (by omega) (by omega)
    refine oPut.m hl hτ (Nat.le_of_ble_eq_true rfl) (fs1 := [.ref (g (k - 1)), .ref q, va_rf (opt (0 < k - 1) (nd (k - 1 - 1)))]) rfl fun M6 e6 hs6 hL6 => ?_
    refine fin M6 (hs5'.tr hs6) ?_ ?_ fun i hi => ?_
    · rw [if_neg (by omega), e6]
      have := hA5.off (hCne (k - 1) (by omega)) (.inr (18, [.ref (g (k - 1)), .ref q, va_rf (opt (0 < k - 1) (nd (k - 1 - 1)))]))
      unfold llC at this
      simp only [opt_y (show 0 < n by omega)] at this ⊢
      exact this
    · rw [e6]; exact hQ5.off (fun y => hqd _ (by omega) y.symm) _
    · by_cases c1 : i = k
      · subst c1
        rw [if_neg (by omega), if_pos rfl, e6]
        exact hK5.off (fun y => by have := h5 _ _ hk (by omega) y; omega) _
      · rw [if_neg c1]
        by_cases c2 : i + 1 = k
        · have : i = k - 1 := by omega
          subst this
          rw [if_pos c2]; exact hL6
        · rw [if_neg c2, e6]
          exact (hN5 i hi c1).off (fun y => by have := h5 _ _ hi (by omega) y; omega) _
  · have c0 : k = 0 := by omega
    subst c0
    rw [opt_n c]
    refine oNull.n ?_
    refine oPut.m hA5 hτ (Nat.le_of_ble_eq_true rfl) (fs1 := [.int mc, .int (nI n), .ref q, va_rf (opt (0 < n) (nd (n - 1)))]) rfl fun M6 e6 hs6 hA6 => ?_
    refine fin M6 (hs5'.tr hs6) hA6 ?_ fun i hi => ?_
    · rw [e6]; exact hQ5.off (fun y => hqa y.symm) _
    · rw [if_neg (by omega), e6]
      by_cases c1 : i = 0
      · subst c1
        rw [if_pos rfl]; exact hK5.off (fun y => hCne _ hk y.symm) _
      · rw [if_neg c1]; exact (hN5 i hi c1).off (fun y => hCne _ hi y.symm) _
theorem S_lladdAt (h : LL G M ow τ a n nd g mc) (hτ : τ ≠ 0) {x k b : Nat} (hk : k ≤ n) (hn : n < 400) (hb : 4 ≤ b) (hx : Ob M x) {Q : wM → Prop} (hQ : ∀ nd1 M1 ow1, Mv [τ] M ow M1 ow1 → LL G M1 ow1 τ a (n + 1) nd1 (insN g k x) (mc + 1) → Q M1) : P_J8_add_2 G a (nI k) (some x) b M Q := by
  have h3 := h.2.2.1
  refine oIs.i h3.1 (oIs.i h3.1 (oIf.n (nI_pos (by omega)) (oGetI.i h3.1 rfl (oIf.n (nI_nlt hk (by omega)) ⟨true, rfl, oIf.y rfl (oGetI.i h3.1 rfl (oIf.c (fun c => ?_) (fun c => ?_)))⟩))))
  · have e : k = n := nI_inj (by omega) (by omega) c
    subst e
    refine oIs.i h3.1 ⟨b, Nat.le_refl _, S_linkLast h hτ hn hb hx fun q M1 ow1 hs hl => hQ (va_up nd k q) M1 ow1 hs ?_⟩
    have hl1 : LL G M1 ow1 τ a (k + 1) (va_up nd k q) (insN g k x) (mc + 1) := by
      obtain ⟨l1, l2, l3, l4, l5⟩ := hl
      have ee : ∀ j, j < k + 1 → va_up g k x j = insN g k x j := fun j hj => by
        by_cases c : j = k
        · subst c; rw [va_up_self, insN_e]
        · rw [va_up_ne _ _ c, insN_l (by omega)]
      refine ⟨l1, fun j hj => by rw [← ee j hj]; exact l2 j hj, l3, fun j hj => ?_, l5⟩
      have := l4 j hj
      unfold ndC at this ⊢
      rw [← ee j hj]; exact this
    exact hl1
  · have hlt : k < n := by
      rcases Nat.lt_or_ge k n with z | z
      · exact z
      · exact absurd (congrArg nI (show k = n by omega)) c
    exact oIs.i h3.1 (S_node h hlt (oIs.i h3.1 ⟨b, Nat.le_refl _, S_linkBefore h hτ hlt hn hb hx fun q M1 ow1 hs hl => hQ _ M1 ow1 hs hl⟩))
/-- Integers -/
theorem S_intEq {x z : Nat} {v w : Int32} (hx : M x = some (inC v)) (hz : M z = some (inC w)) {Q : Bool → wM → Prop} (hQ : Q (decide (v = w)) M) : P_J23_equals G x (some z) M Q :=
  oRef.s (oIs.i hz (oIf.n (by decide) (oGetI.i hx rfl (oCast.s hz (oIs.i hz (oGetI.i hz rfl (oIf.c (fun c => ⟨true, rfl, by rw [decide_eq_true c] at hQ; exact hQ⟩) (fun c => ⟨false, rfl, by rw [decide_eq_false c] at hQ; exact hQ⟩))))))))
theorem S_indexOf (h : LL G M ow τ a n nd g mc) {x : Nat} {v : Int32} {vv : Nat → Int32} (hx : M x = some (inC v)) (hv : ∀ j, j < n → M (g j) = some (inC (vv j))) {Q : Int32 → wM → Prop} (hQ : Q (srch (fun j => decide (v = vv j)) (n - 0) 0) M) : P_J8_indexOf G a x M Q := by
  obtain ⟨h1, h2, h3, h4, h5⟩ := h
  refine oGetR.i (v := opt (0 < n) (nd 0)) h3.1 rfl ?_
  refine st_loopP (F := fun m k => L_J8_indexOf_43 G Q m x (nI k) (opt (k < n) (nd k)) M) (P := fun k => Q (srch (fun j => decide (v = vv j)) (n - k) k) M) (N := n) (fun m hq => ?_) (fun m k hk hq ih => ?_) 0 (Nat.zero_le _) hQ
  · unfold L_J8_indexOf_43; unfold B_J8_indexOf_43
    rw [opt_n (Nat.lt_irrefl _)]
    rw [Nat.sub_self] at hq
    exact oNull.n hq
  · unfold L_J8_indexOf_43; unfold B_J8_indexOf_43
    rw [opt_y hk]
    refine oNull.s (oGetR.s (h4 k hk).1 rfl (oIs.i hx (S_intEq hx (hv k hk) (bl _ (fun c => ?_) (fun c => ?_)))))
    · rw [srch_y hk c] at hq; exact hq
    · rw [srch_n hk (by rw [c]; decide)] at hq
      refine oGetR.i (v := opt (k + 1 < n) (nd (k + 1))) (h4 k hk).1 rfl ?_
      rw [nI_1]; exact ih hq
/-- an iterator that returned something, or nothing since a removal -/
def liG (lr : Option Nat) (nd : Nat → Nat) (n a k : Nat) (mc : Int32) : wE := .inr (19, [va_rf lr, va_rf (opt (k < n) (nd k)), .int (nI k), .int mc, .ref a])
theorem S_lihasG (h : LL G M ow τ a n nd g mc) {k q : Nat} {lr : Option Nat} (hk : k ≤ n) (hi : M q = some (liG lr nd n a k mc)) {Q : Bool → wM → Prop} (hQ : Q (decide (k < n)) M) : P_J36_hasNext G q M Q := by
  obtain ⟨h1, h2, h3, h4, h5⟩ := h
  refine oGetI.i hi rfl (oGetA.i hi rfl (oGetI.i h3.1 rfl ?_))
  by_cases c : k < n
  · rw [decide_eq_true c] at hQ
    exact oIf.n (nI_ge c (by omega)) ⟨true, rfl, hQ⟩
  · rw [decide_eq_false c] at hQ
    exact oIf.y (nI_le (by omega) (by omega)) ⟨false, rfl, hQ⟩
theorem S_linextG (h : LL G M ow τ a n nd g mc) {σ k q : Nat} {lr : Option Nat} (hk : k < n) (hi : Cl G M ow σ q (liG lr nd n a k mc)) (hσ : σ ≠ 0) {Q : Option Nat → wM → Prop} (hQ : ∀ M1, M1 = wIns M q (liG (some (nd k)) nd n a (k + 1) mc) → Mv [σ] M ow M1 ow → Cl G M1 ow σ q (liG (some (nd k)) nd n a (k + 1) mc) → Q (some (g k)) M1) : P_J36_next G q M Q := by
  have hh := h
  obtain ⟨h1, h2, h3, h4, h5⟩ := h
  have hne : nd k ≠ q := fun x => by have := hi.1; rw [← x, (h4 k hk).1] at this; simp [liG] at this
  have hi0 := hi
  unfold liG at hi
  rw [opt_y hk] at hi
  refine oIs.i hi.1 (oGetA.i hi.1 rfl (oGetI.i h3.1 rfl (oGetI.i hi.1 rfl (oIf.y rfl (oIs.i hi.1 ?_)))))
  refine S_lihasG hh (Nat.le_of_lt hk) hi0.1 ?_
  rw [decide_eq_true hk]
  refine oIf.y rfl (oGetR.s hi.1 rfl ?_)
  refine oPut.m hi hσ (Nat.le_of_ble_eq_true rfl) (fs1 := [.ref (nd k), .ref (nd k), .int (nI k), .int mc, .ref a]) rfl fun M1 e1 hs1 hC1 => ?_
  refine oGetR.s hC1.1 rfl (oRef.s (oGetR.i (v := opt (k + 1 < n) (nd (k + 1))) (fs := [.ref (g k), va_rf (opt (k + 1 < n) (nd (k + 1))), va_rf (opt (0 < k) (nd (k - 1)))]) ?_ rfl ?_))
  · rw [e1, wIns_ne _ _ hne]; exact (h4 k hk).1
  refine oPut.m hC1 hσ (Nat.le_of_ble_eq_true rfl) (fs1 := [.ref (nd k), va_rf (opt (k + 1 < n) (nd (k + 1))), .int (nI k), .int mc, .ref a]) rfl fun M2 e2 hs2 hC2 => ?_
  refine oGetI.i hC2.1 rfl (oPut.m hC2 hσ (Nat.le_of_ble_eq_true rfl) (fs1 := [.ref (nd k), va_rf (opt (k + 1 < n) (nd (k + 1))), .int (nI (k + 1)), .int mc, .ref a]) (by rw [nI_1]; rfl) fun M3 e3 hs3 hC3 => ?_)
  refine oGetR.s hC3.1 rfl (oRef.s (oGetR.s (fs := [.ref (g k), va_rf (opt (k + 1 < n) (nd (k + 1))), va_rf (opt (0 < k) (nd (k - 1)))]) ?_ rfl ?_))
  · rw [e3, e2, e1, wIns_wIns, wIns_wIns, wIns_ne _ _ hne]; exact (h4 k hk).1
  have el : liG (some (nd k)) nd n a (k + 1) mc = .inr (19, [.ref (nd k), va_rf (opt (k + 1 < n) (nd (k + 1))), .int (nI (k + 1)), .int mc, .ref a]) := rfl
  refine hQ M3 ?_ ((hs1.tr hs2).tr hs3) ?_
  · rw [e3, e2, e1, wIns_wIns, wIns_wIns, el]
  · rw [el]; exact hC3
theorem LL.delF {M1 : wM} {ow1 : Nat → Nat} {k : Nat} (h0 : n ≤ 400) (hk : k < n) (hg : ∀ i, i < n → Ob M1 (g i)) (hinj : ∀ i j, i < n → j < n → nd i = nd j → i = j)
    (hA : Cl G M1 ow1 τ a (.inr (17, [.int (mc + 1), .int (nI (n - 1)), va_rf (if k = 0 then opt (k + 1 < n) (nd (k + 1)) else some (nd 0)), va_rf (if k + 1 = n then opt (0 < k) (nd (k - 1)) else some (nd (n - 1)))])))
    (hN : ∀ i, i < n → i ≠ k → Cl G M1 ow1 τ (nd i) (.inr (18, [.ref (g i), va_rf (if i + 1 = k then opt (k + 1 < n) (nd (k + 1)) else opt (i + 1 < n) (nd (i + 1))), va_rf (if i = k + 1 then opt (0 < k) (nd (k - 1)) else opt (0 < i) (nd (i - 1)))]))) : LL G M1 ow1 τ a (n - 1) (delN nd k) (delN g k) (mc + 1) := by
  refine ⟨by omega, fun j hj => ?_, ?_, fun j hj => ?_, fun i j hi hj e => ?_⟩
  · by_cases c : j < k
    · rw [delN_l c]; exact hg j (by omega)
    · rw [delN_g (by omega)]; exact hg _ (by omega)
  · unfold llC
    have e1 : opt (0 < n - 1) (delN nd k 0) = if k = 0 then opt (k + 1 < n) (nd (k + 1)) else some (nd 0) := by
      by_cases c : k = 0
      · subst c; rw [if_pos rfl]; exact opt_c (by omega) fun z => delN_g (Nat.le_refl _)
      · rw [if_neg c, opt_y (by omega), delN_l (by omega)]
    have e2 : opt (0 < n - 1) (delN nd k (n - 1 - 1)) = if k + 1 = n then opt (0 < k) (nd (k - 1)) else some (nd (n - 1)) := by
      by_cases c : k + 1 = n
      · rw [if_pos c]
        refine opt_c (by omega) fun z => ?_
        rw [delN_l (by omega)]; congr 1; omega
      · rw [if_neg c, opt_y (by omega), delN_g (by omega)]; congr 2; omega
    rw [e1, e2]; exact hA
  · unfold ndC
    by_cases c : j < k
    · have := hN j (by omega) (by omega)
      rw [if_neg (show ¬ j = k + 1 by omega)] at this
      have e1 : opt (j + 1 < n - 1) (delN nd k (j + 1)) = if j + 1 = k then opt (k + 1 < n) (nd (k + 1)) else opt (j + 1 < n) (nd (j + 1)) := by
        by_cases c2 : j + 1 = k
        · rw [if_pos c2]; exact opt_c (by omega) fun z => by rw [delN_g (by omega), c2]
        · rw [if_neg c2]; exact opt_c (by omega) fun z => delN_l (by omega)
      have e2 : opt (0 < j) (delN nd k (j - 1)) = opt (0 < j) (nd (j - 1)) := opt_c Iff.rfl fun z => delN_l (by omega)
      rw [delN_l c, delN_l c, e1, e2]; exact this
    · have := hN (j + 1) (by omega) (by omega)
      rw [if_neg (show ¬ j + 1 + 1 = k by omega)] at this
      have e1 : opt (j + 1 < n - 1) (delN nd k (j + 1)) = opt (j + 1 + 1 < n) (nd (j + 1 + 1)) := opt_c (by omega) fun z => delN_g (by omega)
      have e2 : opt (0 < j) (delN nd k (j - 1)) = if j + 1 = k + 1 then opt (0 < k) (nd (k - 1)) else opt (0 < j + 1) (nd (j + 1 - 1)) := by
        by_cases c2 : j = k
        · subst c2; rw [if_pos rfl]; exact opt_c Iff.rfl fun z => delN_l (by omega)
        · rw [if_neg (by omega)]; exact opt_c (by omega) fun z => by rw [delN_g (by omega)]; congr 1; omega
      rw [delN_g (by omega), delN_g (by omega), e1, e2]; exact this
  · have key : ∀ j, j < n - 1 → (if j < k then j else j + 1) < n ∧ delN nd k j = nd (if j < k then j else j + 1) := fun j hj => by
      by_cases c : j < k
      · rw [if_pos c]; exact ⟨by omega, delN_l c⟩
      · rw [if_neg c]; exact ⟨by omega, delN_g (by omega)⟩
    have a1 := key i hi
    have a2 := key j hj
    rw [a1.2, a2.2] at e
    have := hinj _ _ a1.1 a2.1 e
    split at this <;> split at this <;> omega
theorem S_unlink (h : LL G M ow τ a n nd g mc) (hτ : τ ≠ 0) {k : Nat} (hk : k < n) {Q : Option Nat → wM → Prop} (hQ : ∀ M1, Mv [τ] M ow M1 ow → LL G M1 ow τ a (n - 1) (delN nd k) (delN g k) (mc + 1) → Q (some (g k)) M1) : P_J8_unlink G a (some (nd k)) M Q := by
  obtain ⟨h1, h2, h3, h4, h5⟩ := h
  have hCne : ∀ k, k < n → a ≠ nd k := fun k hk => h3.ne (h4 k hk) (by simp)
  refine oRef.s (oGetR.s (h4 k hk).1 rfl (oGetR.i (v := opt (k + 1 < n) (nd (k + 1))) (h4 k hk).1 rfl (oGetR.i (v := opt (0 < k) (nd (k - 1))) (h4 k hk).1 rfl ?_)))
  -- the end: item, size, count of changes
  have fin : ∀ (M1 : wM) (u v : Value), Mv [τ] M ow M1 ow → Cl G M1 ow τ a (.inr (17, [.int mc, .int (nI n), va_rf (if k = 0 then opt (k + 1 < n) (nd (k + 1)) else some (nd 0)), va_rf (if k + 1 = n then opt (0 < k) (nd (k - 1)) else some (nd (n - 1)))])) → Cl G M1 ow τ (nd k) (.inr (18, [.ref (g k), u, v])) →
      (∀ i, i < n → i ≠ k → Cl G M1 ow τ (nd i) (.inr (18, [.ref (g i), va_rf (if i + 1 = k then opt (k + 1 < n) (nd (k + 1)) else opt (i + 1 < n) (nd (i + 1))), va_rf (if i = k + 1 then opt (0 < k) (nd (k - 1)) else opt (0 < i) (nd (i - 1)))]))) → B_J8_unlink_64 G Q a (nd k) (some (g k)) M1 := by
    intro M1 u v hs hA hK hN
    refine oPut.m hK hτ (Nat.le_of_ble_eq_true rfl) (fs1 := [.null, u, v]) rfl fun M2 e2 hs2 hK2 => ?_
    have hA2 := hA.off (hCne k hk) (.inr (18, [.null, u, v]))
    rw [← e2] at hA2
    refine oGetI.i hA2.1 rfl (oPut.m hA2 hτ (Nat.le_of_ble_eq_true rfl) (fs1 := [.int mc, .int (nI (n - 1)), va_rf (if k = 0 then opt (k + 1 < n) (nd (k + 1)) else some (nd 0)), va_rf (if k + 1 = n then opt (0 < k) (nd (k - 1)) else some (nd (n - 1)))]) (by rw [nI_sub1 (by omega)]; rfl) fun M3 e3 hs3 hA3 => ?_)
    refine oGetI.i hA3.1 rfl (oPut.m hA3 hτ (Nat.le_of_ble_eq_true rfl) (fs1 := [.int (mc + 1), .int (nI (n - 1)), va_rf (if k = 0 then opt (k + 1 < n) (nd (k + 1)) else some (nd 0)), va_rf (if k + 1 = n then opt (0 < k) (nd (k - 1)) else some (nd (n - 1)))]) rfl fun M4 e4 hs4 hA4 => ?_)
    have hst := ((hs.tr hs2).tr hs3).tr hs4
    refine hQ M4 hst (LL.delF h1 hk (fun i hi => (h2 i hi).stp hst) h5 hA4 fun i hi hne => ?_)
    rw [e4, e3, e2]
    exact (((hN i hi hne).off (fun y => hne (h5 _ _ hi hk y)) _).off (fun y => hCne i hi y.symm) _).off (fun y => hCne i hi y.symm) _
  have mid : ∀ (M1 : wM) (v : Value), Mv [τ] M ow M1 ow → Cl G M1 ow τ a (.inr (17, [.int mc, .int (nI n), va_rf (if k = 0 then opt (k + 1 < n) (nd (k + 1)) else some (nd 0)), va_rf (opt (0 < n) (nd (n - 1)))])) → Cl G M1 ow τ (nd k) (.inr (18, [.ref (g k), va_rf (opt (k + 1 < n) (nd (k + 1))), v])) →
      (∀ i, i < n → i ≠ k → Cl G M1 ow τ (nd i) (.inr (18, [.ref (g i), va_rf (if i + 1 = k then opt (k + 1 < n) (nd (k + 1)) else opt (i + 1 < n) (nd (i + 1))), va_rf (opt (0 < i) (nd (i - 1)))]))) → B_J8_unlink_40 G Q a (nd k) (some (g k)) (opt (k + 1 < n) (nd (k + 1))) (opt (0 < k) (nd (k - 1))) M1 := by
    intro M1 v hs hA hK hN
    rw [opt_y (show 0 < n by omega)] at hA
    unfold B_J8_unlink_40
    by_cases c : k + 1 < n
    · have hN1 := hN (k + 1) c (by omega)
      rw [if_neg (by omega)] at hN1
      rw [opt_y c] at fin hA hK hN ⊢
      refine oNull.s (oPut.m hN1 hτ (Nat.le_of_ble_eq_true rfl) (fs1 := [.ref (g (k + 1)), va_rf (opt (k + 1 + 1 < n) (nd (k + 1 + 1))), va_rf (opt (0 < k) (nd (k - 1)))]) rfl fun M2 e2 hs2 hN2 => ?_)
      have hk2 := hK.off (fun y => by have := h5 _ _ hk c y; omega) (.inr (18, [.ref (g (k + 1)), va_rf (opt (k + 1 + 1 < n) (nd (k + 1 + 1))), va_rf (opt (0 < k) (nd (k - 1)))]))
      rw [← e2] at hk2
      refine oPut.m hk2 hτ (Nat.le_of_ble_eq_true rfl) (fs1 := [.ref (g k), .null, v]) rfl fun M3 e3 hs3 hK3 => ?_
      refine fin M3 .null v ((hs.tr hs2).tr hs3) ?_ hK3 fun i hi hne => ?_
      · rw [if_neg (show ¬ k + 1 = n by omega), e3, e2]
        exact (hA.off (hCne _ c) _).off (hCne _ hk) _
      · rw [e3]
        by_cases c1 : i = k + 1
        · subst c1
          rw [if_neg (by omega), if_pos rfl]
          exact hN2.off (fun y => by have := h5 _ _ hi hk y; omega) _
        · rw [if_neg c1, e2]
          exact ((hN i hi hne).off (fun y => c1 (h5 _ _ hi c y)) _).off (fun y => hne (h5 _ _ hi hk y)) _
    · have cn : k + 1 = n := by omega
      rw [opt_n c] at fin hA hK hN ⊢
      refine oNull.n (oPut.m hA hτ (Nat.le_of_ble_eq_true rfl) (fs1 := [.int mc, .int (nI n), va_rf (if k = 0 then none else some (nd 0)), va_rf (opt (0 < k) (nd (k - 1)))]) rfl fun M2 e2 hs2 hA2 => ?_)
      refine fin M2 .null v (hs.tr hs2) (by rw [if_pos cn]; exact hA2) (by rw [e2]; exact hK.off (fun y => hCne _ hk y.symm) _) fun i hi hne => ?_
      rw [if_neg (show ¬ i = k + 1 by omega), e2]
      exact (hN i hi hne).off (fun y => hCne _ hi y.symm) _
  by_cases c : 0 < k
  · have hl := h4 (k - 1) (by omega)
    rw [opt_y c] at mid ⊢
    unfold ndC at hl
    refine oNull.s (oPut.m hl hτ (Nat.le_of_ble_eq_true rfl) (fs1 := [.ref (g (k - 1)), va_rf (opt (k + 1 < n) (nd (k + 1))), va_rf (opt (0 < k - 1) (nd (k - 1 - 1)))]) rfl fun M1 e1 hs1 hL1 => ?_)
    have hk1 := (h4 k hk).off (show nd k ≠ nd (k - 1) from fun y => by have := h5 _ _ hk (show k - 1 < n by omega) y; omega) (.inr (18, [.ref (g (k - 1)), va_rf (opt (k + 1 < n) (nd (k + 1))), va_rf (opt (0 < k - 1) (nd (k - 1 - 1)))]))
    rw [← e1] at hk1
    refine oPut.m hk1 hτ (Nat.le_of_ble_eq_true rfl) (fs1 := [.ref (g k), va_rf (opt (k + 1 < n) (nd (k + 1))), .null]) rfl fun M2 e2 hs2 hK2 => ?_
    refine mid M2 .null (hs1.tr hs2) ?_ hK2 fun i hi hne => ?_
    · rw [if_neg (by omega), e2, e1]
      have := (h3.off (hCne (k - 1) (by omega)) (.inr (18, [.ref (g (k - 1)), va_rf (opt (k + 1 < n) (nd (k + 1))), va_rf (opt (0 < k - 1) (nd (k - 1 - 1)))]))).off (hCne k hk) (.inr (18, [.ref (g k), va_rf (opt (k + 1 < n) (nd (k + 1))), .null]))
      unfold llC at this
      rw [opt_y (c := 0 < n) (x := nd 0) (by omega)] at this
      exact this
    · rw [e2]
      by_cases c1 : i + 1 = k
      · have ei : i = k - 1 := by omega
        rw [if_pos c1, ei]
        exact hL1.off (fun y => by have := h5 _ _ (by omega) hk y; omega) _
      · rw [if_neg c1, e1]
        exact ((h4 i hi).off (fun y => c1 (by have := h5 _ _ hi (by omega) y; omega)) _).off (fun y => hne (h5 _ _ hi hk y)) _
  · have c0 : k = 0 := by omega
    subst c0
    rw [opt_n c] at mid ⊢
    refine oNull.n (oPut.m h3 hτ (Nat.le_of_ble_eq_true rfl) (fs1 := [.int mc, .int (nI n), va_rf (opt (0 + 1 < n) (nd (0 + 1))), va_rf (opt (0 < n) (nd (n - 1)))]) rfl fun M1 e1 hs1 hA1 => ?_)
    refine mid M1 .null hs1 hA1 ?_ fun i hi hne => ?_
    · rw [e1]
      have := (h4 0 hk).off (fun y => hCne _ hk y.symm) (.inr (17, [.int mc, .int (nI n), va_rf (opt (0 + 1 < n) (nd (0 + 1))), va_rf (opt (0 < n) (nd (n - 1)))]))
      unfold ndC at this
      rw [opt_n c] at this
      exact this
    · rw [if_neg (by omega), e1]
      exact (h4 i hi).off (fun y => hCne _ hi y.symm) _
theorem S_liremove (h : LL G M ow τ a n nd g mc) (hτ : τ ≠ 0) {σ k q : Nat} (hk : k < n) (hi : Cl G M ow σ q (liG (some (nd k)) nd n a (k + 1) mc)) (hσ : σ ≠ 0) (hne : σ ≠ τ) {Q : wM → Prop} (hQ : ∀ M1, Mv [τ, σ] M ow M1 ow → LL G M1 ow τ a (n - 1) (delN nd k) (delN g k) (mc + 1) → Cl G M1 ow σ q (liG none (delN nd k) (n - 1) a k (mc + 1)) → Q M1) : P_J36_remove G q M Q := by
  have hh := h
  obtain ⟨h1, h2, h3, h4, h5⟩ := h
  have e0 : liG (some (nd k)) nd n a (k + 1) mc = .inr (19, [.ref (nd k), va_rf (opt (k + 1 < n) (nd (k + 1))), .int (nI (k + 1)), .int mc, .ref a]) := rfl
  rw [e0] at hi
  refine oIs.i hi.1 (oGetA.i hi.1 rfl (oGetI.i h3.1 rfl (oGetI.i hi.1 rfl (oIf.y rfl (oGetR.s hi.1 rfl (oNull.s (oGetR.s hi.1 rfl (oRef.s (oGetR.i (v := opt (k + 1 < n) (nd (k + 1))) (h4 k hk).1 rfl (oGetA.i hi.1 rfl (oGetR.s hi.1 rfl (oIs.i h3.1 (S_unlink hh hτ hk fun M1 hs1 hl1 => ?_)))))))))))))
  have hi1 := hi.stp hs1 (by simpa using hne)
  refine oGetR.i (v := opt (k + 1 < n) (nd (k + 1))) hi1.1 rfl (oGetR.s hi1.1 rfl (oIf.n (fun z => ?_) (oGetI.i hi1.1 rfl (oPut.m hi1 hσ (Nat.le_of_ble_eq_true rfl) (fs1 := [.ref (nd k), va_rf (opt (k + 1 < n) (nd (k + 1))), .int (nI k), .int mc, .ref a]) (by rw [nI_pred]; rfl) fun M2 e2 hs2 hi2 => ?_))))
  · by_cases c : k + 1 < n
    · rw [opt_y c] at z
      have := h5 _ _ c hk (Option.some.inj z)
      omega
    · rw [opt_n c] at z; cases z
  refine oPut.m hi2 hσ (Nat.le_of_ble_eq_true rfl) (fs1 := [.null, va_rf (opt (k + 1 < n) (nd (k + 1))), .int (nI k), .int mc, .ref a]) rfl fun M3 e3 hs3 hi3 => ?_
  refine oGetI.i hi3.1 rfl (oPut.m hi3 hσ (Nat.le_of_ble_eq_true rfl) (fs1 := [.null, va_rf (opt (k + 1 < n) (nd (k + 1))), .int (nI k), .int (mc + 1), .ref a]) rfl fun M4 e4 hs4 hi4 => ?_)
  have h0 : 0 ∉ [τ, σ] := by
    intro z
    rcases List.mem_cons.mp z with z | z
    · exact hτ z.symm
    · exact hσ (List.mem_singleton.mp z).symm
  have hs24 : Mv [σ] M1 ow M4 ow := (hs2.tr hs3).tr hs4
  refine hQ M4 ((hs1.mono (by simp) h0).tr (hs24.mono (by simp) h0)) (hl1.stp hs24 (by simpa using fun z => hne z.symm)) ?_
  have e5 : liG none (delN nd k) (n - 1) a k (mc + 1) = .inr (19, [.null, va_rf (opt (k + 1 < n) (nd (k + 1))), .int (nI k), .int (mc + 1), .ref a]) := by
    unfold liG
    rw [opt_c (c := k < n - 1) (d := k + 1 < n) (y := nd (k + 1)) (by omega) fun z => delN_g (Nat.le_refl _)]
    rfl
  rw [e5]; exact hi4
end JDK7
