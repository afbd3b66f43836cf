set_option maxRecDepth 100000
/-! STAGE 2, pure 16: names as numbers -/
def nmV (d : Nat → Nat) : Nat → Nat
  | 0 => 0
  | k + 1 => 27 * nmV d k + d k
theorem nmV_b {d : Nat → Nat} : ∀ n, (∀ j, j < n → d j ≤ 26) → nmV d n + 1 ≤ 27 ^ n := by
  intro n
  induction n with
  | zero => intro _; exact Nat.le_refl _
  | succ n ih =>
    intro h
    have h1 := ih fun j hj => h j (by omega)
    have h2 := h n (by omega)
    have h3 : nmV d (n + 1) = 27 * nmV d n + d n := rfl
    rw [h3, Nat.pow_succ]; omega
theorem nmV_inj {d d' : Nat → Nat} : ∀ n n', (∀ j, j < n → 1 ≤ d j ∧ d j ≤ 26) → (∀ j, j < n' → 1 ≤ d' j ∧ d' j ≤ 26) → nmV d n = nmV d' n' → n = n' ∧ ∀ j, j < n → d j = d' j := by
  intro n
  induction n with
  | zero =>
    intro n' _ h2 e
    cases n' with
    | zero => exact ⟨rfl, fun j hj => by omega⟩
    | succ n' =>
      have h3 : nmV d' (n' + 1) = 27 * nmV d' n' + d' n' := rfl
      have h4 := h2 n' (by omega)
      rw [h3] at e
      have : nmV d 0 = 0 := rfl
      omega
  | succ n ih =>
    intro n' h1 h2 e
    have h3 : nmV d (n + 1) = 27 * nmV d n + d n := rfl
    have h5 := h1 n (by omega)
    cases n' with
    | zero =>
      have : nmV d' 0 = 0 := rfl
      omega
    | succ n' =>
      have h4 : nmV d' (n' + 1) = 27 * nmV d' n' + d' n' := rfl
      have h6 := h2 n' (by omega)
      rw [h3, h4] at e
      obtain ⟨e1, e2⟩ := ih n' (fun j hj => h1 j (by omega)) (fun j hj => h2 j (by omega)) (by omega)
      refine ⟨by omega, fun j hj => ?_⟩
      by_cases c : j = n
      · rw [c]; have : n = n' := e1
        subst this; omega
      · exact e2 j (by omega)
theorem nmF_v {r : Nat → Int32} {d : Nat → Nat} : ∀ n, (∀ j, j < n → r j = nI (96 + d j) ∧ d j ≤ 26) → nmF r n = lN (nmV d n) := by
  intro n
  induction n with
  | zero => intro _; rfl
  | succ n ih =>
    intro h
    obtain ⟨h1, h2⟩ := h n (by omega)
    rw [nmF_s, ih fun j hj => h j (by omega), h1, nI_l (by omega), show (27 : Int64) = lN 27 from rfl, show (96 : Int64) = lN 96 from rfl, lN_mul, lN_add, lN_sub (by omega), show 27 * nmV d n + (96 + d n) - 96 = 27 * nmV d n + d n by omega]
    rfl
/-- a name: 1 .. 8 letters -/
def isNmS (n : Nat) (r : Nat → Int32) : Prop := 1 ≤ n ∧ n ≤ 8 ∧ ltr r n
theorem nm_inj {n n' : Nat} {r r' : Nat → Int32} (h : isNmS n r) (h' : isNmS n' r') (e : nmF r n = nmF r' n') : n = n' ∧ ∀ j, j < n → r j = r' j := by
  obtain ⟨h1, h2, h3⟩ := h
  obtain ⟨g1, g2, g3⟩ := h'
  have ex : ∀ {n : Nat} {r : Nat → Int32}, ltr r n → ∃ d : Nat → Nat, ∀ j, j < n → r j = nI (96 + d j) ∧ 1 ≤ d j ∧ d j ≤ 26 := fun {n r} h => ⟨fun j => (r j).toNatClampNeg - 96, fun j hj => by
    obtain ⟨d, d1, d2, d3⟩ := h j hj
    have e1 : (r j).toNatClampNeg = 96 + d := by rw [d3, nI_clamp (by omega)]
    show r j = nI (96 + ((r j).toNatClampNeg - 96)) ∧ 1 ≤ (r j).toNatClampNeg - 96 ∧ (r j).toNatClampNeg - 96 ≤ 26
    rw [e1, d3, show 96 + d - 96 = d by omega]
    exact ⟨rfl, d1, d2⟩⟩
  obtain ⟨d, hd⟩ := ex h3
  obtain ⟨d', hd'⟩ := ex g3
  rw [nmF_v n fun j hj => ⟨(hd j hj).1, (hd j hj).2.2⟩, nmF_v n' fun j hj => ⟨(hd' j hj).1, (hd' j hj).2.2⟩] at e
  have b1 := nmV_b n fun j hj => (hd j hj).2.2
  have b2 := nmV_b n' fun j hj => (hd' j hj).2.2
  have b3 : 27 ^ n ≤ 27 ^ 8 := Nat.pow_le_pow_right (by decide) h2
  have b4 : 27 ^ n' ≤ 27 ^ 8 := Nat.pow_le_pow_right (by decide) g2
  have b5 : (27 : Nat) ^ 8 = 282429536481 := by decide
  have e2 := congrArg Int64.toInt e
  have lt63 : ∀ {n : Nat}, n < 2 ^ 63 → (lN n).toInt = (n : Int) := fun h => lg_ofNat_toInt (by omega)
  rw [lt63 (by omega), lt63 (by omega)] at e2
  obtain ⟨f1, f2⟩ := nmV_inj n n' (fun j hj => (hd j hj).2) (fun j hj => (hd' j hj).2) (by omega)
  refine ⟨f1, fun j hj => ?_⟩
  rw [(hd j hj).1, (hd' j (by omega)).1, f2 j hj]
theorem nmF_c {r r' : Nat → Int32} : ∀ n, (∀ j, j < n → r j = r' j) → nmF r n = nmF r' n := by
  intro n
  induction n with
  | zero => intro _; exact (show nmF r 0 = 0 from rfl).trans (show nmF r' 0 = 0 from rfl).symm
  | succ n ih =>
    intro h
    rw [nmF_s, nmF_s, ih fun j hj => h j (by omega), h n (by omega)]
def eqS (n : Nat) (r : Nat → Int32) (n' : Nat) (r' : Nat → Int32) : Bool := decide (n = n') && !anyB (fun j => !decide (r j = r' j)) (n - 0) 0
theorem eqS_iff {n n' : Nat} {r r' : Nat → Int32} : eqS n r n' r' = true ↔ n = n' ∧ ∀ j, j < n → r j = r' j := by
  unfold eqS
  rw [Bool.and_eq_true, decide_eq_true_eq, Bool.not_eq_true', ← Bool.not_eq_true, any_iff]
  constructor
  · rintro ⟨h1, h2⟩
    refine ⟨h1, fun j hj => ?_⟩
    rcases Decidable.em (r j = r' j) with h | h
    · exact h
    · exact absurd ⟨j, hj, by simp [h]⟩ h2
  · rintro ⟨h1, h2⟩
    refine ⟨h1, ?_⟩
    rintro ⟨j, hj, h⟩
    rw [h2 j hj] at h; simp at h
theorem eqS_nm {n n' : Nat} {r r' : Nat → Int32} (h : isNmS n r) (h' : isNmS n' r') : eqS n r n' r' = decide (nmF r' n' = nmF r n) := by
  rw [Bool.eq_iff_iff, eqS_iff, decide_eq_true_eq]
  constructor
  · rintro ⟨e, h2⟩
    subst e
    exact (nmF_c n h2).symm
  · intro e
    exact nm_inj h h' e.symm
theorem eqS_no {n n' : Nat} {r r' : Nat → Int32} (h : ¬ isNmS n r) (h' : isNmS n' r') : eqS n r n' r' = false := by
  rw [← Bool.not_eq_true, eqS_iff]
  rintro ⟨e, h2⟩
  subst e
  exact h ⟨h'.1, h'.2.1, fun j hj => by rw [h2 j hj]; exact h'.2.2 j hj⟩
/-- a text is sought among names -/
theorem srch_nm {n : Nat} {r : Nat → Int32} {m : Nat} {ln : Nat → Nat} {rr : Nat → Nat → Int32} {g : Nat → Int64} (hn : ∀ k, k < m → isNmS (ln k) (rr k) ∧ g k = nmF (rr k) (ln k)) : (isNmS n r → srch (fun k => eqS n r (ln k) (rr k)) (m - 0) 0 = placeF g m (nmF r n)) ∧ (¬ isNmS n r → srch (fun k => eqS n r (ln k) (rr k)) (m - 0) 0 = -1) := by
  refine ⟨fun h => ?_, fun h => ?_⟩
  · unfold placeF
    refine srch_congr fun j _ hj => ?_
    obtain ⟨h1, h2⟩ := hn j (by omega)
    rw [eqS_nm h h1, h2]
  · rcases srch_sp (fun k => eqS n r (ln k) (rr k)) (m - 0) 0 with ⟨e, -⟩ | ⟨j, j1, j2, e, -⟩
    · exact e
    · rw [eqS_no h (hn j (by omega)).1] at e; cases e
/-- bytes -/
def bv (d : Nat) : Int32 := (nI d).toInt8.toInt32
def BYT (B : Rw) : Prop := ∀ k, ∃ d, d < 256 ∧ B k = bv d
def chF (x : Int32) : Int32 := ((x &&& (255 : Int32)).toUInt32 % 65536).toInt32
theorem bv_ok : ∀ d, d < 256 → bytF (chF (bv d)) = bv d ∧ ¬ (255 : Int32) < chF (bv d) ∧ chF (bv d) = nI d ∧ bv d &&& 255 = nI d ∧ ((nI d).toUInt32 % 65536).toInt32 = nI d ∧ bytF (nI d) = bv d := by decide +kernel
theorem bv_lo : ∀ d, d < 128 → bv d = nI d := by decide +kernel
theorem bv_hi : ∀ d, d < 256 → 128 ≤ d → ∀ e, e < 128 → bv d ≠ nI e := by decide +kernel
theorem bv_x (x : Int8) : ∃ d, d < 256 ∧ x.toInt32 = bv d := by
  refine ⟨x.toBitVec.toNat, x.toBitVec.isLt, ?_⟩
  unfold bv
  congr 1
  rw [← Int8.toBitVec_inj, Int32.toBitVec_toInt8, BitVec.signExtend_eq_setWidth_of_le _ (by decide)]
  show x.toBitVec = (BitVec.ofNat 32 x.toBitVec.toNat).setWidth 8
  have h := x.toBitVec.isLt
  apply BitVec.eq_of_toNat_eq
  rw [BitVec.toNat_setWidth, BitVec.toNat_ofNat, Nat.mod_eq_of_lt (by omega : x.toBitVec.toNat < 2 ^ 32), Nat.mod_eq_of_lt h]
theorem byt_fed {B : Rw} (h : BYT B) (n : Nat) (w : Nat → Int32) : ∀ i, BYT (fedB B n w i) := by
  intro i
  induction i with
  | zero => exact h
  | succ i ih =>
    intro k
    show ∃ d, d < 256 ∧ upd (fedB B n w i) (n + i) (byteF (w (i / 4)) (i % 4)) k = bv d
    by_cases e : k = n + i
    · rw [e, upd_eq]; exact bv_x _
    · rw [upd_ne _ _ e]; exact ih k
theorem byt_0 : BYT (fun _ => 0) := fun _ => ⟨0, by decide, show (0 : Int32) = bv 0 by decide⟩
