set_option maxRecDepth 100000
/-! STAGE 2, component, reading 1: hashes; words; the picture of a reader -/
def hshF (r : Nat → Int32) (n : Nat) : Int32 := fo (fun k x => 31 * x + (r k &&& 255)) 0 n
theorem hsh_s (r : Nat → Int32) (n : Nat) : hshF r (n + 1) = 31 * hshF r n + (r n &&& 255) := rfl
theorem hsh_c {r r' : Nat → Int32} : ∀ n, (∀ j, j < n → r j = r' j) → hshF r n = hshF r' n := by
  intro n
  induction n with
  | zero => intro _; exact (show hshF r 0 = 0 from rfl).trans (show hshF r' 0 = 0 from rfl).symm
  | succ n ih =>
    intro h
    rw [hsh_s, hsh_s, ih fun j hj => h j (by omega), h n (by omega)]
def kwR (k : Nat) : Nat → Int32 := fun j => nI (WD (wst k + j))
theorem hsh_k : hshF (kwR 4) 6 = -891990013 ∧ hshF (kwR 15) 4 = 3143098 ∧ hshF (kwR 12) 4 = 3556460 ∧ hshF (kwR 0) 4 = 3744684 ∧ hshF (kwR 8) 5 = 99469088 ∧ hshF (kwR 13) 5 = 105650780 ∧ hshF (kwR 14) 5 = 108399245 := by decide +kernel
theorem wd_df : ∀ j, j < 16 → ∀ k, k < 16 → wln j = wln k → (∀ i, i < 6 → i < wln j → WD (wst j + i) = WD (wst k + i)) → j = k := by decide +kernel
theorem kw_df {j k : Nat} (hj : j < 16) (hk : k < 16) (h1 : wln j = wln k) (h2 : ∀ i, i < wln j → kwR j i = kwR k i) : j = k := by
  refine wd_df j hj k hk h1 fun i _ hi => ?_
  obtain ⟨a1, a2, a3, a4, a5, -⟩ := wd_ok j hj
  obtain ⟨b1, b2, b3, b4, b5, -⟩ := wd_ok k hk
  have := wd_le (wst j + i) (by omega)
  have := wd_le (wst k + i) (by omega)
  exact nI_inj (by omega) (by omega) (h2 i hi)
theorem eqW_S {B : Rw} {a e k : Nat} (h : a ≤ e) : eqW B a e k = eqS (e - a) (fun j => B (a + j)) (wln k) (kwR k) := by
  rw [Bool.eq_iff_iff, eqS_iff]
  unfold eqW
  rw [Bool.and_eq_true, decide_eq_true_eq, Bool.not_eq_true', ← Bool.not_eq_true, any_iff]
  constructor
  · rintro ⟨h1, h2⟩
    refine ⟨by omega, fun j hj => ?_⟩
    rcases Decidable.em (B (a + j) = nI (WD (wst k + j))) with z | z
    · exact z
    · exact absurd ⟨j, by omega, by simp [z]⟩ h2
  · rintro ⟨h1, h2⟩
    refine ⟨by omega, ?_⟩
    rintro ⟨j, hj, z⟩
    have := h2 j (by omega)
    unfold kwR at this
    rw [this] at z; simp at z
/-- a word is one of the sixteen at most -/
theorem wordF_i {B : Rw} {a e k : Nat} (hk : k < 16) (h : a ≤ e) : wordF B a e = nI k ↔ eqW B a e k = true := by
  unfold wordF
  have un : ∀ j, j < 16 → eqW B a e j = true → eqW B a e k = true → j = k := fun j hj h1 h2 => by
    rw [eqW_S h, eqS_iff] at h1 h2
    exact kw_df hj hk (by omega) fun i hi => (h1.2 i (by omega)).symm.trans (h2.2 i (by omega))
  rcases srch_c (p := eqW B a e) (n := 16) (by decide) with ⟨e1, e2⟩ | ⟨j, j1, j2, e1, -⟩
  · rw [e1, e2 k hk]
    constructor
    · intro z; exact absurd z.symm (nI_neg (a := k) (by omega))
    · intro z; cases z
  · rw [e1]
    constructor
    · intro z
      have := nI_inj (by omega) (by omega) z
      rw [← this]; exact j2
    · intro z; rw [un j j1 j2 z]
section C32
variable {G : wG} {M : wM} {ow : Nat → Nat} {σ x n : Nat} {r : Nat → Int32}
theorem STf.stp {M1 : wM} {ow1 : Nat → Nat} {T : List Nat} (h : STf G M ow σ x n r) (hs : Mv T M ow M1 ow1) (hn : σ ∉ T) : STf G M1 ow1 σ x n r := by
  obtain ⟨v, h1, h2⟩ := h; exact ⟨v, h1.stp hs hn, h2.stp hs hn⟩
theorem STR.rw {y m v : Nat} {q : Nat → Int32} {k0 k1 h0 h1 : Int32} (hx : M x = some (.inr (24, [.ref v, .int 0, .int k0, .int k1]))) (h : STR G M ow σ y m q) : STR G (wIns M x (.inr (24, [.ref v, .int 0, .int h0, .int h1]))) ow σ y m q := by
  obtain ⟨v', hh, zz, g1, g2⟩ := h
  have e2 : v' ≠ x := fun e => by have := g2.1; rw [e, hx] at this; cases this
  by_cases e : y = x
  · subst e
    have e1 := g1.1
    rw [hx] at e1
    simp only [Option.some.injEq, Sum.inr.injEq, Prod.mk.injEq, List.cons.injEq, Value.ref.injEq, true_and, and_true] at e1
    obtain ⟨e1, -⟩ := e1
    subst e1
    exact ⟨v, h0, h1, g1.wr _, g2.off e2 _⟩
  · exact ⟨v', hh, zz, g1.off e _, g2.off e2 _⟩
theorem NMS.rw {y v : Nat} {w : Int64} {k0 k1 h0 h1 : Int32} (hx : M x = some (.inr (24, [.ref v, .int 0, .int k0, .int k1]))) (h : NMS G M ow σ y w) : NMS G (wIns M x (.inr (24, [.ref v, .int 0, .int h0, .int h1]))) ow σ y w := by
  obtain ⟨n, r, q1, q2⟩ := h; exact ⟨n, r, q1.rw hx, q2⟩
theorem S_hash (h : STf G M ow σ x n r) (hσ : σ ≠ 0) (hn : n < 2 ^ 31) {Q : Int32 → wM → Prop} (hQ : ∀ v h0 h1, M x = some (.inr (24, [.ref v, .int 0, .int 0, .int 0])) → Mv [σ] M ow (wIns M x (.inr (24, [.ref v, .int 0, .int h0, .int h1]))) ow → Q (hshF r n) (wIns M x (.inr (24, [.ref v, .int 0, .int h0, .int h1])))) : P_J19_hashCode G x M Q := by
  obtain ⟨v, h1, h2⟩ := h
  have fin : B_J19_hashCode_40 G Q x (hshF r n) M := by
    unfold B_J19_hashCode_40
    refine oIf.c (fun c => ?_) (fun c => ?_)
    · exact oPut.m h1 hσ (Nat.le_of_ble_eq_true rfl) (fs1 := [.ref v, .int 0, .int 0, .int 1]) rfl fun M1 e1 hs1 _ => by
        unfold B_J19_hashCode_58
        subst e1
        exact hQ v 0 1 h1.1 hs1
    · exact oPut.m h1 hσ (Nat.le_of_ble_eq_true rfl) (fs1 := [.ref v, .int 0, .int (hshF r n), .int 0]) rfl fun M1 e1 hs1 _ => by
        unfold B_J19_hashCode_58
        subst e1
        exact hQ v (hshF r n) 0 h1.1 hs1
  refine oGetI.i h1.1 rfl (oIf.y rfl (oGetI.i h1.1 rfl (oIf.y rfl (oIs.i h1.1 (oIf.n (by decide) (oGetI.i h1.1 rfl (oIf.y rfl ⟨true, rfl, oIf.y rfl (oGetA.i h1.1 rfl (oAlen.i h2.1 (oIf.c (fun c => ?_) (fun c => ?_))))⟩)))))))
  · have c : n = 0 := nI_inj (b := 0) hn (by decide) c
    subst c
    exact fin
  · have c : n ≠ 0 := fun e => c (by rw [e]; rfl)
    refine oIf.c (fun c1 => ?_) (fun c1 => ?_)
    · have c1 : n = 1 := nI_inj (b := 1) hn (by decide) c1
      subst c1
      refine oIald.e (i := 0) rfl h2.1 (by decide) (by decide) ?_
      have e : hshF r 1 = r 0 &&& 255 := by
        rw [hsh_s, show hshF r 0 = 0 from rfl, show (31 : Int32) * 0 = 0 by decide, Int32.zero_add]
      unfold B_J21_hashCode_51
      rw [← e]
      exact fin
    · refine oAlen.i h2.1 (oIf.y rfl (oRef.s ⟨⟨_, h2.1⟩, ?_⟩))
      unfold P_J3_signedHashCode
      rw [Int32.zero_add]
      refine st_loop (F := fun m k => L_J3_signedHashCode_8 G (fun v4 M2 => B_J3_vectorizedHashCode_157 G (fun v5 M3 => B_J21_hashCode_51 G (fun v10 M8 => B_J19_hashCode_40 G Q x v10 M8) v5 M3) v4 M2) m (hshF r k) v (nI n) (nI k) M) (N := n) (fun m => ?_) (fun m k hk ih => ?_) 0 (Nat.zero_le _)
      · unfold L_J3_signedHashCode_8; unfold B_J3_signedHashCode_8
        exact oIf.y (nI_le (Nat.le_refl _) hn) fin
      · unfold L_J3_signedHashCode_8; unfold B_J3_signedHashCode_8
        refine oIf.n (nI_ge hk hn) (oIald.e rfl h2.1 hk hn ?_)
        rw [nI_1, ← hsh_s]
        exact ih
end C32
