set_option maxRecDepth 100000
/-! STAGE 2, component: new books, copies of books -/
section COMP6
variable {G : wG} {l : Nat → Nat → Int64} {M : wM} {ow : Nat → Nat} {τ : Nat → Nat} {a : Nat} {y : Nat → Nat → Nat} {S N : Rw}
theorem ne_fresh {x q : Nat} {c : wE} (hx : M x = some c) (hq : M q = none) : x ≠ q := fun e => by rw [e, hq] at hx; cases hx
theorem C_pcopy {p x b : Nat} (hx : M x = some (PmC S N p)) (hb : 9 ≤ b) (σ : Nat) {Q : Option Nat → wM → Prop} (hQ : ∀ q M1, M q = none → M1 = wIns M q (PmC S N p) → Mv [] M ow M1 (va_up ow q σ) → Cl G M1 (va_up ow q σ) σ q (PmC S N p) → Q (some q) M1) : P_X12_copy G x b M Q := by
  refine ⟨hb, fun q hq hz => ?_⟩
  have hne := ne_fresh hx hq
  have hr : ∀ c, wIns M q c x = some (PmC S N p) := fun c => by rw [wIns_ne _ _ hne]; exact hx
  refine oGetI.i (hr _) rfl (oGetI.i (hr _) rfl (oGetI.i (hr _) rfl (oGetI.i (hr _) rfl ?_)))
  unfold P_X12_init P_X11_init_X12
  refine oPut.f (Nat.le_of_ble_eq_true rfl) hz ?_
  refine oPut.f (Nat.le_of_ble_eq_true rfl) hz ?_
  refine oPut.f (Nat.le_of_ble_eq_true rfl) hz ?_
  refine oPut.f (Nat.le_of_ble_eq_true rfl) hz ?_
  refine oPut.f (Nat.le_of_ble_eq_true rfl) hz ?_
  refine oPut.f (Nat.le_of_ble_eq_true rfl) hz ?_
  refine oGetI.i (hr _) rfl (oPut.f (Nat.le_of_ble_eq_true rfl) hz (oGetI.i (hr _) rfl (oPut.f (Nat.le_of_ble_eq_true rfl) hz (oGetI.i (hr _) rfl (oPut.f (Nat.le_of_ble_eq_true rfl) hz (oGetI.i (hr _) rfl (oPut.f (Nat.le_of_ble_eq_true rfl) hz ?_)))))))
  exact hQ q _ hq rfl (Mv.nw (by decide) hq _ _) (Cl.nw M ow hz _ _)
theorem C_vcopy {v x b : Nat} (hx : M x = some (VsC N v)) (hb : 5 ≤ b) (σ : Nat) {Q : Option Nat → wM → Prop} (hQ : ∀ q M1, M q = none → M1 = wIns M q (VsC N v) → Mv [] M ow M1 (va_up ow q σ) → Cl G M1 (va_up ow q σ) σ q (VsC N v) → Q (some q) M1) : P_X13_copy G x b M Q := by
  refine ⟨hb, fun q hq hz => ?_⟩
  have hne := ne_fresh hx hq
  have hr : ∀ c, wIns M q c x = some (VsC N v) := fun c => by rw [wIns_ne _ _ hne]; exact hx
  refine oGetI.i (hr _) rfl (oGetI.i (hr _) rfl (oGetI.i (hr _) rfl (oGetI.i (hr _) rfl ?_)))
  unfold P_X13_init P_X11_init_X13
  refine oPut.f (Nat.le_of_ble_eq_true rfl) hz ?_
  refine oPut.f (Nat.le_of_ble_eq_true rfl) hz ?_
  refine oPut.f (Nat.le_of_ble_eq_true rfl) hz ?_
  refine oPut.f (Nat.le_of_ble_eq_true rfl) hz ?_
  exact hQ q _ hq rfl (Mv.nw (by decide) hq _ _) (Cl.nw M ow hz _ _)
theorem nAL (hc : Cl G M ow 0 (G.2.2.2 1) (oarr 0 (fun _ => none))) (τ : Nat) (g : Nat → Nat) {b : Nat} (hb : 4 ≤ b) {κ : Nat → wM → Nat → Prop} (hp : ∀ q M1 ow1, M q = none → Mv [] M ow M1 ow1 → ow1 = va_up ow q τ → ALe G M1 ow1 τ q 0 g → κ q M1 (b - 4)) : oNew G M b 16 [.int 0, .null, .int 0] (fun a1 M2 b3 => P_J2_init G a1 M2 (fun M4 => κ a1 M4 b3)) :=
  ⟨hb, fun q hq hz => S_alinit hq hz hc τ _ rfl fun M1 _ hs hA => hp q M1 _ hq hs rfl ⟨0, hA⟩⟩
theorem nLL (τ : Nat) (nd g : Nat → Nat) {b : Nat} (hb : 5 ≤ b) {κ : Nat → wM → Nat → Prop} (hp : ∀ q M1 ow1, M q = none → Mv [] M ow M1 ow1 → ow1 = va_up ow q τ → LLe G M1 ow1 τ q 0 nd g → κ q M1 (b - 5)) : oNew G M b 17 [.int 0, .int 0, .null, .null] (fun a1 M2 b3 => P_J8_init G a1 M2 (fun M4 => κ a1 M4 b3)) :=
  ⟨hb, fun q hq hz => S_llinit hq hz τ fun M1 _ hs hA => hp q M1 _ hq hs rfl ⟨0, hA⟩⟩
def mkY (s : Nat → Nat) (y : Nat → Nat → Nat) : Nat → Nat → Nat
  | 0 => s
  | 1 => fun _ => 0
  | 2 => fun _ => 0
  | 3 => fun _ => 0
  | 4 => fun _ => 0
  | 5 => fun _ => 0
  | i + 6 => y (i + 6)
def sc (s0 s1 s2 s3 s4 s5 s6 s7 : Nat) : Nat → Nat
  | 0 => s0
  | 1 => s1
  | 2 => s2
  | 3 => s3
  | 4 => s4
  | 5 => s5
  | 6 => s6
  | _ => s7
def zeroR : Rw := fun _ => 0
/-- the row of new books -/
def iniN (S : Rw) : Rw := booksF S (lay 5 (nz S) (fun z => S (3 + z)) zeroR)
theorem zero_ok (hg : OKS S) : OK S zeroR := by
  have e : ∀ n, zeroR n = 0 := fun _ => rfl
  refine ⟨hg, ⟨rfl, by unfold np; rw [e]; decide⟩, ⟨rfl, by unfold nv; rw [e]; decide⟩, ⟨rfl, by unfold nc; rw [e]; decide⟩, ⟨rfl, by unfold nf; rw [e]; decide⟩, fun p hp => ?_, fun p hp => ?_, fun p hp => ?_, fun p hp => ?_, fun p hp => ?_⟩
  · exfalso; unfold np at hp; rw [e] at hp; exact Nat.not_lt_zero p hp
  · exfalso; unfold nv at hp; rw [e] at hp; exact Nat.not_lt_zero p hp
  · exfalso; unfold nc at hp; rw [e] at hp; exact Nat.not_lt_zero p hp
  · exfalso; unfold nf at hp; rw [e] at hp; exact Nat.not_lt_zero p hp
  · exfalso; unfold nf at hp; rw [e] at hp; exact Nat.not_lt_zero p hp
theorem iniL_ok (hg : OKS S) {k : Nat} (hk : k ≤ 6) : OK S (lay 5 k (fun z => S (3 + z)) zeroR) := (zero_ok hg).cong fun j hj => lay_out (by unfold OKi at hj; omega)
theorem ini_ok (hg : OKS S) : OK S (iniN S) := (iniL_ok hg hg.1.2).cong fun j hj => by unfold iniN booksF; exact lay_out (by unfold OKi at hj; omega)
theorem C_init {p b : Nat} (hA : Cl G M ow (τ 0) a (.inr (1, [.null, .null, .null, .null, .null, .null, .null, .null, .int 0]))) (hl : LV τ) (hS : SR G l M ow (τ 10) p y S) (hg : OKS S) (hc : Cl G M ow 0 (G.2.2.2 1) (oarr 0 (fun _ => none))) (hb : 100 ≤ b) {Q : wM → Prop} (hQ : ∀ M1 ow1 s, Mv (lvT τ) M ow M1 ow1 → s 0 = p → BR G l M1 ow1 τ a (mkY s y) S (iniN S) → Q M1) : P_X2_init G a p b M Q := by
  have n00 := (hl.1 0 (by decide)).1
  unfold P_X2_init
  refine nAL hc (τ 1) (fun _ => 0) (by omega) fun s1 M1 ow1 f1 hs1 _ h1 => ?_
  have hA1 := hA.stp hs1 (by simp)
  have hc1 := hc.stp hs1 (by simp)
  refine oPut.m hA1 n00 (Nat.le_of_ble_eq_true rfl) (fs1 := [.null, .ref s1, .null, .null, .null, .null, .null, .null, .int 0]) rfl fun M2 e2 hs2 hA2 => ?_
  have hc2 := hc1.stp hs2 (t0 n00)
  have h2 := h1.stp hs2 (hl.n (by decide) (by decide) (by decide))
  have H2 : Mv (lvT τ) M ow M2 ow1 := (hl.e hs1).tr (hl.m (by decide) hs2)
  refine nAL hc2 (τ 3) (fun _ => 0) (by omega) fun s2 M3 ow3 f3 hs3 _ g3 => ?_
  refine oPut.m (hA2.stp hs3 (by simp)) n00 (Nat.le_of_ble_eq_true rfl) (fs1 := [.null, .ref s1, .ref s2, .null, .null, .null, .null, .null, .int 0]) rfl fun M4 e4 hs4 hA4 => ?_
  have hc4 := (hc2.stp hs3 (by simp)).stp hs4 (t0 n00)
  have h4 := (h2.stp hs3 (by simp)).stp hs4 (hl.n (by decide) (by decide) (by decide))
  have g4 := g3.stp hs4 (hl.n (by decide) (by decide) (by decide))
  have H4 : Mv (lvT τ) M ow M4 ow3 := (H2.tr (hl.e hs3)).tr (hl.m (by decide) hs4)
  refine nLL (ow := ow3) (τ 5) (fun _ => 0) (fun _ => 0) (by omega) fun s3 M5 ow5 f5 hs5 _ i5 => ?_
  refine oPut.m (hA4.stp hs5 (by simp)) n00 (Nat.le_of_ble_eq_true rfl) (fs1 := [.null, .ref s1, .ref s2, .ref s3, .null, .null, .null, .null, .int 0]) rfl fun M6 e6 hs6 hA6 => ?_
  have hc6 := (hc4.stp hs5 (by simp)).stp hs6 (t0 n00)
  have h6 := (h4.stp hs5 (by simp)).stp hs6 (hl.n (by decide) (by decide) (by decide))
  have g6 := (g4.stp hs5 (by simp)).stp hs6 (hl.n (by decide) (by decide) (by decide))
  have i6 := i5.stp hs6 (hl.n (by decide) (by decide) (by decide))
  have H6 : Mv (lvT τ) M ow M6 ow5 := (H4.tr (hl.e hs5)).tr (hl.m (by decide) hs6)
  refine nAL hc6 (τ 6) (fun _ => 0) (by omega) fun s4 M7 ow7 f7 hs7 _ j7 => ?_
  refine oPut.m (hA6.stp hs7 (by simp)) n00 (Nat.le_of_ble_eq_true rfl) (fs1 := [.null, .ref s1, .ref s2, .ref s3, .ref s4, .null, .null, .null, .int 0]) rfl fun M8 e8 hs8 hA8 => ?_
  have h8 := (h6.stp hs7 (by simp)).stp hs8 (hl.n (by decide) (by decide) (by decide))
  have g8 := (g6.stp hs7 (by simp)).stp hs8 (hl.n (by decide) (by decide) (by decide))
  have i8 := (i6.stp hs7 (by simp)).stp hs8 (hl.n (by decide) (by decide) (by decide))
  have j8 := j7.stp hs8 (hl.n (by decide) (by decide) (by decide))
  have H8 : Mv (lvT τ) M ow M8 ow7 := (H6.tr (hl.e hs7)).tr (hl.m (by decide) hs8)
  refine ⟨by simp only [List.length_cons, List.length_nil]; omega, fun s5 f9 z9 => ⟨20, by simp only [List.length_cons, List.length_nil]; omega, ?_⟩⟩
  refine S_bsinit (ow := ow7) f9 z9 (hl.1 7 (by decide)).1 (by omega) fun M9 ow9 hs9 _ k9 => ?_
  refine oPut.m (hA8.stp hs9 (by simp)) n00 (Nat.le_of_ble_eq_true rfl) (fs1 := [.null, .ref s1, .ref s2, .ref s3, .ref s4, .ref s5, .null, .null, .int 0]) rfl fun M10 e10 hs10 hA10 => ?_
  have h10 := (h8.stp hs9 (by simp)).stp hs10 (hl.n (by decide) (by decide) (by decide))
  have g10 := (g8.stp hs9 (by simp)).stp hs10 (hl.n (by decide) (by decide) (by decide))
  have i10 := (i8.stp hs9 (by simp)).stp hs10 (hl.n (by decide) (by decide) (by decide))
  have j10 := (j8.stp hs9 (by simp)).stp hs10 (hl.n (by decide) (by decide) (by decide))
  have k10 := k9.stp hs10 (hl.n (by decide) (by decide) (by decide))
  have H10 : Mv (lvT τ) M ow M10 ow9 := (H8.tr (hl.e hs9)).tr (hl.m (by decide) hs10)
  refine oNewa.m (ow := ow9) (n := 6) (τ 8) rfl (by decide) (by simp only [List.length_cons, List.length_nil]; omega) fun s6 M11 f11 z11 e11 hs11 l11 => ?_
  refine oPut.m (hA10.stp hs11 (by simp)) n00 (Nat.le_of_ble_eq_true rfl) (fs1 := [.null, .ref s1, .ref s2, .ref s3, .ref s4, .ref s5, .ref s6, .null, .int 0]) rfl fun M12 e12 hs12 hA12 => ?_
  have h12 := (h10.stp hs11 (by simp)).stp hs12 (hl.n (by decide) (by decide) (by decide))
  have g12 := (g10.stp hs11 (by simp)).stp hs12 (hl.n (by decide) (by decide) (by decide))
  have i12 := (i10.stp hs11 (by simp)).stp hs12 (hl.n (by decide) (by decide) (by decide))
  have j12 := (j10.stp hs11 (by simp)).stp hs12 (hl.n (by decide) (by decide) (by decide))
  have k12 := (k10.stp hs11 (by simp)).stp hs12 (hl.n (by decide) (by decide) (by decide))
  have l12 := l11.stp hs12 (hl.n (by decide) (by decide) (by decide))
  have H12 := (H10.tr (hl.e hs11)).tr (hl.m (by decide) hs12)
  refine oNewa.m (ow := va_up ow9 s6 (τ 8)) (n := 16) (τ 9) rfl (by decide) (by simp only [List.length_cons, List.length_nil]; omega) fun s7 M13 f13 z13 e13 hs13 m13 => ?_
  refine oPut.m (hA12.stp hs13 (by simp)) n00 (Nat.le_of_ble_eq_true rfl) (fs1 := [.null, .ref s1, .ref s2, .ref s3, .ref s4, .ref s5, .ref s6, .ref s7, .int 0]) rfl fun M14 e14 hs14 hA14 => ?_
  have h14 := (h12.stp hs13 (by simp)).stp hs14 (hl.n (by decide) (by decide) (by decide))
  have g14 := (g12.stp hs13 (by simp)).stp hs14 (hl.n (by decide) (by decide) (by decide))
  have i14 := (i12.stp hs13 (by simp)).stp hs14 (hl.n (by decide) (by decide) (by decide))
  have j14 := (j12.stp hs13 (by simp)).stp hs14 (hl.n (by decide) (by decide) (by decide))
  have k14 := (k12.stp hs13 (by simp)).stp hs14 (hl.n (by decide) (by decide) (by decide))
  have l14 := (l12.stp hs13 (by simp)).stp hs14 (hl.n (by decide) (by decide) (by decide))
  have m14 := m13.stp hs14 (hl.n (by decide) (by decide) (by decide))
  have H14 := (H12.tr (hl.e hs13)).tr (hl.m (by decide) hs14)
  refine oPut.m hA14 n00 (Nat.le_of_ble_eq_true rfl) (fs1 := [.ref p, .ref s1, .ref s2, .ref s3, .ref s4, .ref s5, .ref s6, .ref s7, .int 0]) rfl fun M15 e15 hs15 hA15 => ?_
  have H15 := H14.tr (hl.m (by decide) hs15)
  have hS15 : SR G l M15 _ (τ 10) p y S := hS.stp H15 (fun x => by
    unfold lvT at x
    simp only [List.mem_cons, List.not_mem_nil, or_false] at x
    rcases x with x | x | x | x | x | x | x | x | x | x
    · exact (hl.1 0 (by decide)).2 x.symm
    · exact (hl.1 1 (by decide)).2 x.symm
    · exact (hl.1 2 (by decide)).2 x.symm
    · exact (hl.1 3 (by decide)).2 x.symm
    · exact (hl.1 4 (by decide)).2 x.symm
    · exact (hl.1 5 (by decide)).2 x.symm
    · exact (hl.1 6 (by decide)).2 x.symm
    · exact (hl.1 7 (by decide)).2 x.symm
    · exact (hl.1 8 (by decide)).2 x.symm
    · exact (hl.1 9 (by decide)).2 x.symm)
  generalize va_up (va_up ow9 s6 (τ 8)) s7 (τ 9) = owZ at *
  have hg0 := zero_ok hg
  have z1 : np zeroR = 0 := rfl
  have z2 : nv zeroR = 0 := rfl
  have z3 : nc zeroR = 0 := rfl
  have z4 : nf zeroR = 0 := rfl
  have B : BR G l M15 owZ τ a (mkY (sc p s1 s2 s3 s4 s5 s6 s7) y) S zeroR := by
    refine ⟨hA15, hS15, ⟨⟨h14.stp hs15 (hl.n (by decide) (by decide) (by decide)), fun q hq => ?_⟩, fun q q' hq => ?_⟩, ⟨⟨g14.stp hs15 (hl.n (by decide) (by decide) (by decide)), fun q hq => ?_⟩, fun q q' hq => ?_⟩, ⟨i14.stp hs15 (hl.n (by decide) (by decide) (by decide)), fun q hq => ?_⟩, ⟨j14.stp hs15 (hl.n (by decide) (by decide) (by decide)), fun q hq => ?_⟩, ⟨0, k14.stp hs15 (hl.n (by decide) (by decide) (by decide)), fun s _ => ?_⟩, ⟨_, l14.stp hs15 (hl.n (by decide) (by decide) (by decide)), fun _ _ => rfl⟩, _, m14.stp hs15 (hl.n (by decide) (by decide) (by decide)), fun _ _ => rfl⟩
    · rw [z1] at hq; omega
    · rw [z1] at hq; omega
    · rw [z2] at hq; omega
    · rw [z2] at hq; omega
    · rw [z3] at hq; omega
    · rw [z4] at hq; omega
    · rw [bit_0]; exact ⟨fun x => (by cases x), fun x => absurd x (by show ¬ (0 : Int32) = 1; decide)⟩
  have hb6 := hg.1.2
  have key := st_loop (F := fun n k => ∀ M1 b, Mv (lvT τ) M15 owZ M1 owZ → BR G l M1 owZ τ a (mkY (sc p s1 s2 s3 s4 s5 s6 s7) y) S (lay 5 k (fun z => S (3 + z)) zeroR) → L_X2_init_82 G Q n a p (nI k) M1 b) (N := nz S) (fun n M1 b hs h => ?_) (fun n k hk ih M1 b hs h => ?_) 0 (Nat.zero_le _)
  · obtain ⟨n, hn⟩ := key
    exact ⟨n, hn M15 _ (Mv.rf hl.t0) (by rw [lay_0]; exact B)⟩
  · unfold L_X2_init_82; unfold B_X2_init_82
    have hsu : M1 p = some (suC S (mkY (sc p s1 s2 s3 s4 s5 s6 s7) y)) := h.su
    refine oGetA.i hsu rfl (isA h.zl (E_size h.zl (oIf.y (nI_le (by omega) (by omega)) (oIs.i h.bk (C_refill h hl (iniL_ok hg hb6) fun M2 hs2 h2 => ?_)))))
    exact hQ M2 _ _ (H15.tr (hs.tr hs2)) rfl h2
  · unfold L_X2_init_82; unfold B_X2_init_82
    have hsu : M1 p = some (suC S (mkY (sc p s1 s2 s3 s4 s5 s6 s7) y)) := h.su
    refine oGetA.i hsu rfl (isA h.zl (E_size h.zl (oIf.n (nI_ge hk (by omega)) (oGetA.i h.bk rfl (oGetA.i hsu rfl (isA h.zl (E_get h.zl hk (kZ h hk (oRef.s (gZ0 h hk ?_)))))))))) 
    refine C_stL h hl (iniL_ok hg (by omega)) hk fun M2 hs2 h2 => ?_
    rw [lay_s] at h2
    rw [nI_1]
    exact ih M2 _ (hs.tr (hl.m (by decide) hs2)) h2
end COMP6
