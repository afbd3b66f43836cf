set_option maxRecDepth 100000
/-! STAGE 2, component: questions to the office -/
def OF (M : wM) (a bk : Nat) : Prop := ∃ fs, M a = some (.inr (0, .ref bk :: fs))
abbrev eIdx : String := "java/lang/IndexOutOfBoundsException"
abbrev eArg : String := "java/lang/IllegalArgumentException"
abbrev eSt : String := "java/lang/IllegalStateException"
abbrev eNo : String := "java/util/NoSuchElementException"
section C11
variable {G : wG} {l : Nat → Nat → Int64} {M : wM} {ow : Nat → Nat} {τ : Nat → Nat} {a bk : Nat} {y : Nat → Nat → Nat} {S N : Rw}
theorem S_inR {x lo hi : Int32} {Q : Bool → wM → Prop} (hQ : Q (inR x lo hi) M) : P_X1_inRange G x lo hi M Q := by
  unfold inR at hQ
  refine oIf.c (fun c => ?_) (fun c => oIf.c (fun c2 => ?_) (fun c2 => ?_))
  · rw [decide_eq_true c] at hQ; exact ⟨false, rfl, hQ⟩
  · rw [decide_eq_false c, decide_eq_true c2] at hQ; exact ⟨false, rfl, hQ⟩
  · rw [decide_eq_false c, decide_eq_false c2] at hQ; exact ⟨true, rfl, hQ⟩
theorem C_ckI {b : Bool} {bq : Nat} (hb : 7 ≤ bq) {Q : wM → Prop} {Xp : String → Nat → wM → Prop} (h1 : b = true → Q M) (h2 : b = false → ∀ q, Xp eIdx q M) : P_X1_checkIndex G (wb b) bq M Q Xp := by
  cases b with
  | false => exact oIf.y rfl ⟨hb, h2 rfl⟩
  | true => exact oIf.n (by decide) (h1 rfl)
theorem C_ckA {b : Bool} {bq : Nat} (hb : 7 ≤ bq) {Q : wM → Prop} {Xp : String → Nat → wM → Prop} (h1 : b = true → Q M) (h2 : b = false → ∀ q, Xp eArg q M) : P_X1_checkArgument G (wb b) bq M Q Xp := by
  cases b with
  | false => exact oIf.y rfl ⟨hb, h2 rfl⟩
  | true => exact oIf.n (by decide) (h1 rfl)
theorem C_ckS {b : Bool} {bq : Nat} (hb : 7 ≤ bq) {Q : wM → Prop} {Xp : String → Nat → wM → Prop} (h1 : b = true → Q M) (h2 : b = false → ∀ q, Xp eSt q M) : P_X1_checkState G (wb b) bq M Q Xp := by
  cases b with
  | false => exact oIf.y rfl ⟨hb, h2 rfl⟩
  | true => exact oIf.n (by decide) (h1 rfl)
theorem OF.is (ho : OF M a bk) {P : Prop} (hp : P) : oIs M a 0 P := by obtain ⟨fs, h⟩ := ho; exact oIs.i h hp
theorem OF.g (ho : OF M a bk) {κ : Nat → Prop} (hk : κ bk) : oGetA M a 0 0 κ := by obtain ⟨fs, h⟩ := ho; exact oGetA.i h rfl hk
theorem C_setup (ho : OF M a bk) (h : BR G l M ow τ bk y S N) {Q : Option Nat → wM → Prop} (hQ : Q (some (y 0 0)) M) : P_X1_setup G a M Q := ho.g (oGetA.i h.bk rfl hQ)
theorem OF.stp {T : List Nat} {M1 : wM} {ow1 : Nat → Nat} (ho : OF M a bk) (hs : Mv T M ow M1 ow1) (hn : ow a ∉ T) : OF M1 a bk := by
  obtain ⟨fs, h⟩ := ho; exact ⟨fs, hs.at h hn⟩
theorem C_checkZone (ho : OF M a bk) (h : BR G l M ow τ bk y S N) (hg : OK S N) {z : Int32} {bq : Nat} (hb : 7 ≤ bq) {Q : wM → Prop} {Xp : String → Nat → wM → Prop} (h1 : ∀ k, k < nz S → z = nI k → inR z 0 (S 0 - 1) = true → Q M) (h2 : inR z 0 (S 0 - 1) = false → ∀ q, Xp eIdx q M) : P_X1_checkZone G a z bq M Q Xp := by
  have hbd := hg.b
  refine ho.is (C_setup ho h (oRef.s (oGetA.i h.su rfl (isA h.zl (E_size h.zl (S_inR ⟨7, hb, C_ckI (Nat.le_refl _) (fun c => ?_) (fun c q => ⟨rfl, h2 (by rw [hg.1.1.1]; exact c) q⟩)⟩))))))
  obtain ⟨k, hk, e⟩ := inR_nI (by omega) c
  exact h1 k hk e (by rw [hg.1.1.1]; exact c)
theorem C_checkStreet (ho : OF M a bk) (h : BR G l M ow τ bk y S N) (hg : OK S N) {z : Int32} {bq : Nat} (hb : 7 ≤ bq) {Q : wM → Prop} {Xp : String → Nat → wM → Prop} (h1 : ∀ k, k < ns S → z = nI k → inR z 0 (S 1 - 1) = true → Q M) (h2 : inR z 0 (S 1 - 1) = false → ∀ q, Xp eIdx q M) : P_X1_checkStreet G a z bq M Q Xp := by
  have hbd := hg.b
  refine ho.is (C_setup ho h (oRef.s (oGetA.i h.su rfl (isA h.sl (E_size h.sl (S_inR ⟨7, hb, C_ckI (Nat.le_refl _) (fun c => ?_) (fun c q => ⟨rfl, h2 (by rw [hg.1.2.1.1]; exact c) q⟩)⟩))))))
  obtain ⟨k, hk, e⟩ := inR_nI (by omega) c
  exact h1 k hk e (by rw [hg.1.2.1.1]; exact c)
theorem C_checkHouse (ho : OF M a bk) (h : BR G l M ow τ bk y S N) (hg : OK S N) {z : Int32} {bq : Nat} (hb : 7 ≤ bq) {Q : wM → Prop} {Xp : String → Nat → wM → Prop} (h1 : ∀ k, k < nh S → z = nI k → inR z 0 (S 2 - 1) = true → Q M) (h2 : inR z 0 (S 2 - 1) = false → ∀ q, Xp eIdx q M) : P_X1_checkHouse G a z bq M Q Xp := by
  have hbd := hg.b
  refine ho.is (C_setup ho h (oRef.s (oGetA.i h.su rfl (isA h.hl (E_size h.hl (S_inR ⟨7, hb, C_ckI (Nat.le_refl _) (fun c => ?_) (fun c q => ⟨rfl, h2 (by rw [hg.1.2.2.1.1]; exact c) q⟩)⟩))))))
  obtain ⟨k, hk, e⟩ := inR_nI (by omega) c
  exact h1 k hk e (by rw [hg.1.2.2.1.1]; exact c)
theorem C_permitAt (ho : OF M a bk) (h : BR G l M ow τ bk y S N) (hg : OK S N) {z : Int32} {bq : Nat} (hb : 7 ≤ bq) {Q : Option Nat → wM → Prop} {Xp : String → Nat → wM → Prop} (h1 : ∀ k, k < np N → z = nI k → inR z 0 (N 1 - 1) = true → Q (some (y 1 k)) M) (h2 : inR z 0 (N 1 - 1) = false → ∀ q, Xp eIdx q M) : P_X1_permitAt G a z bq M Q Xp := by
  have hbd := hg.b
  refine ho.g (oGetA.i h.bk rfl (isA h.pl (E_size h.pl (S_inR ⟨7, hb, C_ckI (Nat.le_refl _) (fun c => ?_) (fun c q => ⟨rfl, h2 (by rw [hg.2.1.1]; exact c) q⟩)⟩))))
  obtain ⟨k, hk, e⟩ := inR_nI (by omega) c
  have h1 := h1 k hk e (by rw [hg.2.1.1]; exact c)
  rw [e]
  exact ho.g (oGetA.i h.bk rfl (isA h.pl (E_get h.pl hk (oCast.s (h.po hk) h1))))
theorem C_visitAt (ho : OF M a bk) (h : BR G l M ow τ bk y S N) (hg : OK S N) {z : Int32} {bq : Nat} (hb : 7 ≤ bq) {Q : Option Nat → wM → Prop} {Xp : String → Nat → wM → Prop} (h1 : ∀ k, k < nv N → z = nI k → inR z 0 (N 2 - 1) = true → Q (some (y 2 k)) M) (h2 : inR z 0 (N 2 - 1) = false → ∀ q, Xp eIdx q M) : P_X1_visitAt G a z bq M Q Xp := by
  have hbd := hg.b
  refine ho.g (oGetA.i h.bk rfl (isA h.vl (E_size h.vl (S_inR ⟨7, hb, C_ckI (Nat.le_refl _) (fun c => ?_) (fun c q => ⟨rfl, h2 (by rw [hg.2.2.1.1]; exact c) q⟩)⟩))))
  obtain ⟨k, hk, e⟩ := inR_nI (by omega) c
  have h1 := h1 k hk e (by rw [hg.2.2.1.1]; exact c)
  rw [e]
  exact ho.g (oGetA.i h.bk rfl (isA h.vl (E_get h.vl hk (oCast.s (h.vo hk) h1))))
end C11
