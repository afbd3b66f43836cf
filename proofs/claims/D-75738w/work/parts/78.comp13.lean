set_option maxRecDepth 100000
/-! STAGE 2, component: street, house, amount -/
def SU (N : Rw) : Prop := ∀ s, s < 12 → N (11 + s) = 0 ∨ N (11 + s) = 1
section C13
variable {G : wG} {l : Nat → Nat → Int64} {M : wM} {ow : Nat → Nat} {τ : Nat → Nat} {a bk : Nat} {y : Nat → Nat → Nat} {S N : Rw}
theorem C_street (ho : OF M a bk) (h : BR G l M ow τ bk y S N) (hi : I1 τ) (hg : OK S N) (hu : SU N) {z w : Int32} {b : Nat} (hb : 30 ≤ b) {Q : Int32 → wM → Prop} {Xp : String → Nat → wM → Prop} (hQ : AnsI M ow (r_street S N z w) Q Xp) : P_X1_street G a z w b M Q Xp := by
  have hbd := hg.b
  unfold r_street at hQ
  refine ho.is ⟨7, by omega, C_checkStreet ho h hg (Nat.le_refl _) (fun k hk ek c => ?_) (fun c q => ⟨rfl, ?_⟩)⟩
  · rw [if_pos c] at hQ
    refine S_inR ⟨7, by omega, C_ckI (Nat.le_refl _) (fun c2 => ?_) (fun c2 q => ⟨rfl, ?_⟩)⟩
    · rw [if_pos c2] at hQ
      have hQ := hQ.1 rfl
      rw [ek, nI_clamp (by omega)] at hQ
      rw [ek]
      have rf := Mv.rf (M := M) (ow := ow) (T := [1]) (by decide)
      refine ho.is (C_setup ho h (oRef.s (oGetA.i h.su rfl (isA h.sl (E_get h.sl hk (oCast.s (h.so hk) ?_))))))
      unfold v_street at hQ
      refine oIf.c (fun c => ?_) (fun c => ?_)
      · rw [if_pos c] at hQ; exact oRef.s (oGetI.i (h.so hk) rfl (hQ M ow rf))
      rw [if_neg c] at hQ
      refine oIf.c (fun c => ?_) (fun c => ?_)
      · rw [if_pos c] at hQ; exact oRef.s (oGetI.i (h.so hk) rfl (hQ M ow rf))
      rw [if_neg c] at hQ
      refine oIf.c (fun c => ?_) (fun c => ?_)
      · rw [if_pos c] at hQ; exact oRef.s (oGetI.i (h.so hk) rfl (hQ M ow rf))
      rw [if_neg c] at hQ
      refine oIf.c (fun c => ?_) (fun c => ?_)
      · rw [if_pos c] at hQ
        obtain ⟨w, h13, h14⟩ := h.2.2.2.2.2.2.1
        refine ho.g (oGetA.i h.bk rfl (h13.is (S_bsget h13 (by omega) (oIf.c (fun c3 => ?_) (fun c3 => ?_)))))
        · have := hQ M ow rf
          rw [(h14 k (by omega)).mp c3] at this
          exact this
        · have := hQ M ow rf
          rcases hu k (by omega) with e | e
          · rw [e] at this; exact this
          · exact absurd ((h14 k (by omega)).mpr e) c3
      rw [if_neg c] at hQ
      refine oIf.c (fun c => ?_) (fun c => ?_)
      · rw [if_pos c] at hQ; exact ho.g (oIs.i h.bk ⟨6, by omega, C_parkedIn h hi hg (Nat.le_refl _) hQ⟩)
      rw [if_neg c] at hQ
      exact ho.is ⟨5, by omega, C_housesAt ho h hi hg (Nat.le_refl _) hQ⟩
    · rw [if_neg (by rw [c2]; decide)] at hQ
      exact hQ.2 (by decide) q
  · rw [if_neg (by rw [c]; decide)] at hQ
    exact hQ.2 (by decide) q
theorem C_house (ho : OF M a bk) (h : BR G l M ow τ bk y S N) (hi : I1 τ) (hg : OK S N) (hv : VB N) {z w : Int32} {b : Nat} (hb : 30 ≤ b) {Q : Int32 → wM → Prop} {Xp : String → Nat → wM → Prop} (hQ : AnsI M ow (r_house S N z w) Q Xp) : P_X1_house G a z w b M Q Xp := by
  have hbd := hg.b
  unfold r_house at hQ
  refine ho.is ⟨7, by omega, C_checkHouse ho h hg (Nat.le_refl _) (fun k hk ek c => ?_) (fun c q => ⟨rfl, ?_⟩)⟩
  · rw [if_pos c] at hQ
    refine S_inR ⟨7, by omega, C_ckI (Nat.le_refl _) (fun c2 => ?_) (fun c2 q => ⟨rfl, ?_⟩)⟩
    · rw [if_pos c2] at hQ
      have hQ := hQ.1 rfl
      rw [ek, nI_clamp (by omega)] at hQ
      rw [ek]
      have rf := Mv.rf (M := M) (ow := ow) (T := [1]) (by decide)
      refine ho.is (C_setup ho h (oRef.s (oGetA.i h.su rfl (isA h.hl (E_get h.hl hk (oCast.s (h.ho hk) ?_))))))
      unfold v_house at hQ
      refine oIf.c (fun c => ?_) (fun c => ?_)
      · rw [if_pos c] at hQ; exact oRef.s (oGetI.i (h.ho hk) rfl (hQ M ow rf))
      rw [if_neg c] at hQ
      refine oIf.c (fun c => ?_) (fun c => ?_)
      · rw [if_pos c] at hQ; exact ho.is (C_setup ho h (oRef.s (oIs.i h.su (C_zoneOf h hg ⟨k, hk, rfl⟩ (hQ M ow rf)))))
      rw [if_neg c] at hQ
      refine oIf.c (fun c => ?_) (fun c => ?_)
      · rw [if_pos c] at hQ; exact oRef.s (oGetI.i (h.ho hk) rfl (hQ M ow rf))
      rw [if_neg c] at hQ
      refine oIf.c (fun c => ?_) (fun c => ?_)
      · rw [if_pos c] at hQ; exact oRef.s (oGetI.i (h.ho hk) rfl (hQ M ow rf))
      rw [if_neg c] at hQ
      refine oIf.c (fun c => ?_) (fun c => ?_)
      · rw [if_pos c] at hQ; exact ho.g (oGetA.i h.bk rfl (C_ldH h hg hk (hQ M ow rf)))
      rw [if_neg c] at hQ
      refine oIf.c (fun c => ?_) (fun c => ?_)
      · rw [if_pos c] at hQ
        refine ho.g ⟨by omega, fun q hq hz => ?_⟩
        have hs : Mv [1] M ow (wIns M q (.inl (.object "L1", 1, .inl (fun _ => nI k)))) (va_up ow q 1) := Mv.nw (by decide) hq _ _
        have h2 := h.stp hs hi
        exact oIs.i h2.bk (C_many h2 hg (fun p hp Q hQ => C_w1 h2 (wIns_eq _ _ _) hz hp Q hQ) (hQ _ _ hs))
      rw [if_neg c] at hQ
      refine oIf.c (fun c => ?_) (fun c => ?_)
      · rw [if_pos c] at hQ; exact ho.g (oIs.i h.bk (C_validOf h hg (hQ M ow rf)))
      rw [if_neg c] at hQ
      exact ho.g (oIs.i h.bk (C_runningAt h hg hv (hQ M ow rf)))
    · rw [if_neg (by rw [c2]; decide)] at hQ
      exact hQ.2 (by decide) q
  · rw [if_neg (by rw [c]; decide)] at hQ
    exact hQ.2 (by decide) q
def AnsA (M : wM) (ow : Nat → Nat) (r : Int32 × Int32) (Q : Int32 → wM → Prop) (Xp : String → Nat → wM → Prop) : Prop := (r.1 = 0 → ∀ M1 ow1, Mv [1] M ow M1 ow1 → Q r.2 M1) ∧ (r.1 ≠ 0 → ∀ q, Xp eArg q M)
theorem C_checkRule {z : Int32} {bq : Nat} (hb : 7 ≤ bq) {Q : wM → Prop} {Xp : String → Nat → wM → Prop} (h1 : inR z 1 6 = true → Q M) (h2 : inR z 1 6 = false → ∀ q, Xp eArg q M) : P_X1_checkRule G z bq M Q Xp :=
  S_inR ⟨7, hb, C_ckA (Nat.le_refl _) h1 (fun c q => ⟨rfl, h2 c q⟩)⟩
theorem C_amount (ho : OF M a bk) (h : BR G l M ow τ bk y S N) {z : Int32} {b : Nat} (hb : 30 ≤ b) {Q : Int32 → wM → Prop} {Xp : String → Nat → wM → Prop} (hQ : AnsA M ow (r_amount S z) Q Xp) : P_X1_amount G a z b M Q Xp := by
  unfold r_amount at hQ
  refine ⟨7, by omega, C_checkRule (Nat.le_refl _) (fun c => ?_) (fun c q => ⟨rfl, ?_⟩)⟩
  · rw [if_pos c] at hQ
    obtain ⟨k, k1, k2, ek⟩ := inR_1n (n := 6) (by decide) c
    have hQ := hQ.1 rfl M ow (Mv.rf (by decide))
    unfold amt at hQ
    rw [ek, nI_clamp (by omega)] at hQ
    rw [ek]
    obtain ⟨r, r1, r2, r3⟩ := h.2.1.2.2.2.2.1
    refine ho.is (C_setup ho h (oRef.s (oGetA.i h.su rfl (oIald.e rfl r1.1 (by omega) (by decide) ?_))))
    rw [r3 k k1 k2]
    exact hQ
  · rw [if_neg (by rw [c]; decide)] at hQ
    exact hQ.2 (by decide) q
end C13
