set_option maxRecDepth 100000
/-! STAGE 2, component: permit, visit, fine, rule, next to expire, totals -/
def ST (N : Rw) : Prop := ∀ p, p < np N → ∃ k, k ≤ 5 ∧ pP N p 2 = nI k
theorem cntZA {S N : Rw} (z : Int32) : ∀ n, (∀ p, p < n → ∃ k, k ≤ 5 ∧ pP N p 2 = nI k) → cnt (qZA S N z) n = cnt (qZS S N z 1) n + cnt (qZS S N z 2) n + cnt (qZS S N z 0) n := by
  intro n
  induction n with
  | zero => intro _; rfl
  | succ n ih =>
    intro h
    have ih := ih (fun p hp => h p (by omega))
    obtain ⟨k, hk, e⟩ := h n (by omega)
    unfold cnt
    rw [ih]
    unfold qZA qZS
    rw [e]
    by_cases c : zP S N n = z
    · have : k = 0 ∨ k = 1 ∨ k = 2 ∨ k = 3 ∨ k = 4 ∨ k = 5 := by omega
      rcases this with rfl | rfl | rfl | rfl | rfl | rfl
      · rw [decide_eq_true c, show (true && !decide ((2 : Int32) < nI 0)) = true from rfl, show (true && decide ((nI 0 : Int32) = 1)) = false from rfl, show (true && decide ((nI 0 : Int32) = 2)) = false from rfl, show (true && decide ((nI 0 : Int32) = 0)) = true from rfl]; simp
        omega
      · rw [decide_eq_true c, show (true && !decide ((2 : Int32) < nI 1)) = true from rfl, show (true && decide ((nI 1 : Int32) = 1)) = true from rfl, show (true && decide ((nI 1 : Int32) = 2)) = false from rfl, show (true && decide ((nI 1 : Int32) = 0)) = false from rfl]; simp
        omega
      · rw [decide_eq_true c, show (true && !decide ((2 : Int32) < nI 2)) = true from rfl, show (true && decide ((nI 2 : Int32) = 1)) = false from rfl, show (true && decide ((nI 2 : Int32) = 2)) = true from rfl, show (true && decide ((nI 2 : Int32) = 0)) = false from rfl]; simp
        omega
      · rw [decide_eq_true c, show (true && !decide ((2 : Int32) < nI 3)) = false from rfl, show (true && decide ((nI 3 : Int32) = 1)) = false from rfl, show (true && decide ((nI 3 : Int32) = 2)) = false from rfl, show (true && decide ((nI 3 : Int32) = 0)) = false from rfl]; simp
      · rw [decide_eq_true c, show (true && !decide ((2 : Int32) < nI 4)) = false from rfl, show (true && decide ((nI 4 : Int32) = 1)) = false from rfl, show (true && decide ((nI 4 : Int32) = 2)) = false from rfl, show (true && decide ((nI 4 : Int32) = 0)) = false from rfl]; simp
      · rw [decide_eq_true c, show (true && !decide ((2 : Int32) < nI 5)) = false from rfl, show (true && decide ((nI 5 : Int32) = 1)) = false from rfl, show (true && decide ((nI 5 : Int32) = 2)) = false from rfl, show (true && decide ((nI 5 : Int32) = 0)) = false from rfl]; simp
    · rw [decide_eq_false c]; simp
section C14
variable {G : wG} {l : Nat → Nat → Int64} {M : wM} {ow : Nat → Nat} {τ : Nat → Nat} {a bk : Nat} {y : Nat → Nat → Nat} {S N : Rw}
theorem C_fineAt (ho : OF M a bk) (h : BR G l M ow τ bk y S N) (hg : OK S N) {z : Int32} {bq : Nat} (hb : 7 ≤ bq) {Q : Option Nat → wM → Prop} {Xp : String → Nat → wM → Prop} (h1 : ∀ k, k < nf N → z = nI k → inR z 0 (N 4 - 1) = true → Q (some (y 5 k)) M) (h2 : inR z 0 (N 4 - 1) = false → ∀ q, Xp eIdx q M) : P_X1_fineAt G a z bq M Q Xp := by
  have hbd := hg.b
  refine ho.g (oGetA.i h.bk rfl (isA h.fl (E_size h.fl (S_inR ⟨7, hb, C_ckI (Nat.le_refl _) (fun c => ?_) (fun c q => ⟨rfl, h2 (by rw [hg.2.2.2.2.1.1]; exact c) q⟩)⟩))))
  obtain ⟨k, hk, e⟩ := inR_nI (by omega) c
  have h1 := h1 k hk e (by rw [hg.2.2.2.2.1.1]; exact c)
  rw [e]
  exact ho.g (oGetA.i h.bk rfl (isA h.fl (E_get h.fl hk (oCast.s (h.fo hk) h1))))
theorem C_permit (ho : OF M a bk) (h : BR G l M ow τ bk y S N) (hg : OK S N) {z w : Int32} {b : Nat} (hb : 30 ≤ b) {Q : Int32 → wM → Prop} {Xp : String → Nat → wM → Prop} (hQ : AnsI M ow (r_permit S N z w) Q Xp) : P_X1_permit G a z w b M Q Xp := by
  have hbd := hg.b
  unfold r_permit at hQ
  refine ho.is ⟨7, by omega, C_permitAt ho h hg (Nat.le_refl _) (fun k hk ek c => ?_) (fun c q => ⟨rfl, ?_⟩)⟩
  · rw [if_pos c] at hQ
    refine S_inR ⟨7, by omega, C_ckI (Nat.le_refl _) (fun c2 => ?_) (fun c2 q => ⟨rfl, ?_⟩)⟩
    · rw [if_pos c2] at hQ
      have hQ := hQ.1 rfl M ow (Mv.rf (by decide))
      rw [ek, nI_clamp (by omega)] at hQ
      have p := h.po hk
      obtain ⟨j, hj, ej⟩ := inR_n (n := 7) (by decide) c2
      rw [ej] at hQ
      rw [ej]
      have : j = 0 ∨ j = 1 ∨ j = 2 ∨ j = 3 ∨ j = 4 ∨ j = 5 ∨ j = 6 ∨ j = 7 := by omega
      rcases this with rfl | rfl | rfl | rfl | rfl | rfl | rfl | rfl
      · exact oIf.y rfl (oRef.s (oGetI.i p rfl hQ))
      · exact oIf.n (by decide) (oIf.y rfl (oRef.s (oGetI.i p rfl hQ)))
      · exact oIf.n (by decide) (oIf.n (by decide) (oIf.y rfl (oRef.s (oGetI.i p rfl hQ))))
      · exact oIf.n (by decide) (oIf.n (by decide) (oIf.n (by decide) (oIf.y rfl (oRef.s (oGetI.i p rfl hQ)))))
      · exact oIf.n (by decide) (oIf.n (by decide) (oIf.n (by decide) (oIf.n (by decide) (oIf.y rfl (oRef.s (oGetI.i p rfl hQ))))))
      · exact oIf.n (by decide) (oIf.n (by decide) (oIf.n (by decide) (oIf.n (by decide) (oIf.n (by decide) (oIf.y rfl (oRef.s (oGetI.i p rfl hQ)))))))
      · exact oIf.n (by decide) (oIf.n (by decide) (oIf.n (by decide) (oIf.n (by decide) (oIf.n (by decide) (oIf.n (by decide) (oIf.y rfl (oRef.s (oGetI.i p rfl hQ))))))))
      · exact oIf.n (by decide) (oIf.n (by decide) (oIf.n (by decide) (oIf.n (by decide) (oIf.n (by decide) (oIf.n (by decide) (oIf.n (by decide) (oRef.s (oGetI.i p rfl hQ))))))))
    · rw [if_neg (by rw [c2]; decide)] at hQ
      exact hQ.2 (by decide) q
  · rw [if_neg (by rw [c]; decide)] at hQ
    exact hQ.2 (by decide) q
theorem C_visit (ho : OF M a bk) (h : BR G l M ow τ bk y S N) (hg : OK S N) (hv : VB N) {z w : Int32} {b : Nat} (hb : 30 ≤ b) {Q : Int32 → wM → Prop} {Xp : String → Nat → wM → Prop} (hQ : AnsI M ow (r_visit N z w) Q Xp) : P_X1_visit G a z w b M Q Xp := by
  have hbd := hg.b
  unfold r_visit at hQ
  refine ho.is ⟨7, by omega, C_visitAt ho h hg (Nat.le_refl _) (fun k hk ek c => ?_) (fun c q => ⟨rfl, ?_⟩)⟩
  · rw [if_pos c] at hQ
    refine S_inR ⟨7, by omega, C_ckI (Nat.le_refl _) (fun c2 => ?_) (fun c2 q => ⟨rfl, ?_⟩)⟩
    · rw [if_pos c2] at hQ
      have hQ := hQ.1 rfl M ow (Mv.rf (by decide))
      rw [ek, nI_clamp (by omega)] at hQ
      have p := h.vo hk
      obtain ⟨j, hj, ej⟩ := inR_n (n := 4) (by decide) c2
      rw [ej] at hQ
      rw [ej]
      unfold v_visit at hQ
      have : j = 0 ∨ j = 1 ∨ j = 2 ∨ j = 3 ∨ j = 4 := by omega
      rcases this with rfl | rfl | rfl | rfl | rfl
      · exact oIf.y rfl (oRef.s (oGetI.i p rfl hQ))
      · exact oIf.n (by decide) (oIf.y rfl (oRef.s (oGetI.i p rfl hQ)))
      · exact oIf.n (by decide) (oIf.n (by decide) (oIf.y rfl (oRef.s (oGetI.i p rfl hQ))))
      · exact oIf.n (by decide) (oIf.n (by decide) (oIf.n (by decide) (oIf.y rfl (oRef.s (oGetI.i p rfl hQ)))))
      · rw [if_pos (show (nI 4 : Int32) = 4 from rfl)] at hQ
        refine oIf.n (by decide) (oIf.n (by decide) (oIf.n (by decide) (oIf.n (by decide) (ho.g (oGetI.i h.bk rfl (oRef.s (oIs.i p (C_runs h hv hk (oIf.c (fun c3 => ?_) (fun c3 => ?_))))))))))
        · rw [if_pos c3] at hQ; exact hQ
        · rw [if_neg c3] at hQ; exact hQ
    · rw [if_neg (by rw [c2]; decide)] at hQ
      exact hQ.2 (by decide) q
  · rw [if_neg (by rw [c]; decide)] at hQ
    exact hQ.2 (by decide) q
theorem C_fine (ho : OF M a bk) (h : BR G l M ow τ bk y S N) (hg : OK S N) {z w : Int32} {b : Nat} (hb : 30 ≤ b) {Q : Int32 → wM → Prop} {Xp : String → Nat → wM → Prop} (hQ : AnsI M ow (r_fine S N z w) Q Xp) : P_X1_fine G a z w b M Q Xp := by
  have hbd := hg.b
  unfold r_fine at hQ
  refine ho.is ⟨7, by omega, C_fineAt ho h hg (Nat.le_refl _) (fun k hk ek c => ?_) (fun c q => ⟨rfl, ?_⟩)⟩
  · rw [if_pos c] at hQ
    refine S_inR ⟨7, by omega, C_ckI (Nat.le_refl _) (fun c2 => ?_) (fun c2 q => ⟨rfl, ?_⟩)⟩
    · rw [if_pos c2] at hQ
      have hQ := hQ.1 rfl M ow (Mv.rf (by decide))
      rw [ek, nI_clamp (by omega)] at hQ
      have p := h.fo hk
      obtain ⟨j, hj, ej⟩ := inR_n (n := 5) (by decide) c2
      rw [ej] at hQ
      rw [ej]
      have : j = 0 ∨ j = 1 ∨ j = 2 ∨ j = 3 ∨ j = 4 ∨ j = 5 := by omega
      rcases this with rfl | rfl | rfl | rfl | rfl | rfl
      · exact oIf.y rfl (oRef.s (oGetI.i p rfl hQ))
      · exact oIf.n (by decide) (oIf.y rfl (oRef.s (oGetI.i p rfl hQ)))
      · exact oIf.n (by decide) (oIf.n (by decide) (oIf.y rfl (oRef.s (oGetI.i p rfl hQ))))
      · exact oIf.n (by decide) (oIf.n (by decide) (oIf.n (by decide) (oIf.y rfl (oRef.s (oGetI.i p rfl hQ)))))
      · exact oIf.n (by decide) (oIf.n (by decide) (oIf.n (by decide) (oIf.n (by decide) (oIf.y rfl (oRef.s (oGetI.i p rfl hQ))))))
      · exact oIf.n (by decide) (oIf.n (by decide) (oIf.n (by decide) (oIf.n (by decide) (oIf.n (by decide) (oRef.s (oGetI.i p rfl hQ))))))
    · rw [if_neg (by rw [c2]; decide)] at hQ
      exact hQ.2 (by decide) q
  · rw [if_neg (by rw [c]; decide)] at hQ
    exact hQ.2 (by decide) q
theorem C_enoughLimit (ho : OF M a bk) (h : BR G l M ow τ bk y S N) (hi : I1 τ) (hg : OK S N) (ht : ST N) {z : Int32} {b : Nat} (hb : 30 ≤ b) {Q : Int32 → wM → Prop} {Xp : String → Nat → wM → Prop} (hQ : AnsI M ow (r_enough S N z) Q Xp) : P_X1_enoughLimit G a z b M Q Xp := by
  have hbd := hg.b
  unfold r_enough at hQ
  refine ho.is ⟨7, by omega, C_checkZone ho h hg (Nat.le_refl _) (fun k hk ek c => ?_) (fun c q => ⟨rfl, ?_⟩)⟩
  · rw [if_pos c] at hQ
    have hQ := hQ.1 rfl
    refine ho.g ⟨by omega, fun q hq hz => ?_⟩
    have hs : Mv [1] M ow (wIns M q (.inl (.object "L4", 1, .inl (fun _ => z)))) (va_up ow q 1) := Mv.nw (by decide) hq _ _
    have h2 := h.stp hs hi
    refine oIs.i h2.bk (C_many h2 hg (fun p hp Q hQ => C_w4 h2 (wIns_eq _ _ _) hz hp Q hQ) ?_)
    rw [cntZA z (np N) ht]
    exact hQ _ _ hs
  · rw [if_neg (by rw [c]; decide)] at hQ
    exact hQ.2 (by decide) q
end C14
