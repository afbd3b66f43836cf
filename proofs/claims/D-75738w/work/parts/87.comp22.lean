set_option maxRecDepth 100000
/-! STAGE 2, component: car, streetOf, bestStreet, outputByte -/
/-- what a question is asked for: a place that is not there; something that is not there -/
def AnsN (M : wM) (ow : Nat → Nat) (r : Int32 × Int32) (Q : Int32 → wM → Prop) (Xp : String → Nat → wM → Prop) : Prop := (r.1 = 0 → ∀ M1 ow1, Mv [1] M ow M1 ow1 → Q r.2 M1) ∧ (r.1 = 1 → ∀ q, Xp eIdx q M) ∧ (r.1 = 2 → ∀ M1 ow1, Mv [1] M ow M1 ow1 → ∀ q, Xp eNo q M1)
theorem carOf_sp {N : Rw} (hn : nc N ≤ 80) (x : Int32) : (carOf N x = -1 ∧ ∀ j, j < nc N → cP N j 0 ≠ x) ∨ ∃ j, j < nc N ∧ cP N j 0 = x ∧ carOf N x = nI j := by
  rcases srch_c (p := fun c => decide (cP N c 0 = x)) (n := nc N) (by omega) with ⟨h1, h2⟩ | ⟨j, h1, h2, h3, -⟩
  · exact .inl ⟨h1, fun j hj => of_decide_eq_false (h2 j hj)⟩
  · exact .inr ⟨j, h1, of_decide_eq_true h2, h3⟩
theorem bs_i {S N : Rw} {x : Int32} : ∀ k, k ≤ ns S → (fo (bsS S N x) (-1) k = -1 ∨ ∃ q, q < ns S ∧ fo (bsS S N x) (-1) k = nI q) :=
  fo_ind (I := fun b => b = -1 ∨ ∃ q, q < ns S ∧ b = nI q) (.inl rfl) fun k b hk hb => by
    unfold bsS; split
    · exact .inr ⟨k, hk, rfl⟩
    · exact hb
section C22
variable {G : wG} {l : Nat → Nat → Int64} {M : wM} {ow : Nat → Nat} {τ : Nat → Nat} {a bk : Nat} {y : Nat → Nat → Nat} {S N : Rw}
theorem C_streetOf (ho : OF M a bk) (h : BR G l M ow τ bk y S N) (hi : I1 τ) (hg : OK S N) {x : Int32} {b : Nat} (hb : 30 ≤ b) {Q : Int32 → wM → Prop} (hQ : ∀ M1 ow1, Mv [1] M ow M1 ow1 → Q (v_streetOf N x) M1) : P_X1_streetOf G a x b M Q := by
  have hbd := hg.b
  refine ho.g (oIs.i h.bk ⟨6, by omega, C_carOf h hi hg (Nat.le_refl _) fun M1 ow1 hs1 => ?_⟩)
  have hq := hQ M1 ow1 hs1
  unfold v_streetOf at hq
  rcases carOf_sp hbd.2.2.1 x with ⟨c, -⟩ | ⟨j, hj, -, c⟩
  · rw [if_pos c] at hq ⊢
    exact oNull.n hq
  · have c2 : ¬ carOf N x = -1 := by rw [c]; exact nI_neg (by omega)
    rw [if_neg c2] at hq ⊢
    rw [c, nI_clamp (by omega)] at hq ⊢
    exact oNull.s (gC1 (h.stp hs1 hi) hj hq)
theorem C_car (ho : OF M a bk) (h : BR G l M ow τ bk y S N) (hi : I1 τ) (hg : OK S N) {s k : Int32} {b : Nat} (hb : 30 ≤ b) {Q : Int32 → wM → Prop} {Xp : String → Nat → wM → Prop} (hQ : AnsN M ow (r_car S N s k) Q Xp) : P_X1_car G a s k b M Q Xp := by
  have hbd := hg.b
  unfold r_car at hQ
  refine ho.is ⟨7, by omega, C_checkStreet ho h hg (Nat.le_refl _) (fun s' hs' es c => ?_) (fun c q => ⟨rfl, ?_⟩)⟩
  · rw [if_pos c] at hQ
    refine ho.g (oGetA.i h.bk rfl (isL h.cl ⟨6, by omega, C_cars h hi hg (Nat.le_refl _) fun it mc M1 ow1 hs1 hl1 hI1 => ?_⟩))
    have hcn : carsIn N s ≤ nc N := cnt_le _ _
    have ecn : carsIn N s = cnt (fun c => decide (cP N c 1 = s)) (nc N) := rfl
    by_cases ck : inR k 0 (nI (carsIn N s) - 1) = true
    · obtain ⟨kk, hkk, ek⟩ := inR_nI (by omega) ck
      rw [if_pos ck, ek, nI_clamp (by omega)] at hQ
      have hQ0 := hQ.1 rfl
      obtain ⟨R, eR⟩ : ∃ R, R = carK N s (nc N) 0 kk := ⟨_, rfl⟩
      simp only [← eR] at hQ0
      have key := st_loopP (F := fun n c => ∀ M2 ow2 b, Mv [1] M1 ow1 M2 ow2 → Cl G M2 ow2 1 it (liC (y 3) (nc N) (y 0 3) c mc) → L_X1_car_19 G Q Xp n s (nI (kk - cnt (fun c => decide (cP N c 1 = s)) c)) (some it) M2 b) (P := fun c => cnt (fun c => decide (cP N c 1 = s)) c ≤ kk ∧ carK N s (nc N - c) c (kk - cnt (fun c => decide (cP N c 1 = s)) c) = R) (N := nc N) (fun n hq M2 ow2 b hs2 hI2 => ?_) (fun n c hk hq ih M2 ow2 b hs2 hI2 => ?_) 0 (Nat.zero_le _) ⟨Nat.zero_le _, eR.symm⟩
      · obtain ⟨n, hn⟩ := key
        rw [ek]
        exact ⟨n, hn M1 ow1 _ (Mv.rf (by decide)) hI1⟩
      · exfalso; omega
      · unfold L_X1_car_19; unfold B_X1_car_19
        refine oRef.s (oIs.i hI2.1 (S_lihas (hl1.stp hs2 (hi 5 (by decide))) (Nat.le_of_lt hk) hI2.1 ?_))
        rw [decide_eq_true hk]
        refine oIf.y rfl (oIs.i hI2.1 (S_linext (hl1.stp hs2 (hi 5 (by decide))) hk hI2 (by decide) fun M3 e3 hs3 hI3 => ?_))
        have h3 := h.stp ((hs1.tr hs2).tr hs3) hi
        obtain ⟨q1, q2⟩ := hq
        rw [show nc N - c = (nc N - (c + 1)) + 1 by omega] at q2
        unfold carK at q2
        refine kC h3 hk (oRef.s (gC1 h3 hk (oIf.c (fun c1 => ?_) (fun c1 => ?_))))
        · rw [if_pos c1] at q2
          have e1 : cnt (fun c => decide (cP N c 1 = s)) c + 1 = cnt (fun c => decide (cP N c 1 = s)) (c + 1) := cnt_y (p := fun c => decide (cP N c 1 = s)) (by simp [c1])
          by_cases c2 : kk - cnt (fun c => decide (cP N c 1 = s)) c = 0
          · rw [if_pos c2] at q2
            rw [c2]
            refine oIf.y rfl (gC0 h3 hk ?_)
            rw [q2]
            exact hQ0 M3 ow2 ((hs1.tr hs2).tr hs3)
          · rw [if_neg c2] at q2
            refine oIf.n (nI_ne0 (by omega) (by omega)) ?_
            have e2 : kk - cnt (fun c => decide (cP N c 1 = s)) c - 1 = kk - cnt (fun c => decide (cP N c 1 = s)) (c + 1) := by omega
            rw [e2] at q2
            have := ih ⟨by omega, q2⟩ M3 ow2 b (hs2.tr hs3) hI3
            rw [← Int32.sub_eq_add_neg, show (1 : Int32) = nI 1 from rfl, nI_sub (by omega), e2]
            exact this
        · rw [if_neg c1] at q2
          have e1 : cnt (fun c => decide (cP N c 1 = s)) c = cnt (fun c => decide (cP N c 1 = s)) (c + 1) := cnt_n (p := fun c => decide (cP N c 1 = s)) (by simp [c1])
          rw [e1] at q2 ⊢
          exact ih ⟨by omega, q2⟩ M3 ow2 b (hs2.tr hs3) hI3
    · rw [if_neg ck] at hQ
      have hQ2 := hQ.2.2 rfl
      have hne : ∀ j, j < carsIn N s → k - nI j ≠ 0 := fun j hj e => ck (by
        have e2 : k = nI j := by
          have := congrArg (· + nI j) e
          simpa [Int32.sub_add_cancel] using this
        unfold inR
        rw [e2, decide_eq_false (nI_pos (by omega)), show carsIn N s = carsIn N s - 1 + 1 by omega, nI_pred, decide_eq_false (nI_nlt (by omega) (by omega))]; rfl)
      have key := st_loop (F := fun n c => ∀ M2 ow2 b, 7 ≤ b → Mv [1] M1 ow1 M2 ow2 → Cl G M2 ow2 1 it (liC (y 3) (nc N) (y 0 3) c mc) → L_X1_car_19 G Q Xp n s (k - nI (cnt (fun c => decide (cP N c 1 = s)) c)) (some it) M2 b) (N := nc N) (fun n M2 ow2 b hb2 hs2 hI2 => ?_) (fun n c hk ih M2 ow2 b hb2 hs2 hI2 => ?_) 0 (Nat.zero_le _)
      · obtain ⟨n, hn⟩ := key
        have := hn M1 ow1 (b - 7 - 6) (by omega) (Mv.rf (by decide)) hI1
        rw [show k - nI (cnt (fun c => decide (cP N c 1 = s)) 0) = k from Int32.sub_zero k] at this
        exact ⟨n, this⟩
      · unfold L_X1_car_19; unfold B_X1_car_19
        refine oRef.s (oIs.i hI2.1 (S_lihas (hl1.stp hs2 (hi 5 (by decide))) (Nat.le_refl _) hI2.1 ?_))
        rw [decide_eq_false (Nat.lt_irrefl _)]
        exact oIf.n (by decide) ⟨hb2, hQ2 M2 ow2 (hs1.tr hs2)⟩
      · unfold L_X1_car_19; unfold B_X1_car_19
        refine oRef.s (oIs.i hI2.1 (S_lihas (hl1.stp hs2 (hi 5 (by decide))) (Nat.le_of_lt hk) hI2.1 ?_))
        rw [decide_eq_true hk]
        refine oIf.y rfl (oIs.i hI2.1 (S_linext (hl1.stp hs2 (hi 5 (by decide))) hk hI2 (by decide) fun M3 e3 hs3 hI3 => ?_))
        have h3 := h.stp ((hs1.tr hs2).tr hs3) hi
        refine kC h3 hk (oRef.s (gC1 h3 hk (oIf.c (fun c1 => ?_) (fun c1 => ?_))))
        · have e1 : cnt (fun c => decide (cP N c 1 = s)) c + 1 = cnt (fun c => decide (cP N c 1 = s)) (c + 1) := cnt_y (p := fun c => decide (cP N c 1 = s)) (by simp [c1])
          have e3 : cnt (fun c => decide (cP N c 1 = s)) (c + 1) ≤ cnt (fun c => decide (cP N c 1 = s)) (nc N) := cnt_lem _ hk
          refine oIf.n (hne _ (by omega)) ?_
          have := ih M3 ow2 b hb2 (hs2.tr hs3) hI3
          rw [← e1, ← nI_1, ← Int32.sub_sub] at this
          rw [← Int32.sub_eq_add_neg]
          exact this
        · have e1 : cnt (fun c => decide (cP N c 1 = s)) c = cnt (fun c => decide (cP N c 1 = s)) (c + 1) := cnt_n (p := fun c => decide (cP N c 1 = s)) (by simp [c1])
          rw [e1]
          exact ih M3 ow2 b hb2 (hs2.tr hs3) hI3
  · rw [if_neg (by rw [c]; decide)] at hQ
    exact hQ.2.1 rfl q
theorem C_bestStreet (ho : OF M a bk) (h : BR G l M ow τ bk y S N) (hi : I1 τ) (hn : ow a ∉ [1]) (hg : OK S N) (hv : VB N) {x : Int32} {b : Nat} (hb : 200 ≤ b) {Q : Int32 → wM → Prop} {Xp : String → Nat → wM → Prop} (hQ : AnsA M ow (r_best S N x) Q Xp) : P_X1_bestStreet G a x b M Q Xp := by
  have hbd := hg.b
  unfold r_best at hQ
  refine ⟨7, by omega, C_checkPlate (Nat.le_refl _) (fun c => ?_) (fun c q => ⟨rfl, ?_⟩)⟩
  · rw [if_pos c] at hQ
    have hQ0 := hQ.1 rfl
    have key := st_loop (F := fun n k => ∀ M2 ow2 b, 12 * (ns S - k) ≤ b → Mv [1] M ow M2 ow2 → L_X1_bestStreet_8 G Q Xp n a x (fo (bsS S N x) (-1) k) (nI k) M2 b) (N := ns S) (fun n M2 ow2 b hb2 hs2 => ?_) (fun n k hk ih M2 ow2 b hb2 hs2 => ?_) 0 (Nat.zero_le _)
    · obtain ⟨n, hn⟩ := key
      exact ⟨n, hn M ow _ (by omega) (Mv.rf (by decide))⟩
    · unfold L_X1_bestStreet_8; unfold B_X1_bestStreet_8
      have h2 := h.stp hs2 hi
      have ho2 := ho.stp hs2 hn
      refine ho2.is (C_setup ho2 h2 (oRef.s (oGetA.i h2.su rfl (isA h2.sl (E_size h2.sl (oIf.y (nI_le (Nat.le_refl _) (by omega)) ?_))))))
      exact hQ0 M2 ow2 hs2
    · unfold L_X1_bestStreet_8; unfold B_X1_bestStreet_8
      have h2 := h.stp hs2 hi
      have ho2 := ho.stp hs2 hn
      refine ho2.is (C_setup ho2 h2 (oRef.s (oGetA.i h2.su rfl (isA h2.sl (E_size h2.sl (oIf.n (nI_ge hk (by omega)) ?_))))))
      have e0 : fo (bsS S N x) (-1) (k + 1) = bsS S N x k (fo (bsS S N x) (-1) k) := rfl
      have hii := bs_i (S := S) (N := N) (x := x) k (by omega)
      rw [e0] at ih
      generalize fo (bsS S N x) (-1) k = bb at ih hii ⊢
      have fin : ∀ v M3 ow3 b, 12 * (ns S - (k + 1)) ≤ b → Mv [1] M ow M3 ow3 → bsS S N x k bb = v → B_X1_bestStreet_71 G (L_X1_bestStreet_8 G Q Xp n) Q Xp a x v (nI k) M3 b := fun v M3 ow3 b hb3 hs3 e => by
        unfold B_X1_bestStreet_71; rw [nI_1, ← e]; exact ih M3 ow3 b hb3 hs3
      refine ho2.g (oIs.i h2.bk ⟨6, by omega, C_free h2 hi hg hk (Nat.le_refl _) fun M3 ow3 hs3 => ?_⟩)
      have s3 := hs2.tr hs3
      have h3 := h.stp s3 hi
      have ho3 := ho.stp s3 hn
      refine oIf.c (fun c1 => fin bb M3 ow3 _ (by omega) s3 (by unfold bsS; rw [if_neg (fun z => z.1 c1)])) (fun c1 => ?_)
      refine ho3.g (oIs.i h3.bk (C_isAllowed h3 hg hv hk (bl _ (fun c2 => ?_) (fun c2 => (fin bb M3 ow3 _ (by omega) s3 (by unfold bsS; rw [if_neg (fun z => by rw [c2] at z; exact absurd z.2.1 (by decide))]))))))
      refine oIf.c (fun c3 => fin _ M3 ow3 _ (by omega) s3 (by unfold bsS; rw [if_pos ⟨c1, c2, .inl c3⟩])) (fun c3 => ?_)
      rcases hii with e | ⟨q, hq, e⟩
      · exact absurd e c3
      subst e
      refine ho3.g (oIs.i h3.bk ⟨6, by omega, C_free h3 hi hg hq (Nat.le_refl _) fun M4 ow4 hs4 => ?_⟩)
      have s4 := s3.tr hs4
      refine oIf.c (fun c4 => fin _ M4 ow4 _ (by omega) s4 ?_) (fun c4 => fin _ M4 ow4 _ (by omega) s4 ?_)
      · unfold bsS
        rw [if_neg]
        rintro ⟨-, -, z | z⟩
        · exact c3 z
        · rw [nI_clamp (by omega)] at z; exact Int32.not_lt.mpr c4 z
      · unfold bsS
        rw [if_pos ⟨c1, c2, .inr (by rw [nI_clamp (by omega)]; exact Int32.not_le.mp c4)⟩]
  · rw [if_neg (by rw [c]; decide)] at hQ
    exact hQ.2 (by decide) q
end C22
/-- what was printed are signs of ASCII -/
def OB (O : Rw) (w : Nat) : Prop := ∀ k, k < w → ∃ d, d < 128 ∧ O k = nI d
theorem asc : ∀ d, d < 128 → ((nI d &&& (255 : Int32)).toUInt32 % 65536).toInt32 = nI d := by decide +kernel
theorem ascN : ∀ d, d < 128 → narrow .char (.int (nI d)) = .int (nI d) := by decide +kernel
theorem sh0 {x : Int32} : x >>> ((0 : Int32) &&& 31) = x := by
  have : ((0 : Int32) &&& 31) = 0 := by decide
  rw [this]
  exact Int32.shiftRight_zero
section C22B
variable {G : wG} {M : wM} {ow : Nat → Nat} {τ a n : Nat} {r : Nat → Int32}
theorem S_sblen (h : SB G M ow τ a n r) {Q : Int32 → wM → Prop} (hQ : Q (nI n) M) : P_J18_length G a M Q := by
  obtain ⟨e, cap, mx, g, h1, h2, h3⟩ := h
  exact oIs.i h1.1 (oGetI.i h1.1 rfl hQ)
theorem S_sbchar (h : SB G M ow τ a n r) (hr : OB r n) {k : Nat} (hk : k < n) {Q : Int32 → wM → Prop} (hQ : Q (r k) M) : P_J18_charAt G a (nI k) M Q := by
  obtain ⟨e, cap, mx, g, h1, h2, h3, h4, h5, -⟩ := h
  obtain ⟨d, hd, ed⟩ := hr k hk
  refine oIs.i h1.1 (oGetI.i h1.1 rfl (oGetA.i h1.1 rfl (oGetI.i h1.1 rfl (oAlen.i h2.1 ?_))))
  rw [sh0, if_neg (nI_nlt h3 (by omega))]
  intro r1
  refine oIf.n (nI_pos (by omega)) (oIf.y (nI_lt hk (by omega)) (oIf.y rfl (oIald.e rfl h2.1 (by omega) (by omega) ?_)))
  rw [h5 k hk, ed, asc d hd]
  rw [ed] at hQ
  exact ⟨ascN d hd, ascN d hd, hQ⟩
end C22B
section C22C
variable {G : wG} {l : Nat → Nat → Int64} {M : wM} {ow : Nat → Nat} {a m : Nat} {S N H V : Rw} {b0 : Bool} {n : Nat} {B : Rw} {ec eo : Int32} {w : Nat} {O : Rw} {τ : Nat → Nat}
theorem C_outputByte (h : CP G l M ow τ a S N m H b0 V n B ec eo w O) (hw : w ≤ 2000) (hO : OB O w) {k : Int32} {Q : Int32 → wM → Prop} (hQ : Q (if inR k 0 (nI w - 1) then O k.toNatClampNeg else -1) M) : P_X1_outputByte G a k M Q := by
  obtain ⟨bk, sv, dq, bf, sb, y, h1, h2, h3, h4, h5, h6⟩ := h
  refine oGetA.i h1.1 rfl (h6.is (S_sblen h6 (S_inR (oIf.c (fun c => ?_) (fun c => ?_)))))
  · rw [if_pos c] at hQ
    obtain ⟨j, hj, ej⟩ := inR_nI (by omega) c
    rw [ej, nI_clamp (by omega)] at hQ
    rw [ej]
    exact oGetA.i h1.1 rfl (h6.is (S_sbchar h6 hO hj hQ))
  · rw [if_neg c] at hQ
    exact hQ
end C22C
