set_option maxRecDepth 100000
/-! STAGE 2, component: waiting, rules, time -/
section COMP2
variable {G : wG} {l : Nat → Nat → Int64} {M : wM} {ow : Nat → Nat} {τ : Nat → Nat} {a : Nat} {y : Nat → Nat → Nat} {S N : Rw}
theorem C_isAhead (h : BR G l M ow τ a y S N) (hg : OK S N) {p q : Nat} (hp : p < np N) (hq : q < np N) {Q : Bool → wM → Prop} (hQ : Q (decide (vH N p < vH N q)) M) : P_X2_isAhead G a (y 1 p) (y 1 q) M Q := by
  have hb := hg.b
  have h1 : vH N p ≤ np N := cnt_le _ _
  have h2 : vH N q ≤ np N := cnt_le _ _
  refine gP0 h hp (oIs.i h.bk (C_validOf h hg (gP0 h hq (oIs.i h.bk (C_validOf h hg ?_)))))
  by_cases c : vH N p < vH N q
  · rw [decide_eq_true c] at hQ
    exact oIf.n (nI_ge c (show vH N q < 2 ^ 31 by omega)) ⟨true, rfl, hQ⟩
  · rw [decide_eq_false c] at hQ
    exact oIf.y (nI_le (Nat.le_of_not_lt c) (show vH N p < 2 ^ 31 by omega)) ⟨false, rfl, hQ⟩
theorem C_firstWaiting (h : BR G l M ow τ a y S N) (hg : OK S N) {z : Int32} {Q : Int32 → wM → Prop} (hQ : Q (waitAt S N z 0) M) : P_X2_firstWaiting G a z M Q := by
  have hb := hg.b
  unfold P_X2_firstWaiting
  rw [← fw_eq hg z] at hQ
  refine st_loop (F := fun n k => L_X2_firstWaiting_4 G Q n a z (fo (fwS S N z) (-1) k) (nI k) M) (N := np N) (fun n => ?_) (fun n k hk ih => ?_) 0 (Nat.zero_le _)
  · unfold L_X2_firstWaiting_4; unfold B_X2_firstWaiting_4
    repeat' (first | ((with_reducible apply oGetA.i h.bk); rfl) | ((with_reducible apply oGetI.i h.bk); rfl) | ((with_reducible refine oIs.i h.bk ?_)) | ((with_reducible apply oGetA.i h.su); rfl) | ((with_reducible refine oIs.i h.su ?_)) | ((with_reducible refine oRef.s ?_)) | ((with_reducible refine isA h.pl ?_)) | ((with_reducible refine isA h.vl ?_)) | ((with_reducible refine isA h.zl ?_)) | ((with_reducible refine isA h.sl ?_)) | ((with_reducible refine isA h.hl ?_)) | ((with_reducible refine isA h.fl ?_)) | ((with_reducible refine isL h.cl ?_)) | ((with_reducible refine E_size h.pl ?_)) | ((with_reducible refine E_size h.vl ?_)) | ((with_reducible refine E_size h.zl ?_)) | ((with_reducible refine E_size h.sl ?_)) | ((with_reducible refine E_size h.hl ?_)) | ((with_reducible refine E_size h.fl ?_)) | ((with_reducible refine E_llsize h.cl ?_)) | ((with_reducible refine E_get h.pl ?_ ?_); omega) | ((with_reducible refine E_get h.vl ?_ ?_); omega) | ((with_reducible refine E_get h.zl ?_ ?_); omega) | ((with_reducible refine E_get h.sl ?_ ?_); omega) | ((with_reducible refine E_get h.hl ?_ ?_); omega) | ((with_reducible refine E_get h.fl ?_ ?_); omega) | ((with_reducible refine kP h ?_ ?_); omega) | ((with_reducible refine kV h ?_ ?_); omega) | ((with_reducible refine kC h ?_ ?_); omega) | ((with_reducible refine kF h ?_ ?_); omega) | ((with_reducible refine kZ h ?_ ?_); omega) | ((with_reducible refine kS h ?_ ?_); omega) | ((with_reducible refine kH h ?_ ?_); omega) | ((with_reducible refine iP h ?_ ?_); omega) | ((with_reducible refine iV h ?_ ?_); omega) | ((with_reducible refine iC h ?_ ?_); omega) | ((with_reducible refine iF h ?_ ?_); omega) | ((with_reducible refine iZ h ?_ ?_); omega) | ((with_reducible refine gP0 h ?_ ?_); omega) | ((with_reducible refine gP1 h ?_ ?_); omega) | ((with_reducible refine gP2 h ?_ ?_); omega) | ((with_reducible refine gP3 h ?_ ?_); omega) | ((with_reducible refine gP4 h ?_ ?_); omega) | ((with_reducible refine gP5 h ?_ ?_); omega) | ((with_reducible refine gP6 h ?_ ?_); omega) | ((with_reducible refine gP7 h ?_ ?_); omega) | ((with_reducible refine gV0 h ?_ ?_); omega) | ((with_reducible refine gV1 h ?_ ?_); omega) | ((with_reducible refine gV2 h ?_ ?_); omega) | ((with_reducible refine gV3 h ?_ ?_); omega) | ((with_reducible refine gC0 h ?_ ?_); omega) | ((with_reducible refine gC1 h ?_ ?_); omega) | ((with_reducible refine gC2 h ?_ ?_); omega) | ((with_reducible refine gF0 h ?_ ?_); omega) | ((with_reducible refine gF1 h ?_ ?_); omega) | ((with_reducible refine gF2 h ?_ ?_); omega) | ((with_reducible refine gF3 h ?_ ?_); omega) | ((with_reducible refine gF4 h ?_ ?_); omega) | ((with_reducible refine gF5 h ?_ ?_); omega) | ((with_reducible refine gZ0 h ?_ ?_); omega) | ((with_reducible refine gZ1 h ?_ ?_); omega) | ((with_reducible refine gZ2 h ?_ ?_); omega) | ((with_reducible refine gZ3 h ?_ ?_); omega) | ((with_reducible refine gS0 h ?_ ?_); omega) | ((with_reducible refine gS1 h ?_ ?_); omega) | ((with_reducible refine gS2 h ?_ ?_); omega) | ((with_reducible refine gH0 h ?_ ?_); omega) | ((with_reducible refine gH1 h ?_ ?_); omega) | ((with_reducible refine gH2 h ?_ ?_); omega) | ((with_reducible refine oIf.y (nI_le ?_ ?_) ?_); omega; omega) | ((with_reducible refine oIf.n (nI_ge ?_ ?_) ?_); omega; omega) | unfold B_X2_firstWaiting_78 | unfold B_X2_firstWaiting_76)
    exact hQ
  · unfold L_X2_firstWaiting_4; unfold B_X2_firstWaiting_4
    have hi := fw_inv (S := S) (N := N) (z := z) hb.1 k (by omega)
    have fin : ∀ x, fwS S N z k (fo (fwS S N z) (-1) k) = x → B_X2_firstWaiting_78 G (L_X2_firstWaiting_4 G Q n) Q a z x (nI k) M := fun x e => by
      unfold B_X2_firstWaiting_78; rw [nI_1, ← e]; exact ih
    generalize fo (fwS S N z) (-1) k = b at hi fin ⊢
    refine oGetA.i h.bk rfl (isA h.pl (E_size h.pl (oIf.n (nI_ge hk (by omega)) (oGetA.i h.bk rfl (isA h.pl (E_get h.pl hk (kP h hk (oRef.s (gP2 h hk ?_)))))))))
    refine oIf.c (fun c1 => ?_) (fun c1 => fin _ (by unfold fwS isW; simp [c1]))
    refine gP4 h hk (oIf.c (fun c2 => ?_) (fun c2 => fin _ (by unfold fwS isW; simp [c2])))
    have hw : isW S N z k = true := by unfold isW; simp [c1, c2]
    refine oIf.c (fun c3 => fin _ (by unfold fwS; rw [if_pos ⟨hw, .inl c3⟩])) (fun c3 => ?_)
    rcases hi with ⟨e, -⟩ | ⟨p, hp, e, -⟩
    · exact absurd e c3
    subst e
    refine oGetA.i h.bk rfl (isA h.pl (E_get h.pl (by omega) (kP h (by omega) (oRef.s (oIs.i h.bk (C_isAhead h hg hk (by omega) (bl _ (fun c4 => fin _ ?_) (fun c4 => fin _ ?_))))))))
    · unfold fwS; rw [nI_clamp (by omega), if_pos ⟨hw, .inr (of_decide_eq_true c4)⟩]
    · unfold fwS; rw [nI_clamp (by omega), if_neg]
      rintro ⟨-, x | x⟩
      · exact c3 x
      · exact of_decide_eq_false c4 x
theorem C_nextEvent (h : BR G l M ow τ a y S N) (hg : OK S N) {Q : Int32 → wM → Prop} (hQ : Q (dueF N) M) : P_X2_nextEvent G a M Q := by
  have hb := hg.b
  refine oGetI.i h.bk rfl ?_
  refine st_loop (F := fun n k => L_X2_nextEvent_15 G Q n a (fo (dueS N) (due0 N) k) (nI k) M) (N := np N) (fun n => ?_) (fun n k hk ih => ?_) 0 (Nat.zero_le _)
  · unfold L_X2_nextEvent_15; unfold B_X2_nextEvent_15
    repeat' (first | ((with_reducible apply oGetA.i h.bk); rfl) | ((with_reducible apply oGetI.i h.bk); rfl) | ((with_reducible refine oIs.i h.bk ?_)) | ((with_reducible apply oGetA.i h.su); rfl) | ((with_reducible refine oIs.i h.su ?_)) | ((with_reducible refine oRef.s ?_)) | ((with_reducible refine isA h.pl ?_)) | ((with_reducible refine isA h.vl ?_)) | ((with_reducible refine isA h.zl ?_)) | ((with_reducible refine isA h.sl ?_)) | ((with_reducible refine isA h.hl ?_)) | ((with_reducible refine isA h.fl ?_)) | ((with_reducible refine isL h.cl ?_)) | ((with_reducible refine E_size h.pl ?_)) | ((with_reducible refine E_size h.vl ?_)) | ((with_reducible refine E_size h.zl ?_)) | ((with_reducible refine E_size h.sl ?_)) | ((with_reducible refine E_size h.hl ?_)) | ((with_reducible refine E_size h.fl ?_)) | ((with_reducible refine E_llsize h.cl ?_)) | ((with_reducible refine E_get h.pl ?_ ?_); omega) | ((with_reducible refine E_get h.vl ?_ ?_); omega) | ((with_reducible refine E_get h.zl ?_ ?_); omega) | ((with_reducible refine E_get h.sl ?_ ?_); omega) | ((with_reducible refine E_get h.hl ?_ ?_); omega) | ((with_reducible refine E_get h.fl ?_ ?_); omega) | ((with_reducible refine kP h ?_ ?_); omega) | ((with_reducible refine kV h ?_ ?_); omega) | ((with_reducible refine kC h ?_ ?_); omega) | ((with_reducible refine kF h ?_ ?_); omega) | ((with_reducible refine kZ h ?_ ?_); omega) | ((with_reducible refine kS h ?_ ?_); omega) | ((with_reducible refine kH h ?_ ?_); omega) | ((with_reducible refine iP h ?_ ?_); omega) | ((with_reducible refine iV h ?_ ?_); omega) | ((with_reducible refine iC h ?_ ?_); omega) | ((with_reducible refine iF h ?_ ?_); omega) | ((with_reducible refine iZ h ?_ ?_); omega) | ((with_reducible refine gP0 h ?_ ?_); omega) | ((with_reducible refine gP1 h ?_ ?_); omega) | ((with_reducible refine gP2 h ?_ ?_); omega) | ((with_reducible refine gP3 h ?_ ?_); omega) | ((with_reducible refine gP4 h ?_ ?_); omega) | ((with_reducible refine gP5 h ?_ ?_); omega) | ((with_reducible refine gP6 h ?_ ?_); omega) | ((with_reducible refine gP7 h ?_ ?_); omega) | ((with_reducible refine gV0 h ?_ ?_); omega) | ((with_reducible refine gV1 h ?_ ?_); omega) | ((with_reducible refine gV2 h ?_ ?_); omega) | ((with_reducible refine gV3 h ?_ ?_); omega) | ((with_reducible refine gC0 h ?_ ?_); omega) | ((with_reducible refine gC1 h ?_ ?_); omega) | ((with_reducible refine gC2 h ?_ ?_); omega) | ((with_reducible refine gF0 h ?_ ?_); omega) | ((with_reducible refine gF1 h ?_ ?_); omega) | ((with_reducible refine gF2 h ?_ ?_); omega) | ((with_reducible refine gF3 h ?_ ?_); omega) | ((with_reducible refine gF4 h ?_ ?_); omega) | ((with_reducible refine gF5 h ?_ ?_); omega) | ((with_reducible refine gZ0 h ?_ ?_); omega) | ((with_reducible refine gZ1 h ?_ ?_); omega) | ((with_reducible refine gZ2 h ?_ ?_); omega) | ((with_reducible refine gZ3 h ?_ ?_); omega) | ((with_reducible refine gS0 h ?_ ?_); omega) | ((with_reducible refine gS1 h ?_ ?_); omega) | ((with_reducible refine gS2 h ?_ ?_); omega) | ((with_reducible refine gH0 h ?_ ?_); omega) | ((with_reducible refine gH1 h ?_ ?_); omega) | ((with_reducible refine gH2 h ?_ ?_); omega) | ((with_reducible refine oIf.y (nI_le ?_ ?_) ?_); omega; omega) | ((with_reducible refine oIf.n (nI_ge ?_ ?_) ?_); omega; omega) | unfold B_X2_nextEvent_76 | unfold B_X2_nextEvent_59)
    exact hQ
  · unfold L_X2_nextEvent_15; unfold B_X2_nextEvent_15
    have fin : ∀ x, fo (dueS N) (due0 N) (k + 1) = x → B_X2_nextEvent_76 G (L_X2_nextEvent_15 G Q n) Q a x (nI k) M := fun x e => by
      unfold B_X2_nextEvent_76; rw [nI_1, ← e]; exact ih
    have e0 : fo (dueS N) (due0 N) (k + 1) = dueS N k (fo (dueS N) (due0 N) k) := rfl
    rw [e0] at fin
    generalize fo (dueS N) (due0 N) k = b at fin ⊢
    have mid : ∀ c, (if pP N k 2 = 2 ∧ pP N k 4 < b then pP N k 4 else b) = c → B_X2_nextEvent_59 G (L_X2_nextEvent_15 G Q n) Q a c (nI k) (y 1 k) M := fun c e => by
      unfold dueS at fin
      simp only [e] at fin
      refine gP4 h hk (oIf.c (fun c1 => gP6 h hk (fin _ ?_)) (fun c1 => fin _ (by rw [if_neg (fun x => c1 x.1)])))
      by_cases c2 : pP N k 5 < c
      · rw [if_pos ⟨c1, c2⟩, if_pos c2]
      · rw [if_neg (fun x => c2 x.2), if_neg c2]
    refine oGetA.i h.bk rfl (isA h.pl (E_size h.pl (oIf.n (nI_ge hk (by omega)) (oGetA.i h.bk rfl (isA h.pl (E_get h.pl hk (kP h hk (oRef.s (gP4 h hk ?_)))))))))
    refine oIf.c (fun c1 => gP5 h hk (mid _ ?_)) (fun c1 => mid _ (by rw [if_neg (fun x => c1 x.1)]))
    by_cases c2 : pP N k 4 < b
    · rw [if_pos ⟨c1, c2⟩, if_pos c2]
    · rw [if_neg (fun x => c2 x.2), if_neg c2]
/-- a test of permits that was made -/
theorem C_many (h : BR G l M ow τ a y S N) (hg : OK S N) {lam : Nat} {q : Nat → Bool} (hw : ∀ p, p < np N → ∀ Q : Bool → wM → Prop, Q (q p) M → P_which G lam (y 1 p) M Q) {Q : Int32 → wM → Prop} (hQ : Q (nI (cnt q (np N))) M) : P_X2_many G a lam M Q := by
  have hb := hg.b
  unfold P_X2_many
  refine st_loop (F := fun n k => L_X2_many_4 G Q n a lam (nI (cnt q k)) (nI k) M) (N := np N) (fun n => ?_) (fun n k hk ih => ?_) 0 (Nat.zero_le _)
  · unfold L_X2_many_4; unfold B_X2_many_4
    repeat' (first | ((with_reducible apply oGetA.i h.bk); rfl) | ((with_reducible apply oGetI.i h.bk); rfl) | ((with_reducible refine oIs.i h.bk ?_)) | ((with_reducible apply oGetA.i h.su); rfl) | ((with_reducible refine oIs.i h.su ?_)) | ((with_reducible refine oRef.s ?_)) | ((with_reducible refine isA h.pl ?_)) | ((with_reducible refine isA h.vl ?_)) | ((with_reducible refine isA h.zl ?_)) | ((with_reducible refine isA h.sl ?_)) | ((with_reducible refine isA h.hl ?_)) | ((with_reducible refine isA h.fl ?_)) | ((with_reducible refine isL h.cl ?_)) | ((with_reducible refine E_size h.pl ?_)) | ((with_reducible refine E_size h.vl ?_)) | ((with_reducible refine E_size h.zl ?_)) | ((with_reducible refine E_size h.sl ?_)) | ((with_reducible refine E_size h.hl ?_)) | ((with_reducible refine E_size h.fl ?_)) | ((with_reducible refine E_llsize h.cl ?_)) | ((with_reducible refine E_get h.pl ?_ ?_); omega) | ((with_reducible refine E_get h.vl ?_ ?_); omega) | ((with_reducible refine E_get h.zl ?_ ?_); omega) | ((with_reducible refine E_get h.sl ?_ ?_); omega) | ((with_reducible refine E_get h.hl ?_ ?_); omega) | ((with_reducible refine E_get h.fl ?_ ?_); omega) | ((with_reducible refine kP h ?_ ?_); omega) | ((with_reducible refine kV h ?_ ?_); omega) | ((with_reducible refine kC h ?_ ?_); omega) | ((with_reducible refine kF h ?_ ?_); omega) | ((with_reducible refine kZ h ?_ ?_); omega) | ((with_reducible refine kS h ?_ ?_); omega) | ((with_reducible refine kH h ?_ ?_); omega) | ((with_reducible refine iP h ?_ ?_); omega) | ((with_reducible refine iV h ?_ ?_); omega) | ((with_reducible refine iC h ?_ ?_); omega) | ((with_reducible refine iF h ?_ ?_); omega) | ((with_reducible refine iZ h ?_ ?_); omega) | ((with_reducible refine gP0 h ?_ ?_); omega) | ((with_reducible refine gP1 h ?_ ?_); omega) | ((with_reducible refine gP2 h ?_ ?_); omega) | ((with_reducible refine gP3 h ?_ ?_); omega) | ((with_reducible refine gP4 h ?_ ?_); omega) | ((with_reducible refine gP5 h ?_ ?_); omega) | ((with_reducible refine gP6 h ?_ ?_); omega) | ((with_reducible refine gP7 h ?_ ?_); omega) | ((with_reducible refine gV0 h ?_ ?_); omega) | ((with_reducible refine gV1 h ?_ ?_); omega) | ((with_reducible refine gV2 h ?_ ?_); omega) | ((with_reducible refine gV3 h ?_ ?_); omega) | ((with_reducible refine gC0 h ?_ ?_); omega) | ((with_reducible refine gC1 h ?_ ?_); omega) | ((with_reducible refine gC2 h ?_ ?_); omega) | ((with_reducible refine gF0 h ?_ ?_); omega) | ((with_reducible refine gF1 h ?_ ?_); omega) | ((with_reducible refine gF2 h ?_ ?_); omega) | ((with_reducible refine gF3 h ?_ ?_); omega) | ((with_reducible refine gF4 h ?_ ?_); omega) | ((with_reducible refine gF5 h ?_ ?_); omega) | ((with_reducible refine gZ0 h ?_ ?_); omega) | ((with_reducible refine gZ1 h ?_ ?_); omega) | ((with_reducible refine gZ2 h ?_ ?_); omega) | ((with_reducible refine gZ3 h ?_ ?_); omega) | ((with_reducible refine gS0 h ?_ ?_); omega) | ((with_reducible refine gS1 h ?_ ?_); omega) | ((with_reducible refine gS2 h ?_ ?_); omega) | ((with_reducible refine gH0 h ?_ ?_); omega) | ((with_reducible refine gH1 h ?_ ?_); omega) | ((with_reducible refine gH2 h ?_ ?_); omega) | ((with_reducible refine oIf.y (nI_le ?_ ?_) ?_); omega; omega) | ((with_reducible refine oIf.n (nI_ge ?_ ?_) ?_); omega; omega) | unfold B_X2_many_42)
    exact hQ
  · unfold L_X2_many_4; unfold B_X2_many_4
    refine oGetA.i h.bk rfl (isA h.pl (E_size h.pl (oIf.n (nI_ge hk (by omega)) (oGetA.i h.bk rfl (isA h.pl (E_get h.pl hk (kP h hk (oRef.s (hw k hk _ (bl _ (fun c => ?_) (fun c => ?_)))))))))))
    · unfold B_X2_many_42; simp only [nI_1]; rw [cnt_y c]; exact ih
    · unfold B_X2_many_42; simp only [nI_1]; rw [cnt_n (by simp [c])]; exact ih
theorem C_active (h : BR G l M ow τ a y S N) {p : Nat} (hp : p < np N) {Q : Bool → wM → Prop} (hQ : Q (!decide (2 < pP N p 2)) M) : P_X12_isActive G (y 1 p) M Q := by
  refine gP4 h hp ?_
  by_cases c : 2 < pP N p 2
  · rw [decide_eq_true c] at hQ
    exact oIf.y c ⟨false, rfl, hQ⟩
  · rw [decide_eq_false c] at hQ
    exact oIf.n c ⟨true, rfl, hQ⟩
def qZA (S N : Rw) (z : Int32) (p : Nat) : Bool := decide (zP S N p = z) && !decide (2 < pP N p 2)
theorem C_w1 (h : BR G l M ow τ a y S N) {lam : Nat} {f : Nat → Int32} (hl : M lam = some (.inl (.object "L1", 1, .inl f))) (hz : wz G ≤ lam) {p : Nat} (hp : p < np N) (Q : Bool → wM → Prop) (hQ : Q (qHA N (f 0) p) M) : P_which G lam (y 1 p) M Q := by
  refine ⟨hz, .inl ⟨f, hl, gP0 h hp ?_⟩⟩
  unfold qHA at hQ
  refine oIf.c (fun c => iP h hp (C_active h hp (bl _ (fun c2 => ⟨true, rfl, by simpa [c, c2] using hQ⟩) (fun c2 => ⟨false, rfl, by simpa [c, c2] using hQ⟩)))) (fun c => ⟨false, rfl, by simpa [c] using hQ⟩)
theorem C_w2 (h : BR G l M ow τ a y S N) {lam : Nat} {f : Nat → Int32} (hl : M lam = some (.inl (.object "L2", 1, .inl f))) (hz : wz G ≤ lam) {p : Nat} (hp : p < np N) (Q : Bool → wM → Prop) (hQ : Q (qHA N (f 0) p) M) : P_which G lam (y 1 p) M Q := by
  refine ⟨hz, .inr (.inl ⟨f, hl, gP0 h hp ?_⟩)⟩
  unfold qHA at hQ
  refine oIf.c (fun c => iP h hp (C_active h hp (bl _ (fun c2 => ⟨true, rfl, by simpa [c, c2] using hQ⟩) (fun c2 => ⟨false, rfl, by simpa [c, c2] using hQ⟩)))) (fun c => ⟨false, rfl, by simpa [c] using hQ⟩)
theorem C_w3 (h : BR G l M ow τ a y S N) {lam : Nat} {f : Nat → Int32} (hl : M lam = some (.inl (.object "L3", 1, .inl f))) (hz : wz G ≤ lam) {p : Nat} (hp : p < np N) (Q : Bool → wM → Prop) (hQ : Q (qPA N (f 0) p) M) : P_which G lam (y 1 p) M Q := by
  refine ⟨hz, .inr (.inr (.inl ⟨f, hl, gP1 h hp ?_⟩))⟩
  unfold qPA at hQ
  refine oIf.c (fun c => iP h hp (C_active h hp (bl _ (fun c2 => ⟨true, rfl, by simpa [c, c2] using hQ⟩) (fun c2 => ⟨false, rfl, by simpa [c, c2] using hQ⟩)))) (fun c => ⟨false, rfl, by simpa [c] using hQ⟩)
theorem C_w4 (h : BR G l M ow τ a y S N) {lam : Nat} {f : Nat → Int32} (hl : M lam = some (.inl (.object "L4", 1, .inl f))) (hz : wz G ≤ lam) {p : Nat} (hp : p < np N) (Q : Bool → wM → Prop) (hQ : Q (qZA S N (f 0) p) M) : P_which G lam (y 1 p) M Q := by
  refine ⟨hz, .inr (.inr (.inr ⟨f, hl, gP2 h hp ?_⟩))⟩
  unfold qZA at hQ
  refine oIf.c (fun c => iP h hp (C_active h hp (bl _ (fun c2 => ⟨true, rfl, by simpa [c, c2] using hQ⟩) (fun c2 => ⟨false, rfl, by simpa [c, c2] using hQ⟩)))) (fun c => ⟨false, rfl, by simpa [c] using hQ⟩)
theorem C_zoneOf (h : BR G l M ow τ a y S N) (hg : OK S N) {x : Int32} (hx : ∃ k, k < nh S ∧ x = nI k) {Q : Int32 → wM → Prop} (hQ : Q (zH S x) M) : P_X3_zoneOf G (y 0 0) x M Q := by
  have hb := hg.b
  obtain ⟨k, hk, rfl⟩ := hx
  obtain ⟨s, hs, e⟩ := hg.1.2.2.2.2.1 k hk
  unfold zH zS at hQ
  rw [nI_clamp (by omega), e, nI_clamp (by omega)] at hQ
  refine oGetA.i h.su rfl (oGetA.i h.su rfl (isA h.hl (E_get h.hl hk (kH h hk (oRef.s (gH0 h hk (isA h.sl ?_)))))))
  rw [e]
  exact E_get h.sl hs (kS h hs (oRef.s (gS0 h hs hQ)))
theorem C_isZoneOf (h : BR G l M ow τ a y S N) (hg : OK S N) {s : Nat} (hs : s < ns S) {z : Int32} {Q : Bool → wM → Prop} (hQ : Q (decide (S (27 + s) = z) || (decide (S (51 + s) = z) && !decide (N (11 + s) = 1))) M) : P_X2_isZoneOf G a (nI s) z M Q := by
  have hb := hg.b
  obtain ⟨w, hw, hbit⟩ := h.2.2.2.2.2.2.1
  refine oGetA.i h.bk rfl (oGetA.i h.su rfl (isA h.sl (E_get h.sl hs (kS h hs (oRef.s (gS0 h hs ?_))))))
  refine oIf.c (fun c => ⟨true, rfl, by simpa [c] using hQ⟩) (fun c => gS2 h hs (oIf.c (fun c2 => ?_) (fun c2 => ⟨false, rfl, by simpa [c, c2] using hQ⟩)))
  refine oGetA.i h.bk rfl (hw.is (S_bsget hw (by omega) (bl _ (fun c3 => ⟨false, rfl, ?_⟩) (fun c3 => ⟨true, rfl, ?_⟩))))
  · have := (hbit s (by omega)).mp c3
    simpa [c, c2, this] using hQ
  · have : ¬ N (11 + s) = 1 := fun x => by rw [(hbit s (by omega)).mpr x] at c3; cases c3
    simpa [c, c2, this] using hQ
theorem C_hasPermit (h : BR G l M ow τ a y S N) (hg : OK S N) {x st : Int32} {s : Nat} (hs : s < ns S) {Q : Bool → wM → Prop} (hQ : Q (hasTh S N x st s) M) : P_X2_hasPermit G a x (nI s) st M Q := by
  have hb := hg.b
  rw [← hasTh_eq hg hs] at hQ
  unfold P_X2_hasPermit
  refine st_loopP (F := fun n k => L_X2_hasPermit_3 G Q n a x (nI s) st (nI k) M) (P := fun k => Q (anyB (qCP S N x st s) (np N - k) k) M) (N := np N) (fun n hq => ?_) (fun n k hk hq ih => ?_) 0 (Nat.zero_le _) hQ
  · unfold L_X2_hasPermit_3; unfold B_X2_hasPermit_3
    repeat' (first | ((with_reducible apply oGetA.i h.bk); rfl) | ((with_reducible apply oGetI.i h.bk); rfl) | ((with_reducible refine oIs.i h.bk ?_)) | ((with_reducible apply oGetA.i h.su); rfl) | ((with_reducible refine oIs.i h.su ?_)) | ((with_reducible refine oRef.s ?_)) | ((with_reducible refine isA h.pl ?_)) | ((with_reducible refine isA h.vl ?_)) | ((with_reducible refine isA h.zl ?_)) | ((with_reducible refine isA h.sl ?_)) | ((with_reducible refine isA h.hl ?_)) | ((with_reducible refine isA h.fl ?_)) | ((with_reducible refine isL h.cl ?_)) | ((with_reducible refine E_size h.pl ?_)) | ((with_reducible refine E_size h.vl ?_)) | ((with_reducible refine E_size h.zl ?_)) | ((with_reducible refine E_size h.sl ?_)) | ((with_reducible refine E_size h.hl ?_)) | ((with_reducible refine E_size h.fl ?_)) | ((with_reducible refine E_llsize h.cl ?_)) | ((with_reducible refine E_get h.pl ?_ ?_); omega) | ((with_reducible refine E_get h.vl ?_ ?_); omega) | ((with_reducible refine E_get h.zl ?_ ?_); omega) | ((with_reducible refine E_get h.sl ?_ ?_); omega) | ((with_reducible refine E_get h.hl ?_ ?_); omega) | ((with_reducible refine E_get h.fl ?_ ?_); omega) | ((with_reducible refine kP h ?_ ?_); omega) | ((with_reducible refine kV h ?_ ?_); omega) | ((with_reducible refine kC h ?_ ?_); omega) | ((with_reducible refine kF h ?_ ?_); omega) | ((with_reducible refine kZ h ?_ ?_); omega) | ((with_reducible refine kS h ?_ ?_); omega) | ((with_reducible refine kH h ?_ ?_); omega) | ((with_reducible refine iP h ?_ ?_); omega) | ((with_reducible refine iV h ?_ ?_); omega) | ((with_reducible refine iC h ?_ ?_); omega) | ((with_reducible refine iF h ?_ ?_); omega) | ((with_reducible refine iZ h ?_ ?_); omega) | ((with_reducible refine gP0 h ?_ ?_); omega) | ((with_reducible refine gP1 h ?_ ?_); omega) | ((with_reducible refine gP2 h ?_ ?_); omega) | ((with_reducible refine gP3 h ?_ ?_); omega) | ((with_reducible refine gP4 h ?_ ?_); omega) | ((with_reducible refine gP5 h ?_ ?_); omega) | ((with_reducible refine gP6 h ?_ ?_); omega) | ((with_reducible refine gP7 h ?_ ?_); omega) | ((with_reducible refine gV0 h ?_ ?_); omega) | ((with_reducible refine gV1 h ?_ ?_); omega) | ((with_reducible refine gV2 h ?_ ?_); omega) | ((with_reducible refine gV3 h ?_ ?_); omega) | ((with_reducible refine gC0 h ?_ ?_); omega) | ((with_reducible refine gC1 h ?_ ?_); omega) | ((with_reducible refine gC2 h ?_ ?_); omega) | ((with_reducible refine gF0 h ?_ ?_); omega) | ((with_reducible refine gF1 h ?_ ?_); omega) | ((with_reducible refine gF2 h ?_ ?_); omega) | ((with_reducible refine gF3 h ?_ ?_); omega) | ((with_reducible refine gF4 h ?_ ?_); omega) | ((with_reducible refine gF5 h ?_ ?_); omega) | ((with_reducible refine gZ0 h ?_ ?_); omega) | ((with_reducible refine gZ1 h ?_ ?_); omega) | ((with_reducible refine gZ2 h ?_ ?_); omega) | ((with_reducible refine gZ3 h ?_ ?_); omega) | ((with_reducible refine gS0 h ?_ ?_); omega) | ((with_reducible refine gS1 h ?_ ?_); omega) | ((with_reducible refine gS2 h ?_ ?_); omega) | ((with_reducible refine gH0 h ?_ ?_); omega) | ((with_reducible refine gH1 h ?_ ?_); omega) | ((with_reducible refine gH2 h ?_ ?_); omega) | ((with_reducible refine oIf.y (nI_le ?_ ?_) ?_); omega; omega) | ((with_reducible refine oIf.n (nI_ge ?_ ?_) ?_); omega; omega) | unfold B_X2_hasPermit_66)
    rw [Nat.sub_self] at hq
    exact hq
  · unfold L_X2_hasPermit_3; unfold B_X2_hasPermit_3
    repeat' (first | (with_reducible refine C_isZoneOf h hg hs ?_) | ((with_reducible apply oGetA.i h.bk); rfl) | ((with_reducible apply oGetI.i h.bk); rfl) | ((with_reducible refine oIs.i h.bk ?_)) | ((with_reducible apply oGetA.i h.su); rfl) | ((with_reducible refine oIs.i h.su ?_)) | ((with_reducible refine oRef.s ?_)) | ((with_reducible refine isA h.pl ?_)) | ((with_reducible refine isA h.vl ?_)) | ((with_reducible refine isA h.zl ?_)) | ((with_reducible refine isA h.sl ?_)) | ((with_reducible refine isA h.hl ?_)) | ((with_reducible refine isA h.fl ?_)) | ((with_reducible refine isL h.cl ?_)) | ((with_reducible refine E_size h.pl ?_)) | ((with_reducible refine E_size h.vl ?_)) | ((with_reducible refine E_size h.zl ?_)) | ((with_reducible refine E_size h.sl ?_)) | ((with_reducible refine E_size h.hl ?_)) | ((with_reducible refine E_size h.fl ?_)) | ((with_reducible refine E_llsize h.cl ?_)) | ((with_reducible refine E_get h.pl ?_ ?_); omega) | ((with_reducible refine E_get h.vl ?_ ?_); omega) | ((with_reducible refine E_get h.zl ?_ ?_); omega) | ((with_reducible refine E_get h.sl ?_ ?_); omega) | ((with_reducible refine E_get h.hl ?_ ?_); omega) | ((with_reducible refine E_get h.fl ?_ ?_); omega) | ((with_reducible refine kP h ?_ ?_); omega) | ((with_reducible refine kV h ?_ ?_); omega) | ((with_reducible refine kC h ?_ ?_); omega) | ((with_reducible refine kF h ?_ ?_); omega) | ((with_reducible refine kZ h ?_ ?_); omega) | ((with_reducible refine kS h ?_ ?_); omega) | ((with_reducible refine kH h ?_ ?_); omega) | ((with_reducible refine iP h ?_ ?_); omega) | ((with_reducible refine iV h ?_ ?_); omega) | ((with_reducible refine iC h ?_ ?_); omega) | ((with_reducible refine iF h ?_ ?_); omega) | ((with_reducible refine iZ h ?_ ?_); omega) | ((with_reducible refine gP0 h ?_ ?_); omega) | ((with_reducible refine gP1 h ?_ ?_); omega) | ((with_reducible refine gP2 h ?_ ?_); omega) | ((with_reducible refine gP3 h ?_ ?_); omega) | ((with_reducible refine gP4 h ?_ ?_); omega) | ((with_reducible refine gP5 h ?_ ?_); omega) | ((with_reducible refine gP6 h ?_ ?_); omega) | ((with_reducible refine gP7 h ?_ ?_); omega) | ((with_reducible refine gV0 h ?_ ?_); omega) | ((with_reducible refine gV1 h ?_ ?_); omega) | ((with_reducible refine gV2 h ?_ ?_); omega) | ((with_reducible refine gV3 h ?_ ?_); omega) | ((with_reducible refine gC0 h ?_ ?_); omega) | ((with_reducible refine gC1 h ?_ ?_); omega) | ((with_reducible refine gC2 h ?_ ?_); omega) | ((with_reducible refine gF0 h ?_ ?_); omega) | ((with_reducible refine gF1 h ?_ ?_); omega) | ((with_reducible refine gF2 h ?_ ?_); omega) | ((with_reducible refine gF3 h ?_ ?_); omega) | ((with_reducible refine gF4 h ?_ ?_); omega) | ((with_reducible refine gF5 h ?_ ?_); omega) | ((with_reducible refine gZ0 h ?_ ?_); omega) | ((with_reducible refine gZ1 h ?_ ?_); omega) | ((with_reducible refine gZ2 h ?_ ?_); omega) | ((with_reducible refine gZ3 h ?_ ?_); omega) | ((with_reducible refine gS0 h ?_ ?_); omega) | ((with_reducible refine gS1 h ?_ ?_); omega) | ((with_reducible refine gS2 h ?_ ?_); omega) | ((with_reducible refine gH0 h ?_ ?_); omega) | ((with_reducible refine gH1 h ?_ ?_); omega) | ((with_reducible refine gH2 h ?_ ?_); omega) | ((with_reducible refine oIf.y (nI_le ?_ ?_) ?_); omega; omega) | ((with_reducible refine oIf.n (nI_ge ?_ ?_) ?_); omega; omega) | with_reducible refine oIf.c (fun c => ?_) (fun c => ?_) | unfold B_X2_hasPermit_66)
    all_goals first | (rw [anyB_y hk (by unfold qCP; simp [*])] at hq; exact hq) | (rw [anyB_n hk (by unfold qCP; simp [*])] at hq; simp only [nI_1]; exact ih hq) | (rw [anyB_y hk (by unfold qCP; simp_all)] at hq; exact hq) | (rw [anyB_n hk (by unfold qCP; simp_all)] at hq; simp only [nI_1]; exact ih hq)
theorem C_isVisit (h : BR G l M ow τ a y S N) (hg : OK S N) {x : Int32} {s v : Nat} (hs : s < ns S) (hv : v < nv N) {Q : Bool → wM → Prop} (hQ : Q (qIV S N x s v) M) : P_X2_isVisit G a (y 2 v) x (nI s) M Q := by
  unfold qIV at hQ
  refine gV1 h hv (oIf.c (fun c => ?_) (fun c => ⟨false, rfl, by simpa [c] using hQ⟩))
  refine oGetA.i h.bk rfl (gV0 h hv (oIs.i h.su (C_zoneOf h hg (hg.2.2.2.2.2.2.1 v hv) (oGetA.i h.bk rfl (oGetA.i h.su rfl (isA h.sl (E_get h.sl hs (kS h hs (oRef.s (gS0 h hs ?_))))))))))
  exact oIf.c (fun c2 => ⟨true, rfl, by simpa [c, c2] using hQ⟩) (fun c2 => ⟨false, rfl, by simpa [c, c2] using hQ⟩)
theorem C_hadVisit (h : BR G l M ow τ a y S N) (hg : OK S N) {x : Int32} {s : Nat} (hs : s < ns S) {Q : Bool → wM → Prop} (hQ : Q (hadV S N x s) M) : P_X2_hadVisit G a x (nI s) M Q := by
  have hb := hg.b
  unfold P_X2_hadVisit
  refine st_loopP (F := fun n k => L_X2_hadVisit_2 G Q n a x (nI s) (nI k) M) (P := fun k => Q (anyB (qIV S N x s) (nv N - k) k) M) (N := nv N) (fun n hq => ?_) (fun n k hk hq ih => ?_) 0 (Nat.zero_le _) hQ
  · unfold L_X2_hadVisit_2; unfold B_X2_hadVisit_2
    repeat' (first | ((with_reducible apply oGetA.i h.bk); rfl) | ((with_reducible apply oGetI.i h.bk); rfl) | ((with_reducible refine oIs.i h.bk ?_)) | ((with_reducible apply oGetA.i h.su); rfl) | ((with_reducible refine oIs.i h.su ?_)) | ((with_reducible refine oRef.s ?_)) | ((with_reducible refine isA h.pl ?_)) | ((with_reducible refine isA h.vl ?_)) | ((with_reducible refine isA h.zl ?_)) | ((with_reducible refine isA h.sl ?_)) | ((with_reducible refine isA h.hl ?_)) | ((with_reducible refine isA h.fl ?_)) | ((with_reducible refine isL h.cl ?_)) | ((with_reducible refine E_size h.pl ?_)) | ((with_reducible refine E_size h.vl ?_)) | ((with_reducible refine E_size h.zl ?_)) | ((with_reducible refine E_size h.sl ?_)) | ((with_reducible refine E_size h.hl ?_)) | ((with_reducible refine E_size h.fl ?_)) | ((with_reducible refine E_llsize h.cl ?_)) | ((with_reducible refine E_get h.pl ?_ ?_); omega) | ((with_reducible refine E_get h.vl ?_ ?_); omega) | ((with_reducible refine E_get h.zl ?_ ?_); omega) | ((with_reducible refine E_get h.sl ?_ ?_); omega) | ((with_reducible refine E_get h.hl ?_ ?_); omega) | ((with_reducible refine E_get h.fl ?_ ?_); omega) | ((with_reducible refine kP h ?_ ?_); omega) | ((with_reducible refine kV h ?_ ?_); omega) | ((with_reducible refine kC h ?_ ?_); omega) | ((with_reducible refine kF h ?_ ?_); omega) | ((with_reducible refine kZ h ?_ ?_); omega) | ((with_reducible refine kS h ?_ ?_); omega) | ((with_reducible refine kH h ?_ ?_); omega) | ((with_reducible refine iP h ?_ ?_); omega) | ((with_reducible refine iV h ?_ ?_); omega) | ((with_reducible refine iC h ?_ ?_); omega) | ((with_reducible refine iF h ?_ ?_); omega) | ((with_reducible refine iZ h ?_ ?_); omega) | ((with_reducible refine gP0 h ?_ ?_); omega) | ((with_reducible refine gP1 h ?_ ?_); omega) | ((with_reducible refine gP2 h ?_ ?_); omega) | ((with_reducible refine gP3 h ?_ ?_); omega) | ((with_reducible refine gP4 h ?_ ?_); omega) | ((with_reducible refine gP5 h ?_ ?_); omega) | ((with_reducible refine gP6 h ?_ ?_); omega) | ((with_reducible refine gP7 h ?_ ?_); omega) | ((with_reducible refine gV0 h ?_ ?_); omega) | ((with_reducible refine gV1 h ?_ ?_); omega) | ((with_reducible refine gV2 h ?_ ?_); omega) | ((with_reducible refine gV3 h ?_ ?_); omega) | ((with_reducible refine gC0 h ?_ ?_); omega) | ((with_reducible refine gC1 h ?_ ?_); omega) | ((with_reducible refine gC2 h ?_ ?_); omega) | ((with_reducible refine gF0 h ?_ ?_); omega) | ((with_reducible refine gF1 h ?_ ?_); omega) | ((with_reducible refine gF2 h ?_ ?_); omega) | ((with_reducible refine gF3 h ?_ ?_); omega) | ((with_reducible refine gF4 h ?_ ?_); omega) | ((with_reducible refine gF5 h ?_ ?_); omega) | ((with_reducible refine gZ0 h ?_ ?_); omega) | ((with_reducible refine gZ1 h ?_ ?_); omega) | ((with_reducible refine gZ2 h ?_ ?_); omega) | ((with_reducible refine gZ3 h ?_ ?_); omega) | ((with_reducible refine gS0 h ?_ ?_); omega) | ((with_reducible refine gS1 h ?_ ?_); omega) | ((with_reducible refine gS2 h ?_ ?_); omega) | ((with_reducible refine gH0 h ?_ ?_); omega) | ((with_reducible refine gH1 h ?_ ?_); omega) | ((with_reducible refine gH2 h ?_ ?_); omega) | ((with_reducible refine oIf.y (nI_le ?_ ?_) ?_); omega; omega) | ((with_reducible refine oIf.n (nI_ge ?_ ?_) ?_); omega; omega))
    rw [Nat.sub_self] at hq
    exact hq
  · unfold L_X2_hadVisit_2; unfold B_X2_hadVisit_2
    repeat' (first | (with_reducible refine C_isVisit h hg hs hk ?_) | ((with_reducible apply oGetA.i h.bk); rfl) | ((with_reducible apply oGetI.i h.bk); rfl) | ((with_reducible refine oIs.i h.bk ?_)) | ((with_reducible apply oGetA.i h.su); rfl) | ((with_reducible refine oIs.i h.su ?_)) | ((with_reducible refine oRef.s ?_)) | ((with_reducible refine isA h.pl ?_)) | ((with_reducible refine isA h.vl ?_)) | ((with_reducible refine isA h.zl ?_)) | ((with_reducible refine isA h.sl ?_)) | ((with_reducible refine isA h.hl ?_)) | ((with_reducible refine isA h.fl ?_)) | ((with_reducible refine isL h.cl ?_)) | ((with_reducible refine E_size h.pl ?_)) | ((with_reducible refine E_size h.vl ?_)) | ((with_reducible refine E_size h.zl ?_)) | ((with_reducible refine E_size h.sl ?_)) | ((with_reducible refine E_size h.hl ?_)) | ((with_reducible refine E_size h.fl ?_)) | ((with_reducible refine E_llsize h.cl ?_)) | ((with_reducible refine E_get h.pl ?_ ?_); omega) | ((with_reducible refine E_get h.vl ?_ ?_); omega) | ((with_reducible refine E_get h.zl ?_ ?_); omega) | ((with_reducible refine E_get h.sl ?_ ?_); omega) | ((with_reducible refine E_get h.hl ?_ ?_); omega) | ((with_reducible refine E_get h.fl ?_ ?_); omega) | ((with_reducible refine kP h ?_ ?_); omega) | ((with_reducible refine kV h ?_ ?_); omega) | ((with_reducible refine kC h ?_ ?_); omega) | ((with_reducible refine kF h ?_ ?_); omega) | ((with_reducible refine kZ h ?_ ?_); omega) | ((with_reducible refine kS h ?_ ?_); omega) | ((with_reducible refine kH h ?_ ?_); omega) | ((with_reducible refine iP h ?_ ?_); omega) | ((with_reducible refine iV h ?_ ?_); omega) | ((with_reducible refine iC h ?_ ?_); omega) | ((with_reducible refine iF h ?_ ?_); omega) | ((with_reducible refine iZ h ?_ ?_); omega) | ((with_reducible refine gP0 h ?_ ?_); omega) | ((with_reducible refine gP1 h ?_ ?_); omega) | ((with_reducible refine gP2 h ?_ ?_); omega) | ((with_reducible refine gP3 h ?_ ?_); omega) | ((with_reducible refine gP4 h ?_ ?_); omega) | ((with_reducible refine gP5 h ?_ ?_); omega) | ((with_reducible refine gP6 h ?_ ?_); omega) | ((with_reducible refine gP7 h ?_ ?_); omega) | ((with_reducible refine gV0 h ?_ ?_); omega) | ((with_reducible refine gV1 h ?_ ?_); omega) | ((with_reducible refine gV2 h ?_ ?_); omega) | ((with_reducible refine gV3 h ?_ ?_); omega) | ((with_reducible refine gC0 h ?_ ?_); omega) | ((with_reducible refine gC1 h ?_ ?_); omega) | ((with_reducible refine gC2 h ?_ ?_); omega) | ((with_reducible refine gF0 h ?_ ?_); omega) | ((with_reducible refine gF1 h ?_ ?_); omega) | ((with_reducible refine gF2 h ?_ ?_); omega) | ((with_reducible refine gF3 h ?_ ?_); omega) | ((with_reducible refine gF4 h ?_ ?_); omega) | ((with_reducible refine gF5 h ?_ ?_); omega) | ((with_reducible refine gZ0 h ?_ ?_); omega) | ((with_reducible refine gZ1 h ?_ ?_); omega) | ((with_reducible refine gZ2 h ?_ ?_); omega) | ((with_reducible refine gZ3 h ?_ ?_); omega) | ((with_reducible refine gS0 h ?_ ?_); omega) | ((with_reducible refine gS1 h ?_ ?_); omega) | ((with_reducible refine gS2 h ?_ ?_); omega) | ((with_reducible refine gH0 h ?_ ?_); omega) | ((with_reducible refine gH1 h ?_ ?_); omega) | ((with_reducible refine gH2 h ?_ ?_); omega) | ((with_reducible refine oIf.y (nI_le ?_ ?_) ?_); omega; omega) | ((with_reducible refine oIf.n (nI_ge ?_ ?_) ?_); omega; omega) | with_reducible refine oIf.c (fun c => ?_) (fun c => ?_))
    all_goals first | (rw [anyB_y hk (by simp [*])] at hq; exact hq) | (rw [anyB_n hk (by simp [*])] at hq; simp only [nI_1]; exact ih hq)
theorem C_hasVisit (h : BR G l M ow τ a y S N) (hg : OK S N) (hv : VB N) {x : Int32} {s : Nat} (hs : s < ns S) {Q : Bool → wM → Prop} (hQ : Q (hasV S N x s true) M) : P_X2_hasVisit G a x (nI s) M Q := by
  have hb := hg.b
  rw [← hasV_eq] at hQ
  unfold P_X2_hasVisit
  refine st_loopP (F := fun n k => L_X2_hasVisit_2 G Q n a x (nI s) (nI k) M) (P := fun k => Q (anyB (qRV S N x s) (nv N - k) k) M) (N := nv N) (fun n hq => ?_) (fun n k hk hq ih => ?_) 0 (Nat.zero_le _) hQ
  · unfold L_X2_hasVisit_2; unfold B_X2_hasVisit_2
    repeat' (first | ((with_reducible apply oGetA.i h.bk); rfl) | ((with_reducible apply oGetI.i h.bk); rfl) | ((with_reducible refine oIs.i h.bk ?_)) | ((with_reducible apply oGetA.i h.su); rfl) | ((with_reducible refine oIs.i h.su ?_)) | ((with_reducible refine oRef.s ?_)) | ((with_reducible refine isA h.pl ?_)) | ((with_reducible refine isA h.vl ?_)) | ((with_reducible refine isA h.zl ?_)) | ((with_reducible refine isA h.sl ?_)) | ((with_reducible refine isA h.hl ?_)) | ((with_reducible refine isA h.fl ?_)) | ((with_reducible refine isL h.cl ?_)) | ((with_reducible refine E_size h.pl ?_)) | ((with_reducible refine E_size h.vl ?_)) | ((with_reducible refine E_size h.zl ?_)) | ((with_reducible refine E_size h.sl ?_)) | ((with_reducible refine E_size h.hl ?_)) | ((with_reducible refine E_size h.fl ?_)) | ((with_reducible refine E_llsize h.cl ?_)) | ((with_reducible refine E_get h.pl ?_ ?_); omega) | ((with_reducible refine E_get h.vl ?_ ?_); omega) | ((with_reducible refine E_get h.zl ?_ ?_); omega) | ((with_reducible refine E_get h.sl ?_ ?_); omega) | ((with_reducible refine E_get h.hl ?_ ?_); omega) | ((with_reducible refine E_get h.fl ?_ ?_); omega) | ((with_reducible refine kP h ?_ ?_); omega) | ((with_reducible refine kV h ?_ ?_); omega) | ((with_reducible refine kC h ?_ ?_); omega) | ((with_reducible refine kF h ?_ ?_); omega) | ((with_reducible refine kZ h ?_ ?_); omega) | ((with_reducible refine kS h ?_ ?_); omega) | ((with_reducible refine kH h ?_ ?_); omega) | ((with_reducible refine iP h ?_ ?_); omega) | ((with_reducible refine iV h ?_ ?_); omega) | ((with_reducible refine iC h ?_ ?_); omega) | ((with_reducible refine iF h ?_ ?_); omega) | ((with_reducible refine iZ h ?_ ?_); omega) | ((with_reducible refine gP0 h ?_ ?_); omega) | ((with_reducible refine gP1 h ?_ ?_); omega) | ((with_reducible refine gP2 h ?_ ?_); omega) | ((with_reducible refine gP3 h ?_ ?_); omega) | ((with_reducible refine gP4 h ?_ ?_); omega) | ((with_reducible refine gP5 h ?_ ?_); omega) | ((with_reducible refine gP6 h ?_ ?_); omega) | ((with_reducible refine gP7 h ?_ ?_); omega) | ((with_reducible refine gV0 h ?_ ?_); omega) | ((with_reducible refine gV1 h ?_ ?_); omega) | ((with_reducible refine gV2 h ?_ ?_); omega) | ((with_reducible refine gV3 h ?_ ?_); omega) | ((with_reducible refine gC0 h ?_ ?_); omega) | ((with_reducible refine gC1 h ?_ ?_); omega) | ((with_reducible refine gC2 h ?_ ?_); omega) | ((with_reducible refine gF0 h ?_ ?_); omega) | ((with_reducible refine gF1 h ?_ ?_); omega) | ((with_reducible refine gF2 h ?_ ?_); omega) | ((with_reducible refine gF3 h ?_ ?_); omega) | ((with_reducible refine gF4 h ?_ ?_); omega) | ((with_reducible refine gF5 h ?_ ?_); omega) | ((with_reducible refine gZ0 h ?_ ?_); omega) | ((with_reducible refine gZ1 h ?_ ?_); omega) | ((with_reducible refine gZ2 h ?_ ?_); omega) | ((with_reducible refine gZ3 h ?_ ?_); omega) | ((with_reducible refine gS0 h ?_ ?_); omega) | ((with_reducible refine gS1 h ?_ ?_); omega) | ((with_reducible refine gS2 h ?_ ?_); omega) | ((with_reducible refine gH0 h ?_ ?_); omega) | ((with_reducible refine gH1 h ?_ ?_); omega) | ((with_reducible refine gH2 h ?_ ?_); omega) | ((with_reducible refine oIf.y (nI_le ?_ ?_) ?_); omega; omega) | ((with_reducible refine oIf.n (nI_ge ?_ ?_) ?_); omega; omega) | unfold B_X2_hasVisit_62)
    rw [Nat.sub_self] at hq
    exact hq
  · unfold L_X2_hasVisit_2; unfold B_X2_hasVisit_2
    repeat' (first | (with_reducible refine C_isVisit h hg hs hk ?_) | (with_reducible refine C_runs h hv hk ?_) | ((with_reducible apply oGetA.i h.bk); rfl) | ((with_reducible apply oGetI.i h.bk); rfl) | ((with_reducible refine oIs.i h.bk ?_)) | ((with_reducible apply oGetA.i h.su); rfl) | ((with_reducible refine oIs.i h.su ?_)) | ((with_reducible refine oRef.s ?_)) | ((with_reducible refine isA h.pl ?_)) | ((with_reducible refine isA h.vl ?_)) | ((with_reducible refine isA h.zl ?_)) | ((with_reducible refine isA h.sl ?_)) | ((with_reducible refine isA h.hl ?_)) | ((with_reducible refine isA h.fl ?_)) | ((with_reducible refine isL h.cl ?_)) | ((with_reducible refine E_size h.pl ?_)) | ((with_reducible refine E_size h.vl ?_)) | ((with_reducible refine E_size h.zl ?_)) | ((with_reducible refine E_size h.sl ?_)) | ((with_reducible refine E_size h.hl ?_)) | ((with_reducible refine E_size h.fl ?_)) | ((with_reducible refine E_llsize h.cl ?_)) | ((with_reducible refine E_get h.pl ?_ ?_); omega) | ((with_reducible refine E_get h.vl ?_ ?_); omega) | ((with_reducible refine E_get h.zl ?_ ?_); omega) | ((with_reducible refine E_get h.sl ?_ ?_); omega) | ((with_reducible refine E_get h.hl ?_ ?_); omega) | ((with_reducible refine E_get h.fl ?_ ?_); omega) | ((with_reducible refine kP h ?_ ?_); omega) | ((with_reducible refine kV h ?_ ?_); omega) | ((with_reducible refine kC h ?_ ?_); omega) | ((with_reducible refine kF h ?_ ?_); omega) | ((with_reducible refine kZ h ?_ ?_); omega) | ((with_reducible refine kS h ?_ ?_); omega) | ((with_reducible refine kH h ?_ ?_); omega) | ((with_reducible refine iP h ?_ ?_); omega) | ((with_reducible refine iV h ?_ ?_); omega) | ((with_reducible refine iC h ?_ ?_); omega) | ((with_reducible refine iF h ?_ ?_); omega) | ((with_reducible refine iZ h ?_ ?_); omega) | ((with_reducible refine gP0 h ?_ ?_); omega) | ((with_reducible refine gP1 h ?_ ?_); omega) | ((with_reducible refine gP2 h ?_ ?_); omega) | ((with_reducible refine gP3 h ?_ ?_); omega) | ((with_reducible refine gP4 h ?_ ?_); omega) | ((with_reducible refine gP5 h ?_ ?_); omega) | ((with_reducible refine gP6 h ?_ ?_); omega) | ((with_reducible refine gP7 h ?_ ?_); omega) | ((with_reducible refine gV0 h ?_ ?_); omega) | ((with_reducible refine gV1 h ?_ ?_); omega) | ((with_reducible refine gV2 h ?_ ?_); omega) | ((with_reducible refine gV3 h ?_ ?_); omega) | ((with_reducible refine gC0 h ?_ ?_); omega) | ((with_reducible refine gC1 h ?_ ?_); omega) | ((with_reducible refine gC2 h ?_ ?_); omega) | ((with_reducible refine gF0 h ?_ ?_); omega) | ((with_reducible refine gF1 h ?_ ?_); omega) | ((with_reducible refine gF2 h ?_ ?_); omega) | ((with_reducible refine gF3 h ?_ ?_); omega) | ((with_reducible refine gF4 h ?_ ?_); omega) | ((with_reducible refine gF5 h ?_ ?_); omega) | ((with_reducible refine gZ0 h ?_ ?_); omega) | ((with_reducible refine gZ1 h ?_ ?_); omega) | ((with_reducible refine gZ2 h ?_ ?_); omega) | ((with_reducible refine gZ3 h ?_ ?_); omega) | ((with_reducible refine gS0 h ?_ ?_); omega) | ((with_reducible refine gS1 h ?_ ?_); omega) | ((with_reducible refine gS2 h ?_ ?_); omega) | ((with_reducible refine gH0 h ?_ ?_); omega) | ((with_reducible refine gH1 h ?_ ?_); omega) | ((with_reducible refine gH2 h ?_ ?_); omega) | ((with_reducible refine oIf.y (nI_le ?_ ?_) ?_); omega; omega) | ((with_reducible refine oIf.n (nI_ge ?_ ?_) ?_); omega; omega) | with_reducible refine oIf.c (fun c => ?_) (fun c => ?_) | unfold B_X2_hasVisit_62)
    all_goals first | (rw [anyB_y hk (by simp [qRV, *])] at hq; exact hq) | (rw [anyB_n hk (by simp [qRV, *])] at hq; simp only [nI_1]; exact ih hq)
theorem C_isAllowed (h : BR G l M ow τ a y S N) (hg : OK S N) (hv : VB N) {x : Int32} {s : Nat} (hs : s < ns S) {Q : Bool → wM → Prop} (hQ : Q (isAll S N x s) M) : P_X2_isAllowed G a x (nI s) M Q := by
  have hb := hg.b
  obtain ⟨z, hz, e⟩ := hg.1.2.2.2.1 s hs
  refine oGetA.i h.bk rfl (oGetA.i h.su rfl (oGetA.i h.bk rfl (oGetA.i h.su rfl (isA h.sl (E_get h.sl hs (kS h hs (oRef.s (gS0 h hs (isA h.zl ?_)))))))))
  rw [e]
  refine E_get h.zl hz (kZ h hz (oGetI.i h.bk rfl (oRef.s (iZ h hz ?_))))
  have fin : ∀ b, inHrs S N s = b → oIf (b = true) (oIs M a 1 (P_X2_hasPermit G a x (nI s) 2 M (fun r20 M18 => oIf (r20 = true) (B_X2_isAllowed_65 G Q M18) (oIs M18 a 1 (P_X2_hasVisit G a x (nI s) M18 (fun r23 M21 => oIf (r23 = true) (B_X2_isAllowed_65 G Q M21) (B_X2_isAllowed_70 G Q 0 M21))))))) (B_X2_isAllowed_65 G Q M) := by
    intro b hb
    unfold isAll at hQ
    rw [hb] at hQ
    refine bl _ (fun c => oIs.i h.bk (C_hasPermit h hg hs (bl _ (fun c2 => ⟨true, rfl, ?_⟩) (fun c2 => oIs.i h.bk (C_hasVisit h hg hv hs (bl _ (fun c3 => ⟨true, rfl, ?_⟩) (fun c3 => ⟨false, rfl, ?_⟩))))))) (fun c => ⟨true, rfl, ?_⟩)
    · simpa [c, c2] using hQ
    · simpa [c, c2, c3] using hQ
    · simpa [c, c2, c3] using hQ
    · simpa [c] using hQ
  unfold inHrs at fin
  rw [e, nI_clamp (by omega)] at fin
  refine iZ h hz (iZ h hz (gZ1 h hz ?_))
  unfold P_X10_hours
  by_cases c : dayT N < 60 * S (9 + z)
  · refine oIf.y (by rw [Int32.mul_comm (S (9 + z))]; exact c) ⟨false, rfl, ?_⟩
    exact fin false (by simp [c])
  · refine oIf.n (by rw [Int32.mul_comm (S (9 + z))]; exact c) (iZ h hz (gZ2 h hz ?_))
    unfold P_X10_hours
    by_cases c2 : 60 * S (15 + z) ≤ dayT N
    · refine oIf.y (by rw [Int32.mul_comm (S (15 + z))]; exact c2) ⟨false, rfl, ?_⟩
      exact fin false (by simp [c, c2])
    · refine oIf.n (by rw [Int32.mul_comm (S (15 + z))]; exact c2) ⟨true, rfl, ?_⟩
      exact fin true (by simp [c, c2])
theorem C_breaks (h : BR G l M ow τ a y S N) (hg : OK S N) {x : Int32} {s k : Nat} (hk : k < 7) (hs : s < ns S) {Q : Bool → wM → Prop} (hQ : Q (brk S N x s k) M) : P_X2_breaks G a (nI k) x (nI s) M Q := by
  unfold brk at hQ
  have hk7 : k = 0 ∨ k = 1 ∨ k = 2 ∨ k = 3 ∨ k = 4 ∨ k = 5 ∨ k = 6 := by omega
  rcases hk7 with rfl | rfl | rfl | rfl | rfl | rfl | rfl
  · exact oIf.n (by decide) (oIf.n (by decide) (oIf.n (by decide) (oIf.n (by decide) (oIf.n (by decide) ⟨true, rfl, by simpa using hQ⟩))))
  · exact oIf.y (by decide) (oIs.i h.bk (C_hasPermit h hg hs ⟨_, rfl, by simpa using hQ⟩))
  · exact oIf.n (by decide) (oIf.y (by decide) (oIs.i h.bk (C_hadVisit h hg hs ⟨_, rfl, by simpa using hQ⟩)))
  · exact oIf.n (by decide) (oIf.n (by decide) (oIf.y (by decide) (oIs.i h.bk (C_hasPermit h hg hs (bl _ (fun c => ⟨true, rfl, by simpa [c] using hQ⟩) (fun c => oIs.i h.bk (C_hasPermit h hg hs (bl _ (fun c2 => ⟨true, rfl, by simpa [c, c2] using hQ⟩) (fun c2 => ⟨false, rfl, by simpa [c, c2] using hQ⟩)))))))))
  · exact oIf.n (by decide) (oIf.n (by decide) (oIf.n (by decide) (oIf.y (by decide) (oIs.i h.bk (C_hasAny h hg ⟨_, rfl, by simpa using hQ⟩)))))
  · exact oIf.n (by decide) (oIf.n (by decide) (oIf.n (by decide) (oIf.n (by decide) (oIf.y (by decide) (oIs.i h.bk (C_hasAny h hg (bl _ (fun c => ⟨true, rfl, by simpa [c] using hQ⟩) (fun c => oIs.i h.bk (C_hasAny h hg (bl _ (fun c2 => ⟨true, rfl, by simpa [c, c2] using hQ⟩) (fun c2 => ⟨false, rfl, by simpa [c, c2] using hQ⟩)))))))))))
  · exact oIf.n (by decide) (oIf.n (by decide) (oIf.n (by decide) (oIf.n (by decide) (oIf.n (by decide) ⟨true, rfl, by simpa using hQ⟩))))
theorem C_rule (h : BR G l M ow τ a y S N) (hg : OK S N) (hv : VB N) {x : Int32} {s : Nat} (hs : s < ns S) {Q : Int32 → wM → Prop} (hQ : Q (ruleF S N x s) M) : P_X2_rule G a x (nI s) M Q := by
  unfold ruleF at hQ
  refine oIs.i h.bk (C_isAllowed h hg hv hs (bl _ (fun c => by simpa [c] using hQ) (fun c0 => ⟨6, ?_⟩)))
  rw [← hadV_eq c0] at hQ
  have stp : ∀ (n k : Nat), k < 7 → (brk S N x s k = true → Q (nI k) M) → (brk S N x s k = false → L_X2_rule_13 G Q n a x (nI s) (nI (k + 1)) M) → L_X2_rule_13 G Q (n + 1) a x (nI s) (nI k) M := by
    intro n k hk h1 h2
    unfold L_X2_rule_13; unfold B_X2_rule_13
    refine oIs.i h.bk (C_breaks h hg hk hs (bl _ h1 (fun c => ?_)))
    rw [nI_1]; exact h2 c
  refine stp 5 1 (by decide) (fun c => ?_) (fun c1 => ?_)
  · have c : hasTh S N x 3 s = true := c
    rw [c0, c] at hQ
    exact hQ
  have c1 : hasTh S N x 3 s = false := c1
  refine stp 4 2 (by decide) (fun c => ?_) (fun c2 => ?_)
  · have c : hadV S N x s = true := c
    rw [c0, c1, c] at hQ
    exact hQ
  have c2 : hadV S N x s = false := c2
  refine stp 3 3 (by decide) (fun c => ?_) (fun c3 => ?_)
  · have c : (hasTh S N x 0 s || hasTh S N x 1 s) = true := c
    rw [c0, c1, c2, c] at hQ
    exact hQ
  have c3 : (hasTh S N x 0 s || hasTh S N x 1 s) = false := c3
  refine stp 2 4 (by decide) (fun c => ?_) (fun c4 => ?_)
  · have c : hasP S N x 2 (-1) = true := c
    rw [c0, c1, c2, c3, c] at hQ
    exact hQ
  have c4 : hasP S N x 2 (-1) = false := c4
  refine stp 1 5 (by decide) (fun c => ?_) (fun c5 => ?_)
  · have c : (hasP S N x 4 (-1) || hasP S N x 5 (-1)) = true := c
    rw [c0, c1, c2, c3, c4, c] at hQ
    exact hQ
  have c5 : (hasP S N x 4 (-1) || hasP S N x 5 (-1)) = false := c5
  refine stp 0 6 (by decide) (fun c => ?_) (fun c => by cases c)
  rw [c0, c1, c2, c3, c4, c5] at hQ
  exact hQ
theorem C_wasFined (h : BR G l M ow τ a y S N) (hg : OK S N) (hf : FT N) {x : Int32} {Q : Bool → wM → Prop} (hQ : Q (justF N x) M) : P_X2_wasFined G a x M Q := by
  have hb := hg.b
  rw [← lastF_eq (by omega) hf] at hQ
  refine oGetA.i h.bk rfl (isA h.fl (E_size h.fl ⟨nf N + 1, ?_⟩))
  have key : ∀ k, k ≤ nf N → Q (lastF N x k) M → L_X2_wasFined_12 G Q (k + 1) a x (nI k - 1) M := by
    intro k
    induction k with
    | zero => intro _ hq; unfold L_X2_wasFined_12; unfold B_X2_wasFined_12; exact oIf.y (by decide) hq
    | succ k ih =>
      intro hk hq
      unfold L_X2_wasFined_12; unfold B_X2_wasFined_12
      rw [nI_pred]
      unfold lastF at hq
      refine oIf.n (nI_pos (by omega)) (oGetA.i h.bk rfl (isA h.fl (E_get h.fl hk (kF h hk (oRef.s (gF0 h hk (oIf.c (fun c => ?_) (fun c => ?_))))))))
      · rw [if_pos c] at hq
        refine oGetI.i h.bk rfl (oGetA.i h.bk rfl (isA h.fl (E_get h.fl hk (kF h hk (oRef.s (gF2 h hk (oIf.c (fun c2 => ⟨false, rfl, ?_⟩) (fun c2 => ⟨true, rfl, ?_⟩))))))))
        · simpa [c2] using hq
        · rw [decide_eq_false c2] at hq; exact hq
      · rw [if_neg c] at hq
        rw [← Int32.sub_eq_add_neg]
        exact ih (by omega) hq
  exact key (nf N) (Nat.le_refl _) hQ
theorem C_fineRule (h : BR G l M ow τ a y S N) (hg : OK S N) (hv : VB N) (hf : FT N) {c : Nat} (hc : c < nc N) {Q : Int32 → wM → Prop} (hQ : Q (finedC S N c) M) : P_X2_fineRule G a (y 4 c) M Q := by
  have hb := hg.b
  obtain ⟨s, hs, e⟩ := hg.2.2.2.2.2.2.2.1 c hc
  obtain ⟨z, hz, e2⟩ := hg.1.2.2.2.1 s hs
  unfold finedC zS at hQ
  rw [e, nI_clamp (by omega), e2, nI_clamp (by omega)] at hQ
  refine oGetA.i h.bk rfl (oGetA.i h.su rfl (oGetA.i h.bk rfl (oGetA.i h.su rfl (gC1 h hc (isA h.sl ?_)))))
  rw [e]
  refine E_get h.sl hs (kS h hs (oRef.s (gS0 h hs (isA h.zl ?_))))
  rw [e2]
  refine E_get h.zl hz (kZ h hz (oRef.s (gZ3 h hz (oGetI.i h.bk rfl (gC2 h hc (oIf.c (fun c1 => ?_) (fun c1 => ?_)))))))
  · rw [if_pos c1] at hQ; exact hQ
  · rw [if_neg c1] at hQ
    refine gC0 h hc (oIs.i h.bk (C_wasFined h hg hf (bl _ (fun c2 => ?_) (fun c2 => ?_))))
    · rw [c2] at hQ; exact hQ
    · rw [c2] at hQ
      refine gC0 h hc (gC1 h hc (oIs.i h.bk ?_))
      rw [e]
      exact C_rule h hg hv hs hQ
end COMP2
