set_option maxRecDepth 100000
/-! STAGE 2, component, reading 3: what is required; words, numbers -/
abbrev ePE : String := "ParkingOffice$ParseException"
def EXC (M : wM) (q : Nat) (p : PS) : Prop := ∃ fs, M q = some (.inr (5, fs)) ∧ fs[6]? = some (.int (pC p)) ∧ fs[7]? = some (.int (pO p))
/-- what a step costs -/
def cs (p p1 : PS) (e : Nat) : Nat := 29 * (p1.1 - p.1) + e + (if pC p1 = 0 then 0 else 9)
theorem cs_2 {p p1 pe : PS} {e e1 b : Nat} (h1 : p.1 ≤ p1.1) (h2 : p1.1 ≤ pe.1) (hs : pC p1 ≠ 0 → pe = p1) (he : e1 ≤ e) (hb : cs p pe e ≤ b) : cs p p1 e1 ≤ b ∧ (pC p1 = 0 → cs p1 pe (e - e1) ≤ b - cs p p1 e1) := by
  unfold cs at *
  by_cases c : pC p1 = 0
  · rw [if_pos c]
    generalize (if pC pe = 0 then 0 else 9) = z at *
    exact ⟨by omega, fun _ => by omega⟩
  · rw [hs c] at hb
    rw [if_neg c] at *
    exact ⟨by omega, fun z => absurd z c⟩
theorem cs_ge {p p1 : PS} {e b : Nat} (hb : cs p p1 e ≤ b) : 29 * (p1.1 - p.1) ≤ b := by unfold cs at hb; generalize (if pC p1 = 0 then 0 else 9) = z at *; omega
theorem cs_9 {p p1 : PS} {e b : Nat} (hc : pC p1 ≠ 0) (hb : cs p p1 e ≤ b) : 9 ≤ b := by unfold cs at hb; rw [if_neg hc] at hb; omega
theorem cs_0 {p : PS} {e b : Nat} (hc : pC p = 0) (hb : e ≤ b) : cs p p e ≤ b := by unfold cs; rw [if_pos hc]; omega
theorem cs_e {p p1 : PS} {e e1 b : Nat} (hb : cs p p1 e ≤ b) (he : e1 ≤ e) : cs p p1 e1 ≤ b - (e - e1) := by unfold cs at *; generalize (if pC p1 = 0 then 0 else 9) = z at *; omega
theorem need_t {p : PS} (x : Int32) : needsP true x p = p := by unfold needsP; exact if_neg fun h => by cases h.2
theorem need_f {p : PS} (hc : pC p = 0) (x : Int32) : needsP false x p = (p.1, p.2.1, p.2.2.1, p.2.2.2.1, p.2.2.2.2.1, x, nI p.2.1) := if_pos ⟨hc, rfl⟩
theorem need_fc {p : PS} (hc : pC p = 0) {x : Int32} (hx : x ≠ 0) : pC (needsP false x p) ≠ 0 := by rw [need_f hc]; exact hx
theorem wk_eq {B : Rw} {n : Nat} {p : PS} {r : Nat → Int32} (ht : TK B n p) (c : pT p = 1) (hr : ∀ j, j < p.1 - p.2.1 → r j = B (p.2.1 + j)) {k : Nat} (hk : k < 16) : eqS (p.1 - p.2.1) r (wln k) (kwR k) = decide (pW p = nI k) := by
  obtain ⟨h1, h2, h3⟩ := ht.2 c
  rw [Bool.eq_iff_iff, decide_eq_true_eq, h3, wordF_i hk (by omega), eqW_S (by omega), eqS_iff, eqS_iff]
  constructor
  · rintro ⟨q1, q2⟩; exact ⟨q1, fun j hj => by rw [← hr j hj]; exact q2 j hj⟩
  · rintro ⟨q1, q2⟩; exact ⟨q1, fun j hj => by rw [hr j hj]; exact q2 j hj⟩
section C34
variable {G : wG} {M : wM} {ow : Nat → Nat} {a n t : Nat} {u : Nat × (Nat → Nat)} {B : Rw} {p : PS} {D : Rw} {l : Nat → Nat → Int64} {cc : Nat → Nat}
theorem PST.is (h : PST G M ow a n B t u p D l cc) {P : Prop} (hp : P) : oIs M t 4 P := by
  obtain ⟨kl, su, on, w, y, ⟨-, ⟨v, hC, -⟩, -⟩, -⟩ := h; exact oIs.i hC.1 hp
theorem PST.kd (h : PST G M ow a n B t u p D l cc) {κ : Int32 → Prop} (hp : κ (pT p)) : oGetI M t 4 5 κ := by
  obtain ⟨kl, su, on, w, y, ⟨-, ⟨v, hC, -⟩, -⟩, -⟩ := h; exact oGetI.i hC.1 rfl hp
theorem PST.va (h : PST G M ow a n B t u p D l cc) (c : pT p = 2) {κ : Int32 → Prop} (hp : κ (pV p)) : oGetI M t 4 6 κ := by
  obtain ⟨kl, su, on, w, y, ⟨-, ⟨v, hC, hv⟩, -⟩, -⟩ := h; exact oGetI.i hC.1 rfl (by rw [hv c]; exact hp)
theorem PST.o (h : PST G M ow a n B t u p D l cc) : PSo n p ∧ n ≤ 900 := by
  obtain ⟨kl, su, on, w, y, ⟨h1, -, h2, -⟩, -⟩ := h; exact ⟨h1.1, h2.n9⟩
theorem S_x6 {q : Nat} (hz : wz G ≤ q) {x z : Int32} {Q : wM → Prop} (hQ : ∀ fs, fs[6]? = some (.int x) → fs[7]? = some (.int z) → Q (wIns M q (.inr (5, fs)))) : P_X6_init G q x z (wIns M q (.inr (5, [.null, .null, .null, .null, .null, .int 0, .int 0, .int 0]))) Q := by
  unfold P_X6_init P_J14_init_2_X6 P_J13_init_3_X6
  refine oPut.f (Nat.le_of_ble_eq_true rfl) hz ?_
  intro r2
  refine oPut.f (Nat.le_of_ble_eq_true rfl) hz ?_
  intro r4
  refine oPut.f (Nat.le_of_ble_eq_true rfl) hz (oIf.y rfl ?_)
  refine oPut.f (Nat.le_of_ble_eq_true rfl) hz ?_
  unfold B_J13_init_3_X6_41
  refine oPut.f (Nat.le_of_ble_eq_true rfl) hz ?_
  refine oPut.f (Nat.le_of_ble_eq_true rfl) hz (oIf.y rfl ?_)
  refine oPut.f (Nat.le_of_ble_eq_true rfl) hz ?_
  unfold B_J13_init_3_X6_60
  refine oPut.f (Nat.le_of_ble_eq_true rfl) hz ?_
  refine oPut.f (Nat.le_of_ble_eq_true rfl) hz ?_
  exact hQ _ rfl rfl
theorem R_exc (h : PST G M ow a n B t u p D l cc) {p1 : PS} (h1 : pO p1 = nI p.2.1) {b : Nat} (hb : 9 ≤ b) {Xp : String → Nat → wM → Prop} (hX : ∀ q M1 ow1, Mv tQ M ow M1 ow1 → EXC M1 q p1 → Xp ePE q M1) : oNew G M b 5 [.null, .null, .null, .null, .null, .int 0, .int 0, .int 0] (fun a1 M2 b3 => oGetI M2 t 4 4 (fun v4 => P_X6_init G a1 (pC p1) v4 M2 (fun M5 => (∃ fs, M5 a1 = some (.inr (5, fs))) ∧ wz G ≤ a1 ∧ Xp "ParkingOffice$ParseException" a1 M5))) := by
  obtain ⟨kl, su, on, w, y, ⟨-, ⟨v, hC, -⟩, -⟩, -⟩ := h
  refine ⟨by simp; omega, fun q hq hz => ?_⟩
  have hs : ∀ fs, Mv tQ M ow (wIns M q (.inr (5, fs))) (va_up ow q 1) := fun fs => Mv.nw (by decide) hq _ _
  refine oGetI.i (hC.stp (Mv.nw (T := []) (by decide) hq _ 1) (by simp)).1 rfl (S_x6 hz fun fs f1 f2 => ⟨⟨fs, wIns_eq _ _ _⟩, hz, hX q _ _ (hs fs) ⟨fs, wIns_eq _ _ _, f1, ?_⟩⟩)
  rw [h1]; exact f2
theorem R_req (h : PST G M ow a n B t u p D l cc) (hc : pC p = 0) {bb : Bool} {y0 x : Int32} (ey : y0 = wb bb) {b : Nat} (hb : bb = false → 9 ≤ b) {Q : wM → Prop} {Xp : String → Nat → wM → Prop} (hQ : bb = true → Q M) (hX : bb = false → ∀ q M1 ow1, Mv tQ M ow M1 ow1 → EXC M1 q (needsP bb x p) → Xp ePE q M1) : P_X5_require G t y0 x b M Q Xp := by
  subst ey
  cases bb with
  | true => exact oIf.n (by decide) (hQ rfl)
  | false =>
    refine oIf.y rfl ?_
    have e := need_f hc x
    have := R_exc h (p1 := needsP false x p) (by rw [e]; rfl) (hb rfl) (hX rfl)
    rw [show pC (needsP false x p) = x by rw [e]; rfl] at this
    exact this
theorem R_go (h : PST G M ow a n B t u p D l cc) (hB : BYT B) (hc : pC p = 0) {b e : Nat} (hb : cs p (goP B n p) e ≤ b) {Q : wM → Prop} (hQ : ∀ M1 ow1, Mv tQ M ow M1 ow1 → PSTf G M1 ow1 a n B t u (goP B n p) D l cc → Q M1) : P_X5_advance G t b M Q := by
  have hg : goP B n p = nextP B n p := if_pos hc
  have hb := cs_ge hb
  rw [hg] at hb hQ
  exact C_adv h hB hb hQ
theorem R_accept (h : PST G M ow a n B t u p D l cc) (hB : BYT B) (hc : pC p = 0) {k : Nat} (hk : k < 16) {x : Int32} (ex : x = nI k) {b e : Nat} (hb : isWP p x = true → cs p (goP B n p) e ≤ b) {Q : Bool → wM → Prop} (h1 : isWP p x = true → ∀ M1 ow1, Mv tQ M ow M1 ow1 → PSTf G M1 ow1 a n B t u (goP B n p) D l cc → Q true M1) (h0 : isWP p x = false → Q false M) : P_X5_accept G t (G.2.2.2 (10 + k)) b M Q := by
  subst ex
  have no : isWP p (nI k) = false → B_X5_accept_23 G Q t M b := fun e => by
    unfold B_X5_accept_23 B_X5_accept_24 B_X5_accept_33
    exact oIf.y rfl ⟨false, rfl, h0 e⟩
  have h' := h
  obtain ⟨kl, su, on, w, y, ⟨ht, ⟨v, hC, -⟩, hE, -⟩, hW⟩ := h
  have hn := hE.n9
  have ho := ht.1
  refine oGetI.i hC.1 rfl (oIf.c (fun c1 => ?_) (fun c1 => no (by unfold isWP; rw [decide_eq_false (show ¬ pT p = 1 from c1)]; simp)))
  obtain ⟨r, hr1, hr2⟩ := hW.1 c1
  have hw := wd_ok k hk
  refine oGetA.i hC.1 rfl (hr1.is (S_strEq hr1 (hE.2.1 k hk) (by have := ho.1; omega) (by omega) ?_))
  rw [wk_eq ht c1 hr2 hk]
  have ei : isWP p (nI k) = decide (pW p = nI k) := by
    unfold isWP; rw [decide_eq_true hc, decide_eq_true c1]; simp
  rw [← ei]
  refine bl _ (fun c2 => ?_) (fun c2 => no c2)
  unfold B_X5_accept_24
  refine oIf.n (by decide) (h'.is ⟨b, Nat.le_refl _, R_go h' hB hc (hb c2) fun M1 ow1 hs1 g1 => ?_⟩)
  unfold B_X5_accept_33
  exact ⟨true, rfl, h1 c2 M1 ow1 hs1 g1⟩
theorem R_expect (h : PST G M ow a n B t u p D l cc) (hB : BYT B) (hc : pC p = 0) {k : Nat} (hk : k < 16) {x : Int32} (ex : x = nI k) {b e : Nat} (hb : cs p (passP B n x p) e ≤ b) {Q : wM → Prop} {Xp : String → Nat → wM → Prop} (hQ : pC (passP B n x p) = 0 → ∀ M1 ow1, Mv tQ M ow M1 ow1 → PSTf G M1 ow1 a n B t u (passP B n x p) D l cc → Q M1) (hX : pC (passP B n x p) ≠ 0 → ∀ q M1 ow1, Mv tQ M ow M1 ow1 → EXC M1 q (passP B n x p) → Xp ePE q M1) : P_X5_expect G t (G.2.2.2 (10 + k)) b M Q Xp := by
  unfold passP at hb hQ hX
  cases ew : isWP p x with
  | true =>
    rw [ew, need_t] at hb hQ
    refine h.is ⟨b, Nat.le_refl _, R_accept h hB hc hk ex (fun _ => hb) (fun _ M1 ow1 hs1 g1 => g1.s.is ⟨_, Nat.le_refl _, oIf.n (by decide) (hQ (by rw [goP_c]; exact hc) M1 ow1 hs1 g1)⟩) (fun e => by rw [ew] at e; cases e)⟩
  | false =>
    have hne := need_fc hc (x := 1) (by decide)
    rw [ew, go_s hne] at hb hX
    refine h.is ⟨0, Nat.zero_le _, R_accept (e := 0) h hB hc hk ex (fun e => by rw [ew] at e; cases e) (fun e => by rw [ew] at e; cases e) (fun _ => h.is ⟨b, by omega, R_req h hc (bb := false) rfl (fun _ => cs_9 hne hb) (fun e => by cases e) (fun _ q M1 ow1 hs1 hx => ⟨rfl, hX hne q M1 ow1 hs1 hx⟩)⟩)⟩
theorem R_number (h : PST G M ow a n B t u p D l cc) (hB : BYT B) (hc : pC p = 0) {lo hi : Int32} {b e : Nat} (hb : cs p (numP B n lo hi p) e ≤ b) {Q : Int32 → wM → Prop} {Xp : String → Nat → wM → Prop} (hQ : pC (numP B n lo hi p) = 0 → ∀ M1 ow1, Mv tQ M ow M1 ow1 → PSTf G M1 ow1 a n B t u (numP B n lo hi p) D l cc → Q (pV p) M1) (hX : pC (numP B n lo hi p) ≠ 0 → ∀ q M1 ow1, Mv tQ M ow M1 ow1 → EXC M1 q (numP B n lo hi p) → Xp ePE q M1) : P_X5_number G t lo hi b M Q Xp := by
  unfold numP lookP at hb hQ hX
  refine h.kd (oIf.c (fun c => ?_) (fun c => ?_))
  · rw [decide_eq_true c, need_t, if_pos hc] at hb hQ hX
    unfold B_X5_number_14
    refine h.is ⟨0, Nat.zero_le _, R_req h hc (bb := true) rfl (fun e => by cases e) (fun _ => h.va c (S_inR (h.is ?_))) (fun e => by cases e)⟩
    cases er : inR (pV p) lo hi with
    | true =>
      rw [er, need_t] at hb hQ
      refine ⟨0, Nat.zero_le _, R_req h hc (bb := true) rfl (fun e => by cases e) (fun _ => h.va c (h.is ⟨b, by omega, R_go h hB hc hb fun M1 ow1 hs1 g1 => hQ (by rw [goP_c]; exact hc) M1 ow1 hs1 g1⟩)) (fun e => by cases e)⟩
    | false =>
      have hne := need_fc hc (x := 2) (by decide)
      rw [er, go_s hne] at hb hX
      exact ⟨b, by omega, R_req h hc (bb := false) rfl (fun _ => cs_9 hne hb) (fun e => by cases e) (fun _ q M1 ow1 hs1 hx => ⟨rfl, hX hne q M1 ow1 hs1 hx⟩)⟩
  · have hne := need_fc hc (x := 1) (by decide)
    rw [decide_eq_false c, if_neg hne, go_s hne] at hb hX
    unfold B_X5_number_14
    exact h.is ⟨b, Nat.le_refl _, R_req h hc (bb := false) rfl (fun _ => cs_9 hne hb) (fun e => by cases e) (fun _ q M1 ow1 hs1 hx => ⟨rfl, hX hne q M1 ow1 hs1 hx⟩)⟩
theorem R_numB (h : PST G M ow a n B t u p D l cc) (hB : BYT B) (hc : pC p = 0) {k : Nat} (hk : k < 16) {x : Int32} (ex : x = nI k) {lo hi : Int32} {b e : Nat} (hb : cs p (nbP B n x lo hi p) e ≤ b) {Q : Int32 → wM → Prop} {Xp : String → Nat → wM → Prop} (hQ : pC (nbP B n x lo hi p) = 0 → ∀ M1 ow1, Mv tQ M ow M1 ow1 → PSTf G M1 ow1 a n B t u (nbP B n x lo hi p) D l cc → Q (nbV B n x p) M1) (hX : pC (nbP B n x lo hi p) ≠ 0 → ∀ q M1 ow1, Mv tQ M ow M1 ow1 → EXC M1 q (nbP B n x lo hi p) → Xp ePE q M1) : P_X5_numberBehind G t (G.2.2.2 (10 + k)) lo hi b M Q Xp := by
  have ho := h.o.1
  have ho1 := passP_o (B := B) ho x
  obtain ⟨b1, b2⟩ := cs_2 (p1 := passP B n x p) (e1 := 0) (passP_a ho x) (numP_a ho1 lo hi) (fun c => num_s c lo hi) (Nat.zero_le _) hb
  refine h.is ⟨_, b1, R_expect h hB hc hk ex (Nat.le_refl _) (fun c1 M1 ow1 hs1 g1 => g1.s.is ⟨_, Nat.le_refl _, R_number g1.s hB c1 (b2 c1) (fun c2 M2 ow2 hs2 g2 => hQ c2 M2 ow2 (hs1.tr hs2) g2) (fun c2 q M2 ow2 hs2 hx => ⟨rfl, hX c2 q M2 ow2 (hs1.tr hs2) hx⟩)⟩) (fun c1 q M1 ow1 hs1 hx => ⟨rfl, ?_⟩)⟩
  have e1 : nbP B n x lo hi p = passP B n x p := num_s c1 lo hi
  rw [e1] at hX
  exact hX c1 q M1 ow1 hs1 hx
end C34
