set_option maxRecDepth 100000
/-! STAGE 2, component, reading 6: the statements zone, street, house -/
theorem cs_x {p p1 : PS} {e b : Nat} (hb : cs p p1 e ≤ b) : e ≤ b := by unfold cs at hb; generalize (if pC p1 = 0 then 0 else 9) = z at *; omega
theorem isWP_s {B : Rw} {n : Nat} {p : PS} (h : pC p ≠ 0) (w lo hi : Int32) : (if isWP p w then nbP B n w lo hi p else p) = p := by rw [isW_s h]; rfl
theorem nbP_w {B : Rw} {n : Nat} {p : PS} {w : Int32} (h : isWP p w = true) (lo hi : Int32) : nbP B n w lo hi p = numP B n lo hi (goP B n p) := by unfold nbP passP; rw [h, need_t]
theorem nbV_w {B : Rw} {n : Nat} {p : PS} {w : Int32} (h : isWP p w = true) : nbV B n w p = pV (goP B n p) := by unfold nbV passP; rw [h, need_t]
theorem zX (B : Rw) (n : Nat) (p : PS) (D : Rw) (l : Nat → Nat → Int64) : ∃ p1 p2 p3 p4 p5 p6, p1 = begP B n 0 6 p D ∧ p2 = newP B n (l 23) (nz D) p1 ∧ p3 = nbP B n 1 0 40 p2 ∧ p4 = nbP B n 2 0 23 p3 ∧ p5 = numP B n (nbV B n 2 p3 + 1) 24 p4 ∧ p6 = (if isWP p5 3 then nbP B n 3 0 120 p5 else p5) ∧ (zoneX B n (p, D, l)).1 = p6 ∧
    (pC p6 = 0 → (zoneX B n (p, D, l)).2 = (upd (upd (upd (upd (upd D (3 + nz D) (nbV B n 1 p2)) (9 + nz D) (nbV B n 2 p3)) (15 + nz D) (pV p4)) (21 + nz D) (if isWP p5 3 then nbV B n 3 p5 else 0)) 0 (nI (nz D) + 1), sl l 23 (newG B (l 23) (nz D) p1))) := by
  refine ⟨_, _, _, _, _, _, rfl, rfl, rfl, rfl, rfl, rfl, ?_, ?_⟩
  · unfold zoneX
    dsimp only
    split
    · rw [zn7_1, zn5_1]
    · rename_i c
      rw [new_s c, nb_s c, nb_s c, num_s c, isW_s c]
      rfl
  · intro c6
    generalize e1 : begP B n 0 6 p D = p1 at *
    generalize e2 : newP B n (l 23) (nz D) p1 = p2 at *
    generalize e3 : nbP B n 1 0 40 p2 = p3 at *
    generalize e4 : nbP B n 2 0 23 p3 = p4 at *
    generalize e5 : numP B n (nbV B n 2 p3 + 1) 24 p4 = p5 at *
    have c5 : pC p5 = 0 := Decidable.byContradiction fun z => z (by rw [isWP_s z] at c6; exact c6)
    have c4 : pC p4 = 0 := Decidable.byContradiction fun z => z (by rw [num_s z] at e5; rw [e5]; exact c5)
    have c3 : pC p3 = 0 := Decidable.byContradiction fun z => z (by rw [nb_s z] at e4; rw [e4]; exact c4)
    have c2 : pC p2 = 0 := Decidable.byContradiction fun z => z (by rw [nb_s z] at e3; rw [e3]; exact c3)
    have c1 : pC p1 = 0 := Decidable.byContradiction fun z => z (by rw [new_s z] at e2; rw [e2]; exact c2)
    unfold zoneX
    dsimp only
    rw [e1, if_pos c1, e2, zn7_2, zn5_1, zn5_2, e3, e4, e5, lays_0 c6, lays_0 c6, lays_0 c5, lays_0 c4, lays_0 c3]
section C37
variable {G : wG} {M : wM} {ow : Nat → Nat} {a n t : Nat} {u : Nat × (Nat → Nat)} {B : Rw} {p p1 : PS} {D E : Rw} {l l1 : Nat → Nat → Int64} {cc c1 : Nat → Nat}
theorem K_begin (h : PST G M ow a n B t u p D l cc) (hB : BYT B) (hc : pC p = 0) {j : Nat} {most : Int32} (ep : p1 = begP B n j most p D) {y0 : Int32} (ey : y0 = wb (decide (D j < most))) {pe : PS} {e b : Nat} (m1 : p1.1 ≤ pe.1) (s1 : pC p1 ≠ 0 → pe = p1) (hb : cs p pe e ≤ b) {Q : Nat → Nat → wM → Prop} {Xp : String → Nat → wM → Prop} (hQ : pC p1 = 0 → ∀ M1 ow1 k1 k2, Mv tQ M ow M1 ow1 → PST G M1 ow1 a n B t u p1 D l cc → cs p1 pe e ≤ b - k1 - k2 → Q k1 k2 M1) (hX : pC p1 ≠ 0 → ∀ q M1 ow1, Mv tQ M ow M1 ow1 → EXC M1 q p1 → Xp ePE q M1) :
    ∃ c2, c2 ≤ b ∧ P_X5_require G t y0 (4 : Int32) c2 M (fun M1 => oIs M1 t 4 (∃ c4, c4 ≤ (b - c2) ∧ P_X5_advance G t c4 M1 (fun M3 => Q c2 c4 M3))) (fun E q M1 => (E = "ParkingOffice$ParseException" ∧ Xp E q M1)) := by
  have ho := h.o.1
  unfold begP at ep
  cases eb : decide (D j < most) with
  | true =>
    rw [eb] at ey
    rw [eb, need_t] at ep
    have m0 : p.1 ≤ p1.1 := by rw [ep]; exact goP_a ho
    obtain ⟨b1, b2⟩ := cs_2 (e1 := 0) m0 m1 s1 (Nat.zero_le _) hb
    have c1 : pC p1 = 0 := by rw [ep, goP_c]; exact hc
    refine ⟨0, Nat.zero_le _, R_req h hc (bb := true) ey (fun e => by cases e) (fun _ => h.is ⟨cs p p1 0, b1, R_go h hB hc (e := 0) (by rw [ep]; exact Nat.le_refl _) fun M1 ow1 hs1 g1 => ?_⟩) (fun e => by cases e)⟩
    rw [← ep] at g1
    exact hQ c1 M1 ow1 _ _ hs1 g1.s (b2 c1)
  | false =>
    rw [eb] at ey
    have hne := need_fc hc (x := 4) (by decide)
    rw [eb, go_s hne] at ep
    have c1 : pC p1 ≠ 0 := by rw [ep]; exact hne
    rw [s1 c1] at hb
    exact ⟨b, Nat.le_refl _, R_req h hc (bb := false) ey (fun _ => cs_9 c1 hb) (fun e => by cases e) (fun _ q M1 ow1 hs1 hx => ⟨rfl, hX c1 q M1 ow1 hs1 (by rw [ep]; exact hx)⟩)⟩
theorem K_name (h : PST G M ow a n B t u p D l cc) (hB : BYT B) (hc : pC p = 0) {c : Nat} (hc3 : c < 3) (hm : cc c ≤ 16) {x : Int32} (ex : x = nI c) (ep : p1 = newP B n (l (23 + c)) (cc c) p) (el : l1 = sl l (23 + c) (newG B (l (23 + c)) (cc c) p)) (ec : c1 = cU cc c) {pe : PS} {e b : Nat} (he : 92 ≤ e) (m1 : p1.1 ≤ pe.1) (s1 : pC p1 ≠ 0 → pe = p1) (hb : cs p pe e ≤ b) {Q : Nat → wM → Prop} {Xp : String → Nat → wM → Prop} (hQ : pC p1 = 0 → ∀ M1 ow1 k1, Mv tQ M ow M1 ow1 → PST G M1 ow1 a n B t u p1 D l1 c1 → cs p1 pe (e - 92) ≤ b - k1 → Q k1 M1) (hX : pC p1 ≠ 0 → ∀ q M1 ow1, Mv tQ M ow M1 ow1 → EXC M1 q p1 → Xp ePE q M1) :
    oIs M t 4 (∃ c6, c6 ≤ b ∧ P_X5_newName G t x c6 M (fun M5 => Q c6 M5) (fun E q M1 => (E = "ParkingOffice$ParseException" ∧ Xp E q M1))) := by
  subst ep; subst el; subst ec
  obtain ⟨b1, b2⟩ := cs_2 (e1 := 92) (newP_a h.o.1 _ _) m1 s1 he hb
  exact h.is ⟨_, b1, R_newName h hB hc hc3 hm ex (Nat.le_refl _) (Nat.le_refl _) (fun c M1 ow1 hs1 g1 => hQ c M1 ow1 _ hs1 g1.s (b2 c)) (fun c q M1 ow1 hs1 hx => ⟨rfl, hX c q M1 ow1 hs1 hx⟩)⟩
theorem K_known (h : PST G M ow a n B t u p D l cc) (hB : BYT B) (hc : pC p = 0) {c : Nat} (hc3 : c < 3) {x : Int32} (ex : x = nI c) {g : Nat → Int64} {m : Nat} (eg : g = l (23 + c)) (em : m = cc c) (ep : p1 = oldP B n g m (-1) p) {pe : PS} {e b : Nat} (m1 : p1.1 ≤ pe.1) (s1 : pC p1 ≠ 0 → pe = p1) (hb : cs p pe e ≤ b) {Q : Nat → Int32 → wM → Prop} {Xp : String → Nat → wM → Prop} (hQ : pC p1 = 0 → ∀ M1 ow1 k1, Mv tQ M ow M1 ow1 → PST G M1 ow1 a n B t u p1 D l cc → cs p1 pe e ≤ b - k1 → Q k1 (oldV B g m p) M1) (hX : pC p1 ≠ 0 → ∀ q M1 ow1, Mv tQ M ow M1 ow1 → EXC M1 q p1 → Xp ePE q M1) :
    oIs M t 4 (∃ c6, c6 ≤ b ∧ P_X5_knownName G t x c6 M (fun v M5 => Q c6 v M5) (fun E q M1 => (E = "ParkingOffice$ParseException" ∧ Xp E q M1))) := by
  subst ep; subst eg; subst em
  obtain ⟨b1, b2⟩ := cs_2 (e1 := 0) (oldP_a h.o.1 _ _ _) m1 s1 (Nat.zero_le _) hb
  exact h.is ⟨_, b1, R_known h hB hc hc3 ex (Nat.le_refl _) (fun c M1 ow1 hs1 g1 => hQ c M1 ow1 _ hs1 g1.s (b2 c)) (fun c q M1 ow1 hs1 hx => ⟨rfl, hX c q M1 ow1 hs1 hx⟩)⟩
theorem K_expect (h : PST G M ow a n B t u p D l cc) (hB : BYT B) (hc : pC p = 0) {k : Nat} (hk : k < 16) {x : Int32} (ex : x = nI k) (ep : p1 = passP B n x p) {pe : PS} {e b : Nat} (m1 : p1.1 ≤ pe.1) (s1 : pC p1 ≠ 0 → pe = p1) (hb : cs p pe e ≤ b) {Q : Nat → wM → Prop} {Xp : String → Nat → wM → Prop} (hQ : pC p1 = 0 → ∀ M1 ow1 k1, Mv tQ M ow M1 ow1 → PST G M1 ow1 a n B t u p1 D l cc → cs p1 pe e ≤ b - k1 → Q k1 M1) (hX : pC p1 ≠ 0 → ∀ q M1 ow1, Mv tQ M ow M1 ow1 → EXC M1 q p1 → Xp ePE q M1) :
    oIs M t 4 (∃ c6, c6 ≤ b ∧ P_X5_expect G t (G.2.2.2 (10 + k)) c6 M (fun M5 => Q c6 M5) (fun E q M1 => (E = "ParkingOffice$ParseException" ∧ Xp E q M1))) := by
  subst ep
  obtain ⟨b1, b2⟩ := cs_2 (e1 := 0) (passP_a h.o.1 _) m1 s1 (Nat.zero_le _) hb
  exact h.is ⟨_, b1, R_expect h hB hc hk ex (Nat.le_refl _) (fun c M1 ow1 hs1 g1 => hQ c M1 ow1 _ hs1 g1.s (b2 c)) (fun c q M1 ow1 hs1 hx => ⟨rfl, hX c q M1 ow1 hs1 hx⟩)⟩
theorem K_number (h : PST G M ow a n B t u p D l cc) (hB : BYT B) (hc : pC p = 0) {lo hi : Int32} (ep : p1 = numP B n lo hi p) {pe : PS} {e b : Nat} (m1 : p1.1 ≤ pe.1) (s1 : pC p1 ≠ 0 → pe = p1) (hb : cs p pe e ≤ b) {Q : Nat → Int32 → wM → Prop} {Xp : String → Nat → wM → Prop} (hQ : pC p1 = 0 → ∀ M1 ow1 k1, Mv tQ M ow M1 ow1 → PST G M1 ow1 a n B t u p1 D l cc → cs p1 pe e ≤ b - k1 → Q k1 (pV p) M1) (hX : pC p1 ≠ 0 → ∀ q M1 ow1, Mv tQ M ow M1 ow1 → EXC M1 q p1 → Xp ePE q M1) :
    oIs M t 4 (∃ c6, c6 ≤ b ∧ P_X5_number G t lo hi c6 M (fun v M5 => Q c6 v M5) (fun E q M1 => (E = "ParkingOffice$ParseException" ∧ Xp E q M1))) := by
  subst ep
  obtain ⟨b1, b2⟩ := cs_2 (e1 := 0) (numP_a h.o.1 _ _) m1 s1 (Nat.zero_le _) hb
  exact h.is ⟨_, b1, R_number h hB hc (Nat.le_refl _) (fun c M1 ow1 hs1 g1 => hQ c M1 ow1 _ hs1 g1.s (b2 c)) (fun c q M1 ow1 hs1 hx => ⟨rfl, hX c q M1 ow1 hs1 hx⟩)⟩
theorem K_numB (h : PST G M ow a n B t u p D l cc) (hB : BYT B) (hc : pC p = 0) {k : Nat} (hk : k < 16) {x : Int32} (ex : x = nI k) {lo hi : Int32} (ep : p1 = nbP B n x lo hi p) {pe : PS} {e b : Nat} (m1 : p1.1 ≤ pe.1) (s1 : pC p1 ≠ 0 → pe = p1) (hb : cs p pe e ≤ b) {Q : Nat → Int32 → wM → Prop} {Xp : String → Nat → wM → Prop} (hQ : pC p1 = 0 → ∀ M1 ow1 k1, Mv tQ M ow M1 ow1 → PST G M1 ow1 a n B t u p1 D l cc → cs p1 pe e ≤ b - k1 → Q k1 (nbV B n x p) M1) (hX : pC p1 ≠ 0 → ∀ q M1 ow1, Mv tQ M ow M1 ow1 → EXC M1 q p1 → Xp ePE q M1) :
    oIs M t 4 (∃ c6, c6 ≤ b ∧ P_X5_numberBehind G t (G.2.2.2 (10 + k)) lo hi c6 M (fun v M5 => Q c6 v M5) (fun E q M1 => (E = "ParkingOffice$ParseException" ∧ Xp E q M1))) := by
  subst ep
  obtain ⟨b1, b2⟩ := cs_2 (e1 := 0) (nbP_a h.o.1 _ _ _) m1 s1 (Nat.zero_le _) hb
  exact h.is ⟨_, b1, R_numB h hB hc hk ex (Nat.le_refl _) (fun c M1 ow1 hs1 g1 => hQ c M1 ow1 _ hs1 g1.s (b2 c)) (fun c q M1 ow1 hs1 hx => ⟨rfl, hX c q M1 ow1 hs1 hx⟩)⟩
/-- the size of a list -/
theorem K_nz (h : PST G M ow a n B t u p D l cc) {κ : Int32 → wM → Prop} (hk : κ (nI (nz D)) M) : oGetA M t 4 1 (fun a1 => oGetA M a1 2 0 (fun a2 => oIs M a2 16 (P_J2_size G a2 M κ))) := by
  obtain ⟨kl, su, on, w, y, ⟨ht, ⟨v, hC, hv⟩, hE, hO, g1, ⟨a2, a3⟩, -⟩, hW⟩ := h
  exact oGetA.i hC.1 rfl (oGetA.i g1.1 rfl (isA a2 (E_size a2 hk)))
theorem K_ns (h : PST G M ow a n B t u p D l cc) {κ : Int32 → wM → Prop} (hk : κ (nI (ns D)) M) : oGetA M t 4 1 (fun a1 => oGetA M a1 2 1 (fun a2 => oIs M a2 16 (P_J2_size G a2 M κ))) := by
  obtain ⟨kl, su, on, w, y, ⟨ht, ⟨v, hC, hv⟩, hE, hO, g1, -, ⟨a2, a3⟩, -⟩, hW⟩ := h
  exact oGetA.i hC.1 rfl (oGetA.i g1.1 rfl (isA a2 (E_size a2 hk)))
theorem K_nh (h : PST G M ow a n B t u p D l cc) {κ : Int32 → wM → Prop} (hk : κ (nI (nh D)) M) : oGetA M t 4 1 (fun a1 => oGetA M a1 2 2 (fun a2 => oIs M a2 16 (P_J2_size G a2 M κ))) := by
  obtain ⟨kl, su, on, w, y, ⟨ht, ⟨v, hC, hv⟩, hE, hO, g1, -, -, ⟨a2, a3⟩, -⟩, hW⟩ := h
  exact oGetA.i hC.1 rfl (oGetA.i g1.1 rfl (isA a2 (E_size a2 hk)))
theorem R_zone (h : PST G M ow a n B t u p D l (nmC D)) (hB : BYT B) (hc : pC p = 0) (hg : OKS D) {b e : Nat} (he : 210 ≤ e) (hb : cs p (zoneX B n (p, D, l)).1 e ≤ b) {Q : wM → Prop} {Xp : String → Nat → wM → Prop} (hQ : pC (zoneX B n (p, D, l)).1 = 0 → ∀ M1 ow1, Mv tQ M ow M1 ow1 → PST G M1 ow1 a n B t u (zoneX B n (p, D, l)).1 (zoneX B n (p, D, l)).2.1 (zoneX B n (p, D, l)).2.2 (nmC (zoneX B n (p, D, l)).2.1) → Q M1) (hX : pC (zoneX B n (p, D, l)).1 ≠ 0 → ∀ q M1 ow1, Mv tQ M ow M1 ow1 → EXC M1 q (zoneX B n (p, D, l)).1 → Xp ePE q M1) : P_X5_zone G t b M Q Xp := by
  obtain ⟨p1, p2, p3, p4, p5, p6, e1, e2, e3, e4, e5, e6, ez, ed⟩ := zX B n p D l
  rw [ez] at hb hQ hX
  have ho := h.o.1
  have s6 : pC p5 ≠ 0 → p6 = p5 := fun c => by rw [e6]; exact isWP_s c 3 0 120
  have s5 : pC p4 ≠ 0 → p6 = p4 := fun c => by have x : p5 = p4 := by rw [e5]; exact num_s c _ _
                                               rw [s6 (by rw [x]; exact c), x]
  have s4 : pC p3 ≠ 0 → p6 = p3 := fun c => by have x : p4 = p3 := by rw [e4]; exact nb_s c _ _ _
                                               rw [s5 (by rw [x]; exact c), x]
  have s3 : pC p2 ≠ 0 → p6 = p2 := fun c => by have x : p3 = p2 := by rw [e3]; exact nb_s c _ _ _
                                               rw [s4 (by rw [x]; exact c), x]
  have s2 : pC p1 ≠ 0 → p6 = p1 := fun c => by have x : p2 = p1 := by rw [e2]; exact new_s c _ _
                                               rw [s3 (by rw [x]; exact c), x]
  have o1 : PSo n p1 := by rw [e1]; exact goP_o (needsP_o ho _ _)
  have o2 : PSo n p2 := by rw [e2]; exact newP_o o1 _ _
  have o3 : PSo n p3 := by rw [e3]; exact nbP_o o2 _ _ _
  have o4 : PSo n p4 := by rw [e4]; exact nbP_o o3 _ _ _
  have o5 : PSo n p5 := by rw [e5]; exact numP_o o4 _ _
  have m6 : p5.1 ≤ p6.1 := by
    rw [e6]; split
    · exact nbP_a o5 _ _ _
    · exact Nat.le_refl _
  have m5 : p4.1 ≤ p6.1 := Nat.le_trans (by rw [e5]; exact numP_a o4 _ _) m6
  have m4 : p3.1 ≤ p6.1 := Nat.le_trans (by rw [e4]; exact nbP_a o3 _ _ _) m5
  have m3 : p2.1 ≤ p6.1 := Nat.le_trans (by rw [e3]; exact nbP_a o2 _ _ _) m4
  have m2 : p1.1 ≤ p6.1 := Nat.le_trans (by rw [e2]; exact newP_a o1 _ _) m3
  have bad : ∀ pi, pC pi ≠ 0 → p6 = pi → ∀ q M1 ow1, Mv tQ M ow M1 ow1 → EXC M1 q pi → Xp ePE q M1 := fun pi ci ei q M1 ow1 hs hx => hX (by rw [ei]; exact ci) q M1 ow1 hs (by rw [ei]; exact hx)
  have hz6 : nz D ≤ 6 := hg.1.2
  have fin : ∀ M6 ow6 b6 v, pC p1 = 0 → pC p6 = 0 → nz D < 6 → v = (if isWP p5 3 then nbV B n 3 p5 else 0) → Mv tQ M ow M6 ow6 → PST G M6 ow6 a n B t u p6 D (sl l 23 (newG B (l 23) (nz D) p1)) (cU (nmC D) 0) → 97 ≤ b6 → B_X5_zone_86 G Q Xp t (nbV B n 1 p2) (nbV B n 2 p3) (pV p4) v M6 b6 := fun M6 ow6 b6 v c1 c6 hlt ev hs6 g6 hb6 => by
    have ed := ed c6
    rw [ed] at hQ
    have hq := hQ c6
    dsimp only at hq
    rw [← ev] at hq
    generalize eE : upd (upd (upd (upd (upd D (3 + nz D) (nbV B n 1 p2)) (9 + nz D) (nbV B n 2 p3)) (15 + nz D) (pV p4)) (21 + nz D) v) 0 (nI (nz D) + 1) = E at hq
    have k0 : E 0 = nI (nz D + 1) := by rw [← eE, upd_eq, nI_1]
    have kz : nz E = nz D + 1 := nz_e (D := D) k0 (by omega)
    have ke : ∀ j, j ≠ 0 → j ≠ 3 + nz D → j ≠ 9 + nz D → j ≠ 15 + nz D → j ≠ 21 + nz D → E j = D j := fun j j0 j1 j2 j3 j4 => by rw [← eE, upd_ne _ _ j0, upd_ne _ _ j4, upd_ne _ _ j3, upd_ne _ _ j2, upd_ne _ _ j1]
    refine R_addZ g6 hlt kz ?_ ke hb6 fun M7 ow7 hs7 g7 => hq M7 ow7 (hs6.tr hs7) ?_
    · unfold ZnC
      rw [← eE, upd_ne _ _ (by omega), upd_ne _ _ (by omega), upd_ne _ _ (by omega), upd_ne _ _ (by omega), upd_eq, upd_ne _ _ (by omega), upd_ne _ _ (by omega), upd_ne _ _ (by omega), upd_eq, upd_ne _ _ (by omega), upd_ne _ _ (by omega), upd_eq, upd_ne _ _ (by omega), upd_eq]
    · have ecc : cU (nmC D) 0 = nmC E := by
        funext j
        have k1 : ns E = ns D := by unfold ns; rw [ke 1 (by omega) (by omega) (by omega) (by omega) (by omega)]
        have k2 : nh E = nh D := by unfold nh; rw [ke 2 (by omega) (by omega) (by omega) (by omega) (by omega)]
        unfold cU nmC
        rw [kz, k1, k2]
        by_cases c : j = 0
        · rw [if_pos c, if_pos c, if_pos rfl]
        · rw [if_neg c, if_neg c, if_neg c]
      rw [← ecc]; exact g7
  unfold P_X5_zone
  refine K_nz h ?_
  have go : ∀ y0, y0 = wb (decide (D 0 < 6)) → B_X5_zone_23 G Q Xp t y0 t M b := fun y0 ey => by
    unfold B_X5_zone_23
    refine h.is (K_begin h hB hc e1 ey m2 s2 hb (fun c1 M1 ow1 d1 d2 hs1 g1 hb1 => ?_) (fun c1 q M1 ow1 hs hx => bad p1 c1 (s2 c1) q M1 ow1 hs hx))
    have hlt : nz D < 6 := by
      have := beg_ok (e1 ▸ c1)
      rw [hg.1.1] at this
      rcases Nat.lt_or_ge (nz D) 6 with z | z
      · exact z
      · exact absurd this (nI_nlt (b := 6) z (by omega))
    refine K_name (c := 0) (e := e) g1 hB c1 (by decide) (show nz D ≤ 16 by omega) rfl e2 rfl rfl (by omega) m3 s3 hb1 (fun c2 M2 ow2 b2 hs2 g2 hb2 => ?_) (fun c2 q M2 ow2 hs hx => bad p2 c2 (s3 c2) q M2 ow2 (hs1.tr hs) hx)
    have hs2 := hs1.tr hs2
    refine K_numB (k := 1) (x := 1) g2 hB c2 (by decide) rfl e3 m4 s4 hb2 (fun c3 M3 ow3 b3 hs3 g3 hb3 => ?_) (fun c3 q M3 ow3 hs hx => bad p3 c3 (s4 c3) q M3 ow3 (hs2.tr hs) hx)
    have hs3 := hs2.tr hs3
    refine K_numB (k := 2) (x := 2) g3 hB c3 (by decide) rfl e4 m5 s5 hb3 (fun c4 M4 ow4 b4 hs4 g4 hb4 => ?_) (fun c4 q M4 ow4 hs hx => bad p4 c4 (s5 c4) q M4 ow4 (hs3.tr hs) hx)
    have hs4 := hs3.tr hs4
    refine K_number g4 hB c4 e5 m6 s6 hb4 (fun c5 M5 ow5 b5 hs5 g5 hb5 => ?_) (fun c5 q M5 ow5 hs hx => bad p5 c5 (s6 c5) q M5 ow5 (hs4.tr hs) hx)
    have hs5 := hs4.tr hs5
    cases ew : isWP p5 3 with
    | false =>
      have e6' : p6 = p5 := by rw [e6, if_neg (by rw [ew]; decide)]
      refine g5.is ⟨0, Nat.zero_le _, R_accept (k := 3) (x := 3) (e := 0) g5 hB c5 (by decide) rfl (fun z => by rw [ew] at z; cases z) (fun z => by rw [ew] at z; cases z) (fun _ => oIf.n (by decide) ?_)⟩
      refine fin M5 ow5 _ _ c1 (by rw [e6']; exact c5) hlt (by rw [if_neg (by rw [ew]; decide)]) hs5 (by rw [e6']; exact g5) ?_
      have := cs_x hb5; omega
    | true =>
      have e6' : p6 = numP B n 0 120 (goP B n p5) := by rw [e6, if_pos ew, nbP_w ew]
      have ma : (goP B n p5).1 ≤ p6.1 := by rw [e6']; exact numP_a (goP_o o5) _ _
      have ca : pC (goP B n p5) = 0 := by rw [goP_c]; exact c5
      obtain ⟨x1, x2⟩ := cs_2 (p1 := goP B n p5) (e1 := 0) (goP_a o5) ma (fun z => absurd ca z) (Nat.zero_le _) hb5
      refine g5.is ⟨_, x1, R_accept (k := 3) (x := 3) (e := 0) g5 hB c5 (by decide) rfl (fun _ => Nat.le_refl _) (fun _ M6 ow6 hs6 g6 => oIf.y rfl ?_) (fun z => by rw [ew] at z; cases z)⟩
      have hs6 := hs5.tr hs6
      refine K_number g6.s hB ca e6' (Nat.le_refl _) (fun _ => rfl) (x2 ca) (fun c6 M7 ow7 b7 hs7 g7 hb7 => ?_) (fun c6 q M7 ow7 hs hx => hX c6 q M7 ow7 (hs6.tr hs) hx)
      refine fin M7 ow7 _ _ c1 c6 hlt ?_ (hs6.tr hs7) g7 ?_
      · rw [if_pos ew, nbV_w ew]
      · have := cs_x hb7; omega
  refine oIf.c (fun c => go 0 ?_) (fun c => go 1 ?_)
  · rw [hg.1.1, decide_eq_false]; rfl
    exact fun z => Int32.not_lt.mpr c z
  · rw [hg.1.1, decide_eq_true]; rfl
    exact Int32.not_le.mp c
end C37
