set_option maxRecDepth 100000
/-! STAGE 2, component, reading 5: zones, streets, houses -/
theorem nz_e {D E : Rw} {k : Nat} (h : E 0 = nI k) (hk : k < 2 ^ 31) : nz E = k := by unfold nz; rw [h, nI_clamp hk]
theorem ns_e {D E : Rw} {k : Nat} (h : E 1 = nI k) (hk : k < 2 ^ 31) : ns E = k := by unfold ns; rw [h, nI_clamp hk]
theorem nh_e {D E : Rw} {k : Nat} (h : E 2 = nI k) (hk : k < 2 ^ 31) : nh E = k := by unfold nh; rw [h, nI_clamp hk]
theorem lays_0 {p : PS} (hc : pC p = 0) (j : Nat) (v : Int32) (D : Rw) : laysD p j v D = upd D j v := if_pos hc
section C36
variable {G : wG} {M : wM} {ow : Nat → Nat} {a n t : Nat} {u : Nat × (Nat → Nat)} {B : Rw} {p : PS} {D E : Rw} {l : Nat → Nat → Int64} {cc : Nat → Nat}
theorem S_zin {q : Nat} {p1 p2 p3 p4 : Int32} {v0 v1 v2 v3 : Value} {C : wE} {κ : wM → Prop} (hz : wz G ≤ q) (hE : C = .inr (6, [.int p1, .int p2, .int p3, .int p4])) (hp : κ (wIns M q C)) : P_X7_init G q p1 p2 p3 p4 (wIns M q (.inr (6, [v0, v1, v2, v3]))) κ := by
  subst hE
  unfold P_X7_init
  exact oPut.f (Nat.le_of_ble_eq_true rfl) hz (oPut.f (Nat.le_of_ble_eq_true rfl) hz (oPut.f (Nat.le_of_ble_eq_true rfl) hz (oPut.f (Nat.le_of_ble_eq_true rfl) hz hp)))
theorem S_stin {q : Nat} {p1 p2 p3 : Int32} {v0 v1 v2 : Value} {C : wE} {κ : wM → Prop} (hz : wz G ≤ q) (hE : C = .inr (7, [.int p1, .int p2, .int p3])) (hp : κ (wIns M q C)) : P_X8_init G q p1 p2 p3 (wIns M q (.inr (7, [v0, v1, v2]))) κ := by
  subst hE
  unfold P_X8_init
  exact oPut.f (Nat.le_of_ble_eq_true rfl) hz (oPut.f (Nat.le_of_ble_eq_true rfl) hz (oPut.f (Nat.le_of_ble_eq_true rfl) hz hp))
theorem S_hin {q : Nat} {p1 p2 p3 : Int32} {v0 v1 v2 : Value} {C : wE} {κ : wM → Prop} (hz : wz G ≤ q) (hM : M q = some (.inr (8, [v0, v1, v2]))) (hE : C = .inr (8, [.int p1, .int p2, .int p3])) (hp : κ (wIns M q C)) : P_X9_init G q p1 p2 p3 M κ := by
  subst hE
  unfold P_X9_init
  exact oPut.i hM (Nat.le_of_ble_eq_true rfl) hz (oPut.f (Nat.le_of_ble_eq_true rfl) hz (oPut.f (Nat.le_of_ble_eq_true rfl) hz hp))
theorem tq1 {M1 : wM} {ow1 : Nat → Nat} {x : Nat} (hx : x ∈ tQ) (h : Mv [x] M ow M1 ow1) : Mv tQ M ow M1 ow1 := h.mono (fun y hy => by rw [List.mem_singleton] at hy; rw [hy]; exact hx) (by decide)
theorem tq0 {M1 : wM} {ow1 : Nat → Nat} (h : Mv [] M ow M1 ow1) : Mv tQ M ow M1 ow1 := h.mono (by simp) (by decide)
theorem ne1 {x k : Nat} (h : k ≠ x) : k ∉ [x] := by simpa using h
theorem ONC.c {w : Int64} (h : ONC w D) (ed : ∀ j, 120 ≤ j → E j = D j) : ONC w E := ⟨fun j hj => by rw [ed _ (by omega)]; exact h.1 j hj, fun r r1 r2 => by rw [ed _ (by omega)]; exact h.2 r r1 r2⟩
theorem R_addZ (h : PST G M ow a n B t u p D l cc) (hk : nz D < 6) {v1 v2 v3 v4 : Int32} (e0 : nz E = nz D + 1) (e1 : ZnC E (nz D) = .inr (6, [.int v1, .int v2, .int v3, .int v4])) (ed : ∀ j, j ≠ 0 → j ≠ 3 + nz D → j ≠ 9 + nz D → j ≠ 15 + nz D → j ≠ 21 + nz D → E j = D j) {b : Nat} (hb : 97 ≤ b) {Q : wM → Prop} {Xp : String → Nat → wM → Prop} (hQ : ∀ M1 ow1, Mv tQ M ow M1 ow1 → PST G M1 ow1 a n B t u p E l cc → Q M1) : B_X5_zone_86 G Q Xp t v1 v2 v3 v4 M b := by
  obtain ⟨kl, su, on, w, y, ⟨ht, ⟨v, hC, hv⟩, hE, ⟨bw, hO, hO2⟩, g1, ⟨a2, a3⟩, ⟨a4, a5⟩, ⟨a6, a7⟩, ⟨ra, a8, a9⟩, g3⟩, hW⟩ := h
  unfold B_X5_zone_86
  refine oGetA.i hC.1 rfl (oGetA.i g1.1 rfl ⟨by simp; omega, fun q hq hz => S_zin hz e1 ?_⟩)
  have hs1 : Mv [] M ow (wIns M q (ZnC E (nz D))) (va_up ow q 0) := Mv.nw (by decide) hq _ _
  have hC1 : Cl G (wIns M q (ZnC E (nz D))) (va_up ow q 0) 0 q (ZnC E (nz D)) := Cl.nw M ow hz _ _
  generalize wIns M q (ZnC E (nz D)) = M1 at hs1 hC1 ⊢
  generalize va_up ow q 0 = ow1 at hs1 hC1
  obtain ⟨mc, a2'⟩ := a2.stp hs1 (by simp)
  refine isA ⟨mc, a2'⟩ ⟨92, by simp; omega, S_add a2' (by decide) (by omega) (by omega) ⟨_, hC1.1⟩ fun M2 ow2 hs2 hA2 => ?_⟩
  have hs := (tq0 hs1).tr (tq1 (x := 23) (by decide) hs2)
  have cl : ∀ {k x : Nat} {c : wE}, Cl G M ow k x c → k ≠ 23 → Cl G M2 ow2 k x c := fun h hk => (h.stp hs1 (by simp)).stp hs2 (ne1 hk)
  have al : ∀ {k x m : Nat} {g : Nat → Nat}, ALe G M ow k x m g → k ≠ 23 → ALe G M2 ow2 k x m g := fun h hk => (h.stp hs1 (by simp)).stp hs2 (ne1 hk)
  have es : suC E y = suC D y := by unfold suC; rw [ed 111 (by omega) (by omega) (by omega) (by omega) (by omega), ed 112 (by omega) (by omega) (by omega) (by omega) (by omega), ed 113 (by omega) (by omega) (by omega) (by omega) (by omega)]
  have e2 : ns E = ns D := by unfold ns; rw [ed 1 (by omega) (by omega) (by omega) (by omega) (by omega)]
  have e3 : nh E = nh D := by unfold nh; rw [ed 2 (by omega) (by omega) (by omega) (by omega) (by omega)]
  refine hQ M2 ow2 hs ⟨kl, su, on, w, sY y 6 (va_up (y 6) (nz D) q), ⟨ht, ⟨v, cl hC (by decide), hv⟩, (hE.stp hs1 (by simp) (by simp) (by simp)).stp hs2 (by decide) (by decide) (by decide), ⟨bw, (hO.stp hs1 (by simp)).stp hs2 (by decide), hO2.c fun j hj => ed j (by omega) (by omega) (by omega) (by omega) (by omega)⟩, ?_, ⟨?_, fun z hz => ?_⟩, ⟨?_, fun s hs => ?_⟩, ⟨?_, fun s hs => ?_⟩, ⟨ra, cl a8 (by decide), a9.1, fun k k1 k2 => by rw [ed _ (by omega) (by omega) (by omega) (by omega) (by omega)]; exact a9.2 k k1 k2⟩, ?_⟩, (hW.stp hs1 (by simp)).stp hs2 (by decide)⟩
  · have := cl g1 (by decide)
    rw [← es] at this; exact this
  · rw [e0]; exact ⟨_, hA2⟩
  · rw [e0] at hz
    show Cl G M2 ow2 0 (va_up (y 6) (nz D) q z) (ZnC E z)
    by_cases ez : z = nz D
    · rw [ez, va_up_self]; exact hC1.stp hs2 (by decide)
    · rw [va_up_ne _ _ ez]
      have := cl (a3 z (by omega)) (by decide)
      unfold ZnC at this ⊢
      rw [ed _ (by omega) (by omega) (by omega) (by omega) (by omega), ed _ (by omega) (by omega) (by omega) (by omega) (by omega), ed _ (by omega) (by omega) (by omega) (by omega) (by omega), ed _ (by omega) (by omega) (by omega) (by omega) (by omega)]
      exact this
  · rw [e2]; exact al a4 (by decide)
  · rw [e2] at hs
    have := cl (a5 s hs) (by decide)
    unfold StC at this ⊢
    rw [ed _ (by omega) (by omega) (by omega) (by omega) (by omega), ed _ (by omega) (by omega) (by omega) (by omega) (by omega), ed _ (by omega) (by omega) (by omega) (by omega) (by omega)]
    exact this
  · rw [e3]; exact al a6 (by decide)
  · rw [e3] at hs
    have := cl (a7 s hs) (by omega)
    unfold HsC at this ⊢
    rw [ed _ (by omega) (by omega) (by omega) (by omega) (by omega), ed _ (by omega) (by omega) (by omega) (by omega) (by omega), ed _ (by omega) (by omega) (by omega) (by omega) (by omega)]
    exact this
  · obtain ⟨gl, gs, g4, g5⟩ := g3
    exact ⟨gl, gs, al g4 (by decide), fun c hc => ⟨al (g5 c hc).1 (by omega), fun j hj => (((g5 c hc).2 j hj).stp hs1 (by simp)).stp hs2 (by decide)⟩⟩
theorem R_addS (h : PST G M ow a n B t u p D l cc) (hk : ns D < 12) (hz6 : nz D ≤ 6) {v1 v2 v3 : Int32} (e0 : ns E = ns D + 1) (e1 : StC E (ns D) = .inr (7, [.int v1, .int v2, .int v3])) (ed : ∀ j, j ≠ 1 → j ≠ 27 + ns D → j ≠ 39 + ns D → j ≠ 51 + ns D → E j = D j) {b : Nat} (hb : 97 ≤ b) {Q : wM → Prop} {Xp : String → Nat → wM → Prop} (hQ : ∀ M1 ow1, Mv tQ M ow M1 ow1 → PST G M1 ow1 a n B t u p E l cc → Q M1) : B_X5_street_105 G Q Xp t v1 v2 v3 M b := by
  obtain ⟨kl, su, on, w, y, ⟨ht, ⟨v, hC, hv⟩, hE, ⟨bw, hO, hO2⟩, g1, ⟨a2, a3⟩, ⟨a4, a5⟩, ⟨a6, a7⟩, ⟨ra, a8, a9⟩, g3⟩, hW⟩ := h
  unfold B_X5_street_105
  refine oGetA.i hC.1 rfl (oGetA.i g1.1 rfl ⟨by simp; omega, fun q hq hz => S_stin hz e1 ?_⟩)
  have hs1 : Mv [] M ow (wIns M q (StC E (ns D))) (va_up ow q 0) := Mv.nw (by decide) hq _ _
  have hC1 : Cl G (wIns M q (StC E (ns D))) (va_up ow q 0) 0 q (StC E (ns D)) := Cl.nw M ow hz _ _
  generalize wIns M q (StC E (ns D)) = M1 at hs1 hC1 ⊢
  generalize va_up ow q 0 = ow1 at hs1 hC1
  obtain ⟨mc, a2'⟩ := a4.stp hs1 (by simp)
  refine isA ⟨mc, a2'⟩ ⟨92, by simp; omega, S_add a2' (by decide) (by omega) (by omega) ⟨_, hC1.1⟩ fun M2 ow2 hs2 hA2 => ?_⟩
  have hs := (tq0 hs1).tr (tq1 (x := 24) (by decide) hs2)
  have cl : ∀ {k x : Nat} {c : wE}, Cl G M ow k x c → k ≠ 24 → Cl G M2 ow2 k x c := fun h hk => (h.stp hs1 (by simp)).stp hs2 (ne1 hk)
  have al : ∀ {k x m : Nat} {g : Nat → Nat}, ALe G M ow k x m g → k ≠ 24 → ALe G M2 ow2 k x m g := fun h hk => (h.stp hs1 (by simp)).stp hs2 (ne1 hk)
  have es : suC E y = suC D y := by unfold suC; rw [ed 111 (by omega) (by omega) (by omega) (by omega), ed 112 (by omega) (by omega) (by omega) (by omega), ed 113 (by omega) (by omega) (by omega) (by omega)]
  have e2 : nz E = nz D := by unfold nz; rw [ed 0 (by omega) (by omega) (by omega) (by omega)]
  have e3 : nh E = nh D := by unfold nh; rw [ed 2 (by omega) (by omega) (by omega) (by omega)]
  refine hQ M2 ow2 hs ⟨kl, su, on, w, sY y 7 (va_up (y 7) (ns D) q), ⟨ht, ⟨v, cl hC (by decide), hv⟩, (hE.stp hs1 (by simp) (by simp) (by simp)).stp hs2 (by decide) (by decide) (by decide), ⟨bw, (hO.stp hs1 (by simp)).stp hs2 (by decide), hO2.c fun j hj => ed j (by omega) (by omega) (by omega) (by omega)⟩, ?_, ⟨?_, fun z hz => ?_⟩, ⟨?_, fun s hs => ?_⟩, ⟨?_, fun s hs => ?_⟩, ⟨ra, cl a8 (by decide), a9.1, fun k k1 k2 => by rw [ed _ (by omega) (by omega) (by omega) (by omega)]; exact a9.2 k k1 k2⟩, ?_⟩, (hW.stp hs1 (by simp)).stp hs2 (by decide)⟩
  · have := cl g1 (by decide)
    rw [← es] at this; exact this
  · rw [e2]; exact al a2 (by decide)
  · rw [e2] at hz
    have := cl (a3 z hz) (by decide)
    unfold ZnC at this ⊢
    rw [ed _ (by omega) (by omega) (by omega) (by omega), ed _ (by omega) (by omega) (by omega) (by omega), ed _ (by omega) (by omega) (by omega) (by omega), ed _ (by omega) (by omega) (by omega) (by omega)]
    exact this
  · rw [e0]; exact ⟨_, hA2⟩
  · rw [e0] at hs
    show Cl G M2 ow2 0 (va_up (y 7) (ns D) q s) (StC E s)
    by_cases ez : s = ns D
    · rw [ez, va_up_self]; exact hC1.stp hs2 (by decide)
    · rw [va_up_ne _ _ ez]
      have := cl (a5 s (by omega)) (by decide)
      unfold StC at this ⊢
      rw [ed _ (by omega) (by omega) (by omega) (by omega), ed _ (by omega) (by omega) (by omega) (by omega), ed _ (by omega) (by omega) (by omega) (by omega)]
      exact this
  · rw [e3]; exact al a6 (by decide)
  · rw [e3] at hs
    have := cl (a7 s hs) (by omega)
    unfold HsC at this ⊢
    rw [ed _ (by omega) (by omega) (by omega) (by omega), ed _ (by omega) (by omega) (by omega) (by omega), ed _ (by omega) (by omega) (by omega) (by omega)]
    exact this
  · obtain ⟨gl, gs, g4, g5⟩ := g3
    exact ⟨gl, gs, al g4 (by decide), fun c hc => ⟨al (g5 c hc).1 (by omega), fun j hj => (((g5 c hc).2 j hj).stp hs1 (by simp)).stp hs2 (by decide)⟩⟩
theorem R_addH (h : PST G M ow a n B t u p D l cc) (hk : nh D < 16) (hz6 : nz D ≤ 6) (hs12 : ns D ≤ 12) {q : Nat} (hq : Cl G M ow (100 + nh D) q (.inr (8, [.int 0, .int 0, .int 0]))) {v1 v2 v3 : Int32} (e0 : nh E = nh D + 1) (e1 : HsC E (nh D) = .inr (8, [.int v1, .int v2, .int v3])) (ed : ∀ j, j ≠ 2 → j ≠ 63 + nh D → j ≠ 79 + nh D → j ≠ 95 + nh D → E j = D j) {b : Nat} (hb : 92 ≤ b) {Q : wM → Prop} {Xp : String → Nat → wM → Prop} (hQ : ∀ M1 ow1, (∀ M0 ow0, M0 q = none → Mv tQ M0 ow0 M ow → Mv tQ M0 ow0 M1 ow1) → PST G M1 ow1 a n B t u p E l cc → Q M1) : P_X9_init G q v1 v2 v3 M (fun M23 => oIs M23 (u.2 2) 16 (∃ c26, c26 ≤ b ∧ P_J2_add G (u.2 2) (some q) c26 M23 (fun _ M25 => Q M25))) := by
  obtain ⟨kl, su, on, w, y, ⟨ht, ⟨v, hC, hv⟩, hE, ⟨bw, hO, hO2⟩, g1, ⟨a2, a3⟩, ⟨a4, a5⟩, ⟨a6, a7⟩, ⟨ra, a8, a9⟩, g3⟩, hW⟩ := h
  have eu : u = (su, y 9) := hW.2.2
  have eu2 : u.2 2 = y 9 2 := by rw [eu]
  rw [eu2]
  refine S_hin (hq.2.2 (by omega)) hq.1 e1 ?_
  have hs1 : Mv [100 + nh D] M ow (wIns M q (HsC E (nh D))) ow := Mv.wr (t0 (by omega)) (by rw [hq.2.1]; simp) hq.1 _ (fun _ _ e => by cases e; exact ⟨_, rfl⟩)
  have hC1 : Cl G (wIns M q (HsC E (nh D))) ow (100 + nh D) q (HsC E (nh D)) := hq.wr _
  have hn2 : ∀ M0 ow0, M0 q = none → Mv tQ M0 ow0 M ow → Mv tQ M0 ow0 (wIns M q (HsC E (nh D))) ow := fun M0 ow0 h0 h1 => h1.nw2 h0 _
  generalize wIns M q (HsC E (nh D)) = M1 at hs1 hC1 hn2 ⊢
  obtain ⟨mc, a2'⟩ := a6.stp hs1 (ne1 (by omega))
  refine isA ⟨mc, a2'⟩ ⟨92, hb, S_add a2' (by decide) (by omega) (by omega) ⟨_, hC1.1⟩ fun M2 ow2 hs2 hA2 => ?_⟩
  have hs : ∀ M0 ow0, M0 q = none → Mv tQ M0 ow0 M ow → Mv tQ M0 ow0 M2 ow2 := fun M0 ow0 h0 h1 => (hn2 M0 ow0 h0 h1).tr (tq1 (x := 25) (by decide) hs2)
  have cl : ∀ {k x : Nat} {c : wE}, Cl G M ow k x c → k ≠ 100 + nh D → k ≠ 25 → Cl G M2 ow2 k x c := fun h hk hk2 => (h.stp hs1 (ne1 hk)).stp hs2 (ne1 hk2)
  have al : ∀ {k x m : Nat} {g : Nat → Nat}, ALe G M ow k x m g → k ≠ 100 + nh D → k ≠ 25 → ALe G M2 ow2 k x m g := fun h hk hk2 => (h.stp hs1 (ne1 hk)).stp hs2 (ne1 hk2)
  have es : suC E y = suC D y := by unfold suC; rw [ed 111 (by omega) (by omega) (by omega) (by omega), ed 112 (by omega) (by omega) (by omega) (by omega), ed 113 (by omega) (by omega) (by omega) (by omega)]
  have e2 : nz E = nz D := by unfold nz; rw [ed 0 (by omega) (by omega) (by omega) (by omega)]
  have e3 : ns E = ns D := by unfold ns; rw [ed 1 (by omega) (by omega) (by omega) (by omega)]
  refine hQ M2 ow2 hs ⟨kl, su, on, w, sY y 8 (va_up (y 8) (nh D) q), ⟨ht, ⟨v, cl hC (by omega) (by omega), hv⟩, (hE.stp hs1 (ne1 (by omega)) (ne1 (by omega)) (ne1 (by omega))).stp hs2 (by decide) (by decide) (by decide), ⟨bw, (hO.stp hs1 (ne1 (by omega))).stp hs2 (by decide), hO2.c fun j hj => ed j (by omega) (by omega) (by omega) (by omega)⟩, ?_, ⟨?_, fun z hz => ?_⟩, ⟨?_, fun s hs => ?_⟩, ⟨?_, fun s hs => ?_⟩, ⟨ra, cl a8 (by omega) (by omega), a9.1, fun k k1 k2 => by rw [ed _ (by omega) (by omega) (by omega) (by omega)]; exact a9.2 k k1 k2⟩, ?_⟩, (hW.stp hs1 (ne1 (by omega))).stp hs2 (by decide)⟩
  · have := cl g1 (by omega) (by omega)
    rw [← es] at this; exact this
  · rw [e2]; exact al a2 (by omega) (by omega)
  · rw [e2] at hz
    have := cl (a3 z hz) (by omega) (by omega)
    unfold ZnC at this ⊢
    rw [ed _ (by omega) (by omega) (by omega) (by omega), ed _ (by omega) (by omega) (by omega) (by omega), ed _ (by omega) (by omega) (by omega) (by omega), ed _ (by omega) (by omega) (by omega) (by omega)]
    exact this
  · rw [e3]; exact al a4 (by omega) (by omega)
  · rw [e3] at hs
    have := cl (a5 s hs) (by omega) (by omega)
    unfold StC at this ⊢
    rw [ed _ (by omega) (by omega) (by omega) (by omega), ed _ (by omega) (by omega) (by omega) (by omega), ed _ (by omega) (by omega) (by omega) (by omega)]
    exact this
  · rw [e0]; exact ⟨_, hA2⟩
  · rw [e0] at hs
    show Cl G M2 ow2 (100 + s) (va_up (y 8) (nh D) q s) (HsC E s)
    by_cases ez : s = nh D
    · rw [ez, va_up_self]; exact hC1.stp hs2 (ne1 (by omega))
    · rw [va_up_ne _ _ ez]
      have := cl (a7 s (by omega)) (by omega) (by omega)
      unfold HsC at this ⊢
      rw [ed _ (by omega) (by omega) (by omega) (by omega), ed _ (by omega) (by omega) (by omega) (by omega), ed _ (by omega) (by omega) (by omega) (by omega)]
      exact this
  · obtain ⟨gl, gs, g4, g5⟩ := g3
    exact ⟨gl, gs, al g4 (by omega) (by omega), fun c hc => ⟨al (g5 c hc).1 (by omega) (by omega), fun j hj => (((g5 c hc).2 j hj).stp hs1 (ne1 (by omega))).stp hs2 (by decide)⟩⟩
end C36
