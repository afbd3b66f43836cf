set_option maxRecDepth 100000
/-! STAGE 2, component: refusals; apply, admit -/
abbrev eNN : String := "ParkingOffice$NotNow"
abbrev eNP : String := "ParkingOffice$NoPlace"
abbrev eNH : String := "ParkingOffice$NoHours"
abbrev exO : List Value := [.null, .null, .null, .null, .null, .int 0]
section C24
variable {G : wG} {M : wM} {ow : Nat → Nat}
theorem S_x15 {q : Nat} (hz : wz G ≤ q) {Q : wM → Prop} (hQ : ∀ fs, Q (wIns M q (.inr (11, fs)))) : P_X15_init G q (wIns M q (.inr (11, exO))) Q := by
  unfold P_X15_init P_X14_init_X15 P_J14_init_2_X15 P_J13_init_3_X15
  refine oPut.f (Nat.le_of_ble_eq_true rfl) hz ?_
  intro r2
  refine oPut.f (Nat.le_of_ble_eq_true rfl) hz ?_
  intro r4
  refine oPut.f (Nat.le_of_ble_eq_true rfl) hz (oIf.y rfl ?_)
  refine oPut.f (Nat.le_of_ble_eq_true rfl) hz ?_
  unfold B_J13_init_3_X15_41
  refine oPut.f (Nat.le_of_ble_eq_true rfl) hz ?_
  refine oPut.f (Nat.le_of_ble_eq_true rfl) hz (oIf.y rfl ?_)
  refine oPut.f (Nat.le_of_ble_eq_true rfl) hz ?_
  exact hQ _
theorem S_x16 {q : Nat} {p : Option Nat} (hz : wz G ≤ q) {Q : wM → Prop} (hQ : ∀ fs, Q (wIns M q (.inr (12, fs)))) : P_X16_init G q p (wIns M q (.inr (12, exO))) Q := by
  unfold P_X16_init P_X14_init_X16 P_J14_init_2_X16 P_J13_init_3_X16
  refine oPut.f (Nat.le_of_ble_eq_true rfl) hz ?_
  intro r2
  refine oPut.f (Nat.le_of_ble_eq_true rfl) hz ?_
  intro r4
  refine oPut.f (Nat.le_of_ble_eq_true rfl) hz (oIf.y rfl ?_)
  refine oPut.f (Nat.le_of_ble_eq_true rfl) hz ?_
  unfold B_J13_init_3_X16_41
  refine oPut.f (Nat.le_of_ble_eq_true rfl) hz ?_
  refine oPut.f (Nat.le_of_ble_eq_true rfl) hz (oIf.y rfl ?_)
  refine oPut.f (Nat.le_of_ble_eq_true rfl) hz ?_
  exact hQ _
theorem S_x17 {q : Nat} (hz : wz G ≤ q) {Q : wM → Prop} (hQ : ∀ fs, Q (wIns M q (.inr (13, fs)))) : P_X17_init G q (wIns M q (.inr (13, exO))) Q := by
  unfold P_X17_init P_X14_init_X17 P_J14_init_2_X17 P_J13_init_3_X17
  refine oPut.f (Nat.le_of_ble_eq_true rfl) hz ?_
  intro r2
  refine oPut.f (Nat.le_of_ble_eq_true rfl) hz ?_
  intro r4
  refine oPut.f (Nat.le_of_ble_eq_true rfl) hz (oIf.y rfl ?_)
  refine oPut.f (Nat.le_of_ble_eq_true rfl) hz ?_
  unfold B_J13_init_3_X17_41
  refine oPut.f (Nat.le_of_ble_eq_true rfl) hz ?_
  refine oPut.f (Nat.le_of_ble_eq_true rfl) hz (oIf.y rfl ?_)
  refine oPut.f (Nat.le_of_ble_eq_true rfl) hz ?_
  exact hQ _
theorem S_nNP {b : Nat} (hb : 7 ≤ b) {κ : Nat → wM → Nat → Prop} (hp : ∀ q M1 ow1, Mv [1] M ow M1 ow1 → κ q M1 (b - 7)) : oNew G M b 11 exO (fun a1 M2 b3 => P_X15_init G a1 M2 (fun M4 => (∃ fs, M4 a1 = some (.inr (11, fs))) ∧ wz G ≤ a1 ∧ κ a1 M4 b3)) :=
  ⟨hb, fun q hq hz => S_x15 hz fun fs => ⟨⟨fs, wIns_eq _ _ _⟩, hz, hp q _ (va_up ow q 1) (Mv.nw (by decide) hq _ _)⟩⟩
theorem S_nNN {b : Nat} {p : Option Nat} (hb : 7 ≤ b) {κ : Nat → wM → Nat → Prop} (hp : ∀ q M1 ow1, Mv [1] M ow M1 ow1 → κ q M1 (b - 7)) : oNew G M b 12 exO (fun a1 M2 b3 => P_X16_init G a1 p M2 (fun M4 => (∃ fs, M4 a1 = some (.inr (12, fs))) ∧ wz G ≤ a1 ∧ κ a1 M4 b3)) :=
  ⟨hb, fun q hq hz => S_x16 hz fun fs => ⟨⟨fs, wIns_eq _ _ _⟩, hz, hp q _ (va_up ow q 1) (Mv.nw (by decide) hq _ _)⟩⟩
theorem S_nNH {b : Nat} (hb : 7 ≤ b) {κ : Nat → wM → Nat → Prop} (hp : ∀ q M1 ow1, Mv [1] M ow M1 ow1 → κ q M1 (b - 7)) : oNew G M b 13 exO (fun a1 M2 b3 => P_X17_init G a1 M2 (fun M4 => (∃ fs, M4 a1 = some (.inr (13, fs))) ∧ wz G ≤ a1 ∧ κ a1 M4 b3)) :=
  ⟨hb, fun q hq hz => S_x17 hz fun fs => ⟨⟨fs, wIns_eq _ _ _⟩, hz, hp q _ (va_up ow q 1) (Mv.nw (by decide) hq _ _)⟩⟩
end C24
theorem CP.s1 {G : wG} {l : Nat → Nat → Int64} {M M1 : wM} {ow ow1 : Nat → Nat} {a m : Nat} {S N H V : Rw} {b0 : Bool} {n : Nat} {B : Rw} {ec eo : Int32} {w : Nat} {O : Rw} (h : CP G l M ow tF a S N m H b0 V n B ec eo w O) (hs : Mv [1] M ow M1 ow1) : CP G l M1 ow1 tF a S N m H b0 V n B ec eo w O := by
  obtain ⟨bk, sv, dq, bf, sb, y, h1, h2, h3, h4, h5, h6⟩ := h
  exact ⟨bk, sv, dq, bf, sb, y, h1.stp hs (by decide), h2.z hs, h3.stp hs (by decide), h4.stp hs, h5.stp hs (by decide), h6.stp hs (by decide)⟩
theorem tR1 {M M1 : wM} {ow ow1 : Nat → Nat} (h : Mv [1] M ow M1 ow1) : Mv tR M ow M1 ow1 := h.mono (by decide) (by decide)
section C24B
variable {G : wG} {l : Nat → Nat → Int64} {M : wM} {ow : Nat → Nat} {τ : Nat → Nat} {a : Nat} {y : Nat → Nat → Nat} {S N : Rw}
def apOk (S N : Rw) (k : Nat) (x : Int32) : Prop := nI (activeH N (nI k)) < S (79 + k) ∧ activeP N x = -1 ∧ np N < 60
theorem activeP_c {N : Rw} (hn : np N ≤ 60) (x : Int32) : activeP N x = -1 ↔ cnt (qPA N x) (np N) = 0 := by
  rcases srch_c (p := qPA N x) (n := np N) (by omega) with ⟨h1, h2⟩ | ⟨j, h1, h2, h3, -⟩
  · exact ⟨fun _ => cnt_0 h2, fun _ => h1⟩
  · refine ⟨fun e => ?_, fun e => ?_⟩
    · exact absurd (h3.symm.trans e) (nI_neg (by omega))
    · have := cnt_pos h1 h2; omega
theorem C_checkApply (h : BR G l M ow τ a y S N) (hi : I1 τ) (hg : OK S N) {k : Nat} (hk : k < nh S) {x : Int32} {b : Nat} (hb : 100 ≤ b) {Q : wM → Prop} {Xp : String → Nat → wM → Prop} (hQ : apOk S N k x → ∀ M1 ow1, Mv [1] M ow M1 ow1 → Q M1) (hX : ¬ apOk S N k x → ∀ q M1 ow1, Mv [1] M ow M1 ow1 → Xp eNN q M1) : P_X2_checkApply G a (nI k) x b M Q Xp := by
  have hbd := hg.b
  have bad : ∀ M1 ow1 b', Mv [1] M ow M1 ow1 → 14 ≤ b' → ¬ apOk S N k x → B_X2_checkApply_46 G Q Xp M1 b' := fun M1 ow1 b' hs hb' hn => by
    unfold B_X2_checkApply_46
    refine S_nNP (ow := ow1) (by omega) fun q M2 ow2 hs2 => ?_
    unfold B_X2_checkApply_79
    exact S_nNN (ow := ow2) (by omega) fun q2 M3 ow3 hs3 => hX hn q2 M3 ow3 ((hs.tr hs2).tr hs3)
  refine oGetA.i h.bk rfl (isA h.pl (E_size h.pl (oIf.c (fun c => ?_) (fun c => ?_))))
  · refine bad M ow b (Mv.rf (by decide)) (by omega) fun e => ?_
    have := nI_inj (b := 60) (by omega) (by decide) c
    have := e.2.2
    omega
  · refine ⟨by omega, fun q hq hz => ?_⟩
    have hs : Mv [1] M ow (wIns M q (.inl (.object "L2", 1, .inl (fun _ => nI k)))) (va_up ow q 1) := Mv.nw (by decide) hq _ _
    have hl2 : wIns M q (.inl (.object "L2", 1, .inl (fun _ => nI k))) q = some (.inl (.object "L2", 1, .inl (fun _ => nI k))) := wIns_eq _ _ _
    generalize wIns M q (.inl (.object "L2", 1, .inl (fun _ => nI k))) = M1 at hs hl2 ⊢
    generalize va_up ow q 1 = ow1 at hs
    have h2 := h.stp hs hi
    refine oIs.i h2.bk (C_many h2 hg (fun p hp Q hQ => C_w2 h2 hl2 hz hp Q hQ) (oGetA.i h2.bk rfl (oGetA.i h2.su rfl (isA h2.hl (E_get h2.hl hk (kH h2 hk (oRef.s (gH1 h2 hk (oIf.c (fun c2 => ?_) (fun c2 => ?_))))))))))
    · refine ⟨by omega, fun q2 hq2 hz2 => ?_⟩
      have hs2 : Mv [1] M1 ow1 (wIns M1 q2 (.inl (.object "L3", 1, .inl (fun _ => x)))) (va_up ow1 q2 1) := Mv.nw (by decide) hq2 _ _
      have hl3 : wIns M1 q2 (.inl (.object "L3", 1, .inl (fun _ => x))) q2 = some (.inl (.object "L3", 1, .inl (fun _ => x))) := wIns_eq _ _ _
      generalize wIns M1 q2 (.inl (.object "L3", 1, .inl (fun _ => x))) = M2 at hs2 hl3 ⊢
      generalize va_up ow1 q2 1 = ow2 at hs2
      have h3 := h2.stp hs2 hi
      have hac := activeP_c hbd.1 x
      have hcl : cnt (qPA N x) (np N) ≤ np N := cnt_le _ _
      refine oIs.i h3.bk (C_many h3 hg (fun p hp Q hQ => C_w3 h3 hl3 hz2 hp Q hQ) (oIf.c (fun c3 => ?_) (fun c3 => ?_)))
      · have e0 : cnt (qPA N x) (np N) = 0 := by
          rcases Nat.eq_zero_or_pos (cnt (qPA N x) (np N)) with z | z
          · exact z
          · exact absurd c3 (nI_nle z (by omega))
        refine hQ ⟨c2, hac.mpr e0, ?_⟩ M2 ow2 (hs.tr hs2)
        rcases Nat.lt_or_ge (np N) 60 with z | z
        · exact z
        · exact absurd (congrArg nI (show np N = 60 by omega)) c
      · refine S_nNN (ow := ow2) (by omega) fun q3 M3 ow3 hs3 => hX (fun e => c3 ?_) q3 M3 ow3 ((hs.tr hs2).tr hs3)
        show nI (cnt (qPA N x) (np N)) ≤ 0
        rw [hac.mp e.2.1]; decide
    · exact bad M1 ow1 _ hs (by omega) fun e => c2 e.1
def adOk (N : Rw) (k : Nat) (x c : Int32) : Prop := c ≤ N (23 + k) ∧ visitsH N (nI k) < 2 ∧ visiting N x = false ∧ nv N < 60
theorem C_checkVisit (h : BR G l M ow τ a y S N) (hg : OK S N) (hv : VB N) {k : Nat} (hk : k < nh S) (h2v : visitsH N (nI k) ≤ 2) {x c : Int32} {b : Nat} (hb : 100 ≤ b) {Q : wM → Prop} {Xp : String → Nat → wM → Prop} (hQ : adOk N k x c → Q M) (hX : ¬ adOk N k x c → ∀ q M1 ow1, Mv [1] M ow M1 ow1 → Xp eNP q M1 ∧ Xp eNH q M1) : P_X2_checkVisit G a (nI k) x c b M Q Xp := by
  have hbd := hg.b
  have bad : ¬ adOk N k x c → B_X2_checkVisit_31 G Q Xp M b := fun hn => by
    unfold B_X2_checkVisit_31
    exact S_nNP (ow := ow) (by omega) fun q M2 ow2 hs2 => (hX hn q M2 ow2 hs2).1
  refine oIs.i h.bk (C_runningAt h hg hv (oIf.c (fun c1 => bad fun e => ?_) (fun c1 => ?_)))
  · have := nI_inj (b := 2) (by omega) (by decide) c1
    have := e.2.1
    omega
  have c1' : visitsH N (nI k) < 2 := by
    rcases Nat.lt_or_ge (visitsH N (nI k)) 2 with z | z
    · exact z
    · exact absurd (congrArg nI (show visitsH N (nI k) = 2 by omega)) c1
  refine oIs.i h.bk (C_isVisiting h hg hv (bl _ (fun c2 => bad fun e => ?_) (fun c2 => ?_)))
  · have e2 := e.2.2.1; rw [c2] at e2; exact absurd e2 (by decide)
  refine oGetA.i h.bk rfl (isA h.vl (E_size h.vl (oIf.c (fun c3 => bad fun e => ?_) (fun c3 => ?_))))
  · have := nI_inj (b := 60) (by omega) (by decide) c3
    have := e.2.2.2
    omega
  have c3' : nv N < 60 := by
    rcases Nat.lt_or_ge (nv N) 60 with z | z
    · exact z
    · exact absurd (congrArg nI (show nv N = 60 by omega)) c3
  refine oGetA.i h.bk rfl (C_ldH h hg hk (oIf.c (fun c4 => hQ ⟨c4, c1', c2, c3'⟩) (fun c4 => ?_)))
  exact S_nNH (ow := ow) (by omega) fun q M2 ow2 hs2 => (hX (fun e => c4 e.1) q M2 ow2 hs2).2
theorem C_checkHours {z : Int32} {bq : Nat} (hb : 7 ≤ bq) {Q : wM → Prop} {Xp : String → Nat → wM → Prop} (h1 : inR z 1 24 = true → Q M) (h2 : inR z 1 24 = false → ∀ q, Xp eArg q M) : P_X1_checkHours G z bq M Q Xp :=
  S_inR ⟨7, hb, C_ckA (Nat.le_refl _) (fun c => h1 c) (fun c q => ⟨rfl, h2 c q⟩)⟩
end C24B
