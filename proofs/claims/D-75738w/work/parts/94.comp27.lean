set_option maxRecDepth 100000
/-! STAGE 2, component: leave, inspect -/
/-- plates of parked cars differ -/
def PD (N : Rw) : Prop := ∀ c d, c < nc N → d < nc N → cP N c 0 = cP N d 0 → c = d
section C27A
variable {G : wG} {l : Nat → Nat → Int64} {M M1 : wM} {ow ow1 : Nat → Nat} {a : Nat} {y : Nat → Nat → Nat} {S N : Rw}
theorem BR.delC (h : BR G l M ow tL a y S N) (hb : Bd S N) (h3 : N 3 = nI (nc N)) {c : Nat} (hc : c < nc N) (hs : Mv [tL 5, 1] M ow M1 ow1) {nd : Nat → Nat} {mc : Int32} (hl : LL G M1 ow1 (tL 5) (y 0 3) (nc N - 1) nd (delN (y 4) c) mc) : BR G l M1 ow1 tL a (sY (sY y 3 nd) 4 (delN (y 4) c)) S (leaveN N c) := by
  obtain ⟨q1, q2, q3, q4, q5, q6, q7, q8, q9⟩ := h
  have hd : ∀ j, j ≠ 3 → (j < 700 ∨ 940 ≤ j) → leaveN N c j = N j := fun j a b => leaveN_o a (by omega)
  refine ⟨?_, q2.stp hs (by decide), (BP.stp q3 hs (by decide) (by decide)).val hb.1 (hd 1 (by omega) (by omega)) fun j _ _ => hd j (by omega) (by omega), (BV.stp q4 hs (by decide) (by decide)).val hb.2.1 (hd 2 (by omega) (by omega)) fun j _ _ => hd j (by omega) (by omega), ?_, (BF.stp q6 hs (by decide)).val hb.2.2.2.1 (hd 4 (by omega) (by omega)) fun j _ _ => hd j (by omega) (by omega), (BB.stp q7 hs (by decide)).val fun j _ _ => hd j (by omega) (by omega), (BL.stp q8 hs (by decide)).val hb.2.2.2.2.1 fun j _ _ => hd j (by omega) (by omega), (BH.stp q9 hs (by decide)).val hb.2.2.2.2.2.2 fun j _ _ => hd j (by omega) (by omega)⟩
  · unfold bkC; rw [hd 0 (by omega) (by omega)]; exact q1.stp hs (by decide)
  · rw [leaveN_nc h3 hc hb.2.2.1]
    refine ⟨⟨_, hl⟩, fun d hd => ?_⟩
    show Cl G M1 ow1 0 (delN (y 4) c d) (CrC (leaveN N c) d)
    by_cases e : d < c
    · have ec : CrC (leaveN N c) d = CrC N d := CrC_c fun k hk => by rw [leaveN_c hd hk, if_pos e]
      rw [delN_l e, ec]
      exact (q5.2 d (by omega)).stp hs hs.1
    · have ec : CrC (leaveN N c) d = CrC N (d + 1) := by
        unfold CrC
        rw [leaveN_c hd (by decide), leaveN_c hd (by decide), leaveN_c hd (by decide), if_neg e, if_neg e, if_neg e]
      rw [delN_g (by omega), ec]
      exact (q5.2 (d + 1) (by omega)).stp hs hs.1
theorem cars_ne (h : BR G l M ow tF a y S N) (hp : PD N) {c d : Nat} (hc : c < nc N) (hd : d < nc N) (hne : c ≠ d) : y 4 c ≠ y 4 d := fun e => by
  have h1 := h.co hc
  have h2 := h.co hd
  rw [e, h2] at h1
  simp only [Option.some.injEq, Sum.inr.injEq, Prod.mk.injEq, List.cons.injEq, Value.int.injEq, true_and, and_true] at h1
  exact hne (hp c d hc hd h1.1.symm)
end C27A
section C27
variable {G : wG} {l : Nat → Nat → Int64} {M : wM} {ow : Nat → Nat} {a m : Nat} {S N H V : Rw} {b0 : Bool} {n : Nat} {B : Rw} {ec eo : Int32} {w : Nat} {O : Rw}
theorem C_leave (h : CP G l M ow tF a S N m H b0 V n B ec eo w O) (hg : OK S N) (hp : PD N) (hh : ∀ k, k < m → OK S (rowH H k)) (hm : m ≤ 10) (hc : Cl G M ow 0 (G.2.2.2 1) (oarr 0 (fun _ => none))) {A : Rw} (hA : EqR N A) {x : Int32} {b : Nat} (hb : 32000 ≤ b) {Q : Int32 → wM → Prop} {Xp : String → Nat → wM → Prop} (hf1 : c_leave N x = 1 → ∀ M1 ow1, Mv [1] M ow M1 ow1 → ∀ q, Xp eSt q M1)
    (hQ : c_leave N x = 0 → ∀ M1 ow1, Mv tR M ow M1 ow1 → CP G l M1 ow1 tL a S (leaveN N (carOf N x).toNatClampNeg) (keepN m) (keepH m A H) b0 V n B ec eo w O → Q (N 0 - cP N (carOf N x).toNatClampNeg 2) M1) : P_X1_leave G a x b M Q Xp := by
  have hbd := hg.b
  unfold c_leave at hf1 hQ
  obtain ⟨bk, sv, dq, bf, sb, y, h1, h2, h3, h4, h5, h6⟩ := h
  refine oGetA.i h1.1 rfl (oIs.i h2.bk ⟨6, by omega, C_carOf h2 i1F hg (Nat.le_refl _) fun M1 ow1 hs1 => ?_⟩)
  rcases carOf_sp hbd.2.2.1 x with ⟨c, -⟩ | ⟨j, hj, -, c⟩
  · rw [if_pos c] at hf1 ⊢
    refine oNull.n ⟨7, by omega, C_ckS (b := false) (Nat.le_refl _) (fun c => by cases c) (fun _ q => ⟨rfl, hf1 rfl M1 ow1 hs1 q⟩)⟩
  have c2 : ¬ carOf N x = -1 := by rw [c]; exact nI_neg (by omega)
  rw [if_neg c2] at hQ ⊢
  rw [c, nI_clamp (by omega)] at hQ ⊢
  have hQ := hQ rfl
  refine oNull.s ⟨7, by omega, C_ckS (b := true) (Nat.le_refl _) (fun _ => ?_) (fun c => by cases c)⟩
  have hof1 := h1.stp hs1 (by decide)
  refine oIs.i hof1.1 ⟨30100, by omega, C_rememberK hof1 (h2.z hs1) (h3.stp hs1 (by decide)) (h4.stp hs1) (h5.stp hs1 (by decide)) (h6.stp hs1 (by decide)) hg hh hm (hc.stp hs1 (by decide)) hA (Nat.le_refl _) fun M2 ow2 q y2 hs2 k1 k2 k3 k4 k5 k6 ky => ?_⟩
  refine oGetA.i k1.1 rfl (oGetA.i k2.bk rfl (isL k2.cl ⟨6, by omega, C_cars k2 i1L hg (Nat.le_refl _) fun it mc M3 ow3 hs3 hl3 hI3 => ?_⟩))
  have hne : ∀ i, i < nc N → i ≠ j → y2 4 i ≠ y 4 j := fun i hi hij e => cars_ne h2 hp hi hj hij ((ky i hi).symm.trans e)
  have key := st_loop (F := fun n t => (t ≤ j → ∀ M5 ow5 lr (bq : Nat), Mv [1] M3 ow3 M5 ow5 → Cl G M5 ow5 1 it (liG lr (y2 3) (nc N) (y2 0 3) t mc) → L_X1_leave_36 G Q Xp n a (some (y 4 j)) (some it) M5 bq) ∧ (j < t → ∀ M5 ow5 lr (bq : Nat), Mv [tL 5, 1] M3 ow3 M5 ow5 → LL G M5 ow5 (tL 5) (y2 0 3) (nc N - 1) (delN (y2 3) j) (delN (y2 4) j) (mc + 1) → BR G l M5 ow5 tL q (sY (sY y2 3 (delN (y2 3) j)) 4 (delN (y2 4) j)) S (leaveN N j) → Cl G M5 ow5 1 it (liG lr (delN (y2 3) j) (nc N - 1) (y2 0 3) (t - 1) (mc + 1)) → L_X1_leave_36 G Q Xp n a (some (y 4 j)) (some it) M5 bq)) (N := nc N) (fun n => ⟨fun z => by omega, fun _ M5 ow5 lr bq hs5 hl5 r5 hI5 => ?_⟩) (fun n t ht ih => ⟨fun z M5 ow5 lr bq hs5 hI5 => ?_, fun z M5 ow5 lr bq hs5 hl5 r5 hI5 => ?_⟩) 0 (Nat.zero_le _)
  · obtain ⟨n, hn⟩ := key
    exact ⟨n, hn.1 (Nat.zero_le _) M3 ow3 _ _ (Mv.rf (by decide)) hI3⟩
  · unfold L_X1_leave_36; unfold B_X1_leave_36
    refine oRef.s (oIs.i hI5.1 (S_lihasG hl5 (Nat.le_refl _) hI5.1 ?_))
    rw [decide_eq_false (Nat.lt_irrefl _)]
    have s45 : Mv tR M3 ow3 M5 ow5 := hs5.mono (by decide) (by decide)
    have s25 : Mv [1, 15] M2 ow2 M5 ow5 := (hs3.mono (by decide) (by decide)).tr (hs5.mono (by decide) (by decide))
    have k15 := k1.stp s25 (by decide)
    have e0 : leaveN N j 0 = N 0 := leaveN_o (by omega) (by omega)
    have old := (h2.z hs1).z (hs2.tr ((tR1 hs3).tr s45))
    refine oIf.n (by decide) (oGetA.i k15.1 rfl (oGetI.i r5.bk rfl (oRef.s (gC2 old hj ?_))))
    rw [e0]
    exact hQ M5 ow5 ((tR1 hs1).tr (hs2.tr ((tR1 hs3).tr s45))) ⟨q, sv, dq, bf, sb, _, k15, r5, k3.stp s25 (by decide), k4.stp s25, k5.stp s25 (by decide), k6.stp s25 (by decide)⟩
  · unfold L_X1_leave_36; unfold B_X1_leave_36
    have hl5 := hl3.stp hs5 (by decide)
    refine oRef.s (oIs.i hI5.1 (S_lihasG hl5 (Nat.le_of_lt ht) hI5.1 ?_))
    rw [decide_eq_true ht]
    refine oIf.y rfl (oIs.i hI5.1 (S_linextG hl5 ht hI5 (by decide) fun M6 e6 hs6 hI6 => ?_))
    by_cases e : t = j
    · subst e
      refine oIf.y (by rw [ky t hj]) (oIs.i hI6.1 ?_)
      have hl6 := hl5.stp hs6 (by decide)
      have r6 := ((k2.i hs3).i hs5).i hs6
      refine S_liremove hl6 (by decide) hj hI6 (by decide) (by decide) fun M7 hs7 hl7 hI7 => ?_
      have r7 := r6.delC hbd hg.2.2.2.1.1 hj hs7 hl7
      exact ih.2 (by omega) M7 ow5 none bq (((hs5.tr hs6).mono (by decide) (by decide)).tr hs7) hl7 r7 (by rw [Nat.add_sub_cancel]; exact hI7)
    · refine oIf.n (fun e2 => hne t ht e (Option.some.inj e2)) ?_
      exact ih.1 (by omega) M6 ow5 _ bq (hs5.tr hs6) hI6
  · unfold L_X1_leave_36; unfold B_X1_leave_36
    refine oRef.s (oIs.i hI5.1 (S_lihasG hl5 (by omega) hI5.1 ?_))
    rw [decide_eq_true (show t - 1 < nc N - 1 by omega)]
    refine oIf.y rfl (oIs.i hI5.1 (S_linextG hl5 (by omega) hI5 (by decide) fun M6 e6 hs6 hI6 => oIf.n (fun e => ?_) ?_))
    · rw [delN_g (by omega)] at e
      exact hne (t - 1 + 1) (by omega) (by omega) (Option.some.inj e)
    · exact ih.2 (by omega) M6 ow5 _ bq (hs5.tr (hs6.mono (by decide) (by decide))) (hl5.stp hs6 (by decide)) (r5.i hs6) (by rw [show t + 1 - 1 = t - 1 + 1 by omega]; exact hI6)
end C27
theorem S_fin {G : wG} {M : wM} {q : Nat} {p1 p2 p3 p4 p5 p6 : Int32} {v0 v1 v2 v3 v4 v5 : Value} {E : wE} {κ : wM → Prop} (hz : wz G ≤ q) (hE : E = .inr (15, [.int p1, .int p2, .int p3, .int p4, .int p5, .int p6])) (hp : κ (wIns M q E)) : P_X19_init G q p1 p2 p3 p4 p5 p6 (wIns M q (.inr (15, [v0, v1, v2, v3, v4, v5]))) κ := by
  subst hE
  unfold P_X19_init
  exact oPut.f (Nat.le_of_ble_eq_true rfl) hz (oPut.f (Nat.le_of_ble_eq_true rfl) hz (oPut.f (Nat.le_of_ble_eq_true rfl) hz (oPut.f (Nat.le_of_ble_eq_true rfl) hz (oPut.f (Nat.le_of_ble_eq_true rfl) hz (oPut.f (Nat.le_of_ble_eq_true rfl) hz hp)))))
section C27B
variable {G : wG} {l : Nat → Nat → Int64} {M : wM} {ow : Nat → Nat} {a : Nat} {y : Nat → Nat → Nat} {S N : Rw}
theorem C_inspectB (h : BR G l M ow tL a y S N) (hg : OK S N) (hv : VB N) (hf : FT N) (hc : nc N ≤ 24) {z : Nat} {b : Nat} (hb : 8000 ≤ b) {Q : Int32 → wM → Prop} (hQ : ∀ M1 ow1 y1, Mv (lvT tL ++ [1]) M ow M1 ow1 → BR G l M1 ow1 tL a y1 S (inspN S N (nI z)) → Q (inspN S N (nI z) 4 - N 4) M1) : P_X2_inspect G a (nI z) b M Q := by
  have hbd := hg.b
  have T0 : 0 ∉ lvT tL ++ [1] := by decide
  refine oGetA.i h.bk rfl (isA h.fl (E_size h.fl (oGetA.i h.bk rfl (isL h.cl ⟨6, by omega, C_cars h i1L hg (Nat.le_refl _) fun it mc M1 ow1 hs1 hl1 hI1 => ?_⟩))))
  have inv := inspI_k (S := S) (N := N) (s := nI z) hg hv hf
  have key := st_loop (F := fun n k => ∀ M2 ow2 y2 b, 310 * (nc N - k) ≤ b → Mv (lvT tL ++ [1]) M ow M2 ow2 → LL G M2 ow2 (tL 5) (y 0 3) (nc N) (y 3) (y 4) mc → Cl G M2 ow2 1 it (liC (y 3) (nc N) (y 0 3) k mc) → BR G l M2 ow2 tL a y2 S (fo (inspS S (nI z)) N k) → y2 4 = y 4 → L_X2_inspect_18 G Q n a (nI z) (nI (nf N)) (some it) M2 b) (N := nc N) (fun n M2 ow2 y2 b hb2 hs2 hl2 hI2 h2 ey => ?_) (fun n k hk ih M2 ow2 y2 b hb2 hs2 hl2 hI2 h2 ey => ?_) 0 (Nat.zero_le _)
  · obtain ⟨n, hn⟩ := key
    exact ⟨n, hn M1 ow1 y _ (by omega) (hs1.mono (by decide) T0) hl1 hI1 (h.i hs1) rfl⟩
  · unfold L_X2_inspect_18; unfold B_X2_inspect_18
    refine oRef.s (oIs.i hI2.1 (S_lihas hl2 (Nat.le_refl _) hI2.1 ?_))
    rw [decide_eq_false (Nat.lt_irrefl _)]
    refine oIf.n (by decide) (oGetA.i h2.bk rfl (isA h2.fl (E_size h2.fl ?_)))
    have hq := hQ M2 ow2 y2 hs2 h2
    have e4 := (inv (nc N) (Nat.le_refl _)).1.2.2.2.2.1.1
    unfold inspN at hq
    rw [e4, hg.2.2.2.2.1.1] at hq
    exact hq
  · unfold L_X2_inspect_18; unfold B_X2_inspect_18
    obtain ⟨gk, vk, fk, nk, ck, -⟩ := inv k (by omega)
    have e0 : fo (inspS S (nI z)) N (k + 1) = inspS S (nI z) k (fo (inspS S (nI z)) N k) := rfl
    rw [e0] at ih
    generalize fo (inspS S (nI z)) N k = Nk at h2 gk vk fk nk ck ih
    have bk := gk.b
    have hkk : k < nc Nk := by rw [nk]; exact hk
    refine oRef.s (oIs.i hI2.1 (S_lihas hl2 (Nat.le_of_lt hk) hI2.1 ?_))
    rw [decide_eq_true hk]
    refine oIf.y rfl (oIs.i hI2.1 (S_linext hl2 hk hI2 (by decide) fun M3 e3 hs3 hI3 => ?_))
    have h3 := h2.i hs3
    have hl3 := hl2.stp hs3 (by decide)
    have s3 : Mv (lvT tL ++ [1]) M ow M3 ow2 := hs2.tr (hs3.mono (by decide) T0)
    have no : inspS S (nI z) k Nk = Nk → B_X2_inspect_118 G (L_X2_inspect_18 G Q n) Q a (nI z) (nI (nf N)) it M3 b := fun e => by
      unfold B_X2_inspect_118
      rw [e] at ih
      exact ih M3 ow2 y2 b (by omega) s3 hl3 hI3 h3 ey
    obtain ⟨r, hr, er⟩ := finedC_v S Nk k
    rw [← ey]
    refine kC h3 hkk (oRef.s (gC1 h3 hkk (oIf.c (fun c => ?_) (fun c => ?_))))
    · refine oIs.i h3.bk (C_fineRule h3 gk vk fk hkk ?_)
      rw [er]
      refine oIf.c (fun c2 => no ?_) (fun c2 => ?_)
      · unfold inspS
        rw [if_neg]
        rintro ⟨-, -, e⟩
        rw [er] at e
        by_cases r0 : r = 0
        · subst r0; exact e rfl
        · exact nI_nle (n := r) (by omega) (by omega) c2
      have r0 : 0 < r := by
        rcases Nat.eq_zero_or_pos r with e | e
        · subst e; exact absurd (by decide) c2
        · exact e
      refine oGetA.i h3.bk rfl (isA h3.fl (E_size h3.fl (oIf.c (fun c3 => no ?_) (fun c3 => ?_))))
      · unfold inspS
        rw [if_neg]
        rintro ⟨-, e, -⟩
        apply e
        have : 99 ≤ nf Nk := (nI_leI (a := 99) (b := nf Nk) (by decide) (by omega)).mp c3
        rw [gk.2.2.2.2.1.1, show nf Nk = 99 by omega]; rfl
      have hn : nf Nk < 99 := by
        rcases Nat.lt_or_ge (nf Nk) 99 with e | e
        · exact e
        · exact absurd ((nI_leI (a := 99) (b := nf Nk) (by decide) (by omega)).mpr e) c3
      have eS : inspS S (nI z) k Nk = fineN Nk k (nI r) := by
        have hA : ¬ Nk 4 = 99 := fun e => by
          have := nI_inj (b := 99) (by omega) (by decide) (gk.2.2.2.2.1.1.symm.trans e)
          omega
        have hB : ¬ finedC S Nk k = 0 := fun e => nI_ne0 r0 (by omega) (er.symm.trans e)
        unfold inspS
        rw [if_pos ⟨c, hA, hB⟩, er]
      rw [eS] at ih
      clear no
      refine oGetA.i h3.bk rfl ⟨by simp; omega, fun q hq hz => ?_⟩
      have hN4 : ∀ fs, Mv [] M3 ow2 (wIns M3 q (.inr (15, fs))) (va_up ow2 q 0) := fun fs => Mv.nw (by decide) hq _ _
      have n4 := h3.stp (hN4 [.int 0, .int 0, .int 0, .int 0, .int 0, .int 0]) (fun _ _ => by simp)
      obtain ⟨ra, ha, -, ha2⟩ := n4.2.1.2.2.2.2.1
      refine gC0 n4 hkk (oGetI.i n4.bk rfl (oGetA.i n4.bk rfl (oGetA.i n4.su rfl (oIald.e rfl ha.1 (by omega) (by decide) ?_))))
      rw [ha2 r r0 hr]
      have hN : FnC S (fineN Nk k (nI r)) (nf Nk) = .inr (15, [.int (cP Nk k 0), .int (nI z), .int (Nk 0), .int (nI r), .int (S (113 + r)), .int 0]) := by
        have ea : amt S (nI r) = S (113 + r) := by unfold amt; rw [nI_clamp (by omega)]
        unfold FnC
        rw [fineN_f (by decide), fineN_f (by decide), fineN_f (by decide), fineN_f (by decide), fineN_f (by decide)]
        simp only [if_true, if_pos]
        rw [← ea, ← c]
        rfl
      have hs5 := hN4 [.int (cP Nk k 0), .int (nI z), .int (Nk 0), .int (nI r), .int (S (113 + r)), .int 0]
      have hC5 : Cl G (wIns M3 q (FnC S (fineN Nk k (nI r)) (nf Nk))) (va_up ow2 q 0) 0 q (FnC S (fineN Nk k (nI r)) (nf Nk)) := Cl.nw M3 ow2 hz _ _
      rw [← hN] at hs5
      refine S_fin hz hN ?_
      generalize wIns M3 q (FnC S (fineN Nk k (nI r)) (nf Nk)) = M5 at hs5 hC5 ⊢
      generalize va_up ow2 q 0 = ow5 at hs5 hC5
      have r5 := h3.stp hs5 (fun _ _ => by simp)
      refine isA r5.fl ⟨300, by simp; omega, C_addF r5 lvL bk hC5 hn (by rw [fineN_4, gk.2.2.2.2.1.1, nI_1]) (fun j j1 j2 => fineN_o j1 j2) (Nat.le_refl _) fun M6 ow6 hs6 hr6 => ?_⟩
      unfold B_X2_inspect_118
      refine ih M6 ow6 _ _ (by simp; omega) ((s3.tr (hs5.mono (by simp) T0)).tr (hs6.mono (by decide) T0)) ((hl3.stp hs5 (by simp)).stp hs6 (by decide)) ((hI3.stp hs5 (by simp)).stp hs6 (by decide)) hr6 ey
    · unfold B_X2_inspect_57
      refine oIf.y (by decide) (no ?_)
      unfold inspS
      rw [if_neg (fun e => c e.1)]
end C27B
section C27C
variable {G : wG} {l : Nat → Nat → Int64} {M : wM} {ow : Nat → Nat} {a m : Nat} {S N H V : Rw} {b0 : Bool} {n : Nat} {B : Rw} {ec eo : Int32} {w : Nat} {O : Rw}
theorem C_inspect (h : CP G l M ow tF a S N m H b0 V n B ec eo w O) (hg : OK S N) (hv : VB N) (hf : FT N) (hcn : nc N ≤ 24) (hh : ∀ k, k < m → OK S (rowH H k)) (hm : m ≤ 10) (hc : Cl G M ow 0 (G.2.2.2 1) (oarr 0 (fun _ => none))) {A : Rw} (hA : EqR N A) {s : Int32} {b : Nat} (hb : 40000 ≤ b) {Q : Int32 → wM → Prop} {Xp : String → Nat → wM → Prop} (hf1 : c_inspect S s = 1 → ∀ q, Xp eIdx q M)
    (hQ : c_inspect S s = 0 → ∀ M1 ow1, Mv tR M ow M1 ow1 → CP G l M1 ow1 tL a S (inspN S N s) (keepN m) (keepH m A H) b0 V n B ec eo w O → Q (inspN S N s 4 - N 4) M1) : P_X1_inspect G a s b M Q Xp := by
  have hbd := hg.b
  unfold c_inspect at hf1 hQ
  have hcp := h
  obtain ⟨bk0, sv0, dq0, bf0, sb0, y0, hof, hbr, -⟩ := hcp
  have ho : OF M a bk0 := ⟨_, hof.1⟩
  refine ho.is ⟨7, by omega, C_checkStreet ho hbr hg (Nat.le_refl _) (fun k hk ek c => ?_) (fun c q => ⟨rfl, ?_⟩)⟩
  · rw [if_pos c] at hQ
    subst ek
    refine oIs.i hof.1 ⟨30100, by omega, C_remember h hg hh hm hc hA (Nat.le_refl _) fun M1 ow1 hs1 hp1 => ?_⟩
    obtain ⟨bk, sv, dq, bf, sb, y, h1, h2, h3, h4, h5, h6⟩ := hp1
    refine oGetA.i h1.1 rfl (oIs.i h2.bk ⟨8000, by omega, C_inspectB h2 hg hv hf hcn (Nat.le_refl _) fun M2 ow2 y2 hs2 hr2 => ?_⟩)
    have s2 : Mv tR M1 ow1 M2 ow2 := hs2.mono (by decide) (by decide)
    exact hQ rfl M2 ow2 (hs1.tr s2) ⟨bk, sv, dq, bf, sb, y2, h1.stp hs2 (by decide), hr2, h3.stp hs2 (by decide), h4.stp hs2, h5.stp hs2 (by decide), h6.stp hs2 (by decide)⟩
  · rw [if_neg (by rw [c]; decide)] at hf1
    exact hf1 rfl q
end C27C
