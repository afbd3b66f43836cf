set_option maxRecDepth 100000
/-! STAGE 2, component: copies of books -/
/-- of one row the number at c and the places from lo to hi, else another's -/
def rwx (N N0 : Rw) (c : Nat) (x : Int32) (lo hi : Nat) : Rw := fun j => if j = c then x else if lo ≤ j ∧ j < hi then N j else N0 j
theorem rwx_c {N N0 : Rw} {c lo hi : Nat} {x : Int32} : rwx N N0 c x lo hi c = x := by unfold rwx; rw [if_pos rfl]
theorem rwx_i {N N0 : Rw} {c lo hi j : Nat} {x : Int32} (h : j ≠ c) (h1 : lo ≤ j) (h2 : j < hi) : rwx N N0 c x lo hi j = N j := by unfold rwx; rw [if_neg h, if_pos ⟨h1, h2⟩]
theorem rwx_o {N N0 : Rw} {c lo hi j : Nat} {x : Int32} (h : j ≠ c) (h1 : ¬ (lo ≤ j ∧ j < hi)) : rwx N N0 c x lo hi j = N0 j := by unfold rwx; rw [if_neg h, if_neg h1]
theorem rwx_n {N N0 : Rw} {c lo hi j : Nat} {x x' : Int32} (h : j ≠ c) : rwx N N0 c x lo hi j = rwx N N0 c x' lo hi j := by unfold rwx; rw [if_neg h, if_neg h]
/-- owners: of books that nobody writes; of the books of a call; what a call may write at most of all this -/
def tF : Nat → Nat := fun _ => 0
def tL : Nat → Nat := fun k => if k = 10 then 0 else 10 + k
def tc : List Nat := [1, 10, 11, 12, 13, 14, 15, 16, 17, 18, 19]
theorem lvL : LV tL := by
  refine ⟨fun k hk => ?_, fun i j hi hj h => ?_⟩
  · unfold tL; rw [if_neg (by omega), if_pos rfl]; omega
  · unfold tL; rw [if_neg (by omega), if_neg (by omega)]; omega
theorem tcL {M M1 : wM} {ow ow1 : Nat → Nat} (h : Mv (lvT tL) M ow M1 ow1) : Mv tc M ow M1 ow1 := h.mono (by decide) (by decide)
theorem tc0 {M M1 : wM} {ow ow1 : Nat → Nat} (h : Mv [] M ow M1 ow1) : Mv tc M ow M1 ow1 := h.mono (by simp) (by decide)
theorem tc1 {M M1 : wM} {ow ow1 : Nat → Nat} (h : Mv [1] M ow M1 ow1) : Mv tc M ow M1 ow1 := h.mono (by decide) (by decide)
theorem oCopyI.m {G : wG} {M : wM} {ow : Nat → Nat} {τ src dst n0 n1 n : Nat} {f g : Nat → Int32} {z : Int32} {κ : wM → Prop} (hsrc : M src = some (.inl (.int, n0, .inl f))) (h : Cl G M ow τ dst (.inl (.int, n1, .inl g))) (hτ : τ ≠ 0) (hz : z = nI n) (hn : n ≤ n0) (hn1 : n ≤ n1) (hn2 : n < 2 ^ 31) (hp : ∀ M1 g1, Mv [τ] M ow M1 ow → Cl G M1 ow τ dst (.inl (.int, n1, .inl g1)) → (∀ j, j < n → g1 j = f j) → κ M1) : oCopyI G .int M src 0 dst 0 z κ := by
  have z0 : (0 : Int32).toNatClampNeg = 0 := rfl
  refine ⟨n0, f, n1, g, hsrc, h.1, h.2.2 hτ, by decide, by decide, by rw [hz]; exact nI_pos hn2, ?_, ?_, fun i _ => rfl, ?_⟩
  · rw [hz, nI_clamp hn2, z0]; omega
  · rw [hz, nI_clamp hn2, z0]; omega
  · rw [hz, nI_clamp hn2, z0]
    refine hp _ _ (Mv.wr (t0 hτ) (by rw [h.2.1]; exact List.mem_singleton_self _) h.1 _ (fun _ _ e => by cases e)) (h.wr _) fun j hj => ?_
    unfold va_cpy
    rw [if_pos (by omega)]; congr 1; omega
section COMP7
variable {G : wG} {l : Nat → Nat → Int64} {M : wM} {ow : Nat → Nat} {τ : Nat → Nat} {a x : Nat} {y : Nat → Nat → Nat} {S N N1 : Rw}
/-- books that nobody writes stay; books of a call stay while an iterator goes on -/
theorem BR.z {M1 : wM} {ow1 : Nat → Nat} (h : BR G l M ow tF a y S N) {T : List Nat} (hs : Mv T M ow M1 ow1) : BR G l M1 ow1 tF a y S N := h.stp hs fun _ _ => hs.1
theorem BR.i {M1 : wM} {ow1 : Nat → Nat} (h : BR G l M ow tL a y S N) (hs : Mv [1] M ow M1 ow1) : BR G l M1 ow1 tL a y S N := h.stp hs fun k _ => by
  unfold tL; rw [List.mem_singleton]; split <;> omega
theorem BR.fin (h : BR G l M ow τ a y S N) (e : ∀ j, j < 40 → N1 j = N j) (h6 : nz S ≤ 6 ∧ nh S ≤ 16) (e1 : ∀ p k, p < np N → k < 7 → pP N1 p k = pP N p k) (e2 : ∀ p k, p < nv N → k < 4 → vP N1 p k = vP N p k) (e3 : ∀ p k, p < nc N → k < 3 → cP N1 p k = cP N p k) (e4 : ∀ p k, p < nf N → k < 5 → fP N1 p k = fP N p k) : BR G l M ow τ a y S N1 := by
  obtain ⟨h1, h2, h3, h4, h5, h6', ⟨w, h7, h7'⟩, ⟨r, h8, h8'⟩, r2, h9, h9'⟩ := h
  refine ⟨by unfold bkC; rw [e 0 (by decide)]; exact h1, h2, ?_, ?_, ?_, ?_, ⟨w, h7, fun s hs => by rw [e _ (by omega)]; exact h7' s hs⟩, ⟨r, h8, fun s hs => by rw [e _ (by omega)]; exact h8' s hs⟩, r2, h9, fun s hs => by rw [e _ (by omega)]; exact h9' s hs⟩
  · rw [np_c (N1 := N1) (N := N) (e 1 (by decide))]
    exact ⟨⟨h3.1.1, fun p hp => by rw [PmC_c (N := N) S fun k hk => e1 p k hp hk]; exact h3.1.2 p hp⟩, h3.2⟩
  · rw [nv_c (N1 := N1) (N := N) (e 2 (by decide))]
    exact ⟨⟨h4.1.1, fun p hp => by rw [VsC_c (N := N) fun k hk => e2 p k hp hk]; exact h4.1.2 p hp⟩, h4.2⟩
  · rw [nc_c (N1 := N1) (N := N) (e 3 (by decide))]
    exact ⟨h5.1, fun p hp => by rw [CrC_c (N := N) fun k hk => e3 p k hp hk]; exact h5.2 p hp⟩
  · rw [nf_c (N1 := N1) (N := N) (e 4 (by decide))]
    exact ⟨h6'.1, fun p hp => by rw [FnC_c (N := N) S fun k hk => e4 p k hp hk]; exact h6'.2 p hp⟩
theorem ini_0 (S : Rw) {j : Nat} (h : j < 5 ∨ 11 ≤ j ∧ j < 23 ∨ 39 ≤ j) (hz : nz S ≤ 6) : iniN S j = 0 := by
  unfold iniN booksF; rw [lay_out (by omega), lay_out (by omega)]; rfl
/-- new books whose rows are still those of the start: the fines -/
theorem C_addAllF {p' b : Nat} {gF : Nat → Nat} (h : BR G l M ow tL a y S N) (hb : Bd S N) (h0 : nf N = 0) {m : Nat} (hm : m ≤ 99) (hp : ALe G M ow 0 p' m gF) (hf : ∀ f, f < m → Cl G M ow 0 (gF f) (FnC S N1 f)) (e4 : N1 4 = nI m) (hd : ∀ j, j ≠ 4 → j < 940 → N1 j = N j) (hbb : 400 ≤ b) {Q : Bool → wM → Prop} (hQ : ∀ r M1 ow1 gf, Mv (lvT tL) M ow M1 ow1 → BR G l M1 ow1 tL a (sY y 5 gf) S N1 → Q r M1) : P_J2_addAll G (y 0 4) p' b M Q := by
  obtain ⟨h1, h2, h3, h4, h5, h6, h7, h8, h9⟩ := h
  obtain ⟨mc, hal⟩ := h6.1
  obtain ⟨mc', hp⟩ := hp
  rw [h0] at hal
  have hl := lvL
  have c1 : nf N1 = m := nf_s (by omega) e4
  refine S_addAll hal (by decide) hp (by decide) (by omega) (by omega) fun r M1 ow1 hs hA => hQ r M1 ow1 gF (hl.m (by decide) hs) ?_
  refine ⟨?_, h2.stp hs (hl.n (by decide) (by decide) (by decide)), (BP.stp h3 hs (hl.n (by decide) (by decide) (by decide)) (hl.n (by decide) (by decide) (by decide))).val hb.1 (hd 1 (by omega) (by omega)) fun j _ _ => hd j (by omega) (by omega), (BV.stp h4 hs (hl.n (by decide) (by decide) (by decide)) (hl.n (by decide) (by decide) (by decide))).val hb.2.1 (hd 2 (by omega) (by omega)) fun j _ _ => hd j (by omega) (by omega), (BC.stp h5 hs (hl.n (by decide) (by decide) (by decide))).val hb.2.2.1 (hd 3 (by omega) (by omega)) fun j _ _ => hd j (by omega) (by omega), ?_, (BB.stp h7 hs (hl.n (by decide) (by decide) (by decide))).val fun j _ _ => hd j (by omega) (by omega), (BL.stp h8 hs (hl.n (by decide) (by decide) (by decide))).val hb.2.2.2.2.1 fun j _ _ => hd j (by omega) (by omega), (BH.stp h9 hs (hl.n (by decide) (by decide) (by decide))).val hb.2.2.2.2.2.2 fun j _ _ => hd j (by omega) (by omega)⟩
  · unfold bkC; rw [hd 0 (by omega) (by omega)]; exact h1.stp hs (hl.n (by decide) (by decide) (by decide))
  · rw [c1]
    refine ⟨?_, fun f hf' => (hf f hf').stp hs hs.1⟩
    have e : (sY y 5 gF 5) = apL 0 (y 5) gF := by funext k; show gF k = _; unfold apL; rw [if_neg (by omega), Nat.sub_zero]
    rw [e]
    have hA' := hA
    rw [Nat.zero_add] at hA'
    exact hA'
/-- frozen books are copied -/
theorem C_copyK (h : BR G l M ow tF x y S N) (hg : OK S N) (hc : Cl G M ow 0 (G.2.2.2 1) (oarr 0 (fun _ => none))) {b : Nat} (hb : 30000 ≤ b) {Q : Option Nat → wM → Prop} (hQ : ∀ q M1 ow1 y1, M q = none → Mv tc M ow M1 ow1 → BR G l M1 ow1 tL q y1 S N → (∀ c, c < nc N → y1 4 c = y 4 c) → Q (some q) M1) : P_X2_copy G x b M Q := by
  have hbd := hg.b
  have hl := lvL
  refine oNew.m (ow := ow) (tL 0) (by simp only [List.length_cons, List.length_nil]; omega) fun q M1 hq hz e1 hs1 hA1 => ?_
  have h1 := h.z hs1
  refine oGetA.i h1.bk rfl ⟨100, by simp only [List.length_cons, List.length_nil]; omega, ?_⟩
  refine C_init hA1 hl (show SR G l M1 _ (tL 10) (y 0 0) y S from h1.2.1) hg.1 (hc.stp hs1 (by simp)) (Nat.le_refl _) fun M2 ow2 s hs2 _ hB2 => ?_
  have hS2 : Mv tc M ow M2 ow2 := (tc0 hs1).tr (tcL hs2)
  have i1 : np (iniN S) = 0 := np_s (n := 0) (by decide) (ini_0 S (by omega) hbd.2.2.2.2.1)
  have i2 : nv (iniN S) = 0 := nv_s (n := 0) (by decide) (ini_0 S (by omega) hbd.2.2.2.2.1)
  have i3 : nc (iniN S) = 0 := nc_s (n := 0) (by decide) (ini_0 S (by omega) hbd.2.2.2.2.1)
  have i4 : nf (iniN S) = 0 := nf_s (n := 0) (by decide) (ini_0 S (by omega) hbd.2.2.2.2.1)
  have hzh : nz S ≤ 6 ∧ nh S ≤ 16 := ⟨hbd.2.2.2.2.1, hbd.2.2.2.2.2.2⟩
  have I : ∀ j, j < 5 ∨ 11 ≤ j ∧ j < 23 ∨ 39 ≤ j → iniN S j = 0 := fun j hj => ini_0 S hj hzh.1
  -- the rows of the steps
  generalize hR1 : rwx N (iniN S) 1 (nI (np N)) 40 460 = R1
  have a1 : R1 2 = 0 := by rw [← hR1, rwx_o (by decide) (by omega)]; exact I 2 (by omega)
  have a2 : R1 3 = 0 := by rw [← hR1, rwx_o (by decide) (by omega)]; exact I 3 (by omega)
  have a3 : R1 4 = 0 := by rw [← hR1, rwx_o (by decide) (by omega)]; exact I 4 (by omega)
  have a4 : R1 1 = nI (np N) := by rw [← hR1, rwx_c]
  generalize hR2 : rwx N R1 2 (nI (nv N)) 460 700 = R2
  have b1 : R2 1 = nI (np N) := by rw [← hR2, rwx_o (by decide) (by omega)]; exact a4
  have b2 : R2 2 = nI (nv N) := by rw [← hR2, rwx_c]
  have b3 : R2 3 = 0 := by rw [← hR2, rwx_o (by decide) (by omega)]; exact a2
  have b4 : R2 4 = 0 := by rw [← hR2, rwx_o (by decide) (by omega)]; exact a3
  generalize hR3 : rwx N R2 3 (nI (nc N)) 700 940 = R3
  have c1 : R3 1 = nI (np N) := by rw [← hR3, rwx_o (by decide) (by omega)]; exact b1
  have c2 : R3 2 = nI (nv N) := by rw [← hR3, rwx_o (by decide) (by omega)]; exact b2
  have c3 : R3 3 = nI (nc N) := by rw [← hR3, rwx_c]
  have c4 : R3 4 = 0 := by rw [← hR3, rwx_o (by decide) (by omega)]; exact b4
  have cj : ∀ j, 40 ≤ j → j < 940 → R3 j = N j := by
    intro j j1 j2
    rw [← hR3]
    by_cases d3 : 700 ≤ j
    · rw [rwx_i (by omega) d3 j2]
    · rw [rwx_o (by omega) (by omega), ← hR2]
      by_cases d2 : 460 ≤ j
      · rw [rwx_i (by omega) d2 (by omega)]
      · rw [rwx_o (by omega) (by omega), ← hR1, rwx_i (by omega) j1 (by omega)]
  have bd3 : Bd S R3 := ⟨by rw [np_s (by omega) c1]; exact hbd.1, by rw [nv_s (by omega) c2]; exact hbd.2.1, by rw [nc_s (by omega) c3]; exact hbd.2.2.1, by rw [nf_s (n := 0) (by omega) c4]; omega, hbd.2.2.2.2⟩
  -- behind the cars
  have fin : ∀ M3 ow3 y3 bq, 1000 ≤ bq → Mv tc M ow M3 ow3 → BR G l M3 ow3 tL q y3 S R3 → (∀ c, c < nc N → y3 4 c = y 4 c) → oGetA M3 q 1 4 (fun a5 => oGetA M3 x 1 4 (fun a6 => oIs M3 a5 16 (∃ c8, c8 ≤ bq ∧ P_J2_addAll G a5 a6 c8 M3 (fun r9 M7 => oGetA M7 q 1 5 (fun a10 => oGetA M7 x 1 5 (fun a11 => oIs M7 a10 21 (∃ c13, c13 ≤ (bq - c8) ∧ P_J9_or G a10 a11 c13 M7 (fun M12 => oGetA M12 x 1 6 (fun a14 => oGetA M12 q 1 6 (fun a15 => oCopyI G .int M12 a14 (0 : Int32) a15 (0 : Int32) (6 : Int32) (fun M16 => oGetA M16 x 1 7 (fun a17 => oGetA M16 q 1 7 (fun a18 => oCopyI G .int M16 a17 (0 : Int32) a18 (0 : Int32) (16 : Int32) (fun M19 => oGetI M19 x 1 8 (fun v20 => oPut G M19 q 1 8 (.int v20) (fun M21 => Q (some q) M21)))))))))))))))) := by
    intro M3 ow3 y3 bq hb3 hs3 h3 hy4
    have hz := h.z hs3
    generalize hR4 : rwx N R3 4 (nI (nf N)) 940 1435 = R4
    have d4 : R4 4 = nI (nf N) := by rw [← hR4, rwx_c]
    have dj : ∀ j, 940 ≤ j → j < 1435 → R4 j = N j := fun j j1 j2 => by rw [← hR4, rwx_i (by omega) j1 j2]
    have dk : ∀ j, j ≠ 4 → j < 940 → R4 j = R3 j := fun j j1 j2 => by rw [← hR4, rwx_o j1 (by omega)]
    refine oGetA.i h3.bk rfl (oGetA.i hz.bk rfl (isA h3.fl ⟨400, by omega, ?_⟩))
    refine C_addAllF (N1 := R4) h3 bd3 (nf_s (n := 0) (by decide) c4) hbd.2.2.2.1 hz.fl (fun f hf => by rw [FnC_c (N := N) S fun k hk => dj _ (by omega) (by omega)]; exact hz.2.2.2.2.2.1.2 f hf) d4 dk (Nat.le_refl _) fun r M7 ow7 gf hs7 h7 => ?_
    have hz7 := hz.z hs7
    have hB7 := h7
    obtain ⟨p1, p2, p3, p4, p5, p6, ⟨w, p7, p7'⟩, ⟨r8, p8, p8'⟩, r9, p9, p9'⟩ := h7
    obtain ⟨ws, w7, w7'⟩ := hz7.2.2.2.2.2.2.1
    obtain ⟨s8, w8, w8'⟩ := hz7.2.2.2.2.2.2.2.1
    obtain ⟨s9, w9, w9'⟩ := hz7.2.2.2.2.2.2.2.2
    have R4b : ∀ s, s < 12 → R4 (11 + s) = 0 := fun s hs => by
      rw [dk _ (by omega) (by omega), ← hR3, rwx_o (by omega) (by omega), ← hR2, rwx_o (by omega) (by omega), ← hR1, rwx_o (by omega) (by omega)]; exact I _ (by omega)
    refine oGetA.i hB7.bk rfl (oGetA.i hz7.bk rfl (p7.is ⟨0, Nat.zero_le _, ?_⟩))
    refine S_bsor p7 w7 (by decide) (by decide) fun M8 hs8 q7 => ?_
    have u8 : M8 x = some (bkC N y) := (hz7.z hs8).bk
    have v8 : M8 q = some (bkC R4 (sY y3 5 gf)) := (p1.stp hs8 (hl.n (by decide) (by decide) (by decide))).1
    refine oGetA.i u8 rfl (oGetA.i v8 rfl ?_)
    refine oCopyI.m (n := 6) (w8.stp hs8 (by decide)).1 (p8.stp hs8 (hl.n (by decide) (by decide) (by decide))) (by decide) rfl (by decide) (by decide) (by decide) fun M9 g8 hs9 q8 e8 => ?_
    have u9 : M9 x = some (bkC N y) := ((hz7.z hs8).z hs9).bk
    have v9 : M9 q = some (bkC R4 (sY y3 5 gf)) := ((p1.stp hs8 (hl.n (by decide) (by decide) (by decide))).stp hs9 (hl.n (by decide) (by decide) (by decide))).1
    refine oGetA.i u9 rfl (oGetA.i v9 rfl ?_)
    refine oCopyI.m (n := 16) ((w9.stp hs8 (by decide)).stp hs9 (by decide)).1 ((p9.stp hs8 (hl.n (by decide) (by decide) (by decide))).stp hs9 (hl.n (by decide) (by decide) (by decide))) (by decide) rfl (by decide) (by decide) (by decide) fun M10 g9 hs10 q9 e9 => ?_
    have u10 : M10 x = some (bkC N y) := (((hz7.z hs8).z hs9).z hs10).bk
    have v10 := ((p1.stp hs8 (hl.n (by decide) (by decide) (by decide))).stp hs9 (hl.n (by decide) (by decide) (by decide))).stp hs10 (hl.n (by decide) (by decide) (by decide))
    refine oGetI.i u10 rfl ?_
    refine oPut.m v10 (by decide) (Nat.le_of_ble_eq_true rfl) (fs1 := [.ref (sY y3 5 gf 0 0), .ref (sY y3 5 gf 0 1), .ref (sY y3 5 gf 0 2), .ref (sY y3 5 gf 0 3), .ref (sY y3 5 gf 0 4), .ref (sY y3 5 gf 0 5), .ref (sY y3 5 gf 0 6), .ref (sY y3 5 gf 0 7), .int (N 0)]) rfl fun M11 e11 hs11 q1 => ?_
    have hs : Mv (lvT tL) M7 ow7 M11 ow7 := (((hl.m (by decide) hs8).tr (hl.m (by decide) hs9)).tr (hl.m (by decide) hs10)).tr (hl.m (by decide) hs11)
    refine hQ q M11 ow7 (sY y3 5 gf) hq ((hs3.tr (tcL hs7)).tr (tcL hs)) ?_ hy4
    have n1 : np R4 = np N := np_s (by omega) (by rw [dk 1 (by decide) (by decide)]; exact c1)
    have n2 : nv R4 = nv N := nv_s (by omega) (by rw [dk 2 (by decide) (by decide)]; exact c2)
    have n3 : nc R4 = nc N := nc_s (by omega) (by rw [dk 3 (by decide) (by decide)]; exact c3)
    have n4 : nf R4 = nf N := nf_s (by omega) d4
    have ej : ∀ j, 40 ≤ j → j < 940 → N j = R4 j := fun j j1 j2 => by rw [dk j (by omega) j2]; exact (cj j j1 j2).symm
    have st : ∀ {k : Nat}, k ≤ 6 → tL k ∉ [tL 7] ∧ tL k ∉ [tL 8] ∧ tL k ∉ [tL 9] ∧ (k ≠ 0 → tL k ∉ [tL 0]) := fun {k} hk => ⟨hl.n (by omega) (by decide) (by omega), hl.n (by omega) (by decide) (by omega), hl.n (by omega) (by decide) (by omega), fun h0 => hl.n (by omega) (by decide) h0⟩
    refine ⟨q1, p2.stp hs (by decide), ?_, ?_, ?_, ?_, ⟨_, ((q7.stp hs9 (hl.n (by decide) (by decide) (by decide))).stp hs10 (hl.n (by decide) (by decide) (by decide))).stp hs11 (hl.n (by decide) (by decide) (by decide)), fun s hs => ?_⟩, ⟨_, (q8.stp hs10 (hl.n (by decide) (by decide) (by decide))).stp hs11 (hl.n (by decide) (by decide) (by decide)), fun z hz' => ?_⟩, _, q9.stp hs11 (hl.n (by decide) (by decide) (by decide)), fun z hz' => ?_⟩
    · have a := BP.val (N1 := N) (BP.stp (BP.stp (BP.stp (BP.stp p3 hs8 (st (by decide)).1 (st (by decide)).1) hs9 (st (by decide)).2.1 (st (by decide)).2.1) hs10 (st (by decide)).2.2.1 (st (by decide)).2.2.1) hs11 ((st (by decide)).2.2.2 (by decide)) ((st (by decide)).2.2.2 (by decide))) (by rw [n1]; exact hbd.1) (by rw [dk 1 (by decide) (by decide), c1]; exact hg.2.1.1) fun j j1 j2 => ej j j1 (by omega)
      exact a
    · have a := BV.val (N1 := N) (BV.stp (BV.stp (BV.stp (BV.stp p4 hs8 (st (by decide)).1 (st (by decide)).1) hs9 (st (by decide)).2.1 (st (by decide)).2.1) hs10 (st (by decide)).2.2.1 (st (by decide)).2.2.1) hs11 ((st (by decide)).2.2.2 (by decide)) ((st (by decide)).2.2.2 (by decide))) (by rw [n2]; exact hbd.2.1) (by rw [dk 2 (by decide) (by decide), c2]; exact hg.2.2.1.1) fun j j1 j2 => ej j (by omega) (by omega)
      exact a
    · have a := BC.val (N1 := N) (BC.stp (BC.stp (BC.stp (BC.stp p5 hs8 (st (by decide)).1) hs9 (st (by decide)).2.1) hs10 (st (by decide)).2.2.1) hs11 ((st (by decide)).2.2.2 (by decide))) (by rw [n3]; exact hbd.2.2.1) (by rw [dk 3 (by decide) (by decide), c3]; exact hg.2.2.2.1.1) fun j j1 j2 => ej j (by omega) (by omega)
      exact a
    · have a := BF.val (N1 := N) (BF.stp (BF.stp (BF.stp (BF.stp p6 hs8 (st (by decide)).1) hs9 (st (by decide)).2.1) hs10 (st (by decide)).2.2.1) hs11 ((st (by decide)).2.2.2 (by decide))) (by rw [n4]; exact hbd.2.2.2.1) (by rw [d4]; exact hg.2.2.2.2.1.1) fun j j1 j2 => (dj j j1 j2).symm
      exact a
    · rw [bit_oo, Bool.or_eq_true, w7' s hs, p7' s hs, R4b s hs]
      exact ⟨fun x => x.resolve_left (by decide), fun x => .inr x⟩
    · rw [e8 z (by omega)]; exact w8' z hz'
    · rw [e9 z (by omega)]; exact w9' z hz'
  -- the cars
  have L3 : ∀ M3 ow3 y3 bq, 1330 ≤ bq → Mv tc M ow M3 ow3 → BR G l M3 ow3 tL q y3 S (rwx N R2 3 (nI 0) 700 940) → oGetA M3 x 1 3 (fun a5 => oIs M3 a5 17 (∃ c7, c7 ≤ bq ∧ P_J7_iterator_J8 G a5 c7 M3 (fun r8 M6 => ∃ n, L_X2_copy_114 G Q n x q r8 M6 (bq - c7)))) := by
    intro M3 ow3 y3 bq hb3 hs3 h3
    have hz := h.z hs3
    obtain ⟨mc, hll⟩ := hz.cl
    refine oGetA.i hz.bk rfl (hll.is ⟨6, by omega, ?_⟩)
    refine S_iterator hll (Nat.le_refl _) 1 fun it M4 hit e4 hs4 hI4 => ?_
    have key := st_loop (F := fun n k => ∀ M5 ow5 y5 b5, 4 * (nc N - k) + 1000 ≤ b5 → Mv tc M3 ow3 M5 ow5 → Cl G M5 ow5 1 it (liC (y 3) (nc N) (y 0 3) k mc) → BR G l M5 ow5 tL q y5 S (rwx N R2 3 (nI k) 700 940) → (∀ c, c < k → y5 4 c = y 4 c) → L_X2_copy_114 G Q n x q (some it) M5 b5) (N := nc N) (fun n M5 ow5 y5 b5 hb5 hs5 hI h5 hy5 => ?_) (fun n k hk ih M5 ow5 y5 b5 hb5 hs5 hI h5 hy5 => ?_) 0 (Nat.zero_le _)
    · obtain ⟨n, hn⟩ := key
      exact ⟨n, hn M4 _ y3 _ (by omega) (tc0 hs4) hI4 (h3.i (hs4.mono (by simp) (by decide))) (fun c hc => by omega)⟩
    · unfold L_X2_copy_114; unfold B_X2_copy_114
      have hll5 := hll.stp hs5 (by decide)
      refine oRef.s (oIs.i hI.1 (S_lihas hll5 (Nat.le_refl _) hI.1 ?_))
      rw [decide_eq_false (Nat.lt_irrefl _)]
      refine oIf.n (by decide) ?_
      exact fin M5 ow5 y5 b5 (by omega) (hs3.tr hs5) (by rw [← hR3]; exact h5) hy5
    · unfold L_X2_copy_114; unfold B_X2_copy_114
      have hll5 := hll.stp hs5 (by decide)
      have hz5 := hz.z hs5
      refine oRef.s (oIs.i hI.1 (S_lihas hll5 (Nat.le_of_lt hk) hI.1 ?_))
      rw [decide_eq_true hk]
      refine oIf.y rfl (oIs.i hI.1 (S_linext hll5 hk hI (by decide) fun M6 e6 hs6 hI6 => ?_))
      have h6 := h5.i hs6
      have hz6 := hz5.z hs6
      refine kC hz6 hk (oGetA.i h6.bk rfl (isL h6.cl ⟨4, by omega, ?_⟩))
      have r1 : nc (rwx N R2 3 (nI k) 700 940) = k := nc_s (by omega) rwx_c
      have hbk : Bd S (rwx N R2 3 (nI k) 700 940) := by
        refine ⟨?_, ?_, by omega, ?_, hbd.2.2.2.2⟩
        · rw [np_s (n := np N) (by omega) (by rw [rwx_o (by decide) (by omega)]; exact b1)]; exact hbd.1
        · rw [nv_s (n := nv N) (by omega) (by rw [rwx_o (by decide) (by omega)]; exact b2)]; exact hbd.2.1
        · rw [nf_s (n := 0) (by omega) (by rw [rwx_o (by decide) (by omega)]; exact b4)]; omega
      refine C_addC (N1 := rwx N R2 3 (nI (k + 1)) 700 940) h6 hl hbk ?_ (by omega) (by rw [rwx_c, r1]) (fun j j1 _ => rwx_n j1) (Nat.le_refl _) fun M7 ow7 nd hs7 h7 => ?_
      · have ev : CrC (rwx N R2 3 (nI (k + 1)) 700 940) k = CrC N k := CrC_c fun i hi => rwx_i (by omega) (by omega) (by omega)
        rw [r1, ev]
        exact hz6.2.2.2.2.1.2 k hk
      · refine ih M7 ow7 _ _ (by omega) ((hs5.tr (tc1 hs6)).tr (tcL hs7)) (hI6.stp hs7 (by decide)) h7 fun c hc => ?_
        show va_up (y5 4) (nc (rwx N R2 3 (nI k) 700 940)) (y 4 k) c = y 4 c
        rw [r1]
        by_cases e : c = k
        · rw [e, va_up_self]
        · rw [va_up_ne _ _ e]; exact hy5 c (by omega)
  -- the visits
  have L2 : ∀ M3 ow3 y3 bq, 205 * nv N + 1330 ≤ bq → Mv tc M ow M3 ow3 → BR G l M3 ow3 tL q y3 S (rwx N R1 2 (nI 0) 460 700) → ∃ n, L_X2_copy_61 G Q n x q (nI 0) M3 bq := by
    intro M3 ow3 y3 bq hb3 hs3 h3
    have key := st_loop (F := fun n k => ∀ M5 ow5 y5 b5, 205 * (nv N - k) + 1330 ≤ b5 → Mv tc M ow M5 ow5 → BR G l M5 ow5 tL q y5 S (rwx N R1 2 (nI k) 460 700) → L_X2_copy_61 G Q n x q (nI k) M5 b5) (N := nv N) (fun n M5 ow5 y5 b5 hb5 hs5 h5 => ?_) (fun n k hk ih M5 ow5 y5 b5 hb5 hs5 h5 => ?_) 0 (Nat.zero_le _)
    · obtain ⟨n, hn⟩ := key
      exact ⟨n, hn M3 ow3 y3 bq (by omega) hs3 h3⟩
    · unfold L_X2_copy_61; unfold B_X2_copy_61
      have hz5 := h.z hs5
      refine oGetA.i hz5.bk rfl (isA hz5.vl (E_size hz5.vl (oIf.y (nI_le (Nat.le_refl _) (by omega)) ?_)))
      refine L3 M5 ow5 y5 b5 (by omega) hs5 (BR.fin (N := R2) (by rw [← hR2]; exact h5) (fun j hj => ?_) hzh (fun p i hp hi => ?_) (fun p i hp hi => ?_) (fun p i hp hi => ?_) (fun p i hp hi => ?_))
      · by_cases c : j = 3
        · rw [c, rwx_c, b3]; rfl
        · rw [rwx_o c (by omega)]
      · rw [np_s (n := np N) (by omega) b1] at hp; exact rwx_o (by omega) (by omega)
      · rw [nv_s (n := nv N) (by omega) b2] at hp; exact rwx_o (by omega) (by omega)
      · rw [nc_s (n := 0) (by omega) b3] at hp; omega
      · rw [nf_s (n := 0) (by omega) b4] at hp; omega
    · unfold L_X2_copy_61; unfold B_X2_copy_61
      have hz5 := h.z hs5
      refine oGetA.i hz5.bk rfl (isA hz5.vl (E_size hz5.vl (oIf.n (nI_ge hk (by omega)) (oGetA.i h5.bk rfl (oGetA.i hz5.bk rfl (isA hz5.vl (E_get hz5.vl hk (kV hz5 hk (oRef.s (iV hz5 hk ⟨5, by omega, ?_⟩))))))))))
      refine C_vcopy (ow := ow5) (hz5.vo hk) (Nat.le_refl _) (tL 4) fun vq M6 hvq e6 hs6 hC6 => ?_
      have h6 := h5.stp hs6 (by simp)
      refine isA h6.vl ⟨200, by omega, ?_⟩
      have r1 : nv (rwx N R1 2 (nI k) 460 700) = k := nv_s (by omega) rwx_c
      have hbk : Bd S (rwx N R1 2 (nI k) 460 700) := by
        refine ⟨?_, by omega, ?_, ?_, hbd.2.2.2.2⟩
        · rw [np_s (n := np N) (by omega) (by rw [rwx_o (by decide) (by omega)]; exact a4)]; exact hbd.1
        · rw [nc_s (n := 0) (by omega) (by rw [rwx_o (by decide) (by omega)]; exact a2)]; omega
        · rw [nf_s (n := 0) (by omega) (by rw [rwx_o (by decide) (by omega)]; exact a3)]; omega
      refine C_addV (N1 := rwx N R1 2 (nI (k + 1)) 460 700) h6 hl hbk ?_ (fun p hp => ne_fresh (h5.vo hp) hvq) (by omega) (by rw [rwx_c, r1]) (fun j j1 _ => rwx_n j1) (Nat.le_refl _) fun M7 ow7 hs7 h7 => ?_
      · have ev : VsC (rwx N R1 2 (nI (k + 1)) 460 700) k = VsC N k := VsC_c fun i hi => rwx_i (by omega) (by omega) (by omega)
        rw [r1, ev]
        exact hC6
      · rw [nI_1]; exact ih M7 ow7 _ (b5 - 5 - 200) (by omega) ((hs5.tr (tc0 hs6)).tr (tcL hs7)) h7
  -- the permits
  have key := st_loop (F := fun n k => ∀ M5 ow5 y5 b5, 209 * (np N - k) + 205 * nv N + 1330 ≤ b5 → Mv tc M ow M5 ow5 → BR G l M5 ow5 tL q y5 S (rwx N (iniN S) 1 (nI k) 40 460) → L_X2_copy_14 G Q n x q (nI k) M5 b5) (N := np N) (fun n M5 ow5 y5 b5 hb5 hs5 h5 => ?_) (fun n k hk ih M5 ow5 y5 b5 hb5 hs5 h5 => ?_) 0 (Nat.zero_le _)
  · obtain ⟨n, hn⟩ := key
    refine ⟨n, hn M2 ow2 _ _ (by simp only [List.length_cons, List.length_nil]; omega) hS2 (BR.fin hB2 (fun j hj => ?_) hzh (fun p i hp hi => ?_) (fun p i hp hi => ?_) (fun p i hp hi => ?_) (fun p i hp hi => ?_))⟩
    · by_cases c : j = 1
      · rw [c, rwx_c, I 1 (by omega)]; rfl
      · rw [rwx_o c (by omega)]
    · rw [i1] at hp; omega
    · rw [i2] at hp; omega
    · rw [i3] at hp; omega
    · rw [i4] at hp; omega
  · unfold L_X2_copy_14; unfold B_X2_copy_14
    have hz5 := h.z hs5
    refine oGetA.i hz5.bk rfl (isA hz5.pl (E_size hz5.pl (oIf.y (nI_le (Nat.le_refl _) (by omega)) ?_)))
    refine L2 M5 ow5 y5 b5 (by omega) hs5 (BR.fin (N := R1) (by rw [← hR1]; exact h5) (fun j hj => ?_) hzh (fun p i hp hi => ?_) (fun p i hp hi => ?_) (fun p i hp hi => ?_) (fun p i hp hi => ?_))
    · by_cases c : j = 2
      · rw [c, rwx_c, a1]; rfl
      · rw [rwx_o c (by omega)]
    · rw [np_s (n := np N) (by omega) a4] at hp; exact rwx_o (by omega) (by omega)
    · rw [nv_s (n := 0) (by omega) a1] at hp; omega
    · rw [nc_s (n := 0) (by omega) a2] at hp; omega
    · rw [nf_s (n := 0) (by omega) a3] at hp; omega
  · unfold L_X2_copy_14; unfold B_X2_copy_14
    have hz5 := h.z hs5
    refine oGetA.i hz5.bk rfl (isA hz5.pl (E_size hz5.pl (oIf.n (nI_ge hk (by omega)) (oGetA.i h5.bk rfl (oGetA.i hz5.bk rfl (isA hz5.pl (E_get hz5.pl hk (kP hz5 hk (oRef.s (iP hz5 hk ⟨9, by omega, ?_⟩))))))))))
    refine C_pcopy (ow := ow5) (hz5.po hk) (Nat.le_refl _) (tL 2) fun vq M6 hvq e6 hs6 hC6 => ?_
    have h6 := h5.stp hs6 (by simp)
    refine isA h6.pl ⟨200, by omega, ?_⟩
    have r1 : np (rwx N (iniN S) 1 (nI k) 40 460) = k := np_s (by omega) rwx_c
    have hbk : Bd S (rwx N (iniN S) 1 (nI k) 40 460) := by
      refine ⟨by omega, ?_, ?_, ?_, hbd.2.2.2.2⟩
      · rw [nv_s (n := 0) (by omega) (by rw [rwx_o (by decide) (by omega)]; exact I 2 (by omega))]; omega
      · rw [nc_s (n := 0) (by omega) (by rw [rwx_o (by decide) (by omega)]; exact I 3 (by omega))]; omega
      · rw [nf_s (n := 0) (by omega) (by rw [rwx_o (by decide) (by omega)]; exact I 4 (by omega))]; omega
    refine C_addP (N1 := rwx N (iniN S) 1 (nI (k + 1)) 40 460) h6 hl hbk ?_ (fun p hp => ne_fresh (h5.po hp) hvq) (by omega) (by rw [rwx_c, r1]) (fun j j1 _ => rwx_n j1) (Nat.le_refl _) fun M7 ow7 hs7 h7 => ?_
    · have ev : PmC S (rwx N (iniN S) 1 (nI (k + 1)) 40 460) k = PmC S N k := PmC_c S fun i hi => rwx_i (by omega) (by omega) (by omega)
      rw [r1, ev]
      exact hC6
    · rw [nI_1]; exact ih M7 ow7 _ (b5 - 9 - 200) (by omega) ((hs5.tr (tc0 hs6)).tr (tcL hs7)) h7
theorem C_copy (h : BR G l M ow tF x y S N) (hg : OK S N) (hc : Cl G M ow 0 (G.2.2.2 1) (oarr 0 (fun _ => none))) {b : Nat} (hb : 30000 ≤ b) {Q : Option Nat → wM → Prop} (hQ : ∀ q M1 ow1 y1, M q = none → Mv tc M ow M1 ow1 → BR G l M1 ow1 tL q y1 S N → Q (some q) M1) : P_X2_copy G x b M Q :=
  C_copyK h hg hc hb fun q M1 ow1 y1 hq hs hr _ => hQ q M1 ow1 y1 hq hs hr
end COMP7
