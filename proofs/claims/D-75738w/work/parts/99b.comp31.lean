set_option maxRecDepth 100000
/-! STAGE 2, component: find, permitOf -/
theorem lt_iff {B : Rw} (hB : BYT B) (k : Nat) : ltB B k = true ↔ ∃ d, 1 ≤ d ∧ d ≤ 26 ∧ B k = nI (96 + d) := by
  obtain ⟨d, hd, e⟩ := hB k
  unfold ltB chB
  rw [e, (bv_ok d hd).2.2.2.1]
  constructor
  · intro h
    obtain ⟨h1, h2⟩ := inR_lo h
    have a1 := mt (nI_ltI (a := d) (b := 97) (by omega) (by decide)).mpr h1
    have a2 := mt (nI_ltI (a := 122) (b := d) (by decide) (by omega)).mpr h2
    refine ⟨d - 96, by omega, by omega, ?_⟩
    rw [bv_lo d (by omega)]; congr 1; omega
  · rintro ⟨x, x1, x2, ex⟩
    have hl : d < 128 := by
      rcases Nat.lt_or_ge d 128 with z | z
      · exact z
      · exact absurd ex (bv_hi d hd z _ (by omega))
    rw [bv_lo d hl] at ex
    have := nI_inj (by omega) (by omega) ex
    unfold inR
    rw [decide_eq_false (show ¬ nI d < 97 from nI_nlt (a := d) (b := 97) (by omega) (by omega)), decide_eq_false (show ¬ 122 < nI d from nI_nlt (a := 122) (b := d) (by omega) (by decide))]
    rfl
theorem ws_lt {B : Rw} {k : Nat} (h : ltB B k = true) : wsB B k = false := by
  unfold ltB at h
  obtain ⟨h1, h2⟩ := inR_lo h
  unfold wsB
  rw [decide_eq_false (fun e => h1 (by rw [e]; decide)), decide_eq_false (fun e => h1 (by rw [e]; decide))]; rfl
/-- the whole buffer is a name -/
theorem find_eq {S : Rw} {l : Nat → Nat → Int64} {B : Rw} (hB : BYT B) {n k : Nat} {p : PS} (h0 : p.1 = 0) : (isNmS n B → findV S l B n k (nextP B n p) = placeF (l (10 + k)) (nmC S k) (nmF B n)) ∧ (¬ isNmS n B → findV S l B n k (nextP B n p) = -1) := by
  refine ⟨fun h => ?_, fun h => ?_⟩
  · obtain ⟨h1, h2, h3⟩ := h
    have hl : ∀ j, j < n → ltB B j = true := fun j hj => (lt_iff hB j).mpr (h3 j hj)
    have e1 : runE (wsB B) n 0 = 0 := runE_n fun _ => ws_lt (hl 0 (by omega))
    obtain ⟨r1, r2, r3, r4⟩ := runE_sp (ltB B) n _ 0 rfl (Nat.zero_le _)
    have e2 : runE (ltB B) n 0 = n := by
      rcases Nat.lt_or_ge (runE (ltB B) n 0) n with z | z
      · have := r4 z
        rw [hl _ z] at this; cases this
      · omega
    have e3 : nextP B n p = (n, 0, 1, wordF B 0 n, p.2.2.2.2) := by
      unfold nextP
      rw [h0, e1, if_neg (by omega), if_pos (hl 0 (by omega)), e2]
    rw [e3]
    unfold findV
    rw [if_pos ⟨rfl, rfl, rfl, h2⟩]
    congr 1
    unfold nmB
    show nmF (fun j => B (0 + j)) (n - 0) = nmF B n
    exact nmF_c n fun j hj => by rw [Nat.zero_add]
  · unfold findV
    refine if_neg ?_
    rintro ⟨t1, t2, t3, t4⟩
    apply h
    have hn : p.1 ≤ n := by omega
    obtain ⟨q1, q2, q3, q4⟩ := runE_sp (wsB B) n _ p.1 rfl hn
    unfold nextP at t1 t2 t3
    rw [h0] at t1 t2 t3 q1 q2
    by_cases c1 : n ≤ runE (wsB B) n 0
    · rw [if_pos c1] at t1; cases t1
    · rw [if_neg c1] at t1 t2 t3
      by_cases c2 : ltB B (runE (wsB B) n 0) = true
      · rw [if_pos c2] at t1 t2 t3
        have t2 : runE (wsB B) n 0 = 0 := t2
        rw [t2] at t3 c2 c1
        have t3 : runE (ltB B) n 0 = n := t3
        obtain ⟨r1, r2, r3, r4⟩ := runE_sp (ltB B) n _ 0 rfl (Nat.zero_le _)
        rw [t3] at r3
        exact ⟨by omega, t4, fun j hj => (lt_iff hB j).mp (r3 j (Nat.zero_le _) hj)⟩
      · rw [if_neg c2] at t1 t2 t3
        by_cases c3 : dgB B (runE (wsB B) n 0) = true
        · rw [if_pos c3] at t1
          unfold pT at t1
          simp only at t1
          split at t1 <;> cases t1
        · rw [if_neg c3] at t1
          unfold pT at t1
          simp only at t1
          split at t1 <;> cases t1
section C31
variable {G : wG} {l : Nat → Nat → Int64} {M : wM} {ow : Nat → Nat} {a m : Nat} {S N H V : Rw} {b0 : Bool} {n : Nat} {B : Rw} {ec eo : Int32} {w : Nat} {O : Rw}
def tN : List Nat := [1, 2, 20]
theorem C_find (h : CP G l M ow tF a S N m H b0 V n B ec eo w O) (hg : OK S N) (hB : BYT B) {kd : Int32} {b : Nat} (hb : 9000 ≤ b) {p : PS} (hp : p.1 = 0) {Q : Int32 → wM → Prop} {Xp : String → Nat → wM → Prop} (hf : inR kd 0 2 = false → ∀ q, Xp eArg q M)
    (hQ : inR kd 0 2 = true → ∀ M1 ow1, Mv tN M ow M1 ow1 → CP G l M1 ow1 tF a S N m H b0 V 0 B ec eo w O → Q (findV S l B n kd.toNatClampNeg (nextP B n p)) M1) : P_X1_find G a kd b M Q Xp := by
  have hbd := hg.b
  obtain ⟨bk, sv, dq, bf, sb, y, h1, h2, h3, h4, ⟨h50, rb, h5, h5b⟩, h6⟩ := h
  refine S_inR ⟨7, by omega, C_ckA (Nat.le_refl _) (fun c => ?_) (fun c q => ⟨rfl, hf c q⟩)⟩
  have hQ := hQ c
  obtain ⟨kk, hkk, ek⟩ := inR_n (n := 2) (by decide) c
  rw [ek, nI_clamp (by omega)] at hQ
  rw [ek]
  refine ⟨by simp; omega, fun q hq hz => ⟨17, by simp; omega, S_sbinit (ow := ow) hq hz (τ := 20) (by decide) fun M1 ow1 hs1 _ hb1 => ?_⟩⟩
  have key := st_loop (F := fun i k => ∀ M2 ow2 cap b, 8000 ≤ b + 2 * cap → (cap = 16 ∨ cap ≤ 2 * k) → Mv [20] M ow M2 ow2 → SBc G M2 ow2 20 q k B cap → L_X1_find_19 G Q Xp i a (nI kk) q (nI k) M2 b) (N := n) (fun i M2 ow2 cap b hb2 hc2 hs2 b2 => ?_) (fun i k hk ih M2 ow2 cap b hb2 hc2 hs2 b2 => ?_) 0 (Nat.zero_le _)
  · obtain ⟨i, hi⟩ := key
    exact ⟨i, hi M1 ow1 16 _ (by simp; omega) (.inl rfl) (hs1.mono (by simp) (by decide)) (hb1 B)⟩
  · unfold L_X1_find_19; unfold B_X1_find_19
    have c1 := h1.stp hs2 (by decide)
    refine oGetI.i c1.1 rfl (oIf.y (nI_le (Nat.le_refl _) (by omega)) (oPut.m c1 (by decide) (by simp) (fs1 := [.ref bk, va_rf sv, .ref dq, .ref bf, .int (nI 0), .int ec, .int eo, .ref sb]) rfl fun M3 e3 hs3 c3 => ?_))
    have s3 : Mv tN M ow M3 ow2 := (hs2.mono (by decide) (by decide)).tr (hs3.mono (by decide) (by decide))
    have r3 := h2.z s3
    have o3 : OF M3 a bk := ⟨_, c3.1⟩
    obtain ⟨gl, gs, n1, n2⟩ := r3.2.1.2.2.2.2.2
    obtain ⟨n3, n4⟩ := n2 kk (by omega)
    have hcb := b2.b
    refine oIs.i c3.1 (C_setup o3 r3 (oRef.s (oGetA.i r3.su rfl (isA n1 (E_get n1 (by omega) ?_)))))
    obtain ⟨mc, n3'⟩ := n3
    obtain ⟨e3', he3⟩ := n3'.o
    refine oCast.s he3 ((b2.stp hs3 (by decide)).is ⟨n + 6, by omega, S_sbStr (b2.stp hs3 (by decide)) (σ := 20) (by decide) (Nat.le_refl _) fun q2 M4 ow4 r1 hq2 hs4 hst hr1 => oRef.s (oRef.s ?_)⟩)
    have hs4' : Mv tN M3 ow2 M4 ow4 := hs4.mono (by simp) (by decide)
    have n5 : ALe G M4 ow4 0 (gl kk) (nmC S kk) (gs kk) := ALe.stp ⟨mc, n3'⟩ hs4 (by simp)
    refine isA n5 (S_idxNm n5 hst (by omega) (ll := l (10 + kk)) (fun j hj => (n4 j hj).stp hs4 (by simp)) (fun e => ?_) (fun e => ?_))
    all_goals
      have s4 := s3.tr hs4'
      have hq4 := hQ M4 ow4 s4 ⟨bk, sv, dq, bf, sb, y, c3.stp hs4 (by simp), h2.z s4, h3.stp s4 (by decide), h4.stp s4, ⟨by omega, rb, h5.stp s4 (by decide), fun k hk => by omega⟩, h6.stp s4 (by decide)⟩
      obtain ⟨f1, f2⟩ := find_eq (S := S) (l := l) hB (n := n) (k := kk) hp
    · have en : isNmS n B := ⟨e.1, e.2.1, fun j hj => by rw [← hr1 j hj]; exact e.2.2 j hj⟩
      rw [f1 en] at hq4
      rw [nmF_c n hr1]; exact hq4
    · have en : ¬ isNmS n B := fun z => e ⟨z.1, z.2.1, fun j hj => by rw [hr1 j hj]; exact z.2.2 j hj⟩
      rw [f2 en] at hq4
      exact hq4
  · unfold L_X1_find_19; unfold B_X1_find_19
    have c1 := h1.stp hs2 (by decide)
    have c5 := h5.stp hs2 (by decide)
    obtain ⟨d, hd, ed⟩ := hB k
    obtain ⟨v1, v2, v3, -⟩ := bv_ok d hd
    have hcb := b2.b
    have hcap := cap_ok (cap := cap) (k := k + 1) (by omega)
    refine oGetI.i c1.1 rfl (oIf.n (nI_ge hk (by omega)) (oGetA.i c1.1 rfl (oIald.e rfl c5.1 (by omega) (by decide) ?_)))
    rw [h5b k hk, ed]
    have hbig : 2 * cap ≤ 3700 := by omega
    refine b2.is ⟨cstF cap (k + 1), by omega, S_sbC b2 (by decide) v2 (by omega) (Nat.le_refl _) fun M3 ow3 hs3 b3 => ?_⟩
    have e1 : upd B k (bytF (chF (bv d))) = B := by rw [v1, ← ed]; exact upd_id B k
    have b3 : SBc G M3 ow3 20 q (k + 1) (upd B k (bytF (chF (bv d)))) (capF cap (k + 1)) := b3
    rw [e1] at b3
    rw [nI_1]
    exact ih M3 ow3 _ _ (by omega) (by omega) (hs2.tr hs3) b3
end C31
section C31B
variable {G : wG} {l : Nat → Nat → Int64} {M : wM} {ow : Nat → Nat} {a bk : Nat} {y : Nat → Nat → Nat} {S N : Rw}
/-- a list of the objects of another one -/
theorem S_alinit2 {σ p n : Nat} {g : Nat → Nat} {mcp : Int32} (hp : AL G M ow σ p n g mcp) {q : Nat} (hq : M q = none) (hz : wz G ≤ q) (hc0 : Cl G M ow 0 (G.2.2.2 0) (oarr 0 (fun _ => none))) {τ b : Nat} (hτ : τ ≠ 0) (hb : n + 1 ≤ b) {Q : wM → Prop} (hQ : ∀ M1 ow1, Mv [] M ow M1 ow1 → ALe G M1 ow1 τ q n g → Q M1) : P_J2_init_2 G q p b (wIns M q (.inr (16, [.int 0, .null, .int 0]))) Q := by
  obtain ⟨ep, cp, rp, p1, p2, p3, p4, p5, p6, p7, p8⟩ := hp.arr
  have hC : Cl G (wIns M q (.inr (16, [.int 0, .null, .int 0]))) (va_up ow q τ) τ q (.inr (16, [.int 0, .null, .int 0])) := Cl.nw M ow hz _ _
  have hs : Mv [] M ow (wIns M q (.inr (16, [.int 0, .null, .int 0]))) (va_up ow q τ) := Mv.nw (by decide) hq _ _
  generalize hM0 : wIns M q (.inr (16, [.int 0, .null, .int 0])) = M0 at *
  generalize va_up ow q τ = ow0 at *
  refine oPut.m hC hτ (Nat.le_of_ble_eq_true rfl) (fs1 := [.int 0, .null, .int 0]) rfl fun M1 e1 hs1 hC1 => ?_
  have E1 : M1 = M0 := by rw [e1, ← hM0, wIns_wIns]
  subst E1
  have q1 : M1 p = some (alC mcp ep n) := hs.at0 p1
  have q2 : M1 ep = some (oarr cp rp) := hs.at0 p2
  refine oIs.i q1 ⟨n + 1, hb, oGetA.i q1 rfl (oGetI.i q1 rfl ⟨n + 1, Nat.le_refl _, ?_⟩)⟩
  refine S_copyOf (ow := ow0) q2 (by omega) (fun k y hy => (p7 k y hy).stp hs) (by omega) (Nat.le_refl _) τ fun q3 M2 r1 hq3 e2 hs2 hC2 hr1 => ?_
  have hC12 := hC1.stp hs2 (by simp)
  have hne : q3 ≠ q := fun x => by have := hC1.1; rw [← x, hq3] at this; cases this
  refine oRef.s (oAlen.i hC2.1 (oPut.m hC12 hτ (Nat.le_of_ble_eq_true rfl) (fs1 := [.int 0, .null, .int (nI n)]) rfl fun M3 e3 hs3 hC3 => ?_))
  have hC23 : Cl G M3 (va_up ow0 q3 τ) τ q3 (oarr n r1) := by rw [e3]; exact hC2.off hne _
  have s3 : Mv [] M ow M3 (va_up ow0 q3 τ) := by rw [e3]; exact (hs.tr hs2).nw2 hq _
  have ob : ∀ k, k < n → Ob M3 (g k) := fun k hk => (hp.2.1 k hk).stp s3
  have v0 : ∀ k, n ≤ k → r1 k = none := fun k hk => by rw [hr1, if_neg (by omega)]
  have v1 : ∀ k, k < n → r1 k = some (g k) := fun k hk => by rw [hr1, if_pos (by omega)]; exact p6 k hk
  by_cases c : n = 0
  · subst c
    refine oIf.y rfl (oPut.m hC3 hτ (Nat.le_of_ble_eq_true rfl) (fs1 := [.int 0, .ref (G.2.2.2 0), .int (nI 0)]) rfl fun M4 e4 hs4 hC4 => ?_)
    have s4 : Mv [] M ow M4 (va_up ow0 q3 τ) := by rw [e4]; exact s3.nw2 hq _
    exact hQ M4 _ s4 ⟨0, by omega, fun k hk => by omega, _, 0, fun _ => none, hC4, Nat.le_refl _, by omega, fun k hk => by omega, fun _ _ => rfl, .inl ⟨rfl, hc0.stp s4 (by simp), .inr rfl⟩⟩
  · refine oIf.n (fun z => c (nI_inj (b := 0) (by omega) (by decide) z)) (oIs.i (s3.at0 p1) (oIf.y rfl (oPut.m hC3 hτ (Nat.le_of_ble_eq_true rfl) (fs1 := [.int 0, .ref q3, .int (nI n)]) rfl fun M4 e4 hs4 hC4 => ?_)))
    have s4 : Mv [] M ow M4 (va_up ow0 q3 τ) := by rw [e4]; exact s3.nw2 hq _
    have h1 := hp.1
    exact hQ M4 _ s4 ⟨0, h1, fun k hk => (hp.2.1 k hk).stp s4, _, n, r1, hC4, Nat.le_refl _, by omega, v1, v0, .inr ⟨by omega, by rw [e4]; exact hC23.off hne _⟩⟩
theorem C_permitOf (ho : OF M a bk) (h : BR G l M ow tF bk y S N) (hg : OK S N) (hc0 : Cl G M ow 0 (G.2.2.2 0) (oarr 0 (fun _ => none))) {x : Int32} {b : Nat} (hb : 26000 ≤ b) {Q : Int32 → wM → Prop} (hQ : ∀ M1 ow1, Mv [1] M ow M1 ow1 → Q (activeP N x) M1) : P_X1_permitOf G a x b M Q := by
  have hbd := hg.b
  refine ⟨by simp; omega, fun q hq hz => ?_⟩
  have hs0 : Mv [] M ow (wIns M q (.inr (16, [.int 0, .null, .int 0]))) (va_up ow q 1) := Mv.nw (by decide) hq _ _
  have h0 := h.z hs0
  have ho0 : OF (wIns M q (.inr (16, [.int 0, .null, .int 0]))) a bk := ho.stp hs0 (by simp)
  obtain ⟨mcp, hpl⟩ := h.pl
  refine ho0.g (oGetA.i h0.bk rfl ⟨np N + 1, by simp; omega, S_alinit2 hpl hq hz hc0 (τ := 1) (by decide) (Nat.le_refl _) fun M1 ow1 hs1 hl1 => ?_⟩)
  have h1 := h.z hs1
  have ho1 := ho.stp hs1 (by simp)
  obtain ⟨mc1, hl1⟩ := hl1
  obtain ⟨mcv, hvl⟩ := h1.vl
  refine ho1.g (oGetA.i h1.bk rfl (hl1.is ⟨2 * np N + 2 * nv N + 60, by simp; omega, S_addAll hl1 (by decide) hvl (by decide) (by omega) (Nat.le_refl _) fun _ M2 ow2 hs2 hl2 => ?_⟩))
  have s2 : Mv [1] M ow M2 ow2 := (hs1.mono (by simp) (by decide)).tr hs2
  have h2 := h.z s2
  have hq := hQ M2 ow2 s2
  have eP : ∀ k, k < np N → apL (np N) (y 1) (y 2) k = y 1 k := fun k hk => by unfold apL; rw [if_pos hk]
  have eV : ∀ k, np N ≤ k → apL (np N) (y 1) (y 2) k = y 2 (k - np N) := fun k hk => by unfold apL; rw [if_neg (by omega)]
  have runV : ∀ d k (b : Nat), k + d = np N + nv N → np N ≤ k → 410 * d ≤ b → Q (-1) M2 → L_X1_permitOf_31 G Q (d + 1) x q (nI k) M2 b := by
    intro d
    induction d with
    | zero =>
      intro k b e _ _ hq1
      unfold L_X1_permitOf_31; unfold B_X1_permitOf_31
      exact isA hl2 (E_size hl2 (oIf.y (nI_le (by omega) (by omega)) hq1))
    | succ d ih =>
      intro k b e hk hb2 hq1
      have hkv : k - np N < nv N := by omega
      have next : ∀ b', 410 * d ≤ b' → B_X1_permitOf_91 G (L_X1_permitOf_31 G Q (d + 1)) Q x q (nI k) M2 b' := fun b' hb' => by
        unfold B_X1_permitOf_91; rw [nI_1]; exact ih (k + 1) b' (by omega) (by omega) hb' hq1
      unfold L_X1_permitOf_31; unfold B_X1_permitOf_31
      refine isA hl2 (E_size hl2 (oIf.n (nI_ge (by omega) (by omega)) (isA hl2 (E_get hl2 (by omega) ?_))))
      rw [eV k hk]
      refine .inr ⟨_, _, rfl, h2.vo hkv, gV1 h2 hkv (oIf.c (fun c => ?_) (fun c => next b (by omega)))⟩
      refine isA hl2 (E_get hl2 (by omega) ?_)
      rw [eV k hk]
      exact .inr ⟨_, _, rfl, h2.vo hkv, 410, by omega, .inr ⟨⟨_, h2.vo hkv⟩, Nat.le_refl _, oNull.n (next _ (by omega))⟩⟩
  have runP : ∀ d k (b : Nat), k + d = np N → 410 * nv N ≤ b → Q (srch (qPA N x) d k) M2 → L_X1_permitOf_31 G Q (d + (nv N + 1)) x q (nI k) M2 b := by
    intro d
    induction d with
    | zero =>
      intro k b e hb2 hq1
      have := runV (nv N) k b (by omega) (by omega) hb2 hq1
      rwa [Nat.zero_add]
    | succ d ih =>
      intro k b e hb2 hq1
      have hk : k < np N := by omega
      rw [show d + 1 + (nv N + 1) = (d + (nv N + 1)) + 1 by omega]
      unfold srch at hq1
      have next : ∀ b', 410 * nv N ≤ b' → qPA N x k = false → B_X1_permitOf_91 G (L_X1_permitOf_31 G Q (d + (nv N + 1))) Q x q (nI k) M2 b' := fun b' hb' e2 => by
        rw [e2] at hq1
        unfold B_X1_permitOf_91; rw [nI_1]; exact ih (k + 1) b' (by omega) hb' hq1
      unfold L_X1_permitOf_31; unfold B_X1_permitOf_31
      refine isA hl2 (E_size hl2 (oIf.n (nI_ge (by omega) (by omega)) (isA hl2 (E_get hl2 (by omega) ?_))))
      rw [eP k hk]
      refine .inl ⟨_, _, rfl, h2.po hk, gP1 h2 hk (oIf.c (fun c => ?_) (fun c => next b hb2 (by unfold qPA; rw [decide_eq_false c]; rfl)))⟩
      refine isA hl2 (E_get hl2 (by omega) ?_)
      rw [eP k hk]
      refine .inl ⟨_, _, rfl, h2.po hk, 0, Nat.zero_le _, .inl ⟨⟨_, h2.po hk⟩, oNull.s (iP h2 hk (C_active h2 hk (bl _ (fun c2 => ?_) (fun c2 => next _ (by omega) (by unfold qPA; rw [c2, Bool.and_false])))))⟩⟩
      have e3 : qPA N x k = true := by unfold qPA; rw [decide_eq_true c, c2]; rfl
      rw [e3] at hq1
      exact hq1
  exact ⟨_, runP (np N) 0 _ (by omega) (by simp; omega) hq⟩
end C31B
