set_option maxRecDepth 100000
/-! STAGE 2, component: printing a zone -/
def wrR (r : Nat → Int32) (n : Nat) (c : Int32) (v : Nat) : Nat → Int32 := upd (digR (upd r n (bytF c)) (n + 1) v) (n + 1 + digL v) (bytF 10)
def capW (cap n v : Nat) : Nat := capF (capF (capF cap (n + 1)) (n + 1 + digL v)) (n + 1 + digL v + 1)
def cstW (cap n v : Nat) : Nat := cstF cap (n + 1) + cstF (capF cap (n + 1)) (n + 1 + digL v) + cstF (capF (capF cap (n + 1)) (n + 1 + digL v)) (n + 1 + digL v + 1)
theorem digL_b (v : Nat) : 1 ≤ digL v ∧ digL v ≤ 2 := by unfold digL; split <;> omega
theorem capW_ok {cap n v : Nat} (h : n ≤ cap) : cstW cap n v + 2 * cap ≤ 2 * capW cap n v ∧ (capW cap n v = cap ∨ capW cap n v ≤ 2 * (n + 4)) := by
  have hd := digL_b v
  have a1 := cap_ok (cap := cap) (k := n + 1) (by omega)
  have a2 := cap_ok (cap := capF cap (n + 1)) (k := n + 1 + digL v) (by omega)
  have a3 := cap_ok (cap := capF (capF cap (n + 1)) (n + 1 + digL v)) (k := n + 1 + digL v + 1) (by omega)
  unfold capW cstW
  omega
theorem sayP_v (c : Int32) {v : Nat} (hv : v < 100) (r : Rw) (n : Nat) : sayP c (nI v) (r, n) = (wrR r n c v, n + 1 + digL v + 1) := by
  unfold sayP wrR digR digL sayO
  by_cases e : v ≤ 9
  · rw [if_pos (show nI v ≤ 9 from (nI_leI (a := v) (b := 9) (by omega) (by decide)).mpr e), if_pos e, if_pos e]
  · rw [if_neg (show ¬ nI v ≤ 9 from fun z => e ((nI_leI (a := v) (b := 9) (by omega) (by decide)).mp z)), if_neg e, if_neg e]
section C30
variable {G : wG} {l : Nat → Nat → Int64} {M : wM} {ow : Nat → Nat} {a bk sb w cap dq bf n : Nat} {sv : Option Nat} {ec eo : Int32} {y : Nat → Nat → Nat} {S N r : Rw}
theorem S_write (h1 : Cl G M ow 2 a (ofC bk sv dq bf n ec eo sb)) (hd : DG G M ow) (h : SBc G M ow 7 sb w r cap) {c : Int32} (hc : ¬ (255 : Int32) < c) {v b : Nat} (hv : v < 100) (hw : w ≤ 236) (hb : cstW cap w v ≤ b) {Q : wM → Prop} (hQ : ∀ M1 ow1, Mv [7] M ow M1 ow1 → SBc G M1 ow1 7 sb (sayP c (nI v) (r, w)).2 (sayP c (nI v) (r, w)).1 (capW cap w v) → Q M1) : P_X1_write G a c (nI v) b M Q := by
  have hdl := digL_b v
  rw [sayP_v c hv] at hQ
  unfold cstW at hb
  refine oGetA.i h1.1 rfl (h.is ⟨cstF cap (w + 1), by omega, S_sbC h (by decide) hc (by omega) (Nat.le_refl _) fun M1 ow1 hs1 b1 => ?_⟩)
  refine oRef.s (b1.is ⟨cstF (capF cap (w + 1)) (w + 1 + digL v), by omega, S_sbI b1 (by decide) (hd.stp hs1) hv (by omega) (Nat.le_refl _) fun M2 ow2 hs2 b2 => ?_⟩)
  refine oRef.s (b2.is ⟨cstF (capF (capF cap (w + 1)) (w + 1 + digL v)) (w + 1 + digL v + 1), by omega, S_sbC b2 (by decide) (by decide) (by omega) (Nat.le_refl _) fun M3 ow3 hs3 b3 => ?_⟩)
  exact hQ M3 ow3 ((hs1.tr hs2).tr hs3) b3
theorem C_writeAll (h1 : Cl G M ow 2 a (ofC bk sv dq bf n ec eo sb)) (h2 : BR G l M ow tF bk y S N) (hg : OK S N) (hd : DG G M ow) (hs : SBc G M ow 7 sb w r cap) {z st c : Int32} (hc : ¬ (255 : Int32) < c) (hroom : ∀ k, k < np N → qZS S N z st k = true → (fo (allS S N z st c) (r, w) k).2 ≤ 236) {b : Nat} (hb : 4000 ≤ b) {Q : wM → Prop} (hQ : ∀ M1 ow1 cap', Mv [7] M ow M1 ow1 → SBc G M1 ow1 7 sb (allF S N z st c (r, w)).2 (allF S N z st c (r, w)).1 cap' → Q M1) : P_X1_writeAll G a c z st b M Q := by
  have hbd := hg.b
  have key := st_loop (F := fun m k => ∀ M2 ow2 cap b, 4000 ≤ b + 2 * cap → Mv [7] M ow M2 ow2 → SBc G M2 ow2 7 sb (fo (allS S N z st c) (r, w) k).2 (fo (allS S N z st c) (r, w) k).1 cap → L_X1_writeAll_3 G Q m a c z st (nI k) M2 b) (N := np N) (fun m M2 ow2 cap b hb2 hs2 k2 => ?_) (fun m k hk ih M2 ow2 cap b hb2 hs2 k2 => ?_) 0 (Nat.zero_le _)
  · obtain ⟨m, hm⟩ := key
    exact ⟨m, hm M ow cap b (by omega) (Mv.rf (by decide)) hs⟩
  · unfold L_X1_writeAll_3; unfold B_X1_writeAll_3
    have c1 := h1.stp hs2 (by decide)
    have r2 := h2.z hs2
    exact oGetA.i c1.1 rfl (oGetA.i r2.bk rfl (isA r2.pl (E_size r2.pl (oIf.y (nI_le (Nat.le_refl _) (by omega)) (hQ M2 ow2 cap hs2 k2)))))
  · unfold L_X1_writeAll_3; unfold B_X1_writeAll_3
    have c1 := h1.stp hs2 (by decide)
    have r2 := h2.z hs2
    have e0 : fo (allS S N z st c) (r, w) (k + 1) = allS S N z st c k (fo (allS S N z st c) (r, w) k) := rfl
    have hro := hroom k hk
    rw [e0] at ih
    generalize fo (allS S N z st c) (r, w) k = o at ih k2 hro
    have skip : ¬ (zP S N k = z ∧ pP N k 2 = st) → B_X1_writeAll_75 G (L_X1_writeAll_3 G Q m) Q a c z st (nI k) M2 b := fun e => by
      unfold B_X1_writeAll_75
      unfold allS at ih
      rw [if_neg e] at ih
      rw [nI_1]; exact ih M2 ow2 cap b hb2 hs2 k2
    refine oGetA.i c1.1 rfl (oGetA.i r2.bk rfl (isA r2.pl (E_size r2.pl (oIf.n (nI_ge hk (by omega)) (oGetA.i c1.1 rfl (oGetA.i r2.bk rfl (isA r2.pl (E_get r2.pl hk (kP r2 hk (oRef.s (gP2 r2 hk (oIf.c (fun c2 => ?_) (fun c2 => skip fun e => c2 e.1)))))))))))) )
    refine oGetA.i c1.1 rfl (oGetA.i r2.bk rfl (isA r2.pl (E_get r2.pl hk (kP r2 hk (oRef.s (gP4 r2 hk (oIf.c (fun c3 => ?_) (fun c3 => skip fun e => c3 e.2))))))))
    unfold allS at ih
    rw [if_pos ⟨c2, c3⟩] at ih
    have hw := hro (by unfold qZS; rw [decide_eq_true c2, decide_eq_true c3]; rfl)
    have hcb := k2.b
    have hcw := capW_ok (cap := cap) (n := o.2) (v := k) hcb.1
    refine oIs.i c1.1 ⟨cstW cap o.2 k, by omega, S_write c1 (hd.stp hs2) k2 hc (by omega) hw (Nat.le_refl _) fun M3 ow3 hs3 k3 => ?_⟩
    unfold B_X1_writeAll_75
    rw [nI_1]
    exact ih M3 ow3 _ _ (by omega) (hs2.tr hs3) k3
end C30
section C30B
variable {G : wG} {l : Nat → Nat → Int64} {M : wM} {ow : Nat → Nat} {a m : Nat} {S N H V : Rw} {b0 : Bool} {n : Nat} {B : Rw} {ec eo : Int32} {w : Nat} {O : Rw} {gi : Nat → Nat}
def tP : List Nat := [1, 7, 20]
theorem C_printZone (h : CP G l M ow tF a S N m H b0 V n B ec eo w O) (hg : OK S N) (hic : IC G M ow gi) (hd : DG G M ow) {z : Int32} {b : Nat} (hb : 13000 ≤ b) {Q : Int32 → wM → Prop} {Xp : String → Nat → wM → Prop} (hf : inR z 0 (S 0 - 1) = false → ∀ q, Xp eIdx q M)
    (hQ : inR z 0 (S 0 - 1) = true → ∀ M1 ow1, Mv tP M ow M1 ow1 → CP G l M1 ow1 tF a S N m H b0 V n B ec eo (prtF S N z O).2 (prtF S N z O).1 → Q (nI (prtF S N z O).2) M1) : P_X1_printZone G a z b M Q Xp := by
  have hbd := hg.b
  obtain ⟨bk, sv, dq, bf, sb, y, h1, h2, h3, h4, h5, h6⟩ := h
  have ho : OF M a bk := ⟨_, h1.1⟩
  obtain ⟨cap, h7⟩ := h6.c
  obtain ⟨room1, room2, room3, room4⟩ := prt_room (S := S) (N := N) (z := z) hbd.1
  refine ho.is ⟨7, by omega, C_checkZone ho h2 hg (Nat.le_refl _) (fun zk hzk ez c => ?_) (fun c q => ⟨rfl, hf c q⟩)⟩
  have hQ := hQ c
  refine oGetA.i h1.1 rfl (h7.is ⟨0, by omega, S_sb0 h7 (by decide) fun M1 hs1 b1 => ?_⟩)
  have c1 := h1.stp hs1 (by decide)
  have r1 := h2.z hs1
  refine oGetA.i c1.1 rfl (oIs.i r1.bk ⟨300, by omega, C_queue r1 i1F hg (hic.stp hs1) (Nat.le_refl _) fun q nq nd o mc M2 ow2 hs2 hl2 hi2 => ?_⟩)
  have hn := hi2.n
  have hn60 : nq ≤ 60 := by rw [hn]; exact Nat.le_trans (cnt_le _ _) hbd.1
  refine oRef.s (hl2.is ⟨6, by omega, S_iterator hl2 (Nat.le_refl _) 20 fun it M3 hit e3 hs3 hI3 => ?_⟩)
  generalize va_up ow2 it 20 = ow3 at hs3 hI3
  have s13 : Mv tP M ow M3 ow3 := (hs1.mono (by decide) (by decide)).tr ((hs2.mono (by decide) (by decide)).tr (hs3.mono (by simp) (by decide)))
  have hl3 := hl2.stp hs3 (by simp)
  have b3 : SBc G M3 ow3 7 sb 0 O cap := ((b1 O).stp hs2 (by decide)).stp hs3 (by simp)
  have fin : ∀ M4 ow4 cap b, 12000 ≤ b + 2 * cap → Mv tP M ow M4 ow4 → SBc G M4 ow4 7 sb (waiF S N z (manyZ S N z 0) (O, 0)).2 (waiF S N z (manyZ S N z 0) (O, 0)).1 cap → oIs M4 a 0 (∃ c6, c6 ≤ b ∧ P_X1_writeAll G a (111 : Int32) z (1 : Int32) c6 M4 (fun M5 => oIs M5 a 0 (∃ c8, c8 ≤ (b - c6) ∧ P_X1_writeAll G a (118 : Int32) z (2 : Int32) c8 M5 (fun M7 => oGetA M7 a 0 7 (fun a9 => oIs M7 a9 23 (P_J18_length G a9 M7 (fun v12 M10 => Q v12 M10))))))) := fun M4 ow4 cap b hb4 s4 b4 => by
    have hcb := b4.b
    have c4 := h1.stp s4 (by decide)
    have r4 := h2.z s4
    refine oIs.i c4.1 ⟨4000, by omega, C_writeAll c4 r4 hg (hd.stp s4) b4 (by decide) (fun k hk hq => room2 k hk hq O) (Nat.le_refl _) fun M5 ow5 cap5 hs5 b5 => ?_⟩
    have c5 := c4.stp hs5 (by decide)
    have r5 := r4.z hs5
    have d5 := (hd.stp s4).stp hs5
    refine oIs.i c5.1 ⟨4000, by omega, C_writeAll c5 r5 hg d5 b5 (by decide) (fun k hk hq => room3 k hk hq O) (Nat.le_refl _) fun M6 ow6 cap6 hs6 b6 => ?_⟩
    have s6 : Mv tP M ow M6 ow6 := s4.tr ((hs5.mono (by decide) (by decide)).tr (hs6.mono (by decide) (by decide)))
    have c6 := h1.stp s6 (by decide)
    refine oGetA.i c6.1 rfl (b6.is (S_sblen b6.s ?_))
    exact hQ M6 ow6 s6 ⟨bk, sv, dq, bf, sb, y, c6, h2.z s6, h3.stp s6 (by decide), h4.stp s6, h5.stp s6 (by decide), b6.s⟩
  have key := st_loop (F := fun m k => ∀ M4 ow4 cap b, 12000 ≤ b + 2 * cap → Mv [7, 20] M3 ow3 M4 ow4 → SBc G M4 ow4 7 sb (waiF S N z k (O, 0)).2 (waiF S N z k (O, 0)).1 cap → Cl G M4 ow4 20 it (liC nd nq q k mc) → L_X1_printZone_27 G Q Xp m a z (some it) M4 b) (N := nq) (fun m M4 ow4 cap b hb4 hs4 b4 hI4 => ?_) (fun m k hk ih M4 ow4 cap b hb4 hs4 b4 hI4 => ?_) 0 (Nat.zero_le _)
  · obtain ⟨m, hm⟩ := key
    exact ⟨m, hm M3 ow3 cap _ (by omega) (Mv.rf (by decide)) b3 hI3⟩
  · unfold L_X1_printZone_27; unfold B_X1_printZone_27
    have hl4 := hl3.stp hs4 (by decide)
    refine oRef.s (oIs.i hI4.1 (S_lihas hl4 (Nat.le_refl _) hI4.1 ?_))
    rw [decide_eq_false (Nat.lt_irrefl _)]
    rw [hn] at b4
    exact oIf.n (by decide) (fin M4 ow4 cap b hb4 (s13.tr (hs4.mono (by decide) (by decide))) b4)
  · unfold L_X1_printZone_27; unfold B_X1_printZone_27
    have hl4 := hl3.stp hs4 (by decide)
    refine oRef.s (oIs.i hI4.1 (S_lihas hl4 (Nat.le_of_lt hk) hI4.1 ?_))
    rw [decide_eq_true hk]
    refine oIf.y rfl (oIs.i hI4.1 (S_linext hl4 hk hI4 (by decide) fun M5 e5 hs5 hI5 => ?_))
    have s5 : Mv [7, 20] M3 ow3 M5 ow4 := hs4.tr (hs5.mono (by decide) (by decide))
    have sA : Mv tP M ow M5 ow4 := s13.tr (s5.mono (by decide) (by decide))
    have ic5 := hic.stp sA
    have hok := (hi2.1 k hk).1
    have b5 := b4.stp hs5 (by decide)
    have c5 := h1.stp sA (by decide)
    have e0 : waiF S N z (k + 1) (O, 0) = sayP 119 (waitAt S N z (nI k)) (waiF S N z k (O, 0)) := rfl
    rw [e0, QI.at hg hi2 hk] at ih
    have hw := room1 k (by rw [← hn]; exact hk) O
    generalize waiF S N z k (O, 0) = ok at ih b5 hw b4
    have hcb := b5.b
    have hcw := capW_ok (cap := cap) (n := ok.2) (v := o k) hcb.1
    refine oCast.s (ic5.o (by omega)) (oRef.s (oIs.i (ic5.o (by omega)) (oGetI.i (ic5.o (by omega)) rfl (oIs.i c5.1 ⟨cstW cap ok.2 (o k), by omega, S_write c5 (hd.stp sA) b5 (by decide) (by omega) hw (Nat.le_refl _) fun M6 ow6 hs6 b6 => ?_⟩))))
    exact ih M6 ow6 _ _ (by omega) (s5.tr (hs6.mono (by decide) (by decide))) b6 (hI5.stp hs6 (by decide))
end C30B
