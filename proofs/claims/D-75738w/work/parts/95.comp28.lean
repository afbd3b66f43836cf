set_option maxRecDepth 100000
/-! STAGE 2, component: forecasts -/
theorem goF_0 {S : Rw} {T : Int32} : ∀ (d : Nat) (N : Rw), goF S T d N 0 = T := by
  intro d
  induction d with
  | zero => intro N; exact upd_eq _ _ _
  | succ d ih =>
    intro N
    unfold goF
    split
    · exact upd_eq _ _ _
    · exact ih _
theorem hapF_0 {S N : Rw} (h : OK S N) : hapF S N 0 = N 0 := by
  have e0 : hap0 S N 0 = N 0 := by
    unfold hap0; split
    · unfold booksF; exact lay_out (by omega)
    · rfl
  have e1 : ∀ k, fo expS (hap0 S N) k 0 = N 0 := by
    intro k
    induction k with
    | zero => exact e0
    | succ k ih =>
      show expS k (fo expS (hap0 S N) k) 0 = N 0
      unfold expS; split
      · rw [upd_ne _ _ (by omega)]; exact ih
      · exact ih
  have e2 : ∀ k, fo lapS (fo expS (hap0 S N) (np N)) k 0 = N 0 := by
    intro k
    induction k with
    | zero => exact e1 _
    | succ k ih =>
      show lapS k (fo lapS (fo expS (hap0 S N) (np N)) k) 0 = N 0
      unfold lapS; split
      · rw [upd_ne _ _ (by omega)]; exact ih
      · exact ih
  unfold hapF
  rw [offF_ne (hap2_ok h h.b.1).1 (fun p hp => by omega)]
  exact e2 _
theorem upd_id (f : Nat → Int32) (k : Nat) : upd f k (f k) = f := by
  funext j; unfold upd; split
  · rename_i e; rw [e]
  · rfl
theorem go1 {S N : Rw} (hg : OK S N) (hd : goEnds S (dueF N) 1 N) : dueF N < dueF (goF S (dueF N) 1 N) := by
  rcases hd with hd | hd
  · exact absurd hd (Int32.lt_irrefl)
  · have hd : dueF N < dueF (hapF S (upd N 0 (dueF N))) := hd
    have e : goF S (dueF N) 1 N = hapF S (upd N 0 (dueF N)) := by
      unfold goF
      rw [if_neg (Int32.lt_irrefl)]
      show upd (hapF S (upd N 0 (dueF N))) 0 (dueF N) = _
      have : hapF S (upd N 0 (dueF N)) 0 = dueF N := (hapF_0 (up0_ok hg _)).trans (upd_eq _ _ _)
      have h2 := upd_id (hapF S (upd N 0 (dueF N))) 0
      rw [this] at h2
      exact h2
    rw [e]; exact hd
theorem wouldF_v {S N : Rw} (hg : OK S N) (s : Int32) : ∃ r, r ≤ 99 ∧ wouldF S N s = nI r := by
  have hb := hg.b
  have hw : wouldN S N s ≤ nc N := cnt_le _ _
  have e : (99 : Int32) - N 4 = nI (99 - nf N) := by
    rw [hg.2.2.2.2.1.1, show (99 : Int32) = nI 99 from rfl, nI_sub hb.2.2.2.1]
  unfold wouldF
  rw [e]
  split
  · exact ⟨wouldN S N s, by omega, rfl⟩
  · exact ⟨99 - nf N, by omega, rfl⟩
theorem tcR {M M1 : wM} {ow ow1 : Nat → Nat} (h : Mv (lvT tL) M ow M1 ow1) : Mv tc M ow M1 ow1 := tcL h
section C28
variable {G : wG} {l : Nat → Nat → Int64} {M : wM} {ow : Nat → Nat} {a bk : Nat} {y : Nat → Nat → Nat} {S N : Rw}
theorem C_offerIn (ho : OF M a bk) (hn : ow a ∉ tc) (h : BR G l M ow tF bk y S N) (hg : OK S N) (hc : Cl G M ow 0 (G.2.2.2 1) (oarr 0 (fun _ => none))) {p x : Int32} {b : Nat} (hb : 31000 ≤ b)
    (hd : ∀ k, k < np N → p = nI k → pP N k 2 = 0 → inR x 1 60 = true → oiEnds S k (N 0 + 1440 * x) fuelD N ∧ N 0 < N 0 + 1440 * x) {Q : Int32 → wM → Prop} {Xp : String → Nat → wM → Prop} (hf1 : c_offerIn N p x = 1 → ∀ q, Xp eIdx q M) (hf2 : c_offerIn N p x = 2 → ∀ q, Xp eArg q M) (hQ : c_offerIn N p x = 0 → ∀ M1 ow1, Mv tc M ow M1 ow1 → Q (v_offerIn S N p x) M1) : P_X1_offerIn G a p x b M Q Xp := by
  have hbd := hg.b
  unfold c_offerIn at hf1 hf2 hQ
  refine ho.is ⟨7, by omega, C_permitAt ho h hg (Nat.le_refl _) (fun k hk ek c => ?_) (fun c q => ⟨rfl, ?_⟩)⟩
  · rw [if_pos c] at hf1 hf2 hQ
    refine S_inR ⟨7, by omega, C_ckA (Nat.le_refl _) (fun c2 => ?_) (fun c2 q => ⟨rfl, ?_⟩)⟩
    · rw [if_pos c2] at hf1 hf2 hQ
      replace hQ := hQ rfl
      unfold v_offerIn at hQ
      rw [ek, nI_clamp (by omega)] at hQ
      refine oRef.s (gP4 h hk (oIf.c (fun c3 => ?_) (fun c3 => ?_)))
      · rw [if_pos c3] at hQ
        obtain ⟨hoe, hlt⟩ := hd k hk ek c3 c2
        subst ek
        refine ho.g (oIs.i h.bk ⟨30000, by omega, C_copy h hg hc (Nat.le_refl _) fun q M1 ow1 y1 hq hs1 hr1 => oRef.s (oGetI.i hr1.bk rfl ⟨fuelD + 1, ?_⟩)⟩)
        rw [Int32.mul_comm x]
        generalize (N 0 + 1440 * x) = e at hoe hlt hQ ⊢
        have hb0 : ∃ b0, b0 = N 0 := ⟨_, rfl⟩
        obtain ⟨b0, eb0⟩ := hb0
        have stop : ∀ M2 ow2 y2 N2 (bq : Nat), Mv tc M ow M2 ow2 → BR G l M2 ow2 tL q y2 S N2 → np N2 = np N → (∀ v, v = (if pP N2 k 2 = 0 then -1 else N2 0 - b0) → Q v M2) → B_X1_offerIn_95 G Q Xp a (nI k) q M2 bq := fun M2 ow2 y2 N2 bq hs2 h2 n2 hq2 => by
          refine oGetA.i h2.bk rfl (isA h2.pl (E_get h2.pl (by omega) (kP h2 (by omega) (oRef.s (gP4 h2 (by omega) (oIf.c (fun c4 => ?_) (fun c4 => ?_)))))))
          · exact hq2 _ (by rw [if_pos c4])
          · refine oGetI.i h2.bk rfl ((ho.stp hs2 hn).g (oGetI.i (h.z hs2).bk rfl (hq2 _ ?_)))
            rw [if_neg c4, eb0]
        have run : ∀ d M2 ow2 y2 N2 (bq : Nat), Mv tc M ow M2 ow2 → BR G l M2 ow2 tL q y2 S N2 → OK S N2 → np N2 = np N → pP N2 k 2 = 0 → N2 0 < e → oiEnds S k e d N2 → (∀ M3 ow3, Mv tc M ow M3 ow3 → Q (oiF S k e b0 d N2) M3) → L_X1_offerIn_47 G Q Xp (d + 1) a (nI k) q e M2 bq := by
          intro d
          induction d with
          | zero => intro M2 ow2 y2 N2 bq hs2 h2 g2 n2 p2 lt2 oe2 hq2; exact oe2.elim
          | succ d ih =>
            intro M2 ow2 y2 N2 bq hs2 h2 g2 n2 p2 lt2 oe2 hq2
            unfold L_X1_offerIn_47; unfold B_X1_offerIn_47
            refine oGetA.i h2.bk rfl (isA h2.pl (E_get h2.pl (by omega) (kP h2 (by omega) (oRef.s (gP4 h2 (by omega) (oIf.y p2 (oGetI.i h2.bk rfl (oIf.n (Int32.not_le.mpr lt2) (oIs.i h2.bk (C_nextEvent h2 g2 (oIs.i h2.bk ?_)))))))))))
            unfold oiF at hq2
            by_cases c5 : e < dueF N2
            · rw [if_pos c5] at hq2
              rw [if_neg (fun z => Int32.lt_irrefl (Int32.lt_trans z c5))]
              refine C_passTo h2 lvL g2 0 c5 fun M3 hs3 h3 => ?_
              have hs3' := hs2.tr (tcL hs3)
              have p3 : pP (goF S e 0 N2) k 2 = 0 := show upd N2 0 e (40 + 7 * k + 2) = 0 from (upd_ne _ _ (by omega)).trans p2
              have n3 : np (goF S e 0 N2) = np N := (np_upd (by omega) _).trans n2
              have t3 : goF S e 0 N2 0 = e := upd_eq _ _ _
              cases d with
              | zero =>
                unfold L_X1_offerIn_47; unfold B_X1_offerIn_47
                refine oGetA.i h3.bk rfl (isA h3.pl (E_get h3.pl (by omega) (kP h3 (by omega) (oRef.s (gP4 h3 (by omega) (oIf.y p3 (oGetI.i h3.bk rfl (oIf.y (by rw [t3]; exact Int32.le_refl _) ?_))))))))
                exact stop M3 ow2 y2 _ bq hs3' h3 n3 fun v ev => by rw [ev, if_pos p3]; exact hq2 M3 ow2 hs3'
              | succ d =>
                unfold L_X1_offerIn_47; unfold B_X1_offerIn_47
                refine oGetA.i h3.bk rfl (isA h3.pl (E_get h3.pl (by omega) (kP h3 (by omega) (oRef.s (gP4 h3 (by omega) (oIf.y p3 (oGetI.i h3.bk rfl (oIf.y (by rw [t3]; exact Int32.le_refl _) ?_))))))))
                exact stop M3 ow2 y2 _ bq hs3' h3 n3 fun v ev => by rw [ev, if_pos p3]; exact hq2 M3 ow2 hs3'
            · rw [if_neg c5] at hq2
              have emin : (if dueF N2 < e then dueF N2 else e) = dueF N2 := by
                by_cases z : dueF N2 < e
                · rw [if_pos z]
                · rw [if_neg z]; exact Int32.le_antisymm (Int32.not_lt.mp z) (Int32.not_lt.mp c5)
              rw [emin]
              rcases oe2 with oe2 | ⟨oe2, oe3⟩
              · exact absurd oe2 c5
              have hgo := go1 g2 oe2
              have g3 : OK S (goF S (dueF N2) 1 N2) := goF_ok g2
              have n3 : np (goF S (dueF N2) 1 N2) = np N := (goF_np g2).trans n2
              have t3 : goF S (dueF N2) 1 N2 0 = dueF N2 := goF_0 _ _
              refine C_passTo h2 lvL g2 1 oe2 fun M3 hs3 h3 => ?_
              have hs3' := hs2.tr (tcL hs3)
              generalize goF S (dueF N2) 1 N2 = N3 at hq2 hgo g3 n3 t3 h3 oe3
              by_cases c6 : pP N3 k 2 = 0
              · rw [if_pos c6] at hq2
                by_cases c7 : dueF N2 < e
                · exact ih M3 ow2 y2 N3 bq hs3' h3 g3 n3 c6 (by rw [t3]; exact c7) (oe3 c6) hq2
                · have ee : e = dueF N2 := Int32.le_antisymm (Int32.not_lt.mp c7) (Int32.not_lt.mp c5)
                  have e1 : oiF S k e b0 d N3 = -1 := by
                    cases d with
                    | zero => rfl
                    | succ d => unfold oiF; rw [if_pos (by rw [ee]; exact hgo)]
                  rw [e1] at hq2
                  unfold L_X1_offerIn_47; unfold B_X1_offerIn_47
                  refine oGetA.i h3.bk rfl (isA h3.pl (E_get h3.pl (by omega) (kP h3 (by omega) (oRef.s (gP4 h3 (by omega) (oIf.y c6 (oGetI.i h3.bk rfl (oIf.y (by rw [t3, ee]; exact Int32.le_refl _) ?_))))))))
                  exact stop M3 ow2 y2 _ bq hs3' h3 n3 fun v ev => by rw [ev, if_pos c6]; exact hq2 M3 ow2 hs3'
              · rw [if_neg c6] at hq2
                unfold L_X1_offerIn_47; unfold B_X1_offerIn_47
                refine oGetA.i h3.bk rfl (isA h3.pl (E_get h3.pl (by omega) (kP h3 (by omega) (oRef.s (gP4 h3 (by omega) (oIf.n c6 ?_))))))
                exact stop M3 ow2 y2 _ bq hs3' h3 n3 fun v ev => by rw [ev, if_neg c6, t3]; exact hq2 M3 ow2 hs3'
        rw [← eb0] at hQ
        exact run fuelD M1 ow1 y1 N _ hs1 hr1 hg rfl c3 hlt hoe hQ
      · rw [if_neg c3] at hQ
        exact hQ M ow (Mv.rf (by decide))
    · rw [if_neg (by rw [c2]; decide)] at hf2
      exact hf2 rfl q
  · rw [if_neg (by rw [c]; decide)] at hf1
    exact hf1 rfl q
theorem C_finesIn (ho : OF M a bk) (h : BR G l M ow tF bk y S N) (hg : OK S N) (hc : Cl G M ow 0 (G.2.2.2 1) (oarr 0 (fun _ => none))) {s x : Int32} {b : Nat} (hb : 31000 ≤ b)
    (hd : inR x 0 20160 = true → goEnds S (N 0 + x) fuelD N ∧ VB (goF S (N 0 + x) fuelD N) ∧ FT (goF S (N 0 + x) fuelD N)) {Q : Int32 → wM → Prop} {Xp : String → Nat → wM → Prop} (hf1 : c_finesIn S s x = 1 → ∀ q, Xp eIdx q M) (hf2 : c_finesIn S s x = 2 → ∀ q, Xp eArg q M) (hQ : c_finesIn S s x = 0 → ∀ M1 ow1, Mv tc M ow M1 ow1 → Q (v_finesIn S N s x) M1) : P_X1_finesIn G a s x b M Q Xp := by
  have hbd := hg.b
  unfold c_finesIn at hf1 hf2 hQ
  refine ho.is ⟨7, by omega, C_checkStreet ho h hg (Nat.le_refl _) (fun k hk ek c => ?_) (fun c q => ⟨rfl, ?_⟩)⟩
  · rw [if_pos c] at hf1 hf2 hQ
    refine S_inR ⟨7, by omega, C_ckA (Nat.le_refl _) (fun c2 => ?_) (fun c2 q => ⟨rfl, ?_⟩)⟩
    · rw [if_pos c2] at hf1 hf2 hQ
      replace hQ := hQ rfl
      unfold v_finesIn at hQ
      obtain ⟨d1, d2, d3⟩ := hd c2
      refine ho.g (oIs.i h.bk ⟨30000, by omega, C_copy h hg hc (Nat.le_refl _) fun q M1 ow1 y1 hq hs1 hr1 => oRef.s (oGetI.i hr1.bk rfl (oIs.i hr1.bk ?_))⟩)
      refine C_passTo hr1 lvL hg fuelD d1 fun M2 hs2 hr2 => oIs.i hr2.bk ⟨6, by omega, ?_⟩
      exact C_countFines hr2 i1L (goF_ok hg) d2 d3 (Nat.le_refl _) fun M3 ow3 hs3 => hQ M3 ow3 ((hs1.tr (tcL hs2)).tr (tc1 hs3))
    · rw [if_neg (by rw [c2]; decide)] at hf2
      exact hf2 rfl q
  · rw [if_neg (by rw [c]; decide)] at hf1
    exact hf1 rfl q
theorem C_bestInspection (ho : OF M a bk) (h : BR G l M ow tF bk y S N) (hg : OK S N) (hc : Cl G M ow 0 (G.2.2.2 1) (oarr 0 (fun _ => none))) {s x : Int32} {b : Nat} (hb : 31000 ≤ b)
    (hd : ∀ k, k < 72 → goEnds S (first0 N + 60 * nI k) fuelD (biR S N s k).2.2 ∧ VB (biR S N s (k + 1)).2.2 ∧ FT (biR S N s (k + 1)).2.2) {Q : Int32 → wM → Prop} {Xp : String → Nat → wM → Prop} (hf1 : c_bestI S s x = 1 → ∀ q, Xp eIdx q M) (hf2 : c_bestI S s x = 2 → ∀ q, Xp eArg q M) (hQ : c_bestI S s x = 0 → ∀ M1 ow1, Mv tc M ow M1 ow1 → Q (biR S N s x.toNatClampNeg).1 M1) : P_X1_bestInspection G a s x b M Q Xp := by
  have hbd := hg.b
  unfold c_bestI at hf1 hf2 hQ
  refine ho.is ⟨7, by omega, C_checkStreet ho h hg (Nat.le_refl _) (fun sk hsk esk c => ?_) (fun c q => ⟨rfl, ?_⟩)⟩
  · rw [if_pos c] at hf1 hf2 hQ
    refine S_inR ⟨7, by omega, C_ckA (Nat.le_refl _) (fun c2 => ?_) (fun c2 q => ⟨rfl, ?_⟩)⟩
    · rw [if_pos c2] at hf1 hf2 hQ
      replace hQ := hQ rfl
      obtain ⟨n, hn1, hn72, en⟩ := inR_1n (n := 72) (by decide) c2
      subst en
      rw [nI_clamp (by omega)] at hQ
      refine ho.g (oIs.i h.bk ⟨30000, by omega, C_copy h hg hc (Nat.le_refl _) fun q M1 ow1 y1 hq hs1 hr1 => oRef.s (oGetI.i hr1.bk rfl ?_)⟩)
      have key := st_loop (F := fun m k => ∀ M2 ow2 y2 b, 6 * (n - k) ≤ b → Mv tc M ow M2 ow2 → BR G l M2 ow2 tL q y2 S (biR S N s k).2.2 → L_X1_bestInspection_49 G Q Xp m s (nI n) q (first0 N) (if k = 0 then -1 else (biR S N s k).1) (biR S N s k).2.1 (nI k) M2 b) (N := n) (fun m M2 ow2 y2 b hb2 hs2 h2 => ?_) (fun m k hk ih M2 ow2 y2 b hb2 hs2 h2 => ?_) 0 (Nat.zero_le _)
      · obtain ⟨m, hm⟩ := key
        exact ⟨m, hm M1 ow1 y1 _ (by omega) hs1 hr1⟩
      · unfold L_X1_bestInspection_49; unfold B_X1_bestInspection_49
        rw [if_neg (by omega)]
        exact oIf.y (nI_le (Nat.le_refl _) (by omega)) (hQ M2 ow2 hs2)
      · unfold L_X1_bestInspection_49; unfold B_X1_bestInspection_49
        obtain ⟨d1, d2, d3⟩ := hd k (by omega)
        have gk : OK S (biR S N s k).2.2 := biR_ok hg k
        have e1 : biR S N s (k + 1) = biS S s (first0 N) k (biR S N s k) := rfl
        have e0 : k = 0 → (biR S N s k).2.1 = -1 := fun e => by subst e; rfl
        rw [if_neg (by omega)] at ih
        rw [e1] at ih d2 d3
        generalize biR S N s k = st at h2 d1 gk ih d2 d3 e0 ⊢
        refine oIf.n (nI_ge hk (by omega)) (oIs.i h2.bk ?_)
        rw [Int32.mul_comm (nI k)]
        refine C_passTo h2 lvL gk fuelD d1 fun M3 hs3 hr3 => oIs.i hr3.bk ⟨6, by omega, ?_⟩
        have g3 : OK S (goF S (first0 N + 60 * nI k) fuelD st.2.2) := goF_ok gk
        have e3 : (biS S s (first0 N) k st).2.2 = goF S (first0 N + 60 * nI k) fuelD st.2.2 := by unfold biS; split <;> rfl
        rw [e3] at d2 d3
        refine C_countFines hr3 i1L g3 d2 d3 (Nat.le_refl _) fun M4 ow4 hs4 => ?_
        have hr4 := hr3.i hs4
        have s4 : Mv tc M ow M4 ow4 := (hs2.tr (tcL hs3)).tr (tc1 hs4)
        refine oIf.c (fun c3 => oGetI.i hr4.bk rfl ?_) (fun c3 => ?_)
        · unfold B_X1_bestInspection_94
          have e4 : biS S s (first0 N) k st = (goF S (first0 N + 60 * nI k) fuelD st.2.2 0, wouldF S (goF S (first0 N + 60 * nI k) fuelD st.2.2) s, goF S (first0 N + 60 * nI k) fuelD st.2.2) := by unfold biS; rw [if_pos c3]
          rw [e4] at ih
          rw [nI_1]
          exact ih M4 ow4 y2 _ (by omega) s4 hr4
        · unfold B_X1_bestInspection_94
          have e4 : biS S s (first0 N) k st = (st.1, st.2.1, goF S (first0 N + 60 * nI k) fuelD st.2.2) := by unfold biS; rw [if_neg c3]
          have k0 : ¬ k = 0 := fun z => by
            obtain ⟨r, hr, er⟩ := wouldF_v g3 s
            rw [e0 z, er] at c3
            apply c3
            exact Int32.lt_of_lt_of_le (by decide) (nI_pos' (n := r) (by omega))
          rw [e4] at ih
          rw [nI_1, if_neg k0]
          exact ih M4 ow4 y2 _ (by omega) s4 hr4
    · rw [if_neg (by rw [c2]; decide)] at hf2
      exact hf2 rfl q
  · rw [if_neg (by rw [c]; decide)] at hf1
    exact hf1 rfl q
end C28
