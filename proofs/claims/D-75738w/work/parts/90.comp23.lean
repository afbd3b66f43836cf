set_option maxRecDepth 100000
/-! STAGE 2, component: the queue of waiting permits -/
/-- small Integers, g: their places -/
def IC (G : wG) (M : wM) (ow : Nat → Nat) (g : Nat → Nat) : Prop := ∃ (f : Nat → Option Nat), Cl G M ow 0 (G.2.2.2 2) (.inl (.object "java/lang/Integer", 256, .inr (.inr (.inr (.inr f))))) ∧ ∀ k, k < 128 → f (k + 128) = some (g k) ∧ Cl G M ow 0 (g k) (inC (nI k))
theorem IC.stp {G : wG} {M M1 : wM} {ow ow1 g : Nat → Nat} {T : List Nat} (h : IC G M ow g) (hs : Mv T M ow M1 ow1) : IC G M1 ow1 g := by
  obtain ⟨f, h1, h2⟩ := h
  exact ⟨f, h1.stp hs hs.1, fun k hk => ⟨(h2 k hk).1, (h2 k hk).2.stp hs hs.1⟩⟩
theorem IC.o {G : wG} {M : wM} {ow g : Nat → Nat} (h : IC G M ow g) {k : Nat} (hk : k < 128) : M (g k) = some (inC (nI k)) := by
  obtain ⟨f, h1, h2⟩ := h; exact (h2 k hk).2.1
theorem S_valueOf {G : wG} {M : wM} {ow g : Nat → Nat} (h : IC G M ow g) {k b : Nat} (hk : k < 128) {Q : Option Nat → wM → Prop} (hQ : Q (some (g k)) M) : P_J23_valueOf G (nI k) b M Q := by
  obtain ⟨f, h1, h2⟩ := h
  refine oIf.n (fun z => nI_pos (n := k) (by omega) (Int32.lt_trans z (by decide))) (oIf.n (show ¬ (127 : Int32) < nI k from nI_nlt (a := 127) (b := k) (by omega) (by decide)) (oAald.e (i := k + 128) (nI_add k 128) h1.1 (by omega) (by omega) ?_))
  rw [(h2 k hk).1]; exact hQ
theorem insN_map (f g : Nat → Nat) (k x : Nat) : insN (fun j => f (g j)) k (f x) = fun j => f (insN g k x j) := by
  funext j; unfold insN; split
  · rfl
  · split <;> rfl
section C23
variable {G : wG} {l : Nat → Nat → Int64} {M : wM} {ow : Nat → Nat} {τ : Nat → Nat} {a bk : Nat} {y : Nat → Nat → Nat} {S N : Rw} {gi : Nat → Nat}
theorem C_queue (h : BR G l M ow τ a y S N) (hi : I1 τ) (hg : OK S N) (hic : IC G M ow gi) {z : Int32} {b : Nat} (hb : 300 ≤ b) {Q : Option Nat → wM → Prop} (hQ : ∀ q n nd o mc M1 ow1, Mv [1] M ow M1 ow1 → LL G M1 ow1 1 q n nd (fun j => gi (o j)) mc → QI S N z (np N) n o → Q (some q) M1) : P_X2_queue G a z b M Q := by
  have hbd := hg.b
  refine oNew.m (ow := ow) 1 (by simp; omega) fun q M1 hq hz e1 hs1 hC1 => ?_
  subst e1
  refine S_llinit (ow := ow) (nd := fun _ => 0) (g := fun j => gi (id j)) hq hz 1 fun M2 e2 hs2 hl2 => ?_
  have hs2' : Mv [1] M ow M2 (va_up ow q 1) := hs2.mono (by simp) (by decide)
  generalize va_up ow q 1 = ow2 at *
  have key := st_loop (F := fun m k => ∀ M2 ow2 n nd o mc b, Mv [1] M ow M2 ow2 → LL G M2 ow2 1 q n nd (fun j => gi (o j)) mc → QI S N z k n o → n ≤ k → 4 * (np N - k) ≤ b → L_X2_queue_10 G Q m a z q (nI k) M2 b) (N := np N) (fun m M2 ow2 n nd o mc b hs2 hl2 hi2 hn2 hb2 => ?_) (fun m k hk ih M2 ow2 n nd o mc b hs2 hl2 hi2 hn2 hb2 => ?_) 0 (Nat.zero_le _)
  · obtain ⟨m, hm⟩ := key
    exact ⟨m, hm M2 ow2 0 _ _ 0 _ hs2' hl2 (QI.z S N z _) (Nat.le_refl _) (by simp; omega)⟩
  · unfold L_X2_queue_10; unfold B_X2_queue_10
    have h2 := h.stp hs2 hi
    exact oGetA.i h2.bk rfl (isA h2.pl (E_size h2.pl (oIf.y (nI_le (Nat.le_refl _) (by omega)) (hQ q n nd o mc M2 ow2 hs2 hl2 hi2))))
  · unfold L_X2_queue_10; unfold B_X2_queue_10
    have h2 := h.stp hs2 hi
    have ic2 := hic.stp hs2
    have skip : isW S N z k = false → B_X2_queue_120 G (L_X2_queue_10 G Q m) Q a z q (nI k) M2 b := fun e => by
      unfold B_X2_queue_120; rw [nI_1]; exact ih M2 ow2 n nd o mc b hs2 hl2 (hi2.sk e) (by omega) (by omega)
    refine oGetA.i h2.bk rfl (isA h2.pl (E_size h2.pl (oIf.n (nI_ge hk (by omega)) (oGetA.i h2.bk rfl (isA h2.pl (E_get h2.pl hk (kP h2 hk (oRef.s (gP2 h2 hk (oIf.c (fun c1 => ?_) (fun c1 => skip (by unfold isW; simp [c1]))))))))))))
    refine gP4 h2 hk (oIf.c (fun c2 => ?_) (fun c2 => skip (by unfold isW; simp [c2])))
    have hw : isW S N z k = true := by unfold isW; simp [c1, c2]
    refine hl2.is (S_llsize hl2 ?_)
    have put : ∀ pl, pl ≤ n → (∀ j, pl ≤ j → j < n → vH N k < vH N (o j)) → (pl = 0 ∨ ¬ vH N k < vH N (o (pl - 1))) → B_X2_queue_110 G (L_X2_queue_10 G Q m) Q a z q (nI k) (nI pl) M2 b := fun pl hpl p1 p2 => by
      refine ⟨0, Nat.zero_le _, S_valueOf ic2 (by omega) (hl2.is ⟨4, by omega, S_lladdAt hl2 (by decide) hpl (by omega) (Nat.le_refl _) ⟨_, ic2.o (by omega)⟩ fun nd1 M3 ow3 hs3 hl3 => ?_⟩)⟩
      unfold B_X2_queue_120
      rw [insN_map] at hl3
      rw [nI_1]
      exact ih M3 ow3 (n + 1) nd1 (insN o pl k) _ _ (hs2.tr hs3) hl3 (hi2.ins hw hpl p1 p2) (by omega) (by omega)
    have run : ∀ pl, pl ≤ n → (∀ j, pl ≤ j → j < n → vH N k < vH N (o j)) → ∃ m', L_X2_queue_64 G (L_X2_queue_10 G Q m) Q m' a z q (nI k) (y 1 k) (nI pl) M2 b := by
      intro pl
      induction pl with
      | zero =>
        intro hpl p1
        refine ⟨1, ?_⟩
        unfold L_X2_queue_64; unfold B_X2_queue_64
        exact oIf.y (by decide) (put 0 hpl p1 (.inl rfl))
      | succ pl ihp =>
        intro hpl p1
        have ho := (hi2.1 pl (by omega)).1
        by_cases c : vH N k < vH N (o pl)
        · obtain ⟨m', hm'⟩ := ihp (by omega) fun j j1 j2 => by
            by_cases e : j = pl
            · rw [e]; exact c
            · exact p1 j (by omega) j2
          refine ⟨m' + 1, ?_⟩
          unfold L_X2_queue_64; unfold B_X2_queue_64
          refine oIf.n (nI_nle (by omega) (by omega)) (oGetA.i h2.bk rfl (hl2.is ?_))
          rw [nI_pred]
          refine S_llget hl2 (by omega) (oCast.s (ic2.o (by omega)) (oRef.s (oIs.i (ic2.o (by omega)) (oGetI.i (ic2.o (by omega)) rfl (isA h2.pl (E_get h2.pl (by omega) (kP h2 (by omega) (oRef.s (oIs.i h2.bk (C_isAhead h2 hg hk (by omega) ?_))))))))))
          rw [decide_eq_true c]
          refine oIf.y rfl ?_
          rw [← Int32.sub_eq_add_neg, nI_pred]
          exact hm'
        · refine ⟨1, ?_⟩
          unfold L_X2_queue_64; unfold B_X2_queue_64
          refine oIf.n (nI_nle (by omega) (by omega)) (oGetA.i h2.bk rfl (hl2.is ?_))
          rw [nI_pred]
          refine S_llget hl2 (by omega) (oCast.s (ic2.o (by omega)) (oRef.s (oIs.i (ic2.o (by omega)) (oGetI.i (ic2.o (by omega)) rfl (isA h2.pl (E_get h2.pl (by omega) (kP h2 (by omega) (oRef.s (oIs.i h2.bk (C_isAhead h2 hg hk (by omega) ?_))))))))))
          rw [decide_eq_false c]
          exact oIf.n (by decide) (put (pl + 1) hpl p1 (.inr c))
    exact run n (Nat.le_refl _) fun j j1 j2 => by omega
theorem C_waiting (ho : OF M a bk) (h : BR G l M ow τ bk y S N) (hi : I1 τ) (hg : OK S N) (hic : IC G M ow gi) {z k : Int32} {b : Nat} (hb : 400 ≤ b) {Q : Int32 → wM → Prop} {Xp : String → Nat → wM → Prop} (hQ : AnsN M ow (r_waiting S N z k) Q Xp) : P_X1_waiting G a z k b M Q Xp := by
  have hbd := hg.b
  unfold r_waiting at hQ
  refine ho.is ⟨7, by omega, C_checkZone ho h hg (Nat.le_refl _) (fun zk hzk ez c => ?_) (fun c q => ⟨rfl, ?_⟩)⟩
  · rw [if_pos c] at hQ
    refine ho.g (oIs.i h.bk ⟨300, by omega, C_queue h hi hg hic (Nat.le_refl _) fun q n nd o mc M1 ow1 hs1 hl1 hi1 => ?_⟩)
    have hn := hi1.n
    have hn60 : n ≤ 60 := by rw [hn]; exact Nat.le_trans (cnt_le _ _) hbd.1
    have ic1 := hic.stp hs1
    rw [← hn] at hQ
    refine oRef.s (hl1.is (S_llsize hl1 (S_inR (oIf.c (fun c2 => ?_) (fun c2 => ?_)))))
    · rw [if_pos c2] at hQ
      obtain ⟨j, hj, ej⟩ := inR_nI (by omega) c2
      rw [ej, QI.at hg hi1 hj] at hQ
      rw [ej]
      have ho1 := (hi1.1 j hj).1
      exact hl1.is (S_llget hl1 hj (oCast.s (ic1.o (by omega)) (oRef.s (oIs.i (ic1.o (by omega)) (oGetI.i (ic1.o (by omega)) rfl (hQ.1 rfl M1 ow1 hs1))))))
    · rw [if_neg c2] at hQ
      exact ⟨by omega, hQ.2.2 rfl M1 ow1 hs1⟩
  · rw [if_neg (by rw [c]; decide)] at hQ
    exact hQ.2.1 rfl q
theorem C_waitingPlace (ho : OF M a bk) (h : BR G l M ow τ bk y S N) (hi : I1 τ) (hg : OK S N) (hic : IC G M ow gi) {p : Int32} {b : Nat} (hb : 400 ≤ b) {Q : Int32 → wM → Prop} {Xp : String → Nat → wM → Prop} (hQ : AnsI M ow (r_place S N p) Q Xp) : P_X1_waitingPlace G a p b M Q Xp := by
  have hbd := hg.b
  unfold r_place at hQ
  refine ho.is ⟨7, by omega, C_permitAt ho h hg (Nat.le_refl _) (fun k hk ek c => ?_) (fun c q => ⟨rfl, ?_⟩)⟩
  · rw [if_pos c, ek, nI_clamp (by omega)] at hQ
    rw [ek]
    have hQ := hQ.1 rfl
    refine oRef.s (gP4 h hk (oIf.c (fun c1 => ?_) (fun c1 => ?_)))
    · rw [if_pos c1] at hQ
      refine ho.g (gP2 h hk (oIs.i h.bk ⟨300, by omega, C_queue h hi hg hic (Nat.le_refl _) fun q n nd o mc M1 ow1 hs1 hl1 hi1 => ?_⟩))
      have hn60 : n ≤ 60 := by rw [hi1.n]; exact Nat.le_trans (cnt_le _ _) hbd.1
      have ic1 := hic.stp hs1
      refine ⟨0, Nat.zero_le _, S_valueOf ic1 (by omega) (oRef.s (oRef.s (hl1.is (S_indexOf hl1 (ic1.o (by omega)) (vv := fun j => nI (o j)) (fun j hj => ic1.o (by have := (hi1.1 j hj).1; omega)) ?_))))⟩
      have e : srch (fun j => decide (nI k = nI (o j))) (n - 0) 0 = nI (aheadN S N k) := by
        obtain ⟨j, hj, ej⟩ := hi1.2.1 k hk (by unfold isW; simp [c1])
        rcases srch_c (p := fun j => decide (nI k = nI (o j))) (n := n) (by omega) with ⟨-, e2⟩ | ⟨j', hj', e2, e3, -⟩
        · have := e2 j hj
          rw [ej] at this
          simp at this
        · rw [e3]
          have := nI_inj (by omega) (by have := (hi1.1 j' hj').1; omega) (of_decide_eq_true e2)
          rw [this, hi1.ah hj']
      rw [e]
      exact hQ M1 ow1 hs1
    · rw [if_neg c1] at hQ
      exact hQ M ow (Mv.rf (by decide))
  · rw [if_neg (by rw [c]; decide)] at hQ
    exact hQ.2 (by decide) q
end C23
