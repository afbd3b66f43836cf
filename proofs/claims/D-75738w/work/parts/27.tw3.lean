set_option maxRecDepth 100000
/-! STAGE 2, the twin: told, copies, history -/
section TW3
variable {G : wG} {M0 M : wM} {t : Nat} {f : Nat → Nat} {i S D N A T V H : Nat → Int32} {l : Nat → Nat → Int64} {B O : Nat → Int32}
theorem S_is (h : TW G M0 M t f i S D N A T V H l B O) {b : Bool} {Q : Bool → wM → Prop} (hQ : ∀ M1, TW G M0 M1 t f (upd i 0 (if b then 0 else 1)) S D N A T V H l B O → Q b M1) : P_X4_is G t (wb b) M Q := by
  cases b with
  | false => exact oIf.y rfl (pt_0 h fun M1 h1 => ⟨false, rfl, hQ M1 h1⟩)
  | true => exact oIf.n (by decide) (pt_0 h fun M1 h1 => ⟨true, rfl, hQ M1 h1⟩)
theorem S_may (h : TW G M0 M t f i S D N A T V H l B O) {b : Bool} {c : Int32} {Q : Bool → wM → Prop} (hQ : ∀ M1, TW G M0 M1 t f (upd i 0 (if b then 0 else c)) S D N A T V H l B O → Q b M1) : P_X4_may G t (wb b) c M Q := by
  cases b with
  | false => exact oIf.y rfl (pt_0 h fun M1 h1 => ⟨false, rfl, hQ M1 h1⟩)
  | true => exact oIf.n (by decide) (pt_0 h fun M1 h1 => ⟨true, rfl, hQ M1 h1⟩)
theorem S_isIn {a lo hi : Int32} {Q : Bool → wM → Prop} (hQ : Q (inR a lo hi) M) : P_X4_isIn G a.toInt64 lo.toInt64 hi.toInt64 M Q := by
  unfold P_X4_isIn
  unfold inR at hQ
  by_cases h1 : a < lo
  · refine oIf.y (st_lt.mpr (st_l.mpr h1)) ?_
    rw [decide_eq_true h1] at hQ
    exact ⟨false, rfl, hQ⟩
  · refine oIf.n (fun h => h1 (st_l.mp (st_lt.mp h))) ?_
    rw [decide_eq_false h1] at hQ
    by_cases h2 : hi < a
    · refine oIf.y (st_gt.mpr (st_l.mpr h2)) ?_
      rw [decide_eq_true h2] at hQ
      exact ⟨false, rfl, hQ⟩
    · refine oIf.n (fun h => h2 (st_l.mp (st_gt.mp h))) ?_
      rw [decide_eq_false h2] at hQ
      exact ⟨true, rfl, hQ⟩
theorem S_isZone (h : TW G M0 M t f i S D N A T V H l B O) {z : Int32} {Q : Bool → wM → Prop} (hQ : Q (inR z 0 (S 0 - 1)) M) : P_X4_isZone G t z M Q :=
  oGetA.i h.obj rfl (oIald.e (i := 0) rfl h.set (by decide) (by decide) (S_isIn (lo := 0) hQ))
theorem S_isStreet (h : TW G M0 M t f i S D N A T V H l B O) {z : Int32} {Q : Bool → wM → Prop} (hQ : Q (inR z 0 (S 1 - 1)) M) : P_X4_isStreet G t z M Q :=
  oGetA.i h.obj rfl (oIald.e (i := 1) rfl h.set (by decide) (by decide) (S_isIn (lo := 0) hQ))
theorem S_isHouse (h : TW G M0 M t f i S D N A T V H l B O) {z : Int32} {Q : Bool → wM → Prop} (hQ : Q (inR z 0 (S 2 - 1)) M) : P_X4_isHouse G t z M Q :=
  oGetA.i h.obj rfl (oIald.e (i := 2) rfl h.set (by decide) (by decide) (S_isIn (lo := 0) hQ))
theorem S_isPermit (h : TW G M0 M t f i S D N A T V H l B O) {z : Int32} {Q : Bool → wM → Prop} (hQ : Q (inR z 0 (N 1 - 1)) M) : P_X4_isPermit G t z M Q :=
  oGetA.i h.obj rfl (oIald.e (i := 1) rfl h.now (by decide) (by decide) (S_isIn (lo := 0) hQ))
theorem S_isVisit (h : TW G M0 M t f i S D N A T V H l B O) {z : Int32} {Q : Bool → wM → Prop} (hQ : Q (inR z 0 (N 2 - 1)) M) : P_X4_isVisit G t z M Q :=
  oGetA.i h.obj rfl (oIald.e (i := 2) rfl h.now (by decide) (by decide) (S_isIn (lo := 0) hQ))
theorem S_isFine (h : TW G M0 M t f i S D N A T V H l B O) {z : Int32} {Q : Bool → wM → Prop} (hQ : Q (inR z 0 (N 4 - 1)) M) : P_X4_isFine G t z M Q :=
  oGetA.i h.obj rfl (oIald.e (i := 4) rfl h.now (by decide) (by decide) (S_isIn (lo := 0) hQ))
theorem S_isPlate {z : Int32} {Q : Bool → wM → Prop} (hQ : Q (inR z 1 9999) M) : P_X4_isPlate G z M Q := S_isIn (lo := 1) (hi := 9999) hQ
theorem S_areHours {z : Int32} {Q : Bool → wM → Prop} (hQ : Q (inR z 1 24) M) : P_X4_areHours G z M Q := S_isIn (lo := 1) (hi := 24) hQ
theorem S_isRule {z : Int32} {Q : Bool → wM → Prop} (hQ : Q (inR z 1 6) M) : P_X4_isRule G z M Q := S_isIn (lo := 1) (hi := 6) hQ
theorem S_thrown (h : TW G M0 M t f i S D N A T V H l B O) {Q : Int32 → wM → Prop} (hQ : Q (i 0) M) : P_X4_thrown G t M Q := oGetI.i h.obj rfl hQ
theorem S_copies_34 (h : TW G M0 M t f i S D N A T V H l B O) {Q : wM → Prop} (hQ : ∀ M1, TW G M0 M1 t f i S D N (lay 0 1435 N A) T V H l B O → Q M1) : P_X4_copies G (f 3) (f 4) M Q := by
  have key := st_loop (F := fun n k => ∀ M1, TW G M0 M1 t f i S D N (lay 0 k N A) T V H l B O → L_X4_copies_2 G Q n (f 3) (f 4) (nI k) M1) (N := 1435) (fun n M1 h1 => ?_) (fun n k hk ih M1 h1 => ?_) 0 (Nat.zero_le _)
  · obtain ⟨n, hn⟩ := key
    exact ⟨n, hn M (by rw [lay_0]; exact h)⟩
  · unfold L_X4_copies_2; unfold B_X4_copies_2
    exact oIf.y (by decide) (hQ M1 h1)
  · unfold L_X4_copies_2; unfold B_X4_copies_2
    refine oIf.n (nI_ge hk (by decide)) (oIald.e rfl h1.now hk (by decide) ?_)
    refine st_asd_e h1 rfl hk fun M2 h2 => ?_
    rw [lay0_s] at h2
    rw [nI_1]
    exact ih M2 h2
theorem S_copies_35 (h : TW G M0 M t f i S D N A T V H l B O) {Q : wM → Prop} (hQ : ∀ M1, TW G M0 M1 t f i S D N A (lay 0 1435 N T) V H l B O → Q M1) : P_X4_copies G (f 3) (f 5) M Q := by
  have key := st_loop (F := fun n k => ∀ M1, TW G M0 M1 t f i S D N A (lay 0 k N T) V H l B O → L_X4_copies_2 G Q n (f 3) (f 5) (nI k) M1) (N := 1435) (fun n M1 h1 => ?_) (fun n k hk ih M1 h1 => ?_) 0 (Nat.zero_le _)
  · obtain ⟨n, hn⟩ := key
    exact ⟨n, hn M (by rw [lay_0]; exact h)⟩
  · unfold L_X4_copies_2; unfold B_X4_copies_2
    exact oIf.y (by decide) (hQ M1 h1)
  · unfold L_X4_copies_2; unfold B_X4_copies_2
    refine oIf.n (nI_ge hk (by decide)) (oIald.e rfl h1.now hk (by decide) ?_)
    refine st_tri_e h1 rfl hk fun M2 h2 => ?_
    rw [lay0_s] at h2
    rw [nI_1]
    exact ih M2 h2
theorem S_copies_53 (h : TW G M0 M t f i S D N A T V H l B O) {Q : wM → Prop} (hQ : ∀ M1, TW G M0 M1 t f i S D (lay 0 1435 T N) A T V H l B O → Q M1) : P_X4_copies G (f 5) (f 3) M Q := by
  have key := st_loop (F := fun n k => ∀ M1, TW G M0 M1 t f i S D (lay 0 k T N) A T V H l B O → L_X4_copies_2 G Q n (f 5) (f 3) (nI k) M1) (N := 1435) (fun n M1 h1 => ?_) (fun n k hk ih M1 h1 => ?_) 0 (Nat.zero_le _)
  · obtain ⟨n, hn⟩ := key
    exact ⟨n, hn M (by rw [lay_0]; exact h)⟩
  · unfold L_X4_copies_2; unfold B_X4_copies_2
    exact oIf.y (by decide) (hQ M1 h1)
  · unfold L_X4_copies_2; unfold B_X4_copies_2
    refine oIf.n (nI_ge hk (by decide)) (oIald.e rfl h1.tri hk (by decide) ?_)
    refine st_now_e h1 rfl hk fun M2 h2 => ?_
    rw [lay0_s] at h2
    rw [nI_1]
    exact ih M2 h2
theorem S_copies_36 (h : TW G M0 M t f i S D N A T V H l B O) {Q : wM → Prop} (hQ : ∀ M1, TW G M0 M1 t f i S D N A T (lay 0 1435 N V) H l B O → Q M1) : P_X4_copies G (f 3) (f 6) M Q := by
  have key := st_loop (F := fun n k => ∀ M1, TW G M0 M1 t f i S D N A T (lay 0 k N V) H l B O → L_X4_copies_2 G Q n (f 3) (f 6) (nI k) M1) (N := 1435) (fun n M1 h1 => ?_) (fun n k hk ih M1 h1 => ?_) 0 (Nat.zero_le _)
  · obtain ⟨n, hn⟩ := key
    exact ⟨n, hn M (by rw [lay_0]; exact h)⟩
  · unfold L_X4_copies_2; unfold B_X4_copies_2
    exact oIf.y (by decide) (hQ M1 h1)
  · unfold L_X4_copies_2; unfold B_X4_copies_2
    refine oIf.n (nI_ge hk (by decide)) (oIald.e rfl h1.now hk (by decide) ?_)
    refine st_sav_e h1 rfl hk fun M2 h2 => ?_
    rw [lay0_s] at h2
    rw [nI_1]
    exact ih M2 h2
theorem S_copies_63 (h : TW G M0 M t f i S D N A T V H l B O) {Q : wM → Prop} (hQ : ∀ M1, TW G M0 M1 t f i S D (lay 0 1435 V N) A T V H l B O → Q M1) : P_X4_copies G (f 6) (f 3) M Q := by
  have key := st_loop (F := fun n k => ∀ M1, TW G M0 M1 t f i S D (lay 0 k V N) A T V H l B O → L_X4_copies_2 G Q n (f 6) (f 3) (nI k) M1) (N := 1435) (fun n M1 h1 => ?_) (fun n k hk ih M1 h1 => ?_) 0 (Nat.zero_le _)
  · obtain ⟨n, hn⟩ := key
    exact ⟨n, hn M (by rw [lay_0]; exact h)⟩
  · unfold L_X4_copies_2; unfold B_X4_copies_2
    exact oIf.y (by decide) (hQ M1 h1)
  · unfold L_X4_copies_2; unfold B_X4_copies_2
    refine oIf.n (nI_ge hk (by decide)) (oIald.e rfl h1.sav hk (by decide) ?_)
    refine st_now_e h1 rfl hk fun M2 h2 => ?_
    rw [lay0_s] at h2
    rw [nI_1]
    exact ih M2 h2
theorem S_starts (h : TW G M0 M t f i S D N A T V H l B O) {Q : wM → Prop} (hQ : ∀ M1, TW G M0 M1 t f i S D N (lay 0 1435 N A) T V H l B O → Q M1) : P_X4_starts G t M Q := oGetA.i h.obj rfl (oGetA.i h.obj rfl (S_copies_34 h hQ))
theorem S_tries (h : TW G M0 M t f i S D N A T V H l B O) {Q : wM → Prop} (hQ : ∀ M1, TW G M0 M1 t f i S D N A (lay 0 1435 N T) V H l B O → Q M1) : P_X4_tries G t M Q := oGetA.i h.obj rfl (oGetA.i h.obj rfl (S_copies_35 h hQ))
theorem S_laysBack (h : TW G M0 M t f i S D N A T V H l B O) {v : Int32} {Q : Int32 → wM → Prop} (hQ : ∀ M1, TW G M0 M1 t f i S D (lay 0 1435 T N) A T V H l B O → Q v M1) : P_X4_laysBack G t v M Q := oGetA.i h.obj rfl (oGetA.i h.obj rfl (S_copies_53 h hQ))
theorem S_keeps (h : TW G M0 M t f i S D N A T V H l B O) {m : Nat} (hm : m ≤ 10) (e : i 8 = nI m) {Q : wM → Prop} (hQ : ∀ M1, TW G M0 M1 t f (upd i 8 (nI (keepN m))) S D N A T V (keepH m A H) l B O → Q M1) : P_X4_keeps G t M Q := by
  have k50 : ∀ {M : wM} {i H : Nat → Int32} (m : Nat), m < 10 → TW G M0 M t f i S D N A T V H l B O → i 8 = nI m → (∀ M1, TW G M0 M1 t f (upd i 8 (nI (m + 1))) S D N A T V (lay (1435 * m) 1435 A H) l B O → Q M1) → B_X4_keeps_50 G Q t M := by
    intro M i H m hm h e hQ
    have key := st_loop (F := fun n k => ∀ M1, TW G M0 M1 t f i S D N A T V (lay (1435 * m) k A H) l B O → L_X4_keeps_52 G Q n t (nI k) M1) (N := 1435) (fun n M1 h1 => ?_) (fun n k hk ih M1 h1 => ?_) 0 (Nat.zero_le _)
    · obtain ⟨n, hn⟩ := key
      exact ⟨n, hn M (by rw [lay_0]; exact h)⟩
    · unfold L_X4_keeps_52; unfold B_X4_keeps_52
      refine oIf.y (by decide) (oGetI.i h1.obj rfl ?_)
      rw [e, nI_1]
      exact pt_8 h1 fun M2 h2 => hQ M2 h2
    · unfold L_X4_keeps_52; unfold B_X4_keeps_52
      refine oIf.n (nI_ge hk (by decide)) (oGetA.i h1.obj rfl (oGetI.i h1.obj rfl (oGetA.i h1.obj rfl (oIald.e rfl h1.asd hk (by decide) ?_))))
      refine st_his_e h1 (j := 1435 * m + k) (by rw [e, show (1435 : Int32) = nI 1435 from rfl, nI_mul, nI_add]) (by omega) fun M2 h2 => ?_
      rw [lay_s] at h2
      rw [nI_1]
      exact ih M2 h2
  refine oGetI.i h.obj rfl ?_
  rw [e]
  unfold keepH keepN at hQ
  by_cases c : m = 10
  · subst c
    rw [if_pos rfl, if_pos rfl] at hQ
    refine oIf.y rfl ?_
    have key := st_loop (F := fun n k => ∀ M1, TW G M0 M1 t f i S D N A T V (shiftK H k) l B O → L_X4_keeps_11 G Q n t (nI k) M1) (N := 12915) (fun n M1 h1 => ?_) (fun n k hk ih M1 h1 => ?_) 0 (Nat.zero_le _)
    · obtain ⟨n, hn⟩ := key
      exact ⟨n, hn M (by rw [shiftK_0]; exact h)⟩
    · unfold L_X4_keeps_11; unfold B_X4_keeps_11
      refine oIf.y (by decide) (oGetI.i h1.obj rfl ?_)
      rw [e]
      refine pt_8 h1 fun M2 h2 => ?_
      refine k50 9 (by decide) h2 (upd_eq _ _ _) fun M3 h3 => hQ M3 ?_
      rw [upd_upd] at h3
      exact h3
    · unfold L_X4_keeps_11; unfold B_X4_keeps_11
      refine oIf.n (nI_ge hk (by decide)) (oGetA.i h1.obj rfl (oGetA.i h1.obj rfl (oIald.e (i := k + 1435) (by rw [show (1435 : Int32) = nI 1435 from rfl, nI_add]) h1.his (by omega) (by decide) ?_)))
      refine st_his_e h1 rfl (by omega) fun M2 h2 => ?_
      rw [show shiftK H k (k + 1435) = H (k + 1435) by unfold shiftK; rw [if_neg (by omega)], shiftK_s] at h2
      rw [nI_1]
      exact ih M2 h2
  · rw [if_neg c, if_neg c] at hQ
    refine oIf.n (fun x => c (nI_inj (by omega) (by decide) x)) ?_
    exact k50 m (by omega) h e hQ
theorem S_done (h : TW G M0 M t f i S D N A T V H l B O) (hg : OK S N) {m : Nat} (hm : m ≤ 10) (e : i 8 = nI m) {v : Int32} {Q : Int32 → wM → Prop} (hQ : ∀ M1, TW G M0 M1 t f (upd i 8 (nI (keepN m))) S D (offF S N) A T V (keepH m A H) l B O → Q v M1) : P_X4_done G t v M Q :=
  oIs.i h.obj (S_offers h hg fun _ h1 => oIs.i h1.obj (S_keeps h1 hm e hQ))
end TW3
