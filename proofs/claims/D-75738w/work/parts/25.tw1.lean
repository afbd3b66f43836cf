set_option maxRecDepth 100000
/-! STAGE 2, the twin: what is read of the books -/
section TW1
variable {G : wG} {M0 M : wM} {t : Nat} {f : Nat → Nat} {i S D N A T V H : Nat → Int32} {l : Nat → Nat → Int64} {B O : Nat → Int32}
theorem rd_0 (h : TW G M0 M t f i S D N A T V H l B O) {κ : Int32 → Prop} (hk : κ (N 0)) : oIald .int M (f 3) 0 κ := oIald.e (i := 0) rfl h.now (by decide) (by decide) hk
theorem rd_np (h : TW G M0 M t f i S D N A T V H l B O) (hg : OK S N) {κ : Int32 → Prop} (hk : κ (nI (np N))) : oIald .int M (f 3) 1 κ := oIald.e (i := 1) rfl h.now (by decide) (by decide) (hg.2.1.1 ▸ hk)
theorem rd_nv (h : TW G M0 M t f i S D N A T V H l B O) (hg : OK S N) {κ : Int32 → Prop} (hk : κ (nI (nv N))) : oIald .int M (f 3) 2 κ := oIald.e (i := 2) rfl h.now (by decide) (by decide) (hg.2.2.1.1 ▸ hk)
theorem rd_nc (h : TW G M0 M t f i S D N A T V H l B O) (hg : OK S N) {κ : Int32 → Prop} (hk : κ (nI (nc N))) : oIald .int M (f 3) 3 κ := oIald.e (i := 3) rfl h.now (by decide) (by decide) (hg.2.2.2.1.1 ▸ hk)
theorem rd_nf (h : TW G M0 M t f i S D N A T V H l B O) (hg : OK S N) {κ : Int32 → Prop} (hk : κ (nI (nf N))) : oIald .int M (f 3) 4 κ := oIald.e (i := 4) rfl h.now (by decide) (by decide) (hg.2.2.2.2.1.1 ▸ hk)
theorem rd_nz (h : TW G M0 M t f i S D N A T V H l B O) (hg : OK S N) {κ : Int32 → Prop} (hk : κ (nI (nz S))) : oIald .int M (f 1) 0 κ := oIald.e (i := 0) rfl h.set (by decide) (by decide) (hg.1.1.1 ▸ hk)
theorem rd_ns (h : TW G M0 M t f i S D N A T V H l B O) (hg : OK S N) {κ : Int32 → Prop} (hk : κ (nI (ns S))) : oIald .int M (f 1) 1 κ := oIald.e (i := 1) rfl h.set (by decide) (by decide) (hg.1.2.1.1 ▸ hk)
theorem rd_nh (h : TW G M0 M t f i S D N A T V H l B O) (hg : OK S N) {κ : Int32 → Prop} (hk : κ (nI (nh S))) : oIald .int M (f 1) 2 κ := oIald.e (i := 2) rfl h.set (by decide) (by decide) (hg.1.2.2.1.1 ▸ hk)
theorem S_permitAt {p k : Nat} {kk : Int32} (e : kk = nI k) {Q : Int32 → wM → Prop} (hQ : Q (nI (40 + 7 * p + k)) M) : P_X4_permitAt G t (nI p) kk M Q := by
  have e1 : ((40 : Int32) + ((7 : Int32) * nI p)) + kk = nI (40 + 7 * p + k) := by
    rw [e, show (40 : Int32) = nI 40 from rfl, show (7 : Int32) = nI 7 from rfl, nI_mul, nI_add, nI_add]
  unfold P_X4_permitAt
  rw [e1]
  exact hQ
theorem S_ofP (h : TW G M0 M t f i S D N A T V H l B O) {p k : Nat} {kk : Int32} (e : kk = nI k) (hp : p < 60) (hk : k < 7) {Q : Int32 → wM → Prop} (hQ : Q (pP N p k) M) : P_X4_ofPermit G t (nI p) kk M Q := by
  unfold P_X4_ofPermit
  exact oGetA.i h.obj rfl (oIs.i h.obj (S_permitAt e (oIald.e rfl h.now (by omega) (by decide) hQ)))
theorem S_ofP0 (h : TW G M0 M t f i S D N A T V H l B O) {p : Nat} (hp : p < 60) {Q : Int32 → wM → Prop} (hQ : Q (pP N p 0) M) : P_X4_ofPermit G t (nI p) 0 M Q := S_ofP (k := 0) h rfl hp (by decide) hQ
theorem S_ofP1 (h : TW G M0 M t f i S D N A T V H l B O) {p : Nat} (hp : p < 60) {Q : Int32 → wM → Prop} (hQ : Q (pP N p 1) M) : P_X4_ofPermit G t (nI p) 1 M Q := S_ofP (k := 1) h rfl hp (by decide) hQ
theorem S_ofP2 (h : TW G M0 M t f i S D N A T V H l B O) {p : Nat} (hp : p < 60) {Q : Int32 → wM → Prop} (hQ : Q (pP N p 2) M) : P_X4_ofPermit G t (nI p) 2 M Q := S_ofP (k := 2) h rfl hp (by decide) hQ
theorem S_ofP3 (h : TW G M0 M t f i S D N A T V H l B O) {p : Nat} (hp : p < 60) {Q : Int32 → wM → Prop} (hQ : Q (pP N p 3) M) : P_X4_ofPermit G t (nI p) 3 M Q := S_ofP (k := 3) h rfl hp (by decide) hQ
theorem S_ofP4 (h : TW G M0 M t f i S D N A T V H l B O) {p : Nat} (hp : p < 60) {Q : Int32 → wM → Prop} (hQ : Q (pP N p 4) M) : P_X4_ofPermit G t (nI p) 4 M Q := S_ofP (k := 4) h rfl hp (by decide) hQ
theorem S_ofP5 (h : TW G M0 M t f i S D N A T V H l B O) {p : Nat} (hp : p < 60) {Q : Int32 → wM → Prop} (hQ : Q (pP N p 5) M) : P_X4_ofPermit G t (nI p) 5 M Q := S_ofP (k := 5) h rfl hp (by decide) hQ
theorem S_ofP6 (h : TW G M0 M t f i S D N A T V H l B O) {p : Nat} (hp : p < 60) {Q : Int32 → wM → Prop} (hQ : Q (pP N p 6) M) : P_X4_ofPermit G t (nI p) 6 M Q := S_ofP (k := 6) h rfl hp (by decide) hQ
theorem S_visitAt {p k : Nat} {kk : Int32} (e : kk = nI k) {Q : Int32 → wM → Prop} (hQ : Q (nI (460 + 4 * p + k)) M) : P_X4_visitAt G t (nI p) kk M Q := by
  have e1 : ((460 : Int32) + ((4 : Int32) * nI p)) + kk = nI (460 + 4 * p + k) := by
    rw [e, show (460 : Int32) = nI 460 from rfl, show (4 : Int32) = nI 4 from rfl, nI_mul, nI_add, nI_add]
  unfold P_X4_visitAt
  rw [e1]
  exact hQ
theorem S_ofV (h : TW G M0 M t f i S D N A T V H l B O) {p k : Nat} {kk : Int32} (e : kk = nI k) (hp : p < 60) (hk : k < 4) {Q : Int32 → wM → Prop} (hQ : Q (vP N p k) M) : P_X4_ofVisit G t (nI p) kk M Q := by
  unfold P_X4_ofVisit
  exact oGetA.i h.obj rfl (oIs.i h.obj (S_visitAt e (oIald.e rfl h.now (by omega) (by decide) hQ)))
theorem S_ofV0 (h : TW G M0 M t f i S D N A T V H l B O) {p : Nat} (hp : p < 60) {Q : Int32 → wM → Prop} (hQ : Q (vP N p 0) M) : P_X4_ofVisit G t (nI p) 0 M Q := S_ofV (k := 0) h rfl hp (by decide) hQ
theorem S_ofV1 (h : TW G M0 M t f i S D N A T V H l B O) {p : Nat} (hp : p < 60) {Q : Int32 → wM → Prop} (hQ : Q (vP N p 1) M) : P_X4_ofVisit G t (nI p) 1 M Q := S_ofV (k := 1) h rfl hp (by decide) hQ
theorem S_ofV2 (h : TW G M0 M t f i S D N A T V H l B O) {p : Nat} (hp : p < 60) {Q : Int32 → wM → Prop} (hQ : Q (vP N p 2) M) : P_X4_ofVisit G t (nI p) 2 M Q := S_ofV (k := 2) h rfl hp (by decide) hQ
theorem S_ofV3 (h : TW G M0 M t f i S D N A T V H l B O) {p : Nat} (hp : p < 60) {Q : Int32 → wM → Prop} (hQ : Q (vP N p 3) M) : P_X4_ofVisit G t (nI p) 3 M Q := S_ofV (k := 3) h rfl hp (by decide) hQ
theorem S_carAt {p k : Nat} {kk : Int32} (e : kk = nI k) {Q : Int32 → wM → Prop} (hQ : Q (nI (700 + 3 * p + k)) M) : P_X4_carAt G t (nI p) kk M Q := by
  have e1 : ((700 : Int32) + ((3 : Int32) * nI p)) + kk = nI (700 + 3 * p + k) := by
    rw [e, show (700 : Int32) = nI 700 from rfl, show (3 : Int32) = nI 3 from rfl, nI_mul, nI_add, nI_add]
  unfold P_X4_carAt
  rw [e1]
  exact hQ
theorem S_ofC (h : TW G M0 M t f i S D N A T V H l B O) {p k : Nat} {kk : Int32} (e : kk = nI k) (hp : p < 80) (hk : k < 3) {Q : Int32 → wM → Prop} (hQ : Q (cP N p k) M) : P_X4_ofCar G t (nI p) kk M Q := by
  unfold P_X4_ofCar
  exact oGetA.i h.obj rfl (oIs.i h.obj (S_carAt e (oIald.e rfl h.now (by omega) (by decide) hQ)))
theorem S_ofC0 (h : TW G M0 M t f i S D N A T V H l B O) {p : Nat} (hp : p < 80) {Q : Int32 → wM → Prop} (hQ : Q (cP N p 0) M) : P_X4_ofCar G t (nI p) 0 M Q := S_ofC (k := 0) h rfl hp (by decide) hQ
theorem S_ofC1 (h : TW G M0 M t f i S D N A T V H l B O) {p : Nat} (hp : p < 80) {Q : Int32 → wM → Prop} (hQ : Q (cP N p 1) M) : P_X4_ofCar G t (nI p) 1 M Q := S_ofC (k := 1) h rfl hp (by decide) hQ
theorem S_ofC2 (h : TW G M0 M t f i S D N A T V H l B O) {p : Nat} (hp : p < 80) {Q : Int32 → wM → Prop} (hQ : Q (cP N p 2) M) : P_X4_ofCar G t (nI p) 2 M Q := S_ofC (k := 2) h rfl hp (by decide) hQ
theorem S_fineAt {p k : Nat} {kk : Int32} (e : kk = nI k) {Q : Int32 → wM → Prop} (hQ : Q (nI (940 + 5 * p + k)) M) : P_X4_fineAt G t (nI p) kk M Q := by
  have e1 : ((940 : Int32) + ((5 : Int32) * nI p)) + kk = nI (940 + 5 * p + k) := by
    rw [e, show (940 : Int32) = nI 940 from rfl, show (5 : Int32) = nI 5 from rfl, nI_mul, nI_add, nI_add]
  unfold P_X4_fineAt
  rw [e1]
  exact hQ
theorem S_ofF (h : TW G M0 M t f i S D N A T V H l B O) {p k : Nat} {kk : Int32} (e : kk = nI k) (hp : p < 99) (hk : k < 5) {Q : Int32 → wM → Prop} (hQ : Q (fP N p k) M) : P_X4_ofFine G t (nI p) kk M Q := by
  unfold P_X4_ofFine
  exact oGetA.i h.obj rfl (oIs.i h.obj (S_fineAt e (oIald.e rfl h.now (by omega) (by decide) hQ)))
theorem S_ofF0 (h : TW G M0 M t f i S D N A T V H l B O) {p : Nat} (hp : p < 99) {Q : Int32 → wM → Prop} (hQ : Q (fP N p 0) M) : P_X4_ofFine G t (nI p) 0 M Q := S_ofF (k := 0) h rfl hp (by decide) hQ
theorem S_ofF1 (h : TW G M0 M t f i S D N A T V H l B O) {p : Nat} (hp : p < 99) {Q : Int32 → wM → Prop} (hQ : Q (fP N p 1) M) : P_X4_ofFine G t (nI p) 1 M Q := S_ofF (k := 1) h rfl hp (by decide) hQ
theorem S_ofF2 (h : TW G M0 M t f i S D N A T V H l B O) {p : Nat} (hp : p < 99) {Q : Int32 → wM → Prop} (hQ : Q (fP N p 2) M) : P_X4_ofFine G t (nI p) 2 M Q := S_ofF (k := 2) h rfl hp (by decide) hQ
theorem S_ofF3 (h : TW G M0 M t f i S D N A T V H l B O) {p : Nat} (hp : p < 99) {Q : Int32 → wM → Prop} (hQ : Q (fP N p 3) M) : P_X4_ofFine G t (nI p) 3 M Q := S_ofF (k := 3) h rfl hp (by decide) hQ
theorem S_ofF4 (h : TW G M0 M t f i S D N A T V H l B O) {p : Nat} (hp : p < 99) {Q : Int32 → wM → Prop} (hQ : Q (fP N p 4) M) : P_X4_ofFine G t (nI p) 4 M Q := S_ofF (k := 4) h rfl hp (by decide) hQ
theorem S_zoneOfStreet (h : TW G M0 M t f i S D N A T V H l B O) {s : Nat} (hs : s < 12) {Q : Int32 → wM → Prop} (hQ : Q (S (27 + s)) M) : P_X4_zoneOfStreet G t (nI s) M Q := by
  unfold P_X4_zoneOfStreet
  exact oGetA.i h.obj rfl (oIald.c (c := 27) rfl h.set (by omega) (by decide) hQ)
theorem S_zoneOfHouse (h : TW G M0 M t f i S D N A T V H l B O) (hg : OK S N) {k : Nat} (hk : k < nh S) {Q : Int32 → wM → Prop} (hQ : Q (zH S (nI k)) M) : P_X4_zoneOfHouse G t (nI k) M Q := by
  have hb := hg.b
  unfold P_X4_zoneOfHouse
  refine oGetA.i h.obj rfl (oIald.c (c := 63) rfl h.set (by omega) (by decide) (oIs.i h.obj ?_))
  obtain ⟨s, hs, e⟩ := hg.1.2.2.2.2.1 k hk
  rw [e]
  refine S_zoneOfStreet h (by omega) ?_
  unfold zH zS at hQ
  rw [nI_clamp (by omega), e, nI_clamp (by omega)] at hQ
  exact hQ
theorem S_zoneOfHouse' (h : TW G M0 M t f i S D N A T V H l B O) (hg : OK S N) {x : Int32} (hx : ∃ k, k < nh S ∧ x = nI k) {Q : Int32 → wM → Prop} (hQ : Q (zH S x) M) : P_X4_zoneOfHouse G t x M Q := by
  obtain ⟨k, hk, rfl⟩ := hx
  exact S_zoneOfHouse h hg hk hQ
theorem S_zoneOfStreet' (h : TW G M0 M t f i S D N A T V H l B O) (hg : OK S N) {x : Int32} (hx : ∃ k, k < ns S ∧ x = nI k) {Q : Int32 → wM → Prop} (hQ : Q (zS S x) M) : P_X4_zoneOfStreet G t x M Q := by
  obtain ⟨k, hk, rfl⟩ := hx
  have hb := hg.b
  refine S_zoneOfStreet h (by omega) ?_
  unfold zS at hQ
  rw [nI_clamp (by omega)] at hQ
  exact hQ
theorem S_zoneOf (h : TW G M0 M t f i S D N A T V H l B O) (hg : OK S N) {p : Nat} (hp : p < np N) {Q : Int32 → wM → Prop} (hQ : Q (zP S N p) M) : P_X4_zoneOf G t (nI p) M Q := by
  have hb := hg.b
  unfold P_X4_zoneOf
  exact oIs.i h.obj (S_ofP0 h (by omega) (oIs.i h.obj (S_zoneOfHouse' h hg (hg.2.2.2.2.2.1 p hp) hQ)))
theorem S_isActive (h : TW G M0 M t f i S D N A T V H l B O) {p : Nat} (hp : p < 60) {Q : Bool → wM → Prop} (hQ : Q (!decide (2 < pP N p 2)) M) : P_X4_isActive G t (nI p) M Q := by
  refine oIs.i h.obj (S_ofP2 h hp ?_)
  by_cases c : 2 < pP N p 2
  · rw [decide_eq_true c] at hQ
    exact oIf.y c ⟨false, rfl, hQ⟩
  · rw [decide_eq_false c] at hQ
    exact oIf.n c ⟨true, rfl, hQ⟩
theorem S_runs (h : TW G M0 M t f i S D N A T V H l B O) {v : Nat} (hv : v < 60) {Q : Bool → wM → Prop} (hQ : Q (runsV N v) M) : P_X4_runs G t (nI v) M Q := by
  refine oGetA.i h.obj rfl (oIald.e (i := 0) rfl h.now (by decide) (by decide) (oIs.i h.obj (S_ofV3 h hv ?_)))
  unfold runsV at hQ
  by_cases c : vP N v 3 ≤ N 0
  · rw [decide_eq_true c] at hQ
    exact oIf.y c ⟨false, rfl, hQ⟩
  · rw [decide_eq_false c] at hQ
    exact oIf.n c ⟨true, rfl, hQ⟩
theorem S_isWaiting (h : TW G M0 M t f i S D N A T V H l B O) (hg : OK S N) {p : Nat} (hp : p < np N) {z : Int32} {Q : Bool → wM → Prop} (hQ : Q (isW S N z p) M) : P_X4_isWaiting G t (nI p) z M Q := by
  have hb := hg.b
  unfold P_X4_isWaiting
  refine oIs.i h.obj (S_zoneOf h hg hp ?_)
  unfold isW at hQ
  by_cases c : zP S N p = z
  · refine oIf.y c (oIs.i h.obj (S_ofP2 h (by omega) ?_))
    rw [decide_eq_true c] at hQ
    by_cases c2 : pP N p 2 = 0
    · rw [decide_eq_true c2] at hQ
      exact oIf.y c2 ⟨true, rfl, hQ⟩
    · rw [decide_eq_false c2] at hQ
      exact oIf.n c2 ⟨false, rfl, hQ⟩
  · rw [decide_eq_false c] at hQ
    exact oIf.n c ⟨false, rfl, hQ⟩
theorem S_secondOf (h : TW G M0 M t f i S D N A T V H l B O) {s : Nat} (hs : s < 12) {Q : Int32 → wM → Prop} (hQ : Q (secondOf S N s) M) : P_X4_secondOf G t (nI s) M Q := by
  refine oGetA.i h.obj rfl (oIald.c (c := 11) rfl h.now (by omega) (by decide) ?_)
  unfold secondOf at hQ
  by_cases c : N (11 + s) = 1
  · rw [if_pos c] at hQ; exact oIf.y c hQ
  · rw [if_neg c] at hQ; exact oIf.n c (oGetA.i h.obj rfl (oIald.c (c := 51) rfl h.set (by omega) (by decide) hQ))
theorem S_manyOf (h : TW G M0 M t f i S D N A T V H l B O) (hg : OK S N) {z st : Int32} {Q : Int32 → wM → Prop} (hQ : Q (nI (manyZ S N z st)) M) : P_X4_manyOf G t z st M Q := by
  have hb := hg.b
  unfold P_X4_manyOf
  refine st_loop (F := fun n k => L_X4_manyOf_5 G Q n t z st (nI (cnt (qZS S N z st) k)) (nI k) M) (N := np N) (fun n => ?_) (fun n k hk ih => ?_) 0 (Nat.zero_le _)
  · unfold L_X4_manyOf_5; unfold B_X4_manyOf_5
    repeat' (first | ((with_reducible apply oGetA.i h.obj); rfl) | ((with_reducible apply oGetI.i h.obj); rfl) | ((with_reducible refine oIs.i h.obj ?_)) | ((with_reducible refine S_ofP0 h ?_ ?_); omega) | ((with_reducible refine S_ofP1 h ?_ ?_); omega) | ((with_reducible refine S_ofP2 h ?_ ?_); omega) | ((with_reducible refine S_ofP3 h ?_ ?_); omega) | ((with_reducible refine S_ofP4 h ?_ ?_); omega) | ((with_reducible refine S_ofP5 h ?_ ?_); omega) | ((with_reducible refine S_ofP6 h ?_ ?_); omega) | ((with_reducible refine S_ofV0 h ?_ ?_); omega) | ((with_reducible refine S_ofV1 h ?_ ?_); omega) | ((with_reducible refine S_ofV2 h ?_ ?_); omega) | ((with_reducible refine S_ofV3 h ?_ ?_); omega) | ((with_reducible refine S_ofC0 h ?_ ?_); omega) | ((with_reducible refine S_ofC1 h ?_ ?_); omega) | ((with_reducible refine S_ofC2 h ?_ ?_); omega) | ((with_reducible refine S_ofF0 h ?_ ?_); omega) | ((with_reducible refine S_ofF1 h ?_ ?_); omega) | ((with_reducible refine S_ofF2 h ?_ ?_); omega) | ((with_reducible refine S_ofF3 h ?_ ?_); omega) | ((with_reducible refine S_ofF4 h ?_ ?_); omega) | ((with_reducible refine S_zoneOf h hg ?_ ?_); omega) | ((with_reducible refine S_zoneOfStreet h ?_ ?_); omega) | ((with_reducible refine S_zoneOfHouse h hg ?_ ?_); omega) | ((with_reducible refine oIf.y (nI_le ?_ ?_) ?_); omega; omega) | ((with_reducible refine oIf.n (nI_ge ?_ ?_) ?_); omega; omega) | ((with_reducible refine rd_np h hg ?_)) | ((with_reducible refine rd_nv h hg ?_)) | ((with_reducible refine rd_nc h hg ?_)) | ((with_reducible refine rd_nf h hg ?_)) | ((with_reducible refine rd_nz h hg ?_)) | ((with_reducible refine rd_ns h hg ?_)) | ((with_reducible refine rd_nh h hg ?_)) | ((with_reducible refine rd_0 h ?_)) | unfold B_X4_manyOf_41)
    exact hQ
  · unfold L_X4_manyOf_5; unfold B_X4_manyOf_5
    repeat' (first | ((with_reducible apply oGetA.i h.obj); rfl) | ((with_reducible apply oGetI.i h.obj); rfl) | ((with_reducible refine oIs.i h.obj ?_)) | ((with_reducible refine S_ofP0 h ?_ ?_); omega) | ((with_reducible refine S_ofP1 h ?_ ?_); omega) | ((with_reducible refine S_ofP2 h ?_ ?_); omega) | ((with_reducible refine S_ofP3 h ?_ ?_); omega) | ((with_reducible refine S_ofP4 h ?_ ?_); omega) | ((with_reducible refine S_ofP5 h ?_ ?_); omega) | ((with_reducible refine S_ofP6 h ?_ ?_); omega) | ((with_reducible refine S_ofV0 h ?_ ?_); omega) | ((with_reducible refine S_ofV1 h ?_ ?_); omega) | ((with_reducible refine S_ofV2 h ?_ ?_); omega) | ((with_reducible refine S_ofV3 h ?_ ?_); omega) | ((with_reducible refine S_ofC0 h ?_ ?_); omega) | ((with_reducible refine S_ofC1 h ?_ ?_); omega) | ((with_reducible refine S_ofC2 h ?_ ?_); omega) | ((with_reducible refine S_ofF0 h ?_ ?_); omega) | ((with_reducible refine S_ofF1 h ?_ ?_); omega) | ((with_reducible refine S_ofF2 h ?_ ?_); omega) | ((with_reducible refine S_ofF3 h ?_ ?_); omega) | ((with_reducible refine S_ofF4 h ?_ ?_); omega) | ((with_reducible refine S_zoneOf h hg ?_ ?_); omega) | ((with_reducible refine S_zoneOfStreet h ?_ ?_); omega) | ((with_reducible refine S_zoneOfHouse h hg ?_ ?_); omega) | ((with_reducible refine oIf.y (nI_le ?_ ?_) ?_); omega; omega) | ((with_reducible refine oIf.n (nI_ge ?_ ?_) ?_); omega; omega) | ((with_reducible refine rd_np h hg ?_)) | ((with_reducible refine rd_nv h hg ?_)) | ((with_reducible refine rd_nc h hg ?_)) | ((with_reducible refine rd_nf h hg ?_)) | ((with_reducible refine rd_nz h hg ?_)) | ((with_reducible refine rd_ns h hg ?_)) | ((with_reducible refine rd_nh h hg ?_)) | ((with_reducible refine rd_0 h ?_)) | with_reducible refine oIf.c (fun c => ?_) (fun c => ?_) | unfold B_X4_manyOf_41)
    all_goals first | exact ih | (simp only [nI_1]; rw [cnt_y (p := qZS S N z st) (n := k) (by simp [qZS, *])]; exact ih) | (simp only [nI_1]; rw [cnt_n (p := qZS S N z st) (n := k) (by simp [qZS, *])]; exact ih)
theorem S_taken (h : TW G M0 M t f i S D N A T V H l B O) (hg : OK S N) {z : Int32} {Q : Int32 → wM → Prop} (hQ : Q (nI (takenZ S N z)) M) : P_X4_taken G t z M Q := by
  unfold P_X4_taken
  refine oIs.i h.obj (S_manyOf h hg (oIs.i h.obj (S_manyOf h hg ?_)))
  rw [nI_add]
  exact hQ
theorem S_validOfHouse (h : TW G M0 M t f i S D N A T V H l B O) (hg : OK S N) {z : Int32} {Q : Int32 → wM → Prop} (hQ : Q (nI (validH N z)) M) : P_X4_validOfHouse G t z M Q := by
  have hb := hg.b
  unfold P_X4_validOfHouse
  refine st_loop (F := fun n k => L_X4_validOfHouse_4 G Q n t z (nI (cnt (qHS N z 2) k)) (nI k) M) (N := np N) (fun n => ?_) (fun n k hk ih => ?_) 0 (Nat.zero_le _)
  · unfold L_X4_validOfHouse_4; unfold B_X4_validOfHouse_4
    repeat' (first | ((with_reducible apply oGetA.i h.obj); rfl) | ((with_reducible apply oGetI.i h.obj); rfl) | ((with_reducible refine oIs.i h.obj ?_)) | ((with_reducible refine S_ofP0 h ?_ ?_); omega) | ((with_reducible refine S_ofP1 h ?_ ?_); omega) | ((with_reducible refine S_ofP2 h ?_ ?_); omega) | ((with_reducible refine S_ofP3 h ?_ ?_); omega) | ((with_reducible refine S_ofP4 h ?_ ?_); omega) | ((with_reducible refine S_ofP5 h ?_ ?_); omega) | ((with_reducible refine S_ofP6 h ?_ ?_); omega) | ((with_reducible refine S_ofV0 h ?_ ?_); omega) | ((with_reducible refine S_ofV1 h ?_ ?_); omega) | ((with_reducible refine S_ofV2 h ?_ ?_); omega) | ((with_reducible refine S_ofV3 h ?_ ?_); omega) | ((with_reducible refine S_ofC0 h ?_ ?_); omega) | ((with_reducible refine S_ofC1 h ?_ ?_); omega) | ((with_reducible refine S_ofC2 h ?_ ?_); omega) | ((with_reducible refine S_ofF0 h ?_ ?_); omega) | ((with_reducible refine S_ofF1 h ?_ ?_); omega) | ((with_reducible refine S_ofF2 h ?_ ?_); omega) | ((with_reducible refine S_ofF3 h ?_ ?_); omega) | ((with_reducible refine S_ofF4 h ?_ ?_); omega) | ((with_reducible refine S_zoneOf h hg ?_ ?_); omega) | ((with_reducible refine S_zoneOfStreet h ?_ ?_); omega) | ((with_reducible refine S_zoneOfHouse h hg ?_ ?_); omega) | ((with_reducible refine oIf.y (nI_le ?_ ?_) ?_); omega; omega) | ((with_reducible refine oIf.n (nI_ge ?_ ?_) ?_); omega; omega) | ((with_reducible refine rd_np h hg ?_)) | ((with_reducible refine rd_nv h hg ?_)) | ((with_reducible refine rd_nc h hg ?_)) | ((with_reducible refine rd_nf h hg ?_)) | ((with_reducible refine rd_nz h hg ?_)) | ((with_reducible refine rd_ns h hg ?_)) | ((with_reducible refine rd_nh h hg ?_)) | ((with_reducible refine rd_0 h ?_)) | unfold B_X4_validOfHouse_38)
    exact hQ
  · unfold L_X4_validOfHouse_4; unfold B_X4_validOfHouse_4
    repeat' (first | ((with_reducible apply oGetA.i h.obj); rfl) | ((with_reducible apply oGetI.i h.obj); rfl) | ((with_reducible refine oIs.i h.obj ?_)) | ((with_reducible refine S_ofP0 h ?_ ?_); omega) | ((with_reducible refine S_ofP1 h ?_ ?_); omega) | ((with_reducible refine S_ofP2 h ?_ ?_); omega) | ((with_reducible refine S_ofP3 h ?_ ?_); omega) | ((with_reducible refine S_ofP4 h ?_ ?_); omega) | ((with_reducible refine S_ofP5 h ?_ ?_); omega) | ((with_reducible refine S_ofP6 h ?_ ?_); omega) | ((with_reducible refine S_ofV0 h ?_ ?_); omega) | ((with_reducible refine S_ofV1 h ?_ ?_); omega) | ((with_reducible refine S_ofV2 h ?_ ?_); omega) | ((with_reducible refine S_ofV3 h ?_ ?_); omega) | ((with_reducible refine S_ofC0 h ?_ ?_); omega) | ((with_reducible refine S_ofC1 h ?_ ?_); omega) | ((with_reducible refine S_ofC2 h ?_ ?_); omega) | ((with_reducible refine S_ofF0 h ?_ ?_); omega) | ((with_reducible refine S_ofF1 h ?_ ?_); omega) | ((with_reducible refine S_ofF2 h ?_ ?_); omega) | ((with_reducible refine S_ofF3 h ?_ ?_); omega) | ((with_reducible refine S_ofF4 h ?_ ?_); omega) | ((with_reducible refine S_zoneOf h hg ?_ ?_); omega) | ((with_reducible refine S_zoneOfStreet h ?_ ?_); omega) | ((with_reducible refine S_zoneOfHouse h hg ?_ ?_); omega) | ((with_reducible refine oIf.y (nI_le ?_ ?_) ?_); omega; omega) | ((with_reducible refine oIf.n (nI_ge ?_ ?_) ?_); omega; omega) | ((with_reducible refine rd_np h hg ?_)) | ((with_reducible refine rd_nv h hg ?_)) | ((with_reducible refine rd_nc h hg ?_)) | ((with_reducible refine rd_nf h hg ?_)) | ((with_reducible refine rd_nz h hg ?_)) | ((with_reducible refine rd_ns h hg ?_)) | ((with_reducible refine rd_nh h hg ?_)) | ((with_reducible refine rd_0 h ?_)) | with_reducible refine oIf.c (fun c => ?_) (fun c => ?_) | unfold B_X4_validOfHouse_38)
    all_goals first | exact ih | (simp only [nI_1]; rw [cnt_y (p := qHS N z 2) (n := k) (by simp [qHS, *])]; exact ih) | (simp only [nI_1]; rw [cnt_n (p := qHS N z 2) (n := k) (by simp [qHS, *])]; exact ih)
theorem S_activeOfHouse (h : TW G M0 M t f i S D N A T V H l B O) (hg : OK S N) {z : Int32} {Q : Int32 → wM → Prop} (hQ : Q (nI (activeH N z)) M) : P_X4_activeOfHouse G t z M Q := by
  have hb := hg.b
  unfold P_X4_activeOfHouse
  refine st_loop (F := fun n k => L_X4_activeOfHouse_4 G Q n t z (nI (cnt (qHA N z) k)) (nI k) M) (N := np N) (fun n => ?_) (fun n k hk ih => ?_) 0 (Nat.zero_le _)
  · unfold L_X4_activeOfHouse_4; unfold B_X4_activeOfHouse_4
    repeat' (first | ((with_reducible apply oGetA.i h.obj); rfl) | ((with_reducible apply oGetI.i h.obj); rfl) | ((with_reducible refine oIs.i h.obj ?_)) | ((with_reducible refine S_ofP0 h ?_ ?_); omega) | ((with_reducible refine S_ofP1 h ?_ ?_); omega) | ((with_reducible refine S_ofP2 h ?_ ?_); omega) | ((with_reducible refine S_ofP3 h ?_ ?_); omega) | ((with_reducible refine S_ofP4 h ?_ ?_); omega) | ((with_reducible refine S_ofP5 h ?_ ?_); omega) | ((with_reducible refine S_ofP6 h ?_ ?_); omega) | ((with_reducible refine S_ofV0 h ?_ ?_); omega) | ((with_reducible refine S_ofV1 h ?_ ?_); omega) | ((with_reducible refine S_ofV2 h ?_ ?_); omega) | ((with_reducible refine S_ofV3 h ?_ ?_); omega) | ((with_reducible refine S_ofC0 h ?_ ?_); omega) | ((with_reducible refine S_ofC1 h ?_ ?_); omega) | ((with_reducible refine S_ofC2 h ?_ ?_); omega) | ((with_reducible refine S_ofF0 h ?_ ?_); omega) | ((with_reducible refine S_ofF1 h ?_ ?_); omega) | ((with_reducible refine S_ofF2 h ?_ ?_); omega) | ((with_reducible refine S_ofF3 h ?_ ?_); omega) | ((with_reducible refine S_ofF4 h ?_ ?_); omega) | ((with_reducible refine S_zoneOf h hg ?_ ?_); omega) | ((with_reducible refine S_zoneOfStreet h ?_ ?_); omega) | ((with_reducible refine S_zoneOfHouse h hg ?_ ?_); omega) | ((with_reducible refine oIf.y (nI_le ?_ ?_) ?_); omega; omega) | ((with_reducible refine oIf.n (nI_ge ?_ ?_) ?_); omega; omega) | ((with_reducible refine rd_np h hg ?_)) | ((with_reducible refine rd_nv h hg ?_)) | ((with_reducible refine rd_nc h hg ?_)) | ((with_reducible refine rd_nf h hg ?_)) | ((with_reducible refine rd_nz h hg ?_)) | ((with_reducible refine rd_ns h hg ?_)) | ((with_reducible refine rd_nh h hg ?_)) | ((with_reducible refine rd_0 h ?_)) | unfold B_X4_activeOfHouse_36)
    exact hQ
  · unfold L_X4_activeOfHouse_4; unfold B_X4_activeOfHouse_4
    repeat' (first | ((with_reducible refine S_isActive h ?_ ?_); omega) | ((with_reducible apply oGetA.i h.obj); rfl) | ((with_reducible apply oGetI.i h.obj); rfl) | ((with_reducible refine oIs.i h.obj ?_)) | ((with_reducible refine S_ofP0 h ?_ ?_); omega) | ((with_reducible refine S_ofP1 h ?_ ?_); omega) | ((with_reducible refine S_ofP2 h ?_ ?_); omega) | ((with_reducible refine S_ofP3 h ?_ ?_); omega) | ((with_reducible refine S_ofP4 h ?_ ?_); omega) | ((with_reducible refine S_ofP5 h ?_ ?_); omega) | ((with_reducible refine S_ofP6 h ?_ ?_); omega) | ((with_reducible refine S_ofV0 h ?_ ?_); omega) | ((with_reducible refine S_ofV1 h ?_ ?_); omega) | ((with_reducible refine S_ofV2 h ?_ ?_); omega) | ((with_reducible refine S_ofV3 h ?_ ?_); omega) | ((with_reducible refine S_ofC0 h ?_ ?_); omega) | ((with_reducible refine S_ofC1 h ?_ ?_); omega) | ((with_reducible refine S_ofC2 h ?_ ?_); omega) | ((with_reducible refine S_ofF0 h ?_ ?_); omega) | ((with_reducible refine S_ofF1 h ?_ ?_); omega) | ((with_reducible refine S_ofF2 h ?_ ?_); omega) | ((with_reducible refine S_ofF3 h ?_ ?_); omega) | ((with_reducible refine S_ofF4 h ?_ ?_); omega) | ((with_reducible refine S_zoneOf h hg ?_ ?_); omega) | ((with_reducible refine S_zoneOfStreet h ?_ ?_); omega) | ((with_reducible refine S_zoneOfHouse h hg ?_ ?_); omega) | ((with_reducible refine oIf.y (nI_le ?_ ?_) ?_); omega; omega) | ((with_reducible refine oIf.n (nI_ge ?_ ?_) ?_); omega; omega) | ((with_reducible refine rd_np h hg ?_)) | ((with_reducible refine rd_nv h hg ?_)) | ((with_reducible refine rd_nc h hg ?_)) | ((with_reducible refine rd_nf h hg ?_)) | ((with_reducible refine rd_nz h hg ?_)) | ((with_reducible refine rd_ns h hg ?_)) | ((with_reducible refine rd_nh h hg ?_)) | ((with_reducible refine rd_0 h ?_)) | with_reducible refine oIf.c (fun c => ?_) (fun c => ?_) | unfold B_X4_activeOfHouse_36)
    all_goals first | exact ih | (simp only [nI_1]; rw [cnt_y (p := qHA N z) (n := k) (by simp [qHA, *])]; exact ih) | (simp only [nI_1]; rw [cnt_n (p := qHA N z) (n := k) (by simp [qHA, *])]; exact ih)
theorem S_visitsOf (h : TW G M0 M t f i S D N A T V H l B O) (hg : OK S N) {z : Int32} {Q : Int32 → wM → Prop} (hQ : Q (nI (visitsH N z)) M) : P_X4_visitsOf G t z M Q := by
  have hb := hg.b
  unfold P_X4_visitsOf
  refine st_loop (F := fun n k => L_X4_visitsOf_4 G Q n t z (nI (cnt (qVH N z) k)) (nI k) M) (N := nv N) (fun n => ?_) (fun n k hk ih => ?_) 0 (Nat.zero_le _)
  · unfold L_X4_visitsOf_4; unfold B_X4_visitsOf_4
    repeat' (first | ((with_reducible apply oGetA.i h.obj); rfl) | ((with_reducible apply oGetI.i h.obj); rfl) | ((with_reducible refine oIs.i h.obj ?_)) | ((with_reducible refine S_ofP0 h ?_ ?_); omega) | ((with_reducible refine S_ofP1 h ?_ ?_); omega) | ((with_reducible refine S_ofP2 h ?_ ?_); omega) | ((with_reducible refine S_ofP3 h ?_ ?_); omega) | ((with_reducible refine S_ofP4 h ?_ ?_); omega) | ((with_reducible refine S_ofP5 h ?_ ?_); omega) | ((with_reducible refine S_ofP6 h ?_ ?_); omega) | ((with_reducible refine S_ofV0 h ?_ ?_); omega) | ((with_reducible refine S_ofV1 h ?_ ?_); omega) | ((with_reducible refine S_ofV2 h ?_ ?_); omega) | ((with_reducible refine S_ofV3 h ?_ ?_); omega) | ((with_reducible refine S_ofC0 h ?_ ?_); omega) | ((with_reducible refine S_ofC1 h ?_ ?_); omega) | ((with_reducible refine S_ofC2 h ?_ ?_); omega) | ((with_reducible refine S_ofF0 h ?_ ?_); omega) | ((with_reducible refine S_ofF1 h ?_ ?_); omega) | ((with_reducible refine S_ofF2 h ?_ ?_); omega) | ((with_reducible refine S_ofF3 h ?_ ?_); omega) | ((with_reducible refine S_ofF4 h ?_ ?_); omega) | ((with_reducible refine S_zoneOf h hg ?_ ?_); omega) | ((with_reducible refine S_zoneOfStreet h ?_ ?_); omega) | ((with_reducible refine S_zoneOfHouse h hg ?_ ?_); omega) | ((with_reducible refine oIf.y (nI_le ?_ ?_) ?_); omega; omega) | ((with_reducible refine oIf.n (nI_ge ?_ ?_) ?_); omega; omega) | ((with_reducible refine rd_np h hg ?_)) | ((with_reducible refine rd_nv h hg ?_)) | ((with_reducible refine rd_nc h hg ?_)) | ((with_reducible refine rd_nf h hg ?_)) | ((with_reducible refine rd_nz h hg ?_)) | ((with_reducible refine rd_ns h hg ?_)) | ((with_reducible refine rd_nh h hg ?_)) | ((with_reducible refine rd_0 h ?_)) | unfold B_X4_visitsOf_36)
    exact hQ
  · unfold L_X4_visitsOf_4; unfold B_X4_visitsOf_4
    repeat' (first | ((with_reducible refine S_runs h ?_ ?_); omega) | ((with_reducible apply oGetA.i h.obj); rfl) | ((with_reducible apply oGetI.i h.obj); rfl) | ((with_reducible refine oIs.i h.obj ?_)) | ((with_reducible refine S_ofP0 h ?_ ?_); omega) | ((with_reducible refine S_ofP1 h ?_ ?_); omega) | ((with_reducible refine S_ofP2 h ?_ ?_); omega) | ((with_reducible refine S_ofP3 h ?_ ?_); omega) | ((with_reducible refine S_ofP4 h ?_ ?_); omega) | ((with_reducible refine S_ofP5 h ?_ ?_); omega) | ((with_reducible refine S_ofP6 h ?_ ?_); omega) | ((with_reducible refine S_ofV0 h ?_ ?_); omega) | ((with_reducible refine S_ofV1 h ?_ ?_); omega) | ((with_reducible refine S_ofV2 h ?_ ?_); omega) | ((with_reducible refine S_ofV3 h ?_ ?_); omega) | ((with_reducible refine S_ofC0 h ?_ ?_); omega) | ((with_reducible refine S_ofC1 h ?_ ?_); omega) | ((with_reducible refine S_ofC2 h ?_ ?_); omega) | ((with_reducible refine S_ofF0 h ?_ ?_); omega) | ((with_reducible refine S_ofF1 h ?_ ?_); omega) | ((with_reducible refine S_ofF2 h ?_ ?_); omega) | ((with_reducible refine S_ofF3 h ?_ ?_); omega) | ((with_reducible refine S_ofF4 h ?_ ?_); omega) | ((with_reducible refine S_zoneOf h hg ?_ ?_); omega) | ((with_reducible refine S_zoneOfStreet h ?_ ?_); omega) | ((with_reducible refine S_zoneOfHouse h hg ?_ ?_); omega) | ((with_reducible refine oIf.y (nI_le ?_ ?_) ?_); omega; omega) | ((with_reducible refine oIf.n (nI_ge ?_ ?_) ?_); omega; omega) | ((with_reducible refine rd_np h hg ?_)) | ((with_reducible refine rd_nv h hg ?_)) | ((with_reducible refine rd_nc h hg ?_)) | ((with_reducible refine rd_nf h hg ?_)) | ((with_reducible refine rd_nz h hg ?_)) | ((with_reducible refine rd_ns h hg ?_)) | ((with_reducible refine rd_nh h hg ?_)) | ((with_reducible refine rd_0 h ?_)) | with_reducible refine oIf.c (fun c => ?_) (fun c => ?_) | unfold B_X4_visitsOf_36)
    all_goals first | exact ih | (simp only [nI_1]; rw [cnt_y (p := qVH N z) (n := k) (by simp [qVH, *])]; exact ih) | (simp only [nI_1]; rw [cnt_n (p := qVH N z) (n := k) (by simp [qVH, *])]; exact ih)
theorem S_carsIn (h : TW G M0 M t f i S D N A T V H l B O) (hg : OK S N) {z : Int32} {Q : Int32 → wM → Prop} (hQ : Q (nI (carsIn N z)) M) : P_X4_carsIn G t z M Q := by
  have hb := hg.b
  unfold P_X4_carsIn
  refine st_loop (F := fun n k => L_X4_carsIn_4 G Q n t z (nI (cnt (fun c => decide (cP N c 1 = z)) k)) (nI k) M) (N := nc N) (fun n => ?_) (fun n k hk ih => ?_) 0 (Nat.zero_le _)
  · unfold L_X4_carsIn_4; unfold B_X4_carsIn_4
    repeat' (first | ((with_reducible apply oGetA.i h.obj); rfl) | ((with_reducible apply oGetI.i h.obj); rfl) | ((with_reducible refine oIs.i h.obj ?_)) | ((with_reducible refine S_ofP0 h ?_ ?_); omega) | ((with_reducible refine S_ofP1 h ?_ ?_); omega) | ((with_reducible refine S_ofP2 h ?_ ?_); omega) | ((with_reducible refine S_ofP3 h ?_ ?_); omega) | ((with_reducible refine S_ofP4 h ?_ ?_); omega) | ((with_reducible refine S_ofP5 h ?_ ?_); omega) | ((with_reducible refine S_ofP6 h ?_ ?_); omega) | ((with_reducible refine S_ofV0 h ?_ ?_); omega) | ((with_reducible refine S_ofV1 h ?_ ?_); omega) | ((with_reducible refine S_ofV2 h ?_ ?_); omega) | ((with_reducible refine S_ofV3 h ?_ ?_); omega) | ((with_reducible refine S_ofC0 h ?_ ?_); omega) | ((with_reducible refine S_ofC1 h ?_ ?_); omega) | ((with_reducible refine S_ofC2 h ?_ ?_); omega) | ((with_reducible refine S_ofF0 h ?_ ?_); omega) | ((with_reducible refine S_ofF1 h ?_ ?_); omega) | ((with_reducible refine S_ofF2 h ?_ ?_); omega) | ((with_reducible refine S_ofF3 h ?_ ?_); omega) | ((with_reducible refine S_ofF4 h ?_ ?_); omega) | ((with_reducible refine S_zoneOf h hg ?_ ?_); omega) | ((with_reducible refine S_zoneOfStreet h ?_ ?_); omega) | ((with_reducible refine S_zoneOfHouse h hg ?_ ?_); omega) | ((with_reducible refine oIf.y (nI_le ?_ ?_) ?_); omega; omega) | ((with_reducible refine oIf.n (nI_ge ?_ ?_) ?_); omega; omega) | ((with_reducible refine rd_np h hg ?_)) | ((with_reducible refine rd_nv h hg ?_)) | ((with_reducible refine rd_nc h hg ?_)) | ((with_reducible refine rd_nf h hg ?_)) | ((with_reducible refine rd_nz h hg ?_)) | ((with_reducible refine rd_ns h hg ?_)) | ((with_reducible refine rd_nh h hg ?_)) | ((with_reducible refine rd_0 h ?_)) | unfold B_X4_carsIn_28)
    exact hQ
  · unfold L_X4_carsIn_4; unfold B_X4_carsIn_4
    repeat' (first | ((with_reducible apply oGetA.i h.obj); rfl) | ((with_reducible apply oGetI.i h.obj); rfl) | ((with_reducible refine oIs.i h.obj ?_)) | ((with_reducible refine S_ofP0 h ?_ ?_); omega) | ((with_reducible refine S_ofP1 h ?_ ?_); omega) | ((with_reducible refine S_ofP2 h ?_ ?_); omega) | ((with_reducible refine S_ofP3 h ?_ ?_); omega) | ((with_reducible refine S_ofP4 h ?_ ?_); omega) | ((with_reducible refine S_ofP5 h ?_ ?_); omega) | ((with_reducible refine S_ofP6 h ?_ ?_); omega) | ((with_reducible refine S_ofV0 h ?_ ?_); omega) | ((with_reducible refine S_ofV1 h ?_ ?_); omega) | ((with_reducible refine S_ofV2 h ?_ ?_); omega) | ((with_reducible refine S_ofV3 h ?_ ?_); omega) | ((with_reducible refine S_ofC0 h ?_ ?_); omega) | ((with_reducible refine S_ofC1 h ?_ ?_); omega) | ((with_reducible refine S_ofC2 h ?_ ?_); omega) | ((with_reducible refine S_ofF0 h ?_ ?_); omega) | ((with_reducible refine S_ofF1 h ?_ ?_); omega) | ((with_reducible refine S_ofF2 h ?_ ?_); omega) | ((with_reducible refine S_ofF3 h ?_ ?_); omega) | ((with_reducible refine S_ofF4 h ?_ ?_); omega) | ((with_reducible refine S_zoneOf h hg ?_ ?_); omega) | ((with_reducible refine S_zoneOfStreet h ?_ ?_); omega) | ((with_reducible refine S_zoneOfHouse h hg ?_ ?_); omega) | ((with_reducible refine oIf.y (nI_le ?_ ?_) ?_); omega; omega) | ((with_reducible refine oIf.n (nI_ge ?_ ?_) ?_); omega; omega) | ((with_reducible refine rd_np h hg ?_)) | ((with_reducible refine rd_nv h hg ?_)) | ((with_reducible refine rd_nc h hg ?_)) | ((with_reducible refine rd_nf h hg ?_)) | ((with_reducible refine rd_nz h hg ?_)) | ((with_reducible refine rd_ns h hg ?_)) | ((with_reducible refine rd_nh h hg ?_)) | ((with_reducible refine rd_0 h ?_)) | with_reducible refine oIf.c (fun c => ?_) (fun c => ?_) | unfold B_X4_carsIn_28)
    all_goals first | exact ih | (simp only [nI_1]; rw [cnt_y (p := fun c => decide (cP N c 1 = z)) (n := k) (by simp [*])]; exact ih) | (simp only [nI_1]; rw [cnt_n (p := fun c => decide (cP N c 1 = z)) (n := k) (by simp [*])]; exact ih)
theorem S_activeOf (h : TW G M0 M t f i S D N A T V H l B O) (hg : OK S N) {z : Int32} {Q : Int32 → wM → Prop} (hQ : Q (activeP N z) M) : P_X4_activeOf G t z M Q := by
  have hb := hg.b
  unfold P_X4_activeOf
  refine st_loopP (F := fun n k => L_X4_activeOf_2 G Q n t z (nI k) M) (P := fun k => Q (srch (qPA N z) (np N - k) k) M) (N := np N) (fun n hq => ?_) (fun n k hk hq ih => ?_) 0 (Nat.zero_le _) hQ
  · unfold L_X4_activeOf_2; unfold B_X4_activeOf_2
    repeat' (first | ((with_reducible apply oGetA.i h.obj); rfl) | ((with_reducible apply oGetI.i h.obj); rfl) | ((with_reducible refine oIs.i h.obj ?_)) | ((with_reducible refine S_ofP0 h ?_ ?_); omega) | ((with_reducible refine S_ofP1 h ?_ ?_); omega) | ((with_reducible refine S_ofP2 h ?_ ?_); omega) | ((with_reducible refine S_ofP3 h ?_ ?_); omega) | ((with_reducible refine S_ofP4 h ?_ ?_); omega) | ((with_reducible refine S_ofP5 h ?_ ?_); omega) | ((with_reducible refine S_ofP6 h ?_ ?_); omega) | ((with_reducible refine S_ofV0 h ?_ ?_); omega) | ((with_reducible refine S_ofV1 h ?_ ?_); omega) | ((with_reducible refine S_ofV2 h ?_ ?_); omega) | ((with_reducible refine S_ofV3 h ?_ ?_); omega) | ((with_reducible refine S_ofC0 h ?_ ?_); omega) | ((with_reducible refine S_ofC1 h ?_ ?_); omega) | ((with_reducible refine S_ofC2 h ?_ ?_); omega) | ((with_reducible refine S_ofF0 h ?_ ?_); omega) | ((with_reducible refine S_ofF1 h ?_ ?_); omega) | ((with_reducible refine S_ofF2 h ?_ ?_); omega) | ((with_reducible refine S_ofF3 h ?_ ?_); omega) | ((with_reducible refine S_ofF4 h ?_ ?_); omega) | ((with_reducible refine S_zoneOf h hg ?_ ?_); omega) | ((with_reducible refine S_zoneOfStreet h ?_ ?_); omega) | ((with_reducible refine S_zoneOfHouse h hg ?_ ?_); omega) | ((with_reducible refine oIf.y (nI_le ?_ ?_) ?_); omega; omega) | ((with_reducible refine oIf.n (nI_ge ?_ ?_) ?_); omega; omega) | ((with_reducible refine rd_np h hg ?_)) | ((with_reducible refine rd_nv h hg ?_)) | ((with_reducible refine rd_nc h hg ?_)) | ((with_reducible refine rd_nf h hg ?_)) | ((with_reducible refine rd_nz h hg ?_)) | ((with_reducible refine rd_ns h hg ?_)) | ((with_reducible refine rd_nh h hg ?_)) | ((with_reducible refine rd_0 h ?_)) | unfold B_X4_activeOf_32)
    rw [Nat.sub_self] at hq
    exact hq
  · unfold L_X4_activeOf_2; unfold B_X4_activeOf_2
    repeat' (first | ((with_reducible refine S_isActive h ?_ ?_); omega) | ((with_reducible apply oGetA.i h.obj); rfl) | ((with_reducible apply oGetI.i h.obj); rfl) | ((with_reducible refine oIs.i h.obj ?_)) | ((with_reducible refine S_ofP0 h ?_ ?_); omega) | ((with_reducible refine S_ofP1 h ?_ ?_); omega) | ((with_reducible refine S_ofP2 h ?_ ?_); omega) | ((with_reducible refine S_ofP3 h ?_ ?_); omega) | ((with_reducible refine S_ofP4 h ?_ ?_); omega) | ((with_reducible refine S_ofP5 h ?_ ?_); omega) | ((with_reducible refine S_ofP6 h ?_ ?_); omega) | ((with_reducible refine S_ofV0 h ?_ ?_); omega) | ((with_reducible refine S_ofV1 h ?_ ?_); omega) | ((with_reducible refine S_ofV2 h ?_ ?_); omega) | ((with_reducible refine S_ofV3 h ?_ ?_); omega) | ((with_reducible refine S_ofC0 h ?_ ?_); omega) | ((with_reducible refine S_ofC1 h ?_ ?_); omega) | ((with_reducible refine S_ofC2 h ?_ ?_); omega) | ((with_reducible refine S_ofF0 h ?_ ?_); omega) | ((with_reducible refine S_ofF1 h ?_ ?_); omega) | ((with_reducible refine S_ofF2 h ?_ ?_); omega) | ((with_reducible refine S_ofF3 h ?_ ?_); omega) | ((with_reducible refine S_ofF4 h ?_ ?_); omega) | ((with_reducible refine S_zoneOf h hg ?_ ?_); omega) | ((with_reducible refine S_zoneOfStreet h ?_ ?_); omega) | ((with_reducible refine S_zoneOfHouse h hg ?_ ?_); omega) | ((with_reducible refine oIf.y (nI_le ?_ ?_) ?_); omega; omega) | ((with_reducible refine oIf.n (nI_ge ?_ ?_) ?_); omega; omega) | ((with_reducible refine rd_np h hg ?_)) | ((with_reducible refine rd_nv h hg ?_)) | ((with_reducible refine rd_nc h hg ?_)) | ((with_reducible refine rd_nf h hg ?_)) | ((with_reducible refine rd_nz h hg ?_)) | ((with_reducible refine rd_ns h hg ?_)) | ((with_reducible refine rd_nh h hg ?_)) | ((with_reducible refine rd_0 h ?_)) | with_reducible refine oIf.c (fun c => ?_) (fun c => ?_) | unfold B_X4_activeOf_32)
    all_goals first | (rw [srch_y hk (by simp [qPA, *])] at hq; exact hq) | (rw [srch_n hk (by simp [qPA, *])] at hq; simp only [nI_1]; exact ih hq)
theorem S_isVisiting (h : TW G M0 M t f i S D N A T V H l B O) (hg : OK S N) {z : Int32} {Q : Bool → wM → Prop} (hQ : Q (visiting N z) M) : P_X4_isVisiting G t z M Q := by
  have hb := hg.b
  unfold P_X4_isVisiting
  refine st_loopP (F := fun n k => L_X4_isVisiting_2 G Q n t z (nI k) M) (P := fun k => Q (anyB (qVP N z) (nv N - k) k) M) (N := nv N) (fun n hq => ?_) (fun n k hk hq ih => ?_) 0 (Nat.zero_le _) hQ
  · unfold L_X4_isVisiting_2; unfold B_X4_isVisiting_2
    repeat' (first | ((with_reducible apply oGetA.i h.obj); rfl) | ((with_reducible apply oGetI.i h.obj); rfl) | ((with_reducible refine oIs.i h.obj ?_)) | ((with_reducible refine S_ofP0 h ?_ ?_); omega) | ((with_reducible refine S_ofP1 h ?_ ?_); omega) | ((with_reducible refine S_ofP2 h ?_ ?_); omega) | ((with_reducible refine S_ofP3 h ?_ ?_); omega) | ((with_reducible refine S_ofP4 h ?_ ?_); omega) | ((with_reducible refine S_ofP5 h ?_ ?_); omega) | ((with_reducible refine S_ofP6 h ?_ ?_); omega) | ((with_reducible refine S_ofV0 h ?_ ?_); omega) | ((with_reducible refine S_ofV1 h ?_ ?_); omega) | ((with_reducible refine S_ofV2 h ?_ ?_); omega) | ((with_reducible refine S_ofV3 h ?_ ?_); omega) | ((with_reducible refine S_ofC0 h ?_ ?_); omega) | ((with_reducible refine S_ofC1 h ?_ ?_); omega) | ((with_reducible refine S_ofC2 h ?_ ?_); omega) | ((with_reducible refine S_ofF0 h ?_ ?_); omega) | ((with_reducible refine S_ofF1 h ?_ ?_); omega) | ((with_reducible refine S_ofF2 h ?_ ?_); omega) | ((with_reducible refine S_ofF3 h ?_ ?_); omega) | ((with_reducible refine S_ofF4 h ?_ ?_); omega) | ((with_reducible refine S_zoneOf h hg ?_ ?_); omega) | ((with_reducible refine S_zoneOfStreet h ?_ ?_); omega) | ((with_reducible refine S_zoneOfHouse h hg ?_ ?_); omega) | ((with_reducible refine oIf.y (nI_le ?_ ?_) ?_); omega; omega) | ((with_reducible refine oIf.n (nI_ge ?_ ?_) ?_); omega; omega) | ((with_reducible refine rd_np h hg ?_)) | ((with_reducible refine rd_nv h hg ?_)) | ((with_reducible refine rd_nc h hg ?_)) | ((with_reducible refine rd_nf h hg ?_)) | ((with_reducible refine rd_nz h hg ?_)) | ((with_reducible refine rd_ns h hg ?_)) | ((with_reducible refine rd_nh h hg ?_)) | ((with_reducible refine rd_0 h ?_)) | unfold B_X4_isVisiting_32)
    rw [Nat.sub_self] at hq
    exact hq
  · unfold L_X4_isVisiting_2; unfold B_X4_isVisiting_2
    repeat' (first | ((with_reducible refine S_runs h ?_ ?_); omega) | ((with_reducible apply oGetA.i h.obj); rfl) | ((with_reducible apply oGetI.i h.obj); rfl) | ((with_reducible refine oIs.i h.obj ?_)) | ((with_reducible refine S_ofP0 h ?_ ?_); omega) | ((with_reducible refine S_ofP1 h ?_ ?_); omega) | ((with_reducible refine S_ofP2 h ?_ ?_); omega) | ((with_reducible refine S_ofP3 h ?_ ?_); omega) | ((with_reducible refine S_ofP4 h ?_ ?_); omega) | ((with_reducible refine S_ofP5 h ?_ ?_); omega) | ((with_reducible refine S_ofP6 h ?_ ?_); omega) | ((with_reducible refine S_ofV0 h ?_ ?_); omega) | ((with_reducible refine S_ofV1 h ?_ ?_); omega) | ((with_reducible refine S_ofV2 h ?_ ?_); omega) | ((with_reducible refine S_ofV3 h ?_ ?_); omega) | ((with_reducible refine S_ofC0 h ?_ ?_); omega) | ((with_reducible refine S_ofC1 h ?_ ?_); omega) | ((with_reducible refine S_ofC2 h ?_ ?_); omega) | ((with_reducible refine S_ofF0 h ?_ ?_); omega) | ((with_reducible refine S_ofF1 h ?_ ?_); omega) | ((with_reducible refine S_ofF2 h ?_ ?_); omega) | ((with_reducible refine S_ofF3 h ?_ ?_); omega) | ((with_reducible refine S_ofF4 h ?_ ?_); omega) | ((with_reducible refine S_zoneOf h hg ?_ ?_); omega) | ((with_reducible refine S_zoneOfStreet h ?_ ?_); omega) | ((with_reducible refine S_zoneOfHouse h hg ?_ ?_); omega) | ((with_reducible refine oIf.y (nI_le ?_ ?_) ?_); omega; omega) | ((with_reducible refine oIf.n (nI_ge ?_ ?_) ?_); omega; omega) | ((with_reducible refine rd_np h hg ?_)) | ((with_reducible refine rd_nv h hg ?_)) | ((with_reducible refine rd_nc h hg ?_)) | ((with_reducible refine rd_nf h hg ?_)) | ((with_reducible refine rd_nz h hg ?_)) | ((with_reducible refine rd_ns h hg ?_)) | ((with_reducible refine rd_nh h hg ?_)) | ((with_reducible refine rd_0 h ?_)) | with_reducible refine oIf.c (fun c => ?_) (fun c => ?_) | unfold B_X4_isVisiting_32)
    all_goals first | (rw [anyB_y hk (by simp [qVP, *])] at hq; exact hq) | (rw [anyB_n hk (by simp [qVP, *])] at hq; simp only [nI_1]; exact ih hq)
theorem S_carOf (h : TW G M0 M t f i S D N A T V H l B O) (hg : OK S N) {z : Int32} {Q : Int32 → wM → Prop} (hQ : Q (carOf N z) M) : P_X4_carOf G t z M Q := by
  have hb := hg.b
  unfold P_X4_carOf
  refine st_loopP (F := fun n k => L_X4_carOf_2 G Q n t z (nI k) M) (P := fun k => Q (srch (fun c => decide (cP N c 0 = z)) (nc N - k) k) M) (N := nc N) (fun n hq => ?_) (fun n k hk hq ih => ?_) 0 (Nat.zero_le _) hQ
  · unfold L_X4_carOf_2; unfold B_X4_carOf_2
    repeat' (first | ((with_reducible apply oGetA.i h.obj); rfl) | ((with_reducible apply oGetI.i h.obj); rfl) | ((with_reducible refine oIs.i h.obj ?_)) | ((with_reducible refine S_ofP0 h ?_ ?_); omega) | ((with_reducible refine S_ofP1 h ?_ ?_); omega) | ((with_reducible refine S_ofP2 h ?_ ?_); omega) | ((with_reducible refine S_ofP3 h ?_ ?_); omega) | ((with_reducible refine S_ofP4 h ?_ ?_); omega) | ((with_reducible refine S_ofP5 h ?_ ?_); omega) | ((with_reducible refine S_ofP6 h ?_ ?_); omega) | ((with_reducible refine S_ofV0 h ?_ ?_); omega) | ((with_reducible refine S_ofV1 h ?_ ?_); omega) | ((with_reducible refine S_ofV2 h ?_ ?_); omega) | ((with_reducible refine S_ofV3 h ?_ ?_); omega) | ((with_reducible refine S_ofC0 h ?_ ?_); omega) | ((with_reducible refine S_ofC1 h ?_ ?_); omega) | ((with_reducible refine S_ofC2 h ?_ ?_); omega) | ((with_reducible refine S_ofF0 h ?_ ?_); omega) | ((with_reducible refine S_ofF1 h ?_ ?_); omega) | ((with_reducible refine S_ofF2 h ?_ ?_); omega) | ((with_reducible refine S_ofF3 h ?_ ?_); omega) | ((with_reducible refine S_ofF4 h ?_ ?_); omega) | ((with_reducible refine S_zoneOf h hg ?_ ?_); omega) | ((with_reducible refine S_zoneOfStreet h ?_ ?_); omega) | ((with_reducible refine S_zoneOfHouse h hg ?_ ?_); omega) | ((with_reducible refine oIf.y (nI_le ?_ ?_) ?_); omega; omega) | ((with_reducible refine oIf.n (nI_ge ?_ ?_) ?_); omega; omega) | ((with_reducible refine rd_np h hg ?_)) | ((with_reducible refine rd_nv h hg ?_)) | ((with_reducible refine rd_nc h hg ?_)) | ((with_reducible refine rd_nf h hg ?_)) | ((with_reducible refine rd_nz h hg ?_)) | ((with_reducible refine rd_ns h hg ?_)) | ((with_reducible refine rd_nh h hg ?_)) | ((with_reducible refine rd_0 h ?_)))
    rw [Nat.sub_self] at hq
    exact hq
  · unfold L_X4_carOf_2; unfold B_X4_carOf_2
    repeat' (first | ((with_reducible apply oGetA.i h.obj); rfl) | ((with_reducible apply oGetI.i h.obj); rfl) | ((with_reducible refine oIs.i h.obj ?_)) | ((with_reducible refine S_ofP0 h ?_ ?_); omega) | ((with_reducible refine S_ofP1 h ?_ ?_); omega) | ((with_reducible refine S_ofP2 h ?_ ?_); omega) | ((with_reducible refine S_ofP3 h ?_ ?_); omega) | ((with_reducible refine S_ofP4 h ?_ ?_); omega) | ((with_reducible refine S_ofP5 h ?_ ?_); omega) | ((with_reducible refine S_ofP6 h ?_ ?_); omega) | ((with_reducible refine S_ofV0 h ?_ ?_); omega) | ((with_reducible refine S_ofV1 h ?_ ?_); omega) | ((with_reducible refine S_ofV2 h ?_ ?_); omega) | ((with_reducible refine S_ofV3 h ?_ ?_); omega) | ((with_reducible refine S_ofC0 h ?_ ?_); omega) | ((with_reducible refine S_ofC1 h ?_ ?_); omega) | ((with_reducible refine S_ofC2 h ?_ ?_); omega) | ((with_reducible refine S_ofF0 h ?_ ?_); omega) | ((with_reducible refine S_ofF1 h ?_ ?_); omega) | ((with_reducible refine S_ofF2 h ?_ ?_); omega) | ((with_reducible refine S_ofF3 h ?_ ?_); omega) | ((with_reducible refine S_ofF4 h ?_ ?_); omega) | ((with_reducible refine S_zoneOf h hg ?_ ?_); omega) | ((with_reducible refine S_zoneOfStreet h ?_ ?_); omega) | ((with_reducible refine S_zoneOfHouse h hg ?_ ?_); omega) | ((with_reducible refine oIf.y (nI_le ?_ ?_) ?_); omega; omega) | ((with_reducible refine oIf.n (nI_ge ?_ ?_) ?_); omega; omega) | ((with_reducible refine rd_np h hg ?_)) | ((with_reducible refine rd_nv h hg ?_)) | ((with_reducible refine rd_nc h hg ?_)) | ((with_reducible refine rd_nf h hg ?_)) | ((with_reducible refine rd_nz h hg ?_)) | ((with_reducible refine rd_ns h hg ?_)) | ((with_reducible refine rd_nh h hg ?_)) | ((with_reducible refine rd_0 h ?_)) | with_reducible refine oIf.c (fun c => ?_) (fun c => ?_))
    all_goals first | (rw [srch_y hk (by simp [*])] at hq; exact hq) | (rw [srch_n hk (by simp [*])] at hq; simp only [nI_1]; exact ih hq)
theorem S_hasPermit (h : TW G M0 M t f i S D N A T V H l B O) (hg : OK S N) {x st z : Int32} {Q : Bool → wM → Prop} (hQ : Q (hasP S N x st z) M) : P_X4_hasPermit G t x st z M Q := by
  have hb := hg.b
  unfold P_X4_hasPermit
  refine st_loopP (F := fun n k => L_X4_hasPermit_3 G Q n t x st z (nI k) M) (P := fun k => Q (anyB (qHP S N x st z) (np N - k) k) M) (N := np N) (fun n hq => ?_) (fun n k hk hq ih => ?_) 0 (Nat.zero_le _) hQ
  · unfold L_X4_hasPermit_3; unfold B_X4_hasPermit_3
    repeat' (first | ((with_reducible apply oGetA.i h.obj); rfl) | ((with_reducible apply oGetI.i h.obj); rfl) | ((with_reducible refine oIs.i h.obj ?_)) | ((with_reducible refine S_ofP0 h ?_ ?_); omega) | ((with_reducible refine S_ofP1 h ?_ ?_); omega) | ((with_reducible refine S_ofP2 h ?_ ?_); omega) | ((with_reducible refine S_ofP3 h ?_ ?_); omega) | ((with_reducible refine S_ofP4 h ?_ ?_); omega) | ((with_reducible refine S_ofP5 h ?_ ?_); omega) | ((with_reducible refine S_ofP6 h ?_ ?_); omega) | ((with_reducible refine S_ofV0 h ?_ ?_); omega) | ((with_reducible refine S_ofV1 h ?_ ?_); omega) | ((with_reducible refine S_ofV2 h ?_ ?_); omega) | ((with_reducible refine S_ofV3 h ?_ ?_); omega) | ((with_reducible refine S_ofC0 h ?_ ?_); omega) | ((with_reducible refine S_ofC1 h ?_ ?_); omega) | ((with_reducible refine S_ofC2 h ?_ ?_); omega) | ((with_reducible refine S_ofF0 h ?_ ?_); omega) | ((with_reducible refine S_ofF1 h ?_ ?_); omega) | ((with_reducible refine S_ofF2 h ?_ ?_); omega) | ((with_reducible refine S_ofF3 h ?_ ?_); omega) | ((with_reducible refine S_ofF4 h ?_ ?_); omega) | ((with_reducible refine S_zoneOf h hg ?_ ?_); omega) | ((with_reducible refine S_zoneOfStreet h ?_ ?_); omega) | ((with_reducible refine S_zoneOfHouse h hg ?_ ?_); omega) | ((with_reducible refine oIf.y (nI_le ?_ ?_) ?_); omega; omega) | ((with_reducible refine oIf.n (nI_ge ?_ ?_) ?_); omega; omega) | ((with_reducible refine rd_np h hg ?_)) | ((with_reducible refine rd_nv h hg ?_)) | ((with_reducible refine rd_nc h hg ?_)) | ((with_reducible refine rd_nf h hg ?_)) | ((with_reducible refine rd_nz h hg ?_)) | ((with_reducible refine rd_ns h hg ?_)) | ((with_reducible refine rd_nh h hg ?_)) | ((with_reducible refine rd_0 h ?_)) | unfold B_X4_hasPermit_53 | unfold B_X4_hasPermit_51)
    rw [Nat.sub_self] at hq
    exact hq
  · unfold L_X4_hasPermit_3; unfold B_X4_hasPermit_3
    repeat' (first | ((with_reducible apply oGetA.i h.obj); rfl) | ((with_reducible apply oGetI.i h.obj); rfl) | ((with_reducible refine oIs.i h.obj ?_)) | ((with_reducible refine S_ofP0 h ?_ ?_); omega) | ((with_reducible refine S_ofP1 h ?_ ?_); omega) | ((with_reducible refine S_ofP2 h ?_ ?_); omega) | ((with_reducible refine S_ofP3 h ?_ ?_); omega) | ((with_reducible refine S_ofP4 h ?_ ?_); omega) | ((with_reducible refine S_ofP5 h ?_ ?_); omega) | ((with_reducible refine S_ofP6 h ?_ ?_); omega) | ((with_reducible refine S_ofV0 h ?_ ?_); omega) | ((with_reducible refine S_ofV1 h ?_ ?_); omega) | ((with_reducible refine S_ofV2 h ?_ ?_); omega) | ((with_reducible refine S_ofV3 h ?_ ?_); omega) | ((with_reducible refine S_ofC0 h ?_ ?_); omega) | ((with_reducible refine S_ofC1 h ?_ ?_); omega) | ((with_reducible refine S_ofC2 h ?_ ?_); omega) | ((with_reducible refine S_ofF0 h ?_ ?_); omega) | ((with_reducible refine S_ofF1 h ?_ ?_); omega) | ((with_reducible refine S_ofF2 h ?_ ?_); omega) | ((with_reducible refine S_ofF3 h ?_ ?_); omega) | ((with_reducible refine S_ofF4 h ?_ ?_); omega) | ((with_reducible refine S_zoneOf h hg ?_ ?_); omega) | ((with_reducible refine S_zoneOfStreet h ?_ ?_); omega) | ((with_reducible refine S_zoneOfHouse h hg ?_ ?_); omega) | ((with_reducible refine oIf.y (nI_le ?_ ?_) ?_); omega; omega) | ((with_reducible refine oIf.n (nI_ge ?_ ?_) ?_); omega; omega) | ((with_reducible refine rd_np h hg ?_)) | ((with_reducible refine rd_nv h hg ?_)) | ((with_reducible refine rd_nc h hg ?_)) | ((with_reducible refine rd_nf h hg ?_)) | ((with_reducible refine rd_nz h hg ?_)) | ((with_reducible refine rd_ns h hg ?_)) | ((with_reducible refine rd_nh h hg ?_)) | ((with_reducible refine rd_0 h ?_)) | with_reducible refine oIf.c (fun c => ?_) (fun c => ?_) | unfold B_X4_hasPermit_53 | unfold B_X4_hasPermit_51)
    all_goals first | (rw [anyB_y hk (by simp [qHP, *])] at hq; exact hq) | (rw [anyB_n hk (by simp [qHP, *])] at hq; simp only [nI_1]; exact ih hq)
theorem S_wasJustFined (h : TW G M0 M t f i S D N A T V H l B O) (hg : OK S N) {x : Int32} {Q : Bool → wM → Prop} (hQ : Q (justF N x) M) : P_X4_wasJustFined G t x M Q := by
  have hb := hg.b
  unfold P_X4_wasJustFined
  refine st_loopP (F := fun n k => L_X4_wasJustFined_2 G Q n t x (nI k) M) (P := fun k => Q (anyB (qJF N x) (nf N - k) k) M) (N := nf N) (fun n hq => ?_) (fun n k hk hq ih => ?_) 0 (Nat.zero_le _) hQ
  · unfold L_X4_wasJustFined_2; unfold B_X4_wasJustFined_2
    repeat' (first | ((with_reducible apply oGetA.i h.obj); rfl) | ((with_reducible apply oGetI.i h.obj); rfl) | ((with_reducible refine oIs.i h.obj ?_)) | ((with_reducible refine S_ofP0 h ?_ ?_); omega) | ((with_reducible refine S_ofP1 h ?_ ?_); omega) | ((with_reducible refine S_ofP2 h ?_ ?_); omega) | ((with_reducible refine S_ofP3 h ?_ ?_); omega) | ((with_reducible refine S_ofP4 h ?_ ?_); omega) | ((with_reducible refine S_ofP5 h ?_ ?_); omega) | ((with_reducible refine S_ofP6 h ?_ ?_); omega) | ((with_reducible refine S_ofV0 h ?_ ?_); omega) | ((with_reducible refine S_ofV1 h ?_ ?_); omega) | ((with_reducible refine S_ofV2 h ?_ ?_); omega) | ((with_reducible refine S_ofV3 h ?_ ?_); omega) | ((with_reducible refine S_ofC0 h ?_ ?_); omega) | ((with_reducible refine S_ofC1 h ?_ ?_); omega) | ((with_reducible refine S_ofC2 h ?_ ?_); omega) | ((with_reducible refine S_ofF0 h ?_ ?_); omega) | ((with_reducible refine S_ofF1 h ?_ ?_); omega) | ((with_reducible refine S_ofF2 h ?_ ?_); omega) | ((with_reducible refine S_ofF3 h ?_ ?_); omega) | ((with_reducible refine S_ofF4 h ?_ ?_); omega) | ((with_reducible refine S_zoneOf h hg ?_ ?_); omega) | ((with_reducible refine S_zoneOfStreet h ?_ ?_); omega) | ((with_reducible refine S_zoneOfHouse h hg ?_ ?_); omega) | ((with_reducible refine oIf.y (nI_le ?_ ?_) ?_); omega; omega) | ((with_reducible refine oIf.n (nI_ge ?_ ?_) ?_); omega; omega) | ((with_reducible refine rd_np h hg ?_)) | ((with_reducible refine rd_nv h hg ?_)) | ((with_reducible refine rd_nc h hg ?_)) | ((with_reducible refine rd_nf h hg ?_)) | ((with_reducible refine rd_nz h hg ?_)) | ((with_reducible refine rd_ns h hg ?_)) | ((with_reducible refine rd_nh h hg ?_)) | ((with_reducible refine rd_0 h ?_)) | unfold B_X4_wasJustFined_43)
    rw [Nat.sub_self] at hq
    exact hq
  · unfold L_X4_wasJustFined_2; unfold B_X4_wasJustFined_2
    repeat' (first | ((with_reducible apply oGetA.i h.obj); rfl) | ((with_reducible apply oGetI.i h.obj); rfl) | ((with_reducible refine oIs.i h.obj ?_)) | ((with_reducible refine S_ofP0 h ?_ ?_); omega) | ((with_reducible refine S_ofP1 h ?_ ?_); omega) | ((with_reducible refine S_ofP2 h ?_ ?_); omega) | ((with_reducible refine S_ofP3 h ?_ ?_); omega) | ((with_reducible refine S_ofP4 h ?_ ?_); omega) | ((with_reducible refine S_ofP5 h ?_ ?_); omega) | ((with_reducible refine S_ofP6 h ?_ ?_); omega) | ((with_reducible refine S_ofV0 h ?_ ?_); omega) | ((with_reducible refine S_ofV1 h ?_ ?_); omega) | ((with_reducible refine S_ofV2 h ?_ ?_); omega) | ((with_reducible refine S_ofV3 h ?_ ?_); omega) | ((with_reducible refine S_ofC0 h ?_ ?_); omega) | ((with_reducible refine S_ofC1 h ?_ ?_); omega) | ((with_reducible refine S_ofC2 h ?_ ?_); omega) | ((with_reducible refine S_ofF0 h ?_ ?_); omega) | ((with_reducible refine S_ofF1 h ?_ ?_); omega) | ((with_reducible refine S_ofF2 h ?_ ?_); omega) | ((with_reducible refine S_ofF3 h ?_ ?_); omega) | ((with_reducible refine S_ofF4 h ?_ ?_); omega) | ((with_reducible refine S_zoneOf h hg ?_ ?_); omega) | ((with_reducible refine S_zoneOfStreet h ?_ ?_); omega) | ((with_reducible refine S_zoneOfHouse h hg ?_ ?_); omega) | ((with_reducible refine oIf.y (nI_le ?_ ?_) ?_); omega; omega) | ((with_reducible refine oIf.n (nI_ge ?_ ?_) ?_); omega; omega) | ((with_reducible refine rd_np h hg ?_)) | ((with_reducible refine rd_nv h hg ?_)) | ((with_reducible refine rd_nc h hg ?_)) | ((with_reducible refine rd_nf h hg ?_)) | ((with_reducible refine rd_nz h hg ?_)) | ((with_reducible refine rd_ns h hg ?_)) | ((with_reducible refine rd_nh h hg ?_)) | ((with_reducible refine rd_0 h ?_)) | with_reducible refine oIf.c (fun c => ?_) (fun c => ?_) | unfold B_X4_wasJustFined_43)
    all_goals first | (rw [anyB_y hk (by simp [qJF, *])] at hq; exact hq) | (rw [anyB_n hk (by simp [qJF, *])] at hq; simp only [nI_1]; exact ih hq)
theorem S_freeIn (h : TW G M0 M t f i S D N A T V H l B O) (hg : OK S N) {s : Nat} (hs : s < 12) {Q : Int32 → wM → Prop} (hQ : Q (freeIn S N s) M) : P_X4_freeIn G t (nI s) M Q :=
  oGetA.i h.obj rfl (oIald.c (c := 39) rfl h.set (by omega) (by decide) (oIs.i h.obj (S_carsIn h hg hQ)))
theorem S_hasThere (h : TW G M0 M t f i S D N A T V H l B O) (hg : OK S N) {x st : Int32} {s : Nat} (hs : s < 12) {Q : Bool → wM → Prop} (hQ : Q (hasTh S N x st s) M) : P_X4_hasThere G t x st (nI s) M Q := by
  refine oIs.i h.obj (S_secondOf h hs (oIs.i h.obj (S_zoneOfStreet h hs (oIs.i h.obj (S_hasPermit h hg ?_)))))
  unfold hasTh at hQ
  by_cases c : hasP S N x st (S (27 + s)) = true
  · rw [c] at hQ
    exact oIf.y c ⟨true, rfl, hQ⟩
  · rw [Bool.not_eq_true] at c
    rw [c] at hQ ⊢
    refine oIf.n (by decide) ?_
    by_cases c2 : secondOf S N s = -1
    · rw [decide_eq_true c2] at hQ
      exact oIf.y c2 ⟨false, rfl, hQ⟩
    · rw [decide_eq_false c2] at hQ
      refine oIf.n c2 (oIs.i h.obj (S_hasPermit h hg ?_))
      by_cases c3 : hasP S N x st (secondOf S N s) = true
      · rw [c3] at hQ ⊢
        exact oIf.y rfl ⟨true, rfl, hQ⟩
      · rw [Bool.not_eq_true] at c3
        rw [c3] at hQ ⊢
        exact oIf.n (by decide) ⟨false, rfl, hQ⟩
theorem S_hasVisit (h : TW G M0 M t f i S D N A T V H l B O) (hg : OK S N) {x : Int32} {s : Nat} (hs : s < ns S) {b : Bool} {Q : Bool → wM → Prop} (hQ : Q (hasV S N x s b) M) : P_X4_hasVisit G t x (nI s) (wb b) M Q := by
  have hb := hg.b
  unfold P_X4_hasVisit
  refine st_loopP (F := fun n k => L_X4_hasVisit_3 G Q n t x (nI s) (wb b) (nI k) M) (P := fun k => Q (anyB (qHV S N x s b) (nv N - k) k) M) (N := nv N) (fun n hq => ?_) (fun n k hk hq ih => ?_) 0 (Nat.zero_le _) hQ
  · unfold L_X4_hasVisit_3; unfold B_X4_hasVisit_3
    repeat' (first | ((with_reducible apply oGetA.i h.obj); rfl) | ((with_reducible apply oGetI.i h.obj); rfl) | ((with_reducible refine oIs.i h.obj ?_)) | ((with_reducible refine S_ofP0 h ?_ ?_); omega) | ((with_reducible refine S_ofP1 h ?_ ?_); omega) | ((with_reducible refine S_ofP2 h ?_ ?_); omega) | ((with_reducible refine S_ofP3 h ?_ ?_); omega) | ((with_reducible refine S_ofP4 h ?_ ?_); omega) | ((with_reducible refine S_ofP5 h ?_ ?_); omega) | ((with_reducible refine S_ofP6 h ?_ ?_); omega) | ((with_reducible refine S_ofV0 h ?_ ?_); omega) | ((with_reducible refine S_ofV1 h ?_ ?_); omega) | ((with_reducible refine S_ofV2 h ?_ ?_); omega) | ((with_reducible refine S_ofV3 h ?_ ?_); omega) | ((with_reducible refine S_ofC0 h ?_ ?_); omega) | ((with_reducible refine S_ofC1 h ?_ ?_); omega) | ((with_reducible refine S_ofC2 h ?_ ?_); omega) | ((with_reducible refine S_ofF0 h ?_ ?_); omega) | ((with_reducible refine S_ofF1 h ?_ ?_); omega) | ((with_reducible refine S_ofF2 h ?_ ?_); omega) | ((with_reducible refine S_ofF3 h ?_ ?_); omega) | ((with_reducible refine S_ofF4 h ?_ ?_); omega) | ((with_reducible refine S_zoneOf h hg ?_ ?_); omega) | ((with_reducible refine S_zoneOfStreet h ?_ ?_); omega) | ((with_reducible refine S_zoneOfHouse h hg ?_ ?_); omega) | ((with_reducible refine oIf.y (nI_le ?_ ?_) ?_); omega; omega) | ((with_reducible refine oIf.n (nI_ge ?_ ?_) ?_); omega; omega) | ((with_reducible refine rd_np h hg ?_)) | ((with_reducible refine rd_nv h hg ?_)) | ((with_reducible refine rd_nc h hg ?_)) | ((with_reducible refine rd_nf h hg ?_)) | ((with_reducible refine rd_nz h hg ?_)) | ((with_reducible refine rd_ns h hg ?_)) | ((with_reducible refine rd_nh h hg ?_)) | ((with_reducible refine rd_0 h ?_)) | unfold B_X4_hasVisit_56)
    rw [Nat.sub_self] at hq
    exact hq
  · unfold L_X4_hasVisit_3; unfold B_X4_hasVisit_3
    have e : (wb (runsV N k) = wb b) = (runsV N k = b) := by cases runsV N k <;> cases b <;> simp [wb]
    repeat' (first | ((with_reducible refine S_runs h ?_ ?_); omega) | refine S_zoneOfHouse' h hg (hg.2.2.2.2.2.2.1 k hk) ?_ | ((with_reducible apply oGetA.i h.obj); rfl) | ((with_reducible apply oGetI.i h.obj); rfl) | ((with_reducible refine oIs.i h.obj ?_)) | ((with_reducible refine S_ofP0 h ?_ ?_); omega) | ((with_reducible refine S_ofP1 h ?_ ?_); omega) | ((with_reducible refine S_ofP2 h ?_ ?_); omega) | ((with_reducible refine S_ofP3 h ?_ ?_); omega) | ((with_reducible refine S_ofP4 h ?_ ?_); omega) | ((with_reducible refine S_ofP5 h ?_ ?_); omega) | ((with_reducible refine S_ofP6 h ?_ ?_); omega) | ((with_reducible refine S_ofV0 h ?_ ?_); omega) | ((with_reducible refine S_ofV1 h ?_ ?_); omega) | ((with_reducible refine S_ofV2 h ?_ ?_); omega) | ((with_reducible refine S_ofV3 h ?_ ?_); omega) | ((with_reducible refine S_ofC0 h ?_ ?_); omega) | ((with_reducible refine S_ofC1 h ?_ ?_); omega) | ((with_reducible refine S_ofC2 h ?_ ?_); omega) | ((with_reducible refine S_ofF0 h ?_ ?_); omega) | ((with_reducible refine S_ofF1 h ?_ ?_); omega) | ((with_reducible refine S_ofF2 h ?_ ?_); omega) | ((with_reducible refine S_ofF3 h ?_ ?_); omega) | ((with_reducible refine S_ofF4 h ?_ ?_); omega) | ((with_reducible refine S_zoneOf h hg ?_ ?_); omega) | ((with_reducible refine S_zoneOfStreet h ?_ ?_); omega) | ((with_reducible refine S_zoneOfHouse h hg ?_ ?_); omega) | ((with_reducible refine oIf.y (nI_le ?_ ?_) ?_); omega; omega) | ((with_reducible refine oIf.n (nI_ge ?_ ?_) ?_); omega; omega) | ((with_reducible refine rd_np h hg ?_)) | ((with_reducible refine rd_nv h hg ?_)) | ((with_reducible refine rd_nc h hg ?_)) | ((with_reducible refine rd_nf h hg ?_)) | ((with_reducible refine rd_nz h hg ?_)) | ((with_reducible refine rd_ns h hg ?_)) | ((with_reducible refine rd_nh h hg ?_)) | ((with_reducible refine rd_0 h ?_)) | with_reducible refine oIf.c (fun c => ?_) (fun c => ?_) | unfold B_X4_hasVisit_56)
    all_goals (try rw [e] at *)
    all_goals first | (rw [anyB_y hk (by simp [qHV, *])] at hq; exact hq) | (rw [anyB_n hk (by simp [qHV, *])] at hq; simp only [nI_1]; exact ih hq)
theorem S_isInHours (h : TW G M0 M t f i S D N A T V H l B O) (hg : OK S N) {s : Nat} (hs : s < ns S) {Q : Bool → wM → Prop} (hQ : Q (inHrs S N s) M) : P_X4_isInHours G t (nI s) M Q := by
  have hb := hg.b
  obtain ⟨z, hz, e⟩ := hg.1.2.2.2.1 s hs
  unfold P_X4_isInHours
  unfold inHrs at hQ
  rw [e, nI_clamp (by omega)] at hQ
  refine oGetA.i h.obj rfl (oIald.e (i := 0) rfl h.now (by decide) (by decide) (oIs.i h.obj (S_zoneOfStreet h (by omega) ?_)))
  rw [e]
  refine oGetA.i h.obj rfl (oIald.c (c := 9) rfl h.set (by omega) (by decide) ?_)
  by_cases c : dayT N < 60 * S (9 + z)
  · rw [decide_eq_true c] at hQ
    exact oIf.y c ⟨false, rfl, hQ⟩
  · rw [decide_eq_false c] at hQ
    refine oIf.n c (oGetA.i h.obj rfl (oIald.c (c := 15) rfl h.set (by omega) (by decide) ?_))
    by_cases c2 : 60 * S (15 + z) ≤ dayT N
    · rw [decide_eq_true c2] at hQ
      exact oIf.y c2 ⟨false, rfl, hQ⟩
    · rw [decide_eq_false c2] at hQ
      exact oIf.n c2 ⟨true, rfl, hQ⟩
theorem bl (b : Bool) {A C : Prop} (h1 : b = true → A) (h2 : b = false → C) : oIf (b = true) A C := by
  cases b
  · exact oIf.n (by decide) (h2 rfl)
  · exact oIf.y rfl (h1 rfl)
theorem S_isAllowed (h : TW G M0 M t f i S D N A T V H l B O) (hg : OK S N) {x : Int32} {s : Nat} (hs : s < ns S) {Q : Bool → wM → Prop} (hQ : Q (isAll S N x s) M) : P_X4_isAllowed G t x (nI s) M Q := by
  have hb := hg.b
  unfold isAll at hQ
  refine oIs.i h.obj (S_isInHours h hg hs (bl _ (fun c => ?_) (fun c => ?_)))
  · refine oIs.i h.obj (S_hasThere h hg (by omega) (bl _ (fun c2 => ?_) (fun c2 => ?_)))
    · exact ⟨true, rfl, by simpa [c, c2] using hQ⟩
    · refine oIs.i h.obj (S_hasVisit (b := true) h hg hs (bl _ (fun c3 => ?_) (fun c3 => ?_)))
      · exact ⟨true, rfl, by simpa [c, c2, c3] using hQ⟩
      · exact ⟨false, rfl, by simpa [c, c2, c3] using hQ⟩
  · exact ⟨true, rfl, by simpa [c] using hQ⟩
theorem S_ruleOf (h : TW G M0 M t f i S D N A T V H l B O) (hg : OK S N) {x : Int32} {s : Nat} (hs : s < ns S) {Q : Int32 → wM → Prop} (hQ : Q (ruleF S N x s) M) : P_X4_ruleOf G t x (nI s) M Q := by
  have hb := hg.b
  unfold ruleF at hQ
  refine oIs.i h.obj (S_isAllowed h hg hs (bl _ (fun c => by simpa [c] using hQ) (fun c1 => ?_)))
  refine oIs.i h.obj (S_hasThere h hg (by omega) (bl _ (fun c => by simpa [c1, c] using hQ) (fun c2 => ?_)))
  refine oIs.i h.obj (S_hasVisit (b := false) h hg hs (bl _ (fun c => by simpa [c1, c2, c] using hQ) (fun c3 => ?_)))
  refine oIs.i h.obj (S_hasThere h hg (by omega) (bl _ (fun c => by simpa [c1, c2, c3, c, B_X4_ruleOf_55] using hQ) (fun c4 => ?_)))
  refine oIs.i h.obj (S_hasThere h hg (by omega) (bl _ (fun c => by simpa [c1, c2, c3, c4, c, B_X4_ruleOf_55] using hQ) (fun c5 => ?_)))
  refine oIs.i h.obj (S_hasPermit h hg (bl _ (fun c => by simpa [c1, c2, c3, c4, c5, c] using hQ) (fun c6 => ?_)))
  refine oIs.i h.obj (S_hasPermit h hg (bl _ (fun c => by simpa [c1, c2, c3, c4, c5, c6, c, B_X4_ruleOf_89, B_X4_ruleOf_95] using hQ) (fun c7 => ?_)))
  exact oIs.i h.obj (S_hasPermit h hg (bl _ (fun c => by simpa [c1, c2, c3, c4, c5, c6, c7, c, B_X4_ruleOf_89, B_X4_ruleOf_95] using hQ) (fun c8 => by simpa [c1, c2, c3, c4, c5, c6, c7, c8, B_X4_ruleOf_95] using hQ)))
theorem S_finedBy (h : TW G M0 M t f i S D N A T V H l B O) (hg : OK S N) {c : Nat} (hc : c < nc N) {Q : Int32 → wM → Prop} (hQ : Q (finedC S N c) M) : P_X4_finedBy G t (nI c) M Q := by
  have hb := hg.b
  obtain ⟨s, hs, e⟩ := hg.2.2.2.2.2.2.2.1 c hc
  obtain ⟨z, hz, e2⟩ := hg.1.2.2.2.1 s hs
  unfold finedC zS at hQ
  rw [e, nI_clamp (by omega), e2, nI_clamp (by omega)] at hQ
  refine oIs.i h.obj (S_ofC0 h (by omega) (oIs.i h.obj (S_ofC1 h (by omega) ?_)))
  rw [e]
  refine oGetA.i h.obj rfl (oIald.e (i := 0) rfl h.now (by decide) (by decide) (oIs.i h.obj (S_ofC2 h (by omega) (oGetA.i h.obj rfl (oIs.i h.obj (S_zoneOfStreet h (by omega) ?_))))))
  rw [e2]
  refine oIald.c (c := 21) rfl h.set (by omega) (by decide) ?_
  by_cases c1 : N 0 - cP N c 2 ≤ S (21 + z)
  · rw [if_pos c1] at hQ; exact oIf.y c1 hQ
  · rw [if_neg c1] at hQ
    refine oIf.n c1 (oIs.i h.obj (S_wasJustFined h hg (bl _ (fun c2 => ?_) (fun c2 => ?_))))
    · rw [c2] at hQ; exact hQ
    · rw [c2] at hQ; exact oIs.i h.obj (S_ruleOf h hg hs hQ)
theorem S_wouldFine (h : TW G M0 M t f i S D N A T V H l B O) (hg : OK S N) {z : Int32} {Q : Int32 → wM → Prop} (hQ : Q (wouldF S N z) M) : P_X4_wouldFine G t z M Q := by
  have hb := hg.b
  unfold P_X4_wouldFine
  refine st_loop (F := fun n k => L_X4_wouldFine_4 G Q n t z (nI (cnt (qWF S N z) k)) (nI k) M) (N := nc N) (fun n => ?_) (fun n k hk ih => ?_) 0 (Nat.zero_le _)
  · unfold L_X4_wouldFine_4; unfold B_X4_wouldFine_4
    refine oGetA.i h.obj rfl (rd_nc h hg (oIf.y (nI_le (by omega) (by omega)) (oGetA.i h.obj rfl (oIald.e (i := 4) rfl h.now (by decide) (by decide) ?_))))
    unfold wouldF wouldN at hQ
    refine oIf.c (fun c => ?_) (fun c => ?_)
    · rw [if_pos c] at hQ; exact hQ
    · rw [if_neg c] at hQ; exact oGetA.i h.obj rfl (oIald.e (i := 4) rfl h.now (by decide) (by decide) hQ)
  · unfold L_X4_wouldFine_4; unfold B_X4_wouldFine_4
    repeat' (first | refine S_finedBy h hg hk ?_ | ((with_reducible apply oGetA.i h.obj); rfl) | ((with_reducible apply oGetI.i h.obj); rfl) | ((with_reducible refine oIs.i h.obj ?_)) | ((with_reducible refine S_ofP0 h ?_ ?_); omega) | ((with_reducible refine S_ofP1 h ?_ ?_); omega) | ((with_reducible refine S_ofP2 h ?_ ?_); omega) | ((with_reducible refine S_ofP3 h ?_ ?_); omega) | ((with_reducible refine S_ofP4 h ?_ ?_); omega) | ((with_reducible refine S_ofP5 h ?_ ?_); omega) | ((with_reducible refine S_ofP6 h ?_ ?_); omega) | ((with_reducible refine S_ofV0 h ?_ ?_); omega) | ((with_reducible refine S_ofV1 h ?_ ?_); omega) | ((with_reducible refine S_ofV2 h ?_ ?_); omega) | ((with_reducible refine S_ofV3 h ?_ ?_); omega) | ((with_reducible refine S_ofC0 h ?_ ?_); omega) | ((with_reducible refine S_ofC1 h ?_ ?_); omega) | ((with_reducible refine S_ofC2 h ?_ ?_); omega) | ((with_reducible refine S_ofF0 h ?_ ?_); omega) | ((with_reducible refine S_ofF1 h ?_ ?_); omega) | ((with_reducible refine S_ofF2 h ?_ ?_); omega) | ((with_reducible refine S_ofF3 h ?_ ?_); omega) | ((with_reducible refine S_ofF4 h ?_ ?_); omega) | ((with_reducible refine S_zoneOf h hg ?_ ?_); omega) | ((with_reducible refine S_zoneOfStreet h ?_ ?_); omega) | ((with_reducible refine S_zoneOfHouse h hg ?_ ?_); omega) | ((with_reducible refine oIf.y (nI_le ?_ ?_) ?_); omega; omega) | ((with_reducible refine oIf.n (nI_ge ?_ ?_) ?_); omega; omega) | ((with_reducible refine rd_np h hg ?_)) | ((with_reducible refine rd_nv h hg ?_)) | ((with_reducible refine rd_nc h hg ?_)) | ((with_reducible refine rd_nf h hg ?_)) | ((with_reducible refine rd_nz h hg ?_)) | ((with_reducible refine rd_ns h hg ?_)) | ((with_reducible refine rd_nh h hg ?_)) | ((with_reducible refine rd_0 h ?_)) | with_reducible refine oIf.c (fun c => ?_) (fun c => ?_) | unfold B_X4_wouldFine_68 | unfold B_X4_wouldFine_36)
    all_goals first | exact ih | (simp only [nI_1]; rw [cnt_y (p := qWF S N z) (n := k) (by simp [qWF, *])]; exact ih) | (simp only [nI_1]; rw [cnt_n (p := qWF S N z) (n := k) (by simp [qWF, *])]; exact ih)
theorem S_amountOf (h : TW G M0 M t f i S D N A T V H l B O) {r : Nat} (h1 : 1 ≤ r) (h2 : r ≤ 6) {Q : Int32 → wM → Prop} (hQ : Q (amt S (nI r)) M) : P_X4_amountOf G t (nI r) M Q := by
  unfold amt at hQ
  rw [nI_clamp (by omega)] at hQ
  refine oGetA.i h.obj rfl (oIald.e (i := 113 + r) ?_ h.set (by omega) (by decide) hQ)
  rw [show (114 : Int32) = nI 114 from rfl, nI_add, show (1 : Int32) = nI 1 from rfl, nI_sub (by omega)]
  congr 1; omega
end TW1
