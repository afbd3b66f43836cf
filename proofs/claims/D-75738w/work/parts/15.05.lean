set_option maxRecDepth 100000
def P_X1_enoughLimit (G : wG) (t0 : Nat) (p1 : Int32) (b : Nat) (M : wM) (Q : Int32 → wM → Prop) (Xp : String → Nat → wM → Prop) : Prop :=
  oIs M t0 0 (∃ c2, c2 ≤ b ∧ P_X1_checkZone G t0 p1 c2 M (fun M1 => oGetA M1 t0 0 0 (fun a3 => oLam G M1 (b - c2) "L4" p1 (fun a4 M5 b6 => oIs M5 a3 1 (P_X2_many G a3 a4 M5 (fun v9 M7 => Q v9 M7))))) (fun E q10 M11 => (E = "java/lang/IndexOutOfBoundsException" ∧ Xp E q10 M11)))
set_option maxHeartbeats 4000000 in
set_option maxRecDepth 100000 in
theorem P_X1_enoughLimit_ok {l : Launch} (hl0 : l.stackTraces = false) {G : wG} {t0 : Nat} {p1 : Int32} {b : Nat} {M : wM} {Q : Int32 → wM → Prop} {Xp : String → Nat → wM → Prop} (hp : P_X1_enoughLimit G t0 p1 b M Q Xp) : wMet l yX1_enoughLimit (ws_ yX1_enoughLimit cX1_enoughLimit 2 (Option.some Jvm.ClassFile.FieldType.int)) 24 3300 G [.ref t0, .int p1] M b (wqI Q) Xp := by
  refine vx_ofW (cc := cX1_enoughLimit) (maxL := 2) (ret := Option.some Jvm.ClassFile.FieldType.int) (by decide) rfl ?_
  intro p e s m args below meth c s₁ B hml hnt hv
  obtain ⟨rfl, hM, hK, hZ, hz⟩ := hv
  have hC : wC G s := ⟨hK, hZ, hz⟩
  have hx := B.exec
  have hb := B.bytes
  have hr := B.returns
  have hts := atoms_spec (ws := (ws_ yX1_enoughLimit cX1_enoughLimit 2 (Option.some Jvm.ClassFile.FieldType.int))) B.pre
  have hts : ∀ w ∈ lw_all, w.before _ s = true := fun w h => hts w (List.mem_cons_of_mem _ h)
  have hown : s.vm.findClass RX1 = some m.cls := findClass_of_methodNamed B.named
  have hlk := B.notSynchronized
  have X : CallFix p m c cX1_enoughLimit 2 s ([.ref t0, .int p1] : List Value).toArray lw_all RX1 := ⟨hx, hb, hml, hown, hts⟩
  have hS : va_S (wA G) s.heap s.heap [] := va_S.rf
  have hl := lv_entry ([.ref t0, .int p1]) (n := 2) (Nat.le_of_ble_eq_true rfl)
  rw [lg_entry_eq]
  generalize (lg_sl ([.ref t0, .int p1]) ++ List.replicate (2 - (lg_sl ([.ref t0, .int p1])).length) Slot.unset).toArray = ls at hl ⊢
  have hl : lv_has ls 2 [(0, .ref t0), (1, .int p1)] := hl
  have hB : 0 + b ≤ ((headSpec (ws_ yX1_enoughLimit cX1_enoughLimit 2 (Option.some Jvm.ClassFile.FieldType.int)) ({ frames := 24, cells := b, slots := b, locals := 3300 })).room).cells ∧ 0 + b ≤ ((headSpec (ws_ yX1_enoughLimit cX1_enoughLimit 2 (Option.some Jvm.ClassFile.FieldType.int)) ({ frames := 24, cells := b, slots := b, locals := 3300 })).room).slots := ⟨Nat.le_of_eq (Nat.zero_add b), Nat.le_of_eq (Nat.zero_add b)⟩
  refine lv_aload_n hx hb dX1_enoughLimit_0 rfl (lv_at hl 0 rfl) ?_
  refine lv_iload_n hx hb dX1_enoughLimit_1 rfl (lv_at hl 1 rfl) ?_
  obtain ⟨hrec, hp⟩ := hp
  obtain ⟨c2, hc1, hp⟩ := hp
  refine x_callV (vx_runV (As := [.int p1]) (rest := []) X (P_X1_checkZone_ok (l := l) hl0 hp) (cwV 1 hts (lw_V q2196 q2198 qs35 q148 q2199) rfl rfl rfl (by decide +kernel) ⟨Nat.le_of_ble_eq_true rfl, Nat.le_of_ble_eq_true rfl⟩) ⟨wPc.blind, w_recv hC.1 hM (ci := 0) (q := (RX1, TX1, 8)) rfl hrec, w_pre hC hM hS _⟩ rfl rfl hl.1 rfl (lv_room (Nat.le_of_ble_eq_true rfl)) dX1_enoughLimit_2 (w_room hB hc1)) hS hB hc1 (fun E ce q10 M11 H locs hp hM hS hB hcell hcv hcl => ?_) (fun M1 H locs hp hM hS hB => ?_)
  · obtain ⟨rfl, hp⟩ := hp
    exact x_out hlk (fun x h => (hnt x h).elim) hM hS (w_fin hB) hcell hcv hcl hp
  · refine lv_aload_n hx hb dX1_enoughLimit_5 rfl (lv_at hl 0 rfl) ?_
    refine x_getA X hC.1 hM (ci := 0) (C := RX1) (T := TX1) (N := 8) rfl in_X1 0 (by decide) q973 (fun _ h9 => h9) dX1_enoughLimit_6 hp (fun a3 hp => ?_)
    refine lv_iload_n hx hb dX1_enoughLimit_9 rfl (lv_at hl 1 rfl) ?_
    refine x_indy X (hml.trans hl.1.symm) B.named hC hM hS hB (σ := wSh4) (nm := "L4") (List.mem_of_getElem? (i := 3) rfl) q3886 dX1_enoughLimit_10 (Nat.le_of_ble_eq_true rfl) hp (fun a4 M5 H b6 cells slots hM hS hB hp => ?_)
    obtain ⟨hrec, hp⟩ := hp
    refine x_call0I (vx_runV (As := [.ref a4]) (rest := []) X (P_X2_many_ok (l := l) hl0 hp) (cwV 1 hts (lw_V q2260 q2261 q2262 q149 q2263) rfl rfl rfl (by decide +kernel) ⟨Nat.le_of_ble_eq_true rfl, Nat.le_of_ble_eq_true rfl⟩) ⟨wPc.blind, w_recv hC.1 hM (ci := 1) (q := (RX2, TX2, 9)) rfl hrec, w_pre hC hM hS _⟩ rfl rfl hl.1 rfl (lv_room (Nat.le_of_ble_eq_true rfl)) dX1_enoughLimit_15 (w_room0 hB)) hS (w_room0 hB) (fun _ _ _ _ _ _ h => False.elim h) (fun v9 M7 H locs hp hM hS => ?_)
    exact x_iret X hr hlk hM hS (w_fin hB) dX1_enoughLimit_18 ⟨_, rfl, hp⟩
def P_X1_errorCode (G : wG) (t0 : Nat) (M : wM) (Q : Int32 → wM → Prop) : Prop :=
  oGetI M t0 0 5 (fun v1 => Q v1 M)
set_option maxHeartbeats 4000000 in
set_option maxRecDepth 100000 in
theorem P_X1_errorCode_ok {l : Launch} (hl0 : l.stackTraces = false) {G : wG} {t0 : Nat} {M : wM} {Q : Int32 → wM → Prop} (hp : P_X1_errorCode G t0 M Q) : wMet l yX1_errorCode (ws_ yX1_errorCode cX1_errorCode 1 (Option.some Jvm.ClassFile.FieldType.int)) 12 400 G [.ref t0] M 0 (wqI Q) wX0 := by
  refine vx_ofW (cc := cX1_errorCode) (maxL := 1) (ret := Option.some Jvm.ClassFile.FieldType.int) (by decide) rfl ?_
  intro p e s m args below meth c s₁ B hml hnt hv
  obtain ⟨rfl, hM, hK, hZ, hz⟩ := hv
  have hC : wC G s := ⟨hK, hZ, hz⟩
  have hx := B.exec
  have hb := B.bytes
  have hr := B.returns
  have hts := atoms_spec (ws := (ws_ yX1_errorCode cX1_errorCode 1 (Option.some Jvm.ClassFile.FieldType.int))) B.pre
  have hts : ∀ w ∈ lw_all, w.before _ s = true := fun w h => hts w (List.mem_cons_of_mem _ h)
  have hown : s.vm.findClass RX1 = some m.cls := findClass_of_methodNamed B.named
  have hlk := B.notSynchronized
  have X : CallFix p m c cX1_errorCode 1 s ([.ref t0] : List Value).toArray lw_all RX1 := ⟨hx, hb, hml, hown, hts⟩
  have hS : va_S (wA G) s.heap s.heap [] := va_S.rf
  have hl := lv_entry ([.ref t0]) (n := 1) (Nat.le_of_ble_eq_true rfl)
  rw [lg_entry_eq]
  generalize (lg_sl ([.ref t0]) ++ List.replicate (1 - (lg_sl ([.ref t0])).length) Slot.unset).toArray = ls at hl ⊢
  have hl : lv_has ls 1 [(0, .ref t0)] := hl
  refine lv_aload_n hx hb dX1_errorCode_0 rfl (lv_at hl 0 rfl) ?_
  refine x_getI X hC.1 hM (ci := 0) (C := RX1) (T := TX1) (N := 8) rfl in_X1 5 (by decide) q980 (fun _ h9 => h9) dX1_errorCode_1 hp (fun v1 hp => ?_)
  exact x_iret X hr hlk hM hS ⟨Nat.le_refl _, Nat.le_refl _⟩ dX1_errorCode_4 ⟨_, rfl, hp⟩
def P_X1_errorOffset (G : wG) (t0 : Nat) (M : wM) (Q : Int32 → wM → Prop) : Prop :=
  oGetI M t0 0 6 (fun v1 => Q v1 M)
set_option maxHeartbeats 4000000 in
set_option maxRecDepth 100000 in
theorem P_X1_errorOffset_ok {l : Launch} (hl0 : l.stackTraces = false) {G : wG} {t0 : Nat} {M : wM} {Q : Int32 → wM → Prop} (hp : P_X1_errorOffset G t0 M Q) : wMet l yX1_errorOffset (ws_ yX1_errorOffset cX1_errorOffset 1 (Option.some Jvm.ClassFile.FieldType.int)) 12 400 G [.ref t0] M 0 (wqI Q) wX0 := by
  refine vx_ofW (cc := cX1_errorOffset) (maxL := 1) (ret := Option.some Jvm.ClassFile.FieldType.int) (by decide) rfl ?_
  intro p e s m args below meth c s₁ B hml hnt hv
  obtain ⟨rfl, hM, hK, hZ, hz⟩ := hv
  have hC : wC G s := ⟨hK, hZ, hz⟩
  have hx := B.exec
  have hb := B.bytes
  have hr := B.returns
  have hts := atoms_spec (ws := (ws_ yX1_errorOffset cX1_errorOffset 1 (Option.some Jvm.ClassFile.FieldType.int))) B.pre
  have hts : ∀ w ∈ lw_all, w.before _ s = true := fun w h => hts w (List.mem_cons_of_mem _ h)
  have hown : s.vm.findClass RX1 = some m.cls := findClass_of_methodNamed B.named
  have hlk := B.notSynchronized
  have X : CallFix p m c cX1_errorOffset 1 s ([.ref t0] : List Value).toArray lw_all RX1 := ⟨hx, hb, hml, hown, hts⟩
  have hS : va_S (wA G) s.heap s.heap [] := va_S.rf
  have hl := lv_entry ([.ref t0]) (n := 1) (Nat.le_of_ble_eq_true rfl)
  rw [lg_entry_eq]
  generalize (lg_sl ([.ref t0]) ++ List.replicate (1 - (lg_sl ([.ref t0])).length) Slot.unset).toArray = ls at hl ⊢
  have hl : lv_has ls 1 [(0, .ref t0)] := hl
  refine lv_aload_n hx hb dX1_errorOffset_0 rfl (lv_at hl 0 rfl) ?_
  refine x_getI X hC.1 hM (ci := 0) (C := RX1) (T := TX1) (N := 8) rfl in_X1 6 (by decide) q981 (fun _ h9 => h9) dX1_errorOffset_1 hp (fun v1 hp => ?_)
  exact x_iret X hr hlk hM hS ⟨Nat.le_refl _, Nat.le_refl _⟩ dX1_errorOffset_4 ⟨_, rfl, hp⟩
def P_X2_takeHours (G : wG) (t0 : Nat) (p1 : Int32) (p2 : Int32) (b : Nat) (M : wM) (Q : wM → Prop) (Xp : String → Nat → wM → Prop) : Prop :=
  oGetA M t0 1 7 (fun a1 => oIald .int M a1 p1 (fun v2 => oIf (p2 ≤ v2) (oGetA M t0 1 7 (fun a3 => oIald .int M a3 p1 (fun v4 => oIast G M a3 p1 (v4 - p2) (fun M5 => Q M5)))) (oNew G M b 13 [.null, .null, .null, .null, .null, .int 0] (fun a6 M7 b8 => P_X17_init G a6 M7 (fun M9 => (∃ fs, M9 a6 = some (.inr (13, fs))) ∧ wz G ≤ a6 ∧ Xp "ParkingOffice$NoHours" a6 M9)))))
set_option maxHeartbeats 4000000 in
set_option maxRecDepth 100000 in
theorem P_X2_takeHours_ok {l : Launch} (hl0 : l.stackTraces = false) {G : wG} {t0 : Nat} {p1 : Int32} {p2 : Int32} {b : Nat} {M : wM} {Q : wM → Prop} {Xp : String → Nat → wM → Prop} (hp : P_X2_takeHours G t0 p1 p2 b M Q Xp) : wMet l yX2_takeHours (ws_ yX2_takeHours cX2_takeHours 3 (none)) 16 489 G [.ref t0, .int p1, .int p2] M b (wqV Q) Xp := by
  refine vx_ofW (cc := cX2_takeHours) (maxL := 3) (ret := none) (by decide) rfl ?_
  intro p e s m args below meth c s₁ B hml hnt hv
  obtain ⟨rfl, hM, hK, hZ, hz⟩ := hv
  have hC : wC G s := ⟨hK, hZ, hz⟩
  have hx := B.exec
  have hb := B.bytes
  have hr := B.returns
  have hts := atoms_spec (ws := (ws_ yX2_takeHours cX2_takeHours 3 (none))) B.pre
  have hts : ∀ w ∈ lw_all, w.before _ s = true := fun w h => hts w (List.mem_cons_of_mem _ h)
  have hown : s.vm.findClass RX2 = some m.cls := findClass_of_methodNamed B.named
  have hlk := B.notSynchronized
  have X : CallFix p m c cX2_takeHours 3 s ([.ref t0, .int p1, .int p2] : List Value).toArray lw_all RX2 := ⟨hx, hb, hml, hown, hts⟩
  have hS : va_S (wA G) s.heap s.heap [] := va_S.rf
  have hl := lv_entry ([.ref t0, .int p1, .int p2]) (n := 3) (Nat.le_of_ble_eq_true rfl)
  rw [lg_entry_eq]
  generalize (lg_sl ([.ref t0, .int p1, .int p2]) ++ List.replicate (3 - (lg_sl ([.ref t0, .int p1, .int p2])).length) Slot.unset).toArray = ls at hl ⊢
  have hl : lv_has ls 3 [(0, .ref t0), (1, .int p1), (2, .int p2)] := hl
  have hB : 0 + b ≤ ((headSpec (ws_ yX2_takeHours cX2_takeHours 3 (none)) ({ frames := 16, cells := b, slots := b, locals := 489 })).room).cells ∧ 0 + b ≤ ((headSpec (ws_ yX2_takeHours cX2_takeHours 3 (none)) ({ frames := 16, cells := b, slots := b, locals := 489 })).room).slots := ⟨Nat.le_of_eq (Nat.zero_add b), Nat.le_of_eq (Nat.zero_add b)⟩
  refine lv_aload_n hx hb dX2_takeHours_0 rfl (lv_at hl 0 rfl) ?_
  refine x_getA X hC.1 hM (ci := 1) (C := RX2) (T := TX2) (N := 9) rfl in_X2 7 (by decide) q931 (fun _ h9 => h9) dX2_takeHours_1 hp (fun a1 hp => ?_)
  refine lv_iload_n hx hb dX2_takeHours_4 rfl (lv_at hl 1 rfl) ?_
  refine x_iald X hC.1 hM dX2_takeHours_5 hp (fun v2 hp => ?_)
  refine lv_iload_n hx hb dX2_takeHours_6 rfl (lv_at hl 2 rfl) ?_
  refine lv_icmp_ge (tgt := 18) hx hb dX2_takeHours_7 (by decide) (fun hc => ?_) (fun hc => ?_)
  · have hp := oIf.t hp hc
    refine lv_aload_n hx hb dX2_takeHours_18 rfl (lv_at hl 0 rfl) ?_
    refine x_getA X hC.1 hM (ci := 1) (C := RX2) (T := TX2) (N := 9) rfl in_X2 7 (by decide) q931 (fun _ h9 => h9) dX2_takeHours_19 hp (fun a3 hp => ?_)
    refine lv_iload_n hx hb dX2_takeHours_22 rfl (lv_at hl 1 rfl) ?_
    refine lv_dup2_11 hx hb dX2_takeHours_23 rfl rfl ?_
    refine x_iald X hC.1 hM dX2_takeHours_24 hp (fun v4 hp => ?_)
    refine lv_iload_n hx hb dX2_takeHours_25 rfl (lv_at hl 2 rfl) ?_
    refine lv_isub hx hb dX2_takeHours_26 ?_
    refine x_iast X hC.1 hM hS dX2_takeHours_27 hp (fun M5 H locs hM hS hp => ?_)
    exact x_vret X hr hlk hM hS (w_fin hB) dX2_takeHours_28 ⟨rfl, hp⟩
  · have hp := oIf.f hp hc
    refine x_new X hC hM hS hB (ci := 13) (C := RX17) (T := TX17) (N := 6) rfl in_X17 tyX17 tyX17_ok q2728 q2729 q207 rfl (by decide) dX2_takeHours_10 hp (fun a6 M7 H b8 cells slots hM hS hB hp => ?_)
    refine lv_dup hx hb dX2_takeHours_13 rfl ?_
    refine x_call0V (vx_runI (As := []) (rest := [.ref a6]) X (P_X17_init_ok (l := l) hl0 hp) (cwI 0 hts (lw_meth q2739) rfl rfl rfl (hts _ q207) (hts _ q2737) (hts _ q2738) rfl (by decide +kernel) ⟨Nat.le_of_ble_eq_true rfl, Nat.le_of_ble_eq_true rfl⟩) ⟨wPc.blind, w_pre hC hM hS _⟩ rfl rfl hl.1 rfl (lv_room (Nat.le_of_ble_eq_true rfl)) dX2_takeHours_14 (w_room0 hB)) hS (w_room0 hB) (fun _ _ _ _ _ _ h => False.elim h) (fun M9 H locs hp hM hS => ?_)
    refine vx_athrow hx hb dX2_takeHours_17 ?_
    obtain ⟨ce, h1, h2, h3⟩ := w_exc hC.1 hM (ci := 13) (q := (RX17, TX17, 6)) rfl hp.1 hp.2.1
    exact x_out hlk (fun x h => (hnt x h).elim) hM hS (w_fin hB) h1 h2 h3 hp.2.2
def B_X1_extend_100 (G : wG) (Q : Int32 → wM → Prop) (Xp : String → Nat → wM → Prop) (y0 : Nat) (M : wM) (bq : Nat) : Prop :=
  7 ≤ bq ∧ ∀ q : Nat, Xp "java/lang/IllegalStateException" q M
def B_X1_extend_45 (G : wG) (Q : Int32 → wM → Prop) (Xp : String → Nat → wM → Prop) (x0 : Nat) (x1 : Int32) (x2 : Int32) (y0 : Int32) (M : wM) (bq : Nat) : Prop :=
  ∃ c2, c2 ≤ bq ∧ P_X1_checkState G y0 c2 M (fun M1 => oIs M1 x0 0 (∃ c4, c4 ≤ (bq - c2) ∧ P_X1_remember G x0 c4 M1 (fun M3 => oGetA M3 x0 0 0 (fun a5 => oGetA M3 a5 1 2 (fun a6 => oIs M3 a6 16 (P_J2_get G a6 x1 M3 (fun r9 M7 => oCast M7 r9 10 (oGetA M7 x0 0 0 (fun a10 => oRef r9 (fun a11 => oGetI M7 a11 10 0 (fun v12 => oIs M7 a10 1 (∃ c14, c14 ≤ ((bq - c2) - c4) ∧ P_X2_takeHours G a10 v12 x2 c14 M7 (fun M13 => oGetI M13 a11 10 3 (fun v15 => P_X10_hours G x2 M13 (fun v18 M16 => oPut G M16 a11 10 3 (.int (v15 + v18)) (fun M19 => oGetI M19 a11 10 3 (fun v20 => Q v20 M19))))) (fun E q21 M22 => (E = "ParkingOffice$NoHours" ∧ (B_X1_extend_100 G Q Xp q21 M22 (((bq - c2) - c4) - c14)))))))))))))))) (fun E q23 M24 => (E = "java/lang/IllegalStateException" ∧ Xp E q23 M24))
def B_X1_extend_44 (G : wG) (Q : Int32 → wM → Prop) (Xp : String → Nat → wM → Prop) (x0 : Nat) (x1 : Int32) (x2 : Int32) (M : wM) (bq : Nat) : Prop :=
  B_X1_extend_45 G Q Xp x0 x1 x2 (0 : Int32) M bq
def P_X1_extend (G : wG) (t0 : Nat) (p1 : Int32) (p2 : Int32) (b : Nat) (M : wM) (Q : Int32 → wM → Prop) (Xp : String → Nat → wM → Prop) : Prop :=
  oIs M t0 0 (∃ c2, c2 ≤ b ∧ P_X1_visitAt G t0 p1 c2 M (fun r3 M1 => ∃ c5, c5 ≤ (b - c2) ∧ P_X1_checkHours G p2 c5 M1 (fun M4 => oGetA M4 t0 0 0 (fun a6 => oGetI M4 a6 1 8 (fun v7 => oRef r3 (fun a8 => oIs M4 a8 10 (P_X10_runs_X13 G a8 v7 M4 (fun r11 M9 => oIf (r11 = true) (oGetA M9 t0 0 0 (fun a12 => oGetA M9 a12 1 7 (fun a13 => oGetI M9 a8 10 0 (fun v14 => oIald .int M9 a13 v14 (fun v15 => oIf (v15 < p2) (B_X1_extend_44 G Q Xp t0 p1 p2 M9 ((b - c2) - c5)) (B_X1_extend_45 G Q Xp t0 p1 p2 (1 : Int32) M9 ((b - c2) - c5))))))) (B_X1_extend_44 G Q Xp t0 p1 p2 M9 ((b - c2) - c5)))))))) (fun E q16 M17 => (E = "java/lang/IllegalArgumentException" ∧ Xp E q16 M17))) (fun E q18 M19 => (E = "java/lang/IndexOutOfBoundsException" ∧ Xp E q18 M19)))
set_option maxHeartbeats 4000000 in
set_option maxRecDepth 100000 in
theorem P_X1_extend_ok {l : Launch} (hl0 : l.stackTraces = false) {G : wG} {t0 : Nat} {p1 : Int32} {p2 : Int32} {b : Nat} {M : wM} {Q : Int32 → wM → Prop} {Xp : String → Nat → wM → Prop} (hp : P_X1_extend G t0 p1 p2 b M Q Xp) : wMet l yX1_extend (wsW_ yX1_extend cX1_extend 6 (Option.some Jvm.ClassFile.FieldType.int) [((70 : Nat), (97 : Nat), (100 : Nat), (439 : Nat))]) 20 575 G [.ref t0, .int p1, .int p2] M b (wqI Q) Xp := by
  refine vx_ofWH (cc := cX1_extend) (maxL := 6) (ret := Option.some Jvm.ClassFile.FieldType.int) (hh := [((70 : Nat), (97 : Nat), (100 : Nat), (439 : Nat))]) (by decide) rfl ?_
  intro p e s m args below meth c s₁ B hml hv
  obtain ⟨rfl, hM, hK, hZ, hz⟩ := hv
  have hC : wC G s := ⟨hK, hZ, hz⟩
  have hx := B.exec
  have hb := B.bytes
  have hr := B.returns
  have hts := atoms_spec (ws := (wsW_ yX1_extend cX1_extend 6 (Option.some Jvm.ClassFile.FieldType.int) [((70 : Nat), (97 : Nat), (100 : Nat), (439 : Nat))])) B.pre
  have htab := vx_table (x := yX1_extend) B (hts _ List.mem_cons_self)
  have hts : ∀ w ∈ lw_all, w.before _ s = true := fun w h => hts w (List.mem_cons_of_mem _ h)
  have hown : s.vm.findClass RX1 = some m.cls := findClass_of_methodNamed B.named
  have hlk := B.notSynchronized
  have X : CallFix p m c cX1_extend 6 s ([.ref t0, .int p1, .int p2] : List Value).toArray lw_all RX1 := ⟨hx, hb, hml, hown, hts⟩
  have hS : va_S (wA G) s.heap s.heap [] := va_S.rf
  have hl := lv_entry ([.ref t0, .int p1, .int p2]) (n := 6) (Nat.le_of_ble_eq_true rfl)
  rw [lg_entry_eq]
  generalize (lg_sl ([.ref t0, .int p1, .int p2]) ++ List.replicate (6 - (lg_sl ([.ref t0, .int p1, .int p2])).length) Slot.unset).toArray = ls at hl ⊢
  have hl : lv_has ls 6 [(0, .ref t0), (1, .int p1), (2, .int p2)] := hl
  have hB : 0 + b ≤ ((headSpec (wsW_ yX1_extend cX1_extend 6 (Option.some Jvm.ClassFile.FieldType.int) [((70 : Nat), (97 : Nat), (100 : Nat), (439 : Nat))]) ({ frames := 20, cells := b, slots := b, locals := 575 })).room).cells ∧ 0 + b ≤ ((headSpec (wsW_ yX1_extend cX1_extend 6 (Option.some Jvm.ClassFile.FieldType.int) [((70 : Nat), (97 : Nat), (100 : Nat), (439 : Nat))]) ({ frames := 20, cells := b, slots := b, locals := 575 })).room).slots := ⟨Nat.le_of_eq (Nat.zero_add b), Nat.le_of_eq (Nat.zero_add b)⟩
  have hB100 : ∀ (y0 : Nat) (M : wM) (bq : Nat) (H : Heap) (locs : List Loc) (ls : Array Slot) (cells slots : Nat), B_X1_extend_100 G Q Xp y0 M bq → wR G M H → va_S (wA G) s.heap H locs → (cells + bq ≤ ((headSpec (wsW_ yX1_extend cX1_extend 6 (Option.some Jvm.ClassFile.FieldType.int) [((70 : Nat), (97 : Nat), (100 : Nat), (439 : Nat))]) ({ frames := 20, cells := b, slots := b, locals := 575 })).room).cells ∧ slots + bq ≤ ((headSpec (wsW_ yX1_extend cX1_extend 6 (Option.some Jvm.ClassFile.FieldType.int) [((70 : Nat), (97 : Nat), (100 : Nat), (439 : Nat))]) ({ frames := 20, cells := b, slots := b, locals := 575 })).room).slots) → lv_has ls 6 [] → W p l e (headSpec (wsW_ yX1_extend cX1_extend 6 (Option.some Jvm.ClassFile.FieldType.int) [((70 : Nat), (97 : Nat), (100 : Nat), (439 : Nat))]) ({ frames := 20, cells := b, slots := b, locals := 575 })).room s m ([.ref t0, .int p1, .int p2] : List Value).toArray below meth c H locs cells slots (vx_MQ below (wQ G (wqI Q)) (wXC G Xp) ([.ref t0, .int p1, .int p2] : List Value).toArray s b b (wA G)) (F0 m 100 ls [.ref y0]) := by
    intro y0 M bq H locs ls cells slots hp hM hS hB hl
    refine lv_astore (lv' := [(5, .ref y0)]) hx hb dX1_extend_100 hl (by decide) rfl (fun ls hl => ?_)
    exact x_throw0 X hC hl0 hM hS hB ⟨Nat.le_refl _, Nat.le_refl _⟩ (by decide +kernel) (by decide +kernel) q2674 q200 vg_X1_IllegalStateException (w_recat hts hC.1 vt_X1_IllegalStateException) (hl.1.trans hml.symm) dX1_extend_102 dX1_extend_105 dX1_extend_106 dX1_extend_109 (by rw [htab]; decide) (Nat.le_of_ble_eq_true rfl) (Nat.le_of_ble_eq_true rfl) hlk hp.1 hp.2
  have hB45 : ∀ (x0 : Nat) (x1 : Int32) (x2 : Int32) (y0 : Int32) (M : wM) (bq : Nat) (H : Heap) (locs : List Loc) (ls : Array Slot) (cells slots : Nat), B_X1_extend_45 G Q Xp x0 x1 x2 y0 M bq → wR G M H → va_S (wA G) s.heap H locs → (cells + bq ≤ ((headSpec (wsW_ yX1_extend cX1_extend 6 (Option.some Jvm.ClassFile.FieldType.int) [((70 : Nat), (97 : Nat), (100 : Nat), (439 : Nat))]) ({ frames := 20, cells := b, slots := b, locals := 575 })).room).cells ∧ slots + bq ≤ ((headSpec (wsW_ yX1_extend cX1_extend 6 (Option.some Jvm.ClassFile.FieldType.int) [((70 : Nat), (97 : Nat), (100 : Nat), (439 : Nat))]) ({ frames := 20, cells := b, slots := b, locals := 575 })).room).slots) → lv_has ls 6 [(0, .ref x0), (1, .int x1), (2, .int x2)] → W p l e (headSpec (wsW_ yX1_extend cX1_extend 6 (Option.some Jvm.ClassFile.FieldType.int) [((70 : Nat), (97 : Nat), (100 : Nat), (439 : Nat))]) ({ frames := 20, cells := b, slots := b, locals := 575 })).room s m ([.ref t0, .int p1, .int p2] : List Value).toArray below meth c H locs cells slots (vx_MQ below (wQ G (wqI Q)) (wXC G Xp) ([.ref t0, .int p1, .int p2] : List Value).toArray s b b (wA G)) (F0 m 45 ls [.int y0]) := by
    intro x0 x1 x2 y0 M bq H locs ls cells slots hp hM hS hB hl
    obtain ⟨c2, hc1, hp⟩ := hp
    refine x_callV (vx_runS (As := [.int y0]) (rest := []) X (P_X1_checkState_ok (l := l) hl0 hp) (va_cwS 1 hts (lw_S q2690 q2691 q148 q2692) rfl rfl rfl (by decide +kernel) ⟨Nat.le_of_ble_eq_true rfl, Nat.le_of_ble_eq_true rfl⟩) ⟨wPc.blind, w_pre hC hM hS _⟩ rfl rfl hl.1 rfl (lv_room (Nat.le_of_ble_eq_true rfl)) dX1_extend_45 (w_room hB hc1)) hS hB hc1 (fun E ce q23 M24 H locs hp hM hS hB hcell hcv hcl => ?_) (fun M1 H locs hp hM hS hB => ?_)
    · obtain ⟨rfl, hp⟩ := hp
      exact x_out hlk (by rw [htab]; decide) hM hS (w_fin hB) hcell hcv hcl hp
    · refine lv_aload_n hx hb dX1_extend_48 rfl (lv_at hl 0 rfl) ?_
      obtain ⟨hrec, hp⟩ := hp
      obtain ⟨c4, hc1, hp⟩ := hp
      refine x_callV (vx_runV (As := []) (rest := []) X (P_X1_remember_ok (l := l) hl0 hp) (cwV 0 hts (lw_V q2543 q2545 qs49 q148 q2546) rfl rfl rfl (by decide +kernel) ⟨Nat.le_of_ble_eq_true rfl, Nat.le_of_ble_eq_true rfl⟩) ⟨wPc.blind, w_recv hC.1 hM (ci := 0) (q := (RX1, TX1, 8)) rfl hrec, w_pre hC hM hS _⟩ rfl rfl hl.1 rfl (lv_room (Nat.le_of_ble_eq_true rfl)) dX1_extend_49 (w_room hB hc1)) hS hB hc1 (fun _ _ _ _ _ _ h => False.elim h) (fun M3 H locs hp hM hS hB => ?_)
      refine lv_aload_n hx hb dX1_extend_52 rfl (lv_at hl 0 rfl) ?_
      refine x_getA X hC.1 hM (ci := 0) (C := RX1) (T := TX1) (N := 8) rfl in_X1 0 (by decide) q973 (fun _ h9 => h9) dX1_extend_53 hp (fun a5 hp => ?_)
      refine x_getAN X hC.1 hM (ci := 1) (C := RX2) (T := TX2) (N := 9) rfl in_X2 2 (by decide) q922 (fun _ h9 => h9) dX1_extend_56 hp (fun a6 hp => ?_)
      refine lv_iload_n hx hb dX1_extend_59 rfl (lv_at hl 1 rfl) ?_
      obtain ⟨hrec, hp⟩ := hp
      refine x_call0R5 (vx_runF (hC.1.1.1 16 (RJ2, TJ2, 3) rfl).2 (C := "java/util/ArrayList") (As := [.int x1]) (rest := []) X (P_J2_get_ok (l := l) hl0 hp) (va_cwF 1 hts (lw_app (w_mem4 q1667 q522 q524 q153) (lw_meth q526)) rfl rfl rfl (wfw_8 hC.1) (by decide +kernel) ⟨Nat.le_of_ble_eq_true rfl, Nat.le_of_ble_eq_true rfl⟩) ⟨wPc.blind, w_recv hC.1 hM (ci := 16) (q := (RJ2, TJ2, 3)) rfl hrec, w_pre hC hM hS _⟩ rfl rfl hl.1 rfl (lv_room (Nat.le_of_ble_eq_true rfl)) dX1_extend_60 (w_room0 hB)) hS (w_room0 hB) (fun _ _ _ _ _ _ h => False.elim h) (fun r9 M7 H locs hp hM hS => ?_)
      refine x_cast (r := r9) X hC.1 hM q2434 (ci := 10) rfl (Or.inl rfl) dX1_extend_65 hp (fun hp => ?_)
      refine x_astore (r := r9) (lv' := [(4, va_rf r9), (0, .ref x0), (1, .int x1), (2, .int x2)]) hx hb dX1_extend_68 hl (by decide) rfl (fun ls hl => ?_)
      refine lv_aload_n hx hb dX1_extend_70 rfl (lv_at hl 1 rfl) ?_
      refine x_getA X hC.1 hM (ci := 0) (C := RX1) (T := TX1) (N := 8) rfl in_X1 0 (by decide) q973 (fun _ h9 => h9) dX1_extend_71 hp (fun a10 hp => ?_)
      refine x_aload (r := r9) hx hb dX1_extend_74 (lv_at hl 0 rfl) ?_
      obtain ⟨a11, ea, hqa11⟩ := hp
      subst ea
      have hp := hqa11
      have hl : lv_has ls 6 [(4, .ref a11), (0, .ref x0), (1, .int x1), (2, .int x2)] := hl
      refine x_getI X hC.1 hM (ci := 10) (C := RX13) (T := TX13) (N := 4) rfl in_X13 0 (by decide) q2108 (fun x9 h9 => u_same (hts _ q2104) x9 h9) dX1_extend_76 hp (fun v12 hp => ?_)
      refine lv_iload_n hx hb dX1_extend_79 rfl (lv_at hl 3 rfl) ?_
      obtain ⟨hrec, hp⟩ := hp
      obtain ⟨c14, hc1, hp⟩ := hp
      refine x_callV (vx_runV (As := [.int v12, .int x2]) (rest := []) X (P_X2_takeHours_ok (l := l) hl0 hp) (cwV 2 hts (lw_V q2752 q2753 q2754 q149 q2755) rfl rfl rfl (by decide +kernel) ⟨Nat.le_of_ble_eq_true rfl, Nat.le_of_ble_eq_true rfl⟩) ⟨wPc.blind, w_recv hC.1 hM (ci := 1) (q := (RX2, TX2, 9)) rfl hrec, w_pre hC hM hS _⟩ rfl rfl hl.1 rfl (lv_room (Nat.le_of_ble_eq_true rfl)) dX1_extend_80 (w_room hB hc1)) hS hB hc1 (fun E ce q21 M22 H locs hp hM hS hB hcell hcv hcl => ?_) (fun M13 H locs hp hM hS hB => ?_)
      · obtain ⟨rfl, hp⟩ := hp
        refine vx_catch (own := "ParkingOffice") (name := "ParkingOffice$NoHours") (E := "ParkingOffice$NoHours") hown [] ⟨70, 97, 100, 439⟩ [] (by rw [htab]; rfl) (fun _ h => absurd h List.not_mem_nil) (by decide) (by decide) (hts _ q2715) (va_Nw.use rfl (hC.1.2.2.1 _ q2730 rfl)) hcell hcv hcl ?_
        exact hB100 _ _ _ _ _ _ _ _ hp hM hS hB (lv_sub hl [] rfl)
      · refine lv_aload hx hb dX1_extend_83 (lv_at hl 0 rfl) ?_
        refine lv_dup hx hb dX1_extend_85 rfl ?_
        refine x_getIN X hC.1 hM (ci := 10) (C := RX13) (T := TX13) (N := 4) rfl in_X13 3 (by decide) q2152 (fun _ h9 => h9) dX1_extend_86 hp (fun v15 hp => ?_)
        refine lv_iload_n hx hb dX1_extend_89 rfl (lv_at hl 3 rfl) ?_
        refine x_call0I (vx_runS (As := [.int x2]) (rest := [.int v15, .ref a11]) X (P_X10_hours_ok (l := l) hl0 hp) (va_cwS 1 hts (lw_S q2743 q2298 q197 q2299) rfl rfl rfl (by decide +kernel) ⟨Nat.le_of_ble_eq_true rfl, Nat.le_of_ble_eq_true rfl⟩) ⟨wPc.blind, w_pre hC hM hS _⟩ rfl rfl hl.1 rfl (lv_room (Nat.le_of_ble_eq_true rfl)) dX1_extend_90 (w_room0 hB)) hS (w_room0 hB) (fun _ _ _ _ _ _ h => False.elim h) (fun v18 M16 H locs hp hM hS => ?_)
        refine lv_iadd hx hb dX1_extend_93 ?_
        refine x_putN X hC.1 hM hS (ci := 10) (C := RX13) (T := TX13) (N := 4) rfl in_X13 tyX13 tyX13_ok nmX13 3 (by decide) q2152 (fun _ h9 => h9) rfl rfl rfl dX1_extend_94 hp (fun M19 H locs hM hS hp => ?_)
        refine lv_goto (tgt := 110) hx hb dX1_extend_97 (by decide) ?_
        refine lv_aload hx hb dX1_extend_110 (lv_at hl 0 rfl) ?_
        refine x_getIN X hC.1 hM (ci := 10) (C := RX13) (T := TX13) (N := 4) rfl in_X13 3 (by decide) q2152 (fun _ h9 => h9) dX1_extend_112 hp (fun v20 hp => ?_)
        exact x_iret X hr hlk hM hS (w_fin hB) dX1_extend_115 ⟨_, rfl, hp⟩
  have hB44 : ∀ (x0 : Nat) (x1 : Int32) (x2 : Int32) (M : wM) (bq : Nat) (H : Heap) (locs : List Loc) (ls : Array Slot) (cells slots : Nat), B_X1_extend_44 G Q Xp x0 x1 x2 M bq → wR G M H → va_S (wA G) s.heap H locs → (cells + bq ≤ ((headSpec (wsW_ yX1_extend cX1_extend 6 (Option.some Jvm.ClassFile.FieldType.int) [((70 : Nat), (97 : Nat), (100 : Nat), (439 : Nat))]) ({ frames := 20, cells := b, slots := b, locals := 575 })).room).cells ∧ slots + bq ≤ ((headSpec (wsW_ yX1_extend cX1_extend 6 (Option.some Jvm.ClassFile.FieldType.int) [((70 : Nat), (97 : Nat), (100 : Nat), (439 : Nat))]) ({ frames := 20, cells := b, slots := b, locals := 575 })).room).slots) → lv_has ls 6 [(0, .ref x0), (1, .int x1), (2, .int x2)] → W p l e (headSpec (wsW_ yX1_extend cX1_extend 6 (Option.some Jvm.ClassFile.FieldType.int) [((70 : Nat), (97 : Nat), (100 : Nat), (439 : Nat))]) ({ frames := 20, cells := b, slots := b, locals := 575 })).room s m ([.ref t0, .int p1, .int p2] : List Value).toArray below meth c H locs cells slots (vx_MQ below (wQ G (wqI Q)) (wXC G Xp) ([.ref t0, .int p1, .int p2] : List Value).toArray s b b (wA G)) (F0 m 44 ls []) := by
    intro x0 x1 x2 M bq H locs ls cells slots hp hM hS hB hl
    refine lv_iconst (v := 0) hx hb dX1_extend_44 (by decide) ?_
    exact hB45 _ _ _ _ _ _ _ _ _ _ _ hp hM hS hB (lv_sub hl [0, 1, 2] rfl)
  refine lv_aload_n hx hb dX1_extend_0 rfl (lv_at hl 0 rfl) ?_
  refine lv_iload_n hx hb dX1_extend_1 rfl (lv_at hl 1 rfl) ?_
  obtain ⟨hrec, hp⟩ := hp
  obtain ⟨c2, hc1, hp⟩ := hp
  refine x_callR (vx_runV (As := [.int p1]) (rest := []) X (P_X1_visitAt_ok (l := l) hl0 hp) (cwV 1 hts (lw_V q2430 q2432 qs43 q148 q2433) rfl rfl rfl (by decide +kernel) ⟨Nat.le_of_ble_eq_true rfl, Nat.le_of_ble_eq_true rfl⟩) ⟨wPc.blind, w_recv hC.1 hM (ci := 0) (q := (RX1, TX1, 8)) rfl hrec, w_pre hC hM hS _⟩ rfl rfl hl.1 rfl (lv_room (Nat.le_of_ble_eq_true rfl)) dX1_extend_2 (w_room hB hc1)) hS hB hc1 (fun E ce q18 M19 H locs hp hM hS hB hcell hcv hcl => ?_) (fun r3 M1 H locs hp hM hS hB => ?_)
  · obtain ⟨rfl, hp⟩ := hp
    exact x_out hlk (by rw [htab]; decide) hM hS (w_fin hB) hcell hcv hcl hp
  · refine x_astore_n (r := r3) (lv' := [(3, va_rf r3), (0, .ref t0), (1, .int p1), (2, .int p2)]) hx hb dX1_extend_5 rfl hl (by decide) rfl (fun ls hl => ?_)
    refine lv_iload_n hx hb dX1_extend_6 rfl (lv_at hl 3 rfl) ?_
    obtain ⟨c5, hc1, hp⟩ := hp
    refine x_callV (vx_runS (As := [.int p2]) (rest := []) X (P_X1_checkHours_ok (l := l) hl0 hp) (va_cwS 1 hts (lw_S q2716 q2717 q148 q2718) rfl rfl rfl (by decide +kernel) ⟨Nat.le_of_ble_eq_true rfl, Nat.le_of_ble_eq_true rfl⟩) ⟨wPc.blind, w_pre hC hM hS _⟩ rfl rfl hl.1 rfl (lv_room (Nat.le_of_ble_eq_true rfl)) dX1_extend_7 (w_room hB hc1)) hS hB hc1 (fun E ce q16 M17 H locs hp hM hS hB hcell hcv hcl => ?_) (fun M4 H locs hp hM hS hB => ?_)
    · obtain ⟨rfl, hp⟩ := hp
      exact x_out hlk (by rw [htab]; decide) hM hS (w_fin hB) hcell hcv hcl hp
    · refine x_aload_n (r := r3) hx hb dX1_extend_10 rfl (lv_at hl 0 rfl) ?_
      refine lv_aload_n hx hb dX1_extend_11 rfl (lv_at hl 1 rfl) ?_
      refine x_getA X hC.1 hM (ci := 0) (C := RX1) (T := TX1) (N := 8) rfl in_X1 0 (by decide) q973 (fun _ h9 => h9) dX1_extend_12 hp (fun a6 hp => ?_)
      refine x_getIN X hC.1 hM (ci := 1) (C := RX2) (T := TX2) (N := 9) rfl in_X2 8 (by decide) q934 (fun _ h9 => h9) dX1_extend_15 hp (fun v7 hp => ?_)
      obtain ⟨a8, ea, hqa8⟩ := hp
      subst ea
      have hp := hqa8
      have hl : lv_has ls 6 [(3, .ref a8), (0, .ref t0), (1, .int p1), (2, .int p2)] := hl
      obtain ⟨hrec, hp⟩ := hp
      refine x_call0Z (w_runD (C := "ParkingOffice$Visit") hC (As := [.int v7]) (rest := []) X (P_X10_runs_X13_ok (l := l) hl0 hp) q2280 q2278 q197 q2276 (Or.inl rfl) (List.mem_of_getElem? (i := 4) rfl) (List.mem_of_getElem? (i := 3) rfl) rfl rfl ⟨Nat.le_of_ble_eq_true rfl, Nat.le_of_ble_eq_true rfl⟩ ⟨wPc.blind, w_recv hC.1 hM (ci := 10) (q := (RX13, TX13, 4)) rfl hrec, w_pre hC hM hS _⟩ rfl rfl hl.1 rfl (lv_room (Nat.le_of_ble_eq_true rfl)) dX1_extend_18 (w_room0 hB)) hS (w_room0 hB) (fun _ _ _ _ _ _ h => False.elim h) (fun r11 M9 H locs hp hM hS => ?_)
      refine x_ifeqB (tgt := 44) hx hb dX1_extend_21 (by decide) (fun hc => ?_) (fun hc => ?_)
      · have hp := oIf.bf hp hc
        exact hB44 _ _ _ _ _ _ _ _ _ _ hp hM hS hB (lv_sub hl [1, 2, 3] rfl)
      · have hp := oIf.bt hp hc
        refine lv_aload_n hx hb dX1_extend_24 rfl (lv_at hl 1 rfl) ?_
        refine x_getA X hC.1 hM (ci := 0) (C := RX1) (T := TX1) (N := 8) rfl in_X1 0 (by decide) q973 (fun _ h9 => h9) dX1_extend_25 hp (fun a12 hp => ?_)
        refine x_getAN X hC.1 hM (ci := 1) (C := RX2) (T := TX2) (N := 9) rfl in_X2 7 (by decide) q932 (fun _ h9 => h9) dX1_extend_28 hp (fun a13 hp => ?_)
        refine lv_aload_n hx hb dX1_extend_31 rfl (lv_at hl 0 rfl) ?_
        refine x_getI X hC.1 hM (ci := 10) (C := RX13) (T := TX13) (N := 4) rfl in_X13 0 (by decide) q2108 (fun x9 h9 => u_same (hts _ q2104) x9 h9) dX1_extend_32 hp (fun v14 hp => ?_)
        refine x_iald X hC.1 hM dX1_extend_35 hp (fun v15 hp => ?_)
        refine lv_iload_n hx hb dX1_extend_36 rfl (lv_at hl 3 rfl) ?_
        refine lv_icmp_lt (tgt := 44) hx hb dX1_extend_37 (by decide) (fun hc => ?_) (fun hc => ?_)
        · have hp := oIf.t hp hc
          exact hB44 _ _ _ _ _ _ _ _ _ _ hp hM hS hB (lv_sub hl [1, 2, 3] rfl)
        · have hp := oIf.f hp hc
          refine lv_iconst (v := 1) hx hb dX1_extend_40 (by decide) ?_
          refine lv_goto (tgt := 45) hx hb dX1_extend_41 (by decide) ?_
          exact hB45 _ _ _ _ _ _ _ _ _ _ _ hp hM hS hB (lv_sub hl [1, 2, 3] rfl)
def B_X1_append_3 (G : wG) (rec3 : Nat → Int32 → Int32 → wM → Prop) (Q : wM → Prop) (x0 : Nat) (x1 : Int32) (x2 : Int32) (M : wM) : Prop :=
  oIf (x2 < 0) (Q M) (oGetA M x0 0 3 (fun a1 => oGetI M x0 0 4 (fun v2 => oBast G M a1 v2 (((x1.toUInt32 >>> (x2.toUInt32 &&& Int32.toUInt32 31)).toInt32).toInt8.toInt32) (fun M3 => oGetI M3 x0 0 4 (fun v4 => oPut G M3 x0 0 4 (.int (v4 + (1 : Int32))) (fun M5 => rec3 x0 x1 (x2 + (-8)) M5))))))
def L_X1_append_3 (G : wG) (Q : wM → Prop) : Nat → Nat → Int32 → Int32 → wM → Prop
  | 0 => fun _ _ _ _ => False
  | n + 1 => B_X1_append_3 G (L_X1_append_3 G Q n) Q
def P_X1_append (G : wG) (t0 : Nat) (p1 : Int32) (M : wM) (Q : wM → Prop) : Prop :=
  ∃ n, L_X1_append_3 G Q n t0 p1 (24 : Int32) M
set_option maxHeartbeats 4000000 in
set_option maxRecDepth 100000 in
theorem P_X1_append_ok {l : Launch} (hl0 : l.stackTraces = false) {G : wG} {t0 : Nat} {p1 : Int32} {M : wM} {Q : wM → Prop} (hp : P_X1_append G t0 p1 M Q) : wMet l yX1_append (ws_ yX1_append cX1_append 3 (none)) 12 400 G [.ref t0, .int p1] M 0 (wqV Q) wX0 := by
  refine vx_ofW (cc := cX1_append) (maxL := 3) (ret := none) (by decide) rfl ?_
  intro p e s m args below meth c s₁ B hml hnt hv
  obtain ⟨rfl, hM, hK, hZ, hz⟩ := hv
  have hC : wC G s := ⟨hK, hZ, hz⟩
  have hx := B.exec
  have hb := B.bytes
  have hr := B.returns
  have hts := atoms_spec (ws := (ws_ yX1_append cX1_append 3 (none))) B.pre
  have hts : ∀ w ∈ lw_all, w.before _ s = true := fun w h => hts w (List.mem_cons_of_mem _ h)
  have hown : s.vm.findClass RX1 = some m.cls := findClass_of_methodNamed B.named
  have hlk := B.notSynchronized
  have X : CallFix p m c cX1_append 3 s ([.ref t0, .int p1] : List Value).toArray lw_all RX1 := ⟨hx, hb, hml, hown, hts⟩
  have hS : va_S (wA G) s.heap s.heap [] := va_S.rf
  have hl := lv_entry ([.ref t0, .int p1]) (n := 3) (Nat.le_of_ble_eq_true rfl)
  rw [lg_entry_eq]
  generalize (lg_sl ([.ref t0, .int p1]) ++ List.replicate (3 - (lg_sl ([.ref t0, .int p1])).length) Slot.unset).toArray = ls at hl ⊢
  have hl : lv_has ls 3 [(0, .ref t0), (1, .int p1)] := hl
  have hB3 : ∀ (rec3 : Nat → Int32 → Int32 → wM → Prop) (hrec3 : ∀ (x0 : Nat) (x1 : Int32) (x2 : Int32) (M : wM) (H : Heap) (locs : List Loc) (ls : Array Slot), rec3 x0 x1 x2 M → wR G M H → va_S (wA G) s.heap H locs → lv_has ls 3 [(0, .ref x0), (1, .int x1), (2, .int x2)] → W p l e (headSpec (ws_ yX1_append cX1_append 3 (none)) ({ frames := 12, cells := 0, slots := 0, locals := 400 })).room s m ([.ref t0, .int p1] : List Value).toArray below meth c H locs 0 0 (vx_MQ below (wQ G (wqV Q)) (wXC G wX0) ([.ref t0, .int p1] : List Value).toArray s 0 0 (wA G)) (F0 m 3 ls [])), ∀ (x0 : Nat) (x1 : Int32) (x2 : Int32) (M : wM) (H : Heap) (locs : List Loc) (ls : Array Slot), B_X1_append_3 G rec3 Q x0 x1 x2 M → wR G M H → va_S (wA G) s.heap H locs → lv_has ls 3 [(0, .ref x0), (1, .int x1), (2, .int x2)] → W p l e (headSpec (ws_ yX1_append cX1_append 3 (none)) ({ frames := 12, cells := 0, slots := 0, locals := 400 })).room s m ([.ref t0, .int p1] : List Value).toArray below meth c H locs 0 0 (vx_MQ below (wQ G (wqV Q)) (wXC G wX0) ([.ref t0, .int p1] : List Value).toArray s 0 0 (wA G)) (F0 m 3 ls []) := by
    intro rec3 hrec3 x0 x1 x2 M H locs ls hp hM hS hl
    refine lv_iload_n hx hb dX1_append_3 rfl (lv_at hl 2 rfl) ?_
    refine lv_if_lt (tgt := 36) hx hb dX1_append_4 (by decide) (fun hc => ?_) (fun hc => ?_)
    · have hp := oIf.t hp hc
      exact x_vret X hr hlk hM hS ⟨Nat.le_refl _, Nat.le_refl _⟩ dX1_append_36 ⟨rfl, hp⟩
    · have hp := oIf.f hp hc
      refine lv_aload_n hx hb dX1_append_7 rfl (lv_at hl 0 rfl) ?_
      refine x_getA X hC.1 hM (ci := 0) (C := RX1) (T := TX1) (N := 8) rfl in_X1 3 (by decide) q976 (fun _ h9 => h9) dX1_append_8 hp (fun a1 hp => ?_)
      refine lv_aload_n hx hb dX1_append_11 rfl (lv_at hl 0 rfl) ?_
      refine x_getI X hC.1 hM (ci := 0) (C := RX1) (T := TX1) (N := 8) rfl in_X1 4 (by decide) q979 (fun _ h9 => h9) dX1_append_12 hp (fun v2 hp => ?_)
      refine lv_iload_n hx hb dX1_append_15 rfl (lv_at hl 1 rfl) ?_
      refine lv_iload_n hx hb dX1_append_16 rfl (lv_at hl 2 rfl) ?_
      refine lv_iushr (v := ((x1.toUInt32 >>> (x2.toUInt32 &&& Int32.toUInt32 31)).toInt32)) hx hb dX1_append_17 rfl ?_
      refine lv_i2b (v := (((x1.toUInt32 >>> (x2.toUInt32 &&& Int32.toUInt32 31)).toInt32).toInt8.toInt32)) hx hb dX1_append_18 rfl ?_
      refine x_bast X hC.1 hM hS dX1_append_19 hp (fun M3 H locs hM hS hp => ?_)
      refine lv_aload_n hx hb dX1_append_20 rfl (lv_at hl 0 rfl) ?_
      refine lv_dup hx hb dX1_append_21 rfl ?_
      refine x_getI X hC.1 hM (ci := 0) (C := RX1) (T := TX1) (N := 8) rfl in_X1 4 (by decide) q979 (fun _ h9 => h9) dX1_append_22 hp (fun v4 hp => ?_)
      refine lv_iconst (v := 1) hx hb dX1_append_25 (by decide) ?_
      refine lv_iadd hx hb dX1_append_26 ?_
      refine x_put X hC.1 hM hS (ci := 0) (C := RX1) (T := TX1) (N := 8) rfl in_X1 tyX1 tyX1_ok nmX1 4 (by decide) q979 (fun _ h9 => h9) rfl rfl rfl dX1_append_27 hp (fun M5 H locs hM hS hp => ?_)
      refine lv_iinc (v := (x2 + (-8))) (lv' := [(2, .int (x2 + (-8))), (0, .ref x0), (1, .int x1)]) hx hb dX1_append_30 hl (k := 2) rfl rfl (by decide) rfl (fun ls hl => ?_)
      refine lv_goto (tgt := 3) hx hb dX1_append_33 (by decide) ?_
      exact hrec3 _ _ _ _ _ _ _ hp hM hS (lv_sub hl [1, 2, 0] rfl)
  have hL3 : ∀ (n : Nat), ∀ (x0 : Nat) (x1 : Int32) (x2 : Int32) (M : wM) (H : Heap) (locs : List Loc) (ls : Array Slot), L_X1_append_3 G Q n x0 x1 x2 M → wR G M H → va_S (wA G) s.heap H locs → lv_has ls 3 [(0, .ref x0), (1, .int x1), (2, .int x2)] → W p l e (headSpec (ws_ yX1_append cX1_append 3 (none)) ({ frames := 12, cells := 0, slots := 0, locals := 400 })).room s m ([.ref t0, .int p1] : List Value).toArray below meth c H locs 0 0 (vx_MQ below (wQ G (wqV Q)) (wXC G wX0) ([.ref t0, .int p1] : List Value).toArray s 0 0 (wA G)) (F0 m 3 ls []) := by
    intro n
    induction n with
    | zero => intro _ _ _ _ _ _ _ hp; exact False.elim hp
    | succ n ih => intro x0 x1 x2 M H locs ls hp hM hS hl; exact hB3 (L_X1_append_3 G Q n) ih _ _ _ _ _ _ _ hp hM hS hl
  refine lv_bipush (v := 24) hx hb dX1_append_0 (by decide) ?_
  refine lv_istore_n (lv' := [(2, .int (24 : Int32)), (0, .ref t0), (1, .int p1)]) hx hb dX1_append_2 rfl hl (by decide) rfl (fun ls hl => ?_)
  obtain ⟨n, hp⟩ := hp
  exact hL3 n _ _ _ _ _ _ _ hp hM hS (lv_sub hl [1, 2, 0] rfl)
def P_X1_feed (G : wG) (t0 : Nat) (p1 : Int32) (p2 : Int32) (p3 : Int32) (p4 : Int32) (p5 : Int32) (M : wM) (Q : Int32 → wM → Prop) : Prop :=
  oGetI M t0 0 4 (fun v1 => oIf ((v1 + (20 : Int32)) ≤ (900 : Int32)) (oIs M t0 0 (P_X1_append G t0 p1 M (fun M2 => oIs M2 t0 0 (P_X1_append G t0 p2 M2 (fun M4 => oIs M4 t0 0 (P_X1_append G t0 p3 M4 (fun M6 => oIs M6 t0 0 (P_X1_append G t0 p4 M6 (fun M8 => oIs M8 t0 0 (P_X1_append G t0 p5 M8 (fun M10 => oGetI M10 t0 0 4 (fun v12 => Q v12 M10)))))))))))) (Q (-1 : Int32) M))
set_option maxHeartbeats 4000000 in
set_option maxRecDepth 100000 in
theorem P_X1_feed_ok {l : Launch} (hl0 : l.stackTraces = false) {G : wG} {t0 : Nat} {p1 : Int32} {p2 : Int32} {p3 : Int32} {p4 : Int32} {p5 : Int32} {M : wM} {Q : Int32 → wM → Prop} (hp : P_X1_feed G t0 p1 p2 p3 p4 p5 M Q) : wMet l yX1_feed (ws_ yX1_feed cX1_feed 6 (Option.some Jvm.ClassFile.FieldType.int)) 13 422 G [.ref t0, .int p1, .int p2, .int p3, .int p4, .int p5] M 0 (wqI Q) wX0 := by
  refine vx_ofW (cc := cX1_feed) (maxL := 6) (ret := Option.some Jvm.ClassFile.FieldType.int) (by decide) rfl ?_
  intro p e s m args below meth c s₁ B hml hnt hv
  obtain ⟨rfl, hM, hK, hZ, hz⟩ := hv
  have hC : wC G s := ⟨hK, hZ, hz⟩
  have hx := B.exec
  have hb := B.bytes
  have hr := B.returns
  have hts := atoms_spec (ws := (ws_ yX1_feed cX1_feed 6 (Option.some Jvm.ClassFile.FieldType.int))) B.pre
  have hts : ∀ w ∈ lw_all, w.before _ s = true := fun w h => hts w (List.mem_cons_of_mem _ h)
  have hown : s.vm.findClass RX1 = some m.cls := findClass_of_methodNamed B.named
  have hlk := B.notSynchronized
  have X : CallFix p m c cX1_feed 6 s ([.ref t0, .int p1, .int p2, .int p3, .int p4, .int p5] : List Value).toArray lw_all RX1 := ⟨hx, hb, hml, hown, hts⟩
  have hS : va_S (wA G) s.heap s.heap [] := va_S.rf
  have hl := lv_entry ([.ref t0, .int p1, .int p2, .int p3, .int p4, .int p5]) (n := 6) (Nat.le_of_ble_eq_true rfl)
  rw [lg_entry_eq]
  generalize (lg_sl ([.ref t0, .int p1, .int p2, .int p3, .int p4, .int p5]) ++ List.replicate (6 - (lg_sl ([.ref t0, .int p1, .int p2, .int p3, .int p4, .int p5])).length) Slot.unset).toArray = ls at hl ⊢
  have hl : lv_has ls 6 [(0, .ref t0), (1, .int p1), (2, .int p2), (3, .int p3), (4, .int p4), (5, .int p5)] := hl
  refine lv_aload_n hx hb dX1_feed_0 rfl (lv_at hl 0 rfl) ?_
  refine x_getI X hC.1 hM (ci := 0) (C := RX1) (T := TX1) (N := 8) rfl in_X1 4 (by decide) q979 (fun _ h9 => h9) dX1_feed_1 hp (fun v1 hp => ?_)
  refine lv_bipush (v := 20) hx hb dX1_feed_4 (by decide) ?_
  refine lv_iadd hx hb dX1_feed_6 ?_
  refine lv_sipush (v := 900) hx hb dX1_feed_7 (by decide) ?_
  refine lv_icmp_le (tgt := 15) hx hb dX1_feed_10 (by decide) (fun hc => ?_) (fun hc => ?_)
  · have hp := oIf.t hp hc
    refine lv_aload_n hx hb dX1_feed_15 rfl (lv_at hl 0 rfl) ?_
    refine lv_iload_n hx hb dX1_feed_16 rfl (lv_at hl 1 rfl) ?_
    obtain ⟨hrec, hp⟩ := hp
    refine x_call0V (vx_runV (As := [.int p1]) (rest := []) X (P_X1_append_ok (l := l) hl0 hp) (cwV 1 hts (lw_V q1004 q1006 qs9 q148 q1007) rfl rfl rfl (by decide +kernel) ⟨Nat.le_of_ble_eq_true rfl, Nat.le_of_ble_eq_true rfl⟩) ⟨wPc.blind, w_recv hC.1 hM (ci := 0) (q := (RX1, TX1, 8)) rfl hrec, w_pre hC hM hS _⟩ rfl rfl hl.1 rfl (lv_room (Nat.le_of_ble_eq_true rfl)) dX1_feed_17 ⟨Nat.le_refl _, Nat.le_refl _⟩) hS ⟨Nat.le_refl _, Nat.le_refl _⟩ (fun _ _ _ _ _ _ h => False.elim h) (fun M2 H locs hp hM hS => ?_)
    refine lv_aload_n hx hb dX1_feed_20 rfl (lv_at hl 0 rfl) ?_
    refine lv_iload_n hx hb dX1_feed_21 rfl (lv_at hl 2 rfl) ?_
    obtain ⟨hrec, hp⟩ := hp
    refine x_call0V (vx_runV (As := [.int p2]) (rest := []) X (P_X1_append_ok (l := l) hl0 hp) (cwV 1 hts (lw_V q1004 q1006 qs9 q148 q1007) rfl rfl rfl (by decide +kernel) ⟨Nat.le_of_ble_eq_true rfl, Nat.le_of_ble_eq_true rfl⟩) ⟨wPc.blind, w_recv hC.1 hM (ci := 0) (q := (RX1, TX1, 8)) rfl hrec, w_pre hC hM hS _⟩ rfl rfl hl.1 rfl (lv_room (Nat.le_of_ble_eq_true rfl)) dX1_feed_22 ⟨Nat.le_refl _, Nat.le_refl _⟩) hS ⟨Nat.le_refl _, Nat.le_refl _⟩ (fun _ _ _ _ _ _ h => False.elim h) (fun M4 H locs hp hM hS => ?_)
    refine lv_aload_n hx hb dX1_feed_25 rfl (lv_at hl 0 rfl) ?_
    refine lv_iload_n hx hb dX1_feed_26 rfl (lv_at hl 3 rfl) ?_
    obtain ⟨hrec, hp⟩ := hp
    refine x_call0V (vx_runV (As := [.int p3]) (rest := []) X (P_X1_append_ok (l := l) hl0 hp) (cwV 1 hts (lw_V q1004 q1006 qs9 q148 q1007) rfl rfl rfl (by decide +kernel) ⟨Nat.le_of_ble_eq_true rfl, Nat.le_of_ble_eq_true rfl⟩) ⟨wPc.blind, w_recv hC.1 hM (ci := 0) (q := (RX1, TX1, 8)) rfl hrec, w_pre hC hM hS _⟩ rfl rfl hl.1 rfl (lv_room (Nat.le_of_ble_eq_true rfl)) dX1_feed_27 ⟨Nat.le_refl _, Nat.le_refl _⟩) hS ⟨Nat.le_refl _, Nat.le_refl _⟩ (fun _ _ _ _ _ _ h => False.elim h) (fun M6 H locs hp hM hS => ?_)
    refine lv_aload_n hx hb dX1_feed_30 rfl (lv_at hl 0 rfl) ?_
    refine lv_iload hx hb dX1_feed_31 (lv_at hl 4 rfl) ?_
    obtain ⟨hrec, hp⟩ := hp
    refine x_call0V (vx_runV (As := [.int p4]) (rest := []) X (P_X1_append_ok (l := l) hl0 hp) (cwV 1 hts (lw_V q1004 q1006 qs9 q148 q1007) rfl rfl rfl (by decide +kernel) ⟨Nat.le_of_ble_eq_true rfl, Nat.le_of_ble_eq_true rfl⟩) ⟨wPc.blind, w_recv hC.1 hM (ci := 0) (q := (RX1, TX1, 8)) rfl hrec, w_pre hC hM hS _⟩ rfl rfl hl.1 rfl (lv_room (Nat.le_of_ble_eq_true rfl)) dX1_feed_33 ⟨Nat.le_refl _, Nat.le_refl _⟩) hS ⟨Nat.le_refl _, Nat.le_refl _⟩ (fun _ _ _ _ _ _ h => False.elim h) (fun M8 H locs hp hM hS => ?_)
    refine lv_aload_n hx hb dX1_feed_36 rfl (lv_at hl 0 rfl) ?_
    refine lv_iload hx hb dX1_feed_37 (lv_at hl 5 rfl) ?_
    obtain ⟨hrec, hp⟩ := hp
    refine x_call0V (vx_runV (As := [.int p5]) (rest := []) X (P_X1_append_ok (l := l) hl0 hp) (cwV 1 hts (lw_V q1004 q1006 qs9 q148 q1007) rfl rfl rfl (by decide +kernel) ⟨Nat.le_of_ble_eq_true rfl, Nat.le_of_ble_eq_true rfl⟩) ⟨wPc.blind, w_recv hC.1 hM (ci := 0) (q := (RX1, TX1, 8)) rfl hrec, w_pre hC hM hS _⟩ rfl rfl hl.1 rfl (lv_room (Nat.le_of_ble_eq_true rfl)) dX1_feed_39 ⟨Nat.le_refl _, Nat.le_refl _⟩) hS ⟨Nat.le_refl _, Nat.le_refl _⟩ (fun _ _ _ _ _ _ h => False.elim h) (fun M10 H locs hp hM hS => ?_)
    refine lv_aload_n hx hb dX1_feed_42 rfl (lv_at hl 0 rfl) ?_
    refine x_getI X hC.1 hM (ci := 0) (C := RX1) (T := TX1) (N := 8) rfl in_X1 4 (by decide) q979 (fun _ h9 => h9) dX1_feed_43 hp (fun v12 hp => ?_)
    exact x_iret X hr hlk hM hS ⟨Nat.le_refl _, Nat.le_refl _⟩ dX1_feed_46 ⟨_, rfl, hp⟩
  · have hp := oIf.f hp hc
    refine lv_iconst (v := (-1)) hx hb dX1_feed_13 (by decide) ?_
    exact x_iret X hr hlk hM hS ⟨Nat.le_refl _, Nat.le_refl _⟩ dX1_feed_14 ⟨_, rfl, hp⟩
def P_J5_checkLength (G : wG) (p1 : Int32) (p2 : Int32) (M : wM) (Q : wM → Prop) : Prop :=
  oIf (p1 ≤ p2) (Q M) (False)
set_option maxHeartbeats 4000000 in
set_option maxRecDepth 100000 in
theorem P_J5_checkLength_ok {l : Launch} (hl0 : l.stackTraces = false) {G : wG} {p1 : Int32} {p2 : Int32} {M : wM} {Q : wM → Prop} (hp : P_J5_checkLength G p1 p2 M Q) : wMet l yJ5_checkLength (ws_ yJ5_checkLength cJ5_checkLength 2 (none)) 12 400 G [.int p1, .int p2] M 0 (wqV Q) wX0 := by
  refine vx_ofW (cc := cJ5_checkLength) (maxL := 2) (ret := none) (by decide) rfl ?_
  intro p e s m args below meth c s₁ B hml hnt hv
  obtain ⟨rfl, hM, hK, hZ, hz⟩ := hv
  have hC : wC G s := ⟨hK, hZ, hz⟩
  have hx := B.exec
  have hb := B.bytes
  have hr := B.returns
  have hts := atoms_spec (ws := (ws_ yJ5_checkLength cJ5_checkLength 2 (none))) B.pre
  have hts : ∀ w ∈ lw_all, w.before _ s = true := fun w h => hts w (List.mem_cons_of_mem _ h)
  have hown : s.vm.findClass RJ5 = some m.cls := findClass_of_methodNamed B.named
  have hlk := B.notSynchronized
  have X : CallFix p m c cJ5_checkLength 2 s ([.int p1, .int p2] : List Value).toArray lw_all RJ5 := ⟨hx, hb, hml, hown, hts⟩
  have hS : va_S (wA G) s.heap s.heap [] := va_S.rf
  have hl := lv_entry ([.int p1, .int p2]) (n := 2) (Nat.le_of_ble_eq_true rfl)
  rw [lg_entry_eq]
  generalize (lg_sl ([.int p1, .int p2]) ++ List.replicate (2 - (lg_sl ([.int p1, .int p2])).length) Slot.unset).toArray = ls at hl ⊢
  have hl : lv_has ls 2 [(0, .int p1), (1, .int p2)] := hl
  refine lv_iload_n hx hb dJ5_checkLength_0 rfl (lv_at hl 1 rfl) ?_
  refine lv_iload_n hx hb dJ5_checkLength_1 rfl (lv_at hl 0 rfl) ?_
  refine lv_icmp_ge (tgt := 37) hx hb dJ5_checkLength_2 (by decide) (fun hc => ?_) (fun hc => ?_)
  · have hp := oIf.t hp hc
    exact x_vret X hr hlk hM hS ⟨Nat.le_refl _, Nat.le_refl _⟩ dJ5_checkLength_37 ⟨rfl, hp⟩
  · have hp := oIf.f hp hc
    exact hp.elim
def P_J5_copyOfRangeByte (G : wG) (p1 : Nat) (p2 : Int32) (p3 : Int32) (b : Nat) (M : wM) (Q : Option Nat → wM → Prop) : Prop :=
  P_J5_checkLength G p2 p3 M (fun M1 => oNewa G M1 b .byte (.inl (fun _ => 0)) (p3 - p2) (fun a3 M4 b5 => oAlen .byte M4 p1 (fun v6 => oCopyI G .byte M4 p1 p2 a3 (0 : Int32) (if (p3 - p2) < (v6 - p2) then (p3 - p2) else (v6 - p2)) (fun M7 => Q (some a3) M7))))
set_option maxHeartbeats 4000000 in
set_option maxRecDepth 100000 in
theorem P_J5_copyOfRangeByte_ok {l : Launch} (hl0 : l.stackTraces = false) {G : wG} {p1 : Nat} {p2 : Int32} {p3 : Int32} {b : Nat} {M : wM} {Q : Option Nat → wM → Prop} (hp : P_J5_copyOfRangeByte G p1 p2 p3 b M Q) : wMet l yJ5_copyOfRangeByte (ws_ yJ5_copyOfRangeByte cJ5_copyOfRangeByte 5 (Option.some (Jvm.ClassFile.FieldType.array Jvm.ClassFile.FieldType.byte))) 13 421 G [.ref p1, .int p2, .int p3] M b (wqR Q) wX0 := by
  refine vx_ofW (cc := cJ5_copyOfRangeByte) (maxL := 5) (ret := Option.some (Jvm.ClassFile.FieldType.array Jvm.ClassFile.FieldType.byte)) (by decide) rfl ?_
  intro p e s m args below meth c s₁ B hml hnt hv
  obtain ⟨rfl, hM, hK, hZ, hz⟩ := hv
  have hC : wC G s := ⟨hK, hZ, hz⟩
  have hx := B.exec
  have hb := B.bytes
  have hr := B.returns
  have hts := atoms_spec (ws := (ws_ yJ5_copyOfRangeByte cJ5_copyOfRangeByte 5 (Option.some (Jvm.ClassFile.FieldType.array Jvm.ClassFile.FieldType.byte)))) B.pre
  have hts : ∀ w ∈ lw_all, w.before _ s = true := fun w h => hts w (List.mem_cons_of_mem _ h)
  have hown : s.vm.findClass RJ5 = some m.cls := findClass_of_methodNamed B.named
  have hlk := B.notSynchronized
  have X : CallFix p m c cJ5_copyOfRangeByte 5 s ([.ref p1, .int p2, .int p3] : List Value).toArray lw_all RJ5 := ⟨hx, hb, hml, hown, hts⟩
  have hS : va_S (wA G) s.heap s.heap [] := va_S.rf
  have hl := lv_entry ([.ref p1, .int p2, .int p3]) (n := 5) (Nat.le_of_ble_eq_true rfl)
  rw [lg_entry_eq]
  generalize (lg_sl ([.ref p1, .int p2, .int p3]) ++ List.replicate (5 - (lg_sl ([.ref p1, .int p2, .int p3])).length) Slot.unset).toArray = ls at hl ⊢
  have hl : lv_has ls 5 [(0, .ref p1), (1, .int p2), (2, .int p3)] := hl
  have hB : 0 + b ≤ ((headSpec (ws_ yJ5_copyOfRangeByte cJ5_copyOfRangeByte 5 (Option.some (Jvm.ClassFile.FieldType.array Jvm.ClassFile.FieldType.byte))) ({ frames := 13, cells := b, slots := b, locals := 421 })).room).cells ∧ 0 + b ≤ ((headSpec (ws_ yJ5_copyOfRangeByte cJ5_copyOfRangeByte 5 (Option.some (Jvm.ClassFile.FieldType.array Jvm.ClassFile.FieldType.byte))) ({ frames := 13, cells := b, slots := b, locals := 421 })).room).slots := ⟨Nat.le_of_eq (Nat.zero_add b), Nat.le_of_eq (Nat.zero_add b)⟩
  refine lv_iload_n hx hb dJ5_copyOfRangeByte_0 rfl (lv_at hl 1 rfl) ?_
  refine lv_iload_n hx hb dJ5_copyOfRangeByte_1 rfl (lv_at hl 2 rfl) ?_
  refine x_call0V (vx_runS (As := [.int p2, .int p3]) (rest := []) X (P_J5_checkLength_ok (l := l) hl0 hp) (va_cwS 2 hts (lw_S q801 q802 q156 q803) rfl rfl rfl (by decide +kernel) ⟨Nat.le_of_ble_eq_true rfl, Nat.le_of_ble_eq_true rfl⟩) ⟨wPc.blind, w_pre hC hM hS _⟩ rfl rfl hl.1 rfl (lv_room (Nat.le_of_ble_eq_true rfl)) dJ5_copyOfRangeByte_2 (w_room0 hB)) hS (w_room0 hB) (fun _ _ _ _ _ _ h => False.elim h) (fun M1 H locs hp hM hS => ?_)
  refine lv_iload_n hx hb dJ5_copyOfRangeByte_5 rfl (lv_at hl 2 rfl) ?_
  refine lv_iload_n hx hb dJ5_copyOfRangeByte_6 rfl (lv_at hl 1 rfl) ?_
  refine lv_isub hx hb dJ5_copyOfRangeByte_7 ?_
  refine lv_istore_n (lv' := [(3, .int (p3 - p2)), (0, .ref p1), (1, .int p2), (2, .int p3)]) hx hb dJ5_copyOfRangeByte_8 rfl hl (by decide) rfl (fun ls hl => ?_)
  refine lv_iload_n hx hb dJ5_copyOfRangeByte_9 rfl (lv_at hl 0 rfl) ?_
  refine x_newa X hC hM hS hB .byte rfl q630 (by decide) (by decide) (fun _ h => h) (fun _ _ => rfl) dJ5_copyOfRangeByte_10 hp (fun a3 M4 H b5 cells slots hM hS hB hp => ?_)
  refine lv_astore (lv' := [(4, .ref a3), (3, .int (p3 - p2)), (0, .ref p1), (1, .int p2), (2, .int p3)]) hx hb dJ5_copyOfRangeByte_12 hl (by decide) rfl (fun ls hl => ?_)
  refine lv_aload_n hx hb dJ5_copyOfRangeByte_14 rfl (lv_at hl 2 rfl) ?_
  refine lv_iload_n hx hb dJ5_copyOfRangeByte_15 rfl (lv_at hl 3 rfl) ?_
  refine lv_aload hx hb dJ5_copyOfRangeByte_16 (lv_at hl 0 rfl) ?_
  refine lv_iconst (v := 0) hx hb dJ5_copyOfRangeByte_18 (by decide) ?_
  refine lv_aload_n hx hb dJ5_copyOfRangeByte_19 rfl (lv_at hl 2 rfl) ?_
  refine x_alen X hC.1 hM (ty := .byte) (by decide) dJ5_copyOfRangeByte_20 hp (fun v6 hp => ?_)
  refine lv_iload_n hx hb dJ5_copyOfRangeByte_21 rfl (lv_at hl 3 rfl) ?_
  refine lv_isub hx hb dJ5_copyOfRangeByte_22 ?_
  refine lv_iload_n hx hb dJ5_copyOfRangeByte_23 rfl (lv_at hl 1 rfl) ?_
  refine va_mmin hx hb (hml.trans hl.1.symm) hown (hts _ q346) (hts _ q347) (hts _ q155) (hts _ q348) (Nat.le_of_ble_eq_true rfl) (Nat.le_of_ble_eq_true rfl) (w_fin hB).1 (w_fin hB).2 dJ5_copyOfRangeByte_24 ?_
  refine x_copyI X (hml.trans hl.1.symm) hC hM hS q349 q351 q350 q157 .byte (by decide) rfl (Nat.le_of_ble_eq_true rfl) (Nat.le_of_ble_eq_true rfl) dJ5_copyOfRangeByte_27 hp (fun M7 H locs hM hS hp => ?_)
  refine lv_aload hx hb dJ5_copyOfRangeByte_30 (lv_at hl 0 rfl) ?_
  exact x_aret (v := (some a3)) X hr (by first | exact Or.inl ⟨_, rfl⟩ | exact Or.inr ⟨_, rfl⟩) hlk hM hS (w_fin hB) dJ5_copyOfRangeByte_32 ⟨(some a3), rfl, hp⟩
def B_J5_copyOfRange_10 (G : wG) (Q : Option Nat → wM → Prop) (x0 : Nat) (x1 : Int32) (x2 : Int32) (M : wM) (bq : Nat) : Prop :=
  ∃ c2, c2 ≤ bq ∧ P_J5_copyOfRangeByte G x0 x1 x2 c2 M (fun r3 M1 => Q r3 M1)
def P_J5_copyOfRange (G : wG) (p1 : Nat) (p2 : Int32) (p3 : Int32) (b : Nat) (M : wM) (Q : Option Nat → wM → Prop) : Prop :=
  oIf (p2 = 0) (oAlen .byte M p1 (fun v1 => oIf (p3 = v1) (oClone G M b p1 (fun a2 M3 b4 => oIsB M3 a2 (Q (some a2) M3))) (B_J5_copyOfRange_10 G Q p1 p2 p3 M b))) (B_J5_copyOfRange_10 G Q p1 p2 p3 M b)
set_option maxHeartbeats 4000000 in
set_option maxRecDepth 100000 in
theorem P_J5_copyOfRange_ok {l : Launch} (hl0 : l.stackTraces = false) {G : wG} {p1 : Nat} {p2 : Int32} {p3 : Int32} {b : Nat} {M : wM} {Q : Option Nat → wM → Prop} (hp : P_J5_copyOfRange G p1 p2 p3 b M Q) : wMet l yJ5_copyOfRange (ws_ yJ5_copyOfRange cJ5_copyOfRange 3 (Option.some (Jvm.ClassFile.FieldType.array Jvm.ClassFile.FieldType.byte))) 14 445 G [.ref p1, .int p2, .int p3] M b (wqR Q) wX0 := by
  refine vx_ofW (cc := cJ5_copyOfRange) (maxL := 3) (ret := Option.some (Jvm.ClassFile.FieldType.array Jvm.ClassFile.FieldType.byte)) (by decide) rfl ?_
  intro p e s m args below meth c s₁ B hml hnt hv
  obtain ⟨rfl, hM, hK, hZ, hz⟩ := hv
  have hC : wC G s := ⟨hK, hZ, hz⟩
  have hx := B.exec
  have hb := B.bytes
  have hr := B.returns
  have hts := atoms_spec (ws := (ws_ yJ5_copyOfRange cJ5_copyOfRange 3 (Option.some (Jvm.ClassFile.FieldType.array Jvm.ClassFile.FieldType.byte)))) B.pre
  have hts : ∀ w ∈ lw_all, w.before _ s = true := fun w h => hts w (List.mem_cons_of_mem _ h)
  have hown : s.vm.findClass RJ5 = some m.cls := findClass_of_methodNamed B.named
  have hlk := B.notSynchronized
  have X : CallFix p m c cJ5_copyOfRange 3 s ([.ref p1, .int p2, .int p3] : List Value).toArray lw_all RJ5 := ⟨hx, hb, hml, hown, hts⟩
  have hS : va_S (wA G) s.heap s.heap [] := va_S.rf
  have hl := lv_entry ([.ref p1, .int p2, .int p3]) (n := 3) (Nat.le_of_ble_eq_true rfl)
  rw [lg_entry_eq]
  generalize (lg_sl ([.ref p1, .int p2, .int p3]) ++ List.replicate (3 - (lg_sl ([.ref p1, .int p2, .int p3])).length) Slot.unset).toArray = ls at hl ⊢
  have hl : lv_has ls 3 [(0, .ref p1), (1, .int p2), (2, .int p3)] := hl
  have hB : 0 + b ≤ ((headSpec (ws_ yJ5_copyOfRange cJ5_copyOfRange 3 (Option.some (Jvm.ClassFile.FieldType.array Jvm.ClassFile.FieldType.byte))) ({ frames := 14, cells := b, slots := b, locals := 445 })).room).cells ∧ 0 + b ≤ ((headSpec (ws_ yJ5_copyOfRange cJ5_copyOfRange 3 (Option.some (Jvm.ClassFile.FieldType.array Jvm.ClassFile.FieldType.byte))) ({ frames := 14, cells := b, slots := b, locals := 445 })).room).slots := ⟨Nat.le_of_eq (Nat.zero_add b), Nat.le_of_eq (Nat.zero_add b)⟩
  have hB10 : ∀ (x0 : Nat) (x1 : Int32) (x2 : Int32) (M : wM) (bq : Nat) (H : Heap) (locs : List Loc) (ls : Array Slot) (cells slots : Nat), B_J5_copyOfRange_10 G Q x0 x1 x2 M bq → wR G M H → va_S (wA G) s.heap H locs → (cells + bq ≤ ((headSpec (ws_ yJ5_copyOfRange cJ5_copyOfRange 3 (Option.some (Jvm.ClassFile.FieldType.array Jvm.ClassFile.FieldType.byte))) ({ frames := 14, cells := b, slots := b, locals := 445 })).room).cells ∧ slots + bq ≤ ((headSpec (ws_ yJ5_copyOfRange cJ5_copyOfRange 3 (Option.some (Jvm.ClassFile.FieldType.array Jvm.ClassFile.FieldType.byte))) ({ frames := 14, cells := b, slots := b, locals := 445 })).room).slots) → lv_has ls 3 [(0, .ref x0), (1, .int x1), (2, .int x2)] → W p l e (headSpec (ws_ yJ5_copyOfRange cJ5_copyOfRange 3 (Option.some (Jvm.ClassFile.FieldType.array Jvm.ClassFile.FieldType.byte))) ({ frames := 14, cells := b, slots := b, locals := 445 })).room s m ([.ref p1, .int p2, .int p3] : List Value).toArray below meth c H locs cells slots (vx_MQ below (wQ G (wqR Q)) (wXC G wX0) ([.ref p1, .int p2, .int p3] : List Value).toArray s b b (wA G)) (F0 m 10 ls []) := by
    intro x0 x1 x2 M bq H locs ls cells slots hp hM hS hB hl
    refine lv_aload_n hx hb dJ5_copyOfRange_10 rfl (lv_at hl 0 rfl) ?_
    refine lv_iload_n hx hb dJ5_copyOfRange_11 rfl (lv_at hl 1 rfl) ?_
    refine lv_iload_n hx hb dJ5_copyOfRange_12 rfl (lv_at hl 2 rfl) ?_
    obtain ⟨c2, hc1, hp⟩ := hp
    refine x_callR (vx_runS (As := [.ref x0, .int x1, .int x2]) (rest := []) X (P_J5_copyOfRangeByte_ok (l := l) hl0 hp) (va_cwS 3 hts (lw_S q798 q799 q156 q800) rfl rfl rfl (by decide +kernel) ⟨Nat.le_of_ble_eq_true rfl, Nat.le_of_ble_eq_true rfl⟩) ⟨wPc.blind, w_pre hC hM hS _⟩ rfl rfl hl.1 rfl (lv_room (Nat.le_of_ble_eq_true rfl)) dJ5_copyOfRange_13 (w_room hB hc1)) hS hB hc1 (fun _ _ _ _ _ _ h => False.elim h) (fun r3 M1 H locs hp hM hS hB => ?_)
    exact x_aret (v := r3) X hr (by first | exact Or.inl ⟨_, rfl⟩ | exact Or.inr ⟨_, rfl⟩) hlk hM hS (w_fin hB) dJ5_copyOfRange_16 ⟨r3, rfl, hp⟩
  refine lv_iload_n hx hb dJ5_copyOfRange_0 rfl (lv_at hl 1 rfl) ?_
  refine lv_if_ne (tgt := 10) hx hb dJ5_copyOfRange_1 (by decide) (fun hc => ?_) (fun hc => ?_)
  · have hp := oIf.f hp hc
    exact hB10 _ _ _ _ _ _ _ _ _ _ hp hM hS hB (lv_sub hl [0, 1, 2] rfl)
  · have hp := oIf.t hp hc
    refine lv_iload_n hx hb dJ5_copyOfRange_4 rfl (lv_at hl 2 rfl) ?_
    refine lv_aload_n hx hb dJ5_copyOfRange_5 rfl (lv_at hl 0 rfl) ?_
    refine x_alen X hC.1 hM (ty := .byte) (by decide) dJ5_copyOfRange_6 hp (fun v1 hp => ?_)
    refine lv_icmp_eq (tgt := 17) hx hb dJ5_copyOfRange_7 (by decide) (fun hc => ?_) (fun hc => ?_)
    · have hp := oIf.t hp hc
      refine lv_aload_n hx hb dJ5_copyOfRange_17 rfl (lv_at hl 0 rfl) ?_
      refine x_cloneB X (hml.trans hl.1.symm) hC hM hS hB q656 q657 q658 q659 q660 q661 (Nat.le_of_ble_eq_true rfl) (Nat.le_of_ble_eq_true rfl) dJ5_copyOfRange_18 hp (fun a2 M3 H b4 cells slots hM hS hB hp => ?_)
      refine x_castB X hC.1 hM q662 dJ5_copyOfRange_21 hp (fun hp => ?_)
      exact x_aret (v := (some a2)) X hr (by first | exact Or.inl ⟨_, rfl⟩ | exact Or.inr ⟨_, rfl⟩) hlk hM hS (w_fin hB) dJ5_copyOfRange_24 ⟨(some a2), rfl, hp⟩
    · have hp := oIf.f hp hc
      exact hB10 _ _ _ _ _ _ _ _ _ _ hp hM hS hB (lv_sub hl [0, 1, 2] rfl)
def P_J17_getValue_J18 (G : wG) (t0 : Nat) (M : wM) (Q : Option Nat → wM → Prop) : Prop :=
  oGetA M t0 23 0 (fun a1 => Q (some a1) M)
set_option maxHeartbeats 4000000 in
set_option maxRecDepth 100000 in
theorem P_J17_getValue_J18_ok {l : Launch} (hl0 : l.stackTraces = false) {G : wG} {t0 : Nat} {M : wM} {Q : Option Nat → wM → Prop} (hp : P_J17_getValue_J18 G t0 M Q) : wMet l yJ17_getValue (ws_ yJ17_getValue cJ17_getValue 1 (Option.some (Jvm.ClassFile.FieldType.array Jvm.ClassFile.FieldType.byte))) 12 400 G [.ref t0] M 0 (wqR Q) wX0 := by
  refine vx_ofW (cc := cJ17_getValue) (maxL := 1) (ret := Option.some (Jvm.ClassFile.FieldType.array Jvm.ClassFile.FieldType.byte)) (by decide) rfl ?_
  intro p e s m args below meth c s₁ B hml hnt hv
  obtain ⟨rfl, hM, hK, hZ, hz⟩ := hv
  have hC : wC G s := ⟨hK, hZ, hz⟩
  have hx := B.exec
  have hb := B.bytes
  have hr := B.returns
  have hts := atoms_spec (ws := (ws_ yJ17_getValue cJ17_getValue 1 (Option.some (Jvm.ClassFile.FieldType.array Jvm.ClassFile.FieldType.byte)))) B.pre
  have hts : ∀ w ∈ lw_all, w.before _ s = true := fun w h => hts w (List.mem_cons_of_mem _ h)
  have hown : s.vm.findClass RJ17 = some m.cls := findClass_of_methodNamed B.named
  have hlk := B.notSynchronized
  have X : CallFix p m c cJ17_getValue 1 s ([.ref t0] : List Value).toArray lw_all RJ17 := ⟨hx, hb, hml, hown, hts⟩
  have hS : va_S (wA G) s.heap s.heap [] := va_S.rf
  have hl := lv_entry ([.ref t0]) (n := 1) (Nat.le_of_ble_eq_true rfl)
  rw [lg_entry_eq]
  generalize (lg_sl ([.ref t0]) ++ List.replicate (1 - (lg_sl ([.ref t0])).length) Slot.unset).toArray = ls at hl ⊢
  have hl : lv_has ls 1 [(0, .ref t0)] := hl
  refine lv_aload_n hx hb dJ17_getValue_0 rfl (lv_at hl 0 rfl) ?_
  refine x_getA X hC.1 hM (ci := 23) (C := RJ18) (T := TJ18) (N := 4) rfl in_J18 0 (by decide) q616 (fun _ h9 => h9) dJ17_getValue_1 hp (fun a1 hp => ?_)
  exact x_aret (v := (some a1)) X hr (by first | exact Or.inl ⟨_, rfl⟩ | exact Or.inr ⟨_, rfl⟩) hlk hM hS ⟨Nat.le_refl _, Nat.le_refl _⟩ dJ17_getValue_4 ⟨(some a1), rfl, hp⟩
def P_J17_length_J18 (G : wG) (t0 : Nat) (M : wM) (Q : Int32 → wM → Prop) : Prop :=
  oGetI M t0 23 3 (fun v1 => Q v1 M)
set_option maxHeartbeats 4000000 in
set_option maxRecDepth 100000 in
theorem P_J17_length_J18_ok {l : Launch} (hl0 : l.stackTraces = false) {G : wG} {t0 : Nat} {M : wM} {Q : Int32 → wM → Prop} (hp : P_J17_length_J18 G t0 M Q) : wMet l yJ17_length (ws_ yJ17_length cJ17_length 1 (Option.some Jvm.ClassFile.FieldType.int)) 12 400 G [.ref t0] M 0 (wqI Q) wX0 := by
  refine vx_ofW (cc := cJ17_length) (maxL := 1) (ret := Option.some Jvm.ClassFile.FieldType.int) (by decide) rfl ?_
  intro p e s m args below meth c s₁ B hml hnt hv
  obtain ⟨rfl, hM, hK, hZ, hz⟩ := hv
  have hC : wC G s := ⟨hK, hZ, hz⟩
  have hx := B.exec
  have hb := B.bytes
  have hr := B.returns
  have hts := atoms_spec (ws := (ws_ yJ17_length cJ17_length 1 (Option.some Jvm.ClassFile.FieldType.int))) B.pre
  have hts : ∀ w ∈ lw_all, w.before _ s = true := fun w h => hts w (List.mem_cons_of_mem _ h)
  have hown : s.vm.findClass RJ17 = some m.cls := findClass_of_methodNamed B.named
  have hlk := B.notSynchronized
  have X : CallFix p m c cJ17_length 1 s ([.ref t0] : List Value).toArray lw_all RJ17 := ⟨hx, hb, hml, hown, hts⟩
  have hS : va_S (wA G) s.heap s.heap [] := va_S.rf
  have hl := lv_entry ([.ref t0]) (n := 1) (Nat.le_of_ble_eq_true rfl)
  rw [lg_entry_eq]
  generalize (lg_sl ([.ref t0]) ++ List.replicate (1 - (lg_sl ([.ref t0])).length) Slot.unset).toArray = ls at hl ⊢
  have hl : lv_has ls 1 [(0, .ref t0)] := hl
  refine lv_aload_n hx hb dJ17_length_0 rfl (lv_at hl 0 rfl) ?_
  refine x_getI X hC.1 hM (ci := 23) (C := RJ18) (T := TJ18) (N := 4) rfl in_J18 3 (by decide) q620 (fun _ h9 => h9) dJ17_length_1 hp (fun v1 hp => ?_)
  exact x_iret X hr hlk hM hS ⟨Nat.le_refl _, Nat.le_refl _⟩ dJ17_length_4 ⟨_, rfl, hp⟩
def P_J18_length (G : wG) (t0 : Nat) (M : wM) (Q : Int32 → wM → Prop) : Prop :=
  oIs M t0 23 (P_J17_length_J18 G t0 M (fun v3 M1 => Q v3 M1))
set_option maxHeartbeats 4000000 in
set_option maxRecDepth 100000 in
theorem P_J18_length_ok {l : Launch} (hl0 : l.stackTraces = false) {G : wG} {t0 : Nat} {M : wM} {Q : Int32 → wM → Prop} (hp : P_J18_length G t0 M Q) : wMet l yJ18_length (ws_ yJ18_length cJ18_length 1 (Option.some Jvm.ClassFile.FieldType.int)) 13 420 G [.ref t0] M 0 (wqI Q) wX0 := by
  refine vx_ofW (cc := cJ18_length) (maxL := 1) (ret := Option.some Jvm.ClassFile.FieldType.int) (by decide) rfl ?_
  intro p e s m args below meth c s₁ B hml hnt hv
  obtain ⟨rfl, hM, hK, hZ, hz⟩ := hv
  have hC : wC G s := ⟨hK, hZ, hz⟩
  have hx := B.exec
  have hb := B.bytes
  have hr := B.returns
  have hts := atoms_spec (ws := (ws_ yJ18_length cJ18_length 1 (Option.some Jvm.ClassFile.FieldType.int))) B.pre
  have hts : ∀ w ∈ lw_all, w.before _ s = true := fun w h => hts w (List.mem_cons_of_mem _ h)
  have hown : s.vm.findClass RJ18 = some m.cls := findClass_of_methodNamed B.named
  have hlk := B.notSynchronized
  have X : CallFix p m c cJ18_length 1 s ([.ref t0] : List Value).toArray lw_all RJ18 := ⟨hx, hb, hml, hown, hts⟩
  have hS : va_S (wA G) s.heap s.heap [] := va_S.rf
  have hl := lv_entry ([.ref t0]) (n := 1) (Nat.le_of_ble_eq_true rfl)
  rw [lg_entry_eq]
  generalize (lg_sl ([.ref t0]) ++ List.replicate (1 - (lg_sl ([.ref t0])).length) Slot.unset).toArray = ls at hl ⊢
  have hl : lv_has ls 1 [(0, .ref t0)] := hl
  refine lv_aload_n hx hb dJ18_length_0 rfl (lv_at hl 0 rfl) ?_
  obtain ⟨hrec, hp⟩ := hp
  refine x_call0I (vx_runSU (hC.1.1.1 23 (RJ18, TJ18, 4) rfl).2 (As := []) (rest := []) X (P_J17_length_J18_ok (l := l) hl0 hp) (va_cwSU 0 hts (lw_app (w_mem5 q792 q788 q629 q787 q169) (lw_meth q793)) rfl rfl rfl (by decide +kernel) ⟨Nat.le_of_ble_eq_true rfl, Nat.le_of_ble_eq_true rfl⟩) ⟨wPc.blind, w_recv hC.1 hM (ci := 23) (q := (RJ18, TJ18, 4)) rfl hrec, w_pre hC hM hS _⟩ rfl rfl hl.1 rfl (lv_room (Nat.le_of_ble_eq_true rfl)) dJ18_length_1 ⟨Nat.le_refl _, Nat.le_refl _⟩) hS ⟨Nat.le_refl _, Nat.le_refl _⟩ (fun _ _ _ _ _ _ h => False.elim h) (fun v3 M1 H locs hp hM hS => ?_)
  exact x_iret X hr hlk hM hS ⟨Nat.le_refl _, Nat.le_refl _⟩ dJ18_length_4 ⟨_, rfl, hp⟩
def B_J17_isLatin1_J18_18 (G : wG) (Q : Bool → wM → Prop) (y0 : Int32) (M : wM) : Prop :=
  ∃ r : Bool, y0 = wb r ∧ Q r M
def B_J17_isLatin1_J18_17 (G : wG) (Q : Bool → wM → Prop) (M : wM) : Prop :=
  B_J17_isLatin1_J18_18 G Q (0 : Int32) M
def P_J17_isLatin1_J18 (G : wG) (t0 : Nat) (M : wM) (Q : Bool → wM → Prop) : Prop :=
  oIf ((1 : Int32) = 0) (B_J17_isLatin1_J18_17 G Q M) (oGetI M t0 23 1 (fun v1 => oIf (v1 = 0) (B_J17_isLatin1_J18_18 G Q (1 : Int32) M) (B_J17_isLatin1_J18_17 G Q M)))
set_option maxHeartbeats 4000000 in
set_option maxRecDepth 100000 in
theorem P_J17_isLatin1_J18_ok {l : Launch} (hl0 : l.stackTraces = false) {G : wG} {t0 : Nat} {M : wM} {Q : Bool → wM → Prop} (hp : P_J17_isLatin1_J18 G t0 M Q) : wMet l yJ17_isLatin1 (ws_ yJ17_isLatin1 cJ17_isLatin1 1 (Option.some Jvm.ClassFile.FieldType.boolean)) 12 400 G [.ref t0] M 0 (wqZ Q) wX0 := by
  refine vx_ofW (cc := cJ17_isLatin1) (maxL := 1) (ret := Option.some Jvm.ClassFile.FieldType.boolean) (by decide) rfl ?_
  intro p e s m args below meth c s₁ B hml hnt hv
  obtain ⟨rfl, hM, hK, hZ, hz⟩ := hv
  have hC : wC G s := ⟨hK, hZ, hz⟩
  have hx := B.exec
  have hb := B.bytes
  have hr := B.returns
  have hts := atoms_spec (ws := (ws_ yJ17_isLatin1 cJ17_isLatin1 1 (Option.some Jvm.ClassFile.FieldType.boolean))) B.pre
  have hts : ∀ w ∈ lw_all, w.before _ s = true := fun w h => hts w (List.mem_cons_of_mem _ h)
  have hown : s.vm.findClass RJ17 = some m.cls := findClass_of_methodNamed B.named
  have hlk := B.notSynchronized
  have X : CallFix p m c cJ17_isLatin1 1 s ([.ref t0] : List Value).toArray lw_all RJ17 := ⟨hx, hb, hml, hown, hts⟩
  have hS : va_S (wA G) s.heap s.heap [] := va_S.rf
  have hl := lv_entry ([.ref t0]) (n := 1) (Nat.le_of_ble_eq_true rfl)
  rw [lg_entry_eq]
  generalize (lg_sl ([.ref t0]) ++ List.replicate (1 - (lg_sl ([.ref t0])).length) Slot.unset).toArray = ls at hl ⊢
  have hl : lv_has ls 1 [(0, .ref t0)] := hl
  have hB18 : ∀ (y0 : Int32) (M : wM) (H : Heap) (locs : List Loc) (ls : Array Slot), B_J17_isLatin1_J18_18 G Q y0 M → wR G M H → va_S (wA G) s.heap H locs → lv_has ls 1 [] → W p l e (headSpec (ws_ yJ17_isLatin1 cJ17_isLatin1 1 (Option.some Jvm.ClassFile.FieldType.boolean)) ({ frames := 12, cells := 0, slots := 0, locals := 400 })).room s m ([.ref t0] : List Value).toArray below meth c H locs 0 0 (vx_MQ below (wQ G (wqZ Q)) (wXC G wX0) ([.ref t0] : List Value).toArray s 0 0 (wA G)) (F0 m 18 ls [.int y0]) := by
    intro y0 M H locs ls hp hM hS hl
    obtain ⟨r, hr0, hp⟩ := hp
    exact x_zret X hr hlk hM hS ⟨Nat.le_refl _, Nat.le_refl _⟩ (by rw [hr0]; exact w_nz _) dJ17_isLatin1_18 ⟨r, by rw [hr0], hp⟩
  have hB17 : ∀ (M : wM) (H : Heap) (locs : List Loc) (ls : Array Slot), B_J17_isLatin1_J18_17 G Q M → wR G M H → va_S (wA G) s.heap H locs → lv_has ls 1 [] → W p l e (headSpec (ws_ yJ17_isLatin1 cJ17_isLatin1 1 (Option.some Jvm.ClassFile.FieldType.boolean)) ({ frames := 12, cells := 0, slots := 0, locals := 400 })).room s m ([.ref t0] : List Value).toArray below meth c H locs 0 0 (vx_MQ below (wQ G (wqZ Q)) (wXC G wX0) ([.ref t0] : List Value).toArray s 0 0 (wA G)) (F0 m 17 ls []) := by
    intro M H locs ls hp hM hS hl
    refine lv_iconst (v := 0) hx hb dJ17_isLatin1_17 (by decide) ?_
    exact hB18 _ _ _ _ _ hp hM hS (lv_sub hl [] rfl)
  refine x_gets X hC hS (C := "java/lang/String") (n := "COMPACT_STRINGS") (d := "Z") (v := .inl 1) (List.mem_of_getElem? (i := 0) rfl) q607 (fun _ h9 => h9) dJ17_isLatin1_0 ?_
  refine lv_if_eq (tgt := 17) hx hb dJ17_isLatin1_3 (by decide) (fun hc => ?_) (fun hc => ?_)
  · have hp := oIf.t hp hc
    exact hB17 _ _ _ _ hp hM hS (lv_sub hl [] rfl)
  · have hp := oIf.f hp hc
    refine lv_aload_n hx hb dJ17_isLatin1_6 rfl (lv_at hl 0 rfl) ?_
    refine x_getI X hC.1 hM (ci := 23) (C := RJ18) (T := TJ18) (N := 4) rfl in_J18 1 (by decide) q617 (fun _ h9 => h9) dJ17_isLatin1_7 hp (fun v1 hp => ?_)
    refine lv_if_ne (tgt := 17) hx hb dJ17_isLatin1_10 (by decide) (fun hc => ?_) (fun hc => ?_)
    · have hp := oIf.f hp hc
      exact hB17 _ _ _ _ hp hM hS (lv_sub hl [] rfl)
    · have hp := oIf.t hp hc
      refine lv_iconst (v := 1) hx hb dJ17_isLatin1_13 (by decide) ?_
      refine lv_goto (tgt := 18) hx hb dJ17_isLatin1_14 (by decide) ?_
      exact hB18 _ _ _ _ _ hp hM hS (lv_sub hl [] rfl)
def B_J19_init_2_97 (G : wG) (Q : wM → Prop) (M : wM) (bq : Nat) : Prop :=
  Q M
def B_J19_init_2_79 (G : wG) (Q : wM → Prop) (x0 : Nat) (x3 : Option Nat) (x4 : Int32) (M : wM) (bq : Nat) : Prop :=
  oPut G M x0 24 1 (.int (1 : Int32)) (fun M1 => oRef x3 (fun a2 => ∃ c4, c4 ≤ bq ∧ P_J5_copyOfRange G a2 (0 : Int32) (x4 <<< ((1 : Int32) &&& 31)) c4 M1 (fun r5 M3 => oPut G M3 x0 24 0 (va_rf r5) (fun M6 => B_J19_init_2_97 G Q M6 (bq - c4)))))
def P_J19_init_2 (G : wG) (t0 : Nat) (p1 : Nat) (p2 : Option Nat) (b : Nat) (M : wM) (Q : wM → Prop) : Prop :=
  oIs M p1 23 (P_J17_getValue_J18 G p1 M (fun r3 M1 => oIs M1 p1 23 (P_J18_length G p1 M1 (fun v6 M4 => oIs M4 p1 23 (P_J17_isLatin1_J18 G p1 M4 (fun r9 M7 => oIf (r9 = true) (oPut G M7 t0 24 1 (.int (0 : Int32)) (fun M11 => oRef r3 (fun a12 => ∃ c14, c14 ≤ b ∧ P_J5_copyOfRange G a12 (0 : Int32) v6 c14 M11 (fun r15 M13 => oPut G M13 t0 24 0 (va_rf r15) (fun M16 => B_J19_init_2_97 G Q M16 (b - c14)))))) (oIf ((1 : Int32) = 0) (B_J19_init_2_79 G Q t0 r3 v6 M7 b) (oGetI M7 p1 23 2 (fun v10 => oIf (v10 = 0) (B_J19_init_2_79 G Q t0 r3 v6 M7 b) (False))))))))))
set_option maxHeartbeats 4000000 in
set_option maxRecDepth 100000 in
theorem P_J19_init_2_ok {l : Launch} (hl0 : l.stackTraces = false) {G : wG} {t0 : Nat} {p1 : Nat} {p2 : Option Nat} {b : Nat} {M : wM} {Q : wM → Prop} (hp : P_J19_init_2 G t0 p1 p2 b M Q) : wMet l yJ19_init_2 (ws_ yJ19_init_2 cJ19_init_2 5 (none)) 15 467 G [.ref t0, .ref p1, va_rf p2] M b (wqV Q) wX0 := by
  refine vx_ofW (cc := cJ19_init_2) (maxL := 5) (ret := none) (by decide) rfl ?_
  intro p e s m args below meth c s₁ B hml hnt hv
  obtain ⟨rfl, hM, hK, hZ, hz⟩ := hv
  have hC : wC G s := ⟨hK, hZ, hz⟩
  have hx := B.exec
  have hb := B.bytes
  have hr := B.returns
  have hts := atoms_spec (ws := (ws_ yJ19_init_2 cJ19_init_2 5 (none))) B.pre
  have hts : ∀ w ∈ lw_all, w.before _ s = true := fun w h => hts w (List.mem_cons_of_mem _ h)
  have hown : s.vm.findClass RJ19 = some m.cls := findClass_of_methodNamed B.named
  have hlk := B.notSynchronized
  have hin0 : meth.name = "<init>" := (name_of_methodNamed B.named B.method).1
  have X : CallFix p m c cJ19_init_2 5 s ([.ref t0, .ref p1, va_rf p2] : List Value).toArray lw_all RJ19 := ⟨hx, hb, hml, hown, hts⟩
  have hS : va_S (wA G) s.heap s.heap [] := va_S.rf
  have hl := lv_entry ([.ref t0, .ref p1, va_rf p2]) (n := 5) (by cases p2 <;> exact Nat.le_of_ble_eq_true rfl)
  rw [lg_entry_eq]
  generalize (lg_sl ([.ref t0, .ref p1, va_rf p2]) ++ List.replicate (5 - (lg_sl ([.ref t0, .ref p1, va_rf p2])).length) Slot.unset).toArray = ls at hl ⊢
  have hl : lv_has ls 5 [(0, .ref t0), (1, .ref p1), (2, va_rf p2)] := by cases p2 <;> exact hl
  have hB : 0 + b ≤ ((headSpec (ws_ yJ19_init_2 cJ19_init_2 5 (none)) ({ frames := 15, cells := b, slots := b, locals := 467 })).room).cells ∧ 0 + b ≤ ((headSpec (ws_ yJ19_init_2 cJ19_init_2 5 (none)) ({ frames := 15, cells := b, slots := b, locals := 467 })).room).slots := ⟨Nat.le_of_eq (Nat.zero_add b), Nat.le_of_eq (Nat.zero_add b)⟩
  have hB97 : ∀ (M : wM) (bq : Nat) (H : Heap) (locs : List Loc) (ls : Array Slot) (cells slots : Nat), B_J19_init_2_97 G Q M bq → wR G M H → va_S (wA G) s.heap H locs → (cells + bq ≤ ((headSpec (ws_ yJ19_init_2 cJ19_init_2 5 (none)) ({ frames := 15, cells := b, slots := b, locals := 467 })).room).cells ∧ slots + bq ≤ ((headSpec (ws_ yJ19_init_2 cJ19_init_2 5 (none)) ({ frames := 15, cells := b, slots := b, locals := 467 })).room).slots) → lv_has ls 5 [] → W p l e (headSpec (ws_ yJ19_init_2 cJ19_init_2 5 (none)) ({ frames := 15, cells := b, slots := b, locals := 467 })).room s m ([.ref t0, .ref p1, va_rf p2] : List Value).toArray below meth c H locs cells slots (vx_MQ below (wQ G (wqV Q)) (wXC G wX0) ([.ref t0, .ref p1, va_rf p2] : List Value).toArray s b b (wA G)) (F0 m 97 ls []) := by
    intro M bq H locs ls cells slots hp hM hS hB hl
    exact x_vret X hr hlk hM hS (w_fin hB) dJ19_init_2_97 ⟨rfl, hp⟩
  have hB79 : ∀ (x0 : Nat) (x3 : Option Nat) (x4 : Int32) (M : wM) (bq : Nat) (H : Heap) (locs : List Loc) (ls : Array Slot) (cells slots : Nat), B_J19_init_2_79 G Q x0 x3 x4 M bq → wR G M H → va_S (wA G) s.heap H locs → (cells + bq ≤ ((headSpec (ws_ yJ19_init_2 cJ19_init_2 5 (none)) ({ frames := 15, cells := b, slots := b, locals := 467 })).room).cells ∧ slots + bq ≤ ((headSpec (ws_ yJ19_init_2 cJ19_init_2 5 (none)) ({ frames := 15, cells := b, slots := b, locals := 467 })).room).slots) → lv_has ls 5 [(0, .ref x0), (3, va_rf x3), (4, .int x4)] → W p l e (headSpec (ws_ yJ19_init_2 cJ19_init_2 5 (none)) ({ frames := 15, cells := b, slots := b, locals := 467 })).room s m ([.ref t0, .ref p1, va_rf p2] : List Value).toArray below meth c H locs cells slots (vx_MQ below (wQ G (wqV Q)) (wXC G wX0) ([.ref t0, .ref p1, va_rf p2] : List Value).toArray s b b (wA G)) (F0 m 79 ls []) := by
    intro x0 x3 x4 M bq H locs ls cells slots hp hM hS hB hl
    refine lv_aload_n hx hb dJ19_init_2_79 rfl (lv_at hl 0 rfl) ?_
    refine lv_iconst (v := 1) hx hb dJ19_init_2_80 (by decide) ?_
    refine x_putF X hC.1 hM hS (ci := 24) (C := RJ19) (T := TJ19) (N := 4) rfl in_J19 tyJ19 tyJ19_ok nmJ19 1 (by decide) q858 (fun _ h9 => h9) rfl hin0 rfl (by decide) (by decide) dJ19_init_2_81 hp (fun M1 H locs hM hS hp => ?_)
    refine lv_aload_n hx hb dJ19_init_2_84 rfl (lv_at hl 0 rfl) ?_
    refine x_aload_n (r := x3) hx hb dJ19_init_2_85 rfl (lv_at hl 1 rfl) ?_
    refine lv_iconst (v := 0) hx hb dJ19_init_2_86 (by decide) ?_
    refine lv_iload hx hb dJ19_init_2_87 (lv_at hl 2 rfl) ?_
    refine lv_iconst (v := 1) hx hb dJ19_init_2_89 (by decide) ?_
    refine lv_ishl hx hb dJ19_init_2_90 ?_
    obtain ⟨a2, ea, hqa2⟩ := hp
    subst ea
    have hp := hqa2
    have hl : lv_has ls 5 [(0, .ref x0), (3, .ref a2), (4, .int x4)] := hl
    obtain ⟨c4, hc1, hp⟩ := hp
    refine x_callR (vx_runS (As := [.ref a2, .int (0 : Int32), .int (x4 <<< ((1 : Int32) &&& 31))]) (rest := [.ref x0]) X (P_J5_copyOfRange_ok (l := l) hl0 hp) (va_cwS 3 hts (lw_S q795 q796 q156 q797) rfl rfl rfl (by decide +kernel) ⟨Nat.le_of_ble_eq_true rfl, Nat.le_of_ble_eq_true rfl⟩) ⟨wPc.blind, w_pre hC hM hS _⟩ rfl rfl hl.1 rfl (lv_room (Nat.le_of_ble_eq_true rfl)) dJ19_init_2_91 (w_room hB hc1)) hS hB hc1 (fun _ _ _ _ _ _ h => False.elim h) (fun r5 M3 H locs hp hM hS hB => ?_)
    refine x_putF X hC.1 hM hS (ci := 24) (C := RJ19) (T := TJ19) (N := 4) rfl in_J19 tyJ19 tyJ19_ok nmJ19 0 (by decide) q857 (fun _ h9 => h9) rfl hin0 rfl (w_narr _ r5) (w_farr _ r5) dJ19_init_2_94 hp (fun M6 H locs hM hS hp => ?_)
    exact hB97 _ _ _ _ _ _ _ hp hM hS hB (lv_sub hl [] rfl)
  refine lv_aload_n hx hb dJ19_init_2_0 rfl (lv_at hl 0 rfl) ?_
  refine W.objInit hx hb hown (hts _ q780) (hts _ q218) (hts _ q219) rfl (by rw [hml]; exact hl.1) rfl dJ19_init_2_1 (Nat.le_of_ble_eq_true rfl) (Nat.le_of_ble_eq_true rfl) ?_
  refine W.eq (g2 := F0 m 4 ls []) rfl ?_
  refine lv_aload_n hx hb dJ19_init_2_4 rfl (lv_at hl 1 rfl) ?_
  obtain ⟨hrec, hp⟩ := hp
  refine x_call0R (vx_runU (As := []) (rest := []) X (P_J17_getValue_J18_ok (l := l) hl0 hp) (va_cwU 0 hts (lw_app (w_mem5 q781 q783 q784 q782 q169) (lw_meth q785)) rfl rfl rfl rfl (by decide +kernel) ⟨Nat.le_of_ble_eq_true rfl, Nat.le_of_ble_eq_true rfl⟩) ⟨wPc.blind, w_recv hC.1 hM (ci := 23) (q := (RJ18, TJ18, 4)) rfl hrec, w_pre hC hM hS _⟩ rfl rfl hl.1 rfl (lv_room (Nat.le_of_ble_eq_true rfl)) dJ19_init_2_5 (w_room0 hB)) hS (w_room0 hB) (fun _ _ _ _ _ _ h => False.elim h) (fun r3 M1 H locs hp hM hS => ?_)
  refine x_astore_n (r := r3) (lv' := [(3, va_rf r3), (0, .ref t0), (1, .ref p1), (2, va_rf p2)]) hx hb dJ19_init_2_8 rfl hl (by decide) (by cases p2 <;> rfl) (fun ls hl => ?_)
  refine lv_aload_n hx hb dJ19_init_2_9 rfl (lv_at hl 2 rfl) ?_
  obtain ⟨hrec, hp⟩ := hp
  refine x_call0I (vx_runU (As := []) (rest := []) X (P_J18_length_ok (l := l) hl0 hp) (va_cwO (owner := "java/lang/AbstractStringBuilder") 0 hts (lw_app (w_mem6 q786 q788 q787 q789 q790 q170) (lw_meth q791)) rfl rfl rfl q793 (by decide +kernel) ⟨Nat.le_of_ble_eq_true rfl, Nat.le_of_ble_eq_true rfl⟩) ⟨wPc.blind, w_recv hC.1 hM (ci := 23) (q := (RJ18, TJ18, 4)) rfl hrec, w_pre hC hM hS _⟩ rfl rfl hl.1 rfl (lv_room (Nat.le_of_ble_eq_true rfl)) dJ19_init_2_10 (w_room0 hB)) hS (w_room0 hB) (fun _ _ _ _ _ _ h => False.elim h) (fun v6 M4 H locs hp hM hS => ?_)
  refine lv_istore (lv' := [(4, .int v6), (3, va_rf r3), (0, .ref t0), (1, .ref p1), (2, va_rf p2)]) hx hb dJ19_init_2_13 hl (by decide) (by cases r3 <;> rfl) (fun ls hl => ?_)
  refine lv_aload_n hx hb dJ19_init_2_15 rfl (lv_at hl 3 rfl) ?_
  obtain ⟨hrec, hp⟩ := hp
  refine x_call0Z (vx_runU (As := []) (rest := []) X (P_J17_isLatin1_J18_ok (l := l) hl0 hp) (va_cwU 0 hts (lw_app (w_mem5 q794 q665 q666 q664 q169) (lw_meth q667)) rfl rfl rfl rfl (by decide +kernel) ⟨Nat.le_of_ble_eq_true rfl, Nat.le_of_ble_eq_true rfl⟩) ⟨wPc.blind, w_recv hC.1 hM (ci := 23) (q := (RJ18, TJ18, 4)) rfl hrec, w_pre hC hM hS _⟩ rfl rfl hl.1 rfl (lv_room (Nat.le_of_ble_eq_true rfl)) dJ19_init_2_16 (w_room0 hB)) hS (w_room0 hB) (fun _ _ _ _ _ _ h => False.elim h) (fun r9 M7 H locs hp hM hS => ?_)
  refine x_ifeqB (tgt := 41) hx hb dJ19_init_2_19 (by decide) (fun hc => ?_) (fun hc => ?_)
  · have hp := oIf.bf hp hc
    refine x_gets X hC hS (C := "java/lang/String") (n := "COMPACT_STRINGS") (d := "Z") (v := .inl 1) (List.mem_of_getElem? (i := 0) rfl) q702 (fun _ h9 => h9) dJ19_init_2_41 ?_
    refine lv_if_eq (tgt := 79) hx hb dJ19_init_2_44 (by decide) (fun hc => ?_) (fun hc => ?_)
    · have hp := oIf.t hp hc
      exact hB79 _ _ _ _ _ _ _ _ _ _ hp hM hS hB (lv_sub hl [2, 1, 0] rfl)
    · have hp := oIf.f hp hc
      refine lv_aload_n hx hb dJ19_init_2_47 rfl (lv_at hl 3 rfl) ?_
      refine x_getI X hC.1 hM (ci := 23) (C := RJ18) (T := TJ18) (N := 4) rfl in_J18 2 (by decide) q619 (fun _ h9 => h9) dJ19_init_2_48 hp (fun v10 hp => ?_)
      refine lv_if_eq (tgt := 79) hx hb dJ19_init_2_51 (by decide) (fun hc => ?_) (fun hc => ?_)
      · have hp := oIf.t hp hc
        exact hB79 _ _ _ _ _ _ _ _ _ _ hp hM hS hB (lv_sub hl [2, 1, 0] rfl)
      · have hp := oIf.f hp hc
        exact hp.elim
  · have hp := oIf.bt hp hc
    refine lv_aload_n hx hb dJ19_init_2_22 rfl (lv_at hl 2 rfl) ?_
    refine lv_iconst (v := 0) hx hb dJ19_init_2_23 (by decide) ?_
    refine x_putF X hC.1 hM hS (ci := 24) (C := RJ19) (T := TJ19) (N := 4) rfl in_J19 tyJ19 tyJ19_ok nmJ19 1 (by decide) q858 (fun _ h9 => h9) rfl hin0 rfl (by decide) (by decide) dJ19_init_2_24 hp (fun M11 H locs hM hS hp => ?_)
    refine lv_aload_n hx hb dJ19_init_2_27 rfl (lv_at hl 2 rfl) ?_
    refine x_aload_n (r := r3) hx hb dJ19_init_2_28 rfl (lv_at hl 1 rfl) ?_
    refine lv_iconst (v := 0) hx hb dJ19_init_2_29 (by decide) ?_
    refine lv_iload hx hb dJ19_init_2_30 (lv_at hl 0 rfl) ?_
    obtain ⟨a12, ea, hqa12⟩ := hp
    subst ea
    have hp := hqa12
    have hl : lv_has ls 5 [(4, .int v6), (3, .ref a12), (0, .ref t0), (1, .ref p1), (2, va_rf p2)] := hl
    obtain ⟨c14, hc1, hp⟩ := hp
    refine x_callR (vx_runS (As := [.ref a12, .int (0 : Int32), .int v6]) (rest := [.ref t0]) X (P_J5_copyOfRange_ok (l := l) hl0 hp) (va_cwS 3 hts (lw_S q795 q796 q156 q797) rfl rfl rfl (by decide +kernel) ⟨Nat.le_of_ble_eq_true rfl, Nat.le_of_ble_eq_true rfl⟩) ⟨wPc.blind, w_pre hC hM hS _⟩ rfl rfl hl.1 rfl (lv_room (Nat.le_of_ble_eq_true rfl)) dJ19_init_2_32 (w_room hB hc1)) hS hB hc1 (fun _ _ _ _ _ _ h => False.elim h) (fun r15 M13 H locs hp hM hS hB => ?_)
    refine x_putF X hC.1 hM hS (ci := 24) (C := RJ19) (T := TJ19) (N := 4) rfl in_J19 tyJ19 tyJ19_ok nmJ19 0 (by decide) q857 (fun _ h9 => h9) rfl hin0 rfl (w_narr _ r15) (w_farr _ r15) dJ19_init_2_35 hp (fun M16 H locs hM hS hp => ?_)
    refine lv_goto (tgt := 97) hx hb dJ19_init_2_38 (by decide) ?_
    exact hB97 _ _ _ _ _ _ _ hp hM hS hB (lv_sub hl [] rfl)
def P_J19_init (G : wG) (t0 : Nat) (p1 : Nat) (b : Nat) (M : wM) (Q : wM → Prop) : Prop :=
  ∃ c2, c2 ≤ b ∧ P_J19_init_2 G t0 p1 none c2 M (fun M1 => Q M1)
set_option maxHeartbeats 4000000 in
set_option maxRecDepth 100000 in
theorem P_J19_init_ok {l : Launch} (hl0 : l.stackTraces = false) {G : wG} {t0 : Nat} {p1 : Nat} {b : Nat} {M : wM} {Q : wM → Prop} (hp : P_J19_init G t0 p1 b M Q) : wMet l yJ19_init (ws_ yJ19_init cJ19_init 2 (none)) 16 491 G [.ref t0, .ref p1] M b (wqV Q) wX0 := by
  refine vx_ofW (cc := cJ19_init) (maxL := 2) (ret := none) (by decide) rfl ?_
  intro p e s m args below meth c s₁ B hml hnt hv
  obtain ⟨rfl, hM, hK, hZ, hz⟩ := hv
  have hC : wC G s := ⟨hK, hZ, hz⟩
  have hx := B.exec
  have hb := B.bytes
  have hr := B.returns
  have hts := atoms_spec (ws := (ws_ yJ19_init cJ19_init 2 (none))) B.pre
  have hts : ∀ w ∈ lw_all, w.before _ s = true := fun w h => hts w (List.mem_cons_of_mem _ h)
  have hown : s.vm.findClass RJ19 = some m.cls := findClass_of_methodNamed B.named
  have hlk := B.notSynchronized
  have hin0 : meth.name = "<init>" := (name_of_methodNamed B.named B.method).1
  have X : CallFix p m c cJ19_init 2 s ([.ref t0, .ref p1] : List Value).toArray lw_all RJ19 := ⟨hx, hb, hml, hown, hts⟩
  have hS : va_S (wA G) s.heap s.heap [] := va_S.rf
  have hl := lv_entry ([.ref t0, .ref p1]) (n := 2) (Nat.le_of_ble_eq_true rfl)
  rw [lg_entry_eq]
  generalize (lg_sl ([.ref t0, .ref p1]) ++ List.replicate (2 - (lg_sl ([.ref t0, .ref p1])).length) Slot.unset).toArray = ls at hl ⊢
  have hl : lv_has ls 2 [(0, .ref t0), (1, .ref p1)] := hl
  have hB : 0 + b ≤ ((headSpec (ws_ yJ19_init cJ19_init 2 (none)) ({ frames := 16, cells := b, slots := b, locals := 491 })).room).cells ∧ 0 + b ≤ ((headSpec (ws_ yJ19_init cJ19_init 2 (none)) ({ frames := 16, cells := b, slots := b, locals := 491 })).room).slots := ⟨Nat.le_of_eq (Nat.zero_add b), Nat.le_of_eq (Nat.zero_add b)⟩
  refine lv_aload_n hx hb dJ19_init_0 rfl (lv_at hl 0 rfl) ?_
  refine lv_aload_n hx hb dJ19_init_1 rfl (lv_at hl 1 rfl) ?_
  refine lv_null hx hb dJ19_init_2 ?_
  obtain ⟨c2, hc1, hp⟩ := hp
  refine x_callV (vx_runI (As := [.ref p1, va_rf none]) (rest := []) X (P_J19_init_2_ok (l := l) hl0 hp) (cwI 2 hts (lw_meth q779) rfl rfl rfl (hts _ q171) (hts _ q777) (hts _ q778) rfl (by decide +kernel) ⟨Nat.le_of_ble_eq_true rfl, Nat.le_of_ble_eq_true rfl⟩) ⟨wPc.blind, w_pre hC hM hS _⟩ rfl rfl hl.1 rfl (lv_room (Nat.le_of_ble_eq_true rfl)) dJ19_init_3 (w_room hB hc1)) hS hB hc1 (fun _ _ _ _ _ _ h => False.elim h) (fun M1 H locs hp hM hS hB => ?_)
  exact x_vret X hr hlk hM hS (w_fin hB) dJ19_init_6 ⟨rfl, hp⟩
def P_J18_toString (G : wG) (t0 : Nat) (b : Nat) (M : wM) (Q : Option Nat → wM → Prop) : Prop :=
  oNew G M b 24 [.null, .int 0, .int 0, .int 0] (fun a1 M2 b3 => ∃ c5, c5 ≤ b3 ∧ P_J19_init G a1 t0 c5 M2 (fun M4 => Q (some a1) M4))
set_option maxHeartbeats 4000000 in
set_option maxRecDepth 100000 in
theorem P_J18_toString_ok {l : Launch} (hl0 : l.stackTraces = false) {G : wG} {t0 : Nat} {b : Nat} {M : wM} {Q : Option Nat → wM → Prop} (hp : P_J18_toString G t0 b M Q) : wMet l yJ18_toString (ws_ yJ18_toString cJ18_toString 1 (Option.some (Jvm.ClassFile.FieldType.object "java/lang/String"))) 17 512 G [.ref t0] M b (wqR Q) wX0 := by
  refine vx_ofW (cc := cJ18_toString) (maxL := 1) (ret := Option.some (Jvm.ClassFile.FieldType.object "java/lang/String")) (by decide) rfl ?_
  intro p e s m args below meth c s₁ B hml hnt hv
  obtain ⟨rfl, hM, hK, hZ, hz⟩ := hv
  have hC : wC G s := ⟨hK, hZ, hz⟩
  have hx := B.exec
  have hb := B.bytes
  have hr := B.returns
  have hts := atoms_spec (ws := (ws_ yJ18_toString cJ18_toString 1 (Option.some (Jvm.ClassFile.FieldType.object "java/lang/String")))) B.pre
  have hts : ∀ w ∈ lw_all, w.before _ s = true := fun w h => hts w (List.mem_cons_of_mem _ h)
  have hown : s.vm.findClass RJ18 = some m.cls := findClass_of_methodNamed B.named
  have hlk := B.notSynchronized
  have X : CallFix p m c cJ18_toString 1 s ([.ref t0] : List Value).toArray lw_all RJ18 := ⟨hx, hb, hml, hown, hts⟩
  have hS : va_S (wA G) s.heap s.heap [] := va_S.rf
  have hl := lv_entry ([.ref t0]) (n := 1) (Nat.le_of_ble_eq_true rfl)
  rw [lg_entry_eq]
  generalize (lg_sl ([.ref t0]) ++ List.replicate (1 - (lg_sl ([.ref t0])).length) Slot.unset).toArray = ls at hl ⊢
  have hl : lv_has ls 1 [(0, .ref t0)] := hl
  have hB : 0 + b ≤ ((headSpec (ws_ yJ18_toString cJ18_toString 1 (Option.some (Jvm.ClassFile.FieldType.object "java/lang/String"))) ({ frames := 17, cells := b, slots := b, locals := 512 })).room).cells ∧ 0 + b ≤ ((headSpec (ws_ yJ18_toString cJ18_toString 1 (Option.some (Jvm.ClassFile.FieldType.object "java/lang/String"))) ({ frames := 17, cells := b, slots := b, locals := 512 })).room).slots := ⟨Nat.le_of_eq (Nat.zero_add b), Nat.le_of_eq (Nat.zero_add b)⟩
  refine x_new X hC hM hS hB (ci := 24) (C := RJ19) (T := TJ19) (N := 4) rfl in_J19 tyJ19 tyJ19_ok q772 q773 q171 rfl (by decide) dJ18_toString_0 hp (fun a1 M2 H b3 cells slots hM hS hB hp => ?_)
  refine lv_dup hx hb dJ18_toString_3 rfl ?_
  refine lv_aload_n hx hb dJ18_toString_4 rfl (lv_at hl 0 rfl) ?_
  obtain ⟨c5, hc1, hp⟩ := hp
  refine x_callV (vx_runI (As := [.ref t0]) (rest := [.ref a1]) X (P_J19_init_ok (l := l) hl0 hp) (cwI 1 hts (lw_meth q776) rfl rfl rfl (hts _ q171) (hts _ q774) (hts _ q775) rfl (by decide +kernel) ⟨Nat.le_of_ble_eq_true rfl, Nat.le_of_ble_eq_true rfl⟩) ⟨wPc.blind, w_pre hC hM hS _⟩ rfl rfl hl.1 rfl (lv_room (Nat.le_of_ble_eq_true rfl)) dJ18_toString_5 (w_room hB hc1)) hS hB hc1 (fun _ _ _ _ _ _ h => False.elim h) (fun M4 H locs hp hM hS hB => ?_)
  exact x_aret (v := (some a1)) X hr (by first | exact Or.inl ⟨_, rfl⟩ | exact Or.inr ⟨_, rfl⟩) hlk hM hS (w_fin hB) dJ18_toString_8 ⟨(some a1), rfl, hp⟩
def B_J21_equals_9 (G : wG) (rec9 : Nat → Nat → Int32 → wM → Prop) (Q : Bool → wM → Prop) (x0 : Nat) (x1 : Nat) (x2 : Int32) (M : wM) : Prop :=
  oAlen .byte M x0 (fun v1 => oIf (v1 ≤ x2) (Q true M) (oIald .byte M x0 x2 (fun v2 => oIald .byte M x1 x2 (fun v3 => oIf (v2 = v3) (rec9 x0 x1 (x2 + 1) M) (Q false M)))))
def L_J21_equals_9 (G : wG) (Q : Bool → wM → Prop) : Nat → Nat → Nat → Int32 → wM → Prop
  | 0 => fun _ _ _ _ => False
  | n + 1 => B_J21_equals_9 G (L_J21_equals_9 G Q n) Q
def P_J21_equals (G : wG) (p1 : Nat) (p2 : Nat) (M : wM) (Q : Bool → wM → Prop) : Prop :=
  oAlen .byte M p1 (fun v1 => oAlen .byte M p2 (fun v2 => oIf (v1 = v2) (∃ n, L_J21_equals_9 G Q n p1 p2 (0 : Int32) M) (Q false M)))
set_option maxHeartbeats 4000000 in
set_option maxRecDepth 100000 in
theorem P_J21_equals_ok {l : Launch} (hl0 : l.stackTraces = false) {G : wG} {p1 : Nat} {p2 : Nat} {M : wM} {Q : Bool → wM → Prop} (hp : P_J21_equals G p1 p2 M Q) : wMet l yJ21_equals (ws_ yJ21_equals cJ21_equals 3 (Option.some Jvm.ClassFile.FieldType.boolean)) 12 400 G [.ref p1, .ref p2] M 0 (wqZ Q) wX0 := by
  refine vx_ofW (cc := cJ21_equals) (maxL := 3) (ret := Option.some Jvm.ClassFile.FieldType.boolean) (by decide) rfl ?_
  intro p e s m args below meth c s₁ B hml hnt hv
  obtain ⟨rfl, hM, hK, hZ, hz⟩ := hv
  have hC : wC G s := ⟨hK, hZ, hz⟩
  have hx := B.exec
  have hb := B.bytes
  have hr := B.returns
  have hts := atoms_spec (ws := (ws_ yJ21_equals cJ21_equals 3 (Option.some Jvm.ClassFile.FieldType.boolean))) B.pre
  have hts : ∀ w ∈ lw_all, w.before _ s = true := fun w h => hts w (List.mem_cons_of_mem _ h)
  have hown : s.vm.findClass RJ21 = some m.cls := findClass_of_methodNamed B.named
  have hlk := B.notSynchronized
  have X : CallFix p m c cJ21_equals 3 s ([.ref p1, .ref p2] : List Value).toArray lw_all RJ21 := ⟨hx, hb, hml, hown, hts⟩
  have hS : va_S (wA G) s.heap s.heap [] := va_S.rf
  have hl := lv_entry ([.ref p1, .ref p2]) (n := 3) (Nat.le_of_ble_eq_true rfl)
  rw [lg_entry_eq]
  generalize (lg_sl ([.ref p1, .ref p2]) ++ List.replicate (3 - (lg_sl ([.ref p1, .ref p2])).length) Slot.unset).toArray = ls at hl ⊢
  have hl : lv_has ls 3 [(0, .ref p1), (1, .ref p2)] := hl
  have hB9 : ∀ (rec9 : Nat → Nat → Int32 → wM → Prop) (hrec9 : ∀ (x0 : Nat) (x1 : Nat) (x2 : Int32) (M : wM) (H : Heap) (locs : List Loc) (ls : Array Slot), rec9 x0 x1 x2 M → wR G M H → va_S (wA G) s.heap H locs → lv_has ls 3 [(0, .ref x0), (1, .ref x1), (2, .int x2)] → W p l e (headSpec (ws_ yJ21_equals cJ21_equals 3 (Option.some Jvm.ClassFile.FieldType.boolean)) ({ frames := 12, cells := 0, slots := 0, locals := 400 })).room s m ([.ref p1, .ref p2] : List Value).toArray below meth c H locs 0 0 (vx_MQ below (wQ G (wqZ Q)) (wXC G wX0) ([.ref p1, .ref p2] : List Value).toArray s 0 0 (wA G)) (F0 m 9 ls [])), ∀ (x0 : Nat) (x1 : Nat) (x2 : Int32) (M : wM) (H : Heap) (locs : List Loc) (ls : Array Slot), B_J21_equals_9 G rec9 Q x0 x1 x2 M → wR G M H → va_S (wA G) s.heap H locs → lv_has ls 3 [(0, .ref x0), (1, .ref x1), (2, .int x2)] → W p l e (headSpec (ws_ yJ21_equals cJ21_equals 3 (Option.some Jvm.ClassFile.FieldType.boolean)) ({ frames := 12, cells := 0, slots := 0, locals := 400 })).room s m ([.ref p1, .ref p2] : List Value).toArray below meth c H locs 0 0 (vx_MQ below (wQ G (wqZ Q)) (wXC G wX0) ([.ref p1, .ref p2] : List Value).toArray s 0 0 (wA G)) (F0 m 9 ls []) := by
    intro rec9 hrec9 x0 x1 x2 M H locs ls hp hM hS hl
    refine lv_iload_n hx hb dJ21_equals_9 rfl (lv_at hl 2 rfl) ?_
    refine lv_aload_n hx hb dJ21_equals_10 rfl (lv_at hl 0 rfl) ?_
    refine x_alen X hC.1 hM (ty := .byte) (by decide) dJ21_equals_11 hp (fun v1 hp => ?_)
    refine lv_icmp_ge (tgt := 32) hx hb dJ21_equals_12 (by decide) (fun hc => ?_) (fun hc => ?_)
    · have hp := oIf.t hp hc
      refine lv_iconst (v := 1) hx hb dJ21_equals_32 (by decide) ?_
      exact x_zret X hr hlk hM hS ⟨Nat.le_refl _, Nat.le_refl _⟩ (by decide) dJ21_equals_33 ⟨true, rfl, hp⟩
    · have hp := oIf.f hp hc
      refine lv_aload_n hx hb dJ21_equals_15 rfl (lv_at hl 0 rfl) ?_
      refine lv_iload_n hx hb dJ21_equals_16 rfl (lv_at hl 2 rfl) ?_
      refine x_bald X hC.1 hM dJ21_equals_17 hp (fun v2 hp => ?_)
      refine lv_aload_n hx hb dJ21_equals_18 rfl (lv_at hl 1 rfl) ?_
      refine lv_iload_n hx hb dJ21_equals_19 rfl (lv_at hl 2 rfl) ?_
      refine x_bald X hC.1 hM dJ21_equals_20 hp (fun v3 hp => ?_)
      refine lv_icmp_eq (tgt := 26) hx hb dJ21_equals_21 (by decide) (fun hc => ?_) (fun hc => ?_)
      · have hp := oIf.t hp hc
        refine lv_iinc (v := (x2 + 1)) (lv' := [(2, .int (x2 + 1)), (0, .ref x0), (1, .ref x1)]) hx hb dJ21_equals_26 hl (k := 2) rfl rfl (by decide) rfl (fun ls hl => ?_)
        refine lv_goto (tgt := 9) hx hb dJ21_equals_29 (by decide) ?_
        exact hrec9 _ _ _ _ _ _ _ hp hM hS (lv_sub hl [1, 2, 0] rfl)
      · have hp := oIf.f hp hc
        refine lv_iconst (v := 0) hx hb dJ21_equals_24 (by decide) ?_
        exact x_zret X hr hlk hM hS ⟨Nat.le_refl _, Nat.le_refl _⟩ (by decide) dJ21_equals_25 ⟨false, rfl, hp⟩
  have hL9 : ∀ (n : Nat), ∀ (x0 : Nat) (x1 : Nat) (x2 : Int32) (M : wM) (H : Heap) (locs : List Loc) (ls : Array Slot), L_J21_equals_9 G Q n x0 x1 x2 M → wR G M H → va_S (wA G) s.heap H locs → lv_has ls 3 [(0, .ref x0), (1, .ref x1), (2, .int x2)] → W p l e (headSpec (ws_ yJ21_equals cJ21_equals 3 (Option.some Jvm.ClassFile.FieldType.boolean)) ({ frames := 12, cells := 0, slots := 0, locals := 400 })).room s m ([.ref p1, .ref p2] : List Value).toArray below meth c H locs 0 0 (vx_MQ below (wQ G (wqZ Q)) (wXC G wX0) ([.ref p1, .ref p2] : List Value).toArray s 0 0 (wA G)) (F0 m 9 ls []) := by
    intro n
    induction n with
    | zero => intro _ _ _ _ _ _ _ hp; exact False.elim hp
    | succ n ih => intro x0 x1 x2 M H locs ls hp hM hS hl; exact hB9 (L_J21_equals_9 G Q n) ih _ _ _ _ _ _ _ hp hM hS hl
  refine lv_aload_n hx hb dJ21_equals_0 rfl (lv_at hl 0 rfl) ?_
  refine x_alen X hC.1 hM (ty := .byte) (by decide) dJ21_equals_1 hp (fun v1 hp => ?_)
  refine lv_aload_n hx hb dJ21_equals_2 rfl (lv_at hl 1 rfl) ?_
  refine x_alen X hC.1 hM (ty := .byte) (by decide) dJ21_equals_3 hp (fun v2 hp => ?_)
  refine lv_icmp_ne (tgt := 34) hx hb dJ21_equals_4 (by decide) (fun hc => ?_) (fun hc => ?_)
  · have hp := oIf.f hp hc
    refine lv_iconst (v := 0) hx hb dJ21_equals_34 (by decide) ?_
    exact x_zret X hr hlk hM hS ⟨Nat.le_refl _, Nat.le_refl _⟩ (by decide) dJ21_equals_35 ⟨false, rfl, hp⟩
  · have hp := oIf.t hp hc
    refine lv_iconst (v := 0) hx hb dJ21_equals_7 (by decide) ?_
    refine lv_istore_n (lv' := [(2, .int (0 : Int32)), (0, .ref p1), (1, .ref p2)]) hx hb dJ21_equals_8 rfl hl (by decide) rfl (fun ls hl => ?_)
    obtain ⟨n, hp⟩ := hp
    exact hL9 n _ _ _ _ _ _ _ hp hM hS (lv_sub hl [1, 2, 0] rfl)
def B_J19_equals_55 (G : wG) (Q : Bool → wM → Prop) (y0 : Int32) (M : wM) : Prop :=
  ∃ r : Bool, y0 = wb r ∧ Q r M
def B_J19_equals_54 (G : wG) (Q : Bool → wM → Prop) (M : wM) : Prop :=
  B_J19_equals_55 G Q (0 : Int32) M
def B_J19_equals_36 (G : wG) (Q : Bool → wM → Prop) (x0 : Nat) (x2 : Nat) (M : wM) : Prop :=
  oGetA M x0 24 0 (fun a1 => oGetA M x2 24 0 (fun a2 => P_J21_equals G a1 a2 M (fun r5 M3 => oIf (r5 = true) (B_J19_equals_55 G Q (1 : Int32) M3) (B_J19_equals_54 G Q M3))))
def P_J19_equals (G : wG) (t0 : Nat) (p1 : Option Nat) (M : wM) (Q : Bool → wM → Prop) : Prop :=
  oIf ((some t0) = p1) (Q true M) (oRef p1 (fun a1 => oIs M a1 24 (oIf ((1 : Int32) = 0) (B_J19_equals_54 G Q M) (oCast M (some a1) 24 (oIf ((1 : Int32) = 0) (B_J19_equals_36 G Q t0 a1 M) (oGetI M t0 24 1 (fun v2 => oGetI M a1 24 1 (fun v3 => oIf (v2 = v3) (B_J19_equals_36 G Q t0 a1 M) (B_J19_equals_54 G Q M)))))))))
set_option maxHeartbeats 4000000 in
set_option maxRecDepth 100000 in
theorem P_J19_equals_ok {l : Launch} (hl0 : l.stackTraces = false) {G : wG} {t0 : Nat} {p1 : Option Nat} {M : wM} {Q : Bool → wM → Prop} (hp : P_J19_equals G t0 p1 M Q) : wMet l yJ19_equals (ws_ yJ19_equals cJ19_equals 3 (Option.some Jvm.ClassFile.FieldType.boolean)) 13 422 G [.ref t0, va_rf p1] M 0 (wqZ Q) wX0 := by
  refine vx_ofW (cc := cJ19_equals) (maxL := 3) (ret := Option.some Jvm.ClassFile.FieldType.boolean) (by decide) rfl ?_
  intro p e s m args below meth c s₁ B hml hnt hv
  obtain ⟨rfl, hM, hK, hZ, hz⟩ := hv
  have hC : wC G s := ⟨hK, hZ, hz⟩
  have hx := B.exec
  have hb := B.bytes
  have hr := B.returns
  have hts := atoms_spec (ws := (ws_ yJ19_equals cJ19_equals 3 (Option.some Jvm.ClassFile.FieldType.boolean))) B.pre
  have hts : ∀ w ∈ lw_all, w.before _ s = true := fun w h => hts w (List.mem_cons_of_mem _ h)
  have hown : s.vm.findClass RJ19 = some m.cls := findClass_of_methodNamed B.named
  have hlk := B.notSynchronized
  have X : CallFix p m c cJ19_equals 3 s ([.ref t0, va_rf p1] : List Value).toArray lw_all RJ19 := ⟨hx, hb, hml, hown, hts⟩
  have hS : va_S (wA G) s.heap s.heap [] := va_S.rf
  have hl := lv_entry ([.ref t0, va_rf p1]) (n := 3) (by cases p1 <;> exact Nat.le_of_ble_eq_true rfl)
  rw [lg_entry_eq]
  generalize (lg_sl ([.ref t0, va_rf p1]) ++ List.replicate (3 - (lg_sl ([.ref t0, va_rf p1])).length) Slot.unset).toArray = ls at hl ⊢
  have hl : lv_has ls 3 [(0, .ref t0), (1, va_rf p1)] := by cases p1 <;> exact hl
  have hB55 : ∀ (y0 : Int32) (M : wM) (H : Heap) (locs : List Loc) (ls : Array Slot), B_J19_equals_55 G Q y0 M → wR G M H → va_S (wA G) s.heap H locs → lv_has ls 3 [] → W p l e (headSpec (ws_ yJ19_equals cJ19_equals 3 (Option.some Jvm.ClassFile.FieldType.boolean)) ({ frames := 13, cells := 0, slots := 0, locals := 422 })).room s m ([.ref t0, va_rf p1] : List Value).toArray below meth c H locs 0 0 (vx_MQ below (wQ G (wqZ Q)) (wXC G wX0) ([.ref t0, va_rf p1] : List Value).toArray s 0 0 (wA G)) (F0 m 55 ls [.int y0]) := by
    intro y0 M H locs ls hp hM hS hl
    obtain ⟨r, hr0, hp⟩ := hp
    exact x_zret X hr hlk hM hS ⟨Nat.le_refl _, Nat.le_refl _⟩ (by rw [hr0]; exact w_nz _) dJ19_equals_55 ⟨r, by rw [hr0], hp⟩
  have hB54 : ∀ (M : wM) (H : Heap) (locs : List Loc) (ls : Array Slot), B_J19_equals_54 G Q M → wR G M H → va_S (wA G) s.heap H locs → lv_has ls 3 [] → W p l e (headSpec (ws_ yJ19_equals cJ19_equals 3 (Option.some Jvm.ClassFile.FieldType.boolean)) ({ frames := 13, cells := 0, slots := 0, locals := 422 })).room s m ([.ref t0, va_rf p1] : List Value).toArray below meth c H locs 0 0 (vx_MQ below (wQ G (wqZ Q)) (wXC G wX0) ([.ref t0, va_rf p1] : List Value).toArray s 0 0 (wA G)) (F0 m 54 ls []) := by
    intro M H locs ls hp hM hS hl
    refine lv_iconst (v := 0) hx hb dJ19_equals_54 (by decide) ?_
    exact hB55 _ _ _ _ _ hp hM hS (lv_sub hl [] rfl)
  have hB36 : ∀ (x0 : Nat) (x2 : Nat) (M : wM) (H : Heap) (locs : List Loc) (ls : Array Slot), B_J19_equals_36 G Q x0 x2 M → wR G M H → va_S (wA G) s.heap H locs → lv_has ls 3 [(0, .ref x0), (2, .ref x2)] → W p l e (headSpec (ws_ yJ19_equals cJ19_equals 3 (Option.some Jvm.ClassFile.FieldType.boolean)) ({ frames := 13, cells := 0, slots := 0, locals := 422 })).room s m ([.ref t0, va_rf p1] : List Value).toArray below meth c H locs 0 0 (vx_MQ below (wQ G (wqZ Q)) (wXC G wX0) ([.ref t0, va_rf p1] : List Value).toArray s 0 0 (wA G)) (F0 m 36 ls []) := by
    intro x0 x2 M H locs ls hp hM hS hl
    refine lv_aload_n hx hb dJ19_equals_36 rfl (lv_at hl 0 rfl) ?_
    refine x_getA X hC.1 hM (ci := 24) (C := RJ19) (T := TJ19) (N := 4) rfl in_J19 0 (by decide) q857 (fun _ h9 => h9) dJ19_equals_37 hp (fun a1 hp => ?_)
    refine lv_aload_n hx hb dJ19_equals_40 rfl (lv_at hl 1 rfl) ?_
    refine x_getA X hC.1 hM (ci := 24) (C := RJ19) (T := TJ19) (N := 4) rfl in_J19 0 (by decide) q857 (fun _ h9 => h9) dJ19_equals_41 hp (fun a2 hp => ?_)
    refine x_call0Z (vx_runS (As := [.ref a1, .ref a2]) (rest := []) X (P_J21_equals_ok (l := l) hl0 hp) (va_cwS 2 hts (lw_S q1231 q1232 q173 q1233) rfl rfl rfl (by decide +kernel) ⟨Nat.le_of_ble_eq_true rfl, Nat.le_of_ble_eq_true rfl⟩) ⟨wPc.blind, w_pre hC hM hS _⟩ rfl rfl hl.1 rfl (lv_room (Nat.le_of_ble_eq_true rfl)) dJ19_equals_44 ⟨Nat.le_refl _, Nat.le_refl _⟩) hS ⟨Nat.le_refl _, Nat.le_refl _⟩ (fun _ _ _ _ _ _ h => False.elim h) (fun r5 M3 H locs hp hM hS => ?_)
    refine x_ifeqB (tgt := 54) hx hb dJ19_equals_47 (by decide) (fun hc => ?_) (fun hc => ?_)
    · have hp := oIf.bf hp hc
      exact hB54 _ _ _ _ hp hM hS (lv_sub hl [] rfl)
    · have hp := oIf.bt hp hc
      refine lv_iconst (v := 1) hx hb dJ19_equals_50 (by decide) ?_
      refine lv_goto (tgt := 55) hx hb dJ19_equals_51 (by decide) ?_
      exact hB55 _ _ _ _ _ hp hM hS (lv_sub hl [] rfl)
  refine lv_aload_n hx hb dJ19_equals_0 rfl (lv_at hl 0 rfl) ?_
  refine x_aload_n (r := p1) hx hb dJ19_equals_1 rfl (lv_at hl 1 rfl) ?_
  refine lv_acmp_ne (rx := (some t0)) (ry := p1) (tgt := 7) hx hb dJ19_equals_2 (by decide) (fun hc => ?_) (fun hc => ?_)
  · have hp := oIf.f hp hc
    refine x_aload_n (r := p1) hx hb dJ19_equals_7 rfl (lv_at hl 1 rfl) ?_
    obtain ⟨a1, ea, hqa1⟩ := hp
    subst ea
    have hp := hqa1
    have hl : lv_has ls 3 [(0, .ref t0), (1, .ref a1)] := hl
    obtain ⟨hrec, hp⟩ := hp
    refine va_instE hx hb hown (hts _ q1230) (w_recv hC.1 hM (ci := 24) rfl hrec) dJ19_equals_8 ?_
    refine lv_if_eq (tgt := 54) hx hb dJ19_equals_11 (by decide) (fun hc => ?_) (fun hc => ?_)
    · have hp := oIf.t hp hc
      exact hB54 _ _ _ _ hp hM hS (lv_sub hl [] rfl)
    · have hp := oIf.f hp hc
      refine lv_aload_n hx hb dJ19_equals_14 rfl (lv_at hl 1 rfl) ?_
      refine x_cast (r := (some a1)) X hC.1 hM q1230 (ci := 24) rfl (Or.inl rfl) dJ19_equals_15 hp (fun hp => ?_)
      refine lv_astore_n (lv' := [(2, .ref a1), (0, .ref t0), (1, .ref a1)]) hx hb dJ19_equals_18 rfl hl (by decide) rfl (fun ls hl => ?_)
      refine x_gets X hC hS (C := "java/lang/String") (n := "COMPACT_STRINGS") (d := "Z") (v := .inl 1) (List.mem_of_getElem? (i := 0) rfl) q702 (fun _ h9 => h9) dJ19_equals_19 ?_
      refine lv_if_eq (tgt := 36) hx hb dJ19_equals_22 (by decide) (fun hc => ?_) (fun hc => ?_)
      · have hp := oIf.t hp hc
        exact hB36 _ _ _ _ _ _ hp hM hS (lv_sub hl [1, 0] rfl)
      · have hp := oIf.f hp hc
        refine lv_aload_n hx hb dJ19_equals_25 rfl (lv_at hl 1 rfl) ?_
        refine x_getI X hC.1 hM (ci := 24) (C := RJ19) (T := TJ19) (N := 4) rfl in_J19 1 (by decide) q858 (fun _ h9 => h9) dJ19_equals_26 hp (fun v2 hp => ?_)
        refine lv_aload_n hx hb dJ19_equals_29 rfl (lv_at hl 0 rfl) ?_
        refine x_getI X hC.1 hM (ci := 24) (C := RJ19) (T := TJ19) (N := 4) rfl in_J19 1 (by decide) q858 (fun _ h9 => h9) dJ19_equals_30 hp (fun v3 hp => ?_)
        refine lv_icmp_ne (tgt := 54) hx hb dJ19_equals_33 (by decide) (fun hc => ?_) (fun hc => ?_)
        · have hp := oIf.f hp hc
          exact hB54 _ _ _ _ hp hM hS (lv_sub hl [] rfl)
        · have hp := oIf.t hp hc
          exact hB36 _ _ _ _ _ _ hp hM hS (lv_sub hl [1, 0] rfl)
  · have hp := oIf.t hp hc
    refine lv_iconst (v := 1) hx hb dJ19_equals_5 (by decide) ?_
    exact x_zret X hr hlk hM hS ⟨Nat.le_refl _, Nat.le_refl _⟩ (by decide) dJ19_equals_6 ⟨true, rfl, hp⟩
def B_J2_indexOfRange_69 (G : wG) (Q : Int32 → wM → Prop) (M : wM) : Prop :=
  Q (-1 : Int32) M
def B_J2_indexOfRange_42 (G : wG) (rec42 : Nat → Int32 → Nat → Int32 → wM → Prop) (Q : Int32 → wM → Prop) (x1 : Nat) (x3 : Int32) (x4 : Nat) (x5 : Int32) (M : wM) : Prop :=
  oIf (x3 ≤ x5) (B_J2_indexOfRange_69 G Q M) (oAald (.object "java/lang/Object") M x4 x5 (fun r1 => oIs M x1 24 (P_J19_equals G x1 r1 M (fun r4 M2 => oIf (r4 = true) (Q x5 M2) (rec42 x1 x3 x4 (x5 + 1) M2)))))
def L_J2_indexOfRange_42 (G : wG) (Q : Int32 → wM → Prop) : Nat → Nat → Int32 → Nat → Int32 → wM → Prop
  | 0 => fun _ _ _ _ _ => False
  | n + 1 => B_J2_indexOfRange_42 G (L_J2_indexOfRange_42 G Q n) Q
def P_J2_indexOfRange (G : wG) (t0 : Nat) (p1 : Nat) (p2 : Int32) (p3 : Int32) (M : wM) (Q : Int32 → wM → Prop) : Prop :=
  oGetA M t0 16 1 (fun a1 => ∃ n, L_J2_indexOfRange_42 G Q n p1 p3 a1 p2 M)
set_option maxHeartbeats 4000000 in
set_option maxRecDepth 100000 in
theorem P_J2_indexOfRange_ok {l : Launch} (hl0 : l.stackTraces = false) {G : wG} {t0 : Nat} {p1 : Nat} {p2 : Int32} {p3 : Int32} {M : wM} {Q : Int32 → wM → Prop} (hp : P_J2_indexOfRange G t0 p1 p2 p3 M Q) : wMet l yJ2_indexOfRange (ws_ yJ2_indexOfRange cJ2_indexOfRange 6 (Option.some Jvm.ClassFile.FieldType.int)) 14 444 G [.ref t0, .ref p1, .int p2, .int p3] M 0 (wqI Q) wX0 := by
  refine vx_ofW (cc := cJ2_indexOfRange) (maxL := 6) (ret := Option.some Jvm.ClassFile.FieldType.int) (by decide) rfl ?_
  intro p e s m args below meth c s₁ B hml hnt hv
  obtain ⟨rfl, hM, hK, hZ, hz⟩ := hv
  have hC : wC G s := ⟨hK, hZ, hz⟩
  have hx := B.exec
  have hb := B.bytes
  have hr := B.returns
  have hts := atoms_spec (ws := (ws_ yJ2_indexOfRange cJ2_indexOfRange 6 (Option.some Jvm.ClassFile.FieldType.int))) B.pre
  have hts : ∀ w ∈ lw_all, w.before _ s = true := fun w h => hts w (List.mem_cons_of_mem _ h)
  have hown : s.vm.findClass RJ2 = some m.cls := findClass_of_methodNamed B.named
  have hlk := B.notSynchronized
  have X : CallFix p m c cJ2_indexOfRange 6 s ([.ref t0, .ref p1, .int p2, .int p3] : List Value).toArray lw_all RJ2 := ⟨hx, hb, hml, hown, hts⟩
  have hS : va_S (wA G) s.heap s.heap [] := va_S.rf
  have hl := lv_entry ([.ref t0, .ref p1, .int p2, .int p3]) (n := 6) (Nat.le_of_ble_eq_true rfl)
  rw [lg_entry_eq]
  generalize (lg_sl ([.ref t0, .ref p1, .int p2, .int p3]) ++ List.replicate (6 - (lg_sl ([.ref t0, .ref p1, .int p2, .int p3])).length) Slot.unset).toArray = ls at hl ⊢
  have hl : lv_has ls 6 [(0, .ref t0), (1, .ref p1), (2, .int p2), (3, .int p3)] := hl
  have hB69 : ∀ (M : wM) (H : Heap) (locs : List Loc) (ls : Array Slot), B_J2_indexOfRange_69 G Q M → wR G M H → va_S (wA G) s.heap H locs → lv_has ls 6 [] → W p l e (headSpec (ws_ yJ2_indexOfRange cJ2_indexOfRange 6 (Option.some Jvm.ClassFile.FieldType.int)) ({ frames := 14, cells := 0, slots := 0, locals := 444 })).room s m ([.ref t0, .ref p1, .int p2, .int p3] : List Value).toArray below meth c H locs 0 0 (vx_MQ below (wQ G (wqI Q)) (wXC G wX0) ([.ref t0, .ref p1, .int p2, .int p3] : List Value).toArray s 0 0 (wA G)) (F0 m 69 ls []) := by
    intro M H locs ls hp hM hS hl
    refine lv_iconst (v := (-1)) hx hb dJ2_indexOfRange_69 (by decide) ?_
    exact x_iret X hr hlk hM hS ⟨Nat.le_refl _, Nat.le_refl _⟩ dJ2_indexOfRange_70 ⟨_, rfl, hp⟩
  have hB42 : ∀ (rec42 : Nat → Int32 → Nat → Int32 → wM → Prop) (hrec42 : ∀ (x1 : Nat) (x3 : Int32) (x4 : Nat) (x5 : Int32) (M : wM) (H : Heap) (locs : List Loc) (ls : Array Slot), rec42 x1 x3 x4 x5 M → wR G M H → va_S (wA G) s.heap H locs → lv_has ls 6 [(1, .ref x1), (3, .int x3), (4, .ref x4), (5, .int x5)] → W p l e (headSpec (ws_ yJ2_indexOfRange cJ2_indexOfRange 6 (Option.some Jvm.ClassFile.FieldType.int)) ({ frames := 14, cells := 0, slots := 0, locals := 444 })).room s m ([.ref t0, .ref p1, .int p2, .int p3] : List Value).toArray below meth c H locs 0 0 (vx_MQ below (wQ G (wqI Q)) (wXC G wX0) ([.ref t0, .ref p1, .int p2, .int p3] : List Value).toArray s 0 0 (wA G)) (F0 m 42 ls [])), ∀ (x1 : Nat) (x3 : Int32) (x4 : Nat) (x5 : Int32) (M : wM) (H : Heap) (locs : List Loc) (ls : Array Slot), B_J2_indexOfRange_42 G rec42 Q x1 x3 x4 x5 M → wR G M H → va_S (wA G) s.heap H locs → lv_has ls 6 [(1, .ref x1), (3, .int x3), (4, .ref x4), (5, .int x5)] → W p l e (headSpec (ws_ yJ2_indexOfRange cJ2_indexOfRange 6 (Option.some Jvm.ClassFile.FieldType.int)) ({ frames := 14, cells := 0, slots := 0, locals := 444 })).room s m ([.ref t0, .ref p1, .int p2, .int p3] : List Value).toArray below meth c H locs 0 0 (vx_MQ below (wQ G (wqI Q)) (wXC G wX0) ([.ref t0, .ref p1, .int p2, .int p3] : List Value).toArray s 0 0 (wA G)) (F0 m 42 ls []) := by
    intro rec42 hrec42 x1 x3 x4 x5 M H locs ls hp hM hS hl
    refine lv_iload hx hb dJ2_indexOfRange_42 (lv_at hl 3 rfl) ?_
    refine lv_iload_n hx hb dJ2_indexOfRange_44 rfl (lv_at hl 1 rfl) ?_
    refine lv_icmp_ge (tgt := 69) hx hb dJ2_indexOfRange_45 (by decide) (fun hc => ?_) (fun hc => ?_)
    · have hp := oIf.t hp hc
      exact hB69 _ _ _ _ hp hM hS (lv_sub hl [] rfl)
    · have hp := oIf.f hp hc
      refine lv_aload_n hx hb dJ2_indexOfRange_48 rfl (lv_at hl 0 rfl) ?_
      refine lv_aload hx hb dJ2_indexOfRange_49 (lv_at hl 2 rfl) ?_
      refine lv_iload hx hb dJ2_indexOfRange_51 (lv_at hl 3 rfl) ?_
      refine x_aald X hC.1 hM (ty := (.object "java/lang/Object")) (by decide) rfl dJ2_indexOfRange_53 hp (fun r1 hp => ?_)
      obtain ⟨hrec, hp⟩ := hp
      refine x_call0Z (vx_runU (As := [va_rf r1]) (rest := []) X (P_J19_equals_ok (l := l) hl0 hp) (va_cwA (owner := "java/lang/Object") 1 hts (lw_app (w_mem5 q1299 q1301 q1331 q1227 q171) (lw_meth q1229)) rfl rfl rfl (hC.1.2.2.1 _ q1298 rfl) (by decide +kernel) ⟨Nat.le_of_ble_eq_true rfl, Nat.le_of_ble_eq_true rfl⟩) ⟨wPc.blind, w_recv hC.1 hM (ci := 24) (q := (RJ19, TJ19, 4)) rfl hrec, w_pre hC hM hS _⟩ rfl rfl hl.1 rfl (lv_room (Nat.le_of_ble_eq_true rfl)) dJ2_indexOfRange_54 ⟨Nat.le_refl _, Nat.le_refl _⟩) hS ⟨Nat.le_refl _, Nat.le_refl _⟩ (fun _ _ _ _ _ _ h => False.elim h) (fun r4 M2 H locs hp hM hS => ?_)
      refine x_ifeqB (tgt := 63) hx hb dJ2_indexOfRange_57 (by decide) (fun hc => ?_) (fun hc => ?_)
      · have hp := oIf.bf hp hc
        refine lv_iinc (v := (x5 + 1)) (lv' := [(5, .int (x5 + 1)), (1, .ref x1), (3, .int x3), (4, .ref x4)]) hx hb dJ2_indexOfRange_63 hl (k := 3) rfl rfl (by decide) rfl (fun ls hl => ?_)
        refine lv_goto (tgt := 42) hx hb dJ2_indexOfRange_66 (by decide) ?_
        exact hrec42 _ _ _ _ _ _ _ _ hp hM hS (lv_sub hl [1, 2, 3, 0] rfl)
      · have hp := oIf.bt hp hc
        refine lv_iload hx hb dJ2_indexOfRange_60 (lv_at hl 3 rfl) ?_
        exact x_iret X hr hlk hM hS ⟨Nat.le_refl _, Nat.le_refl _⟩ dJ2_indexOfRange_62 ⟨_, rfl, hp⟩
  have hL42 : ∀ (n : Nat), ∀ (x1 : Nat) (x3 : Int32) (x4 : Nat) (x5 : Int32) (M : wM) (H : Heap) (locs : List Loc) (ls : Array Slot), L_J2_indexOfRange_42 G Q n x1 x3 x4 x5 M → wR G M H → va_S (wA G) s.heap H locs → lv_has ls 6 [(1, .ref x1), (3, .int x3), (4, .ref x4), (5, .int x5)] → W p l e (headSpec (ws_ yJ2_indexOfRange cJ2_indexOfRange 6 (Option.some Jvm.ClassFile.FieldType.int)) ({ frames := 14, cells := 0, slots := 0, locals := 444 })).room s m ([.ref t0, .ref p1, .int p2, .int p3] : List Value).toArray below meth c H locs 0 0 (vx_MQ below (wQ G (wqI Q)) (wXC G wX0) ([.ref t0, .ref p1, .int p2, .int p3] : List Value).toArray s 0 0 (wA G)) (F0 m 42 ls []) := by
    intro n
    induction n with
    | zero => intro _ _ _ _ _ _ _ _ hp; exact False.elim hp
    | succ n ih => intro x1 x3 x4 x5 M H locs ls hp hM hS hl; exact hB42 (L_J2_indexOfRange_42 G Q n) ih _ _ _ _ _ _ _ _ hp hM hS hl
  refine lv_aload_n hx hb dJ2_indexOfRange_0 rfl (lv_at hl 0 rfl) ?_
  refine x_getA X hC.1 hM (ci := 16) (C := RJ2) (T := TJ2) (N := 3) rfl in_J2 1 (by decide) q242 (fun _ h9 => h9) dJ2_indexOfRange_1 hp (fun a1 hp => ?_)
  refine lv_astore (lv' := [(4, .ref a1), (0, .ref t0), (1, .ref p1), (2, .int p2), (3, .int p3)]) hx hb dJ2_indexOfRange_4 hl (by decide) rfl (fun ls hl => ?_)
  refine lv_aload_n hx hb dJ2_indexOfRange_6 rfl (lv_at hl 2 rfl) ?_
  refine lv_ifnonnull (tgt := 39) hx hb dJ2_indexOfRange_7 (by decide) ?_
  refine lv_iload_n hx hb dJ2_indexOfRange_39 rfl (lv_at hl 3 rfl) ?_
  refine lv_istore (lv' := [(5, .int p2), (4, .ref a1), (0, .ref t0), (1, .ref p1), (2, .int p2), (3, .int p3)]) hx hb dJ2_indexOfRange_40 hl (by decide) rfl (fun ls hl => ?_)
  obtain ⟨n, hp⟩ := hp
  exact hL42 n _ _ _ _ _ _ _ _ hp hM hS (lv_sub hl [3, 5, 1, 0] rfl)
def P_J2_indexOf (G : wG) (t0 : Nat) (p1 : Nat) (M : wM) (Q : Int32 → wM → Prop) : Prop :=
  oGetI M t0 16 2 (fun v1 => oIs M t0 16 (P_J2_indexOfRange G t0 p1 (0 : Int32) v1 M (fun v4 M2 => Q v4 M2)))
set_option maxHeartbeats 4000000 in
set_option maxRecDepth 100000 in
theorem P_J2_indexOf_ok {l : Launch} (hl0 : l.stackTraces = false) {G : wG} {t0 : Nat} {p1 : Nat} {M : wM} {Q : Int32 → wM → Prop} (hp : P_J2_indexOf G t0 p1 M Q) : wMet l yJ2_indexOf (ws_ yJ2_indexOf cJ2_indexOf 2 (Option.some Jvm.ClassFile.FieldType.int)) 15 469 G [.ref t0, .ref p1] M 0 (wqI Q) wX0 := by
  refine vx_ofW (cc := cJ2_indexOf) (maxL := 2) (ret := Option.some Jvm.ClassFile.FieldType.int) (by decide) rfl ?_
  intro p e s m args below meth c s₁ B hml hnt hv
  obtain ⟨rfl, hM, hK, hZ, hz⟩ := hv
  have hC : wC G s := ⟨hK, hZ, hz⟩
  have hx := B.exec
  have hb := B.bytes
  have hr := B.returns
  have hts := atoms_spec (ws := (ws_ yJ2_indexOf cJ2_indexOf 2 (Option.some Jvm.ClassFile.FieldType.int))) B.pre
  have hts : ∀ w ∈ lw_all, w.before _ s = true := fun w h => hts w (List.mem_cons_of_mem _ h)
  have hown : s.vm.findClass RJ2 = some m.cls := findClass_of_methodNamed B.named
  have hlk := B.notSynchronized
  have X : CallFix p m c cJ2_indexOf 2 s ([.ref t0, .ref p1] : List Value).toArray lw_all RJ2 := ⟨hx, hb, hml, hown, hts⟩
  have hS : va_S (wA G) s.heap s.heap [] := va_S.rf
  have hl := lv_entry ([.ref t0, .ref p1]) (n := 2) (Nat.le_of_ble_eq_true rfl)
  rw [lg_entry_eq]
  generalize (lg_sl ([.ref t0, .ref p1]) ++ List.replicate (2 - (lg_sl ([.ref t0, .ref p1])).length) Slot.unset).toArray = ls at hl ⊢
  have hl : lv_has ls 2 [(0, .ref t0), (1, .ref p1)] := hl
  refine lv_aload_n hx hb dJ2_indexOf_0 rfl (lv_at hl 0 rfl) ?_
  refine lv_aload_n hx hb dJ2_indexOf_1 rfl (lv_at hl 1 rfl) ?_
  refine lv_iconst (v := 0) hx hb dJ2_indexOf_2 (by decide) ?_
  refine lv_aload_n hx hb dJ2_indexOf_3 rfl (lv_at hl 0 rfl) ?_
  refine x_getI X hC.1 hM (ci := 16) (C := RJ2) (T := TJ2) (N := 3) rfl in_J2 2 (by decide) q245 (fun _ h9 => h9) dJ2_indexOf_4 hp (fun v1 hp => ?_)
  obtain ⟨hrec, hp⟩ := hp
  refine x_call0I (vx_runV (As := [.ref p1, .int (0 : Int32), .int v1]) (rest := []) X (P_J2_indexOfRange_ok (l := l) hl0 hp) (cwV 3 hts (lw_V q1294 q1295 q1296 q153 q1297) rfl rfl rfl (by decide +kernel) ⟨Nat.le_of_ble_eq_true rfl, Nat.le_of_ble_eq_true rfl⟩) ⟨wPc.blind, w_recv hC.1 hM (ci := 16) (q := (RJ2, TJ2, 3)) rfl hrec, w_pre hC hM hS _⟩ rfl rfl hl.1 rfl (lv_room (Nat.le_of_ble_eq_true rfl)) dJ2_indexOf_7 ⟨Nat.le_refl _, Nat.le_refl _⟩) hS ⟨Nat.le_refl _, Nat.le_refl _⟩ (fun _ _ _ _ _ _ h => False.elim h) (fun v4 M2 H locs hp hM hS => ?_)
  exact x_iret X hr hlk hM hS ⟨Nat.le_refl _, Nat.le_refl _⟩ dJ2_indexOf_10 ⟨_, rfl, hp⟩
def P_J17_inflate_J18 (G : wG) (t0 : Nat) (M : wM) (Q : wM → Prop) : Prop :=
  oIs M t0 23 (P_J17_isLatin1_J18 G t0 M (fun r3 M1 => oIf (r3 = true) (False) (Q M1)))
set_option maxHeartbeats 4000000 in
set_option maxRecDepth 100000 in
theorem P_J17_inflate_J18_ok {l : Launch} (hl0 : l.stackTraces = false) {G : wG} {t0 : Nat} {M : wM} {Q : wM → Prop} (hp : P_J17_inflate_J18 G t0 M Q) : wMet l yJ17_inflate (ws_ yJ17_inflate cJ17_inflate 2 (none)) 13 420 G [.ref t0] M 0 (wqV Q) wX0 := by
  refine vx_ofW (cc := cJ17_inflate) (maxL := 2) (ret := none) (by decide) rfl ?_
  intro p e s m args below meth c s₁ B hml hnt hv
  obtain ⟨rfl, hM, hK, hZ, hz⟩ := hv
  have hC : wC G s := ⟨hK, hZ, hz⟩
  have hx := B.exec
  have hb := B.bytes
  have hr := B.returns
  have hts := atoms_spec (ws := (ws_ yJ17_inflate cJ17_inflate 2 (none))) B.pre
  have hts : ∀ w ∈ lw_all, w.before _ s = true := fun w h => hts w (List.mem_cons_of_mem _ h)
  have hown : s.vm.findClass RJ17 = some m.cls := findClass_of_methodNamed B.named
  have hlk := B.notSynchronized
  have X : CallFix p m c cJ17_inflate 2 s ([.ref t0] : List Value).toArray lw_all RJ17 := ⟨hx, hb, hml, hown, hts⟩
  have hS : va_S (wA G) s.heap s.heap [] := va_S.rf
  have hl := lv_entry ([.ref t0]) (n := 2) (Nat.le_of_ble_eq_true rfl)
  rw [lg_entry_eq]
  generalize (lg_sl ([.ref t0]) ++ List.replicate (2 - (lg_sl ([.ref t0])).length) Slot.unset).toArray = ls at hl ⊢
  have hl : lv_has ls 2 [(0, .ref t0)] := hl
  refine lv_aload_n hx hb dJ17_inflate_0 rfl (lv_at hl 0 rfl) ?_
  obtain ⟨hrec, hp⟩ := hp
  refine x_call0Z (vx_runU (As := []) (rest := []) X (P_J17_isLatin1_J18_ok (l := l) hl0 hp) (va_cwU 0 hts (lw_app (w_mem5 q663 q665 q666 q664 q169) (lw_meth q667)) rfl rfl rfl rfl (by decide +kernel) ⟨Nat.le_of_ble_eq_true rfl, Nat.le_of_ble_eq_true rfl⟩) ⟨wPc.blind, w_recv hC.1 hM (ci := 23) (q := (RJ18, TJ18, 4)) rfl hrec, w_pre hC hM hS _⟩ rfl rfl hl.1 rfl (lv_room (Nat.le_of_ble_eq_true rfl)) dJ17_inflate_1 ⟨Nat.le_refl _, Nat.le_refl _⟩) hS ⟨Nat.le_refl _, Nat.le_refl _⟩ (fun _ _ _ _ _ _ h => False.elim h) (fun r3 M1 H locs hp hM hS => ?_)
  refine x_ifneB (tgt := 8) hx hb dJ17_inflate_4 (by decide) (fun hc => ?_) (fun hc => ?_)
  · have hp := oIf.bt hp hc
    exact hp.elim
  · have hp := oIf.bf hp hc
    exact x_vret X hr hlk hM hS ⟨Nat.le_refl _, Nat.le_refl _⟩ dJ17_inflate_7 ⟨rfl, hp⟩
def P_J17_newCapacity_J18 (G : wG) (t0 : Nat) (p1 : Int32) (M : wM) (Q : Int32 → wM → Prop) : Prop :=
  oGetA M t0 23 0 (fun a1 => oAlen .byte M a1 (fun v2 => oGetI M t0 23 1 (fun v3 => oGetI M t0 23 1 (fun v4 => P_J3_newLength G v2 ((p1 <<< (v3 &&& 31)) - v2) (v2 + ((2 : Int32) <<< (v4 &&& 31))) M (fun v7 M5 => oIf (v7 = (2147483647 : Int32)) (False) (oGetI M5 t0 23 1 (fun v8 => Q (v7 >>> (v8 &&& 31)) M5)))))))
set_option maxHeartbeats 4000000 in
set_option maxRecDepth 100000 in
theorem P_J17_newCapacity_J18_ok {l : Launch} (hl0 : l.stackTraces = false) {G : wG} {t0 : Nat} {p1 : Int32} {M : wM} {Q : Int32 → wM → Prop} (hp : P_J17_newCapacity_J18 G t0 p1 M Q) : wMet l yJ17_newCapacity (ws_ yJ17_newCapacity cJ17_newCapacity 6 (Option.some Jvm.ClassFile.FieldType.int)) 14 445 G [.ref t0, .int p1] M 0 (wqI Q) wX0 := by
  refine vx_ofW (cc := cJ17_newCapacity) (maxL := 6) (ret := Option.some Jvm.ClassFile.FieldType.int) (by decide) rfl ?_
  intro p e s m args below meth c s₁ B hml hnt hv
  obtain ⟨rfl, hM, hK, hZ, hz⟩ := hv
  have hC : wC G s := ⟨hK, hZ, hz⟩
  have hx := B.exec
  have hb := B.bytes
  have hr := B.returns
  have hts := atoms_spec (ws := (ws_ yJ17_newCapacity cJ17_newCapacity 6 (Option.some Jvm.ClassFile.FieldType.int))) B.pre
  have hts : ∀ w ∈ lw_all, w.before _ s = true := fun w h => hts w (List.mem_cons_of_mem _ h)
  have hown : s.vm.findClass RJ17 = some m.cls := findClass_of_methodNamed B.named
  have hlk := B.notSynchronized
  have X : CallFix p m c cJ17_newCapacity 6 s ([.ref t0, .int p1] : List Value).toArray lw_all RJ17 := ⟨hx, hb, hml, hown, hts⟩
  have hS : va_S (wA G) s.heap s.heap [] := va_S.rf
  have hl := lv_entry ([.ref t0, .int p1]) (n := 6) (Nat.le_of_ble_eq_true rfl)
  rw [lg_entry_eq]
  generalize (lg_sl ([.ref t0, .int p1]) ++ List.replicate (6 - (lg_sl ([.ref t0, .int p1])).length) Slot.unset).toArray = ls at hl ⊢
  have hl : lv_has ls 6 [(0, .ref t0), (1, .int p1)] := hl
  refine lv_aload_n hx hb dJ17_newCapacity_0 rfl (lv_at hl 0 rfl) ?_
  refine x_getA X hC.1 hM (ci := 23) (C := RJ18) (T := TJ18) (N := 4) rfl in_J18 0 (by decide) q616 (fun _ h9 => h9) dJ17_newCapacity_1 hp (fun a1 hp => ?_)
  refine x_alen X hC.1 hM (ty := .byte) (by decide) dJ17_newCapacity_4 hp (fun v2 hp => ?_)
  refine lv_istore_n (lv' := [(2, .int v2), (0, .ref t0), (1, .int p1)]) hx hb dJ17_newCapacity_5 rfl hl (by decide) rfl (fun ls hl => ?_)
  refine lv_iload_n hx hb dJ17_newCapacity_6 rfl (lv_at hl 2 rfl) ?_
  refine lv_aload_n hx hb dJ17_newCapacity_7 rfl (lv_at hl 1 rfl) ?_
  refine x_getI X hC.1 hM (ci := 23) (C := RJ18) (T := TJ18) (N := 4) rfl in_J18 1 (by decide) q617 (fun _ h9 => h9) dJ17_newCapacity_8 hp (fun v3 hp => ?_)
  refine lv_ishl hx hb dJ17_newCapacity_11 ?_
  refine lv_istore_n (lv' := [(3, .int (p1 <<< (v3 &&& 31))), (2, .int v2), (0, .ref t0), (1, .int p1)]) hx hb dJ17_newCapacity_12 rfl hl (by decide) rfl (fun ls hl => ?_)
  refine lv_iload_n hx hb dJ17_newCapacity_13 rfl (lv_at hl 0 rfl) ?_
  refine lv_iload_n hx hb dJ17_newCapacity_14 rfl (lv_at hl 1 rfl) ?_
  refine lv_isub hx hb dJ17_newCapacity_15 ?_
  refine lv_istore (lv' := [(4, .int ((p1 <<< (v3 &&& 31)) - v2)), (3, .int (p1 <<< (v3 &&& 31))), (2, .int v2), (0, .ref t0), (1, .int p1)]) hx hb dJ17_newCapacity_16 hl (by decide) rfl (fun ls hl => ?_)
  refine lv_iload_n hx hb dJ17_newCapacity_18 rfl (lv_at hl 2 rfl) ?_
  refine lv_iload hx hb dJ17_newCapacity_19 (lv_at hl 0 rfl) ?_
  refine lv_iload_n hx hb dJ17_newCapacity_21 rfl (lv_at hl 2 rfl) ?_
  refine lv_iconst (v := 2) hx hb dJ17_newCapacity_22 (by decide) ?_
  refine lv_aload_n hx hb dJ17_newCapacity_23 rfl (lv_at hl 3 rfl) ?_
  refine x_getI X hC.1 hM (ci := 23) (C := RJ18) (T := TJ18) (N := 4) rfl in_J18 1 (by decide) q617 (fun _ h9 => h9) dJ17_newCapacity_24 hp (fun v4 hp => ?_)
  refine lv_ishl hx hb dJ17_newCapacity_27 ?_
  refine lv_iadd hx hb dJ17_newCapacity_28 ?_
  refine x_call0I (vx_runS (As := [.int v2, .int ((p1 <<< (v3 &&& 31)) - v2), .int (v2 + ((2 : Int32) <<< (v4 &&& 31)))]) (rest := []) X (P_J3_newLength_ok (l := l) hl0 hp) (va_cwS 3 hts (lw_S q651 q284 q154 q285) rfl rfl rfl (by decide +kernel) ⟨Nat.le_of_ble_eq_true rfl, Nat.le_of_ble_eq_true rfl⟩) ⟨wPc.blind, w_pre hC hM hS _⟩ rfl rfl hl.1 rfl (lv_room (Nat.le_of_ble_eq_true rfl)) dJ17_newCapacity_29 ⟨Nat.le_refl _, Nat.le_refl _⟩) hS ⟨Nat.le_refl _, Nat.le_refl _⟩ (fun _ _ _ _ _ _ h => False.elim h) (fun v7 M5 H locs hp hM hS => ?_)
  refine lv_istore (lv' := [(5, .int v7), (4, .int ((p1 <<< (v3 &&& 31)) - v2)), (3, .int (p1 <<< (v3 &&& 31))), (2, .int v2), (0, .ref t0), (1, .int p1)]) hx hb dJ17_newCapacity_32 hl (by decide) rfl (fun ls hl => ?_)
  refine lv_iload hx hb dJ17_newCapacity_34 (lv_at hl 0 rfl) ?_
  refine lv_ldc (v := 2147483647) hx hb hown (hts _ q652) dJ17_newCapacity_36 ?_
  refine lv_icmp_ne (tgt := 51) hx hb dJ17_newCapacity_38 (by decide) (fun hc => ?_) (fun hc => ?_)
  · have hp := oIf.f hp hc
    refine lv_iload hx hb dJ17_newCapacity_51 (lv_at hl 0 rfl) ?_
    refine lv_aload_n hx hb dJ17_newCapacity_53 rfl (lv_at hl 4 rfl) ?_
    refine x_getI X hC.1 hM (ci := 23) (C := RJ18) (T := TJ18) (N := 4) rfl in_J18 1 (by decide) q617 (fun _ h9 => h9) dJ17_newCapacity_54 hp (fun v8 hp => ?_)
    refine lv_ishr hx hb dJ17_newCapacity_57 ?_
    exact x_iret X hr hlk hM hS ⟨Nat.le_refl _, Nat.le_refl _⟩ dJ17_newCapacity_58 ⟨_, rfl, hp⟩
  · have hp := oIf.t hp hc
    exact hp.elim
def P_J5_copyOf_3 (G : wG) (p1 : Nat) (p2 : Int32) (b : Nat) (M : wM) (Q : Option Nat → wM → Prop) : Prop :=
  oAlen .byte M p1 (fun v1 => oIf (p2 = v1) (oClone G M b p1 (fun a7 M8 b9 => oIsB M8 a7 (Q (some a7) M8))) (oNewa G M b .byte (.inl (fun _ => 0)) p2 (fun a2 M3 b4 => oAlen .byte M3 p1 (fun v5 => oCopyI G .byte M3 p1 (0 : Int32) a2 (0 : Int32) (if p2 < v5 then p2 else v5) (fun M6 => Q (some a2) M6)))))
set_option maxHeartbeats 4000000 in
set_option maxRecDepth 100000 in
theorem P_J5_copyOf_3_ok {l : Launch} (hl0 : l.stackTraces = false) {G : wG} {p1 : Nat} {p2 : Int32} {b : Nat} {M : wM} {Q : Option Nat → wM → Prop} (hp : P_J5_copyOf_3 G p1 p2 b M Q) : wMet l yJ5_copyOf_3 (ws_ yJ5_copyOf_3 cJ5_copyOf_3 3 (Option.some (Jvm.ClassFile.FieldType.array Jvm.ClassFile.FieldType.byte))) 12 400 G [.ref p1, .int p2] M b (wqR Q) wX0 := by
  refine vx_ofW (cc := cJ5_copyOf_3) (maxL := 3) (ret := Option.some (Jvm.ClassFile.FieldType.array Jvm.ClassFile.FieldType.byte)) (by decide) rfl ?_
  intro p e s m args below meth c s₁ B hml hnt hv
  obtain ⟨rfl, hM, hK, hZ, hz⟩ := hv
  have hC : wC G s := ⟨hK, hZ, hz⟩
  have hx := B.exec
  have hb := B.bytes
  have hr := B.returns
  have hts := atoms_spec (ws := (ws_ yJ5_copyOf_3 cJ5_copyOf_3 3 (Option.some (Jvm.ClassFile.FieldType.array Jvm.ClassFile.FieldType.byte)))) B.pre
  have hts : ∀ w ∈ lw_all, w.before _ s = true := fun w h => hts w (List.mem_cons_of_mem _ h)
  have hown : s.vm.findClass RJ5 = some m.cls := findClass_of_methodNamed B.named
  have hlk := B.notSynchronized
  have X : CallFix p m c cJ5_copyOf_3 3 s ([.ref p1, .int p2] : List Value).toArray lw_all RJ5 := ⟨hx, hb, hml, hown, hts⟩
  have hS : va_S (wA G) s.heap s.heap [] := va_S.rf
  have hl := lv_entry ([.ref p1, .int p2]) (n := 3) (Nat.le_of_ble_eq_true rfl)
  rw [lg_entry_eq]
  generalize (lg_sl ([.ref p1, .int p2]) ++ List.replicate (3 - (lg_sl ([.ref p1, .int p2])).length) Slot.unset).toArray = ls at hl ⊢
  have hl : lv_has ls 3 [(0, .ref p1), (1, .int p2)] := hl
  have hB : 0 + b ≤ ((headSpec (ws_ yJ5_copyOf_3 cJ5_copyOf_3 3 (Option.some (Jvm.ClassFile.FieldType.array Jvm.ClassFile.FieldType.byte))) ({ frames := 12, cells := b, slots := b, locals := 400 })).room).cells ∧ 0 + b ≤ ((headSpec (ws_ yJ5_copyOf_3 cJ5_copyOf_3 3 (Option.some (Jvm.ClassFile.FieldType.array Jvm.ClassFile.FieldType.byte))) ({ frames := 12, cells := b, slots := b, locals := 400 })).room).slots := ⟨Nat.le_of_eq (Nat.zero_add b), Nat.le_of_eq (Nat.zero_add b)⟩
  refine lv_iload_n hx hb dJ5_copyOf_3_0 rfl (lv_at hl 1 rfl) ?_
  refine lv_aload_n hx hb dJ5_copyOf_3_1 rfl (lv_at hl 0 rfl) ?_
  refine x_alen X hC.1 hM (ty := .byte) (by decide) dJ5_copyOf_3_2 hp (fun v1 hp => ?_)
  refine lv_icmp_ne (tgt := 14) hx hb dJ5_copyOf_3_3 (by decide) (fun hc => ?_) (fun hc => ?_)
  · have hp := oIf.f hp hc
    refine lv_iload_n hx hb dJ5_copyOf_3_14 rfl (lv_at hl 1 rfl) ?_
    refine x_newa X hC hM hS hB .byte rfl q630 (by decide) (by decide) (fun _ h => h) (fun _ _ => rfl) dJ5_copyOf_3_15 hp (fun a2 M3 H b4 cells slots hM hS hB hp => ?_)
    refine lv_astore_n (lv' := [(2, .ref a2), (0, .ref p1), (1, .int p2)]) hx hb dJ5_copyOf_3_17 rfl hl (by decide) rfl (fun ls hl => ?_)
    refine lv_aload_n hx hb dJ5_copyOf_3_18 rfl (lv_at hl 1 rfl) ?_
    refine lv_iconst (v := 0) hx hb dJ5_copyOf_3_19 (by decide) ?_
    refine lv_aload_n hx hb dJ5_copyOf_3_20 rfl (lv_at hl 0 rfl) ?_
    refine lv_iconst (v := 0) hx hb dJ5_copyOf_3_21 (by decide) ?_
    refine lv_aload_n hx hb dJ5_copyOf_3_22 rfl (lv_at hl 1 rfl) ?_
    refine x_alen X hC.1 hM (ty := .byte) (by decide) dJ5_copyOf_3_23 hp (fun v5 hp => ?_)
    refine lv_iload_n hx hb dJ5_copyOf_3_24 rfl (lv_at hl 2 rfl) ?_
    refine va_mmin hx hb (hml.trans hl.1.symm) hown (hts _ q346) (hts _ q347) (hts _ q155) (hts _ q348) (Nat.le_of_ble_eq_true rfl) (Nat.le_of_ble_eq_true rfl) (w_fin hB).1 (w_fin hB).2 dJ5_copyOf_3_25 ?_
    refine x_copyI X (hml.trans hl.1.symm) hC hM hS q349 q351 q350 q157 .byte (by decide) rfl (Nat.le_of_ble_eq_true rfl) (Nat.le_of_ble_eq_true rfl) dJ5_copyOf_3_28 hp (fun M6 H locs hM hS hp => ?_)
    refine lv_aload_n hx hb dJ5_copyOf_3_31 rfl (lv_at hl 0 rfl) ?_
    exact x_aret (v := (some a2)) X hr (by first | exact Or.inl ⟨_, rfl⟩ | exact Or.inr ⟨_, rfl⟩) hlk hM hS (w_fin hB) dJ5_copyOf_3_32 ⟨(some a2), rfl, hp⟩
  · have hp := oIf.t hp hc
    refine lv_aload_n hx hb dJ5_copyOf_3_6 rfl (lv_at hl 0 rfl) ?_
    refine x_cloneB X (hml.trans hl.1.symm) hC hM hS hB q656 q657 q658 q659 q660 q661 (Nat.le_of_ble_eq_true rfl) (Nat.le_of_ble_eq_true rfl) dJ5_copyOf_3_7 hp (fun a7 M8 H b9 cells slots hM hS hB hp => ?_)
    refine x_castB X hC.1 hM q662 dJ5_copyOf_3_10 hp (fun hp => ?_)
    exact x_aret (v := (some a7)) X hr (by first | exact Or.inl ⟨_, rfl⟩ | exact Or.inr ⟨_, rfl⟩) hlk hM hS (w_fin hB) dJ5_copyOf_3_13 ⟨(some a7), rfl, hp⟩
def B_J17_ensureCapacityInternal_J18_38 (G : wG) (Q : wM → Prop) (M : wM) (bq : Nat) : Prop :=
  Q M
def P_J17_ensureCapacityInternal_J18 (G : wG) (t0 : Nat) (p1 : Int32) (b : Nat) (M : wM) (Q : wM → Prop) : Prop :=
  oGetA M t0 23 0 (fun a1 => oAlen .byte M a1 (fun v2 => oGetI M t0 23 1 (fun v3 => oIf ((p1 - (v2 >>> (v3 &&& 31))) ≤ 0) (B_J17_ensureCapacityInternal_J18_38 G Q M b) (oGetA M t0 23 0 (fun a4 => oIs M t0 23 (P_J17_newCapacity_J18 G t0 p1 M (fun v7 M5 => oGetI M5 t0 23 1 (fun v8 => ∃ c10, c10 ≤ b ∧ P_J5_copyOf_3 G a4 (v7 <<< (v8 &&& 31)) c10 M5 (fun r11 M9 => oPut G M9 t0 23 0 (va_rf r11) (fun M12 => B_J17_ensureCapacityInternal_J18_38 G Q M12 (b - c10)))))))))))
set_option maxHeartbeats 4000000 in
set_option maxRecDepth 100000 in
theorem P_J17_ensureCapacityInternal_J18_ok {l : Launch} (hl0 : l.stackTraces = false) {G : wG} {t0 : Nat} {p1 : Int32} {b : Nat} {M : wM} {Q : wM → Prop} (hp : P_J17_ensureCapacityInternal_J18 G t0 p1 b M Q) : wMet l yJ17_ensureCapacityInternal (ws_ yJ17_ensureCapacityInternal cJ17_ensureCapacityInternal 3 (none)) 15 470 G [.ref t0, .int p1] M b (wqV Q) wX0 := by
  refine vx_ofW (cc := cJ17_ensureCapacityInternal) (maxL := 3) (ret := none) (by decide) rfl ?_
  intro p e s m args below meth c s₁ B hml hnt hv
  obtain ⟨rfl, hM, hK, hZ, hz⟩ := hv
  have hC : wC G s := ⟨hK, hZ, hz⟩
  have hx := B.exec
  have hb := B.bytes
  have hr := B.returns
  have hts := atoms_spec (ws := (ws_ yJ17_ensureCapacityInternal cJ17_ensureCapacityInternal 3 (none))) B.pre
  have hts : ∀ w ∈ lw_all, w.before _ s = true := fun w h => hts w (List.mem_cons_of_mem _ h)
  have hown : s.vm.findClass RJ17 = some m.cls := findClass_of_methodNamed B.named
  have hlk := B.notSynchronized
  have X : CallFix p m c cJ17_ensureCapacityInternal 3 s ([.ref t0, .int p1] : List Value).toArray lw_all RJ17 := ⟨hx, hb, hml, hown, hts⟩
  have hS : va_S (wA G) s.heap s.heap [] := va_S.rf
  have hl := lv_entry ([.ref t0, .int p1]) (n := 3) (Nat.le_of_ble_eq_true rfl)
  rw [lg_entry_eq]
  generalize (lg_sl ([.ref t0, .int p1]) ++ List.replicate (3 - (lg_sl ([.ref t0, .int p1])).length) Slot.unset).toArray = ls at hl ⊢
  have hl : lv_has ls 3 [(0, .ref t0), (1, .int p1)] := hl
  have hB : 0 + b ≤ ((headSpec (ws_ yJ17_ensureCapacityInternal cJ17_ensureCapacityInternal 3 (none)) ({ frames := 15, cells := b, slots := b, locals := 470 })).room).cells ∧ 0 + b ≤ ((headSpec (ws_ yJ17_ensureCapacityInternal cJ17_ensureCapacityInternal 3 (none)) ({ frames := 15, cells := b, slots := b, locals := 470 })).room).slots := ⟨Nat.le_of_eq (Nat.zero_add b), Nat.le_of_eq (Nat.zero_add b)⟩
  have hB38 : ∀ (M : wM) (bq : Nat) (H : Heap) (locs : List Loc) (ls : Array Slot) (cells slots : Nat), B_J17_ensureCapacityInternal_J18_38 G Q M bq → wR G M H → va_S (wA G) s.heap H locs → (cells + bq ≤ ((headSpec (ws_ yJ17_ensureCapacityInternal cJ17_ensureCapacityInternal 3 (none)) ({ frames := 15, cells := b, slots := b, locals := 470 })).room).cells ∧ slots + bq ≤ ((headSpec (ws_ yJ17_ensureCapacityInternal cJ17_ensureCapacityInternal 3 (none)) ({ frames := 15, cells := b, slots := b, locals := 470 })).room).slots) → lv_has ls 3 [] → W p l e (headSpec (ws_ yJ17_ensureCapacityInternal cJ17_ensureCapacityInternal 3 (none)) ({ frames := 15, cells := b, slots := b, locals := 470 })).room s m ([.ref t0, .int p1] : List Value).toArray below meth c H locs cells slots (vx_MQ below (wQ G (wqV Q)) (wXC G wX0) ([.ref t0, .int p1] : List Value).toArray s b b (wA G)) (F0 m 38 ls []) := by
    intro M bq H locs ls cells slots hp hM hS hB hl
    exact x_vret X hr hlk hM hS (w_fin hB) dJ17_ensureCapacityInternal_38 ⟨rfl, hp⟩
  refine lv_aload_n hx hb dJ17_ensureCapacityInternal_0 rfl (lv_at hl 0 rfl) ?_
  refine x_getA X hC.1 hM (ci := 23) (C := RJ18) (T := TJ18) (N := 4) rfl in_J18 0 (by decide) q616 (fun _ h9 => h9) dJ17_ensureCapacityInternal_1 hp (fun a1 hp => ?_)
  refine x_alen X hC.1 hM (ty := .byte) (by decide) dJ17_ensureCapacityInternal_4 hp (fun v2 hp => ?_)
  refine lv_aload_n hx hb dJ17_ensureCapacityInternal_5 rfl (lv_at hl 0 rfl) ?_
  refine x_getI X hC.1 hM (ci := 23) (C := RJ18) (T := TJ18) (N := 4) rfl in_J18 1 (by decide) q617 (fun _ h9 => h9) dJ17_ensureCapacityInternal_6 hp (fun v3 hp => ?_)
  refine lv_ishr hx hb dJ17_ensureCapacityInternal_9 ?_
  refine lv_istore_n (lv' := [(2, .int (v2 >>> (v3 &&& 31))), (0, .ref t0), (1, .int p1)]) hx hb dJ17_ensureCapacityInternal_10 rfl hl (by decide) rfl (fun ls hl => ?_)
  refine lv_iload_n hx hb dJ17_ensureCapacityInternal_11 rfl (lv_at hl 2 rfl) ?_
  refine lv_iload_n hx hb dJ17_ensureCapacityInternal_12 rfl (lv_at hl 0 rfl) ?_
  refine lv_isub hx hb dJ17_ensureCapacityInternal_13 ?_
  refine lv_if_le (tgt := 38) hx hb dJ17_ensureCapacityInternal_14 (by decide) (fun hc => ?_) (fun hc => ?_)
  · have hp := oIf.t hp hc
    exact hB38 _ _ _ _ _ _ _ hp hM hS hB (lv_sub hl [] rfl)
  · have hp := oIf.f hp hc
    refine lv_aload_n hx hb dJ17_ensureCapacityInternal_17 rfl (lv_at hl 1 rfl) ?_
    refine lv_aload_n hx hb dJ17_ensureCapacityInternal_18 rfl (lv_at hl 1 rfl) ?_
    refine x_getA X hC.1 hM (ci := 23) (C := RJ18) (T := TJ18) (N := 4) rfl in_J18 0 (by decide) q616 (fun _ h9 => h9) dJ17_ensureCapacityInternal_19 hp (fun a4 hp => ?_)
    refine lv_aload_n hx hb dJ17_ensureCapacityInternal_22 rfl (lv_at hl 1 rfl) ?_
    refine lv_iload_n hx hb dJ17_ensureCapacityInternal_23 rfl (lv_at hl 2 rfl) ?_
    obtain ⟨hrec, hp⟩ := hp
    refine x_call0I (w_runP hC (As := [.int p1]) (rest := [.ref a4, .ref t0]) 1 X (P_J17_newCapacity_J18_ok (l := l) hl0 hp) q650 q649 q169 (by decide) q647 q3804 (by decide) (by decide +kernel) rfl rfl ⟨Nat.le_of_ble_eq_true rfl, Nat.le_of_ble_eq_true rfl⟩ ⟨wPc.blind, w_recv hC.1 hM (ci := 23) (q := (RJ18, TJ18, 4)) rfl hrec, w_pre hC hM hS _⟩ rfl rfl hl.1 rfl (lv_room (Nat.le_of_ble_eq_true rfl)) dJ17_ensureCapacityInternal_24 (w_room0 hB)) hS (w_room0 hB) (fun _ _ _ _ _ _ h => False.elim h) (fun v7 M5 H locs hp hM hS => ?_)
    refine lv_aload_n hx hb dJ17_ensureCapacityInternal_27 rfl (lv_at hl 1 rfl) ?_
    refine x_getI X hC.1 hM (ci := 23) (C := RJ18) (T := TJ18) (N := 4) rfl in_J18 1 (by decide) q617 (fun _ h9 => h9) dJ17_ensureCapacityInternal_28 hp (fun v8 hp => ?_)
    refine lv_ishl hx hb dJ17_ensureCapacityInternal_31 ?_
    obtain ⟨c10, hc1, hp⟩ := hp
    refine x_callR (vx_runS (As := [.ref a4, .int (v7 <<< (v8 &&& 31))]) (rest := [.ref t0]) X (P_J5_copyOf_3_ok (l := l) hl0 hp) (va_cwS 2 hts (lw_S q653 q654 q156 q655) rfl rfl rfl (by decide +kernel) ⟨Nat.le_of_ble_eq_true rfl, Nat.le_of_ble_eq_true rfl⟩) ⟨wPc.blind, w_pre hC hM hS _⟩ rfl rfl hl.1 rfl (lv_room (Nat.le_of_ble_eq_true rfl)) dJ17_ensureCapacityInternal_32 (w_room hB hc1)) hS hB hc1 (fun _ _ _ _ _ _ h => False.elim h) (fun r11 M9 H locs hp hM hS hB => ?_)
    refine x_put X hC.1 hM hS (ci := 23) (C := RJ18) (T := TJ18) (N := 4) rfl in_J18 tyJ18 tyJ18_ok nmJ18 0 (by decide) q616 (fun _ h9 => h9) rfl (w_narr _ r11) (w_farr _ r11) dJ17_ensureCapacityInternal_35 hp (fun M12 H locs hM hS hp => ?_)
    exact hB38 _ _ _ _ _ _ _ hp hM hS hB (lv_sub hl [] rfl)
def B_J21_canEncode_12 (G : wG) (Q : Bool → wM → Prop) (y0 : Int32) (M : wM) : Prop :=
  ∃ r : Bool, y0 = wb r ∧ Q r M
def P_J21_canEncode (G : wG) (p1 : Int32) (M : wM) (Q : Bool → wM → Prop) : Prop :=
  oIf ((255 : Int32) < p1) (B_J21_canEncode_12 G Q (0 : Int32) M) (B_J21_canEncode_12 G Q (1 : Int32) M)
set_option maxHeartbeats 4000000 in
set_option maxRecDepth 100000 in
theorem P_J21_canEncode_ok {l : Launch} (hl0 : l.stackTraces = false) {G : wG} {p1 : Int32} {M : wM} {Q : Bool → wM → Prop} (hp : P_J21_canEncode G p1 M Q) : wMet l yJ21_canEncode (ws_ yJ21_canEncode cJ21_canEncode 1 (Option.some Jvm.ClassFile.FieldType.boolean)) 12 400 G [.int p1] M 0 (wqZ Q) wX0 := by
  refine vx_ofW (cc := cJ21_canEncode) (maxL := 1) (ret := Option.some Jvm.ClassFile.FieldType.boolean) (by decide) rfl ?_
  intro p e s m args below meth c s₁ B hml hnt hv
  obtain ⟨rfl, hM, hK, hZ, hz⟩ := hv
  have hC : wC G s := ⟨hK, hZ, hz⟩
  have hx := B.exec
  have hb := B.bytes
  have hr := B.returns
  have hts := atoms_spec (ws := (ws_ yJ21_canEncode cJ21_canEncode 1 (Option.some Jvm.ClassFile.FieldType.boolean))) B.pre
  have hts : ∀ w ∈ lw_all, w.before _ s = true := fun w h => hts w (List.mem_cons_of_mem _ h)
  have hown : s.vm.findClass RJ21 = some m.cls := findClass_of_methodNamed B.named
  have hlk := B.notSynchronized
  have X : CallFix p m c cJ21_canEncode 1 s ([.int p1] : List Value).toArray lw_all RJ21 := ⟨hx, hb, hml, hown, hts⟩
  have hS : va_S (wA G) s.heap s.heap [] := va_S.rf
  have hl := lv_entry ([.int p1]) (n := 1) (Nat.le_of_ble_eq_true rfl)
  rw [lg_entry_eq]
  generalize (lg_sl ([.int p1]) ++ List.replicate (1 - (lg_sl ([.int p1])).length) Slot.unset).toArray = ls at hl ⊢
  have hl : lv_has ls 1 [(0, .int p1)] := hl
  have hB12 : ∀ (y0 : Int32) (M : wM) (H : Heap) (locs : List Loc) (ls : Array Slot), B_J21_canEncode_12 G Q y0 M → wR G M H → va_S (wA G) s.heap H locs → lv_has ls 1 [] → W p l e (headSpec (ws_ yJ21_canEncode cJ21_canEncode 1 (Option.some Jvm.ClassFile.FieldType.boolean)) ({ frames := 12, cells := 0, slots := 0, locals := 400 })).room s m ([.int p1] : List Value).toArray below meth c H locs 0 0 (vx_MQ below (wQ G (wqZ Q)) (wXC G wX0) ([.int p1] : List Value).toArray s 0 0 (wA G)) (F0 m 12 ls [.int y0]) := by
    intro y0 M H locs ls hp hM hS hl
    obtain ⟨r, hr0, hp⟩ := hp
    exact x_zret X hr hlk hM hS ⟨Nat.le_refl _, Nat.le_refl _⟩ (by rw [hr0]; exact w_nz _) dJ21_canEncode_12 ⟨r, by rw [hr0], hp⟩
  refine lv_iload_n hx hb dJ21_canEncode_0 rfl (lv_at hl 0 rfl) ?_
  refine lv_sipush (v := 255) hx hb dJ21_canEncode_1 (by decide) ?_
  refine lv_icmp_gt (tgt := 11) hx hb dJ21_canEncode_4 (by decide) (fun hc => ?_) (fun hc => ?_)
  · have hp := oIf.t hp hc
    refine lv_iconst (v := 0) hx hb dJ21_canEncode_11 (by decide) ?_
    exact hB12 _ _ _ _ _ hp hM hS (lv_sub hl [] rfl)
  · have hp := oIf.f hp hc
    refine lv_iconst (v := 1) hx hb dJ21_canEncode_7 (by decide) ?_
    refine lv_goto (tgt := 12) hx hb dJ21_canEncode_8 (by decide) ?_
    exact hB12 _ _ _ _ _ hp hM hS (lv_sub hl [] rfl)
def B_J17_append_3_J18_75 (G : wG) (Q : Option Nat → wM → Prop) (x0 : Nat) (M : wM) (bq : Nat) : Prop :=
  Q (some x0) M
def P_J17_append_3_J18 (G : wG) (t0 : Nat) (p1 : Int32) (b : Nat) (M : wM) (Q : Option Nat → wM → Prop) : Prop :=
  oGetI M t0 23 3 (fun v1 => oIs M t0 23 (∃ c3, c3 ≤ b ∧ P_J17_ensureCapacityInternal_J18 G t0 (v1 + (1 : Int32)) c3 M (fun M2 => oIs M2 t0 23 (P_J17_isLatin1_J18 G t0 M2 (fun r6 M4 => oIf (r6 = true) (P_J21_canEncode G p1 M4 (fun r9 M7 => oIf (r9 = true) (oGetA M7 t0 23 0 (fun a10 => oGetI M7 t0 23 3 (fun v11 => oPut G M7 t0 23 3 (.int (v11 + (1 : Int32))) (fun M12 => oBast G M12 a10 v11 (p1.toInt8.toInt32) (fun M13 => B_J17_append_3_J18_75 G Q t0 M13 (b - c3)))))) (False))) (False))))))
set_option maxHeartbeats 4000000 in
set_option maxRecDepth 100000 in
theorem P_J17_append_3_J18_ok {l : Launch} (hl0 : l.stackTraces = false) {G : wG} {t0 : Nat} {p1 : Int32} {b : Nat} {M : wM} {Q : Option Nat → wM → Prop} (hp : P_J17_append_3_J18 G t0 p1 b M Q) : wMet l yJ17_append_3 (ws_ yJ17_append_3 cJ17_append_3 2 (Option.some (Jvm.ClassFile.FieldType.object "java/lang/AbstractStringBuilder"))) 16 492 G [.ref t0, .int p1] M b (wqR Q) wX0 := by
  refine vx_ofW (cc := cJ17_append_3) (maxL := 2) (ret := Option.some (Jvm.ClassFile.FieldType.object "java/lang/AbstractStringBuilder")) (by decide) rfl ?_
  intro p e s m args below meth c s₁ B hml hnt hv
  obtain ⟨rfl, hM, hK, hZ, hz⟩ := hv
  have hC : wC G s := ⟨hK, hZ, hz⟩
  have hx := B.exec
  have hb := B.bytes
  have hr := B.returns
  have hts := atoms_spec (ws := (ws_ yJ17_append_3 cJ17_append_3 2 (Option.some (Jvm.ClassFile.FieldType.object "java/lang/AbstractStringBuilder")))) B.pre
  have hts : ∀ w ∈ lw_all, w.before _ s = true := fun w h => hts w (List.mem_cons_of_mem _ h)
  have hown : s.vm.findClass RJ17 = some m.cls := findClass_of_methodNamed B.named
  have hlk := B.notSynchronized
  have X : CallFix p m c cJ17_append_3 2 s ([.ref t0, .int p1] : List Value).toArray lw_all RJ17 := ⟨hx, hb, hml, hown, hts⟩
  have hS : va_S (wA G) s.heap s.heap [] := va_S.rf
  have hl := lv_entry ([.ref t0, .int p1]) (n := 2) (Nat.le_of_ble_eq_true rfl)
  rw [lg_entry_eq]
  generalize (lg_sl ([.ref t0, .int p1]) ++ List.replicate (2 - (lg_sl ([.ref t0, .int p1])).length) Slot.unset).toArray = ls at hl ⊢
  have hl : lv_has ls 2 [(0, .ref t0), (1, .int p1)] := hl
  have hB : 0 + b ≤ ((headSpec (ws_ yJ17_append_3 cJ17_append_3 2 (Option.some (Jvm.ClassFile.FieldType.object "java/lang/AbstractStringBuilder"))) ({ frames := 16, cells := b, slots := b, locals := 492 })).room).cells ∧ 0 + b ≤ ((headSpec (ws_ yJ17_append_3 cJ17_append_3 2 (Option.some (Jvm.ClassFile.FieldType.object "java/lang/AbstractStringBuilder"))) ({ frames := 16, cells := b, slots := b, locals := 492 })).room).slots := ⟨Nat.le_of_eq (Nat.zero_add b), Nat.le_of_eq (Nat.zero_add b)⟩
  have hB75 : ∀ (x0 : Nat) (M : wM) (bq : Nat) (H : Heap) (locs : List Loc) (ls : Array Slot) (cells slots : Nat), B_J17_append_3_J18_75 G Q x0 M bq → wR G M H → va_S (wA G) s.heap H locs → (cells + bq ≤ ((headSpec (ws_ yJ17_append_3 cJ17_append_3 2 (Option.some (Jvm.ClassFile.FieldType.object "java/lang/AbstractStringBuilder"))) ({ frames := 16, cells := b, slots := b, locals := 492 })).room).cells ∧ slots + bq ≤ ((headSpec (ws_ yJ17_append_3 cJ17_append_3 2 (Option.some (Jvm.ClassFile.FieldType.object "java/lang/AbstractStringBuilder"))) ({ frames := 16, cells := b, slots := b, locals := 492 })).room).slots) → lv_has ls 2 [(0, .ref x0)] → W p l e (headSpec (ws_ yJ17_append_3 cJ17_append_3 2 (Option.some (Jvm.ClassFile.FieldType.object "java/lang/AbstractStringBuilder"))) ({ frames := 16, cells := b, slots := b, locals := 492 })).room s m ([.ref t0, .int p1] : List Value).toArray below meth c H locs cells slots (vx_MQ below (wQ G (wqR Q)) (wXC G wX0) ([.ref t0, .int p1] : List Value).toArray s b b (wA G)) (F0 m 75 ls []) := by
    intro x0 M bq H locs ls cells slots hp hM hS hB hl
    refine lv_aload_n hx hb dJ17_append_3_75 rfl (lv_at hl 0 rfl) ?_
    exact x_aret (v := (some x0)) X hr (by first | exact Or.inl ⟨_, rfl⟩ | exact Or.inr ⟨_, rfl⟩) hlk hM hS (w_fin hB) dJ17_append_3_76 ⟨(some x0), rfl, hp⟩
  refine lv_aload_n hx hb dJ17_append_3_0 rfl (lv_at hl 0 rfl) ?_
  refine lv_aload_n hx hb dJ17_append_3_1 rfl (lv_at hl 0 rfl) ?_
  refine x_getI X hC.1 hM (ci := 23) (C := RJ18) (T := TJ18) (N := 4) rfl in_J18 3 (by decide) q620 (fun _ h9 => h9) dJ17_append_3_2 hp (fun v1 hp => ?_)
  refine lv_iconst (v := 1) hx hb dJ17_append_3_5 (by decide) ?_
  refine lv_iadd hx hb dJ17_append_3_6 ?_
  obtain ⟨hrec, hp⟩ := hp
  obtain ⟨c3, hc1, hp⟩ := hp
  refine x_callV (w_runP hC (As := [.int (v1 + (1 : Int32))]) (rest := []) 1 X (P_J17_ensureCapacityInternal_J18_ok (l := l) hl0 hp) q646 q645 q169 (by decide) q643 q3803 (by decide) (by decide +kernel) rfl rfl ⟨Nat.le_of_ble_eq_true rfl, Nat.le_of_ble_eq_true rfl⟩ ⟨wPc.blind, w_recv hC.1 hM (ci := 23) (q := (RJ18, TJ18, 4)) rfl hrec, w_pre hC hM hS _⟩ rfl rfl hl.1 rfl (lv_room (Nat.le_of_ble_eq_true rfl)) dJ17_append_3_7 (w_room hB hc1)) hS hB hc1 (fun _ _ _ _ _ _ h => False.elim h) (fun M2 H locs hp hM hS hB => ?_)
  refine lv_aload_n hx hb dJ17_append_3_10 rfl (lv_at hl 0 rfl) ?_
  obtain ⟨hrec, hp⟩ := hp
  refine x_call0Z (vx_runU (As := []) (rest := []) X (P_J17_isLatin1_J18_ok (l := l) hl0 hp) (va_cwU 0 hts (lw_app (w_mem5 q663 q665 q666 q664 q169) (lw_meth q667)) rfl rfl rfl rfl (by decide +kernel) ⟨Nat.le_of_ble_eq_true rfl, Nat.le_of_ble_eq_true rfl⟩) ⟨wPc.blind, w_recv hC.1 hM (ci := 23) (q := (RJ18, TJ18, 4)) rfl hrec, w_pre hC hM hS _⟩ rfl rfl hl.1 rfl (lv_room (Nat.le_of_ble_eq_true rfl)) dJ17_append_3_11 (w_room0 hB)) hS (w_room0 hB) (fun _ _ _ _ _ _ h => False.elim h) (fun r6 M4 H locs hp hM hS => ?_)
  refine x_ifeqB (tgt := 45) hx hb dJ17_append_3_14 (by decide) (fun hc => ?_) (fun hc => ?_)
  · have hp := oIf.bf hp hc
    exact hp.elim
  · have hp := oIf.bt hp hc
    refine lv_iload_n hx hb dJ17_append_3_17 rfl (lv_at hl 1 rfl) ?_
    refine x_call0Z (vx_runS (As := [.int p1]) (rest := []) X (P_J21_canEncode_ok (l := l) hl0 hp) (va_cwS 1 hts (lw_S q1115 q1116 q173 q1117) rfl rfl rfl (by decide +kernel) ⟨Nat.le_of_ble_eq_true rfl, Nat.le_of_ble_eq_true rfl⟩) ⟨wPc.blind, w_pre hC hM hS _⟩ rfl rfl hl.1 rfl (lv_room (Nat.le_of_ble_eq_true rfl)) dJ17_append_3_18 (w_room0 hB)) hS (w_room0 hB) (fun _ _ _ _ _ _ h => False.elim h) (fun r9 M7 H locs hp hM hS => ?_)
    refine x_ifeqB (tgt := 45) hx hb dJ17_append_3_21 (by decide) (fun hc => ?_) (fun hc => ?_)
    · have hp := oIf.bf hp hc
      exact hp.elim
    · have hp := oIf.bt hp hc
      refine lv_aload_n hx hb dJ17_append_3_24 rfl (lv_at hl 0 rfl) ?_
      refine x_getA X hC.1 hM (ci := 23) (C := RJ18) (T := TJ18) (N := 4) rfl in_J18 0 (by decide) q616 (fun _ h9 => h9) dJ17_append_3_25 hp (fun a10 hp => ?_)
      refine lv_aload_n hx hb dJ17_append_3_28 rfl (lv_at hl 0 rfl) ?_
      refine lv_dup hx hb dJ17_append_3_29 rfl ?_
      refine x_getI X hC.1 hM (ci := 23) (C := RJ18) (T := TJ18) (N := 4) rfl in_J18 3 (by decide) q620 (fun _ h9 => h9) dJ17_append_3_30 hp (fun v11 hp => ?_)
      refine lv_dup_x1 hx hb dJ17_append_3_33 rfl rfl ?_
      refine lv_iconst (v := 1) hx hb dJ17_append_3_34 (by decide) ?_
      refine lv_iadd hx hb dJ17_append_3_35 ?_
      refine x_put X hC.1 hM hS (ci := 23) (C := RJ18) (T := TJ18) (N := 4) rfl in_J18 tyJ18 tyJ18_ok nmJ18 3 (by decide) q620 (fun _ h9 => h9) rfl rfl rfl dJ17_append_3_36 hp (fun M12 H locs hM hS hp => ?_)
      refine lv_iload_n hx hb dJ17_append_3_39 rfl (lv_at hl 1 rfl) ?_
      refine lv_i2b (v := (p1.toInt8.toInt32)) hx hb dJ17_append_3_40 rfl ?_
      refine x_bast X hC.1 hM hS dJ17_append_3_41 hp (fun M13 H locs hM hS hp => ?_)
      refine lv_goto (tgt := 75) hx hb dJ17_append_3_42 (by decide) ?_
      exact hB75 _ _ _ _ _ _ _ _ hp hM hS hB (lv_sub hl [0] rfl)
def P_J18_append_3 (G : wG) (t0 : Nat) (p1 : Int32) (b : Nat) (M : wM) (Q : Option Nat → wM → Prop) : Prop :=
  oIs M t0 23 (∃ c2, c2 ≤ b ∧ P_J17_append_3_J18 G t0 p1 c2 M (fun r3 M1 => Q (some t0) M1))
set_option maxHeartbeats 4000000 in
set_option maxRecDepth 100000 in
theorem P_J18_append_3_ok {l : Launch} (hl0 : l.stackTraces = false) {G : wG} {t0 : Nat} {p1 : Int32} {b : Nat} {M : wM} {Q : Option Nat → wM → Prop} (hp : P_J18_append_3 G t0 p1 b M Q) : wMet l yJ18_append_3 (ws_ yJ18_append_3 cJ18_append_3 2 (Option.some (Jvm.ClassFile.FieldType.object "java/lang/StringBuilder"))) 17 513 G [.ref t0, .int p1] M b (wqR Q) wX0 := by
  refine vx_ofW (cc := cJ18_append_3) (maxL := 2) (ret := Option.some (Jvm.ClassFile.FieldType.object "java/lang/StringBuilder")) (by decide) rfl ?_
  intro p e s m args below meth c s₁ B hml hnt hv
  obtain ⟨rfl, hM, hK, hZ, hz⟩ := hv
  have hC : wC G s := ⟨hK, hZ, hz⟩
  have hx := B.exec
  have hb := B.bytes
  have hr := B.returns
  have hts := atoms_spec (ws := (ws_ yJ18_append_3 cJ18_append_3 2 (Option.some (Jvm.ClassFile.FieldType.object "java/lang/StringBuilder")))) B.pre
  have hts : ∀ w ∈ lw_all, w.before _ s = true := fun w h => hts w (List.mem_cons_of_mem _ h)
  have hown : s.vm.findClass RJ18 = some m.cls := findClass_of_methodNamed B.named
  have hlk := B.notSynchronized
  have X : CallFix p m c cJ18_append_3 2 s ([.ref t0, .int p1] : List Value).toArray lw_all RJ18 := ⟨hx, hb, hml, hown, hts⟩
  have hS : va_S (wA G) s.heap s.heap [] := va_S.rf
  have hl := lv_entry ([.ref t0, .int p1]) (n := 2) (Nat.le_of_ble_eq_true rfl)
  rw [lg_entry_eq]
  generalize (lg_sl ([.ref t0, .int p1]) ++ List.replicate (2 - (lg_sl ([.ref t0, .int p1])).length) Slot.unset).toArray = ls at hl ⊢
  have hl : lv_has ls 2 [(0, .ref t0), (1, .int p1)] := hl
  have hB : 0 + b ≤ ((headSpec (ws_ yJ18_append_3 cJ18_append_3 2 (Option.some (Jvm.ClassFile.FieldType.object "java/lang/StringBuilder"))) ({ frames := 17, cells := b, slots := b, locals := 513 })).room).cells ∧ 0 + b ≤ ((headSpec (ws_ yJ18_append_3 cJ18_append_3 2 (Option.some (Jvm.ClassFile.FieldType.object "java/lang/StringBuilder"))) ({ frames := 17, cells := b, slots := b, locals := 513 })).room).slots := ⟨Nat.le_of_eq (Nat.zero_add b), Nat.le_of_eq (Nat.zero_add b)⟩
  refine lv_aload_n hx hb dJ18_append_3_0 rfl (lv_at hl 0 rfl) ?_
  refine lv_iload_n hx hb dJ18_append_3_1 rfl (lv_at hl 1 rfl) ?_
  obtain ⟨hrec, hp⟩ := hp
  obtain ⟨c2, hc1, hp⟩ := hp
  refine x_callR (vx_runSU (hC.1.1.1 23 (RJ18, TJ18, 4) rfl).2 (As := [.int p1]) (rest := []) X (P_J17_append_3_J18_ok (l := l) hl0 hp) (va_cwSU 1 hts (lw_app (w_mem5 q1112 q3809 q629 q1113 q169) (lw_meth q1114)) rfl rfl rfl (by decide +kernel) ⟨Nat.le_of_ble_eq_true rfl, Nat.le_of_ble_eq_true rfl⟩) ⟨wPc.blind, w_recv hC.1 hM (ci := 23) (q := (RJ18, TJ18, 4)) rfl hrec, w_pre hC hM hS _⟩ rfl rfl hl.1 rfl (lv_room (Nat.le_of_ble_eq_true rfl)) dJ18_append_3_2 (w_room hB hc1)) hS hB hc1 (fun _ _ _ _ _ _ h => False.elim h) (fun r3 M1 H locs hp hM hS hB => ?_)
  refine lv_pop hx hb dJ18_append_3_5 (w_cat _) ?_
  refine lv_aload_n hx hb dJ18_append_3_6 rfl (lv_at hl 0 rfl) ?_
  exact x_aret (v := (some t0)) X hr (by first | exact Or.inl ⟨_, rfl⟩ | exact Or.inr ⟨_, rfl⟩) hlk hM hS (w_fin hB) dJ18_append_3_7 ⟨(some t0), rfl, hp⟩
def B_X1_find_19 (G : wG) (rec19 : Nat → Int32 → Nat → Int32 → wM → Nat → Prop) (Q : Int32 → wM → Prop) (Xp : String → Nat → wM → Prop) (x0 : Nat) (x1 : Int32) (x2 : Nat) (x3 : Int32) (M : wM) (bq : Nat) : Prop :=
  oGetI M x0 0 4 (fun v1 => oIf (v1 ≤ x3) (oPut G M x0 0 4 (.int (0 : Int32)) (fun M2 => oIs M2 x0 0 (P_X1_setup G x0 M2 (fun r5 M3 => oRef r5 (fun a6 => oGetA M3 a6 2 3 (fun a7 => oIs M3 a7 16 (P_J2_get G a7 x1 M3 (fun r10 M8 => oCast M8 r10 16 (oIs M8 x2 23 (∃ c12, c12 ≤ bq ∧ P_J18_toString G x2 c12 M8 (fun r13 M11 => oRef r10 (fun a14 => oRef r13 (fun a15 => oIs M11 a14 16 (P_J2_indexOf G a14 a15 M11 (fun v18 M16 => Q v18 M16))))))))))))))) (oGetA M x0 0 3 (fun a19 => oIald .byte M a19 x3 (fun v20 => oIs M x2 23 (∃ c22, c22 ≤ bq ∧ P_J18_append_3 G x2 (((v20 &&& (255 : Int32)).toUInt32 % 65536).toInt32) c22 M (fun r23 M21 => rec19 x0 x1 x2 (x3 + 1) M21 (bq - c22)))))))
def L_X1_find_19 (G : wG) (Q : Int32 → wM → Prop) (Xp : String → Nat → wM → Prop) : Nat → Nat → Int32 → Nat → Int32 → wM → Nat → Prop
  | 0 => fun _ _ _ _ _ _ => False
  | n + 1 => B_X1_find_19 G (L_X1_find_19 G Q Xp n) Q Xp
def P_X1_find (G : wG) (t0 : Nat) (p1 : Int32) (b : Nat) (M : wM) (Q : Int32 → wM → Prop) (Xp : String → Nat → wM → Prop) : Prop :=
  P_X1_inRange G p1 (0 : Int32) (2 : Int32) M (fun r3 M1 => ∃ c5, c5 ≤ b ∧ P_X1_checkArgument G (wb r3) c5 M1 (fun M4 => oNew G M4 (b - c5) 23 [.null, .int 0, .int 0, .int 0] (fun a6 M7 b8 => ∃ c10, c10 ≤ b8 ∧ P_J18_init G a6 c10 M7 (fun M9 => ∃ n, L_X1_find_19 G Q Xp n t0 p1 a6 (0 : Int32) M9 (b8 - c10)))) (fun E q11 M12 => (E = "java/lang/IllegalArgumentException" ∧ Xp E q11 M12)))
set_option maxHeartbeats 4000000 in
set_option maxRecDepth 100000 in
theorem P_X1_find_ok {l : Launch} (hl0 : l.stackTraces = false) {G : wG} {t0 : Nat} {p1 : Int32} {b : Nat} {M : wM} {Q : Int32 → wM → Prop} {Xp : String → Nat → wM → Prop} (hp : P_X1_find G t0 p1 b M Q Xp) : wMet l yX1_find (ws_ yX1_find cX1_find 4 (Option.some Jvm.ClassFile.FieldType.int)) 18 534 G [.ref t0, .int p1] M b (wqI Q) Xp := by
  refine vx_ofW (cc := cX1_find) (maxL := 4) (ret := Option.some Jvm.ClassFile.FieldType.int) (by decide) rfl ?_
  intro p e s m args below meth c s₁ B hml hnt hv
  obtain ⟨rfl, hM, hK, hZ, hz⟩ := hv
  have hC : wC G s := ⟨hK, hZ, hz⟩
  have hx := B.exec
  have hb := B.bytes
  have hr := B.returns
  have hts := atoms_spec (ws := (ws_ yX1_find cX1_find 4 (Option.some Jvm.ClassFile.FieldType.int))) B.pre
  have hts : ∀ w ∈ lw_all, w.before _ s = true := fun w h => hts w (List.mem_cons_of_mem _ h)
  have hown : s.vm.findClass RX1 = some m.cls := findClass_of_methodNamed B.named
  have hlk := B.notSynchronized
  have X : CallFix p m c cX1_find 4 s ([.ref t0, .int p1] : List Value).toArray lw_all RX1 := ⟨hx, hb, hml, hown, hts⟩
  have hS : va_S (wA G) s.heap s.heap [] := va_S.rf
  have hl := lv_entry ([.ref t0, .int p1]) (n := 4) (Nat.le_of_ble_eq_true rfl)
  rw [lg_entry_eq]
  generalize (lg_sl ([.ref t0, .int p1]) ++ List.replicate (4 - (lg_sl ([.ref t0, .int p1])).length) Slot.unset).toArray = ls at hl ⊢
  have hl : lv_has ls 4 [(0, .ref t0), (1, .int p1)] := hl
  have hB : 0 + b ≤ ((headSpec (ws_ yX1_find cX1_find 4 (Option.some Jvm.ClassFile.FieldType.int)) ({ frames := 18, cells := b, slots := b, locals := 534 })).room).cells ∧ 0 + b ≤ ((headSpec (ws_ yX1_find cX1_find 4 (Option.some Jvm.ClassFile.FieldType.int)) ({ frames := 18, cells := b, slots := b, locals := 534 })).room).slots := ⟨Nat.le_of_eq (Nat.zero_add b), Nat.le_of_eq (Nat.zero_add b)⟩
  have hB19 : ∀ (rec19 : Nat → Int32 → Nat → Int32 → wM → Nat → Prop) (hrec19 : ∀ (x0 : Nat) (x1 : Int32) (x2 : Nat) (x3 : Int32) (M : wM) (bq : Nat) (H : Heap) (locs : List Loc) (ls : Array Slot) (cells slots : Nat), rec19 x0 x1 x2 x3 M bq → wR G M H → va_S (wA G) s.heap H locs → (cells + bq ≤ ((headSpec (ws_ yX1_find cX1_find 4 (Option.some Jvm.ClassFile.FieldType.int)) ({ frames := 18, cells := b, slots := b, locals := 534 })).room).cells ∧ slots + bq ≤ ((headSpec (ws_ yX1_find cX1_find 4 (Option.some Jvm.ClassFile.FieldType.int)) ({ frames := 18, cells := b, slots := b, locals := 534 })).room).slots) → lv_has ls 4 [(0, .ref x0), (1, .int x1), (2, .ref x2), (3, .int x3)] → W p l e (headSpec (ws_ yX1_find cX1_find 4 (Option.some Jvm.ClassFile.FieldType.int)) ({ frames := 18, cells := b, slots := b, locals := 534 })).room s m ([.ref t0, .int p1] : List Value).toArray below meth c H locs cells slots (vx_MQ below (wQ G (wqI Q)) (wXC G Xp) ([.ref t0, .int p1] : List Value).toArray s b b (wA G)) (F0 m 19 ls [])), ∀ (x0 : Nat) (x1 : Int32) (x2 : Nat) (x3 : Int32) (M : wM) (bq : Nat) (H : Heap) (locs : List Loc) (ls : Array Slot) (cells slots : Nat), B_X1_find_19 G rec19 Q Xp x0 x1 x2 x3 M bq → wR G M H → va_S (wA G) s.heap H locs → (cells + bq ≤ ((headSpec (ws_ yX1_find cX1_find 4 (Option.some Jvm.ClassFile.FieldType.int)) ({ frames := 18, cells := b, slots := b, locals := 534 })).room).cells ∧ slots + bq ≤ ((headSpec (ws_ yX1_find cX1_find 4 (Option.some Jvm.ClassFile.FieldType.int)) ({ frames := 18, cells := b, slots := b, locals := 534 })).room).slots) → lv_has ls 4 [(0, .ref x0), (1, .int x1), (2, .ref x2), (3, .int x3)] → W p l e (headSpec (ws_ yX1_find cX1_find 4 (Option.some Jvm.ClassFile.FieldType.int)) ({ frames := 18, cells := b, slots := b, locals := 534 })).room s m ([.ref t0, .int p1] : List Value).toArray below meth c H locs cells slots (vx_MQ below (wQ G (wqI Q)) (wXC G Xp) ([.ref t0, .int p1] : List Value).toArray s b b (wA G)) (F0 m 19 ls []) := by
    intro rec19 hrec19 x0 x1 x2 x3 M bq H locs ls cells slots hp hM hS hB hl
    refine lv_iload_n hx hb dX1_find_19 rfl (lv_at hl 3 rfl) ?_
    refine lv_aload_n hx hb dX1_find_20 rfl (lv_at hl 0 rfl) ?_
    refine x_getI X hC.1 hM (ci := 0) (C := RX1) (T := TX1) (N := 8) rfl in_X1 4 (by decide) q979 (fun _ h9 => h9) dX1_find_21 hp (fun v1 hp => ?_)
    refine lv_icmp_ge (tgt := 49) hx hb dX1_find_24 (by decide) (fun hc => ?_) (fun hc => ?_)
    · have hp := oIf.t hp hc
      refine lv_aload_n hx hb dX1_find_49 rfl (lv_at hl 0 rfl) ?_
      refine lv_iconst (v := 0) hx hb dX1_find_50 (by decide) ?_
      refine x_put X hC.1 hM hS (ci := 0) (C := RX1) (T := TX1) (N := 8) rfl in_X1 tyX1 tyX1_ok nmX1 4 (by decide) q979 (fun _ h9 => h9) rfl rfl rfl dX1_find_51 hp (fun M2 H locs hM hS hp => ?_)
      refine lv_aload_n hx hb dX1_find_54 rfl (lv_at hl 0 rfl) ?_
      obtain ⟨hrec, hp⟩ := hp
      refine x_call0R (vx_runV (As := []) (rest := []) X (P_X1_setup_ok (l := l) hl0 hp) (cwV 0 hts (lw_V q1535 q1537 qs29 q148 q1538) rfl rfl rfl (by decide +kernel) ⟨Nat.le_of_ble_eq_true rfl, Nat.le_of_ble_eq_true rfl⟩) ⟨wPc.blind, w_recv hC.1 hM (ci := 0) (q := (RX1, TX1, 8)) rfl hrec, w_pre hC hM hS _⟩ rfl rfl hl.1 rfl (lv_room (Nat.le_of_ble_eq_true rfl)) dX1_find_55 (w_room0 hB)) hS (w_room0 hB) (fun _ _ _ _ _ _ h => False.elim h) (fun r5 M3 H locs hp hM hS => ?_)
      obtain ⟨a6, ea, hqa6⟩ := hp
      subst ea
      have hp := hqa6
      refine x_getAN X hC.1 hM (ci := 2) (C := RX3) (T := TX3) (N := 8) rfl in_X3 3 (by decide) q409 (fun _ h9 => h9) dX1_find_58 hp (fun a7 hp => ?_)
      refine lv_iload_n hx hb dX1_find_61 rfl (lv_at hl 1 rfl) ?_
      obtain ⟨hrec, hp⟩ := hp
      refine x_call0R5 (vx_runF (hC.1.1.1 16 (RJ2, TJ2, 3) rfl).2 (C := "java/util/ArrayList") (As := [.int x1]) (rest := []) X (P_J2_get_ok (l := l) hl0 hp) (va_cwF 1 hts (lw_app (w_mem4 q1667 q522 q524 q153) (lw_meth q526)) rfl rfl rfl (wfw_8 hC.1) (by decide +kernel) ⟨Nat.le_of_ble_eq_true rfl, Nat.le_of_ble_eq_true rfl⟩) ⟨wPc.blind, w_recv hC.1 hM (ci := 16) (q := (RJ2, TJ2, 3)) rfl hrec, w_pre hC hM hS _⟩ rfl rfl hl.1 rfl (lv_room (Nat.le_of_ble_eq_true rfl)) dX1_find_62 (w_room0 hB)) hS (w_room0 hB) (fun _ _ _ _ _ _ h => False.elim h) (fun r10 M8 H locs hp hM hS => ?_)
      refine x_cast (r := r10) X hC.1 hM q2341 (ci := 16) rfl (Or.inr q265) dX1_find_67 hp (fun hp => ?_)
      refine lv_aload_n hx hb dX1_find_70 rfl (lv_at hl 2 rfl) ?_
      obtain ⟨hrec, hp⟩ := hp
      obtain ⟨c12, hc1, hp⟩ := hp
      refine x_callR (vx_runV (As := []) (rest := [va_rf r10]) X (P_J18_toString_ok (l := l) hl0 hp) (cwV 0 hts (lw_V q2342 q769 q770 q170 q771) rfl rfl rfl (by decide +kernel) ⟨Nat.le_of_ble_eq_true rfl, Nat.le_of_ble_eq_true rfl⟩) ⟨wPc.blind, w_recv hC.1 hM (ci := 23) (q := (RJ18, TJ18, 4)) rfl hrec, w_pre hC hM hS _⟩ rfl rfl hl.1 rfl (lv_room (by cases r10 <;> exact Nat.le_of_ble_eq_true rfl)) dX1_find_71 (w_room hB hc1)) hS hB hc1 (fun _ _ _ _ _ _ h => False.elim h) (fun r13 M11 H locs hp hM hS hB => ?_)
      obtain ⟨a14, ea, hqa14⟩ := hp
      subst ea
      have hp := hqa14
      obtain ⟨a15, ea, hqa15⟩ := hp
      subst ea
      have hp := hqa15
      obtain ⟨hrec, hp⟩ := hp
      refine x_call0I5 (vx_runF (hC.1.1.1 16 (RJ2, TJ2, 3) rfl).2 (C := "java/util/ArrayList") (As := [.ref a15]) (rest := []) X (P_J2_indexOf_ok (l := l) hl0 hp) (va_cwF 1 hts (lw_app (w_mem4 q2344 q1372 q1291 q153) (lw_meth q1293)) rfl rfl rfl (wfw_9 hC.1) (by decide +kernel) ⟨Nat.le_of_ble_eq_true rfl, Nat.le_of_ble_eq_true rfl⟩) ⟨wPc.blind, w_recv hC.1 hM (ci := 16) (q := (RJ2, TJ2, 3)) rfl hrec, w_pre hC hM hS _⟩ rfl rfl hl.1 rfl (lv_room (Nat.le_of_ble_eq_true rfl)) dX1_find_74 (w_room0 hB)) hS (w_room0 hB) (fun _ _ _ _ _ _ h => False.elim h) (fun v18 M16 H locs hp hM hS => ?_)
      exact x_iret X hr hlk hM hS (w_fin hB) dX1_find_79 ⟨_, rfl, hp⟩
    · have hp := oIf.f hp hc
      refine lv_aload_n hx hb dX1_find_27 rfl (lv_at hl 2 rfl) ?_
      refine lv_aload_n hx hb dX1_find_28 rfl (lv_at hl 0 rfl) ?_
      refine x_getA X hC.1 hM (ci := 0) (C := RX1) (T := TX1) (N := 8) rfl in_X1 3 (by decide) q976 (fun _ h9 => h9) dX1_find_29 hp (fun a19 hp => ?_)
      refine lv_iload_n hx hb dX1_find_32 rfl (lv_at hl 3 rfl) ?_
      refine x_bald X hC.1 hM dX1_find_33 hp (fun v20 hp => ?_)
      refine lv_sipush (v := 255) hx hb dX1_find_34 (by decide) ?_
      refine lv_iand hx hb dX1_find_37 ?_
      refine lv_i2c (v := (((v20 &&& (255 : Int32)).toUInt32 % 65536).toInt32)) hx hb dX1_find_38 rfl ?_
      obtain ⟨hrec, hp⟩ := hp
      obtain ⟨c22, hc1, hp⟩ := hp
      refine x_callR (vx_runV (As := [.int (((v20 &&& (255 : Int32)).toUInt32 % 65536).toInt32)]) (rest := []) X (P_J18_append_3_ok (l := l) hl0 hp) (cwV 1 hts (lw_V q2340 q1109 q1110 q170 q1111) rfl rfl rfl (by decide +kernel) ⟨Nat.le_of_ble_eq_true rfl, Nat.le_of_ble_eq_true rfl⟩) ⟨wPc.blind, w_recv hC.1 hM (ci := 23) (q := (RJ18, TJ18, 4)) rfl hrec, w_pre hC hM hS _⟩ rfl rfl hl.1 rfl (lv_room (Nat.le_of_ble_eq_true rfl)) dX1_find_39 (w_room hB hc1)) hS hB hc1 (fun _ _ _ _ _ _ h => False.elim h) (fun r23 M21 H locs hp hM hS hB => ?_)
      refine lv_pop hx hb dX1_find_42 (w_cat _) ?_
      refine lv_iinc (v := (x3 + 1)) (lv' := [(3, .int (x3 + 1)), (0, .ref x0), (1, .int x1), (2, .ref x2)]) hx hb dX1_find_43 hl (k := 3) rfl rfl (by decide) rfl (fun ls hl => ?_)
      refine lv_goto (tgt := 19) hx hb dX1_find_46 (by decide) ?_
      exact hrec19 _ _ _ _ _ _ _ _ _ _ _ hp hM hS hB (lv_sub hl [1, 2, 3, 0] rfl)
  have hL19 : ∀ (n : Nat), ∀ (x0 : Nat) (x1 : Int32) (x2 : Nat) (x3 : Int32) (M : wM) (bq : Nat) (H : Heap) (locs : List Loc) (ls : Array Slot) (cells slots : Nat), L_X1_find_19 G Q Xp n x0 x1 x2 x3 M bq → wR G M H → va_S (wA G) s.heap H locs → (cells + bq ≤ ((headSpec (ws_ yX1_find cX1_find 4 (Option.some Jvm.ClassFile.FieldType.int)) ({ frames := 18, cells := b, slots := b, locals := 534 })).room).cells ∧ slots + bq ≤ ((headSpec (ws_ yX1_find cX1_find 4 (Option.some Jvm.ClassFile.FieldType.int)) ({ frames := 18, cells := b, slots := b, locals := 534 })).room).slots) → lv_has ls 4 [(0, .ref x0), (1, .int x1), (2, .ref x2), (3, .int x3)] → W p l e (headSpec (ws_ yX1_find cX1_find 4 (Option.some Jvm.ClassFile.FieldType.int)) ({ frames := 18, cells := b, slots := b, locals := 534 })).room s m ([.ref t0, .int p1] : List Value).toArray below meth c H locs cells slots (vx_MQ below (wQ G (wqI Q)) (wXC G Xp) ([.ref t0, .int p1] : List Value).toArray s b b (wA G)) (F0 m 19 ls []) := by
    intro n
    induction n with
    | zero => intro _ _ _ _ _ _ _ _ _ _ _ hp; exact False.elim hp
    | succ n ih => intro x0 x1 x2 x3 M bq H locs ls cells slots hp hM hS hB hl; exact hB19 (L_X1_find_19 G Q Xp n) ih _ _ _ _ _ _ _ _ _ _ _ hp hM hS hB hl
  refine lv_iload_n hx hb dX1_find_0 rfl (lv_at hl 1 rfl) ?_
  refine lv_iconst (v := 0) hx hb dX1_find_1 (by decide) ?_
  refine lv_iconst (v := 2) hx hb dX1_find_2 (by decide) ?_
  refine x_call0Z (vx_runS (As := [.int p1, .int (0 : Int32), .int (2 : Int32)]) (rest := []) X (P_X1_inRange_ok (l := l) hl0 hp) (va_cwS 3 hts (lw_S q1012 q1013 q148 q1014) rfl rfl rfl (by decide +kernel) ⟨Nat.le_of_ble_eq_true rfl, Nat.le_of_ble_eq_true rfl⟩) ⟨wPc.blind, w_pre hC hM hS _⟩ rfl rfl hl.1 rfl (lv_room (Nat.le_of_ble_eq_true rfl)) dX1_find_3 (w_room0 hB)) hS (w_room0 hB) (fun _ _ _ _ _ _ h => False.elim h) (fun r3 M1 H locs hp hM hS => ?_)
  obtain ⟨c5, hc1, hp⟩ := hp
  refine x_callV (vx_runS (As := [.int (wb r3)]) (rest := []) X (P_X1_checkArgument_ok (l := l) hl0 hp) (va_cwS 1 hts (lw_S q2325 q2326 q148 q2327) rfl rfl rfl (by decide +kernel) ⟨Nat.le_of_ble_eq_true rfl, Nat.le_of_ble_eq_true rfl⟩) ⟨wPc.blind, w_pre hC hM hS _⟩ rfl rfl hl.1 rfl (lv_room (Nat.le_of_ble_eq_true rfl)) dX1_find_6 (w_room hB hc1)) hS hB hc1 (fun E ce q11 M12 H locs hp hM hS hB hcell hcv hcl => ?_) (fun M4 H locs hp hM hS hB => ?_)
  · obtain ⟨rfl, hp⟩ := hp
    exact x_out hlk (fun x h => (hnt x h).elim) hM hS (w_fin hB) hcell hcv hcl hp
  · refine x_new X hC hM hS hB (ci := 23) (C := RJ18) (T := TJ18) (N := 4) rfl in_J18 tyJ18 tyJ18_ok q971 q599 q170 rfl (by decide) dX1_find_9 hp (fun a6 M7 H b8 cells slots hM hS hB hp => ?_)
    refine lv_dup hx hb dX1_find_12 rfl ?_
    obtain ⟨c10, hc1, hp⟩ := hp
    refine x_callV (vx_runI (As := []) (rest := [.ref a6]) X (P_J18_init_ok (l := l) hl0 hp) (cwI 0 hts (lw_meth q602) rfl rfl rfl (hts _ q170) (hts _ q972) (hts _ q601) rfl (by decide +kernel) ⟨Nat.le_of_ble_eq_true rfl, Nat.le_of_ble_eq_true rfl⟩) ⟨wPc.blind, w_pre hC hM hS _⟩ rfl rfl hl.1 rfl (lv_room (Nat.le_of_ble_eq_true rfl)) dX1_find_13 (w_room hB hc1)) hS hB hc1 (fun _ _ _ _ _ _ h => False.elim h) (fun M9 H locs hp hM hS hB => ?_)
    refine lv_astore_n (lv' := [(2, .ref a6), (0, .ref t0), (1, .int p1)]) hx hb dX1_find_16 rfl hl (by decide) rfl (fun ls hl => ?_)
    refine lv_iconst (v := 0) hx hb dX1_find_17 (by decide) ?_
    refine lv_istore_n (lv' := [(3, .int (0 : Int32)), (2, .ref a6), (0, .ref t0), (1, .int p1)]) hx hb dX1_find_18 rfl hl (by decide) rfl (fun ls hl => ?_)
    obtain ⟨n, hp⟩ := hp
    exact hL19 n _ _ _ _ _ _ _ _ _ _ _ hp hM hS hB (lv_sub hl [2, 3, 1, 0] rfl)
def B_X1_fine_91 (G : wG) (Q : Int32 → wM → Prop) (Xp : String → Nat → wM → Prop) (y0 : Int32) (M : wM) (bq : Nat) : Prop :=
  Q y0 M
def P_X1_fine (G : wG) (t0 : Nat) (p1 : Int32) (p2 : Int32) (b : Nat) (M : wM) (Q : Int32 → wM → Prop) (Xp : String → Nat → wM → Prop) : Prop :=
  oIs M t0 0 (∃ c2, c2 ≤ b ∧ P_X1_fineAt G t0 p1 c2 M (fun r3 M1 => P_X1_inRange G p2 (0 : Int32) (5 : Int32) M1 (fun r6 M4 => ∃ c8, c8 ≤ (b - c2) ∧ P_X1_checkIndex G (wb r6) c8 M4 (fun M7 => oIf (p2 = (0 : Int32)) (oRef r3 (fun a11 => oGetI M7 a11 15 0 (fun v12 => B_X1_fine_91 G Q Xp v12 M7 ((b - c2) - c8)))) (oIf (p2 = (1 : Int32)) (oRef r3 (fun a13 => oGetI M7 a13 15 1 (fun v14 => B_X1_fine_91 G Q Xp v14 M7 ((b - c2) - c8)))) (oIf (p2 = (2 : Int32)) (oRef r3 (fun a15 => oGetI M7 a15 15 2 (fun v16 => B_X1_fine_91 G Q Xp v16 M7 ((b - c2) - c8)))) (oIf (p2 = (3 : Int32)) (oRef r3 (fun a17 => oGetI M7 a17 15 3 (fun v18 => B_X1_fine_91 G Q Xp v18 M7 ((b - c2) - c8)))) (oIf (p2 = (4 : Int32)) (oRef r3 (fun a19 => oGetI M7 a19 15 4 (fun v20 => B_X1_fine_91 G Q Xp v20 M7 ((b - c2) - c8)))) (oRef r3 (fun a9 => oGetI M7 a9 15 5 (fun v10 => B_X1_fine_91 G Q Xp v10 M7 ((b - c2) - c8))))))))) (fun E q21 M22 => (E = "java/lang/IndexOutOfBoundsException" ∧ Xp E q21 M22)))) (fun E q23 M24 => (E = "java/lang/IndexOutOfBoundsException" ∧ Xp E q23 M24)))
set_option maxHeartbeats 4000000 in
set_option maxRecDepth 100000 in
theorem P_X1_fine_ok {l : Launch} (hl0 : l.stackTraces = false) {G : wG} {t0 : Nat} {p1 : Int32} {p2 : Int32} {b : Nat} {M : wM} {Q : Int32 → wM → Prop} {Xp : String → Nat → wM → Prop} (hp : P_X1_fine G t0 p1 p2 b M Q Xp) : wMet l yX1_fine (ws_ yX1_fine cX1_fine 4 (Option.some Jvm.ClassFile.FieldType.int)) 16 485 G [.ref t0, .int p1, .int p2] M b (wqI Q) Xp := by
  refine vx_ofW (cc := cX1_fine) (maxL := 4) (ret := Option.some Jvm.ClassFile.FieldType.int) (by decide) rfl ?_
  intro p e s m args below meth c s₁ B hml hnt hv
  obtain ⟨rfl, hM, hK, hZ, hz⟩ := hv
  have hC : wC G s := ⟨hK, hZ, hz⟩
  have hx := B.exec
  have hb := B.bytes
  have hr := B.returns
  have hts := atoms_spec (ws := (ws_ yX1_fine cX1_fine 4 (Option.some Jvm.ClassFile.FieldType.int))) B.pre
  have hts : ∀ w ∈ lw_all, w.before _ s = true := fun w h => hts w (List.mem_cons_of_mem _ h)
  have hown : s.vm.findClass RX1 = some m.cls := findClass_of_methodNamed B.named
  have hlk := B.notSynchronized
  have X : CallFix p m c cX1_fine 4 s ([.ref t0, .int p1, .int p2] : List Value).toArray lw_all RX1 := ⟨hx, hb, hml, hown, hts⟩
  have hS : va_S (wA G) s.heap s.heap [] := va_S.rf
  have hl := lv_entry ([.ref t0, .int p1, .int p2]) (n := 4) (Nat.le_of_ble_eq_true rfl)
  rw [lg_entry_eq]
  generalize (lg_sl ([.ref t0, .int p1, .int p2]) ++ List.replicate (4 - (lg_sl ([.ref t0, .int p1, .int p2])).length) Slot.unset).toArray = ls at hl ⊢
  have hl : lv_has ls 4 [(0, .ref t0), (1, .int p1), (2, .int p2)] := hl
  have hB : 0 + b ≤ ((headSpec (ws_ yX1_fine cX1_fine 4 (Option.some Jvm.ClassFile.FieldType.int)) ({ frames := 16, cells := b, slots := b, locals := 485 })).room).cells ∧ 0 + b ≤ ((headSpec (ws_ yX1_fine cX1_fine 4 (Option.some Jvm.ClassFile.FieldType.int)) ({ frames := 16, cells := b, slots := b, locals := 485 })).room).slots := ⟨Nat.le_of_eq (Nat.zero_add b), Nat.le_of_eq (Nat.zero_add b)⟩
  have hB91 : ∀ (y0 : Int32) (M : wM) (bq : Nat) (H : Heap) (locs : List Loc) (ls : Array Slot) (cells slots : Nat), B_X1_fine_91 G Q Xp y0 M bq → wR G M H → va_S (wA G) s.heap H locs → (cells + bq ≤ ((headSpec (ws_ yX1_fine cX1_fine 4 (Option.some Jvm.ClassFile.FieldType.int)) ({ frames := 16, cells := b, slots := b, locals := 485 })).room).cells ∧ slots + bq ≤ ((headSpec (ws_ yX1_fine cX1_fine 4 (Option.some Jvm.ClassFile.FieldType.int)) ({ frames := 16, cells := b, slots := b, locals := 485 })).room).slots) → lv_has ls 4 [] → W p l e (headSpec (ws_ yX1_fine cX1_fine 4 (Option.some Jvm.ClassFile.FieldType.int)) ({ frames := 16, cells := b, slots := b, locals := 485 })).room s m ([.ref t0, .int p1, .int p2] : List Value).toArray below meth c H locs cells slots (vx_MQ below (wQ G (wqI Q)) (wXC G Xp) ([.ref t0, .int p1, .int p2] : List Value).toArray s b b (wA G)) (F0 m 91 ls [.int y0]) := by
    intro y0 M bq H locs ls cells slots hp hM hS hB hl
    exact x_iret X hr hlk hM hS (w_fin hB) dX1_fine_91 ⟨_, rfl, hp⟩
  refine lv_aload_n hx hb dX1_fine_0 rfl (lv_at hl 0 rfl) ?_
  refine lv_iload_n hx hb dX1_fine_1 rfl (lv_at hl 1 rfl) ?_
  obtain ⟨hrec, hp⟩ := hp
  obtain ⟨c2, hc1, hp⟩ := hp
  refine x_callR (vx_runV (As := [.int p1]) (rest := []) X (P_X1_fineAt_ok (l := l) hl0 hp) (cwV 1 hts (lw_V q2518 q2520 qs48 q148 q2521) rfl rfl rfl (by decide +kernel) ⟨Nat.le_of_ble_eq_true rfl, Nat.le_of_ble_eq_true rfl⟩) ⟨wPc.blind, w_recv hC.1 hM (ci := 0) (q := (RX1, TX1, 8)) rfl hrec, w_pre hC hM hS _⟩ rfl rfl hl.1 rfl (lv_room (Nat.le_of_ble_eq_true rfl)) dX1_fine_2 (w_room hB hc1)) hS hB hc1 (fun E ce q23 M24 H locs hp hM hS hB hcell hcv hcl => ?_) (fun r3 M1 H locs hp hM hS hB => ?_)
  · obtain ⟨rfl, hp⟩ := hp
    exact x_out hlk (fun x h => (hnt x h).elim) hM hS (w_fin hB) hcell hcv hcl hp
  · refine x_astore_n (r := r3) (lv' := [(3, va_rf r3), (0, .ref t0), (1, .int p1), (2, .int p2)]) hx hb dX1_fine_5 rfl hl (by decide) rfl (fun ls hl => ?_)
    refine lv_iload_n hx hb dX1_fine_6 rfl (lv_at hl 3 rfl) ?_
    refine lv_iconst (v := 0) hx hb dX1_fine_7 (by decide) ?_
    refine lv_iconst (v := 5) hx hb dX1_fine_8 (by decide) ?_
    refine x_call0Z (vx_runS (As := [.int p2, .int (0 : Int32), .int (5 : Int32)]) (rest := []) X (P_X1_inRange_ok (l := l) hl0 hp) (va_cwS 3 hts (lw_S q1012 q1013 q148 q1014) rfl rfl rfl (by decide +kernel) ⟨Nat.le_of_ble_eq_true rfl, Nat.le_of_ble_eq_true rfl⟩) ⟨wPc.blind, w_pre hC hM hS _⟩ rfl rfl hl.1 rfl (lv_room (Nat.le_of_ble_eq_true rfl)) dX1_fine_9 (w_room0 hB)) hS (w_room0 hB) (fun _ _ _ _ _ _ h => False.elim h) (fun r6 M4 H locs hp hM hS => ?_)
    obtain ⟨c8, hc1, hp⟩ := hp
    refine x_callV (vx_runS (As := [.int (wb r6)]) (rest := []) X (P_X1_checkIndex_ok (l := l) hl0 hp) (va_cwS 1 hts (lw_S q2200 q2201 q148 q2202) rfl rfl rfl (by decide +kernel) ⟨Nat.le_of_ble_eq_true rfl, Nat.le_of_ble_eq_true rfl⟩) ⟨wPc.blind, w_pre hC hM hS _⟩ rfl rfl hl.1 rfl (lv_room (Nat.le_of_ble_eq_true rfl)) dX1_fine_12 (w_room hB hc1)) hS hB hc1 (fun E ce q21 M22 H locs hp hM hS hB hcell hcv hcl => ?_) (fun M7 H locs hp hM hS hB => ?_)
    · obtain ⟨rfl, hp⟩ := hp
      exact x_out hlk (fun x h => (hnt x h).elim) hM hS (w_fin hB) hcell hcv hcl hp
    · refine lv_iload_n hx hb dX1_fine_15 rfl (lv_at hl 3 rfl) ?_
      by_cases hc0 : p2 = (0 : Int32)
      · have hp := oIf.t hp hc0
        refine lv_tableIn (off := 36) (tgt := 52) hx hb dX1_fine_16 (by rw [hc0]; decide) (by rw [hc0]; decide) (by rw [hc0]; rfl) (by decide) ?_
        refine x_aload_n (r := r3) hx hb dX1_fine_52 rfl (lv_at hl 0 rfl) ?_
        obtain ⟨a11, ea, hqa11⟩ := hp
        subst ea
        have hp := hqa11
        have hl : lv_has ls 4 [(3, .ref a11), (0, .ref t0), (1, .int p1), (2, .int p2)] := hl
        refine x_getIN X hC.1 hM (ci := 15) (C := RX19) (T := TX19) (N := 6) rfl in_X19 0 (by decide) q2903 (fun _ h9 => h9) dX1_fine_53 hp (fun v12 hp => ?_)
        refine lv_goto (tgt := 91) hx hb dX1_fine_56 (by decide) ?_
        exact hB91 _ _ _ _ _ _ _ _ hp hM hS hB (lv_sub hl [] rfl)
      · have hp := oIf.f hp hc0
        by_cases hc1 : p2 = (1 : Int32)
        · have hp := oIf.t hp hc1
          refine lv_tableIn (off := 43) (tgt := 59) hx hb dX1_fine_16 (by rw [hc1]; decide) (by rw [hc1]; decide) (by rw [hc1]; rfl) (by decide) ?_
          refine x_aload_n (r := r3) hx hb dX1_fine_59 rfl (lv_at hl 0 rfl) ?_
          obtain ⟨a13, ea, hqa13⟩ := hp
          subst ea
          have hp := hqa13
          have hl : lv_has ls 4 [(3, .ref a13), (0, .ref t0), (1, .int p1), (2, .int p2)] := hl
          refine x_getIN X hC.1 hM (ci := 15) (C := RX19) (T := TX19) (N := 6) rfl in_X19 1 (by decide) q2905 (fun _ h9 => h9) dX1_fine_60 hp (fun v14 hp => ?_)
          refine lv_goto (tgt := 91) hx hb dX1_fine_63 (by decide) ?_
          exact hB91 _ _ _ _ _ _ _ _ hp hM hS hB (lv_sub hl [] rfl)
        · have hp := oIf.f hp hc1
          by_cases hc2 : p2 = (2 : Int32)
          · have hp := oIf.t hp hc2
            refine lv_tableIn (off := 50) (tgt := 66) hx hb dX1_fine_16 (by rw [hc2]; decide) (by rw [hc2]; decide) (by rw [hc2]; rfl) (by decide) ?_
            refine x_aload_n (r := r3) hx hb dX1_fine_66 rfl (lv_at hl 0 rfl) ?_
            obtain ⟨a15, ea, hqa15⟩ := hp
            subst ea
            have hp := hqa15
            have hl : lv_has ls 4 [(3, .ref a15), (0, .ref t0), (1, .int p1), (2, .int p2)] := hl
            refine x_getIN X hC.1 hM (ci := 15) (C := RX19) (T := TX19) (N := 6) rfl in_X19 2 (by decide) q2908 (fun _ h9 => h9) dX1_fine_67 hp (fun v16 hp => ?_)
            refine lv_goto (tgt := 91) hx hb dX1_fine_70 (by decide) ?_
            exact hB91 _ _ _ _ _ _ _ _ hp hM hS hB (lv_sub hl [] rfl)
          · have hp := oIf.f hp hc2
            by_cases hc3 : p2 = (3 : Int32)
            · have hp := oIf.t hp hc3
              refine lv_tableIn (off := 57) (tgt := 73) hx hb dX1_fine_16 (by rw [hc3]; decide) (by rw [hc3]; decide) (by rw [hc3]; rfl) (by decide) ?_
              refine x_aload_n (r := r3) hx hb dX1_fine_73 rfl (lv_at hl 0 rfl) ?_
              obtain ⟨a17, ea, hqa17⟩ := hp
              subst ea
              have hp := hqa17
              have hl : lv_has ls 4 [(3, .ref a17), (0, .ref t0), (1, .int p1), (2, .int p2)] := hl
              refine x_getIN X hC.1 hM (ci := 15) (C := RX19) (T := TX19) (N := 6) rfl in_X19 3 (by decide) q2910 (fun _ h9 => h9) dX1_fine_74 hp (fun v18 hp => ?_)
              refine lv_goto (tgt := 91) hx hb dX1_fine_77 (by decide) ?_
              exact hB91 _ _ _ _ _ _ _ _ hp hM hS hB (lv_sub hl [] rfl)
            · have hp := oIf.f hp hc3
              by_cases hc4 : p2 = (4 : Int32)
              · have hp := oIf.t hp hc4
                refine lv_tableIn (off := 64) (tgt := 80) hx hb dX1_fine_16 (by rw [hc4]; decide) (by rw [hc4]; decide) (by rw [hc4]; rfl) (by decide) ?_
                refine x_aload_n (r := r3) hx hb dX1_fine_80 rfl (lv_at hl 0 rfl) ?_
                obtain ⟨a19, ea, hqa19⟩ := hp
                subst ea
                have hp := hqa19
                have hl : lv_has ls 4 [(3, .ref a19), (0, .ref t0), (1, .int p1), (2, .int p2)] := hl
                refine x_getIN X hC.1 hM (ci := 15) (C := RX19) (T := TX19) (N := 6) rfl in_X19 4 (by decide) q2912 (fun _ h9 => h9) dX1_fine_81 hp (fun v20 hp => ?_)
                refine lv_goto (tgt := 91) hx hb dX1_fine_84 (by decide) ?_
                exact hB91 _ _ _ _ _ _ _ _ hp hM hS hB (lv_sub hl [] rfl)
              · have hp := oIf.f hp hc4
                refine lv_tableOut (tgt := 87) hx hb dX1_fine_16 (w_tsw 0 5 (by decide) (by decide) (fun i hi => ?_)) (by decide) ?_
                · have hi2 : i = 0 ∨ i = 1 ∨ i = 2 ∨ i = 3 ∨ i = 4 := by omega
                  rcases hi2 with rfl | rfl | rfl | rfl | rfl
                  · exact fun h => hc0 (h.trans (by decide))
                  · exact fun h => hc1 (h.trans (by decide))
                  · exact fun h => hc2 (h.trans (by decide))
                  · exact fun h => hc3 (h.trans (by decide))
                  · exact fun h => hc4 (h.trans (by decide))
                · refine x_aload_n (r := r3) hx hb dX1_fine_87 rfl (lv_at hl 0 rfl) ?_
                  obtain ⟨a9, ea, hqa9⟩ := hp
                  subst ea
                  have hp := hqa9
                  have hl : lv_has ls 4 [(3, .ref a9), (0, .ref t0), (1, .int p1), (2, .int p2)] := hl
                  refine x_getIN X hC.1 hM (ci := 15) (C := RX19) (T := TX19) (N := 6) rfl in_X19 5 (by decide) q2914 (fun _ h9 => h9) dX1_fine_88 hp (fun v10 hp => ?_)
                  exact hB91 _ _ _ _ _ _ _ _ hp hM hS hB (lv_sub hl [] rfl)
