set_option maxRecDepth 100000
def B_X0_street_13 (G : wG) (Q : Int32 → wM → Prop) (y0 : Nat) (M : wM) (bq : Nat) : Prop :=
  Q (1 : Int32) M
def P_X0_street (G : wG) (p1 : Nat) (p2 : Int32) (p3 : Int32) (p4 : Nat) (b : Nat) (M : wM) (Q : Int32 → wM → Prop) : Prop :=
  oIs M p1 0 (∃ c2, c2 ≤ b ∧ P_X1_street G p1 p2 p3 c2 M (fun v3 M1 => oLast G M1 p4 (0 : Int32) (v3.toInt64) (fun M4 => Q (0 : Int32) M4)) (fun E q5 M6 => (E = "java/lang/IndexOutOfBoundsException" ∧ (B_X0_street_13 G Q q5 M6 (b - c2)))))
set_option maxHeartbeats 4000000 in
set_option maxRecDepth 100000 in
theorem P_X0_street_ok {l : Launch} (hl0 : l.stackTraces = false) {G : wG} {p1 : Nat} {p2 : Int32} {p3 : Int32} {p4 : Nat} {b : Nat} {M : wM} {Q : Int32 → wM → Prop} (hp : P_X0_street G p1 p2 p3 p4 b M Q) : wMet l yX0_street (wsW_ yX0_street cX0_street 5 (Option.some Jvm.ClassFile.FieldType.int) [((0 : Nat), (10 : Nat), (13 : Nat), (13 : Nat))]) 19 553 G [.ref p1, .int p2, .int p3, .ref p4] M b (wqI Q) wX0 := by
  refine vx_ofWH (cc := cX0_street) (maxL := 5) (ret := Option.some Jvm.ClassFile.FieldType.int) (hh := [((0 : Nat), (10 : Nat), (13 : Nat), (13 : Nat))]) (by decide) rfl ?_
  intro p e s m args below meth c s₁ B hml hv
  obtain ⟨rfl, hM, hK, hZ, hz⟩ := hv
  have hC : wC G s := ⟨hK, hZ, hz⟩
  have hx := B.exec
  have hb := B.bytes
  have hr := B.returns
  have hts := atoms_spec (ws := (wsW_ yX0_street cX0_street 5 (Option.some Jvm.ClassFile.FieldType.int) [((0 : Nat), (10 : Nat), (13 : Nat), (13 : Nat))])) B.pre
  have htab := vx_table (x := yX0_street) B (hts _ List.mem_cons_self)
  have hts : ∀ w ∈ lw_all, w.before _ s = true := fun w h => hts w (List.mem_cons_of_mem _ h)
  have hown : s.vm.findClass RX0 = some m.cls := findClass_of_methodNamed B.named
  have hlk := B.notSynchronized
  have X : CallFix p m c cX0_street 5 s ([.ref p1, .int p2, .int p3, .ref p4] : List Value).toArray lw_all RX0 := ⟨hx, hb, hml, hown, hts⟩
  have hS : va_S (wA G) s.heap s.heap [] := va_S.rf
  have hl := lv_entry ([.ref p1, .int p2, .int p3, .ref p4]) (n := 5) (Nat.le_of_ble_eq_true rfl)
  rw [lg_entry_eq]
  generalize (lg_sl ([.ref p1, .int p2, .int p3, .ref p4]) ++ List.replicate (5 - (lg_sl ([.ref p1, .int p2, .int p3, .ref p4])).length) Slot.unset).toArray = ls at hl ⊢
  have hl : lv_has ls 5 [(0, .ref p1), (1, .int p2), (2, .int p3), (3, .ref p4)] := hl
  have hB : 0 + b ≤ ((headSpec (wsW_ yX0_street cX0_street 5 (Option.some Jvm.ClassFile.FieldType.int) [((0 : Nat), (10 : Nat), (13 : Nat), (13 : Nat))]) ({ frames := 19, cells := b, slots := b, locals := 553 })).room).cells ∧ 0 + b ≤ ((headSpec (wsW_ yX0_street cX0_street 5 (Option.some Jvm.ClassFile.FieldType.int) [((0 : Nat), (10 : Nat), (13 : Nat), (13 : Nat))]) ({ frames := 19, cells := b, slots := b, locals := 553 })).room).slots := ⟨Nat.le_of_eq (Nat.zero_add b), Nat.le_of_eq (Nat.zero_add b)⟩
  have hB13 : ∀ (y0 : Nat) (M : wM) (bq : Nat) (H : Heap) (locs : List Loc) (ls : Array Slot) (cells slots : Nat), B_X0_street_13 G Q y0 M bq → wR G M H → va_S (wA G) s.heap H locs → (cells + bq ≤ ((headSpec (wsW_ yX0_street cX0_street 5 (Option.some Jvm.ClassFile.FieldType.int) [((0 : Nat), (10 : Nat), (13 : Nat), (13 : Nat))]) ({ frames := 19, cells := b, slots := b, locals := 553 })).room).cells ∧ slots + bq ≤ ((headSpec (wsW_ yX0_street cX0_street 5 (Option.some Jvm.ClassFile.FieldType.int) [((0 : Nat), (10 : Nat), (13 : Nat), (13 : Nat))]) ({ frames := 19, cells := b, slots := b, locals := 553 })).room).slots) → lv_has ls 5 [] → W p l e (headSpec (wsW_ yX0_street cX0_street 5 (Option.some Jvm.ClassFile.FieldType.int) [((0 : Nat), (10 : Nat), (13 : Nat), (13 : Nat))]) ({ frames := 19, cells := b, slots := b, locals := 553 })).room s m ([.ref p1, .int p2, .int p3, .ref p4] : List Value).toArray below meth c H locs cells slots (vx_MQ below (wQ G (wqI Q)) (wXC G wX0) ([.ref p1, .int p2, .int p3, .ref p4] : List Value).toArray s b b (wA G)) (F0 m 13 ls [.ref y0]) := by
    intro y0 M bq H locs ls cells slots hp hM hS hB hl
    refine lv_astore (lv' := [(4, .ref y0)]) hx hb dX0_street_13 hl (by decide) rfl (fun ls hl => ?_)
    refine lv_iconst (v := 1) hx hb dX0_street_15 (by decide) ?_
    exact x_iret X hr hlk hM hS (w_fin hB) dX0_street_16 ⟨_, rfl, hp⟩
  refine lv_aload_n hx hb dX0_street_0 rfl (lv_at hl 3 rfl) ?_
  refine lv_iconst (v := 0) hx hb dX0_street_1 (by decide) ?_
  refine lv_aload_n hx hb dX0_street_2 rfl (lv_at hl 0 rfl) ?_
  refine lv_iload_n hx hb dX0_street_3 rfl (lv_at hl 1 rfl) ?_
  refine lv_iload_n hx hb dX0_street_4 rfl (lv_at hl 2 rfl) ?_
  obtain ⟨hrec, hp⟩ := hp
  obtain ⟨c2, hc1, hp⟩ := hp
  refine x_callI (vx_runV (As := [.int p2, .int p3]) (rest := [.int (0 : Int32), .ref p4]) X (P_X1_street_ok (l := l) hl0 hp) (cwV 2 hts (lw_V q2221 q2222 q2223 q148 q2224) rfl rfl rfl (by decide +kernel) ⟨Nat.le_of_ble_eq_true rfl, Nat.le_of_ble_eq_true rfl⟩) ⟨wPc.blind, w_recv hC.1 hM (ci := 0) (q := (RX1, TX1, 8)) rfl hrec, w_pre hC hM hS _⟩ rfl rfl hl.1 rfl (lv_room (Nat.le_of_ble_eq_true rfl)) dX0_street_5 (w_room hB hc1)) hS hB hc1 (fun E ce q5 M6 H locs hp hM hS hB hcell hcv hcl => ?_) (fun v3 M1 H locs hp hM hS hB => ?_)
  · obtain ⟨rfl, hp⟩ := hp
    refine vx_catch (own := "ParkingOfficeLaw") (name := "java/lang/IndexOutOfBoundsException") (E := "java/lang/IndexOutOfBoundsException") hown [] ⟨0, 10, 13, 13⟩ [] (by rw [htab]; rfl) (fun _ h => absurd h List.not_mem_nil) (by decide) (by decide) (hts _ q2176) (va_Nw.use rfl (hC.1.2.2.1 _ q550 rfl)) hcell hcv hcl ?_
    exact hB13 _ _ _ _ _ _ _ _ hp hM hS hB (lv_sub hl [] rfl)
  · refine lv_i2l (v := v3.toInt64) hx hb dX0_street_8 rfl ?_
    refine x_last X hC.1 hM hS dX0_street_9 hp (fun M4 H locs hM hS hp => ?_)
    refine lv_goto (tgt := 17) hx hb dX0_street_10 (by decide) ?_
    refine lv_iconst (v := 0) hx hb dX0_street_17 (by decide) ?_
    exact x_iret X hr hlk hM hS (w_fin hB) dX0_street_18 ⟨_, rfl, hp⟩
def B_X0_suspend_16 (G : wG) (Q : Int32 → wM → Prop) (y0 : Int64) (y1 : Int32) (y2 : Nat) (M : wM) (bq : Nat) : Prop :=
  oLast G M y2 y1 y0 (fun M1 => Q (0 : Int32) M1)
def B_X0_suspend_20 (G : wG) (Q : Int32 → wM → Prop) (y0 : Nat) (M : wM) (bq : Nat) : Prop :=
  Q (1 : Int32) M
def B_X0_suspend_24 (G : wG) (Q : Int32 → wM → Prop) (y0 : Nat) (M : wM) (bq : Nat) : Prop :=
  Q (2 : Int32) M
def P_X0_suspend (G : wG) (p1 : Nat) (p2 : Int32) (p3 : Int32) (p4 : Nat) (b : Nat) (M : wM) (Q : Int32 → wM → Prop) : Prop :=
  oIs M p1 0 (∃ c2, c2 ≤ b ∧ P_X1_suspend G p1 p2 p3 c2 M (fun r3 M1 => oIf (r3 = true) (B_X0_suspend_16 G Q (1 : Int64) (0 : Int32) p4 M1 (b - c2)) (B_X0_suspend_16 G Q (0 : Int64) (0 : Int32) p4 M1 (b - c2))) (fun E q4 M5 => (E = "java/lang/IllegalStateException" ∧ (B_X0_suspend_24 G Q q4 M5 (b - c2))) ∨ (E = "java/lang/IndexOutOfBoundsException" ∧ (B_X0_suspend_20 G Q q4 M5 (b - c2)))))
set_option maxHeartbeats 4000000 in
set_option maxRecDepth 100000 in
theorem P_X0_suspend_ok {l : Launch} (hl0 : l.stackTraces = false) {G : wG} {p1 : Nat} {p2 : Int32} {p3 : Int32} {p4 : Nat} {b : Nat} {M : wM} {Q : Int32 → wM → Prop} (hp : P_X0_suspend G p1 p2 p3 p4 b M Q) : wMet l yX0_suspend (wsW_ yX0_suspend cX0_suspend 5 (Option.some Jvm.ClassFile.FieldType.int) [((0 : Nat), (17 : Nat), (20 : Nat), (13 : Nat)), ((0 : Nat), (17 : Nat), (24 : Nat), (71 : Nat))]) 21 598 G [.ref p1, .int p2, .int p3, .ref p4] M b (wqI Q) wX0 := by
  refine vx_ofWH (cc := cX0_suspend) (maxL := 5) (ret := Option.some Jvm.ClassFile.FieldType.int) (hh := [((0 : Nat), (17 : Nat), (20 : Nat), (13 : Nat)), ((0 : Nat), (17 : Nat), (24 : Nat), (71 : Nat))]) (by decide) rfl ?_
  intro p e s m args below meth c s₁ B hml hv
  obtain ⟨rfl, hM, hK, hZ, hz⟩ := hv
  have hC : wC G s := ⟨hK, hZ, hz⟩
  have hx := B.exec
  have hb := B.bytes
  have hr := B.returns
  have hts := atoms_spec (ws := (wsW_ yX0_suspend cX0_suspend 5 (Option.some Jvm.ClassFile.FieldType.int) [((0 : Nat), (17 : Nat), (20 : Nat), (13 : Nat)), ((0 : Nat), (17 : Nat), (24 : Nat), (71 : Nat))])) B.pre
  have htab := vx_table (x := yX0_suspend) B (hts _ List.mem_cons_self)
  have hts : ∀ w ∈ lw_all, w.before _ s = true := fun w h => hts w (List.mem_cons_of_mem _ h)
  have hown : s.vm.findClass RX0 = some m.cls := findClass_of_methodNamed B.named
  have hlk := B.notSynchronized
  have X : CallFix p m c cX0_suspend 5 s ([.ref p1, .int p2, .int p3, .ref p4] : List Value).toArray lw_all RX0 := ⟨hx, hb, hml, hown, hts⟩
  have hS : va_S (wA G) s.heap s.heap [] := va_S.rf
  have hl := lv_entry ([.ref p1, .int p2, .int p3, .ref p4]) (n := 5) (Nat.le_of_ble_eq_true rfl)
  rw [lg_entry_eq]
  generalize (lg_sl ([.ref p1, .int p2, .int p3, .ref p4]) ++ List.replicate (5 - (lg_sl ([.ref p1, .int p2, .int p3, .ref p4])).length) Slot.unset).toArray = ls at hl ⊢
  have hl : lv_has ls 5 [(0, .ref p1), (1, .int p2), (2, .int p3), (3, .ref p4)] := hl
  have hB : 0 + b ≤ ((headSpec (wsW_ yX0_suspend cX0_suspend 5 (Option.some Jvm.ClassFile.FieldType.int) [((0 : Nat), (17 : Nat), (20 : Nat), (13 : Nat)), ((0 : Nat), (17 : Nat), (24 : Nat), (71 : Nat))]) ({ frames := 21, cells := b, slots := b, locals := 598 })).room).cells ∧ 0 + b ≤ ((headSpec (wsW_ yX0_suspend cX0_suspend 5 (Option.some Jvm.ClassFile.FieldType.int) [((0 : Nat), (17 : Nat), (20 : Nat), (13 : Nat)), ((0 : Nat), (17 : Nat), (24 : Nat), (71 : Nat))]) ({ frames := 21, cells := b, slots := b, locals := 598 })).room).slots := ⟨Nat.le_of_eq (Nat.zero_add b), Nat.le_of_eq (Nat.zero_add b)⟩
  have hB16 : ∀ (y0 : Int64) (y1 : Int32) (y2 : Nat) (M : wM) (bq : Nat) (H : Heap) (locs : List Loc) (ls : Array Slot) (cells slots : Nat), B_X0_suspend_16 G Q y0 y1 y2 M bq → wR G M H → va_S (wA G) s.heap H locs → (cells + bq ≤ ((headSpec (wsW_ yX0_suspend cX0_suspend 5 (Option.some Jvm.ClassFile.FieldType.int) [((0 : Nat), (17 : Nat), (20 : Nat), (13 : Nat)), ((0 : Nat), (17 : Nat), (24 : Nat), (71 : Nat))]) ({ frames := 21, cells := b, slots := b, locals := 598 })).room).cells ∧ slots + bq ≤ ((headSpec (wsW_ yX0_suspend cX0_suspend 5 (Option.some Jvm.ClassFile.FieldType.int) [((0 : Nat), (17 : Nat), (20 : Nat), (13 : Nat)), ((0 : Nat), (17 : Nat), (24 : Nat), (71 : Nat))]) ({ frames := 21, cells := b, slots := b, locals := 598 })).room).slots) → lv_has ls 5 [] → W p l e (headSpec (wsW_ yX0_suspend cX0_suspend 5 (Option.some Jvm.ClassFile.FieldType.int) [((0 : Nat), (17 : Nat), (20 : Nat), (13 : Nat)), ((0 : Nat), (17 : Nat), (24 : Nat), (71 : Nat))]) ({ frames := 21, cells := b, slots := b, locals := 598 })).room s m ([.ref p1, .int p2, .int p3, .ref p4] : List Value).toArray below meth c H locs cells slots (vx_MQ below (wQ G (wqI Q)) (wXC G wX0) ([.ref p1, .int p2, .int p3, .ref p4] : List Value).toArray s b b (wA G)) (F0 m 16 ls [.long y0, .int y1, .ref y2]) := by
    intro y0 y1 y2 M bq H locs ls cells slots hp hM hS hB hl
    refine x_last X hC.1 hM hS dX0_suspend_16 hp (fun M1 H locs hM hS hp => ?_)
    refine lv_goto (tgt := 28) hx hb dX0_suspend_17 (by decide) ?_
    refine lv_iconst (v := 0) hx hb dX0_suspend_28 (by decide) ?_
    exact x_iret X hr hlk hM hS (w_fin hB) dX0_suspend_29 ⟨_, rfl, hp⟩
  have hB20 : ∀ (y0 : Nat) (M : wM) (bq : Nat) (H : Heap) (locs : List Loc) (ls : Array Slot) (cells slots : Nat), B_X0_suspend_20 G Q y0 M bq → wR G M H → va_S (wA G) s.heap H locs → (cells + bq ≤ ((headSpec (wsW_ yX0_suspend cX0_suspend 5 (Option.some Jvm.ClassFile.FieldType.int) [((0 : Nat), (17 : Nat), (20 : Nat), (13 : Nat)), ((0 : Nat), (17 : Nat), (24 : Nat), (71 : Nat))]) ({ frames := 21, cells := b, slots := b, locals := 598 })).room).cells ∧ slots + bq ≤ ((headSpec (wsW_ yX0_suspend cX0_suspend 5 (Option.some Jvm.ClassFile.FieldType.int) [((0 : Nat), (17 : Nat), (20 : Nat), (13 : Nat)), ((0 : Nat), (17 : Nat), (24 : Nat), (71 : Nat))]) ({ frames := 21, cells := b, slots := b, locals := 598 })).room).slots) → lv_has ls 5 [] → W p l e (headSpec (wsW_ yX0_suspend cX0_suspend 5 (Option.some Jvm.ClassFile.FieldType.int) [((0 : Nat), (17 : Nat), (20 : Nat), (13 : Nat)), ((0 : Nat), (17 : Nat), (24 : Nat), (71 : Nat))]) ({ frames := 21, cells := b, slots := b, locals := 598 })).room s m ([.ref p1, .int p2, .int p3, .ref p4] : List Value).toArray below meth c H locs cells slots (vx_MQ below (wQ G (wqI Q)) (wXC G wX0) ([.ref p1, .int p2, .int p3, .ref p4] : List Value).toArray s b b (wA G)) (F0 m 20 ls [.ref y0]) := by
    intro y0 M bq H locs ls cells slots hp hM hS hB hl
    refine lv_astore (lv' := [(4, .ref y0)]) hx hb dX0_suspend_20 hl (by decide) rfl (fun ls hl => ?_)
    refine lv_iconst (v := 1) hx hb dX0_suspend_22 (by decide) ?_
    exact x_iret X hr hlk hM hS (w_fin hB) dX0_suspend_23 ⟨_, rfl, hp⟩
  have hB24 : ∀ (y0 : Nat) (M : wM) (bq : Nat) (H : Heap) (locs : List Loc) (ls : Array Slot) (cells slots : Nat), B_X0_suspend_24 G Q y0 M bq → wR G M H → va_S (wA G) s.heap H locs → (cells + bq ≤ ((headSpec (wsW_ yX0_suspend cX0_suspend 5 (Option.some Jvm.ClassFile.FieldType.int) [((0 : Nat), (17 : Nat), (20 : Nat), (13 : Nat)), ((0 : Nat), (17 : Nat), (24 : Nat), (71 : Nat))]) ({ frames := 21, cells := b, slots := b, locals := 598 })).room).cells ∧ slots + bq ≤ ((headSpec (wsW_ yX0_suspend cX0_suspend 5 (Option.some Jvm.ClassFile.FieldType.int) [((0 : Nat), (17 : Nat), (20 : Nat), (13 : Nat)), ((0 : Nat), (17 : Nat), (24 : Nat), (71 : Nat))]) ({ frames := 21, cells := b, slots := b, locals := 598 })).room).slots) → lv_has ls 5 [] → W p l e (headSpec (wsW_ yX0_suspend cX0_suspend 5 (Option.some Jvm.ClassFile.FieldType.int) [((0 : Nat), (17 : Nat), (20 : Nat), (13 : Nat)), ((0 : Nat), (17 : Nat), (24 : Nat), (71 : Nat))]) ({ frames := 21, cells := b, slots := b, locals := 598 })).room s m ([.ref p1, .int p2, .int p3, .ref p4] : List Value).toArray below meth c H locs cells slots (vx_MQ below (wQ G (wqI Q)) (wXC G wX0) ([.ref p1, .int p2, .int p3, .ref p4] : List Value).toArray s b b (wA G)) (F0 m 24 ls [.ref y0]) := by
    intro y0 M bq H locs ls cells slots hp hM hS hB hl
    refine lv_astore (lv' := [(4, .ref y0)]) hx hb dX0_suspend_24 hl (by decide) rfl (fun ls hl => ?_)
    refine lv_iconst (v := 2) hx hb dX0_suspend_26 (by decide) ?_
    exact x_iret X hr hlk hM hS (w_fin hB) dX0_suspend_27 ⟨_, rfl, hp⟩
  refine lv_aload_n hx hb dX0_suspend_0 rfl (lv_at hl 3 rfl) ?_
  refine lv_iconst (v := 0) hx hb dX0_suspend_1 (by decide) ?_
  refine lv_aload_n hx hb dX0_suspend_2 rfl (lv_at hl 0 rfl) ?_
  refine lv_iload_n hx hb dX0_suspend_3 rfl (lv_at hl 1 rfl) ?_
  refine lv_iload_n hx hb dX0_suspend_4 rfl (lv_at hl 2 rfl) ?_
  obtain ⟨hrec, hp⟩ := hp
  obtain ⟨c2, hc1, hp⟩ := hp
  refine x_callZ (vx_runV (As := [.int p2, .int p3]) (rest := [.int (0 : Int32), .ref p4]) X (P_X1_suspend_ok (l := l) hl0 hp) (cwV 2 hts (lw_V q2974 q2975 q2976 q148 q2977) rfl rfl rfl (by decide +kernel) ⟨Nat.le_of_ble_eq_true rfl, Nat.le_of_ble_eq_true rfl⟩) ⟨wPc.blind, w_recv hC.1 hM (ci := 0) (q := (RX1, TX1, 8)) rfl hrec, w_pre hC hM hS _⟩ rfl rfl hl.1 rfl (lv_room (Nat.le_of_ble_eq_true rfl)) dX0_suspend_5 (w_room hB hc1)) hS hB hc1 (fun E ce q4 M5 H locs hp hM hS hB hcell hcv hcl => ?_) (fun r3 M1 H locs hp hM hS hB => ?_)
  · rcases hp with ⟨rfl, hp⟩ | ⟨rfl, hp⟩
    · refine vx_catch (own := "ParkingOfficeLaw") (name := "java/lang/IllegalStateException") (E := "java/lang/IllegalStateException") hown [⟨0, 17, 20, 13⟩] ⟨0, 17, 24, 71⟩ [] (by rw [htab]; rfl) (List.forall_mem_cons.mpr ⟨(Or.inr ⟨by decide, "java/lang/IndexOutOfBoundsException", hts _ q2176, hC.1.2.2.2.2.2.1 ("java/lang/IllegalStateException", "java/lang/IndexOutOfBoundsException") (List.mem_of_getElem? (i := 14) rfl)⟩), (fun _ h => absurd h List.not_mem_nil)⟩) (by decide) (by decide) (hts _ q2625) (va_Nw.use rfl (hC.1.2.2.1 _ q2578 rfl)) hcell hcv hcl ?_
      exact hB24 _ _ _ _ _ _ _ _ hp hM hS hB (lv_sub hl [] rfl)
    · refine vx_catch (own := "ParkingOfficeLaw") (name := "java/lang/IndexOutOfBoundsException") (E := "java/lang/IndexOutOfBoundsException") hown [] ⟨0, 17, 20, 13⟩ [⟨0, 17, 24, 71⟩] (by rw [htab]; rfl) (fun _ h => absurd h List.not_mem_nil) (by decide) (by decide) (hts _ q2176) (va_Nw.use rfl (hC.1.2.2.1 _ q550 rfl)) hcell hcv hcl ?_
      exact hB20 _ _ _ _ _ _ _ _ hp hM hS hB (lv_sub hl [] rfl)
  · refine x_ifeqB (tgt := 15) hx hb dX0_suspend_8 (by decide) (fun hc => ?_) (fun hc => ?_)
    · have hp := oIf.bf hp hc
      refine lv_lconst (v := 0) hx hb dX0_suspend_15 (by decide) ?_
      exact hB16 _ _ _ _ _ _ _ _ _ _ hp hM hS hB (lv_sub hl [] rfl)
    · have hp := oIf.bt hp hc
      refine lv_lconst (v := 1) hx hb dX0_suspend_11 (by decide) ?_
      refine lv_goto (tgt := 16) hx hb dX0_suspend_12 (by decide) ?_
      exact hB16 _ _ _ _ _ _ _ _ _ _ hp hM hS hB (lv_sub hl [] rfl)
def B_X0_total_12 (G : wG) (Q : Int32 → wM → Prop) (y0 : Nat) (M : wM) (bq : Nat) : Prop :=
  Q (1 : Int32) M
def P_X0_total (G : wG) (p1 : Nat) (p2 : Int32) (p3 : Nat) (b : Nat) (M : wM) (Q : Int32 → wM → Prop) : Prop :=
  oIs M p1 0 (∃ c2, c2 ≤ b ∧ P_X1_total G p1 p2 c2 M (fun v3 M1 => oLast G M1 p3 (0 : Int32) (v3.toInt64) (fun M4 => Q (0 : Int32) M4)) (fun E q5 M6 => (E = "java/lang/IllegalArgumentException" ∧ (B_X0_total_12 G Q q5 M6 (b - c2)))))
set_option maxHeartbeats 4000000 in
set_option maxRecDepth 100000 in
theorem P_X0_total_ok {l : Launch} (hl0 : l.stackTraces = false) {G : wG} {p1 : Nat} {p2 : Int32} {p3 : Nat} {b : Nat} {M : wM} {Q : Int32 → wM → Prop} (hp : P_X0_total G p1 p2 p3 b M Q) : wMet l yX0_total (wsW_ yX0_total cX0_total 4 (Option.some Jvm.ClassFile.FieldType.int) [((0 : Nat), (9 : Nat), (12 : Nat), (25 : Nat))]) 15 466 G [.ref p1, .int p2, .ref p3] M b (wqI Q) wX0 := by
  refine vx_ofWH (cc := cX0_total) (maxL := 4) (ret := Option.some Jvm.ClassFile.FieldType.int) (hh := [((0 : Nat), (9 : Nat), (12 : Nat), (25 : Nat))]) (by decide) rfl ?_
  intro p e s m args below meth c s₁ B hml hv
  obtain ⟨rfl, hM, hK, hZ, hz⟩ := hv
  have hC : wC G s := ⟨hK, hZ, hz⟩
  have hx := B.exec
  have hb := B.bytes
  have hr := B.returns
  have hts := atoms_spec (ws := (wsW_ yX0_total cX0_total 4 (Option.some Jvm.ClassFile.FieldType.int) [((0 : Nat), (9 : Nat), (12 : Nat), (25 : Nat))])) B.pre
  have htab := vx_table (x := yX0_total) B (hts _ List.mem_cons_self)
  have hts : ∀ w ∈ lw_all, w.before _ s = true := fun w h => hts w (List.mem_cons_of_mem _ h)
  have hown : s.vm.findClass RX0 = some m.cls := findClass_of_methodNamed B.named
  have hlk := B.notSynchronized
  have X : CallFix p m c cX0_total 4 s ([.ref p1, .int p2, .ref p3] : List Value).toArray lw_all RX0 := ⟨hx, hb, hml, hown, hts⟩
  have hS : va_S (wA G) s.heap s.heap [] := va_S.rf
  have hl := lv_entry ([.ref p1, .int p2, .ref p3]) (n := 4) (Nat.le_of_ble_eq_true rfl)
  rw [lg_entry_eq]
  generalize (lg_sl ([.ref p1, .int p2, .ref p3]) ++ List.replicate (4 - (lg_sl ([.ref p1, .int p2, .ref p3])).length) Slot.unset).toArray = ls at hl ⊢
  have hl : lv_has ls 4 [(0, .ref p1), (1, .int p2), (2, .ref p3)] := hl
  have hB : 0 + b ≤ ((headSpec (wsW_ yX0_total cX0_total 4 (Option.some Jvm.ClassFile.FieldType.int) [((0 : Nat), (9 : Nat), (12 : Nat), (25 : Nat))]) ({ frames := 15, cells := b, slots := b, locals := 466 })).room).cells ∧ 0 + b ≤ ((headSpec (wsW_ yX0_total cX0_total 4 (Option.some Jvm.ClassFile.FieldType.int) [((0 : Nat), (9 : Nat), (12 : Nat), (25 : Nat))]) ({ frames := 15, cells := b, slots := b, locals := 466 })).room).slots := ⟨Nat.le_of_eq (Nat.zero_add b), Nat.le_of_eq (Nat.zero_add b)⟩
  have hB12 : ∀ (y0 : Nat) (M : wM) (bq : Nat) (H : Heap) (locs : List Loc) (ls : Array Slot) (cells slots : Nat), B_X0_total_12 G Q y0 M bq → wR G M H → va_S (wA G) s.heap H locs → (cells + bq ≤ ((headSpec (wsW_ yX0_total cX0_total 4 (Option.some Jvm.ClassFile.FieldType.int) [((0 : Nat), (9 : Nat), (12 : Nat), (25 : Nat))]) ({ frames := 15, cells := b, slots := b, locals := 466 })).room).cells ∧ slots + bq ≤ ((headSpec (wsW_ yX0_total cX0_total 4 (Option.some Jvm.ClassFile.FieldType.int) [((0 : Nat), (9 : Nat), (12 : Nat), (25 : Nat))]) ({ frames := 15, cells := b, slots := b, locals := 466 })).room).slots) → lv_has ls 4 [] → W p l e (headSpec (wsW_ yX0_total cX0_total 4 (Option.some Jvm.ClassFile.FieldType.int) [((0 : Nat), (9 : Nat), (12 : Nat), (25 : Nat))]) ({ frames := 15, cells := b, slots := b, locals := 466 })).room s m ([.ref p1, .int p2, .ref p3] : List Value).toArray below meth c H locs cells slots (vx_MQ below (wQ G (wqI Q)) (wXC G wX0) ([.ref p1, .int p2, .ref p3] : List Value).toArray s b b (wA G)) (F0 m 12 ls [.ref y0]) := by
    intro y0 M bq H locs ls cells slots hp hM hS hB hl
    refine lv_astore_n (lv' := [(3, .ref y0)]) hx hb dX0_total_12 rfl hl (by decide) rfl (fun ls hl => ?_)
    refine lv_iconst (v := 1) hx hb dX0_total_13 (by decide) ?_
    exact x_iret X hr hlk hM hS (w_fin hB) dX0_total_14 ⟨_, rfl, hp⟩
  refine lv_aload_n hx hb dX0_total_0 rfl (lv_at hl 2 rfl) ?_
  refine lv_iconst (v := 0) hx hb dX0_total_1 (by decide) ?_
  refine lv_aload_n hx hb dX0_total_2 rfl (lv_at hl 0 rfl) ?_
  refine lv_iload_n hx hb dX0_total_3 rfl (lv_at hl 1 rfl) ?_
  obtain ⟨hrec, hp⟩ := hp
  obtain ⟨c2, hc1, hp⟩ := hp
  refine x_callI (vx_runV (As := [.int p2]) (rest := [.int (0 : Int32), .ref p3]) X (P_X1_total_ok (l := l) hl0 hp) (cwV 1 hts (lw_V q2525 q2526 q2527 q148 q2528) rfl rfl rfl (by decide +kernel) ⟨Nat.le_of_ble_eq_true rfl, Nat.le_of_ble_eq_true rfl⟩) ⟨wPc.blind, w_recv hC.1 hM (ci := 0) (q := (RX1, TX1, 8)) rfl hrec, w_pre hC hM hS _⟩ rfl rfl hl.1 rfl (lv_room (Nat.le_of_ble_eq_true rfl)) dX0_total_4 (w_room hB hc1)) hS hB hc1 (fun E ce q5 M6 H locs hp hM hS hB hcell hcv hcl => ?_) (fun v3 M1 H locs hp hM hS hB => ?_)
  · obtain ⟨rfl, hp⟩ := hp
    refine vx_catch (own := "ParkingOfficeLaw") (name := "java/lang/IllegalArgumentException") (E := "java/lang/IllegalArgumentException") hown [] ⟨0, 9, 12, 25⟩ [] (by rw [htab]; rfl) (fun _ h => absurd h List.not_mem_nil) (by decide) (by decide) (hts _ q2317) (va_Nw.use rfl (hC.1.2.2.1 _ q806 rfl)) hcell hcv hcl ?_
    exact hB12 _ _ _ _ _ _ _ _ hp hM hS hB (lv_sub hl [] rfl)
  · refine lv_i2l (v := v3.toInt64) hx hb dX0_total_7 rfl ?_
    refine x_last X hC.1 hM hS dX0_total_8 hp (fun M4 H locs hM hS hp => ?_)
    refine lv_goto (tgt := 15) hx hb dX0_total_9 (by decide) ?_
    refine lv_iconst (v := 0) hx hb dX0_total_15 (by decide) ?_
    exact x_iret X hr hlk hM hS (w_fin hB) dX0_total_16 ⟨_, rfl, hp⟩
def B_X0_undo_11 (G : wG) (Q : Int32 → wM → Prop) (y0 : Nat) (M : wM) (bq : Nat) : Prop :=
  Q (1 : Int32) M
def P_X0_undo (G : wG) (p1 : Nat) (p2 : Nat) (b : Nat) (M : wM) (Q : Int32 → wM → Prop) : Prop :=
  oIs M p1 0 (∃ c2, c2 ≤ b ∧ P_X1_undo G p1 c2 M (fun v3 M1 => oLast G M1 p2 (0 : Int32) (v3.toInt64) (fun M4 => Q (0 : Int32) M4)) (fun E q5 M6 => (E = "java/lang/IllegalStateException" ∧ (B_X0_undo_11 G Q q5 M6 (b - c2)))))
set_option maxHeartbeats 4000000 in
set_option maxRecDepth 100000 in
theorem P_X0_undo_ok {l : Launch} (hl0 : l.stackTraces = false) {G : wG} {p1 : Nat} {p2 : Nat} {b : Nat} {M : wM} {Q : Int32 → wM → Prop} (hp : P_X0_undo G p1 p2 b M Q) : wMet l yX0_undo (wsW_ yX0_undo cX0_undo 3 (Option.some Jvm.ClassFile.FieldType.int) [((0 : Nat), (8 : Nat), (11 : Nat), (71 : Nat))]) 16 485 G [.ref p1, .ref p2] M b (wqI Q) wX0 := by
  refine vx_ofWH (cc := cX0_undo) (maxL := 3) (ret := Option.some Jvm.ClassFile.FieldType.int) (hh := [((0 : Nat), (8 : Nat), (11 : Nat), (71 : Nat))]) (by decide) rfl ?_
  intro p e s m args below meth c s₁ B hml hv
  obtain ⟨rfl, hM, hK, hZ, hz⟩ := hv
  have hC : wC G s := ⟨hK, hZ, hz⟩
  have hx := B.exec
  have hb := B.bytes
  have hr := B.returns
  have hts := atoms_spec (ws := (wsW_ yX0_undo cX0_undo 3 (Option.some Jvm.ClassFile.FieldType.int) [((0 : Nat), (8 : Nat), (11 : Nat), (71 : Nat))])) B.pre
  have htab := vx_table (x := yX0_undo) B (hts _ List.mem_cons_self)
  have hts : ∀ w ∈ lw_all, w.before _ s = true := fun w h => hts w (List.mem_cons_of_mem _ h)
  have hown : s.vm.findClass RX0 = some m.cls := findClass_of_methodNamed B.named
  have hlk := B.notSynchronized
  have X : CallFix p m c cX0_undo 3 s ([.ref p1, .ref p2] : List Value).toArray lw_all RX0 := ⟨hx, hb, hml, hown, hts⟩
  have hS : va_S (wA G) s.heap s.heap [] := va_S.rf
  have hl := lv_entry ([.ref p1, .ref p2]) (n := 3) (Nat.le_of_ble_eq_true rfl)
  rw [lg_entry_eq]
  generalize (lg_sl ([.ref p1, .ref p2]) ++ List.replicate (3 - (lg_sl ([.ref p1, .ref p2])).length) Slot.unset).toArray = ls at hl ⊢
  have hl : lv_has ls 3 [(0, .ref p1), (1, .ref p2)] := hl
  have hB : 0 + b ≤ ((headSpec (wsW_ yX0_undo cX0_undo 3 (Option.some Jvm.ClassFile.FieldType.int) [((0 : Nat), (8 : Nat), (11 : Nat), (71 : Nat))]) ({ frames := 16, cells := b, slots := b, locals := 485 })).room).cells ∧ 0 + b ≤ ((headSpec (wsW_ yX0_undo cX0_undo 3 (Option.some Jvm.ClassFile.FieldType.int) [((0 : Nat), (8 : Nat), (11 : Nat), (71 : Nat))]) ({ frames := 16, cells := b, slots := b, locals := 485 })).room).slots := ⟨Nat.le_of_eq (Nat.zero_add b), Nat.le_of_eq (Nat.zero_add b)⟩
  have hB11 : ∀ (y0 : Nat) (M : wM) (bq : Nat) (H : Heap) (locs : List Loc) (ls : Array Slot) (cells slots : Nat), B_X0_undo_11 G Q y0 M bq → wR G M H → va_S (wA G) s.heap H locs → (cells + bq ≤ ((headSpec (wsW_ yX0_undo cX0_undo 3 (Option.some Jvm.ClassFile.FieldType.int) [((0 : Nat), (8 : Nat), (11 : Nat), (71 : Nat))]) ({ frames := 16, cells := b, slots := b, locals := 485 })).room).cells ∧ slots + bq ≤ ((headSpec (wsW_ yX0_undo cX0_undo 3 (Option.some Jvm.ClassFile.FieldType.int) [((0 : Nat), (8 : Nat), (11 : Nat), (71 : Nat))]) ({ frames := 16, cells := b, slots := b, locals := 485 })).room).slots) → lv_has ls 3 [] → W p l e (headSpec (wsW_ yX0_undo cX0_undo 3 (Option.some Jvm.ClassFile.FieldType.int) [((0 : Nat), (8 : Nat), (11 : Nat), (71 : Nat))]) ({ frames := 16, cells := b, slots := b, locals := 485 })).room s m ([.ref p1, .ref p2] : List Value).toArray below meth c H locs cells slots (vx_MQ below (wQ G (wqI Q)) (wXC G wX0) ([.ref p1, .ref p2] : List Value).toArray s b b (wA G)) (F0 m 11 ls [.ref y0]) := by
    intro y0 M bq H locs ls cells slots hp hM hS hB hl
    refine lv_astore_n (lv' := [(2, .ref y0)]) hx hb dX0_undo_11 rfl hl (by decide) rfl (fun ls hl => ?_)
    refine lv_iconst (v := 1) hx hb dX0_undo_12 (by decide) ?_
    exact x_iret X hr hlk hM hS (w_fin hB) dX0_undo_13 ⟨_, rfl, hp⟩
  refine lv_aload_n hx hb dX0_undo_0 rfl (lv_at hl 1 rfl) ?_
  refine lv_iconst (v := 0) hx hb dX0_undo_1 (by decide) ?_
  refine lv_aload_n hx hb dX0_undo_2 rfl (lv_at hl 0 rfl) ?_
  obtain ⟨hrec, hp⟩ := hp
  obtain ⟨c2, hc1, hp⟩ := hp
  refine x_callI (vx_runV (As := []) (rest := [.int (0 : Int32), .ref p2]) X (P_X1_undo_ok (l := l) hl0 hp) (cwV 0 hts (lw_V q2995 q2996 q2997 q148 q2998) rfl rfl rfl (by decide +kernel) ⟨Nat.le_of_ble_eq_true rfl, Nat.le_of_ble_eq_true rfl⟩) ⟨wPc.blind, w_recv hC.1 hM (ci := 0) (q := (RX1, TX1, 8)) rfl hrec, w_pre hC hM hS _⟩ rfl rfl hl.1 rfl (lv_room (Nat.le_of_ble_eq_true rfl)) dX0_undo_3 (w_room hB hc1)) hS hB hc1 (fun E ce q5 M6 H locs hp hM hS hB hcell hcv hcl => ?_) (fun v3 M1 H locs hp hM hS hB => ?_)
  · obtain ⟨rfl, hp⟩ := hp
    refine vx_catch (own := "ParkingOfficeLaw") (name := "java/lang/IllegalStateException") (E := "java/lang/IllegalStateException") hown [] ⟨0, 8, 11, 71⟩ [] (by rw [htab]; rfl) (fun _ h => absurd h List.not_mem_nil) (by decide) (by decide) (hts _ q2625) (va_Nw.use rfl (hC.1.2.2.1 _ q2578 rfl)) hcell hcv hcl ?_
    exact hB11 _ _ _ _ _ _ _ _ hp hM hS hB (lv_sub hl [] rfl)
  · refine lv_i2l (v := v3.toInt64) hx hb dX0_undo_6 rfl ?_
    refine x_last X hC.1 hM hS dX0_undo_7 hp (fun M4 H locs hM hS hp => ?_)
    refine lv_goto (tgt := 14) hx hb dX0_undo_8 (by decide) ?_
    refine lv_iconst (v := 0) hx hb dX0_undo_14 (by decide) ?_
    exact x_iret X hr hlk hM hS (w_fin hB) dX0_undo_15 ⟨_, rfl, hp⟩
def B_X0_visit_13 (G : wG) (Q : Int32 → wM → Prop) (y0 : Nat) (M : wM) (bq : Nat) : Prop :=
  Q (1 : Int32) M
def P_X0_visit (G : wG) (p1 : Nat) (p2 : Int32) (p3 : Int32) (p4 : Nat) (b : Nat) (M : wM) (Q : Int32 → wM → Prop) : Prop :=
  oIs M p1 0 (∃ c2, c2 ≤ b ∧ P_X1_visit G p1 p2 p3 c2 M (fun v3 M1 => oLast G M1 p4 (0 : Int32) (v3.toInt64) (fun M4 => Q (0 : Int32) M4)) (fun E q5 M6 => (E = "java/lang/IndexOutOfBoundsException" ∧ (B_X0_visit_13 G Q q5 M6 (b - c2)))))
set_option maxHeartbeats 4000000 in
set_option maxRecDepth 100000 in
theorem P_X0_visit_ok {l : Launch} (hl0 : l.stackTraces = false) {G : wG} {p1 : Nat} {p2 : Int32} {p3 : Int32} {p4 : Nat} {b : Nat} {M : wM} {Q : Int32 → wM → Prop} (hp : P_X0_visit G p1 p2 p3 p4 b M Q) : wMet l yX0_visit (wsW_ yX0_visit cX0_visit 5 (Option.some Jvm.ClassFile.FieldType.int) [((0 : Nat), (10 : Nat), (13 : Nat), (13 : Nat))]) 17 508 G [.ref p1, .int p2, .int p3, .ref p4] M b (wqI Q) wX0 := by
  refine vx_ofWH (cc := cX0_visit) (maxL := 5) (ret := Option.some Jvm.ClassFile.FieldType.int) (hh := [((0 : Nat), (10 : Nat), (13 : Nat), (13 : Nat))]) (by decide) rfl ?_
  intro p e s m args below meth c s₁ B hml hv
  obtain ⟨rfl, hM, hK, hZ, hz⟩ := hv
  have hC : wC G s := ⟨hK, hZ, hz⟩
  have hx := B.exec
  have hb := B.bytes
  have hr := B.returns
  have hts := atoms_spec (ws := (wsW_ yX0_visit cX0_visit 5 (Option.some Jvm.ClassFile.FieldType.int) [((0 : Nat), (10 : Nat), (13 : Nat), (13 : Nat))])) B.pre
  have htab := vx_table (x := yX0_visit) B (hts _ List.mem_cons_self)
  have hts : ∀ w ∈ lw_all, w.before _ s = true := fun w h => hts w (List.mem_cons_of_mem _ h)
  have hown : s.vm.findClass RX0 = some m.cls := findClass_of_methodNamed B.named
  have hlk := B.notSynchronized
  have X : CallFix p m c cX0_visit 5 s ([.ref p1, .int p2, .int p3, .ref p4] : List Value).toArray lw_all RX0 := ⟨hx, hb, hml, hown, hts⟩
  have hS : va_S (wA G) s.heap s.heap [] := va_S.rf
  have hl := lv_entry ([.ref p1, .int p2, .int p3, .ref p4]) (n := 5) (Nat.le_of_ble_eq_true rfl)
  rw [lg_entry_eq]
  generalize (lg_sl ([.ref p1, .int p2, .int p3, .ref p4]) ++ List.replicate (5 - (lg_sl ([.ref p1, .int p2, .int p3, .ref p4])).length) Slot.unset).toArray = ls at hl ⊢
  have hl : lv_has ls 5 [(0, .ref p1), (1, .int p2), (2, .int p3), (3, .ref p4)] := hl
  have hB : 0 + b ≤ ((headSpec (wsW_ yX0_visit cX0_visit 5 (Option.some Jvm.ClassFile.FieldType.int) [((0 : Nat), (10 : Nat), (13 : Nat), (13 : Nat))]) ({ frames := 17, cells := b, slots := b, locals := 508 })).room).cells ∧ 0 + b ≤ ((headSpec (wsW_ yX0_visit cX0_visit 5 (Option.some Jvm.ClassFile.FieldType.int) [((0 : Nat), (10 : Nat), (13 : Nat), (13 : Nat))]) ({ frames := 17, cells := b, slots := b, locals := 508 })).room).slots := ⟨Nat.le_of_eq (Nat.zero_add b), Nat.le_of_eq (Nat.zero_add b)⟩
  have hB13 : ∀ (y0 : Nat) (M : wM) (bq : Nat) (H : Heap) (locs : List Loc) (ls : Array Slot) (cells slots : Nat), B_X0_visit_13 G Q y0 M bq → wR G M H → va_S (wA G) s.heap H locs → (cells + bq ≤ ((headSpec (wsW_ yX0_visit cX0_visit 5 (Option.some Jvm.ClassFile.FieldType.int) [((0 : Nat), (10 : Nat), (13 : Nat), (13 : Nat))]) ({ frames := 17, cells := b, slots := b, locals := 508 })).room).cells ∧ slots + bq ≤ ((headSpec (wsW_ yX0_visit cX0_visit 5 (Option.some Jvm.ClassFile.FieldType.int) [((0 : Nat), (10 : Nat), (13 : Nat), (13 : Nat))]) ({ frames := 17, cells := b, slots := b, locals := 508 })).room).slots) → lv_has ls 5 [] → W p l e (headSpec (wsW_ yX0_visit cX0_visit 5 (Option.some Jvm.ClassFile.FieldType.int) [((0 : Nat), (10 : Nat), (13 : Nat), (13 : Nat))]) ({ frames := 17, cells := b, slots := b, locals := 508 })).room s m ([.ref p1, .int p2, .int p3, .ref p4] : List Value).toArray below meth c H locs cells slots (vx_MQ below (wQ G (wqI Q)) (wXC G wX0) ([.ref p1, .int p2, .int p3, .ref p4] : List Value).toArray s b b (wA G)) (F0 m 13 ls [.ref y0]) := by
    intro y0 M bq H locs ls cells slots hp hM hS hB hl
    refine lv_astore (lv' := [(4, .ref y0)]) hx hb dX0_visit_13 hl (by decide) rfl (fun ls hl => ?_)
    refine lv_iconst (v := 1) hx hb dX0_visit_15 (by decide) ?_
    exact x_iret X hr hlk hM hS (w_fin hB) dX0_visit_16 ⟨_, rfl, hp⟩
  refine lv_aload_n hx hb dX0_visit_0 rfl (lv_at hl 3 rfl) ?_
  refine lv_iconst (v := 0) hx hb dX0_visit_1 (by decide) ?_
  refine lv_aload_n hx hb dX0_visit_2 rfl (lv_at hl 0 rfl) ?_
  refine lv_iload_n hx hb dX0_visit_3 rfl (lv_at hl 1 rfl) ?_
  refine lv_iload_n hx hb dX0_visit_4 rfl (lv_at hl 2 rfl) ?_
  obtain ⟨hrec, hp⟩ := hp
  obtain ⟨c2, hc1, hp⟩ := hp
  refine x_callI (vx_runV (As := [.int p2, .int p3]) (rest := [.int (0 : Int32), .ref p4]) X (P_X1_visit_ok (l := l) hl0 hp) (cwV 2 hts (lw_V q2426 q2427 q2428 q148 q2429) rfl rfl rfl (by decide +kernel) ⟨Nat.le_of_ble_eq_true rfl, Nat.le_of_ble_eq_true rfl⟩) ⟨wPc.blind, w_recv hC.1 hM (ci := 0) (q := (RX1, TX1, 8)) rfl hrec, w_pre hC hM hS _⟩ rfl rfl hl.1 rfl (lv_room (Nat.le_of_ble_eq_true rfl)) dX0_visit_5 (w_room hB hc1)) hS hB hc1 (fun E ce q5 M6 H locs hp hM hS hB hcell hcv hcl => ?_) (fun v3 M1 H locs hp hM hS hB => ?_)
  · obtain ⟨rfl, hp⟩ := hp
    refine vx_catch (own := "ParkingOfficeLaw") (name := "java/lang/IndexOutOfBoundsException") (E := "java/lang/IndexOutOfBoundsException") hown [] ⟨0, 10, 13, 13⟩ [] (by rw [htab]; rfl) (fun _ h => absurd h List.not_mem_nil) (by decide) (by decide) (hts _ q2176) (va_Nw.use rfl (hC.1.2.2.1 _ q550 rfl)) hcell hcv hcl ?_
    exact hB13 _ _ _ _ _ _ _ _ hp hM hS hB (lv_sub hl [] rfl)
  · refine lv_i2l (v := v3.toInt64) hx hb dX0_visit_8 rfl ?_
    refine x_last X hC.1 hM hS dX0_visit_9 hp (fun M4 H locs hM hS hp => ?_)
    refine lv_goto (tgt := 17) hx hb dX0_visit_10 (by decide) ?_
    refine lv_iconst (v := 0) hx hb dX0_visit_17 (by decide) ?_
    exact x_iret X hr hlk hM hS (w_fin hB) dX0_visit_18 ⟨_, rfl, hp⟩
def B_X0_waiting_13 (G : wG) (Q : Int32 → wM → Prop) (y0 : Nat) (M : wM) (bq : Nat) : Prop :=
  Q (1 : Int32) M
def B_X0_waiting_17 (G : wG) (Q : Int32 → wM → Prop) (y0 : Nat) (M : wM) (bq : Nat) : Prop :=
  Q (2 : Int32) M
def P_X0_waiting (G : wG) (p1 : Nat) (p2 : Int32) (p3 : Int32) (p4 : Nat) (b : Nat) (M : wM) (Q : Int32 → wM → Prop) : Prop :=
  oIs M p1 0 (∃ c2, c2 ≤ b ∧ P_X1_waiting G p1 p2 p3 c2 M (fun v3 M1 => oLast G M1 p4 (0 : Int32) (v3.toInt64) (fun M4 => Q (0 : Int32) M4)) (fun E q5 M6 => (E = "java/lang/IndexOutOfBoundsException" ∧ (B_X0_waiting_13 G Q q5 M6 (b - c2))) ∨ (E = "java/util/NoSuchElementException" ∧ (B_X0_waiting_17 G Q q5 M6 (b - c2)))))
set_option maxHeartbeats 4000000 in
set_option maxRecDepth 100000 in
theorem P_X0_waiting_ok {l : Launch} (hl0 : l.stackTraces = false) {G : wG} {p1 : Nat} {p2 : Int32} {p3 : Int32} {p4 : Nat} {b : Nat} {M : wM} {Q : Int32 → wM → Prop} (hp : P_X0_waiting G p1 p2 p3 p4 b M Q) : wMet l yX0_waiting (wsW_ yX0_waiting cX0_waiting 5 (Option.some Jvm.ClassFile.FieldType.int) [((0 : Nat), (10 : Nat), (13 : Nat), (13 : Nat)), ((0 : Nat), (10 : Nat), (17 : Nat), (36 : Nat))]) 19 557 G [.ref p1, .int p2, .int p3, .ref p4] M b (wqI Q) wX0 := by
  refine vx_ofWH (cc := cX0_waiting) (maxL := 5) (ret := Option.some Jvm.ClassFile.FieldType.int) (hh := [((0 : Nat), (10 : Nat), (13 : Nat), (13 : Nat)), ((0 : Nat), (10 : Nat), (17 : Nat), (36 : Nat))]) (by decide) rfl ?_
  intro p e s m args below meth c s₁ B hml hv
  obtain ⟨rfl, hM, hK, hZ, hz⟩ := hv
  have hC : wC G s := ⟨hK, hZ, hz⟩
  have hx := B.exec
  have hb := B.bytes
  have hr := B.returns
  have hts := atoms_spec (ws := (wsW_ yX0_waiting cX0_waiting 5 (Option.some Jvm.ClassFile.FieldType.int) [((0 : Nat), (10 : Nat), (13 : Nat), (13 : Nat)), ((0 : Nat), (10 : Nat), (17 : Nat), (36 : Nat))])) B.pre
  have htab := vx_table (x := yX0_waiting) B (hts _ List.mem_cons_self)
  have hts : ∀ w ∈ lw_all, w.before _ s = true := fun w h => hts w (List.mem_cons_of_mem _ h)
  have hown : s.vm.findClass RX0 = some m.cls := findClass_of_methodNamed B.named
  have hlk := B.notSynchronized
  have X : CallFix p m c cX0_waiting 5 s ([.ref p1, .int p2, .int p3, .ref p4] : List Value).toArray lw_all RX0 := ⟨hx, hb, hml, hown, hts⟩
  have hS : va_S (wA G) s.heap s.heap [] := va_S.rf
  have hl := lv_entry ([.ref p1, .int p2, .int p3, .ref p4]) (n := 5) (Nat.le_of_ble_eq_true rfl)
  rw [lg_entry_eq]
  generalize (lg_sl ([.ref p1, .int p2, .int p3, .ref p4]) ++ List.replicate (5 - (lg_sl ([.ref p1, .int p2, .int p3, .ref p4])).length) Slot.unset).toArray = ls at hl ⊢
  have hl : lv_has ls 5 [(0, .ref p1), (1, .int p2), (2, .int p3), (3, .ref p4)] := hl
  have hB : 0 + b ≤ ((headSpec (wsW_ yX0_waiting cX0_waiting 5 (Option.some Jvm.ClassFile.FieldType.int) [((0 : Nat), (10 : Nat), (13 : Nat), (13 : Nat)), ((0 : Nat), (10 : Nat), (17 : Nat), (36 : Nat))]) ({ frames := 19, cells := b, slots := b, locals := 557 })).room).cells ∧ 0 + b ≤ ((headSpec (wsW_ yX0_waiting cX0_waiting 5 (Option.some Jvm.ClassFile.FieldType.int) [((0 : Nat), (10 : Nat), (13 : Nat), (13 : Nat)), ((0 : Nat), (10 : Nat), (17 : Nat), (36 : Nat))]) ({ frames := 19, cells := b, slots := b, locals := 557 })).room).slots := ⟨Nat.le_of_eq (Nat.zero_add b), Nat.le_of_eq (Nat.zero_add b)⟩
  have hB13 : ∀ (y0 : Nat) (M : wM) (bq : Nat) (H : Heap) (locs : List Loc) (ls : Array Slot) (cells slots : Nat), B_X0_waiting_13 G Q y0 M bq → wR G M H → va_S (wA G) s.heap H locs → (cells + bq ≤ ((headSpec (wsW_ yX0_waiting cX0_waiting 5 (Option.some Jvm.ClassFile.FieldType.int) [((0 : Nat), (10 : Nat), (13 : Nat), (13 : Nat)), ((0 : Nat), (10 : Nat), (17 : Nat), (36 : Nat))]) ({ frames := 19, cells := b, slots := b, locals := 557 })).room).cells ∧ slots + bq ≤ ((headSpec (wsW_ yX0_waiting cX0_waiting 5 (Option.some Jvm.ClassFile.FieldType.int) [((0 : Nat), (10 : Nat), (13 : Nat), (13 : Nat)), ((0 : Nat), (10 : Nat), (17 : Nat), (36 : Nat))]) ({ frames := 19, cells := b, slots := b, locals := 557 })).room).slots) → lv_has ls 5 [] → W p l e (headSpec (wsW_ yX0_waiting cX0_waiting 5 (Option.some Jvm.ClassFile.FieldType.int) [((0 : Nat), (10 : Nat), (13 : Nat), (13 : Nat)), ((0 : Nat), (10 : Nat), (17 : Nat), (36 : Nat))]) ({ frames := 19, cells := b, slots := b, locals := 557 })).room s m ([.ref p1, .int p2, .int p3, .ref p4] : List Value).toArray below meth c H locs cells slots (vx_MQ below (wQ G (wqI Q)) (wXC G wX0) ([.ref p1, .int p2, .int p3, .ref p4] : List Value).toArray s b b (wA G)) (F0 m 13 ls [.ref y0]) := by
    intro y0 M bq H locs ls cells slots hp hM hS hB hl
    refine lv_astore (lv' := [(4, .ref y0)]) hx hb dX0_waiting_13 hl (by decide) rfl (fun ls hl => ?_)
    refine lv_iconst (v := 1) hx hb dX0_waiting_15 (by decide) ?_
    exact x_iret X hr hlk hM hS (w_fin hB) dX0_waiting_16 ⟨_, rfl, hp⟩
  have hB17 : ∀ (y0 : Nat) (M : wM) (bq : Nat) (H : Heap) (locs : List Loc) (ls : Array Slot) (cells slots : Nat), B_X0_waiting_17 G Q y0 M bq → wR G M H → va_S (wA G) s.heap H locs → (cells + bq ≤ ((headSpec (wsW_ yX0_waiting cX0_waiting 5 (Option.some Jvm.ClassFile.FieldType.int) [((0 : Nat), (10 : Nat), (13 : Nat), (13 : Nat)), ((0 : Nat), (10 : Nat), (17 : Nat), (36 : Nat))]) ({ frames := 19, cells := b, slots := b, locals := 557 })).room).cells ∧ slots + bq ≤ ((headSpec (wsW_ yX0_waiting cX0_waiting 5 (Option.some Jvm.ClassFile.FieldType.int) [((0 : Nat), (10 : Nat), (13 : Nat), (13 : Nat)), ((0 : Nat), (10 : Nat), (17 : Nat), (36 : Nat))]) ({ frames := 19, cells := b, slots := b, locals := 557 })).room).slots) → lv_has ls 5 [] → W p l e (headSpec (wsW_ yX0_waiting cX0_waiting 5 (Option.some Jvm.ClassFile.FieldType.int) [((0 : Nat), (10 : Nat), (13 : Nat), (13 : Nat)), ((0 : Nat), (10 : Nat), (17 : Nat), (36 : Nat))]) ({ frames := 19, cells := b, slots := b, locals := 557 })).room s m ([.ref p1, .int p2, .int p3, .ref p4] : List Value).toArray below meth c H locs cells slots (vx_MQ below (wQ G (wqI Q)) (wXC G wX0) ([.ref p1, .int p2, .int p3, .ref p4] : List Value).toArray s b b (wA G)) (F0 m 17 ls [.ref y0]) := by
    intro y0 M bq H locs ls cells slots hp hM hS hB hl
    refine lv_astore (lv' := [(4, .ref y0)]) hx hb dX0_waiting_17 hl (by decide) rfl (fun ls hl => ?_)
    refine lv_iconst (v := 2) hx hb dX0_waiting_19 (by decide) ?_
    exact x_iret X hr hlk hM hS (w_fin hB) dX0_waiting_20 ⟨_, rfl, hp⟩
  refine lv_aload_n hx hb dX0_waiting_0 rfl (lv_at hl 3 rfl) ?_
  refine lv_iconst (v := 0) hx hb dX0_waiting_1 (by decide) ?_
  refine lv_aload_n hx hb dX0_waiting_2 rfl (lv_at hl 0 rfl) ?_
  refine lv_iload_n hx hb dX0_waiting_3 rfl (lv_at hl 1 rfl) ?_
  refine lv_iload_n hx hb dX0_waiting_4 rfl (lv_at hl 2 rfl) ?_
  obtain ⟨hrec, hp⟩ := hp
  obtain ⟨c2, hc1, hp⟩ := hp
  refine x_callI (vx_runV (As := [.int p2, .int p3]) (rest := [.int (0 : Int32), .ref p4]) X (P_X1_waiting_ok (l := l) hl0 hp) (cwV 2 hts (lw_V q2360 q2361 q2362 q148 q2363) rfl rfl rfl (by decide +kernel) ⟨Nat.le_of_ble_eq_true rfl, Nat.le_of_ble_eq_true rfl⟩) ⟨wPc.blind, w_recv hC.1 hM (ci := 0) (q := (RX1, TX1, 8)) rfl hrec, w_pre hC hM hS _⟩ rfl rfl hl.1 rfl (lv_room (Nat.le_of_ble_eq_true rfl)) dX0_waiting_5 (w_room hB hc1)) hS hB hc1 (fun E ce q5 M6 H locs hp hM hS hB hcell hcv hcl => ?_) (fun v3 M1 H locs hp hM hS hB => ?_)
  · rcases hp with ⟨rfl, hp⟩ | ⟨rfl, hp⟩
    · refine vx_catch (own := "ParkingOfficeLaw") (name := "java/lang/IndexOutOfBoundsException") (E := "java/lang/IndexOutOfBoundsException") hown [] ⟨0, 10, 13, 13⟩ [⟨0, 10, 17, 36⟩] (by rw [htab]; rfl) (fun _ h => absurd h List.not_mem_nil) (by decide) (by decide) (hts _ q2176) (va_Nw.use rfl (hC.1.2.2.1 _ q550 rfl)) hcell hcv hcl ?_
      exact hB13 _ _ _ _ _ _ _ _ hp hM hS hB (lv_sub hl [] rfl)
    · refine vx_catch (own := "ParkingOfficeLaw") (name := "java/util/NoSuchElementException") (E := "java/util/NoSuchElementException") hown [⟨0, 10, 13, 13⟩] ⟨0, 10, 17, 36⟩ [] (by rw [htab]; rfl) (List.forall_mem_cons.mpr ⟨(Or.inr ⟨by decide, "java/lang/IndexOutOfBoundsException", hts _ q2176, hC.1.2.2.2.2.2.1 ("java/util/NoSuchElementException", "java/lang/IndexOutOfBoundsException") (List.mem_of_getElem? (i := 21) rfl)⟩), (fun _ h => absurd h List.not_mem_nil)⟩) (by decide) (by decide) (hts _ q2359) (va_Nw.use rfl (hC.1.2.2.1 _ q1844 rfl)) hcell hcv hcl ?_
      exact hB17 _ _ _ _ _ _ _ _ hp hM hS hB (lv_sub hl [] rfl)
  · refine lv_i2l (v := v3.toInt64) hx hb dX0_waiting_8 rfl ?_
    refine x_last X hC.1 hM hS dX0_waiting_9 hp (fun M4 H locs hM hS hp => ?_)
    refine lv_goto (tgt := 21) hx hb dX0_waiting_10 (by decide) ?_
    refine lv_iconst (v := 0) hx hb dX0_waiting_21 (by decide) ?_
    exact x_iret X hr hlk hM hS (w_fin hB) dX0_waiting_22 ⟨_, rfl, hp⟩
def B_X0_waitingPlace_12 (G : wG) (Q : Int32 → wM → Prop) (y0 : Nat) (M : wM) (bq : Nat) : Prop :=
  Q (1 : Int32) M
def P_X0_waitingPlace (G : wG) (p1 : Nat) (p2 : Int32) (p3 : Nat) (b : Nat) (M : wM) (Q : Int32 → wM → Prop) : Prop :=
  oIs M p1 0 (∃ c2, c2 ≤ b ∧ P_X1_waitingPlace G p1 p2 c2 M (fun v3 M1 => oLast G M1 p3 (0 : Int32) (v3.toInt64) (fun M4 => Q (0 : Int32) M4)) (fun E q5 M6 => (E = "java/lang/IndexOutOfBoundsException" ∧ (B_X0_waitingPlace_12 G Q q5 M6 (b - c2)))))
set_option maxHeartbeats 4000000 in
set_option maxRecDepth 100000 in
theorem P_X0_waitingPlace_ok {l : Launch} (hl0 : l.stackTraces = false) {G : wG} {p1 : Nat} {p2 : Int32} {p3 : Nat} {b : Nat} {M : wM} {Q : Int32 → wM → Prop} (hp : P_X0_waitingPlace G p1 p2 p3 b M Q) : wMet l yX0_waitingPlace (wsW_ yX0_waitingPlace cX0_waitingPlace 4 (Option.some Jvm.ClassFile.FieldType.int) [((0 : Nat), (9 : Nat), (12 : Nat), (13 : Nat))]) 19 556 G [.ref p1, .int p2, .ref p3] M b (wqI Q) wX0 := by
  refine vx_ofWH (cc := cX0_waitingPlace) (maxL := 4) (ret := Option.some Jvm.ClassFile.FieldType.int) (hh := [((0 : Nat), (9 : Nat), (12 : Nat), (13 : Nat))]) (by decide) rfl ?_
  intro p e s m args below meth c s₁ B hml hv
  obtain ⟨rfl, hM, hK, hZ, hz⟩ := hv
  have hC : wC G s := ⟨hK, hZ, hz⟩
  have hx := B.exec
  have hb := B.bytes
  have hr := B.returns
  have hts := atoms_spec (ws := (wsW_ yX0_waitingPlace cX0_waitingPlace 4 (Option.some Jvm.ClassFile.FieldType.int) [((0 : Nat), (9 : Nat), (12 : Nat), (13 : Nat))])) B.pre
  have htab := vx_table (x := yX0_waitingPlace) B (hts _ List.mem_cons_self)
  have hts : ∀ w ∈ lw_all, w.before _ s = true := fun w h => hts w (List.mem_cons_of_mem _ h)
  have hown : s.vm.findClass RX0 = some m.cls := findClass_of_methodNamed B.named
  have hlk := B.notSynchronized
  have X : CallFix p m c cX0_waitingPlace 4 s ([.ref p1, .int p2, .ref p3] : List Value).toArray lw_all RX0 := ⟨hx, hb, hml, hown, hts⟩
  have hS : va_S (wA G) s.heap s.heap [] := va_S.rf
  have hl := lv_entry ([.ref p1, .int p2, .ref p3]) (n := 4) (Nat.le_of_ble_eq_true rfl)
  rw [lg_entry_eq]
  generalize (lg_sl ([.ref p1, .int p2, .ref p3]) ++ List.replicate (4 - (lg_sl ([.ref p1, .int p2, .ref p3])).length) Slot.unset).toArray = ls at hl ⊢
  have hl : lv_has ls 4 [(0, .ref p1), (1, .int p2), (2, .ref p3)] := hl
  have hB : 0 + b ≤ ((headSpec (wsW_ yX0_waitingPlace cX0_waitingPlace 4 (Option.some Jvm.ClassFile.FieldType.int) [((0 : Nat), (9 : Nat), (12 : Nat), (13 : Nat))]) ({ frames := 19, cells := b, slots := b, locals := 556 })).room).cells ∧ 0 + b ≤ ((headSpec (wsW_ yX0_waitingPlace cX0_waitingPlace 4 (Option.some Jvm.ClassFile.FieldType.int) [((0 : Nat), (9 : Nat), (12 : Nat), (13 : Nat))]) ({ frames := 19, cells := b, slots := b, locals := 556 })).room).slots := ⟨Nat.le_of_eq (Nat.zero_add b), Nat.le_of_eq (Nat.zero_add b)⟩
  have hB12 : ∀ (y0 : Nat) (M : wM) (bq : Nat) (H : Heap) (locs : List Loc) (ls : Array Slot) (cells slots : Nat), B_X0_waitingPlace_12 G Q y0 M bq → wR G M H → va_S (wA G) s.heap H locs → (cells + bq ≤ ((headSpec (wsW_ yX0_waitingPlace cX0_waitingPlace 4 (Option.some Jvm.ClassFile.FieldType.int) [((0 : Nat), (9 : Nat), (12 : Nat), (13 : Nat))]) ({ frames := 19, cells := b, slots := b, locals := 556 })).room).cells ∧ slots + bq ≤ ((headSpec (wsW_ yX0_waitingPlace cX0_waitingPlace 4 (Option.some Jvm.ClassFile.FieldType.int) [((0 : Nat), (9 : Nat), (12 : Nat), (13 : Nat))]) ({ frames := 19, cells := b, slots := b, locals := 556 })).room).slots) → lv_has ls 4 [] → W p l e (headSpec (wsW_ yX0_waitingPlace cX0_waitingPlace 4 (Option.some Jvm.ClassFile.FieldType.int) [((0 : Nat), (9 : Nat), (12 : Nat), (13 : Nat))]) ({ frames := 19, cells := b, slots := b, locals := 556 })).room s m ([.ref p1, .int p2, .ref p3] : List Value).toArray below meth c H locs cells slots (vx_MQ below (wQ G (wqI Q)) (wXC G wX0) ([.ref p1, .int p2, .ref p3] : List Value).toArray s b b (wA G)) (F0 m 12 ls [.ref y0]) := by
    intro y0 M bq H locs ls cells slots hp hM hS hB hl
    refine lv_astore_n (lv' := [(3, .ref y0)]) hx hb dX0_waitingPlace_12 rfl hl (by decide) rfl (fun ls hl => ?_)
    refine lv_iconst (v := 1) hx hb dX0_waitingPlace_13 (by decide) ?_
    exact x_iret X hr hlk hM hS (w_fin hB) dX0_waitingPlace_14 ⟨_, rfl, hp⟩
  refine lv_aload_n hx hb dX0_waitingPlace_0 rfl (lv_at hl 2 rfl) ?_
  refine lv_iconst (v := 0) hx hb dX0_waitingPlace_1 (by decide) ?_
  refine lv_aload_n hx hb dX0_waitingPlace_2 rfl (lv_at hl 0 rfl) ?_
  refine lv_iload_n hx hb dX0_waitingPlace_3 rfl (lv_at hl 1 rfl) ?_
  obtain ⟨hrec, hp⟩ := hp
  obtain ⟨c2, hc1, hp⟩ := hp
  refine x_callI (vx_runV (As := [.int p2]) (rest := [.int (0 : Int32), .ref p3]) X (P_X1_waitingPlace_ok (l := l) hl0 hp) (cwV 1 hts (lw_V q2411 q2412 q2413 q148 q2414) rfl rfl rfl (by decide +kernel) ⟨Nat.le_of_ble_eq_true rfl, Nat.le_of_ble_eq_true rfl⟩) ⟨wPc.blind, w_recv hC.1 hM (ci := 0) (q := (RX1, TX1, 8)) rfl hrec, w_pre hC hM hS _⟩ rfl rfl hl.1 rfl (lv_room (Nat.le_of_ble_eq_true rfl)) dX0_waitingPlace_4 (w_room hB hc1)) hS hB hc1 (fun E ce q5 M6 H locs hp hM hS hB hcell hcv hcl => ?_) (fun v3 M1 H locs hp hM hS hB => ?_)
  · obtain ⟨rfl, hp⟩ := hp
    refine vx_catch (own := "ParkingOfficeLaw") (name := "java/lang/IndexOutOfBoundsException") (E := "java/lang/IndexOutOfBoundsException") hown [] ⟨0, 9, 12, 13⟩ [] (by rw [htab]; rfl) (fun _ h => absurd h List.not_mem_nil) (by decide) (by decide) (hts _ q2176) (va_Nw.use rfl (hC.1.2.2.1 _ q550 rfl)) hcell hcv hcl ?_
    exact hB12 _ _ _ _ _ _ _ _ hp hM hS hB (lv_sub hl [] rfl)
  · refine lv_i2l (v := v3.toInt64) hx hb dX0_waitingPlace_7 rfl ?_
    refine x_last X hC.1 hM hS dX0_waitingPlace_8 hp (fun M4 H locs hM hS hp => ?_)
    refine lv_goto (tgt := 15) hx hb dX0_waitingPlace_9 (by decide) ?_
    refine lv_iconst (v := 0) hx hb dX0_waitingPlace_15 (by decide) ?_
    exact x_iret X hr hlk hM hS (w_fin hB) dX0_waitingPlace_16 ⟨_, rfl, hp⟩
def B_X0_zone_13 (G : wG) (Q : Int32 → wM → Prop) (y0 : Nat) (M : wM) (bq : Nat) : Prop :=
  Q (1 : Int32) M
def P_X0_zone (G : wG) (p1 : Nat) (p2 : Int32) (p3 : Int32) (p4 : Nat) (b : Nat) (M : wM) (Q : Int32 → wM → Prop) : Prop :=
  oIs M p1 0 (∃ c2, c2 ≤ b ∧ P_X1_zone G p1 p2 p3 c2 M (fun v3 M1 => oLast G M1 p4 (0 : Int32) (v3.toInt64) (fun M4 => Q (0 : Int32) M4)) (fun E q5 M6 => (E = "java/lang/IndexOutOfBoundsException" ∧ (B_X0_zone_13 G Q q5 M6 (b - c2)))))
set_option maxHeartbeats 4000000 in
set_option maxRecDepth 100000 in
theorem P_X0_zone_ok {l : Launch} (hl0 : l.stackTraces = false) {G : wG} {p1 : Nat} {p2 : Int32} {p3 : Int32} {p4 : Nat} {b : Nat} {M : wM} {Q : Int32 → wM → Prop} (hp : P_X0_zone G p1 p2 p3 p4 b M Q) : wMet l yX0_zone (wsW_ yX0_zone cX0_zone 5 (Option.some Jvm.ClassFile.FieldType.int) [((0 : Nat), (10 : Nat), (13 : Nat), (13 : Nat))]) 17 511 G [.ref p1, .int p2, .int p3, .ref p4] M b (wqI Q) wX0 := by
  refine vx_ofWH (cc := cX0_zone) (maxL := 5) (ret := Option.some Jvm.ClassFile.FieldType.int) (hh := [((0 : Nat), (10 : Nat), (13 : Nat), (13 : Nat))]) (by decide) rfl ?_
  intro p e s m args below meth c s₁ B hml hv
  obtain ⟨rfl, hM, hK, hZ, hz⟩ := hv
  have hC : wC G s := ⟨hK, hZ, hz⟩
  have hx := B.exec
  have hb := B.bytes
  have hr := B.returns
  have hts := atoms_spec (ws := (wsW_ yX0_zone cX0_zone 5 (Option.some Jvm.ClassFile.FieldType.int) [((0 : Nat), (10 : Nat), (13 : Nat), (13 : Nat))])) B.pre
  have htab := vx_table (x := yX0_zone) B (hts _ List.mem_cons_self)
  have hts : ∀ w ∈ lw_all, w.before _ s = true := fun w h => hts w (List.mem_cons_of_mem _ h)
  have hown : s.vm.findClass RX0 = some m.cls := findClass_of_methodNamed B.named
  have hlk := B.notSynchronized
  have X : CallFix p m c cX0_zone 5 s ([.ref p1, .int p2, .int p3, .ref p4] : List Value).toArray lw_all RX0 := ⟨hx, hb, hml, hown, hts⟩
  have hS : va_S (wA G) s.heap s.heap [] := va_S.rf
  have hl := lv_entry ([.ref p1, .int p2, .int p3, .ref p4]) (n := 5) (Nat.le_of_ble_eq_true rfl)
  rw [lg_entry_eq]
  generalize (lg_sl ([.ref p1, .int p2, .int p3, .ref p4]) ++ List.replicate (5 - (lg_sl ([.ref p1, .int p2, .int p3, .ref p4])).length) Slot.unset).toArray = ls at hl ⊢
  have hl : lv_has ls 5 [(0, .ref p1), (1, .int p2), (2, .int p3), (3, .ref p4)] := hl
  have hB : 0 + b ≤ ((headSpec (wsW_ yX0_zone cX0_zone 5 (Option.some Jvm.ClassFile.FieldType.int) [((0 : Nat), (10 : Nat), (13 : Nat), (13 : Nat))]) ({ frames := 17, cells := b, slots := b, locals := 511 })).room).cells ∧ 0 + b ≤ ((headSpec (wsW_ yX0_zone cX0_zone 5 (Option.some Jvm.ClassFile.FieldType.int) [((0 : Nat), (10 : Nat), (13 : Nat), (13 : Nat))]) ({ frames := 17, cells := b, slots := b, locals := 511 })).room).slots := ⟨Nat.le_of_eq (Nat.zero_add b), Nat.le_of_eq (Nat.zero_add b)⟩
  have hB13 : ∀ (y0 : Nat) (M : wM) (bq : Nat) (H : Heap) (locs : List Loc) (ls : Array Slot) (cells slots : Nat), B_X0_zone_13 G Q y0 M bq → wR G M H → va_S (wA G) s.heap H locs → (cells + bq ≤ ((headSpec (wsW_ yX0_zone cX0_zone 5 (Option.some Jvm.ClassFile.FieldType.int) [((0 : Nat), (10 : Nat), (13 : Nat), (13 : Nat))]) ({ frames := 17, cells := b, slots := b, locals := 511 })).room).cells ∧ slots + bq ≤ ((headSpec (wsW_ yX0_zone cX0_zone 5 (Option.some Jvm.ClassFile.FieldType.int) [((0 : Nat), (10 : Nat), (13 : Nat), (13 : Nat))]) ({ frames := 17, cells := b, slots := b, locals := 511 })).room).slots) → lv_has ls 5 [] → W p l e (headSpec (wsW_ yX0_zone cX0_zone 5 (Option.some Jvm.ClassFile.FieldType.int) [((0 : Nat), (10 : Nat), (13 : Nat), (13 : Nat))]) ({ frames := 17, cells := b, slots := b, locals := 511 })).room s m ([.ref p1, .int p2, .int p3, .ref p4] : List Value).toArray below meth c H locs cells slots (vx_MQ below (wQ G (wqI Q)) (wXC G wX0) ([.ref p1, .int p2, .int p3, .ref p4] : List Value).toArray s b b (wA G)) (F0 m 13 ls [.ref y0]) := by
    intro y0 M bq H locs ls cells slots hp hM hS hB hl
    refine lv_astore (lv' := [(4, .ref y0)]) hx hb dX0_zone_13 hl (by decide) rfl (fun ls hl => ?_)
    refine lv_iconst (v := 1) hx hb dX0_zone_15 (by decide) ?_
    exact x_iret X hr hlk hM hS (w_fin hB) dX0_zone_16 ⟨_, rfl, hp⟩
  refine lv_aload_n hx hb dX0_zone_0 rfl (lv_at hl 3 rfl) ?_
  refine lv_iconst (v := 0) hx hb dX0_zone_1 (by decide) ?_
  refine lv_aload_n hx hb dX0_zone_2 rfl (lv_at hl 0 rfl) ?_
  refine lv_iload_n hx hb dX0_zone_3 rfl (lv_at hl 1 rfl) ?_
  refine lv_iload_n hx hb dX0_zone_4 rfl (lv_at hl 2 rfl) ?_
  obtain ⟨hrec, hp⟩ := hp
  obtain ⟨c2, hc1, hp⟩ := hp
  refine x_callI (vx_runV (As := [.int p2, .int p3]) (rest := [.int (0 : Int32), .ref p4]) X (P_X1_zone_ok (l := l) hl0 hp) (cwV 2 hts (lw_V q2192 q2193 q2194 q148 q2195) rfl rfl rfl (by decide +kernel) ⟨Nat.le_of_ble_eq_true rfl, Nat.le_of_ble_eq_true rfl⟩) ⟨wPc.blind, w_recv hC.1 hM (ci := 0) (q := (RX1, TX1, 8)) rfl hrec, w_pre hC hM hS _⟩ rfl rfl hl.1 rfl (lv_room (Nat.le_of_ble_eq_true rfl)) dX0_zone_5 (w_room hB hc1)) hS hB hc1 (fun E ce q5 M6 H locs hp hM hS hB hcell hcv hcl => ?_) (fun v3 M1 H locs hp hM hS hB => ?_)
  · obtain ⟨rfl, hp⟩ := hp
    refine vx_catch (own := "ParkingOfficeLaw") (name := "java/lang/IndexOutOfBoundsException") (E := "java/lang/IndexOutOfBoundsException") hown [] ⟨0, 10, 13, 13⟩ [] (by rw [htab]; rfl) (fun _ h => absurd h List.not_mem_nil) (by decide) (by decide) (hts _ q2176) (va_Nw.use rfl (hC.1.2.2.1 _ q550 rfl)) hcell hcv hcl ?_
    exact hB13 _ _ _ _ _ _ _ _ hp hM hS hB (lv_sub hl [] rfl)
  · refine lv_i2l (v := v3.toInt64) hx hb dX0_zone_8 rfl ?_
    refine x_last X hC.1 hM hS dX0_zone_9 hp (fun M4 H locs hM hS hp => ?_)
    refine lv_goto (tgt := 17) hx hb dX0_zone_10 (by decide) ?_
    refine lv_iconst (v := 0) hx hb dX0_zone_17 (by decide) ?_
    exact x_iret X hr hlk hM hS (w_fin hB) dX0_zone_18 ⟨_, rfl, hp⟩
