set_option maxRecDepth 100000
def B_X1_apply_21 (G : wG) (Q : Int32 → wM → Prop) (Xp : String → Nat → wM → Prop) (y0 : Nat) (M : wM) (bq : Nat) : Prop :=
  7 ≤ bq ∧ ∀ q : Nat, Xp "java/lang/IllegalStateException" q M
def P_X1_apply (G : wG) (t0 : Nat) (p1 : Int32) (p2 : Int32) (b : Nat) (M : wM) (Q : Int32 → wM → Prop) (Xp : String → Nat → wM → Prop) : Prop :=
  oIs M t0 0 (∃ c2, c2 ≤ b ∧ P_X1_checkHouse G t0 p1 c2 M (fun M1 => ∃ c4, c4 ≤ (b - c2) ∧ P_X1_checkPlate G p2 c4 M1 (fun M3 => oGetA M3 t0 0 0 (fun a5 => oIs M3 a5 1 (∃ c7, c7 ≤ ((b - c2) - c4) ∧ P_X2_checkApply G a5 p1 p2 c7 M3 (fun M6 => oIs M6 t0 0 (∃ c9, c9 ≤ (((b - c2) - c4) - c7) ∧ P_X1_remember G t0 c9 M6 (fun M8 => oGetA M8 t0 0 0 (fun a10 => oGetA M8 a10 1 1 (fun a11 => oNew G M8 ((((b - c2) - c4) - c7) - c9) 9 [.int 0, .int 0, .int 0, .int 0, .int 0, .int 0, .int 0, .int 0] (fun a12 M13 b14 => oIs M13 t0 0 (P_X1_setup G t0 M13 (fun r17 M15 => oRef r17 (fun a18 => oIs M15 a18 2 (P_X3_zoneOf G a18 p1 M15 (fun v21 M19 => oGetA M19 t0 0 0 (fun a22 => oGetI M19 a22 1 8 (fun v23 => P_X12_init G a12 p1 p2 v21 v23 M19 (fun M24 => oIs M24 a11 16 (∃ c27, c27 ≤ b14 ∧ P_J2_add G a11 (some a12) c27 M24 (fun r28 M26 => oGetA M26 t0 0 0 (fun a29 => oIs M26 a29 1 (P_X2_offer G a29 M26 (fun M30 => oGetA M30 t0 0 0 (fun a32 => oGetA M30 a32 1 1 (fun a33 => oIs M30 a33 16 (P_J2_size G a33 M30 (fun v36 M34 => Q (v36 - (1 : Int32)) M34))))))))))))))))))))))) (fun E q37 M38 => (E = "ParkingOffice$NotNow" ∧ (B_X1_apply_21 G Q Xp q37 M38 (((b - c2) - c4) - c7))))))) (fun E q39 M40 => (E = "java/lang/IllegalArgumentException" ∧ Xp E q39 M40))) (fun E q41 M42 => (E = "java/lang/IndexOutOfBoundsException" ∧ Xp E q41 M42)))
set_option maxHeartbeats 4000000 in
set_option maxRecDepth 100000 in
theorem P_X1_apply_ok {l : Launch} (hl0 : l.stackTraces = false) {G : wG} {t0 : Nat} {p1 : Int32} {p2 : Int32} {b : Nat} {M : wM} {Q : Int32 → wM → Prop} {Xp : String → Nat → wM → Prop} (hp : P_X1_apply G t0 p1 p2 b M Q Xp) : wMet l yX1_apply (wsW_ yX1_apply cX1_apply 4 (Option.some Jvm.ClassFile.FieldType.int) [((9 : Nat), (18 : Nat), (21 : Nat), (416 : Nat))]) 25 3323 G [.ref t0, .int p1, .int p2] M b (wqI Q) Xp := by
  refine vx_ofWH (cc := cX1_apply) (maxL := 4) (ret := Option.some Jvm.ClassFile.FieldType.int) (hh := [((9 : Nat), (18 : Nat), (21 : Nat), (416 : Nat))]) (by decide) rfl ?_
  intro p e s m args below meth c s₁ B hml hv
  obtain ⟨rfl, hM, hK, hZ, hz⟩ := hv
  have hC : wC G s := ⟨hK, hZ, hz⟩
  have hx := B.exec
  have hb := B.bytes
  have hr := B.returns
  have hts := atoms_spec (ws := (wsW_ yX1_apply cX1_apply 4 (Option.some Jvm.ClassFile.FieldType.int) [((9 : Nat), (18 : Nat), (21 : Nat), (416 : Nat))])) B.pre
  have htab := vx_table (x := yX1_apply) B (hts _ List.mem_cons_self)
  have hts : ∀ w ∈ lw_all, w.before _ s = true := fun w h => hts w (List.mem_cons_of_mem _ h)
  have hown : s.vm.findClass RX1 = some m.cls := findClass_of_methodNamed B.named
  have hlk := B.notSynchronized
  have X : CallFix p m c cX1_apply 4 s ([.ref t0, .int p1, .int p2] : List Value).toArray lw_all RX1 := ⟨hx, hb, hml, hown, hts⟩
  have hS : va_S (wA G) s.heap s.heap [] := va_S.rf
  have hl := lv_entry ([.ref t0, .int p1, .int p2]) (n := 4) (Nat.le_of_ble_eq_true rfl)
  rw [lg_entry_eq]
  generalize (lg_sl ([.ref t0, .int p1, .int p2]) ++ List.replicate (4 - (lg_sl ([.ref t0, .int p1, .int p2])).length) Slot.unset).toArray = ls at hl ⊢
  have hl : lv_has ls 4 [(0, .ref t0), (1, .int p1), (2, .int p2)] := hl
  have hB : 0 + b ≤ ((headSpec (wsW_ yX1_apply cX1_apply 4 (Option.some Jvm.ClassFile.FieldType.int) [((9 : Nat), (18 : Nat), (21 : Nat), (416 : Nat))]) ({ frames := 25, cells := b, slots := b, locals := 3323 })).room).cells ∧ 0 + b ≤ ((headSpec (wsW_ yX1_apply cX1_apply 4 (Option.some Jvm.ClassFile.FieldType.int) [((9 : Nat), (18 : Nat), (21 : Nat), (416 : Nat))]) ({ frames := 25, cells := b, slots := b, locals := 3323 })).room).slots := ⟨Nat.le_of_eq (Nat.zero_add b), Nat.le_of_eq (Nat.zero_add b)⟩
  have hB21 : ∀ (y0 : Nat) (M : wM) (bq : Nat) (H : Heap) (locs : List Loc) (ls : Array Slot) (cells slots : Nat), B_X1_apply_21 G Q Xp y0 M bq → wR G M H → va_S (wA G) s.heap H locs → (cells + bq ≤ ((headSpec (wsW_ yX1_apply cX1_apply 4 (Option.some Jvm.ClassFile.FieldType.int) [((9 : Nat), (18 : Nat), (21 : Nat), (416 : Nat))]) ({ frames := 25, cells := b, slots := b, locals := 3323 })).room).cells ∧ slots + bq ≤ ((headSpec (wsW_ yX1_apply cX1_apply 4 (Option.some Jvm.ClassFile.FieldType.int) [((9 : Nat), (18 : Nat), (21 : Nat), (416 : Nat))]) ({ frames := 25, cells := b, slots := b, locals := 3323 })).room).slots) → lv_has ls 4 [] → W p l e (headSpec (wsW_ yX1_apply cX1_apply 4 (Option.some Jvm.ClassFile.FieldType.int) [((9 : Nat), (18 : Nat), (21 : Nat), (416 : Nat))]) ({ frames := 25, cells := b, slots := b, locals := 3323 })).room s m ([.ref t0, .int p1, .int p2] : List Value).toArray below meth c H locs cells slots (vx_MQ below (wQ G (wqI Q)) (wXC G Xp) ([.ref t0, .int p1, .int p2] : List Value).toArray s b b (wA G)) (F0 m 21 ls [.ref y0]) := by
    intro y0 M bq H locs ls cells slots hp hM hS hB hl
    refine lv_astore_n (lv' := [(3, .ref y0)]) hx hb dX1_apply_21 rfl hl (by decide) rfl (fun ls hl => ?_)
    exact x_throw0 X hC hl0 hM hS hB ⟨Nat.le_refl _, Nat.le_refl _⟩ (by decide +kernel) (by decide +kernel) q2674 q200 vg_X1_IllegalStateException (w_recat hts hC.1 vt_X1_IllegalStateException) (hl.1.trans hml.symm) dX1_apply_22 dX1_apply_25 dX1_apply_26 dX1_apply_29 (by rw [htab]; decide) (Nat.le_of_ble_eq_true rfl) (Nat.le_of_ble_eq_true rfl) hlk hp.1 hp.2
  refine lv_aload_n hx hb dX1_apply_0 rfl (lv_at hl 0 rfl) ?_
  refine lv_iload_n hx hb dX1_apply_1 rfl (lv_at hl 1 rfl) ?_
  obtain ⟨hrec, hp⟩ := hp
  obtain ⟨c2, hc1, hp⟩ := hp
  refine x_callV (vx_runV (As := [.int p1]) (rest := []) X (P_X1_checkHouse_ok (l := l) hl0 hp) (cwV 1 hts (lw_V q2246 q2248 qs39 q148 q2249) rfl rfl rfl (by decide +kernel) ⟨Nat.le_of_ble_eq_true rfl, Nat.le_of_ble_eq_true rfl⟩) ⟨wPc.blind, w_recv hC.1 hM (ci := 0) (q := (RX1, TX1, 8)) rfl hrec, w_pre hC hM hS _⟩ rfl rfl hl.1 rfl (lv_room (Nat.le_of_ble_eq_true rfl)) dX1_apply_2 (w_room hB hc1)) hS hB hc1 (fun E ce q41 M42 H locs hp hM hS hB hcell hcv hcl => ?_) (fun M1 H locs hp hM hS hB => ?_)
  · obtain ⟨rfl, hp⟩ := hp
    exact x_out hlk (by rw [htab]; decide) hM hS (w_fin hB) hcell hcv hcl hp
  · refine lv_iload_n hx hb dX1_apply_5 rfl (lv_at hl 2 rfl) ?_
    obtain ⟨c4, hc1, hp⟩ := hp
    refine x_callV (vx_runS (As := [.int p2]) (rest := []) X (P_X1_checkPlate_ok (l := l) hl0 hp) (va_cwS 1 hts (lw_S q2451 q2452 q148 q2453) rfl rfl rfl (by decide +kernel) ⟨Nat.le_of_ble_eq_true rfl, Nat.le_of_ble_eq_true rfl⟩) ⟨wPc.blind, w_pre hC hM hS _⟩ rfl rfl hl.1 rfl (lv_room (Nat.le_of_ble_eq_true rfl)) dX1_apply_6 (w_room hB hc1)) hS hB hc1 (fun E ce q39 M40 H locs hp hM hS hB hcell hcv hcl => ?_) (fun M3 H locs hp hM hS hB => ?_)
    · obtain ⟨rfl, hp⟩ := hp
      exact x_out hlk (by rw [htab]; decide) hM hS (w_fin hB) hcell hcv hcl hp
    · refine lv_aload_n hx hb dX1_apply_9 rfl (lv_at hl 0 rfl) ?_
      refine x_getA X hC.1 hM (ci := 0) (C := RX1) (T := TX1) (N := 8) rfl in_X1 0 (by decide) q973 (fun _ h9 => h9) dX1_apply_10 hp (fun a5 hp => ?_)
      refine lv_iload_n hx hb dX1_apply_13 rfl (lv_at hl 1 rfl) ?_
      refine lv_iload_n hx hb dX1_apply_14 rfl (lv_at hl 2 rfl) ?_
      obtain ⟨hrec, hp⟩ := hp
      obtain ⟨c7, hc1, hp⟩ := hp
      refine x_callV (vx_runVX (As := [.int p1, .int p2]) (rest := []) X (P_X2_checkApply_ok (l := l) hl0 hp) (vx_cwVW 2 hts (lw_VW q2631 q2632 q2633 q149 q2634) rfl rfl rfl (by decide +kernel) ⟨Nat.le_of_ble_eq_true rfl, Nat.le_of_ble_eq_true rfl⟩) ⟨wPc.blind, w_recv hC.1 hM (ci := 1) (q := (RX2, TX2, 9)) rfl hrec, w_pre hC hM hS _⟩ rfl rfl hl.1 rfl (lv_room (Nat.le_of_ble_eq_true rfl)) dX1_apply_15 (w_room hB hc1)) hS hB hc1 (fun E ce q37 M38 H locs hp hM hS hB hcell hcv hcl => ?_) (fun M6 H locs hp hM hS hB => ?_)
      · obtain ⟨rfl, hp⟩ := hp
        refine vx_catch (own := "ParkingOffice") (name := "ParkingOffice$NotNow") (E := "ParkingOffice$NotNow") hown [] ⟨9, 18, 21, 416⟩ [] (by rw [htab]; rfl) (fun _ h => absurd h List.not_mem_nil) (by decide) (by decide) (hts _ q2630) (va_Nw.use rfl (hC.1.2.2.1 _ q2661 rfl)) hcell hcv hcl ?_
        exact hB21 _ _ _ _ _ _ _ _ hp hM hS hB (lv_sub hl [] rfl)
      · refine lv_goto (tgt := 30) hx hb dX1_apply_18 (by decide) ?_
        refine lv_aload_n hx hb dX1_apply_30 rfl (lv_at hl 0 rfl) ?_
        obtain ⟨hrec, hp⟩ := hp
        obtain ⟨c9, hc1, hp⟩ := hp
        refine x_callV (vx_runV (As := []) (rest := []) X (P_X1_remember_ok (l := l) hl0 hp) (cwV 0 hts (lw_V q2543 q2545 qs49 q148 q2546) rfl rfl rfl (by decide +kernel) ⟨Nat.le_of_ble_eq_true rfl, Nat.le_of_ble_eq_true rfl⟩) ⟨wPc.blind, w_recv hC.1 hM (ci := 0) (q := (RX1, TX1, 8)) rfl hrec, w_pre hC hM hS _⟩ rfl rfl hl.1 rfl (lv_room (Nat.le_of_ble_eq_true rfl)) dX1_apply_31 (w_room hB hc1)) hS hB hc1 (fun _ _ _ _ _ _ h => False.elim h) (fun M8 H locs hp hM hS hB => ?_)
        refine lv_aload_n hx hb dX1_apply_34 rfl (lv_at hl 0 rfl) ?_
        refine x_getA X hC.1 hM (ci := 0) (C := RX1) (T := TX1) (N := 8) rfl in_X1 0 (by decide) q973 (fun _ h9 => h9) dX1_apply_35 hp (fun a10 hp => ?_)
        refine x_getAN X hC.1 hM (ci := 1) (C := RX2) (T := TX2) (N := 9) rfl in_X2 1 (by decide) q920 (fun _ h9 => h9) dX1_apply_38 hp (fun a11 hp => ?_)
        refine x_new X hC hM hS hB (ci := 9) (C := RX12) (T := TX12) (N := 8) rfl in_X12 tyX12 tyX12_ok q1686 q2076 q202 rfl (by decide) dX1_apply_41 hp (fun a12 M13 H b14 cells slots hM hS hB hp => ?_)
        refine lv_dup hx hb dX1_apply_44 rfl ?_
        refine lv_iload_n hx hb dX1_apply_45 rfl (lv_at hl 1 rfl) ?_
        refine lv_iload_n hx hb dX1_apply_46 rfl (lv_at hl 2 rfl) ?_
        refine lv_aload_n hx hb dX1_apply_47 rfl (lv_at hl 0 rfl) ?_
        obtain ⟨hrec, hp⟩ := hp
        refine x_call0R (vx_runV (As := []) (rest := [.int p2, .int p1, .ref a12, .ref a12, .ref a11]) X (P_X1_setup_ok (l := l) hl0 hp) (cwV 0 hts (lw_V q1535 q1537 qs29 q148 q1538) rfl rfl rfl (by decide +kernel) ⟨Nat.le_of_ble_eq_true rfl, Nat.le_of_ble_eq_true rfl⟩) ⟨wPc.blind, w_recv hC.1 hM (ci := 0) (q := (RX1, TX1, 8)) rfl hrec, w_pre hC hM hS _⟩ rfl rfl hl.1 rfl (lv_room (Nat.le_of_ble_eq_true rfl)) dX1_apply_48 (w_room0 hB)) hS (w_room0 hB) (fun _ _ _ _ _ _ h => False.elim h) (fun r17 M15 H locs hp hM hS => ?_)
        refine lv_iload_n hx hb dX1_apply_51 rfl (lv_at hl 1 rfl) ?_
        obtain ⟨a18, ea, hqa18⟩ := hp
        subst ea
        have hp := hqa18
        obtain ⟨hrec, hp⟩ := hp
        refine x_call0I (vx_runV (As := [.int p1]) (rest := [.int p2, .int p1, .ref a12, .ref a12, .ref a11]) X (P_X3_zoneOf_ok (l := l) hl0 hp) (cwV 1 hts (lw_V q2250 q2251 q2252 q150 q2253) rfl rfl rfl (by decide +kernel) ⟨Nat.le_of_ble_eq_true rfl, Nat.le_of_ble_eq_true rfl⟩) ⟨wPc.blind, w_recv hC.1 hM (ci := 2) (q := (RX3, TX3, 8)) rfl hrec, w_pre hC hM hS _⟩ rfl rfl hl.1 rfl (lv_room (Nat.le_of_ble_eq_true rfl)) dX1_apply_52 (w_room0 hB)) hS (w_room0 hB) (fun _ _ _ _ _ _ h => False.elim h) (fun v21 M19 H locs hp hM hS => ?_)
        refine lv_aload_n hx hb dX1_apply_55 rfl (lv_at hl 0 rfl) ?_
        refine x_getA X hC.1 hM (ci := 0) (C := RX1) (T := TX1) (N := 8) rfl in_X1 0 (by decide) q973 (fun _ h9 => h9) dX1_apply_56 hp (fun a22 hp => ?_)
        refine x_getIN X hC.1 hM (ci := 1) (C := RX2) (T := TX2) (N := 9) rfl in_X2 8 (by decide) q934 (fun _ h9 => h9) dX1_apply_59 hp (fun v23 hp => ?_)
        refine x_call0V (vx_runI (As := [.int p1, .int p2, .int v21, .int v23]) (rest := [.ref a12, .ref a11]) X (P_X12_init_ok (l := l) hl0 hp) (cwI 4 hts (lw_meth q2079) rfl rfl rfl (hts _ q202) (hts _ q2679) (hts _ q2078) rfl (by decide +kernel) ⟨Nat.le_of_ble_eq_true rfl, Nat.le_of_ble_eq_true rfl⟩) ⟨wPc.blind, w_pre hC hM hS _⟩ rfl rfl hl.1 rfl (lv_room (Nat.le_of_ble_eq_true rfl)) dX1_apply_62 (w_room0 hB)) hS (w_room0 hB) (fun _ _ _ _ _ _ h => False.elim h) (fun M24 H locs hp hM hS => ?_)
        obtain ⟨hrec, hp⟩ := hp
        obtain ⟨c27, hc1, hp⟩ := hp
        refine x_callZ5 (vx_runF (hC.1.1.1 16 (RJ2, TJ2, 3) rfl).2 (C := "java/util/ArrayList") (As := [va_rf (some a12)]) (rest := []) X (P_J2_add_ok (l := l) hl0 hp) (va_cwF 1 hts (lw_app (w_mem4 q2681 q266 q268 q153) (lw_meth q270)) rfl rfl rfl (wfw_5 hC.1) (by decide +kernel) ⟨Nat.le_of_ble_eq_true rfl, Nat.le_of_ble_eq_true rfl⟩) ⟨wPc.blind, w_recv hC.1 hM (ci := 16) (q := (RJ2, TJ2, 3)) rfl hrec, w_pre hC hM hS _⟩ rfl rfl hl.1 rfl (lv_room (Nat.le_of_ble_eq_true rfl)) dX1_apply_65 (w_room hB hc1)) hS hB hc1 (fun _ _ _ _ _ _ h => False.elim h) (fun r28 M26 H locs hp hM hS hB => ?_)
        refine lv_pop hx hb dX1_apply_70 rfl ?_
        refine lv_aload_n hx hb dX1_apply_71 rfl (lv_at hl 0 rfl) ?_
        refine x_getA X hC.1 hM (ci := 0) (C := RX1) (T := TX1) (N := 8) rfl in_X1 0 (by decide) q973 (fun _ h9 => h9) dX1_apply_72 hp (fun a29 hp => ?_)
        obtain ⟨hrec, hp⟩ := hp
        refine x_call0V (vx_runV (As := []) (rest := []) X (P_X2_offer_ok (l := l) hl0 hp) (cwV 0 hts (lw_V q2682 q2609 q2610 q149 q2611) rfl rfl rfl (by decide +kernel) ⟨Nat.le_of_ble_eq_true rfl, Nat.le_of_ble_eq_true rfl⟩) ⟨wPc.blind, w_recv hC.1 hM (ci := 1) (q := (RX2, TX2, 9)) rfl hrec, w_pre hC hM hS _⟩ rfl rfl hl.1 rfl (lv_room (Nat.le_of_ble_eq_true rfl)) dX1_apply_75 (w_room0 hB)) hS (w_room0 hB) (fun _ _ _ _ _ _ h => False.elim h) (fun M30 H locs hp hM hS => ?_)
        refine lv_aload_n hx hb dX1_apply_78 rfl (lv_at hl 0 rfl) ?_
        refine x_getA X hC.1 hM (ci := 0) (C := RX1) (T := TX1) (N := 8) rfl in_X1 0 (by decide) q973 (fun _ h9 => h9) dX1_apply_79 hp (fun a32 hp => ?_)
        refine x_getAN X hC.1 hM (ci := 1) (C := RX2) (T := TX2) (N := 9) rfl in_X2 1 (by decide) q920 (fun _ h9 => h9) dX1_apply_82 hp (fun a33 hp => ?_)
        obtain ⟨hrec, hp⟩ := hp
        refine x_call0I5 (vx_runF (hC.1.1.1 16 (RJ2, TJ2, 3) rfl).2 (C := "java/util/ArrayList") (As := []) (rest := []) X (P_J2_size_ok (l := l) hl0 hp) (va_cwF 0 hts (lw_app (w_mem4 q1540 q496 q498 q153) (lw_meth q500)) rfl rfl rfl (wfw_13 hC.1) (by decide +kernel) ⟨Nat.le_of_ble_eq_true rfl, Nat.le_of_ble_eq_true rfl⟩) ⟨wPc.blind, w_recv hC.1 hM (ci := 16) (q := (RJ2, TJ2, 3)) rfl hrec, w_pre hC hM hS _⟩ rfl rfl hl.1 rfl (lv_room (Nat.le_of_ble_eq_true rfl)) dX1_apply_85 (w_room0 hB)) hS (w_room0 hB) (fun _ _ _ _ _ _ h => False.elim h) (fun v36 M34 H locs hp hM hS => ?_)
        refine lv_iconst (v := 1) hx hb dX1_apply_90 (by decide) ?_
        refine lv_isub hx hb dX1_apply_91 ?_
        exact x_iret X hr hlk hM hS (w_fin hB) dX1_apply_92 ⟨_, rfl, hp⟩
def B_X2_happen_170 (G : wG) (rec97 : Nat → Int32 → wM → Prop) (Q : wM → Prop) (x0 : Nat) (x1 : Int32) (M : wM) : Prop :=
  rec97 x0 (x1 + 1) M
def B_X2_happen_97 (G : wG) (rec97 : Nat → Int32 → wM → Prop) (Q : wM → Prop) (x0 : Nat) (x1 : Int32) (M : wM) : Prop :=
  oGetA M x0 1 1 (fun a1 => oIs M a1 16 (P_J2_size G a1 M (fun v4 M2 => oIf (v4 ≤ x1) (oIs M2 x0 1 (P_X2_offer G x0 M2 (fun M5 => Q M5))) (oGetA M2 x0 1 1 (fun a7 => oIs M2 a7 16 (P_J2_get G a7 x1 M2 (fun r10 M8 => oCast M8 r10 9 (oRef r10 (fun a11 => oGetI M8 a11 9 4 (fun v12 => oIf (v12 = (1 : Int32)) (oGetA M8 x0 1 1 (fun a13 => oIs M8 a13 16 (P_J2_get G a13 x1 M8 (fun r16 M14 => oCast M14 r16 9 (oRef r16 (fun a17 => oGetI M14 a17 9 6 (fun v18 => oGetI M14 x0 1 8 (fun v19 => oIf (v18 = v19) (oGetA M14 x0 1 1 (fun a20 => oIs M14 a20 16 (P_J2_get G a20 x1 M14 (fun r23 M21 => oCast M21 r23 9 (oRef r23 (fun a24 => oPut G M21 a24 9 4 (.int (5 : Int32)) (fun M25 => B_X2_happen_170 G rec97 Q x0 x1 M25))))))) (B_X2_happen_170 G rec97 Q x0 x1 M14))))))))) (B_X2_happen_170 G rec97 Q x0 x1 M8)))))))))))
def L_X2_happen_97 (G : wG) (Q : wM → Prop) : Nat → Nat → Int32 → wM → Prop
  | 0 => fun _ _ _ => False
  | n + 1 => B_X2_happen_97 G (L_X2_happen_97 G Q n) Q
def B_X2_happen_89 (G : wG) (rec16 : Nat → Int32 → wM → Prop) (Q : wM → Prop) (x0 : Nat) (x1 : Int32) (M : wM) : Prop :=
  rec16 x0 (x1 + 1) M
def B_X2_happen_16 (G : wG) (rec16 : Nat → Int32 → wM → Prop) (Q : wM → Prop) (x0 : Nat) (x1 : Int32) (M : wM) : Prop :=
  oGetA M x0 1 1 (fun a1 => oIs M a1 16 (P_J2_size G a1 M (fun v4 M2 => oIf (v4 ≤ x1) (∃ n, L_X2_happen_97 G Q n x0 (0 : Int32) M2) (oGetA M2 x0 1 1 (fun a5 => oIs M2 a5 16 (P_J2_get G a5 x1 M2 (fun r8 M6 => oCast M6 r8 9 (oRef r8 (fun a9 => oGetI M6 a9 9 4 (fun v10 => oIf (v10 = (2 : Int32)) (oGetA M6 x0 1 1 (fun a11 => oIs M6 a11 16 (P_J2_get G a11 x1 M6 (fun r14 M12 => oCast M12 r14 9 (oRef r14 (fun a15 => oGetI M12 a15 9 5 (fun v16 => oGetI M12 x0 1 8 (fun v17 => oIf (v16 = v17) (oGetA M12 x0 1 1 (fun a18 => oIs M12 a18 16 (P_J2_get G a18 x1 M12 (fun r21 M19 => oCast M19 r21 9 (oRef r21 (fun a22 => oPut G M19 a22 9 4 (.int (3 : Int32)) (fun M23 => B_X2_happen_89 G rec16 Q x0 x1 M23))))))) (B_X2_happen_89 G rec16 Q x0 x1 M12))))))))) (B_X2_happen_89 G rec16 Q x0 x1 M6)))))))))))
def L_X2_happen_16 (G : wG) (Q : wM → Prop) : Nat → Nat → Int32 → wM → Prop
  | 0 => fun _ _ _ => False
  | n + 1 => B_X2_happen_16 G (L_X2_happen_16 G Q n) Q
def B_X2_happen_14 (G : wG) (Q : wM → Prop) (x0 : Nat) (M : wM) : Prop :=
  ∃ n, L_X2_happen_16 G Q n x0 (0 : Int32) M
def P_X2_happen (G : wG) (t0 : Nat) (M : wM) (Q : wM → Prop) : Prop :=
  oGetI M t0 1 8 (fun v1 => oIf ((v1 - v1 / (43200 : Int32) * (43200 : Int32)) = 0) (oIs M t0 1 (P_X2_refill G t0 M (fun M2 => B_X2_happen_14 G Q t0 M2))) (B_X2_happen_14 G Q t0 M))
set_option maxHeartbeats 4000000 in
set_option maxRecDepth 100000 in
theorem P_X2_happen_ok {l : Launch} (hl0 : l.stackTraces = false) {G : wG} {t0 : Nat} {M : wM} {Q : wM → Prop} (hp : P_X2_happen G t0 M Q) : wMet l yX2_happen (ws_ yX2_happen cX2_happen 2 (none)) 19 556 G [.ref t0] M 0 (wqV Q) wX0 := by
  refine vx_ofW (cc := cX2_happen) (maxL := 2) (ret := none) (by decide) rfl ?_
  intro p e s m args below meth c s₁ B hml hnt hv
  obtain ⟨rfl, hM, hK, hZ, hz⟩ := hv
  have hC : wC G s := ⟨hK, hZ, hz⟩
  have hx := B.exec
  have hb := B.bytes
  have hr := B.returns
  have hts := atoms_spec (ws := (ws_ yX2_happen cX2_happen 2 (none))) B.pre
  have hts : ∀ w ∈ lw_all, w.before _ s = true := fun w h => hts w (List.mem_cons_of_mem _ h)
  have hown : s.vm.findClass RX2 = some m.cls := findClass_of_methodNamed B.named
  have hlk := B.notSynchronized
  have X : CallFix p m c cX2_happen 2 s ([.ref t0] : List Value).toArray lw_all RX2 := ⟨hx, hb, hml, hown, hts⟩
  have hS : va_S (wA G) s.heap s.heap [] := va_S.rf
  have hl := lv_entry ([.ref t0]) (n := 2) (Nat.le_of_ble_eq_true rfl)
  rw [lg_entry_eq]
  generalize (lg_sl ([.ref t0]) ++ List.replicate (2 - (lg_sl ([.ref t0])).length) Slot.unset).toArray = ls at hl ⊢
  have hl : lv_has ls 2 [(0, .ref t0)] := hl
  have hB170 : ∀ (rec97 : Nat → Int32 → wM → Prop) (hrec97 : ∀ (x0 : Nat) (x1 : Int32) (M : wM) (H : Heap) (locs : List Loc) (ls : Array Slot), rec97 x0 x1 M → wR G M H → va_S (wA G) s.heap H locs → lv_has ls 2 [(0, .ref x0), (1, .int x1)] → W p l e (headSpec (ws_ yX2_happen cX2_happen 2 (none)) ({ frames := 19, cells := 0, slots := 0, locals := 556 })).room s m ([.ref t0] : List Value).toArray below meth c H locs 0 0 (vx_MQ below (wQ G (wqV Q)) (wXC G wX0) ([.ref t0] : List Value).toArray s 0 0 (wA G)) (F0 m 97 ls [])), ∀ (x0 : Nat) (x1 : Int32) (M : wM) (H : Heap) (locs : List Loc) (ls : Array Slot), B_X2_happen_170 G rec97 Q x0 x1 M → wR G M H → va_S (wA G) s.heap H locs → lv_has ls 2 [(0, .ref x0), (1, .int x1)] → W p l e (headSpec (ws_ yX2_happen cX2_happen 2 (none)) ({ frames := 19, cells := 0, slots := 0, locals := 556 })).room s m ([.ref t0] : List Value).toArray below meth c H locs 0 0 (vx_MQ below (wQ G (wqV Q)) (wXC G wX0) ([.ref t0] : List Value).toArray s 0 0 (wA G)) (F0 m 170 ls []) := by
    intro rec97 hrec97 x0 x1 M H locs ls hp hM hS hl
    refine lv_iinc (v := (x1 + 1)) (lv' := [(1, .int (x1 + 1)), (0, .ref x0)]) hx hb dX2_happen_170 hl (k := 1) rfl rfl (by decide) rfl (fun ls hl => ?_)
    refine lv_goto (tgt := 97) hx hb dX2_happen_173 (by decide) ?_
    exact hrec97 _ _ _ _ _ _ hp hM hS (lv_sub hl [1, 0] rfl)
  have hB97 : ∀ (rec97 : Nat → Int32 → wM → Prop) (hrec97 : ∀ (x0 : Nat) (x1 : Int32) (M : wM) (H : Heap) (locs : List Loc) (ls : Array Slot), rec97 x0 x1 M → wR G M H → va_S (wA G) s.heap H locs → lv_has ls 2 [(0, .ref x0), (1, .int x1)] → W p l e (headSpec (ws_ yX2_happen cX2_happen 2 (none)) ({ frames := 19, cells := 0, slots := 0, locals := 556 })).room s m ([.ref t0] : List Value).toArray below meth c H locs 0 0 (vx_MQ below (wQ G (wqV Q)) (wXC G wX0) ([.ref t0] : List Value).toArray s 0 0 (wA G)) (F0 m 97 ls [])), ∀ (x0 : Nat) (x1 : Int32) (M : wM) (H : Heap) (locs : List Loc) (ls : Array Slot), B_X2_happen_97 G rec97 Q x0 x1 M → wR G M H → va_S (wA G) s.heap H locs → lv_has ls 2 [(0, .ref x0), (1, .int x1)] → W p l e (headSpec (ws_ yX2_happen cX2_happen 2 (none)) ({ frames := 19, cells := 0, slots := 0, locals := 556 })).room s m ([.ref t0] : List Value).toArray below meth c H locs 0 0 (vx_MQ below (wQ G (wqV Q)) (wXC G wX0) ([.ref t0] : List Value).toArray s 0 0 (wA G)) (F0 m 97 ls []) := by
    intro rec97 hrec97 x0 x1 M H locs ls hp hM hS hl
    refine lv_iload_n hx hb dX2_happen_97 rfl (lv_at hl 1 rfl) ?_
    refine lv_aload_n hx hb dX2_happen_98 rfl (lv_at hl 0 rfl) ?_
    refine x_getA X hC.1 hM (ci := 1) (C := RX2) (T := TX2) (N := 9) rfl in_X2 1 (by decide) q919 (fun _ h9 => h9) dX2_happen_99 hp (fun a1 hp => ?_)
    obtain ⟨hrec, hp⟩ := hp
    refine x_call0I5 (vx_runF (hC.1.1.1 16 (RJ2, TJ2, 3) rfl).2 (C := "java/util/ArrayList") (As := []) (rest := [.int x1]) X (P_J2_size_ok (l := l) hl0 hp) (va_cwF 0 hts (lw_app (w_mem4 q493 q496 q498 q153) (lw_meth q500)) rfl rfl rfl (wfw_13 hC.1) (by decide +kernel) ⟨Nat.le_of_ble_eq_true rfl, Nat.le_of_ble_eq_true rfl⟩) ⟨wPc.blind, w_recv hC.1 hM (ci := 16) (q := (RJ2, TJ2, 3)) rfl hrec, w_pre hC hM hS _⟩ rfl rfl hl.1 rfl (lv_room (Nat.le_of_ble_eq_true rfl)) dX2_happen_102 ⟨Nat.le_refl _, Nat.le_refl _⟩) hS ⟨Nat.le_refl _, Nat.le_refl _⟩ (fun _ _ _ _ _ _ h => False.elim h) (fun v4 M2 H locs hp hM hS => ?_)
    refine lv_icmp_ge (tgt := 176) hx hb dX2_happen_107 (by decide) (fun hc => ?_) (fun hc => ?_)
    · have hp := oIf.t hp hc
      refine lv_aload_n hx hb dX2_happen_176 rfl (lv_at hl 0 rfl) ?_
      obtain ⟨hrec, hp⟩ := hp
      refine x_call0V (vx_runV (As := []) (rest := []) X (P_X2_offer_ok (l := l) hl0 hp) (cwV 0 hts (lw_V q2608 q2609 q2610 q149 q2611) rfl rfl rfl (by decide +kernel) ⟨Nat.le_of_ble_eq_true rfl, Nat.le_of_ble_eq_true rfl⟩) ⟨wPc.blind, w_recv hC.1 hM (ci := 1) (q := (RX2, TX2, 9)) rfl hrec, w_pre hC hM hS _⟩ rfl rfl hl.1 rfl (lv_room (Nat.le_of_ble_eq_true rfl)) dX2_happen_177 ⟨Nat.le_refl _, Nat.le_refl _⟩) hS ⟨Nat.le_refl _, Nat.le_refl _⟩ (fun _ _ _ _ _ _ h => False.elim h) (fun M5 H locs hp hM hS => ?_)
      exact x_vret X hr hlk hM hS ⟨Nat.le_refl _, Nat.le_refl _⟩ dX2_happen_180 ⟨rfl, hp⟩
    · have hp := oIf.f hp hc
      refine lv_aload_n hx hb dX2_happen_110 rfl (lv_at hl 0 rfl) ?_
      refine x_getA X hC.1 hM (ci := 1) (C := RX2) (T := TX2) (N := 9) rfl in_X2 1 (by decide) q919 (fun _ h9 => h9) dX2_happen_111 hp (fun a7 hp => ?_)
      refine lv_iload_n hx hb dX2_happen_114 rfl (lv_at hl 1 rfl) ?_
      obtain ⟨hrec, hp⟩ := hp
      refine x_call0R5 (vx_runF (hC.1.1.1 16 (RJ2, TJ2, 3) rfl).2 (C := "java/util/ArrayList") (As := [.int x1]) (rest := []) X (P_J2_get_ok (l := l) hl0 hp) (va_cwF 1 hts (lw_app (w_mem4 q519 q522 q524 q153) (lw_meth q526)) rfl rfl rfl (wfw_8 hC.1) (by decide +kernel) ⟨Nat.le_of_ble_eq_true rfl, Nat.le_of_ble_eq_true rfl⟩) ⟨wPc.blind, w_recv hC.1 hM (ci := 16) (q := (RJ2, TJ2, 3)) rfl hrec, w_pre hC hM hS _⟩ rfl rfl hl.1 rfl (lv_room (Nat.le_of_ble_eq_true rfl)) dX2_happen_115 ⟨Nat.le_refl _, Nat.le_refl _⟩) hS ⟨Nat.le_refl _, Nat.le_refl _⟩ (fun _ _ _ _ _ _ h => False.elim h) (fun r10 M8 H locs hp hM hS => ?_)
      refine x_cast (r := r10) X hC.1 hM q2070 (ci := 9) rfl (Or.inl rfl) dX2_happen_120 hp (fun hp => ?_)
      obtain ⟨a11, ea, hqa11⟩ := hp
      subst ea
      have hp := hqa11
      refine x_getIN X hC.1 hM (ci := 9) (C := RX12) (T := TX12) (N := 8) rfl in_X12 4 (by decide) q2090 (fun _ h9 => h9) dX2_happen_123 hp (fun v12 hp => ?_)
      refine lv_iconst (v := 1) hx hb dX2_happen_126 (by decide) ?_
      refine lv_icmp_ne (tgt := 170) hx hb dX2_happen_127 (by decide) (fun hc => ?_) (fun hc => ?_)
      · have hp := oIf.f hp hc
        exact hB170 rec97 hrec97 _ _ _ _ _ _ hp hM hS (lv_sub hl [0, 1] rfl)
      · have hp := oIf.t hp hc
        refine lv_aload_n hx hb dX2_happen_130 rfl (lv_at hl 0 rfl) ?_
        refine x_getA X hC.1 hM (ci := 1) (C := RX2) (T := TX2) (N := 9) rfl in_X2 1 (by decide) q919 (fun _ h9 => h9) dX2_happen_131 hp (fun a13 hp => ?_)
        refine lv_iload_n hx hb dX2_happen_134 rfl (lv_at hl 1 rfl) ?_
        obtain ⟨hrec, hp⟩ := hp
        refine x_call0R5 (vx_runF (hC.1.1.1 16 (RJ2, TJ2, 3) rfl).2 (C := "java/util/ArrayList") (As := [.int x1]) (rest := []) X (P_J2_get_ok (l := l) hl0 hp) (va_cwF 1 hts (lw_app (w_mem4 q519 q522 q524 q153) (lw_meth q526)) rfl rfl rfl (wfw_8 hC.1) (by decide +kernel) ⟨Nat.le_of_ble_eq_true rfl, Nat.le_of_ble_eq_true rfl⟩) ⟨wPc.blind, w_recv hC.1 hM (ci := 16) (q := (RJ2, TJ2, 3)) rfl hrec, w_pre hC hM hS _⟩ rfl rfl hl.1 rfl (lv_room (Nat.le_of_ble_eq_true rfl)) dX2_happen_135 ⟨Nat.le_refl _, Nat.le_refl _⟩) hS ⟨Nat.le_refl _, Nat.le_refl _⟩ (fun _ _ _ _ _ _ h => False.elim h) (fun r16 M14 H locs hp hM hS => ?_)
        refine x_cast (r := r16) X hC.1 hM q2070 (ci := 9) rfl (Or.inl rfl) dX2_happen_140 hp (fun hp => ?_)
        obtain ⟨a17, ea, hqa17⟩ := hp
        subst ea
        have hp := hqa17
        refine x_getIN X hC.1 hM (ci := 9) (C := RX12) (T := TX12) (N := 8) rfl in_X12 6 (by decide) q2096 (fun _ h9 => h9) dX2_happen_143 hp (fun v18 hp => ?_)
        refine lv_aload_n hx hb dX2_happen_146 rfl (lv_at hl 0 rfl) ?_
        refine x_getI X hC.1 hM (ci := 1) (C := RX2) (T := TX2) (N := 9) rfl in_X2 8 (by decide) q933 (fun _ h9 => h9) dX2_happen_147 hp (fun v19 hp => ?_)
        refine lv_icmp_ne (tgt := 170) hx hb dX2_happen_150 (by decide) (fun hc => ?_) (fun hc => ?_)
        · have hp := oIf.f hp hc
          exact hB170 rec97 hrec97 _ _ _ _ _ _ hp hM hS (lv_sub hl [0, 1] rfl)
        · have hp := oIf.t hp hc
          refine lv_aload_n hx hb dX2_happen_153 rfl (lv_at hl 0 rfl) ?_
          refine x_getA X hC.1 hM (ci := 1) (C := RX2) (T := TX2) (N := 9) rfl in_X2 1 (by decide) q919 (fun _ h9 => h9) dX2_happen_154 hp (fun a20 hp => ?_)
          refine lv_iload_n hx hb dX2_happen_157 rfl (lv_at hl 1 rfl) ?_
          obtain ⟨hrec, hp⟩ := hp
          refine x_call0R5 (vx_runF (hC.1.1.1 16 (RJ2, TJ2, 3) rfl).2 (C := "java/util/ArrayList") (As := [.int x1]) (rest := []) X (P_J2_get_ok (l := l) hl0 hp) (va_cwF 1 hts (lw_app (w_mem4 q519 q522 q524 q153) (lw_meth q526)) rfl rfl rfl (wfw_8 hC.1) (by decide +kernel) ⟨Nat.le_of_ble_eq_true rfl, Nat.le_of_ble_eq_true rfl⟩) ⟨wPc.blind, w_recv hC.1 hM (ci := 16) (q := (RJ2, TJ2, 3)) rfl hrec, w_pre hC hM hS _⟩ rfl rfl hl.1 rfl (lv_room (Nat.le_of_ble_eq_true rfl)) dX2_happen_158 ⟨Nat.le_refl _, Nat.le_refl _⟩) hS ⟨Nat.le_refl _, Nat.le_refl _⟩ (fun _ _ _ _ _ _ h => False.elim h) (fun r23 M21 H locs hp hM hS => ?_)
          refine x_cast (r := r23) X hC.1 hM q2070 (ci := 9) rfl (Or.inl rfl) dX2_happen_163 hp (fun hp => ?_)
          refine lv_iconst (v := 5) hx hb dX2_happen_166 (by decide) ?_
          obtain ⟨a24, ea, hqa24⟩ := hp
          subst ea
          have hp := hqa24
          refine x_putN X hC.1 hM hS (ci := 9) (C := RX12) (T := TX12) (N := 8) rfl in_X12 tyX12 tyX12_ok nmX12 4 (by decide) q2090 (fun _ h9 => h9) rfl rfl rfl dX2_happen_167 hp (fun M25 H locs hM hS hp => ?_)
          exact hB170 rec97 hrec97 _ _ _ _ _ _ hp hM hS (lv_sub hl [0, 1] rfl)
  have hL97 : ∀ (n : Nat), ∀ (x0 : Nat) (x1 : Int32) (M : wM) (H : Heap) (locs : List Loc) (ls : Array Slot), L_X2_happen_97 G Q n x0 x1 M → wR G M H → va_S (wA G) s.heap H locs → lv_has ls 2 [(0, .ref x0), (1, .int x1)] → W p l e (headSpec (ws_ yX2_happen cX2_happen 2 (none)) ({ frames := 19, cells := 0, slots := 0, locals := 556 })).room s m ([.ref t0] : List Value).toArray below meth c H locs 0 0 (vx_MQ below (wQ G (wqV Q)) (wXC G wX0) ([.ref t0] : List Value).toArray s 0 0 (wA G)) (F0 m 97 ls []) := by
    intro n
    induction n with
    | zero => intro _ _ _ _ _ _ hp; exact False.elim hp
    | succ n ih => intro x0 x1 M H locs ls hp hM hS hl; exact hB97 (L_X2_happen_97 G Q n) ih _ _ _ _ _ _ hp hM hS hl
  have hB89 : ∀ (rec16 : Nat → Int32 → wM → Prop) (hrec16 : ∀ (x0 : Nat) (x1 : Int32) (M : wM) (H : Heap) (locs : List Loc) (ls : Array Slot), rec16 x0 x1 M → wR G M H → va_S (wA G) s.heap H locs → lv_has ls 2 [(0, .ref x0), (1, .int x1)] → W p l e (headSpec (ws_ yX2_happen cX2_happen 2 (none)) ({ frames := 19, cells := 0, slots := 0, locals := 556 })).room s m ([.ref t0] : List Value).toArray below meth c H locs 0 0 (vx_MQ below (wQ G (wqV Q)) (wXC G wX0) ([.ref t0] : List Value).toArray s 0 0 (wA G)) (F0 m 16 ls [])), ∀ (x0 : Nat) (x1 : Int32) (M : wM) (H : Heap) (locs : List Loc) (ls : Array Slot), B_X2_happen_89 G rec16 Q x0 x1 M → wR G M H → va_S (wA G) s.heap H locs → lv_has ls 2 [(0, .ref x0), (1, .int x1)] → W p l e (headSpec (ws_ yX2_happen cX2_happen 2 (none)) ({ frames := 19, cells := 0, slots := 0, locals := 556 })).room s m ([.ref t0] : List Value).toArray below meth c H locs 0 0 (vx_MQ below (wQ G (wqV Q)) (wXC G wX0) ([.ref t0] : List Value).toArray s 0 0 (wA G)) (F0 m 89 ls []) := by
    intro rec16 hrec16 x0 x1 M H locs ls hp hM hS hl
    refine lv_iinc (v := (x1 + 1)) (lv' := [(1, .int (x1 + 1)), (0, .ref x0)]) hx hb dX2_happen_89 hl (k := 1) rfl rfl (by decide) rfl (fun ls hl => ?_)
    refine lv_goto (tgt := 16) hx hb dX2_happen_92 (by decide) ?_
    exact hrec16 _ _ _ _ _ _ hp hM hS (lv_sub hl [1, 0] rfl)
  have hB16 : ∀ (rec16 : Nat → Int32 → wM → Prop) (hrec16 : ∀ (x0 : Nat) (x1 : Int32) (M : wM) (H : Heap) (locs : List Loc) (ls : Array Slot), rec16 x0 x1 M → wR G M H → va_S (wA G) s.heap H locs → lv_has ls 2 [(0, .ref x0), (1, .int x1)] → W p l e (headSpec (ws_ yX2_happen cX2_happen 2 (none)) ({ frames := 19, cells := 0, slots := 0, locals := 556 })).room s m ([.ref t0] : List Value).toArray below meth c H locs 0 0 (vx_MQ below (wQ G (wqV Q)) (wXC G wX0) ([.ref t0] : List Value).toArray s 0 0 (wA G)) (F0 m 16 ls [])), ∀ (x0 : Nat) (x1 : Int32) (M : wM) (H : Heap) (locs : List Loc) (ls : Array Slot), B_X2_happen_16 G rec16 Q x0 x1 M → wR G M H → va_S (wA G) s.heap H locs → lv_has ls 2 [(0, .ref x0), (1, .int x1)] → W p l e (headSpec (ws_ yX2_happen cX2_happen 2 (none)) ({ frames := 19, cells := 0, slots := 0, locals := 556 })).room s m ([.ref t0] : List Value).toArray below meth c H locs 0 0 (vx_MQ below (wQ G (wqV Q)) (wXC G wX0) ([.ref t0] : List Value).toArray s 0 0 (wA G)) (F0 m 16 ls []) := by
    intro rec16 hrec16 x0 x1 M H locs ls hp hM hS hl
    refine lv_iload_n hx hb dX2_happen_16 rfl (lv_at hl 1 rfl) ?_
    refine lv_aload_n hx hb dX2_happen_17 rfl (lv_at hl 0 rfl) ?_
    refine x_getA X hC.1 hM (ci := 1) (C := RX2) (T := TX2) (N := 9) rfl in_X2 1 (by decide) q919 (fun _ h9 => h9) dX2_happen_18 hp (fun a1 hp => ?_)
    obtain ⟨hrec, hp⟩ := hp
    refine x_call0I5 (vx_runF (hC.1.1.1 16 (RJ2, TJ2, 3) rfl).2 (C := "java/util/ArrayList") (As := []) (rest := [.int x1]) X (P_J2_size_ok (l := l) hl0 hp) (va_cwF 0 hts (lw_app (w_mem4 q493 q496 q498 q153) (lw_meth q500)) rfl rfl rfl (wfw_13 hC.1) (by decide +kernel) ⟨Nat.le_of_ble_eq_true rfl, Nat.le_of_ble_eq_true rfl⟩) ⟨wPc.blind, w_recv hC.1 hM (ci := 16) (q := (RJ2, TJ2, 3)) rfl hrec, w_pre hC hM hS _⟩ rfl rfl hl.1 rfl (lv_room (Nat.le_of_ble_eq_true rfl)) dX2_happen_21 ⟨Nat.le_refl _, Nat.le_refl _⟩) hS ⟨Nat.le_refl _, Nat.le_refl _⟩ (fun _ _ _ _ _ _ h => False.elim h) (fun v4 M2 H locs hp hM hS => ?_)
    refine lv_icmp_ge (tgt := 95) hx hb dX2_happen_26 (by decide) (fun hc => ?_) (fun hc => ?_)
    · have hp := oIf.t hp hc
      refine lv_iconst (v := 0) hx hb dX2_happen_95 (by decide) ?_
      refine lv_istore_n (lv' := [(1, .int (0 : Int32)), (0, .ref x0)]) hx hb dX2_happen_96 rfl hl (by decide) rfl (fun ls hl => ?_)
      obtain ⟨n, hp⟩ := hp
      exact hL97 n _ _ _ _ _ _ hp hM hS (lv_sub hl [1, 0] rfl)
    · have hp := oIf.f hp hc
      refine lv_aload_n hx hb dX2_happen_29 rfl (lv_at hl 0 rfl) ?_
      refine x_getA X hC.1 hM (ci := 1) (C := RX2) (T := TX2) (N := 9) rfl in_X2 1 (by decide) q919 (fun _ h9 => h9) dX2_happen_30 hp (fun a5 hp => ?_)
      refine lv_iload_n hx hb dX2_happen_33 rfl (lv_at hl 1 rfl) ?_
      obtain ⟨hrec, hp⟩ := hp
      refine x_call0R5 (vx_runF (hC.1.1.1 16 (RJ2, TJ2, 3) rfl).2 (C := "java/util/ArrayList") (As := [.int x1]) (rest := []) X (P_J2_get_ok (l := l) hl0 hp) (va_cwF 1 hts (lw_app (w_mem4 q519 q522 q524 q153) (lw_meth q526)) rfl rfl rfl (wfw_8 hC.1) (by decide +kernel) ⟨Nat.le_of_ble_eq_true rfl, Nat.le_of_ble_eq_true rfl⟩) ⟨wPc.blind, w_recv hC.1 hM (ci := 16) (q := (RJ2, TJ2, 3)) rfl hrec, w_pre hC hM hS _⟩ rfl rfl hl.1 rfl (lv_room (Nat.le_of_ble_eq_true rfl)) dX2_happen_34 ⟨Nat.le_refl _, Nat.le_refl _⟩) hS ⟨Nat.le_refl _, Nat.le_refl _⟩ (fun _ _ _ _ _ _ h => False.elim h) (fun r8 M6 H locs hp hM hS => ?_)
      refine x_cast (r := r8) X hC.1 hM q2070 (ci := 9) rfl (Or.inl rfl) dX2_happen_39 hp (fun hp => ?_)
      obtain ⟨a9, ea, hqa9⟩ := hp
      subst ea
      have hp := hqa9
      refine x_getIN X hC.1 hM (ci := 9) (C := RX12) (T := TX12) (N := 8) rfl in_X12 4 (by decide) q2090 (fun _ h9 => h9) dX2_happen_42 hp (fun v10 hp => ?_)
      refine lv_iconst (v := 2) hx hb dX2_happen_45 (by decide) ?_
      refine lv_icmp_ne (tgt := 89) hx hb dX2_happen_46 (by decide) (fun hc => ?_) (fun hc => ?_)
      · have hp := oIf.f hp hc
        exact hB89 rec16 hrec16 _ _ _ _ _ _ hp hM hS (lv_sub hl [0, 1] rfl)
      · have hp := oIf.t hp hc
        refine lv_aload_n hx hb dX2_happen_49 rfl (lv_at hl 0 rfl) ?_
        refine x_getA X hC.1 hM (ci := 1) (C := RX2) (T := TX2) (N := 9) rfl in_X2 1 (by decide) q919 (fun _ h9 => h9) dX2_happen_50 hp (fun a11 hp => ?_)
        refine lv_iload_n hx hb dX2_happen_53 rfl (lv_at hl 1 rfl) ?_
        obtain ⟨hrec, hp⟩ := hp
        refine x_call0R5 (vx_runF (hC.1.1.1 16 (RJ2, TJ2, 3) rfl).2 (C := "java/util/ArrayList") (As := [.int x1]) (rest := []) X (P_J2_get_ok (l := l) hl0 hp) (va_cwF 1 hts (lw_app (w_mem4 q519 q522 q524 q153) (lw_meth q526)) rfl rfl rfl (wfw_8 hC.1) (by decide +kernel) ⟨Nat.le_of_ble_eq_true rfl, Nat.le_of_ble_eq_true rfl⟩) ⟨wPc.blind, w_recv hC.1 hM (ci := 16) (q := (RJ2, TJ2, 3)) rfl hrec, w_pre hC hM hS _⟩ rfl rfl hl.1 rfl (lv_room (Nat.le_of_ble_eq_true rfl)) dX2_happen_54 ⟨Nat.le_refl _, Nat.le_refl _⟩) hS ⟨Nat.le_refl _, Nat.le_refl _⟩ (fun _ _ _ _ _ _ h => False.elim h) (fun r14 M12 H locs hp hM hS => ?_)
        refine x_cast (r := r14) X hC.1 hM q2070 (ci := 9) rfl (Or.inl rfl) dX2_happen_59 hp (fun hp => ?_)
        obtain ⟨a15, ea, hqa15⟩ := hp
        subst ea
        have hp := hqa15
        refine x_getIN X hC.1 hM (ci := 9) (C := RX12) (T := TX12) (N := 8) rfl in_X12 5 (by decide) q2093 (fun _ h9 => h9) dX2_happen_62 hp (fun v16 hp => ?_)
        refine lv_aload_n hx hb dX2_happen_65 rfl (lv_at hl 0 rfl) ?_
        refine x_getI X hC.1 hM (ci := 1) (C := RX2) (T := TX2) (N := 9) rfl in_X2 8 (by decide) q933 (fun _ h9 => h9) dX2_happen_66 hp (fun v17 hp => ?_)
        refine lv_icmp_ne (tgt := 89) hx hb dX2_happen_69 (by decide) (fun hc => ?_) (fun hc => ?_)
        · have hp := oIf.f hp hc
          exact hB89 rec16 hrec16 _ _ _ _ _ _ hp hM hS (lv_sub hl [0, 1] rfl)
        · have hp := oIf.t hp hc
          refine lv_aload_n hx hb dX2_happen_72 rfl (lv_at hl 0 rfl) ?_
          refine x_getA X hC.1 hM (ci := 1) (C := RX2) (T := TX2) (N := 9) rfl in_X2 1 (by decide) q919 (fun _ h9 => h9) dX2_happen_73 hp (fun a18 hp => ?_)
          refine lv_iload_n hx hb dX2_happen_76 rfl (lv_at hl 1 rfl) ?_
          obtain ⟨hrec, hp⟩ := hp
          refine x_call0R5 (vx_runF (hC.1.1.1 16 (RJ2, TJ2, 3) rfl).2 (C := "java/util/ArrayList") (As := [.int x1]) (rest := []) X (P_J2_get_ok (l := l) hl0 hp) (va_cwF 1 hts (lw_app (w_mem4 q519 q522 q524 q153) (lw_meth q526)) rfl rfl rfl (wfw_8 hC.1) (by decide +kernel) ⟨Nat.le_of_ble_eq_true rfl, Nat.le_of_ble_eq_true rfl⟩) ⟨wPc.blind, w_recv hC.1 hM (ci := 16) (q := (RJ2, TJ2, 3)) rfl hrec, w_pre hC hM hS _⟩ rfl rfl hl.1 rfl (lv_room (Nat.le_of_ble_eq_true rfl)) dX2_happen_77 ⟨Nat.le_refl _, Nat.le_refl _⟩) hS ⟨Nat.le_refl _, Nat.le_refl _⟩ (fun _ _ _ _ _ _ h => False.elim h) (fun r21 M19 H locs hp hM hS => ?_)
          refine x_cast (r := r21) X hC.1 hM q2070 (ci := 9) rfl (Or.inl rfl) dX2_happen_82 hp (fun hp => ?_)
          refine lv_iconst (v := 3) hx hb dX2_happen_85 (by decide) ?_
          obtain ⟨a22, ea, hqa22⟩ := hp
          subst ea
          have hp := hqa22
          refine x_putN X hC.1 hM hS (ci := 9) (C := RX12) (T := TX12) (N := 8) rfl in_X12 tyX12 tyX12_ok nmX12 4 (by decide) q2090 (fun _ h9 => h9) rfl rfl rfl dX2_happen_86 hp (fun M23 H locs hM hS hp => ?_)
          exact hB89 rec16 hrec16 _ _ _ _ _ _ hp hM hS (lv_sub hl [0, 1] rfl)
  have hL16 : ∀ (n : Nat), ∀ (x0 : Nat) (x1 : Int32) (M : wM) (H : Heap) (locs : List Loc) (ls : Array Slot), L_X2_happen_16 G Q n x0 x1 M → wR G M H → va_S (wA G) s.heap H locs → lv_has ls 2 [(0, .ref x0), (1, .int x1)] → W p l e (headSpec (ws_ yX2_happen cX2_happen 2 (none)) ({ frames := 19, cells := 0, slots := 0, locals := 556 })).room s m ([.ref t0] : List Value).toArray below meth c H locs 0 0 (vx_MQ below (wQ G (wqV Q)) (wXC G wX0) ([.ref t0] : List Value).toArray s 0 0 (wA G)) (F0 m 16 ls []) := by
    intro n
    induction n with
    | zero => intro _ _ _ _ _ _ hp; exact False.elim hp
    | succ n ih => intro x0 x1 M H locs ls hp hM hS hl; exact hB16 (L_X2_happen_16 G Q n) ih _ _ _ _ _ _ hp hM hS hl
  have hB14 : ∀ (x0 : Nat) (M : wM) (H : Heap) (locs : List Loc) (ls : Array Slot), B_X2_happen_14 G Q x0 M → wR G M H → va_S (wA G) s.heap H locs → lv_has ls 2 [(0, .ref x0)] → W p l e (headSpec (ws_ yX2_happen cX2_happen 2 (none)) ({ frames := 19, cells := 0, slots := 0, locals := 556 })).room s m ([.ref t0] : List Value).toArray below meth c H locs 0 0 (vx_MQ below (wQ G (wqV Q)) (wXC G wX0) ([.ref t0] : List Value).toArray s 0 0 (wA G)) (F0 m 14 ls []) := by
    intro x0 M H locs ls hp hM hS hl
    refine lv_iconst (v := 0) hx hb dX2_happen_14 (by decide) ?_
    refine lv_istore_n (lv' := [(1, .int (0 : Int32)), (0, .ref x0)]) hx hb dX2_happen_15 rfl hl (by decide) rfl (fun ls hl => ?_)
    obtain ⟨n, hp⟩ := hp
    exact hL16 n _ _ _ _ _ _ hp hM hS (lv_sub hl [1, 0] rfl)
  refine lv_aload_n hx hb dX2_happen_0 rfl (lv_at hl 0 rfl) ?_
  refine x_getI X hC.1 hM (ci := 1) (C := RX2) (T := TX2) (N := 9) rfl in_X2 8 (by decide) q933 (fun _ h9 => h9) dX2_happen_1 hp (fun v1 hp => ?_)
  refine lv_ldc (v := 43200) hx hb hown (hts _ q2602) dX2_happen_4 ?_
  refine lv_irem hx hb dX2_happen_6 (by decide) ?_
  refine lv_if_ne (tgt := 14) hx hb dX2_happen_7 (by decide) (fun hc => ?_) (fun hc => ?_)
  · have hp := oIf.f hp hc
    exact hB14 _ _ _ _ _ hp hM hS (lv_sub hl [0] rfl)
  · have hp := oIf.t hp hc
    refine lv_aload_n hx hb dX2_happen_10 rfl (lv_at hl 0 rfl) ?_
    obtain ⟨hrec, hp⟩ := hp
    refine x_call0V (vx_runV (As := []) (rest := []) X (P_X2_refill_ok (l := l) hl0 hp) (cwV 0 hts (lw_V q912 q914 qs8 q149 q915) rfl rfl rfl (by decide +kernel) ⟨Nat.le_of_ble_eq_true rfl, Nat.le_of_ble_eq_true rfl⟩) ⟨wPc.blind, w_recv hC.1 hM (ci := 1) (q := (RX2, TX2, 9)) rfl hrec, w_pre hC hM hS _⟩ rfl rfl hl.1 rfl (lv_room (Nat.le_of_ble_eq_true rfl)) dX2_happen_11 ⟨Nat.le_refl _, Nat.le_refl _⟩) hS ⟨Nat.le_refl _, Nat.le_refl _⟩ (fun _ _ _ _ _ _ h => False.elim h) (fun M2 H locs hp hM hS => ?_)
    exact hB14 _ _ _ _ _ hp hM hS (lv_sub hl [0] rfl)
def B_X2_nextEvent_76 (G : wG) (rec15 : Nat → Int32 → Int32 → wM → Prop) (Q : Int32 → wM → Prop) (x0 : Nat) (x1 : Int32) (x2 : Int32) (M : wM) : Prop :=
  rec15 x0 x1 (x2 + 1) M
def B_X2_nextEvent_59 (G : wG) (rec15 : Nat → Int32 → Int32 → wM → Prop) (Q : Int32 → wM → Prop) (x0 : Nat) (x1 : Int32) (x2 : Int32) (x3 : Nat) (M : wM) : Prop :=
  oGetI M x3 9 4 (fun v1 => oIf (v1 = (1 : Int32)) (oGetI M x3 9 6 (fun v2 => B_X2_nextEvent_76 G rec15 Q x0 (if v2 < x1 then v2 else x1) x2 M)) (B_X2_nextEvent_76 G rec15 Q x0 x1 x2 M))
def B_X2_nextEvent_15 (G : wG) (rec15 : Nat → Int32 → Int32 → wM → Prop) (Q : Int32 → wM → Prop) (x0 : Nat) (x1 : Int32) (x2 : Int32) (M : wM) : Prop :=
  oGetA M x0 1 1 (fun a1 => oIs M a1 16 (P_J2_size G a1 M (fun v4 M2 => oIf (v4 ≤ x2) (Q x1 M2) (oGetA M2 x0 1 1 (fun a5 => oIs M2 a5 16 (P_J2_get G a5 x2 M2 (fun r8 M6 => oCast M6 r8 9 (oRef r8 (fun a9 => oGetI M6 a9 9 4 (fun v10 => oIf (v10 = (2 : Int32)) (oGetI M6 a9 9 5 (fun v11 => B_X2_nextEvent_59 G rec15 Q x0 (if v11 < x1 then v11 else x1) x2 a9 M6)) (B_X2_nextEvent_59 G rec15 Q x0 x1 x2 a9 M6)))))))))))
def L_X2_nextEvent_15 (G : wG) (Q : Int32 → wM → Prop) : Nat → Nat → Int32 → Int32 → wM → Prop
  | 0 => fun _ _ _ _ => False
  | n + 1 => B_X2_nextEvent_15 G (L_X2_nextEvent_15 G Q n) Q
def P_X2_nextEvent (G : wG) (t0 : Nat) (M : wM) (Q : Int32 → wM → Prop) : Prop :=
  oGetI M t0 1 8 (fun v1 => ∃ n, L_X2_nextEvent_15 G Q n t0 (((v1 / (43200 : Int32)) + (1 : Int32)) * (43200 : Int32)) (0 : Int32) M)
set_option maxHeartbeats 4000000 in
set_option maxRecDepth 100000 in
theorem P_X2_nextEvent_ok {l : Launch} (hl0 : l.stackTraces = false) {G : wG} {t0 : Nat} {M : wM} {Q : Int32 → wM → Prop} (hp : P_X2_nextEvent G t0 M Q) : wMet l yX2_nextEvent (ws_ yX2_nextEvent cX2_nextEvent 4 (Option.some Jvm.ClassFile.FieldType.int)) 15 464 G [.ref t0] M 0 (wqI Q) wX0 := by
  refine vx_ofW (cc := cX2_nextEvent) (maxL := 4) (ret := Option.some Jvm.ClassFile.FieldType.int) (by decide) rfl ?_
  intro p e s m args below meth c s₁ B hml hnt hv
  obtain ⟨rfl, hM, hK, hZ, hz⟩ := hv
  have hC : wC G s := ⟨hK, hZ, hz⟩
  have hx := B.exec
  have hb := B.bytes
  have hr := B.returns
  have hts := atoms_spec (ws := (ws_ yX2_nextEvent cX2_nextEvent 4 (Option.some Jvm.ClassFile.FieldType.int))) B.pre
  have hts : ∀ w ∈ lw_all, w.before _ s = true := fun w h => hts w (List.mem_cons_of_mem _ h)
  have hown : s.vm.findClass RX2 = some m.cls := findClass_of_methodNamed B.named
  have hlk := B.notSynchronized
  have X : CallFix p m c cX2_nextEvent 4 s ([.ref t0] : List Value).toArray lw_all RX2 := ⟨hx, hb, hml, hown, hts⟩
  have hS : va_S (wA G) s.heap s.heap [] := va_S.rf
  have hl := lv_entry ([.ref t0]) (n := 4) (Nat.le_of_ble_eq_true rfl)
  rw [lg_entry_eq]
  generalize (lg_sl ([.ref t0]) ++ List.replicate (4 - (lg_sl ([.ref t0])).length) Slot.unset).toArray = ls at hl ⊢
  have hl : lv_has ls 4 [(0, .ref t0)] := hl
  have hB76 : ∀ (rec15 : Nat → Int32 → Int32 → wM → Prop) (hrec15 : ∀ (x0 : Nat) (x1 : Int32) (x2 : Int32) (M : wM) (H : Heap) (locs : List Loc) (ls : Array Slot), rec15 x0 x1 x2 M → wR G M H → va_S (wA G) s.heap H locs → lv_has ls 4 [(0, .ref x0), (1, .int x1), (2, .int x2)] → W p l e (headSpec (ws_ yX2_nextEvent cX2_nextEvent 4 (Option.some Jvm.ClassFile.FieldType.int)) ({ frames := 15, cells := 0, slots := 0, locals := 464 })).room s m ([.ref t0] : List Value).toArray below meth c H locs 0 0 (vx_MQ below (wQ G (wqI Q)) (wXC G wX0) ([.ref t0] : List Value).toArray s 0 0 (wA G)) (F0 m 15 ls [])), ∀ (x0 : Nat) (x1 : Int32) (x2 : Int32) (M : wM) (H : Heap) (locs : List Loc) (ls : Array Slot), B_X2_nextEvent_76 G rec15 Q x0 x1 x2 M → wR G M H → va_S (wA G) s.heap H locs → lv_has ls 4 [(0, .ref x0), (1, .int x1), (2, .int x2)] → W p l e (headSpec (ws_ yX2_nextEvent cX2_nextEvent 4 (Option.some Jvm.ClassFile.FieldType.int)) ({ frames := 15, cells := 0, slots := 0, locals := 464 })).room s m ([.ref t0] : List Value).toArray below meth c H locs 0 0 (vx_MQ below (wQ G (wqI Q)) (wXC G wX0) ([.ref t0] : List Value).toArray s 0 0 (wA G)) (F0 m 76 ls []) := by
    intro rec15 hrec15 x0 x1 x2 M H locs ls hp hM hS hl
    refine lv_iinc (v := (x2 + 1)) (lv' := [(2, .int (x2 + 1)), (0, .ref x0), (1, .int x1)]) hx hb dX2_nextEvent_76 hl (k := 2) rfl rfl (by decide) rfl (fun ls hl => ?_)
    refine lv_goto (tgt := 15) hx hb dX2_nextEvent_79 (by decide) ?_
    exact hrec15 _ _ _ _ _ _ _ hp hM hS (lv_sub hl [1, 2, 0] rfl)
  have hB59 : ∀ (rec15 : Nat → Int32 → Int32 → wM → Prop) (hrec15 : ∀ (x0 : Nat) (x1 : Int32) (x2 : Int32) (M : wM) (H : Heap) (locs : List Loc) (ls : Array Slot), rec15 x0 x1 x2 M → wR G M H → va_S (wA G) s.heap H locs → lv_has ls 4 [(0, .ref x0), (1, .int x1), (2, .int x2)] → W p l e (headSpec (ws_ yX2_nextEvent cX2_nextEvent 4 (Option.some Jvm.ClassFile.FieldType.int)) ({ frames := 15, cells := 0, slots := 0, locals := 464 })).room s m ([.ref t0] : List Value).toArray below meth c H locs 0 0 (vx_MQ below (wQ G (wqI Q)) (wXC G wX0) ([.ref t0] : List Value).toArray s 0 0 (wA G)) (F0 m 15 ls [])), ∀ (x0 : Nat) (x1 : Int32) (x2 : Int32) (x3 : Nat) (M : wM) (H : Heap) (locs : List Loc) (ls : Array Slot), B_X2_nextEvent_59 G rec15 Q x0 x1 x2 x3 M → wR G M H → va_S (wA G) s.heap H locs → lv_has ls 4 [(0, .ref x0), (1, .int x1), (2, .int x2), (3, .ref x3)] → W p l e (headSpec (ws_ yX2_nextEvent cX2_nextEvent 4 (Option.some Jvm.ClassFile.FieldType.int)) ({ frames := 15, cells := 0, slots := 0, locals := 464 })).room s m ([.ref t0] : List Value).toArray below meth c H locs 0 0 (vx_MQ below (wQ G (wqI Q)) (wXC G wX0) ([.ref t0] : List Value).toArray s 0 0 (wA G)) (F0 m 59 ls []) := by
    intro rec15 hrec15 x0 x1 x2 x3 M H locs ls hp hM hS hl
    refine lv_aload_n hx hb dX2_nextEvent_59 rfl (lv_at hl 3 rfl) ?_
    refine x_getIN X hC.1 hM (ci := 9) (C := RX12) (T := TX12) (N := 8) rfl in_X12 4 (by decide) q2090 (fun _ h9 => h9) dX2_nextEvent_60 hp (fun v1 hp => ?_)
    refine lv_iconst (v := 1) hx hb dX2_nextEvent_63 (by decide) ?_
    refine lv_icmp_ne (tgt := 76) hx hb dX2_nextEvent_64 (by decide) (fun hc => ?_) (fun hc => ?_)
    · have hp := oIf.f hp hc
      exact hB76 rec15 hrec15 _ _ _ _ _ _ _ hp hM hS (lv_sub hl [0, 1, 2] rfl)
    · have hp := oIf.t hp hc
      refine lv_iload_n hx hb dX2_nextEvent_67 rfl (lv_at hl 1 rfl) ?_
      refine lv_aload_n hx hb dX2_nextEvent_68 rfl (lv_at hl 3 rfl) ?_
      refine x_getIN X hC.1 hM (ci := 9) (C := RX12) (T := TX12) (N := 8) rfl in_X12 6 (by decide) q2096 (fun _ h9 => h9) dX2_nextEvent_69 hp (fun v2 hp => ?_)
      refine va_mmin hx hb (hml.trans hl.1.symm) hown (hts _ q2603) (hts _ q347) (hts _ q155) (hts _ q348) (Nat.le_of_ble_eq_true rfl) (Nat.le_of_ble_eq_true rfl) (Nat.le_refl _) (Nat.le_refl _) dX2_nextEvent_72 ?_
      refine lv_istore_n (lv' := [(1, .int (if v2 < x1 then v2 else x1)), (0, .ref x0), (2, .int x2), (3, .ref x3)]) hx hb dX2_nextEvent_75 rfl hl (by decide) rfl (fun ls hl => ?_)
      exact hB76 rec15 hrec15 _ _ _ _ _ _ _ hp hM hS (lv_sub hl [1, 0, 2] rfl)
  have hB15 : ∀ (rec15 : Nat → Int32 → Int32 → wM → Prop) (hrec15 : ∀ (x0 : Nat) (x1 : Int32) (x2 : Int32) (M : wM) (H : Heap) (locs : List Loc) (ls : Array Slot), rec15 x0 x1 x2 M → wR G M H → va_S (wA G) s.heap H locs → lv_has ls 4 [(0, .ref x0), (1, .int x1), (2, .int x2)] → W p l e (headSpec (ws_ yX2_nextEvent cX2_nextEvent 4 (Option.some Jvm.ClassFile.FieldType.int)) ({ frames := 15, cells := 0, slots := 0, locals := 464 })).room s m ([.ref t0] : List Value).toArray below meth c H locs 0 0 (vx_MQ below (wQ G (wqI Q)) (wXC G wX0) ([.ref t0] : List Value).toArray s 0 0 (wA G)) (F0 m 15 ls [])), ∀ (x0 : Nat) (x1 : Int32) (x2 : Int32) (M : wM) (H : Heap) (locs : List Loc) (ls : Array Slot), B_X2_nextEvent_15 G rec15 Q x0 x1 x2 M → wR G M H → va_S (wA G) s.heap H locs → lv_has ls 4 [(0, .ref x0), (1, .int x1), (2, .int x2)] → W p l e (headSpec (ws_ yX2_nextEvent cX2_nextEvent 4 (Option.some Jvm.ClassFile.FieldType.int)) ({ frames := 15, cells := 0, slots := 0, locals := 464 })).room s m ([.ref t0] : List Value).toArray below meth c H locs 0 0 (vx_MQ below (wQ G (wqI Q)) (wXC G wX0) ([.ref t0] : List Value).toArray s 0 0 (wA G)) (F0 m 15 ls []) := by
    intro rec15 hrec15 x0 x1 x2 M H locs ls hp hM hS hl
    refine lv_iload_n hx hb dX2_nextEvent_15 rfl (lv_at hl 2 rfl) ?_
    refine lv_aload_n hx hb dX2_nextEvent_16 rfl (lv_at hl 0 rfl) ?_
    refine x_getA X hC.1 hM (ci := 1) (C := RX2) (T := TX2) (N := 9) rfl in_X2 1 (by decide) q919 (fun _ h9 => h9) dX2_nextEvent_17 hp (fun a1 hp => ?_)
    obtain ⟨hrec, hp⟩ := hp
    refine x_call0I5 (vx_runF (hC.1.1.1 16 (RJ2, TJ2, 3) rfl).2 (C := "java/util/ArrayList") (As := []) (rest := [.int x2]) X (P_J2_size_ok (l := l) hl0 hp) (va_cwF 0 hts (lw_app (w_mem4 q493 q496 q498 q153) (lw_meth q500)) rfl rfl rfl (wfw_13 hC.1) (by decide +kernel) ⟨Nat.le_of_ble_eq_true rfl, Nat.le_of_ble_eq_true rfl⟩) ⟨wPc.blind, w_recv hC.1 hM (ci := 16) (q := (RJ2, TJ2, 3)) rfl hrec, w_pre hC hM hS _⟩ rfl rfl hl.1 rfl (lv_room (Nat.le_of_ble_eq_true rfl)) dX2_nextEvent_20 ⟨Nat.le_refl _, Nat.le_refl _⟩) hS ⟨Nat.le_refl _, Nat.le_refl _⟩ (fun _ _ _ _ _ _ h => False.elim h) (fun v4 M2 H locs hp hM hS => ?_)
    refine lv_icmp_ge (tgt := 82) hx hb dX2_nextEvent_25 (by decide) (fun hc => ?_) (fun hc => ?_)
    · have hp := oIf.t hp hc
      refine lv_iload_n hx hb dX2_nextEvent_82 rfl (lv_at hl 1 rfl) ?_
      exact x_iret X hr hlk hM hS ⟨Nat.le_refl _, Nat.le_refl _⟩ dX2_nextEvent_83 ⟨_, rfl, hp⟩
    · have hp := oIf.f hp hc
      refine lv_aload_n hx hb dX2_nextEvent_28 rfl (lv_at hl 0 rfl) ?_
      refine x_getA X hC.1 hM (ci := 1) (C := RX2) (T := TX2) (N := 9) rfl in_X2 1 (by decide) q919 (fun _ h9 => h9) dX2_nextEvent_29 hp (fun a5 hp => ?_)
      refine lv_iload_n hx hb dX2_nextEvent_32 rfl (lv_at hl 2 rfl) ?_
      obtain ⟨hrec, hp⟩ := hp
      refine x_call0R5 (vx_runF (hC.1.1.1 16 (RJ2, TJ2, 3) rfl).2 (C := "java/util/ArrayList") (As := [.int x2]) (rest := []) X (P_J2_get_ok (l := l) hl0 hp) (va_cwF 1 hts (lw_app (w_mem4 q519 q522 q524 q153) (lw_meth q526)) rfl rfl rfl (wfw_8 hC.1) (by decide +kernel) ⟨Nat.le_of_ble_eq_true rfl, Nat.le_of_ble_eq_true rfl⟩) ⟨wPc.blind, w_recv hC.1 hM (ci := 16) (q := (RJ2, TJ2, 3)) rfl hrec, w_pre hC hM hS _⟩ rfl rfl hl.1 rfl (lv_room (Nat.le_of_ble_eq_true rfl)) dX2_nextEvent_33 ⟨Nat.le_refl _, Nat.le_refl _⟩) hS ⟨Nat.le_refl _, Nat.le_refl _⟩ (fun _ _ _ _ _ _ h => False.elim h) (fun r8 M6 H locs hp hM hS => ?_)
      refine x_cast (r := r8) X hC.1 hM q2070 (ci := 9) rfl (Or.inl rfl) dX2_nextEvent_38 hp (fun hp => ?_)
      refine x_astore_n (r := r8) (lv' := [(3, va_rf r8), (0, .ref x0), (1, .int x1), (2, .int x2)]) hx hb dX2_nextEvent_41 rfl hl (by decide) rfl (fun ls hl => ?_)
      refine x_aload_n (r := r8) hx hb dX2_nextEvent_42 rfl (lv_at hl 0 rfl) ?_
      obtain ⟨a9, ea, hqa9⟩ := hp
      subst ea
      have hp := hqa9
      have hl : lv_has ls 4 [(3, .ref a9), (0, .ref x0), (1, .int x1), (2, .int x2)] := hl
      refine x_getIN X hC.1 hM (ci := 9) (C := RX12) (T := TX12) (N := 8) rfl in_X12 4 (by decide) q2090 (fun _ h9 => h9) dX2_nextEvent_43 hp (fun v10 hp => ?_)
      refine lv_iconst (v := 2) hx hb dX2_nextEvent_46 (by decide) ?_
      refine lv_icmp_ne (tgt := 59) hx hb dX2_nextEvent_47 (by decide) (fun hc => ?_) (fun hc => ?_)
      · have hp := oIf.f hp hc
        exact hB59 rec15 hrec15 _ _ _ _ _ _ _ _ hp hM hS (lv_sub hl [1, 2, 3, 0] rfl)
      · have hp := oIf.t hp hc
        refine lv_iload_n hx hb dX2_nextEvent_50 rfl (lv_at hl 2 rfl) ?_
        refine lv_aload_n hx hb dX2_nextEvent_51 rfl (lv_at hl 0 rfl) ?_
        refine x_getIN X hC.1 hM (ci := 9) (C := RX12) (T := TX12) (N := 8) rfl in_X12 5 (by decide) q2093 (fun _ h9 => h9) dX2_nextEvent_52 hp (fun v11 hp => ?_)
        refine va_mmin hx hb (hml.trans hl.1.symm) hown (hts _ q2603) (hts _ q347) (hts _ q155) (hts _ q348) (Nat.le_of_ble_eq_true rfl) (Nat.le_of_ble_eq_true rfl) (Nat.le_refl _) (Nat.le_refl _) dX2_nextEvent_55 ?_
        refine lv_istore_n (lv' := [(1, .int (if v11 < x1 then v11 else x1)), (3, .ref a9), (0, .ref x0), (2, .int x2)]) hx hb dX2_nextEvent_58 rfl hl (by decide) rfl (fun ls hl => ?_)
        exact hB59 rec15 hrec15 _ _ _ _ _ _ _ _ hp hM hS (lv_sub hl [2, 0, 3, 1] rfl)
  have hL15 : ∀ (n : Nat), ∀ (x0 : Nat) (x1 : Int32) (x2 : Int32) (M : wM) (H : Heap) (locs : List Loc) (ls : Array Slot), L_X2_nextEvent_15 G Q n x0 x1 x2 M → wR G M H → va_S (wA G) s.heap H locs → lv_has ls 4 [(0, .ref x0), (1, .int x1), (2, .int x2)] → W p l e (headSpec (ws_ yX2_nextEvent cX2_nextEvent 4 (Option.some Jvm.ClassFile.FieldType.int)) ({ frames := 15, cells := 0, slots := 0, locals := 464 })).room s m ([.ref t0] : List Value).toArray below meth c H locs 0 0 (vx_MQ below (wQ G (wqI Q)) (wXC G wX0) ([.ref t0] : List Value).toArray s 0 0 (wA G)) (F0 m 15 ls []) := by
    intro n
    induction n with
    | zero => intro _ _ _ _ _ _ _ hp; exact False.elim hp
    | succ n ih => intro x0 x1 x2 M H locs ls hp hM hS hl; exact hB15 (L_X2_nextEvent_15 G Q n) ih _ _ _ _ _ _ _ hp hM hS hl
  refine lv_aload_n hx hb dX2_nextEvent_0 rfl (lv_at hl 0 rfl) ?_
  refine x_getI X hC.1 hM (ci := 1) (C := RX2) (T := TX2) (N := 9) rfl in_X2 8 (by decide) q933 (fun _ h9 => h9) dX2_nextEvent_1 hp (fun v1 hp => ?_)
  refine lv_ldc (v := 43200) hx hb hown (hts _ q2602) dX2_nextEvent_4 ?_
  refine lv_idiv hx hb dX2_nextEvent_6 (by decide) ?_
  refine lv_iconst (v := 1) hx hb dX2_nextEvent_7 (by decide) ?_
  refine lv_iadd hx hb dX2_nextEvent_8 ?_
  refine lv_ldc (v := 43200) hx hb hown (hts _ q2602) dX2_nextEvent_9 ?_
  refine lv_imul hx hb dX2_nextEvent_11 ?_
  refine lv_istore_n (lv' := [(1, .int (((v1 / (43200 : Int32)) + (1 : Int32)) * (43200 : Int32))), (0, .ref t0)]) hx hb dX2_nextEvent_12 rfl hl (by decide) rfl (fun ls hl => ?_)
  refine lv_iconst (v := 0) hx hb dX2_nextEvent_13 (by decide) ?_
  refine lv_istore_n (lv' := [(2, .int (0 : Int32)), (1, .int (((v1 / (43200 : Int32)) + (1 : Int32)) * (43200 : Int32))), (0, .ref t0)]) hx hb dX2_nextEvent_14 rfl hl (by decide) rfl (fun ls hl => ?_)
  obtain ⟨n, hp⟩ := hp
  exact hL15 n _ _ _ _ _ _ _ hp hM hS (lv_sub hl [2, 1, 0] rfl)
def B_X2_passTo_5 (G : wG) (rec5 : Nat → Int32 → Int32 → wM → Prop) (Q : wM → Prop) (x0 : Nat) (x1 : Int32) (x2 : Int32) (M : wM) : Prop :=
  oIf (x1 < x2) (oPut G M x0 1 8 (.int x1) (fun M1 => Q M1)) (oPut G M x0 1 8 (.int x2) (fun M2 => oIs M2 x0 1 (P_X2_happen G x0 M2 (fun M3 => oIs M3 x0 1 (P_X2_nextEvent G x0 M3 (fun v7 M5 => rec5 x0 x1 v7 M5))))))
def L_X2_passTo_5 (G : wG) (Q : wM → Prop) : Nat → Nat → Int32 → Int32 → wM → Prop
  | 0 => fun _ _ _ _ => False
  | n + 1 => B_X2_passTo_5 G (L_X2_passTo_5 G Q n) Q
def P_X2_passTo (G : wG) (t0 : Nat) (p1 : Int32) (M : wM) (Q : wM → Prop) : Prop :=
  oIs M t0 1 (P_X2_nextEvent G t0 M (fun v3 M1 => ∃ n, L_X2_passTo_5 G Q n t0 p1 v3 M1))
set_option maxHeartbeats 4000000 in
set_option maxRecDepth 100000 in
theorem P_X2_passTo_ok {l : Launch} (hl0 : l.stackTraces = false) {G : wG} {t0 : Nat} {p1 : Int32} {M : wM} {Q : wM → Prop} (hp : P_X2_passTo G t0 p1 M Q) : wMet l yX2_passTo (ws_ yX2_passTo cX2_passTo 3 (none)) 20 577 G [.ref t0, .int p1] M 0 (wqV Q) wX0 := by
  refine vx_ofW (cc := cX2_passTo) (maxL := 3) (ret := none) (by decide) rfl ?_
  intro p e s m args below meth c s₁ B hml hnt hv
  obtain ⟨rfl, hM, hK, hZ, hz⟩ := hv
  have hC : wC G s := ⟨hK, hZ, hz⟩
  have hx := B.exec
  have hb := B.bytes
  have hr := B.returns
  have hts := atoms_spec (ws := (ws_ yX2_passTo cX2_passTo 3 (none))) B.pre
  have hts : ∀ w ∈ lw_all, w.before _ s = true := fun w h => hts w (List.mem_cons_of_mem _ h)
  have hown : s.vm.findClass RX2 = some m.cls := findClass_of_methodNamed B.named
  have hlk := B.notSynchronized
  have X : CallFix p m c cX2_passTo 3 s ([.ref t0, .int p1] : List Value).toArray lw_all RX2 := ⟨hx, hb, hml, hown, hts⟩
  have hS : va_S (wA G) s.heap s.heap [] := va_S.rf
  have hl := lv_entry ([.ref t0, .int p1]) (n := 3) (Nat.le_of_ble_eq_true rfl)
  rw [lg_entry_eq]
  generalize (lg_sl ([.ref t0, .int p1]) ++ List.replicate (3 - (lg_sl ([.ref t0, .int p1])).length) Slot.unset).toArray = ls at hl ⊢
  have hl : lv_has ls 3 [(0, .ref t0), (1, .int p1)] := hl
  have hB5 : ∀ (rec5 : Nat → Int32 → Int32 → wM → Prop) (hrec5 : ∀ (x0 : Nat) (x1 : Int32) (x2 : Int32) (M : wM) (H : Heap) (locs : List Loc) (ls : Array Slot), rec5 x0 x1 x2 M → wR G M H → va_S (wA G) s.heap H locs → lv_has ls 3 [(0, .ref x0), (1, .int x1), (2, .int x2)] → W p l e (headSpec (ws_ yX2_passTo cX2_passTo 3 (none)) ({ frames := 20, cells := 0, slots := 0, locals := 577 })).room s m ([.ref t0, .int p1] : List Value).toArray below meth c H locs 0 0 (vx_MQ below (wQ G (wqV Q)) (wXC G wX0) ([.ref t0, .int p1] : List Value).toArray s 0 0 (wA G)) (F0 m 5 ls [])), ∀ (x0 : Nat) (x1 : Int32) (x2 : Int32) (M : wM) (H : Heap) (locs : List Loc) (ls : Array Slot), B_X2_passTo_5 G rec5 Q x0 x1 x2 M → wR G M H → va_S (wA G) s.heap H locs → lv_has ls 3 [(0, .ref x0), (1, .int x1), (2, .int x2)] → W p l e (headSpec (ws_ yX2_passTo cX2_passTo 3 (none)) ({ frames := 20, cells := 0, slots := 0, locals := 577 })).room s m ([.ref t0, .int p1] : List Value).toArray below meth c H locs 0 0 (vx_MQ below (wQ G (wqV Q)) (wXC G wX0) ([.ref t0, .int p1] : List Value).toArray s 0 0 (wA G)) (F0 m 5 ls []) := by
    intro rec5 hrec5 x0 x1 x2 M H locs ls hp hM hS hl
    refine lv_iload_n hx hb dX2_passTo_5 rfl (lv_at hl 2 rfl) ?_
    refine lv_iload_n hx hb dX2_passTo_6 rfl (lv_at hl 1 rfl) ?_
    refine lv_icmp_gt (tgt := 27) hx hb dX2_passTo_7 (by decide) (fun hc => ?_) (fun hc => ?_)
    · have hp := oIf.t hp hc
      refine lv_aload_n hx hb dX2_passTo_27 rfl (lv_at hl 0 rfl) ?_
      refine lv_iload_n hx hb dX2_passTo_28 rfl (lv_at hl 1 rfl) ?_
      refine x_put X hC.1 hM hS (ci := 1) (C := RX2) (T := TX2) (N := 9) rfl in_X2 tyX2 tyX2_ok nmX2 8 (by decide) q933 (fun _ h9 => h9) rfl rfl rfl dX2_passTo_29 hp (fun M1 H locs hM hS hp => ?_)
      exact x_vret X hr hlk hM hS ⟨Nat.le_refl _, Nat.le_refl _⟩ dX2_passTo_32 ⟨rfl, hp⟩
    · have hp := oIf.f hp hc
      refine lv_aload_n hx hb dX2_passTo_10 rfl (lv_at hl 0 rfl) ?_
      refine lv_iload_n hx hb dX2_passTo_11 rfl (lv_at hl 2 rfl) ?_
      refine x_put X hC.1 hM hS (ci := 1) (C := RX2) (T := TX2) (N := 9) rfl in_X2 tyX2 tyX2_ok nmX2 8 (by decide) q933 (fun _ h9 => h9) rfl rfl rfl dX2_passTo_12 hp (fun M2 H locs hM hS hp => ?_)
      refine lv_aload_n hx hb dX2_passTo_15 rfl (lv_at hl 0 rfl) ?_
      obtain ⟨hrec, hp⟩ := hp
      refine x_call0V (vx_runV (As := []) (rest := []) X (P_X2_happen_ok (l := l) hl0 hp) (cwV 0 hts (lw_V q2604 q2606 qs53 q149 q2607) rfl rfl rfl (by decide +kernel) ⟨Nat.le_of_ble_eq_true rfl, Nat.le_of_ble_eq_true rfl⟩) ⟨wPc.blind, w_recv hC.1 hM (ci := 1) (q := (RX2, TX2, 9)) rfl hrec, w_pre hC hM hS _⟩ rfl rfl hl.1 rfl (lv_room (Nat.le_of_ble_eq_true rfl)) dX2_passTo_16 ⟨Nat.le_refl _, Nat.le_refl _⟩) hS ⟨Nat.le_refl _, Nat.le_refl _⟩ (fun _ _ _ _ _ _ h => False.elim h) (fun M3 H locs hp hM hS => ?_)
      refine lv_aload_n hx hb dX2_passTo_19 rfl (lv_at hl 0 rfl) ?_
      obtain ⟨hrec, hp⟩ := hp
      refine x_call0I (vx_runV (As := []) (rest := []) X (P_X2_nextEvent_ok (l := l) hl0 hp) (cwV 0 hts (lw_V q2598 q2600 qs52 q149 q2601) rfl rfl rfl (by decide +kernel) ⟨Nat.le_of_ble_eq_true rfl, Nat.le_of_ble_eq_true rfl⟩) ⟨wPc.blind, w_recv hC.1 hM (ci := 1) (q := (RX2, TX2, 9)) rfl hrec, w_pre hC hM hS _⟩ rfl rfl hl.1 rfl (lv_room (Nat.le_of_ble_eq_true rfl)) dX2_passTo_20 ⟨Nat.le_refl _, Nat.le_refl _⟩) hS ⟨Nat.le_refl _, Nat.le_refl _⟩ (fun _ _ _ _ _ _ h => False.elim h) (fun v7 M5 H locs hp hM hS => ?_)
      refine lv_istore_n (lv' := [(2, .int v7), (0, .ref x0), (1, .int x1)]) hx hb dX2_passTo_23 rfl hl (by decide) rfl (fun ls hl => ?_)
      refine lv_goto (tgt := 5) hx hb dX2_passTo_24 (by decide) ?_
      exact hrec5 _ _ _ _ _ _ _ hp hM hS (lv_sub hl [1, 2, 0] rfl)
  have hL5 : ∀ (n : Nat), ∀ (x0 : Nat) (x1 : Int32) (x2 : Int32) (M : wM) (H : Heap) (locs : List Loc) (ls : Array Slot), L_X2_passTo_5 G Q n x0 x1 x2 M → wR G M H → va_S (wA G) s.heap H locs → lv_has ls 3 [(0, .ref x0), (1, .int x1), (2, .int x2)] → W p l e (headSpec (ws_ yX2_passTo cX2_passTo 3 (none)) ({ frames := 20, cells := 0, slots := 0, locals := 577 })).room s m ([.ref t0, .int p1] : List Value).toArray below meth c H locs 0 0 (vx_MQ below (wQ G (wqV Q)) (wXC G wX0) ([.ref t0, .int p1] : List Value).toArray s 0 0 (wA G)) (F0 m 5 ls []) := by
    intro n
    induction n with
    | zero => intro _ _ _ _ _ _ _ hp; exact False.elim hp
    | succ n ih => intro x0 x1 x2 M H locs ls hp hM hS hl; exact hB5 (L_X2_passTo_5 G Q n) ih _ _ _ _ _ _ _ hp hM hS hl
  refine lv_aload_n hx hb dX2_passTo_0 rfl (lv_at hl 0 rfl) ?_
  obtain ⟨hrec, hp⟩ := hp
  refine x_call0I (vx_runV (As := []) (rest := []) X (P_X2_nextEvent_ok (l := l) hl0 hp) (cwV 0 hts (lw_V q2598 q2600 qs52 q149 q2601) rfl rfl rfl (by decide +kernel) ⟨Nat.le_of_ble_eq_true rfl, Nat.le_of_ble_eq_true rfl⟩) ⟨wPc.blind, w_recv hC.1 hM (ci := 1) (q := (RX2, TX2, 9)) rfl hrec, w_pre hC hM hS _⟩ rfl rfl hl.1 rfl (lv_room (Nat.le_of_ble_eq_true rfl)) dX2_passTo_1 ⟨Nat.le_refl _, Nat.le_refl _⟩) hS ⟨Nat.le_refl _, Nat.le_refl _⟩ (fun _ _ _ _ _ _ h => False.elim h) (fun v3 M1 H locs hp hM hS => ?_)
  refine lv_istore_n (lv' := [(2, .int v3), (0, .ref t0), (1, .int p1)]) hx hb dX2_passTo_4 rfl hl (by decide) rfl (fun ls hl => ?_)
  obtain ⟨n, hp⟩ := hp
  exact hL5 n _ _ _ _ _ _ _ hp hM hS (lv_sub hl [1, 2, 0] rfl)
def B_X2_wasFined_68 (G : wG) (Q : Bool → wM → Prop) (y0 : Int32) (M : wM) : Prop :=
  ∃ r : Bool, y0 = wb r ∧ Q r M
def B_X2_wasFined_12 (G : wG) (rec12 : Nat → Int32 → Int32 → wM → Prop) (Q : Bool → wM → Prop) (x0 : Nat) (x1 : Int32) (x2 : Int32) (M : wM) : Prop :=
  oIf (x2 < 0) (Q false M) (oGetA M x0 1 4 (fun a1 => oIs M a1 16 (P_J2_get G a1 x2 M (fun r4 M2 => oCast M2 r4 15 (oRef r4 (fun a5 => oGetI M2 a5 15 0 (fun v6 => oIf (v6 = x1) (oGetI M2 x0 1 8 (fun v7 => oGetA M2 x0 1 4 (fun a8 => oIs M2 a8 16 (P_J2_get G a8 x2 M2 (fun r11 M9 => oCast M9 r11 15 (oRef r11 (fun a12 => oGetI M9 a12 15 2 (fun v13 => oIf ((720 : Int32) ≤ (v7 - v13)) (B_X2_wasFined_68 G Q (0 : Int32) M9) (B_X2_wasFined_68 G Q (1 : Int32) M9))))))))) (rec12 x0 x1 (x2 + (-1)) M2))))))))
def L_X2_wasFined_12 (G : wG) (Q : Bool → wM → Prop) : Nat → Nat → Int32 → Int32 → wM → Prop
  | 0 => fun _ _ _ _ => False
  | n + 1 => B_X2_wasFined_12 G (L_X2_wasFined_12 G Q n) Q
def P_X2_wasFined (G : wG) (t0 : Nat) (p1 : Int32) (M : wM) (Q : Bool → wM → Prop) : Prop :=
  oGetA M t0 1 4 (fun a1 => oIs M a1 16 (P_J2_size G a1 M (fun v4 M2 => ∃ n, L_X2_wasFined_12 G Q n t0 p1 (v4 - (1 : Int32)) M2)))
set_option maxHeartbeats 4000000 in
set_option maxRecDepth 100000 in
theorem P_X2_wasFined_ok {l : Launch} (hl0 : l.stackTraces = false) {G : wG} {t0 : Nat} {p1 : Int32} {M : wM} {Q : Bool → wM → Prop} (hp : P_X2_wasFined G t0 p1 M Q) : wMet l yX2_wasFined (ws_ yX2_wasFined cX2_wasFined 3 (Option.some Jvm.ClassFile.FieldType.boolean)) 15 464 G [.ref t0, .int p1] M 0 (wqZ Q) wX0 := by
  refine vx_ofW (cc := cX2_wasFined) (maxL := 3) (ret := Option.some Jvm.ClassFile.FieldType.boolean) (by decide) rfl ?_
  intro p e s m args below meth c s₁ B hml hnt hv
  obtain ⟨rfl, hM, hK, hZ, hz⟩ := hv
  have hC : wC G s := ⟨hK, hZ, hz⟩
  have hx := B.exec
  have hb := B.bytes
  have hr := B.returns
  have hts := atoms_spec (ws := (ws_ yX2_wasFined cX2_wasFined 3 (Option.some Jvm.ClassFile.FieldType.boolean))) B.pre
  have hts : ∀ w ∈ lw_all, w.before _ s = true := fun w h => hts w (List.mem_cons_of_mem _ h)
  have hown : s.vm.findClass RX2 = some m.cls := findClass_of_methodNamed B.named
  have hlk := B.notSynchronized
  have X : CallFix p m c cX2_wasFined 3 s ([.ref t0, .int p1] : List Value).toArray lw_all RX2 := ⟨hx, hb, hml, hown, hts⟩
  have hS : va_S (wA G) s.heap s.heap [] := va_S.rf
  have hl := lv_entry ([.ref t0, .int p1]) (n := 3) (Nat.le_of_ble_eq_true rfl)
  rw [lg_entry_eq]
  generalize (lg_sl ([.ref t0, .int p1]) ++ List.replicate (3 - (lg_sl ([.ref t0, .int p1])).length) Slot.unset).toArray = ls at hl ⊢
  have hl : lv_has ls 3 [(0, .ref t0), (1, .int p1)] := hl
  have hB68 : ∀ (y0 : Int32) (M : wM) (H : Heap) (locs : List Loc) (ls : Array Slot), B_X2_wasFined_68 G Q y0 M → wR G M H → va_S (wA G) s.heap H locs → lv_has ls 3 [] → W p l e (headSpec (ws_ yX2_wasFined cX2_wasFined 3 (Option.some Jvm.ClassFile.FieldType.boolean)) ({ frames := 15, cells := 0, slots := 0, locals := 464 })).room s m ([.ref t0, .int p1] : List Value).toArray below meth c H locs 0 0 (vx_MQ below (wQ G (wqZ Q)) (wXC G wX0) ([.ref t0, .int p1] : List Value).toArray s 0 0 (wA G)) (F0 m 68 ls [.int y0]) := by
    intro y0 M H locs ls hp hM hS hl
    obtain ⟨r, hr0, hp⟩ := hp
    exact x_zret X hr hlk hM hS ⟨Nat.le_refl _, Nat.le_refl _⟩ (by rw [hr0]; exact w_nz _) dX2_wasFined_68 ⟨r, by rw [hr0], hp⟩
  have hB12 : ∀ (rec12 : Nat → Int32 → Int32 → wM → Prop) (hrec12 : ∀ (x0 : Nat) (x1 : Int32) (x2 : Int32) (M : wM) (H : Heap) (locs : List Loc) (ls : Array Slot), rec12 x0 x1 x2 M → wR G M H → va_S (wA G) s.heap H locs → lv_has ls 3 [(0, .ref x0), (1, .int x1), (2, .int x2)] → W p l e (headSpec (ws_ yX2_wasFined cX2_wasFined 3 (Option.some Jvm.ClassFile.FieldType.boolean)) ({ frames := 15, cells := 0, slots := 0, locals := 464 })).room s m ([.ref t0, .int p1] : List Value).toArray below meth c H locs 0 0 (vx_MQ below (wQ G (wqZ Q)) (wXC G wX0) ([.ref t0, .int p1] : List Value).toArray s 0 0 (wA G)) (F0 m 12 ls [])), ∀ (x0 : Nat) (x1 : Int32) (x2 : Int32) (M : wM) (H : Heap) (locs : List Loc) (ls : Array Slot), B_X2_wasFined_12 G rec12 Q x0 x1 x2 M → wR G M H → va_S (wA G) s.heap H locs → lv_has ls 3 [(0, .ref x0), (1, .int x1), (2, .int x2)] → W p l e (headSpec (ws_ yX2_wasFined cX2_wasFined 3 (Option.some Jvm.ClassFile.FieldType.boolean)) ({ frames := 15, cells := 0, slots := 0, locals := 464 })).room s m ([.ref t0, .int p1] : List Value).toArray below meth c H locs 0 0 (vx_MQ below (wQ G (wqZ Q)) (wXC G wX0) ([.ref t0, .int p1] : List Value).toArray s 0 0 (wA G)) (F0 m 12 ls []) := by
    intro rec12 hrec12 x0 x1 x2 M H locs ls hp hM hS hl
    refine lv_iload_n hx hb dX2_wasFined_12 rfl (lv_at hl 2 rfl) ?_
    refine lv_if_lt (tgt := 75) hx hb dX2_wasFined_13 (by decide) (fun hc => ?_) (fun hc => ?_)
    · have hp := oIf.t hp hc
      refine lv_iconst (v := 0) hx hb dX2_wasFined_75 (by decide) ?_
      exact x_zret X hr hlk hM hS ⟨Nat.le_refl _, Nat.le_refl _⟩ (by decide) dX2_wasFined_76 ⟨false, rfl, hp⟩
    · have hp := oIf.f hp hc
      refine lv_aload_n hx hb dX2_wasFined_16 rfl (lv_at hl 0 rfl) ?_
      refine x_getA X hC.1 hM (ci := 1) (C := RX2) (T := TX2) (N := 9) rfl in_X2 4 (by decide) q925 (fun _ h9 => h9) dX2_wasFined_17 hp (fun a1 hp => ?_)
      refine lv_iload_n hx hb dX2_wasFined_20 rfl (lv_at hl 2 rfl) ?_
      obtain ⟨hrec, hp⟩ := hp
      refine x_call0R5 (vx_runF (hC.1.1.1 16 (RJ2, TJ2, 3) rfl).2 (C := "java/util/ArrayList") (As := [.int x2]) (rest := []) X (P_J2_get_ok (l := l) hl0 hp) (va_cwF 1 hts (lw_app (w_mem4 q519 q522 q524 q153) (lw_meth q526)) rfl rfl rfl (wfw_8 hC.1) (by decide +kernel) ⟨Nat.le_of_ble_eq_true rfl, Nat.le_of_ble_eq_true rfl⟩) ⟨wPc.blind, w_recv hC.1 hM (ci := 16) (q := (RJ2, TJ2, 3)) rfl hrec, w_pre hC hM hS _⟩ rfl rfl hl.1 rfl (lv_room (Nat.le_of_ble_eq_true rfl)) dX2_wasFined_21 ⟨Nat.le_refl _, Nat.le_refl _⟩) hS ⟨Nat.le_refl _, Nat.le_refl _⟩ (fun _ _ _ _ _ _ h => False.elim h) (fun r4 M2 H locs hp hM hS => ?_)
      refine x_cast (r := r4) X hC.1 hM q2894 (ci := 15) rfl (Or.inl rfl) dX2_wasFined_26 hp (fun hp => ?_)
      obtain ⟨a5, ea, hqa5⟩ := hp
      subst ea
      have hp := hqa5
      refine x_getIN X hC.1 hM (ci := 15) (C := RX19) (T := TX19) (N := 6) rfl in_X19 0 (by decide) q2902 (fun _ h9 => h9) dX2_wasFined_29 hp (fun v6 hp => ?_)
      refine lv_iload_n hx hb dX2_wasFined_32 rfl (lv_at hl 1 rfl) ?_
      refine lv_icmp_ne (tgt := 69) hx hb dX2_wasFined_33 (by decide) (fun hc => ?_) (fun hc => ?_)
      · have hp := oIf.f hp hc
        refine lv_iinc (v := (x2 + (-1))) (lv' := [(2, .int (x2 + (-1))), (0, .ref x0), (1, .int x1)]) hx hb dX2_wasFined_69 hl (k := 2) rfl rfl (by decide) rfl (fun ls hl => ?_)
        refine lv_goto (tgt := 12) hx hb dX2_wasFined_72 (by decide) ?_
        exact hrec12 _ _ _ _ _ _ _ hp hM hS (lv_sub hl [1, 2, 0] rfl)
      · have hp := oIf.t hp hc
        refine lv_aload_n hx hb dX2_wasFined_36 rfl (lv_at hl 0 rfl) ?_
        refine x_getI X hC.1 hM (ci := 1) (C := RX2) (T := TX2) (N := 9) rfl in_X2 8 (by decide) q933 (fun _ h9 => h9) dX2_wasFined_37 hp (fun v7 hp => ?_)
        refine lv_aload_n hx hb dX2_wasFined_40 rfl (lv_at hl 0 rfl) ?_
        refine x_getA X hC.1 hM (ci := 1) (C := RX2) (T := TX2) (N := 9) rfl in_X2 4 (by decide) q925 (fun _ h9 => h9) dX2_wasFined_41 hp (fun a8 hp => ?_)
        refine lv_iload_n hx hb dX2_wasFined_44 rfl (lv_at hl 2 rfl) ?_
        obtain ⟨hrec, hp⟩ := hp
        refine x_call0R5 (vx_runF (hC.1.1.1 16 (RJ2, TJ2, 3) rfl).2 (C := "java/util/ArrayList") (As := [.int x2]) (rest := [.int v7]) X (P_J2_get_ok (l := l) hl0 hp) (va_cwF 1 hts (lw_app (w_mem4 q519 q522 q524 q153) (lw_meth q526)) rfl rfl rfl (wfw_8 hC.1) (by decide +kernel) ⟨Nat.le_of_ble_eq_true rfl, Nat.le_of_ble_eq_true rfl⟩) ⟨wPc.blind, w_recv hC.1 hM (ci := 16) (q := (RJ2, TJ2, 3)) rfl hrec, w_pre hC hM hS _⟩ rfl rfl hl.1 rfl (lv_room (Nat.le_of_ble_eq_true rfl)) dX2_wasFined_45 ⟨Nat.le_refl _, Nat.le_refl _⟩) hS ⟨Nat.le_refl _, Nat.le_refl _⟩ (fun _ _ _ _ _ _ h => False.elim h) (fun r11 M9 H locs hp hM hS => ?_)
        refine x_cast (r := r11) X hC.1 hM q2894 (ci := 15) rfl (Or.inl rfl) dX2_wasFined_50 hp (fun hp => ?_)
        obtain ⟨a12, ea, hqa12⟩ := hp
        subst ea
        have hp := hqa12
        refine x_getIN X hC.1 hM (ci := 15) (C := RX19) (T := TX19) (N := 6) rfl in_X19 2 (by decide) q2907 (fun _ h9 => h9) dX2_wasFined_53 hp (fun v13 hp => ?_)
        refine lv_isub hx hb dX2_wasFined_56 ?_
        refine lv_sipush (v := 720) hx hb dX2_wasFined_57 (by decide) ?_
        refine lv_icmp_ge (tgt := 67) hx hb dX2_wasFined_60 (by decide) (fun hc => ?_) (fun hc => ?_)
        · have hp := oIf.t hp hc
          refine lv_iconst (v := 0) hx hb dX2_wasFined_67 (by decide) ?_
          exact hB68 _ _ _ _ _ hp hM hS (lv_sub hl [] rfl)
        · have hp := oIf.f hp hc
          refine lv_iconst (v := 1) hx hb dX2_wasFined_63 (by decide) ?_
          refine lv_goto (tgt := 68) hx hb dX2_wasFined_64 (by decide) ?_
          exact hB68 _ _ _ _ _ hp hM hS (lv_sub hl [] rfl)
  have hL12 : ∀ (n : Nat), ∀ (x0 : Nat) (x1 : Int32) (x2 : Int32) (M : wM) (H : Heap) (locs : List Loc) (ls : Array Slot), L_X2_wasFined_12 G Q n x0 x1 x2 M → wR G M H → va_S (wA G) s.heap H locs → lv_has ls 3 [(0, .ref x0), (1, .int x1), (2, .int x2)] → W p l e (headSpec (ws_ yX2_wasFined cX2_wasFined 3 (Option.some Jvm.ClassFile.FieldType.boolean)) ({ frames := 15, cells := 0, slots := 0, locals := 464 })).room s m ([.ref t0, .int p1] : List Value).toArray below meth c H locs 0 0 (vx_MQ below (wQ G (wqZ Q)) (wXC G wX0) ([.ref t0, .int p1] : List Value).toArray s 0 0 (wA G)) (F0 m 12 ls []) := by
    intro n
    induction n with
    | zero => intro _ _ _ _ _ _ _ hp; exact False.elim hp
    | succ n ih => intro x0 x1 x2 M H locs ls hp hM hS hl; exact hB12 (L_X2_wasFined_12 G Q n) ih _ _ _ _ _ _ _ hp hM hS hl
  refine lv_aload_n hx hb dX2_wasFined_0 rfl (lv_at hl 0 rfl) ?_
  refine x_getA X hC.1 hM (ci := 1) (C := RX2) (T := TX2) (N := 9) rfl in_X2 4 (by decide) q925 (fun _ h9 => h9) dX2_wasFined_1 hp (fun a1 hp => ?_)
  obtain ⟨hrec, hp⟩ := hp
  refine x_call0I5 (vx_runF (hC.1.1.1 16 (RJ2, TJ2, 3) rfl).2 (C := "java/util/ArrayList") (As := []) (rest := []) X (P_J2_size_ok (l := l) hl0 hp) (va_cwF 0 hts (lw_app (w_mem4 q493 q496 q498 q153) (lw_meth q500)) rfl rfl rfl (wfw_13 hC.1) (by decide +kernel) ⟨Nat.le_of_ble_eq_true rfl, Nat.le_of_ble_eq_true rfl⟩) ⟨wPc.blind, w_recv hC.1 hM (ci := 16) (q := (RJ2, TJ2, 3)) rfl hrec, w_pre hC hM hS _⟩ rfl rfl hl.1 rfl (lv_room (Nat.le_of_ble_eq_true rfl)) dX2_wasFined_4 ⟨Nat.le_refl _, Nat.le_refl _⟩) hS ⟨Nat.le_refl _, Nat.le_refl _⟩ (fun _ _ _ _ _ _ h => False.elim h) (fun v4 M2 H locs hp hM hS => ?_)
  refine lv_iconst (v := 1) hx hb dX2_wasFined_9 (by decide) ?_
  refine lv_isub hx hb dX2_wasFined_10 ?_
  refine lv_istore_n (lv' := [(2, .int (v4 - (1 : Int32))), (0, .ref t0), (1, .int p1)]) hx hb dX2_wasFined_11 rfl hl (by decide) rfl (fun ls hl => ?_)
  obtain ⟨n, hp⟩ := hp
  exact hL12 n _ _ _ _ _ _ _ hp hM hS (lv_sub hl [1, 2, 0] rfl)
def B_X2_isVisit_46 (G : wG) (Q : Bool → wM → Prop) (y0 : Int32) (M : wM) : Prop :=
  ∃ r : Bool, y0 = wb r ∧ Q r M
def B_X2_isVisit_45 (G : wG) (Q : Bool → wM → Prop) (M : wM) : Prop :=
  B_X2_isVisit_46 G Q (0 : Int32) M
def P_X2_isVisit (G : wG) (t0 : Nat) (p1 : Nat) (p2 : Int32) (p3 : Int32) (M : wM) (Q : Bool → wM → Prop) : Prop :=
  oGetI M p1 10 1 (fun v1 => oIf (v1 = p2) (oGetA M t0 1 0 (fun a2 => oGetI M p1 10 0 (fun v3 => oIs M a2 2 (P_X3_zoneOf G a2 v3 M (fun v6 M4 => oGetA M4 t0 1 0 (fun a7 => oGetA M4 a7 2 1 (fun a8 => oIs M4 a8 16 (P_J2_get G a8 p3 M4 (fun r11 M9 => oCast M9 r11 7 (oRef r11 (fun a12 => oGetI M9 a12 7 0 (fun v13 => oIf (v6 = v13) (B_X2_isVisit_46 G Q (1 : Int32) M9) (B_X2_isVisit_45 G Q M9))))))))))))) (B_X2_isVisit_45 G Q M))
set_option maxHeartbeats 4000000 in
set_option maxRecDepth 100000 in
theorem P_X2_isVisit_ok {l : Launch} (hl0 : l.stackTraces = false) {G : wG} {t0 : Nat} {p1 : Nat} {p2 : Int32} {p3 : Int32} {M : wM} {Q : Bool → wM → Prop} (hp : P_X2_isVisit G t0 p1 p2 p3 M Q) : wMet l yX2_isVisit (ws_ yX2_isVisit cX2_isVisit 4 (Option.some Jvm.ClassFile.FieldType.boolean)) 16 485 G [.ref t0, .ref p1, .int p2, .int p3] M 0 (wqZ Q) wX0 := by
  refine vx_ofW (cc := cX2_isVisit) (maxL := 4) (ret := Option.some Jvm.ClassFile.FieldType.boolean) (by decide) rfl ?_
  intro p e s m args below meth c s₁ B hml hnt hv
  obtain ⟨rfl, hM, hK, hZ, hz⟩ := hv
  have hC : wC G s := ⟨hK, hZ, hz⟩
  have hx := B.exec
  have hb := B.bytes
  have hr := B.returns
  have hts := atoms_spec (ws := (ws_ yX2_isVisit cX2_isVisit 4 (Option.some Jvm.ClassFile.FieldType.boolean))) B.pre
  have hts : ∀ w ∈ lw_all, w.before _ s = true := fun w h => hts w (List.mem_cons_of_mem _ h)
  have hown : s.vm.findClass RX2 = some m.cls := findClass_of_methodNamed B.named
  have hlk := B.notSynchronized
  have X : CallFix p m c cX2_isVisit 4 s ([.ref t0, .ref p1, .int p2, .int p3] : List Value).toArray lw_all RX2 := ⟨hx, hb, hml, hown, hts⟩
  have hS : va_S (wA G) s.heap s.heap [] := va_S.rf
  have hl := lv_entry ([.ref t0, .ref p1, .int p2, .int p3]) (n := 4) (Nat.le_of_ble_eq_true rfl)
  rw [lg_entry_eq]
  generalize (lg_sl ([.ref t0, .ref p1, .int p2, .int p3]) ++ List.replicate (4 - (lg_sl ([.ref t0, .ref p1, .int p2, .int p3])).length) Slot.unset).toArray = ls at hl ⊢
  have hl : lv_has ls 4 [(0, .ref t0), (1, .ref p1), (2, .int p2), (3, .int p3)] := hl
  have hB46 : ∀ (y0 : Int32) (M : wM) (H : Heap) (locs : List Loc) (ls : Array Slot), B_X2_isVisit_46 G Q y0 M → wR G M H → va_S (wA G) s.heap H locs → lv_has ls 4 [] → W p l e (headSpec (ws_ yX2_isVisit cX2_isVisit 4 (Option.some Jvm.ClassFile.FieldType.boolean)) ({ frames := 16, cells := 0, slots := 0, locals := 485 })).room s m ([.ref t0, .ref p1, .int p2, .int p3] : List Value).toArray below meth c H locs 0 0 (vx_MQ below (wQ G (wqZ Q)) (wXC G wX0) ([.ref t0, .ref p1, .int p2, .int p3] : List Value).toArray s 0 0 (wA G)) (F0 m 46 ls [.int y0]) := by
    intro y0 M H locs ls hp hM hS hl
    obtain ⟨r, hr0, hp⟩ := hp
    exact x_zret X hr hlk hM hS ⟨Nat.le_refl _, Nat.le_refl _⟩ (by rw [hr0]; exact w_nz _) dX2_isVisit_46 ⟨r, by rw [hr0], hp⟩
  have hB45 : ∀ (M : wM) (H : Heap) (locs : List Loc) (ls : Array Slot), B_X2_isVisit_45 G Q M → wR G M H → va_S (wA G) s.heap H locs → lv_has ls 4 [] → W p l e (headSpec (ws_ yX2_isVisit cX2_isVisit 4 (Option.some Jvm.ClassFile.FieldType.boolean)) ({ frames := 16, cells := 0, slots := 0, locals := 485 })).room s m ([.ref t0, .ref p1, .int p2, .int p3] : List Value).toArray below meth c H locs 0 0 (vx_MQ below (wQ G (wqZ Q)) (wXC G wX0) ([.ref t0, .ref p1, .int p2, .int p3] : List Value).toArray s 0 0 (wA G)) (F0 m 45 ls []) := by
    intro M H locs ls hp hM hS hl
    refine lv_iconst (v := 0) hx hb dX2_isVisit_45 (by decide) ?_
    exact hB46 _ _ _ _ _ hp hM hS (lv_sub hl [] rfl)
  refine lv_aload_n hx hb dX2_isVisit_0 rfl (lv_at hl 1 rfl) ?_
  refine x_getI X hC.1 hM (ci := 10) (C := RX13) (T := TX13) (N := 4) rfl in_X13 1 (by decide) q2115 (fun x9 h9 => u_same (hts _ q2113) x9 h9) dX2_isVisit_1 hp (fun v1 hp => ?_)
  refine lv_iload_n hx hb dX2_isVisit_4 rfl (lv_at hl 2 rfl) ?_
  refine lv_icmp_ne (tgt := 45) hx hb dX2_isVisit_5 (by decide) (fun hc => ?_) (fun hc => ?_)
  · have hp := oIf.f hp hc
    exact hB45 _ _ _ _ hp hM hS (lv_sub hl [] rfl)
  · have hp := oIf.t hp hc
    refine lv_aload_n hx hb dX2_isVisit_8 rfl (lv_at hl 0 rfl) ?_
    refine x_getA X hC.1 hM (ci := 1) (C := RX2) (T := TX2) (N := 9) rfl in_X2 0 (by decide) q917 (fun _ h9 => h9) dX2_isVisit_9 hp (fun a2 hp => ?_)
    refine lv_aload_n hx hb dX2_isVisit_12 rfl (lv_at hl 1 rfl) ?_
    refine x_getI X hC.1 hM (ci := 10) (C := RX13) (T := TX13) (N := 4) rfl in_X13 0 (by decide) q2106 (fun x9 h9 => u_same (hts _ q2104) x9 h9) dX2_isVisit_13 hp (fun v3 hp => ?_)
    obtain ⟨hrec, hp⟩ := hp
    refine x_call0I (vx_runV (As := [.int v3]) (rest := []) X (P_X3_zoneOf_ok (l := l) hl0 hp) (cwV 1 hts (lw_V q2485 q2251 q2252 q150 q2253) rfl rfl rfl (by decide +kernel) ⟨Nat.le_of_ble_eq_true rfl, Nat.le_of_ble_eq_true rfl⟩) ⟨wPc.blind, w_recv hC.1 hM (ci := 2) (q := (RX3, TX3, 8)) rfl hrec, w_pre hC hM hS _⟩ rfl rfl hl.1 rfl (lv_room (Nat.le_of_ble_eq_true rfl)) dX2_isVisit_16 ⟨Nat.le_refl _, Nat.le_refl _⟩) hS ⟨Nat.le_refl _, Nat.le_refl _⟩ (fun _ _ _ _ _ _ h => False.elim h) (fun v6 M4 H locs hp hM hS => ?_)
    refine lv_aload_n hx hb dX2_isVisit_19 rfl (lv_at hl 0 rfl) ?_
    refine x_getA X hC.1 hM (ci := 1) (C := RX2) (T := TX2) (N := 9) rfl in_X2 0 (by decide) q917 (fun _ h9 => h9) dX2_isVisit_20 hp (fun a7 hp => ?_)
    refine x_getAN X hC.1 hM (ci := 2) (C := RX3) (T := TX3) (N := 8) rfl in_X3 1 (by decide) q402 (fun _ h9 => h9) dX2_isVisit_23 hp (fun a8 hp => ?_)
    refine lv_iload_n hx hb dX2_isVisit_26 rfl (lv_at hl 3 rfl) ?_
    obtain ⟨hrec, hp⟩ := hp
    refine x_call0R5 (vx_runF (hC.1.1.1 16 (RJ2, TJ2, 3) rfl).2 (C := "java/util/ArrayList") (As := [.int p3]) (rest := [.int v6]) X (P_J2_get_ok (l := l) hl0 hp) (va_cwF 1 hts (lw_app (w_mem4 q519 q522 q524 q153) (lw_meth q526)) rfl rfl rfl (wfw_8 hC.1) (by decide +kernel) ⟨Nat.le_of_ble_eq_true rfl, Nat.le_of_ble_eq_true rfl⟩) ⟨wPc.blind, w_recv hC.1 hM (ci := 16) (q := (RJ2, TJ2, 3)) rfl hrec, w_pre hC hM hS _⟩ rfl rfl hl.1 rfl (lv_room (Nat.le_of_ble_eq_true rfl)) dX2_isVisit_27 ⟨Nat.le_refl _, Nat.le_refl _⟩) hS ⟨Nat.le_refl _, Nat.le_refl _⟩ (fun _ _ _ _ _ _ h => False.elim h) (fun r11 M9 H locs hp hM hS => ?_)
    refine x_cast (r := r11) X hC.1 hM q2462 (ci := 7) rfl (Or.inl rfl) dX2_isVisit_32 hp (fun hp => ?_)
    obtain ⟨a12, ea, hqa12⟩ := hp
    subst ea
    have hp := hqa12
    refine x_getIN X hC.1 hM (ci := 7) (C := RX8) (T := TX8) (N := 3) rfl in_X8 0 (by decide) q1440 (fun _ h9 => h9) dX2_isVisit_35 hp (fun v13 hp => ?_)
    refine lv_icmp_ne (tgt := 45) hx hb dX2_isVisit_38 (by decide) (fun hc => ?_) (fun hc => ?_)
    · have hp := oIf.f hp hc
      exact hB45 _ _ _ _ hp hM hS (lv_sub hl [] rfl)
    · have hp := oIf.t hp hc
      refine lv_iconst (v := 1) hx hb dX2_isVisit_41 (by decide) ?_
      refine lv_goto (tgt := 46) hx hb dX2_isVisit_42 (by decide) ?_
      exact hB46 _ _ _ _ _ hp hM hS (lv_sub hl [] rfl)
def B_X2_hadVisit_2 (G : wG) (rec2 : Nat → Int32 → Int32 → Int32 → wM → Prop) (Q : Bool → wM → Prop) (x0 : Nat) (x1 : Int32) (x2 : Int32) (x3 : Int32) (M : wM) : Prop :=
  oGetA M x0 1 2 (fun a1 => oIs M a1 16 (P_J2_size G a1 M (fun v4 M2 => oIf (v4 ≤ x3) (Q false M2) (oGetA M2 x0 1 2 (fun a5 => oIs M2 a5 16 (P_J2_get G a5 x3 M2 (fun r8 M6 => oCast M6 r8 10 (oRef r8 (fun a9 => oIs M6 x0 1 (P_X2_isVisit G x0 a9 x1 x2 M6 (fun r12 M10 => oIf (r12 = true) (Q true M10) (rec2 x0 x1 x2 (x3 + 1) M10))))))))))))
def L_X2_hadVisit_2 (G : wG) (Q : Bool → wM → Prop) : Nat → Nat → Int32 → Int32 → Int32 → wM → Prop
  | 0 => fun _ _ _ _ _ => False
  | n + 1 => B_X2_hadVisit_2 G (L_X2_hadVisit_2 G Q n) Q
def P_X2_hadVisit (G : wG) (t0 : Nat) (p1 : Int32) (p2 : Int32) (M : wM) (Q : Bool → wM → Prop) : Prop :=
  ∃ n, L_X2_hadVisit_2 G Q n t0 p1 p2 (0 : Int32) M
set_option maxHeartbeats 4000000 in
set_option maxRecDepth 100000 in
theorem P_X2_hadVisit_ok {l : Launch} (hl0 : l.stackTraces = false) {G : wG} {t0 : Nat} {p1 : Int32} {p2 : Int32} {M : wM} {Q : Bool → wM → Prop} (hp : P_X2_hadVisit G t0 p1 p2 M Q) : wMet l yX2_hadVisit (ws_ yX2_hadVisit cX2_hadVisit 4 (Option.some Jvm.ClassFile.FieldType.boolean)) 17 508 G [.ref t0, .int p1, .int p2] M 0 (wqZ Q) wX0 := by
  refine vx_ofW (cc := cX2_hadVisit) (maxL := 4) (ret := Option.some Jvm.ClassFile.FieldType.boolean) (by decide) rfl ?_
  intro p e s m args below meth c s₁ B hml hnt hv
  obtain ⟨rfl, hM, hK, hZ, hz⟩ := hv
  have hC : wC G s := ⟨hK, hZ, hz⟩
  have hx := B.exec
  have hb := B.bytes
  have hr := B.returns
  have hts := atoms_spec (ws := (ws_ yX2_hadVisit cX2_hadVisit 4 (Option.some Jvm.ClassFile.FieldType.boolean))) B.pre
  have hts : ∀ w ∈ lw_all, w.before _ s = true := fun w h => hts w (List.mem_cons_of_mem _ h)
  have hown : s.vm.findClass RX2 = some m.cls := findClass_of_methodNamed B.named
  have hlk := B.notSynchronized
  have X : CallFix p m c cX2_hadVisit 4 s ([.ref t0, .int p1, .int p2] : List Value).toArray lw_all RX2 := ⟨hx, hb, hml, hown, hts⟩
  have hS : va_S (wA G) s.heap s.heap [] := va_S.rf
  have hl := lv_entry ([.ref t0, .int p1, .int p2]) (n := 4) (Nat.le_of_ble_eq_true rfl)
  rw [lg_entry_eq]
  generalize (lg_sl ([.ref t0, .int p1, .int p2]) ++ List.replicate (4 - (lg_sl ([.ref t0, .int p1, .int p2])).length) Slot.unset).toArray = ls at hl ⊢
  have hl : lv_has ls 4 [(0, .ref t0), (1, .int p1), (2, .int p2)] := hl
  have hB2 : ∀ (rec2 : Nat → Int32 → Int32 → Int32 → wM → Prop) (hrec2 : ∀ (x0 : Nat) (x1 : Int32) (x2 : Int32) (x3 : Int32) (M : wM) (H : Heap) (locs : List Loc) (ls : Array Slot), rec2 x0 x1 x2 x3 M → wR G M H → va_S (wA G) s.heap H locs → lv_has ls 4 [(0, .ref x0), (1, .int x1), (2, .int x2), (3, .int x3)] → W p l e (headSpec (ws_ yX2_hadVisit cX2_hadVisit 4 (Option.some Jvm.ClassFile.FieldType.boolean)) ({ frames := 17, cells := 0, slots := 0, locals := 508 })).room s m ([.ref t0, .int p1, .int p2] : List Value).toArray below meth c H locs 0 0 (vx_MQ below (wQ G (wqZ Q)) (wXC G wX0) ([.ref t0, .int p1, .int p2] : List Value).toArray s 0 0 (wA G)) (F0 m 2 ls [])), ∀ (x0 : Nat) (x1 : Int32) (x2 : Int32) (x3 : Int32) (M : wM) (H : Heap) (locs : List Loc) (ls : Array Slot), B_X2_hadVisit_2 G rec2 Q x0 x1 x2 x3 M → wR G M H → va_S (wA G) s.heap H locs → lv_has ls 4 [(0, .ref x0), (1, .int x1), (2, .int x2), (3, .int x3)] → W p l e (headSpec (ws_ yX2_hadVisit cX2_hadVisit 4 (Option.some Jvm.ClassFile.FieldType.boolean)) ({ frames := 17, cells := 0, slots := 0, locals := 508 })).room s m ([.ref t0, .int p1, .int p2] : List Value).toArray below meth c H locs 0 0 (vx_MQ below (wQ G (wqZ Q)) (wXC G wX0) ([.ref t0, .int p1, .int p2] : List Value).toArray s 0 0 (wA G)) (F0 m 2 ls []) := by
    intro rec2 hrec2 x0 x1 x2 x3 M H locs ls hp hM hS hl
    refine lv_iload_n hx hb dX2_hadVisit_2 rfl (lv_at hl 3 rfl) ?_
    refine lv_aload_n hx hb dX2_hadVisit_3 rfl (lv_at hl 0 rfl) ?_
    refine x_getA X hC.1 hM (ci := 1) (C := RX2) (T := TX2) (N := 9) rfl in_X2 2 (by decide) q921 (fun _ h9 => h9) dX2_hadVisit_4 hp (fun a1 hp => ?_)
    obtain ⟨hrec, hp⟩ := hp
    refine x_call0I5 (vx_runF (hC.1.1.1 16 (RJ2, TJ2, 3) rfl).2 (C := "java/util/ArrayList") (As := []) (rest := [.int x3]) X (P_J2_size_ok (l := l) hl0 hp) (va_cwF 0 hts (lw_app (w_mem4 q493 q496 q498 q153) (lw_meth q500)) rfl rfl rfl (wfw_13 hC.1) (by decide +kernel) ⟨Nat.le_of_ble_eq_true rfl, Nat.le_of_ble_eq_true rfl⟩) ⟨wPc.blind, w_recv hC.1 hM (ci := 16) (q := (RJ2, TJ2, 3)) rfl hrec, w_pre hC hM hS _⟩ rfl rfl hl.1 rfl (lv_room (Nat.le_of_ble_eq_true rfl)) dX2_hadVisit_7 ⟨Nat.le_refl _, Nat.le_refl _⟩) hS ⟨Nat.le_refl _, Nat.le_refl _⟩ (fun _ _ _ _ _ _ h => False.elim h) (fun v4 M2 H locs hp hM hS => ?_)
    refine lv_icmp_ge (tgt := 45) hx hb dX2_hadVisit_12 (by decide) (fun hc => ?_) (fun hc => ?_)
    · have hp := oIf.t hp hc
      refine lv_iconst (v := 0) hx hb dX2_hadVisit_45 (by decide) ?_
      exact x_zret X hr hlk hM hS ⟨Nat.le_refl _, Nat.le_refl _⟩ (by decide) dX2_hadVisit_46 ⟨false, rfl, hp⟩
    · have hp := oIf.f hp hc
      refine lv_aload_n hx hb dX2_hadVisit_15 rfl (lv_at hl 0 rfl) ?_
      refine lv_aload_n hx hb dX2_hadVisit_16 rfl (lv_at hl 0 rfl) ?_
      refine x_getA X hC.1 hM (ci := 1) (C := RX2) (T := TX2) (N := 9) rfl in_X2 2 (by decide) q921 (fun _ h9 => h9) dX2_hadVisit_17 hp (fun a5 hp => ?_)
      refine lv_iload_n hx hb dX2_hadVisit_20 rfl (lv_at hl 3 rfl) ?_
      obtain ⟨hrec, hp⟩ := hp
      refine x_call0R5 (vx_runF (hC.1.1.1 16 (RJ2, TJ2, 3) rfl).2 (C := "java/util/ArrayList") (As := [.int x3]) (rest := [.ref x0]) X (P_J2_get_ok (l := l) hl0 hp) (va_cwF 1 hts (lw_app (w_mem4 q519 q522 q524 q153) (lw_meth q526)) rfl rfl rfl (wfw_8 hC.1) (by decide +kernel) ⟨Nat.le_of_ble_eq_true rfl, Nat.le_of_ble_eq_true rfl⟩) ⟨wPc.blind, w_recv hC.1 hM (ci := 16) (q := (RJ2, TJ2, 3)) rfl hrec, w_pre hC hM hS _⟩ rfl rfl hl.1 rfl (lv_room (Nat.le_of_ble_eq_true rfl)) dX2_hadVisit_21 ⟨Nat.le_refl _, Nat.le_refl _⟩) hS ⟨Nat.le_refl _, Nat.le_refl _⟩ (fun _ _ _ _ _ _ h => False.elim h) (fun r8 M6 H locs hp hM hS => ?_)
      refine x_cast (r := r8) X hC.1 hM q2138 (ci := 10) rfl (Or.inl rfl) dX2_hadVisit_26 hp (fun hp => ?_)
      refine lv_iload_n hx hb dX2_hadVisit_29 rfl (lv_at hl 1 rfl) ?_
      refine lv_iload_n hx hb dX2_hadVisit_30 rfl (lv_at hl 2 rfl) ?_
      obtain ⟨a9, ea, hqa9⟩ := hp
      subst ea
      have hp := hqa9
      obtain ⟨hrec, hp⟩ := hp
      refine x_call0Z (vx_runV (As := [.ref a9, .int x1, .int x2]) (rest := []) X (P_X2_isVisit_ok (l := l) hl0 hp) (cwV 3 hts (lw_V q2481 q2483 qs46 q149 q2484) rfl rfl rfl (by decide +kernel) ⟨Nat.le_of_ble_eq_true rfl, Nat.le_of_ble_eq_true rfl⟩) ⟨wPc.blind, w_recv hC.1 hM (ci := 1) (q := (RX2, TX2, 9)) rfl hrec, w_pre hC hM hS _⟩ rfl rfl hl.1 rfl (lv_room (Nat.le_of_ble_eq_true rfl)) dX2_hadVisit_31 ⟨Nat.le_refl _, Nat.le_refl _⟩) hS ⟨Nat.le_refl _, Nat.le_refl _⟩ (fun _ _ _ _ _ _ h => False.elim h) (fun r12 M10 H locs hp hM hS => ?_)
      refine x_ifeqB (tgt := 39) hx hb dX2_hadVisit_34 (by decide) (fun hc => ?_) (fun hc => ?_)
      · have hp := oIf.bf hp hc
        refine lv_iinc (v := (x3 + 1)) (lv' := [(3, .int (x3 + 1)), (0, .ref x0), (1, .int x1), (2, .int x2)]) hx hb dX2_hadVisit_39 hl (k := 3) rfl rfl (by decide) rfl (fun ls hl => ?_)
        refine lv_goto (tgt := 2) hx hb dX2_hadVisit_42 (by decide) ?_
        exact hrec2 _ _ _ _ _ _ _ _ hp hM hS (lv_sub hl [1, 2, 3, 0] rfl)
      · have hp := oIf.bt hp hc
        refine lv_iconst (v := 1) hx hb dX2_hadVisit_37 (by decide) ?_
        exact x_zret X hr hlk hM hS ⟨Nat.le_refl _, Nat.le_refl _⟩ (by decide) dX2_hadVisit_38 ⟨true, rfl, hp⟩
  have hL2 : ∀ (n : Nat), ∀ (x0 : Nat) (x1 : Int32) (x2 : Int32) (x3 : Int32) (M : wM) (H : Heap) (locs : List Loc) (ls : Array Slot), L_X2_hadVisit_2 G Q n x0 x1 x2 x3 M → wR G M H → va_S (wA G) s.heap H locs → lv_has ls 4 [(0, .ref x0), (1, .int x1), (2, .int x2), (3, .int x3)] → W p l e (headSpec (ws_ yX2_hadVisit cX2_hadVisit 4 (Option.some Jvm.ClassFile.FieldType.boolean)) ({ frames := 17, cells := 0, slots := 0, locals := 508 })).room s m ([.ref t0, .int p1, .int p2] : List Value).toArray below meth c H locs 0 0 (vx_MQ below (wQ G (wqZ Q)) (wXC G wX0) ([.ref t0, .int p1, .int p2] : List Value).toArray s 0 0 (wA G)) (F0 m 2 ls []) := by
    intro n
    induction n with
    | zero => intro _ _ _ _ _ _ _ _ hp; exact False.elim hp
    | succ n ih => intro x0 x1 x2 x3 M H locs ls hp hM hS hl; exact hB2 (L_X2_hadVisit_2 G Q n) ih _ _ _ _ _ _ _ _ hp hM hS hl
  refine lv_iconst (v := 0) hx hb dX2_hadVisit_0 (by decide) ?_
  refine lv_istore_n (lv' := [(3, .int (0 : Int32)), (0, .ref t0), (1, .int p1), (2, .int p2)]) hx hb dX2_hadVisit_1 rfl hl (by decide) rfl (fun ls hl => ?_)
  obtain ⟨n, hp⟩ := hp
  exact hL2 n _ _ _ _ _ _ _ _ hp hM hS (lv_sub hl [1, 2, 3, 0] rfl)
def B_X2_hasAny_57 (G : wG) (rec2 : Nat → Int32 → Int32 → Int32 → wM → Prop) (Q : Bool → wM → Prop) (x0 : Nat) (x1 : Int32) (x2 : Int32) (x3 : Int32) (M : wM) : Prop :=
  rec2 x0 x1 x2 (x3 + 1) M
def B_X2_hasAny_2 (G : wG) (rec2 : Nat → Int32 → Int32 → Int32 → wM → Prop) (Q : Bool → wM → Prop) (x0 : Nat) (x1 : Int32) (x2 : Int32) (x3 : Int32) (M : wM) : Prop :=
  oGetA M x0 1 1 (fun a1 => oIs M a1 16 (P_J2_size G a1 M (fun v4 M2 => oIf (v4 ≤ x3) (Q false M2) (oGetA M2 x0 1 1 (fun a5 => oIs M2 a5 16 (P_J2_get G a5 x3 M2 (fun r8 M6 => oCast M6 r8 9 (oRef r8 (fun a9 => oGetI M6 a9 9 1 (fun v10 => oIf (v10 = x1) (oGetA M6 x0 1 1 (fun a11 => oIs M6 a11 16 (P_J2_get G a11 x3 M6 (fun r14 M12 => oCast M12 r14 9 (oRef r14 (fun a15 => oGetI M12 a15 9 4 (fun v16 => oIf (v16 = x2) (Q true M12) (B_X2_hasAny_57 G rec2 Q x0 x1 x2 x3 M12)))))))) (B_X2_hasAny_57 G rec2 Q x0 x1 x2 x3 M6)))))))))))
def L_X2_hasAny_2 (G : wG) (Q : Bool → wM → Prop) : Nat → Nat → Int32 → Int32 → Int32 → wM → Prop
  | 0 => fun _ _ _ _ _ => False
  | n + 1 => B_X2_hasAny_2 G (L_X2_hasAny_2 G Q n) Q
def P_X2_hasAny (G : wG) (t0 : Nat) (p1 : Int32) (p2 : Int32) (M : wM) (Q : Bool → wM → Prop) : Prop :=
  ∃ n, L_X2_hasAny_2 G Q n t0 p1 p2 (0 : Int32) M
set_option maxHeartbeats 4000000 in
set_option maxRecDepth 100000 in
theorem P_X2_hasAny_ok {l : Launch} (hl0 : l.stackTraces = false) {G : wG} {t0 : Nat} {p1 : Int32} {p2 : Int32} {M : wM} {Q : Bool → wM → Prop} (hp : P_X2_hasAny G t0 p1 p2 M Q) : wMet l yX2_hasAny (ws_ yX2_hasAny cX2_hasAny 4 (Option.some Jvm.ClassFile.FieldType.boolean)) 15 464 G [.ref t0, .int p1, .int p2] M 0 (wqZ Q) wX0 := by
  refine vx_ofW (cc := cX2_hasAny) (maxL := 4) (ret := Option.some Jvm.ClassFile.FieldType.boolean) (by decide) rfl ?_
  intro p e s m args below meth c s₁ B hml hnt hv
  obtain ⟨rfl, hM, hK, hZ, hz⟩ := hv
  have hC : wC G s := ⟨hK, hZ, hz⟩
  have hx := B.exec
  have hb := B.bytes
  have hr := B.returns
  have hts := atoms_spec (ws := (ws_ yX2_hasAny cX2_hasAny 4 (Option.some Jvm.ClassFile.FieldType.boolean))) B.pre
  have hts : ∀ w ∈ lw_all, w.before _ s = true := fun w h => hts w (List.mem_cons_of_mem _ h)
  have hown : s.vm.findClass RX2 = some m.cls := findClass_of_methodNamed B.named
  have hlk := B.notSynchronized
  have X : CallFix p m c cX2_hasAny 4 s ([.ref t0, .int p1, .int p2] : List Value).toArray lw_all RX2 := ⟨hx, hb, hml, hown, hts⟩
  have hS : va_S (wA G) s.heap s.heap [] := va_S.rf
  have hl := lv_entry ([.ref t0, .int p1, .int p2]) (n := 4) (Nat.le_of_ble_eq_true rfl)
  rw [lg_entry_eq]
  generalize (lg_sl ([.ref t0, .int p1, .int p2]) ++ List.replicate (4 - (lg_sl ([.ref t0, .int p1, .int p2])).length) Slot.unset).toArray = ls at hl ⊢
  have hl : lv_has ls 4 [(0, .ref t0), (1, .int p1), (2, .int p2)] := hl
  have hB57 : ∀ (rec2 : Nat → Int32 → Int32 → Int32 → wM → Prop) (hrec2 : ∀ (x0 : Nat) (x1 : Int32) (x2 : Int32) (x3 : Int32) (M : wM) (H : Heap) (locs : List Loc) (ls : Array Slot), rec2 x0 x1 x2 x3 M → wR G M H → va_S (wA G) s.heap H locs → lv_has ls 4 [(0, .ref x0), (1, .int x1), (2, .int x2), (3, .int x3)] → W p l e (headSpec (ws_ yX2_hasAny cX2_hasAny 4 (Option.some Jvm.ClassFile.FieldType.boolean)) ({ frames := 15, cells := 0, slots := 0, locals := 464 })).room s m ([.ref t0, .int p1, .int p2] : List Value).toArray below meth c H locs 0 0 (vx_MQ below (wQ G (wqZ Q)) (wXC G wX0) ([.ref t0, .int p1, .int p2] : List Value).toArray s 0 0 (wA G)) (F0 m 2 ls [])), ∀ (x0 : Nat) (x1 : Int32) (x2 : Int32) (x3 : Int32) (M : wM) (H : Heap) (locs : List Loc) (ls : Array Slot), B_X2_hasAny_57 G rec2 Q x0 x1 x2 x3 M → wR G M H → va_S (wA G) s.heap H locs → lv_has ls 4 [(0, .ref x0), (1, .int x1), (2, .int x2), (3, .int x3)] → W p l e (headSpec (ws_ yX2_hasAny cX2_hasAny 4 (Option.some Jvm.ClassFile.FieldType.boolean)) ({ frames := 15, cells := 0, slots := 0, locals := 464 })).room s m ([.ref t0, .int p1, .int p2] : List Value).toArray below meth c H locs 0 0 (vx_MQ below (wQ G (wqZ Q)) (wXC G wX0) ([.ref t0, .int p1, .int p2] : List Value).toArray s 0 0 (wA G)) (F0 m 57 ls []) := by
    intro rec2 hrec2 x0 x1 x2 x3 M H locs ls hp hM hS hl
    refine lv_iinc (v := (x3 + 1)) (lv' := [(3, .int (x3 + 1)), (0, .ref x0), (1, .int x1), (2, .int x2)]) hx hb dX2_hasAny_57 hl (k := 3) rfl rfl (by decide) rfl (fun ls hl => ?_)
    refine lv_goto (tgt := 2) hx hb dX2_hasAny_60 (by decide) ?_
    exact hrec2 _ _ _ _ _ _ _ _ hp hM hS (lv_sub hl [1, 2, 3, 0] rfl)
  have hB2 : ∀ (rec2 : Nat → Int32 → Int32 → Int32 → wM → Prop) (hrec2 : ∀ (x0 : Nat) (x1 : Int32) (x2 : Int32) (x3 : Int32) (M : wM) (H : Heap) (locs : List Loc) (ls : Array Slot), rec2 x0 x1 x2 x3 M → wR G M H → va_S (wA G) s.heap H locs → lv_has ls 4 [(0, .ref x0), (1, .int x1), (2, .int x2), (3, .int x3)] → W p l e (headSpec (ws_ yX2_hasAny cX2_hasAny 4 (Option.some Jvm.ClassFile.FieldType.boolean)) ({ frames := 15, cells := 0, slots := 0, locals := 464 })).room s m ([.ref t0, .int p1, .int p2] : List Value).toArray below meth c H locs 0 0 (vx_MQ below (wQ G (wqZ Q)) (wXC G wX0) ([.ref t0, .int p1, .int p2] : List Value).toArray s 0 0 (wA G)) (F0 m 2 ls [])), ∀ (x0 : Nat) (x1 : Int32) (x2 : Int32) (x3 : Int32) (M : wM) (H : Heap) (locs : List Loc) (ls : Array Slot), B_X2_hasAny_2 G rec2 Q x0 x1 x2 x3 M → wR G M H → va_S (wA G) s.heap H locs → lv_has ls 4 [(0, .ref x0), (1, .int x1), (2, .int x2), (3, .int x3)] → W p l e (headSpec (ws_ yX2_hasAny cX2_hasAny 4 (Option.some Jvm.ClassFile.FieldType.boolean)) ({ frames := 15, cells := 0, slots := 0, locals := 464 })).room s m ([.ref t0, .int p1, .int p2] : List Value).toArray below meth c H locs 0 0 (vx_MQ below (wQ G (wqZ Q)) (wXC G wX0) ([.ref t0, .int p1, .int p2] : List Value).toArray s 0 0 (wA G)) (F0 m 2 ls []) := by
    intro rec2 hrec2 x0 x1 x2 x3 M H locs ls hp hM hS hl
    refine lv_iload_n hx hb dX2_hasAny_2 rfl (lv_at hl 3 rfl) ?_
    refine lv_aload_n hx hb dX2_hasAny_3 rfl (lv_at hl 0 rfl) ?_
    refine x_getA X hC.1 hM (ci := 1) (C := RX2) (T := TX2) (N := 9) rfl in_X2 1 (by decide) q919 (fun _ h9 => h9) dX2_hasAny_4 hp (fun a1 hp => ?_)
    obtain ⟨hrec, hp⟩ := hp
    refine x_call0I5 (vx_runF (hC.1.1.1 16 (RJ2, TJ2, 3) rfl).2 (C := "java/util/ArrayList") (As := []) (rest := [.int x3]) X (P_J2_size_ok (l := l) hl0 hp) (va_cwF 0 hts (lw_app (w_mem4 q493 q496 q498 q153) (lw_meth q500)) rfl rfl rfl (wfw_13 hC.1) (by decide +kernel) ⟨Nat.le_of_ble_eq_true rfl, Nat.le_of_ble_eq_true rfl⟩) ⟨wPc.blind, w_recv hC.1 hM (ci := 16) (q := (RJ2, TJ2, 3)) rfl hrec, w_pre hC hM hS _⟩ rfl rfl hl.1 rfl (lv_room (Nat.le_of_ble_eq_true rfl)) dX2_hasAny_7 ⟨Nat.le_refl _, Nat.le_refl _⟩) hS ⟨Nat.le_refl _, Nat.le_refl _⟩ (fun _ _ _ _ _ _ h => False.elim h) (fun v4 M2 H locs hp hM hS => ?_)
    refine lv_icmp_ge (tgt := 63) hx hb dX2_hasAny_12 (by decide) (fun hc => ?_) (fun hc => ?_)
    · have hp := oIf.t hp hc
      refine lv_iconst (v := 0) hx hb dX2_hasAny_63 (by decide) ?_
      exact x_zret X hr hlk hM hS ⟨Nat.le_refl _, Nat.le_refl _⟩ (by decide) dX2_hasAny_64 ⟨false, rfl, hp⟩
    · have hp := oIf.f hp hc
      refine lv_aload_n hx hb dX2_hasAny_15 rfl (lv_at hl 0 rfl) ?_
      refine x_getA X hC.1 hM (ci := 1) (C := RX2) (T := TX2) (N := 9) rfl in_X2 1 (by decide) q919 (fun _ h9 => h9) dX2_hasAny_16 hp (fun a5 hp => ?_)
      refine lv_iload_n hx hb dX2_hasAny_19 rfl (lv_at hl 3 rfl) ?_
      obtain ⟨hrec, hp⟩ := hp
      refine x_call0R5 (vx_runF (hC.1.1.1 16 (RJ2, TJ2, 3) rfl).2 (C := "java/util/ArrayList") (As := [.int x3]) (rest := []) X (P_J2_get_ok (l := l) hl0 hp) (va_cwF 1 hts (lw_app (w_mem4 q519 q522 q524 q153) (lw_meth q526)) rfl rfl rfl (wfw_8 hC.1) (by decide +kernel) ⟨Nat.le_of_ble_eq_true rfl, Nat.le_of_ble_eq_true rfl⟩) ⟨wPc.blind, w_recv hC.1 hM (ci := 16) (q := (RJ2, TJ2, 3)) rfl hrec, w_pre hC hM hS _⟩ rfl rfl hl.1 rfl (lv_room (Nat.le_of_ble_eq_true rfl)) dX2_hasAny_20 ⟨Nat.le_refl _, Nat.le_refl _⟩) hS ⟨Nat.le_refl _, Nat.le_refl _⟩ (fun _ _ _ _ _ _ h => False.elim h) (fun r8 M6 H locs hp hM hS => ?_)
      refine x_cast (r := r8) X hC.1 hM q2070 (ci := 9) rfl (Or.inl rfl) dX2_hasAny_25 hp (fun hp => ?_)
      obtain ⟨a9, ea, hqa9⟩ := hp
      subst ea
      have hp := hqa9
      refine x_getI X hC.1 hM (ci := 9) (C := RX12) (T := TX12) (N := 8) rfl in_X12 1 (by decide) q2114 (fun x9 h9 => u_same (hts _ q2111) x9 h9) dX2_hasAny_28 hp (fun v10 hp => ?_)
      refine lv_iload_n hx hb dX2_hasAny_31 rfl (lv_at hl 1 rfl) ?_
      refine lv_icmp_ne (tgt := 57) hx hb dX2_hasAny_32 (by decide) (fun hc => ?_) (fun hc => ?_)
      · have hp := oIf.f hp hc
        exact hB57 rec2 hrec2 _ _ _ _ _ _ _ _ hp hM hS (lv_sub hl [0, 1, 2, 3] rfl)
      · have hp := oIf.t hp hc
        refine lv_aload_n hx hb dX2_hasAny_35 rfl (lv_at hl 0 rfl) ?_
        refine x_getA X hC.1 hM (ci := 1) (C := RX2) (T := TX2) (N := 9) rfl in_X2 1 (by decide) q919 (fun _ h9 => h9) dX2_hasAny_36 hp (fun a11 hp => ?_)
        refine lv_iload_n hx hb dX2_hasAny_39 rfl (lv_at hl 3 rfl) ?_
        obtain ⟨hrec, hp⟩ := hp
        refine x_call0R5 (vx_runF (hC.1.1.1 16 (RJ2, TJ2, 3) rfl).2 (C := "java/util/ArrayList") (As := [.int x3]) (rest := []) X (P_J2_get_ok (l := l) hl0 hp) (va_cwF 1 hts (lw_app (w_mem4 q519 q522 q524 q153) (lw_meth q526)) rfl rfl rfl (wfw_8 hC.1) (by decide +kernel) ⟨Nat.le_of_ble_eq_true rfl, Nat.le_of_ble_eq_true rfl⟩) ⟨wPc.blind, w_recv hC.1 hM (ci := 16) (q := (RJ2, TJ2, 3)) rfl hrec, w_pre hC hM hS _⟩ rfl rfl hl.1 rfl (lv_room (Nat.le_of_ble_eq_true rfl)) dX2_hasAny_40 ⟨Nat.le_refl _, Nat.le_refl _⟩) hS ⟨Nat.le_refl _, Nat.le_refl _⟩ (fun _ _ _ _ _ _ h => False.elim h) (fun r14 M12 H locs hp hM hS => ?_)
        refine x_cast (r := r14) X hC.1 hM q2070 (ci := 9) rfl (Or.inl rfl) dX2_hasAny_45 hp (fun hp => ?_)
        obtain ⟨a15, ea, hqa15⟩ := hp
        subst ea
        have hp := hqa15
        refine x_getIN X hC.1 hM (ci := 9) (C := RX12) (T := TX12) (N := 8) rfl in_X12 4 (by decide) q2090 (fun _ h9 => h9) dX2_hasAny_48 hp (fun v16 hp => ?_)
        refine lv_iload_n hx hb dX2_hasAny_51 rfl (lv_at hl 2 rfl) ?_
        refine lv_icmp_ne (tgt := 57) hx hb dX2_hasAny_52 (by decide) (fun hc => ?_) (fun hc => ?_)
        · have hp := oIf.f hp hc
          exact hB57 rec2 hrec2 _ _ _ _ _ _ _ _ hp hM hS (lv_sub hl [0, 1, 2, 3] rfl)
        · have hp := oIf.t hp hc
          refine lv_iconst (v := 1) hx hb dX2_hasAny_55 (by decide) ?_
          exact x_zret X hr hlk hM hS ⟨Nat.le_refl _, Nat.le_refl _⟩ (by decide) dX2_hasAny_56 ⟨true, rfl, hp⟩
  have hL2 : ∀ (n : Nat), ∀ (x0 : Nat) (x1 : Int32) (x2 : Int32) (x3 : Int32) (M : wM) (H : Heap) (locs : List Loc) (ls : Array Slot), L_X2_hasAny_2 G Q n x0 x1 x2 x3 M → wR G M H → va_S (wA G) s.heap H locs → lv_has ls 4 [(0, .ref x0), (1, .int x1), (2, .int x2), (3, .int x3)] → W p l e (headSpec (ws_ yX2_hasAny cX2_hasAny 4 (Option.some Jvm.ClassFile.FieldType.boolean)) ({ frames := 15, cells := 0, slots := 0, locals := 464 })).room s m ([.ref t0, .int p1, .int p2] : List Value).toArray below meth c H locs 0 0 (vx_MQ below (wQ G (wqZ Q)) (wXC G wX0) ([.ref t0, .int p1, .int p2] : List Value).toArray s 0 0 (wA G)) (F0 m 2 ls []) := by
    intro n
    induction n with
    | zero => intro _ _ _ _ _ _ _ _ hp; exact False.elim hp
    | succ n ih => intro x0 x1 x2 x3 M H locs ls hp hM hS hl; exact hB2 (L_X2_hasAny_2 G Q n) ih _ _ _ _ _ _ _ _ hp hM hS hl
  refine lv_iconst (v := 0) hx hb dX2_hasAny_0 (by decide) ?_
  refine lv_istore_n (lv' := [(3, .int (0 : Int32)), (0, .ref t0), (1, .int p1), (2, .int p2)]) hx hb dX2_hasAny_1 rfl hl (by decide) rfl (fun ls hl => ?_)
  obtain ⟨n, hp⟩ := hp
  exact hL2 n _ _ _ _ _ _ _ _ hp hM hS (lv_sub hl [1, 2, 3, 0] rfl)
def B_X2_breaks_119 (G : wG) (Q : Bool → wM → Prop) (y0 : Int32) (M : wM) : Prop :=
  ∃ r : Bool, y0 = wb r ∧ Q r M
def B_X2_breaks_75 (G : wG) (Q : Bool → wM → Prop) (M : wM) : Prop :=
  B_X2_breaks_119 G Q (1 : Int32) M
def B_X2_breaks_110 (G : wG) (Q : Bool → wM → Prop) (M : wM) : Prop :=
  B_X2_breaks_119 G Q (1 : Int32) M
def P_X2_breaks (G : wG) (t0 : Nat) (p1 : Int32) (p2 : Int32) (p3 : Int32) (M : wM) (Q : Bool → wM → Prop) : Prop :=
  oIf (p1 = (1 : Int32)) (oIs M t0 1 (P_X2_hasPermit G t0 p2 p3 (3 : Int32) M (fun r3 M1 => B_X2_breaks_119 G Q (wb r3) M1))) (oIf (p1 = (2 : Int32)) (oIs M t0 1 (P_X2_hadVisit G t0 p2 p3 M (fun r6 M4 => B_X2_breaks_119 G Q (wb r6) M4))) (oIf (p1 = (3 : Int32)) (oIs M t0 1 (P_X2_hasPermit G t0 p2 p3 (0 : Int32) M (fun r9 M7 => oIf (r9 = true) (B_X2_breaks_75 G Q M7) (oIs M7 t0 1 (P_X2_hasPermit G t0 p2 p3 (1 : Int32) M7 (fun r12 M10 => oIf (r12 = true) (B_X2_breaks_75 G Q M10) (B_X2_breaks_119 G Q (0 : Int32) M10))))))) (oIf (p1 = (4 : Int32)) (oIs M t0 1 (P_X2_hasAny G t0 p2 (2 : Int32) M (fun r15 M13 => B_X2_breaks_119 G Q (wb r15) M13))) (oIf (p1 = (5 : Int32)) (oIs M t0 1 (P_X2_hasAny G t0 p2 (4 : Int32) M (fun r18 M16 => oIf (r18 = true) (B_X2_breaks_110 G Q M16) (oIs M16 t0 1 (P_X2_hasAny G t0 p2 (5 : Int32) M16 (fun r21 M19 => oIf (r21 = true) (B_X2_breaks_110 G Q M19) (B_X2_breaks_119 G Q (0 : Int32) M19))))))) (B_X2_breaks_119 G Q (1 : Int32) M)))))
set_option maxHeartbeats 4000000 in
set_option maxRecDepth 100000 in
theorem P_X2_breaks_ok {l : Launch} (hl0 : l.stackTraces = false) {G : wG} {t0 : Nat} {p1 : Int32} {p2 : Int32} {p3 : Int32} {M : wM} {Q : Bool → wM → Prop} (hp : P_X2_breaks G t0 p1 p2 p3 M Q) : wMet l yX2_breaks (ws_ yX2_breaks cX2_breaks 4 (Option.some Jvm.ClassFile.FieldType.boolean)) 18 531 G [.ref t0, .int p1, .int p2, .int p3] M 0 (wqZ Q) wX0 := by
  refine vx_ofW (cc := cX2_breaks) (maxL := 4) (ret := Option.some Jvm.ClassFile.FieldType.boolean) (by decide) rfl ?_
  intro p e s m args below meth c s₁ B hml hnt hv
  obtain ⟨rfl, hM, hK, hZ, hz⟩ := hv
  have hC : wC G s := ⟨hK, hZ, hz⟩
  have hx := B.exec
  have hb := B.bytes
  have hr := B.returns
  have hts := atoms_spec (ws := (ws_ yX2_breaks cX2_breaks 4 (Option.some Jvm.ClassFile.FieldType.boolean))) B.pre
  have hts : ∀ w ∈ lw_all, w.before _ s = true := fun w h => hts w (List.mem_cons_of_mem _ h)
  have hown : s.vm.findClass RX2 = some m.cls := findClass_of_methodNamed B.named
  have hlk := B.notSynchronized
  have X : CallFix p m c cX2_breaks 4 s ([.ref t0, .int p1, .int p2, .int p3] : List Value).toArray lw_all RX2 := ⟨hx, hb, hml, hown, hts⟩
  have hS : va_S (wA G) s.heap s.heap [] := va_S.rf
  have hl := lv_entry ([.ref t0, .int p1, .int p2, .int p3]) (n := 4) (Nat.le_of_ble_eq_true rfl)
  rw [lg_entry_eq]
  generalize (lg_sl ([.ref t0, .int p1, .int p2, .int p3]) ++ List.replicate (4 - (lg_sl ([.ref t0, .int p1, .int p2, .int p3])).length) Slot.unset).toArray = ls at hl ⊢
  have hl : lv_has ls 4 [(0, .ref t0), (1, .int p1), (2, .int p2), (3, .int p3)] := hl
  have hB119 : ∀ (y0 : Int32) (M : wM) (H : Heap) (locs : List Loc) (ls : Array Slot), B_X2_breaks_119 G Q y0 M → wR G M H → va_S (wA G) s.heap H locs → lv_has ls 4 [] → W p l e (headSpec (ws_ yX2_breaks cX2_breaks 4 (Option.some Jvm.ClassFile.FieldType.boolean)) ({ frames := 18, cells := 0, slots := 0, locals := 531 })).room s m ([.ref t0, .int p1, .int p2, .int p3] : List Value).toArray below meth c H locs 0 0 (vx_MQ below (wQ G (wqZ Q)) (wXC G wX0) ([.ref t0, .int p1, .int p2, .int p3] : List Value).toArray s 0 0 (wA G)) (F0 m 119 ls [.int y0]) := by
    intro y0 M H locs ls hp hM hS hl
    obtain ⟨r, hr0, hp⟩ := hp
    exact x_zret X hr hlk hM hS ⟨Nat.le_refl _, Nat.le_refl _⟩ (by rw [hr0]; exact w_nz _) dX2_breaks_119 ⟨r, by rw [hr0], hp⟩
  have hB75 : ∀ (M : wM) (H : Heap) (locs : List Loc) (ls : Array Slot), B_X2_breaks_75 G Q M → wR G M H → va_S (wA G) s.heap H locs → lv_has ls 4 [] → W p l e (headSpec (ws_ yX2_breaks cX2_breaks 4 (Option.some Jvm.ClassFile.FieldType.boolean)) ({ frames := 18, cells := 0, slots := 0, locals := 531 })).room s m ([.ref t0, .int p1, .int p2, .int p3] : List Value).toArray below meth c H locs 0 0 (vx_MQ below (wQ G (wqZ Q)) (wXC G wX0) ([.ref t0, .int p1, .int p2, .int p3] : List Value).toArray s 0 0 (wA G)) (F0 m 75 ls []) := by
    intro M H locs ls hp hM hS hl
    refine lv_iconst (v := 1) hx hb dX2_breaks_75 (by decide) ?_
    refine lv_goto (tgt := 119) hx hb dX2_breaks_76 (by decide) ?_
    exact hB119 _ _ _ _ _ hp hM hS (lv_sub hl [] rfl)
  have hB110 : ∀ (M : wM) (H : Heap) (locs : List Loc) (ls : Array Slot), B_X2_breaks_110 G Q M → wR G M H → va_S (wA G) s.heap H locs → lv_has ls 4 [] → W p l e (headSpec (ws_ yX2_breaks cX2_breaks 4 (Option.some Jvm.ClassFile.FieldType.boolean)) ({ frames := 18, cells := 0, slots := 0, locals := 531 })).room s m ([.ref t0, .int p1, .int p2, .int p3] : List Value).toArray below meth c H locs 0 0 (vx_MQ below (wQ G (wqZ Q)) (wXC G wX0) ([.ref t0, .int p1, .int p2, .int p3] : List Value).toArray s 0 0 (wA G)) (F0 m 110 ls []) := by
    intro M H locs ls hp hM hS hl
    refine lv_iconst (v := 1) hx hb dX2_breaks_110 (by decide) ?_
    refine lv_goto (tgt := 119) hx hb dX2_breaks_111 (by decide) ?_
    exact hB119 _ _ _ _ _ hp hM hS (lv_sub hl [] rfl)
  refine lv_iload_n hx hb dX2_breaks_0 rfl (lv_at hl 1 rfl) ?_
  by_cases hc0 : p1 = (1 : Int32)
  · have hp := oIf.t hp hc0
    refine lv_tableIn (off := 35) (tgt := 36) hx hb dX2_breaks_1 (by rw [hc0]; decide) (by rw [hc0]; decide) (by rw [hc0]; rfl) (by decide) ?_
    refine lv_aload_n hx hb dX2_breaks_36 rfl (lv_at hl 0 rfl) ?_
    refine lv_iload_n hx hb dX2_breaks_37 rfl (lv_at hl 2 rfl) ?_
    refine lv_iload_n hx hb dX2_breaks_38 rfl (lv_at hl 3 rfl) ?_
    refine lv_iconst (v := 3) hx hb dX2_breaks_39 (by decide) ?_
    obtain ⟨hrec, hp⟩ := hp
    refine x_call0Z (vx_runV (As := [.int p2, .int p3, .int (3 : Int32)]) (rest := []) X (P_X2_hasPermit_ok (l := l) hl0 hp) (cwV 3 hts (lw_V q2468 q2469 q2470 q149 q2471) rfl rfl rfl (by decide +kernel) ⟨Nat.le_of_ble_eq_true rfl, Nat.le_of_ble_eq_true rfl⟩) ⟨wPc.blind, w_recv hC.1 hM (ci := 1) (q := (RX2, TX2, 9)) rfl hrec, w_pre hC hM hS _⟩ rfl rfl hl.1 rfl (lv_room (Nat.le_of_ble_eq_true rfl)) dX2_breaks_40 ⟨Nat.le_refl _, Nat.le_refl _⟩) hS ⟨Nat.le_refl _, Nat.le_refl _⟩ (fun _ _ _ _ _ _ h => False.elim h) (fun r3 M1 H locs hp hM hS => ?_)
    refine lv_goto (tgt := 119) hx hb dX2_breaks_43 (by decide) ?_
    exact hB119 _ _ _ _ _ hp hM hS (lv_sub hl [] rfl)
  · have hp := oIf.f hp hc0
    by_cases hc1 : p1 = (2 : Int32)
    · have hp := oIf.t hp hc1
      refine lv_tableIn (off := 45) (tgt := 46) hx hb dX2_breaks_1 (by rw [hc1]; decide) (by rw [hc1]; decide) (by rw [hc1]; rfl) (by decide) ?_
      refine lv_aload_n hx hb dX2_breaks_46 rfl (lv_at hl 0 rfl) ?_
      refine lv_iload_n hx hb dX2_breaks_47 rfl (lv_at hl 2 rfl) ?_
      refine lv_iload_n hx hb dX2_breaks_48 rfl (lv_at hl 3 rfl) ?_
      obtain ⟨hrec, hp⟩ := hp
      refine x_call0Z (vx_runV (As := [.int p2, .int p3]) (rest := []) X (P_X2_hadVisit_ok (l := l) hl0 hp) (cwV 2 hts (lw_V q2490 q2491 q2492 q149 q2493) rfl rfl rfl (by decide +kernel) ⟨Nat.le_of_ble_eq_true rfl, Nat.le_of_ble_eq_true rfl⟩) ⟨wPc.blind, w_recv hC.1 hM (ci := 1) (q := (RX2, TX2, 9)) rfl hrec, w_pre hC hM hS _⟩ rfl rfl hl.1 rfl (lv_room (Nat.le_of_ble_eq_true rfl)) dX2_breaks_49 ⟨Nat.le_refl _, Nat.le_refl _⟩) hS ⟨Nat.le_refl _, Nat.le_refl _⟩ (fun _ _ _ _ _ _ h => False.elim h) (fun r6 M4 H locs hp hM hS => ?_)
      refine lv_goto (tgt := 119) hx hb dX2_breaks_52 (by decide) ?_
      exact hB119 _ _ _ _ _ hp hM hS (lv_sub hl [] rfl)
    · have hp := oIf.f hp hc1
      by_cases hc2 : p1 = (3 : Int32)
      · have hp := oIf.t hp hc2
        refine lv_tableIn (off := 54) (tgt := 55) hx hb dX2_breaks_1 (by rw [hc2]; decide) (by rw [hc2]; decide) (by rw [hc2]; rfl) (by decide) ?_
        refine lv_aload_n hx hb dX2_breaks_55 rfl (lv_at hl 0 rfl) ?_
        refine lv_iload_n hx hb dX2_breaks_56 rfl (lv_at hl 2 rfl) ?_
        refine lv_iload_n hx hb dX2_breaks_57 rfl (lv_at hl 3 rfl) ?_
        refine lv_iconst (v := 0) hx hb dX2_breaks_58 (by decide) ?_
        obtain ⟨hrec, hp⟩ := hp
        refine x_call0Z (vx_runV (As := [.int p2, .int p3, .int (0 : Int32)]) (rest := []) X (P_X2_hasPermit_ok (l := l) hl0 hp) (cwV 3 hts (lw_V q2468 q2469 q2470 q149 q2471) rfl rfl rfl (by decide +kernel) ⟨Nat.le_of_ble_eq_true rfl, Nat.le_of_ble_eq_true rfl⟩) ⟨wPc.blind, w_recv hC.1 hM (ci := 1) (q := (RX2, TX2, 9)) rfl hrec, w_pre hC hM hS _⟩ rfl rfl hl.1 rfl (lv_room (Nat.le_of_ble_eq_true rfl)) dX2_breaks_59 ⟨Nat.le_refl _, Nat.le_refl _⟩) hS ⟨Nat.le_refl _, Nat.le_refl _⟩ (fun _ _ _ _ _ _ h => False.elim h) (fun r9 M7 H locs hp hM hS => ?_)
        refine x_ifneB (tgt := 75) hx hb dX2_breaks_62 (by decide) (fun hc => ?_) (fun hc => ?_)
        · have hp := oIf.bt hp hc
          exact hB75 _ _ _ _ hp hM hS (lv_sub hl [] rfl)
        · have hp := oIf.bf hp hc
          refine lv_aload_n hx hb dX2_breaks_65 rfl (lv_at hl 0 rfl) ?_
          refine lv_iload_n hx hb dX2_breaks_66 rfl (lv_at hl 2 rfl) ?_
          refine lv_iload_n hx hb dX2_breaks_67 rfl (lv_at hl 3 rfl) ?_
          refine lv_iconst (v := 1) hx hb dX2_breaks_68 (by decide) ?_
          obtain ⟨hrec, hp⟩ := hp
          refine x_call0Z (vx_runV (As := [.int p2, .int p3, .int (1 : Int32)]) (rest := []) X (P_X2_hasPermit_ok (l := l) hl0 hp) (cwV 3 hts (lw_V q2468 q2469 q2470 q149 q2471) rfl rfl rfl (by decide +kernel) ⟨Nat.le_of_ble_eq_true rfl, Nat.le_of_ble_eq_true rfl⟩) ⟨wPc.blind, w_recv hC.1 hM (ci := 1) (q := (RX2, TX2, 9)) rfl hrec, w_pre hC hM hS _⟩ rfl rfl hl.1 rfl (lv_room (Nat.le_of_ble_eq_true rfl)) dX2_breaks_69 ⟨Nat.le_refl _, Nat.le_refl _⟩) hS ⟨Nat.le_refl _, Nat.le_refl _⟩ (fun _ _ _ _ _ _ h => False.elim h) (fun r12 M10 H locs hp hM hS => ?_)
          refine x_ifeqB (tgt := 79) hx hb dX2_breaks_72 (by decide) (fun hc => ?_) (fun hc => ?_)
          · have hp := oIf.bf hp hc
            refine lv_iconst (v := 0) hx hb dX2_breaks_79 (by decide) ?_
            refine lv_goto (tgt := 119) hx hb dX2_breaks_80 (by decide) ?_
            exact hB119 _ _ _ _ _ hp hM hS (lv_sub hl [] rfl)
          · have hp := oIf.bt hp hc
            exact hB75 _ _ _ _ hp hM hS (lv_sub hl [] rfl)
      · have hp := oIf.f hp hc2
        by_cases hc3 : p1 = (4 : Int32)
        · have hp := oIf.t hp hc3
          refine lv_tableIn (off := 82) (tgt := 83) hx hb dX2_breaks_1 (by rw [hc3]; decide) (by rw [hc3]; decide) (by rw [hc3]; rfl) (by decide) ?_
          refine lv_aload_n hx hb dX2_breaks_83 rfl (lv_at hl 0 rfl) ?_
          refine lv_iload_n hx hb dX2_breaks_84 rfl (lv_at hl 2 rfl) ?_
          refine lv_iconst (v := 2) hx hb dX2_breaks_85 (by decide) ?_
          obtain ⟨hrec, hp⟩ := hp
          refine x_call0Z (vx_runV (As := [.int p2, .int (2 : Int32)]) (rest := []) X (P_X2_hasAny_ok (l := l) hl0 hp) (cwV 2 hts (lw_V q2494 q2495 q2496 q149 q2497) rfl rfl rfl (by decide +kernel) ⟨Nat.le_of_ble_eq_true rfl, Nat.le_of_ble_eq_true rfl⟩) ⟨wPc.blind, w_recv hC.1 hM (ci := 1) (q := (RX2, TX2, 9)) rfl hrec, w_pre hC hM hS _⟩ rfl rfl hl.1 rfl (lv_room (Nat.le_of_ble_eq_true rfl)) dX2_breaks_86 ⟨Nat.le_refl _, Nat.le_refl _⟩) hS ⟨Nat.le_refl _, Nat.le_refl _⟩ (fun _ _ _ _ _ _ h => False.elim h) (fun r15 M13 H locs hp hM hS => ?_)
          refine lv_goto (tgt := 119) hx hb dX2_breaks_89 (by decide) ?_
          exact hB119 _ _ _ _ _ hp hM hS (lv_sub hl [] rfl)
        · have hp := oIf.f hp hc3
          by_cases hc4 : p1 = (5 : Int32)
          · have hp := oIf.t hp hc4
            refine lv_tableIn (off := 91) (tgt := 92) hx hb dX2_breaks_1 (by rw [hc4]; decide) (by rw [hc4]; decide) (by rw [hc4]; rfl) (by decide) ?_
            refine lv_aload_n hx hb dX2_breaks_92 rfl (lv_at hl 0 rfl) ?_
            refine lv_iload_n hx hb dX2_breaks_93 rfl (lv_at hl 2 rfl) ?_
            refine lv_iconst (v := 4) hx hb dX2_breaks_94 (by decide) ?_
            obtain ⟨hrec, hp⟩ := hp
            refine x_call0Z (vx_runV (As := [.int p2, .int (4 : Int32)]) (rest := []) X (P_X2_hasAny_ok (l := l) hl0 hp) (cwV 2 hts (lw_V q2494 q2495 q2496 q149 q2497) rfl rfl rfl (by decide +kernel) ⟨Nat.le_of_ble_eq_true rfl, Nat.le_of_ble_eq_true rfl⟩) ⟨wPc.blind, w_recv hC.1 hM (ci := 1) (q := (RX2, TX2, 9)) rfl hrec, w_pre hC hM hS _⟩ rfl rfl hl.1 rfl (lv_room (Nat.le_of_ble_eq_true rfl)) dX2_breaks_95 ⟨Nat.le_refl _, Nat.le_refl _⟩) hS ⟨Nat.le_refl _, Nat.le_refl _⟩ (fun _ _ _ _ _ _ h => False.elim h) (fun r18 M16 H locs hp hM hS => ?_)
            refine x_ifneB (tgt := 110) hx hb dX2_breaks_98 (by decide) (fun hc => ?_) (fun hc => ?_)
            · have hp := oIf.bt hp hc
              exact hB110 _ _ _ _ hp hM hS (lv_sub hl [] rfl)
            · have hp := oIf.bf hp hc
              refine lv_aload_n hx hb dX2_breaks_101 rfl (lv_at hl 0 rfl) ?_
              refine lv_iload_n hx hb dX2_breaks_102 rfl (lv_at hl 2 rfl) ?_
              refine lv_iconst (v := 5) hx hb dX2_breaks_103 (by decide) ?_
              obtain ⟨hrec, hp⟩ := hp
              refine x_call0Z (vx_runV (As := [.int p2, .int (5 : Int32)]) (rest := []) X (P_X2_hasAny_ok (l := l) hl0 hp) (cwV 2 hts (lw_V q2494 q2495 q2496 q149 q2497) rfl rfl rfl (by decide +kernel) ⟨Nat.le_of_ble_eq_true rfl, Nat.le_of_ble_eq_true rfl⟩) ⟨wPc.blind, w_recv hC.1 hM (ci := 1) (q := (RX2, TX2, 9)) rfl hrec, w_pre hC hM hS _⟩ rfl rfl hl.1 rfl (lv_room (Nat.le_of_ble_eq_true rfl)) dX2_breaks_104 ⟨Nat.le_refl _, Nat.le_refl _⟩) hS ⟨Nat.le_refl _, Nat.le_refl _⟩ (fun _ _ _ _ _ _ h => False.elim h) (fun r21 M19 H locs hp hM hS => ?_)
              refine x_ifeqB (tgt := 114) hx hb dX2_breaks_107 (by decide) (fun hc => ?_) (fun hc => ?_)
              · have hp := oIf.bf hp hc
                refine lv_iconst (v := 0) hx hb dX2_breaks_114 (by decide) ?_
                refine lv_goto (tgt := 119) hx hb dX2_breaks_115 (by decide) ?_
                exact hB119 _ _ _ _ _ hp hM hS (lv_sub hl [] rfl)
              · have hp := oIf.bt hp hc
                exact hB110 _ _ _ _ hp hM hS (lv_sub hl [] rfl)
          · have hp := oIf.f hp hc4
            refine lv_tableOut (tgt := 118) hx hb dX2_breaks_1 (w_tsw 1 5 (by decide) (by decide) (fun i hi => ?_)) (by decide) ?_
            · have hi2 : i = 0 ∨ i = 1 ∨ i = 2 ∨ i = 3 ∨ i = 4 := by omega
              rcases hi2 with rfl | rfl | rfl | rfl | rfl
              · exact fun h => hc0 (h.trans (by decide))
              · exact fun h => hc1 (h.trans (by decide))
              · exact fun h => hc2 (h.trans (by decide))
              · exact fun h => hc3 (h.trans (by decide))
              · exact fun h => hc4 (h.trans (by decide))
            · refine lv_iconst (v := 1) hx hb dX2_breaks_118 (by decide) ?_
              exact hB119 _ _ _ _ _ hp hM hS (lv_sub hl [] rfl)
def P_X7_from (G : wG) (t0 : Nat) (M : wM) (Q : Int32 → wM → Prop) : Prop :=
  oGetI M t0 6 1 (fun v1 => P_X10_hours G v1 M (fun v4 M2 => Q v4 M2))
set_option maxHeartbeats 4000000 in
set_option maxRecDepth 100000 in
theorem P_X7_from_ok {l : Launch} (hl0 : l.stackTraces = false) {G : wG} {t0 : Nat} {M : wM} {Q : Int32 → wM → Prop} (hp : P_X7_from G t0 M Q) : wMet l yX7_from (ws_ yX7_from cX7_from 1 (Option.some Jvm.ClassFile.FieldType.int)) 13 420 G [.ref t0] M 0 (wqI Q) wX0 := by
  refine vx_ofW (cc := cX7_from) (maxL := 1) (ret := Option.some Jvm.ClassFile.FieldType.int) (by decide) rfl ?_
  intro p e s m args below meth c s₁ B hml hnt hv
  obtain ⟨rfl, hM, hK, hZ, hz⟩ := hv
  have hC : wC G s := ⟨hK, hZ, hz⟩
  have hx := B.exec
  have hb := B.bytes
  have hr := B.returns
  have hts := atoms_spec (ws := (ws_ yX7_from cX7_from 1 (Option.some Jvm.ClassFile.FieldType.int))) B.pre
  have hts : ∀ w ∈ lw_all, w.before _ s = true := fun w h => hts w (List.mem_cons_of_mem _ h)
  have hown : s.vm.findClass RX7 = some m.cls := findClass_of_methodNamed B.named
  have hlk := B.notSynchronized
  have X : CallFix p m c cX7_from 1 s ([.ref t0] : List Value).toArray lw_all RX7 := ⟨hx, hb, hml, hown, hts⟩
  have hS : va_S (wA G) s.heap s.heap [] := va_S.rf
  have hl := lv_entry ([.ref t0]) (n := 1) (Nat.le_of_ble_eq_true rfl)
  rw [lg_entry_eq]
  generalize (lg_sl ([.ref t0]) ++ List.replicate (1 - (lg_sl ([.ref t0])).length) Slot.unset).toArray = ls at hl ⊢
  have hl : lv_has ls 1 [(0, .ref t0)] := hl
  refine lv_aload_n hx hb dX7_from_0 rfl (lv_at hl 0 rfl) ?_
  refine x_getI X hC.1 hM (ci := 6) (C := RX7) (T := TX7) (N := 4) rfl in_X7 1 (by decide) q1408 (fun _ h9 => h9) dX7_from_1 hp (fun v1 hp => ?_)
  refine x_call0I (vx_runS (As := [.int v1]) (rest := []) X (P_X10_hours_ok (l := l) hl0 hp) (va_cwS 1 hts (lw_S q2297 q2298 q197 q2299) rfl rfl rfl (by decide +kernel) ⟨Nat.le_of_ble_eq_true rfl, Nat.le_of_ble_eq_true rfl⟩) ⟨wPc.blind, w_pre hC hM hS _⟩ rfl rfl hl.1 rfl (lv_room (Nat.le_of_ble_eq_true rfl)) dX7_from_4 ⟨Nat.le_refl _, Nat.le_refl _⟩) hS ⟨Nat.le_refl _, Nat.le_refl _⟩ (fun _ _ _ _ _ _ h => False.elim h) (fun v4 M2 H locs hp hM hS => ?_)
  exact x_iret X hr hlk hM hS ⟨Nat.le_refl _, Nat.le_refl _⟩ dX7_from_7 ⟨_, rfl, hp⟩
def P_X7_to (G : wG) (t0 : Nat) (M : wM) (Q : Int32 → wM → Prop) : Prop :=
  oGetI M t0 6 2 (fun v1 => P_X10_hours G v1 M (fun v4 M2 => Q v4 M2))
set_option maxHeartbeats 4000000 in
set_option maxRecDepth 100000 in
theorem P_X7_to_ok {l : Launch} (hl0 : l.stackTraces = false) {G : wG} {t0 : Nat} {M : wM} {Q : Int32 → wM → Prop} (hp : P_X7_to G t0 M Q) : wMet l yX7_to (ws_ yX7_to cX7_to 1 (Option.some Jvm.ClassFile.FieldType.int)) 13 420 G [.ref t0] M 0 (wqI Q) wX0 := by
  refine vx_ofW (cc := cX7_to) (maxL := 1) (ret := Option.some Jvm.ClassFile.FieldType.int) (by decide) rfl ?_
  intro p e s m args below meth c s₁ B hml hnt hv
  obtain ⟨rfl, hM, hK, hZ, hz⟩ := hv
  have hC : wC G s := ⟨hK, hZ, hz⟩
  have hx := B.exec
  have hb := B.bytes
  have hr := B.returns
  have hts := atoms_spec (ws := (ws_ yX7_to cX7_to 1 (Option.some Jvm.ClassFile.FieldType.int))) B.pre
  have hts : ∀ w ∈ lw_all, w.before _ s = true := fun w h => hts w (List.mem_cons_of_mem _ h)
  have hown : s.vm.findClass RX7 = some m.cls := findClass_of_methodNamed B.named
  have hlk := B.notSynchronized
  have X : CallFix p m c cX7_to 1 s ([.ref t0] : List Value).toArray lw_all RX7 := ⟨hx, hb, hml, hown, hts⟩
  have hS : va_S (wA G) s.heap s.heap [] := va_S.rf
  have hl := lv_entry ([.ref t0]) (n := 1) (Nat.le_of_ble_eq_true rfl)
  rw [lg_entry_eq]
  generalize (lg_sl ([.ref t0]) ++ List.replicate (1 - (lg_sl ([.ref t0])).length) Slot.unset).toArray = ls at hl ⊢
  have hl : lv_has ls 1 [(0, .ref t0)] := hl
  refine lv_aload_n hx hb dX7_to_0 rfl (lv_at hl 0 rfl) ?_
  refine x_getI X hC.1 hM (ci := 6) (C := RX7) (T := TX7) (N := 4) rfl in_X7 2 (by decide) q1410 (fun _ h9 => h9) dX7_to_1 hp (fun v1 hp => ?_)
  refine x_call0I (vx_runS (As := [.int v1]) (rest := []) X (P_X10_hours_ok (l := l) hl0 hp) (va_cwS 1 hts (lw_S q2297 q2298 q197 q2299) rfl rfl rfl (by decide +kernel) ⟨Nat.le_of_ble_eq_true rfl, Nat.le_of_ble_eq_true rfl⟩) ⟨wPc.blind, w_pre hC hM hS _⟩ rfl rfl hl.1 rfl (lv_room (Nat.le_of_ble_eq_true rfl)) dX7_to_4 ⟨Nat.le_refl _, Nat.le_refl _⟩) hS ⟨Nat.le_refl _, Nat.le_refl _⟩ (fun _ _ _ _ _ _ h => False.elim h) (fun v4 M2 H locs hp hM hS => ?_)
  exact x_iret X hr hlk hM hS ⟨Nat.le_refl _, Nat.le_refl _⟩ dX7_to_7 ⟨_, rfl, hp⟩
def B_X10_runs_X7_25 (G : wG) (Q : Bool → wM → Prop) (y0 : Int32) (M : wM) : Prop :=
  ∃ r : Bool, y0 = wb r ∧ Q r M
def B_X10_runs_X7_24 (G : wG) (Q : Bool → wM → Prop) (M : wM) : Prop :=
  B_X10_runs_X7_25 G Q (0 : Int32) M
def P_X10_runs_X7 (G : wG) (t0 : Nat) (p1 : Int32) (M : wM) (Q : Bool → wM → Prop) : Prop :=
  oIs M t0 6 (P_X7_from G t0 M (fun v3 M1 => oIf (p1 < v3) (B_X10_runs_X7_24 G Q M1) (oIs M1 t0 6 (P_X7_to G t0 M1 (fun v6 M4 => oIf (v6 ≤ p1) (B_X10_runs_X7_24 G Q M4) (B_X10_runs_X7_25 G Q (1 : Int32) M4))))))
set_option maxHeartbeats 4000000 in
set_option maxRecDepth 100000 in
theorem P_X10_runs_X7_ok {l : Launch} (hl0 : l.stackTraces = false) {G : wG} {t0 : Nat} {p1 : Int32} {M : wM} {Q : Bool → wM → Prop} (hp : P_X10_runs_X7 G t0 p1 M Q) : wMet l yX10_runs (ws_ yX10_runs cX10_runs 2 (Option.some Jvm.ClassFile.FieldType.boolean)) 14 440 G [.ref t0, .int p1] M 0 (wqZ Q) wX0 := by
  refine vx_ofW (cc := cX10_runs) (maxL := 2) (ret := Option.some Jvm.ClassFile.FieldType.boolean) (by decide) rfl ?_
  intro p e s m args below meth c s₁ B hml hnt hv
  obtain ⟨rfl, hM, hK, hZ, hz⟩ := hv
  have hC : wC G s := ⟨hK, hZ, hz⟩
  have hx := B.exec
  have hb := B.bytes
  have hr := B.returns
  have hts := atoms_spec (ws := (ws_ yX10_runs cX10_runs 2 (Option.some Jvm.ClassFile.FieldType.boolean))) B.pre
  have hts : ∀ w ∈ lw_all, w.before _ s = true := fun w h => hts w (List.mem_cons_of_mem _ h)
  have hown : s.vm.findClass RX10 = some m.cls := findClass_of_methodNamed B.named
  have hlk := B.notSynchronized
  have X : CallFix p m c cX10_runs 2 s ([.ref t0, .int p1] : List Value).toArray lw_all RX10 := ⟨hx, hb, hml, hown, hts⟩
  have hS : va_S (wA G) s.heap s.heap [] := va_S.rf
  have hl := lv_entry ([.ref t0, .int p1]) (n := 2) (Nat.le_of_ble_eq_true rfl)
  rw [lg_entry_eq]
  generalize (lg_sl ([.ref t0, .int p1]) ++ List.replicate (2 - (lg_sl ([.ref t0, .int p1])).length) Slot.unset).toArray = ls at hl ⊢
  have hl : lv_has ls 2 [(0, .ref t0), (1, .int p1)] := hl
  have hB25 : ∀ (y0 : Int32) (M : wM) (H : Heap) (locs : List Loc) (ls : Array Slot), B_X10_runs_X7_25 G Q y0 M → wR G M H → va_S (wA G) s.heap H locs → lv_has ls 2 [] → W p l e (headSpec (ws_ yX10_runs cX10_runs 2 (Option.some Jvm.ClassFile.FieldType.boolean)) ({ frames := 14, cells := 0, slots := 0, locals := 440 })).room s m ([.ref t0, .int p1] : List Value).toArray below meth c H locs 0 0 (vx_MQ below (wQ G (wqZ Q)) (wXC G wX0) ([.ref t0, .int p1] : List Value).toArray s 0 0 (wA G)) (F0 m 25 ls [.int y0]) := by
    intro y0 M H locs ls hp hM hS hl
    obtain ⟨r, hr0, hp⟩ := hp
    exact x_zret X hr hlk hM hS ⟨Nat.le_refl _, Nat.le_refl _⟩ (by rw [hr0]; exact w_nz _) dX10_runs_25 ⟨r, by rw [hr0], hp⟩
  have hB24 : ∀ (M : wM) (H : Heap) (locs : List Loc) (ls : Array Slot), B_X10_runs_X7_24 G Q M → wR G M H → va_S (wA G) s.heap H locs → lv_has ls 2 [] → W p l e (headSpec (ws_ yX10_runs cX10_runs 2 (Option.some Jvm.ClassFile.FieldType.boolean)) ({ frames := 14, cells := 0, slots := 0, locals := 440 })).room s m ([.ref t0, .int p1] : List Value).toArray below meth c H locs 0 0 (vx_MQ below (wQ G (wqZ Q)) (wXC G wX0) ([.ref t0, .int p1] : List Value).toArray s 0 0 (wA G)) (F0 m 24 ls []) := by
    intro M H locs ls hp hM hS hl
    refine lv_iconst (v := 0) hx hb dX10_runs_24 (by decide) ?_
    exact hB25 _ _ _ _ _ hp hM hS (lv_sub hl [] rfl)
  refine lv_aload_n hx hb dX10_runs_0 rfl (lv_at hl 0 rfl) ?_
  obtain ⟨hrec, hp⟩ := hp
  refine x_call0I5 (vx_runF (hC.1.1.1 6 (RX7, TX7, 4) rfl).2 (C := "ParkingOffice$Zone") (As := []) (rest := []) X (P_X7_from_ok (l := l) hl0 hp) (va_cwF 0 hts (lw_app (w_mem4 q2282 q2292 q2294 q186) (lw_meth q2296)) rfl rfl rfl (wfw_2 hC.1) (by decide +kernel) ⟨Nat.le_of_ble_eq_true rfl, Nat.le_of_ble_eq_true rfl⟩) ⟨wPc.blind, w_recv hC.1 hM (ci := 6) (q := (RX7, TX7, 4)) rfl hrec, w_pre hC hM hS _⟩ rfl rfl hl.1 rfl (lv_room (Nat.le_of_ble_eq_true rfl)) dX10_runs_1 ⟨Nat.le_refl _, Nat.le_refl _⟩) hS ⟨Nat.le_refl _, Nat.le_refl _⟩ (fun _ _ _ _ _ _ h => False.elim h) (fun v3 M1 H locs hp hM hS => ?_)
  refine lv_iload_n hx hb dX10_runs_6 rfl (lv_at hl 1 rfl) ?_
  refine lv_icmp_gt (tgt := 24) hx hb dX10_runs_7 (by decide) (fun hc => ?_) (fun hc => ?_)
  · have hp := oIf.t hp hc
    exact hB24 _ _ _ _ hp hM hS (lv_sub hl [] rfl)
  · have hp := oIf.f hp hc
    refine lv_iload_n hx hb dX10_runs_10 rfl (lv_at hl 1 rfl) ?_
    refine lv_aload_n hx hb dX10_runs_11 rfl (lv_at hl 0 rfl) ?_
    obtain ⟨hrec, hp⟩ := hp
    refine x_call0I5 (vx_runF (hC.1.1.1 6 (RX7, TX7, 4) rfl).2 (C := "ParkingOffice$Zone") (As := []) (rest := [.int p1]) X (P_X7_to_ok (l := l) hl0 hp) (va_cwF 0 hts (lw_app (w_mem4 q2301 q2309 q2311 q186) (lw_meth q2313)) rfl rfl rfl (wfw_3 hC.1) (by decide +kernel) ⟨Nat.le_of_ble_eq_true rfl, Nat.le_of_ble_eq_true rfl⟩) ⟨wPc.blind, w_recv hC.1 hM (ci := 6) (q := (RX7, TX7, 4)) rfl hrec, w_pre hC hM hS _⟩ rfl rfl hl.1 rfl (lv_room (Nat.le_of_ble_eq_true rfl)) dX10_runs_12 ⟨Nat.le_refl _, Nat.le_refl _⟩) hS ⟨Nat.le_refl _, Nat.le_refl _⟩ (fun _ _ _ _ _ _ h => False.elim h) (fun v6 M4 H locs hp hM hS => ?_)
    refine lv_icmp_ge (tgt := 24) hx hb dX10_runs_17 (by decide) (fun hc => ?_) (fun hc => ?_)
    · have hp := oIf.t hp hc
      exact hB24 _ _ _ _ hp hM hS (lv_sub hl [] rfl)
    · have hp := oIf.f hp hc
      refine lv_iconst (v := 1) hx hb dX10_runs_20 (by decide) ?_
      refine lv_goto (tgt := 25) hx hb dX10_runs_21 (by decide) ?_
      exact hB25 _ _ _ _ _ hp hM hS (lv_sub hl [] rfl)
def P_X7_isEnforced (G : wG) (t0 : Nat) (p1 : Int32) (M : wM) (Q : Bool → wM → Prop) : Prop :=
  oIs M t0 6 (P_X10_runs_X7 G t0 (p1 - p1 / (1440 : Int32) * (1440 : Int32)) M (fun r3 M1 => Q r3 M1))
set_option maxHeartbeats 4000000 in
set_option maxRecDepth 100000 in
theorem P_X7_isEnforced_ok {l : Launch} (hl0 : l.stackTraces = false) {G : wG} {t0 : Nat} {p1 : Int32} {M : wM} {Q : Bool → wM → Prop} (hp : P_X7_isEnforced G t0 p1 M Q) : wMet l yX7_isEnforced (ws_ yX7_isEnforced cX7_isEnforced 2 (Option.some Jvm.ClassFile.FieldType.boolean)) 15 461 G [.ref t0, .int p1] M 0 (wqZ Q) wX0 := by
  refine vx_ofW (cc := cX7_isEnforced) (maxL := 2) (ret := Option.some Jvm.ClassFile.FieldType.boolean) (by decide) rfl ?_
  intro p e s m args below meth c s₁ B hml hnt hv
  obtain ⟨rfl, hM, hK, hZ, hz⟩ := hv
  have hC : wC G s := ⟨hK, hZ, hz⟩
  have hx := B.exec
  have hb := B.bytes
  have hr := B.returns
  have hts := atoms_spec (ws := (ws_ yX7_isEnforced cX7_isEnforced 2 (Option.some Jvm.ClassFile.FieldType.boolean))) B.pre
  have hts : ∀ w ∈ lw_all, w.before _ s = true := fun w h => hts w (List.mem_cons_of_mem _ h)
  have hown : s.vm.findClass RX7 = some m.cls := findClass_of_methodNamed B.named
  have hlk := B.notSynchronized
  have X : CallFix p m c cX7_isEnforced 2 s ([.ref t0, .int p1] : List Value).toArray lw_all RX7 := ⟨hx, hb, hml, hown, hts⟩
  have hS : va_S (wA G) s.heap s.heap [] := va_S.rf
  have hl := lv_entry ([.ref t0, .int p1]) (n := 2) (Nat.le_of_ble_eq_true rfl)
  rw [lg_entry_eq]
  generalize (lg_sl ([.ref t0, .int p1]) ++ List.replicate (2 - (lg_sl ([.ref t0, .int p1])).length) Slot.unset).toArray = ls at hl ⊢
  have hl : lv_has ls 2 [(0, .ref t0), (1, .int p1)] := hl
  refine lv_aload_n hx hb dX7_isEnforced_0 rfl (lv_at hl 0 rfl) ?_
  refine lv_iload_n hx hb dX7_isEnforced_1 rfl (lv_at hl 1 rfl) ?_
  refine lv_sipush (v := 1440) hx hb dX7_isEnforced_2 (by decide) ?_
  refine lv_irem hx hb dX7_isEnforced_5 (by decide) ?_
  obtain ⟨hrec, hp⟩ := hp
  refine x_call0Z (w_runD (C := "ParkingOffice$Zone") hC (As := [.int (p1 - p1 / (1440 : Int32) * (1440 : Int32))]) (rest := []) X (P_X10_runs_X7_ok (l := l) hl0 hp) q2280 q2278 q197 q2276 (Or.inr rfl) (List.mem_of_getElem? (i := 5) rfl) (List.mem_of_getElem? (i := 6) rfl) rfl rfl ⟨Nat.le_of_ble_eq_true rfl, Nat.le_of_ble_eq_true rfl⟩ ⟨wPc.blind, w_recv hC.1 hM (ci := 6) (q := (RX7, TX7, 4)) rfl hrec, w_pre hC hM hS _⟩ rfl rfl hl.1 rfl (lv_room (Nat.le_of_ble_eq_true rfl)) dX7_isEnforced_6 ⟨Nat.le_refl _, Nat.le_refl _⟩) hS ⟨Nat.le_refl _, Nat.le_refl _⟩ (fun _ _ _ _ _ _ h => False.elim h) (fun r3 M1 H locs hp hM hS => ?_)
  exact x_zret X hr hlk hM hS ⟨Nat.le_refl _, Nat.le_refl _⟩ (w_nz _) dX7_isEnforced_9 ⟨_, rfl, hp⟩
def B_X2_hasVisit_62 (G : wG) (rec2 : Nat → Int32 → Int32 → Int32 → wM → Prop) (Q : Bool → wM → Prop) (x0 : Nat) (x1 : Int32) (x2 : Int32) (x3 : Int32) (M : wM) : Prop :=
  rec2 x0 x1 x2 (x3 + 1) M
def B_X2_hasVisit_2 (G : wG) (rec2 : Nat → Int32 → Int32 → Int32 → wM → Prop) (Q : Bool → wM → Prop) (x0 : Nat) (x1 : Int32) (x2 : Int32) (x3 : Int32) (M : wM) : Prop :=
  oGetA M x0 1 2 (fun a1 => oIs M a1 16 (P_J2_size G a1 M (fun v4 M2 => oIf (v4 ≤ x3) (Q false M2) (oGetA M2 x0 1 2 (fun a5 => oIs M2 a5 16 (P_J2_get G a5 x3 M2 (fun r8 M6 => oCast M6 r8 10 (oRef r8 (fun a9 => oIs M6 x0 1 (P_X2_isVisit G x0 a9 x1 x2 M6 (fun r12 M10 => oIf (r12 = true) (oGetA M10 x0 1 2 (fun a13 => oIs M10 a13 16 (P_J2_get G a13 x3 M10 (fun r16 M14 => oCast M14 r16 10 (oGetI M14 x0 1 8 (fun v17 => oRef r16 (fun a18 => oIs M14 a18 10 (P_X10_runs_X13 G a18 v17 M14 (fun r21 M19 => oIf (r21 = true) (Q true M19) (B_X2_hasVisit_62 G rec2 Q x0 x1 x2 x3 M19)))))))))) (B_X2_hasVisit_62 G rec2 Q x0 x1 x2 x3 M10))))))))))))
def L_X2_hasVisit_2 (G : wG) (Q : Bool → wM → Prop) : Nat → Nat → Int32 → Int32 → Int32 → wM → Prop
  | 0 => fun _ _ _ _ _ => False
  | n + 1 => B_X2_hasVisit_2 G (L_X2_hasVisit_2 G Q n) Q
def P_X2_hasVisit (G : wG) (t0 : Nat) (p1 : Int32) (p2 : Int32) (M : wM) (Q : Bool → wM → Prop) : Prop :=
  ∃ n, L_X2_hasVisit_2 G Q n t0 p1 p2 (0 : Int32) M
set_option maxHeartbeats 4000000 in
set_option maxRecDepth 100000 in
theorem P_X2_hasVisit_ok {l : Launch} (hl0 : l.stackTraces = false) {G : wG} {t0 : Nat} {p1 : Int32} {p2 : Int32} {M : wM} {Q : Bool → wM → Prop} (hp : P_X2_hasVisit G t0 p1 p2 M Q) : wMet l yX2_hasVisit (ws_ yX2_hasVisit cX2_hasVisit 4 (Option.some Jvm.ClassFile.FieldType.boolean)) 17 508 G [.ref t0, .int p1, .int p2] M 0 (wqZ Q) wX0 := by
  refine vx_ofW (cc := cX2_hasVisit) (maxL := 4) (ret := Option.some Jvm.ClassFile.FieldType.boolean) (by decide) rfl ?_
  intro p e s m args below meth c s₁ B hml hnt hv
  obtain ⟨rfl, hM, hK, hZ, hz⟩ := hv
  have hC : wC G s := ⟨hK, hZ, hz⟩
  have hx := B.exec
  have hb := B.bytes
  have hr := B.returns
  have hts := atoms_spec (ws := (ws_ yX2_hasVisit cX2_hasVisit 4 (Option.some Jvm.ClassFile.FieldType.boolean))) B.pre
  have hts : ∀ w ∈ lw_all, w.before _ s = true := fun w h => hts w (List.mem_cons_of_mem _ h)
  have hown : s.vm.findClass RX2 = some m.cls := findClass_of_methodNamed B.named
  have hlk := B.notSynchronized
  have X : CallFix p m c cX2_hasVisit 4 s ([.ref t0, .int p1, .int p2] : List Value).toArray lw_all RX2 := ⟨hx, hb, hml, hown, hts⟩
  have hS : va_S (wA G) s.heap s.heap [] := va_S.rf
  have hl := lv_entry ([.ref t0, .int p1, .int p2]) (n := 4) (Nat.le_of_ble_eq_true rfl)
  rw [lg_entry_eq]
  generalize (lg_sl ([.ref t0, .int p1, .int p2]) ++ List.replicate (4 - (lg_sl ([.ref t0, .int p1, .int p2])).length) Slot.unset).toArray = ls at hl ⊢
  have hl : lv_has ls 4 [(0, .ref t0), (1, .int p1), (2, .int p2)] := hl
  have hB62 : ∀ (rec2 : Nat → Int32 → Int32 → Int32 → wM → Prop) (hrec2 : ∀ (x0 : Nat) (x1 : Int32) (x2 : Int32) (x3 : Int32) (M : wM) (H : Heap) (locs : List Loc) (ls : Array Slot), rec2 x0 x1 x2 x3 M → wR G M H → va_S (wA G) s.heap H locs → lv_has ls 4 [(0, .ref x0), (1, .int x1), (2, .int x2), (3, .int x3)] → W p l e (headSpec (ws_ yX2_hasVisit cX2_hasVisit 4 (Option.some Jvm.ClassFile.FieldType.boolean)) ({ frames := 17, cells := 0, slots := 0, locals := 508 })).room s m ([.ref t0, .int p1, .int p2] : List Value).toArray below meth c H locs 0 0 (vx_MQ below (wQ G (wqZ Q)) (wXC G wX0) ([.ref t0, .int p1, .int p2] : List Value).toArray s 0 0 (wA G)) (F0 m 2 ls [])), ∀ (x0 : Nat) (x1 : Int32) (x2 : Int32) (x3 : Int32) (M : wM) (H : Heap) (locs : List Loc) (ls : Array Slot), B_X2_hasVisit_62 G rec2 Q x0 x1 x2 x3 M → wR G M H → va_S (wA G) s.heap H locs → lv_has ls 4 [(0, .ref x0), (1, .int x1), (2, .int x2), (3, .int x3)] → W p l e (headSpec (ws_ yX2_hasVisit cX2_hasVisit 4 (Option.some Jvm.ClassFile.FieldType.boolean)) ({ frames := 17, cells := 0, slots := 0, locals := 508 })).room s m ([.ref t0, .int p1, .int p2] : List Value).toArray below meth c H locs 0 0 (vx_MQ below (wQ G (wqZ Q)) (wXC G wX0) ([.ref t0, .int p1, .int p2] : List Value).toArray s 0 0 (wA G)) (F0 m 62 ls []) := by
    intro rec2 hrec2 x0 x1 x2 x3 M H locs ls hp hM hS hl
    refine lv_iinc (v := (x3 + 1)) (lv' := [(3, .int (x3 + 1)), (0, .ref x0), (1, .int x1), (2, .int x2)]) hx hb dX2_hasVisit_62 hl (k := 3) rfl rfl (by decide) rfl (fun ls hl => ?_)
    refine lv_goto (tgt := 2) hx hb dX2_hasVisit_65 (by decide) ?_
    exact hrec2 _ _ _ _ _ _ _ _ hp hM hS (lv_sub hl [1, 2, 3, 0] rfl)
  have hB2 : ∀ (rec2 : Nat → Int32 → Int32 → Int32 → wM → Prop) (hrec2 : ∀ (x0 : Nat) (x1 : Int32) (x2 : Int32) (x3 : Int32) (M : wM) (H : Heap) (locs : List Loc) (ls : Array Slot), rec2 x0 x1 x2 x3 M → wR G M H → va_S (wA G) s.heap H locs → lv_has ls 4 [(0, .ref x0), (1, .int x1), (2, .int x2), (3, .int x3)] → W p l e (headSpec (ws_ yX2_hasVisit cX2_hasVisit 4 (Option.some Jvm.ClassFile.FieldType.boolean)) ({ frames := 17, cells := 0, slots := 0, locals := 508 })).room s m ([.ref t0, .int p1, .int p2] : List Value).toArray below meth c H locs 0 0 (vx_MQ below (wQ G (wqZ Q)) (wXC G wX0) ([.ref t0, .int p1, .int p2] : List Value).toArray s 0 0 (wA G)) (F0 m 2 ls [])), ∀ (x0 : Nat) (x1 : Int32) (x2 : Int32) (x3 : Int32) (M : wM) (H : Heap) (locs : List Loc) (ls : Array Slot), B_X2_hasVisit_2 G rec2 Q x0 x1 x2 x3 M → wR G M H → va_S (wA G) s.heap H locs → lv_has ls 4 [(0, .ref x0), (1, .int x1), (2, .int x2), (3, .int x3)] → W p l e (headSpec (ws_ yX2_hasVisit cX2_hasVisit 4 (Option.some Jvm.ClassFile.FieldType.boolean)) ({ frames := 17, cells := 0, slots := 0, locals := 508 })).room s m ([.ref t0, .int p1, .int p2] : List Value).toArray below meth c H locs 0 0 (vx_MQ below (wQ G (wqZ Q)) (wXC G wX0) ([.ref t0, .int p1, .int p2] : List Value).toArray s 0 0 (wA G)) (F0 m 2 ls []) := by
    intro rec2 hrec2 x0 x1 x2 x3 M H locs ls hp hM hS hl
    refine lv_iload_n hx hb dX2_hasVisit_2 rfl (lv_at hl 3 rfl) ?_
    refine lv_aload_n hx hb dX2_hasVisit_3 rfl (lv_at hl 0 rfl) ?_
    refine x_getA X hC.1 hM (ci := 1) (C := RX2) (T := TX2) (N := 9) rfl in_X2 2 (by decide) q921 (fun _ h9 => h9) dX2_hasVisit_4 hp (fun a1 hp => ?_)
    obtain ⟨hrec, hp⟩ := hp
    refine x_call0I5 (vx_runF (hC.1.1.1 16 (RJ2, TJ2, 3) rfl).2 (C := "java/util/ArrayList") (As := []) (rest := [.int x3]) X (P_J2_size_ok (l := l) hl0 hp) (va_cwF 0 hts (lw_app (w_mem4 q493 q496 q498 q153) (lw_meth q500)) rfl rfl rfl (wfw_13 hC.1) (by decide +kernel) ⟨Nat.le_of_ble_eq_true rfl, Nat.le_of_ble_eq_true rfl⟩) ⟨wPc.blind, w_recv hC.1 hM (ci := 16) (q := (RJ2, TJ2, 3)) rfl hrec, w_pre hC hM hS _⟩ rfl rfl hl.1 rfl (lv_room (Nat.le_of_ble_eq_true rfl)) dX2_hasVisit_7 ⟨Nat.le_refl _, Nat.le_refl _⟩) hS ⟨Nat.le_refl _, Nat.le_refl _⟩ (fun _ _ _ _ _ _ h => False.elim h) (fun v4 M2 H locs hp hM hS => ?_)
    refine lv_icmp_ge (tgt := 68) hx hb dX2_hasVisit_12 (by decide) (fun hc => ?_) (fun hc => ?_)
    · have hp := oIf.t hp hc
      refine lv_iconst (v := 0) hx hb dX2_hasVisit_68 (by decide) ?_
      exact x_zret X hr hlk hM hS ⟨Nat.le_refl _, Nat.le_refl _⟩ (by decide) dX2_hasVisit_69 ⟨false, rfl, hp⟩
    · have hp := oIf.f hp hc
      refine lv_aload_n hx hb dX2_hasVisit_15 rfl (lv_at hl 0 rfl) ?_
      refine lv_aload_n hx hb dX2_hasVisit_16 rfl (lv_at hl 0 rfl) ?_
      refine x_getA X hC.1 hM (ci := 1) (C := RX2) (T := TX2) (N := 9) rfl in_X2 2 (by decide) q921 (fun _ h9 => h9) dX2_hasVisit_17 hp (fun a5 hp => ?_)
      refine lv_iload_n hx hb dX2_hasVisit_20 rfl (lv_at hl 3 rfl) ?_
      obtain ⟨hrec, hp⟩ := hp
      refine x_call0R5 (vx_runF (hC.1.1.1 16 (RJ2, TJ2, 3) rfl).2 (C := "java/util/ArrayList") (As := [.int x3]) (rest := [.ref x0]) X (P_J2_get_ok (l := l) hl0 hp) (va_cwF 1 hts (lw_app (w_mem4 q519 q522 q524 q153) (lw_meth q526)) rfl rfl rfl (wfw_8 hC.1) (by decide +kernel) ⟨Nat.le_of_ble_eq_true rfl, Nat.le_of_ble_eq_true rfl⟩) ⟨wPc.blind, w_recv hC.1 hM (ci := 16) (q := (RJ2, TJ2, 3)) rfl hrec, w_pre hC hM hS _⟩ rfl rfl hl.1 rfl (lv_room (Nat.le_of_ble_eq_true rfl)) dX2_hasVisit_21 ⟨Nat.le_refl _, Nat.le_refl _⟩) hS ⟨Nat.le_refl _, Nat.le_refl _⟩ (fun _ _ _ _ _ _ h => False.elim h) (fun r8 M6 H locs hp hM hS => ?_)
      refine x_cast (r := r8) X hC.1 hM q2138 (ci := 10) rfl (Or.inl rfl) dX2_hasVisit_26 hp (fun hp => ?_)
      refine lv_iload_n hx hb dX2_hasVisit_29 rfl (lv_at hl 1 rfl) ?_
      refine lv_iload_n hx hb dX2_hasVisit_30 rfl (lv_at hl 2 rfl) ?_
      obtain ⟨a9, ea, hqa9⟩ := hp
      subst ea
      have hp := hqa9
      obtain ⟨hrec, hp⟩ := hp
      refine x_call0Z (vx_runV (As := [.ref a9, .int x1, .int x2]) (rest := []) X (P_X2_isVisit_ok (l := l) hl0 hp) (cwV 3 hts (lw_V q2481 q2483 qs46 q149 q2484) rfl rfl rfl (by decide +kernel) ⟨Nat.le_of_ble_eq_true rfl, Nat.le_of_ble_eq_true rfl⟩) ⟨wPc.blind, w_recv hC.1 hM (ci := 1) (q := (RX2, TX2, 9)) rfl hrec, w_pre hC hM hS _⟩ rfl rfl hl.1 rfl (lv_room (Nat.le_of_ble_eq_true rfl)) dX2_hasVisit_31 ⟨Nat.le_refl _, Nat.le_refl _⟩) hS ⟨Nat.le_refl _, Nat.le_refl _⟩ (fun _ _ _ _ _ _ h => False.elim h) (fun r12 M10 H locs hp hM hS => ?_)
      refine x_ifeqB (tgt := 62) hx hb dX2_hasVisit_34 (by decide) (fun hc => ?_) (fun hc => ?_)
      · have hp := oIf.bf hp hc
        exact hB62 rec2 hrec2 _ _ _ _ _ _ _ _ hp hM hS (lv_sub hl [0, 1, 2, 3] rfl)
      · have hp := oIf.bt hp hc
        refine lv_aload_n hx hb dX2_hasVisit_37 rfl (lv_at hl 0 rfl) ?_
        refine x_getA X hC.1 hM (ci := 1) (C := RX2) (T := TX2) (N := 9) rfl in_X2 2 (by decide) q921 (fun _ h9 => h9) dX2_hasVisit_38 hp (fun a13 hp => ?_)
        refine lv_iload_n hx hb dX2_hasVisit_41 rfl (lv_at hl 3 rfl) ?_
        obtain ⟨hrec, hp⟩ := hp
        refine x_call0R5 (vx_runF (hC.1.1.1 16 (RJ2, TJ2, 3) rfl).2 (C := "java/util/ArrayList") (As := [.int x3]) (rest := []) X (P_J2_get_ok (l := l) hl0 hp) (va_cwF 1 hts (lw_app (w_mem4 q519 q522 q524 q153) (lw_meth q526)) rfl rfl rfl (wfw_8 hC.1) (by decide +kernel) ⟨Nat.le_of_ble_eq_true rfl, Nat.le_of_ble_eq_true rfl⟩) ⟨wPc.blind, w_recv hC.1 hM (ci := 16) (q := (RJ2, TJ2, 3)) rfl hrec, w_pre hC hM hS _⟩ rfl rfl hl.1 rfl (lv_room (Nat.le_of_ble_eq_true rfl)) dX2_hasVisit_42 ⟨Nat.le_refl _, Nat.le_refl _⟩) hS ⟨Nat.le_refl _, Nat.le_refl _⟩ (fun _ _ _ _ _ _ h => False.elim h) (fun r16 M14 H locs hp hM hS => ?_)
        refine x_cast (r := r16) X hC.1 hM q2138 (ci := 10) rfl (Or.inl rfl) dX2_hasVisit_47 hp (fun hp => ?_)
        refine lv_aload_n hx hb dX2_hasVisit_50 rfl (lv_at hl 0 rfl) ?_
        refine x_getI X hC.1 hM (ci := 1) (C := RX2) (T := TX2) (N := 9) rfl in_X2 8 (by decide) q933 (fun _ h9 => h9) dX2_hasVisit_51 hp (fun v17 hp => ?_)
        obtain ⟨a18, ea, hqa18⟩ := hp
        subst ea
        have hp := hqa18
        obtain ⟨hrec, hp⟩ := hp
        refine x_call0Z (w_runD (C := "ParkingOffice$Visit") hC (As := [.int v17]) (rest := []) X (P_X10_runs_X13_ok (l := l) hl0 hp) q2280 q2278 q197 q2276 (Or.inl rfl) (List.mem_of_getElem? (i := 2) rfl) (List.mem_of_getElem? (i := 3) rfl) rfl rfl ⟨Nat.le_of_ble_eq_true rfl, Nat.le_of_ble_eq_true rfl⟩ ⟨wPc.blind, w_recv hC.1 hM (ci := 10) (q := (RX13, TX13, 4)) rfl hrec, w_pre hC hM hS _⟩ rfl rfl hl.1 rfl (lv_room (Nat.le_of_ble_eq_true rfl)) dX2_hasVisit_54 ⟨Nat.le_refl _, Nat.le_refl _⟩) hS ⟨Nat.le_refl _, Nat.le_refl _⟩ (fun _ _ _ _ _ _ h => False.elim h) (fun r21 M19 H locs hp hM hS => ?_)
        refine x_ifeqB (tgt := 62) hx hb dX2_hasVisit_57 (by decide) (fun hc => ?_) (fun hc => ?_)
        · have hp := oIf.bf hp hc
          exact hB62 rec2 hrec2 _ _ _ _ _ _ _ _ hp hM hS (lv_sub hl [0, 1, 2, 3] rfl)
        · have hp := oIf.bt hp hc
          refine lv_iconst (v := 1) hx hb dX2_hasVisit_60 (by decide) ?_
          exact x_zret X hr hlk hM hS ⟨Nat.le_refl _, Nat.le_refl _⟩ (by decide) dX2_hasVisit_61 ⟨true, rfl, hp⟩
  have hL2 : ∀ (n : Nat), ∀ (x0 : Nat) (x1 : Int32) (x2 : Int32) (x3 : Int32) (M : wM) (H : Heap) (locs : List Loc) (ls : Array Slot), L_X2_hasVisit_2 G Q n x0 x1 x2 x3 M → wR G M H → va_S (wA G) s.heap H locs → lv_has ls 4 [(0, .ref x0), (1, .int x1), (2, .int x2), (3, .int x3)] → W p l e (headSpec (ws_ yX2_hasVisit cX2_hasVisit 4 (Option.some Jvm.ClassFile.FieldType.boolean)) ({ frames := 17, cells := 0, slots := 0, locals := 508 })).room s m ([.ref t0, .int p1, .int p2] : List Value).toArray below meth c H locs 0 0 (vx_MQ below (wQ G (wqZ Q)) (wXC G wX0) ([.ref t0, .int p1, .int p2] : List Value).toArray s 0 0 (wA G)) (F0 m 2 ls []) := by
    intro n
    induction n with
    | zero => intro _ _ _ _ _ _ _ _ hp; exact False.elim hp
    | succ n ih => intro x0 x1 x2 x3 M H locs ls hp hM hS hl; exact hB2 (L_X2_hasVisit_2 G Q n) ih _ _ _ _ _ _ _ _ hp hM hS hl
  refine lv_iconst (v := 0) hx hb dX2_hasVisit_0 (by decide) ?_
  refine lv_istore_n (lv' := [(3, .int (0 : Int32)), (0, .ref t0), (1, .int p1), (2, .int p2)]) hx hb dX2_hasVisit_1 rfl hl (by decide) rfl (fun ls hl => ?_)
  obtain ⟨n, hp⟩ := hp
  exact hL2 n _ _ _ _ _ _ _ _ hp hM hS (lv_sub hl [1, 2, 3, 0] rfl)
def B_X2_isAllowed_70 (G : wG) (Q : Bool → wM → Prop) (y0 : Int32) (M : wM) : Prop :=
  ∃ r : Bool, y0 = wb r ∧ Q r M
def B_X2_isAllowed_65 (G : wG) (Q : Bool → wM → Prop) (M : wM) : Prop :=
  B_X2_isAllowed_70 G Q (1 : Int32) M
def P_X2_isAllowed (G : wG) (t0 : Nat) (p1 : Int32) (p2 : Int32) (M : wM) (Q : Bool → wM → Prop) : Prop :=
  oGetA M t0 1 0 (fun a1 => oGetA M a1 2 0 (fun a2 => oGetA M t0 1 0 (fun a3 => oGetA M a3 2 1 (fun a4 => oIs M a4 16 (P_J2_get G a4 p2 M (fun r7 M5 => oCast M5 r7 7 (oRef r7 (fun a8 => oGetI M5 a8 7 0 (fun v9 => oIs M5 a2 16 (P_J2_get G a2 v9 M5 (fun r12 M10 => oCast M10 r12 6 (oGetI M10 t0 1 8 (fun v13 => oRef r12 (fun a14 => oIs M10 a14 6 (P_X7_isEnforced G a14 v13 M10 (fun r17 M15 => oIf (r17 = true) (oIs M15 t0 1 (P_X2_hasPermit G t0 p1 p2 (2 : Int32) M15 (fun r20 M18 => oIf (r20 = true) (B_X2_isAllowed_65 G Q M18) (oIs M18 t0 1 (P_X2_hasVisit G t0 p1 p2 M18 (fun r23 M21 => oIf (r23 = true) (B_X2_isAllowed_65 G Q M21) (B_X2_isAllowed_70 G Q (0 : Int32) M21))))))) (B_X2_isAllowed_65 G Q M15)))))))))))))))))
set_option maxHeartbeats 4000000 in
set_option maxRecDepth 100000 in
theorem P_X2_isAllowed_ok {l : Launch} (hl0 : l.stackTraces = false) {G : wG} {t0 : Nat} {p1 : Int32} {p2 : Int32} {M : wM} {Q : Bool → wM → Prop} (hp : P_X2_isAllowed G t0 p1 p2 M Q) : wMet l yX2_isAllowed (ws_ yX2_isAllowed cX2_isAllowed 4 (Option.some Jvm.ClassFile.FieldType.boolean)) 18 531 G [.ref t0, .int p1, .int p2] M 0 (wqZ Q) wX0 := by
  refine vx_ofW (cc := cX2_isAllowed) (maxL := 4) (ret := Option.some Jvm.ClassFile.FieldType.boolean) (by decide) rfl ?_
  intro p e s m args below meth c s₁ B hml hnt hv
  obtain ⟨rfl, hM, hK, hZ, hz⟩ := hv
  have hC : wC G s := ⟨hK, hZ, hz⟩
  have hx := B.exec
  have hb := B.bytes
  have hr := B.returns
  have hts := atoms_spec (ws := (ws_ yX2_isAllowed cX2_isAllowed 4 (Option.some Jvm.ClassFile.FieldType.boolean))) B.pre
  have hts : ∀ w ∈ lw_all, w.before _ s = true := fun w h => hts w (List.mem_cons_of_mem _ h)
  have hown : s.vm.findClass RX2 = some m.cls := findClass_of_methodNamed B.named
  have hlk := B.notSynchronized
  have X : CallFix p m c cX2_isAllowed 4 s ([.ref t0, .int p1, .int p2] : List Value).toArray lw_all RX2 := ⟨hx, hb, hml, hown, hts⟩
  have hS : va_S (wA G) s.heap s.heap [] := va_S.rf
  have hl := lv_entry ([.ref t0, .int p1, .int p2]) (n := 4) (Nat.le_of_ble_eq_true rfl)
  rw [lg_entry_eq]
  generalize (lg_sl ([.ref t0, .int p1, .int p2]) ++ List.replicate (4 - (lg_sl ([.ref t0, .int p1, .int p2])).length) Slot.unset).toArray = ls at hl ⊢
  have hl : lv_has ls 4 [(0, .ref t0), (1, .int p1), (2, .int p2)] := hl
  have hB70 : ∀ (y0 : Int32) (M : wM) (H : Heap) (locs : List Loc) (ls : Array Slot), B_X2_isAllowed_70 G Q y0 M → wR G M H → va_S (wA G) s.heap H locs → lv_has ls 4 [] → W p l e (headSpec (ws_ yX2_isAllowed cX2_isAllowed 4 (Option.some Jvm.ClassFile.FieldType.boolean)) ({ frames := 18, cells := 0, slots := 0, locals := 531 })).room s m ([.ref t0, .int p1, .int p2] : List Value).toArray below meth c H locs 0 0 (vx_MQ below (wQ G (wqZ Q)) (wXC G wX0) ([.ref t0, .int p1, .int p2] : List Value).toArray s 0 0 (wA G)) (F0 m 70 ls [.int y0]) := by
    intro y0 M H locs ls hp hM hS hl
    obtain ⟨r, hr0, hp⟩ := hp
    exact x_zret X hr hlk hM hS ⟨Nat.le_refl _, Nat.le_refl _⟩ (by rw [hr0]; exact w_nz _) dX2_isAllowed_70 ⟨r, by rw [hr0], hp⟩
  have hB65 : ∀ (M : wM) (H : Heap) (locs : List Loc) (ls : Array Slot), B_X2_isAllowed_65 G Q M → wR G M H → va_S (wA G) s.heap H locs → lv_has ls 4 [] → W p l e (headSpec (ws_ yX2_isAllowed cX2_isAllowed 4 (Option.some Jvm.ClassFile.FieldType.boolean)) ({ frames := 18, cells := 0, slots := 0, locals := 531 })).room s m ([.ref t0, .int p1, .int p2] : List Value).toArray below meth c H locs 0 0 (vx_MQ below (wQ G (wqZ Q)) (wXC G wX0) ([.ref t0, .int p1, .int p2] : List Value).toArray s 0 0 (wA G)) (F0 m 65 ls []) := by
    intro M H locs ls hp hM hS hl
    refine lv_iconst (v := 1) hx hb dX2_isAllowed_65 (by decide) ?_
    refine lv_goto (tgt := 70) hx hb dX2_isAllowed_66 (by decide) ?_
    exact hB70 _ _ _ _ _ hp hM hS (lv_sub hl [] rfl)
  refine lv_aload_n hx hb dX2_isAllowed_0 rfl (lv_at hl 0 rfl) ?_
  refine x_getA X hC.1 hM (ci := 1) (C := RX2) (T := TX2) (N := 9) rfl in_X2 0 (by decide) q917 (fun _ h9 => h9) dX2_isAllowed_1 hp (fun a1 hp => ?_)
  refine x_getAN X hC.1 hM (ci := 2) (C := RX3) (T := TX3) (N := 8) rfl in_X3 0 (by decide) q396 (fun _ h9 => h9) dX2_isAllowed_4 hp (fun a2 hp => ?_)
  refine lv_aload_n hx hb dX2_isAllowed_7 rfl (lv_at hl 0 rfl) ?_
  refine x_getA X hC.1 hM (ci := 1) (C := RX2) (T := TX2) (N := 9) rfl in_X2 0 (by decide) q917 (fun _ h9 => h9) dX2_isAllowed_8 hp (fun a3 hp => ?_)
  refine x_getAN X hC.1 hM (ci := 2) (C := RX3) (T := TX3) (N := 8) rfl in_X3 1 (by decide) q402 (fun _ h9 => h9) dX2_isAllowed_11 hp (fun a4 hp => ?_)
  refine lv_iload_n hx hb dX2_isAllowed_14 rfl (lv_at hl 2 rfl) ?_
  obtain ⟨hrec, hp⟩ := hp
  refine x_call0R5 (vx_runF (hC.1.1.1 16 (RJ2, TJ2, 3) rfl).2 (C := "java/util/ArrayList") (As := [.int p2]) (rest := [.ref a2]) X (P_J2_get_ok (l := l) hl0 hp) (va_cwF 1 hts (lw_app (w_mem4 q519 q522 q524 q153) (lw_meth q526)) rfl rfl rfl (wfw_8 hC.1) (by decide +kernel) ⟨Nat.le_of_ble_eq_true rfl, Nat.le_of_ble_eq_true rfl⟩) ⟨wPc.blind, w_recv hC.1 hM (ci := 16) (q := (RJ2, TJ2, 3)) rfl hrec, w_pre hC hM hS _⟩ rfl rfl hl.1 rfl (lv_room (Nat.le_of_ble_eq_true rfl)) dX2_isAllowed_15 ⟨Nat.le_refl _, Nat.le_refl _⟩) hS ⟨Nat.le_refl _, Nat.le_refl _⟩ (fun _ _ _ _ _ _ h => False.elim h) (fun r7 M5 H locs hp hM hS => ?_)
  refine x_cast (r := r7) X hC.1 hM q2462 (ci := 7) rfl (Or.inl rfl) dX2_isAllowed_20 hp (fun hp => ?_)
  obtain ⟨a8, ea, hqa8⟩ := hp
  subst ea
  have hp := hqa8
  refine x_getIN X hC.1 hM (ci := 7) (C := RX8) (T := TX8) (N := 3) rfl in_X8 0 (by decide) q1440 (fun _ h9 => h9) dX2_isAllowed_23 hp (fun v9 hp => ?_)
  obtain ⟨hrec, hp⟩ := hp
  refine x_call0R5 (vx_runF (hC.1.1.1 16 (RJ2, TJ2, 3) rfl).2 (C := "java/util/ArrayList") (As := [.int v9]) (rest := []) X (P_J2_get_ok (l := l) hl0 hp) (va_cwF 1 hts (lw_app (w_mem4 q519 q522 q524 q153) (lw_meth q526)) rfl rfl rfl (wfw_8 hC.1) (by decide +kernel) ⟨Nat.le_of_ble_eq_true rfl, Nat.le_of_ble_eq_true rfl⟩) ⟨wPc.blind, w_recv hC.1 hM (ci := 16) (q := (RJ2, TJ2, 3)) rfl hrec, w_pre hC hM hS _⟩ rfl rfl hl.1 rfl (lv_room (Nat.le_of_ble_eq_true rfl)) dX2_isAllowed_26 ⟨Nat.le_refl _, Nat.le_refl _⟩) hS ⟨Nat.le_refl _, Nat.le_refl _⟩ (fun _ _ _ _ _ _ h => False.elim h) (fun r12 M10 H locs hp hM hS => ?_)
  refine x_cast (r := r12) X hC.1 hM q911 (ci := 6) rfl (Or.inl rfl) dX2_isAllowed_31 hp (fun hp => ?_)
  refine x_astore_n (r := r12) (lv' := [(3, va_rf r12), (0, .ref t0), (1, .int p1), (2, .int p2)]) hx hb dX2_isAllowed_34 rfl hl (by decide) rfl (fun ls hl => ?_)
  refine x_aload_n (r := r12) hx hb dX2_isAllowed_35 rfl (lv_at hl 0 rfl) ?_
  refine lv_aload_n hx hb dX2_isAllowed_36 rfl (lv_at hl 1 rfl) ?_
  refine x_getI X hC.1 hM (ci := 1) (C := RX2) (T := TX2) (N := 9) rfl in_X2 8 (by decide) q933 (fun _ h9 => h9) dX2_isAllowed_37 hp (fun v13 hp => ?_)
  obtain ⟨a14, ea, hqa14⟩ := hp
  subst ea
  have hp := hqa14
  have hl : lv_has ls 4 [(3, .ref a14), (0, .ref t0), (1, .int p1), (2, .int p2)] := hl
  obtain ⟨hrec, hp⟩ := hp
  refine x_call0Z (vx_runV (As := [.int v13]) (rest := []) X (P_X7_isEnforced_ok (l := l) hl0 hp) (cwV 1 hts (lw_V q2463 q2464 q2465 q186 q2466) rfl rfl rfl (by decide +kernel) ⟨Nat.le_of_ble_eq_true rfl, Nat.le_of_ble_eq_true rfl⟩) ⟨wPc.blind, w_recv hC.1 hM (ci := 6) (q := (RX7, TX7, 4)) rfl hrec, w_pre hC hM hS _⟩ rfl rfl hl.1 rfl (lv_room (Nat.le_of_ble_eq_true rfl)) dX2_isAllowed_40 ⟨Nat.le_refl _, Nat.le_refl _⟩) hS ⟨Nat.le_refl _, Nat.le_refl _⟩ (fun _ _ _ _ _ _ h => False.elim h) (fun r17 M15 H locs hp hM hS => ?_)
  refine x_ifeqB (tgt := 65) hx hb dX2_isAllowed_43 (by decide) (fun hc => ?_) (fun hc => ?_)
  · have hp := oIf.bf hp hc
    exact hB65 _ _ _ _ hp hM hS (lv_sub hl [] rfl)
  · have hp := oIf.bt hp hc
    refine lv_aload_n hx hb dX2_isAllowed_46 rfl (lv_at hl 1 rfl) ?_
    refine lv_iload_n hx hb dX2_isAllowed_47 rfl (lv_at hl 2 rfl) ?_
    refine lv_iload_n hx hb dX2_isAllowed_48 rfl (lv_at hl 3 rfl) ?_
    refine lv_iconst (v := 2) hx hb dX2_isAllowed_49 (by decide) ?_
    obtain ⟨hrec, hp⟩ := hp
    refine x_call0Z (vx_runV (As := [.int p1, .int p2, .int (2 : Int32)]) (rest := []) X (P_X2_hasPermit_ok (l := l) hl0 hp) (cwV 3 hts (lw_V q2468 q2469 q2470 q149 q2471) rfl rfl rfl (by decide +kernel) ⟨Nat.le_of_ble_eq_true rfl, Nat.le_of_ble_eq_true rfl⟩) ⟨wPc.blind, w_recv hC.1 hM (ci := 1) (q := (RX2, TX2, 9)) rfl hrec, w_pre hC hM hS _⟩ rfl rfl hl.1 rfl (lv_room (Nat.le_of_ble_eq_true rfl)) dX2_isAllowed_50 ⟨Nat.le_refl _, Nat.le_refl _⟩) hS ⟨Nat.le_refl _, Nat.le_refl _⟩ (fun _ _ _ _ _ _ h => False.elim h) (fun r20 M18 H locs hp hM hS => ?_)
    refine x_ifneB (tgt := 65) hx hb dX2_isAllowed_53 (by decide) (fun hc => ?_) (fun hc => ?_)
    · have hp := oIf.bt hp hc
      exact hB65 _ _ _ _ hp hM hS (lv_sub hl [] rfl)
    · have hp := oIf.bf hp hc
      refine lv_aload_n hx hb dX2_isAllowed_56 rfl (lv_at hl 1 rfl) ?_
      refine lv_iload_n hx hb dX2_isAllowed_57 rfl (lv_at hl 2 rfl) ?_
      refine lv_iload_n hx hb dX2_isAllowed_58 rfl (lv_at hl 3 rfl) ?_
      obtain ⟨hrec, hp⟩ := hp
      refine x_call0Z (vx_runV (As := [.int p1, .int p2]) (rest := []) X (P_X2_hasVisit_ok (l := l) hl0 hp) (cwV 2 hts (lw_V q2477 q2479 qs45 q149 q2480) rfl rfl rfl (by decide +kernel) ⟨Nat.le_of_ble_eq_true rfl, Nat.le_of_ble_eq_true rfl⟩) ⟨wPc.blind, w_recv hC.1 hM (ci := 1) (q := (RX2, TX2, 9)) rfl hrec, w_pre hC hM hS _⟩ rfl rfl hl.1 rfl (lv_room (Nat.le_of_ble_eq_true rfl)) dX2_isAllowed_59 ⟨Nat.le_refl _, Nat.le_refl _⟩) hS ⟨Nat.le_refl _, Nat.le_refl _⟩ (fun _ _ _ _ _ _ h => False.elim h) (fun r23 M21 H locs hp hM hS => ?_)
      refine x_ifeqB (tgt := 69) hx hb dX2_isAllowed_62 (by decide) (fun hc => ?_) (fun hc => ?_)
      · have hp := oIf.bf hp hc
        refine lv_iconst (v := 0) hx hb dX2_isAllowed_69 (by decide) ?_
        exact hB70 _ _ _ _ _ hp hM hS (lv_sub hl [] rfl)
      · have hp := oIf.bt hp hc
        exact hB65 _ _ _ _ hp hM hS (lv_sub hl [] rfl)
def B_X2_rule_13 (G : wG) (rec13 : Nat → Int32 → Int32 → Int32 → wM → Prop) (Q : Int32 → wM → Prop) (x0 : Nat) (x1 : Int32) (x2 : Int32) (x3 : Int32) (M : wM) : Prop :=
  oIs M x0 1 (P_X2_breaks G x0 x3 x1 x2 M (fun r3 M1 => oIf (r3 = true) (Q x3 M1) (rec13 x0 x1 x2 (x3 + 1) M1)))
def L_X2_rule_13 (G : wG) (Q : Int32 → wM → Prop) : Nat → Nat → Int32 → Int32 → Int32 → wM → Prop
  | 0 => fun _ _ _ _ _ => False
  | n + 1 => B_X2_rule_13 G (L_X2_rule_13 G Q n) Q
def P_X2_rule (G : wG) (t0 : Nat) (p1 : Int32) (p2 : Int32) (M : wM) (Q : Int32 → wM → Prop) : Prop :=
  oIs M t0 1 (P_X2_isAllowed G t0 p1 p2 M (fun r3 M1 => oIf (r3 = true) (Q (0 : Int32) M1) (∃ n, L_X2_rule_13 G Q n t0 p1 p2 (1 : Int32) M1)))
set_option maxHeartbeats 4000000 in
set_option maxRecDepth 100000 in
theorem P_X2_rule_ok {l : Launch} (hl0 : l.stackTraces = false) {G : wG} {t0 : Nat} {p1 : Int32} {p2 : Int32} {M : wM} {Q : Int32 → wM → Prop} (hp : P_X2_rule G t0 p1 p2 M Q) : wMet l yX2_rule (ws_ yX2_rule cX2_rule 4 (Option.some Jvm.ClassFile.FieldType.int)) 19 554 G [.ref t0, .int p1, .int p2] M 0 (wqI Q) wX0 := by
  refine vx_ofW (cc := cX2_rule) (maxL := 4) (ret := Option.some Jvm.ClassFile.FieldType.int) (by decide) rfl ?_
  intro p e s m args below meth c s₁ B hml hnt hv
  obtain ⟨rfl, hM, hK, hZ, hz⟩ := hv
  have hC : wC G s := ⟨hK, hZ, hz⟩
  have hx := B.exec
  have hb := B.bytes
  have hr := B.returns
  have hts := atoms_spec (ws := (ws_ yX2_rule cX2_rule 4 (Option.some Jvm.ClassFile.FieldType.int))) B.pre
  have hts : ∀ w ∈ lw_all, w.before _ s = true := fun w h => hts w (List.mem_cons_of_mem _ h)
  have hown : s.vm.findClass RX2 = some m.cls := findClass_of_methodNamed B.named
  have hlk := B.notSynchronized
  have X : CallFix p m c cX2_rule 4 s ([.ref t0, .int p1, .int p2] : List Value).toArray lw_all RX2 := ⟨hx, hb, hml, hown, hts⟩
  have hS : va_S (wA G) s.heap s.heap [] := va_S.rf
  have hl := lv_entry ([.ref t0, .int p1, .int p2]) (n := 4) (Nat.le_of_ble_eq_true rfl)
  rw [lg_entry_eq]
  generalize (lg_sl ([.ref t0, .int p1, .int p2]) ++ List.replicate (4 - (lg_sl ([.ref t0, .int p1, .int p2])).length) Slot.unset).toArray = ls at hl ⊢
  have hl : lv_has ls 4 [(0, .ref t0), (1, .int p1), (2, .int p2)] := hl
  have hB13 : ∀ (rec13 : Nat → Int32 → Int32 → Int32 → wM → Prop) (hrec13 : ∀ (x0 : Nat) (x1 : Int32) (x2 : Int32) (x3 : Int32) (M : wM) (H : Heap) (locs : List Loc) (ls : Array Slot), rec13 x0 x1 x2 x3 M → wR G M H → va_S (wA G) s.heap H locs → lv_has ls 4 [(0, .ref x0), (1, .int x1), (2, .int x2), (3, .int x3)] → W p l e (headSpec (ws_ yX2_rule cX2_rule 4 (Option.some Jvm.ClassFile.FieldType.int)) ({ frames := 19, cells := 0, slots := 0, locals := 554 })).room s m ([.ref t0, .int p1, .int p2] : List Value).toArray below meth c H locs 0 0 (vx_MQ below (wQ G (wqI Q)) (wXC G wX0) ([.ref t0, .int p1, .int p2] : List Value).toArray s 0 0 (wA G)) (F0 m 13 ls [])), ∀ (x0 : Nat) (x1 : Int32) (x2 : Int32) (x3 : Int32) (M : wM) (H : Heap) (locs : List Loc) (ls : Array Slot), B_X2_rule_13 G rec13 Q x0 x1 x2 x3 M → wR G M H → va_S (wA G) s.heap H locs → lv_has ls 4 [(0, .ref x0), (1, .int x1), (2, .int x2), (3, .int x3)] → W p l e (headSpec (ws_ yX2_rule cX2_rule 4 (Option.some Jvm.ClassFile.FieldType.int)) ({ frames := 19, cells := 0, slots := 0, locals := 554 })).room s m ([.ref t0, .int p1, .int p2] : List Value).toArray below meth c H locs 0 0 (vx_MQ below (wQ G (wqI Q)) (wXC G wX0) ([.ref t0, .int p1, .int p2] : List Value).toArray s 0 0 (wA G)) (F0 m 13 ls []) := by
    intro rec13 hrec13 x0 x1 x2 x3 M H locs ls hp hM hS hl
    refine lv_aload_n hx hb dX2_rule_13 rfl (lv_at hl 0 rfl) ?_
    refine lv_iload_n hx hb dX2_rule_14 rfl (lv_at hl 3 rfl) ?_
    refine lv_iload_n hx hb dX2_rule_15 rfl (lv_at hl 1 rfl) ?_
    refine lv_iload_n hx hb dX2_rule_16 rfl (lv_at hl 2 rfl) ?_
    obtain ⟨hrec, hp⟩ := hp
    refine x_call0Z (vx_runV (As := [.int x3, .int x1, .int x2]) (rest := []) X (P_X2_breaks_ok (l := l) hl0 hp) (cwV 3 hts (lw_V q2486 q2488 qs47 q149 q2489) rfl rfl rfl (by decide +kernel) ⟨Nat.le_of_ble_eq_true rfl, Nat.le_of_ble_eq_true rfl⟩) ⟨wPc.blind, w_recv hC.1 hM (ci := 1) (q := (RX2, TX2, 9)) rfl hrec, w_pre hC hM hS _⟩ rfl rfl hl.1 rfl (lv_room (Nat.le_of_ble_eq_true rfl)) dX2_rule_17 ⟨Nat.le_refl _, Nat.le_refl _⟩) hS ⟨Nat.le_refl _, Nat.le_refl _⟩ (fun _ _ _ _ _ _ h => False.elim h) (fun r3 M1 H locs hp hM hS => ?_)
    refine x_ifneB (tgt := 29) hx hb dX2_rule_20 (by decide) (fun hc => ?_) (fun hc => ?_)
    · have hp := oIf.bt hp hc
      refine lv_iload_n hx hb dX2_rule_29 rfl (lv_at hl 3 rfl) ?_
      exact x_iret X hr hlk hM hS ⟨Nat.le_refl _, Nat.le_refl _⟩ dX2_rule_30 ⟨_, rfl, hp⟩
    · have hp := oIf.bf hp hc
      refine lv_iinc (v := (x3 + 1)) (lv' := [(3, .int (x3 + 1)), (0, .ref x0), (1, .int x1), (2, .int x2)]) hx hb dX2_rule_23 hl (k := 3) rfl rfl (by decide) rfl (fun ls hl => ?_)
      refine lv_goto (tgt := 13) hx hb dX2_rule_26 (by decide) ?_
      exact hrec13 _ _ _ _ _ _ _ _ hp hM hS (lv_sub hl [1, 2, 3, 0] rfl)
  have hL13 : ∀ (n : Nat), ∀ (x0 : Nat) (x1 : Int32) (x2 : Int32) (x3 : Int32) (M : wM) (H : Heap) (locs : List Loc) (ls : Array Slot), L_X2_rule_13 G Q n x0 x1 x2 x3 M → wR G M H → va_S (wA G) s.heap H locs → lv_has ls 4 [(0, .ref x0), (1, .int x1), (2, .int x2), (3, .int x3)] → W p l e (headSpec (ws_ yX2_rule cX2_rule 4 (Option.some Jvm.ClassFile.FieldType.int)) ({ frames := 19, cells := 0, slots := 0, locals := 554 })).room s m ([.ref t0, .int p1, .int p2] : List Value).toArray below meth c H locs 0 0 (vx_MQ below (wQ G (wqI Q)) (wXC G wX0) ([.ref t0, .int p1, .int p2] : List Value).toArray s 0 0 (wA G)) (F0 m 13 ls []) := by
    intro n
    induction n with
    | zero => intro _ _ _ _ _ _ _ _ hp; exact False.elim hp
    | succ n ih => intro x0 x1 x2 x3 M H locs ls hp hM hS hl; exact hB13 (L_X2_rule_13 G Q n) ih _ _ _ _ _ _ _ _ hp hM hS hl
  refine lv_aload_n hx hb dX2_rule_0 rfl (lv_at hl 0 rfl) ?_
  refine lv_iload_n hx hb dX2_rule_1 rfl (lv_at hl 1 rfl) ?_
  refine lv_iload_n hx hb dX2_rule_2 rfl (lv_at hl 2 rfl) ?_
  obtain ⟨hrec, hp⟩ := hp
  refine x_call0Z (vx_runV (As := [.int p1, .int p2]) (rest := []) X (P_X2_isAllowed_ok (l := l) hl0 hp) (cwV 2 hts (lw_V q2458 q2459 q2460 q149 q2461) rfl rfl rfl (by decide +kernel) ⟨Nat.le_of_ble_eq_true rfl, Nat.le_of_ble_eq_true rfl⟩) ⟨wPc.blind, w_recv hC.1 hM (ci := 1) (q := (RX2, TX2, 9)) rfl hrec, w_pre hC hM hS _⟩ rfl rfl hl.1 rfl (lv_room (Nat.le_of_ble_eq_true rfl)) dX2_rule_3 ⟨Nat.le_refl _, Nat.le_refl _⟩) hS ⟨Nat.le_refl _, Nat.le_refl _⟩ (fun _ _ _ _ _ _ h => False.elim h) (fun r3 M1 H locs hp hM hS => ?_)
  refine x_ifeqB (tgt := 11) hx hb dX2_rule_6 (by decide) (fun hc => ?_) (fun hc => ?_)
  · have hp := oIf.bf hp hc
    refine lv_iconst (v := 1) hx hb dX2_rule_11 (by decide) ?_
    refine lv_istore_n (lv' := [(3, .int (1 : Int32)), (0, .ref t0), (1, .int p1), (2, .int p2)]) hx hb dX2_rule_12 rfl hl (by decide) rfl (fun ls hl => ?_)
    obtain ⟨n, hp⟩ := hp
    exact hL13 n _ _ _ _ _ _ _ _ hp hM hS (lv_sub hl [1, 2, 3, 0] rfl)
  · have hp := oIf.bt hp hc
    refine lv_iconst (v := 0) hx hb dX2_rule_9 (by decide) ?_
    exact x_iret X hr hlk hM hS ⟨Nat.le_refl _, Nat.le_refl _⟩ dX2_rule_10 ⟨_, rfl, hp⟩
def B_X2_fineRule_81 (G : wG) (Q : Int32 → wM → Prop) (y0 : Int32) (M : wM) : Prop :=
  Q y0 M
def B_X2_fineRule_65 (G : wG) (Q : Int32 → wM → Prop) (M : wM) : Prop :=
  B_X2_fineRule_81 G Q (0 : Int32) M
def P_X2_fineRule (G : wG) (t0 : Nat) (p1 : Nat) (M : wM) (Q : Int32 → wM → Prop) : Prop :=
  oGetA M t0 1 0 (fun a1 => oGetA M a1 2 0 (fun a2 => oGetA M t0 1 0 (fun a3 => oGetA M a3 2 1 (fun a4 => oGetI M p1 14 1 (fun v5 => oIs M a4 16 (P_J2_get G a4 v5 M (fun r8 M6 => oCast M6 r8 7 (oRef r8 (fun a9 => oGetI M6 a9 7 0 (fun v10 => oIs M6 a2 16 (P_J2_get G a2 v10 M6 (fun r13 M11 => oCast M11 r13 6 (oRef r13 (fun a14 => oGetI M11 a14 6 3 (fun v15 => oGetI M11 t0 1 8 (fun v16 => oGetI M11 p1 14 2 (fun v17 => oIf ((v16 - v17) ≤ v15) (B_X2_fineRule_65 G Q M11) (oGetI M11 p1 14 0 (fun v18 => oIs M11 t0 1 (P_X2_wasFined G t0 v18 M11 (fun r21 M19 => oIf (r21 = true) (B_X2_fineRule_65 G Q M19) (oGetI M19 p1 14 0 (fun v22 => oGetI M19 p1 14 1 (fun v23 => oIs M19 t0 1 (P_X2_rule G t0 v22 v23 M19 (fun v26 M24 => B_X2_fineRule_81 G Q v26 M24))))))))))))))))))))))))))
set_option maxHeartbeats 4000000 in
set_option maxRecDepth 100000 in
theorem P_X2_fineRule_ok {l : Launch} (hl0 : l.stackTraces = false) {G : wG} {t0 : Nat} {p1 : Nat} {M : wM} {Q : Int32 → wM → Prop} (hp : P_X2_fineRule G t0 p1 M Q) : wMet l yX2_fineRule (ws_ yX2_fineRule cX2_fineRule 3 (Option.some Jvm.ClassFile.FieldType.int)) 20 577 G [.ref t0, .ref p1] M 0 (wqI Q) wX0 := by
  refine vx_ofW (cc := cX2_fineRule) (maxL := 3) (ret := Option.some Jvm.ClassFile.FieldType.int) (by decide) rfl ?_
  intro p e s m args below meth c s₁ B hml hnt hv
  obtain ⟨rfl, hM, hK, hZ, hz⟩ := hv
  have hC : wC G s := ⟨hK, hZ, hz⟩
  have hx := B.exec
  have hb := B.bytes
  have hr := B.returns
  have hts := atoms_spec (ws := (ws_ yX2_fineRule cX2_fineRule 3 (Option.some Jvm.ClassFile.FieldType.int))) B.pre
  have hts : ∀ w ∈ lw_all, w.before _ s = true := fun w h => hts w (List.mem_cons_of_mem _ h)
  have hown : s.vm.findClass RX2 = some m.cls := findClass_of_methodNamed B.named
  have hlk := B.notSynchronized
  have X : CallFix p m c cX2_fineRule 3 s ([.ref t0, .ref p1] : List Value).toArray lw_all RX2 := ⟨hx, hb, hml, hown, hts⟩
  have hS : va_S (wA G) s.heap s.heap [] := va_S.rf
  have hl := lv_entry ([.ref t0, .ref p1]) (n := 3) (Nat.le_of_ble_eq_true rfl)
  rw [lg_entry_eq]
  generalize (lg_sl ([.ref t0, .ref p1]) ++ List.replicate (3 - (lg_sl ([.ref t0, .ref p1])).length) Slot.unset).toArray = ls at hl ⊢
  have hl : lv_has ls 3 [(0, .ref t0), (1, .ref p1)] := hl
  have hB81 : ∀ (y0 : Int32) (M : wM) (H : Heap) (locs : List Loc) (ls : Array Slot), B_X2_fineRule_81 G Q y0 M → wR G M H → va_S (wA G) s.heap H locs → lv_has ls 3 [] → W p l e (headSpec (ws_ yX2_fineRule cX2_fineRule 3 (Option.some Jvm.ClassFile.FieldType.int)) ({ frames := 20, cells := 0, slots := 0, locals := 577 })).room s m ([.ref t0, .ref p1] : List Value).toArray below meth c H locs 0 0 (vx_MQ below (wQ G (wqI Q)) (wXC G wX0) ([.ref t0, .ref p1] : List Value).toArray s 0 0 (wA G)) (F0 m 81 ls [.int y0]) := by
    intro y0 M H locs ls hp hM hS hl
    exact x_iret X hr hlk hM hS ⟨Nat.le_refl _, Nat.le_refl _⟩ dX2_fineRule_81 ⟨_, rfl, hp⟩
  have hB65 : ∀ (M : wM) (H : Heap) (locs : List Loc) (ls : Array Slot), B_X2_fineRule_65 G Q M → wR G M H → va_S (wA G) s.heap H locs → lv_has ls 3 [] → W p l e (headSpec (ws_ yX2_fineRule cX2_fineRule 3 (Option.some Jvm.ClassFile.FieldType.int)) ({ frames := 20, cells := 0, slots := 0, locals := 577 })).room s m ([.ref t0, .ref p1] : List Value).toArray below meth c H locs 0 0 (vx_MQ below (wQ G (wqI Q)) (wXC G wX0) ([.ref t0, .ref p1] : List Value).toArray s 0 0 (wA G)) (F0 m 65 ls []) := by
    intro M H locs ls hp hM hS hl
    refine lv_iconst (v := 0) hx hb dX2_fineRule_65 (by decide) ?_
    refine lv_goto (tgt := 81) hx hb dX2_fineRule_66 (by decide) ?_
    exact hB81 _ _ _ _ _ hp hM hS (lv_sub hl [] rfl)
  refine lv_aload_n hx hb dX2_fineRule_0 rfl (lv_at hl 0 rfl) ?_
  refine x_getA X hC.1 hM (ci := 1) (C := RX2) (T := TX2) (N := 9) rfl in_X2 0 (by decide) q917 (fun _ h9 => h9) dX2_fineRule_1 hp (fun a1 hp => ?_)
  refine x_getAN X hC.1 hM (ci := 2) (C := RX3) (T := TX3) (N := 8) rfl in_X3 0 (by decide) q396 (fun _ h9 => h9) dX2_fineRule_4 hp (fun a2 hp => ?_)
  refine lv_aload_n hx hb dX2_fineRule_7 rfl (lv_at hl 0 rfl) ?_
  refine x_getA X hC.1 hM (ci := 1) (C := RX2) (T := TX2) (N := 9) rfl in_X2 0 (by decide) q917 (fun _ h9 => h9) dX2_fineRule_8 hp (fun a3 hp => ?_)
  refine x_getAN X hC.1 hM (ci := 2) (C := RX3) (T := TX3) (N := 8) rfl in_X3 1 (by decide) q402 (fun _ h9 => h9) dX2_fineRule_11 hp (fun a4 hp => ?_)
  refine lv_aload_n hx hb dX2_fineRule_14 rfl (lv_at hl 1 rfl) ?_
  refine x_getIN X hC.1 hM (ci := 14) (C := RX18) (T := TX18) (N := 3) rfl in_X18 1 (by decide) q2786 (fun _ h9 => h9) dX2_fineRule_15 hp (fun v5 hp => ?_)
  obtain ⟨hrec, hp⟩ := hp
  refine x_call0R5 (vx_runF (hC.1.1.1 16 (RJ2, TJ2, 3) rfl).2 (C := "java/util/ArrayList") (As := [.int v5]) (rest := [.ref a2]) X (P_J2_get_ok (l := l) hl0 hp) (va_cwF 1 hts (lw_app (w_mem4 q519 q522 q524 q153) (lw_meth q526)) rfl rfl rfl (wfw_8 hC.1) (by decide +kernel) ⟨Nat.le_of_ble_eq_true rfl, Nat.le_of_ble_eq_true rfl⟩) ⟨wPc.blind, w_recv hC.1 hM (ci := 16) (q := (RJ2, TJ2, 3)) rfl hrec, w_pre hC hM hS _⟩ rfl rfl hl.1 rfl (lv_room (Nat.le_of_ble_eq_true rfl)) dX2_fineRule_18 ⟨Nat.le_refl _, Nat.le_refl _⟩) hS ⟨Nat.le_refl _, Nat.le_refl _⟩ (fun _ _ _ _ _ _ h => False.elim h) (fun r8 M6 H locs hp hM hS => ?_)
  refine x_cast (r := r8) X hC.1 hM q2462 (ci := 7) rfl (Or.inl rfl) dX2_fineRule_23 hp (fun hp => ?_)
  obtain ⟨a9, ea, hqa9⟩ := hp
  subst ea
  have hp := hqa9
  refine x_getIN X hC.1 hM (ci := 7) (C := RX8) (T := TX8) (N := 3) rfl in_X8 0 (by decide) q1440 (fun _ h9 => h9) dX2_fineRule_26 hp (fun v10 hp => ?_)
  obtain ⟨hrec, hp⟩ := hp
  refine x_call0R5 (vx_runF (hC.1.1.1 16 (RJ2, TJ2, 3) rfl).2 (C := "java/util/ArrayList") (As := [.int v10]) (rest := []) X (P_J2_get_ok (l := l) hl0 hp) (va_cwF 1 hts (lw_app (w_mem4 q519 q522 q524 q153) (lw_meth q526)) rfl rfl rfl (wfw_8 hC.1) (by decide +kernel) ⟨Nat.le_of_ble_eq_true rfl, Nat.le_of_ble_eq_true rfl⟩) ⟨wPc.blind, w_recv hC.1 hM (ci := 16) (q := (RJ2, TJ2, 3)) rfl hrec, w_pre hC hM hS _⟩ rfl rfl hl.1 rfl (lv_room (Nat.le_of_ble_eq_true rfl)) dX2_fineRule_29 ⟨Nat.le_refl _, Nat.le_refl _⟩) hS ⟨Nat.le_refl _, Nat.le_refl _⟩ (fun _ _ _ _ _ _ h => False.elim h) (fun r13 M11 H locs hp hM hS => ?_)
  refine x_cast (r := r13) X hC.1 hM q911 (ci := 6) rfl (Or.inl rfl) dX2_fineRule_34 hp (fun hp => ?_)
  obtain ⟨a14, ea, hqa14⟩ := hp
  subst ea
  have hp := hqa14
  refine x_getIN X hC.1 hM (ci := 6) (C := RX7) (T := TX7) (N := 4) rfl in_X7 3 (by decide) q1414 (fun _ h9 => h9) dX2_fineRule_37 hp (fun v15 hp => ?_)
  refine lv_istore_n (lv' := [(2, .int v15), (0, .ref t0), (1, .ref p1)]) hx hb dX2_fineRule_40 rfl hl (by decide) rfl (fun ls hl => ?_)
  refine lv_aload_n hx hb dX2_fineRule_41 rfl (lv_at hl 1 rfl) ?_
  refine x_getI X hC.1 hM (ci := 1) (C := RX2) (T := TX2) (N := 9) rfl in_X2 8 (by decide) q933 (fun _ h9 => h9) dX2_fineRule_42 hp (fun v16 hp => ?_)
  refine lv_aload_n hx hb dX2_fineRule_45 rfl (lv_at hl 2 rfl) ?_
  refine x_getIN X hC.1 hM (ci := 14) (C := RX18) (T := TX18) (N := 3) rfl in_X18 2 (by decide) q2789 (fun _ h9 => h9) dX2_fineRule_46 hp (fun v17 hp => ?_)
  refine lv_isub hx hb dX2_fineRule_49 ?_
  refine lv_iload_n hx hb dX2_fineRule_50 rfl (lv_at hl 0 rfl) ?_
  refine lv_icmp_le (tgt := 65) hx hb dX2_fineRule_51 (by decide) (fun hc => ?_) (fun hc => ?_)
  · have hp := oIf.t hp hc
    exact hB65 _ _ _ _ hp hM hS (lv_sub hl [] rfl)
  · have hp := oIf.f hp hc
    refine lv_aload_n hx hb dX2_fineRule_54 rfl (lv_at hl 1 rfl) ?_
    refine lv_aload_n hx hb dX2_fineRule_55 rfl (lv_at hl 2 rfl) ?_
    refine x_getIN X hC.1 hM (ci := 14) (C := RX18) (T := TX18) (N := 3) rfl in_X18 0 (by decide) q2783 (fun _ h9 => h9) dX2_fineRule_56 hp (fun v18 hp => ?_)
    obtain ⟨hrec, hp⟩ := hp
    refine x_call0Z (vx_runV (As := [.int v18]) (rest := []) X (P_X2_wasFined_ok (l := l) hl0 hp) (cwV 1 hts (lw_V q2890 q2892 qs58 q149 q2893) rfl rfl rfl (by decide +kernel) ⟨Nat.le_of_ble_eq_true rfl, Nat.le_of_ble_eq_true rfl⟩) ⟨wPc.blind, w_recv hC.1 hM (ci := 1) (q := (RX2, TX2, 9)) rfl hrec, w_pre hC hM hS _⟩ rfl rfl hl.1 rfl (lv_room (Nat.le_of_ble_eq_true rfl)) dX2_fineRule_59 ⟨Nat.le_refl _, Nat.le_refl _⟩) hS ⟨Nat.le_refl _, Nat.le_refl _⟩ (fun _ _ _ _ _ _ h => False.elim h) (fun r21 M19 H locs hp hM hS => ?_)
    refine x_ifeqB (tgt := 69) hx hb dX2_fineRule_62 (by decide) (fun hc => ?_) (fun hc => ?_)
    · have hp := oIf.bf hp hc
      refine lv_aload_n hx hb dX2_fineRule_69 rfl (lv_at hl 1 rfl) ?_
      refine lv_aload_n hx hb dX2_fineRule_70 rfl (lv_at hl 2 rfl) ?_
      refine x_getIN X hC.1 hM (ci := 14) (C := RX18) (T := TX18) (N := 3) rfl in_X18 0 (by decide) q2783 (fun _ h9 => h9) dX2_fineRule_71 hp (fun v22 hp => ?_)
      refine lv_aload_n hx hb dX2_fineRule_74 rfl (lv_at hl 2 rfl) ?_
      refine x_getIN X hC.1 hM (ci := 14) (C := RX18) (T := TX18) (N := 3) rfl in_X18 1 (by decide) q2786 (fun _ h9 => h9) dX2_fineRule_75 hp (fun v23 hp => ?_)
      obtain ⟨hrec, hp⟩ := hp
      refine x_call0I (vx_runV (As := [.int v22, .int v23]) (rest := []) X (P_X2_rule_ok (l := l) hl0 hp) (cwV 2 hts (lw_V q2895 q2455 q2456 q149 q2457) rfl rfl rfl (by decide +kernel) ⟨Nat.le_of_ble_eq_true rfl, Nat.le_of_ble_eq_true rfl⟩) ⟨wPc.blind, w_recv hC.1 hM (ci := 1) (q := (RX2, TX2, 9)) rfl hrec, w_pre hC hM hS _⟩ rfl rfl hl.1 rfl (lv_room (Nat.le_of_ble_eq_true rfl)) dX2_fineRule_78 ⟨Nat.le_refl _, Nat.le_refl _⟩) hS ⟨Nat.le_refl _, Nat.le_refl _⟩ (fun _ _ _ _ _ _ h => False.elim h) (fun v26 M24 H locs hp hM hS => ?_)
      exact hB81 _ _ _ _ _ hp hM hS (lv_sub hl [] rfl)
    · have hp := oIf.bt hp hc
      exact hB65 _ _ _ _ hp hM hS (lv_sub hl [] rfl)
def B_X2_countFines_51 (G : wG) (rec10 : Nat → Int32 → Int32 → Option Nat → wM → Nat → Prop) (Q : Int32 → wM → Prop) (x0 : Nat) (x1 : Int32) (x2 : Int32) (x3 : Nat) (M : wM) (bq : Nat) : Prop :=
  rec10 x0 x1 x2 (some x3) M bq
def B_X2_countFines_10 (G : wG) (rec10 : Nat → Int32 → Int32 → Option Nat → wM → Nat → Prop) (Q : Int32 → wM → Prop) (x0 : Nat) (x1 : Int32) (x2 : Int32) (x3 : Option Nat) (M : wM) (bq : Nat) : Prop :=
  oRef x3 (fun a1 => oIs M a1 19 (P_J36_hasNext G a1 M (fun r4 M2 => oIf (r4 = true) (oIs M2 a1 19 (P_J36_next G a1 M2 (fun r11 M9 => oCast M9 r11 14 (oRef r11 (fun a12 => oGetI M9 a12 14 1 (fun v13 => oIf (v13 = x1) (oIs M9 x0 1 (P_X2_fineRule G x0 a12 M9 (fun v16 M14 => oIf (v16 ≤ 0) (B_X2_countFines_51 G rec10 Q x0 x1 x2 a1 M14 bq) (B_X2_countFines_51 G rec10 Q x0 x1 (x2 + 1) a1 M14 bq)))) (B_X2_countFines_51 G rec10 Q x0 x1 x2 a1 M9 bq))))))) (oGetA M2 x0 1 4 (fun a5 => oIs M2 a5 16 (P_J2_size G a5 M2 (fun v8 M6 => Q (if ((99 : Int32) - v8) < x2 then ((99 : Int32) - v8) else x2) M6)))))))
def L_X2_countFines_10 (G : wG) (Q : Int32 → wM → Prop) : Nat → Nat → Int32 → Int32 → Option Nat → wM → Nat → Prop
  | 0 => fun _ _ _ _ _ _ => False
  | n + 1 => B_X2_countFines_10 G (L_X2_countFines_10 G Q n) Q
def P_X2_countFines (G : wG) (t0 : Nat) (p1 : Int32) (b : Nat) (M : wM) (Q : Int32 → wM → Prop) : Prop :=
  oGetA M t0 1 3 (fun a1 => oIs M a1 17 (∃ c3, c3 ≤ b ∧ P_J7_iterator_J8 G a1 c3 M (fun r4 M2 => ∃ n, L_X2_countFines_10 G Q n t0 p1 (0 : Int32) r4 M2 (b - c3))))
set_option maxHeartbeats 4000000 in
set_option maxRecDepth 100000 in
theorem P_X2_countFines_ok {l : Launch} (hl0 : l.stackTraces = false) {G : wG} {t0 : Nat} {p1 : Int32} {b : Nat} {M : wM} {Q : Int32 → wM → Prop} (hp : P_X2_countFines G t0 p1 b M Q) : wMet l yX2_countFines (ws_ yX2_countFines cX2_countFines 5 (Option.some Jvm.ClassFile.FieldType.int)) 21 599 G [.ref t0, .int p1] M b (wqI Q) wX0 := by
  refine vx_ofW (cc := cX2_countFines) (maxL := 5) (ret := Option.some Jvm.ClassFile.FieldType.int) (by decide) rfl ?_
  intro p e s m args below meth c s₁ B hml hnt hv
  obtain ⟨rfl, hM, hK, hZ, hz⟩ := hv
  have hC : wC G s := ⟨hK, hZ, hz⟩
  have hx := B.exec
  have hb := B.bytes
  have hr := B.returns
  have hts := atoms_spec (ws := (ws_ yX2_countFines cX2_countFines 5 (Option.some Jvm.ClassFile.FieldType.int))) B.pre
  have hts : ∀ w ∈ lw_all, w.before _ s = true := fun w h => hts w (List.mem_cons_of_mem _ h)
  have hown : s.vm.findClass RX2 = some m.cls := findClass_of_methodNamed B.named
  have hlk := B.notSynchronized
  have X : CallFix p m c cX2_countFines 5 s ([.ref t0, .int p1] : List Value).toArray lw_all RX2 := ⟨hx, hb, hml, hown, hts⟩
  have hS : va_S (wA G) s.heap s.heap [] := va_S.rf
  have hl := lv_entry ([.ref t0, .int p1]) (n := 5) (Nat.le_of_ble_eq_true rfl)
  rw [lg_entry_eq]
  generalize (lg_sl ([.ref t0, .int p1]) ++ List.replicate (5 - (lg_sl ([.ref t0, .int p1])).length) Slot.unset).toArray = ls at hl ⊢
  have hl : lv_has ls 5 [(0, .ref t0), (1, .int p1)] := hl
  have hB : 0 + b ≤ ((headSpec (ws_ yX2_countFines cX2_countFines 5 (Option.some Jvm.ClassFile.FieldType.int)) ({ frames := 21, cells := b, slots := b, locals := 599 })).room).cells ∧ 0 + b ≤ ((headSpec (ws_ yX2_countFines cX2_countFines 5 (Option.some Jvm.ClassFile.FieldType.int)) ({ frames := 21, cells := b, slots := b, locals := 599 })).room).slots := ⟨Nat.le_of_eq (Nat.zero_add b), Nat.le_of_eq (Nat.zero_add b)⟩
  have hB51 : ∀ (rec10 : Nat → Int32 → Int32 → Option Nat → wM → Nat → Prop) (hrec10 : ∀ (x0 : Nat) (x1 : Int32) (x2 : Int32) (x3 : Option Nat) (M : wM) (bq : Nat) (H : Heap) (locs : List Loc) (ls : Array Slot) (cells slots : Nat), rec10 x0 x1 x2 x3 M bq → wR G M H → va_S (wA G) s.heap H locs → (cells + bq ≤ ((headSpec (ws_ yX2_countFines cX2_countFines 5 (Option.some Jvm.ClassFile.FieldType.int)) ({ frames := 21, cells := b, slots := b, locals := 599 })).room).cells ∧ slots + bq ≤ ((headSpec (ws_ yX2_countFines cX2_countFines 5 (Option.some Jvm.ClassFile.FieldType.int)) ({ frames := 21, cells := b, slots := b, locals := 599 })).room).slots) → lv_has ls 5 [(0, .ref x0), (1, .int x1), (2, .int x2), (3, va_rf x3)] → W p l e (headSpec (ws_ yX2_countFines cX2_countFines 5 (Option.some Jvm.ClassFile.FieldType.int)) ({ frames := 21, cells := b, slots := b, locals := 599 })).room s m ([.ref t0, .int p1] : List Value).toArray below meth c H locs cells slots (vx_MQ below (wQ G (wqI Q)) (wXC G wX0) ([.ref t0, .int p1] : List Value).toArray s b b (wA G)) (F0 m 10 ls [])), ∀ (x0 : Nat) (x1 : Int32) (x2 : Int32) (x3 : Nat) (M : wM) (bq : Nat) (H : Heap) (locs : List Loc) (ls : Array Slot) (cells slots : Nat), B_X2_countFines_51 G rec10 Q x0 x1 x2 x3 M bq → wR G M H → va_S (wA G) s.heap H locs → (cells + bq ≤ ((headSpec (ws_ yX2_countFines cX2_countFines 5 (Option.some Jvm.ClassFile.FieldType.int)) ({ frames := 21, cells := b, slots := b, locals := 599 })).room).cells ∧ slots + bq ≤ ((headSpec (ws_ yX2_countFines cX2_countFines 5 (Option.some Jvm.ClassFile.FieldType.int)) ({ frames := 21, cells := b, slots := b, locals := 599 })).room).slots) → lv_has ls 5 [(0, .ref x0), (1, .int x1), (2, .int x2), (3, .ref x3)] → W p l e (headSpec (ws_ yX2_countFines cX2_countFines 5 (Option.some Jvm.ClassFile.FieldType.int)) ({ frames := 21, cells := b, slots := b, locals := 599 })).room s m ([.ref t0, .int p1] : List Value).toArray below meth c H locs cells slots (vx_MQ below (wQ G (wqI Q)) (wXC G wX0) ([.ref t0, .int p1] : List Value).toArray s b b (wA G)) (F0 m 51 ls []) := by
    intro rec10 hrec10 x0 x1 x2 x3 M bq H locs ls cells slots hp hM hS hB hl
    refine lv_goto (tgt := 10) hx hb dX2_countFines_51 (by decide) ?_
    exact hrec10 _ _ _ _ _ _ _ _ _ _ _ hp hM hS hB (lv_sub hl [0, 1, 2, 3] rfl)
  have hB10 : ∀ (rec10 : Nat → Int32 → Int32 → Option Nat → wM → Nat → Prop) (hrec10 : ∀ (x0 : Nat) (x1 : Int32) (x2 : Int32) (x3 : Option Nat) (M : wM) (bq : Nat) (H : Heap) (locs : List Loc) (ls : Array Slot) (cells slots : Nat), rec10 x0 x1 x2 x3 M bq → wR G M H → va_S (wA G) s.heap H locs → (cells + bq ≤ ((headSpec (ws_ yX2_countFines cX2_countFines 5 (Option.some Jvm.ClassFile.FieldType.int)) ({ frames := 21, cells := b, slots := b, locals := 599 })).room).cells ∧ slots + bq ≤ ((headSpec (ws_ yX2_countFines cX2_countFines 5 (Option.some Jvm.ClassFile.FieldType.int)) ({ frames := 21, cells := b, slots := b, locals := 599 })).room).slots) → lv_has ls 5 [(0, .ref x0), (1, .int x1), (2, .int x2), (3, va_rf x3)] → W p l e (headSpec (ws_ yX2_countFines cX2_countFines 5 (Option.some Jvm.ClassFile.FieldType.int)) ({ frames := 21, cells := b, slots := b, locals := 599 })).room s m ([.ref t0, .int p1] : List Value).toArray below meth c H locs cells slots (vx_MQ below (wQ G (wqI Q)) (wXC G wX0) ([.ref t0, .int p1] : List Value).toArray s b b (wA G)) (F0 m 10 ls [])), ∀ (x0 : Nat) (x1 : Int32) (x2 : Int32) (x3 : Option Nat) (M : wM) (bq : Nat) (H : Heap) (locs : List Loc) (ls : Array Slot) (cells slots : Nat), B_X2_countFines_10 G rec10 Q x0 x1 x2 x3 M bq → wR G M H → va_S (wA G) s.heap H locs → (cells + bq ≤ ((headSpec (ws_ yX2_countFines cX2_countFines 5 (Option.some Jvm.ClassFile.FieldType.int)) ({ frames := 21, cells := b, slots := b, locals := 599 })).room).cells ∧ slots + bq ≤ ((headSpec (ws_ yX2_countFines cX2_countFines 5 (Option.some Jvm.ClassFile.FieldType.int)) ({ frames := 21, cells := b, slots := b, locals := 599 })).room).slots) → lv_has ls 5 [(0, .ref x0), (1, .int x1), (2, .int x2), (3, va_rf x3)] → W p l e (headSpec (ws_ yX2_countFines cX2_countFines 5 (Option.some Jvm.ClassFile.FieldType.int)) ({ frames := 21, cells := b, slots := b, locals := 599 })).room s m ([.ref t0, .int p1] : List Value).toArray below meth c H locs cells slots (vx_MQ below (wQ G (wqI Q)) (wXC G wX0) ([.ref t0, .int p1] : List Value).toArray s b b (wA G)) (F0 m 10 ls []) := by
    intro rec10 hrec10 x0 x1 x2 x3 M bq H locs ls cells slots hp hM hS hB hl
    refine x_aload_n (r := x3) hx hb dX2_countFines_10 rfl (lv_at hl 3 rfl) ?_
    obtain ⟨a1, ea, hqa1⟩ := hp
    subst ea
    have hp := hqa1
    have hl : lv_has ls 5 [(0, .ref x0), (1, .int x1), (2, .int x2), (3, .ref a1)] := hl
    obtain ⟨hrec, hp⟩ := hp
    refine x_call0Z5 (vx_runF (hC.1.1.1 19 (RJ36, TJ36, 5) rfl).2 (C := "java/util/LinkedList$ListItr") (As := []) (rest := []) X (P_J36_hasNext_ok (l := l) hl0 hp) (va_cwF 0 hts (lw_app (w_mem4 q1789 q1818 q1820 q195) (lw_meth q1822)) rfl rfl rfl (wfw_37 hC.1) (by decide +kernel) ⟨Nat.le_of_ble_eq_true rfl, Nat.le_of_ble_eq_true rfl⟩) ⟨wPc.blind, w_recv hC.1 hM (ci := 19) (q := (RJ36, TJ36, 5)) rfl hrec, w_pre hC hM hS _⟩ rfl rfl hl.1 rfl (lv_room (Nat.le_of_ble_eq_true rfl)) dX2_countFines_11 (w_room0 hB)) hS (w_room0 hB) (fun _ _ _ _ _ _ h => False.elim h) (fun r4 M2 H locs hp hM hS => ?_)
    refine x_ifeqB (tgt := 54) hx hb dX2_countFines_16 (by decide) (fun hc => ?_) (fun hc => ?_)
    · have hp := oIf.bf hp hc
      refine lv_iload_n hx hb dX2_countFines_54 rfl (lv_at hl 2 rfl) ?_
      refine lv_bipush (v := 99) hx hb dX2_countFines_55 (by decide) ?_
      refine lv_aload_n hx hb dX2_countFines_57 rfl (lv_at hl 0 rfl) ?_
      refine x_getA X hC.1 hM (ci := 1) (C := RX2) (T := TX2) (N := 9) rfl in_X2 4 (by decide) q925 (fun _ h9 => h9) dX2_countFines_58 hp (fun a5 hp => ?_)
      obtain ⟨hrec, hp⟩ := hp
      refine x_call0I5 (vx_runF (hC.1.1.1 16 (RJ2, TJ2, 3) rfl).2 (C := "java/util/ArrayList") (As := []) (rest := [.int (99 : Int32), .int x2]) X (P_J2_size_ok (l := l) hl0 hp) (va_cwF 0 hts (lw_app (w_mem4 q493 q496 q498 q153) (lw_meth q500)) rfl rfl rfl (wfw_13 hC.1) (by decide +kernel) ⟨Nat.le_of_ble_eq_true rfl, Nat.le_of_ble_eq_true rfl⟩) ⟨wPc.blind, w_recv hC.1 hM (ci := 16) (q := (RJ2, TJ2, 3)) rfl hrec, w_pre hC hM hS _⟩ rfl rfl hl.1 rfl (lv_room (Nat.le_of_ble_eq_true rfl)) dX2_countFines_61 (w_room0 hB)) hS (w_room0 hB) (fun _ _ _ _ _ _ h => False.elim h) (fun v8 M6 H locs hp hM hS => ?_)
      refine lv_isub hx hb dX2_countFines_66 ?_
      refine va_mmin hx hb (hml.trans hl.1.symm) hown (hts _ q2603) (hts _ q347) (hts _ q155) (hts _ q348) (Nat.le_of_ble_eq_true rfl) (Nat.le_of_ble_eq_true rfl) (w_fin hB).1 (w_fin hB).2 dX2_countFines_67 ?_
      exact x_iret X hr hlk hM hS (w_fin hB) dX2_countFines_70 ⟨_, rfl, hp⟩
    · have hp := oIf.bt hp hc
      refine lv_aload_n hx hb dX2_countFines_19 rfl (lv_at hl 3 rfl) ?_
      obtain ⟨hrec, hp⟩ := hp
      refine x_call0R5 (vx_runF (hC.1.1.1 19 (RJ36, TJ36, 5) rfl).2 (C := "java/util/LinkedList$ListItr") (As := []) (rest := []) X (P_J36_next_ok (l := l) hl0 hp) (va_cwF 0 hts (lw_app (w_mem4 q1824 q1952 q1954 q195) (lw_meth q1956)) rfl rfl rfl (wfw_38 hC.1) (by decide +kernel) ⟨Nat.le_of_ble_eq_true rfl, Nat.le_of_ble_eq_true rfl⟩) ⟨wPc.blind, w_recv hC.1 hM (ci := 19) (q := (RJ36, TJ36, 5)) rfl hrec, w_pre hC hM hS _⟩ rfl rfl hl.1 rfl (lv_room (Nat.le_of_ble_eq_true rfl)) dX2_countFines_20 (w_room0 hB)) hS (w_room0 hB) (fun _ _ _ _ _ _ h => False.elim h) (fun r11 M9 H locs hp hM hS => ?_)
      refine x_cast (r := r11) X hC.1 hM q1964 (ci := 14) rfl (Or.inl rfl) dX2_countFines_25 hp (fun hp => ?_)
      refine x_astore (r := r11) (lv' := [(4, va_rf r11), (0, .ref x0), (1, .int x1), (2, .int x2), (3, .ref a1)]) hx hb dX2_countFines_28 hl (by decide) rfl (fun ls hl => ?_)
      refine x_aload (r := r11) hx hb dX2_countFines_30 (lv_at hl 0 rfl) ?_
      obtain ⟨a12, ea, hqa12⟩ := hp
      subst ea
      have hp := hqa12
      have hl : lv_has ls 5 [(4, .ref a12), (0, .ref x0), (1, .int x1), (2, .int x2), (3, .ref a1)] := hl
      refine x_getIN X hC.1 hM (ci := 14) (C := RX18) (T := TX18) (N := 3) rfl in_X18 1 (by decide) q2786 (fun _ h9 => h9) dX2_countFines_32 hp (fun v13 hp => ?_)
      refine lv_iload_n hx hb dX2_countFines_35 rfl (lv_at hl 2 rfl) ?_
      refine lv_icmp_ne (tgt := 51) hx hb dX2_countFines_36 (by decide) (fun hc => ?_) (fun hc => ?_)
      · have hp := oIf.f hp hc
        exact hB51 rec10 hrec10 _ _ _ _ _ _ _ _ _ _ _ hp hM hS hB (lv_sub hl [1, 2, 3, 4] rfl)
      · have hp := oIf.t hp hc
        refine lv_aload_n hx hb dX2_countFines_39 rfl (lv_at hl 1 rfl) ?_
        refine lv_aload hx hb dX2_countFines_40 (lv_at hl 0 rfl) ?_
        obtain ⟨hrec, hp⟩ := hp
        refine x_call0I (vx_runV (As := [.ref a12]) (rest := []) X (P_X2_fineRule_ok (l := l) hl0 hp) (cwV 1 hts (lw_V q2886 q2888 qs57 q149 q2889) rfl rfl rfl (by decide +kernel) ⟨Nat.le_of_ble_eq_true rfl, Nat.le_of_ble_eq_true rfl⟩) ⟨wPc.blind, w_recv hC.1 hM (ci := 1) (q := (RX2, TX2, 9)) rfl hrec, w_pre hC hM hS _⟩ rfl rfl hl.1 rfl (lv_room (Nat.le_of_ble_eq_true rfl)) dX2_countFines_42 (w_room0 hB)) hS (w_room0 hB) (fun _ _ _ _ _ _ h => False.elim h) (fun v16 M14 H locs hp hM hS => ?_)
        refine lv_if_le (tgt := 51) hx hb dX2_countFines_45 (by decide) (fun hc => ?_) (fun hc => ?_)
        · have hp := oIf.t hp hc
          exact hB51 rec10 hrec10 _ _ _ _ _ _ _ _ _ _ _ hp hM hS hB (lv_sub hl [1, 2, 3, 4] rfl)
        · have hp := oIf.f hp hc
          refine lv_iinc (v := (x2 + 1)) (lv' := [(2, .int (x2 + 1)), (4, .ref a12), (0, .ref x0), (1, .int x1), (3, .ref a1)]) hx hb dX2_countFines_48 hl (k := 3) rfl rfl (by decide) rfl (fun ls hl => ?_)
          exact hB51 rec10 hrec10 _ _ _ _ _ _ _ _ _ _ _ hp hM hS hB (lv_sub hl [2, 3, 0, 4] rfl)
  have hL10 : ∀ (n : Nat), ∀ (x0 : Nat) (x1 : Int32) (x2 : Int32) (x3 : Option Nat) (M : wM) (bq : Nat) (H : Heap) (locs : List Loc) (ls : Array Slot) (cells slots : Nat), L_X2_countFines_10 G Q n x0 x1 x2 x3 M bq → wR G M H → va_S (wA G) s.heap H locs → (cells + bq ≤ ((headSpec (ws_ yX2_countFines cX2_countFines 5 (Option.some Jvm.ClassFile.FieldType.int)) ({ frames := 21, cells := b, slots := b, locals := 599 })).room).cells ∧ slots + bq ≤ ((headSpec (ws_ yX2_countFines cX2_countFines 5 (Option.some Jvm.ClassFile.FieldType.int)) ({ frames := 21, cells := b, slots := b, locals := 599 })).room).slots) → lv_has ls 5 [(0, .ref x0), (1, .int x1), (2, .int x2), (3, va_rf x3)] → W p l e (headSpec (ws_ yX2_countFines cX2_countFines 5 (Option.some Jvm.ClassFile.FieldType.int)) ({ frames := 21, cells := b, slots := b, locals := 599 })).room s m ([.ref t0, .int p1] : List Value).toArray below meth c H locs cells slots (vx_MQ below (wQ G (wqI Q)) (wXC G wX0) ([.ref t0, .int p1] : List Value).toArray s b b (wA G)) (F0 m 10 ls []) := by
    intro n
    induction n with
    | zero => intro _ _ _ _ _ _ _ _ _ _ _ hp; exact False.elim hp
    | succ n ih => intro x0 x1 x2 x3 M bq H locs ls cells slots hp hM hS hB hl; exact hB10 (L_X2_countFines_10 G Q n) ih _ _ _ _ _ _ _ _ _ _ _ hp hM hS hB hl
  refine lv_iconst (v := 0) hx hb dX2_countFines_0 (by decide) ?_
  refine lv_istore_n (lv' := [(2, .int (0 : Int32)), (0, .ref t0), (1, .int p1)]) hx hb dX2_countFines_1 rfl hl (by decide) rfl (fun ls hl => ?_)
  refine lv_aload_n hx hb dX2_countFines_2 rfl (lv_at hl 1 rfl) ?_
  refine x_getA X hC.1 hM (ci := 1) (C := RX2) (T := TX2) (N := 9) rfl in_X2 3 (by decide) q923 (fun _ h9 => h9) dX2_countFines_3 hp (fun a1 hp => ?_)
  obtain ⟨hrec, hp⟩ := hp
  obtain ⟨c3, hc1, hp⟩ := hp
  refine x_callR (vx_runU (As := []) (rest := []) X (P_J7_iterator_J8_ok (l := l) hl0 hp) (va_cwU 0 hts (lw_app (w_mem5 q1699 q1700 q1702 q1703 q159) (lw_meth q1704)) rfl rfl rfl rfl (by decide +kernel) ⟨Nat.le_of_ble_eq_true rfl, Nat.le_of_ble_eq_true rfl⟩) ⟨wPc.blind, w_recv hC.1 hM (ci := 17) (q := (RJ8, TJ8, 4)) rfl hrec, w_pre hC hM hS _⟩ rfl rfl hl.1 rfl (lv_room (Nat.le_of_ble_eq_true rfl)) dX2_countFines_6 (w_room hB hc1)) hS hB hc1 (fun _ _ _ _ _ _ h => False.elim h) (fun r4 M2 H locs hp hM hS hB => ?_)
  refine x_astore_n (r := r4) (lv' := [(3, va_rf r4), (2, .int (0 : Int32)), (0, .ref t0), (1, .int p1)]) hx hb dX2_countFines_9 rfl hl (by decide) rfl (fun ls hl => ?_)
  obtain ⟨n, hp⟩ := hp
  exact hL10 n _ _ _ _ _ _ _ _ _ _ _ hp hM hS hB (lv_sub hl [2, 3, 1, 0] rfl)
def P_X1_checkStreet (G : wG) (t0 : Nat) (p1 : Int32) (b : Nat) (M : wM) (Q : wM → Prop) (Xp : String → Nat → wM → Prop) : Prop :=
  oIs M t0 0 (P_X1_setup G t0 M (fun r3 M1 => oRef r3 (fun a4 => oGetA M1 a4 2 1 (fun a5 => oIs M1 a5 16 (P_J2_size G a5 M1 (fun v8 M6 => P_X1_inRange G p1 (0 : Int32) (v8 - (1 : Int32)) M6 (fun r11 M9 => ∃ c13, c13 ≤ b ∧ P_X1_checkIndex G (wb r11) c13 M9 (fun M12 => Q M12) (fun E q14 M15 => (E = "java/lang/IndexOutOfBoundsException" ∧ Xp E q14 M15)))))))))
set_option maxHeartbeats 4000000 in
set_option maxRecDepth 100000 in
theorem P_X1_checkStreet_ok {l : Launch} (hl0 : l.stackTraces = false) {G : wG} {t0 : Nat} {p1 : Int32} {b : Nat} {M : wM} {Q : wM → Prop} {Xp : String → Nat → wM → Prop} (hp : P_X1_checkStreet G t0 p1 b M Q Xp) : wMet l yX1_checkStreet (ws_ yX1_checkStreet cX1_checkStreet 2 (none)) 13 422 G [.ref t0, .int p1] M b (wqV Q) Xp := by
  refine vx_ofW (cc := cX1_checkStreet) (maxL := 2) (ret := none) (by decide) rfl ?_
  intro p e s m args below meth c s₁ B hml hnt hv
  obtain ⟨rfl, hM, hK, hZ, hz⟩ := hv
  have hC : wC G s := ⟨hK, hZ, hz⟩
  have hx := B.exec
  have hb := B.bytes
  have hr := B.returns
  have hts := atoms_spec (ws := (ws_ yX1_checkStreet cX1_checkStreet 2 (none))) B.pre
  have hts : ∀ w ∈ lw_all, w.before _ s = true := fun w h => hts w (List.mem_cons_of_mem _ h)
  have hown : s.vm.findClass RX1 = some m.cls := findClass_of_methodNamed B.named
  have hlk := B.notSynchronized
  have X : CallFix p m c cX1_checkStreet 2 s ([.ref t0, .int p1] : List Value).toArray lw_all RX1 := ⟨hx, hb, hml, hown, hts⟩
  have hS : va_S (wA G) s.heap s.heap [] := va_S.rf
  have hl := lv_entry ([.ref t0, .int p1]) (n := 2) (Nat.le_of_ble_eq_true rfl)
  rw [lg_entry_eq]
  generalize (lg_sl ([.ref t0, .int p1]) ++ List.replicate (2 - (lg_sl ([.ref t0, .int p1])).length) Slot.unset).toArray = ls at hl ⊢
  have hl : lv_has ls 2 [(0, .ref t0), (1, .int p1)] := hl
  have hB : 0 + b ≤ ((headSpec (ws_ yX1_checkStreet cX1_checkStreet 2 (none)) ({ frames := 13, cells := b, slots := b, locals := 422 })).room).cells ∧ 0 + b ≤ ((headSpec (ws_ yX1_checkStreet cX1_checkStreet 2 (none)) ({ frames := 13, cells := b, slots := b, locals := 422 })).room).slots := ⟨Nat.le_of_eq (Nat.zero_add b), Nat.le_of_eq (Nat.zero_add b)⟩
  refine lv_iload_n hx hb dX1_checkStreet_0 rfl (lv_at hl 1 rfl) ?_
  refine lv_iconst (v := 0) hx hb dX1_checkStreet_1 (by decide) ?_
  refine lv_aload_n hx hb dX1_checkStreet_2 rfl (lv_at hl 0 rfl) ?_
  obtain ⟨hrec, hp⟩ := hp
  refine x_call0R (vx_runV (As := []) (rest := [.int (0 : Int32), .int p1]) X (P_X1_setup_ok (l := l) hl0 hp) (cwV 0 hts (lw_V q1535 q1537 qs29 q148 q1538) rfl rfl rfl (by decide +kernel) ⟨Nat.le_of_ble_eq_true rfl, Nat.le_of_ble_eq_true rfl⟩) ⟨wPc.blind, w_recv hC.1 hM (ci := 0) (q := (RX1, TX1, 8)) rfl hrec, w_pre hC hM hS _⟩ rfl rfl hl.1 rfl (lv_room (Nat.le_of_ble_eq_true rfl)) dX1_checkStreet_3 (w_room0 hB)) hS (w_room0 hB) (fun _ _ _ _ _ _ h => False.elim h) (fun r3 M1 H locs hp hM hS => ?_)
  obtain ⟨a4, ea, hqa4⟩ := hp
  subst ea
  have hp := hqa4
  refine x_getAN X hC.1 hM (ci := 2) (C := RX3) (T := TX3) (N := 8) rfl in_X3 1 (by decide) q401 (fun _ h9 => h9) dX1_checkStreet_6 hp (fun a5 hp => ?_)
  obtain ⟨hrec, hp⟩ := hp
  refine x_call0I5 (vx_runF (hC.1.1.1 16 (RJ2, TJ2, 3) rfl).2 (C := "java/util/ArrayList") (As := []) (rest := [.int (0 : Int32), .int p1]) X (P_J2_size_ok (l := l) hl0 hp) (va_cwF 0 hts (lw_app (w_mem4 q1540 q496 q498 q153) (lw_meth q500)) rfl rfl rfl (wfw_13 hC.1) (by decide +kernel) ⟨Nat.le_of_ble_eq_true rfl, Nat.le_of_ble_eq_true rfl⟩) ⟨wPc.blind, w_recv hC.1 hM (ci := 16) (q := (RJ2, TJ2, 3)) rfl hrec, w_pre hC hM hS _⟩ rfl rfl hl.1 rfl (lv_room (Nat.le_of_ble_eq_true rfl)) dX1_checkStreet_9 (w_room0 hB)) hS (w_room0 hB) (fun _ _ _ _ _ _ h => False.elim h) (fun v8 M6 H locs hp hM hS => ?_)
  refine lv_iconst (v := 1) hx hb dX1_checkStreet_14 (by decide) ?_
  refine lv_isub hx hb dX1_checkStreet_15 ?_
  refine x_call0Z (vx_runS (As := [.int p1, .int (0 : Int32), .int (v8 - (1 : Int32))]) (rest := []) X (P_X1_inRange_ok (l := l) hl0 hp) (va_cwS 3 hts (lw_S q1012 q1013 q148 q1014) rfl rfl rfl (by decide +kernel) ⟨Nat.le_of_ble_eq_true rfl, Nat.le_of_ble_eq_true rfl⟩) ⟨wPc.blind, w_pre hC hM hS _⟩ rfl rfl hl.1 rfl (lv_room (Nat.le_of_ble_eq_true rfl)) dX1_checkStreet_16 (w_room0 hB)) hS (w_room0 hB) (fun _ _ _ _ _ _ h => False.elim h) (fun r11 M9 H locs hp hM hS => ?_)
  obtain ⟨c13, hc1, hp⟩ := hp
  refine x_callV (vx_runS (As := [.int (wb r11)]) (rest := []) X (P_X1_checkIndex_ok (l := l) hl0 hp) (va_cwS 1 hts (lw_S q2200 q2201 q148 q2202) rfl rfl rfl (by decide +kernel) ⟨Nat.le_of_ble_eq_true rfl, Nat.le_of_ble_eq_true rfl⟩) ⟨wPc.blind, w_pre hC hM hS _⟩ rfl rfl hl.1 rfl (lv_room (Nat.le_of_ble_eq_true rfl)) dX1_checkStreet_19 (w_room hB hc1)) hS hB hc1 (fun E ce q14 M15 H locs hp hM hS hB hcell hcv hcl => ?_) (fun M12 H locs hp hM hS hB => ?_)
  · obtain ⟨rfl, hp⟩ := hp
    exact x_out hlk (fun x h => (hnt x h).elim) hM hS (w_fin hB) hcell hcv hcl hp
  · exact x_vret X hr hlk hM hS (w_fin hB) dX1_checkStreet_22 ⟨rfl, hp⟩
def B_X1_bestInspection_94 (G : wG) (rec49 : Int32 → Int32 → Nat → Int32 → Int32 → Int32 → Int32 → wM → Nat → Prop) (Q : Int32 → wM → Prop) (Xp : String → Nat → wM → Prop) (x1 : Int32) (x2 : Int32) (x3 : Nat) (x4 : Int32) (x5 : Int32) (x6 : Int32) (x7 : Int32) (M : wM) (bq : Nat) : Prop :=
  rec49 x1 x2 x3 x4 x5 x6 (x7 + 1) M bq
def B_X1_bestInspection_49 (G : wG) (rec49 : Int32 → Int32 → Nat → Int32 → Int32 → Int32 → Int32 → wM → Nat → Prop) (Q : Int32 → wM → Prop) (Xp : String → Nat → wM → Prop) (x1 : Int32) (x2 : Int32) (x3 : Nat) (x4 : Int32) (x5 : Int32) (x6 : Int32) (x7 : Int32) (M : wM) (bq : Nat) : Prop :=
  oIf (x2 ≤ x7) (Q x5 M) (oIs M x3 1 (P_X2_passTo G x3 (x4 + (x7 * (60 : Int32))) M (fun M1 => oIs M1 x3 1 (∃ c4, c4 ≤ bq ∧ P_X2_countFines G x3 x1 c4 M1 (fun v5 M3 => oIf (x6 < v5) (oGetI M3 x3 1 8 (fun v6 => B_X1_bestInspection_94 G rec49 Q Xp x1 x2 x3 x4 v6 v5 x7 M3 (bq - c4))) (B_X1_bestInspection_94 G rec49 Q Xp x1 x2 x3 x4 x5 x6 x7 M3 (bq - c4)))))))
def L_X1_bestInspection_49 (G : wG) (Q : Int32 → wM → Prop) (Xp : String → Nat → wM → Prop) : Nat → Int32 → Int32 → Nat → Int32 → Int32 → Int32 → Int32 → wM → Nat → Prop
  | 0 => fun _ _ _ _ _ _ _ _ _ => False
  | n + 1 => B_X1_bestInspection_49 G (L_X1_bestInspection_49 G Q Xp n) Q Xp
def P_X1_bestInspection (G : wG) (t0 : Nat) (p1 : Int32) (p2 : Int32) (b : Nat) (M : wM) (Q : Int32 → wM → Prop) (Xp : String → Nat → wM → Prop) : Prop :=
  oIs M t0 0 (∃ c2, c2 ≤ b ∧ P_X1_checkStreet G t0 p1 c2 M (fun M1 => P_X1_inRange G p2 (1 : Int32) (72 : Int32) M1 (fun r5 M3 => ∃ c7, c7 ≤ (b - c2) ∧ P_X1_checkArgument G (wb r5) c7 M3 (fun M6 => oGetA M6 t0 0 0 (fun a8 => oIs M6 a8 1 (∃ c10, c10 ≤ ((b - c2) - c7) ∧ P_X2_copy G a8 c10 M6 (fun r11 M9 => oRef r11 (fun a12 => oGetI M9 a12 1 8 (fun v13 => ∃ n, L_X1_bestInspection_49 G Q Xp n p1 p2 a12 ((((v13 + (60 : Int32)) - (1 : Int32)) / (60 : Int32)) * (60 : Int32)) (-1 : Int32) (-1 : Int32) (0 : Int32) M9 (((b - c2) - c7) - c10))))))) (fun E q14 M15 => (E = "java/lang/IllegalArgumentException" ∧ Xp E q14 M15)))) (fun E q16 M17 => (E = "java/lang/IndexOutOfBoundsException" ∧ Xp E q16 M17)))
set_option maxHeartbeats 4000000 in
set_option maxRecDepth 100000 in
theorem P_X1_bestInspection_ok {l : Launch} (hl0 : l.stackTraces = false) {G : wG} {t0 : Nat} {p1 : Int32} {p2 : Int32} {b : Nat} {M : wM} {Q : Int32 → wM → Prop} {Xp : String → Nat → wM → Prop} (hp : P_X1_bestInspection G t0 p1 p2 b M Q Xp) : wMet l yX1_bestInspection (ws_ yX1_bestInspection cX1_bestInspection 9 (Option.some Jvm.ClassFile.FieldType.int)) 22 623 G [.ref t0, .int p1, .int p2] M b (wqI Q) Xp := by
  refine vx_ofW (cc := cX1_bestInspection) (maxL := 9) (ret := Option.some Jvm.ClassFile.FieldType.int) (by decide) rfl ?_
  intro p e s m args below meth c s₁ B hml hnt hv
  obtain ⟨rfl, hM, hK, hZ, hz⟩ := hv
  have hC : wC G s := ⟨hK, hZ, hz⟩
  have hx := B.exec
  have hb := B.bytes
  have hr := B.returns
  have hts := atoms_spec (ws := (ws_ yX1_bestInspection cX1_bestInspection 9 (Option.some Jvm.ClassFile.FieldType.int))) B.pre
  have hts : ∀ w ∈ lw_all, w.before _ s = true := fun w h => hts w (List.mem_cons_of_mem _ h)
  have hown : s.vm.findClass RX1 = some m.cls := findClass_of_methodNamed B.named
  have hlk := B.notSynchronized
  have X : CallFix p m c cX1_bestInspection 9 s ([.ref t0, .int p1, .int p2] : List Value).toArray lw_all RX1 := ⟨hx, hb, hml, hown, hts⟩
  have hS : va_S (wA G) s.heap s.heap [] := va_S.rf
  have hl := lv_entry ([.ref t0, .int p1, .int p2]) (n := 9) (Nat.le_of_ble_eq_true rfl)
  rw [lg_entry_eq]
  generalize (lg_sl ([.ref t0, .int p1, .int p2]) ++ List.replicate (9 - (lg_sl ([.ref t0, .int p1, .int p2])).length) Slot.unset).toArray = ls at hl ⊢
  have hl : lv_has ls 9 [(0, .ref t0), (1, .int p1), (2, .int p2)] := hl
  have hB : 0 + b ≤ ((headSpec (ws_ yX1_bestInspection cX1_bestInspection 9 (Option.some Jvm.ClassFile.FieldType.int)) ({ frames := 22, cells := b, slots := b, locals := 623 })).room).cells ∧ 0 + b ≤ ((headSpec (ws_ yX1_bestInspection cX1_bestInspection 9 (Option.some Jvm.ClassFile.FieldType.int)) ({ frames := 22, cells := b, slots := b, locals := 623 })).room).slots := ⟨Nat.le_of_eq (Nat.zero_add b), Nat.le_of_eq (Nat.zero_add b)⟩
  have hB94 : ∀ (rec49 : Int32 → Int32 → Nat → Int32 → Int32 → Int32 → Int32 → wM → Nat → Prop) (hrec49 : ∀ (x1 : Int32) (x2 : Int32) (x3 : Nat) (x4 : Int32) (x5 : Int32) (x6 : Int32) (x7 : Int32) (M : wM) (bq : Nat) (H : Heap) (locs : List Loc) (ls : Array Slot) (cells slots : Nat), rec49 x1 x2 x3 x4 x5 x6 x7 M bq → wR G M H → va_S (wA G) s.heap H locs → (cells + bq ≤ ((headSpec (ws_ yX1_bestInspection cX1_bestInspection 9 (Option.some Jvm.ClassFile.FieldType.int)) ({ frames := 22, cells := b, slots := b, locals := 623 })).room).cells ∧ slots + bq ≤ ((headSpec (ws_ yX1_bestInspection cX1_bestInspection 9 (Option.some Jvm.ClassFile.FieldType.int)) ({ frames := 22, cells := b, slots := b, locals := 623 })).room).slots) → lv_has ls 9 [(1, .int x1), (2, .int x2), (3, .ref x3), (4, .int x4), (5, .int x5), (6, .int x6), (7, .int x7)] → W p l e (headSpec (ws_ yX1_bestInspection cX1_bestInspection 9 (Option.some Jvm.ClassFile.FieldType.int)) ({ frames := 22, cells := b, slots := b, locals := 623 })).room s m ([.ref t0, .int p1, .int p2] : List Value).toArray below meth c H locs cells slots (vx_MQ below (wQ G (wqI Q)) (wXC G Xp) ([.ref t0, .int p1, .int p2] : List Value).toArray s b b (wA G)) (F0 m 49 ls [])), ∀ (x1 : Int32) (x2 : Int32) (x3 : Nat) (x4 : Int32) (x5 : Int32) (x6 : Int32) (x7 : Int32) (M : wM) (bq : Nat) (H : Heap) (locs : List Loc) (ls : Array Slot) (cells slots : Nat), B_X1_bestInspection_94 G rec49 Q Xp x1 x2 x3 x4 x5 x6 x7 M bq → wR G M H → va_S (wA G) s.heap H locs → (cells + bq ≤ ((headSpec (ws_ yX1_bestInspection cX1_bestInspection 9 (Option.some Jvm.ClassFile.FieldType.int)) ({ frames := 22, cells := b, slots := b, locals := 623 })).room).cells ∧ slots + bq ≤ ((headSpec (ws_ yX1_bestInspection cX1_bestInspection 9 (Option.some Jvm.ClassFile.FieldType.int)) ({ frames := 22, cells := b, slots := b, locals := 623 })).room).slots) → lv_has ls 9 [(1, .int x1), (2, .int x2), (3, .ref x3), (4, .int x4), (5, .int x5), (6, .int x6), (7, .int x7)] → W p l e (headSpec (ws_ yX1_bestInspection cX1_bestInspection 9 (Option.some Jvm.ClassFile.FieldType.int)) ({ frames := 22, cells := b, slots := b, locals := 623 })).room s m ([.ref t0, .int p1, .int p2] : List Value).toArray below meth c H locs cells slots (vx_MQ below (wQ G (wqI Q)) (wXC G Xp) ([.ref t0, .int p1, .int p2] : List Value).toArray s b b (wA G)) (F0 m 94 ls []) := by
    intro rec49 hrec49 x1 x2 x3 x4 x5 x6 x7 M bq H locs ls cells slots hp hM hS hB hl
    refine lv_iinc (v := (x7 + 1)) (lv' := [(7, .int (x7 + 1)), (1, .int x1), (2, .int x2), (3, .ref x3), (4, .int x4), (5, .int x5), (6, .int x6)]) hx hb dX1_bestInspection_94 hl (k := 6) rfl rfl (by decide) rfl (fun ls hl => ?_)
    refine lv_goto (tgt := 49) hx hb dX1_bestInspection_97 (by decide) ?_
    exact hrec49 _ _ _ _ _ _ _ _ _ _ _ _ _ _ hp hM hS hB (lv_sub hl [1, 2, 3, 4, 5, 6, 0] rfl)
  have hB49 : ∀ (rec49 : Int32 → Int32 → Nat → Int32 → Int32 → Int32 → Int32 → wM → Nat → Prop) (hrec49 : ∀ (x1 : Int32) (x2 : Int32) (x3 : Nat) (x4 : Int32) (x5 : Int32) (x6 : Int32) (x7 : Int32) (M : wM) (bq : Nat) (H : Heap) (locs : List Loc) (ls : Array Slot) (cells slots : Nat), rec49 x1 x2 x3 x4 x5 x6 x7 M bq → wR G M H → va_S (wA G) s.heap H locs → (cells + bq ≤ ((headSpec (ws_ yX1_bestInspection cX1_bestInspection 9 (Option.some Jvm.ClassFile.FieldType.int)) ({ frames := 22, cells := b, slots := b, locals := 623 })).room).cells ∧ slots + bq ≤ ((headSpec (ws_ yX1_bestInspection cX1_bestInspection 9 (Option.some Jvm.ClassFile.FieldType.int)) ({ frames := 22, cells := b, slots := b, locals := 623 })).room).slots) → lv_has ls 9 [(1, .int x1), (2, .int x2), (3, .ref x3), (4, .int x4), (5, .int x5), (6, .int x6), (7, .int x7)] → W p l e (headSpec (ws_ yX1_bestInspection cX1_bestInspection 9 (Option.some Jvm.ClassFile.FieldType.int)) ({ frames := 22, cells := b, slots := b, locals := 623 })).room s m ([.ref t0, .int p1, .int p2] : List Value).toArray below meth c H locs cells slots (vx_MQ below (wQ G (wqI Q)) (wXC G Xp) ([.ref t0, .int p1, .int p2] : List Value).toArray s b b (wA G)) (F0 m 49 ls [])), ∀ (x1 : Int32) (x2 : Int32) (x3 : Nat) (x4 : Int32) (x5 : Int32) (x6 : Int32) (x7 : Int32) (M : wM) (bq : Nat) (H : Heap) (locs : List Loc) (ls : Array Slot) (cells slots : Nat), B_X1_bestInspection_49 G rec49 Q Xp x1 x2 x3 x4 x5 x6 x7 M bq → wR G M H → va_S (wA G) s.heap H locs → (cells + bq ≤ ((headSpec (ws_ yX1_bestInspection cX1_bestInspection 9 (Option.some Jvm.ClassFile.FieldType.int)) ({ frames := 22, cells := b, slots := b, locals := 623 })).room).cells ∧ slots + bq ≤ ((headSpec (ws_ yX1_bestInspection cX1_bestInspection 9 (Option.some Jvm.ClassFile.FieldType.int)) ({ frames := 22, cells := b, slots := b, locals := 623 })).room).slots) → lv_has ls 9 [(1, .int x1), (2, .int x2), (3, .ref x3), (4, .int x4), (5, .int x5), (6, .int x6), (7, .int x7)] → W p l e (headSpec (ws_ yX1_bestInspection cX1_bestInspection 9 (Option.some Jvm.ClassFile.FieldType.int)) ({ frames := 22, cells := b, slots := b, locals := 623 })).room s m ([.ref t0, .int p1, .int p2] : List Value).toArray below meth c H locs cells slots (vx_MQ below (wQ G (wqI Q)) (wXC G Xp) ([.ref t0, .int p1, .int p2] : List Value).toArray s b b (wA G)) (F0 m 49 ls []) := by
    intro rec49 hrec49 x1 x2 x3 x4 x5 x6 x7 M bq H locs ls cells slots hp hM hS hB hl
    refine lv_iload hx hb dX1_bestInspection_49 (lv_at hl 6 rfl) ?_
    refine lv_iload_n hx hb dX1_bestInspection_51 rfl (lv_at hl 1 rfl) ?_
    refine lv_icmp_ge (tgt := 100) hx hb dX1_bestInspection_52 (by decide) (fun hc => ?_) (fun hc => ?_)
    · have hp := oIf.t hp hc
      refine lv_iload hx hb dX1_bestInspection_100 (lv_at hl 4 rfl) ?_
      exact x_iret X hr hlk hM hS (w_fin hB) dX1_bestInspection_102 ⟨_, rfl, hp⟩
    · have hp := oIf.f hp hc
      refine lv_aload_n hx hb dX1_bestInspection_55 rfl (lv_at hl 2 rfl) ?_
      refine lv_iload hx hb dX1_bestInspection_56 (lv_at hl 3 rfl) ?_
      refine lv_iload hx hb dX1_bestInspection_58 (lv_at hl 6 rfl) ?_
      refine lv_bipush (v := 60) hx hb dX1_bestInspection_60 (by decide) ?_
      refine lv_imul hx hb dX1_bestInspection_62 ?_
      refine lv_iadd hx hb dX1_bestInspection_63 ?_
      obtain ⟨hrec, hp⟩ := hp
      refine x_call0V (vx_runV (As := [.int (x4 + (x7 * (60 : Int32)))]) (rest := []) X (P_X2_passTo_ok (l := l) hl0 hp) (cwV 1 hts (lw_V q2594 q2595 q2596 q149 q2597) rfl rfl rfl (by decide +kernel) ⟨Nat.le_of_ble_eq_true rfl, Nat.le_of_ble_eq_true rfl⟩) ⟨wPc.blind, w_recv hC.1 hM (ci := 1) (q := (RX2, TX2, 9)) rfl hrec, w_pre hC hM hS _⟩ rfl rfl hl.1 rfl (lv_room (Nat.le_of_ble_eq_true rfl)) dX1_bestInspection_64 (w_room0 hB)) hS (w_room0 hB) (fun _ _ _ _ _ _ h => False.elim h) (fun M1 H locs hp hM hS => ?_)
      refine lv_aload_n hx hb dX1_bestInspection_67 rfl (lv_at hl 2 rfl) ?_
      refine lv_iload_n hx hb dX1_bestInspection_68 rfl (lv_at hl 0 rfl) ?_
      obtain ⟨hrec, hp⟩ := hp
      obtain ⟨c4, hc1, hp⟩ := hp
      refine x_callI (vx_runV (As := [.int x1]) (rest := []) X (P_X2_countFines_ok (l := l) hl0 hp) (cwV 1 hts (lw_V q3029 q3030 q3031 q149 q3032) rfl rfl rfl (by decide +kernel) ⟨Nat.le_of_ble_eq_true rfl, Nat.le_of_ble_eq_true rfl⟩) ⟨wPc.blind, w_recv hC.1 hM (ci := 1) (q := (RX2, TX2, 9)) rfl hrec, w_pre hC hM hS _⟩ rfl rfl hl.1 rfl (lv_room (Nat.le_of_ble_eq_true rfl)) dX1_bestInspection_69 (w_room hB hc1)) hS hB hc1 (fun _ _ _ _ _ _ h => False.elim h) (fun v5 M3 H locs hp hM hS hB => ?_)
      refine lv_istore (lv' := [(8, .int v5), (1, .int x1), (2, .int x2), (3, .ref x3), (4, .int x4), (5, .int x5), (6, .int x6), (7, .int x7)]) hx hb dX1_bestInspection_72 hl (by decide) rfl (fun ls hl => ?_)
      refine lv_iload hx hb dX1_bestInspection_74 (lv_at hl 0 rfl) ?_
      refine lv_iload hx hb dX1_bestInspection_76 (lv_at hl 6 rfl) ?_
      refine lv_icmp_gt (tgt := 84) hx hb dX1_bestInspection_78 (by decide) (fun hc => ?_) (fun hc => ?_)
      · have hp := oIf.t hp hc
        refine lv_aload_n hx hb dX1_bestInspection_84 rfl (lv_at hl 3 rfl) ?_
        refine x_getIN X hC.1 hM (ci := 1) (C := RX2) (T := TX2) (N := 9) rfl in_X2 8 (by decide) q934 (fun _ h9 => h9) dX1_bestInspection_85 hp (fun v6 hp => ?_)
        refine lv_istore (lv' := [(5, .int v6), (8, .int v5), (1, .int x1), (2, .int x2), (3, .ref x3), (4, .int x4), (6, .int x6), (7, .int x7)]) hx hb dX1_bestInspection_88 hl (by decide) rfl (fun ls hl => ?_)
        refine lv_iload hx hb dX1_bestInspection_90 (lv_at hl 1 rfl) ?_
        refine lv_istore (lv' := [(6, .int v5), (5, .int v6), (8, .int v5), (1, .int x1), (2, .int x2), (3, .ref x3), (4, .int x4), (7, .int x7)]) hx hb dX1_bestInspection_92 hl (by decide) rfl (fun ls hl => ?_)
        exact hB94 rec49 hrec49 _ _ _ _ _ _ _ _ _ _ _ _ _ _ hp hM hS hB (lv_sub hl [3, 4, 5, 6, 1, 0, 7] rfl)
      · have hp := oIf.f hp hc
        refine lv_goto (tgt := 94) hx hb dX1_bestInspection_81 (by decide) ?_
        exact hB94 rec49 hrec49 _ _ _ _ _ _ _ _ _ _ _ _ _ _ hp hM hS hB (lv_sub hl [1, 2, 3, 4, 5, 6, 7] rfl)
  have hL49 : ∀ (n : Nat), ∀ (x1 : Int32) (x2 : Int32) (x3 : Nat) (x4 : Int32) (x5 : Int32) (x6 : Int32) (x7 : Int32) (M : wM) (bq : Nat) (H : Heap) (locs : List Loc) (ls : Array Slot) (cells slots : Nat), L_X1_bestInspection_49 G Q Xp n x1 x2 x3 x4 x5 x6 x7 M bq → wR G M H → va_S (wA G) s.heap H locs → (cells + bq ≤ ((headSpec (ws_ yX1_bestInspection cX1_bestInspection 9 (Option.some Jvm.ClassFile.FieldType.int)) ({ frames := 22, cells := b, slots := b, locals := 623 })).room).cells ∧ slots + bq ≤ ((headSpec (ws_ yX1_bestInspection cX1_bestInspection 9 (Option.some Jvm.ClassFile.FieldType.int)) ({ frames := 22, cells := b, slots := b, locals := 623 })).room).slots) → lv_has ls 9 [(1, .int x1), (2, .int x2), (3, .ref x3), (4, .int x4), (5, .int x5), (6, .int x6), (7, .int x7)] → W p l e (headSpec (ws_ yX1_bestInspection cX1_bestInspection 9 (Option.some Jvm.ClassFile.FieldType.int)) ({ frames := 22, cells := b, slots := b, locals := 623 })).room s m ([.ref t0, .int p1, .int p2] : List Value).toArray below meth c H locs cells slots (vx_MQ below (wQ G (wqI Q)) (wXC G Xp) ([.ref t0, .int p1, .int p2] : List Value).toArray s b b (wA G)) (F0 m 49 ls []) := by
    intro n
    induction n with
    | zero => intro _ _ _ _ _ _ _ _ _ _ _ _ _ _ hp; exact False.elim hp
    | succ n ih => intro x1 x2 x3 x4 x5 x6 x7 M bq H locs ls cells slots hp hM hS hB hl; exact hB49 (L_X1_bestInspection_49 G Q Xp n) ih _ _ _ _ _ _ _ _ _ _ _ _ _ _ hp hM hS hB hl
  refine lv_aload_n hx hb dX1_bestInspection_0 rfl (lv_at hl 0 rfl) ?_
  refine lv_iload_n hx hb dX1_bestInspection_1 rfl (lv_at hl 1 rfl) ?_
  obtain ⟨hrec, hp⟩ := hp
  obtain ⟨c2, hc1, hp⟩ := hp
  refine x_callV (vx_runV (As := [.int p1]) (rest := []) X (P_X1_checkStreet_ok (l := l) hl0 hp) (cwV 1 hts (lw_V q2225 q2227 qs37 q148 q2228) rfl rfl rfl (by decide +kernel) ⟨Nat.le_of_ble_eq_true rfl, Nat.le_of_ble_eq_true rfl⟩) ⟨wPc.blind, w_recv hC.1 hM (ci := 0) (q := (RX1, TX1, 8)) rfl hrec, w_pre hC hM hS _⟩ rfl rfl hl.1 rfl (lv_room (Nat.le_of_ble_eq_true rfl)) dX1_bestInspection_2 (w_room hB hc1)) hS hB hc1 (fun E ce q16 M17 H locs hp hM hS hB hcell hcv hcl => ?_) (fun M1 H locs hp hM hS hB => ?_)
  · obtain ⟨rfl, hp⟩ := hp
    exact x_out hlk (fun x h => (hnt x h).elim) hM hS (w_fin hB) hcell hcv hcl hp
  · refine lv_iload_n hx hb dX1_bestInspection_5 rfl (lv_at hl 2 rfl) ?_
    refine lv_iconst (v := 1) hx hb dX1_bestInspection_6 (by decide) ?_
    refine lv_bipush (v := 72) hx hb dX1_bestInspection_7 (by decide) ?_
    refine x_call0Z (vx_runS (As := [.int p2, .int (1 : Int32), .int (72 : Int32)]) (rest := []) X (P_X1_inRange_ok (l := l) hl0 hp) (va_cwS 3 hts (lw_S q1012 q1013 q148 q1014) rfl rfl rfl (by decide +kernel) ⟨Nat.le_of_ble_eq_true rfl, Nat.le_of_ble_eq_true rfl⟩) ⟨wPc.blind, w_pre hC hM hS _⟩ rfl rfl hl.1 rfl (lv_room (Nat.le_of_ble_eq_true rfl)) dX1_bestInspection_9 (w_room0 hB)) hS (w_room0 hB) (fun _ _ _ _ _ _ h => False.elim h) (fun r5 M3 H locs hp hM hS => ?_)
    obtain ⟨c7, hc1, hp⟩ := hp
    refine x_callV (vx_runS (As := [.int (wb r5)]) (rest := []) X (P_X1_checkArgument_ok (l := l) hl0 hp) (va_cwS 1 hts (lw_S q2325 q2326 q148 q2327) rfl rfl rfl (by decide +kernel) ⟨Nat.le_of_ble_eq_true rfl, Nat.le_of_ble_eq_true rfl⟩) ⟨wPc.blind, w_pre hC hM hS _⟩ rfl rfl hl.1 rfl (lv_room (Nat.le_of_ble_eq_true rfl)) dX1_bestInspection_12 (w_room hB hc1)) hS hB hc1 (fun E ce q14 M15 H locs hp hM hS hB hcell hcv hcl => ?_) (fun M6 H locs hp hM hS hB => ?_)
    · obtain ⟨rfl, hp⟩ := hp
      exact x_out hlk (fun x h => (hnt x h).elim) hM hS (w_fin hB) hcell hcv hcl hp
    · refine lv_aload_n hx hb dX1_bestInspection_15 rfl (lv_at hl 0 rfl) ?_
      refine x_getA X hC.1 hM (ci := 0) (C := RX1) (T := TX1) (N := 8) rfl in_X1 0 (by decide) q973 (fun _ h9 => h9) dX1_bestInspection_16 hp (fun a8 hp => ?_)
      obtain ⟨hrec, hp⟩ := hp
      obtain ⟨c10, hc1, hp⟩ := hp
      refine x_callR (vx_runV (As := []) (rest := []) X (P_X2_copy_ok (l := l) hl0 hp) (cwV 0 hts (lw_V q2064 q2065 q2066 q149 q2067) rfl rfl rfl (by decide +kernel) ⟨Nat.le_of_ble_eq_true rfl, Nat.le_of_ble_eq_true rfl⟩) ⟨wPc.blind, w_recv hC.1 hM (ci := 1) (q := (RX2, TX2, 9)) rfl hrec, w_pre hC hM hS _⟩ rfl rfl hl.1 rfl (lv_room (Nat.le_of_ble_eq_true rfl)) dX1_bestInspection_19 (w_room hB hc1)) hS hB hc1 (fun _ _ _ _ _ _ h => False.elim h) (fun r11 M9 H locs hp hM hS hB => ?_)
      refine x_astore_n (r := r11) (lv' := [(3, va_rf r11), (0, .ref t0), (1, .int p1), (2, .int p2)]) hx hb dX1_bestInspection_22 rfl hl (by decide) rfl (fun ls hl => ?_)
      refine x_aload_n (r := r11) hx hb dX1_bestInspection_23 rfl (lv_at hl 0 rfl) ?_
      obtain ⟨a12, ea, hqa12⟩ := hp
      subst ea
      have hp := hqa12
      have hl : lv_has ls 9 [(3, .ref a12), (0, .ref t0), (1, .int p1), (2, .int p2)] := hl
      refine x_getIN X hC.1 hM (ci := 1) (C := RX2) (T := TX2) (N := 9) rfl in_X2 8 (by decide) q934 (fun _ h9 => h9) dX1_bestInspection_24 hp (fun v13 hp => ?_)
      refine lv_bipush (v := 60) hx hb dX1_bestInspection_27 (by decide) ?_
      refine lv_iadd hx hb dX1_bestInspection_29 ?_
      refine lv_iconst (v := 1) hx hb dX1_bestInspection_30 (by decide) ?_
      refine lv_isub hx hb dX1_bestInspection_31 ?_
      refine lv_bipush (v := 60) hx hb dX1_bestInspection_32 (by decide) ?_
      refine lv_idiv hx hb dX1_bestInspection_34 (by decide) ?_
      refine lv_bipush (v := 60) hx hb dX1_bestInspection_35 (by decide) ?_
      refine lv_imul hx hb dX1_bestInspection_37 ?_
      refine lv_istore (lv' := [(4, .int ((((v13 + (60 : Int32)) - (1 : Int32)) / (60 : Int32)) * (60 : Int32))), (3, .ref a12), (0, .ref t0), (1, .int p1), (2, .int p2)]) hx hb dX1_bestInspection_38 hl (by decide) rfl (fun ls hl => ?_)
      refine lv_iconst (v := (-1)) hx hb dX1_bestInspection_40 (by decide) ?_
      refine lv_istore (lv' := [(5, .int (-1 : Int32)), (4, .int ((((v13 + (60 : Int32)) - (1 : Int32)) / (60 : Int32)) * (60 : Int32))), (3, .ref a12), (0, .ref t0), (1, .int p1), (2, .int p2)]) hx hb dX1_bestInspection_41 hl (by decide) rfl (fun ls hl => ?_)
      refine lv_iconst (v := (-1)) hx hb dX1_bestInspection_43 (by decide) ?_
      refine lv_istore (lv' := [(6, .int (-1 : Int32)), (5, .int (-1 : Int32)), (4, .int ((((v13 + (60 : Int32)) - (1 : Int32)) / (60 : Int32)) * (60 : Int32))), (3, .ref a12), (0, .ref t0), (1, .int p1), (2, .int p2)]) hx hb dX1_bestInspection_44 hl (by decide) rfl (fun ls hl => ?_)
      refine lv_iconst (v := 0) hx hb dX1_bestInspection_46 (by decide) ?_
      refine lv_istore (lv' := [(7, .int (0 : Int32)), (6, .int (-1 : Int32)), (5, .int (-1 : Int32)), (4, .int ((((v13 + (60 : Int32)) - (1 : Int32)) / (60 : Int32)) * (60 : Int32))), (3, .ref a12), (0, .ref t0), (1, .int p1), (2, .int p2)]) hx hb dX1_bestInspection_47 hl (by decide) rfl (fun ls hl => ?_)
      obtain ⟨n, hp⟩ := hp
      exact hL49 n _ _ _ _ _ _ _ _ _ _ _ _ _ _ hp hM hS hB (lv_sub hl [6, 7, 4, 3, 2, 1, 0] rfl)
def B_X2_parkedIn_42 (G : wG) (rec10 : Int32 → Int32 → Option Nat → wM → Nat → Prop) (Q : Int32 → wM → Prop) (x1 : Int32) (x2 : Int32) (x3 : Nat) (M : wM) (bq : Nat) : Prop :=
  rec10 x1 x2 (some x3) M bq
def B_X2_parkedIn_10 (G : wG) (rec10 : Int32 → Int32 → Option Nat → wM → Nat → Prop) (Q : Int32 → wM → Prop) (x1 : Int32) (x2 : Int32) (x3 : Option Nat) (M : wM) (bq : Nat) : Prop :=
  oRef x3 (fun a1 => oIs M a1 19 (P_J36_hasNext G a1 M (fun r4 M2 => oIf (r4 = true) (oIs M2 a1 19 (P_J36_next G a1 M2 (fun r7 M5 => oCast M5 r7 14 (oRef r7 (fun a8 => oGetI M5 a8 14 1 (fun v9 => oIf (v9 = x1) (B_X2_parkedIn_42 G rec10 Q x1 (x2 + 1) a1 M5 bq) (B_X2_parkedIn_42 G rec10 Q x1 x2 a1 M5 bq))))))) (Q x2 M2))))
def L_X2_parkedIn_10 (G : wG) (Q : Int32 → wM → Prop) : Nat → Int32 → Int32 → Option Nat → wM → Nat → Prop
  | 0 => fun _ _ _ _ _ => False
  | n + 1 => B_X2_parkedIn_10 G (L_X2_parkedIn_10 G Q n) Q
def P_X2_parkedIn (G : wG) (t0 : Nat) (p1 : Int32) (b : Nat) (M : wM) (Q : Int32 → wM → Prop) : Prop :=
  oGetA M t0 1 3 (fun a1 => oIs M a1 17 (∃ c3, c3 ≤ b ∧ P_J7_iterator_J8 G a1 c3 M (fun r4 M2 => ∃ n, L_X2_parkedIn_10 G Q n p1 (0 : Int32) r4 M2 (b - c3))))
set_option maxHeartbeats 4000000 in
set_option maxRecDepth 100000 in
theorem P_X2_parkedIn_ok {l : Launch} (hl0 : l.stackTraces = false) {G : wG} {t0 : Nat} {p1 : Int32} {b : Nat} {M : wM} {Q : Int32 → wM → Prop} (hp : P_X2_parkedIn G t0 p1 b M Q) : wMet l yX2_parkedIn (ws_ yX2_parkedIn cX2_parkedIn 5 (Option.some Jvm.ClassFile.FieldType.int)) 17 506 G [.ref t0, .int p1] M b (wqI Q) wX0 := by
  refine vx_ofW (cc := cX2_parkedIn) (maxL := 5) (ret := Option.some Jvm.ClassFile.FieldType.int) (by decide) rfl ?_
  intro p e s m args below meth c s₁ B hml hnt hv
  obtain ⟨rfl, hM, hK, hZ, hz⟩ := hv
  have hC : wC G s := ⟨hK, hZ, hz⟩
  have hx := B.exec
  have hb := B.bytes
  have hr := B.returns
  have hts := atoms_spec (ws := (ws_ yX2_parkedIn cX2_parkedIn 5 (Option.some Jvm.ClassFile.FieldType.int))) B.pre
  have hts : ∀ w ∈ lw_all, w.before _ s = true := fun w h => hts w (List.mem_cons_of_mem _ h)
  have hown : s.vm.findClass RX2 = some m.cls := findClass_of_methodNamed B.named
  have hlk := B.notSynchronized
  have X : CallFix p m c cX2_parkedIn 5 s ([.ref t0, .int p1] : List Value).toArray lw_all RX2 := ⟨hx, hb, hml, hown, hts⟩
  have hS : va_S (wA G) s.heap s.heap [] := va_S.rf
  have hl := lv_entry ([.ref t0, .int p1]) (n := 5) (Nat.le_of_ble_eq_true rfl)
  rw [lg_entry_eq]
  generalize (lg_sl ([.ref t0, .int p1]) ++ List.replicate (5 - (lg_sl ([.ref t0, .int p1])).length) Slot.unset).toArray = ls at hl ⊢
  have hl : lv_has ls 5 [(0, .ref t0), (1, .int p1)] := hl
  have hB : 0 + b ≤ ((headSpec (ws_ yX2_parkedIn cX2_parkedIn 5 (Option.some Jvm.ClassFile.FieldType.int)) ({ frames := 17, cells := b, slots := b, locals := 506 })).room).cells ∧ 0 + b ≤ ((headSpec (ws_ yX2_parkedIn cX2_parkedIn 5 (Option.some Jvm.ClassFile.FieldType.int)) ({ frames := 17, cells := b, slots := b, locals := 506 })).room).slots := ⟨Nat.le_of_eq (Nat.zero_add b), Nat.le_of_eq (Nat.zero_add b)⟩
  have hB42 : ∀ (rec10 : Int32 → Int32 → Option Nat → wM → Nat → Prop) (hrec10 : ∀ (x1 : Int32) (x2 : Int32) (x3 : Option Nat) (M : wM) (bq : Nat) (H : Heap) (locs : List Loc) (ls : Array Slot) (cells slots : Nat), rec10 x1 x2 x3 M bq → wR G M H → va_S (wA G) s.heap H locs → (cells + bq ≤ ((headSpec (ws_ yX2_parkedIn cX2_parkedIn 5 (Option.some Jvm.ClassFile.FieldType.int)) ({ frames := 17, cells := b, slots := b, locals := 506 })).room).cells ∧ slots + bq ≤ ((headSpec (ws_ yX2_parkedIn cX2_parkedIn 5 (Option.some Jvm.ClassFile.FieldType.int)) ({ frames := 17, cells := b, slots := b, locals := 506 })).room).slots) → lv_has ls 5 [(1, .int x1), (2, .int x2), (3, va_rf x3)] → W p l e (headSpec (ws_ yX2_parkedIn cX2_parkedIn 5 (Option.some Jvm.ClassFile.FieldType.int)) ({ frames := 17, cells := b, slots := b, locals := 506 })).room s m ([.ref t0, .int p1] : List Value).toArray below meth c H locs cells slots (vx_MQ below (wQ G (wqI Q)) (wXC G wX0) ([.ref t0, .int p1] : List Value).toArray s b b (wA G)) (F0 m 10 ls [])), ∀ (x1 : Int32) (x2 : Int32) (x3 : Nat) (M : wM) (bq : Nat) (H : Heap) (locs : List Loc) (ls : Array Slot) (cells slots : Nat), B_X2_parkedIn_42 G rec10 Q x1 x2 x3 M bq → wR G M H → va_S (wA G) s.heap H locs → (cells + bq ≤ ((headSpec (ws_ yX2_parkedIn cX2_parkedIn 5 (Option.some Jvm.ClassFile.FieldType.int)) ({ frames := 17, cells := b, slots := b, locals := 506 })).room).cells ∧ slots + bq ≤ ((headSpec (ws_ yX2_parkedIn cX2_parkedIn 5 (Option.some Jvm.ClassFile.FieldType.int)) ({ frames := 17, cells := b, slots := b, locals := 506 })).room).slots) → lv_has ls 5 [(1, .int x1), (2, .int x2), (3, .ref x3)] → W p l e (headSpec (ws_ yX2_parkedIn cX2_parkedIn 5 (Option.some Jvm.ClassFile.FieldType.int)) ({ frames := 17, cells := b, slots := b, locals := 506 })).room s m ([.ref t0, .int p1] : List Value).toArray below meth c H locs cells slots (vx_MQ below (wQ G (wqI Q)) (wXC G wX0) ([.ref t0, .int p1] : List Value).toArray s b b (wA G)) (F0 m 42 ls []) := by
    intro rec10 hrec10 x1 x2 x3 M bq H locs ls cells slots hp hM hS hB hl
    refine lv_goto (tgt := 10) hx hb dX2_parkedIn_42 (by decide) ?_
    exact hrec10 _ _ _ _ _ _ _ _ _ _ hp hM hS hB (lv_sub hl [0, 1, 2] rfl)
  have hB10 : ∀ (rec10 : Int32 → Int32 → Option Nat → wM → Nat → Prop) (hrec10 : ∀ (x1 : Int32) (x2 : Int32) (x3 : Option Nat) (M : wM) (bq : Nat) (H : Heap) (locs : List Loc) (ls : Array Slot) (cells slots : Nat), rec10 x1 x2 x3 M bq → wR G M H → va_S (wA G) s.heap H locs → (cells + bq ≤ ((headSpec (ws_ yX2_parkedIn cX2_parkedIn 5 (Option.some Jvm.ClassFile.FieldType.int)) ({ frames := 17, cells := b, slots := b, locals := 506 })).room).cells ∧ slots + bq ≤ ((headSpec (ws_ yX2_parkedIn cX2_parkedIn 5 (Option.some Jvm.ClassFile.FieldType.int)) ({ frames := 17, cells := b, slots := b, locals := 506 })).room).slots) → lv_has ls 5 [(1, .int x1), (2, .int x2), (3, va_rf x3)] → W p l e (headSpec (ws_ yX2_parkedIn cX2_parkedIn 5 (Option.some Jvm.ClassFile.FieldType.int)) ({ frames := 17, cells := b, slots := b, locals := 506 })).room s m ([.ref t0, .int p1] : List Value).toArray below meth c H locs cells slots (vx_MQ below (wQ G (wqI Q)) (wXC G wX0) ([.ref t0, .int p1] : List Value).toArray s b b (wA G)) (F0 m 10 ls [])), ∀ (x1 : Int32) (x2 : Int32) (x3 : Option Nat) (M : wM) (bq : Nat) (H : Heap) (locs : List Loc) (ls : Array Slot) (cells slots : Nat), B_X2_parkedIn_10 G rec10 Q x1 x2 x3 M bq → wR G M H → va_S (wA G) s.heap H locs → (cells + bq ≤ ((headSpec (ws_ yX2_parkedIn cX2_parkedIn 5 (Option.some Jvm.ClassFile.FieldType.int)) ({ frames := 17, cells := b, slots := b, locals := 506 })).room).cells ∧ slots + bq ≤ ((headSpec (ws_ yX2_parkedIn cX2_parkedIn 5 (Option.some Jvm.ClassFile.FieldType.int)) ({ frames := 17, cells := b, slots := b, locals := 506 })).room).slots) → lv_has ls 5 [(1, .int x1), (2, .int x2), (3, va_rf x3)] → W p l e (headSpec (ws_ yX2_parkedIn cX2_parkedIn 5 (Option.some Jvm.ClassFile.FieldType.int)) ({ frames := 17, cells := b, slots := b, locals := 506 })).room s m ([.ref t0, .int p1] : List Value).toArray below meth c H locs cells slots (vx_MQ below (wQ G (wqI Q)) (wXC G wX0) ([.ref t0, .int p1] : List Value).toArray s b b (wA G)) (F0 m 10 ls []) := by
    intro rec10 hrec10 x1 x2 x3 M bq H locs ls cells slots hp hM hS hB hl
    refine x_aload_n (r := x3) hx hb dX2_parkedIn_10 rfl (lv_at hl 2 rfl) ?_
    obtain ⟨a1, ea, hqa1⟩ := hp
    subst ea
    have hp := hqa1
    have hl : lv_has ls 5 [(1, .int x1), (2, .int x2), (3, .ref a1)] := hl
    obtain ⟨hrec, hp⟩ := hp
    refine x_call0Z5 (vx_runF (hC.1.1.1 19 (RJ36, TJ36, 5) rfl).2 (C := "java/util/LinkedList$ListItr") (As := []) (rest := []) X (P_J36_hasNext_ok (l := l) hl0 hp) (va_cwF 0 hts (lw_app (w_mem4 q1789 q1818 q1820 q195) (lw_meth q1822)) rfl rfl rfl (wfw_37 hC.1) (by decide +kernel) ⟨Nat.le_of_ble_eq_true rfl, Nat.le_of_ble_eq_true rfl⟩) ⟨wPc.blind, w_recv hC.1 hM (ci := 19) (q := (RJ36, TJ36, 5)) rfl hrec, w_pre hC hM hS _⟩ rfl rfl hl.1 rfl (lv_room (Nat.le_of_ble_eq_true rfl)) dX2_parkedIn_11 (w_room0 hB)) hS (w_room0 hB) (fun _ _ _ _ _ _ h => False.elim h) (fun r4 M2 H locs hp hM hS => ?_)
    refine x_ifeqB (tgt := 45) hx hb dX2_parkedIn_16 (by decide) (fun hc => ?_) (fun hc => ?_)
    · have hp := oIf.bf hp hc
      refine lv_iload_n hx hb dX2_parkedIn_45 rfl (lv_at hl 1 rfl) ?_
      exact x_iret X hr hlk hM hS (w_fin hB) dX2_parkedIn_46 ⟨_, rfl, hp⟩
    · have hp := oIf.bt hp hc
      refine lv_aload_n hx hb dX2_parkedIn_19 rfl (lv_at hl 2 rfl) ?_
      obtain ⟨hrec, hp⟩ := hp
      refine x_call0R5 (vx_runF (hC.1.1.1 19 (RJ36, TJ36, 5) rfl).2 (C := "java/util/LinkedList$ListItr") (As := []) (rest := []) X (P_J36_next_ok (l := l) hl0 hp) (va_cwF 0 hts (lw_app (w_mem4 q1824 q1952 q1954 q195) (lw_meth q1956)) rfl rfl rfl (wfw_38 hC.1) (by decide +kernel) ⟨Nat.le_of_ble_eq_true rfl, Nat.le_of_ble_eq_true rfl⟩) ⟨wPc.blind, w_recv hC.1 hM (ci := 19) (q := (RJ36, TJ36, 5)) rfl hrec, w_pre hC hM hS _⟩ rfl rfl hl.1 rfl (lv_room (Nat.le_of_ble_eq_true rfl)) dX2_parkedIn_20 (w_room0 hB)) hS (w_room0 hB) (fun _ _ _ _ _ _ h => False.elim h) (fun r7 M5 H locs hp hM hS => ?_)
      refine x_cast (r := r7) X hC.1 hM q1964 (ci := 14) rfl (Or.inl rfl) dX2_parkedIn_25 hp (fun hp => ?_)
      refine x_astore (r := r7) (lv' := [(4, va_rf r7), (1, .int x1), (2, .int x2), (3, .ref a1)]) hx hb dX2_parkedIn_28 hl (by decide) rfl (fun ls hl => ?_)
      refine x_aload (r := r7) hx hb dX2_parkedIn_30 (lv_at hl 0 rfl) ?_
      obtain ⟨a8, ea, hqa8⟩ := hp
      subst ea
      have hp := hqa8
      have hl : lv_has ls 5 [(4, .ref a8), (1, .int x1), (2, .int x2), (3, .ref a1)] := hl
      refine x_getIN X hC.1 hM (ci := 14) (C := RX18) (T := TX18) (N := 3) rfl in_X18 1 (by decide) q2786 (fun _ h9 => h9) dX2_parkedIn_32 hp (fun v9 hp => ?_)
      refine lv_iload_n hx hb dX2_parkedIn_35 rfl (lv_at hl 1 rfl) ?_
      refine lv_icmp_ne (tgt := 42) hx hb dX2_parkedIn_36 (by decide) (fun hc => ?_) (fun hc => ?_)
      · have hp := oIf.f hp hc
        exact hB42 rec10 hrec10 _ _ _ _ _ _ _ _ _ _ hp hM hS hB (lv_sub hl [1, 2, 3] rfl)
      · have hp := oIf.t hp hc
        refine lv_iinc (v := (x2 + 1)) (lv' := [(2, .int (x2 + 1)), (4, .ref a8), (1, .int x1), (3, .ref a1)]) hx hb dX2_parkedIn_39 hl (k := 2) rfl rfl (by decide) rfl (fun ls hl => ?_)
        exact hB42 rec10 hrec10 _ _ _ _ _ _ _ _ _ _ hp hM hS hB (lv_sub hl [2, 0, 3] rfl)
  have hL10 : ∀ (n : Nat), ∀ (x1 : Int32) (x2 : Int32) (x3 : Option Nat) (M : wM) (bq : Nat) (H : Heap) (locs : List Loc) (ls : Array Slot) (cells slots : Nat), L_X2_parkedIn_10 G Q n x1 x2 x3 M bq → wR G M H → va_S (wA G) s.heap H locs → (cells + bq ≤ ((headSpec (ws_ yX2_parkedIn cX2_parkedIn 5 (Option.some Jvm.ClassFile.FieldType.int)) ({ frames := 17, cells := b, slots := b, locals := 506 })).room).cells ∧ slots + bq ≤ ((headSpec (ws_ yX2_parkedIn cX2_parkedIn 5 (Option.some Jvm.ClassFile.FieldType.int)) ({ frames := 17, cells := b, slots := b, locals := 506 })).room).slots) → lv_has ls 5 [(1, .int x1), (2, .int x2), (3, va_rf x3)] → W p l e (headSpec (ws_ yX2_parkedIn cX2_parkedIn 5 (Option.some Jvm.ClassFile.FieldType.int)) ({ frames := 17, cells := b, slots := b, locals := 506 })).room s m ([.ref t0, .int p1] : List Value).toArray below meth c H locs cells slots (vx_MQ below (wQ G (wqI Q)) (wXC G wX0) ([.ref t0, .int p1] : List Value).toArray s b b (wA G)) (F0 m 10 ls []) := by
    intro n
    induction n with
    | zero => intro _ _ _ _ _ _ _ _ _ _ hp; exact False.elim hp
    | succ n ih => intro x1 x2 x3 M bq H locs ls cells slots hp hM hS hB hl; exact hB10 (L_X2_parkedIn_10 G Q n) ih _ _ _ _ _ _ _ _ _ _ hp hM hS hB hl
  refine lv_iconst (v := 0) hx hb dX2_parkedIn_0 (by decide) ?_
  refine lv_istore_n (lv' := [(2, .int (0 : Int32)), (0, .ref t0), (1, .int p1)]) hx hb dX2_parkedIn_1 rfl hl (by decide) rfl (fun ls hl => ?_)
  refine lv_aload_n hx hb dX2_parkedIn_2 rfl (lv_at hl 1 rfl) ?_
  refine x_getA X hC.1 hM (ci := 1) (C := RX2) (T := TX2) (N := 9) rfl in_X2 3 (by decide) q923 (fun _ h9 => h9) dX2_parkedIn_3 hp (fun a1 hp => ?_)
  obtain ⟨hrec, hp⟩ := hp
  obtain ⟨c3, hc1, hp⟩ := hp
  refine x_callR (vx_runU (As := []) (rest := []) X (P_J7_iterator_J8_ok (l := l) hl0 hp) (va_cwU 0 hts (lw_app (w_mem5 q1699 q1700 q1702 q1703 q159) (lw_meth q1704)) rfl rfl rfl rfl (by decide +kernel) ⟨Nat.le_of_ble_eq_true rfl, Nat.le_of_ble_eq_true rfl⟩) ⟨wPc.blind, w_recv hC.1 hM (ci := 17) (q := (RJ8, TJ8, 4)) rfl hrec, w_pre hC hM hS _⟩ rfl rfl hl.1 rfl (lv_room (Nat.le_of_ble_eq_true rfl)) dX2_parkedIn_6 (w_room hB hc1)) hS hB hc1 (fun _ _ _ _ _ _ h => False.elim h) (fun r4 M2 H locs hp hM hS hB => ?_)
  refine x_astore_n (r := r4) (lv' := [(3, va_rf r4), (2, .int (0 : Int32)), (0, .ref t0), (1, .int p1)]) hx hb dX2_parkedIn_9 rfl hl (by decide) rfl (fun ls hl => ?_)
  obtain ⟨n, hp⟩ := hp
  exact hL10 n _ _ _ _ _ _ _ _ _ _ hp hM hS hB (lv_sub hl [3, 1, 0] rfl)
def P_X2_free (G : wG) (t0 : Nat) (p1 : Int32) (b : Nat) (M : wM) (Q : Int32 → wM → Prop) : Prop :=
  oGetA M t0 1 0 (fun a1 => oGetA M a1 2 1 (fun a2 => oIs M a2 16 (P_J2_get G a2 p1 M (fun r5 M3 => oCast M3 r5 7 (oRef r5 (fun a6 => oGetI M3 a6 7 1 (fun v7 => oIs M3 t0 1 (∃ c9, c9 ≤ b ∧ P_X2_parkedIn G t0 p1 c9 M3 (fun v10 M8 => Q (v7 - v10) M8)))))))))
set_option maxHeartbeats 4000000 in
set_option maxRecDepth 100000 in
theorem P_X2_free_ok {l : Launch} (hl0 : l.stackTraces = false) {G : wG} {t0 : Nat} {p1 : Int32} {b : Nat} {M : wM} {Q : Int32 → wM → Prop} (hp : P_X2_free G t0 p1 b M Q) : wMet l yX2_free (ws_ yX2_free cX2_free 2 (Option.some Jvm.ClassFile.FieldType.int)) 18 530 G [.ref t0, .int p1] M b (wqI Q) wX0 := by
  refine vx_ofW (cc := cX2_free) (maxL := 2) (ret := Option.some Jvm.ClassFile.FieldType.int) (by decide) rfl ?_
  intro p e s m args below meth c s₁ B hml hnt hv
  obtain ⟨rfl, hM, hK, hZ, hz⟩ := hv
  have hC : wC G s := ⟨hK, hZ, hz⟩
  have hx := B.exec
  have hb := B.bytes
  have hr := B.returns
  have hts := atoms_spec (ws := (ws_ yX2_free cX2_free 2 (Option.some Jvm.ClassFile.FieldType.int))) B.pre
  have hts : ∀ w ∈ lw_all, w.before _ s = true := fun w h => hts w (List.mem_cons_of_mem _ h)
  have hown : s.vm.findClass RX2 = some m.cls := findClass_of_methodNamed B.named
  have hlk := B.notSynchronized
  have X : CallFix p m c cX2_free 2 s ([.ref t0, .int p1] : List Value).toArray lw_all RX2 := ⟨hx, hb, hml, hown, hts⟩
  have hS : va_S (wA G) s.heap s.heap [] := va_S.rf
  have hl := lv_entry ([.ref t0, .int p1]) (n := 2) (Nat.le_of_ble_eq_true rfl)
  rw [lg_entry_eq]
  generalize (lg_sl ([.ref t0, .int p1]) ++ List.replicate (2 - (lg_sl ([.ref t0, .int p1])).length) Slot.unset).toArray = ls at hl ⊢
  have hl : lv_has ls 2 [(0, .ref t0), (1, .int p1)] := hl
  have hB : 0 + b ≤ ((headSpec (ws_ yX2_free cX2_free 2 (Option.some Jvm.ClassFile.FieldType.int)) ({ frames := 18, cells := b, slots := b, locals := 530 })).room).cells ∧ 0 + b ≤ ((headSpec (ws_ yX2_free cX2_free 2 (Option.some Jvm.ClassFile.FieldType.int)) ({ frames := 18, cells := b, slots := b, locals := 530 })).room).slots := ⟨Nat.le_of_eq (Nat.zero_add b), Nat.le_of_eq (Nat.zero_add b)⟩
  refine lv_aload_n hx hb dX2_free_0 rfl (lv_at hl 0 rfl) ?_
  refine x_getA X hC.1 hM (ci := 1) (C := RX2) (T := TX2) (N := 9) rfl in_X2 0 (by decide) q917 (fun _ h9 => h9) dX2_free_1 hp (fun a1 hp => ?_)
  refine x_getAN X hC.1 hM (ci := 2) (C := RX3) (T := TX3) (N := 8) rfl in_X3 1 (by decide) q402 (fun _ h9 => h9) dX2_free_4 hp (fun a2 hp => ?_)
  refine lv_iload_n hx hb dX2_free_7 rfl (lv_at hl 1 rfl) ?_
  obtain ⟨hrec, hp⟩ := hp
  refine x_call0R5 (vx_runF (hC.1.1.1 16 (RJ2, TJ2, 3) rfl).2 (C := "java/util/ArrayList") (As := [.int p1]) (rest := []) X (P_J2_get_ok (l := l) hl0 hp) (va_cwF 1 hts (lw_app (w_mem4 q519 q522 q524 q153) (lw_meth q526)) rfl rfl rfl (wfw_8 hC.1) (by decide +kernel) ⟨Nat.le_of_ble_eq_true rfl, Nat.le_of_ble_eq_true rfl⟩) ⟨wPc.blind, w_recv hC.1 hM (ci := 16) (q := (RJ2, TJ2, 3)) rfl hrec, w_pre hC hM hS _⟩ rfl rfl hl.1 rfl (lv_room (Nat.le_of_ble_eq_true rfl)) dX2_free_8 (w_room0 hB)) hS (w_room0 hB) (fun _ _ _ _ _ _ h => False.elim h) (fun r5 M3 H locs hp hM hS => ?_)
  refine x_cast (r := r5) X hC.1 hM q2462 (ci := 7) rfl (Or.inl rfl) dX2_free_13 hp (fun hp => ?_)
  obtain ⟨a6, ea, hqa6⟩ := hp
  subst ea
  have hp := hqa6
  refine x_getIN X hC.1 hM (ci := 7) (C := RX8) (T := TX8) (N := 3) rfl in_X8 1 (by decide) q1444 (fun _ h9 => h9) dX2_free_16 hp (fun v7 hp => ?_)
  refine lv_aload_n hx hb dX2_free_19 rfl (lv_at hl 0 rfl) ?_
  refine lv_iload_n hx hb dX2_free_20 rfl (lv_at hl 1 rfl) ?_
  obtain ⟨hrec, hp⟩ := hp
  obtain ⟨c9, hc1, hp⟩ := hp
  refine x_callI (vx_runV (As := [.int p1]) (rest := [.int v7]) X (P_X2_parkedIn_ok (l := l) hl0 hp) (cwV 1 hts (lw_V q2509 q2231 q2232 q149 q2233) rfl rfl rfl (by decide +kernel) ⟨Nat.le_of_ble_eq_true rfl, Nat.le_of_ble_eq_true rfl⟩) ⟨wPc.blind, w_recv hC.1 hM (ci := 1) (q := (RX2, TX2, 9)) rfl hrec, w_pre hC hM hS _⟩ rfl rfl hl.1 rfl (lv_room (Nat.le_of_ble_eq_true rfl)) dX2_free_21 (w_room hB hc1)) hS hB hc1 (fun _ _ _ _ _ _ h => False.elim h) (fun v10 M8 H locs hp hM hS hB => ?_)
  refine lv_isub hx hb dX2_free_24 ?_
  exact x_iret X hr hlk hM hS (w_fin hB) dX2_free_25 ⟨_, rfl, hp⟩
def B_X1_bestStreet_71 (G : wG) (rec8 : Nat → Int32 → Int32 → Int32 → wM → Nat → Prop) (Q : Int32 → wM → Prop) (Xp : String → Nat → wM → Prop) (x0 : Nat) (x1 : Int32) (x2 : Int32) (x3 : Int32) (M : wM) (bq : Nat) : Prop :=
  rec8 x0 x1 x2 (x3 + 1) M bq
def B_X1_bestStreet_69 (G : wG) (rec8 : Nat → Int32 → Int32 → Int32 → wM → Nat → Prop) (Q : Int32 → wM → Prop) (Xp : String → Nat → wM → Prop) (x0 : Nat) (x1 : Int32) (x3 : Int32) (M : wM) (bq : Nat) : Prop :=
  B_X1_bestStreet_71 G rec8 Q Xp x0 x1 x3 x3 M bq
def B_X1_bestStreet_8 (G : wG) (rec8 : Nat → Int32 → Int32 → Int32 → wM → Nat → Prop) (Q : Int32 → wM → Prop) (Xp : String → Nat → wM → Prop) (x0 : Nat) (x1 : Int32) (x2 : Int32) (x3 : Int32) (M : wM) (bq : Nat) : Prop :=
  oIs M x0 0 (P_X1_setup G x0 M (fun r3 M1 => oRef r3 (fun a4 => oGetA M1 a4 2 1 (fun a5 => oIs M1 a5 16 (P_J2_size G a5 M1 (fun v8 M6 => oIf (v8 ≤ x3) (Q x2 M6) (oGetA M6 x0 0 0 (fun a9 => oIs M6 a9 1 (∃ c11, c11 ≤ bq ∧ P_X2_free G a9 x3 c11 M6 (fun v12 M10 => oIf (v12 ≤ 0) (B_X1_bestStreet_71 G rec8 Q Xp x0 x1 x2 x3 M10 (bq - c11)) (oGetA M10 x0 0 0 (fun a13 => oIs M10 a13 1 (P_X2_isAllowed G a13 x1 x3 M10 (fun r16 M14 => oIf (r16 = true) (oIf (x2 = (-1 : Int32)) (B_X1_bestStreet_69 G rec8 Q Xp x0 x1 x3 M14 (bq - c11)) (oGetA M14 x0 0 0 (fun a17 => oIs M14 a17 1 (∃ c19, c19 ≤ (bq - c11) ∧ P_X2_free G a17 x2 c19 M14 (fun v20 M18 => oIf (v12 ≤ v20) (B_X1_bestStreet_71 G rec8 Q Xp x0 x1 x2 x3 M18 ((bq - c11) - c19)) (B_X1_bestStreet_69 G rec8 Q Xp x0 x1 x3 M18 ((bq - c11) - c19))))))) (B_X1_bestStreet_71 G rec8 Q Xp x0 x1 x2 x3 M14 (bq - c11))))))))))))))))
def L_X1_bestStreet_8 (G : wG) (Q : Int32 → wM → Prop) (Xp : String → Nat → wM → Prop) : Nat → Nat → Int32 → Int32 → Int32 → wM → Nat → Prop
  | 0 => fun _ _ _ _ _ _ => False
  | n + 1 => B_X1_bestStreet_8 G (L_X1_bestStreet_8 G Q Xp n) Q Xp
def P_X1_bestStreet (G : wG) (t0 : Nat) (p1 : Int32) (b : Nat) (M : wM) (Q : Int32 → wM → Prop) (Xp : String → Nat → wM → Prop) : Prop :=
  ∃ c2, c2 ≤ b ∧ P_X1_checkPlate G p1 c2 M (fun M1 => ∃ n, L_X1_bestStreet_8 G Q Xp n t0 p1 (-1 : Int32) (0 : Int32) M1 (b - c2)) (fun E q3 M4 => (E = "java/lang/IllegalArgumentException" ∧ Xp E q3 M4))
set_option maxHeartbeats 4000000 in
set_option maxRecDepth 100000 in
theorem P_X1_bestStreet_ok {l : Launch} (hl0 : l.stackTraces = false) {G : wG} {t0 : Nat} {p1 : Int32} {b : Nat} {M : wM} {Q : Int32 → wM → Prop} {Xp : String → Nat → wM → Prop} (hp : P_X1_bestStreet G t0 p1 b M Q Xp) : wMet l yX1_bestStreet (ws_ yX1_bestStreet cX1_bestStreet 5 (Option.some Jvm.ClassFile.FieldType.int)) 19 554 G [.ref t0, .int p1] M b (wqI Q) Xp := by
  refine vx_ofW (cc := cX1_bestStreet) (maxL := 5) (ret := Option.some Jvm.ClassFile.FieldType.int) (by decide) rfl ?_
  intro p e s m args below meth c s₁ B hml hnt hv
  obtain ⟨rfl, hM, hK, hZ, hz⟩ := hv
  have hC : wC G s := ⟨hK, hZ, hz⟩
  have hx := B.exec
  have hb := B.bytes
  have hr := B.returns
  have hts := atoms_spec (ws := (ws_ yX1_bestStreet cX1_bestStreet 5 (Option.some Jvm.ClassFile.FieldType.int))) B.pre
  have hts : ∀ w ∈ lw_all, w.before _ s = true := fun w h => hts w (List.mem_cons_of_mem _ h)
  have hown : s.vm.findClass RX1 = some m.cls := findClass_of_methodNamed B.named
  have hlk := B.notSynchronized
  have X : CallFix p m c cX1_bestStreet 5 s ([.ref t0, .int p1] : List Value).toArray lw_all RX1 := ⟨hx, hb, hml, hown, hts⟩
  have hS : va_S (wA G) s.heap s.heap [] := va_S.rf
  have hl := lv_entry ([.ref t0, .int p1]) (n := 5) (Nat.le_of_ble_eq_true rfl)
  rw [lg_entry_eq]
  generalize (lg_sl ([.ref t0, .int p1]) ++ List.replicate (5 - (lg_sl ([.ref t0, .int p1])).length) Slot.unset).toArray = ls at hl ⊢
  have hl : lv_has ls 5 [(0, .ref t0), (1, .int p1)] := hl
  have hB : 0 + b ≤ ((headSpec (ws_ yX1_bestStreet cX1_bestStreet 5 (Option.some Jvm.ClassFile.FieldType.int)) ({ frames := 19, cells := b, slots := b, locals := 554 })).room).cells ∧ 0 + b ≤ ((headSpec (ws_ yX1_bestStreet cX1_bestStreet 5 (Option.some Jvm.ClassFile.FieldType.int)) ({ frames := 19, cells := b, slots := b, locals := 554 })).room).slots := ⟨Nat.le_of_eq (Nat.zero_add b), Nat.le_of_eq (Nat.zero_add b)⟩
  have hB71 : ∀ (rec8 : Nat → Int32 → Int32 → Int32 → wM → Nat → Prop) (hrec8 : ∀ (x0 : Nat) (x1 : Int32) (x2 : Int32) (x3 : Int32) (M : wM) (bq : Nat) (H : Heap) (locs : List Loc) (ls : Array Slot) (cells slots : Nat), rec8 x0 x1 x2 x3 M bq → wR G M H → va_S (wA G) s.heap H locs → (cells + bq ≤ ((headSpec (ws_ yX1_bestStreet cX1_bestStreet 5 (Option.some Jvm.ClassFile.FieldType.int)) ({ frames := 19, cells := b, slots := b, locals := 554 })).room).cells ∧ slots + bq ≤ ((headSpec (ws_ yX1_bestStreet cX1_bestStreet 5 (Option.some Jvm.ClassFile.FieldType.int)) ({ frames := 19, cells := b, slots := b, locals := 554 })).room).slots) → lv_has ls 5 [(0, .ref x0), (1, .int x1), (2, .int x2), (3, .int x3)] → W p l e (headSpec (ws_ yX1_bestStreet cX1_bestStreet 5 (Option.some Jvm.ClassFile.FieldType.int)) ({ frames := 19, cells := b, slots := b, locals := 554 })).room s m ([.ref t0, .int p1] : List Value).toArray below meth c H locs cells slots (vx_MQ below (wQ G (wqI Q)) (wXC G Xp) ([.ref t0, .int p1] : List Value).toArray s b b (wA G)) (F0 m 8 ls [])), ∀ (x0 : Nat) (x1 : Int32) (x2 : Int32) (x3 : Int32) (M : wM) (bq : Nat) (H : Heap) (locs : List Loc) (ls : Array Slot) (cells slots : Nat), B_X1_bestStreet_71 G rec8 Q Xp x0 x1 x2 x3 M bq → wR G M H → va_S (wA G) s.heap H locs → (cells + bq ≤ ((headSpec (ws_ yX1_bestStreet cX1_bestStreet 5 (Option.some Jvm.ClassFile.FieldType.int)) ({ frames := 19, cells := b, slots := b, locals := 554 })).room).cells ∧ slots + bq ≤ ((headSpec (ws_ yX1_bestStreet cX1_bestStreet 5 (Option.some Jvm.ClassFile.FieldType.int)) ({ frames := 19, cells := b, slots := b, locals := 554 })).room).slots) → lv_has ls 5 [(0, .ref x0), (1, .int x1), (2, .int x2), (3, .int x3)] → W p l e (headSpec (ws_ yX1_bestStreet cX1_bestStreet 5 (Option.some Jvm.ClassFile.FieldType.int)) ({ frames := 19, cells := b, slots := b, locals := 554 })).room s m ([.ref t0, .int p1] : List Value).toArray below meth c H locs cells slots (vx_MQ below (wQ G (wqI Q)) (wXC G Xp) ([.ref t0, .int p1] : List Value).toArray s b b (wA G)) (F0 m 71 ls []) := by
    intro rec8 hrec8 x0 x1 x2 x3 M bq H locs ls cells slots hp hM hS hB hl
    refine lv_iinc (v := (x3 + 1)) (lv' := [(3, .int (x3 + 1)), (0, .ref x0), (1, .int x1), (2, .int x2)]) hx hb dX1_bestStreet_71 hl (k := 3) rfl rfl (by decide) rfl (fun ls hl => ?_)
    refine lv_goto (tgt := 8) hx hb dX1_bestStreet_74 (by decide) ?_
    exact hrec8 _ _ _ _ _ _ _ _ _ _ _ hp hM hS hB (lv_sub hl [1, 2, 3, 0] rfl)
  have hB69 : ∀ (rec8 : Nat → Int32 → Int32 → Int32 → wM → Nat → Prop) (hrec8 : ∀ (x0 : Nat) (x1 : Int32) (x2 : Int32) (x3 : Int32) (M : wM) (bq : Nat) (H : Heap) (locs : List Loc) (ls : Array Slot) (cells slots : Nat), rec8 x0 x1 x2 x3 M bq → wR G M H → va_S (wA G) s.heap H locs → (cells + bq ≤ ((headSpec (ws_ yX1_bestStreet cX1_bestStreet 5 (Option.some Jvm.ClassFile.FieldType.int)) ({ frames := 19, cells := b, slots := b, locals := 554 })).room).cells ∧ slots + bq ≤ ((headSpec (ws_ yX1_bestStreet cX1_bestStreet 5 (Option.some Jvm.ClassFile.FieldType.int)) ({ frames := 19, cells := b, slots := b, locals := 554 })).room).slots) → lv_has ls 5 [(0, .ref x0), (1, .int x1), (2, .int x2), (3, .int x3)] → W p l e (headSpec (ws_ yX1_bestStreet cX1_bestStreet 5 (Option.some Jvm.ClassFile.FieldType.int)) ({ frames := 19, cells := b, slots := b, locals := 554 })).room s m ([.ref t0, .int p1] : List Value).toArray below meth c H locs cells slots (vx_MQ below (wQ G (wqI Q)) (wXC G Xp) ([.ref t0, .int p1] : List Value).toArray s b b (wA G)) (F0 m 8 ls [])), ∀ (x0 : Nat) (x1 : Int32) (x3 : Int32) (M : wM) (bq : Nat) (H : Heap) (locs : List Loc) (ls : Array Slot) (cells slots : Nat), B_X1_bestStreet_69 G rec8 Q Xp x0 x1 x3 M bq → wR G M H → va_S (wA G) s.heap H locs → (cells + bq ≤ ((headSpec (ws_ yX1_bestStreet cX1_bestStreet 5 (Option.some Jvm.ClassFile.FieldType.int)) ({ frames := 19, cells := b, slots := b, locals := 554 })).room).cells ∧ slots + bq ≤ ((headSpec (ws_ yX1_bestStreet cX1_bestStreet 5 (Option.some Jvm.ClassFile.FieldType.int)) ({ frames := 19, cells := b, slots := b, locals := 554 })).room).slots) → lv_has ls 5 [(0, .ref x0), (1, .int x1), (3, .int x3)] → W p l e (headSpec (ws_ yX1_bestStreet cX1_bestStreet 5 (Option.some Jvm.ClassFile.FieldType.int)) ({ frames := 19, cells := b, slots := b, locals := 554 })).room s m ([.ref t0, .int p1] : List Value).toArray below meth c H locs cells slots (vx_MQ below (wQ G (wqI Q)) (wXC G Xp) ([.ref t0, .int p1] : List Value).toArray s b b (wA G)) (F0 m 69 ls []) := by
    intro rec8 hrec8 x0 x1 x3 M bq H locs ls cells slots hp hM hS hB hl
    refine lv_iload_n hx hb dX1_bestStreet_69 rfl (lv_at hl 2 rfl) ?_
    refine lv_istore_n (lv' := [(2, .int x3), (0, .ref x0), (1, .int x1), (3, .int x3)]) hx hb dX1_bestStreet_70 rfl hl (by decide) rfl (fun ls hl => ?_)
    exact hB71 rec8 hrec8 _ _ _ _ _ _ _ _ _ _ _ hp hM hS hB (lv_sub hl [1, 2, 0, 3] rfl)
  have hB8 : ∀ (rec8 : Nat → Int32 → Int32 → Int32 → wM → Nat → Prop) (hrec8 : ∀ (x0 : Nat) (x1 : Int32) (x2 : Int32) (x3 : Int32) (M : wM) (bq : Nat) (H : Heap) (locs : List Loc) (ls : Array Slot) (cells slots : Nat), rec8 x0 x1 x2 x3 M bq → wR G M H → va_S (wA G) s.heap H locs → (cells + bq ≤ ((headSpec (ws_ yX1_bestStreet cX1_bestStreet 5 (Option.some Jvm.ClassFile.FieldType.int)) ({ frames := 19, cells := b, slots := b, locals := 554 })).room).cells ∧ slots + bq ≤ ((headSpec (ws_ yX1_bestStreet cX1_bestStreet 5 (Option.some Jvm.ClassFile.FieldType.int)) ({ frames := 19, cells := b, slots := b, locals := 554 })).room).slots) → lv_has ls 5 [(0, .ref x0), (1, .int x1), (2, .int x2), (3, .int x3)] → W p l e (headSpec (ws_ yX1_bestStreet cX1_bestStreet 5 (Option.some Jvm.ClassFile.FieldType.int)) ({ frames := 19, cells := b, slots := b, locals := 554 })).room s m ([.ref t0, .int p1] : List Value).toArray below meth c H locs cells slots (vx_MQ below (wQ G (wqI Q)) (wXC G Xp) ([.ref t0, .int p1] : List Value).toArray s b b (wA G)) (F0 m 8 ls [])), ∀ (x0 : Nat) (x1 : Int32) (x2 : Int32) (x3 : Int32) (M : wM) (bq : Nat) (H : Heap) (locs : List Loc) (ls : Array Slot) (cells slots : Nat), B_X1_bestStreet_8 G rec8 Q Xp x0 x1 x2 x3 M bq → wR G M H → va_S (wA G) s.heap H locs → (cells + bq ≤ ((headSpec (ws_ yX1_bestStreet cX1_bestStreet 5 (Option.some Jvm.ClassFile.FieldType.int)) ({ frames := 19, cells := b, slots := b, locals := 554 })).room).cells ∧ slots + bq ≤ ((headSpec (ws_ yX1_bestStreet cX1_bestStreet 5 (Option.some Jvm.ClassFile.FieldType.int)) ({ frames := 19, cells := b, slots := b, locals := 554 })).room).slots) → lv_has ls 5 [(0, .ref x0), (1, .int x1), (2, .int x2), (3, .int x3)] → W p l e (headSpec (ws_ yX1_bestStreet cX1_bestStreet 5 (Option.some Jvm.ClassFile.FieldType.int)) ({ frames := 19, cells := b, slots := b, locals := 554 })).room s m ([.ref t0, .int p1] : List Value).toArray below meth c H locs cells slots (vx_MQ below (wQ G (wqI Q)) (wXC G Xp) ([.ref t0, .int p1] : List Value).toArray s b b (wA G)) (F0 m 8 ls []) := by
    intro rec8 hrec8 x0 x1 x2 x3 M bq H locs ls cells slots hp hM hS hB hl
    refine lv_iload_n hx hb dX1_bestStreet_8 rfl (lv_at hl 3 rfl) ?_
    refine lv_aload_n hx hb dX1_bestStreet_9 rfl (lv_at hl 0 rfl) ?_
    obtain ⟨hrec, hp⟩ := hp
    refine x_call0R (vx_runV (As := []) (rest := [.int x3]) X (P_X1_setup_ok (l := l) hl0 hp) (cwV 0 hts (lw_V q1535 q1537 qs29 q148 q1538) rfl rfl rfl (by decide +kernel) ⟨Nat.le_of_ble_eq_true rfl, Nat.le_of_ble_eq_true rfl⟩) ⟨wPc.blind, w_recv hC.1 hM (ci := 0) (q := (RX1, TX1, 8)) rfl hrec, w_pre hC hM hS _⟩ rfl rfl hl.1 rfl (lv_room (Nat.le_of_ble_eq_true rfl)) dX1_bestStreet_10 (w_room0 hB)) hS (w_room0 hB) (fun _ _ _ _ _ _ h => False.elim h) (fun r3 M1 H locs hp hM hS => ?_)
    obtain ⟨a4, ea, hqa4⟩ := hp
    subst ea
    have hp := hqa4
    refine x_getAN X hC.1 hM (ci := 2) (C := RX3) (T := TX3) (N := 8) rfl in_X3 1 (by decide) q401 (fun _ h9 => h9) dX1_bestStreet_13 hp (fun a5 hp => ?_)
    obtain ⟨hrec, hp⟩ := hp
    refine x_call0I5 (vx_runF (hC.1.1.1 16 (RJ2, TJ2, 3) rfl).2 (C := "java/util/ArrayList") (As := []) (rest := [.int x3]) X (P_J2_size_ok (l := l) hl0 hp) (va_cwF 0 hts (lw_app (w_mem4 q1540 q496 q498 q153) (lw_meth q500)) rfl rfl rfl (wfw_13 hC.1) (by decide +kernel) ⟨Nat.le_of_ble_eq_true rfl, Nat.le_of_ble_eq_true rfl⟩) ⟨wPc.blind, w_recv hC.1 hM (ci := 16) (q := (RJ2, TJ2, 3)) rfl hrec, w_pre hC hM hS _⟩ rfl rfl hl.1 rfl (lv_room (Nat.le_of_ble_eq_true rfl)) dX1_bestStreet_16 (w_room0 hB)) hS (w_room0 hB) (fun _ _ _ _ _ _ h => False.elim h) (fun v8 M6 H locs hp hM hS => ?_)
    refine lv_icmp_ge (tgt := 77) hx hb dX1_bestStreet_21 (by decide) (fun hc => ?_) (fun hc => ?_)
    · have hp := oIf.t hp hc
      refine lv_iload_n hx hb dX1_bestStreet_77 rfl (lv_at hl 2 rfl) ?_
      exact x_iret X hr hlk hM hS (w_fin hB) dX1_bestStreet_78 ⟨_, rfl, hp⟩
    · have hp := oIf.f hp hc
      refine lv_aload_n hx hb dX1_bestStreet_24 rfl (lv_at hl 0 rfl) ?_
      refine x_getA X hC.1 hM (ci := 0) (C := RX1) (T := TX1) (N := 8) rfl in_X1 0 (by decide) q973 (fun _ h9 => h9) dX1_bestStreet_25 hp (fun a9 hp => ?_)
      refine lv_iload_n hx hb dX1_bestStreet_28 rfl (lv_at hl 3 rfl) ?_
      obtain ⟨hrec, hp⟩ := hp
      obtain ⟨c11, hc1, hp⟩ := hp
      refine x_callI (vx_runV (As := [.int x3]) (rest := []) X (P_X2_free_ok (l := l) hl0 hp) (cwV 1 hts (lw_V q2505 q2506 q2507 q149 q2508) rfl rfl rfl (by decide +kernel) ⟨Nat.le_of_ble_eq_true rfl, Nat.le_of_ble_eq_true rfl⟩) ⟨wPc.blind, w_recv hC.1 hM (ci := 1) (q := (RX2, TX2, 9)) rfl hrec, w_pre hC hM hS _⟩ rfl rfl hl.1 rfl (lv_room (Nat.le_of_ble_eq_true rfl)) dX1_bestStreet_29 (w_room hB hc1)) hS hB hc1 (fun _ _ _ _ _ _ h => False.elim h) (fun v12 M10 H locs hp hM hS hB => ?_)
      refine lv_istore (lv' := [(4, .int v12), (0, .ref x0), (1, .int x1), (2, .int x2), (3, .int x3)]) hx hb dX1_bestStreet_32 hl (by decide) rfl (fun ls hl => ?_)
      refine lv_iload hx hb dX1_bestStreet_34 (lv_at hl 0 rfl) ?_
      refine lv_if_le (tgt := 71) hx hb dX1_bestStreet_36 (by decide) (fun hc => ?_) (fun hc => ?_)
      · have hp := oIf.t hp hc
        exact hB71 rec8 hrec8 _ _ _ _ _ _ _ _ _ _ _ hp hM hS hB (lv_sub hl [1, 2, 3, 4] rfl)
      · have hp := oIf.f hp hc
        refine lv_aload_n hx hb dX1_bestStreet_39 rfl (lv_at hl 1 rfl) ?_
        refine x_getA X hC.1 hM (ci := 0) (C := RX1) (T := TX1) (N := 8) rfl in_X1 0 (by decide) q973 (fun _ h9 => h9) dX1_bestStreet_40 hp (fun a13 hp => ?_)
        refine lv_iload_n hx hb dX1_bestStreet_43 rfl (lv_at hl 2 rfl) ?_
        refine lv_iload_n hx hb dX1_bestStreet_44 rfl (lv_at hl 4 rfl) ?_
        obtain ⟨hrec, hp⟩ := hp
        refine x_call0Z (vx_runV (As := [.int x1, .int x3]) (rest := []) X (P_X2_isAllowed_ok (l := l) hl0 hp) (cwV 2 hts (lw_V q2510 q2459 q2460 q149 q2461) rfl rfl rfl (by decide +kernel) ⟨Nat.le_of_ble_eq_true rfl, Nat.le_of_ble_eq_true rfl⟩) ⟨wPc.blind, w_recv hC.1 hM (ci := 1) (q := (RX2, TX2, 9)) rfl hrec, w_pre hC hM hS _⟩ rfl rfl hl.1 rfl (lv_room (Nat.le_of_ble_eq_true rfl)) dX1_bestStreet_45 (w_room0 hB)) hS (w_room0 hB) (fun _ _ _ _ _ _ h => False.elim h) (fun r16 M14 H locs hp hM hS => ?_)
        refine x_ifeqB (tgt := 71) hx hb dX1_bestStreet_48 (by decide) (fun hc => ?_) (fun hc => ?_)
        · have hp := oIf.bf hp hc
          exact hB71 rec8 hrec8 _ _ _ _ _ _ _ _ _ _ _ hp hM hS hB (lv_sub hl [1, 2, 3, 4] rfl)
        · have hp := oIf.bt hp hc
          refine lv_iload_n hx hb dX1_bestStreet_51 rfl (lv_at hl 3 rfl) ?_
          refine lv_iconst (v := (-1)) hx hb dX1_bestStreet_52 (by decide) ?_
          refine lv_icmp_eq (tgt := 69) hx hb dX1_bestStreet_53 (by decide) (fun hc => ?_) (fun hc => ?_)
          · have hp := oIf.t hp hc
            exact hB69 rec8 hrec8 _ _ _ _ _ _ _ _ _ _ hp hM hS hB (lv_sub hl [1, 2, 4] rfl)
          · have hp := oIf.f hp hc
            refine lv_iload hx hb dX1_bestStreet_56 (lv_at hl 0 rfl) ?_
            refine lv_aload_n hx hb dX1_bestStreet_58 rfl (lv_at hl 1 rfl) ?_
            refine x_getA X hC.1 hM (ci := 0) (C := RX1) (T := TX1) (N := 8) rfl in_X1 0 (by decide) q973 (fun _ h9 => h9) dX1_bestStreet_59 hp (fun a17 hp => ?_)
            refine lv_iload_n hx hb dX1_bestStreet_62 rfl (lv_at hl 3 rfl) ?_
            obtain ⟨hrec, hp⟩ := hp
            obtain ⟨c19, hc1, hp⟩ := hp
            refine x_callI (vx_runV (As := [.int x2]) (rest := [.int v12]) X (P_X2_free_ok (l := l) hl0 hp) (cwV 1 hts (lw_V q2505 q2506 q2507 q149 q2508) rfl rfl rfl (by decide +kernel) ⟨Nat.le_of_ble_eq_true rfl, Nat.le_of_ble_eq_true rfl⟩) ⟨wPc.blind, w_recv hC.1 hM (ci := 1) (q := (RX2, TX2, 9)) rfl hrec, w_pre hC hM hS _⟩ rfl rfl hl.1 rfl (lv_room (Nat.le_of_ble_eq_true rfl)) dX1_bestStreet_63 (w_room hB hc1)) hS hB hc1 (fun _ _ _ _ _ _ h => False.elim h) (fun v20 M18 H locs hp hM hS hB => ?_)
            refine lv_icmp_le (tgt := 71) hx hb dX1_bestStreet_66 (by decide) (fun hc => ?_) (fun hc => ?_)
            · have hp := oIf.t hp hc
              exact hB71 rec8 hrec8 _ _ _ _ _ _ _ _ _ _ _ hp hM hS hB (lv_sub hl [1, 2, 3, 4] rfl)
            · have hp := oIf.f hp hc
              exact hB69 rec8 hrec8 _ _ _ _ _ _ _ _ _ _ hp hM hS hB (lv_sub hl [1, 2, 4] rfl)
  have hL8 : ∀ (n : Nat), ∀ (x0 : Nat) (x1 : Int32) (x2 : Int32) (x3 : Int32) (M : wM) (bq : Nat) (H : Heap) (locs : List Loc) (ls : Array Slot) (cells slots : Nat), L_X1_bestStreet_8 G Q Xp n x0 x1 x2 x3 M bq → wR G M H → va_S (wA G) s.heap H locs → (cells + bq ≤ ((headSpec (ws_ yX1_bestStreet cX1_bestStreet 5 (Option.some Jvm.ClassFile.FieldType.int)) ({ frames := 19, cells := b, slots := b, locals := 554 })).room).cells ∧ slots + bq ≤ ((headSpec (ws_ yX1_bestStreet cX1_bestStreet 5 (Option.some Jvm.ClassFile.FieldType.int)) ({ frames := 19, cells := b, slots := b, locals := 554 })).room).slots) → lv_has ls 5 [(0, .ref x0), (1, .int x1), (2, .int x2), (3, .int x3)] → W p l e (headSpec (ws_ yX1_bestStreet cX1_bestStreet 5 (Option.some Jvm.ClassFile.FieldType.int)) ({ frames := 19, cells := b, slots := b, locals := 554 })).room s m ([.ref t0, .int p1] : List Value).toArray below meth c H locs cells slots (vx_MQ below (wQ G (wqI Q)) (wXC G Xp) ([.ref t0, .int p1] : List Value).toArray s b b (wA G)) (F0 m 8 ls []) := by
    intro n
    induction n with
    | zero => intro _ _ _ _ _ _ _ _ _ _ _ hp; exact False.elim hp
    | succ n ih => intro x0 x1 x2 x3 M bq H locs ls cells slots hp hM hS hB hl; exact hB8 (L_X1_bestStreet_8 G Q Xp n) ih _ _ _ _ _ _ _ _ _ _ _ hp hM hS hB hl
  refine lv_iload_n hx hb dX1_bestStreet_0 rfl (lv_at hl 1 rfl) ?_
  obtain ⟨c2, hc1, hp⟩ := hp
  refine x_callV (vx_runS (As := [.int p1]) (rest := []) X (P_X1_checkPlate_ok (l := l) hl0 hp) (va_cwS 1 hts (lw_S q2451 q2452 q148 q2453) rfl rfl rfl (by decide +kernel) ⟨Nat.le_of_ble_eq_true rfl, Nat.le_of_ble_eq_true rfl⟩) ⟨wPc.blind, w_pre hC hM hS _⟩ rfl rfl hl.1 rfl (lv_room (Nat.le_of_ble_eq_true rfl)) dX1_bestStreet_1 (w_room hB hc1)) hS hB hc1 (fun E ce q3 M4 H locs hp hM hS hB hcell hcv hcl => ?_) (fun M1 H locs hp hM hS hB => ?_)
  · obtain ⟨rfl, hp⟩ := hp
    exact x_out hlk (fun x h => (hnt x h).elim) hM hS (w_fin hB) hcell hcv hcl hp
  · refine lv_iconst (v := (-1)) hx hb dX1_bestStreet_4 (by decide) ?_
    refine lv_istore_n (lv' := [(2, .int (-1 : Int32)), (0, .ref t0), (1, .int p1)]) hx hb dX1_bestStreet_5 rfl hl (by decide) rfl (fun ls hl => ?_)
    refine lv_iconst (v := 0) hx hb dX1_bestStreet_6 (by decide) ?_
    refine lv_istore_n (lv' := [(3, .int (0 : Int32)), (2, .int (-1 : Int32)), (0, .ref t0), (1, .int p1)]) hx hb dX1_bestStreet_7 rfl hl (by decide) rfl (fun ls hl => ?_)
    obtain ⟨n, hp⟩ := hp
    exact hL8 n _ _ _ _ _ _ _ _ _ _ _ hp hM hS hB (lv_sub hl [2, 3, 1, 0] rfl)
def P_X1_cancel (G : wG) (t0 : Nat) (p1 : Int32) (b : Nat) (M : wM) (Q : Int32 → wM → Prop) (Xp : String → Nat → wM → Prop) : Prop :=
  oIs M t0 0 (∃ c2, c2 ≤ b ∧ P_X1_permitAt G t0 p1 c2 M (fun r3 M1 => oRef r3 (fun a4 => oIs M1 a4 9 (P_X12_isActive G a4 M1 (fun r7 M5 => ∃ c9, c9 ≤ (b - c2) ∧ P_X1_checkState G (wb r7) c9 M5 (fun M8 => oIs M8 t0 0 (∃ c11, c11 ≤ ((b - c2) - c9) ∧ P_X1_remember G t0 c11 M8 (fun M10 => oGetA M10 t0 0 0 (fun a12 => oGetA M10 a12 1 1 (fun a13 => oIs M10 a13 16 (P_J2_get G a13 p1 M10 (fun r16 M14 => oCast M14 r16 9 (oRef r16 (fun a17 => oPut G M14 a17 9 4 (.int (4 : Int32)) (fun M18 => oGetA M18 t0 0 0 (fun a19 => oIs M18 a19 1 (P_X2_offer G a19 M18 (fun M20 => oGetI M20 a4 9 4 (fun v22 => Q v22 M20)))))))))))))) (fun E q23 M24 => (E = "java/lang/IllegalStateException" ∧ Xp E q23 M24)))))) (fun E q25 M26 => (E = "java/lang/IndexOutOfBoundsException" ∧ Xp E q25 M26)))
set_option maxHeartbeats 4000000 in
set_option maxRecDepth 100000 in
theorem P_X1_cancel_ok {l : Launch} (hl0 : l.stackTraces = false) {G : wG} {t0 : Nat} {p1 : Int32} {b : Nat} {M : wM} {Q : Int32 → wM → Prop} {Xp : String → Nat → wM → Prop} (hp : P_X1_cancel G t0 p1 b M Q Xp) : wMet l yX1_cancel (ws_ yX1_cancel cX1_cancel 3 (Option.some Jvm.ClassFile.FieldType.int)) 20 575 G [.ref t0, .int p1] M b (wqI Q) Xp := by
  refine vx_ofW (cc := cX1_cancel) (maxL := 3) (ret := Option.some Jvm.ClassFile.FieldType.int) (by decide) rfl ?_
  intro p e s m args below meth c s₁ B hml hnt hv
  obtain ⟨rfl, hM, hK, hZ, hz⟩ := hv
  have hC : wC G s := ⟨hK, hZ, hz⟩
  have hx := B.exec
  have hb := B.bytes
  have hr := B.returns
  have hts := atoms_spec (ws := (ws_ yX1_cancel cX1_cancel 3 (Option.some Jvm.ClassFile.FieldType.int))) B.pre
  have hts : ∀ w ∈ lw_all, w.before _ s = true := fun w h => hts w (List.mem_cons_of_mem _ h)
  have hown : s.vm.findClass RX1 = some m.cls := findClass_of_methodNamed B.named
  have hlk := B.notSynchronized
  have X : CallFix p m c cX1_cancel 3 s ([.ref t0, .int p1] : List Value).toArray lw_all RX1 := ⟨hx, hb, hml, hown, hts⟩
  have hS : va_S (wA G) s.heap s.heap [] := va_S.rf
  have hl := lv_entry ([.ref t0, .int p1]) (n := 3) (Nat.le_of_ble_eq_true rfl)
  rw [lg_entry_eq]
  generalize (lg_sl ([.ref t0, .int p1]) ++ List.replicate (3 - (lg_sl ([.ref t0, .int p1])).length) Slot.unset).toArray = ls at hl ⊢
  have hl : lv_has ls 3 [(0, .ref t0), (1, .int p1)] := hl
  have hB : 0 + b ≤ ((headSpec (ws_ yX1_cancel cX1_cancel 3 (Option.some Jvm.ClassFile.FieldType.int)) ({ frames := 20, cells := b, slots := b, locals := 575 })).room).cells ∧ 0 + b ≤ ((headSpec (ws_ yX1_cancel cX1_cancel 3 (Option.some Jvm.ClassFile.FieldType.int)) ({ frames := 20, cells := b, slots := b, locals := 575 })).room).slots := ⟨Nat.le_of_eq (Nat.zero_add b), Nat.le_of_eq (Nat.zero_add b)⟩
  refine lv_aload_n hx hb dX1_cancel_0 rfl (lv_at hl 0 rfl) ?_
  refine lv_iload_n hx hb dX1_cancel_1 rfl (lv_at hl 1 rfl) ?_
  obtain ⟨hrec, hp⟩ := hp
  obtain ⟨c2, hc1, hp⟩ := hp
  refine x_callR (vx_runV (As := [.int p1]) (rest := []) X (P_X1_permitAt_ok (l := l) hl0 hp) (cwV 1 hts (lw_V q2352 q2354 qs41 q148 q2355) rfl rfl rfl (by decide +kernel) ⟨Nat.le_of_ble_eq_true rfl, Nat.le_of_ble_eq_true rfl⟩) ⟨wPc.blind, w_recv hC.1 hM (ci := 0) (q := (RX1, TX1, 8)) rfl hrec, w_pre hC hM hS _⟩ rfl rfl hl.1 rfl (lv_room (Nat.le_of_ble_eq_true rfl)) dX1_cancel_2 (w_room hB hc1)) hS hB hc1 (fun E ce q25 M26 H locs hp hM hS hB hcell hcv hcl => ?_) (fun r3 M1 H locs hp hM hS hB => ?_)
  · obtain ⟨rfl, hp⟩ := hp
    exact x_out hlk (fun x h => (hnt x h).elim) hM hS (w_fin hB) hcell hcv hcl hp
  · refine x_astore_n (r := r3) (lv' := [(2, va_rf r3), (0, .ref t0), (1, .int p1)]) hx hb dX1_cancel_5 rfl hl (by decide) rfl (fun ls hl => ?_)
    refine x_aload_n (r := r3) hx hb dX1_cancel_6 rfl (lv_at hl 0 rfl) ?_
    obtain ⟨a4, ea, hqa4⟩ := hp
    subst ea
    have hp := hqa4
    have hl : lv_has ls 3 [(2, .ref a4), (0, .ref t0), (1, .int p1)] := hl
    obtain ⟨hrec, hp⟩ := hp
    refine x_call0Z (vx_runV (As := []) (rest := []) X (P_X12_isActive_ok (l := l) hl0 hp) (cwV 0 hts (lw_V q1687 q1688 q1689 q202 q1690) rfl rfl rfl (by decide +kernel) ⟨Nat.le_of_ble_eq_true rfl, Nat.le_of_ble_eq_true rfl⟩) ⟨wPc.blind, w_recv hC.1 hM (ci := 9) (q := (RX12, TX12, 8)) rfl hrec, w_pre hC hM hS _⟩ rfl rfl hl.1 rfl (lv_room (Nat.le_of_ble_eq_true rfl)) dX1_cancel_7 (w_room0 hB)) hS (w_room0 hB) (fun _ _ _ _ _ _ h => False.elim h) (fun r7 M5 H locs hp hM hS => ?_)
    obtain ⟨c9, hc1, hp⟩ := hp
    refine x_callV (vx_runS (As := [.int (wb r7)]) (rest := []) X (P_X1_checkState_ok (l := l) hl0 hp) (va_cwS 1 hts (lw_S q2690 q2691 q148 q2692) rfl rfl rfl (by decide +kernel) ⟨Nat.le_of_ble_eq_true rfl, Nat.le_of_ble_eq_true rfl⟩) ⟨wPc.blind, w_pre hC hM hS _⟩ rfl rfl hl.1 rfl (lv_room (Nat.le_of_ble_eq_true rfl)) dX1_cancel_10 (w_room hB hc1)) hS hB hc1 (fun E ce q23 M24 H locs hp hM hS hB hcell hcv hcl => ?_) (fun M8 H locs hp hM hS hB => ?_)
    · obtain ⟨rfl, hp⟩ := hp
      exact x_out hlk (fun x h => (hnt x h).elim) hM hS (w_fin hB) hcell hcv hcl hp
    · refine lv_aload_n hx hb dX1_cancel_13 rfl (lv_at hl 1 rfl) ?_
      obtain ⟨hrec, hp⟩ := hp
      obtain ⟨c11, hc1, hp⟩ := hp
      refine x_callV (vx_runV (As := []) (rest := []) X (P_X1_remember_ok (l := l) hl0 hp) (cwV 0 hts (lw_V q2543 q2545 qs49 q148 q2546) rfl rfl rfl (by decide +kernel) ⟨Nat.le_of_ble_eq_true rfl, Nat.le_of_ble_eq_true rfl⟩) ⟨wPc.blind, w_recv hC.1 hM (ci := 0) (q := (RX1, TX1, 8)) rfl hrec, w_pre hC hM hS _⟩ rfl rfl hl.1 rfl (lv_room (Nat.le_of_ble_eq_true rfl)) dX1_cancel_14 (w_room hB hc1)) hS hB hc1 (fun _ _ _ _ _ _ h => False.elim h) (fun M10 H locs hp hM hS hB => ?_)
      refine lv_aload_n hx hb dX1_cancel_17 rfl (lv_at hl 1 rfl) ?_
      refine x_getA X hC.1 hM (ci := 0) (C := RX1) (T := TX1) (N := 8) rfl in_X1 0 (by decide) q973 (fun _ h9 => h9) dX1_cancel_18 hp (fun a12 hp => ?_)
      refine x_getAN X hC.1 hM (ci := 1) (C := RX2) (T := TX2) (N := 9) rfl in_X2 1 (by decide) q920 (fun _ h9 => h9) dX1_cancel_21 hp (fun a13 hp => ?_)
      refine lv_iload_n hx hb dX1_cancel_24 rfl (lv_at hl 2 rfl) ?_
      obtain ⟨hrec, hp⟩ := hp
      refine x_call0R5 (vx_runF (hC.1.1.1 16 (RJ2, TJ2, 3) rfl).2 (C := "java/util/ArrayList") (As := [.int p1]) (rest := []) X (P_J2_get_ok (l := l) hl0 hp) (va_cwF 1 hts (lw_app (w_mem4 q1667 q522 q524 q153) (lw_meth q526)) rfl rfl rfl (wfw_8 hC.1) (by decide +kernel) ⟨Nat.le_of_ble_eq_true rfl, Nat.le_of_ble_eq_true rfl⟩) ⟨wPc.blind, w_recv hC.1 hM (ci := 16) (q := (RJ2, TJ2, 3)) rfl hrec, w_pre hC hM hS _⟩ rfl rfl hl.1 rfl (lv_room (Nat.le_of_ble_eq_true rfl)) dX1_cancel_25 (w_room0 hB)) hS (w_room0 hB) (fun _ _ _ _ _ _ h => False.elim h) (fun r16 M14 H locs hp hM hS => ?_)
      refine x_cast (r := r16) X hC.1 hM q1686 (ci := 9) rfl (Or.inl rfl) dX1_cancel_30 hp (fun hp => ?_)
      refine lv_iconst (v := 4) hx hb dX1_cancel_33 (by decide) ?_
      obtain ⟨a17, ea, hqa17⟩ := hp
      subst ea
      have hp := hqa17
      refine x_putN X hC.1 hM hS (ci := 9) (C := RX12) (T := TX12) (N := 8) rfl in_X12 tyX12 tyX12_ok nmX12 4 (by decide) q2091 (fun _ h9 => h9) rfl rfl rfl dX1_cancel_34 hp (fun M18 H locs hM hS hp => ?_)
      refine lv_aload_n hx hb dX1_cancel_37 rfl (lv_at hl 1 rfl) ?_
      refine x_getA X hC.1 hM (ci := 0) (C := RX1) (T := TX1) (N := 8) rfl in_X1 0 (by decide) q973 (fun _ h9 => h9) dX1_cancel_38 hp (fun a19 hp => ?_)
      obtain ⟨hrec, hp⟩ := hp
      refine x_call0V (vx_runV (As := []) (rest := []) X (P_X2_offer_ok (l := l) hl0 hp) (cwV 0 hts (lw_V q2682 q2609 q2610 q149 q2611) rfl rfl rfl (by decide +kernel) ⟨Nat.le_of_ble_eq_true rfl, Nat.le_of_ble_eq_true rfl⟩) ⟨wPc.blind, w_recv hC.1 hM (ci := 1) (q := (RX2, TX2, 9)) rfl hrec, w_pre hC hM hS _⟩ rfl rfl hl.1 rfl (lv_room (Nat.le_of_ble_eq_true rfl)) dX1_cancel_41 (w_room0 hB)) hS (w_room0 hB) (fun _ _ _ _ _ _ h => False.elim h) (fun M20 H locs hp hM hS => ?_)
      refine lv_aload_n hx hb dX1_cancel_44 rfl (lv_at hl 0 rfl) ?_
      refine x_getIN X hC.1 hM (ci := 9) (C := RX12) (T := TX12) (N := 8) rfl in_X12 4 (by decide) q2091 (fun _ h9 => h9) dX1_cancel_45 hp (fun v22 hp => ?_)
      exact x_iret X hr hlk hM hS (w_fin hB) dX1_cancel_48 ⟨_, rfl, hp⟩
def B_X1_car_19 (G : wG) (rec19 : Int32 → Int32 → Option Nat → wM → Nat → Prop) (Q : Int32 → wM → Prop) (Xp : String → Nat → wM → Prop) (x1 : Int32) (x3 : Int32) (x4 : Option Nat) (M : wM) (bq : Nat) : Prop :=
  oRef x4 (fun a1 => oIs M a1 19 (P_J36_hasNext G a1 M (fun r4 M2 => oIf (r4 = true) (oIs M2 a1 19 (P_J36_next G a1 M2 (fun r7 M5 => oCast M5 r7 14 (oRef r7 (fun a8 => oGetI M5 a8 14 1 (fun v9 => oIf (v9 = x1) (oIf (x3 = 0) (oGetI M5 a8 14 0 (fun v10 => Q v10 M5)) (rec19 x1 (x3 + (-1)) (some a1) M5 bq)) (rec19 x1 x3 (some a1) M5 bq))))))) (7 ≤ bq ∧ ∀ q : Nat, Xp "java/util/NoSuchElementException" q M2))))
def L_X1_car_19 (G : wG) (Q : Int32 → wM → Prop) (Xp : String → Nat → wM → Prop) : Nat → Int32 → Int32 → Option Nat → wM → Nat → Prop
  | 0 => fun _ _ _ _ _ => False
  | n + 1 => B_X1_car_19 G (L_X1_car_19 G Q Xp n) Q Xp
def P_X1_car (G : wG) (t0 : Nat) (p1 : Int32) (p2 : Int32) (b : Nat) (M : wM) (Q : Int32 → wM → Prop) (Xp : String → Nat → wM → Prop) : Prop :=
  oIs M t0 0 (∃ c2, c2 ≤ b ∧ P_X1_checkStreet G t0 p1 c2 M (fun M1 => oGetA M1 t0 0 0 (fun a3 => oGetA M1 a3 1 3 (fun a4 => oIs M1 a4 17 (∃ c6, c6 ≤ (b - c2) ∧ P_J7_iterator_J8 G a4 c6 M1 (fun r7 M5 => ∃ n, L_X1_car_19 G Q Xp n p1 p2 r7 M5 ((b - c2) - c6)))))) (fun E q8 M9 => (E = "java/lang/IndexOutOfBoundsException" ∧ Xp E q8 M9)))
set_option maxHeartbeats 4000000 in
set_option maxRecDepth 100000 in
theorem P_X1_car_ok {l : Launch} (hl0 : l.stackTraces = false) {G : wG} {t0 : Nat} {p1 : Int32} {p2 : Int32} {b : Nat} {M : wM} {Q : Int32 → wM → Prop} {Xp : String → Nat → wM → Prop} (hp : P_X1_car G t0 p1 p2 b M Q Xp) : wMet l yX1_car (ws_ yX1_car cX1_car 6 (Option.some Jvm.ClassFile.FieldType.int)) 17 506 G [.ref t0, .int p1, .int p2] M b (wqI Q) Xp := by
  refine vx_ofW (cc := cX1_car) (maxL := 6) (ret := Option.some Jvm.ClassFile.FieldType.int) (by decide) rfl ?_
  intro p e s m args below meth c s₁ B hml hnt hv
  obtain ⟨rfl, hM, hK, hZ, hz⟩ := hv
  have hC : wC G s := ⟨hK, hZ, hz⟩
  have hx := B.exec
  have hb := B.bytes
  have hr := B.returns
  have hts := atoms_spec (ws := (ws_ yX1_car cX1_car 6 (Option.some Jvm.ClassFile.FieldType.int))) B.pre
  have hts : ∀ w ∈ lw_all, w.before _ s = true := fun w h => hts w (List.mem_cons_of_mem _ h)
  have hown : s.vm.findClass RX1 = some m.cls := findClass_of_methodNamed B.named
  have hlk := B.notSynchronized
  have X : CallFix p m c cX1_car 6 s ([.ref t0, .int p1, .int p2] : List Value).toArray lw_all RX1 := ⟨hx, hb, hml, hown, hts⟩
  have hS : va_S (wA G) s.heap s.heap [] := va_S.rf
  have hl := lv_entry ([.ref t0, .int p1, .int p2]) (n := 6) (Nat.le_of_ble_eq_true rfl)
  rw [lg_entry_eq]
  generalize (lg_sl ([.ref t0, .int p1, .int p2]) ++ List.replicate (6 - (lg_sl ([.ref t0, .int p1, .int p2])).length) Slot.unset).toArray = ls at hl ⊢
  have hl : lv_has ls 6 [(0, .ref t0), (1, .int p1), (2, .int p2)] := hl
  have hB : 0 + b ≤ ((headSpec (ws_ yX1_car cX1_car 6 (Option.some Jvm.ClassFile.FieldType.int)) ({ frames := 17, cells := b, slots := b, locals := 506 })).room).cells ∧ 0 + b ≤ ((headSpec (ws_ yX1_car cX1_car 6 (Option.some Jvm.ClassFile.FieldType.int)) ({ frames := 17, cells := b, slots := b, locals := 506 })).room).slots := ⟨Nat.le_of_eq (Nat.zero_add b), Nat.le_of_eq (Nat.zero_add b)⟩
  have hB19 : ∀ (rec19 : Int32 → Int32 → Option Nat → wM → Nat → Prop) (hrec19 : ∀ (x1 : Int32) (x3 : Int32) (x4 : Option Nat) (M : wM) (bq : Nat) (H : Heap) (locs : List Loc) (ls : Array Slot) (cells slots : Nat), rec19 x1 x3 x4 M bq → wR G M H → va_S (wA G) s.heap H locs → (cells + bq ≤ ((headSpec (ws_ yX1_car cX1_car 6 (Option.some Jvm.ClassFile.FieldType.int)) ({ frames := 17, cells := b, slots := b, locals := 506 })).room).cells ∧ slots + bq ≤ ((headSpec (ws_ yX1_car cX1_car 6 (Option.some Jvm.ClassFile.FieldType.int)) ({ frames := 17, cells := b, slots := b, locals := 506 })).room).slots) → lv_has ls 6 [(1, .int x1), (3, .int x3), (4, va_rf x4)] → W p l e (headSpec (ws_ yX1_car cX1_car 6 (Option.some Jvm.ClassFile.FieldType.int)) ({ frames := 17, cells := b, slots := b, locals := 506 })).room s m ([.ref t0, .int p1, .int p2] : List Value).toArray below meth c H locs cells slots (vx_MQ below (wQ G (wqI Q)) (wXC G Xp) ([.ref t0, .int p1, .int p2] : List Value).toArray s b b (wA G)) (F0 m 19 ls [])), ∀ (x1 : Int32) (x3 : Int32) (x4 : Option Nat) (M : wM) (bq : Nat) (H : Heap) (locs : List Loc) (ls : Array Slot) (cells slots : Nat), B_X1_car_19 G rec19 Q Xp x1 x3 x4 M bq → wR G M H → va_S (wA G) s.heap H locs → (cells + bq ≤ ((headSpec (ws_ yX1_car cX1_car 6 (Option.some Jvm.ClassFile.FieldType.int)) ({ frames := 17, cells := b, slots := b, locals := 506 })).room).cells ∧ slots + bq ≤ ((headSpec (ws_ yX1_car cX1_car 6 (Option.some Jvm.ClassFile.FieldType.int)) ({ frames := 17, cells := b, slots := b, locals := 506 })).room).slots) → lv_has ls 6 [(1, .int x1), (3, .int x3), (4, va_rf x4)] → W p l e (headSpec (ws_ yX1_car cX1_car 6 (Option.some Jvm.ClassFile.FieldType.int)) ({ frames := 17, cells := b, slots := b, locals := 506 })).room s m ([.ref t0, .int p1, .int p2] : List Value).toArray below meth c H locs cells slots (vx_MQ below (wQ G (wqI Q)) (wXC G Xp) ([.ref t0, .int p1, .int p2] : List Value).toArray s b b (wA G)) (F0 m 19 ls []) := by
    intro rec19 hrec19 x1 x3 x4 M bq H locs ls cells slots hp hM hS hB hl
    refine x_aload (r := x4) hx hb dX1_car_19 (lv_at hl 2 rfl) ?_
    obtain ⟨a1, ea, hqa1⟩ := hp
    subst ea
    have hp := hqa1
    have hl : lv_has ls 6 [(1, .int x1), (3, .int x3), (4, .ref a1)] := hl
    obtain ⟨hrec, hp⟩ := hp
    refine x_call0Z5 (vx_runF (hC.1.1.1 19 (RJ36, TJ36, 5) rfl).2 (C := "java/util/LinkedList$ListItr") (As := []) (rest := []) X (P_J36_hasNext_ok (l := l) hl0 hp) (va_cwF 0 hts (lw_app (w_mem4 q2016 q1818 q1820 q195) (lw_meth q1822)) rfl rfl rfl (wfw_37 hC.1) (by decide +kernel) ⟨Nat.le_of_ble_eq_true rfl, Nat.le_of_ble_eq_true rfl⟩) ⟨wPc.blind, w_recv hC.1 hM (ci := 19) (q := (RJ36, TJ36, 5)) rfl hrec, w_pre hC hM hS _⟩ rfl rfl hl.1 rfl (lv_room (Nat.le_of_ble_eq_true rfl)) dX1_car_21 (w_room0 hB)) hS (w_room0 hB) (fun _ _ _ _ _ _ h => False.elim h) (fun r4 M2 H locs hp hM hS => ?_)
    refine x_ifeqB (tgt := 69) hx hb dX1_car_26 (by decide) (fun hc => ?_) (fun hc => ?_)
    · have hp := oIf.bf hp hc
      exact x_throw0 X hC hl0 hM hS hB ⟨Nat.le_refl _, Nat.le_refl _⟩ (by decide +kernel) (by decide +kernel) q2404 q196 vg_X1_NoSuchElementException (w_recat hts hC.1 vt_X1_NoSuchElementException) (hl.1.trans hml.symm) dX1_car_69 dX1_car_72 dX1_car_73 dX1_car_76 (fun x h => (hnt x h).elim) (Nat.le_of_ble_eq_true rfl) (Nat.le_of_ble_eq_true rfl) hlk hp.1 hp.2
    · have hp := oIf.bt hp hc
      refine lv_aload hx hb dX1_car_29 (lv_at hl 2 rfl) ?_
      obtain ⟨hrec, hp⟩ := hp
      refine x_call0R5 (vx_runF (hC.1.1.1 19 (RJ36, TJ36, 5) rfl).2 (C := "java/util/LinkedList$ListItr") (As := []) (rest := []) X (P_J36_next_ok (l := l) hl0 hp) (va_cwF 0 hts (lw_app (w_mem4 q2018 q1952 q1954 q195) (lw_meth q1956)) rfl rfl rfl (wfw_38 hC.1) (by decide +kernel) ⟨Nat.le_of_ble_eq_true rfl, Nat.le_of_ble_eq_true rfl⟩) ⟨wPc.blind, w_recv hC.1 hM (ci := 19) (q := (RJ36, TJ36, 5)) rfl hrec, w_pre hC hM hS _⟩ rfl rfl hl.1 rfl (lv_room (Nat.le_of_ble_eq_true rfl)) dX1_car_31 (w_room0 hB)) hS (w_room0 hB) (fun _ _ _ _ _ _ h => False.elim h) (fun r7 M5 H locs hp hM hS => ?_)
      refine x_cast (r := r7) X hC.1 hM q2443 (ci := 14) rfl (Or.inl rfl) dX1_car_36 hp (fun hp => ?_)
      refine x_astore (r := r7) (lv' := [(5, va_rf r7), (1, .int x1), (3, .int x3), (4, .ref a1)]) hx hb dX1_car_39 hl (by decide) rfl (fun ls hl => ?_)
      refine x_aload (r := r7) hx hb dX1_car_41 (lv_at hl 0 rfl) ?_
      obtain ⟨a8, ea, hqa8⟩ := hp
      subst ea
      have hp := hqa8
      have hl : lv_has ls 6 [(5, .ref a8), (1, .int x1), (3, .int x3), (4, .ref a1)] := hl
      refine x_getIN X hC.1 hM (ci := 14) (C := RX18) (T := TX18) (N := 3) rfl in_X18 1 (by decide) q2787 (fun _ h9 => h9) dX1_car_43 hp (fun v9 hp => ?_)
      refine lv_iload_n hx hb dX1_car_46 rfl (lv_at hl 1 rfl) ?_
      refine lv_icmp_eq (tgt := 53) hx hb dX1_car_47 (by decide) (fun hc => ?_) (fun hc => ?_)
      · have hp := oIf.t hp hc
        refine lv_iload_n hx hb dX1_car_53 rfl (lv_at hl 2 rfl) ?_
        refine lv_if_ne (tgt := 63) hx hb dX1_car_54 (by decide) (fun hc => ?_) (fun hc => ?_)
        · have hp := oIf.f hp hc
          refine lv_iinc (v := (x3 + (-1))) (lv' := [(3, .int (x3 + (-1))), (5, .ref a8), (1, .int x1), (4, .ref a1)]) hx hb dX1_car_63 hl (k := 2) rfl rfl (by decide) rfl (fun ls hl => ?_)
          refine lv_goto (tgt := 19) hx hb dX1_car_66 (by decide) ?_
          exact hrec19 _ _ _ _ _ _ _ _ _ _ hp hM hS hB (lv_sub hl [2, 0, 3] rfl)
        · have hp := oIf.t hp hc
          refine lv_aload hx hb dX1_car_57 (lv_at hl 0 rfl) ?_
          refine x_getIN X hC.1 hM (ci := 14) (C := RX18) (T := TX18) (N := 3) rfl in_X18 0 (by decide) q2784 (fun _ h9 => h9) dX1_car_59 hp (fun v10 hp => ?_)
          exact x_iret X hr hlk hM hS (w_fin hB) dX1_car_62 ⟨_, rfl, hp⟩
      · have hp := oIf.f hp hc
        refine lv_goto (tgt := 19) hx hb dX1_car_50 (by decide) ?_
        exact hrec19 _ _ _ _ _ _ _ _ _ _ hp hM hS hB (lv_sub hl [1, 2, 3] rfl)
  have hL19 : ∀ (n : Nat), ∀ (x1 : Int32) (x3 : Int32) (x4 : Option Nat) (M : wM) (bq : Nat) (H : Heap) (locs : List Loc) (ls : Array Slot) (cells slots : Nat), L_X1_car_19 G Q Xp n x1 x3 x4 M bq → wR G M H → va_S (wA G) s.heap H locs → (cells + bq ≤ ((headSpec (ws_ yX1_car cX1_car 6 (Option.some Jvm.ClassFile.FieldType.int)) ({ frames := 17, cells := b, slots := b, locals := 506 })).room).cells ∧ slots + bq ≤ ((headSpec (ws_ yX1_car cX1_car 6 (Option.some Jvm.ClassFile.FieldType.int)) ({ frames := 17, cells := b, slots := b, locals := 506 })).room).slots) → lv_has ls 6 [(1, .int x1), (3, .int x3), (4, va_rf x4)] → W p l e (headSpec (ws_ yX1_car cX1_car 6 (Option.some Jvm.ClassFile.FieldType.int)) ({ frames := 17, cells := b, slots := b, locals := 506 })).room s m ([.ref t0, .int p1, .int p2] : List Value).toArray below meth c H locs cells slots (vx_MQ below (wQ G (wqI Q)) (wXC G Xp) ([.ref t0, .int p1, .int p2] : List Value).toArray s b b (wA G)) (F0 m 19 ls []) := by
    intro n
    induction n with
    | zero => intro _ _ _ _ _ _ _ _ _ _ hp; exact False.elim hp
    | succ n ih => intro x1 x3 x4 M bq H locs ls cells slots hp hM hS hB hl; exact hB19 (L_X1_car_19 G Q Xp n) ih _ _ _ _ _ _ _ _ _ _ hp hM hS hB hl
  refine lv_aload_n hx hb dX1_car_0 rfl (lv_at hl 0 rfl) ?_
  refine lv_iload_n hx hb dX1_car_1 rfl (lv_at hl 1 rfl) ?_
  obtain ⟨hrec, hp⟩ := hp
  obtain ⟨c2, hc1, hp⟩ := hp
  refine x_callV (vx_runV (As := [.int p1]) (rest := []) X (P_X1_checkStreet_ok (l := l) hl0 hp) (cwV 1 hts (lw_V q2225 q2227 qs37 q148 q2228) rfl rfl rfl (by decide +kernel) ⟨Nat.le_of_ble_eq_true rfl, Nat.le_of_ble_eq_true rfl⟩) ⟨wPc.blind, w_recv hC.1 hM (ci := 0) (q := (RX1, TX1, 8)) rfl hrec, w_pre hC hM hS _⟩ rfl rfl hl.1 rfl (lv_room (Nat.le_of_ble_eq_true rfl)) dX1_car_2 (w_room hB hc1)) hS hB hc1 (fun E ce q8 M9 H locs hp hM hS hB hcell hcv hcl => ?_) (fun M1 H locs hp hM hS hB => ?_)
  · obtain ⟨rfl, hp⟩ := hp
    exact x_out hlk (fun x h => (hnt x h).elim) hM hS (w_fin hB) hcell hcv hcl hp
  · refine lv_iload_n hx hb dX1_car_5 rfl (lv_at hl 2 rfl) ?_
    refine lv_istore_n (lv' := [(3, .int p2), (0, .ref t0), (1, .int p1), (2, .int p2)]) hx hb dX1_car_6 rfl hl (by decide) rfl (fun ls hl => ?_)
    refine lv_aload_n hx hb dX1_car_7 rfl (lv_at hl 1 rfl) ?_
    refine x_getA X hC.1 hM (ci := 0) (C := RX1) (T := TX1) (N := 8) rfl in_X1 0 (by decide) q973 (fun _ h9 => h9) dX1_car_8 hp (fun a3 hp => ?_)
    refine x_getAN X hC.1 hM (ci := 1) (C := RX2) (T := TX2) (N := 9) rfl in_X2 3 (by decide) q924 (fun _ h9 => h9) dX1_car_11 hp (fun a4 hp => ?_)
    obtain ⟨hrec, hp⟩ := hp
    obtain ⟨c6, hc1, hp⟩ := hp
    refine x_callR (vx_runU (As := []) (rest := []) X (P_J7_iterator_J8_ok (l := l) hl0 hp) (va_cwU 0 hts (lw_app (w_mem5 q2442 q1700 q1702 q1703 q159) (lw_meth q1704)) rfl rfl rfl rfl (by decide +kernel) ⟨Nat.le_of_ble_eq_true rfl, Nat.le_of_ble_eq_true rfl⟩) ⟨wPc.blind, w_recv hC.1 hM (ci := 17) (q := (RJ8, TJ8, 4)) rfl hrec, w_pre hC hM hS _⟩ rfl rfl hl.1 rfl (lv_room (Nat.le_of_ble_eq_true rfl)) dX1_car_14 (w_room hB hc1)) hS hB hc1 (fun _ _ _ _ _ _ h => False.elim h) (fun r7 M5 H locs hp hM hS hB => ?_)
    refine x_astore (r := r7) (lv' := [(4, va_rf r7), (3, .int p2), (0, .ref t0), (1, .int p1), (2, .int p2)]) hx hb dX1_car_17 hl (by decide) rfl (fun ls hl => ?_)
    obtain ⟨n, hp⟩ := hp
    exact hL19 n _ _ _ _ _ _ _ _ _ _ hp hM hS hB (lv_sub hl [3, 1, 0] rfl)
def P_J8_size (G : wG) (t0 : Nat) (M : wM) (Q : Int32 → wM → Prop) : Prop :=
  oGetI M t0 17 1 (fun v1 => Q v1 M)
set_option maxHeartbeats 4000000 in
set_option maxRecDepth 100000 in
theorem P_J8_size_ok {l : Launch} (hl0 : l.stackTraces = false) {G : wG} {t0 : Nat} {M : wM} {Q : Int32 → wM → Prop} (hp : P_J8_size G t0 M Q) : wMet l yJ8_size (ws_ yJ8_size cJ8_size 1 (Option.some Jvm.ClassFile.FieldType.int)) 12 400 G [.ref t0] M 0 (wqI Q) wX0 := by
  refine vx_ofW (cc := cJ8_size) (maxL := 1) (ret := Option.some Jvm.ClassFile.FieldType.int) (by decide) rfl ?_
  intro p e s m args below meth c s₁ B hml hnt hv
  obtain ⟨rfl, hM, hK, hZ, hz⟩ := hv
  have hC : wC G s := ⟨hK, hZ, hz⟩
  have hx := B.exec
  have hb := B.bytes
  have hr := B.returns
  have hts := atoms_spec (ws := (ws_ yJ8_size cJ8_size 1 (Option.some Jvm.ClassFile.FieldType.int))) B.pre
  have hts : ∀ w ∈ lw_all, w.before _ s = true := fun w h => hts w (List.mem_cons_of_mem _ h)
  have hown : s.vm.findClass RJ8 = some m.cls := findClass_of_methodNamed B.named
  have hlk := B.notSynchronized
  have X : CallFix p m c cJ8_size 1 s ([.ref t0] : List Value).toArray lw_all RJ8 := ⟨hx, hb, hml, hown, hts⟩
  have hS : va_S (wA G) s.heap s.heap [] := va_S.rf
  have hl := lv_entry ([.ref t0]) (n := 1) (Nat.le_of_ble_eq_true rfl)
  rw [lg_entry_eq]
  generalize (lg_sl ([.ref t0]) ++ List.replicate (1 - (lg_sl ([.ref t0])).length) Slot.unset).toArray = ls at hl ⊢
  have hl : lv_has ls 1 [(0, .ref t0)] := hl
  refine lv_aload_n hx hb dJ8_size_0 rfl (lv_at hl 0 rfl) ?_
  refine x_getI X hC.1 hM (ci := 17) (C := RJ8) (T := TJ8) (N := 4) rfl in_J8 1 (by decide) q456 (fun _ h9 => h9) dJ8_size_1 hp (fun v1 hp => ?_)
  exact x_iret X hr hlk hM hS ⟨Nat.le_refl _, Nat.le_refl _⟩ dJ8_size_4 ⟨_, rfl, hp⟩
def P_X1_count (G : wG) (t0 : Nat) (p1 : Int32) (M : wM) (Q : Int32 → wM → Prop) : Prop :=
  oIf (p1 = (0 : Int32)) (oIs M t0 0 (P_X1_setup G t0 M (fun r3 M1 => oRef r3 (fun a4 => oGetA M1 a4 2 0 (fun a5 => oIs M1 a5 16 (P_J2_size G a5 M1 (fun v8 M6 => Q v8 M6))))))) (oIf (p1 = (1 : Int32)) (oIs M t0 0 (P_X1_setup G t0 M (fun r11 M9 => oRef r11 (fun a12 => oGetA M9 a12 2 1 (fun a13 => oIs M9 a13 16 (P_J2_size G a13 M9 (fun v16 M14 => Q v16 M14))))))) (oIf (p1 = (2 : Int32)) (oIs M t0 0 (P_X1_setup G t0 M (fun r19 M17 => oRef r19 (fun a20 => oGetA M17 a20 2 2 (fun a21 => oIs M17 a21 16 (P_J2_size G a21 M17 (fun v24 M22 => Q v24 M22))))))) (oIf (p1 = (3 : Int32)) (oGetA M t0 0 0 (fun a25 => oGetA M a25 1 1 (fun a26 => oIs M a26 16 (P_J2_size G a26 M (fun v29 M27 => Q v29 M27))))) (oIf (p1 = (4 : Int32)) (oGetA M t0 0 0 (fun a30 => oGetA M a30 1 2 (fun a31 => oIs M a31 16 (P_J2_size G a31 M (fun v34 M32 => Q v34 M32))))) (oIf (p1 = (5 : Int32)) (oGetA M t0 0 0 (fun a35 => oGetA M a35 1 3 (fun a36 => oIs M a36 17 (P_J8_size G a36 M (fun v39 M37 => Q v39 M37))))) (oIf (p1 = (6 : Int32)) (oGetA M t0 0 0 (fun a40 => oGetA M a40 1 4 (fun a41 => oIs M a41 16 (P_J2_size G a41 M (fun v44 M42 => Q v44 M42))))) (oIf (p1 = (7 : Int32)) (oGetA M t0 0 0 (fun a45 => oGetI M a45 1 8 (fun v46 => Q v46 M))) (oIf (p1 = (8 : Int32)) (oGetA M t0 0 2 (fun a47 => oIs M a47 22 (P_J25_size G a47 M (fun v50 M48 => Q v50 M48)))) (oIf (p1 = (9 : Int32)) (oIs M t0 0 (P_X1_setup G t0 M (fun r53 M51 => oRef r53 (fun a54 => oGetI M51 a54 2 5 (fun v55 => Q v55 M51))))) (oIf (p1 = (10 : Int32)) (oIs M t0 0 (P_X1_setup G t0 M (fun r58 M56 => oRef r58 (fun a59 => oGetI M56 a59 2 6 (fun v60 => Q v60 M56))))) (oIf (p1 = (11 : Int32)) (oIs M t0 0 (P_X1_setup G t0 M (fun r63 M61 => oRef r63 (fun a64 => oGetI M61 a64 2 7 (fun v65 => Q v65 M61))))) (Q (-1 : Int32) M))))))))))))
set_option maxHeartbeats 4000000 in
set_option maxRecDepth 100000 in
theorem P_X1_count_ok {l : Launch} (hl0 : l.stackTraces = false) {G : wG} {t0 : Nat} {p1 : Int32} {M : wM} {Q : Int32 → wM → Prop} (hp : P_X1_count G t0 p1 M Q) : wMet l yX1_count (ws_ yX1_count cX1_count 2 (Option.some Jvm.ClassFile.FieldType.int)) 14 442 G [.ref t0, .int p1] M 0 (wqI Q) wX0 := by
  refine vx_ofW (cc := cX1_count) (maxL := 2) (ret := Option.some Jvm.ClassFile.FieldType.int) (by decide) rfl ?_
  intro p e s m args below meth c s₁ B hml hnt hv
  obtain ⟨rfl, hM, hK, hZ, hz⟩ := hv
  have hC : wC G s := ⟨hK, hZ, hz⟩
  have hx := B.exec
  have hb := B.bytes
  have hr := B.returns
  have hts := atoms_spec (ws := (ws_ yX1_count cX1_count 2 (Option.some Jvm.ClassFile.FieldType.int))) B.pre
  have hts : ∀ w ∈ lw_all, w.before _ s = true := fun w h => hts w (List.mem_cons_of_mem _ h)
  have hown : s.vm.findClass RX1 = some m.cls := findClass_of_methodNamed B.named
  have hlk := B.notSynchronized
  have X : CallFix p m c cX1_count 2 s ([.ref t0, .int p1] : List Value).toArray lw_all RX1 := ⟨hx, hb, hml, hown, hts⟩
  have hS : va_S (wA G) s.heap s.heap [] := va_S.rf
  have hl := lv_entry ([.ref t0, .int p1]) (n := 2) (Nat.le_of_ble_eq_true rfl)
  rw [lg_entry_eq]
  generalize (lg_sl ([.ref t0, .int p1]) ++ List.replicate (2 - (lg_sl ([.ref t0, .int p1])).length) Slot.unset).toArray = ls at hl ⊢
  have hl : lv_has ls 2 [(0, .ref t0), (1, .int p1)] := hl
  refine lv_iload_n hx hb dX1_count_0 rfl (lv_at hl 1 rfl) ?_
  by_cases hc0 : p1 = (0 : Int32)
  · have hp := oIf.t hp hc0
    refine lv_tableIn (off := 63) (tgt := 64) hx hb dX1_count_1 (by rw [hc0]; decide) (by rw [hc0]; decide) (by rw [hc0]; rfl) (by decide) ?_
    refine lv_aload_n hx hb dX1_count_64 rfl (lv_at hl 0 rfl) ?_
    obtain ⟨hrec, hp⟩ := hp
    refine x_call0R (vx_runV (As := []) (rest := []) X (P_X1_setup_ok (l := l) hl0 hp) (cwV 0 hts (lw_V q1535 q1537 qs29 q148 q1538) rfl rfl rfl (by decide +kernel) ⟨Nat.le_of_ble_eq_true rfl, Nat.le_of_ble_eq_true rfl⟩) ⟨wPc.blind, w_recv hC.1 hM (ci := 0) (q := (RX1, TX1, 8)) rfl hrec, w_pre hC hM hS _⟩ rfl rfl hl.1 rfl (lv_room (Nat.le_of_ble_eq_true rfl)) dX1_count_65 ⟨Nat.le_refl _, Nat.le_refl _⟩) hS ⟨Nat.le_refl _, Nat.le_refl _⟩ (fun _ _ _ _ _ _ h => False.elim h) (fun r3 M1 H locs hp hM hS => ?_)
    obtain ⟨a4, ea, hqa4⟩ := hp
    subst ea
    have hp := hqa4
    refine x_getAN X hC.1 hM (ci := 2) (C := RX3) (T := TX3) (N := 8) rfl in_X3 0 (by decide) q398 (fun _ h9 => h9) dX1_count_68 hp (fun a5 hp => ?_)
    obtain ⟨hrec, hp⟩ := hp
    refine x_call0I5 (vx_runF (hC.1.1.1 16 (RJ2, TJ2, 3) rfl).2 (C := "java/util/ArrayList") (As := []) (rest := []) X (P_J2_size_ok (l := l) hl0 hp) (va_cwF 0 hts (lw_app (w_mem4 q1540 q496 q498 q153) (lw_meth q500)) rfl rfl rfl (wfw_13 hC.1) (by decide +kernel) ⟨Nat.le_of_ble_eq_true rfl, Nat.le_of_ble_eq_true rfl⟩) ⟨wPc.blind, w_recv hC.1 hM (ci := 16) (q := (RJ2, TJ2, 3)) rfl hrec, w_pre hC hM hS _⟩ rfl rfl hl.1 rfl (lv_room (Nat.le_of_ble_eq_true rfl)) dX1_count_71 ⟨Nat.le_refl _, Nat.le_refl _⟩) hS ⟨Nat.le_refl _, Nat.le_refl _⟩ (fun _ _ _ _ _ _ h => False.elim h) (fun v8 M6 H locs hp hM hS => ?_)
    exact x_iret X hr hlk hM hS ⟨Nat.le_refl _, Nat.le_refl _⟩ dX1_count_76 ⟨_, rfl, hp⟩
  · have hp := oIf.f hp hc0
    by_cases hc1 : p1 = (1 : Int32)
    · have hp := oIf.t hp hc1
      refine lv_tableIn (off := 76) (tgt := 77) hx hb dX1_count_1 (by rw [hc1]; decide) (by rw [hc1]; decide) (by rw [hc1]; rfl) (by decide) ?_
      refine lv_aload_n hx hb dX1_count_77 rfl (lv_at hl 0 rfl) ?_
      obtain ⟨hrec, hp⟩ := hp
      refine x_call0R (vx_runV (As := []) (rest := []) X (P_X1_setup_ok (l := l) hl0 hp) (cwV 0 hts (lw_V q1535 q1537 qs29 q148 q1538) rfl rfl rfl (by decide +kernel) ⟨Nat.le_of_ble_eq_true rfl, Nat.le_of_ble_eq_true rfl⟩) ⟨wPc.blind, w_recv hC.1 hM (ci := 0) (q := (RX1, TX1, 8)) rfl hrec, w_pre hC hM hS _⟩ rfl rfl hl.1 rfl (lv_room (Nat.le_of_ble_eq_true rfl)) dX1_count_78 ⟨Nat.le_refl _, Nat.le_refl _⟩) hS ⟨Nat.le_refl _, Nat.le_refl _⟩ (fun _ _ _ _ _ _ h => False.elim h) (fun r11 M9 H locs hp hM hS => ?_)
      obtain ⟨a12, ea, hqa12⟩ := hp
      subst ea
      have hp := hqa12
      refine x_getAN X hC.1 hM (ci := 2) (C := RX3) (T := TX3) (N := 8) rfl in_X3 1 (by decide) q401 (fun _ h9 => h9) dX1_count_81 hp (fun a13 hp => ?_)
      obtain ⟨hrec, hp⟩ := hp
      refine x_call0I5 (vx_runF (hC.1.1.1 16 (RJ2, TJ2, 3) rfl).2 (C := "java/util/ArrayList") (As := []) (rest := []) X (P_J2_size_ok (l := l) hl0 hp) (va_cwF 0 hts (lw_app (w_mem4 q1540 q496 q498 q153) (lw_meth q500)) rfl rfl rfl (wfw_13 hC.1) (by decide +kernel) ⟨Nat.le_of_ble_eq_true rfl, Nat.le_of_ble_eq_true rfl⟩) ⟨wPc.blind, w_recv hC.1 hM (ci := 16) (q := (RJ2, TJ2, 3)) rfl hrec, w_pre hC hM hS _⟩ rfl rfl hl.1 rfl (lv_room (Nat.le_of_ble_eq_true rfl)) dX1_count_84 ⟨Nat.le_refl _, Nat.le_refl _⟩) hS ⟨Nat.le_refl _, Nat.le_refl _⟩ (fun _ _ _ _ _ _ h => False.elim h) (fun v16 M14 H locs hp hM hS => ?_)
      exact x_iret X hr hlk hM hS ⟨Nat.le_refl _, Nat.le_refl _⟩ dX1_count_89 ⟨_, rfl, hp⟩
    · have hp := oIf.f hp hc1
      by_cases hc2 : p1 = (2 : Int32)
      · have hp := oIf.t hp hc2
        refine lv_tableIn (off := 89) (tgt := 90) hx hb dX1_count_1 (by rw [hc2]; decide) (by rw [hc2]; decide) (by rw [hc2]; rfl) (by decide) ?_
        refine lv_aload_n hx hb dX1_count_90 rfl (lv_at hl 0 rfl) ?_
        obtain ⟨hrec, hp⟩ := hp
        refine x_call0R (vx_runV (As := []) (rest := []) X (P_X1_setup_ok (l := l) hl0 hp) (cwV 0 hts (lw_V q1535 q1537 qs29 q148 q1538) rfl rfl rfl (by decide +kernel) ⟨Nat.le_of_ble_eq_true rfl, Nat.le_of_ble_eq_true rfl⟩) ⟨wPc.blind, w_recv hC.1 hM (ci := 0) (q := (RX1, TX1, 8)) rfl hrec, w_pre hC hM hS _⟩ rfl rfl hl.1 rfl (lv_room (Nat.le_of_ble_eq_true rfl)) dX1_count_91 ⟨Nat.le_refl _, Nat.le_refl _⟩) hS ⟨Nat.le_refl _, Nat.le_refl _⟩ (fun _ _ _ _ _ _ h => False.elim h) (fun r19 M17 H locs hp hM hS => ?_)
        obtain ⟨a20, ea, hqa20⟩ := hp
        subst ea
        have hp := hqa20
        refine x_getAN X hC.1 hM (ci := 2) (C := RX3) (T := TX3) (N := 8) rfl in_X3 2 (by decide) q405 (fun _ h9 => h9) dX1_count_94 hp (fun a21 hp => ?_)
        obtain ⟨hrec, hp⟩ := hp
        refine x_call0I5 (vx_runF (hC.1.1.1 16 (RJ2, TJ2, 3) rfl).2 (C := "java/util/ArrayList") (As := []) (rest := []) X (P_J2_size_ok (l := l) hl0 hp) (va_cwF 0 hts (lw_app (w_mem4 q1540 q496 q498 q153) (lw_meth q500)) rfl rfl rfl (wfw_13 hC.1) (by decide +kernel) ⟨Nat.le_of_ble_eq_true rfl, Nat.le_of_ble_eq_true rfl⟩) ⟨wPc.blind, w_recv hC.1 hM (ci := 16) (q := (RJ2, TJ2, 3)) rfl hrec, w_pre hC hM hS _⟩ rfl rfl hl.1 rfl (lv_room (Nat.le_of_ble_eq_true rfl)) dX1_count_97 ⟨Nat.le_refl _, Nat.le_refl _⟩) hS ⟨Nat.le_refl _, Nat.le_refl _⟩ (fun _ _ _ _ _ _ h => False.elim h) (fun v24 M22 H locs hp hM hS => ?_)
        exact x_iret X hr hlk hM hS ⟨Nat.le_refl _, Nat.le_refl _⟩ dX1_count_102 ⟨_, rfl, hp⟩
      · have hp := oIf.f hp hc2
        by_cases hc3 : p1 = (3 : Int32)
        · have hp := oIf.t hp hc3
          refine lv_tableIn (off := 102) (tgt := 103) hx hb dX1_count_1 (by rw [hc3]; decide) (by rw [hc3]; decide) (by rw [hc3]; rfl) (by decide) ?_
          refine lv_aload_n hx hb dX1_count_103 rfl (lv_at hl 0 rfl) ?_
          refine x_getA X hC.1 hM (ci := 0) (C := RX1) (T := TX1) (N := 8) rfl in_X1 0 (by decide) q973 (fun _ h9 => h9) dX1_count_104 hp (fun a25 hp => ?_)
          refine x_getAN X hC.1 hM (ci := 1) (C := RX2) (T := TX2) (N := 9) rfl in_X2 1 (by decide) q920 (fun _ h9 => h9) dX1_count_107 hp (fun a26 hp => ?_)
          obtain ⟨hrec, hp⟩ := hp
          refine x_call0I5 (vx_runF (hC.1.1.1 16 (RJ2, TJ2, 3) rfl).2 (C := "java/util/ArrayList") (As := []) (rest := []) X (P_J2_size_ok (l := l) hl0 hp) (va_cwF 0 hts (lw_app (w_mem4 q1540 q496 q498 q153) (lw_meth q500)) rfl rfl rfl (wfw_13 hC.1) (by decide +kernel) ⟨Nat.le_of_ble_eq_true rfl, Nat.le_of_ble_eq_true rfl⟩) ⟨wPc.blind, w_recv hC.1 hM (ci := 16) (q := (RJ2, TJ2, 3)) rfl hrec, w_pre hC hM hS _⟩ rfl rfl hl.1 rfl (lv_room (Nat.le_of_ble_eq_true rfl)) dX1_count_110 ⟨Nat.le_refl _, Nat.le_refl _⟩) hS ⟨Nat.le_refl _, Nat.le_refl _⟩ (fun _ _ _ _ _ _ h => False.elim h) (fun v29 M27 H locs hp hM hS => ?_)
          exact x_iret X hr hlk hM hS ⟨Nat.le_refl _, Nat.le_refl _⟩ dX1_count_115 ⟨_, rfl, hp⟩
        · have hp := oIf.f hp hc3
          by_cases hc4 : p1 = (4 : Int32)
          · have hp := oIf.t hp hc4
            refine lv_tableIn (off := 115) (tgt := 116) hx hb dX1_count_1 (by rw [hc4]; decide) (by rw [hc4]; decide) (by rw [hc4]; rfl) (by decide) ?_
            refine lv_aload_n hx hb dX1_count_116 rfl (lv_at hl 0 rfl) ?_
            refine x_getA X hC.1 hM (ci := 0) (C := RX1) (T := TX1) (N := 8) rfl in_X1 0 (by decide) q973 (fun _ h9 => h9) dX1_count_117 hp (fun a30 hp => ?_)
            refine x_getAN X hC.1 hM (ci := 1) (C := RX2) (T := TX2) (N := 9) rfl in_X2 2 (by decide) q922 (fun _ h9 => h9) dX1_count_120 hp (fun a31 hp => ?_)
            obtain ⟨hrec, hp⟩ := hp
            refine x_call0I5 (vx_runF (hC.1.1.1 16 (RJ2, TJ2, 3) rfl).2 (C := "java/util/ArrayList") (As := []) (rest := []) X (P_J2_size_ok (l := l) hl0 hp) (va_cwF 0 hts (lw_app (w_mem4 q1540 q496 q498 q153) (lw_meth q500)) rfl rfl rfl (wfw_13 hC.1) (by decide +kernel) ⟨Nat.le_of_ble_eq_true rfl, Nat.le_of_ble_eq_true rfl⟩) ⟨wPc.blind, w_recv hC.1 hM (ci := 16) (q := (RJ2, TJ2, 3)) rfl hrec, w_pre hC hM hS _⟩ rfl rfl hl.1 rfl (lv_room (Nat.le_of_ble_eq_true rfl)) dX1_count_123 ⟨Nat.le_refl _, Nat.le_refl _⟩) hS ⟨Nat.le_refl _, Nat.le_refl _⟩ (fun _ _ _ _ _ _ h => False.elim h) (fun v34 M32 H locs hp hM hS => ?_)
            exact x_iret X hr hlk hM hS ⟨Nat.le_refl _, Nat.le_refl _⟩ dX1_count_128 ⟨_, rfl, hp⟩
          · have hp := oIf.f hp hc4
            by_cases hc5 : p1 = (5 : Int32)
            · have hp := oIf.t hp hc5
              refine lv_tableIn (off := 128) (tgt := 129) hx hb dX1_count_1 (by rw [hc5]; decide) (by rw [hc5]; decide) (by rw [hc5]; rfl) (by decide) ?_
              refine lv_aload_n hx hb dX1_count_129 rfl (lv_at hl 0 rfl) ?_
              refine x_getA X hC.1 hM (ci := 0) (C := RX1) (T := TX1) (N := 8) rfl in_X1 0 (by decide) q973 (fun _ h9 => h9) dX1_count_130 hp (fun a35 hp => ?_)
              refine x_getAN X hC.1 hM (ci := 1) (C := RX2) (T := TX2) (N := 9) rfl in_X2 3 (by decide) q924 (fun _ h9 => h9) dX1_count_133 hp (fun a36 hp => ?_)
              obtain ⟨hrec, hp⟩ := hp
              refine x_call0I (vx_runV (As := []) (rest := []) X (P_J8_size_ok (l := l) hl0 hp) (cwV 0 hts (lw_V q1553 q515 q3810 q160 q517) rfl rfl rfl (by decide +kernel) ⟨Nat.le_of_ble_eq_true rfl, Nat.le_of_ble_eq_true rfl⟩) ⟨wPc.blind, w_recv hC.1 hM (ci := 17) (q := (RJ8, TJ8, 4)) rfl hrec, w_pre hC hM hS _⟩ rfl rfl hl.1 rfl (lv_room (Nat.le_of_ble_eq_true rfl)) dX1_count_136 ⟨Nat.le_refl _, Nat.le_refl _⟩) hS ⟨Nat.le_refl _, Nat.le_refl _⟩ (fun _ _ _ _ _ _ h => False.elim h) (fun v39 M37 H locs hp hM hS => ?_)
              exact x_iret X hr hlk hM hS ⟨Nat.le_refl _, Nat.le_refl _⟩ dX1_count_139 ⟨_, rfl, hp⟩
            · have hp := oIf.f hp hc5
              by_cases hc6 : p1 = (6 : Int32)
              · have hp := oIf.t hp hc6
                refine lv_tableIn (off := 139) (tgt := 140) hx hb dX1_count_1 (by rw [hc6]; decide) (by rw [hc6]; decide) (by rw [hc6]; rfl) (by decide) ?_
                refine lv_aload_n hx hb dX1_count_140 rfl (lv_at hl 0 rfl) ?_
                refine x_getA X hC.1 hM (ci := 0) (C := RX1) (T := TX1) (N := 8) rfl in_X1 0 (by decide) q973 (fun _ h9 => h9) dX1_count_141 hp (fun a40 hp => ?_)
                refine x_getAN X hC.1 hM (ci := 1) (C := RX2) (T := TX2) (N := 9) rfl in_X2 4 (by decide) q926 (fun _ h9 => h9) dX1_count_144 hp (fun a41 hp => ?_)
                obtain ⟨hrec, hp⟩ := hp
                refine x_call0I5 (vx_runF (hC.1.1.1 16 (RJ2, TJ2, 3) rfl).2 (C := "java/util/ArrayList") (As := []) (rest := []) X (P_J2_size_ok (l := l) hl0 hp) (va_cwF 0 hts (lw_app (w_mem4 q1540 q496 q498 q153) (lw_meth q500)) rfl rfl rfl (wfw_13 hC.1) (by decide +kernel) ⟨Nat.le_of_ble_eq_true rfl, Nat.le_of_ble_eq_true rfl⟩) ⟨wPc.blind, w_recv hC.1 hM (ci := 16) (q := (RJ2, TJ2, 3)) rfl hrec, w_pre hC hM hS _⟩ rfl rfl hl.1 rfl (lv_room (Nat.le_of_ble_eq_true rfl)) dX1_count_147 ⟨Nat.le_refl _, Nat.le_refl _⟩) hS ⟨Nat.le_refl _, Nat.le_refl _⟩ (fun _ _ _ _ _ _ h => False.elim h) (fun v44 M42 H locs hp hM hS => ?_)
                exact x_iret X hr hlk hM hS ⟨Nat.le_refl _, Nat.le_refl _⟩ dX1_count_152 ⟨_, rfl, hp⟩
              · have hp := oIf.f hp hc6
                by_cases hc7 : p1 = (7 : Int32)
                · have hp := oIf.t hp hc7
                  refine lv_tableIn (off := 152) (tgt := 153) hx hb dX1_count_1 (by rw [hc7]; decide) (by rw [hc7]; decide) (by rw [hc7]; rfl) (by decide) ?_
                  refine lv_aload_n hx hb dX1_count_153 rfl (lv_at hl 0 rfl) ?_
                  refine x_getA X hC.1 hM (ci := 0) (C := RX1) (T := TX1) (N := 8) rfl in_X1 0 (by decide) q973 (fun _ h9 => h9) dX1_count_154 hp (fun a45 hp => ?_)
                  refine x_getIN X hC.1 hM (ci := 1) (C := RX2) (T := TX2) (N := 9) rfl in_X2 8 (by decide) q934 (fun _ h9 => h9) dX1_count_157 hp (fun v46 hp => ?_)
                  exact x_iret X hr hlk hM hS ⟨Nat.le_refl _, Nat.le_refl _⟩ dX1_count_160 ⟨_, rfl, hp⟩
                · have hp := oIf.f hp hc7
                  by_cases hc8 : p1 = (8 : Int32)
                  · have hp := oIf.t hp hc8
                    refine lv_tableIn (off := 160) (tgt := 161) hx hb dX1_count_1 (by rw [hc8]; decide) (by rw [hc8]; decide) (by rw [hc8]; rfl) (by decide) ?_
                    refine lv_aload_n hx hb dX1_count_161 rfl (lv_at hl 0 rfl) ?_
                    refine x_getA X hC.1 hM (ci := 0) (C := RX1) (T := TX1) (N := 8) rfl in_X1 2 (by decide) q975 (fun _ h9 => h9) dX1_count_162 hp (fun a47 hp => ?_)
                    obtain ⟨hrec, hp⟩ := hp
                    refine x_call0I (vx_runV (As := []) (rest := []) X (P_J25_size_ok (l := l) hl0 hp) (cwV 0 hts (lw_V q1554 q1555 q1556 q177 q1557) rfl rfl rfl (by decide +kernel) ⟨Nat.le_of_ble_eq_true rfl, Nat.le_of_ble_eq_true rfl⟩) ⟨wPc.blind, w_recv hC.1 hM (ci := 22) (q := (RJ25, TJ25, 3)) rfl hrec, w_pre hC hM hS _⟩ rfl rfl hl.1 rfl (lv_room (Nat.le_of_ble_eq_true rfl)) dX1_count_165 ⟨Nat.le_refl _, Nat.le_refl _⟩) hS ⟨Nat.le_refl _, Nat.le_refl _⟩ (fun _ _ _ _ _ _ h => False.elim h) (fun v50 M48 H locs hp hM hS => ?_)
                    exact x_iret X hr hlk hM hS ⟨Nat.le_refl _, Nat.le_refl _⟩ dX1_count_168 ⟨_, rfl, hp⟩
                  · have hp := oIf.f hp hc8
                    by_cases hc9 : p1 = (9 : Int32)
                    · have hp := oIf.t hp hc9
                      refine lv_tableIn (off := 168) (tgt := 169) hx hb dX1_count_1 (by rw [hc9]; decide) (by rw [hc9]; decide) (by rw [hc9]; rfl) (by decide) ?_
                      refine lv_aload_n hx hb dX1_count_169 rfl (lv_at hl 0 rfl) ?_
                      obtain ⟨hrec, hp⟩ := hp
                      refine x_call0R (vx_runV (As := []) (rest := []) X (P_X1_setup_ok (l := l) hl0 hp) (cwV 0 hts (lw_V q1535 q1537 qs29 q148 q1538) rfl rfl rfl (by decide +kernel) ⟨Nat.le_of_ble_eq_true rfl, Nat.le_of_ble_eq_true rfl⟩) ⟨wPc.blind, w_recv hC.1 hM (ci := 0) (q := (RX1, TX1, 8)) rfl hrec, w_pre hC hM hS _⟩ rfl rfl hl.1 rfl (lv_room (Nat.le_of_ble_eq_true rfl)) dX1_count_170 ⟨Nat.le_refl _, Nat.le_refl _⟩) hS ⟨Nat.le_refl _, Nat.le_refl _⟩ (fun _ _ _ _ _ _ h => False.elim h) (fun r53 M51 H locs hp hM hS => ?_)
                      obtain ⟨a54, ea, hqa54⟩ := hp
                      subst ea
                      have hp := hqa54
                      refine x_getIN X hC.1 hM (ci := 2) (C := RX3) (T := TX3) (N := 8) rfl in_X3 5 (by decide) q415 (fun _ h9 => h9) dX1_count_173 hp (fun v55 hp => ?_)
                      exact x_iret X hr hlk hM hS ⟨Nat.le_refl _, Nat.le_refl _⟩ dX1_count_176 ⟨_, rfl, hp⟩
                    · have hp := oIf.f hp hc9
                      by_cases hc10 : p1 = (10 : Int32)
                      · have hp := oIf.t hp hc10
                        refine lv_tableIn (off := 176) (tgt := 177) hx hb dX1_count_1 (by rw [hc10]; decide) (by rw [hc10]; decide) (by rw [hc10]; rfl) (by decide) ?_
                        refine lv_aload_n hx hb dX1_count_177 rfl (lv_at hl 0 rfl) ?_
                        obtain ⟨hrec, hp⟩ := hp
                        refine x_call0R (vx_runV (As := []) (rest := []) X (P_X1_setup_ok (l := l) hl0 hp) (cwV 0 hts (lw_V q1535 q1537 qs29 q148 q1538) rfl rfl rfl (by decide +kernel) ⟨Nat.le_of_ble_eq_true rfl, Nat.le_of_ble_eq_true rfl⟩) ⟨wPc.blind, w_recv hC.1 hM (ci := 0) (q := (RX1, TX1, 8)) rfl hrec, w_pre hC hM hS _⟩ rfl rfl hl.1 rfl (lv_room (Nat.le_of_ble_eq_true rfl)) dX1_count_178 ⟨Nat.le_refl _, Nat.le_refl _⟩) hS ⟨Nat.le_refl _, Nat.le_refl _⟩ (fun _ _ _ _ _ _ h => False.elim h) (fun r58 M56 H locs hp hM hS => ?_)
                        obtain ⟨a59, ea, hqa59⟩ := hp
                        subst ea
                        have hp := hqa59
                        refine x_getIN X hC.1 hM (ci := 2) (C := RX3) (T := TX3) (N := 8) rfl in_X3 6 (by decide) q419 (fun _ h9 => h9) dX1_count_181 hp (fun v60 hp => ?_)
                        exact x_iret X hr hlk hM hS ⟨Nat.le_refl _, Nat.le_refl _⟩ dX1_count_184 ⟨_, rfl, hp⟩
                      · have hp := oIf.f hp hc10
                        by_cases hc11 : p1 = (11 : Int32)
                        · have hp := oIf.t hp hc11
                          refine lv_tableIn (off := 184) (tgt := 185) hx hb dX1_count_1 (by rw [hc11]; decide) (by rw [hc11]; decide) (by rw [hc11]; rfl) (by decide) ?_
                          refine lv_aload_n hx hb dX1_count_185 rfl (lv_at hl 0 rfl) ?_
                          obtain ⟨hrec, hp⟩ := hp
                          refine x_call0R (vx_runV (As := []) (rest := []) X (P_X1_setup_ok (l := l) hl0 hp) (cwV 0 hts (lw_V q1535 q1537 qs29 q148 q1538) rfl rfl rfl (by decide +kernel) ⟨Nat.le_of_ble_eq_true rfl, Nat.le_of_ble_eq_true rfl⟩) ⟨wPc.blind, w_recv hC.1 hM (ci := 0) (q := (RX1, TX1, 8)) rfl hrec, w_pre hC hM hS _⟩ rfl rfl hl.1 rfl (lv_room (Nat.le_of_ble_eq_true rfl)) dX1_count_186 ⟨Nat.le_refl _, Nat.le_refl _⟩) hS ⟨Nat.le_refl _, Nat.le_refl _⟩ (fun _ _ _ _ _ _ h => False.elim h) (fun r63 M61 H locs hp hM hS => ?_)
                          obtain ⟨a64, ea, hqa64⟩ := hp
                          subst ea
                          have hp := hqa64
                          refine x_getIN X hC.1 hM (ci := 2) (C := RX3) (T := TX3) (N := 8) rfl in_X3 7 (by decide) q422 (fun _ h9 => h9) dX1_count_189 hp (fun v65 hp => ?_)
                          exact x_iret X hr hlk hM hS ⟨Nat.le_refl _, Nat.le_refl _⟩ dX1_count_192 ⟨_, rfl, hp⟩
                        · have hp := oIf.f hp hc11
                          refine lv_tableOut (tgt := 193) hx hb dX1_count_1 (w_tsw 0 12 (by decide) (by decide) (fun i hi => ?_)) (by decide) ?_
                          · have hi2 : i = 0 ∨ i = 1 ∨ i = 2 ∨ i = 3 ∨ i = 4 ∨ i = 5 ∨ i = 6 ∨ i = 7 ∨ i = 8 ∨ i = 9 ∨ i = 10 ∨ i = 11 := by omega
                            rcases hi2 with rfl | rfl | rfl | rfl | rfl | rfl | rfl | rfl | rfl | rfl | rfl | rfl
                            · exact fun h => hc0 (h.trans (by decide))
                            · exact fun h => hc1 (h.trans (by decide))
                            · exact fun h => hc2 (h.trans (by decide))
                            · exact fun h => hc3 (h.trans (by decide))
                            · exact fun h => hc4 (h.trans (by decide))
                            · exact fun h => hc5 (h.trans (by decide))
                            · exact fun h => hc6 (h.trans (by decide))
                            · exact fun h => hc7 (h.trans (by decide))
                            · exact fun h => hc8 (h.trans (by decide))
                            · exact fun h => hc9 (h.trans (by decide))
                            · exact fun h => hc10 (h.trans (by decide))
                            · exact fun h => hc11 (h.trans (by decide))
                          · refine lv_iconst (v := (-1)) hx hb dX1_count_193 (by decide) ?_
                            exact x_iret X hr hlk hM hS ⟨Nat.le_refl _, Nat.le_refl _⟩ dX1_count_194 ⟨_, rfl, hp⟩
def P_X1_visitAt (G : wG) (t0 : Nat) (p1 : Int32) (b : Nat) (M : wM) (Q : Option Nat → wM → Prop) (Xp : String → Nat → wM → Prop) : Prop :=
  oGetA M t0 0 0 (fun a1 => oGetA M a1 1 2 (fun a2 => oIs M a2 16 (P_J2_size G a2 M (fun v5 M3 => P_X1_inRange G p1 (0 : Int32) (v5 - (1 : Int32)) M3 (fun r8 M6 => ∃ c10, c10 ≤ b ∧ P_X1_checkIndex G (wb r8) c10 M6 (fun M9 => oGetA M9 t0 0 0 (fun a11 => oGetA M9 a11 1 2 (fun a12 => oIs M9 a12 16 (P_J2_get G a12 p1 M9 (fun r15 M13 => oCast M13 r15 10 (Q r15 M13)))))) (fun E q16 M17 => (E = "java/lang/IndexOutOfBoundsException" ∧ Xp E q16 M17)))))))
set_option maxHeartbeats 4000000 in
set_option maxRecDepth 100000 in
theorem P_X1_visitAt_ok {l : Launch} (hl0 : l.stackTraces = false) {G : wG} {t0 : Nat} {p1 : Int32} {b : Nat} {M : wM} {Q : Option Nat → wM → Prop} {Xp : String → Nat → wM → Prop} (hp : P_X1_visitAt G t0 p1 b M Q Xp) : wMet l yX1_visitAt (ws_ yX1_visitAt cX1_visitAt 2 (Option.some (Jvm.ClassFile.FieldType.object "ParkingOffice$Visit"))) 15 464 G [.ref t0, .int p1] M b (wqR Q) Xp := by
  refine vx_ofW (cc := cX1_visitAt) (maxL := 2) (ret := Option.some (Jvm.ClassFile.FieldType.object "ParkingOffice$Visit")) (by decide) rfl ?_
  intro p e s m args below meth c s₁ B hml hnt hv
  obtain ⟨rfl, hM, hK, hZ, hz⟩ := hv
  have hC : wC G s := ⟨hK, hZ, hz⟩
  have hx := B.exec
  have hb := B.bytes
  have hr := B.returns
  have hts := atoms_spec (ws := (ws_ yX1_visitAt cX1_visitAt 2 (Option.some (Jvm.ClassFile.FieldType.object "ParkingOffice$Visit")))) B.pre
  have hts : ∀ w ∈ lw_all, w.before _ s = true := fun w h => hts w (List.mem_cons_of_mem _ h)
  have hown : s.vm.findClass RX1 = some m.cls := findClass_of_methodNamed B.named
  have hlk := B.notSynchronized
  have X : CallFix p m c cX1_visitAt 2 s ([.ref t0, .int p1] : List Value).toArray lw_all RX1 := ⟨hx, hb, hml, hown, hts⟩
  have hS : va_S (wA G) s.heap s.heap [] := va_S.rf
  have hl := lv_entry ([.ref t0, .int p1]) (n := 2) (Nat.le_of_ble_eq_true rfl)
  rw [lg_entry_eq]
  generalize (lg_sl ([.ref t0, .int p1]) ++ List.replicate (2 - (lg_sl ([.ref t0, .int p1])).length) Slot.unset).toArray = ls at hl ⊢
  have hl : lv_has ls 2 [(0, .ref t0), (1, .int p1)] := hl
  have hB : 0 + b ≤ ((headSpec (ws_ yX1_visitAt cX1_visitAt 2 (Option.some (Jvm.ClassFile.FieldType.object "ParkingOffice$Visit"))) ({ frames := 15, cells := b, slots := b, locals := 464 })).room).cells ∧ 0 + b ≤ ((headSpec (ws_ yX1_visitAt cX1_visitAt 2 (Option.some (Jvm.ClassFile.FieldType.object "ParkingOffice$Visit"))) ({ frames := 15, cells := b, slots := b, locals := 464 })).room).slots := ⟨Nat.le_of_eq (Nat.zero_add b), Nat.le_of_eq (Nat.zero_add b)⟩
  refine lv_iload_n hx hb dX1_visitAt_0 rfl (lv_at hl 1 rfl) ?_
  refine lv_iconst (v := 0) hx hb dX1_visitAt_1 (by decide) ?_
  refine lv_aload_n hx hb dX1_visitAt_2 rfl (lv_at hl 0 rfl) ?_
  refine x_getA X hC.1 hM (ci := 0) (C := RX1) (T := TX1) (N := 8) rfl in_X1 0 (by decide) q973 (fun _ h9 => h9) dX1_visitAt_3 hp (fun a1 hp => ?_)
  refine x_getAN X hC.1 hM (ci := 1) (C := RX2) (T := TX2) (N := 9) rfl in_X2 2 (by decide) q922 (fun _ h9 => h9) dX1_visitAt_6 hp (fun a2 hp => ?_)
  obtain ⟨hrec, hp⟩ := hp
  refine x_call0I5 (vx_runF (hC.1.1.1 16 (RJ2, TJ2, 3) rfl).2 (C := "java/util/ArrayList") (As := []) (rest := [.int (0 : Int32), .int p1]) X (P_J2_size_ok (l := l) hl0 hp) (va_cwF 0 hts (lw_app (w_mem4 q1540 q496 q498 q153) (lw_meth q500)) rfl rfl rfl (wfw_13 hC.1) (by decide +kernel) ⟨Nat.le_of_ble_eq_true rfl, Nat.le_of_ble_eq_true rfl⟩) ⟨wPc.blind, w_recv hC.1 hM (ci := 16) (q := (RJ2, TJ2, 3)) rfl hrec, w_pre hC hM hS _⟩ rfl rfl hl.1 rfl (lv_room (Nat.le_of_ble_eq_true rfl)) dX1_visitAt_9 (w_room0 hB)) hS (w_room0 hB) (fun _ _ _ _ _ _ h => False.elim h) (fun v5 M3 H locs hp hM hS => ?_)
  refine lv_iconst (v := 1) hx hb dX1_visitAt_14 (by decide) ?_
  refine lv_isub hx hb dX1_visitAt_15 ?_
  refine x_call0Z (vx_runS (As := [.int p1, .int (0 : Int32), .int (v5 - (1 : Int32))]) (rest := []) X (P_X1_inRange_ok (l := l) hl0 hp) (va_cwS 3 hts (lw_S q1012 q1013 q148 q1014) rfl rfl rfl (by decide +kernel) ⟨Nat.le_of_ble_eq_true rfl, Nat.le_of_ble_eq_true rfl⟩) ⟨wPc.blind, w_pre hC hM hS _⟩ rfl rfl hl.1 rfl (lv_room (Nat.le_of_ble_eq_true rfl)) dX1_visitAt_16 (w_room0 hB)) hS (w_room0 hB) (fun _ _ _ _ _ _ h => False.elim h) (fun r8 M6 H locs hp hM hS => ?_)
  obtain ⟨c10, hc1, hp⟩ := hp
  refine x_callV (vx_runS (As := [.int (wb r8)]) (rest := []) X (P_X1_checkIndex_ok (l := l) hl0 hp) (va_cwS 1 hts (lw_S q2200 q2201 q148 q2202) rfl rfl rfl (by decide +kernel) ⟨Nat.le_of_ble_eq_true rfl, Nat.le_of_ble_eq_true rfl⟩) ⟨wPc.blind, w_pre hC hM hS _⟩ rfl rfl hl.1 rfl (lv_room (Nat.le_of_ble_eq_true rfl)) dX1_visitAt_19 (w_room hB hc1)) hS hB hc1 (fun E ce q16 M17 H locs hp hM hS hB hcell hcv hcl => ?_) (fun M9 H locs hp hM hS hB => ?_)
  · obtain ⟨rfl, hp⟩ := hp
    exact x_out hlk (fun x h => (hnt x h).elim) hM hS (w_fin hB) hcell hcv hcl hp
  · refine lv_aload_n hx hb dX1_visitAt_22 rfl (lv_at hl 0 rfl) ?_
    refine x_getA X hC.1 hM (ci := 0) (C := RX1) (T := TX1) (N := 8) rfl in_X1 0 (by decide) q973 (fun _ h9 => h9) dX1_visitAt_23 hp (fun a11 hp => ?_)
    refine x_getAN X hC.1 hM (ci := 1) (C := RX2) (T := TX2) (N := 9) rfl in_X2 2 (by decide) q922 (fun _ h9 => h9) dX1_visitAt_26 hp (fun a12 hp => ?_)
    refine lv_iload_n hx hb dX1_visitAt_29 rfl (lv_at hl 1 rfl) ?_
    obtain ⟨hrec, hp⟩ := hp
    refine x_call0R5 (vx_runF (hC.1.1.1 16 (RJ2, TJ2, 3) rfl).2 (C := "java/util/ArrayList") (As := [.int p1]) (rest := []) X (P_J2_get_ok (l := l) hl0 hp) (va_cwF 1 hts (lw_app (w_mem4 q1667 q522 q524 q153) (lw_meth q526)) rfl rfl rfl (wfw_8 hC.1) (by decide +kernel) ⟨Nat.le_of_ble_eq_true rfl, Nat.le_of_ble_eq_true rfl⟩) ⟨wPc.blind, w_recv hC.1 hM (ci := 16) (q := (RJ2, TJ2, 3)) rfl hrec, w_pre hC hM hS _⟩ rfl rfl hl.1 rfl (lv_room (Nat.le_of_ble_eq_true rfl)) dX1_visitAt_30 (w_room0 hB)) hS (w_room0 hB) (fun _ _ _ _ _ _ h => False.elim h) (fun r15 M13 H locs hp hM hS => ?_)
    refine x_cast (r := r15) X hC.1 hM q2434 (ci := 10) rfl (Or.inl rfl) dX1_visitAt_35 hp (fun hp => ?_)
    exact x_aret (v := r15) X hr (by first | exact Or.inl ⟨_, rfl⟩ | exact Or.inr ⟨_, rfl⟩) hlk hM hS (w_fin hB) dX1_visitAt_38 ⟨r15, rfl, hp⟩
def P_X1_endVisit (G : wG) (t0 : Nat) (p1 : Int32) (b : Nat) (M : wM) (Q : Int32 → wM → Prop) (Xp : String → Nat → wM → Prop) : Prop :=
  oIs M t0 0 (∃ c2, c2 ≤ b ∧ P_X1_visitAt G t0 p1 c2 M (fun r3 M1 => oGetA M1 t0 0 0 (fun a4 => oGetI M1 a4 1 8 (fun v5 => oRef r3 (fun a6 => oIs M1 a6 10 (P_X10_runs_X13 G a6 v5 M1 (fun r9 M7 => ∃ c11, c11 ≤ (b - c2) ∧ P_X1_checkState G (wb r9) c11 M7 (fun M10 => oIs M10 t0 0 (∃ c13, c13 ≤ ((b - c2) - c11) ∧ P_X1_remember G t0 c13 M10 (fun M12 => oGetA M12 t0 0 0 (fun a14 => oGetA M12 a14 1 2 (fun a15 => oIs M12 a15 16 (P_J2_get G a15 p1 M12 (fun r18 M16 => oCast M16 r18 10 (oRef r18 (fun a19 => oGetI M16 a19 10 3 (fun v20 => oGetA M16 t0 0 0 (fun a21 => oGetI M16 a21 1 8 (fun v22 => oGetA M16 t0 0 0 (fun a23 => oGetI M16 a23 1 8 (fun v24 => oPut G M16 a19 10 3 (.int v24) (fun M25 => oGetA M25 t0 0 0 (fun a26 => oGetA M25 a26 1 7 (fun a27 => oGetI M25 a19 10 0 (fun v28 => oIs M25 t0 0 (P_X1_setup G t0 M25 (fun r31 M29 => oRef r31 (fun a32 => oGetA M29 a32 2 2 (fun a33 => oGetI M29 a19 10 0 (fun v34 => oIs M29 a33 16 (P_J2_get G a33 v34 M29 (fun r37 M35 => oCast M35 r37 8 (oRef r37 (fun a38 => oGetI M35 a38 8 2 (fun v39 => oGetA M35 t0 0 0 (fun a40 => oGetA M35 a40 1 7 (fun a41 => oGetI M35 a19 10 0 (fun v42 => oIald .int M35 a41 v42 (fun v43 => oIast G M35 a27 v28 (if (v43 + ((v20 - v22) / (60 : Int32))) < v39 then (v43 + ((v20 - v22) / (60 : Int32))) else v39) (fun M44 => oGetA M44 t0 0 0 (fun a45 => oGetA M44 a45 1 7 (fun a46 => oGetI M44 a19 10 0 (fun v47 => oIald .int M44 a46 v47 (fun v48 => Q v48 M44))))))))))))))))))))))))))))))))))))) (fun E q49 M50 => (E = "java/lang/IllegalStateException" ∧ Xp E q49 M50)))))))) (fun E q51 M52 => (E = "java/lang/IndexOutOfBoundsException" ∧ Xp E q51 M52)))
set_option maxHeartbeats 4000000 in
set_option maxRecDepth 100000 in
theorem P_X1_endVisit_ok {l : Launch} (hl0 : l.stackTraces = false) {G : wG} {t0 : Nat} {p1 : Int32} {b : Nat} {M : wM} {Q : Int32 → wM → Prop} {Xp : String → Nat → wM → Prop} (hp : P_X1_endVisit G t0 p1 b M Q Xp) : wMet l yX1_endVisit (ws_ yX1_endVisit cX1_endVisit 5 (Option.some Jvm.ClassFile.FieldType.int)) 20 575 G [.ref t0, .int p1] M b (wqI Q) Xp := by
  refine vx_ofW (cc := cX1_endVisit) (maxL := 5) (ret := Option.some Jvm.ClassFile.FieldType.int) (by decide) rfl ?_
  intro p e s m args below meth c s₁ B hml hnt hv
  obtain ⟨rfl, hM, hK, hZ, hz⟩ := hv
  have hC : wC G s := ⟨hK, hZ, hz⟩
  have hx := B.exec
  have hb := B.bytes
  have hr := B.returns
  have hts := atoms_spec (ws := (ws_ yX1_endVisit cX1_endVisit 5 (Option.some Jvm.ClassFile.FieldType.int))) B.pre
  have hts : ∀ w ∈ lw_all, w.before _ s = true := fun w h => hts w (List.mem_cons_of_mem _ h)
  have hown : s.vm.findClass RX1 = some m.cls := findClass_of_methodNamed B.named
  have hlk := B.notSynchronized
  have X : CallFix p m c cX1_endVisit 5 s ([.ref t0, .int p1] : List Value).toArray lw_all RX1 := ⟨hx, hb, hml, hown, hts⟩
  have hS : va_S (wA G) s.heap s.heap [] := va_S.rf
  have hl := lv_entry ([.ref t0, .int p1]) (n := 5) (Nat.le_of_ble_eq_true rfl)
  rw [lg_entry_eq]
  generalize (lg_sl ([.ref t0, .int p1]) ++ List.replicate (5 - (lg_sl ([.ref t0, .int p1])).length) Slot.unset).toArray = ls at hl ⊢
  have hl : lv_has ls 5 [(0, .ref t0), (1, .int p1)] := hl
  have hB : 0 + b ≤ ((headSpec (ws_ yX1_endVisit cX1_endVisit 5 (Option.some Jvm.ClassFile.FieldType.int)) ({ frames := 20, cells := b, slots := b, locals := 575 })).room).cells ∧ 0 + b ≤ ((headSpec (ws_ yX1_endVisit cX1_endVisit 5 (Option.some Jvm.ClassFile.FieldType.int)) ({ frames := 20, cells := b, slots := b, locals := 575 })).room).slots := ⟨Nat.le_of_eq (Nat.zero_add b), Nat.le_of_eq (Nat.zero_add b)⟩
  refine lv_aload_n hx hb dX1_endVisit_0 rfl (lv_at hl 0 rfl) ?_
  refine lv_iload_n hx hb dX1_endVisit_1 rfl (lv_at hl 1 rfl) ?_
  obtain ⟨hrec, hp⟩ := hp
  obtain ⟨c2, hc1, hp⟩ := hp
  refine x_callR (vx_runV (As := [.int p1]) (rest := []) X (P_X1_visitAt_ok (l := l) hl0 hp) (cwV 1 hts (lw_V q2430 q2432 qs43 q148 q2433) rfl rfl rfl (by decide +kernel) ⟨Nat.le_of_ble_eq_true rfl, Nat.le_of_ble_eq_true rfl⟩) ⟨wPc.blind, w_recv hC.1 hM (ci := 0) (q := (RX1, TX1, 8)) rfl hrec, w_pre hC hM hS _⟩ rfl rfl hl.1 rfl (lv_room (Nat.le_of_ble_eq_true rfl)) dX1_endVisit_2 (w_room hB hc1)) hS hB hc1 (fun E ce q51 M52 H locs hp hM hS hB hcell hcv hcl => ?_) (fun r3 M1 H locs hp hM hS hB => ?_)
  · obtain ⟨rfl, hp⟩ := hp
    exact x_out hlk (fun x h => (hnt x h).elim) hM hS (w_fin hB) hcell hcv hcl hp
  · refine x_astore_n (r := r3) (lv' := [(2, va_rf r3), (0, .ref t0), (1, .int p1)]) hx hb dX1_endVisit_5 rfl hl (by decide) rfl (fun ls hl => ?_)
    refine x_aload_n (r := r3) hx hb dX1_endVisit_6 rfl (lv_at hl 0 rfl) ?_
    refine lv_aload_n hx hb dX1_endVisit_7 rfl (lv_at hl 1 rfl) ?_
    refine x_getA X hC.1 hM (ci := 0) (C := RX1) (T := TX1) (N := 8) rfl in_X1 0 (by decide) q973 (fun _ h9 => h9) dX1_endVisit_8 hp (fun a4 hp => ?_)
    refine x_getIN X hC.1 hM (ci := 1) (C := RX2) (T := TX2) (N := 9) rfl in_X2 8 (by decide) q934 (fun _ h9 => h9) dX1_endVisit_11 hp (fun v5 hp => ?_)
    obtain ⟨a6, ea, hqa6⟩ := hp
    subst ea
    have hp := hqa6
    have hl : lv_has ls 5 [(2, .ref a6), (0, .ref t0), (1, .int p1)] := hl
    obtain ⟨hrec, hp⟩ := hp
    refine x_call0Z (w_runD (C := "ParkingOffice$Visit") hC (As := [.int v5]) (rest := []) X (P_X10_runs_X13_ok (l := l) hl0 hp) q2280 q2278 q197 q2276 (Or.inl rfl) (List.mem_of_getElem? (i := 4) rfl) (List.mem_of_getElem? (i := 3) rfl) rfl rfl ⟨Nat.le_of_ble_eq_true rfl, Nat.le_of_ble_eq_true rfl⟩ ⟨wPc.blind, w_recv hC.1 hM (ci := 10) (q := (RX13, TX13, 4)) rfl hrec, w_pre hC hM hS _⟩ rfl rfl hl.1 rfl (lv_room (Nat.le_of_ble_eq_true rfl)) dX1_endVisit_14 (w_room0 hB)) hS (w_room0 hB) (fun _ _ _ _ _ _ h => False.elim h) (fun r9 M7 H locs hp hM hS => ?_)
    obtain ⟨c11, hc1, hp⟩ := hp
    refine x_callV (vx_runS (As := [.int (wb r9)]) (rest := []) X (P_X1_checkState_ok (l := l) hl0 hp) (va_cwS 1 hts (lw_S q2690 q2691 q148 q2692) rfl rfl rfl (by decide +kernel) ⟨Nat.le_of_ble_eq_true rfl, Nat.le_of_ble_eq_true rfl⟩) ⟨wPc.blind, w_pre hC hM hS _⟩ rfl rfl hl.1 rfl (lv_room (Nat.le_of_ble_eq_true rfl)) dX1_endVisit_17 (w_room hB hc1)) hS hB hc1 (fun E ce q49 M50 H locs hp hM hS hB hcell hcv hcl => ?_) (fun M10 H locs hp hM hS hB => ?_)
    · obtain ⟨rfl, hp⟩ := hp
      exact x_out hlk (fun x h => (hnt x h).elim) hM hS (w_fin hB) hcell hcv hcl hp
    · refine lv_aload_n hx hb dX1_endVisit_20 rfl (lv_at hl 1 rfl) ?_
      obtain ⟨hrec, hp⟩ := hp
      obtain ⟨c13, hc1, hp⟩ := hp
      refine x_callV (vx_runV (As := []) (rest := []) X (P_X1_remember_ok (l := l) hl0 hp) (cwV 0 hts (lw_V q2543 q2545 qs49 q148 q2546) rfl rfl rfl (by decide +kernel) ⟨Nat.le_of_ble_eq_true rfl, Nat.le_of_ble_eq_true rfl⟩) ⟨wPc.blind, w_recv hC.1 hM (ci := 0) (q := (RX1, TX1, 8)) rfl hrec, w_pre hC hM hS _⟩ rfl rfl hl.1 rfl (lv_room (Nat.le_of_ble_eq_true rfl)) dX1_endVisit_21 (w_room hB hc1)) hS hB hc1 (fun _ _ _ _ _ _ h => False.elim h) (fun M12 H locs hp hM hS hB => ?_)
      refine lv_aload_n hx hb dX1_endVisit_24 rfl (lv_at hl 1 rfl) ?_
      refine x_getA X hC.1 hM (ci := 0) (C := RX1) (T := TX1) (N := 8) rfl in_X1 0 (by decide) q973 (fun _ h9 => h9) dX1_endVisit_25 hp (fun a14 hp => ?_)
      refine x_getAN X hC.1 hM (ci := 1) (C := RX2) (T := TX2) (N := 9) rfl in_X2 2 (by decide) q922 (fun _ h9 => h9) dX1_endVisit_28 hp (fun a15 hp => ?_)
      refine lv_iload_n hx hb dX1_endVisit_31 rfl (lv_at hl 2 rfl) ?_
      obtain ⟨hrec, hp⟩ := hp
      refine x_call0R5 (vx_runF (hC.1.1.1 16 (RJ2, TJ2, 3) rfl).2 (C := "java/util/ArrayList") (As := [.int p1]) (rest := []) X (P_J2_get_ok (l := l) hl0 hp) (va_cwF 1 hts (lw_app (w_mem4 q1667 q522 q524 q153) (lw_meth q526)) rfl rfl rfl (wfw_8 hC.1) (by decide +kernel) ⟨Nat.le_of_ble_eq_true rfl, Nat.le_of_ble_eq_true rfl⟩) ⟨wPc.blind, w_recv hC.1 hM (ci := 16) (q := (RJ2, TJ2, 3)) rfl hrec, w_pre hC hM hS _⟩ rfl rfl hl.1 rfl (lv_room (Nat.le_of_ble_eq_true rfl)) dX1_endVisit_32 (w_room0 hB)) hS (w_room0 hB) (fun _ _ _ _ _ _ h => False.elim h) (fun r18 M16 H locs hp hM hS => ?_)
      refine x_cast (r := r18) X hC.1 hM q2434 (ci := 10) rfl (Or.inl rfl) dX1_endVisit_37 hp (fun hp => ?_)
      refine x_astore_n (r := r18) (lv' := [(3, va_rf r18), (2, .ref a6), (0, .ref t0), (1, .int p1)]) hx hb dX1_endVisit_40 rfl hl (by decide) rfl (fun ls hl => ?_)
      refine x_aload_n (r := r18) hx hb dX1_endVisit_41 rfl (lv_at hl 0 rfl) ?_
      obtain ⟨a19, ea, hqa19⟩ := hp
      subst ea
      have hp := hqa19
      have hl : lv_has ls 5 [(3, .ref a19), (2, .ref a6), (0, .ref t0), (1, .int p1)] := hl
      refine x_getIN X hC.1 hM (ci := 10) (C := RX13) (T := TX13) (N := 4) rfl in_X13 3 (by decide) q2152 (fun _ h9 => h9) dX1_endVisit_42 hp (fun v20 hp => ?_)
      refine lv_aload_n hx hb dX1_endVisit_45 rfl (lv_at hl 2 rfl) ?_
      refine x_getA X hC.1 hM (ci := 0) (C := RX1) (T := TX1) (N := 8) rfl in_X1 0 (by decide) q973 (fun _ h9 => h9) dX1_endVisit_46 hp (fun a21 hp => ?_)
      refine x_getIN X hC.1 hM (ci := 1) (C := RX2) (T := TX2) (N := 9) rfl in_X2 8 (by decide) q934 (fun _ h9 => h9) dX1_endVisit_49 hp (fun v22 hp => ?_)
      refine lv_isub hx hb dX1_endVisit_52 ?_
      refine lv_bipush (v := 60) hx hb dX1_endVisit_53 (by decide) ?_
      refine lv_idiv hx hb dX1_endVisit_55 (by decide) ?_
      refine lv_istore (lv' := [(4, .int ((v20 - v22) / (60 : Int32))), (3, .ref a19), (2, .ref a6), (0, .ref t0), (1, .int p1)]) hx hb dX1_endVisit_56 hl (by decide) rfl (fun ls hl => ?_)
      refine lv_aload_n hx hb dX1_endVisit_58 rfl (lv_at hl 1 rfl) ?_
      refine lv_aload_n hx hb dX1_endVisit_59 rfl (lv_at hl 3 rfl) ?_
      refine x_getA X hC.1 hM (ci := 0) (C := RX1) (T := TX1) (N := 8) rfl in_X1 0 (by decide) q973 (fun _ h9 => h9) dX1_endVisit_60 hp (fun a23 hp => ?_)
      refine x_getIN X hC.1 hM (ci := 1) (C := RX2) (T := TX2) (N := 9) rfl in_X2 8 (by decide) q934 (fun _ h9 => h9) dX1_endVisit_63 hp (fun v24 hp => ?_)
      refine x_putN X hC.1 hM hS (ci := 10) (C := RX13) (T := TX13) (N := 4) rfl in_X13 tyX13 tyX13_ok nmX13 3 (by decide) q2152 (fun _ h9 => h9) rfl rfl rfl dX1_endVisit_66 hp (fun M25 H locs hM hS hp => ?_)
      refine lv_aload_n hx hb dX1_endVisit_69 rfl (lv_at hl 3 rfl) ?_
      refine x_getA X hC.1 hM (ci := 0) (C := RX1) (T := TX1) (N := 8) rfl in_X1 0 (by decide) q973 (fun _ h9 => h9) dX1_endVisit_70 hp (fun a26 hp => ?_)
      refine x_getAN X hC.1 hM (ci := 1) (C := RX2) (T := TX2) (N := 9) rfl in_X2 7 (by decide) q932 (fun _ h9 => h9) dX1_endVisit_73 hp (fun a27 hp => ?_)
      refine lv_aload_n hx hb dX1_endVisit_76 rfl (lv_at hl 1 rfl) ?_
      refine x_getI X hC.1 hM (ci := 10) (C := RX13) (T := TX13) (N := 4) rfl in_X13 0 (by decide) q2108 (fun x9 h9 => u_same (hts _ q2104) x9 h9) dX1_endVisit_77 hp (fun v28 hp => ?_)
      refine lv_aload_n hx hb dX1_endVisit_80 rfl (lv_at hl 3 rfl) ?_
      obtain ⟨hrec, hp⟩ := hp
      refine x_call0R (vx_runV (As := []) (rest := [.int v28, .ref a27]) X (P_X1_setup_ok (l := l) hl0 hp) (cwV 0 hts (lw_V q1535 q1537 qs29 q148 q1538) rfl rfl rfl (by decide +kernel) ⟨Nat.le_of_ble_eq_true rfl, Nat.le_of_ble_eq_true rfl⟩) ⟨wPc.blind, w_recv hC.1 hM (ci := 0) (q := (RX1, TX1, 8)) rfl hrec, w_pre hC hM hS _⟩ rfl rfl hl.1 rfl (lv_room (Nat.le_of_ble_eq_true rfl)) dX1_endVisit_81 (w_room0 hB)) hS (w_room0 hB) (fun _ _ _ _ _ _ h => False.elim h) (fun r31 M29 H locs hp hM hS => ?_)
      obtain ⟨a32, ea, hqa32⟩ := hp
      subst ea
      have hp := hqa32
      refine x_getAN X hC.1 hM (ci := 2) (C := RX3) (T := TX3) (N := 8) rfl in_X3 2 (by decide) q405 (fun _ h9 => h9) dX1_endVisit_84 hp (fun a33 hp => ?_)
      refine lv_aload_n hx hb dX1_endVisit_87 rfl (lv_at hl 1 rfl) ?_
      refine x_getI X hC.1 hM (ci := 10) (C := RX13) (T := TX13) (N := 4) rfl in_X13 0 (by decide) q2108 (fun x9 h9 => u_same (hts _ q2104) x9 h9) dX1_endVisit_88 hp (fun v34 hp => ?_)
      obtain ⟨hrec, hp⟩ := hp
      refine x_call0R5 (vx_runF (hC.1.1.1 16 (RJ2, TJ2, 3) rfl).2 (C := "java/util/ArrayList") (As := [.int v34]) (rest := [.int v28, .ref a27]) X (P_J2_get_ok (l := l) hl0 hp) (va_cwF 1 hts (lw_app (w_mem4 q1667 q522 q524 q153) (lw_meth q526)) rfl rfl rfl (wfw_8 hC.1) (by decide +kernel) ⟨Nat.le_of_ble_eq_true rfl, Nat.le_of_ble_eq_true rfl⟩) ⟨wPc.blind, w_recv hC.1 hM (ci := 16) (q := (RJ2, TJ2, 3)) rfl hrec, w_pre hC hM hS _⟩ rfl rfl hl.1 rfl (lv_room (Nat.le_of_ble_eq_true rfl)) dX1_endVisit_91 (w_room0 hB)) hS (w_room0 hB) (fun _ _ _ _ _ _ h => False.elim h) (fun r37 M35 H locs hp hM hS => ?_)
      refine x_cast (r := r37) X hC.1 hM q2238 (ci := 8) rfl (Or.inl rfl) dX1_endVisit_96 hp (fun hp => ?_)
      obtain ⟨a38, ea, hqa38⟩ := hp
      subst ea
      have hp := hqa38
      refine x_getIN X hC.1 hM (ci := 8) (C := RX9) (T := TX9) (N := 3) rfl in_X9 2 (by decide) q1473 (fun _ h9 => h9) dX1_endVisit_99 hp (fun v39 hp => ?_)
      refine lv_aload_n hx hb dX1_endVisit_102 rfl (lv_at hl 3 rfl) ?_
      refine x_getA X hC.1 hM (ci := 0) (C := RX1) (T := TX1) (N := 8) rfl in_X1 0 (by decide) q973 (fun _ h9 => h9) dX1_endVisit_103 hp (fun a40 hp => ?_)
      refine x_getAN X hC.1 hM (ci := 1) (C := RX2) (T := TX2) (N := 9) rfl in_X2 7 (by decide) q932 (fun _ h9 => h9) dX1_endVisit_106 hp (fun a41 hp => ?_)
      refine lv_aload_n hx hb dX1_endVisit_109 rfl (lv_at hl 1 rfl) ?_
      refine x_getI X hC.1 hM (ci := 10) (C := RX13) (T := TX13) (N := 4) rfl in_X13 0 (by decide) q2108 (fun x9 h9 => u_same (hts _ q2104) x9 h9) dX1_endVisit_110 hp (fun v42 hp => ?_)
      refine x_iald X hC.1 hM dX1_endVisit_113 hp (fun v43 hp => ?_)
      refine lv_iload hx hb dX1_endVisit_114 (lv_at hl 0 rfl) ?_
      refine lv_iadd hx hb dX1_endVisit_116 ?_
      refine va_mmin hx hb (hml.trans hl.1.symm) hown (hts _ q2763) (hts _ q347) (hts _ q155) (hts _ q348) (Nat.le_of_ble_eq_true rfl) (Nat.le_of_ble_eq_true rfl) (w_fin hB).1 (w_fin hB).2 dX1_endVisit_117 ?_
      refine x_iast X hC.1 hM hS dX1_endVisit_120 hp (fun M44 H locs hM hS hp => ?_)
      refine lv_aload_n hx hb dX1_endVisit_121 rfl (lv_at hl 3 rfl) ?_
      refine x_getA X hC.1 hM (ci := 0) (C := RX1) (T := TX1) (N := 8) rfl in_X1 0 (by decide) q973 (fun _ h9 => h9) dX1_endVisit_122 hp (fun a45 hp => ?_)
      refine x_getAN X hC.1 hM (ci := 1) (C := RX2) (T := TX2) (N := 9) rfl in_X2 7 (by decide) q932 (fun _ h9 => h9) dX1_endVisit_125 hp (fun a46 hp => ?_)
      refine lv_aload_n hx hb dX1_endVisit_128 rfl (lv_at hl 1 rfl) ?_
      refine x_getI X hC.1 hM (ci := 10) (C := RX13) (T := TX13) (N := 4) rfl in_X13 0 (by decide) q2108 (fun x9 h9 => u_same (hts _ q2104) x9 h9) dX1_endVisit_129 hp (fun v47 hp => ?_)
      refine x_iald X hC.1 hM dX1_endVisit_132 hp (fun v48 hp => ?_)
      exact x_iret X hr hlk hM hS (w_fin hB) dX1_endVisit_133 ⟨_, rfl, hp⟩
def P_X1_checkZone (G : wG) (t0 : Nat) (p1 : Int32) (b : Nat) (M : wM) (Q : wM → Prop) (Xp : String → Nat → wM → Prop) : Prop :=
  oIs M t0 0 (P_X1_setup G t0 M (fun r3 M1 => oRef r3 (fun a4 => oGetA M1 a4 2 0 (fun a5 => oIs M1 a5 16 (P_J2_size G a5 M1 (fun v8 M6 => P_X1_inRange G p1 (0 : Int32) (v8 - (1 : Int32)) M6 (fun r11 M9 => ∃ c13, c13 ≤ b ∧ P_X1_checkIndex G (wb r11) c13 M9 (fun M12 => Q M12) (fun E q14 M15 => (E = "java/lang/IndexOutOfBoundsException" ∧ Xp E q14 M15)))))))))
set_option maxHeartbeats 4000000 in
set_option maxRecDepth 100000 in
theorem P_X1_checkZone_ok {l : Launch} (hl0 : l.stackTraces = false) {G : wG} {t0 : Nat} {p1 : Int32} {b : Nat} {M : wM} {Q : wM → Prop} {Xp : String → Nat → wM → Prop} (hp : P_X1_checkZone G t0 p1 b M Q Xp) : wMet l yX1_checkZone (ws_ yX1_checkZone cX1_checkZone 2 (none)) 13 422 G [.ref t0, .int p1] M b (wqV Q) Xp := by
  refine vx_ofW (cc := cX1_checkZone) (maxL := 2) (ret := none) (by decide) rfl ?_
  intro p e s m args below meth c s₁ B hml hnt hv
  obtain ⟨rfl, hM, hK, hZ, hz⟩ := hv
  have hC : wC G s := ⟨hK, hZ, hz⟩
  have hx := B.exec
  have hb := B.bytes
  have hr := B.returns
  have hts := atoms_spec (ws := (ws_ yX1_checkZone cX1_checkZone 2 (none))) B.pre
  have hts : ∀ w ∈ lw_all, w.before _ s = true := fun w h => hts w (List.mem_cons_of_mem _ h)
  have hown : s.vm.findClass RX1 = some m.cls := findClass_of_methodNamed B.named
  have hlk := B.notSynchronized
  have X : CallFix p m c cX1_checkZone 2 s ([.ref t0, .int p1] : List Value).toArray lw_all RX1 := ⟨hx, hb, hml, hown, hts⟩
  have hS : va_S (wA G) s.heap s.heap [] := va_S.rf
  have hl := lv_entry ([.ref t0, .int p1]) (n := 2) (Nat.le_of_ble_eq_true rfl)
  rw [lg_entry_eq]
  generalize (lg_sl ([.ref t0, .int p1]) ++ List.replicate (2 - (lg_sl ([.ref t0, .int p1])).length) Slot.unset).toArray = ls at hl ⊢
  have hl : lv_has ls 2 [(0, .ref t0), (1, .int p1)] := hl
  have hB : 0 + b ≤ ((headSpec (ws_ yX1_checkZone cX1_checkZone 2 (none)) ({ frames := 13, cells := b, slots := b, locals := 422 })).room).cells ∧ 0 + b ≤ ((headSpec (ws_ yX1_checkZone cX1_checkZone 2 (none)) ({ frames := 13, cells := b, slots := b, locals := 422 })).room).slots := ⟨Nat.le_of_eq (Nat.zero_add b), Nat.le_of_eq (Nat.zero_add b)⟩
  refine lv_iload_n hx hb dX1_checkZone_0 rfl (lv_at hl 1 rfl) ?_
  refine lv_iconst (v := 0) hx hb dX1_checkZone_1 (by decide) ?_
  refine lv_aload_n hx hb dX1_checkZone_2 rfl (lv_at hl 0 rfl) ?_
  obtain ⟨hrec, hp⟩ := hp
  refine x_call0R (vx_runV (As := []) (rest := [.int (0 : Int32), .int p1]) X (P_X1_setup_ok (l := l) hl0 hp) (cwV 0 hts (lw_V q1535 q1537 qs29 q148 q1538) rfl rfl rfl (by decide +kernel) ⟨Nat.le_of_ble_eq_true rfl, Nat.le_of_ble_eq_true rfl⟩) ⟨wPc.blind, w_recv hC.1 hM (ci := 0) (q := (RX1, TX1, 8)) rfl hrec, w_pre hC hM hS _⟩ rfl rfl hl.1 rfl (lv_room (Nat.le_of_ble_eq_true rfl)) dX1_checkZone_3 (w_room0 hB)) hS (w_room0 hB) (fun _ _ _ _ _ _ h => False.elim h) (fun r3 M1 H locs hp hM hS => ?_)
  obtain ⟨a4, ea, hqa4⟩ := hp
  subst ea
  have hp := hqa4
  refine x_getAN X hC.1 hM (ci := 2) (C := RX3) (T := TX3) (N := 8) rfl in_X3 0 (by decide) q398 (fun _ h9 => h9) dX1_checkZone_6 hp (fun a5 hp => ?_)
  obtain ⟨hrec, hp⟩ := hp
  refine x_call0I5 (vx_runF (hC.1.1.1 16 (RJ2, TJ2, 3) rfl).2 (C := "java/util/ArrayList") (As := []) (rest := [.int (0 : Int32), .int p1]) X (P_J2_size_ok (l := l) hl0 hp) (va_cwF 0 hts (lw_app (w_mem4 q1540 q496 q498 q153) (lw_meth q500)) rfl rfl rfl (wfw_13 hC.1) (by decide +kernel) ⟨Nat.le_of_ble_eq_true rfl, Nat.le_of_ble_eq_true rfl⟩) ⟨wPc.blind, w_recv hC.1 hM (ci := 16) (q := (RJ2, TJ2, 3)) rfl hrec, w_pre hC hM hS _⟩ rfl rfl hl.1 rfl (lv_room (Nat.le_of_ble_eq_true rfl)) dX1_checkZone_9 (w_room0 hB)) hS (w_room0 hB) (fun _ _ _ _ _ _ h => False.elim h) (fun v8 M6 H locs hp hM hS => ?_)
  refine lv_iconst (v := 1) hx hb dX1_checkZone_14 (by decide) ?_
  refine lv_isub hx hb dX1_checkZone_15 ?_
  refine x_call0Z (vx_runS (As := [.int p1, .int (0 : Int32), .int (v8 - (1 : Int32))]) (rest := []) X (P_X1_inRange_ok (l := l) hl0 hp) (va_cwS 3 hts (lw_S q1012 q1013 q148 q1014) rfl rfl rfl (by decide +kernel) ⟨Nat.le_of_ble_eq_true rfl, Nat.le_of_ble_eq_true rfl⟩) ⟨wPc.blind, w_pre hC hM hS _⟩ rfl rfl hl.1 rfl (lv_room (Nat.le_of_ble_eq_true rfl)) dX1_checkZone_16 (w_room0 hB)) hS (w_room0 hB) (fun _ _ _ _ _ _ h => False.elim h) (fun r11 M9 H locs hp hM hS => ?_)
  obtain ⟨c13, hc1, hp⟩ := hp
  refine x_callV (vx_runS (As := [.int (wb r11)]) (rest := []) X (P_X1_checkIndex_ok (l := l) hl0 hp) (va_cwS 1 hts (lw_S q2200 q2201 q148 q2202) rfl rfl rfl (by decide +kernel) ⟨Nat.le_of_ble_eq_true rfl, Nat.le_of_ble_eq_true rfl⟩) ⟨wPc.blind, w_pre hC hM hS _⟩ rfl rfl hl.1 rfl (lv_room (Nat.le_of_ble_eq_true rfl)) dX1_checkZone_19 (w_room hB hc1)) hS hB hc1 (fun E ce q14 M15 H locs hp hM hS hB hcell hcv hcl => ?_) (fun M12 H locs hp hM hS hB => ?_)
  · obtain ⟨rfl, hp⟩ := hp
    exact x_out hlk (fun x h => (hnt x h).elim) hM hS (w_fin hB) hcell hcv hcl hp
  · exact x_vret X hr hlk hM hS (w_fin hB) dX1_checkZone_22 ⟨rfl, hp⟩
