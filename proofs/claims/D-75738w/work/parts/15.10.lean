set_option maxRecDepth 100000
def B_X1_zone_150 (G : wG) (Q : Int32 → wM → Prop) (Xp : String → Nat → wM → Prop) (y0 : Int32) (M : wM) (bq : Nat) : Prop :=
  Q y0 M
def P_X1_zone (G : wG) (t0 : Nat) (p1 : Int32) (p2 : Int32) (b : Nat) (M : wM) (Q : Int32 → wM → Prop) (Xp : String → Nat → wM → Prop) : Prop :=
  oIs M t0 0 (∃ c2, c2 ≤ b ∧ P_X1_checkZone G t0 p1 c2 M (fun M1 => P_X1_inRange G p2 (0 : Int32) (7 : Int32) M1 (fun r5 M3 => ∃ c7, c7 ≤ (b - c2) ∧ P_X1_checkIndex G (wb r5) c7 M3 (fun M6 => oIs M6 t0 0 (P_X1_setup G t0 M6 (fun r10 M8 => oRef r10 (fun a11 => oGetA M8 a11 2 0 (fun a12 => oIs M8 a12 16 (P_J2_get G a12 p1 M8 (fun r15 M13 => oCast M13 r15 6 (oIf (p2 = (0 : Int32)) (oGetA M13 t0 0 0 (fun a19 => oGetA M13 a19 1 6 (fun a20 => oIald .int M13 a20 p1 (fun v21 => B_X1_zone_150 G Q Xp v21 M13 ((b - c2) - c7))))) (oIf (p2 = (1 : Int32)) (oRef r15 (fun a22 => oGetI M13 a22 6 1 (fun v23 => B_X1_zone_150 G Q Xp v23 M13 ((b - c2) - c7)))) (oIf (p2 = (2 : Int32)) (oRef r15 (fun a24 => oGetI M13 a24 6 2 (fun v25 => B_X1_zone_150 G Q Xp v25 M13 ((b - c2) - c7)))) (oIf (p2 = (3 : Int32)) (oRef r15 (fun a26 => oGetI M13 a26 6 3 (fun v27 => B_X1_zone_150 G Q Xp v27 M13 ((b - c2) - c7)))) (oIf (p2 = (4 : Int32)) (oGetA M13 t0 0 0 (fun a28 => oIs M13 a28 1 (P_X2_inZone G a28 p1 (2 : Int32) M13 (fun v31 M29 => B_X1_zone_150 G Q Xp v31 M29 ((b - c2) - c7))))) (oIf (p2 = (5 : Int32)) (oGetA M13 t0 0 0 (fun a32 => oIs M13 a32 1 (P_X2_inZone G a32 p1 (1 : Int32) M13 (fun v35 M33 => B_X1_zone_150 G Q Xp v35 M33 ((b - c2) - c7))))) (oIf (p2 = (6 : Int32)) (oGetA M13 t0 0 0 (fun a36 => oIs M13 a36 1 (P_X2_inZone G a36 p1 (0 : Int32) M13 (fun v39 M37 => B_X1_zone_150 G Q Xp v39 M37 ((b - c2) - c7))))) (oIs M13 t0 0 (∃ c17, c17 ≤ ((b - c2) - c7) ∧ P_X1_streetsIn G t0 p1 c17 M13 (fun v18 M16 => B_X1_zone_150 G Q Xp v18 M16 (((b - c2) - c7) - c17)))))))))))))))))) (fun E q40 M41 => (E = "java/lang/IndexOutOfBoundsException" ∧ Xp E q40 M41)))) (fun E q42 M43 => (E = "java/lang/IndexOutOfBoundsException" ∧ Xp E q42 M43)))
set_option maxHeartbeats 4000000 in
set_option maxRecDepth 100000 in
theorem P_X1_zone_ok {l : Launch} (hl0 : l.stackTraces = false) {G : wG} {t0 : Nat} {p1 : Int32} {p2 : Int32} {b : Nat} {M : wM} {Q : Int32 → wM → Prop} {Xp : String → Nat → wM → Prop} (hp : P_X1_zone G t0 p1 p2 b M Q Xp) : wMet l yX1_zone (ws_ yX1_zone cX1_zone 4 (Option.some Jvm.ClassFile.FieldType.int)) 16 488 G [.ref t0, .int p1, .int p2] M b (wqI Q) Xp := by
  refine vx_ofW (cc := cX1_zone) (maxL := 4) (ret := Option.some Jvm.ClassFile.FieldType.int) (by decide) rfl ?_
  intro p e s m args below meth c s₁ B hml hnt hv
  obtain ⟨rfl, hM, hK, hZ, hz⟩ := hv
  have hC : wC G s := ⟨hK, hZ, hz⟩
  have hx := B.exec
  have hb := B.bytes
  have hr := B.returns
  have hts := atoms_spec (ws := (ws_ yX1_zone cX1_zone 4 (Option.some Jvm.ClassFile.FieldType.int))) B.pre
  have hts : ∀ w ∈ lw_all, w.before _ s = true := fun w h => hts w (List.mem_cons_of_mem _ h)
  have hown : s.vm.findClass RX1 = some m.cls := findClass_of_methodNamed B.named
  have hlk := B.notSynchronized
  have X : CallFix p m c cX1_zone 4 s ([.ref t0, .int p1, .int p2] : List Value).toArray lw_all RX1 := ⟨hx, hb, hml, hown, hts⟩
  have hS : va_S (wA G) s.heap s.heap [] := va_S.rf
  have hl := lv_entry ([.ref t0, .int p1, .int p2]) (n := 4) (Nat.le_of_ble_eq_true rfl)
  rw [lg_entry_eq]
  generalize (lg_sl ([.ref t0, .int p1, .int p2]) ++ List.replicate (4 - (lg_sl ([.ref t0, .int p1, .int p2])).length) Slot.unset).toArray = ls at hl ⊢
  have hl : lv_has ls 4 [(0, .ref t0), (1, .int p1), (2, .int p2)] := hl
  have hB : 0 + b ≤ ((headSpec (ws_ yX1_zone cX1_zone 4 (Option.some Jvm.ClassFile.FieldType.int)) ({ frames := 16, cells := b, slots := b, locals := 488 })).room).cells ∧ 0 + b ≤ ((headSpec (ws_ yX1_zone cX1_zone 4 (Option.some Jvm.ClassFile.FieldType.int)) ({ frames := 16, cells := b, slots := b, locals := 488 })).room).slots := ⟨Nat.le_of_eq (Nat.zero_add b), Nat.le_of_eq (Nat.zero_add b)⟩
  have hB150 : ∀ (y0 : Int32) (M : wM) (bq : Nat) (H : Heap) (locs : List Loc) (ls : Array Slot) (cells slots : Nat), B_X1_zone_150 G Q Xp y0 M bq → wR G M H → va_S (wA G) s.heap H locs → (cells + bq ≤ ((headSpec (ws_ yX1_zone cX1_zone 4 (Option.some Jvm.ClassFile.FieldType.int)) ({ frames := 16, cells := b, slots := b, locals := 488 })).room).cells ∧ slots + bq ≤ ((headSpec (ws_ yX1_zone cX1_zone 4 (Option.some Jvm.ClassFile.FieldType.int)) ({ frames := 16, cells := b, slots := b, locals := 488 })).room).slots) → lv_has ls 4 [] → W p l e (headSpec (ws_ yX1_zone cX1_zone 4 (Option.some Jvm.ClassFile.FieldType.int)) ({ frames := 16, cells := b, slots := b, locals := 488 })).room s m ([.ref t0, .int p1, .int p2] : List Value).toArray below meth c H locs cells slots (vx_MQ below (wQ G (wqI Q)) (wXC G Xp) ([.ref t0, .int p1, .int p2] : List Value).toArray s b b (wA G)) (F0 m 150 ls [.int y0]) := by
    intro y0 M bq H locs ls cells slots hp hM hS hB hl
    exact x_iret X hr hlk hM hS (w_fin hB) dX1_zone_150 ⟨_, rfl, hp⟩
  refine lv_aload_n hx hb dX1_zone_0 rfl (lv_at hl 0 rfl) ?_
  refine lv_iload_n hx hb dX1_zone_1 rfl (lv_at hl 1 rfl) ?_
  obtain ⟨hrec, hp⟩ := hp
  obtain ⟨c2, hc1, hp⟩ := hp
  refine x_callV (vx_runV (As := [.int p1]) (rest := []) X (P_X1_checkZone_ok (l := l) hl0 hp) (cwV 1 hts (lw_V q2196 q2198 qs35 q148 q2199) rfl rfl rfl (by decide +kernel) ⟨Nat.le_of_ble_eq_true rfl, Nat.le_of_ble_eq_true rfl⟩) ⟨wPc.blind, w_recv hC.1 hM (ci := 0) (q := (RX1, TX1, 8)) rfl hrec, w_pre hC hM hS _⟩ rfl rfl hl.1 rfl (lv_room (Nat.le_of_ble_eq_true rfl)) dX1_zone_2 (w_room hB hc1)) hS hB hc1 (fun E ce q42 M43 H locs hp hM hS hB hcell hcv hcl => ?_) (fun M1 H locs hp hM hS hB => ?_)
  · obtain ⟨rfl, hp⟩ := hp
    exact x_out hlk (fun x h => (hnt x h).elim) hM hS (w_fin hB) hcell hcv hcl hp
  · refine lv_iload_n hx hb dX1_zone_5 rfl (lv_at hl 2 rfl) ?_
    refine lv_iconst (v := 0) hx hb dX1_zone_6 (by decide) ?_
    refine lv_bipush (v := 7) hx hb dX1_zone_7 (by decide) ?_
    refine x_call0Z (vx_runS (As := [.int p2, .int (0 : Int32), .int (7 : Int32)]) (rest := []) X (P_X1_inRange_ok (l := l) hl0 hp) (va_cwS 3 hts (lw_S q1012 q1013 q148 q1014) rfl rfl rfl (by decide +kernel) ⟨Nat.le_of_ble_eq_true rfl, Nat.le_of_ble_eq_true rfl⟩) ⟨wPc.blind, w_pre hC hM hS _⟩ rfl rfl hl.1 rfl (lv_room (Nat.le_of_ble_eq_true rfl)) dX1_zone_9 (w_room0 hB)) hS (w_room0 hB) (fun _ _ _ _ _ _ h => False.elim h) (fun r5 M3 H locs hp hM hS => ?_)
    obtain ⟨c7, hc1, hp⟩ := hp
    refine x_callV (vx_runS (As := [.int (wb r5)]) (rest := []) X (P_X1_checkIndex_ok (l := l) hl0 hp) (va_cwS 1 hts (lw_S q2200 q2201 q148 q2202) rfl rfl rfl (by decide +kernel) ⟨Nat.le_of_ble_eq_true rfl, Nat.le_of_ble_eq_true rfl⟩) ⟨wPc.blind, w_pre hC hM hS _⟩ rfl rfl hl.1 rfl (lv_room (Nat.le_of_ble_eq_true rfl)) dX1_zone_12 (w_room hB hc1)) hS hB hc1 (fun E ce q40 M41 H locs hp hM hS hB hcell hcv hcl => ?_) (fun M6 H locs hp hM hS hB => ?_)
    · obtain ⟨rfl, hp⟩ := hp
      exact x_out hlk (fun x h => (hnt x h).elim) hM hS (w_fin hB) hcell hcv hcl hp
    · refine lv_aload_n hx hb dX1_zone_15 rfl (lv_at hl 0 rfl) ?_
      obtain ⟨hrec, hp⟩ := hp
      refine x_call0R (vx_runV (As := []) (rest := []) X (P_X1_setup_ok (l := l) hl0 hp) (cwV 0 hts (lw_V q1535 q1537 qs29 q148 q1538) rfl rfl rfl (by decide +kernel) ⟨Nat.le_of_ble_eq_true rfl, Nat.le_of_ble_eq_true rfl⟩) ⟨wPc.blind, w_recv hC.1 hM (ci := 0) (q := (RX1, TX1, 8)) rfl hrec, w_pre hC hM hS _⟩ rfl rfl hl.1 rfl (lv_room (Nat.le_of_ble_eq_true rfl)) dX1_zone_16 (w_room0 hB)) hS (w_room0 hB) (fun _ _ _ _ _ _ h => False.elim h) (fun r10 M8 H locs hp hM hS => ?_)
      obtain ⟨a11, ea, hqa11⟩ := hp
      subst ea
      have hp := hqa11
      refine x_getAN X hC.1 hM (ci := 2) (C := RX3) (T := TX3) (N := 8) rfl in_X3 0 (by decide) q398 (fun _ h9 => h9) dX1_zone_19 hp (fun a12 hp => ?_)
      refine lv_iload_n hx hb dX1_zone_22 rfl (lv_at hl 1 rfl) ?_
      obtain ⟨hrec, hp⟩ := hp
      refine x_call0R5 (vx_runF (hC.1.1.1 16 (RJ2, TJ2, 3) rfl).2 (C := "java/util/ArrayList") (As := [.int p1]) (rest := []) X (P_J2_get_ok (l := l) hl0 hp) (va_cwF 1 hts (lw_app (w_mem4 q1667 q522 q524 q153) (lw_meth q526)) rfl rfl rfl (wfw_8 hC.1) (by decide +kernel) ⟨Nat.le_of_ble_eq_true rfl, Nat.le_of_ble_eq_true rfl⟩) ⟨wPc.blind, w_recv hC.1 hM (ci := 16) (q := (RJ2, TJ2, 3)) rfl hrec, w_pre hC hM hS _⟩ rfl rfl hl.1 rfl (lv_room (Nat.le_of_ble_eq_true rfl)) dX1_zone_23 (w_room0 hB)) hS (w_room0 hB) (fun _ _ _ _ _ _ h => False.elim h) (fun r15 M13 H locs hp hM hS => ?_)
      refine x_cast (r := r15) X hC.1 hM q2208 (ci := 6) rfl (Or.inl rfl) dX1_zone_28 hp (fun hp => ?_)
      refine x_astore_n (r := r15) (lv' := [(3, va_rf r15), (0, .ref t0), (1, .int p1), (2, .int p2)]) hx hb dX1_zone_31 rfl hl (by decide) rfl (fun ls hl => ?_)
      refine lv_iload_n hx hb dX1_zone_32 rfl (lv_at hl 3 rfl) ?_
      by_cases hc0 : p2 = (0 : Int32)
      · have hp := oIf.t hp hc0
        refine lv_tableIn (off := 43) (tgt := 76) hx hb dX1_zone_33 (by rw [hc0]; decide) (by rw [hc0]; decide) (by rw [hc0]; rfl) (by decide) ?_
        refine lv_aload_n hx hb dX1_zone_76 rfl (lv_at hl 1 rfl) ?_
        refine x_getA X hC.1 hM (ci := 0) (C := RX1) (T := TX1) (N := 8) rfl in_X1 0 (by decide) q973 (fun _ h9 => h9) dX1_zone_77 hp (fun a19 hp => ?_)
        refine x_getAN X hC.1 hM (ci := 1) (C := RX2) (T := TX2) (N := 9) rfl in_X2 6 (by decide) q930 (fun _ h9 => h9) dX1_zone_80 hp (fun a20 hp => ?_)
        refine lv_iload_n hx hb dX1_zone_83 rfl (lv_at hl 2 rfl) ?_
        refine x_iald X hC.1 hM dX1_zone_84 hp (fun v21 hp => ?_)
        refine lv_goto (tgt := 150) hx hb dX1_zone_85 (by decide) ?_
        exact hB150 _ _ _ _ _ _ _ _ hp hM hS hB (lv_sub hl [] rfl)
      · have hp := oIf.f hp hc0
        by_cases hc1 : p2 = (1 : Int32)
        · have hp := oIf.t hp hc1
          refine lv_tableIn (off := 55) (tgt := 88) hx hb dX1_zone_33 (by rw [hc1]; decide) (by rw [hc1]; decide) (by rw [hc1]; rfl) (by decide) ?_
          refine x_aload_n (r := r15) hx hb dX1_zone_88 rfl (lv_at hl 0 rfl) ?_
          obtain ⟨a22, ea, hqa22⟩ := hp
          subst ea
          have hp := hqa22
          have hl : lv_has ls 4 [(3, .ref a22), (0, .ref t0), (1, .int p1), (2, .int p2)] := hl
          refine x_getIN X hC.1 hM (ci := 6) (C := RX7) (T := TX7) (N := 4) rfl in_X7 1 (by decide) q1409 (fun _ h9 => h9) dX1_zone_89 hp (fun v23 hp => ?_)
          refine lv_goto (tgt := 150) hx hb dX1_zone_92 (by decide) ?_
          exact hB150 _ _ _ _ _ _ _ _ hp hM hS hB (lv_sub hl [] rfl)
        · have hp := oIf.f hp hc1
          by_cases hc2 : p2 = (2 : Int32)
          · have hp := oIf.t hp hc2
            refine lv_tableIn (off := 62) (tgt := 95) hx hb dX1_zone_33 (by rw [hc2]; decide) (by rw [hc2]; decide) (by rw [hc2]; rfl) (by decide) ?_
            refine x_aload_n (r := r15) hx hb dX1_zone_95 rfl (lv_at hl 0 rfl) ?_
            obtain ⟨a24, ea, hqa24⟩ := hp
            subst ea
            have hp := hqa24
            have hl : lv_has ls 4 [(3, .ref a24), (0, .ref t0), (1, .int p1), (2, .int p2)] := hl
            refine x_getIN X hC.1 hM (ci := 6) (C := RX7) (T := TX7) (N := 4) rfl in_X7 2 (by decide) q1411 (fun _ h9 => h9) dX1_zone_96 hp (fun v25 hp => ?_)
            refine lv_goto (tgt := 150) hx hb dX1_zone_99 (by decide) ?_
            exact hB150 _ _ _ _ _ _ _ _ hp hM hS hB (lv_sub hl [] rfl)
          · have hp := oIf.f hp hc2
            by_cases hc3 : p2 = (3 : Int32)
            · have hp := oIf.t hp hc3
              refine lv_tableIn (off := 69) (tgt := 102) hx hb dX1_zone_33 (by rw [hc3]; decide) (by rw [hc3]; decide) (by rw [hc3]; rfl) (by decide) ?_
              refine x_aload_n (r := r15) hx hb dX1_zone_102 rfl (lv_at hl 0 rfl) ?_
              obtain ⟨a26, ea, hqa26⟩ := hp
              subst ea
              have hp := hqa26
              have hl : lv_has ls 4 [(3, .ref a26), (0, .ref t0), (1, .int p1), (2, .int p2)] := hl
              refine x_getIN X hC.1 hM (ci := 6) (C := RX7) (T := TX7) (N := 4) rfl in_X7 3 (by decide) q1413 (fun _ h9 => h9) dX1_zone_103 hp (fun v27 hp => ?_)
              refine lv_goto (tgt := 150) hx hb dX1_zone_106 (by decide) ?_
              exact hB150 _ _ _ _ _ _ _ _ hp hM hS hB (lv_sub hl [] rfl)
            · have hp := oIf.f hp hc3
              by_cases hc4 : p2 = (4 : Int32)
              · have hp := oIf.t hp hc4
                refine lv_tableIn (off := 76) (tgt := 109) hx hb dX1_zone_33 (by rw [hc4]; decide) (by rw [hc4]; decide) (by rw [hc4]; rfl) (by decide) ?_
                refine lv_aload_n hx hb dX1_zone_109 rfl (lv_at hl 1 rfl) ?_
                refine x_getA X hC.1 hM (ci := 0) (C := RX1) (T := TX1) (N := 8) rfl in_X1 0 (by decide) q973 (fun _ h9 => h9) dX1_zone_110 hp (fun a28 hp => ?_)
                refine lv_iload_n hx hb dX1_zone_113 rfl (lv_at hl 2 rfl) ?_
                refine lv_iconst (v := 2) hx hb dX1_zone_114 (by decide) ?_
                obtain ⟨hrec, hp⟩ := hp
                refine x_call0I (vx_runV (As := [.int p1, .int (2 : Int32)]) (rest := []) X (P_X2_inZone_ok (l := l) hl0 hp) (cwV 2 hts (lw_V q2209 q2210 q2211 q149 q2212) rfl rfl rfl (by decide +kernel) ⟨Nat.le_of_ble_eq_true rfl, Nat.le_of_ble_eq_true rfl⟩) ⟨wPc.blind, w_recv hC.1 hM (ci := 1) (q := (RX2, TX2, 9)) rfl hrec, w_pre hC hM hS _⟩ rfl rfl hl.1 rfl (lv_room (Nat.le_of_ble_eq_true rfl)) dX1_zone_115 (w_room0 hB)) hS (w_room0 hB) (fun _ _ _ _ _ _ h => False.elim h) (fun v31 M29 H locs hp hM hS => ?_)
                refine lv_goto (tgt := 150) hx hb dX1_zone_118 (by decide) ?_
                exact hB150 _ _ _ _ _ _ _ _ hp hM hS hB (lv_sub hl [] rfl)
              · have hp := oIf.f hp hc4
                by_cases hc5 : p2 = (5 : Int32)
                · have hp := oIf.t hp hc5
                  refine lv_tableIn (off := 88) (tgt := 121) hx hb dX1_zone_33 (by rw [hc5]; decide) (by rw [hc5]; decide) (by rw [hc5]; rfl) (by decide) ?_
                  refine lv_aload_n hx hb dX1_zone_121 rfl (lv_at hl 1 rfl) ?_
                  refine x_getA X hC.1 hM (ci := 0) (C := RX1) (T := TX1) (N := 8) rfl in_X1 0 (by decide) q973 (fun _ h9 => h9) dX1_zone_122 hp (fun a32 hp => ?_)
                  refine lv_iload_n hx hb dX1_zone_125 rfl (lv_at hl 2 rfl) ?_
                  refine lv_iconst (v := 1) hx hb dX1_zone_126 (by decide) ?_
                  obtain ⟨hrec, hp⟩ := hp
                  refine x_call0I (vx_runV (As := [.int p1, .int (1 : Int32)]) (rest := []) X (P_X2_inZone_ok (l := l) hl0 hp) (cwV 2 hts (lw_V q2209 q2210 q2211 q149 q2212) rfl rfl rfl (by decide +kernel) ⟨Nat.le_of_ble_eq_true rfl, Nat.le_of_ble_eq_true rfl⟩) ⟨wPc.blind, w_recv hC.1 hM (ci := 1) (q := (RX2, TX2, 9)) rfl hrec, w_pre hC hM hS _⟩ rfl rfl hl.1 rfl (lv_room (Nat.le_of_ble_eq_true rfl)) dX1_zone_127 (w_room0 hB)) hS (w_room0 hB) (fun _ _ _ _ _ _ h => False.elim h) (fun v35 M33 H locs hp hM hS => ?_)
                  refine lv_goto (tgt := 150) hx hb dX1_zone_130 (by decide) ?_
                  exact hB150 _ _ _ _ _ _ _ _ hp hM hS hB (lv_sub hl [] rfl)
                · have hp := oIf.f hp hc5
                  by_cases hc6 : p2 = (6 : Int32)
                  · have hp := oIf.t hp hc6
                    refine lv_tableIn (off := 100) (tgt := 133) hx hb dX1_zone_33 (by rw [hc6]; decide) (by rw [hc6]; decide) (by rw [hc6]; rfl) (by decide) ?_
                    refine lv_aload_n hx hb dX1_zone_133 rfl (lv_at hl 1 rfl) ?_
                    refine x_getA X hC.1 hM (ci := 0) (C := RX1) (T := TX1) (N := 8) rfl in_X1 0 (by decide) q973 (fun _ h9 => h9) dX1_zone_134 hp (fun a36 hp => ?_)
                    refine lv_iload_n hx hb dX1_zone_137 rfl (lv_at hl 2 rfl) ?_
                    refine lv_iconst (v := 0) hx hb dX1_zone_138 (by decide) ?_
                    obtain ⟨hrec, hp⟩ := hp
                    refine x_call0I (vx_runV (As := [.int p1, .int (0 : Int32)]) (rest := []) X (P_X2_inZone_ok (l := l) hl0 hp) (cwV 2 hts (lw_V q2209 q2210 q2211 q149 q2212) rfl rfl rfl (by decide +kernel) ⟨Nat.le_of_ble_eq_true rfl, Nat.le_of_ble_eq_true rfl⟩) ⟨wPc.blind, w_recv hC.1 hM (ci := 1) (q := (RX2, TX2, 9)) rfl hrec, w_pre hC hM hS _⟩ rfl rfl hl.1 rfl (lv_room (Nat.le_of_ble_eq_true rfl)) dX1_zone_139 (w_room0 hB)) hS (w_room0 hB) (fun _ _ _ _ _ _ h => False.elim h) (fun v39 M37 H locs hp hM hS => ?_)
                    refine lv_goto (tgt := 150) hx hb dX1_zone_142 (by decide) ?_
                    exact hB150 _ _ _ _ _ _ _ _ hp hM hS hB (lv_sub hl [] rfl)
                  · have hp := oIf.f hp hc6
                    refine lv_tableOut (tgt := 145) hx hb dX1_zone_33 (w_tsw 0 7 (by decide) (by decide) (fun i hi => ?_)) (by decide) ?_
                    · have hi2 : i = 0 ∨ i = 1 ∨ i = 2 ∨ i = 3 ∨ i = 4 ∨ i = 5 ∨ i = 6 := by omega
                      rcases hi2 with rfl | rfl | rfl | rfl | rfl | rfl | rfl
                      · exact fun h => hc0 (h.trans (by decide))
                      · exact fun h => hc1 (h.trans (by decide))
                      · exact fun h => hc2 (h.trans (by decide))
                      · exact fun h => hc3 (h.trans (by decide))
                      · exact fun h => hc4 (h.trans (by decide))
                      · exact fun h => hc5 (h.trans (by decide))
                      · exact fun h => hc6 (h.trans (by decide))
                    · refine lv_aload_n hx hb dX1_zone_145 rfl (lv_at hl 1 rfl) ?_
                      refine lv_iload_n hx hb dX1_zone_146 rfl (lv_at hl 2 rfl) ?_
                      obtain ⟨hrec, hp⟩ := hp
                      obtain ⟨c17, hc1, hp⟩ := hp
                      refine x_callI (vx_runV (As := [.int p1]) (rest := []) X (P_X1_streetsIn_ok (l := l) hl0 hp) (cwV 1 hts (lw_V q2213 q2215 qs36 q148 q2216) rfl rfl rfl (by decide +kernel) ⟨Nat.le_of_ble_eq_true rfl, Nat.le_of_ble_eq_true rfl⟩) ⟨wPc.blind, w_recv hC.1 hM (ci := 0) (q := (RX1, TX1, 8)) rfl hrec, w_pre hC hM hS _⟩ rfl rfl hl.1 rfl (lv_room (Nat.le_of_ble_eq_true rfl)) dX1_zone_147 (w_room hB hc1)) hS hB hc1 (fun _ _ _ _ _ _ h => False.elim h) (fun v18 M16 H locs hp hM hS hB => ?_)
                      exact hB150 _ _ _ _ _ _ _ _ hp hM hS hB (lv_sub hl [] rfl)
def B_X0_accept_12 (G : wG) (Q : Int32 → wM → Prop) (y0 : Nat) (M : wM) (bq : Nat) : Prop :=
  Q (1 : Int32) M
def B_X0_accept_15 (G : wG) (Q : Int32 → wM → Prop) (y0 : Nat) (M : wM) (bq : Nat) : Prop :=
  Q (2 : Int32) M
def P_X0_accept (G : wG) (p1 : Nat) (p2 : Int32) (p3 : Nat) (b : Nat) (M : wM) (Q : Int32 → wM → Prop) : Prop :=
  oIs M p1 0 (∃ c2, c2 ≤ b ∧ P_X1_accept G p1 p2 c2 M (fun v3 M1 => oLast G M1 p3 (0 : Int32) (v3.toInt64) (fun M4 => Q (0 : Int32) M4)) (fun E q5 M6 => (E = "java/lang/IllegalStateException" ∧ (B_X0_accept_15 G Q q5 M6 (b - c2))) ∨ (E = "java/lang/IndexOutOfBoundsException" ∧ (B_X0_accept_12 G Q q5 M6 (b - c2)))))
set_option maxHeartbeats 4000000 in
set_option maxRecDepth 100000 in
theorem P_X0_accept_ok {l : Launch} (hl0 : l.stackTraces = false) {G : wG} {p1 : Nat} {p2 : Int32} {p3 : Nat} {b : Nat} {M : wM} {Q : Int32 → wM → Prop} (hp : P_X0_accept G p1 p2 p3 b M Q) : wMet l yX0_accept (wsW_ yX0_accept cX0_accept 4 (Option.some Jvm.ClassFile.FieldType.int) [((0 : Nat), (9 : Nat), (12 : Nat), (13 : Nat)), ((0 : Nat), (9 : Nat), (15 : Nat), (71 : Nat))]) 21 597 G [.ref p1, .int p2, .ref p3] M b (wqI Q) wX0 := by
  refine vx_ofWH (cc := cX0_accept) (maxL := 4) (ret := Option.some Jvm.ClassFile.FieldType.int) (hh := [((0 : Nat), (9 : Nat), (12 : Nat), (13 : Nat)), ((0 : Nat), (9 : Nat), (15 : Nat), (71 : Nat))]) (by decide) rfl ?_
  intro p e s m args below meth c s₁ B hml hv
  obtain ⟨rfl, hM, hK, hZ, hz⟩ := hv
  have hC : wC G s := ⟨hK, hZ, hz⟩
  have hx := B.exec
  have hb := B.bytes
  have hr := B.returns
  have hts := atoms_spec (ws := (wsW_ yX0_accept cX0_accept 4 (Option.some Jvm.ClassFile.FieldType.int) [((0 : Nat), (9 : Nat), (12 : Nat), (13 : Nat)), ((0 : Nat), (9 : Nat), (15 : Nat), (71 : Nat))])) B.pre
  have htab := vx_table (x := yX0_accept) B (hts _ List.mem_cons_self)
  have hts : ∀ w ∈ lw_all, w.before _ s = true := fun w h => hts w (List.mem_cons_of_mem _ h)
  have hown : s.vm.findClass RX0 = some m.cls := findClass_of_methodNamed B.named
  have hlk := B.notSynchronized
  have X : CallFix p m c cX0_accept 4 s ([.ref p1, .int p2, .ref p3] : List Value).toArray lw_all RX0 := ⟨hx, hb, hml, hown, hts⟩
  have hS : va_S (wA G) s.heap s.heap [] := va_S.rf
  have hl := lv_entry ([.ref p1, .int p2, .ref p3]) (n := 4) (Nat.le_of_ble_eq_true rfl)
  rw [lg_entry_eq]
  generalize (lg_sl ([.ref p1, .int p2, .ref p3]) ++ List.replicate (4 - (lg_sl ([.ref p1, .int p2, .ref p3])).length) Slot.unset).toArray = ls at hl ⊢
  have hl : lv_has ls 4 [(0, .ref p1), (1, .int p2), (2, .ref p3)] := hl
  have hB : 0 + b ≤ ((headSpec (wsW_ yX0_accept cX0_accept 4 (Option.some Jvm.ClassFile.FieldType.int) [((0 : Nat), (9 : Nat), (12 : Nat), (13 : Nat)), ((0 : Nat), (9 : Nat), (15 : Nat), (71 : Nat))]) ({ frames := 21, cells := b, slots := b, locals := 597 })).room).cells ∧ 0 + b ≤ ((headSpec (wsW_ yX0_accept cX0_accept 4 (Option.some Jvm.ClassFile.FieldType.int) [((0 : Nat), (9 : Nat), (12 : Nat), (13 : Nat)), ((0 : Nat), (9 : Nat), (15 : Nat), (71 : Nat))]) ({ frames := 21, cells := b, slots := b, locals := 597 })).room).slots := ⟨Nat.le_of_eq (Nat.zero_add b), Nat.le_of_eq (Nat.zero_add b)⟩
  have hB12 : ∀ (y0 : Nat) (M : wM) (bq : Nat) (H : Heap) (locs : List Loc) (ls : Array Slot) (cells slots : Nat), B_X0_accept_12 G Q y0 M bq → wR G M H → va_S (wA G) s.heap H locs → (cells + bq ≤ ((headSpec (wsW_ yX0_accept cX0_accept 4 (Option.some Jvm.ClassFile.FieldType.int) [((0 : Nat), (9 : Nat), (12 : Nat), (13 : Nat)), ((0 : Nat), (9 : Nat), (15 : Nat), (71 : Nat))]) ({ frames := 21, cells := b, slots := b, locals := 597 })).room).cells ∧ slots + bq ≤ ((headSpec (wsW_ yX0_accept cX0_accept 4 (Option.some Jvm.ClassFile.FieldType.int) [((0 : Nat), (9 : Nat), (12 : Nat), (13 : Nat)), ((0 : Nat), (9 : Nat), (15 : Nat), (71 : Nat))]) ({ frames := 21, cells := b, slots := b, locals := 597 })).room).slots) → lv_has ls 4 [] → W p l e (headSpec (wsW_ yX0_accept cX0_accept 4 (Option.some Jvm.ClassFile.FieldType.int) [((0 : Nat), (9 : Nat), (12 : Nat), (13 : Nat)), ((0 : Nat), (9 : Nat), (15 : Nat), (71 : Nat))]) ({ frames := 21, cells := b, slots := b, locals := 597 })).room s m ([.ref p1, .int p2, .ref p3] : List Value).toArray below meth c H locs cells slots (vx_MQ below (wQ G (wqI Q)) (wXC G wX0) ([.ref p1, .int p2, .ref p3] : List Value).toArray s b b (wA G)) (F0 m 12 ls [.ref y0]) := by
    intro y0 M bq H locs ls cells slots hp hM hS hB hl
    refine lv_astore_n (lv' := [(3, .ref y0)]) hx hb dX0_accept_12 rfl hl (by decide) rfl (fun ls hl => ?_)
    refine lv_iconst (v := 1) hx hb dX0_accept_13 (by decide) ?_
    exact x_iret X hr hlk hM hS (w_fin hB) dX0_accept_14 ⟨_, rfl, hp⟩
  have hB15 : ∀ (y0 : Nat) (M : wM) (bq : Nat) (H : Heap) (locs : List Loc) (ls : Array Slot) (cells slots : Nat), B_X0_accept_15 G Q y0 M bq → wR G M H → va_S (wA G) s.heap H locs → (cells + bq ≤ ((headSpec (wsW_ yX0_accept cX0_accept 4 (Option.some Jvm.ClassFile.FieldType.int) [((0 : Nat), (9 : Nat), (12 : Nat), (13 : Nat)), ((0 : Nat), (9 : Nat), (15 : Nat), (71 : Nat))]) ({ frames := 21, cells := b, slots := b, locals := 597 })).room).cells ∧ slots + bq ≤ ((headSpec (wsW_ yX0_accept cX0_accept 4 (Option.some Jvm.ClassFile.FieldType.int) [((0 : Nat), (9 : Nat), (12 : Nat), (13 : Nat)), ((0 : Nat), (9 : Nat), (15 : Nat), (71 : Nat))]) ({ frames := 21, cells := b, slots := b, locals := 597 })).room).slots) → lv_has ls 4 [] → W p l e (headSpec (wsW_ yX0_accept cX0_accept 4 (Option.some Jvm.ClassFile.FieldType.int) [((0 : Nat), (9 : Nat), (12 : Nat), (13 : Nat)), ((0 : Nat), (9 : Nat), (15 : Nat), (71 : Nat))]) ({ frames := 21, cells := b, slots := b, locals := 597 })).room s m ([.ref p1, .int p2, .ref p3] : List Value).toArray below meth c H locs cells slots (vx_MQ below (wQ G (wqI Q)) (wXC G wX0) ([.ref p1, .int p2, .ref p3] : List Value).toArray s b b (wA G)) (F0 m 15 ls [.ref y0]) := by
    intro y0 M bq H locs ls cells slots hp hM hS hB hl
    refine lv_astore_n (lv' := [(3, .ref y0)]) hx hb dX0_accept_15 rfl hl (by decide) rfl (fun ls hl => ?_)
    refine lv_iconst (v := 2) hx hb dX0_accept_16 (by decide) ?_
    exact x_iret X hr hlk hM hS (w_fin hB) dX0_accept_17 ⟨_, rfl, hp⟩
  refine lv_aload_n hx hb dX0_accept_0 rfl (lv_at hl 2 rfl) ?_
  refine lv_iconst (v := 0) hx hb dX0_accept_1 (by decide) ?_
  refine lv_aload_n hx hb dX0_accept_2 rfl (lv_at hl 0 rfl) ?_
  refine lv_iload_n hx hb dX0_accept_3 rfl (lv_at hl 1 rfl) ?_
  obtain ⟨hrec, hp⟩ := hp
  obtain ⟨c2, hc1, hp⟩ := hp
  refine x_callI (vx_runV (As := [.int p2]) (rest := [.int (0 : Int32), .ref p3]) X (P_X1_accept_ok (l := l) hl0 hp) (cwV 1 hts (lw_V q2686 q2687 q2688 q148 q2689) rfl rfl rfl (by decide +kernel) ⟨Nat.le_of_ble_eq_true rfl, Nat.le_of_ble_eq_true rfl⟩) ⟨wPc.blind, w_recv hC.1 hM (ci := 0) (q := (RX1, TX1, 8)) rfl hrec, w_pre hC hM hS _⟩ rfl rfl hl.1 rfl (lv_room (Nat.le_of_ble_eq_true rfl)) dX0_accept_4 (w_room hB hc1)) hS hB hc1 (fun E ce q5 M6 H locs hp hM hS hB hcell hcv hcl => ?_) (fun v3 M1 H locs hp hM hS hB => ?_)
  · rcases hp with ⟨rfl, hp⟩ | ⟨rfl, hp⟩
    · refine vx_catch (own := "ParkingOfficeLaw") (name := "java/lang/IllegalStateException") (E := "java/lang/IllegalStateException") hown [⟨0, 9, 12, 13⟩] ⟨0, 9, 15, 71⟩ [] (by rw [htab]; rfl) (List.forall_mem_cons.mpr ⟨(Or.inr ⟨by decide, "java/lang/IndexOutOfBoundsException", hts _ q2176, hC.1.2.2.2.2.2.1 ("java/lang/IllegalStateException", "java/lang/IndexOutOfBoundsException") (List.mem_of_getElem? (i := 14) rfl)⟩), (fun _ h => absurd h List.not_mem_nil)⟩) (by decide) (by decide) (hts _ q2625) (va_Nw.use rfl (hC.1.2.2.1 _ q2578 rfl)) hcell hcv hcl ?_
      exact hB15 _ _ _ _ _ _ _ _ hp hM hS hB (lv_sub hl [] rfl)
    · refine vx_catch (own := "ParkingOfficeLaw") (name := "java/lang/IndexOutOfBoundsException") (E := "java/lang/IndexOutOfBoundsException") hown [] ⟨0, 9, 12, 13⟩ [⟨0, 9, 15, 71⟩] (by rw [htab]; rfl) (fun _ h => absurd h List.not_mem_nil) (by decide) (by decide) (hts _ q2176) (va_Nw.use rfl (hC.1.2.2.1 _ q550 rfl)) hcell hcv hcl ?_
      exact hB12 _ _ _ _ _ _ _ _ hp hM hS hB (lv_sub hl [] rfl)
  · refine lv_i2l (v := v3.toInt64) hx hb dX0_accept_7 rfl ?_
    refine x_last X hC.1 hM hS dX0_accept_8 hp (fun M4 H locs hM hS hp => ?_)
    refine lv_goto (tgt := 18) hx hb dX0_accept_9 (by decide) ?_
    refine lv_iconst (v := 0) hx hb dX0_accept_18 (by decide) ?_
    exact x_iret X hr hlk hM hS (w_fin hB) dX0_accept_19 ⟨_, rfl, hp⟩
def B_X0_admit_15 (G : wG) (Q : Int32 → wM → Prop) (y0 : Nat) (M : wM) (bq : Nat) : Prop :=
  Q (1 : Int32) M
def B_X0_admit_19 (G : wG) (Q : Int32 → wM → Prop) (y0 : Nat) (M : wM) (bq : Nat) : Prop :=
  Q (2 : Int32) M
def B_X0_admit_23 (G : wG) (Q : Int32 → wM → Prop) (y0 : Nat) (M : wM) (bq : Nat) : Prop :=
  Q (3 : Int32) M
def P_X0_admit (G : wG) (p1 : Nat) (p2 : Int32) (p3 : Int32) (p4 : Int32) (p5 : Nat) (b : Nat) (M : wM) (Q : Int32 → wM → Prop) : Prop :=
  oIs M p1 0 (∃ c2, c2 ≤ b ∧ P_X1_admit G p1 p2 p3 p4 c2 M (fun v3 M1 => oLast G M1 p5 (0 : Int32) (v3.toInt64) (fun M4 => Q (0 : Int32) M4)) (fun E q5 M6 => (E = "java/lang/IllegalArgumentException" ∧ (B_X0_admit_19 G Q q5 M6 (b - c2))) ∨ (E = "java/lang/IllegalStateException" ∧ (B_X0_admit_23 G Q q5 M6 (b - c2))) ∨ (E = "java/lang/IndexOutOfBoundsException" ∧ (B_X0_admit_15 G Q q5 M6 (b - c2)))))
set_option maxHeartbeats 4000000 in
set_option maxRecDepth 100000 in
theorem P_X0_admit_ok {l : Launch} (hl0 : l.stackTraces = false) {G : wG} {p1 : Nat} {p2 : Int32} {p3 : Int32} {p4 : Int32} {p5 : Nat} {b : Nat} {M : wM} {Q : Int32 → wM → Prop} (hp : P_X0_admit G p1 p2 p3 p4 p5 b M Q) : wMet l yX0_admit (wsW_ yX0_admit cX0_admit 6 (Option.some Jvm.ClassFile.FieldType.int) [((0 : Nat), (12 : Nat), (15 : Nat), (13 : Nat)), ((0 : Nat), (12 : Nat), (19 : Nat), (25 : Nat)), ((0 : Nat), (12 : Nat), (23 : Nat), (71 : Nat))]) 21 599 G [.ref p1, .int p2, .int p3, .int p4, .ref p5] M b (wqI Q) wX0 := by
  refine vx_ofWH (cc := cX0_admit) (maxL := 6) (ret := Option.some Jvm.ClassFile.FieldType.int) (hh := [((0 : Nat), (12 : Nat), (15 : Nat), (13 : Nat)), ((0 : Nat), (12 : Nat), (19 : Nat), (25 : Nat)), ((0 : Nat), (12 : Nat), (23 : Nat), (71 : Nat))]) (by decide) rfl ?_
  intro p e s m args below meth c s₁ B hml hv
  obtain ⟨rfl, hM, hK, hZ, hz⟩ := hv
  have hC : wC G s := ⟨hK, hZ, hz⟩
  have hx := B.exec
  have hb := B.bytes
  have hr := B.returns
  have hts := atoms_spec (ws := (wsW_ yX0_admit cX0_admit 6 (Option.some Jvm.ClassFile.FieldType.int) [((0 : Nat), (12 : Nat), (15 : Nat), (13 : Nat)), ((0 : Nat), (12 : Nat), (19 : Nat), (25 : Nat)), ((0 : Nat), (12 : Nat), (23 : Nat), (71 : Nat))])) B.pre
  have htab := vx_table (x := yX0_admit) B (hts _ List.mem_cons_self)
  have hts : ∀ w ∈ lw_all, w.before _ s = true := fun w h => hts w (List.mem_cons_of_mem _ h)
  have hown : s.vm.findClass RX0 = some m.cls := findClass_of_methodNamed B.named
  have hlk := B.notSynchronized
  have X : CallFix p m c cX0_admit 6 s ([.ref p1, .int p2, .int p3, .int p4, .ref p5] : List Value).toArray lw_all RX0 := ⟨hx, hb, hml, hown, hts⟩
  have hS : va_S (wA G) s.heap s.heap [] := va_S.rf
  have hl := lv_entry ([.ref p1, .int p2, .int p3, .int p4, .ref p5]) (n := 6) (Nat.le_of_ble_eq_true rfl)
  rw [lg_entry_eq]
  generalize (lg_sl ([.ref p1, .int p2, .int p3, .int p4, .ref p5]) ++ List.replicate (6 - (lg_sl ([.ref p1, .int p2, .int p3, .int p4, .ref p5])).length) Slot.unset).toArray = ls at hl ⊢
  have hl : lv_has ls 6 [(0, .ref p1), (1, .int p2), (2, .int p3), (3, .int p4), (4, .ref p5)] := hl
  have hB : 0 + b ≤ ((headSpec (wsW_ yX0_admit cX0_admit 6 (Option.some Jvm.ClassFile.FieldType.int) [((0 : Nat), (12 : Nat), (15 : Nat), (13 : Nat)), ((0 : Nat), (12 : Nat), (19 : Nat), (25 : Nat)), ((0 : Nat), (12 : Nat), (23 : Nat), (71 : Nat))]) ({ frames := 21, cells := b, slots := b, locals := 599 })).room).cells ∧ 0 + b ≤ ((headSpec (wsW_ yX0_admit cX0_admit 6 (Option.some Jvm.ClassFile.FieldType.int) [((0 : Nat), (12 : Nat), (15 : Nat), (13 : Nat)), ((0 : Nat), (12 : Nat), (19 : Nat), (25 : Nat)), ((0 : Nat), (12 : Nat), (23 : Nat), (71 : Nat))]) ({ frames := 21, cells := b, slots := b, locals := 599 })).room).slots := ⟨Nat.le_of_eq (Nat.zero_add b), Nat.le_of_eq (Nat.zero_add b)⟩
  have hB15 : ∀ (y0 : Nat) (M : wM) (bq : Nat) (H : Heap) (locs : List Loc) (ls : Array Slot) (cells slots : Nat), B_X0_admit_15 G Q y0 M bq → wR G M H → va_S (wA G) s.heap H locs → (cells + bq ≤ ((headSpec (wsW_ yX0_admit cX0_admit 6 (Option.some Jvm.ClassFile.FieldType.int) [((0 : Nat), (12 : Nat), (15 : Nat), (13 : Nat)), ((0 : Nat), (12 : Nat), (19 : Nat), (25 : Nat)), ((0 : Nat), (12 : Nat), (23 : Nat), (71 : Nat))]) ({ frames := 21, cells := b, slots := b, locals := 599 })).room).cells ∧ slots + bq ≤ ((headSpec (wsW_ yX0_admit cX0_admit 6 (Option.some Jvm.ClassFile.FieldType.int) [((0 : Nat), (12 : Nat), (15 : Nat), (13 : Nat)), ((0 : Nat), (12 : Nat), (19 : Nat), (25 : Nat)), ((0 : Nat), (12 : Nat), (23 : Nat), (71 : Nat))]) ({ frames := 21, cells := b, slots := b, locals := 599 })).room).slots) → lv_has ls 6 [] → W p l e (headSpec (wsW_ yX0_admit cX0_admit 6 (Option.some Jvm.ClassFile.FieldType.int) [((0 : Nat), (12 : Nat), (15 : Nat), (13 : Nat)), ((0 : Nat), (12 : Nat), (19 : Nat), (25 : Nat)), ((0 : Nat), (12 : Nat), (23 : Nat), (71 : Nat))]) ({ frames := 21, cells := b, slots := b, locals := 599 })).room s m ([.ref p1, .int p2, .int p3, .int p4, .ref p5] : List Value).toArray below meth c H locs cells slots (vx_MQ below (wQ G (wqI Q)) (wXC G wX0) ([.ref p1, .int p2, .int p3, .int p4, .ref p5] : List Value).toArray s b b (wA G)) (F0 m 15 ls [.ref y0]) := by
    intro y0 M bq H locs ls cells slots hp hM hS hB hl
    refine lv_astore (lv' := [(5, .ref y0)]) hx hb dX0_admit_15 hl (by decide) rfl (fun ls hl => ?_)
    refine lv_iconst (v := 1) hx hb dX0_admit_17 (by decide) ?_
    exact x_iret X hr hlk hM hS (w_fin hB) dX0_admit_18 ⟨_, rfl, hp⟩
  have hB19 : ∀ (y0 : Nat) (M : wM) (bq : Nat) (H : Heap) (locs : List Loc) (ls : Array Slot) (cells slots : Nat), B_X0_admit_19 G Q y0 M bq → wR G M H → va_S (wA G) s.heap H locs → (cells + bq ≤ ((headSpec (wsW_ yX0_admit cX0_admit 6 (Option.some Jvm.ClassFile.FieldType.int) [((0 : Nat), (12 : Nat), (15 : Nat), (13 : Nat)), ((0 : Nat), (12 : Nat), (19 : Nat), (25 : Nat)), ((0 : Nat), (12 : Nat), (23 : Nat), (71 : Nat))]) ({ frames := 21, cells := b, slots := b, locals := 599 })).room).cells ∧ slots + bq ≤ ((headSpec (wsW_ yX0_admit cX0_admit 6 (Option.some Jvm.ClassFile.FieldType.int) [((0 : Nat), (12 : Nat), (15 : Nat), (13 : Nat)), ((0 : Nat), (12 : Nat), (19 : Nat), (25 : Nat)), ((0 : Nat), (12 : Nat), (23 : Nat), (71 : Nat))]) ({ frames := 21, cells := b, slots := b, locals := 599 })).room).slots) → lv_has ls 6 [] → W p l e (headSpec (wsW_ yX0_admit cX0_admit 6 (Option.some Jvm.ClassFile.FieldType.int) [((0 : Nat), (12 : Nat), (15 : Nat), (13 : Nat)), ((0 : Nat), (12 : Nat), (19 : Nat), (25 : Nat)), ((0 : Nat), (12 : Nat), (23 : Nat), (71 : Nat))]) ({ frames := 21, cells := b, slots := b, locals := 599 })).room s m ([.ref p1, .int p2, .int p3, .int p4, .ref p5] : List Value).toArray below meth c H locs cells slots (vx_MQ below (wQ G (wqI Q)) (wXC G wX0) ([.ref p1, .int p2, .int p3, .int p4, .ref p5] : List Value).toArray s b b (wA G)) (F0 m 19 ls [.ref y0]) := by
    intro y0 M bq H locs ls cells slots hp hM hS hB hl
    refine lv_astore (lv' := [(5, .ref y0)]) hx hb dX0_admit_19 hl (by decide) rfl (fun ls hl => ?_)
    refine lv_iconst (v := 2) hx hb dX0_admit_21 (by decide) ?_
    exact x_iret X hr hlk hM hS (w_fin hB) dX0_admit_22 ⟨_, rfl, hp⟩
  have hB23 : ∀ (y0 : Nat) (M : wM) (bq : Nat) (H : Heap) (locs : List Loc) (ls : Array Slot) (cells slots : Nat), B_X0_admit_23 G Q y0 M bq → wR G M H → va_S (wA G) s.heap H locs → (cells + bq ≤ ((headSpec (wsW_ yX0_admit cX0_admit 6 (Option.some Jvm.ClassFile.FieldType.int) [((0 : Nat), (12 : Nat), (15 : Nat), (13 : Nat)), ((0 : Nat), (12 : Nat), (19 : Nat), (25 : Nat)), ((0 : Nat), (12 : Nat), (23 : Nat), (71 : Nat))]) ({ frames := 21, cells := b, slots := b, locals := 599 })).room).cells ∧ slots + bq ≤ ((headSpec (wsW_ yX0_admit cX0_admit 6 (Option.some Jvm.ClassFile.FieldType.int) [((0 : Nat), (12 : Nat), (15 : Nat), (13 : Nat)), ((0 : Nat), (12 : Nat), (19 : Nat), (25 : Nat)), ((0 : Nat), (12 : Nat), (23 : Nat), (71 : Nat))]) ({ frames := 21, cells := b, slots := b, locals := 599 })).room).slots) → lv_has ls 6 [] → W p l e (headSpec (wsW_ yX0_admit cX0_admit 6 (Option.some Jvm.ClassFile.FieldType.int) [((0 : Nat), (12 : Nat), (15 : Nat), (13 : Nat)), ((0 : Nat), (12 : Nat), (19 : Nat), (25 : Nat)), ((0 : Nat), (12 : Nat), (23 : Nat), (71 : Nat))]) ({ frames := 21, cells := b, slots := b, locals := 599 })).room s m ([.ref p1, .int p2, .int p3, .int p4, .ref p5] : List Value).toArray below meth c H locs cells slots (vx_MQ below (wQ G (wqI Q)) (wXC G wX0) ([.ref p1, .int p2, .int p3, .int p4, .ref p5] : List Value).toArray s b b (wA G)) (F0 m 23 ls [.ref y0]) := by
    intro y0 M bq H locs ls cells slots hp hM hS hB hl
    refine lv_astore (lv' := [(5, .ref y0)]) hx hb dX0_admit_23 hl (by decide) rfl (fun ls hl => ?_)
    refine lv_iconst (v := 3) hx hb dX0_admit_25 (by decide) ?_
    exact x_iret X hr hlk hM hS (w_fin hB) dX0_admit_26 ⟨_, rfl, hp⟩
  refine lv_aload hx hb dX0_admit_0 (lv_at hl 4 rfl) ?_
  refine lv_iconst (v := 0) hx hb dX0_admit_2 (by decide) ?_
  refine lv_aload_n hx hb dX0_admit_3 rfl (lv_at hl 0 rfl) ?_
  refine lv_iload_n hx hb dX0_admit_4 rfl (lv_at hl 1 rfl) ?_
  refine lv_iload_n hx hb dX0_admit_5 rfl (lv_at hl 2 rfl) ?_
  refine lv_iload_n hx hb dX0_admit_6 rfl (lv_at hl 3 rfl) ?_
  obtain ⟨hrec, hp⟩ := hp
  obtain ⟨c2, hc1, hp⟩ := hp
  refine x_callI (vx_runVX (As := [.int p2, .int p3, .int p4]) (rest := [.int (0 : Int32), .ref p5]) X (P_X1_admit_ok (l := l) hl0 hp) (vx_cwVW 3 hts (lw_VW q2710 q2711 q2712 q148 q2713) rfl rfl rfl (by decide +kernel) ⟨Nat.le_of_ble_eq_true rfl, Nat.le_of_ble_eq_true rfl⟩) ⟨wPc.blind, w_recv hC.1 hM (ci := 0) (q := (RX1, TX1, 8)) rfl hrec, w_pre hC hM hS _⟩ rfl rfl hl.1 rfl (lv_room (Nat.le_of_ble_eq_true rfl)) dX0_admit_7 (w_room hB hc1)) hS hB hc1 (fun E ce q5 M6 H locs hp hM hS hB hcell hcv hcl => ?_) (fun v3 M1 H locs hp hM hS hB => ?_)
  · rcases hp with ⟨rfl, hp⟩ | ⟨rfl, hp⟩ | ⟨rfl, hp⟩
    · refine vx_catch (own := "ParkingOfficeLaw") (name := "java/lang/IllegalArgumentException") (E := "java/lang/IllegalArgumentException") hown [⟨0, 12, 15, 13⟩] ⟨0, 12, 19, 25⟩ [⟨0, 12, 23, 71⟩] (by rw [htab]; rfl) (List.forall_mem_cons.mpr ⟨(Or.inr ⟨by decide, "java/lang/IndexOutOfBoundsException", hts _ q2176, hC.1.2.2.2.2.2.1 ("java/lang/IllegalArgumentException", "java/lang/IndexOutOfBoundsException") (List.mem_of_getElem? (i := 7) rfl)⟩), (fun _ h => absurd h List.not_mem_nil)⟩) (by decide) (by decide) (hts _ q2317) (va_Nw.use rfl (hC.1.2.2.1 _ q806 rfl)) hcell hcv hcl ?_
      exact hB19 _ _ _ _ _ _ _ _ hp hM hS hB (lv_sub hl [] rfl)
    · refine vx_catch (own := "ParkingOfficeLaw") (name := "java/lang/IllegalStateException") (E := "java/lang/IllegalStateException") hown [⟨0, 12, 15, 13⟩, ⟨0, 12, 19, 25⟩] ⟨0, 12, 23, 71⟩ [] (by rw [htab]; rfl) (List.forall_mem_cons.mpr ⟨(Or.inr ⟨by decide, "java/lang/IndexOutOfBoundsException", hts _ q2176, hC.1.2.2.2.2.2.1 ("java/lang/IllegalStateException", "java/lang/IndexOutOfBoundsException") (List.mem_of_getElem? (i := 14) rfl)⟩), (List.forall_mem_cons.mpr ⟨(Or.inr ⟨by decide, "java/lang/IllegalArgumentException", hts _ q2317, hC.1.2.2.2.2.2.1 ("java/lang/IllegalStateException", "java/lang/IllegalArgumentException") (List.mem_of_getElem? (i := 15) rfl)⟩), (fun _ h => absurd h List.not_mem_nil)⟩)⟩) (by decide) (by decide) (hts _ q2625) (va_Nw.use rfl (hC.1.2.2.1 _ q2578 rfl)) hcell hcv hcl ?_
      exact hB23 _ _ _ _ _ _ _ _ hp hM hS hB (lv_sub hl [] rfl)
    · refine vx_catch (own := "ParkingOfficeLaw") (name := "java/lang/IndexOutOfBoundsException") (E := "java/lang/IndexOutOfBoundsException") hown [] ⟨0, 12, 15, 13⟩ [⟨0, 12, 19, 25⟩, ⟨0, 12, 23, 71⟩] (by rw [htab]; rfl) (fun _ h => absurd h List.not_mem_nil) (by decide) (by decide) (hts _ q2176) (va_Nw.use rfl (hC.1.2.2.1 _ q550 rfl)) hcell hcv hcl ?_
      exact hB15 _ _ _ _ _ _ _ _ hp hM hS hB (lv_sub hl [] rfl)
  · refine lv_i2l (v := v3.toInt64) hx hb dX0_admit_10 rfl ?_
    refine x_last X hC.1 hM hS dX0_admit_11 hp (fun M4 H locs hM hS hp => ?_)
    refine lv_goto (tgt := 27) hx hb dX0_admit_12 (by decide) ?_
    refine lv_iconst (v := 0) hx hb dX0_admit_27 (by decide) ?_
    exact x_iret X hr hlk hM hS (w_fin hB) dX0_admit_28 ⟨_, rfl, hp⟩
def B_X0_amount_12 (G : wG) (Q : Int32 → wM → Prop) (y0 : Nat) (M : wM) (bq : Nat) : Prop :=
  Q (1 : Int32) M
def P_X0_amount (G : wG) (p1 : Nat) (p2 : Int32) (p3 : Nat) (b : Nat) (M : wM) (Q : Int32 → wM → Prop) : Prop :=
  oIs M p1 0 (∃ c2, c2 ≤ b ∧ P_X1_amount G p1 p2 c2 M (fun v3 M1 => oLast G M1 p3 (0 : Int32) (v3.toInt64) (fun M4 => Q (0 : Int32) M4)) (fun E q5 M6 => (E = "java/lang/IllegalArgumentException" ∧ (B_X0_amount_12 G Q q5 M6 (b - c2)))))
set_option maxHeartbeats 4000000 in
set_option maxRecDepth 100000 in
theorem P_X0_amount_ok {l : Launch} (hl0 : l.stackTraces = false) {G : wG} {p1 : Nat} {p2 : Int32} {p3 : Nat} {b : Nat} {M : wM} {Q : Int32 → wM → Prop} (hp : P_X0_amount G p1 p2 p3 b M Q) : wMet l yX0_amount (wsW_ yX0_amount cX0_amount 4 (Option.some Jvm.ClassFile.FieldType.int) [((0 : Nat), (9 : Nat), (12 : Nat), (25 : Nat))]) 15 463 G [.ref p1, .int p2, .ref p3] M b (wqI Q) wX0 := by
  refine vx_ofWH (cc := cX0_amount) (maxL := 4) (ret := Option.some Jvm.ClassFile.FieldType.int) (hh := [((0 : Nat), (9 : Nat), (12 : Nat), (25 : Nat))]) (by decide) rfl ?_
  intro p e s m args below meth c s₁ B hml hv
  obtain ⟨rfl, hM, hK, hZ, hz⟩ := hv
  have hC : wC G s := ⟨hK, hZ, hz⟩
  have hx := B.exec
  have hb := B.bytes
  have hr := B.returns
  have hts := atoms_spec (ws := (wsW_ yX0_amount cX0_amount 4 (Option.some Jvm.ClassFile.FieldType.int) [((0 : Nat), (9 : Nat), (12 : Nat), (25 : Nat))])) B.pre
  have htab := vx_table (x := yX0_amount) B (hts _ List.mem_cons_self)
  have hts : ∀ w ∈ lw_all, w.before _ s = true := fun w h => hts w (List.mem_cons_of_mem _ h)
  have hown : s.vm.findClass RX0 = some m.cls := findClass_of_methodNamed B.named
  have hlk := B.notSynchronized
  have X : CallFix p m c cX0_amount 4 s ([.ref p1, .int p2, .ref p3] : List Value).toArray lw_all RX0 := ⟨hx, hb, hml, hown, hts⟩
  have hS : va_S (wA G) s.heap s.heap [] := va_S.rf
  have hl := lv_entry ([.ref p1, .int p2, .ref p3]) (n := 4) (Nat.le_of_ble_eq_true rfl)
  rw [lg_entry_eq]
  generalize (lg_sl ([.ref p1, .int p2, .ref p3]) ++ List.replicate (4 - (lg_sl ([.ref p1, .int p2, .ref p3])).length) Slot.unset).toArray = ls at hl ⊢
  have hl : lv_has ls 4 [(0, .ref p1), (1, .int p2), (2, .ref p3)] := hl
  have hB : 0 + b ≤ ((headSpec (wsW_ yX0_amount cX0_amount 4 (Option.some Jvm.ClassFile.FieldType.int) [((0 : Nat), (9 : Nat), (12 : Nat), (25 : Nat))]) ({ frames := 15, cells := b, slots := b, locals := 463 })).room).cells ∧ 0 + b ≤ ((headSpec (wsW_ yX0_amount cX0_amount 4 (Option.some Jvm.ClassFile.FieldType.int) [((0 : Nat), (9 : Nat), (12 : Nat), (25 : Nat))]) ({ frames := 15, cells := b, slots := b, locals := 463 })).room).slots := ⟨Nat.le_of_eq (Nat.zero_add b), Nat.le_of_eq (Nat.zero_add b)⟩
  have hB12 : ∀ (y0 : Nat) (M : wM) (bq : Nat) (H : Heap) (locs : List Loc) (ls : Array Slot) (cells slots : Nat), B_X0_amount_12 G Q y0 M bq → wR G M H → va_S (wA G) s.heap H locs → (cells + bq ≤ ((headSpec (wsW_ yX0_amount cX0_amount 4 (Option.some Jvm.ClassFile.FieldType.int) [((0 : Nat), (9 : Nat), (12 : Nat), (25 : Nat))]) ({ frames := 15, cells := b, slots := b, locals := 463 })).room).cells ∧ slots + bq ≤ ((headSpec (wsW_ yX0_amount cX0_amount 4 (Option.some Jvm.ClassFile.FieldType.int) [((0 : Nat), (9 : Nat), (12 : Nat), (25 : Nat))]) ({ frames := 15, cells := b, slots := b, locals := 463 })).room).slots) → lv_has ls 4 [] → W p l e (headSpec (wsW_ yX0_amount cX0_amount 4 (Option.some Jvm.ClassFile.FieldType.int) [((0 : Nat), (9 : Nat), (12 : Nat), (25 : Nat))]) ({ frames := 15, cells := b, slots := b, locals := 463 })).room s m ([.ref p1, .int p2, .ref p3] : List Value).toArray below meth c H locs cells slots (vx_MQ below (wQ G (wqI Q)) (wXC G wX0) ([.ref p1, .int p2, .ref p3] : List Value).toArray s b b (wA G)) (F0 m 12 ls [.ref y0]) := by
    intro y0 M bq H locs ls cells slots hp hM hS hB hl
    refine lv_astore_n (lv' := [(3, .ref y0)]) hx hb dX0_amount_12 rfl hl (by decide) rfl (fun ls hl => ?_)
    refine lv_iconst (v := 1) hx hb dX0_amount_13 (by decide) ?_
    exact x_iret X hr hlk hM hS (w_fin hB) dX0_amount_14 ⟨_, rfl, hp⟩
  refine lv_aload_n hx hb dX0_amount_0 rfl (lv_at hl 2 rfl) ?_
  refine lv_iconst (v := 0) hx hb dX0_amount_1 (by decide) ?_
  refine lv_aload_n hx hb dX0_amount_2 rfl (lv_at hl 0 rfl) ?_
  refine lv_iload_n hx hb dX0_amount_3 rfl (lv_at hl 1 rfl) ?_
  obtain ⟨hrec, hp⟩ := hp
  obtain ⟨c2, hc1, hp⟩ := hp
  refine x_callI (vx_runV (As := [.int p2]) (rest := [.int (0 : Int32), .ref p3]) X (P_X1_amount_ok (l := l) hl0 hp) (cwV 1 hts (lw_V q2318 q2319 q2320 q148 q2321) rfl rfl rfl (by decide +kernel) ⟨Nat.le_of_ble_eq_true rfl, Nat.le_of_ble_eq_true rfl⟩) ⟨wPc.blind, w_recv hC.1 hM (ci := 0) (q := (RX1, TX1, 8)) rfl hrec, w_pre hC hM hS _⟩ rfl rfl hl.1 rfl (lv_room (Nat.le_of_ble_eq_true rfl)) dX0_amount_4 (w_room hB hc1)) hS hB hc1 (fun E ce q5 M6 H locs hp hM hS hB hcell hcv hcl => ?_) (fun v3 M1 H locs hp hM hS hB => ?_)
  · obtain ⟨rfl, hp⟩ := hp
    refine vx_catch (own := "ParkingOfficeLaw") (name := "java/lang/IllegalArgumentException") (E := "java/lang/IllegalArgumentException") hown [] ⟨0, 9, 12, 25⟩ [] (by rw [htab]; rfl) (fun _ h => absurd h List.not_mem_nil) (by decide) (by decide) (hts _ q2317) (va_Nw.use rfl (hC.1.2.2.1 _ q806 rfl)) hcell hcv hcl ?_
    exact hB12 _ _ _ _ _ _ _ _ hp hM hS hB (lv_sub hl [] rfl)
  · refine lv_i2l (v := v3.toInt64) hx hb dX0_amount_7 rfl ?_
    refine x_last X hC.1 hM hS dX0_amount_8 hp (fun M4 H locs hM hS hp => ?_)
    refine lv_goto (tgt := 15) hx hb dX0_amount_9 (by decide) ?_
    refine lv_iconst (v := 0) hx hb dX0_amount_15 (by decide) ?_
    exact x_iret X hr hlk hM hS (w_fin hB) dX0_amount_16 ⟨_, rfl, hp⟩
def B_X0_appeal_15 (G : wG) (Q : Int32 → wM → Prop) (y0 : Int64) (y1 : Int32) (y2 : Nat) (M : wM) (bq : Nat) : Prop :=
  oLast G M y2 y1 y0 (fun M1 => Q (0 : Int32) M1)
def B_X0_appeal_19 (G : wG) (Q : Int32 → wM → Prop) (y0 : Nat) (M : wM) (bq : Nat) : Prop :=
  Q (1 : Int32) M
def B_X0_appeal_22 (G : wG) (Q : Int32 → wM → Prop) (y0 : Nat) (M : wM) (bq : Nat) : Prop :=
  Q (2 : Int32) M
def P_X0_appeal (G : wG) (p1 : Nat) (p2 : Int32) (p3 : Nat) (b : Nat) (M : wM) (Q : Int32 → wM → Prop) : Prop :=
  oIs M p1 0 (∃ c2, c2 ≤ b ∧ P_X1_appeal G p1 p2 c2 M (fun r3 M1 => oIf (r3 = true) (B_X0_appeal_15 G Q (1 : Int64) (0 : Int32) p3 M1 (b - c2)) (B_X0_appeal_15 G Q (0 : Int64) (0 : Int32) p3 M1 (b - c2))) (fun E q4 M5 => (E = "java/lang/IllegalStateException" ∧ (B_X0_appeal_22 G Q q4 M5 (b - c2))) ∨ (E = "java/lang/IndexOutOfBoundsException" ∧ (B_X0_appeal_19 G Q q4 M5 (b - c2)))))
set_option maxHeartbeats 4000000 in
set_option maxRecDepth 100000 in
theorem P_X0_appeal_ok {l : Launch} (hl0 : l.stackTraces = false) {G : wG} {p1 : Nat} {p2 : Int32} {p3 : Nat} {b : Nat} {M : wM} {Q : Int32 → wM → Prop} (hp : P_X0_appeal G p1 p2 p3 b M Q) : wMet l yX0_appeal (wsW_ yX0_appeal cX0_appeal 4 (Option.some Jvm.ClassFile.FieldType.int) [((0 : Nat), (16 : Nat), (19 : Nat), (13 : Nat)), ((0 : Nat), (16 : Nat), (22 : Nat), (71 : Nat))]) 21 598 G [.ref p1, .int p2, .ref p3] M b (wqI Q) wX0 := by
  refine vx_ofWH (cc := cX0_appeal) (maxL := 4) (ret := Option.some Jvm.ClassFile.FieldType.int) (hh := [((0 : Nat), (16 : Nat), (19 : Nat), (13 : Nat)), ((0 : Nat), (16 : Nat), (22 : Nat), (71 : Nat))]) (by decide) rfl ?_
  intro p e s m args below meth c s₁ B hml hv
  obtain ⟨rfl, hM, hK, hZ, hz⟩ := hv
  have hC : wC G s := ⟨hK, hZ, hz⟩
  have hx := B.exec
  have hb := B.bytes
  have hr := B.returns
  have hts := atoms_spec (ws := (wsW_ yX0_appeal cX0_appeal 4 (Option.some Jvm.ClassFile.FieldType.int) [((0 : Nat), (16 : Nat), (19 : Nat), (13 : Nat)), ((0 : Nat), (16 : Nat), (22 : Nat), (71 : Nat))])) B.pre
  have htab := vx_table (x := yX0_appeal) B (hts _ List.mem_cons_self)
  have hts : ∀ w ∈ lw_all, w.before _ s = true := fun w h => hts w (List.mem_cons_of_mem _ h)
  have hown : s.vm.findClass RX0 = some m.cls := findClass_of_methodNamed B.named
  have hlk := B.notSynchronized
  have X : CallFix p m c cX0_appeal 4 s ([.ref p1, .int p2, .ref p3] : List Value).toArray lw_all RX0 := ⟨hx, hb, hml, hown, hts⟩
  have hS : va_S (wA G) s.heap s.heap [] := va_S.rf
  have hl := lv_entry ([.ref p1, .int p2, .ref p3]) (n := 4) (Nat.le_of_ble_eq_true rfl)
  rw [lg_entry_eq]
  generalize (lg_sl ([.ref p1, .int p2, .ref p3]) ++ List.replicate (4 - (lg_sl ([.ref p1, .int p2, .ref p3])).length) Slot.unset).toArray = ls at hl ⊢
  have hl : lv_has ls 4 [(0, .ref p1), (1, .int p2), (2, .ref p3)] := hl
  have hB : 0 + b ≤ ((headSpec (wsW_ yX0_appeal cX0_appeal 4 (Option.some Jvm.ClassFile.FieldType.int) [((0 : Nat), (16 : Nat), (19 : Nat), (13 : Nat)), ((0 : Nat), (16 : Nat), (22 : Nat), (71 : Nat))]) ({ frames := 21, cells := b, slots := b, locals := 598 })).room).cells ∧ 0 + b ≤ ((headSpec (wsW_ yX0_appeal cX0_appeal 4 (Option.some Jvm.ClassFile.FieldType.int) [((0 : Nat), (16 : Nat), (19 : Nat), (13 : Nat)), ((0 : Nat), (16 : Nat), (22 : Nat), (71 : Nat))]) ({ frames := 21, cells := b, slots := b, locals := 598 })).room).slots := ⟨Nat.le_of_eq (Nat.zero_add b), Nat.le_of_eq (Nat.zero_add b)⟩
  have hB15 : ∀ (y0 : Int64) (y1 : Int32) (y2 : Nat) (M : wM) (bq : Nat) (H : Heap) (locs : List Loc) (ls : Array Slot) (cells slots : Nat), B_X0_appeal_15 G Q y0 y1 y2 M bq → wR G M H → va_S (wA G) s.heap H locs → (cells + bq ≤ ((headSpec (wsW_ yX0_appeal cX0_appeal 4 (Option.some Jvm.ClassFile.FieldType.int) [((0 : Nat), (16 : Nat), (19 : Nat), (13 : Nat)), ((0 : Nat), (16 : Nat), (22 : Nat), (71 : Nat))]) ({ frames := 21, cells := b, slots := b, locals := 598 })).room).cells ∧ slots + bq ≤ ((headSpec (wsW_ yX0_appeal cX0_appeal 4 (Option.some Jvm.ClassFile.FieldType.int) [((0 : Nat), (16 : Nat), (19 : Nat), (13 : Nat)), ((0 : Nat), (16 : Nat), (22 : Nat), (71 : Nat))]) ({ frames := 21, cells := b, slots := b, locals := 598 })).room).slots) → lv_has ls 4 [] → W p l e (headSpec (wsW_ yX0_appeal cX0_appeal 4 (Option.some Jvm.ClassFile.FieldType.int) [((0 : Nat), (16 : Nat), (19 : Nat), (13 : Nat)), ((0 : Nat), (16 : Nat), (22 : Nat), (71 : Nat))]) ({ frames := 21, cells := b, slots := b, locals := 598 })).room s m ([.ref p1, .int p2, .ref p3] : List Value).toArray below meth c H locs cells slots (vx_MQ below (wQ G (wqI Q)) (wXC G wX0) ([.ref p1, .int p2, .ref p3] : List Value).toArray s b b (wA G)) (F0 m 15 ls [.long y0, .int y1, .ref y2]) := by
    intro y0 y1 y2 M bq H locs ls cells slots hp hM hS hB hl
    refine x_last X hC.1 hM hS dX0_appeal_15 hp (fun M1 H locs hM hS hp => ?_)
    refine lv_goto (tgt := 25) hx hb dX0_appeal_16 (by decide) ?_
    refine lv_iconst (v := 0) hx hb dX0_appeal_25 (by decide) ?_
    exact x_iret X hr hlk hM hS (w_fin hB) dX0_appeal_26 ⟨_, rfl, hp⟩
  have hB19 : ∀ (y0 : Nat) (M : wM) (bq : Nat) (H : Heap) (locs : List Loc) (ls : Array Slot) (cells slots : Nat), B_X0_appeal_19 G Q y0 M bq → wR G M H → va_S (wA G) s.heap H locs → (cells + bq ≤ ((headSpec (wsW_ yX0_appeal cX0_appeal 4 (Option.some Jvm.ClassFile.FieldType.int) [((0 : Nat), (16 : Nat), (19 : Nat), (13 : Nat)), ((0 : Nat), (16 : Nat), (22 : Nat), (71 : Nat))]) ({ frames := 21, cells := b, slots := b, locals := 598 })).room).cells ∧ slots + bq ≤ ((headSpec (wsW_ yX0_appeal cX0_appeal 4 (Option.some Jvm.ClassFile.FieldType.int) [((0 : Nat), (16 : Nat), (19 : Nat), (13 : Nat)), ((0 : Nat), (16 : Nat), (22 : Nat), (71 : Nat))]) ({ frames := 21, cells := b, slots := b, locals := 598 })).room).slots) → lv_has ls 4 [] → W p l e (headSpec (wsW_ yX0_appeal cX0_appeal 4 (Option.some Jvm.ClassFile.FieldType.int) [((0 : Nat), (16 : Nat), (19 : Nat), (13 : Nat)), ((0 : Nat), (16 : Nat), (22 : Nat), (71 : Nat))]) ({ frames := 21, cells := b, slots := b, locals := 598 })).room s m ([.ref p1, .int p2, .ref p3] : List Value).toArray below meth c H locs cells slots (vx_MQ below (wQ G (wqI Q)) (wXC G wX0) ([.ref p1, .int p2, .ref p3] : List Value).toArray s b b (wA G)) (F0 m 19 ls [.ref y0]) := by
    intro y0 M bq H locs ls cells slots hp hM hS hB hl
    refine lv_astore_n (lv' := [(3, .ref y0)]) hx hb dX0_appeal_19 rfl hl (by decide) rfl (fun ls hl => ?_)
    refine lv_iconst (v := 1) hx hb dX0_appeal_20 (by decide) ?_
    exact x_iret X hr hlk hM hS (w_fin hB) dX0_appeal_21 ⟨_, rfl, hp⟩
  have hB22 : ∀ (y0 : Nat) (M : wM) (bq : Nat) (H : Heap) (locs : List Loc) (ls : Array Slot) (cells slots : Nat), B_X0_appeal_22 G Q y0 M bq → wR G M H → va_S (wA G) s.heap H locs → (cells + bq ≤ ((headSpec (wsW_ yX0_appeal cX0_appeal 4 (Option.some Jvm.ClassFile.FieldType.int) [((0 : Nat), (16 : Nat), (19 : Nat), (13 : Nat)), ((0 : Nat), (16 : Nat), (22 : Nat), (71 : Nat))]) ({ frames := 21, cells := b, slots := b, locals := 598 })).room).cells ∧ slots + bq ≤ ((headSpec (wsW_ yX0_appeal cX0_appeal 4 (Option.some Jvm.ClassFile.FieldType.int) [((0 : Nat), (16 : Nat), (19 : Nat), (13 : Nat)), ((0 : Nat), (16 : Nat), (22 : Nat), (71 : Nat))]) ({ frames := 21, cells := b, slots := b, locals := 598 })).room).slots) → lv_has ls 4 [] → W p l e (headSpec (wsW_ yX0_appeal cX0_appeal 4 (Option.some Jvm.ClassFile.FieldType.int) [((0 : Nat), (16 : Nat), (19 : Nat), (13 : Nat)), ((0 : Nat), (16 : Nat), (22 : Nat), (71 : Nat))]) ({ frames := 21, cells := b, slots := b, locals := 598 })).room s m ([.ref p1, .int p2, .ref p3] : List Value).toArray below meth c H locs cells slots (vx_MQ below (wQ G (wqI Q)) (wXC G wX0) ([.ref p1, .int p2, .ref p3] : List Value).toArray s b b (wA G)) (F0 m 22 ls [.ref y0]) := by
    intro y0 M bq H locs ls cells slots hp hM hS hB hl
    refine lv_astore_n (lv' := [(3, .ref y0)]) hx hb dX0_appeal_22 rfl hl (by decide) rfl (fun ls hl => ?_)
    refine lv_iconst (v := 2) hx hb dX0_appeal_23 (by decide) ?_
    exact x_iret X hr hlk hM hS (w_fin hB) dX0_appeal_24 ⟨_, rfl, hp⟩
  refine lv_aload_n hx hb dX0_appeal_0 rfl (lv_at hl 2 rfl) ?_
  refine lv_iconst (v := 0) hx hb dX0_appeal_1 (by decide) ?_
  refine lv_aload_n hx hb dX0_appeal_2 rfl (lv_at hl 0 rfl) ?_
  refine lv_iload_n hx hb dX0_appeal_3 rfl (lv_at hl 1 rfl) ?_
  obtain ⟨hrec, hp⟩ := hp
  obtain ⟨c2, hc1, hp⟩ := hp
  refine x_callZ (vx_runV (As := [.int p2]) (rest := [.int (0 : Int32), .ref p3]) X (P_X1_appeal_ok (l := l) hl0 hp) (cwV 1 hts (lw_V q2931 q2932 q2933 q148 q2934) rfl rfl rfl (by decide +kernel) ⟨Nat.le_of_ble_eq_true rfl, Nat.le_of_ble_eq_true rfl⟩) ⟨wPc.blind, w_recv hC.1 hM (ci := 0) (q := (RX1, TX1, 8)) rfl hrec, w_pre hC hM hS _⟩ rfl rfl hl.1 rfl (lv_room (Nat.le_of_ble_eq_true rfl)) dX0_appeal_4 (w_room hB hc1)) hS hB hc1 (fun E ce q4 M5 H locs hp hM hS hB hcell hcv hcl => ?_) (fun r3 M1 H locs hp hM hS hB => ?_)
  · rcases hp with ⟨rfl, hp⟩ | ⟨rfl, hp⟩
    · refine vx_catch (own := "ParkingOfficeLaw") (name := "java/lang/IllegalStateException") (E := "java/lang/IllegalStateException") hown [⟨0, 16, 19, 13⟩] ⟨0, 16, 22, 71⟩ [] (by rw [htab]; rfl) (List.forall_mem_cons.mpr ⟨(Or.inr ⟨by decide, "java/lang/IndexOutOfBoundsException", hts _ q2176, hC.1.2.2.2.2.2.1 ("java/lang/IllegalStateException", "java/lang/IndexOutOfBoundsException") (List.mem_of_getElem? (i := 14) rfl)⟩), (fun _ h => absurd h List.not_mem_nil)⟩) (by decide) (by decide) (hts _ q2625) (va_Nw.use rfl (hC.1.2.2.1 _ q2578 rfl)) hcell hcv hcl ?_
      exact hB22 _ _ _ _ _ _ _ _ hp hM hS hB (lv_sub hl [] rfl)
    · refine vx_catch (own := "ParkingOfficeLaw") (name := "java/lang/IndexOutOfBoundsException") (E := "java/lang/IndexOutOfBoundsException") hown [] ⟨0, 16, 19, 13⟩ [⟨0, 16, 22, 71⟩] (by rw [htab]; rfl) (fun _ h => absurd h List.not_mem_nil) (by decide) (by decide) (hts _ q2176) (va_Nw.use rfl (hC.1.2.2.1 _ q550 rfl)) hcell hcv hcl ?_
      exact hB19 _ _ _ _ _ _ _ _ hp hM hS hB (lv_sub hl [] rfl)
  · refine x_ifeqB (tgt := 14) hx hb dX0_appeal_7 (by decide) (fun hc => ?_) (fun hc => ?_)
    · have hp := oIf.bf hp hc
      refine lv_lconst (v := 0) hx hb dX0_appeal_14 (by decide) ?_
      exact hB15 _ _ _ _ _ _ _ _ _ _ hp hM hS hB (lv_sub hl [] rfl)
    · have hp := oIf.bt hp hc
      refine lv_lconst (v := 1) hx hb dX0_appeal_10 (by decide) ?_
      refine lv_goto (tgt := 15) hx hb dX0_appeal_11 (by decide) ?_
      exact hB15 _ _ _ _ _ _ _ _ _ _ hp hM hS hB (lv_sub hl [] rfl)
def B_X0_apply_13 (G : wG) (Q : Int32 → wM → Prop) (y0 : Nat) (M : wM) (bq : Nat) : Prop :=
  Q (1 : Int32) M
def B_X0_apply_17 (G : wG) (Q : Int32 → wM → Prop) (y0 : Nat) (M : wM) (bq : Nat) : Prop :=
  Q (2 : Int32) M
def B_X0_apply_21 (G : wG) (Q : Int32 → wM → Prop) (y0 : Nat) (M : wM) (bq : Nat) : Prop :=
  Q (3 : Int32) M
def P_X0_apply (G : wG) (p1 : Nat) (p2 : Int32) (p3 : Int32) (p4 : Nat) (b : Nat) (M : wM) (Q : Int32 → wM → Prop) : Prop :=
  oIs M p1 0 (∃ c2, c2 ≤ b ∧ P_X1_apply G p1 p2 p3 c2 M (fun v3 M1 => oLast G M1 p4 (0 : Int32) (v3.toInt64) (fun M4 => Q (0 : Int32) M4)) (fun E q5 M6 => (E = "java/lang/IllegalArgumentException" ∧ (B_X0_apply_17 G Q q5 M6 (b - c2))) ∨ (E = "java/lang/IllegalStateException" ∧ (B_X0_apply_21 G Q q5 M6 (b - c2))) ∨ (E = "java/lang/IndexOutOfBoundsException" ∧ (B_X0_apply_13 G Q q5 M6 (b - c2)))))
set_option maxHeartbeats 4000000 in
set_option maxRecDepth 100000 in
theorem P_X0_apply_ok {l : Launch} (hl0 : l.stackTraces = false) {G : wG} {p1 : Nat} {p2 : Int32} {p3 : Int32} {p4 : Nat} {b : Nat} {M : wM} {Q : Int32 → wM → Prop} (hp : P_X0_apply G p1 p2 p3 p4 b M Q) : wMet l yX0_apply (wsW_ yX0_apply cX0_apply 5 (Option.some Jvm.ClassFile.FieldType.int) [((0 : Nat), (10 : Nat), (13 : Nat), (13 : Nat)), ((0 : Nat), (10 : Nat), (17 : Nat), (25 : Nat)), ((0 : Nat), (10 : Nat), (21 : Nat), (71 : Nat))]) 26 3346 G [.ref p1, .int p2, .int p3, .ref p4] M b (wqI Q) wX0 := by
  refine vx_ofWH (cc := cX0_apply) (maxL := 5) (ret := Option.some Jvm.ClassFile.FieldType.int) (hh := [((0 : Nat), (10 : Nat), (13 : Nat), (13 : Nat)), ((0 : Nat), (10 : Nat), (17 : Nat), (25 : Nat)), ((0 : Nat), (10 : Nat), (21 : Nat), (71 : Nat))]) (by decide) rfl ?_
  intro p e s m args below meth c s₁ B hml hv
  obtain ⟨rfl, hM, hK, hZ, hz⟩ := hv
  have hC : wC G s := ⟨hK, hZ, hz⟩
  have hx := B.exec
  have hb := B.bytes
  have hr := B.returns
  have hts := atoms_spec (ws := (wsW_ yX0_apply cX0_apply 5 (Option.some Jvm.ClassFile.FieldType.int) [((0 : Nat), (10 : Nat), (13 : Nat), (13 : Nat)), ((0 : Nat), (10 : Nat), (17 : Nat), (25 : Nat)), ((0 : Nat), (10 : Nat), (21 : Nat), (71 : Nat))])) B.pre
  have htab := vx_table (x := yX0_apply) B (hts _ List.mem_cons_self)
  have hts : ∀ w ∈ lw_all, w.before _ s = true := fun w h => hts w (List.mem_cons_of_mem _ h)
  have hown : s.vm.findClass RX0 = some m.cls := findClass_of_methodNamed B.named
  have hlk := B.notSynchronized
  have X : CallFix p m c cX0_apply 5 s ([.ref p1, .int p2, .int p3, .ref p4] : List Value).toArray lw_all RX0 := ⟨hx, hb, hml, hown, hts⟩
  have hS : va_S (wA G) s.heap s.heap [] := va_S.rf
  have hl := lv_entry ([.ref p1, .int p2, .int p3, .ref p4]) (n := 5) (Nat.le_of_ble_eq_true rfl)
  rw [lg_entry_eq]
  generalize (lg_sl ([.ref p1, .int p2, .int p3, .ref p4]) ++ List.replicate (5 - (lg_sl ([.ref p1, .int p2, .int p3, .ref p4])).length) Slot.unset).toArray = ls at hl ⊢
  have hl : lv_has ls 5 [(0, .ref p1), (1, .int p2), (2, .int p3), (3, .ref p4)] := hl
  have hB : 0 + b ≤ ((headSpec (wsW_ yX0_apply cX0_apply 5 (Option.some Jvm.ClassFile.FieldType.int) [((0 : Nat), (10 : Nat), (13 : Nat), (13 : Nat)), ((0 : Nat), (10 : Nat), (17 : Nat), (25 : Nat)), ((0 : Nat), (10 : Nat), (21 : Nat), (71 : Nat))]) ({ frames := 26, cells := b, slots := b, locals := 3346 })).room).cells ∧ 0 + b ≤ ((headSpec (wsW_ yX0_apply cX0_apply 5 (Option.some Jvm.ClassFile.FieldType.int) [((0 : Nat), (10 : Nat), (13 : Nat), (13 : Nat)), ((0 : Nat), (10 : Nat), (17 : Nat), (25 : Nat)), ((0 : Nat), (10 : Nat), (21 : Nat), (71 : Nat))]) ({ frames := 26, cells := b, slots := b, locals := 3346 })).room).slots := ⟨Nat.le_of_eq (Nat.zero_add b), Nat.le_of_eq (Nat.zero_add b)⟩
  have hB13 : ∀ (y0 : Nat) (M : wM) (bq : Nat) (H : Heap) (locs : List Loc) (ls : Array Slot) (cells slots : Nat), B_X0_apply_13 G Q y0 M bq → wR G M H → va_S (wA G) s.heap H locs → (cells + bq ≤ ((headSpec (wsW_ yX0_apply cX0_apply 5 (Option.some Jvm.ClassFile.FieldType.int) [((0 : Nat), (10 : Nat), (13 : Nat), (13 : Nat)), ((0 : Nat), (10 : Nat), (17 : Nat), (25 : Nat)), ((0 : Nat), (10 : Nat), (21 : Nat), (71 : Nat))]) ({ frames := 26, cells := b, slots := b, locals := 3346 })).room).cells ∧ slots + bq ≤ ((headSpec (wsW_ yX0_apply cX0_apply 5 (Option.some Jvm.ClassFile.FieldType.int) [((0 : Nat), (10 : Nat), (13 : Nat), (13 : Nat)), ((0 : Nat), (10 : Nat), (17 : Nat), (25 : Nat)), ((0 : Nat), (10 : Nat), (21 : Nat), (71 : Nat))]) ({ frames := 26, cells := b, slots := b, locals := 3346 })).room).slots) → lv_has ls 5 [] → W p l e (headSpec (wsW_ yX0_apply cX0_apply 5 (Option.some Jvm.ClassFile.FieldType.int) [((0 : Nat), (10 : Nat), (13 : Nat), (13 : Nat)), ((0 : Nat), (10 : Nat), (17 : Nat), (25 : Nat)), ((0 : Nat), (10 : Nat), (21 : Nat), (71 : Nat))]) ({ frames := 26, cells := b, slots := b, locals := 3346 })).room s m ([.ref p1, .int p2, .int p3, .ref p4] : List Value).toArray below meth c H locs cells slots (vx_MQ below (wQ G (wqI Q)) (wXC G wX0) ([.ref p1, .int p2, .int p3, .ref p4] : List Value).toArray s b b (wA G)) (F0 m 13 ls [.ref y0]) := by
    intro y0 M bq H locs ls cells slots hp hM hS hB hl
    refine lv_astore (lv' := [(4, .ref y0)]) hx hb dX0_apply_13 hl (by decide) rfl (fun ls hl => ?_)
    refine lv_iconst (v := 1) hx hb dX0_apply_15 (by decide) ?_
    exact x_iret X hr hlk hM hS (w_fin hB) dX0_apply_16 ⟨_, rfl, hp⟩
  have hB17 : ∀ (y0 : Nat) (M : wM) (bq : Nat) (H : Heap) (locs : List Loc) (ls : Array Slot) (cells slots : Nat), B_X0_apply_17 G Q y0 M bq → wR G M H → va_S (wA G) s.heap H locs → (cells + bq ≤ ((headSpec (wsW_ yX0_apply cX0_apply 5 (Option.some Jvm.ClassFile.FieldType.int) [((0 : Nat), (10 : Nat), (13 : Nat), (13 : Nat)), ((0 : Nat), (10 : Nat), (17 : Nat), (25 : Nat)), ((0 : Nat), (10 : Nat), (21 : Nat), (71 : Nat))]) ({ frames := 26, cells := b, slots := b, locals := 3346 })).room).cells ∧ slots + bq ≤ ((headSpec (wsW_ yX0_apply cX0_apply 5 (Option.some Jvm.ClassFile.FieldType.int) [((0 : Nat), (10 : Nat), (13 : Nat), (13 : Nat)), ((0 : Nat), (10 : Nat), (17 : Nat), (25 : Nat)), ((0 : Nat), (10 : Nat), (21 : Nat), (71 : Nat))]) ({ frames := 26, cells := b, slots := b, locals := 3346 })).room).slots) → lv_has ls 5 [] → W p l e (headSpec (wsW_ yX0_apply cX0_apply 5 (Option.some Jvm.ClassFile.FieldType.int) [((0 : Nat), (10 : Nat), (13 : Nat), (13 : Nat)), ((0 : Nat), (10 : Nat), (17 : Nat), (25 : Nat)), ((0 : Nat), (10 : Nat), (21 : Nat), (71 : Nat))]) ({ frames := 26, cells := b, slots := b, locals := 3346 })).room s m ([.ref p1, .int p2, .int p3, .ref p4] : List Value).toArray below meth c H locs cells slots (vx_MQ below (wQ G (wqI Q)) (wXC G wX0) ([.ref p1, .int p2, .int p3, .ref p4] : List Value).toArray s b b (wA G)) (F0 m 17 ls [.ref y0]) := by
    intro y0 M bq H locs ls cells slots hp hM hS hB hl
    refine lv_astore (lv' := [(4, .ref y0)]) hx hb dX0_apply_17 hl (by decide) rfl (fun ls hl => ?_)
    refine lv_iconst (v := 2) hx hb dX0_apply_19 (by decide) ?_
    exact x_iret X hr hlk hM hS (w_fin hB) dX0_apply_20 ⟨_, rfl, hp⟩
  have hB21 : ∀ (y0 : Nat) (M : wM) (bq : Nat) (H : Heap) (locs : List Loc) (ls : Array Slot) (cells slots : Nat), B_X0_apply_21 G Q y0 M bq → wR G M H → va_S (wA G) s.heap H locs → (cells + bq ≤ ((headSpec (wsW_ yX0_apply cX0_apply 5 (Option.some Jvm.ClassFile.FieldType.int) [((0 : Nat), (10 : Nat), (13 : Nat), (13 : Nat)), ((0 : Nat), (10 : Nat), (17 : Nat), (25 : Nat)), ((0 : Nat), (10 : Nat), (21 : Nat), (71 : Nat))]) ({ frames := 26, cells := b, slots := b, locals := 3346 })).room).cells ∧ slots + bq ≤ ((headSpec (wsW_ yX0_apply cX0_apply 5 (Option.some Jvm.ClassFile.FieldType.int) [((0 : Nat), (10 : Nat), (13 : Nat), (13 : Nat)), ((0 : Nat), (10 : Nat), (17 : Nat), (25 : Nat)), ((0 : Nat), (10 : Nat), (21 : Nat), (71 : Nat))]) ({ frames := 26, cells := b, slots := b, locals := 3346 })).room).slots) → lv_has ls 5 [] → W p l e (headSpec (wsW_ yX0_apply cX0_apply 5 (Option.some Jvm.ClassFile.FieldType.int) [((0 : Nat), (10 : Nat), (13 : Nat), (13 : Nat)), ((0 : Nat), (10 : Nat), (17 : Nat), (25 : Nat)), ((0 : Nat), (10 : Nat), (21 : Nat), (71 : Nat))]) ({ frames := 26, cells := b, slots := b, locals := 3346 })).room s m ([.ref p1, .int p2, .int p3, .ref p4] : List Value).toArray below meth c H locs cells slots (vx_MQ below (wQ G (wqI Q)) (wXC G wX0) ([.ref p1, .int p2, .int p3, .ref p4] : List Value).toArray s b b (wA G)) (F0 m 21 ls [.ref y0]) := by
    intro y0 M bq H locs ls cells slots hp hM hS hB hl
    refine lv_astore (lv' := [(4, .ref y0)]) hx hb dX0_apply_21 hl (by decide) rfl (fun ls hl => ?_)
    refine lv_iconst (v := 3) hx hb dX0_apply_23 (by decide) ?_
    exact x_iret X hr hlk hM hS (w_fin hB) dX0_apply_24 ⟨_, rfl, hp⟩
  refine lv_aload_n hx hb dX0_apply_0 rfl (lv_at hl 3 rfl) ?_
  refine lv_iconst (v := 0) hx hb dX0_apply_1 (by decide) ?_
  refine lv_aload_n hx hb dX0_apply_2 rfl (lv_at hl 0 rfl) ?_
  refine lv_iload_n hx hb dX0_apply_3 rfl (lv_at hl 1 rfl) ?_
  refine lv_iload_n hx hb dX0_apply_4 rfl (lv_at hl 2 rfl) ?_
  obtain ⟨hrec, hp⟩ := hp
  obtain ⟨c2, hc1, hp⟩ := hp
  refine x_callI (vx_runVX (As := [.int p2, .int p3]) (rest := [.int (0 : Int32), .ref p4]) X (P_X1_apply_ok (l := l) hl0 hp) (vx_cwVW 2 hts (lw_VW q2626 q2627 q2628 q148 q2629) rfl rfl rfl (by decide +kernel) ⟨Nat.le_of_ble_eq_true rfl, Nat.le_of_ble_eq_true rfl⟩) ⟨wPc.blind, w_recv hC.1 hM (ci := 0) (q := (RX1, TX1, 8)) rfl hrec, w_pre hC hM hS _⟩ rfl rfl hl.1 rfl (lv_room (Nat.le_of_ble_eq_true rfl)) dX0_apply_5 (w_room hB hc1)) hS hB hc1 (fun E ce q5 M6 H locs hp hM hS hB hcell hcv hcl => ?_) (fun v3 M1 H locs hp hM hS hB => ?_)
  · rcases hp with ⟨rfl, hp⟩ | ⟨rfl, hp⟩ | ⟨rfl, hp⟩
    · refine vx_catch (own := "ParkingOfficeLaw") (name := "java/lang/IllegalArgumentException") (E := "java/lang/IllegalArgumentException") hown [⟨0, 10, 13, 13⟩] ⟨0, 10, 17, 25⟩ [⟨0, 10, 21, 71⟩] (by rw [htab]; rfl) (List.forall_mem_cons.mpr ⟨(Or.inr ⟨by decide, "java/lang/IndexOutOfBoundsException", hts _ q2176, hC.1.2.2.2.2.2.1 ("java/lang/IllegalArgumentException", "java/lang/IndexOutOfBoundsException") (List.mem_of_getElem? (i := 7) rfl)⟩), (fun _ h => absurd h List.not_mem_nil)⟩) (by decide) (by decide) (hts _ q2317) (va_Nw.use rfl (hC.1.2.2.1 _ q806 rfl)) hcell hcv hcl ?_
      exact hB17 _ _ _ _ _ _ _ _ hp hM hS hB (lv_sub hl [] rfl)
    · refine vx_catch (own := "ParkingOfficeLaw") (name := "java/lang/IllegalStateException") (E := "java/lang/IllegalStateException") hown [⟨0, 10, 13, 13⟩, ⟨0, 10, 17, 25⟩] ⟨0, 10, 21, 71⟩ [] (by rw [htab]; rfl) (List.forall_mem_cons.mpr ⟨(Or.inr ⟨by decide, "java/lang/IndexOutOfBoundsException", hts _ q2176, hC.1.2.2.2.2.2.1 ("java/lang/IllegalStateException", "java/lang/IndexOutOfBoundsException") (List.mem_of_getElem? (i := 14) rfl)⟩), (List.forall_mem_cons.mpr ⟨(Or.inr ⟨by decide, "java/lang/IllegalArgumentException", hts _ q2317, hC.1.2.2.2.2.2.1 ("java/lang/IllegalStateException", "java/lang/IllegalArgumentException") (List.mem_of_getElem? (i := 15) rfl)⟩), (fun _ h => absurd h List.not_mem_nil)⟩)⟩) (by decide) (by decide) (hts _ q2625) (va_Nw.use rfl (hC.1.2.2.1 _ q2578 rfl)) hcell hcv hcl ?_
      exact hB21 _ _ _ _ _ _ _ _ hp hM hS hB (lv_sub hl [] rfl)
    · refine vx_catch (own := "ParkingOfficeLaw") (name := "java/lang/IndexOutOfBoundsException") (E := "java/lang/IndexOutOfBoundsException") hown [] ⟨0, 10, 13, 13⟩ [⟨0, 10, 17, 25⟩, ⟨0, 10, 21, 71⟩] (by rw [htab]; rfl) (fun _ h => absurd h List.not_mem_nil) (by decide) (by decide) (hts _ q2176) (va_Nw.use rfl (hC.1.2.2.1 _ q550 rfl)) hcell hcv hcl ?_
      exact hB13 _ _ _ _ _ _ _ _ hp hM hS hB (lv_sub hl [] rfl)
  · refine lv_i2l (v := v3.toInt64) hx hb dX0_apply_8 rfl ?_
    refine x_last X hC.1 hM hS dX0_apply_9 hp (fun M4 H locs hM hS hp => ?_)
    refine lv_goto (tgt := 25) hx hb dX0_apply_10 (by decide) ?_
    refine lv_iconst (v := 0) hx hb dX0_apply_25 (by decide) ?_
    exact x_iret X hr hlk hM hS (w_fin hB) dX0_apply_26 ⟨_, rfl, hp⟩
def B_X0_bestInspection_13 (G : wG) (Q : Int32 → wM → Prop) (y0 : Nat) (M : wM) (bq : Nat) : Prop :=
  Q (1 : Int32) M
def B_X0_bestInspection_17 (G : wG) (Q : Int32 → wM → Prop) (y0 : Nat) (M : wM) (bq : Nat) : Prop :=
  Q (2 : Int32) M
def P_X0_bestInspection (G : wG) (p1 : Nat) (p2 : Int32) (p3 : Int32) (p4 : Nat) (b : Nat) (M : wM) (Q : Int32 → wM → Prop) : Prop :=
  oIs M p1 0 (∃ c2, c2 ≤ b ∧ P_X1_bestInspection G p1 p2 p3 c2 M (fun v3 M1 => oLast G M1 p4 (0 : Int32) (v3.toInt64) (fun M4 => Q (0 : Int32) M4)) (fun E q5 M6 => (E = "java/lang/IllegalArgumentException" ∧ (B_X0_bestInspection_17 G Q q5 M6 (b - c2))) ∨ (E = "java/lang/IndexOutOfBoundsException" ∧ (B_X0_bestInspection_13 G Q q5 M6 (b - c2)))))
set_option maxHeartbeats 4000000 in
set_option maxRecDepth 100000 in
theorem P_X0_bestInspection_ok {l : Launch} (hl0 : l.stackTraces = false) {G : wG} {p1 : Nat} {p2 : Int32} {p3 : Int32} {p4 : Nat} {b : Nat} {M : wM} {Q : Int32 → wM → Prop} (hp : P_X0_bestInspection G p1 p2 p3 p4 b M Q) : wMet l yX0_bestInspection (wsW_ yX0_bestInspection cX0_bestInspection 5 (Option.some Jvm.ClassFile.FieldType.int) [((0 : Nat), (10 : Nat), (13 : Nat), (13 : Nat)), ((0 : Nat), (10 : Nat), (17 : Nat), (25 : Nat))]) 23 651 G [.ref p1, .int p2, .int p3, .ref p4] M b (wqI Q) wX0 := by
  refine vx_ofWH (cc := cX0_bestInspection) (maxL := 5) (ret := Option.some Jvm.ClassFile.FieldType.int) (hh := [((0 : Nat), (10 : Nat), (13 : Nat), (13 : Nat)), ((0 : Nat), (10 : Nat), (17 : Nat), (25 : Nat))]) (by decide) rfl ?_
  intro p e s m args below meth c s₁ B hml hv
  obtain ⟨rfl, hM, hK, hZ, hz⟩ := hv
  have hC : wC G s := ⟨hK, hZ, hz⟩
  have hx := B.exec
  have hb := B.bytes
  have hr := B.returns
  have hts := atoms_spec (ws := (wsW_ yX0_bestInspection cX0_bestInspection 5 (Option.some Jvm.ClassFile.FieldType.int) [((0 : Nat), (10 : Nat), (13 : Nat), (13 : Nat)), ((0 : Nat), (10 : Nat), (17 : Nat), (25 : Nat))])) B.pre
  have htab := vx_table (x := yX0_bestInspection) B (hts _ List.mem_cons_self)
  have hts : ∀ w ∈ lw_all, w.before _ s = true := fun w h => hts w (List.mem_cons_of_mem _ h)
  have hown : s.vm.findClass RX0 = some m.cls := findClass_of_methodNamed B.named
  have hlk := B.notSynchronized
  have X : CallFix p m c cX0_bestInspection 5 s ([.ref p1, .int p2, .int p3, .ref p4] : List Value).toArray lw_all RX0 := ⟨hx, hb, hml, hown, hts⟩
  have hS : va_S (wA G) s.heap s.heap [] := va_S.rf
  have hl := lv_entry ([.ref p1, .int p2, .int p3, .ref p4]) (n := 5) (Nat.le_of_ble_eq_true rfl)
  rw [lg_entry_eq]
  generalize (lg_sl ([.ref p1, .int p2, .int p3, .ref p4]) ++ List.replicate (5 - (lg_sl ([.ref p1, .int p2, .int p3, .ref p4])).length) Slot.unset).toArray = ls at hl ⊢
  have hl : lv_has ls 5 [(0, .ref p1), (1, .int p2), (2, .int p3), (3, .ref p4)] := hl
  have hB : 0 + b ≤ ((headSpec (wsW_ yX0_bestInspection cX0_bestInspection 5 (Option.some Jvm.ClassFile.FieldType.int) [((0 : Nat), (10 : Nat), (13 : Nat), (13 : Nat)), ((0 : Nat), (10 : Nat), (17 : Nat), (25 : Nat))]) ({ frames := 23, cells := b, slots := b, locals := 651 })).room).cells ∧ 0 + b ≤ ((headSpec (wsW_ yX0_bestInspection cX0_bestInspection 5 (Option.some Jvm.ClassFile.FieldType.int) [((0 : Nat), (10 : Nat), (13 : Nat), (13 : Nat)), ((0 : Nat), (10 : Nat), (17 : Nat), (25 : Nat))]) ({ frames := 23, cells := b, slots := b, locals := 651 })).room).slots := ⟨Nat.le_of_eq (Nat.zero_add b), Nat.le_of_eq (Nat.zero_add b)⟩
  have hB13 : ∀ (y0 : Nat) (M : wM) (bq : Nat) (H : Heap) (locs : List Loc) (ls : Array Slot) (cells slots : Nat), B_X0_bestInspection_13 G Q y0 M bq → wR G M H → va_S (wA G) s.heap H locs → (cells + bq ≤ ((headSpec (wsW_ yX0_bestInspection cX0_bestInspection 5 (Option.some Jvm.ClassFile.FieldType.int) [((0 : Nat), (10 : Nat), (13 : Nat), (13 : Nat)), ((0 : Nat), (10 : Nat), (17 : Nat), (25 : Nat))]) ({ frames := 23, cells := b, slots := b, locals := 651 })).room).cells ∧ slots + bq ≤ ((headSpec (wsW_ yX0_bestInspection cX0_bestInspection 5 (Option.some Jvm.ClassFile.FieldType.int) [((0 : Nat), (10 : Nat), (13 : Nat), (13 : Nat)), ((0 : Nat), (10 : Nat), (17 : Nat), (25 : Nat))]) ({ frames := 23, cells := b, slots := b, locals := 651 })).room).slots) → lv_has ls 5 [] → W p l e (headSpec (wsW_ yX0_bestInspection cX0_bestInspection 5 (Option.some Jvm.ClassFile.FieldType.int) [((0 : Nat), (10 : Nat), (13 : Nat), (13 : Nat)), ((0 : Nat), (10 : Nat), (17 : Nat), (25 : Nat))]) ({ frames := 23, cells := b, slots := b, locals := 651 })).room s m ([.ref p1, .int p2, .int p3, .ref p4] : List Value).toArray below meth c H locs cells slots (vx_MQ below (wQ G (wqI Q)) (wXC G wX0) ([.ref p1, .int p2, .int p3, .ref p4] : List Value).toArray s b b (wA G)) (F0 m 13 ls [.ref y0]) := by
    intro y0 M bq H locs ls cells slots hp hM hS hB hl
    refine lv_astore (lv' := [(4, .ref y0)]) hx hb dX0_bestInspection_13 hl (by decide) rfl (fun ls hl => ?_)
    refine lv_iconst (v := 1) hx hb dX0_bestInspection_15 (by decide) ?_
    exact x_iret X hr hlk hM hS (w_fin hB) dX0_bestInspection_16 ⟨_, rfl, hp⟩
  have hB17 : ∀ (y0 : Nat) (M : wM) (bq : Nat) (H : Heap) (locs : List Loc) (ls : Array Slot) (cells slots : Nat), B_X0_bestInspection_17 G Q y0 M bq → wR G M H → va_S (wA G) s.heap H locs → (cells + bq ≤ ((headSpec (wsW_ yX0_bestInspection cX0_bestInspection 5 (Option.some Jvm.ClassFile.FieldType.int) [((0 : Nat), (10 : Nat), (13 : Nat), (13 : Nat)), ((0 : Nat), (10 : Nat), (17 : Nat), (25 : Nat))]) ({ frames := 23, cells := b, slots := b, locals := 651 })).room).cells ∧ slots + bq ≤ ((headSpec (wsW_ yX0_bestInspection cX0_bestInspection 5 (Option.some Jvm.ClassFile.FieldType.int) [((0 : Nat), (10 : Nat), (13 : Nat), (13 : Nat)), ((0 : Nat), (10 : Nat), (17 : Nat), (25 : Nat))]) ({ frames := 23, cells := b, slots := b, locals := 651 })).room).slots) → lv_has ls 5 [] → W p l e (headSpec (wsW_ yX0_bestInspection cX0_bestInspection 5 (Option.some Jvm.ClassFile.FieldType.int) [((0 : Nat), (10 : Nat), (13 : Nat), (13 : Nat)), ((0 : Nat), (10 : Nat), (17 : Nat), (25 : Nat))]) ({ frames := 23, cells := b, slots := b, locals := 651 })).room s m ([.ref p1, .int p2, .int p3, .ref p4] : List Value).toArray below meth c H locs cells slots (vx_MQ below (wQ G (wqI Q)) (wXC G wX0) ([.ref p1, .int p2, .int p3, .ref p4] : List Value).toArray s b b (wA G)) (F0 m 17 ls [.ref y0]) := by
    intro y0 M bq H locs ls cells slots hp hM hS hB hl
    refine lv_astore (lv' := [(4, .ref y0)]) hx hb dX0_bestInspection_17 hl (by decide) rfl (fun ls hl => ?_)
    refine lv_iconst (v := 2) hx hb dX0_bestInspection_19 (by decide) ?_
    exact x_iret X hr hlk hM hS (w_fin hB) dX0_bestInspection_20 ⟨_, rfl, hp⟩
  refine lv_aload_n hx hb dX0_bestInspection_0 rfl (lv_at hl 3 rfl) ?_
  refine lv_iconst (v := 0) hx hb dX0_bestInspection_1 (by decide) ?_
  refine lv_aload_n hx hb dX0_bestInspection_2 rfl (lv_at hl 0 rfl) ?_
  refine lv_iload_n hx hb dX0_bestInspection_3 rfl (lv_at hl 1 rfl) ?_
  refine lv_iload_n hx hb dX0_bestInspection_4 rfl (lv_at hl 2 rfl) ?_
  obtain ⟨hrec, hp⟩ := hp
  obtain ⟨c2, hc1, hp⟩ := hp
  refine x_callI (vx_runV (As := [.int p2, .int p3]) (rest := [.int (0 : Int32), .ref p4]) X (P_X1_bestInspection_ok (l := l) hl0 hp) (cwV 2 hts (lw_V q3036 q3037 q3038 q148 q3039) rfl rfl rfl (by decide +kernel) ⟨Nat.le_of_ble_eq_true rfl, Nat.le_of_ble_eq_true rfl⟩) ⟨wPc.blind, w_recv hC.1 hM (ci := 0) (q := (RX1, TX1, 8)) rfl hrec, w_pre hC hM hS _⟩ rfl rfl hl.1 rfl (lv_room (Nat.le_of_ble_eq_true rfl)) dX0_bestInspection_5 (w_room hB hc1)) hS hB hc1 (fun E ce q5 M6 H locs hp hM hS hB hcell hcv hcl => ?_) (fun v3 M1 H locs hp hM hS hB => ?_)
  · rcases hp with ⟨rfl, hp⟩ | ⟨rfl, hp⟩
    · refine vx_catch (own := "ParkingOfficeLaw") (name := "java/lang/IllegalArgumentException") (E := "java/lang/IllegalArgumentException") hown [⟨0, 10, 13, 13⟩] ⟨0, 10, 17, 25⟩ [] (by rw [htab]; rfl) (List.forall_mem_cons.mpr ⟨(Or.inr ⟨by decide, "java/lang/IndexOutOfBoundsException", hts _ q2176, hC.1.2.2.2.2.2.1 ("java/lang/IllegalArgumentException", "java/lang/IndexOutOfBoundsException") (List.mem_of_getElem? (i := 7) rfl)⟩), (fun _ h => absurd h List.not_mem_nil)⟩) (by decide) (by decide) (hts _ q2317) (va_Nw.use rfl (hC.1.2.2.1 _ q806 rfl)) hcell hcv hcl ?_
      exact hB17 _ _ _ _ _ _ _ _ hp hM hS hB (lv_sub hl [] rfl)
    · refine vx_catch (own := "ParkingOfficeLaw") (name := "java/lang/IndexOutOfBoundsException") (E := "java/lang/IndexOutOfBoundsException") hown [] ⟨0, 10, 13, 13⟩ [⟨0, 10, 17, 25⟩] (by rw [htab]; rfl) (fun _ h => absurd h List.not_mem_nil) (by decide) (by decide) (hts _ q2176) (va_Nw.use rfl (hC.1.2.2.1 _ q550 rfl)) hcell hcv hcl ?_
      exact hB13 _ _ _ _ _ _ _ _ hp hM hS hB (lv_sub hl [] rfl)
  · refine lv_i2l (v := v3.toInt64) hx hb dX0_bestInspection_8 rfl ?_
    refine x_last X hC.1 hM hS dX0_bestInspection_9 hp (fun M4 H locs hM hS hp => ?_)
    refine lv_goto (tgt := 21) hx hb dX0_bestInspection_10 (by decide) ?_
    refine lv_iconst (v := 0) hx hb dX0_bestInspection_21 (by decide) ?_
    exact x_iret X hr hlk hM hS (w_fin hB) dX0_bestInspection_22 ⟨_, rfl, hp⟩
def B_X0_bestStreet_12 (G : wG) (Q : Int32 → wM → Prop) (y0 : Nat) (M : wM) (bq : Nat) : Prop :=
  Q (1 : Int32) M
def P_X0_bestStreet (G : wG) (p1 : Nat) (p2 : Int32) (p3 : Nat) (b : Nat) (M : wM) (Q : Int32 → wM → Prop) : Prop :=
  oIs M p1 0 (∃ c2, c2 ≤ b ∧ P_X1_bestStreet G p1 p2 c2 M (fun v3 M1 => oLast G M1 p3 (0 : Int32) (v3.toInt64) (fun M4 => Q (0 : Int32) M4)) (fun E q5 M6 => (E = "java/lang/IllegalArgumentException" ∧ (B_X0_bestStreet_12 G Q q5 M6 (b - c2)))))
set_option maxHeartbeats 4000000 in
set_option maxRecDepth 100000 in
theorem P_X0_bestStreet_ok {l : Launch} (hl0 : l.stackTraces = false) {G : wG} {p1 : Nat} {p2 : Int32} {p3 : Nat} {b : Nat} {M : wM} {Q : Int32 → wM → Prop} (hp : P_X0_bestStreet G p1 p2 p3 b M Q) : wMet l yX0_bestStreet (wsW_ yX0_bestStreet cX0_bestStreet 4 (Option.some Jvm.ClassFile.FieldType.int) [((0 : Nat), (9 : Nat), (12 : Nat), (25 : Nat))]) 20 578 G [.ref p1, .int p2, .ref p3] M b (wqI Q) wX0 := by
  refine vx_ofWH (cc := cX0_bestStreet) (maxL := 4) (ret := Option.some Jvm.ClassFile.FieldType.int) (hh := [((0 : Nat), (9 : Nat), (12 : Nat), (25 : Nat))]) (by decide) rfl ?_
  intro p e s m args below meth c s₁ B hml hv
  obtain ⟨rfl, hM, hK, hZ, hz⟩ := hv
  have hC : wC G s := ⟨hK, hZ, hz⟩
  have hx := B.exec
  have hb := B.bytes
  have hr := B.returns
  have hts := atoms_spec (ws := (wsW_ yX0_bestStreet cX0_bestStreet 4 (Option.some Jvm.ClassFile.FieldType.int) [((0 : Nat), (9 : Nat), (12 : Nat), (25 : Nat))])) B.pre
  have htab := vx_table (x := yX0_bestStreet) B (hts _ List.mem_cons_self)
  have hts : ∀ w ∈ lw_all, w.before _ s = true := fun w h => hts w (List.mem_cons_of_mem _ h)
  have hown : s.vm.findClass RX0 = some m.cls := findClass_of_methodNamed B.named
  have hlk := B.notSynchronized
  have X : CallFix p m c cX0_bestStreet 4 s ([.ref p1, .int p2, .ref p3] : List Value).toArray lw_all RX0 := ⟨hx, hb, hml, hown, hts⟩
  have hS : va_S (wA G) s.heap s.heap [] := va_S.rf
  have hl := lv_entry ([.ref p1, .int p2, .ref p3]) (n := 4) (Nat.le_of_ble_eq_true rfl)
  rw [lg_entry_eq]
  generalize (lg_sl ([.ref p1, .int p2, .ref p3]) ++ List.replicate (4 - (lg_sl ([.ref p1, .int p2, .ref p3])).length) Slot.unset).toArray = ls at hl ⊢
  have hl : lv_has ls 4 [(0, .ref p1), (1, .int p2), (2, .ref p3)] := hl
  have hB : 0 + b ≤ ((headSpec (wsW_ yX0_bestStreet cX0_bestStreet 4 (Option.some Jvm.ClassFile.FieldType.int) [((0 : Nat), (9 : Nat), (12 : Nat), (25 : Nat))]) ({ frames := 20, cells := b, slots := b, locals := 578 })).room).cells ∧ 0 + b ≤ ((headSpec (wsW_ yX0_bestStreet cX0_bestStreet 4 (Option.some Jvm.ClassFile.FieldType.int) [((0 : Nat), (9 : Nat), (12 : Nat), (25 : Nat))]) ({ frames := 20, cells := b, slots := b, locals := 578 })).room).slots := ⟨Nat.le_of_eq (Nat.zero_add b), Nat.le_of_eq (Nat.zero_add b)⟩
  have hB12 : ∀ (y0 : Nat) (M : wM) (bq : Nat) (H : Heap) (locs : List Loc) (ls : Array Slot) (cells slots : Nat), B_X0_bestStreet_12 G Q y0 M bq → wR G M H → va_S (wA G) s.heap H locs → (cells + bq ≤ ((headSpec (wsW_ yX0_bestStreet cX0_bestStreet 4 (Option.some Jvm.ClassFile.FieldType.int) [((0 : Nat), (9 : Nat), (12 : Nat), (25 : Nat))]) ({ frames := 20, cells := b, slots := b, locals := 578 })).room).cells ∧ slots + bq ≤ ((headSpec (wsW_ yX0_bestStreet cX0_bestStreet 4 (Option.some Jvm.ClassFile.FieldType.int) [((0 : Nat), (9 : Nat), (12 : Nat), (25 : Nat))]) ({ frames := 20, cells := b, slots := b, locals := 578 })).room).slots) → lv_has ls 4 [] → W p l e (headSpec (wsW_ yX0_bestStreet cX0_bestStreet 4 (Option.some Jvm.ClassFile.FieldType.int) [((0 : Nat), (9 : Nat), (12 : Nat), (25 : Nat))]) ({ frames := 20, cells := b, slots := b, locals := 578 })).room s m ([.ref p1, .int p2, .ref p3] : List Value).toArray below meth c H locs cells slots (vx_MQ below (wQ G (wqI Q)) (wXC G wX0) ([.ref p1, .int p2, .ref p3] : List Value).toArray s b b (wA G)) (F0 m 12 ls [.ref y0]) := by
    intro y0 M bq H locs ls cells slots hp hM hS hB hl
    refine lv_astore_n (lv' := [(3, .ref y0)]) hx hb dX0_bestStreet_12 rfl hl (by decide) rfl (fun ls hl => ?_)
    refine lv_iconst (v := 1) hx hb dX0_bestStreet_13 (by decide) ?_
    exact x_iret X hr hlk hM hS (w_fin hB) dX0_bestStreet_14 ⟨_, rfl, hp⟩
  refine lv_aload_n hx hb dX0_bestStreet_0 rfl (lv_at hl 2 rfl) ?_
  refine lv_iconst (v := 0) hx hb dX0_bestStreet_1 (by decide) ?_
  refine lv_aload_n hx hb dX0_bestStreet_2 rfl (lv_at hl 0 rfl) ?_
  refine lv_iload_n hx hb dX0_bestStreet_3 rfl (lv_at hl 1 rfl) ?_
  obtain ⟨hrec, hp⟩ := hp
  obtain ⟨c2, hc1, hp⟩ := hp
  refine x_callI (vx_runV (As := [.int p2]) (rest := [.int (0 : Int32), .ref p3]) X (P_X1_bestStreet_ok (l := l) hl0 hp) (cwV 1 hts (lw_V q2501 q2502 q2503 q148 q2504) rfl rfl rfl (by decide +kernel) ⟨Nat.le_of_ble_eq_true rfl, Nat.le_of_ble_eq_true rfl⟩) ⟨wPc.blind, w_recv hC.1 hM (ci := 0) (q := (RX1, TX1, 8)) rfl hrec, w_pre hC hM hS _⟩ rfl rfl hl.1 rfl (lv_room (Nat.le_of_ble_eq_true rfl)) dX0_bestStreet_4 (w_room hB hc1)) hS hB hc1 (fun E ce q5 M6 H locs hp hM hS hB hcell hcv hcl => ?_) (fun v3 M1 H locs hp hM hS hB => ?_)
  · obtain ⟨rfl, hp⟩ := hp
    refine vx_catch (own := "ParkingOfficeLaw") (name := "java/lang/IllegalArgumentException") (E := "java/lang/IllegalArgumentException") hown [] ⟨0, 9, 12, 25⟩ [] (by rw [htab]; rfl) (fun _ h => absurd h List.not_mem_nil) (by decide) (by decide) (hts _ q2317) (va_Nw.use rfl (hC.1.2.2.1 _ q806 rfl)) hcell hcv hcl ?_
    exact hB12 _ _ _ _ _ _ _ _ hp hM hS hB (lv_sub hl [] rfl)
  · refine lv_i2l (v := v3.toInt64) hx hb dX0_bestStreet_7 rfl ?_
    refine x_last X hC.1 hM hS dX0_bestStreet_8 hp (fun M4 H locs hM hS hp => ?_)
    refine lv_goto (tgt := 15) hx hb dX0_bestStreet_9 (by decide) ?_
    refine lv_iconst (v := 0) hx hb dX0_bestStreet_15 (by decide) ?_
    exact x_iret X hr hlk hM hS (w_fin hB) dX0_bestStreet_16 ⟨_, rfl, hp⟩
def B_X0_cancel_12 (G : wG) (Q : Int32 → wM → Prop) (y0 : Nat) (M : wM) (bq : Nat) : Prop :=
  Q (1 : Int32) M
def B_X0_cancel_15 (G : wG) (Q : Int32 → wM → Prop) (y0 : Nat) (M : wM) (bq : Nat) : Prop :=
  Q (2 : Int32) M
def P_X0_cancel (G : wG) (p1 : Nat) (p2 : Int32) (p3 : Nat) (b : Nat) (M : wM) (Q : Int32 → wM → Prop) : Prop :=
  oIs M p1 0 (∃ c2, c2 ≤ b ∧ P_X1_cancel G p1 p2 c2 M (fun v3 M1 => oLast G M1 p3 (0 : Int32) (v3.toInt64) (fun M4 => Q (0 : Int32) M4)) (fun E q5 M6 => (E = "java/lang/IllegalStateException" ∧ (B_X0_cancel_15 G Q q5 M6 (b - c2))) ∨ (E = "java/lang/IndexOutOfBoundsException" ∧ (B_X0_cancel_12 G Q q5 M6 (b - c2)))))
set_option maxHeartbeats 4000000 in
set_option maxRecDepth 100000 in
theorem P_X0_cancel_ok {l : Launch} (hl0 : l.stackTraces = false) {G : wG} {p1 : Nat} {p2 : Int32} {p3 : Nat} {b : Nat} {M : wM} {Q : Int32 → wM → Prop} (hp : P_X0_cancel G p1 p2 p3 b M Q) : wMet l yX0_cancel (wsW_ yX0_cancel cX0_cancel 4 (Option.some Jvm.ClassFile.FieldType.int) [((0 : Nat), (9 : Nat), (12 : Nat), (13 : Nat)), ((0 : Nat), (9 : Nat), (15 : Nat), (71 : Nat))]) 21 597 G [.ref p1, .int p2, .ref p3] M b (wqI Q) wX0 := by
  refine vx_ofWH (cc := cX0_cancel) (maxL := 4) (ret := Option.some Jvm.ClassFile.FieldType.int) (hh := [((0 : Nat), (9 : Nat), (12 : Nat), (13 : Nat)), ((0 : Nat), (9 : Nat), (15 : Nat), (71 : Nat))]) (by decide) rfl ?_
  intro p e s m args below meth c s₁ B hml hv
  obtain ⟨rfl, hM, hK, hZ, hz⟩ := hv
  have hC : wC G s := ⟨hK, hZ, hz⟩
  have hx := B.exec
  have hb := B.bytes
  have hr := B.returns
  have hts := atoms_spec (ws := (wsW_ yX0_cancel cX0_cancel 4 (Option.some Jvm.ClassFile.FieldType.int) [((0 : Nat), (9 : Nat), (12 : Nat), (13 : Nat)), ((0 : Nat), (9 : Nat), (15 : Nat), (71 : Nat))])) B.pre
  have htab := vx_table (x := yX0_cancel) B (hts _ List.mem_cons_self)
  have hts : ∀ w ∈ lw_all, w.before _ s = true := fun w h => hts w (List.mem_cons_of_mem _ h)
  have hown : s.vm.findClass RX0 = some m.cls := findClass_of_methodNamed B.named
  have hlk := B.notSynchronized
  have X : CallFix p m c cX0_cancel 4 s ([.ref p1, .int p2, .ref p3] : List Value).toArray lw_all RX0 := ⟨hx, hb, hml, hown, hts⟩
  have hS : va_S (wA G) s.heap s.heap [] := va_S.rf
  have hl := lv_entry ([.ref p1, .int p2, .ref p3]) (n := 4) (Nat.le_of_ble_eq_true rfl)
  rw [lg_entry_eq]
  generalize (lg_sl ([.ref p1, .int p2, .ref p3]) ++ List.replicate (4 - (lg_sl ([.ref p1, .int p2, .ref p3])).length) Slot.unset).toArray = ls at hl ⊢
  have hl : lv_has ls 4 [(0, .ref p1), (1, .int p2), (2, .ref p3)] := hl
  have hB : 0 + b ≤ ((headSpec (wsW_ yX0_cancel cX0_cancel 4 (Option.some Jvm.ClassFile.FieldType.int) [((0 : Nat), (9 : Nat), (12 : Nat), (13 : Nat)), ((0 : Nat), (9 : Nat), (15 : Nat), (71 : Nat))]) ({ frames := 21, cells := b, slots := b, locals := 597 })).room).cells ∧ 0 + b ≤ ((headSpec (wsW_ yX0_cancel cX0_cancel 4 (Option.some Jvm.ClassFile.FieldType.int) [((0 : Nat), (9 : Nat), (12 : Nat), (13 : Nat)), ((0 : Nat), (9 : Nat), (15 : Nat), (71 : Nat))]) ({ frames := 21, cells := b, slots := b, locals := 597 })).room).slots := ⟨Nat.le_of_eq (Nat.zero_add b), Nat.le_of_eq (Nat.zero_add b)⟩
  have hB12 : ∀ (y0 : Nat) (M : wM) (bq : Nat) (H : Heap) (locs : List Loc) (ls : Array Slot) (cells slots : Nat), B_X0_cancel_12 G Q y0 M bq → wR G M H → va_S (wA G) s.heap H locs → (cells + bq ≤ ((headSpec (wsW_ yX0_cancel cX0_cancel 4 (Option.some Jvm.ClassFile.FieldType.int) [((0 : Nat), (9 : Nat), (12 : Nat), (13 : Nat)), ((0 : Nat), (9 : Nat), (15 : Nat), (71 : Nat))]) ({ frames := 21, cells := b, slots := b, locals := 597 })).room).cells ∧ slots + bq ≤ ((headSpec (wsW_ yX0_cancel cX0_cancel 4 (Option.some Jvm.ClassFile.FieldType.int) [((0 : Nat), (9 : Nat), (12 : Nat), (13 : Nat)), ((0 : Nat), (9 : Nat), (15 : Nat), (71 : Nat))]) ({ frames := 21, cells := b, slots := b, locals := 597 })).room).slots) → lv_has ls 4 [] → W p l e (headSpec (wsW_ yX0_cancel cX0_cancel 4 (Option.some Jvm.ClassFile.FieldType.int) [((0 : Nat), (9 : Nat), (12 : Nat), (13 : Nat)), ((0 : Nat), (9 : Nat), (15 : Nat), (71 : Nat))]) ({ frames := 21, cells := b, slots := b, locals := 597 })).room s m ([.ref p1, .int p2, .ref p3] : List Value).toArray below meth c H locs cells slots (vx_MQ below (wQ G (wqI Q)) (wXC G wX0) ([.ref p1, .int p2, .ref p3] : List Value).toArray s b b (wA G)) (F0 m 12 ls [.ref y0]) := by
    intro y0 M bq H locs ls cells slots hp hM hS hB hl
    refine lv_astore_n (lv' := [(3, .ref y0)]) hx hb dX0_cancel_12 rfl hl (by decide) rfl (fun ls hl => ?_)
    refine lv_iconst (v := 1) hx hb dX0_cancel_13 (by decide) ?_
    exact x_iret X hr hlk hM hS (w_fin hB) dX0_cancel_14 ⟨_, rfl, hp⟩
  have hB15 : ∀ (y0 : Nat) (M : wM) (bq : Nat) (H : Heap) (locs : List Loc) (ls : Array Slot) (cells slots : Nat), B_X0_cancel_15 G Q y0 M bq → wR G M H → va_S (wA G) s.heap H locs → (cells + bq ≤ ((headSpec (wsW_ yX0_cancel cX0_cancel 4 (Option.some Jvm.ClassFile.FieldType.int) [((0 : Nat), (9 : Nat), (12 : Nat), (13 : Nat)), ((0 : Nat), (9 : Nat), (15 : Nat), (71 : Nat))]) ({ frames := 21, cells := b, slots := b, locals := 597 })).room).cells ∧ slots + bq ≤ ((headSpec (wsW_ yX0_cancel cX0_cancel 4 (Option.some Jvm.ClassFile.FieldType.int) [((0 : Nat), (9 : Nat), (12 : Nat), (13 : Nat)), ((0 : Nat), (9 : Nat), (15 : Nat), (71 : Nat))]) ({ frames := 21, cells := b, slots := b, locals := 597 })).room).slots) → lv_has ls 4 [] → W p l e (headSpec (wsW_ yX0_cancel cX0_cancel 4 (Option.some Jvm.ClassFile.FieldType.int) [((0 : Nat), (9 : Nat), (12 : Nat), (13 : Nat)), ((0 : Nat), (9 : Nat), (15 : Nat), (71 : Nat))]) ({ frames := 21, cells := b, slots := b, locals := 597 })).room s m ([.ref p1, .int p2, .ref p3] : List Value).toArray below meth c H locs cells slots (vx_MQ below (wQ G (wqI Q)) (wXC G wX0) ([.ref p1, .int p2, .ref p3] : List Value).toArray s b b (wA G)) (F0 m 15 ls [.ref y0]) := by
    intro y0 M bq H locs ls cells slots hp hM hS hB hl
    refine lv_astore_n (lv' := [(3, .ref y0)]) hx hb dX0_cancel_15 rfl hl (by decide) rfl (fun ls hl => ?_)
    refine lv_iconst (v := 2) hx hb dX0_cancel_16 (by decide) ?_
    exact x_iret X hr hlk hM hS (w_fin hB) dX0_cancel_17 ⟨_, rfl, hp⟩
  refine lv_aload_n hx hb dX0_cancel_0 rfl (lv_at hl 2 rfl) ?_
  refine lv_iconst (v := 0) hx hb dX0_cancel_1 (by decide) ?_
  refine lv_aload_n hx hb dX0_cancel_2 rfl (lv_at hl 0 rfl) ?_
  refine lv_iload_n hx hb dX0_cancel_3 rfl (lv_at hl 1 rfl) ?_
  obtain ⟨hrec, hp⟩ := hp
  obtain ⟨c2, hc1, hp⟩ := hp
  refine x_callI (vx_runV (As := [.int p2]) (rest := [.int (0 : Int32), .ref p3]) X (P_X1_cancel_ok (l := l) hl0 hp) (cwV 1 hts (lw_V q2703 q2704 q2705 q148 q2706) rfl rfl rfl (by decide +kernel) ⟨Nat.le_of_ble_eq_true rfl, Nat.le_of_ble_eq_true rfl⟩) ⟨wPc.blind, w_recv hC.1 hM (ci := 0) (q := (RX1, TX1, 8)) rfl hrec, w_pre hC hM hS _⟩ rfl rfl hl.1 rfl (lv_room (Nat.le_of_ble_eq_true rfl)) dX0_cancel_4 (w_room hB hc1)) hS hB hc1 (fun E ce q5 M6 H locs hp hM hS hB hcell hcv hcl => ?_) (fun v3 M1 H locs hp hM hS hB => ?_)
  · rcases hp with ⟨rfl, hp⟩ | ⟨rfl, hp⟩
    · refine vx_catch (own := "ParkingOfficeLaw") (name := "java/lang/IllegalStateException") (E := "java/lang/IllegalStateException") hown [⟨0, 9, 12, 13⟩] ⟨0, 9, 15, 71⟩ [] (by rw [htab]; rfl) (List.forall_mem_cons.mpr ⟨(Or.inr ⟨by decide, "java/lang/IndexOutOfBoundsException", hts _ q2176, hC.1.2.2.2.2.2.1 ("java/lang/IllegalStateException", "java/lang/IndexOutOfBoundsException") (List.mem_of_getElem? (i := 14) rfl)⟩), (fun _ h => absurd h List.not_mem_nil)⟩) (by decide) (by decide) (hts _ q2625) (va_Nw.use rfl (hC.1.2.2.1 _ q2578 rfl)) hcell hcv hcl ?_
      exact hB15 _ _ _ _ _ _ _ _ hp hM hS hB (lv_sub hl [] rfl)
    · refine vx_catch (own := "ParkingOfficeLaw") (name := "java/lang/IndexOutOfBoundsException") (E := "java/lang/IndexOutOfBoundsException") hown [] ⟨0, 9, 12, 13⟩ [⟨0, 9, 15, 71⟩] (by rw [htab]; rfl) (fun _ h => absurd h List.not_mem_nil) (by decide) (by decide) (hts _ q2176) (va_Nw.use rfl (hC.1.2.2.1 _ q550 rfl)) hcell hcv hcl ?_
      exact hB12 _ _ _ _ _ _ _ _ hp hM hS hB (lv_sub hl [] rfl)
  · refine lv_i2l (v := v3.toInt64) hx hb dX0_cancel_7 rfl ?_
    refine x_last X hC.1 hM hS dX0_cancel_8 hp (fun M4 H locs hM hS hp => ?_)
    refine lv_goto (tgt := 18) hx hb dX0_cancel_9 (by decide) ?_
    refine lv_iconst (v := 0) hx hb dX0_cancel_18 (by decide) ?_
    exact x_iret X hr hlk hM hS (w_fin hB) dX0_cancel_19 ⟨_, rfl, hp⟩
def B_X0_car_13 (G : wG) (Q : Int32 → wM → Prop) (y0 : Nat) (M : wM) (bq : Nat) : Prop :=
  Q (1 : Int32) M
def B_X0_car_17 (G : wG) (Q : Int32 → wM → Prop) (y0 : Nat) (M : wM) (bq : Nat) : Prop :=
  Q (2 : Int32) M
def P_X0_car (G : wG) (p1 : Nat) (p2 : Int32) (p3 : Int32) (p4 : Nat) (b : Nat) (M : wM) (Q : Int32 → wM → Prop) : Prop :=
  oIs M p1 0 (∃ c2, c2 ≤ b ∧ P_X1_car G p1 p2 p3 c2 M (fun v3 M1 => oLast G M1 p4 (0 : Int32) (v3.toInt64) (fun M4 => Q (0 : Int32) M4)) (fun E q5 M6 => (E = "java/lang/IndexOutOfBoundsException" ∧ (B_X0_car_13 G Q q5 M6 (b - c2))) ∨ (E = "java/util/NoSuchElementException" ∧ (B_X0_car_17 G Q q5 M6 (b - c2)))))
set_option maxHeartbeats 4000000 in
set_option maxRecDepth 100000 in
theorem P_X0_car_ok {l : Launch} (hl0 : l.stackTraces = false) {G : wG} {p1 : Nat} {p2 : Int32} {p3 : Int32} {p4 : Nat} {b : Nat} {M : wM} {Q : Int32 → wM → Prop} (hp : P_X0_car G p1 p2 p3 p4 b M Q) : wMet l yX0_car (wsW_ yX0_car cX0_car 5 (Option.some Jvm.ClassFile.FieldType.int) [((0 : Nat), (10 : Nat), (13 : Nat), (13 : Nat)), ((0 : Nat), (10 : Nat), (17 : Nat), (36 : Nat))]) 18 531 G [.ref p1, .int p2, .int p3, .ref p4] M b (wqI Q) wX0 := by
  refine vx_ofWH (cc := cX0_car) (maxL := 5) (ret := Option.some Jvm.ClassFile.FieldType.int) (hh := [((0 : Nat), (10 : Nat), (13 : Nat), (13 : Nat)), ((0 : Nat), (10 : Nat), (17 : Nat), (36 : Nat))]) (by decide) rfl ?_
  intro p e s m args below meth c s₁ B hml hv
  obtain ⟨rfl, hM, hK, hZ, hz⟩ := hv
  have hC : wC G s := ⟨hK, hZ, hz⟩
  have hx := B.exec
  have hb := B.bytes
  have hr := B.returns
  have hts := atoms_spec (ws := (wsW_ yX0_car cX0_car 5 (Option.some Jvm.ClassFile.FieldType.int) [((0 : Nat), (10 : Nat), (13 : Nat), (13 : Nat)), ((0 : Nat), (10 : Nat), (17 : Nat), (36 : Nat))])) B.pre
  have htab := vx_table (x := yX0_car) B (hts _ List.mem_cons_self)
  have hts : ∀ w ∈ lw_all, w.before _ s = true := fun w h => hts w (List.mem_cons_of_mem _ h)
  have hown : s.vm.findClass RX0 = some m.cls := findClass_of_methodNamed B.named
  have hlk := B.notSynchronized
  have X : CallFix p m c cX0_car 5 s ([.ref p1, .int p2, .int p3, .ref p4] : List Value).toArray lw_all RX0 := ⟨hx, hb, hml, hown, hts⟩
  have hS : va_S (wA G) s.heap s.heap [] := va_S.rf
  have hl := lv_entry ([.ref p1, .int p2, .int p3, .ref p4]) (n := 5) (Nat.le_of_ble_eq_true rfl)
  rw [lg_entry_eq]
  generalize (lg_sl ([.ref p1, .int p2, .int p3, .ref p4]) ++ List.replicate (5 - (lg_sl ([.ref p1, .int p2, .int p3, .ref p4])).length) Slot.unset).toArray = ls at hl ⊢
  have hl : lv_has ls 5 [(0, .ref p1), (1, .int p2), (2, .int p3), (3, .ref p4)] := hl
  have hB : 0 + b ≤ ((headSpec (wsW_ yX0_car cX0_car 5 (Option.some Jvm.ClassFile.FieldType.int) [((0 : Nat), (10 : Nat), (13 : Nat), (13 : Nat)), ((0 : Nat), (10 : Nat), (17 : Nat), (36 : Nat))]) ({ frames := 18, cells := b, slots := b, locals := 531 })).room).cells ∧ 0 + b ≤ ((headSpec (wsW_ yX0_car cX0_car 5 (Option.some Jvm.ClassFile.FieldType.int) [((0 : Nat), (10 : Nat), (13 : Nat), (13 : Nat)), ((0 : Nat), (10 : Nat), (17 : Nat), (36 : Nat))]) ({ frames := 18, cells := b, slots := b, locals := 531 })).room).slots := ⟨Nat.le_of_eq (Nat.zero_add b), Nat.le_of_eq (Nat.zero_add b)⟩
  have hB13 : ∀ (y0 : Nat) (M : wM) (bq : Nat) (H : Heap) (locs : List Loc) (ls : Array Slot) (cells slots : Nat), B_X0_car_13 G Q y0 M bq → wR G M H → va_S (wA G) s.heap H locs → (cells + bq ≤ ((headSpec (wsW_ yX0_car cX0_car 5 (Option.some Jvm.ClassFile.FieldType.int) [((0 : Nat), (10 : Nat), (13 : Nat), (13 : Nat)), ((0 : Nat), (10 : Nat), (17 : Nat), (36 : Nat))]) ({ frames := 18, cells := b, slots := b, locals := 531 })).room).cells ∧ slots + bq ≤ ((headSpec (wsW_ yX0_car cX0_car 5 (Option.some Jvm.ClassFile.FieldType.int) [((0 : Nat), (10 : Nat), (13 : Nat), (13 : Nat)), ((0 : Nat), (10 : Nat), (17 : Nat), (36 : Nat))]) ({ frames := 18, cells := b, slots := b, locals := 531 })).room).slots) → lv_has ls 5 [] → W p l e (headSpec (wsW_ yX0_car cX0_car 5 (Option.some Jvm.ClassFile.FieldType.int) [((0 : Nat), (10 : Nat), (13 : Nat), (13 : Nat)), ((0 : Nat), (10 : Nat), (17 : Nat), (36 : Nat))]) ({ frames := 18, cells := b, slots := b, locals := 531 })).room s m ([.ref p1, .int p2, .int p3, .ref p4] : List Value).toArray below meth c H locs cells slots (vx_MQ below (wQ G (wqI Q)) (wXC G wX0) ([.ref p1, .int p2, .int p3, .ref p4] : List Value).toArray s b b (wA G)) (F0 m 13 ls [.ref y0]) := by
    intro y0 M bq H locs ls cells slots hp hM hS hB hl
    refine lv_astore (lv' := [(4, .ref y0)]) hx hb dX0_car_13 hl (by decide) rfl (fun ls hl => ?_)
    refine lv_iconst (v := 1) hx hb dX0_car_15 (by decide) ?_
    exact x_iret X hr hlk hM hS (w_fin hB) dX0_car_16 ⟨_, rfl, hp⟩
  have hB17 : ∀ (y0 : Nat) (M : wM) (bq : Nat) (H : Heap) (locs : List Loc) (ls : Array Slot) (cells slots : Nat), B_X0_car_17 G Q y0 M bq → wR G M H → va_S (wA G) s.heap H locs → (cells + bq ≤ ((headSpec (wsW_ yX0_car cX0_car 5 (Option.some Jvm.ClassFile.FieldType.int) [((0 : Nat), (10 : Nat), (13 : Nat), (13 : Nat)), ((0 : Nat), (10 : Nat), (17 : Nat), (36 : Nat))]) ({ frames := 18, cells := b, slots := b, locals := 531 })).room).cells ∧ slots + bq ≤ ((headSpec (wsW_ yX0_car cX0_car 5 (Option.some Jvm.ClassFile.FieldType.int) [((0 : Nat), (10 : Nat), (13 : Nat), (13 : Nat)), ((0 : Nat), (10 : Nat), (17 : Nat), (36 : Nat))]) ({ frames := 18, cells := b, slots := b, locals := 531 })).room).slots) → lv_has ls 5 [] → W p l e (headSpec (wsW_ yX0_car cX0_car 5 (Option.some Jvm.ClassFile.FieldType.int) [((0 : Nat), (10 : Nat), (13 : Nat), (13 : Nat)), ((0 : Nat), (10 : Nat), (17 : Nat), (36 : Nat))]) ({ frames := 18, cells := b, slots := b, locals := 531 })).room s m ([.ref p1, .int p2, .int p3, .ref p4] : List Value).toArray below meth c H locs cells slots (vx_MQ below (wQ G (wqI Q)) (wXC G wX0) ([.ref p1, .int p2, .int p3, .ref p4] : List Value).toArray s b b (wA G)) (F0 m 17 ls [.ref y0]) := by
    intro y0 M bq H locs ls cells slots hp hM hS hB hl
    refine lv_astore (lv' := [(4, .ref y0)]) hx hb dX0_car_17 hl (by decide) rfl (fun ls hl => ?_)
    refine lv_iconst (v := 2) hx hb dX0_car_19 (by decide) ?_
    exact x_iret X hr hlk hM hS (w_fin hB) dX0_car_20 ⟨_, rfl, hp⟩
  refine lv_aload_n hx hb dX0_car_0 rfl (lv_at hl 3 rfl) ?_
  refine lv_iconst (v := 0) hx hb dX0_car_1 (by decide) ?_
  refine lv_aload_n hx hb dX0_car_2 rfl (lv_at hl 0 rfl) ?_
  refine lv_iload_n hx hb dX0_car_3 rfl (lv_at hl 1 rfl) ?_
  refine lv_iload_n hx hb dX0_car_4 rfl (lv_at hl 2 rfl) ?_
  obtain ⟨hrec, hp⟩ := hp
  obtain ⟨c2, hc1, hp⟩ := hp
  refine x_callI (vx_runV (As := [.int p2, .int p3]) (rest := [.int (0 : Int32), .ref p4]) X (P_X1_car_ok (l := l) hl0 hp) (cwV 2 hts (lw_V q2438 q2439 q2440 q148 q2441) rfl rfl rfl (by decide +kernel) ⟨Nat.le_of_ble_eq_true rfl, Nat.le_of_ble_eq_true rfl⟩) ⟨wPc.blind, w_recv hC.1 hM (ci := 0) (q := (RX1, TX1, 8)) rfl hrec, w_pre hC hM hS _⟩ rfl rfl hl.1 rfl (lv_room (Nat.le_of_ble_eq_true rfl)) dX0_car_5 (w_room hB hc1)) hS hB hc1 (fun E ce q5 M6 H locs hp hM hS hB hcell hcv hcl => ?_) (fun v3 M1 H locs hp hM hS hB => ?_)
  · rcases hp with ⟨rfl, hp⟩ | ⟨rfl, hp⟩
    · refine vx_catch (own := "ParkingOfficeLaw") (name := "java/lang/IndexOutOfBoundsException") (E := "java/lang/IndexOutOfBoundsException") hown [] ⟨0, 10, 13, 13⟩ [⟨0, 10, 17, 36⟩] (by rw [htab]; rfl) (fun _ h => absurd h List.not_mem_nil) (by decide) (by decide) (hts _ q2176) (va_Nw.use rfl (hC.1.2.2.1 _ q550 rfl)) hcell hcv hcl ?_
      exact hB13 _ _ _ _ _ _ _ _ hp hM hS hB (lv_sub hl [] rfl)
    · refine vx_catch (own := "ParkingOfficeLaw") (name := "java/util/NoSuchElementException") (E := "java/util/NoSuchElementException") hown [⟨0, 10, 13, 13⟩] ⟨0, 10, 17, 36⟩ [] (by rw [htab]; rfl) (List.forall_mem_cons.mpr ⟨(Or.inr ⟨by decide, "java/lang/IndexOutOfBoundsException", hts _ q2176, hC.1.2.2.2.2.2.1 ("java/util/NoSuchElementException", "java/lang/IndexOutOfBoundsException") (List.mem_of_getElem? (i := 21) rfl)⟩), (fun _ h => absurd h List.not_mem_nil)⟩) (by decide) (by decide) (hts _ q2359) (va_Nw.use rfl (hC.1.2.2.1 _ q1844 rfl)) hcell hcv hcl ?_
      exact hB17 _ _ _ _ _ _ _ _ hp hM hS hB (lv_sub hl [] rfl)
  · refine lv_i2l (v := v3.toInt64) hx hb dX0_car_8 rfl ?_
    refine x_last X hC.1 hM hS dX0_car_9 hp (fun M4 H locs hM hS hp => ?_)
    refine lv_goto (tgt := 21) hx hb dX0_car_10 (by decide) ?_
    refine lv_iconst (v := 0) hx hb dX0_car_21 (by decide) ?_
    exact x_iret X hr hlk hM hS (w_fin hB) dX0_car_22 ⟨_, rfl, hp⟩
def B_X0_endVisit_12 (G : wG) (Q : Int32 → wM → Prop) (y0 : Nat) (M : wM) (bq : Nat) : Prop :=
  Q (1 : Int32) M
def B_X0_endVisit_15 (G : wG) (Q : Int32 → wM → Prop) (y0 : Nat) (M : wM) (bq : Nat) : Prop :=
  Q (2 : Int32) M
def P_X0_endVisit (G : wG) (p1 : Nat) (p2 : Int32) (p3 : Nat) (b : Nat) (M : wM) (Q : Int32 → wM → Prop) : Prop :=
  oIs M p1 0 (∃ c2, c2 ≤ b ∧ P_X1_endVisit G p1 p2 c2 M (fun v3 M1 => oLast G M1 p3 (0 : Int32) (v3.toInt64) (fun M4 => Q (0 : Int32) M4)) (fun E q5 M6 => (E = "java/lang/IllegalStateException" ∧ (B_X0_endVisit_15 G Q q5 M6 (b - c2))) ∨ (E = "java/lang/IndexOutOfBoundsException" ∧ (B_X0_endVisit_12 G Q q5 M6 (b - c2)))))
set_option maxHeartbeats 4000000 in
set_option maxRecDepth 100000 in
theorem P_X0_endVisit_ok {l : Launch} (hl0 : l.stackTraces = false) {G : wG} {p1 : Nat} {p2 : Int32} {p3 : Nat} {b : Nat} {M : wM} {Q : Int32 → wM → Prop} (hp : P_X0_endVisit G p1 p2 p3 b M Q) : wMet l yX0_endVisit (wsW_ yX0_endVisit cX0_endVisit 4 (Option.some Jvm.ClassFile.FieldType.int) [((0 : Nat), (9 : Nat), (12 : Nat), (13 : Nat)), ((0 : Nat), (9 : Nat), (15 : Nat), (71 : Nat))]) 21 599 G [.ref p1, .int p2, .ref p3] M b (wqI Q) wX0 := by
  refine vx_ofWH (cc := cX0_endVisit) (maxL := 4) (ret := Option.some Jvm.ClassFile.FieldType.int) (hh := [((0 : Nat), (9 : Nat), (12 : Nat), (13 : Nat)), ((0 : Nat), (9 : Nat), (15 : Nat), (71 : Nat))]) (by decide) rfl ?_
  intro p e s m args below meth c s₁ B hml hv
  obtain ⟨rfl, hM, hK, hZ, hz⟩ := hv
  have hC : wC G s := ⟨hK, hZ, hz⟩
  have hx := B.exec
  have hb := B.bytes
  have hr := B.returns
  have hts := atoms_spec (ws := (wsW_ yX0_endVisit cX0_endVisit 4 (Option.some Jvm.ClassFile.FieldType.int) [((0 : Nat), (9 : Nat), (12 : Nat), (13 : Nat)), ((0 : Nat), (9 : Nat), (15 : Nat), (71 : Nat))])) B.pre
  have htab := vx_table (x := yX0_endVisit) B (hts _ List.mem_cons_self)
  have hts : ∀ w ∈ lw_all, w.before _ s = true := fun w h => hts w (List.mem_cons_of_mem _ h)
  have hown : s.vm.findClass RX0 = some m.cls := findClass_of_methodNamed B.named
  have hlk := B.notSynchronized
  have X : CallFix p m c cX0_endVisit 4 s ([.ref p1, .int p2, .ref p3] : List Value).toArray lw_all RX0 := ⟨hx, hb, hml, hown, hts⟩
  have hS : va_S (wA G) s.heap s.heap [] := va_S.rf
  have hl := lv_entry ([.ref p1, .int p2, .ref p3]) (n := 4) (Nat.le_of_ble_eq_true rfl)
  rw [lg_entry_eq]
  generalize (lg_sl ([.ref p1, .int p2, .ref p3]) ++ List.replicate (4 - (lg_sl ([.ref p1, .int p2, .ref p3])).length) Slot.unset).toArray = ls at hl ⊢
  have hl : lv_has ls 4 [(0, .ref p1), (1, .int p2), (2, .ref p3)] := hl
  have hB : 0 + b ≤ ((headSpec (wsW_ yX0_endVisit cX0_endVisit 4 (Option.some Jvm.ClassFile.FieldType.int) [((0 : Nat), (9 : Nat), (12 : Nat), (13 : Nat)), ((0 : Nat), (9 : Nat), (15 : Nat), (71 : Nat))]) ({ frames := 21, cells := b, slots := b, locals := 599 })).room).cells ∧ 0 + b ≤ ((headSpec (wsW_ yX0_endVisit cX0_endVisit 4 (Option.some Jvm.ClassFile.FieldType.int) [((0 : Nat), (9 : Nat), (12 : Nat), (13 : Nat)), ((0 : Nat), (9 : Nat), (15 : Nat), (71 : Nat))]) ({ frames := 21, cells := b, slots := b, locals := 599 })).room).slots := ⟨Nat.le_of_eq (Nat.zero_add b), Nat.le_of_eq (Nat.zero_add b)⟩
  have hB12 : ∀ (y0 : Nat) (M : wM) (bq : Nat) (H : Heap) (locs : List Loc) (ls : Array Slot) (cells slots : Nat), B_X0_endVisit_12 G Q y0 M bq → wR G M H → va_S (wA G) s.heap H locs → (cells + bq ≤ ((headSpec (wsW_ yX0_endVisit cX0_endVisit 4 (Option.some Jvm.ClassFile.FieldType.int) [((0 : Nat), (9 : Nat), (12 : Nat), (13 : Nat)), ((0 : Nat), (9 : Nat), (15 : Nat), (71 : Nat))]) ({ frames := 21, cells := b, slots := b, locals := 599 })).room).cells ∧ slots + bq ≤ ((headSpec (wsW_ yX0_endVisit cX0_endVisit 4 (Option.some Jvm.ClassFile.FieldType.int) [((0 : Nat), (9 : Nat), (12 : Nat), (13 : Nat)), ((0 : Nat), (9 : Nat), (15 : Nat), (71 : Nat))]) ({ frames := 21, cells := b, slots := b, locals := 599 })).room).slots) → lv_has ls 4 [] → W p l e (headSpec (wsW_ yX0_endVisit cX0_endVisit 4 (Option.some Jvm.ClassFile.FieldType.int) [((0 : Nat), (9 : Nat), (12 : Nat), (13 : Nat)), ((0 : Nat), (9 : Nat), (15 : Nat), (71 : Nat))]) ({ frames := 21, cells := b, slots := b, locals := 599 })).room s m ([.ref p1, .int p2, .ref p3] : List Value).toArray below meth c H locs cells slots (vx_MQ below (wQ G (wqI Q)) (wXC G wX0) ([.ref p1, .int p2, .ref p3] : List Value).toArray s b b (wA G)) (F0 m 12 ls [.ref y0]) := by
    intro y0 M bq H locs ls cells slots hp hM hS hB hl
    refine lv_astore_n (lv' := [(3, .ref y0)]) hx hb dX0_endVisit_12 rfl hl (by decide) rfl (fun ls hl => ?_)
    refine lv_iconst (v := 1) hx hb dX0_endVisit_13 (by decide) ?_
    exact x_iret X hr hlk hM hS (w_fin hB) dX0_endVisit_14 ⟨_, rfl, hp⟩
  have hB15 : ∀ (y0 : Nat) (M : wM) (bq : Nat) (H : Heap) (locs : List Loc) (ls : Array Slot) (cells slots : Nat), B_X0_endVisit_15 G Q y0 M bq → wR G M H → va_S (wA G) s.heap H locs → (cells + bq ≤ ((headSpec (wsW_ yX0_endVisit cX0_endVisit 4 (Option.some Jvm.ClassFile.FieldType.int) [((0 : Nat), (9 : Nat), (12 : Nat), (13 : Nat)), ((0 : Nat), (9 : Nat), (15 : Nat), (71 : Nat))]) ({ frames := 21, cells := b, slots := b, locals := 599 })).room).cells ∧ slots + bq ≤ ((headSpec (wsW_ yX0_endVisit cX0_endVisit 4 (Option.some Jvm.ClassFile.FieldType.int) [((0 : Nat), (9 : Nat), (12 : Nat), (13 : Nat)), ((0 : Nat), (9 : Nat), (15 : Nat), (71 : Nat))]) ({ frames := 21, cells := b, slots := b, locals := 599 })).room).slots) → lv_has ls 4 [] → W p l e (headSpec (wsW_ yX0_endVisit cX0_endVisit 4 (Option.some Jvm.ClassFile.FieldType.int) [((0 : Nat), (9 : Nat), (12 : Nat), (13 : Nat)), ((0 : Nat), (9 : Nat), (15 : Nat), (71 : Nat))]) ({ frames := 21, cells := b, slots := b, locals := 599 })).room s m ([.ref p1, .int p2, .ref p3] : List Value).toArray below meth c H locs cells slots (vx_MQ below (wQ G (wqI Q)) (wXC G wX0) ([.ref p1, .int p2, .ref p3] : List Value).toArray s b b (wA G)) (F0 m 15 ls [.ref y0]) := by
    intro y0 M bq H locs ls cells slots hp hM hS hB hl
    refine lv_astore_n (lv' := [(3, .ref y0)]) hx hb dX0_endVisit_15 rfl hl (by decide) rfl (fun ls hl => ?_)
    refine lv_iconst (v := 2) hx hb dX0_endVisit_16 (by decide) ?_
    exact x_iret X hr hlk hM hS (w_fin hB) dX0_endVisit_17 ⟨_, rfl, hp⟩
  refine lv_aload_n hx hb dX0_endVisit_0 rfl (lv_at hl 2 rfl) ?_
  refine lv_iconst (v := 0) hx hb dX0_endVisit_1 (by decide) ?_
  refine lv_aload_n hx hb dX0_endVisit_2 rfl (lv_at hl 0 rfl) ?_
  refine lv_iload_n hx hb dX0_endVisit_3 rfl (lv_at hl 1 rfl) ?_
  obtain ⟨hrec, hp⟩ := hp
  obtain ⟨c2, hc1, hp⟩ := hp
  refine x_callI (vx_runV (As := [.int p2]) (rest := [.int (0 : Int32), .ref p3]) X (P_X1_endVisit_ok (l := l) hl0 hp) (cwV 1 hts (lw_V q2759 q2760 q2761 q148 q2762) rfl rfl rfl (by decide +kernel) ⟨Nat.le_of_ble_eq_true rfl, Nat.le_of_ble_eq_true rfl⟩) ⟨wPc.blind, w_recv hC.1 hM (ci := 0) (q := (RX1, TX1, 8)) rfl hrec, w_pre hC hM hS _⟩ rfl rfl hl.1 rfl (lv_room (Nat.le_of_ble_eq_true rfl)) dX0_endVisit_4 (w_room hB hc1)) hS hB hc1 (fun E ce q5 M6 H locs hp hM hS hB hcell hcv hcl => ?_) (fun v3 M1 H locs hp hM hS hB => ?_)
  · rcases hp with ⟨rfl, hp⟩ | ⟨rfl, hp⟩
    · refine vx_catch (own := "ParkingOfficeLaw") (name := "java/lang/IllegalStateException") (E := "java/lang/IllegalStateException") hown [⟨0, 9, 12, 13⟩] ⟨0, 9, 15, 71⟩ [] (by rw [htab]; rfl) (List.forall_mem_cons.mpr ⟨(Or.inr ⟨by decide, "java/lang/IndexOutOfBoundsException", hts _ q2176, hC.1.2.2.2.2.2.1 ("java/lang/IllegalStateException", "java/lang/IndexOutOfBoundsException") (List.mem_of_getElem? (i := 14) rfl)⟩), (fun _ h => absurd h List.not_mem_nil)⟩) (by decide) (by decide) (hts _ q2625) (va_Nw.use rfl (hC.1.2.2.1 _ q2578 rfl)) hcell hcv hcl ?_
      exact hB15 _ _ _ _ _ _ _ _ hp hM hS hB (lv_sub hl [] rfl)
    · refine vx_catch (own := "ParkingOfficeLaw") (name := "java/lang/IndexOutOfBoundsException") (E := "java/lang/IndexOutOfBoundsException") hown [] ⟨0, 9, 12, 13⟩ [⟨0, 9, 15, 71⟩] (by rw [htab]; rfl) (fun _ h => absurd h List.not_mem_nil) (by decide) (by decide) (hts _ q2176) (va_Nw.use rfl (hC.1.2.2.1 _ q550 rfl)) hcell hcv hcl ?_
      exact hB12 _ _ _ _ _ _ _ _ hp hM hS hB (lv_sub hl [] rfl)
  · refine lv_i2l (v := v3.toInt64) hx hb dX0_endVisit_7 rfl ?_
    refine x_last X hC.1 hM hS dX0_endVisit_8 hp (fun M4 H locs hM hS hp => ?_)
    refine lv_goto (tgt := 18) hx hb dX0_endVisit_9 (by decide) ?_
    refine lv_iconst (v := 0) hx hb dX0_endVisit_18 (by decide) ?_
    exact x_iret X hr hlk hM hS (w_fin hB) dX0_endVisit_19 ⟨_, rfl, hp⟩
def B_X0_enoughLimit_12 (G : wG) (Q : Int32 → wM → Prop) (y0 : Nat) (M : wM) (bq : Nat) : Prop :=
  Q (1 : Int32) M
def P_X0_enoughLimit (G : wG) (p1 : Nat) (p2 : Int32) (p3 : Nat) (b : Nat) (M : wM) (Q : Int32 → wM → Prop) : Prop :=
  oIs M p1 0 (∃ c2, c2 ≤ b ∧ P_X1_enoughLimit G p1 p2 c2 M (fun v3 M1 => oLast G M1 p3 (0 : Int32) (v3.toInt64) (fun M4 => Q (0 : Int32) M4)) (fun E q5 M6 => (E = "java/lang/IndexOutOfBoundsException" ∧ (B_X0_enoughLimit_12 G Q q5 M6 (b - c2)))))
set_option maxHeartbeats 4000000 in
set_option maxRecDepth 100000 in
theorem P_X0_enoughLimit_ok {l : Launch} (hl0 : l.stackTraces = false) {G : wG} {p1 : Nat} {p2 : Int32} {p3 : Nat} {b : Nat} {M : wM} {Q : Int32 → wM → Prop} (hp : P_X0_enoughLimit G p1 p2 p3 b M Q) : wMet l yX0_enoughLimit (wsW_ yX0_enoughLimit cX0_enoughLimit 4 (Option.some Jvm.ClassFile.FieldType.int) [((0 : Nat), (9 : Nat), (12 : Nat), (13 : Nat))]) 25 3321 G [.ref p1, .int p2, .ref p3] M b (wqI Q) wX0 := by
  refine vx_ofWH (cc := cX0_enoughLimit) (maxL := 4) (ret := Option.some Jvm.ClassFile.FieldType.int) (hh := [((0 : Nat), (9 : Nat), (12 : Nat), (13 : Nat))]) (by decide) rfl ?_
  intro p e s m args below meth c s₁ B hml hv
  obtain ⟨rfl, hM, hK, hZ, hz⟩ := hv
  have hC : wC G s := ⟨hK, hZ, hz⟩
  have hx := B.exec
  have hb := B.bytes
  have hr := B.returns
  have hts := atoms_spec (ws := (wsW_ yX0_enoughLimit cX0_enoughLimit 4 (Option.some Jvm.ClassFile.FieldType.int) [((0 : Nat), (9 : Nat), (12 : Nat), (13 : Nat))])) B.pre
  have htab := vx_table (x := yX0_enoughLimit) B (hts _ List.mem_cons_self)
  have hts : ∀ w ∈ lw_all, w.before _ s = true := fun w h => hts w (List.mem_cons_of_mem _ h)
  have hown : s.vm.findClass RX0 = some m.cls := findClass_of_methodNamed B.named
  have hlk := B.notSynchronized
  have X : CallFix p m c cX0_enoughLimit 4 s ([.ref p1, .int p2, .ref p3] : List Value).toArray lw_all RX0 := ⟨hx, hb, hml, hown, hts⟩
  have hS : va_S (wA G) s.heap s.heap [] := va_S.rf
  have hl := lv_entry ([.ref p1, .int p2, .ref p3]) (n := 4) (Nat.le_of_ble_eq_true rfl)
  rw [lg_entry_eq]
  generalize (lg_sl ([.ref p1, .int p2, .ref p3]) ++ List.replicate (4 - (lg_sl ([.ref p1, .int p2, .ref p3])).length) Slot.unset).toArray = ls at hl ⊢
  have hl : lv_has ls 4 [(0, .ref p1), (1, .int p2), (2, .ref p3)] := hl
  have hB : 0 + b ≤ ((headSpec (wsW_ yX0_enoughLimit cX0_enoughLimit 4 (Option.some Jvm.ClassFile.FieldType.int) [((0 : Nat), (9 : Nat), (12 : Nat), (13 : Nat))]) ({ frames := 25, cells := b, slots := b, locals := 3321 })).room).cells ∧ 0 + b ≤ ((headSpec (wsW_ yX0_enoughLimit cX0_enoughLimit 4 (Option.some Jvm.ClassFile.FieldType.int) [((0 : Nat), (9 : Nat), (12 : Nat), (13 : Nat))]) ({ frames := 25, cells := b, slots := b, locals := 3321 })).room).slots := ⟨Nat.le_of_eq (Nat.zero_add b), Nat.le_of_eq (Nat.zero_add b)⟩
  have hB12 : ∀ (y0 : Nat) (M : wM) (bq : Nat) (H : Heap) (locs : List Loc) (ls : Array Slot) (cells slots : Nat), B_X0_enoughLimit_12 G Q y0 M bq → wR G M H → va_S (wA G) s.heap H locs → (cells + bq ≤ ((headSpec (wsW_ yX0_enoughLimit cX0_enoughLimit 4 (Option.some Jvm.ClassFile.FieldType.int) [((0 : Nat), (9 : Nat), (12 : Nat), (13 : Nat))]) ({ frames := 25, cells := b, slots := b, locals := 3321 })).room).cells ∧ slots + bq ≤ ((headSpec (wsW_ yX0_enoughLimit cX0_enoughLimit 4 (Option.some Jvm.ClassFile.FieldType.int) [((0 : Nat), (9 : Nat), (12 : Nat), (13 : Nat))]) ({ frames := 25, cells := b, slots := b, locals := 3321 })).room).slots) → lv_has ls 4 [] → W p l e (headSpec (wsW_ yX0_enoughLimit cX0_enoughLimit 4 (Option.some Jvm.ClassFile.FieldType.int) [((0 : Nat), (9 : Nat), (12 : Nat), (13 : Nat))]) ({ frames := 25, cells := b, slots := b, locals := 3321 })).room s m ([.ref p1, .int p2, .ref p3] : List Value).toArray below meth c H locs cells slots (vx_MQ below (wQ G (wqI Q)) (wXC G wX0) ([.ref p1, .int p2, .ref p3] : List Value).toArray s b b (wA G)) (F0 m 12 ls [.ref y0]) := by
    intro y0 M bq H locs ls cells slots hp hM hS hB hl
    refine lv_astore_n (lv' := [(3, .ref y0)]) hx hb dX0_enoughLimit_12 rfl hl (by decide) rfl (fun ls hl => ?_)
    refine lv_iconst (v := 1) hx hb dX0_enoughLimit_13 (by decide) ?_
    exact x_iret X hr hlk hM hS (w_fin hB) dX0_enoughLimit_14 ⟨_, rfl, hp⟩
  refine lv_aload_n hx hb dX0_enoughLimit_0 rfl (lv_at hl 2 rfl) ?_
  refine lv_iconst (v := 0) hx hb dX0_enoughLimit_1 (by decide) ?_
  refine lv_aload_n hx hb dX0_enoughLimit_2 rfl (lv_at hl 0 rfl) ?_
  refine lv_iload_n hx hb dX0_enoughLimit_3 rfl (lv_at hl 1 rfl) ?_
  obtain ⟨hrec, hp⟩ := hp
  obtain ⟨c2, hc1, hp⟩ := hp
  refine x_callI (vx_runV (As := [.int p2]) (rest := [.int (0 : Int32), .ref p3]) X (P_X1_enoughLimit_ok (l := l) hl0 hp) (cwV 1 hts (lw_V q3043 q3044 q3045 q148 q3046) rfl rfl rfl (by decide +kernel) ⟨Nat.le_of_ble_eq_true rfl, Nat.le_of_ble_eq_true rfl⟩) ⟨wPc.blind, w_recv hC.1 hM (ci := 0) (q := (RX1, TX1, 8)) rfl hrec, w_pre hC hM hS _⟩ rfl rfl hl.1 rfl (lv_room (Nat.le_of_ble_eq_true rfl)) dX0_enoughLimit_4 (w_room hB hc1)) hS hB hc1 (fun E ce q5 M6 H locs hp hM hS hB hcell hcv hcl => ?_) (fun v3 M1 H locs hp hM hS hB => ?_)
  · obtain ⟨rfl, hp⟩ := hp
    refine vx_catch (own := "ParkingOfficeLaw") (name := "java/lang/IndexOutOfBoundsException") (E := "java/lang/IndexOutOfBoundsException") hown [] ⟨0, 9, 12, 13⟩ [] (by rw [htab]; rfl) (fun _ h => absurd h List.not_mem_nil) (by decide) (by decide) (hts _ q2176) (va_Nw.use rfl (hC.1.2.2.1 _ q550 rfl)) hcell hcv hcl ?_
    exact hB12 _ _ _ _ _ _ _ _ hp hM hS hB (lv_sub hl [] rfl)
  · refine lv_i2l (v := v3.toInt64) hx hb dX0_enoughLimit_7 rfl ?_
    refine x_last X hC.1 hM hS dX0_enoughLimit_8 hp (fun M4 H locs hM hS hp => ?_)
    refine lv_goto (tgt := 15) hx hb dX0_enoughLimit_9 (by decide) ?_
    refine lv_iconst (v := 0) hx hb dX0_enoughLimit_15 (by decide) ?_
    exact x_iret X hr hlk hM hS (w_fin hB) dX0_enoughLimit_16 ⟨_, rfl, hp⟩
def B_X0_extend_13 (G : wG) (Q : Int32 → wM → Prop) (y0 : Nat) (M : wM) (bq : Nat) : Prop :=
  Q (1 : Int32) M
def B_X0_extend_17 (G : wG) (Q : Int32 → wM → Prop) (y0 : Nat) (M : wM) (bq : Nat) : Prop :=
  Q (2 : Int32) M
def B_X0_extend_21 (G : wG) (Q : Int32 → wM → Prop) (y0 : Nat) (M : wM) (bq : Nat) : Prop :=
  Q (3 : Int32) M
def P_X0_extend (G : wG) (p1 : Nat) (p2 : Int32) (p3 : Int32) (p4 : Nat) (b : Nat) (M : wM) (Q : Int32 → wM → Prop) : Prop :=
  oIs M p1 0 (∃ c2, c2 ≤ b ∧ P_X1_extend G p1 p2 p3 c2 M (fun v3 M1 => oLast G M1 p4 (0 : Int32) (v3.toInt64) (fun M4 => Q (0 : Int32) M4)) (fun E q5 M6 => (E = "java/lang/IllegalArgumentException" ∧ (B_X0_extend_17 G Q q5 M6 (b - c2))) ∨ (E = "java/lang/IllegalStateException" ∧ (B_X0_extend_21 G Q q5 M6 (b - c2))) ∨ (E = "java/lang/IndexOutOfBoundsException" ∧ (B_X0_extend_13 G Q q5 M6 (b - c2)))))
set_option maxHeartbeats 4000000 in
set_option maxRecDepth 100000 in
theorem P_X0_extend_ok {l : Launch} (hl0 : l.stackTraces = false) {G : wG} {p1 : Nat} {p2 : Int32} {p3 : Int32} {p4 : Nat} {b : Nat} {M : wM} {Q : Int32 → wM → Prop} (hp : P_X0_extend G p1 p2 p3 p4 b M Q) : wMet l yX0_extend (wsW_ yX0_extend cX0_extend 5 (Option.some Jvm.ClassFile.FieldType.int) [((0 : Nat), (10 : Nat), (13 : Nat), (13 : Nat)), ((0 : Nat), (10 : Nat), (17 : Nat), (25 : Nat)), ((0 : Nat), (10 : Nat), (21 : Nat), (71 : Nat))]) 21 600 G [.ref p1, .int p2, .int p3, .ref p4] M b (wqI Q) wX0 := by
  refine vx_ofWH (cc := cX0_extend) (maxL := 5) (ret := Option.some Jvm.ClassFile.FieldType.int) (hh := [((0 : Nat), (10 : Nat), (13 : Nat), (13 : Nat)), ((0 : Nat), (10 : Nat), (17 : Nat), (25 : Nat)), ((0 : Nat), (10 : Nat), (21 : Nat), (71 : Nat))]) (by decide) rfl ?_
  intro p e s m args below meth c s₁ B hml hv
  obtain ⟨rfl, hM, hK, hZ, hz⟩ := hv
  have hC : wC G s := ⟨hK, hZ, hz⟩
  have hx := B.exec
  have hb := B.bytes
  have hr := B.returns
  have hts := atoms_spec (ws := (wsW_ yX0_extend cX0_extend 5 (Option.some Jvm.ClassFile.FieldType.int) [((0 : Nat), (10 : Nat), (13 : Nat), (13 : Nat)), ((0 : Nat), (10 : Nat), (17 : Nat), (25 : Nat)), ((0 : Nat), (10 : Nat), (21 : Nat), (71 : Nat))])) B.pre
  have htab := vx_table (x := yX0_extend) B (hts _ List.mem_cons_self)
  have hts : ∀ w ∈ lw_all, w.before _ s = true := fun w h => hts w (List.mem_cons_of_mem _ h)
  have hown : s.vm.findClass RX0 = some m.cls := findClass_of_methodNamed B.named
  have hlk := B.notSynchronized
  have X : CallFix p m c cX0_extend 5 s ([.ref p1, .int p2, .int p3, .ref p4] : List Value).toArray lw_all RX0 := ⟨hx, hb, hml, hown, hts⟩
  have hS : va_S (wA G) s.heap s.heap [] := va_S.rf
  have hl := lv_entry ([.ref p1, .int p2, .int p3, .ref p4]) (n := 5) (Nat.le_of_ble_eq_true rfl)
  rw [lg_entry_eq]
  generalize (lg_sl ([.ref p1, .int p2, .int p3, .ref p4]) ++ List.replicate (5 - (lg_sl ([.ref p1, .int p2, .int p3, .ref p4])).length) Slot.unset).toArray = ls at hl ⊢
  have hl : lv_has ls 5 [(0, .ref p1), (1, .int p2), (2, .int p3), (3, .ref p4)] := hl
  have hB : 0 + b ≤ ((headSpec (wsW_ yX0_extend cX0_extend 5 (Option.some Jvm.ClassFile.FieldType.int) [((0 : Nat), (10 : Nat), (13 : Nat), (13 : Nat)), ((0 : Nat), (10 : Nat), (17 : Nat), (25 : Nat)), ((0 : Nat), (10 : Nat), (21 : Nat), (71 : Nat))]) ({ frames := 21, cells := b, slots := b, locals := 600 })).room).cells ∧ 0 + b ≤ ((headSpec (wsW_ yX0_extend cX0_extend 5 (Option.some Jvm.ClassFile.FieldType.int) [((0 : Nat), (10 : Nat), (13 : Nat), (13 : Nat)), ((0 : Nat), (10 : Nat), (17 : Nat), (25 : Nat)), ((0 : Nat), (10 : Nat), (21 : Nat), (71 : Nat))]) ({ frames := 21, cells := b, slots := b, locals := 600 })).room).slots := ⟨Nat.le_of_eq (Nat.zero_add b), Nat.le_of_eq (Nat.zero_add b)⟩
  have hB13 : ∀ (y0 : Nat) (M : wM) (bq : Nat) (H : Heap) (locs : List Loc) (ls : Array Slot) (cells slots : Nat), B_X0_extend_13 G Q y0 M bq → wR G M H → va_S (wA G) s.heap H locs → (cells + bq ≤ ((headSpec (wsW_ yX0_extend cX0_extend 5 (Option.some Jvm.ClassFile.FieldType.int) [((0 : Nat), (10 : Nat), (13 : Nat), (13 : Nat)), ((0 : Nat), (10 : Nat), (17 : Nat), (25 : Nat)), ((0 : Nat), (10 : Nat), (21 : Nat), (71 : Nat))]) ({ frames := 21, cells := b, slots := b, locals := 600 })).room).cells ∧ slots + bq ≤ ((headSpec (wsW_ yX0_extend cX0_extend 5 (Option.some Jvm.ClassFile.FieldType.int) [((0 : Nat), (10 : Nat), (13 : Nat), (13 : Nat)), ((0 : Nat), (10 : Nat), (17 : Nat), (25 : Nat)), ((0 : Nat), (10 : Nat), (21 : Nat), (71 : Nat))]) ({ frames := 21, cells := b, slots := b, locals := 600 })).room).slots) → lv_has ls 5 [] → W p l e (headSpec (wsW_ yX0_extend cX0_extend 5 (Option.some Jvm.ClassFile.FieldType.int) [((0 : Nat), (10 : Nat), (13 : Nat), (13 : Nat)), ((0 : Nat), (10 : Nat), (17 : Nat), (25 : Nat)), ((0 : Nat), (10 : Nat), (21 : Nat), (71 : Nat))]) ({ frames := 21, cells := b, slots := b, locals := 600 })).room s m ([.ref p1, .int p2, .int p3, .ref p4] : List Value).toArray below meth c H locs cells slots (vx_MQ below (wQ G (wqI Q)) (wXC G wX0) ([.ref p1, .int p2, .int p3, .ref p4] : List Value).toArray s b b (wA G)) (F0 m 13 ls [.ref y0]) := by
    intro y0 M bq H locs ls cells slots hp hM hS hB hl
    refine lv_astore (lv' := [(4, .ref y0)]) hx hb dX0_extend_13 hl (by decide) rfl (fun ls hl => ?_)
    refine lv_iconst (v := 1) hx hb dX0_extend_15 (by decide) ?_
    exact x_iret X hr hlk hM hS (w_fin hB) dX0_extend_16 ⟨_, rfl, hp⟩
  have hB17 : ∀ (y0 : Nat) (M : wM) (bq : Nat) (H : Heap) (locs : List Loc) (ls : Array Slot) (cells slots : Nat), B_X0_extend_17 G Q y0 M bq → wR G M H → va_S (wA G) s.heap H locs → (cells + bq ≤ ((headSpec (wsW_ yX0_extend cX0_extend 5 (Option.some Jvm.ClassFile.FieldType.int) [((0 : Nat), (10 : Nat), (13 : Nat), (13 : Nat)), ((0 : Nat), (10 : Nat), (17 : Nat), (25 : Nat)), ((0 : Nat), (10 : Nat), (21 : Nat), (71 : Nat))]) ({ frames := 21, cells := b, slots := b, locals := 600 })).room).cells ∧ slots + bq ≤ ((headSpec (wsW_ yX0_extend cX0_extend 5 (Option.some Jvm.ClassFile.FieldType.int) [((0 : Nat), (10 : Nat), (13 : Nat), (13 : Nat)), ((0 : Nat), (10 : Nat), (17 : Nat), (25 : Nat)), ((0 : Nat), (10 : Nat), (21 : Nat), (71 : Nat))]) ({ frames := 21, cells := b, slots := b, locals := 600 })).room).slots) → lv_has ls 5 [] → W p l e (headSpec (wsW_ yX0_extend cX0_extend 5 (Option.some Jvm.ClassFile.FieldType.int) [((0 : Nat), (10 : Nat), (13 : Nat), (13 : Nat)), ((0 : Nat), (10 : Nat), (17 : Nat), (25 : Nat)), ((0 : Nat), (10 : Nat), (21 : Nat), (71 : Nat))]) ({ frames := 21, cells := b, slots := b, locals := 600 })).room s m ([.ref p1, .int p2, .int p3, .ref p4] : List Value).toArray below meth c H locs cells slots (vx_MQ below (wQ G (wqI Q)) (wXC G wX0) ([.ref p1, .int p2, .int p3, .ref p4] : List Value).toArray s b b (wA G)) (F0 m 17 ls [.ref y0]) := by
    intro y0 M bq H locs ls cells slots hp hM hS hB hl
    refine lv_astore (lv' := [(4, .ref y0)]) hx hb dX0_extend_17 hl (by decide) rfl (fun ls hl => ?_)
    refine lv_iconst (v := 2) hx hb dX0_extend_19 (by decide) ?_
    exact x_iret X hr hlk hM hS (w_fin hB) dX0_extend_20 ⟨_, rfl, hp⟩
  have hB21 : ∀ (y0 : Nat) (M : wM) (bq : Nat) (H : Heap) (locs : List Loc) (ls : Array Slot) (cells slots : Nat), B_X0_extend_21 G Q y0 M bq → wR G M H → va_S (wA G) s.heap H locs → (cells + bq ≤ ((headSpec (wsW_ yX0_extend cX0_extend 5 (Option.some Jvm.ClassFile.FieldType.int) [((0 : Nat), (10 : Nat), (13 : Nat), (13 : Nat)), ((0 : Nat), (10 : Nat), (17 : Nat), (25 : Nat)), ((0 : Nat), (10 : Nat), (21 : Nat), (71 : Nat))]) ({ frames := 21, cells := b, slots := b, locals := 600 })).room).cells ∧ slots + bq ≤ ((headSpec (wsW_ yX0_extend cX0_extend 5 (Option.some Jvm.ClassFile.FieldType.int) [((0 : Nat), (10 : Nat), (13 : Nat), (13 : Nat)), ((0 : Nat), (10 : Nat), (17 : Nat), (25 : Nat)), ((0 : Nat), (10 : Nat), (21 : Nat), (71 : Nat))]) ({ frames := 21, cells := b, slots := b, locals := 600 })).room).slots) → lv_has ls 5 [] → W p l e (headSpec (wsW_ yX0_extend cX0_extend 5 (Option.some Jvm.ClassFile.FieldType.int) [((0 : Nat), (10 : Nat), (13 : Nat), (13 : Nat)), ((0 : Nat), (10 : Nat), (17 : Nat), (25 : Nat)), ((0 : Nat), (10 : Nat), (21 : Nat), (71 : Nat))]) ({ frames := 21, cells := b, slots := b, locals := 600 })).room s m ([.ref p1, .int p2, .int p3, .ref p4] : List Value).toArray below meth c H locs cells slots (vx_MQ below (wQ G (wqI Q)) (wXC G wX0) ([.ref p1, .int p2, .int p3, .ref p4] : List Value).toArray s b b (wA G)) (F0 m 21 ls [.ref y0]) := by
    intro y0 M bq H locs ls cells slots hp hM hS hB hl
    refine lv_astore (lv' := [(4, .ref y0)]) hx hb dX0_extend_21 hl (by decide) rfl (fun ls hl => ?_)
    refine lv_iconst (v := 3) hx hb dX0_extend_23 (by decide) ?_
    exact x_iret X hr hlk hM hS (w_fin hB) dX0_extend_24 ⟨_, rfl, hp⟩
  refine lv_aload_n hx hb dX0_extend_0 rfl (lv_at hl 3 rfl) ?_
  refine lv_iconst (v := 0) hx hb dX0_extend_1 (by decide) ?_
  refine lv_aload_n hx hb dX0_extend_2 rfl (lv_at hl 0 rfl) ?_
  refine lv_iload_n hx hb dX0_extend_3 rfl (lv_at hl 1 rfl) ?_
  refine lv_iload_n hx hb dX0_extend_4 rfl (lv_at hl 2 rfl) ?_
  obtain ⟨hrec, hp⟩ := hp
  obtain ⟨c2, hc1, hp⟩ := hp
  refine x_callI (vx_runVX (As := [.int p2, .int p3]) (rest := [.int (0 : Int32), .ref p4]) X (P_X1_extend_ok (l := l) hl0 hp) (vx_cwVW 2 hts (lw_VW q2748 q2749 q2750 q148 q2751) rfl rfl rfl (by decide +kernel) ⟨Nat.le_of_ble_eq_true rfl, Nat.le_of_ble_eq_true rfl⟩) ⟨wPc.blind, w_recv hC.1 hM (ci := 0) (q := (RX1, TX1, 8)) rfl hrec, w_pre hC hM hS _⟩ rfl rfl hl.1 rfl (lv_room (Nat.le_of_ble_eq_true rfl)) dX0_extend_5 (w_room hB hc1)) hS hB hc1 (fun E ce q5 M6 H locs hp hM hS hB hcell hcv hcl => ?_) (fun v3 M1 H locs hp hM hS hB => ?_)
  · rcases hp with ⟨rfl, hp⟩ | ⟨rfl, hp⟩ | ⟨rfl, hp⟩
    · refine vx_catch (own := "ParkingOfficeLaw") (name := "java/lang/IllegalArgumentException") (E := "java/lang/IllegalArgumentException") hown [⟨0, 10, 13, 13⟩] ⟨0, 10, 17, 25⟩ [⟨0, 10, 21, 71⟩] (by rw [htab]; rfl) (List.forall_mem_cons.mpr ⟨(Or.inr ⟨by decide, "java/lang/IndexOutOfBoundsException", hts _ q2176, hC.1.2.2.2.2.2.1 ("java/lang/IllegalArgumentException", "java/lang/IndexOutOfBoundsException") (List.mem_of_getElem? (i := 7) rfl)⟩), (fun _ h => absurd h List.not_mem_nil)⟩) (by decide) (by decide) (hts _ q2317) (va_Nw.use rfl (hC.1.2.2.1 _ q806 rfl)) hcell hcv hcl ?_
      exact hB17 _ _ _ _ _ _ _ _ hp hM hS hB (lv_sub hl [] rfl)
    · refine vx_catch (own := "ParkingOfficeLaw") (name := "java/lang/IllegalStateException") (E := "java/lang/IllegalStateException") hown [⟨0, 10, 13, 13⟩, ⟨0, 10, 17, 25⟩] ⟨0, 10, 21, 71⟩ [] (by rw [htab]; rfl) (List.forall_mem_cons.mpr ⟨(Or.inr ⟨by decide, "java/lang/IndexOutOfBoundsException", hts _ q2176, hC.1.2.2.2.2.2.1 ("java/lang/IllegalStateException", "java/lang/IndexOutOfBoundsException") (List.mem_of_getElem? (i := 14) rfl)⟩), (List.forall_mem_cons.mpr ⟨(Or.inr ⟨by decide, "java/lang/IllegalArgumentException", hts _ q2317, hC.1.2.2.2.2.2.1 ("java/lang/IllegalStateException", "java/lang/IllegalArgumentException") (List.mem_of_getElem? (i := 15) rfl)⟩), (fun _ h => absurd h List.not_mem_nil)⟩)⟩) (by decide) (by decide) (hts _ q2625) (va_Nw.use rfl (hC.1.2.2.1 _ q2578 rfl)) hcell hcv hcl ?_
      exact hB21 _ _ _ _ _ _ _ _ hp hM hS hB (lv_sub hl [] rfl)
    · refine vx_catch (own := "ParkingOfficeLaw") (name := "java/lang/IndexOutOfBoundsException") (E := "java/lang/IndexOutOfBoundsException") hown [] ⟨0, 10, 13, 13⟩ [⟨0, 10, 17, 25⟩, ⟨0, 10, 21, 71⟩] (by rw [htab]; rfl) (fun _ h => absurd h List.not_mem_nil) (by decide) (by decide) (hts _ q2176) (va_Nw.use rfl (hC.1.2.2.1 _ q550 rfl)) hcell hcv hcl ?_
      exact hB13 _ _ _ _ _ _ _ _ hp hM hS hB (lv_sub hl [] rfl)
  · refine lv_i2l (v := v3.toInt64) hx hb dX0_extend_8 rfl ?_
    refine x_last X hC.1 hM hS dX0_extend_9 hp (fun M4 H locs hM hS hp => ?_)
    refine lv_goto (tgt := 25) hx hb dX0_extend_10 (by decide) ?_
    refine lv_iconst (v := 0) hx hb dX0_extend_25 (by decide) ?_
    exact x_iret X hr hlk hM hS (w_fin hB) dX0_extend_26 ⟨_, rfl, hp⟩
def B_X0_find_12 (G : wG) (Q : Int32 → wM → Prop) (y0 : Nat) (M : wM) (bq : Nat) : Prop :=
  Q (1 : Int32) M
def P_X0_find (G : wG) (p1 : Nat) (p2 : Int32) (p3 : Nat) (b : Nat) (M : wM) (Q : Int32 → wM → Prop) : Prop :=
  oIs M p1 0 (∃ c2, c2 ≤ b ∧ P_X1_find G p1 p2 c2 M (fun v3 M1 => oLast G M1 p3 (0 : Int32) (v3.toInt64) (fun M4 => Q (0 : Int32) M4)) (fun E q5 M6 => (E = "java/lang/IllegalArgumentException" ∧ (B_X0_find_12 G Q q5 M6 (b - c2)))))
set_option maxHeartbeats 4000000 in
set_option maxRecDepth 100000 in
theorem P_X0_find_ok {l : Launch} (hl0 : l.stackTraces = false) {G : wG} {p1 : Nat} {p2 : Int32} {p3 : Nat} {b : Nat} {M : wM} {Q : Int32 → wM → Prop} (hp : P_X0_find G p1 p2 p3 b M Q) : wMet l yX0_find (wsW_ yX0_find cX0_find 4 (Option.some Jvm.ClassFile.FieldType.int) [((0 : Nat), (9 : Nat), (12 : Nat), (25 : Nat))]) 19 557 G [.ref p1, .int p2, .ref p3] M b (wqI Q) wX0 := by
  refine vx_ofWH (cc := cX0_find) (maxL := 4) (ret := Option.some Jvm.ClassFile.FieldType.int) (hh := [((0 : Nat), (9 : Nat), (12 : Nat), (25 : Nat))]) (by decide) rfl ?_
  intro p e s m args below meth c s₁ B hml hv
  obtain ⟨rfl, hM, hK, hZ, hz⟩ := hv
  have hC : wC G s := ⟨hK, hZ, hz⟩
  have hx := B.exec
  have hb := B.bytes
  have hr := B.returns
  have hts := atoms_spec (ws := (wsW_ yX0_find cX0_find 4 (Option.some Jvm.ClassFile.FieldType.int) [((0 : Nat), (9 : Nat), (12 : Nat), (25 : Nat))])) B.pre
  have htab := vx_table (x := yX0_find) B (hts _ List.mem_cons_self)
  have hts : ∀ w ∈ lw_all, w.before _ s = true := fun w h => hts w (List.mem_cons_of_mem _ h)
  have hown : s.vm.findClass RX0 = some m.cls := findClass_of_methodNamed B.named
  have hlk := B.notSynchronized
  have X : CallFix p m c cX0_find 4 s ([.ref p1, .int p2, .ref p3] : List Value).toArray lw_all RX0 := ⟨hx, hb, hml, hown, hts⟩
  have hS : va_S (wA G) s.heap s.heap [] := va_S.rf
  have hl := lv_entry ([.ref p1, .int p2, .ref p3]) (n := 4) (Nat.le_of_ble_eq_true rfl)
  rw [lg_entry_eq]
  generalize (lg_sl ([.ref p1, .int p2, .ref p3]) ++ List.replicate (4 - (lg_sl ([.ref p1, .int p2, .ref p3])).length) Slot.unset).toArray = ls at hl ⊢
  have hl : lv_has ls 4 [(0, .ref p1), (1, .int p2), (2, .ref p3)] := hl
  have hB : 0 + b ≤ ((headSpec (wsW_ yX0_find cX0_find 4 (Option.some Jvm.ClassFile.FieldType.int) [((0 : Nat), (9 : Nat), (12 : Nat), (25 : Nat))]) ({ frames := 19, cells := b, slots := b, locals := 557 })).room).cells ∧ 0 + b ≤ ((headSpec (wsW_ yX0_find cX0_find 4 (Option.some Jvm.ClassFile.FieldType.int) [((0 : Nat), (9 : Nat), (12 : Nat), (25 : Nat))]) ({ frames := 19, cells := b, slots := b, locals := 557 })).room).slots := ⟨Nat.le_of_eq (Nat.zero_add b), Nat.le_of_eq (Nat.zero_add b)⟩
  have hB12 : ∀ (y0 : Nat) (M : wM) (bq : Nat) (H : Heap) (locs : List Loc) (ls : Array Slot) (cells slots : Nat), B_X0_find_12 G Q y0 M bq → wR G M H → va_S (wA G) s.heap H locs → (cells + bq ≤ ((headSpec (wsW_ yX0_find cX0_find 4 (Option.some Jvm.ClassFile.FieldType.int) [((0 : Nat), (9 : Nat), (12 : Nat), (25 : Nat))]) ({ frames := 19, cells := b, slots := b, locals := 557 })).room).cells ∧ slots + bq ≤ ((headSpec (wsW_ yX0_find cX0_find 4 (Option.some Jvm.ClassFile.FieldType.int) [((0 : Nat), (9 : Nat), (12 : Nat), (25 : Nat))]) ({ frames := 19, cells := b, slots := b, locals := 557 })).room).slots) → lv_has ls 4 [] → W p l e (headSpec (wsW_ yX0_find cX0_find 4 (Option.some Jvm.ClassFile.FieldType.int) [((0 : Nat), (9 : Nat), (12 : Nat), (25 : Nat))]) ({ frames := 19, cells := b, slots := b, locals := 557 })).room s m ([.ref p1, .int p2, .ref p3] : List Value).toArray below meth c H locs cells slots (vx_MQ below (wQ G (wqI Q)) (wXC G wX0) ([.ref p1, .int p2, .ref p3] : List Value).toArray s b b (wA G)) (F0 m 12 ls [.ref y0]) := by
    intro y0 M bq H locs ls cells slots hp hM hS hB hl
    refine lv_astore_n (lv' := [(3, .ref y0)]) hx hb dX0_find_12 rfl hl (by decide) rfl (fun ls hl => ?_)
    refine lv_iconst (v := 1) hx hb dX0_find_13 (by decide) ?_
    exact x_iret X hr hlk hM hS (w_fin hB) dX0_find_14 ⟨_, rfl, hp⟩
  refine lv_aload_n hx hb dX0_find_0 rfl (lv_at hl 2 rfl) ?_
  refine lv_iconst (v := 0) hx hb dX0_find_1 (by decide) ?_
  refine lv_aload_n hx hb dX0_find_2 rfl (lv_at hl 0 rfl) ?_
  refine lv_iload_n hx hb dX0_find_3 rfl (lv_at hl 1 rfl) ?_
  obtain ⟨hrec, hp⟩ := hp
  obtain ⟨c2, hc1, hp⟩ := hp
  refine x_callI (vx_runV (As := [.int p2]) (rest := [.int (0 : Int32), .ref p3]) X (P_X1_find_ok (l := l) hl0 hp) (cwV 1 hts (lw_V q2336 q2337 q2338 q148 q2339) rfl rfl rfl (by decide +kernel) ⟨Nat.le_of_ble_eq_true rfl, Nat.le_of_ble_eq_true rfl⟩) ⟨wPc.blind, w_recv hC.1 hM (ci := 0) (q := (RX1, TX1, 8)) rfl hrec, w_pre hC hM hS _⟩ rfl rfl hl.1 rfl (lv_room (Nat.le_of_ble_eq_true rfl)) dX0_find_4 (w_room hB hc1)) hS hB hc1 (fun E ce q5 M6 H locs hp hM hS hB hcell hcv hcl => ?_) (fun v3 M1 H locs hp hM hS hB => ?_)
  · obtain ⟨rfl, hp⟩ := hp
    refine vx_catch (own := "ParkingOfficeLaw") (name := "java/lang/IllegalArgumentException") (E := "java/lang/IllegalArgumentException") hown [] ⟨0, 9, 12, 25⟩ [] (by rw [htab]; rfl) (fun _ h => absurd h List.not_mem_nil) (by decide) (by decide) (hts _ q2317) (va_Nw.use rfl (hC.1.2.2.1 _ q806 rfl)) hcell hcv hcl ?_
    exact hB12 _ _ _ _ _ _ _ _ hp hM hS hB (lv_sub hl [] rfl)
  · refine lv_i2l (v := v3.toInt64) hx hb dX0_find_7 rfl ?_
    refine x_last X hC.1 hM hS dX0_find_8 hp (fun M4 H locs hM hS hp => ?_)
    refine lv_goto (tgt := 15) hx hb dX0_find_9 (by decide) ?_
    refine lv_iconst (v := 0) hx hb dX0_find_15 (by decide) ?_
    exact x_iret X hr hlk hM hS (w_fin hB) dX0_find_16 ⟨_, rfl, hp⟩
def B_X0_fine_13 (G : wG) (Q : Int32 → wM → Prop) (y0 : Nat) (M : wM) (bq : Nat) : Prop :=
  Q (1 : Int32) M
def P_X0_fine (G : wG) (p1 : Nat) (p2 : Int32) (p3 : Int32) (p4 : Nat) (b : Nat) (M : wM) (Q : Int32 → wM → Prop) : Prop :=
  oIs M p1 0 (∃ c2, c2 ≤ b ∧ P_X1_fine G p1 p2 p3 c2 M (fun v3 M1 => oLast G M1 p4 (0 : Int32) (v3.toInt64) (fun M4 => Q (0 : Int32) M4)) (fun E q5 M6 => (E = "java/lang/IndexOutOfBoundsException" ∧ (B_X0_fine_13 G Q q5 M6 (b - c2)))))
set_option maxHeartbeats 4000000 in
set_option maxRecDepth 100000 in
theorem P_X0_fine_ok {l : Launch} (hl0 : l.stackTraces = false) {G : wG} {p1 : Nat} {p2 : Int32} {p3 : Int32} {p4 : Nat} {b : Nat} {M : wM} {Q : Int32 → wM → Prop} (hp : P_X0_fine G p1 p2 p3 p4 b M Q) : wMet l yX0_fine (wsW_ yX0_fine cX0_fine 5 (Option.some Jvm.ClassFile.FieldType.int) [((0 : Nat), (10 : Nat), (13 : Nat), (13 : Nat))]) 17 508 G [.ref p1, .int p2, .int p3, .ref p4] M b (wqI Q) wX0 := by
  refine vx_ofWH (cc := cX0_fine) (maxL := 5) (ret := Option.some Jvm.ClassFile.FieldType.int) (hh := [((0 : Nat), (10 : Nat), (13 : Nat), (13 : Nat))]) (by decide) rfl ?_
  intro p e s m args below meth c s₁ B hml hv
  obtain ⟨rfl, hM, hK, hZ, hz⟩ := hv
  have hC : wC G s := ⟨hK, hZ, hz⟩
  have hx := B.exec
  have hb := B.bytes
  have hr := B.returns
  have hts := atoms_spec (ws := (wsW_ yX0_fine cX0_fine 5 (Option.some Jvm.ClassFile.FieldType.int) [((0 : Nat), (10 : Nat), (13 : Nat), (13 : Nat))])) B.pre
  have htab := vx_table (x := yX0_fine) B (hts _ List.mem_cons_self)
  have hts : ∀ w ∈ lw_all, w.before _ s = true := fun w h => hts w (List.mem_cons_of_mem _ h)
  have hown : s.vm.findClass RX0 = some m.cls := findClass_of_methodNamed B.named
  have hlk := B.notSynchronized
  have X : CallFix p m c cX0_fine 5 s ([.ref p1, .int p2, .int p3, .ref p4] : List Value).toArray lw_all RX0 := ⟨hx, hb, hml, hown, hts⟩
  have hS : va_S (wA G) s.heap s.heap [] := va_S.rf
  have hl := lv_entry ([.ref p1, .int p2, .int p3, .ref p4]) (n := 5) (Nat.le_of_ble_eq_true rfl)
  rw [lg_entry_eq]
  generalize (lg_sl ([.ref p1, .int p2, .int p3, .ref p4]) ++ List.replicate (5 - (lg_sl ([.ref p1, .int p2, .int p3, .ref p4])).length) Slot.unset).toArray = ls at hl ⊢
  have hl : lv_has ls 5 [(0, .ref p1), (1, .int p2), (2, .int p3), (3, .ref p4)] := hl
  have hB : 0 + b ≤ ((headSpec (wsW_ yX0_fine cX0_fine 5 (Option.some Jvm.ClassFile.FieldType.int) [((0 : Nat), (10 : Nat), (13 : Nat), (13 : Nat))]) ({ frames := 17, cells := b, slots := b, locals := 508 })).room).cells ∧ 0 + b ≤ ((headSpec (wsW_ yX0_fine cX0_fine 5 (Option.some Jvm.ClassFile.FieldType.int) [((0 : Nat), (10 : Nat), (13 : Nat), (13 : Nat))]) ({ frames := 17, cells := b, slots := b, locals := 508 })).room).slots := ⟨Nat.le_of_eq (Nat.zero_add b), Nat.le_of_eq (Nat.zero_add b)⟩
  have hB13 : ∀ (y0 : Nat) (M : wM) (bq : Nat) (H : Heap) (locs : List Loc) (ls : Array Slot) (cells slots : Nat), B_X0_fine_13 G Q y0 M bq → wR G M H → va_S (wA G) s.heap H locs → (cells + bq ≤ ((headSpec (wsW_ yX0_fine cX0_fine 5 (Option.some Jvm.ClassFile.FieldType.int) [((0 : Nat), (10 : Nat), (13 : Nat), (13 : Nat))]) ({ frames := 17, cells := b, slots := b, locals := 508 })).room).cells ∧ slots + bq ≤ ((headSpec (wsW_ yX0_fine cX0_fine 5 (Option.some Jvm.ClassFile.FieldType.int) [((0 : Nat), (10 : Nat), (13 : Nat), (13 : Nat))]) ({ frames := 17, cells := b, slots := b, locals := 508 })).room).slots) → lv_has ls 5 [] → W p l e (headSpec (wsW_ yX0_fine cX0_fine 5 (Option.some Jvm.ClassFile.FieldType.int) [((0 : Nat), (10 : Nat), (13 : Nat), (13 : Nat))]) ({ frames := 17, cells := b, slots := b, locals := 508 })).room s m ([.ref p1, .int p2, .int p3, .ref p4] : List Value).toArray below meth c H locs cells slots (vx_MQ below (wQ G (wqI Q)) (wXC G wX0) ([.ref p1, .int p2, .int p3, .ref p4] : List Value).toArray s b b (wA G)) (F0 m 13 ls [.ref y0]) := by
    intro y0 M bq H locs ls cells slots hp hM hS hB hl
    refine lv_astore (lv' := [(4, .ref y0)]) hx hb dX0_fine_13 hl (by decide) rfl (fun ls hl => ?_)
    refine lv_iconst (v := 1) hx hb dX0_fine_15 (by decide) ?_
    exact x_iret X hr hlk hM hS (w_fin hB) dX0_fine_16 ⟨_, rfl, hp⟩
  refine lv_aload_n hx hb dX0_fine_0 rfl (lv_at hl 3 rfl) ?_
  refine lv_iconst (v := 0) hx hb dX0_fine_1 (by decide) ?_
  refine lv_aload_n hx hb dX0_fine_2 rfl (lv_at hl 0 rfl) ?_
  refine lv_iload_n hx hb dX0_fine_3 rfl (lv_at hl 1 rfl) ?_
  refine lv_iload_n hx hb dX0_fine_4 rfl (lv_at hl 2 rfl) ?_
  obtain ⟨hrec, hp⟩ := hp
  obtain ⟨c2, hc1, hp⟩ := hp
  refine x_callI (vx_runV (As := [.int p2, .int p3]) (rest := [.int (0 : Int32), .ref p4]) X (P_X1_fine_ok (l := l) hl0 hp) (cwV 2 hts (lw_V q2514 q2515 q2516 q148 q2517) rfl rfl rfl (by decide +kernel) ⟨Nat.le_of_ble_eq_true rfl, Nat.le_of_ble_eq_true rfl⟩) ⟨wPc.blind, w_recv hC.1 hM (ci := 0) (q := (RX1, TX1, 8)) rfl hrec, w_pre hC hM hS _⟩ rfl rfl hl.1 rfl (lv_room (Nat.le_of_ble_eq_true rfl)) dX0_fine_5 (w_room hB hc1)) hS hB hc1 (fun E ce q5 M6 H locs hp hM hS hB hcell hcv hcl => ?_) (fun v3 M1 H locs hp hM hS hB => ?_)
  · obtain ⟨rfl, hp⟩ := hp
    refine vx_catch (own := "ParkingOfficeLaw") (name := "java/lang/IndexOutOfBoundsException") (E := "java/lang/IndexOutOfBoundsException") hown [] ⟨0, 10, 13, 13⟩ [] (by rw [htab]; rfl) (fun _ h => absurd h List.not_mem_nil) (by decide) (by decide) (hts _ q2176) (va_Nw.use rfl (hC.1.2.2.1 _ q550 rfl)) hcell hcv hcl ?_
    exact hB13 _ _ _ _ _ _ _ _ hp hM hS hB (lv_sub hl [] rfl)
  · refine lv_i2l (v := v3.toInt64) hx hb dX0_fine_8 rfl ?_
    refine x_last X hC.1 hM hS dX0_fine_9 hp (fun M4 H locs hM hS hp => ?_)
    refine lv_goto (tgt := 17) hx hb dX0_fine_10 (by decide) ?_
    refine lv_iconst (v := 0) hx hb dX0_fine_17 (by decide) ?_
    exact x_iret X hr hlk hM hS (w_fin hB) dX0_fine_18 ⟨_, rfl, hp⟩
def B_X0_finesBy_12 (G : wG) (Q : Int32 → wM → Prop) (y0 : Nat) (M : wM) (bq : Nat) : Prop :=
  Q (1 : Int32) M
def P_X0_finesBy (G : wG) (p1 : Nat) (p2 : Int32) (p3 : Nat) (b : Nat) (M : wM) (Q : Int32 → wM → Prop) : Prop :=
  oIs M p1 0 (∃ c2, c2 ≤ b ∧ P_X1_finesBy G p1 p2 c2 M (fun v3 M1 => oLast G M1 p3 (0 : Int32) (v3.toInt64) (fun M4 => Q (0 : Int32) M4)) (fun E q5 M6 => (E = "java/lang/IllegalArgumentException" ∧ (B_X0_finesBy_12 G Q q5 M6 (b - c2)))))
set_option maxHeartbeats 4000000 in
set_option maxRecDepth 100000 in
theorem P_X0_finesBy_ok {l : Launch} (hl0 : l.stackTraces = false) {G : wG} {p1 : Nat} {p2 : Int32} {p3 : Nat} {b : Nat} {M : wM} {Q : Int32 → wM → Prop} (hp : P_X0_finesBy G p1 p2 p3 b M Q) : wMet l yX0_finesBy (wsW_ yX0_finesBy cX0_finesBy 4 (Option.some Jvm.ClassFile.FieldType.int) [((0 : Nat), (9 : Nat), (12 : Nat), (25 : Nat))]) 15 466 G [.ref p1, .int p2, .ref p3] M b (wqI Q) wX0 := by
  refine vx_ofWH (cc := cX0_finesBy) (maxL := 4) (ret := Option.some Jvm.ClassFile.FieldType.int) (hh := [((0 : Nat), (9 : Nat), (12 : Nat), (25 : Nat))]) (by decide) rfl ?_
  intro p e s m args below meth c s₁ B hml hv
  obtain ⟨rfl, hM, hK, hZ, hz⟩ := hv
  have hC : wC G s := ⟨hK, hZ, hz⟩
  have hx := B.exec
  have hb := B.bytes
  have hr := B.returns
  have hts := atoms_spec (ws := (wsW_ yX0_finesBy cX0_finesBy 4 (Option.some Jvm.ClassFile.FieldType.int) [((0 : Nat), (9 : Nat), (12 : Nat), (25 : Nat))])) B.pre
  have htab := vx_table (x := yX0_finesBy) B (hts _ List.mem_cons_self)
  have hts : ∀ w ∈ lw_all, w.before _ s = true := fun w h => hts w (List.mem_cons_of_mem _ h)
  have hown : s.vm.findClass RX0 = some m.cls := findClass_of_methodNamed B.named
  have hlk := B.notSynchronized
  have X : CallFix p m c cX0_finesBy 4 s ([.ref p1, .int p2, .ref p3] : List Value).toArray lw_all RX0 := ⟨hx, hb, hml, hown, hts⟩
  have hS : va_S (wA G) s.heap s.heap [] := va_S.rf
  have hl := lv_entry ([.ref p1, .int p2, .ref p3]) (n := 4) (Nat.le_of_ble_eq_true rfl)
  rw [lg_entry_eq]
  generalize (lg_sl ([.ref p1, .int p2, .ref p3]) ++ List.replicate (4 - (lg_sl ([.ref p1, .int p2, .ref p3])).length) Slot.unset).toArray = ls at hl ⊢
  have hl : lv_has ls 4 [(0, .ref p1), (1, .int p2), (2, .ref p3)] := hl
  have hB : 0 + b ≤ ((headSpec (wsW_ yX0_finesBy cX0_finesBy 4 (Option.some Jvm.ClassFile.FieldType.int) [((0 : Nat), (9 : Nat), (12 : Nat), (25 : Nat))]) ({ frames := 15, cells := b, slots := b, locals := 466 })).room).cells ∧ 0 + b ≤ ((headSpec (wsW_ yX0_finesBy cX0_finesBy 4 (Option.some Jvm.ClassFile.FieldType.int) [((0 : Nat), (9 : Nat), (12 : Nat), (25 : Nat))]) ({ frames := 15, cells := b, slots := b, locals := 466 })).room).slots := ⟨Nat.le_of_eq (Nat.zero_add b), Nat.le_of_eq (Nat.zero_add b)⟩
  have hB12 : ∀ (y0 : Nat) (M : wM) (bq : Nat) (H : Heap) (locs : List Loc) (ls : Array Slot) (cells slots : Nat), B_X0_finesBy_12 G Q y0 M bq → wR G M H → va_S (wA G) s.heap H locs → (cells + bq ≤ ((headSpec (wsW_ yX0_finesBy cX0_finesBy 4 (Option.some Jvm.ClassFile.FieldType.int) [((0 : Nat), (9 : Nat), (12 : Nat), (25 : Nat))]) ({ frames := 15, cells := b, slots := b, locals := 466 })).room).cells ∧ slots + bq ≤ ((headSpec (wsW_ yX0_finesBy cX0_finesBy 4 (Option.some Jvm.ClassFile.FieldType.int) [((0 : Nat), (9 : Nat), (12 : Nat), (25 : Nat))]) ({ frames := 15, cells := b, slots := b, locals := 466 })).room).slots) → lv_has ls 4 [] → W p l e (headSpec (wsW_ yX0_finesBy cX0_finesBy 4 (Option.some Jvm.ClassFile.FieldType.int) [((0 : Nat), (9 : Nat), (12 : Nat), (25 : Nat))]) ({ frames := 15, cells := b, slots := b, locals := 466 })).room s m ([.ref p1, .int p2, .ref p3] : List Value).toArray below meth c H locs cells slots (vx_MQ below (wQ G (wqI Q)) (wXC G wX0) ([.ref p1, .int p2, .ref p3] : List Value).toArray s b b (wA G)) (F0 m 12 ls [.ref y0]) := by
    intro y0 M bq H locs ls cells slots hp hM hS hB hl
    refine lv_astore_n (lv' := [(3, .ref y0)]) hx hb dX0_finesBy_12 rfl hl (by decide) rfl (fun ls hl => ?_)
    refine lv_iconst (v := 1) hx hb dX0_finesBy_13 (by decide) ?_
    exact x_iret X hr hlk hM hS (w_fin hB) dX0_finesBy_14 ⟨_, rfl, hp⟩
  refine lv_aload_n hx hb dX0_finesBy_0 rfl (lv_at hl 2 rfl) ?_
  refine lv_iconst (v := 0) hx hb dX0_finesBy_1 (by decide) ?_
  refine lv_aload_n hx hb dX0_finesBy_2 rfl (lv_at hl 0 rfl) ?_
  refine lv_iload_n hx hb dX0_finesBy_3 rfl (lv_at hl 1 rfl) ?_
  obtain ⟨hrec, hp⟩ := hp
  obtain ⟨c2, hc1, hp⟩ := hp
  refine x_callI (vx_runV (As := [.int p2]) (rest := [.int (0 : Int32), .ref p3]) X (P_X1_finesBy_ok (l := l) hl0 hp) (cwV 1 hts (lw_V q2532 q2533 q2534 q148 q2535) rfl rfl rfl (by decide +kernel) ⟨Nat.le_of_ble_eq_true rfl, Nat.le_of_ble_eq_true rfl⟩) ⟨wPc.blind, w_recv hC.1 hM (ci := 0) (q := (RX1, TX1, 8)) rfl hrec, w_pre hC hM hS _⟩ rfl rfl hl.1 rfl (lv_room (Nat.le_of_ble_eq_true rfl)) dX0_finesBy_4 (w_room hB hc1)) hS hB hc1 (fun E ce q5 M6 H locs hp hM hS hB hcell hcv hcl => ?_) (fun v3 M1 H locs hp hM hS hB => ?_)
  · obtain ⟨rfl, hp⟩ := hp
    refine vx_catch (own := "ParkingOfficeLaw") (name := "java/lang/IllegalArgumentException") (E := "java/lang/IllegalArgumentException") hown [] ⟨0, 9, 12, 25⟩ [] (by rw [htab]; rfl) (fun _ h => absurd h List.not_mem_nil) (by decide) (by decide) (hts _ q2317) (va_Nw.use rfl (hC.1.2.2.1 _ q806 rfl)) hcell hcv hcl ?_
    exact hB12 _ _ _ _ _ _ _ _ hp hM hS hB (lv_sub hl [] rfl)
  · refine lv_i2l (v := v3.toInt64) hx hb dX0_finesBy_7 rfl ?_
    refine x_last X hC.1 hM hS dX0_finesBy_8 hp (fun M4 H locs hM hS hp => ?_)
    refine lv_goto (tgt := 15) hx hb dX0_finesBy_9 (by decide) ?_
    refine lv_iconst (v := 0) hx hb dX0_finesBy_15 (by decide) ?_
    exact x_iret X hr hlk hM hS (w_fin hB) dX0_finesBy_16 ⟨_, rfl, hp⟩
def B_X0_finesIn_13 (G : wG) (Q : Int32 → wM → Prop) (y0 : Nat) (M : wM) (bq : Nat) : Prop :=
  Q (1 : Int32) M
def B_X0_finesIn_17 (G : wG) (Q : Int32 → wM → Prop) (y0 : Nat) (M : wM) (bq : Nat) : Prop :=
  Q (2 : Int32) M
def P_X0_finesIn (G : wG) (p1 : Nat) (p2 : Int32) (p3 : Int32) (p4 : Nat) (b : Nat) (M : wM) (Q : Int32 → wM → Prop) : Prop :=
  oIs M p1 0 (∃ c2, c2 ≤ b ∧ P_X1_finesIn G p1 p2 p3 c2 M (fun v3 M1 => oLast G M1 p4 (0 : Int32) (v3.toInt64) (fun M4 => Q (0 : Int32) M4)) (fun E q5 M6 => (E = "java/lang/IllegalArgumentException" ∧ (B_X0_finesIn_17 G Q q5 M6 (b - c2))) ∨ (E = "java/lang/IndexOutOfBoundsException" ∧ (B_X0_finesIn_13 G Q q5 M6 (b - c2)))))
set_option maxHeartbeats 4000000 in
set_option maxRecDepth 100000 in
theorem P_X0_finesIn_ok {l : Launch} (hl0 : l.stackTraces = false) {G : wG} {p1 : Nat} {p2 : Int32} {p3 : Int32} {p4 : Nat} {b : Nat} {M : wM} {Q : Int32 → wM → Prop} (hp : P_X0_finesIn G p1 p2 p3 p4 b M Q) : wMet l yX0_finesIn (wsW_ yX0_finesIn cX0_finesIn 5 (Option.some Jvm.ClassFile.FieldType.int) [((0 : Nat), (10 : Nat), (13 : Nat), (13 : Nat)), ((0 : Nat), (10 : Nat), (17 : Nat), (25 : Nat))]) 23 646 G [.ref p1, .int p2, .int p3, .ref p4] M b (wqI Q) wX0 := by
  refine vx_ofWH (cc := cX0_finesIn) (maxL := 5) (ret := Option.some Jvm.ClassFile.FieldType.int) (hh := [((0 : Nat), (10 : Nat), (13 : Nat), (13 : Nat)), ((0 : Nat), (10 : Nat), (17 : Nat), (25 : Nat))]) (by decide) rfl ?_
  intro p e s m args below meth c s₁ B hml hv
  obtain ⟨rfl, hM, hK, hZ, hz⟩ := hv
  have hC : wC G s := ⟨hK, hZ, hz⟩
  have hx := B.exec
  have hb := B.bytes
  have hr := B.returns
  have hts := atoms_spec (ws := (wsW_ yX0_finesIn cX0_finesIn 5 (Option.some Jvm.ClassFile.FieldType.int) [((0 : Nat), (10 : Nat), (13 : Nat), (13 : Nat)), ((0 : Nat), (10 : Nat), (17 : Nat), (25 : Nat))])) B.pre
  have htab := vx_table (x := yX0_finesIn) B (hts _ List.mem_cons_self)
  have hts : ∀ w ∈ lw_all, w.before _ s = true := fun w h => hts w (List.mem_cons_of_mem _ h)
  have hown : s.vm.findClass RX0 = some m.cls := findClass_of_methodNamed B.named
  have hlk := B.notSynchronized
  have X : CallFix p m c cX0_finesIn 5 s ([.ref p1, .int p2, .int p3, .ref p4] : List Value).toArray lw_all RX0 := ⟨hx, hb, hml, hown, hts⟩
  have hS : va_S (wA G) s.heap s.heap [] := va_S.rf
  have hl := lv_entry ([.ref p1, .int p2, .int p3, .ref p4]) (n := 5) (Nat.le_of_ble_eq_true rfl)
  rw [lg_entry_eq]
  generalize (lg_sl ([.ref p1, .int p2, .int p3, .ref p4]) ++ List.replicate (5 - (lg_sl ([.ref p1, .int p2, .int p3, .ref p4])).length) Slot.unset).toArray = ls at hl ⊢
  have hl : lv_has ls 5 [(0, .ref p1), (1, .int p2), (2, .int p3), (3, .ref p4)] := hl
  have hB : 0 + b ≤ ((headSpec (wsW_ yX0_finesIn cX0_finesIn 5 (Option.some Jvm.ClassFile.FieldType.int) [((0 : Nat), (10 : Nat), (13 : Nat), (13 : Nat)), ((0 : Nat), (10 : Nat), (17 : Nat), (25 : Nat))]) ({ frames := 23, cells := b, slots := b, locals := 646 })).room).cells ∧ 0 + b ≤ ((headSpec (wsW_ yX0_finesIn cX0_finesIn 5 (Option.some Jvm.ClassFile.FieldType.int) [((0 : Nat), (10 : Nat), (13 : Nat), (13 : Nat)), ((0 : Nat), (10 : Nat), (17 : Nat), (25 : Nat))]) ({ frames := 23, cells := b, slots := b, locals := 646 })).room).slots := ⟨Nat.le_of_eq (Nat.zero_add b), Nat.le_of_eq (Nat.zero_add b)⟩
  have hB13 : ∀ (y0 : Nat) (M : wM) (bq : Nat) (H : Heap) (locs : List Loc) (ls : Array Slot) (cells slots : Nat), B_X0_finesIn_13 G Q y0 M bq → wR G M H → va_S (wA G) s.heap H locs → (cells + bq ≤ ((headSpec (wsW_ yX0_finesIn cX0_finesIn 5 (Option.some Jvm.ClassFile.FieldType.int) [((0 : Nat), (10 : Nat), (13 : Nat), (13 : Nat)), ((0 : Nat), (10 : Nat), (17 : Nat), (25 : Nat))]) ({ frames := 23, cells := b, slots := b, locals := 646 })).room).cells ∧ slots + bq ≤ ((headSpec (wsW_ yX0_finesIn cX0_finesIn 5 (Option.some Jvm.ClassFile.FieldType.int) [((0 : Nat), (10 : Nat), (13 : Nat), (13 : Nat)), ((0 : Nat), (10 : Nat), (17 : Nat), (25 : Nat))]) ({ frames := 23, cells := b, slots := b, locals := 646 })).room).slots) → lv_has ls 5 [] → W p l e (headSpec (wsW_ yX0_finesIn cX0_finesIn 5 (Option.some Jvm.ClassFile.FieldType.int) [((0 : Nat), (10 : Nat), (13 : Nat), (13 : Nat)), ((0 : Nat), (10 : Nat), (17 : Nat), (25 : Nat))]) ({ frames := 23, cells := b, slots := b, locals := 646 })).room s m ([.ref p1, .int p2, .int p3, .ref p4] : List Value).toArray below meth c H locs cells slots (vx_MQ below (wQ G (wqI Q)) (wXC G wX0) ([.ref p1, .int p2, .int p3, .ref p4] : List Value).toArray s b b (wA G)) (F0 m 13 ls [.ref y0]) := by
    intro y0 M bq H locs ls cells slots hp hM hS hB hl
    refine lv_astore (lv' := [(4, .ref y0)]) hx hb dX0_finesIn_13 hl (by decide) rfl (fun ls hl => ?_)
    refine lv_iconst (v := 1) hx hb dX0_finesIn_15 (by decide) ?_
    exact x_iret X hr hlk hM hS (w_fin hB) dX0_finesIn_16 ⟨_, rfl, hp⟩
  have hB17 : ∀ (y0 : Nat) (M : wM) (bq : Nat) (H : Heap) (locs : List Loc) (ls : Array Slot) (cells slots : Nat), B_X0_finesIn_17 G Q y0 M bq → wR G M H → va_S (wA G) s.heap H locs → (cells + bq ≤ ((headSpec (wsW_ yX0_finesIn cX0_finesIn 5 (Option.some Jvm.ClassFile.FieldType.int) [((0 : Nat), (10 : Nat), (13 : Nat), (13 : Nat)), ((0 : Nat), (10 : Nat), (17 : Nat), (25 : Nat))]) ({ frames := 23, cells := b, slots := b, locals := 646 })).room).cells ∧ slots + bq ≤ ((headSpec (wsW_ yX0_finesIn cX0_finesIn 5 (Option.some Jvm.ClassFile.FieldType.int) [((0 : Nat), (10 : Nat), (13 : Nat), (13 : Nat)), ((0 : Nat), (10 : Nat), (17 : Nat), (25 : Nat))]) ({ frames := 23, cells := b, slots := b, locals := 646 })).room).slots) → lv_has ls 5 [] → W p l e (headSpec (wsW_ yX0_finesIn cX0_finesIn 5 (Option.some Jvm.ClassFile.FieldType.int) [((0 : Nat), (10 : Nat), (13 : Nat), (13 : Nat)), ((0 : Nat), (10 : Nat), (17 : Nat), (25 : Nat))]) ({ frames := 23, cells := b, slots := b, locals := 646 })).room s m ([.ref p1, .int p2, .int p3, .ref p4] : List Value).toArray below meth c H locs cells slots (vx_MQ below (wQ G (wqI Q)) (wXC G wX0) ([.ref p1, .int p2, .int p3, .ref p4] : List Value).toArray s b b (wA G)) (F0 m 17 ls [.ref y0]) := by
    intro y0 M bq H locs ls cells slots hp hM hS hB hl
    refine lv_astore (lv' := [(4, .ref y0)]) hx hb dX0_finesIn_17 hl (by decide) rfl (fun ls hl => ?_)
    refine lv_iconst (v := 2) hx hb dX0_finesIn_19 (by decide) ?_
    exact x_iret X hr hlk hM hS (w_fin hB) dX0_finesIn_20 ⟨_, rfl, hp⟩
  refine lv_aload_n hx hb dX0_finesIn_0 rfl (lv_at hl 3 rfl) ?_
  refine lv_iconst (v := 0) hx hb dX0_finesIn_1 (by decide) ?_
  refine lv_aload_n hx hb dX0_finesIn_2 rfl (lv_at hl 0 rfl) ?_
  refine lv_iload_n hx hb dX0_finesIn_3 rfl (lv_at hl 1 rfl) ?_
  refine lv_iload_n hx hb dX0_finesIn_4 rfl (lv_at hl 2 rfl) ?_
  obtain ⟨hrec, hp⟩ := hp
  obtain ⟨c2, hc1, hp⟩ := hp
  refine x_callI (vx_runV (As := [.int p2, .int p3]) (rest := [.int (0 : Int32), .ref p4]) X (P_X1_finesIn_ok (l := l) hl0 hp) (cwV 2 hts (lw_V q3025 q3026 q3027 q148 q3028) rfl rfl rfl (by decide +kernel) ⟨Nat.le_of_ble_eq_true rfl, Nat.le_of_ble_eq_true rfl⟩) ⟨wPc.blind, w_recv hC.1 hM (ci := 0) (q := (RX1, TX1, 8)) rfl hrec, w_pre hC hM hS _⟩ rfl rfl hl.1 rfl (lv_room (Nat.le_of_ble_eq_true rfl)) dX0_finesIn_5 (w_room hB hc1)) hS hB hc1 (fun E ce q5 M6 H locs hp hM hS hB hcell hcv hcl => ?_) (fun v3 M1 H locs hp hM hS hB => ?_)
  · rcases hp with ⟨rfl, hp⟩ | ⟨rfl, hp⟩
    · refine vx_catch (own := "ParkingOfficeLaw") (name := "java/lang/IllegalArgumentException") (E := "java/lang/IllegalArgumentException") hown [⟨0, 10, 13, 13⟩] ⟨0, 10, 17, 25⟩ [] (by rw [htab]; rfl) (List.forall_mem_cons.mpr ⟨(Or.inr ⟨by decide, "java/lang/IndexOutOfBoundsException", hts _ q2176, hC.1.2.2.2.2.2.1 ("java/lang/IllegalArgumentException", "java/lang/IndexOutOfBoundsException") (List.mem_of_getElem? (i := 7) rfl)⟩), (fun _ h => absurd h List.not_mem_nil)⟩) (by decide) (by decide) (hts _ q2317) (va_Nw.use rfl (hC.1.2.2.1 _ q806 rfl)) hcell hcv hcl ?_
      exact hB17 _ _ _ _ _ _ _ _ hp hM hS hB (lv_sub hl [] rfl)
    · refine vx_catch (own := "ParkingOfficeLaw") (name := "java/lang/IndexOutOfBoundsException") (E := "java/lang/IndexOutOfBoundsException") hown [] ⟨0, 10, 13, 13⟩ [⟨0, 10, 17, 25⟩] (by rw [htab]; rfl) (fun _ h => absurd h List.not_mem_nil) (by decide) (by decide) (hts _ q2176) (va_Nw.use rfl (hC.1.2.2.1 _ q550 rfl)) hcell hcv hcl ?_
      exact hB13 _ _ _ _ _ _ _ _ hp hM hS hB (lv_sub hl [] rfl)
  · refine lv_i2l (v := v3.toInt64) hx hb dX0_finesIn_8 rfl ?_
    refine x_last X hC.1 hM hS dX0_finesIn_9 hp (fun M4 H locs hM hS hp => ?_)
    refine lv_goto (tgt := 21) hx hb dX0_finesIn_10 (by decide) ?_
    refine lv_iconst (v := 0) hx hb dX0_finesIn_21 (by decide) ?_
    exact x_iret X hr hlk hM hS (w_fin hB) dX0_finesIn_22 ⟨_, rfl, hp⟩
def B_X0_house_13 (G : wG) (Q : Int32 → wM → Prop) (y0 : Nat) (M : wM) (bq : Nat) : Prop :=
  Q (1 : Int32) M
def P_X0_house (G : wG) (p1 : Nat) (p2 : Int32) (p3 : Int32) (p4 : Nat) (b : Nat) (M : wM) (Q : Int32 → wM → Prop) : Prop :=
  oIs M p1 0 (∃ c2, c2 ≤ b ∧ P_X1_house G p1 p2 p3 c2 M (fun v3 M1 => oLast G M1 p4 (0 : Int32) (v3.toInt64) (fun M4 => Q (0 : Int32) M4)) (fun E q5 M6 => (E = "java/lang/IndexOutOfBoundsException" ∧ (B_X0_house_13 G Q q5 M6 (b - c2)))))
set_option maxHeartbeats 4000000 in
set_option maxRecDepth 100000 in
theorem P_X0_house_ok {l : Launch} (hl0 : l.stackTraces = false) {G : wG} {p1 : Nat} {p2 : Int32} {p3 : Int32} {p4 : Nat} {b : Nat} {M : wM} {Q : Int32 → wM → Prop} (hp : P_X0_house G p1 p2 p3 p4 b M Q) : wMet l yX0_house (wsW_ yX0_house cX0_house 5 (Option.some Jvm.ClassFile.FieldType.int) [((0 : Nat), (10 : Nat), (13 : Nat), (13 : Nat))]) 25 3323 G [.ref p1, .int p2, .int p3, .ref p4] M b (wqI Q) wX0 := by
  refine vx_ofWH (cc := cX0_house) (maxL := 5) (ret := Option.some Jvm.ClassFile.FieldType.int) (hh := [((0 : Nat), (10 : Nat), (13 : Nat), (13 : Nat))]) (by decide) rfl ?_
  intro p e s m args below meth c s₁ B hml hv
  obtain ⟨rfl, hM, hK, hZ, hz⟩ := hv
  have hC : wC G s := ⟨hK, hZ, hz⟩
  have hx := B.exec
  have hb := B.bytes
  have hr := B.returns
  have hts := atoms_spec (ws := (wsW_ yX0_house cX0_house 5 (Option.some Jvm.ClassFile.FieldType.int) [((0 : Nat), (10 : Nat), (13 : Nat), (13 : Nat))])) B.pre
  have htab := vx_table (x := yX0_house) B (hts _ List.mem_cons_self)
  have hts : ∀ w ∈ lw_all, w.before _ s = true := fun w h => hts w (List.mem_cons_of_mem _ h)
  have hown : s.vm.findClass RX0 = some m.cls := findClass_of_methodNamed B.named
  have hlk := B.notSynchronized
  have X : CallFix p m c cX0_house 5 s ([.ref p1, .int p2, .int p3, .ref p4] : List Value).toArray lw_all RX0 := ⟨hx, hb, hml, hown, hts⟩
  have hS : va_S (wA G) s.heap s.heap [] := va_S.rf
  have hl := lv_entry ([.ref p1, .int p2, .int p3, .ref p4]) (n := 5) (Nat.le_of_ble_eq_true rfl)
  rw [lg_entry_eq]
  generalize (lg_sl ([.ref p1, .int p2, .int p3, .ref p4]) ++ List.replicate (5 - (lg_sl ([.ref p1, .int p2, .int p3, .ref p4])).length) Slot.unset).toArray = ls at hl ⊢
  have hl : lv_has ls 5 [(0, .ref p1), (1, .int p2), (2, .int p3), (3, .ref p4)] := hl
  have hB : 0 + b ≤ ((headSpec (wsW_ yX0_house cX0_house 5 (Option.some Jvm.ClassFile.FieldType.int) [((0 : Nat), (10 : Nat), (13 : Nat), (13 : Nat))]) ({ frames := 25, cells := b, slots := b, locals := 3323 })).room).cells ∧ 0 + b ≤ ((headSpec (wsW_ yX0_house cX0_house 5 (Option.some Jvm.ClassFile.FieldType.int) [((0 : Nat), (10 : Nat), (13 : Nat), (13 : Nat))]) ({ frames := 25, cells := b, slots := b, locals := 3323 })).room).slots := ⟨Nat.le_of_eq (Nat.zero_add b), Nat.le_of_eq (Nat.zero_add b)⟩
  have hB13 : ∀ (y0 : Nat) (M : wM) (bq : Nat) (H : Heap) (locs : List Loc) (ls : Array Slot) (cells slots : Nat), B_X0_house_13 G Q y0 M bq → wR G M H → va_S (wA G) s.heap H locs → (cells + bq ≤ ((headSpec (wsW_ yX0_house cX0_house 5 (Option.some Jvm.ClassFile.FieldType.int) [((0 : Nat), (10 : Nat), (13 : Nat), (13 : Nat))]) ({ frames := 25, cells := b, slots := b, locals := 3323 })).room).cells ∧ slots + bq ≤ ((headSpec (wsW_ yX0_house cX0_house 5 (Option.some Jvm.ClassFile.FieldType.int) [((0 : Nat), (10 : Nat), (13 : Nat), (13 : Nat))]) ({ frames := 25, cells := b, slots := b, locals := 3323 })).room).slots) → lv_has ls 5 [] → W p l e (headSpec (wsW_ yX0_house cX0_house 5 (Option.some Jvm.ClassFile.FieldType.int) [((0 : Nat), (10 : Nat), (13 : Nat), (13 : Nat))]) ({ frames := 25, cells := b, slots := b, locals := 3323 })).room s m ([.ref p1, .int p2, .int p3, .ref p4] : List Value).toArray below meth c H locs cells slots (vx_MQ below (wQ G (wqI Q)) (wXC G wX0) ([.ref p1, .int p2, .int p3, .ref p4] : List Value).toArray s b b (wA G)) (F0 m 13 ls [.ref y0]) := by
    intro y0 M bq H locs ls cells slots hp hM hS hB hl
    refine lv_astore (lv' := [(4, .ref y0)]) hx hb dX0_house_13 hl (by decide) rfl (fun ls hl => ?_)
    refine lv_iconst (v := 1) hx hb dX0_house_15 (by decide) ?_
    exact x_iret X hr hlk hM hS (w_fin hB) dX0_house_16 ⟨_, rfl, hp⟩
  refine lv_aload_n hx hb dX0_house_0 rfl (lv_at hl 3 rfl) ?_
  refine lv_iconst (v := 0) hx hb dX0_house_1 (by decide) ?_
  refine lv_aload_n hx hb dX0_house_2 rfl (lv_at hl 0 rfl) ?_
  refine lv_iload_n hx hb dX0_house_3 rfl (lv_at hl 1 rfl) ?_
  refine lv_iload_n hx hb dX0_house_4 rfl (lv_at hl 2 rfl) ?_
  obtain ⟨hrec, hp⟩ := hp
  obtain ⟨c2, hc1, hp⟩ := hp
  refine x_callI (vx_runV (As := [.int p2, .int p3]) (rest := [.int (0 : Int32), .ref p4]) X (P_X1_house_ok (l := l) hl0 hp) (cwV 2 hts (lw_V q2242 q2243 q2244 q148 q2245) rfl rfl rfl (by decide +kernel) ⟨Nat.le_of_ble_eq_true rfl, Nat.le_of_ble_eq_true rfl⟩) ⟨wPc.blind, w_recv hC.1 hM (ci := 0) (q := (RX1, TX1, 8)) rfl hrec, w_pre hC hM hS _⟩ rfl rfl hl.1 rfl (lv_room (Nat.le_of_ble_eq_true rfl)) dX0_house_5 (w_room hB hc1)) hS hB hc1 (fun E ce q5 M6 H locs hp hM hS hB hcell hcv hcl => ?_) (fun v3 M1 H locs hp hM hS hB => ?_)
  · obtain ⟨rfl, hp⟩ := hp
    refine vx_catch (own := "ParkingOfficeLaw") (name := "java/lang/IndexOutOfBoundsException") (E := "java/lang/IndexOutOfBoundsException") hown [] ⟨0, 10, 13, 13⟩ [] (by rw [htab]; rfl) (fun _ h => absurd h List.not_mem_nil) (by decide) (by decide) (hts _ q2176) (va_Nw.use rfl (hC.1.2.2.1 _ q550 rfl)) hcell hcv hcl ?_
    exact hB13 _ _ _ _ _ _ _ _ hp hM hS hB (lv_sub hl [] rfl)
  · refine lv_i2l (v := v3.toInt64) hx hb dX0_house_8 rfl ?_
    refine x_last X hC.1 hM hS dX0_house_9 hp (fun M4 H locs hM hS hp => ?_)
    refine lv_goto (tgt := 17) hx hb dX0_house_10 (by decide) ?_
    refine lv_iconst (v := 0) hx hb dX0_house_17 (by decide) ?_
    exact x_iret X hr hlk hM hS (w_fin hB) dX0_house_18 ⟨_, rfl, hp⟩
def B_X0_inspect_12 (G : wG) (Q : Int32 → wM → Prop) (y0 : Nat) (M : wM) (bq : Nat) : Prop :=
  Q (1 : Int32) M
def P_X0_inspect (G : wG) (p1 : Nat) (p2 : Int32) (p3 : Nat) (b : Nat) (M : wM) (Q : Int32 → wM → Prop) : Prop :=
  oIs M p1 0 (∃ c2, c2 ≤ b ∧ P_X1_inspect G p1 p2 c2 M (fun v3 M1 => oLast G M1 p3 (0 : Int32) (v3.toInt64) (fun M4 => Q (0 : Int32) M4)) (fun E q5 M6 => (E = "java/lang/IndexOutOfBoundsException" ∧ (B_X0_inspect_12 G Q q5 M6 (b - c2)))))
set_option maxHeartbeats 4000000 in
set_option maxRecDepth 100000 in
theorem P_X0_inspect_ok {l : Launch} (hl0 : l.stackTraces = false) {G : wG} {p1 : Nat} {p2 : Int32} {p3 : Nat} {b : Nat} {M : wM} {Q : Int32 → wM → Prop} (hp : P_X0_inspect G p1 p2 p3 b M Q) : wMet l yX0_inspect (wsW_ yX0_inspect cX0_inspect 4 (Option.some Jvm.ClassFile.FieldType.int) [((0 : Nat), (9 : Nat), (12 : Nat), (13 : Nat))]) 23 645 G [.ref p1, .int p2, .ref p3] M b (wqI Q) wX0 := by
  refine vx_ofWH (cc := cX0_inspect) (maxL := 4) (ret := Option.some Jvm.ClassFile.FieldType.int) (hh := [((0 : Nat), (9 : Nat), (12 : Nat), (13 : Nat))]) (by decide) rfl ?_
  intro p e s m args below meth c s₁ B hml hv
  obtain ⟨rfl, hM, hK, hZ, hz⟩ := hv
  have hC : wC G s := ⟨hK, hZ, hz⟩
  have hx := B.exec
  have hb := B.bytes
  have hr := B.returns
  have hts := atoms_spec (ws := (wsW_ yX0_inspect cX0_inspect 4 (Option.some Jvm.ClassFile.FieldType.int) [((0 : Nat), (9 : Nat), (12 : Nat), (13 : Nat))])) B.pre
  have htab := vx_table (x := yX0_inspect) B (hts _ List.mem_cons_self)
  have hts : ∀ w ∈ lw_all, w.before _ s = true := fun w h => hts w (List.mem_cons_of_mem _ h)
  have hown : s.vm.findClass RX0 = some m.cls := findClass_of_methodNamed B.named
  have hlk := B.notSynchronized
  have X : CallFix p m c cX0_inspect 4 s ([.ref p1, .int p2, .ref p3] : List Value).toArray lw_all RX0 := ⟨hx, hb, hml, hown, hts⟩
  have hS : va_S (wA G) s.heap s.heap [] := va_S.rf
  have hl := lv_entry ([.ref p1, .int p2, .ref p3]) (n := 4) (Nat.le_of_ble_eq_true rfl)
  rw [lg_entry_eq]
  generalize (lg_sl ([.ref p1, .int p2, .ref p3]) ++ List.replicate (4 - (lg_sl ([.ref p1, .int p2, .ref p3])).length) Slot.unset).toArray = ls at hl ⊢
  have hl : lv_has ls 4 [(0, .ref p1), (1, .int p2), (2, .ref p3)] := hl
  have hB : 0 + b ≤ ((headSpec (wsW_ yX0_inspect cX0_inspect 4 (Option.some Jvm.ClassFile.FieldType.int) [((0 : Nat), (9 : Nat), (12 : Nat), (13 : Nat))]) ({ frames := 23, cells := b, slots := b, locals := 645 })).room).cells ∧ 0 + b ≤ ((headSpec (wsW_ yX0_inspect cX0_inspect 4 (Option.some Jvm.ClassFile.FieldType.int) [((0 : Nat), (9 : Nat), (12 : Nat), (13 : Nat))]) ({ frames := 23, cells := b, slots := b, locals := 645 })).room).slots := ⟨Nat.le_of_eq (Nat.zero_add b), Nat.le_of_eq (Nat.zero_add b)⟩
  have hB12 : ∀ (y0 : Nat) (M : wM) (bq : Nat) (H : Heap) (locs : List Loc) (ls : Array Slot) (cells slots : Nat), B_X0_inspect_12 G Q y0 M bq → wR G M H → va_S (wA G) s.heap H locs → (cells + bq ≤ ((headSpec (wsW_ yX0_inspect cX0_inspect 4 (Option.some Jvm.ClassFile.FieldType.int) [((0 : Nat), (9 : Nat), (12 : Nat), (13 : Nat))]) ({ frames := 23, cells := b, slots := b, locals := 645 })).room).cells ∧ slots + bq ≤ ((headSpec (wsW_ yX0_inspect cX0_inspect 4 (Option.some Jvm.ClassFile.FieldType.int) [((0 : Nat), (9 : Nat), (12 : Nat), (13 : Nat))]) ({ frames := 23, cells := b, slots := b, locals := 645 })).room).slots) → lv_has ls 4 [] → W p l e (headSpec (wsW_ yX0_inspect cX0_inspect 4 (Option.some Jvm.ClassFile.FieldType.int) [((0 : Nat), (9 : Nat), (12 : Nat), (13 : Nat))]) ({ frames := 23, cells := b, slots := b, locals := 645 })).room s m ([.ref p1, .int p2, .ref p3] : List Value).toArray below meth c H locs cells slots (vx_MQ below (wQ G (wqI Q)) (wXC G wX0) ([.ref p1, .int p2, .ref p3] : List Value).toArray s b b (wA G)) (F0 m 12 ls [.ref y0]) := by
    intro y0 M bq H locs ls cells slots hp hM hS hB hl
    refine lv_astore_n (lv' := [(3, .ref y0)]) hx hb dX0_inspect_12 rfl hl (by decide) rfl (fun ls hl => ?_)
    refine lv_iconst (v := 1) hx hb dX0_inspect_13 (by decide) ?_
    exact x_iret X hr hlk hM hS (w_fin hB) dX0_inspect_14 ⟨_, rfl, hp⟩
  refine lv_aload_n hx hb dX0_inspect_0 rfl (lv_at hl 2 rfl) ?_
  refine lv_iconst (v := 0) hx hb dX0_inspect_1 (by decide) ?_
  refine lv_aload_n hx hb dX0_inspect_2 rfl (lv_at hl 0 rfl) ?_
  refine lv_iload_n hx hb dX0_inspect_3 rfl (lv_at hl 1 rfl) ?_
  obtain ⟨hrec, hp⟩ := hp
  obtain ⟨c2, hc1, hp⟩ := hp
  refine x_callI (vx_runV (As := [.int p2]) (rest := [.int (0 : Int32), .ref p3]) X (P_X1_inspect_ok (l := l) hl0 hp) (cwV 1 hts (lw_V q2878 q2879 q2880 q148 q2881) rfl rfl rfl (by decide +kernel) ⟨Nat.le_of_ble_eq_true rfl, Nat.le_of_ble_eq_true rfl⟩) ⟨wPc.blind, w_recv hC.1 hM (ci := 0) (q := (RX1, TX1, 8)) rfl hrec, w_pre hC hM hS _⟩ rfl rfl hl.1 rfl (lv_room (Nat.le_of_ble_eq_true rfl)) dX0_inspect_4 (w_room hB hc1)) hS hB hc1 (fun E ce q5 M6 H locs hp hM hS hB hcell hcv hcl => ?_) (fun v3 M1 H locs hp hM hS hB => ?_)
  · obtain ⟨rfl, hp⟩ := hp
    refine vx_catch (own := "ParkingOfficeLaw") (name := "java/lang/IndexOutOfBoundsException") (E := "java/lang/IndexOutOfBoundsException") hown [] ⟨0, 9, 12, 13⟩ [] (by rw [htab]; rfl) (fun _ h => absurd h List.not_mem_nil) (by decide) (by decide) (hts _ q2176) (va_Nw.use rfl (hC.1.2.2.1 _ q550 rfl)) hcell hcv hcl ?_
    exact hB12 _ _ _ _ _ _ _ _ hp hM hS hB (lv_sub hl [] rfl)
  · refine lv_i2l (v := v3.toInt64) hx hb dX0_inspect_7 rfl ?_
    refine x_last X hC.1 hM hS dX0_inspect_8 hp (fun M4 H locs hM hS hp => ?_)
    refine lv_goto (tgt := 15) hx hb dX0_inspect_9 (by decide) ?_
    refine lv_iconst (v := 0) hx hb dX0_inspect_15 (by decide) ?_
    exact x_iret X hr hlk hM hS (w_fin hB) dX0_inspect_16 ⟨_, rfl, hp⟩
def B_X0_leave_12 (G : wG) (Q : Int32 → wM → Prop) (y0 : Nat) (M : wM) (bq : Nat) : Prop :=
  Q (1 : Int32) M
def P_X0_leave (G : wG) (p1 : Nat) (p2 : Int32) (p3 : Nat) (b : Nat) (M : wM) (Q : Int32 → wM → Prop) : Prop :=
  oIs M p1 0 (∃ c2, c2 ≤ b ∧ P_X1_leave G p1 p2 c2 M (fun v3 M1 => oLast G M1 p3 (0 : Int32) (v3.toInt64) (fun M4 => Q (0 : Int32) M4)) (fun E q5 M6 => (E = "java/lang/IllegalStateException" ∧ (B_X0_leave_12 G Q q5 M6 (b - c2)))))
set_option maxHeartbeats 4000000 in
set_option maxRecDepth 100000 in
theorem P_X0_leave_ok {l : Launch} (hl0 : l.stackTraces = false) {G : wG} {p1 : Nat} {p2 : Int32} {p3 : Nat} {b : Nat} {M : wM} {Q : Int32 → wM → Prop} (hp : P_X0_leave G p1 p2 p3 b M Q) : wMet l yX0_leave (wsW_ yX0_leave cX0_leave 4 (Option.some Jvm.ClassFile.FieldType.int) [((0 : Nat), (9 : Nat), (12 : Nat), (71 : Nat))]) 21 598 G [.ref p1, .int p2, .ref p3] M b (wqI Q) wX0 := by
  refine vx_ofWH (cc := cX0_leave) (maxL := 4) (ret := Option.some Jvm.ClassFile.FieldType.int) (hh := [((0 : Nat), (9 : Nat), (12 : Nat), (71 : Nat))]) (by decide) rfl ?_
  intro p e s m args below meth c s₁ B hml hv
  obtain ⟨rfl, hM, hK, hZ, hz⟩ := hv
  have hC : wC G s := ⟨hK, hZ, hz⟩
  have hx := B.exec
  have hb := B.bytes
  have hr := B.returns
  have hts := atoms_spec (ws := (wsW_ yX0_leave cX0_leave 4 (Option.some Jvm.ClassFile.FieldType.int) [((0 : Nat), (9 : Nat), (12 : Nat), (71 : Nat))])) B.pre
  have htab := vx_table (x := yX0_leave) B (hts _ List.mem_cons_self)
  have hts : ∀ w ∈ lw_all, w.before _ s = true := fun w h => hts w (List.mem_cons_of_mem _ h)
  have hown : s.vm.findClass RX0 = some m.cls := findClass_of_methodNamed B.named
  have hlk := B.notSynchronized
  have X : CallFix p m c cX0_leave 4 s ([.ref p1, .int p2, .ref p3] : List Value).toArray lw_all RX0 := ⟨hx, hb, hml, hown, hts⟩
  have hS : va_S (wA G) s.heap s.heap [] := va_S.rf
  have hl := lv_entry ([.ref p1, .int p2, .ref p3]) (n := 4) (Nat.le_of_ble_eq_true rfl)
  rw [lg_entry_eq]
  generalize (lg_sl ([.ref p1, .int p2, .ref p3]) ++ List.replicate (4 - (lg_sl ([.ref p1, .int p2, .ref p3])).length) Slot.unset).toArray = ls at hl ⊢
  have hl : lv_has ls 4 [(0, .ref p1), (1, .int p2), (2, .ref p3)] := hl
  have hB : 0 + b ≤ ((headSpec (wsW_ yX0_leave cX0_leave 4 (Option.some Jvm.ClassFile.FieldType.int) [((0 : Nat), (9 : Nat), (12 : Nat), (71 : Nat))]) ({ frames := 21, cells := b, slots := b, locals := 598 })).room).cells ∧ 0 + b ≤ ((headSpec (wsW_ yX0_leave cX0_leave 4 (Option.some Jvm.ClassFile.FieldType.int) [((0 : Nat), (9 : Nat), (12 : Nat), (71 : Nat))]) ({ frames := 21, cells := b, slots := b, locals := 598 })).room).slots := ⟨Nat.le_of_eq (Nat.zero_add b), Nat.le_of_eq (Nat.zero_add b)⟩
  have hB12 : ∀ (y0 : Nat) (M : wM) (bq : Nat) (H : Heap) (locs : List Loc) (ls : Array Slot) (cells slots : Nat), B_X0_leave_12 G Q y0 M bq → wR G M H → va_S (wA G) s.heap H locs → (cells + bq ≤ ((headSpec (wsW_ yX0_leave cX0_leave 4 (Option.some Jvm.ClassFile.FieldType.int) [((0 : Nat), (9 : Nat), (12 : Nat), (71 : Nat))]) ({ frames := 21, cells := b, slots := b, locals := 598 })).room).cells ∧ slots + bq ≤ ((headSpec (wsW_ yX0_leave cX0_leave 4 (Option.some Jvm.ClassFile.FieldType.int) [((0 : Nat), (9 : Nat), (12 : Nat), (71 : Nat))]) ({ frames := 21, cells := b, slots := b, locals := 598 })).room).slots) → lv_has ls 4 [] → W p l e (headSpec (wsW_ yX0_leave cX0_leave 4 (Option.some Jvm.ClassFile.FieldType.int) [((0 : Nat), (9 : Nat), (12 : Nat), (71 : Nat))]) ({ frames := 21, cells := b, slots := b, locals := 598 })).room s m ([.ref p1, .int p2, .ref p3] : List Value).toArray below meth c H locs cells slots (vx_MQ below (wQ G (wqI Q)) (wXC G wX0) ([.ref p1, .int p2, .ref p3] : List Value).toArray s b b (wA G)) (F0 m 12 ls [.ref y0]) := by
    intro y0 M bq H locs ls cells slots hp hM hS hB hl
    refine lv_astore_n (lv' := [(3, .ref y0)]) hx hb dX0_leave_12 rfl hl (by decide) rfl (fun ls hl => ?_)
    refine lv_iconst (v := 1) hx hb dX0_leave_13 (by decide) ?_
    exact x_iret X hr hlk hM hS (w_fin hB) dX0_leave_14 ⟨_, rfl, hp⟩
  refine lv_aload_n hx hb dX0_leave_0 rfl (lv_at hl 2 rfl) ?_
  refine lv_iconst (v := 0) hx hb dX0_leave_1 (by decide) ?_
  refine lv_aload_n hx hb dX0_leave_2 rfl (lv_at hl 0 rfl) ?_
  refine lv_iload_n hx hb dX0_leave_3 rfl (lv_at hl 1 rfl) ?_
  obtain ⟨hrec, hp⟩ := hp
  obtain ⟨c2, hc1, hp⟩ := hp
  refine x_callI (vx_runV (As := [.int p2]) (rest := [.int (0 : Int32), .ref p3]) X (P_X1_leave_ok (l := l) hl0 hp) (cwV 1 hts (lw_V q2802 q2803 q2804 q148 q2805) rfl rfl rfl (by decide +kernel) ⟨Nat.le_of_ble_eq_true rfl, Nat.le_of_ble_eq_true rfl⟩) ⟨wPc.blind, w_recv hC.1 hM (ci := 0) (q := (RX1, TX1, 8)) rfl hrec, w_pre hC hM hS _⟩ rfl rfl hl.1 rfl (lv_room (Nat.le_of_ble_eq_true rfl)) dX0_leave_4 (w_room hB hc1)) hS hB hc1 (fun E ce q5 M6 H locs hp hM hS hB hcell hcv hcl => ?_) (fun v3 M1 H locs hp hM hS hB => ?_)
  · obtain ⟨rfl, hp⟩ := hp
    refine vx_catch (own := "ParkingOfficeLaw") (name := "java/lang/IllegalStateException") (E := "java/lang/IllegalStateException") hown [] ⟨0, 9, 12, 71⟩ [] (by rw [htab]; rfl) (fun _ h => absurd h List.not_mem_nil) (by decide) (by decide) (hts _ q2625) (va_Nw.use rfl (hC.1.2.2.1 _ q2578 rfl)) hcell hcv hcl ?_
    exact hB12 _ _ _ _ _ _ _ _ hp hM hS hB (lv_sub hl [] rfl)
  · refine lv_i2l (v := v3.toInt64) hx hb dX0_leave_7 rfl ?_
    refine x_last X hC.1 hM hS dX0_leave_8 hp (fun M4 H locs hM hS hp => ?_)
    refine lv_goto (tgt := 15) hx hb dX0_leave_9 (by decide) ?_
    refine lv_iconst (v := 0) hx hb dX0_leave_15 (by decide) ?_
    exact x_iret X hr hlk hM hS (w_fin hB) dX0_leave_16 ⟨_, rfl, hp⟩
def B_X0_nextToExpire_12 (G : wG) (Q : Int32 → wM → Prop) (y0 : Nat) (M : wM) (bq : Nat) : Prop :=
  Q (1 : Int32) M
def P_X0_nextToExpire (G : wG) (p1 : Nat) (p2 : Int32) (p3 : Nat) (b : Nat) (M : wM) (Q : Int32 → wM → Prop) : Prop :=
  oIs M p1 0 (∃ c2, c2 ≤ b ∧ P_X1_nextToExpire G p1 p2 c2 M (fun v3 M1 => oLast G M1 p3 (0 : Int32) (v3.toInt64) (fun M4 => Q (0 : Int32) M4)) (fun E q5 M6 => (E = "java/lang/IndexOutOfBoundsException" ∧ (B_X0_nextToExpire_12 G Q q5 M6 (b - c2)))))
set_option maxHeartbeats 4000000 in
set_option maxRecDepth 100000 in
theorem P_X0_nextToExpire_ok {l : Launch} (hl0 : l.stackTraces = false) {G : wG} {p1 : Nat} {p2 : Int32} {p3 : Nat} {b : Nat} {M : wM} {Q : Int32 → wM → Prop} (hp : P_X0_nextToExpire G p1 p2 p3 b M Q) : wMet l yX0_nextToExpire (wsW_ yX0_nextToExpire cX0_nextToExpire 4 (Option.some Jvm.ClassFile.FieldType.int) [((0 : Nat), (9 : Nat), (12 : Nat), (13 : Nat))]) 16 488 G [.ref p1, .int p2, .ref p3] M b (wqI Q) wX0 := by
  refine vx_ofWH (cc := cX0_nextToExpire) (maxL := 4) (ret := Option.some Jvm.ClassFile.FieldType.int) (hh := [((0 : Nat), (9 : Nat), (12 : Nat), (13 : Nat))]) (by decide) rfl ?_
  intro p e s m args below meth c s₁ B hml hv
  obtain ⟨rfl, hM, hK, hZ, hz⟩ := hv
  have hC : wC G s := ⟨hK, hZ, hz⟩
  have hx := B.exec
  have hb := B.bytes
  have hr := B.returns
  have hts := atoms_spec (ws := (wsW_ yX0_nextToExpire cX0_nextToExpire 4 (Option.some Jvm.ClassFile.FieldType.int) [((0 : Nat), (9 : Nat), (12 : Nat), (13 : Nat))])) B.pre
  have htab := vx_table (x := yX0_nextToExpire) B (hts _ List.mem_cons_self)
  have hts : ∀ w ∈ lw_all, w.before _ s = true := fun w h => hts w (List.mem_cons_of_mem _ h)
  have hown : s.vm.findClass RX0 = some m.cls := findClass_of_methodNamed B.named
  have hlk := B.notSynchronized
  have X : CallFix p m c cX0_nextToExpire 4 s ([.ref p1, .int p2, .ref p3] : List Value).toArray lw_all RX0 := ⟨hx, hb, hml, hown, hts⟩
  have hS : va_S (wA G) s.heap s.heap [] := va_S.rf
  have hl := lv_entry ([.ref p1, .int p2, .ref p3]) (n := 4) (Nat.le_of_ble_eq_true rfl)
  rw [lg_entry_eq]
  generalize (lg_sl ([.ref p1, .int p2, .ref p3]) ++ List.replicate (4 - (lg_sl ([.ref p1, .int p2, .ref p3])).length) Slot.unset).toArray = ls at hl ⊢
  have hl : lv_has ls 4 [(0, .ref p1), (1, .int p2), (2, .ref p3)] := hl
  have hB : 0 + b ≤ ((headSpec (wsW_ yX0_nextToExpire cX0_nextToExpire 4 (Option.some Jvm.ClassFile.FieldType.int) [((0 : Nat), (9 : Nat), (12 : Nat), (13 : Nat))]) ({ frames := 16, cells := b, slots := b, locals := 488 })).room).cells ∧ 0 + b ≤ ((headSpec (wsW_ yX0_nextToExpire cX0_nextToExpire 4 (Option.some Jvm.ClassFile.FieldType.int) [((0 : Nat), (9 : Nat), (12 : Nat), (13 : Nat))]) ({ frames := 16, cells := b, slots := b, locals := 488 })).room).slots := ⟨Nat.le_of_eq (Nat.zero_add b), Nat.le_of_eq (Nat.zero_add b)⟩
  have hB12 : ∀ (y0 : Nat) (M : wM) (bq : Nat) (H : Heap) (locs : List Loc) (ls : Array Slot) (cells slots : Nat), B_X0_nextToExpire_12 G Q y0 M bq → wR G M H → va_S (wA G) s.heap H locs → (cells + bq ≤ ((headSpec (wsW_ yX0_nextToExpire cX0_nextToExpire 4 (Option.some Jvm.ClassFile.FieldType.int) [((0 : Nat), (9 : Nat), (12 : Nat), (13 : Nat))]) ({ frames := 16, cells := b, slots := b, locals := 488 })).room).cells ∧ slots + bq ≤ ((headSpec (wsW_ yX0_nextToExpire cX0_nextToExpire 4 (Option.some Jvm.ClassFile.FieldType.int) [((0 : Nat), (9 : Nat), (12 : Nat), (13 : Nat))]) ({ frames := 16, cells := b, slots := b, locals := 488 })).room).slots) → lv_has ls 4 [] → W p l e (headSpec (wsW_ yX0_nextToExpire cX0_nextToExpire 4 (Option.some Jvm.ClassFile.FieldType.int) [((0 : Nat), (9 : Nat), (12 : Nat), (13 : Nat))]) ({ frames := 16, cells := b, slots := b, locals := 488 })).room s m ([.ref p1, .int p2, .ref p3] : List Value).toArray below meth c H locs cells slots (vx_MQ below (wQ G (wqI Q)) (wXC G wX0) ([.ref p1, .int p2, .ref p3] : List Value).toArray s b b (wA G)) (F0 m 12 ls [.ref y0]) := by
    intro y0 M bq H locs ls cells slots hp hM hS hB hl
    refine lv_astore_n (lv' := [(3, .ref y0)]) hx hb dX0_nextToExpire_12 rfl hl (by decide) rfl (fun ls hl => ?_)
    refine lv_iconst (v := 1) hx hb dX0_nextToExpire_13 (by decide) ?_
    exact x_iret X hr hlk hM hS (w_fin hB) dX0_nextToExpire_14 ⟨_, rfl, hp⟩
  refine lv_aload_n hx hb dX0_nextToExpire_0 rfl (lv_at hl 2 rfl) ?_
  refine lv_iconst (v := 0) hx hb dX0_nextToExpire_1 (by decide) ?_
  refine lv_aload_n hx hb dX0_nextToExpire_2 rfl (lv_at hl 0 rfl) ?_
  refine lv_iload_n hx hb dX0_nextToExpire_3 rfl (lv_at hl 1 rfl) ?_
  obtain ⟨hrec, hp⟩ := hp
  obtain ⟨c2, hc1, hp⟩ := hp
  refine x_callI (vx_runV (As := [.int p2]) (rest := [.int (0 : Int32), .ref p3]) X (P_X1_nextToExpire_ok (l := l) hl0 hp) (cwV 1 hts (lw_V q2419 q2420 q2421 q148 q2422) rfl rfl rfl (by decide +kernel) ⟨Nat.le_of_ble_eq_true rfl, Nat.le_of_ble_eq_true rfl⟩) ⟨wPc.blind, w_recv hC.1 hM (ci := 0) (q := (RX1, TX1, 8)) rfl hrec, w_pre hC hM hS _⟩ rfl rfl hl.1 rfl (lv_room (Nat.le_of_ble_eq_true rfl)) dX0_nextToExpire_4 (w_room hB hc1)) hS hB hc1 (fun E ce q5 M6 H locs hp hM hS hB hcell hcv hcl => ?_) (fun v3 M1 H locs hp hM hS hB => ?_)
  · obtain ⟨rfl, hp⟩ := hp
    refine vx_catch (own := "ParkingOfficeLaw") (name := "java/lang/IndexOutOfBoundsException") (E := "java/lang/IndexOutOfBoundsException") hown [] ⟨0, 9, 12, 13⟩ [] (by rw [htab]; rfl) (fun _ h => absurd h List.not_mem_nil) (by decide) (by decide) (hts _ q2176) (va_Nw.use rfl (hC.1.2.2.1 _ q550 rfl)) hcell hcv hcl ?_
    exact hB12 _ _ _ _ _ _ _ _ hp hM hS hB (lv_sub hl [] rfl)
  · refine lv_i2l (v := v3.toInt64) hx hb dX0_nextToExpire_7 rfl ?_
    refine x_last X hC.1 hM hS dX0_nextToExpire_8 hp (fun M4 H locs hM hS hp => ?_)
    refine lv_goto (tgt := 15) hx hb dX0_nextToExpire_9 (by decide) ?_
    refine lv_iconst (v := 0) hx hb dX0_nextToExpire_15 (by decide) ?_
    exact x_iret X hr hlk hM hS (w_fin hB) dX0_nextToExpire_16 ⟨_, rfl, hp⟩
def B_X0_offerIn_13 (G : wG) (Q : Int32 → wM → Prop) (y0 : Nat) (M : wM) (bq : Nat) : Prop :=
  Q (1 : Int32) M
def B_X0_offerIn_17 (G : wG) (Q : Int32 → wM → Prop) (y0 : Nat) (M : wM) (bq : Nat) : Prop :=
  Q (2 : Int32) M
def P_X0_offerIn (G : wG) (p1 : Nat) (p2 : Int32) (p3 : Int32) (p4 : Nat) (b : Nat) (M : wM) (Q : Int32 → wM → Prop) : Prop :=
  oIs M p1 0 (∃ c2, c2 ≤ b ∧ P_X1_offerIn G p1 p2 p3 c2 M (fun v3 M1 => oLast G M1 p4 (0 : Int32) (v3.toInt64) (fun M4 => Q (0 : Int32) M4)) (fun E q5 M6 => (E = "java/lang/IllegalArgumentException" ∧ (B_X0_offerIn_17 G Q q5 M6 (b - c2))) ∨ (E = "java/lang/IndexOutOfBoundsException" ∧ (B_X0_offerIn_13 G Q q5 M6 (b - c2)))))
set_option maxHeartbeats 4000000 in
set_option maxRecDepth 100000 in
theorem P_X0_offerIn_ok {l : Launch} (hl0 : l.stackTraces = false) {G : wG} {p1 : Nat} {p2 : Int32} {p3 : Int32} {p4 : Nat} {b : Nat} {M : wM} {Q : Int32 → wM → Prop} (hp : P_X0_offerIn G p1 p2 p3 p4 b M Q) : wMet l yX0_offerIn (wsW_ yX0_offerIn cX0_offerIn 5 (Option.some Jvm.ClassFile.FieldType.int) [((0 : Nat), (10 : Nat), (13 : Nat), (13 : Nat)), ((0 : Nat), (10 : Nat), (17 : Nat), (25 : Nat))]) 22 624 G [.ref p1, .int p2, .int p3, .ref p4] M b (wqI Q) wX0 := by
  refine vx_ofWH (cc := cX0_offerIn) (maxL := 5) (ret := Option.some Jvm.ClassFile.FieldType.int) (hh := [((0 : Nat), (10 : Nat), (13 : Nat), (13 : Nat)), ((0 : Nat), (10 : Nat), (17 : Nat), (25 : Nat))]) (by decide) rfl ?_
  intro p e s m args below meth c s₁ B hml hv
  obtain ⟨rfl, hM, hK, hZ, hz⟩ := hv
  have hC : wC G s := ⟨hK, hZ, hz⟩
  have hx := B.exec
  have hb := B.bytes
  have hr := B.returns
  have hts := atoms_spec (ws := (wsW_ yX0_offerIn cX0_offerIn 5 (Option.some Jvm.ClassFile.FieldType.int) [((0 : Nat), (10 : Nat), (13 : Nat), (13 : Nat)), ((0 : Nat), (10 : Nat), (17 : Nat), (25 : Nat))])) B.pre
  have htab := vx_table (x := yX0_offerIn) B (hts _ List.mem_cons_self)
  have hts : ∀ w ∈ lw_all, w.before _ s = true := fun w h => hts w (List.mem_cons_of_mem _ h)
  have hown : s.vm.findClass RX0 = some m.cls := findClass_of_methodNamed B.named
  have hlk := B.notSynchronized
  have X : CallFix p m c cX0_offerIn 5 s ([.ref p1, .int p2, .int p3, .ref p4] : List Value).toArray lw_all RX0 := ⟨hx, hb, hml, hown, hts⟩
  have hS : va_S (wA G) s.heap s.heap [] := va_S.rf
  have hl := lv_entry ([.ref p1, .int p2, .int p3, .ref p4]) (n := 5) (Nat.le_of_ble_eq_true rfl)
  rw [lg_entry_eq]
  generalize (lg_sl ([.ref p1, .int p2, .int p3, .ref p4]) ++ List.replicate (5 - (lg_sl ([.ref p1, .int p2, .int p3, .ref p4])).length) Slot.unset).toArray = ls at hl ⊢
  have hl : lv_has ls 5 [(0, .ref p1), (1, .int p2), (2, .int p3), (3, .ref p4)] := hl
  have hB : 0 + b ≤ ((headSpec (wsW_ yX0_offerIn cX0_offerIn 5 (Option.some Jvm.ClassFile.FieldType.int) [((0 : Nat), (10 : Nat), (13 : Nat), (13 : Nat)), ((0 : Nat), (10 : Nat), (17 : Nat), (25 : Nat))]) ({ frames := 22, cells := b, slots := b, locals := 624 })).room).cells ∧ 0 + b ≤ ((headSpec (wsW_ yX0_offerIn cX0_offerIn 5 (Option.some Jvm.ClassFile.FieldType.int) [((0 : Nat), (10 : Nat), (13 : Nat), (13 : Nat)), ((0 : Nat), (10 : Nat), (17 : Nat), (25 : Nat))]) ({ frames := 22, cells := b, slots := b, locals := 624 })).room).slots := ⟨Nat.le_of_eq (Nat.zero_add b), Nat.le_of_eq (Nat.zero_add b)⟩
  have hB13 : ∀ (y0 : Nat) (M : wM) (bq : Nat) (H : Heap) (locs : List Loc) (ls : Array Slot) (cells slots : Nat), B_X0_offerIn_13 G Q y0 M bq → wR G M H → va_S (wA G) s.heap H locs → (cells + bq ≤ ((headSpec (wsW_ yX0_offerIn cX0_offerIn 5 (Option.some Jvm.ClassFile.FieldType.int) [((0 : Nat), (10 : Nat), (13 : Nat), (13 : Nat)), ((0 : Nat), (10 : Nat), (17 : Nat), (25 : Nat))]) ({ frames := 22, cells := b, slots := b, locals := 624 })).room).cells ∧ slots + bq ≤ ((headSpec (wsW_ yX0_offerIn cX0_offerIn 5 (Option.some Jvm.ClassFile.FieldType.int) [((0 : Nat), (10 : Nat), (13 : Nat), (13 : Nat)), ((0 : Nat), (10 : Nat), (17 : Nat), (25 : Nat))]) ({ frames := 22, cells := b, slots := b, locals := 624 })).room).slots) → lv_has ls 5 [] → W p l e (headSpec (wsW_ yX0_offerIn cX0_offerIn 5 (Option.some Jvm.ClassFile.FieldType.int) [((0 : Nat), (10 : Nat), (13 : Nat), (13 : Nat)), ((0 : Nat), (10 : Nat), (17 : Nat), (25 : Nat))]) ({ frames := 22, cells := b, slots := b, locals := 624 })).room s m ([.ref p1, .int p2, .int p3, .ref p4] : List Value).toArray below meth c H locs cells slots (vx_MQ below (wQ G (wqI Q)) (wXC G wX0) ([.ref p1, .int p2, .int p3, .ref p4] : List Value).toArray s b b (wA G)) (F0 m 13 ls [.ref y0]) := by
    intro y0 M bq H locs ls cells slots hp hM hS hB hl
    refine lv_astore (lv' := [(4, .ref y0)]) hx hb dX0_offerIn_13 hl (by decide) rfl (fun ls hl => ?_)
    refine lv_iconst (v := 1) hx hb dX0_offerIn_15 (by decide) ?_
    exact x_iret X hr hlk hM hS (w_fin hB) dX0_offerIn_16 ⟨_, rfl, hp⟩
  have hB17 : ∀ (y0 : Nat) (M : wM) (bq : Nat) (H : Heap) (locs : List Loc) (ls : Array Slot) (cells slots : Nat), B_X0_offerIn_17 G Q y0 M bq → wR G M H → va_S (wA G) s.heap H locs → (cells + bq ≤ ((headSpec (wsW_ yX0_offerIn cX0_offerIn 5 (Option.some Jvm.ClassFile.FieldType.int) [((0 : Nat), (10 : Nat), (13 : Nat), (13 : Nat)), ((0 : Nat), (10 : Nat), (17 : Nat), (25 : Nat))]) ({ frames := 22, cells := b, slots := b, locals := 624 })).room).cells ∧ slots + bq ≤ ((headSpec (wsW_ yX0_offerIn cX0_offerIn 5 (Option.some Jvm.ClassFile.FieldType.int) [((0 : Nat), (10 : Nat), (13 : Nat), (13 : Nat)), ((0 : Nat), (10 : Nat), (17 : Nat), (25 : Nat))]) ({ frames := 22, cells := b, slots := b, locals := 624 })).room).slots) → lv_has ls 5 [] → W p l e (headSpec (wsW_ yX0_offerIn cX0_offerIn 5 (Option.some Jvm.ClassFile.FieldType.int) [((0 : Nat), (10 : Nat), (13 : Nat), (13 : Nat)), ((0 : Nat), (10 : Nat), (17 : Nat), (25 : Nat))]) ({ frames := 22, cells := b, slots := b, locals := 624 })).room s m ([.ref p1, .int p2, .int p3, .ref p4] : List Value).toArray below meth c H locs cells slots (vx_MQ below (wQ G (wqI Q)) (wXC G wX0) ([.ref p1, .int p2, .int p3, .ref p4] : List Value).toArray s b b (wA G)) (F0 m 17 ls [.ref y0]) := by
    intro y0 M bq H locs ls cells slots hp hM hS hB hl
    refine lv_astore (lv' := [(4, .ref y0)]) hx hb dX0_offerIn_17 hl (by decide) rfl (fun ls hl => ?_)
    refine lv_iconst (v := 2) hx hb dX0_offerIn_19 (by decide) ?_
    exact x_iret X hr hlk hM hS (w_fin hB) dX0_offerIn_20 ⟨_, rfl, hp⟩
  refine lv_aload_n hx hb dX0_offerIn_0 rfl (lv_at hl 3 rfl) ?_
  refine lv_iconst (v := 0) hx hb dX0_offerIn_1 (by decide) ?_
  refine lv_aload_n hx hb dX0_offerIn_2 rfl (lv_at hl 0 rfl) ?_
  refine lv_iload_n hx hb dX0_offerIn_3 rfl (lv_at hl 1 rfl) ?_
  refine lv_iload_n hx hb dX0_offerIn_4 rfl (lv_at hl 2 rfl) ?_
  obtain ⟨hrec, hp⟩ := hp
  obtain ⟨c2, hc1, hp⟩ := hp
  refine x_callI (vx_runV (As := [.int p2, .int p3]) (rest := [.int (0 : Int32), .ref p4]) X (P_X1_offerIn_ok (l := l) hl0 hp) (cwV 2 hts (lw_V q3017 q3018 q3019 q148 q3020) rfl rfl rfl (by decide +kernel) ⟨Nat.le_of_ble_eq_true rfl, Nat.le_of_ble_eq_true rfl⟩) ⟨wPc.blind, w_recv hC.1 hM (ci := 0) (q := (RX1, TX1, 8)) rfl hrec, w_pre hC hM hS _⟩ rfl rfl hl.1 rfl (lv_room (Nat.le_of_ble_eq_true rfl)) dX0_offerIn_5 (w_room hB hc1)) hS hB hc1 (fun E ce q5 M6 H locs hp hM hS hB hcell hcv hcl => ?_) (fun v3 M1 H locs hp hM hS hB => ?_)
  · rcases hp with ⟨rfl, hp⟩ | ⟨rfl, hp⟩
    · refine vx_catch (own := "ParkingOfficeLaw") (name := "java/lang/IllegalArgumentException") (E := "java/lang/IllegalArgumentException") hown [⟨0, 10, 13, 13⟩] ⟨0, 10, 17, 25⟩ [] (by rw [htab]; rfl) (List.forall_mem_cons.mpr ⟨(Or.inr ⟨by decide, "java/lang/IndexOutOfBoundsException", hts _ q2176, hC.1.2.2.2.2.2.1 ("java/lang/IllegalArgumentException", "java/lang/IndexOutOfBoundsException") (List.mem_of_getElem? (i := 7) rfl)⟩), (fun _ h => absurd h List.not_mem_nil)⟩) (by decide) (by decide) (hts _ q2317) (va_Nw.use rfl (hC.1.2.2.1 _ q806 rfl)) hcell hcv hcl ?_
      exact hB17 _ _ _ _ _ _ _ _ hp hM hS hB (lv_sub hl [] rfl)
    · refine vx_catch (own := "ParkingOfficeLaw") (name := "java/lang/IndexOutOfBoundsException") (E := "java/lang/IndexOutOfBoundsException") hown [] ⟨0, 10, 13, 13⟩ [⟨0, 10, 17, 25⟩] (by rw [htab]; rfl) (fun _ h => absurd h List.not_mem_nil) (by decide) (by decide) (hts _ q2176) (va_Nw.use rfl (hC.1.2.2.1 _ q550 rfl)) hcell hcv hcl ?_
      exact hB13 _ _ _ _ _ _ _ _ hp hM hS hB (lv_sub hl [] rfl)
  · refine lv_i2l (v := v3.toInt64) hx hb dX0_offerIn_8 rfl ?_
    refine x_last X hC.1 hM hS dX0_offerIn_9 hp (fun M4 H locs hM hS hp => ?_)
    refine lv_goto (tgt := 21) hx hb dX0_offerIn_10 (by decide) ?_
    refine lv_iconst (v := 0) hx hb dX0_offerIn_21 (by decide) ?_
    exact x_iret X hr hlk hM hS (w_fin hB) dX0_offerIn_22 ⟨_, rfl, hp⟩
def B_X0_park_13 (G : wG) (Q : Int32 → wM → Prop) (y0 : Nat) (M : wM) (bq : Nat) : Prop :=
  Q (1 : Int32) M
def B_X0_park_17 (G : wG) (Q : Int32 → wM → Prop) (y0 : Nat) (M : wM) (bq : Nat) : Prop :=
  Q (2 : Int32) M
def B_X0_park_21 (G : wG) (Q : Int32 → wM → Prop) (y0 : Nat) (M : wM) (bq : Nat) : Prop :=
  Q (3 : Int32) M
def P_X0_park (G : wG) (p1 : Nat) (p2 : Int32) (p3 : Int32) (p4 : Nat) (b : Nat) (M : wM) (Q : Int32 → wM → Prop) : Prop :=
  oIs M p1 0 (∃ c2, c2 ≤ b ∧ P_X1_park G p1 p2 p3 c2 M (fun v3 M1 => oLast G M1 p4 (0 : Int32) (v3.toInt64) (fun M4 => Q (0 : Int32) M4)) (fun E q5 M6 => (E = "java/lang/IllegalArgumentException" ∧ (B_X0_park_17 G Q q5 M6 (b - c2))) ∨ (E = "java/lang/IllegalStateException" ∧ (B_X0_park_21 G Q q5 M6 (b - c2))) ∨ (E = "java/lang/IndexOutOfBoundsException" ∧ (B_X0_park_13 G Q q5 M6 (b - c2)))))
set_option maxHeartbeats 4000000 in
set_option maxRecDepth 100000 in
theorem P_X0_park_ok {l : Launch} (hl0 : l.stackTraces = false) {G : wG} {p1 : Nat} {p2 : Int32} {p3 : Int32} {p4 : Nat} {b : Nat} {M : wM} {Q : Int32 → wM → Prop} (hp : P_X0_park G p1 p2 p3 p4 b M Q) : wMet l yX0_park (wsW_ yX0_park cX0_park 5 (Option.some Jvm.ClassFile.FieldType.int) [((0 : Nat), (10 : Nat), (13 : Nat), (13 : Nat)), ((0 : Nat), (10 : Nat), (17 : Nat), (25 : Nat)), ((0 : Nat), (10 : Nat), (21 : Nat), (71 : Nat))]) 21 598 G [.ref p1, .int p2, .int p3, .ref p4] M b (wqI Q) wX0 := by
  refine vx_ofWH (cc := cX0_park) (maxL := 5) (ret := Option.some Jvm.ClassFile.FieldType.int) (hh := [((0 : Nat), (10 : Nat), (13 : Nat), (13 : Nat)), ((0 : Nat), (10 : Nat), (17 : Nat), (25 : Nat)), ((0 : Nat), (10 : Nat), (21 : Nat), (71 : Nat))]) (by decide) rfl ?_
  intro p e s m args below meth c s₁ B hml hv
  obtain ⟨rfl, hM, hK, hZ, hz⟩ := hv
  have hC : wC G s := ⟨hK, hZ, hz⟩
  have hx := B.exec
  have hb := B.bytes
  have hr := B.returns
  have hts := atoms_spec (ws := (wsW_ yX0_park cX0_park 5 (Option.some Jvm.ClassFile.FieldType.int) [((0 : Nat), (10 : Nat), (13 : Nat), (13 : Nat)), ((0 : Nat), (10 : Nat), (17 : Nat), (25 : Nat)), ((0 : Nat), (10 : Nat), (21 : Nat), (71 : Nat))])) B.pre
  have htab := vx_table (x := yX0_park) B (hts _ List.mem_cons_self)
  have hts : ∀ w ∈ lw_all, w.before _ s = true := fun w h => hts w (List.mem_cons_of_mem _ h)
  have hown : s.vm.findClass RX0 = some m.cls := findClass_of_methodNamed B.named
  have hlk := B.notSynchronized
  have X : CallFix p m c cX0_park 5 s ([.ref p1, .int p2, .int p3, .ref p4] : List Value).toArray lw_all RX0 := ⟨hx, hb, hml, hown, hts⟩
  have hS : va_S (wA G) s.heap s.heap [] := va_S.rf
  have hl := lv_entry ([.ref p1, .int p2, .int p3, .ref p4]) (n := 5) (Nat.le_of_ble_eq_true rfl)
  rw [lg_entry_eq]
  generalize (lg_sl ([.ref p1, .int p2, .int p3, .ref p4]) ++ List.replicate (5 - (lg_sl ([.ref p1, .int p2, .int p3, .ref p4])).length) Slot.unset).toArray = ls at hl ⊢
  have hl : lv_has ls 5 [(0, .ref p1), (1, .int p2), (2, .int p3), (3, .ref p4)] := hl
  have hB : 0 + b ≤ ((headSpec (wsW_ yX0_park cX0_park 5 (Option.some Jvm.ClassFile.FieldType.int) [((0 : Nat), (10 : Nat), (13 : Nat), (13 : Nat)), ((0 : Nat), (10 : Nat), (17 : Nat), (25 : Nat)), ((0 : Nat), (10 : Nat), (21 : Nat), (71 : Nat))]) ({ frames := 21, cells := b, slots := b, locals := 598 })).room).cells ∧ 0 + b ≤ ((headSpec (wsW_ yX0_park cX0_park 5 (Option.some Jvm.ClassFile.FieldType.int) [((0 : Nat), (10 : Nat), (13 : Nat), (13 : Nat)), ((0 : Nat), (10 : Nat), (17 : Nat), (25 : Nat)), ((0 : Nat), (10 : Nat), (21 : Nat), (71 : Nat))]) ({ frames := 21, cells := b, slots := b, locals := 598 })).room).slots := ⟨Nat.le_of_eq (Nat.zero_add b), Nat.le_of_eq (Nat.zero_add b)⟩
  have hB13 : ∀ (y0 : Nat) (M : wM) (bq : Nat) (H : Heap) (locs : List Loc) (ls : Array Slot) (cells slots : Nat), B_X0_park_13 G Q y0 M bq → wR G M H → va_S (wA G) s.heap H locs → (cells + bq ≤ ((headSpec (wsW_ yX0_park cX0_park 5 (Option.some Jvm.ClassFile.FieldType.int) [((0 : Nat), (10 : Nat), (13 : Nat), (13 : Nat)), ((0 : Nat), (10 : Nat), (17 : Nat), (25 : Nat)), ((0 : Nat), (10 : Nat), (21 : Nat), (71 : Nat))]) ({ frames := 21, cells := b, slots := b, locals := 598 })).room).cells ∧ slots + bq ≤ ((headSpec (wsW_ yX0_park cX0_park 5 (Option.some Jvm.ClassFile.FieldType.int) [((0 : Nat), (10 : Nat), (13 : Nat), (13 : Nat)), ((0 : Nat), (10 : Nat), (17 : Nat), (25 : Nat)), ((0 : Nat), (10 : Nat), (21 : Nat), (71 : Nat))]) ({ frames := 21, cells := b, slots := b, locals := 598 })).room).slots) → lv_has ls 5 [] → W p l e (headSpec (wsW_ yX0_park cX0_park 5 (Option.some Jvm.ClassFile.FieldType.int) [((0 : Nat), (10 : Nat), (13 : Nat), (13 : Nat)), ((0 : Nat), (10 : Nat), (17 : Nat), (25 : Nat)), ((0 : Nat), (10 : Nat), (21 : Nat), (71 : Nat))]) ({ frames := 21, cells := b, slots := b, locals := 598 })).room s m ([.ref p1, .int p2, .int p3, .ref p4] : List Value).toArray below meth c H locs cells slots (vx_MQ below (wQ G (wqI Q)) (wXC G wX0) ([.ref p1, .int p2, .int p3, .ref p4] : List Value).toArray s b b (wA G)) (F0 m 13 ls [.ref y0]) := by
    intro y0 M bq H locs ls cells slots hp hM hS hB hl
    refine lv_astore (lv' := [(4, .ref y0)]) hx hb dX0_park_13 hl (by decide) rfl (fun ls hl => ?_)
    refine lv_iconst (v := 1) hx hb dX0_park_15 (by decide) ?_
    exact x_iret X hr hlk hM hS (w_fin hB) dX0_park_16 ⟨_, rfl, hp⟩
  have hB17 : ∀ (y0 : Nat) (M : wM) (bq : Nat) (H : Heap) (locs : List Loc) (ls : Array Slot) (cells slots : Nat), B_X0_park_17 G Q y0 M bq → wR G M H → va_S (wA G) s.heap H locs → (cells + bq ≤ ((headSpec (wsW_ yX0_park cX0_park 5 (Option.some Jvm.ClassFile.FieldType.int) [((0 : Nat), (10 : Nat), (13 : Nat), (13 : Nat)), ((0 : Nat), (10 : Nat), (17 : Nat), (25 : Nat)), ((0 : Nat), (10 : Nat), (21 : Nat), (71 : Nat))]) ({ frames := 21, cells := b, slots := b, locals := 598 })).room).cells ∧ slots + bq ≤ ((headSpec (wsW_ yX0_park cX0_park 5 (Option.some Jvm.ClassFile.FieldType.int) [((0 : Nat), (10 : Nat), (13 : Nat), (13 : Nat)), ((0 : Nat), (10 : Nat), (17 : Nat), (25 : Nat)), ((0 : Nat), (10 : Nat), (21 : Nat), (71 : Nat))]) ({ frames := 21, cells := b, slots := b, locals := 598 })).room).slots) → lv_has ls 5 [] → W p l e (headSpec (wsW_ yX0_park cX0_park 5 (Option.some Jvm.ClassFile.FieldType.int) [((0 : Nat), (10 : Nat), (13 : Nat), (13 : Nat)), ((0 : Nat), (10 : Nat), (17 : Nat), (25 : Nat)), ((0 : Nat), (10 : Nat), (21 : Nat), (71 : Nat))]) ({ frames := 21, cells := b, slots := b, locals := 598 })).room s m ([.ref p1, .int p2, .int p3, .ref p4] : List Value).toArray below meth c H locs cells slots (vx_MQ below (wQ G (wqI Q)) (wXC G wX0) ([.ref p1, .int p2, .int p3, .ref p4] : List Value).toArray s b b (wA G)) (F0 m 17 ls [.ref y0]) := by
    intro y0 M bq H locs ls cells slots hp hM hS hB hl
    refine lv_astore (lv' := [(4, .ref y0)]) hx hb dX0_park_17 hl (by decide) rfl (fun ls hl => ?_)
    refine lv_iconst (v := 2) hx hb dX0_park_19 (by decide) ?_
    exact x_iret X hr hlk hM hS (w_fin hB) dX0_park_20 ⟨_, rfl, hp⟩
  have hB21 : ∀ (y0 : Nat) (M : wM) (bq : Nat) (H : Heap) (locs : List Loc) (ls : Array Slot) (cells slots : Nat), B_X0_park_21 G Q y0 M bq → wR G M H → va_S (wA G) s.heap H locs → (cells + bq ≤ ((headSpec (wsW_ yX0_park cX0_park 5 (Option.some Jvm.ClassFile.FieldType.int) [((0 : Nat), (10 : Nat), (13 : Nat), (13 : Nat)), ((0 : Nat), (10 : Nat), (17 : Nat), (25 : Nat)), ((0 : Nat), (10 : Nat), (21 : Nat), (71 : Nat))]) ({ frames := 21, cells := b, slots := b, locals := 598 })).room).cells ∧ slots + bq ≤ ((headSpec (wsW_ yX0_park cX0_park 5 (Option.some Jvm.ClassFile.FieldType.int) [((0 : Nat), (10 : Nat), (13 : Nat), (13 : Nat)), ((0 : Nat), (10 : Nat), (17 : Nat), (25 : Nat)), ((0 : Nat), (10 : Nat), (21 : Nat), (71 : Nat))]) ({ frames := 21, cells := b, slots := b, locals := 598 })).room).slots) → lv_has ls 5 [] → W p l e (headSpec (wsW_ yX0_park cX0_park 5 (Option.some Jvm.ClassFile.FieldType.int) [((0 : Nat), (10 : Nat), (13 : Nat), (13 : Nat)), ((0 : Nat), (10 : Nat), (17 : Nat), (25 : Nat)), ((0 : Nat), (10 : Nat), (21 : Nat), (71 : Nat))]) ({ frames := 21, cells := b, slots := b, locals := 598 })).room s m ([.ref p1, .int p2, .int p3, .ref p4] : List Value).toArray below meth c H locs cells slots (vx_MQ below (wQ G (wqI Q)) (wXC G wX0) ([.ref p1, .int p2, .int p3, .ref p4] : List Value).toArray s b b (wA G)) (F0 m 21 ls [.ref y0]) := by
    intro y0 M bq H locs ls cells slots hp hM hS hB hl
    refine lv_astore (lv' := [(4, .ref y0)]) hx hb dX0_park_21 hl (by decide) rfl (fun ls hl => ?_)
    refine lv_iconst (v := 3) hx hb dX0_park_23 (by decide) ?_
    exact x_iret X hr hlk hM hS (w_fin hB) dX0_park_24 ⟨_, rfl, hp⟩
  refine lv_aload_n hx hb dX0_park_0 rfl (lv_at hl 3 rfl) ?_
  refine lv_iconst (v := 0) hx hb dX0_park_1 (by decide) ?_
  refine lv_aload_n hx hb dX0_park_2 rfl (lv_at hl 0 rfl) ?_
  refine lv_iload_n hx hb dX0_park_3 rfl (lv_at hl 1 rfl) ?_
  refine lv_iload_n hx hb dX0_park_4 rfl (lv_at hl 2 rfl) ?_
  obtain ⟨hrec, hp⟩ := hp
  obtain ⟨c2, hc1, hp⟩ := hp
  refine x_callI (vx_runVX (As := [.int p2, .int p3]) (rest := [.int (0 : Int32), .ref p4]) X (P_X1_park_ok (l := l) hl0 hp) (vx_cwVW 2 hts (lw_VW q2767 q2768 q2769 q148 q2770) rfl rfl rfl (by decide +kernel) ⟨Nat.le_of_ble_eq_true rfl, Nat.le_of_ble_eq_true rfl⟩) ⟨wPc.blind, w_recv hC.1 hM (ci := 0) (q := (RX1, TX1, 8)) rfl hrec, w_pre hC hM hS _⟩ rfl rfl hl.1 rfl (lv_room (Nat.le_of_ble_eq_true rfl)) dX0_park_5 (w_room hB hc1)) hS hB hc1 (fun E ce q5 M6 H locs hp hM hS hB hcell hcv hcl => ?_) (fun v3 M1 H locs hp hM hS hB => ?_)
  · rcases hp with ⟨rfl, hp⟩ | ⟨rfl, hp⟩ | ⟨rfl, hp⟩
    · refine vx_catch (own := "ParkingOfficeLaw") (name := "java/lang/IllegalArgumentException") (E := "java/lang/IllegalArgumentException") hown [⟨0, 10, 13, 13⟩] ⟨0, 10, 17, 25⟩ [⟨0, 10, 21, 71⟩] (by rw [htab]; rfl) (List.forall_mem_cons.mpr ⟨(Or.inr ⟨by decide, "java/lang/IndexOutOfBoundsException", hts _ q2176, hC.1.2.2.2.2.2.1 ("java/lang/IllegalArgumentException", "java/lang/IndexOutOfBoundsException") (List.mem_of_getElem? (i := 7) rfl)⟩), (fun _ h => absurd h List.not_mem_nil)⟩) (by decide) (by decide) (hts _ q2317) (va_Nw.use rfl (hC.1.2.2.1 _ q806 rfl)) hcell hcv hcl ?_
      exact hB17 _ _ _ _ _ _ _ _ hp hM hS hB (lv_sub hl [] rfl)
    · refine vx_catch (own := "ParkingOfficeLaw") (name := "java/lang/IllegalStateException") (E := "java/lang/IllegalStateException") hown [⟨0, 10, 13, 13⟩, ⟨0, 10, 17, 25⟩] ⟨0, 10, 21, 71⟩ [] (by rw [htab]; rfl) (List.forall_mem_cons.mpr ⟨(Or.inr ⟨by decide, "java/lang/IndexOutOfBoundsException", hts _ q2176, hC.1.2.2.2.2.2.1 ("java/lang/IllegalStateException", "java/lang/IndexOutOfBoundsException") (List.mem_of_getElem? (i := 14) rfl)⟩), (List.forall_mem_cons.mpr ⟨(Or.inr ⟨by decide, "java/lang/IllegalArgumentException", hts _ q2317, hC.1.2.2.2.2.2.1 ("java/lang/IllegalStateException", "java/lang/IllegalArgumentException") (List.mem_of_getElem? (i := 15) rfl)⟩), (fun _ h => absurd h List.not_mem_nil)⟩)⟩) (by decide) (by decide) (hts _ q2625) (va_Nw.use rfl (hC.1.2.2.1 _ q2578 rfl)) hcell hcv hcl ?_
      exact hB21 _ _ _ _ _ _ _ _ hp hM hS hB (lv_sub hl [] rfl)
    · refine vx_catch (own := "ParkingOfficeLaw") (name := "java/lang/IndexOutOfBoundsException") (E := "java/lang/IndexOutOfBoundsException") hown [] ⟨0, 10, 13, 13⟩ [⟨0, 10, 17, 25⟩, ⟨0, 10, 21, 71⟩] (by rw [htab]; rfl) (fun _ h => absurd h List.not_mem_nil) (by decide) (by decide) (hts _ q2176) (va_Nw.use rfl (hC.1.2.2.1 _ q550 rfl)) hcell hcv hcl ?_
      exact hB13 _ _ _ _ _ _ _ _ hp hM hS hB (lv_sub hl [] rfl)
  · refine lv_i2l (v := v3.toInt64) hx hb dX0_park_8 rfl ?_
    refine x_last X hC.1 hM hS dX0_park_9 hp (fun M4 H locs hM hS hp => ?_)
    refine lv_goto (tgt := 25) hx hb dX0_park_10 (by decide) ?_
    refine lv_iconst (v := 0) hx hb dX0_park_25 (by decide) ?_
    exact x_iret X hr hlk hM hS (w_fin hB) dX0_park_26 ⟨_, rfl, hp⟩
def B_X0_pass_12 (G : wG) (Q : Int32 → wM → Prop) (y0 : Nat) (M : wM) (bq : Nat) : Prop :=
  Q (1 : Int32) M
def P_X0_pass (G : wG) (p1 : Nat) (p2 : Int32) (p3 : Nat) (b : Nat) (M : wM) (Q : Int32 → wM → Prop) : Prop :=
  oIs M p1 0 (∃ c2, c2 ≤ b ∧ P_X1_pass G p1 p2 c2 M (fun v3 M1 => oLast G M1 p3 (0 : Int32) (v3.toInt64) (fun M4 => Q (0 : Int32) M4)) (fun E q5 M6 => (E = "java/lang/IllegalArgumentException" ∧ (B_X0_pass_12 G Q q5 M6 (b - c2)))))
set_option maxHeartbeats 4000000 in
set_option maxRecDepth 100000 in
theorem P_X0_pass_ok {l : Launch} (hl0 : l.stackTraces = false) {G : wG} {p1 : Nat} {p2 : Int32} {p3 : Nat} {b : Nat} {M : wM} {Q : Int32 → wM → Prop} (hp : P_X0_pass G p1 p2 p3 b M Q) : wMet l yX0_pass (wsW_ yX0_pass cX0_pass 4 (Option.some Jvm.ClassFile.FieldType.int) [((0 : Nat), (9 : Nat), (12 : Nat), (25 : Nat))]) 22 620 G [.ref p1, .int p2, .ref p3] M b (wqI Q) wX0 := by
  refine vx_ofWH (cc := cX0_pass) (maxL := 4) (ret := Option.some Jvm.ClassFile.FieldType.int) (hh := [((0 : Nat), (9 : Nat), (12 : Nat), (25 : Nat))]) (by decide) rfl ?_
  intro p e s m args below meth c s₁ B hml hv
  obtain ⟨rfl, hM, hK, hZ, hz⟩ := hv
  have hC : wC G s := ⟨hK, hZ, hz⟩
  have hx := B.exec
  have hb := B.bytes
  have hr := B.returns
  have hts := atoms_spec (ws := (wsW_ yX0_pass cX0_pass 4 (Option.some Jvm.ClassFile.FieldType.int) [((0 : Nat), (9 : Nat), (12 : Nat), (25 : Nat))])) B.pre
  have htab := vx_table (x := yX0_pass) B (hts _ List.mem_cons_self)
  have hts : ∀ w ∈ lw_all, w.before _ s = true := fun w h => hts w (List.mem_cons_of_mem _ h)
  have hown : s.vm.findClass RX0 = some m.cls := findClass_of_methodNamed B.named
  have hlk := B.notSynchronized
  have X : CallFix p m c cX0_pass 4 s ([.ref p1, .int p2, .ref p3] : List Value).toArray lw_all RX0 := ⟨hx, hb, hml, hown, hts⟩
  have hS : va_S (wA G) s.heap s.heap [] := va_S.rf
  have hl := lv_entry ([.ref p1, .int p2, .ref p3]) (n := 4) (Nat.le_of_ble_eq_true rfl)
  rw [lg_entry_eq]
  generalize (lg_sl ([.ref p1, .int p2, .ref p3]) ++ List.replicate (4 - (lg_sl ([.ref p1, .int p2, .ref p3])).length) Slot.unset).toArray = ls at hl ⊢
  have hl : lv_has ls 4 [(0, .ref p1), (1, .int p2), (2, .ref p3)] := hl
  have hB : 0 + b ≤ ((headSpec (wsW_ yX0_pass cX0_pass 4 (Option.some Jvm.ClassFile.FieldType.int) [((0 : Nat), (9 : Nat), (12 : Nat), (25 : Nat))]) ({ frames := 22, cells := b, slots := b, locals := 620 })).room).cells ∧ 0 + b ≤ ((headSpec (wsW_ yX0_pass cX0_pass 4 (Option.some Jvm.ClassFile.FieldType.int) [((0 : Nat), (9 : Nat), (12 : Nat), (25 : Nat))]) ({ frames := 22, cells := b, slots := b, locals := 620 })).room).slots := ⟨Nat.le_of_eq (Nat.zero_add b), Nat.le_of_eq (Nat.zero_add b)⟩
  have hB12 : ∀ (y0 : Nat) (M : wM) (bq : Nat) (H : Heap) (locs : List Loc) (ls : Array Slot) (cells slots : Nat), B_X0_pass_12 G Q y0 M bq → wR G M H → va_S (wA G) s.heap H locs → (cells + bq ≤ ((headSpec (wsW_ yX0_pass cX0_pass 4 (Option.some Jvm.ClassFile.FieldType.int) [((0 : Nat), (9 : Nat), (12 : Nat), (25 : Nat))]) ({ frames := 22, cells := b, slots := b, locals := 620 })).room).cells ∧ slots + bq ≤ ((headSpec (wsW_ yX0_pass cX0_pass 4 (Option.some Jvm.ClassFile.FieldType.int) [((0 : Nat), (9 : Nat), (12 : Nat), (25 : Nat))]) ({ frames := 22, cells := b, slots := b, locals := 620 })).room).slots) → lv_has ls 4 [] → W p l e (headSpec (wsW_ yX0_pass cX0_pass 4 (Option.some Jvm.ClassFile.FieldType.int) [((0 : Nat), (9 : Nat), (12 : Nat), (25 : Nat))]) ({ frames := 22, cells := b, slots := b, locals := 620 })).room s m ([.ref p1, .int p2, .ref p3] : List Value).toArray below meth c H locs cells slots (vx_MQ below (wQ G (wqI Q)) (wXC G wX0) ([.ref p1, .int p2, .ref p3] : List Value).toArray s b b (wA G)) (F0 m 12 ls [.ref y0]) := by
    intro y0 M bq H locs ls cells slots hp hM hS hB hl
    refine lv_astore_n (lv' := [(3, .ref y0)]) hx hb dX0_pass_12 rfl hl (by decide) rfl (fun ls hl => ?_)
    refine lv_iconst (v := 1) hx hb dX0_pass_13 (by decide) ?_
    exact x_iret X hr hlk hM hS (w_fin hB) dX0_pass_14 ⟨_, rfl, hp⟩
  refine lv_aload_n hx hb dX0_pass_0 rfl (lv_at hl 2 rfl) ?_
  refine lv_iconst (v := 0) hx hb dX0_pass_1 (by decide) ?_
  refine lv_aload_n hx hb dX0_pass_2 rfl (lv_at hl 0 rfl) ?_
  refine lv_iload_n hx hb dX0_pass_3 rfl (lv_at hl 1 rfl) ?_
  obtain ⟨hrec, hp⟩ := hp
  obtain ⟨c2, hc1, hp⟩ := hp
  refine x_callI (vx_runV (As := [.int p2]) (rest := [.int (0 : Int32), .ref p3]) X (P_X1_pass_ok (l := l) hl0 hp) (cwV 1 hts (lw_V q2539 q2540 q2541 q148 q2542) rfl rfl rfl (by decide +kernel) ⟨Nat.le_of_ble_eq_true rfl, Nat.le_of_ble_eq_true rfl⟩) ⟨wPc.blind, w_recv hC.1 hM (ci := 0) (q := (RX1, TX1, 8)) rfl hrec, w_pre hC hM hS _⟩ rfl rfl hl.1 rfl (lv_room (Nat.le_of_ble_eq_true rfl)) dX0_pass_4 (w_room hB hc1)) hS hB hc1 (fun E ce q5 M6 H locs hp hM hS hB hcell hcv hcl => ?_) (fun v3 M1 H locs hp hM hS hB => ?_)
  · obtain ⟨rfl, hp⟩ := hp
    refine vx_catch (own := "ParkingOfficeLaw") (name := "java/lang/IllegalArgumentException") (E := "java/lang/IllegalArgumentException") hown [] ⟨0, 9, 12, 25⟩ [] (by rw [htab]; rfl) (fun _ h => absurd h List.not_mem_nil) (by decide) (by decide) (hts _ q2317) (va_Nw.use rfl (hC.1.2.2.1 _ q806 rfl)) hcell hcv hcl ?_
    exact hB12 _ _ _ _ _ _ _ _ hp hM hS hB (lv_sub hl [] rfl)
  · refine lv_i2l (v := v3.toInt64) hx hb dX0_pass_7 rfl ?_
    refine x_last X hC.1 hM hS dX0_pass_8 hp (fun M4 H locs hM hS hp => ?_)
    refine lv_goto (tgt := 15) hx hb dX0_pass_9 (by decide) ?_
    refine lv_iconst (v := 0) hx hb dX0_pass_15 (by decide) ?_
    exact x_iret X hr hlk hM hS (w_fin hB) dX0_pass_16 ⟨_, rfl, hp⟩
def B_X0_permit_13 (G : wG) (Q : Int32 → wM → Prop) (y0 : Nat) (M : wM) (bq : Nat) : Prop :=
  Q (1 : Int32) M
def P_X0_permit (G : wG) (p1 : Nat) (p2 : Int32) (p3 : Int32) (p4 : Nat) (b : Nat) (M : wM) (Q : Int32 → wM → Prop) : Prop :=
  oIs M p1 0 (∃ c2, c2 ≤ b ∧ P_X1_permit G p1 p2 p3 c2 M (fun v3 M1 => oLast G M1 p4 (0 : Int32) (v3.toInt64) (fun M4 => Q (0 : Int32) M4)) (fun E q5 M6 => (E = "java/lang/IndexOutOfBoundsException" ∧ (B_X0_permit_13 G Q q5 M6 (b - c2)))))
set_option maxHeartbeats 4000000 in
set_option maxRecDepth 100000 in
theorem P_X0_permit_ok {l : Launch} (hl0 : l.stackTraces = false) {G : wG} {p1 : Nat} {p2 : Int32} {p3 : Int32} {p4 : Nat} {b : Nat} {M : wM} {Q : Int32 → wM → Prop} (hp : P_X0_permit G p1 p2 p3 p4 b M Q) : wMet l yX0_permit (wsW_ yX0_permit cX0_permit 5 (Option.some Jvm.ClassFile.FieldType.int) [((0 : Nat), (10 : Nat), (13 : Nat), (13 : Nat))]) 17 508 G [.ref p1, .int p2, .int p3, .ref p4] M b (wqI Q) wX0 := by
  refine vx_ofWH (cc := cX0_permit) (maxL := 5) (ret := Option.some Jvm.ClassFile.FieldType.int) (hh := [((0 : Nat), (10 : Nat), (13 : Nat), (13 : Nat))]) (by decide) rfl ?_
  intro p e s m args below meth c s₁ B hml hv
  obtain ⟨rfl, hM, hK, hZ, hz⟩ := hv
  have hC : wC G s := ⟨hK, hZ, hz⟩
  have hx := B.exec
  have hb := B.bytes
  have hr := B.returns
  have hts := atoms_spec (ws := (wsW_ yX0_permit cX0_permit 5 (Option.some Jvm.ClassFile.FieldType.int) [((0 : Nat), (10 : Nat), (13 : Nat), (13 : Nat))])) B.pre
  have htab := vx_table (x := yX0_permit) B (hts _ List.mem_cons_self)
  have hts : ∀ w ∈ lw_all, w.before _ s = true := fun w h => hts w (List.mem_cons_of_mem _ h)
  have hown : s.vm.findClass RX0 = some m.cls := findClass_of_methodNamed B.named
  have hlk := B.notSynchronized
  have X : CallFix p m c cX0_permit 5 s ([.ref p1, .int p2, .int p3, .ref p4] : List Value).toArray lw_all RX0 := ⟨hx, hb, hml, hown, hts⟩
  have hS : va_S (wA G) s.heap s.heap [] := va_S.rf
  have hl := lv_entry ([.ref p1, .int p2, .int p3, .ref p4]) (n := 5) (Nat.le_of_ble_eq_true rfl)
  rw [lg_entry_eq]
  generalize (lg_sl ([.ref p1, .int p2, .int p3, .ref p4]) ++ List.replicate (5 - (lg_sl ([.ref p1, .int p2, .int p3, .ref p4])).length) Slot.unset).toArray = ls at hl ⊢
  have hl : lv_has ls 5 [(0, .ref p1), (1, .int p2), (2, .int p3), (3, .ref p4)] := hl
  have hB : 0 + b ≤ ((headSpec (wsW_ yX0_permit cX0_permit 5 (Option.some Jvm.ClassFile.FieldType.int) [((0 : Nat), (10 : Nat), (13 : Nat), (13 : Nat))]) ({ frames := 17, cells := b, slots := b, locals := 508 })).room).cells ∧ 0 + b ≤ ((headSpec (wsW_ yX0_permit cX0_permit 5 (Option.some Jvm.ClassFile.FieldType.int) [((0 : Nat), (10 : Nat), (13 : Nat), (13 : Nat))]) ({ frames := 17, cells := b, slots := b, locals := 508 })).room).slots := ⟨Nat.le_of_eq (Nat.zero_add b), Nat.le_of_eq (Nat.zero_add b)⟩
  have hB13 : ∀ (y0 : Nat) (M : wM) (bq : Nat) (H : Heap) (locs : List Loc) (ls : Array Slot) (cells slots : Nat), B_X0_permit_13 G Q y0 M bq → wR G M H → va_S (wA G) s.heap H locs → (cells + bq ≤ ((headSpec (wsW_ yX0_permit cX0_permit 5 (Option.some Jvm.ClassFile.FieldType.int) [((0 : Nat), (10 : Nat), (13 : Nat), (13 : Nat))]) ({ frames := 17, cells := b, slots := b, locals := 508 })).room).cells ∧ slots + bq ≤ ((headSpec (wsW_ yX0_permit cX0_permit 5 (Option.some Jvm.ClassFile.FieldType.int) [((0 : Nat), (10 : Nat), (13 : Nat), (13 : Nat))]) ({ frames := 17, cells := b, slots := b, locals := 508 })).room).slots) → lv_has ls 5 [] → W p l e (headSpec (wsW_ yX0_permit cX0_permit 5 (Option.some Jvm.ClassFile.FieldType.int) [((0 : Nat), (10 : Nat), (13 : Nat), (13 : Nat))]) ({ frames := 17, cells := b, slots := b, locals := 508 })).room s m ([.ref p1, .int p2, .int p3, .ref p4] : List Value).toArray below meth c H locs cells slots (vx_MQ below (wQ G (wqI Q)) (wXC G wX0) ([.ref p1, .int p2, .int p3, .ref p4] : List Value).toArray s b b (wA G)) (F0 m 13 ls [.ref y0]) := by
    intro y0 M bq H locs ls cells slots hp hM hS hB hl
    refine lv_astore (lv' := [(4, .ref y0)]) hx hb dX0_permit_13 hl (by decide) rfl (fun ls hl => ?_)
    refine lv_iconst (v := 1) hx hb dX0_permit_15 (by decide) ?_
    exact x_iret X hr hlk hM hS (w_fin hB) dX0_permit_16 ⟨_, rfl, hp⟩
  refine lv_aload_n hx hb dX0_permit_0 rfl (lv_at hl 3 rfl) ?_
  refine lv_iconst (v := 0) hx hb dX0_permit_1 (by decide) ?_
  refine lv_aload_n hx hb dX0_permit_2 rfl (lv_at hl 0 rfl) ?_
  refine lv_iload_n hx hb dX0_permit_3 rfl (lv_at hl 1 rfl) ?_
  refine lv_iload_n hx hb dX0_permit_4 rfl (lv_at hl 2 rfl) ?_
  obtain ⟨hrec, hp⟩ := hp
  obtain ⟨c2, hc1, hp⟩ := hp
  refine x_callI (vx_runV (As := [.int p2, .int p3]) (rest := [.int (0 : Int32), .ref p4]) X (P_X1_permit_ok (l := l) hl0 hp) (cwV 2 hts (lw_V q2348 q2349 q2350 q148 q2351) rfl rfl rfl (by decide +kernel) ⟨Nat.le_of_ble_eq_true rfl, Nat.le_of_ble_eq_true rfl⟩) ⟨wPc.blind, w_recv hC.1 hM (ci := 0) (q := (RX1, TX1, 8)) rfl hrec, w_pre hC hM hS _⟩ rfl rfl hl.1 rfl (lv_room (Nat.le_of_ble_eq_true rfl)) dX0_permit_5 (w_room hB hc1)) hS hB hc1 (fun E ce q5 M6 H locs hp hM hS hB hcell hcv hcl => ?_) (fun v3 M1 H locs hp hM hS hB => ?_)
  · obtain ⟨rfl, hp⟩ := hp
    refine vx_catch (own := "ParkingOfficeLaw") (name := "java/lang/IndexOutOfBoundsException") (E := "java/lang/IndexOutOfBoundsException") hown [] ⟨0, 10, 13, 13⟩ [] (by rw [htab]; rfl) (fun _ h => absurd h List.not_mem_nil) (by decide) (by decide) (hts _ q2176) (va_Nw.use rfl (hC.1.2.2.1 _ q550 rfl)) hcell hcv hcl ?_
    exact hB13 _ _ _ _ _ _ _ _ hp hM hS hB (lv_sub hl [] rfl)
  · refine lv_i2l (v := v3.toInt64) hx hb dX0_permit_8 rfl ?_
    refine x_last X hC.1 hM hS dX0_permit_9 hp (fun M4 H locs hM hS hp => ?_)
    refine lv_goto (tgt := 17) hx hb dX0_permit_10 (by decide) ?_
    refine lv_iconst (v := 0) hx hb dX0_permit_17 (by decide) ?_
    exact x_iret X hr hlk hM hS (w_fin hB) dX0_permit_18 ⟨_, rfl, hp⟩
def B_X0_printZone_12 (G : wG) (Q : Int32 → wM → Prop) (y0 : Nat) (M : wM) (bq : Nat) : Prop :=
  Q (1 : Int32) M
def P_X0_printZone (G : wG) (p1 : Nat) (p2 : Int32) (p3 : Nat) (b : Nat) (M : wM) (Q : Int32 → wM → Prop) : Prop :=
  oIs M p1 0 (∃ c2, c2 ≤ b ∧ P_X1_printZone G p1 p2 c2 M (fun v3 M1 => oLast G M1 p3 (0 : Int32) (v3.toInt64) (fun M4 => Q (0 : Int32) M4)) (fun E q5 M6 => (E = "java/lang/IndexOutOfBoundsException" ∧ (B_X0_printZone_12 G Q q5 M6 (b - c2)))))
set_option maxHeartbeats 4000000 in
set_option maxRecDepth 100000 in
theorem P_X0_printZone_ok {l : Launch} (hl0 : l.stackTraces = false) {G : wG} {p1 : Nat} {p2 : Int32} {p3 : Nat} {b : Nat} {M : wM} {Q : Int32 → wM → Prop} (hp : P_X0_printZone G p1 p2 p3 b M Q) : wMet l yX0_printZone (wsW_ yX0_printZone cX0_printZone 4 (Option.some Jvm.ClassFile.FieldType.int) [((0 : Nat), (9 : Nat), (12 : Nat), (13 : Nat))]) 21 605 G [.ref p1, .int p2, .ref p3] M b (wqI Q) wX0 := by
  refine vx_ofWH (cc := cX0_printZone) (maxL := 4) (ret := Option.some Jvm.ClassFile.FieldType.int) (hh := [((0 : Nat), (9 : Nat), (12 : Nat), (13 : Nat))]) (by decide) rfl ?_
  intro p e s m args below meth c s₁ B hml hv
  obtain ⟨rfl, hM, hK, hZ, hz⟩ := hv
  have hC : wC G s := ⟨hK, hZ, hz⟩
  have hx := B.exec
  have hb := B.bytes
  have hr := B.returns
  have hts := atoms_spec (ws := (wsW_ yX0_printZone cX0_printZone 4 (Option.some Jvm.ClassFile.FieldType.int) [((0 : Nat), (9 : Nat), (12 : Nat), (13 : Nat))])) B.pre
  have htab := vx_table (x := yX0_printZone) B (hts _ List.mem_cons_self)
  have hts : ∀ w ∈ lw_all, w.before _ s = true := fun w h => hts w (List.mem_cons_of_mem _ h)
  have hown : s.vm.findClass RX0 = some m.cls := findClass_of_methodNamed B.named
  have hlk := B.notSynchronized
  have X : CallFix p m c cX0_printZone 4 s ([.ref p1, .int p2, .ref p3] : List Value).toArray lw_all RX0 := ⟨hx, hb, hml, hown, hts⟩
  have hS : va_S (wA G) s.heap s.heap [] := va_S.rf
  have hl := lv_entry ([.ref p1, .int p2, .ref p3]) (n := 4) (Nat.le_of_ble_eq_true rfl)
  rw [lg_entry_eq]
  generalize (lg_sl ([.ref p1, .int p2, .ref p3]) ++ List.replicate (4 - (lg_sl ([.ref p1, .int p2, .ref p3])).length) Slot.unset).toArray = ls at hl ⊢
  have hl : lv_has ls 4 [(0, .ref p1), (1, .int p2), (2, .ref p3)] := hl
  have hB : 0 + b ≤ ((headSpec (wsW_ yX0_printZone cX0_printZone 4 (Option.some Jvm.ClassFile.FieldType.int) [((0 : Nat), (9 : Nat), (12 : Nat), (13 : Nat))]) ({ frames := 21, cells := b, slots := b, locals := 605 })).room).cells ∧ 0 + b ≤ ((headSpec (wsW_ yX0_printZone cX0_printZone 4 (Option.some Jvm.ClassFile.FieldType.int) [((0 : Nat), (9 : Nat), (12 : Nat), (13 : Nat))]) ({ frames := 21, cells := b, slots := b, locals := 605 })).room).slots := ⟨Nat.le_of_eq (Nat.zero_add b), Nat.le_of_eq (Nat.zero_add b)⟩
  have hB12 : ∀ (y0 : Nat) (M : wM) (bq : Nat) (H : Heap) (locs : List Loc) (ls : Array Slot) (cells slots : Nat), B_X0_printZone_12 G Q y0 M bq → wR G M H → va_S (wA G) s.heap H locs → (cells + bq ≤ ((headSpec (wsW_ yX0_printZone cX0_printZone 4 (Option.some Jvm.ClassFile.FieldType.int) [((0 : Nat), (9 : Nat), (12 : Nat), (13 : Nat))]) ({ frames := 21, cells := b, slots := b, locals := 605 })).room).cells ∧ slots + bq ≤ ((headSpec (wsW_ yX0_printZone cX0_printZone 4 (Option.some Jvm.ClassFile.FieldType.int) [((0 : Nat), (9 : Nat), (12 : Nat), (13 : Nat))]) ({ frames := 21, cells := b, slots := b, locals := 605 })).room).slots) → lv_has ls 4 [] → W p l e (headSpec (wsW_ yX0_printZone cX0_printZone 4 (Option.some Jvm.ClassFile.FieldType.int) [((0 : Nat), (9 : Nat), (12 : Nat), (13 : Nat))]) ({ frames := 21, cells := b, slots := b, locals := 605 })).room s m ([.ref p1, .int p2, .ref p3] : List Value).toArray below meth c H locs cells slots (vx_MQ below (wQ G (wqI Q)) (wXC G wX0) ([.ref p1, .int p2, .ref p3] : List Value).toArray s b b (wA G)) (F0 m 12 ls [.ref y0]) := by
    intro y0 M bq H locs ls cells slots hp hM hS hB hl
    refine lv_astore_n (lv' := [(3, .ref y0)]) hx hb dX0_printZone_12 rfl hl (by decide) rfl (fun ls hl => ?_)
    refine lv_iconst (v := 1) hx hb dX0_printZone_13 (by decide) ?_
    exact x_iret X hr hlk hM hS (w_fin hB) dX0_printZone_14 ⟨_, rfl, hp⟩
  refine lv_aload_n hx hb dX0_printZone_0 rfl (lv_at hl 2 rfl) ?_
  refine lv_iconst (v := 0) hx hb dX0_printZone_1 (by decide) ?_
  refine lv_aload_n hx hb dX0_printZone_2 rfl (lv_at hl 0 rfl) ?_
  refine lv_iload_n hx hb dX0_printZone_3 rfl (lv_at hl 1 rfl) ?_
  obtain ⟨hrec, hp⟩ := hp
  obtain ⟨c2, hc1, hp⟩ := hp
  refine x_callI (vx_runV (As := [.int p2]) (rest := [.int (0 : Int32), .ref p3]) X (P_X1_printZone_ok (l := l) hl0 hp) (cwV 1 hts (lw_V q3052 q3053 q3054 q148 q3055) rfl rfl rfl (by decide +kernel) ⟨Nat.le_of_ble_eq_true rfl, Nat.le_of_ble_eq_true rfl⟩) ⟨wPc.blind, w_recv hC.1 hM (ci := 0) (q := (RX1, TX1, 8)) rfl hrec, w_pre hC hM hS _⟩ rfl rfl hl.1 rfl (lv_room (Nat.le_of_ble_eq_true rfl)) dX0_printZone_4 (w_room hB hc1)) hS hB hc1 (fun E ce q5 M6 H locs hp hM hS hB hcell hcv hcl => ?_) (fun v3 M1 H locs hp hM hS hB => ?_)
  · obtain ⟨rfl, hp⟩ := hp
    refine vx_catch (own := "ParkingOfficeLaw") (name := "java/lang/IndexOutOfBoundsException") (E := "java/lang/IndexOutOfBoundsException") hown [] ⟨0, 9, 12, 13⟩ [] (by rw [htab]; rfl) (fun _ h => absurd h List.not_mem_nil) (by decide) (by decide) (hts _ q2176) (va_Nw.use rfl (hC.1.2.2.1 _ q550 rfl)) hcell hcv hcl ?_
    exact hB12 _ _ _ _ _ _ _ _ hp hM hS hB (lv_sub hl [] rfl)
  · refine lv_i2l (v := v3.toInt64) hx hb dX0_printZone_7 rfl ?_
    refine x_last X hC.1 hM hS dX0_printZone_8 hp (fun M4 H locs hM hS hp => ?_)
    refine lv_goto (tgt := 15) hx hb dX0_printZone_9 (by decide) ?_
    refine lv_iconst (v := 0) hx hb dX0_printZone_15 (by decide) ?_
    exact x_iret X hr hlk hM hS (w_fin hB) dX0_printZone_16 ⟨_, rfl, hp⟩
def B_X0_renew_12 (G : wG) (Q : Int32 → wM → Prop) (y0 : Nat) (M : wM) (bq : Nat) : Prop :=
  Q (1 : Int32) M
def B_X0_renew_15 (G : wG) (Q : Int32 → wM → Prop) (y0 : Nat) (M : wM) (bq : Nat) : Prop :=
  Q (2 : Int32) M
def P_X0_renew (G : wG) (p1 : Nat) (p2 : Int32) (p3 : Nat) (b : Nat) (M : wM) (Q : Int32 → wM → Prop) : Prop :=
  oIs M p1 0 (∃ c2, c2 ≤ b ∧ P_X1_renew G p1 p2 c2 M (fun v3 M1 => oLast G M1 p3 (0 : Int32) (v3.toInt64) (fun M4 => Q (0 : Int32) M4)) (fun E q5 M6 => (E = "java/lang/IllegalStateException" ∧ (B_X0_renew_15 G Q q5 M6 (b - c2))) ∨ (E = "java/lang/IndexOutOfBoundsException" ∧ (B_X0_renew_12 G Q q5 M6 (b - c2)))))
set_option maxHeartbeats 4000000 in
set_option maxRecDepth 100000 in
theorem P_X0_renew_ok {l : Launch} (hl0 : l.stackTraces = false) {G : wG} {p1 : Nat} {p2 : Int32} {p3 : Nat} {b : Nat} {M : wM} {Q : Int32 → wM → Prop} (hp : P_X0_renew G p1 p2 p3 b M Q) : wMet l yX0_renew (wsW_ yX0_renew cX0_renew 4 (Option.some Jvm.ClassFile.FieldType.int) [((0 : Nat), (9 : Nat), (12 : Nat), (13 : Nat)), ((0 : Nat), (9 : Nat), (15 : Nat), (71 : Nat))]) 21 598 G [.ref p1, .int p2, .ref p3] M b (wqI Q) wX0 := by
  refine vx_ofWH (cc := cX0_renew) (maxL := 4) (ret := Option.some Jvm.ClassFile.FieldType.int) (hh := [((0 : Nat), (9 : Nat), (12 : Nat), (13 : Nat)), ((0 : Nat), (9 : Nat), (15 : Nat), (71 : Nat))]) (by decide) rfl ?_
  intro p e s m args below meth c s₁ B hml hv
  obtain ⟨rfl, hM, hK, hZ, hz⟩ := hv
  have hC : wC G s := ⟨hK, hZ, hz⟩
  have hx := B.exec
  have hb := B.bytes
  have hr := B.returns
  have hts := atoms_spec (ws := (wsW_ yX0_renew cX0_renew 4 (Option.some Jvm.ClassFile.FieldType.int) [((0 : Nat), (9 : Nat), (12 : Nat), (13 : Nat)), ((0 : Nat), (9 : Nat), (15 : Nat), (71 : Nat))])) B.pre
  have htab := vx_table (x := yX0_renew) B (hts _ List.mem_cons_self)
  have hts : ∀ w ∈ lw_all, w.before _ s = true := fun w h => hts w (List.mem_cons_of_mem _ h)
  have hown : s.vm.findClass RX0 = some m.cls := findClass_of_methodNamed B.named
  have hlk := B.notSynchronized
  have X : CallFix p m c cX0_renew 4 s ([.ref p1, .int p2, .ref p3] : List Value).toArray lw_all RX0 := ⟨hx, hb, hml, hown, hts⟩
  have hS : va_S (wA G) s.heap s.heap [] := va_S.rf
  have hl := lv_entry ([.ref p1, .int p2, .ref p3]) (n := 4) (Nat.le_of_ble_eq_true rfl)
  rw [lg_entry_eq]
  generalize (lg_sl ([.ref p1, .int p2, .ref p3]) ++ List.replicate (4 - (lg_sl ([.ref p1, .int p2, .ref p3])).length) Slot.unset).toArray = ls at hl ⊢
  have hl : lv_has ls 4 [(0, .ref p1), (1, .int p2), (2, .ref p3)] := hl
  have hB : 0 + b ≤ ((headSpec (wsW_ yX0_renew cX0_renew 4 (Option.some Jvm.ClassFile.FieldType.int) [((0 : Nat), (9 : Nat), (12 : Nat), (13 : Nat)), ((0 : Nat), (9 : Nat), (15 : Nat), (71 : Nat))]) ({ frames := 21, cells := b, slots := b, locals := 598 })).room).cells ∧ 0 + b ≤ ((headSpec (wsW_ yX0_renew cX0_renew 4 (Option.some Jvm.ClassFile.FieldType.int) [((0 : Nat), (9 : Nat), (12 : Nat), (13 : Nat)), ((0 : Nat), (9 : Nat), (15 : Nat), (71 : Nat))]) ({ frames := 21, cells := b, slots := b, locals := 598 })).room).slots := ⟨Nat.le_of_eq (Nat.zero_add b), Nat.le_of_eq (Nat.zero_add b)⟩
  have hB12 : ∀ (y0 : Nat) (M : wM) (bq : Nat) (H : Heap) (locs : List Loc) (ls : Array Slot) (cells slots : Nat), B_X0_renew_12 G Q y0 M bq → wR G M H → va_S (wA G) s.heap H locs → (cells + bq ≤ ((headSpec (wsW_ yX0_renew cX0_renew 4 (Option.some Jvm.ClassFile.FieldType.int) [((0 : Nat), (9 : Nat), (12 : Nat), (13 : Nat)), ((0 : Nat), (9 : Nat), (15 : Nat), (71 : Nat))]) ({ frames := 21, cells := b, slots := b, locals := 598 })).room).cells ∧ slots + bq ≤ ((headSpec (wsW_ yX0_renew cX0_renew 4 (Option.some Jvm.ClassFile.FieldType.int) [((0 : Nat), (9 : Nat), (12 : Nat), (13 : Nat)), ((0 : Nat), (9 : Nat), (15 : Nat), (71 : Nat))]) ({ frames := 21, cells := b, slots := b, locals := 598 })).room).slots) → lv_has ls 4 [] → W p l e (headSpec (wsW_ yX0_renew cX0_renew 4 (Option.some Jvm.ClassFile.FieldType.int) [((0 : Nat), (9 : Nat), (12 : Nat), (13 : Nat)), ((0 : Nat), (9 : Nat), (15 : Nat), (71 : Nat))]) ({ frames := 21, cells := b, slots := b, locals := 598 })).room s m ([.ref p1, .int p2, .ref p3] : List Value).toArray below meth c H locs cells slots (vx_MQ below (wQ G (wqI Q)) (wXC G wX0) ([.ref p1, .int p2, .ref p3] : List Value).toArray s b b (wA G)) (F0 m 12 ls [.ref y0]) := by
    intro y0 M bq H locs ls cells slots hp hM hS hB hl
    refine lv_astore_n (lv' := [(3, .ref y0)]) hx hb dX0_renew_12 rfl hl (by decide) rfl (fun ls hl => ?_)
    refine lv_iconst (v := 1) hx hb dX0_renew_13 (by decide) ?_
    exact x_iret X hr hlk hM hS (w_fin hB) dX0_renew_14 ⟨_, rfl, hp⟩
  have hB15 : ∀ (y0 : Nat) (M : wM) (bq : Nat) (H : Heap) (locs : List Loc) (ls : Array Slot) (cells slots : Nat), B_X0_renew_15 G Q y0 M bq → wR G M H → va_S (wA G) s.heap H locs → (cells + bq ≤ ((headSpec (wsW_ yX0_renew cX0_renew 4 (Option.some Jvm.ClassFile.FieldType.int) [((0 : Nat), (9 : Nat), (12 : Nat), (13 : Nat)), ((0 : Nat), (9 : Nat), (15 : Nat), (71 : Nat))]) ({ frames := 21, cells := b, slots := b, locals := 598 })).room).cells ∧ slots + bq ≤ ((headSpec (wsW_ yX0_renew cX0_renew 4 (Option.some Jvm.ClassFile.FieldType.int) [((0 : Nat), (9 : Nat), (12 : Nat), (13 : Nat)), ((0 : Nat), (9 : Nat), (15 : Nat), (71 : Nat))]) ({ frames := 21, cells := b, slots := b, locals := 598 })).room).slots) → lv_has ls 4 [] → W p l e (headSpec (wsW_ yX0_renew cX0_renew 4 (Option.some Jvm.ClassFile.FieldType.int) [((0 : Nat), (9 : Nat), (12 : Nat), (13 : Nat)), ((0 : Nat), (9 : Nat), (15 : Nat), (71 : Nat))]) ({ frames := 21, cells := b, slots := b, locals := 598 })).room s m ([.ref p1, .int p2, .ref p3] : List Value).toArray below meth c H locs cells slots (vx_MQ below (wQ G (wqI Q)) (wXC G wX0) ([.ref p1, .int p2, .ref p3] : List Value).toArray s b b (wA G)) (F0 m 15 ls [.ref y0]) := by
    intro y0 M bq H locs ls cells slots hp hM hS hB hl
    refine lv_astore_n (lv' := [(3, .ref y0)]) hx hb dX0_renew_15 rfl hl (by decide) rfl (fun ls hl => ?_)
    refine lv_iconst (v := 2) hx hb dX0_renew_16 (by decide) ?_
    exact x_iret X hr hlk hM hS (w_fin hB) dX0_renew_17 ⟨_, rfl, hp⟩
  refine lv_aload_n hx hb dX0_renew_0 rfl (lv_at hl 2 rfl) ?_
  refine lv_iconst (v := 0) hx hb dX0_renew_1 (by decide) ?_
  refine lv_aload_n hx hb dX0_renew_2 rfl (lv_at hl 0 rfl) ?_
  refine lv_iload_n hx hb dX0_renew_3 rfl (lv_at hl 1 rfl) ?_
  obtain ⟨hrec, hp⟩ := hp
  obtain ⟨c2, hc1, hp⟩ := hp
  refine x_callI (vx_runV (As := [.int p2]) (rest := [.int (0 : Int32), .ref p3]) X (P_X1_renew_ok (l := l) hl0 hp) (cwV 1 hts (lw_V q2696 q2697 q2698 q148 q2699) rfl rfl rfl (by decide +kernel) ⟨Nat.le_of_ble_eq_true rfl, Nat.le_of_ble_eq_true rfl⟩) ⟨wPc.blind, w_recv hC.1 hM (ci := 0) (q := (RX1, TX1, 8)) rfl hrec, w_pre hC hM hS _⟩ rfl rfl hl.1 rfl (lv_room (Nat.le_of_ble_eq_true rfl)) dX0_renew_4 (w_room hB hc1)) hS hB hc1 (fun E ce q5 M6 H locs hp hM hS hB hcell hcv hcl => ?_) (fun v3 M1 H locs hp hM hS hB => ?_)
  · rcases hp with ⟨rfl, hp⟩ | ⟨rfl, hp⟩
    · refine vx_catch (own := "ParkingOfficeLaw") (name := "java/lang/IllegalStateException") (E := "java/lang/IllegalStateException") hown [⟨0, 9, 12, 13⟩] ⟨0, 9, 15, 71⟩ [] (by rw [htab]; rfl) (List.forall_mem_cons.mpr ⟨(Or.inr ⟨by decide, "java/lang/IndexOutOfBoundsException", hts _ q2176, hC.1.2.2.2.2.2.1 ("java/lang/IllegalStateException", "java/lang/IndexOutOfBoundsException") (List.mem_of_getElem? (i := 14) rfl)⟩), (fun _ h => absurd h List.not_mem_nil)⟩) (by decide) (by decide) (hts _ q2625) (va_Nw.use rfl (hC.1.2.2.1 _ q2578 rfl)) hcell hcv hcl ?_
      exact hB15 _ _ _ _ _ _ _ _ hp hM hS hB (lv_sub hl [] rfl)
    · refine vx_catch (own := "ParkingOfficeLaw") (name := "java/lang/IndexOutOfBoundsException") (E := "java/lang/IndexOutOfBoundsException") hown [] ⟨0, 9, 12, 13⟩ [⟨0, 9, 15, 71⟩] (by rw [htab]; rfl) (fun _ h => absurd h List.not_mem_nil) (by decide) (by decide) (hts _ q2176) (va_Nw.use rfl (hC.1.2.2.1 _ q550 rfl)) hcell hcv hcl ?_
      exact hB12 _ _ _ _ _ _ _ _ hp hM hS hB (lv_sub hl [] rfl)
  · refine lv_i2l (v := v3.toInt64) hx hb dX0_renew_7 rfl ?_
    refine x_last X hC.1 hM hS dX0_renew_8 hp (fun M4 H locs hM hS hp => ?_)
    refine lv_goto (tgt := 18) hx hb dX0_renew_9 (by decide) ?_
    refine lv_iconst (v := 0) hx hb dX0_renew_18 (by decide) ?_
    exact x_iret X hr hlk hM hS (w_fin hB) dX0_renew_19 ⟨_, rfl, hp⟩
def B_X0_restoreState_11 (G : wG) (Q : Int32 → wM → Prop) (y0 : Nat) (M : wM) (bq : Nat) : Prop :=
  Q (1 : Int32) M
def P_X0_restoreState (G : wG) (p1 : Nat) (p2 : Nat) (b : Nat) (M : wM) (Q : Int32 → wM → Prop) : Prop :=
  oIs M p1 0 (∃ c2, c2 ≤ b ∧ P_X1_restoreState G p1 c2 M (fun v3 M1 => oLast G M1 p2 (0 : Int32) (v3.toInt64) (fun M4 => Q (0 : Int32) M4)) (fun E q5 M6 => (E = "java/lang/IllegalStateException" ∧ (B_X0_restoreState_11 G Q q5 M6 (b - c2)))))
set_option maxHeartbeats 4000000 in
set_option maxRecDepth 100000 in
theorem P_X0_restoreState_ok {l : Launch} (hl0 : l.stackTraces = false) {G : wG} {p1 : Nat} {p2 : Nat} {b : Nat} {M : wM} {Q : Int32 → wM → Prop} (hp : P_X0_restoreState G p1 p2 b M Q) : wMet l yX0_restoreState (wsW_ yX0_restoreState cX0_restoreState 3 (Option.some Jvm.ClassFile.FieldType.int) [((0 : Nat), (8 : Nat), (11 : Nat), (71 : Nat))]) 20 575 G [.ref p1, .ref p2] M b (wqI Q) wX0 := by
  refine vx_ofWH (cc := cX0_restoreState) (maxL := 3) (ret := Option.some Jvm.ClassFile.FieldType.int) (hh := [((0 : Nat), (8 : Nat), (11 : Nat), (71 : Nat))]) (by decide) rfl ?_
  intro p e s m args below meth c s₁ B hml hv
  obtain ⟨rfl, hM, hK, hZ, hz⟩ := hv
  have hC : wC G s := ⟨hK, hZ, hz⟩
  have hx := B.exec
  have hb := B.bytes
  have hr := B.returns
  have hts := atoms_spec (ws := (wsW_ yX0_restoreState cX0_restoreState 3 (Option.some Jvm.ClassFile.FieldType.int) [((0 : Nat), (8 : Nat), (11 : Nat), (71 : Nat))])) B.pre
  have htab := vx_table (x := yX0_restoreState) B (hts _ List.mem_cons_self)
  have hts : ∀ w ∈ lw_all, w.before _ s = true := fun w h => hts w (List.mem_cons_of_mem _ h)
  have hown : s.vm.findClass RX0 = some m.cls := findClass_of_methodNamed B.named
  have hlk := B.notSynchronized
  have X : CallFix p m c cX0_restoreState 3 s ([.ref p1, .ref p2] : List Value).toArray lw_all RX0 := ⟨hx, hb, hml, hown, hts⟩
  have hS : va_S (wA G) s.heap s.heap [] := va_S.rf
  have hl := lv_entry ([.ref p1, .ref p2]) (n := 3) (Nat.le_of_ble_eq_true rfl)
  rw [lg_entry_eq]
  generalize (lg_sl ([.ref p1, .ref p2]) ++ List.replicate (3 - (lg_sl ([.ref p1, .ref p2])).length) Slot.unset).toArray = ls at hl ⊢
  have hl : lv_has ls 3 [(0, .ref p1), (1, .ref p2)] := hl
  have hB : 0 + b ≤ ((headSpec (wsW_ yX0_restoreState cX0_restoreState 3 (Option.some Jvm.ClassFile.FieldType.int) [((0 : Nat), (8 : Nat), (11 : Nat), (71 : Nat))]) ({ frames := 20, cells := b, slots := b, locals := 575 })).room).cells ∧ 0 + b ≤ ((headSpec (wsW_ yX0_restoreState cX0_restoreState 3 (Option.some Jvm.ClassFile.FieldType.int) [((0 : Nat), (8 : Nat), (11 : Nat), (71 : Nat))]) ({ frames := 20, cells := b, slots := b, locals := 575 })).room).slots := ⟨Nat.le_of_eq (Nat.zero_add b), Nat.le_of_eq (Nat.zero_add b)⟩
  have hB11 : ∀ (y0 : Nat) (M : wM) (bq : Nat) (H : Heap) (locs : List Loc) (ls : Array Slot) (cells slots : Nat), B_X0_restoreState_11 G Q y0 M bq → wR G M H → va_S (wA G) s.heap H locs → (cells + bq ≤ ((headSpec (wsW_ yX0_restoreState cX0_restoreState 3 (Option.some Jvm.ClassFile.FieldType.int) [((0 : Nat), (8 : Nat), (11 : Nat), (71 : Nat))]) ({ frames := 20, cells := b, slots := b, locals := 575 })).room).cells ∧ slots + bq ≤ ((headSpec (wsW_ yX0_restoreState cX0_restoreState 3 (Option.some Jvm.ClassFile.FieldType.int) [((0 : Nat), (8 : Nat), (11 : Nat), (71 : Nat))]) ({ frames := 20, cells := b, slots := b, locals := 575 })).room).slots) → lv_has ls 3 [] → W p l e (headSpec (wsW_ yX0_restoreState cX0_restoreState 3 (Option.some Jvm.ClassFile.FieldType.int) [((0 : Nat), (8 : Nat), (11 : Nat), (71 : Nat))]) ({ frames := 20, cells := b, slots := b, locals := 575 })).room s m ([.ref p1, .ref p2] : List Value).toArray below meth c H locs cells slots (vx_MQ below (wQ G (wqI Q)) (wXC G wX0) ([.ref p1, .ref p2] : List Value).toArray s b b (wA G)) (F0 m 11 ls [.ref y0]) := by
    intro y0 M bq H locs ls cells slots hp hM hS hB hl
    refine lv_astore_n (lv' := [(2, .ref y0)]) hx hb dX0_restoreState_11 rfl hl (by decide) rfl (fun ls hl => ?_)
    refine lv_iconst (v := 1) hx hb dX0_restoreState_12 (by decide) ?_
    exact x_iret X hr hlk hM hS (w_fin hB) dX0_restoreState_13 ⟨_, rfl, hp⟩
  refine lv_aload_n hx hb dX0_restoreState_0 rfl (lv_at hl 1 rfl) ?_
  refine lv_iconst (v := 0) hx hb dX0_restoreState_1 (by decide) ?_
  refine lv_aload_n hx hb dX0_restoreState_2 rfl (lv_at hl 0 rfl) ?_
  obtain ⟨hrec, hp⟩ := hp
  obtain ⟨c2, hc1, hp⟩ := hp
  refine x_callI (vx_runV (As := []) (rest := [.int (0 : Int32), .ref p2]) X (P_X1_restoreState_ok (l := l) hl0 hp) (cwV 0 hts (lw_V q3120 q3121 q3122 q148 q3123) rfl rfl rfl (by decide +kernel) ⟨Nat.le_of_ble_eq_true rfl, Nat.le_of_ble_eq_true rfl⟩) ⟨wPc.blind, w_recv hC.1 hM (ci := 0) (q := (RX1, TX1, 8)) rfl hrec, w_pre hC hM hS _⟩ rfl rfl hl.1 rfl (lv_room (Nat.le_of_ble_eq_true rfl)) dX0_restoreState_3 (w_room hB hc1)) hS hB hc1 (fun E ce q5 M6 H locs hp hM hS hB hcell hcv hcl => ?_) (fun v3 M1 H locs hp hM hS hB => ?_)
  · obtain ⟨rfl, hp⟩ := hp
    refine vx_catch (own := "ParkingOfficeLaw") (name := "java/lang/IllegalStateException") (E := "java/lang/IllegalStateException") hown [] ⟨0, 8, 11, 71⟩ [] (by rw [htab]; rfl) (fun _ h => absurd h List.not_mem_nil) (by decide) (by decide) (hts _ q2625) (va_Nw.use rfl (hC.1.2.2.1 _ q2578 rfl)) hcell hcv hcl ?_
    exact hB11 _ _ _ _ _ _ _ _ hp hM hS hB (lv_sub hl [] rfl)
  · refine lv_i2l (v := v3.toInt64) hx hb dX0_restoreState_6 rfl ?_
    refine x_last X hC.1 hM hS dX0_restoreState_7 hp (fun M4 H locs hM hS hp => ?_)
    refine lv_goto (tgt := 14) hx hb dX0_restoreState_8 (by decide) ?_
    refine lv_iconst (v := 0) hx hb dX0_restoreState_14 (by decide) ?_
    exact x_iret X hr hlk hM hS (w_fin hB) dX0_restoreState_15 ⟨_, rfl, hp⟩
def B_X0_rule_13 (G : wG) (Q : Int32 → wM → Prop) (y0 : Nat) (M : wM) (bq : Nat) : Prop :=
  Q (1 : Int32) M
def B_X0_rule_17 (G : wG) (Q : Int32 → wM → Prop) (y0 : Nat) (M : wM) (bq : Nat) : Prop :=
  Q (2 : Int32) M
def P_X0_rule (G : wG) (p1 : Nat) (p2 : Int32) (p3 : Int32) (p4 : Nat) (b : Nat) (M : wM) (Q : Int32 → wM → Prop) : Prop :=
  oIs M p1 0 (∃ c2, c2 ≤ b ∧ P_X1_rule G p1 p2 p3 c2 M (fun v3 M1 => oLast G M1 p4 (0 : Int32) (v3.toInt64) (fun M4 => Q (0 : Int32) M4)) (fun E q5 M6 => (E = "java/lang/IllegalArgumentException" ∧ (B_X0_rule_17 G Q q5 M6 (b - c2))) ∨ (E = "java/lang/IndexOutOfBoundsException" ∧ (B_X0_rule_13 G Q q5 M6 (b - c2)))))
set_option maxHeartbeats 4000000 in
set_option maxRecDepth 100000 in
theorem P_X0_rule_ok {l : Launch} (hl0 : l.stackTraces = false) {G : wG} {p1 : Nat} {p2 : Int32} {p3 : Int32} {p4 : Nat} {b : Nat} {M : wM} {Q : Int32 → wM → Prop} (hp : P_X0_rule G p1 p2 p3 p4 b M Q) : wMet l yX0_rule (wsW_ yX0_rule cX0_rule 5 (Option.some Jvm.ClassFile.FieldType.int) [((0 : Nat), (10 : Nat), (13 : Nat), (13 : Nat)), ((0 : Nat), (10 : Nat), (17 : Nat), (25 : Nat))]) 21 599 G [.ref p1, .int p2, .int p3, .ref p4] M b (wqI Q) wX0 := by
  refine vx_ofWH (cc := cX0_rule) (maxL := 5) (ret := Option.some Jvm.ClassFile.FieldType.int) (hh := [((0 : Nat), (10 : Nat), (13 : Nat), (13 : Nat)), ((0 : Nat), (10 : Nat), (17 : Nat), (25 : Nat))]) (by decide) rfl ?_
  intro p e s m args below meth c s₁ B hml hv
  obtain ⟨rfl, hM, hK, hZ, hz⟩ := hv
  have hC : wC G s := ⟨hK, hZ, hz⟩
  have hx := B.exec
  have hb := B.bytes
  have hr := B.returns
  have hts := atoms_spec (ws := (wsW_ yX0_rule cX0_rule 5 (Option.some Jvm.ClassFile.FieldType.int) [((0 : Nat), (10 : Nat), (13 : Nat), (13 : Nat)), ((0 : Nat), (10 : Nat), (17 : Nat), (25 : Nat))])) B.pre
  have htab := vx_table (x := yX0_rule) B (hts _ List.mem_cons_self)
  have hts : ∀ w ∈ lw_all, w.before _ s = true := fun w h => hts w (List.mem_cons_of_mem _ h)
  have hown : s.vm.findClass RX0 = some m.cls := findClass_of_methodNamed B.named
  have hlk := B.notSynchronized
  have X : CallFix p m c cX0_rule 5 s ([.ref p1, .int p2, .int p3, .ref p4] : List Value).toArray lw_all RX0 := ⟨hx, hb, hml, hown, hts⟩
  have hS : va_S (wA G) s.heap s.heap [] := va_S.rf
  have hl := lv_entry ([.ref p1, .int p2, .int p3, .ref p4]) (n := 5) (Nat.le_of_ble_eq_true rfl)
  rw [lg_entry_eq]
  generalize (lg_sl ([.ref p1, .int p2, .int p3, .ref p4]) ++ List.replicate (5 - (lg_sl ([.ref p1, .int p2, .int p3, .ref p4])).length) Slot.unset).toArray = ls at hl ⊢
  have hl : lv_has ls 5 [(0, .ref p1), (1, .int p2), (2, .int p3), (3, .ref p4)] := hl
  have hB : 0 + b ≤ ((headSpec (wsW_ yX0_rule cX0_rule 5 (Option.some Jvm.ClassFile.FieldType.int) [((0 : Nat), (10 : Nat), (13 : Nat), (13 : Nat)), ((0 : Nat), (10 : Nat), (17 : Nat), (25 : Nat))]) ({ frames := 21, cells := b, slots := b, locals := 599 })).room).cells ∧ 0 + b ≤ ((headSpec (wsW_ yX0_rule cX0_rule 5 (Option.some Jvm.ClassFile.FieldType.int) [((0 : Nat), (10 : Nat), (13 : Nat), (13 : Nat)), ((0 : Nat), (10 : Nat), (17 : Nat), (25 : Nat))]) ({ frames := 21, cells := b, slots := b, locals := 599 })).room).slots := ⟨Nat.le_of_eq (Nat.zero_add b), Nat.le_of_eq (Nat.zero_add b)⟩
  have hB13 : ∀ (y0 : Nat) (M : wM) (bq : Nat) (H : Heap) (locs : List Loc) (ls : Array Slot) (cells slots : Nat), B_X0_rule_13 G Q y0 M bq → wR G M H → va_S (wA G) s.heap H locs → (cells + bq ≤ ((headSpec (wsW_ yX0_rule cX0_rule 5 (Option.some Jvm.ClassFile.FieldType.int) [((0 : Nat), (10 : Nat), (13 : Nat), (13 : Nat)), ((0 : Nat), (10 : Nat), (17 : Nat), (25 : Nat))]) ({ frames := 21, cells := b, slots := b, locals := 599 })).room).cells ∧ slots + bq ≤ ((headSpec (wsW_ yX0_rule cX0_rule 5 (Option.some Jvm.ClassFile.FieldType.int) [((0 : Nat), (10 : Nat), (13 : Nat), (13 : Nat)), ((0 : Nat), (10 : Nat), (17 : Nat), (25 : Nat))]) ({ frames := 21, cells := b, slots := b, locals := 599 })).room).slots) → lv_has ls 5 [] → W p l e (headSpec (wsW_ yX0_rule cX0_rule 5 (Option.some Jvm.ClassFile.FieldType.int) [((0 : Nat), (10 : Nat), (13 : Nat), (13 : Nat)), ((0 : Nat), (10 : Nat), (17 : Nat), (25 : Nat))]) ({ frames := 21, cells := b, slots := b, locals := 599 })).room s m ([.ref p1, .int p2, .int p3, .ref p4] : List Value).toArray below meth c H locs cells slots (vx_MQ below (wQ G (wqI Q)) (wXC G wX0) ([.ref p1, .int p2, .int p3, .ref p4] : List Value).toArray s b b (wA G)) (F0 m 13 ls [.ref y0]) := by
    intro y0 M bq H locs ls cells slots hp hM hS hB hl
    refine lv_astore (lv' := [(4, .ref y0)]) hx hb dX0_rule_13 hl (by decide) rfl (fun ls hl => ?_)
    refine lv_iconst (v := 1) hx hb dX0_rule_15 (by decide) ?_
    exact x_iret X hr hlk hM hS (w_fin hB) dX0_rule_16 ⟨_, rfl, hp⟩
  have hB17 : ∀ (y0 : Nat) (M : wM) (bq : Nat) (H : Heap) (locs : List Loc) (ls : Array Slot) (cells slots : Nat), B_X0_rule_17 G Q y0 M bq → wR G M H → va_S (wA G) s.heap H locs → (cells + bq ≤ ((headSpec (wsW_ yX0_rule cX0_rule 5 (Option.some Jvm.ClassFile.FieldType.int) [((0 : Nat), (10 : Nat), (13 : Nat), (13 : Nat)), ((0 : Nat), (10 : Nat), (17 : Nat), (25 : Nat))]) ({ frames := 21, cells := b, slots := b, locals := 599 })).room).cells ∧ slots + bq ≤ ((headSpec (wsW_ yX0_rule cX0_rule 5 (Option.some Jvm.ClassFile.FieldType.int) [((0 : Nat), (10 : Nat), (13 : Nat), (13 : Nat)), ((0 : Nat), (10 : Nat), (17 : Nat), (25 : Nat))]) ({ frames := 21, cells := b, slots := b, locals := 599 })).room).slots) → lv_has ls 5 [] → W p l e (headSpec (wsW_ yX0_rule cX0_rule 5 (Option.some Jvm.ClassFile.FieldType.int) [((0 : Nat), (10 : Nat), (13 : Nat), (13 : Nat)), ((0 : Nat), (10 : Nat), (17 : Nat), (25 : Nat))]) ({ frames := 21, cells := b, slots := b, locals := 599 })).room s m ([.ref p1, .int p2, .int p3, .ref p4] : List Value).toArray below meth c H locs cells slots (vx_MQ below (wQ G (wqI Q)) (wXC G wX0) ([.ref p1, .int p2, .int p3, .ref p4] : List Value).toArray s b b (wA G)) (F0 m 17 ls [.ref y0]) := by
    intro y0 M bq H locs ls cells slots hp hM hS hB hl
    refine lv_astore (lv' := [(4, .ref y0)]) hx hb dX0_rule_17 hl (by decide) rfl (fun ls hl => ?_)
    refine lv_iconst (v := 2) hx hb dX0_rule_19 (by decide) ?_
    exact x_iret X hr hlk hM hS (w_fin hB) dX0_rule_20 ⟨_, rfl, hp⟩
  refine lv_aload_n hx hb dX0_rule_0 rfl (lv_at hl 3 rfl) ?_
  refine lv_iconst (v := 0) hx hb dX0_rule_1 (by decide) ?_
  refine lv_aload_n hx hb dX0_rule_2 rfl (lv_at hl 0 rfl) ?_
  refine lv_iload_n hx hb dX0_rule_3 rfl (lv_at hl 1 rfl) ?_
  refine lv_iload_n hx hb dX0_rule_4 rfl (lv_at hl 2 rfl) ?_
  obtain ⟨hrec, hp⟩ := hp
  obtain ⟨c2, hc1, hp⟩ := hp
  refine x_callI (vx_runV (As := [.int p2, .int p3]) (rest := [.int (0 : Int32), .ref p4]) X (P_X1_rule_ok (l := l) hl0 hp) (cwV 2 hts (lw_V q2447 q2448 q2449 q148 q2450) rfl rfl rfl (by decide +kernel) ⟨Nat.le_of_ble_eq_true rfl, Nat.le_of_ble_eq_true rfl⟩) ⟨wPc.blind, w_recv hC.1 hM (ci := 0) (q := (RX1, TX1, 8)) rfl hrec, w_pre hC hM hS _⟩ rfl rfl hl.1 rfl (lv_room (Nat.le_of_ble_eq_true rfl)) dX0_rule_5 (w_room hB hc1)) hS hB hc1 (fun E ce q5 M6 H locs hp hM hS hB hcell hcv hcl => ?_) (fun v3 M1 H locs hp hM hS hB => ?_)
  · rcases hp with ⟨rfl, hp⟩ | ⟨rfl, hp⟩
    · refine vx_catch (own := "ParkingOfficeLaw") (name := "java/lang/IllegalArgumentException") (E := "java/lang/IllegalArgumentException") hown [⟨0, 10, 13, 13⟩] ⟨0, 10, 17, 25⟩ [] (by rw [htab]; rfl) (List.forall_mem_cons.mpr ⟨(Or.inr ⟨by decide, "java/lang/IndexOutOfBoundsException", hts _ q2176, hC.1.2.2.2.2.2.1 ("java/lang/IllegalArgumentException", "java/lang/IndexOutOfBoundsException") (List.mem_of_getElem? (i := 7) rfl)⟩), (fun _ h => absurd h List.not_mem_nil)⟩) (by decide) (by decide) (hts _ q2317) (va_Nw.use rfl (hC.1.2.2.1 _ q806 rfl)) hcell hcv hcl ?_
      exact hB17 _ _ _ _ _ _ _ _ hp hM hS hB (lv_sub hl [] rfl)
    · refine vx_catch (own := "ParkingOfficeLaw") (name := "java/lang/IndexOutOfBoundsException") (E := "java/lang/IndexOutOfBoundsException") hown [] ⟨0, 10, 13, 13⟩ [⟨0, 10, 17, 25⟩] (by rw [htab]; rfl) (fun _ h => absurd h List.not_mem_nil) (by decide) (by decide) (hts _ q2176) (va_Nw.use rfl (hC.1.2.2.1 _ q550 rfl)) hcell hcv hcl ?_
      exact hB13 _ _ _ _ _ _ _ _ hp hM hS hB (lv_sub hl [] rfl)
  · refine lv_i2l (v := v3.toInt64) hx hb dX0_rule_8 rfl ?_
    refine x_last X hC.1 hM hS dX0_rule_9 hp (fun M4 H locs hM hS hp => ?_)
    refine lv_goto (tgt := 21) hx hb dX0_rule_10 (by decide) ?_
    refine lv_iconst (v := 0) hx hb dX0_rule_21 (by decide) ?_
    exact x_iret X hr hlk hM hS (w_fin hB) dX0_rule_22 ⟨_, rfl, hp⟩
def B_X0_setLimit_13 (G : wG) (Q : Int32 → wM → Prop) (y0 : Nat) (M : wM) (bq : Nat) : Prop :=
  Q (1 : Int32) M
def B_X0_setLimit_17 (G : wG) (Q : Int32 → wM → Prop) (y0 : Nat) (M : wM) (bq : Nat) : Prop :=
  Q (2 : Int32) M
def B_X0_setLimit_21 (G : wG) (Q : Int32 → wM → Prop) (y0 : Nat) (M : wM) (bq : Nat) : Prop :=
  Q (3 : Int32) M
def P_X0_setLimit (G : wG) (p1 : Nat) (p2 : Int32) (p3 : Int32) (p4 : Nat) (b : Nat) (M : wM) (Q : Int32 → wM → Prop) : Prop :=
  oIs M p1 0 (∃ c2, c2 ≤ b ∧ P_X1_setLimit G p1 p2 p3 c2 M (fun v3 M1 => oLast G M1 p4 (0 : Int32) (v3.toInt64) (fun M4 => Q (0 : Int32) M4)) (fun E q5 M6 => (E = "java/lang/IllegalArgumentException" ∧ (B_X0_setLimit_17 G Q q5 M6 (b - c2))) ∨ (E = "java/lang/IllegalStateException" ∧ (B_X0_setLimit_21 G Q q5 M6 (b - c2))) ∨ (E = "java/lang/IndexOutOfBoundsException" ∧ (B_X0_setLimit_13 G Q q5 M6 (b - c2)))))
set_option maxHeartbeats 4000000 in
set_option maxRecDepth 100000 in
theorem P_X0_setLimit_ok {l : Launch} (hl0 : l.stackTraces = false) {G : wG} {p1 : Nat} {p2 : Int32} {p3 : Int32} {p4 : Nat} {b : Nat} {M : wM} {Q : Int32 → wM → Prop} (hp : P_X0_setLimit G p1 p2 p3 p4 b M Q) : wMet l yX0_setLimit (wsW_ yX0_setLimit cX0_setLimit 5 (Option.some Jvm.ClassFile.FieldType.int) [((0 : Nat), (10 : Nat), (13 : Nat), (13 : Nat)), ((0 : Nat), (10 : Nat), (17 : Nat), (25 : Nat)), ((0 : Nat), (10 : Nat), (21 : Nat), (71 : Nat))]) 21 598 G [.ref p1, .int p2, .int p3, .ref p4] M b (wqI Q) wX0 := by
  refine vx_ofWH (cc := cX0_setLimit) (maxL := 5) (ret := Option.some Jvm.ClassFile.FieldType.int) (hh := [((0 : Nat), (10 : Nat), (13 : Nat), (13 : Nat)), ((0 : Nat), (10 : Nat), (17 : Nat), (25 : Nat)), ((0 : Nat), (10 : Nat), (21 : Nat), (71 : Nat))]) (by decide) rfl ?_
  intro p e s m args below meth c s₁ B hml hv
  obtain ⟨rfl, hM, hK, hZ, hz⟩ := hv
  have hC : wC G s := ⟨hK, hZ, hz⟩
  have hx := B.exec
  have hb := B.bytes
  have hr := B.returns
  have hts := atoms_spec (ws := (wsW_ yX0_setLimit cX0_setLimit 5 (Option.some Jvm.ClassFile.FieldType.int) [((0 : Nat), (10 : Nat), (13 : Nat), (13 : Nat)), ((0 : Nat), (10 : Nat), (17 : Nat), (25 : Nat)), ((0 : Nat), (10 : Nat), (21 : Nat), (71 : Nat))])) B.pre
  have htab := vx_table (x := yX0_setLimit) B (hts _ List.mem_cons_self)
  have hts : ∀ w ∈ lw_all, w.before _ s = true := fun w h => hts w (List.mem_cons_of_mem _ h)
  have hown : s.vm.findClass RX0 = some m.cls := findClass_of_methodNamed B.named
  have hlk := B.notSynchronized
  have X : CallFix p m c cX0_setLimit 5 s ([.ref p1, .int p2, .int p3, .ref p4] : List Value).toArray lw_all RX0 := ⟨hx, hb, hml, hown, hts⟩
  have hS : va_S (wA G) s.heap s.heap [] := va_S.rf
  have hl := lv_entry ([.ref p1, .int p2, .int p3, .ref p4]) (n := 5) (Nat.le_of_ble_eq_true rfl)
  rw [lg_entry_eq]
  generalize (lg_sl ([.ref p1, .int p2, .int p3, .ref p4]) ++ List.replicate (5 - (lg_sl ([.ref p1, .int p2, .int p3, .ref p4])).length) Slot.unset).toArray = ls at hl ⊢
  have hl : lv_has ls 5 [(0, .ref p1), (1, .int p2), (2, .int p3), (3, .ref p4)] := hl
  have hB : 0 + b ≤ ((headSpec (wsW_ yX0_setLimit cX0_setLimit 5 (Option.some Jvm.ClassFile.FieldType.int) [((0 : Nat), (10 : Nat), (13 : Nat), (13 : Nat)), ((0 : Nat), (10 : Nat), (17 : Nat), (25 : Nat)), ((0 : Nat), (10 : Nat), (21 : Nat), (71 : Nat))]) ({ frames := 21, cells := b, slots := b, locals := 598 })).room).cells ∧ 0 + b ≤ ((headSpec (wsW_ yX0_setLimit cX0_setLimit 5 (Option.some Jvm.ClassFile.FieldType.int) [((0 : Nat), (10 : Nat), (13 : Nat), (13 : Nat)), ((0 : Nat), (10 : Nat), (17 : Nat), (25 : Nat)), ((0 : Nat), (10 : Nat), (21 : Nat), (71 : Nat))]) ({ frames := 21, cells := b, slots := b, locals := 598 })).room).slots := ⟨Nat.le_of_eq (Nat.zero_add b), Nat.le_of_eq (Nat.zero_add b)⟩
  have hB13 : ∀ (y0 : Nat) (M : wM) (bq : Nat) (H : Heap) (locs : List Loc) (ls : Array Slot) (cells slots : Nat), B_X0_setLimit_13 G Q y0 M bq → wR G M H → va_S (wA G) s.heap H locs → (cells + bq ≤ ((headSpec (wsW_ yX0_setLimit cX0_setLimit 5 (Option.some Jvm.ClassFile.FieldType.int) [((0 : Nat), (10 : Nat), (13 : Nat), (13 : Nat)), ((0 : Nat), (10 : Nat), (17 : Nat), (25 : Nat)), ((0 : Nat), (10 : Nat), (21 : Nat), (71 : Nat))]) ({ frames := 21, cells := b, slots := b, locals := 598 })).room).cells ∧ slots + bq ≤ ((headSpec (wsW_ yX0_setLimit cX0_setLimit 5 (Option.some Jvm.ClassFile.FieldType.int) [((0 : Nat), (10 : Nat), (13 : Nat), (13 : Nat)), ((0 : Nat), (10 : Nat), (17 : Nat), (25 : Nat)), ((0 : Nat), (10 : Nat), (21 : Nat), (71 : Nat))]) ({ frames := 21, cells := b, slots := b, locals := 598 })).room).slots) → lv_has ls 5 [] → W p l e (headSpec (wsW_ yX0_setLimit cX0_setLimit 5 (Option.some Jvm.ClassFile.FieldType.int) [((0 : Nat), (10 : Nat), (13 : Nat), (13 : Nat)), ((0 : Nat), (10 : Nat), (17 : Nat), (25 : Nat)), ((0 : Nat), (10 : Nat), (21 : Nat), (71 : Nat))]) ({ frames := 21, cells := b, slots := b, locals := 598 })).room s m ([.ref p1, .int p2, .int p3, .ref p4] : List Value).toArray below meth c H locs cells slots (vx_MQ below (wQ G (wqI Q)) (wXC G wX0) ([.ref p1, .int p2, .int p3, .ref p4] : List Value).toArray s b b (wA G)) (F0 m 13 ls [.ref y0]) := by
    intro y0 M bq H locs ls cells slots hp hM hS hB hl
    refine lv_astore (lv' := [(4, .ref y0)]) hx hb dX0_setLimit_13 hl (by decide) rfl (fun ls hl => ?_)
    refine lv_iconst (v := 1) hx hb dX0_setLimit_15 (by decide) ?_
    exact x_iret X hr hlk hM hS (w_fin hB) dX0_setLimit_16 ⟨_, rfl, hp⟩
  have hB17 : ∀ (y0 : Nat) (M : wM) (bq : Nat) (H : Heap) (locs : List Loc) (ls : Array Slot) (cells slots : Nat), B_X0_setLimit_17 G Q y0 M bq → wR G M H → va_S (wA G) s.heap H locs → (cells + bq ≤ ((headSpec (wsW_ yX0_setLimit cX0_setLimit 5 (Option.some Jvm.ClassFile.FieldType.int) [((0 : Nat), (10 : Nat), (13 : Nat), (13 : Nat)), ((0 : Nat), (10 : Nat), (17 : Nat), (25 : Nat)), ((0 : Nat), (10 : Nat), (21 : Nat), (71 : Nat))]) ({ frames := 21, cells := b, slots := b, locals := 598 })).room).cells ∧ slots + bq ≤ ((headSpec (wsW_ yX0_setLimit cX0_setLimit 5 (Option.some Jvm.ClassFile.FieldType.int) [((0 : Nat), (10 : Nat), (13 : Nat), (13 : Nat)), ((0 : Nat), (10 : Nat), (17 : Nat), (25 : Nat)), ((0 : Nat), (10 : Nat), (21 : Nat), (71 : Nat))]) ({ frames := 21, cells := b, slots := b, locals := 598 })).room).slots) → lv_has ls 5 [] → W p l e (headSpec (wsW_ yX0_setLimit cX0_setLimit 5 (Option.some Jvm.ClassFile.FieldType.int) [((0 : Nat), (10 : Nat), (13 : Nat), (13 : Nat)), ((0 : Nat), (10 : Nat), (17 : Nat), (25 : Nat)), ((0 : Nat), (10 : Nat), (21 : Nat), (71 : Nat))]) ({ frames := 21, cells := b, slots := b, locals := 598 })).room s m ([.ref p1, .int p2, .int p3, .ref p4] : List Value).toArray below meth c H locs cells slots (vx_MQ below (wQ G (wqI Q)) (wXC G wX0) ([.ref p1, .int p2, .int p3, .ref p4] : List Value).toArray s b b (wA G)) (F0 m 17 ls [.ref y0]) := by
    intro y0 M bq H locs ls cells slots hp hM hS hB hl
    refine lv_astore (lv' := [(4, .ref y0)]) hx hb dX0_setLimit_17 hl (by decide) rfl (fun ls hl => ?_)
    refine lv_iconst (v := 2) hx hb dX0_setLimit_19 (by decide) ?_
    exact x_iret X hr hlk hM hS (w_fin hB) dX0_setLimit_20 ⟨_, rfl, hp⟩
  have hB21 : ∀ (y0 : Nat) (M : wM) (bq : Nat) (H : Heap) (locs : List Loc) (ls : Array Slot) (cells slots : Nat), B_X0_setLimit_21 G Q y0 M bq → wR G M H → va_S (wA G) s.heap H locs → (cells + bq ≤ ((headSpec (wsW_ yX0_setLimit cX0_setLimit 5 (Option.some Jvm.ClassFile.FieldType.int) [((0 : Nat), (10 : Nat), (13 : Nat), (13 : Nat)), ((0 : Nat), (10 : Nat), (17 : Nat), (25 : Nat)), ((0 : Nat), (10 : Nat), (21 : Nat), (71 : Nat))]) ({ frames := 21, cells := b, slots := b, locals := 598 })).room).cells ∧ slots + bq ≤ ((headSpec (wsW_ yX0_setLimit cX0_setLimit 5 (Option.some Jvm.ClassFile.FieldType.int) [((0 : Nat), (10 : Nat), (13 : Nat), (13 : Nat)), ((0 : Nat), (10 : Nat), (17 : Nat), (25 : Nat)), ((0 : Nat), (10 : Nat), (21 : Nat), (71 : Nat))]) ({ frames := 21, cells := b, slots := b, locals := 598 })).room).slots) → lv_has ls 5 [] → W p l e (headSpec (wsW_ yX0_setLimit cX0_setLimit 5 (Option.some Jvm.ClassFile.FieldType.int) [((0 : Nat), (10 : Nat), (13 : Nat), (13 : Nat)), ((0 : Nat), (10 : Nat), (17 : Nat), (25 : Nat)), ((0 : Nat), (10 : Nat), (21 : Nat), (71 : Nat))]) ({ frames := 21, cells := b, slots := b, locals := 598 })).room s m ([.ref p1, .int p2, .int p3, .ref p4] : List Value).toArray below meth c H locs cells slots (vx_MQ below (wQ G (wqI Q)) (wXC G wX0) ([.ref p1, .int p2, .int p3, .ref p4] : List Value).toArray s b b (wA G)) (F0 m 21 ls [.ref y0]) := by
    intro y0 M bq H locs ls cells slots hp hM hS hB hl
    refine lv_astore (lv' := [(4, .ref y0)]) hx hb dX0_setLimit_21 hl (by decide) rfl (fun ls hl => ?_)
    refine lv_iconst (v := 3) hx hb dX0_setLimit_23 (by decide) ?_
    exact x_iret X hr hlk hM hS (w_fin hB) dX0_setLimit_24 ⟨_, rfl, hp⟩
  refine lv_aload_n hx hb dX0_setLimit_0 rfl (lv_at hl 3 rfl) ?_
  refine lv_iconst (v := 0) hx hb dX0_setLimit_1 (by decide) ?_
  refine lv_aload_n hx hb dX0_setLimit_2 rfl (lv_at hl 0 rfl) ?_
  refine lv_iload_n hx hb dX0_setLimit_3 rfl (lv_at hl 1 rfl) ?_
  refine lv_iload_n hx hb dX0_setLimit_4 rfl (lv_at hl 2 rfl) ?_
  obtain ⟨hrec, hp⟩ := hp
  obtain ⟨c2, hc1, hp⟩ := hp
  refine x_callI (vx_runV (As := [.int p2, .int p3]) (rest := [.int (0 : Int32), .ref p4]) X (P_X1_setLimit_ok (l := l) hl0 hp) (cwV 2 hts (lw_V q2966 q2967 q2968 q148 q2969) rfl rfl rfl (by decide +kernel) ⟨Nat.le_of_ble_eq_true rfl, Nat.le_of_ble_eq_true rfl⟩) ⟨wPc.blind, w_recv hC.1 hM (ci := 0) (q := (RX1, TX1, 8)) rfl hrec, w_pre hC hM hS _⟩ rfl rfl hl.1 rfl (lv_room (Nat.le_of_ble_eq_true rfl)) dX0_setLimit_5 (w_room hB hc1)) hS hB hc1 (fun E ce q5 M6 H locs hp hM hS hB hcell hcv hcl => ?_) (fun v3 M1 H locs hp hM hS hB => ?_)
  · rcases hp with ⟨rfl, hp⟩ | ⟨rfl, hp⟩ | ⟨rfl, hp⟩
    · refine vx_catch (own := "ParkingOfficeLaw") (name := "java/lang/IllegalArgumentException") (E := "java/lang/IllegalArgumentException") hown [⟨0, 10, 13, 13⟩] ⟨0, 10, 17, 25⟩ [⟨0, 10, 21, 71⟩] (by rw [htab]; rfl) (List.forall_mem_cons.mpr ⟨(Or.inr ⟨by decide, "java/lang/IndexOutOfBoundsException", hts _ q2176, hC.1.2.2.2.2.2.1 ("java/lang/IllegalArgumentException", "java/lang/IndexOutOfBoundsException") (List.mem_of_getElem? (i := 7) rfl)⟩), (fun _ h => absurd h List.not_mem_nil)⟩) (by decide) (by decide) (hts _ q2317) (va_Nw.use rfl (hC.1.2.2.1 _ q806 rfl)) hcell hcv hcl ?_
      exact hB17 _ _ _ _ _ _ _ _ hp hM hS hB (lv_sub hl [] rfl)
    · refine vx_catch (own := "ParkingOfficeLaw") (name := "java/lang/IllegalStateException") (E := "java/lang/IllegalStateException") hown [⟨0, 10, 13, 13⟩, ⟨0, 10, 17, 25⟩] ⟨0, 10, 21, 71⟩ [] (by rw [htab]; rfl) (List.forall_mem_cons.mpr ⟨(Or.inr ⟨by decide, "java/lang/IndexOutOfBoundsException", hts _ q2176, hC.1.2.2.2.2.2.1 ("java/lang/IllegalStateException", "java/lang/IndexOutOfBoundsException") (List.mem_of_getElem? (i := 14) rfl)⟩), (List.forall_mem_cons.mpr ⟨(Or.inr ⟨by decide, "java/lang/IllegalArgumentException", hts _ q2317, hC.1.2.2.2.2.2.1 ("java/lang/IllegalStateException", "java/lang/IllegalArgumentException") (List.mem_of_getElem? (i := 15) rfl)⟩), (fun _ h => absurd h List.not_mem_nil)⟩)⟩) (by decide) (by decide) (hts _ q2625) (va_Nw.use rfl (hC.1.2.2.1 _ q2578 rfl)) hcell hcv hcl ?_
      exact hB21 _ _ _ _ _ _ _ _ hp hM hS hB (lv_sub hl [] rfl)
    · refine vx_catch (own := "ParkingOfficeLaw") (name := "java/lang/IndexOutOfBoundsException") (E := "java/lang/IndexOutOfBoundsException") hown [] ⟨0, 10, 13, 13⟩ [⟨0, 10, 17, 25⟩, ⟨0, 10, 21, 71⟩] (by rw [htab]; rfl) (fun _ h => absurd h List.not_mem_nil) (by decide) (by decide) (hts _ q2176) (va_Nw.use rfl (hC.1.2.2.1 _ q550 rfl)) hcell hcv hcl ?_
      exact hB13 _ _ _ _ _ _ _ _ hp hM hS hB (lv_sub hl [] rfl)
  · refine lv_i2l (v := v3.toInt64) hx hb dX0_setLimit_8 rfl ?_
    refine x_last X hC.1 hM hS dX0_setLimit_9 hp (fun M4 H locs hM hS hp => ?_)
    refine lv_goto (tgt := 25) hx hb dX0_setLimit_10 (by decide) ?_
    refine lv_iconst (v := 0) hx hb dX0_setLimit_25 (by decide) ?_
    exact x_iret X hr hlk hM hS (w_fin hB) dX0_setLimit_26 ⟨_, rfl, hp⟩
