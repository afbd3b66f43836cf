set_option maxRecDepth 100000
def B_J32_hasNext_19 (G : wG) (Q : Bool → wM → Prop) (y0 : Int32) (M : wM) : Prop :=
  ∃ r : Bool, y0 = wb r ∧ Q r M
def P_J32_hasNext (G : wG) (t0 : Nat) (M : wM) (Q : Bool → wM → Prop) : Prop :=
  oGetI M t0 20 0 (fun v1 => oGetA M t0 20 3 (fun a2 => oGetI M a2 16 2 (fun v3 => oIf (v1 = v3) (B_J32_hasNext_19 G Q (0 : Int32) M) (B_J32_hasNext_19 G Q (1 : Int32) M))))
set_option maxHeartbeats 4000000 in
set_option maxRecDepth 100000 in
theorem P_J32_hasNext_ok {l : Launch} (hl0 : l.stackTraces = false) {G : wG} {t0 : Nat} {M : wM} {Q : Bool → wM → Prop} (hp : P_J32_hasNext G t0 M Q) : wMet l yJ32_hasNext (ws_ yJ32_hasNext cJ32_hasNext 1 (Option.some Jvm.ClassFile.FieldType.boolean)) 12 400 G [.ref t0] M 0 (wqZ Q) wX0 := by
  refine vx_ofW (cc := cJ32_hasNext) (maxL := 1) (ret := Option.some Jvm.ClassFile.FieldType.boolean) (by decide) rfl ?_
  intro p e s m args below meth c s₁ B hml hnt hv
  obtain ⟨rfl, hM, hK, hZ, hz⟩ := hv
  have hC : wC G s := ⟨hK, hZ, hz⟩
  have hx := B.exec
  have hb := B.bytes
  have hr := B.returns
  have hts := atoms_spec (ws := (ws_ yJ32_hasNext cJ32_hasNext 1 (Option.some Jvm.ClassFile.FieldType.boolean))) B.pre
  have hts : ∀ w ∈ lw_all, w.before _ s = true := fun w h => hts w (List.mem_cons_of_mem _ h)
  have hown : s.vm.findClass RJ32 = some m.cls := findClass_of_methodNamed B.named
  have hlk := B.notSynchronized
  have X : CallFix p m c cJ32_hasNext 1 s ([.ref t0] : List Value).toArray lw_all RJ32 := ⟨hx, hb, hml, hown, hts⟩
  have hS : va_S (wA G) s.heap s.heap [] := va_S.rf
  have hl := lv_entry ([.ref t0]) (n := 1) (Nat.le_of_ble_eq_true rfl)
  rw [lg_entry_eq]
  generalize (lg_sl ([.ref t0]) ++ List.replicate (1 - (lg_sl ([.ref t0])).length) Slot.unset).toArray = ls at hl ⊢
  have hl : lv_has ls 1 [(0, .ref t0)] := hl
  have hB19 : ∀ (y0 : Int32) (M : wM) (H : Heap) (locs : List Loc) (ls : Array Slot), B_J32_hasNext_19 G Q y0 M → wR G M H → va_S (wA G) s.heap H locs → lv_has ls 1 [] → W p l e (headSpec (ws_ yJ32_hasNext cJ32_hasNext 1 (Option.some Jvm.ClassFile.FieldType.boolean)) ({ frames := 12, cells := 0, slots := 0, locals := 400 })).room s m ([.ref t0] : List Value).toArray below meth c H locs 0 0 (vx_MQ below (wQ G (wqZ Q)) (wXC G wX0) ([.ref t0] : List Value).toArray s 0 0 (wA G)) (F0 m 19 ls [.int y0]) := by
    intro y0 M H locs ls hp hM hS hl
    obtain ⟨r, hr0, hp⟩ := hp
    exact x_zret X hr hlk hM hS ⟨Nat.le_refl _, Nat.le_refl _⟩ (by rw [hr0]; exact w_nz _) dJ32_hasNext_19 ⟨r, by rw [hr0], hp⟩
  refine lv_aload_n hx hb dJ32_hasNext_0 rfl (lv_at hl 0 rfl) ?_
  refine x_getI X hC.1 hM (ci := 20) (C := RJ32) (T := TJ32) (N := 4) rfl in_J32 0 (by decide) q1746 (fun _ h9 => h9) dJ32_hasNext_1 hp (fun v1 hp => ?_)
  refine lv_aload_n hx hb dJ32_hasNext_4 rfl (lv_at hl 0 rfl) ?_
  refine x_getA X hC.1 hM (ci := 20) (C := RJ32) (T := TJ32) (N := 4) rfl in_J32 3 (by decide) q1749 (fun _ h9 => h9) dJ32_hasNext_5 hp (fun a2 hp => ?_)
  refine x_getIN X hC.1 hM (ci := 16) (C := RJ2) (T := TJ2) (N := 3) rfl in_J2 2 (by decide) q244 (fun _ h9 => h9) dJ32_hasNext_8 hp (fun v3 hp => ?_)
  refine lv_icmp_eq (tgt := 18) hx hb dJ32_hasNext_11 (by decide) (fun hc => ?_) (fun hc => ?_)
  · have hp := oIf.t hp hc
    refine lv_iconst (v := 0) hx hb dJ32_hasNext_18 (by decide) ?_
    exact hB19 _ _ _ _ _ hp hM hS (lv_sub hl [] rfl)
  · have hp := oIf.f hp hc
    refine lv_iconst (v := 1) hx hb dJ32_hasNext_14 (by decide) ?_
    refine lv_goto (tgt := 19) hx hb dJ32_hasNext_15 (by decide) ?_
    exact hB19 _ _ _ _ _ hp hM hS (lv_sub hl [] rfl)
def P_J32_checkForComodification (G : wG) (t0 : Nat) (M : wM) (Q : wM → Prop) : Prop :=
  oGetA M t0 20 3 (fun a1 => oGetI M a1 16 0 (fun v2 => oGetI M t0 20 2 (fun v3 => oIf (v2 = v3) (Q M) (False))))
set_option maxHeartbeats 4000000 in
set_option maxRecDepth 100000 in
theorem P_J32_checkForComodification_ok {l : Launch} (hl0 : l.stackTraces = false) {G : wG} {t0 : Nat} {M : wM} {Q : wM → Prop} (hp : P_J32_checkForComodification G t0 M Q) : wMet l yJ32_checkForComodification (ws_ yJ32_checkForComodification cJ32_checkForComodification 1 (none)) 12 400 G [.ref t0] M 0 (wqV Q) wX0 := by
  refine vx_ofW (cc := cJ32_checkForComodification) (maxL := 1) (ret := none) (by decide) rfl ?_
  intro p e s m args below meth c s₁ B hml hnt hv
  obtain ⟨rfl, hM, hK, hZ, hz⟩ := hv
  have hC : wC G s := ⟨hK, hZ, hz⟩
  have hx := B.exec
  have hb := B.bytes
  have hr := B.returns
  have hts := atoms_spec (ws := (ws_ yJ32_checkForComodification cJ32_checkForComodification 1 (none))) B.pre
  have hts : ∀ w ∈ lw_all, w.before _ s = true := fun w h => hts w (List.mem_cons_of_mem _ h)
  have hown : s.vm.findClass RJ32 = some m.cls := findClass_of_methodNamed B.named
  have hlk := B.notSynchronized
  have X : CallFix p m c cJ32_checkForComodification 1 s ([.ref t0] : List Value).toArray lw_all RJ32 := ⟨hx, hb, hml, hown, hts⟩
  have hS : va_S (wA G) s.heap s.heap [] := va_S.rf
  have hl := lv_entry ([.ref t0]) (n := 1) (Nat.le_of_ble_eq_true rfl)
  rw [lg_entry_eq]
  generalize (lg_sl ([.ref t0]) ++ List.replicate (1 - (lg_sl ([.ref t0])).length) Slot.unset).toArray = ls at hl ⊢
  have hl : lv_has ls 1 [(0, .ref t0)] := hl
  refine lv_aload_n hx hb dJ32_checkForComodification_0 rfl (lv_at hl 0 rfl) ?_
  refine x_getA X hC.1 hM (ci := 20) (C := RJ32) (T := TJ32) (N := 4) rfl in_J32 3 (by decide) q1749 (fun _ h9 => h9) dJ32_checkForComodification_1 hp (fun a1 hp => ?_)
  refine x_getI X hC.1 hM (ci := 16) (C := RJ2) (T := TJ2) (N := 3) rfl in_J2 0 (by decide) q249 (fun x9 h9 => u_same (hts _ q250) x9 h9) dJ32_checkForComodification_4 hp (fun v2 hp => ?_)
  refine lv_aload_n hx hb dJ32_checkForComodification_7 rfl (lv_at hl 0 rfl) ?_
  refine x_getI X hC.1 hM (ci := 20) (C := RJ32) (T := TJ32) (N := 4) rfl in_J32 2 (by decide) q1748 (fun _ h9 => h9) dJ32_checkForComodification_8 hp (fun v3 hp => ?_)
  refine lv_icmp_eq (tgt := 22) hx hb dJ32_checkForComodification_11 (by decide) (fun hc => ?_) (fun hc => ?_)
  · have hp := oIf.t hp hc
    exact x_vret X hr hlk hM hS ⟨Nat.le_refl _, Nat.le_refl _⟩ dJ32_checkForComodification_22 ⟨rfl, hp⟩
  · have hp := oIf.f hp hc
    exact hp.elim
def P_J32_next (G : wG) (t0 : Nat) (M : wM) (Q : Option Nat → wM → Prop) : Prop :=
  oIs M t0 20 (P_J32_checkForComodification G t0 M (fun M1 => oGetI M1 t0 20 0 (fun v3 => oGetA M1 t0 20 3 (fun a4 => oGetI M1 a4 16 2 (fun v5 => oIf (v3 < v5) (oGetA M1 t0 20 3 (fun a6 => oGetA M1 a6 16 1 (fun a7 => oAlen (.object "java/lang/Object") M1 a7 (fun v8 => oIf (v3 < v8) (oPut G M1 t0 20 0 (.int (v3 + (1 : Int32))) (fun M9 => oPut G M9 t0 20 1 (.int v3) (fun M10 => oAald (.object "java/lang/Object") M10 a7 v3 (fun r11 => Q r11 M10)))) (False))))) (False))))))
set_option maxHeartbeats 4000000 in
set_option maxRecDepth 100000 in
theorem P_J32_next_ok {l : Launch} (hl0 : l.stackTraces = false) {G : wG} {t0 : Nat} {M : wM} {Q : Option Nat → wM → Prop} (hp : P_J32_next G t0 M Q) : wMet l yJ32_next (ws_ yJ32_next cJ32_next 3 (Option.some (Jvm.ClassFile.FieldType.object "java/lang/Object"))) 13 420 G [.ref t0] M 0 (wqR Q) wX0 := by
  refine vx_ofW (cc := cJ32_next) (maxL := 3) (ret := Option.some (Jvm.ClassFile.FieldType.object "java/lang/Object")) (by decide) rfl ?_
  intro p e s m args below meth c s₁ B hml hnt hv
  obtain ⟨rfl, hM, hK, hZ, hz⟩ := hv
  have hC : wC G s := ⟨hK, hZ, hz⟩
  have hx := B.exec
  have hb := B.bytes
  have hr := B.returns
  have hts := atoms_spec (ws := (ws_ yJ32_next cJ32_next 3 (Option.some (Jvm.ClassFile.FieldType.object "java/lang/Object")))) B.pre
  have hts : ∀ w ∈ lw_all, w.before _ s = true := fun w h => hts w (List.mem_cons_of_mem _ h)
  have hown : s.vm.findClass RJ32 = some m.cls := findClass_of_methodNamed B.named
  have hlk := B.notSynchronized
  have X : CallFix p m c cJ32_next 3 s ([.ref t0] : List Value).toArray lw_all RJ32 := ⟨hx, hb, hml, hown, hts⟩
  have hS : va_S (wA G) s.heap s.heap [] := va_S.rf
  have hl := lv_entry ([.ref t0]) (n := 3) (Nat.le_of_ble_eq_true rfl)
  rw [lg_entry_eq]
  generalize (lg_sl ([.ref t0]) ++ List.replicate (3 - (lg_sl ([.ref t0])).length) Slot.unset).toArray = ls at hl ⊢
  have hl : lv_has ls 3 [(0, .ref t0)] := hl
  refine lv_aload_n hx hb dJ32_next_0 rfl (lv_at hl 0 rfl) ?_
  obtain ⟨hrec, hp⟩ := hp
  refine x_call0V (vx_runV (As := []) (rest := []) X (P_J32_checkForComodification_ok (l := l) hl0 hp) (cwV 0 hts (lw_V q1924 q1925 q1926 q190 q1929) rfl rfl rfl (by decide +kernel) ⟨Nat.le_of_ble_eq_true rfl, Nat.le_of_ble_eq_true rfl⟩) ⟨wPc.blind, w_recv hC.1 hM (ci := 20) (q := (RJ32, TJ32, 4)) rfl hrec, w_pre hC hM hS _⟩ rfl rfl hl.1 rfl (lv_room (Nat.le_of_ble_eq_true rfl)) dJ32_next_1 ⟨Nat.le_refl _, Nat.le_refl _⟩) hS ⟨Nat.le_refl _, Nat.le_refl _⟩ (fun _ _ _ _ _ _ h => False.elim h) (fun M1 H locs hp hM hS => ?_)
  refine lv_aload_n hx hb dJ32_next_4 rfl (lv_at hl 0 rfl) ?_
  refine x_getI X hC.1 hM (ci := 20) (C := RJ32) (T := TJ32) (N := 4) rfl in_J32 0 (by decide) q1746 (fun _ h9 => h9) dJ32_next_5 hp (fun v3 hp => ?_)
  refine lv_istore_n (lv' := [(1, .int v3), (0, .ref t0)]) hx hb dJ32_next_8 rfl hl (by decide) rfl (fun ls hl => ?_)
  refine lv_iload_n hx hb dJ32_next_9 rfl (lv_at hl 0 rfl) ?_
  refine lv_aload_n hx hb dJ32_next_10 rfl (lv_at hl 1 rfl) ?_
  refine x_getA X hC.1 hM (ci := 20) (C := RJ32) (T := TJ32) (N := 4) rfl in_J32 3 (by decide) q1749 (fun _ h9 => h9) dJ32_next_11 hp (fun a4 hp => ?_)
  refine x_getIN X hC.1 hM (ci := 16) (C := RJ2) (T := TJ2) (N := 3) rfl in_J2 2 (by decide) q244 (fun _ h9 => h9) dJ32_next_14 hp (fun v5 hp => ?_)
  refine lv_icmp_lt (tgt := 28) hx hb dJ32_next_17 (by decide) (fun hc => ?_) (fun hc => ?_)
  · have hp := oIf.t hp hc
    refine lv_aload_n hx hb dJ32_next_28 rfl (lv_at hl 1 rfl) ?_
    refine x_getA X hC.1 hM (ci := 20) (C := RJ32) (T := TJ32) (N := 4) rfl in_J32 3 (by decide) q1749 (fun _ h9 => h9) dJ32_next_29 hp (fun a6 hp => ?_)
    refine x_getA X hC.1 hM (ci := 16) (C := RJ2) (T := TJ2) (N := 3) rfl in_J2 1 (by decide) q243 (fun _ h9 => h9) dJ32_next_32 hp (fun a7 hp => ?_)
    refine lv_astore_n (lv' := [(2, .ref a7), (1, .int v3), (0, .ref t0)]) hx hb dJ32_next_35 rfl hl (by decide) rfl (fun ls hl => ?_)
    refine lv_iload_n hx hb dJ32_next_36 rfl (lv_at hl 1 rfl) ?_
    refine lv_aload_n hx hb dJ32_next_37 rfl (lv_at hl 0 rfl) ?_
    refine x_alen X hC.1 hM (ty := (.object "java/lang/Object")) (by decide) dJ32_next_38 hp (fun v8 hp => ?_)
    refine lv_icmp_lt (tgt := 50) hx hb dJ32_next_39 (by decide) (fun hc => ?_) (fun hc => ?_)
    · have hp := oIf.t hp hc
      refine lv_aload_n hx hb dJ32_next_50 rfl (lv_at hl 2 rfl) ?_
      refine lv_iload_n hx hb dJ32_next_51 rfl (lv_at hl 1 rfl) ?_
      refine lv_iconst (v := 1) hx hb dJ32_next_52 (by decide) ?_
      refine lv_iadd hx hb dJ32_next_53 ?_
      refine x_put X hC.1 hM hS (ci := 20) (C := RJ32) (T := TJ32) (N := 4) rfl in_J32 tyJ32 tyJ32_ok nmJ32 0 (by decide) q1746 (fun _ h9 => h9) rfl rfl rfl dJ32_next_54 hp (fun M9 H locs hM hS hp => ?_)
      refine lv_aload_n hx hb dJ32_next_57 rfl (lv_at hl 0 rfl) ?_
      refine lv_aload_n hx hb dJ32_next_58 rfl (lv_at hl 2 rfl) ?_
      refine lv_iload_n hx hb dJ32_next_59 rfl (lv_at hl 1 rfl) ?_
      refine lv_dup_x1 hx hb dJ32_next_60 rfl rfl ?_
      refine x_put X hC.1 hM hS (ci := 20) (C := RJ32) (T := TJ32) (N := 4) rfl in_J32 tyJ32 tyJ32_ok nmJ32 1 (by decide) q1747 (fun _ h9 => h9) rfl rfl rfl dJ32_next_61 hp (fun M10 H locs hM hS hp => ?_)
      refine x_aald X hC.1 hM (ty := (.object "java/lang/Object")) (by decide) rfl dJ32_next_64 hp (fun r11 hp => ?_)
      exact x_aret (v := r11) X hr (by first | exact Or.inl ⟨_, rfl⟩ | exact Or.inr ⟨_, rfl⟩) hlk hM hS ⟨Nat.le_refl _, Nat.le_refl _⟩ dJ32_next_65 ⟨r11, rfl, hp⟩
    · have hp := oIf.f hp hc
      exact hp.elim
  · have hp := oIf.f hp hc
    exact hp.elim
def P_J32_init (G : wG) (t0 : Nat) (p1 : Nat) (M : wM) (Q : wM → Prop) : Prop :=
  oPut G M t0 20 3 (.ref p1) (fun M1 => oPut G M1 t0 20 1 (.int (-1 : Int32)) (fun M2 => oGetA M2 t0 20 3 (fun a3 => oGetI M2 a3 16 0 (fun v4 => oPut G M2 t0 20 2 (.int v4) (fun M5 => Q M5)))))
set_option maxHeartbeats 4000000 in
set_option maxRecDepth 100000 in
theorem P_J32_init_ok {l : Launch} (hl0 : l.stackTraces = false) {G : wG} {t0 : Nat} {p1 : Nat} {M : wM} {Q : wM → Prop} (hp : P_J32_init G t0 p1 M Q) : wMet l yJ32_init (ws_ yJ32_init cJ32_init 2 (none)) 12 400 G [.ref t0, .ref p1] M 0 (wqV Q) wX0 := by
  refine vx_ofW (cc := cJ32_init) (maxL := 2) (ret := none) (by decide) rfl ?_
  intro p e s m args below meth c s₁ B hml hnt hv
  obtain ⟨rfl, hM, hK, hZ, hz⟩ := hv
  have hC : wC G s := ⟨hK, hZ, hz⟩
  have hx := B.exec
  have hb := B.bytes
  have hr := B.returns
  have hts := atoms_spec (ws := (ws_ yJ32_init cJ32_init 2 (none))) B.pre
  have hts : ∀ w ∈ lw_all, w.before _ s = true := fun w h => hts w (List.mem_cons_of_mem _ h)
  have hown : s.vm.findClass RJ32 = some m.cls := findClass_of_methodNamed B.named
  have hlk := B.notSynchronized
  have hin0 : meth.name = "<init>" := (name_of_methodNamed B.named B.method).1
  have X : CallFix p m c cJ32_init 2 s ([.ref t0, .ref p1] : List Value).toArray lw_all RJ32 := ⟨hx, hb, hml, hown, hts⟩
  have hS : va_S (wA G) s.heap s.heap [] := va_S.rf
  have hl := lv_entry ([.ref t0, .ref p1]) (n := 2) (Nat.le_of_ble_eq_true rfl)
  rw [lg_entry_eq]
  generalize (lg_sl ([.ref t0, .ref p1]) ++ List.replicate (2 - (lg_sl ([.ref t0, .ref p1])).length) Slot.unset).toArray = ls at hl ⊢
  have hl : lv_has ls 2 [(0, .ref t0), (1, .ref p1)] := hl
  refine lv_aload_n hx hb dJ32_init_0 rfl (lv_at hl 0 rfl) ?_
  refine lv_aload_n hx hb dJ32_init_1 rfl (lv_at hl 1 rfl) ?_
  refine x_putF X hC.1 hM hS (ci := 20) (C := RJ32) (T := TJ32) (N := 4) rfl in_J32 tyJ32 tyJ32_ok nmJ32 3 (by decide) q1749 (fun _ h9 => h9) rfl hin0 rfl rfl rfl dJ32_init_2 hp (fun M1 H locs hM hS hp => ?_)
  refine lv_aload_n hx hb dJ32_init_5 rfl (lv_at hl 0 rfl) ?_
  refine W.objInit hx hb hown (hts _ q1742) (hts _ q218) (hts _ q219) rfl (by rw [hml]; exact hl.1) rfl dJ32_init_6 (Nat.le_of_ble_eq_true rfl) (Nat.le_of_ble_eq_true rfl) ?_
  refine W.eq (g2 := F0 m 9 ls []) rfl ?_
  refine lv_aload_n hx hb dJ32_init_9 rfl (lv_at hl 0 rfl) ?_
  refine lv_iconst (v := (-1)) hx hb dJ32_init_10 (by decide) ?_
  refine x_put X hC.1 hM hS (ci := 20) (C := RJ32) (T := TJ32) (N := 4) rfl in_J32 tyJ32 tyJ32_ok nmJ32 1 (by decide) q1747 (fun _ h9 => h9) rfl rfl rfl dJ32_init_11 hp (fun M2 H locs hM hS hp => ?_)
  refine lv_aload_n hx hb dJ32_init_14 rfl (lv_at hl 0 rfl) ?_
  refine lv_aload_n hx hb dJ32_init_15 rfl (lv_at hl 0 rfl) ?_
  refine x_getA X hC.1 hM (ci := 20) (C := RJ32) (T := TJ32) (N := 4) rfl in_J32 3 (by decide) q1749 (fun _ h9 => h9) dJ32_init_16 hp (fun a3 hp => ?_)
  refine x_getI X hC.1 hM (ci := 16) (C := RJ2) (T := TJ2) (N := 3) rfl in_J2 0 (by decide) q249 (fun x9 h9 => u_same (hts _ q250) x9 h9) dJ32_init_19 hp (fun v4 hp => ?_)
  refine x_put X hC.1 hM hS (ci := 20) (C := RJ32) (T := TJ32) (N := 4) rfl in_J32 tyJ32 tyJ32_ok nmJ32 2 (by decide) q1748 (fun _ h9 => h9) rfl rfl rfl dJ32_init_22 hp (fun M5 H locs hM hS hp => ?_)
  exact x_vret X hr hlk hM hS ⟨Nat.le_refl _, Nat.le_refl _⟩ dJ32_init_25 ⟨rfl, hp⟩
def P_J2_iterator (G : wG) (t0 : Nat) (b : Nat) (M : wM) (Q : Option Nat → wM → Prop) : Prop :=
  oNew G M b 20 [.int 0, .int 0, .int 0, .null] (fun a1 M2 b3 => P_J32_init G a1 t0 M2 (fun M4 => Q (some a1) M4))
set_option maxHeartbeats 4000000 in
set_option maxRecDepth 100000 in
theorem P_J2_iterator_ok {l : Launch} (hl0 : l.stackTraces = false) {G : wG} {t0 : Nat} {b : Nat} {M : wM} {Q : Option Nat → wM → Prop} (hp : P_J2_iterator G t0 b M Q) : wMet l yJ2_iterator (ws_ yJ2_iterator cJ2_iterator 1 (Option.some (Jvm.ClassFile.FieldType.object "java/util/Iterator"))) 13 421 G [.ref t0] M b (wqR Q) wX0 := by
  refine vx_ofW (cc := cJ2_iterator) (maxL := 1) (ret := Option.some (Jvm.ClassFile.FieldType.object "java/util/Iterator")) (by decide) rfl ?_
  intro p e s m args below meth c s₁ B hml hnt hv
  obtain ⟨rfl, hM, hK, hZ, hz⟩ := hv
  have hC : wC G s := ⟨hK, hZ, hz⟩
  have hx := B.exec
  have hb := B.bytes
  have hr := B.returns
  have hts := atoms_spec (ws := (ws_ yJ2_iterator cJ2_iterator 1 (Option.some (Jvm.ClassFile.FieldType.object "java/util/Iterator")))) B.pre
  have hts : ∀ w ∈ lw_all, w.before _ s = true := fun w h => hts w (List.mem_cons_of_mem _ h)
  have hown : s.vm.findClass RJ2 = some m.cls := findClass_of_methodNamed B.named
  have hlk := B.notSynchronized
  have X : CallFix p m c cJ2_iterator 1 s ([.ref t0] : List Value).toArray lw_all RJ2 := ⟨hx, hb, hml, hown, hts⟩
  have hS : va_S (wA G) s.heap s.heap [] := va_S.rf
  have hl := lv_entry ([.ref t0]) (n := 1) (Nat.le_of_ble_eq_true rfl)
  rw [lg_entry_eq]
  generalize (lg_sl ([.ref t0]) ++ List.replicate (1 - (lg_sl ([.ref t0])).length) Slot.unset).toArray = ls at hl ⊢
  have hl : lv_has ls 1 [(0, .ref t0)] := hl
  have hB : 0 + b ≤ ((headSpec (ws_ yJ2_iterator cJ2_iterator 1 (Option.some (Jvm.ClassFile.FieldType.object "java/util/Iterator"))) ({ frames := 13, cells := b, slots := b, locals := 421 })).room).cells ∧ 0 + b ≤ ((headSpec (ws_ yJ2_iterator cJ2_iterator 1 (Option.some (Jvm.ClassFile.FieldType.object "java/util/Iterator"))) ({ frames := 13, cells := b, slots := b, locals := 421 })).room).slots := ⟨Nat.le_of_eq (Nat.zero_add b), Nat.le_of_eq (Nat.zero_add b)⟩
  refine x_new X hC hM hS hB (ci := 20) (C := RJ32) (T := TJ32) (N := 4) rfl in_J32 tyJ32 tyJ32_ok q1978 q1979 q190 rfl (by decide) dJ2_iterator_0 hp (fun a1 M2 H b3 cells slots hM hS hB hp => ?_)
  refine lv_dup hx hb dJ2_iterator_3 rfl ?_
  refine lv_aload_n hx hb dJ2_iterator_4 rfl (lv_at hl 0 rfl) ?_
  refine x_call0V (vx_runI (As := [.ref t0]) (rest := [.ref a1]) X (P_J32_init_ok (l := l) hl0 hp) (cwI 1 hts (lw_meth q1741) rfl rfl rfl (hts _ q190) (hts _ q1980) (hts _ q1740) rfl (by decide +kernel) ⟨Nat.le_of_ble_eq_true rfl, Nat.le_of_ble_eq_true rfl⟩) ⟨wPc.blind, w_pre hC hM hS _⟩ rfl rfl hl.1 rfl (lv_room (Nat.le_of_ble_eq_true rfl)) dJ2_iterator_5 (w_room0 hB)) hS (w_room0 hB) (fun _ _ _ _ _ _ h => False.elim h) (fun M4 H locs hp hM hS => ?_)
  exact x_aret (v := (some a1)) X hr (by first | exact Or.inl ⟨_, rfl⟩ | exact Or.inr ⟨_, rfl⟩) hlk hM hS (w_fin hB) dJ2_iterator_8 ⟨(some a1), rfl, hp⟩
def B_X1_finesBy_51 (G : wG) (rec19 : Int32 → Int32 → Option Nat → wM → Nat → Prop) (Q : Int32 → wM → Prop) (Xp : String → Nat → wM → Prop) (x1 : Int32) (x2 : Int32) (x3 : Nat) (M : wM) (bq : Nat) : Prop :=
  rec19 x1 x2 (some x3) M bq
def B_X1_finesBy_19 (G : wG) (rec19 : Int32 → Int32 → Option Nat → wM → Nat → Prop) (Q : Int32 → wM → Prop) (Xp : String → Nat → wM → Prop) (x1 : Int32) (x2 : Int32) (x3 : Option Nat) (M : wM) (bq : Nat) : Prop :=
  oRef x3 (fun a1 => oIs M a1 20 (P_J32_hasNext G a1 M (fun r4 M2 => oIf (r4 = true) (oIs M2 a1 20 (P_J32_next G a1 M2 (fun r7 M5 => oCast M5 r7 15 (oRef r7 (fun a8 => oGetI M5 a8 15 3 (fun v9 => oIf (v9 = x1) (B_X1_finesBy_51 G rec19 Q Xp x1 (x2 + 1) a1 M5 bq) (B_X1_finesBy_51 G rec19 Q Xp x1 x2 a1 M5 bq))))))) (Q x2 M2))))
def L_X1_finesBy_19 (G : wG) (Q : Int32 → wM → Prop) (Xp : String → Nat → wM → Prop) : Nat → Int32 → Int32 → Option Nat → wM → Nat → Prop
  | 0 => fun _ _ _ _ _ => False
  | n + 1 => B_X1_finesBy_19 G (L_X1_finesBy_19 G Q Xp n) Q Xp
def P_X1_finesBy (G : wG) (t0 : Nat) (p1 : Int32) (b : Nat) (M : wM) (Q : Int32 → wM → Prop) (Xp : String → Nat → wM → Prop) : Prop :=
  ∃ c2, c2 ≤ b ∧ P_X1_checkRule G p1 c2 M (fun M1 => oGetA M1 t0 0 0 (fun a3 => oGetA M1 a3 1 4 (fun a4 => oIs M1 a4 16 (∃ c6, c6 ≤ (b - c2) ∧ P_J2_iterator G a4 c6 M1 (fun r7 M5 => ∃ n, L_X1_finesBy_19 G Q Xp n p1 (0 : Int32) r7 M5 ((b - c2) - c6)))))) (fun E q8 M9 => (E = "java/lang/IllegalArgumentException" ∧ Xp E q8 M9))
set_option maxHeartbeats 4000000 in
set_option maxRecDepth 100000 in
theorem P_X1_finesBy_ok {l : Launch} (hl0 : l.stackTraces = false) {G : wG} {t0 : Nat} {p1 : Int32} {b : Nat} {M : wM} {Q : Int32 → wM → Prop} {Xp : String → Nat → wM → Prop} (hp : P_X1_finesBy G t0 p1 b M Q Xp) : wMet l yX1_finesBy (ws_ yX1_finesBy cX1_finesBy 5 (Option.some Jvm.ClassFile.FieldType.int)) 14 442 G [.ref t0, .int p1] M b (wqI Q) Xp := by
  refine vx_ofW (cc := cX1_finesBy) (maxL := 5) (ret := Option.some Jvm.ClassFile.FieldType.int) (by decide) rfl ?_
  intro p e s m args below meth c s₁ B hml hnt hv
  obtain ⟨rfl, hM, hK, hZ, hz⟩ := hv
  have hC : wC G s := ⟨hK, hZ, hz⟩
  have hx := B.exec
  have hb := B.bytes
  have hr := B.returns
  have hts := atoms_spec (ws := (ws_ yX1_finesBy cX1_finesBy 5 (Option.some Jvm.ClassFile.FieldType.int))) B.pre
  have hts : ∀ w ∈ lw_all, w.before _ s = true := fun w h => hts w (List.mem_cons_of_mem _ h)
  have hown : s.vm.findClass RX1 = some m.cls := findClass_of_methodNamed B.named
  have hlk := B.notSynchronized
  have X : CallFix p m c cX1_finesBy 5 s ([.ref t0, .int p1] : List Value).toArray lw_all RX1 := ⟨hx, hb, hml, hown, hts⟩
  have hS : va_S (wA G) s.heap s.heap [] := va_S.rf
  have hl := lv_entry ([.ref t0, .int p1]) (n := 5) (Nat.le_of_ble_eq_true rfl)
  rw [lg_entry_eq]
  generalize (lg_sl ([.ref t0, .int p1]) ++ List.replicate (5 - (lg_sl ([.ref t0, .int p1])).length) Slot.unset).toArray = ls at hl ⊢
  have hl : lv_has ls 5 [(0, .ref t0), (1, .int p1)] := hl
  have hB : 0 + b ≤ ((headSpec (ws_ yX1_finesBy cX1_finesBy 5 (Option.some Jvm.ClassFile.FieldType.int)) ({ frames := 14, cells := b, slots := b, locals := 442 })).room).cells ∧ 0 + b ≤ ((headSpec (ws_ yX1_finesBy cX1_finesBy 5 (Option.some Jvm.ClassFile.FieldType.int)) ({ frames := 14, cells := b, slots := b, locals := 442 })).room).slots := ⟨Nat.le_of_eq (Nat.zero_add b), Nat.le_of_eq (Nat.zero_add b)⟩
  have hB51 : ∀ (rec19 : Int32 → Int32 → Option Nat → wM → Nat → Prop) (hrec19 : ∀ (x1 : Int32) (x2 : Int32) (x3 : Option Nat) (M : wM) (bq : Nat) (H : Heap) (locs : List Loc) (ls : Array Slot) (cells slots : Nat), rec19 x1 x2 x3 M bq → wR G M H → va_S (wA G) s.heap H locs → (cells + bq ≤ ((headSpec (ws_ yX1_finesBy cX1_finesBy 5 (Option.some Jvm.ClassFile.FieldType.int)) ({ frames := 14, cells := b, slots := b, locals := 442 })).room).cells ∧ slots + bq ≤ ((headSpec (ws_ yX1_finesBy cX1_finesBy 5 (Option.some Jvm.ClassFile.FieldType.int)) ({ frames := 14, cells := b, slots := b, locals := 442 })).room).slots) → lv_has ls 5 [(1, .int x1), (2, .int x2), (3, va_rf x3)] → W p l e (headSpec (ws_ yX1_finesBy cX1_finesBy 5 (Option.some Jvm.ClassFile.FieldType.int)) ({ frames := 14, cells := b, slots := b, locals := 442 })).room s m ([.ref t0, .int p1] : List Value).toArray below meth c H locs cells slots (vx_MQ below (wQ G (wqI Q)) (wXC G Xp) ([.ref t0, .int p1] : List Value).toArray s b b (wA G)) (F0 m 19 ls [])), ∀ (x1 : Int32) (x2 : Int32) (x3 : Nat) (M : wM) (bq : Nat) (H : Heap) (locs : List Loc) (ls : Array Slot) (cells slots : Nat), B_X1_finesBy_51 G rec19 Q Xp x1 x2 x3 M bq → wR G M H → va_S (wA G) s.heap H locs → (cells + bq ≤ ((headSpec (ws_ yX1_finesBy cX1_finesBy 5 (Option.some Jvm.ClassFile.FieldType.int)) ({ frames := 14, cells := b, slots := b, locals := 442 })).room).cells ∧ slots + bq ≤ ((headSpec (ws_ yX1_finesBy cX1_finesBy 5 (Option.some Jvm.ClassFile.FieldType.int)) ({ frames := 14, cells := b, slots := b, locals := 442 })).room).slots) → lv_has ls 5 [(1, .int x1), (2, .int x2), (3, .ref x3)] → W p l e (headSpec (ws_ yX1_finesBy cX1_finesBy 5 (Option.some Jvm.ClassFile.FieldType.int)) ({ frames := 14, cells := b, slots := b, locals := 442 })).room s m ([.ref t0, .int p1] : List Value).toArray below meth c H locs cells slots (vx_MQ below (wQ G (wqI Q)) (wXC G Xp) ([.ref t0, .int p1] : List Value).toArray s b b (wA G)) (F0 m 51 ls []) := by
    intro rec19 hrec19 x1 x2 x3 M bq H locs ls cells slots hp hM hS hB hl
    refine lv_goto (tgt := 19) hx hb dX1_finesBy_51 (by decide) ?_
    exact hrec19 _ _ _ _ _ _ _ _ _ _ hp hM hS hB (lv_sub hl [0, 1, 2] rfl)
  have hB19 : ∀ (rec19 : Int32 → Int32 → Option Nat → wM → Nat → Prop) (hrec19 : ∀ (x1 : Int32) (x2 : Int32) (x3 : Option Nat) (M : wM) (bq : Nat) (H : Heap) (locs : List Loc) (ls : Array Slot) (cells slots : Nat), rec19 x1 x2 x3 M bq → wR G M H → va_S (wA G) s.heap H locs → (cells + bq ≤ ((headSpec (ws_ yX1_finesBy cX1_finesBy 5 (Option.some Jvm.ClassFile.FieldType.int)) ({ frames := 14, cells := b, slots := b, locals := 442 })).room).cells ∧ slots + bq ≤ ((headSpec (ws_ yX1_finesBy cX1_finesBy 5 (Option.some Jvm.ClassFile.FieldType.int)) ({ frames := 14, cells := b, slots := b, locals := 442 })).room).slots) → lv_has ls 5 [(1, .int x1), (2, .int x2), (3, va_rf x3)] → W p l e (headSpec (ws_ yX1_finesBy cX1_finesBy 5 (Option.some Jvm.ClassFile.FieldType.int)) ({ frames := 14, cells := b, slots := b, locals := 442 })).room s m ([.ref t0, .int p1] : List Value).toArray below meth c H locs cells slots (vx_MQ below (wQ G (wqI Q)) (wXC G Xp) ([.ref t0, .int p1] : List Value).toArray s b b (wA G)) (F0 m 19 ls [])), ∀ (x1 : Int32) (x2 : Int32) (x3 : Option Nat) (M : wM) (bq : Nat) (H : Heap) (locs : List Loc) (ls : Array Slot) (cells slots : Nat), B_X1_finesBy_19 G rec19 Q Xp x1 x2 x3 M bq → wR G M H → va_S (wA G) s.heap H locs → (cells + bq ≤ ((headSpec (ws_ yX1_finesBy cX1_finesBy 5 (Option.some Jvm.ClassFile.FieldType.int)) ({ frames := 14, cells := b, slots := b, locals := 442 })).room).cells ∧ slots + bq ≤ ((headSpec (ws_ yX1_finesBy cX1_finesBy 5 (Option.some Jvm.ClassFile.FieldType.int)) ({ frames := 14, cells := b, slots := b, locals := 442 })).room).slots) → lv_has ls 5 [(1, .int x1), (2, .int x2), (3, va_rf x3)] → W p l e (headSpec (ws_ yX1_finesBy cX1_finesBy 5 (Option.some Jvm.ClassFile.FieldType.int)) ({ frames := 14, cells := b, slots := b, locals := 442 })).room s m ([.ref t0, .int p1] : List Value).toArray below meth c H locs cells slots (vx_MQ below (wQ G (wqI Q)) (wXC G Xp) ([.ref t0, .int p1] : List Value).toArray s b b (wA G)) (F0 m 19 ls []) := by
    intro rec19 hrec19 x1 x2 x3 M bq H locs ls cells slots hp hM hS hB hl
    refine x_aload_n (r := x3) hx hb dX1_finesBy_19 rfl (lv_at hl 2 rfl) ?_
    obtain ⟨a1, ea, hqa1⟩ := hp
    subst ea
    have hp := hqa1
    have hl : lv_has ls 5 [(1, .int x1), (2, .int x2), (3, .ref a1)] := hl
    obtain ⟨hrec, hp⟩ := hp
    refine x_call0Z5 (vx_runF (hC.1.1.1 20 (RJ32, TJ32, 4) rfl).2 (C := "java/util/ArrayList$Itr") (As := []) (rest := []) X (P_J32_hasNext_ok (l := l) hl0 hp) (va_cwF 0 hts (lw_app (w_mem4 q2016 q1803 q1805 q190) (lw_meth q1807)) rfl rfl rfl (wfw_14 hC.1) (by decide +kernel) ⟨Nat.le_of_ble_eq_true rfl, Nat.le_of_ble_eq_true rfl⟩) ⟨wPc.blind, w_recv hC.1 hM (ci := 20) (q := (RJ32, TJ32, 4)) rfl hrec, w_pre hC hM hS _⟩ rfl rfl hl.1 rfl (lv_room (Nat.le_of_ble_eq_true rfl)) dX1_finesBy_20 (w_room0 hB)) hS (w_room0 hB) (fun _ _ _ _ _ _ h => False.elim h) (fun r4 M2 H locs hp hM hS => ?_)
    refine x_ifeqB (tgt := 54) hx hb dX1_finesBy_25 (by decide) (fun hc => ?_) (fun hc => ?_)
    · have hp := oIf.bf hp hc
      refine lv_iload_n hx hb dX1_finesBy_54 rfl (lv_at hl 1 rfl) ?_
      exact x_iret X hr hlk hM hS (w_fin hB) dX1_finesBy_55 ⟨_, rfl, hp⟩
    · have hp := oIf.bt hp hc
      refine lv_aload_n hx hb dX1_finesBy_28 rfl (lv_at hl 2 rfl) ?_
      obtain ⟨hrec, hp⟩ := hp
      refine x_call0R5 (vx_runF (hC.1.1.1 20 (RJ32, TJ32, 4) rfl).2 (C := "java/util/ArrayList$Itr") (As := []) (rest := []) X (P_J32_next_ok (l := l) hl0 hp) (va_cwF 0 hts (lw_app (w_mem4 q2018 q1919 q1921 q190) (lw_meth q1923)) rfl rfl rfl (wfw_15 hC.1) (by decide +kernel) ⟨Nat.le_of_ble_eq_true rfl, Nat.le_of_ble_eq_true rfl⟩) ⟨wPc.blind, w_recv hC.1 hM (ci := 20) (q := (RJ32, TJ32, 4)) rfl hrec, w_pre hC hM hS _⟩ rfl rfl hl.1 rfl (lv_room (Nat.le_of_ble_eq_true rfl)) dX1_finesBy_29 (w_room0 hB)) hS (w_room0 hB) (fun _ _ _ _ _ _ h => False.elim h) (fun r7 M5 H locs hp hM hS => ?_)
      refine x_cast (r := r7) X hC.1 hM q2019 (ci := 15) rfl (Or.inl rfl) dX1_finesBy_34 hp (fun hp => ?_)
      refine x_astore (r := r7) (lv' := [(4, va_rf r7), (1, .int x1), (2, .int x2), (3, .ref a1)]) hx hb dX1_finesBy_37 hl (by decide) rfl (fun ls hl => ?_)
      refine x_aload (r := r7) hx hb dX1_finesBy_39 (lv_at hl 0 rfl) ?_
      obtain ⟨a8, ea, hqa8⟩ := hp
      subst ea
      have hp := hqa8
      have hl : lv_has ls 5 [(4, .ref a8), (1, .int x1), (2, .int x2), (3, .ref a1)] := hl
      refine x_getIN X hC.1 hM (ci := 15) (C := RX19) (T := TX19) (N := 6) rfl in_X19 3 (by decide) q2910 (fun _ h9 => h9) dX1_finesBy_41 hp (fun v9 hp => ?_)
      refine lv_iload_n hx hb dX1_finesBy_44 rfl (lv_at hl 1 rfl) ?_
      refine lv_icmp_ne (tgt := 51) hx hb dX1_finesBy_45 (by decide) (fun hc => ?_) (fun hc => ?_)
      · have hp := oIf.f hp hc
        exact hB51 rec19 hrec19 _ _ _ _ _ _ _ _ _ _ hp hM hS hB (lv_sub hl [1, 2, 3] rfl)
      · have hp := oIf.t hp hc
        refine lv_iinc (v := (x2 + 1)) (lv' := [(2, .int (x2 + 1)), (4, .ref a8), (1, .int x1), (3, .ref a1)]) hx hb dX1_finesBy_48 hl (k := 2) rfl rfl (by decide) rfl (fun ls hl => ?_)
        exact hB51 rec19 hrec19 _ _ _ _ _ _ _ _ _ _ hp hM hS hB (lv_sub hl [2, 0, 3] rfl)
  have hL19 : ∀ (n : Nat), ∀ (x1 : Int32) (x2 : Int32) (x3 : Option Nat) (M : wM) (bq : Nat) (H : Heap) (locs : List Loc) (ls : Array Slot) (cells slots : Nat), L_X1_finesBy_19 G Q Xp n x1 x2 x3 M bq → wR G M H → va_S (wA G) s.heap H locs → (cells + bq ≤ ((headSpec (ws_ yX1_finesBy cX1_finesBy 5 (Option.some Jvm.ClassFile.FieldType.int)) ({ frames := 14, cells := b, slots := b, locals := 442 })).room).cells ∧ slots + bq ≤ ((headSpec (ws_ yX1_finesBy cX1_finesBy 5 (Option.some Jvm.ClassFile.FieldType.int)) ({ frames := 14, cells := b, slots := b, locals := 442 })).room).slots) → lv_has ls 5 [(1, .int x1), (2, .int x2), (3, va_rf x3)] → W p l e (headSpec (ws_ yX1_finesBy cX1_finesBy 5 (Option.some Jvm.ClassFile.FieldType.int)) ({ frames := 14, cells := b, slots := b, locals := 442 })).room s m ([.ref t0, .int p1] : List Value).toArray below meth c H locs cells slots (vx_MQ below (wQ G (wqI Q)) (wXC G Xp) ([.ref t0, .int p1] : List Value).toArray s b b (wA G)) (F0 m 19 ls []) := by
    intro n
    induction n with
    | zero => intro _ _ _ _ _ _ _ _ _ _ hp; exact False.elim hp
    | succ n ih => intro x1 x2 x3 M bq H locs ls cells slots hp hM hS hB hl; exact hB19 (L_X1_finesBy_19 G Q Xp n) ih _ _ _ _ _ _ _ _ _ _ hp hM hS hB hl
  refine lv_iload_n hx hb dX1_finesBy_0 rfl (lv_at hl 1 rfl) ?_
  obtain ⟨c2, hc1, hp⟩ := hp
  refine x_callV (vx_runS (As := [.int p1]) (rest := []) X (P_X1_checkRule_ok (l := l) hl0 hp) (va_cwS 1 hts (lw_S q2322 q2323 q148 q2324) rfl rfl rfl (by decide +kernel) ⟨Nat.le_of_ble_eq_true rfl, Nat.le_of_ble_eq_true rfl⟩) ⟨wPc.blind, w_pre hC hM hS _⟩ rfl rfl hl.1 rfl (lv_room (Nat.le_of_ble_eq_true rfl)) dX1_finesBy_1 (w_room hB hc1)) hS hB hc1 (fun E ce q8 M9 H locs hp hM hS hB hcell hcv hcl => ?_) (fun M1 H locs hp hM hS hB => ?_)
  · obtain ⟨rfl, hp⟩ := hp
    exact x_out hlk (fun x h => (hnt x h).elim) hM hS (w_fin hB) hcell hcv hcl hp
  · refine lv_iconst (v := 0) hx hb dX1_finesBy_4 (by decide) ?_
    refine lv_istore_n (lv' := [(2, .int (0 : Int32)), (0, .ref t0), (1, .int p1)]) hx hb dX1_finesBy_5 rfl hl (by decide) rfl (fun ls hl => ?_)
    refine lv_aload_n hx hb dX1_finesBy_6 rfl (lv_at hl 1 rfl) ?_
    refine x_getA X hC.1 hM (ci := 0) (C := RX1) (T := TX1) (N := 8) rfl in_X1 0 (by decide) q973 (fun _ h9 => h9) dX1_finesBy_7 hp (fun a3 hp => ?_)
    refine x_getAN X hC.1 hM (ci := 1) (C := RX2) (T := TX2) (N := 9) rfl in_X2 4 (by decide) q926 (fun _ h9 => h9) dX1_finesBy_10 hp (fun a4 hp => ?_)
    obtain ⟨hrec, hp⟩ := hp
    obtain ⟨c6, hc1, hp⟩ := hp
    refine x_callR5 (vx_runF (hC.1.1.1 16 (RJ2, TJ2, 3) rfl).2 (C := "java/util/ArrayList") (As := []) (rest := []) X (P_J2_iterator_ok (l := l) hl0 hp) (va_cwF 0 hts (lw_app (w_mem4 q1970 q1973 q1975 q153) (lw_meth q1977)) rfl rfl rfl (wfw_11 hC.1) (by decide +kernel) ⟨Nat.le_of_ble_eq_true rfl, Nat.le_of_ble_eq_true rfl⟩) ⟨wPc.blind, w_recv hC.1 hM (ci := 16) (q := (RJ2, TJ2, 3)) rfl hrec, w_pre hC hM hS _⟩ rfl rfl hl.1 rfl (lv_room (Nat.le_of_ble_eq_true rfl)) dX1_finesBy_13 (w_room hB hc1)) hS hB hc1 (fun _ _ _ _ _ _ h => False.elim h) (fun r7 M5 H locs hp hM hS hB => ?_)
    refine x_astore_n (r := r7) (lv' := [(3, va_rf r7), (2, .int (0 : Int32)), (0, .ref t0), (1, .int p1)]) hx hb dX1_finesBy_18 rfl hl (by decide) rfl (fun ls hl => ?_)
    obtain ⟨n, hp⟩ := hp
    exact hL19 n _ _ _ _ _ _ _ _ _ _ hp hM hS hB (lv_sub hl [3, 1, 0] rfl)
def P_X1_finesIn (G : wG) (t0 : Nat) (p1 : Int32) (p2 : Int32) (b : Nat) (M : wM) (Q : Int32 → wM → Prop) (Xp : String → Nat → wM → Prop) : Prop :=
  oIs M t0 0 (∃ c2, c2 ≤ b ∧ P_X1_checkStreet G t0 p1 c2 M (fun M1 => P_X1_inRange G p2 (0 : Int32) (20160 : Int32) M1 (fun r5 M3 => ∃ c7, c7 ≤ (b - c2) ∧ P_X1_checkArgument G (wb r5) c7 M3 (fun M6 => oGetA M6 t0 0 0 (fun a8 => oIs M6 a8 1 (∃ c10, c10 ≤ ((b - c2) - c7) ∧ P_X2_copy G a8 c10 M6 (fun r11 M9 => oRef r11 (fun a12 => oGetI M9 a12 1 8 (fun v13 => oIs M9 a12 1 (P_X2_passTo G a12 (v13 + p2) M9 (fun M14 => oIs M14 a12 1 (∃ c17, c17 ≤ (((b - c2) - c7) - c10) ∧ P_X2_countFines G a12 p1 c17 M14 (fun v18 M16 => Q v18 M16)))))))))) (fun E q19 M20 => (E = "java/lang/IllegalArgumentException" ∧ Xp E q19 M20)))) (fun E q21 M22 => (E = "java/lang/IndexOutOfBoundsException" ∧ Xp E q21 M22)))
set_option maxHeartbeats 4000000 in
set_option maxRecDepth 100000 in
theorem P_X1_finesIn_ok {l : Launch} (hl0 : l.stackTraces = false) {G : wG} {t0 : Nat} {p1 : Int32} {p2 : Int32} {b : Nat} {M : wM} {Q : Int32 → wM → Prop} {Xp : String → Nat → wM → Prop} (hp : P_X1_finesIn G t0 p1 p2 b M Q Xp) : wMet l yX1_finesIn (ws_ yX1_finesIn cX1_finesIn 4 (Option.some Jvm.ClassFile.FieldType.int)) 22 623 G [.ref t0, .int p1, .int p2] M b (wqI Q) Xp := by
  refine vx_ofW (cc := cX1_finesIn) (maxL := 4) (ret := Option.some Jvm.ClassFile.FieldType.int) (by decide) rfl ?_
  intro p e s m args below meth c s₁ B hml hnt hv
  obtain ⟨rfl, hM, hK, hZ, hz⟩ := hv
  have hC : wC G s := ⟨hK, hZ, hz⟩
  have hx := B.exec
  have hb := B.bytes
  have hr := B.returns
  have hts := atoms_spec (ws := (ws_ yX1_finesIn cX1_finesIn 4 (Option.some Jvm.ClassFile.FieldType.int))) B.pre
  have hts : ∀ w ∈ lw_all, w.before _ s = true := fun w h => hts w (List.mem_cons_of_mem _ h)
  have hown : s.vm.findClass RX1 = some m.cls := findClass_of_methodNamed B.named
  have hlk := B.notSynchronized
  have X : CallFix p m c cX1_finesIn 4 s ([.ref t0, .int p1, .int p2] : List Value).toArray lw_all RX1 := ⟨hx, hb, hml, hown, hts⟩
  have hS : va_S (wA G) s.heap s.heap [] := va_S.rf
  have hl := lv_entry ([.ref t0, .int p1, .int p2]) (n := 4) (Nat.le_of_ble_eq_true rfl)
  rw [lg_entry_eq]
  generalize (lg_sl ([.ref t0, .int p1, .int p2]) ++ List.replicate (4 - (lg_sl ([.ref t0, .int p1, .int p2])).length) Slot.unset).toArray = ls at hl ⊢
  have hl : lv_has ls 4 [(0, .ref t0), (1, .int p1), (2, .int p2)] := hl
  have hB : 0 + b ≤ ((headSpec (ws_ yX1_finesIn cX1_finesIn 4 (Option.some Jvm.ClassFile.FieldType.int)) ({ frames := 22, cells := b, slots := b, locals := 623 })).room).cells ∧ 0 + b ≤ ((headSpec (ws_ yX1_finesIn cX1_finesIn 4 (Option.some Jvm.ClassFile.FieldType.int)) ({ frames := 22, cells := b, slots := b, locals := 623 })).room).slots := ⟨Nat.le_of_eq (Nat.zero_add b), Nat.le_of_eq (Nat.zero_add b)⟩
  refine lv_aload_n hx hb dX1_finesIn_0 rfl (lv_at hl 0 rfl) ?_
  refine lv_iload_n hx hb dX1_finesIn_1 rfl (lv_at hl 1 rfl) ?_
  obtain ⟨hrec, hp⟩ := hp
  obtain ⟨c2, hc1, hp⟩ := hp
  refine x_callV (vx_runV (As := [.int p1]) (rest := []) X (P_X1_checkStreet_ok (l := l) hl0 hp) (cwV 1 hts (lw_V q2225 q2227 qs37 q148 q2228) rfl rfl rfl (by decide +kernel) ⟨Nat.le_of_ble_eq_true rfl, Nat.le_of_ble_eq_true rfl⟩) ⟨wPc.blind, w_recv hC.1 hM (ci := 0) (q := (RX1, TX1, 8)) rfl hrec, w_pre hC hM hS _⟩ rfl rfl hl.1 rfl (lv_room (Nat.le_of_ble_eq_true rfl)) dX1_finesIn_2 (w_room hB hc1)) hS hB hc1 (fun E ce q21 M22 H locs hp hM hS hB hcell hcv hcl => ?_) (fun M1 H locs hp hM hS hB => ?_)
  · obtain ⟨rfl, hp⟩ := hp
    exact x_out hlk (fun x h => (hnt x h).elim) hM hS (w_fin hB) hcell hcv hcl hp
  · refine lv_iload_n hx hb dX1_finesIn_5 rfl (lv_at hl 2 rfl) ?_
    refine lv_iconst (v := 0) hx hb dX1_finesIn_6 (by decide) ?_
    refine lv_sipush (v := 20160) hx hb dX1_finesIn_7 (by decide) ?_
    refine x_call0Z (vx_runS (As := [.int p2, .int (0 : Int32), .int (20160 : Int32)]) (rest := []) X (P_X1_inRange_ok (l := l) hl0 hp) (va_cwS 3 hts (lw_S q1012 q1013 q148 q1014) rfl rfl rfl (by decide +kernel) ⟨Nat.le_of_ble_eq_true rfl, Nat.le_of_ble_eq_true rfl⟩) ⟨wPc.blind, w_pre hC hM hS _⟩ rfl rfl hl.1 rfl (lv_room (Nat.le_of_ble_eq_true rfl)) dX1_finesIn_10 (w_room0 hB)) hS (w_room0 hB) (fun _ _ _ _ _ _ h => False.elim h) (fun r5 M3 H locs hp hM hS => ?_)
    obtain ⟨c7, hc1, hp⟩ := hp
    refine x_callV (vx_runS (As := [.int (wb r5)]) (rest := []) X (P_X1_checkArgument_ok (l := l) hl0 hp) (va_cwS 1 hts (lw_S q2325 q2326 q148 q2327) rfl rfl rfl (by decide +kernel) ⟨Nat.le_of_ble_eq_true rfl, Nat.le_of_ble_eq_true rfl⟩) ⟨wPc.blind, w_pre hC hM hS _⟩ rfl rfl hl.1 rfl (lv_room (Nat.le_of_ble_eq_true rfl)) dX1_finesIn_13 (w_room hB hc1)) hS hB hc1 (fun E ce q19 M20 H locs hp hM hS hB hcell hcv hcl => ?_) (fun M6 H locs hp hM hS hB => ?_)
    · obtain ⟨rfl, hp⟩ := hp
      exact x_out hlk (fun x h => (hnt x h).elim) hM hS (w_fin hB) hcell hcv hcl hp
    · refine lv_aload_n hx hb dX1_finesIn_16 rfl (lv_at hl 0 rfl) ?_
      refine x_getA X hC.1 hM (ci := 0) (C := RX1) (T := TX1) (N := 8) rfl in_X1 0 (by decide) q973 (fun _ h9 => h9) dX1_finesIn_17 hp (fun a8 hp => ?_)
      obtain ⟨hrec, hp⟩ := hp
      obtain ⟨c10, hc1, hp⟩ := hp
      refine x_callR (vx_runV (As := []) (rest := []) X (P_X2_copy_ok (l := l) hl0 hp) (cwV 0 hts (lw_V q2064 q2065 q2066 q149 q2067) rfl rfl rfl (by decide +kernel) ⟨Nat.le_of_ble_eq_true rfl, Nat.le_of_ble_eq_true rfl⟩) ⟨wPc.blind, w_recv hC.1 hM (ci := 1) (q := (RX2, TX2, 9)) rfl hrec, w_pre hC hM hS _⟩ rfl rfl hl.1 rfl (lv_room (Nat.le_of_ble_eq_true rfl)) dX1_finesIn_20 (w_room hB hc1)) hS hB hc1 (fun _ _ _ _ _ _ h => False.elim h) (fun r11 M9 H locs hp hM hS hB => ?_)
      refine x_astore_n (r := r11) (lv' := [(3, va_rf r11), (0, .ref t0), (1, .int p1), (2, .int p2)]) hx hb dX1_finesIn_23 rfl hl (by decide) rfl (fun ls hl => ?_)
      refine x_aload_n (r := r11) hx hb dX1_finesIn_24 rfl (lv_at hl 0 rfl) ?_
      refine x_aload_n (r := r11) hx hb dX1_finesIn_25 rfl (lv_at hl 0 rfl) ?_
      obtain ⟨a12, ea, hqa12⟩ := hp
      subst ea
      have hp := hqa12
      have hl : lv_has ls 4 [(3, .ref a12), (0, .ref t0), (1, .int p1), (2, .int p2)] := hl
      refine x_getIN X hC.1 hM (ci := 1) (C := RX2) (T := TX2) (N := 9) rfl in_X2 8 (by decide) q934 (fun _ h9 => h9) dX1_finesIn_26 hp (fun v13 hp => ?_)
      refine lv_iload_n hx hb dX1_finesIn_29 rfl (lv_at hl 3 rfl) ?_
      refine lv_iadd hx hb dX1_finesIn_30 ?_
      obtain ⟨hrec, hp⟩ := hp
      refine x_call0V (vx_runV (As := [.int (v13 + p2)]) (rest := []) X (P_X2_passTo_ok (l := l) hl0 hp) (cwV 1 hts (lw_V q2594 q2595 q2596 q149 q2597) rfl rfl rfl (by decide +kernel) ⟨Nat.le_of_ble_eq_true rfl, Nat.le_of_ble_eq_true rfl⟩) ⟨wPc.blind, w_recv hC.1 hM (ci := 1) (q := (RX2, TX2, 9)) rfl hrec, w_pre hC hM hS _⟩ rfl rfl hl.1 rfl (lv_room (Nat.le_of_ble_eq_true rfl)) dX1_finesIn_31 (w_room0 hB)) hS (w_room0 hB) (fun _ _ _ _ _ _ h => False.elim h) (fun M14 H locs hp hM hS => ?_)
      refine lv_aload_n hx hb dX1_finesIn_34 rfl (lv_at hl 0 rfl) ?_
      refine lv_iload_n hx hb dX1_finesIn_35 rfl (lv_at hl 2 rfl) ?_
      obtain ⟨hrec, hp⟩ := hp
      obtain ⟨c17, hc1, hp⟩ := hp
      refine x_callI (vx_runV (As := [.int p1]) (rest := []) X (P_X2_countFines_ok (l := l) hl0 hp) (cwV 1 hts (lw_V q3029 q3030 q3031 q149 q3032) rfl rfl rfl (by decide +kernel) ⟨Nat.le_of_ble_eq_true rfl, Nat.le_of_ble_eq_true rfl⟩) ⟨wPc.blind, w_recv hC.1 hM (ci := 1) (q := (RX2, TX2, 9)) rfl hrec, w_pre hC hM hS _⟩ rfl rfl hl.1 rfl (lv_room (Nat.le_of_ble_eq_true rfl)) dX1_finesIn_36 (w_room hB hc1)) hS hB hc1 (fun _ _ _ _ _ _ h => False.elim h) (fun v18 M16 H locs hp hM hS hB => ?_)
      exact x_iret X hr hlk hM hS (w_fin hB) dX1_finesIn_39 ⟨_, rfl, hp⟩
def B_X1_house_155 (G : wG) (Q : Int32 → wM → Prop) (Xp : String → Nat → wM → Prop) (y0 : Int32) (M : wM) (bq : Nat) : Prop :=
  Q y0 M
def P_X1_house (G : wG) (t0 : Nat) (p1 : Int32) (p2 : Int32) (b : Nat) (M : wM) (Q : Int32 → wM → Prop) (Xp : String → Nat → wM → Prop) : Prop :=
  oIs M t0 0 (∃ c2, c2 ≤ b ∧ P_X1_checkHouse G t0 p1 c2 M (fun M1 => P_X1_inRange G p2 (0 : Int32) (7 : Int32) M1 (fun r5 M3 => ∃ c7, c7 ≤ (b - c2) ∧ P_X1_checkIndex G (wb r5) c7 M3 (fun M6 => oIs M6 t0 0 (P_X1_setup G t0 M6 (fun r10 M8 => oRef r10 (fun a11 => oGetA M8 a11 2 2 (fun a12 => oIs M8 a12 16 (P_J2_get G a12 p1 M8 (fun r15 M13 => oCast M13 r15 8 (oIf (p2 = (0 : Int32)) (oRef r15 (fun a20 => oGetI M13 a20 8 0 (fun v21 => B_X1_house_155 G Q Xp v21 M13 ((b - c2) - c7)))) (oIf (p2 = (1 : Int32)) (oIs M13 t0 0 (P_X1_setup G t0 M13 (fun r24 M22 => oRef r24 (fun a25 => oIs M22 a25 2 (P_X3_zoneOf G a25 p1 M22 (fun v28 M26 => B_X1_house_155 G Q Xp v28 M26 ((b - c2) - c7))))))) (oIf (p2 = (2 : Int32)) (oRef r15 (fun a29 => oGetI M13 a29 8 1 (fun v30 => B_X1_house_155 G Q Xp v30 M13 ((b - c2) - c7)))) (oIf (p2 = (3 : Int32)) (oRef r15 (fun a31 => oGetI M13 a31 8 2 (fun v32 => B_X1_house_155 G Q Xp v32 M13 ((b - c2) - c7)))) (oIf (p2 = (4 : Int32)) (oGetA M13 t0 0 0 (fun a33 => oGetA M13 a33 1 7 (fun a34 => oIald .int M13 a34 p1 (fun v35 => B_X1_house_155 G Q Xp v35 M13 ((b - c2) - c7))))) (oIf (p2 = (5 : Int32)) (oGetA M13 t0 0 0 (fun a36 => oLam G M13 ((b - c2) - c7) "L1" p1 (fun a37 M38 b39 => oIs M38 a36 1 (P_X2_many G a36 a37 M38 (fun v42 M40 => B_X1_house_155 G Q Xp v42 M40 b39))))) (oIf (p2 = (6 : Int32)) (oGetA M13 t0 0 0 (fun a43 => oIs M13 a43 1 (P_X2_validOf G a43 p1 M13 (fun v46 M44 => B_X1_house_155 G Q Xp v46 M44 ((b - c2) - c7))))) (oGetA M13 t0 0 0 (fun a16 => oIs M13 a16 1 (P_X2_runningAt G a16 p1 M13 (fun v19 M17 => B_X1_house_155 G Q Xp v19 M17 ((b - c2) - c7))))))))))))))))))) (fun E q47 M48 => (E = "java/lang/IndexOutOfBoundsException" ∧ Xp E q47 M48)))) (fun E q49 M50 => (E = "java/lang/IndexOutOfBoundsException" ∧ Xp E q49 M50)))
set_option maxHeartbeats 4000000 in
set_option maxRecDepth 100000 in
theorem P_X1_house_ok {l : Launch} (hl0 : l.stackTraces = false) {G : wG} {t0 : Nat} {p1 : Int32} {p2 : Int32} {b : Nat} {M : wM} {Q : Int32 → wM → Prop} {Xp : String → Nat → wM → Prop} (hp : P_X1_house G t0 p1 p2 b M Q Xp) : wMet l yX1_house (ws_ yX1_house cX1_house 4 (Option.some Jvm.ClassFile.FieldType.int)) 24 3300 G [.ref t0, .int p1, .int p2] M b (wqI Q) Xp := by
  refine vx_ofW (cc := cX1_house) (maxL := 4) (ret := Option.some Jvm.ClassFile.FieldType.int) (by decide) rfl ?_
  intro p e s m args below meth c s₁ B hml hnt hv
  obtain ⟨rfl, hM, hK, hZ, hz⟩ := hv
  have hC : wC G s := ⟨hK, hZ, hz⟩
  have hx := B.exec
  have hb := B.bytes
  have hr := B.returns
  have hts := atoms_spec (ws := (ws_ yX1_house cX1_house 4 (Option.some Jvm.ClassFile.FieldType.int))) B.pre
  have hts : ∀ w ∈ lw_all, w.before _ s = true := fun w h => hts w (List.mem_cons_of_mem _ h)
  have hown : s.vm.findClass RX1 = some m.cls := findClass_of_methodNamed B.named
  have hlk := B.notSynchronized
  have X : CallFix p m c cX1_house 4 s ([.ref t0, .int p1, .int p2] : List Value).toArray lw_all RX1 := ⟨hx, hb, hml, hown, hts⟩
  have hS : va_S (wA G) s.heap s.heap [] := va_S.rf
  have hl := lv_entry ([.ref t0, .int p1, .int p2]) (n := 4) (Nat.le_of_ble_eq_true rfl)
  rw [lg_entry_eq]
  generalize (lg_sl ([.ref t0, .int p1, .int p2]) ++ List.replicate (4 - (lg_sl ([.ref t0, .int p1, .int p2])).length) Slot.unset).toArray = ls at hl ⊢
  have hl : lv_has ls 4 [(0, .ref t0), (1, .int p1), (2, .int p2)] := hl
  have hB : 0 + b ≤ ((headSpec (ws_ yX1_house cX1_house 4 (Option.some Jvm.ClassFile.FieldType.int)) ({ frames := 24, cells := b, slots := b, locals := 3300 })).room).cells ∧ 0 + b ≤ ((headSpec (ws_ yX1_house cX1_house 4 (Option.some Jvm.ClassFile.FieldType.int)) ({ frames := 24, cells := b, slots := b, locals := 3300 })).room).slots := ⟨Nat.le_of_eq (Nat.zero_add b), Nat.le_of_eq (Nat.zero_add b)⟩
  have hB155 : ∀ (y0 : Int32) (M : wM) (bq : Nat) (H : Heap) (locs : List Loc) (ls : Array Slot) (cells slots : Nat), B_X1_house_155 G Q Xp y0 M bq → wR G M H → va_S (wA G) s.heap H locs → (cells + bq ≤ ((headSpec (ws_ yX1_house cX1_house 4 (Option.some Jvm.ClassFile.FieldType.int)) ({ frames := 24, cells := b, slots := b, locals := 3300 })).room).cells ∧ slots + bq ≤ ((headSpec (ws_ yX1_house cX1_house 4 (Option.some Jvm.ClassFile.FieldType.int)) ({ frames := 24, cells := b, slots := b, locals := 3300 })).room).slots) → lv_has ls 4 [] → W p l e (headSpec (ws_ yX1_house cX1_house 4 (Option.some Jvm.ClassFile.FieldType.int)) ({ frames := 24, cells := b, slots := b, locals := 3300 })).room s m ([.ref t0, .int p1, .int p2] : List Value).toArray below meth c H locs cells slots (vx_MQ below (wQ G (wqI Q)) (wXC G Xp) ([.ref t0, .int p1, .int p2] : List Value).toArray s b b (wA G)) (F0 m 155 ls [.int y0]) := by
    intro y0 M bq H locs ls cells slots hp hM hS hB hl
    exact x_iret X hr hlk hM hS (w_fin hB) dX1_house_155 ⟨_, rfl, hp⟩
  refine lv_aload_n hx hb dX1_house_0 rfl (lv_at hl 0 rfl) ?_
  refine lv_iload_n hx hb dX1_house_1 rfl (lv_at hl 1 rfl) ?_
  obtain ⟨hrec, hp⟩ := hp
  obtain ⟨c2, hc1, hp⟩ := hp
  refine x_callV (vx_runV (As := [.int p1]) (rest := []) X (P_X1_checkHouse_ok (l := l) hl0 hp) (cwV 1 hts (lw_V q2246 q2248 qs39 q148 q2249) rfl rfl rfl (by decide +kernel) ⟨Nat.le_of_ble_eq_true rfl, Nat.le_of_ble_eq_true rfl⟩) ⟨wPc.blind, w_recv hC.1 hM (ci := 0) (q := (RX1, TX1, 8)) rfl hrec, w_pre hC hM hS _⟩ rfl rfl hl.1 rfl (lv_room (Nat.le_of_ble_eq_true rfl)) dX1_house_2 (w_room hB hc1)) hS hB hc1 (fun E ce q49 M50 H locs hp hM hS hB hcell hcv hcl => ?_) (fun M1 H locs hp hM hS hB => ?_)
  · obtain ⟨rfl, hp⟩ := hp
    exact x_out hlk (fun x h => (hnt x h).elim) hM hS (w_fin hB) hcell hcv hcl hp
  · refine lv_iload_n hx hb dX1_house_5 rfl (lv_at hl 2 rfl) ?_
    refine lv_iconst (v := 0) hx hb dX1_house_6 (by decide) ?_
    refine lv_bipush (v := 7) hx hb dX1_house_7 (by decide) ?_
    refine x_call0Z (vx_runS (As := [.int p2, .int (0 : Int32), .int (7 : Int32)]) (rest := []) X (P_X1_inRange_ok (l := l) hl0 hp) (va_cwS 3 hts (lw_S q1012 q1013 q148 q1014) rfl rfl rfl (by decide +kernel) ⟨Nat.le_of_ble_eq_true rfl, Nat.le_of_ble_eq_true rfl⟩) ⟨wPc.blind, w_pre hC hM hS _⟩ rfl rfl hl.1 rfl (lv_room (Nat.le_of_ble_eq_true rfl)) dX1_house_9 (w_room0 hB)) hS (w_room0 hB) (fun _ _ _ _ _ _ h => False.elim h) (fun r5 M3 H locs hp hM hS => ?_)
    obtain ⟨c7, hc1, hp⟩ := hp
    refine x_callV (vx_runS (As := [.int (wb r5)]) (rest := []) X (P_X1_checkIndex_ok (l := l) hl0 hp) (va_cwS 1 hts (lw_S q2200 q2201 q148 q2202) rfl rfl rfl (by decide +kernel) ⟨Nat.le_of_ble_eq_true rfl, Nat.le_of_ble_eq_true rfl⟩) ⟨wPc.blind, w_pre hC hM hS _⟩ rfl rfl hl.1 rfl (lv_room (Nat.le_of_ble_eq_true rfl)) dX1_house_12 (w_room hB hc1)) hS hB hc1 (fun E ce q47 M48 H locs hp hM hS hB hcell hcv hcl => ?_) (fun M6 H locs hp hM hS hB => ?_)
    · obtain ⟨rfl, hp⟩ := hp
      exact x_out hlk (fun x h => (hnt x h).elim) hM hS (w_fin hB) hcell hcv hcl hp
    · refine lv_aload_n hx hb dX1_house_15 rfl (lv_at hl 0 rfl) ?_
      obtain ⟨hrec, hp⟩ := hp
      refine x_call0R (vx_runV (As := []) (rest := []) X (P_X1_setup_ok (l := l) hl0 hp) (cwV 0 hts (lw_V q1535 q1537 qs29 q148 q1538) rfl rfl rfl (by decide +kernel) ⟨Nat.le_of_ble_eq_true rfl, Nat.le_of_ble_eq_true rfl⟩) ⟨wPc.blind, w_recv hC.1 hM (ci := 0) (q := (RX1, TX1, 8)) rfl hrec, w_pre hC hM hS _⟩ rfl rfl hl.1 rfl (lv_room (Nat.le_of_ble_eq_true rfl)) dX1_house_16 (w_room0 hB)) hS (w_room0 hB) (fun _ _ _ _ _ _ h => False.elim h) (fun r10 M8 H locs hp hM hS => ?_)
      obtain ⟨a11, ea, hqa11⟩ := hp
      subst ea
      have hp := hqa11
      refine x_getAN X hC.1 hM (ci := 2) (C := RX3) (T := TX3) (N := 8) rfl in_X3 2 (by decide) q405 (fun _ h9 => h9) dX1_house_19 hp (fun a12 hp => ?_)
      refine lv_iload_n hx hb dX1_house_22 rfl (lv_at hl 1 rfl) ?_
      obtain ⟨hrec, hp⟩ := hp
      refine x_call0R5 (vx_runF (hC.1.1.1 16 (RJ2, TJ2, 3) rfl).2 (C := "java/util/ArrayList") (As := [.int p1]) (rest := []) X (P_J2_get_ok (l := l) hl0 hp) (va_cwF 1 hts (lw_app (w_mem4 q1667 q522 q524 q153) (lw_meth q526)) rfl rfl rfl (wfw_8 hC.1) (by decide +kernel) ⟨Nat.le_of_ble_eq_true rfl, Nat.le_of_ble_eq_true rfl⟩) ⟨wPc.blind, w_recv hC.1 hM (ci := 16) (q := (RJ2, TJ2, 3)) rfl hrec, w_pre hC hM hS _⟩ rfl rfl hl.1 rfl (lv_room (Nat.le_of_ble_eq_true rfl)) dX1_house_23 (w_room0 hB)) hS (w_room0 hB) (fun _ _ _ _ _ _ h => False.elim h) (fun r15 M13 H locs hp hM hS => ?_)
      refine x_cast (r := r15) X hC.1 hM q2238 (ci := 8) rfl (Or.inl rfl) dX1_house_28 hp (fun hp => ?_)
      refine x_astore_n (r := r15) (lv' := [(3, va_rf r15), (0, .ref t0), (1, .int p1), (2, .int p2)]) hx hb dX1_house_31 rfl hl (by decide) rfl (fun ls hl => ?_)
      refine lv_iload_n hx hb dX1_house_32 rfl (lv_at hl 3 rfl) ?_
      by_cases hc0 : p2 = (0 : Int32)
      · have hp := oIf.t hp hc0
        refine lv_tableIn (off := 43) (tgt := 76) hx hb dX1_house_33 (by rw [hc0]; decide) (by rw [hc0]; decide) (by rw [hc0]; rfl) (by decide) ?_
        refine x_aload_n (r := r15) hx hb dX1_house_76 rfl (lv_at hl 0 rfl) ?_
        obtain ⟨a20, ea, hqa20⟩ := hp
        subst ea
        have hp := hqa20
        have hl : lv_has ls 4 [(3, .ref a20), (0, .ref t0), (1, .int p1), (2, .int p2)] := hl
        refine x_getIN X hC.1 hM (ci := 8) (C := RX9) (T := TX9) (N := 3) rfl in_X9 0 (by decide) q1467 (fun _ h9 => h9) dX1_house_77 hp (fun v21 hp => ?_)
        refine lv_goto (tgt := 155) hx hb dX1_house_80 (by decide) ?_
        exact hB155 _ _ _ _ _ _ _ _ hp hM hS hB (lv_sub hl [] rfl)
      · have hp := oIf.f hp hc0
        by_cases hc1 : p2 = (1 : Int32)
        · have hp := oIf.t hp hc1
          refine lv_tableIn (off := 50) (tgt := 83) hx hb dX1_house_33 (by rw [hc1]; decide) (by rw [hc1]; decide) (by rw [hc1]; rfl) (by decide) ?_
          refine lv_aload_n hx hb dX1_house_83 rfl (lv_at hl 1 rfl) ?_
          obtain ⟨hrec, hp⟩ := hp
          refine x_call0R (vx_runV (As := []) (rest := []) X (P_X1_setup_ok (l := l) hl0 hp) (cwV 0 hts (lw_V q1535 q1537 qs29 q148 q1538) rfl rfl rfl (by decide +kernel) ⟨Nat.le_of_ble_eq_true rfl, Nat.le_of_ble_eq_true rfl⟩) ⟨wPc.blind, w_recv hC.1 hM (ci := 0) (q := (RX1, TX1, 8)) rfl hrec, w_pre hC hM hS _⟩ rfl rfl hl.1 rfl (lv_room (Nat.le_of_ble_eq_true rfl)) dX1_house_84 (w_room0 hB)) hS (w_room0 hB) (fun _ _ _ _ _ _ h => False.elim h) (fun r24 M22 H locs hp hM hS => ?_)
          refine lv_iload_n hx hb dX1_house_87 rfl (lv_at hl 2 rfl) ?_
          obtain ⟨a25, ea, hqa25⟩ := hp
          subst ea
          have hp := hqa25
          obtain ⟨hrec, hp⟩ := hp
          refine x_call0I (vx_runV (As := [.int p1]) (rest := []) X (P_X3_zoneOf_ok (l := l) hl0 hp) (cwV 1 hts (lw_V q2250 q2251 q2252 q150 q2253) rfl rfl rfl (by decide +kernel) ⟨Nat.le_of_ble_eq_true rfl, Nat.le_of_ble_eq_true rfl⟩) ⟨wPc.blind, w_recv hC.1 hM (ci := 2) (q := (RX3, TX3, 8)) rfl hrec, w_pre hC hM hS _⟩ rfl rfl hl.1 rfl (lv_room (Nat.le_of_ble_eq_true rfl)) dX1_house_88 (w_room0 hB)) hS (w_room0 hB) (fun _ _ _ _ _ _ h => False.elim h) (fun v28 M26 H locs hp hM hS => ?_)
          refine lv_goto (tgt := 155) hx hb dX1_house_91 (by decide) ?_
          exact hB155 _ _ _ _ _ _ _ _ hp hM hS hB (lv_sub hl [] rfl)
        · have hp := oIf.f hp hc1
          by_cases hc2 : p2 = (2 : Int32)
          · have hp := oIf.t hp hc2
            refine lv_tableIn (off := 61) (tgt := 94) hx hb dX1_house_33 (by rw [hc2]; decide) (by rw [hc2]; decide) (by rw [hc2]; rfl) (by decide) ?_
            refine x_aload_n (r := r15) hx hb dX1_house_94 rfl (lv_at hl 0 rfl) ?_
            obtain ⟨a29, ea, hqa29⟩ := hp
            subst ea
            have hp := hqa29
            have hl : lv_has ls 4 [(3, .ref a29), (0, .ref t0), (1, .int p1), (2, .int p2)] := hl
            refine x_getIN X hC.1 hM (ci := 8) (C := RX9) (T := TX9) (N := 3) rfl in_X9 1 (by decide) q1469 (fun _ h9 => h9) dX1_house_95 hp (fun v30 hp => ?_)
            refine lv_goto (tgt := 155) hx hb dX1_house_98 (by decide) ?_
            exact hB155 _ _ _ _ _ _ _ _ hp hM hS hB (lv_sub hl [] rfl)
          · have hp := oIf.f hp hc2
            by_cases hc3 : p2 = (3 : Int32)
            · have hp := oIf.t hp hc3
              refine lv_tableIn (off := 68) (tgt := 101) hx hb dX1_house_33 (by rw [hc3]; decide) (by rw [hc3]; decide) (by rw [hc3]; rfl) (by decide) ?_
              refine x_aload_n (r := r15) hx hb dX1_house_101 rfl (lv_at hl 0 rfl) ?_
              obtain ⟨a31, ea, hqa31⟩ := hp
              subst ea
              have hp := hqa31
              have hl : lv_has ls 4 [(3, .ref a31), (0, .ref t0), (1, .int p1), (2, .int p2)] := hl
              refine x_getIN X hC.1 hM (ci := 8) (C := RX9) (T := TX9) (N := 3) rfl in_X9 2 (by decide) q1473 (fun _ h9 => h9) dX1_house_102 hp (fun v32 hp => ?_)
              refine lv_goto (tgt := 155) hx hb dX1_house_105 (by decide) ?_
              exact hB155 _ _ _ _ _ _ _ _ hp hM hS hB (lv_sub hl [] rfl)
            · have hp := oIf.f hp hc3
              by_cases hc4 : p2 = (4 : Int32)
              · have hp := oIf.t hp hc4
                refine lv_tableIn (off := 75) (tgt := 108) hx hb dX1_house_33 (by rw [hc4]; decide) (by rw [hc4]; decide) (by rw [hc4]; rfl) (by decide) ?_
                refine lv_aload_n hx hb dX1_house_108 rfl (lv_at hl 1 rfl) ?_
                refine x_getA X hC.1 hM (ci := 0) (C := RX1) (T := TX1) (N := 8) rfl in_X1 0 (by decide) q973 (fun _ h9 => h9) dX1_house_109 hp (fun a33 hp => ?_)
                refine x_getAN X hC.1 hM (ci := 1) (C := RX2) (T := TX2) (N := 9) rfl in_X2 7 (by decide) q932 (fun _ h9 => h9) dX1_house_112 hp (fun a34 hp => ?_)
                refine lv_iload_n hx hb dX1_house_115 rfl (lv_at hl 2 rfl) ?_
                refine x_iald X hC.1 hM dX1_house_116 hp (fun v35 hp => ?_)
                refine lv_goto (tgt := 155) hx hb dX1_house_117 (by decide) ?_
                exact hB155 _ _ _ _ _ _ _ _ hp hM hS hB (lv_sub hl [] rfl)
              · have hp := oIf.f hp hc4
                by_cases hc5 : p2 = (5 : Int32)
                · have hp := oIf.t hp hc5
                  refine lv_tableIn (off := 87) (tgt := 120) hx hb dX1_house_33 (by rw [hc5]; decide) (by rw [hc5]; decide) (by rw [hc5]; rfl) (by decide) ?_
                  refine lv_aload_n hx hb dX1_house_120 rfl (lv_at hl 1 rfl) ?_
                  refine x_getA X hC.1 hM (ci := 0) (C := RX1) (T := TX1) (N := 8) rfl in_X1 0 (by decide) q973 (fun _ h9 => h9) dX1_house_121 hp (fun a36 hp => ?_)
                  refine lv_iload_n hx hb dX1_house_124 rfl (lv_at hl 2 rfl) ?_
                  refine x_indy X (hml.trans hl.1.symm) B.named hC hM hS hB (σ := wSh1) (nm := "L1") (List.mem_of_getElem? (i := 0) rfl) q3886 dX1_house_125 (Nat.le_of_ble_eq_true rfl) hp (fun a37 M38 H b39 cells slots hM hS hB hp => ?_)
                  obtain ⟨hrec, hp⟩ := hp
                  refine x_call0I (vx_runV (As := [.ref a37]) (rest := []) X (P_X2_many_ok (l := l) hl0 hp) (cwV 1 hts (lw_V q2260 q2261 q2262 q149 q2263) rfl rfl rfl (by decide +kernel) ⟨Nat.le_of_ble_eq_true rfl, Nat.le_of_ble_eq_true rfl⟩) ⟨wPc.blind, w_recv hC.1 hM (ci := 1) (q := (RX2, TX2, 9)) rfl hrec, w_pre hC hM hS _⟩ rfl rfl hl.1 rfl (lv_room (Nat.le_of_ble_eq_true rfl)) dX1_house_130 (w_room0 hB)) hS (w_room0 hB) (fun _ _ _ _ _ _ h => False.elim h) (fun v42 M40 H locs hp hM hS => ?_)
                  refine lv_goto (tgt := 155) hx hb dX1_house_133 (by decide) ?_
                  exact hB155 _ _ _ _ _ _ _ _ hp hM hS hB (lv_sub hl [] rfl)
                · have hp := oIf.f hp hc5
                  by_cases hc6 : p2 = (6 : Int32)
                  · have hp := oIf.t hp hc6
                    refine lv_tableIn (off := 103) (tgt := 136) hx hb dX1_house_33 (by rw [hc6]; decide) (by rw [hc6]; decide) (by rw [hc6]; rfl) (by decide) ?_
                    refine lv_aload_n hx hb dX1_house_136 rfl (lv_at hl 1 rfl) ?_
                    refine x_getA X hC.1 hM (ci := 0) (C := RX1) (T := TX1) (N := 8) rfl in_X1 0 (by decide) q973 (fun _ h9 => h9) dX1_house_137 hp (fun a43 hp => ?_)
                    refine lv_iload_n hx hb dX1_house_140 rfl (lv_at hl 2 rfl) ?_
                    obtain ⟨hrec, hp⟩ := hp
                    refine x_call0I (vx_runV (As := [.int p1]) (rest := []) X (P_X2_validOf_ok (l := l) hl0 hp) (cwV 1 hts (lw_V q2268 q2269 q2270 q149 q2271) rfl rfl rfl (by decide +kernel) ⟨Nat.le_of_ble_eq_true rfl, Nat.le_of_ble_eq_true rfl⟩) ⟨wPc.blind, w_recv hC.1 hM (ci := 1) (q := (RX2, TX2, 9)) rfl hrec, w_pre hC hM hS _⟩ rfl rfl hl.1 rfl (lv_room (Nat.le_of_ble_eq_true rfl)) dX1_house_141 (w_room0 hB)) hS (w_room0 hB) (fun _ _ _ _ _ _ h => False.elim h) (fun v46 M44 H locs hp hM hS => ?_)
                    refine lv_goto (tgt := 155) hx hb dX1_house_144 (by decide) ?_
                    exact hB155 _ _ _ _ _ _ _ _ hp hM hS hB (lv_sub hl [] rfl)
                  · have hp := oIf.f hp hc6
                    refine lv_tableOut (tgt := 147) hx hb dX1_house_33 (w_tsw 0 7 (by decide) (by decide) (fun i hi => ?_)) (by decide) ?_
                    · have hi2 : i = 0 ∨ i = 1 ∨ i = 2 ∨ i = 3 ∨ i = 4 ∨ i = 5 ∨ i = 6 := by omega
                      rcases hi2 with rfl | rfl | rfl | rfl | rfl | rfl | rfl
                      · exact fun h => hc0 (h.trans (by decide))
                      · exact fun h => hc1 (h.trans (by decide))
                      · exact fun h => hc2 (h.trans (by decide))
                      · exact fun h => hc3 (h.trans (by decide))
                      · exact fun h => hc4 (h.trans (by decide))
                      · exact fun h => hc5 (h.trans (by decide))
                      · exact fun h => hc6 (h.trans (by decide))
                    · refine lv_aload_n hx hb dX1_house_147 rfl (lv_at hl 1 rfl) ?_
                      refine x_getA X hC.1 hM (ci := 0) (C := RX1) (T := TX1) (N := 8) rfl in_X1 0 (by decide) q973 (fun _ h9 => h9) dX1_house_148 hp (fun a16 hp => ?_)
                      refine lv_iload_n hx hb dX1_house_151 rfl (lv_at hl 2 rfl) ?_
                      obtain ⟨hrec, hp⟩ := hp
                      refine x_call0I (vx_runVN (As := [.int p1]) (rest := []) X (P_X2_runningAt_ok (l := l) hl0 hp) ⟨va_cnB 1 hts (lw_meth q2275) rfl rfl rfl (hC.1.2.2.1 _ q2272 rfl) (hts _ q149) (by decide +kernel) ⟨Nat.le_of_ble_eq_true rfl, Nat.le_of_ble_eq_true rfl⟩, hts _ q2274, hts _ qs40⟩ ⟨wPc.blind, w_recv hC.1 hM (ci := 1) (q := (RX2, TX2, 9)) rfl hrec, w_pre hC hM hS _⟩ rfl rfl hl.1 rfl (lv_room (Nat.le_of_ble_eq_true rfl)) dX1_house_152 (w_room0 hB)) hS (w_room0 hB) (fun _ _ _ _ _ _ h => False.elim h) (fun v19 M17 H locs hp hM hS => ?_)
                      exact hB155 _ _ _ _ _ _ _ _ hp hM hS hB (lv_sub hl [] rfl)
def B_X2_inspect_118 (G : wG) (rec18 : Nat → Int32 → Int32 → Option Nat → wM → Nat → Prop) (Q : Int32 → wM → Prop) (x0 : Nat) (x1 : Int32) (x2 : Int32) (x3 : Nat) (M : wM) (bq : Nat) : Prop :=
  rec18 x0 x1 x2 (some x3) M bq
def B_X2_inspect_57 (G : wG) (rec18 : Nat → Int32 → Int32 → Option Nat → wM → Nat → Prop) (Q : Int32 → wM → Prop) (x0 : Nat) (x1 : Int32) (x2 : Int32) (x3 : Nat) (x4 : Nat) (y0 : Int32) (M : wM) (bq : Nat) : Prop :=
  oIf (y0 ≤ 0) (B_X2_inspect_118 G rec18 Q x0 x1 x2 x3 M bq) (oGetA M x0 1 4 (fun a1 => oIs M a1 16 (P_J2_size G a1 M (fun v4 M2 => oIf ((99 : Int32) ≤ v4) (B_X2_inspect_118 G rec18 Q x0 x1 x2 x3 M2 bq) (oGetA M2 x0 1 4 (fun a5 => oNew G M2 bq 15 [.int 0, .int 0, .int 0, .int 0, .int 0, .int 0] (fun a6 M7 b8 => oGetI M7 x4 14 0 (fun v9 => oGetI M7 x0 1 8 (fun v10 => oGetA M7 x0 1 0 (fun a11 => oGetA M7 a11 2 4 (fun a12 => oIald .int M7 a12 y0 (fun v13 => P_X19_init G a6 v9 x1 v10 y0 v13 (0 : Int32) M7 (fun M14 => oIs M14 a5 16 (∃ c17, c17 ≤ b8 ∧ P_J2_add G a5 (some a6) c17 M14 (fun r18 M16 => B_X2_inspect_118 G rec18 Q x0 x1 x2 x3 M16 (b8 - c17))))))))))))))))
def B_X2_inspect_18 (G : wG) (rec18 : Nat → Int32 → Int32 → Option Nat → wM → Nat → Prop) (Q : Int32 → wM → Prop) (x0 : Nat) (x1 : Int32) (x2 : Int32) (x3 : Option Nat) (M : wM) (bq : Nat) : Prop :=
  oRef x3 (fun a1 => oIs M a1 19 (P_J36_hasNext G a1 M (fun r4 M2 => oIf (r4 = true) (oIs M2 a1 19 (P_J36_next G a1 M2 (fun r11 M9 => oCast M9 r11 14 (oRef r11 (fun a12 => oGetI M9 a12 14 1 (fun v13 => oIf (v13 = x1) (oIs M9 x0 1 (P_X2_fineRule G x0 a12 M9 (fun v16 M14 => B_X2_inspect_57 G rec18 Q x0 x1 x2 a1 a12 v16 M14 bq))) (B_X2_inspect_57 G rec18 Q x0 x1 x2 a1 a12 (0 : Int32) M9 bq))))))) (oGetA M2 x0 1 4 (fun a5 => oIs M2 a5 16 (P_J2_size G a5 M2 (fun v8 M6 => Q (v8 - x2) M6)))))))
def L_X2_inspect_18 (G : wG) (Q : Int32 → wM → Prop) : Nat → Nat → Int32 → Int32 → Option Nat → wM → Nat → Prop
  | 0 => fun _ _ _ _ _ _ => False
  | n + 1 => B_X2_inspect_18 G (L_X2_inspect_18 G Q n) Q
def P_X2_inspect (G : wG) (t0 : Nat) (p1 : Int32) (b : Nat) (M : wM) (Q : Int32 → wM → Prop) : Prop :=
  oGetA M t0 1 4 (fun a1 => oIs M a1 16 (P_J2_size G a1 M (fun v4 M2 => oGetA M2 t0 1 3 (fun a5 => oIs M2 a5 17 (∃ c7, c7 ≤ b ∧ P_J7_iterator_J8 G a5 c7 M2 (fun r8 M6 => ∃ n, L_X2_inspect_18 G Q n t0 p1 v4 r8 M6 (b - c7)))))))
set_option maxHeartbeats 4000000 in
set_option maxRecDepth 100000 in
theorem P_X2_inspect_ok {l : Launch} (hl0 : l.stackTraces = false) {G : wG} {t0 : Nat} {p1 : Int32} {b : Nat} {M : wM} {Q : Int32 → wM → Prop} (hp : P_X2_inspect G t0 p1 b M Q) : wMet l yX2_inspect (ws_ yX2_inspect cX2_inspect 6 (Option.some Jvm.ClassFile.FieldType.int)) 21 599 G [.ref t0, .int p1] M b (wqI Q) wX0 := by
  refine vx_ofW (cc := cX2_inspect) (maxL := 6) (ret := Option.some Jvm.ClassFile.FieldType.int) (by decide) rfl ?_
  intro p e s m args below meth c s₁ B hml hnt hv
  obtain ⟨rfl, hM, hK, hZ, hz⟩ := hv
  have hC : wC G s := ⟨hK, hZ, hz⟩
  have hx := B.exec
  have hb := B.bytes
  have hr := B.returns
  have hts := atoms_spec (ws := (ws_ yX2_inspect cX2_inspect 6 (Option.some Jvm.ClassFile.FieldType.int))) B.pre
  have hts : ∀ w ∈ lw_all, w.before _ s = true := fun w h => hts w (List.mem_cons_of_mem _ h)
  have hown : s.vm.findClass RX2 = some m.cls := findClass_of_methodNamed B.named
  have hlk := B.notSynchronized
  have X : CallFix p m c cX2_inspect 6 s ([.ref t0, .int p1] : List Value).toArray lw_all RX2 := ⟨hx, hb, hml, hown, hts⟩
  have hS : va_S (wA G) s.heap s.heap [] := va_S.rf
  have hl := lv_entry ([.ref t0, .int p1]) (n := 6) (Nat.le_of_ble_eq_true rfl)
  rw [lg_entry_eq]
  generalize (lg_sl ([.ref t0, .int p1]) ++ List.replicate (6 - (lg_sl ([.ref t0, .int p1])).length) Slot.unset).toArray = ls at hl ⊢
  have hl : lv_has ls 6 [(0, .ref t0), (1, .int p1)] := hl
  have hB : 0 + b ≤ ((headSpec (ws_ yX2_inspect cX2_inspect 6 (Option.some Jvm.ClassFile.FieldType.int)) ({ frames := 21, cells := b, slots := b, locals := 599 })).room).cells ∧ 0 + b ≤ ((headSpec (ws_ yX2_inspect cX2_inspect 6 (Option.some Jvm.ClassFile.FieldType.int)) ({ frames := 21, cells := b, slots := b, locals := 599 })).room).slots := ⟨Nat.le_of_eq (Nat.zero_add b), Nat.le_of_eq (Nat.zero_add b)⟩
  have hB118 : ∀ (rec18 : Nat → Int32 → Int32 → Option Nat → wM → Nat → Prop) (hrec18 : ∀ (x0 : Nat) (x1 : Int32) (x2 : Int32) (x3 : Option Nat) (M : wM) (bq : Nat) (H : Heap) (locs : List Loc) (ls : Array Slot) (cells slots : Nat), rec18 x0 x1 x2 x3 M bq → wR G M H → va_S (wA G) s.heap H locs → (cells + bq ≤ ((headSpec (ws_ yX2_inspect cX2_inspect 6 (Option.some Jvm.ClassFile.FieldType.int)) ({ frames := 21, cells := b, slots := b, locals := 599 })).room).cells ∧ slots + bq ≤ ((headSpec (ws_ yX2_inspect cX2_inspect 6 (Option.some Jvm.ClassFile.FieldType.int)) ({ frames := 21, cells := b, slots := b, locals := 599 })).room).slots) → lv_has ls 6 [(0, .ref x0), (1, .int x1), (2, .int x2), (3, va_rf x3)] → W p l e (headSpec (ws_ yX2_inspect cX2_inspect 6 (Option.some Jvm.ClassFile.FieldType.int)) ({ frames := 21, cells := b, slots := b, locals := 599 })).room s m ([.ref t0, .int p1] : List Value).toArray below meth c H locs cells slots (vx_MQ below (wQ G (wqI Q)) (wXC G wX0) ([.ref t0, .int p1] : List Value).toArray s b b (wA G)) (F0 m 18 ls [])), ∀ (x0 : Nat) (x1 : Int32) (x2 : Int32) (x3 : Nat) (M : wM) (bq : Nat) (H : Heap) (locs : List Loc) (ls : Array Slot) (cells slots : Nat), B_X2_inspect_118 G rec18 Q x0 x1 x2 x3 M bq → wR G M H → va_S (wA G) s.heap H locs → (cells + bq ≤ ((headSpec (ws_ yX2_inspect cX2_inspect 6 (Option.some Jvm.ClassFile.FieldType.int)) ({ frames := 21, cells := b, slots := b, locals := 599 })).room).cells ∧ slots + bq ≤ ((headSpec (ws_ yX2_inspect cX2_inspect 6 (Option.some Jvm.ClassFile.FieldType.int)) ({ frames := 21, cells := b, slots := b, locals := 599 })).room).slots) → lv_has ls 6 [(0, .ref x0), (1, .int x1), (2, .int x2), (3, .ref x3)] → W p l e (headSpec (ws_ yX2_inspect cX2_inspect 6 (Option.some Jvm.ClassFile.FieldType.int)) ({ frames := 21, cells := b, slots := b, locals := 599 })).room s m ([.ref t0, .int p1] : List Value).toArray below meth c H locs cells slots (vx_MQ below (wQ G (wqI Q)) (wXC G wX0) ([.ref t0, .int p1] : List Value).toArray s b b (wA G)) (F0 m 118 ls []) := by
    intro rec18 hrec18 x0 x1 x2 x3 M bq H locs ls cells slots hp hM hS hB hl
    refine lv_goto (tgt := 18) hx hb dX2_inspect_118 (by decide) ?_
    exact hrec18 _ _ _ _ _ _ _ _ _ _ _ hp hM hS hB (lv_sub hl [0, 1, 2, 3] rfl)
  have hB57 : ∀ (rec18 : Nat → Int32 → Int32 → Option Nat → wM → Nat → Prop) (hrec18 : ∀ (x0 : Nat) (x1 : Int32) (x2 : Int32) (x3 : Option Nat) (M : wM) (bq : Nat) (H : Heap) (locs : List Loc) (ls : Array Slot) (cells slots : Nat), rec18 x0 x1 x2 x3 M bq → wR G M H → va_S (wA G) s.heap H locs → (cells + bq ≤ ((headSpec (ws_ yX2_inspect cX2_inspect 6 (Option.some Jvm.ClassFile.FieldType.int)) ({ frames := 21, cells := b, slots := b, locals := 599 })).room).cells ∧ slots + bq ≤ ((headSpec (ws_ yX2_inspect cX2_inspect 6 (Option.some Jvm.ClassFile.FieldType.int)) ({ frames := 21, cells := b, slots := b, locals := 599 })).room).slots) → lv_has ls 6 [(0, .ref x0), (1, .int x1), (2, .int x2), (3, va_rf x3)] → W p l e (headSpec (ws_ yX2_inspect cX2_inspect 6 (Option.some Jvm.ClassFile.FieldType.int)) ({ frames := 21, cells := b, slots := b, locals := 599 })).room s m ([.ref t0, .int p1] : List Value).toArray below meth c H locs cells slots (vx_MQ below (wQ G (wqI Q)) (wXC G wX0) ([.ref t0, .int p1] : List Value).toArray s b b (wA G)) (F0 m 18 ls [])), ∀ (x0 : Nat) (x1 : Int32) (x2 : Int32) (x3 : Nat) (x4 : Nat) (y0 : Int32) (M : wM) (bq : Nat) (H : Heap) (locs : List Loc) (ls : Array Slot) (cells slots : Nat), B_X2_inspect_57 G rec18 Q x0 x1 x2 x3 x4 y0 M bq → wR G M H → va_S (wA G) s.heap H locs → (cells + bq ≤ ((headSpec (ws_ yX2_inspect cX2_inspect 6 (Option.some Jvm.ClassFile.FieldType.int)) ({ frames := 21, cells := b, slots := b, locals := 599 })).room).cells ∧ slots + bq ≤ ((headSpec (ws_ yX2_inspect cX2_inspect 6 (Option.some Jvm.ClassFile.FieldType.int)) ({ frames := 21, cells := b, slots := b, locals := 599 })).room).slots) → lv_has ls 6 [(0, .ref x0), (1, .int x1), (2, .int x2), (3, .ref x3), (4, .ref x4)] → W p l e (headSpec (ws_ yX2_inspect cX2_inspect 6 (Option.some Jvm.ClassFile.FieldType.int)) ({ frames := 21, cells := b, slots := b, locals := 599 })).room s m ([.ref t0, .int p1] : List Value).toArray below meth c H locs cells slots (vx_MQ below (wQ G (wqI Q)) (wXC G wX0) ([.ref t0, .int p1] : List Value).toArray s b b (wA G)) (F0 m 57 ls [.int y0]) := by
    intro rec18 hrec18 x0 x1 x2 x3 x4 y0 M bq H locs ls cells slots hp hM hS hB hl
    refine lv_istore (lv' := [(5, .int y0), (0, .ref x0), (1, .int x1), (2, .int x2), (3, .ref x3), (4, .ref x4)]) hx hb dX2_inspect_57 hl (by decide) rfl (fun ls hl => ?_)
    refine lv_iload hx hb dX2_inspect_59 (lv_at hl 0 rfl) ?_
    refine lv_if_le (tgt := 118) hx hb dX2_inspect_61 (by decide) (fun hc => ?_) (fun hc => ?_)
    · have hp := oIf.t hp hc
      exact hB118 rec18 hrec18 _ _ _ _ _ _ _ _ _ _ _ hp hM hS hB (lv_sub hl [1, 2, 3, 4] rfl)
    · have hp := oIf.f hp hc
      refine lv_aload_n hx hb dX2_inspect_64 rfl (lv_at hl 1 rfl) ?_
      refine x_getA X hC.1 hM (ci := 1) (C := RX2) (T := TX2) (N := 9) rfl in_X2 4 (by decide) q925 (fun _ h9 => h9) dX2_inspect_65 hp (fun a1 hp => ?_)
      obtain ⟨hrec, hp⟩ := hp
      refine x_call0I5 (vx_runF (hC.1.1.1 16 (RJ2, TJ2, 3) rfl).2 (C := "java/util/ArrayList") (As := []) (rest := []) X (P_J2_size_ok (l := l) hl0 hp) (va_cwF 0 hts (lw_app (w_mem4 q493 q496 q498 q153) (lw_meth q500)) rfl rfl rfl (wfw_13 hC.1) (by decide +kernel) ⟨Nat.le_of_ble_eq_true rfl, Nat.le_of_ble_eq_true rfl⟩) ⟨wPc.blind, w_recv hC.1 hM (ci := 16) (q := (RJ2, TJ2, 3)) rfl hrec, w_pre hC hM hS _⟩ rfl rfl hl.1 rfl (lv_room (Nat.le_of_ble_eq_true rfl)) dX2_inspect_68 (w_room0 hB)) hS (w_room0 hB) (fun _ _ _ _ _ _ h => False.elim h) (fun v4 M2 H locs hp hM hS => ?_)
      refine lv_bipush (v := 99) hx hb dX2_inspect_73 (by decide) ?_
      refine lv_icmp_ge (tgt := 118) hx hb dX2_inspect_75 (by decide) (fun hc => ?_) (fun hc => ?_)
      · have hp := oIf.t hp hc
        exact hB118 rec18 hrec18 _ _ _ _ _ _ _ _ _ _ _ hp hM hS hB (lv_sub hl [1, 2, 3, 4] rfl)
      · have hp := oIf.f hp hc
        refine lv_aload_n hx hb dX2_inspect_78 rfl (lv_at hl 1 rfl) ?_
        refine x_getA X hC.1 hM (ci := 1) (C := RX2) (T := TX2) (N := 9) rfl in_X2 4 (by decide) q925 (fun _ h9 => h9) dX2_inspect_79 hp (fun a5 hp => ?_)
        refine x_new X hC hM hS hB (ci := 15) (C := RX19) (T := TX19) (N := 6) rfl in_X19 tyX19 tyX19_ok q2894 q2896 q210 rfl (by decide) dX2_inspect_82 hp (fun a6 M7 H b8 cells slots hM hS hB hp => ?_)
        refine lv_dup hx hb dX2_inspect_85 rfl ?_
        refine lv_aload hx hb dX2_inspect_86 (lv_at hl 5 rfl) ?_
        refine x_getIN X hC.1 hM (ci := 14) (C := RX18) (T := TX18) (N := 3) rfl in_X18 0 (by decide) q2783 (fun _ h9 => h9) dX2_inspect_88 hp (fun v9 hp => ?_)
        refine lv_iload_n hx hb dX2_inspect_91 rfl (lv_at hl 2 rfl) ?_
        refine lv_aload_n hx hb dX2_inspect_92 rfl (lv_at hl 1 rfl) ?_
        refine x_getI X hC.1 hM (ci := 1) (C := RX2) (T := TX2) (N := 9) rfl in_X2 8 (by decide) q933 (fun _ h9 => h9) dX2_inspect_93 hp (fun v10 hp => ?_)
        refine lv_iload hx hb dX2_inspect_96 (lv_at hl 0 rfl) ?_
        refine lv_aload_n hx hb dX2_inspect_98 rfl (lv_at hl 1 rfl) ?_
        refine x_getA X hC.1 hM (ci := 1) (C := RX2) (T := TX2) (N := 9) rfl in_X2 0 (by decide) q917 (fun _ h9 => h9) dX2_inspect_99 hp (fun a11 hp => ?_)
        refine x_getAN X hC.1 hM (ci := 2) (C := RX3) (T := TX3) (N := 8) rfl in_X3 4 (by decide) q413 (fun _ h9 => h9) dX2_inspect_102 hp (fun a12 hp => ?_)
        refine lv_iload hx hb dX2_inspect_105 (lv_at hl 0 rfl) ?_
        refine x_iald X hC.1 hM dX2_inspect_107 hp (fun v13 hp => ?_)
        refine lv_iconst (v := 0) hx hb dX2_inspect_108 (by decide) ?_
        refine x_call0V (vx_runI (As := [.int v9, .int x1, .int v10, .int y0, .int v13, .int (0 : Int32)]) (rest := [.ref a6, .ref a5]) X (P_X19_init_ok (l := l) hl0 hp) (cwI 6 hts (lw_meth q2899) rfl rfl rfl (hts _ q210) (hts _ q2897) (hts _ q2898) rfl (by decide +kernel) ⟨Nat.le_of_ble_eq_true rfl, Nat.le_of_ble_eq_true rfl⟩) ⟨wPc.blind, w_pre hC hM hS _⟩ rfl rfl hl.1 rfl (lv_room (Nat.le_of_ble_eq_true rfl)) dX2_inspect_109 (w_room0 hB)) hS (w_room0 hB) (fun _ _ _ _ _ _ h => False.elim h) (fun M14 H locs hp hM hS => ?_)
        obtain ⟨hrec, hp⟩ := hp
        obtain ⟨c17, hc1, hp⟩ := hp
        refine x_callZ5 (vx_runF (hC.1.1.1 16 (RJ2, TJ2, 3) rfl).2 (C := "java/util/ArrayList") (As := [va_rf (some a6)]) (rest := []) X (P_J2_add_ok (l := l) hl0 hp) (va_cwF 1 hts (lw_app (w_mem4 q2137 q266 q268 q153) (lw_meth q270)) rfl rfl rfl (wfw_5 hC.1) (by decide +kernel) ⟨Nat.le_of_ble_eq_true rfl, Nat.le_of_ble_eq_true rfl⟩) ⟨wPc.blind, w_recv hC.1 hM (ci := 16) (q := (RJ2, TJ2, 3)) rfl hrec, w_pre hC hM hS _⟩ rfl rfl hl.1 rfl (lv_room (Nat.le_of_ble_eq_true rfl)) dX2_inspect_112 (w_room hB hc1)) hS hB hc1 (fun _ _ _ _ _ _ h => False.elim h) (fun r18 M16 H locs hp hM hS hB => ?_)
        refine lv_pop hx hb dX2_inspect_117 rfl ?_
        exact hB118 rec18 hrec18 _ _ _ _ _ _ _ _ _ _ _ hp hM hS hB (lv_sub hl [1, 2, 3, 4] rfl)
  have hB18 : ∀ (rec18 : Nat → Int32 → Int32 → Option Nat → wM → Nat → Prop) (hrec18 : ∀ (x0 : Nat) (x1 : Int32) (x2 : Int32) (x3 : Option Nat) (M : wM) (bq : Nat) (H : Heap) (locs : List Loc) (ls : Array Slot) (cells slots : Nat), rec18 x0 x1 x2 x3 M bq → wR G M H → va_S (wA G) s.heap H locs → (cells + bq ≤ ((headSpec (ws_ yX2_inspect cX2_inspect 6 (Option.some Jvm.ClassFile.FieldType.int)) ({ frames := 21, cells := b, slots := b, locals := 599 })).room).cells ∧ slots + bq ≤ ((headSpec (ws_ yX2_inspect cX2_inspect 6 (Option.some Jvm.ClassFile.FieldType.int)) ({ frames := 21, cells := b, slots := b, locals := 599 })).room).slots) → lv_has ls 6 [(0, .ref x0), (1, .int x1), (2, .int x2), (3, va_rf x3)] → W p l e (headSpec (ws_ yX2_inspect cX2_inspect 6 (Option.some Jvm.ClassFile.FieldType.int)) ({ frames := 21, cells := b, slots := b, locals := 599 })).room s m ([.ref t0, .int p1] : List Value).toArray below meth c H locs cells slots (vx_MQ below (wQ G (wqI Q)) (wXC G wX0) ([.ref t0, .int p1] : List Value).toArray s b b (wA G)) (F0 m 18 ls [])), ∀ (x0 : Nat) (x1 : Int32) (x2 : Int32) (x3 : Option Nat) (M : wM) (bq : Nat) (H : Heap) (locs : List Loc) (ls : Array Slot) (cells slots : Nat), B_X2_inspect_18 G rec18 Q x0 x1 x2 x3 M bq → wR G M H → va_S (wA G) s.heap H locs → (cells + bq ≤ ((headSpec (ws_ yX2_inspect cX2_inspect 6 (Option.some Jvm.ClassFile.FieldType.int)) ({ frames := 21, cells := b, slots := b, locals := 599 })).room).cells ∧ slots + bq ≤ ((headSpec (ws_ yX2_inspect cX2_inspect 6 (Option.some Jvm.ClassFile.FieldType.int)) ({ frames := 21, cells := b, slots := b, locals := 599 })).room).slots) → lv_has ls 6 [(0, .ref x0), (1, .int x1), (2, .int x2), (3, va_rf x3)] → W p l e (headSpec (ws_ yX2_inspect cX2_inspect 6 (Option.some Jvm.ClassFile.FieldType.int)) ({ frames := 21, cells := b, slots := b, locals := 599 })).room s m ([.ref t0, .int p1] : List Value).toArray below meth c H locs cells slots (vx_MQ below (wQ G (wqI Q)) (wXC G wX0) ([.ref t0, .int p1] : List Value).toArray s b b (wA G)) (F0 m 18 ls []) := by
    intro rec18 hrec18 x0 x1 x2 x3 M bq H locs ls cells slots hp hM hS hB hl
    refine x_aload_n (r := x3) hx hb dX2_inspect_18 rfl (lv_at hl 3 rfl) ?_
    obtain ⟨a1, ea, hqa1⟩ := hp
    subst ea
    have hp := hqa1
    have hl : lv_has ls 6 [(0, .ref x0), (1, .int x1), (2, .int x2), (3, .ref a1)] := hl
    obtain ⟨hrec, hp⟩ := hp
    refine x_call0Z5 (vx_runF (hC.1.1.1 19 (RJ36, TJ36, 5) rfl).2 (C := "java/util/LinkedList$ListItr") (As := []) (rest := []) X (P_J36_hasNext_ok (l := l) hl0 hp) (va_cwF 0 hts (lw_app (w_mem4 q1789 q1818 q1820 q195) (lw_meth q1822)) rfl rfl rfl (wfw_37 hC.1) (by decide +kernel) ⟨Nat.le_of_ble_eq_true rfl, Nat.le_of_ble_eq_true rfl⟩) ⟨wPc.blind, w_recv hC.1 hM (ci := 19) (q := (RJ36, TJ36, 5)) rfl hrec, w_pre hC hM hS _⟩ rfl rfl hl.1 rfl (lv_room (Nat.le_of_ble_eq_true rfl)) dX2_inspect_19 (w_room0 hB)) hS (w_room0 hB) (fun _ _ _ _ _ _ h => False.elim h) (fun r4 M2 H locs hp hM hS => ?_)
    refine x_ifeqB (tgt := 121) hx hb dX2_inspect_24 (by decide) (fun hc => ?_) (fun hc => ?_)
    · have hp := oIf.bf hp hc
      refine lv_aload_n hx hb dX2_inspect_121 rfl (lv_at hl 0 rfl) ?_
      refine x_getA X hC.1 hM (ci := 1) (C := RX2) (T := TX2) (N := 9) rfl in_X2 4 (by decide) q925 (fun _ h9 => h9) dX2_inspect_122 hp (fun a5 hp => ?_)
      obtain ⟨hrec, hp⟩ := hp
      refine x_call0I5 (vx_runF (hC.1.1.1 16 (RJ2, TJ2, 3) rfl).2 (C := "java/util/ArrayList") (As := []) (rest := []) X (P_J2_size_ok (l := l) hl0 hp) (va_cwF 0 hts (lw_app (w_mem4 q493 q496 q498 q153) (lw_meth q500)) rfl rfl rfl (wfw_13 hC.1) (by decide +kernel) ⟨Nat.le_of_ble_eq_true rfl, Nat.le_of_ble_eq_true rfl⟩) ⟨wPc.blind, w_recv hC.1 hM (ci := 16) (q := (RJ2, TJ2, 3)) rfl hrec, w_pre hC hM hS _⟩ rfl rfl hl.1 rfl (lv_room (Nat.le_of_ble_eq_true rfl)) dX2_inspect_125 (w_room0 hB)) hS (w_room0 hB) (fun _ _ _ _ _ _ h => False.elim h) (fun v8 M6 H locs hp hM hS => ?_)
      refine lv_iload_n hx hb dX2_inspect_130 rfl (lv_at hl 2 rfl) ?_
      refine lv_isub hx hb dX2_inspect_131 ?_
      exact x_iret X hr hlk hM hS (w_fin hB) dX2_inspect_132 ⟨_, rfl, hp⟩
    · have hp := oIf.bt hp hc
      refine lv_aload_n hx hb dX2_inspect_27 rfl (lv_at hl 3 rfl) ?_
      obtain ⟨hrec, hp⟩ := hp
      refine x_call0R5 (vx_runF (hC.1.1.1 19 (RJ36, TJ36, 5) rfl).2 (C := "java/util/LinkedList$ListItr") (As := []) (rest := []) X (P_J36_next_ok (l := l) hl0 hp) (va_cwF 0 hts (lw_app (w_mem4 q1824 q1952 q1954 q195) (lw_meth q1956)) rfl rfl rfl (wfw_38 hC.1) (by decide +kernel) ⟨Nat.le_of_ble_eq_true rfl, Nat.le_of_ble_eq_true rfl⟩) ⟨wPc.blind, w_recv hC.1 hM (ci := 19) (q := (RJ36, TJ36, 5)) rfl hrec, w_pre hC hM hS _⟩ rfl rfl hl.1 rfl (lv_room (Nat.le_of_ble_eq_true rfl)) dX2_inspect_28 (w_room0 hB)) hS (w_room0 hB) (fun _ _ _ _ _ _ h => False.elim h) (fun r11 M9 H locs hp hM hS => ?_)
      refine x_cast (r := r11) X hC.1 hM q1964 (ci := 14) rfl (Or.inl rfl) dX2_inspect_33 hp (fun hp => ?_)
      refine x_astore (r := r11) (lv' := [(4, va_rf r11), (0, .ref x0), (1, .int x1), (2, .int x2), (3, .ref a1)]) hx hb dX2_inspect_36 hl (by decide) rfl (fun ls hl => ?_)
      refine x_aload (r := r11) hx hb dX2_inspect_38 (lv_at hl 0 rfl) ?_
      obtain ⟨a12, ea, hqa12⟩ := hp
      subst ea
      have hp := hqa12
      have hl : lv_has ls 6 [(4, .ref a12), (0, .ref x0), (1, .int x1), (2, .int x2), (3, .ref a1)] := hl
      refine x_getIN X hC.1 hM (ci := 14) (C := RX18) (T := TX18) (N := 3) rfl in_X18 1 (by decide) q2786 (fun _ h9 => h9) dX2_inspect_40 hp (fun v13 hp => ?_)
      refine lv_iload_n hx hb dX2_inspect_43 rfl (lv_at hl 2 rfl) ?_
      refine lv_icmp_ne (tgt := 56) hx hb dX2_inspect_44 (by decide) (fun hc => ?_) (fun hc => ?_)
      · have hp := oIf.f hp hc
        refine lv_iconst (v := 0) hx hb dX2_inspect_56 (by decide) ?_
        exact hB57 rec18 hrec18 _ _ _ _ _ _ _ _ _ _ _ _ _ hp hM hS hB (lv_sub hl [1, 2, 3, 4, 0] rfl)
      · have hp := oIf.t hp hc
        refine lv_aload_n hx hb dX2_inspect_47 rfl (lv_at hl 1 rfl) ?_
        refine lv_aload hx hb dX2_inspect_48 (lv_at hl 0 rfl) ?_
        obtain ⟨hrec, hp⟩ := hp
        refine x_call0I (vx_runV (As := [.ref a12]) (rest := []) X (P_X2_fineRule_ok (l := l) hl0 hp) (cwV 1 hts (lw_V q2886 q2888 qs57 q149 q2889) rfl rfl rfl (by decide +kernel) ⟨Nat.le_of_ble_eq_true rfl, Nat.le_of_ble_eq_true rfl⟩) ⟨wPc.blind, w_recv hC.1 hM (ci := 1) (q := (RX2, TX2, 9)) rfl hrec, w_pre hC hM hS _⟩ rfl rfl hl.1 rfl (lv_room (Nat.le_of_ble_eq_true rfl)) dX2_inspect_50 (w_room0 hB)) hS (w_room0 hB) (fun _ _ _ _ _ _ h => False.elim h) (fun v16 M14 H locs hp hM hS => ?_)
        refine lv_goto (tgt := 57) hx hb dX2_inspect_53 (by decide) ?_
        exact hB57 rec18 hrec18 _ _ _ _ _ _ _ _ _ _ _ _ _ hp hM hS hB (lv_sub hl [1, 2, 3, 4, 0] rfl)
  have hL18 : ∀ (n : Nat), ∀ (x0 : Nat) (x1 : Int32) (x2 : Int32) (x3 : Option Nat) (M : wM) (bq : Nat) (H : Heap) (locs : List Loc) (ls : Array Slot) (cells slots : Nat), L_X2_inspect_18 G Q n x0 x1 x2 x3 M bq → wR G M H → va_S (wA G) s.heap H locs → (cells + bq ≤ ((headSpec (ws_ yX2_inspect cX2_inspect 6 (Option.some Jvm.ClassFile.FieldType.int)) ({ frames := 21, cells := b, slots := b, locals := 599 })).room).cells ∧ slots + bq ≤ ((headSpec (ws_ yX2_inspect cX2_inspect 6 (Option.some Jvm.ClassFile.FieldType.int)) ({ frames := 21, cells := b, slots := b, locals := 599 })).room).slots) → lv_has ls 6 [(0, .ref x0), (1, .int x1), (2, .int x2), (3, va_rf x3)] → W p l e (headSpec (ws_ yX2_inspect cX2_inspect 6 (Option.some Jvm.ClassFile.FieldType.int)) ({ frames := 21, cells := b, slots := b, locals := 599 })).room s m ([.ref t0, .int p1] : List Value).toArray below meth c H locs cells slots (vx_MQ below (wQ G (wqI Q)) (wXC G wX0) ([.ref t0, .int p1] : List Value).toArray s b b (wA G)) (F0 m 18 ls []) := by
    intro n
    induction n with
    | zero => intro _ _ _ _ _ _ _ _ _ _ _ hp; exact False.elim hp
    | succ n ih => intro x0 x1 x2 x3 M bq H locs ls cells slots hp hM hS hB hl; exact hB18 (L_X2_inspect_18 G Q n) ih _ _ _ _ _ _ _ _ _ _ _ hp hM hS hB hl
  refine lv_aload_n hx hb dX2_inspect_0 rfl (lv_at hl 0 rfl) ?_
  refine x_getA X hC.1 hM (ci := 1) (C := RX2) (T := TX2) (N := 9) rfl in_X2 4 (by decide) q925 (fun _ h9 => h9) dX2_inspect_1 hp (fun a1 hp => ?_)
  obtain ⟨hrec, hp⟩ := hp
  refine x_call0I5 (vx_runF (hC.1.1.1 16 (RJ2, TJ2, 3) rfl).2 (C := "java/util/ArrayList") (As := []) (rest := []) X (P_J2_size_ok (l := l) hl0 hp) (va_cwF 0 hts (lw_app (w_mem4 q493 q496 q498 q153) (lw_meth q500)) rfl rfl rfl (wfw_13 hC.1) (by decide +kernel) ⟨Nat.le_of_ble_eq_true rfl, Nat.le_of_ble_eq_true rfl⟩) ⟨wPc.blind, w_recv hC.1 hM (ci := 16) (q := (RJ2, TJ2, 3)) rfl hrec, w_pre hC hM hS _⟩ rfl rfl hl.1 rfl (lv_room (Nat.le_of_ble_eq_true rfl)) dX2_inspect_4 (w_room0 hB)) hS (w_room0 hB) (fun _ _ _ _ _ _ h => False.elim h) (fun v4 M2 H locs hp hM hS => ?_)
  refine lv_istore_n (lv' := [(2, .int v4), (0, .ref t0), (1, .int p1)]) hx hb dX2_inspect_9 rfl hl (by decide) rfl (fun ls hl => ?_)
  refine lv_aload_n hx hb dX2_inspect_10 rfl (lv_at hl 1 rfl) ?_
  refine x_getA X hC.1 hM (ci := 1) (C := RX2) (T := TX2) (N := 9) rfl in_X2 3 (by decide) q923 (fun _ h9 => h9) dX2_inspect_11 hp (fun a5 hp => ?_)
  obtain ⟨hrec, hp⟩ := hp
  obtain ⟨c7, hc1, hp⟩ := hp
  refine x_callR (vx_runU (As := []) (rest := []) X (P_J7_iterator_J8_ok (l := l) hl0 hp) (va_cwU 0 hts (lw_app (w_mem5 q1699 q1700 q1702 q1703 q159) (lw_meth q1704)) rfl rfl rfl rfl (by decide +kernel) ⟨Nat.le_of_ble_eq_true rfl, Nat.le_of_ble_eq_true rfl⟩) ⟨wPc.blind, w_recv hC.1 hM (ci := 17) (q := (RJ8, TJ8, 4)) rfl hrec, w_pre hC hM hS _⟩ rfl rfl hl.1 rfl (lv_room (Nat.le_of_ble_eq_true rfl)) dX2_inspect_14 (w_room hB hc1)) hS hB hc1 (fun _ _ _ _ _ _ h => False.elim h) (fun r8 M6 H locs hp hM hS hB => ?_)
  refine x_astore_n (r := r8) (lv' := [(3, va_rf r8), (2, .int v4), (0, .ref t0), (1, .int p1)]) hx hb dX2_inspect_17 rfl hl (by decide) rfl (fun ls hl => ?_)
  obtain ⟨n, hp⟩ := hp
  exact hL18 n _ _ _ _ _ _ _ _ _ _ _ hp hM hS hB (lv_sub hl [2, 3, 1, 0] rfl)
def P_X1_inspect (G : wG) (t0 : Nat) (p1 : Int32) (b : Nat) (M : wM) (Q : Int32 → wM → Prop) (Xp : String → Nat → wM → Prop) : Prop :=
  oIs M t0 0 (∃ c2, c2 ≤ b ∧ P_X1_checkStreet G t0 p1 c2 M (fun M1 => oIs M1 t0 0 (∃ c4, c4 ≤ (b - c2) ∧ P_X1_remember G t0 c4 M1 (fun M3 => oGetA M3 t0 0 0 (fun a5 => oIs M3 a5 1 (∃ c7, c7 ≤ ((b - c2) - c4) ∧ P_X2_inspect G a5 p1 c7 M3 (fun v8 M6 => Q v8 M6)))))) (fun E q9 M10 => (E = "java/lang/IndexOutOfBoundsException" ∧ Xp E q9 M10)))
set_option maxHeartbeats 4000000 in
set_option maxRecDepth 100000 in
theorem P_X1_inspect_ok {l : Launch} (hl0 : l.stackTraces = false) {G : wG} {t0 : Nat} {p1 : Int32} {b : Nat} {M : wM} {Q : Int32 → wM → Prop} {Xp : String → Nat → wM → Prop} (hp : P_X1_inspect G t0 p1 b M Q Xp) : wMet l yX1_inspect (ws_ yX1_inspect cX1_inspect 2 (Option.some Jvm.ClassFile.FieldType.int)) 22 624 G [.ref t0, .int p1] M b (wqI Q) Xp := by
  refine vx_ofW (cc := cX1_inspect) (maxL := 2) (ret := Option.some Jvm.ClassFile.FieldType.int) (by decide) rfl ?_
  intro p e s m args below meth c s₁ B hml hnt hv
  obtain ⟨rfl, hM, hK, hZ, hz⟩ := hv
  have hC : wC G s := ⟨hK, hZ, hz⟩
  have hx := B.exec
  have hb := B.bytes
  have hr := B.returns
  have hts := atoms_spec (ws := (ws_ yX1_inspect cX1_inspect 2 (Option.some Jvm.ClassFile.FieldType.int))) B.pre
  have hts : ∀ w ∈ lw_all, w.before _ s = true := fun w h => hts w (List.mem_cons_of_mem _ h)
  have hown : s.vm.findClass RX1 = some m.cls := findClass_of_methodNamed B.named
  have hlk := B.notSynchronized
  have X : CallFix p m c cX1_inspect 2 s ([.ref t0, .int p1] : List Value).toArray lw_all RX1 := ⟨hx, hb, hml, hown, hts⟩
  have hS : va_S (wA G) s.heap s.heap [] := va_S.rf
  have hl := lv_entry ([.ref t0, .int p1]) (n := 2) (Nat.le_of_ble_eq_true rfl)
  rw [lg_entry_eq]
  generalize (lg_sl ([.ref t0, .int p1]) ++ List.replicate (2 - (lg_sl ([.ref t0, .int p1])).length) Slot.unset).toArray = ls at hl ⊢
  have hl : lv_has ls 2 [(0, .ref t0), (1, .int p1)] := hl
  have hB : 0 + b ≤ ((headSpec (ws_ yX1_inspect cX1_inspect 2 (Option.some Jvm.ClassFile.FieldType.int)) ({ frames := 22, cells := b, slots := b, locals := 624 })).room).cells ∧ 0 + b ≤ ((headSpec (ws_ yX1_inspect cX1_inspect 2 (Option.some Jvm.ClassFile.FieldType.int)) ({ frames := 22, cells := b, slots := b, locals := 624 })).room).slots := ⟨Nat.le_of_eq (Nat.zero_add b), Nat.le_of_eq (Nat.zero_add b)⟩
  refine lv_aload_n hx hb dX1_inspect_0 rfl (lv_at hl 0 rfl) ?_
  refine lv_iload_n hx hb dX1_inspect_1 rfl (lv_at hl 1 rfl) ?_
  obtain ⟨hrec, hp⟩ := hp
  obtain ⟨c2, hc1, hp⟩ := hp
  refine x_callV (vx_runV (As := [.int p1]) (rest := []) X (P_X1_checkStreet_ok (l := l) hl0 hp) (cwV 1 hts (lw_V q2225 q2227 qs37 q148 q2228) rfl rfl rfl (by decide +kernel) ⟨Nat.le_of_ble_eq_true rfl, Nat.le_of_ble_eq_true rfl⟩) ⟨wPc.blind, w_recv hC.1 hM (ci := 0) (q := (RX1, TX1, 8)) rfl hrec, w_pre hC hM hS _⟩ rfl rfl hl.1 rfl (lv_room (Nat.le_of_ble_eq_true rfl)) dX1_inspect_2 (w_room hB hc1)) hS hB hc1 (fun E ce q9 M10 H locs hp hM hS hB hcell hcv hcl => ?_) (fun M1 H locs hp hM hS hB => ?_)
  · obtain ⟨rfl, hp⟩ := hp
    exact x_out hlk (fun x h => (hnt x h).elim) hM hS (w_fin hB) hcell hcv hcl hp
  · refine lv_aload_n hx hb dX1_inspect_5 rfl (lv_at hl 0 rfl) ?_
    obtain ⟨hrec, hp⟩ := hp
    obtain ⟨c4, hc1, hp⟩ := hp
    refine x_callV (vx_runV (As := []) (rest := []) X (P_X1_remember_ok (l := l) hl0 hp) (cwV 0 hts (lw_V q2543 q2545 qs49 q148 q2546) rfl rfl rfl (by decide +kernel) ⟨Nat.le_of_ble_eq_true rfl, Nat.le_of_ble_eq_true rfl⟩) ⟨wPc.blind, w_recv hC.1 hM (ci := 0) (q := (RX1, TX1, 8)) rfl hrec, w_pre hC hM hS _⟩ rfl rfl hl.1 rfl (lv_room (Nat.le_of_ble_eq_true rfl)) dX1_inspect_6 (w_room hB hc1)) hS hB hc1 (fun _ _ _ _ _ _ h => False.elim h) (fun M3 H locs hp hM hS hB => ?_)
    refine lv_aload_n hx hb dX1_inspect_9 rfl (lv_at hl 0 rfl) ?_
    refine x_getA X hC.1 hM (ci := 0) (C := RX1) (T := TX1) (N := 8) rfl in_X1 0 (by decide) q973 (fun _ h9 => h9) dX1_inspect_10 hp (fun a5 hp => ?_)
    refine lv_iload_n hx hb dX1_inspect_13 rfl (lv_at hl 1 rfl) ?_
    obtain ⟨hrec, hp⟩ := hp
    obtain ⟨c7, hc1, hp⟩ := hp
    refine x_callI (vx_runV (As := [.int p1]) (rest := []) X (P_X2_inspect_ok (l := l) hl0 hp) (cwV 1 hts (lw_V q2882 q2883 q2884 q149 q2885) rfl rfl rfl (by decide +kernel) ⟨Nat.le_of_ble_eq_true rfl, Nat.le_of_ble_eq_true rfl⟩) ⟨wPc.blind, w_recv hC.1 hM (ci := 1) (q := (RX2, TX2, 9)) rfl hrec, w_pre hC hM hS _⟩ rfl rfl hl.1 rfl (lv_room (Nat.le_of_ble_eq_true rfl)) dX1_inspect_14 (w_room hB hc1)) hS hB hc1 (fun _ _ _ _ _ _ h => False.elim h) (fun v8 M6 H locs hp hM hS hB => ?_)
    exact x_iret X hr hlk hM hS (w_fin hB) dX1_inspect_17 ⟨_, rfl, hp⟩
def B_J8_unlink_64 (G : wG) (Q : Option Nat → wM → Prop) (x0 : Nat) (x1 : Nat) (x2 : Option Nat) (M : wM) : Prop :=
  oPut G M x1 18 0 (va_rf none) (fun M1 => oGetI M1 x0 17 1 (fun v2 => oPut G M1 x0 17 1 (.int (v2 - (1 : Int32))) (fun M3 => oGetI M3 x0 17 0 (fun v4 => oPut G M3 x0 17 0 (.int (v4 + (1 : Int32))) (fun M5 => Q x2 M5)))))
def B_J8_unlink_40 (G : wG) (Q : Option Nat → wM → Prop) (x0 : Nat) (x1 : Nat) (x2 : Option Nat) (x3 : Option Nat) (x4 : Option Nat) (M : wM) : Prop :=
  oNull x3 (oPut G M x0 17 3 (va_rf x4) (fun M2 => B_J8_unlink_64 G Q x0 x1 x2 M2)) (fun a1 => oPut G M a1 18 2 (va_rf x4) (fun M3 => oPut G M3 x1 18 1 (va_rf none) (fun M4 => B_J8_unlink_64 G Q x0 x1 x2 M4)))
def P_J8_unlink (G : wG) (t0 : Nat) (p1 : Option Nat) (M : wM) (Q : Option Nat → wM → Prop) : Prop :=
  oRef p1 (fun a1 => oGetR M a1 18 0 (fun r2 => oGetR M a1 18 1 (fun r3 => oGetR M a1 18 2 (fun r4 => oNull r4 (oPut G M t0 17 2 (va_rf r3) (fun M6 => B_J8_unlink_40 G Q t0 a1 r2 r3 none M6)) (fun a5 => oPut G M a5 18 1 (va_rf r3) (fun M7 => oPut G M7 a1 18 2 (va_rf none) (fun M8 => B_J8_unlink_40 G Q t0 a1 r2 r3 (some a5) M8)))))))
set_option maxHeartbeats 4000000 in
set_option maxRecDepth 100000 in
theorem P_J8_unlink_ok {l : Launch} (hl0 : l.stackTraces = false) {G : wG} {t0 : Nat} {p1 : Option Nat} {M : wM} {Q : Option Nat → wM → Prop} (hp : P_J8_unlink G t0 p1 M Q) : wMet l yJ8_unlink (ws_ yJ8_unlink cJ8_unlink 5 (Option.some (Jvm.ClassFile.FieldType.object "java/lang/Object"))) 12 400 G [.ref t0, va_rf p1] M 0 (wqR Q) wX0 := by
  refine vx_ofW (cc := cJ8_unlink) (maxL := 5) (ret := Option.some (Jvm.ClassFile.FieldType.object "java/lang/Object")) (by decide) rfl ?_
  intro p e s m args below meth c s₁ B hml hnt hv
  obtain ⟨rfl, hM, hK, hZ, hz⟩ := hv
  have hC : wC G s := ⟨hK, hZ, hz⟩
  have hx := B.exec
  have hb := B.bytes
  have hr := B.returns
  have hts := atoms_spec (ws := (ws_ yJ8_unlink cJ8_unlink 5 (Option.some (Jvm.ClassFile.FieldType.object "java/lang/Object")))) B.pre
  have hts : ∀ w ∈ lw_all, w.before _ s = true := fun w h => hts w (List.mem_cons_of_mem _ h)
  have hown : s.vm.findClass RJ8 = some m.cls := findClass_of_methodNamed B.named
  have hlk := B.notSynchronized
  have X : CallFix p m c cJ8_unlink 5 s ([.ref t0, va_rf p1] : List Value).toArray lw_all RJ8 := ⟨hx, hb, hml, hown, hts⟩
  have hS : va_S (wA G) s.heap s.heap [] := va_S.rf
  have hl := lv_entry ([.ref t0, va_rf p1]) (n := 5) (by cases p1 <;> exact Nat.le_of_ble_eq_true rfl)
  rw [lg_entry_eq]
  generalize (lg_sl ([.ref t0, va_rf p1]) ++ List.replicate (5 - (lg_sl ([.ref t0, va_rf p1])).length) Slot.unset).toArray = ls at hl ⊢
  have hl : lv_has ls 5 [(0, .ref t0), (1, va_rf p1)] := by cases p1 <;> exact hl
  have hB64 : ∀ (x0 : Nat) (x1 : Nat) (x2 : Option Nat) (M : wM) (H : Heap) (locs : List Loc) (ls : Array Slot), B_J8_unlink_64 G Q x0 x1 x2 M → wR G M H → va_S (wA G) s.heap H locs → lv_has ls 5 [(0, .ref x0), (1, .ref x1), (2, va_rf x2)] → W p l e (headSpec (ws_ yJ8_unlink cJ8_unlink 5 (Option.some (Jvm.ClassFile.FieldType.object "java/lang/Object"))) ({ frames := 12, cells := 0, slots := 0, locals := 400 })).room s m ([.ref t0, va_rf p1] : List Value).toArray below meth c H locs 0 0 (vx_MQ below (wQ G (wqR Q)) (wXC G wX0) ([.ref t0, va_rf p1] : List Value).toArray s 0 0 (wA G)) (F0 m 64 ls []) := by
    intro x0 x1 x2 M H locs ls hp hM hS hl
    refine lv_aload_n hx hb dJ8_unlink_64 rfl (lv_at hl 1 rfl) ?_
    refine lv_null hx hb dJ8_unlink_65 ?_
    refine x_put X hC.1 hM hS (ci := 18) (C := RJ6) (T := TJ6) (N := 3) rfl in_J6 tyJ6 tyJ6_ok nmJ6 0 (by decide) q381 (fun _ h9 => h9) rfl (w_nobj _ none) (w_fobj _ none) dJ8_unlink_66 hp (fun M1 H locs hM hS hp => ?_)
    refine lv_aload_n hx hb dJ8_unlink_69 rfl (lv_at hl 0 rfl) ?_
    refine lv_dup hx hb dJ8_unlink_70 rfl ?_
    refine x_getI X hC.1 hM (ci := 17) (C := RJ8) (T := TJ8) (N := 4) rfl in_J8 1 (by decide) q456 (fun _ h9 => h9) dJ8_unlink_71 hp (fun v2 hp => ?_)
    refine lv_iconst (v := 1) hx hb dJ8_unlink_74 (by decide) ?_
    refine lv_isub hx hb dJ8_unlink_75 ?_
    refine x_put X hC.1 hM hS (ci := 17) (C := RJ8) (T := TJ8) (N := 4) rfl in_J8 tyJ8 tyJ8_ok nmJ8 1 (by decide) q456 (fun _ h9 => h9) rfl rfl rfl dJ8_unlink_76 hp (fun M3 H locs hM hS hp => ?_)
    refine lv_aload_n hx hb dJ8_unlink_79 rfl (lv_at hl 0 rfl) ?_
    refine lv_dup hx hb dJ8_unlink_80 rfl ?_
    refine x_getI X hC.1 hM (ci := 17) (C := RJ8) (T := TJ8) (N := 4) rfl in_J8 0 (by decide) q252 (fun x9 h9 => u_same (hts _ q248) x9 h9) dJ8_unlink_81 hp (fun v4 hp => ?_)
    refine lv_iconst (v := 1) hx hb dJ8_unlink_84 (by decide) ?_
    refine lv_iadd hx hb dJ8_unlink_85 ?_
    refine x_put X hC.1 hM hS (ci := 17) (C := RJ8) (T := TJ8) (N := 4) rfl in_J8 tyJ8 tyJ8_ok nmJ8 0 (by decide) q252 (fun x9 h9 => u_same (hts _ q248) x9 h9) rfl rfl rfl dJ8_unlink_86 hp (fun M5 H locs hM hS hp => ?_)
    refine x_aload_n (r := x2) hx hb dJ8_unlink_89 rfl (lv_at hl 2 rfl) ?_
    exact x_aret (v := x2) X hr (by first | exact Or.inl ⟨_, rfl⟩ | exact Or.inr ⟨_, rfl⟩) hlk hM hS ⟨Nat.le_refl _, Nat.le_refl _⟩ dJ8_unlink_90 ⟨x2, rfl, hp⟩
  have hB40 : ∀ (x0 : Nat) (x1 : Nat) (x2 : Option Nat) (x3 : Option Nat) (x4 : Option Nat) (M : wM) (H : Heap) (locs : List Loc) (ls : Array Slot), B_J8_unlink_40 G Q x0 x1 x2 x3 x4 M → wR G M H → va_S (wA G) s.heap H locs → lv_has ls 5 [(0, .ref x0), (1, .ref x1), (2, va_rf x2), (3, va_rf x3), (4, va_rf x4)] → W p l e (headSpec (ws_ yJ8_unlink cJ8_unlink 5 (Option.some (Jvm.ClassFile.FieldType.object "java/lang/Object"))) ({ frames := 12, cells := 0, slots := 0, locals := 400 })).room s m ([.ref t0, va_rf p1] : List Value).toArray below meth c H locs 0 0 (vx_MQ below (wQ G (wqR Q)) (wXC G wX0) ([.ref t0, va_rf p1] : List Value).toArray s 0 0 (wA G)) (F0 m 40 ls []) := by
    intro x0 x1 x2 x3 x4 M H locs ls hp hM hS hl
    refine x_aload_n (r := x3) hx hb dJ8_unlink_40 rfl (lv_at hl 3 rfl) ?_
    refine x_ifnonnull (r := x3) (tgt := 53) hx hb dJ8_unlink_41 (by decide) (fun a1 hc => ?_) (fun hc => ?_)
    · have hqa1 := oNull.f hp hc
      subst hc
      have hp := hqa1
      have hl : lv_has ls 5 [(0, .ref x0), (1, .ref x1), (2, va_rf x2), (3, .ref a1), (4, va_rf x4)] := hl
      refine lv_aload_n hx hb dJ8_unlink_53 rfl (lv_at hl 3 rfl) ?_
      refine x_aload (r := x4) hx hb dJ8_unlink_54 (lv_at hl 4 rfl) ?_
      refine x_put X hC.1 hM hS (ci := 18) (C := RJ6) (T := TJ6) (N := 3) rfl in_J6 tyJ6 tyJ6_ok nmJ6 2 (by decide) q386 (fun _ h9 => h9) rfl (w_nobj _ x4) (w_fobj _ x4) dJ8_unlink_56 hp (fun M3 H locs hM hS hp => ?_)
      refine lv_aload_n hx hb dJ8_unlink_59 rfl (lv_at hl 1 rfl) ?_
      refine lv_null hx hb dJ8_unlink_60 ?_
      refine x_put X hC.1 hM hS (ci := 18) (C := RJ6) (T := TJ6) (N := 3) rfl in_J6 tyJ6 tyJ6_ok nmJ6 1 (by decide) q384 (fun _ h9 => h9) rfl (w_nobj _ none) (w_fobj _ none) dJ8_unlink_61 hp (fun M4 H locs hM hS hp => ?_)
      exact hB64 _ _ _ _ _ _ _ hp hM hS (lv_sub hl [0, 1, 2] rfl)
    · have hqa1 := oNull.t hp hc
      subst hc
      have hp := hqa1
      have hl : lv_has ls 5 [(0, .ref x0), (1, .ref x1), (2, va_rf x2), (3, va_rf none), (4, va_rf x4)] := hl
      refine lv_aload_n hx hb dJ8_unlink_44 rfl (lv_at hl 0 rfl) ?_
      refine x_aload (r := x4) hx hb dJ8_unlink_45 (lv_at hl 4 rfl) ?_
      refine x_put X hC.1 hM hS (ci := 17) (C := RJ8) (T := TJ8) (N := 4) rfl in_J8 tyJ8 tyJ8_ok nmJ8 3 (by decide) q459 (fun _ h9 => h9) rfl (w_nobj _ x4) (w_fobj _ x4) dJ8_unlink_47 hp (fun M2 H locs hM hS hp => ?_)
      refine lv_goto (tgt := 64) hx hb dJ8_unlink_50 (by decide) ?_
      exact hB64 _ _ _ _ _ _ _ hp hM hS (lv_sub hl [0, 1, 2] rfl)
  refine x_aload_n (r := p1) hx hb dJ8_unlink_0 rfl (lv_at hl 1 rfl) ?_
  obtain ⟨a1, ea, hqa1⟩ := hp
  subst ea
  have hp := hqa1
  have hl : lv_has ls 5 [(0, .ref t0), (1, .ref a1)] := hl
  refine x_getR X hC.1 hM (ci := 18) (C := RJ6) (T := TJ6) (N := 3) rfl in_J6 0 (by decide) q381 (fun _ h9 => h9) dJ8_unlink_1 hp (fun r2 hp => ?_)
  refine x_astore_n (r := r2) (lv' := [(2, va_rf r2), (0, .ref t0), (1, .ref a1)]) hx hb dJ8_unlink_4 rfl hl (by decide) rfl (fun ls hl => ?_)
  refine lv_aload_n hx hb dJ8_unlink_5 rfl (lv_at hl 2 rfl) ?_
  refine x_getR X hC.1 hM (ci := 18) (C := RJ6) (T := TJ6) (N := 3) rfl in_J6 1 (by decide) q384 (fun _ h9 => h9) dJ8_unlink_6 hp (fun r3 hp => ?_)
  refine x_astore_n (r := r3) (lv' := [(3, va_rf r3), (2, va_rf r2), (0, .ref t0), (1, .ref a1)]) hx hb dJ8_unlink_9 rfl hl (by decide) (by cases r2 <;> rfl) (fun ls hl => ?_)
  refine lv_aload_n hx hb dJ8_unlink_10 rfl (lv_at hl 3 rfl) ?_
  refine x_getR X hC.1 hM (ci := 18) (C := RJ6) (T := TJ6) (N := 3) rfl in_J6 2 (by decide) q386 (fun _ h9 => h9) dJ8_unlink_11 hp (fun r4 hp => ?_)
  refine x_astore (r := r4) (lv' := [(4, va_rf r4), (3, va_rf r3), (2, va_rf r2), (0, .ref t0), (1, .ref a1)]) hx hb dJ8_unlink_14 hl (by decide) (by cases r3 <;> rfl) (fun ls hl => ?_)
  refine x_aload (r := r4) hx hb dJ8_unlink_16 (lv_at hl 0 rfl) ?_
  refine x_ifnonnull (r := r4) (tgt := 29) hx hb dJ8_unlink_18 (by decide) (fun a5 hc => ?_) (fun hc => ?_)
  · have hqa5 := oNull.f hp hc
    subst hc
    have hp := hqa5
    have hl : lv_has ls 5 [(4, .ref a5), (3, va_rf r3), (2, va_rf r2), (0, .ref t0), (1, .ref a1)] := hl
    refine lv_aload hx hb dJ8_unlink_29 (lv_at hl 0 rfl) ?_
    refine x_aload_n (r := r3) hx hb dJ8_unlink_31 rfl (lv_at hl 1 rfl) ?_
    refine x_put X hC.1 hM hS (ci := 18) (C := RJ6) (T := TJ6) (N := 3) rfl in_J6 tyJ6 tyJ6_ok nmJ6 1 (by decide) q384 (fun _ h9 => h9) rfl (w_nobj _ r3) (w_fobj _ r3) dJ8_unlink_32 hp (fun M7 H locs hM hS hp => ?_)
    refine lv_aload_n hx hb dJ8_unlink_35 rfl (lv_at hl 4 rfl) ?_
    refine lv_null hx hb dJ8_unlink_36 ?_
    refine x_put X hC.1 hM hS (ci := 18) (C := RJ6) (T := TJ6) (N := 3) rfl in_J6 tyJ6 tyJ6_ok nmJ6 2 (by decide) q386 (fun _ h9 => h9) rfl (w_nobj _ none) (w_fobj _ none) dJ8_unlink_37 hp (fun M8 H locs hM hS hp => ?_)
    exact hB40 _ _ _ _ _ _ _ _ _ hp hM hS (lv_sub hl [3, 4, 2, 1, 0] rfl)
  · have hqa5 := oNull.t hp hc
    subst hc
    have hp := hqa5
    have hl : lv_has ls 5 [(4, va_rf none), (3, va_rf r3), (2, va_rf r2), (0, .ref t0), (1, .ref a1)] := hl
    refine lv_aload_n hx hb dJ8_unlink_21 rfl (lv_at hl 3 rfl) ?_
    refine x_aload_n (r := r3) hx hb dJ8_unlink_22 rfl (lv_at hl 1 rfl) ?_
    refine x_put X hC.1 hM hS (ci := 17) (C := RJ8) (T := TJ8) (N := 4) rfl in_J8 tyJ8 tyJ8_ok nmJ8 2 (by decide) q458 (fun _ h9 => h9) rfl (w_nobj _ r3) (w_fobj _ r3) dJ8_unlink_23 hp (fun M6 H locs hM hS hp => ?_)
    refine lv_goto (tgt := 40) hx hb dJ8_unlink_26 (by decide) ?_
    exact hB40 _ _ _ _ _ _ _ _ _ hp hM hS (lv_sub hl [3, 4, 2, 1, 0] rfl)
def B_J36_remove_68 (G : wG) (Q : wM → Prop) (x0 : Nat) (M : wM) : Prop :=
  oPut G M x0 19 0 (va_rf none) (fun M1 => oGetI M1 x0 19 3 (fun v2 => oPut G M1 x0 19 3 (.int (v2 + (1 : Int32))) (fun M3 => Q M3)))
def P_J36_remove (G : wG) (t0 : Nat) (M : wM) (Q : wM → Prop) : Prop :=
  oIs M t0 19 (P_J36_checkForComodification G t0 M (fun M1 => oGetR M1 t0 19 0 (fun r3 => oNull r3 (False) (fun a4 => oGetR M1 t0 19 0 (fun r5 => oRef r5 (fun a6 => oGetR M1 a6 18 1 (fun r7 => oGetA M1 t0 19 4 (fun a8 => oGetR M1 t0 19 0 (fun r9 => oIs M1 a8 17 (P_J8_unlink G a8 r9 M1 (fun r12 M10 => oGetR M10 t0 19 1 (fun r13 => oGetR M10 t0 19 0 (fun r14 => oIf (r13 = r14) (oPut G M10 t0 19 1 (va_rf r7) (fun M17 => B_J36_remove_68 G Q t0 M17)) (oGetI M10 t0 19 2 (fun v15 => oPut G M10 t0 19 2 (.int (v15 - (1 : Int32))) (fun M16 => B_J36_remove_68 G Q t0 M16))))))))))))))))
set_option maxHeartbeats 4000000 in
set_option maxRecDepth 100000 in
theorem P_J36_remove_ok {l : Launch} (hl0 : l.stackTraces = false) {G : wG} {t0 : Nat} {M : wM} {Q : wM → Prop} (hp : P_J36_remove G t0 M Q) : wMet l yJ36_remove (ws_ yJ36_remove cJ36_remove 2 (none)) 13 424 G [.ref t0] M 0 (wqV Q) wX0 := by
  refine vx_ofW (cc := cJ36_remove) (maxL := 2) (ret := none) (by decide) rfl ?_
  intro p e s m args below meth c s₁ B hml hnt hv
  obtain ⟨rfl, hM, hK, hZ, hz⟩ := hv
  have hC : wC G s := ⟨hK, hZ, hz⟩
  have hx := B.exec
  have hb := B.bytes
  have hr := B.returns
  have hts := atoms_spec (ws := (ws_ yJ36_remove cJ36_remove 2 (none))) B.pre
  have hts : ∀ w ∈ lw_all, w.before _ s = true := fun w h => hts w (List.mem_cons_of_mem _ h)
  have hown : s.vm.findClass RJ36 = some m.cls := findClass_of_methodNamed B.named
  have hlk := B.notSynchronized
  have X : CallFix p m c cJ36_remove 2 s ([.ref t0] : List Value).toArray lw_all RJ36 := ⟨hx, hb, hml, hown, hts⟩
  have hS : va_S (wA G) s.heap s.heap [] := va_S.rf
  have hl := lv_entry ([.ref t0]) (n := 2) (Nat.le_of_ble_eq_true rfl)
  rw [lg_entry_eq]
  generalize (lg_sl ([.ref t0]) ++ List.replicate (2 - (lg_sl ([.ref t0])).length) Slot.unset).toArray = ls at hl ⊢
  have hl : lv_has ls 2 [(0, .ref t0)] := hl
  have hB68 : ∀ (x0 : Nat) (M : wM) (H : Heap) (locs : List Loc) (ls : Array Slot), B_J36_remove_68 G Q x0 M → wR G M H → va_S (wA G) s.heap H locs → lv_has ls 2 [(0, .ref x0)] → W p l e (headSpec (ws_ yJ36_remove cJ36_remove 2 (none)) ({ frames := 13, cells := 0, slots := 0, locals := 424 })).room s m ([.ref t0] : List Value).toArray below meth c H locs 0 0 (vx_MQ below (wQ G (wqV Q)) (wXC G wX0) ([.ref t0] : List Value).toArray s 0 0 (wA G)) (F0 m 68 ls []) := by
    intro x0 M H locs ls hp hM hS hl
    refine lv_aload_n hx hb dJ36_remove_68 rfl (lv_at hl 0 rfl) ?_
    refine lv_null hx hb dJ36_remove_69 ?_
    refine x_put X hC.1 hM hS (ci := 19) (C := RJ36) (T := TJ36) (N := 5) rfl in_J36 tyJ36 tyJ36_ok nmJ36 0 (by decide) q1771 (fun _ h9 => h9) rfl (w_nobj _ none) (w_fobj _ none) dJ36_remove_70 hp (fun M1 H locs hM hS hp => ?_)
    refine lv_aload_n hx hb dJ36_remove_73 rfl (lv_at hl 0 rfl) ?_
    refine lv_dup hx hb dJ36_remove_74 rfl ?_
    refine x_getI X hC.1 hM (ci := 19) (C := RJ36) (T := TJ36) (N := 5) rfl in_J36 3 (by decide) q1774 (fun _ h9 => h9) dJ36_remove_75 hp (fun v2 hp => ?_)
    refine lv_iconst (v := 1) hx hb dJ36_remove_78 (by decide) ?_
    refine lv_iadd hx hb dJ36_remove_79 ?_
    refine x_put X hC.1 hM hS (ci := 19) (C := RJ36) (T := TJ36) (N := 5) rfl in_J36 tyJ36 tyJ36_ok nmJ36 3 (by decide) q1774 (fun _ h9 => h9) rfl rfl rfl dJ36_remove_80 hp (fun M3 H locs hM hS hp => ?_)
    exact x_vret X hr hlk hM hS ⟨Nat.le_refl _, Nat.le_refl _⟩ dJ36_remove_83 ⟨rfl, hp⟩
  refine lv_aload_n hx hb dJ36_remove_0 rfl (lv_at hl 0 rfl) ?_
  obtain ⟨hrec, hp⟩ := hp
  refine x_call0V (vx_runV (As := []) (rest := []) X (P_J36_checkForComodification_ok (l := l) hl0 hp) (cwV 0 hts (lw_V q1957 q1958 q1959 q195 q1960) rfl rfl rfl (by decide +kernel) ⟨Nat.le_of_ble_eq_true rfl, Nat.le_of_ble_eq_true rfl⟩) ⟨wPc.blind, w_recv hC.1 hM (ci := 19) (q := (RJ36, TJ36, 5)) rfl hrec, w_pre hC hM hS _⟩ rfl rfl hl.1 rfl (lv_room (Nat.le_of_ble_eq_true rfl)) dJ36_remove_1 ⟨Nat.le_refl _, Nat.le_refl _⟩) hS ⟨Nat.le_refl _, Nat.le_refl _⟩ (fun _ _ _ _ _ _ h => False.elim h) (fun M1 H locs hp hM hS => ?_)
  refine lv_aload_n hx hb dJ36_remove_4 rfl (lv_at hl 0 rfl) ?_
  refine x_getR X hC.1 hM (ci := 19) (C := RJ36) (T := TJ36) (N := 5) rfl in_J36 0 (by decide) q1771 (fun _ h9 => h9) dJ36_remove_5 hp (fun r3 hp => ?_)
  refine x_ifnonnull (r := r3) (tgt := 19) hx hb dJ36_remove_8 (by decide) (fun a4 hc => ?_) (fun hc => ?_)
  · have hqa4 := oNull.f hp hc
    subst hc
    have hp := hqa4
    refine lv_aload_n hx hb dJ36_remove_19 rfl (lv_at hl 0 rfl) ?_
    refine x_getR X hC.1 hM (ci := 19) (C := RJ36) (T := TJ36) (N := 5) rfl in_J36 0 (by decide) q1771 (fun _ h9 => h9) dJ36_remove_20 hp (fun r5 hp => ?_)
    obtain ⟨a6, ea, hqa6⟩ := hp
    subst ea
    have hp := hqa6
    refine x_getR X hC.1 hM (ci := 18) (C := RJ6) (T := TJ6) (N := 3) rfl in_J6 1 (by decide) q383 (fun _ h9 => h9) dJ36_remove_23 hp (fun r7 hp => ?_)
    refine x_astore_n (r := r7) (lv' := [(1, va_rf r7), (0, .ref t0)]) hx hb dJ36_remove_26 rfl hl (by decide) rfl (fun ls hl => ?_)
    refine lv_aload_n hx hb dJ36_remove_27 rfl (lv_at hl 1 rfl) ?_
    refine x_getA X hC.1 hM (ci := 19) (C := RJ36) (T := TJ36) (N := 5) rfl in_J36 4 (by decide) q1775 (fun _ h9 => h9) dJ36_remove_28 hp (fun a8 hp => ?_)
    refine lv_aload_n hx hb dJ36_remove_31 rfl (lv_at hl 1 rfl) ?_
    refine x_getR X hC.1 hM (ci := 19) (C := RJ36) (T := TJ36) (N := 5) rfl in_J36 0 (by decide) q1771 (fun _ h9 => h9) dJ36_remove_32 hp (fun r9 hp => ?_)
    obtain ⟨hrec, hp⟩ := hp
    refine x_call0R (vx_runV (As := [va_rf r9]) (rest := []) X (P_J8_unlink_ok (l := l) hl0 hp) (cwV 1 hts (lw_V q2874 q2831 q2832 q160 q2833) rfl rfl rfl (by decide +kernel) ⟨Nat.le_of_ble_eq_true rfl, Nat.le_of_ble_eq_true rfl⟩) ⟨wPc.blind, w_recv hC.1 hM (ci := 17) (q := (RJ8, TJ8, 4)) rfl hrec, w_pre hC hM hS _⟩ rfl rfl hl.1 rfl (lv_room (Nat.le_of_ble_eq_true rfl)) dJ36_remove_35 ⟨Nat.le_refl _, Nat.le_refl _⟩) hS ⟨Nat.le_refl _, Nat.le_refl _⟩ (fun _ _ _ _ _ _ h => False.elim h) (fun r12 M10 H locs hp hM hS => ?_)
    refine lv_pop hx hb dJ36_remove_38 (w_cat _) ?_
    refine lv_aload_n hx hb dJ36_remove_39 rfl (lv_at hl 1 rfl) ?_
    refine x_getR X hC.1 hM (ci := 19) (C := RJ36) (T := TJ36) (N := 5) rfl in_J36 1 (by decide) q1772 (fun _ h9 => h9) dJ36_remove_40 hp (fun r13 hp => ?_)
    refine lv_aload_n hx hb dJ36_remove_43 rfl (lv_at hl 1 rfl) ?_
    refine x_getR X hC.1 hM (ci := 19) (C := RJ36) (T := TJ36) (N := 5) rfl in_J36 0 (by decide) q1771 (fun _ h9 => h9) dJ36_remove_44 hp (fun r14 hp => ?_)
    refine lv_acmp_ne (rx := r13) (ry := r14) (tgt := 58) hx hb dJ36_remove_47 (by decide) (fun hc => ?_) (fun hc => ?_)
    · have hp := oIf.f hp hc
      refine lv_aload_n hx hb dJ36_remove_58 rfl (lv_at hl 1 rfl) ?_
      refine lv_dup hx hb dJ36_remove_59 rfl ?_
      refine x_getI X hC.1 hM (ci := 19) (C := RJ36) (T := TJ36) (N := 5) rfl in_J36 2 (by decide) q1773 (fun _ h9 => h9) dJ36_remove_60 hp (fun v15 hp => ?_)
      refine lv_iconst (v := 1) hx hb dJ36_remove_63 (by decide) ?_
      refine lv_isub hx hb dJ36_remove_64 ?_
      refine x_put X hC.1 hM hS (ci := 19) (C := RJ36) (T := TJ36) (N := 5) rfl in_J36 tyJ36 tyJ36_ok nmJ36 2 (by decide) q1773 (fun _ h9 => h9) rfl rfl rfl dJ36_remove_65 hp (fun M16 H locs hM hS hp => ?_)
      exact hB68 _ _ _ _ _ hp hM hS (lv_sub hl [1] rfl)
    · have hp := oIf.t hp hc
      refine lv_aload_n hx hb dJ36_remove_50 rfl (lv_at hl 1 rfl) ?_
      refine x_aload_n (r := r7) hx hb dJ36_remove_51 rfl (lv_at hl 0 rfl) ?_
      refine x_put X hC.1 hM hS (ci := 19) (C := RJ36) (T := TJ36) (N := 5) rfl in_J36 tyJ36 tyJ36_ok nmJ36 1 (by decide) q1772 (fun _ h9 => h9) rfl (w_nobj _ r7) (w_fobj _ r7) dJ36_remove_52 hp (fun M17 H locs hM hS hp => ?_)
      refine lv_goto (tgt := 68) hx hb dJ36_remove_55 (by decide) ?_
      exact hB68 _ _ _ _ _ hp hM hS (lv_sub hl [1] rfl)
  · have hqa4 := oNull.t hp hc
    subst hc
    have hp := hqa4
    exact hp.elim
def B_X2_carOf_8 (G : wG) (rec8 : Int32 → Option Nat → wM → Nat → Prop) (Q : Option Nat → wM → Prop) (x1 : Int32) (x2 : Option Nat) (M : wM) (bq : Nat) : Prop :=
  oRef x2 (fun a1 => oIs M a1 19 (P_J36_hasNext G a1 M (fun r4 M2 => oIf (r4 = true) (oIs M2 a1 19 (P_J36_next G a1 M2 (fun r7 M5 => oCast M5 r7 14 (oRef r7 (fun a8 => oGetI M5 a8 14 0 (fun v9 => oIf (v9 = x1) (Q (some a8) M5) (rec8 x1 (some a1) M5 bq))))))) (Q none M2))))
def L_X2_carOf_8 (G : wG) (Q : Option Nat → wM → Prop) : Nat → Int32 → Option Nat → wM → Nat → Prop
  | 0 => fun _ _ _ _ => False
  | n + 1 => B_X2_carOf_8 G (L_X2_carOf_8 G Q n) Q
def P_X2_carOf (G : wG) (t0 : Nat) (p1 : Int32) (b : Nat) (M : wM) (Q : Option Nat → wM → Prop) : Prop :=
  oGetA M t0 1 3 (fun a1 => oIs M a1 17 (∃ c3, c3 ≤ b ∧ P_J7_iterator_J8 G a1 c3 M (fun r4 M2 => ∃ n, L_X2_carOf_8 G Q n p1 r4 M2 (b - c3))))
set_option maxHeartbeats 4000000 in
set_option maxRecDepth 100000 in
theorem P_X2_carOf_ok {l : Launch} (hl0 : l.stackTraces = false) {G : wG} {t0 : Nat} {p1 : Int32} {b : Nat} {M : wM} {Q : Option Nat → wM → Prop} (hp : P_X2_carOf G t0 p1 b M Q) : wMet l yX2_carOf (ws_ yX2_carOf cX2_carOf 4 (Option.some (Jvm.ClassFile.FieldType.object "ParkingOffice$Car"))) 17 506 G [.ref t0, .int p1] M b (wqR Q) wX0 := by
  refine vx_ofW (cc := cX2_carOf) (maxL := 4) (ret := Option.some (Jvm.ClassFile.FieldType.object "ParkingOffice$Car")) (by decide) rfl ?_
  intro p e s m args below meth c s₁ B hml hnt hv
  obtain ⟨rfl, hM, hK, hZ, hz⟩ := hv
  have hC : wC G s := ⟨hK, hZ, hz⟩
  have hx := B.exec
  have hb := B.bytes
  have hr := B.returns
  have hts := atoms_spec (ws := (ws_ yX2_carOf cX2_carOf 4 (Option.some (Jvm.ClassFile.FieldType.object "ParkingOffice$Car")))) B.pre
  have hts : ∀ w ∈ lw_all, w.before _ s = true := fun w h => hts w (List.mem_cons_of_mem _ h)
  have hown : s.vm.findClass RX2 = some m.cls := findClass_of_methodNamed B.named
  have hlk := B.notSynchronized
  have X : CallFix p m c cX2_carOf 4 s ([.ref t0, .int p1] : List Value).toArray lw_all RX2 := ⟨hx, hb, hml, hown, hts⟩
  have hS : va_S (wA G) s.heap s.heap [] := va_S.rf
  have hl := lv_entry ([.ref t0, .int p1]) (n := 4) (Nat.le_of_ble_eq_true rfl)
  rw [lg_entry_eq]
  generalize (lg_sl ([.ref t0, .int p1]) ++ List.replicate (4 - (lg_sl ([.ref t0, .int p1])).length) Slot.unset).toArray = ls at hl ⊢
  have hl : lv_has ls 4 [(0, .ref t0), (1, .int p1)] := hl
  have hB : 0 + b ≤ ((headSpec (ws_ yX2_carOf cX2_carOf 4 (Option.some (Jvm.ClassFile.FieldType.object "ParkingOffice$Car"))) ({ frames := 17, cells := b, slots := b, locals := 506 })).room).cells ∧ 0 + b ≤ ((headSpec (ws_ yX2_carOf cX2_carOf 4 (Option.some (Jvm.ClassFile.FieldType.object "ParkingOffice$Car"))) ({ frames := 17, cells := b, slots := b, locals := 506 })).room).slots := ⟨Nat.le_of_eq (Nat.zero_add b), Nat.le_of_eq (Nat.zero_add b)⟩
  have hB8 : ∀ (rec8 : Int32 → Option Nat → wM → Nat → Prop) (hrec8 : ∀ (x1 : Int32) (x2 : Option Nat) (M : wM) (bq : Nat) (H : Heap) (locs : List Loc) (ls : Array Slot) (cells slots : Nat), rec8 x1 x2 M bq → wR G M H → va_S (wA G) s.heap H locs → (cells + bq ≤ ((headSpec (ws_ yX2_carOf cX2_carOf 4 (Option.some (Jvm.ClassFile.FieldType.object "ParkingOffice$Car"))) ({ frames := 17, cells := b, slots := b, locals := 506 })).room).cells ∧ slots + bq ≤ ((headSpec (ws_ yX2_carOf cX2_carOf 4 (Option.some (Jvm.ClassFile.FieldType.object "ParkingOffice$Car"))) ({ frames := 17, cells := b, slots := b, locals := 506 })).room).slots) → lv_has ls 4 [(1, .int x1), (2, va_rf x2)] → W p l e (headSpec (ws_ yX2_carOf cX2_carOf 4 (Option.some (Jvm.ClassFile.FieldType.object "ParkingOffice$Car"))) ({ frames := 17, cells := b, slots := b, locals := 506 })).room s m ([.ref t0, .int p1] : List Value).toArray below meth c H locs cells slots (vx_MQ below (wQ G (wqR Q)) (wXC G wX0) ([.ref t0, .int p1] : List Value).toArray s b b (wA G)) (F0 m 8 ls [])), ∀ (x1 : Int32) (x2 : Option Nat) (M : wM) (bq : Nat) (H : Heap) (locs : List Loc) (ls : Array Slot) (cells slots : Nat), B_X2_carOf_8 G rec8 Q x1 x2 M bq → wR G M H → va_S (wA G) s.heap H locs → (cells + bq ≤ ((headSpec (ws_ yX2_carOf cX2_carOf 4 (Option.some (Jvm.ClassFile.FieldType.object "ParkingOffice$Car"))) ({ frames := 17, cells := b, slots := b, locals := 506 })).room).cells ∧ slots + bq ≤ ((headSpec (ws_ yX2_carOf cX2_carOf 4 (Option.some (Jvm.ClassFile.FieldType.object "ParkingOffice$Car"))) ({ frames := 17, cells := b, slots := b, locals := 506 })).room).slots) → lv_has ls 4 [(1, .int x1), (2, va_rf x2)] → W p l e (headSpec (ws_ yX2_carOf cX2_carOf 4 (Option.some (Jvm.ClassFile.FieldType.object "ParkingOffice$Car"))) ({ frames := 17, cells := b, slots := b, locals := 506 })).room s m ([.ref t0, .int p1] : List Value).toArray below meth c H locs cells slots (vx_MQ below (wQ G (wqR Q)) (wXC G wX0) ([.ref t0, .int p1] : List Value).toArray s b b (wA G)) (F0 m 8 ls []) := by
    intro rec8 hrec8 x1 x2 M bq H locs ls cells slots hp hM hS hB hl
    refine x_aload_n (r := x2) hx hb dX2_carOf_8 rfl (lv_at hl 1 rfl) ?_
    obtain ⟨a1, ea, hqa1⟩ := hp
    subst ea
    have hp := hqa1
    have hl : lv_has ls 4 [(1, .int x1), (2, .ref a1)] := hl
    obtain ⟨hrec, hp⟩ := hp
    refine x_call0Z5 (vx_runF (hC.1.1.1 19 (RJ36, TJ36, 5) rfl).2 (C := "java/util/LinkedList$ListItr") (As := []) (rest := []) X (P_J36_hasNext_ok (l := l) hl0 hp) (va_cwF 0 hts (lw_app (w_mem4 q1789 q1818 q1820 q195) (lw_meth q1822)) rfl rfl rfl (wfw_37 hC.1) (by decide +kernel) ⟨Nat.le_of_ble_eq_true rfl, Nat.le_of_ble_eq_true rfl⟩) ⟨wPc.blind, w_recv hC.1 hM (ci := 19) (q := (RJ36, TJ36, 5)) rfl hrec, w_pre hC hM hS _⟩ rfl rfl hl.1 rfl (lv_room (Nat.le_of_ble_eq_true rfl)) dX2_carOf_9 (w_room0 hB)) hS (w_room0 hB) (fun _ _ _ _ _ _ h => False.elim h) (fun r4 M2 H locs hp hM hS => ?_)
    refine x_ifeqB (tgt := 40) hx hb dX2_carOf_14 (by decide) (fun hc => ?_) (fun hc => ?_)
    · have hp := oIf.bf hp hc
      refine lv_null hx hb dX2_carOf_40 ?_
      exact x_aret (v := none) X hr (by first | exact Or.inl ⟨_, rfl⟩ | exact Or.inr ⟨_, rfl⟩) hlk hM hS (w_fin hB) dX2_carOf_41 ⟨none, rfl, hp⟩
    · have hp := oIf.bt hp hc
      refine lv_aload_n hx hb dX2_carOf_17 rfl (lv_at hl 1 rfl) ?_
      obtain ⟨hrec, hp⟩ := hp
      refine x_call0R5 (vx_runF (hC.1.1.1 19 (RJ36, TJ36, 5) rfl).2 (C := "java/util/LinkedList$ListItr") (As := []) (rest := []) X (P_J36_next_ok (l := l) hl0 hp) (va_cwF 0 hts (lw_app (w_mem4 q1824 q1952 q1954 q195) (lw_meth q1956)) rfl rfl rfl (wfw_38 hC.1) (by decide +kernel) ⟨Nat.le_of_ble_eq_true rfl, Nat.le_of_ble_eq_true rfl⟩) ⟨wPc.blind, w_recv hC.1 hM (ci := 19) (q := (RJ36, TJ36, 5)) rfl hrec, w_pre hC hM hS _⟩ rfl rfl hl.1 rfl (lv_room (Nat.le_of_ble_eq_true rfl)) dX2_carOf_18 (w_room0 hB)) hS (w_room0 hB) (fun _ _ _ _ _ _ h => False.elim h) (fun r7 M5 H locs hp hM hS => ?_)
      refine x_cast (r := r7) X hC.1 hM q1964 (ci := 14) rfl (Or.inl rfl) dX2_carOf_23 hp (fun hp => ?_)
      refine x_astore_n (r := r7) (lv' := [(3, va_rf r7), (1, .int x1), (2, .ref a1)]) hx hb dX2_carOf_26 rfl hl (by decide) rfl (fun ls hl => ?_)
      refine x_aload_n (r := r7) hx hb dX2_carOf_27 rfl (lv_at hl 0 rfl) ?_
      obtain ⟨a8, ea, hqa8⟩ := hp
      subst ea
      have hp := hqa8
      have hl : lv_has ls 4 [(3, .ref a8), (1, .int x1), (2, .ref a1)] := hl
      refine x_getIN X hC.1 hM (ci := 14) (C := RX18) (T := TX18) (N := 3) rfl in_X18 0 (by decide) q2783 (fun _ h9 => h9) dX2_carOf_28 hp (fun v9 hp => ?_)
      refine lv_iload_n hx hb dX2_carOf_31 rfl (lv_at hl 1 rfl) ?_
      refine lv_icmp_ne (tgt := 37) hx hb dX2_carOf_32 (by decide) (fun hc => ?_) (fun hc => ?_)
      · have hp := oIf.f hp hc
        refine lv_goto (tgt := 8) hx hb dX2_carOf_37 (by decide) ?_
        exact hrec8 _ _ _ _ _ _ _ _ _ hp hM hS hB (lv_sub hl [1, 2] rfl)
      · have hp := oIf.t hp hc
        refine lv_aload_n hx hb dX2_carOf_35 rfl (lv_at hl 0 rfl) ?_
        exact x_aret (v := (some a8)) X hr (by first | exact Or.inl ⟨_, rfl⟩ | exact Or.inr ⟨_, rfl⟩) hlk hM hS (w_fin hB) dX2_carOf_36 ⟨(some a8), rfl, hp⟩
  have hL8 : ∀ (n : Nat), ∀ (x1 : Int32) (x2 : Option Nat) (M : wM) (bq : Nat) (H : Heap) (locs : List Loc) (ls : Array Slot) (cells slots : Nat), L_X2_carOf_8 G Q n x1 x2 M bq → wR G M H → va_S (wA G) s.heap H locs → (cells + bq ≤ ((headSpec (ws_ yX2_carOf cX2_carOf 4 (Option.some (Jvm.ClassFile.FieldType.object "ParkingOffice$Car"))) ({ frames := 17, cells := b, slots := b, locals := 506 })).room).cells ∧ slots + bq ≤ ((headSpec (ws_ yX2_carOf cX2_carOf 4 (Option.some (Jvm.ClassFile.FieldType.object "ParkingOffice$Car"))) ({ frames := 17, cells := b, slots := b, locals := 506 })).room).slots) → lv_has ls 4 [(1, .int x1), (2, va_rf x2)] → W p l e (headSpec (ws_ yX2_carOf cX2_carOf 4 (Option.some (Jvm.ClassFile.FieldType.object "ParkingOffice$Car"))) ({ frames := 17, cells := b, slots := b, locals := 506 })).room s m ([.ref t0, .int p1] : List Value).toArray below meth c H locs cells slots (vx_MQ below (wQ G (wqR Q)) (wXC G wX0) ([.ref t0, .int p1] : List Value).toArray s b b (wA G)) (F0 m 8 ls []) := by
    intro n
    induction n with
    | zero => intro _ _ _ _ _ _ _ _ _ hp; exact False.elim hp
    | succ n ih => intro x1 x2 M bq H locs ls cells slots hp hM hS hB hl; exact hB8 (L_X2_carOf_8 G Q n) ih _ _ _ _ _ _ _ _ _ hp hM hS hB hl
  refine lv_aload_n hx hb dX2_carOf_0 rfl (lv_at hl 0 rfl) ?_
  refine x_getA X hC.1 hM (ci := 1) (C := RX2) (T := TX2) (N := 9) rfl in_X2 3 (by decide) q923 (fun _ h9 => h9) dX2_carOf_1 hp (fun a1 hp => ?_)
  obtain ⟨hrec, hp⟩ := hp
  obtain ⟨c3, hc1, hp⟩ := hp
  refine x_callR (vx_runU (As := []) (rest := []) X (P_J7_iterator_J8_ok (l := l) hl0 hp) (va_cwU 0 hts (lw_app (w_mem5 q1699 q1700 q1702 q1703 q159) (lw_meth q1704)) rfl rfl rfl rfl (by decide +kernel) ⟨Nat.le_of_ble_eq_true rfl, Nat.le_of_ble_eq_true rfl⟩) ⟨wPc.blind, w_recv hC.1 hM (ci := 17) (q := (RJ8, TJ8, 4)) rfl hrec, w_pre hC hM hS _⟩ rfl rfl hl.1 rfl (lv_room (Nat.le_of_ble_eq_true rfl)) dX2_carOf_4 (w_room hB hc1)) hS hB hc1 (fun _ _ _ _ _ _ h => False.elim h) (fun r4 M2 H locs hp hM hS hB => ?_)
  refine x_astore_n (r := r4) (lv' := [(2, va_rf r4), (0, .ref t0), (1, .int p1)]) hx hb dX2_carOf_7 rfl hl (by decide) rfl (fun ls hl => ?_)
  obtain ⟨n, hp⟩ := hp
  exact hL8 n _ _ _ _ _ _ _ _ _ hp hM hS hB (lv_sub hl [2, 0] rfl)
def B_X1_leave_36 (G : wG) (rec36 : Nat → Option Nat → Option Nat → wM → Nat → Prop) (Q : Int32 → wM → Prop) (Xp : String → Nat → wM → Prop) (x0 : Nat) (x2 : Option Nat) (x3 : Option Nat) (M : wM) (bq : Nat) : Prop :=
  oRef x3 (fun a1 => oIs M a1 19 (P_J36_hasNext G a1 M (fun r4 M2 => oIf (r4 = true) (oIs M2 a1 19 (P_J36_next G a1 M2 (fun r11 M9 => oIf (r11 = x2) (oIs M9 a1 19 (P_J36_remove G a1 M9 (fun M12 => rec36 x0 x2 (some a1) M12 bq))) (rec36 x0 x2 (some a1) M9 bq)))) (oGetA M2 x0 0 0 (fun a5 => oGetI M2 a5 1 8 (fun v6 => oRef x2 (fun a7 => oGetI M2 a7 14 2 (fun v8 => Q (v6 - v8) M2))))))))
def L_X1_leave_36 (G : wG) (Q : Int32 → wM → Prop) (Xp : String → Nat → wM → Prop) : Nat → Nat → Option Nat → Option Nat → wM → Nat → Prop
  | 0 => fun _ _ _ _ _ => False
  | n + 1 => B_X1_leave_36 G (L_X1_leave_36 G Q Xp n) Q Xp
def B_X1_leave_18 (G : wG) (Q : Int32 → wM → Prop) (Xp : String → Nat → wM → Prop) (x0 : Nat) (x2 : Option Nat) (y0 : Int32) (M : wM) (bq : Nat) : Prop :=
  ∃ c2, c2 ≤ bq ∧ P_X1_checkState G y0 c2 M (fun M1 => oIs M1 x0 0 (∃ c4, c4 ≤ (bq - c2) ∧ P_X1_remember G x0 c4 M1 (fun M3 => oGetA M3 x0 0 0 (fun a5 => oGetA M3 a5 1 3 (fun a6 => oIs M3 a6 17 (∃ c8, c8 ≤ ((bq - c2) - c4) ∧ P_J7_iterator_J8 G a6 c8 M3 (fun r9 M7 => ∃ n, L_X1_leave_36 G Q Xp n x0 x2 r9 M7 (((bq - c2) - c4) - c8)))))))) (fun E q10 M11 => (E = "java/lang/IllegalStateException" ∧ Xp E q10 M11))
def P_X1_leave (G : wG) (t0 : Nat) (p1 : Int32) (b : Nat) (M : wM) (Q : Int32 → wM → Prop) (Xp : String → Nat → wM → Prop) : Prop :=
  oGetA M t0 0 0 (fun a1 => oIs M a1 1 (∃ c3, c3 ≤ b ∧ P_X2_carOf G a1 p1 c3 M (fun r4 M2 => oNull r4 (B_X1_leave_18 G Q Xp t0 none (0 : Int32) M2 (b - c3)) (fun a5 => B_X1_leave_18 G Q Xp t0 (some a5) (1 : Int32) M2 (b - c3)))))
set_option maxHeartbeats 4000000 in
set_option maxRecDepth 100000 in
theorem P_X1_leave_ok {l : Launch} (hl0 : l.stackTraces = false) {G : wG} {t0 : Nat} {p1 : Int32} {b : Nat} {M : wM} {Q : Int32 → wM → Prop} {Xp : String → Nat → wM → Prop} (hp : P_X1_leave G t0 p1 b M Q Xp) : wMet l yX1_leave (ws_ yX1_leave cX1_leave 4 (Option.some Jvm.ClassFile.FieldType.int)) 20 575 G [.ref t0, .int p1] M b (wqI Q) Xp := by
  refine vx_ofW (cc := cX1_leave) (maxL := 4) (ret := Option.some Jvm.ClassFile.FieldType.int) (by decide) rfl ?_
  intro p e s m args below meth c s₁ B hml hnt hv
  obtain ⟨rfl, hM, hK, hZ, hz⟩ := hv
  have hC : wC G s := ⟨hK, hZ, hz⟩
  have hx := B.exec
  have hb := B.bytes
  have hr := B.returns
  have hts := atoms_spec (ws := (ws_ yX1_leave cX1_leave 4 (Option.some Jvm.ClassFile.FieldType.int))) B.pre
  have hts : ∀ w ∈ lw_all, w.before _ s = true := fun w h => hts w (List.mem_cons_of_mem _ h)
  have hown : s.vm.findClass RX1 = some m.cls := findClass_of_methodNamed B.named
  have hlk := B.notSynchronized
  have X : CallFix p m c cX1_leave 4 s ([.ref t0, .int p1] : List Value).toArray lw_all RX1 := ⟨hx, hb, hml, hown, hts⟩
  have hS : va_S (wA G) s.heap s.heap [] := va_S.rf
  have hl := lv_entry ([.ref t0, .int p1]) (n := 4) (Nat.le_of_ble_eq_true rfl)
  rw [lg_entry_eq]
  generalize (lg_sl ([.ref t0, .int p1]) ++ List.replicate (4 - (lg_sl ([.ref t0, .int p1])).length) Slot.unset).toArray = ls at hl ⊢
  have hl : lv_has ls 4 [(0, .ref t0), (1, .int p1)] := hl
  have hB : 0 + b ≤ ((headSpec (ws_ yX1_leave cX1_leave 4 (Option.some Jvm.ClassFile.FieldType.int)) ({ frames := 20, cells := b, slots := b, locals := 575 })).room).cells ∧ 0 + b ≤ ((headSpec (ws_ yX1_leave cX1_leave 4 (Option.some Jvm.ClassFile.FieldType.int)) ({ frames := 20, cells := b, slots := b, locals := 575 })).room).slots := ⟨Nat.le_of_eq (Nat.zero_add b), Nat.le_of_eq (Nat.zero_add b)⟩
  have hB36 : ∀ (rec36 : Nat → Option Nat → Option Nat → wM → Nat → Prop) (hrec36 : ∀ (x0 : Nat) (x2 : Option Nat) (x3 : Option Nat) (M : wM) (bq : Nat) (H : Heap) (locs : List Loc) (ls : Array Slot) (cells slots : Nat), rec36 x0 x2 x3 M bq → wR G M H → va_S (wA G) s.heap H locs → (cells + bq ≤ ((headSpec (ws_ yX1_leave cX1_leave 4 (Option.some Jvm.ClassFile.FieldType.int)) ({ frames := 20, cells := b, slots := b, locals := 575 })).room).cells ∧ slots + bq ≤ ((headSpec (ws_ yX1_leave cX1_leave 4 (Option.some Jvm.ClassFile.FieldType.int)) ({ frames := 20, cells := b, slots := b, locals := 575 })).room).slots) → lv_has ls 4 [(0, .ref x0), (2, va_rf x2), (3, va_rf x3)] → W p l e (headSpec (ws_ yX1_leave cX1_leave 4 (Option.some Jvm.ClassFile.FieldType.int)) ({ frames := 20, cells := b, slots := b, locals := 575 })).room s m ([.ref t0, .int p1] : List Value).toArray below meth c H locs cells slots (vx_MQ below (wQ G (wqI Q)) (wXC G Xp) ([.ref t0, .int p1] : List Value).toArray s b b (wA G)) (F0 m 36 ls [])), ∀ (x0 : Nat) (x2 : Option Nat) (x3 : Option Nat) (M : wM) (bq : Nat) (H : Heap) (locs : List Loc) (ls : Array Slot) (cells slots : Nat), B_X1_leave_36 G rec36 Q Xp x0 x2 x3 M bq → wR G M H → va_S (wA G) s.heap H locs → (cells + bq ≤ ((headSpec (ws_ yX1_leave cX1_leave 4 (Option.some Jvm.ClassFile.FieldType.int)) ({ frames := 20, cells := b, slots := b, locals := 575 })).room).cells ∧ slots + bq ≤ ((headSpec (ws_ yX1_leave cX1_leave 4 (Option.some Jvm.ClassFile.FieldType.int)) ({ frames := 20, cells := b, slots := b, locals := 575 })).room).slots) → lv_has ls 4 [(0, .ref x0), (2, va_rf x2), (3, va_rf x3)] → W p l e (headSpec (ws_ yX1_leave cX1_leave 4 (Option.some Jvm.ClassFile.FieldType.int)) ({ frames := 20, cells := b, slots := b, locals := 575 })).room s m ([.ref t0, .int p1] : List Value).toArray below meth c H locs cells slots (vx_MQ below (wQ G (wqI Q)) (wXC G Xp) ([.ref t0, .int p1] : List Value).toArray s b b (wA G)) (F0 m 36 ls []) := by
    intro rec36 hrec36 x0 x2 x3 M bq H locs ls cells slots hp hM hS hB hl
    refine x_aload_n (r := x3) hx hb dX1_leave_36 rfl (lv_at hl 2 rfl) ?_
    obtain ⟨a1, ea, hqa1⟩ := hp
    subst ea
    have hp := hqa1
    have hl : lv_has ls 4 [(0, .ref x0), (2, va_rf x2), (3, .ref a1)] := hl
    obtain ⟨hrec, hp⟩ := hp
    refine x_call0Z5 (vx_runF (hC.1.1.1 19 (RJ36, TJ36, 5) rfl).2 (C := "java/util/LinkedList$ListItr") (As := []) (rest := []) X (P_J36_hasNext_ok (l := l) hl0 hp) (va_cwF 0 hts (lw_app (w_mem4 q2016 q1818 q1820 q195) (lw_meth q1822)) rfl rfl rfl (wfw_37 hC.1) (by decide +kernel) ⟨Nat.le_of_ble_eq_true rfl, Nat.le_of_ble_eq_true rfl⟩) ⟨wPc.blind, w_recv hC.1 hM (ci := 19) (q := (RJ36, TJ36, 5)) rfl hrec, w_pre hC hM hS _⟩ rfl rfl hl.1 rfl (lv_room (Nat.le_of_ble_eq_true rfl)) dX1_leave_37 (w_room0 hB)) hS (w_room0 hB) (fun _ _ _ _ _ _ h => False.elim h) (fun r4 M2 H locs hp hM hS => ?_)
    refine x_ifeqB (tgt := 64) hx hb dX1_leave_42 (by decide) (fun hc => ?_) (fun hc => ?_)
    · have hp := oIf.bf hp hc
      refine lv_aload_n hx hb dX1_leave_64 rfl (lv_at hl 0 rfl) ?_
      refine x_getA X hC.1 hM (ci := 0) (C := RX1) (T := TX1) (N := 8) rfl in_X1 0 (by decide) q973 (fun _ h9 => h9) dX1_leave_65 hp (fun a5 hp => ?_)
      refine x_getIN X hC.1 hM (ci := 1) (C := RX2) (T := TX2) (N := 9) rfl in_X2 8 (by decide) q934 (fun _ h9 => h9) dX1_leave_68 hp (fun v6 hp => ?_)
      refine x_aload_n (r := x2) hx hb dX1_leave_71 rfl (lv_at hl 1 rfl) ?_
      obtain ⟨a7, ea, hqa7⟩ := hp
      subst ea
      have hp := hqa7
      have hl : lv_has ls 4 [(0, .ref x0), (2, .ref a7), (3, .ref a1)] := hl
      refine x_getIN X hC.1 hM (ci := 14) (C := RX18) (T := TX18) (N := 3) rfl in_X18 2 (by decide) q2790 (fun _ h9 => h9) dX1_leave_72 hp (fun v8 hp => ?_)
      refine lv_isub hx hb dX1_leave_75 ?_
      exact x_iret X hr hlk hM hS (w_fin hB) dX1_leave_76 ⟨_, rfl, hp⟩
    · have hp := oIf.bt hp hc
      refine lv_aload_n hx hb dX1_leave_45 rfl (lv_at hl 2 rfl) ?_
      obtain ⟨hrec, hp⟩ := hp
      refine x_call0R5 (vx_runF (hC.1.1.1 19 (RJ36, TJ36, 5) rfl).2 (C := "java/util/LinkedList$ListItr") (As := []) (rest := []) X (P_J36_next_ok (l := l) hl0 hp) (va_cwF 0 hts (lw_app (w_mem4 q2018 q1952 q1954 q195) (lw_meth q1956)) rfl rfl rfl (wfw_38 hC.1) (by decide +kernel) ⟨Nat.le_of_ble_eq_true rfl, Nat.le_of_ble_eq_true rfl⟩) ⟨wPc.blind, w_recv hC.1 hM (ci := 19) (q := (RJ36, TJ36, 5)) rfl hrec, w_pre hC hM hS _⟩ rfl rfl hl.1 rfl (lv_room (Nat.le_of_ble_eq_true rfl)) dX1_leave_46 (w_room0 hB)) hS (w_room0 hB) (fun _ _ _ _ _ _ h => False.elim h) (fun r11 M9 H locs hp hM hS => ?_)
      refine x_aload_n (r := x2) hx hb dX1_leave_51 rfl (lv_at hl 1 rfl) ?_
      refine lv_acmp_ne (rx := r11) (ry := x2) (tgt := 36) hx hb dX1_leave_52 (by decide) (fun hc => ?_) (fun hc => ?_)
      · have hp := oIf.f hp hc
        exact hrec36 _ _ _ _ _ _ _ _ _ _ hp hM hS hB (lv_sub hl [0, 1, 2] rfl)
      · have hp := oIf.t hp hc
        refine lv_aload_n hx hb dX1_leave_55 rfl (lv_at hl 2 rfl) ?_
        obtain ⟨hrec, hp⟩ := hp
        refine x_call0V5 (vx_runF (hC.1.1.1 19 (RJ36, TJ36, 5) rfl).2 (C := "java/util/LinkedList$ListItr") (As := []) (rest := []) X (P_J36_remove_ok (l := l) hl0 hp) (va_cwF 0 hts (lw_app (w_mem4 q2807 q2867 q2869 q195) (lw_meth q2871)) rfl rfl rfl (wfw_39 hC.1) (by decide +kernel) ⟨Nat.le_of_ble_eq_true rfl, Nat.le_of_ble_eq_true rfl⟩) ⟨wPc.blind, w_recv hC.1 hM (ci := 19) (q := (RJ36, TJ36, 5)) rfl hrec, w_pre hC hM hS _⟩ rfl rfl hl.1 rfl (lv_room (Nat.le_of_ble_eq_true rfl)) dX1_leave_56 (w_room0 hB)) hS (w_room0 hB) (fun _ _ _ _ _ _ h => False.elim h) (fun M12 H locs hp hM hS => ?_)
        refine lv_goto (tgt := 36) hx hb dX1_leave_61 (by decide) ?_
        exact hrec36 _ _ _ _ _ _ _ _ _ _ hp hM hS hB (lv_sub hl [0, 1, 2] rfl)
  have hL36 : ∀ (n : Nat), ∀ (x0 : Nat) (x2 : Option Nat) (x3 : Option Nat) (M : wM) (bq : Nat) (H : Heap) (locs : List Loc) (ls : Array Slot) (cells slots : Nat), L_X1_leave_36 G Q Xp n x0 x2 x3 M bq → wR G M H → va_S (wA G) s.heap H locs → (cells + bq ≤ ((headSpec (ws_ yX1_leave cX1_leave 4 (Option.some Jvm.ClassFile.FieldType.int)) ({ frames := 20, cells := b, slots := b, locals := 575 })).room).cells ∧ slots + bq ≤ ((headSpec (ws_ yX1_leave cX1_leave 4 (Option.some Jvm.ClassFile.FieldType.int)) ({ frames := 20, cells := b, slots := b, locals := 575 })).room).slots) → lv_has ls 4 [(0, .ref x0), (2, va_rf x2), (3, va_rf x3)] → W p l e (headSpec (ws_ yX1_leave cX1_leave 4 (Option.some Jvm.ClassFile.FieldType.int)) ({ frames := 20, cells := b, slots := b, locals := 575 })).room s m ([.ref t0, .int p1] : List Value).toArray below meth c H locs cells slots (vx_MQ below (wQ G (wqI Q)) (wXC G Xp) ([.ref t0, .int p1] : List Value).toArray s b b (wA G)) (F0 m 36 ls []) := by
    intro n
    induction n with
    | zero => intro _ _ _ _ _ _ _ _ _ _ hp; exact False.elim hp
    | succ n ih => intro x0 x2 x3 M bq H locs ls cells slots hp hM hS hB hl; exact hB36 (L_X1_leave_36 G Q Xp n) ih _ _ _ _ _ _ _ _ _ _ hp hM hS hB hl
  have hB18 : ∀ (x0 : Nat) (x2 : Option Nat) (y0 : Int32) (M : wM) (bq : Nat) (H : Heap) (locs : List Loc) (ls : Array Slot) (cells slots : Nat), B_X1_leave_18 G Q Xp x0 x2 y0 M bq → wR G M H → va_S (wA G) s.heap H locs → (cells + bq ≤ ((headSpec (ws_ yX1_leave cX1_leave 4 (Option.some Jvm.ClassFile.FieldType.int)) ({ frames := 20, cells := b, slots := b, locals := 575 })).room).cells ∧ slots + bq ≤ ((headSpec (ws_ yX1_leave cX1_leave 4 (Option.some Jvm.ClassFile.FieldType.int)) ({ frames := 20, cells := b, slots := b, locals := 575 })).room).slots) → lv_has ls 4 [(0, .ref x0), (2, va_rf x2)] → W p l e (headSpec (ws_ yX1_leave cX1_leave 4 (Option.some Jvm.ClassFile.FieldType.int)) ({ frames := 20, cells := b, slots := b, locals := 575 })).room s m ([.ref t0, .int p1] : List Value).toArray below meth c H locs cells slots (vx_MQ below (wQ G (wqI Q)) (wXC G Xp) ([.ref t0, .int p1] : List Value).toArray s b b (wA G)) (F0 m 18 ls [.int y0]) := by
    intro x0 x2 y0 M bq H locs ls cells slots hp hM hS hB hl
    obtain ⟨c2, hc1, hp⟩ := hp
    refine x_callV (vx_runS (As := [.int y0]) (rest := []) X (P_X1_checkState_ok (l := l) hl0 hp) (va_cwS 1 hts (lw_S q2690 q2691 q148 q2692) rfl rfl rfl (by decide +kernel) ⟨Nat.le_of_ble_eq_true rfl, Nat.le_of_ble_eq_true rfl⟩) ⟨wPc.blind, w_pre hC hM hS _⟩ rfl rfl hl.1 rfl (lv_room (Nat.le_of_ble_eq_true rfl)) dX1_leave_18 (w_room hB hc1)) hS hB hc1 (fun E ce q10 M11 H locs hp hM hS hB hcell hcv hcl => ?_) (fun M1 H locs hp hM hS hB => ?_)
    · obtain ⟨rfl, hp⟩ := hp
      exact x_out hlk (fun x h => (hnt x h).elim) hM hS (w_fin hB) hcell hcv hcl hp
    · refine lv_aload_n hx hb dX1_leave_21 rfl (lv_at hl 0 rfl) ?_
      obtain ⟨hrec, hp⟩ := hp
      obtain ⟨c4, hc1, hp⟩ := hp
      refine x_callV (vx_runV (As := []) (rest := []) X (P_X1_remember_ok (l := l) hl0 hp) (cwV 0 hts (lw_V q2543 q2545 qs49 q148 q2546) rfl rfl rfl (by decide +kernel) ⟨Nat.le_of_ble_eq_true rfl, Nat.le_of_ble_eq_true rfl⟩) ⟨wPc.blind, w_recv hC.1 hM (ci := 0) (q := (RX1, TX1, 8)) rfl hrec, w_pre hC hM hS _⟩ rfl rfl hl.1 rfl (lv_room (Nat.le_of_ble_eq_true rfl)) dX1_leave_22 (w_room hB hc1)) hS hB hc1 (fun _ _ _ _ _ _ h => False.elim h) (fun M3 H locs hp hM hS hB => ?_)
      refine lv_aload_n hx hb dX1_leave_25 rfl (lv_at hl 0 rfl) ?_
      refine x_getA X hC.1 hM (ci := 0) (C := RX1) (T := TX1) (N := 8) rfl in_X1 0 (by decide) q973 (fun _ h9 => h9) dX1_leave_26 hp (fun a5 hp => ?_)
      refine x_getAN X hC.1 hM (ci := 1) (C := RX2) (T := TX2) (N := 9) rfl in_X2 3 (by decide) q924 (fun _ h9 => h9) dX1_leave_29 hp (fun a6 hp => ?_)
      obtain ⟨hrec, hp⟩ := hp
      obtain ⟨c8, hc1, hp⟩ := hp
      refine x_callR (vx_runU (As := []) (rest := []) X (P_J7_iterator_J8_ok (l := l) hl0 hp) (va_cwU 0 hts (lw_app (w_mem5 q2442 q1700 q1702 q1703 q159) (lw_meth q1704)) rfl rfl rfl rfl (by decide +kernel) ⟨Nat.le_of_ble_eq_true rfl, Nat.le_of_ble_eq_true rfl⟩) ⟨wPc.blind, w_recv hC.1 hM (ci := 17) (q := (RJ8, TJ8, 4)) rfl hrec, w_pre hC hM hS _⟩ rfl rfl hl.1 rfl (lv_room (Nat.le_of_ble_eq_true rfl)) dX1_leave_32 (w_room hB hc1)) hS hB hc1 (fun _ _ _ _ _ _ h => False.elim h) (fun r9 M7 H locs hp hM hS hB => ?_)
      refine x_astore_n (r := r9) (lv' := [(3, va_rf r9), (0, .ref x0), (2, va_rf x2)]) hx hb dX1_leave_35 rfl hl (by decide) (by cases x2 <;> rfl) (fun ls hl => ?_)
      obtain ⟨n, hp⟩ := hp
      exact hL36 n _ _ _ _ _ _ _ _ _ _ hp hM hS hB (lv_sub hl [1, 2, 0] rfl)
  refine lv_aload_n hx hb dX1_leave_0 rfl (lv_at hl 0 rfl) ?_
  refine x_getA X hC.1 hM (ci := 0) (C := RX1) (T := TX1) (N := 8) rfl in_X1 0 (by decide) q973 (fun _ h9 => h9) dX1_leave_1 hp (fun a1 hp => ?_)
  refine lv_iload_n hx hb dX1_leave_4 rfl (lv_at hl 1 rfl) ?_
  obtain ⟨hrec, hp⟩ := hp
  obtain ⟨c3, hc1, hp⟩ := hp
  refine x_callR (vx_runV (As := [.int p1]) (rest := []) X (P_X2_carOf_ok (l := l) hl0 hp) (cwV 1 hts (lw_V q1695 q1696 q1697 q149 q1698) rfl rfl rfl (by decide +kernel) ⟨Nat.le_of_ble_eq_true rfl, Nat.le_of_ble_eq_true rfl⟩) ⟨wPc.blind, w_recv hC.1 hM (ci := 1) (q := (RX2, TX2, 9)) rfl hrec, w_pre hC hM hS _⟩ rfl rfl hl.1 rfl (lv_room (Nat.le_of_ble_eq_true rfl)) dX1_leave_5 (w_room hB hc1)) hS hB hc1 (fun _ _ _ _ _ _ h => False.elim h) (fun r4 M2 H locs hp hM hS hB => ?_)
  refine x_astore_n (r := r4) (lv' := [(2, va_rf r4), (0, .ref t0), (1, .int p1)]) hx hb dX1_leave_8 rfl hl (by decide) rfl (fun ls hl => ?_)
  refine x_aload_n (r := r4) hx hb dX1_leave_9 rfl (lv_at hl 0 rfl) ?_
  refine x_ifnull (r := r4) (tgt := 17) hx hb dX1_leave_10 (by decide) (fun hc => ?_) (fun a5 hc => ?_)
  · have hqa5 := oNull.t hp hc
    subst hc
    have hp := hqa5
    have hl : lv_has ls 4 [(2, va_rf none), (0, .ref t0), (1, .int p1)] := hl
    refine lv_iconst (v := 0) hx hb dX1_leave_17 (by decide) ?_
    exact hB18 _ _ _ _ _ _ _ _ _ _ hp hM hS hB (lv_sub hl [1, 0] rfl)
  · have hqa5 := oNull.f hp hc
    subst hc
    have hp := hqa5
    have hl : lv_has ls 4 [(2, .ref a5), (0, .ref t0), (1, .int p1)] := hl
    refine lv_iconst (v := 1) hx hb dX1_leave_13 (by decide) ?_
    refine lv_goto (tgt := 18) hx hb dX1_leave_14 (by decide) ?_
    exact hB18 _ _ _ _ _ _ _ _ _ _ hp hM hS hB (lv_sub hl [1, 0] rfl)
def B_X1_nextToExpire_95 (G : wG) (rec9 : Nat → Int32 → Int32 → Int32 → wM → Nat → Prop) (Q : Int32 → wM → Prop) (Xp : String → Nat → wM → Prop) (x0 : Nat) (x1 : Int32) (x2 : Int32) (x3 : Int32) (M : wM) (bq : Nat) : Prop :=
  rec9 x0 x1 x2 (x3 + 1) M bq
def B_X1_nextToExpire_93 (G : wG) (rec9 : Nat → Int32 → Int32 → Int32 → wM → Nat → Prop) (Q : Int32 → wM → Prop) (Xp : String → Nat → wM → Prop) (x0 : Nat) (x1 : Int32) (x3 : Int32) (M : wM) (bq : Nat) : Prop :=
  B_X1_nextToExpire_95 G rec9 Q Xp x0 x1 x3 x3 M bq
def B_X1_nextToExpire_9 (G : wG) (rec9 : Nat → Int32 → Int32 → Int32 → wM → Nat → Prop) (Q : Int32 → wM → Prop) (Xp : String → Nat → wM → Prop) (x0 : Nat) (x1 : Int32) (x2 : Int32) (x3 : Int32) (M : wM) (bq : Nat) : Prop :=
  oGetA M x0 0 0 (fun a1 => oGetA M a1 1 1 (fun a2 => oIs M a2 16 (P_J2_size G a2 M (fun v5 M3 => oIf (v5 ≤ x3) (Q x2 M3) (oGetA M3 x0 0 0 (fun a6 => oGetA M3 a6 1 1 (fun a7 => oIs M3 a7 16 (P_J2_get G a7 x3 M3 (fun r10 M8 => oCast M8 r10 9 (oRef r10 (fun a11 => oGetI M8 a11 9 2 (fun v12 => oIf (v12 = x1) (oGetI M8 a11 9 4 (fun v13 => oIf (v13 = (2 : Int32)) (oIf (x2 = (-1 : Int32)) (B_X1_nextToExpire_93 G rec9 Q Xp x0 x1 x3 M8 bq) (oGetI M8 a11 9 5 (fun v14 => oGetA M8 x0 0 0 (fun a15 => oGetA M8 a15 1 1 (fun a16 => oIs M8 a16 16 (P_J2_get G a16 x2 M8 (fun r19 M17 => oCast M17 r19 9 (oRef r19 (fun a20 => oGetI M17 a20 9 5 (fun v21 => oIf (v21 ≤ v14) (B_X1_nextToExpire_95 G rec9 Q Xp x0 x1 x2 x3 M17 bq) (B_X1_nextToExpire_93 G rec9 Q Xp x0 x1 x3 M17 bq))))))))))) (B_X1_nextToExpire_95 G rec9 Q Xp x0 x1 x2 x3 M8 bq))) (B_X1_nextToExpire_95 G rec9 Q Xp x0 x1 x2 x3 M8 bq)))))))))))))
def L_X1_nextToExpire_9 (G : wG) (Q : Int32 → wM → Prop) (Xp : String → Nat → wM → Prop) : Nat → Nat → Int32 → Int32 → Int32 → wM → Nat → Prop
  | 0 => fun _ _ _ _ _ _ => False
  | n + 1 => B_X1_nextToExpire_9 G (L_X1_nextToExpire_9 G Q Xp n) Q Xp
def P_X1_nextToExpire (G : wG) (t0 : Nat) (p1 : Int32) (b : Nat) (M : wM) (Q : Int32 → wM → Prop) (Xp : String → Nat → wM → Prop) : Prop :=
  oIs M t0 0 (∃ c2, c2 ≤ b ∧ P_X1_checkZone G t0 p1 c2 M (fun M1 => ∃ n, L_X1_nextToExpire_9 G Q Xp n t0 p1 (-1 : Int32) (0 : Int32) M1 (b - c2)) (fun E q3 M4 => (E = "java/lang/IndexOutOfBoundsException" ∧ Xp E q3 M4)))
set_option maxHeartbeats 4000000 in
set_option maxRecDepth 100000 in
theorem P_X1_nextToExpire_ok {l : Launch} (hl0 : l.stackTraces = false) {G : wG} {t0 : Nat} {p1 : Int32} {b : Nat} {M : wM} {Q : Int32 → wM → Prop} {Xp : String → Nat → wM → Prop} (hp : P_X1_nextToExpire G t0 p1 b M Q Xp) : wMet l yX1_nextToExpire (ws_ yX1_nextToExpire cX1_nextToExpire 5 (Option.some Jvm.ClassFile.FieldType.int)) 15 464 G [.ref t0, .int p1] M b (wqI Q) Xp := by
  refine vx_ofW (cc := cX1_nextToExpire) (maxL := 5) (ret := Option.some Jvm.ClassFile.FieldType.int) (by decide) rfl ?_
  intro p e s m args below meth c s₁ B hml hnt hv
  obtain ⟨rfl, hM, hK, hZ, hz⟩ := hv
  have hC : wC G s := ⟨hK, hZ, hz⟩
  have hx := B.exec
  have hb := B.bytes
  have hr := B.returns
  have hts := atoms_spec (ws := (ws_ yX1_nextToExpire cX1_nextToExpire 5 (Option.some Jvm.ClassFile.FieldType.int))) B.pre
  have hts : ∀ w ∈ lw_all, w.before _ s = true := fun w h => hts w (List.mem_cons_of_mem _ h)
  have hown : s.vm.findClass RX1 = some m.cls := findClass_of_methodNamed B.named
  have hlk := B.notSynchronized
  have X : CallFix p m c cX1_nextToExpire 5 s ([.ref t0, .int p1] : List Value).toArray lw_all RX1 := ⟨hx, hb, hml, hown, hts⟩
  have hS : va_S (wA G) s.heap s.heap [] := va_S.rf
  have hl := lv_entry ([.ref t0, .int p1]) (n := 5) (Nat.le_of_ble_eq_true rfl)
  rw [lg_entry_eq]
  generalize (lg_sl ([.ref t0, .int p1]) ++ List.replicate (5 - (lg_sl ([.ref t0, .int p1])).length) Slot.unset).toArray = ls at hl ⊢
  have hl : lv_has ls 5 [(0, .ref t0), (1, .int p1)] := hl
  have hB : 0 + b ≤ ((headSpec (ws_ yX1_nextToExpire cX1_nextToExpire 5 (Option.some Jvm.ClassFile.FieldType.int)) ({ frames := 15, cells := b, slots := b, locals := 464 })).room).cells ∧ 0 + b ≤ ((headSpec (ws_ yX1_nextToExpire cX1_nextToExpire 5 (Option.some Jvm.ClassFile.FieldType.int)) ({ frames := 15, cells := b, slots := b, locals := 464 })).room).slots := ⟨Nat.le_of_eq (Nat.zero_add b), Nat.le_of_eq (Nat.zero_add b)⟩
  have hB95 : ∀ (rec9 : Nat → Int32 → Int32 → Int32 → wM → Nat → Prop) (hrec9 : ∀ (x0 : Nat) (x1 : Int32) (x2 : Int32) (x3 : Int32) (M : wM) (bq : Nat) (H : Heap) (locs : List Loc) (ls : Array Slot) (cells slots : Nat), rec9 x0 x1 x2 x3 M bq → wR G M H → va_S (wA G) s.heap H locs → (cells + bq ≤ ((headSpec (ws_ yX1_nextToExpire cX1_nextToExpire 5 (Option.some Jvm.ClassFile.FieldType.int)) ({ frames := 15, cells := b, slots := b, locals := 464 })).room).cells ∧ slots + bq ≤ ((headSpec (ws_ yX1_nextToExpire cX1_nextToExpire 5 (Option.some Jvm.ClassFile.FieldType.int)) ({ frames := 15, cells := b, slots := b, locals := 464 })).room).slots) → lv_has ls 5 [(0, .ref x0), (1, .int x1), (2, .int x2), (3, .int x3)] → W p l e (headSpec (ws_ yX1_nextToExpire cX1_nextToExpire 5 (Option.some Jvm.ClassFile.FieldType.int)) ({ frames := 15, cells := b, slots := b, locals := 464 })).room s m ([.ref t0, .int p1] : List Value).toArray below meth c H locs cells slots (vx_MQ below (wQ G (wqI Q)) (wXC G Xp) ([.ref t0, .int p1] : List Value).toArray s b b (wA G)) (F0 m 9 ls [])), ∀ (x0 : Nat) (x1 : Int32) (x2 : Int32) (x3 : Int32) (M : wM) (bq : Nat) (H : Heap) (locs : List Loc) (ls : Array Slot) (cells slots : Nat), B_X1_nextToExpire_95 G rec9 Q Xp x0 x1 x2 x3 M bq → wR G M H → va_S (wA G) s.heap H locs → (cells + bq ≤ ((headSpec (ws_ yX1_nextToExpire cX1_nextToExpire 5 (Option.some Jvm.ClassFile.FieldType.int)) ({ frames := 15, cells := b, slots := b, locals := 464 })).room).cells ∧ slots + bq ≤ ((headSpec (ws_ yX1_nextToExpire cX1_nextToExpire 5 (Option.some Jvm.ClassFile.FieldType.int)) ({ frames := 15, cells := b, slots := b, locals := 464 })).room).slots) → lv_has ls 5 [(0, .ref x0), (1, .int x1), (2, .int x2), (3, .int x3)] → W p l e (headSpec (ws_ yX1_nextToExpire cX1_nextToExpire 5 (Option.some Jvm.ClassFile.FieldType.int)) ({ frames := 15, cells := b, slots := b, locals := 464 })).room s m ([.ref t0, .int p1] : List Value).toArray below meth c H locs cells slots (vx_MQ below (wQ G (wqI Q)) (wXC G Xp) ([.ref t0, .int p1] : List Value).toArray s b b (wA G)) (F0 m 95 ls []) := by
    intro rec9 hrec9 x0 x1 x2 x3 M bq H locs ls cells slots hp hM hS hB hl
    refine lv_iinc (v := (x3 + 1)) (lv' := [(3, .int (x3 + 1)), (0, .ref x0), (1, .int x1), (2, .int x2)]) hx hb dX1_nextToExpire_95 hl (k := 3) rfl rfl (by decide) rfl (fun ls hl => ?_)
    refine lv_goto (tgt := 9) hx hb dX1_nextToExpire_98 (by decide) ?_
    exact hrec9 _ _ _ _ _ _ _ _ _ _ _ hp hM hS hB (lv_sub hl [1, 2, 3, 0] rfl)
  have hB93 : ∀ (rec9 : Nat → Int32 → Int32 → Int32 → wM → Nat → Prop) (hrec9 : ∀ (x0 : Nat) (x1 : Int32) (x2 : Int32) (x3 : Int32) (M : wM) (bq : Nat) (H : Heap) (locs : List Loc) (ls : Array Slot) (cells slots : Nat), rec9 x0 x1 x2 x3 M bq → wR G M H → va_S (wA G) s.heap H locs → (cells + bq ≤ ((headSpec (ws_ yX1_nextToExpire cX1_nextToExpire 5 (Option.some Jvm.ClassFile.FieldType.int)) ({ frames := 15, cells := b, slots := b, locals := 464 })).room).cells ∧ slots + bq ≤ ((headSpec (ws_ yX1_nextToExpire cX1_nextToExpire 5 (Option.some Jvm.ClassFile.FieldType.int)) ({ frames := 15, cells := b, slots := b, locals := 464 })).room).slots) → lv_has ls 5 [(0, .ref x0), (1, .int x1), (2, .int x2), (3, .int x3)] → W p l e (headSpec (ws_ yX1_nextToExpire cX1_nextToExpire 5 (Option.some Jvm.ClassFile.FieldType.int)) ({ frames := 15, cells := b, slots := b, locals := 464 })).room s m ([.ref t0, .int p1] : List Value).toArray below meth c H locs cells slots (vx_MQ below (wQ G (wqI Q)) (wXC G Xp) ([.ref t0, .int p1] : List Value).toArray s b b (wA G)) (F0 m 9 ls [])), ∀ (x0 : Nat) (x1 : Int32) (x3 : Int32) (M : wM) (bq : Nat) (H : Heap) (locs : List Loc) (ls : Array Slot) (cells slots : Nat), B_X1_nextToExpire_93 G rec9 Q Xp x0 x1 x3 M bq → wR G M H → va_S (wA G) s.heap H locs → (cells + bq ≤ ((headSpec (ws_ yX1_nextToExpire cX1_nextToExpire 5 (Option.some Jvm.ClassFile.FieldType.int)) ({ frames := 15, cells := b, slots := b, locals := 464 })).room).cells ∧ slots + bq ≤ ((headSpec (ws_ yX1_nextToExpire cX1_nextToExpire 5 (Option.some Jvm.ClassFile.FieldType.int)) ({ frames := 15, cells := b, slots := b, locals := 464 })).room).slots) → lv_has ls 5 [(0, .ref x0), (1, .int x1), (3, .int x3)] → W p l e (headSpec (ws_ yX1_nextToExpire cX1_nextToExpire 5 (Option.some Jvm.ClassFile.FieldType.int)) ({ frames := 15, cells := b, slots := b, locals := 464 })).room s m ([.ref t0, .int p1] : List Value).toArray below meth c H locs cells slots (vx_MQ below (wQ G (wqI Q)) (wXC G Xp) ([.ref t0, .int p1] : List Value).toArray s b b (wA G)) (F0 m 93 ls []) := by
    intro rec9 hrec9 x0 x1 x3 M bq H locs ls cells slots hp hM hS hB hl
    refine lv_iload_n hx hb dX1_nextToExpire_93 rfl (lv_at hl 2 rfl) ?_
    refine lv_istore_n (lv' := [(2, .int x3), (0, .ref x0), (1, .int x1), (3, .int x3)]) hx hb dX1_nextToExpire_94 rfl hl (by decide) rfl (fun ls hl => ?_)
    exact hB95 rec9 hrec9 _ _ _ _ _ _ _ _ _ _ _ hp hM hS hB (lv_sub hl [1, 2, 0, 3] rfl)
  have hB9 : ∀ (rec9 : Nat → Int32 → Int32 → Int32 → wM → Nat → Prop) (hrec9 : ∀ (x0 : Nat) (x1 : Int32) (x2 : Int32) (x3 : Int32) (M : wM) (bq : Nat) (H : Heap) (locs : List Loc) (ls : Array Slot) (cells slots : Nat), rec9 x0 x1 x2 x3 M bq → wR G M H → va_S (wA G) s.heap H locs → (cells + bq ≤ ((headSpec (ws_ yX1_nextToExpire cX1_nextToExpire 5 (Option.some Jvm.ClassFile.FieldType.int)) ({ frames := 15, cells := b, slots := b, locals := 464 })).room).cells ∧ slots + bq ≤ ((headSpec (ws_ yX1_nextToExpire cX1_nextToExpire 5 (Option.some Jvm.ClassFile.FieldType.int)) ({ frames := 15, cells := b, slots := b, locals := 464 })).room).slots) → lv_has ls 5 [(0, .ref x0), (1, .int x1), (2, .int x2), (3, .int x3)] → W p l e (headSpec (ws_ yX1_nextToExpire cX1_nextToExpire 5 (Option.some Jvm.ClassFile.FieldType.int)) ({ frames := 15, cells := b, slots := b, locals := 464 })).room s m ([.ref t0, .int p1] : List Value).toArray below meth c H locs cells slots (vx_MQ below (wQ G (wqI Q)) (wXC G Xp) ([.ref t0, .int p1] : List Value).toArray s b b (wA G)) (F0 m 9 ls [])), ∀ (x0 : Nat) (x1 : Int32) (x2 : Int32) (x3 : Int32) (M : wM) (bq : Nat) (H : Heap) (locs : List Loc) (ls : Array Slot) (cells slots : Nat), B_X1_nextToExpire_9 G rec9 Q Xp x0 x1 x2 x3 M bq → wR G M H → va_S (wA G) s.heap H locs → (cells + bq ≤ ((headSpec (ws_ yX1_nextToExpire cX1_nextToExpire 5 (Option.some Jvm.ClassFile.FieldType.int)) ({ frames := 15, cells := b, slots := b, locals := 464 })).room).cells ∧ slots + bq ≤ ((headSpec (ws_ yX1_nextToExpire cX1_nextToExpire 5 (Option.some Jvm.ClassFile.FieldType.int)) ({ frames := 15, cells := b, slots := b, locals := 464 })).room).slots) → lv_has ls 5 [(0, .ref x0), (1, .int x1), (2, .int x2), (3, .int x3)] → W p l e (headSpec (ws_ yX1_nextToExpire cX1_nextToExpire 5 (Option.some Jvm.ClassFile.FieldType.int)) ({ frames := 15, cells := b, slots := b, locals := 464 })).room s m ([.ref t0, .int p1] : List Value).toArray below meth c H locs cells slots (vx_MQ below (wQ G (wqI Q)) (wXC G Xp) ([.ref t0, .int p1] : List Value).toArray s b b (wA G)) (F0 m 9 ls []) := by
    intro rec9 hrec9 x0 x1 x2 x3 M bq H locs ls cells slots hp hM hS hB hl
    refine lv_iload_n hx hb dX1_nextToExpire_9 rfl (lv_at hl 3 rfl) ?_
    refine lv_aload_n hx hb dX1_nextToExpire_10 rfl (lv_at hl 0 rfl) ?_
    refine x_getA X hC.1 hM (ci := 0) (C := RX1) (T := TX1) (N := 8) rfl in_X1 0 (by decide) q973 (fun _ h9 => h9) dX1_nextToExpire_11 hp (fun a1 hp => ?_)
    refine x_getAN X hC.1 hM (ci := 1) (C := RX2) (T := TX2) (N := 9) rfl in_X2 1 (by decide) q920 (fun _ h9 => h9) dX1_nextToExpire_14 hp (fun a2 hp => ?_)
    obtain ⟨hrec, hp⟩ := hp
    refine x_call0I5 (vx_runF (hC.1.1.1 16 (RJ2, TJ2, 3) rfl).2 (C := "java/util/ArrayList") (As := []) (rest := [.int x3]) X (P_J2_size_ok (l := l) hl0 hp) (va_cwF 0 hts (lw_app (w_mem4 q1540 q496 q498 q153) (lw_meth q500)) rfl rfl rfl (wfw_13 hC.1) (by decide +kernel) ⟨Nat.le_of_ble_eq_true rfl, Nat.le_of_ble_eq_true rfl⟩) ⟨wPc.blind, w_recv hC.1 hM (ci := 16) (q := (RJ2, TJ2, 3)) rfl hrec, w_pre hC hM hS _⟩ rfl rfl hl.1 rfl (lv_room (Nat.le_of_ble_eq_true rfl)) dX1_nextToExpire_17 (w_room0 hB)) hS (w_room0 hB) (fun _ _ _ _ _ _ h => False.elim h) (fun v5 M3 H locs hp hM hS => ?_)
    refine lv_icmp_ge (tgt := 101) hx hb dX1_nextToExpire_22 (by decide) (fun hc => ?_) (fun hc => ?_)
    · have hp := oIf.t hp hc
      refine lv_iload_n hx hb dX1_nextToExpire_101 rfl (lv_at hl 2 rfl) ?_
      exact x_iret X hr hlk hM hS (w_fin hB) dX1_nextToExpire_102 ⟨_, rfl, hp⟩
    · have hp := oIf.f hp hc
      refine lv_aload_n hx hb dX1_nextToExpire_25 rfl (lv_at hl 0 rfl) ?_
      refine x_getA X hC.1 hM (ci := 0) (C := RX1) (T := TX1) (N := 8) rfl in_X1 0 (by decide) q973 (fun _ h9 => h9) dX1_nextToExpire_26 hp (fun a6 hp => ?_)
      refine x_getAN X hC.1 hM (ci := 1) (C := RX2) (T := TX2) (N := 9) rfl in_X2 1 (by decide) q920 (fun _ h9 => h9) dX1_nextToExpire_29 hp (fun a7 hp => ?_)
      refine lv_iload_n hx hb dX1_nextToExpire_32 rfl (lv_at hl 3 rfl) ?_
      obtain ⟨hrec, hp⟩ := hp
      refine x_call0R5 (vx_runF (hC.1.1.1 16 (RJ2, TJ2, 3) rfl).2 (C := "java/util/ArrayList") (As := [.int x3]) (rest := []) X (P_J2_get_ok (l := l) hl0 hp) (va_cwF 1 hts (lw_app (w_mem4 q1667 q522 q524 q153) (lw_meth q526)) rfl rfl rfl (wfw_8 hC.1) (by decide +kernel) ⟨Nat.le_of_ble_eq_true rfl, Nat.le_of_ble_eq_true rfl⟩) ⟨wPc.blind, w_recv hC.1 hM (ci := 16) (q := (RJ2, TJ2, 3)) rfl hrec, w_pre hC hM hS _⟩ rfl rfl hl.1 rfl (lv_room (Nat.le_of_ble_eq_true rfl)) dX1_nextToExpire_33 (w_room0 hB)) hS (w_room0 hB) (fun _ _ _ _ _ _ h => False.elim h) (fun r10 M8 H locs hp hM hS => ?_)
      refine x_cast (r := r10) X hC.1 hM q1686 (ci := 9) rfl (Or.inl rfl) dX1_nextToExpire_38 hp (fun hp => ?_)
      refine x_astore (r := r10) (lv' := [(4, va_rf r10), (0, .ref x0), (1, .int x1), (2, .int x2), (3, .int x3)]) hx hb dX1_nextToExpire_41 hl (by decide) rfl (fun ls hl => ?_)
      refine x_aload (r := r10) hx hb dX1_nextToExpire_43 (lv_at hl 0 rfl) ?_
      obtain ⟨a11, ea, hqa11⟩ := hp
      subst ea
      have hp := hqa11
      have hl : lv_has ls 5 [(4, .ref a11), (0, .ref x0), (1, .int x1), (2, .int x2), (3, .int x3)] := hl
      refine x_getIN X hC.1 hM (ci := 9) (C := RX12) (T := TX12) (N := 8) rfl in_X12 2 (by decide) q2086 (fun _ h9 => h9) dX1_nextToExpire_45 hp (fun v12 hp => ?_)
      refine lv_iload_n hx hb dX1_nextToExpire_48 rfl (lv_at hl 2 rfl) ?_
      refine lv_icmp_ne (tgt := 95) hx hb dX1_nextToExpire_49 (by decide) (fun hc => ?_) (fun hc => ?_)
      · have hp := oIf.f hp hc
        exact hB95 rec9 hrec9 _ _ _ _ _ _ _ _ _ _ _ hp hM hS hB (lv_sub hl [1, 2, 3, 4] rfl)
      · have hp := oIf.t hp hc
        refine lv_aload hx hb dX1_nextToExpire_52 (lv_at hl 0 rfl) ?_
        refine x_getIN X hC.1 hM (ci := 9) (C := RX12) (T := TX12) (N := 8) rfl in_X12 4 (by decide) q2091 (fun _ h9 => h9) dX1_nextToExpire_54 hp (fun v13 hp => ?_)
        refine lv_iconst (v := 2) hx hb dX1_nextToExpire_57 (by decide) ?_
        refine lv_icmp_ne (tgt := 95) hx hb dX1_nextToExpire_58 (by decide) (fun hc => ?_) (fun hc => ?_)
        · have hp := oIf.f hp hc
          exact hB95 rec9 hrec9 _ _ _ _ _ _ _ _ _ _ _ hp hM hS hB (lv_sub hl [1, 2, 3, 4] rfl)
        · have hp := oIf.t hp hc
          refine lv_iload_n hx hb dX1_nextToExpire_61 rfl (lv_at hl 3 rfl) ?_
          refine lv_iconst (v := (-1)) hx hb dX1_nextToExpire_62 (by decide) ?_
          refine lv_icmp_eq (tgt := 93) hx hb dX1_nextToExpire_63 (by decide) (fun hc => ?_) (fun hc => ?_)
          · have hp := oIf.t hp hc
            exact hB93 rec9 hrec9 _ _ _ _ _ _ _ _ _ _ hp hM hS hB (lv_sub hl [1, 2, 4] rfl)
          · have hp := oIf.f hp hc
            refine lv_aload hx hb dX1_nextToExpire_66 (lv_at hl 0 rfl) ?_
            refine x_getIN X hC.1 hM (ci := 9) (C := RX12) (T := TX12) (N := 8) rfl in_X12 5 (by decide) q2094 (fun _ h9 => h9) dX1_nextToExpire_68 hp (fun v14 hp => ?_)
            refine lv_aload_n hx hb dX1_nextToExpire_71 rfl (lv_at hl 1 rfl) ?_
            refine x_getA X hC.1 hM (ci := 0) (C := RX1) (T := TX1) (N := 8) rfl in_X1 0 (by decide) q973 (fun _ h9 => h9) dX1_nextToExpire_72 hp (fun a15 hp => ?_)
            refine x_getAN X hC.1 hM (ci := 1) (C := RX2) (T := TX2) (N := 9) rfl in_X2 1 (by decide) q920 (fun _ h9 => h9) dX1_nextToExpire_75 hp (fun a16 hp => ?_)
            refine lv_iload_n hx hb dX1_nextToExpire_78 rfl (lv_at hl 3 rfl) ?_
            obtain ⟨hrec, hp⟩ := hp
            refine x_call0R5 (vx_runF (hC.1.1.1 16 (RJ2, TJ2, 3) rfl).2 (C := "java/util/ArrayList") (As := [.int x2]) (rest := [.int v14]) X (P_J2_get_ok (l := l) hl0 hp) (va_cwF 1 hts (lw_app (w_mem4 q1667 q522 q524 q153) (lw_meth q526)) rfl rfl rfl (wfw_8 hC.1) (by decide +kernel) ⟨Nat.le_of_ble_eq_true rfl, Nat.le_of_ble_eq_true rfl⟩) ⟨wPc.blind, w_recv hC.1 hM (ci := 16) (q := (RJ2, TJ2, 3)) rfl hrec, w_pre hC hM hS _⟩ rfl rfl hl.1 rfl (lv_room (Nat.le_of_ble_eq_true rfl)) dX1_nextToExpire_79 (w_room0 hB)) hS (w_room0 hB) (fun _ _ _ _ _ _ h => False.elim h) (fun r19 M17 H locs hp hM hS => ?_)
            refine x_cast (r := r19) X hC.1 hM q1686 (ci := 9) rfl (Or.inl rfl) dX1_nextToExpire_84 hp (fun hp => ?_)
            obtain ⟨a20, ea, hqa20⟩ := hp
            subst ea
            have hp := hqa20
            refine x_getIN X hC.1 hM (ci := 9) (C := RX12) (T := TX12) (N := 8) rfl in_X12 5 (by decide) q2094 (fun _ h9 => h9) dX1_nextToExpire_87 hp (fun v21 hp => ?_)
            refine lv_icmp_ge (tgt := 95) hx hb dX1_nextToExpire_90 (by decide) (fun hc => ?_) (fun hc => ?_)
            · have hp := oIf.t hp hc
              exact hB95 rec9 hrec9 _ _ _ _ _ _ _ _ _ _ _ hp hM hS hB (lv_sub hl [1, 2, 3, 4] rfl)
            · have hp := oIf.f hp hc
              exact hB93 rec9 hrec9 _ _ _ _ _ _ _ _ _ _ hp hM hS hB (lv_sub hl [1, 2, 4] rfl)
  have hL9 : ∀ (n : Nat), ∀ (x0 : Nat) (x1 : Int32) (x2 : Int32) (x3 : Int32) (M : wM) (bq : Nat) (H : Heap) (locs : List Loc) (ls : Array Slot) (cells slots : Nat), L_X1_nextToExpire_9 G Q Xp n x0 x1 x2 x3 M bq → wR G M H → va_S (wA G) s.heap H locs → (cells + bq ≤ ((headSpec (ws_ yX1_nextToExpire cX1_nextToExpire 5 (Option.some Jvm.ClassFile.FieldType.int)) ({ frames := 15, cells := b, slots := b, locals := 464 })).room).cells ∧ slots + bq ≤ ((headSpec (ws_ yX1_nextToExpire cX1_nextToExpire 5 (Option.some Jvm.ClassFile.FieldType.int)) ({ frames := 15, cells := b, slots := b, locals := 464 })).room).slots) → lv_has ls 5 [(0, .ref x0), (1, .int x1), (2, .int x2), (3, .int x3)] → W p l e (headSpec (ws_ yX1_nextToExpire cX1_nextToExpire 5 (Option.some Jvm.ClassFile.FieldType.int)) ({ frames := 15, cells := b, slots := b, locals := 464 })).room s m ([.ref t0, .int p1] : List Value).toArray below meth c H locs cells slots (vx_MQ below (wQ G (wqI Q)) (wXC G Xp) ([.ref t0, .int p1] : List Value).toArray s b b (wA G)) (F0 m 9 ls []) := by
    intro n
    induction n with
    | zero => intro _ _ _ _ _ _ _ _ _ _ _ hp; exact False.elim hp
    | succ n ih => intro x0 x1 x2 x3 M bq H locs ls cells slots hp hM hS hB hl; exact hB9 (L_X1_nextToExpire_9 G Q Xp n) ih _ _ _ _ _ _ _ _ _ _ _ hp hM hS hB hl
  refine lv_aload_n hx hb dX1_nextToExpire_0 rfl (lv_at hl 0 rfl) ?_
  refine lv_iload_n hx hb dX1_nextToExpire_1 rfl (lv_at hl 1 rfl) ?_
  obtain ⟨hrec, hp⟩ := hp
  obtain ⟨c2, hc1, hp⟩ := hp
  refine x_callV (vx_runV (As := [.int p1]) (rest := []) X (P_X1_checkZone_ok (l := l) hl0 hp) (cwV 1 hts (lw_V q2196 q2198 qs35 q148 q2199) rfl rfl rfl (by decide +kernel) ⟨Nat.le_of_ble_eq_true rfl, Nat.le_of_ble_eq_true rfl⟩) ⟨wPc.blind, w_recv hC.1 hM (ci := 0) (q := (RX1, TX1, 8)) rfl hrec, w_pre hC hM hS _⟩ rfl rfl hl.1 rfl (lv_room (Nat.le_of_ble_eq_true rfl)) dX1_nextToExpire_2 (w_room hB hc1)) hS hB hc1 (fun E ce q3 M4 H locs hp hM hS hB hcell hcv hcl => ?_) (fun M1 H locs hp hM hS hB => ?_)
  · obtain ⟨rfl, hp⟩ := hp
    exact x_out hlk (fun x h => (hnt x h).elim) hM hS (w_fin hB) hcell hcv hcl hp
  · refine lv_iconst (v := (-1)) hx hb dX1_nextToExpire_5 (by decide) ?_
    refine lv_istore_n (lv' := [(2, .int (-1 : Int32)), (0, .ref t0), (1, .int p1)]) hx hb dX1_nextToExpire_6 rfl hl (by decide) rfl (fun ls hl => ?_)
    refine lv_iconst (v := 0) hx hb dX1_nextToExpire_7 (by decide) ?_
    refine lv_istore_n (lv' := [(3, .int (0 : Int32)), (2, .int (-1 : Int32)), (0, .ref t0), (1, .int p1)]) hx hb dX1_nextToExpire_8 rfl hl (by decide) rfl (fun ls hl => ?_)
    obtain ⟨n, hp⟩ := hp
    exact hL9 n _ _ _ _ _ _ _ _ _ _ _ hp hM hS hB (lv_sub hl [2, 3, 1, 0] rfl)
def B_X1_offerIn_132 (G : wG) (Q : Int32 → wM → Prop) (Xp : String → Nat → wM → Prop) (y0 : Int32) (M : wM) (bq : Nat) : Prop :=
  Q y0 M
def B_X1_offerIn_95 (G : wG) (Q : Int32 → wM → Prop) (Xp : String → Nat → wM → Prop) (x0 : Nat) (x1 : Int32) (x4 : Nat) (M : wM) (bq : Nat) : Prop :=
  oGetA M x4 1 1 (fun a1 => oIs M a1 16 (P_J2_get G a1 x1 M (fun r4 M2 => oCast M2 r4 9 (oRef r4 (fun a5 => oGetI M2 a5 9 4 (fun v6 => oIf (v6 = 0) (B_X1_offerIn_132 G Q Xp (-1 : Int32) M2 bq) (oGetI M2 x4 1 8 (fun v7 => oGetA M2 x0 0 0 (fun a8 => oGetI M2 a8 1 8 (fun v9 => B_X1_offerIn_132 G Q Xp (v7 - v9) M2 bq))))))))))
def B_X1_offerIn_47 (G : wG) (rec47 : Nat → Int32 → Nat → Int32 → wM → Nat → Prop) (Q : Int32 → wM → Prop) (Xp : String → Nat → wM → Prop) (x0 : Nat) (x1 : Int32) (x4 : Nat) (x5 : Int32) (M : wM) (bq : Nat) : Prop :=
  oGetA M x4 1 1 (fun a1 => oIs M a1 16 (P_J2_get G a1 x1 M (fun r4 M2 => oCast M2 r4 9 (oRef r4 (fun a5 => oGetI M2 a5 9 4 (fun v6 => oIf (v6 = 0) (oGetI M2 x4 1 8 (fun v7 => oIf (x5 ≤ v7) (B_X1_offerIn_95 G Q Xp x0 x1 x4 M2 bq) (oIs M2 x4 1 (P_X2_nextEvent G x4 M2 (fun v10 M8 => oIs M8 x4 1 (P_X2_passTo G x4 (if v10 < x5 then v10 else x5) M8 (fun M11 => rec47 x0 x1 x4 x5 M11 bq))))))) (B_X1_offerIn_95 G Q Xp x0 x1 x4 M2 bq)))))))
def L_X1_offerIn_47 (G : wG) (Q : Int32 → wM → Prop) (Xp : String → Nat → wM → Prop) : Nat → Nat → Int32 → Nat → Int32 → wM → Nat → Prop
  | 0 => fun _ _ _ _ _ _ => False
  | n + 1 => B_X1_offerIn_47 G (L_X1_offerIn_47 G Q Xp n) Q Xp
def P_X1_offerIn (G : wG) (t0 : Nat) (p1 : Int32) (p2 : Int32) (b : Nat) (M : wM) (Q : Int32 → wM → Prop) (Xp : String → Nat → wM → Prop) : Prop :=
  oIs M t0 0 (∃ c2, c2 ≤ b ∧ P_X1_permitAt G t0 p1 c2 M (fun r3 M1 => P_X1_inRange G p2 (1 : Int32) (60 : Int32) M1 (fun r6 M4 => ∃ c8, c8 ≤ (b - c2) ∧ P_X1_checkArgument G (wb r6) c8 M4 (fun M7 => oRef r3 (fun a9 => oGetI M7 a9 9 4 (fun v10 => oIf (v10 = 0) (oGetA M7 t0 0 0 (fun a11 => oIs M7 a11 1 (∃ c13, c13 ≤ ((b - c2) - c8) ∧ P_X2_copy G a11 c13 M7 (fun r14 M12 => oRef r14 (fun a15 => oGetI M12 a15 1 8 (fun v16 => ∃ n, L_X1_offerIn_47 G Q Xp n t0 p1 a15 (v16 + (p2 * (1440 : Int32))) M12 (((b - c2) - c8) - c13))))))) (Q (-1 : Int32) M7)))) (fun E q17 M18 => (E = "java/lang/IllegalArgumentException" ∧ Xp E q17 M18)))) (fun E q19 M20 => (E = "java/lang/IndexOutOfBoundsException" ∧ Xp E q19 M20)))
set_option maxHeartbeats 4000000 in
set_option maxRecDepth 100000 in
theorem P_X1_offerIn_ok {l : Launch} (hl0 : l.stackTraces = false) {G : wG} {t0 : Nat} {p1 : Int32} {p2 : Int32} {b : Nat} {M : wM} {Q : Int32 → wM → Prop} {Xp : String → Nat → wM → Prop} (hp : P_X1_offerIn G t0 p1 p2 b M Q Xp) : wMet l yX1_offerIn (ws_ yX1_offerIn cX1_offerIn 6 (Option.some Jvm.ClassFile.FieldType.int)) 21 599 G [.ref t0, .int p1, .int p2] M b (wqI Q) Xp := by
  refine vx_ofW (cc := cX1_offerIn) (maxL := 6) (ret := Option.some Jvm.ClassFile.FieldType.int) (by decide) rfl ?_
  intro p e s m args below meth c s₁ B hml hnt hv
  obtain ⟨rfl, hM, hK, hZ, hz⟩ := hv
  have hC : wC G s := ⟨hK, hZ, hz⟩
  have hx := B.exec
  have hb := B.bytes
  have hr := B.returns
  have hts := atoms_spec (ws := (ws_ yX1_offerIn cX1_offerIn 6 (Option.some Jvm.ClassFile.FieldType.int))) B.pre
  have hts : ∀ w ∈ lw_all, w.before _ s = true := fun w h => hts w (List.mem_cons_of_mem _ h)
  have hown : s.vm.findClass RX1 = some m.cls := findClass_of_methodNamed B.named
  have hlk := B.notSynchronized
  have X : CallFix p m c cX1_offerIn 6 s ([.ref t0, .int p1, .int p2] : List Value).toArray lw_all RX1 := ⟨hx, hb, hml, hown, hts⟩
  have hS : va_S (wA G) s.heap s.heap [] := va_S.rf
  have hl := lv_entry ([.ref t0, .int p1, .int p2]) (n := 6) (Nat.le_of_ble_eq_true rfl)
  rw [lg_entry_eq]
  generalize (lg_sl ([.ref t0, .int p1, .int p2]) ++ List.replicate (6 - (lg_sl ([.ref t0, .int p1, .int p2])).length) Slot.unset).toArray = ls at hl ⊢
  have hl : lv_has ls 6 [(0, .ref t0), (1, .int p1), (2, .int p2)] := hl
  have hB : 0 + b ≤ ((headSpec (ws_ yX1_offerIn cX1_offerIn 6 (Option.some Jvm.ClassFile.FieldType.int)) ({ frames := 21, cells := b, slots := b, locals := 599 })).room).cells ∧ 0 + b ≤ ((headSpec (ws_ yX1_offerIn cX1_offerIn 6 (Option.some Jvm.ClassFile.FieldType.int)) ({ frames := 21, cells := b, slots := b, locals := 599 })).room).slots := ⟨Nat.le_of_eq (Nat.zero_add b), Nat.le_of_eq (Nat.zero_add b)⟩
  have hB132 : ∀ (y0 : Int32) (M : wM) (bq : Nat) (H : Heap) (locs : List Loc) (ls : Array Slot) (cells slots : Nat), B_X1_offerIn_132 G Q Xp y0 M bq → wR G M H → va_S (wA G) s.heap H locs → (cells + bq ≤ ((headSpec (ws_ yX1_offerIn cX1_offerIn 6 (Option.some Jvm.ClassFile.FieldType.int)) ({ frames := 21, cells := b, slots := b, locals := 599 })).room).cells ∧ slots + bq ≤ ((headSpec (ws_ yX1_offerIn cX1_offerIn 6 (Option.some Jvm.ClassFile.FieldType.int)) ({ frames := 21, cells := b, slots := b, locals := 599 })).room).slots) → lv_has ls 6 [] → W p l e (headSpec (ws_ yX1_offerIn cX1_offerIn 6 (Option.some Jvm.ClassFile.FieldType.int)) ({ frames := 21, cells := b, slots := b, locals := 599 })).room s m ([.ref t0, .int p1, .int p2] : List Value).toArray below meth c H locs cells slots (vx_MQ below (wQ G (wqI Q)) (wXC G Xp) ([.ref t0, .int p1, .int p2] : List Value).toArray s b b (wA G)) (F0 m 132 ls [.int y0]) := by
    intro y0 M bq H locs ls cells slots hp hM hS hB hl
    exact x_iret X hr hlk hM hS (w_fin hB) dX1_offerIn_132 ⟨_, rfl, hp⟩
  have hB95 : ∀ (x0 : Nat) (x1 : Int32) (x4 : Nat) (M : wM) (bq : Nat) (H : Heap) (locs : List Loc) (ls : Array Slot) (cells slots : Nat), B_X1_offerIn_95 G Q Xp x0 x1 x4 M bq → wR G M H → va_S (wA G) s.heap H locs → (cells + bq ≤ ((headSpec (ws_ yX1_offerIn cX1_offerIn 6 (Option.some Jvm.ClassFile.FieldType.int)) ({ frames := 21, cells := b, slots := b, locals := 599 })).room).cells ∧ slots + bq ≤ ((headSpec (ws_ yX1_offerIn cX1_offerIn 6 (Option.some Jvm.ClassFile.FieldType.int)) ({ frames := 21, cells := b, slots := b, locals := 599 })).room).slots) → lv_has ls 6 [(0, .ref x0), (1, .int x1), (4, .ref x4)] → W p l e (headSpec (ws_ yX1_offerIn cX1_offerIn 6 (Option.some Jvm.ClassFile.FieldType.int)) ({ frames := 21, cells := b, slots := b, locals := 599 })).room s m ([.ref t0, .int p1, .int p2] : List Value).toArray below meth c H locs cells slots (vx_MQ below (wQ G (wqI Q)) (wXC G Xp) ([.ref t0, .int p1, .int p2] : List Value).toArray s b b (wA G)) (F0 m 95 ls []) := by
    intro x0 x1 x4 M bq H locs ls cells slots hp hM hS hB hl
    refine lv_aload hx hb dX1_offerIn_95 (lv_at hl 2 rfl) ?_
    refine x_getAN X hC.1 hM (ci := 1) (C := RX2) (T := TX2) (N := 9) rfl in_X2 1 (by decide) q920 (fun _ h9 => h9) dX1_offerIn_97 hp (fun a1 hp => ?_)
    refine lv_iload_n hx hb dX1_offerIn_100 rfl (lv_at hl 1 rfl) ?_
    obtain ⟨hrec, hp⟩ := hp
    refine x_call0R5 (vx_runF (hC.1.1.1 16 (RJ2, TJ2, 3) rfl).2 (C := "java/util/ArrayList") (As := [.int x1]) (rest := []) X (P_J2_get_ok (l := l) hl0 hp) (va_cwF 1 hts (lw_app (w_mem4 q1667 q522 q524 q153) (lw_meth q526)) rfl rfl rfl (wfw_8 hC.1) (by decide +kernel) ⟨Nat.le_of_ble_eq_true rfl, Nat.le_of_ble_eq_true rfl⟩) ⟨wPc.blind, w_recv hC.1 hM (ci := 16) (q := (RJ2, TJ2, 3)) rfl hrec, w_pre hC hM hS _⟩ rfl rfl hl.1 rfl (lv_room (Nat.le_of_ble_eq_true rfl)) dX1_offerIn_101 (w_room0 hB)) hS (w_room0 hB) (fun _ _ _ _ _ _ h => False.elim h) (fun r4 M2 H locs hp hM hS => ?_)
    refine x_cast (r := r4) X hC.1 hM q1686 (ci := 9) rfl (Or.inl rfl) dX1_offerIn_106 hp (fun hp => ?_)
    obtain ⟨a5, ea, hqa5⟩ := hp
    subst ea
    have hp := hqa5
    refine x_getIN X hC.1 hM (ci := 9) (C := RX12) (T := TX12) (N := 8) rfl in_X12 4 (by decide) q2091 (fun _ h9 => h9) dX1_offerIn_109 hp (fun v6 hp => ?_)
    refine lv_if_ne (tgt := 119) hx hb dX1_offerIn_112 (by decide) (fun hc => ?_) (fun hc => ?_)
    · have hp := oIf.f hp hc
      refine lv_aload hx hb dX1_offerIn_119 (lv_at hl 2 rfl) ?_
      refine x_getIN X hC.1 hM (ci := 1) (C := RX2) (T := TX2) (N := 9) rfl in_X2 8 (by decide) q934 (fun _ h9 => h9) dX1_offerIn_121 hp (fun v7 hp => ?_)
      refine lv_aload_n hx hb dX1_offerIn_124 rfl (lv_at hl 0 rfl) ?_
      refine x_getA X hC.1 hM (ci := 0) (C := RX1) (T := TX1) (N := 8) rfl in_X1 0 (by decide) q973 (fun _ h9 => h9) dX1_offerIn_125 hp (fun a8 hp => ?_)
      refine x_getIN X hC.1 hM (ci := 1) (C := RX2) (T := TX2) (N := 9) rfl in_X2 8 (by decide) q934 (fun _ h9 => h9) dX1_offerIn_128 hp (fun v9 hp => ?_)
      refine lv_isub hx hb dX1_offerIn_131 ?_
      exact hB132 _ _ _ _ _ _ _ _ hp hM hS hB (lv_sub hl [] rfl)
    · have hp := oIf.t hp hc
      refine lv_iconst (v := (-1)) hx hb dX1_offerIn_115 (by decide) ?_
      refine lv_goto (tgt := 132) hx hb dX1_offerIn_116 (by decide) ?_
      exact hB132 _ _ _ _ _ _ _ _ hp hM hS hB (lv_sub hl [] rfl)
  have hB47 : ∀ (rec47 : Nat → Int32 → Nat → Int32 → wM → Nat → Prop) (hrec47 : ∀ (x0 : Nat) (x1 : Int32) (x4 : Nat) (x5 : Int32) (M : wM) (bq : Nat) (H : Heap) (locs : List Loc) (ls : Array Slot) (cells slots : Nat), rec47 x0 x1 x4 x5 M bq → wR G M H → va_S (wA G) s.heap H locs → (cells + bq ≤ ((headSpec (ws_ yX1_offerIn cX1_offerIn 6 (Option.some Jvm.ClassFile.FieldType.int)) ({ frames := 21, cells := b, slots := b, locals := 599 })).room).cells ∧ slots + bq ≤ ((headSpec (ws_ yX1_offerIn cX1_offerIn 6 (Option.some Jvm.ClassFile.FieldType.int)) ({ frames := 21, cells := b, slots := b, locals := 599 })).room).slots) → lv_has ls 6 [(0, .ref x0), (1, .int x1), (4, .ref x4), (5, .int x5)] → W p l e (headSpec (ws_ yX1_offerIn cX1_offerIn 6 (Option.some Jvm.ClassFile.FieldType.int)) ({ frames := 21, cells := b, slots := b, locals := 599 })).room s m ([.ref t0, .int p1, .int p2] : List Value).toArray below meth c H locs cells slots (vx_MQ below (wQ G (wqI Q)) (wXC G Xp) ([.ref t0, .int p1, .int p2] : List Value).toArray s b b (wA G)) (F0 m 47 ls [])), ∀ (x0 : Nat) (x1 : Int32) (x4 : Nat) (x5 : Int32) (M : wM) (bq : Nat) (H : Heap) (locs : List Loc) (ls : Array Slot) (cells slots : Nat), B_X1_offerIn_47 G rec47 Q Xp x0 x1 x4 x5 M bq → wR G M H → va_S (wA G) s.heap H locs → (cells + bq ≤ ((headSpec (ws_ yX1_offerIn cX1_offerIn 6 (Option.some Jvm.ClassFile.FieldType.int)) ({ frames := 21, cells := b, slots := b, locals := 599 })).room).cells ∧ slots + bq ≤ ((headSpec (ws_ yX1_offerIn cX1_offerIn 6 (Option.some Jvm.ClassFile.FieldType.int)) ({ frames := 21, cells := b, slots := b, locals := 599 })).room).slots) → lv_has ls 6 [(0, .ref x0), (1, .int x1), (4, .ref x4), (5, .int x5)] → W p l e (headSpec (ws_ yX1_offerIn cX1_offerIn 6 (Option.some Jvm.ClassFile.FieldType.int)) ({ frames := 21, cells := b, slots := b, locals := 599 })).room s m ([.ref t0, .int p1, .int p2] : List Value).toArray below meth c H locs cells slots (vx_MQ below (wQ G (wqI Q)) (wXC G Xp) ([.ref t0, .int p1, .int p2] : List Value).toArray s b b (wA G)) (F0 m 47 ls []) := by
    intro rec47 hrec47 x0 x1 x4 x5 M bq H locs ls cells slots hp hM hS hB hl
    refine lv_aload hx hb dX1_offerIn_47 (lv_at hl 2 rfl) ?_
    refine x_getAN X hC.1 hM (ci := 1) (C := RX2) (T := TX2) (N := 9) rfl in_X2 1 (by decide) q920 (fun _ h9 => h9) dX1_offerIn_49 hp (fun a1 hp => ?_)
    refine lv_iload_n hx hb dX1_offerIn_52 rfl (lv_at hl 1 rfl) ?_
    obtain ⟨hrec, hp⟩ := hp
    refine x_call0R5 (vx_runF (hC.1.1.1 16 (RJ2, TJ2, 3) rfl).2 (C := "java/util/ArrayList") (As := [.int x1]) (rest := []) X (P_J2_get_ok (l := l) hl0 hp) (va_cwF 1 hts (lw_app (w_mem4 q1667 q522 q524 q153) (lw_meth q526)) rfl rfl rfl (wfw_8 hC.1) (by decide +kernel) ⟨Nat.le_of_ble_eq_true rfl, Nat.le_of_ble_eq_true rfl⟩) ⟨wPc.blind, w_recv hC.1 hM (ci := 16) (q := (RJ2, TJ2, 3)) rfl hrec, w_pre hC hM hS _⟩ rfl rfl hl.1 rfl (lv_room (Nat.le_of_ble_eq_true rfl)) dX1_offerIn_53 (w_room0 hB)) hS (w_room0 hB) (fun _ _ _ _ _ _ h => False.elim h) (fun r4 M2 H locs hp hM hS => ?_)
    refine x_cast (r := r4) X hC.1 hM q1686 (ci := 9) rfl (Or.inl rfl) dX1_offerIn_58 hp (fun hp => ?_)
    obtain ⟨a5, ea, hqa5⟩ := hp
    subst ea
    have hp := hqa5
    refine x_getIN X hC.1 hM (ci := 9) (C := RX12) (T := TX12) (N := 8) rfl in_X12 4 (by decide) q2091 (fun _ h9 => h9) dX1_offerIn_61 hp (fun v6 hp => ?_)
    refine lv_if_ne (tgt := 95) hx hb dX1_offerIn_64 (by decide) (fun hc => ?_) (fun hc => ?_)
    · have hp := oIf.f hp hc
      exact hB95 _ _ _ _ _ _ _ _ _ _ hp hM hS hB (lv_sub hl [0, 1, 2] rfl)
    · have hp := oIf.t hp hc
      refine lv_aload hx hb dX1_offerIn_67 (lv_at hl 2 rfl) ?_
      refine x_getIN X hC.1 hM (ci := 1) (C := RX2) (T := TX2) (N := 9) rfl in_X2 8 (by decide) q934 (fun _ h9 => h9) dX1_offerIn_69 hp (fun v7 hp => ?_)
      refine lv_iload hx hb dX1_offerIn_72 (lv_at hl 3 rfl) ?_
      refine lv_icmp_ge (tgt := 95) hx hb dX1_offerIn_74 (by decide) (fun hc => ?_) (fun hc => ?_)
      · have hp := oIf.t hp hc
        exact hB95 _ _ _ _ _ _ _ _ _ _ hp hM hS hB (lv_sub hl [0, 1, 2] rfl)
      · have hp := oIf.f hp hc
        refine lv_aload hx hb dX1_offerIn_77 (lv_at hl 2 rfl) ?_
        refine lv_iload hx hb dX1_offerIn_79 (lv_at hl 3 rfl) ?_
        refine lv_aload hx hb dX1_offerIn_81 (lv_at hl 2 rfl) ?_
        obtain ⟨hrec, hp⟩ := hp
        refine x_call0I (vx_runVN (As := []) (rest := [.int x5, .ref x4]) X (P_X2_nextEvent_ok (l := l) hl0 hp) ⟨va_cnB 0 hts (lw_meth q2601) rfl rfl rfl (hC.1.2.2.1 _ q3021 rfl) (hts _ q149) (by decide +kernel) ⟨Nat.le_of_ble_eq_true rfl, Nat.le_of_ble_eq_true rfl⟩, hts _ q2600, hts _ qs52⟩ ⟨wPc.blind, w_recv hC.1 hM (ci := 1) (q := (RX2, TX2, 9)) rfl hrec, w_pre hC hM hS _⟩ rfl rfl hl.1 rfl (lv_room (Nat.le_of_ble_eq_true rfl)) dX1_offerIn_83 (w_room0 hB)) hS (w_room0 hB) (fun _ _ _ _ _ _ h => False.elim h) (fun v10 M8 H locs hp hM hS => ?_)
        refine va_mmin hx hb (hml.trans hl.1.symm) hown (hts _ q2763) (hts _ q347) (hts _ q155) (hts _ q348) (Nat.le_of_ble_eq_true rfl) (Nat.le_of_ble_eq_true rfl) (w_fin hB).1 (w_fin hB).2 dX1_offerIn_86 ?_
        obtain ⟨hrec, hp⟩ := hp
        refine x_call0V (vx_runV (As := [.int (if v10 < x5 then v10 else x5)]) (rest := []) X (P_X2_passTo_ok (l := l) hl0 hp) (cwV 1 hts (lw_V q2594 q2595 q2596 q149 q2597) rfl rfl rfl (by decide +kernel) ⟨Nat.le_of_ble_eq_true rfl, Nat.le_of_ble_eq_true rfl⟩) ⟨wPc.blind, w_recv hC.1 hM (ci := 1) (q := (RX2, TX2, 9)) rfl hrec, w_pre hC hM hS _⟩ rfl rfl hl.1 rfl (lv_room (Nat.le_of_ble_eq_true rfl)) dX1_offerIn_89 (w_room0 hB)) hS (w_room0 hB) (fun _ _ _ _ _ _ h => False.elim h) (fun M11 H locs hp hM hS => ?_)
        refine lv_goto (tgt := 47) hx hb dX1_offerIn_92 (by decide) ?_
        exact hrec47 _ _ _ _ _ _ _ _ _ _ _ hp hM hS hB (lv_sub hl [0, 1, 2, 3] rfl)
  have hL47 : ∀ (n : Nat), ∀ (x0 : Nat) (x1 : Int32) (x4 : Nat) (x5 : Int32) (M : wM) (bq : Nat) (H : Heap) (locs : List Loc) (ls : Array Slot) (cells slots : Nat), L_X1_offerIn_47 G Q Xp n x0 x1 x4 x5 M bq → wR G M H → va_S (wA G) s.heap H locs → (cells + bq ≤ ((headSpec (ws_ yX1_offerIn cX1_offerIn 6 (Option.some Jvm.ClassFile.FieldType.int)) ({ frames := 21, cells := b, slots := b, locals := 599 })).room).cells ∧ slots + bq ≤ ((headSpec (ws_ yX1_offerIn cX1_offerIn 6 (Option.some Jvm.ClassFile.FieldType.int)) ({ frames := 21, cells := b, slots := b, locals := 599 })).room).slots) → lv_has ls 6 [(0, .ref x0), (1, .int x1), (4, .ref x4), (5, .int x5)] → W p l e (headSpec (ws_ yX1_offerIn cX1_offerIn 6 (Option.some Jvm.ClassFile.FieldType.int)) ({ frames := 21, cells := b, slots := b, locals := 599 })).room s m ([.ref t0, .int p1, .int p2] : List Value).toArray below meth c H locs cells slots (vx_MQ below (wQ G (wqI Q)) (wXC G Xp) ([.ref t0, .int p1, .int p2] : List Value).toArray s b b (wA G)) (F0 m 47 ls []) := by
    intro n
    induction n with
    | zero => intro _ _ _ _ _ _ _ _ _ _ _ hp; exact False.elim hp
    | succ n ih => intro x0 x1 x4 x5 M bq H locs ls cells slots hp hM hS hB hl; exact hB47 (L_X1_offerIn_47 G Q Xp n) ih _ _ _ _ _ _ _ _ _ _ _ hp hM hS hB hl
  refine lv_aload_n hx hb dX1_offerIn_0 rfl (lv_at hl 0 rfl) ?_
  refine lv_iload_n hx hb dX1_offerIn_1 rfl (lv_at hl 1 rfl) ?_
  obtain ⟨hrec, hp⟩ := hp
  obtain ⟨c2, hc1, hp⟩ := hp
  refine x_callR (vx_runV (As := [.int p1]) (rest := []) X (P_X1_permitAt_ok (l := l) hl0 hp) (cwV 1 hts (lw_V q2352 q2354 qs41 q148 q2355) rfl rfl rfl (by decide +kernel) ⟨Nat.le_of_ble_eq_true rfl, Nat.le_of_ble_eq_true rfl⟩) ⟨wPc.blind, w_recv hC.1 hM (ci := 0) (q := (RX1, TX1, 8)) rfl hrec, w_pre hC hM hS _⟩ rfl rfl hl.1 rfl (lv_room (Nat.le_of_ble_eq_true rfl)) dX1_offerIn_2 (w_room hB hc1)) hS hB hc1 (fun E ce q19 M20 H locs hp hM hS hB hcell hcv hcl => ?_) (fun r3 M1 H locs hp hM hS hB => ?_)
  · obtain ⟨rfl, hp⟩ := hp
    exact x_out hlk (fun x h => (hnt x h).elim) hM hS (w_fin hB) hcell hcv hcl hp
  · refine x_astore_n (r := r3) (lv' := [(3, va_rf r3), (0, .ref t0), (1, .int p1), (2, .int p2)]) hx hb dX1_offerIn_5 rfl hl (by decide) rfl (fun ls hl => ?_)
    refine lv_iload_n hx hb dX1_offerIn_6 rfl (lv_at hl 3 rfl) ?_
    refine lv_iconst (v := 1) hx hb dX1_offerIn_7 (by decide) ?_
    refine lv_bipush (v := 60) hx hb dX1_offerIn_8 (by decide) ?_
    refine x_call0Z (vx_runS (As := [.int p2, .int (1 : Int32), .int (60 : Int32)]) (rest := []) X (P_X1_inRange_ok (l := l) hl0 hp) (va_cwS 3 hts (lw_S q1012 q1013 q148 q1014) rfl rfl rfl (by decide +kernel) ⟨Nat.le_of_ble_eq_true rfl, Nat.le_of_ble_eq_true rfl⟩) ⟨wPc.blind, w_pre hC hM hS _⟩ rfl rfl hl.1 rfl (lv_room (Nat.le_of_ble_eq_true rfl)) dX1_offerIn_10 (w_room0 hB)) hS (w_room0 hB) (fun _ _ _ _ _ _ h => False.elim h) (fun r6 M4 H locs hp hM hS => ?_)
    obtain ⟨c8, hc1, hp⟩ := hp
    refine x_callV (vx_runS (As := [.int (wb r6)]) (rest := []) X (P_X1_checkArgument_ok (l := l) hl0 hp) (va_cwS 1 hts (lw_S q2325 q2326 q148 q2327) rfl rfl rfl (by decide +kernel) ⟨Nat.le_of_ble_eq_true rfl, Nat.le_of_ble_eq_true rfl⟩) ⟨wPc.blind, w_pre hC hM hS _⟩ rfl rfl hl.1 rfl (lv_room (Nat.le_of_ble_eq_true rfl)) dX1_offerIn_13 (w_room hB hc1)) hS hB hc1 (fun E ce q17 M18 H locs hp hM hS hB hcell hcv hcl => ?_) (fun M7 H locs hp hM hS hB => ?_)
    · obtain ⟨rfl, hp⟩ := hp
      exact x_out hlk (fun x h => (hnt x h).elim) hM hS (w_fin hB) hcell hcv hcl hp
    · refine x_aload_n (r := r3) hx hb dX1_offerIn_16 rfl (lv_at hl 0 rfl) ?_
      obtain ⟨a9, ea, hqa9⟩ := hp
      subst ea
      have hp := hqa9
      have hl : lv_has ls 6 [(3, .ref a9), (0, .ref t0), (1, .int p1), (2, .int p2)] := hl
      refine x_getIN X hC.1 hM (ci := 9) (C := RX12) (T := TX12) (N := 8) rfl in_X12 4 (by decide) q2091 (fun _ h9 => h9) dX1_offerIn_17 hp (fun v10 hp => ?_)
      refine lv_if_eq (tgt := 25) hx hb dX1_offerIn_20 (by decide) (fun hc => ?_) (fun hc => ?_)
      · have hp := oIf.t hp hc
        refine lv_aload_n hx hb dX1_offerIn_25 rfl (lv_at hl 1 rfl) ?_
        refine x_getA X hC.1 hM (ci := 0) (C := RX1) (T := TX1) (N := 8) rfl in_X1 0 (by decide) q973 (fun _ h9 => h9) dX1_offerIn_26 hp (fun a11 hp => ?_)
        obtain ⟨hrec, hp⟩ := hp
        obtain ⟨c13, hc1, hp⟩ := hp
        refine x_callR (vx_runV (As := []) (rest := []) X (P_X2_copy_ok (l := l) hl0 hp) (cwV 0 hts (lw_V q2064 q2065 q2066 q149 q2067) rfl rfl rfl (by decide +kernel) ⟨Nat.le_of_ble_eq_true rfl, Nat.le_of_ble_eq_true rfl⟩) ⟨wPc.blind, w_recv hC.1 hM (ci := 1) (q := (RX2, TX2, 9)) rfl hrec, w_pre hC hM hS _⟩ rfl rfl hl.1 rfl (lv_room (Nat.le_of_ble_eq_true rfl)) dX1_offerIn_29 (w_room hB hc1)) hS hB hc1 (fun _ _ _ _ _ _ h => False.elim h) (fun r14 M12 H locs hp hM hS hB => ?_)
        refine x_astore (r := r14) (lv' := [(4, va_rf r14), (3, .ref a9), (0, .ref t0), (1, .int p1), (2, .int p2)]) hx hb dX1_offerIn_32 hl (by decide) rfl (fun ls hl => ?_)
        refine x_aload (r := r14) hx hb dX1_offerIn_34 (lv_at hl 0 rfl) ?_
        obtain ⟨a15, ea, hqa15⟩ := hp
        subst ea
        have hp := hqa15
        have hl : lv_has ls 6 [(4, .ref a15), (3, .ref a9), (0, .ref t0), (1, .int p1), (2, .int p2)] := hl
        refine x_getIN X hC.1 hM (ci := 1) (C := RX2) (T := TX2) (N := 9) rfl in_X2 8 (by decide) q934 (fun _ h9 => h9) dX1_offerIn_36 hp (fun v16 hp => ?_)
        refine lv_iload_n hx hb dX1_offerIn_39 rfl (lv_at hl 4 rfl) ?_
        refine lv_sipush (v := 1440) hx hb dX1_offerIn_40 (by decide) ?_
        refine lv_imul hx hb dX1_offerIn_43 ?_
        refine lv_iadd hx hb dX1_offerIn_44 ?_
        refine lv_istore (lv' := [(5, .int (v16 + (p2 * (1440 : Int32)))), (4, .ref a15), (3, .ref a9), (0, .ref t0), (1, .int p1), (2, .int p2)]) hx hb dX1_offerIn_45 hl (by decide) rfl (fun ls hl => ?_)
        obtain ⟨n, hp⟩ := hp
        exact hL47 n _ _ _ _ _ _ _ _ _ _ _ hp hM hS hB (lv_sub hl [3, 4, 1, 0] rfl)
      · have hp := oIf.f hp hc
        refine lv_iconst (v := (-1)) hx hb dX1_offerIn_23 (by decide) ?_
        exact x_iret X hr hlk hM hS (w_fin hB) dX1_offerIn_24 ⟨_, rfl, hp⟩
def P_J17_charAt_J18 (G : wG) (t0 : Nat) (p1 : Int32) (M : wM) (Q : Int32 → wM → Prop) : Prop :=
  oGetI M t0 23 1 (fun v1 => oGetA M t0 23 0 (fun a2 => oGetI M t0 23 3 (fun v3 => oAlen .byte M a2 (fun v4 => P_J19_checkIndex G p1 (if (v4 >>> (v1 &&& 31)) < v3 then (v4 >>> (v1 &&& 31)) else v3) M (fun M5 => oIf (v1 = 0) (oIald .byte M5 a2 p1 (fun v7 => narrow .char (.int (((v7 &&& (255 : Int32)).toUInt32 % 65536).toInt32)) = .int (((v7 &&& (255 : Int32)).toUInt32 % 65536).toInt32) ∧ Q (((v7 &&& (255 : Int32)).toUInt32 % 65536).toInt32) M5)) (False))))))
set_option maxHeartbeats 4000000 in
set_option maxRecDepth 100000 in
theorem P_J17_charAt_J18_ok {l : Launch} (hl0 : l.stackTraces = false) {G : wG} {t0 : Nat} {p1 : Int32} {M : wM} {Q : Int32 → wM → Prop} (hp : P_J17_charAt_J18 G t0 p1 M Q) : wMet l yJ17_charAt (ws_ yJ17_charAt cJ17_charAt 5 (Option.some Jvm.ClassFile.FieldType.char)) 14 443 G [.ref t0, .int p1] M 0 (wqI Q) wX0 := by
  refine vx_ofW (cc := cJ17_charAt) (maxL := 5) (ret := Option.some Jvm.ClassFile.FieldType.char) (by decide) rfl ?_
  intro p e s m args below meth c s₁ B hml hnt hv
  obtain ⟨rfl, hM, hK, hZ, hz⟩ := hv
  have hC : wC G s := ⟨hK, hZ, hz⟩
  have hx := B.exec
  have hb := B.bytes
  have hr := B.returns
  have hts := atoms_spec (ws := (ws_ yJ17_charAt cJ17_charAt 5 (Option.some Jvm.ClassFile.FieldType.char))) B.pre
  have hts : ∀ w ∈ lw_all, w.before _ s = true := fun w h => hts w (List.mem_cons_of_mem _ h)
  have hown : s.vm.findClass RJ17 = some m.cls := findClass_of_methodNamed B.named
  have hlk := B.notSynchronized
  have X : CallFix p m c cJ17_charAt 5 s ([.ref t0, .int p1] : List Value).toArray lw_all RJ17 := ⟨hx, hb, hml, hown, hts⟩
  have hS : va_S (wA G) s.heap s.heap [] := va_S.rf
  have hl := lv_entry ([.ref t0, .int p1]) (n := 5) (Nat.le_of_ble_eq_true rfl)
  rw [lg_entry_eq]
  generalize (lg_sl ([.ref t0, .int p1]) ++ List.replicate (5 - (lg_sl ([.ref t0, .int p1])).length) Slot.unset).toArray = ls at hl ⊢
  have hl : lv_has ls 5 [(0, .ref t0), (1, .int p1)] := hl
  refine lv_aload_n hx hb dJ17_charAt_0 rfl (lv_at hl 0 rfl) ?_
  refine x_getI X hC.1 hM (ci := 23) (C := RJ18) (T := TJ18) (N := 4) rfl in_J18 1 (by decide) q617 (fun _ h9 => h9) dJ17_charAt_1 hp (fun v1 hp => ?_)
  refine lv_istore_n (lv' := [(2, .int v1), (0, .ref t0), (1, .int p1)]) hx hb dJ17_charAt_4 rfl hl (by decide) rfl (fun ls hl => ?_)
  refine lv_aload_n hx hb dJ17_charAt_5 rfl (lv_at hl 1 rfl) ?_
  refine x_getA X hC.1 hM (ci := 23) (C := RJ18) (T := TJ18) (N := 4) rfl in_J18 0 (by decide) q616 (fun _ h9 => h9) dJ17_charAt_6 hp (fun a2 hp => ?_)
  refine lv_astore_n (lv' := [(3, .ref a2), (2, .int v1), (0, .ref t0), (1, .int p1)]) hx hb dJ17_charAt_9 rfl hl (by decide) rfl (fun ls hl => ?_)
  refine lv_aload_n hx hb dJ17_charAt_10 rfl (lv_at hl 2 rfl) ?_
  refine x_getI X hC.1 hM (ci := 23) (C := RJ18) (T := TJ18) (N := 4) rfl in_J18 3 (by decide) q620 (fun _ h9 => h9) dJ17_charAt_11 hp (fun v3 hp => ?_)
  refine lv_aload_n hx hb dJ17_charAt_14 rfl (lv_at hl 0 rfl) ?_
  refine x_alen X hC.1 hM (ty := .byte) (by decide) dJ17_charAt_15 hp (fun v4 hp => ?_)
  refine lv_iload_n hx hb dJ17_charAt_16 rfl (lv_at hl 1 rfl) ?_
  refine lv_ishr hx hb dJ17_charAt_17 ?_
  refine va_mmin hx hb (hml.trans hl.1.symm) hown (hts _ q2057) (hts _ q347) (hts _ q155) (hts _ q348) (Nat.le_of_ble_eq_true rfl) (Nat.le_of_ble_eq_true rfl) (Nat.le_refl _) (Nat.le_refl _) dJ17_charAt_18 ?_
  refine lv_istore (lv' := [(4, .int (if (v4 >>> (v1 &&& 31)) < v3 then (v4 >>> (v1 &&& 31)) else v3)), (3, .ref a2), (2, .int v1), (0, .ref t0), (1, .int p1)]) hx hb dJ17_charAt_21 hl (by decide) rfl (fun ls hl => ?_)
  refine lv_iload_n hx hb dJ17_charAt_23 rfl (lv_at hl 4 rfl) ?_
  refine lv_iload hx hb dJ17_charAt_24 (lv_at hl 0 rfl) ?_
  refine x_call0V (vx_runS (As := [.int p1, .int (if (v4 >>> (v1 &&& 31)) < v3 then (v4 >>> (v1 &&& 31)) else v3)]) (rest := []) X (P_J19_checkIndex_ok (l := l) hl0 hp) (va_cwS 2 hts (lw_S q2058 q1125 q171 q1126) rfl rfl rfl (by decide +kernel) ⟨Nat.le_of_ble_eq_true rfl, Nat.le_of_ble_eq_true rfl⟩) ⟨wPc.blind, w_pre hC hM hS _⟩ rfl rfl hl.1 rfl (lv_room (Nat.le_of_ble_eq_true rfl)) dJ17_charAt_26 ⟨Nat.le_refl _, Nat.le_refl _⟩) hS ⟨Nat.le_refl _, Nat.le_refl _⟩ (fun _ _ _ _ _ _ h => False.elim h) (fun M5 H locs hp hM hS => ?_)
  refine lv_iload_n hx hb dJ17_charAt_29 rfl (lv_at hl 2 rfl) ?_
  refine lv_if_ne (tgt := 42) hx hb dJ17_charAt_30 (by decide) (fun hc => ?_) (fun hc => ?_)
  · have hp := oIf.f hp hc
    exact hp.elim
  · have hp := oIf.t hp hc
    refine lv_aload_n hx hb dJ17_charAt_33 rfl (lv_at hl 1 rfl) ?_
    refine lv_iload_n hx hb dJ17_charAt_34 rfl (lv_at hl 4 rfl) ?_
    refine x_bald X hC.1 hM dJ17_charAt_35 hp (fun v7 hp => ?_)
    refine lv_sipush (v := 255) hx hb dJ17_charAt_36 (by decide) ?_
    refine lv_iand hx hb dJ17_charAt_39 ?_
    refine lv_i2c (v := (((v7 &&& (255 : Int32)).toUInt32 % 65536).toInt32)) hx hb dJ17_charAt_40 rfl ?_
    exact x_zret X hr hlk hM hS ⟨Nat.le_refl _, Nat.le_refl _⟩ hp.1 dJ17_charAt_41 ⟨_, rfl, hp.2⟩
def P_J18_charAt (G : wG) (t0 : Nat) (p1 : Int32) (M : wM) (Q : Int32 → wM → Prop) : Prop :=
  oIs M t0 23 (P_J17_charAt_J18 G t0 p1 M (fun v3 M1 => narrow .char (.int v3) = .int v3 ∧ Q v3 M1))
set_option maxHeartbeats 4000000 in
set_option maxRecDepth 100000 in
theorem P_J18_charAt_ok {l : Launch} (hl0 : l.stackTraces = false) {G : wG} {t0 : Nat} {p1 : Int32} {M : wM} {Q : Int32 → wM → Prop} (hp : P_J18_charAt G t0 p1 M Q) : wMet l yJ18_charAt (ws_ yJ18_charAt cJ18_charAt 2 (Option.some Jvm.ClassFile.FieldType.char)) 15 467 G [.ref t0, .int p1] M 0 (wqI Q) wX0 := by
  refine vx_ofW (cc := cJ18_charAt) (maxL := 2) (ret := Option.some Jvm.ClassFile.FieldType.char) (by decide) rfl ?_
  intro p e s m args below meth c s₁ B hml hnt hv
  obtain ⟨rfl, hM, hK, hZ, hz⟩ := hv
  have hC : wC G s := ⟨hK, hZ, hz⟩
  have hx := B.exec
  have hb := B.bytes
  have hr := B.returns
  have hts := atoms_spec (ws := (ws_ yJ18_charAt cJ18_charAt 2 (Option.some Jvm.ClassFile.FieldType.char))) B.pre
  have hts : ∀ w ∈ lw_all, w.before _ s = true := fun w h => hts w (List.mem_cons_of_mem _ h)
  have hown : s.vm.findClass RJ18 = some m.cls := findClass_of_methodNamed B.named
  have hlk := B.notSynchronized
  have X : CallFix p m c cJ18_charAt 2 s ([.ref t0, .int p1] : List Value).toArray lw_all RJ18 := ⟨hx, hb, hml, hown, hts⟩
  have hS : va_S (wA G) s.heap s.heap [] := va_S.rf
  have hl := lv_entry ([.ref t0, .int p1]) (n := 2) (Nat.le_of_ble_eq_true rfl)
  rw [lg_entry_eq]
  generalize (lg_sl ([.ref t0, .int p1]) ++ List.replicate (2 - (lg_sl ([.ref t0, .int p1])).length) Slot.unset).toArray = ls at hl ⊢
  have hl : lv_has ls 2 [(0, .ref t0), (1, .int p1)] := hl
  refine lv_aload_n hx hb dJ18_charAt_0 rfl (lv_at hl 0 rfl) ?_
  refine lv_iload_n hx hb dJ18_charAt_1 rfl (lv_at hl 1 rfl) ?_
  obtain ⟨hrec, hp⟩ := hp
  refine x_call0I (vx_runSU (hC.1.1.1 23 (RJ18, TJ18, 4) rfl).2 (As := [.int p1]) (rest := []) X (P_J17_charAt_J18_ok (l := l) hl0 hp) (va_cwSU 1 hts (lw_app (w_mem5 q2054 q3819 q629 q2055 q169) (lw_meth q2056)) rfl rfl rfl (by decide +kernel) ⟨Nat.le_of_ble_eq_true rfl, Nat.le_of_ble_eq_true rfl⟩) ⟨wPc.blind, w_recv hC.1 hM (ci := 23) (q := (RJ18, TJ18, 4)) rfl hrec, w_pre hC hM hS _⟩ rfl rfl hl.1 rfl (lv_room (Nat.le_of_ble_eq_true rfl)) dJ18_charAt_2 ⟨Nat.le_refl _, Nat.le_refl _⟩) hS ⟨Nat.le_refl _, Nat.le_refl _⟩ (fun _ _ _ _ _ _ h => False.elim h) (fun v3 M1 H locs hp hM hS => ?_)
  exact x_zret X hr hlk hM hS ⟨Nat.le_refl _, Nat.le_refl _⟩ hp.1 dJ18_charAt_5 ⟨_, rfl, hp.2⟩
def B_X1_outputByte_29 (G : wG) (Q : Int32 → wM → Prop) (y0 : Int32) (M : wM) : Prop :=
  Q y0 M
def P_X1_outputByte (G : wG) (t0 : Nat) (p1 : Int32) (M : wM) (Q : Int32 → wM → Prop) : Prop :=
  oGetA M t0 0 7 (fun a1 => oIs M a1 23 (P_J18_length G a1 M (fun v4 M2 => P_X1_inRange G p1 (0 : Int32) (v4 - (1 : Int32)) M2 (fun r7 M5 => oIf (r7 = true) (oGetA M5 t0 0 7 (fun a8 => oIs M5 a8 23 (P_J18_charAt G a8 p1 M5 (fun v11 M9 => B_X1_outputByte_29 G Q v11 M9)))) (B_X1_outputByte_29 G Q (-1 : Int32) M5)))))
set_option maxHeartbeats 4000000 in
set_option maxRecDepth 100000 in
theorem P_X1_outputByte_ok {l : Launch} (hl0 : l.stackTraces = false) {G : wG} {t0 : Nat} {p1 : Int32} {M : wM} {Q : Int32 → wM → Prop} (hp : P_X1_outputByte G t0 p1 M Q) : wMet l yX1_outputByte (ws_ yX1_outputByte cX1_outputByte 2 (Option.some Jvm.ClassFile.FieldType.int)) 16 488 G [.ref t0, .int p1] M 0 (wqI Q) wX0 := by
  refine vx_ofW (cc := cX1_outputByte) (maxL := 2) (ret := Option.some Jvm.ClassFile.FieldType.int) (by decide) rfl ?_
  intro p e s m args below meth c s₁ B hml hnt hv
  obtain ⟨rfl, hM, hK, hZ, hz⟩ := hv
  have hC : wC G s := ⟨hK, hZ, hz⟩
  have hx := B.exec
  have hb := B.bytes
  have hr := B.returns
  have hts := atoms_spec (ws := (ws_ yX1_outputByte cX1_outputByte 2 (Option.some Jvm.ClassFile.FieldType.int))) B.pre
  have hts : ∀ w ∈ lw_all, w.before _ s = true := fun w h => hts w (List.mem_cons_of_mem _ h)
  have hown : s.vm.findClass RX1 = some m.cls := findClass_of_methodNamed B.named
  have hlk := B.notSynchronized
  have X : CallFix p m c cX1_outputByte 2 s ([.ref t0, .int p1] : List Value).toArray lw_all RX1 := ⟨hx, hb, hml, hown, hts⟩
  have hS : va_S (wA G) s.heap s.heap [] := va_S.rf
  have hl := lv_entry ([.ref t0, .int p1]) (n := 2) (Nat.le_of_ble_eq_true rfl)
  rw [lg_entry_eq]
  generalize (lg_sl ([.ref t0, .int p1]) ++ List.replicate (2 - (lg_sl ([.ref t0, .int p1])).length) Slot.unset).toArray = ls at hl ⊢
  have hl : lv_has ls 2 [(0, .ref t0), (1, .int p1)] := hl
  have hB29 : ∀ (y0 : Int32) (M : wM) (H : Heap) (locs : List Loc) (ls : Array Slot), B_X1_outputByte_29 G Q y0 M → wR G M H → va_S (wA G) s.heap H locs → lv_has ls 2 [] → W p l e (headSpec (ws_ yX1_outputByte cX1_outputByte 2 (Option.some Jvm.ClassFile.FieldType.int)) ({ frames := 16, cells := 0, slots := 0, locals := 488 })).room s m ([.ref t0, .int p1] : List Value).toArray below meth c H locs 0 0 (vx_MQ below (wQ G (wqI Q)) (wXC G wX0) ([.ref t0, .int p1] : List Value).toArray s 0 0 (wA G)) (F0 m 29 ls [.int y0]) := by
    intro y0 M H locs ls hp hM hS hl
    exact x_iret X hr hlk hM hS ⟨Nat.le_refl _, Nat.le_refl _⟩ dX1_outputByte_29 ⟨_, rfl, hp⟩
  refine lv_iload_n hx hb dX1_outputByte_0 rfl (lv_at hl 1 rfl) ?_
  refine lv_iconst (v := 0) hx hb dX1_outputByte_1 (by decide) ?_
  refine lv_aload_n hx hb dX1_outputByte_2 rfl (lv_at hl 0 rfl) ?_
  refine x_getA X hC.1 hM (ci := 0) (C := RX1) (T := TX1) (N := 8) rfl in_X1 7 (by decide) q982 (fun _ h9 => h9) dX1_outputByte_3 hp (fun a1 hp => ?_)
  obtain ⟨hrec, hp⟩ := hp
  refine x_call0I (vx_runV (As := []) (rest := [.int (0 : Int32), .int p1]) X (P_J18_length_ok (l := l) hl0 hp) (cwV 0 hts (lw_V q2049 q790 q3818 q170 q791) rfl rfl rfl (by decide +kernel) ⟨Nat.le_of_ble_eq_true rfl, Nat.le_of_ble_eq_true rfl⟩) ⟨wPc.blind, w_recv hC.1 hM (ci := 23) (q := (RJ18, TJ18, 4)) rfl hrec, w_pre hC hM hS _⟩ rfl rfl hl.1 rfl (lv_room (Nat.le_of_ble_eq_true rfl)) dX1_outputByte_6 ⟨Nat.le_refl _, Nat.le_refl _⟩) hS ⟨Nat.le_refl _, Nat.le_refl _⟩ (fun _ _ _ _ _ _ h => False.elim h) (fun v4 M2 H locs hp hM hS => ?_)
  refine lv_iconst (v := 1) hx hb dX1_outputByte_9 (by decide) ?_
  refine lv_isub hx hb dX1_outputByte_10 ?_
  refine x_call0Z (vx_runS (As := [.int p1, .int (0 : Int32), .int (v4 - (1 : Int32))]) (rest := []) X (P_X1_inRange_ok (l := l) hl0 hp) (va_cwS 3 hts (lw_S q1012 q1013 q148 q1014) rfl rfl rfl (by decide +kernel) ⟨Nat.le_of_ble_eq_true rfl, Nat.le_of_ble_eq_true rfl⟩) ⟨wPc.blind, w_pre hC hM hS _⟩ rfl rfl hl.1 rfl (lv_room (Nat.le_of_ble_eq_true rfl)) dX1_outputByte_11 ⟨Nat.le_refl _, Nat.le_refl _⟩) hS ⟨Nat.le_refl _, Nat.le_refl _⟩ (fun _ _ _ _ _ _ h => False.elim h) (fun r7 M5 H locs hp hM hS => ?_)
  refine x_ifeqB (tgt := 28) hx hb dX1_outputByte_14 (by decide) (fun hc => ?_) (fun hc => ?_)
  · have hp := oIf.bf hp hc
    refine lv_iconst (v := (-1)) hx hb dX1_outputByte_28 (by decide) ?_
    exact hB29 _ _ _ _ _ hp hM hS (lv_sub hl [] rfl)
  · have hp := oIf.bt hp hc
    refine lv_aload_n hx hb dX1_outputByte_17 rfl (lv_at hl 0 rfl) ?_
    refine x_getA X hC.1 hM (ci := 0) (C := RX1) (T := TX1) (N := 8) rfl in_X1 7 (by decide) q982 (fun _ h9 => h9) dX1_outputByte_18 hp (fun a8 hp => ?_)
    refine lv_iload_n hx hb dX1_outputByte_21 rfl (lv_at hl 1 rfl) ?_
    obtain ⟨hrec, hp⟩ := hp
    refine x_call0I (vx_runV (As := [.int p1]) (rest := []) X (P_J18_charAt_ok (l := l) hl0 hp) (cwV 1 hts (lw_V q2050 q2051 q2052 q170 q2053) rfl rfl rfl (by decide +kernel) ⟨Nat.le_of_ble_eq_true rfl, Nat.le_of_ble_eq_true rfl⟩) ⟨wPc.blind, w_recv hC.1 hM (ci := 23) (q := (RJ18, TJ18, 4)) rfl hrec, w_pre hC hM hS _⟩ rfl rfl hl.1 rfl (lv_room (Nat.le_of_ble_eq_true rfl)) dX1_outputByte_22 ⟨Nat.le_refl _, Nat.le_refl _⟩) hS ⟨Nat.le_refl _, Nat.le_refl _⟩ (fun _ _ _ _ _ _ h => False.elim h) (fun v11 M9 H locs hp hM hS => ?_)
    refine lv_goto (tgt := 29) hx hb dX1_outputByte_25 (by decide) ?_
    exact hB29 _ _ _ _ _ hp hM hS (lv_sub hl [] rfl)
def B_X2_checkPark_37 (G : wG) (Q : wM → Prop) (Xp : String → Nat → wM → Prop) (M : wM) (bq : Nat) : Prop :=
  oNew G M bq 11 [.null, .null, .null, .null, .null, .int 0] (fun a1 M2 b3 => P_X15_init G a1 M2 (fun M4 => (∃ fs, M4 a1 = some (.inr (11, fs))) ∧ wz G ≤ a1 ∧ Xp "ParkingOffice$NoPlace" a1 M4))
def P_X2_checkPark (G : wG) (t0 : Nat) (p1 : Int32) (p2 : Int32) (b : Nat) (M : wM) (Q : wM → Prop) (Xp : String → Nat → wM → Prop) : Prop :=
  oIs M t0 1 (∃ c2, c2 ≤ b ∧ P_X2_carOf G t0 p1 c2 M (fun r3 M1 => oNull r3 (oIs M1 t0 1 (∃ c6, c6 ≤ (b - c2) ∧ P_X2_free G t0 p2 c6 M1 (fun v7 M5 => oIf (v7 ≤ 0) (B_X2_checkPark_37 G Q Xp M5 ((b - c2) - c6)) (oGetA M5 t0 1 3 (fun a8 => oIs M5 a8 17 (P_J8_size G a8 M5 (fun v11 M9 => oIf (v11 = (80 : Int32)) (B_X2_checkPark_37 G Q Xp M9 ((b - c2) - c6)) (Q M9)))))))) (fun a4 => oNew G M1 (b - c2) 12 [.null, .null, .null, .null, .null, .int 0] (fun a12 M13 b14 => P_X16_init G a12 none M13 (fun M15 => (∃ fs, M15 a12 = some (.inr (12, fs))) ∧ wz G ≤ a12 ∧ Xp "ParkingOffice$NotNow" a12 M15)))))
set_option maxHeartbeats 4000000 in
set_option maxRecDepth 100000 in
theorem P_X2_checkPark_ok {l : Launch} (hl0 : l.stackTraces = false) {G : wG} {t0 : Nat} {p1 : Int32} {p2 : Int32} {b : Nat} {M : wM} {Q : wM → Prop} {Xp : String → Nat → wM → Prop} (hp : P_X2_checkPark G t0 p1 p2 b M Q Xp) : wMet l yX2_checkPark (ws_ yX2_checkPark cX2_checkPark 3 (none)) 19 551 G [.ref t0, .int p1, .int p2] M b (wqV Q) Xp := by
  refine vx_ofW (cc := cX2_checkPark) (maxL := 3) (ret := none) (by decide) rfl ?_
  intro p e s m args below meth c s₁ B hml hnt hv
  obtain ⟨rfl, hM, hK, hZ, hz⟩ := hv
  have hC : wC G s := ⟨hK, hZ, hz⟩
  have hx := B.exec
  have hb := B.bytes
  have hr := B.returns
  have hts := atoms_spec (ws := (ws_ yX2_checkPark cX2_checkPark 3 (none))) B.pre
  have hts : ∀ w ∈ lw_all, w.before _ s = true := fun w h => hts w (List.mem_cons_of_mem _ h)
  have hown : s.vm.findClass RX2 = some m.cls := findClass_of_methodNamed B.named
  have hlk := B.notSynchronized
  have X : CallFix p m c cX2_checkPark 3 s ([.ref t0, .int p1, .int p2] : List Value).toArray lw_all RX2 := ⟨hx, hb, hml, hown, hts⟩
  have hS : va_S (wA G) s.heap s.heap [] := va_S.rf
  have hl := lv_entry ([.ref t0, .int p1, .int p2]) (n := 3) (Nat.le_of_ble_eq_true rfl)
  rw [lg_entry_eq]
  generalize (lg_sl ([.ref t0, .int p1, .int p2]) ++ List.replicate (3 - (lg_sl ([.ref t0, .int p1, .int p2])).length) Slot.unset).toArray = ls at hl ⊢
  have hl : lv_has ls 3 [(0, .ref t0), (1, .int p1), (2, .int p2)] := hl
  have hB : 0 + b ≤ ((headSpec (ws_ yX2_checkPark cX2_checkPark 3 (none)) ({ frames := 19, cells := b, slots := b, locals := 551 })).room).cells ∧ 0 + b ≤ ((headSpec (ws_ yX2_checkPark cX2_checkPark 3 (none)) ({ frames := 19, cells := b, slots := b, locals := 551 })).room).slots := ⟨Nat.le_of_eq (Nat.zero_add b), Nat.le_of_eq (Nat.zero_add b)⟩
  have hB37 : ∀ (M : wM) (bq : Nat) (H : Heap) (locs : List Loc) (ls : Array Slot) (cells slots : Nat), B_X2_checkPark_37 G Q Xp M bq → wR G M H → va_S (wA G) s.heap H locs → (cells + bq ≤ ((headSpec (ws_ yX2_checkPark cX2_checkPark 3 (none)) ({ frames := 19, cells := b, slots := b, locals := 551 })).room).cells ∧ slots + bq ≤ ((headSpec (ws_ yX2_checkPark cX2_checkPark 3 (none)) ({ frames := 19, cells := b, slots := b, locals := 551 })).room).slots) → lv_has ls 3 [] → W p l e (headSpec (ws_ yX2_checkPark cX2_checkPark 3 (none)) ({ frames := 19, cells := b, slots := b, locals := 551 })).room s m ([.ref t0, .int p1, .int p2] : List Value).toArray below meth c H locs cells slots (vx_MQ below (wQ G (wqV Q)) (wXC G Xp) ([.ref t0, .int p1, .int p2] : List Value).toArray s b b (wA G)) (F0 m 37 ls []) := by
    intro M bq H locs ls cells slots hp hM hS hB hl
    refine x_new X hC hM hS hB (ci := 11) (C := RX15) (T := TX15) (N := 6) rfl in_X15 tyX15 tyX15_ok q2635 q2640 q205 rfl (by decide) dX2_checkPark_37 hp (fun a1 M2 H b3 cells slots hM hS hB hp => ?_)
    refine lv_dup hx hb dX2_checkPark_40 rfl ?_
    refine x_call0V (vx_runI (As := []) (rest := [.ref a1]) X (P_X15_init_ok (l := l) hl0 hp) (cwI 0 hts (lw_meth q2650) rfl rfl rfl (hts _ q205) (hts _ q2648) (hts _ q2649) rfl (by decide +kernel) ⟨Nat.le_of_ble_eq_true rfl, Nat.le_of_ble_eq_true rfl⟩) ⟨wPc.blind, w_pre hC hM hS _⟩ rfl rfl hl.1 rfl (lv_room (Nat.le_of_ble_eq_true rfl)) dX2_checkPark_41 (w_room0 hB)) hS (w_room0 hB) (fun _ _ _ _ _ _ h => False.elim h) (fun M4 H locs hp hM hS => ?_)
    refine vx_athrow hx hb dX2_checkPark_44 ?_
    obtain ⟨ce, h1, h2, h3⟩ := w_exc hC.1 hM (ci := 11) (q := (RX15, TX15, 6)) rfl hp.1 hp.2.1
    exact x_out hlk (fun x h => (hnt x h).elim) hM hS (w_fin hB) h1 h2 h3 hp.2.2
  refine lv_aload_n hx hb dX2_checkPark_0 rfl (lv_at hl 0 rfl) ?_
  refine lv_iload_n hx hb dX2_checkPark_1 rfl (lv_at hl 1 rfl) ?_
  obtain ⟨hrec, hp⟩ := hp
  obtain ⟨c2, hc1, hp⟩ := hp
  refine x_callR (vx_runV (As := [.int p1]) (rest := []) X (P_X2_carOf_ok (l := l) hl0 hp) (cwV 1 hts (lw_V q2775 q1696 q1697 q149 q1698) rfl rfl rfl (by decide +kernel) ⟨Nat.le_of_ble_eq_true rfl, Nat.le_of_ble_eq_true rfl⟩) ⟨wPc.blind, w_recv hC.1 hM (ci := 1) (q := (RX2, TX2, 9)) rfl hrec, w_pre hC hM hS _⟩ rfl rfl hl.1 rfl (lv_room (Nat.le_of_ble_eq_true rfl)) dX2_checkPark_2 (w_room hB hc1)) hS hB hc1 (fun _ _ _ _ _ _ h => False.elim h) (fun r3 M1 H locs hp hM hS hB => ?_)
  refine x_ifnull (r := r3) (tgt := 17) hx hb dX2_checkPark_5 (by decide) (fun hc => ?_) (fun a4 hc => ?_)
  · have hqa4 := oNull.t hp hc
    subst hc
    have hp := hqa4
    refine lv_aload_n hx hb dX2_checkPark_17 rfl (lv_at hl 0 rfl) ?_
    refine lv_iload_n hx hb dX2_checkPark_18 rfl (lv_at hl 2 rfl) ?_
    obtain ⟨hrec, hp⟩ := hp
    obtain ⟨c6, hc1, hp⟩ := hp
    refine x_callI (vx_runV (As := [.int p2]) (rest := []) X (P_X2_free_ok (l := l) hl0 hp) (cwV 1 hts (lw_V q2776 q2506 q2507 q149 q2508) rfl rfl rfl (by decide +kernel) ⟨Nat.le_of_ble_eq_true rfl, Nat.le_of_ble_eq_true rfl⟩) ⟨wPc.blind, w_recv hC.1 hM (ci := 1) (q := (RX2, TX2, 9)) rfl hrec, w_pre hC hM hS _⟩ rfl rfl hl.1 rfl (lv_room (Nat.le_of_ble_eq_true rfl)) dX2_checkPark_19 (w_room hB hc1)) hS hB hc1 (fun _ _ _ _ _ _ h => False.elim h) (fun v7 M5 H locs hp hM hS hB => ?_)
    refine lv_if_le (tgt := 37) hx hb dX2_checkPark_22 (by decide) (fun hc => ?_) (fun hc => ?_)
    · have hp := oIf.t hp hc
      exact hB37 _ _ _ _ _ _ _ hp hM hS hB (lv_sub hl [] rfl)
    · have hp := oIf.f hp hc
      refine lv_aload_n hx hb dX2_checkPark_25 rfl (lv_at hl 0 rfl) ?_
      refine x_getA X hC.1 hM (ci := 1) (C := RX2) (T := TX2) (N := 9) rfl in_X2 3 (by decide) q923 (fun _ h9 => h9) dX2_checkPark_26 hp (fun a8 hp => ?_)
      obtain ⟨hrec, hp⟩ := hp
      refine x_call0I (vx_runV (As := []) (rest := []) X (P_J8_size_ok (l := l) hl0 hp) (cwV 0 hts (lw_V q2368 q515 q3810 q160 q517) rfl rfl rfl (by decide +kernel) ⟨Nat.le_of_ble_eq_true rfl, Nat.le_of_ble_eq_true rfl⟩) ⟨wPc.blind, w_recv hC.1 hM (ci := 17) (q := (RJ8, TJ8, 4)) rfl hrec, w_pre hC hM hS _⟩ rfl rfl hl.1 rfl (lv_room (Nat.le_of_ble_eq_true rfl)) dX2_checkPark_29 (w_room0 hB)) hS (w_room0 hB) (fun _ _ _ _ _ _ h => False.elim h) (fun v11 M9 H locs hp hM hS => ?_)
      refine lv_bipush (v := 80) hx hb dX2_checkPark_32 (by decide) ?_
      refine lv_icmp_ne (tgt := 45) hx hb dX2_checkPark_34 (by decide) (fun hc => ?_) (fun hc => ?_)
      · have hp := oIf.f hp hc
        exact x_vret X hr hlk hM hS (w_fin hB) dX2_checkPark_45 ⟨rfl, hp⟩
      · have hp := oIf.t hp hc
        exact hB37 _ _ _ _ _ _ _ hp hM hS hB (lv_sub hl [] rfl)
  · have hqa4 := oNull.f hp hc
    subst hc
    have hp := hqa4
    refine x_new X hC hM hS hB (ci := 12) (C := RX16) (T := TX16) (N := 6) rfl in_X16 tyX16 tyX16_ok q2659 q2660 q206 rfl (by decide) dX2_checkPark_8 hp (fun a12 M13 H b14 cells slots hM hS hB hp => ?_)
    refine lv_dup hx hb dX2_checkPark_11 rfl ?_
    refine lv_null hx hb dX2_checkPark_12 ?_
    refine x_call0V (vx_runI (As := [va_rf none]) (rest := [.ref a12]) X (P_X16_init_ok (l := l) hl0 hp) (cwI 1 hts (lw_meth q2670) rfl rfl rfl (hts _ q206) (hts _ q2668) (hts _ q2669) rfl (by decide +kernel) ⟨Nat.le_of_ble_eq_true rfl, Nat.le_of_ble_eq_true rfl⟩) ⟨wPc.blind, w_pre hC hM hS _⟩ rfl rfl hl.1 rfl (lv_room (Nat.le_of_ble_eq_true rfl)) dX2_checkPark_13 (w_room0 hB)) hS (w_room0 hB) (fun _ _ _ _ _ _ h => False.elim h) (fun M15 H locs hp hM hS => ?_)
    refine vx_athrow hx hb dX2_checkPark_16 ?_
    obtain ⟨ce, h1, h2, h3⟩ := w_exc hC.1 hM (ci := 12) (q := (RX16, TX16, 6)) rfl hp.1 hp.2.1
    exact x_out hlk (fun x h => (hnt x h).elim) hM hS (w_fin hB) h1 h2 h3 hp.2.2
def P_X18_init (G : wG) (t0 : Nat) (p1 : Int32) (p2 : Int32) (p3 : Int32) (M : wM) (Q : wM → Prop) : Prop :=
  oPut G M t0 14 0 (.int p1) (fun M1 => oPut G M1 t0 14 1 (.int p2) (fun M2 => oPut G M2 t0 14 2 (.int p3) (fun M3 => Q M3)))
set_option maxHeartbeats 4000000 in
set_option maxRecDepth 100000 in
theorem P_X18_init_ok {l : Launch} (hl0 : l.stackTraces = false) {G : wG} {t0 : Nat} {p1 : Int32} {p2 : Int32} {p3 : Int32} {M : wM} {Q : wM → Prop} (hp : P_X18_init G t0 p1 p2 p3 M Q) : wMet l yX18_init (ws_ yX18_init cX18_init 4 (none)) 12 400 G [.ref t0, .int p1, .int p2, .int p3] M 0 (wqV Q) wX0 := by
  refine vx_ofW (cc := cX18_init) (maxL := 4) (ret := none) (by decide) rfl ?_
  intro p e s m args below meth c s₁ B hml hnt hv
  obtain ⟨rfl, hM, hK, hZ, hz⟩ := hv
  have hC : wC G s := ⟨hK, hZ, hz⟩
  have hx := B.exec
  have hb := B.bytes
  have hr := B.returns
  have hts := atoms_spec (ws := (ws_ yX18_init cX18_init 4 (none))) B.pre
  have hts : ∀ w ∈ lw_all, w.before _ s = true := fun w h => hts w (List.mem_cons_of_mem _ h)
  have hown : s.vm.findClass RX18 = some m.cls := findClass_of_methodNamed B.named
  have hlk := B.notSynchronized
  have hin0 : meth.name = "<init>" := (name_of_methodNamed B.named B.method).1
  have X : CallFix p m c cX18_init 4 s ([.ref t0, .int p1, .int p2, .int p3] : List Value).toArray lw_all RX18 := ⟨hx, hb, hml, hown, hts⟩
  have hS : va_S (wA G) s.heap s.heap [] := va_S.rf
  have hl := lv_entry ([.ref t0, .int p1, .int p2, .int p3]) (n := 4) (Nat.le_of_ble_eq_true rfl)
  rw [lg_entry_eq]
  generalize (lg_sl ([.ref t0, .int p1, .int p2, .int p3]) ++ List.replicate (4 - (lg_sl ([.ref t0, .int p1, .int p2, .int p3])).length) Slot.unset).toArray = ls at hl ⊢
  have hl : lv_has ls 4 [(0, .ref t0), (1, .int p1), (2, .int p2), (3, .int p3)] := hl
  refine lv_aload_n hx hb dX18_init_0 rfl (lv_at hl 0 rfl) ?_
  refine W.objInit hx hb hown (hts _ q2781) (hts _ q218) (hts _ q219) rfl (by rw [hml]; exact hl.1) rfl dX18_init_1 (Nat.le_of_ble_eq_true rfl) (Nat.le_of_ble_eq_true rfl) ?_
  refine W.eq (g2 := F0 m 4 ls []) rfl ?_
  refine lv_aload_n hx hb dX18_init_4 rfl (lv_at hl 0 rfl) ?_
  refine lv_iload_n hx hb dX18_init_5 rfl (lv_at hl 1 rfl) ?_
  refine x_putF X hC.1 hM hS (ci := 14) (C := RX18) (T := TX18) (N := 3) rfl in_X18 tyX18 tyX18_ok nmX18 0 (by decide) q2782 (fun _ h9 => h9) rfl hin0 rfl rfl rfl dX18_init_6 hp (fun M1 H locs hM hS hp => ?_)
  refine lv_aload_n hx hb dX18_init_9 rfl (lv_at hl 0 rfl) ?_
  refine lv_iload_n hx hb dX18_init_10 rfl (lv_at hl 2 rfl) ?_
  refine x_putF X hC.1 hM hS (ci := 14) (C := RX18) (T := TX18) (N := 3) rfl in_X18 tyX18 tyX18_ok nmX18 1 (by decide) q2785 (fun _ h9 => h9) rfl hin0 rfl rfl rfl dX18_init_11 hp (fun M2 H locs hM hS hp => ?_)
  refine lv_aload_n hx hb dX18_init_14 rfl (lv_at hl 0 rfl) ?_
  refine lv_iload_n hx hb dX18_init_15 rfl (lv_at hl 3 rfl) ?_
  refine x_putF X hC.1 hM hS (ci := 14) (C := RX18) (T := TX18) (N := 3) rfl in_X18 tyX18 tyX18_ok nmX18 2 (by decide) q2788 (fun _ h9 => h9) rfl hin0 rfl rfl rfl dX18_init_16 hp (fun M3 H locs hM hS hp => ?_)
  exact x_vret X hr hlk hM hS ⟨Nat.le_refl _, Nat.le_refl _⟩ dX18_init_19 ⟨rfl, hp⟩
def B_X1_park_21 (G : wG) (Q : Int32 → wM → Prop) (Xp : String → Nat → wM → Prop) (y0 : Nat) (M : wM) (bq : Nat) : Prop :=
  7 ≤ bq ∧ ∀ q : Nat, Xp "java/lang/IllegalStateException" q M
def P_X1_park (G : wG) (t0 : Nat) (p1 : Int32) (p2 : Int32) (b : Nat) (M : wM) (Q : Int32 → wM → Prop) (Xp : String → Nat → wM → Prop) : Prop :=
  oIs M t0 0 (∃ c2, c2 ≤ b ∧ P_X1_checkStreet G t0 p2 c2 M (fun M1 => ∃ c4, c4 ≤ (b - c2) ∧ P_X1_checkPlate G p1 c4 M1 (fun M3 => oGetA M3 t0 0 0 (fun a5 => oIs M3 a5 1 (∃ c7, c7 ≤ ((b - c2) - c4) ∧ P_X2_checkPark G a5 p1 p2 c7 M3 (fun M6 => oIs M6 t0 0 (∃ c9, c9 ≤ (((b - c2) - c4) - c7) ∧ P_X1_remember G t0 c9 M6 (fun M8 => oGetA M8 t0 0 0 (fun a10 => oGetA M8 a10 1 3 (fun a11 => oNew G M8 ((((b - c2) - c4) - c7) - c9) 14 [.int 0, .int 0, .int 0] (fun a12 M13 b14 => oGetA M13 t0 0 0 (fun a15 => oGetI M13 a15 1 8 (fun v16 => P_X18_init G a12 p1 p2 v16 M13 (fun M17 => oIs M17 a11 17 (∃ c20, c20 ≤ b14 ∧ P_J8_addLast G a11 (some a12) c20 M17 (fun M19 => oGetA M19 t0 0 0 (fun a21 => oIs M19 a21 1 (∃ c23, c23 ≤ (b14 - c20) ∧ P_X2_parkedIn G a21 p2 c23 M19 (fun v24 M22 => Q v24 M22)))))))))))))) (fun E q25 M26 => (E = "ParkingOffice$NoPlace" ∧ (B_X1_park_21 G Q Xp q25 M26 (((b - c2) - c4) - c7))) ∨ (E = "ParkingOffice$NotNow" ∧ (B_X1_park_21 G Q Xp q25 M26 (((b - c2) - c4) - c7))))))) (fun E q27 M28 => (E = "java/lang/IllegalArgumentException" ∧ Xp E q27 M28))) (fun E q29 M30 => (E = "java/lang/IndexOutOfBoundsException" ∧ Xp E q29 M30)))
set_option maxHeartbeats 4000000 in
set_option maxRecDepth 100000 in
theorem P_X1_park_ok {l : Launch} (hl0 : l.stackTraces = false) {G : wG} {t0 : Nat} {p1 : Int32} {p2 : Int32} {b : Nat} {M : wM} {Q : Int32 → wM → Prop} {Xp : String → Nat → wM → Prop} (hp : P_X1_park G t0 p1 p2 b M Q Xp) : wMet l yX1_park (wsW_ yX1_park cX1_park 4 (Option.some Jvm.ClassFile.FieldType.int) [((9 : Nat), (18 : Nat), (21 : Nat), (437 : Nat)), ((9 : Nat), (18 : Nat), (21 : Nat), (416 : Nat))]) 20 575 G [.ref t0, .int p1, .int p2] M b (wqI Q) Xp := by
  refine vx_ofWH (cc := cX1_park) (maxL := 4) (ret := Option.some Jvm.ClassFile.FieldType.int) (hh := [((9 : Nat), (18 : Nat), (21 : Nat), (437 : Nat)), ((9 : Nat), (18 : Nat), (21 : Nat), (416 : Nat))]) (by decide) rfl ?_
  intro p e s m args below meth c s₁ B hml hv
  obtain ⟨rfl, hM, hK, hZ, hz⟩ := hv
  have hC : wC G s := ⟨hK, hZ, hz⟩
  have hx := B.exec
  have hb := B.bytes
  have hr := B.returns
  have hts := atoms_spec (ws := (wsW_ yX1_park cX1_park 4 (Option.some Jvm.ClassFile.FieldType.int) [((9 : Nat), (18 : Nat), (21 : Nat), (437 : Nat)), ((9 : Nat), (18 : Nat), (21 : Nat), (416 : Nat))])) B.pre
  have htab := vx_table (x := yX1_park) B (hts _ List.mem_cons_self)
  have hts : ∀ w ∈ lw_all, w.before _ s = true := fun w h => hts w (List.mem_cons_of_mem _ h)
  have hown : s.vm.findClass RX1 = some m.cls := findClass_of_methodNamed B.named
  have hlk := B.notSynchronized
  have X : CallFix p m c cX1_park 4 s ([.ref t0, .int p1, .int p2] : List Value).toArray lw_all RX1 := ⟨hx, hb, hml, hown, hts⟩
  have hS : va_S (wA G) s.heap s.heap [] := va_S.rf
  have hl := lv_entry ([.ref t0, .int p1, .int p2]) (n := 4) (Nat.le_of_ble_eq_true rfl)
  rw [lg_entry_eq]
  generalize (lg_sl ([.ref t0, .int p1, .int p2]) ++ List.replicate (4 - (lg_sl ([.ref t0, .int p1, .int p2])).length) Slot.unset).toArray = ls at hl ⊢
  have hl : lv_has ls 4 [(0, .ref t0), (1, .int p1), (2, .int p2)] := hl
  have hB : 0 + b ≤ ((headSpec (wsW_ yX1_park cX1_park 4 (Option.some Jvm.ClassFile.FieldType.int) [((9 : Nat), (18 : Nat), (21 : Nat), (437 : Nat)), ((9 : Nat), (18 : Nat), (21 : Nat), (416 : Nat))]) ({ frames := 20, cells := b, slots := b, locals := 575 })).room).cells ∧ 0 + b ≤ ((headSpec (wsW_ yX1_park cX1_park 4 (Option.some Jvm.ClassFile.FieldType.int) [((9 : Nat), (18 : Nat), (21 : Nat), (437 : Nat)), ((9 : Nat), (18 : Nat), (21 : Nat), (416 : Nat))]) ({ frames := 20, cells := b, slots := b, locals := 575 })).room).slots := ⟨Nat.le_of_eq (Nat.zero_add b), Nat.le_of_eq (Nat.zero_add b)⟩
  have hB21 : ∀ (y0 : Nat) (M : wM) (bq : Nat) (H : Heap) (locs : List Loc) (ls : Array Slot) (cells slots : Nat), B_X1_park_21 G Q Xp y0 M bq → wR G M H → va_S (wA G) s.heap H locs → (cells + bq ≤ ((headSpec (wsW_ yX1_park cX1_park 4 (Option.some Jvm.ClassFile.FieldType.int) [((9 : Nat), (18 : Nat), (21 : Nat), (437 : Nat)), ((9 : Nat), (18 : Nat), (21 : Nat), (416 : Nat))]) ({ frames := 20, cells := b, slots := b, locals := 575 })).room).cells ∧ slots + bq ≤ ((headSpec (wsW_ yX1_park cX1_park 4 (Option.some Jvm.ClassFile.FieldType.int) [((9 : Nat), (18 : Nat), (21 : Nat), (437 : Nat)), ((9 : Nat), (18 : Nat), (21 : Nat), (416 : Nat))]) ({ frames := 20, cells := b, slots := b, locals := 575 })).room).slots) → lv_has ls 4 [] → W p l e (headSpec (wsW_ yX1_park cX1_park 4 (Option.some Jvm.ClassFile.FieldType.int) [((9 : Nat), (18 : Nat), (21 : Nat), (437 : Nat)), ((9 : Nat), (18 : Nat), (21 : Nat), (416 : Nat))]) ({ frames := 20, cells := b, slots := b, locals := 575 })).room s m ([.ref t0, .int p1, .int p2] : List Value).toArray below meth c H locs cells slots (vx_MQ below (wQ G (wqI Q)) (wXC G Xp) ([.ref t0, .int p1, .int p2] : List Value).toArray s b b (wA G)) (F0 m 21 ls [.ref y0]) := by
    intro y0 M bq H locs ls cells slots hp hM hS hB hl
    refine lv_astore_n (lv' := [(3, .ref y0)]) hx hb dX1_park_21 rfl hl (by decide) rfl (fun ls hl => ?_)
    exact x_throw0 X hC hl0 hM hS hB ⟨Nat.le_refl _, Nat.le_refl _⟩ (by decide +kernel) (by decide +kernel) q2674 q200 vg_X1_IllegalStateException (w_recat hts hC.1 vt_X1_IllegalStateException) (hl.1.trans hml.symm) dX1_park_22 dX1_park_25 dX1_park_26 dX1_park_29 (by rw [htab]; decide) (Nat.le_of_ble_eq_true rfl) (Nat.le_of_ble_eq_true rfl) hlk hp.1 hp.2
  refine lv_aload_n hx hb dX1_park_0 rfl (lv_at hl 0 rfl) ?_
  refine lv_iload_n hx hb dX1_park_1 rfl (lv_at hl 2 rfl) ?_
  obtain ⟨hrec, hp⟩ := hp
  obtain ⟨c2, hc1, hp⟩ := hp
  refine x_callV (vx_runV (As := [.int p2]) (rest := []) X (P_X1_checkStreet_ok (l := l) hl0 hp) (cwV 1 hts (lw_V q2225 q2227 qs37 q148 q2228) rfl rfl rfl (by decide +kernel) ⟨Nat.le_of_ble_eq_true rfl, Nat.le_of_ble_eq_true rfl⟩) ⟨wPc.blind, w_recv hC.1 hM (ci := 0) (q := (RX1, TX1, 8)) rfl hrec, w_pre hC hM hS _⟩ rfl rfl hl.1 rfl (lv_room (Nat.le_of_ble_eq_true rfl)) dX1_park_2 (w_room hB hc1)) hS hB hc1 (fun E ce q29 M30 H locs hp hM hS hB hcell hcv hcl => ?_) (fun M1 H locs hp hM hS hB => ?_)
  · obtain ⟨rfl, hp⟩ := hp
    exact x_out hlk (by rw [htab]; decide) hM hS (w_fin hB) hcell hcv hcl hp
  · refine lv_iload_n hx hb dX1_park_5 rfl (lv_at hl 1 rfl) ?_
    obtain ⟨c4, hc1, hp⟩ := hp
    refine x_callV (vx_runS (As := [.int p1]) (rest := []) X (P_X1_checkPlate_ok (l := l) hl0 hp) (va_cwS 1 hts (lw_S q2451 q2452 q148 q2453) rfl rfl rfl (by decide +kernel) ⟨Nat.le_of_ble_eq_true rfl, Nat.le_of_ble_eq_true rfl⟩) ⟨wPc.blind, w_pre hC hM hS _⟩ rfl rfl hl.1 rfl (lv_room (Nat.le_of_ble_eq_true rfl)) dX1_park_6 (w_room hB hc1)) hS hB hc1 (fun E ce q27 M28 H locs hp hM hS hB hcell hcv hcl => ?_) (fun M3 H locs hp hM hS hB => ?_)
    · obtain ⟨rfl, hp⟩ := hp
      exact x_out hlk (by rw [htab]; decide) hM hS (w_fin hB) hcell hcv hcl hp
    · refine lv_aload_n hx hb dX1_park_9 rfl (lv_at hl 0 rfl) ?_
      refine x_getA X hC.1 hM (ci := 0) (C := RX1) (T := TX1) (N := 8) rfl in_X1 0 (by decide) q973 (fun _ h9 => h9) dX1_park_10 hp (fun a5 hp => ?_)
      refine lv_iload_n hx hb dX1_park_13 rfl (lv_at hl 1 rfl) ?_
      refine lv_iload_n hx hb dX1_park_14 rfl (lv_at hl 2 rfl) ?_
      obtain ⟨hrec, hp⟩ := hp
      obtain ⟨c7, hc1, hp⟩ := hp
      refine x_callV (vx_runV (As := [.int p1, .int p2]) (rest := []) X (P_X2_checkPark_ok (l := l) hl0 hp) (cwV 2 hts (lw_V q2771 q2772 q2773 q149 q2774) rfl rfl rfl (by decide +kernel) ⟨Nat.le_of_ble_eq_true rfl, Nat.le_of_ble_eq_true rfl⟩) ⟨wPc.blind, w_recv hC.1 hM (ci := 1) (q := (RX2, TX2, 9)) rfl hrec, w_pre hC hM hS _⟩ rfl rfl hl.1 rfl (lv_room (Nat.le_of_ble_eq_true rfl)) dX1_park_15 (w_room hB hc1)) hS hB hc1 (fun E ce q25 M26 H locs hp hM hS hB hcell hcv hcl => ?_) (fun M6 H locs hp hM hS hB => ?_)
      · rcases hp with ⟨rfl, hp⟩ | ⟨rfl, hp⟩
        · refine vx_catch (own := "ParkingOffice") (name := "ParkingOffice$NoPlace") (E := "ParkingOffice$NoPlace") hown [] ⟨9, 18, 21, 437⟩ [⟨9, 18, 21, 416⟩] (by rw [htab]; rfl) (fun _ h => absurd h List.not_mem_nil) (by decide) (by decide) (hts _ q2714) (va_Nw.use rfl (hC.1.2.2.1 _ q2641 rfl)) hcell hcv hcl ?_
          exact hB21 _ _ _ _ _ _ _ _ hp hM hS hB (lv_sub hl [] rfl)
        · refine vx_catch (own := "ParkingOffice") (name := "ParkingOffice$NotNow") (E := "ParkingOffice$NotNow") hown [⟨9, 18, 21, 437⟩] ⟨9, 18, 21, 416⟩ [] (by rw [htab]; rfl) (List.forall_mem_cons.mpr ⟨(Or.inr ⟨by decide, "ParkingOffice$NoPlace", hts _ q2714, hC.1.2.2.2.2.2.1 ("ParkingOffice$NotNow", "ParkingOffice$NoPlace") (List.mem_of_getElem? (i := 46) rfl)⟩), (fun _ h => absurd h List.not_mem_nil)⟩) (by decide) (by decide) (hts _ q2630) (va_Nw.use rfl (hC.1.2.2.1 _ q2661 rfl)) hcell hcv hcl ?_
          exact hB21 _ _ _ _ _ _ _ _ hp hM hS hB (lv_sub hl [] rfl)
      · refine lv_goto (tgt := 30) hx hb dX1_park_18 (by decide) ?_
        refine lv_aload_n hx hb dX1_park_30 rfl (lv_at hl 0 rfl) ?_
        obtain ⟨hrec, hp⟩ := hp
        obtain ⟨c9, hc1, hp⟩ := hp
        refine x_callV (vx_runV (As := []) (rest := []) X (P_X1_remember_ok (l := l) hl0 hp) (cwV 0 hts (lw_V q2543 q2545 qs49 q148 q2546) rfl rfl rfl (by decide +kernel) ⟨Nat.le_of_ble_eq_true rfl, Nat.le_of_ble_eq_true rfl⟩) ⟨wPc.blind, w_recv hC.1 hM (ci := 0) (q := (RX1, TX1, 8)) rfl hrec, w_pre hC hM hS _⟩ rfl rfl hl.1 rfl (lv_room (Nat.le_of_ble_eq_true rfl)) dX1_park_31 (w_room hB hc1)) hS hB hc1 (fun _ _ _ _ _ _ h => False.elim h) (fun M8 H locs hp hM hS hB => ?_)
        refine lv_aload_n hx hb dX1_park_34 rfl (lv_at hl 0 rfl) ?_
        refine x_getA X hC.1 hM (ci := 0) (C := RX1) (T := TX1) (N := 8) rfl in_X1 0 (by decide) q973 (fun _ h9 => h9) dX1_park_35 hp (fun a10 hp => ?_)
        refine x_getAN X hC.1 hM (ci := 1) (C := RX2) (T := TX2) (N := 9) rfl in_X2 3 (by decide) q924 (fun _ h9 => h9) dX1_park_38 hp (fun a11 hp => ?_)
        refine x_new X hC hM hS hB (ci := 14) (C := RX18) (T := TX18) (N := 3) rfl in_X18 tyX18 tyX18_ok q2443 q2777 q208 rfl (by decide) dX1_park_41 hp (fun a12 M13 H b14 cells slots hM hS hB hp => ?_)
        refine lv_dup hx hb dX1_park_44 rfl ?_
        refine lv_iload_n hx hb dX1_park_45 rfl (lv_at hl 1 rfl) ?_
        refine lv_iload_n hx hb dX1_park_46 rfl (lv_at hl 2 rfl) ?_
        refine lv_aload_n hx hb dX1_park_47 rfl (lv_at hl 0 rfl) ?_
        refine x_getA X hC.1 hM (ci := 0) (C := RX1) (T := TX1) (N := 8) rfl in_X1 0 (by decide) q973 (fun _ h9 => h9) dX1_park_48 hp (fun a15 hp => ?_)
        refine x_getIN X hC.1 hM (ci := 1) (C := RX2) (T := TX2) (N := 9) rfl in_X2 8 (by decide) q934 (fun _ h9 => h9) dX1_park_51 hp (fun v16 hp => ?_)
        refine x_call0V (vx_runI (As := [.int p1, .int p2, .int v16]) (rest := [.ref a12, .ref a11]) X (P_X18_init_ok (l := l) hl0 hp) (cwI 3 hts (lw_meth q2780) rfl rfl rfl (hts _ q208) (hts _ q2778) (hts _ q2779) rfl (by decide +kernel) ⟨Nat.le_of_ble_eq_true rfl, Nat.le_of_ble_eq_true rfl⟩) ⟨wPc.blind, w_pre hC hM hS _⟩ rfl rfl hl.1 rfl (lv_room (Nat.le_of_ble_eq_true rfl)) dX1_park_54 (w_room0 hB)) hS (w_room0 hB) (fun _ _ _ _ _ _ h => False.elim h) (fun M17 H locs hp hM hS => ?_)
        obtain ⟨hrec, hp⟩ := hp
        obtain ⟨c20, hc1, hp⟩ := hp
        refine x_callV (vx_runV (As := [va_rf (some a12)]) (rest := []) X (P_J8_addLast_ok (l := l) hl0 hp) (cwV 1 hts (lw_V q2798 q2161 q2162 q160 q2163) rfl rfl rfl (by decide +kernel) ⟨Nat.le_of_ble_eq_true rfl, Nat.le_of_ble_eq_true rfl⟩) ⟨wPc.blind, w_recv hC.1 hM (ci := 17) (q := (RJ8, TJ8, 4)) rfl hrec, w_pre hC hM hS _⟩ rfl rfl hl.1 rfl (lv_room (Nat.le_of_ble_eq_true rfl)) dX1_park_57 (w_room hB hc1)) hS hB hc1 (fun _ _ _ _ _ _ h => False.elim h) (fun M19 H locs hp hM hS hB => ?_)
        refine lv_aload_n hx hb dX1_park_60 rfl (lv_at hl 0 rfl) ?_
        refine x_getA X hC.1 hM (ci := 0) (C := RX1) (T := TX1) (N := 8) rfl in_X1 0 (by decide) q973 (fun _ h9 => h9) dX1_park_61 hp (fun a21 hp => ?_)
        refine lv_iload_n hx hb dX1_park_64 rfl (lv_at hl 2 rfl) ?_
        obtain ⟨hrec, hp⟩ := hp
        obtain ⟨c23, hc1, hp⟩ := hp
        refine x_callI (vx_runV (As := [.int p2]) (rest := []) X (P_X2_parkedIn_ok (l := l) hl0 hp) (cwV 1 hts (lw_V q2230 q2231 q2232 q149 q2233) rfl rfl rfl (by decide +kernel) ⟨Nat.le_of_ble_eq_true rfl, Nat.le_of_ble_eq_true rfl⟩) ⟨wPc.blind, w_recv hC.1 hM (ci := 1) (q := (RX2, TX2, 9)) rfl hrec, w_pre hC hM hS _⟩ rfl rfl hl.1 rfl (lv_room (Nat.le_of_ble_eq_true rfl)) dX1_park_65 (w_room hB hc1)) hS hB hc1 (fun _ _ _ _ _ _ h => False.elim h) (fun v24 M22 H locs hp hM hS hB => ?_)
        exact x_iret X hr hlk hM hS (w_fin hB) dX1_park_68 ⟨_, rfl, hp⟩
def P_J0_init_J30 (G : wG) (t0 : Nat) (M : wM) (Q : wM → Prop) : Prop :=
  Q M
set_option maxHeartbeats 4000000 in
set_option maxRecDepth 100000 in
theorem P_J0_init_J30_ok {l : Launch} (hl0 : l.stackTraces = false) {G : wG} {t0 : Nat} {M : wM} {Q : wM → Prop} (hp : P_J0_init_J30 G t0 M Q) : wMet l yJ0_init (ws_ yJ0_init cJ0_init 1 (none)) 12 400 G [.ref t0] M 0 (wqV Q) wX0 := by
  refine vx_ofW (cc := cJ0_init) (maxL := 1) (ret := none) (by decide) rfl ?_
  intro p e s m args below meth c s₁ B hml hnt hv
  obtain ⟨rfl, hM, hK, hZ, hz⟩ := hv
  have hC : wC G s := ⟨hK, hZ, hz⟩
  have hx := B.exec
  have hb := B.bytes
  have hr := B.returns
  have hts := atoms_spec (ws := (ws_ yJ0_init cJ0_init 1 (none))) B.pre
  have hts : ∀ w ∈ lw_all, w.before _ s = true := fun w h => hts w (List.mem_cons_of_mem _ h)
  have hown : s.vm.findClass RJ0 = some m.cls := findClass_of_methodNamed B.named
  have hlk := B.notSynchronized
  have hin0 : meth.name = "<init>" := (name_of_methodNamed B.named B.method).1
  have X : CallFix p m c cJ0_init 1 s ([.ref t0] : List Value).toArray lw_all RJ0 := ⟨hx, hb, hml, hown, hts⟩
  have hS : va_S (wA G) s.heap s.heap [] := va_S.rf
  have hl := lv_entry ([.ref t0]) (n := 1) (Nat.le_of_ble_eq_true rfl)
  rw [lg_entry_eq]
  generalize (lg_sl ([.ref t0]) ++ List.replicate (1 - (lg_sl ([.ref t0])).length) Slot.unset).toArray = ls at hl ⊢
  have hl : lv_has ls 1 [(0, .ref t0)] := hl
  refine lv_aload_n hx hb dJ0_init_0 rfl (lv_at hl 0 rfl) ?_
  refine W.objInit hx hb hown (hts _ q239) (hts _ q218) (hts _ q219) rfl (by rw [hml]; exact hl.1) rfl dJ0_init_1 (Nat.le_of_ble_eq_true rfl) (Nat.le_of_ble_eq_true rfl) ?_
  refine W.eq (g2 := F0 m 4 ls []) rfl ?_
  exact x_vret X hr hlk hM hS ⟨Nat.le_refl _, Nat.le_refl _⟩ dJ0_init_4 ⟨rfl, hp⟩
def P_J27_init_J30 (G : wG) (t0 : Nat) (M : wM) (Q : wM → Prop) : Prop :=
  P_J0_init_J30 G t0 M (fun M1 => Q M1)
set_option maxHeartbeats 4000000 in
set_option maxRecDepth 100000 in
theorem P_J27_init_J30_ok {l : Launch} (hl0 : l.stackTraces = false) {G : wG} {t0 : Nat} {M : wM} {Q : wM → Prop} (hp : P_J27_init_J30 G t0 M Q) : wMet l yJ27_init (ws_ yJ27_init cJ27_init 1 (none)) 13 420 G [.ref t0] M 0 (wqV Q) wX0 := by
  refine vx_ofW (cc := cJ27_init) (maxL := 1) (ret := none) (by decide) rfl ?_
  intro p e s m args below meth c s₁ B hml hnt hv
  obtain ⟨rfl, hM, hK, hZ, hz⟩ := hv
  have hC : wC G s := ⟨hK, hZ, hz⟩
  have hx := B.exec
  have hb := B.bytes
  have hr := B.returns
  have hts := atoms_spec (ws := (ws_ yJ27_init cJ27_init 1 (none))) B.pre
  have hts : ∀ w ∈ lw_all, w.before _ s = true := fun w h => hts w (List.mem_cons_of_mem _ h)
  have hown : s.vm.findClass RJ27 = some m.cls := findClass_of_methodNamed B.named
  have hlk := B.notSynchronized
  have hin0 : meth.name = "<init>" := (name_of_methodNamed B.named B.method).1
  have X : CallFix p m c cJ27_init 1 s ([.ref t0] : List Value).toArray lw_all RJ27 := ⟨hx, hb, hml, hown, hts⟩
  have hS : va_S (wA G) s.heap s.heap [] := va_S.rf
  have hl := lv_entry ([.ref t0]) (n := 1) (Nat.le_of_ble_eq_true rfl)
  rw [lg_entry_eq]
  generalize (lg_sl ([.ref t0]) ++ List.replicate (1 - (lg_sl ([.ref t0])).length) Slot.unset).toArray = ls at hl ⊢
  have hl : lv_has ls 1 [(0, .ref t0)] := hl
  refine lv_aload_n hx hb dJ27_init_0 rfl (lv_at hl 0 rfl) ?_
  refine x_call0V (vx_runI (As := []) (rest := []) X (P_J0_init_J30_ok (l := l) hl0 hp) (cwI 0 hts (lw_meth q238) rfl rfl rfl (hts _ q151) (hts _ q1060) (hts _ q237) rfl (by decide +kernel) ⟨Nat.le_of_ble_eq_true rfl, Nat.le_of_ble_eq_true rfl⟩) ⟨wPc.blind, w_pre hC hM hS _⟩ rfl rfl hl.1 rfl (lv_room (Nat.le_of_ble_eq_true rfl)) dJ27_init_1 ⟨Nat.le_refl _, Nat.le_refl _⟩) hS ⟨Nat.le_refl _, Nat.le_refl _⟩ (fun _ _ _ _ _ _ h => False.elim h) (fun M1 H locs hp hM hS => ?_)
  exact x_vret X hr hlk hM hS ⟨Nat.le_refl _, Nat.le_refl _⟩ dJ27_init_4 ⟨rfl, hp⟩
def P_J28_init_J30 (G : wG) (t0 : Nat) (M : wM) (Q : wM → Prop) : Prop :=
  P_J27_init_J30 G t0 M (fun M1 => Q M1)
set_option maxHeartbeats 4000000 in
set_option maxRecDepth 100000 in
theorem P_J28_init_J30_ok {l : Launch} (hl0 : l.stackTraces = false) {G : wG} {t0 : Nat} {M : wM} {Q : wM → Prop} (hp : P_J28_init_J30 G t0 M Q) : wMet l yJ28_init (ws_ yJ28_init cJ28_init 1 (none)) 14 440 G [.ref t0] M 0 (wqV Q) wX0 := by
  refine vx_ofW (cc := cJ28_init) (maxL := 1) (ret := none) (by decide) rfl ?_
  intro p e s m args below meth c s₁ B hml hnt hv
  obtain ⟨rfl, hM, hK, hZ, hz⟩ := hv
  have hC : wC G s := ⟨hK, hZ, hz⟩
  have hx := B.exec
  have hb := B.bytes
  have hr := B.returns
  have hts := atoms_spec (ws := (ws_ yJ28_init cJ28_init 1 (none))) B.pre
  have hts : ∀ w ∈ lw_all, w.before _ s = true := fun w h => hts w (List.mem_cons_of_mem _ h)
  have hown : s.vm.findClass RJ28 = some m.cls := findClass_of_methodNamed B.named
  have hlk := B.notSynchronized
  have hin0 : meth.name = "<init>" := (name_of_methodNamed B.named B.method).1
  have X : CallFix p m c cJ28_init 1 s ([.ref t0] : List Value).toArray lw_all RJ28 := ⟨hx, hb, hml, hown, hts⟩
  have hS : va_S (wA G) s.heap s.heap [] := va_S.rf
  have hl := lv_entry ([.ref t0]) (n := 1) (Nat.le_of_ble_eq_true rfl)
  rw [lg_entry_eq]
  generalize (lg_sl ([.ref t0]) ++ List.replicate (1 - (lg_sl ([.ref t0])).length) Slot.unset).toArray = ls at hl ⊢
  have hl : lv_has ls 1 [(0, .ref t0)] := hl
  refine lv_aload_n hx hb dJ28_init_0 rfl (lv_at hl 0 rfl) ?_
  refine x_call0V (vx_runI (As := []) (rest := []) X (P_J27_init_J30_ok (l := l) hl0 hp) (cwI 0 hts (lw_meth q1059) rfl rfl rfl (hts _ q181) (hts _ q1057) (hts _ q1058) rfl (by decide +kernel) ⟨Nat.le_of_ble_eq_true rfl, Nat.le_of_ble_eq_true rfl⟩) ⟨wPc.blind, w_pre hC hM hS _⟩ rfl rfl hl.1 rfl (lv_room (Nat.le_of_ble_eq_true rfl)) dJ28_init_1 ⟨Nat.le_refl _, Nat.le_refl _⟩) hS ⟨Nat.le_refl _, Nat.le_refl _⟩ (fun _ _ _ _ _ _ h => False.elim h) (fun M1 H locs hp hM hS => ?_)
  exact x_vret X hr hlk hM hS ⟨Nat.le_refl _, Nat.le_refl _⟩ dJ28_init_4 ⟨rfl, hp⟩
def P_J30_init (G : wG) (t0 : Nat) (p1 : Nat) (p2 : Int32) (M : wM) (Q : wM → Prop) : Prop :=
  P_J28_init_J30 G t0 M (fun M1 => oPut G M1 t0 26 0 (.ref p1) (fun M3 => (narrow .boolean (.int p2) = .int p2 ∧ fits .boolean (.int p2) = true) ∧ oPut G M3 t0 26 1 (.int p2) (fun M4 => Q M4)))
set_option maxHeartbeats 4000000 in
set_option maxRecDepth 100000 in
theorem P_J30_init_ok {l : Launch} (hl0 : l.stackTraces = false) {G : wG} {t0 : Nat} {p1 : Nat} {p2 : Int32} {M : wM} {Q : wM → Prop} (hp : P_J30_init G t0 p1 p2 M Q) : wMet l yJ30_init (ws_ yJ30_init cJ30_init 3 (none)) 15 460 G [.ref t0, .ref p1, .int p2] M 0 (wqV Q) wX0 := by
  refine vx_ofW (cc := cJ30_init) (maxL := 3) (ret := none) (by decide) rfl ?_
  intro p e s m args below meth c s₁ B hml hnt hv
  obtain ⟨rfl, hM, hK, hZ, hz⟩ := hv
  have hC : wC G s := ⟨hK, hZ, hz⟩
  have hx := B.exec
  have hb := B.bytes
  have hr := B.returns
  have hts := atoms_spec (ws := (ws_ yJ30_init cJ30_init 3 (none))) B.pre
  have hts : ∀ w ∈ lw_all, w.before _ s = true := fun w h => hts w (List.mem_cons_of_mem _ h)
  have hown : s.vm.findClass RJ30 = some m.cls := findClass_of_methodNamed B.named
  have hlk := B.notSynchronized
  have hin0 : meth.name = "<init>" := (name_of_methodNamed B.named B.method).1
  have X : CallFix p m c cJ30_init 3 s ([.ref t0, .ref p1, .int p2] : List Value).toArray lw_all RJ30 := ⟨hx, hb, hml, hown, hts⟩
  have hS : va_S (wA G) s.heap s.heap [] := va_S.rf
  have hl := lv_entry ([.ref t0, .ref p1, .int p2]) (n := 3) (Nat.le_of_ble_eq_true rfl)
  rw [lg_entry_eq]
  generalize (lg_sl ([.ref t0, .ref p1, .int p2]) ++ List.replicate (3 - (lg_sl ([.ref t0, .ref p1, .int p2])).length) Slot.unset).toArray = ls at hl ⊢
  have hl : lv_has ls 3 [(0, .ref t0), (1, .ref p1), (2, .int p2)] := hl
  refine lv_aload_n hx hb dJ30_init_0 rfl (lv_at hl 0 rfl) ?_
  refine x_call0V (vx_runI (As := []) (rest := []) X (P_J28_init_J30_ok (l := l) hl0 hp) (cwI 0 hts (lw_meth q1056) rfl rfl rfl (hts _ q182) (hts _ q1084) (hts _ q1055) rfl (by decide +kernel) ⟨Nat.le_of_ble_eq_true rfl, Nat.le_of_ble_eq_true rfl⟩) ⟨wPc.blind, w_pre hC hM hS _⟩ rfl rfl hl.1 rfl (lv_room (Nat.le_of_ble_eq_true rfl)) dJ30_init_1 ⟨Nat.le_refl _, Nat.le_refl _⟩) hS ⟨Nat.le_refl _, Nat.le_refl _⟩ (fun _ _ _ _ _ _ h => False.elim h) (fun M1 H locs hp hM hS => ?_)
  refine lv_aload_n hx hb dJ30_init_4 rfl (lv_at hl 0 rfl) ?_
  refine lv_aload_n hx hb dJ30_init_5 rfl (lv_at hl 1 rfl) ?_
  refine x_putF X hC.1 hM hS (ci := 26) (C := RJ30) (T := TJ30) (N := 2) rfl in_J30 tyJ30 tyJ30_ok nmJ30 0 (by decide) q1085 (fun _ h9 => h9) rfl hin0 rfl rfl rfl dJ30_init_6 hp (fun M3 H locs hM hS hp => ?_)
  refine lv_aload_n hx hb dJ30_init_9 rfl (lv_at hl 0 rfl) ?_
  refine lv_iload_n hx hb dJ30_init_10 rfl (lv_at hl 2 rfl) ?_
  obtain ⟨hnf, hp⟩ := hp
  refine x_putF X hC.1 hM hS (ci := 26) (C := RJ30) (T := TJ30) (N := 2) rfl in_J30 tyJ30 tyJ30_ok nmJ30 1 (by decide) q1086 (fun _ h9 => h9) rfl hin0 rfl hnf.1 hnf.2 dJ30_init_11 hp (fun M4 H locs hM hS hp => ?_)
  exact x_vret X hr hlk hM hS ⟨Nat.le_refl _, Nat.le_refl _⟩ dJ30_init_14 ⟨rfl, hp⟩
def P_J11_requireNonNull (G : wG) (p1 : Nat) (M : wM) (Q : Option Nat → wM → Prop) : Prop :=
  Q (some p1) M
set_option maxHeartbeats 4000000 in
set_option maxRecDepth 100000 in
theorem P_J11_requireNonNull_ok {l : Launch} (hl0 : l.stackTraces = false) {G : wG} {p1 : Nat} {M : wM} {Q : Option Nat → wM → Prop} (hp : P_J11_requireNonNull G p1 M Q) : wMet l yJ11_requireNonNull (ws_ yJ11_requireNonNull cJ11_requireNonNull 1 (Option.some (Jvm.ClassFile.FieldType.object "java/lang/Object"))) 12 400 G [.ref p1] M 0 (wqR Q) wX0 := by
  refine vx_ofW (cc := cJ11_requireNonNull) (maxL := 1) (ret := Option.some (Jvm.ClassFile.FieldType.object "java/lang/Object")) (by decide) rfl ?_
  intro p e s m args below meth c s₁ B hml hnt hv
  obtain ⟨rfl, hM, hK, hZ, hz⟩ := hv
  have hC : wC G s := ⟨hK, hZ, hz⟩
  have hx := B.exec
  have hb := B.bytes
  have hr := B.returns
  have hts := atoms_spec (ws := (ws_ yJ11_requireNonNull cJ11_requireNonNull 1 (Option.some (Jvm.ClassFile.FieldType.object "java/lang/Object")))) B.pre
  have hts : ∀ w ∈ lw_all, w.before _ s = true := fun w h => hts w (List.mem_cons_of_mem _ h)
  have hown : s.vm.findClass RJ11 = some m.cls := findClass_of_methodNamed B.named
  have hlk := B.notSynchronized
  have X : CallFix p m c cJ11_requireNonNull 1 s ([.ref p1] : List Value).toArray lw_all RJ11 := ⟨hx, hb, hml, hown, hts⟩
  have hS : va_S (wA G) s.heap s.heap [] := va_S.rf
  have hl := lv_entry ([.ref p1]) (n := 1) (Nat.le_of_ble_eq_true rfl)
  rw [lg_entry_eq]
  generalize (lg_sl ([.ref p1]) ++ List.replicate (1 - (lg_sl ([.ref p1])).length) Slot.unset).toArray = ls at hl ⊢
  have hl : lv_has ls 1 [(0, .ref p1)] := hl
  refine lv_aload_n hx hb dJ11_requireNonNull_0 rfl (lv_at hl 0 rfl) ?_
  refine lv_ifnonnull (tgt := 12) hx hb dJ11_requireNonNull_1 (by decide) ?_
  refine lv_aload_n hx hb dJ11_requireNonNull_12 rfl (lv_at hl 0 rfl) ?_
  exact x_aret (v := (some p1)) X hr (by first | exact Or.inl ⟨_, rfl⟩ | exact Or.inr ⟨_, rfl⟩) hlk hM hS ⟨Nat.le_refl _, Nat.le_refl _⟩ dJ11_requireNonNull_13 ⟨(some p1), rfl, hp⟩
def B_J10_listFromArray_8 (G : wG) (rec8 : Nat → Nat → Int32 → wM → Nat → Prop) (Q : Option Nat → wM → Prop) (x0 : Nat) (x1 : Nat) (x2 : Int32) (M : wM) (bq : Nat) : Prop :=
  oAlen (.object "java/lang/String") M x0 (fun v1 => oIf (v1 ≤ x2) (oNew G M bq 26 [.null, .int 0] (fun a2 M3 b4 => P_J30_init G a2 x1 (0 : Int32) M3 (fun M5 => Q (some a2) M5))) (oAald (.object "java/lang/String") M x0 x2 (fun r7 => oRef r7 (fun a8 => P_J11_requireNonNull G a8 M (fun r11 M9 => oAast G (.object "java/lang/Object") M9 x1 x2 r11 (fun M12 => rec8 x0 x1 (x2 + 1) M12 bq))))))
def L_J10_listFromArray_8 (G : wG) (Q : Option Nat → wM → Prop) : Nat → Nat → Nat → Int32 → wM → Nat → Prop
  | 0 => fun _ _ _ _ _ => False
  | n + 1 => B_J10_listFromArray_8 G (L_J10_listFromArray_8 G Q n) Q
def P_J10_listFromArray (G : wG) (p1 : Nat) (b : Nat) (M : wM) (Q : Option Nat → wM → Prop) : Prop :=
  oAlen (.object "java/lang/String") M p1 (fun v1 => oNewa G M b (.object "java/lang/Object") (.inr (.inr (.inr (.inr (fun _ => none))))) v1 (fun a2 M3 b4 => ∃ n, L_J10_listFromArray_8 G Q n p1 a2 (0 : Int32) M3 b4))
set_option maxHeartbeats 4000000 in
set_option maxRecDepth 100000 in
theorem P_J10_listFromArray_ok {l : Launch} (hl0 : l.stackTraces = false) {G : wG} {p1 : Nat} {b : Nat} {M : wM} {Q : Option Nat → wM → Prop} (hp : P_J10_listFromArray G p1 b M Q) : wMet l yJ10_listFromArray (ws_ yJ10_listFromArray cJ10_listFromArray 3 (Option.some (Jvm.ClassFile.FieldType.object "java/util/List"))) 16 482 G [.ref p1] M b (wqR Q) wX0 := by
  refine vx_ofW (cc := cJ10_listFromArray) (maxL := 3) (ret := Option.some (Jvm.ClassFile.FieldType.object "java/util/List")) (by decide) rfl ?_
  intro p e s m args below meth c s₁ B hml hnt hv
  obtain ⟨rfl, hM, hK, hZ, hz⟩ := hv
  have hC : wC G s := ⟨hK, hZ, hz⟩
  have hx := B.exec
  have hb := B.bytes
  have hr := B.returns
  have hts := atoms_spec (ws := (ws_ yJ10_listFromArray cJ10_listFromArray 3 (Option.some (Jvm.ClassFile.FieldType.object "java/util/List")))) B.pre
  have hts : ∀ w ∈ lw_all, w.before _ s = true := fun w h => hts w (List.mem_cons_of_mem _ h)
  have hown : s.vm.findClass RJ10 = some m.cls := findClass_of_methodNamed B.named
  have hlk := B.notSynchronized
  have X : CallFix p m c cJ10_listFromArray 3 s ([.ref p1] : List Value).toArray lw_all RJ10 := ⟨hx, hb, hml, hown, hts⟩
  have hS : va_S (wA G) s.heap s.heap [] := va_S.rf
  have hl := lv_entry ([.ref p1]) (n := 3) (Nat.le_of_ble_eq_true rfl)
  rw [lg_entry_eq]
  generalize (lg_sl ([.ref p1]) ++ List.replicate (3 - (lg_sl ([.ref p1])).length) Slot.unset).toArray = ls at hl ⊢
  have hl : lv_has ls 3 [(0, .ref p1)] := hl
  have hB : 0 + b ≤ ((headSpec (ws_ yJ10_listFromArray cJ10_listFromArray 3 (Option.some (Jvm.ClassFile.FieldType.object "java/util/List"))) ({ frames := 16, cells := b, slots := b, locals := 482 })).room).cells ∧ 0 + b ≤ ((headSpec (ws_ yJ10_listFromArray cJ10_listFromArray 3 (Option.some (Jvm.ClassFile.FieldType.object "java/util/List"))) ({ frames := 16, cells := b, slots := b, locals := 482 })).room).slots := ⟨Nat.le_of_eq (Nat.zero_add b), Nat.le_of_eq (Nat.zero_add b)⟩
  have hB8 : ∀ (rec8 : Nat → Nat → Int32 → wM → Nat → Prop) (hrec8 : ∀ (x0 : Nat) (x1 : Nat) (x2 : Int32) (M : wM) (bq : Nat) (H : Heap) (locs : List Loc) (ls : Array Slot) (cells slots : Nat), rec8 x0 x1 x2 M bq → wR G M H → va_S (wA G) s.heap H locs → (cells + bq ≤ ((headSpec (ws_ yJ10_listFromArray cJ10_listFromArray 3 (Option.some (Jvm.ClassFile.FieldType.object "java/util/List"))) ({ frames := 16, cells := b, slots := b, locals := 482 })).room).cells ∧ slots + bq ≤ ((headSpec (ws_ yJ10_listFromArray cJ10_listFromArray 3 (Option.some (Jvm.ClassFile.FieldType.object "java/util/List"))) ({ frames := 16, cells := b, slots := b, locals := 482 })).room).slots) → lv_has ls 3 [(0, .ref x0), (1, .ref x1), (2, .int x2)] → W p l e (headSpec (ws_ yJ10_listFromArray cJ10_listFromArray 3 (Option.some (Jvm.ClassFile.FieldType.object "java/util/List"))) ({ frames := 16, cells := b, slots := b, locals := 482 })).room s m ([.ref p1] : List Value).toArray below meth c H locs cells slots (vx_MQ below (wQ G (wqR Q)) (wXC G wX0) ([.ref p1] : List Value).toArray s b b (wA G)) (F0 m 8 ls [])), ∀ (x0 : Nat) (x1 : Nat) (x2 : Int32) (M : wM) (bq : Nat) (H : Heap) (locs : List Loc) (ls : Array Slot) (cells slots : Nat), B_J10_listFromArray_8 G rec8 Q x0 x1 x2 M bq → wR G M H → va_S (wA G) s.heap H locs → (cells + bq ≤ ((headSpec (ws_ yJ10_listFromArray cJ10_listFromArray 3 (Option.some (Jvm.ClassFile.FieldType.object "java/util/List"))) ({ frames := 16, cells := b, slots := b, locals := 482 })).room).cells ∧ slots + bq ≤ ((headSpec (ws_ yJ10_listFromArray cJ10_listFromArray 3 (Option.some (Jvm.ClassFile.FieldType.object "java/util/List"))) ({ frames := 16, cells := b, slots := b, locals := 482 })).room).slots) → lv_has ls 3 [(0, .ref x0), (1, .ref x1), (2, .int x2)] → W p l e (headSpec (ws_ yJ10_listFromArray cJ10_listFromArray 3 (Option.some (Jvm.ClassFile.FieldType.object "java/util/List"))) ({ frames := 16, cells := b, slots := b, locals := 482 })).room s m ([.ref p1] : List Value).toArray below meth c H locs cells slots (vx_MQ below (wQ G (wqR Q)) (wXC G wX0) ([.ref p1] : List Value).toArray s b b (wA G)) (F0 m 8 ls []) := by
    intro rec8 hrec8 x0 x1 x2 M bq H locs ls cells slots hp hM hS hB hl
    refine lv_iload_n hx hb dJ10_listFromArray_8 rfl (lv_at hl 2 rfl) ?_
    refine lv_aload_n hx hb dJ10_listFromArray_9 rfl (lv_at hl 0 rfl) ?_
    refine x_alen X hC.1 hM (ty := (.object "java/lang/String")) (by decide) dJ10_listFromArray_10 hp (fun v1 hp => ?_)
    refine lv_icmp_ge (tgt := 29) hx hb dJ10_listFromArray_11 (by decide) (fun hc => ?_) (fun hc => ?_)
    · have hp := oIf.t hp hc
      refine x_new X hC hM hS hB (ci := 26) (C := RJ30) (T := TJ30) (N := 2) rfl in_J30 tyJ30 tyJ30_ok q1079 q1080 q184 rfl (by decide) dJ10_listFromArray_29 hp (fun a2 M3 H b4 cells slots hM hS hB hp => ?_)
      refine lv_dup hx hb dJ10_listFromArray_32 rfl ?_
      refine lv_aload_n hx hb dJ10_listFromArray_33 rfl (lv_at hl 1 rfl) ?_
      refine lv_iconst (v := 0) hx hb dJ10_listFromArray_34 (by decide) ?_
      refine x_call0V (vx_runIN (As := [.ref x1, .int (0 : Int32)]) (rest := [.ref a2]) X (P_J30_init_ok (l := l) hl0 hp) ⟨va_cnB 2 hts (lw_meth q1083) rfl rfl rfl (hC.1.2.2.1 _ q1081 rfl) (hts _ q184) (by decide +kernel) ⟨Nat.le_of_ble_eq_true rfl, Nat.le_of_ble_eq_true rfl⟩, rfl, hts _ q1082⟩ ⟨wPc.blind, w_pre hC hM hS _⟩ rfl rfl hl.1 rfl (lv_room (Nat.le_of_ble_eq_true rfl)) dJ10_listFromArray_35 (w_room0 hB)) hS (w_room0 hB) (fun _ _ _ _ _ _ h => False.elim h) (fun M5 H locs hp hM hS => ?_)
      exact x_aret (v := (some a2)) X hr (by first | exact Or.inl ⟨_, rfl⟩ | exact Or.inr ⟨_, rfl⟩) hlk hM hS (w_fin hB) dJ10_listFromArray_38 ⟨(some a2), rfl, hp⟩
    · have hp := oIf.f hp hc
      refine lv_aload_n hx hb dJ10_listFromArray_14 rfl (lv_at hl 1 rfl) ?_
      refine lv_iload_n hx hb dJ10_listFromArray_15 rfl (lv_at hl 2 rfl) ?_
      refine lv_aload_n hx hb dJ10_listFromArray_16 rfl (lv_at hl 0 rfl) ?_
      refine lv_iload_n hx hb dJ10_listFromArray_17 rfl (lv_at hl 2 rfl) ?_
      refine x_aald X hC.1 hM (ty := (.object "java/lang/String")) (by decide) rfl dJ10_listFromArray_18 hp (fun r7 hp => ?_)
      obtain ⟨a8, ea, hqa8⟩ := hp
      subst ea
      have hp := hqa8
      refine x_call0R (vx_runS (As := [.ref a8]) (rest := [.int x2, .ref x1]) X (P_J11_requireNonNull_ok (l := l) hl0 hp) (va_cwS 1 hts (lw_S q1078 q1062 q163 q1063) rfl rfl rfl (by decide +kernel) ⟨Nat.le_of_ble_eq_true rfl, Nat.le_of_ble_eq_true rfl⟩) ⟨wPc.blind, w_pre hC hM hS _⟩ rfl rfl hl.1 rfl (lv_room (Nat.le_of_ble_eq_true rfl)) dJ10_listFromArray_19 (w_room0 hB)) hS (w_room0 hB) (fun _ _ _ _ _ _ h => False.elim h) (fun r11 M9 H locs hp hM hS => ?_)
      refine x_aast (r := r11) X hC hM hS w_obj (C := "java/lang/Object") (by decide) dJ10_listFromArray_22 hp (fun M12 H locs hM hS hp => ?_)
      refine lv_iinc (v := (x2 + 1)) (lv' := [(2, .int (x2 + 1)), (0, .ref x0), (1, .ref x1)]) hx hb dJ10_listFromArray_23 hl (k := 2) rfl rfl (by decide) rfl (fun ls hl => ?_)
      refine lv_goto (tgt := 8) hx hb dJ10_listFromArray_26 (by decide) ?_
      exact hrec8 _ _ _ _ _ _ _ _ _ _ hp hM hS hB (lv_sub hl [1, 2, 0] rfl)
  have hL8 : ∀ (n : Nat), ∀ (x0 : Nat) (x1 : Nat) (x2 : Int32) (M : wM) (bq : Nat) (H : Heap) (locs : List Loc) (ls : Array Slot) (cells slots : Nat), L_J10_listFromArray_8 G Q n x0 x1 x2 M bq → wR G M H → va_S (wA G) s.heap H locs → (cells + bq ≤ ((headSpec (ws_ yJ10_listFromArray cJ10_listFromArray 3 (Option.some (Jvm.ClassFile.FieldType.object "java/util/List"))) ({ frames := 16, cells := b, slots := b, locals := 482 })).room).cells ∧ slots + bq ≤ ((headSpec (ws_ yJ10_listFromArray cJ10_listFromArray 3 (Option.some (Jvm.ClassFile.FieldType.object "java/util/List"))) ({ frames := 16, cells := b, slots := b, locals := 482 })).room).slots) → lv_has ls 3 [(0, .ref x0), (1, .ref x1), (2, .int x2)] → W p l e (headSpec (ws_ yJ10_listFromArray cJ10_listFromArray 3 (Option.some (Jvm.ClassFile.FieldType.object "java/util/List"))) ({ frames := 16, cells := b, slots := b, locals := 482 })).room s m ([.ref p1] : List Value).toArray below meth c H locs cells slots (vx_MQ below (wQ G (wqR Q)) (wXC G wX0) ([.ref p1] : List Value).toArray s b b (wA G)) (F0 m 8 ls []) := by
    intro n
    induction n with
    | zero => intro _ _ _ _ _ _ _ _ _ _ hp; exact False.elim hp
    | succ n ih => intro x0 x1 x2 M bq H locs ls cells slots hp hM hS hB hl; exact hB8 (L_J10_listFromArray_8 G Q n) ih _ _ _ _ _ _ _ _ _ _ hp hM hS hB hl
  refine lv_aload_n hx hb dJ10_listFromArray_0 rfl (lv_at hl 0 rfl) ?_
  refine x_alen X hC.1 hM (ty := (.object "java/lang/String")) (by decide) dJ10_listFromArray_1 hp (fun v1 hp => ?_)
  refine x_newq X hC hM hS hB q1077 hC.1.2.2.2.2.1.1 (by decide) dJ10_listFromArray_2 hp (fun a2 M3 H b4 cells slots hM hS hB hp => ?_)
  refine lv_astore_n (lv' := [(1, .ref a2), (0, .ref p1)]) hx hb dJ10_listFromArray_5 rfl hl (by decide) rfl (fun ls hl => ?_)
  refine lv_iconst (v := 0) hx hb dJ10_listFromArray_6 (by decide) ?_
  refine lv_istore_n (lv' := [(2, .int (0 : Int32)), (1, .ref a2), (0, .ref p1)]) hx hb dJ10_listFromArray_7 rfl hl (by decide) rfl (fun ls hl => ?_)
  obtain ⟨n, hp⟩ := hp
  exact hL8 n _ _ _ _ _ _ _ _ _ _ hp hM hS hB (lv_sub hl [2, 1, 0] rfl)
def P_J26_of (G : wG) (p1 : Nat) (b : Nat) (M : wM) (Q : Option Nat → wM → Prop) : Prop :=
  oAlen (.object "java/lang/String") M p1 (fun v1 => oIf (v1 = (0 : Int32)) (False) (oIf (v1 = (1 : Int32)) (False) (oIf (v1 = (2 : Int32)) (False) (∃ c3, c3 ≤ b ∧ P_J10_listFromArray G p1 c3 M (fun r4 M2 => Q r4 M2)))))
set_option maxHeartbeats 4000000 in
set_option maxRecDepth 100000 in
theorem P_J26_of_ok {l : Launch} (hl0 : l.stackTraces = false) {G : wG} {p1 : Nat} {b : Nat} {M : wM} {Q : Option Nat → wM → Prop} (hp : P_J26_of G p1 b M Q) : wMet l yJ26_of (ws_ yJ26_of cJ26_of 2 (Option.some (Jvm.ClassFile.FieldType.object "java/util/List"))) 17 504 G [.ref p1] M b (wqR Q) wX0 := by
  refine vx_ofW (cc := cJ26_of) (maxL := 2) (ret := Option.some (Jvm.ClassFile.FieldType.object "java/util/List")) (by decide) rfl ?_
  intro p e s m args below meth c s₁ B hml hnt hv
  obtain ⟨rfl, hM, hK, hZ, hz⟩ := hv
  have hC : wC G s := ⟨hK, hZ, hz⟩
  have hx := B.exec
  have hb := B.bytes
  have hr := B.returns
  have hts := atoms_spec (ws := (ws_ yJ26_of cJ26_of 2 (Option.some (Jvm.ClassFile.FieldType.object "java/util/List")))) B.pre
  have hts : ∀ w ∈ lw_all, w.before _ s = true := fun w h => hts w (List.mem_cons_of_mem _ h)
  have hown : s.vm.findClass RJ26 = some m.cls := findClass_of_methodNamed B.named
  have hlk := B.notSynchronized
  have X : CallFix p m c cJ26_of 2 s ([.ref p1] : List Value).toArray lw_all RJ26 := ⟨hx, hb, hml, hown, hts⟩
  have hS : va_S (wA G) s.heap s.heap [] := va_S.rf
  have hl := lv_entry ([.ref p1]) (n := 2) (Nat.le_of_ble_eq_true rfl)
  rw [lg_entry_eq]
  generalize (lg_sl ([.ref p1]) ++ List.replicate (2 - (lg_sl ([.ref p1])).length) Slot.unset).toArray = ls at hl ⊢
  have hl : lv_has ls 2 [(0, .ref p1)] := hl
  have hB : 0 + b ≤ ((headSpec (ws_ yJ26_of cJ26_of 2 (Option.some (Jvm.ClassFile.FieldType.object "java/util/List"))) ({ frames := 17, cells := b, slots := b, locals := 504 })).room).cells ∧ 0 + b ≤ ((headSpec (ws_ yJ26_of cJ26_of 2 (Option.some (Jvm.ClassFile.FieldType.object "java/util/List"))) ({ frames := 17, cells := b, slots := b, locals := 504 })).room).slots := ⟨Nat.le_of_eq (Nat.zero_add b), Nat.le_of_eq (Nat.zero_add b)⟩
  refine lv_aload_n hx hb dJ26_of_0 rfl (lv_at hl 0 rfl) ?_
  refine x_alen X hC.1 hM (ty := (.object "java/lang/String")) (by decide) dJ26_of_1 hp (fun v1 hp => ?_)
  by_cases hc0 : v1 = (0 : Int32)
  · have hp := oIf.t hp hc0
    refine lv_tableIn (off := 26) (tgt := 28) hx hb dJ26_of_2 (by rw [hc0]; decide) (by rw [hc0]; decide) (by rw [hc0]; rfl) (by decide) ?_
    exact hp.elim
  · have hp := oIf.f hp hc0
    by_cases hc1 : v1 = (1 : Int32)
    · have hp := oIf.t hp hc1
      refine lv_tableIn (off := 32) (tgt := 34) hx hb dJ26_of_2 (by rw [hc1]; decide) (by rw [hc1]; decide) (by rw [hc1]; rfl) (by decide) ?_
      exact hp.elim
    · have hp := oIf.f hp hc1
      by_cases hc2 : v1 = (2 : Int32)
      · have hp := oIf.t hp hc2
        refine lv_tableIn (off := 43) (tgt := 45) hx hb dJ26_of_2 (by rw [hc2]; decide) (by rw [hc2]; decide) (by rw [hc2]; rfl) (by decide) ?_
        exact hp.elim
      · have hp := oIf.f hp hc2
        refine lv_tableOut (tgt := 59) hx hb dJ26_of_2 (w_tsw 0 3 (by decide) (by decide) (fun i hi => ?_)) (by decide) ?_
        · have hi2 : i = 0 ∨ i = 1 ∨ i = 2 := by omega
          rcases hi2 with rfl | rfl | rfl
          · exact fun h => hc0 (h.trans (by decide))
          · exact fun h => hc1 (h.trans (by decide))
          · exact fun h => hc2 (h.trans (by decide))
        · refine lv_aload_n hx hb dJ26_of_59 rfl (lv_at hl 0 rfl) ?_
          obtain ⟨c3, hc1, hp⟩ := hp
          refine x_callR (vx_runS (As := [.ref p1]) (rest := []) X (P_J10_listFromArray_ok (l := l) hl0 hp) (va_cwS 1 hts (lw_S q1074 q1075 q162 q1076) rfl rfl rfl (by decide +kernel) ⟨Nat.le_of_ble_eq_true rfl, Nat.le_of_ble_eq_true rfl⟩) ⟨wPc.blind, w_pre hC hM hS _⟩ rfl rfl hl.1 rfl (lv_room (Nat.le_of_ble_eq_true rfl)) dJ26_of_60 (w_room hB hc1)) hS hB hc1 (fun _ _ _ _ _ _ h => False.elim h) (fun r4 M2 H locs hp hM hS hB => ?_)
          exact x_aret (v := r4) X hr (by first | exact Or.inl ⟨_, rfl⟩ | exact Or.inr ⟨_, rfl⟩) hlk hM hS (w_fin hB) dJ26_of_63 ⟨r4, rfl, hp⟩
def B_X5_byteAt_28 (G : wG) (Q : Int32 → wM → Prop) (y0 : Int32) (M : wM) : Prop :=
  Q y0 M
def P_X5_byteAt (G : wG) (t0 : Nat) (p1 : Int32) (M : wM) (Q : Int32 → wM → Prop) : Prop :=
  oGetA M t0 4 8 (fun a1 => oGetI M a1 0 4 (fun v2 => oIf (v2 ≤ p1) (B_X5_byteAt_28 G Q (-1 : Int32) M) (oGetA M t0 4 8 (fun a3 => oGetA M a3 0 3 (fun a4 => oIald .byte M a4 p1 (fun v5 => B_X5_byteAt_28 G Q (v5 &&& (255 : Int32)) M))))))
set_option maxHeartbeats 4000000 in
set_option maxRecDepth 100000 in
theorem P_X5_byteAt_ok {l : Launch} (hl0 : l.stackTraces = false) {G : wG} {t0 : Nat} {p1 : Int32} {M : wM} {Q : Int32 → wM → Prop} (hp : P_X5_byteAt G t0 p1 M Q) : wMet l yX5_byteAt (ws_ yX5_byteAt cX5_byteAt 2 (Option.some Jvm.ClassFile.FieldType.int)) 12 400 G [.ref t0, .int p1] M 0 (wqI Q) wX0 := by
  refine vx_ofW (cc := cX5_byteAt) (maxL := 2) (ret := Option.some Jvm.ClassFile.FieldType.int) (by decide) rfl ?_
  intro p e s m args below meth c s₁ B hml hnt hv
  obtain ⟨rfl, hM, hK, hZ, hz⟩ := hv
  have hC : wC G s := ⟨hK, hZ, hz⟩
  have hx := B.exec
  have hb := B.bytes
  have hr := B.returns
  have hts := atoms_spec (ws := (ws_ yX5_byteAt cX5_byteAt 2 (Option.some Jvm.ClassFile.FieldType.int))) B.pre
  have hts : ∀ w ∈ lw_all, w.before _ s = true := fun w h => hts w (List.mem_cons_of_mem _ h)
  have hown : s.vm.findClass RX5 = some m.cls := findClass_of_methodNamed B.named
  have hlk := B.notSynchronized
  have X : CallFix p m c cX5_byteAt 2 s ([.ref t0, .int p1] : List Value).toArray lw_all RX5 := ⟨hx, hb, hml, hown, hts⟩
  have hS : va_S (wA G) s.heap s.heap [] := va_S.rf
  have hl := lv_entry ([.ref t0, .int p1]) (n := 2) (Nat.le_of_ble_eq_true rfl)
  rw [lg_entry_eq]
  generalize (lg_sl ([.ref t0, .int p1]) ++ List.replicate (2 - (lg_sl ([.ref t0, .int p1])).length) Slot.unset).toArray = ls at hl ⊢
  have hl : lv_has ls 2 [(0, .ref t0), (1, .int p1)] := hl
  have hB28 : ∀ (y0 : Int32) (M : wM) (H : Heap) (locs : List Loc) (ls : Array Slot), B_X5_byteAt_28 G Q y0 M → wR G M H → va_S (wA G) s.heap H locs → lv_has ls 2 [] → W p l e (headSpec (ws_ yX5_byteAt cX5_byteAt 2 (Option.some Jvm.ClassFile.FieldType.int)) ({ frames := 12, cells := 0, slots := 0, locals := 400 })).room s m ([.ref t0, .int p1] : List Value).toArray below meth c H locs 0 0 (vx_MQ below (wQ G (wqI Q)) (wXC G wX0) ([.ref t0, .int p1] : List Value).toArray s 0 0 (wA G)) (F0 m 28 ls [.int y0]) := by
    intro y0 M H locs ls hp hM hS hl
    exact x_iret X hr hlk hM hS ⟨Nat.le_refl _, Nat.le_refl _⟩ dX5_byteAt_28 ⟨_, rfl, hp⟩
  refine lv_iload_n hx hb dX5_byteAt_0 rfl (lv_at hl 1 rfl) ?_
  refine lv_aload_n hx hb dX5_byteAt_1 rfl (lv_at hl 0 rfl) ?_
  refine x_getA X hC.1 hM (ci := 4) (C := RX5) (T := TX5) (N := 9) rfl in_X5 8 (by decide) q1137 (fun _ h9 => h9) dX5_byteAt_2 hp (fun a1 hp => ?_)
  refine x_getIN X hC.1 hM (ci := 0) (C := RX1) (T := TX1) (N := 8) rfl in_X1 4 (by decide) q978 (fun _ h9 => h9) dX5_byteAt_5 hp (fun v2 hp => ?_)
  refine lv_icmp_ge (tgt := 27) hx hb dX5_byteAt_8 (by decide) (fun hc => ?_) (fun hc => ?_)
  · have hp := oIf.t hp hc
    refine lv_iconst (v := (-1)) hx hb dX5_byteAt_27 (by decide) ?_
    exact hB28 _ _ _ _ _ hp hM hS (lv_sub hl [] rfl)
  · have hp := oIf.f hp hc
    refine lv_aload_n hx hb dX5_byteAt_11 rfl (lv_at hl 0 rfl) ?_
    refine x_getA X hC.1 hM (ci := 4) (C := RX5) (T := TX5) (N := 9) rfl in_X5 8 (by decide) q1137 (fun _ h9 => h9) dX5_byteAt_12 hp (fun a3 hp => ?_)
    refine x_getAN X hC.1 hM (ci := 0) (C := RX1) (T := TX1) (N := 8) rfl in_X1 3 (by decide) q977 (fun _ h9 => h9) dX5_byteAt_15 hp (fun a4 hp => ?_)
    refine lv_iload_n hx hb dX5_byteAt_18 rfl (lv_at hl 1 rfl) ?_
    refine x_bald X hC.1 hM dX5_byteAt_19 hp (fun v5 hp => ?_)
    refine lv_sipush (v := 255) hx hb dX5_byteAt_20 (by decide) ?_
    refine lv_iand hx hb dX5_byteAt_23 ?_
    refine lv_goto (tgt := 28) hx hb dX5_byteAt_24 (by decide) ?_
    exact hB28 _ _ _ _ _ hp hM hS (lv_sub hl [] rfl)
