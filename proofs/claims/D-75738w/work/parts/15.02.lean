set_option maxRecDepth 100000
def B_X2_copy_114 (G : wG) (rec114 : Nat → Nat → Option Nat → wM → Nat → Prop) (Q : Option Nat → wM → Prop) (x0 : Nat) (x1 : Nat) (x2 : Option Nat) (M : wM) (bq : Nat) : Prop :=
  oRef x2 (fun a1 => oIs M a1 19 (P_J36_hasNext G a1 M (fun r4 M2 => oIf (r4 = true) (oIs M2 a1 19 (P_J36_next G a1 M2 (fun r24 M22 => oCast M22 r24 14 (oGetA M22 x1 1 3 (fun a25 => oIs M22 a25 17 (∃ c27, c27 ≤ bq ∧ P_J8_addLast G a25 r24 c27 M22 (fun M26 => rec114 x0 x1 (some a1) M26 (bq - c27)))))))) (oGetA M2 x1 1 4 (fun a5 => oGetA M2 x0 1 4 (fun a6 => oIs M2 a5 16 (∃ c8, c8 ≤ bq ∧ P_J2_addAll G a5 a6 c8 M2 (fun r9 M7 => oGetA M7 x1 1 5 (fun a10 => oGetA M7 x0 1 5 (fun a11 => oIs M7 a10 21 (∃ c13, c13 ≤ (bq - c8) ∧ P_J9_or G a10 a11 c13 M7 (fun M12 => oGetA M12 x0 1 6 (fun a14 => oGetA M12 x1 1 6 (fun a15 => oCopyI G .int M12 a14 (0 : Int32) a15 (0 : Int32) (6 : Int32) (fun M16 => oGetA M16 x0 1 7 (fun a17 => oGetA M16 x1 1 7 (fun a18 => oCopyI G .int M16 a17 (0 : Int32) a18 (0 : Int32) (16 : Int32) (fun M19 => oGetI M19 x0 1 8 (fun v20 => oPut G M19 x1 1 8 (.int v20) (fun M21 => Q (some x1) M21))))))))))))))))))))
def L_X2_copy_114 (G : wG) (Q : Option Nat → wM → Prop) : Nat → Nat → Nat → Option Nat → wM → Nat → Prop
  | 0 => fun _ _ _ _ _ => False
  | n + 1 => B_X2_copy_114 G (L_X2_copy_114 G Q n) Q
def B_X2_copy_61 (G : wG) (rec61 : Nat → Nat → Int32 → wM → Nat → Prop) (Q : Option Nat → wM → Prop) (x0 : Nat) (x1 : Nat) (x2 : Int32) (M : wM) (bq : Nat) : Prop :=
  oGetA M x0 1 2 (fun a1 => oIs M a1 16 (P_J2_size G a1 M (fun v4 M2 => oIf (v4 ≤ x2) (oGetA M2 x0 1 3 (fun a5 => oIs M2 a5 17 (∃ c7, c7 ≤ bq ∧ P_J7_iterator_J8 G a5 c7 M2 (fun r8 M6 => ∃ n, L_X2_copy_114 G Q n x0 x1 r8 M6 (bq - c7))))) (oGetA M2 x1 1 2 (fun a9 => oGetA M2 x0 1 2 (fun a10 => oIs M2 a10 16 (P_J2_get G a10 x2 M2 (fun r13 M11 => oCast M11 r13 10 (oRef r13 (fun a14 => oIs M11 a14 10 (∃ c16, c16 ≤ bq ∧ P_X13_copy G a14 c16 M11 (fun r17 M15 => oIs M15 a9 16 (∃ c19, c19 ≤ (bq - c16) ∧ P_J2_add G a9 r17 c19 M15 (fun r20 M18 => rec61 x0 x1 (x2 + 1) M18 ((bq - c16) - c19)))))))))))))))
def L_X2_copy_61 (G : wG) (Q : Option Nat → wM → Prop) : Nat → Nat → Nat → Int32 → wM → Nat → Prop
  | 0 => fun _ _ _ _ _ => False
  | n + 1 => B_X2_copy_61 G (L_X2_copy_61 G Q n) Q
def B_X2_copy_14 (G : wG) (rec14 : Nat → Nat → Int32 → wM → Nat → Prop) (Q : Option Nat → wM → Prop) (x0 : Nat) (x1 : Nat) (x2 : Int32) (M : wM) (bq : Nat) : Prop :=
  oGetA M x0 1 1 (fun a1 => oIs M a1 16 (P_J2_size G a1 M (fun v4 M2 => oIf (v4 ≤ x2) (∃ n, L_X2_copy_61 G Q n x0 x1 (0 : Int32) M2 bq) (oGetA M2 x1 1 1 (fun a5 => oGetA M2 x0 1 1 (fun a6 => oIs M2 a6 16 (P_J2_get G a6 x2 M2 (fun r9 M7 => oCast M7 r9 9 (oRef r9 (fun a10 => oIs M7 a10 9 (∃ c12, c12 ≤ bq ∧ P_X12_copy G a10 c12 M7 (fun r13 M11 => oIs M11 a5 16 (∃ c15, c15 ≤ (bq - c12) ∧ P_J2_add G a5 r13 c15 M11 (fun r16 M14 => rec14 x0 x1 (x2 + 1) M14 ((bq - c12) - c15)))))))))))))))
def L_X2_copy_14 (G : wG) (Q : Option Nat → wM → Prop) : Nat → Nat → Nat → Int32 → wM → Nat → Prop
  | 0 => fun _ _ _ _ _ => False
  | n + 1 => B_X2_copy_14 G (L_X2_copy_14 G Q n) Q
def P_X2_copy (G : wG) (t0 : Nat) (b : Nat) (M : wM) (Q : Option Nat → wM → Prop) : Prop :=
  oNew G M b 1 [.null, .null, .null, .null, .null, .null, .null, .null, .int 0] (fun a1 M2 b3 => oGetA M2 t0 1 0 (fun a4 => ∃ c6, c6 ≤ b3 ∧ P_X2_init G a1 a4 c6 M2 (fun M5 => ∃ n, L_X2_copy_14 G Q n t0 a1 (0 : Int32) M5 (b3 - c6))))
set_option maxHeartbeats 4000000 in
set_option maxRecDepth 100000 in
theorem P_X2_copy_ok {l : Launch} (hl0 : l.stackTraces = false) {G : wG} {t0 : Nat} {b : Nat} {M : wM} {Q : Option Nat → wM → Prop} (hp : P_X2_copy G t0 b M Q) : wMet l yX2_copy (ws_ yX2_copy cX2_copy 4 (Option.some (Jvm.ClassFile.FieldType.object "ParkingOffice$Books"))) 18 532 G [.ref t0] M b (wqR Q) wX0 := by
  refine vx_ofW (cc := cX2_copy) (maxL := 4) (ret := Option.some (Jvm.ClassFile.FieldType.object "ParkingOffice$Books")) (by decide) rfl ?_
  intro p e s m args below meth c s₁ B hml hnt hv
  obtain ⟨rfl, hM, hK, hZ, hz⟩ := hv
  have hC : wC G s := ⟨hK, hZ, hz⟩
  have hx := B.exec
  have hb := B.bytes
  have hr := B.returns
  have hts := atoms_spec (ws := (ws_ yX2_copy cX2_copy 4 (Option.some (Jvm.ClassFile.FieldType.object "ParkingOffice$Books")))) B.pre
  have hts : ∀ w ∈ lw_all, w.before _ s = true := fun w h => hts w (List.mem_cons_of_mem _ h)
  have hown : s.vm.findClass RX2 = some m.cls := findClass_of_methodNamed B.named
  have hlk := B.notSynchronized
  have X : CallFix p m c cX2_copy 4 s ([.ref t0] : List Value).toArray lw_all RX2 := ⟨hx, hb, hml, hown, hts⟩
  have hS : va_S (wA G) s.heap s.heap [] := va_S.rf
  have hl := lv_entry ([.ref t0]) (n := 4) (Nat.le_of_ble_eq_true rfl)
  rw [lg_entry_eq]
  generalize (lg_sl ([.ref t0]) ++ List.replicate (4 - (lg_sl ([.ref t0])).length) Slot.unset).toArray = ls at hl ⊢
  have hl : lv_has ls 4 [(0, .ref t0)] := hl
  have hB : 0 + b ≤ ((headSpec (ws_ yX2_copy cX2_copy 4 (Option.some (Jvm.ClassFile.FieldType.object "ParkingOffice$Books"))) ({ frames := 18, cells := b, slots := b, locals := 532 })).room).cells ∧ 0 + b ≤ ((headSpec (ws_ yX2_copy cX2_copy 4 (Option.some (Jvm.ClassFile.FieldType.object "ParkingOffice$Books"))) ({ frames := 18, cells := b, slots := b, locals := 532 })).room).slots := ⟨Nat.le_of_eq (Nat.zero_add b), Nat.le_of_eq (Nat.zero_add b)⟩
  have hB114 : ∀ (rec114 : Nat → Nat → Option Nat → wM → Nat → Prop) (hrec114 : ∀ (x0 : Nat) (x1 : Nat) (x2 : Option Nat) (M : wM) (bq : Nat) (H : Heap) (locs : List Loc) (ls : Array Slot) (cells slots : Nat), rec114 x0 x1 x2 M bq → wR G M H → va_S (wA G) s.heap H locs → (cells + bq ≤ ((headSpec (ws_ yX2_copy cX2_copy 4 (Option.some (Jvm.ClassFile.FieldType.object "ParkingOffice$Books"))) ({ frames := 18, cells := b, slots := b, locals := 532 })).room).cells ∧ slots + bq ≤ ((headSpec (ws_ yX2_copy cX2_copy 4 (Option.some (Jvm.ClassFile.FieldType.object "ParkingOffice$Books"))) ({ frames := 18, cells := b, slots := b, locals := 532 })).room).slots) → lv_has ls 4 [(0, .ref x0), (1, .ref x1), (2, va_rf x2)] → W p l e (headSpec (ws_ yX2_copy cX2_copy 4 (Option.some (Jvm.ClassFile.FieldType.object "ParkingOffice$Books"))) ({ frames := 18, cells := b, slots := b, locals := 532 })).room s m ([.ref t0] : List Value).toArray below meth c H locs cells slots (vx_MQ below (wQ G (wqR Q)) (wXC G wX0) ([.ref t0] : List Value).toArray s b b (wA G)) (F0 m 114 ls [])), ∀ (x0 : Nat) (x1 : Nat) (x2 : Option Nat) (M : wM) (bq : Nat) (H : Heap) (locs : List Loc) (ls : Array Slot) (cells slots : Nat), B_X2_copy_114 G rec114 Q x0 x1 x2 M bq → wR G M H → va_S (wA G) s.heap H locs → (cells + bq ≤ ((headSpec (ws_ yX2_copy cX2_copy 4 (Option.some (Jvm.ClassFile.FieldType.object "ParkingOffice$Books"))) ({ frames := 18, cells := b, slots := b, locals := 532 })).room).cells ∧ slots + bq ≤ ((headSpec (ws_ yX2_copy cX2_copy 4 (Option.some (Jvm.ClassFile.FieldType.object "ParkingOffice$Books"))) ({ frames := 18, cells := b, slots := b, locals := 532 })).room).slots) → lv_has ls 4 [(0, .ref x0), (1, .ref x1), (2, va_rf x2)] → W p l e (headSpec (ws_ yX2_copy cX2_copy 4 (Option.some (Jvm.ClassFile.FieldType.object "ParkingOffice$Books"))) ({ frames := 18, cells := b, slots := b, locals := 532 })).room s m ([.ref t0] : List Value).toArray below meth c H locs cells slots (vx_MQ below (wQ G (wqR Q)) (wXC G wX0) ([.ref t0] : List Value).toArray s b b (wA G)) (F0 m 114 ls []) := by
    intro rec114 hrec114 x0 x1 x2 M bq H locs ls cells slots hp hM hS hB hl
    refine x_aload_n (r := x2) hx hb dX2_copy_114 rfl (lv_at hl 2 rfl) ?_
    obtain ⟨a1, ea, hqa1⟩ := hp
    subst ea
    have hp := hqa1
    have hl : lv_has ls 4 [(0, .ref x0), (1, .ref x1), (2, .ref a1)] := hl
    obtain ⟨hrec, hp⟩ := hp
    refine x_call0Z5 (vx_runF (hC.1.1.1 19 (RJ36, TJ36, 5) rfl).2 (C := "java/util/LinkedList$ListItr") (As := []) (rest := []) X (P_J36_hasNext_ok (l := l) hl0 hp) (va_cwF 0 hts (lw_app (w_mem4 q1789 q1818 q1820 q195) (lw_meth q1822)) rfl rfl rfl (wfw_37 hC.1) (by decide +kernel) ⟨Nat.le_of_ble_eq_true rfl, Nat.le_of_ble_eq_true rfl⟩) ⟨wPc.blind, w_recv hC.1 hM (ci := 19) (q := (RJ36, TJ36, 5)) rfl hrec, w_pre hC hM hS _⟩ rfl rfl hl.1 rfl (lv_room (Nat.le_of_ble_eq_true rfl)) dX2_copy_115 (w_room0 hB)) hS (w_room0 hB) (fun _ _ _ _ _ _ h => False.elim h) (fun r4 M2 H locs hp hM hS => ?_)
    refine x_ifeqB (tgt := 144) hx hb dX2_copy_120 (by decide) (fun hc => ?_) (fun hc => ?_)
    · have hp := oIf.bf hp hc
      refine lv_aload_n hx hb dX2_copy_144 rfl (lv_at hl 1 rfl) ?_
      refine x_getA X hC.1 hM (ci := 1) (C := RX2) (T := TX2) (N := 9) rfl in_X2 4 (by decide) q925 (fun _ h9 => h9) dX2_copy_145 hp (fun a5 hp => ?_)
      refine lv_aload_n hx hb dX2_copy_148 rfl (lv_at hl 0 rfl) ?_
      refine x_getA X hC.1 hM (ci := 1) (C := RX2) (T := TX2) (N := 9) rfl in_X2 4 (by decide) q925 (fun _ h9 => h9) dX2_copy_149 hp (fun a6 hp => ?_)
      obtain ⟨hrec, hp⟩ := hp
      obtain ⟨c8, hc1, hp⟩ := hp
      refine x_callZ5 (vx_runF (hC.1.1.1 16 (RJ2, TJ2, 3) rfl).2 (C := "java/util/ArrayList") (As := [.ref a6]) (rest := []) X (P_J2_addAll_ok (l := l) hl0 hp) (va_cwF 1 hts (lw_app (w_mem4 q2165 q1634 q1636 q153) (lw_meth q1638)) rfl rfl rfl (wfw_6 hC.1) (by decide +kernel) ⟨Nat.le_of_ble_eq_true rfl, Nat.le_of_ble_eq_true rfl⟩) ⟨wPc.blind, w_recv hC.1 hM (ci := 16) (q := (RJ2, TJ2, 3)) rfl hrec, w_pre hC hM hS _⟩ rfl rfl hl.1 rfl (lv_room (Nat.le_of_ble_eq_true rfl)) dX2_copy_152 (w_room hB hc1)) hS hB hc1 (fun _ _ _ _ _ _ h => False.elim h) (fun r9 M7 H locs hp hM hS hB => ?_)
      refine lv_pop hx hb dX2_copy_157 rfl ?_
      refine lv_aload_n hx hb dX2_copy_158 rfl (lv_at hl 1 rfl) ?_
      refine x_getA X hC.1 hM (ci := 1) (C := RX2) (T := TX2) (N := 9) rfl in_X2 5 (by decide) q927 (fun _ h9 => h9) dX2_copy_159 hp (fun a10 hp => ?_)
      refine lv_aload_n hx hb dX2_copy_162 rfl (lv_at hl 0 rfl) ?_
      refine x_getA X hC.1 hM (ci := 1) (C := RX2) (T := TX2) (N := 9) rfl in_X2 5 (by decide) q927 (fun _ h9 => h9) dX2_copy_163 hp (fun a11 hp => ?_)
      obtain ⟨hrec, hp⟩ := hp
      obtain ⟨c13, hc1, hp⟩ := hp
      refine x_callV (vx_runV (As := [.ref a11]) (rest := []) X (P_J9_or_ok (l := l) hl0 hp) (cwV 1 hts (lw_V q2166 q2167 q2168 q161 q2169) rfl rfl rfl (by decide +kernel) ⟨Nat.le_of_ble_eq_true rfl, Nat.le_of_ble_eq_true rfl⟩) ⟨wPc.blind, w_recv hC.1 hM (ci := 21) (q := (RJ9, TJ9, 3)) rfl hrec, w_pre hC hM hS _⟩ rfl rfl hl.1 rfl (lv_room (Nat.le_of_ble_eq_true rfl)) dX2_copy_166 (w_room hB hc1)) hS hB hc1 (fun _ _ _ _ _ _ h => False.elim h) (fun M12 H locs hp hM hS hB => ?_)
      refine lv_aload_n hx hb dX2_copy_169 rfl (lv_at hl 0 rfl) ?_
      refine x_getA X hC.1 hM (ci := 1) (C := RX2) (T := TX2) (N := 9) rfl in_X2 6 (by decide) q929 (fun _ h9 => h9) dX2_copy_170 hp (fun a14 hp => ?_)
      refine lv_iconst (v := 0) hx hb dX2_copy_173 (by decide) ?_
      refine lv_aload_n hx hb dX2_copy_174 rfl (lv_at hl 1 rfl) ?_
      refine x_getA X hC.1 hM (ci := 1) (C := RX2) (T := TX2) (N := 9) rfl in_X2 6 (by decide) q929 (fun _ h9 => h9) dX2_copy_175 hp (fun a15 hp => ?_)
      refine lv_iconst (v := 0) hx hb dX2_copy_178 (by decide) ?_
      refine lv_bipush (v := 6) hx hb dX2_copy_179 (by decide) ?_
      refine x_copyI X (hml.trans hl.1.symm) hC hM hS q2172 q351 q350 q157 .int (by decide) rfl (Nat.le_of_ble_eq_true rfl) (Nat.le_of_ble_eq_true rfl) dX2_copy_181 hp (fun M16 H locs hM hS hp => ?_)
      refine lv_aload_n hx hb dX2_copy_184 rfl (lv_at hl 0 rfl) ?_
      refine x_getA X hC.1 hM (ci := 1) (C := RX2) (T := TX2) (N := 9) rfl in_X2 7 (by decide) q931 (fun _ h9 => h9) dX2_copy_185 hp (fun a17 hp => ?_)
      refine lv_iconst (v := 0) hx hb dX2_copy_188 (by decide) ?_
      refine lv_aload_n hx hb dX2_copy_189 rfl (lv_at hl 1 rfl) ?_
      refine x_getA X hC.1 hM (ci := 1) (C := RX2) (T := TX2) (N := 9) rfl in_X2 7 (by decide) q931 (fun _ h9 => h9) dX2_copy_190 hp (fun a18 hp => ?_)
      refine lv_iconst (v := 0) hx hb dX2_copy_193 (by decide) ?_
      refine lv_bipush (v := 16) hx hb dX2_copy_194 (by decide) ?_
      refine x_copyI X (hml.trans hl.1.symm) hC hM hS q2172 q351 q350 q157 .int (by decide) rfl (Nat.le_of_ble_eq_true rfl) (Nat.le_of_ble_eq_true rfl) dX2_copy_196 hp (fun M19 H locs hM hS hp => ?_)
      refine lv_aload_n hx hb dX2_copy_199 rfl (lv_at hl 1 rfl) ?_
      refine lv_aload_n hx hb dX2_copy_200 rfl (lv_at hl 0 rfl) ?_
      refine x_getI X hC.1 hM (ci := 1) (C := RX2) (T := TX2) (N := 9) rfl in_X2 8 (by decide) q933 (fun _ h9 => h9) dX2_copy_201 hp (fun v20 hp => ?_)
      refine x_put X hC.1 hM hS (ci := 1) (C := RX2) (T := TX2) (N := 9) rfl in_X2 tyX2 tyX2_ok nmX2 8 (by decide) q933 (fun _ h9 => h9) rfl rfl rfl dX2_copy_204 hp (fun M21 H locs hM hS hp => ?_)
      refine lv_aload_n hx hb dX2_copy_207 rfl (lv_at hl 1 rfl) ?_
      exact x_aret (v := (some x1)) X hr (by first | exact Or.inl ⟨_, rfl⟩ | exact Or.inr ⟨_, rfl⟩) hlk hM hS (w_fin hB) dX2_copy_208 ⟨(some x1), rfl, hp⟩
    · have hp := oIf.bt hp hc
      refine lv_aload_n hx hb dX2_copy_123 rfl (lv_at hl 2 rfl) ?_
      obtain ⟨hrec, hp⟩ := hp
      refine x_call0R5 (vx_runF (hC.1.1.1 19 (RJ36, TJ36, 5) rfl).2 (C := "java/util/LinkedList$ListItr") (As := []) (rest := []) X (P_J36_next_ok (l := l) hl0 hp) (va_cwF 0 hts (lw_app (w_mem4 q1824 q1952 q1954 q195) (lw_meth q1956)) rfl rfl rfl (wfw_38 hC.1) (by decide +kernel) ⟨Nat.le_of_ble_eq_true rfl, Nat.le_of_ble_eq_true rfl⟩) ⟨wPc.blind, w_recv hC.1 hM (ci := 19) (q := (RJ36, TJ36, 5)) rfl hrec, w_pre hC hM hS _⟩ rfl rfl hl.1 rfl (lv_room (Nat.le_of_ble_eq_true rfl)) dX2_copy_124 (w_room0 hB)) hS (w_room0 hB) (fun _ _ _ _ _ _ h => False.elim h) (fun r24 M22 H locs hp hM hS => ?_)
      refine x_cast (r := r24) X hC.1 hM q1964 (ci := 14) rfl (Or.inl rfl) dX2_copy_129 hp (fun hp => ?_)
      refine x_astore_n (r := r24) (lv' := [(3, va_rf r24), (0, .ref x0), (1, .ref x1), (2, .ref a1)]) hx hb dX2_copy_132 rfl hl (by decide) rfl (fun ls hl => ?_)
      refine lv_aload_n hx hb dX2_copy_133 rfl (lv_at hl 2 rfl) ?_
      refine x_getA X hC.1 hM (ci := 1) (C := RX2) (T := TX2) (N := 9) rfl in_X2 3 (by decide) q923 (fun _ h9 => h9) dX2_copy_134 hp (fun a25 hp => ?_)
      refine x_aload_n (r := r24) hx hb dX2_copy_137 rfl (lv_at hl 0 rfl) ?_
      obtain ⟨hrec, hp⟩ := hp
      obtain ⟨c27, hc1, hp⟩ := hp
      refine x_callV (vx_runV (As := [va_rf r24]) (rest := []) X (P_J8_addLast_ok (l := l) hl0 hp) (cwV 1 hts (lw_V q2160 q2161 q2162 q160 q2163) rfl rfl rfl (by decide +kernel) ⟨Nat.le_of_ble_eq_true rfl, Nat.le_of_ble_eq_true rfl⟩) ⟨wPc.blind, w_recv hC.1 hM (ci := 17) (q := (RJ8, TJ8, 4)) rfl hrec, w_pre hC hM hS _⟩ rfl rfl hl.1 rfl (lv_room (Nat.le_of_ble_eq_true rfl)) dX2_copy_138 (w_room hB hc1)) hS hB hc1 (fun _ _ _ _ _ _ h => False.elim h) (fun M26 H locs hp hM hS hB => ?_)
      refine lv_goto (tgt := 114) hx hb dX2_copy_141 (by decide) ?_
      exact hrec114 _ _ _ _ _ _ _ _ _ _ hp hM hS hB (lv_sub hl [1, 2, 3] rfl)
  have hL114 : ∀ (n : Nat), ∀ (x0 : Nat) (x1 : Nat) (x2 : Option Nat) (M : wM) (bq : Nat) (H : Heap) (locs : List Loc) (ls : Array Slot) (cells slots : Nat), L_X2_copy_114 G Q n x0 x1 x2 M bq → wR G M H → va_S (wA G) s.heap H locs → (cells + bq ≤ ((headSpec (ws_ yX2_copy cX2_copy 4 (Option.some (Jvm.ClassFile.FieldType.object "ParkingOffice$Books"))) ({ frames := 18, cells := b, slots := b, locals := 532 })).room).cells ∧ slots + bq ≤ ((headSpec (ws_ yX2_copy cX2_copy 4 (Option.some (Jvm.ClassFile.FieldType.object "ParkingOffice$Books"))) ({ frames := 18, cells := b, slots := b, locals := 532 })).room).slots) → lv_has ls 4 [(0, .ref x0), (1, .ref x1), (2, va_rf x2)] → W p l e (headSpec (ws_ yX2_copy cX2_copy 4 (Option.some (Jvm.ClassFile.FieldType.object "ParkingOffice$Books"))) ({ frames := 18, cells := b, slots := b, locals := 532 })).room s m ([.ref t0] : List Value).toArray below meth c H locs cells slots (vx_MQ below (wQ G (wqR Q)) (wXC G wX0) ([.ref t0] : List Value).toArray s b b (wA G)) (F0 m 114 ls []) := by
    intro n
    induction n with
    | zero => intro _ _ _ _ _ _ _ _ _ _ hp; exact False.elim hp
    | succ n ih => intro x0 x1 x2 M bq H locs ls cells slots hp hM hS hB hl; exact hB114 (L_X2_copy_114 G Q n) ih _ _ _ _ _ _ _ _ _ _ hp hM hS hB hl
  have hB61 : ∀ (rec61 : Nat → Nat → Int32 → wM → Nat → Prop) (hrec61 : ∀ (x0 : Nat) (x1 : Nat) (x2 : Int32) (M : wM) (bq : Nat) (H : Heap) (locs : List Loc) (ls : Array Slot) (cells slots : Nat), rec61 x0 x1 x2 M bq → wR G M H → va_S (wA G) s.heap H locs → (cells + bq ≤ ((headSpec (ws_ yX2_copy cX2_copy 4 (Option.some (Jvm.ClassFile.FieldType.object "ParkingOffice$Books"))) ({ frames := 18, cells := b, slots := b, locals := 532 })).room).cells ∧ slots + bq ≤ ((headSpec (ws_ yX2_copy cX2_copy 4 (Option.some (Jvm.ClassFile.FieldType.object "ParkingOffice$Books"))) ({ frames := 18, cells := b, slots := b, locals := 532 })).room).slots) → lv_has ls 4 [(0, .ref x0), (1, .ref x1), (2, .int x2)] → W p l e (headSpec (ws_ yX2_copy cX2_copy 4 (Option.some (Jvm.ClassFile.FieldType.object "ParkingOffice$Books"))) ({ frames := 18, cells := b, slots := b, locals := 532 })).room s m ([.ref t0] : List Value).toArray below meth c H locs cells slots (vx_MQ below (wQ G (wqR Q)) (wXC G wX0) ([.ref t0] : List Value).toArray s b b (wA G)) (F0 m 61 ls [])), ∀ (x0 : Nat) (x1 : Nat) (x2 : Int32) (M : wM) (bq : Nat) (H : Heap) (locs : List Loc) (ls : Array Slot) (cells slots : Nat), B_X2_copy_61 G rec61 Q x0 x1 x2 M bq → wR G M H → va_S (wA G) s.heap H locs → (cells + bq ≤ ((headSpec (ws_ yX2_copy cX2_copy 4 (Option.some (Jvm.ClassFile.FieldType.object "ParkingOffice$Books"))) ({ frames := 18, cells := b, slots := b, locals := 532 })).room).cells ∧ slots + bq ≤ ((headSpec (ws_ yX2_copy cX2_copy 4 (Option.some (Jvm.ClassFile.FieldType.object "ParkingOffice$Books"))) ({ frames := 18, cells := b, slots := b, locals := 532 })).room).slots) → lv_has ls 4 [(0, .ref x0), (1, .ref x1), (2, .int x2)] → W p l e (headSpec (ws_ yX2_copy cX2_copy 4 (Option.some (Jvm.ClassFile.FieldType.object "ParkingOffice$Books"))) ({ frames := 18, cells := b, slots := b, locals := 532 })).room s m ([.ref t0] : List Value).toArray below meth c H locs cells slots (vx_MQ below (wQ G (wqR Q)) (wXC G wX0) ([.ref t0] : List Value).toArray s b b (wA G)) (F0 m 61 ls []) := by
    intro rec61 hrec61 x0 x1 x2 M bq H locs ls cells slots hp hM hS hB hl
    refine lv_iload_n hx hb dX2_copy_61 rfl (lv_at hl 2 rfl) ?_
    refine lv_aload_n hx hb dX2_copy_62 rfl (lv_at hl 0 rfl) ?_
    refine x_getA X hC.1 hM (ci := 1) (C := RX2) (T := TX2) (N := 9) rfl in_X2 2 (by decide) q921 (fun _ h9 => h9) dX2_copy_63 hp (fun a1 hp => ?_)
    obtain ⟨hrec, hp⟩ := hp
    refine x_call0I5 (vx_runF (hC.1.1.1 16 (RJ2, TJ2, 3) rfl).2 (C := "java/util/ArrayList") (As := []) (rest := [.int x2]) X (P_J2_size_ok (l := l) hl0 hp) (va_cwF 0 hts (lw_app (w_mem4 q493 q496 q498 q153) (lw_meth q500)) rfl rfl rfl (wfw_13 hC.1) (by decide +kernel) ⟨Nat.le_of_ble_eq_true rfl, Nat.le_of_ble_eq_true rfl⟩) ⟨wPc.blind, w_recv hC.1 hM (ci := 16) (q := (RJ2, TJ2, 3)) rfl hrec, w_pre hC hM hS _⟩ rfl rfl hl.1 rfl (lv_room (Nat.le_of_ble_eq_true rfl)) dX2_copy_66 (w_room0 hB)) hS (w_room0 hB) (fun _ _ _ _ _ _ h => False.elim h) (fun v4 M2 H locs hp hM hS => ?_)
    refine lv_icmp_ge (tgt := 106) hx hb dX2_copy_71 (by decide) (fun hc => ?_) (fun hc => ?_)
    · have hp := oIf.t hp hc
      refine lv_aload_n hx hb dX2_copy_106 rfl (lv_at hl 0 rfl) ?_
      refine x_getA X hC.1 hM (ci := 1) (C := RX2) (T := TX2) (N := 9) rfl in_X2 3 (by decide) q923 (fun _ h9 => h9) dX2_copy_107 hp (fun a5 hp => ?_)
      obtain ⟨hrec, hp⟩ := hp
      obtain ⟨c7, hc1, hp⟩ := hp
      refine x_callR (vx_runU (As := []) (rest := []) X (P_J7_iterator_J8_ok (l := l) hl0 hp) (va_cwU 0 hts (lw_app (w_mem5 q1699 q1700 q1702 q1703 q159) (lw_meth q1704)) rfl rfl rfl rfl (by decide +kernel) ⟨Nat.le_of_ble_eq_true rfl, Nat.le_of_ble_eq_true rfl⟩) ⟨wPc.blind, w_recv hC.1 hM (ci := 17) (q := (RJ8, TJ8, 4)) rfl hrec, w_pre hC hM hS _⟩ rfl rfl hl.1 rfl (lv_room (Nat.le_of_ble_eq_true rfl)) dX2_copy_110 (w_room hB hc1)) hS hB hc1 (fun _ _ _ _ _ _ h => False.elim h) (fun r8 M6 H locs hp hM hS hB => ?_)
      refine x_astore_n (r := r8) (lv' := [(2, va_rf r8), (0, .ref x0), (1, .ref x1)]) hx hb dX2_copy_113 rfl hl (by decide) rfl (fun ls hl => ?_)
      obtain ⟨n, hp⟩ := hp
      exact hL114 n _ _ _ _ _ _ _ _ _ _ hp hM hS hB (lv_sub hl [1, 2, 0] rfl)
    · have hp := oIf.f hp hc
      refine lv_aload_n hx hb dX2_copy_74 rfl (lv_at hl 1 rfl) ?_
      refine x_getA X hC.1 hM (ci := 1) (C := RX2) (T := TX2) (N := 9) rfl in_X2 2 (by decide) q921 (fun _ h9 => h9) dX2_copy_75 hp (fun a9 hp => ?_)
      refine lv_aload_n hx hb dX2_copy_78 rfl (lv_at hl 0 rfl) ?_
      refine x_getA X hC.1 hM (ci := 1) (C := RX2) (T := TX2) (N := 9) rfl in_X2 2 (by decide) q921 (fun _ h9 => h9) dX2_copy_79 hp (fun a10 hp => ?_)
      refine lv_iload_n hx hb dX2_copy_82 rfl (lv_at hl 2 rfl) ?_
      obtain ⟨hrec, hp⟩ := hp
      refine x_call0R5 (vx_runF (hC.1.1.1 16 (RJ2, TJ2, 3) rfl).2 (C := "java/util/ArrayList") (As := [.int x2]) (rest := [.ref a9]) X (P_J2_get_ok (l := l) hl0 hp) (va_cwF 1 hts (lw_app (w_mem4 q519 q522 q524 q153) (lw_meth q526)) rfl rfl rfl (wfw_8 hC.1) (by decide +kernel) ⟨Nat.le_of_ble_eq_true rfl, Nat.le_of_ble_eq_true rfl⟩) ⟨wPc.blind, w_recv hC.1 hM (ci := 16) (q := (RJ2, TJ2, 3)) rfl hrec, w_pre hC hM hS _⟩ rfl rfl hl.1 rfl (lv_room (Nat.le_of_ble_eq_true rfl)) dX2_copy_83 (w_room0 hB)) hS (w_room0 hB) (fun _ _ _ _ _ _ h => False.elim h) (fun r13 M11 H locs hp hM hS => ?_)
      refine x_cast (r := r13) X hC.1 hM q2138 (ci := 10) rfl (Or.inl rfl) dX2_copy_88 hp (fun hp => ?_)
      obtain ⟨a14, ea, hqa14⟩ := hp
      subst ea
      have hp := hqa14
      obtain ⟨hrec, hp⟩ := hp
      obtain ⟨c16, hc1, hp⟩ := hp
      refine x_callR (vx_runV (As := []) (rest := [.ref a9]) X (P_X13_copy_ok (l := l) hl0 hp) (cwV 0 hts (lw_V q2139 q2140 q2141 q203 q2142) rfl rfl rfl (by decide +kernel) ⟨Nat.le_of_ble_eq_true rfl, Nat.le_of_ble_eq_true rfl⟩) ⟨wPc.blind, w_recv hC.1 hM (ci := 10) (q := (RX13, TX13, 4)) rfl hrec, w_pre hC hM hS _⟩ rfl rfl hl.1 rfl (lv_room (Nat.le_of_ble_eq_true rfl)) dX2_copy_91 (w_room hB hc1)) hS hB hc1 (fun _ _ _ _ _ _ h => False.elim h) (fun r17 M15 H locs hp hM hS hB => ?_)
      obtain ⟨hrec, hp⟩ := hp
      obtain ⟨c19, hc1, hp⟩ := hp
      refine x_callZ5 (vx_runF (hC.1.1.1 16 (RJ2, TJ2, 3) rfl).2 (C := "java/util/ArrayList") (As := [va_rf r17]) (rest := []) X (P_J2_add_ok (l := l) hl0 hp) (va_cwF 1 hts (lw_app (w_mem4 q2137 q266 q268 q153) (lw_meth q270)) rfl rfl rfl (wfw_5 hC.1) (by decide +kernel) ⟨Nat.le_of_ble_eq_true rfl, Nat.le_of_ble_eq_true rfl⟩) ⟨wPc.blind, w_recv hC.1 hM (ci := 16) (q := (RJ2, TJ2, 3)) rfl hrec, w_pre hC hM hS _⟩ rfl rfl hl.1 rfl (lv_room (Nat.le_of_ble_eq_true rfl)) dX2_copy_94 (w_room hB hc1)) hS hB hc1 (fun _ _ _ _ _ _ h => False.elim h) (fun r20 M18 H locs hp hM hS hB => ?_)
      refine lv_pop hx hb dX2_copy_99 rfl ?_
      refine lv_iinc (v := (x2 + 1)) (lv' := [(2, .int (x2 + 1)), (0, .ref x0), (1, .ref x1)]) hx hb dX2_copy_100 hl (k := 2) rfl rfl (by decide) rfl (fun ls hl => ?_)
      refine lv_goto (tgt := 61) hx hb dX2_copy_103 (by decide) ?_
      exact hrec61 _ _ _ _ _ _ _ _ _ _ hp hM hS hB (lv_sub hl [1, 2, 0] rfl)
  have hL61 : ∀ (n : Nat), ∀ (x0 : Nat) (x1 : Nat) (x2 : Int32) (M : wM) (bq : Nat) (H : Heap) (locs : List Loc) (ls : Array Slot) (cells slots : Nat), L_X2_copy_61 G Q n x0 x1 x2 M bq → wR G M H → va_S (wA G) s.heap H locs → (cells + bq ≤ ((headSpec (ws_ yX2_copy cX2_copy 4 (Option.some (Jvm.ClassFile.FieldType.object "ParkingOffice$Books"))) ({ frames := 18, cells := b, slots := b, locals := 532 })).room).cells ∧ slots + bq ≤ ((headSpec (ws_ yX2_copy cX2_copy 4 (Option.some (Jvm.ClassFile.FieldType.object "ParkingOffice$Books"))) ({ frames := 18, cells := b, slots := b, locals := 532 })).room).slots) → lv_has ls 4 [(0, .ref x0), (1, .ref x1), (2, .int x2)] → W p l e (headSpec (ws_ yX2_copy cX2_copy 4 (Option.some (Jvm.ClassFile.FieldType.object "ParkingOffice$Books"))) ({ frames := 18, cells := b, slots := b, locals := 532 })).room s m ([.ref t0] : List Value).toArray below meth c H locs cells slots (vx_MQ below (wQ G (wqR Q)) (wXC G wX0) ([.ref t0] : List Value).toArray s b b (wA G)) (F0 m 61 ls []) := by
    intro n
    induction n with
    | zero => intro _ _ _ _ _ _ _ _ _ _ hp; exact False.elim hp
    | succ n ih => intro x0 x1 x2 M bq H locs ls cells slots hp hM hS hB hl; exact hB61 (L_X2_copy_61 G Q n) ih _ _ _ _ _ _ _ _ _ _ hp hM hS hB hl
  have hB14 : ∀ (rec14 : Nat → Nat → Int32 → wM → Nat → Prop) (hrec14 : ∀ (x0 : Nat) (x1 : Nat) (x2 : Int32) (M : wM) (bq : Nat) (H : Heap) (locs : List Loc) (ls : Array Slot) (cells slots : Nat), rec14 x0 x1 x2 M bq → wR G M H → va_S (wA G) s.heap H locs → (cells + bq ≤ ((headSpec (ws_ yX2_copy cX2_copy 4 (Option.some (Jvm.ClassFile.FieldType.object "ParkingOffice$Books"))) ({ frames := 18, cells := b, slots := b, locals := 532 })).room).cells ∧ slots + bq ≤ ((headSpec (ws_ yX2_copy cX2_copy 4 (Option.some (Jvm.ClassFile.FieldType.object "ParkingOffice$Books"))) ({ frames := 18, cells := b, slots := b, locals := 532 })).room).slots) → lv_has ls 4 [(0, .ref x0), (1, .ref x1), (2, .int x2)] → W p l e (headSpec (ws_ yX2_copy cX2_copy 4 (Option.some (Jvm.ClassFile.FieldType.object "ParkingOffice$Books"))) ({ frames := 18, cells := b, slots := b, locals := 532 })).room s m ([.ref t0] : List Value).toArray below meth c H locs cells slots (vx_MQ below (wQ G (wqR Q)) (wXC G wX0) ([.ref t0] : List Value).toArray s b b (wA G)) (F0 m 14 ls [])), ∀ (x0 : Nat) (x1 : Nat) (x2 : Int32) (M : wM) (bq : Nat) (H : Heap) (locs : List Loc) (ls : Array Slot) (cells slots : Nat), B_X2_copy_14 G rec14 Q x0 x1 x2 M bq → wR G M H → va_S (wA G) s.heap H locs → (cells + bq ≤ ((headSpec (ws_ yX2_copy cX2_copy 4 (Option.some (Jvm.ClassFile.FieldType.object "ParkingOffice$Books"))) ({ frames := 18, cells := b, slots := b, locals := 532 })).room).cells ∧ slots + bq ≤ ((headSpec (ws_ yX2_copy cX2_copy 4 (Option.some (Jvm.ClassFile.FieldType.object "ParkingOffice$Books"))) ({ frames := 18, cells := b, slots := b, locals := 532 })).room).slots) → lv_has ls 4 [(0, .ref x0), (1, .ref x1), (2, .int x2)] → W p l e (headSpec (ws_ yX2_copy cX2_copy 4 (Option.some (Jvm.ClassFile.FieldType.object "ParkingOffice$Books"))) ({ frames := 18, cells := b, slots := b, locals := 532 })).room s m ([.ref t0] : List Value).toArray below meth c H locs cells slots (vx_MQ below (wQ G (wqR Q)) (wXC G wX0) ([.ref t0] : List Value).toArray s b b (wA G)) (F0 m 14 ls []) := by
    intro rec14 hrec14 x0 x1 x2 M bq H locs ls cells slots hp hM hS hB hl
    refine lv_iload_n hx hb dX2_copy_14 rfl (lv_at hl 2 rfl) ?_
    refine lv_aload_n hx hb dX2_copy_15 rfl (lv_at hl 0 rfl) ?_
    refine x_getA X hC.1 hM (ci := 1) (C := RX2) (T := TX2) (N := 9) rfl in_X2 1 (by decide) q919 (fun _ h9 => h9) dX2_copy_16 hp (fun a1 hp => ?_)
    obtain ⟨hrec, hp⟩ := hp
    refine x_call0I5 (vx_runF (hC.1.1.1 16 (RJ2, TJ2, 3) rfl).2 (C := "java/util/ArrayList") (As := []) (rest := [.int x2]) X (P_J2_size_ok (l := l) hl0 hp) (va_cwF 0 hts (lw_app (w_mem4 q493 q496 q498 q153) (lw_meth q500)) rfl rfl rfl (wfw_13 hC.1) (by decide +kernel) ⟨Nat.le_of_ble_eq_true rfl, Nat.le_of_ble_eq_true rfl⟩) ⟨wPc.blind, w_recv hC.1 hM (ci := 16) (q := (RJ2, TJ2, 3)) rfl hrec, w_pre hC hM hS _⟩ rfl rfl hl.1 rfl (lv_room (Nat.le_of_ble_eq_true rfl)) dX2_copy_19 (w_room0 hB)) hS (w_room0 hB) (fun _ _ _ _ _ _ h => False.elim h) (fun v4 M2 H locs hp hM hS => ?_)
    refine lv_icmp_ge (tgt := 59) hx hb dX2_copy_24 (by decide) (fun hc => ?_) (fun hc => ?_)
    · have hp := oIf.t hp hc
      refine lv_iconst (v := 0) hx hb dX2_copy_59 (by decide) ?_
      refine lv_istore_n (lv' := [(2, .int (0 : Int32)), (0, .ref x0), (1, .ref x1)]) hx hb dX2_copy_60 rfl hl (by decide) rfl (fun ls hl => ?_)
      obtain ⟨n, hp⟩ := hp
      exact hL61 n _ _ _ _ _ _ _ _ _ _ hp hM hS hB (lv_sub hl [1, 2, 0] rfl)
    · have hp := oIf.f hp hc
      refine lv_aload_n hx hb dX2_copy_27 rfl (lv_at hl 1 rfl) ?_
      refine x_getA X hC.1 hM (ci := 1) (C := RX2) (T := TX2) (N := 9) rfl in_X2 1 (by decide) q919 (fun _ h9 => h9) dX2_copy_28 hp (fun a5 hp => ?_)
      refine lv_aload_n hx hb dX2_copy_31 rfl (lv_at hl 0 rfl) ?_
      refine x_getA X hC.1 hM (ci := 1) (C := RX2) (T := TX2) (N := 9) rfl in_X2 1 (by decide) q919 (fun _ h9 => h9) dX2_copy_32 hp (fun a6 hp => ?_)
      refine lv_iload_n hx hb dX2_copy_35 rfl (lv_at hl 2 rfl) ?_
      obtain ⟨hrec, hp⟩ := hp
      refine x_call0R5 (vx_runF (hC.1.1.1 16 (RJ2, TJ2, 3) rfl).2 (C := "java/util/ArrayList") (As := [.int x2]) (rest := [.ref a5]) X (P_J2_get_ok (l := l) hl0 hp) (va_cwF 1 hts (lw_app (w_mem4 q519 q522 q524 q153) (lw_meth q526)) rfl rfl rfl (wfw_8 hC.1) (by decide +kernel) ⟨Nat.le_of_ble_eq_true rfl, Nat.le_of_ble_eq_true rfl⟩) ⟨wPc.blind, w_recv hC.1 hM (ci := 16) (q := (RJ2, TJ2, 3)) rfl hrec, w_pre hC hM hS _⟩ rfl rfl hl.1 rfl (lv_room (Nat.le_of_ble_eq_true rfl)) dX2_copy_36 (w_room0 hB)) hS (w_room0 hB) (fun _ _ _ _ _ _ h => False.elim h) (fun r9 M7 H locs hp hM hS => ?_)
      refine x_cast (r := r9) X hC.1 hM q2070 (ci := 9) rfl (Or.inl rfl) dX2_copy_41 hp (fun hp => ?_)
      obtain ⟨a10, ea, hqa10⟩ := hp
      subst ea
      have hp := hqa10
      obtain ⟨hrec, hp⟩ := hp
      obtain ⟨c12, hc1, hp⟩ := hp
      refine x_callR (vx_runV (As := []) (rest := [.ref a5]) X (P_X12_copy_ok (l := l) hl0 hp) (cwV 0 hts (lw_V q2071 q2072 q2073 q202 q2074) rfl rfl rfl (by decide +kernel) ⟨Nat.le_of_ble_eq_true rfl, Nat.le_of_ble_eq_true rfl⟩) ⟨wPc.blind, w_recv hC.1 hM (ci := 9) (q := (RX12, TX12, 8)) rfl hrec, w_pre hC hM hS _⟩ rfl rfl hl.1 rfl (lv_room (Nat.le_of_ble_eq_true rfl)) dX2_copy_44 (w_room hB hc1)) hS hB hc1 (fun _ _ _ _ _ _ h => False.elim h) (fun r13 M11 H locs hp hM hS hB => ?_)
      obtain ⟨hrec, hp⟩ := hp
      obtain ⟨c15, hc1, hp⟩ := hp
      refine x_callZ5 (vx_runF (hC.1.1.1 16 (RJ2, TJ2, 3) rfl).2 (C := "java/util/ArrayList") (As := [va_rf r13]) (rest := []) X (P_J2_add_ok (l := l) hl0 hp) (va_cwF 1 hts (lw_app (w_mem4 q2137 q266 q268 q153) (lw_meth q270)) rfl rfl rfl (wfw_5 hC.1) (by decide +kernel) ⟨Nat.le_of_ble_eq_true rfl, Nat.le_of_ble_eq_true rfl⟩) ⟨wPc.blind, w_recv hC.1 hM (ci := 16) (q := (RJ2, TJ2, 3)) rfl hrec, w_pre hC hM hS _⟩ rfl rfl hl.1 rfl (lv_room (Nat.le_of_ble_eq_true rfl)) dX2_copy_47 (w_room hB hc1)) hS hB hc1 (fun _ _ _ _ _ _ h => False.elim h) (fun r16 M14 H locs hp hM hS hB => ?_)
      refine lv_pop hx hb dX2_copy_52 rfl ?_
      refine lv_iinc (v := (x2 + 1)) (lv' := [(2, .int (x2 + 1)), (0, .ref x0), (1, .ref x1)]) hx hb dX2_copy_53 hl (k := 2) rfl rfl (by decide) rfl (fun ls hl => ?_)
      refine lv_goto (tgt := 14) hx hb dX2_copy_56 (by decide) ?_
      exact hrec14 _ _ _ _ _ _ _ _ _ _ hp hM hS hB (lv_sub hl [1, 2, 0] rfl)
  have hL14 : ∀ (n : Nat), ∀ (x0 : Nat) (x1 : Nat) (x2 : Int32) (M : wM) (bq : Nat) (H : Heap) (locs : List Loc) (ls : Array Slot) (cells slots : Nat), L_X2_copy_14 G Q n x0 x1 x2 M bq → wR G M H → va_S (wA G) s.heap H locs → (cells + bq ≤ ((headSpec (ws_ yX2_copy cX2_copy 4 (Option.some (Jvm.ClassFile.FieldType.object "ParkingOffice$Books"))) ({ frames := 18, cells := b, slots := b, locals := 532 })).room).cells ∧ slots + bq ≤ ((headSpec (ws_ yX2_copy cX2_copy 4 (Option.some (Jvm.ClassFile.FieldType.object "ParkingOffice$Books"))) ({ frames := 18, cells := b, slots := b, locals := 532 })).room).slots) → lv_has ls 4 [(0, .ref x0), (1, .ref x1), (2, .int x2)] → W p l e (headSpec (ws_ yX2_copy cX2_copy 4 (Option.some (Jvm.ClassFile.FieldType.object "ParkingOffice$Books"))) ({ frames := 18, cells := b, slots := b, locals := 532 })).room s m ([.ref t0] : List Value).toArray below meth c H locs cells slots (vx_MQ below (wQ G (wqR Q)) (wXC G wX0) ([.ref t0] : List Value).toArray s b b (wA G)) (F0 m 14 ls []) := by
    intro n
    induction n with
    | zero => intro _ _ _ _ _ _ _ _ _ _ hp; exact False.elim hp
    | succ n ih => intro x0 x1 x2 M bq H locs ls cells slots hp hM hS hB hl; exact hB14 (L_X2_copy_14 G Q n) ih _ _ _ _ _ _ _ _ _ _ hp hM hS hB hl
  refine x_new X hC hM hS hB (ci := 1) (C := RX2) (T := TX2) (N := 9) rfl in_X2 tyX2 tyX2_ok q2068 q221 q149 rfl (by decide) dX2_copy_0 hp (fun a1 M2 H b3 cells slots hM hS hB hp => ?_)
  refine lv_dup hx hb dX2_copy_3 rfl ?_
  refine lv_aload_n hx hb dX2_copy_4 rfl (lv_at hl 0 rfl) ?_
  refine x_getA X hC.1 hM (ci := 1) (C := RX2) (T := TX2) (N := 9) rfl in_X2 0 (by decide) q917 (fun _ h9 => h9) dX2_copy_5 hp (fun a4 hp => ?_)
  obtain ⟨c6, hc1, hp⟩ := hp
  refine x_callV (vx_runI (As := [.ref a4]) (rest := [.ref a1]) X (P_X2_init_ok (l := l) hl0 hp) (cwI 1 hts (lw_meth q443) rfl rfl rfl (hts _ q149) (hts _ q2069) (hts _ q442) rfl (by decide +kernel) ⟨Nat.le_of_ble_eq_true rfl, Nat.le_of_ble_eq_true rfl⟩) ⟨wPc.blind, w_pre hC hM hS _⟩ rfl rfl hl.1 rfl (lv_room (Nat.le_of_ble_eq_true rfl)) dX2_copy_8 (w_room hB hc1)) hS hB hc1 (fun _ _ _ _ _ _ h => False.elim h) (fun M5 H locs hp hM hS hB => ?_)
  refine lv_astore_n (lv' := [(1, .ref a1), (0, .ref t0)]) hx hb dX2_copy_11 rfl hl (by decide) rfl (fun ls hl => ?_)
  refine lv_iconst (v := 0) hx hb dX2_copy_12 (by decide) ?_
  refine lv_istore_n (lv' := [(2, .int (0 : Int32)), (1, .ref a1), (0, .ref t0)]) hx hb dX2_copy_13 rfl hl (by decide) rfl (fun ls hl => ?_)
  obtain ⟨n, hp⟩ := hp
  exact hL14 n _ _ _ _ _ _ _ _ _ _ hp hM hS hB (lv_sub hl [2, 1, 0] rfl)
def B_J25_sub_12 (G : wG) (Q : Int32 → wM → Prop) (x0 : Int32) (M : wM) : Prop :=
  Q x0 M
def P_J25_sub (G : wG) (p1 : Int32) (p2 : Int32) (p3 : Int32) (M : wM) (Q : Int32 → wM → Prop) : Prop :=
  oIf (0 ≤ (p1 - p2)) (B_J25_sub_12 G Q (p1 - p2) M) (B_J25_sub_12 G Q ((p1 - p2) + p3) M)
set_option maxHeartbeats 4000000 in
set_option maxRecDepth 100000 in
theorem P_J25_sub_ok {l : Launch} (hl0 : l.stackTraces = false) {G : wG} {p1 : Int32} {p2 : Int32} {p3 : Int32} {M : wM} {Q : Int32 → wM → Prop} (hp : P_J25_sub G p1 p2 p3 M Q) : wMet l yJ25_sub (ws_ yJ25_sub cJ25_sub 3 (Option.some Jvm.ClassFile.FieldType.int)) 12 400 G [.int p1, .int p2, .int p3] M 0 (wqI Q) wX0 := by
  refine vx_ofW (cc := cJ25_sub) (maxL := 3) (ret := Option.some Jvm.ClassFile.FieldType.int) (by decide) rfl ?_
  intro p e s m args below meth c s₁ B hml hnt hv
  obtain ⟨rfl, hM, hK, hZ, hz⟩ := hv
  have hC : wC G s := ⟨hK, hZ, hz⟩
  have hx := B.exec
  have hb := B.bytes
  have hr := B.returns
  have hts := atoms_spec (ws := (ws_ yJ25_sub cJ25_sub 3 (Option.some Jvm.ClassFile.FieldType.int))) B.pre
  have hts : ∀ w ∈ lw_all, w.before _ s = true := fun w h => hts w (List.mem_cons_of_mem _ h)
  have hown : s.vm.findClass RJ25 = some m.cls := findClass_of_methodNamed B.named
  have hlk := B.notSynchronized
  have X : CallFix p m c cJ25_sub 3 s ([.int p1, .int p2, .int p3] : List Value).toArray lw_all RJ25 := ⟨hx, hb, hml, hown, hts⟩
  have hS : va_S (wA G) s.heap s.heap [] := va_S.rf
  have hl := lv_entry ([.int p1, .int p2, .int p3]) (n := 3) (Nat.le_of_ble_eq_true rfl)
  rw [lg_entry_eq]
  generalize (lg_sl ([.int p1, .int p2, .int p3]) ++ List.replicate (3 - (lg_sl ([.int p1, .int p2, .int p3])).length) Slot.unset).toArray = ls at hl ⊢
  have hl : lv_has ls 3 [(0, .int p1), (1, .int p2), (2, .int p3)] := hl
  have hB12 : ∀ (x0 : Int32) (M : wM) (H : Heap) (locs : List Loc) (ls : Array Slot), B_J25_sub_12 G Q x0 M → wR G M H → va_S (wA G) s.heap H locs → lv_has ls 3 [(0, .int x0)] → W p l e (headSpec (ws_ yJ25_sub cJ25_sub 3 (Option.some Jvm.ClassFile.FieldType.int)) ({ frames := 12, cells := 0, slots := 0, locals := 400 })).room s m ([.int p1, .int p2, .int p3] : List Value).toArray below meth c H locs 0 0 (vx_MQ below (wQ G (wqI Q)) (wXC G wX0) ([.int p1, .int p2, .int p3] : List Value).toArray s 0 0 (wA G)) (F0 m 12 ls []) := by
    intro x0 M H locs ls hp hM hS hl
    refine lv_iload_n hx hb dJ25_sub_12 rfl (lv_at hl 0 rfl) ?_
    exact x_iret X hr hlk hM hS ⟨Nat.le_refl _, Nat.le_refl _⟩ dJ25_sub_13 ⟨_, rfl, hp⟩
  refine lv_iload_n hx hb dJ25_sub_0 rfl (lv_at hl 0 rfl) ?_
  refine lv_iload_n hx hb dJ25_sub_1 rfl (lv_at hl 1 rfl) ?_
  refine lv_isub hx hb dJ25_sub_2 ?_
  refine lv_dup hx hb dJ25_sub_3 rfl ?_
  refine lv_istore_n (lv' := [(0, .int (p1 - p2)), (1, .int p2), (2, .int p3)]) hx hb dJ25_sub_4 rfl hl (by decide) rfl (fun ls hl => ?_)
  refine lv_if_ge (tgt := 12) hx hb dJ25_sub_5 (by decide) (fun hc => ?_) (fun hc => ?_)
  · have hp := oIf.t hp hc
    exact hB12 _ _ _ _ _ hp hM hS (lv_sub hl [0] rfl)
  · have hp := oIf.f hp hc
    refine lv_iload_n hx hb dJ25_sub_8 rfl (lv_at hl 0 rfl) ?_
    refine lv_iload_n hx hb dJ25_sub_9 rfl (lv_at hl 2 rfl) ?_
    refine lv_iadd hx hb dJ25_sub_10 ?_
    refine lv_istore_n (lv' := [(0, .int ((p1 - p2) + p3)), (1, .int p2), (2, .int p3)]) hx hb dJ25_sub_11 rfl hl (by decide) rfl (fun ls hl => ?_)
    exact hB12 _ _ _ _ _ hp hM hS (lv_sub hl [0] rfl)
def P_J25_size (G : wG) (t0 : Nat) (M : wM) (Q : Int32 → wM → Prop) : Prop :=
  oGetI M t0 22 2 (fun v1 => oGetI M t0 22 1 (fun v2 => oGetA M t0 22 0 (fun a3 => oAlen (.object "java/lang/Object") M a3 (fun v4 => P_J25_sub G v1 v2 v4 M (fun v7 M5 => Q v7 M5)))))
set_option maxHeartbeats 4000000 in
set_option maxRecDepth 100000 in
theorem P_J25_size_ok {l : Launch} (hl0 : l.stackTraces = false) {G : wG} {t0 : Nat} {M : wM} {Q : Int32 → wM → Prop} (hp : P_J25_size G t0 M Q) : wMet l yJ25_size (ws_ yJ25_size cJ25_size 1 (Option.some Jvm.ClassFile.FieldType.int)) 13 422 G [.ref t0] M 0 (wqI Q) wX0 := by
  refine vx_ofW (cc := cJ25_size) (maxL := 1) (ret := Option.some Jvm.ClassFile.FieldType.int) (by decide) rfl ?_
  intro p e s m args below meth c s₁ B hml hnt hv
  obtain ⟨rfl, hM, hK, hZ, hz⟩ := hv
  have hC : wC G s := ⟨hK, hZ, hz⟩
  have hx := B.exec
  have hb := B.bytes
  have hr := B.returns
  have hts := atoms_spec (ws := (ws_ yJ25_size cJ25_size 1 (Option.some Jvm.ClassFile.FieldType.int))) B.pre
  have hts : ∀ w ∈ lw_all, w.before _ s = true := fun w h => hts w (List.mem_cons_of_mem _ h)
  have hown : s.vm.findClass RJ25 = some m.cls := findClass_of_methodNamed B.named
  have hlk := B.notSynchronized
  have X : CallFix p m c cJ25_size 1 s ([.ref t0] : List Value).toArray lw_all RJ25 := ⟨hx, hb, hml, hown, hts⟩
  have hS : va_S (wA G) s.heap s.heap [] := va_S.rf
  have hl := lv_entry ([.ref t0]) (n := 1) (Nat.le_of_ble_eq_true rfl)
  rw [lg_entry_eq]
  generalize (lg_sl ([.ref t0]) ++ List.replicate (1 - (lg_sl ([.ref t0])).length) Slot.unset).toArray = ls at hl ⊢
  have hl : lv_has ls 1 [(0, .ref t0)] := hl
  refine lv_aload_n hx hb dJ25_size_0 rfl (lv_at hl 0 rfl) ?_
  refine x_getI X hC.1 hM (ci := 22) (C := RJ25) (T := TJ25) (N := 3) rfl in_J25 2 (by decide) q963 (fun _ h9 => h9) dJ25_size_1 hp (fun v1 hp => ?_)
  refine lv_aload_n hx hb dJ25_size_4 rfl (lv_at hl 0 rfl) ?_
  refine x_getI X hC.1 hM (ci := 22) (C := RJ25) (T := TJ25) (N := 3) rfl in_J25 1 (by decide) q962 (fun _ h9 => h9) dJ25_size_5 hp (fun v2 hp => ?_)
  refine lv_aload_n hx hb dJ25_size_8 rfl (lv_at hl 0 rfl) ?_
  refine x_getA X hC.1 hM (ci := 22) (C := RJ25) (T := TJ25) (N := 3) rfl in_J25 0 (by decide) q961 (fun _ h9 => h9) dJ25_size_9 hp (fun a3 hp => ?_)
  refine x_alen X hC.1 hM (ty := (.object "java/lang/Object")) (by decide) dJ25_size_12 hp (fun v4 hp => ?_)
  refine x_call0I (vx_runS (As := [.int v1, .int v2, .int v4]) (rest := []) X (P_J25_sub_ok (l := l) hl0 hp) (va_cwS 3 hts (lw_S q1558 q1559 q177 q1560) rfl rfl rfl (by decide +kernel) ⟨Nat.le_of_ble_eq_true rfl, Nat.le_of_ble_eq_true rfl⟩) ⟨wPc.blind, w_pre hC hM hS _⟩ rfl rfl hl.1 rfl (lv_room (Nat.le_of_ble_eq_true rfl)) dJ25_size_13 ⟨Nat.le_refl _, Nat.le_refl _⟩) hS ⟨Nat.le_refl _, Nat.le_refl _⟩ (fun _ _ _ _ _ _ h => False.elim h) (fun v7 M5 H locs hp hM hS => ?_)
  exact x_iret X hr hlk hM hS ⟨Nat.le_refl _, Nat.le_refl _⟩ dJ25_size_16 ⟨_, rfl, hp⟩
def P_J25_elementAt (G : wG) (p1 : Nat) (p2 : Int32) (M : wM) (Q : Option Nat → wM → Prop) : Prop :=
  oAald (.object "java/lang/Object") M p1 p2 (fun r1 => Q r1 M)
set_option maxHeartbeats 4000000 in
set_option maxRecDepth 100000 in
theorem P_J25_elementAt_ok {l : Launch} (hl0 : l.stackTraces = false) {G : wG} {p1 : Nat} {p2 : Int32} {M : wM} {Q : Option Nat → wM → Prop} (hp : P_J25_elementAt G p1 p2 M Q) : wMet l yJ25_elementAt (ws_ yJ25_elementAt cJ25_elementAt 2 (Option.some (Jvm.ClassFile.FieldType.object "java/lang/Object"))) 12 400 G [.ref p1, .int p2] M 0 (wqR Q) wX0 := by
  refine vx_ofW (cc := cJ25_elementAt) (maxL := 2) (ret := Option.some (Jvm.ClassFile.FieldType.object "java/lang/Object")) (by decide) rfl ?_
  intro p e s m args below meth c s₁ B hml hnt hv
  obtain ⟨rfl, hM, hK, hZ, hz⟩ := hv
  have hC : wC G s := ⟨hK, hZ, hz⟩
  have hx := B.exec
  have hb := B.bytes
  have hr := B.returns
  have hts := atoms_spec (ws := (ws_ yJ25_elementAt cJ25_elementAt 2 (Option.some (Jvm.ClassFile.FieldType.object "java/lang/Object")))) B.pre
  have hts : ∀ w ∈ lw_all, w.before _ s = true := fun w h => hts w (List.mem_cons_of_mem _ h)
  have hown : s.vm.findClass RJ25 = some m.cls := findClass_of_methodNamed B.named
  have hlk := B.notSynchronized
  have X : CallFix p m c cJ25_elementAt 2 s ([.ref p1, .int p2] : List Value).toArray lw_all RJ25 := ⟨hx, hb, hml, hown, hts⟩
  have hS : va_S (wA G) s.heap s.heap [] := va_S.rf
  have hl := lv_entry ([.ref p1, .int p2]) (n := 2) (Nat.le_of_ble_eq_true rfl)
  rw [lg_entry_eq]
  generalize (lg_sl ([.ref p1, .int p2]) ++ List.replicate (2 - (lg_sl ([.ref p1, .int p2])).length) Slot.unset).toArray = ls at hl ⊢
  have hl : lv_has ls 2 [(0, .ref p1), (1, .int p2)] := hl
  refine lv_aload_n hx hb dJ25_elementAt_0 rfl (lv_at hl 0 rfl) ?_
  refine lv_iload_n hx hb dJ25_elementAt_1 rfl (lv_at hl 1 rfl) ?_
  refine x_aald X hC.1 hM (ty := (.object "java/lang/Object")) (by decide) rfl dJ25_elementAt_2 hp (fun r1 hp => ?_)
  exact x_aret (v := r1) X hr (by first | exact Or.inl ⟨_, rfl⟩ | exact Or.inr ⟨_, rfl⟩) hlk hM hS ⟨Nat.le_refl _, Nat.le_refl _⟩ dJ25_elementAt_3 ⟨r1, rfl, hp⟩
def B_J25_pollFirst_34 (G : wG) (Q : Option Nat → wM → Prop) (x3 : Option Nat) (M : wM) : Prop :=
  Q x3 M
def P_J25_pollFirst (G : wG) (t0 : Nat) (M : wM) (Q : Option Nat → wM → Prop) : Prop :=
  oGetA M t0 22 0 (fun a1 => oGetI M t0 22 1 (fun v2 => P_J25_elementAt G a1 v2 M (fun r5 M3 => oNull r5 (B_J25_pollFirst_34 G Q none M3) (fun a6 => oAast G (.object "java/lang/Object") M3 a1 v2 none (fun M7 => oAlen (.object "java/lang/Object") M7 a1 (fun v8 => P_J25_inc G v2 v8 M7 (fun v11 M9 => oPut G M9 t0 22 1 (.int v11) (fun M12 => B_J25_pollFirst_34 G Q (some a6) M12))))))))
set_option maxHeartbeats 4000000 in
set_option maxRecDepth 100000 in
theorem P_J25_pollFirst_ok {l : Launch} (hl0 : l.stackTraces = false) {G : wG} {t0 : Nat} {M : wM} {Q : Option Nat → wM → Prop} (hp : P_J25_pollFirst G t0 M Q) : wMet l yJ25_pollFirst (ws_ yJ25_pollFirst cJ25_pollFirst 4 (Option.some (Jvm.ClassFile.FieldType.object "java/lang/Object"))) 13 421 G [.ref t0] M 0 (wqR Q) wX0 := by
  refine vx_ofW (cc := cJ25_pollFirst) (maxL := 4) (ret := Option.some (Jvm.ClassFile.FieldType.object "java/lang/Object")) (by decide) rfl ?_
  intro p e s m args below meth c s₁ B hml hnt hv
  obtain ⟨rfl, hM, hK, hZ, hz⟩ := hv
  have hC : wC G s := ⟨hK, hZ, hz⟩
  have hx := B.exec
  have hb := B.bytes
  have hr := B.returns
  have hts := atoms_spec (ws := (ws_ yJ25_pollFirst cJ25_pollFirst 4 (Option.some (Jvm.ClassFile.FieldType.object "java/lang/Object")))) B.pre
  have hts : ∀ w ∈ lw_all, w.before _ s = true := fun w h => hts w (List.mem_cons_of_mem _ h)
  have hown : s.vm.findClass RJ25 = some m.cls := findClass_of_methodNamed B.named
  have hlk := B.notSynchronized
  have X : CallFix p m c cJ25_pollFirst 4 s ([.ref t0] : List Value).toArray lw_all RJ25 := ⟨hx, hb, hml, hown, hts⟩
  have hS : va_S (wA G) s.heap s.heap [] := va_S.rf
  have hl := lv_entry ([.ref t0]) (n := 4) (Nat.le_of_ble_eq_true rfl)
  rw [lg_entry_eq]
  generalize (lg_sl ([.ref t0]) ++ List.replicate (4 - (lg_sl ([.ref t0])).length) Slot.unset).toArray = ls at hl ⊢
  have hl : lv_has ls 4 [(0, .ref t0)] := hl
  have hB34 : ∀ (x3 : Option Nat) (M : wM) (H : Heap) (locs : List Loc) (ls : Array Slot), B_J25_pollFirst_34 G Q x3 M → wR G M H → va_S (wA G) s.heap H locs → lv_has ls 4 [(3, va_rf x3)] → W p l e (headSpec (ws_ yJ25_pollFirst cJ25_pollFirst 4 (Option.some (Jvm.ClassFile.FieldType.object "java/lang/Object"))) ({ frames := 13, cells := 0, slots := 0, locals := 421 })).room s m ([.ref t0] : List Value).toArray below meth c H locs 0 0 (vx_MQ below (wQ G (wqR Q)) (wXC G wX0) ([.ref t0] : List Value).toArray s 0 0 (wA G)) (F0 m 34 ls []) := by
    intro x3 M H locs ls hp hM hS hl
    refine x_aload_n (r := x3) hx hb dJ25_pollFirst_34 rfl (lv_at hl 0 rfl) ?_
    exact x_aret (v := x3) X hr (by first | exact Or.inl ⟨_, rfl⟩ | exact Or.inr ⟨_, rfl⟩) hlk hM hS ⟨Nat.le_refl _, Nat.le_refl _⟩ dJ25_pollFirst_35 ⟨x3, rfl, hp⟩
  refine lv_aload_n hx hb dJ25_pollFirst_0 rfl (lv_at hl 0 rfl) ?_
  refine x_getA X hC.1 hM (ci := 22) (C := RJ25) (T := TJ25) (N := 3) rfl in_J25 0 (by decide) q961 (fun _ h9 => h9) dJ25_pollFirst_1 hp (fun a1 hp => ?_)
  refine lv_dup hx hb dJ25_pollFirst_4 rfl ?_
  refine lv_astore_n (lv' := [(1, .ref a1), (0, .ref t0)]) hx hb dJ25_pollFirst_5 rfl hl (by decide) rfl (fun ls hl => ?_)
  refine lv_aload_n hx hb dJ25_pollFirst_6 rfl (lv_at hl 1 rfl) ?_
  refine x_getI X hC.1 hM (ci := 22) (C := RJ25) (T := TJ25) (N := 3) rfl in_J25 1 (by decide) q962 (fun _ h9 => h9) dJ25_pollFirst_7 hp (fun v2 hp => ?_)
  refine lv_dup hx hb dJ25_pollFirst_10 rfl ?_
  refine lv_istore_n (lv' := [(2, .int v2), (1, .ref a1), (0, .ref t0)]) hx hb dJ25_pollFirst_11 rfl hl (by decide) rfl (fun ls hl => ?_)
  refine x_call0R (vx_runS (As := [.ref a1, .int v2]) (rest := []) X (P_J25_elementAt_ok (l := l) hl0 hp) (va_cwS 2 hts (lw_S q2555 q2556 q177 q2557) rfl rfl rfl (by decide +kernel) ⟨Nat.le_of_ble_eq_true rfl, Nat.le_of_ble_eq_true rfl⟩) ⟨wPc.blind, w_pre hC hM hS _⟩ rfl rfl hl.1 rfl (lv_room (Nat.le_of_ble_eq_true rfl)) dJ25_pollFirst_12 ⟨Nat.le_refl _, Nat.le_refl _⟩) hS ⟨Nat.le_refl _, Nat.le_refl _⟩ (fun _ _ _ _ _ _ h => False.elim h) (fun r5 M3 H locs hp hM hS => ?_)
  refine x_astore_n (r := r5) (lv' := [(3, va_rf r5), (2, .int v2), (1, .ref a1), (0, .ref t0)]) hx hb dJ25_pollFirst_15 rfl hl (by decide) rfl (fun ls hl => ?_)
  refine x_aload_n (r := r5) hx hb dJ25_pollFirst_16 rfl (lv_at hl 0 rfl) ?_
  refine x_ifnull (r := r5) (tgt := 34) hx hb dJ25_pollFirst_17 (by decide) (fun hc => ?_) (fun a6 hc => ?_)
  · have hqa6 := oNull.t hp hc
    subst hc
    have hp := hqa6
    have hl : lv_has ls 4 [(3, va_rf none), (2, .int v2), (1, .ref a1), (0, .ref t0)] := hl
    exact hB34 _ _ _ _ _ hp hM hS (lv_sub hl [0] rfl)
  · have hqa6 := oNull.f hp hc
    subst hc
    have hp := hqa6
    have hl : lv_has ls 4 [(3, .ref a6), (2, .int v2), (1, .ref a1), (0, .ref t0)] := hl
    refine lv_aload_n hx hb dJ25_pollFirst_20 rfl (lv_at hl 2 rfl) ?_
    refine lv_iload_n hx hb dJ25_pollFirst_21 rfl (lv_at hl 1 rfl) ?_
    refine lv_null hx hb dJ25_pollFirst_22 ?_
    refine x_aast (r := none) X hC hM hS w_obj (C := "java/lang/Object") (by decide) dJ25_pollFirst_23 hp (fun M7 H locs hM hS hp => ?_)
    refine lv_aload_n hx hb dJ25_pollFirst_24 rfl (lv_at hl 3 rfl) ?_
    refine lv_iload_n hx hb dJ25_pollFirst_25 rfl (lv_at hl 1 rfl) ?_
    refine lv_aload_n hx hb dJ25_pollFirst_26 rfl (lv_at hl 2 rfl) ?_
    refine x_alen X hC.1 hM (ty := (.object "java/lang/Object")) (by decide) dJ25_pollFirst_27 hp (fun v8 hp => ?_)
    refine x_call0I (vx_runS (As := [.int v2, .int v8]) (rest := [.ref t0]) X (P_J25_inc_ok (l := l) hl0 hp) (va_cwS 2 hts (lw_S q2558 q2559 q177 q2560) rfl rfl rfl (by decide +kernel) ⟨Nat.le_of_ble_eq_true rfl, Nat.le_of_ble_eq_true rfl⟩) ⟨wPc.blind, w_pre hC hM hS _⟩ rfl rfl hl.1 rfl (lv_room (Nat.le_of_ble_eq_true rfl)) dJ25_pollFirst_28 ⟨Nat.le_refl _, Nat.le_refl _⟩) hS ⟨Nat.le_refl _, Nat.le_refl _⟩ (fun _ _ _ _ _ _ h => False.elim h) (fun v11 M9 H locs hp hM hS => ?_)
    refine x_put X hC.1 hM hS (ci := 22) (C := RJ25) (T := TJ25) (N := 3) rfl in_J25 tyJ25 tyJ25_ok nmJ25 1 (by decide) q962 (fun _ h9 => h9) rfl rfl rfl dJ25_pollFirst_31 hp (fun M12 H locs hM hS hp => ?_)
    exact hB34 _ _ _ _ _ hp hM hS (lv_sub hl [0] rfl)
def P_J25_removeFirst (G : wG) (t0 : Nat) (M : wM) (Q : Option Nat → wM → Prop) : Prop :=
  oIs M t0 22 (P_J25_pollFirst G t0 M (fun r3 M1 => oNull r3 (False) (fun a4 => Q (some a4) M1)))
set_option maxHeartbeats 4000000 in
set_option maxRecDepth 100000 in
theorem P_J25_removeFirst_ok {l : Launch} (hl0 : l.stackTraces = false) {G : wG} {t0 : Nat} {M : wM} {Q : Option Nat → wM → Prop} (hp : P_J25_removeFirst G t0 M Q) : wMet l yJ25_removeFirst (ws_ yJ25_removeFirst cJ25_removeFirst 2 (Option.some (Jvm.ClassFile.FieldType.object "java/lang/Object"))) 14 444 G [.ref t0] M 0 (wqR Q) wX0 := by
  refine vx_ofW (cc := cJ25_removeFirst) (maxL := 2) (ret := Option.some (Jvm.ClassFile.FieldType.object "java/lang/Object")) (by decide) rfl ?_
  intro p e s m args below meth c s₁ B hml hnt hv
  obtain ⟨rfl, hM, hK, hZ, hz⟩ := hv
  have hC : wC G s := ⟨hK, hZ, hz⟩
  have hx := B.exec
  have hb := B.bytes
  have hr := B.returns
  have hts := atoms_spec (ws := (ws_ yJ25_removeFirst cJ25_removeFirst 2 (Option.some (Jvm.ClassFile.FieldType.object "java/lang/Object")))) B.pre
  have hts : ∀ w ∈ lw_all, w.before _ s = true := fun w h => hts w (List.mem_cons_of_mem _ h)
  have hown : s.vm.findClass RJ25 = some m.cls := findClass_of_methodNamed B.named
  have hlk := B.notSynchronized
  have X : CallFix p m c cJ25_removeFirst 2 s ([.ref t0] : List Value).toArray lw_all RJ25 := ⟨hx, hb, hml, hown, hts⟩
  have hS : va_S (wA G) s.heap s.heap [] := va_S.rf
  have hl := lv_entry ([.ref t0]) (n := 2) (Nat.le_of_ble_eq_true rfl)
  rw [lg_entry_eq]
  generalize (lg_sl ([.ref t0]) ++ List.replicate (2 - (lg_sl ([.ref t0])).length) Slot.unset).toArray = ls at hl ⊢
  have hl : lv_has ls 2 [(0, .ref t0)] := hl
  refine lv_aload_n hx hb dJ25_removeFirst_0 rfl (lv_at hl 0 rfl) ?_
  obtain ⟨hrec, hp⟩ := hp
  refine x_call0R (vx_runV (As := []) (rest := []) X (P_J25_pollFirst_ok (l := l) hl0 hp) (cwV 0 hts (lw_V q2551 q2552 q2553 q177 q2554) rfl rfl rfl (by decide +kernel) ⟨Nat.le_of_ble_eq_true rfl, Nat.le_of_ble_eq_true rfl⟩) ⟨wPc.blind, w_recv hC.1 hM (ci := 22) (q := (RJ25, TJ25, 3)) rfl hrec, w_pre hC hM hS _⟩ rfl rfl hl.1 rfl (lv_room (Nat.le_of_ble_eq_true rfl)) dJ25_removeFirst_1 ⟨Nat.le_refl _, Nat.le_refl _⟩) hS ⟨Nat.le_refl _, Nat.le_refl _⟩ (fun _ _ _ _ _ _ h => False.elim h) (fun r3 M1 H locs hp hM hS => ?_)
  refine x_astore_n (r := r3) (lv' := [(1, va_rf r3), (0, .ref t0)]) hx hb dJ25_removeFirst_4 rfl hl (by decide) rfl (fun ls hl => ?_)
  refine x_aload_n (r := r3) hx hb dJ25_removeFirst_5 rfl (lv_at hl 0 rfl) ?_
  refine x_ifnonnull (r := r3) (tgt := 17) hx hb dJ25_removeFirst_6 (by decide) (fun a4 hc => ?_) (fun hc => ?_)
  · have hqa4 := oNull.f hp hc
    subst hc
    have hp := hqa4
    have hl : lv_has ls 2 [(1, .ref a4), (0, .ref t0)] := hl
    refine lv_aload_n hx hb dJ25_removeFirst_17 rfl (lv_at hl 0 rfl) ?_
    exact x_aret (v := (some a4)) X hr (by first | exact Or.inl ⟨_, rfl⟩ | exact Or.inr ⟨_, rfl⟩) hlk hM hS ⟨Nat.le_refl _, Nat.le_refl _⟩ dJ25_removeFirst_18 ⟨(some a4), rfl, hp⟩
  · have hqa4 := oNull.t hp hc
    subst hc
    have hp := hqa4
    have hl : lv_has ls 2 [(1, va_rf none), (0, .ref t0)] := hl
    exact hp.elim
def B_X1_remember_20 (G : wG) (Q : wM → Prop) (x0 : Nat) (M : wM) (bq : Nat) : Prop :=
  oGetA M x0 0 2 (fun a1 => oGetA M x0 0 0 (fun a2 => oIs M a1 22 (∃ c4, c4 ≤ bq ∧ P_J25_addLast G a1 (some a2) c4 M (fun M3 => oGetA M3 x0 0 0 (fun a5 => oIs M3 a5 1 (∃ c7, c7 ≤ (bq - c4) ∧ P_X2_copy G a5 c7 M3 (fun r8 M6 => oPut G M6 x0 0 0 (va_rf r8) (fun M9 => Q M9))))))))
def P_X1_remember (G : wG) (t0 : Nat) (b : Nat) (M : wM) (Q : wM → Prop) : Prop :=
  oGetA M t0 0 2 (fun a1 => oIs M a1 22 (P_J25_size G a1 M (fun v4 M2 => oIf (v4 = (10 : Int32)) (oGetA M2 t0 0 2 (fun a5 => oIs M2 a5 22 (P_J25_removeFirst G a5 M2 (fun r8 M6 => B_X1_remember_20 G Q t0 M6 b)))) (B_X1_remember_20 G Q t0 M2 b))))
set_option maxHeartbeats 4000000 in
set_option maxRecDepth 100000 in
theorem P_X1_remember_ok {l : Launch} (hl0 : l.stackTraces = false) {G : wG} {t0 : Nat} {b : Nat} {M : wM} {Q : wM → Prop} (hp : P_X1_remember G t0 b M Q) : wMet l yX1_remember (ws_ yX1_remember cX1_remember 1 (none)) 19 555 G [.ref t0] M b (wqV Q) wX0 := by
  refine vx_ofW (cc := cX1_remember) (maxL := 1) (ret := none) (by decide) rfl ?_
  intro p e s m args below meth c s₁ B hml hnt hv
  obtain ⟨rfl, hM, hK, hZ, hz⟩ := hv
  have hC : wC G s := ⟨hK, hZ, hz⟩
  have hx := B.exec
  have hb := B.bytes
  have hr := B.returns
  have hts := atoms_spec (ws := (ws_ yX1_remember cX1_remember 1 (none))) B.pre
  have hts : ∀ w ∈ lw_all, w.before _ s = true := fun w h => hts w (List.mem_cons_of_mem _ h)
  have hown : s.vm.findClass RX1 = some m.cls := findClass_of_methodNamed B.named
  have hlk := B.notSynchronized
  have X : CallFix p m c cX1_remember 1 s ([.ref t0] : List Value).toArray lw_all RX1 := ⟨hx, hb, hml, hown, hts⟩
  have hS : va_S (wA G) s.heap s.heap [] := va_S.rf
  have hl := lv_entry ([.ref t0]) (n := 1) (Nat.le_of_ble_eq_true rfl)
  rw [lg_entry_eq]
  generalize (lg_sl ([.ref t0]) ++ List.replicate (1 - (lg_sl ([.ref t0])).length) Slot.unset).toArray = ls at hl ⊢
  have hl : lv_has ls 1 [(0, .ref t0)] := hl
  have hB : 0 + b ≤ ((headSpec (ws_ yX1_remember cX1_remember 1 (none)) ({ frames := 19, cells := b, slots := b, locals := 555 })).room).cells ∧ 0 + b ≤ ((headSpec (ws_ yX1_remember cX1_remember 1 (none)) ({ frames := 19, cells := b, slots := b, locals := 555 })).room).slots := ⟨Nat.le_of_eq (Nat.zero_add b), Nat.le_of_eq (Nat.zero_add b)⟩
  have hB20 : ∀ (x0 : Nat) (M : wM) (bq : Nat) (H : Heap) (locs : List Loc) (ls : Array Slot) (cells slots : Nat), B_X1_remember_20 G Q x0 M bq → wR G M H → va_S (wA G) s.heap H locs → (cells + bq ≤ ((headSpec (ws_ yX1_remember cX1_remember 1 (none)) ({ frames := 19, cells := b, slots := b, locals := 555 })).room).cells ∧ slots + bq ≤ ((headSpec (ws_ yX1_remember cX1_remember 1 (none)) ({ frames := 19, cells := b, slots := b, locals := 555 })).room).slots) → lv_has ls 1 [(0, .ref x0)] → W p l e (headSpec (ws_ yX1_remember cX1_remember 1 (none)) ({ frames := 19, cells := b, slots := b, locals := 555 })).room s m ([.ref t0] : List Value).toArray below meth c H locs cells slots (vx_MQ below (wQ G (wqV Q)) (wXC G wX0) ([.ref t0] : List Value).toArray s b b (wA G)) (F0 m 20 ls []) := by
    intro x0 M bq H locs ls cells slots hp hM hS hB hl
    refine lv_aload_n hx hb dX1_remember_20 rfl (lv_at hl 0 rfl) ?_
    refine x_getA X hC.1 hM (ci := 0) (C := RX1) (T := TX1) (N := 8) rfl in_X1 2 (by decide) q975 (fun _ h9 => h9) dX1_remember_21 hp (fun a1 hp => ?_)
    refine lv_aload_n hx hb dX1_remember_24 rfl (lv_at hl 0 rfl) ?_
    refine x_getA X hC.1 hM (ci := 0) (C := RX1) (T := TX1) (N := 8) rfl in_X1 0 (by decide) q973 (fun _ h9 => h9) dX1_remember_25 hp (fun a2 hp => ?_)
    obtain ⟨hrec, hp⟩ := hp
    obtain ⟨c4, hc1, hp⟩ := hp
    refine x_callV (vx_runV (As := [va_rf (some a2)]) (rest := []) X (P_J25_addLast_ok (l := l) hl0 hp) (cwV 1 hts (lw_V q2563 q2564 q2565 q177 q2566) rfl rfl rfl (by decide +kernel) ⟨Nat.le_of_ble_eq_true rfl, Nat.le_of_ble_eq_true rfl⟩) ⟨wPc.blind, w_recv hC.1 hM (ci := 22) (q := (RJ25, TJ25, 3)) rfl hrec, w_pre hC hM hS _⟩ rfl rfl hl.1 rfl (lv_room (Nat.le_of_ble_eq_true rfl)) dX1_remember_28 (w_room hB hc1)) hS hB hc1 (fun _ _ _ _ _ _ h => False.elim h) (fun M3 H locs hp hM hS hB => ?_)
    refine lv_aload_n hx hb dX1_remember_31 rfl (lv_at hl 0 rfl) ?_
    refine lv_aload_n hx hb dX1_remember_32 rfl (lv_at hl 0 rfl) ?_
    refine x_getA X hC.1 hM (ci := 0) (C := RX1) (T := TX1) (N := 8) rfl in_X1 0 (by decide) q973 (fun _ h9 => h9) dX1_remember_33 hp (fun a5 hp => ?_)
    obtain ⟨hrec, hp⟩ := hp
    obtain ⟨c7, hc1, hp⟩ := hp
    refine x_callR (vx_runV (As := []) (rest := [.ref x0]) X (P_X2_copy_ok (l := l) hl0 hp) (cwV 0 hts (lw_V q2064 q2065 q2066 q149 q2067) rfl rfl rfl (by decide +kernel) ⟨Nat.le_of_ble_eq_true rfl, Nat.le_of_ble_eq_true rfl⟩) ⟨wPc.blind, w_recv hC.1 hM (ci := 1) (q := (RX2, TX2, 9)) rfl hrec, w_pre hC hM hS _⟩ rfl rfl hl.1 rfl (lv_room (Nat.le_of_ble_eq_true rfl)) dX1_remember_36 (w_room hB hc1)) hS hB hc1 (fun _ _ _ _ _ _ h => False.elim h) (fun r8 M6 H locs hp hM hS hB => ?_)
    refine x_put X hC.1 hM hS (ci := 0) (C := RX1) (T := TX1) (N := 8) rfl in_X1 tyX1 tyX1_ok nmX1 0 (by decide) q973 (fun _ h9 => h9) rfl (w_nobj _ r8) (w_fobj _ r8) dX1_remember_39 hp (fun M9 H locs hM hS hp => ?_)
    exact x_vret X hr hlk hM hS (w_fin hB) dX1_remember_42 ⟨rfl, hp⟩
  refine lv_aload_n hx hb dX1_remember_0 rfl (lv_at hl 0 rfl) ?_
  refine x_getA X hC.1 hM (ci := 0) (C := RX1) (T := TX1) (N := 8) rfl in_X1 2 (by decide) q975 (fun _ h9 => h9) dX1_remember_1 hp (fun a1 hp => ?_)
  obtain ⟨hrec, hp⟩ := hp
  refine x_call0I (vx_runV (As := []) (rest := []) X (P_J25_size_ok (l := l) hl0 hp) (cwV 0 hts (lw_V q1554 q1555 q1556 q177 q1557) rfl rfl rfl (by decide +kernel) ⟨Nat.le_of_ble_eq_true rfl, Nat.le_of_ble_eq_true rfl⟩) ⟨wPc.blind, w_recv hC.1 hM (ci := 22) (q := (RJ25, TJ25, 3)) rfl hrec, w_pre hC hM hS _⟩ rfl rfl hl.1 rfl (lv_room (Nat.le_of_ble_eq_true rfl)) dX1_remember_4 (w_room0 hB)) hS (w_room0 hB) (fun _ _ _ _ _ _ h => False.elim h) (fun v4 M2 H locs hp hM hS => ?_)
  refine lv_bipush (v := 10) hx hb dX1_remember_7 (by decide) ?_
  refine lv_icmp_ne (tgt := 20) hx hb dX1_remember_9 (by decide) (fun hc => ?_) (fun hc => ?_)
  · have hp := oIf.f hp hc
    exact hB20 _ _ _ _ _ _ _ _ hp hM hS hB (lv_sub hl [0] rfl)
  · have hp := oIf.t hp hc
    refine lv_aload_n hx hb dX1_remember_12 rfl (lv_at hl 0 rfl) ?_
    refine x_getA X hC.1 hM (ci := 0) (C := RX1) (T := TX1) (N := 8) rfl in_X1 2 (by decide) q975 (fun _ h9 => h9) dX1_remember_13 hp (fun a5 hp => ?_)
    obtain ⟨hrec, hp⟩ := hp
    refine x_call0R (vx_runV (As := []) (rest := []) X (P_J25_removeFirst_ok (l := l) hl0 hp) (cwV 0 hts (lw_V q2547 q2548 q2549 q177 q2550) rfl rfl rfl (by decide +kernel) ⟨Nat.le_of_ble_eq_true rfl, Nat.le_of_ble_eq_true rfl⟩) ⟨wPc.blind, w_recv hC.1 hM (ci := 22) (q := (RJ25, TJ25, 3)) rfl hrec, w_pre hC hM hS _⟩ rfl rfl hl.1 rfl (lv_room (Nat.le_of_ble_eq_true rfl)) dX1_remember_16 (w_room0 hB)) hS (w_room0 hB) (fun _ _ _ _ _ _ h => False.elim h) (fun r8 M6 H locs hp hM hS => ?_)
    refine lv_pop hx hb dX1_remember_19 (w_cat _) ?_
    exact hB20 _ _ _ _ _ _ _ _ hp hM hS hB (lv_sub hl [0] rfl)
def P_X1_setup (G : wG) (t0 : Nat) (M : wM) (Q : Option Nat → wM → Prop) : Prop :=
  oGetA M t0 0 0 (fun a1 => oGetA M a1 1 0 (fun a2 => Q (some a2) M))
set_option maxHeartbeats 4000000 in
set_option maxRecDepth 100000 in
theorem P_X1_setup_ok {l : Launch} (hl0 : l.stackTraces = false) {G : wG} {t0 : Nat} {M : wM} {Q : Option Nat → wM → Prop} (hp : P_X1_setup G t0 M Q) : wMet l yX1_setup (ws_ yX1_setup cX1_setup 1 (Option.some (Jvm.ClassFile.FieldType.object "ParkingOffice$Setup"))) 12 400 G [.ref t0] M 0 (wqR Q) wX0 := by
  refine vx_ofW (cc := cX1_setup) (maxL := 1) (ret := Option.some (Jvm.ClassFile.FieldType.object "ParkingOffice$Setup")) (by decide) rfl ?_
  intro p e s m args below meth c s₁ B hml hnt hv
  obtain ⟨rfl, hM, hK, hZ, hz⟩ := hv
  have hC : wC G s := ⟨hK, hZ, hz⟩
  have hx := B.exec
  have hb := B.bytes
  have hr := B.returns
  have hts := atoms_spec (ws := (ws_ yX1_setup cX1_setup 1 (Option.some (Jvm.ClassFile.FieldType.object "ParkingOffice$Setup")))) B.pre
  have hts : ∀ w ∈ lw_all, w.before _ s = true := fun w h => hts w (List.mem_cons_of_mem _ h)
  have hown : s.vm.findClass RX1 = some m.cls := findClass_of_methodNamed B.named
  have hlk := B.notSynchronized
  have X : CallFix p m c cX1_setup 1 s ([.ref t0] : List Value).toArray lw_all RX1 := ⟨hx, hb, hml, hown, hts⟩
  have hS : va_S (wA G) s.heap s.heap [] := va_S.rf
  have hl := lv_entry ([.ref t0]) (n := 1) (Nat.le_of_ble_eq_true rfl)
  rw [lg_entry_eq]
  generalize (lg_sl ([.ref t0]) ++ List.replicate (1 - (lg_sl ([.ref t0])).length) Slot.unset).toArray = ls at hl ⊢
  have hl : lv_has ls 1 [(0, .ref t0)] := hl
  refine lv_aload_n hx hb dX1_setup_0 rfl (lv_at hl 0 rfl) ?_
  refine x_getA X hC.1 hM (ci := 0) (C := RX1) (T := TX1) (N := 8) rfl in_X1 0 (by decide) q973 (fun _ h9 => h9) dX1_setup_1 hp (fun a1 hp => ?_)
  refine x_getAN X hC.1 hM (ci := 1) (C := RX2) (T := TX2) (N := 9) rfl in_X2 0 (by decide) q918 (fun _ h9 => h9) dX1_setup_4 hp (fun a2 hp => ?_)
  exact x_aret (v := (some a2)) X hr (by first | exact Or.inl ⟨_, rfl⟩ | exact Or.inr ⟨_, rfl⟩) hlk hM hS ⟨Nat.le_refl _, Nat.le_refl _⟩ dX1_setup_7 ⟨(some a2), rfl, hp⟩
def B_X2_inZone_64 (G : wG) (rec5 : Nat → Int32 → Int32 → Int32 → Int32 → wM → Prop) (Q : Int32 → wM → Prop) (x0 : Nat) (x1 : Int32) (x2 : Int32) (x3 : Int32) (x4 : Int32) (M : wM) : Prop :=
  rec5 x0 x1 x2 x3 (x4 + 1) M
def B_X2_inZone_5 (G : wG) (rec5 : Nat → Int32 → Int32 → Int32 → Int32 → wM → Prop) (Q : Int32 → wM → Prop) (x0 : Nat) (x1 : Int32) (x2 : Int32) (x3 : Int32) (x4 : Int32) (M : wM) : Prop :=
  oGetA M x0 1 1 (fun a1 => oIs M a1 16 (P_J2_size G a1 M (fun v4 M2 => oIf (v4 ≤ x4) (Q x3 M2) (oGetA M2 x0 1 1 (fun a5 => oIs M2 a5 16 (P_J2_get G a5 x4 M2 (fun r8 M6 => oCast M6 r8 9 (oRef r8 (fun a9 => oGetI M6 a9 9 2 (fun v10 => oIf (v10 = x1) (oGetA M6 x0 1 1 (fun a11 => oIs M6 a11 16 (P_J2_get G a11 x4 M6 (fun r14 M12 => oCast M12 r14 9 (oRef r14 (fun a15 => oGetI M12 a15 9 4 (fun v16 => oIf (v16 = x2) (B_X2_inZone_64 G rec5 Q x0 x1 x2 (x3 + 1) x4 M12) (B_X2_inZone_64 G rec5 Q x0 x1 x2 x3 x4 M12)))))))) (B_X2_inZone_64 G rec5 Q x0 x1 x2 x3 x4 M6)))))))))))
def L_X2_inZone_5 (G : wG) (Q : Int32 → wM → Prop) : Nat → Nat → Int32 → Int32 → Int32 → Int32 → wM → Prop
  | 0 => fun _ _ _ _ _ _ => False
  | n + 1 => B_X2_inZone_5 G (L_X2_inZone_5 G Q n) Q
def P_X2_inZone (G : wG) (t0 : Nat) (p1 : Int32) (p2 : Int32) (M : wM) (Q : Int32 → wM → Prop) : Prop :=
  ∃ n, L_X2_inZone_5 G Q n t0 p1 p2 (0 : Int32) (0 : Int32) M
set_option maxHeartbeats 4000000 in
set_option maxRecDepth 100000 in
theorem P_X2_inZone_ok {l : Launch} (hl0 : l.stackTraces = false) {G : wG} {t0 : Nat} {p1 : Int32} {p2 : Int32} {M : wM} {Q : Int32 → wM → Prop} (hp : P_X2_inZone G t0 p1 p2 M Q) : wMet l yX2_inZone (ws_ yX2_inZone cX2_inZone 5 (Option.some Jvm.ClassFile.FieldType.int)) 15 464 G [.ref t0, .int p1, .int p2] M 0 (wqI Q) wX0 := by
  refine vx_ofW (cc := cX2_inZone) (maxL := 5) (ret := Option.some Jvm.ClassFile.FieldType.int) (by decide) rfl ?_
  intro p e s m args below meth c s₁ B hml hnt hv
  obtain ⟨rfl, hM, hK, hZ, hz⟩ := hv
  have hC : wC G s := ⟨hK, hZ, hz⟩
  have hx := B.exec
  have hb := B.bytes
  have hr := B.returns
  have hts := atoms_spec (ws := (ws_ yX2_inZone cX2_inZone 5 (Option.some Jvm.ClassFile.FieldType.int))) B.pre
  have hts : ∀ w ∈ lw_all, w.before _ s = true := fun w h => hts w (List.mem_cons_of_mem _ h)
  have hown : s.vm.findClass RX2 = some m.cls := findClass_of_methodNamed B.named
  have hlk := B.notSynchronized
  have X : CallFix p m c cX2_inZone 5 s ([.ref t0, .int p1, .int p2] : List Value).toArray lw_all RX2 := ⟨hx, hb, hml, hown, hts⟩
  have hS : va_S (wA G) s.heap s.heap [] := va_S.rf
  have hl := lv_entry ([.ref t0, .int p1, .int p2]) (n := 5) (Nat.le_of_ble_eq_true rfl)
  rw [lg_entry_eq]
  generalize (lg_sl ([.ref t0, .int p1, .int p2]) ++ List.replicate (5 - (lg_sl ([.ref t0, .int p1, .int p2])).length) Slot.unset).toArray = ls at hl ⊢
  have hl : lv_has ls 5 [(0, .ref t0), (1, .int p1), (2, .int p2)] := hl
  have hB64 : ∀ (rec5 : Nat → Int32 → Int32 → Int32 → Int32 → wM → Prop) (hrec5 : ∀ (x0 : Nat) (x1 : Int32) (x2 : Int32) (x3 : Int32) (x4 : Int32) (M : wM) (H : Heap) (locs : List Loc) (ls : Array Slot), rec5 x0 x1 x2 x3 x4 M → wR G M H → va_S (wA G) s.heap H locs → lv_has ls 5 [(0, .ref x0), (1, .int x1), (2, .int x2), (3, .int x3), (4, .int x4)] → W p l e (headSpec (ws_ yX2_inZone cX2_inZone 5 (Option.some Jvm.ClassFile.FieldType.int)) ({ frames := 15, cells := 0, slots := 0, locals := 464 })).room s m ([.ref t0, .int p1, .int p2] : List Value).toArray below meth c H locs 0 0 (vx_MQ below (wQ G (wqI Q)) (wXC G wX0) ([.ref t0, .int p1, .int p2] : List Value).toArray s 0 0 (wA G)) (F0 m 5 ls [])), ∀ (x0 : Nat) (x1 : Int32) (x2 : Int32) (x3 : Int32) (x4 : Int32) (M : wM) (H : Heap) (locs : List Loc) (ls : Array Slot), B_X2_inZone_64 G rec5 Q x0 x1 x2 x3 x4 M → wR G M H → va_S (wA G) s.heap H locs → lv_has ls 5 [(0, .ref x0), (1, .int x1), (2, .int x2), (3, .int x3), (4, .int x4)] → W p l e (headSpec (ws_ yX2_inZone cX2_inZone 5 (Option.some Jvm.ClassFile.FieldType.int)) ({ frames := 15, cells := 0, slots := 0, locals := 464 })).room s m ([.ref t0, .int p1, .int p2] : List Value).toArray below meth c H locs 0 0 (vx_MQ below (wQ G (wqI Q)) (wXC G wX0) ([.ref t0, .int p1, .int p2] : List Value).toArray s 0 0 (wA G)) (F0 m 64 ls []) := by
    intro rec5 hrec5 x0 x1 x2 x3 x4 M H locs ls hp hM hS hl
    refine lv_iinc (v := (x4 + 1)) (lv' := [(4, .int (x4 + 1)), (0, .ref x0), (1, .int x1), (2, .int x2), (3, .int x3)]) hx hb dX2_inZone_64 hl (k := 4) rfl rfl (by decide) rfl (fun ls hl => ?_)
    refine lv_goto (tgt := 5) hx hb dX2_inZone_67 (by decide) ?_
    exact hrec5 _ _ _ _ _ _ _ _ _ hp hM hS (lv_sub hl [1, 2, 3, 4, 0] rfl)
  have hB5 : ∀ (rec5 : Nat → Int32 → Int32 → Int32 → Int32 → wM → Prop) (hrec5 : ∀ (x0 : Nat) (x1 : Int32) (x2 : Int32) (x3 : Int32) (x4 : Int32) (M : wM) (H : Heap) (locs : List Loc) (ls : Array Slot), rec5 x0 x1 x2 x3 x4 M → wR G M H → va_S (wA G) s.heap H locs → lv_has ls 5 [(0, .ref x0), (1, .int x1), (2, .int x2), (3, .int x3), (4, .int x4)] → W p l e (headSpec (ws_ yX2_inZone cX2_inZone 5 (Option.some Jvm.ClassFile.FieldType.int)) ({ frames := 15, cells := 0, slots := 0, locals := 464 })).room s m ([.ref t0, .int p1, .int p2] : List Value).toArray below meth c H locs 0 0 (vx_MQ below (wQ G (wqI Q)) (wXC G wX0) ([.ref t0, .int p1, .int p2] : List Value).toArray s 0 0 (wA G)) (F0 m 5 ls [])), ∀ (x0 : Nat) (x1 : Int32) (x2 : Int32) (x3 : Int32) (x4 : Int32) (M : wM) (H : Heap) (locs : List Loc) (ls : Array Slot), B_X2_inZone_5 G rec5 Q x0 x1 x2 x3 x4 M → wR G M H → va_S (wA G) s.heap H locs → lv_has ls 5 [(0, .ref x0), (1, .int x1), (2, .int x2), (3, .int x3), (4, .int x4)] → W p l e (headSpec (ws_ yX2_inZone cX2_inZone 5 (Option.some Jvm.ClassFile.FieldType.int)) ({ frames := 15, cells := 0, slots := 0, locals := 464 })).room s m ([.ref t0, .int p1, .int p2] : List Value).toArray below meth c H locs 0 0 (vx_MQ below (wQ G (wqI Q)) (wXC G wX0) ([.ref t0, .int p1, .int p2] : List Value).toArray s 0 0 (wA G)) (F0 m 5 ls []) := by
    intro rec5 hrec5 x0 x1 x2 x3 x4 M H locs ls hp hM hS hl
    refine lv_iload hx hb dX2_inZone_5 (lv_at hl 4 rfl) ?_
    refine lv_aload_n hx hb dX2_inZone_7 rfl (lv_at hl 0 rfl) ?_
    refine x_getA X hC.1 hM (ci := 1) (C := RX2) (T := TX2) (N := 9) rfl in_X2 1 (by decide) q919 (fun _ h9 => h9) dX2_inZone_8 hp (fun a1 hp => ?_)
    obtain ⟨hrec, hp⟩ := hp
    refine x_call0I5 (vx_runF (hC.1.1.1 16 (RJ2, TJ2, 3) rfl).2 (C := "java/util/ArrayList") (As := []) (rest := [.int x4]) X (P_J2_size_ok (l := l) hl0 hp) (va_cwF 0 hts (lw_app (w_mem4 q493 q496 q498 q153) (lw_meth q500)) rfl rfl rfl (wfw_13 hC.1) (by decide +kernel) ⟨Nat.le_of_ble_eq_true rfl, Nat.le_of_ble_eq_true rfl⟩) ⟨wPc.blind, w_recv hC.1 hM (ci := 16) (q := (RJ2, TJ2, 3)) rfl hrec, w_pre hC hM hS _⟩ rfl rfl hl.1 rfl (lv_room (Nat.le_of_ble_eq_true rfl)) dX2_inZone_11 ⟨Nat.le_refl _, Nat.le_refl _⟩) hS ⟨Nat.le_refl _, Nat.le_refl _⟩ (fun _ _ _ _ _ _ h => False.elim h) (fun v4 M2 H locs hp hM hS => ?_)
    refine lv_icmp_ge (tgt := 70) hx hb dX2_inZone_16 (by decide) (fun hc => ?_) (fun hc => ?_)
    · have hp := oIf.t hp hc
      refine lv_iload_n hx hb dX2_inZone_70 rfl (lv_at hl 3 rfl) ?_
      exact x_iret X hr hlk hM hS ⟨Nat.le_refl _, Nat.le_refl _⟩ dX2_inZone_71 ⟨_, rfl, hp⟩
    · have hp := oIf.f hp hc
      refine lv_aload_n hx hb dX2_inZone_19 rfl (lv_at hl 0 rfl) ?_
      refine x_getA X hC.1 hM (ci := 1) (C := RX2) (T := TX2) (N := 9) rfl in_X2 1 (by decide) q919 (fun _ h9 => h9) dX2_inZone_20 hp (fun a5 hp => ?_)
      refine lv_iload hx hb dX2_inZone_23 (lv_at hl 4 rfl) ?_
      obtain ⟨hrec, hp⟩ := hp
      refine x_call0R5 (vx_runF (hC.1.1.1 16 (RJ2, TJ2, 3) rfl).2 (C := "java/util/ArrayList") (As := [.int x4]) (rest := []) X (P_J2_get_ok (l := l) hl0 hp) (va_cwF 1 hts (lw_app (w_mem4 q519 q522 q524 q153) (lw_meth q526)) rfl rfl rfl (wfw_8 hC.1) (by decide +kernel) ⟨Nat.le_of_ble_eq_true rfl, Nat.le_of_ble_eq_true rfl⟩) ⟨wPc.blind, w_recv hC.1 hM (ci := 16) (q := (RJ2, TJ2, 3)) rfl hrec, w_pre hC hM hS _⟩ rfl rfl hl.1 rfl (lv_room (Nat.le_of_ble_eq_true rfl)) dX2_inZone_25 ⟨Nat.le_refl _, Nat.le_refl _⟩) hS ⟨Nat.le_refl _, Nat.le_refl _⟩ (fun _ _ _ _ _ _ h => False.elim h) (fun r8 M6 H locs hp hM hS => ?_)
      refine x_cast (r := r8) X hC.1 hM q2070 (ci := 9) rfl (Or.inl rfl) dX2_inZone_30 hp (fun hp => ?_)
      obtain ⟨a9, ea, hqa9⟩ := hp
      subst ea
      have hp := hqa9
      refine x_getIN X hC.1 hM (ci := 9) (C := RX12) (T := TX12) (N := 8) rfl in_X12 2 (by decide) q2085 (fun _ h9 => h9) dX2_inZone_33 hp (fun v10 hp => ?_)
      refine lv_iload_n hx hb dX2_inZone_36 rfl (lv_at hl 1 rfl) ?_
      refine lv_icmp_ne (tgt := 64) hx hb dX2_inZone_37 (by decide) (fun hc => ?_) (fun hc => ?_)
      · have hp := oIf.f hp hc
        exact hB64 rec5 hrec5 _ _ _ _ _ _ _ _ _ hp hM hS (lv_sub hl [0, 1, 2, 3, 4] rfl)
      · have hp := oIf.t hp hc
        refine lv_aload_n hx hb dX2_inZone_40 rfl (lv_at hl 0 rfl) ?_
        refine x_getA X hC.1 hM (ci := 1) (C := RX2) (T := TX2) (N := 9) rfl in_X2 1 (by decide) q919 (fun _ h9 => h9) dX2_inZone_41 hp (fun a11 hp => ?_)
        refine lv_iload hx hb dX2_inZone_44 (lv_at hl 4 rfl) ?_
        obtain ⟨hrec, hp⟩ := hp
        refine x_call0R5 (vx_runF (hC.1.1.1 16 (RJ2, TJ2, 3) rfl).2 (C := "java/util/ArrayList") (As := [.int x4]) (rest := []) X (P_J2_get_ok (l := l) hl0 hp) (va_cwF 1 hts (lw_app (w_mem4 q519 q522 q524 q153) (lw_meth q526)) rfl rfl rfl (wfw_8 hC.1) (by decide +kernel) ⟨Nat.le_of_ble_eq_true rfl, Nat.le_of_ble_eq_true rfl⟩) ⟨wPc.blind, w_recv hC.1 hM (ci := 16) (q := (RJ2, TJ2, 3)) rfl hrec, w_pre hC hM hS _⟩ rfl rfl hl.1 rfl (lv_room (Nat.le_of_ble_eq_true rfl)) dX2_inZone_46 ⟨Nat.le_refl _, Nat.le_refl _⟩) hS ⟨Nat.le_refl _, Nat.le_refl _⟩ (fun _ _ _ _ _ _ h => False.elim h) (fun r14 M12 H locs hp hM hS => ?_)
        refine x_cast (r := r14) X hC.1 hM q2070 (ci := 9) rfl (Or.inl rfl) dX2_inZone_51 hp (fun hp => ?_)
        obtain ⟨a15, ea, hqa15⟩ := hp
        subst ea
        have hp := hqa15
        refine x_getIN X hC.1 hM (ci := 9) (C := RX12) (T := TX12) (N := 8) rfl in_X12 4 (by decide) q2090 (fun _ h9 => h9) dX2_inZone_54 hp (fun v16 hp => ?_)
        refine lv_iload_n hx hb dX2_inZone_57 rfl (lv_at hl 2 rfl) ?_
        refine lv_icmp_ne (tgt := 64) hx hb dX2_inZone_58 (by decide) (fun hc => ?_) (fun hc => ?_)
        · have hp := oIf.f hp hc
          exact hB64 rec5 hrec5 _ _ _ _ _ _ _ _ _ hp hM hS (lv_sub hl [0, 1, 2, 3, 4] rfl)
        · have hp := oIf.t hp hc
          refine lv_iinc (v := (x3 + 1)) (lv' := [(3, .int (x3 + 1)), (0, .ref x0), (1, .int x1), (2, .int x2), (4, .int x4)]) hx hb dX2_inZone_61 hl (k := 3) rfl rfl (by decide) rfl (fun ls hl => ?_)
          exact hB64 rec5 hrec5 _ _ _ _ _ _ _ _ _ hp hM hS (lv_sub hl [1, 2, 3, 0, 4] rfl)
  have hL5 : ∀ (n : Nat), ∀ (x0 : Nat) (x1 : Int32) (x2 : Int32) (x3 : Int32) (x4 : Int32) (M : wM) (H : Heap) (locs : List Loc) (ls : Array Slot), L_X2_inZone_5 G Q n x0 x1 x2 x3 x4 M → wR G M H → va_S (wA G) s.heap H locs → lv_has ls 5 [(0, .ref x0), (1, .int x1), (2, .int x2), (3, .int x3), (4, .int x4)] → W p l e (headSpec (ws_ yX2_inZone cX2_inZone 5 (Option.some Jvm.ClassFile.FieldType.int)) ({ frames := 15, cells := 0, slots := 0, locals := 464 })).room s m ([.ref t0, .int p1, .int p2] : List Value).toArray below meth c H locs 0 0 (vx_MQ below (wQ G (wqI Q)) (wXC G wX0) ([.ref t0, .int p1, .int p2] : List Value).toArray s 0 0 (wA G)) (F0 m 5 ls []) := by
    intro n
    induction n with
    | zero => intro _ _ _ _ _ _ _ _ _ hp; exact False.elim hp
    | succ n ih => intro x0 x1 x2 x3 x4 M H locs ls hp hM hS hl; exact hB5 (L_X2_inZone_5 G Q n) ih _ _ _ _ _ _ _ _ _ hp hM hS hl
  refine lv_iconst (v := 0) hx hb dX2_inZone_0 (by decide) ?_
  refine lv_istore_n (lv' := [(3, .int (0 : Int32)), (0, .ref t0), (1, .int p1), (2, .int p2)]) hx hb dX2_inZone_1 rfl hl (by decide) rfl (fun ls hl => ?_)
  refine lv_iconst (v := 0) hx hb dX2_inZone_2 (by decide) ?_
  refine lv_istore (lv' := [(4, .int (0 : Int32)), (3, .int (0 : Int32)), (0, .ref t0), (1, .int p1), (2, .int p2)]) hx hb dX2_inZone_3 hl (by decide) rfl (fun ls hl => ?_)
  obtain ⟨n, hp⟩ := hp
  exact hL5 n _ _ _ _ _ _ _ _ _ hp hM hS (lv_sub hl [2, 3, 4, 1, 0] rfl)
def P_X2_taken (G : wG) (t0 : Nat) (p1 : Int32) (M : wM) (Q : Int32 → wM → Prop) : Prop :=
  oIs M t0 1 (P_X2_inZone G t0 p1 (1 : Int32) M (fun v3 M1 => oIs M1 t0 1 (P_X2_inZone G t0 p1 (2 : Int32) M1 (fun v6 M4 => Q (v3 + v6) M4))))
set_option maxHeartbeats 4000000 in
set_option maxRecDepth 100000 in
theorem P_X2_taken_ok {l : Launch} (hl0 : l.stackTraces = false) {G : wG} {t0 : Nat} {p1 : Int32} {M : wM} {Q : Int32 → wM → Prop} (hp : P_X2_taken G t0 p1 M Q) : wMet l yX2_taken (ws_ yX2_taken cX2_taken 2 (Option.some Jvm.ClassFile.FieldType.int)) 16 488 G [.ref t0, .int p1] M 0 (wqI Q) wX0 := by
  refine vx_ofW (cc := cX2_taken) (maxL := 2) (ret := Option.some Jvm.ClassFile.FieldType.int) (by decide) rfl ?_
  intro p e s m args below meth c s₁ B hml hnt hv
  obtain ⟨rfl, hM, hK, hZ, hz⟩ := hv
  have hC : wC G s := ⟨hK, hZ, hz⟩
  have hx := B.exec
  have hb := B.bytes
  have hr := B.returns
  have hts := atoms_spec (ws := (ws_ yX2_taken cX2_taken 2 (Option.some Jvm.ClassFile.FieldType.int))) B.pre
  have hts : ∀ w ∈ lw_all, w.before _ s = true := fun w h => hts w (List.mem_cons_of_mem _ h)
  have hown : s.vm.findClass RX2 = some m.cls := findClass_of_methodNamed B.named
  have hlk := B.notSynchronized
  have X : CallFix p m c cX2_taken 2 s ([.ref t0, .int p1] : List Value).toArray lw_all RX2 := ⟨hx, hb, hml, hown, hts⟩
  have hS : va_S (wA G) s.heap s.heap [] := va_S.rf
  have hl := lv_entry ([.ref t0, .int p1]) (n := 2) (Nat.le_of_ble_eq_true rfl)
  rw [lg_entry_eq]
  generalize (lg_sl ([.ref t0, .int p1]) ++ List.replicate (2 - (lg_sl ([.ref t0, .int p1])).length) Slot.unset).toArray = ls at hl ⊢
  have hl : lv_has ls 2 [(0, .ref t0), (1, .int p1)] := hl
  refine lv_aload_n hx hb dX2_taken_0 rfl (lv_at hl 0 rfl) ?_
  refine lv_iload_n hx hb dX2_taken_1 rfl (lv_at hl 1 rfl) ?_
  refine lv_iconst (v := 1) hx hb dX2_taken_2 (by decide) ?_
  obtain ⟨hrec, hp⟩ := hp
  refine x_call0I (vx_runV (As := [.int p1, .int (1 : Int32)]) (rest := []) X (P_X2_inZone_ok (l := l) hl0 hp) (cwV 2 hts (lw_V q2620 q2210 q2211 q149 q2212) rfl rfl rfl (by decide +kernel) ⟨Nat.le_of_ble_eq_true rfl, Nat.le_of_ble_eq_true rfl⟩) ⟨wPc.blind, w_recv hC.1 hM (ci := 1) (q := (RX2, TX2, 9)) rfl hrec, w_pre hC hM hS _⟩ rfl rfl hl.1 rfl (lv_room (Nat.le_of_ble_eq_true rfl)) dX2_taken_3 ⟨Nat.le_refl _, Nat.le_refl _⟩) hS ⟨Nat.le_refl _, Nat.le_refl _⟩ (fun _ _ _ _ _ _ h => False.elim h) (fun v3 M1 H locs hp hM hS => ?_)
  refine lv_aload_n hx hb dX2_taken_6 rfl (lv_at hl 0 rfl) ?_
  refine lv_iload_n hx hb dX2_taken_7 rfl (lv_at hl 1 rfl) ?_
  refine lv_iconst (v := 2) hx hb dX2_taken_8 (by decide) ?_
  obtain ⟨hrec, hp⟩ := hp
  refine x_call0I (vx_runV (As := [.int p1, .int (2 : Int32)]) (rest := [.int v3]) X (P_X2_inZone_ok (l := l) hl0 hp) (cwV 2 hts (lw_V q2620 q2210 q2211 q149 q2212) rfl rfl rfl (by decide +kernel) ⟨Nat.le_of_ble_eq_true rfl, Nat.le_of_ble_eq_true rfl⟩) ⟨wPc.blind, w_recv hC.1 hM (ci := 1) (q := (RX2, TX2, 9)) rfl hrec, w_pre hC hM hS _⟩ rfl rfl hl.1 rfl (lv_room (Nat.le_of_ble_eq_true rfl)) dX2_taken_9 ⟨Nat.le_refl _, Nat.le_refl _⟩) hS ⟨Nat.le_refl _, Nat.le_refl _⟩ (fun _ _ _ _ _ _ h => False.elim h) (fun v6 M4 H locs hp hM hS => ?_)
  refine lv_iadd hx hb dX2_taken_12 ?_
  exact x_iret X hr hlk hM hS ⟨Nat.le_refl _, Nat.le_refl _⟩ dX2_taken_13 ⟨_, rfl, hp⟩
def P_X10_hours (G : wG) (p1 : Int32) (M : wM) (Q : Int32 → wM → Prop) : Prop :=
  Q (p1 * (60 : Int32)) M
set_option maxHeartbeats 4000000 in
set_option maxRecDepth 100000 in
theorem P_X10_hours_ok {l : Launch} (hl0 : l.stackTraces = false) {G : wG} {p1 : Int32} {M : wM} {Q : Int32 → wM → Prop} (hp : P_X10_hours G p1 M Q) : wMet l yX10_hours (ws_ yX10_hours cX10_hours 1 (Option.some Jvm.ClassFile.FieldType.int)) 12 400 G [.int p1] M 0 (wqI Q) wX0 := by
  refine vx_ofW (cc := cX10_hours) (maxL := 1) (ret := Option.some Jvm.ClassFile.FieldType.int) (by decide) rfl ?_
  intro p e s m args below meth c s₁ B hml hnt hv
  obtain ⟨rfl, hM, hK, hZ, hz⟩ := hv
  have hC : wC G s := ⟨hK, hZ, hz⟩
  have hx := B.exec
  have hb := B.bytes
  have hr := B.returns
  have hts := atoms_spec (ws := (ws_ yX10_hours cX10_hours 1 (Option.some Jvm.ClassFile.FieldType.int))) B.pre
  have hts : ∀ w ∈ lw_all, w.before _ s = true := fun w h => hts w (List.mem_cons_of_mem _ h)
  have hown : s.vm.findClass RX10 = some m.cls := findClass_of_methodNamed B.named
  have hlk := B.notSynchronized
  have X : CallFix p m c cX10_hours 1 s ([.int p1] : List Value).toArray lw_all RX10 := ⟨hx, hb, hml, hown, hts⟩
  have hS : va_S (wA G) s.heap s.heap [] := va_S.rf
  have hl := lv_entry ([.int p1]) (n := 1) (Nat.le_of_ble_eq_true rfl)
  rw [lg_entry_eq]
  generalize (lg_sl ([.int p1]) ++ List.replicate (1 - (lg_sl ([.int p1])).length) Slot.unset).toArray = ls at hl ⊢
  have hl : lv_has ls 1 [(0, .int p1)] := hl
  refine lv_iload_n hx hb dX10_hours_0 rfl (lv_at hl 0 rfl) ?_
  refine lv_bipush (v := 60) hx hb dX10_hours_1 (by decide) ?_
  refine lv_imul hx hb dX10_hours_3 ?_
  exact x_iret X hr hlk hM hS ⟨Nat.le_refl _, Nat.le_refl _⟩ dX10_hours_4 ⟨_, rfl, hp⟩
def B_X2_validOf_60 (G : wG) (rec4 : Nat → Int32 → Int32 → Int32 → wM → Prop) (Q : Int32 → wM → Prop) (x0 : Nat) (x1 : Int32) (x2 : Int32) (x3 : Int32) (M : wM) : Prop :=
  rec4 x0 x1 x2 (x3 + 1) M
def B_X2_validOf_4 (G : wG) (rec4 : Nat → Int32 → Int32 → Int32 → wM → Prop) (Q : Int32 → wM → Prop) (x0 : Nat) (x1 : Int32) (x2 : Int32) (x3 : Int32) (M : wM) : Prop :=
  oGetA M x0 1 1 (fun a1 => oIs M a1 16 (P_J2_size G a1 M (fun v4 M2 => oIf (v4 ≤ x3) (Q x2 M2) (oGetA M2 x0 1 1 (fun a5 => oIs M2 a5 16 (P_J2_get G a5 x3 M2 (fun r8 M6 => oCast M6 r8 9 (oRef r8 (fun a9 => oGetI M6 a9 9 0 (fun v10 => oIf (v10 = x1) (oGetA M6 x0 1 1 (fun a11 => oIs M6 a11 16 (P_J2_get G a11 x3 M6 (fun r14 M12 => oCast M12 r14 9 (oRef r14 (fun a15 => oGetI M12 a15 9 4 (fun v16 => oIf (v16 = (2 : Int32)) (B_X2_validOf_60 G rec4 Q x0 x1 (x2 + 1) x3 M12) (B_X2_validOf_60 G rec4 Q x0 x1 x2 x3 M12)))))))) (B_X2_validOf_60 G rec4 Q x0 x1 x2 x3 M6)))))))))))
def L_X2_validOf_4 (G : wG) (Q : Int32 → wM → Prop) : Nat → Nat → Int32 → Int32 → Int32 → wM → Prop
  | 0 => fun _ _ _ _ _ => False
  | n + 1 => B_X2_validOf_4 G (L_X2_validOf_4 G Q n) Q
def P_X2_validOf (G : wG) (t0 : Nat) (p1 : Int32) (M : wM) (Q : Int32 → wM → Prop) : Prop :=
  ∃ n, L_X2_validOf_4 G Q n t0 p1 (0 : Int32) (0 : Int32) M
set_option maxHeartbeats 4000000 in
set_option maxRecDepth 100000 in
theorem P_X2_validOf_ok {l : Launch} (hl0 : l.stackTraces = false) {G : wG} {t0 : Nat} {p1 : Int32} {M : wM} {Q : Int32 → wM → Prop} (hp : P_X2_validOf G t0 p1 M Q) : wMet l yX2_validOf (ws_ yX2_validOf cX2_validOf 4 (Option.some Jvm.ClassFile.FieldType.int)) 15 464 G [.ref t0, .int p1] M 0 (wqI Q) wX0 := by
  refine vx_ofW (cc := cX2_validOf) (maxL := 4) (ret := Option.some Jvm.ClassFile.FieldType.int) (by decide) rfl ?_
  intro p e s m args below meth c s₁ B hml hnt hv
  obtain ⟨rfl, hM, hK, hZ, hz⟩ := hv
  have hC : wC G s := ⟨hK, hZ, hz⟩
  have hx := B.exec
  have hb := B.bytes
  have hr := B.returns
  have hts := atoms_spec (ws := (ws_ yX2_validOf cX2_validOf 4 (Option.some Jvm.ClassFile.FieldType.int))) B.pre
  have hts : ∀ w ∈ lw_all, w.before _ s = true := fun w h => hts w (List.mem_cons_of_mem _ h)
  have hown : s.vm.findClass RX2 = some m.cls := findClass_of_methodNamed B.named
  have hlk := B.notSynchronized
  have X : CallFix p m c cX2_validOf 4 s ([.ref t0, .int p1] : List Value).toArray lw_all RX2 := ⟨hx, hb, hml, hown, hts⟩
  have hS : va_S (wA G) s.heap s.heap [] := va_S.rf
  have hl := lv_entry ([.ref t0, .int p1]) (n := 4) (Nat.le_of_ble_eq_true rfl)
  rw [lg_entry_eq]
  generalize (lg_sl ([.ref t0, .int p1]) ++ List.replicate (4 - (lg_sl ([.ref t0, .int p1])).length) Slot.unset).toArray = ls at hl ⊢
  have hl : lv_has ls 4 [(0, .ref t0), (1, .int p1)] := hl
  have hB60 : ∀ (rec4 : Nat → Int32 → Int32 → Int32 → wM → Prop) (hrec4 : ∀ (x0 : Nat) (x1 : Int32) (x2 : Int32) (x3 : Int32) (M : wM) (H : Heap) (locs : List Loc) (ls : Array Slot), rec4 x0 x1 x2 x3 M → wR G M H → va_S (wA G) s.heap H locs → lv_has ls 4 [(0, .ref x0), (1, .int x1), (2, .int x2), (3, .int x3)] → W p l e (headSpec (ws_ yX2_validOf cX2_validOf 4 (Option.some Jvm.ClassFile.FieldType.int)) ({ frames := 15, cells := 0, slots := 0, locals := 464 })).room s m ([.ref t0, .int p1] : List Value).toArray below meth c H locs 0 0 (vx_MQ below (wQ G (wqI Q)) (wXC G wX0) ([.ref t0, .int p1] : List Value).toArray s 0 0 (wA G)) (F0 m 4 ls [])), ∀ (x0 : Nat) (x1 : Int32) (x2 : Int32) (x3 : Int32) (M : wM) (H : Heap) (locs : List Loc) (ls : Array Slot), B_X2_validOf_60 G rec4 Q x0 x1 x2 x3 M → wR G M H → va_S (wA G) s.heap H locs → lv_has ls 4 [(0, .ref x0), (1, .int x1), (2, .int x2), (3, .int x3)] → W p l e (headSpec (ws_ yX2_validOf cX2_validOf 4 (Option.some Jvm.ClassFile.FieldType.int)) ({ frames := 15, cells := 0, slots := 0, locals := 464 })).room s m ([.ref t0, .int p1] : List Value).toArray below meth c H locs 0 0 (vx_MQ below (wQ G (wqI Q)) (wXC G wX0) ([.ref t0, .int p1] : List Value).toArray s 0 0 (wA G)) (F0 m 60 ls []) := by
    intro rec4 hrec4 x0 x1 x2 x3 M H locs ls hp hM hS hl
    refine lv_iinc (v := (x3 + 1)) (lv' := [(3, .int (x3 + 1)), (0, .ref x0), (1, .int x1), (2, .int x2)]) hx hb dX2_validOf_60 hl (k := 3) rfl rfl (by decide) rfl (fun ls hl => ?_)
    refine lv_goto (tgt := 4) hx hb dX2_validOf_63 (by decide) ?_
    exact hrec4 _ _ _ _ _ _ _ _ hp hM hS (lv_sub hl [1, 2, 3, 0] rfl)
  have hB4 : ∀ (rec4 : Nat → Int32 → Int32 → Int32 → wM → Prop) (hrec4 : ∀ (x0 : Nat) (x1 : Int32) (x2 : Int32) (x3 : Int32) (M : wM) (H : Heap) (locs : List Loc) (ls : Array Slot), rec4 x0 x1 x2 x3 M → wR G M H → va_S (wA G) s.heap H locs → lv_has ls 4 [(0, .ref x0), (1, .int x1), (2, .int x2), (3, .int x3)] → W p l e (headSpec (ws_ yX2_validOf cX2_validOf 4 (Option.some Jvm.ClassFile.FieldType.int)) ({ frames := 15, cells := 0, slots := 0, locals := 464 })).room s m ([.ref t0, .int p1] : List Value).toArray below meth c H locs 0 0 (vx_MQ below (wQ G (wqI Q)) (wXC G wX0) ([.ref t0, .int p1] : List Value).toArray s 0 0 (wA G)) (F0 m 4 ls [])), ∀ (x0 : Nat) (x1 : Int32) (x2 : Int32) (x3 : Int32) (M : wM) (H : Heap) (locs : List Loc) (ls : Array Slot), B_X2_validOf_4 G rec4 Q x0 x1 x2 x3 M → wR G M H → va_S (wA G) s.heap H locs → lv_has ls 4 [(0, .ref x0), (1, .int x1), (2, .int x2), (3, .int x3)] → W p l e (headSpec (ws_ yX2_validOf cX2_validOf 4 (Option.some Jvm.ClassFile.FieldType.int)) ({ frames := 15, cells := 0, slots := 0, locals := 464 })).room s m ([.ref t0, .int p1] : List Value).toArray below meth c H locs 0 0 (vx_MQ below (wQ G (wqI Q)) (wXC G wX0) ([.ref t0, .int p1] : List Value).toArray s 0 0 (wA G)) (F0 m 4 ls []) := by
    intro rec4 hrec4 x0 x1 x2 x3 M H locs ls hp hM hS hl
    refine lv_iload_n hx hb dX2_validOf_4 rfl (lv_at hl 3 rfl) ?_
    refine lv_aload_n hx hb dX2_validOf_5 rfl (lv_at hl 0 rfl) ?_
    refine x_getA X hC.1 hM (ci := 1) (C := RX2) (T := TX2) (N := 9) rfl in_X2 1 (by decide) q919 (fun _ h9 => h9) dX2_validOf_6 hp (fun a1 hp => ?_)
    obtain ⟨hrec, hp⟩ := hp
    refine x_call0I5 (vx_runF (hC.1.1.1 16 (RJ2, TJ2, 3) rfl).2 (C := "java/util/ArrayList") (As := []) (rest := [.int x3]) X (P_J2_size_ok (l := l) hl0 hp) (va_cwF 0 hts (lw_app (w_mem4 q493 q496 q498 q153) (lw_meth q500)) rfl rfl rfl (wfw_13 hC.1) (by decide +kernel) ⟨Nat.le_of_ble_eq_true rfl, Nat.le_of_ble_eq_true rfl⟩) ⟨wPc.blind, w_recv hC.1 hM (ci := 16) (q := (RJ2, TJ2, 3)) rfl hrec, w_pre hC hM hS _⟩ rfl rfl hl.1 rfl (lv_room (Nat.le_of_ble_eq_true rfl)) dX2_validOf_9 ⟨Nat.le_refl _, Nat.le_refl _⟩) hS ⟨Nat.le_refl _, Nat.le_refl _⟩ (fun _ _ _ _ _ _ h => False.elim h) (fun v4 M2 H locs hp hM hS => ?_)
    refine lv_icmp_ge (tgt := 66) hx hb dX2_validOf_14 (by decide) (fun hc => ?_) (fun hc => ?_)
    · have hp := oIf.t hp hc
      refine lv_iload_n hx hb dX2_validOf_66 rfl (lv_at hl 2 rfl) ?_
      exact x_iret X hr hlk hM hS ⟨Nat.le_refl _, Nat.le_refl _⟩ dX2_validOf_67 ⟨_, rfl, hp⟩
    · have hp := oIf.f hp hc
      refine lv_aload_n hx hb dX2_validOf_17 rfl (lv_at hl 0 rfl) ?_
      refine x_getA X hC.1 hM (ci := 1) (C := RX2) (T := TX2) (N := 9) rfl in_X2 1 (by decide) q919 (fun _ h9 => h9) dX2_validOf_18 hp (fun a5 hp => ?_)
      refine lv_iload_n hx hb dX2_validOf_21 rfl (lv_at hl 3 rfl) ?_
      obtain ⟨hrec, hp⟩ := hp
      refine x_call0R5 (vx_runF (hC.1.1.1 16 (RJ2, TJ2, 3) rfl).2 (C := "java/util/ArrayList") (As := [.int x3]) (rest := []) X (P_J2_get_ok (l := l) hl0 hp) (va_cwF 1 hts (lw_app (w_mem4 q519 q522 q524 q153) (lw_meth q526)) rfl rfl rfl (wfw_8 hC.1) (by decide +kernel) ⟨Nat.le_of_ble_eq_true rfl, Nat.le_of_ble_eq_true rfl⟩) ⟨wPc.blind, w_recv hC.1 hM (ci := 16) (q := (RJ2, TJ2, 3)) rfl hrec, w_pre hC hM hS _⟩ rfl rfl hl.1 rfl (lv_room (Nat.le_of_ble_eq_true rfl)) dX2_validOf_22 ⟨Nat.le_refl _, Nat.le_refl _⟩) hS ⟨Nat.le_refl _, Nat.le_refl _⟩ (fun _ _ _ _ _ _ h => False.elim h) (fun r8 M6 H locs hp hM hS => ?_)
      refine x_cast (r := r8) X hC.1 hM q2070 (ci := 9) rfl (Or.inl rfl) dX2_validOf_27 hp (fun hp => ?_)
      obtain ⟨a9, ea, hqa9⟩ := hp
      subst ea
      have hp := hqa9
      refine x_getI X hC.1 hM (ci := 9) (C := RX12) (T := TX12) (N := 8) rfl in_X12 0 (by decide) q2105 (fun x9 h9 => u_same (hts _ q2102) x9 h9) dX2_validOf_30 hp (fun v10 hp => ?_)
      refine lv_iload_n hx hb dX2_validOf_33 rfl (lv_at hl 1 rfl) ?_
      refine lv_icmp_ne (tgt := 60) hx hb dX2_validOf_34 (by decide) (fun hc => ?_) (fun hc => ?_)
      · have hp := oIf.f hp hc
        exact hB60 rec4 hrec4 _ _ _ _ _ _ _ _ hp hM hS (lv_sub hl [0, 1, 2, 3] rfl)
      · have hp := oIf.t hp hc
        refine lv_aload_n hx hb dX2_validOf_37 rfl (lv_at hl 0 rfl) ?_
        refine x_getA X hC.1 hM (ci := 1) (C := RX2) (T := TX2) (N := 9) rfl in_X2 1 (by decide) q919 (fun _ h9 => h9) dX2_validOf_38 hp (fun a11 hp => ?_)
        refine lv_iload_n hx hb dX2_validOf_41 rfl (lv_at hl 3 rfl) ?_
        obtain ⟨hrec, hp⟩ := hp
        refine x_call0R5 (vx_runF (hC.1.1.1 16 (RJ2, TJ2, 3) rfl).2 (C := "java/util/ArrayList") (As := [.int x3]) (rest := []) X (P_J2_get_ok (l := l) hl0 hp) (va_cwF 1 hts (lw_app (w_mem4 q519 q522 q524 q153) (lw_meth q526)) rfl rfl rfl (wfw_8 hC.1) (by decide +kernel) ⟨Nat.le_of_ble_eq_true rfl, Nat.le_of_ble_eq_true rfl⟩) ⟨wPc.blind, w_recv hC.1 hM (ci := 16) (q := (RJ2, TJ2, 3)) rfl hrec, w_pre hC hM hS _⟩ rfl rfl hl.1 rfl (lv_room (Nat.le_of_ble_eq_true rfl)) dX2_validOf_42 ⟨Nat.le_refl _, Nat.le_refl _⟩) hS ⟨Nat.le_refl _, Nat.le_refl _⟩ (fun _ _ _ _ _ _ h => False.elim h) (fun r14 M12 H locs hp hM hS => ?_)
        refine x_cast (r := r14) X hC.1 hM q2070 (ci := 9) rfl (Or.inl rfl) dX2_validOf_47 hp (fun hp => ?_)
        obtain ⟨a15, ea, hqa15⟩ := hp
        subst ea
        have hp := hqa15
        refine x_getIN X hC.1 hM (ci := 9) (C := RX12) (T := TX12) (N := 8) rfl in_X12 4 (by decide) q2090 (fun _ h9 => h9) dX2_validOf_50 hp (fun v16 hp => ?_)
        refine lv_iconst (v := 2) hx hb dX2_validOf_53 (by decide) ?_
        refine lv_icmp_ne (tgt := 60) hx hb dX2_validOf_54 (by decide) (fun hc => ?_) (fun hc => ?_)
        · have hp := oIf.f hp hc
          exact hB60 rec4 hrec4 _ _ _ _ _ _ _ _ hp hM hS (lv_sub hl [0, 1, 2, 3] rfl)
        · have hp := oIf.t hp hc
          refine lv_iinc (v := (x2 + 1)) (lv' := [(2, .int (x2 + 1)), (0, .ref x0), (1, .int x1), (3, .int x3)]) hx hb dX2_validOf_57 hl (k := 2) rfl rfl (by decide) rfl (fun ls hl => ?_)
          exact hB60 rec4 hrec4 _ _ _ _ _ _ _ _ hp hM hS (lv_sub hl [1, 2, 0, 3] rfl)
  have hL4 : ∀ (n : Nat), ∀ (x0 : Nat) (x1 : Int32) (x2 : Int32) (x3 : Int32) (M : wM) (H : Heap) (locs : List Loc) (ls : Array Slot), L_X2_validOf_4 G Q n x0 x1 x2 x3 M → wR G M H → va_S (wA G) s.heap H locs → lv_has ls 4 [(0, .ref x0), (1, .int x1), (2, .int x2), (3, .int x3)] → W p l e (headSpec (ws_ yX2_validOf cX2_validOf 4 (Option.some Jvm.ClassFile.FieldType.int)) ({ frames := 15, cells := 0, slots := 0, locals := 464 })).room s m ([.ref t0, .int p1] : List Value).toArray below meth c H locs 0 0 (vx_MQ below (wQ G (wqI Q)) (wXC G wX0) ([.ref t0, .int p1] : List Value).toArray s 0 0 (wA G)) (F0 m 4 ls []) := by
    intro n
    induction n with
    | zero => intro _ _ _ _ _ _ _ _ hp; exact False.elim hp
    | succ n ih => intro x0 x1 x2 x3 M H locs ls hp hM hS hl; exact hB4 (L_X2_validOf_4 G Q n) ih _ _ _ _ _ _ _ _ hp hM hS hl
  refine lv_iconst (v := 0) hx hb dX2_validOf_0 (by decide) ?_
  refine lv_istore_n (lv' := [(2, .int (0 : Int32)), (0, .ref t0), (1, .int p1)]) hx hb dX2_validOf_1 rfl hl (by decide) rfl (fun ls hl => ?_)
  refine lv_iconst (v := 0) hx hb dX2_validOf_2 (by decide) ?_
  refine lv_istore_n (lv' := [(3, .int (0 : Int32)), (2, .int (0 : Int32)), (0, .ref t0), (1, .int p1)]) hx hb dX2_validOf_3 rfl hl (by decide) rfl (fun ls hl => ?_)
  obtain ⟨n, hp⟩ := hp
  exact hL4 n _ _ _ _ _ _ _ _ hp hM hS (lv_sub hl [2, 3, 1, 0] rfl)
def B_X2_isAhead_24 (G : wG) (Q : Bool → wM → Prop) (y0 : Int32) (M : wM) : Prop :=
  ∃ r : Bool, y0 = wb r ∧ Q r M
def P_X2_isAhead (G : wG) (t0 : Nat) (p1 : Nat) (p2 : Nat) (M : wM) (Q : Bool → wM → Prop) : Prop :=
  oGetI M p1 9 0 (fun v1 => oIs M t0 1 (P_X2_validOf G t0 v1 M (fun v4 M2 => oGetI M2 p2 9 0 (fun v5 => oIs M2 t0 1 (P_X2_validOf G t0 v5 M2 (fun v8 M6 => oIf (v8 ≤ v4) (B_X2_isAhead_24 G Q (0 : Int32) M6) (B_X2_isAhead_24 G Q (1 : Int32) M6)))))))
set_option maxHeartbeats 4000000 in
set_option maxRecDepth 100000 in
theorem P_X2_isAhead_ok {l : Launch} (hl0 : l.stackTraces = false) {G : wG} {t0 : Nat} {p1 : Nat} {p2 : Nat} {M : wM} {Q : Bool → wM → Prop} (hp : P_X2_isAhead G t0 p1 p2 M Q) : wMet l yX2_isAhead (ws_ yX2_isAhead cX2_isAhead 3 (Option.some Jvm.ClassFile.FieldType.boolean)) 16 487 G [.ref t0, .ref p1, .ref p2] M 0 (wqZ Q) wX0 := by
  refine vx_ofW (cc := cX2_isAhead) (maxL := 3) (ret := Option.some Jvm.ClassFile.FieldType.boolean) (by decide) rfl ?_
  intro p e s m args below meth c s₁ B hml hnt hv
  obtain ⟨rfl, hM, hK, hZ, hz⟩ := hv
  have hC : wC G s := ⟨hK, hZ, hz⟩
  have hx := B.exec
  have hb := B.bytes
  have hr := B.returns
  have hts := atoms_spec (ws := (ws_ yX2_isAhead cX2_isAhead 3 (Option.some Jvm.ClassFile.FieldType.boolean))) B.pre
  have hts : ∀ w ∈ lw_all, w.before _ s = true := fun w h => hts w (List.mem_cons_of_mem _ h)
  have hown : s.vm.findClass RX2 = some m.cls := findClass_of_methodNamed B.named
  have hlk := B.notSynchronized
  have X : CallFix p m c cX2_isAhead 3 s ([.ref t0, .ref p1, .ref p2] : List Value).toArray lw_all RX2 := ⟨hx, hb, hml, hown, hts⟩
  have hS : va_S (wA G) s.heap s.heap [] := va_S.rf
  have hl := lv_entry ([.ref t0, .ref p1, .ref p2]) (n := 3) (Nat.le_of_ble_eq_true rfl)
  rw [lg_entry_eq]
  generalize (lg_sl ([.ref t0, .ref p1, .ref p2]) ++ List.replicate (3 - (lg_sl ([.ref t0, .ref p1, .ref p2])).length) Slot.unset).toArray = ls at hl ⊢
  have hl : lv_has ls 3 [(0, .ref t0), (1, .ref p1), (2, .ref p2)] := hl
  have hB24 : ∀ (y0 : Int32) (M : wM) (H : Heap) (locs : List Loc) (ls : Array Slot), B_X2_isAhead_24 G Q y0 M → wR G M H → va_S (wA G) s.heap H locs → lv_has ls 3 [] → W p l e (headSpec (ws_ yX2_isAhead cX2_isAhead 3 (Option.some Jvm.ClassFile.FieldType.boolean)) ({ frames := 16, cells := 0, slots := 0, locals := 487 })).room s m ([.ref t0, .ref p1, .ref p2] : List Value).toArray below meth c H locs 0 0 (vx_MQ below (wQ G (wqZ Q)) (wXC G wX0) ([.ref t0, .ref p1, .ref p2] : List Value).toArray s 0 0 (wA G)) (F0 m 24 ls [.int y0]) := by
    intro y0 M H locs ls hp hM hS hl
    obtain ⟨r, hr0, hp⟩ := hp
    exact x_zret X hr hlk hM hS ⟨Nat.le_refl _, Nat.le_refl _⟩ (by rw [hr0]; exact w_nz _) dX2_isAhead_24 ⟨r, by rw [hr0], hp⟩
  refine lv_aload_n hx hb dX2_isAhead_0 rfl (lv_at hl 0 rfl) ?_
  refine lv_aload_n hx hb dX2_isAhead_1 rfl (lv_at hl 1 rfl) ?_
  refine x_getI X hC.1 hM (ci := 9) (C := RX12) (T := TX12) (N := 8) rfl in_X12 0 (by decide) q2105 (fun x9 h9 => u_same (hts _ q2102) x9 h9) dX2_isAhead_2 hp (fun v1 hp => ?_)
  obtain ⟨hrec, hp⟩ := hp
  refine x_call0I (vx_runV (As := [.int v1]) (rest := []) X (P_X2_validOf_ok (l := l) hl0 hp) (cwV 1 hts (lw_V q2376 q2269 q2270 q149 q2271) rfl rfl rfl (by decide +kernel) ⟨Nat.le_of_ble_eq_true rfl, Nat.le_of_ble_eq_true rfl⟩) ⟨wPc.blind, w_recv hC.1 hM (ci := 1) (q := (RX2, TX2, 9)) rfl hrec, w_pre hC hM hS _⟩ rfl rfl hl.1 rfl (lv_room (Nat.le_of_ble_eq_true rfl)) dX2_isAhead_5 ⟨Nat.le_refl _, Nat.le_refl _⟩) hS ⟨Nat.le_refl _, Nat.le_refl _⟩ (fun _ _ _ _ _ _ h => False.elim h) (fun v4 M2 H locs hp hM hS => ?_)
  refine lv_aload_n hx hb dX2_isAhead_8 rfl (lv_at hl 0 rfl) ?_
  refine lv_aload_n hx hb dX2_isAhead_9 rfl (lv_at hl 2 rfl) ?_
  refine x_getI X hC.1 hM (ci := 9) (C := RX12) (T := TX12) (N := 8) rfl in_X12 0 (by decide) q2105 (fun x9 h9 => u_same (hts _ q2102) x9 h9) dX2_isAhead_10 hp (fun v5 hp => ?_)
  obtain ⟨hrec, hp⟩ := hp
  refine x_call0I (vx_runV (As := [.int v5]) (rest := [.int v4]) X (P_X2_validOf_ok (l := l) hl0 hp) (cwV 1 hts (lw_V q2376 q2269 q2270 q149 q2271) rfl rfl rfl (by decide +kernel) ⟨Nat.le_of_ble_eq_true rfl, Nat.le_of_ble_eq_true rfl⟩) ⟨wPc.blind, w_recv hC.1 hM (ci := 1) (q := (RX2, TX2, 9)) rfl hrec, w_pre hC hM hS _⟩ rfl rfl hl.1 rfl (lv_room (Nat.le_of_ble_eq_true rfl)) dX2_isAhead_13 ⟨Nat.le_refl _, Nat.le_refl _⟩) hS ⟨Nat.le_refl _, Nat.le_refl _⟩ (fun _ _ _ _ _ _ h => False.elim h) (fun v8 M6 H locs hp hM hS => ?_)
  refine lv_icmp_ge (tgt := 23) hx hb dX2_isAhead_16 (by decide) (fun hc => ?_) (fun hc => ?_)
  · have hp := oIf.t hp hc
    refine lv_iconst (v := 0) hx hb dX2_isAhead_23 (by decide) ?_
    exact hB24 _ _ _ _ _ hp hM hS (lv_sub hl [] rfl)
  · have hp := oIf.f hp hc
    refine lv_iconst (v := 1) hx hb dX2_isAhead_19 (by decide) ?_
    refine lv_goto (tgt := 24) hx hb dX2_isAhead_20 (by decide) ?_
    exact hB24 _ _ _ _ _ hp hM hS (lv_sub hl [] rfl)
def B_X2_firstWaiting_78 (G : wG) (rec4 : Nat → Int32 → Int32 → Int32 → wM → Prop) (Q : Int32 → wM → Prop) (x0 : Nat) (x1 : Int32) (x2 : Int32) (x3 : Int32) (M : wM) : Prop :=
  rec4 x0 x1 x2 (x3 + 1) M
def B_X2_firstWaiting_76 (G : wG) (rec4 : Nat → Int32 → Int32 → Int32 → wM → Prop) (Q : Int32 → wM → Prop) (x0 : Nat) (x1 : Int32) (x3 : Int32) (M : wM) : Prop :=
  B_X2_firstWaiting_78 G rec4 Q x0 x1 x3 x3 M
def B_X2_firstWaiting_4 (G : wG) (rec4 : Nat → Int32 → Int32 → Int32 → wM → Prop) (Q : Int32 → wM → Prop) (x0 : Nat) (x1 : Int32) (x2 : Int32) (x3 : Int32) (M : wM) : Prop :=
  oGetA M x0 1 1 (fun a1 => oIs M a1 16 (P_J2_size G a1 M (fun v4 M2 => oIf (v4 ≤ x3) (Q x2 M2) (oGetA M2 x0 1 1 (fun a5 => oIs M2 a5 16 (P_J2_get G a5 x3 M2 (fun r8 M6 => oCast M6 r8 9 (oRef r8 (fun a9 => oGetI M6 a9 9 2 (fun v10 => oIf (v10 = x1) (oGetI M6 a9 9 4 (fun v11 => oIf (v11 = 0) (oIf (x2 = (-1 : Int32)) (B_X2_firstWaiting_76 G rec4 Q x0 x1 x3 M6) (oGetA M6 x0 1 1 (fun a12 => oIs M6 a12 16 (P_J2_get G a12 x2 M6 (fun r15 M13 => oCast M13 r15 9 (oRef r15 (fun a16 => oIs M13 x0 1 (P_X2_isAhead G x0 a9 a16 M13 (fun r19 M17 => oIf (r19 = true) (B_X2_firstWaiting_76 G rec4 Q x0 x1 x3 M17) (B_X2_firstWaiting_78 G rec4 Q x0 x1 x2 x3 M17)))))))))) (B_X2_firstWaiting_78 G rec4 Q x0 x1 x2 x3 M6))) (B_X2_firstWaiting_78 G rec4 Q x0 x1 x2 x3 M6)))))))))))
def L_X2_firstWaiting_4 (G : wG) (Q : Int32 → wM → Prop) : Nat → Nat → Int32 → Int32 → Int32 → wM → Prop
  | 0 => fun _ _ _ _ _ => False
  | n + 1 => B_X2_firstWaiting_4 G (L_X2_firstWaiting_4 G Q n) Q
def P_X2_firstWaiting (G : wG) (t0 : Nat) (p1 : Int32) (M : wM) (Q : Int32 → wM → Prop) : Prop :=
  ∃ n, L_X2_firstWaiting_4 G Q n t0 p1 (-1 : Int32) (0 : Int32) M
set_option maxHeartbeats 4000000 in
set_option maxRecDepth 100000 in
theorem P_X2_firstWaiting_ok {l : Launch} (hl0 : l.stackTraces = false) {G : wG} {t0 : Nat} {p1 : Int32} {M : wM} {Q : Int32 → wM → Prop} (hp : P_X2_firstWaiting G t0 p1 M Q) : wMet l yX2_firstWaiting (ws_ yX2_firstWaiting cX2_firstWaiting 5 (Option.some Jvm.ClassFile.FieldType.int)) 17 509 G [.ref t0, .int p1] M 0 (wqI Q) wX0 := by
  refine vx_ofW (cc := cX2_firstWaiting) (maxL := 5) (ret := Option.some Jvm.ClassFile.FieldType.int) (by decide) rfl ?_
  intro p e s m args below meth c s₁ B hml hnt hv
  obtain ⟨rfl, hM, hK, hZ, hz⟩ := hv
  have hC : wC G s := ⟨hK, hZ, hz⟩
  have hx := B.exec
  have hb := B.bytes
  have hr := B.returns
  have hts := atoms_spec (ws := (ws_ yX2_firstWaiting cX2_firstWaiting 5 (Option.some Jvm.ClassFile.FieldType.int))) B.pre
  have hts : ∀ w ∈ lw_all, w.before _ s = true := fun w h => hts w (List.mem_cons_of_mem _ h)
  have hown : s.vm.findClass RX2 = some m.cls := findClass_of_methodNamed B.named
  have hlk := B.notSynchronized
  have X : CallFix p m c cX2_firstWaiting 5 s ([.ref t0, .int p1] : List Value).toArray lw_all RX2 := ⟨hx, hb, hml, hown, hts⟩
  have hS : va_S (wA G) s.heap s.heap [] := va_S.rf
  have hl := lv_entry ([.ref t0, .int p1]) (n := 5) (Nat.le_of_ble_eq_true rfl)
  rw [lg_entry_eq]
  generalize (lg_sl ([.ref t0, .int p1]) ++ List.replicate (5 - (lg_sl ([.ref t0, .int p1])).length) Slot.unset).toArray = ls at hl ⊢
  have hl : lv_has ls 5 [(0, .ref t0), (1, .int p1)] := hl
  have hB78 : ∀ (rec4 : Nat → Int32 → Int32 → Int32 → wM → Prop) (hrec4 : ∀ (x0 : Nat) (x1 : Int32) (x2 : Int32) (x3 : Int32) (M : wM) (H : Heap) (locs : List Loc) (ls : Array Slot), rec4 x0 x1 x2 x3 M → wR G M H → va_S (wA G) s.heap H locs → lv_has ls 5 [(0, .ref x0), (1, .int x1), (2, .int x2), (3, .int x3)] → W p l e (headSpec (ws_ yX2_firstWaiting cX2_firstWaiting 5 (Option.some Jvm.ClassFile.FieldType.int)) ({ frames := 17, cells := 0, slots := 0, locals := 509 })).room s m ([.ref t0, .int p1] : List Value).toArray below meth c H locs 0 0 (vx_MQ below (wQ G (wqI Q)) (wXC G wX0) ([.ref t0, .int p1] : List Value).toArray s 0 0 (wA G)) (F0 m 4 ls [])), ∀ (x0 : Nat) (x1 : Int32) (x2 : Int32) (x3 : Int32) (M : wM) (H : Heap) (locs : List Loc) (ls : Array Slot), B_X2_firstWaiting_78 G rec4 Q x0 x1 x2 x3 M → wR G M H → va_S (wA G) s.heap H locs → lv_has ls 5 [(0, .ref x0), (1, .int x1), (2, .int x2), (3, .int x3)] → W p l e (headSpec (ws_ yX2_firstWaiting cX2_firstWaiting 5 (Option.some Jvm.ClassFile.FieldType.int)) ({ frames := 17, cells := 0, slots := 0, locals := 509 })).room s m ([.ref t0, .int p1] : List Value).toArray below meth c H locs 0 0 (vx_MQ below (wQ G (wqI Q)) (wXC G wX0) ([.ref t0, .int p1] : List Value).toArray s 0 0 (wA G)) (F0 m 78 ls []) := by
    intro rec4 hrec4 x0 x1 x2 x3 M H locs ls hp hM hS hl
    refine lv_iinc (v := (x3 + 1)) (lv' := [(3, .int (x3 + 1)), (0, .ref x0), (1, .int x1), (2, .int x2)]) hx hb dX2_firstWaiting_78 hl (k := 3) rfl rfl (by decide) rfl (fun ls hl => ?_)
    refine lv_goto (tgt := 4) hx hb dX2_firstWaiting_81 (by decide) ?_
    exact hrec4 _ _ _ _ _ _ _ _ hp hM hS (lv_sub hl [1, 2, 3, 0] rfl)
  have hB76 : ∀ (rec4 : Nat → Int32 → Int32 → Int32 → wM → Prop) (hrec4 : ∀ (x0 : Nat) (x1 : Int32) (x2 : Int32) (x3 : Int32) (M : wM) (H : Heap) (locs : List Loc) (ls : Array Slot), rec4 x0 x1 x2 x3 M → wR G M H → va_S (wA G) s.heap H locs → lv_has ls 5 [(0, .ref x0), (1, .int x1), (2, .int x2), (3, .int x3)] → W p l e (headSpec (ws_ yX2_firstWaiting cX2_firstWaiting 5 (Option.some Jvm.ClassFile.FieldType.int)) ({ frames := 17, cells := 0, slots := 0, locals := 509 })).room s m ([.ref t0, .int p1] : List Value).toArray below meth c H locs 0 0 (vx_MQ below (wQ G (wqI Q)) (wXC G wX0) ([.ref t0, .int p1] : List Value).toArray s 0 0 (wA G)) (F0 m 4 ls [])), ∀ (x0 : Nat) (x1 : Int32) (x3 : Int32) (M : wM) (H : Heap) (locs : List Loc) (ls : Array Slot), B_X2_firstWaiting_76 G rec4 Q x0 x1 x3 M → wR G M H → va_S (wA G) s.heap H locs → lv_has ls 5 [(0, .ref x0), (1, .int x1), (3, .int x3)] → W p l e (headSpec (ws_ yX2_firstWaiting cX2_firstWaiting 5 (Option.some Jvm.ClassFile.FieldType.int)) ({ frames := 17, cells := 0, slots := 0, locals := 509 })).room s m ([.ref t0, .int p1] : List Value).toArray below meth c H locs 0 0 (vx_MQ below (wQ G (wqI Q)) (wXC G wX0) ([.ref t0, .int p1] : List Value).toArray s 0 0 (wA G)) (F0 m 76 ls []) := by
    intro rec4 hrec4 x0 x1 x3 M H locs ls hp hM hS hl
    refine lv_iload_n hx hb dX2_firstWaiting_76 rfl (lv_at hl 2 rfl) ?_
    refine lv_istore_n (lv' := [(2, .int x3), (0, .ref x0), (1, .int x1), (3, .int x3)]) hx hb dX2_firstWaiting_77 rfl hl (by decide) rfl (fun ls hl => ?_)
    exact hB78 rec4 hrec4 _ _ _ _ _ _ _ _ hp hM hS (lv_sub hl [1, 2, 0, 3] rfl)
  have hB4 : ∀ (rec4 : Nat → Int32 → Int32 → Int32 → wM → Prop) (hrec4 : ∀ (x0 : Nat) (x1 : Int32) (x2 : Int32) (x3 : Int32) (M : wM) (H : Heap) (locs : List Loc) (ls : Array Slot), rec4 x0 x1 x2 x3 M → wR G M H → va_S (wA G) s.heap H locs → lv_has ls 5 [(0, .ref x0), (1, .int x1), (2, .int x2), (3, .int x3)] → W p l e (headSpec (ws_ yX2_firstWaiting cX2_firstWaiting 5 (Option.some Jvm.ClassFile.FieldType.int)) ({ frames := 17, cells := 0, slots := 0, locals := 509 })).room s m ([.ref t0, .int p1] : List Value).toArray below meth c H locs 0 0 (vx_MQ below (wQ G (wqI Q)) (wXC G wX0) ([.ref t0, .int p1] : List Value).toArray s 0 0 (wA G)) (F0 m 4 ls [])), ∀ (x0 : Nat) (x1 : Int32) (x2 : Int32) (x3 : Int32) (M : wM) (H : Heap) (locs : List Loc) (ls : Array Slot), B_X2_firstWaiting_4 G rec4 Q x0 x1 x2 x3 M → wR G M H → va_S (wA G) s.heap H locs → lv_has ls 5 [(0, .ref x0), (1, .int x1), (2, .int x2), (3, .int x3)] → W p l e (headSpec (ws_ yX2_firstWaiting cX2_firstWaiting 5 (Option.some Jvm.ClassFile.FieldType.int)) ({ frames := 17, cells := 0, slots := 0, locals := 509 })).room s m ([.ref t0, .int p1] : List Value).toArray below meth c H locs 0 0 (vx_MQ below (wQ G (wqI Q)) (wXC G wX0) ([.ref t0, .int p1] : List Value).toArray s 0 0 (wA G)) (F0 m 4 ls []) := by
    intro rec4 hrec4 x0 x1 x2 x3 M H locs ls hp hM hS hl
    refine lv_iload_n hx hb dX2_firstWaiting_4 rfl (lv_at hl 3 rfl) ?_
    refine lv_aload_n hx hb dX2_firstWaiting_5 rfl (lv_at hl 0 rfl) ?_
    refine x_getA X hC.1 hM (ci := 1) (C := RX2) (T := TX2) (N := 9) rfl in_X2 1 (by decide) q919 (fun _ h9 => h9) dX2_firstWaiting_6 hp (fun a1 hp => ?_)
    obtain ⟨hrec, hp⟩ := hp
    refine x_call0I5 (vx_runF (hC.1.1.1 16 (RJ2, TJ2, 3) rfl).2 (C := "java/util/ArrayList") (As := []) (rest := [.int x3]) X (P_J2_size_ok (l := l) hl0 hp) (va_cwF 0 hts (lw_app (w_mem4 q493 q496 q498 q153) (lw_meth q500)) rfl rfl rfl (wfw_13 hC.1) (by decide +kernel) ⟨Nat.le_of_ble_eq_true rfl, Nat.le_of_ble_eq_true rfl⟩) ⟨wPc.blind, w_recv hC.1 hM (ci := 16) (q := (RJ2, TJ2, 3)) rfl hrec, w_pre hC hM hS _⟩ rfl rfl hl.1 rfl (lv_room (Nat.le_of_ble_eq_true rfl)) dX2_firstWaiting_9 ⟨Nat.le_refl _, Nat.le_refl _⟩) hS ⟨Nat.le_refl _, Nat.le_refl _⟩ (fun _ _ _ _ _ _ h => False.elim h) (fun v4 M2 H locs hp hM hS => ?_)
    refine lv_icmp_ge (tgt := 84) hx hb dX2_firstWaiting_14 (by decide) (fun hc => ?_) (fun hc => ?_)
    · have hp := oIf.t hp hc
      refine lv_iload_n hx hb dX2_firstWaiting_84 rfl (lv_at hl 2 rfl) ?_
      exact x_iret X hr hlk hM hS ⟨Nat.le_refl _, Nat.le_refl _⟩ dX2_firstWaiting_85 ⟨_, rfl, hp⟩
    · have hp := oIf.f hp hc
      refine lv_aload_n hx hb dX2_firstWaiting_17 rfl (lv_at hl 0 rfl) ?_
      refine x_getA X hC.1 hM (ci := 1) (C := RX2) (T := TX2) (N := 9) rfl in_X2 1 (by decide) q919 (fun _ h9 => h9) dX2_firstWaiting_18 hp (fun a5 hp => ?_)
      refine lv_iload_n hx hb dX2_firstWaiting_21 rfl (lv_at hl 3 rfl) ?_
      obtain ⟨hrec, hp⟩ := hp
      refine x_call0R5 (vx_runF (hC.1.1.1 16 (RJ2, TJ2, 3) rfl).2 (C := "java/util/ArrayList") (As := [.int x3]) (rest := []) X (P_J2_get_ok (l := l) hl0 hp) (va_cwF 1 hts (lw_app (w_mem4 q519 q522 q524 q153) (lw_meth q526)) rfl rfl rfl (wfw_8 hC.1) (by decide +kernel) ⟨Nat.le_of_ble_eq_true rfl, Nat.le_of_ble_eq_true rfl⟩) ⟨wPc.blind, w_recv hC.1 hM (ci := 16) (q := (RJ2, TJ2, 3)) rfl hrec, w_pre hC hM hS _⟩ rfl rfl hl.1 rfl (lv_room (Nat.le_of_ble_eq_true rfl)) dX2_firstWaiting_22 ⟨Nat.le_refl _, Nat.le_refl _⟩) hS ⟨Nat.le_refl _, Nat.le_refl _⟩ (fun _ _ _ _ _ _ h => False.elim h) (fun r8 M6 H locs hp hM hS => ?_)
      refine x_cast (r := r8) X hC.1 hM q2070 (ci := 9) rfl (Or.inl rfl) dX2_firstWaiting_27 hp (fun hp => ?_)
      refine x_astore (r := r8) (lv' := [(4, va_rf r8), (0, .ref x0), (1, .int x1), (2, .int x2), (3, .int x3)]) hx hb dX2_firstWaiting_30 hl (by decide) rfl (fun ls hl => ?_)
      refine x_aload (r := r8) hx hb dX2_firstWaiting_32 (lv_at hl 0 rfl) ?_
      obtain ⟨a9, ea, hqa9⟩ := hp
      subst ea
      have hp := hqa9
      have hl : lv_has ls 5 [(4, .ref a9), (0, .ref x0), (1, .int x1), (2, .int x2), (3, .int x3)] := hl
      refine x_getIN X hC.1 hM (ci := 9) (C := RX12) (T := TX12) (N := 8) rfl in_X12 2 (by decide) q2085 (fun _ h9 => h9) dX2_firstWaiting_34 hp (fun v10 hp => ?_)
      refine lv_iload_n hx hb dX2_firstWaiting_37 rfl (lv_at hl 2 rfl) ?_
      refine lv_icmp_ne (tgt := 78) hx hb dX2_firstWaiting_38 (by decide) (fun hc => ?_) (fun hc => ?_)
      · have hp := oIf.f hp hc
        exact hB78 rec4 hrec4 _ _ _ _ _ _ _ _ hp hM hS (lv_sub hl [1, 2, 3, 4] rfl)
      · have hp := oIf.t hp hc
        refine lv_aload hx hb dX2_firstWaiting_41 (lv_at hl 0 rfl) ?_
        refine x_getIN X hC.1 hM (ci := 9) (C := RX12) (T := TX12) (N := 8) rfl in_X12 4 (by decide) q2090 (fun _ h9 => h9) dX2_firstWaiting_43 hp (fun v11 hp => ?_)
        refine lv_if_ne (tgt := 78) hx hb dX2_firstWaiting_46 (by decide) (fun hc => ?_) (fun hc => ?_)
        · have hp := oIf.f hp hc
          exact hB78 rec4 hrec4 _ _ _ _ _ _ _ _ hp hM hS (lv_sub hl [1, 2, 3, 4] rfl)
        · have hp := oIf.t hp hc
          refine lv_iload_n hx hb dX2_firstWaiting_49 rfl (lv_at hl 3 rfl) ?_
          refine lv_iconst (v := (-1)) hx hb dX2_firstWaiting_50 (by decide) ?_
          refine lv_icmp_eq (tgt := 76) hx hb dX2_firstWaiting_51 (by decide) (fun hc => ?_) (fun hc => ?_)
          · have hp := oIf.t hp hc
            exact hB76 rec4 hrec4 _ _ _ _ _ _ _ hp hM hS (lv_sub hl [1, 2, 4] rfl)
          · have hp := oIf.f hp hc
            refine lv_aload_n hx hb dX2_firstWaiting_54 rfl (lv_at hl 1 rfl) ?_
            refine lv_aload hx hb dX2_firstWaiting_55 (lv_at hl 0 rfl) ?_
            refine lv_aload_n hx hb dX2_firstWaiting_57 rfl (lv_at hl 1 rfl) ?_
            refine x_getA X hC.1 hM (ci := 1) (C := RX2) (T := TX2) (N := 9) rfl in_X2 1 (by decide) q919 (fun _ h9 => h9) dX2_firstWaiting_58 hp (fun a12 hp => ?_)
            refine lv_iload_n hx hb dX2_firstWaiting_61 rfl (lv_at hl 3 rfl) ?_
            obtain ⟨hrec, hp⟩ := hp
            refine x_call0R5 (vx_runF (hC.1.1.1 16 (RJ2, TJ2, 3) rfl).2 (C := "java/util/ArrayList") (As := [.int x2]) (rest := [.ref a9, .ref x0]) X (P_J2_get_ok (l := l) hl0 hp) (va_cwF 1 hts (lw_app (w_mem4 q519 q522 q524 q153) (lw_meth q526)) rfl rfl rfl (wfw_8 hC.1) (by decide +kernel) ⟨Nat.le_of_ble_eq_true rfl, Nat.le_of_ble_eq_true rfl⟩) ⟨wPc.blind, w_recv hC.1 hM (ci := 16) (q := (RJ2, TJ2, 3)) rfl hrec, w_pre hC hM hS _⟩ rfl rfl hl.1 rfl (lv_room (Nat.le_of_ble_eq_true rfl)) dX2_firstWaiting_62 ⟨Nat.le_refl _, Nat.le_refl _⟩) hS ⟨Nat.le_refl _, Nat.le_refl _⟩ (fun _ _ _ _ _ _ h => False.elim h) (fun r15 M13 H locs hp hM hS => ?_)
            refine x_cast (r := r15) X hC.1 hM q2070 (ci := 9) rfl (Or.inl rfl) dX2_firstWaiting_67 hp (fun hp => ?_)
            obtain ⟨a16, ea, hqa16⟩ := hp
            subst ea
            have hp := hqa16
            obtain ⟨hrec, hp⟩ := hp
            refine x_call0Z (vx_runV (As := [.ref a9, .ref a16]) (rest := []) X (P_X2_isAhead_ok (l := l) hl0 hp) (cwV 2 hts (lw_V q2372 q2374 qs42 q149 q2375) rfl rfl rfl (by decide +kernel) ⟨Nat.le_of_ble_eq_true rfl, Nat.le_of_ble_eq_true rfl⟩) ⟨wPc.blind, w_recv hC.1 hM (ci := 1) (q := (RX2, TX2, 9)) rfl hrec, w_pre hC hM hS _⟩ rfl rfl hl.1 rfl (lv_room (Nat.le_of_ble_eq_true rfl)) dX2_firstWaiting_70 ⟨Nat.le_refl _, Nat.le_refl _⟩) hS ⟨Nat.le_refl _, Nat.le_refl _⟩ (fun _ _ _ _ _ _ h => False.elim h) (fun r19 M17 H locs hp hM hS => ?_)
            refine x_ifeqB (tgt := 78) hx hb dX2_firstWaiting_73 (by decide) (fun hc => ?_) (fun hc => ?_)
            · have hp := oIf.bf hp hc
              exact hB78 rec4 hrec4 _ _ _ _ _ _ _ _ hp hM hS (lv_sub hl [1, 2, 3, 4] rfl)
            · have hp := oIf.bt hp hc
              exact hB76 rec4 hrec4 _ _ _ _ _ _ _ hp hM hS (lv_sub hl [1, 2, 4] rfl)
  have hL4 : ∀ (n : Nat), ∀ (x0 : Nat) (x1 : Int32) (x2 : Int32) (x3 : Int32) (M : wM) (H : Heap) (locs : List Loc) (ls : Array Slot), L_X2_firstWaiting_4 G Q n x0 x1 x2 x3 M → wR G M H → va_S (wA G) s.heap H locs → lv_has ls 5 [(0, .ref x0), (1, .int x1), (2, .int x2), (3, .int x3)] → W p l e (headSpec (ws_ yX2_firstWaiting cX2_firstWaiting 5 (Option.some Jvm.ClassFile.FieldType.int)) ({ frames := 17, cells := 0, slots := 0, locals := 509 })).room s m ([.ref t0, .int p1] : List Value).toArray below meth c H locs 0 0 (vx_MQ below (wQ G (wqI Q)) (wXC G wX0) ([.ref t0, .int p1] : List Value).toArray s 0 0 (wA G)) (F0 m 4 ls []) := by
    intro n
    induction n with
    | zero => intro _ _ _ _ _ _ _ _ hp; exact False.elim hp
    | succ n ih => intro x0 x1 x2 x3 M H locs ls hp hM hS hl; exact hB4 (L_X2_firstWaiting_4 G Q n) ih _ _ _ _ _ _ _ _ hp hM hS hl
  refine lv_iconst (v := (-1)) hx hb dX2_firstWaiting_0 (by decide) ?_
  refine lv_istore_n (lv' := [(2, .int (-1 : Int32)), (0, .ref t0), (1, .int p1)]) hx hb dX2_firstWaiting_1 rfl hl (by decide) rfl (fun ls hl => ?_)
  refine lv_iconst (v := 0) hx hb dX2_firstWaiting_2 (by decide) ?_
  refine lv_istore_n (lv' := [(3, .int (0 : Int32)), (2, .int (-1 : Int32)), (0, .ref t0), (1, .int p1)]) hx hb dX2_firstWaiting_3 rfl hl (by decide) rfl (fun ls hl => ?_)
  obtain ⟨n, hp⟩ := hp
  exact hL4 n _ _ _ _ _ _ _ _ hp hM hS (lv_sub hl [2, 3, 1, 0] rfl)
def B_X2_offer_90 (G : wG) (rec2 : Nat → Int32 → wM → Prop) (Q : wM → Prop) (x0 : Nat) (x1 : Int32) (M : wM) : Prop :=
  rec2 x0 (x1 + 1) M
def B_X2_offer_24 (G : wG) (rec2 : Nat → Int32 → wM → Prop) (rec24 : Nat → Int32 → Int32 → wM → Prop) (Q : wM → Prop) (x0 : Nat) (x1 : Int32) (x2 : Int32) (M : wM) : Prop :=
  oIf (x2 = (-1 : Int32)) (B_X2_offer_90 G rec2 Q x0 x1 M) (oIs M x0 1 (P_X2_taken G x0 x1 M (fun v3 M1 => oGetA M1 x0 1 6 (fun a4 => oIald .int M1 a4 x1 (fun v5 => oIf (v5 ≤ v3) (B_X2_offer_90 G rec2 Q x0 x1 M1) (oGetA M1 x0 1 1 (fun a6 => oIs M1 a6 16 (P_J2_get G a6 x2 M1 (fun r9 M7 => oCast M7 r9 9 (oRef r9 (fun a10 => oPut G M7 a10 9 4 (.int (1 : Int32)) (fun M11 => oGetI M11 x0 1 8 (fun v12 => oGetA M11 x0 1 0 (fun a13 => oGetI M11 a13 2 6 (fun v14 => P_X10_hours G v14 M11 (fun v17 M15 => oPut G M15 a10 9 6 (.int (v12 + v17)) (fun M18 => oIs M18 x0 1 (P_X2_firstWaiting G x0 x1 M18 (fun v21 M19 => rec24 x0 x1 v21 M19)))))))))))))))))))
def L_X2_offer_24 (G : wG) (rec2 : Nat → Int32 → wM → Prop) (Q : wM → Prop) : Nat → Nat → Int32 → Int32 → wM → Prop
  | 0 => fun _ _ _ _ => False
  | n + 1 => B_X2_offer_24 G rec2 (L_X2_offer_24 G rec2 Q n) Q
def B_X2_offer_2 (G : wG) (rec2 : Nat → Int32 → wM → Prop) (Q : wM → Prop) (x0 : Nat) (x1 : Int32) (M : wM) : Prop :=
  oGetA M x0 1 0 (fun a1 => oGetA M a1 2 0 (fun a2 => oIs M a2 16 (P_J2_size G a2 M (fun v5 M3 => oIf (v5 ≤ x1) (Q M3) (oIs M3 x0 1 (P_X2_firstWaiting G x0 x1 M3 (fun v8 M6 => ∃ n, L_X2_offer_24 G rec2 Q n x0 x1 v8 M6)))))))
def L_X2_offer_2 (G : wG) (Q : wM → Prop) : Nat → Nat → Int32 → wM → Prop
  | 0 => fun _ _ _ => False
  | n + 1 => B_X2_offer_2 G (L_X2_offer_2 G Q n) Q
def P_X2_offer (G : wG) (t0 : Nat) (M : wM) (Q : wM → Prop) : Prop :=
  ∃ n, L_X2_offer_2 G Q n t0 (0 : Int32) M
set_option maxHeartbeats 4000000 in
set_option maxRecDepth 100000 in
theorem P_X2_offer_ok {l : Launch} (hl0 : l.stackTraces = false) {G : wG} {t0 : Nat} {M : wM} {Q : wM → Prop} (hp : P_X2_offer G t0 M Q) : wMet l yX2_offer (ws_ yX2_offer cX2_offer 4 (none)) 18 533 G [.ref t0] M 0 (wqV Q) wX0 := by
  refine vx_ofW (cc := cX2_offer) (maxL := 4) (ret := none) (by decide) rfl ?_
  intro p e s m args below meth c s₁ B hml hnt hv
  obtain ⟨rfl, hM, hK, hZ, hz⟩ := hv
  have hC : wC G s := ⟨hK, hZ, hz⟩
  have hx := B.exec
  have hb := B.bytes
  have hr := B.returns
  have hts := atoms_spec (ws := (ws_ yX2_offer cX2_offer 4 (none))) B.pre
  have hts : ∀ w ∈ lw_all, w.before _ s = true := fun w h => hts w (List.mem_cons_of_mem _ h)
  have hown : s.vm.findClass RX2 = some m.cls := findClass_of_methodNamed B.named
  have hlk := B.notSynchronized
  have X : CallFix p m c cX2_offer 4 s ([.ref t0] : List Value).toArray lw_all RX2 := ⟨hx, hb, hml, hown, hts⟩
  have hS : va_S (wA G) s.heap s.heap [] := va_S.rf
  have hl := lv_entry ([.ref t0]) (n := 4) (Nat.le_of_ble_eq_true rfl)
  rw [lg_entry_eq]
  generalize (lg_sl ([.ref t0]) ++ List.replicate (4 - (lg_sl ([.ref t0])).length) Slot.unset).toArray = ls at hl ⊢
  have hl : lv_has ls 4 [(0, .ref t0)] := hl
  have hB90 : ∀ (rec2 : Nat → Int32 → wM → Prop) (hrec2 : ∀ (x0 : Nat) (x1 : Int32) (M : wM) (H : Heap) (locs : List Loc) (ls : Array Slot), rec2 x0 x1 M → wR G M H → va_S (wA G) s.heap H locs → lv_has ls 4 [(0, .ref x0), (1, .int x1)] → W p l e (headSpec (ws_ yX2_offer cX2_offer 4 (none)) ({ frames := 18, cells := 0, slots := 0, locals := 533 })).room s m ([.ref t0] : List Value).toArray below meth c H locs 0 0 (vx_MQ below (wQ G (wqV Q)) (wXC G wX0) ([.ref t0] : List Value).toArray s 0 0 (wA G)) (F0 m 2 ls [])), ∀ (x0 : Nat) (x1 : Int32) (M : wM) (H : Heap) (locs : List Loc) (ls : Array Slot), B_X2_offer_90 G rec2 Q x0 x1 M → wR G M H → va_S (wA G) s.heap H locs → lv_has ls 4 [(0, .ref x0), (1, .int x1)] → W p l e (headSpec (ws_ yX2_offer cX2_offer 4 (none)) ({ frames := 18, cells := 0, slots := 0, locals := 533 })).room s m ([.ref t0] : List Value).toArray below meth c H locs 0 0 (vx_MQ below (wQ G (wqV Q)) (wXC G wX0) ([.ref t0] : List Value).toArray s 0 0 (wA G)) (F0 m 90 ls []) := by
    intro rec2 hrec2 x0 x1 M H locs ls hp hM hS hl
    refine lv_iinc (v := (x1 + 1)) (lv' := [(1, .int (x1 + 1)), (0, .ref x0)]) hx hb dX2_offer_90 hl (k := 1) rfl rfl (by decide) rfl (fun ls hl => ?_)
    refine lv_goto (tgt := 2) hx hb dX2_offer_93 (by decide) ?_
    exact hrec2 _ _ _ _ _ _ hp hM hS (lv_sub hl [1, 0] rfl)
  have hB24 : ∀ (rec2 : Nat → Int32 → wM → Prop) (hrec2 : ∀ (x0 : Nat) (x1 : Int32) (M : wM) (H : Heap) (locs : List Loc) (ls : Array Slot), rec2 x0 x1 M → wR G M H → va_S (wA G) s.heap H locs → lv_has ls 4 [(0, .ref x0), (1, .int x1)] → W p l e (headSpec (ws_ yX2_offer cX2_offer 4 (none)) ({ frames := 18, cells := 0, slots := 0, locals := 533 })).room s m ([.ref t0] : List Value).toArray below meth c H locs 0 0 (vx_MQ below (wQ G (wqV Q)) (wXC G wX0) ([.ref t0] : List Value).toArray s 0 0 (wA G)) (F0 m 2 ls [])) (rec24 : Nat → Int32 → Int32 → wM → Prop) (hrec24 : ∀ (x0 : Nat) (x1 : Int32) (x2 : Int32) (M : wM) (H : Heap) (locs : List Loc) (ls : Array Slot), rec24 x0 x1 x2 M → wR G M H → va_S (wA G) s.heap H locs → lv_has ls 4 [(0, .ref x0), (1, .int x1), (2, .int x2)] → W p l e (headSpec (ws_ yX2_offer cX2_offer 4 (none)) ({ frames := 18, cells := 0, slots := 0, locals := 533 })).room s m ([.ref t0] : List Value).toArray below meth c H locs 0 0 (vx_MQ below (wQ G (wqV Q)) (wXC G wX0) ([.ref t0] : List Value).toArray s 0 0 (wA G)) (F0 m 24 ls [])), ∀ (x0 : Nat) (x1 : Int32) (x2 : Int32) (M : wM) (H : Heap) (locs : List Loc) (ls : Array Slot), B_X2_offer_24 G rec2 rec24 Q x0 x1 x2 M → wR G M H → va_S (wA G) s.heap H locs → lv_has ls 4 [(0, .ref x0), (1, .int x1), (2, .int x2)] → W p l e (headSpec (ws_ yX2_offer cX2_offer 4 (none)) ({ frames := 18, cells := 0, slots := 0, locals := 533 })).room s m ([.ref t0] : List Value).toArray below meth c H locs 0 0 (vx_MQ below (wQ G (wqV Q)) (wXC G wX0) ([.ref t0] : List Value).toArray s 0 0 (wA G)) (F0 m 24 ls []) := by
    intro rec2 hrec2 rec24 hrec24 x0 x1 x2 M H locs ls hp hM hS hl
    refine lv_iload_n hx hb dX2_offer_24 rfl (lv_at hl 2 rfl) ?_
    refine lv_iconst (v := (-1)) hx hb dX2_offer_25 (by decide) ?_
    refine lv_icmp_eq (tgt := 90) hx hb dX2_offer_26 (by decide) (fun hc => ?_) (fun hc => ?_)
    · have hp := oIf.t hp hc
      exact hB90 rec2 hrec2 _ _ _ _ _ _ hp hM hS (lv_sub hl [0, 1] rfl)
    · have hp := oIf.f hp hc
      refine lv_aload_n hx hb dX2_offer_29 rfl (lv_at hl 0 rfl) ?_
      refine lv_iload_n hx hb dX2_offer_30 rfl (lv_at hl 1 rfl) ?_
      obtain ⟨hrec, hp⟩ := hp
      refine x_call0I (vx_runV (As := [.int x1]) (rest := []) X (P_X2_taken_ok (l := l) hl0 hp) (cwV 1 hts (lw_V q2616 q2617 q2618 q149 q2619) rfl rfl rfl (by decide +kernel) ⟨Nat.le_of_ble_eq_true rfl, Nat.le_of_ble_eq_true rfl⟩) ⟨wPc.blind, w_recv hC.1 hM (ci := 1) (q := (RX2, TX2, 9)) rfl hrec, w_pre hC hM hS _⟩ rfl rfl hl.1 rfl (lv_room (Nat.le_of_ble_eq_true rfl)) dX2_offer_31 ⟨Nat.le_refl _, Nat.le_refl _⟩) hS ⟨Nat.le_refl _, Nat.le_refl _⟩ (fun _ _ _ _ _ _ h => False.elim h) (fun v3 M1 H locs hp hM hS => ?_)
      refine lv_aload_n hx hb dX2_offer_34 rfl (lv_at hl 0 rfl) ?_
      refine x_getA X hC.1 hM (ci := 1) (C := RX2) (T := TX2) (N := 9) rfl in_X2 6 (by decide) q929 (fun _ h9 => h9) dX2_offer_35 hp (fun a4 hp => ?_)
      refine lv_iload_n hx hb dX2_offer_38 rfl (lv_at hl 1 rfl) ?_
      refine x_iald X hC.1 hM dX2_offer_39 hp (fun v5 hp => ?_)
      refine lv_icmp_ge (tgt := 90) hx hb dX2_offer_40 (by decide) (fun hc => ?_) (fun hc => ?_)
      · have hp := oIf.t hp hc
        exact hB90 rec2 hrec2 _ _ _ _ _ _ hp hM hS (lv_sub hl [0, 1] rfl)
      · have hp := oIf.f hp hc
        refine lv_aload_n hx hb dX2_offer_43 rfl (lv_at hl 0 rfl) ?_
        refine x_getA X hC.1 hM (ci := 1) (C := RX2) (T := TX2) (N := 9) rfl in_X2 1 (by decide) q919 (fun _ h9 => h9) dX2_offer_44 hp (fun a6 hp => ?_)
        refine lv_iload_n hx hb dX2_offer_47 rfl (lv_at hl 2 rfl) ?_
        obtain ⟨hrec, hp⟩ := hp
        refine x_call0R5 (vx_runF (hC.1.1.1 16 (RJ2, TJ2, 3) rfl).2 (C := "java/util/ArrayList") (As := [.int x2]) (rest := []) X (P_J2_get_ok (l := l) hl0 hp) (va_cwF 1 hts (lw_app (w_mem4 q519 q522 q524 q153) (lw_meth q526)) rfl rfl rfl (wfw_8 hC.1) (by decide +kernel) ⟨Nat.le_of_ble_eq_true rfl, Nat.le_of_ble_eq_true rfl⟩) ⟨wPc.blind, w_recv hC.1 hM (ci := 16) (q := (RJ2, TJ2, 3)) rfl hrec, w_pre hC hM hS _⟩ rfl rfl hl.1 rfl (lv_room (Nat.le_of_ble_eq_true rfl)) dX2_offer_48 ⟨Nat.le_refl _, Nat.le_refl _⟩) hS ⟨Nat.le_refl _, Nat.le_refl _⟩ (fun _ _ _ _ _ _ h => False.elim h) (fun r9 M7 H locs hp hM hS => ?_)
        refine x_cast (r := r9) X hC.1 hM q2070 (ci := 9) rfl (Or.inl rfl) dX2_offer_53 hp (fun hp => ?_)
        refine x_astore_n (r := r9) (lv' := [(3, va_rf r9), (0, .ref x0), (1, .int x1), (2, .int x2)]) hx hb dX2_offer_56 rfl hl (by decide) rfl (fun ls hl => ?_)
        refine x_aload_n (r := r9) hx hb dX2_offer_57 rfl (lv_at hl 0 rfl) ?_
        refine lv_iconst (v := 1) hx hb dX2_offer_58 (by decide) ?_
        obtain ⟨a10, ea, hqa10⟩ := hp
        subst ea
        have hp := hqa10
        have hl : lv_has ls 4 [(3, .ref a10), (0, .ref x0), (1, .int x1), (2, .int x2)] := hl
        refine x_putN X hC.1 hM hS (ci := 9) (C := RX12) (T := TX12) (N := 8) rfl in_X12 tyX12 tyX12_ok nmX12 4 (by decide) q2090 (fun _ h9 => h9) rfl rfl rfl dX2_offer_59 hp (fun M11 H locs hM hS hp => ?_)
        refine lv_aload_n hx hb dX2_offer_62 rfl (lv_at hl 0 rfl) ?_
        refine lv_aload_n hx hb dX2_offer_63 rfl (lv_at hl 1 rfl) ?_
        refine x_getI X hC.1 hM (ci := 1) (C := RX2) (T := TX2) (N := 9) rfl in_X2 8 (by decide) q933 (fun _ h9 => h9) dX2_offer_64 hp (fun v12 hp => ?_)
        refine lv_aload_n hx hb dX2_offer_67 rfl (lv_at hl 1 rfl) ?_
        refine x_getA X hC.1 hM (ci := 1) (C := RX2) (T := TX2) (N := 9) rfl in_X2 0 (by decide) q917 (fun _ h9 => h9) dX2_offer_68 hp (fun a13 hp => ?_)
        refine x_getIN X hC.1 hM (ci := 2) (C := RX3) (T := TX3) (N := 8) rfl in_X3 6 (by decide) q418 (fun _ h9 => h9) dX2_offer_71 hp (fun v14 hp => ?_)
        refine x_call0I (vx_runS (As := [.int v14]) (rest := [.int v12, .ref a10]) X (P_X10_hours_ok (l := l) hl0 hp) (va_cwS 1 hts (lw_S q2621 q2298 q197 q2299) rfl rfl rfl (by decide +kernel) ⟨Nat.le_of_ble_eq_true rfl, Nat.le_of_ble_eq_true rfl⟩) ⟨wPc.blind, w_pre hC hM hS _⟩ rfl rfl hl.1 rfl (lv_room (Nat.le_of_ble_eq_true rfl)) dX2_offer_74 ⟨Nat.le_refl _, Nat.le_refl _⟩) hS ⟨Nat.le_refl _, Nat.le_refl _⟩ (fun _ _ _ _ _ _ h => False.elim h) (fun v17 M15 H locs hp hM hS => ?_)
        refine lv_iadd hx hb dX2_offer_77 ?_
        refine x_putN X hC.1 hM hS (ci := 9) (C := RX12) (T := TX12) (N := 8) rfl in_X12 tyX12 tyX12_ok nmX12 6 (by decide) q2096 (fun _ h9 => h9) rfl rfl rfl dX2_offer_78 hp (fun M18 H locs hM hS hp => ?_)
        refine lv_aload_n hx hb dX2_offer_81 rfl (lv_at hl 1 rfl) ?_
        refine lv_iload_n hx hb dX2_offer_82 rfl (lv_at hl 2 rfl) ?_
        obtain ⟨hrec, hp⟩ := hp
        refine x_call0I (vx_runV (As := [.int x1]) (rest := []) X (P_X2_firstWaiting_ok (l := l) hl0 hp) (cwV 1 hts (lw_V q2612 q2614 qs54 q149 q2615) rfl rfl rfl (by decide +kernel) ⟨Nat.le_of_ble_eq_true rfl, Nat.le_of_ble_eq_true rfl⟩) ⟨wPc.blind, w_recv hC.1 hM (ci := 1) (q := (RX2, TX2, 9)) rfl hrec, w_pre hC hM hS _⟩ rfl rfl hl.1 rfl (lv_room (Nat.le_of_ble_eq_true rfl)) dX2_offer_83 ⟨Nat.le_refl _, Nat.le_refl _⟩) hS ⟨Nat.le_refl _, Nat.le_refl _⟩ (fun _ _ _ _ _ _ h => False.elim h) (fun v21 M19 H locs hp hM hS => ?_)
        refine lv_istore_n (lv' := [(2, .int v21), (3, .ref a10), (0, .ref x0), (1, .int x1)]) hx hb dX2_offer_86 rfl hl (by decide) rfl (fun ls hl => ?_)
        refine lv_goto (tgt := 24) hx hb dX2_offer_87 (by decide) ?_
        exact hrec24 _ _ _ _ _ _ _ hp hM hS (lv_sub hl [2, 3, 0] rfl)
  have hL24 : ∀ (rec2 : Nat → Int32 → wM → Prop) (hrec2 : ∀ (x0 : Nat) (x1 : Int32) (M : wM) (H : Heap) (locs : List Loc) (ls : Array Slot), rec2 x0 x1 M → wR G M H → va_S (wA G) s.heap H locs → lv_has ls 4 [(0, .ref x0), (1, .int x1)] → W p l e (headSpec (ws_ yX2_offer cX2_offer 4 (none)) ({ frames := 18, cells := 0, slots := 0, locals := 533 })).room s m ([.ref t0] : List Value).toArray below meth c H locs 0 0 (vx_MQ below (wQ G (wqV Q)) (wXC G wX0) ([.ref t0] : List Value).toArray s 0 0 (wA G)) (F0 m 2 ls [])) (n : Nat), ∀ (x0 : Nat) (x1 : Int32) (x2 : Int32) (M : wM) (H : Heap) (locs : List Loc) (ls : Array Slot), L_X2_offer_24 G rec2 Q n x0 x1 x2 M → wR G M H → va_S (wA G) s.heap H locs → lv_has ls 4 [(0, .ref x0), (1, .int x1), (2, .int x2)] → W p l e (headSpec (ws_ yX2_offer cX2_offer 4 (none)) ({ frames := 18, cells := 0, slots := 0, locals := 533 })).room s m ([.ref t0] : List Value).toArray below meth c H locs 0 0 (vx_MQ below (wQ G (wqV Q)) (wXC G wX0) ([.ref t0] : List Value).toArray s 0 0 (wA G)) (F0 m 24 ls []) := by
    intro rec2 hrec2 n
    induction n with
    | zero => intro _ _ _ _ _ _ _ hp; exact False.elim hp
    | succ n ih => intro x0 x1 x2 M H locs ls hp hM hS hl; exact hB24 rec2 hrec2 (L_X2_offer_24 G rec2 Q n) ih _ _ _ _ _ _ _ hp hM hS hl
  have hB2 : ∀ (rec2 : Nat → Int32 → wM → Prop) (hrec2 : ∀ (x0 : Nat) (x1 : Int32) (M : wM) (H : Heap) (locs : List Loc) (ls : Array Slot), rec2 x0 x1 M → wR G M H → va_S (wA G) s.heap H locs → lv_has ls 4 [(0, .ref x0), (1, .int x1)] → W p l e (headSpec (ws_ yX2_offer cX2_offer 4 (none)) ({ frames := 18, cells := 0, slots := 0, locals := 533 })).room s m ([.ref t0] : List Value).toArray below meth c H locs 0 0 (vx_MQ below (wQ G (wqV Q)) (wXC G wX0) ([.ref t0] : List Value).toArray s 0 0 (wA G)) (F0 m 2 ls [])), ∀ (x0 : Nat) (x1 : Int32) (M : wM) (H : Heap) (locs : List Loc) (ls : Array Slot), B_X2_offer_2 G rec2 Q x0 x1 M → wR G M H → va_S (wA G) s.heap H locs → lv_has ls 4 [(0, .ref x0), (1, .int x1)] → W p l e (headSpec (ws_ yX2_offer cX2_offer 4 (none)) ({ frames := 18, cells := 0, slots := 0, locals := 533 })).room s m ([.ref t0] : List Value).toArray below meth c H locs 0 0 (vx_MQ below (wQ G (wqV Q)) (wXC G wX0) ([.ref t0] : List Value).toArray s 0 0 (wA G)) (F0 m 2 ls []) := by
    intro rec2 hrec2 x0 x1 M H locs ls hp hM hS hl
    refine lv_iload_n hx hb dX2_offer_2 rfl (lv_at hl 1 rfl) ?_
    refine lv_aload_n hx hb dX2_offer_3 rfl (lv_at hl 0 rfl) ?_
    refine x_getA X hC.1 hM (ci := 1) (C := RX2) (T := TX2) (N := 9) rfl in_X2 0 (by decide) q917 (fun _ h9 => h9) dX2_offer_4 hp (fun a1 hp => ?_)
    refine x_getAN X hC.1 hM (ci := 2) (C := RX3) (T := TX3) (N := 8) rfl in_X3 0 (by decide) q396 (fun _ h9 => h9) dX2_offer_7 hp (fun a2 hp => ?_)
    obtain ⟨hrec, hp⟩ := hp
    refine x_call0I5 (vx_runF (hC.1.1.1 16 (RJ2, TJ2, 3) rfl).2 (C := "java/util/ArrayList") (As := []) (rest := [.int x1]) X (P_J2_size_ok (l := l) hl0 hp) (va_cwF 0 hts (lw_app (w_mem4 q493 q496 q498 q153) (lw_meth q500)) rfl rfl rfl (wfw_13 hC.1) (by decide +kernel) ⟨Nat.le_of_ble_eq_true rfl, Nat.le_of_ble_eq_true rfl⟩) ⟨wPc.blind, w_recv hC.1 hM (ci := 16) (q := (RJ2, TJ2, 3)) rfl hrec, w_pre hC hM hS _⟩ rfl rfl hl.1 rfl (lv_room (Nat.le_of_ble_eq_true rfl)) dX2_offer_10 ⟨Nat.le_refl _, Nat.le_refl _⟩) hS ⟨Nat.le_refl _, Nat.le_refl _⟩ (fun _ _ _ _ _ _ h => False.elim h) (fun v5 M3 H locs hp hM hS => ?_)
    refine lv_icmp_ge (tgt := 96) hx hb dX2_offer_15 (by decide) (fun hc => ?_) (fun hc => ?_)
    · have hp := oIf.t hp hc
      exact x_vret X hr hlk hM hS ⟨Nat.le_refl _, Nat.le_refl _⟩ dX2_offer_96 ⟨rfl, hp⟩
    · have hp := oIf.f hp hc
      refine lv_aload_n hx hb dX2_offer_18 rfl (lv_at hl 0 rfl) ?_
      refine lv_iload_n hx hb dX2_offer_19 rfl (lv_at hl 1 rfl) ?_
      obtain ⟨hrec, hp⟩ := hp
      refine x_call0I (vx_runV (As := [.int x1]) (rest := []) X (P_X2_firstWaiting_ok (l := l) hl0 hp) (cwV 1 hts (lw_V q2612 q2614 qs54 q149 q2615) rfl rfl rfl (by decide +kernel) ⟨Nat.le_of_ble_eq_true rfl, Nat.le_of_ble_eq_true rfl⟩) ⟨wPc.blind, w_recv hC.1 hM (ci := 1) (q := (RX2, TX2, 9)) rfl hrec, w_pre hC hM hS _⟩ rfl rfl hl.1 rfl (lv_room (Nat.le_of_ble_eq_true rfl)) dX2_offer_20 ⟨Nat.le_refl _, Nat.le_refl _⟩) hS ⟨Nat.le_refl _, Nat.le_refl _⟩ (fun _ _ _ _ _ _ h => False.elim h) (fun v8 M6 H locs hp hM hS => ?_)
      refine lv_istore_n (lv' := [(2, .int v8), (0, .ref x0), (1, .int x1)]) hx hb dX2_offer_23 rfl hl (by decide) rfl (fun ls hl => ?_)
      obtain ⟨n, hp⟩ := hp
      exact hL24 rec2 hrec2 n _ _ _ _ _ _ _ hp hM hS (lv_sub hl [1, 2, 0] rfl)
  have hL2 : ∀ (n : Nat), ∀ (x0 : Nat) (x1 : Int32) (M : wM) (H : Heap) (locs : List Loc) (ls : Array Slot), L_X2_offer_2 G Q n x0 x1 M → wR G M H → va_S (wA G) s.heap H locs → lv_has ls 4 [(0, .ref x0), (1, .int x1)] → W p l e (headSpec (ws_ yX2_offer cX2_offer 4 (none)) ({ frames := 18, cells := 0, slots := 0, locals := 533 })).room s m ([.ref t0] : List Value).toArray below meth c H locs 0 0 (vx_MQ below (wQ G (wqV Q)) (wXC G wX0) ([.ref t0] : List Value).toArray s 0 0 (wA G)) (F0 m 2 ls []) := by
    intro n
    induction n with
    | zero => intro _ _ _ _ _ _ hp; exact False.elim hp
    | succ n ih => intro x0 x1 M H locs ls hp hM hS hl; exact hB2 (L_X2_offer_2 G Q n) ih _ _ _ _ _ _ hp hM hS hl
  refine lv_iconst (v := 0) hx hb dX2_offer_0 (by decide) ?_
  refine lv_istore_n (lv' := [(1, .int (0 : Int32)), (0, .ref t0)]) hx hb dX2_offer_1 rfl hl (by decide) rfl (fun ls hl => ?_)
  obtain ⟨n, hp⟩ := hp
  exact hL2 n _ _ _ _ _ _ hp hM hS (lv_sub hl [1, 0] rfl)
def B_X1_inRange_15 (G : wG) (Q : Bool → wM → Prop) (y0 : Int32) (M : wM) : Prop :=
  ∃ r : Bool, y0 = wb r ∧ Q r M
def B_X1_inRange_14 (G : wG) (Q : Bool → wM → Prop) (M : wM) : Prop :=
  B_X1_inRange_15 G Q (0 : Int32) M
def P_X1_inRange (G : wG) (p1 : Int32) (p2 : Int32) (p3 : Int32) (M : wM) (Q : Bool → wM → Prop) : Prop :=
  oIf (p1 < p2) (B_X1_inRange_14 G Q M) (oIf (p3 < p1) (B_X1_inRange_14 G Q M) (B_X1_inRange_15 G Q (1 : Int32) M))
set_option maxHeartbeats 4000000 in
set_option maxRecDepth 100000 in
theorem P_X1_inRange_ok {l : Launch} (hl0 : l.stackTraces = false) {G : wG} {p1 : Int32} {p2 : Int32} {p3 : Int32} {M : wM} {Q : Bool → wM → Prop} (hp : P_X1_inRange G p1 p2 p3 M Q) : wMet l yX1_inRange (ws_ yX1_inRange cX1_inRange 3 (Option.some Jvm.ClassFile.FieldType.boolean)) 12 400 G [.int p1, .int p2, .int p3] M 0 (wqZ Q) wX0 := by
  refine vx_ofW (cc := cX1_inRange) (maxL := 3) (ret := Option.some Jvm.ClassFile.FieldType.boolean) (by decide) rfl ?_
  intro p e s m args below meth c s₁ B hml hnt hv
  obtain ⟨rfl, hM, hK, hZ, hz⟩ := hv
  have hC : wC G s := ⟨hK, hZ, hz⟩
  have hx := B.exec
  have hb := B.bytes
  have hr := B.returns
  have hts := atoms_spec (ws := (ws_ yX1_inRange cX1_inRange 3 (Option.some Jvm.ClassFile.FieldType.boolean))) B.pre
  have hts : ∀ w ∈ lw_all, w.before _ s = true := fun w h => hts w (List.mem_cons_of_mem _ h)
  have hown : s.vm.findClass RX1 = some m.cls := findClass_of_methodNamed B.named
  have hlk := B.notSynchronized
  have X : CallFix p m c cX1_inRange 3 s ([.int p1, .int p2, .int p3] : List Value).toArray lw_all RX1 := ⟨hx, hb, hml, hown, hts⟩
  have hS : va_S (wA G) s.heap s.heap [] := va_S.rf
  have hl := lv_entry ([.int p1, .int p2, .int p3]) (n := 3) (Nat.le_of_ble_eq_true rfl)
  rw [lg_entry_eq]
  generalize (lg_sl ([.int p1, .int p2, .int p3]) ++ List.replicate (3 - (lg_sl ([.int p1, .int p2, .int p3])).length) Slot.unset).toArray = ls at hl ⊢
  have hl : lv_has ls 3 [(0, .int p1), (1, .int p2), (2, .int p3)] := hl
  have hB15 : ∀ (y0 : Int32) (M : wM) (H : Heap) (locs : List Loc) (ls : Array Slot), B_X1_inRange_15 G Q y0 M → wR G M H → va_S (wA G) s.heap H locs → lv_has ls 3 [] → W p l e (headSpec (ws_ yX1_inRange cX1_inRange 3 (Option.some Jvm.ClassFile.FieldType.boolean)) ({ frames := 12, cells := 0, slots := 0, locals := 400 })).room s m ([.int p1, .int p2, .int p3] : List Value).toArray below meth c H locs 0 0 (vx_MQ below (wQ G (wqZ Q)) (wXC G wX0) ([.int p1, .int p2, .int p3] : List Value).toArray s 0 0 (wA G)) (F0 m 15 ls [.int y0]) := by
    intro y0 M H locs ls hp hM hS hl
    obtain ⟨r, hr0, hp⟩ := hp
    exact x_zret X hr hlk hM hS ⟨Nat.le_refl _, Nat.le_refl _⟩ (by rw [hr0]; exact w_nz _) dX1_inRange_15 ⟨r, by rw [hr0], hp⟩
  have hB14 : ∀ (M : wM) (H : Heap) (locs : List Loc) (ls : Array Slot), B_X1_inRange_14 G Q M → wR G M H → va_S (wA G) s.heap H locs → lv_has ls 3 [] → W p l e (headSpec (ws_ yX1_inRange cX1_inRange 3 (Option.some Jvm.ClassFile.FieldType.boolean)) ({ frames := 12, cells := 0, slots := 0, locals := 400 })).room s m ([.int p1, .int p2, .int p3] : List Value).toArray below meth c H locs 0 0 (vx_MQ below (wQ G (wqZ Q)) (wXC G wX0) ([.int p1, .int p2, .int p3] : List Value).toArray s 0 0 (wA G)) (F0 m 14 ls []) := by
    intro M H locs ls hp hM hS hl
    refine lv_iconst (v := 0) hx hb dX1_inRange_14 (by decide) ?_
    exact hB15 _ _ _ _ _ hp hM hS (lv_sub hl [] rfl)
  refine lv_iload_n hx hb dX1_inRange_0 rfl (lv_at hl 0 rfl) ?_
  refine lv_iload_n hx hb dX1_inRange_1 rfl (lv_at hl 1 rfl) ?_
  refine lv_icmp_lt (tgt := 14) hx hb dX1_inRange_2 (by decide) (fun hc => ?_) (fun hc => ?_)
  · have hp := oIf.t hp hc
    exact hB14 _ _ _ _ hp hM hS (lv_sub hl [] rfl)
  · have hp := oIf.f hp hc
    refine lv_iload_n hx hb dX1_inRange_5 rfl (lv_at hl 0 rfl) ?_
    refine lv_iload_n hx hb dX1_inRange_6 rfl (lv_at hl 2 rfl) ?_
    refine lv_icmp_gt (tgt := 14) hx hb dX1_inRange_7 (by decide) (fun hc => ?_) (fun hc => ?_)
    · have hp := oIf.t hp hc
      exact hB14 _ _ _ _ hp hM hS (lv_sub hl [] rfl)
    · have hp := oIf.f hp hc
      refine lv_iconst (v := 1) hx hb dX1_inRange_10 (by decide) ?_
      refine lv_goto (tgt := 15) hx hb dX1_inRange_11 (by decide) ?_
      exact hB15 _ _ _ _ _ hp hM hS (lv_sub hl [] rfl)
def P_X1_checkIndex (G : wG) (p1 : Int32) (b : Nat) (M : wM) (Q : wM → Prop) (Xp : String → Nat → wM → Prop) : Prop :=
  oIf (p1 = 0) (7 ≤ b ∧ ∀ q : Nat, Xp "java/lang/IndexOutOfBoundsException" q M) (Q M)
set_option maxHeartbeats 4000000 in
set_option maxRecDepth 100000 in
theorem P_X1_checkIndex_ok {l : Launch} (hl0 : l.stackTraces = false) {G : wG} {p1 : Int32} {b : Nat} {M : wM} {Q : wM → Prop} {Xp : String → Nat → wM → Prop} (hp : P_X1_checkIndex G p1 b M Q Xp) : wMet l yX1_checkIndex (ws_ yX1_checkIndex cX1_checkIndex 1 (none)) 12 400 G [.int p1] M b (wqV Q) Xp := by
  refine vx_ofW (cc := cX1_checkIndex) (maxL := 1) (ret := none) (by decide) rfl ?_
  intro p e s m args below meth c s₁ B hml hnt hv
  obtain ⟨rfl, hM, hK, hZ, hz⟩ := hv
  have hC : wC G s := ⟨hK, hZ, hz⟩
  have hx := B.exec
  have hb := B.bytes
  have hr := B.returns
  have hts := atoms_spec (ws := (ws_ yX1_checkIndex cX1_checkIndex 1 (none))) B.pre
  have hts : ∀ w ∈ lw_all, w.before _ s = true := fun w h => hts w (List.mem_cons_of_mem _ h)
  have hown : s.vm.findClass RX1 = some m.cls := findClass_of_methodNamed B.named
  have hlk := B.notSynchronized
  have X : CallFix p m c cX1_checkIndex 1 s ([.int p1] : List Value).toArray lw_all RX1 := ⟨hx, hb, hml, hown, hts⟩
  have hS : va_S (wA G) s.heap s.heap [] := va_S.rf
  have hl := lv_entry ([.int p1]) (n := 1) (Nat.le_of_ble_eq_true rfl)
  rw [lg_entry_eq]
  generalize (lg_sl ([.int p1]) ++ List.replicate (1 - (lg_sl ([.int p1])).length) Slot.unset).toArray = ls at hl ⊢
  have hl : lv_has ls 1 [(0, .int p1)] := hl
  have hB : 0 + b ≤ ((headSpec (ws_ yX1_checkIndex cX1_checkIndex 1 (none)) ({ frames := 12, cells := b, slots := b, locals := 400 })).room).cells ∧ 0 + b ≤ ((headSpec (ws_ yX1_checkIndex cX1_checkIndex 1 (none)) ({ frames := 12, cells := b, slots := b, locals := 400 })).room).slots := ⟨Nat.le_of_eq (Nat.zero_add b), Nat.le_of_eq (Nat.zero_add b)⟩
  refine lv_iload_n hx hb dX1_checkIndex_0 rfl (lv_at hl 0 rfl) ?_
  refine lv_if_ne (tgt := 12) hx hb dX1_checkIndex_1 (by decide) (fun hc => ?_) (fun hc => ?_)
  · have hp := oIf.f hp hc
    exact x_vret X hr hlk hM hS (w_fin hB) dX1_checkIndex_12 ⟨rfl, hp⟩
  · have hp := oIf.t hp hc
    exact x_throw0 X hC hl0 hM hS hB ⟨Nat.le_refl _, Nat.le_refl _⟩ (by decide +kernel) (by decide +kernel) q2203 q168 vg_X1_IndexOutOfBoundsException (w_recat hts hC.1 vt_X1_IndexOutOfBoundsException) (hl.1.trans hml.symm) dX1_checkIndex_4 dX1_checkIndex_7 dX1_checkIndex_8 dX1_checkIndex_11 (fun x h => (hnt x h).elim) (Nat.le_of_ble_eq_true rfl) (Nat.le_of_ble_eq_true rfl) hlk hp.1 hp.2
def P_X1_permitAt (G : wG) (t0 : Nat) (p1 : Int32) (b : Nat) (M : wM) (Q : Option Nat → wM → Prop) (Xp : String → Nat → wM → Prop) : Prop :=
  oGetA M t0 0 0 (fun a1 => oGetA M a1 1 1 (fun a2 => oIs M a2 16 (P_J2_size G a2 M (fun v5 M3 => P_X1_inRange G p1 (0 : Int32) (v5 - (1 : Int32)) M3 (fun r8 M6 => ∃ c10, c10 ≤ b ∧ P_X1_checkIndex G (wb r8) c10 M6 (fun M9 => oGetA M9 t0 0 0 (fun a11 => oGetA M9 a11 1 1 (fun a12 => oIs M9 a12 16 (P_J2_get G a12 p1 M9 (fun r15 M13 => oCast M13 r15 9 (Q r15 M13)))))) (fun E q16 M17 => (E = "java/lang/IndexOutOfBoundsException" ∧ Xp E q16 M17)))))))
set_option maxHeartbeats 4000000 in
set_option maxRecDepth 100000 in
theorem P_X1_permitAt_ok {l : Launch} (hl0 : l.stackTraces = false) {G : wG} {t0 : Nat} {p1 : Int32} {b : Nat} {M : wM} {Q : Option Nat → wM → Prop} {Xp : String → Nat → wM → Prop} (hp : P_X1_permitAt G t0 p1 b M Q Xp) : wMet l yX1_permitAt (ws_ yX1_permitAt cX1_permitAt 2 (Option.some (Jvm.ClassFile.FieldType.object "ParkingOffice$Permit"))) 15 464 G [.ref t0, .int p1] M b (wqR Q) Xp := by
  refine vx_ofW (cc := cX1_permitAt) (maxL := 2) (ret := Option.some (Jvm.ClassFile.FieldType.object "ParkingOffice$Permit")) (by decide) rfl ?_
  intro p e s m args below meth c s₁ B hml hnt hv
  obtain ⟨rfl, hM, hK, hZ, hz⟩ := hv
  have hC : wC G s := ⟨hK, hZ, hz⟩
  have hx := B.exec
  have hb := B.bytes
  have hr := B.returns
  have hts := atoms_spec (ws := (ws_ yX1_permitAt cX1_permitAt 2 (Option.some (Jvm.ClassFile.FieldType.object "ParkingOffice$Permit")))) B.pre
  have hts : ∀ w ∈ lw_all, w.before _ s = true := fun w h => hts w (List.mem_cons_of_mem _ h)
  have hown : s.vm.findClass RX1 = some m.cls := findClass_of_methodNamed B.named
  have hlk := B.notSynchronized
  have X : CallFix p m c cX1_permitAt 2 s ([.ref t0, .int p1] : List Value).toArray lw_all RX1 := ⟨hx, hb, hml, hown, hts⟩
  have hS : va_S (wA G) s.heap s.heap [] := va_S.rf
  have hl := lv_entry ([.ref t0, .int p1]) (n := 2) (Nat.le_of_ble_eq_true rfl)
  rw [lg_entry_eq]
  generalize (lg_sl ([.ref t0, .int p1]) ++ List.replicate (2 - (lg_sl ([.ref t0, .int p1])).length) Slot.unset).toArray = ls at hl ⊢
  have hl : lv_has ls 2 [(0, .ref t0), (1, .int p1)] := hl
  have hB : 0 + b ≤ ((headSpec (ws_ yX1_permitAt cX1_permitAt 2 (Option.some (Jvm.ClassFile.FieldType.object "ParkingOffice$Permit"))) ({ frames := 15, cells := b, slots := b, locals := 464 })).room).cells ∧ 0 + b ≤ ((headSpec (ws_ yX1_permitAt cX1_permitAt 2 (Option.some (Jvm.ClassFile.FieldType.object "ParkingOffice$Permit"))) ({ frames := 15, cells := b, slots := b, locals := 464 })).room).slots := ⟨Nat.le_of_eq (Nat.zero_add b), Nat.le_of_eq (Nat.zero_add b)⟩
  refine lv_iload_n hx hb dX1_permitAt_0 rfl (lv_at hl 1 rfl) ?_
  refine lv_iconst (v := 0) hx hb dX1_permitAt_1 (by decide) ?_
  refine lv_aload_n hx hb dX1_permitAt_2 rfl (lv_at hl 0 rfl) ?_
  refine x_getA X hC.1 hM (ci := 0) (C := RX1) (T := TX1) (N := 8) rfl in_X1 0 (by decide) q973 (fun _ h9 => h9) dX1_permitAt_3 hp (fun a1 hp => ?_)
  refine x_getAN X hC.1 hM (ci := 1) (C := RX2) (T := TX2) (N := 9) rfl in_X2 1 (by decide) q920 (fun _ h9 => h9) dX1_permitAt_6 hp (fun a2 hp => ?_)
  obtain ⟨hrec, hp⟩ := hp
  refine x_call0I5 (vx_runF (hC.1.1.1 16 (RJ2, TJ2, 3) rfl).2 (C := "java/util/ArrayList") (As := []) (rest := [.int (0 : Int32), .int p1]) X (P_J2_size_ok (l := l) hl0 hp) (va_cwF 0 hts (lw_app (w_mem4 q1540 q496 q498 q153) (lw_meth q500)) rfl rfl rfl (wfw_13 hC.1) (by decide +kernel) ⟨Nat.le_of_ble_eq_true rfl, Nat.le_of_ble_eq_true rfl⟩) ⟨wPc.blind, w_recv hC.1 hM (ci := 16) (q := (RJ2, TJ2, 3)) rfl hrec, w_pre hC hM hS _⟩ rfl rfl hl.1 rfl (lv_room (Nat.le_of_ble_eq_true rfl)) dX1_permitAt_9 (w_room0 hB)) hS (w_room0 hB) (fun _ _ _ _ _ _ h => False.elim h) (fun v5 M3 H locs hp hM hS => ?_)
  refine lv_iconst (v := 1) hx hb dX1_permitAt_14 (by decide) ?_
  refine lv_isub hx hb dX1_permitAt_15 ?_
  refine x_call0Z (vx_runS (As := [.int p1, .int (0 : Int32), .int (v5 - (1 : Int32))]) (rest := []) X (P_X1_inRange_ok (l := l) hl0 hp) (va_cwS 3 hts (lw_S q1012 q1013 q148 q1014) rfl rfl rfl (by decide +kernel) ⟨Nat.le_of_ble_eq_true rfl, Nat.le_of_ble_eq_true rfl⟩) ⟨wPc.blind, w_pre hC hM hS _⟩ rfl rfl hl.1 rfl (lv_room (Nat.le_of_ble_eq_true rfl)) dX1_permitAt_16 (w_room0 hB)) hS (w_room0 hB) (fun _ _ _ _ _ _ h => False.elim h) (fun r8 M6 H locs hp hM hS => ?_)
  obtain ⟨c10, hc1, hp⟩ := hp
  refine x_callV (vx_runS (As := [.int (wb r8)]) (rest := []) X (P_X1_checkIndex_ok (l := l) hl0 hp) (va_cwS 1 hts (lw_S q2200 q2201 q148 q2202) rfl rfl rfl (by decide +kernel) ⟨Nat.le_of_ble_eq_true rfl, Nat.le_of_ble_eq_true rfl⟩) ⟨wPc.blind, w_pre hC hM hS _⟩ rfl rfl hl.1 rfl (lv_room (Nat.le_of_ble_eq_true rfl)) dX1_permitAt_19 (w_room hB hc1)) hS hB hc1 (fun E ce q16 M17 H locs hp hM hS hB hcell hcv hcl => ?_) (fun M9 H locs hp hM hS hB => ?_)
  · obtain ⟨rfl, hp⟩ := hp
    exact x_out hlk (fun x h => (hnt x h).elim) hM hS (w_fin hB) hcell hcv hcl hp
  · refine lv_aload_n hx hb dX1_permitAt_22 rfl (lv_at hl 0 rfl) ?_
    refine x_getA X hC.1 hM (ci := 0) (C := RX1) (T := TX1) (N := 8) rfl in_X1 0 (by decide) q973 (fun _ h9 => h9) dX1_permitAt_23 hp (fun a11 hp => ?_)
    refine x_getAN X hC.1 hM (ci := 1) (C := RX2) (T := TX2) (N := 9) rfl in_X2 1 (by decide) q920 (fun _ h9 => h9) dX1_permitAt_26 hp (fun a12 hp => ?_)
    refine lv_iload_n hx hb dX1_permitAt_29 rfl (lv_at hl 1 rfl) ?_
    obtain ⟨hrec, hp⟩ := hp
    refine x_call0R5 (vx_runF (hC.1.1.1 16 (RJ2, TJ2, 3) rfl).2 (C := "java/util/ArrayList") (As := [.int p1]) (rest := []) X (P_J2_get_ok (l := l) hl0 hp) (va_cwF 1 hts (lw_app (w_mem4 q1667 q522 q524 q153) (lw_meth q526)) rfl rfl rfl (wfw_8 hC.1) (by decide +kernel) ⟨Nat.le_of_ble_eq_true rfl, Nat.le_of_ble_eq_true rfl⟩) ⟨wPc.blind, w_recv hC.1 hM (ci := 16) (q := (RJ2, TJ2, 3)) rfl hrec, w_pre hC hM hS _⟩ rfl rfl hl.1 rfl (lv_room (Nat.le_of_ble_eq_true rfl)) dX1_permitAt_30 (w_room0 hB)) hS (w_room0 hB) (fun _ _ _ _ _ _ h => False.elim h) (fun r15 M13 H locs hp hM hS => ?_)
    refine x_cast (r := r15) X hC.1 hM q1686 (ci := 9) rfl (Or.inl rfl) dX1_permitAt_35 hp (fun hp => ?_)
    exact x_aret (v := r15) X hr (by first | exact Or.inl ⟨_, rfl⟩ | exact Or.inr ⟨_, rfl⟩) hlk hM hS (w_fin hB) dX1_permitAt_38 ⟨r15, rfl, hp⟩
def B_X1_accept_17 (G : wG) (Q : Int32 → wM → Prop) (Xp : String → Nat → wM → Prop) (x0 : Nat) (x1 : Int32) (y0 : Int32) (M : wM) (bq : Nat) : Prop :=
  ∃ c2, c2 ≤ bq ∧ P_X1_checkState G y0 c2 M (fun M1 => oIs M1 x0 0 (∃ c4, c4 ≤ (bq - c2) ∧ P_X1_remember G x0 c4 M1 (fun M3 => oGetA M3 x0 0 0 (fun a5 => oGetA M3 a5 1 1 (fun a6 => oIs M3 a6 16 (P_J2_get G a6 x1 M3 (fun r9 M7 => oCast M7 r9 9 (oRef r9 (fun a10 => oPut G M7 a10 9 4 (.int (2 : Int32)) (fun M11 => oGetA M11 x0 0 0 (fun a12 => oGetI M11 a12 1 8 (fun v13 => oIs M11 x0 0 (P_X1_setup G x0 M11 (fun r16 M14 => oRef r16 (fun a17 => oGetI M14 a17 2 5 (fun v18 => oPut G M14 a10 9 5 (.int (v13 + (v18 * (1440 : Int32)))) (fun M19 => oGetA M19 x0 0 0 (fun a20 => oIs M19 a20 1 (P_X2_offer G a20 M19 (fun M21 => oGetI M21 a10 9 5 (fun v23 => Q v23 M21))))))))))))))))))))) (fun E q24 M25 => (E = "java/lang/IllegalStateException" ∧ Xp E q24 M25))
def P_X1_accept (G : wG) (t0 : Nat) (p1 : Int32) (b : Nat) (M : wM) (Q : Int32 → wM → Prop) (Xp : String → Nat → wM → Prop) : Prop :=
  oIs M t0 0 (∃ c2, c2 ≤ b ∧ P_X1_permitAt G t0 p1 c2 M (fun r3 M1 => oRef r3 (fun a4 => oGetI M1 a4 9 4 (fun v5 => oIf (v5 = (1 : Int32)) (B_X1_accept_17 G Q Xp t0 p1 (1 : Int32) M1 (b - c2)) (B_X1_accept_17 G Q Xp t0 p1 (0 : Int32) M1 (b - c2))))) (fun E q6 M7 => (E = "java/lang/IndexOutOfBoundsException" ∧ Xp E q6 M7)))
set_option maxHeartbeats 4000000 in
set_option maxRecDepth 100000 in
theorem P_X1_accept_ok {l : Launch} (hl0 : l.stackTraces = false) {G : wG} {t0 : Nat} {p1 : Int32} {b : Nat} {M : wM} {Q : Int32 → wM → Prop} {Xp : String → Nat → wM → Prop} (hp : P_X1_accept G t0 p1 b M Q Xp) : wMet l yX1_accept (ws_ yX1_accept cX1_accept 3 (Option.some Jvm.ClassFile.FieldType.int)) 20 575 G [.ref t0, .int p1] M b (wqI Q) Xp := by
  refine vx_ofW (cc := cX1_accept) (maxL := 3) (ret := Option.some Jvm.ClassFile.FieldType.int) (by decide) rfl ?_
  intro p e s m args below meth c s₁ B hml hnt hv
  obtain ⟨rfl, hM, hK, hZ, hz⟩ := hv
  have hC : wC G s := ⟨hK, hZ, hz⟩
  have hx := B.exec
  have hb := B.bytes
  have hr := B.returns
  have hts := atoms_spec (ws := (ws_ yX1_accept cX1_accept 3 (Option.some Jvm.ClassFile.FieldType.int))) B.pre
  have hts : ∀ w ∈ lw_all, w.before _ s = true := fun w h => hts w (List.mem_cons_of_mem _ h)
  have hown : s.vm.findClass RX1 = some m.cls := findClass_of_methodNamed B.named
  have hlk := B.notSynchronized
  have X : CallFix p m c cX1_accept 3 s ([.ref t0, .int p1] : List Value).toArray lw_all RX1 := ⟨hx, hb, hml, hown, hts⟩
  have hS : va_S (wA G) s.heap s.heap [] := va_S.rf
  have hl := lv_entry ([.ref t0, .int p1]) (n := 3) (Nat.le_of_ble_eq_true rfl)
  rw [lg_entry_eq]
  generalize (lg_sl ([.ref t0, .int p1]) ++ List.replicate (3 - (lg_sl ([.ref t0, .int p1])).length) Slot.unset).toArray = ls at hl ⊢
  have hl : lv_has ls 3 [(0, .ref t0), (1, .int p1)] := hl
  have hB : 0 + b ≤ ((headSpec (ws_ yX1_accept cX1_accept 3 (Option.some Jvm.ClassFile.FieldType.int)) ({ frames := 20, cells := b, slots := b, locals := 575 })).room).cells ∧ 0 + b ≤ ((headSpec (ws_ yX1_accept cX1_accept 3 (Option.some Jvm.ClassFile.FieldType.int)) ({ frames := 20, cells := b, slots := b, locals := 575 })).room).slots := ⟨Nat.le_of_eq (Nat.zero_add b), Nat.le_of_eq (Nat.zero_add b)⟩
  have hB17 : ∀ (x0 : Nat) (x1 : Int32) (y0 : Int32) (M : wM) (bq : Nat) (H : Heap) (locs : List Loc) (ls : Array Slot) (cells slots : Nat), B_X1_accept_17 G Q Xp x0 x1 y0 M bq → wR G M H → va_S (wA G) s.heap H locs → (cells + bq ≤ ((headSpec (ws_ yX1_accept cX1_accept 3 (Option.some Jvm.ClassFile.FieldType.int)) ({ frames := 20, cells := b, slots := b, locals := 575 })).room).cells ∧ slots + bq ≤ ((headSpec (ws_ yX1_accept cX1_accept 3 (Option.some Jvm.ClassFile.FieldType.int)) ({ frames := 20, cells := b, slots := b, locals := 575 })).room).slots) → lv_has ls 3 [(0, .ref x0), (1, .int x1)] → W p l e (headSpec (ws_ yX1_accept cX1_accept 3 (Option.some Jvm.ClassFile.FieldType.int)) ({ frames := 20, cells := b, slots := b, locals := 575 })).room s m ([.ref t0, .int p1] : List Value).toArray below meth c H locs cells slots (vx_MQ below (wQ G (wqI Q)) (wXC G Xp) ([.ref t0, .int p1] : List Value).toArray s b b (wA G)) (F0 m 17 ls [.int y0]) := by
    intro x0 x1 y0 M bq H locs ls cells slots hp hM hS hB hl
    obtain ⟨c2, hc1, hp⟩ := hp
    refine x_callV (vx_runS (As := [.int y0]) (rest := []) X (P_X1_checkState_ok (l := l) hl0 hp) (va_cwS 1 hts (lw_S q2690 q2691 q148 q2692) rfl rfl rfl (by decide +kernel) ⟨Nat.le_of_ble_eq_true rfl, Nat.le_of_ble_eq_true rfl⟩) ⟨wPc.blind, w_pre hC hM hS _⟩ rfl rfl hl.1 rfl (lv_room (Nat.le_of_ble_eq_true rfl)) dX1_accept_17 (w_room hB hc1)) hS hB hc1 (fun E ce q24 M25 H locs hp hM hS hB hcell hcv hcl => ?_) (fun M1 H locs hp hM hS hB => ?_)
    · obtain ⟨rfl, hp⟩ := hp
      exact x_out hlk (fun x h => (hnt x h).elim) hM hS (w_fin hB) hcell hcv hcl hp
    · refine lv_aload_n hx hb dX1_accept_20 rfl (lv_at hl 0 rfl) ?_
      obtain ⟨hrec, hp⟩ := hp
      obtain ⟨c4, hc1, hp⟩ := hp
      refine x_callV (vx_runV (As := []) (rest := []) X (P_X1_remember_ok (l := l) hl0 hp) (cwV 0 hts (lw_V q2543 q2545 qs49 q148 q2546) rfl rfl rfl (by decide +kernel) ⟨Nat.le_of_ble_eq_true rfl, Nat.le_of_ble_eq_true rfl⟩) ⟨wPc.blind, w_recv hC.1 hM (ci := 0) (q := (RX1, TX1, 8)) rfl hrec, w_pre hC hM hS _⟩ rfl rfl hl.1 rfl (lv_room (Nat.le_of_ble_eq_true rfl)) dX1_accept_21 (w_room hB hc1)) hS hB hc1 (fun _ _ _ _ _ _ h => False.elim h) (fun M3 H locs hp hM hS hB => ?_)
      refine lv_aload_n hx hb dX1_accept_24 rfl (lv_at hl 0 rfl) ?_
      refine x_getA X hC.1 hM (ci := 0) (C := RX1) (T := TX1) (N := 8) rfl in_X1 0 (by decide) q973 (fun _ h9 => h9) dX1_accept_25 hp (fun a5 hp => ?_)
      refine x_getAN X hC.1 hM (ci := 1) (C := RX2) (T := TX2) (N := 9) rfl in_X2 1 (by decide) q920 (fun _ h9 => h9) dX1_accept_28 hp (fun a6 hp => ?_)
      refine lv_iload_n hx hb dX1_accept_31 rfl (lv_at hl 1 rfl) ?_
      obtain ⟨hrec, hp⟩ := hp
      refine x_call0R5 (vx_runF (hC.1.1.1 16 (RJ2, TJ2, 3) rfl).2 (C := "java/util/ArrayList") (As := [.int x1]) (rest := []) X (P_J2_get_ok (l := l) hl0 hp) (va_cwF 1 hts (lw_app (w_mem4 q1667 q522 q524 q153) (lw_meth q526)) rfl rfl rfl (wfw_8 hC.1) (by decide +kernel) ⟨Nat.le_of_ble_eq_true rfl, Nat.le_of_ble_eq_true rfl⟩) ⟨wPc.blind, w_recv hC.1 hM (ci := 16) (q := (RJ2, TJ2, 3)) rfl hrec, w_pre hC hM hS _⟩ rfl rfl hl.1 rfl (lv_room (Nat.le_of_ble_eq_true rfl)) dX1_accept_32 (w_room0 hB)) hS (w_room0 hB) (fun _ _ _ _ _ _ h => False.elim h) (fun r9 M7 H locs hp hM hS => ?_)
      refine x_cast (r := r9) X hC.1 hM q1686 (ci := 9) rfl (Or.inl rfl) dX1_accept_37 hp (fun hp => ?_)
      refine x_astore_n (r := r9) (lv' := [(2, va_rf r9), (0, .ref x0), (1, .int x1)]) hx hb dX1_accept_40 rfl hl (by decide) rfl (fun ls hl => ?_)
      refine x_aload_n (r := r9) hx hb dX1_accept_41 rfl (lv_at hl 0 rfl) ?_
      refine lv_iconst (v := 2) hx hb dX1_accept_42 (by decide) ?_
      obtain ⟨a10, ea, hqa10⟩ := hp
      subst ea
      have hp := hqa10
      have hl : lv_has ls 3 [(2, .ref a10), (0, .ref x0), (1, .int x1)] := hl
      refine x_putN X hC.1 hM hS (ci := 9) (C := RX12) (T := TX12) (N := 8) rfl in_X12 tyX12 tyX12_ok nmX12 4 (by decide) q2091 (fun _ h9 => h9) rfl rfl rfl dX1_accept_43 hp (fun M11 H locs hM hS hp => ?_)
      refine lv_aload_n hx hb dX1_accept_46 rfl (lv_at hl 0 rfl) ?_
      refine lv_aload_n hx hb dX1_accept_47 rfl (lv_at hl 1 rfl) ?_
      refine x_getA X hC.1 hM (ci := 0) (C := RX1) (T := TX1) (N := 8) rfl in_X1 0 (by decide) q973 (fun _ h9 => h9) dX1_accept_48 hp (fun a12 hp => ?_)
      refine x_getIN X hC.1 hM (ci := 1) (C := RX2) (T := TX2) (N := 9) rfl in_X2 8 (by decide) q934 (fun _ h9 => h9) dX1_accept_51 hp (fun v13 hp => ?_)
      refine lv_aload_n hx hb dX1_accept_54 rfl (lv_at hl 1 rfl) ?_
      obtain ⟨hrec, hp⟩ := hp
      refine x_call0R (vx_runV (As := []) (rest := [.int v13, .ref a10]) X (P_X1_setup_ok (l := l) hl0 hp) (cwV 0 hts (lw_V q1535 q1537 qs29 q148 q1538) rfl rfl rfl (by decide +kernel) ⟨Nat.le_of_ble_eq_true rfl, Nat.le_of_ble_eq_true rfl⟩) ⟨wPc.blind, w_recv hC.1 hM (ci := 0) (q := (RX1, TX1, 8)) rfl hrec, w_pre hC hM hS _⟩ rfl rfl hl.1 rfl (lv_room (Nat.le_of_ble_eq_true rfl)) dX1_accept_55 (w_room0 hB)) hS (w_room0 hB) (fun _ _ _ _ _ _ h => False.elim h) (fun r16 M14 H locs hp hM hS => ?_)
      obtain ⟨a17, ea, hqa17⟩ := hp
      subst ea
      have hp := hqa17
      refine x_getIN X hC.1 hM (ci := 2) (C := RX3) (T := TX3) (N := 8) rfl in_X3 5 (by decide) q415 (fun _ h9 => h9) dX1_accept_58 hp (fun v18 hp => ?_)
      refine lv_sipush (v := 1440) hx hb dX1_accept_61 (by decide) ?_
      refine lv_imul hx hb dX1_accept_64 ?_
      refine lv_iadd hx hb dX1_accept_65 ?_
      refine x_putN X hC.1 hM hS (ci := 9) (C := RX12) (T := TX12) (N := 8) rfl in_X12 tyX12 tyX12_ok nmX12 5 (by decide) q2094 (fun _ h9 => h9) rfl rfl rfl dX1_accept_66 hp (fun M19 H locs hM hS hp => ?_)
      refine lv_aload_n hx hb dX1_accept_69 rfl (lv_at hl 1 rfl) ?_
      refine x_getA X hC.1 hM (ci := 0) (C := RX1) (T := TX1) (N := 8) rfl in_X1 0 (by decide) q973 (fun _ h9 => h9) dX1_accept_70 hp (fun a20 hp => ?_)
      obtain ⟨hrec, hp⟩ := hp
      refine x_call0V (vx_runV (As := []) (rest := []) X (P_X2_offer_ok (l := l) hl0 hp) (cwV 0 hts (lw_V q2682 q2609 q2610 q149 q2611) rfl rfl rfl (by decide +kernel) ⟨Nat.le_of_ble_eq_true rfl, Nat.le_of_ble_eq_true rfl⟩) ⟨wPc.blind, w_recv hC.1 hM (ci := 1) (q := (RX2, TX2, 9)) rfl hrec, w_pre hC hM hS _⟩ rfl rfl hl.1 rfl (lv_room (Nat.le_of_ble_eq_true rfl)) dX1_accept_73 (w_room0 hB)) hS (w_room0 hB) (fun _ _ _ _ _ _ h => False.elim h) (fun M21 H locs hp hM hS => ?_)
      refine lv_aload_n hx hb dX1_accept_76 rfl (lv_at hl 0 rfl) ?_
      refine x_getIN X hC.1 hM (ci := 9) (C := RX12) (T := TX12) (N := 8) rfl in_X12 5 (by decide) q2094 (fun _ h9 => h9) dX1_accept_77 hp (fun v23 hp => ?_)
      exact x_iret X hr hlk hM hS (w_fin hB) dX1_accept_80 ⟨_, rfl, hp⟩
  refine lv_aload_n hx hb dX1_accept_0 rfl (lv_at hl 0 rfl) ?_
  refine lv_iload_n hx hb dX1_accept_1 rfl (lv_at hl 1 rfl) ?_
  obtain ⟨hrec, hp⟩ := hp
  obtain ⟨c2, hc1, hp⟩ := hp
  refine x_callR (vx_runV (As := [.int p1]) (rest := []) X (P_X1_permitAt_ok (l := l) hl0 hp) (cwV 1 hts (lw_V q2352 q2354 qs41 q148 q2355) rfl rfl rfl (by decide +kernel) ⟨Nat.le_of_ble_eq_true rfl, Nat.le_of_ble_eq_true rfl⟩) ⟨wPc.blind, w_recv hC.1 hM (ci := 0) (q := (RX1, TX1, 8)) rfl hrec, w_pre hC hM hS _⟩ rfl rfl hl.1 rfl (lv_room (Nat.le_of_ble_eq_true rfl)) dX1_accept_2 (w_room hB hc1)) hS hB hc1 (fun E ce q6 M7 H locs hp hM hS hB hcell hcv hcl => ?_) (fun r3 M1 H locs hp hM hS hB => ?_)
  · obtain ⟨rfl, hp⟩ := hp
    exact x_out hlk (fun x h => (hnt x h).elim) hM hS (w_fin hB) hcell hcv hcl hp
  · obtain ⟨a4, ea, hqa4⟩ := hp
    subst ea
    have hp := hqa4
    refine x_getIN X hC.1 hM (ci := 9) (C := RX12) (T := TX12) (N := 8) rfl in_X12 4 (by decide) q2091 (fun _ h9 => h9) dX1_accept_5 hp (fun v5 hp => ?_)
    refine lv_iconst (v := 1) hx hb dX1_accept_8 (by decide) ?_
    refine lv_icmp_ne (tgt := 16) hx hb dX1_accept_9 (by decide) (fun hc => ?_) (fun hc => ?_)
    · have hp := oIf.f hp hc
      refine lv_iconst (v := 0) hx hb dX1_accept_16 (by decide) ?_
      exact hB17 _ _ _ _ _ _ _ _ _ _ hp hM hS hB (lv_sub hl [0, 1] rfl)
    · have hp := oIf.t hp hc
      refine lv_iconst (v := 1) hx hb dX1_accept_12 (by decide) ?_
      refine lv_goto (tgt := 17) hx hb dX1_accept_13 (by decide) ?_
      exact hB17 _ _ _ _ _ _ _ _ _ _ hp hM hS hB (lv_sub hl [0, 1] rfl)
def P_X1_checkHouse (G : wG) (t0 : Nat) (p1 : Int32) (b : Nat) (M : wM) (Q : wM → Prop) (Xp : String → Nat → wM → Prop) : Prop :=
  oIs M t0 0 (P_X1_setup G t0 M (fun r3 M1 => oRef r3 (fun a4 => oGetA M1 a4 2 2 (fun a5 => oIs M1 a5 16 (P_J2_size G a5 M1 (fun v8 M6 => P_X1_inRange G p1 (0 : Int32) (v8 - (1 : Int32)) M6 (fun r11 M9 => ∃ c13, c13 ≤ b ∧ P_X1_checkIndex G (wb r11) c13 M9 (fun M12 => Q M12) (fun E q14 M15 => (E = "java/lang/IndexOutOfBoundsException" ∧ Xp E q14 M15)))))))))
set_option maxHeartbeats 4000000 in
set_option maxRecDepth 100000 in
theorem P_X1_checkHouse_ok {l : Launch} (hl0 : l.stackTraces = false) {G : wG} {t0 : Nat} {p1 : Int32} {b : Nat} {M : wM} {Q : wM → Prop} {Xp : String → Nat → wM → Prop} (hp : P_X1_checkHouse G t0 p1 b M Q Xp) : wMet l yX1_checkHouse (ws_ yX1_checkHouse cX1_checkHouse 2 (none)) 13 422 G [.ref t0, .int p1] M b (wqV Q) Xp := by
  refine vx_ofW (cc := cX1_checkHouse) (maxL := 2) (ret := none) (by decide) rfl ?_
  intro p e s m args below meth c s₁ B hml hnt hv
  obtain ⟨rfl, hM, hK, hZ, hz⟩ := hv
  have hC : wC G s := ⟨hK, hZ, hz⟩
  have hx := B.exec
  have hb := B.bytes
  have hr := B.returns
  have hts := atoms_spec (ws := (ws_ yX1_checkHouse cX1_checkHouse 2 (none))) B.pre
  have hts : ∀ w ∈ lw_all, w.before _ s = true := fun w h => hts w (List.mem_cons_of_mem _ h)
  have hown : s.vm.findClass RX1 = some m.cls := findClass_of_methodNamed B.named
  have hlk := B.notSynchronized
  have X : CallFix p m c cX1_checkHouse 2 s ([.ref t0, .int p1] : List Value).toArray lw_all RX1 := ⟨hx, hb, hml, hown, hts⟩
  have hS : va_S (wA G) s.heap s.heap [] := va_S.rf
  have hl := lv_entry ([.ref t0, .int p1]) (n := 2) (Nat.le_of_ble_eq_true rfl)
  rw [lg_entry_eq]
  generalize (lg_sl ([.ref t0, .int p1]) ++ List.replicate (2 - (lg_sl ([.ref t0, .int p1])).length) Slot.unset).toArray = ls at hl ⊢
  have hl : lv_has ls 2 [(0, .ref t0), (1, .int p1)] := hl
  have hB : 0 + b ≤ ((headSpec (ws_ yX1_checkHouse cX1_checkHouse 2 (none)) ({ frames := 13, cells := b, slots := b, locals := 422 })).room).cells ∧ 0 + b ≤ ((headSpec (ws_ yX1_checkHouse cX1_checkHouse 2 (none)) ({ frames := 13, cells := b, slots := b, locals := 422 })).room).slots := ⟨Nat.le_of_eq (Nat.zero_add b), Nat.le_of_eq (Nat.zero_add b)⟩
  refine lv_iload_n hx hb dX1_checkHouse_0 rfl (lv_at hl 1 rfl) ?_
  refine lv_iconst (v := 0) hx hb dX1_checkHouse_1 (by decide) ?_
  refine lv_aload_n hx hb dX1_checkHouse_2 rfl (lv_at hl 0 rfl) ?_
  obtain ⟨hrec, hp⟩ := hp
  refine x_call0R (vx_runV (As := []) (rest := [.int (0 : Int32), .int p1]) X (P_X1_setup_ok (l := l) hl0 hp) (cwV 0 hts (lw_V q1535 q1537 qs29 q148 q1538) rfl rfl rfl (by decide +kernel) ⟨Nat.le_of_ble_eq_true rfl, Nat.le_of_ble_eq_true rfl⟩) ⟨wPc.blind, w_recv hC.1 hM (ci := 0) (q := (RX1, TX1, 8)) rfl hrec, w_pre hC hM hS _⟩ rfl rfl hl.1 rfl (lv_room (Nat.le_of_ble_eq_true rfl)) dX1_checkHouse_3 (w_room0 hB)) hS (w_room0 hB) (fun _ _ _ _ _ _ h => False.elim h) (fun r3 M1 H locs hp hM hS => ?_)
  obtain ⟨a4, ea, hqa4⟩ := hp
  subst ea
  have hp := hqa4
  refine x_getAN X hC.1 hM (ci := 2) (C := RX3) (T := TX3) (N := 8) rfl in_X3 2 (by decide) q405 (fun _ h9 => h9) dX1_checkHouse_6 hp (fun a5 hp => ?_)
  obtain ⟨hrec, hp⟩ := hp
  refine x_call0I5 (vx_runF (hC.1.1.1 16 (RJ2, TJ2, 3) rfl).2 (C := "java/util/ArrayList") (As := []) (rest := [.int (0 : Int32), .int p1]) X (P_J2_size_ok (l := l) hl0 hp) (va_cwF 0 hts (lw_app (w_mem4 q1540 q496 q498 q153) (lw_meth q500)) rfl rfl rfl (wfw_13 hC.1) (by decide +kernel) ⟨Nat.le_of_ble_eq_true rfl, Nat.le_of_ble_eq_true rfl⟩) ⟨wPc.blind, w_recv hC.1 hM (ci := 16) (q := (RJ2, TJ2, 3)) rfl hrec, w_pre hC hM hS _⟩ rfl rfl hl.1 rfl (lv_room (Nat.le_of_ble_eq_true rfl)) dX1_checkHouse_9 (w_room0 hB)) hS (w_room0 hB) (fun _ _ _ _ _ _ h => False.elim h) (fun v8 M6 H locs hp hM hS => ?_)
  refine lv_iconst (v := 1) hx hb dX1_checkHouse_14 (by decide) ?_
  refine lv_isub hx hb dX1_checkHouse_15 ?_
  refine x_call0Z (vx_runS (As := [.int p1, .int (0 : Int32), .int (v8 - (1 : Int32))]) (rest := []) X (P_X1_inRange_ok (l := l) hl0 hp) (va_cwS 3 hts (lw_S q1012 q1013 q148 q1014) rfl rfl rfl (by decide +kernel) ⟨Nat.le_of_ble_eq_true rfl, Nat.le_of_ble_eq_true rfl⟩) ⟨wPc.blind, w_pre hC hM hS _⟩ rfl rfl hl.1 rfl (lv_room (Nat.le_of_ble_eq_true rfl)) dX1_checkHouse_16 (w_room0 hB)) hS (w_room0 hB) (fun _ _ _ _ _ _ h => False.elim h) (fun r11 M9 H locs hp hM hS => ?_)
  obtain ⟨c13, hc1, hp⟩ := hp
  refine x_callV (vx_runS (As := [.int (wb r11)]) (rest := []) X (P_X1_checkIndex_ok (l := l) hl0 hp) (va_cwS 1 hts (lw_S q2200 q2201 q148 q2202) rfl rfl rfl (by decide +kernel) ⟨Nat.le_of_ble_eq_true rfl, Nat.le_of_ble_eq_true rfl⟩) ⟨wPc.blind, w_pre hC hM hS _⟩ rfl rfl hl.1 rfl (lv_room (Nat.le_of_ble_eq_true rfl)) dX1_checkHouse_19 (w_room hB hc1)) hS hB hc1 (fun E ce q14 M15 H locs hp hM hS hB hcell hcv hcl => ?_) (fun M12 H locs hp hM hS hB => ?_)
  · obtain ⟨rfl, hp⟩ := hp
    exact x_out hlk (fun x h => (hnt x h).elim) hM hS (w_fin hB) hcell hcv hcl hp
  · exact x_vret X hr hlk hM hS (w_fin hB) dX1_checkHouse_22 ⟨rfl, hp⟩
def P_X1_checkArgument (G : wG) (p1 : Int32) (b : Nat) (M : wM) (Q : wM → Prop) (Xp : String → Nat → wM → Prop) : Prop :=
  oIf (p1 = 0) (7 ≤ b ∧ ∀ q : Nat, Xp "java/lang/IllegalArgumentException" q M) (Q M)
set_option maxHeartbeats 4000000 in
set_option maxRecDepth 100000 in
theorem P_X1_checkArgument_ok {l : Launch} (hl0 : l.stackTraces = false) {G : wG} {p1 : Int32} {b : Nat} {M : wM} {Q : wM → Prop} {Xp : String → Nat → wM → Prop} (hp : P_X1_checkArgument G p1 b M Q Xp) : wMet l yX1_checkArgument (ws_ yX1_checkArgument cX1_checkArgument 1 (none)) 12 400 G [.int p1] M b (wqV Q) Xp := by
  refine vx_ofW (cc := cX1_checkArgument) (maxL := 1) (ret := none) (by decide) rfl ?_
  intro p e s m args below meth c s₁ B hml hnt hv
  obtain ⟨rfl, hM, hK, hZ, hz⟩ := hv
  have hC : wC G s := ⟨hK, hZ, hz⟩
  have hx := B.exec
  have hb := B.bytes
  have hr := B.returns
  have hts := atoms_spec (ws := (ws_ yX1_checkArgument cX1_checkArgument 1 (none))) B.pre
  have hts : ∀ w ∈ lw_all, w.before _ s = true := fun w h => hts w (List.mem_cons_of_mem _ h)
  have hown : s.vm.findClass RX1 = some m.cls := findClass_of_methodNamed B.named
  have hlk := B.notSynchronized
  have X : CallFix p m c cX1_checkArgument 1 s ([.int p1] : List Value).toArray lw_all RX1 := ⟨hx, hb, hml, hown, hts⟩
  have hS : va_S (wA G) s.heap s.heap [] := va_S.rf
  have hl := lv_entry ([.int p1]) (n := 1) (Nat.le_of_ble_eq_true rfl)
  rw [lg_entry_eq]
  generalize (lg_sl ([.int p1]) ++ List.replicate (1 - (lg_sl ([.int p1])).length) Slot.unset).toArray = ls at hl ⊢
  have hl : lv_has ls 1 [(0, .int p1)] := hl
  have hB : 0 + b ≤ ((headSpec (ws_ yX1_checkArgument cX1_checkArgument 1 (none)) ({ frames := 12, cells := b, slots := b, locals := 400 })).room).cells ∧ 0 + b ≤ ((headSpec (ws_ yX1_checkArgument cX1_checkArgument 1 (none)) ({ frames := 12, cells := b, slots := b, locals := 400 })).room).slots := ⟨Nat.le_of_eq (Nat.zero_add b), Nat.le_of_eq (Nat.zero_add b)⟩
  refine lv_iload_n hx hb dX1_checkArgument_0 rfl (lv_at hl 0 rfl) ?_
  refine lv_if_ne (tgt := 12) hx hb dX1_checkArgument_1 (by decide) (fun hc => ?_) (fun hc => ?_)
  · have hp := oIf.f hp hc
    exact x_vret X hr hlk hM hS (w_fin hB) dX1_checkArgument_12 ⟨rfl, hp⟩
  · have hp := oIf.t hp hc
    exact x_throw0 X hC hl0 hM hS hB ⟨Nat.le_refl _, Nat.le_refl _⟩ (by decide +kernel) (by decide +kernel) q2328 q176 vg_X1_IllegalArgumentException (w_recat hts hC.1 vt_X1_IllegalArgumentException) (hl.1.trans hml.symm) dX1_checkArgument_4 dX1_checkArgument_7 dX1_checkArgument_8 dX1_checkArgument_11 (fun x h => (hnt x h).elim) (Nat.le_of_ble_eq_true rfl) (Nat.le_of_ble_eq_true rfl) hlk hp.1 hp.2
def P_X1_checkPlate (G : wG) (p1 : Int32) (b : Nat) (M : wM) (Q : wM → Prop) (Xp : String → Nat → wM → Prop) : Prop :=
  P_X1_inRange G p1 (1 : Int32) (9999 : Int32) M (fun r3 M1 => ∃ c5, c5 ≤ b ∧ P_X1_checkArgument G (wb r3) c5 M1 (fun M4 => Q M4) (fun E q6 M7 => (E = "java/lang/IllegalArgumentException" ∧ Xp E q6 M7)))
set_option maxHeartbeats 4000000 in
set_option maxRecDepth 100000 in
theorem P_X1_checkPlate_ok {l : Launch} (hl0 : l.stackTraces = false) {G : wG} {p1 : Int32} {b : Nat} {M : wM} {Q : wM → Prop} {Xp : String → Nat → wM → Prop} (hp : P_X1_checkPlate G p1 b M Q Xp) : wMet l yX1_checkPlate (ws_ yX1_checkPlate cX1_checkPlate 1 (none)) 13 422 G [.int p1] M b (wqV Q) Xp := by
  refine vx_ofW (cc := cX1_checkPlate) (maxL := 1) (ret := none) (by decide) rfl ?_
  intro p e s m args below meth c s₁ B hml hnt hv
  obtain ⟨rfl, hM, hK, hZ, hz⟩ := hv
  have hC : wC G s := ⟨hK, hZ, hz⟩
  have hx := B.exec
  have hb := B.bytes
  have hr := B.returns
  have hts := atoms_spec (ws := (ws_ yX1_checkPlate cX1_checkPlate 1 (none))) B.pre
  have hts : ∀ w ∈ lw_all, w.before _ s = true := fun w h => hts w (List.mem_cons_of_mem _ h)
  have hown : s.vm.findClass RX1 = some m.cls := findClass_of_methodNamed B.named
  have hlk := B.notSynchronized
  have X : CallFix p m c cX1_checkPlate 1 s ([.int p1] : List Value).toArray lw_all RX1 := ⟨hx, hb, hml, hown, hts⟩
  have hS : va_S (wA G) s.heap s.heap [] := va_S.rf
  have hl := lv_entry ([.int p1]) (n := 1) (Nat.le_of_ble_eq_true rfl)
  rw [lg_entry_eq]
  generalize (lg_sl ([.int p1]) ++ List.replicate (1 - (lg_sl ([.int p1])).length) Slot.unset).toArray = ls at hl ⊢
  have hl : lv_has ls 1 [(0, .int p1)] := hl
  have hB : 0 + b ≤ ((headSpec (ws_ yX1_checkPlate cX1_checkPlate 1 (none)) ({ frames := 13, cells := b, slots := b, locals := 422 })).room).cells ∧ 0 + b ≤ ((headSpec (ws_ yX1_checkPlate cX1_checkPlate 1 (none)) ({ frames := 13, cells := b, slots := b, locals := 422 })).room).slots := ⟨Nat.le_of_eq (Nat.zero_add b), Nat.le_of_eq (Nat.zero_add b)⟩
  refine lv_iload_n hx hb dX1_checkPlate_0 rfl (lv_at hl 0 rfl) ?_
  refine lv_iconst (v := 1) hx hb dX1_checkPlate_1 (by decide) ?_
  refine lv_sipush (v := 9999) hx hb dX1_checkPlate_2 (by decide) ?_
  refine x_call0Z (vx_runS (As := [.int p1, .int (1 : Int32), .int (9999 : Int32)]) (rest := []) X (P_X1_inRange_ok (l := l) hl0 hp) (va_cwS 3 hts (lw_S q1012 q1013 q148 q1014) rfl rfl rfl (by decide +kernel) ⟨Nat.le_of_ble_eq_true rfl, Nat.le_of_ble_eq_true rfl⟩) ⟨wPc.blind, w_pre hC hM hS _⟩ rfl rfl hl.1 rfl (lv_room (Nat.le_of_ble_eq_true rfl)) dX1_checkPlate_5 (w_room0 hB)) hS (w_room0 hB) (fun _ _ _ _ _ _ h => False.elim h) (fun r3 M1 H locs hp hM hS => ?_)
  obtain ⟨c5, hc1, hp⟩ := hp
  refine x_callV (vx_runS (As := [.int (wb r3)]) (rest := []) X (P_X1_checkArgument_ok (l := l) hl0 hp) (va_cwS 1 hts (lw_S q2325 q2326 q148 q2327) rfl rfl rfl (by decide +kernel) ⟨Nat.le_of_ble_eq_true rfl, Nat.le_of_ble_eq_true rfl⟩) ⟨wPc.blind, w_pre hC hM hS _⟩ rfl rfl hl.1 rfl (lv_room (Nat.le_of_ble_eq_true rfl)) dX1_checkPlate_8 (w_room hB hc1)) hS hB hc1 (fun E ce q6 M7 H locs hp hM hS hB hcell hcv hcl => ?_) (fun M4 H locs hp hM hS hB => ?_)
  · obtain ⟨rfl, hp⟩ := hp
    exact x_out hlk (fun x h => (hnt x h).elim) hM hS (w_fin hB) hcell hcv hcl hp
  · exact x_vret X hr hlk hM hS (w_fin hB) dX1_checkPlate_11 ⟨rfl, hp⟩
def P_X1_checkHours (G : wG) (p1 : Int32) (b : Nat) (M : wM) (Q : wM → Prop) (Xp : String → Nat → wM → Prop) : Prop :=
  P_X1_inRange G p1 (1 : Int32) (24 : Int32) M (fun r3 M1 => ∃ c5, c5 ≤ b ∧ P_X1_checkArgument G (wb r3) c5 M1 (fun M4 => Q M4) (fun E q6 M7 => (E = "java/lang/IllegalArgumentException" ∧ Xp E q6 M7)))
set_option maxHeartbeats 4000000 in
set_option maxRecDepth 100000 in
theorem P_X1_checkHours_ok {l : Launch} (hl0 : l.stackTraces = false) {G : wG} {p1 : Int32} {b : Nat} {M : wM} {Q : wM → Prop} {Xp : String → Nat → wM → Prop} (hp : P_X1_checkHours G p1 b M Q Xp) : wMet l yX1_checkHours (ws_ yX1_checkHours cX1_checkHours 1 (none)) 13 422 G [.int p1] M b (wqV Q) Xp := by
  refine vx_ofW (cc := cX1_checkHours) (maxL := 1) (ret := none) (by decide) rfl ?_
  intro p e s m args below meth c s₁ B hml hnt hv
  obtain ⟨rfl, hM, hK, hZ, hz⟩ := hv
  have hC : wC G s := ⟨hK, hZ, hz⟩
  have hx := B.exec
  have hb := B.bytes
  have hr := B.returns
  have hts := atoms_spec (ws := (ws_ yX1_checkHours cX1_checkHours 1 (none))) B.pre
  have hts : ∀ w ∈ lw_all, w.before _ s = true := fun w h => hts w (List.mem_cons_of_mem _ h)
  have hown : s.vm.findClass RX1 = some m.cls := findClass_of_methodNamed B.named
  have hlk := B.notSynchronized
  have X : CallFix p m c cX1_checkHours 1 s ([.int p1] : List Value).toArray lw_all RX1 := ⟨hx, hb, hml, hown, hts⟩
  have hS : va_S (wA G) s.heap s.heap [] := va_S.rf
  have hl := lv_entry ([.int p1]) (n := 1) (Nat.le_of_ble_eq_true rfl)
  rw [lg_entry_eq]
  generalize (lg_sl ([.int p1]) ++ List.replicate (1 - (lg_sl ([.int p1])).length) Slot.unset).toArray = ls at hl ⊢
  have hl : lv_has ls 1 [(0, .int p1)] := hl
  have hB : 0 + b ≤ ((headSpec (ws_ yX1_checkHours cX1_checkHours 1 (none)) ({ frames := 13, cells := b, slots := b, locals := 422 })).room).cells ∧ 0 + b ≤ ((headSpec (ws_ yX1_checkHours cX1_checkHours 1 (none)) ({ frames := 13, cells := b, slots := b, locals := 422 })).room).slots := ⟨Nat.le_of_eq (Nat.zero_add b), Nat.le_of_eq (Nat.zero_add b)⟩
  refine lv_iload_n hx hb dX1_checkHours_0 rfl (lv_at hl 0 rfl) ?_
  refine lv_iconst (v := 1) hx hb dX1_checkHours_1 (by decide) ?_
  refine lv_bipush (v := 24) hx hb dX1_checkHours_2 (by decide) ?_
  refine x_call0Z (vx_runS (As := [.int p1, .int (1 : Int32), .int (24 : Int32)]) (rest := []) X (P_X1_inRange_ok (l := l) hl0 hp) (va_cwS 3 hts (lw_S q1012 q1013 q148 q1014) rfl rfl rfl (by decide +kernel) ⟨Nat.le_of_ble_eq_true rfl, Nat.le_of_ble_eq_true rfl⟩) ⟨wPc.blind, w_pre hC hM hS _⟩ rfl rfl hl.1 rfl (lv_room (Nat.le_of_ble_eq_true rfl)) dX1_checkHours_4 (w_room0 hB)) hS (w_room0 hB) (fun _ _ _ _ _ _ h => False.elim h) (fun r3 M1 H locs hp hM hS => ?_)
  obtain ⟨c5, hc1, hp⟩ := hp
  refine x_callV (vx_runS (As := [.int (wb r3)]) (rest := []) X (P_X1_checkArgument_ok (l := l) hl0 hp) (va_cwS 1 hts (lw_S q2325 q2326 q148 q2327) rfl rfl rfl (by decide +kernel) ⟨Nat.le_of_ble_eq_true rfl, Nat.le_of_ble_eq_true rfl⟩) ⟨wPc.blind, w_pre hC hM hS _⟩ rfl rfl hl.1 rfl (lv_room (Nat.le_of_ble_eq_true rfl)) dX1_checkHours_7 (w_room hB hc1)) hS hB hc1 (fun E ce q6 M7 H locs hp hM hS hB hcell hcv hcl => ?_) (fun M4 H locs hp hM hS hB => ?_)
  · obtain ⟨rfl, hp⟩ := hp
    exact x_out hlk (fun x h => (hnt x h).elim) hM hS (w_fin hB) hcell hcv hcl hp
  · exact x_vret X hr hlk hM hS (w_fin hB) dX1_checkHours_10 ⟨rfl, hp⟩
def B_J13_init_3_X15_60 (G : wG) (Q : wM → Prop) (M : wM) : Prop :=
  Q M
def B_J13_init_3_X15_41 (G : wG) (Q : wM → Prop) (x0 : Nat) (x1 : Option Nat) (x2 : Option Nat) (x3 : Int32) (M : wM) : Prop :=
  oPut G M x0 11 3 (va_rf x1) (fun M1 => oPut G M1 x0 11 0 (va_rf x2) (fun M2 => oIf (x3 = 0) (oPut G M2 x0 11 2 (va_rf none) (fun M3 => B_J13_init_3_X15_60 G Q M3)) (B_J13_init_3_X15_60 G Q M2)))
def P_J13_init_3_X15 (G : wG) (t0 : Nat) (p1 : Option Nat) (p2 : Option Nat) (p3 : Int32) (p4 : Int32) (M : wM) (Q : wM → Prop) : Prop :=
  oPut G M t0 11 0 (.ref t0) (fun M1 => ∀ r2 : Option Nat, (oPut G M1 t0 11 1 (va_rf r2) (fun M3 => ∀ r4 : Option Nat, (oPut G M3 t0 11 2 (va_rf r4) (fun M5 => oIf (p4 = 0) (oPut G M5 t0 11 1 (va_rf none) (fun M6 => B_J13_init_3_X15_41 G Q t0 p1 p2 p3 M6)) (False))))))
set_option maxHeartbeats 4000000 in
set_option maxRecDepth 100000 in
theorem P_J13_init_3_X15_ok {l : Launch} (hl0 : l.stackTraces = false) {G : wG} {t0 : Nat} {p1 : Option Nat} {p2 : Option Nat} {p3 : Int32} {p4 : Int32} {M : wM} {Q : wM → Prop} (hp : P_J13_init_3_X15 G t0 p1 p2 p3 p4 M Q) : wMet l yJ13_init_3 (ws_ yJ13_init_3 cJ13_init_3 5 (none)) 12 400 G [.ref t0, va_rf p1, va_rf p2, .int p3, .int p4] M 0 (wqV Q) wX0 := by
  refine vx_ofW (cc := cJ13_init_3) (maxL := 5) (ret := none) (by decide) rfl ?_
  intro p e s m args below meth c s₁ B hml hnt hv
  obtain ⟨rfl, hM, hK, hZ, hz⟩ := hv
  have hC : wC G s := ⟨hK, hZ, hz⟩
  have hx := B.exec
  have hb := B.bytes
  have hr := B.returns
  have hts := atoms_spec (ws := (ws_ yJ13_init_3 cJ13_init_3 5 (none))) B.pre
  have hts : ∀ w ∈ lw_all, w.before _ s = true := fun w h => hts w (List.mem_cons_of_mem _ h)
  have hown : s.vm.findClass RJ13 = some m.cls := findClass_of_methodNamed B.named
  have hlk := B.notSynchronized
  have hin0 : meth.name = "<init>" := (name_of_methodNamed B.named B.method).1
  have X : CallFix p m c cJ13_init_3 5 s ([.ref t0, va_rf p1, va_rf p2, .int p3, .int p4] : List Value).toArray lw_all RJ13 := ⟨hx, hb, hml, hown, hts⟩
  have hS : va_S (wA G) s.heap s.heap [] := va_S.rf
  have hl := lv_entry ([.ref t0, va_rf p1, va_rf p2, .int p3, .int p4]) (n := 5) (by cases p1 <;> cases p2 <;> exact Nat.le_of_ble_eq_true rfl)
  rw [lg_entry_eq]
  generalize (lg_sl ([.ref t0, va_rf p1, va_rf p2, .int p3, .int p4]) ++ List.replicate (5 - (lg_sl ([.ref t0, va_rf p1, va_rf p2, .int p3, .int p4])).length) Slot.unset).toArray = ls at hl ⊢
  have hl : lv_has ls 5 [(0, .ref t0), (1, va_rf p1), (2, va_rf p2), (3, .int p3), (4, .int p4)] := by cases p1 <;> cases p2 <;> exact hl
  have hB60 : ∀ (M : wM) (H : Heap) (locs : List Loc) (ls : Array Slot), B_J13_init_3_X15_60 G Q M → wR G M H → va_S (wA G) s.heap H locs → lv_has ls 5 [] → W p l e (headSpec (ws_ yJ13_init_3 cJ13_init_3 5 (none)) ({ frames := 12, cells := 0, slots := 0, locals := 400 })).room s m ([.ref t0, va_rf p1, va_rf p2, .int p3, .int p4] : List Value).toArray below meth c H locs 0 0 (vx_MQ below (wQ G (wqV Q)) (wXC G wX0) ([.ref t0, va_rf p1, va_rf p2, .int p3, .int p4] : List Value).toArray s 0 0 (wA G)) (F0 m 60 ls []) := by
    intro M H locs ls hp hM hS hl
    exact x_vret X hr hlk hM hS ⟨Nat.le_refl _, Nat.le_refl _⟩ dJ13_init_3_60 ⟨rfl, hp⟩
  have hB41 : ∀ (x0 : Nat) (x1 : Option Nat) (x2 : Option Nat) (x3 : Int32) (M : wM) (H : Heap) (locs : List Loc) (ls : Array Slot), B_J13_init_3_X15_41 G Q x0 x1 x2 x3 M → wR G M H → va_S (wA G) s.heap H locs → lv_has ls 5 [(0, .ref x0), (1, va_rf x1), (2, va_rf x2), (3, .int x3)] → W p l e (headSpec (ws_ yJ13_init_3 cJ13_init_3 5 (none)) ({ frames := 12, cells := 0, slots := 0, locals := 400 })).room s m ([.ref t0, va_rf p1, va_rf p2, .int p3, .int p4] : List Value).toArray below meth c H locs 0 0 (vx_MQ below (wQ G (wqV Q)) (wXC G wX0) ([.ref t0, va_rf p1, va_rf p2, .int p3, .int p4] : List Value).toArray s 0 0 (wA G)) (F0 m 41 ls []) := by
    intro x0 x1 x2 x3 M H locs ls hp hM hS hl
    refine lv_aload_n hx hb dJ13_init_3_41 rfl (lv_at hl 0 rfl) ?_
    refine x_aload_n (r := x1) hx hb dJ13_init_3_42 rfl (lv_at hl 1 rfl) ?_
    refine x_put X hC.1 hM hS (ci := 11) (C := RX15) (T := TX15) (N := 6) rfl in_X15 tyX15 tyX15_ok nmX15 3 (by decide) q832 (fun _ h9 => h9) rfl (w_nobj _ x1) (w_fobj _ x1) dJ13_init_3_43 hp (fun M1 H locs hM hS hp => ?_)
    refine lv_aload_n hx hb dJ13_init_3_46 rfl (lv_at hl 0 rfl) ?_
    refine x_aload_n (r := x2) hx hb dJ13_init_3_47 rfl (lv_at hl 2 rfl) ?_
    refine x_put X hC.1 hM hS (ci := 11) (C := RX15) (T := TX15) (N := 6) rfl in_X15 tyX15 tyX15_ok nmX15 0 (by decide) q833 (fun _ h9 => h9) rfl (w_nobj _ x2) (w_fobj _ x2) dJ13_init_3_48 hp (fun M2 H locs hM hS hp => ?_)
    refine lv_iload_n hx hb dJ13_init_3_51 rfl (lv_at hl 3 rfl) ?_
    refine lv_if_ne (tgt := 60) hx hb dJ13_init_3_52 (by decide) (fun hc => ?_) (fun hc => ?_)
    · have hp := oIf.f hp hc
      exact hB60 _ _ _ _ hp hM hS (lv_sub hl [] rfl)
    · have hp := oIf.t hp hc
      refine lv_aload_n hx hb dJ13_init_3_55 rfl (lv_at hl 0 rfl) ?_
      refine lv_null hx hb dJ13_init_3_56 ?_
      refine x_put X hC.1 hM hS (ci := 11) (C := RX15) (T := TX15) (N := 6) rfl in_X15 tyX15 tyX15_ok nmX15 2 (by decide) q835 (fun _ h9 => h9) rfl (w_nobj _ none) (w_fobj _ none) dJ13_init_3_57 hp (fun M3 H locs hM hS hp => ?_)
      exact hB60 _ _ _ _ hp hM hS (lv_sub hl [] rfl)
  refine lv_aload_n hx hb dJ13_init_3_0 rfl (lv_at hl 0 rfl) ?_
  refine W.objInit hx hb hown (hts _ q573) (hts _ q218) (hts _ q219) rfl (by rw [hml]; exact hl.1) rfl dJ13_init_3_1 (Nat.le_of_ble_eq_true rfl) (Nat.le_of_ble_eq_true rfl) ?_
  refine W.eq (g2 := F0 m 4 ls []) rfl ?_
  refine lv_aload_n hx hb dJ13_init_3_4 rfl (lv_at hl 0 rfl) ?_
  refine lv_aload_n hx hb dJ13_init_3_5 rfl (lv_at hl 0 rfl) ?_
  refine x_put X hC.1 hM hS (ci := 11) (C := RX15) (T := TX15) (N := 6) rfl in_X15 tyX15 tyX15_ok nmX15 0 (by decide) q833 (fun _ h9 => h9) rfl rfl rfl dJ13_init_3_6 hp (fun M1 H locs hM hS hp => ?_)
  refine lv_aload_n hx hb dJ13_init_3_9 rfl (lv_at hl 0 rfl) ?_
  refine x_getsQ X hS hC.2.1.2.2.1.1 q574 (fun _ h9 => h9) dJ13_init_3_10 (fun r2 => ?_)
  have hp := hp r2
  refine x_put X hC.1 hM hS (ci := 11) (C := RX15) (T := TX15) (N := 6) rfl in_X15 tyX15 tyX15_ok nmX15 1 (by decide) q834 (fun _ h9 => h9) rfl (w_narr _ r2) (w_farr _ r2) dJ13_init_3_13 hp (fun M3 H locs hM hS hp => ?_)
  refine lv_aload_n hx hb dJ13_init_3_16 rfl (lv_at hl 0 rfl) ?_
  refine x_getsQ X hS hC.2.1.2.2.2.1 q576 (fun _ h9 => h9) dJ13_init_3_17 (fun r4 => ?_)
  have hp := hp r4
  refine x_put X hC.1 hM hS (ci := 11) (C := RX15) (T := TX15) (N := 6) rfl in_X15 tyX15 tyX15_ok nmX15 2 (by decide) q835 (fun _ h9 => h9) rfl (w_nobj _ r4) (w_fobj _ r4) dJ13_init_3_20 hp (fun M5 H locs hM hS hp => ?_)
  refine lv_iload hx hb dJ13_init_3_23 (lv_at hl 4 rfl) ?_
  refine lv_if_eq (tgt := 36) hx hb dJ13_init_3_25 (by decide) (fun hc => ?_) (fun hc => ?_)
  · have hp := oIf.t hp hc
    refine lv_aload_n hx hb dJ13_init_3_36 rfl (lv_at hl 0 rfl) ?_
    refine lv_null hx hb dJ13_init_3_37 ?_
    refine x_put X hC.1 hM hS (ci := 11) (C := RX15) (T := TX15) (N := 6) rfl in_X15 tyX15 tyX15_ok nmX15 1 (by decide) q834 (fun _ h9 => h9) rfl (w_narr _ none) (w_farr _ none) dJ13_init_3_38 hp (fun M6 H locs hM hS hp => ?_)
    exact hB41 _ _ _ _ _ _ _ _ hp hM hS (lv_sub hl [0, 1, 2, 3] rfl)
  · have hp := oIf.f hp hc
    exact hp.elim
def P_J14_init_2_X15 (G : wG) (t0 : Nat) (p1 : Option Nat) (p2 : Option Nat) (p3 : Int32) (p4 : Int32) (M : wM) (Q : wM → Prop) : Prop :=
  P_J13_init_3_X15 G t0 p1 p2 p3 p4 M (fun M1 => Q M1)
set_option maxHeartbeats 4000000 in
set_option maxRecDepth 100000 in
theorem P_J14_init_2_X15_ok {l : Launch} (hl0 : l.stackTraces = false) {G : wG} {t0 : Nat} {p1 : Option Nat} {p2 : Option Nat} {p3 : Int32} {p4 : Int32} {M : wM} {Q : wM → Prop} (hp : P_J14_init_2_X15 G t0 p1 p2 p3 p4 M Q) : wMet l yJ14_init_2 (ws_ yJ14_init_2 cJ14_init_2 5 (none)) 13 424 G [.ref t0, va_rf p1, va_rf p2, .int p3, .int p4] M 0 (wqV Q) wX0 := by
  refine vx_ofW (cc := cJ14_init_2) (maxL := 5) (ret := none) (by decide) rfl ?_
  intro p e s m args below meth c s₁ B hml hnt hv
  obtain ⟨rfl, hM, hK, hZ, hz⟩ := hv
  have hC : wC G s := ⟨hK, hZ, hz⟩
  have hx := B.exec
  have hb := B.bytes
  have hr := B.returns
  have hts := atoms_spec (ws := (ws_ yJ14_init_2 cJ14_init_2 5 (none))) B.pre
  have hts : ∀ w ∈ lw_all, w.before _ s = true := fun w h => hts w (List.mem_cons_of_mem _ h)
  have hown : s.vm.findClass RJ14 = some m.cls := findClass_of_methodNamed B.named
  have hlk := B.notSynchronized
  have hin0 : meth.name = "<init>" := (name_of_methodNamed B.named B.method).1
  have X : CallFix p m c cJ14_init_2 5 s ([.ref t0, va_rf p1, va_rf p2, .int p3, .int p4] : List Value).toArray lw_all RJ14 := ⟨hx, hb, hml, hown, hts⟩
  have hS : va_S (wA G) s.heap s.heap [] := va_S.rf
  have hl := lv_entry ([.ref t0, va_rf p1, va_rf p2, .int p3, .int p4]) (n := 5) (by cases p1 <;> cases p2 <;> exact Nat.le_of_ble_eq_true rfl)
  rw [lg_entry_eq]
  generalize (lg_sl ([.ref t0, va_rf p1, va_rf p2, .int p3, .int p4]) ++ List.replicate (5 - (lg_sl ([.ref t0, va_rf p1, va_rf p2, .int p3, .int p4])).length) Slot.unset).toArray = ls at hl ⊢
  have hl : lv_has ls 5 [(0, .ref t0), (1, va_rf p1), (2, va_rf p2), (3, .int p3), (4, .int p4)] := by cases p1 <;> cases p2 <;> exact hl
  refine lv_aload_n hx hb dJ14_init_2_0 rfl (lv_at hl 0 rfl) ?_
  refine x_aload_n (r := p1) hx hb dJ14_init_2_1 rfl (lv_at hl 1 rfl) ?_
  refine x_aload_n (r := p2) hx hb dJ14_init_2_2 rfl (lv_at hl 2 rfl) ?_
  refine lv_iload_n hx hb dJ14_init_2_3 rfl (lv_at hl 3 rfl) ?_
  refine lv_iload hx hb dJ14_init_2_4 (lv_at hl 4 rfl) ?_
  refine x_call0V (vx_runI (As := [va_rf p1, va_rf p2, .int p3, .int p4]) (rest := []) X (P_J13_init_3_X15_ok (l := l) hl0 hp) (cwI 4 hts (lw_meth q1261) rfl rfl rfl (hts _ q165) (hts _ q1259) (hts _ q1260) rfl (by decide +kernel) ⟨Nat.le_of_ble_eq_true rfl, Nat.le_of_ble_eq_true rfl⟩) ⟨wPc.blind, w_pre hC hM hS _⟩ rfl rfl hl.1 rfl (lv_room (Nat.le_of_ble_eq_true rfl)) dJ14_init_2_6 ⟨Nat.le_refl _, Nat.le_refl _⟩) hS ⟨Nat.le_refl _, Nat.le_refl _⟩ (fun _ _ _ _ _ _ h => False.elim h) (fun M1 H locs hp hM hS => ?_)
  exact x_vret X hr hlk hM hS ⟨Nat.le_refl _, Nat.le_refl _⟩ dJ14_init_2_9 ⟨rfl, hp⟩
def P_X14_init_X15 (G : wG) (t0 : Nat) (p1 : Option Nat) (M : wM) (Q : wM → Prop) : Prop :=
  P_J14_init_2_X15 G t0 none p1 (0 : Int32) (0 : Int32) M (fun M1 => Q M1)
set_option maxHeartbeats 4000000 in
set_option maxRecDepth 100000 in
theorem P_X14_init_X15_ok {l : Launch} (hl0 : l.stackTraces = false) {G : wG} {t0 : Nat} {p1 : Option Nat} {M : wM} {Q : wM → Prop} (hp : P_X14_init_X15 G t0 p1 M Q) : wMet l yX14_init (ws_ yX14_init cX14_init 2 (none)) 14 448 G [.ref t0, va_rf p1] M 0 (wqV Q) wX0 := by
  refine vx_ofW (cc := cX14_init) (maxL := 2) (ret := none) (by decide) rfl ?_
  intro p e s m args below meth c s₁ B hml hnt hv
  obtain ⟨rfl, hM, hK, hZ, hz⟩ := hv
  have hC : wC G s := ⟨hK, hZ, hz⟩
  have hx := B.exec
  have hb := B.bytes
  have hr := B.returns
  have hts := atoms_spec (ws := (ws_ yX14_init cX14_init 2 (none))) B.pre
  have hts : ∀ w ∈ lw_all, w.before _ s = true := fun w h => hts w (List.mem_cons_of_mem _ h)
  have hown : s.vm.findClass RX14 = some m.cls := findClass_of_methodNamed B.named
  have hlk := B.notSynchronized
  have hin0 : meth.name = "<init>" := (name_of_methodNamed B.named B.method).1
  have X : CallFix p m c cX14_init 2 s ([.ref t0, va_rf p1] : List Value).toArray lw_all RX14 := ⟨hx, hb, hml, hown, hts⟩
  have hS : va_S (wA G) s.heap s.heap [] := va_S.rf
  have hl := lv_entry ([.ref t0, va_rf p1]) (n := 2) (by cases p1 <;> exact Nat.le_of_ble_eq_true rfl)
  rw [lg_entry_eq]
  generalize (lg_sl ([.ref t0, va_rf p1]) ++ List.replicate (2 - (lg_sl ([.ref t0, va_rf p1])).length) Slot.unset).toArray = ls at hl ⊢
  have hl : lv_has ls 2 [(0, .ref t0), (1, va_rf p1)] := by cases p1 <;> exact hl
  refine lv_aload_n hx hb dX14_init_0 rfl (lv_at hl 0 rfl) ?_
  refine lv_null hx hb dX14_init_1 ?_
  refine x_aload_n (r := p1) hx hb dX14_init_2 rfl (lv_at hl 1 rfl) ?_
  refine lv_iconst (v := 0) hx hb dX14_init_3 (by decide) ?_
  refine lv_iconst (v := 0) hx hb dX14_init_4 (by decide) ?_
  refine x_call0V (vx_runI (As := [va_rf none, va_rf p1, .int (0 : Int32), .int (0 : Int32)]) (rest := []) X (P_J14_init_2_X15_ok (l := l) hl0 hp) (cwI 4 hts (lw_meth q1258) rfl rfl rfl (hts _ q166) (hts _ q2654) (hts _ q1257) rfl (by decide +kernel) ⟨Nat.le_of_ble_eq_true rfl, Nat.le_of_ble_eq_true rfl⟩) ⟨wPc.blind, w_pre hC hM hS _⟩ rfl rfl hl.1 rfl (lv_room (Nat.le_of_ble_eq_true rfl)) dX14_init_5 ⟨Nat.le_refl _, Nat.le_refl _⟩) hS ⟨Nat.le_refl _, Nat.le_refl _⟩ (fun _ _ _ _ _ _ h => False.elim h) (fun M1 H locs hp hM hS => ?_)
  exact x_vret X hr hlk hM hS ⟨Nat.le_refl _, Nat.le_refl _⟩ dX14_init_8 ⟨rfl, hp⟩
def P_X15_init (G : wG) (t0 : Nat) (M : wM) (Q : wM → Prop) : Prop :=
  P_X14_init_X15 G t0 none M (fun M1 => Q M1)
set_option maxHeartbeats 4000000 in
set_option maxRecDepth 100000 in
theorem P_X15_init_ok {l : Launch} (hl0 : l.stackTraces = false) {G : wG} {t0 : Nat} {M : wM} {Q : wM → Prop} (hp : P_X15_init G t0 M Q) : wMet l yX15_init (ws_ yX15_init cX15_init 1 (none)) 15 469 G [.ref t0] M 0 (wqV Q) wX0 := by
  refine vx_ofW (cc := cX15_init) (maxL := 1) (ret := none) (by decide) rfl ?_
  intro p e s m args below meth c s₁ B hml hnt hv
  obtain ⟨rfl, hM, hK, hZ, hz⟩ := hv
  have hC : wC G s := ⟨hK, hZ, hz⟩
  have hx := B.exec
  have hb := B.bytes
  have hr := B.returns
  have hts := atoms_spec (ws := (ws_ yX15_init cX15_init 1 (none))) B.pre
  have hts : ∀ w ∈ lw_all, w.before _ s = true := fun w h => hts w (List.mem_cons_of_mem _ h)
  have hown : s.vm.findClass RX15 = some m.cls := findClass_of_methodNamed B.named
  have hlk := B.notSynchronized
  have hin0 : meth.name = "<init>" := (name_of_methodNamed B.named B.method).1
  have X : CallFix p m c cX15_init 1 s ([.ref t0] : List Value).toArray lw_all RX15 := ⟨hx, hb, hml, hown, hts⟩
  have hS : va_S (wA G) s.heap s.heap [] := va_S.rf
  have hl := lv_entry ([.ref t0]) (n := 1) (Nat.le_of_ble_eq_true rfl)
  rw [lg_entry_eq]
  generalize (lg_sl ([.ref t0]) ++ List.replicate (1 - (lg_sl ([.ref t0])).length) Slot.unset).toArray = ls at hl ⊢
  have hl : lv_has ls 1 [(0, .ref t0)] := hl
  refine lv_aload_n hx hb dX15_init_0 rfl (lv_at hl 0 rfl) ?_
  refine lv_null hx hb dX15_init_1 ?_
  refine x_call0V (vx_runI (As := [va_rf none]) (rest := []) X (P_X14_init_X15_ok (l := l) hl0 hp) (cwI 1 hts (lw_meth q2653) rfl rfl rfl (hts _ q204) (hts _ q2651) (hts _ q2652) rfl (by decide +kernel) ⟨Nat.le_of_ble_eq_true rfl, Nat.le_of_ble_eq_true rfl⟩) ⟨wPc.blind, w_pre hC hM hS _⟩ rfl rfl hl.1 rfl (lv_room (Nat.le_of_ble_eq_true rfl)) dX15_init_2 ⟨Nat.le_refl _, Nat.le_refl _⟩) hS ⟨Nat.le_refl _, Nat.le_refl _⟩ (fun _ _ _ _ _ _ h => False.elim h) (fun M1 H locs hp hM hS => ?_)
  exact x_vret X hr hlk hM hS ⟨Nat.le_refl _, Nat.le_refl _⟩ dX15_init_5 ⟨rfl, hp⟩
def P_X13_from (G : wG) (t0 : Nat) (M : wM) (Q : Int32 → wM → Prop) : Prop :=
  oGetI M t0 10 2 (fun v1 => Q v1 M)
set_option maxHeartbeats 4000000 in
set_option maxRecDepth 100000 in
theorem P_X13_from_ok {l : Launch} (hl0 : l.stackTraces = false) {G : wG} {t0 : Nat} {M : wM} {Q : Int32 → wM → Prop} (hp : P_X13_from G t0 M Q) : wMet l yX13_from (ws_ yX13_from cX13_from 1 (Option.some Jvm.ClassFile.FieldType.int)) 12 400 G [.ref t0] M 0 (wqI Q) wX0 := by
  refine vx_ofW (cc := cX13_from) (maxL := 1) (ret := Option.some Jvm.ClassFile.FieldType.int) (by decide) rfl ?_
  intro p e s m args below meth c s₁ B hml hnt hv
  obtain ⟨rfl, hM, hK, hZ, hz⟩ := hv
  have hC : wC G s := ⟨hK, hZ, hz⟩
  have hx := B.exec
  have hb := B.bytes
  have hr := B.returns
  have hts := atoms_spec (ws := (ws_ yX13_from cX13_from 1 (Option.some Jvm.ClassFile.FieldType.int))) B.pre
  have hts : ∀ w ∈ lw_all, w.before _ s = true := fun w h => hts w (List.mem_cons_of_mem _ h)
  have hown : s.vm.findClass RX13 = some m.cls := findClass_of_methodNamed B.named
  have hlk := B.notSynchronized
  have X : CallFix p m c cX13_from 1 s ([.ref t0] : List Value).toArray lw_all RX13 := ⟨hx, hb, hml, hown, hts⟩
  have hS : va_S (wA G) s.heap s.heap [] := va_S.rf
  have hl := lv_entry ([.ref t0]) (n := 1) (Nat.le_of_ble_eq_true rfl)
  rw [lg_entry_eq]
  generalize (lg_sl ([.ref t0]) ++ List.replicate (1 - (lg_sl ([.ref t0])).length) Slot.unset).toArray = ls at hl ⊢
  have hl : lv_has ls 1 [(0, .ref t0)] := hl
  refine lv_aload_n hx hb dX13_from_0 rfl (lv_at hl 0 rfl) ?_
  refine x_getI X hC.1 hM (ci := 10) (C := RX13) (T := TX13) (N := 4) rfl in_X13 2 (by decide) q2149 (fun _ h9 => h9) dX13_from_1 hp (fun v1 hp => ?_)
  exact x_iret X hr hlk hM hS ⟨Nat.le_refl _, Nat.le_refl _⟩ dX13_from_4 ⟨_, rfl, hp⟩
def P_X13_to (G : wG) (t0 : Nat) (M : wM) (Q : Int32 → wM → Prop) : Prop :=
  oGetI M t0 10 3 (fun v1 => Q v1 M)
set_option maxHeartbeats 4000000 in
set_option maxRecDepth 100000 in
theorem P_X13_to_ok {l : Launch} (hl0 : l.stackTraces = false) {G : wG} {t0 : Nat} {M : wM} {Q : Int32 → wM → Prop} (hp : P_X13_to G t0 M Q) : wMet l yX13_to (ws_ yX13_to cX13_to 1 (Option.some Jvm.ClassFile.FieldType.int)) 12 400 G [.ref t0] M 0 (wqI Q) wX0 := by
  refine vx_ofW (cc := cX13_to) (maxL := 1) (ret := Option.some Jvm.ClassFile.FieldType.int) (by decide) rfl ?_
  intro p e s m args below meth c s₁ B hml hnt hv
  obtain ⟨rfl, hM, hK, hZ, hz⟩ := hv
  have hC : wC G s := ⟨hK, hZ, hz⟩
  have hx := B.exec
  have hb := B.bytes
  have hr := B.returns
  have hts := atoms_spec (ws := (ws_ yX13_to cX13_to 1 (Option.some Jvm.ClassFile.FieldType.int))) B.pre
  have hts : ∀ w ∈ lw_all, w.before _ s = true := fun w h => hts w (List.mem_cons_of_mem _ h)
  have hown : s.vm.findClass RX13 = some m.cls := findClass_of_methodNamed B.named
  have hlk := B.notSynchronized
  have X : CallFix p m c cX13_to 1 s ([.ref t0] : List Value).toArray lw_all RX13 := ⟨hx, hb, hml, hown, hts⟩
  have hS : va_S (wA G) s.heap s.heap [] := va_S.rf
  have hl := lv_entry ([.ref t0]) (n := 1) (Nat.le_of_ble_eq_true rfl)
  rw [lg_entry_eq]
  generalize (lg_sl ([.ref t0]) ++ List.replicate (1 - (lg_sl ([.ref t0])).length) Slot.unset).toArray = ls at hl ⊢
  have hl : lv_has ls 1 [(0, .ref t0)] := hl
  refine lv_aload_n hx hb dX13_to_0 rfl (lv_at hl 0 rfl) ?_
  refine x_getI X hC.1 hM (ci := 10) (C := RX13) (T := TX13) (N := 4) rfl in_X13 3 (by decide) q2151 (fun _ h9 => h9) dX13_to_1 hp (fun v1 hp => ?_)
  exact x_iret X hr hlk hM hS ⟨Nat.le_refl _, Nat.le_refl _⟩ dX13_to_4 ⟨_, rfl, hp⟩
def B_X10_runs_X13_25 (G : wG) (Q : Bool → wM → Prop) (y0 : Int32) (M : wM) : Prop :=
  ∃ r : Bool, y0 = wb r ∧ Q r M
def B_X10_runs_X13_24 (G : wG) (Q : Bool → wM → Prop) (M : wM) : Prop :=
  B_X10_runs_X13_25 G Q (0 : Int32) M
def P_X10_runs_X13 (G : wG) (t0 : Nat) (p1 : Int32) (M : wM) (Q : Bool → wM → Prop) : Prop :=
  oIs M t0 10 (P_X13_from G t0 M (fun v3 M1 => oIf (p1 < v3) (B_X10_runs_X13_24 G Q M1) (oIs M1 t0 10 (P_X13_to G t0 M1 (fun v6 M4 => oIf (v6 ≤ p1) (B_X10_runs_X13_24 G Q M4) (B_X10_runs_X13_25 G Q (1 : Int32) M4))))))
set_option maxHeartbeats 4000000 in
set_option maxRecDepth 100000 in
theorem P_X10_runs_X13_ok {l : Launch} (hl0 : l.stackTraces = false) {G : wG} {t0 : Nat} {p1 : Int32} {M : wM} {Q : Bool → wM → Prop} (hp : P_X10_runs_X13 G t0 p1 M Q) : wMet l yX10_runs (ws_ yX10_runs cX10_runs 2 (Option.some Jvm.ClassFile.FieldType.boolean)) 13 420 G [.ref t0, .int p1] M 0 (wqZ Q) wX0 := by
  refine vx_ofW (cc := cX10_runs) (maxL := 2) (ret := Option.some Jvm.ClassFile.FieldType.boolean) (by decide) rfl ?_
  intro p e s m args below meth c s₁ B hml hnt hv
  obtain ⟨rfl, hM, hK, hZ, hz⟩ := hv
  have hC : wC G s := ⟨hK, hZ, hz⟩
  have hx := B.exec
  have hb := B.bytes
  have hr := B.returns
  have hts := atoms_spec (ws := (ws_ yX10_runs cX10_runs 2 (Option.some Jvm.ClassFile.FieldType.boolean))) B.pre
  have hts : ∀ w ∈ lw_all, w.before _ s = true := fun w h => hts w (List.mem_cons_of_mem _ h)
  have hown : s.vm.findClass RX10 = some m.cls := findClass_of_methodNamed B.named
  have hlk := B.notSynchronized
  have X : CallFix p m c cX10_runs 2 s ([.ref t0, .int p1] : List Value).toArray lw_all RX10 := ⟨hx, hb, hml, hown, hts⟩
  have hS : va_S (wA G) s.heap s.heap [] := va_S.rf
  have hl := lv_entry ([.ref t0, .int p1]) (n := 2) (Nat.le_of_ble_eq_true rfl)
  rw [lg_entry_eq]
  generalize (lg_sl ([.ref t0, .int p1]) ++ List.replicate (2 - (lg_sl ([.ref t0, .int p1])).length) Slot.unset).toArray = ls at hl ⊢
  have hl : lv_has ls 2 [(0, .ref t0), (1, .int p1)] := hl
  have hB25 : ∀ (y0 : Int32) (M : wM) (H : Heap) (locs : List Loc) (ls : Array Slot), B_X10_runs_X13_25 G Q y0 M → wR G M H → va_S (wA G) s.heap H locs → lv_has ls 2 [] → W p l e (headSpec (ws_ yX10_runs cX10_runs 2 (Option.some Jvm.ClassFile.FieldType.boolean)) ({ frames := 13, cells := 0, slots := 0, locals := 420 })).room s m ([.ref t0, .int p1] : List Value).toArray below meth c H locs 0 0 (vx_MQ below (wQ G (wqZ Q)) (wXC G wX0) ([.ref t0, .int p1] : List Value).toArray s 0 0 (wA G)) (F0 m 25 ls [.int y0]) := by
    intro y0 M H locs ls hp hM hS hl
    obtain ⟨r, hr0, hp⟩ := hp
    exact x_zret X hr hlk hM hS ⟨Nat.le_refl _, Nat.le_refl _⟩ (by rw [hr0]; exact w_nz _) dX10_runs_25 ⟨r, by rw [hr0], hp⟩
  have hB24 : ∀ (M : wM) (H : Heap) (locs : List Loc) (ls : Array Slot), B_X10_runs_X13_24 G Q M → wR G M H → va_S (wA G) s.heap H locs → lv_has ls 2 [] → W p l e (headSpec (ws_ yX10_runs cX10_runs 2 (Option.some Jvm.ClassFile.FieldType.boolean)) ({ frames := 13, cells := 0, slots := 0, locals := 420 })).room s m ([.ref t0, .int p1] : List Value).toArray below meth c H locs 0 0 (vx_MQ below (wQ G (wqZ Q)) (wXC G wX0) ([.ref t0, .int p1] : List Value).toArray s 0 0 (wA G)) (F0 m 24 ls []) := by
    intro M H locs ls hp hM hS hl
    refine lv_iconst (v := 0) hx hb dX10_runs_24 (by decide) ?_
    exact hB25 _ _ _ _ _ hp hM hS (lv_sub hl [] rfl)
  refine lv_aload_n hx hb dX10_runs_0 rfl (lv_at hl 0 rfl) ?_
  obtain ⟨hrec, hp⟩ := hp
  refine x_call0I5 (vx_runF (hC.1.1.1 10 (RX13, TX13, 4) rfl).2 (C := "ParkingOffice$Visit") (As := []) (rest := []) X (P_X13_from_ok (l := l) hl0 hp) (va_cwF 0 hts (lw_app (w_mem4 q2282 q2286 q2288 q203) (lw_meth q2290)) rfl rfl rfl (wfw_0 hC.1) (by decide +kernel) ⟨Nat.le_of_ble_eq_true rfl, Nat.le_of_ble_eq_true rfl⟩) ⟨wPc.blind, w_recv hC.1 hM (ci := 10) (q := (RX13, TX13, 4)) rfl hrec, w_pre hC hM hS _⟩ rfl rfl hl.1 rfl (lv_room (Nat.le_of_ble_eq_true rfl)) dX10_runs_1 ⟨Nat.le_refl _, Nat.le_refl _⟩) hS ⟨Nat.le_refl _, Nat.le_refl _⟩ (fun _ _ _ _ _ _ h => False.elim h) (fun v3 M1 H locs hp hM hS => ?_)
  refine lv_iload_n hx hb dX10_runs_6 rfl (lv_at hl 1 rfl) ?_
  refine lv_icmp_gt (tgt := 24) hx hb dX10_runs_7 (by decide) (fun hc => ?_) (fun hc => ?_)
  · have hp := oIf.t hp hc
    exact hB24 _ _ _ _ hp hM hS (lv_sub hl [] rfl)
  · have hp := oIf.f hp hc
    refine lv_iload_n hx hb dX10_runs_10 rfl (lv_at hl 1 rfl) ?_
    refine lv_aload_n hx hb dX10_runs_11 rfl (lv_at hl 0 rfl) ?_
    obtain ⟨hrec, hp⟩ := hp
    refine x_call0I5 (vx_runF (hC.1.1.1 10 (RX13, TX13, 4) rfl).2 (C := "ParkingOffice$Visit") (As := []) (rest := [.int p1]) X (P_X13_to_ok (l := l) hl0 hp) (va_cwF 0 hts (lw_app (w_mem4 q2301 q2304 q2306 q203) (lw_meth q2308)) rfl rfl rfl (wfw_1 hC.1) (by decide +kernel) ⟨Nat.le_of_ble_eq_true rfl, Nat.le_of_ble_eq_true rfl⟩) ⟨wPc.blind, w_recv hC.1 hM (ci := 10) (q := (RX13, TX13, 4)) rfl hrec, w_pre hC hM hS _⟩ rfl rfl hl.1 rfl (lv_room (Nat.le_of_ble_eq_true rfl)) dX10_runs_12 ⟨Nat.le_refl _, Nat.le_refl _⟩) hS ⟨Nat.le_refl _, Nat.le_refl _⟩ (fun _ _ _ _ _ _ h => False.elim h) (fun v6 M4 H locs hp hM hS => ?_)
    refine lv_icmp_ge (tgt := 24) hx hb dX10_runs_17 (by decide) (fun hc => ?_) (fun hc => ?_)
    · have hp := oIf.t hp hc
      exact hB24 _ _ _ _ hp hM hS (lv_sub hl [] rfl)
    · have hp := oIf.f hp hc
      refine lv_iconst (v := 1) hx hb dX10_runs_20 (by decide) ?_
      refine lv_goto (tgt := 25) hx hb dX10_runs_21 (by decide) ?_
      exact hB25 _ _ _ _ _ hp hM hS (lv_sub hl [] rfl)
