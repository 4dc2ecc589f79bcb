set_option maxRecDepth 100000
theorem zk_zd0 {B : Nat → Nat → Nat} {u : zk_St} {q c len : Nat} : zk_K (zk_new u q c len) q = (c, len) := by rw [zk_K_new, if_pos rfl]
theorem zk_RAi {s : State} {G : va_G} {ca : Nat → ClassId} (hK : va_K G zk_cl (zk_tys ca) s) : s.vm.findClass ("[" ++ FieldType.int.toString) = some (ca 0) := (hK.2 0 _ rfl).2
theorem zk_RAb {s : State} {G : va_G} {ca : Nat → ClassId} (hK : va_K G zk_cl (zk_tys ca) s) : s.vm.findClass ("[" ++ FieldType.byte.toString) = some (ca 1) := (hK.2 1 _ rfl).2
theorem zk_RAs {s : State} {G : va_G} {ca : Nat → ClassId} (hK : va_K G zk_cl (zk_tys ca) s) : s.vm.findClass ("[" ++ FieldType.short.toString) = some (ca 2) := (hK.2 2 _ rfl).2
theorem zk_RAl {s : State} {G : va_G} {ca : Nat → ClassId} (hK : va_K G zk_cl (zk_tys ca) s) : s.vm.findClass ("[" ++ FieldType.long.toString) = some (ca 3) := (hK.2 3 _ rfl).2
theorem zk_RAv {s : State} {G : va_G} {ca : Nat → ClassId} (hK : va_K G zk_cl (zk_tys ca) s) : s.vm.findClass ("[" ++ (FieldType.object "WhichOneAllKnow$Voice").toString) = some (ca 4) := by
  obtain ⟨kA, comp, h1, h2, h3, h4⟩ := (hK.2 4 _ rfl).2
  exact h4
theorem zk_RAh {s : State} {G : va_G} {ca : Nat → ClassId} (hK : va_K G zk_cl (zk_tys ca) s) : s.vm.findClass ("[" ++ (FieldType.object "WhichOneAllKnow$Shelf").toString) = some (ca 5) := by
  obtain ⟨kA, comp, h1, h2, h3, h4⟩ := (hK.2 5 _ rfl).2
  exact h4
theorem zk_V_new {u : zk_St} {q c len k : Nat} : zk_V (zk_new u q c len) q k = fun _ => 0 := by
  show (zk_n1 u.2.2.1 q (fun _ _ => 0) q) k = _
  unfold zk_n1
  rw [if_pos rfl]
theorem zk_R_new {u : zk_St} {q c len k : Nat} : zk_R (zk_new u q c len) q k = fun _ => none := by
  show (zk_n1 u.2.2.2.1 q (fun _ _ => none) q) k = _
  unfold zk_n1
  rw [if_pos rfl]
theorem zk_J_new {u : zk_St} {q c len k : Nat} : zk_J (zk_new u q c len) q k = fun _ => 0 := by
  show (zk_n1 u.2.2.2.2.1 q (fun _ _ => 0) q) k = _
  unfold zk_n1
  rw [if_pos rfl]
theorem zk_K_setI {u : zk_St} {n k : Nat} {v : Int32} {q : Nat} : zk_K (zk_setI u n k v) q = zk_K u q := rfl
theorem zk_K_setP {u : zk_St} {n k : Nat} {v : Option Nat} {q : Nat} : zk_K (zk_setP u n k v) q = zk_K u q := rfl
theorem zk_V_setI {u : zk_St} {n k : Nat} {v : Int32} : zk_V (zk_setI u n k v) = zk_V u := rfl
theorem zk_R_setI {u : zk_St} {n k : Nat} {v : Int32} : zk_R (zk_setI u n k v) = zk_R u := rfl
theorem zk_J_setI {u : zk_St} {n k : Nat} {v : Int32} : zk_J (zk_setI u n k v) = zk_J u := rfl
theorem zk_P_setI {u : zk_St} {n k : Nat} {v : Int32} : zk_P (zk_setI u n k v) = zk_P u := rfl
theorem zk_V_setP {u : zk_St} {n k : Nat} {v : Option Nat} : zk_V (zk_setP u n k v) = zk_V u := rfl
theorem zk_R_setP {u : zk_St} {n k : Nat} {v : Option Nat} : zk_R (zk_setP u n k v) = zk_R u := rfl
theorem zk_J_setP {u : zk_St} {n k : Nat} {v : Option Nat} : zk_J (zk_setP u n k v) = zk_J u := rfl
theorem zk_I_setP {u : zk_St} {n k : Nat} {v : Option Nat} : zk_I (zk_setP u n k v) = zk_I u := rfl
set_option maxHeartbeats 4000000 in
set_option maxRecDepth 100000 in
theorem zj_X14 (l : Launch) (G : va_G) (ca : Nat → ClassId) (A : Nat → Prop) (sa : Nat → Nat) (B : Nat → Nat → Nat) (u0 : zk_St) (n0 ci : Nat) :
    Met l yX14_init (ws_ yX14_init cX14_init 1 (Option.none : Option Jvm.ClassFile.FieldType)) { frames := 1, cells := 0, slots := 0, locals := 12 } (va_Pc [.ref n0] (zk_PreN G ca A sa B u0 n0 ci)) (va_Qv (fun _ : Unit => True) (fun _ t => zk_Raw G ca A B u0 n0 [(n0, .inr (ci, (zk_lay (ci + 1)).map zk_dv))] t.heap ∧ t.heap.size = n0 + 1) A) 0 0 A := by
  refine Met.ofW (cc := cX14_init) (maxL := 1) (ret := (Option.none : Option Jvm.ClassFile.FieldType)) (by decide) rfl ?_
  intro p e s m args below meth c s₁ Bd hml hv
  obtain ⟨rfl, hW, hz, hE, hA⟩ := hv
  have hx := Bd.exec
  have hb := Bd.bytes
  have hr := Bd.returns
  have hts := atoms_spec (ws := (ws_ yX14_init cX14_init 1 (Option.none : Option Jvm.ClassFile.FieldType))) Bd.pre
  have hts : ∀ w ∈ lw_all, w.before _ s = true := fun w h => hts w (List.mem_cons_of_mem _ h)
  have hown : s.vm.findClass RX14 = some m.cls := findClass_of_methodNamed Bd.named
  have hlocks := Bd.notSynchronized
  have hin9 : meth.name = "<init>" := (name_of_methodNamed Bd.named Bd.method).1
  have hK := hE.1
  have hS : va_S A s.heap s.heap [] := va_S.rf
  have hl := lv_entry ([.ref n0]) (n := 1) (Nat.le_of_ble_eq_true rfl)
  rw [lg_entry_eq]
  generalize (lg_sl ([.ref n0]) ++ List.replicate (1 - (lg_sl ([.ref n0])).length) Slot.unset).toArray = ls at hl ⊢
  have hl : lv_has ls 1 [(0, .ref n0)] := hl
  refine lv_aload_n hx hb dX14_init_0 rfl (lv_at hl 0 rfl) ?_
  refine W.objInit hx hb hown (hts _ q539) (hts _ q124) (hts _ q125) rfl (by rw [hml]; exact hl.1) rfl dX14_init_1 (Nat.le_of_ble_eq_true rfl) (Nat.le_of_ble_eq_true rfl) ?_
  refine W.eq (g2 := F0 m 4 ls []) rfl ?_
  exact W.vret hx hb hr (fun t ht hW9 => ⟨⟨(), rfl, trivial, by show zk_Raw G ca A B u0 n0 _ t.heap; rw [ht]; exact hW, by show t.heap.size = _; rw [ht]; exact hz⟩, hS.F ht⟩) hS.2.2 dX14_init_4
theorem zk_AL_X15 {len : Nat} (k : Nat) (a : Nat × Nat) : zk_ar (16, len) k = some a ↔ (k, a) ∈ [(0, 1, len)] := by
  rcases k with _ | k
  · simp [zk_ar]; exact eq_comm
  · simp [zk_ar]
def zf_X15_init (fu : Nat) (n0 : Nat) (x1 : Int32) (u0 : zk_St) (k : zk_St → Prop) : Prop := ¬ x1 < 0 ∧ x1.toNatClampNeg ≤ 160 ∧ k (zk_new u0 n0 16 (x1.toNatClampNeg))
set_option maxHeartbeats 4000000 in
set_option maxRecDepth 100000 in
theorem zm_X15_init (l : Launch) (hfl : l.stackTraces = false) (G : va_G) (ca : Nat → ClassId) (A : Nat → Prop) (sa : Nat → Nat) (B : Nat → Nat → Nat) (u0 : zk_St) (fu : Nat) (n0 : Nat) (x1 : Int32) (k : zk_St → Prop) (hB : ∀ k : Nat, B n0 k = n0 + zk_off k) (h : zf_X15_init fu n0 x1 u0 k) :
    Met l yX15_init (ws_ yX15_init cX15_init 2 (Option.none : Option Jvm.ClassFile.FieldType)) { frames := 2, cells := 1, slots := 160, locals := 32 } (va_Pc [.ref n0, .int x1] (zk_PreN G ca A sa B u0 n0 15)) (va_Qv k (zk_PoN G ca A B u0 n0 16 2) A) 1 160 A := by
  obtain ⟨h0, h1, h⟩ := h
  refine Met.ofW (cc := cX15_init) (maxL := 2) (ret := (Option.none : Option Jvm.ClassFile.FieldType)) (by decide) rfl ?_
  intro p e s m args below meth c s₁ Bd hml hv
  obtain ⟨rfl, hW, hz, hE, hA⟩ := hv
  have hx := Bd.exec
  have hb := Bd.bytes
  have hr := Bd.returns
  have hts := atoms_spec (ws := (ws_ yX15_init cX15_init 2 (Option.none : Option Jvm.ClassFile.FieldType))) Bd.pre
  have hts : ∀ w ∈ lw_all, w.before _ s = true := fun w h => hts w (List.mem_cons_of_mem _ h)
  have hown : s.vm.findClass RX15 = some m.cls := findClass_of_methodNamed Bd.named
  have hlocks := Bd.notSynchronized
  have hin9 : meth.name = "<init>" := (name_of_methodNamed Bd.named Bd.method).1
  have hK := hE.1
  have hS : va_S A s.heap s.heap [] := va_S.rf
  have hl := lv_entry ([.ref n0, .int x1]) (n := 2) (Nat.le_of_ble_eq_true rfl)
  rw [lg_entry_eq]
  generalize (lg_sl ([.ref n0, .int x1]) ++ List.replicate (2 - (lg_sl ([.ref n0, .int x1])).length) Slot.unset).toArray = ls at hl ⊢
  have hl : lv_has ls 2 [(0, .ref n0), (1, .int x1)] := hl
  refine lv_aload_n hx hb dX15_init_0 rfl (lv_at hl 0 rfl) ?_
  refine va_callv (va_runI (As := []) (rest := []) ⟨hx, hb, hml, hown, hts⟩ (zj_X14 l G ca A sa B u0 n0 15) (cwI 0 hts (lw_meth q538) rfl rfl rfl (hts _ q104) (hts _ q536) (hts _ q537) rfl (by decide +kernel) ⟨Nat.le_of_ble_eq_true rfl, Nat.le_of_ble_eq_true rfl⟩) (zk_psN hW hz hE hS hA) rfl rfl hl.1 rfl (lv_room (Nat.le_of_ble_eq_true rfl)) dX15_init_1 ⟨Nat.le_of_ble_eq_true rfl, Nat.le_of_ble_eq_true rfl⟩) hS (fun _ _ h => h) (fun _ h => h) (fun u9 t H locs ht hvm _ hB9 _ _ hS => ?_)
  obtain ⟨hW, hz⟩ := hB9
  rw [ht] at hW hz
  refine lv_aload_n hx hb dX15_init_4 rfl (lv_at hl 0 rfl) ?_
  refine lv_iload_n hx hb dX15_init_5 rfl (lv_at hl 1 rfl) ?_
  refine zk_rnewa (atype := .byte) (t := 1) (N' := x1.toNatClampNeg) (ty := .byte) (a0 := (x1.toNatClampNeg, .inl (fun _ => 0))) hW hz hx hb (hts _ q479) rfl (zk_RAb hK) hS hA (fun _ => rfl) h0 rfl (Nat.le_trans (Nat.mul_le_mul_right _ h1) (by decide)) (Nat.le_of_ble_eq_true rfl) (Nat.le_trans (Nat.add_le_add_left h1 _) (Nat.le_of_ble_eq_true rfl)) dX15_init_6 (fun H hW hz hS => ?_)
  refine W.widen (k := 1) (n := 160) (Nat.le_of_ble_eq_true rfl) (by omega) ?_
  have hW : zk_Raw G ca A B u0 n0 [(n0, .inr (15, [.null])), (n0 + 1, .inl (ca 1, x1.toNatClampNeg, .inl (fun _ => 0)))] H := hW
  have hz : H.size = n0 + 2 := hz
  refine zk_rputF (ci := 15) (C := RX15) (T := TX15) (N := 1) (ty := (.array .byte)) (v := .ref (n0 + 1)) (k := 0) hW hz hx hb hts in_X15 tyX15 tyX15_ok nmX15 hown hK hS 0 rfl rfl (hk := by decide) (hlink := hts _ q540) (hsame := fun _ h9 => h9) (hfin := rfl) (hin2 := hin9) (hdecl := rfl) (hd := by decide +kernel) (hn := rfl) (hfit := rfl) (hl := Nat.le_of_ble_eq_true rfl) (hdg := dX15_init_8) (fun H locs hW hz hS => ?_)
  have hW : zk_Raw G ca A B u0 n0 [(n0, .inr (15, [.ref (n0 + 1)])), (n0 + 1, .inl (ca 1, x1.toNatClampNeg, .inl (fun _ => 0)))] H := hW
  have hb9_0 : B n0 0 = n0 + 1 := hB 0
  have hK9 : zk_K (zk_new u0 n0 16 (x1.toNatClampNeg)) n0 = (16, x1.toNatClampNeg) := by simp only [zk_K_setI, zk_K_new, if_pos]
  have hun9 : (zk_K u0 n0).1 = 0 := by obtain ⟨_, _, _, _, q⟩ := hW; exact q
  have hX_v9 : zk_KX u0 (zk_new u0 n0 16 (x1.toNatClampNeg)) := zk_KX_new hun9
  have hR : zk_Rep G ca A B (zk_new u0 n0 16 (x1.toNatClampNeg)) H := by
    refine zk_rdone (c := 16) (len := x1.toNatClampNeg) (u := u0) (n := n0) (fs := [.ref (n0 + 1)]) (AL := [(0, 1, x1.toNatClampNeg)]) ?_ hK9 (by decide) ?_ ?_ ?_
    · simp only [List.map, zk_cn, zk_V_new, zk_R_new, zk_J_new, zk_V_setI, zk_R_setI, zk_J_setI, hb9_0]
      exact hW
    · simp [zk_lay, zk_fl, zk_fv, zk_I_new, zk_P_new, zk_V_new, zk_R_new, zk_J_new, zk_I_setI, zk_P_setP, zk_P_setI, zk_I_setP, zk_V_setI, zk_R_setI, zk_J_setI, zk_V_setP, zk_R_setP, zk_J_setP, zk_cn, va_rf, hb9_0]
    · intro k a
      exact zk_AL_X15 k a
    · intro n' i hn
      exact zk_ent_new n' i hn
  exact W.vret hx hb hr (fun t ht hW9 => ⟨⟨zk_new u0 n0 16 (x1.toNatClampNeg), rfl, h, hX_v9, by rw [hK9], by rw [ht]; exact hR, by rw [ht]; exact hz⟩, hS.F ht⟩) hS.2.2 dX15_init_11
theorem zk_AL_X16 {len : Nat} (k : Nat) (a : Nat × Nat) : zk_ar (17, len) k = some a ↔ (k, a) ∈ [(0, 2, len)] := by
  rcases k with _ | k
  · simp [zk_ar]; exact eq_comm
  · simp [zk_ar]
def zf_X16_init (fu : Nat) (n0 : Nat) (x1 : Int32) (u0 : zk_St) (k : zk_St → Prop) : Prop := ¬ x1 < 0 ∧ x1.toNatClampNeg ≤ 160 ∧ k (zk_new u0 n0 17 (x1.toNatClampNeg))
set_option maxHeartbeats 4000000 in
set_option maxRecDepth 100000 in
theorem zm_X16_init (l : Launch) (hfl : l.stackTraces = false) (G : va_G) (ca : Nat → ClassId) (A : Nat → Prop) (sa : Nat → Nat) (B : Nat → Nat → Nat) (u0 : zk_St) (fu : Nat) (n0 : Nat) (x1 : Int32) (k : zk_St → Prop) (hB : ∀ k : Nat, B n0 k = n0 + zk_off k) (h : zf_X16_init fu n0 x1 u0 k) :
    Met l yX16_init (ws_ yX16_init cX16_init 2 (Option.none : Option Jvm.ClassFile.FieldType)) { frames := 2, cells := 1, slots := 160, locals := 32 } (va_Pc [.ref n0, .int x1] (zk_PreN G ca A sa B u0 n0 16)) (va_Qv k (zk_PoN G ca A B u0 n0 17 2) A) 1 160 A := by
  obtain ⟨h0, h1, h⟩ := h
  refine Met.ofW (cc := cX16_init) (maxL := 2) (ret := (Option.none : Option Jvm.ClassFile.FieldType)) (by decide) rfl ?_
  intro p e s m args below meth c s₁ Bd hml hv
  obtain ⟨rfl, hW, hz, hE, hA⟩ := hv
  have hx := Bd.exec
  have hb := Bd.bytes
  have hr := Bd.returns
  have hts := atoms_spec (ws := (ws_ yX16_init cX16_init 2 (Option.none : Option Jvm.ClassFile.FieldType))) Bd.pre
  have hts : ∀ w ∈ lw_all, w.before _ s = true := fun w h => hts w (List.mem_cons_of_mem _ h)
  have hown : s.vm.findClass RX16 = some m.cls := findClass_of_methodNamed Bd.named
  have hlocks := Bd.notSynchronized
  have hin9 : meth.name = "<init>" := (name_of_methodNamed Bd.named Bd.method).1
  have hK := hE.1
  have hS : va_S A s.heap s.heap [] := va_S.rf
  have hl := lv_entry ([.ref n0, .int x1]) (n := 2) (Nat.le_of_ble_eq_true rfl)
  rw [lg_entry_eq]
  generalize (lg_sl ([.ref n0, .int x1]) ++ List.replicate (2 - (lg_sl ([.ref n0, .int x1])).length) Slot.unset).toArray = ls at hl ⊢
  have hl : lv_has ls 2 [(0, .ref n0), (1, .int x1)] := hl
  refine lv_aload_n hx hb dX16_init_0 rfl (lv_at hl 0 rfl) ?_
  refine va_callv (va_runI (As := []) (rest := []) ⟨hx, hb, hml, hown, hts⟩ (zj_X14 l G ca A sa B u0 n0 16) (cwI 0 hts (lw_meth q538) rfl rfl rfl (hts _ q104) (hts _ q549) (hts _ q537) rfl (by decide +kernel) ⟨Nat.le_of_ble_eq_true rfl, Nat.le_of_ble_eq_true rfl⟩) (zk_psN hW hz hE hS hA) rfl rfl hl.1 rfl (lv_room (Nat.le_of_ble_eq_true rfl)) dX16_init_1 ⟨Nat.le_of_ble_eq_true rfl, Nat.le_of_ble_eq_true rfl⟩) hS (fun _ _ h => h) (fun _ h => h) (fun u9 t H locs ht hvm _ hB9 _ _ hS => ?_)
  obtain ⟨hW, hz⟩ := hB9
  rw [ht] at hW hz
  refine lv_aload_n hx hb dX16_init_4 rfl (lv_at hl 0 rfl) ?_
  refine lv_iload_n hx hb dX16_init_5 rfl (lv_at hl 1 rfl) ?_
  refine zk_rnewa (atype := .short) (t := 2) (N' := x1.toNatClampNeg) (ty := .short) (a0 := (x1.toNatClampNeg, .inl (fun _ => 0))) hW hz hx hb (hts _ q554) rfl (zk_RAs hK) hS hA (fun _ => rfl) h0 rfl (Nat.le_trans (Nat.mul_le_mul_right _ h1) (by decide)) (Nat.le_of_ble_eq_true rfl) (Nat.le_trans (Nat.add_le_add_left h1 _) (Nat.le_of_ble_eq_true rfl)) dX16_init_6 (fun H hW hz hS => ?_)
  refine W.widen (k := 1) (n := 160) (Nat.le_of_ble_eq_true rfl) (by omega) ?_
  have hW : zk_Raw G ca A B u0 n0 [(n0, .inr (16, [.null])), (n0 + 1, .inl (ca 2, x1.toNatClampNeg, .inl (fun _ => 0)))] H := hW
  have hz : H.size = n0 + 2 := hz
  refine zk_rputF (ci := 16) (C := RX16) (T := TX16) (N := 1) (ty := (.array .short)) (v := .ref (n0 + 1)) (k := 0) hW hz hx hb hts in_X16 tyX16 tyX16_ok nmX16 hown hK hS 0 rfl rfl (hk := by decide) (hlink := hts _ q550) (hsame := fun _ h9 => h9) (hfin := rfl) (hin2 := hin9) (hdecl := rfl) (hd := by decide +kernel) (hn := rfl) (hfit := rfl) (hl := Nat.le_of_ble_eq_true rfl) (hdg := dX16_init_8) (fun H locs hW hz hS => ?_)
  have hW : zk_Raw G ca A B u0 n0 [(n0, .inr (16, [.ref (n0 + 1)])), (n0 + 1, .inl (ca 2, x1.toNatClampNeg, .inl (fun _ => 0)))] H := hW
  have hb9_0 : B n0 0 = n0 + 1 := hB 0
  have hK9 : zk_K (zk_new u0 n0 17 (x1.toNatClampNeg)) n0 = (17, x1.toNatClampNeg) := by simp only [zk_K_setI, zk_K_new, if_pos]
  have hun9 : (zk_K u0 n0).1 = 0 := by obtain ⟨_, _, _, _, q⟩ := hW; exact q
  have hX_v9 : zk_KX u0 (zk_new u0 n0 17 (x1.toNatClampNeg)) := zk_KX_new hun9
  have hR : zk_Rep G ca A B (zk_new u0 n0 17 (x1.toNatClampNeg)) H := by
    refine zk_rdone (c := 17) (len := x1.toNatClampNeg) (u := u0) (n := n0) (fs := [.ref (n0 + 1)]) (AL := [(0, 2, x1.toNatClampNeg)]) ?_ hK9 (by decide) ?_ ?_ ?_
    · simp only [List.map, zk_cn, zk_V_new, zk_R_new, zk_J_new, zk_V_setI, zk_R_setI, zk_J_setI, hb9_0]
      exact hW
    · simp [zk_lay, zk_fl, zk_fv, zk_I_new, zk_P_new, zk_V_new, zk_R_new, zk_J_new, zk_I_setI, zk_P_setP, zk_P_setI, zk_I_setP, zk_V_setI, zk_R_setI, zk_J_setI, zk_V_setP, zk_R_setP, zk_J_setP, zk_cn, va_rf, hb9_0]
    · intro k a
      exact zk_AL_X16 k a
    · intro n' i hn
      exact zk_ent_new n' i hn
  exact W.vret hx hb hr (fun t ht hW9 => ⟨⟨zk_new u0 n0 17 (x1.toNatClampNeg), rfl, h, hX_v9, by rw [hK9], by rw [ht]; exact hR, by rw [ht]; exact hz⟩, hS.F ht⟩) hS.2.2 dX16_init_11
theorem zk_AL_X17 {len : Nat} (k : Nat) (a : Nat × Nat) : zk_ar (18, len) k = some a ↔ (k, a) ∈ [(0, 0, len)] := by
  rcases k with _ | k
  · simp [zk_ar]; exact eq_comm
  · simp [zk_ar]
def zf_X17_init (fu : Nat) (n0 : Nat) (x1 : Int32) (u0 : zk_St) (k : zk_St → Prop) : Prop := ¬ x1 < 0 ∧ x1.toNatClampNeg ≤ 160 ∧ k (zk_new u0 n0 18 (x1.toNatClampNeg))
set_option maxHeartbeats 4000000 in
set_option maxRecDepth 100000 in
theorem zm_X17_init (l : Launch) (hfl : l.stackTraces = false) (G : va_G) (ca : Nat → ClassId) (A : Nat → Prop) (sa : Nat → Nat) (B : Nat → Nat → Nat) (u0 : zk_St) (fu : Nat) (n0 : Nat) (x1 : Int32) (k : zk_St → Prop) (hB : ∀ k : Nat, B n0 k = n0 + zk_off k) (h : zf_X17_init fu n0 x1 u0 k) :
    Met l yX17_init (ws_ yX17_init cX17_init 2 (Option.none : Option Jvm.ClassFile.FieldType)) { frames := 2, cells := 1, slots := 160, locals := 32 } (va_Pc [.ref n0, .int x1] (zk_PreN G ca A sa B u0 n0 17)) (va_Qv k (zk_PoN G ca A B u0 n0 18 2) A) 1 160 A := by
  obtain ⟨h0, h1, h⟩ := h
  refine Met.ofW (cc := cX17_init) (maxL := 2) (ret := (Option.none : Option Jvm.ClassFile.FieldType)) (by decide) rfl ?_
  intro p e s m args below meth c s₁ Bd hml hv
  obtain ⟨rfl, hW, hz, hE, hA⟩ := hv
  have hx := Bd.exec
  have hb := Bd.bytes
  have hr := Bd.returns
  have hts := atoms_spec (ws := (ws_ yX17_init cX17_init 2 (Option.none : Option Jvm.ClassFile.FieldType))) Bd.pre
  have hts : ∀ w ∈ lw_all, w.before _ s = true := fun w h => hts w (List.mem_cons_of_mem _ h)
  have hown : s.vm.findClass RX17 = some m.cls := findClass_of_methodNamed Bd.named
  have hlocks := Bd.notSynchronized
  have hin9 : meth.name = "<init>" := (name_of_methodNamed Bd.named Bd.method).1
  have hK := hE.1
  have hS : va_S A s.heap s.heap [] := va_S.rf
  have hl := lv_entry ([.ref n0, .int x1]) (n := 2) (Nat.le_of_ble_eq_true rfl)
  rw [lg_entry_eq]
  generalize (lg_sl ([.ref n0, .int x1]) ++ List.replicate (2 - (lg_sl ([.ref n0, .int x1])).length) Slot.unset).toArray = ls at hl ⊢
  have hl : lv_has ls 2 [(0, .ref n0), (1, .int x1)] := hl
  refine lv_aload_n hx hb dX17_init_0 rfl (lv_at hl 0 rfl) ?_
  refine va_callv (va_runI (As := []) (rest := []) ⟨hx, hb, hml, hown, hts⟩ (zj_X14 l G ca A sa B u0 n0 17) (cwI 0 hts (lw_meth q538) rfl rfl rfl (hts _ q104) (hts _ q560) (hts _ q537) rfl (by decide +kernel) ⟨Nat.le_of_ble_eq_true rfl, Nat.le_of_ble_eq_true rfl⟩) (zk_psN hW hz hE hS hA) rfl rfl hl.1 rfl (lv_room (Nat.le_of_ble_eq_true rfl)) dX17_init_1 ⟨Nat.le_of_ble_eq_true rfl, Nat.le_of_ble_eq_true rfl⟩) hS (fun _ _ h => h) (fun _ h => h) (fun u9 t H locs ht hvm _ hB9 _ _ hS => ?_)
  obtain ⟨hW, hz⟩ := hB9
  rw [ht] at hW hz
  refine lv_aload_n hx hb dX17_init_4 rfl (lv_at hl 0 rfl) ?_
  refine lv_iload_n hx hb dX17_init_5 rfl (lv_at hl 1 rfl) ?_
  refine zk_rnewa (atype := .int) (t := 0) (N' := x1.toNatClampNeg) (ty := .int) (a0 := (x1.toNatClampNeg, .inl (fun _ => 0))) hW hz hx hb (hts _ q143) rfl (zk_RAi hK) hS hA (fun _ => rfl) h0 rfl (Nat.le_trans (Nat.mul_le_mul_right _ h1) (by decide)) (Nat.le_of_ble_eq_true rfl) (Nat.le_trans (Nat.add_le_add_left h1 _) (Nat.le_of_ble_eq_true rfl)) dX17_init_6 (fun H hW hz hS => ?_)
  refine W.widen (k := 1) (n := 160) (Nat.le_of_ble_eq_true rfl) (by omega) ?_
  have hW : zk_Raw G ca A B u0 n0 [(n0, .inr (17, [.null])), (n0 + 1, .inl (ca 0, x1.toNatClampNeg, .inl (fun _ => 0)))] H := hW
  have hz : H.size = n0 + 2 := hz
  refine zk_rputF (ci := 17) (C := RX17) (T := TX17) (N := 1) (ty := (.array .int)) (v := .ref (n0 + 1)) (k := 0) hW hz hx hb hts in_X17 tyX17 tyX17_ok nmX17 hown hK hS 0 rfl rfl (hk := by decide) (hlink := hts _ q561) (hsame := fun _ h9 => h9) (hfin := rfl) (hin2 := hin9) (hdecl := rfl) (hd := by decide +kernel) (hn := rfl) (hfit := rfl) (hl := Nat.le_of_ble_eq_true rfl) (hdg := dX17_init_8) (fun H locs hW hz hS => ?_)
  have hW : zk_Raw G ca A B u0 n0 [(n0, .inr (17, [.ref (n0 + 1)])), (n0 + 1, .inl (ca 0, x1.toNatClampNeg, .inl (fun _ => 0)))] H := hW
  have hb9_0 : B n0 0 = n0 + 1 := hB 0
  have hK9 : zk_K (zk_new u0 n0 18 (x1.toNatClampNeg)) n0 = (18, x1.toNatClampNeg) := by simp only [zk_K_setI, zk_K_new, if_pos]
  have hun9 : (zk_K u0 n0).1 = 0 := by obtain ⟨_, _, _, _, q⟩ := hW; exact q
  have hX_v9 : zk_KX u0 (zk_new u0 n0 18 (x1.toNatClampNeg)) := zk_KX_new hun9
  have hR : zk_Rep G ca A B (zk_new u0 n0 18 (x1.toNatClampNeg)) H := by
    refine zk_rdone (c := 18) (len := x1.toNatClampNeg) (u := u0) (n := n0) (fs := [.ref (n0 + 1)]) (AL := [(0, 0, x1.toNatClampNeg)]) ?_ hK9 (by decide) ?_ ?_ ?_
    · simp only [List.map, zk_cn, zk_V_new, zk_R_new, zk_J_new, zk_V_setI, zk_R_setI, zk_J_setI, hb9_0]
      exact hW
    · simp [zk_lay, zk_fl, zk_fv, zk_I_new, zk_P_new, zk_V_new, zk_R_new, zk_J_new, zk_I_setI, zk_P_setP, zk_P_setI, zk_I_setP, zk_V_setI, zk_R_setI, zk_J_setI, zk_V_setP, zk_R_setP, zk_J_setP, zk_cn, va_rf, hb9_0]
    · intro k a
      exact zk_AL_X17 k a
    · intro n' i hn
      exact zk_ent_new n' i hn
  exact W.vret hx hb hr (fun t ht hW9 => ⟨⟨zk_new u0 n0 18 (x1.toNatClampNeg), rfl, h, hX_v9, by rw [hK9], by rw [ht]; exact hR, by rw [ht]; exact hz⟩, hS.F ht⟩) hS.2.2 dX17_init_11
theorem zk_AL_X18 {len : Nat} (k : Nat) (a : Nat × Nat) : zk_ar (19, len) k = some a ↔ (k, a) ∈ [(0, 3, len)] := by
  rcases k with _ | k
  · simp [zk_ar]; exact eq_comm
  · simp [zk_ar]
def zf_X18_init (fu : Nat) (n0 : Nat) (x1 : Int32) (u0 : zk_St) (k : zk_St → Prop) : Prop := ¬ x1 < 0 ∧ x1.toNatClampNeg ≤ 160 ∧ k (zk_new u0 n0 19 (x1.toNatClampNeg))
set_option maxHeartbeats 4000000 in
set_option maxRecDepth 100000 in
theorem zm_X18_init (l : Launch) (hfl : l.stackTraces = false) (G : va_G) (ca : Nat → ClassId) (A : Nat → Prop) (sa : Nat → Nat) (B : Nat → Nat → Nat) (u0 : zk_St) (fu : Nat) (n0 : Nat) (x1 : Int32) (k : zk_St → Prop) (hB : ∀ k : Nat, B n0 k = n0 + zk_off k) (h : zf_X18_init fu n0 x1 u0 k) :
    Met l yX18_init (ws_ yX18_init cX18_init 2 (Option.none : Option Jvm.ClassFile.FieldType)) { frames := 2, cells := 1, slots := 160, locals := 32 } (va_Pc [.ref n0, .int x1] (zk_PreN G ca A sa B u0 n0 18)) (va_Qv k (zk_PoN G ca A B u0 n0 19 2) A) 1 160 A := by
  obtain ⟨h0, h1, h⟩ := h
  refine Met.ofW (cc := cX18_init) (maxL := 2) (ret := (Option.none : Option Jvm.ClassFile.FieldType)) (by decide) rfl ?_
  intro p e s m args below meth c s₁ Bd hml hv
  obtain ⟨rfl, hW, hz, hE, hA⟩ := hv
  have hx := Bd.exec
  have hb := Bd.bytes
  have hr := Bd.returns
  have hts := atoms_spec (ws := (ws_ yX18_init cX18_init 2 (Option.none : Option Jvm.ClassFile.FieldType))) Bd.pre
  have hts : ∀ w ∈ lw_all, w.before _ s = true := fun w h => hts w (List.mem_cons_of_mem _ h)
  have hown : s.vm.findClass RX18 = some m.cls := findClass_of_methodNamed Bd.named
  have hlocks := Bd.notSynchronized
  have hin9 : meth.name = "<init>" := (name_of_methodNamed Bd.named Bd.method).1
  have hK := hE.1
  have hS : va_S A s.heap s.heap [] := va_S.rf
  have hl := lv_entry ([.ref n0, .int x1]) (n := 2) (Nat.le_of_ble_eq_true rfl)
  rw [lg_entry_eq]
  generalize (lg_sl ([.ref n0, .int x1]) ++ List.replicate (2 - (lg_sl ([.ref n0, .int x1])).length) Slot.unset).toArray = ls at hl ⊢
  have hl : lv_has ls 2 [(0, .ref n0), (1, .int x1)] := hl
  refine lv_aload_n hx hb dX18_init_0 rfl (lv_at hl 0 rfl) ?_
  refine va_callv (va_runI (As := []) (rest := []) ⟨hx, hb, hml, hown, hts⟩ (zj_X14 l G ca A sa B u0 n0 18) (cwI 0 hts (lw_meth q538) rfl rfl rfl (hts _ q104) (hts _ q570) (hts _ q537) rfl (by decide +kernel) ⟨Nat.le_of_ble_eq_true rfl, Nat.le_of_ble_eq_true rfl⟩) (zk_psN hW hz hE hS hA) rfl rfl hl.1 rfl (lv_room (Nat.le_of_ble_eq_true rfl)) dX18_init_1 ⟨Nat.le_of_ble_eq_true rfl, Nat.le_of_ble_eq_true rfl⟩) hS (fun _ _ h => h) (fun _ h => h) (fun u9 t H locs ht hvm _ hB9 _ _ hS => ?_)
  obtain ⟨hW, hz⟩ := hB9
  rw [ht] at hW hz
  refine lv_aload_n hx hb dX18_init_4 rfl (lv_at hl 0 rfl) ?_
  refine lv_iload_n hx hb dX18_init_5 rfl (lv_at hl 1 rfl) ?_
  refine zk_rnewa (atype := .long) (t := 3) (N' := x1.toNatClampNeg) (ty := .long) (a0 := (x1.toNatClampNeg, .inr (.inl (fun _ => 0)))) hW hz hx hb (hts _ q575) rfl (zk_RAl hK) hS hA (fun _ => rfl) h0 rfl (Nat.le_trans (Nat.mul_le_mul_right _ h1) (by decide)) (Nat.le_of_ble_eq_true rfl) (Nat.le_trans (Nat.add_le_add_left h1 _) (Nat.le_of_ble_eq_true rfl)) dX18_init_6 (fun H hW hz hS => ?_)
  refine W.widen (k := 1) (n := 160) (Nat.le_of_ble_eq_true rfl) (by omega) ?_
  have hW : zk_Raw G ca A B u0 n0 [(n0, .inr (18, [.null])), (n0 + 1, .inl (ca 3, x1.toNatClampNeg, .inr (.inl (fun _ => 0))))] H := hW
  have hz : H.size = n0 + 2 := hz
  refine zk_rputF (ci := 18) (C := RX18) (T := TX18) (N := 1) (ty := (.array .long)) (v := .ref (n0 + 1)) (k := 0) hW hz hx hb hts in_X18 tyX18 tyX18_ok nmX18 hown hK hS 0 rfl rfl (hk := by decide) (hlink := hts _ q571) (hsame := fun _ h9 => h9) (hfin := rfl) (hin2 := hin9) (hdecl := rfl) (hd := by decide +kernel) (hn := rfl) (hfit := rfl) (hl := Nat.le_of_ble_eq_true rfl) (hdg := dX18_init_8) (fun H locs hW hz hS => ?_)
  have hW : zk_Raw G ca A B u0 n0 [(n0, .inr (18, [.ref (n0 + 1)])), (n0 + 1, .inl (ca 3, x1.toNatClampNeg, .inr (.inl (fun _ => 0))))] H := hW
  have hb9_0 : B n0 0 = n0 + 1 := hB 0
  have hK9 : zk_K (zk_new u0 n0 19 (x1.toNatClampNeg)) n0 = (19, x1.toNatClampNeg) := by simp only [zk_K_setI, zk_K_new, if_pos]
  have hun9 : (zk_K u0 n0).1 = 0 := by obtain ⟨_, _, _, _, q⟩ := hW; exact q
  have hX_v9 : zk_KX u0 (zk_new u0 n0 19 (x1.toNatClampNeg)) := zk_KX_new hun9
  have hR : zk_Rep G ca A B (zk_new u0 n0 19 (x1.toNatClampNeg)) H := by
    refine zk_rdone (c := 19) (len := x1.toNatClampNeg) (u := u0) (n := n0) (fs := [.ref (n0 + 1)]) (AL := [(0, 3, x1.toNatClampNeg)]) ?_ hK9 (by decide) ?_ ?_ ?_
    · simp only [List.map, zk_cn, zk_V_new, zk_R_new, zk_J_new, zk_V_setI, zk_R_setI, zk_J_setI, hb9_0]
      exact hW
    · simp [zk_lay, zk_fl, zk_fv, zk_I_new, zk_P_new, zk_V_new, zk_R_new, zk_J_new, zk_I_setI, zk_P_setP, zk_P_setI, zk_I_setP, zk_V_setI, zk_R_setI, zk_J_setI, zk_V_setP, zk_R_setP, zk_J_setP, zk_cn, va_rf, hb9_0]
    · intro k a
      exact zk_AL_X18 k a
    · intro n' i hn
      exact zk_ent_new n' i hn
  exact W.vret hx hb hr (fun t ht hW9 => ⟨⟨zk_new u0 n0 19 (x1.toNatClampNeg), rfl, h, hX_v9, by rw [hK9], by rw [ht]; exact hR, by rw [ht]; exact hz⟩, hS.F ht⟩) hS.2.2 dX18_init_11
theorem zk_AL_X1 (k : Nat) (a : Nat × Nat) : zk_ar (2, 0) k = some a ↔ (k, a) ∈ [(0, 0, 20)] := by
  by_cases hk : k < 1
  · obtain ⟨a1, a2⟩ := a
    rcases (show k = 0 by omega) with rfl <;> simp [zk_ar] <;> (try (constructor <;> (intro h; (try (obtain ⟨h1, h2⟩ := h)); subst h1; subst h2; (first | rfl | exact ⟨rfl, rfl⟩))))
  · obtain ⟨j, rfl⟩ : ∃ j, k = j + 1 := ⟨k - 1, by omega⟩
    simp [zk_ar]
def zf_X1_init (fu : Nat) (n0 : Nat) (u0 : zk_St) (k : zk_St → Prop) : Prop := k (zk_new u0 n0 2 0)
set_option maxHeartbeats 4000000 in
set_option maxRecDepth 100000 in
theorem zm_X1_init (l : Launch) (hfl : l.stackTraces = false) (G : va_G) (ca : Nat → ClassId) (A : Nat → Prop) (sa : Nat → Nat) (B : Nat → Nat → Nat) (u0 : zk_St) (fu : Nat) (n0 : Nat) (k : zk_St → Prop) (hB : ∀ k : Nat, B n0 k = n0 + zk_off k) (h : zf_X1_init fu n0 u0 k) :
    Met l yX1_init (ws_ yX1_init cX1_init 1 (Option.none : Option Jvm.ClassFile.FieldType)) { frames := 1, cells := 1, slots := 20, locals := 12 } (va_Pc [.ref n0] (zk_PreN G ca A sa B u0 n0 1)) (va_Qv k (zk_PoN G ca A B u0 n0 2 2) A) 1 20 A := by
  refine Met.ofW (cc := cX1_init) (maxL := 1) (ret := (Option.none : Option Jvm.ClassFile.FieldType)) (by decide) rfl ?_
  intro p e s m args below meth c s₁ Bd hml hv
  obtain ⟨rfl, hW, hz, hE, hA⟩ := hv
  have hx := Bd.exec
  have hb := Bd.bytes
  have hr := Bd.returns
  have hts := atoms_spec (ws := (ws_ yX1_init cX1_init 1 (Option.none : Option Jvm.ClassFile.FieldType))) Bd.pre
  have hts : ∀ w ∈ lw_all, w.before _ s = true := fun w h => hts w (List.mem_cons_of_mem _ h)
  have hown : s.vm.findClass RX1 = some m.cls := findClass_of_methodNamed Bd.named
  have hlocks := Bd.notSynchronized
  have hin9 : meth.name = "<init>" := (name_of_methodNamed Bd.named Bd.method).1
  have hK := hE.1
  have hS : va_S A s.heap s.heap [] := va_S.rf
  have hl := lv_entry ([.ref n0]) (n := 1) (Nat.le_of_ble_eq_true rfl)
  rw [lg_entry_eq]
  generalize (lg_sl ([.ref n0]) ++ List.replicate (1 - (lg_sl ([.ref n0])).length) Slot.unset).toArray = ls at hl ⊢
  have hl : lv_has ls 1 [(0, .ref n0)] := hl
  refine lv_aload_n hx hb dX1_init_0 rfl (lv_at hl 0 rfl) ?_
  refine W.objInit hx hb hown (hts _ q133) (hts _ q124) (hts _ q125) rfl (by rw [hml]; exact hl.1) rfl dX1_init_1 (Nat.le_of_ble_eq_true rfl) (Nat.le_of_ble_eq_true rfl) ?_
  refine W.eq (g2 := F0 m 4 ls []) rfl ?_
  refine lv_aload_n hx hb dX1_init_4 rfl (lv_at hl 0 rfl) ?_
  refine lv_bipush (v := (20)) hx hb dX1_init_5 (by decide) ?_
  refine zk_rnewa (atype := .int) (t := 0) (N' := 20) (ty := .int) (a0 := (20, .inl (fun _ => 0))) hW hz hx hb (hts _ q143) rfl (zk_RAi hK) hS hA (fun _ => rfl) (by decide) rfl (by decide) (Nat.le_of_ble_eq_true rfl) (Nat.le_of_ble_eq_true rfl) dX1_init_7 (fun H hW hz hS => ?_)
  have hW : zk_Raw G ca A B u0 n0 [(n0, .inr (1, [.null, .int 0])), (n0 + 1, .inl (ca 0, 20, .inl (fun _ => 0)))] H := hW
  have hz : H.size = n0 + 2 := hz
  refine zk_rputF (ci := 1) (C := RX1) (T := TX1) (N := 2) (ty := (.array .int)) (v := .ref (n0 + 1)) (k := 0) hW hz hx hb hts in_X1 tyX1 tyX1_ok nmX1 hown hK hS 0 rfl rfl (hk := by decide) (hlink := hts _ q134) (hsame := fun _ h9 => h9) (hfin := rfl) (hin2 := hin9) (hdecl := rfl) (hd := by decide +kernel) (hn := rfl) (hfit := rfl) (hl := Nat.le_of_ble_eq_true rfl) (hdg := dX1_init_9) (fun H locs hW hz hS => ?_)
  have hW : zk_Raw G ca A B u0 n0 [(n0, .inr (1, [.ref (n0 + 1), .int 0])), (n0 + 1, .inl (ca 0, 20, .inl (fun _ => 0)))] H := hW
  have hb9_0 : B n0 0 = n0 + 1 := hB 0
  have hK9 : zk_K (zk_new u0 n0 2 0) n0 = (2, 0) := by simp only [zk_K_setI, zk_K_new, if_pos]
  have hun9 : (zk_K u0 n0).1 = 0 := by obtain ⟨_, _, _, _, q⟩ := hW; exact q
  have hX_v9 : zk_KX u0 (zk_new u0 n0 2 0) := zk_KX_new hun9
  have hR : zk_Rep G ca A B (zk_new u0 n0 2 0) H := by
    refine zk_rdone (c := 2) (len := 0) (u := u0) (n := n0) (fs := [.ref (n0 + 1), .int 0]) (AL := [(0, 0, 20)]) ?_ hK9 (by decide) ?_ ?_ ?_
    · simp only [List.map, zk_cn, zk_V_new, zk_R_new, zk_J_new, zk_V_setI, zk_R_setI, zk_J_setI, hb9_0]
      exact hW
    · simp [zk_lay, zk_fl, zk_fv, zk_I_new, zk_P_new, zk_V_new, zk_R_new, zk_J_new, zk_I_setI, zk_P_setP, zk_P_setI, zk_I_setP, zk_V_setI, zk_R_setI, zk_J_setI, zk_V_setP, zk_R_setP, zk_J_setP, zk_cn, va_rf, hb9_0]
    · intro k a
      exact zk_AL_X1 k a
    · intro n' i hn
      exact zk_ent_new n' i hn
  exact W.vret hx hb hr (fun t ht hW9 => ⟨⟨zk_new u0 n0 2 0, rfl, h, hX_v9, by rw [hK9], by rw [ht]; exact hR, by rw [ht]; exact hz⟩, hS.F ht⟩) hS.2.2 dX1_init_12
theorem zk_AL_X2 (k : Nat) (a : Nat × Nat) : zk_ar (3, 0) k = some a ↔ (k, a) ∈ [(5, 0, 6), (6, 4, 14), (7, 0, 14), (8, 0, 14)] := by
  by_cases hk : k < 9
  · obtain ⟨a1, a2⟩ := a
    rcases (show k = 0 ∨ k = 1 ∨ k = 2 ∨ k = 3 ∨ k = 4 ∨ k = 5 ∨ k = 6 ∨ k = 7 ∨ k = 8 by omega) with rfl | rfl | rfl | rfl | rfl | rfl | rfl | rfl | rfl <;> simp [zk_ar] <;> (try (constructor <;> (intro h; (try (obtain ⟨h1, h2⟩ := h)); subst h1; subst h2; (first | rfl | exact ⟨rfl, rfl⟩))))
  · obtain ⟨j, rfl⟩ : ∃ j, k = j + 9 := ⟨k - 9, by omega⟩
    simp [zk_ar]
def zf_X2_init (fu : Nat) (n0 : Nat) (u0 : zk_St) (k : zk_St → Prop) : Prop := k (zk_setI (zk_setI (zk_new u0 n0 3 0) n0 2 (2 : Int32)) n0 4 (1 : Int32))
set_option maxHeartbeats 4000000 in
set_option maxRecDepth 100000 in
theorem zm_X2_init (l : Launch) (hfl : l.stackTraces = false) (G : va_G) (ca : Nat → ClassId) (A : Nat → Prop) (sa : Nat → Nat) (B : Nat → Nat → Nat) (u0 : zk_St) (fu : Nat) (n0 : Nat) (k : zk_St → Prop) (hB : ∀ k : Nat, B n0 k = n0 + zk_off k) (h : zf_X2_init fu n0 u0 k) :
    Met l yX2_init (ws_ yX2_init cX2_init 1 (Option.none : Option Jvm.ClassFile.FieldType)) { frames := 1, cells := 4, slots := 48, locals := 12 } (va_Pc [.ref n0] (zk_PreN G ca A sa B u0 n0 2)) (va_Qv k (zk_PoN G ca A B u0 n0 3 5) A) 4 48 A := by
  refine Met.ofW (cc := cX2_init) (maxL := 1) (ret := (Option.none : Option Jvm.ClassFile.FieldType)) (by decide) rfl ?_
  intro p e s m args below meth c s₁ Bd hml hv
  obtain ⟨rfl, hW, hz, hE, hA⟩ := hv
  have hx := Bd.exec
  have hb := Bd.bytes
  have hr := Bd.returns
  have hts := atoms_spec (ws := (ws_ yX2_init cX2_init 1 (Option.none : Option Jvm.ClassFile.FieldType))) Bd.pre
  have hts : ∀ w ∈ lw_all, w.before _ s = true := fun w h => hts w (List.mem_cons_of_mem _ h)
  have hown : s.vm.findClass RX2 = some m.cls := findClass_of_methodNamed Bd.named
  have hlocks := Bd.notSynchronized
  have hin9 : meth.name = "<init>" := (name_of_methodNamed Bd.named Bd.method).1
  have hK := hE.1
  have hS : va_S A s.heap s.heap [] := va_S.rf
  have hl := lv_entry ([.ref n0]) (n := 1) (Nat.le_of_ble_eq_true rfl)
  rw [lg_entry_eq]
  generalize (lg_sl ([.ref n0]) ++ List.replicate (1 - (lg_sl ([.ref n0])).length) Slot.unset).toArray = ls at hl ⊢
  have hl : lv_has ls 1 [(0, .ref n0)] := hl
  refine lv_aload_n hx hb dX2_init_0 rfl (lv_at hl 0 rfl) ?_
  refine W.objInit hx hb hown (hts _ q149) (hts _ q124) (hts _ q125) rfl (by rw [hml]; exact hl.1) rfl dX2_init_1 (Nat.le_of_ble_eq_true rfl) (Nat.le_of_ble_eq_true rfl) ?_
  refine W.eq (g2 := F0 m 4 ls []) rfl ?_
  refine lv_aload_n hx hb dX2_init_4 rfl (lv_at hl 0 rfl) ?_
  refine lv_iconst (v := (2)) hx hb dX2_init_5 (by decide) ?_
  refine zk_rput (ci := 2) (C := RX2) (T := TX2) (N := 9) (ty := .int) (v := .int (2 : Int32)) (k := 2) hW hz hx hb hts in_X2 tyX2 tyX2_ok nmX2 hown hK hS 0 rfl rfl (hk := by decide) (hlink := hts _ q159) (hsame := fun _ h9 => h9) (hfin := rfl) (hd := by decide +kernel) (hn := rfl) (hfit := rfl) (hl := Nat.le_of_ble_eq_true rfl) (hdg := dX2_init_6) (fun H locs hW hz hS => ?_)
  have hW : zk_Raw G ca A B u0 n0 [(n0, .inr (2, [.int 0, .int 0, .int (2 : Int32), .int 0, .int 0, .null, .null, .null, .null]))] H := hW
  refine lv_aload_n hx hb dX2_init_9 rfl (lv_at hl 0 rfl) ?_
  refine lv_iconst (v := (1)) hx hb dX2_init_10 (by decide) ?_
  refine zk_rput (ci := 2) (C := RX2) (T := TX2) (N := 9) (ty := .int) (v := .int (1 : Int32)) (k := 4) hW hz hx hb hts in_X2 tyX2 tyX2_ok nmX2 hown hK hS 0 rfl rfl (hk := by decide) (hlink := hts _ q164) (hsame := fun _ h9 => h9) (hfin := rfl) (hd := by decide +kernel) (hn := rfl) (hfit := rfl) (hl := Nat.le_of_ble_eq_true rfl) (hdg := dX2_init_11) (fun H locs hW hz hS => ?_)
  have hW : zk_Raw G ca A B u0 n0 [(n0, .inr (2, [.int 0, .int 0, .int (2 : Int32), .int 0, .int (1 : Int32), .null, .null, .null, .null]))] H := hW
  refine lv_aload_n hx hb dX2_init_14 rfl (lv_at hl 0 rfl) ?_
  refine lv_bipush (v := (6)) hx hb dX2_init_15 (by decide) ?_
  refine zk_rnewa (atype := .int) (t := 0) (N' := 6) (ty := .int) (a0 := (6, .inl (fun _ => 0))) hW hz hx hb (hts _ q143) rfl (zk_RAi hK) hS hA (fun _ => rfl) (by decide) rfl (by decide) (Nat.le_of_ble_eq_true rfl) (Nat.le_of_ble_eq_true rfl) dX2_init_17 (fun H hW hz hS => ?_)
  have hW : zk_Raw G ca A B u0 n0 [(n0, .inr (2, [.int 0, .int 0, .int (2 : Int32), .int 0, .int (1 : Int32), .null, .null, .null, .null])), (n0 + 1, .inl (ca 0, 6, .inl (fun _ => 0)))] H := hW
  have hz : H.size = n0 + 2 := hz
  refine zk_rputF (ci := 2) (C := RX2) (T := TX2) (N := 9) (ty := (.array .int)) (v := .ref (n0 + 1)) (k := 5) hW hz hx hb hts in_X2 tyX2 tyX2_ok nmX2 hown hK hS 0 rfl rfl (hk := by decide) (hlink := hts _ q166) (hsame := fun _ h9 => h9) (hfin := rfl) (hin2 := hin9) (hdecl := rfl) (hd := by decide +kernel) (hn := rfl) (hfit := rfl) (hl := Nat.le_of_ble_eq_true rfl) (hdg := dX2_init_19) (fun H locs hW hz hS => ?_)
  have hW : zk_Raw G ca A B u0 n0 [(n0, .inr (2, [.int 0, .int 0, .int (2 : Int32), .int 0, .int (1 : Int32), .ref (n0 + 1), .null, .null, .null])), (n0 + 1, .inl (ca 0, 6, .inl (fun _ => 0)))] H := hW
  refine lv_aload_n hx hb dX2_init_22 rfl (lv_at hl 0 rfl) ?_
  refine lv_bipush (v := (14)) hx hb dX2_init_23 (by decide) ?_
  refine zk_rnewq (t := 4) (N' := 14) hW hz hx hb hown (hts _ q150) hE.2.2.2.2.2.2.1 (zk_RAv hK) hS hA (by decide) rfl (by decide) (Nat.le_of_ble_eq_true rfl) (Nat.le_of_ble_eq_true rfl) dX2_init_25 (fun H hW hz hS => ?_)
  have hW : zk_Raw G ca A B u0 n0 [(n0, .inr (2, [.int 0, .int 0, .int (2 : Int32), .int 0, .int (1 : Int32), .ref (n0 + 1), .null, .null, .null])), (n0 + 1, .inl (ca 0, 6, .inl (fun _ => 0))), (n0 + 2, .inl (ca 4, 14, .inr (.inr (.inr (.inr (fun _ => none))))))] H := hW
  have hz : H.size = n0 + 3 := hz
  refine zk_rputF (ci := 2) (C := RX2) (T := TX2) (N := 9) (ty := (.array (.object "WhichOneAllKnow$Voice"))) (v := .ref (n0 + 2)) (k := 6) hW hz hx hb hts in_X2 tyX2 tyX2_ok nmX2 hown hK hS 0 rfl rfl (hk := by decide) (hlink := hts _ q169) (hsame := fun _ h9 => h9) (hfin := rfl) (hin2 := hin9) (hdecl := rfl) (hd := by decide +kernel) (hn := rfl) (hfit := rfl) (hl := Nat.le_of_ble_eq_true rfl) (hdg := dX2_init_28) (fun H locs hW hz hS => ?_)
  have hW : zk_Raw G ca A B u0 n0 [(n0, .inr (2, [.int 0, .int 0, .int (2 : Int32), .int 0, .int (1 : Int32), .ref (n0 + 1), .ref (n0 + 2), .null, .null])), (n0 + 1, .inl (ca 0, 6, .inl (fun _ => 0))), (n0 + 2, .inl (ca 4, 14, .inr (.inr (.inr (.inr (fun _ => none))))))] H := hW
  refine lv_aload_n hx hb dX2_init_31 rfl (lv_at hl 0 rfl) ?_
  refine lv_bipush (v := (14)) hx hb dX2_init_32 (by decide) ?_
  refine zk_rnewa (atype := .int) (t := 0) (N' := 14) (ty := .int) (a0 := (14, .inl (fun _ => 0))) hW hz hx hb (hts _ q143) rfl (zk_RAi hK) hS hA (fun _ => rfl) (by decide) rfl (by decide) (Nat.le_of_ble_eq_true rfl) (Nat.le_of_ble_eq_true rfl) dX2_init_34 (fun H hW hz hS => ?_)
  have hW : zk_Raw G ca A B u0 n0 [(n0, .inr (2, [.int 0, .int 0, .int (2 : Int32), .int 0, .int (1 : Int32), .ref (n0 + 1), .ref (n0 + 2), .null, .null])), (n0 + 1, .inl (ca 0, 6, .inl (fun _ => 0))), (n0 + 2, .inl (ca 4, 14, .inr (.inr (.inr (.inr (fun _ => none)))))), (n0 + 3, .inl (ca 0, 14, .inl (fun _ => 0)))] H := hW
  have hz : H.size = n0 + 4 := hz
  refine zk_rputF (ci := 2) (C := RX2) (T := TX2) (N := 9) (ty := (.array .int)) (v := .ref (n0 + 3)) (k := 7) hW hz hx hb hts in_X2 tyX2 tyX2_ok nmX2 hown hK hS 0 rfl rfl (hk := by decide) (hlink := hts _ q172) (hsame := fun _ h9 => h9) (hfin := rfl) (hin2 := hin9) (hdecl := rfl) (hd := by decide +kernel) (hn := rfl) (hfit := rfl) (hl := Nat.le_of_ble_eq_true rfl) (hdg := dX2_init_36) (fun H locs hW hz hS => ?_)
  have hW : zk_Raw G ca A B u0 n0 [(n0, .inr (2, [.int 0, .int 0, .int (2 : Int32), .int 0, .int (1 : Int32), .ref (n0 + 1), .ref (n0 + 2), .ref (n0 + 3), .null])), (n0 + 1, .inl (ca 0, 6, .inl (fun _ => 0))), (n0 + 2, .inl (ca 4, 14, .inr (.inr (.inr (.inr (fun _ => none)))))), (n0 + 3, .inl (ca 0, 14, .inl (fun _ => 0)))] H := hW
  refine lv_aload_n hx hb dX2_init_39 rfl (lv_at hl 0 rfl) ?_
  refine lv_bipush (v := (14)) hx hb dX2_init_40 (by decide) ?_
  refine zk_rnewa (atype := .int) (t := 0) (N' := 14) (ty := .int) (a0 := (14, .inl (fun _ => 0))) hW hz hx hb (hts _ q143) rfl (zk_RAi hK) hS hA (fun _ => rfl) (by decide) rfl (by decide) (Nat.le_of_ble_eq_true rfl) (Nat.le_of_ble_eq_true rfl) dX2_init_42 (fun H hW hz hS => ?_)
  have hW : zk_Raw G ca A B u0 n0 [(n0, .inr (2, [.int 0, .int 0, .int (2 : Int32), .int 0, .int (1 : Int32), .ref (n0 + 1), .ref (n0 + 2), .ref (n0 + 3), .null])), (n0 + 1, .inl (ca 0, 6, .inl (fun _ => 0))), (n0 + 2, .inl (ca 4, 14, .inr (.inr (.inr (.inr (fun _ => none)))))), (n0 + 3, .inl (ca 0, 14, .inl (fun _ => 0))), (n0 + 4, .inl (ca 0, 14, .inl (fun _ => 0)))] H := hW
  have hz : H.size = n0 + 5 := hz
  refine zk_rputF (ci := 2) (C := RX2) (T := TX2) (N := 9) (ty := (.array .int)) (v := .ref (n0 + 4)) (k := 8) hW hz hx hb hts in_X2 tyX2 tyX2_ok nmX2 hown hK hS 0 rfl rfl (hk := by decide) (hlink := hts _ q176) (hsame := fun _ h9 => h9) (hfin := rfl) (hin2 := hin9) (hdecl := rfl) (hd := by decide +kernel) (hn := rfl) (hfit := rfl) (hl := Nat.le_of_ble_eq_true rfl) (hdg := dX2_init_44) (fun H locs hW hz hS => ?_)
  have hW : zk_Raw G ca A B u0 n0 [(n0, .inr (2, [.int 0, .int 0, .int (2 : Int32), .int 0, .int (1 : Int32), .ref (n0 + 1), .ref (n0 + 2), .ref (n0 + 3), .ref (n0 + 4)])), (n0 + 1, .inl (ca 0, 6, .inl (fun _ => 0))), (n0 + 2, .inl (ca 4, 14, .inr (.inr (.inr (.inr (fun _ => none)))))), (n0 + 3, .inl (ca 0, 14, .inl (fun _ => 0))), (n0 + 4, .inl (ca 0, 14, .inl (fun _ => 0)))] H := hW
  have hb9_5 : B n0 5 = n0 + 1 := hB 5
  have hb9_6 : B n0 6 = n0 + 2 := hB 6
  have hb9_7 : B n0 7 = n0 + 3 := hB 7
  have hb9_8 : B n0 8 = n0 + 4 := hB 8
  have hK9 : zk_K (zk_setI (zk_setI (zk_new u0 n0 3 0) n0 2 (2 : Int32)) n0 4 (1 : Int32)) n0 = (3, 0) := by simp only [zk_K_setI, zk_K_new, if_pos]
  have hun9 : (zk_K u0 n0).1 = 0 := by obtain ⟨_, _, _, _, q⟩ := hW; exact q
  have hX_v9 : zk_KX u0 (zk_setI (zk_setI (zk_new u0 n0 3 0) n0 2 (2 : Int32)) n0 4 (1 : Int32)) := zk_KX_new hun9
  have hR : zk_Rep G ca A B (zk_setI (zk_setI (zk_new u0 n0 3 0) n0 2 (2 : Int32)) n0 4 (1 : Int32)) H := by
    refine zk_rdone (c := 3) (len := 0) (u := u0) (n := n0) (fs := [.int 0, .int 0, .int (2 : Int32), .int 0, .int (1 : Int32), .ref (n0 + 1), .ref (n0 + 2), .ref (n0 + 3), .ref (n0 + 4)]) (AL := [(5, 0, 6), (6, 4, 14), (7, 0, 14), (8, 0, 14)]) ?_ hK9 (by decide) ?_ ?_ ?_
    · simp only [List.map, zk_cn, zk_V_new, zk_R_new, zk_J_new, zk_V_setI, zk_R_setI, zk_J_setI, hb9_5, hb9_6, hb9_7, hb9_8]
      exact hW
    · simp [zk_lay, zk_fl, zk_fv, zk_I_new, zk_P_new, zk_V_new, zk_R_new, zk_J_new, zk_I_setI, zk_P_setP, zk_P_setI, zk_I_setP, zk_V_setI, zk_R_setI, zk_J_setI, zk_V_setP, zk_R_setP, zk_J_setP, zk_cn, va_rf, hb9_5, hb9_6, hb9_7, hb9_8]
    · intro k a
      exact zk_AL_X2 k a
    · intro n' i hn
      rw [zk_setI_o _ _ (fun q => hn q.1)]
      rw [zk_setI_o _ _ (fun q => hn q.1)]
      exact zk_ent_new n' i hn
  exact W.vret hx hb hr (fun t ht hW9 => ⟨⟨zk_setI (zk_setI (zk_new u0 n0 3 0) n0 2 (2 : Int32)) n0 4 (1 : Int32), rfl, h, hX_v9, by rw [hK9], by rw [ht]; exact hR, by rw [ht]; exact hz⟩, hS.F ht⟩) hS.2.2 dX2_init_47
theorem zk_AL_X3 (k : Nat) (a : Nat × Nat) : zk_ar (4, 0) k = some a ↔ (k, a) ∈ [(0, 0, 44), (1, 0, 44), (2, 0, 44), (3, 0, 14)] := by
  by_cases hk : k < 4
  · obtain ⟨a1, a2⟩ := a
    rcases (show k = 0 ∨ k = 1 ∨ k = 2 ∨ k = 3 by omega) with rfl | rfl | rfl | rfl <;> simp [zk_ar] <;> (try (constructor <;> (intro h; (try (obtain ⟨h1, h2⟩ := h)); subst h1; subst h2; (first | rfl | exact ⟨rfl, rfl⟩))))
  · obtain ⟨j, rfl⟩ : ∃ j, k = j + 4 := ⟨k - 4, by omega⟩
    simp [zk_ar]
def zf_X3_init (fu : Nat) (n0 : Nat) (u0 : zk_St) (k : zk_St → Prop) : Prop := k (zk_new u0 n0 4 0)
set_option maxHeartbeats 4000000 in
set_option maxRecDepth 100000 in
theorem zm_X3_init (l : Launch) (hfl : l.stackTraces = false) (G : va_G) (ca : Nat → ClassId) (A : Nat → Prop) (sa : Nat → Nat) (B : Nat → Nat → Nat) (u0 : zk_St) (fu : Nat) (n0 : Nat) (k : zk_St → Prop) (hB : ∀ k : Nat, B n0 k = n0 + zk_off k) (h : zf_X3_init fu n0 u0 k) :
    Met l yX3_init (ws_ yX3_init cX3_init 1 (Option.none : Option Jvm.ClassFile.FieldType)) { frames := 1, cells := 4, slots := 146, locals := 12 } (va_Pc [.ref n0] (zk_PreN G ca A sa B u0 n0 3)) (va_Qv k (zk_PoN G ca A B u0 n0 4 5) A) 4 146 A := by
  refine Met.ofW (cc := cX3_init) (maxL := 1) (ret := (Option.none : Option Jvm.ClassFile.FieldType)) (by decide) rfl ?_
  intro p e s m args below meth c s₁ Bd hml hv
  obtain ⟨rfl, hW, hz, hE, hA⟩ := hv
  have hx := Bd.exec
  have hb := Bd.bytes
  have hr := Bd.returns
  have hts := atoms_spec (ws := (ws_ yX3_init cX3_init 1 (Option.none : Option Jvm.ClassFile.FieldType))) Bd.pre
  have hts : ∀ w ∈ lw_all, w.before _ s = true := fun w h => hts w (List.mem_cons_of_mem _ h)
  have hown : s.vm.findClass RX3 = some m.cls := findClass_of_methodNamed Bd.named
  have hlocks := Bd.notSynchronized
  have hin9 : meth.name = "<init>" := (name_of_methodNamed Bd.named Bd.method).1
  have hK := hE.1
  have hS : va_S A s.heap s.heap [] := va_S.rf
  have hl := lv_entry ([.ref n0]) (n := 1) (Nat.le_of_ble_eq_true rfl)
  rw [lg_entry_eq]
  generalize (lg_sl ([.ref n0]) ++ List.replicate (1 - (lg_sl ([.ref n0])).length) Slot.unset).toArray = ls at hl ⊢
  have hl : lv_has ls 1 [(0, .ref n0)] := hl
  refine lv_aload_n hx hb dX3_init_0 rfl (lv_at hl 0 rfl) ?_
  refine W.objInit hx hb hown (hts _ q203) (hts _ q124) (hts _ q125) rfl (by rw [hml]; exact hl.1) rfl dX3_init_1 (Nat.le_of_ble_eq_true rfl) (Nat.le_of_ble_eq_true rfl) ?_
  refine W.eq (g2 := F0 m 4 ls []) rfl ?_
  refine lv_aload_n hx hb dX3_init_4 rfl (lv_at hl 0 rfl) ?_
  refine lv_bipush (v := (44)) hx hb dX3_init_5 (by decide) ?_
  refine zk_rnewa (atype := .int) (t := 0) (N' := 44) (ty := .int) (a0 := (44, .inl (fun _ => 0))) hW hz hx hb (hts _ q143) rfl (zk_RAi hK) hS hA (fun _ => rfl) (by decide) rfl (by decide) (Nat.le_of_ble_eq_true rfl) (Nat.le_of_ble_eq_true rfl) dX3_init_7 (fun H hW hz hS => ?_)
  have hW : zk_Raw G ca A B u0 n0 [(n0, .inr (3, [.null, .null, .null, .null, .null, .int 0, .int 0, .int 0])), (n0 + 1, .inl (ca 0, 44, .inl (fun _ => 0)))] H := hW
  have hz : H.size = n0 + 2 := hz
  refine zk_rputF (ci := 3) (C := RX3) (T := TX3) (N := 8) (ty := (.array .int)) (v := .ref (n0 + 1)) (k := 0) hW hz hx hb hts in_X3 tyX3 tyX3_ok nmX3 hown hK hS 0 rfl rfl (hk := by decide) (hlink := hts _ q204) (hsame := fun _ h9 => h9) (hfin := rfl) (hin2 := hin9) (hdecl := rfl) (hd := by decide +kernel) (hn := rfl) (hfit := rfl) (hl := Nat.le_of_ble_eq_true rfl) (hdg := dX3_init_9) (fun H locs hW hz hS => ?_)
  have hW : zk_Raw G ca A B u0 n0 [(n0, .inr (3, [.ref (n0 + 1), .null, .null, .null, .null, .int 0, .int 0, .int 0])), (n0 + 1, .inl (ca 0, 44, .inl (fun _ => 0)))] H := hW
  refine lv_aload_n hx hb dX3_init_12 rfl (lv_at hl 0 rfl) ?_
  refine lv_bipush (v := (44)) hx hb dX3_init_13 (by decide) ?_
  refine zk_rnewa (atype := .int) (t := 0) (N' := 44) (ty := .int) (a0 := (44, .inl (fun _ => 0))) hW hz hx hb (hts _ q143) rfl (zk_RAi hK) hS hA (fun _ => rfl) (by decide) rfl (by decide) (Nat.le_of_ble_eq_true rfl) (Nat.le_of_ble_eq_true rfl) dX3_init_15 (fun H hW hz hS => ?_)
  have hW : zk_Raw G ca A B u0 n0 [(n0, .inr (3, [.ref (n0 + 1), .null, .null, .null, .null, .int 0, .int 0, .int 0])), (n0 + 1, .inl (ca 0, 44, .inl (fun _ => 0))), (n0 + 2, .inl (ca 0, 44, .inl (fun _ => 0)))] H := hW
  have hz : H.size = n0 + 3 := hz
  refine zk_rputF (ci := 3) (C := RX3) (T := TX3) (N := 8) (ty := (.array .int)) (v := .ref (n0 + 2)) (k := 1) hW hz hx hb hts in_X3 tyX3 tyX3_ok nmX3 hown hK hS 0 rfl rfl (hk := by decide) (hlink := hts _ q206) (hsame := fun _ h9 => h9) (hfin := rfl) (hin2 := hin9) (hdecl := rfl) (hd := by decide +kernel) (hn := rfl) (hfit := rfl) (hl := Nat.le_of_ble_eq_true rfl) (hdg := dX3_init_17) (fun H locs hW hz hS => ?_)
  have hW : zk_Raw G ca A B u0 n0 [(n0, .inr (3, [.ref (n0 + 1), .ref (n0 + 2), .null, .null, .null, .int 0, .int 0, .int 0])), (n0 + 1, .inl (ca 0, 44, .inl (fun _ => 0))), (n0 + 2, .inl (ca 0, 44, .inl (fun _ => 0)))] H := hW
  refine lv_aload_n hx hb dX3_init_20 rfl (lv_at hl 0 rfl) ?_
  refine lv_bipush (v := (44)) hx hb dX3_init_21 (by decide) ?_
  refine zk_rnewa (atype := .int) (t := 0) (N' := 44) (ty := .int) (a0 := (44, .inl (fun _ => 0))) hW hz hx hb (hts _ q143) rfl (zk_RAi hK) hS hA (fun _ => rfl) (by decide) rfl (by decide) (Nat.le_of_ble_eq_true rfl) (Nat.le_of_ble_eq_true rfl) dX3_init_23 (fun H hW hz hS => ?_)
  have hW : zk_Raw G ca A B u0 n0 [(n0, .inr (3, [.ref (n0 + 1), .ref (n0 + 2), .null, .null, .null, .int 0, .int 0, .int 0])), (n0 + 1, .inl (ca 0, 44, .inl (fun _ => 0))), (n0 + 2, .inl (ca 0, 44, .inl (fun _ => 0))), (n0 + 3, .inl (ca 0, 44, .inl (fun _ => 0)))] H := hW
  have hz : H.size = n0 + 4 := hz
  refine zk_rputF (ci := 3) (C := RX3) (T := TX3) (N := 8) (ty := (.array .int)) (v := .ref (n0 + 3)) (k := 2) hW hz hx hb hts in_X3 tyX3 tyX3_ok nmX3 hown hK hS 0 rfl rfl (hk := by decide) (hlink := hts _ q208) (hsame := fun _ h9 => h9) (hfin := rfl) (hin2 := hin9) (hdecl := rfl) (hd := by decide +kernel) (hn := rfl) (hfit := rfl) (hl := Nat.le_of_ble_eq_true rfl) (hdg := dX3_init_25) (fun H locs hW hz hS => ?_)
  have hW : zk_Raw G ca A B u0 n0 [(n0, .inr (3, [.ref (n0 + 1), .ref (n0 + 2), .ref (n0 + 3), .null, .null, .int 0, .int 0, .int 0])), (n0 + 1, .inl (ca 0, 44, .inl (fun _ => 0))), (n0 + 2, .inl (ca 0, 44, .inl (fun _ => 0))), (n0 + 3, .inl (ca 0, 44, .inl (fun _ => 0)))] H := hW
  refine lv_aload_n hx hb dX3_init_28 rfl (lv_at hl 0 rfl) ?_
  refine lv_bipush (v := (14)) hx hb dX3_init_29 (by decide) ?_
  refine zk_rnewa (atype := .int) (t := 0) (N' := 14) (ty := .int) (a0 := (14, .inl (fun _ => 0))) hW hz hx hb (hts _ q143) rfl (zk_RAi hK) hS hA (fun _ => rfl) (by decide) rfl (by decide) (Nat.le_of_ble_eq_true rfl) (Nat.le_of_ble_eq_true rfl) dX3_init_31 (fun H hW hz hS => ?_)
  have hW : zk_Raw G ca A B u0 n0 [(n0, .inr (3, [.ref (n0 + 1), .ref (n0 + 2), .ref (n0 + 3), .null, .null, .int 0, .int 0, .int 0])), (n0 + 1, .inl (ca 0, 44, .inl (fun _ => 0))), (n0 + 2, .inl (ca 0, 44, .inl (fun _ => 0))), (n0 + 3, .inl (ca 0, 44, .inl (fun _ => 0))), (n0 + 4, .inl (ca 0, 14, .inl (fun _ => 0)))] H := hW
  have hz : H.size = n0 + 5 := hz
  refine zk_rputF (ci := 3) (C := RX3) (T := TX3) (N := 8) (ty := (.array .int)) (v := .ref (n0 + 4)) (k := 3) hW hz hx hb hts in_X3 tyX3 tyX3_ok nmX3 hown hK hS 0 rfl rfl (hk := by decide) (hlink := hts _ q210) (hsame := fun _ h9 => h9) (hfin := rfl) (hin2 := hin9) (hdecl := rfl) (hd := by decide +kernel) (hn := rfl) (hfit := rfl) (hl := Nat.le_of_ble_eq_true rfl) (hdg := dX3_init_33) (fun H locs hW hz hS => ?_)
  have hW : zk_Raw G ca A B u0 n0 [(n0, .inr (3, [.ref (n0 + 1), .ref (n0 + 2), .ref (n0 + 3), .ref (n0 + 4), .null, .int 0, .int 0, .int 0])), (n0 + 1, .inl (ca 0, 44, .inl (fun _ => 0))), (n0 + 2, .inl (ca 0, 44, .inl (fun _ => 0))), (n0 + 3, .inl (ca 0, 44, .inl (fun _ => 0))), (n0 + 4, .inl (ca 0, 14, .inl (fun _ => 0)))] H := hW
  have hb9_0 : B n0 0 = n0 + 1 := hB 0
  have hb9_1 : B n0 1 = n0 + 2 := hB 1
  have hb9_2 : B n0 2 = n0 + 3 := hB 2
  have hb9_3 : B n0 3 = n0 + 4 := hB 3
  have hK9 : zk_K (zk_new u0 n0 4 0) n0 = (4, 0) := by simp only [zk_K_setI, zk_K_new, if_pos]
  have hun9 : (zk_K u0 n0).1 = 0 := by obtain ⟨_, _, _, _, q⟩ := hW; exact q
  have hX_v9 : zk_KX u0 (zk_new u0 n0 4 0) := zk_KX_new hun9
  have hR : zk_Rep G ca A B (zk_new u0 n0 4 0) H := by
    refine zk_rdone (c := 4) (len := 0) (u := u0) (n := n0) (fs := [.ref (n0 + 1), .ref (n0 + 2), .ref (n0 + 3), .ref (n0 + 4), .null, .int 0, .int 0, .int 0]) (AL := [(0, 0, 44), (1, 0, 44), (2, 0, 44), (3, 0, 14)]) ?_ hK9 (by decide) ?_ ?_ ?_
    · simp only [List.map, zk_cn, zk_V_new, zk_R_new, zk_J_new, zk_V_setI, zk_R_setI, zk_J_setI, hb9_0, hb9_1, hb9_2, hb9_3]
      exact hW
    · simp [zk_lay, zk_fl, zk_fv, zk_I_new, zk_P_new, zk_V_new, zk_R_new, zk_J_new, zk_I_setI, zk_P_setP, zk_P_setI, zk_I_setP, zk_V_setI, zk_R_setI, zk_J_setI, zk_V_setP, zk_R_setP, zk_J_setP, zk_cn, va_rf, hb9_0, hb9_1, hb9_2, hb9_3]
    · intro k a
      exact zk_AL_X3 k a
    · intro n' i hn
      exact zk_ent_new n' i hn
  exact W.vret hx hb hr (fun t ht hW9 => ⟨⟨zk_new u0 n0 4 0, rfl, h, hX_v9, by rw [hK9], by rw [ht]; exact hR, by rw [ht]; exact hz⟩, hS.F ht⟩) hS.2.2 dX3_init_36
