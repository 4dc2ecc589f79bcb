/-! ROWS OF FAMILIES (voices, rows), NEW OBJECTS, CASTS -/
theorem zk_jA (k : Nat) (h : k = 23 ∨ k = 24 := by decide) : k = 23 ∨ k = 24 := h
theorem zk_arK {K : Nat × Nat} {k : Nat} (hk : k = 23 ∨ k = 24) (h : K.1 = 13) : zk_ar K k = some (0, 83) := by
  rcases hk with rfl | rfl
  · exact zk_arC h (fun _ => rfl)
  · exact zk_arC h (fun _ => rfl)
/-- the codes of a class's own kind: what a reference of that class may hold -/
def zk_sub (T : Nat) : List Nat := match T with
  | 4 => [5, 6, 7, 8, 9, 10, 11]
  | 5 => [6, 8]
  | 6 => [7, 10]
  | 7 => [8]
  | 8 => [9, 11]
  | 9 => [10]
  | 10 => [11]
  | _ => [16, 17, 18, 19]
def zk_tn (T : Nat) : String := match T with
  | 4 => "WhichOneAllKnow$Voice"
  | 5 => "WhichOneAllKnow$Leading"
  | 6 => "WhichOneAllKnow$Joining"
  | 7 => "WhichOneAllKnow$Boomer"
  | 8 => "WhichOneAllKnow$Astray"
  | 9 => "WhichOneAllKnow$Mime"
  | 10 => "WhichOneAllKnow$Dragger"
  | _ => "WhichOneAllKnow$Row"
theorem zk_vC {x c : Nat} (h : x = c) (h1 : 5 ≤ c) (h2 : c ≤ 11) : zk_isV x := by
  subst h
  exact ⟨h1, h2⟩
theorem zk_rC {x c : Nat} (h : x = c) (h1 : 16 ≤ c) (h2 : c ≤ 19) : zk_isR x := by
  subst h
  exact ⟨h1, h2⟩
theorem zk_mV {x T : Nat} (hT : 4 ≤ T ∧ T ≤ 10) (h : x ∈ zk_sub T) : zk_isV x := by
  obtain ⟨h1, h2⟩ := hT
  have e : T = 4 ∨ T = 5 ∨ T = 6 ∨ T = 7 ∨ T = 8 ∨ T = 9 ∨ T = 10 := by omega
  rcases e with rfl | rfl | rfl | rfl | rfl | rfl | rfl <;> simp [zk_sub] at h <;> unfold zk_isV <;> omega
theorem zk_mR {x : Nat} (h : x ∈ zk_sub 14) : zk_isR x := by
  simp [zk_sub] at h
  unfold zk_isR
  omega
theorem zk_kxVR {u u1 : zk_St} {n : Nat} (h : zk_KX u u1) (hk : zk_isV (zk_K u n).1 ∨ zk_isR (zk_K u n).1) : zk_isV (zk_K u1 n).1 ∨ zk_isR (zk_K u1 n).1 := by
  rcases hk with hk | hk
  · exact Or.inl (zk_kxV h hk)
  · exact Or.inr (zk_kxR h hk)
theorem zk_isV_7 {x : Nat} (h : zk_isV x) : x = 5 ∨ x = 6 ∨ x = 7 ∨ x = 8 ∨ x = 9 ∨ x = 10 ∨ x = 11 := by
  obtain ⟨h1, h2⟩ := h
  omega
theorem zk_isR_4 {x : Nat} (h : zk_isR x) : x = 16 ∨ x = 17 ∨ x = 18 ∨ x = 19 := by
  obtain ⟨h1, h2⟩ := h
  omega
theorem zdf_X4 : ∀ j, j < 4 → defaultValue (tyX4 j) = vp_V [.int 0, .int 0, .int 0, .int 0] j := fun j hj => by rcases (show j = 0 ∨ j = 1 ∨ j = 2 ∨ j = 3 by omega) with rfl | rfl | rfl | rfl <;> rfl
theorem zdf_X5 : ∀ j, j < 4 → defaultValue (tyX5 j) = vp_V [.int 0, .int 0, .int 0, .int 0] j := fun j hj => by rcases (show j = 0 ∨ j = 1 ∨ j = 2 ∨ j = 3 by omega) with rfl | rfl | rfl | rfl <;> rfl
theorem zdf_X6 : ∀ j, j < 4 → defaultValue (tyX6 j) = vp_V [.int 0, .int 0, .int 0, .int 0] j := fun j hj => by rcases (show j = 0 ∨ j = 1 ∨ j = 2 ∨ j = 3 by omega) with rfl | rfl | rfl | rfl <;> rfl
theorem zdf_X7 : ∀ j, j < 4 → defaultValue (tyX7 j) = vp_V [.int 0, .int 0, .int 0, .int 0] j := fun j hj => by rcases (show j = 0 ∨ j = 1 ∨ j = 2 ∨ j = 3 by omega) with rfl | rfl | rfl | rfl <;> rfl
theorem zdf_X8 : ∀ j, j < 4 → defaultValue (tyX8 j) = vp_V [.int 0, .int 0, .int 0, .int 0] j := fun j hj => by rcases (show j = 0 ∨ j = 1 ∨ j = 2 ∨ j = 3 by omega) with rfl | rfl | rfl | rfl <;> rfl
theorem zdf_X9 : ∀ j, j < 4 → defaultValue (tyX9 j) = vp_V [.int 0, .int 0, .int 0, .int 0] j := fun j hj => by rcases (show j = 0 ∨ j = 1 ∨ j = 2 ∨ j = 3 by omega) with rfl | rfl | rfl | rfl <;> rfl
theorem zdf_X10 : ∀ j, j < 4 → defaultValue (tyX10 j) = vp_V [.int 0, .int 0, .int 0, .int 0] j := fun j hj => by rcases (show j = 0 ∨ j = 1 ∨ j = 2 ∨ j = 3 by omega) with rfl | rfl | rfl | rfl <;> rfl
theorem zdf_X11 : ∀ j, j < 1 → defaultValue (tyX11 j) = vp_V [.null] j := fun j hj => by rcases (show j = 0 by omega) with rfl; rfl
theorem zdf_X19 : ∀ j, j < 4 → defaultValue (tyX19 j) = vp_V [.null, .null, .int 0, .int 0] j := fun j hj => by rcases (show j = 0 ∨ j = 1 ∨ j = 2 ∨ j = 3 by omega) with rfl | rfl | rfl | rfl <;> rfl
theorem zdf_X13 : ∀ j, j < 7 → defaultValue (tyX13 j) = vp_V [.null, .null, .null, .null, .null, .int 0, .int 0] j := fun j hj => by rcases (show j = 0 ∨ j = 1 ∨ j = 2 ∨ j = 3 ∨ j = 4 ∨ j = 5 ∨ j = 6 by omega) with rfl | rfl | rfl | rfl | rfl | rfl | rfl <;> rfl
theorem zdf_X20 : ∀ j, j < 7 → defaultValue (tyX20 j) = vp_V [.null, .null, .null, .null, .null, .int 0, .int 0] j := fun j hj => by rcases (show j = 0 ∨ j = 1 ∨ j = 2 ∨ j = 3 ∨ j = 4 ∨ j = 5 ∨ j = 6 by omega) with rfl | rfl | rfl | rfl | rfl | rfl | rfl <;> rfl
/-- a name that no object has -/
theorem zk_unused {G : va_G} {ca : Nat → ClassId} {A : Nat → Prop} {B : Nat → Nat → Nat} {u : zk_St} {LN : List (Nat × Nat)} {q : Nat} {e : va_E} (hL : ∀ n i, zk_ent ca B u n i ≠ none ↔ (n, i) ∈ LN) (hD : va_D A (zk_Wl ca B u LN ++ [(q, e)])) : (zk_K u q).1 = 0 := by
  by_cases h : (zk_K u q).1 = 0
  · exact h
  · exfalso
    obtain ⟨q0, hq0, hq⟩ := zk_pos hL (zk_entO (ca := ca) (B := B) (u := u) (n := q) rfl h)
    have hl : q0 < (zk_Wl ca B u LN).length := (List.getElem?_eq_some_iff.mp hq).1
    have h1 : (zk_Wl ca B u LN ++ [(q, e)])[q0]? = some (zk_ax B q 0, .inr ((zk_K u q).1 - 1, zk_fl B u q 0 (zk_lay (zk_K u q).1))) := by rw [List.getElem?_append_left hl]; exact hq
    have h2 : (zk_Wl ca B u LN ++ [(q, e)])[(zk_Wl ca B u LN).length]? = some (q, e) := by rw [List.getElem?_append_right (Nat.le_refl _), Nat.sub_self]; rfl
    have := hD.1 _ _ _ _ h1 h2 rfl
    omega
theorem zk_n1o {α : Type} {f : Nat → α} {q n : Nat} {v : α} (h : n ≠ q) : zk_n1 f q v n = f n := by rw [zk_n1, if_neg h]
theorem zk_ent_new {ca : Nat → ClassId} {B : Nat → Nat → Nat} {u : zk_St} {q c len : Nat} (n i : Nat) (hn : n ≠ q) : zk_ent ca B (zk_new u q c len) n i = zk_ent ca B u n i :=
  zk_ent_same (u := u) (u' := zk_new u q c len) (zk_n1o (f := u.2.2.2.2.2) hn) (fun k => congrFun (zk_n1o (f := u.1) hn) k) (fun k => congrFun (zk_n1o (f := u.2.1) hn) k) i (fun k _ => congrFun (zk_n1o (f := u.2.2.1) hn) k) (fun k _ => congrFun (zk_n1o (f := u.2.2.2.1) hn) k) (fun k _ => congrFun (zk_n1o (f := u.2.2.2.2.1) hn) k)
theorem zk_K_new {u : zk_St} {q c len : Nat} (n : Nat) : zk_K (zk_new u q c len) n = if n = q then (c, len) else zk_K u n := rfl
theorem zk_I_new {u : zk_St} {q c len : Nat} (n k : Nat) : zk_I (zk_new u q c len) n k = if n = q then 0 else zk_I u n k := by
  show (zk_n1 u.1 q (fun _ => 0) n) k = _
  unfold zk_n1
  split <;> rfl
theorem zk_P_new {u : zk_St} {q c len : Nat} (n k : Nat) : zk_P (zk_new u q c len) n k = if n = q then none else zk_P u n k := by
  show (zk_n1 u.2.1 q (fun _ => none) n) k = _
  unfold zk_n1
  split <;> rfl
theorem zk_KX_new {u : zk_St} {q c len : Nat} (h : (zk_K u q).1 = 0) : zk_KX u (zk_new u q c len) := fun n hn => by
  rw [zk_K_new, if_neg (fun e => hn (by rw [e]; exact h))]
/-- the default fields of a class without owned arrays -/
def zk_dv (s : Nat) : Value := match s with
  | 0 => .int 0
  | _ => .null
theorem zk_fl_dv {B : Nat → Nat → Nat} {u : zk_St} {n : Nat} (hI : ∀ k, zk_I u n k = 0) (hP : ∀ k, zk_P u n k = none) : ∀ (L : List Nat) (k0 : Nat), (∀ s ∈ L, s < 2) → zk_fl B u n k0 L = L.map zk_dv := by
  intro L
  induction L with
  | nil => intros; rfl
  | cons s L ih =>
    intro k0 h
    simp only [zk_fl, List.map_cons]
    rw [ih (k0 + 1) (fun s hs => h s (List.mem_cons_of_mem _ hs))]
    congr 1
    have := h s List.mem_cons_self
    rcases (show s = 0 ∨ s = 1 by omega) with rfl | rfl
    · show Value.int (zk_I u n k0) = _; rw [hI]; rfl
    · show va_rf (zk_P u n k0) = _; rw [hP]; rfl
section ZKROW2
variable {p : Program} {l : Launch} {e : Env} {R : Room} {s : State} {m : MethodId} {args : Array Value} {below : List Frame} {meth : Method} {c : Code} {H : Heap} {locs : List Loc} {cells slots : Nat} {Q : State → Prop}
variable {cc : ByteArray} {pc : Nat} {ls : Array Slot} {rest st0 : List Value} {G : va_G} {ca : Nat → ClassId} {A : Nat → Prop} {sa : Nat → Nat} {B : Nat → Nat → Nat} {u : zk_St} {H0 : Heap}
theorem zk_getIV {own ref : String} {index n k : Nat} (hexec : p.tables.exec = Jvm.exec) (hb : c.code = cc) (hts : ∀ w ∈ lw_all, w.before args s = true) (hown : s.vm.findClass own = some m.cls) (hK : va_K G zk_cl (zk_tys ca) s) (hR : zk_Rep G ca A B u H) (hk : zk_isV (zk_K u n).1) (hk4 : k < 4)
    (hlink : (Cond.fieldLink own index ref (TX4 k).2.1 (TX4 k).2.2.1).before args s = true) (hsame : ∀ x, s.fieldFound? (TX4 k).1 (TX4 k).2.1 (TX4 k).2.2.1 = some x → s.fieldFound? ref (TX4 k).2.1 (TX4 k).2.2.1 = some x) (hdg : decode cc pc = .ok (.getfield index, 3))
    (kk : W p l e R s m args below meth c H locs cells slots Q (F0 m (pc + 3) ls (.int (zk_I u n k) :: rest))) : W p l e R s m args below meth c H locs cells slots Q (F0 m pc ls (.ref n :: rest)) := by
  have hs : ∀ ci, 4 ≤ ci → ci ≤ 10 → (zk_lay (ci + 1))[k]? = some 0 := by
    intro ci h1 h2
    rcases (show ci = 4 ∨ ci = 5 ∨ ci = 6 ∨ ci = 7 ∨ ci = 8 ∨ ci = 9 ∨ ci = 10 by omega) with rfl | rfl | rfl | rfl | rfl | rfl | rfl <;> (rcases (show k = 0 ∨ k = 1 ∨ k = 2 ∨ k = 3 by omega) with rfl | rfl | rfl | rfl <;> rfl)
  rcases zk_isV_7 hk with h | h | h | h | h | h | h
  · exact zk_getI (ci := 4) (k := k) (C := RX4) (T := TX4) (N := 4) hexec hb hts in_X4 hown hK hR h rfl hk4 (hs 4 (by decide) (by decide)) hlink hsame hdg kk
  · exact zk_getI (ci := 5) (k := k) (C := RX5) (T := TX5) (N := 4) hexec hb hts in_X5 hown hK hR h rfl hk4 (hs 5 (by decide) (by decide)) hlink hsame hdg kk
  · exact zk_getI (ci := 6) (k := k) (C := RX6) (T := TX6) (N := 4) hexec hb hts in_X6 hown hK hR h rfl hk4 (hs 6 (by decide) (by decide)) hlink hsame hdg kk
  · exact zk_getI (ci := 7) (k := k) (C := RX7) (T := TX7) (N := 4) hexec hb hts in_X7 hown hK hR h rfl hk4 (hs 7 (by decide) (by decide)) hlink hsame hdg kk
  · exact zk_getI (ci := 8) (k := k) (C := RX8) (T := TX8) (N := 4) hexec hb hts in_X8 hown hK hR h rfl hk4 (hs 8 (by decide) (by decide)) hlink hsame hdg kk
  · exact zk_getI (ci := 9) (k := k) (C := RX9) (T := TX9) (N := 4) hexec hb hts in_X9 hown hK hR h rfl hk4 (hs 9 (by decide) (by decide)) hlink hsame hdg kk
  · exact zk_getI (ci := 10) (k := k) (C := RX10) (T := TX10) (N := 4) hexec hb hts in_X10 hown hK hR h rfl hk4 (hs 10 (by decide) (by decide)) hlink hsame hdg kk
theorem zk_putFV {own ref : String} {index n k : Nat} {v : Int32} {f : zk_St → Prop} (h : zk_lt (zk_setI u n k v) f) (hexec : p.tables.exec = Jvm.exec) (hb : c.code = cc) (hts : ∀ w ∈ lw_all, w.before args s = true) (hown : s.vm.findClass own = some m.cls) (hK : va_K G zk_cl (zk_tys ca) s) (hR : zk_Rep G ca A B u H) (hS : va_S A H0 H locs) (hk : zk_isV (zk_K u n).1) (hk4 : k < 4)
    (hlink : (Cond.fieldLink own index ref (TX4 k).2.1 (TX4 k).2.2.1).before args s = true) (hin2 : meth.name = "<init>") (hdecl : (TX4 k).1 = own) (hsame : ∀ x, s.fieldFound? (TX4 k).1 (TX4 k).2.1 (TX4 k).2.2.1 = some x → s.fieldFound? ref (TX4 k).2.1 (TX4 k).2.2.1 = some x) (hdg : decode cc pc = .ok (.putfield index, 3))
    (kk : ∀ (u1 : zk_St) (H1 : Heap) (locs1 : List Loc), f u1 → zk_KX u u1 → zk_Rep G ca A B u1 H1 → va_S A H0 H1 locs1 → W p l e R s m args below meth c H1 locs1 cells slots Q (F0 m (pc + 3) ls rest)) : W p l e R s m args below meth c H locs cells slots Q (F0 m pc ls (.int v :: .ref n :: rest)) := by
  have hs : ∀ ci, 4 ≤ ci → ci ≤ 10 → (zk_lay (ci + 1))[k]? = some 0 := by
    intro ci h1 h2
    rcases (show ci = 4 ∨ ci = 5 ∨ ci = 6 ∨ ci = 7 ∨ ci = 8 ∨ ci = 9 ∨ ci = 10 by omega) with rfl | rfl | rfl | rfl | rfl | rfl | rfl <;> (rcases (show k = 0 ∨ k = 1 ∨ k = 2 ∨ k = 3 by omega) with rfl | rfl | rfl | rfl <;> rfl)
  have hf : (TX4 k).2.2.2 = true := by rcases (show k = 0 ∨ k = 1 ∨ k = 2 ∨ k = 3 by omega) with rfl | rfl | rfl | rfl <;> rfl
  have hd : parseFieldDescriptor (TX4 k).2.2.1 = some .int := by rcases (show k = 0 ∨ k = 1 ∨ k = 2 ∨ k = 3 by omega) with rfl | rfl | rfl | rfl <;> decide +kernel
  rcases zk_isV_7 hk with q | q | q | q | q | q | q
  · exact zk_putF (ci := 4) (k := k) (C := RX4) (T := TX4) (N := 4) h hexec hb hts in_X4 tyX4 tyX4_ok nmX4 hown hK hR hS q rfl hk4 (hs 4 (by decide) (by decide)) hlink hsame hf hin2 hdecl hd rfl rfl hdg kk
  · exact zk_putF (ci := 5) (k := k) (C := RX5) (T := TX5) (N := 4) h hexec hb hts in_X5 tyX5 tyX5_ok nmX5 hown hK hR hS q rfl hk4 (hs 5 (by decide) (by decide)) hlink hsame hf hin2 hdecl hd rfl rfl hdg kk
  · exact zk_putF (ci := 6) (k := k) (C := RX6) (T := TX6) (N := 4) h hexec hb hts in_X6 tyX6 tyX6_ok nmX6 hown hK hR hS q rfl hk4 (hs 6 (by decide) (by decide)) hlink hsame hf hin2 hdecl hd rfl rfl hdg kk
  · exact zk_putF (ci := 7) (k := k) (C := RX7) (T := TX7) (N := 4) h hexec hb hts in_X7 tyX7 tyX7_ok nmX7 hown hK hR hS q rfl hk4 (hs 7 (by decide) (by decide)) hlink hsame hf hin2 hdecl hd rfl rfl hdg kk
  · exact zk_putF (ci := 8) (k := k) (C := RX8) (T := TX8) (N := 4) h hexec hb hts in_X8 tyX8 tyX8_ok nmX8 hown hK hR hS q rfl hk4 (hs 8 (by decide) (by decide)) hlink hsame hf hin2 hdecl hd rfl rfl hdg kk
  · exact zk_putF (ci := 9) (k := k) (C := RX9) (T := TX9) (N := 4) h hexec hb hts in_X9 tyX9 tyX9_ok nmX9 hown hK hR hS q rfl hk4 (hs 9 (by decide) (by decide)) hlink hsame hf hin2 hdecl hd rfl rfl hdg kk
  · exact zk_putF (ci := 10) (k := k) (C := RX10) (T := TX10) (N := 4) h hexec hb hts in_X10 tyX10 tyX10_ok nmX10 hown hK hR hS q rfl hk4 (hs 10 (by decide) (by decide)) hlink hsame hf hin2 hdecl hd rfl rfl hdg kk
theorem zk_newO {own C : String} {T : u_T} {N index ci : Nat} {Ts : List Cond} {f : Nat → zk_St → Prop} (h : zk_al u (ci + 1) 0 f) (hexec : p.tables.exec = Jvm.exec) (hb : c.code = cc) (hts : ∀ w ∈ Ts, w.before args s = true) (hin : ∀ w ∈ u_ws C T N, w ∈ Ts) (ty : Nat → FieldType) (hty : ∀ k, k < N → parseFieldDescriptor (T k).2.2.1 = some (ty k)) (hown : s.vm.findClass own = some m.cls) (hcl : (Cond.classLink own index C).before args s = true) (hinst : (Cond.instantiable C N).before args s = true) (hini : (Cond.initialized C).before args s = true)
    (hK : va_K G zk_cl (zk_tys ca) s) (hR : zk_Rep G ca A B u H) (hS : va_S A H0 H locs) (hA : zk_Fr A B H0.size) (hc : zk_cl[ci]? = some (C, T, N)) (hfs : ∀ j, j < N → defaultValue (ty j) = vp_V ((zk_lay (ci + 1)).map zk_dv) j) (h2 : ∀ s ∈ zk_lay (ci + 1), s < 2) (har : ∀ k, zk_ar (ci + 1, 0) k = none) (hcells : cells + 1 ≤ R.cells) (hslots : slots + N ≤ R.slots) (hdg : decode cc pc = .ok (.new index, 3))
    (kk : ∀ (q : Nat) (u1 : zk_St) (H1 : Heap), f q u1 → zk_KX u u1 → (zk_K u1 q).1 = ci + 1 → zk_Rep G ca A B u1 H1 → va_S A H0 H1 locs → W p l e R s m args below meth c H1 locs (cells + 1) (slots + N) Q (F0 m (pc + 3) ls (.ref q :: rest))) : W p l e R s m args below meth c H locs cells slots Q (F0 m pc ls rest) := by
  obtain ⟨LN, hL, hP, hD⟩ := hR
  refine va_new (ci := ci) (fs := (zk_lay (ci + 1)).map zk_dv) hexec hb hts hin ty hty hown hcl hinst hini hK hP hD hS (fun q h => (hA q h).1) hc hfs hcells hslots hdg (fun q H1 hP1 hD1 hS1 => ?_)
  have hq : (zk_K u q).1 = 0 := zk_unused (G := G) hL hD1
  refine kk q _ H1 (h q hq) (zk_KX_new hq) (by rw [zk_K_new, if_pos rfl]) ?_ hS1
  have hnq : ∀ n i, (n, i) ∈ LN → n ≠ q := by
    intro n i hm e
    subst e
    have h9 := (hL n i).mpr hm
    cases i with
    | zero => simp only [zk_ent, if_pos hq] at h9; exact h9 rfl
    | succ k => simp only [zk_ent, zk_ar_0 hq, Option.map_none] at h9; exact h9 rfl
  have e0 : zk_Wl ca B (zk_new u q (ci + 1) 0) (LN ++ [(q, 0)]) = zk_Wl ca B u LN ++ [(q, .inr (ci, (zk_lay (ci + 1)).map zk_dv))] := by
    simp only [zk_Wl, List.map_append, List.map_cons, List.map_nil]
    congr 1
    · refine List.map_congr_left (fun x hx => ?_)
      obtain ⟨n, i⟩ := x
      simp only [zk_cell, zk_ent_new n i (hnq n i hx)]
    · congr 1
      have ek : (zk_K (zk_new u q (ci + 1) 0) q).1 = ci + 1 := by rw [zk_K_new, if_pos rfl]
      simp only [zk_cell, zk_entO ek (Nat.succ_ne_zero _), Option.getD_some, zk_ax]
      rw [zk_fl_dv (fun k => by rw [zk_I_new, if_pos rfl]) (fun k => by rw [zk_P_new, if_pos rfl]) _ 0 h2]
      rfl
  refine ⟨LN ++ [(q, 0)], fun n i => ?_, by rw [e0]; exact hP1, by rw [e0]; exact hD1⟩
  by_cases hn : n = q
  · subst hn
    cases i with
    | zero =>
      have ek : (zk_K (zk_new u n (ci + 1) 0) n).1 = ci + 1 := by rw [zk_K_new, if_pos rfl]
      rw [zk_entO ek (Nat.succ_ne_zero _)]
      exact ⟨fun _ => List.mem_append_right _ List.mem_cons_self, fun _ q => by cases q⟩
    | succ k =>
      have e1 : zk_ent ca B (zk_new u n (ci + 1) 0) n (k + 1) = none := by
        simp only [zk_ent, zk_K_new, if_true, har, Option.map_none]
      rw [e1]
      refine ⟨fun q => absurd rfl q, fun hm => ?_⟩
      rcases List.mem_append.mp hm with hm | hm
      · exact absurd rfl (hnq n (k + 1) hm)
      · have := List.mem_singleton.mp hm
        cases this
  · rw [zk_ent_new n i hn, hL n i]
    constructor
    · intro hm; exact List.mem_append_left _ hm
    · intro hm
      rcases List.mem_append.mp hm with hm | hm
      · exact hm
      · exact absurd (congrArg Prod.fst (List.mem_singleton.mp hm)) hn
theorem zk_l5 {a b c d e : Cond} (h1 : a ∈ lw_all) (h2 : b ∈ lw_all) (h3 : c ∈ lw_all) (h4 : d ∈ lw_all) (h5 : e ∈ lw_all) : ∀ w ∈ [a, b, c, d, e], w ∈ lw_all := by
  intro w hw
  simp only [List.mem_cons, List.not_mem_nil, or_false] at hw
  rcases hw with e | e | e | e | e
  · rw [e]; exact h1
  · rw [e]; exact h2
  · rw [e]; exact h3
  · rw [e]; exact h4
  · rw [e]; exact h5
/-- the class's name and number of a voice -/
theorem zk_vcls {n : Nat} (hk : zk_isV (zk_K u n).1) : ∃ (ci : Nat) (C : String) (T : u_T) (N : Nat), (zk_K u n).1 = ci + 1 ∧ zk_cl[ci]? = some (C, T, N) := by
  rcases zk_isV_7 hk with h | h | h | h | h | h | h
  · exact ⟨4, _, _, _, h, rfl⟩
  · exact ⟨5, _, _, _, h, rfl⟩
  · exact ⟨6, _, _, _, h, rfl⟩
  · exact ⟨7, _, _, _, h, rfl⟩
  · exact ⟨8, _, _, _, h, rfl⟩
  · exact ⟨9, _, _, _, h, rfl⟩
  · exact ⟨10, _, _, _, h, rfl⟩
theorem zk_runSU {n nn : Nat} {y : MethodName} {bytes : ByteArray} {maxL nL mc ms index : Nat} {ret : Option FieldType} {ws : List Cond} {rm : Room} {Qc : Array Value → State → Outcome → State → Prop} {own : String} {As : List Value} {g : JFrame}
    (hE : zk_Env G ca A sa s) (hR : zk_Rep G ca A B u H) (hS : va_S A s.heap H locs) (hA : zk_Fr A B s.heap.size) (hk : zk_isV (zk_K u n).1)
    (S : CallFix p m c cc nL s args lw_all own) (hM : Met l y ws rm (va_Pc (.ref n :: As) (zk_Pre G ca A sa B u)) Qc mc ms A) (cw : va_CS R s args own index y bytes maxL ret ws rm mc ms nn)
    (hg : g.method = m) (hn : As.length = nn) (hsize : g.locals.size = nL) (hstack : g.stack = As.reverse ++ .ref n :: rest) (hW : 2 * g.monitorRoom + (rest.map fun v => v.category).sum ≤ 8) (hdg : decode cc g.pc = .ok (.invokespecial index, 3)) (hf : cells + mc ≤ R.cells ∧ slots + ms ≤ R.slots) :
    va_Run p l e R s m args below meth c H locs cells slots mc ms g rest (Qc (Value.ref n :: As).toArray) A := by
  obtain ⟨ci, C, T, N, h1, h2⟩ := zk_vcls hk
  exact va_runSU (C := C) (hE.1.1 ci _ h2).2 S hM cw (zk_pv hR hE hS hA h1 h2) hg hn hsize hstack hW hdg hf
end ZKROW2
