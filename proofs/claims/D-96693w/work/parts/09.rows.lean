/-! THE ROWS OVER THE PURE STATE -/
/-- objects stay what they are -/
def zk_KX (u u1 : zk_St) : Prop := ∀ q : Nat, ¬ (zk_K u q).1 = 0 → zk_K u1 q = zk_K u q
theorem zk_KX.rf (u : zk_St) : zk_KX u u := fun _ _ => rfl
theorem zk_KX.tr {u u1 u2 : zk_St} (h : zk_KX u u1) (h1 : zk_KX u1 u2) : zk_KX u u2 := fun q hq => by
  have e := h q hq
  rw [← e]
  exact h1 q (by rw [e]; exact hq)
theorem zk_kx {u u1 : zk_St} {n c : Nat} (h : zk_KX u u1) (hk : (zk_K u n).1 = c) (h0 : c ≠ 0) : (zk_K u1 n).1 = c := by
  rw [h n (by rw [hk]; exact h0)]
  exact hk
theorem zk_kxV {u u1 : zk_St} {n : Nat} (h : zk_KX u u1) (hk : zk_isV (zk_K u n).1) : zk_isV (zk_K u1 n).1 := by
  rw [h n (fun e => by rw [e] at hk; exact absurd hk.1 (by decide))]
  exact hk
theorem zk_kxR {u u1 : zk_St} {n : Nat} (h : zk_KX u u1) (hk : zk_isR (zk_K u n).1) : zk_isR (zk_K u1 n).1 := by
  rw [h n (fun e => by rw [e] at hk; exact absurd hk.1 (by decide))]
  exact hk
theorem zk_arC {K : Nat × Nat} {c k t len : Nat} (h : K.1 = c) (e : ∀ z, zk_ar (c, z) k = some (t, len)) : zk_ar K k = some (t, len) := by
  obtain ⟨c', z⟩ := K
  simp only at h
  subst h
  exact e z
theorem zk_arD {K : Nat × Nat} {c k t : Nat} (h : K.1 = c) (e : ∀ z, zk_ar (c, z) k = some (t, z)) : zk_ar K k = some (t, K.2) := by
  obtain ⟨c', z⟩ := K
  simp only at h
  subst h
  exact e z
theorem zk_ltE {α : Type} {e x : α} {f : α → Prop} (h : zk_lt e f) (ex : x = e) : f x := by
  subst ex
  exact h
theorem zk_cut {α : Type} {e : α} {f : α → Prop} {P : α → Prop} {g : Prop} (h : zk_lt e f) (hJ : P e) (kk : ∀ j, P j → f j → g) : g := kk e hJ h
section ZKROW
variable {p : Program} {l : Launch} {e : Env} {R : Room} {s : State} {m : MethodId} {args : Array Value} {below : List Frame} {meth : Method} {c : Code} {H : Heap} {locs : List Loc} {cells slots : Nat} {Q : State → Prop}
variable {cc : ByteArray} {pc : Nat} {ls : Array Slot} {rest : List Value} {G : va_G} {ca : Nat → ClassId} {A : Nat → Prop} {B : Nat → Nat → Nat} {u : zk_St} {H0 : Heap}
theorem zk_getI {own ref C : String} {T : u_T} {N index n ci k : Nat} {Ts : List Cond}  (hexec : p.tables.exec = Jvm.exec) (hb : c.code = cc) (hts : ∀ w ∈ Ts, w.before args s = true) (hin : ∀ w ∈ u_ws C T N, w ∈ Ts) (hown : s.vm.findClass own = some m.cls) (hK : va_K G zk_cl (zk_tys ca) s) (hR : zk_Rep G ca A B u H) (hk : (zk_K u n).1 = ci + 1) (hc : zk_cl[ci]? = some (C, T, N)) (hkN : k < N) (hs : (zk_lay (ci + 1))[k]? = some 0) (hlink : (Cond.fieldLink own index ref (T k).2.1 (T k).2.2.1).before args s = true) (hsame : ∀ x, s.fieldFound? (T k).1 (T k).2.1 (T k).2.2.1 = some x → s.fieldFound? ref (T k).2.1 (T k).2.2.1 = some x)  (hdg : decode cc pc = .ok (.getfield index, 3))
    (kk : W p l e R s m args below meth c H locs cells slots Q (F0 m (pc + 3) ls (.int (zk_I u n k) :: rest))) : W p l e R s m args below meth c H locs cells slots Q (F0 m pc ls (.ref n :: rest)) := by
  obtain ⟨LN, hL, hP, hD⟩ := hR
  obtain ⟨q0, -, hq⟩ := zk_pos hL (zk_entO (ca := ca) (B := B) hk (Nat.succ_ne_zero _))
  refine va_get hexec hb hts hin hown hK hP q0 (ci := ci) hq hc k hkN hlink hsame (v := .int (zk_I u n k)) ?_ hdg kk
  rw [zk_fl_get, hs, Nat.zero_add]; rfl
theorem zk_getO {own ref C : String} {T : u_T} {N index n ci k : Nat} {Ts : List Cond}  (hexec : p.tables.exec = Jvm.exec) (hb : c.code = cc) (hts : ∀ w ∈ Ts, w.before args s = true) (hin : ∀ w ∈ u_ws C T N, w ∈ Ts) (hown : s.vm.findClass own = some m.cls) (hK : va_K G zk_cl (zk_tys ca) s) (hR : zk_Rep G ca A B u H) (hk : (zk_K u n).1 = ci + 1) (hc : zk_cl[ci]? = some (C, T, N)) (hkN : k < N) (hs : (zk_lay (ci + 1))[k]? = some 2) (hlink : (Cond.fieldLink own index ref (T k).2.1 (T k).2.2.1).before args s = true) (hsame : ∀ x, s.fieldFound? (T k).1 (T k).2.1 (T k).2.2.1 = some x → s.fieldFound? ref (T k).2.1 (T k).2.2.1 = some x)  (hdg : decode cc pc = .ok (.getfield index, 3))
    (kk : W p l e R s m args below meth c H locs cells slots Q (F0 m (pc + 3) ls (.ref (B n k) :: rest))) : W p l e R s m args below meth c H locs cells slots Q (F0 m pc ls (.ref n :: rest)) := by
  obtain ⟨LN, hL, hP, hD⟩ := hR
  obtain ⟨q0, -, hq⟩ := zk_pos hL (zk_entO (ca := ca) (B := B) hk (Nat.succ_ne_zero _))
  refine va_get hexec hb hts hin hown hK hP q0 (ci := ci) hq hc k hkN hlink hsame (v := .ref (B n k)) ?_ hdg kk
  rw [zk_fl_get, hs, Nat.zero_add]; rfl
theorem zk_getPd {own ref C : String} {T : u_T} {N index n ci k : Nat} {Ts : List Cond} {f : Nat → Prop} (h : zk_de (zk_P u n k) f) (hexec : p.tables.exec = Jvm.exec) (hb : c.code = cc) (hts : ∀ w ∈ Ts, w.before args s = true) (hin : ∀ w ∈ u_ws C T N, w ∈ Ts) (hown : s.vm.findClass own = some m.cls) (hK : va_K G zk_cl (zk_tys ca) s) (hR : zk_Rep G ca A B u H) (hk : (zk_K u n).1 = ci + 1) (hc : zk_cl[ci]? = some (C, T, N)) (hkN : k < N) (hs : (zk_lay (ci + 1))[k]? = some 1) (hlink : (Cond.fieldLink own index ref (T k).2.1 (T k).2.2.1).before args s = true) (hsame : ∀ x, s.fieldFound? (T k).1 (T k).2.1 (T k).2.2.1 = some x → s.fieldFound? ref (T k).2.1 (T k).2.2.1 = some x)  (hdg : decode cc pc = .ok (.getfield index, 3))
    (kk : ∀ q : Nat, zk_P u n k = some q → f q → W p l e R s m args below meth c H locs cells slots Q (F0 m (pc + 3) ls (.ref q :: rest))) : W p l e R s m args below meth c H locs cells slots Q (F0 m pc ls (.ref n :: rest)) := by
  obtain ⟨q, e, h⟩ := h
  obtain ⟨LN, hL, hP, hD⟩ := hR
  obtain ⟨q0, -, hq⟩ := zk_pos hL (zk_entO (ca := ca) (B := B) hk (Nat.succ_ne_zero _))
  refine va_get hexec hb hts hin hown hK hP q0 (ci := ci) hq hc k hkN hlink hsame (v := .ref q) ?_ hdg (kk q e h)
  rw [zk_fl_get, hs, Nat.zero_add]; show some (va_rf (zk_P u n k)) = _; rw [e]; rfl
theorem zk_getPv {own ref C : String} {T : u_T} {N index n ci k : Nat} {Ts : List Cond} {v : Value} (hv : va_rf (zk_P u n k) = v) (hexec : p.tables.exec = Jvm.exec) (hb : c.code = cc) (hts : ∀ w ∈ Ts, w.before args s = true) (hin : ∀ w ∈ u_ws C T N, w ∈ Ts) (hown : s.vm.findClass own = some m.cls) (hK : va_K G zk_cl (zk_tys ca) s) (hR : zk_Rep G ca A B u H) (hk : (zk_K u n).1 = ci + 1) (hc : zk_cl[ci]? = some (C, T, N)) (hkN : k < N) (hs : (zk_lay (ci + 1))[k]? = some 1) (hlink : (Cond.fieldLink own index ref (T k).2.1 (T k).2.2.1).before args s = true) (hsame : ∀ x, s.fieldFound? (T k).1 (T k).2.1 (T k).2.2.1 = some x → s.fieldFound? ref (T k).2.1 (T k).2.2.1 = some x)  (hdg : decode cc pc = .ok (.getfield index, 3))
    (kk : W p l e R s m args below meth c H locs cells slots Q (F0 m (pc + 3) ls (v :: rest))) : W p l e R s m args below meth c H locs cells slots Q (F0 m pc ls (.ref n :: rest)) := by
  obtain ⟨LN, hL, hP, hD⟩ := hR
  obtain ⟨q0, -, hq⟩ := zk_pos hL (zk_entO (ca := ca) (B := B) hk (Nat.succ_ne_zero _))
  refine va_get hexec hb hts hin hown hK hP q0 (ci := ci) hq hc k hkN hlink hsame (v := v) ?_ hdg kk
  rw [zk_fl_get, hs, Nat.zero_add]; show some (va_rf (zk_P u n k)) = _; rw [hv]
theorem zk_getPm {own ref C : String} {T : u_T} {N index n ci k : Nat} {Ts : List Cond} {X : Prop} {f : Nat → Prop} (h : zk_mt (zk_P u n k) X f) (hexec : p.tables.exec = Jvm.exec) (hb : c.code = cc) (hts : ∀ w ∈ Ts, w.before args s = true) (hin : ∀ w ∈ u_ws C T N, w ∈ Ts) (hown : s.vm.findClass own = some m.cls) (hK : va_K G zk_cl (zk_tys ca) s) (hR : zk_Rep G ca A B u H) (hk : (zk_K u n).1 = ci + 1) (hc : zk_cl[ci]? = some (C, T, N)) (hkN : k < N) (hs : (zk_lay (ci + 1))[k]? = some 1) (hlink : (Cond.fieldLink own index ref (T k).2.1 (T k).2.2.1).before args s = true) (hsame : ∀ x, s.fieldFound? (T k).1 (T k).2.1 (T k).2.2.1 = some x → s.fieldFound? ref (T k).2.1 (T k).2.2.1 = some x) (hdg : decode cc pc = .ok (.getfield index, 3))
    (kn : zk_P u n k = none → X → W p l e R s m args below meth c H locs cells slots Q (F0 m (pc + 3) ls (.null :: rest))) (ks : ∀ q : Nat, zk_P u n k = some q → f q → W p l e R s m args below meth c H locs cells slots Q (F0 m (pc + 3) ls (.ref q :: rest))) : W p l e R s m args below meth c H locs cells slots Q (F0 m pc ls (.ref n :: rest)) := by
  cases e : zk_P u n k with
  | none =>
    rw [e] at h
    exact zk_getPv (v := .null) (by rw [e]; rfl) hexec hb hts hin hown hK hR hk hc hkN hs hlink hsame hdg (kn e h)
  | some q =>
    rw [e] at h
    exact zk_getPv (v := .ref q) (by rw [e]; rfl) hexec hb hts hin hown hK hR hk hc hkN hs hlink hsame hdg (ks q e h)
theorem zk_putI {own ref C : String} {T : u_T} {N index n ci k : Nat} {Ts : List Cond} {v : Int32} {f : zk_St → Prop} (h : zk_lt (zk_setI u n k v) f) (hexec : p.tables.exec = Jvm.exec) (hb : c.code = cc) (hts : ∀ w ∈ Ts, w.before args s = true) (hin : ∀ w ∈ u_ws C T N, w ∈ Ts) (ty0 : Nat → FieldType) (hty : ∀ k, k < N → parseFieldDescriptor (T k).2.2.1 = some (ty0 k)) (hnm : ∀ a, a < N → ∀ b, b < N → a ≠ b → (T a).2.1 ≠ (T b).2.1) (hown : s.vm.findClass own = some m.cls) (hK : va_K G zk_cl (zk_tys ca) s) (hR : zk_Rep G ca A B u H) (hS : va_S A H0 H locs) (hk : (zk_K u n).1 = ci + 1) (hc : zk_cl[ci]? = some (C, T, N)) (hkN : k < N) (hs : (zk_lay (ci + 1))[k]? = some 0)  (hlink : (Cond.fieldLink own index ref (T k).2.1 (T k).2.2.1).before args s = true) (hsame : ∀ x, s.fieldFound? (T k).1 (T k).2.1 (T k).2.2.1 = some x → s.fieldFound? ref (T k).2.1 (T k).2.2.1 = some x) (hfin : (T k).2.2.2 = false) {ty : FieldType} (hd : parseFieldDescriptor (T k).2.2.1 = some ty) (hn : narrow ty (.int v) = .int v) (hfit : fits ty (.int v) = true) (hdg : decode cc pc = .ok (.putfield index, 3))
    (kk : ∀ (u1 : zk_St) (H1 : Heap) (locs1 : List Loc), f u1 → zk_KX u u1 → zk_Rep G ca A B u1 H1 → va_S A H0 H1 locs1 → W p l e R s m args below meth c H1 locs1 cells slots Q (F0 m (pc + 3) ls rest)) : W p l e R s m args below meth c H locs cells slots Q (F0 m pc ls (.int v :: .ref n :: rest)) := by
  obtain ⟨LN, hL, hP, hD⟩ := hR
  obtain ⟨q0, hq0, hq⟩ := zk_pos hL (zk_entO (ca := ca) (B := B) hk (Nat.succ_ne_zero _))
  have hl : k < (zk_fl B u n 0 (zk_lay (ci + 1))).length := by rw [zk_fl_len]; exact (List.getElem?_eq_some_iff.mp hs).1
  exact va_put hexec hb hts hin ty0 hty hnm hown hK hP hD hS q0 (ci := ci) hq hc k hkN hlink hsame hfin hd hn hfit hl hdg (fun H1 locs1 hP1 hD1 hS1 => kk _ H1 locs1 h (fun _ _ => rfl) (zk_Rep.change (e' := .inr (ci, (zk_fl B u n 0 (zk_lay (ci + 1))).set k (.int v))) hL hD hq0 (zk_setI_e hk (Nat.succ_ne_zero _) hs) (fun n' i' h => zk_setI_o n' i' h) hP1 hD1) hS1)
theorem zk_putF {own ref C : String} {T : u_T} {N index n ci k : Nat} {Ts : List Cond} {v : Int32} {f : zk_St → Prop} (h : zk_lt (zk_setI u n k v) f) (hexec : p.tables.exec = Jvm.exec) (hb : c.code = cc) (hts : ∀ w ∈ Ts, w.before args s = true) (hin : ∀ w ∈ u_ws C T N, w ∈ Ts) (ty0 : Nat → FieldType) (hty : ∀ k, k < N → parseFieldDescriptor (T k).2.2.1 = some (ty0 k)) (hnm : ∀ a, a < N → ∀ b, b < N → a ≠ b → (T a).2.1 ≠ (T b).2.1) (hown : s.vm.findClass own = some m.cls) (hK : va_K G zk_cl (zk_tys ca) s) (hR : zk_Rep G ca A B u H) (hS : va_S A H0 H locs) (hk : (zk_K u n).1 = ci + 1) (hc : zk_cl[ci]? = some (C, T, N)) (hkN : k < N) (hs : (zk_lay (ci + 1))[k]? = some 0)  (hlink : (Cond.fieldLink own index ref (T k).2.1 (T k).2.2.1).before args s = true) (hsame : ∀ x, s.fieldFound? (T k).1 (T k).2.1 (T k).2.2.1 = some x → s.fieldFound? ref (T k).2.1 (T k).2.2.1 = some x) (hfin : (T k).2.2.2 = true) (hin2 : meth.name = "<init>") (hdecl : (T k).1 = own) {ty : FieldType} (hd : parseFieldDescriptor (T k).2.2.1 = some ty) (hn : narrow ty (.int v) = .int v) (hfit : fits ty (.int v) = true) (hdg : decode cc pc = .ok (.putfield index, 3))
    (kk : ∀ (u1 : zk_St) (H1 : Heap) (locs1 : List Loc), f u1 → zk_KX u u1 → zk_Rep G ca A B u1 H1 → va_S A H0 H1 locs1 → W p l e R s m args below meth c H1 locs1 cells slots Q (F0 m (pc + 3) ls rest)) : W p l e R s m args below meth c H locs cells slots Q (F0 m pc ls (.int v :: .ref n :: rest)) := by
  obtain ⟨LN, hL, hP, hD⟩ := hR
  obtain ⟨q0, hq0, hq⟩ := zk_pos hL (zk_entO (ca := ca) (B := B) hk (Nat.succ_ne_zero _))
  have hl : k < (zk_fl B u n 0 (zk_lay (ci + 1))).length := by rw [zk_fl_len]; exact (List.getElem?_eq_some_iff.mp hs).1
  exact va_putF hexec hb hts hin ty0 hty hnm hown hK hP hD hS q0 (ci := ci) hq hc k hkN hlink hsame hfin hin2 hdecl hd hn hfit hl hdg (fun H1 locs1 hP1 hD1 hS1 => kk _ H1 locs1 h (fun _ _ => rfl) (zk_Rep.change (e' := .inr (ci, (zk_fl B u n 0 (zk_lay (ci + 1))).set k (.int v))) hL hD hq0 (zk_setI_e hk (Nat.succ_ne_zero _) hs) (fun n' i' h => zk_setI_o n' i' h) hP1 hD1) hS1)
theorem zk_putP {own ref C : String} {T : u_T} {N index n ci k : Nat} {Ts : List Cond} {o : Option Nat} {v9 : Value} {f : zk_St → Prop} (h : zk_lt (zk_setP u n k o) f) (hexec : p.tables.exec = Jvm.exec) (hb : c.code = cc) (hts : ∀ w ∈ Ts, w.before args s = true) (hin : ∀ w ∈ u_ws C T N, w ∈ Ts) (ty0 : Nat → FieldType) (hty : ∀ k, k < N → parseFieldDescriptor (T k).2.2.1 = some (ty0 k)) (hnm : ∀ a, a < N → ∀ b, b < N → a ≠ b → (T a).2.1 ≠ (T b).2.1) (hown : s.vm.findClass own = some m.cls) (hK : va_K G zk_cl (zk_tys ca) s) (hR : zk_Rep G ca A B u H) (hS : va_S A H0 H locs) (hk : (zk_K u n).1 = ci + 1) (hc : zk_cl[ci]? = some (C, T, N)) (hkN : k < N) (hs : (zk_lay (ci + 1))[k]? = some 1) (ho : va_rf o = v9) (hlink : (Cond.fieldLink own index ref (T k).2.1 (T k).2.2.1).before args s = true) (hsame : ∀ x, s.fieldFound? (T k).1 (T k).2.1 (T k).2.2.1 = some x → s.fieldFound? ref (T k).2.1 (T k).2.2.1 = some x) (hfin : (T k).2.2.2 = false) {ty : FieldType} (hd : parseFieldDescriptor (T k).2.2.1 = some ty) (hn : narrow ty v9 = v9) (hfit : fits ty v9 = true) (hdg : decode cc pc = .ok (.putfield index, 3))
    (kk : ∀ (u1 : zk_St) (H1 : Heap) (locs1 : List Loc), f u1 → zk_KX u u1 → zk_Rep G ca A B u1 H1 → va_S A H0 H1 locs1 → W p l e R s m args below meth c H1 locs1 cells slots Q (F0 m (pc + 3) ls rest)) : W p l e R s m args below meth c H locs cells slots Q (F0 m pc ls (v9 :: .ref n :: rest)) := by
  subst ho
  obtain ⟨LN, hL, hP, hD⟩ := hR
  obtain ⟨q0, hq0, hq⟩ := zk_pos hL (zk_entO (ca := ca) (B := B) hk (Nat.succ_ne_zero _))
  have hl : k < (zk_fl B u n 0 (zk_lay (ci + 1))).length := by rw [zk_fl_len]; exact (List.getElem?_eq_some_iff.mp hs).1
  exact va_put hexec hb hts hin ty0 hty hnm hown hK hP hD hS q0 (ci := ci) hq hc k hkN hlink hsame hfin hd hn hfit hl hdg (fun H1 locs1 hP1 hD1 hS1 => kk _ H1 locs1 h (fun _ _ => rfl) (zk_Rep.change (e' := .inr (ci, (zk_fl B u n 0 (zk_lay (ci + 1))).set k (va_rf o))) hL hD hq0 (zk_setP_e hk (Nat.succ_ne_zero _) hs) (fun n' i' h => zk_setP_o n' i' h) hP1 hD1) hS1)
theorem zk_putG {own ref C : String} {T : u_T} {N index n ci k : Nat} {Ts : List Cond} {o : Option Nat} {v9 : Value} {f : zk_St → Prop} (h : zk_lt (zk_setP u n k o) f) (hexec : p.tables.exec = Jvm.exec) (hb : c.code = cc) (hts : ∀ w ∈ Ts, w.before args s = true) (hin : ∀ w ∈ u_ws C T N, w ∈ Ts) (ty0 : Nat → FieldType) (hty : ∀ k, k < N → parseFieldDescriptor (T k).2.2.1 = some (ty0 k)) (hnm : ∀ a, a < N → ∀ b, b < N → a ≠ b → (T a).2.1 ≠ (T b).2.1) (hown : s.vm.findClass own = some m.cls) (hK : va_K G zk_cl (zk_tys ca) s) (hR : zk_Rep G ca A B u H) (hS : va_S A H0 H locs) (hk : (zk_K u n).1 = ci + 1) (hc : zk_cl[ci]? = some (C, T, N)) (hkN : k < N) (hs : (zk_lay (ci + 1))[k]? = some 1) (ho : va_rf o = v9) (hlink : (Cond.fieldLink own index ref (T k).2.1 (T k).2.2.1).before args s = true) (hsame : ∀ x, s.fieldFound? (T k).1 (T k).2.1 (T k).2.2.1 = some x → s.fieldFound? ref (T k).2.1 (T k).2.2.1 = some x) (hfin : (T k).2.2.2 = true) (hin2 : meth.name = "<init>") (hdecl : (T k).1 = own) {ty : FieldType} (hd : parseFieldDescriptor (T k).2.2.1 = some ty) (hn : narrow ty v9 = v9) (hfit : fits ty v9 = true) (hdg : decode cc pc = .ok (.putfield index, 3))
    (kk : ∀ (u1 : zk_St) (H1 : Heap) (locs1 : List Loc), f u1 → zk_KX u u1 → zk_Rep G ca A B u1 H1 → va_S A H0 H1 locs1 → W p l e R s m args below meth c H1 locs1 cells slots Q (F0 m (pc + 3) ls rest)) : W p l e R s m args below meth c H locs cells slots Q (F0 m pc ls (v9 :: .ref n :: rest)) := by
  subst ho
  obtain ⟨LN, hL, hP, hD⟩ := hR
  obtain ⟨q0, hq0, hq⟩ := zk_pos hL (zk_entO (ca := ca) (B := B) hk (Nat.succ_ne_zero _))
  have hl : k < (zk_fl B u n 0 (zk_lay (ci + 1))).length := by rw [zk_fl_len]; exact (List.getElem?_eq_some_iff.mp hs).1
  exact va_putF hexec hb hts hin ty0 hty hnm hown hK hP hD hS q0 (ci := ci) hq hc k hkN hlink hsame hfin hin2 hdecl hd hn hfit hl hdg (fun H1 locs1 hP1 hD1 hS1 => kk _ H1 locs1 h (fun _ _ => rfl) (zk_Rep.change (e' := .inr (ci, (zk_fl B u n 0 (zk_lay (ci + 1))).set k (va_rf o))) hL hD hq0 (zk_setP_e hk (Nat.succ_ne_zero _) hs) (fun n' i' h => zk_setP_o n' i' h) hP1 hD1) hS1)
theorem zk_ild {n k len : Nat} {i : Int32} {X : Prop} (h : vp_in i len ∧ X) (hexec : p.tables.exec = Jvm.exec) (hb : c.code = cc) (hK : va_K G zk_cl (zk_tys ca) s) (hR : zk_Rep G ca A B u H) (ha : zk_ar (zk_K u n) k = some (0, len)) (hdg : decode cc pc = .ok (.iaload, 1)) (kk : X → W p l e R s m args below meth c H locs cells slots Q (F0 m (pc + 1) ls (.int (zk_V u n k i.toNatClampNeg) :: rest))) : W p l e R s m args below meth c H locs cells slots Q (F0 m pc ls (.int i :: .ref (B n k) :: rest)) := by
  obtain ⟨LN, hL, hP, hD⟩ := hR
  obtain ⟨q0, hq0, hq⟩ := zk_pos hL (zk_entA (ca := ca) (B := B) ha)
  exact va_iald (f := zk_V u n k) hexec hb hK hP q0 0 hq rfl h.1 hdg (kk h.2)
theorem zk_bld {n k len : Nat} {i : Int32} {X : Prop} (h : vp_in i len ∧ X) (hexec : p.tables.exec = Jvm.exec) (hb : c.code = cc) (hK : va_K G zk_cl (zk_tys ca) s) (hR : zk_Rep G ca A B u H) (ha : zk_ar (zk_K u n) k = some (1, len)) (hdg : decode cc pc = .ok (.baload, 1)) (kk : X → W p l e R s m args below meth c H locs cells slots Q (F0 m (pc + 1) ls (.int (zk_V u n k i.toNatClampNeg) :: rest))) : W p l e R s m args below meth c H locs cells slots Q (F0 m pc ls (.int i :: .ref (B n k) :: rest)) := by
  obtain ⟨LN, hL, hP, hD⟩ := hR
  obtain ⟨q0, hq0, hq⟩ := zk_pos hL (zk_entA (ca := ca) (B := B) ha)
  exact va_bald (f := zk_V u n k) hexec hb hK hP q0 1 hq rfl h.1 hdg (kk h.2)
theorem zk_sld {n k len : Nat} {i : Int32} {X : Prop} (h : vp_in i len ∧ X) (hexec : p.tables.exec = Jvm.exec) (hb : c.code = cc) (hK : va_K G zk_cl (zk_tys ca) s) (hR : zk_Rep G ca A B u H) (ha : zk_ar (zk_K u n) k = some (2, len)) (hdg : decode cc pc = .ok (.saload, 1)) (kk : X → W p l e R s m args below meth c H locs cells slots Q (F0 m (pc + 1) ls (.int (zk_V u n k i.toNatClampNeg) :: rest))) : W p l e R s m args below meth c H locs cells slots Q (F0 m pc ls (.int i :: .ref (B n k) :: rest)) := by
  obtain ⟨LN, hL, hP, hD⟩ := hR
  obtain ⟨q0, hq0, hq⟩ := zk_pos hL (zk_entA (ca := ca) (B := B) ha)
  exact va_sald (f := zk_V u n k) hexec hb hK hP q0 2 hq rfl h.1 hdg (kk h.2)
theorem zk_lld {n k len : Nat} {i : Int32} {X : Prop} (h : vp_in i len ∧ X) (hexec : p.tables.exec = Jvm.exec) (hb : c.code = cc) (hK : va_K G zk_cl (zk_tys ca) s) (hR : zk_Rep G ca A B u H) (ha : zk_ar (zk_K u n) k = some (3, len)) (hdg : decode cc pc = .ok (.laload, 1)) (kk : X → W p l e R s m args below meth c H locs cells slots Q (F0 m (pc + 1) ls (.long (zk_J u n k i.toNatClampNeg) :: rest))) : W p l e R s m args below meth c H locs cells slots Q (F0 m pc ls (.int i :: .ref (B n k) :: rest)) := by
  obtain ⟨LN, hL, hP, hD⟩ := hR
  obtain ⟨q0, hq0, hq⟩ := zk_pos hL (zk_entA (ca := ca) (B := B) ha)
  exact va_lald (f := zk_J u n k) hexec hb hK hP q0 3 hq rfl h.1 hdg (kk h.2)
theorem zk_vld {n k len : Nat} {i : Int32} {f : Nat → Prop} (h : vp_in i len ∧ zk_de (zk_R u n k i.toNatClampNeg) f) (hexec : p.tables.exec = Jvm.exec) (hb : c.code = cc) (hK : va_K G zk_cl (zk_tys ca) s) (hR : zk_Rep G ca A B u H) (ha : zk_ar (zk_K u n) k = some (4, len)) (hdg : decode cc pc = .ok (.aaload, 1)) (kk : ∀ q : Nat, zk_R u n k i.toNatClampNeg = some q → f q → W p l e R s m args below meth c H locs cells slots Q (F0 m (pc + 1) ls (.ref q :: rest))) : W p l e R s m args below meth c H locs cells slots Q (F0 m pc ls (.int i :: .ref (B n k) :: rest)) := by
  obtain ⟨LN, hL, hP, hD⟩ := hR
  obtain ⟨q0, hq0, hq⟩ := zk_pos hL (zk_entA (ca := ca) (B := B) ha)
  obtain ⟨hi, q, eq, h⟩ := h
  have k9 := kk q eq h
  refine va_aldq (f := zk_R u n k) hexec hb hK hP q0 4 hq rfl hi hdg ?_
  rw [eq]
  exact k9
theorem zk_hld {n k len : Nat} {i : Int32} {f : Nat → Prop} (h : vp_in i len ∧ zk_de (zk_R u n k i.toNatClampNeg) f) (hexec : p.tables.exec = Jvm.exec) (hb : c.code = cc) (hK : va_K G zk_cl (zk_tys ca) s) (hR : zk_Rep G ca A B u H) (ha : zk_ar (zk_K u n) k = some (5, len)) (hdg : decode cc pc = .ok (.aaload, 1)) (kk : ∀ q : Nat, zk_R u n k i.toNatClampNeg = some q → f q → W p l e R s m args below meth c H locs cells slots Q (F0 m (pc + 1) ls (.ref q :: rest))) : W p l e R s m args below meth c H locs cells slots Q (F0 m pc ls (.int i :: .ref (B n k) :: rest)) := by
  obtain ⟨LN, hL, hP, hD⟩ := hR
  obtain ⟨q0, hq0, hq⟩ := zk_pos hL (zk_entA (ca := ca) (B := B) ha)
  obtain ⟨hi, q, eq, h⟩ := h
  have k9 := kk q eq h
  refine va_aldq (f := zk_R u n k) hexec hb hK hP q0 5 hq rfl hi hdg ?_
  rw [eq]
  exact k9
theorem zk_len {n k t len : Nat} {v : Int32} (hexec : p.tables.exec = Jvm.exec) (hb : c.code = cc) (hK : va_K G zk_cl (zk_tys ca) s) (hR : zk_Rep G ca A B u H) (ha : zk_ar (zk_K u n) k = some (t, len)) {ty : FieldType} (ht : (zk_tys ca)[t]? = some (ca t, ty)) (hv : Int32.ofNat len = v) (hdg : decode cc pc = .ok (.arraylength, 1)) (kk : W p l e R s m args below meth c H locs cells slots Q (F0 m (pc + 1) ls (.int v :: rest))) : W p l e R s m args below meth c H locs cells slots Q (F0 m pc ls (.ref (B n k) :: rest)) := by
  obtain ⟨LN, hL, hP, hD⟩ := hR
  obtain ⟨q0, hq0, hq⟩ := zk_pos hL (zk_entA (ca := ca) (B := B) ha)
  exact va_alen hexec hb hK hP q0 t hq ht hv hdg kk
theorem zk_ist {n k len : Nat} {i : Int32} {x : Int32} {f : zk_St → Prop} (h : vp_in i len ∧ zk_lt (zk_setV u n k (upd (zk_V u n k) i.toNatClampNeg x)) f) (hexec : p.tables.exec = Jvm.exec) (hb : c.code = cc) (hK : va_K G zk_cl (zk_tys ca) s) (hR : zk_Rep G ca A B u H) (hS : va_S A H0 H locs) (ha : zk_ar (zk_K u n) k = some (0, len)) (hdg : decode cc pc = .ok (.iastore, 1)) (kk : ∀ (u1 : zk_St) (H1 : Heap) (locs1 : List Loc), f u1 → zk_KX u u1 → zk_Rep G ca A B u1 H1 → va_S A H0 H1 locs1 → W p l e R s m args below meth c H1 locs1 cells slots Q (F0 m (pc + 1) ls rest)) : W p l e R s m args below meth c H locs cells slots Q (F0 m pc ls (.int x :: .int i :: .ref (B n k) :: rest)) := by
  obtain ⟨LN, hL, hP, hD⟩ := hR
  obtain ⟨q0, hq0, hq⟩ := zk_pos hL (zk_entA (ca := ca) (B := B) ha)
  exact va_iast (f := zk_V u n k) hexec hb hK hP hD hS q0 0 hq rfl h.1 hdg (fun H1 locs1 hP1 hD1 hS1 => kk _ H1 locs1 h.2 (fun _ _ => rfl) (zk_Rep.change hL hD hq0 (zk_setV_e ha (by decide)) (fun n' i' h => zk_setV_o n' i' h) hP1 hD1) hS1)
theorem zk_bst {n k len : Nat} {i : Int32} {x : Int32} {f : zk_St → Prop} (h : vp_in i len ∧ zk_lt (zk_setV u n k (upd (zk_V u n k) i.toNatClampNeg (vp_nar .byte x))) f) (hexec : p.tables.exec = Jvm.exec) (hb : c.code = cc) (hK : va_K G zk_cl (zk_tys ca) s) (hR : zk_Rep G ca A B u H) (hS : va_S A H0 H locs) (ha : zk_ar (zk_K u n) k = some (1, len)) (hdg : decode cc pc = .ok (.bastore, 1)) (kk : ∀ (u1 : zk_St) (H1 : Heap) (locs1 : List Loc), f u1 → zk_KX u u1 → zk_Rep G ca A B u1 H1 → va_S A H0 H1 locs1 → W p l e R s m args below meth c H1 locs1 cells slots Q (F0 m (pc + 1) ls rest)) : W p l e R s m args below meth c H locs cells slots Q (F0 m pc ls (.int x :: .int i :: .ref (B n k) :: rest)) := by
  obtain ⟨LN, hL, hP, hD⟩ := hR
  obtain ⟨q0, hq0, hq⟩ := zk_pos hL (zk_entA (ca := ca) (B := B) ha)
  exact va_bast (f := zk_V u n k) hexec hb hK hP hD hS q0 1 hq rfl h.1 hdg (fun H1 locs1 hP1 hD1 hS1 => kk _ H1 locs1 h.2 (fun _ _ => rfl) (zk_Rep.change hL hD hq0 (zk_setV_e ha (by decide)) (fun n' i' h => zk_setV_o n' i' h) hP1 hD1) hS1)
theorem zk_sst {n k len : Nat} {i : Int32} {x : Int32} {f : zk_St → Prop} (h : vp_in i len ∧ zk_lt (zk_setV u n k (upd (zk_V u n k) i.toNatClampNeg (vp_nar .short x))) f) (hexec : p.tables.exec = Jvm.exec) (hb : c.code = cc) (hK : va_K G zk_cl (zk_tys ca) s) (hR : zk_Rep G ca A B u H) (hS : va_S A H0 H locs) (ha : zk_ar (zk_K u n) k = some (2, len)) (hdg : decode cc pc = .ok (.sastore, 1)) (kk : ∀ (u1 : zk_St) (H1 : Heap) (locs1 : List Loc), f u1 → zk_KX u u1 → zk_Rep G ca A B u1 H1 → va_S A H0 H1 locs1 → W p l e R s m args below meth c H1 locs1 cells slots Q (F0 m (pc + 1) ls rest)) : W p l e R s m args below meth c H locs cells slots Q (F0 m pc ls (.int x :: .int i :: .ref (B n k) :: rest)) := by
  obtain ⟨LN, hL, hP, hD⟩ := hR
  obtain ⟨q0, hq0, hq⟩ := zk_pos hL (zk_entA (ca := ca) (B := B) ha)
  exact va_sast (f := zk_V u n k) hexec hb hK hP hD hS q0 2 hq rfl h.1 hdg (fun H1 locs1 hP1 hD1 hS1 => kk _ H1 locs1 h.2 (fun _ _ => rfl) (zk_Rep.change hL hD hq0 (zk_setV_e ha (by decide)) (fun n' i' h => zk_setV_o n' i' h) hP1 hD1) hS1)
theorem zk_lst {n k len : Nat} {i : Int32} {x : Int64} {f : zk_St → Prop} (h : vp_in i len ∧ zk_lt (zk_setJ u n k (vp_updL (zk_J u n k) i.toNatClampNeg x)) f) (hexec : p.tables.exec = Jvm.exec) (hb : c.code = cc) (hK : va_K G zk_cl (zk_tys ca) s) (hR : zk_Rep G ca A B u H) (hS : va_S A H0 H locs) (ha : zk_ar (zk_K u n) k = some (3, len)) (hdg : decode cc pc = .ok (.lastore, 1)) (kk : ∀ (u1 : zk_St) (H1 : Heap) (locs1 : List Loc), f u1 → zk_KX u u1 → zk_Rep G ca A B u1 H1 → va_S A H0 H1 locs1 → W p l e R s m args below meth c H1 locs1 cells slots Q (F0 m (pc + 1) ls rest)) : W p l e R s m args below meth c H locs cells slots Q (F0 m pc ls (.long x :: .int i :: .ref (B n k) :: rest)) := by
  obtain ⟨LN, hL, hP, hD⟩ := hR
  obtain ⟨q0, hq0, hq⟩ := zk_pos hL (zk_entA (ca := ca) (B := B) ha)
  exact va_last (f := zk_J u n k) hexec hb hK hP hD hS q0 3 hq rfl h.1 hdg (fun H1 locs1 hP1 hD1 hS1 => kk _ H1 locs1 h.2 (fun _ _ => rfl) (zk_Rep.change hL hD hq0 (zk_setJ_e ha) (fun n' i' h => zk_setJ_o n' i' h) hP1 hD1) hS1)
/-- a reference to an object is put into a Voice[] (t = 4) or Shelf[] (t = 5) -/
theorem zk_ast {n k t len v civ : Nat} {i : Int32} {E : String} {r : vw_C} {f : zk_St → Prop} (h : vp_in i len ∧ zk_lt (zk_setR u n k (va_up (zk_R u n k) i.toNatClampNeg (some v))) f) (hexec : p.tables.exec = Jvm.exec) (hb : c.code = cc) (hK : va_K G zk_cl (zk_tys ca) s) (hR : zk_Rep G ca A B u H) (hS : va_S A H0 H locs) (ha : zk_ar (zk_K u n) k = some (t, len)) (ht : (zk_tys ca)[t]? = some (ca t, .object E)) (h45 : t = 4 ∨ t = 5) (hv : (zk_K u v).1 = civ + 1) (hc : zk_cl[civ]? = some r) (hca : va_Nw (.castable r.1 E) s) (hdg : decode cc pc = .ok (.aastore, 1))
    (kk : ∀ (u1 : zk_St) (H1 : Heap) (locs1 : List Loc), f u1 → zk_KX u u1 → zk_Rep G ca A B u1 H1 → va_S A H0 H1 locs1 → W p l e R s m args below meth c H1 locs1 cells slots Q (F0 m (pc + 1) ls rest)) : W p l e R s m args below meth c H locs cells slots Q (F0 m pc ls (.ref v :: .int i :: .ref (B n k) :: rest)) := by
  obtain ⟨LN, hL, hP, hD⟩ := hR
  obtain ⟨q0, hq0, hq⟩ := zk_pos hL (zk_entA (ca := ca) (B := B) ha)
  obtain ⟨q1, -, hq1⟩ := zk_pos hL (zk_entO (ca := ca) (B := B) hv (Nat.succ_ne_zero _))
  have hcn : zk_cn u t n k = .inr (.inr (.inr (.inr (zk_R u n k)))) := by
    rcases h45 with rfl | rfl <;> rfl
  rw [hcn] at hq
  exact va_astqO (f := zk_R u n k) hexec hb hK hP hD hS q0 t q1 civ hq ht hca hq1 hc h.1 hdg (fun H1 locs1 hP1 hD1 hS1 => kk _ H1 locs1 h.2 (fun _ _ => rfl) (zk_Rep.change hL hD hq0 (zk_setR_e ha h45) (fun n' i' h => zk_setR_o n' i' h) hP1 hD1) hS1)
end ZKROW
