/-! NEW OBJECTS THAT OWN ARRAYS: raw while they are made, then folded into the pure state -/
def zk_Raw (G : va_G) (ca : Nat → ClassId) (A : Nat → Prop) (B : Nat → Nat → Nat) (u : zk_St) (n : Nat) (L : va_W) (H : Heap) : Prop :=
  ∃ LN : List (Nat × Nat), (∀ n' i, zk_ent ca B u n' i ≠ none ↔ (n', i) ∈ LN) ∧ va_P G zk_cl (zk_Wl ca B u LN ++ L) H ∧ va_D A (zk_Wl ca B u LN ++ L) ∧ (zk_K u n).1 = 0
theorem zk_Raw.rep {G : va_G} {ca : Nat → ClassId} {A : Nat → Prop} {B : Nat → Nat → Nat} {u : zk_St} {n : Nat} {L : va_W} {H : Heap} (h : zk_Raw G ca A B u n L H) : zk_Rep G ca A B u H := by
  obtain ⟨LN, hL, hP, hD, -⟩ := h
  have e : ∀ (k : Nat) (q : Nat × va_E), (zk_Wl ca B u LN)[k]? = some q → (zk_Wl ca B u LN ++ L)[k]? = some q := fun k q hk => by
    rw [List.getElem?_append_left (List.getElem?_eq_some_iff.mp hk).1]
    exact hk
  exact ⟨LN, hL, fun k q hk => hP k q (e k q hk), fun i j p q hi hj hpq => hD.1 i j p q (e i p hi) (e j q hj) hpq, fun k q hk => hD.2 k q (e k q hk)⟩
/-- the raw object is done -/
theorem zk_rdone {G : va_G} {ca : Nat → ClassId} {A : Nat → Prop} {B : Nat → Nat → Nat} {u u' : zk_St} {n c len : Nat} {fs : List Value} {AL : List (Nat × Nat × Nat)} {H : Heap}
    (hW : zk_Raw G ca A B u n ((n, .inr (c - 1, fs)) :: AL.map (fun x => (B n x.1, .inl (ca x.2.1, x.2.2, zk_cn u' x.2.1 n x.1)))) H) (hK : zk_K u' n = (c, len)) (h0 : c ≠ 0) (hfs : zk_fl B u' n 0 (zk_lay c) = fs)
    (hAL : ∀ k a, zk_ar (c, len) k = some a ↔ (k, a) ∈ AL) (ho : ∀ n' i, n' ≠ n → zk_ent ca B u' n' i = zk_ent ca B u n' i) : zk_Rep G ca A B u' H := by
  obtain ⟨LN, hL, hP, hD, hn⟩ := hW
  have hnn : ∀ n' i, (n', i) ∈ LN → n' ≠ n := by
    intro n' i hm e
    subst e
    have h9 := (hL n' i).mpr hm
    cases i with
    | zero => simp only [zk_ent, if_pos hn] at h9; exact h9 rfl
    | succ k => simp only [zk_ent, zk_ar_0 hn, Option.map_none] at h9; exact h9 rfl
  have e0 : zk_cell ca B u' (n, 0) = (n, .inr (c - 1, fs)) := by
    show (n, (zk_ent ca B u' n 0).getD _) = _
    rw [zk_entO (c := c) (by rw [hK]) h0, hfs]
    rfl
  have e1 : ∀ x ∈ AL, zk_cell ca B u' (n, x.1 + 1) = (B n x.1, .inl (ca x.2.1, x.2.2, zk_cn u' x.2.1 n x.1)) := by
    intro x hx
    show (B n x.1, (zk_ent ca B u' n (x.1 + 1)).getD _) = _
    rw [zk_entA (t := x.2.1) (len := x.2.2) (by rw [hK]; exact (hAL x.1 x.2).mpr hx)]
    rfl
  have e2 : zk_Wl ca B u' (LN ++ (n, 0) :: AL.map (fun x => (n, x.1 + 1))) = zk_Wl ca B u LN ++ (n, .inr (c - 1, fs)) :: AL.map (fun x => (B n x.1, .inl (ca x.2.1, x.2.2, zk_cn u' x.2.1 n x.1))) := by
    simp only [zk_Wl, List.map_append, List.map_cons, List.map_map]
    congr 1
    · apply List.map_congr_left
      intro x hx
      obtain ⟨n', i⟩ := x
      simp only [zk_cell]
      rw [ho n' i (hnn n' i hx)]
    · rw [e0]
      congr 1
      apply List.map_congr_left
      intro x hx
      exact e1 x hx
  refine ⟨LN ++ (n, 0) :: AL.map (fun x => (n, x.1 + 1)), fun n' i => ?_, by rw [e2]; exact hP, by rw [e2]; exact hD⟩
  by_cases hq : n' = n
  · subst hq
    constructor
    · intro h
      refine List.mem_append_right _ ?_
      cases i with
      | zero => exact List.mem_cons_self
      | succ k =>
        refine List.mem_cons_of_mem _ ?_
        simp only [zk_ent, hK] at h
        cases ha : zk_ar (c, len) k with
        | none => rw [ha] at h; exact absurd rfl h
        | some a => exact List.mem_map.mpr ⟨(k, a), (hAL k a).mp ha, rfl⟩
    · intro h
      rcases List.mem_append.mp h with h | h
      · exact absurd rfl (hnn _ _ h)
      · rcases List.mem_cons.mp h with h | h
        · cases h
          rw [zk_entO (c := c) (by rw [hK]) h0]
          exact fun q => by cases q
        · obtain ⟨x, hx, e⟩ := List.mem_map.mp h
          cases e
          rw [zk_entA (t := x.2.1) (len := x.2.2) (by rw [hK]; exact (hAL x.1 x.2).mpr hx)]
          exact fun q => by cases q
  · rw [ho n' i hq, hL n' i]
    constructor
    · exact fun h => List.mem_append_left _ h
    · intro h
      rcases List.mem_append.mp h with h | h
      · exact h
      · rcases List.mem_cons.mp h with h | h
        · cases h; exact absurd rfl hq
        · obtain ⟨x, hx, e⟩ := List.mem_map.mp h
          cases e; exact absurd rfl hq
/-- a constructor's start -/
def zk_PreN (G : va_G) (ca : Nat → ClassId) (A : Nat → Prop) (sa : Nat → Nat) (B : Nat → Nat → Nat) (u : zk_St) (n ci : Nat) (U : State) : Prop :=
  zk_Raw G ca A B u n [(n, .inr (ci, (zk_lay (ci + 1)).map zk_dv))] U.heap ∧ U.heap.size = n + 1 ∧ zk_Env G ca A sa U ∧ zk_Fr A B U.heap.size
/-- a constructor's end: what is made, how many cells it took -/
def zk_PoN (G : va_G) (ca : Nat → ClassId) (A : Nat → Prop) (B : Nat → Nat → Nat) (u : zk_St) (n c z : Nat) : zk_St → State → Prop := fun u1 t => zk_KX u u1 ∧ (zk_K u1 n).1 = c ∧ zk_Rep G ca A B u1 t.heap ∧ t.heap.size = n + z
theorem zk_blindN {G : va_G} {ca : Nat → ClassId} {A : Nat → Prop} {sa : Nat → Nat} {B : Nat → Nat → Nat} {u : zk_St} {n ci : Nat} {av : List Value} : FrameBlind (va_Pc av (zk_PreN G ca A sa B u n ci)) := fun a U g mk h =>
  ⟨h.1, h.2.1, h.2.2.1, h.2.2.2.1.mv (U := U.calling g mk a) (State.WarmedH.refl U) (fun _ _ _ => rfl), h.2.2.2.2⟩
section ZKNEW
variable {p : Program} {l : Launch} {e : Env} {R : Room} {s : State} {m : MethodId} {args : Array Value} {below : List Frame} {meth : Method} {c : Code} {H : Heap} {locs : List Loc} {cells slots : Nat} {Q : State → Prop}
variable {cc : ByteArray} {pc : Nat} {ls : Array Slot} {rest st0 : List Value} {G : va_G} {ca : Nat → ClassId} {A : Nat → Prop} {sa : Nat → Nat} {B : Nat → Nat → Nat} {u : zk_St} {H0 : Heap} {n : Nat} {L : va_W}
theorem zk_psN {ci : Nat} {As : List Value} (hR : zk_Raw G ca A B u n [(n, .inr (ci, (zk_lay (ci + 1)).map zk_dv))] H) (hz : H.size = n + 1) (hE : zk_Env G ca A sa s) (hS : va_S A s.heap H locs) (hA : zk_Fr A B s.heap.size) : PreS s H (va_Pc As (zk_PreN G ca A sa B u n ci)) As :=
  ⟨zk_blindN, fun U hU hW => ⟨rfl, by rw [hU]; exact hR, by rw [hU]; exact hz, hE.mv hW (fun a h1 h2 => by rw [hU]; exact hS.2.1 a h1 h2), fun q h => hA q (Nat.le_trans hS.1 (by rw [← hU]; exact h))⟩⟩
theorem zk_gon {k : zk_St → Prop} {mc ms cd z : Nat} {a : Array Value} (hr : va_Run p l e R s m args below meth c H locs cells slots mc ms (F0 m pc ls st0) rest (va_Qv k (zk_PoN G ca A B u n cd z) A a) A) (hS : va_S A s.heap H locs)
    (kk : ∀ (u1 : zk_St) (H1 : Heap) (locs1 : List Loc), k u1 → zk_KX u u1 → (zk_K u1 n).1 = cd → H1.size = n + z → zk_Rep G ca A B u1 H1 → va_S A s.heap H1 locs1 → W p l e R s m args below meth c H1 locs1 (cells + mc) (slots + ms) Q (F0 m (pc + 3) ls rest)) : W p l e R s m args below meth c H locs cells slots Q (F0 m pc ls st0) :=
  va_callv hr hS (fun _ _ h => h) (fun _ h => h) (fun u1 t H1 locs1 ht hvm hw hB hz hk hS1 => kk u1 H1 locs1 hw hB.1 hB.2.1 (by rw [← ht]; exact hB.2.2.2) (by rw [← ht]; exact hB.2.2.1) hS1)
/-- 'new' of a class that owns arrays -/
theorem zk_newR {own C : String} {T : u_T} {N index ci : Nat} {Ts : List Cond} {f : Nat → Prop} (h : ∀ q : Nat, (zk_K u q).1 = 0 → f q) (hexec : p.tables.exec = Jvm.exec) (hb : c.code = cc) (hts : ∀ w ∈ Ts, w.before args s = true) (hin : ∀ w ∈ u_ws C T N, w ∈ Ts) (ty : Nat → FieldType) (hty : ∀ k, k < N → parseFieldDescriptor (T k).2.2.1 = some (ty k)) (hown : s.vm.findClass own = some m.cls) (hcl : (Cond.classLink own index C).before args s = true) (hinst : (Cond.instantiable C N).before args s = true) (hini : (Cond.initialized C).before args s = true)
    (hK : va_K G zk_cl (zk_tys ca) s) (hR : zk_Rep G ca A B u H) (hS : va_S A H0 H locs) (hA : zk_Fr A B H0.size) (hc : zk_cl[ci]? = some (C, T, N)) (hfs : ∀ j, j < N → defaultValue (ty j) = vp_V ((zk_lay (ci + 1)).map zk_dv) j) (hcells : cells + 1 ≤ R.cells) (hslots : slots + N ≤ R.slots) (hdg : decode cc pc = .ok (.new index, 3))
    (kk : ∀ (q : Nat) (H1 : Heap), f q → zk_Raw G ca A B u q [(q, .inr (ci, (zk_lay (ci + 1)).map zk_dv))] H1 → H1.size = q + 1 → (∀ k : Nat, B q k = q + zk_off k) → va_S A H0 H1 locs → W p l e R s m args below meth c H1 locs (cells + 1) (slots + N) Q (F0 m (pc + 3) ls (.ref q :: rest))) : W p l e R s m args below meth c H locs cells slots Q (F0 m pc ls rest) := by
  obtain ⟨LN, hL, hP, hD⟩ := hR
  have hKn := hK.1 ci _ hc
  refine W.newcK hexec hb hown hcl hinst hini rfl hdg hcells hslots hKn.2.1 rfl fun H1 kC hkC e1 z1 o1 => ?_
  have hk : ∀ (k : Nat) (x : Nat × va_E), (zk_Wl ca B u LN)[k]? = some x → H1[x.1]? = H[x.1]? := fun k x hx => o1 x.1 ((hP k x hx).lt)
  have hD1 : va_D A (zk_Wl ca B u LN ++ [(H.size, .inr (ci, (zk_lay (ci + 1)).map zk_dv))]) := hD.push hP rfl (hA _ hS.1).1
  have hq : (zk_K u H.size).1 = 0 := zk_unused (G := G) hL hD1
  refine kk H.size H1 (h _ hq) ⟨LN, hL, (hP.kept hk).app (fun k x hx => ?_), hD1, hq⟩ z1 (hA _ hS.1).2 ⟨Nat.le_trans hS.1 (by omega), fun x h1 h2 => (o1 x (Nat.lt_of_lt_of_le h1 hS.1)).trans (hS.2.1 x h1 h2), hS.2.2⟩
  have hz : k < 1 := (List.getElem?_eq_some_iff.mp hx).1
  rw [show k = 0 by omega] at hx
  cases hx
  exact ⟨_, hc, (u_born ty hts hin hKn hkC e1 hty).to hfs⟩
theorem zk_apn {X L : va_W} {j : Nat} {q : Nat × va_E} (h : L[j]? = some q) : (X ++ L)[X.length + j]? = some q := by
  rw [List.getElem?_append_right (by omega), Nat.add_sub_cancel_left]
  exact h
theorem zk_aps {X L : va_W} {j : Nat} {q : Nat × va_E} : (X ++ L).set (X.length + j) q = X ++ L.set j q := by
  rw [List.set_append_right _ _ (by omega), Nat.add_sub_cancel_left]
/-- a raw object's field is written -/
theorem zk_rput {z : Nat} (hW : zk_Raw G ca A B u n L H) (hz : H.size = z) (hexec : p.tables.exec = Jvm.exec) (hb : c.code = cc) {own ref C : String} {T : u_T} {N ci index : Nat} {Ts : List Cond} (hts : ∀ w ∈ Ts, w.before args s = true) (hin : ∀ w ∈ u_ws C T N, w ∈ Ts) (ty0 : Nat → FieldType) (hty : ∀ k, k < N → parseFieldDescriptor (T k).2.2.1 = some (ty0 k)) (hnm : ∀ a, a < N → ∀ b, b < N → a ≠ b → (T a).2.1 ≠ (T b).2.1) (hown : s.vm.findClass own = some m.cls) (hK : va_K G zk_cl (zk_tys ca) s) (hS0 : va_S A H0 H locs) (j : Nat) {a : Nat} {fs : List Value} (he0 : L[j]? = some (a, .inr (ci, fs))) (hc : zk_cl[ci]? = some (C, T, N)) (k : Nat) (hk : k < N) (hlink : (Cond.fieldLink own index ref (T k).2.1 (T k).2.2.1).before args s = true) (hsame : ∀ x, s.fieldFound? (T k).1 (T k).2.1 (T k).2.2.1 = some x → s.fieldFound? ref (T k).2.1 (T k).2.2.1 = some x) (hfin : (T k).2.2.2 = false) {ty : FieldType} {v : Value} (hd : parseFieldDescriptor (T k).2.2.1 = some ty) (hn : narrow ty v = v) (hfit : fits ty v = true) (hl : k < fs.length)
    (hdg : decode cc pc = .ok (.putfield index, 3)) (kk : ∀ (H1 : Heap) (locs1 : List Loc), zk_Raw G ca A B u n (L.set j (a, .inr (ci, fs.set k v))) H1 → H1.size = z → va_S A H0 H1 locs1 → W p l e R s m args below meth c H1 locs1 cells slots Q (F0 m (pc + 3) ls rest)) : W p l e R s m args below meth c H locs cells slots Q (F0 m pc ls (v :: .ref a :: rest)) := by
  obtain ⟨LN, hL, hP, hD, hun⟩ := hW
  have he := zk_apn (X := zk_Wl ca B u LN) he0
  have hap := va_apart (own := own) hts hin ty0 hty hnm hK hc
  obtain ⟨r, h1, cell, q1, q2, q3, q4⟩ := hP _ _ he
  have hr : r = (C, T, N) := Option.some.inj (h1.symm.trans hc)
  subst hr
  obtain ⟨hS, hfc, kC, hkC, hkind⟩ := hK.1 ci _ hc
  obtain ⟨cf, kf, fi, f, hi, hsl⟩ := hS k hk
  have hlay := hts _ (hin _ (u_in_lay hk))
  unfold u_lay at hlay
  rw [if_neg (by rw [hfin]; decide)] at hlay
  have hst := (u_facts hfc hkC (u_lays hts hin hk) hi).1
  have h6 := u_store hfc hkC hkind hlay hi hd hn hfit
  refine W.putK hexec hb (f := f) ⟨hown, hlink, ⟨_, _, _, hsame _ hi⟩, hst⟩ (by rw [q2]; exact h6) q1 q3 (by rw [hsl]; exact k2_hasslot (q4 k hk)) rfl rfl hdg fun H' e1 e2 e3 => ?_
  rw [hsl] at e1 ⊢
  refine kk H' _ ⟨LN, hL, ?_, ?_, hun⟩ (e2.trans hz) (hS0.put e2 e3 (hD.2 _ _ he))
  · rw [← zk_aps]
    exact hP.set hD he ⟨_, hc, t_OB.to (V := updV (vp_V fs) k v) ⟨_, e1, q2, q3, t_set q4 hap hk v⟩ (fun j _ => vp_updV_set hl v j)⟩ e3
  · rw [← zk_aps]
    exact hD.set he
theorem zk_rputF {z : Nat} (hW : zk_Raw G ca A B u n L H) (hz : H.size = z) (hexec : p.tables.exec = Jvm.exec) (hb : c.code = cc) {own ref C : String} {T : u_T} {N ci index : Nat} {Ts : List Cond} (hts : ∀ w ∈ Ts, w.before args s = true) (hin : ∀ w ∈ u_ws C T N, w ∈ Ts) (ty0 : Nat → FieldType) (hty : ∀ k, k < N → parseFieldDescriptor (T k).2.2.1 = some (ty0 k)) (hnm : ∀ a, a < N → ∀ b, b < N → a ≠ b → (T a).2.1 ≠ (T b).2.1) (hown : s.vm.findClass own = some m.cls) (hK : va_K G zk_cl (zk_tys ca) s) (hS0 : va_S A H0 H locs) (j : Nat) {a : Nat} {fs : List Value} (he0 : L[j]? = some (a, .inr (ci, fs))) (hc : zk_cl[ci]? = some (C, T, N)) (k : Nat) (hk : k < N) (hlink : (Cond.fieldLink own index ref (T k).2.1 (T k).2.2.1).before args s = true) (hsame : ∀ x, s.fieldFound? (T k).1 (T k).2.1 (T k).2.2.1 = some x → s.fieldFound? ref (T k).2.1 (T k).2.2.1 = some x) (hfin : (T k).2.2.2 = true) (hin2 : meth.name = "<init>") (hdecl : (T k).1 = own) {ty : FieldType} {v : Value} (hd : parseFieldDescriptor (T k).2.2.1 = some ty) (hn : narrow ty v = v) (hfit : fits ty v = true) (hl : k < fs.length)
    (hdg : decode cc pc = .ok (.putfield index, 3)) (kk : ∀ (H1 : Heap) (locs1 : List Loc), zk_Raw G ca A B u n (L.set j (a, .inr (ci, fs.set k v))) H1 → H1.size = z → va_S A H0 H1 locs1 → W p l e R s m args below meth c H1 locs1 cells slots Q (F0 m (pc + 3) ls rest)) : W p l e R s m args below meth c H locs cells slots Q (F0 m pc ls (v :: .ref a :: rest)) := by
  obtain ⟨LN, hL, hP, hD, hun⟩ := hW
  have he := zk_apn (X := zk_Wl ca B u LN) he0
  have hap := va_apart (own := own) hts hin ty0 hty hnm hK hc
  obtain ⟨r, h1, cell, q1, q2, q3, q4⟩ := hP _ _ he
  have hr : r = (C, T, N) := Option.some.inj (h1.symm.trans hc)
  subst hr
  obtain ⟨hS, hfc, kC, hkC, hkind⟩ := hK.1 ci _ hc
  obtain ⟨cf, kf, fi, f, hi, hsl⟩ := hS k hk
  have hlay := hts _ (hin _ (u_in_lay hk))
  unfold u_lay at hlay
  rw [if_pos hfin] at hlay
  have hst := (u_facts hfc hkC (u_lays hts hin hk) hi).1
  have hcf : m.cls = cf := by
    obtain ⟨_, _, c', _, _, _, -, -, hf', -, -, -, hown2, -⟩ := Cond.laysFinal_spec hlay
    have e1 : c' = cf := by have := hi.symm.trans hf'; simp at this; exact this.1.symm
    rw [hdecl] at hown2
    rw [← e1]; exact Option.some.inj (hown.symm.trans hown2)
  have h6 := u_fits hfc hkC hkind (Or.inr hlay) hi hd hn hfit
  refine W.putFinK hexec hb hown hlink (hsame _ hi) hst hcf hin2 (by rw [q2]; exact h6) q1 q3 (by rw [hsl]; exact k2_hasslot (q4 k hk)) rfl rfl hdg fun H' e1 e2 e3 => ?_
  rw [hsl] at e1 ⊢
  refine kk H' _ ⟨LN, hL, ?_, ?_, hun⟩ (e2.trans hz) (hS0.put e2 e3 (hD.2 _ _ he))
  · rw [← zk_aps]
    exact hP.set hD he ⟨_, hc, t_OB.to (V := updV (vp_V fs) k v) ⟨_, e1, q2, q3, t_set q4 hap hk v⟩ (fun j _ => vp_updV_set hl v j)⟩ e3
  · rw [← zk_aps]
    exact hD.set he
theorem zk_rone {L : va_W} {H : Heap} {q : Nat × va_E} (h : va_at G zk_cl q H) (k : Nat) (x : Nat × va_E) (hx : [q][k]? = some x) : va_at G zk_cl x H := by
  have hz : k < 1 := (List.getElem?_eq_some_iff.mp hx).1
  rw [show k = 0 by omega] at hx
  cases hx
  exact h
/-- a new array, beside a raw object -/
theorem zk_rnewa {z t N' : Nat} {ty : FieldType} {n9 : Int32} {a0 : vp_A} (hW : zk_Raw G ca A B u n L H) (hz : H.size = z) (hexec : p.tables.exec = Jvm.exec) (hb : c.code = cc) {atype : ArrayType} (harr : (Cond.arrayClass (newarray.typeOf atype)).before args s = true) (hty : newarray.typeOf atype = ty) (hRA : s.vm.findClass ("[" ++ ty.toString) = some (ca t)) (hS : va_S A H0 H locs) (hA : zk_Fr A B H0.size)
    (ha : ∀ cA : ClassId, vp_cell cA a0 = arrV cA N' (fun _ => defaultValue ty)) (hn : ¬ n9 < 0) (hN : n9.toNatClampNeg = N') (hbytes : N' * componentBytes ty ≤ 536870912) (hcells : cells + 1 ≤ R.cells) (hslots : slots + N' ≤ R.slots) (hdg : decode cc pc = .ok (.newarray atype, 2))
    (kk : ∀ (H1 : Heap), zk_Raw G ca A B u n (L ++ [(z, .inl (ca t, a0))]) H1 → H1.size = z + 1 → va_S A H0 H1 locs → W p l e R s m args below meth c H1 locs (cells + 1) (slots + N') Q (F0 m (pc + 2) ls (.ref z :: rest))) : W p l e R s m args below meth c H locs cells slots Q (F0 m pc ls (.int n9 :: rest)) := by
  subst hty
  subst hz
  obtain ⟨LN, hL, hP, hD, hun⟩ := hW
  refine va_newaK hexec hb harr rfl hdg rfl hn hN hbytes hcells hslots rfl fun H1 cA e1 z1 o1 hAr hNm => ?_
  have hk : ∀ (k : Nat) (x : Nat × va_E), (zk_Wl ca B u LN ++ L)[k]? = some x → H1[x.1]? = H[x.1]? := fun k x hx => o1 x.1 ((hP k x hx).lt)
  have ecA : cA = ca t := Option.some.inj (hNm.symm.trans hRA)
  subst ecA
  refine kk H1 ⟨LN, hL, ?_, ?_, hun⟩ z1 ⟨Nat.le_trans hS.1 (by omega), fun x h1 h2 => (o1 x (Nat.lt_of_lt_of_le h1 hS.1)).trans (hS.2.1 x h1 h2), hS.2.2⟩
  · rw [← List.append_assoc]
    refine (hP.kept hk).app (zk_rone (L := L) ?_)
    show H1[H.size]? = some (vp_cell _ _)
    rw [ha]
    exact e1
  · rw [← List.append_assoc]
    exact hD.push hP rfl (hA _ hS.1).1
theorem zk_rnewq {z t N' : Nat} {n9 : Int32} (hW : zk_Raw G ca A B u n L H) (hz : H.size = z) (hexec : p.tables.exec = Jvm.exec) (hb : c.code = cc) {own C : String} {index : Nat} (hown : s.vm.findClass own = some m.cls) (hclink : (Cond.classLink own index C).before args s = true) (hover : va_AO C s) (hRA : s.vm.findClass ("[" ++ (FieldType.object C).toString) = some (ca t)) (hS : va_S A H0 H locs) (hA : zk_Fr A B H0.size)
    (hn : ¬ n9 < 0) (hN : n9.toNatClampNeg = N') (hbytes : N' * 4 ≤ 536870912) (hcells : cells + 1 ≤ R.cells) (hslots : slots + N' ≤ R.slots) (hdg : decode cc pc = .ok (.anewarray index, 3))
    (kk : ∀ (H1 : Heap), zk_Raw G ca A B u n (L ++ [(z, .inl (ca t, N', .inr (.inr (.inr (.inr (fun _ => none))))))]) H1 → H1.size = z + 1 → va_S A H0 H1 locs → W p l e R s m args below meth c H1 locs (cells + 1) (slots + N') Q (F0 m (pc + 3) ls (.ref z :: rest))) : W p l e R s m args below meth c H locs cells slots Q (F0 m pc ls (.int n9 :: rest)) := by
  subst hN
  subst hz
  obtain ⟨LN, hL, hP, hD, hun⟩ := hW
  refine W.anew hexec hb hown hclink (va_AO.use hover) rfl hdg rfl hn hbytes hcells hslots fun cA kA comp f1 f2 f3 f4 => ?_
  generalize hH1 : H.push ({ cls := cA, slots := Array.replicate n9.toNatClampNeg .null, vm := .none } : Cell) = H1
  have z1 : H1.size = H.size + 1 := by rw [← hH1, Array.size_push]
  have e1 : H1[H.size]? = some (arrV cA n9.toNatClampNeg (fun _ => .null)) := by rw [← hH1, Array.getElem?_push_size, ← arrV_new]
  have o1 : ∀ q : Nat, q < H.size → H1[q]? = H[q]? := fun q hq => by rw [← hH1, Array.getElem?_push, if_neg (Nat.ne_of_lt hq)]
  have hk : ∀ (k : Nat) (x : Nat × va_E), (zk_Wl ca B u LN ++ L)[k]? = some x → H1[x.1]? = H[x.1]? := fun k x hx => o1 x.1 ((hP k x hx).lt)
  have ecA : cA = ca t := Option.some.inj (f1.symm.trans hRA)
  subst ecA
  refine kk H1 ⟨LN, hL, ?_, ?_, hun⟩ z1 ⟨Nat.le_trans hS.1 (by omega), fun x h1 h2 => (o1 x (Nat.lt_of_lt_of_le h1 hS.1)).trans (hS.2.1 x h1 h2), hS.2.2⟩
  · rw [← List.append_assoc]
    refine (hP.kept hk).app (zk_rone (L := L) ?_)
    show H1[H.size]? = some (vp_cell _ _)
    rw [vp_cell_q]
    exact e1
  · rw [← List.append_assoc]
    exact hD.push hP rfl (hA _ hS.1).1
end ZKNEW
