/-! A RAW OBJECT, while other objects are made beside it -/
def zk_Ar (A : Nat → Prop) (L : va_W) : Nat → Prop := fun q => A q ∧ ∀ x ∈ L, x.1 ≠ q
theorem zk_Env.narrow {G : va_G} {ca : Nat → ClassId} {A A1 : Nat → Prop} {sa : Nat → Nat} {U : State} (h : zk_Env G ca A sa U) (hAB : ∀ q, A1 q → A q) : zk_Env G ca A1 sa U := by
  obtain ⟨h1, h2, h3, h4, h5, h6, h7, h8, h9, h10, h11, h12, h13⟩ := h
  refine ⟨h1, h2.narrow hAB, h3.narrow hAB, h4.narrow hAB, h5, h6, h7, h8, fun w hw => ?_, h10, h11, h12.narrow hAB, h13⟩
  obtain ⟨v, q1, q2, q3, q4⟩ := h9 w hw
  exact ⟨v, q1.narrow hAB, q2.narrow hAB, q3.narrow hAB, q4.narrow hAB⟩
section ZKRAW2
variable {G : va_G} {ca : Nat → ClassId} {A : Nat → Prop} {B : Nat → Nat → Nat} {u u1 : zk_St} {n : Nat} {L : va_W} {H H1 : Heap}
theorem zk_Raw.lt (h : zk_Raw G ca A B u n L H) : ∀ x ∈ L, x.1 < H.size := by
  obtain ⟨LN, hL, hP, hD, -⟩ := h
  intro x hx
  obtain ⟨j, hj⟩ := List.getElem?_of_mem hx
  exact (hP _ _ (zk_apn (X := zk_Wl ca B u LN) hj)).lt
theorem zk_Raw.sub (h : zk_Raw G ca A B u n L H) : zk_Rep G ca (zk_Ar A L) B u H := by
  obtain ⟨LN, hL, hP, hD, -⟩ := h
  have e : ∀ (k : Nat) (q : Nat × va_E), (zk_Wl ca B u LN)[k]? = some q → (zk_Wl ca B u LN ++ L)[k]? = some q := fun k q hk => by
    rw [List.getElem?_append_left (List.getElem?_eq_some_iff.mp hk).1]
    exact hk
  refine ⟨LN, hL, fun k q hk => hP k q (e k q hk), fun i j p q hi hj hpq => hD.1 i j p q (e i p hi) (e j q hj) hpq, fun k q hk => ⟨hD.2 k q (e k q hk), fun x hx hxq => ?_⟩⟩
  obtain ⟨j, hj⟩ := List.getElem?_of_mem hx
  have h1 := hD.1 _ _ _ _ (e k q hk) (zk_apn (X := zk_Wl ca B u LN) hj) hxq.symm
  have h2 := (List.getElem?_eq_some_iff.mp hk).1
  omega
theorem zk_Raw.back (h : zk_Raw G ca A B u n L H) (hn : ∃ e, (n, e) ∈ L) (hR : zk_Rep G ca (zk_Ar A L) B u1 H1) (hk : ∀ q : Nat, q < H.size → ¬ zk_Ar A L q → H1[q]? = H[q]?) : zk_Raw G ca A B u1 n L H1 := by
  obtain ⟨LN, hL, hP, hD, hun⟩ := h
  obtain ⟨LN1, hL1, hP1, hD1⟩ := hR
  have hPL : va_P G zk_cl L H1 := fun j x hx => by
    have h0 := hP _ _ (zk_apn (X := zk_Wl ca B u LN) hx)
    exact h0.kept (hk x.1 h0.lt (fun q => q.2 x (List.mem_of_getElem? hx) rfl))
  have hDL : va_D A L := ⟨fun i j p q hi hj hpq => by
    have := hD.1 _ _ _ _ (zk_apn (X := zk_Wl ca B u LN) hi) (zk_apn (X := zk_Wl ca B u LN) hj) hpq
    omega, fun k q hk => hD.2 _ _ (zk_apn (X := zk_Wl ca B u LN) hk)⟩
  refine ⟨LN1, hL1, hP1.app hPL, (hD1.weaken (fun k q hk => fun h => h.1)).app hDL (fun i j p q hi hj hpq => (hD1.2 i p hi).2 q (List.mem_of_getElem? hj) hpq.symm), ?_⟩
  by_cases h0 : (zk_K u1 n).1 = 0
  · exact h0
  · exfalso
    obtain ⟨q0, -, hq⟩ := zk_pos hL1 (zk_entO (ca := ca) (B := B) (u := u1) (n := n) rfl h0)
    obtain ⟨e, he⟩ := hn
    exact (hD1.2 q0 _ hq).2 _ he rfl
end ZKRAW2
section ZKRAW3
variable {p : Program} {l : Launch} {e : Env} {R : Room} {s : State} {m : MethodId} {args : Array Value} {below : List Frame} {meth : Method} {c : Code} {H : Heap} {locs : List Loc} {cells slots : Nat} {Q : State → Prop}
variable {cc : ByteArray} {pc : Nat} {ls : Array Slot} {rest st0 : List Value} {G : va_G} {ca : Nat → ClassId} {A : Nat → Prop} {sa : Nat → Nat} {B : Nat → Nat → Nat} {u : zk_St} {H0 : Heap} {n : Nat} {L : va_W}
theorem zk_newRR {own C : String} {T : u_T} {N index ci z : Nat} {Ts : List Cond} (hexec : p.tables.exec = Jvm.exec) (hb : c.code = cc) (hts : ∀ w ∈ Ts, w.before args s = true) (hin : ∀ w ∈ u_ws C T N, w ∈ Ts) (ty : Nat → FieldType) (hty : ∀ k, k < N → parseFieldDescriptor (T k).2.2.1 = some (ty k)) (hown : s.vm.findClass own = some m.cls) (hcl : (Cond.classLink own index C).before args s = true) (hinst : (Cond.instantiable C N).before args s = true) (hini : (Cond.initialized C).before args s = true)
    (hK : va_K G zk_cl (zk_tys ca) s) (hW : zk_Raw G ca A B u n L H) (hz : H.size = z) (hS : va_S A H0 H locs) (hA : zk_Fr A B H0.size) (hc : zk_cl[ci]? = some (C, T, N)) (hfs : ∀ j, j < N → defaultValue (ty j) = vp_V ((zk_lay (ci + 1)).map zk_dv) j) (hcells : cells + 1 ≤ R.cells) (hslots : slots + N ≤ R.slots) (hdg : decode cc pc = .ok (.new index, 3))
    (kk : ∀ (H1 : Heap), zk_Raw G ca A B u n L H1 → zk_Raw G ca (zk_Ar A L) B u z [(z, .inr (ci, (zk_lay (ci + 1)).map zk_dv))] H1 → H1.size = z + 1 → (∀ k : Nat, B z k = z + zk_off k) → va_S A H0 H1 locs → W p l e R s m args below meth c H1 locs (cells + 1) (slots + N) Q (F0 m (pc + 3) ls (.ref z :: rest))) : W p l e R s m args below meth c H locs cells slots Q (F0 m pc ls rest) := by
  subst hz
  have hlt := hW.lt
  obtain ⟨LN1, hL1, hP1, hD1⟩ := hW.sub
  obtain ⟨LN, hL, hP, hD, hun⟩ := hW
  have hKn := hK.1 ci _ hc
  refine W.newcK hexec hb hown hcl hinst hini rfl hdg hcells hslots hKn.2.1 rfl fun H1 kC hkC e1 z1 o1 => ?_
  have hk : ∀ (k : Nat) (x : Nat × va_E), (zk_Wl ca B u LN ++ L)[k]? = some x → H1[x.1]? = H[x.1]? := fun k x hx => o1 x.1 ((hP k x hx).lt)
  have hk1 : ∀ (k : Nat) (x : Nat × va_E), (zk_Wl ca B u LN1)[k]? = some x → H1[x.1]? = H[x.1]? := fun k x hx => o1 x.1 ((hP1 k x hx).lt)
  have hD2 : va_D (zk_Ar A L) (zk_Wl ca B u LN1 ++ [(H.size, .inr (ci, (zk_lay (ci + 1)).map zk_dv))]) := hD1.push hP1 rfl ⟨(hA _ hS.1).1, fun x hx => Nat.ne_of_lt (hlt x hx)⟩
  refine kk H1 ⟨LN, hL, hP.kept hk, hD, hun⟩ ⟨LN1, hL1, (hP1.kept hk1).app (zk_rone (L := L) ?_), hD2, zk_unused (G := G) hL1 hD2⟩ z1 (hA _ hS.1).2 ⟨Nat.le_trans hS.1 (by omega), fun x h1 h2 => (o1 x (Nat.lt_of_lt_of_le h1 hS.1)).trans (hS.2.1 x h1 h2), hS.2.2⟩
  exact ⟨_, hc, (u_born ty hts hin hKn hkC e1 hty).to hfs⟩
theorem zk_psNN {ci q : Nat} {As : List Value} (hW : zk_Raw G ca A B u n L H) (hq : zk_Raw G ca (zk_Ar A L) B u q [(q, .inr (ci, (zk_lay (ci + 1)).map zk_dv))] H) (hz : H.size = q + 1) (hE : zk_Env G ca A sa s) (hS : va_S A s.heap H locs) (hA : zk_Fr A B s.heap.size) : PreS s H (va_Pc As (zk_PreN G ca (zk_Ar A L) sa B u q ci)) As :=
  ⟨zk_blindN, fun U hU hW9 => ⟨rfl, by rw [hU]; exact hq, by rw [hU]; exact hz, (hE.mv hW9 (fun a h1 h2 => by rw [hU]; exact hS.2.1 a h1 h2)).narrow (fun q h => h.1), fun x h => by
    rw [hU] at h
    exact ⟨⟨(hA x (Nat.le_trans hS.1 h)).1, fun y hy => Nat.ne_of_lt (Nat.lt_of_lt_of_le (hW.lt y hy) h)⟩, (hA x (Nat.le_trans hS.1 h)).2⟩⟩⟩
theorem zk_rcall {k : zk_St → Prop} {mc ms cd z q : Nat} {a : Array Value} (hr : va_Run p l e R s m args below meth c H locs cells slots mc ms (F0 m pc ls st0) rest (va_Qv k (zk_PoN G ca (zk_Ar A L) B u q cd z) (zk_Ar A L) a) (zk_Ar A L)) (hW : zk_Raw G ca A B u n L H) (hn : ∃ e, (n, e) ∈ L) (hS : va_S A s.heap H locs)
    (kk : ∀ (u1 : zk_St) (H1 : Heap) (locs1 : List Loc), k u1 → zk_KX u u1 → (zk_K u1 q).1 = cd → H1.size = q + z → zk_Raw G ca A B u1 n L H1 → va_S A s.heap H1 locs1 → W p l e R s m args below meth c H1 locs1 (cells + mc) (slots + ms) Q (F0 m (pc + 3) ls rest)) : W p l e R s m args below meth c H locs cells slots Q (F0 m pc ls st0) :=
  va_callv (A0 := A) hr hS (fun _ _ h => h.1) (fun _ h => h.1) (fun u1 t H1 locs1 ht hvm hw hB hz hk hS1 => kk u1 H1 locs1 hw hB.1 hB.2.1 (by rw [← ht]; exact hB.2.2.2) (hW.back hn (by rw [← ht]; exact hB.2.2.1) hk) hS1)
end ZKRAW3
/-- a big constructor's end -/
def zk_PoM (G : va_G) (ca : Nat → ClassId) (A : Nat → Prop) (B : Nat → Nat → Nat) (u : zk_St) (n c : Nat) : zk_St → State → Prop := fun u1 t => zk_KX u u1 ∧ (zk_K u1 n).1 = c ∧ zk_Rep G ca A B u1 t.heap
