/-! WHAT HOLDS ALL THROUGH A RUN, ahead of the tables' words that ride in the lists -/
abbrev zk_casts : List (String × String) := [("WhichOneAllKnow$Refused", "WhichOneAllKnow$Refused"), ("WhichOneAllKnow$Faulty", "WhichOneAllKnow$Faulty"), ("java/lang/ArrayIndexOutOfBoundsException", "java/lang/ArrayIndexOutOfBoundsException"), ("java/lang/ArrayIndexOutOfBoundsException", "java/lang/IndexOutOfBoundsException"), ("java/lang/ClassCastException", "java/lang/ClassCastException"), ("WhichOneAllKnow$Bytes", "WhichOneAllKnow$Row"), ("WhichOneAllKnow$Shorts", "WhichOneAllKnow$Row"), ("WhichOneAllKnow$Ints", "WhichOneAllKnow$Row"), ("WhichOneAllKnow$Longs", "WhichOneAllKnow$Row"), ("WhichOneAllKnow$Leading", "WhichOneAllKnow$Voice"), ("WhichOneAllKnow$Joining", "WhichOneAllKnow$Voice"), ("WhichOneAllKnow$Boomer", "WhichOneAllKnow$Voice"), ("WhichOneAllKnow$Astray", "WhichOneAllKnow$Voice"), ("WhichOneAllKnow$Mime", "WhichOneAllKnow$Voice"), ("WhichOneAllKnow$Dragger", "WhichOneAllKnow$Voice"), ("WhichOneAllKnow$Boomer", "WhichOneAllKnow$Leading"), ("WhichOneAllKnow$Mime", "WhichOneAllKnow$Joining"), ("WhichOneAllKnow$Dragger", "WhichOneAllKnow$Astray")]
/-- pairs that are not castable -/
abbrev zk_nocasts : List (String × String) := [("WhichOneAllKnow$Bytes", "WhichOneAllKnow$Voice"), ("WhichOneAllKnow$Shorts", "WhichOneAllKnow$Voice"), ("WhichOneAllKnow$Ints", "WhichOneAllKnow$Voice"), ("WhichOneAllKnow$Longs", "WhichOneAllKnow$Voice"),
  ("WhichOneAllKnow$Voice", "WhichOneAllKnow$Row"), ("WhichOneAllKnow$Leading", "WhichOneAllKnow$Row"), ("WhichOneAllKnow$Joining", "WhichOneAllKnow$Row"), ("WhichOneAllKnow$Boomer", "WhichOneAllKnow$Row"), ("WhichOneAllKnow$Astray", "WhichOneAllKnow$Row"), ("WhichOneAllKnow$Mime", "WhichOneAllKnow$Row"), ("WhichOneAllKnow$Dragger", "WhichOneAllKnow$Row"),
  ("WhichOneAllKnow$Voice", "WhichOneAllKnow$Leading"), ("WhichOneAllKnow$Joining", "WhichOneAllKnow$Leading"), ("WhichOneAllKnow$Astray", "WhichOneAllKnow$Leading"), ("WhichOneAllKnow$Mime", "WhichOneAllKnow$Leading"), ("WhichOneAllKnow$Dragger", "WhichOneAllKnow$Leading"), ("WhichOneAllKnow$Bytes", "WhichOneAllKnow$Leading"), ("WhichOneAllKnow$Shorts", "WhichOneAllKnow$Leading"), ("WhichOneAllKnow$Ints", "WhichOneAllKnow$Leading"), ("WhichOneAllKnow$Longs", "WhichOneAllKnow$Leading"),
  ("WhichOneAllKnow$Voice", "WhichOneAllKnow$Joining"), ("WhichOneAllKnow$Leading", "WhichOneAllKnow$Joining"), ("WhichOneAllKnow$Boomer", "WhichOneAllKnow$Joining"), ("WhichOneAllKnow$Astray", "WhichOneAllKnow$Joining"), ("WhichOneAllKnow$Dragger", "WhichOneAllKnow$Joining"), ("WhichOneAllKnow$Bytes", "WhichOneAllKnow$Joining"), ("WhichOneAllKnow$Shorts", "WhichOneAllKnow$Joining"), ("WhichOneAllKnow$Ints", "WhichOneAllKnow$Joining"), ("WhichOneAllKnow$Longs", "WhichOneAllKnow$Joining"),
  ("WhichOneAllKnow$Voice", "WhichOneAllKnow$Boomer"), ("WhichOneAllKnow$Leading", "WhichOneAllKnow$Boomer"), ("WhichOneAllKnow$Joining", "WhichOneAllKnow$Boomer"), ("WhichOneAllKnow$Astray", "WhichOneAllKnow$Boomer"), ("WhichOneAllKnow$Mime", "WhichOneAllKnow$Boomer"), ("WhichOneAllKnow$Dragger", "WhichOneAllKnow$Boomer"), ("WhichOneAllKnow$Bytes", "WhichOneAllKnow$Boomer"), ("WhichOneAllKnow$Shorts", "WhichOneAllKnow$Boomer"), ("WhichOneAllKnow$Ints", "WhichOneAllKnow$Boomer"), ("WhichOneAllKnow$Longs", "WhichOneAllKnow$Boomer"),
  ("WhichOneAllKnow$Voice", "WhichOneAllKnow$Astray"), ("WhichOneAllKnow$Leading", "WhichOneAllKnow$Astray"), ("WhichOneAllKnow$Joining", "WhichOneAllKnow$Astray"), ("WhichOneAllKnow$Boomer", "WhichOneAllKnow$Astray"), ("WhichOneAllKnow$Mime", "WhichOneAllKnow$Astray"), ("WhichOneAllKnow$Bytes", "WhichOneAllKnow$Astray"), ("WhichOneAllKnow$Shorts", "WhichOneAllKnow$Astray"), ("WhichOneAllKnow$Ints", "WhichOneAllKnow$Astray"), ("WhichOneAllKnow$Longs", "WhichOneAllKnow$Astray"),
  ("WhichOneAllKnow$Voice", "WhichOneAllKnow$Mime"), ("WhichOneAllKnow$Leading", "WhichOneAllKnow$Mime"), ("WhichOneAllKnow$Joining", "WhichOneAllKnow$Mime"), ("WhichOneAllKnow$Boomer", "WhichOneAllKnow$Mime"), ("WhichOneAllKnow$Astray", "WhichOneAllKnow$Mime"), ("WhichOneAllKnow$Dragger", "WhichOneAllKnow$Mime"), ("WhichOneAllKnow$Bytes", "WhichOneAllKnow$Mime"), ("WhichOneAllKnow$Shorts", "WhichOneAllKnow$Mime"), ("WhichOneAllKnow$Ints", "WhichOneAllKnow$Mime"), ("WhichOneAllKnow$Longs", "WhichOneAllKnow$Mime"),
  ("WhichOneAllKnow$Voice", "WhichOneAllKnow$Dragger"), ("WhichOneAllKnow$Leading", "WhichOneAllKnow$Dragger"), ("WhichOneAllKnow$Joining", "WhichOneAllKnow$Dragger"), ("WhichOneAllKnow$Boomer", "WhichOneAllKnow$Dragger"), ("WhichOneAllKnow$Astray", "WhichOneAllKnow$Dragger"), ("WhichOneAllKnow$Mime", "WhichOneAllKnow$Dragger"), ("WhichOneAllKnow$Bytes", "WhichOneAllKnow$Dragger"), ("WhichOneAllKnow$Shorts", "WhichOneAllKnow$Dragger"), ("WhichOneAllKnow$Ints", "WhichOneAllKnow$Dragger"), ("WhichOneAllKnow$Longs", "WhichOneAllKnow$Dragger"),
  ("WhichOneAllKnow$Refused", "java/lang/ClassCastException"), ("WhichOneAllKnow$Refused", "java/lang/NegativeArraySizeException"), ("java/lang/ArrayIndexOutOfBoundsException", "WhichOneAllKnow$Refused"), ("WhichOneAllKnow$Refused", "java/lang/ArrayIndexOutOfBoundsException"), ("WhichOneAllKnow$Refused", "WhichOneAllKnow$Faulty"), ("WhichOneAllKnow$Refused", "java/lang/IndexOutOfBoundsException")]
/-- the literals: class, place, text, number -/
abbrev zk_lits : List (String × Nat × String × Nat) := [("WhichOneAllKnow$Reader", 102, "tune", 0), ("WhichOneAllKnow$Reader", 82, "voice", 1), ("WhichOneAllKnow$Reader", 112, "knows", 2), ("WhichOneAllKnow$Reader", 117, "moves", 3), ("WhichOneAllKnow$Reader", 121, "wait", 4), ("WhichOneAllKnowModel", 157, "tune", 0), ("WhichOneAllKnowModel", 165, "voice", 1), ("WhichOneAllKnowModel", 171, "knows", 2), ("WhichOneAllKnowModel", 173, "moves", 3), ("WhichOneAllKnowModel", 175, "wait", 4)]
/-- the abstract methods -/
abbrev zk_decls : List MethodName := [⟨"WhichOneAllKnow$Row", "put", "(IJ)V"⟩, ⟨"WhichOneAllKnow$Row", "sort", "()I"⟩, ⟨"WhichOneAllKnow$Row", "held", "()Ljava/lang/Object;"⟩, ⟨"WhichOneAllKnow$Row", "get", "(I)J"⟩, ⟨"WhichOneAllKnow$Row", "length", "()I"⟩, ⟨"java/lang/IndexOutOfBoundsException", "<init>", "(Ljava/lang/String;)V"⟩, ⟨"java/lang/RuntimeException", "<init>", "(Ljava/lang/String;)V"⟩, ⟨"java/lang/Exception", "<init>", "(Ljava/lang/String;)V"⟩, ⟨"java/lang/Throwable", "<init>", "(Ljava/lang/String;)V"⟩]
def zk_str (q w : Nat) (A : Nat → Prop) (U : State) (H : Heap) : Prop := ∃ v : Nat, va_O "java/lang/String" q A U H ∧ va_OF "java/lang/String" "coder" "B" (.int 0) q A U H ∧ va_OF "java/lang/String" "value" "[B" (.ref v) q A U H ∧ va_T .byte v (zk_tx w).length (fun j => .int (nI ((zk_tx w).getD j 0))) A U H
def zk_Env (G : va_G) (ca : Nat → ClassId) (A : Nat → Prop) (sa : Nat → Nat) (U : State) : Prop :=
  va_K G zk_cl (zk_tys ca) U ∧ vx_Zq Bundle.tN "UNASSIGNED_STACK" Bundle.steD A U U.heap ∧ vx_Zq Bundle.tN "SUPPRESSED_SENTINEL" Bundle.listD A U U.heap ∧ va_Z "java/lang/String" "COMPACT_STRINGS" "Z" (.int 1) A U U.heap ∧
  (∀ x ∈ zk_casts, va_Nw (.castable x.1 x.2) U) ∧ (∀ x ∈ zk_nocasts, va_Nc x.1 x.2 U) ∧ va_AO "WhichOneAllKnow$Voice" U ∧ va_AO "WhichOneAllKnow$Shelf" U ∧
  (∀ w : Nat, w < 5 → zk_str (sa w) w A U U.heap) ∧ (∀ x ∈ zk_lits, vk_R x.1 x.2.1 x.2.2.1 (sa x.2.2.2) U) ∧ (∀ x ∈ zk_decls, va_Nw (.declares x) U) ∧ va_Zq "jdk/internal/util/Preconditions" "SIOOBE_FORMATTER" "Ljava/util/function/BiFunction;" A U U.heap ∧ modulesRight_1 U = true
theorem zk_str.mv {q w : Nat} {A : Nat → Prop} {s U : State} (hW : s.WarmedH U.vm) (hq : ∀ a : Nat, a < s.heap.size → ¬ A a → U.heap[a]? = s.heap[a]?) (h : zk_str q w A s s.heap) : zk_str q w A U U.heap := by
  obtain ⟨v, h1, h2, h3, h4⟩ := h
  exact ⟨v, (h1.kept hq).moved hW.alike, (h2.kept hq).moved hW.alike, (h3.kept hq).moved hW.alike, (h4.kept hq).moved hW.alike⟩
theorem zk_Env.mv {G : va_G} {ca : Nat → ClassId} {A : Nat → Prop} {sa : Nat → Nat} {s U : State} (h : zk_Env G ca A sa s) (hW : s.WarmedH U.vm) (hq : ∀ a : Nat, a < s.heap.size → ¬ A a → U.heap[a]? = s.heap[a]?) : zk_Env G ca A sa U := by
  obtain ⟨h1, h2, h3, h4, h5, h6, h7, h8, h9, h10, h11, h12, h13⟩ := h
  exact ⟨va_K.moved hW.alike h1, vx_Zq.moved hW.alike (h2.kept hq), vx_Zq.moved hW.alike (h3.kept hq), va_Z.moved hW.alike (h4.kept hq), fun x hx => va_Nw.warmC hW (h5 x hx), fun x hx => va_Nc.moved hW.alike (h6 x hx), va_AO.moved hW.alike h7, va_AO.moved hW.alike h8, fun w hw => (h9 w hw).mv hW hq, fun x hx => vk_R.warm hW (h10 x hx), fun x hx => va_Nw.warmD hW (h11 x hx), va_Zq.moved hW.alike (h12.kept hq), by unfold modulesRight_1; rw [hW.alike.1]; exact h13⟩
/-- where an owned array lies: behind its object -/
def zk_off (k : Nat) : Nat := match k with
  | 0 => 1
  | 1 => 2
  | 2 => 3
  | 3 => 4
  | 5 => 1
  | 6 => 2
  | 7 => 3
  | 8 => 4
  | _ => 0
/-- fresh cells -/
def zk_Fr (A : Nat → Prop) (B : Nat → Nat → Nat) (z : Nat) : Prop := ∀ q : Nat, z ≤ q → A q ∧ ∀ k : Nat, B q k = q + zk_off k
/-- a call's start -/
def zk_Pre (G : va_G) (ca : Nat → ClassId) (A : Nat → Prop) (sa : Nat → Nat) (B : Nat → Nat → Nat) (u : zk_St) (U : State) : Prop := zk_Rep G ca A B u U.heap ∧ zk_Env G ca A sa U ∧ zk_Fr A B U.heap.size
/-- a call's end -/
def zk_Po (G : va_G) (ca : Nat → ClassId) (A : Nat → Prop) (B : Nat → Nat → Nat) (u : zk_St) : zk_St → State → Prop := fun u1 t => zk_KX u u1 ∧ zk_Rep G ca A B u1 t.heap
def zk_PoR (G : va_G) (ca : Nat → ClassId) (A : Nat → Prop) (B : Nat → Nat → Nat) (u : zk_St) : Nat × zk_St → Nat → State → Prop := fun v a t => a = v.1 ∧ zk_KX u v.2 ∧ zk_Rep G ca A B v.2 t.heap
/-- a call's end by a throw -/
def zk_XC (kx : Nat → zk_St → Prop) (G : va_G) (ca : Nat → ClassId) (A : Nat → Prop) (B : Nat → Nat → Nat) (u : zk_St) (C : String) (code : Nat) : Addr → String → State → State → Prop := vx_X (fun _ : zk_St => True) (fun q E u1 t => kx q u1 ∧ E = C ∧ zk_KX u u1 ∧ (code ≠ 0 → (zk_K u1 q).1 = code) ∧ zk_Rep G ca A B u1 t.heap) A
theorem zk_blind {G : va_G} {ca : Nat → ClassId} {A : Nat → Prop} {sa : Nat → Nat} {B : Nat → Nat → Nat} {u : zk_St} {av : List Value} : FrameBlind (va_Pc av (zk_Pre G ca A sa B u)) := fun a U g mk h =>
  ⟨h.1, h.2.1, h.2.2.1.mv (U := U.calling g mk a) (State.WarmedH.refl U) (fun _ _ _ => rfl), h.2.2.2⟩
section ZKCALL
variable {p : Program} {l : Launch} {e : Env} {R : Room} {s : State} {m : MethodId} {args : Array Value} {below : List Frame} {meth : Method} {c : Code} {H : Heap} {locs : List Loc} {cells slots : Nat} {Q : State → Prop}
variable {cc : ByteArray} {pc : Nat} {ls : Array Slot} {rest st0 : List Value} {G : va_G} {ca : Nat → ClassId} {A : Nat → Prop} {sa : Nat → Nat} {B : Nat → Nat → Nat} {u : zk_St}
theorem zk_pre (hR : zk_Rep G ca A B u H) (hE : zk_Env G ca A sa s) (hS : va_S A s.heap H locs) (hA : zk_Fr A B s.heap.size) {av : List Value} {U : State} (hU : U.heap = H) (hW : s.WarmedH U.vm) : va_Pc av (zk_Pre G ca A sa B u) av.toArray U :=
  ⟨rfl, by rw [hU]; exact hR, hE.mv hW (fun a h1 h2 => by rw [hU]; exact hS.2.1 a h1 h2), fun q h => hA q (Nat.le_trans hS.1 (by rw [← hU]; exact h))⟩
/-- the cell of an object -/
theorem zk_ce {ci n : Nat} {C : String} {T : u_T} {N : Nat} (hK : va_K G zk_cl (zk_tys ca) s) (hR : zk_Rep G ca A B u H) (hk : (zk_K u n).1 = ci + 1) (hc : zk_cl[ci]? = some (C, T, N)) : ∃ ce : Cell, H[n]? = some ce ∧ ce.vm = .none ∧ s.vm.findClass C = some ce.cls := by
  obtain ⟨LN, hL, hP, hD⟩ := hR
  obtain ⟨q0, -, hq⟩ := zk_pos hL (zk_entO (ca := ca) (B := B) hk (Nat.succ_ne_zero _))
  obtain ⟨r, h1, cell, q1, q2, q3, q4⟩ := hP q0 _ hq
  have hr : r = (C, T, N) := Option.some.inj (h1.symm.trans hc)
  subst hr
  obtain ⟨-, hfc, -⟩ := hK.1 ci _ hc
  exact ⟨cell, q1, q3, by rw [q2]; exact hfc⟩
theorem zk_pv {ci n : Nat} {C : String} {T : u_T} {N : Nat} {As : List Value} (hR : zk_Rep G ca A B u H) (hE : zk_Env G ca A sa s) (hS : va_S A s.heap H locs) (hA : zk_Fr A B s.heap.size) (hk : (zk_K u n).1 = ci + 1) (hc : zk_cl[ci]? = some (C, T, N)) : PreV s H C n (va_Pc (.ref n :: As) (zk_Pre G ca A sa B u)) As := by
  obtain ⟨ce, h1, h2, h3⟩ := zk_ce hE.1 hR hk hc
  exact ⟨zk_blind, ⟨ce, h1, by rw [h2]; rfl, h3⟩, fun U hU hW => zk_pre hR hE hS hA hU hW⟩
theorem zk_ps {As : List Value} (hR : zk_Rep G ca A B u H) (hE : zk_Env G ca A sa s) (hS : va_S A s.heap H locs) (hA : zk_Fr A B s.heap.size) : PreS s H (va_Pc As (zk_Pre G ca A sa B u)) As := ⟨zk_blind, fun U hU hW => zk_pre hR hE hS hA hU hW⟩
theorem zk_goi {k : Int32 → zk_St → Prop} {mc ms : Nat} {a : Array Value} (hr : va_Run p l e R s m args below meth c H locs cells slots mc ms (F0 m pc ls st0) rest (va_Qi k (zk_Po G ca A B u) A a) A) (hS : va_S A s.heap H locs)
    (kk : ∀ (r : Int32) (u1 : zk_St) (H1 : Heap) (locs1 : List Loc), k r u1 → zk_KX u u1 → zk_Rep G ca A B u1 H1 → va_S A s.heap H1 locs1 → W p l e R s m args below meth c H1 locs1 (cells + mc) (slots + ms) Q (F0 m (pc + 3) ls (.int r :: rest))) : W p l e R s m args below meth c H locs cells slots Q (F0 m pc ls st0) :=
  va_calli hr hS (fun _ _ h => h) (fun _ h => h) (fun r u1 t H1 locs1 ht hvm hw hB hz hk hS1 => kk r u1 H1 locs1 hw hB.1 (by rw [← ht]; exact hB.2) hS1)
theorem zk_gol {k : Int64 → zk_St → Prop} {mc ms : Nat} {a : Array Value} (hr : va_Run p l e R s m args below meth c H locs cells slots mc ms (F0 m pc ls st0) rest (va_Ql k (zk_Po G ca A B u) A a) A) (hS : va_S A s.heap H locs)
    (kk : ∀ (r : Int64) (u1 : zk_St) (H1 : Heap) (locs1 : List Loc), k r u1 → zk_KX u u1 → zk_Rep G ca A B u1 H1 → va_S A s.heap H1 locs1 → W p l e R s m args below meth c H1 locs1 (cells + mc) (slots + ms) Q (F0 m (pc + 3) ls (.long r :: rest))) : W p l e R s m args below meth c H locs cells slots Q (F0 m pc ls st0) :=
  va_calll hr hS (fun _ _ h => h) (fun _ h => h) (fun r u1 t H1 locs1 ht hvm hw hB hz hk hS1 => kk r u1 H1 locs1 hw hB.1 (by rw [← ht]; exact hB.2) hS1)
theorem zk_gov {k : zk_St → Prop} {mc ms : Nat} {a : Array Value} (hr : va_Run p l e R s m args below meth c H locs cells slots mc ms (F0 m pc ls st0) rest (va_Qv k (zk_Po G ca A B u) A a) A) (hS : va_S A s.heap H locs)
    (kk : ∀ (u1 : zk_St) (H1 : Heap) (locs1 : List Loc), k u1 → zk_KX u u1 → zk_Rep G ca A B u1 H1 → va_S A s.heap H1 locs1 → W p l e R s m args below meth c H1 locs1 (cells + mc) (slots + ms) Q (F0 m (pc + 3) ls rest)) : W p l e R s m args below meth c H locs cells slots Q (F0 m pc ls st0) :=
  va_callv hr hS (fun _ _ h => h) (fun _ h => h) (fun u1 t H1 locs1 ht hvm hw hB hz hk hS1 => kk u1 H1 locs1 hw hB.1 (by rw [← ht]; exact hB.2) hS1)
theorem zk_gor {k : Nat → zk_St → Prop} {mc ms : Nat} {a : Array Value} (hr : va_Run p l e R s m args below meth c H locs cells slots mc ms (F0 m pc ls st0) rest (va_Qr (fun v : Nat × zk_St => k v.1 v.2) (zk_PoR G ca A B u) A a) A) (hS : va_S A s.heap H locs)
    (kk : ∀ (r : Nat) (u1 : zk_St) (H1 : Heap) (locs1 : List Loc), k r u1 → zk_KX u u1 → zk_Rep G ca A B u1 H1 → va_S A s.heap H1 locs1 → W p l e R s m args below meth c H1 locs1 (cells + mc) (slots + ms) Q (F0 m (pc + 3) ls (.ref r :: rest))) : W p l e R s m args below meth c H locs cells slots Q (F0 m pc ls st0) :=
  va_callr hr hS (fun _ _ h => h) (fun _ h => h) (fun v ra t H1 locs1 ht hvm hw hB hz hk hS1 => by
    obtain ⟨hB0, hB1, hB2⟩ := hB
    subst hB0
    exact kk v.1 v.2 H1 locs1 hw hB1 (by rw [← ht]; exact hB2) hS1)
theorem zk_gxi {k : Int32 → zk_St → Prop} {kx : Nat → zk_St → Prop} {C : String} {code mc ms : Nat} {a : Array Value} (hr : vx_Run p l e R s m args below meth c H locs cells slots mc ms (F0 m pc ls st0) rest (va_Qi k (zk_Po G ca A B u) A a) (zk_XC kx G ca A B u C code) A) (hS : va_S A s.heap H locs)
    (kq : ∀ (q9 : Nat) (ce : Cell) (u1 : zk_St) (H1 : Heap) (locs1 : List Loc), kx q9 u1 → zk_KX u u1 → zk_Rep G ca A B u1 H1 → va_S A s.heap H1 locs1 → H1[q9]? = some ce → ce.vm = .none → s.vm.findClass C = some ce.cls → (code ≠ 0 → (zk_K u1 q9).1 = code) → vx_W p l e R s m args below meth c H1 locs1 (cells + mc) (slots + ms) Q (F0 m pc ls rest) q9)
    (kk : ∀ (r : Int32) (u1 : zk_St) (H1 : Heap) (locs1 : List Loc), k r u1 → zk_KX u u1 → zk_Rep G ca A B u1 H1 → va_S A s.heap H1 locs1 → W p l e R s m args below meth c H1 locs1 (cells + mc) (slots + ms) Q (F0 m (pc + 3) ls (.int r :: rest))) : W p l e R s m args below meth c H locs cells slots Q (F0 m pc ls st0) := by
  refine vx_calli hr hS (fun _ _ h => h) (fun _ h => h) (fun _ _ h => h) (fun E ce q9 u1 t H1 locs1 ht hvm _ hB hz hk hS1 hce hcv hcl => by
    obtain ⟨hB0, rfl, hB1, hB2, hB3⟩ := hB
    exact kq q9 ce u1 H1 locs1 hB0 hB1 (by rw [← ht]; exact hB3) hS1 hce hcv hcl hB2) ?_
  exact fun r u1 t H1 locs1 ht hvm hw hB hz hk hS1 => kk r u1 H1 locs1 hw hB.1 (by rw [← ht]; exact hB.2) hS1
theorem zk_gxl {k : Int64 → zk_St → Prop} {kx : Nat → zk_St → Prop} {C : String} {code mc ms : Nat} {a : Array Value} (hr : vx_Run p l e R s m args below meth c H locs cells slots mc ms (F0 m pc ls st0) rest (va_Ql k (zk_Po G ca A B u) A a) (zk_XC kx G ca A B u C code) A) (hS : va_S A s.heap H locs)
    (kq : ∀ (q9 : Nat) (ce : Cell) (u1 : zk_St) (H1 : Heap) (locs1 : List Loc), kx q9 u1 → zk_KX u u1 → zk_Rep G ca A B u1 H1 → va_S A s.heap H1 locs1 → H1[q9]? = some ce → ce.vm = .none → s.vm.findClass C = some ce.cls → (code ≠ 0 → (zk_K u1 q9).1 = code) → vx_W p l e R s m args below meth c H1 locs1 (cells + mc) (slots + ms) Q (F0 m pc ls rest) q9)
    (kk : ∀ (r : Int64) (u1 : zk_St) (H1 : Heap) (locs1 : List Loc), k r u1 → zk_KX u u1 → zk_Rep G ca A B u1 H1 → va_S A s.heap H1 locs1 → W p l e R s m args below meth c H1 locs1 (cells + mc) (slots + ms) Q (F0 m (pc + 3) ls (.long r :: rest))) : W p l e R s m args below meth c H locs cells slots Q (F0 m pc ls st0) := by
  refine vx_calll hr hS (fun _ _ h => h) (fun _ h => h) (fun _ _ h => h) (fun E ce q9 u1 t H1 locs1 ht hvm _ hB hz hk hS1 hce hcv hcl => by
    obtain ⟨hB0, rfl, hB1, hB2, hB3⟩ := hB
    exact kq q9 ce u1 H1 locs1 hB0 hB1 (by rw [← ht]; exact hB3) hS1 hce hcv hcl hB2) ?_
  exact fun r u1 t H1 locs1 ht hvm hw hB hz hk hS1 => kk r u1 H1 locs1 hw hB.1 (by rw [← ht]; exact hB.2) hS1
theorem zk_gxv {k : zk_St → Prop} {kx : Nat → zk_St → Prop} {C : String} {code mc ms : Nat} {a : Array Value} (hr : vx_Run p l e R s m args below meth c H locs cells slots mc ms (F0 m pc ls st0) rest (va_Qv k (zk_Po G ca A B u) A a) (zk_XC kx G ca A B u C code) A) (hS : va_S A s.heap H locs)
    (kq : ∀ (q9 : Nat) (ce : Cell) (u1 : zk_St) (H1 : Heap) (locs1 : List Loc), kx q9 u1 → zk_KX u u1 → zk_Rep G ca A B u1 H1 → va_S A s.heap H1 locs1 → H1[q9]? = some ce → ce.vm = .none → s.vm.findClass C = some ce.cls → (code ≠ 0 → (zk_K u1 q9).1 = code) → vx_W p l e R s m args below meth c H1 locs1 (cells + mc) (slots + ms) Q (F0 m pc ls rest) q9)
    (kk : ∀ (u1 : zk_St) (H1 : Heap) (locs1 : List Loc), k u1 → zk_KX u u1 → zk_Rep G ca A B u1 H1 → va_S A s.heap H1 locs1 → W p l e R s m args below meth c H1 locs1 (cells + mc) (slots + ms) Q (F0 m (pc + 3) ls rest)) : W p l e R s m args below meth c H locs cells slots Q (F0 m pc ls st0) := by
  refine vx_callv hr hS (fun _ _ h => h) (fun _ h => h) (fun _ _ h => h) (fun E ce q9 u1 t H1 locs1 ht hvm _ hB hz hk hS1 hce hcv hcl => by
    obtain ⟨hB0, rfl, hB1, hB2, hB3⟩ := hB
    exact kq q9 ce u1 H1 locs1 hB0 hB1 (by rw [← ht]; exact hB3) hS1 hce hcv hcl hB2) ?_
  exact fun u1 t H1 locs1 ht hvm hw hB hz hk hS1 => kk u1 H1 locs1 hw hB.1 (by rw [← ht]; exact hB.2) hS1
theorem zk_gxr {k : Nat → zk_St → Prop} {kx : Nat → zk_St → Prop} {C : String} {code mc ms : Nat} {a : Array Value} (hr : vx_Run p l e R s m args below meth c H locs cells slots mc ms (F0 m pc ls st0) rest (va_Qr (fun v : Nat × zk_St => k v.1 v.2) (zk_PoR G ca A B u) A a) (zk_XC kx G ca A B u C code) A) (hS : va_S A s.heap H locs)
    (kq : ∀ (q9 : Nat) (ce : Cell) (u1 : zk_St) (H1 : Heap) (locs1 : List Loc), kx q9 u1 → zk_KX u u1 → zk_Rep G ca A B u1 H1 → va_S A s.heap H1 locs1 → H1[q9]? = some ce → ce.vm = .none → s.vm.findClass C = some ce.cls → (code ≠ 0 → (zk_K u1 q9).1 = code) → vx_W p l e R s m args below meth c H1 locs1 (cells + mc) (slots + ms) Q (F0 m pc ls rest) q9)
    (kk : ∀ (r : Nat) (u1 : zk_St) (H1 : Heap) (locs1 : List Loc), k r u1 → zk_KX u u1 → zk_Rep G ca A B u1 H1 → va_S A s.heap H1 locs1 → W p l e R s m args below meth c H1 locs1 (cells + mc) (slots + ms) Q (F0 m (pc + 3) ls (.ref r :: rest))) : W p l e R s m args below meth c H locs cells slots Q (F0 m pc ls st0) := by
  intro T hT X
  rcases hr T hT X with ⟨v, st₀, t, T', L, h0, X', hL, e1, e2, ⟨⟨u9, ra, hv, hp, hB0, hB1, hB2⟩, hF⟩, st⟩ | ⟨q, st₀, t, T', L, E, ce, h0, X', hL, e1, e2, ⟨u1, hp, ⟨hB0, rfl, hB1, hB2, hB3⟩, hF⟩, hce, hcv, hcl, st⟩
  · cases hv
    subst hB0
    obtain ⟨k1, k2, k3⟩ := vx_keep h0 e1 hS (fun _ _ h => h) (fun _ h => h) hL hF
    obtain ⟨t2, a1, b1⟩ := kk u9.1 u9.2 T'.heap (locs ++ L) hp hB1 (by rw [e1]; exact hB2) k3 T' rfl X'
    exact ⟨t2, st t2 a1, b1⟩
  · obtain ⟨k1, k2, k3⟩ := vx_keep h0 e1 hS (fun _ _ h => h) (fun _ h => h) hL hF
    obtain ⟨t2, a1, b1⟩ := kq q ce u1 T'.heap (locs ++ L) hB0 hB1 (by rw [e1]; exact hB3) k3 (by rw [e1]; exact hce) hcv hcl hB2 T' rfl X'
    exact ⟨t2, st.trans a1, b1⟩
theorem zk_it {c9 : Prop} [Decidable c9] {X Y : Prop} (h : if c9 then X else Y) (hc : c9) : X := by rwa [if_pos hc] at h
theorem zk_if {c9 : Prop} [Decidable c9] {X Y : Prop} (h : if c9 then X else Y) (hc : ¬ c9) : Y := by rwa [if_neg hc] at h
theorem zk_nz {r : Int32} (h : r = 0 ∨ r = 1) : narrow .boolean (.int r) = .int r := by
  rcases h with rfl | rfl <;> rfl
theorem zk_tin {dflt lo hi : Int} {offs : Array Int} {len : Nat} {x v : Int32} {off : Int} {tgt : Nat} (ex : x = v) (hexec : p.tables.exec = Jvm.exec) (hb : c.code = cc) (hdg : decode cc pc = .ok (.tableswitch dflt lo hi offs, len)) (h1 : ¬ v.toInt < lo) (h2 : ¬ hi < v.toInt) (ho : offs[(v.toInt - lo).toNat]? = some off) (ht : (pc : Int) + off = (tgt : Int))
    (k : W p l e R s m args below meth c H locs cells slots Q (F0 m tgt ls rest)) : W p l e R s m args below meth c H locs cells slots Q (F0 m pc ls (.int x :: rest)) := by
  subst ex
  exact lv_tableIn hexec hb hdg h1 h2 ho ht k
theorem zk_ldcS {own tx : String} {index w : Nat} (hexec : p.tables.exec = Jvm.exec) (hb : c.code = cc) (hown : s.vm.findClass own = some m.cls) (hE : zk_Env G ca A sa s) (hm : (own, index, tx, w) ∈ zk_lits) (hdg : decode cc pc = .ok (.ldc index, 2))
    (k : W p l e R s m args below meth c H locs cells slots Q (F0 m (pc + 2) ls (.ref (sa w) :: rest))) : W p l e R s m args below meth c H locs cells slots Q (F0 m pc ls rest) :=
  va_ldcS hexec hb hown (hE.2.2.2.2.2.2.2.2.2.1 _ hm) hdg k
theorem zk_cas {E T : String} (hE : zk_Env G ca A sa s) (h : (E, T) ∈ zk_casts) : (Cond.castable E T).before args s = true := va_Nw.use rfl (hE.2.2.2.2.1 _ h)
theorem zk_nca {E T : String} (hE : zk_Env G ca A sa s) (h : (E, T) ∈ zk_nocasts) : va_Nc E T s := hE.2.2.2.2.2.1 _ h
theorem zk_dcw {x : MethodName} (hE : zk_Env G ca A sa s) (h : x ∈ zk_decls) : va_Nw (.declares x) s := hE.2.2.2.2.2.2.2.2.2.2.1 _ h
theorem zk_dcl {x : MethodName} (hE : zk_Env G ca A sa s) (h : x ∈ zk_decls) : va_Decl s x := va_Decl.abs (hE.2.2.2.2.2.2.2.2.2.2.1 _ h)
theorem zk_nr (o : Option Nat) : narrow (.object "WhichOneAllKnow$Voice") (va_rf o) = va_rf o := by cases o <;> rfl
end ZKCALL
