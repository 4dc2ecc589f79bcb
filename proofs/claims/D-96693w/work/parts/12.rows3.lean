/-! CALLS THROUGH A FAMILY, CASTS -/
theorem zk_l6 {a b c d e f : Cond} (h1 : a ∈ lw_all) (h2 : b ∈ lw_all) (h3 : c ∈ lw_all) (h4 : d ∈ lw_all) (h5 : e ∈ lw_all) (h6 : f ∈ lw_all) : ∀ w ∈ [a, b, c, d, e, f], w ∈ lw_all := by
  intro w hw
  simp only [List.mem_cons, List.not_mem_nil, or_false] at hw
  rcases hw with e | e | e | e | e | e
  · rw [e]; exact h1
  · rw [e]; exact h2
  · rw [e]; exact h3
  · rw [e]; exact h4
  · rw [e]; exact h5
  · rw [e]; exact h6
theorem zk_cs {G : va_G} {ca : Nat → ClassId} {A : Nat → Prop} {sa : Nat → Nat} {s : State} {E T : String} (hE : zk_Env G ca A sa s) (h : (E, T) ∈ zk_casts) : va_Nw (.castable E T) s := hE.2.2.2.2.1 _ h
section ZKROW3
variable {p : Program} {l : Launch} {e : Env} {R : Room} {s : State} {m : MethodId} {args : Array Value} {below : List Frame} {meth : Method} {c : Code} {H : Heap} {locs : List Loc} {cells slots : Nat} {Q : State → Prop}
variable {cc : ByteArray} {pc : Nat} {ls : Array Slot} {rest st0 : List Value} {G : va_G} {ca : Nat → ClassId} {A : Nat → Prop} {sa : Nat → Nat} {B : Nat → Nat → Nat} {u : zk_St} {H0 : Heap}
theorem zk_cwA {own C owner : String} {index maxL mc ms : Nat} {x y : MethodName} {bytes : ByteArray} {ret : Option FieldType} {Ts ws ws' : List Cond} {rm : Room} (n : Nat) (ht : ∀ w ∈ Ts, w.before args s = true) (hT : GoodIn Ts (va_wsU own index C owner x y ws)) (hw : ws = Cond.code y bytes maxL ret :: ws') (hrc : rm.cells = mc) (hrs : rm.slots = ms)
    (hdcl : va_Decl s ⟨owner, x.name, x.desc⟩) (hd : owner ≠ "java/lang/invoke/MethodHandle" ∧ owner ≠ "java/lang/invoke/VarHandle" ∧ (parseMethodDescriptor x.desc).map (fun d => d.parameters.length) = some n) (hR : rm.frames + 1 ≤ R.frames ∧ 8 + (maxL + 11) + rm.locals ≤ R.locals) : va_CU R s args own C owner index x y bytes maxL ret ws rm mc ms n := by
  have ok : ∀ w ∈ va_wsU own index C owner x y ws, w.before args s = true := fun w h => ht w (hT w h).1
  have hG : GoodIn Ts ws := fun w h => hT w (by unfold va_wsU; exact List.mem_append_right _ h)
  have hc : Cond.code y bytes maxL ret ∈ ws := by rw [hw]; exact List.mem_cons_self
  refine ⟨⟨hrc, hrs, hR.1, hR.2, pay_in ht hG, hc⟩, ht _ (hG _ hc).1, ok _ (by simp [va_wsU]), ⟨hd.1, hd.2.1⟩, fun sig h => ?_, ok _ (by simp [va_wsU]), ok _ (by simp [va_wsU]), hdcl, ok _ (by simp [va_wsU]), ok _ (by simp [va_wsU])⟩
  have h2 := hd.2.2
  rw [h] at h2
  exact (Option.some.inj h2).symm
/-- super.m(..) where m is inherited by the superclass C2 from O -/
theorem zk_callSI {T : State} {own C2 O : String} {index : Nat} {n d : String} {bytes : ByteArray} {maxL : Nat} {ret : Option FieldType} (X : Stand p l e R s m args below meth c T locs cells slots) (hexec : p.tables.exec = Jvm.exec)
    (hown : s.vm.findClass own = some m.cls) (hlink : (Cond.methodLink own index ⟨C2, n, d⟩).before args s = true) (hsame : (Cond.sameMethod C2 O n d).before args s = true) (hsup : (Cond.superclass own C2).before args s = true) (hcast : (Cond.castable C2 O).before args s = true) (hso : (Cond.superclass O "java/lang/Object").before args s = true)
    (hinst : (Cond.instanceMethod ⟨O, n, d⟩).before args s = true) (hcode : (Cond.code ⟨O, n, d⟩ bytes maxL ret).before args s = true) (hno : n ≠ "<init>")
    {W : Nat} {Pre : Pt → Array Value → Prop} {Post : Pt → Array Value → Option Value → Pt → Prop} (hK : Back l R p e below s args ⟨O, n, d⟩ 3 W Pre Post)
    {b : Addr} {cellB : Cell} {kB : Class} (hcell : T.heap[b]? = some cellB) (hobj : cellB.vm.isStatics = false) (hkB : s.vm.classes[cellB.cls]? = some kB)
    {g : JFrame} (hg : g.method = m) (hsize : g.locals.size = c.maxLocals) {argsL rest : List Value} (hlen : ∀ sig, parseMethodDescriptor d = some sig → argsL.length = sig.parameters.length)
    (hstack : g.stack = argsL.reverse ++ .ref b :: rest) (hW : 2 * g.monitorRoom + (rest.map fun v => v.category).sum ≤ W) (hdg : decode c.code g.pc = .ok (.invokespecial index, 3))
    (hpre : ∀ vm₁, s.WarmedH vm₁ → Pre ⟨T.setVm vm₁, locs, cells, slots⟩ (Value.ref b :: argsL).toArray) :
    ∃ (v : Option Value) (vm₁ : Vm) (B : Pt), s.WarmedH vm₁ ∧ Stand p l e R s m args below meth c B.U B.locs B.cells B.slots ∧ Post ⟨T.setVm vm₁, locs, cells, slots⟩ (Value.ref b :: argsL).toArray v B ∧
      ∀ target, Steps p.tables e below (B.U.setTop { g with pc := g.pc + 3, stack := v.toList ++ rest }) target → Steps p.tables e below (T.setTop g) target := by
  obtain ⟨mk, methM, hnamed, hmethM, hstM, habM⟩ := Cond.instanceMethod_spec hinst
  obtain ⟨methM', cM, hmethM', -, -, -, -, -, -, hsigM⟩ := Cond.code_spec hnamed hcode
  cases hmethM.symm.trans hmethM'
  obtain ⟨ps, dk, kp, hps, hdk, hkp, hsuper, -, hordp, hnid⟩ := Cond.superclass_spec hown hsup
  have hsub : s.vm.isSubclass ps mk.cls = true := by
    obtain ⟨c1, c2, g1, g2, g3⟩ := Cond.castable_spec hcast
    cases Option.some.inj (g1.symm.trans hps)
    cases Option.some.inj (g2.symm.trans (findClass_of_methodNamed hnamed))
    obtain ⟨p9, k9, kp9, -, hk9, -, -, ho9, -, hi9⟩ := Cond.superclass_spec g2 hso
    exact isSubclass_of_assignable hkp hk9 (by assumption) ho9 hi9 g3
  obtain ⟨vm₁, X₁, hstep₁⟩ := X.invokespecialUp hexec hown hlink hsame hnamed hmethM hstM habM hno hdk hnid hps hsuper hsub (a := b) (cell := cellB) hcell
    (fun z h => by rw [h] at hobj; cases hobj) hkB (g := g) hg (argsL := argsL) (rest := rest) (hlen _ hsigM) hstack hdg
  obtain ⟨v, B, X', hpost, hsteps⟩ := hK m meth c ⟨T.setVm vm₁, locs, cells, slots⟩ { g with stack := rest } (.invokespecial index) mk (Value.ref b :: argsL).toArray X₁ hg hsize hdg hW (X₁.named hnamed) (hpre vm₁ X₁.warmed)
  exact ⟨v, vm₁, B, X₁.warmed, X', hpost, fun target h => hstep₁ _ (by rw [doInvoke_state]; exact hsteps.trans h)⟩
abbrev zk_CSI (R : Room) (s : State) (args : Array Value) (own C2 O : String) (index : Nat) (mn d : String) (bytes : ByteArray) (maxL : Nat) (ret : Option FieldType) (ws : List Cond) (rm : Room) (mc ms n : Nat) : Prop :=
  (rm.cells = mc ∧ rm.slots = ms ∧ rm.frames + 1 ≤ R.frames ∧ 8 + (maxL + 11) + rm.locals ≤ R.locals ∧ (∀ w ∈ ws, ∀ (a' : Array Value) (U : State), s.WarmedH U.vm → w.before a' U = true) ∧ Cond.code ⟨O, mn, d⟩ bytes maxL ret ∈ ws) ∧
  (Cond.methodLink own index ⟨C2, mn, d⟩).before args s = true ∧ (Cond.sameMethod C2 O mn d).before args s = true ∧ (Cond.superclass own C2).before args s = true ∧ (Cond.castable C2 O).before args s = true ∧ (Cond.instanceMethod ⟨O, mn, d⟩).before args s = true ∧ (Cond.initialized O).before args s = true ∧ (Cond.code ⟨O, mn, d⟩ bytes maxL ret).before args s = true ∧ mn ≠ "<init>" ∧ (∀ sig, parseMethodDescriptor d = some sig → n = sig.parameters.length)
theorem zk_cwSI {own C2 O : String} {index maxL mc ms : Nat} {mn d : String} {bytes : ByteArray} {ret : Option FieldType} {ws ws' : List Cond} {rm : Room} (n : Nat) (ht : ∀ w ∈ lw_all, w.before args s = true) (hT : GoodIn lw_all (([.methodLink own index ⟨C2, mn, d⟩, .sameMethod C2 O mn d, .superclass own C2, .instanceMethod ⟨O, mn, d⟩, .initialized O] : List Cond) ++ ws)) (hw : ws = Cond.code ⟨O, mn, d⟩ bytes maxL ret :: ws') (hrc : rm.cells = mc) (hrs : rm.slots = ms)
    (hd : mn ≠ "<init>" ∧ (parseMethodDescriptor d).map (fun d => d.parameters.length) = some n) (hcast : (Cond.castable C2 O).before args s = true) (hR : rm.frames + 1 ≤ R.frames ∧ 8 + (maxL + 11) + rm.locals ≤ R.locals) : zk_CSI R s args own C2 O index mn d bytes maxL ret ws rm mc ms n := by
  have ok : ∀ w ∈ ([.methodLink own index ⟨C2, mn, d⟩, .sameMethod C2 O mn d, .superclass own C2, .instanceMethod ⟨O, mn, d⟩, .initialized O] : List Cond) ++ ws, w.before args s = true := fun w h => ht w (hT w h).1
  have hG : GoodIn lw_all ws := fun w h => hT w (List.mem_append_right _ h)
  have hc : Cond.code ⟨O, mn, d⟩ bytes maxL ret ∈ ws := by rw [hw]; exact List.mem_cons_self
  refine ⟨⟨hrc, hrs, hR.1, hR.2, pay_in ht hG, hc⟩, ok _ (by simp), ok _ (by simp), ok _ (by simp), hcast, ok _ (by simp), ok _ (by simp), ht _ (hG _ hc).1, hd.1, fun sig h => ?_⟩
  have h2 := hd.2
  rw [h] at h2
  exact (Option.some.inj h2).symm
theorem zk_runSI {n nn : Nat} {mn d C2 O : String} {bytes : ByteArray} {maxL nL mc ms index : Nat} {ret : Option FieldType} {ws : List Cond} {rm : Room} {Qc : Array Value → State → Outcome → State → Prop} {own : String} {As : List Value} {g : JFrame}
    (hso : (Cond.superclass O "java/lang/Object").before args s = true) (hE : zk_Env G ca A sa s) (hR : zk_Rep G ca A B u H) (hS : va_S A s.heap H locs) (hA : zk_Fr A B s.heap.size) (hk : zk_isV (zk_K u n).1)
    (S : CallFix p m c cc nL s args lw_all own) (hM : Met l ⟨O, mn, d⟩ ws rm (va_Pc (.ref n :: As) (zk_Pre G ca A sa B u)) Qc mc ms A) (cw : zk_CSI R s args own C2 O index mn d bytes maxL ret ws rm mc ms nn)
    (hg : g.method = m) (hn : As.length = nn) (hsize : g.locals.size = nL) (hstack : g.stack = As.reverse ++ .ref n :: rest) (hW : 2 * g.monitorRoom + (rest.map fun v => v.category).sum ≤ 8) (hdg : decode cc g.pc = .ok (.invokespecial index, 3)) (hf : cells + mc ≤ R.cells ∧ slots + ms ≤ R.slots) :
    va_Run p l e R s m args below meth c H locs cells slots mc ms g rest (Qc (Value.ref n :: As).toArray) A := by
  obtain ⟨ci, C, T, N, h1, h2⟩ := zk_vcls hk
  obtain ⟨hbl, ⟨cellB, hcB, hoB, hclB⟩, hPc⟩ := zk_pv (As := As) hR hE hS hA h1 h2
  obtain ⟨⟨hrc, hrs, hfr, hlo, hws, hcw⟩, hl1, hl2, hl3, hl4, hl5, hini, hcode, hno, hlen⟩ := cw
  have hK : Back l R p e below s args ⟨O, mn, d⟩ 3 8 (PreOf R mc ms (va_Pc (.ref n :: As) (zk_Pre G ca A sa B u))) (PostOf Qc mc ms A) := back_of (bytes := bytes) (maxL := maxL) (ret := ret) hM hbl hrc hrs hfr hlo hws hcw (fun a' U hW => word_at hW (Or.inl (by first | rfl | simp [Cond.onTables, Cond.keeps, Cond.steady])) hini)
  obtain ⟨hx, hb, hml, ho, -⟩ := S
  obtain ⟨-, kB, hkB, -⟩ := (hE.1.1 ci _ h2).2
  have hcl : cellB.cls = G.1 ci := Option.some.inj (hclB.symm.trans (hE.1.1 ci _ h2).2.1)
  intro T hT X
  obtain ⟨v, vm₁, ⟨U', l2, c2, s2⟩, hW₁, X', ⟨g', mk, t, L, e1, e2, hq, h1, hL, h2, h3⟩, st⟩ := zk_callSI X hx (bytes := bytes) (maxL := maxL) (ret := ret) ho hl1 hl2 hl3 hl4 hso hl5 hcode hno hK (b := n) (cellB := cellB) (kB := kB) (by rw [hT]; exact hcB) hoB (by rw [hcl]; exact hkB) hg (hsize.trans hml.symm) (argsL := As) (rest := rest) (fun sig h => hn.trans (hlen sig h)) hstack hW (by rw [hb]; exact hdg)
    (fun vm₁ hW₁ => ⟨hf.1, hf.2, hPc (T.setVm vm₁) hT hW₁⟩)
  dsimp only [Pt.U, Pt.locs, Pt.cells, Pt.slots] at X' e1 e2 h1 h2 h3 st
  subst h1; subst h2; subst h3
  exact ⟨v, (T.setVm vm₁).calling g' mk (Value.ref n :: As).toArray, t, U', L, hT, X', hL, e1, e2, hq, st⟩
/-- a voice is put into a Voice[] -/
theorem zk_astV {n k len v : Nat} {i : Int32} {f : zk_St → Prop} (h : vp_in i len ∧ zk_lt (zk_setR u n k (va_up (zk_R u n k) i.toNatClampNeg (some v))) f) (hexec : p.tables.exec = Jvm.exec) (hb : c.code = cc) (hK : va_K G zk_cl (zk_tys ca) s) (hR : zk_Rep G ca A B u H) (hS : va_S A H0 H locs) (ha : zk_ar (zk_K u n) k = some (4, len)) (hv : zk_isV (zk_K u v).1) (hE : zk_Env G ca A sa s) (hdg : decode cc pc = .ok (.aastore, 1))
    (kk : ∀ (u1 : zk_St) (H1 : Heap) (locs1 : List Loc), f u1 → zk_KX u u1 → zk_Rep G ca A B u1 H1 → va_S A H0 H1 locs1 → W p l e R s m args below meth c H1 locs1 cells slots Q (F0 m (pc + 1) ls rest)) : W p l e R s m args below meth c H locs cells slots Q (F0 m pc ls (.ref v :: .int i :: .ref (B n k) :: rest)) := by
  rcases zk_isV_7 hv with q | q | q | q | q | q | q
  · obtain ⟨LN, hL, hP, hD⟩ := hR
    obtain ⟨q0, hq0, hq⟩ := zk_pos hL (zk_entA (ca := ca) (B := B) ha)
    obtain ⟨q1, -, hq1⟩ := zk_pos hL (zk_entO (ca := ca) (B := B) q (by decide))
    exact va_astq (r := (RX4, TX4, 4)) (f := zk_R u n k) hexec hb hK hP hD hS q0 4 q1 4 hq rfl hq1 rfl h.1 hdg (fun H1 locs1 hP1 hD1 hS1 => kk _ H1 locs1 h.2 (fun _ _ => rfl) (zk_Rep.change hL hD hq0 (zk_setR_e ha (Or.inl rfl)) (fun n' i' h => zk_setR_o n' i' h) hP1 hD1) hS1)
  · exact zk_ast (civ := 5) h hexec hb hK hR hS ha rfl (Or.inl rfl) q rfl (zk_cs hE (by decide +kernel)) hdg kk
  · exact zk_ast (civ := 6) h hexec hb hK hR hS ha rfl (Or.inl rfl) q rfl (zk_cs hE (by decide +kernel)) hdg kk
  · exact zk_ast (civ := 7) h hexec hb hK hR hS ha rfl (Or.inl rfl) q rfl (zk_cs hE (by decide +kernel)) hdg kk
  · exact zk_ast (civ := 8) h hexec hb hK hR hS ha rfl (Or.inl rfl) q rfl (zk_cs hE (by decide +kernel)) hdg kk
  · exact zk_ast (civ := 9) h hexec hb hK hR hS ha rfl (Or.inl rfl) q rfl (zk_cs hE (by decide +kernel)) hdg kk
  · exact zk_ast (civ := 10) h hexec hb hK hR hS ha rfl (Or.inl rfl) q rfl (zk_cs hE (by decide +kernel)) hdg kk
/-- what the tables say of a class and a class that a cast names -/
theorem zk_subY {T ci : Nat} {C : String} {TT : u_T} {N : Nat} (hE : zk_Env G ca A sa s) (hT : 4 ≤ T) (hm : ci + 1 ∈ zk_sub T) (hc : zk_cl[ci]? = some (C, TT, N)) : C = zk_tn T ∨ va_Nw (.castable C (zk_tn T)) s := by
  by_cases h9 : T ≤ 10
  · rcases (show T = 4 ∨ T = 5 ∨ T = 6 ∨ T = 7 ∨ T = 8 ∨ T = 9 ∨ T = 10 by omega) with rfl | rfl | rfl | rfl | rfl | rfl | rfl
    · simp [zk_sub] at hm
      rcases hm with rfl | rfl | rfl | rfl | rfl | rfl | rfl <;> cases hc <;> first | exact Or.inl rfl | exact Or.inr (zk_cs hE (by decide +kernel))
    · simp [zk_sub] at hm
      rcases hm with rfl | rfl <;> cases hc <;> first | exact Or.inl rfl | exact Or.inr (zk_cs hE (by decide +kernel))
    · simp [zk_sub] at hm
      rcases hm with rfl | rfl <;> cases hc <;> first | exact Or.inl rfl | exact Or.inr (zk_cs hE (by decide +kernel))
    · simp [zk_sub] at hm
      subst hm
      cases hc
      exact Or.inl rfl
    · simp [zk_sub] at hm
      rcases hm with rfl | rfl <;> cases hc <;> first | exact Or.inl rfl | exact Or.inr (zk_cs hE (by decide +kernel))
    · simp [zk_sub] at hm
      subst hm
      cases hc
      exact Or.inl rfl
    · simp [zk_sub] at hm
      subst hm
      cases hc
      exact Or.inl rfl
  · have e : zk_sub T = [16, 17, 18, 19] ∧ zk_tn T = "WhichOneAllKnow$Row" := by
      obtain ⟨k, rfl⟩ : ∃ k, T = k + 11 := ⟨T - 11, by omega⟩
      exact ⟨rfl, rfl⟩
    rw [e.1] at hm
    rw [e.2]
    simp at hm
    rcases hm with rfl | rfl | rfl | rfl <;> cases hc <;> exact Or.inr (zk_cs hE (by decide +kernel))
end ZKROW3
