/-! CASTS: through, and the machine's own ClassCastException -/
theorem zk_find {vm : Vm} {name : String} {c : ClassId} (h : vm.findClass name = some c) : ∃ k : Class, vm.classes[c]? = some k ∧ k.name = name ∧ k.hidden = none ∧ k.loader = none ∧ ∀ b, k.kind ≠ .primitive b := by
  obtain ⟨hlt, hp, _⟩ := Array.findIdx?_eq_some_iff_getElem.mp h
  refine ⟨vm.classes[c], by simp [hlt], ?_⟩
  simp only [Bool.and_eq_true, beq_iff_eq] at hp
  obtain ⟨⟨⟨h1, h2⟩, h3⟩, h4⟩ := hp
  refine ⟨h1, Option.isNone_iff_eq_none.mp h2, Option.isNone_iff_eq_none.mp h4, fun b e => ?_⟩
  rw [e] at h3
  simp at h3
/-- the names that casts speak of -/
def zk_cnm (n : String) : Prop := n.toList.length ≤ 23 ∧ packageOf n = "" ∧ (withoutBrackets n).length ≠ 1
theorem zk_home {s : State} {k : Class} {n : String} (hM : modulesRight_1 s = true) (hn : k.name = n) (h2 : zk_cnm n) (hl : k.loader = none) (hp : ∀ b, k.kind ≠ .primitive b) : (s.vm.home k).toList.length ≤ 38 := by
  have e1 : k.ofPrimitives = false := by
    unfold Class.ofPrimitives
    split
    · rename_i b e; exact absurd e (hp b)
    · rw [hn]; exact beq_eq_false_iff_ne.mpr h2.2.2
    · rfl
  have e2 : ∀ m : ModuleInfo, s.vm.moduleOf k = some m → m.name = "java.base" := by
    intro m hm
    unfold Vm.moduleOf at hm
    rw [e1, hl, hn, h2.2.1] at hm
    simp only [Bool.false_eq_true, if_false] at hm
    have a1 := List.mem_of_find?_eq_some hm
    have a2 := List.find?_some hm
    simp only [Bool.and_eq_true, beq_iff_eq] at a2
    have a3 := List.all_eq_true.mp hM m a1
    rw [a2.1] at a3
    simp only [Option.isSome_none, Bool.false_or, Bool.or_eq_true, beq_iff_eq] at a3
    rcases a3 with a3 | a3
    · exact a3
    · exfalso
      rw [Bool.not_eq_true'] at a3
      have : (castPackages_1.any fun p => m.packages.contains p) = true := List.any_eq_true.mpr ⟨"", by decide, a2.2⟩
      rw [this] at a3
      cases a3
  have e3 : s.vm.loaderName k.loader = "'bootstrap'" := by rw [hl]; rfl
  unfold Vm.home
  rw [e3]
  cases hm : s.vm.moduleOf k with
  | none => show ("unnamed module" ++ " of loader " ++ "'bootstrap'").toList.length ≤ 38; decide
  | some m => show ("module " ++ m.name ++ " of loader " ++ "'bootstrap'").toList.length ≤ 38; rw [e2 m hm]; decide
theorem zk_dot (n : String) : (dotted n).toList.length = n.toList.length := by
  unfold dotted turned
  rw [String.toList_ofList, List.length_map]
theorem zk_shown {k : Class} {n : String} (hn : k.name = n) (hh : k.hidden = none) : k.shown = dotted n := by
  unfold Class.shown
  rw [hh, hn]
theorem zk_msg {s : State} {a b : Class} {n1 n2 : String} (hM : modulesRight_1 s = true) (ha : a.name = n1) (hb : b.name = n2) (h1 : zk_cnm n1) (h2 : zk_cnm n2) (h3 : a.hidden = none) (h4 : b.hidden = none) (h5 : a.loader = none) (h6 : b.loader = none) (h7 : ∀ x, a.kind ≠ .primitive x) (h8 : ∀ x, b.kind ≠ .primitive x) :
    (stringBytes (stringToUtf16 (Op.checkcast.message s.vm a b))).size ≤ 872 ∧ (Op.checkcast.message s.vm a b == notModelled) = false := by
  have ea := zk_shown ha h3
  have eb := zk_shown hb h4
  have la := zk_dot n1
  have lb := zk_dot n2
  have ha2 := zk_home hM ha h1 h5 h7
  have hb2 := zk_home hM hb h2 h6 h8
  have hh : (s.vm.homes a b).toList.length ≤ 138 := by
    unfold Vm.homes
    rw [ea, eb]
    split
    · show (toString (dotted n1) ++ toString " and " ++ toString (dotted n2) ++ toString " are in " ++ toString (s.vm.home a)).toList.length ≤ 138
      simp only [String.toList_append, List.length_append, toString]
      have q1 : (" and ").toList.length = 5 := by decide
      have q2 : (" are in ").toList.length = 8 := by decide
      have := h1.1
      have := h2.1
      omega
    · show (toString (dotted n1) ++ toString " is in " ++ toString (s.vm.home a) ++ toString "; " ++ toString (dotted n2) ++ toString " is in " ++ toString (s.vm.home b)).toList.length ≤ 138
      simp only [String.toList_append, List.length_append, toString]
      have q1 : (" is in ").toList.length = 7 := by decide
      have q2 : ("; ").toList.length = 2 := by decide
      have := h1.1
      have := h2.1
      omega
  have e9 : Op.checkcast.message s.vm a b = "class " ++ dotted n1 ++ " cannot be cast to class " ++ dotted n2 ++ " (" ++ s.vm.homes a b ++ ")" := by
    unfold Op.checkcast.message
    rw [ea, eb]
    rfl
  rw [e9]
  constructor
  · have b1 := stringBytes_size_le (stringToUtf16 ("class " ++ dotted n1 ++ " cannot be cast to class " ++ dotted n2 ++ " (" ++ s.vm.homes a b ++ ")"))
    have b2 := utf16_size_le ("class " ++ dotted n1 ++ " cannot be cast to class " ++ dotted n2 ++ " (" ++ s.vm.homes a b ++ ")")
    have b3 : ("class " ++ dotted n1 ++ " cannot be cast to class " ++ dotted n2 ++ " (" ++ s.vm.homes a b ++ ")").toList.length ≤ 218 := by
      simp only [String.toList_append, List.length_append]
      have q1 : ("class ").toList.length = 6 := by decide
      have q2 : (" cannot be cast to class ").toList.length = 25 := by decide
      have q3 : (" (").toList.length = 2 := by decide
      have q4 : (")").toList.length = 1 := by decide
      have := h1.1
      have := h2.1
      omega
    omega
  · rw [beq_eq_false_iff_ne]
    intro h
    have h9 := congrArg String.toList h
    simp only [String.toList_append, List.append_assoc] at h9
    have q1 : ("class ").toList = 'c' :: "lass ".toList := by decide
    have q2 : notModelled.toList = '\u0000' :: " a message that is not modelled".toList := by decide
    rw [q1, q2, List.cons_append] at h9
    simp at h9
section ZKCAST
variable {p : Program} {l : Launch} {e : Env} {R : Room} {s : State} {m : MethodId} {args : Array Value} {below : List Frame} {meth : Method} {c : Code} {H : Heap} {locs : List Loc} {cells slots : Nat} {Q : State → Prop}
variable {cc : ByteArray} {pc : Nat} {ls : Array Slot} {rest : List Value} {G : va_G} {ca : Nat → ClassId} {A : Nat → Prop} {sa : Nat → Nat} {B : Nat → Nat → Nat} {u : zk_St}
/-- the class of a voice or a row -/
theorem zk_vrc {x : Nat} (h : zk_isV x ∨ zk_isR x) : ∃ (ci : Nat) (C : String) (T : u_T) (N : Nat), x = ci + 1 ∧ zk_cl[ci]? = some (C, T, N) ∧ zk_cnm C ∧ ∀ U : Nat, 4 ≤ U → U ≤ 10 ∨ U = 14 → ¬ ci + 1 ∈ zk_sub U → (C, zk_tn U) ∈ zk_nocasts := by
  rcases h with h | h
  · rcases zk_isV_7 h with h | h | h | h | h | h | h
    all_goals (refine ⟨_, _, _, _, h, rfl, ⟨by decide +kernel, by decide +kernel, by decide +kernel⟩, fun U h1 h2 => ?_⟩; rcases (show U = 4 ∨ U = 5 ∨ U = 6 ∨ U = 7 ∨ U = 8 ∨ U = 9 ∨ U = 10 ∨ U = 14 by omega) with rfl | rfl | rfl | rfl | rfl | rfl | rfl | rfl <;> decide +kernel)
  · rcases zk_isR_4 h with h | h | h | h
    all_goals (refine ⟨_, _, _, _, h, rfl, ⟨by decide +kernel, by decide +kernel, by decide +kernel⟩, fun U h1 h2 => ?_⟩; rcases (show U = 4 ∨ U = 5 ∨ U = 6 ∨ U = 7 ∨ U = 8 ∨ U = 9 ∨ U = 10 ∨ U = 14 by omega) with rfl | rfl | rfl | rfl | rfl | rfl | rfl | rfl <;> decide +kernel)
theorem zk_tnm {U : Nat} (h1 : 4 ≤ U) (h2 : U ≤ 10 ∨ U = 14) : zk_cnm (zk_tn U) := by
  rcases (show U = 4 ∨ U = 5 ∨ U = 6 ∨ U = 7 ∨ U = 8 ∨ U = 9 ∨ U = 10 ∨ U = 14 by omega) with rfl | rfl | rfl | rfl | rfl | rfl | rfl | rfl <;> exact ⟨by decide +kernel, by decide +kernel, by decide +kernel⟩
theorem zk_mVR {x T : Nat} (hT : 4 ≤ T ∧ (T ≤ 10 ∨ T = 14)) (h : x ∈ zk_sub T) : zk_isV x ∨ zk_isR x := by
  rcases hT.2 with q | rfl
  · exact Or.inl (zk_mV ⟨hT.1, q⟩ h)
  · exact Or.inr (zk_mR h)
theorem zk_rcv {ci n : Nat} {C : String} {T : u_T} {N : Nat} (hE : zk_Env G ca A sa s) (hR : zk_Rep G ca A B u H) (hk : (zk_K u n).1 = ci + 1) (hc : zk_cl[ci]? = some (C, T, N)) : ∃ cell : Cell, H[n]? = some cell ∧ cell.vm.isStatics = false ∧ s.vm.findClass C = some cell.cls := by
  obtain ⟨ce, h1, h2, h3⟩ := zk_ce hE.1 hR hk hc
  exact ⟨ce, h1, by rw [h2]; rfl, h3⟩
theorem zk_castY {own nm : String} {T n index : Nat} (hT : 4 ≤ T ∧ (T ≤ 10 ∨ T = 14)) (hexec : p.tables.exec = Jvm.exec) (hb : c.code = cc) (hown : s.vm.findClass own = some m.cls) (hlink : (Cond.classLink own index nm).before args s = true) (hE : zk_Env G ca A sa s) (hR : zk_Rep G ca A B u H) (hm : (zk_K u n).1 ∈ zk_sub T) (hn : nm = zk_tn T) (hdg : decode cc pc = .ok (.checkcast index, 3))
    (k : W p l e R s m args below meth c H locs cells slots Q (F0 m (pc + 3) ls (.ref n :: rest))) : W p l e R s m args below meth c H locs cells slots Q (F0 m pc ls (.ref n :: rest)) := by
  subst hn
  obtain ⟨ci, C, TT, N, e1, e2, -⟩ := zk_vrc (zk_mVR hT hm)
  rw [e1] at hm
  have hr := zk_rcv hE hR e1 e2
  rcases zk_subY hE hT.1 hm e2 with rfl | hc
  · exact va_castE hexec hb hown hlink hr hdg k
  · exact va_castY hexec hb hown hlink hc hr hdg k
theorem zk_instY {own nm : String} {T n index : Nat} (hT : 4 ≤ T ∧ (T ≤ 10 ∨ T = 14)) (hexec : p.tables.exec = Jvm.exec) (hb : c.code = cc) (hown : s.vm.findClass own = some m.cls) (hlink : (Cond.classLink own index nm).before args s = true) (hE : zk_Env G ca A sa s) (hR : zk_Rep G ca A B u H) (hm : (zk_K u n).1 ∈ zk_sub T) (hn : nm = zk_tn T) (hdg : decode cc pc = .ok (.instanceof index, 3))
    (k : W p l e R s m args below meth c H locs cells slots Q (F0 m (pc + 3) ls (.int 1 :: rest))) : W p l e R s m args below meth c H locs cells slots Q (F0 m pc ls (.ref n :: rest)) := by
  subst hn
  obtain ⟨ci, C, TT, N, e1, e2, -⟩ := zk_vrc (zk_mVR hT hm)
  rw [e1] at hm
  have hr := zk_rcv hE hR e1 e2
  rcases zk_subY hE hT.1 hm e2 with rfl | hc
  · exact va_instE hexec hb hown hlink hr hdg k
  · exact va_instY hexec hb hown hlink hc hr hdg k
theorem zk_instN {own nm : String} {T n index : Nat} (hT : 4 ≤ T ∧ (T ≤ 10 ∨ T = 14)) (hexec : p.tables.exec = Jvm.exec) (hb : c.code = cc) (hown : s.vm.findClass own = some m.cls) (hlink : (Cond.classLink own index nm).before args s = true) (hE : zk_Env G ca A sa s) (hR : zk_Rep G ca A B u H) (hm : ¬ (zk_K u n).1 ∈ zk_sub T) (hk : zk_isV (zk_K u n).1 ∨ zk_isR (zk_K u n).1) (hn : nm = zk_tn T) (hdg : decode cc pc = .ok (.instanceof index, 3))
    (k : W p l e R s m args below meth c H locs cells slots Q (F0 m (pc + 3) ls (.int 0 :: rest))) : W p l e R s m args below meth c H locs cells slots Q (F0 m pc ls (.ref n :: rest)) := by
  subst hn
  obtain ⟨ci, C, TT, N, e1, e2, -, e4⟩ := zk_vrc hk
  rw [e1] at hm
  exact va_instNo hexec hb hown hlink (zk_nca hE (e4 T hT.1 hT.2 hm)) (zk_rcv hE hR e1 e2) hdg k
/-- a cast that fails: the machine's own ClassCastException -/
theorem zk_castX {own nm : String} {T n index : Nat} (hT : 4 ≤ T ∧ (T ≤ 10 ∨ T = 14)) (hfl : l.stackTraces = false) (hexec : p.tables.exec = Jvm.exec) (hb : c.code = cc) (hts : ∀ w ∈ lw_all, w.before args s = true) (hown : s.vm.findClass own = some m.cls) (hlink : (Cond.classLink own index nm).before args s = true) (hE : zk_Env G ca A sa s) (hR : zk_Rep G ca A B u H) (hS : va_S A s.heap H locs) (hml : ls.size = c.maxLocals) (hlocks : meth.locks = false) (hm : ¬ (zk_K u n).1 ∈ zk_sub T) (hk : zk_isV (zk_K u n).1 ∨ zk_isR (zk_K u n).1) (hn : nm = zk_tn T) (hdg : decode cc pc = .ok (.checkcast index, 3))
    (hRf : 8 ≤ R.frames) (hRl : ((Value.ref n :: rest).map fun v => v.category).sum + 10240 ≤ R.locals) (hf : cells + 3 ≤ R.cells ∧ slots + 882 ≤ R.slots)
    (kw : ∀ (H1 : Heap) (q9 : Nat) (ce9 : Cell), zk_Rep G ca A B u H1 → va_S A s.heap H1 locs → H1[q9]? = some ce9 → ce9.vm = .none → s.vm.findClass "java/lang/ClassCastException" = some ce9.cls → vx_W p l e R s m args below meth c H1 locs (cells + 3) (slots + 882) Q (F0 m pc ls (.ref n :: rest)) q9) : W p l e R s m args below meth c H locs cells slots Q (F0 m pc ls (.ref n :: rest)) := by
  subst hn
  obtain ⟨ci, C, TT, N, e1, e2, e3, e4⟩ := zk_vrc hk
  rw [e1] at hm
  obtain ⟨cell, h1, h2, h3⟩ := zk_rcv hE hR e1 e2
  obtain ⟨c0, t0, f1, f2, f3⟩ := zk_nca hE (e4 T hT.1 hT.2 hm)
  cases h3.symm.trans f1
  obtain ⟨ka, ka1, ka2, ka3, ka4, ka5⟩ := zk_find f1
  obtain ⟨kb, kb1, kb2, kb3, kb4, kb5⟩ := zk_find f2
  intro T9 hT9 X
  have hpl : e.platform.magicAccessors = ({} : Platform).magicAccessors := by rw [X.admits.platform]
  obtain ⟨c', hc', hcl⟩ := Cond.classLink_spec hown hlink e.platform hpl
  cases f2.symm.trans hc'
  obtain ⟨dk, _, _, kt, hd, _, _, _, _, hkt, _, hopen⟩ := hcl.here
  have hcl₀ := X.warmed.classLinks hcl
  have hW' : s.WarmedH (T9.vm.noted m.cls index (.cls t0)) := X.warmed.noted hd hopen (State.rightAt_cls hcl)
  obtain ⟨ks', hks', eks⟩ := hW'.alike.2.2 _ _ ka1
  obtain ⟨kt', hkt', ekt⟩ := hW'.alike.2.2 _ _ kb1
  have hM9 : modulesRight_1 (T9.setVm (T9.vm.noted m.cls index (.cls t0))) = true := by
    show (T9.vm.noted m.cls index (.cls t0)).modules.all _ = true
    rw [hW'.alike.1]
    exact hE.2.2.2.2.2.2.2.2.2.2.2.2
  obtain ⟨t1, t2⟩ := zk_msg (s := T9.setVm (T9.vm.noted m.cls index (.cls t0))) (a := ks') (b := kt') hM9 (by rw [eks]; exact ka2) (by rw [ekt]; exact kb2) e3 (zk_tnm hT.1 hT.2) (by rw [eks]; exact ka3) (by rw [ekt]; exact kb3) (by rw [eks]; exact ka4) (by rw [ekt]; exact kb4) (by rw [eks]; exact ka5) (by rw [ekt]; exact kb5)
  have hv : vx_Note p l e R s m args below meth c H locs cells slots Q (F0 m pc ls (.ref n :: rest)) "java/lang/ClassCastException" (Op.checkcast.message (T9.vm.noted m.cls index (.cls t0)) ks' kt') :=
    vx_vm hexec hfl (names := zk_nmC) (nb := 872) (A := A) (by decide +kernel) (by decide +kernel) rfl rfl (zk_hatC hts hE) zk_atoC hE.2.1 hE.2.2.1 hS hml t2 t1 (by decide) (by show 2 + 4 < R.frames; omega) hRl (by decide) hf.1 (by omega) hlocks
      (fun H1 q9 ce h1 h2 h3 h4 h5 h6 => kw H1 q9 ce (zk_grow hR h2) h3 h4 h5 h6)
  obtain ⟨t, st, q⟩ := hv (T9.setVm (T9.vm.noted m.cls index (.cls t0))) hT9 (X.noted hW')
  refine ⟨t, ?_, q⟩
  have hdg9 : decode c.code pc = .ok (.checkcast index, 3) := by rw [hb]; exact hdg
  jvm_step X.here [hexec, hdg9, checkcast.wp_cold (e := e) (s := T9) (f := F0 m pc ls (.ref n :: rest)) X.here.top rfl (resolveClass_links e.toSetting hcl₀) hcl₀.ready,
    checkcast.wp_ready (e := e) (s := T9.setVm (T9.vm.noted m.cls index (.cls t0))) (f := F0 m pc ls (.ref n :: rest)) X.here.top hcl₀.ready rfl]
  refine ⟨cell, by rw [hT9]; exact h1, VmData.noStatics_of h2, ks', hks', kt', hkt', ?_⟩
  rw [if_neg (by rw [hW'.alike.assignable, f3]; decide)]
  exact st
end ZKCAST
