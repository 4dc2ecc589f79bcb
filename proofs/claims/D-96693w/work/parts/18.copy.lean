/-! System.arraycopy BETWEEN OWNED ARRAYS -/
section ZKCOPY
variable {p : Program} {l : Launch} {e : Env} {R : Room} {s : State} {m : MethodId} {args : Array Value} {below : List Frame} {meth : Method} {c : Code} {H : Heap} {locs : List Loc} {cells slots : Nat} {Q : State → Prop}
variable {cc : ByteArray} {pc : Nat} {ls : Array Slot} {rest st0 : List Value} {G : va_G} {ca : Nat → ClassId} {A : Nat → Prop} {sa : Nat → Nat} {B : Nat → Nat → Nat} {u : zk_St} {H0 : Heap}
theorem zk_cpI {n1 k1 len1 n2 k2 len2 t : Nat} {ty : FieldType} {own : String} {index : Nat} {sp dp n : Int32} {f : zk_St → Prop} (h1 : ¬ sp < 0) (h2 : ¬ dp < 0) (h3 : ¬ n < 0) (h4 : sp.toNatClampNeg + n.toNatClampNeg ≤ len1) (h5 : dp.toNatClampNeg + n.toNatClampNeg ≤ len2) (hfit : ∀ i, i < n.toNatClampNeg → fits ty (.int (zk_V u n1 k1 (sp.toNatClampNeg + i))) = true) (h : zk_lt (zk_setV u n2 k2 (va_cpy (zk_V u n1 k1) (zk_V u n2 k2) sp.toNatClampNeg dp.toNatClampNeg n.toNatClampNeg)) f) (hexec : p.tables.exec = Jvm.exec) (hb : c.code = cc) (hml : c.maxLocals = ls.size) (hown : s.vm.findClass own = some m.cls) (hlink : (Cond.methodLink own index arraycopyName).before args s = true) (hnat : (Cond.native arraycopyName).before args s = true) (hstat : (Cond.static arraycopyName).before args s = true) (hini : (Cond.initialized "java/lang/System").before args s = true)
    (hK : va_K G zk_cl (zk_tys ca) s) (hR : zk_Rep G ca A B u H) (hS : va_S A H0 H locs) (ha1 : zk_ar (zk_K u n1) k1 = some (t, len1)) (ha2 : zk_ar (zk_K u n2) k2 = some (t, len2)) (ht : t < 3) (hty : (zk_tys ca)[t]? = some (ca t, ty)) (hprim : refKind ty = false) (hframes : 1 ≤ R.frames) (hlocals : (rest.map fun v => v.category).sum + (nativeFrameWords "java/lang/System" "arraycopy" 5 + 11) ≤ R.locals) (hdg : decode cc pc = .ok (.invokestatic index, 3))
    (kk : ∀ (u1 : zk_St) (H1 : Heap) (locs1 : List Loc), f u1 → zk_KX u u1 → zk_Rep G ca A B u1 H1 → va_S A H0 H1 locs1 → W p l e R s m args below meth c H1 locs1 cells slots Q (F0 m (pc + 3) ls rest)) : W p l e R s m args below meth c H locs cells slots Q (F0 m pc ls (.int n :: .int dp :: .ref (B n2 k2) :: .int sp :: .ref (B n1 k1) :: rest)) := by
  obtain ⟨LN, hL, hP, hD⟩ := hR
  obtain ⟨q1, hp1, hq1⟩ := zk_pos hL (zk_entA (ca := ca) (B := B) ha1)
  obtain ⟨q2, hp2, hq2⟩ := zk_pos hL (zk_entA (ca := ca) (B := B) ha2)
  have c1 : zk_cn u t n1 k1 = .inl (zk_V u n1 k1) := by rcases (show t = 0 ∨ t = 1 ∨ t = 2 by omega) with rfl | rfl | rfl <;> rfl
  have c2 : zk_cn u t n2 k2 = .inl (zk_V u n2 k2) := by rcases (show t = 0 ∨ t = 1 ∨ t = 2 by omega) with rfl | rfl | rfl <;> rfl
  rw [c1] at hq1
  rw [c2] at hq2
  exact va_copyi hexec hb hml hown hlink hnat hstat hini hK hP hD hS q1 q2 t t hq1 hq2 hty hty hprim h1 h2 h3 h4 h5 hfit hframes hlocals hdg (fun H1 locs1 hP1 hD1 hS1 => kk _ H1 locs1 h (fun _ _ => rfl) (zk_Rep.change hL hD hp2 (zk_setV_e ha2 ht) (fun n' i' h => zk_setV_o n' i' h) hP1 hD1) hS1)
theorem zk_cpJ {n1 k1 len1 n2 k2 len2 : Nat} {own : String} {index : Nat} {sp dp n : Int32} {f : zk_St → Prop} (h1 : ¬ sp < 0) (h2 : ¬ dp < 0) (h3 : ¬ n < 0) (h4 : sp.toNatClampNeg + n.toNatClampNeg ≤ len1) (h5 : dp.toNatClampNeg + n.toNatClampNeg ≤ len2) (h : zk_lt (zk_setJ u n2 k2 (va_cpy (zk_J u n1 k1) (zk_J u n2 k2) sp.toNatClampNeg dp.toNatClampNeg n.toNatClampNeg)) f) (hexec : p.tables.exec = Jvm.exec) (hb : c.code = cc) (hml : c.maxLocals = ls.size) (hown : s.vm.findClass own = some m.cls) (hlink : (Cond.methodLink own index arraycopyName).before args s = true) (hnat : (Cond.native arraycopyName).before args s = true) (hstat : (Cond.static arraycopyName).before args s = true) (hini : (Cond.initialized "java/lang/System").before args s = true)
    (hK : va_K G zk_cl (zk_tys ca) s) (hR : zk_Rep G ca A B u H) (hS : va_S A H0 H locs) (ha1 : zk_ar (zk_K u n1) k1 = some (3, len1)) (ha2 : zk_ar (zk_K u n2) k2 = some (3, len2)) (hframes : 1 ≤ R.frames) (hlocals : (rest.map fun v => v.category).sum + (nativeFrameWords "java/lang/System" "arraycopy" 5 + 11) ≤ R.locals) (hdg : decode cc pc = .ok (.invokestatic index, 3))
    (kk : ∀ (u1 : zk_St) (H1 : Heap) (locs1 : List Loc), f u1 → zk_KX u u1 → zk_Rep G ca A B u1 H1 → va_S A H0 H1 locs1 → W p l e R s m args below meth c H1 locs1 cells slots Q (F0 m (pc + 3) ls rest)) : W p l e R s m args below meth c H locs cells slots Q (F0 m pc ls (.int n :: .int dp :: .ref (B n2 k2) :: .int sp :: .ref (B n1 k1) :: rest)) := by
  obtain ⟨LN, hL, hP, hD⟩ := hR
  obtain ⟨q1, hp1, hq1⟩ := zk_pos hL (zk_entA (ca := ca) (B := B) ha1)
  obtain ⟨q2, hp2, hq2⟩ := zk_pos hL (zk_entA (ca := ca) (B := B) ha2)
  exact va_copyl (f := zk_J u n1 k1) (g := zk_J u n2 k2) hexec hb hml hown hlink hnat hstat hini hK hP hD hS q1 q2 3 3 hq1 hq2 rfl rfl rfl h1 h2 h3 h4 h5 (fun _ _ => rfl) hframes hlocals hdg (fun H1 locs1 hP1 hD1 hS1 => kk _ H1 locs1 h (fun _ _ => rfl) (zk_Rep.change hL hD hp2 (zk_setJ_e ha2) (fun n' i' h => zk_setJ_o n' i' h) hP1 hD1) hS1)
theorem zk_cpV {n1 k1 len1 n2 k2 len2 : Nat} {own : String} {index : Nat} {sp dp n : Int32} {f : zk_St → Prop} (h1 : ¬ sp < 0) (h2 : ¬ dp < 0) (h3 : ¬ n < 0) (h4 : sp.toNatClampNeg + n.toNatClampNeg ≤ len1) (h5 : dp.toNatClampNeg + n.toNatClampNeg ≤ len2) (hel : ∀ i, i < n.toNatClampNeg → ∀ y : Nat, zk_R u n1 k1 (sp.toNatClampNeg + i) = some y → zk_isV (zk_K u y).1) (h : zk_lt (zk_setR u n2 k2 (va_cpy (zk_R u n1 k1) (zk_R u n2 k2) sp.toNatClampNeg dp.toNatClampNeg n.toNatClampNeg)) f) (hexec : p.tables.exec = Jvm.exec) (hb : c.code = cc) (hml : c.maxLocals = ls.size) (hown : s.vm.findClass own = some m.cls) (hlink : (Cond.methodLink own index arraycopyName).before args s = true) (hnat : (Cond.native arraycopyName).before args s = true) (hstat : (Cond.static arraycopyName).before args s = true) (hini : (Cond.initialized "java/lang/System").before args s = true)
    (hE : zk_Env G ca A sa s) (hR : zk_Rep G ca A B u H) (hS : va_S A H0 H locs) (ha1 : zk_ar (zk_K u n1) k1 = some (4, len1)) (ha2 : zk_ar (zk_K u n2) k2 = some (4, len2)) (hframes : 1 ≤ R.frames) (hlocals : (rest.map fun v => v.category).sum + (nativeFrameWords "java/lang/System" "arraycopy" 5 + 11) ≤ R.locals) (hdg : decode cc pc = .ok (.invokestatic index, 3))
    (kk : ∀ (u1 : zk_St) (H1 : Heap) (locs1 : List Loc), f u1 → zk_KX u u1 → zk_Rep G ca A B u1 H1 → va_S A H0 H1 locs1 → W p l e R s m args below meth c H1 locs1 cells slots Q (F0 m (pc + 3) ls rest)) : W p l e R s m args below meth c H locs cells slots Q (F0 m pc ls (.int n :: .int dp :: .ref (B n2 k2) :: .int sp :: .ref (B n1 k1) :: rest)) := by
  have hR9 := hR
  obtain ⟨LN, hL, hP, hD⟩ := hR
  obtain ⟨q1, hp1, hq1⟩ := zk_pos hL (zk_entA (ca := ca) (B := B) ha1)
  obtain ⟨q2, hp2, hq2⟩ := zk_pos hL (zk_entA (ca := ca) (B := B) ha2)
  exact va_copyM (f := zk_R u n1 k1) (g := zk_R u n2 k2) hexec hb hml hown hlink hnat hstat hini hE.1 hP hD hS q1 q2 4 4 hq1 hq2 rfl rfl h1 h2 h3 h4 h5 (fun i hi y hy => by
    have hv := hel i hi y hy
    obtain ⟨ci, C, T, N, e1, e2, -⟩ := zk_vrc (Or.inl hv)
    obtain ⟨cell, a1, a2, a3⟩ := zk_rcv hE hR9 e1 e2
    have hm : ci + 1 ∈ zk_sub 4 := by
      rw [← e1]
      rcases zk_isV_7 hv with q | q | q | q | q | q | q <;> rw [q] <;> decide
    obtain ⟨kc, hkc, -⟩ := zk_find a3
    refine ⟨cell, a1, a2, ⟨kc, hkc⟩, fun comp hcomp => ?_⟩
    rcases zk_subY hE (by decide) hm e2 with rfl | hc
    · cases (show some cell.cls = some comp from a3.symm.trans hcomp)
      exact va_asg _ _
    · obtain ⟨c0, t0, f1, f2, f3⟩ := Cond.castable_spec (va_Nw.use (A := #[]) rfl hc)
      cases a3.symm.trans f1
      cases (show some t0 = some comp from f2.symm.trans hcomp)
      exact f3) hframes hlocals hdg (fun H1 locs1 hP1 hD1 hS1 => kk _ H1 locs1 h (fun _ _ => rfl) (zk_Rep.change hL hD hp2 (zk_setR_e ha2 (Or.inl rfl)) (fun n' i' h => zk_setR_o n' i' h) hP1 hD1) hS1)
end ZKCOPY
